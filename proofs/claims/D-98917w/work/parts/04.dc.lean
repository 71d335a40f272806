set_option maxRecDepth 100000
def dkwX10_read_3 : List UInt8 := [177]
abbrev dktX10_read_3 : List UInt8 := dkwX10_read_3 ++ []
def dkwX10_read_2 : List UInt8 := [180, 0, 75, 154, 0, 21, 42, 180, 0, 55, 153, 0, 14, 42, 182, 0, 120, 42, 182, 0, 117, 167, 255, 234]
abbrev dktX10_read_2 : List UInt8 := dkwX10_read_2 ++ dktX10_read_3
def dkwX10_read_1 : List UInt8 := [18, 113, 182, 0, 102, 42, 180, 0, 18, 42, 4, 16, 6, 182, 0, 106, 181, 0, 115, 42, 182, 0, 117, 42]
abbrev dktX10_read_1 : List UInt8 := dkwX10_read_1 ++ dktX10_read_2
def dkwX10_read_0 : List UInt8 := [42, 182, 0, 90, 42, 18, 100, 182, 0, 102, 42, 180, 0, 18, 42, 5, 7, 182, 0, 106, 181, 0, 110, 42]
abbrev dktX10_read_0 : List UInt8 := dkwX10_read_0 ++ dktX10_read_1
theorem dksX10_read_0 : cX10_read.data.toList.drop 0 = dktX10_read_0 := by decide +kernel
theorem dksX10_read_1 : cX10_read.data.toList.drop 24 = dktX10_read_1 := dk_seg dksX10_read_0 24 rfl rfl
theorem dksX10_read_2 : cX10_read.data.toList.drop 48 = dktX10_read_2 := dk_seg dksX10_read_1 24 rfl rfl
theorem dksX10_read_3 : cX10_read.data.toList.drop 72 = dktX10_read_3 := dk_seg dksX10_read_2 24 rfl rfl
theorem dX10_read_0 : decode cX10_read 0 = .ok (.aload_n 0, 1) := dk_42 (dk_at dksX10_read_0 0 rfl rfl)
theorem dX10_read_1 : decode cX10_read 1 = .ok (.invokevirtual 90, 3) := dk_182 0 90 (dk_at dksX10_read_0 1 rfl rfl)
theorem dX10_read_4 : decode cX10_read 4 = .ok (.aload_n 0, 1) := dk_42 (dk_at dksX10_read_0 4 rfl rfl)
theorem dX10_read_5 : decode cX10_read 5 = .ok (.ldc 100, 2) := dk_18 100 (dk_at dksX10_read_0 5 rfl rfl)
theorem dX10_read_7 : decode cX10_read 7 = .ok (.invokevirtual 102, 3) := dk_182 0 102 (dk_at dksX10_read_0 7 rfl rfl)
theorem dX10_read_10 : decode cX10_read 10 = .ok (.aload_n 0, 1) := dk_42 (dk_at dksX10_read_0 10 rfl rfl)
theorem dX10_read_11 : decode cX10_read 11 = .ok (.getfield 18, 3) := dk_180 0 18 (dk_at dksX10_read_0 11 rfl rfl)
theorem dX10_read_14 : decode cX10_read 14 = .ok (.aload_n 0, 1) := dk_42 (dk_at dksX10_read_0 14 rfl rfl)
theorem dX10_read_15 : decode cX10_read 15 = .ok (.iconst 2, 1) := dk_5 (dk_at dksX10_read_0 15 rfl rfl)
theorem dX10_read_16 : decode cX10_read 16 = .ok (.iconst 4, 1) := dk_7 (dk_at dksX10_read_0 16 rfl rfl)
theorem dX10_read_17 : decode cX10_read 17 = .ok (.invokevirtual 106, 3) := dk_182 0 106 (dk_at dksX10_read_0 17 rfl rfl)
theorem dX10_read_20 : decode cX10_read 20 = .ok (.putfield 110, 3) := dk_181 0 110 (dk_at dksX10_read_0 20 rfl rfl)
theorem dX10_read_23 : decode cX10_read 23 = .ok (.aload_n 0, 1) := dk_42 (dk_at dksX10_read_0 23 rfl rfl)
theorem dX10_read_24 : decode cX10_read 24 = .ok (.ldc 113, 2) := dk_18 113 (dk_at dksX10_read_1 0 rfl rfl)
theorem dX10_read_26 : decode cX10_read 26 = .ok (.invokevirtual 102, 3) := dk_182 0 102 (dk_at dksX10_read_1 2 rfl rfl)
theorem dX10_read_29 : decode cX10_read 29 = .ok (.aload_n 0, 1) := dk_42 (dk_at dksX10_read_1 5 rfl rfl)
theorem dX10_read_30 : decode cX10_read 30 = .ok (.getfield 18, 3) := dk_180 0 18 (dk_at dksX10_read_1 6 rfl rfl)
theorem dX10_read_33 : decode cX10_read 33 = .ok (.aload_n 0, 1) := dk_42 (dk_at dksX10_read_1 9 rfl rfl)
theorem dX10_read_34 : decode cX10_read 34 = .ok (.iconst 1, 1) := dk_4 (dk_at dksX10_read_1 10 rfl rfl)
theorem dX10_read_35 : decode cX10_read 35 = .ok (.bipush 6, 2) := dk_16 6 (dk_at dksX10_read_1 11 rfl rfl)
theorem dX10_read_37 : decode cX10_read 37 = .ok (.invokevirtual 106, 3) := dk_182 0 106 (dk_at dksX10_read_1 13 rfl rfl)
theorem dX10_read_40 : decode cX10_read 40 = .ok (.putfield 115, 3) := dk_181 0 115 (dk_at dksX10_read_1 16 rfl rfl)
theorem dX10_read_43 : decode cX10_read 43 = .ok (.aload_n 0, 1) := dk_42 (dk_at dksX10_read_1 19 rfl rfl)
theorem dX10_read_44 : decode cX10_read 44 = .ok (.invokevirtual 117, 3) := dk_182 0 117 (dk_at dksX10_read_1 20 rfl rfl)
theorem dX10_read_47 : decode cX10_read 47 = .ok (.aload_n 0, 1) := dk_42 (dk_at dksX10_read_1 23 rfl rfl)
theorem dX10_read_48 : decode cX10_read 48 = .ok (.getfield 75, 3) := dk_180 0 75 (dk_at dksX10_read_2 0 rfl rfl)
theorem dX10_read_51 : decode cX10_read 51 = .ok (.ifCond .ne 21, 3) := dk_154 0 21 (dk_at dksX10_read_2 3 rfl rfl)
theorem dX10_read_54 : decode cX10_read 54 = .ok (.aload_n 0, 1) := dk_42 (dk_at dksX10_read_2 6 rfl rfl)
theorem dX10_read_55 : decode cX10_read 55 = .ok (.getfield 55, 3) := dk_180 0 55 (dk_at dksX10_read_2 7 rfl rfl)
theorem dX10_read_58 : decode cX10_read 58 = .ok (.ifCond .eq 14, 3) := dk_153 0 14 (dk_at dksX10_read_2 10 rfl rfl)
theorem dX10_read_61 : decode cX10_read 61 = .ok (.aload_n 0, 1) := dk_42 (dk_at dksX10_read_2 13 rfl rfl)
theorem dX10_read_62 : decode cX10_read 62 = .ok (.invokevirtual 120, 3) := dk_182 0 120 (dk_at dksX10_read_2 14 rfl rfl)
theorem dX10_read_65 : decode cX10_read 65 = .ok (.aload_n 0, 1) := dk_42 (dk_at dksX10_read_2 17 rfl rfl)
theorem dX10_read_66 : decode cX10_read 66 = .ok (.invokevirtual 117, 3) := dk_182 0 117 (dk_at dksX10_read_2 18 rfl rfl)
theorem dX10_read_69 : decode cX10_read 69 = .ok (.goto (-22), 3) := dk_167 255 234 (dk_at dksX10_read_2 21 rfl rfl)
theorem dX10_read_72 : decode cX10_read 72 = .ok (.return_, 1) := dk_177 (dk_at dksX10_read_3 0 rfl rfl)
def dkwX10_next_11 : List UInt8 := [96, 181, 0, 49, 177]
abbrev dktX10_next_11 : List UInt8 := dkwX10_next_11 ++ []
def dkwX10_next_10 : List UInt8 := [155, 0, 14, 42, 42, 180, 0, 49, 182, 0, 33, 167, 0, 4, 6, 181, 0, 55, 42, 89, 180, 0, 49, 4]
abbrev dktX10_next_10 : List UInt8 := dkwX10_next_10 ++ dktX10_next_11
def dkwX10_next_9 : List UInt8 := [167, 0, 4, 5, 181, 0, 55, 167, 0, 45, 42, 18, 68, 42, 42, 180, 0, 49, 182, 0, 33, 182, 0, 70]
abbrev dktX10_next_9 : List UInt8 := dkwX10_next_9 ++ dktX10_next_10
def dkwX10_next_8 : List UInt8 := [4, 96, 181, 0, 49, 167, 255, 199, 42, 42, 180, 0, 49, 42, 180, 0, 52, 100, 6, 164, 0, 7, 6]
abbrev dktX10_next_8 : List UInt8 := dkwX10_next_8 ++ dktX10_next_9
def dkwX10_next_7 : List UInt8 := [180, 0, 65, 104, 42, 42, 180, 0, 49, 182, 0, 33, 96, 16, 48, 100, 181, 0, 65, 42, 89, 180, 0, 49]
abbrev dktX10_next_7 : List UInt8 := dkwX10_next_7 ++ dktX10_next_8
def dkwX10_next_6 : List UInt8 := [182, 0, 62, 153, 0, 52, 42, 180, 0, 49, 42, 180, 0, 52, 100, 6, 162, 0, 26, 42, 16, 10, 42]
abbrev dktX10_next_6 : List UInt8 := dkwX10_next_6 ++ dktX10_next_7
def dkwX10_next_5 : List UInt8 := [167, 0, 146, 42, 42, 180, 0, 49, 182, 0, 62, 153, 0, 93, 42, 3, 181, 0, 65, 42, 42, 180, 0, 49]
abbrev dktX10_next_5 : List UInt8 := dkwX10_next_5 ++ dktX10_next_6
def dkwX10_next_4 : List UInt8 := [182, 0, 58, 153, 0, 16, 42, 89, 180, 0, 49, 4, 96, 181, 0, 49, 167, 255, 235, 42, 4, 181, 0, 55]
abbrev dktX10_next_4 : List UInt8 := dkwX10_next_4 ++ dktX10_next_5
def dkwX10_next_3 : List UInt8 := [181, 0, 55, 167, 0, 189, 42, 42, 180, 0, 49, 182, 0, 58, 153, 0, 35, 42, 42, 180, 0, 49]
abbrev dktX10_next_3 : List UInt8 := dkwX10_next_3 ++ dktX10_next_4
def dkwX10_next_2 : List UInt8 := [167, 255, 209, 42, 42, 180, 0, 49, 181, 0, 52, 42, 180, 0, 49, 42, 180, 0, 26, 161, 0, 11, 42, 3]
abbrev dktX10_next_2 : List UInt8 := dkwX10_next_2 ++ dktX10_next_3
def dkwX10_next_1 : List UInt8 := [42, 42, 180, 0, 49, 182, 0, 33, 16, 10, 160, 0, 16, 42, 89, 180, 0, 49, 4, 96, 181, 0, 49]
abbrev dktX10_next_1 : List UInt8 := dkwX10_next_1 ++ dktX10_next_2
def dkwX10_next_0 : List UInt8 := [42, 180, 0, 49, 42, 180, 0, 26, 162, 0, 42, 42, 42, 180, 0, 49, 182, 0, 33, 16, 32, 159, 0, 16]
abbrev dktX10_next_0 : List UInt8 := dkwX10_next_0 ++ dktX10_next_1
theorem dksX10_next_0 : cX10_next.data.toList.drop 0 = dktX10_next_0 := by decide +kernel
theorem dksX10_next_1 : cX10_next.data.toList.drop 24 = dktX10_next_1 := dk_seg dksX10_next_0 24 rfl rfl
theorem dksX10_next_2 : cX10_next.data.toList.drop 47 = dktX10_next_2 := dk_seg dksX10_next_1 23 rfl rfl
theorem dksX10_next_3 : cX10_next.data.toList.drop 71 = dktX10_next_3 := dk_seg dksX10_next_2 24 rfl rfl
theorem dksX10_next_4 : cX10_next.data.toList.drop 93 = dktX10_next_4 := dk_seg dksX10_next_3 22 rfl rfl
theorem dksX10_next_5 : cX10_next.data.toList.drop 117 = dktX10_next_5 := dk_seg dksX10_next_4 24 rfl rfl
theorem dksX10_next_6 : cX10_next.data.toList.drop 141 = dktX10_next_6 := dk_seg dksX10_next_5 24 rfl rfl
theorem dksX10_next_7 : cX10_next.data.toList.drop 164 = dktX10_next_7 := dk_seg dksX10_next_6 23 rfl rfl
theorem dksX10_next_8 : cX10_next.data.toList.drop 188 = dktX10_next_8 := dk_seg dksX10_next_7 24 rfl rfl
theorem dksX10_next_9 : cX10_next.data.toList.drop 211 = dktX10_next_9 := dk_seg dksX10_next_8 23 rfl rfl
theorem dksX10_next_10 : cX10_next.data.toList.drop 235 = dktX10_next_10 := dk_seg dksX10_next_9 24 rfl rfl
theorem dksX10_next_11 : cX10_next.data.toList.drop 259 = dktX10_next_11 := dk_seg dksX10_next_10 24 rfl rfl
theorem dX10_next_0 : decode cX10_next 0 = .ok (.aload_n 0, 1) := dk_42 (dk_at dksX10_next_0 0 rfl rfl)
theorem dX10_next_1 : decode cX10_next 1 = .ok (.getfield 49, 3) := dk_180 0 49 (dk_at dksX10_next_0 1 rfl rfl)
theorem dX10_next_4 : decode cX10_next 4 = .ok (.aload_n 0, 1) := dk_42 (dk_at dksX10_next_0 4 rfl rfl)
theorem dX10_next_5 : decode cX10_next 5 = .ok (.getfield 26, 3) := dk_180 0 26 (dk_at dksX10_next_0 5 rfl rfl)
theorem dX10_next_8 : decode cX10_next 8 = .ok (.if_icmp .ge 42, 3) := dk_162 0 42 (dk_at dksX10_next_0 8 rfl rfl)
theorem dX10_next_11 : decode cX10_next 11 = .ok (.aload_n 0, 1) := dk_42 (dk_at dksX10_next_0 11 rfl rfl)
theorem dX10_next_12 : decode cX10_next 12 = .ok (.aload_n 0, 1) := dk_42 (dk_at dksX10_next_0 12 rfl rfl)
theorem dX10_next_13 : decode cX10_next 13 = .ok (.getfield 49, 3) := dk_180 0 49 (dk_at dksX10_next_0 13 rfl rfl)
theorem dX10_next_16 : decode cX10_next 16 = .ok (.invokevirtual 33, 3) := dk_182 0 33 (dk_at dksX10_next_0 16 rfl rfl)
theorem dX10_next_19 : decode cX10_next 19 = .ok (.bipush 32, 2) := dk_16 32 (dk_at dksX10_next_0 19 rfl rfl)
theorem dX10_next_21 : decode cX10_next 21 = .ok (.if_icmp .eq 16, 3) := dk_159 0 16 (dk_at dksX10_next_0 21 rfl rfl)
theorem dX10_next_24 : decode cX10_next 24 = .ok (.aload_n 0, 1) := dk_42 (dk_at dksX10_next_1 0 rfl rfl)
theorem dX10_next_25 : decode cX10_next 25 = .ok (.aload_n 0, 1) := dk_42 (dk_at dksX10_next_1 1 rfl rfl)
theorem dX10_next_26 : decode cX10_next 26 = .ok (.getfield 49, 3) := dk_180 0 49 (dk_at dksX10_next_1 2 rfl rfl)
theorem dX10_next_29 : decode cX10_next 29 = .ok (.invokevirtual 33, 3) := dk_182 0 33 (dk_at dksX10_next_1 5 rfl rfl)
theorem dX10_next_32 : decode cX10_next 32 = .ok (.bipush 10, 2) := dk_16 10 (dk_at dksX10_next_1 8 rfl rfl)
theorem dX10_next_34 : decode cX10_next 34 = .ok (.if_icmp .ne 16, 3) := dk_160 0 16 (dk_at dksX10_next_1 10 rfl rfl)
theorem dX10_next_37 : decode cX10_next 37 = .ok (.aload_n 0, 1) := dk_42 (dk_at dksX10_next_1 13 rfl rfl)
theorem dX10_next_38 : decode cX10_next 38 = .ok (.dup, 1) := dk_89 (dk_at dksX10_next_1 14 rfl rfl)
theorem dX10_next_39 : decode cX10_next 39 = .ok (.getfield 49, 3) := dk_180 0 49 (dk_at dksX10_next_1 15 rfl rfl)
theorem dX10_next_42 : decode cX10_next 42 = .ok (.iconst 1, 1) := dk_4 (dk_at dksX10_next_1 18 rfl rfl)
theorem dX10_next_43 : decode cX10_next 43 = .ok (.iadd, 1) := dk_96 (dk_at dksX10_next_1 19 rfl rfl)
theorem dX10_next_44 : decode cX10_next 44 = .ok (.putfield 49, 3) := dk_181 0 49 (dk_at dksX10_next_1 20 rfl rfl)
theorem dX10_next_47 : decode cX10_next 47 = .ok (.goto (-47), 3) := dk_167 255 209 (dk_at dksX10_next_2 0 rfl rfl)
theorem dX10_next_50 : decode cX10_next 50 = .ok (.aload_n 0, 1) := dk_42 (dk_at dksX10_next_2 3 rfl rfl)
theorem dX10_next_51 : decode cX10_next 51 = .ok (.aload_n 0, 1) := dk_42 (dk_at dksX10_next_2 4 rfl rfl)
theorem dX10_next_52 : decode cX10_next 52 = .ok (.getfield 49, 3) := dk_180 0 49 (dk_at dksX10_next_2 5 rfl rfl)
theorem dX10_next_55 : decode cX10_next 55 = .ok (.putfield 52, 3) := dk_181 0 52 (dk_at dksX10_next_2 8 rfl rfl)
theorem dX10_next_58 : decode cX10_next 58 = .ok (.aload_n 0, 1) := dk_42 (dk_at dksX10_next_2 11 rfl rfl)
theorem dX10_next_59 : decode cX10_next 59 = .ok (.getfield 49, 3) := dk_180 0 49 (dk_at dksX10_next_2 12 rfl rfl)
theorem dX10_next_62 : decode cX10_next 62 = .ok (.aload_n 0, 1) := dk_42 (dk_at dksX10_next_2 15 rfl rfl)
theorem dX10_next_63 : decode cX10_next 63 = .ok (.getfield 26, 3) := dk_180 0 26 (dk_at dksX10_next_2 16 rfl rfl)
theorem dX10_next_66 : decode cX10_next 66 = .ok (.if_icmp .lt 11, 3) := dk_161 0 11 (dk_at dksX10_next_2 19 rfl rfl)
theorem dX10_next_69 : decode cX10_next 69 = .ok (.aload_n 0, 1) := dk_42 (dk_at dksX10_next_2 22 rfl rfl)
theorem dX10_next_70 : decode cX10_next 70 = .ok (.iconst 0, 1) := dk_3 (dk_at dksX10_next_2 23 rfl rfl)
theorem dX10_next_71 : decode cX10_next 71 = .ok (.putfield 55, 3) := dk_181 0 55 (dk_at dksX10_next_3 0 rfl rfl)
theorem dX10_next_74 : decode cX10_next 74 = .ok (.goto 189, 3) := dk_167 0 189 (dk_at dksX10_next_3 3 rfl rfl)
theorem dX10_next_77 : decode cX10_next 77 = .ok (.aload_n 0, 1) := dk_42 (dk_at dksX10_next_3 6 rfl rfl)
theorem dX10_next_78 : decode cX10_next 78 = .ok (.aload_n 0, 1) := dk_42 (dk_at dksX10_next_3 7 rfl rfl)
theorem dX10_next_79 : decode cX10_next 79 = .ok (.getfield 49, 3) := dk_180 0 49 (dk_at dksX10_next_3 8 rfl rfl)
theorem dX10_next_82 : decode cX10_next 82 = .ok (.invokevirtual 58, 3) := dk_182 0 58 (dk_at dksX10_next_3 11 rfl rfl)
theorem dX10_next_85 : decode cX10_next 85 = .ok (.ifCond .eq 35, 3) := dk_153 0 35 (dk_at dksX10_next_3 14 rfl rfl)
theorem dX10_next_88 : decode cX10_next 88 = .ok (.aload_n 0, 1) := dk_42 (dk_at dksX10_next_3 17 rfl rfl)
theorem dX10_next_89 : decode cX10_next 89 = .ok (.aload_n 0, 1) := dk_42 (dk_at dksX10_next_3 18 rfl rfl)
theorem dX10_next_90 : decode cX10_next 90 = .ok (.getfield 49, 3) := dk_180 0 49 (dk_at dksX10_next_3 19 rfl rfl)
theorem dX10_next_93 : decode cX10_next 93 = .ok (.invokevirtual 58, 3) := dk_182 0 58 (dk_at dksX10_next_4 0 rfl rfl)
theorem dX10_next_96 : decode cX10_next 96 = .ok (.ifCond .eq 16, 3) := dk_153 0 16 (dk_at dksX10_next_4 3 rfl rfl)
theorem dX10_next_99 : decode cX10_next 99 = .ok (.aload_n 0, 1) := dk_42 (dk_at dksX10_next_4 6 rfl rfl)
theorem dX10_next_100 : decode cX10_next 100 = .ok (.dup, 1) := dk_89 (dk_at dksX10_next_4 7 rfl rfl)
theorem dX10_next_101 : decode cX10_next 101 = .ok (.getfield 49, 3) := dk_180 0 49 (dk_at dksX10_next_4 8 rfl rfl)
theorem dX10_next_104 : decode cX10_next 104 = .ok (.iconst 1, 1) := dk_4 (dk_at dksX10_next_4 11 rfl rfl)
theorem dX10_next_105 : decode cX10_next 105 = .ok (.iadd, 1) := dk_96 (dk_at dksX10_next_4 12 rfl rfl)
theorem dX10_next_106 : decode cX10_next 106 = .ok (.putfield 49, 3) := dk_181 0 49 (dk_at dksX10_next_4 13 rfl rfl)
theorem dX10_next_109 : decode cX10_next 109 = .ok (.goto (-21), 3) := dk_167 255 235 (dk_at dksX10_next_4 16 rfl rfl)
theorem dX10_next_112 : decode cX10_next 112 = .ok (.aload_n 0, 1) := dk_42 (dk_at dksX10_next_4 19 rfl rfl)
theorem dX10_next_113 : decode cX10_next 113 = .ok (.iconst 1, 1) := dk_4 (dk_at dksX10_next_4 20 rfl rfl)
theorem dX10_next_114 : decode cX10_next 114 = .ok (.putfield 55, 3) := dk_181 0 55 (dk_at dksX10_next_4 21 rfl rfl)
theorem dX10_next_117 : decode cX10_next 117 = .ok (.goto 146, 3) := dk_167 0 146 (dk_at dksX10_next_5 0 rfl rfl)
theorem dX10_next_120 : decode cX10_next 120 = .ok (.aload_n 0, 1) := dk_42 (dk_at dksX10_next_5 3 rfl rfl)
theorem dX10_next_121 : decode cX10_next 121 = .ok (.aload_n 0, 1) := dk_42 (dk_at dksX10_next_5 4 rfl rfl)
theorem dX10_next_122 : decode cX10_next 122 = .ok (.getfield 49, 3) := dk_180 0 49 (dk_at dksX10_next_5 5 rfl rfl)
theorem dX10_next_125 : decode cX10_next 125 = .ok (.invokevirtual 62, 3) := dk_182 0 62 (dk_at dksX10_next_5 8 rfl rfl)
theorem dX10_next_128 : decode cX10_next 128 = .ok (.ifCond .eq 93, 3) := dk_153 0 93 (dk_at dksX10_next_5 11 rfl rfl)
theorem dX10_next_131 : decode cX10_next 131 = .ok (.aload_n 0, 1) := dk_42 (dk_at dksX10_next_5 14 rfl rfl)
theorem dX10_next_132 : decode cX10_next 132 = .ok (.iconst 0, 1) := dk_3 (dk_at dksX10_next_5 15 rfl rfl)
theorem dX10_next_133 : decode cX10_next 133 = .ok (.putfield 65, 3) := dk_181 0 65 (dk_at dksX10_next_5 16 rfl rfl)
theorem dX10_next_136 : decode cX10_next 136 = .ok (.aload_n 0, 1) := dk_42 (dk_at dksX10_next_5 19 rfl rfl)
theorem dX10_next_137 : decode cX10_next 137 = .ok (.aload_n 0, 1) := dk_42 (dk_at dksX10_next_5 20 rfl rfl)
theorem dX10_next_138 : decode cX10_next 138 = .ok (.getfield 49, 3) := dk_180 0 49 (dk_at dksX10_next_5 21 rfl rfl)
theorem dX10_next_141 : decode cX10_next 141 = .ok (.invokevirtual 62, 3) := dk_182 0 62 (dk_at dksX10_next_6 0 rfl rfl)
theorem dX10_next_144 : decode cX10_next 144 = .ok (.ifCond .eq 52, 3) := dk_153 0 52 (dk_at dksX10_next_6 3 rfl rfl)
theorem dX10_next_147 : decode cX10_next 147 = .ok (.aload_n 0, 1) := dk_42 (dk_at dksX10_next_6 6 rfl rfl)
theorem dX10_next_148 : decode cX10_next 148 = .ok (.getfield 49, 3) := dk_180 0 49 (dk_at dksX10_next_6 7 rfl rfl)
theorem dX10_next_151 : decode cX10_next 151 = .ok (.aload_n 0, 1) := dk_42 (dk_at dksX10_next_6 10 rfl rfl)
theorem dX10_next_152 : decode cX10_next 152 = .ok (.getfield 52, 3) := dk_180 0 52 (dk_at dksX10_next_6 11 rfl rfl)
theorem dX10_next_155 : decode cX10_next 155 = .ok (.isub, 1) := dk_100 (dk_at dksX10_next_6 14 rfl rfl)
theorem dX10_next_156 : decode cX10_next 156 = .ok (.iconst 3, 1) := dk_6 (dk_at dksX10_next_6 15 rfl rfl)
theorem dX10_next_157 : decode cX10_next 157 = .ok (.if_icmp .ge 26, 3) := dk_162 0 26 (dk_at dksX10_next_6 16 rfl rfl)
theorem dX10_next_160 : decode cX10_next 160 = .ok (.aload_n 0, 1) := dk_42 (dk_at dksX10_next_6 19 rfl rfl)
theorem dX10_next_161 : decode cX10_next 161 = .ok (.bipush 10, 2) := dk_16 10 (dk_at dksX10_next_6 20 rfl rfl)
theorem dX10_next_163 : decode cX10_next 163 = .ok (.aload_n 0, 1) := dk_42 (dk_at dksX10_next_6 22 rfl rfl)
theorem dX10_next_164 : decode cX10_next 164 = .ok (.getfield 65, 3) := dk_180 0 65 (dk_at dksX10_next_7 0 rfl rfl)
theorem dX10_next_167 : decode cX10_next 167 = .ok (.imul, 1) := dk_104 (dk_at dksX10_next_7 3 rfl rfl)
theorem dX10_next_168 : decode cX10_next 168 = .ok (.aload_n 0, 1) := dk_42 (dk_at dksX10_next_7 4 rfl rfl)
theorem dX10_next_169 : decode cX10_next 169 = .ok (.aload_n 0, 1) := dk_42 (dk_at dksX10_next_7 5 rfl rfl)
theorem dX10_next_170 : decode cX10_next 170 = .ok (.getfield 49, 3) := dk_180 0 49 (dk_at dksX10_next_7 6 rfl rfl)
theorem dX10_next_173 : decode cX10_next 173 = .ok (.invokevirtual 33, 3) := dk_182 0 33 (dk_at dksX10_next_7 9 rfl rfl)
theorem dX10_next_176 : decode cX10_next 176 = .ok (.iadd, 1) := dk_96 (dk_at dksX10_next_7 12 rfl rfl)
theorem dX10_next_177 : decode cX10_next 177 = .ok (.bipush 48, 2) := dk_16 48 (dk_at dksX10_next_7 13 rfl rfl)
theorem dX10_next_179 : decode cX10_next 179 = .ok (.isub, 1) := dk_100 (dk_at dksX10_next_7 15 rfl rfl)
theorem dX10_next_180 : decode cX10_next 180 = .ok (.putfield 65, 3) := dk_181 0 65 (dk_at dksX10_next_7 16 rfl rfl)
theorem dX10_next_183 : decode cX10_next 183 = .ok (.aload_n 0, 1) := dk_42 (dk_at dksX10_next_7 19 rfl rfl)
theorem dX10_next_184 : decode cX10_next 184 = .ok (.dup, 1) := dk_89 (dk_at dksX10_next_7 20 rfl rfl)
theorem dX10_next_185 : decode cX10_next 185 = .ok (.getfield 49, 3) := dk_180 0 49 (dk_at dksX10_next_7 21 rfl rfl)
theorem dX10_next_188 : decode cX10_next 188 = .ok (.iconst 1, 1) := dk_4 (dk_at dksX10_next_8 0 rfl rfl)
theorem dX10_next_189 : decode cX10_next 189 = .ok (.iadd, 1) := dk_96 (dk_at dksX10_next_8 1 rfl rfl)
theorem dX10_next_190 : decode cX10_next 190 = .ok (.putfield 49, 3) := dk_181 0 49 (dk_at dksX10_next_8 2 rfl rfl)
theorem dX10_next_193 : decode cX10_next 193 = .ok (.goto (-57), 3) := dk_167 255 199 (dk_at dksX10_next_8 5 rfl rfl)
theorem dX10_next_196 : decode cX10_next 196 = .ok (.aload_n 0, 1) := dk_42 (dk_at dksX10_next_8 8 rfl rfl)
theorem dX10_next_197 : decode cX10_next 197 = .ok (.aload_n 0, 1) := dk_42 (dk_at dksX10_next_8 9 rfl rfl)
theorem dX10_next_198 : decode cX10_next 198 = .ok (.getfield 49, 3) := dk_180 0 49 (dk_at dksX10_next_8 10 rfl rfl)
theorem dX10_next_201 : decode cX10_next 201 = .ok (.aload_n 0, 1) := dk_42 (dk_at dksX10_next_8 13 rfl rfl)
theorem dX10_next_202 : decode cX10_next 202 = .ok (.getfield 52, 3) := dk_180 0 52 (dk_at dksX10_next_8 14 rfl rfl)
theorem dX10_next_205 : decode cX10_next 205 = .ok (.isub, 1) := dk_100 (dk_at dksX10_next_8 17 rfl rfl)
theorem dX10_next_206 : decode cX10_next 206 = .ok (.iconst 3, 1) := dk_6 (dk_at dksX10_next_8 18 rfl rfl)
theorem dX10_next_207 : decode cX10_next 207 = .ok (.if_icmp .le 7, 3) := dk_164 0 7 (dk_at dksX10_next_8 19 rfl rfl)
theorem dX10_next_210 : decode cX10_next 210 = .ok (.iconst 3, 1) := dk_6 (dk_at dksX10_next_8 22 rfl rfl)
theorem dX10_next_211 : decode cX10_next 211 = .ok (.goto 4, 3) := dk_167 0 4 (dk_at dksX10_next_9 0 rfl rfl)
theorem dX10_next_214 : decode cX10_next 214 = .ok (.iconst 2, 1) := dk_5 (dk_at dksX10_next_9 3 rfl rfl)
theorem dX10_next_215 : decode cX10_next 215 = .ok (.putfield 55, 3) := dk_181 0 55 (dk_at dksX10_next_9 4 rfl rfl)
theorem dX10_next_218 : decode cX10_next 218 = .ok (.goto 45, 3) := dk_167 0 45 (dk_at dksX10_next_9 7 rfl rfl)
theorem dX10_next_221 : decode cX10_next 221 = .ok (.aload_n 0, 1) := dk_42 (dk_at dksX10_next_9 10 rfl rfl)
theorem dX10_next_222 : decode cX10_next 222 = .ok (.ldc 68, 2) := dk_18 68 (dk_at dksX10_next_9 11 rfl rfl)
theorem dX10_next_224 : decode cX10_next 224 = .ok (.aload_n 0, 1) := dk_42 (dk_at dksX10_next_9 13 rfl rfl)
theorem dX10_next_225 : decode cX10_next 225 = .ok (.aload_n 0, 1) := dk_42 (dk_at dksX10_next_9 14 rfl rfl)
theorem dX10_next_226 : decode cX10_next 226 = .ok (.getfield 49, 3) := dk_180 0 49 (dk_at dksX10_next_9 15 rfl rfl)
theorem dX10_next_229 : decode cX10_next 229 = .ok (.invokevirtual 33, 3) := dk_182 0 33 (dk_at dksX10_next_9 18 rfl rfl)
theorem dX10_next_232 : decode cX10_next 232 = .ok (.invokevirtual 70, 3) := dk_182 0 70 (dk_at dksX10_next_9 21 rfl rfl)
theorem dX10_next_235 : decode cX10_next 235 = .ok (.ifCond .lt 14, 3) := dk_155 0 14 (dk_at dksX10_next_10 0 rfl rfl)
theorem dX10_next_238 : decode cX10_next 238 = .ok (.aload_n 0, 1) := dk_42 (dk_at dksX10_next_10 3 rfl rfl)
theorem dX10_next_239 : decode cX10_next 239 = .ok (.aload_n 0, 1) := dk_42 (dk_at dksX10_next_10 4 rfl rfl)
theorem dX10_next_240 : decode cX10_next 240 = .ok (.getfield 49, 3) := dk_180 0 49 (dk_at dksX10_next_10 5 rfl rfl)
theorem dX10_next_243 : decode cX10_next 243 = .ok (.invokevirtual 33, 3) := dk_182 0 33 (dk_at dksX10_next_10 8 rfl rfl)
theorem dX10_next_246 : decode cX10_next 246 = .ok (.goto 4, 3) := dk_167 0 4 (dk_at dksX10_next_10 11 rfl rfl)
theorem dX10_next_249 : decode cX10_next 249 = .ok (.iconst 3, 1) := dk_6 (dk_at dksX10_next_10 14 rfl rfl)
theorem dX10_next_250 : decode cX10_next 250 = .ok (.putfield 55, 3) := dk_181 0 55 (dk_at dksX10_next_10 15 rfl rfl)
theorem dX10_next_253 : decode cX10_next 253 = .ok (.aload_n 0, 1) := dk_42 (dk_at dksX10_next_10 18 rfl rfl)
theorem dX10_next_254 : decode cX10_next 254 = .ok (.dup, 1) := dk_89 (dk_at dksX10_next_10 19 rfl rfl)
theorem dX10_next_255 : decode cX10_next 255 = .ok (.getfield 49, 3) := dk_180 0 49 (dk_at dksX10_next_10 20 rfl rfl)
theorem dX10_next_258 : decode cX10_next 258 = .ok (.iconst 1, 1) := dk_4 (dk_at dksX10_next_10 23 rfl rfl)
theorem dX10_next_259 : decode cX10_next 259 = .ok (.iadd, 1) := dk_96 (dk_at dksX10_next_11 0 rfl rfl)
theorem dX10_next_260 : decode cX10_next 260 = .ok (.putfield 49, 3) := dk_181 0 49 (dk_at dksX10_next_11 1 rfl rfl)
theorem dX10_next_263 : decode cX10_next 263 = .ok (.return_, 1) := dk_177 (dk_at dksX10_next_11 4 rfl rfl)
def dkwX10_see_1 : List UInt8 := [3, 172]
abbrev dktX10_see_1 : List UInt8 := dkwX10_see_1 ++ []
def dkwX10_see_0 : List UInt8 := [27, 42, 180, 0, 26, 162, 0, 19, 42, 180, 0, 3, 180, 0, 29, 27, 51, 17, 0, 255, 126, 167, 0, 4]
abbrev dktX10_see_0 : List UInt8 := dkwX10_see_0 ++ dktX10_see_1
theorem dksX10_see_0 : cX10_see.data.toList.drop 0 = dktX10_see_0 := by decide +kernel
theorem dksX10_see_1 : cX10_see.data.toList.drop 24 = dktX10_see_1 := dk_seg dksX10_see_0 24 rfl rfl
theorem dX10_see_0 : decode cX10_see 0 = .ok (.iload_n 1, 1) := dk_27 (dk_at dksX10_see_0 0 rfl rfl)
theorem dX10_see_1 : decode cX10_see 1 = .ok (.aload_n 0, 1) := dk_42 (dk_at dksX10_see_0 1 rfl rfl)
theorem dX10_see_2 : decode cX10_see 2 = .ok (.getfield 26, 3) := dk_180 0 26 (dk_at dksX10_see_0 2 rfl rfl)
theorem dX10_see_5 : decode cX10_see 5 = .ok (.if_icmp .ge 19, 3) := dk_162 0 19 (dk_at dksX10_see_0 5 rfl rfl)
theorem dX10_see_8 : decode cX10_see 8 = .ok (.aload_n 0, 1) := dk_42 (dk_at dksX10_see_0 8 rfl rfl)
theorem dX10_see_9 : decode cX10_see 9 = .ok (.getfield 3, 3) := dk_180 0 3 (dk_at dksX10_see_0 9 rfl rfl)
theorem dX10_see_12 : decode cX10_see 12 = .ok (.getfield 29, 3) := dk_180 0 29 (dk_at dksX10_see_0 12 rfl rfl)
theorem dX10_see_15 : decode cX10_see 15 = .ok (.iload_n 1, 1) := dk_27 (dk_at dksX10_see_0 15 rfl rfl)
theorem dX10_see_16 : decode cX10_see 16 = .ok (.baload, 1) := dk_51 (dk_at dksX10_see_0 16 rfl rfl)
theorem dX10_see_17 : decode cX10_see 17 = .ok (.sipush 255, 3) := dk_17 0 255 (dk_at dksX10_see_0 17 rfl rfl)
theorem dX10_see_20 : decode cX10_see 20 = .ok (.iand, 1) := dk_126 (dk_at dksX10_see_0 20 rfl rfl)
theorem dX10_see_21 : decode cX10_see 21 = .ok (.goto 4, 3) := dk_167 0 4 (dk_at dksX10_see_0 21 rfl rfl)
theorem dX10_see_24 : decode cX10_see 24 = .ok (.iconst 0, 1) := dk_3 (dk_at dksX10_see_1 0 rfl rfl)
theorem dX10_see_25 : decode cX10_see 25 = .ok (.ireturn, 1) := dk_172 (dk_at dksX10_see_1 1 rfl rfl)
def dkwX10_isSmall_0 : List UInt8 := [42, 27, 182, 0, 33, 133, 20, 0, 37, 20, 0, 39, 184, 0, 41, 172]
abbrev dktX10_isSmall_0 : List UInt8 := dkwX10_isSmall_0 ++ []
theorem dksX10_isSmall_0 : cX10_isSmall.data.toList.drop 0 = dktX10_isSmall_0 := by decide +kernel
theorem dX10_isSmall_0 : decode cX10_isSmall 0 = .ok (.aload_n 0, 1) := dk_42 (dk_at dksX10_isSmall_0 0 rfl rfl)
theorem dX10_isSmall_1 : decode cX10_isSmall 1 = .ok (.iload_n 1, 1) := dk_27 (dk_at dksX10_isSmall_0 1 rfl rfl)
theorem dX10_isSmall_2 : decode cX10_isSmall 2 = .ok (.invokevirtual 33, 3) := dk_182 0 33 (dk_at dksX10_isSmall_0 2 rfl rfl)
theorem dX10_isSmall_5 : decode cX10_isSmall 5 = .ok (.i2l, 1) := dk_133 (dk_at dksX10_isSmall_0 5 rfl rfl)
theorem dX10_isSmall_6 : decode cX10_isSmall 6 = .ok (.ldc2_w 37, 3) := dk_20 0 37 (dk_at dksX10_isSmall_0 6 rfl rfl)
theorem dX10_isSmall_9 : decode cX10_isSmall 9 = .ok (.ldc2_w 39, 3) := dk_20 0 39 (dk_at dksX10_isSmall_0 9 rfl rfl)
theorem dX10_isSmall_12 : decode cX10_isSmall 12 = .ok (.invokestatic 41, 3) := dk_184 0 41 (dk_at dksX10_isSmall_0 12 rfl rfl)
theorem dX10_isSmall_15 : decode cX10_isSmall 15 = .ok (.ireturn, 1) := dk_172 (dk_at dksX10_isSmall_0 15 rfl rfl)
def dkwX10_isDigit_0 : List UInt8 := [42, 27, 182, 0, 33, 133, 20, 0, 45, 20, 0, 47, 184, 0, 41, 172]
abbrev dktX10_isDigit_0 : List UInt8 := dkwX10_isDigit_0 ++ []
theorem dksX10_isDigit_0 : cX10_isDigit.data.toList.drop 0 = dktX10_isDigit_0 := by decide +kernel
theorem dX10_isDigit_0 : decode cX10_isDigit 0 = .ok (.aload_n 0, 1) := dk_42 (dk_at dksX10_isDigit_0 0 rfl rfl)
theorem dX10_isDigit_1 : decode cX10_isDigit 1 = .ok (.iload_n 1, 1) := dk_27 (dk_at dksX10_isDigit_0 1 rfl rfl)
theorem dX10_isDigit_2 : decode cX10_isDigit 2 = .ok (.invokevirtual 33, 3) := dk_182 0 33 (dk_at dksX10_isDigit_0 2 rfl rfl)
theorem dX10_isDigit_5 : decode cX10_isDigit 5 = .ok (.i2l, 1) := dk_133 (dk_at dksX10_isDigit_0 5 rfl rfl)
theorem dX10_isDigit_6 : decode cX10_isDigit 6 = .ok (.ldc2_w 45, 3) := dk_20 0 45 (dk_at dksX10_isDigit_0 6 rfl rfl)
theorem dX10_isDigit_9 : decode cX10_isDigit 9 = .ok (.ldc2_w 47, 3) := dk_20 0 47 (dk_at dksX10_isDigit_0 9 rfl rfl)
theorem dX10_isDigit_12 : decode cX10_isDigit 12 = .ok (.invokestatic 41, 3) := dk_184 0 41 (dk_at dksX10_isDigit_0 12 rfl rfl)
theorem dX10_isDigit_15 : decode cX10_isDigit 15 = .ok (.ireturn, 1) := dk_172 (dk_at dksX10_isDigit_0 15 rfl rfl)
def dkwX10_mustWord_0 : List UInt8 := [42, 43, 182, 0, 97, 154, 0, 8, 42, 5, 182, 0, 93, 177]
abbrev dktX10_mustWord_0 : List UInt8 := dkwX10_mustWord_0 ++ []
theorem dksX10_mustWord_0 : cX10_mustWord.data.toList.drop 0 = dktX10_mustWord_0 := by decide +kernel
theorem dX10_mustWord_0 : decode cX10_mustWord 0 = .ok (.aload_n 0, 1) := dk_42 (dk_at dksX10_mustWord_0 0 rfl rfl)
theorem dX10_mustWord_1 : decode cX10_mustWord 1 = .ok (.aload_n 1, 1) := dk_43 (dk_at dksX10_mustWord_0 1 rfl rfl)
theorem dX10_mustWord_2 : decode cX10_mustWord 2 = .ok (.invokevirtual 97, 3) := dk_182 0 97 (dk_at dksX10_mustWord_0 2 rfl rfl)
theorem dX10_mustWord_5 : decode cX10_mustWord 5 = .ok (.ifCond .ne 8, 3) := dk_154 0 8 (dk_at dksX10_mustWord_0 5 rfl rfl)
theorem dX10_mustWord_8 : decode cX10_mustWord 8 = .ok (.aload_n 0, 1) := dk_42 (dk_at dksX10_mustWord_0 8 rfl rfl)
theorem dX10_mustWord_9 : decode cX10_mustWord 9 = .ok (.iconst 2, 1) := dk_5 (dk_at dksX10_mustWord_0 9 rfl rfl)
theorem dX10_mustWord_10 : decode cX10_mustWord 10 = .ok (.invokevirtual 93, 3) := dk_182 0 93 (dk_at dksX10_mustWord_0 10 rfl rfl)
theorem dX10_mustWord_13 : decode cX10_mustWord 13 = .ok (.return_, 1) := dk_177 (dk_at dksX10_mustWord_0 13 rfl rfl)
def dkwX10_takes_0 : List UInt8 := [42, 43, 182, 0, 86, 154, 0, 5, 3, 172, 42, 182, 0, 90, 4, 172]
abbrev dktX10_takes_0 : List UInt8 := dkwX10_takes_0 ++ []
theorem dksX10_takes_0 : cX10_takes.data.toList.drop 0 = dktX10_takes_0 := by decide +kernel
theorem dX10_takes_0 : decode cX10_takes 0 = .ok (.aload_n 0, 1) := dk_42 (dk_at dksX10_takes_0 0 rfl rfl)
theorem dX10_takes_1 : decode cX10_takes 1 = .ok (.aload_n 1, 1) := dk_43 (dk_at dksX10_takes_0 1 rfl rfl)
theorem dX10_takes_2 : decode cX10_takes 2 = .ok (.invokevirtual 86, 3) := dk_182 0 86 (dk_at dksX10_takes_0 2 rfl rfl)
theorem dX10_takes_5 : decode cX10_takes 5 = .ok (.ifCond .ne 5, 3) := dk_154 0 5 (dk_at dksX10_takes_0 5 rfl rfl)
theorem dX10_takes_8 : decode cX10_takes 8 = .ok (.iconst 0, 1) := dk_3 (dk_at dksX10_takes_0 8 rfl rfl)
theorem dX10_takes_9 : decode cX10_takes 9 = .ok (.ireturn, 1) := dk_172 (dk_at dksX10_takes_0 9 rfl rfl)
theorem dX10_takes_10 : decode cX10_takes 10 = .ok (.aload_n 0, 1) := dk_42 (dk_at dksX10_takes_0 10 rfl rfl)
theorem dX10_takes_11 : decode cX10_takes 11 = .ok (.invokevirtual 90, 3) := dk_182 0 90 (dk_at dksX10_takes_0 11 rfl rfl)
theorem dX10_takes_14 : decode cX10_takes 14 = .ok (.iconst 1, 1) := dk_4 (dk_at dksX10_takes_0 14 rfl rfl)
theorem dX10_takes_15 : decode cX10_takes 15 = .ok (.ireturn, 1) := dk_172 (dk_at dksX10_takes_0 15 rfl rfl)
def dkwX10_is_2 : List UInt8 := [28, 96, 182, 0, 33, 43, 28, 182, 0, 82, 159, 0, 5, 3, 172, 132, 2, 1, 167, 255, 225, 4, 172]
abbrev dktX10_is_2 : List UInt8 := dkwX10_is_2 ++ []
def dkwX10_is_1 : List UInt8 := [43, 182, 0, 78, 159, 0, 5, 3, 172, 3, 61, 28, 43, 182, 0, 78, 162, 0, 29, 42, 42, 180, 0, 52]
abbrev dktX10_is_1 : List UInt8 := dkwX10_is_1 ++ dktX10_is_2
def dkwX10_is_0 : List UInt8 := [42, 180, 0, 75, 154, 0, 27, 42, 180, 0, 55, 4, 160, 0, 19, 42, 180, 0, 49, 42, 180, 0, 52, 100]
abbrev dktX10_is_0 : List UInt8 := dkwX10_is_0 ++ dktX10_is_1
theorem dksX10_is_0 : cX10_is.data.toList.drop 0 = dktX10_is_0 := by decide +kernel
theorem dksX10_is_1 : cX10_is.data.toList.drop 24 = dktX10_is_1 := dk_seg dksX10_is_0 24 rfl rfl
theorem dksX10_is_2 : cX10_is.data.toList.drop 48 = dktX10_is_2 := dk_seg dksX10_is_1 24 rfl rfl
theorem dX10_is_0 : decode cX10_is 0 = .ok (.aload_n 0, 1) := dk_42 (dk_at dksX10_is_0 0 rfl rfl)
theorem dX10_is_1 : decode cX10_is 1 = .ok (.getfield 75, 3) := dk_180 0 75 (dk_at dksX10_is_0 1 rfl rfl)
theorem dX10_is_4 : decode cX10_is 4 = .ok (.ifCond .ne 27, 3) := dk_154 0 27 (dk_at dksX10_is_0 4 rfl rfl)
theorem dX10_is_7 : decode cX10_is 7 = .ok (.aload_n 0, 1) := dk_42 (dk_at dksX10_is_0 7 rfl rfl)
theorem dX10_is_8 : decode cX10_is 8 = .ok (.getfield 55, 3) := dk_180 0 55 (dk_at dksX10_is_0 8 rfl rfl)
theorem dX10_is_11 : decode cX10_is 11 = .ok (.iconst 1, 1) := dk_4 (dk_at dksX10_is_0 11 rfl rfl)
theorem dX10_is_12 : decode cX10_is 12 = .ok (.if_icmp .ne 19, 3) := dk_160 0 19 (dk_at dksX10_is_0 12 rfl rfl)
theorem dX10_is_15 : decode cX10_is 15 = .ok (.aload_n 0, 1) := dk_42 (dk_at dksX10_is_0 15 rfl rfl)
theorem dX10_is_16 : decode cX10_is 16 = .ok (.getfield 49, 3) := dk_180 0 49 (dk_at dksX10_is_0 16 rfl rfl)
theorem dX10_is_19 : decode cX10_is 19 = .ok (.aload_n 0, 1) := dk_42 (dk_at dksX10_is_0 19 rfl rfl)
theorem dX10_is_20 : decode cX10_is 20 = .ok (.getfield 52, 3) := dk_180 0 52 (dk_at dksX10_is_0 20 rfl rfl)
theorem dX10_is_23 : decode cX10_is 23 = .ok (.isub, 1) := dk_100 (dk_at dksX10_is_0 23 rfl rfl)
theorem dX10_is_24 : decode cX10_is 24 = .ok (.aload_n 1, 1) := dk_43 (dk_at dksX10_is_1 0 rfl rfl)
theorem dX10_is_25 : decode cX10_is 25 = .ok (.invokevirtual 78, 3) := dk_182 0 78 (dk_at dksX10_is_1 1 rfl rfl)
theorem dX10_is_28 : decode cX10_is 28 = .ok (.if_icmp .eq 5, 3) := dk_159 0 5 (dk_at dksX10_is_1 4 rfl rfl)
theorem dX10_is_31 : decode cX10_is 31 = .ok (.iconst 0, 1) := dk_3 (dk_at dksX10_is_1 7 rfl rfl)
theorem dX10_is_32 : decode cX10_is 32 = .ok (.ireturn, 1) := dk_172 (dk_at dksX10_is_1 8 rfl rfl)
theorem dX10_is_33 : decode cX10_is 33 = .ok (.iconst 0, 1) := dk_3 (dk_at dksX10_is_1 9 rfl rfl)
theorem dX10_is_34 : decode cX10_is 34 = .ok (.istore_n 2, 1) := dk_61 (dk_at dksX10_is_1 10 rfl rfl)
theorem dX10_is_35 : decode cX10_is 35 = .ok (.iload_n 2, 1) := dk_28 (dk_at dksX10_is_1 11 rfl rfl)
theorem dX10_is_36 : decode cX10_is 36 = .ok (.aload_n 1, 1) := dk_43 (dk_at dksX10_is_1 12 rfl rfl)
theorem dX10_is_37 : decode cX10_is 37 = .ok (.invokevirtual 78, 3) := dk_182 0 78 (dk_at dksX10_is_1 13 rfl rfl)
theorem dX10_is_40 : decode cX10_is 40 = .ok (.if_icmp .ge 29, 3) := dk_162 0 29 (dk_at dksX10_is_1 16 rfl rfl)
theorem dX10_is_43 : decode cX10_is 43 = .ok (.aload_n 0, 1) := dk_42 (dk_at dksX10_is_1 19 rfl rfl)
theorem dX10_is_44 : decode cX10_is 44 = .ok (.aload_n 0, 1) := dk_42 (dk_at dksX10_is_1 20 rfl rfl)
theorem dX10_is_45 : decode cX10_is 45 = .ok (.getfield 52, 3) := dk_180 0 52 (dk_at dksX10_is_1 21 rfl rfl)
theorem dX10_is_48 : decode cX10_is 48 = .ok (.iload_n 2, 1) := dk_28 (dk_at dksX10_is_2 0 rfl rfl)
theorem dX10_is_49 : decode cX10_is 49 = .ok (.iadd, 1) := dk_96 (dk_at dksX10_is_2 1 rfl rfl)
theorem dX10_is_50 : decode cX10_is 50 = .ok (.invokevirtual 33, 3) := dk_182 0 33 (dk_at dksX10_is_2 2 rfl rfl)
theorem dX10_is_53 : decode cX10_is 53 = .ok (.aload_n 1, 1) := dk_43 (dk_at dksX10_is_2 5 rfl rfl)
theorem dX10_is_54 : decode cX10_is 54 = .ok (.iload_n 2, 1) := dk_28 (dk_at dksX10_is_2 6 rfl rfl)
theorem dX10_is_55 : decode cX10_is 55 = .ok (.invokevirtual 82, 3) := dk_182 0 82 (dk_at dksX10_is_2 7 rfl rfl)
theorem dX10_is_58 : decode cX10_is 58 = .ok (.if_icmp .eq 5, 3) := dk_159 0 5 (dk_at dksX10_is_2 10 rfl rfl)
theorem dX10_is_61 : decode cX10_is 61 = .ok (.iconst 0, 1) := dk_3 (dk_at dksX10_is_2 13 rfl rfl)
theorem dX10_is_62 : decode cX10_is 62 = .ok (.ireturn, 1) := dk_172 (dk_at dksX10_is_2 14 rfl rfl)
theorem dX10_is_63 : decode cX10_is 63 = .ok (.iinc 2 1, 3) := dk_132 2 1 (dk_at dksX10_is_2 15 rfl rfl)
theorem dX10_is_66 : decode cX10_is 66 = .ok (.goto (-31), 3) := dk_167 255 225 (dk_at dksX10_is_2 18 rfl rfl)
theorem dX10_is_69 : decode cX10_is 69 = .ok (.iconst 1, 1) := dk_4 (dk_at dksX10_is_2 21 rfl rfl)
theorem dX10_is_70 : decode cX10_is 70 = .ok (.ireturn, 1) := dk_172 (dk_at dksX10_is_2 22 rfl rfl)
def dkwX10_wrong_1 : List UInt8 := [181, 0, 75, 42, 42, 180, 0, 52, 181, 0, 22, 177]
abbrev dktX10_wrong_1 : List UInt8 := dkwX10_wrong_1 ++ []
def dkwX10_wrong_0 : List UInt8 := [42, 180, 0, 75, 153, 0, 4, 177, 42, 42, 180, 0, 55, 6, 160, 0, 7, 4, 167, 0, 4, 27]
abbrev dktX10_wrong_0 : List UInt8 := dkwX10_wrong_0 ++ dktX10_wrong_1
theorem dksX10_wrong_0 : cX10_wrong.data.toList.drop 0 = dktX10_wrong_0 := by decide +kernel
theorem dksX10_wrong_1 : cX10_wrong.data.toList.drop 22 = dktX10_wrong_1 := dk_seg dksX10_wrong_0 22 rfl rfl
theorem dX10_wrong_0 : decode cX10_wrong 0 = .ok (.aload_n 0, 1) := dk_42 (dk_at dksX10_wrong_0 0 rfl rfl)
theorem dX10_wrong_1 : decode cX10_wrong 1 = .ok (.getfield 75, 3) := dk_180 0 75 (dk_at dksX10_wrong_0 1 rfl rfl)
theorem dX10_wrong_4 : decode cX10_wrong 4 = .ok (.ifCond .eq 4, 3) := dk_153 0 4 (dk_at dksX10_wrong_0 4 rfl rfl)
theorem dX10_wrong_7 : decode cX10_wrong 7 = .ok (.return_, 1) := dk_177 (dk_at dksX10_wrong_0 7 rfl rfl)
theorem dX10_wrong_8 : decode cX10_wrong 8 = .ok (.aload_n 0, 1) := dk_42 (dk_at dksX10_wrong_0 8 rfl rfl)
theorem dX10_wrong_9 : decode cX10_wrong 9 = .ok (.aload_n 0, 1) := dk_42 (dk_at dksX10_wrong_0 9 rfl rfl)
theorem dX10_wrong_10 : decode cX10_wrong 10 = .ok (.getfield 55, 3) := dk_180 0 55 (dk_at dksX10_wrong_0 10 rfl rfl)
theorem dX10_wrong_13 : decode cX10_wrong 13 = .ok (.iconst 3, 1) := dk_6 (dk_at dksX10_wrong_0 13 rfl rfl)
theorem dX10_wrong_14 : decode cX10_wrong 14 = .ok (.if_icmp .ne 7, 3) := dk_160 0 7 (dk_at dksX10_wrong_0 14 rfl rfl)
theorem dX10_wrong_17 : decode cX10_wrong 17 = .ok (.iconst 1, 1) := dk_4 (dk_at dksX10_wrong_0 17 rfl rfl)
theorem dX10_wrong_18 : decode cX10_wrong 18 = .ok (.goto 4, 3) := dk_167 0 4 (dk_at dksX10_wrong_0 18 rfl rfl)
theorem dX10_wrong_21 : decode cX10_wrong 21 = .ok (.iload_n 1, 1) := dk_27 (dk_at dksX10_wrong_0 21 rfl rfl)
theorem dX10_wrong_22 : decode cX10_wrong 22 = .ok (.putfield 75, 3) := dk_181 0 75 (dk_at dksX10_wrong_1 0 rfl rfl)
theorem dX10_wrong_25 : decode cX10_wrong 25 = .ok (.aload_n 0, 1) := dk_42 (dk_at dksX10_wrong_1 3 rfl rfl)
theorem dX10_wrong_26 : decode cX10_wrong 26 = .ok (.aload_n 0, 1) := dk_42 (dk_at dksX10_wrong_1 4 rfl rfl)
theorem dX10_wrong_27 : decode cX10_wrong 27 = .ok (.getfield 52, 3) := dk_180 0 52 (dk_at dksX10_wrong_1 5 rfl rfl)
theorem dX10_wrong_30 : decode cX10_wrong 30 = .ok (.putfield 22, 3) := dk_181 0 22 (dk_at dksX10_wrong_1 8 rfl rfl)
theorem dX10_wrong_33 : decode cX10_wrong 33 = .ok (.return_, 1) := dk_177 (dk_at dksX10_wrong_1 11 rfl rfl)
def dkwX10_number_2 : List UInt8 := [180, 0, 75, 153, 0, 5, 27, 172, 42, 180, 0, 65, 62, 42, 182, 0, 90, 29, 172]
abbrev dktX10_number_2 : List UInt8 := dkwX10_number_2 ++ []
def dkwX10_number_1 : List UInt8 := [154, 0, 23, 42, 180, 0, 65, 133, 27, 133, 28, 133, 184, 0, 41, 154, 0, 8, 42, 6, 182, 0, 93, 42]
abbrev dktX10_number_1 : List UInt8 := dkwX10_number_1 ++ dktX10_number_2
def dkwX10_number_0 : List UInt8 := [42, 180, 0, 75, 154, 0, 16, 42, 180, 0, 55, 5, 159, 0, 8, 42, 5, 182, 0, 93, 42, 180, 0, 75]
abbrev dktX10_number_0 : List UInt8 := dkwX10_number_0 ++ dktX10_number_1
theorem dksX10_number_0 : cX10_number.data.toList.drop 0 = dktX10_number_0 := by decide +kernel
theorem dksX10_number_1 : cX10_number.data.toList.drop 24 = dktX10_number_1 := dk_seg dksX10_number_0 24 rfl rfl
theorem dksX10_number_2 : cX10_number.data.toList.drop 48 = dktX10_number_2 := dk_seg dksX10_number_1 24 rfl rfl
theorem dX10_number_0 : decode cX10_number 0 = .ok (.aload_n 0, 1) := dk_42 (dk_at dksX10_number_0 0 rfl rfl)
theorem dX10_number_1 : decode cX10_number 1 = .ok (.getfield 75, 3) := dk_180 0 75 (dk_at dksX10_number_0 1 rfl rfl)
theorem dX10_number_4 : decode cX10_number 4 = .ok (.ifCond .ne 16, 3) := dk_154 0 16 (dk_at dksX10_number_0 4 rfl rfl)
theorem dX10_number_7 : decode cX10_number 7 = .ok (.aload_n 0, 1) := dk_42 (dk_at dksX10_number_0 7 rfl rfl)
theorem dX10_number_8 : decode cX10_number 8 = .ok (.getfield 55, 3) := dk_180 0 55 (dk_at dksX10_number_0 8 rfl rfl)
theorem dX10_number_11 : decode cX10_number 11 = .ok (.iconst 2, 1) := dk_5 (dk_at dksX10_number_0 11 rfl rfl)
theorem dX10_number_12 : decode cX10_number 12 = .ok (.if_icmp .eq 8, 3) := dk_159 0 8 (dk_at dksX10_number_0 12 rfl rfl)
theorem dX10_number_15 : decode cX10_number 15 = .ok (.aload_n 0, 1) := dk_42 (dk_at dksX10_number_0 15 rfl rfl)
theorem dX10_number_16 : decode cX10_number 16 = .ok (.iconst 2, 1) := dk_5 (dk_at dksX10_number_0 16 rfl rfl)
theorem dX10_number_17 : decode cX10_number 17 = .ok (.invokevirtual 93, 3) := dk_182 0 93 (dk_at dksX10_number_0 17 rfl rfl)
theorem dX10_number_20 : decode cX10_number 20 = .ok (.aload_n 0, 1) := dk_42 (dk_at dksX10_number_0 20 rfl rfl)
theorem dX10_number_21 : decode cX10_number 21 = .ok (.getfield 75, 3) := dk_180 0 75 (dk_at dksX10_number_0 21 rfl rfl)
theorem dX10_number_24 : decode cX10_number 24 = .ok (.ifCond .ne 23, 3) := dk_154 0 23 (dk_at dksX10_number_1 0 rfl rfl)
theorem dX10_number_27 : decode cX10_number 27 = .ok (.aload_n 0, 1) := dk_42 (dk_at dksX10_number_1 3 rfl rfl)
theorem dX10_number_28 : decode cX10_number 28 = .ok (.getfield 65, 3) := dk_180 0 65 (dk_at dksX10_number_1 4 rfl rfl)
theorem dX10_number_31 : decode cX10_number 31 = .ok (.i2l, 1) := dk_133 (dk_at dksX10_number_1 7 rfl rfl)
theorem dX10_number_32 : decode cX10_number 32 = .ok (.iload_n 1, 1) := dk_27 (dk_at dksX10_number_1 8 rfl rfl)
theorem dX10_number_33 : decode cX10_number 33 = .ok (.i2l, 1) := dk_133 (dk_at dksX10_number_1 9 rfl rfl)
theorem dX10_number_34 : decode cX10_number 34 = .ok (.iload_n 2, 1) := dk_28 (dk_at dksX10_number_1 10 rfl rfl)
theorem dX10_number_35 : decode cX10_number 35 = .ok (.i2l, 1) := dk_133 (dk_at dksX10_number_1 11 rfl rfl)
theorem dX10_number_36 : decode cX10_number 36 = .ok (.invokestatic 41, 3) := dk_184 0 41 (dk_at dksX10_number_1 12 rfl rfl)
theorem dX10_number_39 : decode cX10_number 39 = .ok (.ifCond .ne 8, 3) := dk_154 0 8 (dk_at dksX10_number_1 15 rfl rfl)
theorem dX10_number_42 : decode cX10_number 42 = .ok (.aload_n 0, 1) := dk_42 (dk_at dksX10_number_1 18 rfl rfl)
theorem dX10_number_43 : decode cX10_number 43 = .ok (.iconst 3, 1) := dk_6 (dk_at dksX10_number_1 19 rfl rfl)
theorem dX10_number_44 : decode cX10_number 44 = .ok (.invokevirtual 93, 3) := dk_182 0 93 (dk_at dksX10_number_1 20 rfl rfl)
theorem dX10_number_47 : decode cX10_number 47 = .ok (.aload_n 0, 1) := dk_42 (dk_at dksX10_number_1 23 rfl rfl)
theorem dX10_number_48 : decode cX10_number 48 = .ok (.getfield 75, 3) := dk_180 0 75 (dk_at dksX10_number_2 0 rfl rfl)
theorem dX10_number_51 : decode cX10_number 51 = .ok (.ifCond .eq 5, 3) := dk_153 0 5 (dk_at dksX10_number_2 3 rfl rfl)
theorem dX10_number_54 : decode cX10_number 54 = .ok (.iload_n 1, 1) := dk_27 (dk_at dksX10_number_2 6 rfl rfl)
theorem dX10_number_55 : decode cX10_number 55 = .ok (.ireturn, 1) := dk_172 (dk_at dksX10_number_2 7 rfl rfl)
theorem dX10_number_56 : decode cX10_number 56 = .ok (.aload_n 0, 1) := dk_42 (dk_at dksX10_number_2 8 rfl rfl)
theorem dX10_number_57 : decode cX10_number 57 = .ok (.getfield 65, 3) := dk_180 0 65 (dk_at dksX10_number_2 9 rfl rfl)
theorem dX10_number_60 : decode cX10_number 60 = .ok (.istore_n 3, 1) := dk_62 (dk_at dksX10_number_2 12 rfl rfl)
theorem dX10_number_61 : decode cX10_number 61 = .ok (.aload_n 0, 1) := dk_42 (dk_at dksX10_number_2 13 rfl rfl)
theorem dX10_number_62 : decode cX10_number 62 = .ok (.invokevirtual 90, 3) := dk_182 0 90 (dk_at dksX10_number_2 14 rfl rfl)
theorem dX10_number_65 : decode cX10_number 65 = .ok (.iload_n 3, 1) := dk_29 (dk_at dksX10_number_2 17 rfl rfl)
theorem dX10_number_66 : decode cX10_number 66 = .ok (.ireturn, 1) := dk_172 (dk_at dksX10_number_2 18 rfl rfl)
def dkwX10_ends_0 : List UInt8 := [42, 16, 59, 182, 0, 123, 42, 180, 0, 18, 89, 180, 0, 126, 4, 96, 181, 0, 126, 177]
abbrev dktX10_ends_0 : List UInt8 := dkwX10_ends_0 ++ []
theorem dksX10_ends_0 : cX10_ends.data.toList.drop 0 = dktX10_ends_0 := by decide +kernel
theorem dX10_ends_0 : decode cX10_ends 0 = .ok (.aload_n 0, 1) := dk_42 (dk_at dksX10_ends_0 0 rfl rfl)
theorem dX10_ends_1 : decode cX10_ends 1 = .ok (.bipush 59, 2) := dk_16 59 (dk_at dksX10_ends_0 1 rfl rfl)
theorem dX10_ends_3 : decode cX10_ends 3 = .ok (.invokevirtual 123, 3) := dk_182 0 123 (dk_at dksX10_ends_0 3 rfl rfl)
theorem dX10_ends_6 : decode cX10_ends 6 = .ok (.aload_n 0, 1) := dk_42 (dk_at dksX10_ends_0 6 rfl rfl)
theorem dX10_ends_7 : decode cX10_ends 7 = .ok (.getfield 18, 3) := dk_180 0 18 (dk_at dksX10_ends_0 7 rfl rfl)
theorem dX10_ends_10 : decode cX10_ends 10 = .ok (.dup, 1) := dk_89 (dk_at dksX10_ends_0 10 rfl rfl)
theorem dX10_ends_11 : decode cX10_ends 11 = .ok (.getfield 126, 3) := dk_180 0 126 (dk_at dksX10_ends_0 11 rfl rfl)
theorem dX10_ends_14 : decode cX10_ends 14 = .ok (.iconst 1, 1) := dk_4 (dk_at dksX10_ends_0 14 rfl rfl)
theorem dX10_ends_15 : decode cX10_ends 15 = .ok (.iadd, 1) := dk_96 (dk_at dksX10_ends_0 15 rfl rfl)
theorem dX10_ends_16 : decode cX10_ends 16 = .ok (.putfield 126, 3) := dk_181 0 126 (dk_at dksX10_ends_0 16 rfl rfl)
theorem dX10_ends_19 : decode cX10_ends 19 = .ok (.return_, 1) := dk_177 (dk_at dksX10_ends_0 19 rfl rfl)
def dkwX10_must_1 : List UInt8 := [154, 0, 7, 42, 182, 0, 90, 177]
abbrev dktX10_must_1 : List UInt8 := dkwX10_must_1 ++ []
def dkwX10_must_0 : List UInt8 := [42, 180, 0, 75, 154, 0, 16, 42, 180, 0, 55, 27, 159, 0, 8, 42, 5, 182, 0, 93, 42, 180, 0, 75]
abbrev dktX10_must_0 : List UInt8 := dkwX10_must_0 ++ dktX10_must_1
theorem dksX10_must_0 : cX10_must.data.toList.drop 0 = dktX10_must_0 := by decide +kernel
theorem dksX10_must_1 : cX10_must.data.toList.drop 24 = dktX10_must_1 := dk_seg dksX10_must_0 24 rfl rfl
theorem dX10_must_0 : decode cX10_must 0 = .ok (.aload_n 0, 1) := dk_42 (dk_at dksX10_must_0 0 rfl rfl)
theorem dX10_must_1 : decode cX10_must 1 = .ok (.getfield 75, 3) := dk_180 0 75 (dk_at dksX10_must_0 1 rfl rfl)
theorem dX10_must_4 : decode cX10_must 4 = .ok (.ifCond .ne 16, 3) := dk_154 0 16 (dk_at dksX10_must_0 4 rfl rfl)
theorem dX10_must_7 : decode cX10_must 7 = .ok (.aload_n 0, 1) := dk_42 (dk_at dksX10_must_0 7 rfl rfl)
theorem dX10_must_8 : decode cX10_must 8 = .ok (.getfield 55, 3) := dk_180 0 55 (dk_at dksX10_must_0 8 rfl rfl)
theorem dX10_must_11 : decode cX10_must 11 = .ok (.iload_n 1, 1) := dk_27 (dk_at dksX10_must_0 11 rfl rfl)
theorem dX10_must_12 : decode cX10_must 12 = .ok (.if_icmp .eq 8, 3) := dk_159 0 8 (dk_at dksX10_must_0 12 rfl rfl)
theorem dX10_must_15 : decode cX10_must 15 = .ok (.aload_n 0, 1) := dk_42 (dk_at dksX10_must_0 15 rfl rfl)
theorem dX10_must_16 : decode cX10_must 16 = .ok (.iconst 2, 1) := dk_5 (dk_at dksX10_must_0 16 rfl rfl)
theorem dX10_must_17 : decode cX10_must 17 = .ok (.invokevirtual 93, 3) := dk_182 0 93 (dk_at dksX10_must_0 17 rfl rfl)
theorem dX10_must_20 : decode cX10_must 20 = .ok (.aload_n 0, 1) := dk_42 (dk_at dksX10_must_0 20 rfl rfl)
theorem dX10_must_21 : decode cX10_must 21 = .ok (.getfield 75, 3) := dk_180 0 75 (dk_at dksX10_must_0 21 rfl rfl)
theorem dX10_must_24 : decode cX10_must 24 = .ok (.ifCond .ne 7, 3) := dk_154 0 7 (dk_at dksX10_must_1 0 rfl rfl)
theorem dX10_must_27 : decode cX10_must 27 = .ok (.aload_n 0, 1) := dk_42 (dk_at dksX10_must_1 3 rfl rfl)
theorem dX10_must_28 : decode cX10_must 28 = .ok (.invokevirtual 90, 3) := dk_182 0 90 (dk_at dksX10_must_1 4 rfl rfl)
theorem dX10_must_31 : decode cX10_must 31 = .ok (.return_, 1) := dk_177 (dk_at dksX10_must_1 7 rfl rfl)
def dkwX10_line_5 : List UInt8 := [167, 0, 8, 42, 5, 182, 0, 93, 177]
abbrev dktX10_line_5 : List UInt8 := dkwX10_line_5 ++ []
def dkwX10_line_4 : List UInt8 := [18, 149, 182, 0, 97, 153, 0, 21, 42, 180, 0, 18, 42, 3, 17, 3, 231, 182, 0, 106, 181, 0, 151]
abbrev dktX10_line_4 : List UInt8 := dkwX10_line_4 ++ dktX10_line_5
def dkwX10_line_3 : List UInt8 := [182, 0, 97, 153, 0, 20, 42, 180, 0, 18, 42, 3, 16, 10, 182, 0, 106, 181, 0, 147, 167, 0, 35, 42]
abbrev dktX10_line_3 : List UInt8 := dkwX10_line_3 ++ dktX10_line_4
def dkwX10_line_2 : List UInt8 := [167, 0, 77, 42, 18, 141, 182, 0, 97, 153, 0, 10, 42, 182, 0, 143, 167, 0, 61, 42, 18, 145]
abbrev dktX10_line_2 : List UInt8 := dkwX10_line_2 ++ dktX10_line_3
def dkwX10_line_1 : List UInt8 := [153, 0, 10, 42, 182, 0, 135, 167, 0, 93, 42, 18, 137, 182, 0, 97, 153, 0, 10, 42, 182, 0, 139]
abbrev dktX10_line_1 : List UInt8 := dkwX10_line_1 ++ dktX10_line_2
def dkwX10_line_0 : List UInt8 := [42, 18, 129, 182, 0, 97, 153, 0, 10, 42, 182, 0, 131, 167, 0, 109, 42, 18, 133, 182, 0, 86]
abbrev dktX10_line_0 : List UInt8 := dkwX10_line_0 ++ dktX10_line_1
theorem dksX10_line_0 : cX10_line.data.toList.drop 0 = dktX10_line_0 := by decide +kernel
theorem dksX10_line_1 : cX10_line.data.toList.drop 22 = dktX10_line_1 := dk_seg dksX10_line_0 22 rfl rfl
theorem dksX10_line_2 : cX10_line.data.toList.drop 45 = dktX10_line_2 := dk_seg dksX10_line_1 23 rfl rfl
theorem dksX10_line_3 : cX10_line.data.toList.drop 67 = dktX10_line_3 := dk_seg dksX10_line_2 22 rfl rfl
theorem dksX10_line_4 : cX10_line.data.toList.drop 91 = dktX10_line_4 := dk_seg dksX10_line_3 24 rfl rfl
theorem dksX10_line_5 : cX10_line.data.toList.drop 114 = dktX10_line_5 := dk_seg dksX10_line_4 23 rfl rfl
theorem dX10_line_0 : decode cX10_line 0 = .ok (.aload_n 0, 1) := dk_42 (dk_at dksX10_line_0 0 rfl rfl)
theorem dX10_line_1 : decode cX10_line 1 = .ok (.ldc 129, 2) := dk_18 129 (dk_at dksX10_line_0 1 rfl rfl)
theorem dX10_line_3 : decode cX10_line 3 = .ok (.invokevirtual 97, 3) := dk_182 0 97 (dk_at dksX10_line_0 3 rfl rfl)
theorem dX10_line_6 : decode cX10_line 6 = .ok (.ifCond .eq 10, 3) := dk_153 0 10 (dk_at dksX10_line_0 6 rfl rfl)
theorem dX10_line_9 : decode cX10_line 9 = .ok (.aload_n 0, 1) := dk_42 (dk_at dksX10_line_0 9 rfl rfl)
theorem dX10_line_10 : decode cX10_line 10 = .ok (.invokevirtual 131, 3) := dk_182 0 131 (dk_at dksX10_line_0 10 rfl rfl)
theorem dX10_line_13 : decode cX10_line 13 = .ok (.goto 109, 3) := dk_167 0 109 (dk_at dksX10_line_0 13 rfl rfl)
theorem dX10_line_16 : decode cX10_line 16 = .ok (.aload_n 0, 1) := dk_42 (dk_at dksX10_line_0 16 rfl rfl)
theorem dX10_line_17 : decode cX10_line 17 = .ok (.ldc 133, 2) := dk_18 133 (dk_at dksX10_line_0 17 rfl rfl)
theorem dX10_line_19 : decode cX10_line 19 = .ok (.invokevirtual 86, 3) := dk_182 0 86 (dk_at dksX10_line_0 19 rfl rfl)
theorem dX10_line_22 : decode cX10_line 22 = .ok (.ifCond .eq 10, 3) := dk_153 0 10 (dk_at dksX10_line_1 0 rfl rfl)
theorem dX10_line_25 : decode cX10_line 25 = .ok (.aload_n 0, 1) := dk_42 (dk_at dksX10_line_1 3 rfl rfl)
theorem dX10_line_26 : decode cX10_line 26 = .ok (.invokevirtual 135, 3) := dk_182 0 135 (dk_at dksX10_line_1 4 rfl rfl)
theorem dX10_line_29 : decode cX10_line 29 = .ok (.goto 93, 3) := dk_167 0 93 (dk_at dksX10_line_1 7 rfl rfl)
theorem dX10_line_32 : decode cX10_line 32 = .ok (.aload_n 0, 1) := dk_42 (dk_at dksX10_line_1 10 rfl rfl)
theorem dX10_line_33 : decode cX10_line 33 = .ok (.ldc 137, 2) := dk_18 137 (dk_at dksX10_line_1 11 rfl rfl)
theorem dX10_line_35 : decode cX10_line 35 = .ok (.invokevirtual 97, 3) := dk_182 0 97 (dk_at dksX10_line_1 13 rfl rfl)
theorem dX10_line_38 : decode cX10_line 38 = .ok (.ifCond .eq 10, 3) := dk_153 0 10 (dk_at dksX10_line_1 16 rfl rfl)
theorem dX10_line_41 : decode cX10_line 41 = .ok (.aload_n 0, 1) := dk_42 (dk_at dksX10_line_1 19 rfl rfl)
theorem dX10_line_42 : decode cX10_line 42 = .ok (.invokevirtual 139, 3) := dk_182 0 139 (dk_at dksX10_line_1 20 rfl rfl)
theorem dX10_line_45 : decode cX10_line 45 = .ok (.goto 77, 3) := dk_167 0 77 (dk_at dksX10_line_2 0 rfl rfl)
theorem dX10_line_48 : decode cX10_line 48 = .ok (.aload_n 0, 1) := dk_42 (dk_at dksX10_line_2 3 rfl rfl)
theorem dX10_line_49 : decode cX10_line 49 = .ok (.ldc 141, 2) := dk_18 141 (dk_at dksX10_line_2 4 rfl rfl)
theorem dX10_line_51 : decode cX10_line 51 = .ok (.invokevirtual 97, 3) := dk_182 0 97 (dk_at dksX10_line_2 6 rfl rfl)
theorem dX10_line_54 : decode cX10_line 54 = .ok (.ifCond .eq 10, 3) := dk_153 0 10 (dk_at dksX10_line_2 9 rfl rfl)
theorem dX10_line_57 : decode cX10_line 57 = .ok (.aload_n 0, 1) := dk_42 (dk_at dksX10_line_2 12 rfl rfl)
theorem dX10_line_58 : decode cX10_line 58 = .ok (.invokevirtual 143, 3) := dk_182 0 143 (dk_at dksX10_line_2 13 rfl rfl)
theorem dX10_line_61 : decode cX10_line 61 = .ok (.goto 61, 3) := dk_167 0 61 (dk_at dksX10_line_2 16 rfl rfl)
theorem dX10_line_64 : decode cX10_line 64 = .ok (.aload_n 0, 1) := dk_42 (dk_at dksX10_line_2 19 rfl rfl)
theorem dX10_line_65 : decode cX10_line 65 = .ok (.ldc 145, 2) := dk_18 145 (dk_at dksX10_line_2 20 rfl rfl)
theorem dX10_line_67 : decode cX10_line 67 = .ok (.invokevirtual 97, 3) := dk_182 0 97 (dk_at dksX10_line_3 0 rfl rfl)
theorem dX10_line_70 : decode cX10_line 70 = .ok (.ifCond .eq 20, 3) := dk_153 0 20 (dk_at dksX10_line_3 3 rfl rfl)
theorem dX10_line_73 : decode cX10_line 73 = .ok (.aload_n 0, 1) := dk_42 (dk_at dksX10_line_3 6 rfl rfl)
theorem dX10_line_74 : decode cX10_line 74 = .ok (.getfield 18, 3) := dk_180 0 18 (dk_at dksX10_line_3 7 rfl rfl)
theorem dX10_line_77 : decode cX10_line 77 = .ok (.aload_n 0, 1) := dk_42 (dk_at dksX10_line_3 10 rfl rfl)
theorem dX10_line_78 : decode cX10_line 78 = .ok (.iconst 0, 1) := dk_3 (dk_at dksX10_line_3 11 rfl rfl)
theorem dX10_line_79 : decode cX10_line 79 = .ok (.bipush 10, 2) := dk_16 10 (dk_at dksX10_line_3 12 rfl rfl)
theorem dX10_line_81 : decode cX10_line 81 = .ok (.invokevirtual 106, 3) := dk_182 0 106 (dk_at dksX10_line_3 14 rfl rfl)
theorem dX10_line_84 : decode cX10_line 84 = .ok (.putfield 147, 3) := dk_181 0 147 (dk_at dksX10_line_3 17 rfl rfl)
theorem dX10_line_87 : decode cX10_line 87 = .ok (.goto 35, 3) := dk_167 0 35 (dk_at dksX10_line_3 20 rfl rfl)
theorem dX10_line_90 : decode cX10_line 90 = .ok (.aload_n 0, 1) := dk_42 (dk_at dksX10_line_3 23 rfl rfl)
theorem dX10_line_91 : decode cX10_line 91 = .ok (.ldc 149, 2) := dk_18 149 (dk_at dksX10_line_4 0 rfl rfl)
theorem dX10_line_93 : decode cX10_line 93 = .ok (.invokevirtual 97, 3) := dk_182 0 97 (dk_at dksX10_line_4 2 rfl rfl)
theorem dX10_line_96 : decode cX10_line 96 = .ok (.ifCond .eq 21, 3) := dk_153 0 21 (dk_at dksX10_line_4 5 rfl rfl)
theorem dX10_line_99 : decode cX10_line 99 = .ok (.aload_n 0, 1) := dk_42 (dk_at dksX10_line_4 8 rfl rfl)
theorem dX10_line_100 : decode cX10_line 100 = .ok (.getfield 18, 3) := dk_180 0 18 (dk_at dksX10_line_4 9 rfl rfl)
theorem dX10_line_103 : decode cX10_line 103 = .ok (.aload_n 0, 1) := dk_42 (dk_at dksX10_line_4 12 rfl rfl)
theorem dX10_line_104 : decode cX10_line 104 = .ok (.iconst 0, 1) := dk_3 (dk_at dksX10_line_4 13 rfl rfl)
theorem dX10_line_105 : decode cX10_line 105 = .ok (.sipush 999, 3) := dk_17 3 231 (dk_at dksX10_line_4 14 rfl rfl)
theorem dX10_line_108 : decode cX10_line 108 = .ok (.invokevirtual 106, 3) := dk_182 0 106 (dk_at dksX10_line_4 17 rfl rfl)
theorem dX10_line_111 : decode cX10_line 111 = .ok (.putfield 151, 3) := dk_181 0 151 (dk_at dksX10_line_4 20 rfl rfl)
theorem dX10_line_114 : decode cX10_line 114 = .ok (.goto 8, 3) := dk_167 0 8 (dk_at dksX10_line_5 0 rfl rfl)
theorem dX10_line_117 : decode cX10_line 117 = .ok (.aload_n 0, 1) := dk_42 (dk_at dksX10_line_5 3 rfl rfl)
theorem dX10_line_118 : decode cX10_line 118 = .ok (.iconst 2, 1) := dk_5 (dk_at dksX10_line_5 4 rfl rfl)
theorem dX10_line_119 : decode cX10_line 119 = .ok (.invokevirtual 93, 3) := dk_182 0 93 (dk_at dksX10_line_5 5 rfl rfl)
theorem dX10_line_122 : decode cX10_line 122 = .ok (.return_, 1) := dk_177 (dk_at dksX10_line_5 8 rfl rfl)
def dkwX10_span_2 : List UInt8 := [42, 180, 0, 75, 154, 0, 13, 42, 180, 0, 18, 180, 0, 156, 27, 28, 79, 177]
abbrev dktX10_span_2 : List UInt8 := dkwX10_span_2 ++ []
def dkwX10_span_1 : List UInt8 := [154, 0, 24, 42, 18, 155, 182, 0, 102, 42, 3, 42, 180, 0, 18, 180, 0, 110, 4, 100, 182, 0, 106, 61]
abbrev dktX10_span_1 : List UInt8 := dkwX10_span_1 ++ dktX10_span_2
def dkwX10_span_0 : List UInt8 := [42, 3, 42, 180, 0, 18, 180, 0, 115, 4, 100, 182, 0, 106, 60, 2, 61, 42, 18, 153, 182, 0, 97]
abbrev dktX10_span_0 : List UInt8 := dkwX10_span_0 ++ dktX10_span_1
theorem dksX10_span_0 : cX10_span.data.toList.drop 0 = dktX10_span_0 := by decide +kernel
theorem dksX10_span_1 : cX10_span.data.toList.drop 23 = dktX10_span_1 := dk_seg dksX10_span_0 23 rfl rfl
theorem dksX10_span_2 : cX10_span.data.toList.drop 47 = dktX10_span_2 := dk_seg dksX10_span_1 24 rfl rfl
theorem dX10_span_0 : decode cX10_span 0 = .ok (.aload_n 0, 1) := dk_42 (dk_at dksX10_span_0 0 rfl rfl)
theorem dX10_span_1 : decode cX10_span 1 = .ok (.iconst 0, 1) := dk_3 (dk_at dksX10_span_0 1 rfl rfl)
theorem dX10_span_2 : decode cX10_span 2 = .ok (.aload_n 0, 1) := dk_42 (dk_at dksX10_span_0 2 rfl rfl)
theorem dX10_span_3 : decode cX10_span 3 = .ok (.getfield 18, 3) := dk_180 0 18 (dk_at dksX10_span_0 3 rfl rfl)
theorem dX10_span_6 : decode cX10_span 6 = .ok (.getfield 115, 3) := dk_180 0 115 (dk_at dksX10_span_0 6 rfl rfl)
theorem dX10_span_9 : decode cX10_span 9 = .ok (.iconst 1, 1) := dk_4 (dk_at dksX10_span_0 9 rfl rfl)
theorem dX10_span_10 : decode cX10_span 10 = .ok (.isub, 1) := dk_100 (dk_at dksX10_span_0 10 rfl rfl)
theorem dX10_span_11 : decode cX10_span 11 = .ok (.invokevirtual 106, 3) := dk_182 0 106 (dk_at dksX10_span_0 11 rfl rfl)
theorem dX10_span_14 : decode cX10_span 14 = .ok (.istore_n 1, 1) := dk_60 (dk_at dksX10_span_0 14 rfl rfl)
theorem dX10_span_15 : decode cX10_span 15 = .ok (.iconst (-1), 1) := dk_2 (dk_at dksX10_span_0 15 rfl rfl)
theorem dX10_span_16 : decode cX10_span 16 = .ok (.istore_n 2, 1) := dk_61 (dk_at dksX10_span_0 16 rfl rfl)
theorem dX10_span_17 : decode cX10_span 17 = .ok (.aload_n 0, 1) := dk_42 (dk_at dksX10_span_0 17 rfl rfl)
theorem dX10_span_18 : decode cX10_span 18 = .ok (.ldc 153, 2) := dk_18 153 (dk_at dksX10_span_0 18 rfl rfl)
theorem dX10_span_20 : decode cX10_span 20 = .ok (.invokevirtual 97, 3) := dk_182 0 97 (dk_at dksX10_span_0 20 rfl rfl)
theorem dX10_span_23 : decode cX10_span 23 = .ok (.ifCond .ne 24, 3) := dk_154 0 24 (dk_at dksX10_span_1 0 rfl rfl)
theorem dX10_span_26 : decode cX10_span 26 = .ok (.aload_n 0, 1) := dk_42 (dk_at dksX10_span_1 3 rfl rfl)
theorem dX10_span_27 : decode cX10_span 27 = .ok (.ldc 155, 2) := dk_18 155 (dk_at dksX10_span_1 4 rfl rfl)
theorem dX10_span_29 : decode cX10_span 29 = .ok (.invokevirtual 102, 3) := dk_182 0 102 (dk_at dksX10_span_1 6 rfl rfl)
theorem dX10_span_32 : decode cX10_span 32 = .ok (.aload_n 0, 1) := dk_42 (dk_at dksX10_span_1 9 rfl rfl)
theorem dX10_span_33 : decode cX10_span 33 = .ok (.iconst 0, 1) := dk_3 (dk_at dksX10_span_1 10 rfl rfl)
theorem dX10_span_34 : decode cX10_span 34 = .ok (.aload_n 0, 1) := dk_42 (dk_at dksX10_span_1 11 rfl rfl)
theorem dX10_span_35 : decode cX10_span 35 = .ok (.getfield 18, 3) := dk_180 0 18 (dk_at dksX10_span_1 12 rfl rfl)
theorem dX10_span_38 : decode cX10_span 38 = .ok (.getfield 110, 3) := dk_180 0 110 (dk_at dksX10_span_1 15 rfl rfl)
theorem dX10_span_41 : decode cX10_span 41 = .ok (.iconst 1, 1) := dk_4 (dk_at dksX10_span_1 18 rfl rfl)
theorem dX10_span_42 : decode cX10_span 42 = .ok (.isub, 1) := dk_100 (dk_at dksX10_span_1 19 rfl rfl)
theorem dX10_span_43 : decode cX10_span 43 = .ok (.invokevirtual 106, 3) := dk_182 0 106 (dk_at dksX10_span_1 20 rfl rfl)
theorem dX10_span_46 : decode cX10_span 46 = .ok (.istore_n 2, 1) := dk_61 (dk_at dksX10_span_1 23 rfl rfl)
theorem dX10_span_47 : decode cX10_span 47 = .ok (.aload_n 0, 1) := dk_42 (dk_at dksX10_span_2 0 rfl rfl)
theorem dX10_span_48 : decode cX10_span 48 = .ok (.getfield 75, 3) := dk_180 0 75 (dk_at dksX10_span_2 1 rfl rfl)
theorem dX10_span_51 : decode cX10_span 51 = .ok (.ifCond .ne 13, 3) := dk_154 0 13 (dk_at dksX10_span_2 4 rfl rfl)
theorem dX10_span_54 : decode cX10_span 54 = .ok (.aload_n 0, 1) := dk_42 (dk_at dksX10_span_2 7 rfl rfl)
theorem dX10_span_55 : decode cX10_span 55 = .ok (.getfield 18, 3) := dk_180 0 18 (dk_at dksX10_span_2 8 rfl rfl)
theorem dX10_span_58 : decode cX10_span 58 = .ok (.getfield 156, 3) := dk_180 0 156 (dk_at dksX10_span_2 11 rfl rfl)
theorem dX10_span_61 : decode cX10_span 61 = .ok (.iload_n 1, 1) := dk_27 (dk_at dksX10_span_2 14 rfl rfl)
theorem dX10_span_62 : decode cX10_span 62 = .ok (.iload_n 2, 1) := dk_28 (dk_at dksX10_span_2 15 rfl rfl)
theorem dX10_span_63 : decode cX10_span 63 = .ok (.iastore, 1) := dk_79 (dk_at dksX10_span_2 16 rfl rfl)
theorem dX10_span_64 : decode cX10_span 64 = .ok (.return_, 1) := dk_177 (dk_at dksX10_span_2 17 rfl rfl)
def dkwX10_person_5 : List UInt8 := [177]
abbrev dktX10_person_5 : List UInt8 := dkwX10_person_5 ++ []
def dkwX10_person_4 : List UInt8 := [153, 255, 244, 177, 42, 180, 0, 75, 154, 0, 16, 42, 180, 0, 18, 89, 180, 0, 164, 4, 96, 181, 0, 164]
abbrev dktX10_person_4 : List UInt8 := dkwX10_person_4 ++ dktX10_person_5
def dkwX10_person_3 : List UInt8 := [2, 79, 42, 180, 0, 18, 180, 0, 175, 27, 2, 79, 42, 27, 182, 0, 178, 153, 0, 11, 42, 180, 0, 75]
abbrev dktX10_person_3 : List UInt8 := dkwX10_person_3 ++ dktX10_person_4
def dkwX10_person_2 : List UInt8 := [182, 0, 102, 42, 180, 0, 18, 180, 0, 167, 27, 42, 182, 0, 169, 79, 42, 180, 0, 18, 180, 0, 172, 27]
abbrev dktX10_person_2 : List UInt8 := dkwX10_person_2 ++ dktX10_person_3
def dkwX10_person_1 : List UInt8 := [182, 0, 90, 42, 180, 0, 75, 153, 0, 4, 177, 42, 180, 0, 18, 180, 0, 164, 60, 42, 18, 155]
abbrev dktX10_person_1 : List UInt8 := dkwX10_person_1 ++ dktX10_person_2
def dkwX10_person_0 : List UInt8 := [42, 180, 0, 18, 180, 0, 164, 8, 160, 0, 8, 42, 7, 182, 0, 93, 42, 180, 0, 75, 154, 0, 7, 42]
abbrev dktX10_person_0 : List UInt8 := dkwX10_person_0 ++ dktX10_person_1
theorem dksX10_person_0 : cX10_person.data.toList.drop 0 = dktX10_person_0 := by decide +kernel
theorem dksX10_person_1 : cX10_person.data.toList.drop 24 = dktX10_person_1 := dk_seg dksX10_person_0 24 rfl rfl
theorem dksX10_person_2 : cX10_person.data.toList.drop 46 = dktX10_person_2 := dk_seg dksX10_person_1 22 rfl rfl
theorem dksX10_person_3 : cX10_person.data.toList.drop 70 = dktX10_person_3 := dk_seg dksX10_person_2 24 rfl rfl
theorem dksX10_person_4 : cX10_person.data.toList.drop 94 = dktX10_person_4 := dk_seg dksX10_person_3 24 rfl rfl
theorem dksX10_person_5 : cX10_person.data.toList.drop 118 = dktX10_person_5 := dk_seg dksX10_person_4 24 rfl rfl
theorem dX10_person_0 : decode cX10_person 0 = .ok (.aload_n 0, 1) := dk_42 (dk_at dksX10_person_0 0 rfl rfl)
theorem dX10_person_1 : decode cX10_person 1 = .ok (.getfield 18, 3) := dk_180 0 18 (dk_at dksX10_person_0 1 rfl rfl)
theorem dX10_person_4 : decode cX10_person 4 = .ok (.getfield 164, 3) := dk_180 0 164 (dk_at dksX10_person_0 4 rfl rfl)
theorem dX10_person_7 : decode cX10_person 7 = .ok (.iconst 5, 1) := dk_8 (dk_at dksX10_person_0 7 rfl rfl)
theorem dX10_person_8 : decode cX10_person 8 = .ok (.if_icmp .ne 8, 3) := dk_160 0 8 (dk_at dksX10_person_0 8 rfl rfl)
theorem dX10_person_11 : decode cX10_person 11 = .ok (.aload_n 0, 1) := dk_42 (dk_at dksX10_person_0 11 rfl rfl)
theorem dX10_person_12 : decode cX10_person 12 = .ok (.iconst 4, 1) := dk_7 (dk_at dksX10_person_0 12 rfl rfl)
theorem dX10_person_13 : decode cX10_person 13 = .ok (.invokevirtual 93, 3) := dk_182 0 93 (dk_at dksX10_person_0 13 rfl rfl)
theorem dX10_person_16 : decode cX10_person 16 = .ok (.aload_n 0, 1) := dk_42 (dk_at dksX10_person_0 16 rfl rfl)
theorem dX10_person_17 : decode cX10_person 17 = .ok (.getfield 75, 3) := dk_180 0 75 (dk_at dksX10_person_0 17 rfl rfl)
theorem dX10_person_20 : decode cX10_person 20 = .ok (.ifCond .ne 7, 3) := dk_154 0 7 (dk_at dksX10_person_0 20 rfl rfl)
theorem dX10_person_23 : decode cX10_person 23 = .ok (.aload_n 0, 1) := dk_42 (dk_at dksX10_person_0 23 rfl rfl)
theorem dX10_person_24 : decode cX10_person 24 = .ok (.invokevirtual 90, 3) := dk_182 0 90 (dk_at dksX10_person_1 0 rfl rfl)
theorem dX10_person_27 : decode cX10_person 27 = .ok (.aload_n 0, 1) := dk_42 (dk_at dksX10_person_1 3 rfl rfl)
theorem dX10_person_28 : decode cX10_person 28 = .ok (.getfield 75, 3) := dk_180 0 75 (dk_at dksX10_person_1 4 rfl rfl)
theorem dX10_person_31 : decode cX10_person 31 = .ok (.ifCond .eq 4, 3) := dk_153 0 4 (dk_at dksX10_person_1 7 rfl rfl)
theorem dX10_person_34 : decode cX10_person 34 = .ok (.return_, 1) := dk_177 (dk_at dksX10_person_1 10 rfl rfl)
theorem dX10_person_35 : decode cX10_person 35 = .ok (.aload_n 0, 1) := dk_42 (dk_at dksX10_person_1 11 rfl rfl)
theorem dX10_person_36 : decode cX10_person 36 = .ok (.getfield 18, 3) := dk_180 0 18 (dk_at dksX10_person_1 12 rfl rfl)
theorem dX10_person_39 : decode cX10_person 39 = .ok (.getfield 164, 3) := dk_180 0 164 (dk_at dksX10_person_1 15 rfl rfl)
theorem dX10_person_42 : decode cX10_person 42 = .ok (.istore_n 1, 1) := dk_60 (dk_at dksX10_person_1 18 rfl rfl)
theorem dX10_person_43 : decode cX10_person 43 = .ok (.aload_n 0, 1) := dk_42 (dk_at dksX10_person_1 19 rfl rfl)
theorem dX10_person_44 : decode cX10_person 44 = .ok (.ldc 155, 2) := dk_18 155 (dk_at dksX10_person_1 20 rfl rfl)
theorem dX10_person_46 : decode cX10_person 46 = .ok (.invokevirtual 102, 3) := dk_182 0 102 (dk_at dksX10_person_2 0 rfl rfl)
theorem dX10_person_49 : decode cX10_person 49 = .ok (.aload_n 0, 1) := dk_42 (dk_at dksX10_person_2 3 rfl rfl)
theorem dX10_person_50 : decode cX10_person 50 = .ok (.getfield 18, 3) := dk_180 0 18 (dk_at dksX10_person_2 4 rfl rfl)
theorem dX10_person_53 : decode cX10_person 53 = .ok (.getfield 167, 3) := dk_180 0 167 (dk_at dksX10_person_2 7 rfl rfl)
theorem dX10_person_56 : decode cX10_person 56 = .ok (.iload_n 1, 1) := dk_27 (dk_at dksX10_person_2 10 rfl rfl)
theorem dX10_person_57 : decode cX10_person 57 = .ok (.aload_n 0, 1) := dk_42 (dk_at dksX10_person_2 11 rfl rfl)
theorem dX10_person_58 : decode cX10_person 58 = .ok (.invokevirtual 169, 3) := dk_182 0 169 (dk_at dksX10_person_2 12 rfl rfl)
theorem dX10_person_61 : decode cX10_person 61 = .ok (.iastore, 1) := dk_79 (dk_at dksX10_person_2 15 rfl rfl)
theorem dX10_person_62 : decode cX10_person 62 = .ok (.aload_n 0, 1) := dk_42 (dk_at dksX10_person_2 16 rfl rfl)
theorem dX10_person_63 : decode cX10_person 63 = .ok (.getfield 18, 3) := dk_180 0 18 (dk_at dksX10_person_2 17 rfl rfl)
theorem dX10_person_66 : decode cX10_person 66 = .ok (.getfield 172, 3) := dk_180 0 172 (dk_at dksX10_person_2 20 rfl rfl)
theorem dX10_person_69 : decode cX10_person 69 = .ok (.iload_n 1, 1) := dk_27 (dk_at dksX10_person_2 23 rfl rfl)
theorem dX10_person_70 : decode cX10_person 70 = .ok (.iconst (-1), 1) := dk_2 (dk_at dksX10_person_3 0 rfl rfl)
theorem dX10_person_71 : decode cX10_person 71 = .ok (.iastore, 1) := dk_79 (dk_at dksX10_person_3 1 rfl rfl)
theorem dX10_person_72 : decode cX10_person 72 = .ok (.aload_n 0, 1) := dk_42 (dk_at dksX10_person_3 2 rfl rfl)
theorem dX10_person_73 : decode cX10_person 73 = .ok (.getfield 18, 3) := dk_180 0 18 (dk_at dksX10_person_3 3 rfl rfl)
theorem dX10_person_76 : decode cX10_person 76 = .ok (.getfield 175, 3) := dk_180 0 175 (dk_at dksX10_person_3 6 rfl rfl)
theorem dX10_person_79 : decode cX10_person 79 = .ok (.iload_n 1, 1) := dk_27 (dk_at dksX10_person_3 9 rfl rfl)
theorem dX10_person_80 : decode cX10_person 80 = .ok (.iconst (-1), 1) := dk_2 (dk_at dksX10_person_3 10 rfl rfl)
theorem dX10_person_81 : decode cX10_person 81 = .ok (.iastore, 1) := dk_79 (dk_at dksX10_person_3 11 rfl rfl)
theorem dX10_person_82 : decode cX10_person 82 = .ok (.aload_n 0, 1) := dk_42 (dk_at dksX10_person_3 12 rfl rfl)
theorem dX10_person_83 : decode cX10_person 83 = .ok (.iload_n 1, 1) := dk_27 (dk_at dksX10_person_3 13 rfl rfl)
theorem dX10_person_84 : decode cX10_person 84 = .ok (.invokevirtual 178, 3) := dk_182 0 178 (dk_at dksX10_person_3 14 rfl rfl)
theorem dX10_person_87 : decode cX10_person 87 = .ok (.ifCond .eq 11, 3) := dk_153 0 11 (dk_at dksX10_person_3 17 rfl rfl)
theorem dX10_person_90 : decode cX10_person 90 = .ok (.aload_n 0, 1) := dk_42 (dk_at dksX10_person_3 20 rfl rfl)
theorem dX10_person_91 : decode cX10_person 91 = .ok (.getfield 75, 3) := dk_180 0 75 (dk_at dksX10_person_3 21 rfl rfl)
theorem dX10_person_94 : decode cX10_person 94 = .ok (.ifCond .eq (-12), 3) := dk_153 255 244 (dk_at dksX10_person_4 0 rfl rfl)
theorem dX10_person_97 : decode cX10_person 97 = .ok (.return_, 1) := dk_177 (dk_at dksX10_person_4 3 rfl rfl)
theorem dX10_person_98 : decode cX10_person 98 = .ok (.aload_n 0, 1) := dk_42 (dk_at dksX10_person_4 4 rfl rfl)
theorem dX10_person_99 : decode cX10_person 99 = .ok (.getfield 75, 3) := dk_180 0 75 (dk_at dksX10_person_4 5 rfl rfl)
theorem dX10_person_102 : decode cX10_person 102 = .ok (.ifCond .ne 16, 3) := dk_154 0 16 (dk_at dksX10_person_4 8 rfl rfl)
theorem dX10_person_105 : decode cX10_person 105 = .ok (.aload_n 0, 1) := dk_42 (dk_at dksX10_person_4 11 rfl rfl)
theorem dX10_person_106 : decode cX10_person 106 = .ok (.getfield 18, 3) := dk_180 0 18 (dk_at dksX10_person_4 12 rfl rfl)
theorem dX10_person_109 : decode cX10_person 109 = .ok (.dup, 1) := dk_89 (dk_at dksX10_person_4 15 rfl rfl)
theorem dX10_person_110 : decode cX10_person 110 = .ok (.getfield 164, 3) := dk_180 0 164 (dk_at dksX10_person_4 16 rfl rfl)
theorem dX10_person_113 : decode cX10_person 113 = .ok (.iconst 1, 1) := dk_4 (dk_at dksX10_person_4 19 rfl rfl)
theorem dX10_person_114 : decode cX10_person 114 = .ok (.iadd, 1) := dk_96 (dk_at dksX10_person_4 20 rfl rfl)
theorem dX10_person_115 : decode cX10_person 115 = .ok (.putfield 164, 3) := dk_181 0 164 (dk_at dksX10_person_4 21 rfl rfl)
theorem dX10_person_118 : decode cX10_person 118 = .ok (.return_, 1) := dk_177 (dk_at dksX10_person_5 0 rfl rfl)
def dkwX10_spot_1 : List UInt8 := [5, 27, 104, 172, 42, 18, 162, 182, 0, 102, 5, 27, 104, 4, 96, 172]
abbrev dktX10_spot_1 : List UInt8 := dkwX10_spot_1 ++ []
def dkwX10_spot_0 : List UInt8 := [42, 3, 42, 180, 0, 18, 180, 0, 110, 4, 100, 182, 0, 106, 60, 42, 18, 160, 182, 0, 97, 153, 0, 7]
abbrev dktX10_spot_0 : List UInt8 := dkwX10_spot_0 ++ dktX10_spot_1
theorem dksX10_spot_0 : cX10_spot.data.toList.drop 0 = dktX10_spot_0 := by decide +kernel
theorem dksX10_spot_1 : cX10_spot.data.toList.drop 24 = dktX10_spot_1 := dk_seg dksX10_spot_0 24 rfl rfl
theorem dX10_spot_0 : decode cX10_spot 0 = .ok (.aload_n 0, 1) := dk_42 (dk_at dksX10_spot_0 0 rfl rfl)
theorem dX10_spot_1 : decode cX10_spot 1 = .ok (.iconst 0, 1) := dk_3 (dk_at dksX10_spot_0 1 rfl rfl)
theorem dX10_spot_2 : decode cX10_spot 2 = .ok (.aload_n 0, 1) := dk_42 (dk_at dksX10_spot_0 2 rfl rfl)
theorem dX10_spot_3 : decode cX10_spot 3 = .ok (.getfield 18, 3) := dk_180 0 18 (dk_at dksX10_spot_0 3 rfl rfl)
theorem dX10_spot_6 : decode cX10_spot 6 = .ok (.getfield 110, 3) := dk_180 0 110 (dk_at dksX10_spot_0 6 rfl rfl)
theorem dX10_spot_9 : decode cX10_spot 9 = .ok (.iconst 1, 1) := dk_4 (dk_at dksX10_spot_0 9 rfl rfl)
theorem dX10_spot_10 : decode cX10_spot 10 = .ok (.isub, 1) := dk_100 (dk_at dksX10_spot_0 10 rfl rfl)
theorem dX10_spot_11 : decode cX10_spot 11 = .ok (.invokevirtual 106, 3) := dk_182 0 106 (dk_at dksX10_spot_0 11 rfl rfl)
theorem dX10_spot_14 : decode cX10_spot 14 = .ok (.istore_n 1, 1) := dk_60 (dk_at dksX10_spot_0 14 rfl rfl)
theorem dX10_spot_15 : decode cX10_spot 15 = .ok (.aload_n 0, 1) := dk_42 (dk_at dksX10_spot_0 15 rfl rfl)
theorem dX10_spot_16 : decode cX10_spot 16 = .ok (.ldc 160, 2) := dk_18 160 (dk_at dksX10_spot_0 16 rfl rfl)
theorem dX10_spot_18 : decode cX10_spot 18 = .ok (.invokevirtual 97, 3) := dk_182 0 97 (dk_at dksX10_spot_0 18 rfl rfl)
theorem dX10_spot_21 : decode cX10_spot 21 = .ok (.ifCond .eq 7, 3) := dk_153 0 7 (dk_at dksX10_spot_0 21 rfl rfl)
theorem dX10_spot_24 : decode cX10_spot 24 = .ok (.iconst 2, 1) := dk_5 (dk_at dksX10_spot_1 0 rfl rfl)
theorem dX10_spot_25 : decode cX10_spot 25 = .ok (.iload_n 1, 1) := dk_27 (dk_at dksX10_spot_1 1 rfl rfl)
theorem dX10_spot_26 : decode cX10_spot 26 = .ok (.imul, 1) := dk_104 (dk_at dksX10_spot_1 2 rfl rfl)
theorem dX10_spot_27 : decode cX10_spot 27 = .ok (.ireturn, 1) := dk_172 (dk_at dksX10_spot_1 3 rfl rfl)
theorem dX10_spot_28 : decode cX10_spot 28 = .ok (.aload_n 0, 1) := dk_42 (dk_at dksX10_spot_1 4 rfl rfl)
theorem dX10_spot_29 : decode cX10_spot 29 = .ok (.ldc 162, 2) := dk_18 162 (dk_at dksX10_spot_1 5 rfl rfl)
theorem dX10_spot_31 : decode cX10_spot 31 = .ok (.invokevirtual 102, 3) := dk_182 0 102 (dk_at dksX10_spot_1 7 rfl rfl)
theorem dX10_spot_34 : decode cX10_spot 34 = .ok (.iconst 2, 1) := dk_5 (dk_at dksX10_spot_1 10 rfl rfl)
theorem dX10_spot_35 : decode cX10_spot 35 = .ok (.iload_n 1, 1) := dk_27 (dk_at dksX10_spot_1 11 rfl rfl)
theorem dX10_spot_36 : decode cX10_spot 36 = .ok (.imul, 1) := dk_104 (dk_at dksX10_spot_1 12 rfl rfl)
theorem dX10_spot_37 : decode cX10_spot 37 = .ok (.iconst 1, 1) := dk_4 (dk_at dksX10_spot_1 13 rfl rfl)
theorem dX10_spot_38 : decode cX10_spot 38 = .ok (.iadd, 1) := dk_96 (dk_at dksX10_spot_1 14 rfl rfl)
theorem dX10_spot_39 : decode cX10_spot 39 = .ok (.ireturn, 1) := dk_172 (dk_at dksX10_spot_1 15 rfl rfl)
def dkwX10_flag_2 : List UInt8 := [172]
abbrev dktX10_flag_2 : List UInt8 := dkwX10_flag_2 ++ []
def dkwX10_flag_1 : List UInt8 := [79, 167, 0, 22, 42, 18, 185, 182, 0, 97, 153, 0, 11, 42, 27, 182, 0, 187, 167, 0, 5, 3, 172, 4]
abbrev dktX10_flag_1 : List UInt8 := dkwX10_flag_1 ++ dktX10_flag_2
def dkwX10_flag_0 : List UInt8 := [42, 18, 181, 182, 0, 97, 153, 0, 22, 42, 180, 0, 18, 180, 0, 183, 27, 42, 3, 16, 99, 182, 0, 106]
abbrev dktX10_flag_0 : List UInt8 := dkwX10_flag_0 ++ dktX10_flag_1
theorem dksX10_flag_0 : cX10_flag.data.toList.drop 0 = dktX10_flag_0 := by decide +kernel
theorem dksX10_flag_1 : cX10_flag.data.toList.drop 24 = dktX10_flag_1 := dk_seg dksX10_flag_0 24 rfl rfl
theorem dksX10_flag_2 : cX10_flag.data.toList.drop 48 = dktX10_flag_2 := dk_seg dksX10_flag_1 24 rfl rfl
theorem dX10_flag_0 : decode cX10_flag 0 = .ok (.aload_n 0, 1) := dk_42 (dk_at dksX10_flag_0 0 rfl rfl)
theorem dX10_flag_1 : decode cX10_flag 1 = .ok (.ldc 181, 2) := dk_18 181 (dk_at dksX10_flag_0 1 rfl rfl)
theorem dX10_flag_3 : decode cX10_flag 3 = .ok (.invokevirtual 97, 3) := dk_182 0 97 (dk_at dksX10_flag_0 3 rfl rfl)
theorem dX10_flag_6 : decode cX10_flag 6 = .ok (.ifCond .eq 22, 3) := dk_153 0 22 (dk_at dksX10_flag_0 6 rfl rfl)
theorem dX10_flag_9 : decode cX10_flag 9 = .ok (.aload_n 0, 1) := dk_42 (dk_at dksX10_flag_0 9 rfl rfl)
theorem dX10_flag_10 : decode cX10_flag 10 = .ok (.getfield 18, 3) := dk_180 0 18 (dk_at dksX10_flag_0 10 rfl rfl)
theorem dX10_flag_13 : decode cX10_flag 13 = .ok (.getfield 183, 3) := dk_180 0 183 (dk_at dksX10_flag_0 13 rfl rfl)
theorem dX10_flag_16 : decode cX10_flag 16 = .ok (.iload_n 1, 1) := dk_27 (dk_at dksX10_flag_0 16 rfl rfl)
theorem dX10_flag_17 : decode cX10_flag 17 = .ok (.aload_n 0, 1) := dk_42 (dk_at dksX10_flag_0 17 rfl rfl)
theorem dX10_flag_18 : decode cX10_flag 18 = .ok (.iconst 0, 1) := dk_3 (dk_at dksX10_flag_0 18 rfl rfl)
theorem dX10_flag_19 : decode cX10_flag 19 = .ok (.bipush 99, 2) := dk_16 99 (dk_at dksX10_flag_0 19 rfl rfl)
theorem dX10_flag_21 : decode cX10_flag 21 = .ok (.invokevirtual 106, 3) := dk_182 0 106 (dk_at dksX10_flag_0 21 rfl rfl)
theorem dX10_flag_24 : decode cX10_flag 24 = .ok (.iastore, 1) := dk_79 (dk_at dksX10_flag_1 0 rfl rfl)
theorem dX10_flag_25 : decode cX10_flag 25 = .ok (.goto 22, 3) := dk_167 0 22 (dk_at dksX10_flag_1 1 rfl rfl)
theorem dX10_flag_28 : decode cX10_flag 28 = .ok (.aload_n 0, 1) := dk_42 (dk_at dksX10_flag_1 4 rfl rfl)
theorem dX10_flag_29 : decode cX10_flag 29 = .ok (.ldc 185, 2) := dk_18 185 (dk_at dksX10_flag_1 5 rfl rfl)
theorem dX10_flag_31 : decode cX10_flag 31 = .ok (.invokevirtual 97, 3) := dk_182 0 97 (dk_at dksX10_flag_1 7 rfl rfl)
theorem dX10_flag_34 : decode cX10_flag 34 = .ok (.ifCond .eq 11, 3) := dk_153 0 11 (dk_at dksX10_flag_1 10 rfl rfl)
theorem dX10_flag_37 : decode cX10_flag 37 = .ok (.aload_n 0, 1) := dk_42 (dk_at dksX10_flag_1 13 rfl rfl)
theorem dX10_flag_38 : decode cX10_flag 38 = .ok (.iload_n 1, 1) := dk_27 (dk_at dksX10_flag_1 14 rfl rfl)
theorem dX10_flag_39 : decode cX10_flag 39 = .ok (.invokevirtual 187, 3) := dk_182 0 187 (dk_at dksX10_flag_1 15 rfl rfl)
theorem dX10_flag_42 : decode cX10_flag 42 = .ok (.goto 5, 3) := dk_167 0 5 (dk_at dksX10_flag_1 18 rfl rfl)
theorem dX10_flag_45 : decode cX10_flag 45 = .ok (.iconst 0, 1) := dk_3 (dk_at dksX10_flag_1 21 rfl rfl)
theorem dX10_flag_46 : decode cX10_flag 46 = .ok (.ireturn, 1) := dk_172 (dk_at dksX10_flag_1 22 rfl rfl)
theorem dX10_flag_47 : decode cX10_flag 47 = .ok (.iconst 1, 1) := dk_4 (dk_at dksX10_flag_1 23 rfl rfl)
theorem dX10_flag_48 : decode cX10_flag 48 = .ok (.ireturn, 1) := dk_172 (dk_at dksX10_flag_2 0 rfl rfl)
def dkwX10_errand_2 : List UInt8 := [177]
abbrev dktX10_errand_2 : List UInt8 := dkwX10_errand_2 ++ []
def dkwX10_errand_1 : List UInt8 := [153, 0, 4, 177, 42, 180, 0, 18, 180, 0, 172, 27, 28, 79, 42, 180, 0, 18, 180, 0, 175, 27, 29, 79]
abbrev dktX10_errand_1 : List UInt8 := dkwX10_errand_1 ++ dktX10_errand_2
def dkwX10_errand_0 : List UInt8 := [42, 182, 0, 169, 61, 42, 18, 190, 182, 0, 102, 42, 3, 17, 3, 231, 182, 0, 106, 62, 42, 180, 0, 75]
abbrev dktX10_errand_0 : List UInt8 := dkwX10_errand_0 ++ dktX10_errand_1
theorem dksX10_errand_0 : cX10_errand.data.toList.drop 0 = dktX10_errand_0 := by decide +kernel
theorem dksX10_errand_1 : cX10_errand.data.toList.drop 24 = dktX10_errand_1 := dk_seg dksX10_errand_0 24 rfl rfl
theorem dksX10_errand_2 : cX10_errand.data.toList.drop 48 = dktX10_errand_2 := dk_seg dksX10_errand_1 24 rfl rfl
theorem dX10_errand_0 : decode cX10_errand 0 = .ok (.aload_n 0, 1) := dk_42 (dk_at dksX10_errand_0 0 rfl rfl)
theorem dX10_errand_1 : decode cX10_errand 1 = .ok (.invokevirtual 169, 3) := dk_182 0 169 (dk_at dksX10_errand_0 1 rfl rfl)
theorem dX10_errand_4 : decode cX10_errand 4 = .ok (.istore_n 2, 1) := dk_61 (dk_at dksX10_errand_0 4 rfl rfl)
theorem dX10_errand_5 : decode cX10_errand 5 = .ok (.aload_n 0, 1) := dk_42 (dk_at dksX10_errand_0 5 rfl rfl)
theorem dX10_errand_6 : decode cX10_errand 6 = .ok (.ldc 190, 2) := dk_18 190 (dk_at dksX10_errand_0 6 rfl rfl)
theorem dX10_errand_8 : decode cX10_errand 8 = .ok (.invokevirtual 102, 3) := dk_182 0 102 (dk_at dksX10_errand_0 8 rfl rfl)
theorem dX10_errand_11 : decode cX10_errand 11 = .ok (.aload_n 0, 1) := dk_42 (dk_at dksX10_errand_0 11 rfl rfl)
theorem dX10_errand_12 : decode cX10_errand 12 = .ok (.iconst 0, 1) := dk_3 (dk_at dksX10_errand_0 12 rfl rfl)
theorem dX10_errand_13 : decode cX10_errand 13 = .ok (.sipush 999, 3) := dk_17 3 231 (dk_at dksX10_errand_0 13 rfl rfl)
theorem dX10_errand_16 : decode cX10_errand 16 = .ok (.invokevirtual 106, 3) := dk_182 0 106 (dk_at dksX10_errand_0 16 rfl rfl)
theorem dX10_errand_19 : decode cX10_errand 19 = .ok (.istore_n 3, 1) := dk_62 (dk_at dksX10_errand_0 19 rfl rfl)
theorem dX10_errand_20 : decode cX10_errand 20 = .ok (.aload_n 0, 1) := dk_42 (dk_at dksX10_errand_0 20 rfl rfl)
theorem dX10_errand_21 : decode cX10_errand 21 = .ok (.getfield 75, 3) := dk_180 0 75 (dk_at dksX10_errand_0 21 rfl rfl)
theorem dX10_errand_24 : decode cX10_errand 24 = .ok (.ifCond .eq 4, 3) := dk_153 0 4 (dk_at dksX10_errand_1 0 rfl rfl)
theorem dX10_errand_27 : decode cX10_errand 27 = .ok (.return_, 1) := dk_177 (dk_at dksX10_errand_1 3 rfl rfl)
theorem dX10_errand_28 : decode cX10_errand 28 = .ok (.aload_n 0, 1) := dk_42 (dk_at dksX10_errand_1 4 rfl rfl)
theorem dX10_errand_29 : decode cX10_errand 29 = .ok (.getfield 18, 3) := dk_180 0 18 (dk_at dksX10_errand_1 5 rfl rfl)
theorem dX10_errand_32 : decode cX10_errand 32 = .ok (.getfield 172, 3) := dk_180 0 172 (dk_at dksX10_errand_1 8 rfl rfl)
theorem dX10_errand_35 : decode cX10_errand 35 = .ok (.iload_n 1, 1) := dk_27 (dk_at dksX10_errand_1 11 rfl rfl)
theorem dX10_errand_36 : decode cX10_errand 36 = .ok (.iload_n 2, 1) := dk_28 (dk_at dksX10_errand_1 12 rfl rfl)
theorem dX10_errand_37 : decode cX10_errand 37 = .ok (.iastore, 1) := dk_79 (dk_at dksX10_errand_1 13 rfl rfl)
theorem dX10_errand_38 : decode cX10_errand 38 = .ok (.aload_n 0, 1) := dk_42 (dk_at dksX10_errand_1 14 rfl rfl)
theorem dX10_errand_39 : decode cX10_errand 39 = .ok (.getfield 18, 3) := dk_180 0 18 (dk_at dksX10_errand_1 15 rfl rfl)
theorem dX10_errand_42 : decode cX10_errand 42 = .ok (.getfield 175, 3) := dk_180 0 175 (dk_at dksX10_errand_1 18 rfl rfl)
theorem dX10_errand_45 : decode cX10_errand 45 = .ok (.iload_n 1, 1) := dk_27 (dk_at dksX10_errand_1 21 rfl rfl)
theorem dX10_errand_46 : decode cX10_errand 46 = .ok (.iload_n 3, 1) := dk_29 (dk_at dksX10_errand_1 22 rfl rfl)
theorem dX10_errand_47 : decode cX10_errand 47 = .ok (.iastore, 1) := dk_79 (dk_at dksX10_errand_1 23 rfl rfl)
theorem dX10_errand_48 : decode cX10_errand 48 = .ok (.return_, 1) := dk_177 (dk_at dksX10_errand_2 0 rfl rfl)
def dkwX10_walks_1 : List UInt8 := [180, 0, 18, 43, 181, 0, 199, 177]
abbrev dktX10_walks_1 : List UInt8 := dkwX10_walks_1 ++ []
def dkwX10_walks_0 : List UInt8 := [42, 4, 181, 0, 191, 42, 16, 58, 182, 0, 123, 42, 182, 0, 195, 76, 42, 180, 0, 75, 154, 0, 11, 42]
abbrev dktX10_walks_0 : List UInt8 := dkwX10_walks_0 ++ dktX10_walks_1
theorem dksX10_walks_0 : cX10_walks.data.toList.drop 0 = dktX10_walks_0 := by decide +kernel
theorem dksX10_walks_1 : cX10_walks.data.toList.drop 24 = dktX10_walks_1 := dk_seg dksX10_walks_0 24 rfl rfl
theorem dX10_walks_0 : decode cX10_walks 0 = .ok (.aload_n 0, 1) := dk_42 (dk_at dksX10_walks_0 0 rfl rfl)
theorem dX10_walks_1 : decode cX10_walks 1 = .ok (.iconst 1, 1) := dk_4 (dk_at dksX10_walks_0 1 rfl rfl)
theorem dX10_walks_2 : decode cX10_walks 2 = .ok (.putfield 191, 3) := dk_181 0 191 (dk_at dksX10_walks_0 2 rfl rfl)
theorem dX10_walks_5 : decode cX10_walks 5 = .ok (.aload_n 0, 1) := dk_42 (dk_at dksX10_walks_0 5 rfl rfl)
theorem dX10_walks_6 : decode cX10_walks 6 = .ok (.bipush 58, 2) := dk_16 58 (dk_at dksX10_walks_0 6 rfl rfl)
theorem dX10_walks_8 : decode cX10_walks 8 = .ok (.invokevirtual 123, 3) := dk_182 0 123 (dk_at dksX10_walks_0 8 rfl rfl)
theorem dX10_walks_11 : decode cX10_walks 11 = .ok (.aload_n 0, 1) := dk_42 (dk_at dksX10_walks_0 11 rfl rfl)
theorem dX10_walks_12 : decode cX10_walks 12 = .ok (.invokevirtual 195, 3) := dk_182 0 195 (dk_at dksX10_walks_0 12 rfl rfl)
theorem dX10_walks_15 : decode cX10_walks 15 = .ok (.astore_n 1, 1) := dk_76 (dk_at dksX10_walks_0 15 rfl rfl)
theorem dX10_walks_16 : decode cX10_walks 16 = .ok (.aload_n 0, 1) := dk_42 (dk_at dksX10_walks_0 16 rfl rfl)
theorem dX10_walks_17 : decode cX10_walks 17 = .ok (.getfield 75, 3) := dk_180 0 75 (dk_at dksX10_walks_0 17 rfl rfl)
theorem dX10_walks_20 : decode cX10_walks 20 = .ok (.ifCond .ne 11, 3) := dk_154 0 11 (dk_at dksX10_walks_0 20 rfl rfl)
theorem dX10_walks_23 : decode cX10_walks 23 = .ok (.aload_n 0, 1) := dk_42 (dk_at dksX10_walks_0 23 rfl rfl)
theorem dX10_walks_24 : decode cX10_walks 24 = .ok (.getfield 18, 3) := dk_180 0 18 (dk_at dksX10_walks_1 0 rfl rfl)
theorem dX10_walks_27 : decode cX10_walks 27 = .ok (.aload_n 1, 1) := dk_43 (dk_at dksX10_walks_1 3 rfl rfl)
theorem dX10_walks_28 : decode cX10_walks 28 = .ok (.putfield 199, 3) := dk_181 0 199 (dk_at dksX10_walks_1 4 rfl rfl)
theorem dX10_walks_31 : decode cX10_walks 31 = .ok (.return_, 1) := dk_177 (dk_at dksX10_walks_1 7 rfl rfl)
def dkwX10_truth_1 : List UInt8 := [183, 0, 214, 76, 167, 255, 233, 43, 176]
abbrev dktX10_truth_1 : List UInt8 := dkwX10_truth_1 ++ []
def dkwX10_truth_0 : List UInt8 := [42, 182, 0, 207, 76, 42, 18, 210, 182, 0, 97, 153, 0, 20, 187, 0, 212, 89, 43, 3, 42, 182, 0, 207]
abbrev dktX10_truth_0 : List UInt8 := dkwX10_truth_0 ++ dktX10_truth_1
theorem dksX10_truth_0 : cX10_truth.data.toList.drop 0 = dktX10_truth_0 := by decide +kernel
theorem dksX10_truth_1 : cX10_truth.data.toList.drop 24 = dktX10_truth_1 := dk_seg dksX10_truth_0 24 rfl rfl
theorem dX10_truth_0 : decode cX10_truth 0 = .ok (.aload_n 0, 1) := dk_42 (dk_at dksX10_truth_0 0 rfl rfl)
theorem dX10_truth_1 : decode cX10_truth 1 = .ok (.invokevirtual 207, 3) := dk_182 0 207 (dk_at dksX10_truth_0 1 rfl rfl)
theorem dX10_truth_4 : decode cX10_truth 4 = .ok (.astore_n 1, 1) := dk_76 (dk_at dksX10_truth_0 4 rfl rfl)
theorem dX10_truth_5 : decode cX10_truth 5 = .ok (.aload_n 0, 1) := dk_42 (dk_at dksX10_truth_0 5 rfl rfl)
theorem dX10_truth_6 : decode cX10_truth 6 = .ok (.ldc 210, 2) := dk_18 210 (dk_at dksX10_truth_0 6 rfl rfl)
theorem dX10_truth_8 : decode cX10_truth 8 = .ok (.invokevirtual 97, 3) := dk_182 0 97 (dk_at dksX10_truth_0 8 rfl rfl)
theorem dX10_truth_11 : decode cX10_truth 11 = .ok (.ifCond .eq 20, 3) := dk_153 0 20 (dk_at dksX10_truth_0 11 rfl rfl)
theorem dX10_truth_14 : decode cX10_truth 14 = .ok (.new 212, 3) := dk_187 0 212 (dk_at dksX10_truth_0 14 rfl rfl)
theorem dX10_truth_17 : decode cX10_truth 17 = .ok (.dup, 1) := dk_89 (dk_at dksX10_truth_0 17 rfl rfl)
theorem dX10_truth_18 : decode cX10_truth 18 = .ok (.aload_n 1, 1) := dk_43 (dk_at dksX10_truth_0 18 rfl rfl)
theorem dX10_truth_19 : decode cX10_truth 19 = .ok (.iconst 0, 1) := dk_3 (dk_at dksX10_truth_0 19 rfl rfl)
theorem dX10_truth_20 : decode cX10_truth 20 = .ok (.aload_n 0, 1) := dk_42 (dk_at dksX10_truth_0 20 rfl rfl)
theorem dX10_truth_21 : decode cX10_truth 21 = .ok (.invokevirtual 207, 3) := dk_182 0 207 (dk_at dksX10_truth_0 21 rfl rfl)
theorem dX10_truth_24 : decode cX10_truth 24 = .ok (.invokespecial 214, 3) := dk_183 0 214 (dk_at dksX10_truth_1 0 rfl rfl)
theorem dX10_truth_27 : decode cX10_truth 27 = .ok (.astore_n 1, 1) := dk_76 (dk_at dksX10_truth_1 3 rfl rfl)
theorem dX10_truth_28 : decode cX10_truth 28 = .ok (.goto (-23), 3) := dk_167 255 233 (dk_at dksX10_truth_1 4 rfl rfl)
theorem dX10_truth_31 : decode cX10_truth 31 = .ok (.aload_n 1, 1) := dk_43 (dk_at dksX10_truth_1 7 rfl rfl)
theorem dX10_truth_32 : decode cX10_truth 32 = .ok (.areturn, 1) := dk_176 (dk_at dksX10_truth_1 8 rfl rfl)
def dkwX10_both_1 : List UInt8 := [183, 0, 214, 76, 167, 255, 233, 43, 176]
abbrev dktX10_both_1 : List UInt8 := dkwX10_both_1 ++ []
def dkwX10_both_0 : List UInt8 := [42, 182, 0, 217, 76, 42, 18, 220, 182, 0, 97, 153, 0, 20, 187, 0, 212, 89, 43, 4, 42, 182, 0, 217]
abbrev dktX10_both_0 : List UInt8 := dkwX10_both_0 ++ dktX10_both_1
theorem dksX10_both_0 : cX10_both.data.toList.drop 0 = dktX10_both_0 := by decide +kernel
theorem dksX10_both_1 : cX10_both.data.toList.drop 24 = dktX10_both_1 := dk_seg dksX10_both_0 24 rfl rfl
theorem dX10_both_0 : decode cX10_both 0 = .ok (.aload_n 0, 1) := dk_42 (dk_at dksX10_both_0 0 rfl rfl)
theorem dX10_both_1 : decode cX10_both 1 = .ok (.invokevirtual 217, 3) := dk_182 0 217 (dk_at dksX10_both_0 1 rfl rfl)
theorem dX10_both_4 : decode cX10_both 4 = .ok (.astore_n 1, 1) := dk_76 (dk_at dksX10_both_0 4 rfl rfl)
theorem dX10_both_5 : decode cX10_both 5 = .ok (.aload_n 0, 1) := dk_42 (dk_at dksX10_both_0 5 rfl rfl)
theorem dX10_both_6 : decode cX10_both 6 = .ok (.ldc 220, 2) := dk_18 220 (dk_at dksX10_both_0 6 rfl rfl)
theorem dX10_both_8 : decode cX10_both 8 = .ok (.invokevirtual 97, 3) := dk_182 0 97 (dk_at dksX10_both_0 8 rfl rfl)
theorem dX10_both_11 : decode cX10_both 11 = .ok (.ifCond .eq 20, 3) := dk_153 0 20 (dk_at dksX10_both_0 11 rfl rfl)
theorem dX10_both_14 : decode cX10_both 14 = .ok (.new 212, 3) := dk_187 0 212 (dk_at dksX10_both_0 14 rfl rfl)
theorem dX10_both_17 : decode cX10_both 17 = .ok (.dup, 1) := dk_89 (dk_at dksX10_both_0 17 rfl rfl)
theorem dX10_both_18 : decode cX10_both 18 = .ok (.aload_n 1, 1) := dk_43 (dk_at dksX10_both_0 18 rfl rfl)
theorem dX10_both_19 : decode cX10_both 19 = .ok (.iconst 1, 1) := dk_4 (dk_at dksX10_both_0 19 rfl rfl)
theorem dX10_both_20 : decode cX10_both 20 = .ok (.aload_n 0, 1) := dk_42 (dk_at dksX10_both_0 20 rfl rfl)
theorem dX10_both_21 : decode cX10_both 21 = .ok (.invokevirtual 217, 3) := dk_182 0 217 (dk_at dksX10_both_0 21 rfl rfl)
theorem dX10_both_24 : decode cX10_both 24 = .ok (.invokespecial 214, 3) := dk_183 0 214 (dk_at dksX10_both_1 0 rfl rfl)
theorem dX10_both_27 : decode cX10_both 27 = .ok (.astore_n 1, 1) := dk_76 (dk_at dksX10_both_1 3 rfl rfl)
theorem dX10_both_28 : decode cX10_both 28 = .ok (.goto (-23), 3) := dk_167 255 233 (dk_at dksX10_both_1 4 rfl rfl)
theorem dX10_both_31 : decode cX10_both 31 = .ok (.aload_n 1, 1) := dk_43 (dk_at dksX10_both_1 7 rfl rfl)
theorem dX10_both_32 : decode cX10_both 32 = .ok (.areturn, 1) := dk_176 (dk_at dksX10_both_1 8 rfl rfl)
def dkwX10_unit_6 : List UInt8 := [182, 0, 90, 187, 0, 239, 89, 43, 28, 42, 182, 0, 235, 183, 0, 241, 176]
abbrev dktX10_unit_6 : List UInt8 := dkwX10_unit_6 ++ []
def dkwX10_unit_5 : List UInt8 := [16, 60, 159, 0, 14, 28, 16, 62, 159, 0, 8, 42, 5, 182, 0, 93, 42, 180, 0, 75, 154, 0, 7, 42]
abbrev dktX10_unit_5 : List UInt8 := dkwX10_unit_5 ++ dktX10_unit_6
def dkwX10_unit_4 : List UInt8 := [182, 0, 235, 76, 42, 180, 0, 55, 61, 42, 180, 0, 75, 154, 0, 26, 28, 16, 61, 159, 0, 20, 28]
abbrev dktX10_unit_4 : List UInt8 := dkwX10_unit_4 ++ dktX10_unit_5
def dkwX10_unit_3 : List UInt8 := [167, 0, 4, 1, 76, 42, 16, 93, 182, 0, 123, 42, 89, 180, 0, 204, 4, 100, 181, 0, 204, 43, 176, 42]
abbrev dktX10_unit_3 : List UInt8 := dkwX10_unit_3 ++ dktX10_unit_4
def dkwX10_unit_2 : List UInt8 := [42, 16, 91, 182, 0, 232, 153, 0, 41, 42, 182, 0, 224, 42, 180, 0, 75, 154, 0, 10, 42, 182, 0, 195]
abbrev dktX10_unit_2 : List UInt8 := dkwX10_unit_2 ++ dktX10_unit_3
def dkwX10_unit_1 : List UInt8 := [42, 182, 0, 217, 183, 0, 229, 167, 0, 4, 1, 76, 42, 89, 180, 0, 204, 4, 100, 181, 0, 204, 43, 176]
abbrev dktX10_unit_1 : List UInt8 := dkwX10_unit_1 ++ dktX10_unit_2
def dkwX10_unit_0 : List UInt8 := [42, 18, 222, 182, 0, 86, 153, 0, 42, 42, 182, 0, 224, 42, 180, 0, 75, 154, 0, 17, 187, 0, 227, 89]
abbrev dktX10_unit_0 : List UInt8 := dkwX10_unit_0 ++ dktX10_unit_1
theorem dksX10_unit_0 : cX10_unit.data.toList.drop 0 = dktX10_unit_0 := by decide +kernel
theorem dksX10_unit_1 : cX10_unit.data.toList.drop 24 = dktX10_unit_1 := dk_seg dksX10_unit_0 24 rfl rfl
theorem dksX10_unit_2 : cX10_unit.data.toList.drop 48 = dktX10_unit_2 := dk_seg dksX10_unit_1 24 rfl rfl
theorem dksX10_unit_3 : cX10_unit.data.toList.drop 72 = dktX10_unit_3 := dk_seg dksX10_unit_2 24 rfl rfl
theorem dksX10_unit_4 : cX10_unit.data.toList.drop 96 = dktX10_unit_4 := dk_seg dksX10_unit_3 24 rfl rfl
theorem dksX10_unit_5 : cX10_unit.data.toList.drop 119 = dktX10_unit_5 := dk_seg dksX10_unit_4 23 rfl rfl
theorem dksX10_unit_6 : cX10_unit.data.toList.drop 143 = dktX10_unit_6 := dk_seg dksX10_unit_5 24 rfl rfl
theorem dX10_unit_0 : decode cX10_unit 0 = .ok (.aload_n 0, 1) := dk_42 (dk_at dksX10_unit_0 0 rfl rfl)
theorem dX10_unit_1 : decode cX10_unit 1 = .ok (.ldc 222, 2) := dk_18 222 (dk_at dksX10_unit_0 1 rfl rfl)
theorem dX10_unit_3 : decode cX10_unit 3 = .ok (.invokevirtual 86, 3) := dk_182 0 86 (dk_at dksX10_unit_0 3 rfl rfl)
theorem dX10_unit_6 : decode cX10_unit 6 = .ok (.ifCond .eq 42, 3) := dk_153 0 42 (dk_at dksX10_unit_0 6 rfl rfl)
theorem dX10_unit_9 : decode cX10_unit 9 = .ok (.aload_n 0, 1) := dk_42 (dk_at dksX10_unit_0 9 rfl rfl)
theorem dX10_unit_10 : decode cX10_unit 10 = .ok (.invokevirtual 224, 3) := dk_182 0 224 (dk_at dksX10_unit_0 10 rfl rfl)
theorem dX10_unit_13 : decode cX10_unit 13 = .ok (.aload_n 0, 1) := dk_42 (dk_at dksX10_unit_0 13 rfl rfl)
theorem dX10_unit_14 : decode cX10_unit 14 = .ok (.getfield 75, 3) := dk_180 0 75 (dk_at dksX10_unit_0 14 rfl rfl)
theorem dX10_unit_17 : decode cX10_unit 17 = .ok (.ifCond .ne 17, 3) := dk_154 0 17 (dk_at dksX10_unit_0 17 rfl rfl)
theorem dX10_unit_20 : decode cX10_unit 20 = .ok (.new 227, 3) := dk_187 0 227 (dk_at dksX10_unit_0 20 rfl rfl)
theorem dX10_unit_23 : decode cX10_unit 23 = .ok (.dup, 1) := dk_89 (dk_at dksX10_unit_0 23 rfl rfl)
theorem dX10_unit_24 : decode cX10_unit 24 = .ok (.aload_n 0, 1) := dk_42 (dk_at dksX10_unit_1 0 rfl rfl)
theorem dX10_unit_25 : decode cX10_unit 25 = .ok (.invokevirtual 217, 3) := dk_182 0 217 (dk_at dksX10_unit_1 1 rfl rfl)
theorem dX10_unit_28 : decode cX10_unit 28 = .ok (.invokespecial 229, 3) := dk_183 0 229 (dk_at dksX10_unit_1 4 rfl rfl)
theorem dX10_unit_31 : decode cX10_unit 31 = .ok (.goto 4, 3) := dk_167 0 4 (dk_at dksX10_unit_1 7 rfl rfl)
theorem dX10_unit_34 : decode cX10_unit 34 = .ok (.aconst_null, 1) := dk_1 (dk_at dksX10_unit_1 10 rfl rfl)
theorem dX10_unit_35 : decode cX10_unit 35 = .ok (.astore_n 1, 1) := dk_76 (dk_at dksX10_unit_1 11 rfl rfl)
theorem dX10_unit_36 : decode cX10_unit 36 = .ok (.aload_n 0, 1) := dk_42 (dk_at dksX10_unit_1 12 rfl rfl)
theorem dX10_unit_37 : decode cX10_unit 37 = .ok (.dup, 1) := dk_89 (dk_at dksX10_unit_1 13 rfl rfl)
theorem dX10_unit_38 : decode cX10_unit 38 = .ok (.getfield 204, 3) := dk_180 0 204 (dk_at dksX10_unit_1 14 rfl rfl)
theorem dX10_unit_41 : decode cX10_unit 41 = .ok (.iconst 1, 1) := dk_4 (dk_at dksX10_unit_1 17 rfl rfl)
theorem dX10_unit_42 : decode cX10_unit 42 = .ok (.isub, 1) := dk_100 (dk_at dksX10_unit_1 18 rfl rfl)
theorem dX10_unit_43 : decode cX10_unit 43 = .ok (.putfield 204, 3) := dk_181 0 204 (dk_at dksX10_unit_1 19 rfl rfl)
theorem dX10_unit_46 : decode cX10_unit 46 = .ok (.aload_n 1, 1) := dk_43 (dk_at dksX10_unit_1 22 rfl rfl)
theorem dX10_unit_47 : decode cX10_unit 47 = .ok (.areturn, 1) := dk_176 (dk_at dksX10_unit_1 23 rfl rfl)
theorem dX10_unit_48 : decode cX10_unit 48 = .ok (.aload_n 0, 1) := dk_42 (dk_at dksX10_unit_2 0 rfl rfl)
theorem dX10_unit_49 : decode cX10_unit 49 = .ok (.bipush 91, 2) := dk_16 91 (dk_at dksX10_unit_2 1 rfl rfl)
theorem dX10_unit_51 : decode cX10_unit 51 = .ok (.invokevirtual 232, 3) := dk_182 0 232 (dk_at dksX10_unit_2 3 rfl rfl)
theorem dX10_unit_54 : decode cX10_unit 54 = .ok (.ifCond .eq 41, 3) := dk_153 0 41 (dk_at dksX10_unit_2 6 rfl rfl)
theorem dX10_unit_57 : decode cX10_unit 57 = .ok (.aload_n 0, 1) := dk_42 (dk_at dksX10_unit_2 9 rfl rfl)
theorem dX10_unit_58 : decode cX10_unit 58 = .ok (.invokevirtual 224, 3) := dk_182 0 224 (dk_at dksX10_unit_2 10 rfl rfl)
theorem dX10_unit_61 : decode cX10_unit 61 = .ok (.aload_n 0, 1) := dk_42 (dk_at dksX10_unit_2 13 rfl rfl)
theorem dX10_unit_62 : decode cX10_unit 62 = .ok (.getfield 75, 3) := dk_180 0 75 (dk_at dksX10_unit_2 14 rfl rfl)
theorem dX10_unit_65 : decode cX10_unit 65 = .ok (.ifCond .ne 10, 3) := dk_154 0 10 (dk_at dksX10_unit_2 17 rfl rfl)
theorem dX10_unit_68 : decode cX10_unit 68 = .ok (.aload_n 0, 1) := dk_42 (dk_at dksX10_unit_2 20 rfl rfl)
theorem dX10_unit_69 : decode cX10_unit 69 = .ok (.invokevirtual 195, 3) := dk_182 0 195 (dk_at dksX10_unit_2 21 rfl rfl)
theorem dX10_unit_72 : decode cX10_unit 72 = .ok (.goto 4, 3) := dk_167 0 4 (dk_at dksX10_unit_3 0 rfl rfl)
theorem dX10_unit_75 : decode cX10_unit 75 = .ok (.aconst_null, 1) := dk_1 (dk_at dksX10_unit_3 3 rfl rfl)
theorem dX10_unit_76 : decode cX10_unit 76 = .ok (.astore_n 1, 1) := dk_76 (dk_at dksX10_unit_3 4 rfl rfl)
theorem dX10_unit_77 : decode cX10_unit 77 = .ok (.aload_n 0, 1) := dk_42 (dk_at dksX10_unit_3 5 rfl rfl)
theorem dX10_unit_78 : decode cX10_unit 78 = .ok (.bipush 93, 2) := dk_16 93 (dk_at dksX10_unit_3 6 rfl rfl)
theorem dX10_unit_80 : decode cX10_unit 80 = .ok (.invokevirtual 123, 3) := dk_182 0 123 (dk_at dksX10_unit_3 8 rfl rfl)
theorem dX10_unit_83 : decode cX10_unit 83 = .ok (.aload_n 0, 1) := dk_42 (dk_at dksX10_unit_3 11 rfl rfl)
theorem dX10_unit_84 : decode cX10_unit 84 = .ok (.dup, 1) := dk_89 (dk_at dksX10_unit_3 12 rfl rfl)
theorem dX10_unit_85 : decode cX10_unit 85 = .ok (.getfield 204, 3) := dk_180 0 204 (dk_at dksX10_unit_3 13 rfl rfl)
theorem dX10_unit_88 : decode cX10_unit 88 = .ok (.iconst 1, 1) := dk_4 (dk_at dksX10_unit_3 16 rfl rfl)
theorem dX10_unit_89 : decode cX10_unit 89 = .ok (.isub, 1) := dk_100 (dk_at dksX10_unit_3 17 rfl rfl)
theorem dX10_unit_90 : decode cX10_unit 90 = .ok (.putfield 204, 3) := dk_181 0 204 (dk_at dksX10_unit_3 18 rfl rfl)
theorem dX10_unit_93 : decode cX10_unit 93 = .ok (.aload_n 1, 1) := dk_43 (dk_at dksX10_unit_3 21 rfl rfl)
theorem dX10_unit_94 : decode cX10_unit 94 = .ok (.areturn, 1) := dk_176 (dk_at dksX10_unit_3 22 rfl rfl)
theorem dX10_unit_95 : decode cX10_unit 95 = .ok (.aload_n 0, 1) := dk_42 (dk_at dksX10_unit_3 23 rfl rfl)
theorem dX10_unit_96 : decode cX10_unit 96 = .ok (.invokevirtual 235, 3) := dk_182 0 235 (dk_at dksX10_unit_4 0 rfl rfl)
theorem dX10_unit_99 : decode cX10_unit 99 = .ok (.astore_n 1, 1) := dk_76 (dk_at dksX10_unit_4 3 rfl rfl)
theorem dX10_unit_100 : decode cX10_unit 100 = .ok (.aload_n 0, 1) := dk_42 (dk_at dksX10_unit_4 4 rfl rfl)
theorem dX10_unit_101 : decode cX10_unit 101 = .ok (.getfield 55, 3) := dk_180 0 55 (dk_at dksX10_unit_4 5 rfl rfl)
theorem dX10_unit_104 : decode cX10_unit 104 = .ok (.istore_n 2, 1) := dk_61 (dk_at dksX10_unit_4 8 rfl rfl)
theorem dX10_unit_105 : decode cX10_unit 105 = .ok (.aload_n 0, 1) := dk_42 (dk_at dksX10_unit_4 9 rfl rfl)
theorem dX10_unit_106 : decode cX10_unit 106 = .ok (.getfield 75, 3) := dk_180 0 75 (dk_at dksX10_unit_4 10 rfl rfl)
theorem dX10_unit_109 : decode cX10_unit 109 = .ok (.ifCond .ne 26, 3) := dk_154 0 26 (dk_at dksX10_unit_4 13 rfl rfl)
theorem dX10_unit_112 : decode cX10_unit 112 = .ok (.iload_n 2, 1) := dk_28 (dk_at dksX10_unit_4 16 rfl rfl)
theorem dX10_unit_113 : decode cX10_unit 113 = .ok (.bipush 61, 2) := dk_16 61 (dk_at dksX10_unit_4 17 rfl rfl)
theorem dX10_unit_115 : decode cX10_unit 115 = .ok (.if_icmp .eq 20, 3) := dk_159 0 20 (dk_at dksX10_unit_4 19 rfl rfl)
theorem dX10_unit_118 : decode cX10_unit 118 = .ok (.iload_n 2, 1) := dk_28 (dk_at dksX10_unit_4 22 rfl rfl)
theorem dX10_unit_119 : decode cX10_unit 119 = .ok (.bipush 60, 2) := dk_16 60 (dk_at dksX10_unit_5 0 rfl rfl)
theorem dX10_unit_121 : decode cX10_unit 121 = .ok (.if_icmp .eq 14, 3) := dk_159 0 14 (dk_at dksX10_unit_5 2 rfl rfl)
theorem dX10_unit_124 : decode cX10_unit 124 = .ok (.iload_n 2, 1) := dk_28 (dk_at dksX10_unit_5 5 rfl rfl)
theorem dX10_unit_125 : decode cX10_unit 125 = .ok (.bipush 62, 2) := dk_16 62 (dk_at dksX10_unit_5 6 rfl rfl)
theorem dX10_unit_127 : decode cX10_unit 127 = .ok (.if_icmp .eq 8, 3) := dk_159 0 8 (dk_at dksX10_unit_5 8 rfl rfl)
theorem dX10_unit_130 : decode cX10_unit 130 = .ok (.aload_n 0, 1) := dk_42 (dk_at dksX10_unit_5 11 rfl rfl)
theorem dX10_unit_131 : decode cX10_unit 131 = .ok (.iconst 2, 1) := dk_5 (dk_at dksX10_unit_5 12 rfl rfl)
theorem dX10_unit_132 : decode cX10_unit 132 = .ok (.invokevirtual 93, 3) := dk_182 0 93 (dk_at dksX10_unit_5 13 rfl rfl)
theorem dX10_unit_135 : decode cX10_unit 135 = .ok (.aload_n 0, 1) := dk_42 (dk_at dksX10_unit_5 16 rfl rfl)
theorem dX10_unit_136 : decode cX10_unit 136 = .ok (.getfield 75, 3) := dk_180 0 75 (dk_at dksX10_unit_5 17 rfl rfl)
theorem dX10_unit_139 : decode cX10_unit 139 = .ok (.ifCond .ne 7, 3) := dk_154 0 7 (dk_at dksX10_unit_5 20 rfl rfl)
theorem dX10_unit_142 : decode cX10_unit 142 = .ok (.aload_n 0, 1) := dk_42 (dk_at dksX10_unit_5 23 rfl rfl)
theorem dX10_unit_143 : decode cX10_unit 143 = .ok (.invokevirtual 90, 3) := dk_182 0 90 (dk_at dksX10_unit_6 0 rfl rfl)
theorem dX10_unit_146 : decode cX10_unit 146 = .ok (.new 239, 3) := dk_187 0 239 (dk_at dksX10_unit_6 3 rfl rfl)
theorem dX10_unit_149 : decode cX10_unit 149 = .ok (.dup, 1) := dk_89 (dk_at dksX10_unit_6 6 rfl rfl)
theorem dX10_unit_150 : decode cX10_unit 150 = .ok (.aload_n 1, 1) := dk_43 (dk_at dksX10_unit_6 7 rfl rfl)
theorem dX10_unit_151 : decode cX10_unit 151 = .ok (.iload_n 2, 1) := dk_28 (dk_at dksX10_unit_6 8 rfl rfl)
theorem dX10_unit_152 : decode cX10_unit 152 = .ok (.aload_n 0, 1) := dk_42 (dk_at dksX10_unit_6 9 rfl rfl)
theorem dX10_unit_153 : decode cX10_unit 153 = .ok (.invokevirtual 235, 3) := dk_182 0 235 (dk_at dksX10_unit_6 10 rfl rfl)
theorem dX10_unit_156 : decode cX10_unit 156 = .ok (.invokespecial 241, 3) := dk_183 0 241 (dk_at dksX10_unit_6 13 rfl rfl)
theorem dX10_unit_159 : decode cX10_unit 159 = .ok (.areturn, 1) := dk_176 (dk_at dksX10_unit_6 16 rfl rfl)
def dkwX10_goesIn_1 : List UInt8 := [42, 180, 0, 75, 154, 0, 7, 42, 182, 0, 90, 177]
abbrev dktX10_goesIn_1 : List UInt8 := dkwX10_goesIn_1 ++ []
def dkwX10_goesIn_0 : List UInt8 := [42, 180, 0, 204, 16, 6, 160, 0, 8, 42, 7, 182, 0, 93, 42, 89, 180, 0, 204, 4, 96, 181, 0, 204]
abbrev dktX10_goesIn_0 : List UInt8 := dkwX10_goesIn_0 ++ dktX10_goesIn_1
theorem dksX10_goesIn_0 : cX10_goesIn.data.toList.drop 0 = dktX10_goesIn_0 := by decide +kernel
theorem dksX10_goesIn_1 : cX10_goesIn.data.toList.drop 24 = dktX10_goesIn_1 := dk_seg dksX10_goesIn_0 24 rfl rfl
theorem dX10_goesIn_0 : decode cX10_goesIn 0 = .ok (.aload_n 0, 1) := dk_42 (dk_at dksX10_goesIn_0 0 rfl rfl)
theorem dX10_goesIn_1 : decode cX10_goesIn 1 = .ok (.getfield 204, 3) := dk_180 0 204 (dk_at dksX10_goesIn_0 1 rfl rfl)
theorem dX10_goesIn_4 : decode cX10_goesIn 4 = .ok (.bipush 6, 2) := dk_16 6 (dk_at dksX10_goesIn_0 4 rfl rfl)
theorem dX10_goesIn_6 : decode cX10_goesIn 6 = .ok (.if_icmp .ne 8, 3) := dk_160 0 8 (dk_at dksX10_goesIn_0 6 rfl rfl)
theorem dX10_goesIn_9 : decode cX10_goesIn 9 = .ok (.aload_n 0, 1) := dk_42 (dk_at dksX10_goesIn_0 9 rfl rfl)
theorem dX10_goesIn_10 : decode cX10_goesIn 10 = .ok (.iconst 4, 1) := dk_7 (dk_at dksX10_goesIn_0 10 rfl rfl)
theorem dX10_goesIn_11 : decode cX10_goesIn 11 = .ok (.invokevirtual 93, 3) := dk_182 0 93 (dk_at dksX10_goesIn_0 11 rfl rfl)
theorem dX10_goesIn_14 : decode cX10_goesIn 14 = .ok (.aload_n 0, 1) := dk_42 (dk_at dksX10_goesIn_0 14 rfl rfl)
theorem dX10_goesIn_15 : decode cX10_goesIn 15 = .ok (.dup, 1) := dk_89 (dk_at dksX10_goesIn_0 15 rfl rfl)
theorem dX10_goesIn_16 : decode cX10_goesIn 16 = .ok (.getfield 204, 3) := dk_180 0 204 (dk_at dksX10_goesIn_0 16 rfl rfl)
theorem dX10_goesIn_19 : decode cX10_goesIn 19 = .ok (.iconst 1, 1) := dk_4 (dk_at dksX10_goesIn_0 19 rfl rfl)
theorem dX10_goesIn_20 : decode cX10_goesIn 20 = .ok (.iadd, 1) := dk_96 (dk_at dksX10_goesIn_0 20 rfl rfl)
theorem dX10_goesIn_21 : decode cX10_goesIn 21 = .ok (.putfield 204, 3) := dk_181 0 204 (dk_at dksX10_goesIn_0 21 rfl rfl)
theorem dX10_goesIn_24 : decode cX10_goesIn 24 = .ok (.aload_n 0, 1) := dk_42 (dk_at dksX10_goesIn_1 0 rfl rfl)
theorem dX10_goesIn_25 : decode cX10_goesIn 25 = .ok (.getfield 75, 3) := dk_180 0 75 (dk_at dksX10_goesIn_1 1 rfl rfl)
theorem dX10_goesIn_28 : decode cX10_goesIn 28 = .ok (.ifCond .ne 7, 3) := dk_154 0 7 (dk_at dksX10_goesIn_1 4 rfl rfl)
theorem dX10_goesIn_31 : decode cX10_goesIn 31 = .ok (.aload_n 0, 1) := dk_42 (dk_at dksX10_goesIn_1 7 rfl rfl)
theorem dX10_goesIn_32 : decode cX10_goesIn 32 = .ok (.invokevirtual 90, 3) := dk_182 0 90 (dk_at dksX10_goesIn_1 8 rfl rfl)
theorem dX10_goesIn_35 : decode cX10_goesIn 35 = .ok (.return_, 1) := dk_177 (dk_at dksX10_goesIn_1 11 rfl rfl)
def dkwX10_isSign_0 : List UInt8 := [42, 180, 0, 75, 154, 0, 15, 42, 180, 0, 55, 27, 160, 0, 7, 4, 167, 0, 4, 3, 172]
abbrev dktX10_isSign_0 : List UInt8 := dkwX10_isSign_0 ++ []
theorem dksX10_isSign_0 : cX10_isSign.data.toList.drop 0 = dktX10_isSign_0 := by decide +kernel
theorem dX10_isSign_0 : decode cX10_isSign 0 = .ok (.aload_n 0, 1) := dk_42 (dk_at dksX10_isSign_0 0 rfl rfl)
theorem dX10_isSign_1 : decode cX10_isSign 1 = .ok (.getfield 75, 3) := dk_180 0 75 (dk_at dksX10_isSign_0 1 rfl rfl)
theorem dX10_isSign_4 : decode cX10_isSign 4 = .ok (.ifCond .ne 15, 3) := dk_154 0 15 (dk_at dksX10_isSign_0 4 rfl rfl)
theorem dX10_isSign_7 : decode cX10_isSign 7 = .ok (.aload_n 0, 1) := dk_42 (dk_at dksX10_isSign_0 7 rfl rfl)
theorem dX10_isSign_8 : decode cX10_isSign 8 = .ok (.getfield 55, 3) := dk_180 0 55 (dk_at dksX10_isSign_0 8 rfl rfl)
theorem dX10_isSign_11 : decode cX10_isSign 11 = .ok (.iload_n 1, 1) := dk_27 (dk_at dksX10_isSign_0 11 rfl rfl)
theorem dX10_isSign_12 : decode cX10_isSign 12 = .ok (.if_icmp .ne 7, 3) := dk_160 0 7 (dk_at dksX10_isSign_0 12 rfl rfl)
theorem dX10_isSign_15 : decode cX10_isSign 15 = .ok (.iconst 1, 1) := dk_4 (dk_at dksX10_isSign_0 15 rfl rfl)
theorem dX10_isSign_16 : decode cX10_isSign 16 = .ok (.goto 4, 3) := dk_167 0 4 (dk_at dksX10_isSign_0 16 rfl rfl)
theorem dX10_isSign_19 : decode cX10_isSign 19 = .ok (.iconst 0, 1) := dk_3 (dk_at dksX10_isSign_0 19 rfl rfl)
theorem dX10_isSign_20 : decode cX10_isSign 20 = .ok (.ireturn, 1) := dk_172 (dk_at dksX10_isSign_0 20 rfl rfl)
def dkwX10_sum_2 : List UInt8 := [167, 255, 215, 43, 176]
abbrev dktX10_sum_2 : List UInt8 := dkwX10_sum_2 ++ []
def dkwX10_sum_1 : List UInt8 := [180, 0, 55, 61, 42, 182, 0, 90, 187, 0, 247, 89, 43, 28, 42, 182, 0, 244, 183, 0, 249, 76]
abbrev dktX10_sum_1 : List UInt8 := dkwX10_sum_1 ++ dktX10_sum_2
def dkwX10_sum_0 : List UInt8 := [42, 182, 0, 244, 76, 42, 16, 43, 182, 0, 232, 154, 0, 12, 42, 16, 45, 182, 0, 232, 153, 0, 29, 42]
abbrev dktX10_sum_0 : List UInt8 := dkwX10_sum_0 ++ dktX10_sum_1
theorem dksX10_sum_0 : cX10_sum.data.toList.drop 0 = dktX10_sum_0 := by decide +kernel
theorem dksX10_sum_1 : cX10_sum.data.toList.drop 24 = dktX10_sum_1 := dk_seg dksX10_sum_0 24 rfl rfl
theorem dksX10_sum_2 : cX10_sum.data.toList.drop 46 = dktX10_sum_2 := dk_seg dksX10_sum_1 22 rfl rfl
theorem dX10_sum_0 : decode cX10_sum 0 = .ok (.aload_n 0, 1) := dk_42 (dk_at dksX10_sum_0 0 rfl rfl)
theorem dX10_sum_1 : decode cX10_sum 1 = .ok (.invokevirtual 244, 3) := dk_182 0 244 (dk_at dksX10_sum_0 1 rfl rfl)
theorem dX10_sum_4 : decode cX10_sum 4 = .ok (.astore_n 1, 1) := dk_76 (dk_at dksX10_sum_0 4 rfl rfl)
theorem dX10_sum_5 : decode cX10_sum 5 = .ok (.aload_n 0, 1) := dk_42 (dk_at dksX10_sum_0 5 rfl rfl)
theorem dX10_sum_6 : decode cX10_sum 6 = .ok (.bipush 43, 2) := dk_16 43 (dk_at dksX10_sum_0 6 rfl rfl)
theorem dX10_sum_8 : decode cX10_sum 8 = .ok (.invokevirtual 232, 3) := dk_182 0 232 (dk_at dksX10_sum_0 8 rfl rfl)
theorem dX10_sum_11 : decode cX10_sum 11 = .ok (.ifCond .ne 12, 3) := dk_154 0 12 (dk_at dksX10_sum_0 11 rfl rfl)
theorem dX10_sum_14 : decode cX10_sum 14 = .ok (.aload_n 0, 1) := dk_42 (dk_at dksX10_sum_0 14 rfl rfl)
theorem dX10_sum_15 : decode cX10_sum 15 = .ok (.bipush 45, 2) := dk_16 45 (dk_at dksX10_sum_0 15 rfl rfl)
theorem dX10_sum_17 : decode cX10_sum 17 = .ok (.invokevirtual 232, 3) := dk_182 0 232 (dk_at dksX10_sum_0 17 rfl rfl)
theorem dX10_sum_20 : decode cX10_sum 20 = .ok (.ifCond .eq 29, 3) := dk_153 0 29 (dk_at dksX10_sum_0 20 rfl rfl)
theorem dX10_sum_23 : decode cX10_sum 23 = .ok (.aload_n 0, 1) := dk_42 (dk_at dksX10_sum_0 23 rfl rfl)
theorem dX10_sum_24 : decode cX10_sum 24 = .ok (.getfield 55, 3) := dk_180 0 55 (dk_at dksX10_sum_1 0 rfl rfl)
theorem dX10_sum_27 : decode cX10_sum 27 = .ok (.istore_n 2, 1) := dk_61 (dk_at dksX10_sum_1 3 rfl rfl)
theorem dX10_sum_28 : decode cX10_sum 28 = .ok (.aload_n 0, 1) := dk_42 (dk_at dksX10_sum_1 4 rfl rfl)
theorem dX10_sum_29 : decode cX10_sum 29 = .ok (.invokevirtual 90, 3) := dk_182 0 90 (dk_at dksX10_sum_1 5 rfl rfl)
theorem dX10_sum_32 : decode cX10_sum 32 = .ok (.new 247, 3) := dk_187 0 247 (dk_at dksX10_sum_1 8 rfl rfl)
theorem dX10_sum_35 : decode cX10_sum 35 = .ok (.dup, 1) := dk_89 (dk_at dksX10_sum_1 11 rfl rfl)
theorem dX10_sum_36 : decode cX10_sum 36 = .ok (.aload_n 1, 1) := dk_43 (dk_at dksX10_sum_1 12 rfl rfl)
theorem dX10_sum_37 : decode cX10_sum 37 = .ok (.iload_n 2, 1) := dk_28 (dk_at dksX10_sum_1 13 rfl rfl)
theorem dX10_sum_38 : decode cX10_sum 38 = .ok (.aload_n 0, 1) := dk_42 (dk_at dksX10_sum_1 14 rfl rfl)
theorem dX10_sum_39 : decode cX10_sum 39 = .ok (.invokevirtual 244, 3) := dk_182 0 244 (dk_at dksX10_sum_1 15 rfl rfl)
theorem dX10_sum_42 : decode cX10_sum 42 = .ok (.invokespecial 249, 3) := dk_183 0 249 (dk_at dksX10_sum_1 18 rfl rfl)
theorem dX10_sum_45 : decode cX10_sum 45 = .ok (.astore_n 1, 1) := dk_76 (dk_at dksX10_sum_1 21 rfl rfl)
theorem dX10_sum_46 : decode cX10_sum 46 = .ok (.goto (-41), 3) := dk_167 255 215 (dk_at dksX10_sum_2 0 rfl rfl)
theorem dX10_sum_49 : decode cX10_sum 49 = .ok (.aload_n 1, 1) := dk_43 (dk_at dksX10_sum_2 3 rfl rfl)
theorem dX10_sum_50 : decode cX10_sum 50 = .ok (.areturn, 1) := dk_176 (dk_at dksX10_sum_2 4 rfl rfl)
def dkwX10_term_1 : List UInt8 := [16, 42, 42, 182, 0, 250, 183, 0, 249, 76, 167, 255, 228, 43, 176]
abbrev dktX10_term_1 : List UInt8 := dkwX10_term_1 ++ []
def dkwX10_term_0 : List UInt8 := [42, 182, 0, 250, 76, 42, 16, 42, 182, 0, 232, 153, 0, 25, 42, 182, 0, 90, 187, 0, 247, 89, 43]
abbrev dktX10_term_0 : List UInt8 := dkwX10_term_0 ++ dktX10_term_1
theorem dksX10_term_0 : cX10_term.data.toList.drop 0 = dktX10_term_0 := by decide +kernel
theorem dksX10_term_1 : cX10_term.data.toList.drop 23 = dktX10_term_1 := dk_seg dksX10_term_0 23 rfl rfl
theorem dX10_term_0 : decode cX10_term 0 = .ok (.aload_n 0, 1) := dk_42 (dk_at dksX10_term_0 0 rfl rfl)
theorem dX10_term_1 : decode cX10_term 1 = .ok (.invokevirtual 250, 3) := dk_182 0 250 (dk_at dksX10_term_0 1 rfl rfl)
theorem dX10_term_4 : decode cX10_term 4 = .ok (.astore_n 1, 1) := dk_76 (dk_at dksX10_term_0 4 rfl rfl)
theorem dX10_term_5 : decode cX10_term 5 = .ok (.aload_n 0, 1) := dk_42 (dk_at dksX10_term_0 5 rfl rfl)
theorem dX10_term_6 : decode cX10_term 6 = .ok (.bipush 42, 2) := dk_16 42 (dk_at dksX10_term_0 6 rfl rfl)
theorem dX10_term_8 : decode cX10_term 8 = .ok (.invokevirtual 232, 3) := dk_182 0 232 (dk_at dksX10_term_0 8 rfl rfl)
theorem dX10_term_11 : decode cX10_term 11 = .ok (.ifCond .eq 25, 3) := dk_153 0 25 (dk_at dksX10_term_0 11 rfl rfl)
theorem dX10_term_14 : decode cX10_term 14 = .ok (.aload_n 0, 1) := dk_42 (dk_at dksX10_term_0 14 rfl rfl)
theorem dX10_term_15 : decode cX10_term 15 = .ok (.invokevirtual 90, 3) := dk_182 0 90 (dk_at dksX10_term_0 15 rfl rfl)
theorem dX10_term_18 : decode cX10_term 18 = .ok (.new 247, 3) := dk_187 0 247 (dk_at dksX10_term_0 18 rfl rfl)
theorem dX10_term_21 : decode cX10_term 21 = .ok (.dup, 1) := dk_89 (dk_at dksX10_term_0 21 rfl rfl)
theorem dX10_term_22 : decode cX10_term 22 = .ok (.aload_n 1, 1) := dk_43 (dk_at dksX10_term_0 22 rfl rfl)
theorem dX10_term_23 : decode cX10_term 23 = .ok (.bipush 42, 2) := dk_16 42 (dk_at dksX10_term_1 0 rfl rfl)
theorem dX10_term_25 : decode cX10_term 25 = .ok (.aload_n 0, 1) := dk_42 (dk_at dksX10_term_1 2 rfl rfl)
theorem dX10_term_26 : decode cX10_term 26 = .ok (.invokevirtual 250, 3) := dk_182 0 250 (dk_at dksX10_term_1 3 rfl rfl)
theorem dX10_term_29 : decode cX10_term 29 = .ok (.invokespecial 249, 3) := dk_183 0 249 (dk_at dksX10_term_1 6 rfl rfl)
theorem dX10_term_32 : decode cX10_term 32 = .ok (.astore_n 1, 1) := dk_76 (dk_at dksX10_term_1 9 rfl rfl)
theorem dX10_term_33 : decode cX10_term 33 = .ok (.goto (-28), 3) := dk_167 255 228 (dk_at dksX10_term_1 10 rfl rfl)
theorem dX10_term_36 : decode cX10_term 36 = .ok (.aload_n 1, 1) := dk_43 (dk_at dksX10_term_1 13 rfl rfl)
theorem dX10_term_37 : decode cX10_term 37 = .ok (.areturn, 1) := dk_176 (dk_at dksX10_term_1 14 rfl rfl)
def dkwX10_atom_3 : List UInt8 := [182, 0, 123, 42, 89, 180, 0, 204, 4, 100, 181, 0, 204, 44, 176]
abbrev dktX10_atom_3 : List UInt8 := dkwX10_atom_3 ++ []
def dkwX10_atom_2 : List UInt8 := [182, 0, 224, 42, 180, 0, 75, 154, 0, 10, 42, 182, 0, 235, 167, 0, 4, 1, 77, 42, 16, 41]
abbrev dktX10_atom_2 : List UInt8 := dkwX10_atom_2 ++ dktX10_atom_3
def dkwX10_atom_1 : List UInt8 := [182, 0, 232, 154, 0, 19, 187, 1, 12, 89, 42, 3, 17, 3, 231, 182, 0, 106, 183, 1, 14, 176, 42]
abbrev dktX10_atom_1 : List UInt8 := dkwX10_atom_1 ++ dktX10_atom_2
def dkwX10_atom_0 : List UInt8 := [42, 182, 1, 5, 60, 27, 2, 159, 0, 12, 187, 1, 8, 89, 27, 183, 1, 10, 176, 42, 16, 40]
abbrev dktX10_atom_0 : List UInt8 := dkwX10_atom_0 ++ dktX10_atom_1
theorem dksX10_atom_0 : cX10_atom.data.toList.drop 0 = dktX10_atom_0 := by decide +kernel
theorem dksX10_atom_1 : cX10_atom.data.toList.drop 22 = dktX10_atom_1 := dk_seg dksX10_atom_0 22 rfl rfl
theorem dksX10_atom_2 : cX10_atom.data.toList.drop 45 = dktX10_atom_2 := dk_seg dksX10_atom_1 23 rfl rfl
theorem dksX10_atom_3 : cX10_atom.data.toList.drop 67 = dktX10_atom_3 := dk_seg dksX10_atom_2 22 rfl rfl
theorem dX10_atom_0 : decode cX10_atom 0 = .ok (.aload_n 0, 1) := dk_42 (dk_at dksX10_atom_0 0 rfl rfl)
theorem dX10_atom_1 : decode cX10_atom 1 = .ok (.invokevirtual 261, 3) := dk_182 1 5 (dk_at dksX10_atom_0 1 rfl rfl)
theorem dX10_atom_4 : decode cX10_atom 4 = .ok (.istore_n 1, 1) := dk_60 (dk_at dksX10_atom_0 4 rfl rfl)
theorem dX10_atom_5 : decode cX10_atom 5 = .ok (.iload_n 1, 1) := dk_27 (dk_at dksX10_atom_0 5 rfl rfl)
theorem dX10_atom_6 : decode cX10_atom 6 = .ok (.iconst (-1), 1) := dk_2 (dk_at dksX10_atom_0 6 rfl rfl)
theorem dX10_atom_7 : decode cX10_atom 7 = .ok (.if_icmp .eq 12, 3) := dk_159 0 12 (dk_at dksX10_atom_0 7 rfl rfl)
theorem dX10_atom_10 : decode cX10_atom 10 = .ok (.new 264, 3) := dk_187 1 8 (dk_at dksX10_atom_0 10 rfl rfl)
theorem dX10_atom_13 : decode cX10_atom 13 = .ok (.dup, 1) := dk_89 (dk_at dksX10_atom_0 13 rfl rfl)
theorem dX10_atom_14 : decode cX10_atom 14 = .ok (.iload_n 1, 1) := dk_27 (dk_at dksX10_atom_0 14 rfl rfl)
theorem dX10_atom_15 : decode cX10_atom 15 = .ok (.invokespecial 266, 3) := dk_183 1 10 (dk_at dksX10_atom_0 15 rfl rfl)
theorem dX10_atom_18 : decode cX10_atom 18 = .ok (.areturn, 1) := dk_176 (dk_at dksX10_atom_0 18 rfl rfl)
theorem dX10_atom_19 : decode cX10_atom 19 = .ok (.aload_n 0, 1) := dk_42 (dk_at dksX10_atom_0 19 rfl rfl)
theorem dX10_atom_20 : decode cX10_atom 20 = .ok (.bipush 40, 2) := dk_16 40 (dk_at dksX10_atom_0 20 rfl rfl)
theorem dX10_atom_22 : decode cX10_atom 22 = .ok (.invokevirtual 232, 3) := dk_182 0 232 (dk_at dksX10_atom_1 0 rfl rfl)
theorem dX10_atom_25 : decode cX10_atom 25 = .ok (.ifCond .ne 19, 3) := dk_154 0 19 (dk_at dksX10_atom_1 3 rfl rfl)
theorem dX10_atom_28 : decode cX10_atom 28 = .ok (.new 268, 3) := dk_187 1 12 (dk_at dksX10_atom_1 6 rfl rfl)
theorem dX10_atom_31 : decode cX10_atom 31 = .ok (.dup, 1) := dk_89 (dk_at dksX10_atom_1 9 rfl rfl)
theorem dX10_atom_32 : decode cX10_atom 32 = .ok (.aload_n 0, 1) := dk_42 (dk_at dksX10_atom_1 10 rfl rfl)
theorem dX10_atom_33 : decode cX10_atom 33 = .ok (.iconst 0, 1) := dk_3 (dk_at dksX10_atom_1 11 rfl rfl)
theorem dX10_atom_34 : decode cX10_atom 34 = .ok (.sipush 999, 3) := dk_17 3 231 (dk_at dksX10_atom_1 12 rfl rfl)
theorem dX10_atom_37 : decode cX10_atom 37 = .ok (.invokevirtual 106, 3) := dk_182 0 106 (dk_at dksX10_atom_1 15 rfl rfl)
theorem dX10_atom_40 : decode cX10_atom 40 = .ok (.invokespecial 270, 3) := dk_183 1 14 (dk_at dksX10_atom_1 18 rfl rfl)
theorem dX10_atom_43 : decode cX10_atom 43 = .ok (.areturn, 1) := dk_176 (dk_at dksX10_atom_1 21 rfl rfl)
theorem dX10_atom_44 : decode cX10_atom 44 = .ok (.aload_n 0, 1) := dk_42 (dk_at dksX10_atom_1 22 rfl rfl)
theorem dX10_atom_45 : decode cX10_atom 45 = .ok (.invokevirtual 224, 3) := dk_182 0 224 (dk_at dksX10_atom_2 0 rfl rfl)
theorem dX10_atom_48 : decode cX10_atom 48 = .ok (.aload_n 0, 1) := dk_42 (dk_at dksX10_atom_2 3 rfl rfl)
theorem dX10_atom_49 : decode cX10_atom 49 = .ok (.getfield 75, 3) := dk_180 0 75 (dk_at dksX10_atom_2 4 rfl rfl)
theorem dX10_atom_52 : decode cX10_atom 52 = .ok (.ifCond .ne 10, 3) := dk_154 0 10 (dk_at dksX10_atom_2 7 rfl rfl)
theorem dX10_atom_55 : decode cX10_atom 55 = .ok (.aload_n 0, 1) := dk_42 (dk_at dksX10_atom_2 10 rfl rfl)
theorem dX10_atom_56 : decode cX10_atom 56 = .ok (.invokevirtual 235, 3) := dk_182 0 235 (dk_at dksX10_atom_2 11 rfl rfl)
theorem dX10_atom_59 : decode cX10_atom 59 = .ok (.goto 4, 3) := dk_167 0 4 (dk_at dksX10_atom_2 14 rfl rfl)
theorem dX10_atom_62 : decode cX10_atom 62 = .ok (.aconst_null, 1) := dk_1 (dk_at dksX10_atom_2 17 rfl rfl)
theorem dX10_atom_63 : decode cX10_atom 63 = .ok (.astore_n 2, 1) := dk_77 (dk_at dksX10_atom_2 18 rfl rfl)
theorem dX10_atom_64 : decode cX10_atom 64 = .ok (.aload_n 0, 1) := dk_42 (dk_at dksX10_atom_2 19 rfl rfl)
theorem dX10_atom_65 : decode cX10_atom 65 = .ok (.bipush 41, 2) := dk_16 41 (dk_at dksX10_atom_2 20 rfl rfl)
theorem dX10_atom_67 : decode cX10_atom 67 = .ok (.invokevirtual 123, 3) := dk_182 0 123 (dk_at dksX10_atom_3 0 rfl rfl)
theorem dX10_atom_70 : decode cX10_atom 70 = .ok (.aload_n 0, 1) := dk_42 (dk_at dksX10_atom_3 3 rfl rfl)
theorem dX10_atom_71 : decode cX10_atom 71 = .ok (.dup, 1) := dk_89 (dk_at dksX10_atom_3 4 rfl rfl)
theorem dX10_atom_72 : decode cX10_atom 72 = .ok (.getfield 204, 3) := dk_180 0 204 (dk_at dksX10_atom_3 5 rfl rfl)
theorem dX10_atom_75 : decode cX10_atom 75 = .ok (.iconst 1, 1) := dk_4 (dk_at dksX10_atom_3 8 rfl rfl)
theorem dX10_atom_76 : decode cX10_atom 76 = .ok (.isub, 1) := dk_100 (dk_at dksX10_atom_3 9 rfl rfl)
theorem dX10_atom_77 : decode cX10_atom 77 = .ok (.putfield 204, 3) := dk_181 0 204 (dk_at dksX10_atom_3 10 rfl rfl)
theorem dX10_atom_80 : decode cX10_atom 80 = .ok (.aload_n 2, 1) := dk_44 (dk_at dksX10_atom_3 13 rfl rfl)
theorem dX10_atom_81 : decode cX10_atom 81 = .ok (.areturn, 1) := dk_176 (dk_at dksX10_atom_3 14 rfl rfl)
def dkwX10_word_3 : List UInt8 := [182, 0, 97, 153, 0, 7, 8, 167, 0, 4, 2, 172]
abbrev dktX10_word_3 : List UInt8 := dkwX10_word_3 ++ []
def dkwX10_word_2 : List UInt8 := [19, 1, 1, 182, 0, 97, 153, 0, 5, 7, 172, 42, 180, 0, 191, 153, 0, 17, 42, 19, 1, 3]
abbrev dktX10_word_2 : List UInt8 := dkwX10_word_2 ++ dktX10_word_3
def dkwX10_word_1 : List UInt8 := [18, 255, 182, 0, 97, 153, 0, 5, 5, 172, 42, 18, 181, 182, 0, 97, 153, 0, 5, 6, 172, 42]
abbrev dktX10_word_1 : List UInt8 := dkwX10_word_1 ++ dktX10_word_2
def dkwX10_word_0 : List UInt8 := [42, 18, 253, 182, 0, 97, 153, 0, 5, 3, 172, 42, 18, 149, 182, 0, 97, 153, 0, 5, 4, 172, 42]
abbrev dktX10_word_0 : List UInt8 := dkwX10_word_0 ++ dktX10_word_1
theorem dksX10_word_0 : cX10_word.data.toList.drop 0 = dktX10_word_0 := by decide +kernel
theorem dksX10_word_1 : cX10_word.data.toList.drop 23 = dktX10_word_1 := dk_seg dksX10_word_0 23 rfl rfl
theorem dksX10_word_2 : cX10_word.data.toList.drop 45 = dktX10_word_2 := dk_seg dksX10_word_1 22 rfl rfl
theorem dksX10_word_3 : cX10_word.data.toList.drop 67 = dktX10_word_3 := dk_seg dksX10_word_2 22 rfl rfl
theorem dX10_word_0 : decode cX10_word 0 = .ok (.aload_n 0, 1) := dk_42 (dk_at dksX10_word_0 0 rfl rfl)
theorem dX10_word_1 : decode cX10_word 1 = .ok (.ldc 253, 2) := dk_18 253 (dk_at dksX10_word_0 1 rfl rfl)
theorem dX10_word_3 : decode cX10_word 3 = .ok (.invokevirtual 97, 3) := dk_182 0 97 (dk_at dksX10_word_0 3 rfl rfl)
theorem dX10_word_6 : decode cX10_word 6 = .ok (.ifCond .eq 5, 3) := dk_153 0 5 (dk_at dksX10_word_0 6 rfl rfl)
theorem dX10_word_9 : decode cX10_word 9 = .ok (.iconst 0, 1) := dk_3 (dk_at dksX10_word_0 9 rfl rfl)
theorem dX10_word_10 : decode cX10_word 10 = .ok (.ireturn, 1) := dk_172 (dk_at dksX10_word_0 10 rfl rfl)
theorem dX10_word_11 : decode cX10_word 11 = .ok (.aload_n 0, 1) := dk_42 (dk_at dksX10_word_0 11 rfl rfl)
theorem dX10_word_12 : decode cX10_word 12 = .ok (.ldc 149, 2) := dk_18 149 (dk_at dksX10_word_0 12 rfl rfl)
theorem dX10_word_14 : decode cX10_word 14 = .ok (.invokevirtual 97, 3) := dk_182 0 97 (dk_at dksX10_word_0 14 rfl rfl)
theorem dX10_word_17 : decode cX10_word 17 = .ok (.ifCond .eq 5, 3) := dk_153 0 5 (dk_at dksX10_word_0 17 rfl rfl)
theorem dX10_word_20 : decode cX10_word 20 = .ok (.iconst 1, 1) := dk_4 (dk_at dksX10_word_0 20 rfl rfl)
theorem dX10_word_21 : decode cX10_word 21 = .ok (.ireturn, 1) := dk_172 (dk_at dksX10_word_0 21 rfl rfl)
theorem dX10_word_22 : decode cX10_word 22 = .ok (.aload_n 0, 1) := dk_42 (dk_at dksX10_word_0 22 rfl rfl)
theorem dX10_word_23 : decode cX10_word 23 = .ok (.ldc 255, 2) := dk_18 255 (dk_at dksX10_word_1 0 rfl rfl)
theorem dX10_word_25 : decode cX10_word 25 = .ok (.invokevirtual 97, 3) := dk_182 0 97 (dk_at dksX10_word_1 2 rfl rfl)
theorem dX10_word_28 : decode cX10_word 28 = .ok (.ifCond .eq 5, 3) := dk_153 0 5 (dk_at dksX10_word_1 5 rfl rfl)
theorem dX10_word_31 : decode cX10_word 31 = .ok (.iconst 2, 1) := dk_5 (dk_at dksX10_word_1 8 rfl rfl)
theorem dX10_word_32 : decode cX10_word 32 = .ok (.ireturn, 1) := dk_172 (dk_at dksX10_word_1 9 rfl rfl)
theorem dX10_word_33 : decode cX10_word 33 = .ok (.aload_n 0, 1) := dk_42 (dk_at dksX10_word_1 10 rfl rfl)
theorem dX10_word_34 : decode cX10_word 34 = .ok (.ldc 181, 2) := dk_18 181 (dk_at dksX10_word_1 11 rfl rfl)
theorem dX10_word_36 : decode cX10_word 36 = .ok (.invokevirtual 97, 3) := dk_182 0 97 (dk_at dksX10_word_1 13 rfl rfl)
theorem dX10_word_39 : decode cX10_word 39 = .ok (.ifCond .eq 5, 3) := dk_153 0 5 (dk_at dksX10_word_1 16 rfl rfl)
theorem dX10_word_42 : decode cX10_word 42 = .ok (.iconst 3, 1) := dk_6 (dk_at dksX10_word_1 19 rfl rfl)
theorem dX10_word_43 : decode cX10_word 43 = .ok (.ireturn, 1) := dk_172 (dk_at dksX10_word_1 20 rfl rfl)
theorem dX10_word_44 : decode cX10_word 44 = .ok (.aload_n 0, 1) := dk_42 (dk_at dksX10_word_1 21 rfl rfl)
theorem dX10_word_45 : decode cX10_word 45 = .ok (.ldc_w 257, 3) := dk_19 1 1 (dk_at dksX10_word_2 0 rfl rfl)
theorem dX10_word_48 : decode cX10_word 48 = .ok (.invokevirtual 97, 3) := dk_182 0 97 (dk_at dksX10_word_2 3 rfl rfl)
theorem dX10_word_51 : decode cX10_word 51 = .ok (.ifCond .eq 5, 3) := dk_153 0 5 (dk_at dksX10_word_2 6 rfl rfl)
theorem dX10_word_54 : decode cX10_word 54 = .ok (.iconst 4, 1) := dk_7 (dk_at dksX10_word_2 9 rfl rfl)
theorem dX10_word_55 : decode cX10_word 55 = .ok (.ireturn, 1) := dk_172 (dk_at dksX10_word_2 10 rfl rfl)
theorem dX10_word_56 : decode cX10_word 56 = .ok (.aload_n 0, 1) := dk_42 (dk_at dksX10_word_2 11 rfl rfl)
theorem dX10_word_57 : decode cX10_word 57 = .ok (.getfield 191, 3) := dk_180 0 191 (dk_at dksX10_word_2 12 rfl rfl)
theorem dX10_word_60 : decode cX10_word 60 = .ok (.ifCond .eq 17, 3) := dk_153 0 17 (dk_at dksX10_word_2 15 rfl rfl)
theorem dX10_word_63 : decode cX10_word 63 = .ok (.aload_n 0, 1) := dk_42 (dk_at dksX10_word_2 18 rfl rfl)
theorem dX10_word_64 : decode cX10_word 64 = .ok (.ldc_w 259, 3) := dk_19 1 3 (dk_at dksX10_word_2 19 rfl rfl)
theorem dX10_word_67 : decode cX10_word 67 = .ok (.invokevirtual 97, 3) := dk_182 0 97 (dk_at dksX10_word_3 0 rfl rfl)
theorem dX10_word_70 : decode cX10_word 70 = .ok (.ifCond .eq 7, 3) := dk_153 0 7 (dk_at dksX10_word_3 3 rfl rfl)
theorem dX10_word_73 : decode cX10_word 73 = .ok (.iconst 5, 1) := dk_8 (dk_at dksX10_word_3 6 rfl rfl)
theorem dX10_word_74 : decode cX10_word 74 = .ok (.goto 4, 3) := dk_167 0 4 (dk_at dksX10_word_3 7 rfl rfl)
theorem dX10_word_77 : decode cX10_word 77 = .ok (.iconst (-1), 1) := dk_2 (dk_at dksX10_word_3 10 rfl rfl)
theorem dX10_word_78 : decode cX10_word 78 = .ok (.ireturn, 1) := dk_172 (dk_at dksX10_word_3 11 rfl rfl)
def dkwX10_serves_1 : List UInt8 := [180, 0, 18, 43, 181, 0, 202, 177]
abbrev dktX10_serves_1 : List UInt8 := dkwX10_serves_1 ++ []
def dkwX10_serves_0 : List UInt8 := [42, 3, 181, 0, 191, 42, 16, 58, 182, 0, 123, 42, 182, 0, 195, 76, 42, 180, 0, 75, 154, 0, 11, 42]
abbrev dktX10_serves_0 : List UInt8 := dkwX10_serves_0 ++ dktX10_serves_1
theorem dksX10_serves_0 : cX10_serves.data.toList.drop 0 = dktX10_serves_0 := by decide +kernel
theorem dksX10_serves_1 : cX10_serves.data.toList.drop 24 = dktX10_serves_1 := dk_seg dksX10_serves_0 24 rfl rfl
theorem dX10_serves_0 : decode cX10_serves 0 = .ok (.aload_n 0, 1) := dk_42 (dk_at dksX10_serves_0 0 rfl rfl)
theorem dX10_serves_1 : decode cX10_serves 1 = .ok (.iconst 0, 1) := dk_3 (dk_at dksX10_serves_0 1 rfl rfl)
theorem dX10_serves_2 : decode cX10_serves 2 = .ok (.putfield 191, 3) := dk_181 0 191 (dk_at dksX10_serves_0 2 rfl rfl)
theorem dX10_serves_5 : decode cX10_serves 5 = .ok (.aload_n 0, 1) := dk_42 (dk_at dksX10_serves_0 5 rfl rfl)
theorem dX10_serves_6 : decode cX10_serves 6 = .ok (.bipush 58, 2) := dk_16 58 (dk_at dksX10_serves_0 6 rfl rfl)
theorem dX10_serves_8 : decode cX10_serves 8 = .ok (.invokevirtual 123, 3) := dk_182 0 123 (dk_at dksX10_serves_0 8 rfl rfl)
theorem dX10_serves_11 : decode cX10_serves 11 = .ok (.aload_n 0, 1) := dk_42 (dk_at dksX10_serves_0 11 rfl rfl)
theorem dX10_serves_12 : decode cX10_serves 12 = .ok (.invokevirtual 195, 3) := dk_182 0 195 (dk_at dksX10_serves_0 12 rfl rfl)
theorem dX10_serves_15 : decode cX10_serves 15 = .ok (.astore_n 1, 1) := dk_76 (dk_at dksX10_serves_0 15 rfl rfl)
theorem dX10_serves_16 : decode cX10_serves 16 = .ok (.aload_n 0, 1) := dk_42 (dk_at dksX10_serves_0 16 rfl rfl)
theorem dX10_serves_17 : decode cX10_serves 17 = .ok (.getfield 75, 3) := dk_180 0 75 (dk_at dksX10_serves_0 17 rfl rfl)
theorem dX10_serves_20 : decode cX10_serves 20 = .ok (.ifCond .ne 11, 3) := dk_154 0 11 (dk_at dksX10_serves_0 20 rfl rfl)
theorem dX10_serves_23 : decode cX10_serves 23 = .ok (.aload_n 0, 1) := dk_42 (dk_at dksX10_serves_0 23 rfl rfl)
theorem dX10_serves_24 : decode cX10_serves 24 = .ok (.getfield 18, 3) := dk_180 0 18 (dk_at dksX10_serves_1 0 rfl rfl)
theorem dX10_serves_27 : decode cX10_serves 27 = .ok (.aload_n 1, 1) := dk_43 (dk_at dksX10_serves_1 3 rfl rfl)
theorem dX10_serves_28 : decode cX10_serves 28 = .ok (.putfield 202, 3) := dk_181 0 202 (dk_at dksX10_serves_1 4 rfl rfl)
theorem dX10_serves_31 : decode cX10_serves 31 = .ok (.return_, 1) := dk_177 (dk_at dksX10_serves_1 7 rfl rfl)
theorem dX11_init_0 : decode cX11_init 0 = .ok (.aload_n 0, 1) := by decide +kernel
theorem dX11_init_1 : decode cX11_init 1 = .ok (.invokespecial 1, 3) := by decide +kernel
theorem dX11_init_4 : decode cX11_init 4 = .ok (.return_, 1) := by decide +kernel
def dkwX12_init_0 : List UInt8 := [42, 183, 0, 1, 42, 43, 181, 0, 7, 177]
abbrev dktX12_init_0 : List UInt8 := dkwX12_init_0 ++ []
theorem dksX12_init_0 : cX12_init.data.toList.drop 0 = dktX12_init_0 := by decide +kernel
theorem dX12_init_0 : decode cX12_init 0 = .ok (.aload_n 0, 1) := dk_42 (dk_at dksX12_init_0 0 rfl rfl)
theorem dX12_init_1 : decode cX12_init 1 = .ok (.invokespecial 1, 3) := dk_183 0 1 (dk_at dksX12_init_0 1 rfl rfl)
theorem dX12_init_4 : decode cX12_init 4 = .ok (.aload_n 0, 1) := dk_42 (dk_at dksX12_init_0 4 rfl rfl)
theorem dX12_init_5 : decode cX12_init 5 = .ok (.aload_n 1, 1) := dk_43 (dk_at dksX12_init_0 5 rfl rfl)
theorem dX12_init_6 : decode cX12_init 6 = .ok (.putfield 7, 3) := dk_181 0 7 (dk_at dksX12_init_0 6 rfl rfl)
theorem dX12_init_9 : decode cX12_init 9 = .ok (.return_, 1) := dk_177 (dk_at dksX12_init_0 9 rfl rfl)
def dkwX12_holds_0 : List UInt8 := [42, 180, 0, 7, 43, 182, 0, 13, 154, 0, 7, 4, 167, 0, 4, 3, 172]
abbrev dktX12_holds_0 : List UInt8 := dkwX12_holds_0 ++ []
theorem dksX12_holds_0 : cX12_holds.data.toList.drop 0 = dktX12_holds_0 := by decide +kernel
theorem dX12_holds_0 : decode cX12_holds 0 = .ok (.aload_n 0, 1) := dk_42 (dk_at dksX12_holds_0 0 rfl rfl)
theorem dX12_holds_1 : decode cX12_holds 1 = .ok (.getfield 7, 3) := dk_180 0 7 (dk_at dksX12_holds_0 1 rfl rfl)
theorem dX12_holds_4 : decode cX12_holds 4 = .ok (.aload_n 1, 1) := dk_43 (dk_at dksX12_holds_0 4 rfl rfl)
theorem dX12_holds_5 : decode cX12_holds 5 = .ok (.invokevirtual 13, 3) := dk_182 0 13 (dk_at dksX12_holds_0 5 rfl rfl)
theorem dX12_holds_8 : decode cX12_holds 8 = .ok (.ifCond .ne 7, 3) := dk_154 0 7 (dk_at dksX12_holds_0 8 rfl rfl)
theorem dX12_holds_11 : decode cX12_holds 11 = .ok (.iconst 1, 1) := dk_4 (dk_at dksX12_holds_0 11 rfl rfl)
theorem dX12_holds_12 : decode cX12_holds 12 = .ok (.goto 4, 3) := dk_167 0 4 (dk_at dksX12_holds_0 12 rfl rfl)
theorem dX12_holds_15 : decode cX12_holds 15 = .ok (.iconst 0, 1) := dk_3 (dk_at dksX12_holds_0 15 rfl rfl)
theorem dX12_holds_16 : decode cX12_holds 16 = .ok (.ireturn, 1) := dk_172 (dk_at dksX12_holds_0 16 rfl rfl)
theorem dX13_init_0 : decode cX13_init 0 = .ok (.aload_n 0, 1) := by decide +kernel
theorem dX13_init_1 : decode cX13_init 1 = .ok (.invokespecial 1, 3) := by decide +kernel
theorem dX13_init_4 : decode cX13_init 4 = .ok (.return_, 1) := by decide +kernel
def dkwX14_init_0 : List UInt8 := [42, 183, 0, 1, 42, 27, 181, 0, 7, 177]
abbrev dktX14_init_0 : List UInt8 := dkwX14_init_0 ++ []
theorem dksX14_init_0 : cX14_init.data.toList.drop 0 = dktX14_init_0 := by decide +kernel
theorem dX14_init_0 : decode cX14_init 0 = .ok (.aload_n 0, 1) := dk_42 (dk_at dksX14_init_0 0 rfl rfl)
theorem dX14_init_1 : decode cX14_init 1 = .ok (.invokespecial 1, 3) := dk_183 0 1 (dk_at dksX14_init_0 1 rfl rfl)
theorem dX14_init_4 : decode cX14_init 4 = .ok (.aload_n 0, 1) := dk_42 (dk_at dksX14_init_0 4 rfl rfl)
theorem dX14_init_5 : decode cX14_init 5 = .ok (.iload_n 1, 1) := dk_27 (dk_at dksX14_init_0 5 rfl rfl)
theorem dX14_init_6 : decode cX14_init 6 = .ok (.putfield 7, 3) := dk_181 0 7 (dk_at dksX14_init_0 6 rfl rfl)
theorem dX14_init_9 : decode cX14_init 9 = .ok (.return_, 1) := dk_177 (dk_at dksX14_init_0 9 rfl rfl)
def dkwX14_value_0 : List UInt8 := [43, 42, 180, 0, 7, 46, 172]
abbrev dktX14_value_0 : List UInt8 := dkwX14_value_0 ++ []
theorem dksX14_value_0 : cX14_value.data.toList.drop 0 = dktX14_value_0 := by decide +kernel
theorem dX14_value_0 : decode cX14_value 0 = .ok (.aload_n 1, 1) := dk_43 (dk_at dksX14_value_0 0 rfl rfl)
theorem dX14_value_1 : decode cX14_value 1 = .ok (.aload_n 0, 1) := dk_42 (dk_at dksX14_value_0 1 rfl rfl)
theorem dX14_value_2 : decode cX14_value 2 = .ok (.getfield 7, 3) := dk_180 0 7 (dk_at dksX14_value_0 2 rfl rfl)
theorem dX14_value_5 : decode cX14_value 5 = .ok (.iaload, 1) := dk_46 (dk_at dksX14_value_0 5 rfl rfl)
theorem dX14_value_6 : decode cX14_value 6 = .ok (.ireturn, 1) := dk_172 (dk_at dksX14_value_0 6 rfl rfl)
def dkwX15_init_0 : List UInt8 := [42, 183, 0, 1, 42, 27, 181, 0, 7, 177]
abbrev dktX15_init_0 : List UInt8 := dkwX15_init_0 ++ []
theorem dksX15_init_0 : cX15_init.data.toList.drop 0 = dktX15_init_0 := by decide +kernel
theorem dX15_init_0 : decode cX15_init 0 = .ok (.aload_n 0, 1) := dk_42 (dk_at dksX15_init_0 0 rfl rfl)
theorem dX15_init_1 : decode cX15_init 1 = .ok (.invokespecial 1, 3) := dk_183 0 1 (dk_at dksX15_init_0 1 rfl rfl)
theorem dX15_init_4 : decode cX15_init 4 = .ok (.aload_n 0, 1) := dk_42 (dk_at dksX15_init_0 4 rfl rfl)
theorem dX15_init_5 : decode cX15_init 5 = .ok (.iload_n 1, 1) := dk_27 (dk_at dksX15_init_0 5 rfl rfl)
theorem dX15_init_6 : decode cX15_init 6 = .ok (.putfield 7, 3) := dk_181 0 7 (dk_at dksX15_init_0 6 rfl rfl)
theorem dX15_init_9 : decode cX15_init 9 = .ok (.return_, 1) := dk_177 (dk_at dksX15_init_0 9 rfl rfl)
theorem dX15_value_0 : decode cX15_value 0 = .ok (.aload_n 0, 1) := by decide +kernel
theorem dX15_value_1 : decode cX15_value 1 = .ok (.getfield 7, 3) := by decide +kernel
theorem dX15_value_4 : decode cX15_value 4 = .ok (.ireturn, 1) := by decide +kernel
def dkwX16_init_0 : List UInt8 := [42, 183, 0, 3, 42, 43, 181, 0, 9, 42, 28, 181, 0, 15, 42, 45, 181, 0, 19, 177]
abbrev dktX16_init_0 : List UInt8 := dkwX16_init_0 ++ []
theorem dksX16_init_0 : cX16_init.data.toList.drop 0 = dktX16_init_0 := by decide +kernel
theorem dX16_init_0 : decode cX16_init 0 = .ok (.aload_n 0, 1) := dk_42 (dk_at dksX16_init_0 0 rfl rfl)
theorem dX16_init_1 : decode cX16_init 1 = .ok (.invokespecial 3, 3) := dk_183 0 3 (dk_at dksX16_init_0 1 rfl rfl)
theorem dX16_init_4 : decode cX16_init 4 = .ok (.aload_n 0, 1) := dk_42 (dk_at dksX16_init_0 4 rfl rfl)
theorem dX16_init_5 : decode cX16_init 5 = .ok (.aload_n 1, 1) := dk_43 (dk_at dksX16_init_0 5 rfl rfl)
theorem dX16_init_6 : decode cX16_init 6 = .ok (.putfield 9, 3) := dk_181 0 9 (dk_at dksX16_init_0 6 rfl rfl)
theorem dX16_init_9 : decode cX16_init 9 = .ok (.aload_n 0, 1) := dk_42 (dk_at dksX16_init_0 9 rfl rfl)
theorem dX16_init_10 : decode cX16_init 10 = .ok (.iload_n 2, 1) := dk_28 (dk_at dksX16_init_0 10 rfl rfl)
theorem dX16_init_11 : decode cX16_init 11 = .ok (.putfield 15, 3) := dk_181 0 15 (dk_at dksX16_init_0 11 rfl rfl)
theorem dX16_init_14 : decode cX16_init 14 = .ok (.aload_n 0, 1) := dk_42 (dk_at dksX16_init_0 14 rfl rfl)
theorem dX16_init_15 : decode cX16_init 15 = .ok (.aload_n 3, 1) := dk_45 (dk_at dksX16_init_0 15 rfl rfl)
theorem dX16_init_16 : decode cX16_init 16 = .ok (.putfield 19, 3) := dk_181 0 19 (dk_at dksX16_init_0 16 rfl rfl)
theorem dX16_init_19 : decode cX16_init 19 = .ok (.return_, 1) := dk_177 (dk_at dksX16_init_0 19 rfl rfl)
def dkwX16_value_3 : List UInt8 := [184, 0, 36, 136, 172]
abbrev dktX16_value_3 : List UInt8 := dkwX16_value_3 ++ []
def dkwX16_value_2 : List UInt8 := [32, 22, 4, 101, 167, 0, 7, 32, 22, 4, 105, 55, 6, 20, 0, 26, 20, 0, 28, 22, 6, 184, 0, 30]
abbrev dktX16_value_2 : List UInt8 := dkwX16_value_2 ++ dktX16_value_3
def dkwX16_value_1 : List UInt8 := [180, 0, 15, 16, 43, 160, 0, 10, 32, 22, 4, 97, 167, 0, 23, 42, 180, 0, 15, 16, 45, 160, 0, 10]
abbrev dktX16_value_1 : List UInt8 := dkwX16_value_1 ++ dktX16_value_2
def dkwX16_value_0 : List UInt8 := [42, 180, 0, 9, 43, 182, 0, 22, 133, 65, 42, 180, 0, 19, 43, 182, 0, 22, 133, 55, 4, 42]
abbrev dktX16_value_0 : List UInt8 := dkwX16_value_0 ++ dktX16_value_1
theorem dksX16_value_0 : cX16_value.data.toList.drop 0 = dktX16_value_0 := by decide +kernel
theorem dksX16_value_1 : cX16_value.data.toList.drop 22 = dktX16_value_1 := dk_seg dksX16_value_0 22 rfl rfl
theorem dksX16_value_2 : cX16_value.data.toList.drop 46 = dktX16_value_2 := dk_seg dksX16_value_1 24 rfl rfl
theorem dksX16_value_3 : cX16_value.data.toList.drop 70 = dktX16_value_3 := dk_seg dksX16_value_2 24 rfl rfl
theorem dX16_value_0 : decode cX16_value 0 = .ok (.aload_n 0, 1) := dk_42 (dk_at dksX16_value_0 0 rfl rfl)
theorem dX16_value_1 : decode cX16_value 1 = .ok (.getfield 9, 3) := dk_180 0 9 (dk_at dksX16_value_0 1 rfl rfl)
theorem dX16_value_4 : decode cX16_value 4 = .ok (.aload_n 1, 1) := dk_43 (dk_at dksX16_value_0 4 rfl rfl)
theorem dX16_value_5 : decode cX16_value 5 = .ok (.invokevirtual 22, 3) := dk_182 0 22 (dk_at dksX16_value_0 5 rfl rfl)
theorem dX16_value_8 : decode cX16_value 8 = .ok (.i2l, 1) := dk_133 (dk_at dksX16_value_0 8 rfl rfl)
theorem dX16_value_9 : decode cX16_value 9 = .ok (.lstore_n 2, 1) := dk_65 (dk_at dksX16_value_0 9 rfl rfl)
theorem dX16_value_10 : decode cX16_value 10 = .ok (.aload_n 0, 1) := dk_42 (dk_at dksX16_value_0 10 rfl rfl)
theorem dX16_value_11 : decode cX16_value 11 = .ok (.getfield 19, 3) := dk_180 0 19 (dk_at dksX16_value_0 11 rfl rfl)
theorem dX16_value_14 : decode cX16_value 14 = .ok (.aload_n 1, 1) := dk_43 (dk_at dksX16_value_0 14 rfl rfl)
theorem dX16_value_15 : decode cX16_value 15 = .ok (.invokevirtual 22, 3) := dk_182 0 22 (dk_at dksX16_value_0 15 rfl rfl)
theorem dX16_value_18 : decode cX16_value 18 = .ok (.i2l, 1) := dk_133 (dk_at dksX16_value_0 18 rfl rfl)
theorem dX16_value_19 : decode cX16_value 19 = .ok (.lstore 4, 2) := dk_55 4 (dk_at dksX16_value_0 19 rfl rfl)
theorem dX16_value_21 : decode cX16_value 21 = .ok (.aload_n 0, 1) := dk_42 (dk_at dksX16_value_0 21 rfl rfl)
theorem dX16_value_22 : decode cX16_value 22 = .ok (.getfield 15, 3) := dk_180 0 15 (dk_at dksX16_value_1 0 rfl rfl)
theorem dX16_value_25 : decode cX16_value 25 = .ok (.bipush 43, 2) := dk_16 43 (dk_at dksX16_value_1 3 rfl rfl)
theorem dX16_value_27 : decode cX16_value 27 = .ok (.if_icmp .ne 10, 3) := dk_160 0 10 (dk_at dksX16_value_1 5 rfl rfl)
theorem dX16_value_30 : decode cX16_value 30 = .ok (.lload_n 2, 1) := dk_32 (dk_at dksX16_value_1 8 rfl rfl)
theorem dX16_value_31 : decode cX16_value 31 = .ok (.lload 4, 2) := dk_22 4 (dk_at dksX16_value_1 9 rfl rfl)
theorem dX16_value_33 : decode cX16_value 33 = .ok (.ladd, 1) := dk_97 (dk_at dksX16_value_1 11 rfl rfl)
theorem dX16_value_34 : decode cX16_value 34 = .ok (.goto 23, 3) := dk_167 0 23 (dk_at dksX16_value_1 12 rfl rfl)
theorem dX16_value_37 : decode cX16_value 37 = .ok (.aload_n 0, 1) := dk_42 (dk_at dksX16_value_1 15 rfl rfl)
theorem dX16_value_38 : decode cX16_value 38 = .ok (.getfield 15, 3) := dk_180 0 15 (dk_at dksX16_value_1 16 rfl rfl)
theorem dX16_value_41 : decode cX16_value 41 = .ok (.bipush 45, 2) := dk_16 45 (dk_at dksX16_value_1 19 rfl rfl)
theorem dX16_value_43 : decode cX16_value 43 = .ok (.if_icmp .ne 10, 3) := dk_160 0 10 (dk_at dksX16_value_1 21 rfl rfl)
theorem dX16_value_46 : decode cX16_value 46 = .ok (.lload_n 2, 1) := dk_32 (dk_at dksX16_value_2 0 rfl rfl)
theorem dX16_value_47 : decode cX16_value 47 = .ok (.lload 4, 2) := dk_22 4 (dk_at dksX16_value_2 1 rfl rfl)
theorem dX16_value_49 : decode cX16_value 49 = .ok (.lsub, 1) := dk_101 (dk_at dksX16_value_2 3 rfl rfl)
theorem dX16_value_50 : decode cX16_value 50 = .ok (.goto 7, 3) := dk_167 0 7 (dk_at dksX16_value_2 4 rfl rfl)
theorem dX16_value_53 : decode cX16_value 53 = .ok (.lload_n 2, 1) := dk_32 (dk_at dksX16_value_2 7 rfl rfl)
theorem dX16_value_54 : decode cX16_value 54 = .ok (.lload 4, 2) := dk_22 4 (dk_at dksX16_value_2 8 rfl rfl)
theorem dX16_value_56 : decode cX16_value 56 = .ok (.lmul, 1) := dk_105 (dk_at dksX16_value_2 10 rfl rfl)
theorem dX16_value_57 : decode cX16_value 57 = .ok (.lstore 6, 2) := dk_55 6 (dk_at dksX16_value_2 11 rfl rfl)
theorem dX16_value_59 : decode cX16_value 59 = .ok (.ldc2_w 26, 3) := dk_20 0 26 (dk_at dksX16_value_2 13 rfl rfl)
theorem dX16_value_62 : decode cX16_value 62 = .ok (.ldc2_w 28, 3) := dk_20 0 28 (dk_at dksX16_value_2 16 rfl rfl)
theorem dX16_value_65 : decode cX16_value 65 = .ok (.lload 6, 2) := dk_22 6 (dk_at dksX16_value_2 19 rfl rfl)
theorem dX16_value_67 : decode cX16_value 67 = .ok (.invokestatic 30, 3) := dk_184 0 30 (dk_at dksX16_value_2 21 rfl rfl)
theorem dX16_value_70 : decode cX16_value 70 = .ok (.invokestatic 36, 3) := dk_184 0 36 (dk_at dksX16_value_3 0 rfl rfl)
theorem dX16_value_73 : decode cX16_value 73 = .ok (.l2i, 1) := dk_136 (dk_at dksX16_value_3 3 rfl rfl)
theorem dX16_value_74 : decode cX16_value 74 = .ok (.ireturn, 1) := dk_172 (dk_at dksX16_value_3 4 rfl rfl)
def dkwX17_init_0 : List UInt8 := [42, 183, 0, 1, 42, 43, 181, 0, 7, 42, 28, 181, 0, 13, 42, 45, 181, 0, 17, 177]
abbrev dktX17_init_0 : List UInt8 := dkwX17_init_0 ++ []
theorem dksX17_init_0 : cX17_init.data.toList.drop 0 = dktX17_init_0 := by decide +kernel
theorem dX17_init_0 : decode cX17_init 0 = .ok (.aload_n 0, 1) := dk_42 (dk_at dksX17_init_0 0 rfl rfl)
theorem dX17_init_1 : decode cX17_init 1 = .ok (.invokespecial 1, 3) := dk_183 0 1 (dk_at dksX17_init_0 1 rfl rfl)
theorem dX17_init_4 : decode cX17_init 4 = .ok (.aload_n 0, 1) := dk_42 (dk_at dksX17_init_0 4 rfl rfl)
theorem dX17_init_5 : decode cX17_init 5 = .ok (.aload_n 1, 1) := dk_43 (dk_at dksX17_init_0 5 rfl rfl)
theorem dX17_init_6 : decode cX17_init 6 = .ok (.putfield 7, 3) := dk_181 0 7 (dk_at dksX17_init_0 6 rfl rfl)
theorem dX17_init_9 : decode cX17_init 9 = .ok (.aload_n 0, 1) := dk_42 (dk_at dksX17_init_0 9 rfl rfl)
theorem dX17_init_10 : decode cX17_init 10 = .ok (.iload_n 2, 1) := dk_28 (dk_at dksX17_init_0 10 rfl rfl)
theorem dX17_init_11 : decode cX17_init 11 = .ok (.putfield 13, 3) := dk_181 0 13 (dk_at dksX17_init_0 11 rfl rfl)
theorem dX17_init_14 : decode cX17_init 14 = .ok (.aload_n 0, 1) := dk_42 (dk_at dksX17_init_0 14 rfl rfl)
theorem dX17_init_15 : decode cX17_init 15 = .ok (.aload_n 3, 1) := dk_45 (dk_at dksX17_init_0 15 rfl rfl)
theorem dX17_init_16 : decode cX17_init 16 = .ok (.putfield 17, 3) := dk_181 0 17 (dk_at dksX17_init_0 16 rfl rfl)
theorem dX17_init_19 : decode cX17_init 19 = .ok (.return_, 1) := dk_177 (dk_at dksX17_init_0 19 rfl rfl)
def dkwX17_holds_3 : List UInt8 := [167, 0, 4, 3, 172]
abbrev dktX17_holds_3 : List UInt8 := dkwX17_holds_3 ++ []
def dkwX17_holds_2 : List UInt8 := [160, 0, 16, 28, 29, 162, 0, 7, 4, 167, 0, 17, 3, 167, 0, 13, 28, 29, 164, 0, 7, 4]
abbrev dktX17_holds_2 : List UInt8 := dkwX17_holds_2 ++ dktX17_holds_3
def dkwX17_holds_1 : List UInt8 := [160, 0, 16, 28, 29, 160, 0, 7, 4, 167, 0, 39, 3, 167, 0, 35, 42, 180, 0, 13, 16, 60]
abbrev dktX17_holds_1 : List UInt8 := dkwX17_holds_1 ++ dktX17_holds_2
def dkwX17_holds_0 : List UInt8 := [42, 180, 0, 7, 43, 182, 0, 20, 61, 42, 180, 0, 17, 43, 182, 0, 20, 62, 42, 180, 0, 13, 16, 61]
abbrev dktX17_holds_0 : List UInt8 := dkwX17_holds_0 ++ dktX17_holds_1
theorem dksX17_holds_0 : cX17_holds.data.toList.drop 0 = dktX17_holds_0 := by decide +kernel
theorem dksX17_holds_1 : cX17_holds.data.toList.drop 24 = dktX17_holds_1 := dk_seg dksX17_holds_0 24 rfl rfl
theorem dksX17_holds_2 : cX17_holds.data.toList.drop 46 = dktX17_holds_2 := dk_seg dksX17_holds_1 22 rfl rfl
theorem dksX17_holds_3 : cX17_holds.data.toList.drop 68 = dktX17_holds_3 := dk_seg dksX17_holds_2 22 rfl rfl
theorem dX17_holds_0 : decode cX17_holds 0 = .ok (.aload_n 0, 1) := dk_42 (dk_at dksX17_holds_0 0 rfl rfl)
theorem dX17_holds_1 : decode cX17_holds 1 = .ok (.getfield 7, 3) := dk_180 0 7 (dk_at dksX17_holds_0 1 rfl rfl)
theorem dX17_holds_4 : decode cX17_holds 4 = .ok (.aload_n 1, 1) := dk_43 (dk_at dksX17_holds_0 4 rfl rfl)
theorem dX17_holds_5 : decode cX17_holds 5 = .ok (.invokevirtual 20, 3) := dk_182 0 20 (dk_at dksX17_holds_0 5 rfl rfl)
theorem dX17_holds_8 : decode cX17_holds 8 = .ok (.istore_n 2, 1) := dk_61 (dk_at dksX17_holds_0 8 rfl rfl)
theorem dX17_holds_9 : decode cX17_holds 9 = .ok (.aload_n 0, 1) := dk_42 (dk_at dksX17_holds_0 9 rfl rfl)
theorem dX17_holds_10 : decode cX17_holds 10 = .ok (.getfield 17, 3) := dk_180 0 17 (dk_at dksX17_holds_0 10 rfl rfl)
theorem dX17_holds_13 : decode cX17_holds 13 = .ok (.aload_n 1, 1) := dk_43 (dk_at dksX17_holds_0 13 rfl rfl)
theorem dX17_holds_14 : decode cX17_holds 14 = .ok (.invokevirtual 20, 3) := dk_182 0 20 (dk_at dksX17_holds_0 14 rfl rfl)
theorem dX17_holds_17 : decode cX17_holds 17 = .ok (.istore_n 3, 1) := dk_62 (dk_at dksX17_holds_0 17 rfl rfl)
theorem dX17_holds_18 : decode cX17_holds 18 = .ok (.aload_n 0, 1) := dk_42 (dk_at dksX17_holds_0 18 rfl rfl)
theorem dX17_holds_19 : decode cX17_holds 19 = .ok (.getfield 13, 3) := dk_180 0 13 (dk_at dksX17_holds_0 19 rfl rfl)
theorem dX17_holds_22 : decode cX17_holds 22 = .ok (.bipush 61, 2) := dk_16 61 (dk_at dksX17_holds_0 22 rfl rfl)
theorem dX17_holds_24 : decode cX17_holds 24 = .ok (.if_icmp .ne 16, 3) := dk_160 0 16 (dk_at dksX17_holds_1 0 rfl rfl)
theorem dX17_holds_27 : decode cX17_holds 27 = .ok (.iload_n 2, 1) := dk_28 (dk_at dksX17_holds_1 3 rfl rfl)
theorem dX17_holds_28 : decode cX17_holds 28 = .ok (.iload_n 3, 1) := dk_29 (dk_at dksX17_holds_1 4 rfl rfl)
theorem dX17_holds_29 : decode cX17_holds 29 = .ok (.if_icmp .ne 7, 3) := dk_160 0 7 (dk_at dksX17_holds_1 5 rfl rfl)
theorem dX17_holds_32 : decode cX17_holds 32 = .ok (.iconst 1, 1) := dk_4 (dk_at dksX17_holds_1 8 rfl rfl)
theorem dX17_holds_33 : decode cX17_holds 33 = .ok (.goto 39, 3) := dk_167 0 39 (dk_at dksX17_holds_1 9 rfl rfl)
theorem dX17_holds_36 : decode cX17_holds 36 = .ok (.iconst 0, 1) := dk_3 (dk_at dksX17_holds_1 12 rfl rfl)
theorem dX17_holds_37 : decode cX17_holds 37 = .ok (.goto 35, 3) := dk_167 0 35 (dk_at dksX17_holds_1 13 rfl rfl)
theorem dX17_holds_40 : decode cX17_holds 40 = .ok (.aload_n 0, 1) := dk_42 (dk_at dksX17_holds_1 16 rfl rfl)
theorem dX17_holds_41 : decode cX17_holds 41 = .ok (.getfield 13, 3) := dk_180 0 13 (dk_at dksX17_holds_1 17 rfl rfl)
theorem dX17_holds_44 : decode cX17_holds 44 = .ok (.bipush 60, 2) := dk_16 60 (dk_at dksX17_holds_1 20 rfl rfl)
theorem dX17_holds_46 : decode cX17_holds 46 = .ok (.if_icmp .ne 16, 3) := dk_160 0 16 (dk_at dksX17_holds_2 0 rfl rfl)
theorem dX17_holds_49 : decode cX17_holds 49 = .ok (.iload_n 2, 1) := dk_28 (dk_at dksX17_holds_2 3 rfl rfl)
theorem dX17_holds_50 : decode cX17_holds 50 = .ok (.iload_n 3, 1) := dk_29 (dk_at dksX17_holds_2 4 rfl rfl)
theorem dX17_holds_51 : decode cX17_holds 51 = .ok (.if_icmp .ge 7, 3) := dk_162 0 7 (dk_at dksX17_holds_2 5 rfl rfl)
theorem dX17_holds_54 : decode cX17_holds 54 = .ok (.iconst 1, 1) := dk_4 (dk_at dksX17_holds_2 8 rfl rfl)
theorem dX17_holds_55 : decode cX17_holds 55 = .ok (.goto 17, 3) := dk_167 0 17 (dk_at dksX17_holds_2 9 rfl rfl)
theorem dX17_holds_58 : decode cX17_holds 58 = .ok (.iconst 0, 1) := dk_3 (dk_at dksX17_holds_2 12 rfl rfl)
theorem dX17_holds_59 : decode cX17_holds 59 = .ok (.goto 13, 3) := dk_167 0 13 (dk_at dksX17_holds_2 13 rfl rfl)
theorem dX17_holds_62 : decode cX17_holds 62 = .ok (.iload_n 2, 1) := dk_28 (dk_at dksX17_holds_2 16 rfl rfl)
theorem dX17_holds_63 : decode cX17_holds 63 = .ok (.iload_n 3, 1) := dk_29 (dk_at dksX17_holds_2 17 rfl rfl)
theorem dX17_holds_64 : decode cX17_holds 64 = .ok (.if_icmp .le 7, 3) := dk_164 0 7 (dk_at dksX17_holds_2 18 rfl rfl)
theorem dX17_holds_67 : decode cX17_holds 67 = .ok (.iconst 1, 1) := dk_4 (dk_at dksX17_holds_2 21 rfl rfl)
theorem dX17_holds_68 : decode cX17_holds 68 = .ok (.goto 4, 3) := dk_167 0 4 (dk_at dksX17_holds_3 0 rfl rfl)
theorem dX17_holds_71 : decode cX17_holds 71 = .ok (.iconst 0, 1) := dk_3 (dk_at dksX17_holds_3 3 rfl rfl)
theorem dX17_holds_72 : decode cX17_holds 72 = .ok (.ireturn, 1) := dk_172 (dk_at dksX17_holds_3 4 rfl rfl)
def dkwX18_init_0 : List UInt8 := [42, 183, 0, 1, 42, 43, 181, 0, 7, 42, 28, 181, 0, 13, 42, 45, 181, 0, 17, 177]
abbrev dktX18_init_0 : List UInt8 := dkwX18_init_0 ++ []
theorem dksX18_init_0 : cX18_init.data.toList.drop 0 = dktX18_init_0 := by decide +kernel
theorem dX18_init_0 : decode cX18_init 0 = .ok (.aload_n 0, 1) := dk_42 (dk_at dksX18_init_0 0 rfl rfl)
theorem dX18_init_1 : decode cX18_init 1 = .ok (.invokespecial 1, 3) := dk_183 0 1 (dk_at dksX18_init_0 1 rfl rfl)
theorem dX18_init_4 : decode cX18_init 4 = .ok (.aload_n 0, 1) := dk_42 (dk_at dksX18_init_0 4 rfl rfl)
theorem dX18_init_5 : decode cX18_init 5 = .ok (.aload_n 1, 1) := dk_43 (dk_at dksX18_init_0 5 rfl rfl)
theorem dX18_init_6 : decode cX18_init 6 = .ok (.putfield 7, 3) := dk_181 0 7 (dk_at dksX18_init_0 6 rfl rfl)
theorem dX18_init_9 : decode cX18_init 9 = .ok (.aload_n 0, 1) := dk_42 (dk_at dksX18_init_0 9 rfl rfl)
theorem dX18_init_10 : decode cX18_init 10 = .ok (.iload_n 2, 1) := dk_28 (dk_at dksX18_init_0 10 rfl rfl)
theorem dX18_init_11 : decode cX18_init 11 = .ok (.putfield 13, 3) := dk_181 0 13 (dk_at dksX18_init_0 11 rfl rfl)
theorem dX18_init_14 : decode cX18_init 14 = .ok (.aload_n 0, 1) := dk_42 (dk_at dksX18_init_0 14 rfl rfl)
theorem dX18_init_15 : decode cX18_init 15 = .ok (.aload_n 3, 1) := dk_45 (dk_at dksX18_init_0 15 rfl rfl)
theorem dX18_init_16 : decode cX18_init 16 = .ok (.putfield 17, 3) := dk_181 0 17 (dk_at dksX18_init_0 16 rfl rfl)
theorem dX18_init_19 : decode cX18_init 19 = .ok (.return_, 1) := dk_177 (dk_at dksX18_init_0 19 rfl rfl)
def dkwX18_holds_2 : List UInt8 := [154, 0, 14, 42, 180, 0, 17, 43, 182, 0, 20, 153, 0, 7, 4, 167, 0, 4, 3, 172]
abbrev dktX18_holds_2 : List UInt8 := dkwX18_holds_2 ++ []
def dkwX18_holds_1 : List UInt8 := [182, 0, 20, 153, 0, 7, 4, 167, 0, 34, 3, 167, 0, 30, 42, 180, 0, 7, 43, 182, 0, 20]
abbrev dktX18_holds_1 : List UInt8 := dkwX18_holds_1 ++ dktX18_holds_2
def dkwX18_holds_0 : List UInt8 := [42, 180, 0, 13, 153, 0, 33, 42, 180, 0, 7, 43, 182, 0, 20, 153, 0, 18, 42, 180, 0, 17, 43]
abbrev dktX18_holds_0 : List UInt8 := dkwX18_holds_0 ++ dktX18_holds_1
theorem dksX18_holds_0 : cX18_holds.data.toList.drop 0 = dktX18_holds_0 := by decide +kernel
theorem dksX18_holds_1 : cX18_holds.data.toList.drop 23 = dktX18_holds_1 := dk_seg dksX18_holds_0 23 rfl rfl
theorem dksX18_holds_2 : cX18_holds.data.toList.drop 45 = dktX18_holds_2 := dk_seg dksX18_holds_1 22 rfl rfl
theorem dX18_holds_0 : decode cX18_holds 0 = .ok (.aload_n 0, 1) := dk_42 (dk_at dksX18_holds_0 0 rfl rfl)
theorem dX18_holds_1 : decode cX18_holds 1 = .ok (.getfield 13, 3) := dk_180 0 13 (dk_at dksX18_holds_0 1 rfl rfl)
theorem dX18_holds_4 : decode cX18_holds 4 = .ok (.ifCond .eq 33, 3) := dk_153 0 33 (dk_at dksX18_holds_0 4 rfl rfl)
theorem dX18_holds_7 : decode cX18_holds 7 = .ok (.aload_n 0, 1) := dk_42 (dk_at dksX18_holds_0 7 rfl rfl)
theorem dX18_holds_8 : decode cX18_holds 8 = .ok (.getfield 7, 3) := dk_180 0 7 (dk_at dksX18_holds_0 8 rfl rfl)
theorem dX18_holds_11 : decode cX18_holds 11 = .ok (.aload_n 1, 1) := dk_43 (dk_at dksX18_holds_0 11 rfl rfl)
theorem dX18_holds_12 : decode cX18_holds 12 = .ok (.invokevirtual 20, 3) := dk_182 0 20 (dk_at dksX18_holds_0 12 rfl rfl)
theorem dX18_holds_15 : decode cX18_holds 15 = .ok (.ifCond .eq 18, 3) := dk_153 0 18 (dk_at dksX18_holds_0 15 rfl rfl)
theorem dX18_holds_18 : decode cX18_holds 18 = .ok (.aload_n 0, 1) := dk_42 (dk_at dksX18_holds_0 18 rfl rfl)
theorem dX18_holds_19 : decode cX18_holds 19 = .ok (.getfield 17, 3) := dk_180 0 17 (dk_at dksX18_holds_0 19 rfl rfl)
theorem dX18_holds_22 : decode cX18_holds 22 = .ok (.aload_n 1, 1) := dk_43 (dk_at dksX18_holds_0 22 rfl rfl)
theorem dX18_holds_23 : decode cX18_holds 23 = .ok (.invokevirtual 20, 3) := dk_182 0 20 (dk_at dksX18_holds_1 0 rfl rfl)
theorem dX18_holds_26 : decode cX18_holds 26 = .ok (.ifCond .eq 7, 3) := dk_153 0 7 (dk_at dksX18_holds_1 3 rfl rfl)
theorem dX18_holds_29 : decode cX18_holds 29 = .ok (.iconst 1, 1) := dk_4 (dk_at dksX18_holds_1 6 rfl rfl)
theorem dX18_holds_30 : decode cX18_holds 30 = .ok (.goto 34, 3) := dk_167 0 34 (dk_at dksX18_holds_1 7 rfl rfl)
theorem dX18_holds_33 : decode cX18_holds 33 = .ok (.iconst 0, 1) := dk_3 (dk_at dksX18_holds_1 10 rfl rfl)
theorem dX18_holds_34 : decode cX18_holds 34 = .ok (.goto 30, 3) := dk_167 0 30 (dk_at dksX18_holds_1 11 rfl rfl)
theorem dX18_holds_37 : decode cX18_holds 37 = .ok (.aload_n 0, 1) := dk_42 (dk_at dksX18_holds_1 14 rfl rfl)
theorem dX18_holds_38 : decode cX18_holds 38 = .ok (.getfield 7, 3) := dk_180 0 7 (dk_at dksX18_holds_1 15 rfl rfl)
theorem dX18_holds_41 : decode cX18_holds 41 = .ok (.aload_n 1, 1) := dk_43 (dk_at dksX18_holds_1 18 rfl rfl)
theorem dX18_holds_42 : decode cX18_holds 42 = .ok (.invokevirtual 20, 3) := dk_182 0 20 (dk_at dksX18_holds_1 19 rfl rfl)
theorem dX18_holds_45 : decode cX18_holds 45 = .ok (.ifCond .ne 14, 3) := dk_154 0 14 (dk_at dksX18_holds_2 0 rfl rfl)
theorem dX18_holds_48 : decode cX18_holds 48 = .ok (.aload_n 0, 1) := dk_42 (dk_at dksX18_holds_2 3 rfl rfl)
theorem dX18_holds_49 : decode cX18_holds 49 = .ok (.getfield 17, 3) := dk_180 0 17 (dk_at dksX18_holds_2 4 rfl rfl)
theorem dX18_holds_52 : decode cX18_holds 52 = .ok (.aload_n 1, 1) := dk_43 (dk_at dksX18_holds_2 7 rfl rfl)
theorem dX18_holds_53 : decode cX18_holds 53 = .ok (.invokevirtual 20, 3) := dk_182 0 20 (dk_at dksX18_holds_2 8 rfl rfl)
theorem dX18_holds_56 : decode cX18_holds 56 = .ok (.ifCond .eq 7, 3) := dk_153 0 7 (dk_at dksX18_holds_2 11 rfl rfl)
theorem dX18_holds_59 : decode cX18_holds 59 = .ok (.iconst 1, 1) := dk_4 (dk_at dksX18_holds_2 14 rfl rfl)
theorem dX18_holds_60 : decode cX18_holds 60 = .ok (.goto 4, 3) := dk_167 0 4 (dk_at dksX18_holds_2 15 rfl rfl)
theorem dX18_holds_63 : decode cX18_holds 63 = .ok (.iconst 0, 1) := dk_3 (dk_at dksX18_holds_2 18 rfl rfl)
theorem dX18_holds_64 : decode cX18_holds 64 = .ok (.ireturn, 1) := dk_172 (dk_at dksX18_holds_2 19 rfl rfl)
def dkwJ2_max_0 : List UInt8 := [26, 27, 161, 0, 7, 26, 167, 0, 4, 27, 172]
abbrev dktJ2_max_0 : List UInt8 := dkwJ2_max_0 ++ []
theorem dksJ2_max_0 : cJ2_max.data.toList.drop 0 = dktJ2_max_0 := by decide +kernel
theorem dJ2_max_0 : decode cJ2_max 0 = .ok (.iload_n 0, 1) := dk_26 (dk_at dksJ2_max_0 0 rfl rfl)
theorem dJ2_max_1 : decode cJ2_max 1 = .ok (.iload_n 1, 1) := dk_27 (dk_at dksJ2_max_0 1 rfl rfl)
theorem dJ2_max_2 : decode cJ2_max 2 = .ok (.if_icmp .lt 7, 3) := dk_161 0 7 (dk_at dksJ2_max_0 2 rfl rfl)
theorem dJ2_max_5 : decode cJ2_max 5 = .ok (.iload_n 0, 1) := dk_26 (dk_at dksJ2_max_0 5 rfl rfl)
theorem dJ2_max_6 : decode cJ2_max 6 = .ok (.goto 4, 3) := dk_167 0 4 (dk_at dksJ2_max_0 6 rfl rfl)
theorem dJ2_max_9 : decode cJ2_max 9 = .ok (.iload_n 1, 1) := dk_27 (dk_at dksJ2_max_0 9 rfl rfl)
theorem dJ2_max_10 : decode cJ2_max 10 = .ok (.ireturn, 1) := dk_172 (dk_at dksJ2_max_0 10 rfl rfl)
def dkwJ2_min_0 : List UInt8 := [26, 27, 163, 0, 7, 26, 167, 0, 4, 27, 172]
abbrev dktJ2_min_0 : List UInt8 := dkwJ2_min_0 ++ []
theorem dksJ2_min_0 : cJ2_min.data.toList.drop 0 = dktJ2_min_0 := by decide +kernel
theorem dJ2_min_0 : decode cJ2_min 0 = .ok (.iload_n 0, 1) := dk_26 (dk_at dksJ2_min_0 0 rfl rfl)
theorem dJ2_min_1 : decode cJ2_min 1 = .ok (.iload_n 1, 1) := dk_27 (dk_at dksJ2_min_0 1 rfl rfl)
theorem dJ2_min_2 : decode cJ2_min 2 = .ok (.if_icmp .gt 7, 3) := dk_163 0 7 (dk_at dksJ2_min_0 2 rfl rfl)
theorem dJ2_min_5 : decode cJ2_min 5 = .ok (.iload_n 0, 1) := dk_26 (dk_at dksJ2_min_0 5 rfl rfl)
theorem dJ2_min_6 : decode cJ2_min 6 = .ok (.goto 4, 3) := dk_167 0 4 (dk_at dksJ2_min_0 6 rfl rfl)
theorem dJ2_min_9 : decode cJ2_min 9 = .ok (.iload_n 1, 1) := dk_27 (dk_at dksJ2_min_0 9 rfl rfl)
theorem dJ2_min_10 : decode cJ2_min 10 = .ok (.ireturn, 1) := dk_172 (dk_at dksJ2_min_0 10 rfl rfl)
def dkwJ2_min_2_0 : List UInt8 := [30, 32, 148, 157, 0, 7, 30, 167, 0, 4, 32, 173]
abbrev dktJ2_min_2_0 : List UInt8 := dkwJ2_min_2_0 ++ []
theorem dksJ2_min_2_0 : cJ2_min_2.data.toList.drop 0 = dktJ2_min_2_0 := by decide +kernel
theorem dJ2_min_2_0 : decode cJ2_min_2 0 = .ok (.lload_n 0, 1) := dk_30 (dk_at dksJ2_min_2_0 0 rfl rfl)
theorem dJ2_min_2_1 : decode cJ2_min_2 1 = .ok (.lload_n 2, 1) := dk_32 (dk_at dksJ2_min_2_0 1 rfl rfl)
theorem dJ2_min_2_2 : decode cJ2_min_2 2 = .ok (.lcmp, 1) := dk_148 (dk_at dksJ2_min_2_0 2 rfl rfl)
theorem dJ2_min_2_3 : decode cJ2_min_2 3 = .ok (.ifCond .gt 7, 3) := dk_157 0 7 (dk_at dksJ2_min_2_0 3 rfl rfl)
theorem dJ2_min_2_6 : decode cJ2_min_2 6 = .ok (.lload_n 0, 1) := dk_30 (dk_at dksJ2_min_2_0 6 rfl rfl)
theorem dJ2_min_2_7 : decode cJ2_min_2 7 = .ok (.goto 4, 3) := dk_167 0 4 (dk_at dksJ2_min_2_0 7 rfl rfl)
theorem dJ2_min_2_10 : decode cJ2_min_2 10 = .ok (.lload_n 2, 1) := dk_32 (dk_at dksJ2_min_2_0 10 rfl rfl)
theorem dJ2_min_2_11 : decode cJ2_min_2 11 = .ok (.lreturn, 1) := dk_173 (dk_at dksJ2_min_2_0 11 rfl rfl)
def dkwJ2_max_2_0 : List UInt8 := [30, 32, 148, 155, 0, 7, 30, 167, 0, 4, 32, 173]
abbrev dktJ2_max_2_0 : List UInt8 := dkwJ2_max_2_0 ++ []
theorem dksJ2_max_2_0 : cJ2_max_2.data.toList.drop 0 = dktJ2_max_2_0 := by decide +kernel
theorem dJ2_max_2_0 : decode cJ2_max_2 0 = .ok (.lload_n 0, 1) := dk_30 (dk_at dksJ2_max_2_0 0 rfl rfl)
theorem dJ2_max_2_1 : decode cJ2_max_2 1 = .ok (.lload_n 2, 1) := dk_32 (dk_at dksJ2_max_2_0 1 rfl rfl)
theorem dJ2_max_2_2 : decode cJ2_max_2 2 = .ok (.lcmp, 1) := dk_148 (dk_at dksJ2_max_2_0 2 rfl rfl)
theorem dJ2_max_2_3 : decode cJ2_max_2 3 = .ok (.ifCond .lt 7, 3) := dk_155 0 7 (dk_at dksJ2_max_2_0 3 rfl rfl)
theorem dJ2_max_2_6 : decode cJ2_max_2 6 = .ok (.lload_n 0, 1) := dk_30 (dk_at dksJ2_max_2_0 6 rfl rfl)
theorem dJ2_max_2_7 : decode cJ2_max_2 7 = .ok (.goto 4, 3) := dk_167 0 4 (dk_at dksJ2_max_2_0 7 rfl rfl)
theorem dJ2_max_2_10 : decode cJ2_max_2 10 = .ok (.lload_n 2, 1) := dk_32 (dk_at dksJ2_max_2_0 10 rfl rfl)
theorem dJ2_max_2_11 : decode cJ2_max_2 11 = .ok (.lreturn, 1) := dk_173 (dk_at dksJ2_max_2_0 11 rfl rfl)
def dkwJ6_bitCount_2 : List UInt8 := [26, 16, 63, 126, 172]
abbrev dktJ6_bitCount_2 : List UInt8 := dkwJ6_bitCount_2 ++ []
def dkwJ6_bitCount_1 : List UInt8 := [26, 26, 7, 124, 96, 19, 1, 11, 126, 59, 26, 26, 16, 8, 124, 96, 59, 26, 26, 16, 16, 124, 96, 59]
abbrev dktJ6_bitCount_1 : List UInt8 := dkwJ6_bitCount_1 ++ dktJ6_bitCount_2
def dkwJ6_bitCount_0 : List UInt8 := [26, 26, 4, 124, 19, 1, 9, 126, 100, 59, 26, 19, 1, 10, 126, 26, 5, 124, 19, 1, 10, 126, 96, 59]
abbrev dktJ6_bitCount_0 : List UInt8 := dkwJ6_bitCount_0 ++ dktJ6_bitCount_1
theorem dksJ6_bitCount_0 : cJ6_bitCount.data.toList.drop 0 = dktJ6_bitCount_0 := by decide +kernel
theorem dksJ6_bitCount_1 : cJ6_bitCount.data.toList.drop 24 = dktJ6_bitCount_1 := dk_seg dksJ6_bitCount_0 24 rfl rfl
theorem dksJ6_bitCount_2 : cJ6_bitCount.data.toList.drop 48 = dktJ6_bitCount_2 := dk_seg dksJ6_bitCount_1 24 rfl rfl
theorem dJ6_bitCount_0 : decode cJ6_bitCount 0 = .ok (.iload_n 0, 1) := dk_26 (dk_at dksJ6_bitCount_0 0 rfl rfl)
theorem dJ6_bitCount_1 : decode cJ6_bitCount 1 = .ok (.iload_n 0, 1) := dk_26 (dk_at dksJ6_bitCount_0 1 rfl rfl)
theorem dJ6_bitCount_2 : decode cJ6_bitCount 2 = .ok (.iconst 1, 1) := dk_4 (dk_at dksJ6_bitCount_0 2 rfl rfl)
theorem dJ6_bitCount_3 : decode cJ6_bitCount 3 = .ok (.iushr, 1) := dk_124 (dk_at dksJ6_bitCount_0 3 rfl rfl)
theorem dJ6_bitCount_4 : decode cJ6_bitCount 4 = .ok (.ldc_w 265, 3) := dk_19 1 9 (dk_at dksJ6_bitCount_0 4 rfl rfl)
theorem dJ6_bitCount_7 : decode cJ6_bitCount 7 = .ok (.iand, 1) := dk_126 (dk_at dksJ6_bitCount_0 7 rfl rfl)
theorem dJ6_bitCount_8 : decode cJ6_bitCount 8 = .ok (.isub, 1) := dk_100 (dk_at dksJ6_bitCount_0 8 rfl rfl)
theorem dJ6_bitCount_9 : decode cJ6_bitCount 9 = .ok (.istore_n 0, 1) := dk_59 (dk_at dksJ6_bitCount_0 9 rfl rfl)
theorem dJ6_bitCount_10 : decode cJ6_bitCount 10 = .ok (.iload_n 0, 1) := dk_26 (dk_at dksJ6_bitCount_0 10 rfl rfl)
theorem dJ6_bitCount_11 : decode cJ6_bitCount 11 = .ok (.ldc_w 266, 3) := dk_19 1 10 (dk_at dksJ6_bitCount_0 11 rfl rfl)
theorem dJ6_bitCount_14 : decode cJ6_bitCount 14 = .ok (.iand, 1) := dk_126 (dk_at dksJ6_bitCount_0 14 rfl rfl)
theorem dJ6_bitCount_15 : decode cJ6_bitCount 15 = .ok (.iload_n 0, 1) := dk_26 (dk_at dksJ6_bitCount_0 15 rfl rfl)
theorem dJ6_bitCount_16 : decode cJ6_bitCount 16 = .ok (.iconst 2, 1) := dk_5 (dk_at dksJ6_bitCount_0 16 rfl rfl)
theorem dJ6_bitCount_17 : decode cJ6_bitCount 17 = .ok (.iushr, 1) := dk_124 (dk_at dksJ6_bitCount_0 17 rfl rfl)
theorem dJ6_bitCount_18 : decode cJ6_bitCount 18 = .ok (.ldc_w 266, 3) := dk_19 1 10 (dk_at dksJ6_bitCount_0 18 rfl rfl)
theorem dJ6_bitCount_21 : decode cJ6_bitCount 21 = .ok (.iand, 1) := dk_126 (dk_at dksJ6_bitCount_0 21 rfl rfl)
theorem dJ6_bitCount_22 : decode cJ6_bitCount 22 = .ok (.iadd, 1) := dk_96 (dk_at dksJ6_bitCount_0 22 rfl rfl)
theorem dJ6_bitCount_23 : decode cJ6_bitCount 23 = .ok (.istore_n 0, 1) := dk_59 (dk_at dksJ6_bitCount_0 23 rfl rfl)
theorem dJ6_bitCount_24 : decode cJ6_bitCount 24 = .ok (.iload_n 0, 1) := dk_26 (dk_at dksJ6_bitCount_1 0 rfl rfl)
theorem dJ6_bitCount_25 : decode cJ6_bitCount 25 = .ok (.iload_n 0, 1) := dk_26 (dk_at dksJ6_bitCount_1 1 rfl rfl)
theorem dJ6_bitCount_26 : decode cJ6_bitCount 26 = .ok (.iconst 4, 1) := dk_7 (dk_at dksJ6_bitCount_1 2 rfl rfl)
theorem dJ6_bitCount_27 : decode cJ6_bitCount 27 = .ok (.iushr, 1) := dk_124 (dk_at dksJ6_bitCount_1 3 rfl rfl)
theorem dJ6_bitCount_28 : decode cJ6_bitCount 28 = .ok (.iadd, 1) := dk_96 (dk_at dksJ6_bitCount_1 4 rfl rfl)
theorem dJ6_bitCount_29 : decode cJ6_bitCount 29 = .ok (.ldc_w 267, 3) := dk_19 1 11 (dk_at dksJ6_bitCount_1 5 rfl rfl)
theorem dJ6_bitCount_32 : decode cJ6_bitCount 32 = .ok (.iand, 1) := dk_126 (dk_at dksJ6_bitCount_1 8 rfl rfl)
theorem dJ6_bitCount_33 : decode cJ6_bitCount 33 = .ok (.istore_n 0, 1) := dk_59 (dk_at dksJ6_bitCount_1 9 rfl rfl)
theorem dJ6_bitCount_34 : decode cJ6_bitCount 34 = .ok (.iload_n 0, 1) := dk_26 (dk_at dksJ6_bitCount_1 10 rfl rfl)
theorem dJ6_bitCount_35 : decode cJ6_bitCount 35 = .ok (.iload_n 0, 1) := dk_26 (dk_at dksJ6_bitCount_1 11 rfl rfl)
theorem dJ6_bitCount_36 : decode cJ6_bitCount 36 = .ok (.bipush 8, 2) := dk_16 8 (dk_at dksJ6_bitCount_1 12 rfl rfl)
theorem dJ6_bitCount_38 : decode cJ6_bitCount 38 = .ok (.iushr, 1) := dk_124 (dk_at dksJ6_bitCount_1 14 rfl rfl)
theorem dJ6_bitCount_39 : decode cJ6_bitCount 39 = .ok (.iadd, 1) := dk_96 (dk_at dksJ6_bitCount_1 15 rfl rfl)
theorem dJ6_bitCount_40 : decode cJ6_bitCount 40 = .ok (.istore_n 0, 1) := dk_59 (dk_at dksJ6_bitCount_1 16 rfl rfl)
theorem dJ6_bitCount_41 : decode cJ6_bitCount 41 = .ok (.iload_n 0, 1) := dk_26 (dk_at dksJ6_bitCount_1 17 rfl rfl)
theorem dJ6_bitCount_42 : decode cJ6_bitCount 42 = .ok (.iload_n 0, 1) := dk_26 (dk_at dksJ6_bitCount_1 18 rfl rfl)
theorem dJ6_bitCount_43 : decode cJ6_bitCount 43 = .ok (.bipush 16, 2) := dk_16 16 (dk_at dksJ6_bitCount_1 19 rfl rfl)
theorem dJ6_bitCount_45 : decode cJ6_bitCount 45 = .ok (.iushr, 1) := dk_124 (dk_at dksJ6_bitCount_1 21 rfl rfl)
theorem dJ6_bitCount_46 : decode cJ6_bitCount 46 = .ok (.iadd, 1) := dk_96 (dk_at dksJ6_bitCount_1 22 rfl rfl)
theorem dJ6_bitCount_47 : decode cJ6_bitCount 47 = .ok (.istore_n 0, 1) := dk_59 (dk_at dksJ6_bitCount_1 23 rfl rfl)
theorem dJ6_bitCount_48 : decode cJ6_bitCount 48 = .ok (.iload_n 0, 1) := dk_26 (dk_at dksJ6_bitCount_2 0 rfl rfl)
theorem dJ6_bitCount_49 : decode cJ6_bitCount 49 = .ok (.bipush 63, 2) := dk_16 63 (dk_at dksJ6_bitCount_2 1 rfl rfl)
theorem dJ6_bitCount_51 : decode cJ6_bitCount 51 = .ok (.iand, 1) := dk_126 (dk_at dksJ6_bitCount_2 3 rfl rfl)
theorem dJ6_bitCount_52 : decode cJ6_bitCount 52 = .ok (.ireturn, 1) := dk_172 (dk_at dksJ6_bitCount_2 4 rfl rfl)
def dkwJ6_numberOfTrailingZeros_3 : List UInt8 := [5, 124, 59, 27, 26, 4, 124, 96, 172]
abbrev dktJ6_numberOfTrailingZeros_3 : List UInt8 := dkwJ6_numberOfTrailingZeros_3 ++ []
def dkwJ6_numberOfTrailingZeros_2 : List UInt8 := [124, 59, 26, 16, 16, 164, 0, 10, 132, 1, 4, 26, 7, 124, 59, 26, 7, 164, 0, 10, 132, 1, 2, 26]
abbrev dktJ6_numberOfTrailingZeros_2 : List UInt8 := dkwJ6_numberOfTrailingZeros_2 ++ dktJ6_numberOfTrailingZeros_3
def dkwJ6_numberOfTrailingZeros_1 : List UInt8 := [164, 0, 11, 132, 1, 16, 26, 16, 16, 124, 59, 26, 17, 1, 0, 164, 0, 11, 132, 1, 8, 26, 16, 8]
abbrev dktJ6_numberOfTrailingZeros_1 : List UInt8 := dkwJ6_numberOfTrailingZeros_1 ++ dktJ6_numberOfTrailingZeros_2
def dkwJ6_numberOfTrailingZeros_0 : List UInt8 := [26, 2, 130, 26, 4, 100, 126, 59, 26, 157, 0, 8, 26, 16, 32, 126, 172, 4, 60, 26, 19, 1, 8]
abbrev dktJ6_numberOfTrailingZeros_0 : List UInt8 := dkwJ6_numberOfTrailingZeros_0 ++ dktJ6_numberOfTrailingZeros_1
theorem dksJ6_numberOfTrailingZeros_0 : cJ6_numberOfTrailingZeros.data.toList.drop 0 = dktJ6_numberOfTrailingZeros_0 := by decide +kernel
theorem dksJ6_numberOfTrailingZeros_1 : cJ6_numberOfTrailingZeros.data.toList.drop 23 = dktJ6_numberOfTrailingZeros_1 := dk_seg dksJ6_numberOfTrailingZeros_0 23 rfl rfl
theorem dksJ6_numberOfTrailingZeros_2 : cJ6_numberOfTrailingZeros.data.toList.drop 47 = dktJ6_numberOfTrailingZeros_2 := dk_seg dksJ6_numberOfTrailingZeros_1 24 rfl rfl
theorem dksJ6_numberOfTrailingZeros_3 : cJ6_numberOfTrailingZeros.data.toList.drop 71 = dktJ6_numberOfTrailingZeros_3 := dk_seg dksJ6_numberOfTrailingZeros_2 24 rfl rfl
theorem dJ6_numberOfTrailingZeros_0 : decode cJ6_numberOfTrailingZeros 0 = .ok (.iload_n 0, 1) := dk_26 (dk_at dksJ6_numberOfTrailingZeros_0 0 rfl rfl)
theorem dJ6_numberOfTrailingZeros_1 : decode cJ6_numberOfTrailingZeros 1 = .ok (.iconst (-1), 1) := dk_2 (dk_at dksJ6_numberOfTrailingZeros_0 1 rfl rfl)
theorem dJ6_numberOfTrailingZeros_2 : decode cJ6_numberOfTrailingZeros 2 = .ok (.ixor, 1) := dk_130 (dk_at dksJ6_numberOfTrailingZeros_0 2 rfl rfl)
theorem dJ6_numberOfTrailingZeros_3 : decode cJ6_numberOfTrailingZeros 3 = .ok (.iload_n 0, 1) := dk_26 (dk_at dksJ6_numberOfTrailingZeros_0 3 rfl rfl)
theorem dJ6_numberOfTrailingZeros_4 : decode cJ6_numberOfTrailingZeros 4 = .ok (.iconst 1, 1) := dk_4 (dk_at dksJ6_numberOfTrailingZeros_0 4 rfl rfl)
theorem dJ6_numberOfTrailingZeros_5 : decode cJ6_numberOfTrailingZeros 5 = .ok (.isub, 1) := dk_100 (dk_at dksJ6_numberOfTrailingZeros_0 5 rfl rfl)
theorem dJ6_numberOfTrailingZeros_6 : decode cJ6_numberOfTrailingZeros 6 = .ok (.iand, 1) := dk_126 (dk_at dksJ6_numberOfTrailingZeros_0 6 rfl rfl)
theorem dJ6_numberOfTrailingZeros_7 : decode cJ6_numberOfTrailingZeros 7 = .ok (.istore_n 0, 1) := dk_59 (dk_at dksJ6_numberOfTrailingZeros_0 7 rfl rfl)
theorem dJ6_numberOfTrailingZeros_8 : decode cJ6_numberOfTrailingZeros 8 = .ok (.iload_n 0, 1) := dk_26 (dk_at dksJ6_numberOfTrailingZeros_0 8 rfl rfl)
theorem dJ6_numberOfTrailingZeros_9 : decode cJ6_numberOfTrailingZeros 9 = .ok (.ifCond .gt 8, 3) := dk_157 0 8 (dk_at dksJ6_numberOfTrailingZeros_0 9 rfl rfl)
theorem dJ6_numberOfTrailingZeros_12 : decode cJ6_numberOfTrailingZeros 12 = .ok (.iload_n 0, 1) := dk_26 (dk_at dksJ6_numberOfTrailingZeros_0 12 rfl rfl)
theorem dJ6_numberOfTrailingZeros_13 : decode cJ6_numberOfTrailingZeros 13 = .ok (.bipush 32, 2) := dk_16 32 (dk_at dksJ6_numberOfTrailingZeros_0 13 rfl rfl)
theorem dJ6_numberOfTrailingZeros_15 : decode cJ6_numberOfTrailingZeros 15 = .ok (.iand, 1) := dk_126 (dk_at dksJ6_numberOfTrailingZeros_0 15 rfl rfl)
theorem dJ6_numberOfTrailingZeros_16 : decode cJ6_numberOfTrailingZeros 16 = .ok (.ireturn, 1) := dk_172 (dk_at dksJ6_numberOfTrailingZeros_0 16 rfl rfl)
theorem dJ6_numberOfTrailingZeros_17 : decode cJ6_numberOfTrailingZeros 17 = .ok (.iconst 1, 1) := dk_4 (dk_at dksJ6_numberOfTrailingZeros_0 17 rfl rfl)
theorem dJ6_numberOfTrailingZeros_18 : decode cJ6_numberOfTrailingZeros 18 = .ok (.istore_n 1, 1) := dk_60 (dk_at dksJ6_numberOfTrailingZeros_0 18 rfl rfl)
theorem dJ6_numberOfTrailingZeros_19 : decode cJ6_numberOfTrailingZeros 19 = .ok (.iload_n 0, 1) := dk_26 (dk_at dksJ6_numberOfTrailingZeros_0 19 rfl rfl)
theorem dJ6_numberOfTrailingZeros_20 : decode cJ6_numberOfTrailingZeros 20 = .ok (.ldc_w 264, 3) := dk_19 1 8 (dk_at dksJ6_numberOfTrailingZeros_0 20 rfl rfl)
theorem dJ6_numberOfTrailingZeros_23 : decode cJ6_numberOfTrailingZeros 23 = .ok (.if_icmp .le 11, 3) := dk_164 0 11 (dk_at dksJ6_numberOfTrailingZeros_1 0 rfl rfl)
theorem dJ6_numberOfTrailingZeros_26 : decode cJ6_numberOfTrailingZeros 26 = .ok (.iinc 1 16, 3) := dk_132 1 16 (dk_at dksJ6_numberOfTrailingZeros_1 3 rfl rfl)
theorem dJ6_numberOfTrailingZeros_29 : decode cJ6_numberOfTrailingZeros 29 = .ok (.iload_n 0, 1) := dk_26 (dk_at dksJ6_numberOfTrailingZeros_1 6 rfl rfl)
theorem dJ6_numberOfTrailingZeros_30 : decode cJ6_numberOfTrailingZeros 30 = .ok (.bipush 16, 2) := dk_16 16 (dk_at dksJ6_numberOfTrailingZeros_1 7 rfl rfl)
theorem dJ6_numberOfTrailingZeros_32 : decode cJ6_numberOfTrailingZeros 32 = .ok (.iushr, 1) := dk_124 (dk_at dksJ6_numberOfTrailingZeros_1 9 rfl rfl)
theorem dJ6_numberOfTrailingZeros_33 : decode cJ6_numberOfTrailingZeros 33 = .ok (.istore_n 0, 1) := dk_59 (dk_at dksJ6_numberOfTrailingZeros_1 10 rfl rfl)
theorem dJ6_numberOfTrailingZeros_34 : decode cJ6_numberOfTrailingZeros 34 = .ok (.iload_n 0, 1) := dk_26 (dk_at dksJ6_numberOfTrailingZeros_1 11 rfl rfl)
theorem dJ6_numberOfTrailingZeros_35 : decode cJ6_numberOfTrailingZeros 35 = .ok (.sipush 256, 3) := dk_17 1 0 (dk_at dksJ6_numberOfTrailingZeros_1 12 rfl rfl)
theorem dJ6_numberOfTrailingZeros_38 : decode cJ6_numberOfTrailingZeros 38 = .ok (.if_icmp .le 11, 3) := dk_164 0 11 (dk_at dksJ6_numberOfTrailingZeros_1 15 rfl rfl)
theorem dJ6_numberOfTrailingZeros_41 : decode cJ6_numberOfTrailingZeros 41 = .ok (.iinc 1 8, 3) := dk_132 1 8 (dk_at dksJ6_numberOfTrailingZeros_1 18 rfl rfl)
theorem dJ6_numberOfTrailingZeros_44 : decode cJ6_numberOfTrailingZeros 44 = .ok (.iload_n 0, 1) := dk_26 (dk_at dksJ6_numberOfTrailingZeros_1 21 rfl rfl)
theorem dJ6_numberOfTrailingZeros_45 : decode cJ6_numberOfTrailingZeros 45 = .ok (.bipush 8, 2) := dk_16 8 (dk_at dksJ6_numberOfTrailingZeros_1 22 rfl rfl)
theorem dJ6_numberOfTrailingZeros_47 : decode cJ6_numberOfTrailingZeros 47 = .ok (.iushr, 1) := dk_124 (dk_at dksJ6_numberOfTrailingZeros_2 0 rfl rfl)
theorem dJ6_numberOfTrailingZeros_48 : decode cJ6_numberOfTrailingZeros 48 = .ok (.istore_n 0, 1) := dk_59 (dk_at dksJ6_numberOfTrailingZeros_2 1 rfl rfl)
theorem dJ6_numberOfTrailingZeros_49 : decode cJ6_numberOfTrailingZeros 49 = .ok (.iload_n 0, 1) := dk_26 (dk_at dksJ6_numberOfTrailingZeros_2 2 rfl rfl)
theorem dJ6_numberOfTrailingZeros_50 : decode cJ6_numberOfTrailingZeros 50 = .ok (.bipush 16, 2) := dk_16 16 (dk_at dksJ6_numberOfTrailingZeros_2 3 rfl rfl)
theorem dJ6_numberOfTrailingZeros_52 : decode cJ6_numberOfTrailingZeros 52 = .ok (.if_icmp .le 10, 3) := dk_164 0 10 (dk_at dksJ6_numberOfTrailingZeros_2 5 rfl rfl)
theorem dJ6_numberOfTrailingZeros_55 : decode cJ6_numberOfTrailingZeros 55 = .ok (.iinc 1 4, 3) := dk_132 1 4 (dk_at dksJ6_numberOfTrailingZeros_2 8 rfl rfl)
theorem dJ6_numberOfTrailingZeros_58 : decode cJ6_numberOfTrailingZeros 58 = .ok (.iload_n 0, 1) := dk_26 (dk_at dksJ6_numberOfTrailingZeros_2 11 rfl rfl)
theorem dJ6_numberOfTrailingZeros_59 : decode cJ6_numberOfTrailingZeros 59 = .ok (.iconst 4, 1) := dk_7 (dk_at dksJ6_numberOfTrailingZeros_2 12 rfl rfl)
theorem dJ6_numberOfTrailingZeros_60 : decode cJ6_numberOfTrailingZeros 60 = .ok (.iushr, 1) := dk_124 (dk_at dksJ6_numberOfTrailingZeros_2 13 rfl rfl)
theorem dJ6_numberOfTrailingZeros_61 : decode cJ6_numberOfTrailingZeros 61 = .ok (.istore_n 0, 1) := dk_59 (dk_at dksJ6_numberOfTrailingZeros_2 14 rfl rfl)
theorem dJ6_numberOfTrailingZeros_62 : decode cJ6_numberOfTrailingZeros 62 = .ok (.iload_n 0, 1) := dk_26 (dk_at dksJ6_numberOfTrailingZeros_2 15 rfl rfl)
theorem dJ6_numberOfTrailingZeros_63 : decode cJ6_numberOfTrailingZeros 63 = .ok (.iconst 4, 1) := dk_7 (dk_at dksJ6_numberOfTrailingZeros_2 16 rfl rfl)
theorem dJ6_numberOfTrailingZeros_64 : decode cJ6_numberOfTrailingZeros 64 = .ok (.if_icmp .le 10, 3) := dk_164 0 10 (dk_at dksJ6_numberOfTrailingZeros_2 17 rfl rfl)
theorem dJ6_numberOfTrailingZeros_67 : decode cJ6_numberOfTrailingZeros 67 = .ok (.iinc 1 2, 3) := dk_132 1 2 (dk_at dksJ6_numberOfTrailingZeros_2 20 rfl rfl)
theorem dJ6_numberOfTrailingZeros_70 : decode cJ6_numberOfTrailingZeros 70 = .ok (.iload_n 0, 1) := dk_26 (dk_at dksJ6_numberOfTrailingZeros_2 23 rfl rfl)
theorem dJ6_numberOfTrailingZeros_71 : decode cJ6_numberOfTrailingZeros 71 = .ok (.iconst 2, 1) := dk_5 (dk_at dksJ6_numberOfTrailingZeros_3 0 rfl rfl)
theorem dJ6_numberOfTrailingZeros_72 : decode cJ6_numberOfTrailingZeros 72 = .ok (.iushr, 1) := dk_124 (dk_at dksJ6_numberOfTrailingZeros_3 1 rfl rfl)
theorem dJ6_numberOfTrailingZeros_73 : decode cJ6_numberOfTrailingZeros 73 = .ok (.istore_n 0, 1) := dk_59 (dk_at dksJ6_numberOfTrailingZeros_3 2 rfl rfl)
theorem dJ6_numberOfTrailingZeros_74 : decode cJ6_numberOfTrailingZeros 74 = .ok (.iload_n 1, 1) := dk_27 (dk_at dksJ6_numberOfTrailingZeros_3 3 rfl rfl)
theorem dJ6_numberOfTrailingZeros_75 : decode cJ6_numberOfTrailingZeros 75 = .ok (.iload_n 0, 1) := dk_26 (dk_at dksJ6_numberOfTrailingZeros_3 4 rfl rfl)
theorem dJ6_numberOfTrailingZeros_76 : decode cJ6_numberOfTrailingZeros 76 = .ok (.iconst 1, 1) := dk_4 (dk_at dksJ6_numberOfTrailingZeros_3 5 rfl rfl)
theorem dJ6_numberOfTrailingZeros_77 : decode cJ6_numberOfTrailingZeros 77 = .ok (.iushr, 1) := dk_124 (dk_at dksJ6_numberOfTrailingZeros_3 6 rfl rfl)
theorem dJ6_numberOfTrailingZeros_78 : decode cJ6_numberOfTrailingZeros 78 = .ok (.iadd, 1) := dk_96 (dk_at dksJ6_numberOfTrailingZeros_3 7 rfl rfl)
theorem dJ6_numberOfTrailingZeros_79 : decode cJ6_numberOfTrailingZeros 79 = .ok (.ireturn, 1) := dk_172 (dk_at dksJ6_numberOfTrailingZeros_3 8 rfl rfl)
