set_option maxRecDepth 100000
def dkwX9_write_3 : List UInt8 := [104, 28, 96, 47, 173]
abbrev dktX9_write_3 : List UInt8 := dkwX9_write_3 ++ []
def dkwX9_write_2 : List UInt8 := [16, 40, 27, 104, 28, 96, 33, 42, 180, 0, 82, 27, 46, 184, 1, 178, 80, 42, 180, 0, 88, 16, 40, 27]
abbrev dktX9_write_2 : List UInt8 := dkwX9_write_2 ++ dktX9_write_3
def dkwX9_write_1 : List UInt8 := [42, 180, 0, 85, 27, 46, 4, 100, 133, 184, 0, 157, 154, 0, 7, 20, 1, 176, 173, 42, 180, 0, 88]
abbrev dktX9_write_1 : List UInt8 := dkwX9_write_1 ++ dktX9_write_2
def dkwX9_write_0 : List UInt8 := [42, 3, 181, 0, 1, 42, 27, 182, 1, 53, 54, 5, 21, 5, 153, 0, 7, 21, 5, 133, 173, 28, 133, 9]
abbrev dktX9_write_0 : List UInt8 := dkwX9_write_0 ++ dktX9_write_1
theorem dksX9_write_0 : cX9_write.data.toList.drop 0 = dktX9_write_0 := by decide +kernel
theorem dksX9_write_1 : cX9_write.data.toList.drop 24 = dktX9_write_1 := dk_seg dksX9_write_0 24 rfl rfl
theorem dksX9_write_2 : cX9_write.data.toList.drop 47 = dktX9_write_2 := dk_seg dksX9_write_1 23 rfl rfl
theorem dksX9_write_3 : cX9_write.data.toList.drop 71 = dktX9_write_3 := dk_seg dksX9_write_2 24 rfl rfl
theorem dX9_write_0 : decode cX9_write 0 = .ok (.aload_n 0, 1) := dk_42 (dk_at dksX9_write_0 0 rfl rfl)
theorem dX9_write_1 : decode cX9_write 1 = .ok (.iconst 0, 1) := dk_3 (dk_at dksX9_write_0 1 rfl rfl)
theorem dX9_write_2 : decode cX9_write 2 = .ok (.putfield 1, 3) := dk_181 0 1 (dk_at dksX9_write_0 2 rfl rfl)
theorem dX9_write_5 : decode cX9_write 5 = .ok (.aload_n 0, 1) := dk_42 (dk_at dksX9_write_0 5 rfl rfl)
theorem dX9_write_6 : decode cX9_write 6 = .ok (.iload_n 1, 1) := dk_27 (dk_at dksX9_write_0 6 rfl rfl)
theorem dX9_write_7 : decode cX9_write 7 = .ok (.invokevirtual 309, 3) := dk_182 1 53 (dk_at dksX9_write_0 7 rfl rfl)
theorem dX9_write_10 : decode cX9_write 10 = .ok (.istore 5, 2) := dk_54 5 (dk_at dksX9_write_0 10 rfl rfl)
theorem dX9_write_12 : decode cX9_write 12 = .ok (.iload 5, 2) := dk_21 5 (dk_at dksX9_write_0 12 rfl rfl)
theorem dX9_write_14 : decode cX9_write 14 = .ok (.ifCond .eq 7, 3) := dk_153 0 7 (dk_at dksX9_write_0 14 rfl rfl)
theorem dX9_write_17 : decode cX9_write 17 = .ok (.iload 5, 2) := dk_21 5 (dk_at dksX9_write_0 17 rfl rfl)
theorem dX9_write_19 : decode cX9_write 19 = .ok (.i2l, 1) := dk_133 (dk_at dksX9_write_0 19 rfl rfl)
theorem dX9_write_20 : decode cX9_write 20 = .ok (.lreturn, 1) := dk_173 (dk_at dksX9_write_0 20 rfl rfl)
theorem dX9_write_21 : decode cX9_write 21 = .ok (.iload_n 2, 1) := dk_28 (dk_at dksX9_write_0 21 rfl rfl)
theorem dX9_write_22 : decode cX9_write 22 = .ok (.i2l, 1) := dk_133 (dk_at dksX9_write_0 22 rfl rfl)
theorem dX9_write_23 : decode cX9_write 23 = .ok (.lconst 0, 1) := dk_9 (dk_at dksX9_write_0 23 rfl rfl)
theorem dX9_write_24 : decode cX9_write 24 = .ok (.aload_n 0, 1) := dk_42 (dk_at dksX9_write_1 0 rfl rfl)
theorem dX9_write_25 : decode cX9_write 25 = .ok (.getfield 85, 3) := dk_180 0 85 (dk_at dksX9_write_1 1 rfl rfl)
theorem dX9_write_28 : decode cX9_write 28 = .ok (.iload_n 1, 1) := dk_27 (dk_at dksX9_write_1 4 rfl rfl)
theorem dX9_write_29 : decode cX9_write 29 = .ok (.iaload, 1) := dk_46 (dk_at dksX9_write_1 5 rfl rfl)
theorem dX9_write_30 : decode cX9_write 30 = .ok (.iconst 1, 1) := dk_4 (dk_at dksX9_write_1 6 rfl rfl)
theorem dX9_write_31 : decode cX9_write 31 = .ok (.isub, 1) := dk_100 (dk_at dksX9_write_1 7 rfl rfl)
theorem dX9_write_32 : decode cX9_write 32 = .ok (.i2l, 1) := dk_133 (dk_at dksX9_write_1 8 rfl rfl)
theorem dX9_write_33 : decode cX9_write 33 = .ok (.invokestatic 157, 3) := dk_184 0 157 (dk_at dksX9_write_1 9 rfl rfl)
theorem dX9_write_36 : decode cX9_write 36 = .ok (.ifCond .ne 7, 3) := dk_154 0 7 (dk_at dksX9_write_1 12 rfl rfl)
theorem dX9_write_39 : decode cX9_write 39 = .ok (.ldc2_w 432, 3) := dk_20 1 176 (dk_at dksX9_write_1 15 rfl rfl)
theorem dX9_write_42 : decode cX9_write 42 = .ok (.lreturn, 1) := dk_173 (dk_at dksX9_write_1 18 rfl rfl)
theorem dX9_write_43 : decode cX9_write 43 = .ok (.aload_n 0, 1) := dk_42 (dk_at dksX9_write_1 19 rfl rfl)
theorem dX9_write_44 : decode cX9_write 44 = .ok (.getfield 88, 3) := dk_180 0 88 (dk_at dksX9_write_1 20 rfl rfl)
theorem dX9_write_47 : decode cX9_write 47 = .ok (.bipush 40, 2) := dk_16 40 (dk_at dksX9_write_2 0 rfl rfl)
theorem dX9_write_49 : decode cX9_write 49 = .ok (.iload_n 1, 1) := dk_27 (dk_at dksX9_write_2 2 rfl rfl)
theorem dX9_write_50 : decode cX9_write 50 = .ok (.imul, 1) := dk_104 (dk_at dksX9_write_2 3 rfl rfl)
theorem dX9_write_51 : decode cX9_write 51 = .ok (.iload_n 2, 1) := dk_28 (dk_at dksX9_write_2 4 rfl rfl)
theorem dX9_write_52 : decode cX9_write 52 = .ok (.iadd, 1) := dk_96 (dk_at dksX9_write_2 5 rfl rfl)
theorem dX9_write_53 : decode cX9_write 53 = .ok (.lload_n 3, 1) := dk_33 (dk_at dksX9_write_2 6 rfl rfl)
theorem dX9_write_54 : decode cX9_write 54 = .ok (.aload_n 0, 1) := dk_42 (dk_at dksX9_write_2 7 rfl rfl)
theorem dX9_write_55 : decode cX9_write 55 = .ok (.getfield 82, 3) := dk_180 0 82 (dk_at dksX9_write_2 8 rfl rfl)
theorem dX9_write_58 : decode cX9_write 58 = .ok (.iload_n 1, 1) := dk_27 (dk_at dksX9_write_2 11 rfl rfl)
theorem dX9_write_59 : decode cX9_write 59 = .ok (.iaload, 1) := dk_46 (dk_at dksX9_write_2 12 rfl rfl)
theorem dX9_write_60 : decode cX9_write 60 = .ok (.invokestatic 434, 3) := dk_184 1 178 (dk_at dksX9_write_2 13 rfl rfl)
theorem dX9_write_63 : decode cX9_write 63 = .ok (.lastore, 1) := dk_80 (dk_at dksX9_write_2 16 rfl rfl)
theorem dX9_write_64 : decode cX9_write 64 = .ok (.aload_n 0, 1) := dk_42 (dk_at dksX9_write_2 17 rfl rfl)
theorem dX9_write_65 : decode cX9_write 65 = .ok (.getfield 88, 3) := dk_180 0 88 (dk_at dksX9_write_2 18 rfl rfl)
theorem dX9_write_68 : decode cX9_write 68 = .ok (.bipush 40, 2) := dk_16 40 (dk_at dksX9_write_2 21 rfl rfl)
theorem dX9_write_70 : decode cX9_write 70 = .ok (.iload_n 1, 1) := dk_27 (dk_at dksX9_write_2 23 rfl rfl)
theorem dX9_write_71 : decode cX9_write 71 = .ok (.imul, 1) := dk_104 (dk_at dksX9_write_3 0 rfl rfl)
theorem dX9_write_72 : decode cX9_write 72 = .ok (.iload_n 2, 1) := dk_28 (dk_at dksX9_write_3 1 rfl rfl)
theorem dX9_write_73 : decode cX9_write 73 = .ok (.iadd, 1) := dk_96 (dk_at dksX9_write_3 2 rfl rfl)
theorem dX9_write_74 : decode cX9_write 74 = .ok (.laload, 1) := dk_47 (dk_at dksX9_write_3 3 rfl rfl)
theorem dX9_write_75 : decode cX9_write 75 = .ok (.lreturn, 1) := dk_173 (dk_at dksX9_write_3 4 rfl rfl)
def dkwX9_cut_1 : List UInt8 := [5, 160, 0, 9, 30, 136, 133, 167, 0, 4, 30, 173]
abbrev dktX9_cut_1 : List UInt8 := dkwX9_cut_1 ++ []
def dkwX9_cut_0 : List UInt8 := [28, 154, 0, 10, 30, 136, 145, 133, 167, 0, 27, 28, 4, 160, 0, 10, 30, 136, 147, 133, 167, 0, 15, 28]
abbrev dktX9_cut_0 : List UInt8 := dkwX9_cut_0 ++ dktX9_cut_1
theorem dksX9_cut_0 : cX9_cut.data.toList.drop 0 = dktX9_cut_0 := by decide +kernel
theorem dksX9_cut_1 : cX9_cut.data.toList.drop 24 = dktX9_cut_1 := dk_seg dksX9_cut_0 24 rfl rfl
theorem dX9_cut_0 : decode cX9_cut 0 = .ok (.iload_n 2, 1) := dk_28 (dk_at dksX9_cut_0 0 rfl rfl)
theorem dX9_cut_1 : decode cX9_cut 1 = .ok (.ifCond .ne 10, 3) := dk_154 0 10 (dk_at dksX9_cut_0 1 rfl rfl)
theorem dX9_cut_4 : decode cX9_cut 4 = .ok (.lload_n 0, 1) := dk_30 (dk_at dksX9_cut_0 4 rfl rfl)
theorem dX9_cut_5 : decode cX9_cut 5 = .ok (.l2i, 1) := dk_136 (dk_at dksX9_cut_0 5 rfl rfl)
theorem dX9_cut_6 : decode cX9_cut 6 = .ok (.i2b, 1) := dk_145 (dk_at dksX9_cut_0 6 rfl rfl)
theorem dX9_cut_7 : decode cX9_cut 7 = .ok (.i2l, 1) := dk_133 (dk_at dksX9_cut_0 7 rfl rfl)
theorem dX9_cut_8 : decode cX9_cut 8 = .ok (.goto 27, 3) := dk_167 0 27 (dk_at dksX9_cut_0 8 rfl rfl)
theorem dX9_cut_11 : decode cX9_cut 11 = .ok (.iload_n 2, 1) := dk_28 (dk_at dksX9_cut_0 11 rfl rfl)
theorem dX9_cut_12 : decode cX9_cut 12 = .ok (.iconst 1, 1) := dk_4 (dk_at dksX9_cut_0 12 rfl rfl)
theorem dX9_cut_13 : decode cX9_cut 13 = .ok (.if_icmp .ne 10, 3) := dk_160 0 10 (dk_at dksX9_cut_0 13 rfl rfl)
theorem dX9_cut_16 : decode cX9_cut 16 = .ok (.lload_n 0, 1) := dk_30 (dk_at dksX9_cut_0 16 rfl rfl)
theorem dX9_cut_17 : decode cX9_cut 17 = .ok (.l2i, 1) := dk_136 (dk_at dksX9_cut_0 17 rfl rfl)
theorem dX9_cut_18 : decode cX9_cut 18 = .ok (.i2s, 1) := dk_147 (dk_at dksX9_cut_0 18 rfl rfl)
theorem dX9_cut_19 : decode cX9_cut 19 = .ok (.i2l, 1) := dk_133 (dk_at dksX9_cut_0 19 rfl rfl)
theorem dX9_cut_20 : decode cX9_cut 20 = .ok (.goto 15, 3) := dk_167 0 15 (dk_at dksX9_cut_0 20 rfl rfl)
theorem dX9_cut_23 : decode cX9_cut 23 = .ok (.iload_n 2, 1) := dk_28 (dk_at dksX9_cut_0 23 rfl rfl)
theorem dX9_cut_24 : decode cX9_cut 24 = .ok (.iconst 2, 1) := dk_5 (dk_at dksX9_cut_1 0 rfl rfl)
theorem dX9_cut_25 : decode cX9_cut 25 = .ok (.if_icmp .ne 9, 3) := dk_160 0 9 (dk_at dksX9_cut_1 1 rfl rfl)
theorem dX9_cut_28 : decode cX9_cut 28 = .ok (.lload_n 0, 1) := dk_30 (dk_at dksX9_cut_1 4 rfl rfl)
theorem dX9_cut_29 : decode cX9_cut 29 = .ok (.l2i, 1) := dk_136 (dk_at dksX9_cut_1 5 rfl rfl)
theorem dX9_cut_30 : decode cX9_cut 30 = .ok (.i2l, 1) := dk_133 (dk_at dksX9_cut_1 6 rfl rfl)
theorem dX9_cut_31 : decode cX9_cut 31 = .ok (.goto 4, 3) := dk_167 0 4 (dk_at dksX9_cut_1 7 rfl rfl)
theorem dX9_cut_34 : decode cX9_cut 34 = .ok (.lload_n 0, 1) := dk_30 (dk_at dksX9_cut_1 10 rfl rfl)
theorem dX9_cut_35 : decode cX9_cut 35 = .ok (.lreturn, 1) := dk_173 (dk_at dksX9_cut_1 11 rfl rfl)
def dkwX9_lists_6 : List UInt8 := [167, 0, 6, 20, 1, 18, 80, 132, 7, 1, 167, 255, 206, 21, 6, 172]
abbrev dktX9_lists_6 : List UInt8 := dkwX9_lists_6 ++ []
def dkwX9_lists_5 : List UInt8 := [21, 7, 5, 112, 154, 0, 21, 16, 10, 28, 104, 42, 180, 0, 51, 21, 7, 5, 108, 46, 96, 133]
abbrev dktX9_lists_5 : List UInt8 := dkwX9_lists_5 ++ dktX9_lists_6
def dkwX9_lists_4 : List UInt8 := [46, 54, 6, 3, 54, 7, 21, 7, 21, 6, 162, 0, 49, 42, 180, 0, 88, 16, 40, 27, 104, 21, 7, 96]
abbrev dktX9_lists_4 : List UInt8 := dkwX9_lists_4 ++ dktX9_lists_5
def dkwX9_lists_3 : List UInt8 := [21, 5, 104, 42, 180, 0, 85, 27, 46, 162, 0, 10, 5, 21, 5, 104, 167, 0, 9, 42, 180, 0, 85, 27]
abbrev dktX9_lists_3 : List UInt8 := dkwX9_lists_3 ++ dktX9_lists_4
def dkwX9_lists_2 : List UInt8 := [153, 0, 6, 21, 4, 172, 42, 28, 29, 182, 1, 89, 54, 5, 21, 5, 2, 160, 0, 6, 16, 251, 172, 5]
abbrev dktX9_lists_2 : List UInt8 := dkwX9_lists_2 ++ dktX9_lists_3
def dkwX9_lists_1 : List UInt8 := [153, 0, 12, 42, 29, 133, 182, 1, 83, 154, 0, 6, 16, 254, 172, 42, 27, 182, 1, 53, 54, 4, 21, 4]
abbrev dktX9_lists_1 : List UInt8 := dkwX9_lists_1 ++ dktX9_lists_2
def dkwX9_lists_0 : List UInt8 := [42, 3, 181, 0, 1, 27, 133, 9, 20, 1, 51, 184, 0, 157, 153, 0, 21, 42, 28, 133, 182, 0, 245]
abbrev dktX9_lists_0 : List UInt8 := dkwX9_lists_0 ++ dktX9_lists_1
theorem dksX9_lists_0 : cX9_lists.data.toList.drop 0 = dktX9_lists_0 := by decide +kernel
theorem dksX9_lists_1 : cX9_lists.data.toList.drop 23 = dktX9_lists_1 := dk_seg dksX9_lists_0 23 rfl rfl
theorem dksX9_lists_2 : cX9_lists.data.toList.drop 47 = dktX9_lists_2 := dk_seg dksX9_lists_1 24 rfl rfl
theorem dksX9_lists_3 : cX9_lists.data.toList.drop 71 = dktX9_lists_3 := dk_seg dksX9_lists_2 24 rfl rfl
theorem dksX9_lists_4 : cX9_lists.data.toList.drop 95 = dktX9_lists_4 := dk_seg dksX9_lists_3 24 rfl rfl
theorem dksX9_lists_5 : cX9_lists.data.toList.drop 119 = dktX9_lists_5 := dk_seg dksX9_lists_4 24 rfl rfl
theorem dksX9_lists_6 : cX9_lists.data.toList.drop 141 = dktX9_lists_6 := dk_seg dksX9_lists_5 22 rfl rfl
theorem dX9_lists_0 : decode cX9_lists 0 = .ok (.aload_n 0, 1) := dk_42 (dk_at dksX9_lists_0 0 rfl rfl)
theorem dX9_lists_1 : decode cX9_lists 1 = .ok (.iconst 0, 1) := dk_3 (dk_at dksX9_lists_0 1 rfl rfl)
theorem dX9_lists_2 : decode cX9_lists 2 = .ok (.putfield 1, 3) := dk_181 0 1 (dk_at dksX9_lists_0 2 rfl rfl)
theorem dX9_lists_5 : decode cX9_lists 5 = .ok (.iload_n 1, 1) := dk_27 (dk_at dksX9_lists_0 5 rfl rfl)
theorem dX9_lists_6 : decode cX9_lists 6 = .ok (.i2l, 1) := dk_133 (dk_at dksX9_lists_0 6 rfl rfl)
theorem dX9_lists_7 : decode cX9_lists 7 = .ok (.lconst 0, 1) := dk_9 (dk_at dksX9_lists_0 7 rfl rfl)
theorem dX9_lists_8 : decode cX9_lists 8 = .ok (.ldc2_w 307, 3) := dk_20 1 51 (dk_at dksX9_lists_0 8 rfl rfl)
theorem dX9_lists_11 : decode cX9_lists 11 = .ok (.invokestatic 157, 3) := dk_184 0 157 (dk_at dksX9_lists_0 11 rfl rfl)
theorem dX9_lists_14 : decode cX9_lists 14 = .ok (.ifCond .eq 21, 3) := dk_153 0 21 (dk_at dksX9_lists_0 14 rfl rfl)
theorem dX9_lists_17 : decode cX9_lists 17 = .ok (.aload_n 0, 1) := dk_42 (dk_at dksX9_lists_0 17 rfl rfl)
theorem dX9_lists_18 : decode cX9_lists 18 = .ok (.iload_n 2, 1) := dk_28 (dk_at dksX9_lists_0 18 rfl rfl)
theorem dX9_lists_19 : decode cX9_lists 19 = .ok (.i2l, 1) := dk_133 (dk_at dksX9_lists_0 19 rfl rfl)
theorem dX9_lists_20 : decode cX9_lists 20 = .ok (.invokevirtual 245, 3) := dk_182 0 245 (dk_at dksX9_lists_0 20 rfl rfl)
theorem dX9_lists_23 : decode cX9_lists 23 = .ok (.ifCond .eq 12, 3) := dk_153 0 12 (dk_at dksX9_lists_1 0 rfl rfl)
theorem dX9_lists_26 : decode cX9_lists 26 = .ok (.aload_n 0, 1) := dk_42 (dk_at dksX9_lists_1 3 rfl rfl)
theorem dX9_lists_27 : decode cX9_lists 27 = .ok (.iload_n 3, 1) := dk_29 (dk_at dksX9_lists_1 4 rfl rfl)
theorem dX9_lists_28 : decode cX9_lists 28 = .ok (.i2l, 1) := dk_133 (dk_at dksX9_lists_1 5 rfl rfl)
theorem dX9_lists_29 : decode cX9_lists 29 = .ok (.invokevirtual 339, 3) := dk_182 1 83 (dk_at dksX9_lists_1 6 rfl rfl)
theorem dX9_lists_32 : decode cX9_lists 32 = .ok (.ifCond .ne 6, 3) := dk_154 0 6 (dk_at dksX9_lists_1 9 rfl rfl)
theorem dX9_lists_35 : decode cX9_lists 35 = .ok (.bipush (-2), 2) := dk_16 254 (dk_at dksX9_lists_1 12 rfl rfl)
theorem dX9_lists_37 : decode cX9_lists 37 = .ok (.ireturn, 1) := dk_172 (dk_at dksX9_lists_1 14 rfl rfl)
theorem dX9_lists_38 : decode cX9_lists 38 = .ok (.aload_n 0, 1) := dk_42 (dk_at dksX9_lists_1 15 rfl rfl)
theorem dX9_lists_39 : decode cX9_lists 39 = .ok (.iload_n 1, 1) := dk_27 (dk_at dksX9_lists_1 16 rfl rfl)
theorem dX9_lists_40 : decode cX9_lists 40 = .ok (.invokevirtual 309, 3) := dk_182 1 53 (dk_at dksX9_lists_1 17 rfl rfl)
theorem dX9_lists_43 : decode cX9_lists 43 = .ok (.istore 4, 2) := dk_54 4 (dk_at dksX9_lists_1 20 rfl rfl)
theorem dX9_lists_45 : decode cX9_lists 45 = .ok (.iload 4, 2) := dk_21 4 (dk_at dksX9_lists_1 22 rfl rfl)
theorem dX9_lists_47 : decode cX9_lists 47 = .ok (.ifCond .eq 6, 3) := dk_153 0 6 (dk_at dksX9_lists_2 0 rfl rfl)
theorem dX9_lists_50 : decode cX9_lists 50 = .ok (.iload 4, 2) := dk_21 4 (dk_at dksX9_lists_2 3 rfl rfl)
theorem dX9_lists_52 : decode cX9_lists 52 = .ok (.ireturn, 1) := dk_172 (dk_at dksX9_lists_2 5 rfl rfl)
theorem dX9_lists_53 : decode cX9_lists 53 = .ok (.aload_n 0, 1) := dk_42 (dk_at dksX9_lists_2 6 rfl rfl)
theorem dX9_lists_54 : decode cX9_lists 54 = .ok (.iload_n 2, 1) := dk_28 (dk_at dksX9_lists_2 7 rfl rfl)
theorem dX9_lists_55 : decode cX9_lists 55 = .ok (.iload_n 3, 1) := dk_29 (dk_at dksX9_lists_2 8 rfl rfl)
theorem dX9_lists_56 : decode cX9_lists 56 = .ok (.invokevirtual 345, 3) := dk_182 1 89 (dk_at dksX9_lists_2 9 rfl rfl)
theorem dX9_lists_59 : decode cX9_lists 59 = .ok (.istore 5, 2) := dk_54 5 (dk_at dksX9_lists_2 12 rfl rfl)
theorem dX9_lists_61 : decode cX9_lists 61 = .ok (.iload 5, 2) := dk_21 5 (dk_at dksX9_lists_2 14 rfl rfl)
theorem dX9_lists_63 : decode cX9_lists 63 = .ok (.iconst (-1), 1) := dk_2 (dk_at dksX9_lists_2 16 rfl rfl)
theorem dX9_lists_64 : decode cX9_lists 64 = .ok (.if_icmp .ne 6, 3) := dk_160 0 6 (dk_at dksX9_lists_2 17 rfl rfl)
theorem dX9_lists_67 : decode cX9_lists 67 = .ok (.bipush (-5), 2) := dk_16 251 (dk_at dksX9_lists_2 20 rfl rfl)
theorem dX9_lists_69 : decode cX9_lists 69 = .ok (.ireturn, 1) := dk_172 (dk_at dksX9_lists_2 22 rfl rfl)
theorem dX9_lists_70 : decode cX9_lists 70 = .ok (.iconst 2, 1) := dk_5 (dk_at dksX9_lists_2 23 rfl rfl)
theorem dX9_lists_71 : decode cX9_lists 71 = .ok (.iload 5, 2) := dk_21 5 (dk_at dksX9_lists_3 0 rfl rfl)
theorem dX9_lists_73 : decode cX9_lists 73 = .ok (.imul, 1) := dk_104 (dk_at dksX9_lists_3 2 rfl rfl)
theorem dX9_lists_74 : decode cX9_lists 74 = .ok (.aload_n 0, 1) := dk_42 (dk_at dksX9_lists_3 3 rfl rfl)
theorem dX9_lists_75 : decode cX9_lists 75 = .ok (.getfield 85, 3) := dk_180 0 85 (dk_at dksX9_lists_3 4 rfl rfl)
theorem dX9_lists_78 : decode cX9_lists 78 = .ok (.iload_n 1, 1) := dk_27 (dk_at dksX9_lists_3 7 rfl rfl)
theorem dX9_lists_79 : decode cX9_lists 79 = .ok (.iaload, 1) := dk_46 (dk_at dksX9_lists_3 8 rfl rfl)
theorem dX9_lists_80 : decode cX9_lists 80 = .ok (.if_icmp .ge 10, 3) := dk_162 0 10 (dk_at dksX9_lists_3 9 rfl rfl)
theorem dX9_lists_83 : decode cX9_lists 83 = .ok (.iconst 2, 1) := dk_5 (dk_at dksX9_lists_3 12 rfl rfl)
theorem dX9_lists_84 : decode cX9_lists 84 = .ok (.iload 5, 2) := dk_21 5 (dk_at dksX9_lists_3 13 rfl rfl)
theorem dX9_lists_86 : decode cX9_lists 86 = .ok (.imul, 1) := dk_104 (dk_at dksX9_lists_3 15 rfl rfl)
theorem dX9_lists_87 : decode cX9_lists 87 = .ok (.goto 9, 3) := dk_167 0 9 (dk_at dksX9_lists_3 16 rfl rfl)
theorem dX9_lists_90 : decode cX9_lists 90 = .ok (.aload_n 0, 1) := dk_42 (dk_at dksX9_lists_3 19 rfl rfl)
theorem dX9_lists_91 : decode cX9_lists 91 = .ok (.getfield 85, 3) := dk_180 0 85 (dk_at dksX9_lists_3 20 rfl rfl)
theorem dX9_lists_94 : decode cX9_lists 94 = .ok (.iload_n 1, 1) := dk_27 (dk_at dksX9_lists_3 23 rfl rfl)
theorem dX9_lists_95 : decode cX9_lists 95 = .ok (.iaload, 1) := dk_46 (dk_at dksX9_lists_4 0 rfl rfl)
theorem dX9_lists_96 : decode cX9_lists 96 = .ok (.istore 6, 2) := dk_54 6 (dk_at dksX9_lists_4 1 rfl rfl)
theorem dX9_lists_98 : decode cX9_lists 98 = .ok (.iconst 0, 1) := dk_3 (dk_at dksX9_lists_4 3 rfl rfl)
theorem dX9_lists_99 : decode cX9_lists 99 = .ok (.istore 7, 2) := dk_54 7 (dk_at dksX9_lists_4 4 rfl rfl)
theorem dX9_lists_101 : decode cX9_lists 101 = .ok (.iload 7, 2) := dk_21 7 (dk_at dksX9_lists_4 6 rfl rfl)
theorem dX9_lists_103 : decode cX9_lists 103 = .ok (.iload 6, 2) := dk_21 6 (dk_at dksX9_lists_4 8 rfl rfl)
theorem dX9_lists_105 : decode cX9_lists 105 = .ok (.if_icmp .ge 49, 3) := dk_162 0 49 (dk_at dksX9_lists_4 10 rfl rfl)
theorem dX9_lists_108 : decode cX9_lists 108 = .ok (.aload_n 0, 1) := dk_42 (dk_at dksX9_lists_4 13 rfl rfl)
theorem dX9_lists_109 : decode cX9_lists 109 = .ok (.getfield 88, 3) := dk_180 0 88 (dk_at dksX9_lists_4 14 rfl rfl)
theorem dX9_lists_112 : decode cX9_lists 112 = .ok (.bipush 40, 2) := dk_16 40 (dk_at dksX9_lists_4 17 rfl rfl)
theorem dX9_lists_114 : decode cX9_lists 114 = .ok (.iload_n 1, 1) := dk_27 (dk_at dksX9_lists_4 19 rfl rfl)
theorem dX9_lists_115 : decode cX9_lists 115 = .ok (.imul, 1) := dk_104 (dk_at dksX9_lists_4 20 rfl rfl)
theorem dX9_lists_116 : decode cX9_lists 116 = .ok (.iload 7, 2) := dk_21 7 (dk_at dksX9_lists_4 21 rfl rfl)
theorem dX9_lists_118 : decode cX9_lists 118 = .ok (.iadd, 1) := dk_96 (dk_at dksX9_lists_4 23 rfl rfl)
theorem dX9_lists_119 : decode cX9_lists 119 = .ok (.iload 7, 2) := dk_21 7 (dk_at dksX9_lists_5 0 rfl rfl)
theorem dX9_lists_121 : decode cX9_lists 121 = .ok (.iconst 2, 1) := dk_5 (dk_at dksX9_lists_5 2 rfl rfl)
theorem dX9_lists_122 : decode cX9_lists 122 = .ok (.irem, 1) := dk_112 (dk_at dksX9_lists_5 3 rfl rfl)
theorem dX9_lists_123 : decode cX9_lists 123 = .ok (.ifCond .ne 21, 3) := dk_154 0 21 (dk_at dksX9_lists_5 4 rfl rfl)
theorem dX9_lists_126 : decode cX9_lists 126 = .ok (.bipush 10, 2) := dk_16 10 (dk_at dksX9_lists_5 7 rfl rfl)
theorem dX9_lists_128 : decode cX9_lists 128 = .ok (.iload_n 2, 1) := dk_28 (dk_at dksX9_lists_5 9 rfl rfl)
theorem dX9_lists_129 : decode cX9_lists 129 = .ok (.imul, 1) := dk_104 (dk_at dksX9_lists_5 10 rfl rfl)
theorem dX9_lists_130 : decode cX9_lists 130 = .ok (.aload_n 0, 1) := dk_42 (dk_at dksX9_lists_5 11 rfl rfl)
theorem dX9_lists_131 : decode cX9_lists 131 = .ok (.getfield 51, 3) := dk_180 0 51 (dk_at dksX9_lists_5 12 rfl rfl)
theorem dX9_lists_134 : decode cX9_lists 134 = .ok (.iload 7, 2) := dk_21 7 (dk_at dksX9_lists_5 15 rfl rfl)
theorem dX9_lists_136 : decode cX9_lists 136 = .ok (.iconst 2, 1) := dk_5 (dk_at dksX9_lists_5 17 rfl rfl)
theorem dX9_lists_137 : decode cX9_lists 137 = .ok (.idiv, 1) := dk_108 (dk_at dksX9_lists_5 18 rfl rfl)
theorem dX9_lists_138 : decode cX9_lists 138 = .ok (.iaload, 1) := dk_46 (dk_at dksX9_lists_5 19 rfl rfl)
theorem dX9_lists_139 : decode cX9_lists 139 = .ok (.iadd, 1) := dk_96 (dk_at dksX9_lists_5 20 rfl rfl)
theorem dX9_lists_140 : decode cX9_lists 140 = .ok (.i2l, 1) := dk_133 (dk_at dksX9_lists_5 21 rfl rfl)
theorem dX9_lists_141 : decode cX9_lists 141 = .ok (.goto 6, 3) := dk_167 0 6 (dk_at dksX9_lists_6 0 rfl rfl)
theorem dX9_lists_144 : decode cX9_lists 144 = .ok (.ldc2_w 274, 3) := dk_20 1 18 (dk_at dksX9_lists_6 3 rfl rfl)
theorem dX9_lists_147 : decode cX9_lists 147 = .ok (.lastore, 1) := dk_80 (dk_at dksX9_lists_6 6 rfl rfl)
theorem dX9_lists_148 : decode cX9_lists 148 = .ok (.iinc 7 1, 3) := dk_132 7 1 (dk_at dksX9_lists_6 7 rfl rfl)
theorem dX9_lists_151 : decode cX9_lists 151 = .ok (.goto (-50), 3) := dk_167 255 206 (dk_at dksX9_lists_6 10 rfl rfl)
theorem dX9_lists_154 : decode cX9_lists 154 = .ok (.iload 6, 2) := dk_21 6 (dk_at dksX9_lists_6 13 rfl rfl)
theorem dX9_lists_156 : decode cX9_lists 156 = .ok (.ireturn, 1) := dk_172 (dk_at dksX9_lists_6 15 rfl rfl)
def dkwX9_image_2 : List UInt8 := [132, 2, 1, 167, 255, 226, 42, 180, 0, 17, 27, 4, 84, 3, 172]
abbrev dktX9_image_2 : List UInt8 := dkwX9_image_2 ++ []
def dkwX9_image_1 : List UInt8 := [162, 0, 29, 42, 180, 0, 13, 17, 4, 113, 27, 4, 96, 104, 28, 96, 42, 180, 0, 13, 28, 46, 79]
abbrev dktX9_image_1 : List UInt8 := dkwX9_image_1 ++ dktX9_image_2
def dkwX9_image_0 : List UInt8 := [42, 3, 181, 0, 1, 27, 133, 9, 10, 184, 0, 157, 154, 0, 6, 16, 254, 172, 3, 61, 28, 17, 4, 113]
abbrev dktX9_image_0 : List UInt8 := dkwX9_image_0 ++ dktX9_image_1
theorem dksX9_image_0 : cX9_image.data.toList.drop 0 = dktX9_image_0 := by decide +kernel
theorem dksX9_image_1 : cX9_image.data.toList.drop 24 = dktX9_image_1 := dk_seg dksX9_image_0 24 rfl rfl
theorem dksX9_image_2 : cX9_image.data.toList.drop 47 = dktX9_image_2 := dk_seg dksX9_image_1 23 rfl rfl
theorem dX9_image_0 : decode cX9_image 0 = .ok (.aload_n 0, 1) := dk_42 (dk_at dksX9_image_0 0 rfl rfl)
theorem dX9_image_1 : decode cX9_image 1 = .ok (.iconst 0, 1) := dk_3 (dk_at dksX9_image_0 1 rfl rfl)
theorem dX9_image_2 : decode cX9_image 2 = .ok (.putfield 1, 3) := dk_181 0 1 (dk_at dksX9_image_0 2 rfl rfl)
theorem dX9_image_5 : decode cX9_image 5 = .ok (.iload_n 1, 1) := dk_27 (dk_at dksX9_image_0 5 rfl rfl)
theorem dX9_image_6 : decode cX9_image 6 = .ok (.i2l, 1) := dk_133 (dk_at dksX9_image_0 6 rfl rfl)
theorem dX9_image_7 : decode cX9_image 7 = .ok (.lconst 0, 1) := dk_9 (dk_at dksX9_image_0 7 rfl rfl)
theorem dX9_image_8 : decode cX9_image 8 = .ok (.lconst 1, 1) := dk_10 (dk_at dksX9_image_0 8 rfl rfl)
theorem dX9_image_9 : decode cX9_image 9 = .ok (.invokestatic 157, 3) := dk_184 0 157 (dk_at dksX9_image_0 9 rfl rfl)
theorem dX9_image_12 : decode cX9_image 12 = .ok (.ifCond .ne 6, 3) := dk_154 0 6 (dk_at dksX9_image_0 12 rfl rfl)
theorem dX9_image_15 : decode cX9_image 15 = .ok (.bipush (-2), 2) := dk_16 254 (dk_at dksX9_image_0 15 rfl rfl)
theorem dX9_image_17 : decode cX9_image 17 = .ok (.ireturn, 1) := dk_172 (dk_at dksX9_image_0 17 rfl rfl)
theorem dX9_image_18 : decode cX9_image 18 = .ok (.iconst 0, 1) := dk_3 (dk_at dksX9_image_0 18 rfl rfl)
theorem dX9_image_19 : decode cX9_image 19 = .ok (.istore_n 2, 1) := dk_61 (dk_at dksX9_image_0 19 rfl rfl)
theorem dX9_image_20 : decode cX9_image 20 = .ok (.iload_n 2, 1) := dk_28 (dk_at dksX9_image_0 20 rfl rfl)
theorem dX9_image_21 : decode cX9_image 21 = .ok (.sipush 1137, 3) := dk_17 4 113 (dk_at dksX9_image_0 21 rfl rfl)
theorem dX9_image_24 : decode cX9_image 24 = .ok (.if_icmp .ge 29, 3) := dk_162 0 29 (dk_at dksX9_image_1 0 rfl rfl)
theorem dX9_image_27 : decode cX9_image 27 = .ok (.aload_n 0, 1) := dk_42 (dk_at dksX9_image_1 3 rfl rfl)
theorem dX9_image_28 : decode cX9_image 28 = .ok (.getfield 13, 3) := dk_180 0 13 (dk_at dksX9_image_1 4 rfl rfl)
theorem dX9_image_31 : decode cX9_image 31 = .ok (.sipush 1137, 3) := dk_17 4 113 (dk_at dksX9_image_1 7 rfl rfl)
theorem dX9_image_34 : decode cX9_image 34 = .ok (.iload_n 1, 1) := dk_27 (dk_at dksX9_image_1 10 rfl rfl)
theorem dX9_image_35 : decode cX9_image 35 = .ok (.iconst 1, 1) := dk_4 (dk_at dksX9_image_1 11 rfl rfl)
theorem dX9_image_36 : decode cX9_image 36 = .ok (.iadd, 1) := dk_96 (dk_at dksX9_image_1 12 rfl rfl)
theorem dX9_image_37 : decode cX9_image 37 = .ok (.imul, 1) := dk_104 (dk_at dksX9_image_1 13 rfl rfl)
theorem dX9_image_38 : decode cX9_image 38 = .ok (.iload_n 2, 1) := dk_28 (dk_at dksX9_image_1 14 rfl rfl)
theorem dX9_image_39 : decode cX9_image 39 = .ok (.iadd, 1) := dk_96 (dk_at dksX9_image_1 15 rfl rfl)
theorem dX9_image_40 : decode cX9_image 40 = .ok (.aload_n 0, 1) := dk_42 (dk_at dksX9_image_1 16 rfl rfl)
theorem dX9_image_41 : decode cX9_image 41 = .ok (.getfield 13, 3) := dk_180 0 13 (dk_at dksX9_image_1 17 rfl rfl)
theorem dX9_image_44 : decode cX9_image 44 = .ok (.iload_n 2, 1) := dk_28 (dk_at dksX9_image_1 20 rfl rfl)
theorem dX9_image_45 : decode cX9_image 45 = .ok (.iaload, 1) := dk_46 (dk_at dksX9_image_1 21 rfl rfl)
theorem dX9_image_46 : decode cX9_image 46 = .ok (.iastore, 1) := dk_79 (dk_at dksX9_image_1 22 rfl rfl)
theorem dX9_image_47 : decode cX9_image 47 = .ok (.iinc 2 1, 3) := dk_132 2 1 (dk_at dksX9_image_2 0 rfl rfl)
theorem dX9_image_50 : decode cX9_image 50 = .ok (.goto (-30), 3) := dk_167 255 226 (dk_at dksX9_image_2 3 rfl rfl)
theorem dX9_image_53 : decode cX9_image 53 = .ok (.aload_n 0, 1) := dk_42 (dk_at dksX9_image_2 6 rfl rfl)
theorem dX9_image_54 : decode cX9_image 54 = .ok (.getfield 17, 3) := dk_180 0 17 (dk_at dksX9_image_2 7 rfl rfl)
theorem dX9_image_57 : decode cX9_image 57 = .ok (.iload_n 1, 1) := dk_27 (dk_at dksX9_image_2 10 rfl rfl)
theorem dX9_image_58 : decode cX9_image 58 = .ok (.iconst 1, 1) := dk_4 (dk_at dksX9_image_2 11 rfl rfl)
theorem dX9_image_59 : decode cX9_image 59 = .ok (.bastore, 1) := dk_84 (dk_at dksX9_image_2 12 rfl rfl)
theorem dX9_image_60 : decode cX9_image 60 = .ok (.iconst 0, 1) := dk_3 (dk_at dksX9_image_2 13 rfl rfl)
theorem dX9_image_61 : decode cX9_image 61 = .ok (.ireturn, 1) := dk_172 (dk_at dksX9_image_2 14 rfl rfl)
def dkwX9_restore_3 : List UInt8 := [79, 3, 172]
abbrev dktX9_restore_3 : List UInt8 := dkwX9_restore_3 ++ []
def dkwX9_restore_2 : List UInt8 := [17, 4, 113, 27, 4, 96, 104, 28, 96, 46, 79, 132, 2, 1, 167, 255, 226, 42, 180, 0, 13, 16, 45, 3]
abbrev dktX9_restore_2 : List UInt8 := dkwX9_restore_2 ++ dktX9_restore_3
def dkwX9_restore_1 : List UInt8 := [154, 0, 6, 16, 251, 172, 3, 61, 28, 17, 4, 113, 162, 0, 29, 42, 180, 0, 13, 28, 42, 180, 0, 13]
abbrev dktX9_restore_1 : List UInt8 := dkwX9_restore_1 ++ dktX9_restore_2
def dkwX9_restore_0 : List UInt8 := [42, 3, 181, 0, 1, 27, 133, 9, 10, 184, 0, 157, 154, 0, 6, 16, 254, 172, 42, 180, 0, 17, 27, 51]
abbrev dktX9_restore_0 : List UInt8 := dkwX9_restore_0 ++ dktX9_restore_1
theorem dksX9_restore_0 : cX9_restore.data.toList.drop 0 = dktX9_restore_0 := by decide +kernel
theorem dksX9_restore_1 : cX9_restore.data.toList.drop 24 = dktX9_restore_1 := dk_seg dksX9_restore_0 24 rfl rfl
theorem dksX9_restore_2 : cX9_restore.data.toList.drop 48 = dktX9_restore_2 := dk_seg dksX9_restore_1 24 rfl rfl
theorem dksX9_restore_3 : cX9_restore.data.toList.drop 72 = dktX9_restore_3 := dk_seg dksX9_restore_2 24 rfl rfl
theorem dX9_restore_0 : decode cX9_restore 0 = .ok (.aload_n 0, 1) := dk_42 (dk_at dksX9_restore_0 0 rfl rfl)
theorem dX9_restore_1 : decode cX9_restore 1 = .ok (.iconst 0, 1) := dk_3 (dk_at dksX9_restore_0 1 rfl rfl)
theorem dX9_restore_2 : decode cX9_restore 2 = .ok (.putfield 1, 3) := dk_181 0 1 (dk_at dksX9_restore_0 2 rfl rfl)
theorem dX9_restore_5 : decode cX9_restore 5 = .ok (.iload_n 1, 1) := dk_27 (dk_at dksX9_restore_0 5 rfl rfl)
theorem dX9_restore_6 : decode cX9_restore 6 = .ok (.i2l, 1) := dk_133 (dk_at dksX9_restore_0 6 rfl rfl)
theorem dX9_restore_7 : decode cX9_restore 7 = .ok (.lconst 0, 1) := dk_9 (dk_at dksX9_restore_0 7 rfl rfl)
theorem dX9_restore_8 : decode cX9_restore 8 = .ok (.lconst 1, 1) := dk_10 (dk_at dksX9_restore_0 8 rfl rfl)
theorem dX9_restore_9 : decode cX9_restore 9 = .ok (.invokestatic 157, 3) := dk_184 0 157 (dk_at dksX9_restore_0 9 rfl rfl)
theorem dX9_restore_12 : decode cX9_restore 12 = .ok (.ifCond .ne 6, 3) := dk_154 0 6 (dk_at dksX9_restore_0 12 rfl rfl)
theorem dX9_restore_15 : decode cX9_restore 15 = .ok (.bipush (-2), 2) := dk_16 254 (dk_at dksX9_restore_0 15 rfl rfl)
theorem dX9_restore_17 : decode cX9_restore 17 = .ok (.ireturn, 1) := dk_172 (dk_at dksX9_restore_0 17 rfl rfl)
theorem dX9_restore_18 : decode cX9_restore 18 = .ok (.aload_n 0, 1) := dk_42 (dk_at dksX9_restore_0 18 rfl rfl)
theorem dX9_restore_19 : decode cX9_restore 19 = .ok (.getfield 17, 3) := dk_180 0 17 (dk_at dksX9_restore_0 19 rfl rfl)
theorem dX9_restore_22 : decode cX9_restore 22 = .ok (.iload_n 1, 1) := dk_27 (dk_at dksX9_restore_0 22 rfl rfl)
theorem dX9_restore_23 : decode cX9_restore 23 = .ok (.baload, 1) := dk_51 (dk_at dksX9_restore_0 23 rfl rfl)
theorem dX9_restore_24 : decode cX9_restore 24 = .ok (.ifCond .ne 6, 3) := dk_154 0 6 (dk_at dksX9_restore_1 0 rfl rfl)
theorem dX9_restore_27 : decode cX9_restore 27 = .ok (.bipush (-5), 2) := dk_16 251 (dk_at dksX9_restore_1 3 rfl rfl)
theorem dX9_restore_29 : decode cX9_restore 29 = .ok (.ireturn, 1) := dk_172 (dk_at dksX9_restore_1 5 rfl rfl)
theorem dX9_restore_30 : decode cX9_restore 30 = .ok (.iconst 0, 1) := dk_3 (dk_at dksX9_restore_1 6 rfl rfl)
theorem dX9_restore_31 : decode cX9_restore 31 = .ok (.istore_n 2, 1) := dk_61 (dk_at dksX9_restore_1 7 rfl rfl)
theorem dX9_restore_32 : decode cX9_restore 32 = .ok (.iload_n 2, 1) := dk_28 (dk_at dksX9_restore_1 8 rfl rfl)
theorem dX9_restore_33 : decode cX9_restore 33 = .ok (.sipush 1137, 3) := dk_17 4 113 (dk_at dksX9_restore_1 9 rfl rfl)
theorem dX9_restore_36 : decode cX9_restore 36 = .ok (.if_icmp .ge 29, 3) := dk_162 0 29 (dk_at dksX9_restore_1 12 rfl rfl)
theorem dX9_restore_39 : decode cX9_restore 39 = .ok (.aload_n 0, 1) := dk_42 (dk_at dksX9_restore_1 15 rfl rfl)
theorem dX9_restore_40 : decode cX9_restore 40 = .ok (.getfield 13, 3) := dk_180 0 13 (dk_at dksX9_restore_1 16 rfl rfl)
theorem dX9_restore_43 : decode cX9_restore 43 = .ok (.iload_n 2, 1) := dk_28 (dk_at dksX9_restore_1 19 rfl rfl)
theorem dX9_restore_44 : decode cX9_restore 44 = .ok (.aload_n 0, 1) := dk_42 (dk_at dksX9_restore_1 20 rfl rfl)
theorem dX9_restore_45 : decode cX9_restore 45 = .ok (.getfield 13, 3) := dk_180 0 13 (dk_at dksX9_restore_1 21 rfl rfl)
theorem dX9_restore_48 : decode cX9_restore 48 = .ok (.sipush 1137, 3) := dk_17 4 113 (dk_at dksX9_restore_2 0 rfl rfl)
theorem dX9_restore_51 : decode cX9_restore 51 = .ok (.iload_n 1, 1) := dk_27 (dk_at dksX9_restore_2 3 rfl rfl)
theorem dX9_restore_52 : decode cX9_restore 52 = .ok (.iconst 1, 1) := dk_4 (dk_at dksX9_restore_2 4 rfl rfl)
theorem dX9_restore_53 : decode cX9_restore 53 = .ok (.iadd, 1) := dk_96 (dk_at dksX9_restore_2 5 rfl rfl)
theorem dX9_restore_54 : decode cX9_restore 54 = .ok (.imul, 1) := dk_104 (dk_at dksX9_restore_2 6 rfl rfl)
theorem dX9_restore_55 : decode cX9_restore 55 = .ok (.iload_n 2, 1) := dk_28 (dk_at dksX9_restore_2 7 rfl rfl)
theorem dX9_restore_56 : decode cX9_restore 56 = .ok (.iadd, 1) := dk_96 (dk_at dksX9_restore_2 8 rfl rfl)
theorem dX9_restore_57 : decode cX9_restore 57 = .ok (.iaload, 1) := dk_46 (dk_at dksX9_restore_2 9 rfl rfl)
theorem dX9_restore_58 : decode cX9_restore 58 = .ok (.iastore, 1) := dk_79 (dk_at dksX9_restore_2 10 rfl rfl)
theorem dX9_restore_59 : decode cX9_restore 59 = .ok (.iinc 2 1, 3) := dk_132 2 1 (dk_at dksX9_restore_2 11 rfl rfl)
theorem dX9_restore_62 : decode cX9_restore 62 = .ok (.goto (-30), 3) := dk_167 255 226 (dk_at dksX9_restore_2 14 rfl rfl)
theorem dX9_restore_65 : decode cX9_restore 65 = .ok (.aload_n 0, 1) := dk_42 (dk_at dksX9_restore_2 17 rfl rfl)
theorem dX9_restore_66 : decode cX9_restore 66 = .ok (.getfield 13, 3) := dk_180 0 13 (dk_at dksX9_restore_2 18 rfl rfl)
theorem dX9_restore_69 : decode cX9_restore 69 = .ok (.bipush 45, 2) := dk_16 45 (dk_at dksX9_restore_2 21 rfl rfl)
theorem dX9_restore_71 : decode cX9_restore 71 = .ok (.iconst 0, 1) := dk_3 (dk_at dksX9_restore_2 23 rfl rfl)
theorem dX9_restore_72 : decode cX9_restore 72 = .ok (.iastore, 1) := dk_79 (dk_at dksX9_restore_3 0 rfl rfl)
theorem dX9_restore_73 : decode cX9_restore 73 = .ok (.iconst 0, 1) := dk_3 (dk_at dksX9_restore_3 1 rfl rfl)
theorem dX9_restore_74 : decode cX9_restore 74 = .ok (.ireturn, 1) := dk_172 (dk_at dksX9_restore_3 2 rfl rfl)
def dkwX9_count_5 : List UInt8 := [42, 180, 0, 95, 172, 42, 180, 0, 13, 3, 46, 172, 2, 172]
abbrev dktX9_count_5 : List UInt8 := dkwX9_count_5 ++ []
def dkwX9_count_4 : List UInt8 := [172, 42, 180, 0, 13, 16, 27, 46, 172, 42, 180, 0, 13, 7, 46, 172, 42, 180, 0, 13, 16, 45, 46, 172]
abbrev dktX9_count_4 : List UInt8 := dkwX9_count_4 ++ dktX9_count_5
def dkwX9_count_3 : List UInt8 := [182, 1, 182, 172, 42, 180, 0, 13, 16, 28, 46, 172, 42, 182, 1, 185, 172, 42, 180, 0, 13, 16, 26, 46]
abbrev dktX9_count_3 : List UInt8 := dkwX9_count_3 ++ dktX9_count_4
def dkwX9_count_2 : List UInt8 := [42, 180, 0, 13, 4, 46, 172, 42, 180, 0, 13, 5, 46, 172, 42, 180, 0, 13, 6, 46, 172, 42]
abbrev dktX9_count_2 : List UInt8 := dkwX9_count_2 ++ dktX9_count_3
def dkwX9_count_1 : List UInt8 := [170, 0, 0, 0, 0, 144, 0, 0, 0, 0, 0, 0, 0, 11, 0, 0, 0, 62, 0, 0, 0, 69, 0, 0, 0, 76, 0, 0, 0, 83, 0, 0, 0, 88, 0, 0, 0, 96, 0, 0, 0, 101, 0, 0, 0, 109, 0, 0, 0, 117, 0, 0, 0, 124, 0, 0, 0, 132, 0, 0, 0, 137]
abbrev dktX9_count_1 : List UInt8 := dkwX9_count_1 ++ dktX9_count_2
def dkwX9_count_0 : List UInt8 := [42, 3, 181, 0, 1, 27]
abbrev dktX9_count_0 : List UInt8 := dkwX9_count_0 ++ dktX9_count_1
theorem dksX9_count_0 : cX9_count.data.toList.drop 0 = dktX9_count_0 := by decide +kernel
theorem dksX9_count_1 : cX9_count.data.toList.drop 6 = dktX9_count_1 := dk_seg dksX9_count_0 6 rfl rfl
theorem dksX9_count_2 : cX9_count.data.toList.drop 68 = dktX9_count_2 := dk_seg dksX9_count_1 62 rfl rfl
theorem dksX9_count_3 : cX9_count.data.toList.drop 90 = dktX9_count_3 := dk_seg dksX9_count_2 22 rfl rfl
theorem dksX9_count_4 : cX9_count.data.toList.drop 114 = dktX9_count_4 := dk_seg dksX9_count_3 24 rfl rfl
theorem dksX9_count_5 : cX9_count.data.toList.drop 138 = dktX9_count_5 := dk_seg dksX9_count_4 24 rfl rfl
theorem dX9_count_0 : decode cX9_count 0 = .ok (.aload_n 0, 1) := dk_42 (dk_at dksX9_count_0 0 rfl rfl)
theorem dX9_count_1 : decode cX9_count 1 = .ok (.iconst 0, 1) := dk_3 (dk_at dksX9_count_0 1 rfl rfl)
theorem dX9_count_2 : decode cX9_count 2 = .ok (.putfield 1, 3) := dk_181 0 1 (dk_at dksX9_count_0 2 rfl rfl)
theorem dX9_count_5 : decode cX9_count 5 = .ok (.iload_n 1, 1) := dk_27 (dk_at dksX9_count_0 5 rfl rfl)
theorem dX9_count_6 : decode cX9_count 6 = .ok (.tableswitch 144 0 11 #[62, 69, 76, 83, 88, 96, 101, 109, 117, 124, 132, 137], 62) := by decide +kernel
theorem dX9_count_68 : decode cX9_count 68 = .ok (.aload_n 0, 1) := dk_42 (dk_at dksX9_count_2 0 rfl rfl)
theorem dX9_count_69 : decode cX9_count 69 = .ok (.getfield 13, 3) := dk_180 0 13 (dk_at dksX9_count_2 1 rfl rfl)
theorem dX9_count_72 : decode cX9_count 72 = .ok (.iconst 1, 1) := dk_4 (dk_at dksX9_count_2 4 rfl rfl)
theorem dX9_count_73 : decode cX9_count 73 = .ok (.iaload, 1) := dk_46 (dk_at dksX9_count_2 5 rfl rfl)
theorem dX9_count_74 : decode cX9_count 74 = .ok (.ireturn, 1) := dk_172 (dk_at dksX9_count_2 6 rfl rfl)
theorem dX9_count_75 : decode cX9_count 75 = .ok (.aload_n 0, 1) := dk_42 (dk_at dksX9_count_2 7 rfl rfl)
theorem dX9_count_76 : decode cX9_count 76 = .ok (.getfield 13, 3) := dk_180 0 13 (dk_at dksX9_count_2 8 rfl rfl)
theorem dX9_count_79 : decode cX9_count 79 = .ok (.iconst 2, 1) := dk_5 (dk_at dksX9_count_2 11 rfl rfl)
theorem dX9_count_80 : decode cX9_count 80 = .ok (.iaload, 1) := dk_46 (dk_at dksX9_count_2 12 rfl rfl)
theorem dX9_count_81 : decode cX9_count 81 = .ok (.ireturn, 1) := dk_172 (dk_at dksX9_count_2 13 rfl rfl)
theorem dX9_count_82 : decode cX9_count 82 = .ok (.aload_n 0, 1) := dk_42 (dk_at dksX9_count_2 14 rfl rfl)
theorem dX9_count_83 : decode cX9_count 83 = .ok (.getfield 13, 3) := dk_180 0 13 (dk_at dksX9_count_2 15 rfl rfl)
theorem dX9_count_86 : decode cX9_count 86 = .ok (.iconst 3, 1) := dk_6 (dk_at dksX9_count_2 18 rfl rfl)
theorem dX9_count_87 : decode cX9_count 87 = .ok (.iaload, 1) := dk_46 (dk_at dksX9_count_2 19 rfl rfl)
theorem dX9_count_88 : decode cX9_count 88 = .ok (.ireturn, 1) := dk_172 (dk_at dksX9_count_2 20 rfl rfl)
theorem dX9_count_89 : decode cX9_count 89 = .ok (.aload_n 0, 1) := dk_42 (dk_at dksX9_count_2 21 rfl rfl)
theorem dX9_count_90 : decode cX9_count 90 = .ok (.invokevirtual 438, 3) := dk_182 1 182 (dk_at dksX9_count_3 0 rfl rfl)
theorem dX9_count_93 : decode cX9_count 93 = .ok (.ireturn, 1) := dk_172 (dk_at dksX9_count_3 3 rfl rfl)
theorem dX9_count_94 : decode cX9_count 94 = .ok (.aload_n 0, 1) := dk_42 (dk_at dksX9_count_3 4 rfl rfl)
theorem dX9_count_95 : decode cX9_count 95 = .ok (.getfield 13, 3) := dk_180 0 13 (dk_at dksX9_count_3 5 rfl rfl)
theorem dX9_count_98 : decode cX9_count 98 = .ok (.bipush 28, 2) := dk_16 28 (dk_at dksX9_count_3 8 rfl rfl)
theorem dX9_count_100 : decode cX9_count 100 = .ok (.iaload, 1) := dk_46 (dk_at dksX9_count_3 10 rfl rfl)
theorem dX9_count_101 : decode cX9_count 101 = .ok (.ireturn, 1) := dk_172 (dk_at dksX9_count_3 11 rfl rfl)
theorem dX9_count_102 : decode cX9_count 102 = .ok (.aload_n 0, 1) := dk_42 (dk_at dksX9_count_3 12 rfl rfl)
theorem dX9_count_103 : decode cX9_count 103 = .ok (.invokevirtual 441, 3) := dk_182 1 185 (dk_at dksX9_count_3 13 rfl rfl)
theorem dX9_count_106 : decode cX9_count 106 = .ok (.ireturn, 1) := dk_172 (dk_at dksX9_count_3 16 rfl rfl)
theorem dX9_count_107 : decode cX9_count 107 = .ok (.aload_n 0, 1) := dk_42 (dk_at dksX9_count_3 17 rfl rfl)
theorem dX9_count_108 : decode cX9_count 108 = .ok (.getfield 13, 3) := dk_180 0 13 (dk_at dksX9_count_3 18 rfl rfl)
theorem dX9_count_111 : decode cX9_count 111 = .ok (.bipush 26, 2) := dk_16 26 (dk_at dksX9_count_3 21 rfl rfl)
theorem dX9_count_113 : decode cX9_count 113 = .ok (.iaload, 1) := dk_46 (dk_at dksX9_count_3 23 rfl rfl)
theorem dX9_count_114 : decode cX9_count 114 = .ok (.ireturn, 1) := dk_172 (dk_at dksX9_count_4 0 rfl rfl)
theorem dX9_count_115 : decode cX9_count 115 = .ok (.aload_n 0, 1) := dk_42 (dk_at dksX9_count_4 1 rfl rfl)
theorem dX9_count_116 : decode cX9_count 116 = .ok (.getfield 13, 3) := dk_180 0 13 (dk_at dksX9_count_4 2 rfl rfl)
theorem dX9_count_119 : decode cX9_count 119 = .ok (.bipush 27, 2) := dk_16 27 (dk_at dksX9_count_4 5 rfl rfl)
theorem dX9_count_121 : decode cX9_count 121 = .ok (.iaload, 1) := dk_46 (dk_at dksX9_count_4 7 rfl rfl)
theorem dX9_count_122 : decode cX9_count 122 = .ok (.ireturn, 1) := dk_172 (dk_at dksX9_count_4 8 rfl rfl)
theorem dX9_count_123 : decode cX9_count 123 = .ok (.aload_n 0, 1) := dk_42 (dk_at dksX9_count_4 9 rfl rfl)
theorem dX9_count_124 : decode cX9_count 124 = .ok (.getfield 13, 3) := dk_180 0 13 (dk_at dksX9_count_4 10 rfl rfl)
theorem dX9_count_127 : decode cX9_count 127 = .ok (.iconst 4, 1) := dk_7 (dk_at dksX9_count_4 13 rfl rfl)
theorem dX9_count_128 : decode cX9_count 128 = .ok (.iaload, 1) := dk_46 (dk_at dksX9_count_4 14 rfl rfl)
theorem dX9_count_129 : decode cX9_count 129 = .ok (.ireturn, 1) := dk_172 (dk_at dksX9_count_4 15 rfl rfl)
theorem dX9_count_130 : decode cX9_count 130 = .ok (.aload_n 0, 1) := dk_42 (dk_at dksX9_count_4 16 rfl rfl)
theorem dX9_count_131 : decode cX9_count 131 = .ok (.getfield 13, 3) := dk_180 0 13 (dk_at dksX9_count_4 17 rfl rfl)
theorem dX9_count_134 : decode cX9_count 134 = .ok (.bipush 45, 2) := dk_16 45 (dk_at dksX9_count_4 20 rfl rfl)
theorem dX9_count_136 : decode cX9_count 136 = .ok (.iaload, 1) := dk_46 (dk_at dksX9_count_4 22 rfl rfl)
theorem dX9_count_137 : decode cX9_count 137 = .ok (.ireturn, 1) := dk_172 (dk_at dksX9_count_4 23 rfl rfl)
theorem dX9_count_138 : decode cX9_count 138 = .ok (.aload_n 0, 1) := dk_42 (dk_at dksX9_count_5 0 rfl rfl)
theorem dX9_count_139 : decode cX9_count 139 = .ok (.getfield 95, 3) := dk_180 0 95 (dk_at dksX9_count_5 1 rfl rfl)
theorem dX9_count_142 : decode cX9_count 142 = .ok (.ireturn, 1) := dk_172 (dk_at dksX9_count_5 4 rfl rfl)
theorem dX9_count_143 : decode cX9_count 143 = .ok (.aload_n 0, 1) := dk_42 (dk_at dksX9_count_5 5 rfl rfl)
theorem dX9_count_144 : decode cX9_count 144 = .ok (.getfield 13, 3) := dk_180 0 13 (dk_at dksX9_count_5 6 rfl rfl)
theorem dX9_count_147 : decode cX9_count 147 = .ok (.iconst 0, 1) := dk_3 (dk_at dksX9_count_5 9 rfl rfl)
theorem dX9_count_148 : decode cX9_count 148 = .ok (.iaload, 1) := dk_46 (dk_at dksX9_count_5 10 rfl rfl)
theorem dX9_count_149 : decode cX9_count 149 = .ok (.ireturn, 1) := dk_172 (dk_at dksX9_count_5 11 rfl rfl)
theorem dX9_count_150 : decode cX9_count 150 = .ok (.iconst (-1), 1) := dk_2 (dk_at dksX9_count_5 12 rfl rfl)
theorem dX9_count_151 : decode cX9_count 151 = .ok (.ireturn, 1) := dk_172 (dk_at dksX9_count_5 13 rfl rfl)
def dkwX9_errandsSet_1 : List UInt8 := [28, 120, 167, 0, 4, 3, 128, 60, 132, 2, 1, 167, 255, 225, 27, 172]
abbrev dktX9_errandsSet_1 : List UInt8 := dkwX9_errandsSet_1 ++ []
def dkwX9_errandsSet_0 : List UInt8 := [3, 60, 3, 61, 28, 42, 180, 0, 13, 6, 46, 162, 0, 27, 27, 42, 28, 182, 1, 106, 153, 0, 9, 4]
abbrev dktX9_errandsSet_0 : List UInt8 := dkwX9_errandsSet_0 ++ dktX9_errandsSet_1
theorem dksX9_errandsSet_0 : cX9_errandsSet.data.toList.drop 0 = dktX9_errandsSet_0 := by decide +kernel
theorem dksX9_errandsSet_1 : cX9_errandsSet.data.toList.drop 24 = dktX9_errandsSet_1 := dk_seg dksX9_errandsSet_0 24 rfl rfl
theorem dX9_errandsSet_0 : decode cX9_errandsSet 0 = .ok (.iconst 0, 1) := dk_3 (dk_at dksX9_errandsSet_0 0 rfl rfl)
theorem dX9_errandsSet_1 : decode cX9_errandsSet 1 = .ok (.istore_n 1, 1) := dk_60 (dk_at dksX9_errandsSet_0 1 rfl rfl)
theorem dX9_errandsSet_2 : decode cX9_errandsSet 2 = .ok (.iconst 0, 1) := dk_3 (dk_at dksX9_errandsSet_0 2 rfl rfl)
theorem dX9_errandsSet_3 : decode cX9_errandsSet 3 = .ok (.istore_n 2, 1) := dk_61 (dk_at dksX9_errandsSet_0 3 rfl rfl)
theorem dX9_errandsSet_4 : decode cX9_errandsSet 4 = .ok (.iload_n 2, 1) := dk_28 (dk_at dksX9_errandsSet_0 4 rfl rfl)
theorem dX9_errandsSet_5 : decode cX9_errandsSet 5 = .ok (.aload_n 0, 1) := dk_42 (dk_at dksX9_errandsSet_0 5 rfl rfl)
theorem dX9_errandsSet_6 : decode cX9_errandsSet 6 = .ok (.getfield 13, 3) := dk_180 0 13 (dk_at dksX9_errandsSet_0 6 rfl rfl)
theorem dX9_errandsSet_9 : decode cX9_errandsSet 9 = .ok (.iconst 3, 1) := dk_6 (dk_at dksX9_errandsSet_0 9 rfl rfl)
theorem dX9_errandsSet_10 : decode cX9_errandsSet 10 = .ok (.iaload, 1) := dk_46 (dk_at dksX9_errandsSet_0 10 rfl rfl)
theorem dX9_errandsSet_11 : decode cX9_errandsSet 11 = .ok (.if_icmp .ge 27, 3) := dk_162 0 27 (dk_at dksX9_errandsSet_0 11 rfl rfl)
theorem dX9_errandsSet_14 : decode cX9_errandsSet 14 = .ok (.iload_n 1, 1) := dk_27 (dk_at dksX9_errandsSet_0 14 rfl rfl)
theorem dX9_errandsSet_15 : decode cX9_errandsSet 15 = .ok (.aload_n 0, 1) := dk_42 (dk_at dksX9_errandsSet_0 15 rfl rfl)
theorem dX9_errandsSet_16 : decode cX9_errandsSet 16 = .ok (.iload_n 2, 1) := dk_28 (dk_at dksX9_errandsSet_0 16 rfl rfl)
theorem dX9_errandsSet_17 : decode cX9_errandsSet 17 = .ok (.invokevirtual 362, 3) := dk_182 1 106 (dk_at dksX9_errandsSet_0 17 rfl rfl)
theorem dX9_errandsSet_20 : decode cX9_errandsSet 20 = .ok (.ifCond .eq 9, 3) := dk_153 0 9 (dk_at dksX9_errandsSet_0 20 rfl rfl)
theorem dX9_errandsSet_23 : decode cX9_errandsSet 23 = .ok (.iconst 1, 1) := dk_4 (dk_at dksX9_errandsSet_0 23 rfl rfl)
theorem dX9_errandsSet_24 : decode cX9_errandsSet 24 = .ok (.iload_n 2, 1) := dk_28 (dk_at dksX9_errandsSet_1 0 rfl rfl)
theorem dX9_errandsSet_25 : decode cX9_errandsSet 25 = .ok (.ishl, 1) := dk_120 (dk_at dksX9_errandsSet_1 1 rfl rfl)
theorem dX9_errandsSet_26 : decode cX9_errandsSet 26 = .ok (.goto 4, 3) := dk_167 0 4 (dk_at dksX9_errandsSet_1 2 rfl rfl)
theorem dX9_errandsSet_29 : decode cX9_errandsSet 29 = .ok (.iconst 0, 1) := dk_3 (dk_at dksX9_errandsSet_1 5 rfl rfl)
theorem dX9_errandsSet_30 : decode cX9_errandsSet 30 = .ok (.ior, 1) := dk_128 (dk_at dksX9_errandsSet_1 6 rfl rfl)
theorem dX9_errandsSet_31 : decode cX9_errandsSet 31 = .ok (.istore_n 1, 1) := dk_60 (dk_at dksX9_errandsSet_1 7 rfl rfl)
theorem dX9_errandsSet_32 : decode cX9_errandsSet 32 = .ok (.iinc 2 1, 3) := dk_132 2 1 (dk_at dksX9_errandsSet_1 8 rfl rfl)
theorem dX9_errandsSet_35 : decode cX9_errandsSet 35 = .ok (.goto (-31), 3) := dk_167 255 225 (dk_at dksX9_errandsSet_1 11 rfl rfl)
theorem dX9_errandsSet_38 : decode cX9_errandsSet 38 = .ok (.iload_n 1, 1) := dk_27 (dk_at dksX9_errandsSet_1 14 rfl rfl)
theorem dX9_errandsSet_39 : decode cX9_errandsSet 39 = .ok (.ireturn, 1) := dk_172 (dk_at dksX9_errandsSet_1 15 rfl rfl)
def dkwX9_onSpan_1 : List UInt8 := [16, 8, 160, 0, 9, 4, 28, 120, 167, 0, 4, 3, 128, 60, 132, 2, 1, 167, 255, 219, 27, 172]
abbrev dktX9_onSpan_1 : List UInt8 := dkwX9_onSpan_1 ++ []
def dkwX9_onSpan_0 : List UInt8 := [3, 60, 3, 61, 28, 42, 180, 0, 13, 6, 46, 162, 0, 33, 27, 42, 180, 0, 13, 16, 35, 28, 96, 46]
abbrev dktX9_onSpan_0 : List UInt8 := dkwX9_onSpan_0 ++ dktX9_onSpan_1
theorem dksX9_onSpan_0 : cX9_onSpan.data.toList.drop 0 = dktX9_onSpan_0 := by decide +kernel
theorem dksX9_onSpan_1 : cX9_onSpan.data.toList.drop 24 = dktX9_onSpan_1 := dk_seg dksX9_onSpan_0 24 rfl rfl
theorem dX9_onSpan_0 : decode cX9_onSpan 0 = .ok (.iconst 0, 1) := dk_3 (dk_at dksX9_onSpan_0 0 rfl rfl)
theorem dX9_onSpan_1 : decode cX9_onSpan 1 = .ok (.istore_n 1, 1) := dk_60 (dk_at dksX9_onSpan_0 1 rfl rfl)
theorem dX9_onSpan_2 : decode cX9_onSpan 2 = .ok (.iconst 0, 1) := dk_3 (dk_at dksX9_onSpan_0 2 rfl rfl)
theorem dX9_onSpan_3 : decode cX9_onSpan 3 = .ok (.istore_n 2, 1) := dk_61 (dk_at dksX9_onSpan_0 3 rfl rfl)
theorem dX9_onSpan_4 : decode cX9_onSpan 4 = .ok (.iload_n 2, 1) := dk_28 (dk_at dksX9_onSpan_0 4 rfl rfl)
theorem dX9_onSpan_5 : decode cX9_onSpan 5 = .ok (.aload_n 0, 1) := dk_42 (dk_at dksX9_onSpan_0 5 rfl rfl)
theorem dX9_onSpan_6 : decode cX9_onSpan 6 = .ok (.getfield 13, 3) := dk_180 0 13 (dk_at dksX9_onSpan_0 6 rfl rfl)
theorem dX9_onSpan_9 : decode cX9_onSpan 9 = .ok (.iconst 3, 1) := dk_6 (dk_at dksX9_onSpan_0 9 rfl rfl)
theorem dX9_onSpan_10 : decode cX9_onSpan 10 = .ok (.iaload, 1) := dk_46 (dk_at dksX9_onSpan_0 10 rfl rfl)
theorem dX9_onSpan_11 : decode cX9_onSpan 11 = .ok (.if_icmp .ge 33, 3) := dk_162 0 33 (dk_at dksX9_onSpan_0 11 rfl rfl)
theorem dX9_onSpan_14 : decode cX9_onSpan 14 = .ok (.iload_n 1, 1) := dk_27 (dk_at dksX9_onSpan_0 14 rfl rfl)
theorem dX9_onSpan_15 : decode cX9_onSpan 15 = .ok (.aload_n 0, 1) := dk_42 (dk_at dksX9_onSpan_0 15 rfl rfl)
theorem dX9_onSpan_16 : decode cX9_onSpan 16 = .ok (.getfield 13, 3) := dk_180 0 13 (dk_at dksX9_onSpan_0 16 rfl rfl)
theorem dX9_onSpan_19 : decode cX9_onSpan 19 = .ok (.bipush 35, 2) := dk_16 35 (dk_at dksX9_onSpan_0 19 rfl rfl)
theorem dX9_onSpan_21 : decode cX9_onSpan 21 = .ok (.iload_n 2, 1) := dk_28 (dk_at dksX9_onSpan_0 21 rfl rfl)
theorem dX9_onSpan_22 : decode cX9_onSpan 22 = .ok (.iadd, 1) := dk_96 (dk_at dksX9_onSpan_0 22 rfl rfl)
theorem dX9_onSpan_23 : decode cX9_onSpan 23 = .ok (.iaload, 1) := dk_46 (dk_at dksX9_onSpan_0 23 rfl rfl)
theorem dX9_onSpan_24 : decode cX9_onSpan 24 = .ok (.bipush 8, 2) := dk_16 8 (dk_at dksX9_onSpan_1 0 rfl rfl)
theorem dX9_onSpan_26 : decode cX9_onSpan 26 = .ok (.if_icmp .ne 9, 3) := dk_160 0 9 (dk_at dksX9_onSpan_1 2 rfl rfl)
theorem dX9_onSpan_29 : decode cX9_onSpan 29 = .ok (.iconst 1, 1) := dk_4 (dk_at dksX9_onSpan_1 5 rfl rfl)
theorem dX9_onSpan_30 : decode cX9_onSpan 30 = .ok (.iload_n 2, 1) := dk_28 (dk_at dksX9_onSpan_1 6 rfl rfl)
theorem dX9_onSpan_31 : decode cX9_onSpan 31 = .ok (.ishl, 1) := dk_120 (dk_at dksX9_onSpan_1 7 rfl rfl)
theorem dX9_onSpan_32 : decode cX9_onSpan 32 = .ok (.goto 4, 3) := dk_167 0 4 (dk_at dksX9_onSpan_1 8 rfl rfl)
theorem dX9_onSpan_35 : decode cX9_onSpan 35 = .ok (.iconst 0, 1) := dk_3 (dk_at dksX9_onSpan_1 11 rfl rfl)
theorem dX9_onSpan_36 : decode cX9_onSpan 36 = .ok (.ior, 1) := dk_128 (dk_at dksX9_onSpan_1 12 rfl rfl)
theorem dX9_onSpan_37 : decode cX9_onSpan 37 = .ok (.istore_n 1, 1) := dk_60 (dk_at dksX9_onSpan_1 13 rfl rfl)
theorem dX9_onSpan_38 : decode cX9_onSpan 38 = .ok (.iinc 2 1, 3) := dk_132 2 1 (dk_at dksX9_onSpan_1 14 rfl rfl)
theorem dX9_onSpan_41 : decode cX9_onSpan 41 = .ok (.goto (-37), 3) := dk_167 255 219 (dk_at dksX9_onSpan_1 17 rfl rfl)
theorem dX9_onSpan_44 : decode cX9_onSpan 44 = .ok (.iload_n 1, 1) := dk_27 (dk_at dksX9_onSpan_1 20 rfl rfl)
theorem dX9_onSpan_45 : decode cX9_onSpan 45 = .ok (.ireturn, 1) := dk_172 (dk_at dksX9_onSpan_1 21 rfl rfl)
