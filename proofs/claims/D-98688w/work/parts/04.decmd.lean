set_option maxRecDepth 100000
def dkwX3_does_3 : List UInt8 := [21, 4, 172]
abbrev dktX3_does_3 : List UInt8 := dkwX3_does_3 ++ []
def dkwX3_does_2 : List UInt8 := [182, 1, 36, 153, 0, 10, 4, 21, 5, 120, 167, 0, 4, 3, 128, 54, 4, 132, 5, 1, 167, 255, 194]
abbrev dktX3_does_2 : List UInt8 := dkwX3_does_2 ++ dktX3_does_3
def dkwX3_does_1 : List UInt8 := [27, 160, 0, 36, 42, 21, 5, 5, 182, 0, 251, 29, 160, 0, 25, 42, 28, 42, 21, 5, 4, 182, 0, 251]
abbrev dktX3_does_1 : List UInt8 := dkwX3_does_1 ++ dktX3_does_2
def dkwX3_does_0 : List UInt8 := [3, 54, 4, 3, 54, 5, 21, 5, 42, 180, 0, 168, 162, 0, 59, 21, 4, 42, 21, 5, 3, 182, 0, 251]
abbrev dktX3_does_0 : List UInt8 := dkwX3_does_0 ++ dktX3_does_1
theorem dksX3_does_0 : cX3_does.data.toList.drop 0 = dktX3_does_0 := by decide +kernel
theorem dksX3_does_1 : cX3_does.data.toList.drop 24 = dktX3_does_1 := dk_seg dksX3_does_0 24 rfl rfl
theorem dksX3_does_2 : cX3_does.data.toList.drop 48 = dktX3_does_2 := dk_seg dksX3_does_1 24 rfl rfl
theorem dksX3_does_3 : cX3_does.data.toList.drop 71 = dktX3_does_3 := dk_seg dksX3_does_2 23 rfl rfl
theorem dX3_does_0 : decode cX3_does 0 = .ok (.iconst 0, 1) := dk_3 (dk_at dksX3_does_0 0 rfl rfl)
theorem dX3_does_1 : decode cX3_does 1 = .ok (.istore 4, 2) := dk_54 4 (dk_at dksX3_does_0 1 rfl rfl)
theorem dX3_does_3 : decode cX3_does 3 = .ok (.iconst 0, 1) := dk_3 (dk_at dksX3_does_0 3 rfl rfl)
theorem dX3_does_4 : decode cX3_does 4 = .ok (.istore 5, 2) := dk_54 5 (dk_at dksX3_does_0 4 rfl rfl)
theorem dX3_does_6 : decode cX3_does 6 = .ok (.iload 5, 2) := dk_21 5 (dk_at dksX3_does_0 6 rfl rfl)
theorem dX3_does_8 : decode cX3_does 8 = .ok (.aload_n 0, 1) := dk_42 (dk_at dksX3_does_0 8 rfl rfl)
theorem dX3_does_9 : decode cX3_does 9 = .ok (.getfield 168, 3) := dk_180 0 168 (dk_at dksX3_does_0 9 rfl rfl)
theorem dX3_does_12 : decode cX3_does 12 = .ok (.if_icmp .ge 59, 3) := dk_162 0 59 (dk_at dksX3_does_0 12 rfl rfl)
theorem dX3_does_15 : decode cX3_does 15 = .ok (.iload 4, 2) := dk_21 4 (dk_at dksX3_does_0 15 rfl rfl)
theorem dX3_does_17 : decode cX3_does 17 = .ok (.aload_n 0, 1) := dk_42 (dk_at dksX3_does_0 17 rfl rfl)
theorem dX3_does_18 : decode cX3_does 18 = .ok (.iload 5, 2) := dk_21 5 (dk_at dksX3_does_0 18 rfl rfl)
theorem dX3_does_20 : decode cX3_does 20 = .ok (.iconst 0, 1) := dk_3 (dk_at dksX3_does_0 20 rfl rfl)
theorem dX3_does_21 : decode cX3_does 21 = .ok (.invokevirtual 251, 3) := dk_182 0 251 (dk_at dksX3_does_0 21 rfl rfl)
theorem dX3_does_24 : decode cX3_does 24 = .ok (.iload_n 1, 1) := dk_27 (dk_at dksX3_does_1 0 rfl rfl)
theorem dX3_does_25 : decode cX3_does 25 = .ok (.if_icmp .ne 36, 3) := dk_160 0 36 (dk_at dksX3_does_1 1 rfl rfl)
theorem dX3_does_28 : decode cX3_does 28 = .ok (.aload_n 0, 1) := dk_42 (dk_at dksX3_does_1 4 rfl rfl)
theorem dX3_does_29 : decode cX3_does 29 = .ok (.iload 5, 2) := dk_21 5 (dk_at dksX3_does_1 5 rfl rfl)
theorem dX3_does_31 : decode cX3_does 31 = .ok (.iconst 2, 1) := dk_5 (dk_at dksX3_does_1 7 rfl rfl)
theorem dX3_does_32 : decode cX3_does 32 = .ok (.invokevirtual 251, 3) := dk_182 0 251 (dk_at dksX3_does_1 8 rfl rfl)
theorem dX3_does_35 : decode cX3_does 35 = .ok (.iload_n 3, 1) := dk_29 (dk_at dksX3_does_1 11 rfl rfl)
theorem dX3_does_36 : decode cX3_does 36 = .ok (.if_icmp .ne 25, 3) := dk_160 0 25 (dk_at dksX3_does_1 12 rfl rfl)
theorem dX3_does_39 : decode cX3_does 39 = .ok (.aload_n 0, 1) := dk_42 (dk_at dksX3_does_1 15 rfl rfl)
theorem dX3_does_40 : decode cX3_does 40 = .ok (.iload_n 2, 1) := dk_28 (dk_at dksX3_does_1 16 rfl rfl)
theorem dX3_does_41 : decode cX3_does 41 = .ok (.aload_n 0, 1) := dk_42 (dk_at dksX3_does_1 17 rfl rfl)
theorem dX3_does_42 : decode cX3_does 42 = .ok (.iload 5, 2) := dk_21 5 (dk_at dksX3_does_1 18 rfl rfl)
theorem dX3_does_44 : decode cX3_does 44 = .ok (.iconst 1, 1) := dk_4 (dk_at dksX3_does_1 20 rfl rfl)
theorem dX3_does_45 : decode cX3_does 45 = .ok (.invokevirtual 251, 3) := dk_182 0 251 (dk_at dksX3_does_1 21 rfl rfl)
theorem dX3_does_48 : decode cX3_does 48 = .ok (.invokevirtual 292, 3) := dk_182 1 36 (dk_at dksX3_does_2 0 rfl rfl)
theorem dX3_does_51 : decode cX3_does 51 = .ok (.ifCond .eq 10, 3) := dk_153 0 10 (dk_at dksX3_does_2 3 rfl rfl)
theorem dX3_does_54 : decode cX3_does 54 = .ok (.iconst 1, 1) := dk_4 (dk_at dksX3_does_2 6 rfl rfl)
theorem dX3_does_55 : decode cX3_does 55 = .ok (.iload 5, 2) := dk_21 5 (dk_at dksX3_does_2 7 rfl rfl)
theorem dX3_does_57 : decode cX3_does 57 = .ok (.ishl, 1) := dk_120 (dk_at dksX3_does_2 9 rfl rfl)
theorem dX3_does_58 : decode cX3_does 58 = .ok (.goto 4, 3) := dk_167 0 4 (dk_at dksX3_does_2 10 rfl rfl)
theorem dX3_does_61 : decode cX3_does 61 = .ok (.iconst 0, 1) := dk_3 (dk_at dksX3_does_2 13 rfl rfl)
theorem dX3_does_62 : decode cX3_does 62 = .ok (.ior, 1) := dk_128 (dk_at dksX3_does_2 14 rfl rfl)
theorem dX3_does_63 : decode cX3_does 63 = .ok (.istore 4, 2) := dk_54 4 (dk_at dksX3_does_2 15 rfl rfl)
theorem dX3_does_65 : decode cX3_does 65 = .ok (.iinc 5 1, 3) := dk_132 5 1 (dk_at dksX3_does_2 17 rfl rfl)
theorem dX3_does_68 : decode cX3_does 68 = .ok (.goto (-62), 3) := dk_167 255 194 (dk_at dksX3_does_2 20 rfl rfl)
theorem dX3_does_71 : decode cX3_does 71 = .ok (.iload 4, 2) := dk_21 4 (dk_at dksX3_does_3 0 rfl rfl)
theorem dX3_does_73 : decode cX3_does 73 = .ok (.ireturn, 1) := dk_172 (dk_at dksX3_does_3 2 rfl rfl)
def dkwX3_haste_2 : List UInt8 := [180, 1, 105, 172]
abbrev dktX3_haste_2 : List UInt8 := dkwX3_haste_2 ++ []
def dkwX3_haste_1 : List UInt8 := [19, 1, 63, 161, 0, 6, 16, 254, 172, 42, 3, 181, 0, 113, 42, 42, 180, 1, 118, 133, 182, 1, 18, 42]
abbrev dktX3_haste_1 : List UInt8 := dkwX3_haste_1 ++ dktX3_haste_2
def dkwX3_haste_0 : List UInt8 := [42, 3, 181, 0, 110, 42, 27, 182, 1, 2, 154, 0, 5, 2, 172, 42, 27, 16, 12, 182, 1, 121]
abbrev dktX3_haste_0 : List UInt8 := dkwX3_haste_0 ++ dktX3_haste_1
theorem dksX3_haste_0 : cX3_haste.data.toList.drop 0 = dktX3_haste_0 := by decide +kernel
theorem dksX3_haste_1 : cX3_haste.data.toList.drop 22 = dktX3_haste_1 := dk_seg dksX3_haste_0 22 rfl rfl
theorem dksX3_haste_2 : cX3_haste.data.toList.drop 46 = dktX3_haste_2 := dk_seg dksX3_haste_1 24 rfl rfl
theorem dX3_haste_0 : decode cX3_haste 0 = .ok (.aload_n 0, 1) := dk_42 (dk_at dksX3_haste_0 0 rfl rfl)
theorem dX3_haste_1 : decode cX3_haste 1 = .ok (.iconst 0, 1) := dk_3 (dk_at dksX3_haste_0 1 rfl rfl)
theorem dX3_haste_2 : decode cX3_haste 2 = .ok (.putfield 110, 3) := dk_181 0 110 (dk_at dksX3_haste_0 2 rfl rfl)
theorem dX3_haste_5 : decode cX3_haste 5 = .ok (.aload_n 0, 1) := dk_42 (dk_at dksX3_haste_0 5 rfl rfl)
theorem dX3_haste_6 : decode cX3_haste 6 = .ok (.iload_n 1, 1) := dk_27 (dk_at dksX3_haste_0 6 rfl rfl)
theorem dX3_haste_7 : decode cX3_haste 7 = .ok (.invokevirtual 258, 3) := dk_182 1 2 (dk_at dksX3_haste_0 7 rfl rfl)
theorem dX3_haste_10 : decode cX3_haste 10 = .ok (.ifCond .ne 5, 3) := dk_154 0 5 (dk_at dksX3_haste_0 10 rfl rfl)
theorem dX3_haste_13 : decode cX3_haste 13 = .ok (.iconst (-1), 1) := dk_2 (dk_at dksX3_haste_0 13 rfl rfl)
theorem dX3_haste_14 : decode cX3_haste 14 = .ok (.ireturn, 1) := dk_172 (dk_at dksX3_haste_0 14 rfl rfl)
theorem dX3_haste_15 : decode cX3_haste 15 = .ok (.aload_n 0, 1) := dk_42 (dk_at dksX3_haste_0 15 rfl rfl)
theorem dX3_haste_16 : decode cX3_haste 16 = .ok (.iload_n 1, 1) := dk_27 (dk_at dksX3_haste_0 16 rfl rfl)
theorem dX3_haste_17 : decode cX3_haste 17 = .ok (.bipush 12, 2) := dk_16 12 (dk_at dksX3_haste_0 17 rfl rfl)
theorem dX3_haste_19 : decode cX3_haste 19 = .ok (.invokevirtual 377, 3) := dk_182 1 121 (dk_at dksX3_haste_0 19 rfl rfl)
theorem dX3_haste_22 : decode cX3_haste 22 = .ok (.ldc_w 319, 3) := dk_19 1 63 (dk_at dksX3_haste_1 0 rfl rfl)
theorem dX3_haste_25 : decode cX3_haste 25 = .ok (.if_icmp .lt 6, 3) := dk_161 0 6 (dk_at dksX3_haste_1 3 rfl rfl)
theorem dX3_haste_28 : decode cX3_haste 28 = .ok (.bipush (-2), 2) := dk_16 254 (dk_at dksX3_haste_1 6 rfl rfl)
theorem dX3_haste_30 : decode cX3_haste 30 = .ok (.ireturn, 1) := dk_172 (dk_at dksX3_haste_1 8 rfl rfl)
theorem dX3_haste_31 : decode cX3_haste 31 = .ok (.aload_n 0, 1) := dk_42 (dk_at dksX3_haste_1 9 rfl rfl)
theorem dX3_haste_32 : decode cX3_haste 32 = .ok (.iconst 0, 1) := dk_3 (dk_at dksX3_haste_1 10 rfl rfl)
theorem dX3_haste_33 : decode cX3_haste 33 = .ok (.putfield 113, 3) := dk_181 0 113 (dk_at dksX3_haste_1 11 rfl rfl)
theorem dX3_haste_36 : decode cX3_haste 36 = .ok (.aload_n 0, 1) := dk_42 (dk_at dksX3_haste_1 14 rfl rfl)
theorem dX3_haste_37 : decode cX3_haste 37 = .ok (.aload_n 0, 1) := dk_42 (dk_at dksX3_haste_1 15 rfl rfl)
theorem dX3_haste_38 : decode cX3_haste 38 = .ok (.getfield 374, 3) := dk_180 1 118 (dk_at dksX3_haste_1 16 rfl rfl)
theorem dX3_haste_41 : decode cX3_haste 41 = .ok (.i2l, 1) := dk_133 (dk_at dksX3_haste_1 19 rfl rfl)
theorem dX3_haste_42 : decode cX3_haste 42 = .ok (.invokevirtual 274, 3) := dk_182 1 18 (dk_at dksX3_haste_1 20 rfl rfl)
theorem dX3_haste_45 : decode cX3_haste 45 = .ok (.aload_n 0, 1) := dk_42 (dk_at dksX3_haste_1 23 rfl rfl)
theorem dX3_haste_46 : decode cX3_haste 46 = .ok (.getfield 361, 3) := dk_180 1 105 (dk_at dksX3_haste_2 0 rfl rfl)
theorem dX3_haste_49 : decode cX3_haste 49 = .ok (.ireturn, 1) := dk_172 (dk_at dksX3_haste_2 3 rfl rfl)
def dkwX3_best_11 : List UInt8 := [181, 0, 113, 42, 29, 133, 182, 1, 18, 42, 21, 5, 133, 182, 1, 18, 21, 4, 172]
abbrev dktX3_best_11 : List UInt8 := dkwX3_best_11 ++ []
def dkwX3_best_10 : List UInt8 := [167, 0, 14, 21, 6, 62, 21, 7, 54, 4, 21, 8, 54, 5, 132, 6, 1, 167, 255, 106, 42, 3]
abbrev dktX3_best_10 : List UInt8 := dkwX3_best_10 ++ dktX3_best_11
def dkwX3_best_9 : List UInt8 := [163, 0, 38, 21, 7, 21, 4, 161, 0, 31, 21, 7, 21, 4, 160, 0, 13, 21, 8, 21, 5, 161, 0, 6]
abbrev dktX3_best_9 : List UInt8 := dkwX3_best_9 ++ dktX3_best_10
def dkwX3_best_8 : List UInt8 := [182, 1, 15, 96, 54, 8, 132, 9, 1, 167, 255, 187, 21, 8, 42, 180, 0, 9, 7, 27, 96, 46]
abbrev dktX3_best_8 : List UInt8 := dkwX3_best_8 ++ dktX3_best_9
def dkwX3_best_7 : List UInt8 := [42, 42, 21, 9, 4, 182, 0, 251, 42, 180, 0, 9, 27, 46, 182, 1, 57, 42, 180, 0, 9, 27, 46]
abbrev dktX3_best_7 : List UInt8 := dkwX3_best_7 ++ dktX3_best_8
def dkwX3_best_6 : List UInt8 := [184, 0, 254, 154, 0, 6, 167, 0, 47, 21, 7, 42, 21, 9, 6, 182, 0, 251, 96, 54, 7, 21, 8, 42]
abbrev dktX3_best_6 : List UInt8 := dkwX3_best_6 ++ dktX3_best_7
def dkwX3_best_5 : List UInt8 := [3, 54, 7, 3, 54, 8, 3, 54, 9, 21, 9, 42, 180, 0, 168, 162, 0, 66, 21, 6, 21, 9]
abbrev dktX3_best_5 : List UInt8 := dkwX3_best_5 ++ dktX3_best_6
def dkwX3_best_4 : List UInt8 := [3, 54, 5, 4, 54, 6, 21, 6, 28, 163, 0, 150, 21, 6, 28, 2, 130, 126, 153, 0, 6, 167, 0, 132]
abbrev dktX3_best_4 : List UInt8 := dkwX3_best_4 ++ dktX3_best_5
def dkwX3_best_3 : List UInt8 := [2, 159, 0, 9, 4, 29, 120, 167, 0, 4, 3, 128, 61, 132, 3, 1, 167, 255, 188, 3, 62, 3, 54, 4]
abbrev dktX3_best_3 : List UInt8 := dkwX3_best_3 ++ dktX3_best_4
def dkwX3_best_2 : List UInt8 := [180, 0, 9, 27, 46, 160, 0, 29, 42, 42, 29, 4, 182, 0, 251, 42, 180, 0, 9, 27, 46, 182, 1, 57]
abbrev dktX3_best_2 : List UInt8 := dkwX3_best_2 ++ dktX3_best_3
def dkwX3_best_1 : List UInt8 := [162, 0, 66, 28, 42, 27, 182, 1, 5, 29, 184, 0, 254, 153, 0, 44, 42, 29, 5, 182, 0, 251, 42]
abbrev dktX3_best_1 : List UInt8 := dkwX3_best_1 ++ dktX3_best_2
def dkwX3_best_0 : List UInt8 := [42, 3, 181, 0, 110, 42, 27, 182, 1, 2, 154, 0, 5, 2, 172, 3, 61, 3, 62, 29, 42, 180, 0, 168]
abbrev dktX3_best_0 : List UInt8 := dkwX3_best_0 ++ dktX3_best_1
theorem dksX3_best_0 : cX3_best.data.toList.drop 0 = dktX3_best_0 := by decide +kernel
theorem dksX3_best_1 : cX3_best.data.toList.drop 24 = dktX3_best_1 := dk_seg dksX3_best_0 24 rfl rfl
theorem dksX3_best_2 : cX3_best.data.toList.drop 47 = dktX3_best_2 := dk_seg dksX3_best_1 23 rfl rfl
theorem dksX3_best_3 : cX3_best.data.toList.drop 71 = dktX3_best_3 := dk_seg dksX3_best_2 24 rfl rfl
theorem dksX3_best_4 : cX3_best.data.toList.drop 95 = dktX3_best_4 := dk_seg dksX3_best_3 24 rfl rfl
theorem dksX3_best_5 : cX3_best.data.toList.drop 119 = dktX3_best_5 := dk_seg dksX3_best_4 24 rfl rfl
theorem dksX3_best_6 : cX3_best.data.toList.drop 141 = dktX3_best_6 := dk_seg dksX3_best_5 22 rfl rfl
theorem dksX3_best_7 : cX3_best.data.toList.drop 165 = dktX3_best_7 := dk_seg dksX3_best_6 24 rfl rfl
theorem dksX3_best_8 : cX3_best.data.toList.drop 188 = dktX3_best_8 := dk_seg dksX3_best_7 23 rfl rfl
theorem dksX3_best_9 : cX3_best.data.toList.drop 210 = dktX3_best_9 := dk_seg dksX3_best_8 22 rfl rfl
theorem dksX3_best_10 : cX3_best.data.toList.drop 234 = dktX3_best_10 := dk_seg dksX3_best_9 24 rfl rfl
theorem dksX3_best_11 : cX3_best.data.toList.drop 256 = dktX3_best_11 := dk_seg dksX3_best_10 22 rfl rfl
theorem dX3_best_0 : decode cX3_best 0 = .ok (.aload_n 0, 1) := dk_42 (dk_at dksX3_best_0 0 rfl rfl)
theorem dX3_best_1 : decode cX3_best 1 = .ok (.iconst 0, 1) := dk_3 (dk_at dksX3_best_0 1 rfl rfl)
theorem dX3_best_2 : decode cX3_best 2 = .ok (.putfield 110, 3) := dk_181 0 110 (dk_at dksX3_best_0 2 rfl rfl)
theorem dX3_best_5 : decode cX3_best 5 = .ok (.aload_n 0, 1) := dk_42 (dk_at dksX3_best_0 5 rfl rfl)
theorem dX3_best_6 : decode cX3_best 6 = .ok (.iload_n 1, 1) := dk_27 (dk_at dksX3_best_0 6 rfl rfl)
theorem dX3_best_7 : decode cX3_best 7 = .ok (.invokevirtual 258, 3) := dk_182 1 2 (dk_at dksX3_best_0 7 rfl rfl)
theorem dX3_best_10 : decode cX3_best 10 = .ok (.ifCond .ne 5, 3) := dk_154 0 5 (dk_at dksX3_best_0 10 rfl rfl)
theorem dX3_best_13 : decode cX3_best 13 = .ok (.iconst (-1), 1) := dk_2 (dk_at dksX3_best_0 13 rfl rfl)
theorem dX3_best_14 : decode cX3_best 14 = .ok (.ireturn, 1) := dk_172 (dk_at dksX3_best_0 14 rfl rfl)
theorem dX3_best_15 : decode cX3_best 15 = .ok (.iconst 0, 1) := dk_3 (dk_at dksX3_best_0 15 rfl rfl)
theorem dX3_best_16 : decode cX3_best 16 = .ok (.istore_n 2, 1) := dk_61 (dk_at dksX3_best_0 16 rfl rfl)
theorem dX3_best_17 : decode cX3_best 17 = .ok (.iconst 0, 1) := dk_3 (dk_at dksX3_best_0 17 rfl rfl)
theorem dX3_best_18 : decode cX3_best 18 = .ok (.istore_n 3, 1) := dk_62 (dk_at dksX3_best_0 18 rfl rfl)
theorem dX3_best_19 : decode cX3_best 19 = .ok (.iload_n 3, 1) := dk_29 (dk_at dksX3_best_0 19 rfl rfl)
theorem dX3_best_20 : decode cX3_best 20 = .ok (.aload_n 0, 1) := dk_42 (dk_at dksX3_best_0 20 rfl rfl)
theorem dX3_best_21 : decode cX3_best 21 = .ok (.getfield 168, 3) := dk_180 0 168 (dk_at dksX3_best_0 21 rfl rfl)
theorem dX3_best_24 : decode cX3_best 24 = .ok (.if_icmp .ge 66, 3) := dk_162 0 66 (dk_at dksX3_best_1 0 rfl rfl)
theorem dX3_best_27 : decode cX3_best 27 = .ok (.iload_n 2, 1) := dk_28 (dk_at dksX3_best_1 3 rfl rfl)
theorem dX3_best_28 : decode cX3_best 28 = .ok (.aload_n 0, 1) := dk_42 (dk_at dksX3_best_1 4 rfl rfl)
theorem dX3_best_29 : decode cX3_best 29 = .ok (.iload_n 1, 1) := dk_27 (dk_at dksX3_best_1 5 rfl rfl)
theorem dX3_best_30 : decode cX3_best 30 = .ok (.invokevirtual 261, 3) := dk_182 1 5 (dk_at dksX3_best_1 6 rfl rfl)
theorem dX3_best_33 : decode cX3_best 33 = .ok (.iload_n 3, 1) := dk_29 (dk_at dksX3_best_1 9 rfl rfl)
theorem dX3_best_34 : decode cX3_best 34 = .ok (.invokestatic 254, 3) := dk_184 0 254 (dk_at dksX3_best_1 10 rfl rfl)
theorem dX3_best_37 : decode cX3_best 37 = .ok (.ifCond .eq 44, 3) := dk_153 0 44 (dk_at dksX3_best_1 13 rfl rfl)
theorem dX3_best_40 : decode cX3_best 40 = .ok (.aload_n 0, 1) := dk_42 (dk_at dksX3_best_1 16 rfl rfl)
theorem dX3_best_41 : decode cX3_best 41 = .ok (.iload_n 3, 1) := dk_29 (dk_at dksX3_best_1 17 rfl rfl)
theorem dX3_best_42 : decode cX3_best 42 = .ok (.iconst 2, 1) := dk_5 (dk_at dksX3_best_1 18 rfl rfl)
theorem dX3_best_43 : decode cX3_best 43 = .ok (.invokevirtual 251, 3) := dk_182 0 251 (dk_at dksX3_best_1 19 rfl rfl)
theorem dX3_best_46 : decode cX3_best 46 = .ok (.aload_n 0, 1) := dk_42 (dk_at dksX3_best_1 22 rfl rfl)
theorem dX3_best_47 : decode cX3_best 47 = .ok (.getfield 9, 3) := dk_180 0 9 (dk_at dksX3_best_2 0 rfl rfl)
theorem dX3_best_50 : decode cX3_best 50 = .ok (.iload_n 1, 1) := dk_27 (dk_at dksX3_best_2 3 rfl rfl)
theorem dX3_best_51 : decode cX3_best 51 = .ok (.iaload, 1) := dk_46 (dk_at dksX3_best_2 4 rfl rfl)
theorem dX3_best_52 : decode cX3_best 52 = .ok (.if_icmp .ne 29, 3) := dk_160 0 29 (dk_at dksX3_best_2 5 rfl rfl)
theorem dX3_best_55 : decode cX3_best 55 = .ok (.aload_n 0, 1) := dk_42 (dk_at dksX3_best_2 8 rfl rfl)
theorem dX3_best_56 : decode cX3_best 56 = .ok (.aload_n 0, 1) := dk_42 (dk_at dksX3_best_2 9 rfl rfl)
theorem dX3_best_57 : decode cX3_best 57 = .ok (.iload_n 3, 1) := dk_29 (dk_at dksX3_best_2 10 rfl rfl)
theorem dX3_best_58 : decode cX3_best 58 = .ok (.iconst 1, 1) := dk_4 (dk_at dksX3_best_2 11 rfl rfl)
theorem dX3_best_59 : decode cX3_best 59 = .ok (.invokevirtual 251, 3) := dk_182 0 251 (dk_at dksX3_best_2 12 rfl rfl)
theorem dX3_best_62 : decode cX3_best 62 = .ok (.aload_n 0, 1) := dk_42 (dk_at dksX3_best_2 15 rfl rfl)
theorem dX3_best_63 : decode cX3_best 63 = .ok (.getfield 9, 3) := dk_180 0 9 (dk_at dksX3_best_2 16 rfl rfl)
theorem dX3_best_66 : decode cX3_best 66 = .ok (.iload_n 1, 1) := dk_27 (dk_at dksX3_best_2 19 rfl rfl)
theorem dX3_best_67 : decode cX3_best 67 = .ok (.iaload, 1) := dk_46 (dk_at dksX3_best_2 20 rfl rfl)
theorem dX3_best_68 : decode cX3_best 68 = .ok (.invokevirtual 313, 3) := dk_182 1 57 (dk_at dksX3_best_2 21 rfl rfl)
theorem dX3_best_71 : decode cX3_best 71 = .ok (.iconst (-1), 1) := dk_2 (dk_at dksX3_best_3 0 rfl rfl)
theorem dX3_best_72 : decode cX3_best 72 = .ok (.if_icmp .eq 9, 3) := dk_159 0 9 (dk_at dksX3_best_3 1 rfl rfl)
theorem dX3_best_75 : decode cX3_best 75 = .ok (.iconst 1, 1) := dk_4 (dk_at dksX3_best_3 4 rfl rfl)
theorem dX3_best_76 : decode cX3_best 76 = .ok (.iload_n 3, 1) := dk_29 (dk_at dksX3_best_3 5 rfl rfl)
theorem dX3_best_77 : decode cX3_best 77 = .ok (.ishl, 1) := dk_120 (dk_at dksX3_best_3 6 rfl rfl)
theorem dX3_best_78 : decode cX3_best 78 = .ok (.goto 4, 3) := dk_167 0 4 (dk_at dksX3_best_3 7 rfl rfl)
theorem dX3_best_81 : decode cX3_best 81 = .ok (.iconst 0, 1) := dk_3 (dk_at dksX3_best_3 10 rfl rfl)
theorem dX3_best_82 : decode cX3_best 82 = .ok (.ior, 1) := dk_128 (dk_at dksX3_best_3 11 rfl rfl)
theorem dX3_best_83 : decode cX3_best 83 = .ok (.istore_n 2, 1) := dk_61 (dk_at dksX3_best_3 12 rfl rfl)
theorem dX3_best_84 : decode cX3_best 84 = .ok (.iinc 3 1, 3) := dk_132 3 1 (dk_at dksX3_best_3 13 rfl rfl)
theorem dX3_best_87 : decode cX3_best 87 = .ok (.goto (-68), 3) := dk_167 255 188 (dk_at dksX3_best_3 16 rfl rfl)
theorem dX3_best_90 : decode cX3_best 90 = .ok (.iconst 0, 1) := dk_3 (dk_at dksX3_best_3 19 rfl rfl)
theorem dX3_best_91 : decode cX3_best 91 = .ok (.istore_n 3, 1) := dk_62 (dk_at dksX3_best_3 20 rfl rfl)
theorem dX3_best_92 : decode cX3_best 92 = .ok (.iconst 0, 1) := dk_3 (dk_at dksX3_best_3 21 rfl rfl)
theorem dX3_best_93 : decode cX3_best 93 = .ok (.istore 4, 2) := dk_54 4 (dk_at dksX3_best_3 22 rfl rfl)
theorem dX3_best_95 : decode cX3_best 95 = .ok (.iconst 0, 1) := dk_3 (dk_at dksX3_best_4 0 rfl rfl)
theorem dX3_best_96 : decode cX3_best 96 = .ok (.istore 5, 2) := dk_54 5 (dk_at dksX3_best_4 1 rfl rfl)
theorem dX3_best_98 : decode cX3_best 98 = .ok (.iconst 1, 1) := dk_4 (dk_at dksX3_best_4 3 rfl rfl)
theorem dX3_best_99 : decode cX3_best 99 = .ok (.istore 6, 2) := dk_54 6 (dk_at dksX3_best_4 4 rfl rfl)
theorem dX3_best_101 : decode cX3_best 101 = .ok (.iload 6, 2) := dk_21 6 (dk_at dksX3_best_4 6 rfl rfl)
theorem dX3_best_103 : decode cX3_best 103 = .ok (.iload_n 2, 1) := dk_28 (dk_at dksX3_best_4 8 rfl rfl)
theorem dX3_best_104 : decode cX3_best 104 = .ok (.if_icmp .gt 150, 3) := dk_163 0 150 (dk_at dksX3_best_4 9 rfl rfl)
theorem dX3_best_107 : decode cX3_best 107 = .ok (.iload 6, 2) := dk_21 6 (dk_at dksX3_best_4 12 rfl rfl)
theorem dX3_best_109 : decode cX3_best 109 = .ok (.iload_n 2, 1) := dk_28 (dk_at dksX3_best_4 14 rfl rfl)
theorem dX3_best_110 : decode cX3_best 110 = .ok (.iconst (-1), 1) := dk_2 (dk_at dksX3_best_4 15 rfl rfl)
theorem dX3_best_111 : decode cX3_best 111 = .ok (.ixor, 1) := dk_130 (dk_at dksX3_best_4 16 rfl rfl)
theorem dX3_best_112 : decode cX3_best 112 = .ok (.iand, 1) := dk_126 (dk_at dksX3_best_4 17 rfl rfl)
theorem dX3_best_113 : decode cX3_best 113 = .ok (.ifCond .eq 6, 3) := dk_153 0 6 (dk_at dksX3_best_4 18 rfl rfl)
theorem dX3_best_116 : decode cX3_best 116 = .ok (.goto 132, 3) := dk_167 0 132 (dk_at dksX3_best_4 21 rfl rfl)
theorem dX3_best_119 : decode cX3_best 119 = .ok (.iconst 0, 1) := dk_3 (dk_at dksX3_best_5 0 rfl rfl)
theorem dX3_best_120 : decode cX3_best 120 = .ok (.istore 7, 2) := dk_54 7 (dk_at dksX3_best_5 1 rfl rfl)
theorem dX3_best_122 : decode cX3_best 122 = .ok (.iconst 0, 1) := dk_3 (dk_at dksX3_best_5 3 rfl rfl)
theorem dX3_best_123 : decode cX3_best 123 = .ok (.istore 8, 2) := dk_54 8 (dk_at dksX3_best_5 4 rfl rfl)
theorem dX3_best_125 : decode cX3_best 125 = .ok (.iconst 0, 1) := dk_3 (dk_at dksX3_best_5 6 rfl rfl)
theorem dX3_best_126 : decode cX3_best 126 = .ok (.istore 9, 2) := dk_54 9 (dk_at dksX3_best_5 7 rfl rfl)
theorem dX3_best_128 : decode cX3_best 128 = .ok (.iload 9, 2) := dk_21 9 (dk_at dksX3_best_5 9 rfl rfl)
theorem dX3_best_130 : decode cX3_best 130 = .ok (.aload_n 0, 1) := dk_42 (dk_at dksX3_best_5 11 rfl rfl)
theorem dX3_best_131 : decode cX3_best 131 = .ok (.getfield 168, 3) := dk_180 0 168 (dk_at dksX3_best_5 12 rfl rfl)
theorem dX3_best_134 : decode cX3_best 134 = .ok (.if_icmp .ge 66, 3) := dk_162 0 66 (dk_at dksX3_best_5 15 rfl rfl)
theorem dX3_best_137 : decode cX3_best 137 = .ok (.iload 6, 2) := dk_21 6 (dk_at dksX3_best_5 18 rfl rfl)
theorem dX3_best_139 : decode cX3_best 139 = .ok (.iload 9, 2) := dk_21 9 (dk_at dksX3_best_5 20 rfl rfl)
theorem dX3_best_141 : decode cX3_best 141 = .ok (.invokestatic 254, 3) := dk_184 0 254 (dk_at dksX3_best_6 0 rfl rfl)
theorem dX3_best_144 : decode cX3_best 144 = .ok (.ifCond .ne 6, 3) := dk_154 0 6 (dk_at dksX3_best_6 3 rfl rfl)
theorem dX3_best_147 : decode cX3_best 147 = .ok (.goto 47, 3) := dk_167 0 47 (dk_at dksX3_best_6 6 rfl rfl)
theorem dX3_best_150 : decode cX3_best 150 = .ok (.iload 7, 2) := dk_21 7 (dk_at dksX3_best_6 9 rfl rfl)
theorem dX3_best_152 : decode cX3_best 152 = .ok (.aload_n 0, 1) := dk_42 (dk_at dksX3_best_6 11 rfl rfl)
theorem dX3_best_153 : decode cX3_best 153 = .ok (.iload 9, 2) := dk_21 9 (dk_at dksX3_best_6 12 rfl rfl)
theorem dX3_best_155 : decode cX3_best 155 = .ok (.iconst 3, 1) := dk_6 (dk_at dksX3_best_6 14 rfl rfl)
theorem dX3_best_156 : decode cX3_best 156 = .ok (.invokevirtual 251, 3) := dk_182 0 251 (dk_at dksX3_best_6 15 rfl rfl)
theorem dX3_best_159 : decode cX3_best 159 = .ok (.iadd, 1) := dk_96 (dk_at dksX3_best_6 18 rfl rfl)
theorem dX3_best_160 : decode cX3_best 160 = .ok (.istore 7, 2) := dk_54 7 (dk_at dksX3_best_6 19 rfl rfl)
theorem dX3_best_162 : decode cX3_best 162 = .ok (.iload 8, 2) := dk_21 8 (dk_at dksX3_best_6 21 rfl rfl)
theorem dX3_best_164 : decode cX3_best 164 = .ok (.aload_n 0, 1) := dk_42 (dk_at dksX3_best_6 23 rfl rfl)
theorem dX3_best_165 : decode cX3_best 165 = .ok (.aload_n 0, 1) := dk_42 (dk_at dksX3_best_7 0 rfl rfl)
theorem dX3_best_166 : decode cX3_best 166 = .ok (.aload_n 0, 1) := dk_42 (dk_at dksX3_best_7 1 rfl rfl)
theorem dX3_best_167 : decode cX3_best 167 = .ok (.iload 9, 2) := dk_21 9 (dk_at dksX3_best_7 2 rfl rfl)
theorem dX3_best_169 : decode cX3_best 169 = .ok (.iconst 1, 1) := dk_4 (dk_at dksX3_best_7 4 rfl rfl)
theorem dX3_best_170 : decode cX3_best 170 = .ok (.invokevirtual 251, 3) := dk_182 0 251 (dk_at dksX3_best_7 5 rfl rfl)
theorem dX3_best_173 : decode cX3_best 173 = .ok (.aload_n 0, 1) := dk_42 (dk_at dksX3_best_7 8 rfl rfl)
theorem dX3_best_174 : decode cX3_best 174 = .ok (.getfield 9, 3) := dk_180 0 9 (dk_at dksX3_best_7 9 rfl rfl)
theorem dX3_best_177 : decode cX3_best 177 = .ok (.iload_n 1, 1) := dk_27 (dk_at dksX3_best_7 12 rfl rfl)
theorem dX3_best_178 : decode cX3_best 178 = .ok (.iaload, 1) := dk_46 (dk_at dksX3_best_7 13 rfl rfl)
theorem dX3_best_179 : decode cX3_best 179 = .ok (.invokevirtual 313, 3) := dk_182 1 57 (dk_at dksX3_best_7 14 rfl rfl)
theorem dX3_best_182 : decode cX3_best 182 = .ok (.aload_n 0, 1) := dk_42 (dk_at dksX3_best_7 17 rfl rfl)
theorem dX3_best_183 : decode cX3_best 183 = .ok (.getfield 9, 3) := dk_180 0 9 (dk_at dksX3_best_7 18 rfl rfl)
theorem dX3_best_186 : decode cX3_best 186 = .ok (.iload_n 1, 1) := dk_27 (dk_at dksX3_best_7 21 rfl rfl)
theorem dX3_best_187 : decode cX3_best 187 = .ok (.iaload, 1) := dk_46 (dk_at dksX3_best_7 22 rfl rfl)
theorem dX3_best_188 : decode cX3_best 188 = .ok (.invokevirtual 271, 3) := dk_182 1 15 (dk_at dksX3_best_8 0 rfl rfl)
theorem dX3_best_191 : decode cX3_best 191 = .ok (.iadd, 1) := dk_96 (dk_at dksX3_best_8 3 rfl rfl)
theorem dX3_best_192 : decode cX3_best 192 = .ok (.istore 8, 2) := dk_54 8 (dk_at dksX3_best_8 4 rfl rfl)
theorem dX3_best_194 : decode cX3_best 194 = .ok (.iinc 9 1, 3) := dk_132 9 1 (dk_at dksX3_best_8 6 rfl rfl)
theorem dX3_best_197 : decode cX3_best 197 = .ok (.goto (-69), 3) := dk_167 255 187 (dk_at dksX3_best_8 9 rfl rfl)
theorem dX3_best_200 : decode cX3_best 200 = .ok (.iload 8, 2) := dk_21 8 (dk_at dksX3_best_8 12 rfl rfl)
theorem dX3_best_202 : decode cX3_best 202 = .ok (.aload_n 0, 1) := dk_42 (dk_at dksX3_best_8 14 rfl rfl)
theorem dX3_best_203 : decode cX3_best 203 = .ok (.getfield 9, 3) := dk_180 0 9 (dk_at dksX3_best_8 15 rfl rfl)
theorem dX3_best_206 : decode cX3_best 206 = .ok (.iconst 4, 1) := dk_7 (dk_at dksX3_best_8 18 rfl rfl)
theorem dX3_best_207 : decode cX3_best 207 = .ok (.iload_n 1, 1) := dk_27 (dk_at dksX3_best_8 19 rfl rfl)
theorem dX3_best_208 : decode cX3_best 208 = .ok (.iadd, 1) := dk_96 (dk_at dksX3_best_8 20 rfl rfl)
theorem dX3_best_209 : decode cX3_best 209 = .ok (.iaload, 1) := dk_46 (dk_at dksX3_best_8 21 rfl rfl)
theorem dX3_best_210 : decode cX3_best 210 = .ok (.if_icmp .gt 38, 3) := dk_163 0 38 (dk_at dksX3_best_9 0 rfl rfl)
theorem dX3_best_213 : decode cX3_best 213 = .ok (.iload 7, 2) := dk_21 7 (dk_at dksX3_best_9 3 rfl rfl)
theorem dX3_best_215 : decode cX3_best 215 = .ok (.iload 4, 2) := dk_21 4 (dk_at dksX3_best_9 5 rfl rfl)
theorem dX3_best_217 : decode cX3_best 217 = .ok (.if_icmp .lt 31, 3) := dk_161 0 31 (dk_at dksX3_best_9 7 rfl rfl)
theorem dX3_best_220 : decode cX3_best 220 = .ok (.iload 7, 2) := dk_21 7 (dk_at dksX3_best_9 10 rfl rfl)
theorem dX3_best_222 : decode cX3_best 222 = .ok (.iload 4, 2) := dk_21 4 (dk_at dksX3_best_9 12 rfl rfl)
theorem dX3_best_224 : decode cX3_best 224 = .ok (.if_icmp .ne 13, 3) := dk_160 0 13 (dk_at dksX3_best_9 14 rfl rfl)
theorem dX3_best_227 : decode cX3_best 227 = .ok (.iload 8, 2) := dk_21 8 (dk_at dksX3_best_9 17 rfl rfl)
theorem dX3_best_229 : decode cX3_best 229 = .ok (.iload 5, 2) := dk_21 5 (dk_at dksX3_best_9 19 rfl rfl)
theorem dX3_best_231 : decode cX3_best 231 = .ok (.if_icmp .lt 6, 3) := dk_161 0 6 (dk_at dksX3_best_9 21 rfl rfl)
theorem dX3_best_234 : decode cX3_best 234 = .ok (.goto 14, 3) := dk_167 0 14 (dk_at dksX3_best_10 0 rfl rfl)
theorem dX3_best_237 : decode cX3_best 237 = .ok (.iload 6, 2) := dk_21 6 (dk_at dksX3_best_10 3 rfl rfl)
theorem dX3_best_239 : decode cX3_best 239 = .ok (.istore_n 3, 1) := dk_62 (dk_at dksX3_best_10 5 rfl rfl)
theorem dX3_best_240 : decode cX3_best 240 = .ok (.iload 7, 2) := dk_21 7 (dk_at dksX3_best_10 6 rfl rfl)
theorem dX3_best_242 : decode cX3_best 242 = .ok (.istore 4, 2) := dk_54 4 (dk_at dksX3_best_10 8 rfl rfl)
theorem dX3_best_244 : decode cX3_best 244 = .ok (.iload 8, 2) := dk_21 8 (dk_at dksX3_best_10 10 rfl rfl)
theorem dX3_best_246 : decode cX3_best 246 = .ok (.istore 5, 2) := dk_54 5 (dk_at dksX3_best_10 12 rfl rfl)
theorem dX3_best_248 : decode cX3_best 248 = .ok (.iinc 6 1, 3) := dk_132 6 1 (dk_at dksX3_best_10 14 rfl rfl)
theorem dX3_best_251 : decode cX3_best 251 = .ok (.goto (-150), 3) := dk_167 255 106 (dk_at dksX3_best_10 17 rfl rfl)
theorem dX3_best_254 : decode cX3_best 254 = .ok (.aload_n 0, 1) := dk_42 (dk_at dksX3_best_10 20 rfl rfl)
theorem dX3_best_255 : decode cX3_best 255 = .ok (.iconst 0, 1) := dk_3 (dk_at dksX3_best_10 21 rfl rfl)
theorem dX3_best_256 : decode cX3_best 256 = .ok (.putfield 113, 3) := dk_181 0 113 (dk_at dksX3_best_11 0 rfl rfl)
theorem dX3_best_259 : decode cX3_best 259 = .ok (.aload_n 0, 1) := dk_42 (dk_at dksX3_best_11 3 rfl rfl)
theorem dX3_best_260 : decode cX3_best 260 = .ok (.iload_n 3, 1) := dk_29 (dk_at dksX3_best_11 4 rfl rfl)
theorem dX3_best_261 : decode cX3_best 261 = .ok (.i2l, 1) := dk_133 (dk_at dksX3_best_11 5 rfl rfl)
theorem dX3_best_262 : decode cX3_best 262 = .ok (.invokevirtual 274, 3) := dk_182 1 18 (dk_at dksX3_best_11 6 rfl rfl)
theorem dX3_best_265 : decode cX3_best 265 = .ok (.aload_n 0, 1) := dk_42 (dk_at dksX3_best_11 9 rfl rfl)
theorem dX3_best_266 : decode cX3_best 266 = .ok (.iload 5, 2) := dk_21 5 (dk_at dksX3_best_11 10 rfl rfl)
theorem dX3_best_268 : decode cX3_best 268 = .ok (.i2l, 1) := dk_133 (dk_at dksX3_best_11 12 rfl rfl)
theorem dX3_best_269 : decode cX3_best 269 = .ok (.invokevirtual 274, 3) := dk_182 1 18 (dk_at dksX3_best_11 13 rfl rfl)
theorem dX3_best_272 : decode cX3_best 272 = .ok (.iload 4, 2) := dk_21 4 (dk_at dksX3_best_11 16 rfl rfl)
theorem dX3_best_274 : decode cX3_best 274 = .ok (.ireturn, 1) := dk_172 (dk_at dksX3_best_11 18 rfl rfl)
def dkwX3_takes_1 : List UInt8 := [172, 42, 27, 28, 182, 1, 127, 62, 42, 3, 181, 0, 113, 42, 42, 180, 1, 124, 133, 182, 1, 18, 29, 172]
abbrev dktX3_takes_1 : List UInt8 := dkwX3_takes_1 ++ []
def dkwX3_takes_0 : List UInt8 := [42, 3, 181, 0, 110, 42, 27, 182, 1, 8, 153, 0, 13, 28, 3, 16, 99, 184, 0, 116, 154, 0, 5, 2]
abbrev dktX3_takes_0 : List UInt8 := dkwX3_takes_0 ++ dktX3_takes_1
theorem dksX3_takes_0 : cX3_takes.data.toList.drop 0 = dktX3_takes_0 := by decide +kernel
theorem dksX3_takes_1 : cX3_takes.data.toList.drop 24 = dktX3_takes_1 := dk_seg dksX3_takes_0 24 rfl rfl
theorem dX3_takes_0 : decode cX3_takes 0 = .ok (.aload_n 0, 1) := dk_42 (dk_at dksX3_takes_0 0 rfl rfl)
theorem dX3_takes_1 : decode cX3_takes 1 = .ok (.iconst 0, 1) := dk_3 (dk_at dksX3_takes_0 1 rfl rfl)
theorem dX3_takes_2 : decode cX3_takes 2 = .ok (.putfield 110, 3) := dk_181 0 110 (dk_at dksX3_takes_0 2 rfl rfl)
theorem dX3_takes_5 : decode cX3_takes 5 = .ok (.aload_n 0, 1) := dk_42 (dk_at dksX3_takes_0 5 rfl rfl)
theorem dX3_takes_6 : decode cX3_takes 6 = .ok (.iload_n 1, 1) := dk_27 (dk_at dksX3_takes_0 6 rfl rfl)
theorem dX3_takes_7 : decode cX3_takes 7 = .ok (.invokevirtual 264, 3) := dk_182 1 8 (dk_at dksX3_takes_0 7 rfl rfl)
theorem dX3_takes_10 : decode cX3_takes 10 = .ok (.ifCond .eq 13, 3) := dk_153 0 13 (dk_at dksX3_takes_0 10 rfl rfl)
theorem dX3_takes_13 : decode cX3_takes 13 = .ok (.iload_n 2, 1) := dk_28 (dk_at dksX3_takes_0 13 rfl rfl)
theorem dX3_takes_14 : decode cX3_takes 14 = .ok (.iconst 0, 1) := dk_3 (dk_at dksX3_takes_0 14 rfl rfl)
theorem dX3_takes_15 : decode cX3_takes 15 = .ok (.bipush 99, 2) := dk_16 99 (dk_at dksX3_takes_0 15 rfl rfl)
theorem dX3_takes_17 : decode cX3_takes 17 = .ok (.invokestatic 116, 3) := dk_184 0 116 (dk_at dksX3_takes_0 17 rfl rfl)
theorem dX3_takes_20 : decode cX3_takes 20 = .ok (.ifCond .ne 5, 3) := dk_154 0 5 (dk_at dksX3_takes_0 20 rfl rfl)
theorem dX3_takes_23 : decode cX3_takes 23 = .ok (.iconst (-1), 1) := dk_2 (dk_at dksX3_takes_0 23 rfl rfl)
theorem dX3_takes_24 : decode cX3_takes 24 = .ok (.ireturn, 1) := dk_172 (dk_at dksX3_takes_1 0 rfl rfl)
theorem dX3_takes_25 : decode cX3_takes 25 = .ok (.aload_n 0, 1) := dk_42 (dk_at dksX3_takes_1 1 rfl rfl)
theorem dX3_takes_26 : decode cX3_takes 26 = .ok (.iload_n 1, 1) := dk_27 (dk_at dksX3_takes_1 2 rfl rfl)
theorem dX3_takes_27 : decode cX3_takes 27 = .ok (.iload_n 2, 1) := dk_28 (dk_at dksX3_takes_1 3 rfl rfl)
theorem dX3_takes_28 : decode cX3_takes 28 = .ok (.invokevirtual 383, 3) := dk_182 1 127 (dk_at dksX3_takes_1 4 rfl rfl)
theorem dX3_takes_31 : decode cX3_takes 31 = .ok (.istore_n 3, 1) := dk_62 (dk_at dksX3_takes_1 7 rfl rfl)
theorem dX3_takes_32 : decode cX3_takes 32 = .ok (.aload_n 0, 1) := dk_42 (dk_at dksX3_takes_1 8 rfl rfl)
theorem dX3_takes_33 : decode cX3_takes 33 = .ok (.iconst 0, 1) := dk_3 (dk_at dksX3_takes_1 9 rfl rfl)
theorem dX3_takes_34 : decode cX3_takes 34 = .ok (.putfield 113, 3) := dk_181 0 113 (dk_at dksX3_takes_1 10 rfl rfl)
theorem dX3_takes_37 : decode cX3_takes 37 = .ok (.aload_n 0, 1) := dk_42 (dk_at dksX3_takes_1 13 rfl rfl)
theorem dX3_takes_38 : decode cX3_takes 38 = .ok (.aload_n 0, 1) := dk_42 (dk_at dksX3_takes_1 14 rfl rfl)
theorem dX3_takes_39 : decode cX3_takes 39 = .ok (.getfield 380, 3) := dk_180 1 124 (dk_at dksX3_takes_1 15 rfl rfl)
theorem dX3_takes_42 : decode cX3_takes 42 = .ok (.i2l, 1) := dk_133 (dk_at dksX3_takes_1 18 rfl rfl)
theorem dX3_takes_43 : decode cX3_takes 43 = .ok (.invokevirtual 274, 3) := dk_182 1 18 (dk_at dksX3_takes_1 19 rfl rfl)
theorem dX3_takes_46 : decode cX3_takes 46 = .ok (.iload_n 3, 1) := dk_29 (dk_at dksX3_takes_1 22 rfl rfl)
theorem dX3_takes_47 : decode cX3_takes 47 = .ok (.ireturn, 1) := dk_172 (dk_at dksX3_takes_1 23 rfl rfl)
def dkwX3_takesBy_6 : List UInt8 := [132, 4, 1, 167, 255, 123, 29, 172]
abbrev dktX3_takesBy_6 : List UInt8 := dkwX3_takesBy_6 ++ []
def dkwX3_takesBy_5 : List UInt8 := [182, 0, 251, 164, 0, 6, 167, 0, 18, 29, 21, 5, 96, 62, 42, 89, 180, 1, 124, 4, 96, 181, 1, 124]
abbrev dktX3_takesBy_5 : List UInt8 := dkwX3_takesBy_5 ++ dktX3_takesBy_6
def dkwX3_takesBy_4 : List UInt8 := [21, 6, 182, 0, 248, 104, 96, 184, 0, 226, 54, 5, 132, 6, 1, 167, 255, 205, 21, 5, 42, 21, 4, 6]
abbrev dktX3_takesBy_4 : List UInt8 := dkwX3_takesBy_4 ++ dktX3_takesBy_5
def dkwX3_takesBy_3 : List UInt8 := [21, 4, 4, 182, 0, 251, 182, 1, 36, 153, 0, 26, 21, 5, 42, 21, 6, 27, 182, 1, 15, 28, 42]
abbrev dktX3_takesBy_3 : List UInt8 := dkwX3_takesBy_3 ++ dktX3_takesBy_4
def dkwX3_takesBy_2 : List UInt8 := [167, 0, 95, 19, 1, 63, 54, 5, 3, 54, 6, 21, 6, 42, 180, 0, 120, 162, 0, 48, 42, 21, 6, 42]
abbrev dktX3_takesBy_2 : List UInt8 := dkwX3_takesBy_2 ++ dktX3_takesBy_3
def dkwX3_takesBy_1 : List UInt8 := [16, 13, 46, 21, 4, 184, 0, 254, 154, 0, 109, 42, 21, 4, 5, 182, 0, 251, 27, 159, 0, 6]
abbrev dktX3_takesBy_1 : List UInt8 := dkwX3_takesBy_1 ++ dktX3_takesBy_2
def dkwX3_takesBy_0 : List UInt8 := [3, 62, 42, 3, 181, 1, 124, 3, 54, 4, 21, 4, 42, 180, 0, 168, 162, 0, 130, 42, 180, 0, 9]
abbrev dktX3_takesBy_0 : List UInt8 := dkwX3_takesBy_0 ++ dktX3_takesBy_1
theorem dksX3_takesBy_0 : cX3_takesBy.data.toList.drop 0 = dktX3_takesBy_0 := by decide +kernel
theorem dksX3_takesBy_1 : cX3_takesBy.data.toList.drop 23 = dktX3_takesBy_1 := dk_seg dksX3_takesBy_0 23 rfl rfl
theorem dksX3_takesBy_2 : cX3_takesBy.data.toList.drop 45 = dktX3_takesBy_2 := dk_seg dksX3_takesBy_1 22 rfl rfl
theorem dksX3_takesBy_3 : cX3_takesBy.data.toList.drop 69 = dktX3_takesBy_3 := dk_seg dksX3_takesBy_2 24 rfl rfl
theorem dksX3_takesBy_4 : cX3_takesBy.data.toList.drop 92 = dktX3_takesBy_4 := dk_seg dksX3_takesBy_3 23 rfl rfl
theorem dksX3_takesBy_5 : cX3_takesBy.data.toList.drop 116 = dktX3_takesBy_5 := dk_seg dksX3_takesBy_4 24 rfl rfl
theorem dksX3_takesBy_6 : cX3_takesBy.data.toList.drop 140 = dktX3_takesBy_6 := dk_seg dksX3_takesBy_5 24 rfl rfl
theorem dX3_takesBy_0 : decode cX3_takesBy 0 = .ok (.iconst 0, 1) := dk_3 (dk_at dksX3_takesBy_0 0 rfl rfl)
theorem dX3_takesBy_1 : decode cX3_takesBy 1 = .ok (.istore_n 3, 1) := dk_62 (dk_at dksX3_takesBy_0 1 rfl rfl)
theorem dX3_takesBy_2 : decode cX3_takesBy 2 = .ok (.aload_n 0, 1) := dk_42 (dk_at dksX3_takesBy_0 2 rfl rfl)
theorem dX3_takesBy_3 : decode cX3_takesBy 3 = .ok (.iconst 0, 1) := dk_3 (dk_at dksX3_takesBy_0 3 rfl rfl)
theorem dX3_takesBy_4 : decode cX3_takesBy 4 = .ok (.putfield 380, 3) := dk_181 1 124 (dk_at dksX3_takesBy_0 4 rfl rfl)
theorem dX3_takesBy_7 : decode cX3_takesBy 7 = .ok (.iconst 0, 1) := dk_3 (dk_at dksX3_takesBy_0 7 rfl rfl)
theorem dX3_takesBy_8 : decode cX3_takesBy 8 = .ok (.istore 4, 2) := dk_54 4 (dk_at dksX3_takesBy_0 8 rfl rfl)
theorem dX3_takesBy_10 : decode cX3_takesBy 10 = .ok (.iload 4, 2) := dk_21 4 (dk_at dksX3_takesBy_0 10 rfl rfl)
theorem dX3_takesBy_12 : decode cX3_takesBy 12 = .ok (.aload_n 0, 1) := dk_42 (dk_at dksX3_takesBy_0 12 rfl rfl)
theorem dX3_takesBy_13 : decode cX3_takesBy 13 = .ok (.getfield 168, 3) := dk_180 0 168 (dk_at dksX3_takesBy_0 13 rfl rfl)
theorem dX3_takesBy_16 : decode cX3_takesBy 16 = .ok (.if_icmp .ge 130, 3) := dk_162 0 130 (dk_at dksX3_takesBy_0 16 rfl rfl)
theorem dX3_takesBy_19 : decode cX3_takesBy 19 = .ok (.aload_n 0, 1) := dk_42 (dk_at dksX3_takesBy_0 19 rfl rfl)
theorem dX3_takesBy_20 : decode cX3_takesBy 20 = .ok (.getfield 9, 3) := dk_180 0 9 (dk_at dksX3_takesBy_0 20 rfl rfl)
theorem dX3_takesBy_23 : decode cX3_takesBy 23 = .ok (.bipush 13, 2) := dk_16 13 (dk_at dksX3_takesBy_1 0 rfl rfl)
theorem dX3_takesBy_25 : decode cX3_takesBy 25 = .ok (.iaload, 1) := dk_46 (dk_at dksX3_takesBy_1 2 rfl rfl)
theorem dX3_takesBy_26 : decode cX3_takesBy 26 = .ok (.iload 4, 2) := dk_21 4 (dk_at dksX3_takesBy_1 3 rfl rfl)
theorem dX3_takesBy_28 : decode cX3_takesBy 28 = .ok (.invokestatic 254, 3) := dk_184 0 254 (dk_at dksX3_takesBy_1 5 rfl rfl)
theorem dX3_takesBy_31 : decode cX3_takesBy 31 = .ok (.ifCond .ne 109, 3) := dk_154 0 109 (dk_at dksX3_takesBy_1 8 rfl rfl)
theorem dX3_takesBy_34 : decode cX3_takesBy 34 = .ok (.aload_n 0, 1) := dk_42 (dk_at dksX3_takesBy_1 11 rfl rfl)
theorem dX3_takesBy_35 : decode cX3_takesBy 35 = .ok (.iload 4, 2) := dk_21 4 (dk_at dksX3_takesBy_1 12 rfl rfl)
theorem dX3_takesBy_37 : decode cX3_takesBy 37 = .ok (.iconst 2, 1) := dk_5 (dk_at dksX3_takesBy_1 14 rfl rfl)
theorem dX3_takesBy_38 : decode cX3_takesBy 38 = .ok (.invokevirtual 251, 3) := dk_182 0 251 (dk_at dksX3_takesBy_1 15 rfl rfl)
theorem dX3_takesBy_41 : decode cX3_takesBy 41 = .ok (.iload_n 1, 1) := dk_27 (dk_at dksX3_takesBy_1 18 rfl rfl)
theorem dX3_takesBy_42 : decode cX3_takesBy 42 = .ok (.if_icmp .eq 6, 3) := dk_159 0 6 (dk_at dksX3_takesBy_1 19 rfl rfl)
theorem dX3_takesBy_45 : decode cX3_takesBy 45 = .ok (.goto 95, 3) := dk_167 0 95 (dk_at dksX3_takesBy_2 0 rfl rfl)
theorem dX3_takesBy_48 : decode cX3_takesBy 48 = .ok (.ldc_w 319, 3) := dk_19 1 63 (dk_at dksX3_takesBy_2 3 rfl rfl)
theorem dX3_takesBy_51 : decode cX3_takesBy 51 = .ok (.istore 5, 2) := dk_54 5 (dk_at dksX3_takesBy_2 6 rfl rfl)
theorem dX3_takesBy_53 : decode cX3_takesBy 53 = .ok (.iconst 0, 1) := dk_3 (dk_at dksX3_takesBy_2 8 rfl rfl)
theorem dX3_takesBy_54 : decode cX3_takesBy 54 = .ok (.istore 6, 2) := dk_54 6 (dk_at dksX3_takesBy_2 9 rfl rfl)
theorem dX3_takesBy_56 : decode cX3_takesBy 56 = .ok (.iload 6, 2) := dk_21 6 (dk_at dksX3_takesBy_2 11 rfl rfl)
theorem dX3_takesBy_58 : decode cX3_takesBy 58 = .ok (.aload_n 0, 1) := dk_42 (dk_at dksX3_takesBy_2 13 rfl rfl)
theorem dX3_takesBy_59 : decode cX3_takesBy 59 = .ok (.getfield 120, 3) := dk_180 0 120 (dk_at dksX3_takesBy_2 14 rfl rfl)
theorem dX3_takesBy_62 : decode cX3_takesBy 62 = .ok (.if_icmp .ge 48, 3) := dk_162 0 48 (dk_at dksX3_takesBy_2 17 rfl rfl)
theorem dX3_takesBy_65 : decode cX3_takesBy 65 = .ok (.aload_n 0, 1) := dk_42 (dk_at dksX3_takesBy_2 20 rfl rfl)
theorem dX3_takesBy_66 : decode cX3_takesBy 66 = .ok (.iload 6, 2) := dk_21 6 (dk_at dksX3_takesBy_2 21 rfl rfl)
theorem dX3_takesBy_68 : decode cX3_takesBy 68 = .ok (.aload_n 0, 1) := dk_42 (dk_at dksX3_takesBy_2 23 rfl rfl)
theorem dX3_takesBy_69 : decode cX3_takesBy 69 = .ok (.iload 4, 2) := dk_21 4 (dk_at dksX3_takesBy_3 0 rfl rfl)
theorem dX3_takesBy_71 : decode cX3_takesBy 71 = .ok (.iconst 1, 1) := dk_4 (dk_at dksX3_takesBy_3 2 rfl rfl)
theorem dX3_takesBy_72 : decode cX3_takesBy 72 = .ok (.invokevirtual 251, 3) := dk_182 0 251 (dk_at dksX3_takesBy_3 3 rfl rfl)
theorem dX3_takesBy_75 : decode cX3_takesBy 75 = .ok (.invokevirtual 292, 3) := dk_182 1 36 (dk_at dksX3_takesBy_3 6 rfl rfl)
theorem dX3_takesBy_78 : decode cX3_takesBy 78 = .ok (.ifCond .eq 26, 3) := dk_153 0 26 (dk_at dksX3_takesBy_3 9 rfl rfl)
theorem dX3_takesBy_81 : decode cX3_takesBy 81 = .ok (.iload 5, 2) := dk_21 5 (dk_at dksX3_takesBy_3 12 rfl rfl)
theorem dX3_takesBy_83 : decode cX3_takesBy 83 = .ok (.aload_n 0, 1) := dk_42 (dk_at dksX3_takesBy_3 14 rfl rfl)
theorem dX3_takesBy_84 : decode cX3_takesBy 84 = .ok (.iload 6, 2) := dk_21 6 (dk_at dksX3_takesBy_3 15 rfl rfl)
theorem dX3_takesBy_86 : decode cX3_takesBy 86 = .ok (.iload_n 1, 1) := dk_27 (dk_at dksX3_takesBy_3 17 rfl rfl)
theorem dX3_takesBy_87 : decode cX3_takesBy 87 = .ok (.invokevirtual 271, 3) := dk_182 1 15 (dk_at dksX3_takesBy_3 18 rfl rfl)
theorem dX3_takesBy_90 : decode cX3_takesBy 90 = .ok (.iload_n 2, 1) := dk_28 (dk_at dksX3_takesBy_3 21 rfl rfl)
theorem dX3_takesBy_91 : decode cX3_takesBy 91 = .ok (.aload_n 0, 1) := dk_42 (dk_at dksX3_takesBy_3 22 rfl rfl)
theorem dX3_takesBy_92 : decode cX3_takesBy 92 = .ok (.iload 6, 2) := dk_21 6 (dk_at dksX3_takesBy_4 0 rfl rfl)
theorem dX3_takesBy_94 : decode cX3_takesBy 94 = .ok (.invokevirtual 248, 3) := dk_182 0 248 (dk_at dksX3_takesBy_4 2 rfl rfl)
theorem dX3_takesBy_97 : decode cX3_takesBy 97 = .ok (.imul, 1) := dk_104 (dk_at dksX3_takesBy_4 5 rfl rfl)
theorem dX3_takesBy_98 : decode cX3_takesBy 98 = .ok (.iadd, 1) := dk_96 (dk_at dksX3_takesBy_4 6 rfl rfl)
theorem dX3_takesBy_99 : decode cX3_takesBy 99 = .ok (.invokestatic 226, 3) := dk_184 0 226 (dk_at dksX3_takesBy_4 7 rfl rfl)
theorem dX3_takesBy_102 : decode cX3_takesBy 102 = .ok (.istore 5, 2) := dk_54 5 (dk_at dksX3_takesBy_4 10 rfl rfl)
theorem dX3_takesBy_104 : decode cX3_takesBy 104 = .ok (.iinc 6 1, 3) := dk_132 6 1 (dk_at dksX3_takesBy_4 12 rfl rfl)
theorem dX3_takesBy_107 : decode cX3_takesBy 107 = .ok (.goto (-51), 3) := dk_167 255 205 (dk_at dksX3_takesBy_4 15 rfl rfl)
theorem dX3_takesBy_110 : decode cX3_takesBy 110 = .ok (.iload 5, 2) := dk_21 5 (dk_at dksX3_takesBy_4 18 rfl rfl)
theorem dX3_takesBy_112 : decode cX3_takesBy 112 = .ok (.aload_n 0, 1) := dk_42 (dk_at dksX3_takesBy_4 20 rfl rfl)
theorem dX3_takesBy_113 : decode cX3_takesBy 113 = .ok (.iload 4, 2) := dk_21 4 (dk_at dksX3_takesBy_4 21 rfl rfl)
theorem dX3_takesBy_115 : decode cX3_takesBy 115 = .ok (.iconst 3, 1) := dk_6 (dk_at dksX3_takesBy_4 23 rfl rfl)
theorem dX3_takesBy_116 : decode cX3_takesBy 116 = .ok (.invokevirtual 251, 3) := dk_182 0 251 (dk_at dksX3_takesBy_5 0 rfl rfl)
theorem dX3_takesBy_119 : decode cX3_takesBy 119 = .ok (.if_icmp .le 6, 3) := dk_164 0 6 (dk_at dksX3_takesBy_5 3 rfl rfl)
theorem dX3_takesBy_122 : decode cX3_takesBy 122 = .ok (.goto 18, 3) := dk_167 0 18 (dk_at dksX3_takesBy_5 6 rfl rfl)
theorem dX3_takesBy_125 : decode cX3_takesBy 125 = .ok (.iload_n 3, 1) := dk_29 (dk_at dksX3_takesBy_5 9 rfl rfl)
theorem dX3_takesBy_126 : decode cX3_takesBy 126 = .ok (.iload 5, 2) := dk_21 5 (dk_at dksX3_takesBy_5 10 rfl rfl)
theorem dX3_takesBy_128 : decode cX3_takesBy 128 = .ok (.iadd, 1) := dk_96 (dk_at dksX3_takesBy_5 12 rfl rfl)
theorem dX3_takesBy_129 : decode cX3_takesBy 129 = .ok (.istore_n 3, 1) := dk_62 (dk_at dksX3_takesBy_5 13 rfl rfl)
theorem dX3_takesBy_130 : decode cX3_takesBy 130 = .ok (.aload_n 0, 1) := dk_42 (dk_at dksX3_takesBy_5 14 rfl rfl)
theorem dX3_takesBy_131 : decode cX3_takesBy 131 = .ok (.dup, 1) := dk_89 (dk_at dksX3_takesBy_5 15 rfl rfl)
theorem dX3_takesBy_132 : decode cX3_takesBy 132 = .ok (.getfield 380, 3) := dk_180 1 124 (dk_at dksX3_takesBy_5 16 rfl rfl)
theorem dX3_takesBy_135 : decode cX3_takesBy 135 = .ok (.iconst 1, 1) := dk_4 (dk_at dksX3_takesBy_5 19 rfl rfl)
theorem dX3_takesBy_136 : decode cX3_takesBy 136 = .ok (.iadd, 1) := dk_96 (dk_at dksX3_takesBy_5 20 rfl rfl)
theorem dX3_takesBy_137 : decode cX3_takesBy 137 = .ok (.putfield 380, 3) := dk_181 1 124 (dk_at dksX3_takesBy_5 21 rfl rfl)
theorem dX3_takesBy_140 : decode cX3_takesBy 140 = .ok (.iinc 4 1, 3) := dk_132 4 1 (dk_at dksX3_takesBy_6 0 rfl rfl)
theorem dX3_takesBy_143 : decode cX3_takesBy 143 = .ok (.goto (-133), 3) := dk_167 255 123 (dk_at dksX3_takesBy_6 3 rfl rfl)
theorem dX3_takesBy_146 : decode cX3_takesBy 146 = .ok (.iload_n 3, 1) := dk_29 (dk_at dksX3_takesBy_6 6 rfl rfl)
theorem dX3_takesBy_147 : decode cX3_takesBy 147 = .ok (.ireturn, 1) := dk_172 (dk_at dksX3_takesBy_6 7 rfl rfl)
def dkwX3_greed_3 : List UInt8 := [42, 29, 133, 182, 1, 18, 42, 21, 4, 133, 182, 1, 18, 28, 172]
abbrev dktX3_greed_3 : List UInt8 := dkwX3_greed_3 ++ []
def dkwX3_greed_2 : List UInt8 := [29, 163, 0, 6, 167, 0, 9, 21, 5, 61, 21, 6, 62, 132, 5, 1, 167, 255, 222, 42, 3, 181, 0, 113]
abbrev dktX3_greed_2 : List UInt8 := dkwX3_greed_2 ++ dktX3_greed_3
def dkwX3_greed_1 : List UInt8 := [29, 54, 4, 4, 54, 5, 21, 5, 16, 99, 163, 0, 33, 42, 27, 21, 5, 182, 1, 127, 54, 6, 21, 6]
abbrev dktX3_greed_1 : List UInt8 := dkwX3_greed_1 ++ dktX3_greed_2
def dkwX3_greed_0 : List UInt8 := [42, 3, 181, 0, 110, 42, 27, 182, 1, 8, 154, 0, 5, 2, 172, 3, 61, 42, 27, 3, 182, 1, 127, 62]
abbrev dktX3_greed_0 : List UInt8 := dkwX3_greed_0 ++ dktX3_greed_1
theorem dksX3_greed_0 : cX3_greed.data.toList.drop 0 = dktX3_greed_0 := by decide +kernel
theorem dksX3_greed_1 : cX3_greed.data.toList.drop 24 = dktX3_greed_1 := dk_seg dksX3_greed_0 24 rfl rfl
theorem dksX3_greed_2 : cX3_greed.data.toList.drop 48 = dktX3_greed_2 := dk_seg dksX3_greed_1 24 rfl rfl
theorem dksX3_greed_3 : cX3_greed.data.toList.drop 72 = dktX3_greed_3 := dk_seg dksX3_greed_2 24 rfl rfl
theorem dX3_greed_0 : decode cX3_greed 0 = .ok (.aload_n 0, 1) := dk_42 (dk_at dksX3_greed_0 0 rfl rfl)
theorem dX3_greed_1 : decode cX3_greed 1 = .ok (.iconst 0, 1) := dk_3 (dk_at dksX3_greed_0 1 rfl rfl)
theorem dX3_greed_2 : decode cX3_greed 2 = .ok (.putfield 110, 3) := dk_181 0 110 (dk_at dksX3_greed_0 2 rfl rfl)
theorem dX3_greed_5 : decode cX3_greed 5 = .ok (.aload_n 0, 1) := dk_42 (dk_at dksX3_greed_0 5 rfl rfl)
theorem dX3_greed_6 : decode cX3_greed 6 = .ok (.iload_n 1, 1) := dk_27 (dk_at dksX3_greed_0 6 rfl rfl)
theorem dX3_greed_7 : decode cX3_greed 7 = .ok (.invokevirtual 264, 3) := dk_182 1 8 (dk_at dksX3_greed_0 7 rfl rfl)
theorem dX3_greed_10 : decode cX3_greed 10 = .ok (.ifCond .ne 5, 3) := dk_154 0 5 (dk_at dksX3_greed_0 10 rfl rfl)
theorem dX3_greed_13 : decode cX3_greed 13 = .ok (.iconst (-1), 1) := dk_2 (dk_at dksX3_greed_0 13 rfl rfl)
theorem dX3_greed_14 : decode cX3_greed 14 = .ok (.ireturn, 1) := dk_172 (dk_at dksX3_greed_0 14 rfl rfl)
theorem dX3_greed_15 : decode cX3_greed 15 = .ok (.iconst 0, 1) := dk_3 (dk_at dksX3_greed_0 15 rfl rfl)
theorem dX3_greed_16 : decode cX3_greed 16 = .ok (.istore_n 2, 1) := dk_61 (dk_at dksX3_greed_0 16 rfl rfl)
theorem dX3_greed_17 : decode cX3_greed 17 = .ok (.aload_n 0, 1) := dk_42 (dk_at dksX3_greed_0 17 rfl rfl)
theorem dX3_greed_18 : decode cX3_greed 18 = .ok (.iload_n 1, 1) := dk_27 (dk_at dksX3_greed_0 18 rfl rfl)
theorem dX3_greed_19 : decode cX3_greed 19 = .ok (.iconst 0, 1) := dk_3 (dk_at dksX3_greed_0 19 rfl rfl)
theorem dX3_greed_20 : decode cX3_greed 20 = .ok (.invokevirtual 383, 3) := dk_182 1 127 (dk_at dksX3_greed_0 20 rfl rfl)
theorem dX3_greed_23 : decode cX3_greed 23 = .ok (.istore_n 3, 1) := dk_62 (dk_at dksX3_greed_0 23 rfl rfl)
theorem dX3_greed_24 : decode cX3_greed 24 = .ok (.iload_n 3, 1) := dk_29 (dk_at dksX3_greed_1 0 rfl rfl)
theorem dX3_greed_25 : decode cX3_greed 25 = .ok (.istore 4, 2) := dk_54 4 (dk_at dksX3_greed_1 1 rfl rfl)
theorem dX3_greed_27 : decode cX3_greed 27 = .ok (.iconst 1, 1) := dk_4 (dk_at dksX3_greed_1 3 rfl rfl)
theorem dX3_greed_28 : decode cX3_greed 28 = .ok (.istore 5, 2) := dk_54 5 (dk_at dksX3_greed_1 4 rfl rfl)
theorem dX3_greed_30 : decode cX3_greed 30 = .ok (.iload 5, 2) := dk_21 5 (dk_at dksX3_greed_1 6 rfl rfl)
theorem dX3_greed_32 : decode cX3_greed 32 = .ok (.bipush 99, 2) := dk_16 99 (dk_at dksX3_greed_1 8 rfl rfl)
theorem dX3_greed_34 : decode cX3_greed 34 = .ok (.if_icmp .gt 33, 3) := dk_163 0 33 (dk_at dksX3_greed_1 10 rfl rfl)
theorem dX3_greed_37 : decode cX3_greed 37 = .ok (.aload_n 0, 1) := dk_42 (dk_at dksX3_greed_1 13 rfl rfl)
theorem dX3_greed_38 : decode cX3_greed 38 = .ok (.iload_n 1, 1) := dk_27 (dk_at dksX3_greed_1 14 rfl rfl)
theorem dX3_greed_39 : decode cX3_greed 39 = .ok (.iload 5, 2) := dk_21 5 (dk_at dksX3_greed_1 15 rfl rfl)
theorem dX3_greed_41 : decode cX3_greed 41 = .ok (.invokevirtual 383, 3) := dk_182 1 127 (dk_at dksX3_greed_1 17 rfl rfl)
theorem dX3_greed_44 : decode cX3_greed 44 = .ok (.istore 6, 2) := dk_54 6 (dk_at dksX3_greed_1 20 rfl rfl)
theorem dX3_greed_46 : decode cX3_greed 46 = .ok (.iload 6, 2) := dk_21 6 (dk_at dksX3_greed_1 22 rfl rfl)
theorem dX3_greed_48 : decode cX3_greed 48 = .ok (.iload_n 3, 1) := dk_29 (dk_at dksX3_greed_2 0 rfl rfl)
theorem dX3_greed_49 : decode cX3_greed 49 = .ok (.if_icmp .gt 6, 3) := dk_163 0 6 (dk_at dksX3_greed_2 1 rfl rfl)
theorem dX3_greed_52 : decode cX3_greed 52 = .ok (.goto 9, 3) := dk_167 0 9 (dk_at dksX3_greed_2 4 rfl rfl)
theorem dX3_greed_55 : decode cX3_greed 55 = .ok (.iload 5, 2) := dk_21 5 (dk_at dksX3_greed_2 7 rfl rfl)
theorem dX3_greed_57 : decode cX3_greed 57 = .ok (.istore_n 2, 1) := dk_61 (dk_at dksX3_greed_2 9 rfl rfl)
theorem dX3_greed_58 : decode cX3_greed 58 = .ok (.iload 6, 2) := dk_21 6 (dk_at dksX3_greed_2 10 rfl rfl)
theorem dX3_greed_60 : decode cX3_greed 60 = .ok (.istore_n 3, 1) := dk_62 (dk_at dksX3_greed_2 12 rfl rfl)
theorem dX3_greed_61 : decode cX3_greed 61 = .ok (.iinc 5 1, 3) := dk_132 5 1 (dk_at dksX3_greed_2 13 rfl rfl)
theorem dX3_greed_64 : decode cX3_greed 64 = .ok (.goto (-34), 3) := dk_167 255 222 (dk_at dksX3_greed_2 16 rfl rfl)
theorem dX3_greed_67 : decode cX3_greed 67 = .ok (.aload_n 0, 1) := dk_42 (dk_at dksX3_greed_2 19 rfl rfl)
theorem dX3_greed_68 : decode cX3_greed 68 = .ok (.iconst 0, 1) := dk_3 (dk_at dksX3_greed_2 20 rfl rfl)
theorem dX3_greed_69 : decode cX3_greed 69 = .ok (.putfield 113, 3) := dk_181 0 113 (dk_at dksX3_greed_2 21 rfl rfl)
theorem dX3_greed_72 : decode cX3_greed 72 = .ok (.aload_n 0, 1) := dk_42 (dk_at dksX3_greed_3 0 rfl rfl)
theorem dX3_greed_73 : decode cX3_greed 73 = .ok (.iload_n 3, 1) := dk_29 (dk_at dksX3_greed_3 1 rfl rfl)
theorem dX3_greed_74 : decode cX3_greed 74 = .ok (.i2l, 1) := dk_133 (dk_at dksX3_greed_3 2 rfl rfl)
theorem dX3_greed_75 : decode cX3_greed 75 = .ok (.invokevirtual 274, 3) := dk_182 1 18 (dk_at dksX3_greed_3 3 rfl rfl)
theorem dX3_greed_78 : decode cX3_greed 78 = .ok (.aload_n 0, 1) := dk_42 (dk_at dksX3_greed_3 6 rfl rfl)
theorem dX3_greed_79 : decode cX3_greed 79 = .ok (.iload 4, 2) := dk_21 4 (dk_at dksX3_greed_3 7 rfl rfl)
theorem dX3_greed_81 : decode cX3_greed 81 = .ok (.i2l, 1) := dk_133 (dk_at dksX3_greed_3 9 rfl rfl)
theorem dX3_greed_82 : decode cX3_greed 82 = .ok (.invokevirtual 274, 3) := dk_182 1 18 (dk_at dksX3_greed_3 10 rfl rfl)
theorem dX3_greed_85 : decode cX3_greed 85 = .ok (.iload_n 2, 1) := dk_28 (dk_at dksX3_greed_3 13 rfl rfl)
theorem dX3_greed_86 : decode cX3_greed 86 = .ok (.ireturn, 1) := dk_172 (dk_at dksX3_greed_3 14 rfl rfl)
def dkwX3_law_10 : List UInt8 := [172]
abbrev dktX3_law_10 : List UInt8 := dkwX3_law_10 ++ []
def dkwX3_law_9 : List UInt8 := [181, 0, 216, 42, 3, 181, 0, 113, 42, 21, 6, 133, 182, 1, 18, 42, 21, 7, 133, 182, 1, 18, 21, 5]
abbrev dktX3_law_9 : List UInt8 := dkwX3_law_9 ++ dktX3_law_10
def dkwX3_law_8 : List UInt8 := [54, 6, 21, 7, 21, 9, 96, 54, 7, 132, 8, 1, 167, 255, 190, 42, 45, 181, 0, 46, 42, 21, 4]
abbrev dktX3_law_8 : List UInt8 := dkwX3_law_8 ++ dktX3_law_9
def dkwX3_law_7 : List UInt8 := [158, 0, 7, 4, 167, 0, 4, 3, 96, 54, 5, 21, 6, 21, 9, 156, 0, 7, 4, 167, 0, 4, 3, 96]
abbrev dktX3_law_7 : List UInt8 := dkwX3_law_7 ++ dktX3_law_8
def dkwX3_law_6 : List UInt8 := [162, 0, 63, 42, 21, 8, 27, 182, 1, 15, 42, 180, 0, 85, 21, 8, 46, 100, 54, 9, 21, 5, 21, 9]
abbrev dktX3_law_6 : List UInt8 := dkwX3_law_6 ++ dktX3_law_7
def dkwX3_law_5 : List UInt8 := [132, 5, 1, 167, 255, 233, 3, 54, 5, 3, 54, 6, 3, 54, 7, 3, 54, 8, 21, 8, 42, 180, 0, 120]
abbrev dktX3_law_5 : List UInt8 := dkwX3_law_5 ++ dktX3_law_6
def dkwX3_law_4 : List UInt8 := [54, 5, 21, 5, 28, 162, 0, 23, 42, 180, 0, 46, 21, 5, 42, 180, 0, 30, 21, 5, 51, 84]
abbrev dktX3_law_4 : List UInt8 := dkwX3_law_4 ++ dktX3_law_5
def dkwX3_law_3 : List UInt8 := [180, 0, 46, 78, 42, 180, 0, 216, 54, 4, 42, 42, 180, 0, 49, 181, 0, 46, 42, 28, 181, 0, 216, 3]
abbrev dktX3_law_3 : List UInt8 := dkwX3_law_3 ++ dktX3_law_4
def dkwX3_law_2 : List UInt8 := [162, 0, 21, 42, 180, 0, 85, 29, 42, 29, 27, 182, 1, 15, 79, 132, 3, 1, 167, 255, 233, 42]
abbrev dktX3_law_2 : List UInt8 := dkwX3_law_2 ++ dktX3_law_3
def dkwX3_law_1 : List UInt8 := [16, 156, 172, 42, 182, 0, 213, 154, 0, 10, 2, 42, 180, 0, 141, 100, 172, 3, 62, 29, 42, 180, 0, 120]
abbrev dktX3_law_1 : List UInt8 := dkwX3_law_1 ++ dktX3_law_2
def dkwX3_law_0 : List UInt8 := [42, 3, 181, 0, 110, 42, 180, 0, 126, 61, 42, 27, 182, 1, 8, 154, 0, 11, 42, 3, 181, 0, 126]
abbrev dktX3_law_0 : List UInt8 := dkwX3_law_0 ++ dktX3_law_1
theorem dksX3_law_0 : cX3_law.data.toList.drop 0 = dktX3_law_0 := by decide +kernel
theorem dksX3_law_1 : cX3_law.data.toList.drop 23 = dktX3_law_1 := dk_seg dksX3_law_0 23 rfl rfl
theorem dksX3_law_2 : cX3_law.data.toList.drop 47 = dktX3_law_2 := dk_seg dksX3_law_1 24 rfl rfl
theorem dksX3_law_3 : cX3_law.data.toList.drop 69 = dktX3_law_3 := dk_seg dksX3_law_2 22 rfl rfl
theorem dksX3_law_4 : cX3_law.data.toList.drop 93 = dktX3_law_4 := dk_seg dksX3_law_3 24 rfl rfl
theorem dksX3_law_5 : cX3_law.data.toList.drop 115 = dktX3_law_5 := dk_seg dksX3_law_4 22 rfl rfl
theorem dksX3_law_6 : cX3_law.data.toList.drop 139 = dktX3_law_6 := dk_seg dksX3_law_5 24 rfl rfl
theorem dksX3_law_7 : cX3_law.data.toList.drop 163 = dktX3_law_7 := dk_seg dksX3_law_6 24 rfl rfl
theorem dksX3_law_8 : cX3_law.data.toList.drop 187 = dktX3_law_8 := dk_seg dksX3_law_7 24 rfl rfl
theorem dksX3_law_9 : cX3_law.data.toList.drop 210 = dktX3_law_9 := dk_seg dksX3_law_8 23 rfl rfl
theorem dksX3_law_10 : cX3_law.data.toList.drop 234 = dktX3_law_10 := dk_seg dksX3_law_9 24 rfl rfl
theorem dX3_law_0 : decode cX3_law 0 = .ok (.aload_n 0, 1) := dk_42 (dk_at dksX3_law_0 0 rfl rfl)
theorem dX3_law_1 : decode cX3_law 1 = .ok (.iconst 0, 1) := dk_3 (dk_at dksX3_law_0 1 rfl rfl)
theorem dX3_law_2 : decode cX3_law 2 = .ok (.putfield 110, 3) := dk_181 0 110 (dk_at dksX3_law_0 2 rfl rfl)
theorem dX3_law_5 : decode cX3_law 5 = .ok (.aload_n 0, 1) := dk_42 (dk_at dksX3_law_0 5 rfl rfl)
theorem dX3_law_6 : decode cX3_law 6 = .ok (.getfield 126, 3) := dk_180 0 126 (dk_at dksX3_law_0 6 rfl rfl)
theorem dX3_law_9 : decode cX3_law 9 = .ok (.istore_n 2, 1) := dk_61 (dk_at dksX3_law_0 9 rfl rfl)
theorem dX3_law_10 : decode cX3_law 10 = .ok (.aload_n 0, 1) := dk_42 (dk_at dksX3_law_0 10 rfl rfl)
theorem dX3_law_11 : decode cX3_law 11 = .ok (.iload_n 1, 1) := dk_27 (dk_at dksX3_law_0 11 rfl rfl)
theorem dX3_law_12 : decode cX3_law 12 = .ok (.invokevirtual 264, 3) := dk_182 1 8 (dk_at dksX3_law_0 12 rfl rfl)
theorem dX3_law_15 : decode cX3_law 15 = .ok (.ifCond .ne 11, 3) := dk_154 0 11 (dk_at dksX3_law_0 15 rfl rfl)
theorem dX3_law_18 : decode cX3_law 18 = .ok (.aload_n 0, 1) := dk_42 (dk_at dksX3_law_0 18 rfl rfl)
theorem dX3_law_19 : decode cX3_law 19 = .ok (.iconst 0, 1) := dk_3 (dk_at dksX3_law_0 19 rfl rfl)
theorem dX3_law_20 : decode cX3_law 20 = .ok (.putfield 126, 3) := dk_181 0 126 (dk_at dksX3_law_0 20 rfl rfl)
theorem dX3_law_23 : decode cX3_law 23 = .ok (.bipush (-100), 2) := dk_16 156 (dk_at dksX3_law_1 0 rfl rfl)
theorem dX3_law_25 : decode cX3_law 25 = .ok (.ireturn, 1) := dk_172 (dk_at dksX3_law_1 2 rfl rfl)
theorem dX3_law_26 : decode cX3_law 26 = .ok (.aload_n 0, 1) := dk_42 (dk_at dksX3_law_1 3 rfl rfl)
theorem dX3_law_27 : decode cX3_law 27 = .ok (.invokevirtual 213, 3) := dk_182 0 213 (dk_at dksX3_law_1 4 rfl rfl)
theorem dX3_law_30 : decode cX3_law 30 = .ok (.ifCond .ne 10, 3) := dk_154 0 10 (dk_at dksX3_law_1 7 rfl rfl)
theorem dX3_law_33 : decode cX3_law 33 = .ok (.iconst (-1), 1) := dk_2 (dk_at dksX3_law_1 10 rfl rfl)
theorem dX3_law_34 : decode cX3_law 34 = .ok (.aload_n 0, 1) := dk_42 (dk_at dksX3_law_1 11 rfl rfl)
theorem dX3_law_35 : decode cX3_law 35 = .ok (.getfield 141, 3) := dk_180 0 141 (dk_at dksX3_law_1 12 rfl rfl)
theorem dX3_law_38 : decode cX3_law 38 = .ok (.isub, 1) := dk_100 (dk_at dksX3_law_1 15 rfl rfl)
theorem dX3_law_39 : decode cX3_law 39 = .ok (.ireturn, 1) := dk_172 (dk_at dksX3_law_1 16 rfl rfl)
theorem dX3_law_40 : decode cX3_law 40 = .ok (.iconst 0, 1) := dk_3 (dk_at dksX3_law_1 17 rfl rfl)
theorem dX3_law_41 : decode cX3_law 41 = .ok (.istore_n 3, 1) := dk_62 (dk_at dksX3_law_1 18 rfl rfl)
theorem dX3_law_42 : decode cX3_law 42 = .ok (.iload_n 3, 1) := dk_29 (dk_at dksX3_law_1 19 rfl rfl)
theorem dX3_law_43 : decode cX3_law 43 = .ok (.aload_n 0, 1) := dk_42 (dk_at dksX3_law_1 20 rfl rfl)
theorem dX3_law_44 : decode cX3_law 44 = .ok (.getfield 120, 3) := dk_180 0 120 (dk_at dksX3_law_1 21 rfl rfl)
theorem dX3_law_47 : decode cX3_law 47 = .ok (.if_icmp .ge 21, 3) := dk_162 0 21 (dk_at dksX3_law_2 0 rfl rfl)
theorem dX3_law_50 : decode cX3_law 50 = .ok (.aload_n 0, 1) := dk_42 (dk_at dksX3_law_2 3 rfl rfl)
theorem dX3_law_51 : decode cX3_law 51 = .ok (.getfield 85, 3) := dk_180 0 85 (dk_at dksX3_law_2 4 rfl rfl)
theorem dX3_law_54 : decode cX3_law 54 = .ok (.iload_n 3, 1) := dk_29 (dk_at dksX3_law_2 7 rfl rfl)
theorem dX3_law_55 : decode cX3_law 55 = .ok (.aload_n 0, 1) := dk_42 (dk_at dksX3_law_2 8 rfl rfl)
theorem dX3_law_56 : decode cX3_law 56 = .ok (.iload_n 3, 1) := dk_29 (dk_at dksX3_law_2 9 rfl rfl)
theorem dX3_law_57 : decode cX3_law 57 = .ok (.iload_n 1, 1) := dk_27 (dk_at dksX3_law_2 10 rfl rfl)
theorem dX3_law_58 : decode cX3_law 58 = .ok (.invokevirtual 271, 3) := dk_182 1 15 (dk_at dksX3_law_2 11 rfl rfl)
theorem dX3_law_61 : decode cX3_law 61 = .ok (.iastore, 1) := dk_79 (dk_at dksX3_law_2 14 rfl rfl)
theorem dX3_law_62 : decode cX3_law 62 = .ok (.iinc 3 1, 3) := dk_132 3 1 (dk_at dksX3_law_2 15 rfl rfl)
theorem dX3_law_65 : decode cX3_law 65 = .ok (.goto (-23), 3) := dk_167 255 233 (dk_at dksX3_law_2 18 rfl rfl)
theorem dX3_law_68 : decode cX3_law 68 = .ok (.aload_n 0, 1) := dk_42 (dk_at dksX3_law_2 21 rfl rfl)
theorem dX3_law_69 : decode cX3_law 69 = .ok (.getfield 46, 3) := dk_180 0 46 (dk_at dksX3_law_3 0 rfl rfl)
theorem dX3_law_72 : decode cX3_law 72 = .ok (.astore_n 3, 1) := dk_78 (dk_at dksX3_law_3 3 rfl rfl)
theorem dX3_law_73 : decode cX3_law 73 = .ok (.aload_n 0, 1) := dk_42 (dk_at dksX3_law_3 4 rfl rfl)
theorem dX3_law_74 : decode cX3_law 74 = .ok (.getfield 216, 3) := dk_180 0 216 (dk_at dksX3_law_3 5 rfl rfl)
theorem dX3_law_77 : decode cX3_law 77 = .ok (.istore 4, 2) := dk_54 4 (dk_at dksX3_law_3 8 rfl rfl)
theorem dX3_law_79 : decode cX3_law 79 = .ok (.aload_n 0, 1) := dk_42 (dk_at dksX3_law_3 10 rfl rfl)
theorem dX3_law_80 : decode cX3_law 80 = .ok (.aload_n 0, 1) := dk_42 (dk_at dksX3_law_3 11 rfl rfl)
theorem dX3_law_81 : decode cX3_law 81 = .ok (.getfield 49, 3) := dk_180 0 49 (dk_at dksX3_law_3 12 rfl rfl)
theorem dX3_law_84 : decode cX3_law 84 = .ok (.putfield 46, 3) := dk_181 0 46 (dk_at dksX3_law_3 15 rfl rfl)
theorem dX3_law_87 : decode cX3_law 87 = .ok (.aload_n 0, 1) := dk_42 (dk_at dksX3_law_3 18 rfl rfl)
theorem dX3_law_88 : decode cX3_law 88 = .ok (.iload_n 2, 1) := dk_28 (dk_at dksX3_law_3 19 rfl rfl)
theorem dX3_law_89 : decode cX3_law 89 = .ok (.putfield 216, 3) := dk_181 0 216 (dk_at dksX3_law_3 20 rfl rfl)
theorem dX3_law_92 : decode cX3_law 92 = .ok (.iconst 0, 1) := dk_3 (dk_at dksX3_law_3 23 rfl rfl)
theorem dX3_law_93 : decode cX3_law 93 = .ok (.istore 5, 2) := dk_54 5 (dk_at dksX3_law_4 0 rfl rfl)
theorem dX3_law_95 : decode cX3_law 95 = .ok (.iload 5, 2) := dk_21 5 (dk_at dksX3_law_4 2 rfl rfl)
theorem dX3_law_97 : decode cX3_law 97 = .ok (.iload_n 2, 1) := dk_28 (dk_at dksX3_law_4 4 rfl rfl)
theorem dX3_law_98 : decode cX3_law 98 = .ok (.if_icmp .ge 23, 3) := dk_162 0 23 (dk_at dksX3_law_4 5 rfl rfl)
theorem dX3_law_101 : decode cX3_law 101 = .ok (.aload_n 0, 1) := dk_42 (dk_at dksX3_law_4 8 rfl rfl)
theorem dX3_law_102 : decode cX3_law 102 = .ok (.getfield 46, 3) := dk_180 0 46 (dk_at dksX3_law_4 9 rfl rfl)
theorem dX3_law_105 : decode cX3_law 105 = .ok (.iload 5, 2) := dk_21 5 (dk_at dksX3_law_4 12 rfl rfl)
theorem dX3_law_107 : decode cX3_law 107 = .ok (.aload_n 0, 1) := dk_42 (dk_at dksX3_law_4 14 rfl rfl)
theorem dX3_law_108 : decode cX3_law 108 = .ok (.getfield 30, 3) := dk_180 0 30 (dk_at dksX3_law_4 15 rfl rfl)
theorem dX3_law_111 : decode cX3_law 111 = .ok (.iload 5, 2) := dk_21 5 (dk_at dksX3_law_4 18 rfl rfl)
theorem dX3_law_113 : decode cX3_law 113 = .ok (.baload, 1) := dk_51 (dk_at dksX3_law_4 20 rfl rfl)
theorem dX3_law_114 : decode cX3_law 114 = .ok (.bastore, 1) := dk_84 (dk_at dksX3_law_4 21 rfl rfl)
theorem dX3_law_115 : decode cX3_law 115 = .ok (.iinc 5 1, 3) := dk_132 5 1 (dk_at dksX3_law_5 0 rfl rfl)
theorem dX3_law_118 : decode cX3_law 118 = .ok (.goto (-23), 3) := dk_167 255 233 (dk_at dksX3_law_5 3 rfl rfl)
theorem dX3_law_121 : decode cX3_law 121 = .ok (.iconst 0, 1) := dk_3 (dk_at dksX3_law_5 6 rfl rfl)
theorem dX3_law_122 : decode cX3_law 122 = .ok (.istore 5, 2) := dk_54 5 (dk_at dksX3_law_5 7 rfl rfl)
theorem dX3_law_124 : decode cX3_law 124 = .ok (.iconst 0, 1) := dk_3 (dk_at dksX3_law_5 9 rfl rfl)
theorem dX3_law_125 : decode cX3_law 125 = .ok (.istore 6, 2) := dk_54 6 (dk_at dksX3_law_5 10 rfl rfl)
theorem dX3_law_127 : decode cX3_law 127 = .ok (.iconst 0, 1) := dk_3 (dk_at dksX3_law_5 12 rfl rfl)
theorem dX3_law_128 : decode cX3_law 128 = .ok (.istore 7, 2) := dk_54 7 (dk_at dksX3_law_5 13 rfl rfl)
theorem dX3_law_130 : decode cX3_law 130 = .ok (.iconst 0, 1) := dk_3 (dk_at dksX3_law_5 15 rfl rfl)
theorem dX3_law_131 : decode cX3_law 131 = .ok (.istore 8, 2) := dk_54 8 (dk_at dksX3_law_5 16 rfl rfl)
theorem dX3_law_133 : decode cX3_law 133 = .ok (.iload 8, 2) := dk_21 8 (dk_at dksX3_law_5 18 rfl rfl)
theorem dX3_law_135 : decode cX3_law 135 = .ok (.aload_n 0, 1) := dk_42 (dk_at dksX3_law_5 20 rfl rfl)
theorem dX3_law_136 : decode cX3_law 136 = .ok (.getfield 120, 3) := dk_180 0 120 (dk_at dksX3_law_5 21 rfl rfl)
theorem dX3_law_139 : decode cX3_law 139 = .ok (.if_icmp .ge 63, 3) := dk_162 0 63 (dk_at dksX3_law_6 0 rfl rfl)
theorem dX3_law_142 : decode cX3_law 142 = .ok (.aload_n 0, 1) := dk_42 (dk_at dksX3_law_6 3 rfl rfl)
theorem dX3_law_143 : decode cX3_law 143 = .ok (.iload 8, 2) := dk_21 8 (dk_at dksX3_law_6 4 rfl rfl)
theorem dX3_law_145 : decode cX3_law 145 = .ok (.iload_n 1, 1) := dk_27 (dk_at dksX3_law_6 6 rfl rfl)
theorem dX3_law_146 : decode cX3_law 146 = .ok (.invokevirtual 271, 3) := dk_182 1 15 (dk_at dksX3_law_6 7 rfl rfl)
theorem dX3_law_149 : decode cX3_law 149 = .ok (.aload_n 0, 1) := dk_42 (dk_at dksX3_law_6 10 rfl rfl)
theorem dX3_law_150 : decode cX3_law 150 = .ok (.getfield 85, 3) := dk_180 0 85 (dk_at dksX3_law_6 11 rfl rfl)
theorem dX3_law_153 : decode cX3_law 153 = .ok (.iload 8, 2) := dk_21 8 (dk_at dksX3_law_6 14 rfl rfl)
theorem dX3_law_155 : decode cX3_law 155 = .ok (.iaload, 1) := dk_46 (dk_at dksX3_law_6 16 rfl rfl)
theorem dX3_law_156 : decode cX3_law 156 = .ok (.isub, 1) := dk_100 (dk_at dksX3_law_6 17 rfl rfl)
theorem dX3_law_157 : decode cX3_law 157 = .ok (.istore 9, 2) := dk_54 9 (dk_at dksX3_law_6 18 rfl rfl)
theorem dX3_law_159 : decode cX3_law 159 = .ok (.iload 5, 2) := dk_21 5 (dk_at dksX3_law_6 20 rfl rfl)
theorem dX3_law_161 : decode cX3_law 161 = .ok (.iload 9, 2) := dk_21 9 (dk_at dksX3_law_6 22 rfl rfl)
theorem dX3_law_163 : decode cX3_law 163 = .ok (.ifCond .le 7, 3) := dk_158 0 7 (dk_at dksX3_law_7 0 rfl rfl)
theorem dX3_law_166 : decode cX3_law 166 = .ok (.iconst 1, 1) := dk_4 (dk_at dksX3_law_7 3 rfl rfl)
theorem dX3_law_167 : decode cX3_law 167 = .ok (.goto 4, 3) := dk_167 0 4 (dk_at dksX3_law_7 4 rfl rfl)
theorem dX3_law_170 : decode cX3_law 170 = .ok (.iconst 0, 1) := dk_3 (dk_at dksX3_law_7 7 rfl rfl)
theorem dX3_law_171 : decode cX3_law 171 = .ok (.iadd, 1) := dk_96 (dk_at dksX3_law_7 8 rfl rfl)
theorem dX3_law_172 : decode cX3_law 172 = .ok (.istore 5, 2) := dk_54 5 (dk_at dksX3_law_7 9 rfl rfl)
theorem dX3_law_174 : decode cX3_law 174 = .ok (.iload 6, 2) := dk_21 6 (dk_at dksX3_law_7 11 rfl rfl)
theorem dX3_law_176 : decode cX3_law 176 = .ok (.iload 9, 2) := dk_21 9 (dk_at dksX3_law_7 13 rfl rfl)
theorem dX3_law_178 : decode cX3_law 178 = .ok (.ifCond .ge 7, 3) := dk_156 0 7 (dk_at dksX3_law_7 15 rfl rfl)
theorem dX3_law_181 : decode cX3_law 181 = .ok (.iconst 1, 1) := dk_4 (dk_at dksX3_law_7 18 rfl rfl)
theorem dX3_law_182 : decode cX3_law 182 = .ok (.goto 4, 3) := dk_167 0 4 (dk_at dksX3_law_7 19 rfl rfl)
theorem dX3_law_185 : decode cX3_law 185 = .ok (.iconst 0, 1) := dk_3 (dk_at dksX3_law_7 22 rfl rfl)
theorem dX3_law_186 : decode cX3_law 186 = .ok (.iadd, 1) := dk_96 (dk_at dksX3_law_7 23 rfl rfl)
theorem dX3_law_187 : decode cX3_law 187 = .ok (.istore 6, 2) := dk_54 6 (dk_at dksX3_law_8 0 rfl rfl)
theorem dX3_law_189 : decode cX3_law 189 = .ok (.iload 7, 2) := dk_21 7 (dk_at dksX3_law_8 2 rfl rfl)
theorem dX3_law_191 : decode cX3_law 191 = .ok (.iload 9, 2) := dk_21 9 (dk_at dksX3_law_8 4 rfl rfl)
theorem dX3_law_193 : decode cX3_law 193 = .ok (.iadd, 1) := dk_96 (dk_at dksX3_law_8 6 rfl rfl)
theorem dX3_law_194 : decode cX3_law 194 = .ok (.istore 7, 2) := dk_54 7 (dk_at dksX3_law_8 7 rfl rfl)
theorem dX3_law_196 : decode cX3_law 196 = .ok (.iinc 8 1, 3) := dk_132 8 1 (dk_at dksX3_law_8 9 rfl rfl)
theorem dX3_law_199 : decode cX3_law 199 = .ok (.goto (-66), 3) := dk_167 255 190 (dk_at dksX3_law_8 12 rfl rfl)
theorem dX3_law_202 : decode cX3_law 202 = .ok (.aload_n 0, 1) := dk_42 (dk_at dksX3_law_8 15 rfl rfl)
theorem dX3_law_203 : decode cX3_law 203 = .ok (.aload_n 3, 1) := dk_45 (dk_at dksX3_law_8 16 rfl rfl)
theorem dX3_law_204 : decode cX3_law 204 = .ok (.putfield 46, 3) := dk_181 0 46 (dk_at dksX3_law_8 17 rfl rfl)
theorem dX3_law_207 : decode cX3_law 207 = .ok (.aload_n 0, 1) := dk_42 (dk_at dksX3_law_8 20 rfl rfl)
theorem dX3_law_208 : decode cX3_law 208 = .ok (.iload 4, 2) := dk_21 4 (dk_at dksX3_law_8 21 rfl rfl)
theorem dX3_law_210 : decode cX3_law 210 = .ok (.putfield 216, 3) := dk_181 0 216 (dk_at dksX3_law_9 0 rfl rfl)
theorem dX3_law_213 : decode cX3_law 213 = .ok (.aload_n 0, 1) := dk_42 (dk_at dksX3_law_9 3 rfl rfl)
theorem dX3_law_214 : decode cX3_law 214 = .ok (.iconst 0, 1) := dk_3 (dk_at dksX3_law_9 4 rfl rfl)
theorem dX3_law_215 : decode cX3_law 215 = .ok (.putfield 113, 3) := dk_181 0 113 (dk_at dksX3_law_9 5 rfl rfl)
theorem dX3_law_218 : decode cX3_law 218 = .ok (.aload_n 0, 1) := dk_42 (dk_at dksX3_law_9 8 rfl rfl)
theorem dX3_law_219 : decode cX3_law 219 = .ok (.iload 6, 2) := dk_21 6 (dk_at dksX3_law_9 9 rfl rfl)
theorem dX3_law_221 : decode cX3_law 221 = .ok (.i2l, 1) := dk_133 (dk_at dksX3_law_9 11 rfl rfl)
theorem dX3_law_222 : decode cX3_law 222 = .ok (.invokevirtual 274, 3) := dk_182 1 18 (dk_at dksX3_law_9 12 rfl rfl)
theorem dX3_law_225 : decode cX3_law 225 = .ok (.aload_n 0, 1) := dk_42 (dk_at dksX3_law_9 15 rfl rfl)
theorem dX3_law_226 : decode cX3_law 226 = .ok (.iload 7, 2) := dk_21 7 (dk_at dksX3_law_9 16 rfl rfl)
theorem dX3_law_228 : decode cX3_law 228 = .ok (.i2l, 1) := dk_133 (dk_at dksX3_law_9 18 rfl rfl)
theorem dX3_law_229 : decode cX3_law 229 = .ok (.invokevirtual 274, 3) := dk_182 1 18 (dk_at dksX3_law_9 19 rfl rfl)
theorem dX3_law_232 : decode cX3_law 232 = .ok (.iload 5, 2) := dk_21 5 (dk_at dksX3_law_9 22 rfl rfl)
theorem dX3_law_234 : decode cX3_law 234 = .ok (.ireturn, 1) := dk_172 (dk_at dksX3_law_10 0 rfl rfl)
def dkwX3_said_4 : List UInt8 := [182, 1, 18, 132, 1, 1, 167, 255, 227, 42, 180, 1, 130, 172]
abbrev dktX3_said_4 : List UInt8 := dkwX3_said_4 ++ []
def dkwX3_said_3 : List UInt8 := [42, 180, 1, 133, 162, 0, 27, 42, 180, 1, 130, 158, 0, 20, 42, 42, 180, 0, 94, 27, 46, 133]
abbrev dktX3_said_3 : List UInt8 := dkwX3_said_3 ++ dktX3_said_4
def dkwX3_said_2 : List UInt8 := [180, 0, 141, 100, 172, 42, 3, 181, 1, 130, 42, 3, 3, 182, 1, 145, 42, 3, 181, 0, 113, 3, 60, 27]
abbrev dktX3_said_2 : List UInt8 := dkwX3_said_2 ++ dktX3_said_3
def dkwX3_said_1 : List UInt8 := [16, 48, 16, 10, 182, 0, 164, 79, 132, 1, 1, 167, 255, 234, 42, 182, 0, 183, 154, 0, 10, 2, 42]
abbrev dktX3_said_1 : List UInt8 := dkwX3_said_1 ++ dktX3_said_2
def dkwX3_said_0 : List UInt8 := [42, 3, 181, 0, 110, 42, 16, 80, 182, 0, 177, 3, 60, 27, 8, 162, 0, 23, 42, 180, 0, 88, 27, 42]
abbrev dktX3_said_0 : List UInt8 := dkwX3_said_0 ++ dktX3_said_1
theorem dksX3_said_0 : cX3_said.data.toList.drop 0 = dktX3_said_0 := by decide +kernel
theorem dksX3_said_1 : cX3_said.data.toList.drop 24 = dktX3_said_1 := dk_seg dksX3_said_0 24 rfl rfl
theorem dksX3_said_2 : cX3_said.data.toList.drop 47 = dktX3_said_2 := dk_seg dksX3_said_1 23 rfl rfl
theorem dksX3_said_3 : cX3_said.data.toList.drop 71 = dktX3_said_3 := dk_seg dksX3_said_2 24 rfl rfl
theorem dksX3_said_4 : cX3_said.data.toList.drop 93 = dktX3_said_4 := dk_seg dksX3_said_3 22 rfl rfl
theorem dX3_said_0 : decode cX3_said 0 = .ok (.aload_n 0, 1) := dk_42 (dk_at dksX3_said_0 0 rfl rfl)
theorem dX3_said_1 : decode cX3_said 1 = .ok (.iconst 0, 1) := dk_3 (dk_at dksX3_said_0 1 rfl rfl)
theorem dX3_said_2 : decode cX3_said 2 = .ok (.putfield 110, 3) := dk_181 0 110 (dk_at dksX3_said_0 2 rfl rfl)
theorem dX3_said_5 : decode cX3_said 5 = .ok (.aload_n 0, 1) := dk_42 (dk_at dksX3_said_0 5 rfl rfl)
theorem dX3_said_6 : decode cX3_said 6 = .ok (.bipush 80, 2) := dk_16 80 (dk_at dksX3_said_0 6 rfl rfl)
theorem dX3_said_8 : decode cX3_said 8 = .ok (.invokevirtual 177, 3) := dk_182 0 177 (dk_at dksX3_said_0 8 rfl rfl)
theorem dX3_said_11 : decode cX3_said 11 = .ok (.iconst 0, 1) := dk_3 (dk_at dksX3_said_0 11 rfl rfl)
theorem dX3_said_12 : decode cX3_said 12 = .ok (.istore_n 1, 1) := dk_60 (dk_at dksX3_said_0 12 rfl rfl)
theorem dX3_said_13 : decode cX3_said 13 = .ok (.iload_n 1, 1) := dk_27 (dk_at dksX3_said_0 13 rfl rfl)
theorem dX3_said_14 : decode cX3_said 14 = .ok (.iconst 5, 1) := dk_8 (dk_at dksX3_said_0 14 rfl rfl)
theorem dX3_said_15 : decode cX3_said 15 = .ok (.if_icmp .ge 23, 3) := dk_162 0 23 (dk_at dksX3_said_0 15 rfl rfl)
theorem dX3_said_18 : decode cX3_said 18 = .ok (.aload_n 0, 1) := dk_42 (dk_at dksX3_said_0 18 rfl rfl)
theorem dX3_said_19 : decode cX3_said 19 = .ok (.getfield 88, 3) := dk_180 0 88 (dk_at dksX3_said_0 19 rfl rfl)
theorem dX3_said_22 : decode cX3_said 22 = .ok (.iload_n 1, 1) := dk_27 (dk_at dksX3_said_0 22 rfl rfl)
theorem dX3_said_23 : decode cX3_said 23 = .ok (.aload_n 0, 1) := dk_42 (dk_at dksX3_said_0 23 rfl rfl)
theorem dX3_said_24 : decode cX3_said 24 = .ok (.bipush 48, 2) := dk_16 48 (dk_at dksX3_said_1 0 rfl rfl)
theorem dX3_said_26 : decode cX3_said 26 = .ok (.bipush 10, 2) := dk_16 10 (dk_at dksX3_said_1 2 rfl rfl)
theorem dX3_said_28 : decode cX3_said 28 = .ok (.invokevirtual 164, 3) := dk_182 0 164 (dk_at dksX3_said_1 4 rfl rfl)
theorem dX3_said_31 : decode cX3_said 31 = .ok (.iastore, 1) := dk_79 (dk_at dksX3_said_1 7 rfl rfl)
theorem dX3_said_32 : decode cX3_said 32 = .ok (.iinc 1 1, 3) := dk_132 1 1 (dk_at dksX3_said_1 8 rfl rfl)
theorem dX3_said_35 : decode cX3_said 35 = .ok (.goto (-22), 3) := dk_167 255 234 (dk_at dksX3_said_1 11 rfl rfl)
theorem dX3_said_38 : decode cX3_said 38 = .ok (.aload_n 0, 1) := dk_42 (dk_at dksX3_said_1 14 rfl rfl)
theorem dX3_said_39 : decode cX3_said 39 = .ok (.invokevirtual 183, 3) := dk_182 0 183 (dk_at dksX3_said_1 15 rfl rfl)
theorem dX3_said_42 : decode cX3_said 42 = .ok (.ifCond .ne 10, 3) := dk_154 0 10 (dk_at dksX3_said_1 18 rfl rfl)
theorem dX3_said_45 : decode cX3_said 45 = .ok (.iconst (-1), 1) := dk_2 (dk_at dksX3_said_1 21 rfl rfl)
theorem dX3_said_46 : decode cX3_said 46 = .ok (.aload_n 0, 1) := dk_42 (dk_at dksX3_said_1 22 rfl rfl)
theorem dX3_said_47 : decode cX3_said 47 = .ok (.getfield 141, 3) := dk_180 0 141 (dk_at dksX3_said_2 0 rfl rfl)
theorem dX3_said_50 : decode cX3_said 50 = .ok (.isub, 1) := dk_100 (dk_at dksX3_said_2 3 rfl rfl)
theorem dX3_said_51 : decode cX3_said 51 = .ok (.ireturn, 1) := dk_172 (dk_at dksX3_said_2 4 rfl rfl)
theorem dX3_said_52 : decode cX3_said 52 = .ok (.aload_n 0, 1) := dk_42 (dk_at dksX3_said_2 5 rfl rfl)
theorem dX3_said_53 : decode cX3_said 53 = .ok (.iconst 0, 1) := dk_3 (dk_at dksX3_said_2 6 rfl rfl)
theorem dX3_said_54 : decode cX3_said 54 = .ok (.putfield 386, 3) := dk_181 1 130 (dk_at dksX3_said_2 7 rfl rfl)
theorem dX3_said_57 : decode cX3_said 57 = .ok (.aload_n 0, 1) := dk_42 (dk_at dksX3_said_2 10 rfl rfl)
theorem dX3_said_58 : decode cX3_said 58 = .ok (.iconst 0, 1) := dk_3 (dk_at dksX3_said_2 11 rfl rfl)
theorem dX3_said_59 : decode cX3_said 59 = .ok (.iconst 0, 1) := dk_3 (dk_at dksX3_said_2 12 rfl rfl)
theorem dX3_said_60 : decode cX3_said 60 = .ok (.invokevirtual 401, 3) := dk_182 1 145 (dk_at dksX3_said_2 13 rfl rfl)
theorem dX3_said_63 : decode cX3_said 63 = .ok (.aload_n 0, 1) := dk_42 (dk_at dksX3_said_2 16 rfl rfl)
theorem dX3_said_64 : decode cX3_said 64 = .ok (.iconst 0, 1) := dk_3 (dk_at dksX3_said_2 17 rfl rfl)
theorem dX3_said_65 : decode cX3_said 65 = .ok (.putfield 113, 3) := dk_181 0 113 (dk_at dksX3_said_2 18 rfl rfl)
theorem dX3_said_68 : decode cX3_said 68 = .ok (.iconst 0, 1) := dk_3 (dk_at dksX3_said_2 21 rfl rfl)
theorem dX3_said_69 : decode cX3_said 69 = .ok (.istore_n 1, 1) := dk_60 (dk_at dksX3_said_2 22 rfl rfl)
theorem dX3_said_70 : decode cX3_said 70 = .ok (.iload_n 1, 1) := dk_27 (dk_at dksX3_said_2 23 rfl rfl)
theorem dX3_said_71 : decode cX3_said 71 = .ok (.aload_n 0, 1) := dk_42 (dk_at dksX3_said_3 0 rfl rfl)
theorem dX3_said_72 : decode cX3_said 72 = .ok (.getfield 389, 3) := dk_180 1 133 (dk_at dksX3_said_3 1 rfl rfl)
theorem dX3_said_75 : decode cX3_said 75 = .ok (.if_icmp .ge 27, 3) := dk_162 0 27 (dk_at dksX3_said_3 4 rfl rfl)
theorem dX3_said_78 : decode cX3_said 78 = .ok (.aload_n 0, 1) := dk_42 (dk_at dksX3_said_3 7 rfl rfl)
theorem dX3_said_79 : decode cX3_said 79 = .ok (.getfield 386, 3) := dk_180 1 130 (dk_at dksX3_said_3 8 rfl rfl)
theorem dX3_said_82 : decode cX3_said 82 = .ok (.ifCond .le 20, 3) := dk_158 0 20 (dk_at dksX3_said_3 11 rfl rfl)
theorem dX3_said_85 : decode cX3_said 85 = .ok (.aload_n 0, 1) := dk_42 (dk_at dksX3_said_3 14 rfl rfl)
theorem dX3_said_86 : decode cX3_said 86 = .ok (.aload_n 0, 1) := dk_42 (dk_at dksX3_said_3 15 rfl rfl)
theorem dX3_said_87 : decode cX3_said 87 = .ok (.getfield 94, 3) := dk_180 0 94 (dk_at dksX3_said_3 16 rfl rfl)
theorem dX3_said_90 : decode cX3_said 90 = .ok (.iload_n 1, 1) := dk_27 (dk_at dksX3_said_3 19 rfl rfl)
theorem dX3_said_91 : decode cX3_said 91 = .ok (.iaload, 1) := dk_46 (dk_at dksX3_said_3 20 rfl rfl)
theorem dX3_said_92 : decode cX3_said 92 = .ok (.i2l, 1) := dk_133 (dk_at dksX3_said_3 21 rfl rfl)
theorem dX3_said_93 : decode cX3_said 93 = .ok (.invokevirtual 274, 3) := dk_182 1 18 (dk_at dksX3_said_4 0 rfl rfl)
theorem dX3_said_96 : decode cX3_said 96 = .ok (.iinc 1 1, 3) := dk_132 1 1 (dk_at dksX3_said_4 3 rfl rfl)
theorem dX3_said_99 : decode cX3_said 99 = .ok (.goto (-29), 3) := dk_167 255 227 (dk_at dksX3_said_4 6 rfl rfl)
theorem dX3_said_102 : decode cX3_said 102 = .ok (.aload_n 0, 1) := dk_42 (dk_at dksX3_said_4 9 rfl rfl)
theorem dX3_said_103 : decode cX3_said 103 = .ok (.getfield 386, 3) := dk_180 1 130 (dk_at dksX3_said_4 10 rfl rfl)
theorem dX3_said_106 : decode cX3_said 106 = .ok (.ireturn, 1) := dk_172 (dk_at dksX3_said_4 13 rfl rfl)
def dkwX3_goSaid_4 : List UInt8 := [182, 1, 145, 42, 29, 2, 182, 1, 142, 132, 3, 1, 167, 255, 213, 177]
abbrev dktX3_goSaid_4 : List UInt8 := dkwX3_goSaid_4 ++ []
def dkwX3_goSaid_3 : List UInt8 := [7, 162, 0, 36, 42, 180, 0, 91, 28, 29, 79, 42, 29, 4, 182, 1, 142, 42, 29, 28, 4, 96]
abbrev dktX3_goSaid_3 : List UInt8 := dkwX3_goSaid_3 ++ dktX3_goSaid_4
def dkwX3_goSaid_2 : List UInt8 := [167, 255, 236, 42, 89, 180, 1, 130, 4, 96, 181, 1, 130, 27, 62, 29, 42, 180, 0, 120, 162, 0, 41, 28]
abbrev dktX3_goSaid_2 : List UInt8 := dkwX3_goSaid_2 ++ dktX3_goSaid_3
def dkwX3_goSaid_1 : List UInt8 := [3, 62, 29, 28, 162, 0, 21, 42, 180, 0, 94, 29, 42, 180, 0, 91, 29, 46, 79, 132, 3, 1]
abbrev dktX3_goSaid_1 : List UInt8 := dkwX3_goSaid_1 ++ dktX3_goSaid_2
def dkwX3_goSaid_0 : List UInt8 := [28, 158, 0, 58, 42, 182, 1, 136, 153, 0, 51, 42, 28, 182, 1, 139, 153, 0, 33, 42, 28, 181, 1, 133]
abbrev dktX3_goSaid_0 : List UInt8 := dkwX3_goSaid_0 ++ dktX3_goSaid_1
theorem dksX3_goSaid_0 : cX3_goSaid.data.toList.drop 0 = dktX3_goSaid_0 := by decide +kernel
theorem dksX3_goSaid_1 : cX3_goSaid.data.toList.drop 24 = dktX3_goSaid_1 := dk_seg dksX3_goSaid_0 24 rfl rfl
theorem dksX3_goSaid_2 : cX3_goSaid.data.toList.drop 46 = dktX3_goSaid_2 := dk_seg dksX3_goSaid_1 22 rfl rfl
theorem dksX3_goSaid_3 : cX3_goSaid.data.toList.drop 70 = dktX3_goSaid_3 := dk_seg dksX3_goSaid_2 24 rfl rfl
theorem dksX3_goSaid_4 : cX3_goSaid.data.toList.drop 92 = dktX3_goSaid_4 := dk_seg dksX3_goSaid_3 22 rfl rfl
theorem dX3_goSaid_0 : decode cX3_goSaid 0 = .ok (.iload_n 2, 1) := dk_28 (dk_at dksX3_goSaid_0 0 rfl rfl)
theorem dX3_goSaid_1 : decode cX3_goSaid 1 = .ok (.ifCond .le 58, 3) := dk_158 0 58 (dk_at dksX3_goSaid_0 1 rfl rfl)
theorem dX3_goSaid_4 : decode cX3_goSaid 4 = .ok (.aload_n 0, 1) := dk_42 (dk_at dksX3_goSaid_0 4 rfl rfl)
theorem dX3_goSaid_5 : decode cX3_goSaid 5 = .ok (.invokevirtual 392, 3) := dk_182 1 136 (dk_at dksX3_goSaid_0 5 rfl rfl)
theorem dX3_goSaid_8 : decode cX3_goSaid 8 = .ok (.ifCond .eq 51, 3) := dk_153 0 51 (dk_at dksX3_goSaid_0 8 rfl rfl)
theorem dX3_goSaid_11 : decode cX3_goSaid 11 = .ok (.aload_n 0, 1) := dk_42 (dk_at dksX3_goSaid_0 11 rfl rfl)
theorem dX3_goSaid_12 : decode cX3_goSaid 12 = .ok (.iload_n 2, 1) := dk_28 (dk_at dksX3_goSaid_0 12 rfl rfl)
theorem dX3_goSaid_13 : decode cX3_goSaid 13 = .ok (.invokevirtual 395, 3) := dk_182 1 139 (dk_at dksX3_goSaid_0 13 rfl rfl)
theorem dX3_goSaid_16 : decode cX3_goSaid 16 = .ok (.ifCond .eq 33, 3) := dk_153 0 33 (dk_at dksX3_goSaid_0 16 rfl rfl)
theorem dX3_goSaid_19 : decode cX3_goSaid 19 = .ok (.aload_n 0, 1) := dk_42 (dk_at dksX3_goSaid_0 19 rfl rfl)
theorem dX3_goSaid_20 : decode cX3_goSaid 20 = .ok (.iload_n 2, 1) := dk_28 (dk_at dksX3_goSaid_0 20 rfl rfl)
theorem dX3_goSaid_21 : decode cX3_goSaid 21 = .ok (.putfield 389, 3) := dk_181 1 133 (dk_at dksX3_goSaid_0 21 rfl rfl)
theorem dX3_goSaid_24 : decode cX3_goSaid 24 = .ok (.iconst 0, 1) := dk_3 (dk_at dksX3_goSaid_1 0 rfl rfl)
theorem dX3_goSaid_25 : decode cX3_goSaid 25 = .ok (.istore_n 3, 1) := dk_62 (dk_at dksX3_goSaid_1 1 rfl rfl)
theorem dX3_goSaid_26 : decode cX3_goSaid 26 = .ok (.iload_n 3, 1) := dk_29 (dk_at dksX3_goSaid_1 2 rfl rfl)
theorem dX3_goSaid_27 : decode cX3_goSaid 27 = .ok (.iload_n 2, 1) := dk_28 (dk_at dksX3_goSaid_1 3 rfl rfl)
theorem dX3_goSaid_28 : decode cX3_goSaid 28 = .ok (.if_icmp .ge 21, 3) := dk_162 0 21 (dk_at dksX3_goSaid_1 4 rfl rfl)
theorem dX3_goSaid_31 : decode cX3_goSaid 31 = .ok (.aload_n 0, 1) := dk_42 (dk_at dksX3_goSaid_1 7 rfl rfl)
theorem dX3_goSaid_32 : decode cX3_goSaid 32 = .ok (.getfield 94, 3) := dk_180 0 94 (dk_at dksX3_goSaid_1 8 rfl rfl)
theorem dX3_goSaid_35 : decode cX3_goSaid 35 = .ok (.iload_n 3, 1) := dk_29 (dk_at dksX3_goSaid_1 11 rfl rfl)
theorem dX3_goSaid_36 : decode cX3_goSaid 36 = .ok (.aload_n 0, 1) := dk_42 (dk_at dksX3_goSaid_1 12 rfl rfl)
theorem dX3_goSaid_37 : decode cX3_goSaid 37 = .ok (.getfield 91, 3) := dk_180 0 91 (dk_at dksX3_goSaid_1 13 rfl rfl)
theorem dX3_goSaid_40 : decode cX3_goSaid 40 = .ok (.iload_n 3, 1) := dk_29 (dk_at dksX3_goSaid_1 16 rfl rfl)
theorem dX3_goSaid_41 : decode cX3_goSaid 41 = .ok (.iaload, 1) := dk_46 (dk_at dksX3_goSaid_1 17 rfl rfl)
theorem dX3_goSaid_42 : decode cX3_goSaid 42 = .ok (.iastore, 1) := dk_79 (dk_at dksX3_goSaid_1 18 rfl rfl)
theorem dX3_goSaid_43 : decode cX3_goSaid 43 = .ok (.iinc 3 1, 3) := dk_132 3 1 (dk_at dksX3_goSaid_1 19 rfl rfl)
theorem dX3_goSaid_46 : decode cX3_goSaid 46 = .ok (.goto (-20), 3) := dk_167 255 236 (dk_at dksX3_goSaid_2 0 rfl rfl)
theorem dX3_goSaid_49 : decode cX3_goSaid 49 = .ok (.aload_n 0, 1) := dk_42 (dk_at dksX3_goSaid_2 3 rfl rfl)
theorem dX3_goSaid_50 : decode cX3_goSaid 50 = .ok (.dup, 1) := dk_89 (dk_at dksX3_goSaid_2 4 rfl rfl)
theorem dX3_goSaid_51 : decode cX3_goSaid 51 = .ok (.getfield 386, 3) := dk_180 1 130 (dk_at dksX3_goSaid_2 5 rfl rfl)
theorem dX3_goSaid_54 : decode cX3_goSaid 54 = .ok (.iconst 1, 1) := dk_4 (dk_at dksX3_goSaid_2 8 rfl rfl)
theorem dX3_goSaid_55 : decode cX3_goSaid 55 = .ok (.iadd, 1) := dk_96 (dk_at dksX3_goSaid_2 9 rfl rfl)
theorem dX3_goSaid_56 : decode cX3_goSaid 56 = .ok (.putfield 386, 3) := dk_181 1 130 (dk_at dksX3_goSaid_2 10 rfl rfl)
theorem dX3_goSaid_59 : decode cX3_goSaid 59 = .ok (.iload_n 1, 1) := dk_27 (dk_at dksX3_goSaid_2 13 rfl rfl)
theorem dX3_goSaid_60 : decode cX3_goSaid 60 = .ok (.istore_n 3, 1) := dk_62 (dk_at dksX3_goSaid_2 14 rfl rfl)
theorem dX3_goSaid_61 : decode cX3_goSaid 61 = .ok (.iload_n 3, 1) := dk_29 (dk_at dksX3_goSaid_2 15 rfl rfl)
theorem dX3_goSaid_62 : decode cX3_goSaid 62 = .ok (.aload_n 0, 1) := dk_42 (dk_at dksX3_goSaid_2 16 rfl rfl)
theorem dX3_goSaid_63 : decode cX3_goSaid 63 = .ok (.getfield 120, 3) := dk_180 0 120 (dk_at dksX3_goSaid_2 17 rfl rfl)
theorem dX3_goSaid_66 : decode cX3_goSaid 66 = .ok (.if_icmp .ge 41, 3) := dk_162 0 41 (dk_at dksX3_goSaid_2 20 rfl rfl)
theorem dX3_goSaid_69 : decode cX3_goSaid 69 = .ok (.iload_n 2, 1) := dk_28 (dk_at dksX3_goSaid_2 23 rfl rfl)
theorem dX3_goSaid_70 : decode cX3_goSaid 70 = .ok (.iconst 4, 1) := dk_7 (dk_at dksX3_goSaid_3 0 rfl rfl)
theorem dX3_goSaid_71 : decode cX3_goSaid 71 = .ok (.if_icmp .ge 36, 3) := dk_162 0 36 (dk_at dksX3_goSaid_3 1 rfl rfl)
theorem dX3_goSaid_74 : decode cX3_goSaid 74 = .ok (.aload_n 0, 1) := dk_42 (dk_at dksX3_goSaid_3 4 rfl rfl)
theorem dX3_goSaid_75 : decode cX3_goSaid 75 = .ok (.getfield 91, 3) := dk_180 0 91 (dk_at dksX3_goSaid_3 5 rfl rfl)
theorem dX3_goSaid_78 : decode cX3_goSaid 78 = .ok (.iload_n 2, 1) := dk_28 (dk_at dksX3_goSaid_3 8 rfl rfl)
theorem dX3_goSaid_79 : decode cX3_goSaid 79 = .ok (.iload_n 3, 1) := dk_29 (dk_at dksX3_goSaid_3 9 rfl rfl)
theorem dX3_goSaid_80 : decode cX3_goSaid 80 = .ok (.iastore, 1) := dk_79 (dk_at dksX3_goSaid_3 10 rfl rfl)
theorem dX3_goSaid_81 : decode cX3_goSaid 81 = .ok (.aload_n 0, 1) := dk_42 (dk_at dksX3_goSaid_3 11 rfl rfl)
theorem dX3_goSaid_82 : decode cX3_goSaid 82 = .ok (.iload_n 3, 1) := dk_29 (dk_at dksX3_goSaid_3 12 rfl rfl)
theorem dX3_goSaid_83 : decode cX3_goSaid 83 = .ok (.iconst 1, 1) := dk_4 (dk_at dksX3_goSaid_3 13 rfl rfl)
theorem dX3_goSaid_84 : decode cX3_goSaid 84 = .ok (.invokevirtual 398, 3) := dk_182 1 142 (dk_at dksX3_goSaid_3 14 rfl rfl)
theorem dX3_goSaid_87 : decode cX3_goSaid 87 = .ok (.aload_n 0, 1) := dk_42 (dk_at dksX3_goSaid_3 17 rfl rfl)
theorem dX3_goSaid_88 : decode cX3_goSaid 88 = .ok (.iload_n 3, 1) := dk_29 (dk_at dksX3_goSaid_3 18 rfl rfl)
theorem dX3_goSaid_89 : decode cX3_goSaid 89 = .ok (.iload_n 2, 1) := dk_28 (dk_at dksX3_goSaid_3 19 rfl rfl)
theorem dX3_goSaid_90 : decode cX3_goSaid 90 = .ok (.iconst 1, 1) := dk_4 (dk_at dksX3_goSaid_3 20 rfl rfl)
theorem dX3_goSaid_91 : decode cX3_goSaid 91 = .ok (.iadd, 1) := dk_96 (dk_at dksX3_goSaid_3 21 rfl rfl)
theorem dX3_goSaid_92 : decode cX3_goSaid 92 = .ok (.invokevirtual 401, 3) := dk_182 1 145 (dk_at dksX3_goSaid_4 0 rfl rfl)
theorem dX3_goSaid_95 : decode cX3_goSaid 95 = .ok (.aload_n 0, 1) := dk_42 (dk_at dksX3_goSaid_4 3 rfl rfl)
theorem dX3_goSaid_96 : decode cX3_goSaid 96 = .ok (.iload_n 3, 1) := dk_29 (dk_at dksX3_goSaid_4 4 rfl rfl)
theorem dX3_goSaid_97 : decode cX3_goSaid 97 = .ok (.iconst (-1), 1) := dk_2 (dk_at dksX3_goSaid_4 5 rfl rfl)
theorem dX3_goSaid_98 : decode cX3_goSaid 98 = .ok (.invokevirtual 398, 3) := dk_182 1 142 (dk_at dksX3_goSaid_4 6 rfl rfl)
theorem dX3_goSaid_101 : decode cX3_goSaid 101 = .ok (.iinc 3 1, 3) := dk_132 3 1 (dk_at dksX3_goSaid_4 9 rfl rfl)
theorem dX3_goSaid_104 : decode cX3_goSaid 104 = .ok (.goto (-43), 3) := dk_167 255 213 (dk_at dksX3_goSaid_4 12 rfl rfl)
theorem dX3_goSaid_107 : decode cX3_goSaid 107 = .ok (.return_, 1) := dk_177 (dk_at dksX3_goSaid_4 15 rfl rfl)
def dkwX3_isAll_1 : List UInt8 := [153, 0, 5, 3, 172, 132, 3, 1, 167, 255, 236, 4, 172]
abbrev dktX3_isAll_1 : List UInt8 := dkwX3_isAll_1 ++ []
def dkwX3_isAll_0 : List UInt8 := [42, 180, 0, 88, 76, 43, 190, 61, 3, 62, 29, 28, 162, 0, 21, 43, 29, 46, 54, 4, 21, 4]
abbrev dktX3_isAll_0 : List UInt8 := dkwX3_isAll_0 ++ dktX3_isAll_1
theorem dksX3_isAll_0 : cX3_isAll.data.toList.drop 0 = dktX3_isAll_0 := by decide +kernel
theorem dksX3_isAll_1 : cX3_isAll.data.toList.drop 22 = dktX3_isAll_1 := dk_seg dksX3_isAll_0 22 rfl rfl
theorem dX3_isAll_0 : decode cX3_isAll 0 = .ok (.aload_n 0, 1) := dk_42 (dk_at dksX3_isAll_0 0 rfl rfl)
theorem dX3_isAll_1 : decode cX3_isAll 1 = .ok (.getfield 88, 3) := dk_180 0 88 (dk_at dksX3_isAll_0 1 rfl rfl)
theorem dX3_isAll_4 : decode cX3_isAll 4 = .ok (.astore_n 1, 1) := dk_76 (dk_at dksX3_isAll_0 4 rfl rfl)
theorem dX3_isAll_5 : decode cX3_isAll 5 = .ok (.aload_n 1, 1) := dk_43 (dk_at dksX3_isAll_0 5 rfl rfl)
theorem dX3_isAll_6 : decode cX3_isAll 6 = .ok (.arraylength, 1) := dk_190 (dk_at dksX3_isAll_0 6 rfl rfl)
theorem dX3_isAll_7 : decode cX3_isAll 7 = .ok (.istore_n 2, 1) := dk_61 (dk_at dksX3_isAll_0 7 rfl rfl)
theorem dX3_isAll_8 : decode cX3_isAll 8 = .ok (.iconst 0, 1) := dk_3 (dk_at dksX3_isAll_0 8 rfl rfl)
theorem dX3_isAll_9 : decode cX3_isAll 9 = .ok (.istore_n 3, 1) := dk_62 (dk_at dksX3_isAll_0 9 rfl rfl)
theorem dX3_isAll_10 : decode cX3_isAll 10 = .ok (.iload_n 3, 1) := dk_29 (dk_at dksX3_isAll_0 10 rfl rfl)
theorem dX3_isAll_11 : decode cX3_isAll 11 = .ok (.iload_n 2, 1) := dk_28 (dk_at dksX3_isAll_0 11 rfl rfl)
theorem dX3_isAll_12 : decode cX3_isAll 12 = .ok (.if_icmp .ge 21, 3) := dk_162 0 21 (dk_at dksX3_isAll_0 12 rfl rfl)
theorem dX3_isAll_15 : decode cX3_isAll 15 = .ok (.aload_n 1, 1) := dk_43 (dk_at dksX3_isAll_0 15 rfl rfl)
theorem dX3_isAll_16 : decode cX3_isAll 16 = .ok (.iload_n 3, 1) := dk_29 (dk_at dksX3_isAll_0 16 rfl rfl)
theorem dX3_isAll_17 : decode cX3_isAll 17 = .ok (.iaload, 1) := dk_46 (dk_at dksX3_isAll_0 17 rfl rfl)
theorem dX3_isAll_18 : decode cX3_isAll 18 = .ok (.istore 4, 2) := dk_54 4 (dk_at dksX3_isAll_0 18 rfl rfl)
theorem dX3_isAll_20 : decode cX3_isAll 20 = .ok (.iload 4, 2) := dk_21 4 (dk_at dksX3_isAll_0 20 rfl rfl)
theorem dX3_isAll_22 : decode cX3_isAll 22 = .ok (.ifCond .eq 5, 3) := dk_153 0 5 (dk_at dksX3_isAll_1 0 rfl rfl)
theorem dX3_isAll_25 : decode cX3_isAll 25 = .ok (.iconst 0, 1) := dk_3 (dk_at dksX3_isAll_1 3 rfl rfl)
theorem dX3_isAll_26 : decode cX3_isAll 26 = .ok (.ireturn, 1) := dk_172 (dk_at dksX3_isAll_1 4 rfl rfl)
theorem dX3_isAll_27 : decode cX3_isAll 27 = .ok (.iinc 3 1, 3) := dk_132 3 1 (dk_at dksX3_isAll_1 5 rfl rfl)
theorem dX3_isAll_30 : decode cX3_isAll 30 = .ok (.goto (-20), 3) := dk_167 255 236 (dk_at dksX3_isAll_1 8 rfl rfl)
theorem dX3_isAll_33 : decode cX3_isAll 33 = .ok (.iconst 1, 1) := dk_4 (dk_at dksX3_isAll_1 11 rfl rfl)
theorem dX3_isAll_34 : decode cX3_isAll 34 = .ok (.ireturn, 1) := dk_172 (dk_at dksX3_isAll_1 12 rfl rfl)
def dkwX3_isFirst_3 : List UInt8 := [162, 0, 7, 4, 167, 0, 4, 3, 172, 132, 2, 1, 167, 255, 212, 3, 172]
abbrev dktX3_isFirst_3 : List UInt8 := dkwX3_isFirst_3 ++ []
def dkwX3_isFirst_2 : List UInt8 := [46, 42, 180, 0, 94, 28, 46, 159, 0, 24, 42, 180, 0, 91, 28, 46, 42, 180, 0, 94, 28, 46]
abbrev dktX3_isFirst_2 : List UInt8 := dkwX3_isFirst_2 ++ dktX3_isFirst_3
def dkwX3_isFirst_1 : List UInt8 := [180, 1, 133, 162, 0, 7, 4, 167, 0, 4, 3, 172, 3, 61, 28, 27, 162, 0, 45, 42, 180, 0, 91, 28]
abbrev dktX3_isFirst_1 : List UInt8 := dkwX3_isFirst_1 ++ dktX3_isFirst_2
def dkwX3_isFirst_0 : List UInt8 := [42, 180, 1, 130, 153, 0, 11, 27, 42, 180, 1, 133, 159, 0, 24, 42, 180, 1, 130, 153, 0, 11, 27, 42]
abbrev dktX3_isFirst_0 : List UInt8 := dkwX3_isFirst_0 ++ dktX3_isFirst_1
theorem dksX3_isFirst_0 : cX3_isFirst.data.toList.drop 0 = dktX3_isFirst_0 := by decide +kernel
theorem dksX3_isFirst_1 : cX3_isFirst.data.toList.drop 24 = dktX3_isFirst_1 := dk_seg dksX3_isFirst_0 24 rfl rfl
theorem dksX3_isFirst_2 : cX3_isFirst.data.toList.drop 48 = dktX3_isFirst_2 := dk_seg dksX3_isFirst_1 24 rfl rfl
theorem dksX3_isFirst_3 : cX3_isFirst.data.toList.drop 70 = dktX3_isFirst_3 := dk_seg dksX3_isFirst_2 22 rfl rfl
theorem dX3_isFirst_0 : decode cX3_isFirst 0 = .ok (.aload_n 0, 1) := dk_42 (dk_at dksX3_isFirst_0 0 rfl rfl)
theorem dX3_isFirst_1 : decode cX3_isFirst 1 = .ok (.getfield 386, 3) := dk_180 1 130 (dk_at dksX3_isFirst_0 1 rfl rfl)
theorem dX3_isFirst_4 : decode cX3_isFirst 4 = .ok (.ifCond .eq 11, 3) := dk_153 0 11 (dk_at dksX3_isFirst_0 4 rfl rfl)
theorem dX3_isFirst_7 : decode cX3_isFirst 7 = .ok (.iload_n 1, 1) := dk_27 (dk_at dksX3_isFirst_0 7 rfl rfl)
theorem dX3_isFirst_8 : decode cX3_isFirst 8 = .ok (.aload_n 0, 1) := dk_42 (dk_at dksX3_isFirst_0 8 rfl rfl)
theorem dX3_isFirst_9 : decode cX3_isFirst 9 = .ok (.getfield 389, 3) := dk_180 1 133 (dk_at dksX3_isFirst_0 9 rfl rfl)
theorem dX3_isFirst_12 : decode cX3_isFirst 12 = .ok (.if_icmp .eq 24, 3) := dk_159 0 24 (dk_at dksX3_isFirst_0 12 rfl rfl)
theorem dX3_isFirst_15 : decode cX3_isFirst 15 = .ok (.aload_n 0, 1) := dk_42 (dk_at dksX3_isFirst_0 15 rfl rfl)
theorem dX3_isFirst_16 : decode cX3_isFirst 16 = .ok (.getfield 386, 3) := dk_180 1 130 (dk_at dksX3_isFirst_0 16 rfl rfl)
theorem dX3_isFirst_19 : decode cX3_isFirst 19 = .ok (.ifCond .eq 11, 3) := dk_153 0 11 (dk_at dksX3_isFirst_0 19 rfl rfl)
theorem dX3_isFirst_22 : decode cX3_isFirst 22 = .ok (.iload_n 1, 1) := dk_27 (dk_at dksX3_isFirst_0 22 rfl rfl)
theorem dX3_isFirst_23 : decode cX3_isFirst 23 = .ok (.aload_n 0, 1) := dk_42 (dk_at dksX3_isFirst_0 23 rfl rfl)
theorem dX3_isFirst_24 : decode cX3_isFirst 24 = .ok (.getfield 389, 3) := dk_180 1 133 (dk_at dksX3_isFirst_1 0 rfl rfl)
theorem dX3_isFirst_27 : decode cX3_isFirst 27 = .ok (.if_icmp .ge 7, 3) := dk_162 0 7 (dk_at dksX3_isFirst_1 3 rfl rfl)
theorem dX3_isFirst_30 : decode cX3_isFirst 30 = .ok (.iconst 1, 1) := dk_4 (dk_at dksX3_isFirst_1 6 rfl rfl)
theorem dX3_isFirst_31 : decode cX3_isFirst 31 = .ok (.goto 4, 3) := dk_167 0 4 (dk_at dksX3_isFirst_1 7 rfl rfl)
theorem dX3_isFirst_34 : decode cX3_isFirst 34 = .ok (.iconst 0, 1) := dk_3 (dk_at dksX3_isFirst_1 10 rfl rfl)
theorem dX3_isFirst_35 : decode cX3_isFirst 35 = .ok (.ireturn, 1) := dk_172 (dk_at dksX3_isFirst_1 11 rfl rfl)
theorem dX3_isFirst_36 : decode cX3_isFirst 36 = .ok (.iconst 0, 1) := dk_3 (dk_at dksX3_isFirst_1 12 rfl rfl)
theorem dX3_isFirst_37 : decode cX3_isFirst 37 = .ok (.istore_n 2, 1) := dk_61 (dk_at dksX3_isFirst_1 13 rfl rfl)
theorem dX3_isFirst_38 : decode cX3_isFirst 38 = .ok (.iload_n 2, 1) := dk_28 (dk_at dksX3_isFirst_1 14 rfl rfl)
theorem dX3_isFirst_39 : decode cX3_isFirst 39 = .ok (.iload_n 1, 1) := dk_27 (dk_at dksX3_isFirst_1 15 rfl rfl)
theorem dX3_isFirst_40 : decode cX3_isFirst 40 = .ok (.if_icmp .ge 45, 3) := dk_162 0 45 (dk_at dksX3_isFirst_1 16 rfl rfl)
theorem dX3_isFirst_43 : decode cX3_isFirst 43 = .ok (.aload_n 0, 1) := dk_42 (dk_at dksX3_isFirst_1 19 rfl rfl)
theorem dX3_isFirst_44 : decode cX3_isFirst 44 = .ok (.getfield 91, 3) := dk_180 0 91 (dk_at dksX3_isFirst_1 20 rfl rfl)
theorem dX3_isFirst_47 : decode cX3_isFirst 47 = .ok (.iload_n 2, 1) := dk_28 (dk_at dksX3_isFirst_1 23 rfl rfl)
theorem dX3_isFirst_48 : decode cX3_isFirst 48 = .ok (.iaload, 1) := dk_46 (dk_at dksX3_isFirst_2 0 rfl rfl)
theorem dX3_isFirst_49 : decode cX3_isFirst 49 = .ok (.aload_n 0, 1) := dk_42 (dk_at dksX3_isFirst_2 1 rfl rfl)
theorem dX3_isFirst_50 : decode cX3_isFirst 50 = .ok (.getfield 94, 3) := dk_180 0 94 (dk_at dksX3_isFirst_2 2 rfl rfl)
theorem dX3_isFirst_53 : decode cX3_isFirst 53 = .ok (.iload_n 2, 1) := dk_28 (dk_at dksX3_isFirst_2 5 rfl rfl)
theorem dX3_isFirst_54 : decode cX3_isFirst 54 = .ok (.iaload, 1) := dk_46 (dk_at dksX3_isFirst_2 6 rfl rfl)
theorem dX3_isFirst_55 : decode cX3_isFirst 55 = .ok (.if_icmp .eq 24, 3) := dk_159 0 24 (dk_at dksX3_isFirst_2 7 rfl rfl)
theorem dX3_isFirst_58 : decode cX3_isFirst 58 = .ok (.aload_n 0, 1) := dk_42 (dk_at dksX3_isFirst_2 10 rfl rfl)
theorem dX3_isFirst_59 : decode cX3_isFirst 59 = .ok (.getfield 91, 3) := dk_180 0 91 (dk_at dksX3_isFirst_2 11 rfl rfl)
theorem dX3_isFirst_62 : decode cX3_isFirst 62 = .ok (.iload_n 2, 1) := dk_28 (dk_at dksX3_isFirst_2 14 rfl rfl)
theorem dX3_isFirst_63 : decode cX3_isFirst 63 = .ok (.iaload, 1) := dk_46 (dk_at dksX3_isFirst_2 15 rfl rfl)
theorem dX3_isFirst_64 : decode cX3_isFirst 64 = .ok (.aload_n 0, 1) := dk_42 (dk_at dksX3_isFirst_2 16 rfl rfl)
theorem dX3_isFirst_65 : decode cX3_isFirst 65 = .ok (.getfield 94, 3) := dk_180 0 94 (dk_at dksX3_isFirst_2 17 rfl rfl)
theorem dX3_isFirst_68 : decode cX3_isFirst 68 = .ok (.iload_n 2, 1) := dk_28 (dk_at dksX3_isFirst_2 20 rfl rfl)
theorem dX3_isFirst_69 : decode cX3_isFirst 69 = .ok (.iaload, 1) := dk_46 (dk_at dksX3_isFirst_2 21 rfl rfl)
theorem dX3_isFirst_70 : decode cX3_isFirst 70 = .ok (.if_icmp .ge 7, 3) := dk_162 0 7 (dk_at dksX3_isFirst_3 0 rfl rfl)
theorem dX3_isFirst_73 : decode cX3_isFirst 73 = .ok (.iconst 1, 1) := dk_4 (dk_at dksX3_isFirst_3 3 rfl rfl)
theorem dX3_isFirst_74 : decode cX3_isFirst 74 = .ok (.goto 4, 3) := dk_167 0 4 (dk_at dksX3_isFirst_3 4 rfl rfl)
theorem dX3_isFirst_77 : decode cX3_isFirst 77 = .ok (.iconst 0, 1) := dk_3 (dk_at dksX3_isFirst_3 7 rfl rfl)
theorem dX3_isFirst_78 : decode cX3_isFirst 78 = .ok (.ireturn, 1) := dk_172 (dk_at dksX3_isFirst_3 8 rfl rfl)
theorem dX3_isFirst_79 : decode cX3_isFirst 79 = .ok (.iinc 2 1, 3) := dk_132 2 1 (dk_at dksX3_isFirst_3 9 rfl rfl)
theorem dX3_isFirst_82 : decode cX3_isFirst 82 = .ok (.goto (-44), 3) := dk_167 255 212 (dk_at dksX3_isFirst_3 12 rfl rfl)
theorem dX3_isFirst_85 : decode cX3_isFirst 85 = .ok (.iconst 0, 1) := dk_3 (dk_at dksX3_isFirst_3 15 rfl rfl)
theorem dX3_isFirst_86 : decode cX3_isFirst 86 = .ok (.ireturn, 1) := dk_172 (dk_at dksX3_isFirst_3 16 rfl rfl)
def dkwX3_take_1 : List UInt8 := [132, 3, 1, 167, 255, 231, 177]
abbrev dktX3_take_1 : List UInt8 := dkwX3_take_1 ++ []
def dkwX3_take_0 : List UInt8 := [3, 62, 29, 8, 162, 0, 26, 42, 180, 0, 88, 29, 92, 46, 28, 42, 27, 29, 182, 0, 238, 104, 100, 79]
abbrev dktX3_take_0 : List UInt8 := dkwX3_take_0 ++ dktX3_take_1
theorem dksX3_take_0 : cX3_take.data.toList.drop 0 = dktX3_take_0 := by decide +kernel
theorem dksX3_take_1 : cX3_take.data.toList.drop 24 = dktX3_take_1 := dk_seg dksX3_take_0 24 rfl rfl
theorem dX3_take_0 : decode cX3_take 0 = .ok (.iconst 0, 1) := dk_3 (dk_at dksX3_take_0 0 rfl rfl)
theorem dX3_take_1 : decode cX3_take 1 = .ok (.istore_n 3, 1) := dk_62 (dk_at dksX3_take_0 1 rfl rfl)
theorem dX3_take_2 : decode cX3_take 2 = .ok (.iload_n 3, 1) := dk_29 (dk_at dksX3_take_0 2 rfl rfl)
theorem dX3_take_3 : decode cX3_take 3 = .ok (.iconst 5, 1) := dk_8 (dk_at dksX3_take_0 3 rfl rfl)
theorem dX3_take_4 : decode cX3_take 4 = .ok (.if_icmp .ge 26, 3) := dk_162 0 26 (dk_at dksX3_take_0 4 rfl rfl)
theorem dX3_take_7 : decode cX3_take 7 = .ok (.aload_n 0, 1) := dk_42 (dk_at dksX3_take_0 7 rfl rfl)
theorem dX3_take_8 : decode cX3_take 8 = .ok (.getfield 88, 3) := dk_180 0 88 (dk_at dksX3_take_0 8 rfl rfl)
theorem dX3_take_11 : decode cX3_take 11 = .ok (.iload_n 3, 1) := dk_29 (dk_at dksX3_take_0 11 rfl rfl)
theorem dX3_take_12 : decode cX3_take 12 = .ok (.dup2, 1) := dk_92 (dk_at dksX3_take_0 12 rfl rfl)
theorem dX3_take_13 : decode cX3_take 13 = .ok (.iaload, 1) := dk_46 (dk_at dksX3_take_0 13 rfl rfl)
theorem dX3_take_14 : decode cX3_take 14 = .ok (.iload_n 2, 1) := dk_28 (dk_at dksX3_take_0 14 rfl rfl)
theorem dX3_take_15 : decode cX3_take 15 = .ok (.aload_n 0, 1) := dk_42 (dk_at dksX3_take_0 15 rfl rfl)
theorem dX3_take_16 : decode cX3_take 16 = .ok (.iload_n 1, 1) := dk_27 (dk_at dksX3_take_0 16 rfl rfl)
theorem dX3_take_17 : decode cX3_take 17 = .ok (.iload_n 3, 1) := dk_29 (dk_at dksX3_take_0 17 rfl rfl)
theorem dX3_take_18 : decode cX3_take 18 = .ok (.invokevirtual 238, 3) := dk_182 0 238 (dk_at dksX3_take_0 18 rfl rfl)
theorem dX3_take_21 : decode cX3_take 21 = .ok (.imul, 1) := dk_104 (dk_at dksX3_take_0 21 rfl rfl)
theorem dX3_take_22 : decode cX3_take 22 = .ok (.isub, 1) := dk_100 (dk_at dksX3_take_0 22 rfl rfl)
theorem dX3_take_23 : decode cX3_take 23 = .ok (.iastore, 1) := dk_79 (dk_at dksX3_take_0 23 rfl rfl)
theorem dX3_take_24 : decode cX3_take 24 = .ok (.iinc 3 1, 3) := dk_132 3 1 (dk_at dksX3_take_1 0 rfl rfl)
theorem dX3_take_27 : decode cX3_take 27 = .ok (.goto (-25), 3) := dk_167 255 231 (dk_at dksX3_take_1 3 rfl rfl)
theorem dX3_take_30 : decode cX3_take 30 = .ok (.return_, 1) := dk_177 (dk_at dksX3_take_1 6 rfl rfl)
def dkwX3_ask_5 : List UInt8 := [167, 255, 163, 42, 3, 181, 0, 113, 42, 28, 133, 182, 1, 18, 27, 172]
abbrev dktX3_ask_5 : List UInt8 := dkwX3_ask_5 ++ []
def dkwX3_ask_4 : List UInt8 := [132, 5, 1, 167, 255, 194, 21, 4, 28, 161, 0, 6, 167, 0, 8, 29, 60, 21, 4, 61, 132, 3, 1]
abbrev dktX3_ask_4 : List UInt8 := dkwX3_ask_4 ++ dktX3_ask_5
def dkwX3_ask_3 : List UInt8 := [167, 0, 4, 3, 96, 54, 6, 132, 7, 1, 167, 255, 222, 21, 4, 21, 6, 184, 0, 231, 54, 4]
abbrev dktX3_ask_3 : List UInt8 := dkwX3_ask_3 ++ dktX3_ask_4
def dkwX3_ask_2 : List UInt8 := [21, 7, 42, 180, 0, 120, 162, 0, 31, 21, 6, 42, 21, 7, 29, 182, 0, 238, 21, 5, 160, 0, 7, 4]
abbrev dktX3_ask_2 : List UInt8 := dkwX3_ask_2 ++ dktX3_ask_3
def dkwX3_ask_1 : List UInt8 := [8, 162, 0, 94, 3, 54, 4, 3, 54, 5, 21, 5, 16, 6, 163, 0, 61, 3, 54, 6, 3, 54, 7]
abbrev dktX3_ask_1 : List UInt8 := dkwX3_ask_1 ++ dktX3_ask_2
def dkwX3_ask_0 : List UInt8 := [42, 3, 181, 0, 110, 42, 180, 0, 120, 154, 0, 6, 16, 254, 172, 2, 60, 19, 1, 63, 61, 3, 62, 29]
abbrev dktX3_ask_0 : List UInt8 := dkwX3_ask_0 ++ dktX3_ask_1
theorem dksX3_ask_0 : cX3_ask.data.toList.drop 0 = dktX3_ask_0 := by decide +kernel
theorem dksX3_ask_1 : cX3_ask.data.toList.drop 24 = dktX3_ask_1 := dk_seg dksX3_ask_0 24 rfl rfl
theorem dksX3_ask_2 : cX3_ask.data.toList.drop 47 = dktX3_ask_2 := dk_seg dksX3_ask_1 23 rfl rfl
theorem dksX3_ask_3 : cX3_ask.data.toList.drop 71 = dktX3_ask_3 := dk_seg dksX3_ask_2 24 rfl rfl
theorem dksX3_ask_4 : cX3_ask.data.toList.drop 93 = dktX3_ask_4 := dk_seg dksX3_ask_3 22 rfl rfl
theorem dksX3_ask_5 : cX3_ask.data.toList.drop 116 = dktX3_ask_5 := dk_seg dksX3_ask_4 23 rfl rfl
theorem dX3_ask_0 : decode cX3_ask 0 = .ok (.aload_n 0, 1) := dk_42 (dk_at dksX3_ask_0 0 rfl rfl)
theorem dX3_ask_1 : decode cX3_ask 1 = .ok (.iconst 0, 1) := dk_3 (dk_at dksX3_ask_0 1 rfl rfl)
theorem dX3_ask_2 : decode cX3_ask 2 = .ok (.putfield 110, 3) := dk_181 0 110 (dk_at dksX3_ask_0 2 rfl rfl)
theorem dX3_ask_5 : decode cX3_ask 5 = .ok (.aload_n 0, 1) := dk_42 (dk_at dksX3_ask_0 5 rfl rfl)
theorem dX3_ask_6 : decode cX3_ask 6 = .ok (.getfield 120, 3) := dk_180 0 120 (dk_at dksX3_ask_0 6 rfl rfl)
theorem dX3_ask_9 : decode cX3_ask 9 = .ok (.ifCond .ne 6, 3) := dk_154 0 6 (dk_at dksX3_ask_0 9 rfl rfl)
theorem dX3_ask_12 : decode cX3_ask 12 = .ok (.bipush (-2), 2) := dk_16 254 (dk_at dksX3_ask_0 12 rfl rfl)
theorem dX3_ask_14 : decode cX3_ask 14 = .ok (.ireturn, 1) := dk_172 (dk_at dksX3_ask_0 14 rfl rfl)
theorem dX3_ask_15 : decode cX3_ask 15 = .ok (.iconst (-1), 1) := dk_2 (dk_at dksX3_ask_0 15 rfl rfl)
theorem dX3_ask_16 : decode cX3_ask 16 = .ok (.istore_n 1, 1) := dk_60 (dk_at dksX3_ask_0 16 rfl rfl)
theorem dX3_ask_17 : decode cX3_ask 17 = .ok (.ldc_w 319, 3) := dk_19 1 63 (dk_at dksX3_ask_0 17 rfl rfl)
theorem dX3_ask_20 : decode cX3_ask 20 = .ok (.istore_n 2, 1) := dk_61 (dk_at dksX3_ask_0 20 rfl rfl)
theorem dX3_ask_21 : decode cX3_ask 21 = .ok (.iconst 0, 1) := dk_3 (dk_at dksX3_ask_0 21 rfl rfl)
theorem dX3_ask_22 : decode cX3_ask 22 = .ok (.istore_n 3, 1) := dk_62 (dk_at dksX3_ask_0 22 rfl rfl)
theorem dX3_ask_23 : decode cX3_ask 23 = .ok (.iload_n 3, 1) := dk_29 (dk_at dksX3_ask_0 23 rfl rfl)
theorem dX3_ask_24 : decode cX3_ask 24 = .ok (.iconst 5, 1) := dk_8 (dk_at dksX3_ask_1 0 rfl rfl)
theorem dX3_ask_25 : decode cX3_ask 25 = .ok (.if_icmp .ge 94, 3) := dk_162 0 94 (dk_at dksX3_ask_1 1 rfl rfl)
theorem dX3_ask_28 : decode cX3_ask 28 = .ok (.iconst 0, 1) := dk_3 (dk_at dksX3_ask_1 4 rfl rfl)
theorem dX3_ask_29 : decode cX3_ask 29 = .ok (.istore 4, 2) := dk_54 4 (dk_at dksX3_ask_1 5 rfl rfl)
theorem dX3_ask_31 : decode cX3_ask 31 = .ok (.iconst 0, 1) := dk_3 (dk_at dksX3_ask_1 7 rfl rfl)
theorem dX3_ask_32 : decode cX3_ask 32 = .ok (.istore 5, 2) := dk_54 5 (dk_at dksX3_ask_1 8 rfl rfl)
theorem dX3_ask_34 : decode cX3_ask 34 = .ok (.iload 5, 2) := dk_21 5 (dk_at dksX3_ask_1 10 rfl rfl)
theorem dX3_ask_36 : decode cX3_ask 36 = .ok (.bipush 6, 2) := dk_16 6 (dk_at dksX3_ask_1 12 rfl rfl)
theorem dX3_ask_38 : decode cX3_ask 38 = .ok (.if_icmp .gt 61, 3) := dk_163 0 61 (dk_at dksX3_ask_1 14 rfl rfl)
theorem dX3_ask_41 : decode cX3_ask 41 = .ok (.iconst 0, 1) := dk_3 (dk_at dksX3_ask_1 17 rfl rfl)
theorem dX3_ask_42 : decode cX3_ask 42 = .ok (.istore 6, 2) := dk_54 6 (dk_at dksX3_ask_1 18 rfl rfl)
theorem dX3_ask_44 : decode cX3_ask 44 = .ok (.iconst 0, 1) := dk_3 (dk_at dksX3_ask_1 20 rfl rfl)
theorem dX3_ask_45 : decode cX3_ask 45 = .ok (.istore 7, 2) := dk_54 7 (dk_at dksX3_ask_1 21 rfl rfl)
theorem dX3_ask_47 : decode cX3_ask 47 = .ok (.iload 7, 2) := dk_21 7 (dk_at dksX3_ask_2 0 rfl rfl)
theorem dX3_ask_49 : decode cX3_ask 49 = .ok (.aload_n 0, 1) := dk_42 (dk_at dksX3_ask_2 2 rfl rfl)
theorem dX3_ask_50 : decode cX3_ask 50 = .ok (.getfield 120, 3) := dk_180 0 120 (dk_at dksX3_ask_2 3 rfl rfl)
theorem dX3_ask_53 : decode cX3_ask 53 = .ok (.if_icmp .ge 31, 3) := dk_162 0 31 (dk_at dksX3_ask_2 6 rfl rfl)
theorem dX3_ask_56 : decode cX3_ask 56 = .ok (.iload 6, 2) := dk_21 6 (dk_at dksX3_ask_2 9 rfl rfl)
theorem dX3_ask_58 : decode cX3_ask 58 = .ok (.aload_n 0, 1) := dk_42 (dk_at dksX3_ask_2 11 rfl rfl)
theorem dX3_ask_59 : decode cX3_ask 59 = .ok (.iload 7, 2) := dk_21 7 (dk_at dksX3_ask_2 12 rfl rfl)
theorem dX3_ask_61 : decode cX3_ask 61 = .ok (.iload_n 3, 1) := dk_29 (dk_at dksX3_ask_2 14 rfl rfl)
theorem dX3_ask_62 : decode cX3_ask 62 = .ok (.invokevirtual 238, 3) := dk_182 0 238 (dk_at dksX3_ask_2 15 rfl rfl)
theorem dX3_ask_65 : decode cX3_ask 65 = .ok (.iload 5, 2) := dk_21 5 (dk_at dksX3_ask_2 18 rfl rfl)
theorem dX3_ask_67 : decode cX3_ask 67 = .ok (.if_icmp .ne 7, 3) := dk_160 0 7 (dk_at dksX3_ask_2 20 rfl rfl)
theorem dX3_ask_70 : decode cX3_ask 70 = .ok (.iconst 1, 1) := dk_4 (dk_at dksX3_ask_2 23 rfl rfl)
theorem dX3_ask_71 : decode cX3_ask 71 = .ok (.goto 4, 3) := dk_167 0 4 (dk_at dksX3_ask_3 0 rfl rfl)
theorem dX3_ask_74 : decode cX3_ask 74 = .ok (.iconst 0, 1) := dk_3 (dk_at dksX3_ask_3 3 rfl rfl)
theorem dX3_ask_75 : decode cX3_ask 75 = .ok (.iadd, 1) := dk_96 (dk_at dksX3_ask_3 4 rfl rfl)
theorem dX3_ask_76 : decode cX3_ask 76 = .ok (.istore 6, 2) := dk_54 6 (dk_at dksX3_ask_3 5 rfl rfl)
theorem dX3_ask_78 : decode cX3_ask 78 = .ok (.iinc 7 1, 3) := dk_132 7 1 (dk_at dksX3_ask_3 7 rfl rfl)
theorem dX3_ask_81 : decode cX3_ask 81 = .ok (.goto (-34), 3) := dk_167 255 222 (dk_at dksX3_ask_3 10 rfl rfl)
theorem dX3_ask_84 : decode cX3_ask 84 = .ok (.iload 4, 2) := dk_21 4 (dk_at dksX3_ask_3 13 rfl rfl)
theorem dX3_ask_86 : decode cX3_ask 86 = .ok (.iload 6, 2) := dk_21 6 (dk_at dksX3_ask_3 15 rfl rfl)
theorem dX3_ask_88 : decode cX3_ask 88 = .ok (.invokestatic 231, 3) := dk_184 0 231 (dk_at dksX3_ask_3 17 rfl rfl)
theorem dX3_ask_91 : decode cX3_ask 91 = .ok (.istore 4, 2) := dk_54 4 (dk_at dksX3_ask_3 20 rfl rfl)
theorem dX3_ask_93 : decode cX3_ask 93 = .ok (.iinc 5 1, 3) := dk_132 5 1 (dk_at dksX3_ask_4 0 rfl rfl)
theorem dX3_ask_96 : decode cX3_ask 96 = .ok (.goto (-62), 3) := dk_167 255 194 (dk_at dksX3_ask_4 3 rfl rfl)
theorem dX3_ask_99 : decode cX3_ask 99 = .ok (.iload 4, 2) := dk_21 4 (dk_at dksX3_ask_4 6 rfl rfl)
theorem dX3_ask_101 : decode cX3_ask 101 = .ok (.iload_n 2, 1) := dk_28 (dk_at dksX3_ask_4 8 rfl rfl)
theorem dX3_ask_102 : decode cX3_ask 102 = .ok (.if_icmp .lt 6, 3) := dk_161 0 6 (dk_at dksX3_ask_4 9 rfl rfl)
theorem dX3_ask_105 : decode cX3_ask 105 = .ok (.goto 8, 3) := dk_167 0 8 (dk_at dksX3_ask_4 12 rfl rfl)
theorem dX3_ask_108 : decode cX3_ask 108 = .ok (.iload_n 3, 1) := dk_29 (dk_at dksX3_ask_4 15 rfl rfl)
theorem dX3_ask_109 : decode cX3_ask 109 = .ok (.istore_n 1, 1) := dk_60 (dk_at dksX3_ask_4 16 rfl rfl)
theorem dX3_ask_110 : decode cX3_ask 110 = .ok (.iload 4, 2) := dk_21 4 (dk_at dksX3_ask_4 17 rfl rfl)
theorem dX3_ask_112 : decode cX3_ask 112 = .ok (.istore_n 2, 1) := dk_61 (dk_at dksX3_ask_4 19 rfl rfl)
theorem dX3_ask_113 : decode cX3_ask 113 = .ok (.iinc 3 1, 3) := dk_132 3 1 (dk_at dksX3_ask_4 20 rfl rfl)
theorem dX3_ask_116 : decode cX3_ask 116 = .ok (.goto (-93), 3) := dk_167 255 163 (dk_at dksX3_ask_5 0 rfl rfl)
theorem dX3_ask_119 : decode cX3_ask 119 = .ok (.aload_n 0, 1) := dk_42 (dk_at dksX3_ask_5 3 rfl rfl)
theorem dX3_ask_120 : decode cX3_ask 120 = .ok (.iconst 0, 1) := dk_3 (dk_at dksX3_ask_5 4 rfl rfl)
theorem dX3_ask_121 : decode cX3_ask 121 = .ok (.putfield 113, 3) := dk_181 0 113 (dk_at dksX3_ask_5 5 rfl rfl)
theorem dX3_ask_124 : decode cX3_ask 124 = .ok (.aload_n 0, 1) := dk_42 (dk_at dksX3_ask_5 8 rfl rfl)
theorem dX3_ask_125 : decode cX3_ask 125 = .ok (.iload_n 2, 1) := dk_28 (dk_at dksX3_ask_5 9 rfl rfl)
theorem dX3_ask_126 : decode cX3_ask 126 = .ok (.i2l, 1) := dk_133 (dk_at dksX3_ask_5 10 rfl rfl)
theorem dX3_ask_127 : decode cX3_ask 127 = .ok (.invokevirtual 274, 3) := dk_182 1 18 (dk_at dksX3_ask_5 11 rfl rfl)
theorem dX3_ask_130 : decode cX3_ask 130 = .ok (.iload_n 1, 1) := dk_27 (dk_at dksX3_ask_5 14 rfl rfl)
theorem dX3_ask_131 : decode cX3_ask 131 = .ok (.ireturn, 1) := dk_172 (dk_at dksX3_ask_5 15 rfl rfl)
def dkwX3_years_11 : List UInt8 := [180, 0, 9, 16, 13, 46, 184, 1, 91, 100, 172]
abbrev dktX3_years_11 : List UInt8 := dkwX3_years_11 ++ []
def dkwX3_years_10 : List UInt8 := [133, 182, 1, 18, 42, 21, 4, 133, 182, 1, 18, 42, 180, 0, 97, 16, 13, 46, 184, 1, 91, 42]
abbrev dktX3_years_10 : List UInt8 := dkwX3_years_10 ++ dktX3_years_11
def dkwX3_years_9 : List UInt8 := [42, 180, 0, 97, 16, 12, 21, 8, 4, 96, 79, 132, 5, 1, 167, 255, 91, 42, 3, 181, 0, 113, 42, 29]
abbrev dktX3_years_9 : List UInt8 := dkwX3_years_9 ++ dktX3_years_10
def dkwX3_years_8 : List UInt8 := [21, 6, 21, 10, 182, 1, 42, 96, 62, 21, 4, 21, 9, 153, 0, 7, 3, 167, 0, 4, 4, 96, 54, 4]
abbrev dktX3_years_8 : List UInt8 := dkwX3_years_8 ++ dktX3_years_9
def dkwX3_years_7 : List UInt8 := [182, 1, 39, 154, 0, 7, 4, 167, 0, 4, 3, 54, 9, 21, 9, 153, 0, 18, 29, 42, 42, 180, 0, 97]
abbrev dktX3_years_7 : List UInt8 := dkwX3_years_7 ++ dktX3_years_8
def dkwX3_years_6 : List UInt8 := [167, 0, 55, 42, 42, 180, 0, 120, 182, 1, 152, 54, 10, 42, 42, 180, 0, 97, 21, 6, 21, 10]
abbrev dktX3_years_6 : List UInt8 := dkwX3_years_6 ++ dktX3_years_7
def dkwX3_years_5 : List UInt8 := [3, 54, 9, 21, 9, 153, 0, 72, 42, 180, 0, 97, 21, 6, 4, 21, 7, 100, 184, 1, 30, 87]
abbrev dktX3_years_5 : List UInt8 := dkwX3_years_5 ++ dktX3_years_6
def dkwX3_years_4 : List UInt8 := [162, 0, 49, 42, 42, 180, 0, 97, 21, 6, 4, 21, 7, 100, 182, 1, 22, 154, 0, 7, 4, 167, 0, 4]
abbrev dktX3_years_4 : List UInt8 := dkwX3_years_4 ++ dktX3_years_5
def dkwX3_years_3 : List UInt8 := [182, 1, 152, 54, 6, 42, 7, 182, 1, 152, 54, 7, 42, 180, 0, 97, 16, 12, 46, 54, 8, 21, 7, 5]
abbrev dktX3_years_3 : List UInt8 := dkwX3_years_3 ++ dktX3_years_4
def dkwX3_years_2 : List UInt8 := [42, 180, 0, 97, 3, 184, 1, 11, 3, 54, 5, 21, 5, 28, 162, 0, 165, 42, 42, 180, 0, 123]
abbrev dktX3_years_2 : List UInt8 := dkwX3_years_2 ++ dktX3_years_3
def dkwX3_years_1 : List UInt8 := [16, 60, 184, 0, 116, 154, 0, 5, 2, 172, 42, 27, 181, 1, 148, 3, 62, 3, 54, 4, 42, 180, 0, 9]
abbrev dktX3_years_1 : List UInt8 := dkwX3_years_1 ++ dktX3_years_2
def dkwX3_years_0 : List UInt8 := [42, 3, 181, 0, 110, 42, 180, 0, 123, 153, 0, 10, 42, 180, 0, 120, 154, 0, 6, 16, 254, 172, 28, 4]
abbrev dktX3_years_0 : List UInt8 := dkwX3_years_0 ++ dktX3_years_1
theorem dksX3_years_0 : cX3_years.data.toList.drop 0 = dktX3_years_0 := by decide +kernel
theorem dksX3_years_1 : cX3_years.data.toList.drop 24 = dktX3_years_1 := dk_seg dksX3_years_0 24 rfl rfl
theorem dksX3_years_2 : cX3_years.data.toList.drop 48 = dktX3_years_2 := dk_seg dksX3_years_1 24 rfl rfl
theorem dksX3_years_3 : cX3_years.data.toList.drop 70 = dktX3_years_3 := dk_seg dksX3_years_2 22 rfl rfl
theorem dksX3_years_4 : cX3_years.data.toList.drop 94 = dktX3_years_4 := dk_seg dksX3_years_3 24 rfl rfl
theorem dksX3_years_5 : cX3_years.data.toList.drop 118 = dktX3_years_5 := dk_seg dksX3_years_4 24 rfl rfl
theorem dksX3_years_6 : cX3_years.data.toList.drop 140 = dktX3_years_6 := dk_seg dksX3_years_5 22 rfl rfl
theorem dksX3_years_7 : cX3_years.data.toList.drop 162 = dktX3_years_7 := dk_seg dksX3_years_6 22 rfl rfl
theorem dksX3_years_8 : cX3_years.data.toList.drop 186 = dktX3_years_8 := dk_seg dksX3_years_7 24 rfl rfl
theorem dksX3_years_9 : cX3_years.data.toList.drop 210 = dktX3_years_9 := dk_seg dksX3_years_8 24 rfl rfl
theorem dksX3_years_10 : cX3_years.data.toList.drop 234 = dktX3_years_10 := dk_seg dksX3_years_9 24 rfl rfl
theorem dksX3_years_11 : cX3_years.data.toList.drop 256 = dktX3_years_11 := dk_seg dksX3_years_10 22 rfl rfl
theorem dX3_years_0 : decode cX3_years 0 = .ok (.aload_n 0, 1) := dk_42 (dk_at dksX3_years_0 0 rfl rfl)
theorem dX3_years_1 : decode cX3_years 1 = .ok (.iconst 0, 1) := dk_3 (dk_at dksX3_years_0 1 rfl rfl)
theorem dX3_years_2 : decode cX3_years 2 = .ok (.putfield 110, 3) := dk_181 0 110 (dk_at dksX3_years_0 2 rfl rfl)
theorem dX3_years_5 : decode cX3_years 5 = .ok (.aload_n 0, 1) := dk_42 (dk_at dksX3_years_0 5 rfl rfl)
theorem dX3_years_6 : decode cX3_years 6 = .ok (.getfield 123, 3) := dk_180 0 123 (dk_at dksX3_years_0 6 rfl rfl)
theorem dX3_years_9 : decode cX3_years 9 = .ok (.ifCond .eq 10, 3) := dk_153 0 10 (dk_at dksX3_years_0 9 rfl rfl)
theorem dX3_years_12 : decode cX3_years 12 = .ok (.aload_n 0, 1) := dk_42 (dk_at dksX3_years_0 12 rfl rfl)
theorem dX3_years_13 : decode cX3_years 13 = .ok (.getfield 120, 3) := dk_180 0 120 (dk_at dksX3_years_0 13 rfl rfl)
theorem dX3_years_16 : decode cX3_years 16 = .ok (.ifCond .ne 6, 3) := dk_154 0 6 (dk_at dksX3_years_0 16 rfl rfl)
theorem dX3_years_19 : decode cX3_years 19 = .ok (.bipush (-2), 2) := dk_16 254 (dk_at dksX3_years_0 19 rfl rfl)
theorem dX3_years_21 : decode cX3_years 21 = .ok (.ireturn, 1) := dk_172 (dk_at dksX3_years_0 21 rfl rfl)
theorem dX3_years_22 : decode cX3_years 22 = .ok (.iload_n 2, 1) := dk_28 (dk_at dksX3_years_0 22 rfl rfl)
theorem dX3_years_23 : decode cX3_years 23 = .ok (.iconst 1, 1) := dk_4 (dk_at dksX3_years_0 23 rfl rfl)
theorem dX3_years_24 : decode cX3_years 24 = .ok (.bipush 60, 2) := dk_16 60 (dk_at dksX3_years_1 0 rfl rfl)
theorem dX3_years_26 : decode cX3_years 26 = .ok (.invokestatic 116, 3) := dk_184 0 116 (dk_at dksX3_years_1 2 rfl rfl)
theorem dX3_years_29 : decode cX3_years 29 = .ok (.ifCond .ne 5, 3) := dk_154 0 5 (dk_at dksX3_years_1 5 rfl rfl)
theorem dX3_years_32 : decode cX3_years 32 = .ok (.iconst (-1), 1) := dk_2 (dk_at dksX3_years_1 8 rfl rfl)
theorem dX3_years_33 : decode cX3_years 33 = .ok (.ireturn, 1) := dk_172 (dk_at dksX3_years_1 9 rfl rfl)
theorem dX3_years_34 : decode cX3_years 34 = .ok (.aload_n 0, 1) := dk_42 (dk_at dksX3_years_1 10 rfl rfl)
theorem dX3_years_35 : decode cX3_years 35 = .ok (.iload_n 1, 1) := dk_27 (dk_at dksX3_years_1 11 rfl rfl)
theorem dX3_years_36 : decode cX3_years 36 = .ok (.putfield 404, 3) := dk_181 1 148 (dk_at dksX3_years_1 12 rfl rfl)
theorem dX3_years_39 : decode cX3_years 39 = .ok (.iconst 0, 1) := dk_3 (dk_at dksX3_years_1 15 rfl rfl)
theorem dX3_years_40 : decode cX3_years 40 = .ok (.istore_n 3, 1) := dk_62 (dk_at dksX3_years_1 16 rfl rfl)
theorem dX3_years_41 : decode cX3_years 41 = .ok (.iconst 0, 1) := dk_3 (dk_at dksX3_years_1 17 rfl rfl)
theorem dX3_years_42 : decode cX3_years 42 = .ok (.istore 4, 2) := dk_54 4 (dk_at dksX3_years_1 18 rfl rfl)
theorem dX3_years_44 : decode cX3_years 44 = .ok (.aload_n 0, 1) := dk_42 (dk_at dksX3_years_1 20 rfl rfl)
theorem dX3_years_45 : decode cX3_years 45 = .ok (.getfield 9, 3) := dk_180 0 9 (dk_at dksX3_years_1 21 rfl rfl)
theorem dX3_years_48 : decode cX3_years 48 = .ok (.aload_n 0, 1) := dk_42 (dk_at dksX3_years_2 0 rfl rfl)
theorem dX3_years_49 : decode cX3_years 49 = .ok (.getfield 97, 3) := dk_180 0 97 (dk_at dksX3_years_2 1 rfl rfl)
theorem dX3_years_52 : decode cX3_years 52 = .ok (.iconst 0, 1) := dk_3 (dk_at dksX3_years_2 4 rfl rfl)
theorem dX3_years_53 : decode cX3_years 53 = .ok (.invokestatic 267, 3) := dk_184 1 11 (dk_at dksX3_years_2 5 rfl rfl)
theorem dX3_years_56 : decode cX3_years 56 = .ok (.iconst 0, 1) := dk_3 (dk_at dksX3_years_2 8 rfl rfl)
theorem dX3_years_57 : decode cX3_years 57 = .ok (.istore 5, 2) := dk_54 5 (dk_at dksX3_years_2 9 rfl rfl)
theorem dX3_years_59 : decode cX3_years 59 = .ok (.iload 5, 2) := dk_21 5 (dk_at dksX3_years_2 11 rfl rfl)
theorem dX3_years_61 : decode cX3_years 61 = .ok (.iload_n 2, 1) := dk_28 (dk_at dksX3_years_2 13 rfl rfl)
theorem dX3_years_62 : decode cX3_years 62 = .ok (.if_icmp .ge 165, 3) := dk_162 0 165 (dk_at dksX3_years_2 14 rfl rfl)
theorem dX3_years_65 : decode cX3_years 65 = .ok (.aload_n 0, 1) := dk_42 (dk_at dksX3_years_2 17 rfl rfl)
theorem dX3_years_66 : decode cX3_years 66 = .ok (.aload_n 0, 1) := dk_42 (dk_at dksX3_years_2 18 rfl rfl)
theorem dX3_years_67 : decode cX3_years 67 = .ok (.getfield 123, 3) := dk_180 0 123 (dk_at dksX3_years_2 19 rfl rfl)
theorem dX3_years_70 : decode cX3_years 70 = .ok (.invokevirtual 408, 3) := dk_182 1 152 (dk_at dksX3_years_3 0 rfl rfl)
theorem dX3_years_73 : decode cX3_years 73 = .ok (.istore 6, 2) := dk_54 6 (dk_at dksX3_years_3 3 rfl rfl)
theorem dX3_years_75 : decode cX3_years 75 = .ok (.aload_n 0, 1) := dk_42 (dk_at dksX3_years_3 5 rfl rfl)
theorem dX3_years_76 : decode cX3_years 76 = .ok (.iconst 4, 1) := dk_7 (dk_at dksX3_years_3 6 rfl rfl)
theorem dX3_years_77 : decode cX3_years 77 = .ok (.invokevirtual 408, 3) := dk_182 1 152 (dk_at dksX3_years_3 7 rfl rfl)
theorem dX3_years_80 : decode cX3_years 80 = .ok (.istore 7, 2) := dk_54 7 (dk_at dksX3_years_3 10 rfl rfl)
theorem dX3_years_82 : decode cX3_years 82 = .ok (.aload_n 0, 1) := dk_42 (dk_at dksX3_years_3 12 rfl rfl)
theorem dX3_years_83 : decode cX3_years 83 = .ok (.getfield 97, 3) := dk_180 0 97 (dk_at dksX3_years_3 13 rfl rfl)
theorem dX3_years_86 : decode cX3_years 86 = .ok (.bipush 12, 2) := dk_16 12 (dk_at dksX3_years_3 16 rfl rfl)
theorem dX3_years_88 : decode cX3_years 88 = .ok (.iaload, 1) := dk_46 (dk_at dksX3_years_3 18 rfl rfl)
theorem dX3_years_89 : decode cX3_years 89 = .ok (.istore 8, 2) := dk_54 8 (dk_at dksX3_years_3 19 rfl rfl)
theorem dX3_years_91 : decode cX3_years 91 = .ok (.iload 7, 2) := dk_21 7 (dk_at dksX3_years_3 21 rfl rfl)
theorem dX3_years_93 : decode cX3_years 93 = .ok (.iconst 2, 1) := dk_5 (dk_at dksX3_years_3 23 rfl rfl)
theorem dX3_years_94 : decode cX3_years 94 = .ok (.if_icmp .ge 49, 3) := dk_162 0 49 (dk_at dksX3_years_4 0 rfl rfl)
theorem dX3_years_97 : decode cX3_years 97 = .ok (.aload_n 0, 1) := dk_42 (dk_at dksX3_years_4 3 rfl rfl)
theorem dX3_years_98 : decode cX3_years 98 = .ok (.aload_n 0, 1) := dk_42 (dk_at dksX3_years_4 4 rfl rfl)
theorem dX3_years_99 : decode cX3_years 99 = .ok (.getfield 97, 3) := dk_180 0 97 (dk_at dksX3_years_4 5 rfl rfl)
theorem dX3_years_102 : decode cX3_years 102 = .ok (.iload 6, 2) := dk_21 6 (dk_at dksX3_years_4 8 rfl rfl)
theorem dX3_years_104 : decode cX3_years 104 = .ok (.iconst 1, 1) := dk_4 (dk_at dksX3_years_4 10 rfl rfl)
theorem dX3_years_105 : decode cX3_years 105 = .ok (.iload 7, 2) := dk_21 7 (dk_at dksX3_years_4 11 rfl rfl)
theorem dX3_years_107 : decode cX3_years 107 = .ok (.isub, 1) := dk_100 (dk_at dksX3_years_4 13 rfl rfl)
theorem dX3_years_108 : decode cX3_years 108 = .ok (.invokevirtual 278, 3) := dk_182 1 22 (dk_at dksX3_years_4 14 rfl rfl)
theorem dX3_years_111 : decode cX3_years 111 = .ok (.ifCond .ne 7, 3) := dk_154 0 7 (dk_at dksX3_years_4 17 rfl rfl)
theorem dX3_years_114 : decode cX3_years 114 = .ok (.iconst 1, 1) := dk_4 (dk_at dksX3_years_4 20 rfl rfl)
theorem dX3_years_115 : decode cX3_years 115 = .ok (.goto 4, 3) := dk_167 0 4 (dk_at dksX3_years_4 21 rfl rfl)
theorem dX3_years_118 : decode cX3_years 118 = .ok (.iconst 0, 1) := dk_3 (dk_at dksX3_years_5 0 rfl rfl)
theorem dX3_years_119 : decode cX3_years 119 = .ok (.istore 9, 2) := dk_54 9 (dk_at dksX3_years_5 1 rfl rfl)
theorem dX3_years_121 : decode cX3_years 121 = .ok (.iload 9, 2) := dk_21 9 (dk_at dksX3_years_5 3 rfl rfl)
theorem dX3_years_123 : decode cX3_years 123 = .ok (.ifCond .eq 72, 3) := dk_153 0 72 (dk_at dksX3_years_5 5 rfl rfl)
theorem dX3_years_126 : decode cX3_years 126 = .ok (.aload_n 0, 1) := dk_42 (dk_at dksX3_years_5 8 rfl rfl)
theorem dX3_years_127 : decode cX3_years 127 = .ok (.getfield 97, 3) := dk_180 0 97 (dk_at dksX3_years_5 9 rfl rfl)
theorem dX3_years_130 : decode cX3_years 130 = .ok (.iload 6, 2) := dk_21 6 (dk_at dksX3_years_5 12 rfl rfl)
theorem dX3_years_132 : decode cX3_years 132 = .ok (.iconst 1, 1) := dk_4 (dk_at dksX3_years_5 14 rfl rfl)
theorem dX3_years_133 : decode cX3_years 133 = .ok (.iload 7, 2) := dk_21 7 (dk_at dksX3_years_5 15 rfl rfl)
theorem dX3_years_135 : decode cX3_years 135 = .ok (.isub, 1) := dk_100 (dk_at dksX3_years_5 17 rfl rfl)
theorem dX3_years_136 : decode cX3_years 136 = .ok (.invokestatic 286, 3) := dk_184 1 30 (dk_at dksX3_years_5 18 rfl rfl)
theorem dX3_years_139 : decode cX3_years 139 = .ok (.pop, 1) := dk_87 (dk_at dksX3_years_5 21 rfl rfl)
theorem dX3_years_140 : decode cX3_years 140 = .ok (.goto 55, 3) := dk_167 0 55 (dk_at dksX3_years_6 0 rfl rfl)
theorem dX3_years_143 : decode cX3_years 143 = .ok (.aload_n 0, 1) := dk_42 (dk_at dksX3_years_6 3 rfl rfl)
theorem dX3_years_144 : decode cX3_years 144 = .ok (.aload_n 0, 1) := dk_42 (dk_at dksX3_years_6 4 rfl rfl)
theorem dX3_years_145 : decode cX3_years 145 = .ok (.getfield 120, 3) := dk_180 0 120 (dk_at dksX3_years_6 5 rfl rfl)
theorem dX3_years_148 : decode cX3_years 148 = .ok (.invokevirtual 408, 3) := dk_182 1 152 (dk_at dksX3_years_6 8 rfl rfl)
theorem dX3_years_151 : decode cX3_years 151 = .ok (.istore 10, 2) := dk_54 10 (dk_at dksX3_years_6 11 rfl rfl)
theorem dX3_years_153 : decode cX3_years 153 = .ok (.aload_n 0, 1) := dk_42 (dk_at dksX3_years_6 13 rfl rfl)
theorem dX3_years_154 : decode cX3_years 154 = .ok (.aload_n 0, 1) := dk_42 (dk_at dksX3_years_6 14 rfl rfl)
theorem dX3_years_155 : decode cX3_years 155 = .ok (.getfield 97, 3) := dk_180 0 97 (dk_at dksX3_years_6 15 rfl rfl)
theorem dX3_years_158 : decode cX3_years 158 = .ok (.iload 6, 2) := dk_21 6 (dk_at dksX3_years_6 18 rfl rfl)
theorem dX3_years_160 : decode cX3_years 160 = .ok (.iload 10, 2) := dk_21 10 (dk_at dksX3_years_6 20 rfl rfl)
theorem dX3_years_162 : decode cX3_years 162 = .ok (.invokevirtual 295, 3) := dk_182 1 39 (dk_at dksX3_years_7 0 rfl rfl)
theorem dX3_years_165 : decode cX3_years 165 = .ok (.ifCond .ne 7, 3) := dk_154 0 7 (dk_at dksX3_years_7 3 rfl rfl)
theorem dX3_years_168 : decode cX3_years 168 = .ok (.iconst 1, 1) := dk_4 (dk_at dksX3_years_7 6 rfl rfl)
theorem dX3_years_169 : decode cX3_years 169 = .ok (.goto 4, 3) := dk_167 0 4 (dk_at dksX3_years_7 7 rfl rfl)
theorem dX3_years_172 : decode cX3_years 172 = .ok (.iconst 0, 1) := dk_3 (dk_at dksX3_years_7 10 rfl rfl)
theorem dX3_years_173 : decode cX3_years 173 = .ok (.istore 9, 2) := dk_54 9 (dk_at dksX3_years_7 11 rfl rfl)
theorem dX3_years_175 : decode cX3_years 175 = .ok (.iload 9, 2) := dk_21 9 (dk_at dksX3_years_7 13 rfl rfl)
theorem dX3_years_177 : decode cX3_years 177 = .ok (.ifCond .eq 18, 3) := dk_153 0 18 (dk_at dksX3_years_7 15 rfl rfl)
theorem dX3_years_180 : decode cX3_years 180 = .ok (.iload_n 3, 1) := dk_29 (dk_at dksX3_years_7 18 rfl rfl)
theorem dX3_years_181 : decode cX3_years 181 = .ok (.aload_n 0, 1) := dk_42 (dk_at dksX3_years_7 19 rfl rfl)
theorem dX3_years_182 : decode cX3_years 182 = .ok (.aload_n 0, 1) := dk_42 (dk_at dksX3_years_7 20 rfl rfl)
theorem dX3_years_183 : decode cX3_years 183 = .ok (.getfield 97, 3) := dk_180 0 97 (dk_at dksX3_years_7 21 rfl rfl)
theorem dX3_years_186 : decode cX3_years 186 = .ok (.iload 6, 2) := dk_21 6 (dk_at dksX3_years_8 0 rfl rfl)
theorem dX3_years_188 : decode cX3_years 188 = .ok (.iload 10, 2) := dk_21 10 (dk_at dksX3_years_8 2 rfl rfl)
theorem dX3_years_190 : decode cX3_years 190 = .ok (.invokevirtual 298, 3) := dk_182 1 42 (dk_at dksX3_years_8 4 rfl rfl)
theorem dX3_years_193 : decode cX3_years 193 = .ok (.iadd, 1) := dk_96 (dk_at dksX3_years_8 7 rfl rfl)
theorem dX3_years_194 : decode cX3_years 194 = .ok (.istore_n 3, 1) := dk_62 (dk_at dksX3_years_8 8 rfl rfl)
theorem dX3_years_195 : decode cX3_years 195 = .ok (.iload 4, 2) := dk_21 4 (dk_at dksX3_years_8 9 rfl rfl)
theorem dX3_years_197 : decode cX3_years 197 = .ok (.iload 9, 2) := dk_21 9 (dk_at dksX3_years_8 11 rfl rfl)
theorem dX3_years_199 : decode cX3_years 199 = .ok (.ifCond .eq 7, 3) := dk_153 0 7 (dk_at dksX3_years_8 13 rfl rfl)
theorem dX3_years_202 : decode cX3_years 202 = .ok (.iconst 0, 1) := dk_3 (dk_at dksX3_years_8 16 rfl rfl)
theorem dX3_years_203 : decode cX3_years 203 = .ok (.goto 4, 3) := dk_167 0 4 (dk_at dksX3_years_8 17 rfl rfl)
theorem dX3_years_206 : decode cX3_years 206 = .ok (.iconst 1, 1) := dk_4 (dk_at dksX3_years_8 20 rfl rfl)
theorem dX3_years_207 : decode cX3_years 207 = .ok (.iadd, 1) := dk_96 (dk_at dksX3_years_8 21 rfl rfl)
theorem dX3_years_208 : decode cX3_years 208 = .ok (.istore 4, 2) := dk_54 4 (dk_at dksX3_years_8 22 rfl rfl)
theorem dX3_years_210 : decode cX3_years 210 = .ok (.aload_n 0, 1) := dk_42 (dk_at dksX3_years_9 0 rfl rfl)
theorem dX3_years_211 : decode cX3_years 211 = .ok (.getfield 97, 3) := dk_180 0 97 (dk_at dksX3_years_9 1 rfl rfl)
theorem dX3_years_214 : decode cX3_years 214 = .ok (.bipush 12, 2) := dk_16 12 (dk_at dksX3_years_9 4 rfl rfl)
theorem dX3_years_216 : decode cX3_years 216 = .ok (.iload 8, 2) := dk_21 8 (dk_at dksX3_years_9 6 rfl rfl)
theorem dX3_years_218 : decode cX3_years 218 = .ok (.iconst 1, 1) := dk_4 (dk_at dksX3_years_9 8 rfl rfl)
theorem dX3_years_219 : decode cX3_years 219 = .ok (.iadd, 1) := dk_96 (dk_at dksX3_years_9 9 rfl rfl)
theorem dX3_years_220 : decode cX3_years 220 = .ok (.iastore, 1) := dk_79 (dk_at dksX3_years_9 10 rfl rfl)
theorem dX3_years_221 : decode cX3_years 221 = .ok (.iinc 5 1, 3) := dk_132 5 1 (dk_at dksX3_years_9 11 rfl rfl)
theorem dX3_years_224 : decode cX3_years 224 = .ok (.goto (-165), 3) := dk_167 255 91 (dk_at dksX3_years_9 14 rfl rfl)
theorem dX3_years_227 : decode cX3_years 227 = .ok (.aload_n 0, 1) := dk_42 (dk_at dksX3_years_9 17 rfl rfl)
theorem dX3_years_228 : decode cX3_years 228 = .ok (.iconst 0, 1) := dk_3 (dk_at dksX3_years_9 18 rfl rfl)
theorem dX3_years_229 : decode cX3_years 229 = .ok (.putfield 113, 3) := dk_181 0 113 (dk_at dksX3_years_9 19 rfl rfl)
theorem dX3_years_232 : decode cX3_years 232 = .ok (.aload_n 0, 1) := dk_42 (dk_at dksX3_years_9 22 rfl rfl)
theorem dX3_years_233 : decode cX3_years 233 = .ok (.iload_n 3, 1) := dk_29 (dk_at dksX3_years_9 23 rfl rfl)
theorem dX3_years_234 : decode cX3_years 234 = .ok (.i2l, 1) := dk_133 (dk_at dksX3_years_10 0 rfl rfl)
theorem dX3_years_235 : decode cX3_years 235 = .ok (.invokevirtual 274, 3) := dk_182 1 18 (dk_at dksX3_years_10 1 rfl rfl)
theorem dX3_years_238 : decode cX3_years 238 = .ok (.aload_n 0, 1) := dk_42 (dk_at dksX3_years_10 4 rfl rfl)
theorem dX3_years_239 : decode cX3_years 239 = .ok (.iload 4, 2) := dk_21 4 (dk_at dksX3_years_10 5 rfl rfl)
theorem dX3_years_241 : decode cX3_years 241 = .ok (.i2l, 1) := dk_133 (dk_at dksX3_years_10 7 rfl rfl)
theorem dX3_years_242 : decode cX3_years 242 = .ok (.invokevirtual 274, 3) := dk_182 1 18 (dk_at dksX3_years_10 8 rfl rfl)
theorem dX3_years_245 : decode cX3_years 245 = .ok (.aload_n 0, 1) := dk_42 (dk_at dksX3_years_10 11 rfl rfl)
theorem dX3_years_246 : decode cX3_years 246 = .ok (.getfield 97, 3) := dk_180 0 97 (dk_at dksX3_years_10 12 rfl rfl)
theorem dX3_years_249 : decode cX3_years 249 = .ok (.bipush 13, 2) := dk_16 13 (dk_at dksX3_years_10 15 rfl rfl)
theorem dX3_years_251 : decode cX3_years 251 = .ok (.iaload, 1) := dk_46 (dk_at dksX3_years_10 17 rfl rfl)
theorem dX3_years_252 : decode cX3_years 252 = .ok (.invokestatic 347, 3) := dk_184 1 91 (dk_at dksX3_years_10 18 rfl rfl)
theorem dX3_years_255 : decode cX3_years 255 = .ok (.aload_n 0, 1) := dk_42 (dk_at dksX3_years_10 21 rfl rfl)
theorem dX3_years_256 : decode cX3_years 256 = .ok (.getfield 9, 3) := dk_180 0 9 (dk_at dksX3_years_11 0 rfl rfl)
theorem dX3_years_259 : decode cX3_years 259 = .ok (.bipush 13, 2) := dk_16 13 (dk_at dksX3_years_11 3 rfl rfl)
theorem dX3_years_261 : decode cX3_years 261 = .ok (.iaload, 1) := dk_46 (dk_at dksX3_years_11 5 rfl rfl)
theorem dX3_years_262 : decode cX3_years 262 = .ok (.invokestatic 347, 3) := dk_184 1 91 (dk_at dksX3_years_11 6 rfl rfl)
theorem dX3_years_265 : decode cX3_years 265 = .ok (.isub, 1) := dk_100 (dk_at dksX3_years_11 9 rfl rfl)
theorem dX3_years_266 : decode cX3_years 266 = .ok (.ireturn, 1) := dk_172 (dk_at dksX3_years_11 10 rfl rfl)
def dkwX3_draw_1 : List UInt8 := [112, 172]
abbrev dktX3_draw_1 : List UInt8 := dkwX3_draw_1 ++ []
def dkwX3_draw_0 : List UInt8 := [42, 42, 180, 1, 148, 19, 1, 151, 104, 17, 48, 57, 96, 181, 1, 148, 42, 180, 1, 148, 16, 16, 124, 27]
abbrev dktX3_draw_0 : List UInt8 := dkwX3_draw_0 ++ dktX3_draw_1
theorem dksX3_draw_0 : cX3_draw.data.toList.drop 0 = dktX3_draw_0 := by decide +kernel
theorem dksX3_draw_1 : cX3_draw.data.toList.drop 24 = dktX3_draw_1 := dk_seg dksX3_draw_0 24 rfl rfl
theorem dX3_draw_0 : decode cX3_draw 0 = .ok (.aload_n 0, 1) := dk_42 (dk_at dksX3_draw_0 0 rfl rfl)
theorem dX3_draw_1 : decode cX3_draw 1 = .ok (.aload_n 0, 1) := dk_42 (dk_at dksX3_draw_0 1 rfl rfl)
theorem dX3_draw_2 : decode cX3_draw 2 = .ok (.getfield 404, 3) := dk_180 1 148 (dk_at dksX3_draw_0 2 rfl rfl)
theorem dX3_draw_5 : decode cX3_draw 5 = .ok (.ldc_w 407, 3) := dk_19 1 151 (dk_at dksX3_draw_0 5 rfl rfl)
theorem dX3_draw_8 : decode cX3_draw 8 = .ok (.imul, 1) := dk_104 (dk_at dksX3_draw_0 8 rfl rfl)
theorem dX3_draw_9 : decode cX3_draw 9 = .ok (.sipush 12345, 3) := dk_17 48 57 (dk_at dksX3_draw_0 9 rfl rfl)
theorem dX3_draw_12 : decode cX3_draw 12 = .ok (.iadd, 1) := dk_96 (dk_at dksX3_draw_0 12 rfl rfl)
theorem dX3_draw_13 : decode cX3_draw 13 = .ok (.putfield 404, 3) := dk_181 1 148 (dk_at dksX3_draw_0 13 rfl rfl)
theorem dX3_draw_16 : decode cX3_draw 16 = .ok (.aload_n 0, 1) := dk_42 (dk_at dksX3_draw_0 16 rfl rfl)
theorem dX3_draw_17 : decode cX3_draw 17 = .ok (.getfield 404, 3) := dk_180 1 148 (dk_at dksX3_draw_0 17 rfl rfl)
theorem dX3_draw_20 : decode cX3_draw 20 = .ok (.bipush 16, 2) := dk_16 16 (dk_at dksX3_draw_0 20 rfl rfl)
theorem dX3_draw_22 : decode cX3_draw 22 = .ok (.iushr, 1) := dk_124 (dk_at dksX3_draw_0 22 rfl rfl)
theorem dX3_draw_23 : decode cX3_draw 23 = .ok (.iload_n 1, 1) := dk_27 (dk_at dksX3_draw_0 23 rfl rfl)
theorem dX3_draw_24 : decode cX3_draw 24 = .ok (.irem, 1) := dk_112 (dk_at dksX3_draw_1 0 rfl rfl)
theorem dX3_draw_25 : decode cX3_draw 25 = .ok (.ireturn, 1) := dk_172 (dk_at dksX3_draw_1 1 rfl rfl)
def dkwX3_keep_2 : List UInt8 := [4, 172]
abbrev dktX3_keep_2 : List UInt8 := dkwX3_keep_2 ++ []
def dkwX3_keep_1 : List UInt8 := [180, 0, 107, 27, 42, 180, 0, 174, 79, 42, 180, 0, 9, 42, 180, 0, 100, 16, 44, 27, 104, 184, 1, 11]
abbrev dktX3_keep_1 : List UInt8 := dkwX3_keep_1 ++ dktX3_keep_2
def dkwX3_keep_0 : List UInt8 := [42, 3, 181, 0, 110, 27, 3, 4, 184, 0, 116, 154, 0, 5, 3, 172, 42, 180, 0, 103, 27, 4, 84, 42]
abbrev dktX3_keep_0 : List UInt8 := dkwX3_keep_0 ++ dktX3_keep_1
theorem dksX3_keep_0 : cX3_keep.data.toList.drop 0 = dktX3_keep_0 := by decide +kernel
theorem dksX3_keep_1 : cX3_keep.data.toList.drop 24 = dktX3_keep_1 := dk_seg dksX3_keep_0 24 rfl rfl
theorem dksX3_keep_2 : cX3_keep.data.toList.drop 48 = dktX3_keep_2 := dk_seg dksX3_keep_1 24 rfl rfl
theorem dX3_keep_0 : decode cX3_keep 0 = .ok (.aload_n 0, 1) := dk_42 (dk_at dksX3_keep_0 0 rfl rfl)
theorem dX3_keep_1 : decode cX3_keep 1 = .ok (.iconst 0, 1) := dk_3 (dk_at dksX3_keep_0 1 rfl rfl)
theorem dX3_keep_2 : decode cX3_keep 2 = .ok (.putfield 110, 3) := dk_181 0 110 (dk_at dksX3_keep_0 2 rfl rfl)
theorem dX3_keep_5 : decode cX3_keep 5 = .ok (.iload_n 1, 1) := dk_27 (dk_at dksX3_keep_0 5 rfl rfl)
theorem dX3_keep_6 : decode cX3_keep 6 = .ok (.iconst 0, 1) := dk_3 (dk_at dksX3_keep_0 6 rfl rfl)
theorem dX3_keep_7 : decode cX3_keep 7 = .ok (.iconst 1, 1) := dk_4 (dk_at dksX3_keep_0 7 rfl rfl)
theorem dX3_keep_8 : decode cX3_keep 8 = .ok (.invokestatic 116, 3) := dk_184 0 116 (dk_at dksX3_keep_0 8 rfl rfl)
theorem dX3_keep_11 : decode cX3_keep 11 = .ok (.ifCond .ne 5, 3) := dk_154 0 5 (dk_at dksX3_keep_0 11 rfl rfl)
theorem dX3_keep_14 : decode cX3_keep 14 = .ok (.iconst 0, 1) := dk_3 (dk_at dksX3_keep_0 14 rfl rfl)
theorem dX3_keep_15 : decode cX3_keep 15 = .ok (.ireturn, 1) := dk_172 (dk_at dksX3_keep_0 15 rfl rfl)
theorem dX3_keep_16 : decode cX3_keep 16 = .ok (.aload_n 0, 1) := dk_42 (dk_at dksX3_keep_0 16 rfl rfl)
theorem dX3_keep_17 : decode cX3_keep 17 = .ok (.getfield 103, 3) := dk_180 0 103 (dk_at dksX3_keep_0 17 rfl rfl)
theorem dX3_keep_20 : decode cX3_keep 20 = .ok (.iload_n 1, 1) := dk_27 (dk_at dksX3_keep_0 20 rfl rfl)
theorem dX3_keep_21 : decode cX3_keep 21 = .ok (.iconst 1, 1) := dk_4 (dk_at dksX3_keep_0 21 rfl rfl)
theorem dX3_keep_22 : decode cX3_keep 22 = .ok (.bastore, 1) := dk_84 (dk_at dksX3_keep_0 22 rfl rfl)
theorem dX3_keep_23 : decode cX3_keep 23 = .ok (.aload_n 0, 1) := dk_42 (dk_at dksX3_keep_0 23 rfl rfl)
theorem dX3_keep_24 : decode cX3_keep 24 = .ok (.getfield 107, 3) := dk_180 0 107 (dk_at dksX3_keep_1 0 rfl rfl)
theorem dX3_keep_27 : decode cX3_keep 27 = .ok (.iload_n 1, 1) := dk_27 (dk_at dksX3_keep_1 3 rfl rfl)
theorem dX3_keep_28 : decode cX3_keep 28 = .ok (.aload_n 0, 1) := dk_42 (dk_at dksX3_keep_1 4 rfl rfl)
theorem dX3_keep_29 : decode cX3_keep 29 = .ok (.getfield 174, 3) := dk_180 0 174 (dk_at dksX3_keep_1 5 rfl rfl)
theorem dX3_keep_32 : decode cX3_keep 32 = .ok (.iastore, 1) := dk_79 (dk_at dksX3_keep_1 8 rfl rfl)
theorem dX3_keep_33 : decode cX3_keep 33 = .ok (.aload_n 0, 1) := dk_42 (dk_at dksX3_keep_1 9 rfl rfl)
theorem dX3_keep_34 : decode cX3_keep 34 = .ok (.getfield 9, 3) := dk_180 0 9 (dk_at dksX3_keep_1 10 rfl rfl)
theorem dX3_keep_37 : decode cX3_keep 37 = .ok (.aload_n 0, 1) := dk_42 (dk_at dksX3_keep_1 13 rfl rfl)
theorem dX3_keep_38 : decode cX3_keep 38 = .ok (.getfield 100, 3) := dk_180 0 100 (dk_at dksX3_keep_1 14 rfl rfl)
theorem dX3_keep_41 : decode cX3_keep 41 = .ok (.bipush 44, 2) := dk_16 44 (dk_at dksX3_keep_1 17 rfl rfl)
theorem dX3_keep_43 : decode cX3_keep 43 = .ok (.iload_n 1, 1) := dk_27 (dk_at dksX3_keep_1 19 rfl rfl)
theorem dX3_keep_44 : decode cX3_keep 44 = .ok (.imul, 1) := dk_104 (dk_at dksX3_keep_1 20 rfl rfl)
theorem dX3_keep_45 : decode cX3_keep 45 = .ok (.invokestatic 267, 3) := dk_184 1 11 (dk_at dksX3_keep_1 21 rfl rfl)
theorem dX3_keep_48 : decode cX3_keep 48 = .ok (.iconst 1, 1) := dk_4 (dk_at dksX3_keep_2 0 rfl rfl)
theorem dX3_keep_49 : decode cX3_keep 49 = .ok (.ireturn, 1) := dk_172 (dk_at dksX3_keep_2 1 rfl rfl)
def dkwX3_again_3 : List UInt8 := [181, 0, 171, 4, 172]
abbrev dktX3_again_3 : List UInt8 := dkwX3_again_3 ++ []
def dkwX3_again_2 : List UInt8 := [180, 0, 9, 28, 42, 180, 0, 100, 16, 44, 27, 104, 28, 96, 46, 79, 132, 2, 1, 167, 255, 230, 42, 3]
abbrev dktX3_again_2 : List UInt8 := dkwX3_again_2 ++ dktX3_again_3
def dkwX3_again_1 : List UInt8 := [180, 0, 107, 27, 46, 42, 180, 0, 174, 159, 0, 5, 3, 172, 3, 61, 28, 16, 44, 162, 0, 26, 42]
abbrev dktX3_again_1 : List UInt8 := dkwX3_again_1 ++ dktX3_again_2
def dkwX3_again_0 : List UInt8 := [42, 3, 181, 0, 110, 27, 3, 4, 184, 0, 116, 153, 0, 25, 42, 180, 0, 103, 27, 51, 153, 0, 16, 42]
abbrev dktX3_again_0 : List UInt8 := dkwX3_again_0 ++ dktX3_again_1
theorem dksX3_again_0 : cX3_again.data.toList.drop 0 = dktX3_again_0 := by decide +kernel
theorem dksX3_again_1 : cX3_again.data.toList.drop 24 = dktX3_again_1 := dk_seg dksX3_again_0 24 rfl rfl
theorem dksX3_again_2 : cX3_again.data.toList.drop 47 = dktX3_again_2 := dk_seg dksX3_again_1 23 rfl rfl
theorem dksX3_again_3 : cX3_again.data.toList.drop 71 = dktX3_again_3 := dk_seg dksX3_again_2 24 rfl rfl
theorem dX3_again_0 : decode cX3_again 0 = .ok (.aload_n 0, 1) := dk_42 (dk_at dksX3_again_0 0 rfl rfl)
theorem dX3_again_1 : decode cX3_again 1 = .ok (.iconst 0, 1) := dk_3 (dk_at dksX3_again_0 1 rfl rfl)
theorem dX3_again_2 : decode cX3_again 2 = .ok (.putfield 110, 3) := dk_181 0 110 (dk_at dksX3_again_0 2 rfl rfl)
theorem dX3_again_5 : decode cX3_again 5 = .ok (.iload_n 1, 1) := dk_27 (dk_at dksX3_again_0 5 rfl rfl)
theorem dX3_again_6 : decode cX3_again 6 = .ok (.iconst 0, 1) := dk_3 (dk_at dksX3_again_0 6 rfl rfl)
theorem dX3_again_7 : decode cX3_again 7 = .ok (.iconst 1, 1) := dk_4 (dk_at dksX3_again_0 7 rfl rfl)
theorem dX3_again_8 : decode cX3_again 8 = .ok (.invokestatic 116, 3) := dk_184 0 116 (dk_at dksX3_again_0 8 rfl rfl)
theorem dX3_again_11 : decode cX3_again 11 = .ok (.ifCond .eq 25, 3) := dk_153 0 25 (dk_at dksX3_again_0 11 rfl rfl)
theorem dX3_again_14 : decode cX3_again 14 = .ok (.aload_n 0, 1) := dk_42 (dk_at dksX3_again_0 14 rfl rfl)
theorem dX3_again_15 : decode cX3_again 15 = .ok (.getfield 103, 3) := dk_180 0 103 (dk_at dksX3_again_0 15 rfl rfl)
theorem dX3_again_18 : decode cX3_again 18 = .ok (.iload_n 1, 1) := dk_27 (dk_at dksX3_again_0 18 rfl rfl)
theorem dX3_again_19 : decode cX3_again 19 = .ok (.baload, 1) := dk_51 (dk_at dksX3_again_0 19 rfl rfl)
theorem dX3_again_20 : decode cX3_again 20 = .ok (.ifCond .eq 16, 3) := dk_153 0 16 (dk_at dksX3_again_0 20 rfl rfl)
theorem dX3_again_23 : decode cX3_again 23 = .ok (.aload_n 0, 1) := dk_42 (dk_at dksX3_again_0 23 rfl rfl)
theorem dX3_again_24 : decode cX3_again 24 = .ok (.getfield 107, 3) := dk_180 0 107 (dk_at dksX3_again_1 0 rfl rfl)
theorem dX3_again_27 : decode cX3_again 27 = .ok (.iload_n 1, 1) := dk_27 (dk_at dksX3_again_1 3 rfl rfl)
theorem dX3_again_28 : decode cX3_again 28 = .ok (.iaload, 1) := dk_46 (dk_at dksX3_again_1 4 rfl rfl)
theorem dX3_again_29 : decode cX3_again 29 = .ok (.aload_n 0, 1) := dk_42 (dk_at dksX3_again_1 5 rfl rfl)
theorem dX3_again_30 : decode cX3_again 30 = .ok (.getfield 174, 3) := dk_180 0 174 (dk_at dksX3_again_1 6 rfl rfl)
theorem dX3_again_33 : decode cX3_again 33 = .ok (.if_icmp .eq 5, 3) := dk_159 0 5 (dk_at dksX3_again_1 9 rfl rfl)
theorem dX3_again_36 : decode cX3_again 36 = .ok (.iconst 0, 1) := dk_3 (dk_at dksX3_again_1 12 rfl rfl)
theorem dX3_again_37 : decode cX3_again 37 = .ok (.ireturn, 1) := dk_172 (dk_at dksX3_again_1 13 rfl rfl)
theorem dX3_again_38 : decode cX3_again 38 = .ok (.iconst 0, 1) := dk_3 (dk_at dksX3_again_1 14 rfl rfl)
theorem dX3_again_39 : decode cX3_again 39 = .ok (.istore_n 2, 1) := dk_61 (dk_at dksX3_again_1 15 rfl rfl)
theorem dX3_again_40 : decode cX3_again 40 = .ok (.iload_n 2, 1) := dk_28 (dk_at dksX3_again_1 16 rfl rfl)
theorem dX3_again_41 : decode cX3_again 41 = .ok (.bipush 44, 2) := dk_16 44 (dk_at dksX3_again_1 17 rfl rfl)
theorem dX3_again_43 : decode cX3_again 43 = .ok (.if_icmp .ge 26, 3) := dk_162 0 26 (dk_at dksX3_again_1 19 rfl rfl)
theorem dX3_again_46 : decode cX3_again 46 = .ok (.aload_n 0, 1) := dk_42 (dk_at dksX3_again_1 22 rfl rfl)
theorem dX3_again_47 : decode cX3_again 47 = .ok (.getfield 9, 3) := dk_180 0 9 (dk_at dksX3_again_2 0 rfl rfl)
theorem dX3_again_50 : decode cX3_again 50 = .ok (.iload_n 2, 1) := dk_28 (dk_at dksX3_again_2 3 rfl rfl)
theorem dX3_again_51 : decode cX3_again 51 = .ok (.aload_n 0, 1) := dk_42 (dk_at dksX3_again_2 4 rfl rfl)
theorem dX3_again_52 : decode cX3_again 52 = .ok (.getfield 100, 3) := dk_180 0 100 (dk_at dksX3_again_2 5 rfl rfl)
theorem dX3_again_55 : decode cX3_again 55 = .ok (.bipush 44, 2) := dk_16 44 (dk_at dksX3_again_2 8 rfl rfl)
theorem dX3_again_57 : decode cX3_again 57 = .ok (.iload_n 1, 1) := dk_27 (dk_at dksX3_again_2 10 rfl rfl)
theorem dX3_again_58 : decode cX3_again 58 = .ok (.imul, 1) := dk_104 (dk_at dksX3_again_2 11 rfl rfl)
theorem dX3_again_59 : decode cX3_again 59 = .ok (.iload_n 2, 1) := dk_28 (dk_at dksX3_again_2 12 rfl rfl)
theorem dX3_again_60 : decode cX3_again 60 = .ok (.iadd, 1) := dk_96 (dk_at dksX3_again_2 13 rfl rfl)
theorem dX3_again_61 : decode cX3_again 61 = .ok (.iaload, 1) := dk_46 (dk_at dksX3_again_2 14 rfl rfl)
theorem dX3_again_62 : decode cX3_again 62 = .ok (.iastore, 1) := dk_79 (dk_at dksX3_again_2 15 rfl rfl)
theorem dX3_again_63 : decode cX3_again 63 = .ok (.iinc 2 1, 3) := dk_132 2 1 (dk_at dksX3_again_2 16 rfl rfl)
theorem dX3_again_66 : decode cX3_again 66 = .ok (.goto (-26), 3) := dk_167 255 230 (dk_at dksX3_again_2 19 rfl rfl)
theorem dX3_again_69 : decode cX3_again 69 = .ok (.aload_n 0, 1) := dk_42 (dk_at dksX3_again_2 22 rfl rfl)
theorem dX3_again_70 : decode cX3_again 70 = .ok (.iconst 0, 1) := dk_3 (dk_at dksX3_again_2 23 rfl rfl)
theorem dX3_again_71 : decode cX3_again 71 = .ok (.putfield 171, 3) := dk_181 0 171 (dk_at dksX3_again_3 0 rfl rfl)
theorem dX3_again_74 : decode cX3_again 74 = .ok (.iconst 1, 1) := dk_4 (dk_at dksX3_again_3 3 rfl rfl)
theorem dX3_again_75 : decode cX3_again 75 = .ok (.ireturn, 1) := dk_172 (dk_at dksX3_again_3 4 rfl rfl)
def dkwX3_count_6 : List UInt8 := [172, 42, 180, 0, 171, 172, 42, 180, 0, 113, 172, 42, 180, 0, 126, 172, 2, 172]
abbrev dktX3_count_6 : List UInt8 := dkwX3_count_6 ++ []
def dkwX3_count_5 : List UInt8 := [104, 4, 96, 46, 2, 160, 0, 7, 3, 167, 0, 6, 4, 29, 120, 128, 61, 132, 3, 1, 167, 255, 221, 28]
abbrev dktX3_count_5 : List UInt8 := dkwX3_count_5 ++ dktX3_count_6
def dkwX3_count_4 : List UInt8 := [180, 0, 123, 182, 1, 155, 172, 3, 62, 29, 42, 180, 0, 120, 162, 0, 33, 28, 42, 180, 0, 24, 5, 29]
abbrev dktX3_count_4 : List UInt8 := dkwX3_count_4 ++ dktX3_count_5
def dkwX3_count_3 : List UInt8 := [16, 12, 46, 172, 42, 180, 0, 9, 16, 13, 46, 172, 42, 16, 14, 16, 30, 182, 1, 155, 172, 42, 7, 42]
abbrev dktX3_count_3 : List UInt8 := dkwX3_count_3 ++ dktX3_count_4
def dkwX3_count_2 : List UInt8 := [42, 180, 0, 13, 172, 42, 180, 0, 120, 172, 42, 180, 0, 123, 172, 42, 180, 0, 168, 172, 42, 180, 0, 9]
abbrev dktX3_count_2 : List UInt8 := dkwX3_count_2 ++ dktX3_count_3
def dkwX3_count_1 : List UInt8 := [170, 0, 0, 0, 0, 0, 0, 176, 0, 0, 0, 0, 0, 0, 0, 11, 0, 0, 0, 64, 0, 0, 0, 69, 0, 0, 0, 74, 0, 0, 0, 79, 0, 0, 0, 84, 0, 0, 0, 92, 0, 0, 0, 100, 0, 0, 0, 109, 0, 0, 0, 119, 0, 0, 0, 161, 0, 0, 0, 166, 0, 0, 0, 171]
abbrev dktX3_count_1 : List UInt8 := dkwX3_count_1 ++ dktX3_count_2
def dkwX3_count_0 : List UInt8 := [42, 3, 181, 0, 110, 3, 61, 27]
abbrev dktX3_count_0 : List UInt8 := dkwX3_count_0 ++ dktX3_count_1
theorem dksX3_count_0 : cX3_count.data.toList.drop 0 = dktX3_count_0 := by decide +kernel
theorem dksX3_count_1 : cX3_count.data.toList.drop 8 = dktX3_count_1 := dk_seg dksX3_count_0 8 rfl rfl
theorem dksX3_count_2 : cX3_count.data.toList.drop 72 = dktX3_count_2 := dk_seg dksX3_count_1 64 rfl rfl
theorem dksX3_count_3 : cX3_count.data.toList.drop 96 = dktX3_count_3 := dk_seg dksX3_count_2 24 rfl rfl
theorem dksX3_count_4 : cX3_count.data.toList.drop 120 = dktX3_count_4 := dk_seg dksX3_count_3 24 rfl rfl
theorem dksX3_count_5 : cX3_count.data.toList.drop 144 = dktX3_count_5 := dk_seg dksX3_count_4 24 rfl rfl
theorem dksX3_count_6 : cX3_count.data.toList.drop 168 = dktX3_count_6 := dk_seg dksX3_count_5 24 rfl rfl
theorem dX3_count_0 : decode cX3_count 0 = .ok (.aload_n 0, 1) := dk_42 (dk_at dksX3_count_0 0 rfl rfl)
theorem dX3_count_1 : decode cX3_count 1 = .ok (.iconst 0, 1) := dk_3 (dk_at dksX3_count_0 1 rfl rfl)
theorem dX3_count_2 : decode cX3_count 2 = .ok (.putfield 110, 3) := dk_181 0 110 (dk_at dksX3_count_0 2 rfl rfl)
theorem dX3_count_5 : decode cX3_count 5 = .ok (.iconst 0, 1) := dk_3 (dk_at dksX3_count_0 5 rfl rfl)
theorem dX3_count_6 : decode cX3_count 6 = .ok (.istore_n 2, 1) := dk_61 (dk_at dksX3_count_0 6 rfl rfl)
theorem dX3_count_7 : decode cX3_count 7 = .ok (.iload_n 1, 1) := dk_27 (dk_at dksX3_count_0 7 rfl rfl)
theorem dX3_count_8 : decode cX3_count 8 = .ok (.tableswitch 176 0 11 #[64, 69, 74, 79, 84, 92, 100, 109, 119, 161, 166, 171], 64) := by decide +kernel
theorem dX3_count_72 : decode cX3_count 72 = .ok (.aload_n 0, 1) := dk_42 (dk_at dksX3_count_2 0 rfl rfl)
theorem dX3_count_73 : decode cX3_count 73 = .ok (.getfield 13, 3) := dk_180 0 13 (dk_at dksX3_count_2 1 rfl rfl)
theorem dX3_count_76 : decode cX3_count 76 = .ok (.ireturn, 1) := dk_172 (dk_at dksX3_count_2 4 rfl rfl)
theorem dX3_count_77 : decode cX3_count 77 = .ok (.aload_n 0, 1) := dk_42 (dk_at dksX3_count_2 5 rfl rfl)
theorem dX3_count_78 : decode cX3_count 78 = .ok (.getfield 120, 3) := dk_180 0 120 (dk_at dksX3_count_2 6 rfl rfl)
theorem dX3_count_81 : decode cX3_count 81 = .ok (.ireturn, 1) := dk_172 (dk_at dksX3_count_2 9 rfl rfl)
theorem dX3_count_82 : decode cX3_count 82 = .ok (.aload_n 0, 1) := dk_42 (dk_at dksX3_count_2 10 rfl rfl)
theorem dX3_count_83 : decode cX3_count 83 = .ok (.getfield 123, 3) := dk_180 0 123 (dk_at dksX3_count_2 11 rfl rfl)
theorem dX3_count_86 : decode cX3_count 86 = .ok (.ireturn, 1) := dk_172 (dk_at dksX3_count_2 14 rfl rfl)
theorem dX3_count_87 : decode cX3_count 87 = .ok (.aload_n 0, 1) := dk_42 (dk_at dksX3_count_2 15 rfl rfl)
theorem dX3_count_88 : decode cX3_count 88 = .ok (.getfield 168, 3) := dk_180 0 168 (dk_at dksX3_count_2 16 rfl rfl)
theorem dX3_count_91 : decode cX3_count 91 = .ok (.ireturn, 1) := dk_172 (dk_at dksX3_count_2 19 rfl rfl)
theorem dX3_count_92 : decode cX3_count 92 = .ok (.aload_n 0, 1) := dk_42 (dk_at dksX3_count_2 20 rfl rfl)
theorem dX3_count_93 : decode cX3_count 93 = .ok (.getfield 9, 3) := dk_180 0 9 (dk_at dksX3_count_2 21 rfl rfl)
theorem dX3_count_96 : decode cX3_count 96 = .ok (.bipush 12, 2) := dk_16 12 (dk_at dksX3_count_3 0 rfl rfl)
theorem dX3_count_98 : decode cX3_count 98 = .ok (.iaload, 1) := dk_46 (dk_at dksX3_count_3 2 rfl rfl)
theorem dX3_count_99 : decode cX3_count 99 = .ok (.ireturn, 1) := dk_172 (dk_at dksX3_count_3 3 rfl rfl)
theorem dX3_count_100 : decode cX3_count 100 = .ok (.aload_n 0, 1) := dk_42 (dk_at dksX3_count_3 4 rfl rfl)
theorem dX3_count_101 : decode cX3_count 101 = .ok (.getfield 9, 3) := dk_180 0 9 (dk_at dksX3_count_3 5 rfl rfl)
theorem dX3_count_104 : decode cX3_count 104 = .ok (.bipush 13, 2) := dk_16 13 (dk_at dksX3_count_3 8 rfl rfl)
theorem dX3_count_106 : decode cX3_count 106 = .ok (.iaload, 1) := dk_46 (dk_at dksX3_count_3 10 rfl rfl)
theorem dX3_count_107 : decode cX3_count 107 = .ok (.ireturn, 1) := dk_172 (dk_at dksX3_count_3 11 rfl rfl)
theorem dX3_count_108 : decode cX3_count 108 = .ok (.aload_n 0, 1) := dk_42 (dk_at dksX3_count_3 12 rfl rfl)
theorem dX3_count_109 : decode cX3_count 109 = .ok (.bipush 14, 2) := dk_16 14 (dk_at dksX3_count_3 13 rfl rfl)
theorem dX3_count_111 : decode cX3_count 111 = .ok (.bipush 30, 2) := dk_16 30 (dk_at dksX3_count_3 15 rfl rfl)
theorem dX3_count_113 : decode cX3_count 113 = .ok (.invokevirtual 411, 3) := dk_182 1 155 (dk_at dksX3_count_3 17 rfl rfl)
theorem dX3_count_116 : decode cX3_count 116 = .ok (.ireturn, 1) := dk_172 (dk_at dksX3_count_3 20 rfl rfl)
theorem dX3_count_117 : decode cX3_count 117 = .ok (.aload_n 0, 1) := dk_42 (dk_at dksX3_count_3 21 rfl rfl)
theorem dX3_count_118 : decode cX3_count 118 = .ok (.iconst 4, 1) := dk_7 (dk_at dksX3_count_3 22 rfl rfl)
theorem dX3_count_119 : decode cX3_count 119 = .ok (.aload_n 0, 1) := dk_42 (dk_at dksX3_count_3 23 rfl rfl)
theorem dX3_count_120 : decode cX3_count 120 = .ok (.getfield 123, 3) := dk_180 0 123 (dk_at dksX3_count_4 0 rfl rfl)
theorem dX3_count_123 : decode cX3_count 123 = .ok (.invokevirtual 411, 3) := dk_182 1 155 (dk_at dksX3_count_4 3 rfl rfl)
theorem dX3_count_126 : decode cX3_count 126 = .ok (.ireturn, 1) := dk_172 (dk_at dksX3_count_4 6 rfl rfl)
theorem dX3_count_127 : decode cX3_count 127 = .ok (.iconst 0, 1) := dk_3 (dk_at dksX3_count_4 7 rfl rfl)
theorem dX3_count_128 : decode cX3_count 128 = .ok (.istore_n 3, 1) := dk_62 (dk_at dksX3_count_4 8 rfl rfl)
theorem dX3_count_129 : decode cX3_count 129 = .ok (.iload_n 3, 1) := dk_29 (dk_at dksX3_count_4 9 rfl rfl)
theorem dX3_count_130 : decode cX3_count 130 = .ok (.aload_n 0, 1) := dk_42 (dk_at dksX3_count_4 10 rfl rfl)
theorem dX3_count_131 : decode cX3_count 131 = .ok (.getfield 120, 3) := dk_180 0 120 (dk_at dksX3_count_4 11 rfl rfl)
theorem dX3_count_134 : decode cX3_count 134 = .ok (.if_icmp .ge 33, 3) := dk_162 0 33 (dk_at dksX3_count_4 14 rfl rfl)
theorem dX3_count_137 : decode cX3_count 137 = .ok (.iload_n 2, 1) := dk_28 (dk_at dksX3_count_4 17 rfl rfl)
theorem dX3_count_138 : decode cX3_count 138 = .ok (.aload_n 0, 1) := dk_42 (dk_at dksX3_count_4 18 rfl rfl)
theorem dX3_count_139 : decode cX3_count 139 = .ok (.getfield 24, 3) := dk_180 0 24 (dk_at dksX3_count_4 19 rfl rfl)
theorem dX3_count_142 : decode cX3_count 142 = .ok (.iconst 2, 1) := dk_5 (dk_at dksX3_count_4 22 rfl rfl)
theorem dX3_count_143 : decode cX3_count 143 = .ok (.iload_n 3, 1) := dk_29 (dk_at dksX3_count_4 23 rfl rfl)
theorem dX3_count_144 : decode cX3_count 144 = .ok (.imul, 1) := dk_104 (dk_at dksX3_count_5 0 rfl rfl)
theorem dX3_count_145 : decode cX3_count 145 = .ok (.iconst 1, 1) := dk_4 (dk_at dksX3_count_5 1 rfl rfl)
theorem dX3_count_146 : decode cX3_count 146 = .ok (.iadd, 1) := dk_96 (dk_at dksX3_count_5 2 rfl rfl)
theorem dX3_count_147 : decode cX3_count 147 = .ok (.iaload, 1) := dk_46 (dk_at dksX3_count_5 3 rfl rfl)
theorem dX3_count_148 : decode cX3_count 148 = .ok (.iconst (-1), 1) := dk_2 (dk_at dksX3_count_5 4 rfl rfl)
theorem dX3_count_149 : decode cX3_count 149 = .ok (.if_icmp .ne 7, 3) := dk_160 0 7 (dk_at dksX3_count_5 5 rfl rfl)
theorem dX3_count_152 : decode cX3_count 152 = .ok (.iconst 0, 1) := dk_3 (dk_at dksX3_count_5 8 rfl rfl)
theorem dX3_count_153 : decode cX3_count 153 = .ok (.goto 6, 3) := dk_167 0 6 (dk_at dksX3_count_5 9 rfl rfl)
theorem dX3_count_156 : decode cX3_count 156 = .ok (.iconst 1, 1) := dk_4 (dk_at dksX3_count_5 12 rfl rfl)
theorem dX3_count_157 : decode cX3_count 157 = .ok (.iload_n 3, 1) := dk_29 (dk_at dksX3_count_5 13 rfl rfl)
theorem dX3_count_158 : decode cX3_count 158 = .ok (.ishl, 1) := dk_120 (dk_at dksX3_count_5 14 rfl rfl)
theorem dX3_count_159 : decode cX3_count 159 = .ok (.ior, 1) := dk_128 (dk_at dksX3_count_5 15 rfl rfl)
theorem dX3_count_160 : decode cX3_count 160 = .ok (.istore_n 2, 1) := dk_61 (dk_at dksX3_count_5 16 rfl rfl)
theorem dX3_count_161 : decode cX3_count 161 = .ok (.iinc 3 1, 3) := dk_132 3 1 (dk_at dksX3_count_5 17 rfl rfl)
theorem dX3_count_164 : decode cX3_count 164 = .ok (.goto (-35), 3) := dk_167 255 221 (dk_at dksX3_count_5 20 rfl rfl)
theorem dX3_count_167 : decode cX3_count 167 = .ok (.iload_n 2, 1) := dk_28 (dk_at dksX3_count_5 23 rfl rfl)
theorem dX3_count_168 : decode cX3_count 168 = .ok (.ireturn, 1) := dk_172 (dk_at dksX3_count_6 0 rfl rfl)
theorem dX3_count_169 : decode cX3_count 169 = .ok (.aload_n 0, 1) := dk_42 (dk_at dksX3_count_6 1 rfl rfl)
theorem dX3_count_170 : decode cX3_count 170 = .ok (.getfield 171, 3) := dk_180 0 171 (dk_at dksX3_count_6 2 rfl rfl)
theorem dX3_count_173 : decode cX3_count 173 = .ok (.ireturn, 1) := dk_172 (dk_at dksX3_count_6 5 rfl rfl)
theorem dX3_count_174 : decode cX3_count 174 = .ok (.aload_n 0, 1) := dk_42 (dk_at dksX3_count_6 6 rfl rfl)
theorem dX3_count_175 : decode cX3_count 175 = .ok (.getfield 113, 3) := dk_180 0 113 (dk_at dksX3_count_6 7 rfl rfl)
theorem dX3_count_178 : decode cX3_count 178 = .ok (.ireturn, 1) := dk_172 (dk_at dksX3_count_6 10 rfl rfl)
theorem dX3_count_179 : decode cX3_count 179 = .ok (.aload_n 0, 1) := dk_42 (dk_at dksX3_count_6 11 rfl rfl)
theorem dX3_count_180 : decode cX3_count 180 = .ok (.getfield 126, 3) := dk_180 0 126 (dk_at dksX3_count_6 12 rfl rfl)
theorem dX3_count_183 : decode cX3_count 183 = .ok (.ireturn, 1) := dk_172 (dk_at dksX3_count_6 15 rfl rfl)
theorem dX3_count_184 : decode cX3_count 184 = .ok (.iconst (-1), 1) := dk_2 (dk_at dksX3_count_6 16 rfl rfl)
theorem dX3_count_185 : decode cX3_count 185 = .ok (.ireturn, 1) := dk_172 (dk_at dksX3_count_6 17 rfl rfl)
def dkwX3_sumOf_1 : List UInt8 := [132, 4, 1, 167, 255, 235, 29, 172]
abbrev dktX3_sumOf_1 : List UInt8 := dkwX3_sumOf_1 ++ []
def dkwX3_sumOf_0 : List UInt8 := [3, 62, 3, 54, 4, 21, 4, 28, 162, 0, 21, 29, 42, 180, 0, 9, 27, 21, 4, 96, 46, 96, 62]
abbrev dktX3_sumOf_0 : List UInt8 := dkwX3_sumOf_0 ++ dktX3_sumOf_1
theorem dksX3_sumOf_0 : cX3_sumOf.data.toList.drop 0 = dktX3_sumOf_0 := by decide +kernel
theorem dksX3_sumOf_1 : cX3_sumOf.data.toList.drop 23 = dktX3_sumOf_1 := dk_seg dksX3_sumOf_0 23 rfl rfl
theorem dX3_sumOf_0 : decode cX3_sumOf 0 = .ok (.iconst 0, 1) := dk_3 (dk_at dksX3_sumOf_0 0 rfl rfl)
theorem dX3_sumOf_1 : decode cX3_sumOf 1 = .ok (.istore_n 3, 1) := dk_62 (dk_at dksX3_sumOf_0 1 rfl rfl)
theorem dX3_sumOf_2 : decode cX3_sumOf 2 = .ok (.iconst 0, 1) := dk_3 (dk_at dksX3_sumOf_0 2 rfl rfl)
theorem dX3_sumOf_3 : decode cX3_sumOf 3 = .ok (.istore 4, 2) := dk_54 4 (dk_at dksX3_sumOf_0 3 rfl rfl)
theorem dX3_sumOf_5 : decode cX3_sumOf 5 = .ok (.iload 4, 2) := dk_21 4 (dk_at dksX3_sumOf_0 5 rfl rfl)
theorem dX3_sumOf_7 : decode cX3_sumOf 7 = .ok (.iload_n 2, 1) := dk_28 (dk_at dksX3_sumOf_0 7 rfl rfl)
theorem dX3_sumOf_8 : decode cX3_sumOf 8 = .ok (.if_icmp .ge 21, 3) := dk_162 0 21 (dk_at dksX3_sumOf_0 8 rfl rfl)
theorem dX3_sumOf_11 : decode cX3_sumOf 11 = .ok (.iload_n 3, 1) := dk_29 (dk_at dksX3_sumOf_0 11 rfl rfl)
theorem dX3_sumOf_12 : decode cX3_sumOf 12 = .ok (.aload_n 0, 1) := dk_42 (dk_at dksX3_sumOf_0 12 rfl rfl)
theorem dX3_sumOf_13 : decode cX3_sumOf 13 = .ok (.getfield 9, 3) := dk_180 0 9 (dk_at dksX3_sumOf_0 13 rfl rfl)
theorem dX3_sumOf_16 : decode cX3_sumOf 16 = .ok (.iload_n 1, 1) := dk_27 (dk_at dksX3_sumOf_0 16 rfl rfl)
theorem dX3_sumOf_17 : decode cX3_sumOf 17 = .ok (.iload 4, 2) := dk_21 4 (dk_at dksX3_sumOf_0 17 rfl rfl)
theorem dX3_sumOf_19 : decode cX3_sumOf 19 = .ok (.iadd, 1) := dk_96 (dk_at dksX3_sumOf_0 19 rfl rfl)
theorem dX3_sumOf_20 : decode cX3_sumOf 20 = .ok (.iaload, 1) := dk_46 (dk_at dksX3_sumOf_0 20 rfl rfl)
theorem dX3_sumOf_21 : decode cX3_sumOf 21 = .ok (.iadd, 1) := dk_96 (dk_at dksX3_sumOf_0 21 rfl rfl)
theorem dX3_sumOf_22 : decode cX3_sumOf 22 = .ok (.istore_n 3, 1) := dk_62 (dk_at dksX3_sumOf_0 22 rfl rfl)
theorem dX3_sumOf_23 : decode cX3_sumOf 23 = .ok (.iinc 4 1, 3) := dk_132 4 1 (dk_at dksX3_sumOf_1 0 rfl rfl)
theorem dX3_sumOf_26 : decode cX3_sumOf 26 = .ok (.goto (-21), 3) := dk_167 255 235 (dk_at dksX3_sumOf_1 3 rfl rfl)
theorem dX3_sumOf_29 : decode cX3_sumOf 29 = .ok (.iload_n 3, 1) := dk_29 (dk_at dksX3_sumOf_1 6 rfl rfl)
theorem dX3_sumOf_30 : decode cX3_sumOf 30 = .ok (.ireturn, 1) := dk_172 (dk_at dksX3_sumOf_1 7 rfl rfl)
def dkwX3_row_1 : List UInt8 := [47, 167, 0, 8, 42, 182, 0, 245, 133, 173]
abbrev dktX3_row_1 : List UInt8 := dkwX3_row_1 ++ []
def dkwX3_row_0 : List UInt8 := [42, 3, 181, 0, 110, 27, 3, 42, 180, 0, 113, 4, 100, 184, 0, 116, 153, 0, 12, 42, 180, 0, 33, 27]
abbrev dktX3_row_0 : List UInt8 := dkwX3_row_0 ++ dktX3_row_1
theorem dksX3_row_0 : cX3_row.data.toList.drop 0 = dktX3_row_0 := by decide +kernel
theorem dksX3_row_1 : cX3_row.data.toList.drop 24 = dktX3_row_1 := dk_seg dksX3_row_0 24 rfl rfl
theorem dX3_row_0 : decode cX3_row 0 = .ok (.aload_n 0, 1) := dk_42 (dk_at dksX3_row_0 0 rfl rfl)
theorem dX3_row_1 : decode cX3_row 1 = .ok (.iconst 0, 1) := dk_3 (dk_at dksX3_row_0 1 rfl rfl)
theorem dX3_row_2 : decode cX3_row 2 = .ok (.putfield 110, 3) := dk_181 0 110 (dk_at dksX3_row_0 2 rfl rfl)
theorem dX3_row_5 : decode cX3_row 5 = .ok (.iload_n 1, 1) := dk_27 (dk_at dksX3_row_0 5 rfl rfl)
theorem dX3_row_6 : decode cX3_row 6 = .ok (.iconst 0, 1) := dk_3 (dk_at dksX3_row_0 6 rfl rfl)
theorem dX3_row_7 : decode cX3_row 7 = .ok (.aload_n 0, 1) := dk_42 (dk_at dksX3_row_0 7 rfl rfl)
theorem dX3_row_8 : decode cX3_row 8 = .ok (.getfield 113, 3) := dk_180 0 113 (dk_at dksX3_row_0 8 rfl rfl)
theorem dX3_row_11 : decode cX3_row 11 = .ok (.iconst 1, 1) := dk_4 (dk_at dksX3_row_0 11 rfl rfl)
theorem dX3_row_12 : decode cX3_row 12 = .ok (.isub, 1) := dk_100 (dk_at dksX3_row_0 12 rfl rfl)
theorem dX3_row_13 : decode cX3_row 13 = .ok (.invokestatic 116, 3) := dk_184 0 116 (dk_at dksX3_row_0 13 rfl rfl)
theorem dX3_row_16 : decode cX3_row 16 = .ok (.ifCond .eq 12, 3) := dk_153 0 12 (dk_at dksX3_row_0 16 rfl rfl)
theorem dX3_row_19 : decode cX3_row 19 = .ok (.aload_n 0, 1) := dk_42 (dk_at dksX3_row_0 19 rfl rfl)
theorem dX3_row_20 : decode cX3_row 20 = .ok (.getfield 33, 3) := dk_180 0 33 (dk_at dksX3_row_0 20 rfl rfl)
theorem dX3_row_23 : decode cX3_row 23 = .ok (.iload_n 1, 1) := dk_27 (dk_at dksX3_row_0 23 rfl rfl)
theorem dX3_row_24 : decode cX3_row 24 = .ok (.laload, 1) := dk_47 (dk_at dksX3_row_1 0 rfl rfl)
theorem dX3_row_25 : decode cX3_row 25 = .ok (.goto 8, 3) := dk_167 0 8 (dk_at dksX3_row_1 1 rfl rfl)
theorem dX3_row_28 : decode cX3_row 28 = .ok (.aload_n 0, 1) := dk_42 (dk_at dksX3_row_1 4 rfl rfl)
theorem dX3_row_29 : decode cX3_row 29 = .ok (.invokevirtual 245, 3) := dk_182 0 245 (dk_at dksX3_row_1 5 rfl rfl)
theorem dX3_row_32 : decode cX3_row 32 = .ok (.i2l, 1) := dk_133 (dk_at dksX3_row_1 8 rfl rfl)
theorem dX3_row_33 : decode cX3_row 33 = .ok (.lreturn, 1) := dk_173 (dk_at dksX3_row_1 9 rfl rfl)
