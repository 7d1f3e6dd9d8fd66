set_option maxRecDepth 100000
def dkwX1_greed_3 : List UInt8 := [182, 1, 136, 28, 172]
abbrev dktX1_greed_3 : List UInt8 := dkwX1_greed_3 ++ []
def dkwX1_greed_2 : List UInt8 := [42, 3, 181, 1, 133, 42, 42, 27, 28, 182, 2, 10, 133, 182, 1, 136, 42, 42, 27, 3, 182, 2, 10, 133]
abbrev dktX1_greed_2 : List UInt8 := dkwX1_greed_2 ++ dktX1_greed_3
def dkwX1_greed_1 : List UInt8 := [182, 2, 10, 42, 27, 28, 182, 2, 10, 164, 0, 7, 29, 167, 0, 4, 28, 61, 132, 3, 1, 167, 255, 226]
abbrev dktX1_greed_1 : List UInt8 := dkwX1_greed_1 ++ dktX1_greed_2
def dkwX1_greed_0 : List UInt8 := [42, 27, 182, 1, 112, 154, 0, 5, 2, 172, 3, 61, 4, 62, 29, 16, 99, 163, 0, 30, 42, 27, 29]
abbrev dktX1_greed_0 : List UInt8 := dkwX1_greed_0 ++ dktX1_greed_1
theorem dksX1_greed_0 : cX1_greed.data.toList.drop 0 = dktX1_greed_0 := by decide +kernel
theorem dksX1_greed_1 : cX1_greed.data.toList.drop 23 = dktX1_greed_1 := dk_seg dksX1_greed_0 23 rfl rfl
theorem dksX1_greed_2 : cX1_greed.data.toList.drop 47 = dktX1_greed_2 := dk_seg dksX1_greed_1 24 rfl rfl
theorem dksX1_greed_3 : cX1_greed.data.toList.drop 71 = dktX1_greed_3 := dk_seg dksX1_greed_2 24 rfl rfl
theorem dX1_greed_0 : decode cX1_greed 0 = .ok (.aload_n 0, 1) := dk_42 (dk_at dksX1_greed_0 0 rfl rfl)
theorem dX1_greed_1 : decode cX1_greed 1 = .ok (.iload_n 1, 1) := dk_27 (dk_at dksX1_greed_0 1 rfl rfl)
theorem dX1_greed_2 : decode cX1_greed 2 = .ok (.invokevirtual 368, 3) := dk_182 1 112 (dk_at dksX1_greed_0 2 rfl rfl)
theorem dX1_greed_5 : decode cX1_greed 5 = .ok (.ifCond .ne 5, 3) := dk_154 0 5 (dk_at dksX1_greed_0 5 rfl rfl)
theorem dX1_greed_8 : decode cX1_greed 8 = .ok (.iconst (-1), 1) := dk_2 (dk_at dksX1_greed_0 8 rfl rfl)
theorem dX1_greed_9 : decode cX1_greed 9 = .ok (.ireturn, 1) := dk_172 (dk_at dksX1_greed_0 9 rfl rfl)
theorem dX1_greed_10 : decode cX1_greed 10 = .ok (.iconst 0, 1) := dk_3 (dk_at dksX1_greed_0 10 rfl rfl)
theorem dX1_greed_11 : decode cX1_greed 11 = .ok (.istore_n 2, 1) := dk_61 (dk_at dksX1_greed_0 11 rfl rfl)
theorem dX1_greed_12 : decode cX1_greed 12 = .ok (.iconst 1, 1) := dk_4 (dk_at dksX1_greed_0 12 rfl rfl)
theorem dX1_greed_13 : decode cX1_greed 13 = .ok (.istore_n 3, 1) := dk_62 (dk_at dksX1_greed_0 13 rfl rfl)
theorem dX1_greed_14 : decode cX1_greed 14 = .ok (.iload_n 3, 1) := dk_29 (dk_at dksX1_greed_0 14 rfl rfl)
theorem dX1_greed_15 : decode cX1_greed 15 = .ok (.bipush 99, 2) := dk_16 99 (dk_at dksX1_greed_0 15 rfl rfl)
theorem dX1_greed_17 : decode cX1_greed 17 = .ok (.if_icmp .gt 30, 3) := dk_163 0 30 (dk_at dksX1_greed_0 17 rfl rfl)
theorem dX1_greed_20 : decode cX1_greed 20 = .ok (.aload_n 0, 1) := dk_42 (dk_at dksX1_greed_0 20 rfl rfl)
theorem dX1_greed_21 : decode cX1_greed 21 = .ok (.iload_n 1, 1) := dk_27 (dk_at dksX1_greed_0 21 rfl rfl)
theorem dX1_greed_22 : decode cX1_greed 22 = .ok (.iload_n 3, 1) := dk_29 (dk_at dksX1_greed_0 22 rfl rfl)
theorem dX1_greed_23 : decode cX1_greed 23 = .ok (.invokevirtual 522, 3) := dk_182 2 10 (dk_at dksX1_greed_1 0 rfl rfl)
theorem dX1_greed_26 : decode cX1_greed 26 = .ok (.aload_n 0, 1) := dk_42 (dk_at dksX1_greed_1 3 rfl rfl)
theorem dX1_greed_27 : decode cX1_greed 27 = .ok (.iload_n 1, 1) := dk_27 (dk_at dksX1_greed_1 4 rfl rfl)
theorem dX1_greed_28 : decode cX1_greed 28 = .ok (.iload_n 2, 1) := dk_28 (dk_at dksX1_greed_1 5 rfl rfl)
theorem dX1_greed_29 : decode cX1_greed 29 = .ok (.invokevirtual 522, 3) := dk_182 2 10 (dk_at dksX1_greed_1 6 rfl rfl)
theorem dX1_greed_32 : decode cX1_greed 32 = .ok (.if_icmp .le 7, 3) := dk_164 0 7 (dk_at dksX1_greed_1 9 rfl rfl)
theorem dX1_greed_35 : decode cX1_greed 35 = .ok (.iload_n 3, 1) := dk_29 (dk_at dksX1_greed_1 12 rfl rfl)
theorem dX1_greed_36 : decode cX1_greed 36 = .ok (.goto 4, 3) := dk_167 0 4 (dk_at dksX1_greed_1 13 rfl rfl)
theorem dX1_greed_39 : decode cX1_greed 39 = .ok (.iload_n 2, 1) := dk_28 (dk_at dksX1_greed_1 16 rfl rfl)
theorem dX1_greed_40 : decode cX1_greed 40 = .ok (.istore_n 2, 1) := dk_61 (dk_at dksX1_greed_1 17 rfl rfl)
theorem dX1_greed_41 : decode cX1_greed 41 = .ok (.iinc 3 1, 3) := dk_132 3 1 (dk_at dksX1_greed_1 18 rfl rfl)
theorem dX1_greed_44 : decode cX1_greed 44 = .ok (.goto (-30), 3) := dk_167 255 226 (dk_at dksX1_greed_1 21 rfl rfl)
theorem dX1_greed_47 : decode cX1_greed 47 = .ok (.aload_n 0, 1) := dk_42 (dk_at dksX1_greed_2 0 rfl rfl)
theorem dX1_greed_48 : decode cX1_greed 48 = .ok (.iconst 0, 1) := dk_3 (dk_at dksX1_greed_2 1 rfl rfl)
theorem dX1_greed_49 : decode cX1_greed 49 = .ok (.putfield 389, 3) := dk_181 1 133 (dk_at dksX1_greed_2 2 rfl rfl)
theorem dX1_greed_52 : decode cX1_greed 52 = .ok (.aload_n 0, 1) := dk_42 (dk_at dksX1_greed_2 5 rfl rfl)
theorem dX1_greed_53 : decode cX1_greed 53 = .ok (.aload_n 0, 1) := dk_42 (dk_at dksX1_greed_2 6 rfl rfl)
theorem dX1_greed_54 : decode cX1_greed 54 = .ok (.iload_n 1, 1) := dk_27 (dk_at dksX1_greed_2 7 rfl rfl)
theorem dX1_greed_55 : decode cX1_greed 55 = .ok (.iload_n 2, 1) := dk_28 (dk_at dksX1_greed_2 8 rfl rfl)
theorem dX1_greed_56 : decode cX1_greed 56 = .ok (.invokevirtual 522, 3) := dk_182 2 10 (dk_at dksX1_greed_2 9 rfl rfl)
theorem dX1_greed_59 : decode cX1_greed 59 = .ok (.i2l, 1) := dk_133 (dk_at dksX1_greed_2 12 rfl rfl)
theorem dX1_greed_60 : decode cX1_greed 60 = .ok (.invokevirtual 392, 3) := dk_182 1 136 (dk_at dksX1_greed_2 13 rfl rfl)
theorem dX1_greed_63 : decode cX1_greed 63 = .ok (.aload_n 0, 1) := dk_42 (dk_at dksX1_greed_2 16 rfl rfl)
theorem dX1_greed_64 : decode cX1_greed 64 = .ok (.aload_n 0, 1) := dk_42 (dk_at dksX1_greed_2 17 rfl rfl)
theorem dX1_greed_65 : decode cX1_greed 65 = .ok (.iload_n 1, 1) := dk_27 (dk_at dksX1_greed_2 18 rfl rfl)
theorem dX1_greed_66 : decode cX1_greed 66 = .ok (.iconst 0, 1) := dk_3 (dk_at dksX1_greed_2 19 rfl rfl)
theorem dX1_greed_67 : decode cX1_greed 67 = .ok (.invokevirtual 522, 3) := dk_182 2 10 (dk_at dksX1_greed_2 20 rfl rfl)
theorem dX1_greed_70 : decode cX1_greed 70 = .ok (.i2l, 1) := dk_133 (dk_at dksX1_greed_2 23 rfl rfl)
theorem dX1_greed_71 : decode cX1_greed 71 = .ok (.invokevirtual 392, 3) := dk_182 1 136 (dk_at dksX1_greed_3 0 rfl rfl)
theorem dX1_greed_74 : decode cX1_greed 74 = .ok (.iload_n 2, 1) := dk_28 (dk_at dksX1_greed_3 3 rfl rfl)
theorem dX1_greed_75 : decode cX1_greed 75 = .ok (.ireturn, 1) := dk_172 (dk_at dksX1_greed_3 4 rfl rfl)
def dkwX1_law_6 : List UInt8 := [182, 1, 136, 21, 4, 172]
abbrev dktX1_law_6 : List UInt8 := dkwX1_law_6 ++ []
def dkwX1_law_5 : List UInt8 := [54, 6, 132, 7, 1, 167, 255, 173, 42, 3, 181, 1, 133, 42, 21, 5, 133, 182, 1, 136, 42, 21, 6, 133]
abbrev dktX1_law_5 : List UInt8 := dkwX1_law_5 ++ dktX1_law_6
def dkwX1_law_4 : List UInt8 := [3, 96, 54, 4, 21, 5, 21, 9, 156, 0, 7, 4, 167, 0, 4, 3, 96, 54, 5, 21, 6, 21, 9, 96]
abbrev dktX1_law_4 : List UInt8 := dkwX1_law_4 ++ dktX1_law_5
def dkwX1_law_3 : List UInt8 := [182, 1, 199, 21, 8, 100, 54, 9, 42, 45, 181, 1, 55, 21, 4, 21, 9, 158, 0, 7, 4, 167, 0, 4]
abbrev dktX1_law_3 : List UInt8 := dkwX1_law_3 ++ dktX1_law_4
def dkwX1_law_2 : List UInt8 := [162, 0, 80, 42, 21, 7, 27, 182, 1, 199, 54, 8, 42, 42, 180, 1, 48, 181, 1, 55, 42, 21, 7, 27]
abbrev dktX1_law_2 : List UInt8 := dkwX1_law_2 ++ dktX1_law_3
def dkwX1_law_1 : List UInt8 := [180, 1, 55, 78, 3, 54, 4, 3, 54, 5, 3, 54, 6, 3, 54, 7, 21, 7, 42, 180, 0, 145]
abbrev dktX1_law_1 : List UInt8 := dkwX1_law_1 ++ dktX1_law_2
def dkwX1_law_0 : List UInt8 := [42, 182, 1, 52, 61, 42, 27, 182, 1, 112, 154, 0, 6, 16, 156, 172, 28, 156, 0, 5, 28, 172, 42]
abbrev dktX1_law_0 : List UInt8 := dkwX1_law_0 ++ dktX1_law_1
theorem dksX1_law_0 : cX1_law.data.toList.drop 0 = dktX1_law_0 := by decide +kernel
theorem dksX1_law_1 : cX1_law.data.toList.drop 23 = dktX1_law_1 := dk_seg dksX1_law_0 23 rfl rfl
theorem dksX1_law_2 : cX1_law.data.toList.drop 45 = dktX1_law_2 := dk_seg dksX1_law_1 22 rfl rfl
theorem dksX1_law_3 : cX1_law.data.toList.drop 69 = dktX1_law_3 := dk_seg dksX1_law_2 24 rfl rfl
theorem dksX1_law_4 : cX1_law.data.toList.drop 93 = dktX1_law_4 := dk_seg dksX1_law_3 24 rfl rfl
theorem dksX1_law_5 : cX1_law.data.toList.drop 117 = dktX1_law_5 := dk_seg dksX1_law_4 24 rfl rfl
theorem dksX1_law_6 : cX1_law.data.toList.drop 141 = dktX1_law_6 := dk_seg dksX1_law_5 24 rfl rfl
theorem dX1_law_0 : decode cX1_law 0 = .ok (.aload_n 0, 1) := dk_42 (dk_at dksX1_law_0 0 rfl rfl)
theorem dX1_law_1 : decode cX1_law 1 = .ok (.invokevirtual 308, 3) := dk_182 1 52 (dk_at dksX1_law_0 1 rfl rfl)
theorem dX1_law_4 : decode cX1_law 4 = .ok (.istore_n 2, 1) := dk_61 (dk_at dksX1_law_0 4 rfl rfl)
theorem dX1_law_5 : decode cX1_law 5 = .ok (.aload_n 0, 1) := dk_42 (dk_at dksX1_law_0 5 rfl rfl)
theorem dX1_law_6 : decode cX1_law 6 = .ok (.iload_n 1, 1) := dk_27 (dk_at dksX1_law_0 6 rfl rfl)
theorem dX1_law_7 : decode cX1_law 7 = .ok (.invokevirtual 368, 3) := dk_182 1 112 (dk_at dksX1_law_0 7 rfl rfl)
theorem dX1_law_10 : decode cX1_law 10 = .ok (.ifCond .ne 6, 3) := dk_154 0 6 (dk_at dksX1_law_0 10 rfl rfl)
theorem dX1_law_13 : decode cX1_law 13 = .ok (.bipush (-100), 2) := dk_16 156 (dk_at dksX1_law_0 13 rfl rfl)
theorem dX1_law_15 : decode cX1_law 15 = .ok (.ireturn, 1) := dk_172 (dk_at dksX1_law_0 15 rfl rfl)
theorem dX1_law_16 : decode cX1_law 16 = .ok (.iload_n 2, 1) := dk_28 (dk_at dksX1_law_0 16 rfl rfl)
theorem dX1_law_17 : decode cX1_law 17 = .ok (.ifCond .ge 5, 3) := dk_156 0 5 (dk_at dksX1_law_0 17 rfl rfl)
theorem dX1_law_20 : decode cX1_law 20 = .ok (.iload_n 2, 1) := dk_28 (dk_at dksX1_law_0 20 rfl rfl)
theorem dX1_law_21 : decode cX1_law 21 = .ok (.ireturn, 1) := dk_172 (dk_at dksX1_law_0 21 rfl rfl)
theorem dX1_law_22 : decode cX1_law 22 = .ok (.aload_n 0, 1) := dk_42 (dk_at dksX1_law_0 22 rfl rfl)
theorem dX1_law_23 : decode cX1_law 23 = .ok (.getfield 311, 3) := dk_180 1 55 (dk_at dksX1_law_1 0 rfl rfl)
theorem dX1_law_26 : decode cX1_law 26 = .ok (.astore_n 3, 1) := dk_78 (dk_at dksX1_law_1 3 rfl rfl)
theorem dX1_law_27 : decode cX1_law 27 = .ok (.iconst 0, 1) := dk_3 (dk_at dksX1_law_1 4 rfl rfl)
theorem dX1_law_28 : decode cX1_law 28 = .ok (.istore 4, 2) := dk_54 4 (dk_at dksX1_law_1 5 rfl rfl)
theorem dX1_law_30 : decode cX1_law 30 = .ok (.iconst 0, 1) := dk_3 (dk_at dksX1_law_1 7 rfl rfl)
theorem dX1_law_31 : decode cX1_law 31 = .ok (.istore 5, 2) := dk_54 5 (dk_at dksX1_law_1 8 rfl rfl)
theorem dX1_law_33 : decode cX1_law 33 = .ok (.iconst 0, 1) := dk_3 (dk_at dksX1_law_1 10 rfl rfl)
theorem dX1_law_34 : decode cX1_law 34 = .ok (.istore 6, 2) := dk_54 6 (dk_at dksX1_law_1 11 rfl rfl)
theorem dX1_law_36 : decode cX1_law 36 = .ok (.iconst 0, 1) := dk_3 (dk_at dksX1_law_1 13 rfl rfl)
theorem dX1_law_37 : decode cX1_law 37 = .ok (.istore 7, 2) := dk_54 7 (dk_at dksX1_law_1 14 rfl rfl)
theorem dX1_law_39 : decode cX1_law 39 = .ok (.iload 7, 2) := dk_21 7 (dk_at dksX1_law_1 16 rfl rfl)
theorem dX1_law_41 : decode cX1_law 41 = .ok (.aload_n 0, 1) := dk_42 (dk_at dksX1_law_1 18 rfl rfl)
theorem dX1_law_42 : decode cX1_law 42 = .ok (.getfield 145, 3) := dk_180 0 145 (dk_at dksX1_law_1 19 rfl rfl)
theorem dX1_law_45 : decode cX1_law 45 = .ok (.if_icmp .ge 80, 3) := dk_162 0 80 (dk_at dksX1_law_2 0 rfl rfl)
theorem dX1_law_48 : decode cX1_law 48 = .ok (.aload_n 0, 1) := dk_42 (dk_at dksX1_law_2 3 rfl rfl)
theorem dX1_law_49 : decode cX1_law 49 = .ok (.iload 7, 2) := dk_21 7 (dk_at dksX1_law_2 4 rfl rfl)
theorem dX1_law_51 : decode cX1_law 51 = .ok (.iload_n 1, 1) := dk_27 (dk_at dksX1_law_2 6 rfl rfl)
theorem dX1_law_52 : decode cX1_law 52 = .ok (.invokevirtual 455, 3) := dk_182 1 199 (dk_at dksX1_law_2 7 rfl rfl)
theorem dX1_law_55 : decode cX1_law 55 = .ok (.istore 8, 2) := dk_54 8 (dk_at dksX1_law_2 10 rfl rfl)
theorem dX1_law_57 : decode cX1_law 57 = .ok (.aload_n 0, 1) := dk_42 (dk_at dksX1_law_2 12 rfl rfl)
theorem dX1_law_58 : decode cX1_law 58 = .ok (.aload_n 0, 1) := dk_42 (dk_at dksX1_law_2 13 rfl rfl)
theorem dX1_law_59 : decode cX1_law 59 = .ok (.getfield 304, 3) := dk_180 1 48 (dk_at dksX1_law_2 14 rfl rfl)
theorem dX1_law_62 : decode cX1_law 62 = .ok (.putfield 311, 3) := dk_181 1 55 (dk_at dksX1_law_2 17 rfl rfl)
theorem dX1_law_65 : decode cX1_law 65 = .ok (.aload_n 0, 1) := dk_42 (dk_at dksX1_law_2 20 rfl rfl)
theorem dX1_law_66 : decode cX1_law 66 = .ok (.iload 7, 2) := dk_21 7 (dk_at dksX1_law_2 21 rfl rfl)
theorem dX1_law_68 : decode cX1_law 68 = .ok (.iload_n 1, 1) := dk_27 (dk_at dksX1_law_2 23 rfl rfl)
theorem dX1_law_69 : decode cX1_law 69 = .ok (.invokevirtual 455, 3) := dk_182 1 199 (dk_at dksX1_law_3 0 rfl rfl)
theorem dX1_law_72 : decode cX1_law 72 = .ok (.iload 8, 2) := dk_21 8 (dk_at dksX1_law_3 3 rfl rfl)
theorem dX1_law_74 : decode cX1_law 74 = .ok (.isub, 1) := dk_100 (dk_at dksX1_law_3 5 rfl rfl)
theorem dX1_law_75 : decode cX1_law 75 = .ok (.istore 9, 2) := dk_54 9 (dk_at dksX1_law_3 6 rfl rfl)
theorem dX1_law_77 : decode cX1_law 77 = .ok (.aload_n 0, 1) := dk_42 (dk_at dksX1_law_3 8 rfl rfl)
theorem dX1_law_78 : decode cX1_law 78 = .ok (.aload_n 3, 1) := dk_45 (dk_at dksX1_law_3 9 rfl rfl)
theorem dX1_law_79 : decode cX1_law 79 = .ok (.putfield 311, 3) := dk_181 1 55 (dk_at dksX1_law_3 10 rfl rfl)
theorem dX1_law_82 : decode cX1_law 82 = .ok (.iload 4, 2) := dk_21 4 (dk_at dksX1_law_3 13 rfl rfl)
theorem dX1_law_84 : decode cX1_law 84 = .ok (.iload 9, 2) := dk_21 9 (dk_at dksX1_law_3 15 rfl rfl)
theorem dX1_law_86 : decode cX1_law 86 = .ok (.ifCond .le 7, 3) := dk_158 0 7 (dk_at dksX1_law_3 17 rfl rfl)
theorem dX1_law_89 : decode cX1_law 89 = .ok (.iconst 1, 1) := dk_4 (dk_at dksX1_law_3 20 rfl rfl)
theorem dX1_law_90 : decode cX1_law 90 = .ok (.goto 4, 3) := dk_167 0 4 (dk_at dksX1_law_3 21 rfl rfl)
theorem dX1_law_93 : decode cX1_law 93 = .ok (.iconst 0, 1) := dk_3 (dk_at dksX1_law_4 0 rfl rfl)
theorem dX1_law_94 : decode cX1_law 94 = .ok (.iadd, 1) := dk_96 (dk_at dksX1_law_4 1 rfl rfl)
theorem dX1_law_95 : decode cX1_law 95 = .ok (.istore 4, 2) := dk_54 4 (dk_at dksX1_law_4 2 rfl rfl)
theorem dX1_law_97 : decode cX1_law 97 = .ok (.iload 5, 2) := dk_21 5 (dk_at dksX1_law_4 4 rfl rfl)
theorem dX1_law_99 : decode cX1_law 99 = .ok (.iload 9, 2) := dk_21 9 (dk_at dksX1_law_4 6 rfl rfl)
theorem dX1_law_101 : decode cX1_law 101 = .ok (.ifCond .ge 7, 3) := dk_156 0 7 (dk_at dksX1_law_4 8 rfl rfl)
theorem dX1_law_104 : decode cX1_law 104 = .ok (.iconst 1, 1) := dk_4 (dk_at dksX1_law_4 11 rfl rfl)
theorem dX1_law_105 : decode cX1_law 105 = .ok (.goto 4, 3) := dk_167 0 4 (dk_at dksX1_law_4 12 rfl rfl)
theorem dX1_law_108 : decode cX1_law 108 = .ok (.iconst 0, 1) := dk_3 (dk_at dksX1_law_4 15 rfl rfl)
theorem dX1_law_109 : decode cX1_law 109 = .ok (.iadd, 1) := dk_96 (dk_at dksX1_law_4 16 rfl rfl)
theorem dX1_law_110 : decode cX1_law 110 = .ok (.istore 5, 2) := dk_54 5 (dk_at dksX1_law_4 17 rfl rfl)
theorem dX1_law_112 : decode cX1_law 112 = .ok (.iload 6, 2) := dk_21 6 (dk_at dksX1_law_4 19 rfl rfl)
theorem dX1_law_114 : decode cX1_law 114 = .ok (.iload 9, 2) := dk_21 9 (dk_at dksX1_law_4 21 rfl rfl)
theorem dX1_law_116 : decode cX1_law 116 = .ok (.iadd, 1) := dk_96 (dk_at dksX1_law_4 23 rfl rfl)
theorem dX1_law_117 : decode cX1_law 117 = .ok (.istore 6, 2) := dk_54 6 (dk_at dksX1_law_5 0 rfl rfl)
theorem dX1_law_119 : decode cX1_law 119 = .ok (.iinc 7 1, 3) := dk_132 7 1 (dk_at dksX1_law_5 2 rfl rfl)
theorem dX1_law_122 : decode cX1_law 122 = .ok (.goto (-83), 3) := dk_167 255 173 (dk_at dksX1_law_5 5 rfl rfl)
theorem dX1_law_125 : decode cX1_law 125 = .ok (.aload_n 0, 1) := dk_42 (dk_at dksX1_law_5 8 rfl rfl)
theorem dX1_law_126 : decode cX1_law 126 = .ok (.iconst 0, 1) := dk_3 (dk_at dksX1_law_5 9 rfl rfl)
theorem dX1_law_127 : decode cX1_law 127 = .ok (.putfield 389, 3) := dk_181 1 133 (dk_at dksX1_law_5 10 rfl rfl)
theorem dX1_law_130 : decode cX1_law 130 = .ok (.aload_n 0, 1) := dk_42 (dk_at dksX1_law_5 13 rfl rfl)
theorem dX1_law_131 : decode cX1_law 131 = .ok (.iload 5, 2) := dk_21 5 (dk_at dksX1_law_5 14 rfl rfl)
theorem dX1_law_133 : decode cX1_law 133 = .ok (.i2l, 1) := dk_133 (dk_at dksX1_law_5 16 rfl rfl)
theorem dX1_law_134 : decode cX1_law 134 = .ok (.invokevirtual 392, 3) := dk_182 1 136 (dk_at dksX1_law_5 17 rfl rfl)
theorem dX1_law_137 : decode cX1_law 137 = .ok (.aload_n 0, 1) := dk_42 (dk_at dksX1_law_5 20 rfl rfl)
theorem dX1_law_138 : decode cX1_law 138 = .ok (.iload 6, 2) := dk_21 6 (dk_at dksX1_law_5 21 rfl rfl)
theorem dX1_law_140 : decode cX1_law 140 = .ok (.i2l, 1) := dk_133 (dk_at dksX1_law_5 23 rfl rfl)
theorem dX1_law_141 : decode cX1_law 141 = .ok (.invokevirtual 392, 3) := dk_182 1 136 (dk_at dksX1_law_6 0 rfl rfl)
theorem dX1_law_144 : decode cX1_law 144 = .ok (.iload 4, 2) := dk_21 4 (dk_at dksX1_law_6 3 rfl rfl)
theorem dX1_law_146 : decode cX1_law 146 = .ok (.ireturn, 1) := dk_172 (dk_at dksX1_law_6 5 rfl rfl)
def dkwX1_said_5 : List UInt8 := [182, 1, 136, 132, 1, 1, 167, 255, 234, 42, 180, 2, 16, 172]
abbrev dktX1_said_5 : List UInt8 := dkwX1_said_5 ++ []
def dkwX1_said_4 : List UInt8 := [3, 181, 1, 133, 3, 60, 27, 42, 180, 2, 19, 162, 0, 20, 42, 42, 180, 0, 124, 27, 46, 133]
abbrev dktX1_said_4 : List UInt8 := dkwX1_said_4 ++ dktX1_said_5
def dkwX1_said_3 : List UInt8 := [181, 2, 19, 4, 60, 27, 7, 163, 0, 16, 42, 3, 27, 3, 182, 2, 25, 132, 1, 1, 167, 255, 241, 42]
abbrev dktX1_said_3 : List UInt8 := dkwX1_said_3 ++ dktX1_said_4
def dkwX1_said_2 : List UInt8 := [180, 0, 166, 42, 180, 0, 177, 162, 0, 10, 2, 42, 180, 0, 166, 100, 172, 42, 3, 181, 2, 16, 42, 3]
abbrev dktX1_said_2 : List UInt8 := dkwX1_said_2 ++ dktX1_said_3
def dkwX1_said_1 : List UInt8 := [79, 42, 180, 0, 118, 27, 46, 156, 0, 10, 2, 42, 180, 0, 166, 100, 172, 132, 1, 1, 167, 255, 221, 42]
abbrev dktX1_said_1 : List UInt8 := dkwX1_said_1 ++ dktX1_said_2
def dkwX1_said_0 : List UInt8 := [42, 16, 80, 182, 0, 206, 87, 3, 60, 27, 8, 162, 0, 36, 42, 180, 0, 118, 27, 42, 4, 182, 0, 238]
abbrev dktX1_said_0 : List UInt8 := dkwX1_said_0 ++ dktX1_said_1
theorem dksX1_said_0 : cX1_said.data.toList.drop 0 = dktX1_said_0 := by decide +kernel
theorem dksX1_said_1 : cX1_said.data.toList.drop 24 = dktX1_said_1 := dk_seg dksX1_said_0 24 rfl rfl
theorem dksX1_said_2 : cX1_said.data.toList.drop 48 = dktX1_said_2 := dk_seg dksX1_said_1 24 rfl rfl
theorem dksX1_said_3 : cX1_said.data.toList.drop 72 = dktX1_said_3 := dk_seg dksX1_said_2 24 rfl rfl
theorem dksX1_said_4 : cX1_said.data.toList.drop 96 = dktX1_said_4 := dk_seg dksX1_said_3 24 rfl rfl
theorem dksX1_said_5 : cX1_said.data.toList.drop 118 = dktX1_said_5 := dk_seg dksX1_said_4 22 rfl rfl
theorem dX1_said_0 : decode cX1_said 0 = .ok (.aload_n 0, 1) := dk_42 (dk_at dksX1_said_0 0 rfl rfl)
theorem dX1_said_1 : decode cX1_said 1 = .ok (.bipush 80, 2) := dk_16 80 (dk_at dksX1_said_0 1 rfl rfl)
theorem dX1_said_3 : decode cX1_said 3 = .ok (.invokevirtual 206, 3) := dk_182 0 206 (dk_at dksX1_said_0 3 rfl rfl)
theorem dX1_said_6 : decode cX1_said 6 = .ok (.pop, 1) := dk_87 (dk_at dksX1_said_0 6 rfl rfl)
theorem dX1_said_7 : decode cX1_said 7 = .ok (.iconst 0, 1) := dk_3 (dk_at dksX1_said_0 7 rfl rfl)
theorem dX1_said_8 : decode cX1_said 8 = .ok (.istore_n 1, 1) := dk_60 (dk_at dksX1_said_0 8 rfl rfl)
theorem dX1_said_9 : decode cX1_said 9 = .ok (.iload_n 1, 1) := dk_27 (dk_at dksX1_said_0 9 rfl rfl)
theorem dX1_said_10 : decode cX1_said 10 = .ok (.iconst 5, 1) := dk_8 (dk_at dksX1_said_0 10 rfl rfl)
theorem dX1_said_11 : decode cX1_said 11 = .ok (.if_icmp .ge 36, 3) := dk_162 0 36 (dk_at dksX1_said_0 11 rfl rfl)
theorem dX1_said_14 : decode cX1_said 14 = .ok (.aload_n 0, 1) := dk_42 (dk_at dksX1_said_0 14 rfl rfl)
theorem dX1_said_15 : decode cX1_said 15 = .ok (.getfield 118, 3) := dk_180 0 118 (dk_at dksX1_said_0 15 rfl rfl)
theorem dX1_said_18 : decode cX1_said 18 = .ok (.iload_n 1, 1) := dk_27 (dk_at dksX1_said_0 18 rfl rfl)
theorem dX1_said_19 : decode cX1_said 19 = .ok (.aload_n 0, 1) := dk_42 (dk_at dksX1_said_0 19 rfl rfl)
theorem dX1_said_20 : decode cX1_said 20 = .ok (.iconst 1, 1) := dk_4 (dk_at dksX1_said_0 20 rfl rfl)
theorem dX1_said_21 : decode cX1_said 21 = .ok (.invokevirtual 238, 3) := dk_182 0 238 (dk_at dksX1_said_0 21 rfl rfl)
theorem dX1_said_24 : decode cX1_said 24 = .ok (.iastore, 1) := dk_79 (dk_at dksX1_said_1 0 rfl rfl)
theorem dX1_said_25 : decode cX1_said 25 = .ok (.aload_n 0, 1) := dk_42 (dk_at dksX1_said_1 1 rfl rfl)
theorem dX1_said_26 : decode cX1_said 26 = .ok (.getfield 118, 3) := dk_180 0 118 (dk_at dksX1_said_1 2 rfl rfl)
theorem dX1_said_29 : decode cX1_said 29 = .ok (.iload_n 1, 1) := dk_27 (dk_at dksX1_said_1 5 rfl rfl)
theorem dX1_said_30 : decode cX1_said 30 = .ok (.iaload, 1) := dk_46 (dk_at dksX1_said_1 6 rfl rfl)
theorem dX1_said_31 : decode cX1_said 31 = .ok (.ifCond .ge 10, 3) := dk_156 0 10 (dk_at dksX1_said_1 7 rfl rfl)
theorem dX1_said_34 : decode cX1_said 34 = .ok (.iconst (-1), 1) := dk_2 (dk_at dksX1_said_1 10 rfl rfl)
theorem dX1_said_35 : decode cX1_said 35 = .ok (.aload_n 0, 1) := dk_42 (dk_at dksX1_said_1 11 rfl rfl)
theorem dX1_said_36 : decode cX1_said 36 = .ok (.getfield 166, 3) := dk_180 0 166 (dk_at dksX1_said_1 12 rfl rfl)
theorem dX1_said_39 : decode cX1_said 39 = .ok (.isub, 1) := dk_100 (dk_at dksX1_said_1 15 rfl rfl)
theorem dX1_said_40 : decode cX1_said 40 = .ok (.ireturn, 1) := dk_172 (dk_at dksX1_said_1 16 rfl rfl)
theorem dX1_said_41 : decode cX1_said 41 = .ok (.iinc 1 1, 3) := dk_132 1 1 (dk_at dksX1_said_1 17 rfl rfl)
theorem dX1_said_44 : decode cX1_said 44 = .ok (.goto (-35), 3) := dk_167 255 221 (dk_at dksX1_said_1 20 rfl rfl)
theorem dX1_said_47 : decode cX1_said 47 = .ok (.aload_n 0, 1) := dk_42 (dk_at dksX1_said_1 23 rfl rfl)
theorem dX1_said_48 : decode cX1_said 48 = .ok (.getfield 166, 3) := dk_180 0 166 (dk_at dksX1_said_2 0 rfl rfl)
theorem dX1_said_51 : decode cX1_said 51 = .ok (.aload_n 0, 1) := dk_42 (dk_at dksX1_said_2 3 rfl rfl)
theorem dX1_said_52 : decode cX1_said 52 = .ok (.getfield 177, 3) := dk_180 0 177 (dk_at dksX1_said_2 4 rfl rfl)
theorem dX1_said_55 : decode cX1_said 55 = .ok (.if_icmp .ge 10, 3) := dk_162 0 10 (dk_at dksX1_said_2 7 rfl rfl)
theorem dX1_said_58 : decode cX1_said 58 = .ok (.iconst (-1), 1) := dk_2 (dk_at dksX1_said_2 10 rfl rfl)
theorem dX1_said_59 : decode cX1_said 59 = .ok (.aload_n 0, 1) := dk_42 (dk_at dksX1_said_2 11 rfl rfl)
theorem dX1_said_60 : decode cX1_said 60 = .ok (.getfield 166, 3) := dk_180 0 166 (dk_at dksX1_said_2 12 rfl rfl)
theorem dX1_said_63 : decode cX1_said 63 = .ok (.isub, 1) := dk_100 (dk_at dksX1_said_2 15 rfl rfl)
theorem dX1_said_64 : decode cX1_said 64 = .ok (.ireturn, 1) := dk_172 (dk_at dksX1_said_2 16 rfl rfl)
theorem dX1_said_65 : decode cX1_said 65 = .ok (.aload_n 0, 1) := dk_42 (dk_at dksX1_said_2 17 rfl rfl)
theorem dX1_said_66 : decode cX1_said 66 = .ok (.iconst 0, 1) := dk_3 (dk_at dksX1_said_2 18 rfl rfl)
theorem dX1_said_67 : decode cX1_said 67 = .ok (.putfield 528, 3) := dk_181 2 16 (dk_at dksX1_said_2 19 rfl rfl)
theorem dX1_said_70 : decode cX1_said 70 = .ok (.aload_n 0, 1) := dk_42 (dk_at dksX1_said_2 22 rfl rfl)
theorem dX1_said_71 : decode cX1_said 71 = .ok (.iconst 0, 1) := dk_3 (dk_at dksX1_said_2 23 rfl rfl)
theorem dX1_said_72 : decode cX1_said 72 = .ok (.putfield 531, 3) := dk_181 2 19 (dk_at dksX1_said_3 0 rfl rfl)
theorem dX1_said_75 : decode cX1_said 75 = .ok (.iconst 1, 1) := dk_4 (dk_at dksX1_said_3 3 rfl rfl)
theorem dX1_said_76 : decode cX1_said 76 = .ok (.istore_n 1, 1) := dk_60 (dk_at dksX1_said_3 4 rfl rfl)
theorem dX1_said_77 : decode cX1_said 77 = .ok (.iload_n 1, 1) := dk_27 (dk_at dksX1_said_3 5 rfl rfl)
theorem dX1_said_78 : decode cX1_said 78 = .ok (.iconst 4, 1) := dk_7 (dk_at dksX1_said_3 6 rfl rfl)
theorem dX1_said_79 : decode cX1_said 79 = .ok (.if_icmp .gt 16, 3) := dk_163 0 16 (dk_at dksX1_said_3 7 rfl rfl)
theorem dX1_said_82 : decode cX1_said 82 = .ok (.aload_n 0, 1) := dk_42 (dk_at dksX1_said_3 10 rfl rfl)
theorem dX1_said_83 : decode cX1_said 83 = .ok (.iconst 0, 1) := dk_3 (dk_at dksX1_said_3 11 rfl rfl)
theorem dX1_said_84 : decode cX1_said 84 = .ok (.iload_n 1, 1) := dk_27 (dk_at dksX1_said_3 12 rfl rfl)
theorem dX1_said_85 : decode cX1_said 85 = .ok (.iconst 0, 1) := dk_3 (dk_at dksX1_said_3 13 rfl rfl)
theorem dX1_said_86 : decode cX1_said 86 = .ok (.invokevirtual 537, 3) := dk_182 2 25 (dk_at dksX1_said_3 14 rfl rfl)
theorem dX1_said_89 : decode cX1_said 89 = .ok (.iinc 1 1, 3) := dk_132 1 1 (dk_at dksX1_said_3 17 rfl rfl)
theorem dX1_said_92 : decode cX1_said 92 = .ok (.goto (-15), 3) := dk_167 255 241 (dk_at dksX1_said_3 20 rfl rfl)
theorem dX1_said_95 : decode cX1_said 95 = .ok (.aload_n 0, 1) := dk_42 (dk_at dksX1_said_3 23 rfl rfl)
theorem dX1_said_96 : decode cX1_said 96 = .ok (.iconst 0, 1) := dk_3 (dk_at dksX1_said_4 0 rfl rfl)
theorem dX1_said_97 : decode cX1_said 97 = .ok (.putfield 389, 3) := dk_181 1 133 (dk_at dksX1_said_4 1 rfl rfl)
theorem dX1_said_100 : decode cX1_said 100 = .ok (.iconst 0, 1) := dk_3 (dk_at dksX1_said_4 4 rfl rfl)
theorem dX1_said_101 : decode cX1_said 101 = .ok (.istore_n 1, 1) := dk_60 (dk_at dksX1_said_4 5 rfl rfl)
theorem dX1_said_102 : decode cX1_said 102 = .ok (.iload_n 1, 1) := dk_27 (dk_at dksX1_said_4 6 rfl rfl)
theorem dX1_said_103 : decode cX1_said 103 = .ok (.aload_n 0, 1) := dk_42 (dk_at dksX1_said_4 7 rfl rfl)
theorem dX1_said_104 : decode cX1_said 104 = .ok (.getfield 531, 3) := dk_180 2 19 (dk_at dksX1_said_4 8 rfl rfl)
theorem dX1_said_107 : decode cX1_said 107 = .ok (.if_icmp .ge 20, 3) := dk_162 0 20 (dk_at dksX1_said_4 11 rfl rfl)
theorem dX1_said_110 : decode cX1_said 110 = .ok (.aload_n 0, 1) := dk_42 (dk_at dksX1_said_4 14 rfl rfl)
theorem dX1_said_111 : decode cX1_said 111 = .ok (.aload_n 0, 1) := dk_42 (dk_at dksX1_said_4 15 rfl rfl)
theorem dX1_said_112 : decode cX1_said 112 = .ok (.getfield 124, 3) := dk_180 0 124 (dk_at dksX1_said_4 16 rfl rfl)
theorem dX1_said_115 : decode cX1_said 115 = .ok (.iload_n 1, 1) := dk_27 (dk_at dksX1_said_4 19 rfl rfl)
theorem dX1_said_116 : decode cX1_said 116 = .ok (.iaload, 1) := dk_46 (dk_at dksX1_said_4 20 rfl rfl)
theorem dX1_said_117 : decode cX1_said 117 = .ok (.i2l, 1) := dk_133 (dk_at dksX1_said_4 21 rfl rfl)
theorem dX1_said_118 : decode cX1_said 118 = .ok (.invokevirtual 392, 3) := dk_182 1 136 (dk_at dksX1_said_5 0 rfl rfl)
theorem dX1_said_121 : decode cX1_said 121 = .ok (.iinc 1 1, 3) := dk_132 1 1 (dk_at dksX1_said_5 3 rfl rfl)
theorem dX1_said_124 : decode cX1_said 124 = .ok (.goto (-22), 3) := dk_167 255 234 (dk_at dksX1_said_5 6 rfl rfl)
theorem dX1_said_127 : decode cX1_said 127 = .ok (.aload_n 0, 1) := dk_42 (dk_at dksX1_said_5 9 rfl rfl)
theorem dX1_said_128 : decode cX1_said 128 = .ok (.getfield 528, 3) := dk_180 2 16 (dk_at dksX1_said_5 10 rfl rfl)
theorem dX1_said_131 : decode cX1_said 131 = .ok (.ireturn, 1) := dk_172 (dk_at dksX1_said_5 13 rfl rfl)
def dkwX1_saysFrom_5 : List UInt8 := [177]
abbrev dktX1_saysFrom_5 : List UInt8 := dkwX1_saysFrom_5 ++ []
def dkwX1_saysFrom_4 : List UInt8 := [42, 27, 4, 96, 28, 21, 4, 182, 2, 25, 42, 21, 4, 2, 182, 2, 22, 87, 132, 4, 1, 167, 255, 208]
abbrev dktX1_saysFrom_4 : List UInt8 := dkwX1_saysFrom_4 ++ dktX1_saysFrom_5
def dkwX1_saysFrom_3 : List UInt8 := [180, 0, 145, 162, 0, 45, 42, 180, 0, 121, 27, 21, 4, 79, 42, 21, 4, 4, 182, 2, 22, 153, 0, 13]
abbrev dktX1_saysFrom_3 : List UInt8 := dkwX1_saysFrom_3 ++ dktX1_saysFrom_4
def dkwX1_saysFrom_2 : List UInt8 := [180, 2, 19, 181, 2, 19, 42, 89, 180, 2, 16, 4, 96, 181, 2, 16, 177, 29, 54, 4, 21, 4, 42]
abbrev dktX1_saysFrom_2 : List UInt8 := dkwX1_saysFrom_2 ++ dktX1_saysFrom_3
def dkwX1_saysFrom_1 : List UInt8 := [3, 42, 180, 0, 124, 3, 7, 184, 0, 219, 42, 42, 180, 2, 16, 154, 0, 7, 28, 167, 0, 7, 42]
abbrev dktX1_saysFrom_1 : List UInt8 := dkwX1_saysFrom_1 ++ dktX1_saysFrom_2
def dkwX1_saysFrom_0 : List UInt8 := [27, 28, 160, 0, 62, 42, 182, 2, 13, 154, 0, 4, 177, 42, 180, 2, 16, 154, 0, 17, 42, 180, 0, 121]
abbrev dktX1_saysFrom_0 : List UInt8 := dkwX1_saysFrom_0 ++ dktX1_saysFrom_1
theorem dksX1_saysFrom_0 : cX1_saysFrom.data.toList.drop 0 = dktX1_saysFrom_0 := by decide +kernel
theorem dksX1_saysFrom_1 : cX1_saysFrom.data.toList.drop 24 = dktX1_saysFrom_1 := dk_seg dksX1_saysFrom_0 24 rfl rfl
theorem dksX1_saysFrom_2 : cX1_saysFrom.data.toList.drop 47 = dktX1_saysFrom_2 := dk_seg dksX1_saysFrom_1 23 rfl rfl
theorem dksX1_saysFrom_3 : cX1_saysFrom.data.toList.drop 70 = dktX1_saysFrom_3 := dk_seg dksX1_saysFrom_2 23 rfl rfl
theorem dksX1_saysFrom_4 : cX1_saysFrom.data.toList.drop 94 = dktX1_saysFrom_4 := dk_seg dksX1_saysFrom_3 24 rfl rfl
theorem dksX1_saysFrom_5 : cX1_saysFrom.data.toList.drop 118 = dktX1_saysFrom_5 := dk_seg dksX1_saysFrom_4 24 rfl rfl
theorem dX1_saysFrom_0 : decode cX1_saysFrom 0 = .ok (.iload_n 1, 1) := dk_27 (dk_at dksX1_saysFrom_0 0 rfl rfl)
theorem dX1_saysFrom_1 : decode cX1_saysFrom 1 = .ok (.iload_n 2, 1) := dk_28 (dk_at dksX1_saysFrom_0 1 rfl rfl)
theorem dX1_saysFrom_2 : decode cX1_saysFrom 2 = .ok (.if_icmp .ne 62, 3) := dk_160 0 62 (dk_at dksX1_saysFrom_0 2 rfl rfl)
theorem dX1_saysFrom_5 : decode cX1_saysFrom 5 = .ok (.aload_n 0, 1) := dk_42 (dk_at dksX1_saysFrom_0 5 rfl rfl)
theorem dX1_saysFrom_6 : decode cX1_saysFrom 6 = .ok (.invokevirtual 525, 3) := dk_182 2 13 (dk_at dksX1_saysFrom_0 6 rfl rfl)
theorem dX1_saysFrom_9 : decode cX1_saysFrom 9 = .ok (.ifCond .ne 4, 3) := dk_154 0 4 (dk_at dksX1_saysFrom_0 9 rfl rfl)
theorem dX1_saysFrom_12 : decode cX1_saysFrom 12 = .ok (.return_, 1) := dk_177 (dk_at dksX1_saysFrom_0 12 rfl rfl)
theorem dX1_saysFrom_13 : decode cX1_saysFrom 13 = .ok (.aload_n 0, 1) := dk_42 (dk_at dksX1_saysFrom_0 13 rfl rfl)
theorem dX1_saysFrom_14 : decode cX1_saysFrom 14 = .ok (.getfield 528, 3) := dk_180 2 16 (dk_at dksX1_saysFrom_0 14 rfl rfl)
theorem dX1_saysFrom_17 : decode cX1_saysFrom 17 = .ok (.ifCond .ne 17, 3) := dk_154 0 17 (dk_at dksX1_saysFrom_0 17 rfl rfl)
theorem dX1_saysFrom_20 : decode cX1_saysFrom 20 = .ok (.aload_n 0, 1) := dk_42 (dk_at dksX1_saysFrom_0 20 rfl rfl)
theorem dX1_saysFrom_21 : decode cX1_saysFrom 21 = .ok (.getfield 121, 3) := dk_180 0 121 (dk_at dksX1_saysFrom_0 21 rfl rfl)
theorem dX1_saysFrom_24 : decode cX1_saysFrom 24 = .ok (.iconst 0, 1) := dk_3 (dk_at dksX1_saysFrom_1 0 rfl rfl)
theorem dX1_saysFrom_25 : decode cX1_saysFrom 25 = .ok (.aload_n 0, 1) := dk_42 (dk_at dksX1_saysFrom_1 1 rfl rfl)
theorem dX1_saysFrom_26 : decode cX1_saysFrom 26 = .ok (.getfield 124, 3) := dk_180 0 124 (dk_at dksX1_saysFrom_1 2 rfl rfl)
theorem dX1_saysFrom_29 : decode cX1_saysFrom 29 = .ok (.iconst 0, 1) := dk_3 (dk_at dksX1_saysFrom_1 5 rfl rfl)
theorem dX1_saysFrom_30 : decode cX1_saysFrom 30 = .ok (.iconst 4, 1) := dk_7 (dk_at dksX1_saysFrom_1 6 rfl rfl)
theorem dX1_saysFrom_31 : decode cX1_saysFrom 31 = .ok (.invokestatic 219, 3) := dk_184 0 219 (dk_at dksX1_saysFrom_1 7 rfl rfl)
theorem dX1_saysFrom_34 : decode cX1_saysFrom 34 = .ok (.aload_n 0, 1) := dk_42 (dk_at dksX1_saysFrom_1 10 rfl rfl)
theorem dX1_saysFrom_35 : decode cX1_saysFrom 35 = .ok (.aload_n 0, 1) := dk_42 (dk_at dksX1_saysFrom_1 11 rfl rfl)
theorem dX1_saysFrom_36 : decode cX1_saysFrom 36 = .ok (.getfield 528, 3) := dk_180 2 16 (dk_at dksX1_saysFrom_1 12 rfl rfl)
theorem dX1_saysFrom_39 : decode cX1_saysFrom 39 = .ok (.ifCond .ne 7, 3) := dk_154 0 7 (dk_at dksX1_saysFrom_1 15 rfl rfl)
theorem dX1_saysFrom_42 : decode cX1_saysFrom 42 = .ok (.iload_n 2, 1) := dk_28 (dk_at dksX1_saysFrom_1 18 rfl rfl)
theorem dX1_saysFrom_43 : decode cX1_saysFrom 43 = .ok (.goto 7, 3) := dk_167 0 7 (dk_at dksX1_saysFrom_1 19 rfl rfl)
theorem dX1_saysFrom_46 : decode cX1_saysFrom 46 = .ok (.aload_n 0, 1) := dk_42 (dk_at dksX1_saysFrom_1 22 rfl rfl)
theorem dX1_saysFrom_47 : decode cX1_saysFrom 47 = .ok (.getfield 531, 3) := dk_180 2 19 (dk_at dksX1_saysFrom_2 0 rfl rfl)
theorem dX1_saysFrom_50 : decode cX1_saysFrom 50 = .ok (.putfield 531, 3) := dk_181 2 19 (dk_at dksX1_saysFrom_2 3 rfl rfl)
theorem dX1_saysFrom_53 : decode cX1_saysFrom 53 = .ok (.aload_n 0, 1) := dk_42 (dk_at dksX1_saysFrom_2 6 rfl rfl)
theorem dX1_saysFrom_54 : decode cX1_saysFrom 54 = .ok (.dup, 1) := dk_89 (dk_at dksX1_saysFrom_2 7 rfl rfl)
theorem dX1_saysFrom_55 : decode cX1_saysFrom 55 = .ok (.getfield 528, 3) := dk_180 2 16 (dk_at dksX1_saysFrom_2 8 rfl rfl)
theorem dX1_saysFrom_58 : decode cX1_saysFrom 58 = .ok (.iconst 1, 1) := dk_4 (dk_at dksX1_saysFrom_2 11 rfl rfl)
theorem dX1_saysFrom_59 : decode cX1_saysFrom 59 = .ok (.iadd, 1) := dk_96 (dk_at dksX1_saysFrom_2 12 rfl rfl)
theorem dX1_saysFrom_60 : decode cX1_saysFrom 60 = .ok (.putfield 528, 3) := dk_181 2 16 (dk_at dksX1_saysFrom_2 13 rfl rfl)
theorem dX1_saysFrom_63 : decode cX1_saysFrom 63 = .ok (.return_, 1) := dk_177 (dk_at dksX1_saysFrom_2 16 rfl rfl)
theorem dX1_saysFrom_64 : decode cX1_saysFrom 64 = .ok (.iload_n 3, 1) := dk_29 (dk_at dksX1_saysFrom_2 17 rfl rfl)
theorem dX1_saysFrom_65 : decode cX1_saysFrom 65 = .ok (.istore 4, 2) := dk_54 4 (dk_at dksX1_saysFrom_2 18 rfl rfl)
theorem dX1_saysFrom_67 : decode cX1_saysFrom 67 = .ok (.iload 4, 2) := dk_21 4 (dk_at dksX1_saysFrom_2 20 rfl rfl)
theorem dX1_saysFrom_69 : decode cX1_saysFrom 69 = .ok (.aload_n 0, 1) := dk_42 (dk_at dksX1_saysFrom_2 22 rfl rfl)
theorem dX1_saysFrom_70 : decode cX1_saysFrom 70 = .ok (.getfield 145, 3) := dk_180 0 145 (dk_at dksX1_saysFrom_3 0 rfl rfl)
theorem dX1_saysFrom_73 : decode cX1_saysFrom 73 = .ok (.if_icmp .ge 45, 3) := dk_162 0 45 (dk_at dksX1_saysFrom_3 3 rfl rfl)
theorem dX1_saysFrom_76 : decode cX1_saysFrom 76 = .ok (.aload_n 0, 1) := dk_42 (dk_at dksX1_saysFrom_3 6 rfl rfl)
theorem dX1_saysFrom_77 : decode cX1_saysFrom 77 = .ok (.getfield 121, 3) := dk_180 0 121 (dk_at dksX1_saysFrom_3 7 rfl rfl)
theorem dX1_saysFrom_80 : decode cX1_saysFrom 80 = .ok (.iload_n 1, 1) := dk_27 (dk_at dksX1_saysFrom_3 10 rfl rfl)
theorem dX1_saysFrom_81 : decode cX1_saysFrom 81 = .ok (.iload 4, 2) := dk_21 4 (dk_at dksX1_saysFrom_3 11 rfl rfl)
theorem dX1_saysFrom_83 : decode cX1_saysFrom 83 = .ok (.iastore, 1) := dk_79 (dk_at dksX1_saysFrom_3 13 rfl rfl)
theorem dX1_saysFrom_84 : decode cX1_saysFrom 84 = .ok (.aload_n 0, 1) := dk_42 (dk_at dksX1_saysFrom_3 14 rfl rfl)
theorem dX1_saysFrom_85 : decode cX1_saysFrom 85 = .ok (.iload 4, 2) := dk_21 4 (dk_at dksX1_saysFrom_3 15 rfl rfl)
theorem dX1_saysFrom_87 : decode cX1_saysFrom 87 = .ok (.iconst 1, 1) := dk_4 (dk_at dksX1_saysFrom_3 17 rfl rfl)
theorem dX1_saysFrom_88 : decode cX1_saysFrom 88 = .ok (.invokevirtual 534, 3) := dk_182 2 22 (dk_at dksX1_saysFrom_3 18 rfl rfl)
theorem dX1_saysFrom_91 : decode cX1_saysFrom 91 = .ok (.ifCond .eq 13, 3) := dk_153 0 13 (dk_at dksX1_saysFrom_3 21 rfl rfl)
theorem dX1_saysFrom_94 : decode cX1_saysFrom 94 = .ok (.aload_n 0, 1) := dk_42 (dk_at dksX1_saysFrom_4 0 rfl rfl)
theorem dX1_saysFrom_95 : decode cX1_saysFrom 95 = .ok (.iload_n 1, 1) := dk_27 (dk_at dksX1_saysFrom_4 1 rfl rfl)
theorem dX1_saysFrom_96 : decode cX1_saysFrom 96 = .ok (.iconst 1, 1) := dk_4 (dk_at dksX1_saysFrom_4 2 rfl rfl)
theorem dX1_saysFrom_97 : decode cX1_saysFrom 97 = .ok (.iadd, 1) := dk_96 (dk_at dksX1_saysFrom_4 3 rfl rfl)
theorem dX1_saysFrom_98 : decode cX1_saysFrom 98 = .ok (.iload_n 2, 1) := dk_28 (dk_at dksX1_saysFrom_4 4 rfl rfl)
theorem dX1_saysFrom_99 : decode cX1_saysFrom 99 = .ok (.iload 4, 2) := dk_21 4 (dk_at dksX1_saysFrom_4 5 rfl rfl)
theorem dX1_saysFrom_101 : decode cX1_saysFrom 101 = .ok (.invokevirtual 537, 3) := dk_182 2 25 (dk_at dksX1_saysFrom_4 7 rfl rfl)
theorem dX1_saysFrom_104 : decode cX1_saysFrom 104 = .ok (.aload_n 0, 1) := dk_42 (dk_at dksX1_saysFrom_4 10 rfl rfl)
theorem dX1_saysFrom_105 : decode cX1_saysFrom 105 = .ok (.iload 4, 2) := dk_21 4 (dk_at dksX1_saysFrom_4 11 rfl rfl)
theorem dX1_saysFrom_107 : decode cX1_saysFrom 107 = .ok (.iconst (-1), 1) := dk_2 (dk_at dksX1_saysFrom_4 13 rfl rfl)
theorem dX1_saysFrom_108 : decode cX1_saysFrom 108 = .ok (.invokevirtual 534, 3) := dk_182 2 22 (dk_at dksX1_saysFrom_4 14 rfl rfl)
theorem dX1_saysFrom_111 : decode cX1_saysFrom 111 = .ok (.pop, 1) := dk_87 (dk_at dksX1_saysFrom_4 17 rfl rfl)
theorem dX1_saysFrom_112 : decode cX1_saysFrom 112 = .ok (.iinc 4 1, 3) := dk_132 4 1 (dk_at dksX1_saysFrom_4 18 rfl rfl)
theorem dX1_saysFrom_115 : decode cX1_saysFrom 115 = .ok (.goto (-48), 3) := dk_167 255 208 (dk_at dksX1_saysFrom_4 21 rfl rfl)
theorem dX1_saysFrom_118 : decode cX1_saysFrom 118 = .ok (.return_, 1) := dk_177 (dk_at dksX1_saysFrom_5 0 rfl rfl)
def dkwX1_isNothingLeft_1 : List UInt8 := [167, 0, 4, 3, 60, 132, 2, 1, 167, 255, 229, 27, 172]
abbrev dktX1_isNothingLeft_1 : List UInt8 := dkwX1_isNothingLeft_1 ++ []
def dkwX1_isNothingLeft_0 : List UInt8 := [4, 60, 3, 61, 28, 8, 162, 0, 28, 27, 153, 0, 16, 42, 180, 0, 118, 28, 46, 154, 0, 7, 4]
abbrev dktX1_isNothingLeft_0 : List UInt8 := dkwX1_isNothingLeft_0 ++ dktX1_isNothingLeft_1
theorem dksX1_isNothingLeft_0 : cX1_isNothingLeft.data.toList.drop 0 = dktX1_isNothingLeft_0 := by decide +kernel
theorem dksX1_isNothingLeft_1 : cX1_isNothingLeft.data.toList.drop 23 = dktX1_isNothingLeft_1 := dk_seg dksX1_isNothingLeft_0 23 rfl rfl
theorem dX1_isNothingLeft_0 : decode cX1_isNothingLeft 0 = .ok (.iconst 1, 1) := dk_4 (dk_at dksX1_isNothingLeft_0 0 rfl rfl)
theorem dX1_isNothingLeft_1 : decode cX1_isNothingLeft 1 = .ok (.istore_n 1, 1) := dk_60 (dk_at dksX1_isNothingLeft_0 1 rfl rfl)
theorem dX1_isNothingLeft_2 : decode cX1_isNothingLeft 2 = .ok (.iconst 0, 1) := dk_3 (dk_at dksX1_isNothingLeft_0 2 rfl rfl)
theorem dX1_isNothingLeft_3 : decode cX1_isNothingLeft 3 = .ok (.istore_n 2, 1) := dk_61 (dk_at dksX1_isNothingLeft_0 3 rfl rfl)
theorem dX1_isNothingLeft_4 : decode cX1_isNothingLeft 4 = .ok (.iload_n 2, 1) := dk_28 (dk_at dksX1_isNothingLeft_0 4 rfl rfl)
theorem dX1_isNothingLeft_5 : decode cX1_isNothingLeft 5 = .ok (.iconst 5, 1) := dk_8 (dk_at dksX1_isNothingLeft_0 5 rfl rfl)
theorem dX1_isNothingLeft_6 : decode cX1_isNothingLeft 6 = .ok (.if_icmp .ge 28, 3) := dk_162 0 28 (dk_at dksX1_isNothingLeft_0 6 rfl rfl)
theorem dX1_isNothingLeft_9 : decode cX1_isNothingLeft 9 = .ok (.iload_n 1, 1) := dk_27 (dk_at dksX1_isNothingLeft_0 9 rfl rfl)
theorem dX1_isNothingLeft_10 : decode cX1_isNothingLeft 10 = .ok (.ifCond .eq 16, 3) := dk_153 0 16 (dk_at dksX1_isNothingLeft_0 10 rfl rfl)
theorem dX1_isNothingLeft_13 : decode cX1_isNothingLeft 13 = .ok (.aload_n 0, 1) := dk_42 (dk_at dksX1_isNothingLeft_0 13 rfl rfl)
theorem dX1_isNothingLeft_14 : decode cX1_isNothingLeft 14 = .ok (.getfield 118, 3) := dk_180 0 118 (dk_at dksX1_isNothingLeft_0 14 rfl rfl)
theorem dX1_isNothingLeft_17 : decode cX1_isNothingLeft 17 = .ok (.iload_n 2, 1) := dk_28 (dk_at dksX1_isNothingLeft_0 17 rfl rfl)
theorem dX1_isNothingLeft_18 : decode cX1_isNothingLeft 18 = .ok (.iaload, 1) := dk_46 (dk_at dksX1_isNothingLeft_0 18 rfl rfl)
theorem dX1_isNothingLeft_19 : decode cX1_isNothingLeft 19 = .ok (.ifCond .ne 7, 3) := dk_154 0 7 (dk_at dksX1_isNothingLeft_0 19 rfl rfl)
theorem dX1_isNothingLeft_22 : decode cX1_isNothingLeft 22 = .ok (.iconst 1, 1) := dk_4 (dk_at dksX1_isNothingLeft_0 22 rfl rfl)
theorem dX1_isNothingLeft_23 : decode cX1_isNothingLeft 23 = .ok (.goto 4, 3) := dk_167 0 4 (dk_at dksX1_isNothingLeft_1 0 rfl rfl)
theorem dX1_isNothingLeft_26 : decode cX1_isNothingLeft 26 = .ok (.iconst 0, 1) := dk_3 (dk_at dksX1_isNothingLeft_1 3 rfl rfl)
theorem dX1_isNothingLeft_27 : decode cX1_isNothingLeft 27 = .ok (.istore_n 1, 1) := dk_60 (dk_at dksX1_isNothingLeft_1 4 rfl rfl)
theorem dX1_isNothingLeft_28 : decode cX1_isNothingLeft 28 = .ok (.iinc 2 1, 3) := dk_132 2 1 (dk_at dksX1_isNothingLeft_1 5 rfl rfl)
theorem dX1_isNothingLeft_31 : decode cX1_isNothingLeft 31 = .ok (.goto (-27), 3) := dk_167 255 229 (dk_at dksX1_isNothingLeft_1 8 rfl rfl)
theorem dX1_isNothingLeft_34 : decode cX1_isNothingLeft 34 = .ok (.iload_n 1, 1) := dk_27 (dk_at dksX1_isNothingLeft_1 11 rfl rfl)
theorem dX1_isNothingLeft_35 : decode cX1_isNothingLeft 35 = .ok (.ireturn, 1) := dk_172 (dk_at dksX1_isNothingLeft_1 12 rfl rfl)
def dkwX1_changesLeft_2 : List UInt8 := [3, 62, 132, 4, 1, 167, 255, 208, 29, 172]
abbrev dktX1_changesLeft_2 : List UInt8 := dkwX1_changesLeft_2 ++ []
def dkwX1_changesLeft_1 : List UInt8 := [182, 1, 103, 104, 100, 79, 29, 153, 0, 17, 42, 180, 0, 118, 21, 4, 46, 155, 0, 7, 4, 167, 0, 4]
abbrev dktX1_changesLeft_1 : List UInt8 := dkwX1_changesLeft_1 ++ dktX1_changesLeft_2
def dkwX1_changesLeft_0 : List UInt8 := [4, 62, 3, 54, 4, 21, 4, 8, 162, 0, 48, 42, 180, 0, 118, 21, 4, 92, 46, 28, 42, 27, 21, 4]
abbrev dktX1_changesLeft_0 : List UInt8 := dkwX1_changesLeft_0 ++ dktX1_changesLeft_1
theorem dksX1_changesLeft_0 : cX1_changesLeft.data.toList.drop 0 = dktX1_changesLeft_0 := by decide +kernel
theorem dksX1_changesLeft_1 : cX1_changesLeft.data.toList.drop 24 = dktX1_changesLeft_1 := dk_seg dksX1_changesLeft_0 24 rfl rfl
theorem dksX1_changesLeft_2 : cX1_changesLeft.data.toList.drop 48 = dktX1_changesLeft_2 := dk_seg dksX1_changesLeft_1 24 rfl rfl
theorem dX1_changesLeft_0 : decode cX1_changesLeft 0 = .ok (.iconst 1, 1) := dk_4 (dk_at dksX1_changesLeft_0 0 rfl rfl)
theorem dX1_changesLeft_1 : decode cX1_changesLeft 1 = .ok (.istore_n 3, 1) := dk_62 (dk_at dksX1_changesLeft_0 1 rfl rfl)
theorem dX1_changesLeft_2 : decode cX1_changesLeft 2 = .ok (.iconst 0, 1) := dk_3 (dk_at dksX1_changesLeft_0 2 rfl rfl)
theorem dX1_changesLeft_3 : decode cX1_changesLeft 3 = .ok (.istore 4, 2) := dk_54 4 (dk_at dksX1_changesLeft_0 3 rfl rfl)
theorem dX1_changesLeft_5 : decode cX1_changesLeft 5 = .ok (.iload 4, 2) := dk_21 4 (dk_at dksX1_changesLeft_0 5 rfl rfl)
theorem dX1_changesLeft_7 : decode cX1_changesLeft 7 = .ok (.iconst 5, 1) := dk_8 (dk_at dksX1_changesLeft_0 7 rfl rfl)
theorem dX1_changesLeft_8 : decode cX1_changesLeft 8 = .ok (.if_icmp .ge 48, 3) := dk_162 0 48 (dk_at dksX1_changesLeft_0 8 rfl rfl)
theorem dX1_changesLeft_11 : decode cX1_changesLeft 11 = .ok (.aload_n 0, 1) := dk_42 (dk_at dksX1_changesLeft_0 11 rfl rfl)
theorem dX1_changesLeft_12 : decode cX1_changesLeft 12 = .ok (.getfield 118, 3) := dk_180 0 118 (dk_at dksX1_changesLeft_0 12 rfl rfl)
theorem dX1_changesLeft_15 : decode cX1_changesLeft 15 = .ok (.iload 4, 2) := dk_21 4 (dk_at dksX1_changesLeft_0 15 rfl rfl)
theorem dX1_changesLeft_17 : decode cX1_changesLeft 17 = .ok (.dup2, 1) := dk_92 (dk_at dksX1_changesLeft_0 17 rfl rfl)
theorem dX1_changesLeft_18 : decode cX1_changesLeft 18 = .ok (.iaload, 1) := dk_46 (dk_at dksX1_changesLeft_0 18 rfl rfl)
theorem dX1_changesLeft_19 : decode cX1_changesLeft 19 = .ok (.iload_n 2, 1) := dk_28 (dk_at dksX1_changesLeft_0 19 rfl rfl)
theorem dX1_changesLeft_20 : decode cX1_changesLeft 20 = .ok (.aload_n 0, 1) := dk_42 (dk_at dksX1_changesLeft_0 20 rfl rfl)
theorem dX1_changesLeft_21 : decode cX1_changesLeft 21 = .ok (.iload_n 1, 1) := dk_27 (dk_at dksX1_changesLeft_0 21 rfl rfl)
theorem dX1_changesLeft_22 : decode cX1_changesLeft 22 = .ok (.iload 4, 2) := dk_21 4 (dk_at dksX1_changesLeft_0 22 rfl rfl)
theorem dX1_changesLeft_24 : decode cX1_changesLeft 24 = .ok (.invokevirtual 359, 3) := dk_182 1 103 (dk_at dksX1_changesLeft_1 0 rfl rfl)
theorem dX1_changesLeft_27 : decode cX1_changesLeft 27 = .ok (.imul, 1) := dk_104 (dk_at dksX1_changesLeft_1 3 rfl rfl)
theorem dX1_changesLeft_28 : decode cX1_changesLeft 28 = .ok (.isub, 1) := dk_100 (dk_at dksX1_changesLeft_1 4 rfl rfl)
theorem dX1_changesLeft_29 : decode cX1_changesLeft 29 = .ok (.iastore, 1) := dk_79 (dk_at dksX1_changesLeft_1 5 rfl rfl)
theorem dX1_changesLeft_30 : decode cX1_changesLeft 30 = .ok (.iload_n 3, 1) := dk_29 (dk_at dksX1_changesLeft_1 6 rfl rfl)
theorem dX1_changesLeft_31 : decode cX1_changesLeft 31 = .ok (.ifCond .eq 17, 3) := dk_153 0 17 (dk_at dksX1_changesLeft_1 7 rfl rfl)
theorem dX1_changesLeft_34 : decode cX1_changesLeft 34 = .ok (.aload_n 0, 1) := dk_42 (dk_at dksX1_changesLeft_1 10 rfl rfl)
theorem dX1_changesLeft_35 : decode cX1_changesLeft 35 = .ok (.getfield 118, 3) := dk_180 0 118 (dk_at dksX1_changesLeft_1 11 rfl rfl)
theorem dX1_changesLeft_38 : decode cX1_changesLeft 38 = .ok (.iload 4, 2) := dk_21 4 (dk_at dksX1_changesLeft_1 14 rfl rfl)
theorem dX1_changesLeft_40 : decode cX1_changesLeft 40 = .ok (.iaload, 1) := dk_46 (dk_at dksX1_changesLeft_1 16 rfl rfl)
theorem dX1_changesLeft_41 : decode cX1_changesLeft 41 = .ok (.ifCond .lt 7, 3) := dk_155 0 7 (dk_at dksX1_changesLeft_1 17 rfl rfl)
theorem dX1_changesLeft_44 : decode cX1_changesLeft 44 = .ok (.iconst 1, 1) := dk_4 (dk_at dksX1_changesLeft_1 20 rfl rfl)
theorem dX1_changesLeft_45 : decode cX1_changesLeft 45 = .ok (.goto 4, 3) := dk_167 0 4 (dk_at dksX1_changesLeft_1 21 rfl rfl)
theorem dX1_changesLeft_48 : decode cX1_changesLeft 48 = .ok (.iconst 0, 1) := dk_3 (dk_at dksX1_changesLeft_2 0 rfl rfl)
theorem dX1_changesLeft_49 : decode cX1_changesLeft 49 = .ok (.istore_n 3, 1) := dk_62 (dk_at dksX1_changesLeft_2 1 rfl rfl)
theorem dX1_changesLeft_50 : decode cX1_changesLeft 50 = .ok (.iinc 4 1, 3) := dk_132 4 1 (dk_at dksX1_changesLeft_2 2 rfl rfl)
theorem dX1_changesLeft_53 : decode cX1_changesLeft 53 = .ok (.goto (-48), 3) := dk_167 255 208 (dk_at dksX1_changesLeft_2 5 rfl rfl)
theorem dX1_changesLeft_56 : decode cX1_changesLeft 56 = .ok (.iload_n 3, 1) := dk_29 (dk_at dksX1_changesLeft_2 8 rfl rfl)
theorem dX1_changesLeft_57 : decode cX1_changesLeft 57 = .ok (.ireturn, 1) := dk_172 (dk_at dksX1_changesLeft_2 9 rfl rfl)
def dkwX1_vowelIn_1 : List UInt8 := [28, 160, 0, 7, 4, 167, 0, 4, 3, 96, 62, 132, 4, 1, 167, 255, 223, 29, 172]
abbrev dktX1_vowelIn_1 : List UInt8 := dkwX1_vowelIn_1 ++ []
def dkwX1_vowelIn_0 : List UInt8 := [3, 62, 3, 54, 4, 21, 4, 42, 180, 0, 23, 27, 46, 162, 0, 28, 29, 42, 27, 21, 4, 182, 0, 159]
abbrev dktX1_vowelIn_0 : List UInt8 := dkwX1_vowelIn_0 ++ dktX1_vowelIn_1
theorem dksX1_vowelIn_0 : cX1_vowelIn.data.toList.drop 0 = dktX1_vowelIn_0 := by decide +kernel
theorem dksX1_vowelIn_1 : cX1_vowelIn.data.toList.drop 24 = dktX1_vowelIn_1 := dk_seg dksX1_vowelIn_0 24 rfl rfl
theorem dX1_vowelIn_0 : decode cX1_vowelIn 0 = .ok (.iconst 0, 1) := dk_3 (dk_at dksX1_vowelIn_0 0 rfl rfl)
theorem dX1_vowelIn_1 : decode cX1_vowelIn 1 = .ok (.istore_n 3, 1) := dk_62 (dk_at dksX1_vowelIn_0 1 rfl rfl)
theorem dX1_vowelIn_2 : decode cX1_vowelIn 2 = .ok (.iconst 0, 1) := dk_3 (dk_at dksX1_vowelIn_0 2 rfl rfl)
theorem dX1_vowelIn_3 : decode cX1_vowelIn 3 = .ok (.istore 4, 2) := dk_54 4 (dk_at dksX1_vowelIn_0 3 rfl rfl)
theorem dX1_vowelIn_5 : decode cX1_vowelIn 5 = .ok (.iload 4, 2) := dk_21 4 (dk_at dksX1_vowelIn_0 5 rfl rfl)
theorem dX1_vowelIn_7 : decode cX1_vowelIn 7 = .ok (.aload_n 0, 1) := dk_42 (dk_at dksX1_vowelIn_0 7 rfl rfl)
theorem dX1_vowelIn_8 : decode cX1_vowelIn 8 = .ok (.getfield 23, 3) := dk_180 0 23 (dk_at dksX1_vowelIn_0 8 rfl rfl)
theorem dX1_vowelIn_11 : decode cX1_vowelIn 11 = .ok (.iload_n 1, 1) := dk_27 (dk_at dksX1_vowelIn_0 11 rfl rfl)
theorem dX1_vowelIn_12 : decode cX1_vowelIn 12 = .ok (.iaload, 1) := dk_46 (dk_at dksX1_vowelIn_0 12 rfl rfl)
theorem dX1_vowelIn_13 : decode cX1_vowelIn 13 = .ok (.if_icmp .ge 28, 3) := dk_162 0 28 (dk_at dksX1_vowelIn_0 13 rfl rfl)
theorem dX1_vowelIn_16 : decode cX1_vowelIn 16 = .ok (.iload_n 3, 1) := dk_29 (dk_at dksX1_vowelIn_0 16 rfl rfl)
theorem dX1_vowelIn_17 : decode cX1_vowelIn 17 = .ok (.aload_n 0, 1) := dk_42 (dk_at dksX1_vowelIn_0 17 rfl rfl)
theorem dX1_vowelIn_18 : decode cX1_vowelIn 18 = .ok (.iload_n 1, 1) := dk_27 (dk_at dksX1_vowelIn_0 18 rfl rfl)
theorem dX1_vowelIn_19 : decode cX1_vowelIn 19 = .ok (.iload 4, 2) := dk_21 4 (dk_at dksX1_vowelIn_0 19 rfl rfl)
theorem dX1_vowelIn_21 : decode cX1_vowelIn 21 = .ok (.invokevirtual 159, 3) := dk_182 0 159 (dk_at dksX1_vowelIn_0 21 rfl rfl)
theorem dX1_vowelIn_24 : decode cX1_vowelIn 24 = .ok (.iload_n 2, 1) := dk_28 (dk_at dksX1_vowelIn_1 0 rfl rfl)
theorem dX1_vowelIn_25 : decode cX1_vowelIn 25 = .ok (.if_icmp .ne 7, 3) := dk_160 0 7 (dk_at dksX1_vowelIn_1 1 rfl rfl)
theorem dX1_vowelIn_28 : decode cX1_vowelIn 28 = .ok (.iconst 1, 1) := dk_4 (dk_at dksX1_vowelIn_1 4 rfl rfl)
theorem dX1_vowelIn_29 : decode cX1_vowelIn 29 = .ok (.goto 4, 3) := dk_167 0 4 (dk_at dksX1_vowelIn_1 5 rfl rfl)
theorem dX1_vowelIn_32 : decode cX1_vowelIn 32 = .ok (.iconst 0, 1) := dk_3 (dk_at dksX1_vowelIn_1 8 rfl rfl)
theorem dX1_vowelIn_33 : decode cX1_vowelIn 33 = .ok (.iadd, 1) := dk_96 (dk_at dksX1_vowelIn_1 9 rfl rfl)
theorem dX1_vowelIn_34 : decode cX1_vowelIn 34 = .ok (.istore_n 3, 1) := dk_62 (dk_at dksX1_vowelIn_1 10 rfl rfl)
theorem dX1_vowelIn_35 : decode cX1_vowelIn 35 = .ok (.iinc 4 1, 3) := dk_132 4 1 (dk_at dksX1_vowelIn_1 11 rfl rfl)
theorem dX1_vowelIn_38 : decode cX1_vowelIn 38 = .ok (.goto (-33), 3) := dk_167 255 223 (dk_at dksX1_vowelIn_1 14 rfl rfl)
theorem dX1_vowelIn_41 : decode cX1_vowelIn 41 = .ok (.iload_n 3, 1) := dk_29 (dk_at dksX1_vowelIn_1 17 rfl rfl)
theorem dX1_vowelIn_42 : decode cX1_vowelIn 42 = .ok (.ireturn, 1) := dk_172 (dk_at dksX1_vowelIn_1 18 rfl rfl)
def dkwX1_ask_2 : List UInt8 := [181, 1, 133, 42, 42, 27, 182, 2, 28, 133, 182, 1, 136, 27, 172]
abbrev dktX1_ask_2 : List UInt8 := dkwX1_ask_2 ++ []
def dkwX1_ask_1 : List UInt8 := [42, 27, 182, 2, 28, 162, 0, 7, 28, 167, 0, 4, 27, 60, 132, 2, 1, 167, 255, 229, 42, 3]
abbrev dktX1_ask_1 : List UInt8 := dkwX1_ask_1 ++ dktX1_ask_2
def dkwX1_ask_0 : List UInt8 := [42, 180, 0, 145, 154, 0, 6, 16, 254, 172, 3, 60, 4, 61, 28, 8, 162, 0, 28, 42, 28, 182, 2, 28]
abbrev dktX1_ask_0 : List UInt8 := dkwX1_ask_0 ++ dktX1_ask_1
theorem dksX1_ask_0 : cX1_ask.data.toList.drop 0 = dktX1_ask_0 := by decide +kernel
theorem dksX1_ask_1 : cX1_ask.data.toList.drop 24 = dktX1_ask_1 := dk_seg dksX1_ask_0 24 rfl rfl
theorem dksX1_ask_2 : cX1_ask.data.toList.drop 46 = dktX1_ask_2 := dk_seg dksX1_ask_1 22 rfl rfl
theorem dX1_ask_0 : decode cX1_ask 0 = .ok (.aload_n 0, 1) := dk_42 (dk_at dksX1_ask_0 0 rfl rfl)
theorem dX1_ask_1 : decode cX1_ask 1 = .ok (.getfield 145, 3) := dk_180 0 145 (dk_at dksX1_ask_0 1 rfl rfl)
theorem dX1_ask_4 : decode cX1_ask 4 = .ok (.ifCond .ne 6, 3) := dk_154 0 6 (dk_at dksX1_ask_0 4 rfl rfl)
theorem dX1_ask_7 : decode cX1_ask 7 = .ok (.bipush (-2), 2) := dk_16 254 (dk_at dksX1_ask_0 7 rfl rfl)
theorem dX1_ask_9 : decode cX1_ask 9 = .ok (.ireturn, 1) := dk_172 (dk_at dksX1_ask_0 9 rfl rfl)
theorem dX1_ask_10 : decode cX1_ask 10 = .ok (.iconst 0, 1) := dk_3 (dk_at dksX1_ask_0 10 rfl rfl)
theorem dX1_ask_11 : decode cX1_ask 11 = .ok (.istore_n 1, 1) := dk_60 (dk_at dksX1_ask_0 11 rfl rfl)
theorem dX1_ask_12 : decode cX1_ask 12 = .ok (.iconst 1, 1) := dk_4 (dk_at dksX1_ask_0 12 rfl rfl)
theorem dX1_ask_13 : decode cX1_ask 13 = .ok (.istore_n 2, 1) := dk_61 (dk_at dksX1_ask_0 13 rfl rfl)
theorem dX1_ask_14 : decode cX1_ask 14 = .ok (.iload_n 2, 1) := dk_28 (dk_at dksX1_ask_0 14 rfl rfl)
theorem dX1_ask_15 : decode cX1_ask 15 = .ok (.iconst 5, 1) := dk_8 (dk_at dksX1_ask_0 15 rfl rfl)
theorem dX1_ask_16 : decode cX1_ask 16 = .ok (.if_icmp .ge 28, 3) := dk_162 0 28 (dk_at dksX1_ask_0 16 rfl rfl)
theorem dX1_ask_19 : decode cX1_ask 19 = .ok (.aload_n 0, 1) := dk_42 (dk_at dksX1_ask_0 19 rfl rfl)
theorem dX1_ask_20 : decode cX1_ask 20 = .ok (.iload_n 2, 1) := dk_28 (dk_at dksX1_ask_0 20 rfl rfl)
theorem dX1_ask_21 : decode cX1_ask 21 = .ok (.invokevirtual 540, 3) := dk_182 2 28 (dk_at dksX1_ask_0 21 rfl rfl)
theorem dX1_ask_24 : decode cX1_ask 24 = .ok (.aload_n 0, 1) := dk_42 (dk_at dksX1_ask_1 0 rfl rfl)
theorem dX1_ask_25 : decode cX1_ask 25 = .ok (.iload_n 1, 1) := dk_27 (dk_at dksX1_ask_1 1 rfl rfl)
theorem dX1_ask_26 : decode cX1_ask 26 = .ok (.invokevirtual 540, 3) := dk_182 2 28 (dk_at dksX1_ask_1 2 rfl rfl)
theorem dX1_ask_29 : decode cX1_ask 29 = .ok (.if_icmp .ge 7, 3) := dk_162 0 7 (dk_at dksX1_ask_1 5 rfl rfl)
theorem dX1_ask_32 : decode cX1_ask 32 = .ok (.iload_n 2, 1) := dk_28 (dk_at dksX1_ask_1 8 rfl rfl)
theorem dX1_ask_33 : decode cX1_ask 33 = .ok (.goto 4, 3) := dk_167 0 4 (dk_at dksX1_ask_1 9 rfl rfl)
theorem dX1_ask_36 : decode cX1_ask 36 = .ok (.iload_n 1, 1) := dk_27 (dk_at dksX1_ask_1 12 rfl rfl)
theorem dX1_ask_37 : decode cX1_ask 37 = .ok (.istore_n 1, 1) := dk_60 (dk_at dksX1_ask_1 13 rfl rfl)
theorem dX1_ask_38 : decode cX1_ask 38 = .ok (.iinc 2 1, 3) := dk_132 2 1 (dk_at dksX1_ask_1 14 rfl rfl)
theorem dX1_ask_41 : decode cX1_ask 41 = .ok (.goto (-27), 3) := dk_167 255 229 (dk_at dksX1_ask_1 17 rfl rfl)
theorem dX1_ask_44 : decode cX1_ask 44 = .ok (.aload_n 0, 1) := dk_42 (dk_at dksX1_ask_1 20 rfl rfl)
theorem dX1_ask_45 : decode cX1_ask 45 = .ok (.iconst 0, 1) := dk_3 (dk_at dksX1_ask_1 21 rfl rfl)
theorem dX1_ask_46 : decode cX1_ask 46 = .ok (.putfield 389, 3) := dk_181 1 133 (dk_at dksX1_ask_2 0 rfl rfl)
theorem dX1_ask_49 : decode cX1_ask 49 = .ok (.aload_n 0, 1) := dk_42 (dk_at dksX1_ask_2 3 rfl rfl)
theorem dX1_ask_50 : decode cX1_ask 50 = .ok (.aload_n 0, 1) := dk_42 (dk_at dksX1_ask_2 4 rfl rfl)
theorem dX1_ask_51 : decode cX1_ask 51 = .ok (.iload_n 1, 1) := dk_27 (dk_at dksX1_ask_2 5 rfl rfl)
theorem dX1_ask_52 : decode cX1_ask 52 = .ok (.invokevirtual 540, 3) := dk_182 2 28 (dk_at dksX1_ask_2 6 rfl rfl)
theorem dX1_ask_55 : decode cX1_ask 55 = .ok (.i2l, 1) := dk_133 (dk_at dksX1_ask_2 9 rfl rfl)
theorem dX1_ask_56 : decode cX1_ask 56 = .ok (.invokevirtual 392, 3) := dk_182 1 136 (dk_at dksX1_ask_2 10 rfl rfl)
theorem dX1_ask_59 : decode cX1_ask 59 = .ok (.iload_n 1, 1) := dk_27 (dk_at dksX1_ask_2 13 rfl rfl)
theorem dX1_ask_60 : decode cX1_ask 60 = .ok (.ireturn, 1) := dk_172 (dk_at dksX1_ask_2 14 rfl rfl)
def dkwX1_leftBy_2 : List UInt8 := [132, 5, 1, 167, 255, 223, 28, 21, 4, 184, 1, 2, 61, 132, 3, 1, 167, 255, 198, 28, 172]
abbrev dktX1_leftBy_2 : List UInt8 := dkwX1_leftBy_2 ++ []
def dkwX1_leftBy_1 : List UInt8 := [162, 0, 30, 21, 4, 42, 21, 5, 27, 182, 1, 103, 29, 160, 0, 7, 4, 167, 0, 4, 3, 96, 54, 4]
abbrev dktX1_leftBy_1 : List UInt8 := dkwX1_leftBy_1 ++ dktX1_leftBy_2
def dkwX1_leftBy_0 : List UInt8 := [3, 61, 3, 62, 29, 16, 6, 163, 0, 58, 3, 54, 4, 3, 54, 5, 21, 5, 42, 180, 0, 145]
abbrev dktX1_leftBy_0 : List UInt8 := dkwX1_leftBy_0 ++ dktX1_leftBy_1
theorem dksX1_leftBy_0 : cX1_leftBy.data.toList.drop 0 = dktX1_leftBy_0 := by decide +kernel
theorem dksX1_leftBy_1 : cX1_leftBy.data.toList.drop 22 = dktX1_leftBy_1 := dk_seg dksX1_leftBy_0 22 rfl rfl
theorem dksX1_leftBy_2 : cX1_leftBy.data.toList.drop 46 = dktX1_leftBy_2 := dk_seg dksX1_leftBy_1 24 rfl rfl
theorem dX1_leftBy_0 : decode cX1_leftBy 0 = .ok (.iconst 0, 1) := dk_3 (dk_at dksX1_leftBy_0 0 rfl rfl)
theorem dX1_leftBy_1 : decode cX1_leftBy 1 = .ok (.istore_n 2, 1) := dk_61 (dk_at dksX1_leftBy_0 1 rfl rfl)
theorem dX1_leftBy_2 : decode cX1_leftBy 2 = .ok (.iconst 0, 1) := dk_3 (dk_at dksX1_leftBy_0 2 rfl rfl)
theorem dX1_leftBy_3 : decode cX1_leftBy 3 = .ok (.istore_n 3, 1) := dk_62 (dk_at dksX1_leftBy_0 3 rfl rfl)
theorem dX1_leftBy_4 : decode cX1_leftBy 4 = .ok (.iload_n 3, 1) := dk_29 (dk_at dksX1_leftBy_0 4 rfl rfl)
theorem dX1_leftBy_5 : decode cX1_leftBy 5 = .ok (.bipush 6, 2) := dk_16 6 (dk_at dksX1_leftBy_0 5 rfl rfl)
theorem dX1_leftBy_7 : decode cX1_leftBy 7 = .ok (.if_icmp .gt 58, 3) := dk_163 0 58 (dk_at dksX1_leftBy_0 7 rfl rfl)
theorem dX1_leftBy_10 : decode cX1_leftBy 10 = .ok (.iconst 0, 1) := dk_3 (dk_at dksX1_leftBy_0 10 rfl rfl)
theorem dX1_leftBy_11 : decode cX1_leftBy 11 = .ok (.istore 4, 2) := dk_54 4 (dk_at dksX1_leftBy_0 11 rfl rfl)
theorem dX1_leftBy_13 : decode cX1_leftBy 13 = .ok (.iconst 0, 1) := dk_3 (dk_at dksX1_leftBy_0 13 rfl rfl)
theorem dX1_leftBy_14 : decode cX1_leftBy 14 = .ok (.istore 5, 2) := dk_54 5 (dk_at dksX1_leftBy_0 14 rfl rfl)
theorem dX1_leftBy_16 : decode cX1_leftBy 16 = .ok (.iload 5, 2) := dk_21 5 (dk_at dksX1_leftBy_0 16 rfl rfl)
theorem dX1_leftBy_18 : decode cX1_leftBy 18 = .ok (.aload_n 0, 1) := dk_42 (dk_at dksX1_leftBy_0 18 rfl rfl)
theorem dX1_leftBy_19 : decode cX1_leftBy 19 = .ok (.getfield 145, 3) := dk_180 0 145 (dk_at dksX1_leftBy_0 19 rfl rfl)
theorem dX1_leftBy_22 : decode cX1_leftBy 22 = .ok (.if_icmp .ge 30, 3) := dk_162 0 30 (dk_at dksX1_leftBy_1 0 rfl rfl)
theorem dX1_leftBy_25 : decode cX1_leftBy 25 = .ok (.iload 4, 2) := dk_21 4 (dk_at dksX1_leftBy_1 3 rfl rfl)
theorem dX1_leftBy_27 : decode cX1_leftBy 27 = .ok (.aload_n 0, 1) := dk_42 (dk_at dksX1_leftBy_1 5 rfl rfl)
theorem dX1_leftBy_28 : decode cX1_leftBy 28 = .ok (.iload 5, 2) := dk_21 5 (dk_at dksX1_leftBy_1 6 rfl rfl)
theorem dX1_leftBy_30 : decode cX1_leftBy 30 = .ok (.iload_n 1, 1) := dk_27 (dk_at dksX1_leftBy_1 8 rfl rfl)
theorem dX1_leftBy_31 : decode cX1_leftBy 31 = .ok (.invokevirtual 359, 3) := dk_182 1 103 (dk_at dksX1_leftBy_1 9 rfl rfl)
theorem dX1_leftBy_34 : decode cX1_leftBy 34 = .ok (.iload_n 3, 1) := dk_29 (dk_at dksX1_leftBy_1 12 rfl rfl)
theorem dX1_leftBy_35 : decode cX1_leftBy 35 = .ok (.if_icmp .ne 7, 3) := dk_160 0 7 (dk_at dksX1_leftBy_1 13 rfl rfl)
theorem dX1_leftBy_38 : decode cX1_leftBy 38 = .ok (.iconst 1, 1) := dk_4 (dk_at dksX1_leftBy_1 16 rfl rfl)
theorem dX1_leftBy_39 : decode cX1_leftBy 39 = .ok (.goto 4, 3) := dk_167 0 4 (dk_at dksX1_leftBy_1 17 rfl rfl)
theorem dX1_leftBy_42 : decode cX1_leftBy 42 = .ok (.iconst 0, 1) := dk_3 (dk_at dksX1_leftBy_1 20 rfl rfl)
theorem dX1_leftBy_43 : decode cX1_leftBy 43 = .ok (.iadd, 1) := dk_96 (dk_at dksX1_leftBy_1 21 rfl rfl)
theorem dX1_leftBy_44 : decode cX1_leftBy 44 = .ok (.istore 4, 2) := dk_54 4 (dk_at dksX1_leftBy_1 22 rfl rfl)
theorem dX1_leftBy_46 : decode cX1_leftBy 46 = .ok (.iinc 5 1, 3) := dk_132 5 1 (dk_at dksX1_leftBy_2 0 rfl rfl)
theorem dX1_leftBy_49 : decode cX1_leftBy 49 = .ok (.goto (-33), 3) := dk_167 255 223 (dk_at dksX1_leftBy_2 3 rfl rfl)
theorem dX1_leftBy_52 : decode cX1_leftBy 52 = .ok (.iload_n 2, 1) := dk_28 (dk_at dksX1_leftBy_2 6 rfl rfl)
theorem dX1_leftBy_53 : decode cX1_leftBy 53 = .ok (.iload 4, 2) := dk_21 4 (dk_at dksX1_leftBy_2 7 rfl rfl)
theorem dX1_leftBy_55 : decode cX1_leftBy 55 = .ok (.invokestatic 258, 3) := dk_184 1 2 (dk_at dksX1_leftBy_2 9 rfl rfl)
theorem dX1_leftBy_58 : decode cX1_leftBy 58 = .ok (.istore_n 2, 1) := dk_61 (dk_at dksX1_leftBy_2 12 rfl rfl)
theorem dX1_leftBy_59 : decode cX1_leftBy 59 = .ok (.iinc 3 1, 3) := dk_132 3 1 (dk_at dksX1_leftBy_2 13 rfl rfl)
theorem dX1_leftBy_62 : decode cX1_leftBy 62 = .ok (.goto (-58), 3) := dk_167 255 198 (dk_at dksX1_leftBy_2 16 rfl rfl)
theorem dX1_leftBy_65 : decode cX1_leftBy 65 = .ok (.iload_n 2, 1) := dk_28 (dk_at dksX1_leftBy_2 19 rfl rfl)
theorem dX1_leftBy_66 : decode cX1_leftBy 66 = .ok (.ireturn, 1) := dk_172 (dk_at dksX1_leftBy_2 20 rfl rfl)
def dkwX1_years_9 : List UInt8 := [2, 130, 126, 184, 1, 225, 172]
abbrev dktX1_years_9 : List UInt8 := dkwX1_years_9 ++ []
def dkwX1_years_8 : List UInt8 := [182, 1, 136, 42, 21, 4, 133, 182, 1, 136, 42, 180, 0, 16, 180, 1, 84, 42, 180, 0, 12, 180, 1, 84]
abbrev dktX1_years_8 : List UInt8 := dkwX1_years_8 ++ dktX1_years_9
def dkwX1_years_7 : List UInt8 := [180, 0, 16, 21, 6, 4, 96, 181, 1, 126, 132, 5, 1, 167, 255, 133, 42, 3, 181, 1, 133, 42, 29, 133]
abbrev dktX1_years_7 : List UInt8 := dkwX1_years_7 ++ dktX1_years_8
def dkwX1_years_6 : List UInt8 := [54, 4, 29, 21, 8, 5, 162, 0, 7, 3, 167, 0, 9, 3, 21, 9, 184, 1, 2, 96, 62, 42]
abbrev dktX1_years_6 : List UInt8 := dkwX1_years_6 ++ dktX1_years_7
def dkwX1_years_5 : List UInt8 := [180, 0, 145, 182, 2, 37, 182, 1, 168, 54, 9, 21, 4, 21, 9, 156, 0, 7, 4, 167, 0, 4, 3, 96]
abbrev dktX1_years_5 : List UInt8 := dkwX1_years_5 ++ dktX1_years_6
def dkwX1_years_4 : List UInt8 := [180, 0, 16, 21, 7, 4, 21, 8, 100, 182, 1, 159, 167, 0, 21, 42, 42, 180, 0, 16, 21, 7, 42, 42]
abbrev dktX1_years_4 : List UInt8 := dkwX1_years_4 ++ dktX1_years_5
def dkwX1_years_3 : List UInt8 := [42, 180, 0, 148, 182, 2, 37, 54, 7, 42, 7, 182, 2, 37, 54, 8, 21, 8, 5, 162, 0, 20, 42, 42]
abbrev dktX1_years_3 : List UInt8 := dkwX1_years_3 ++ dktX1_years_4
def dkwX1_years_2 : List UInt8 := [3, 62, 3, 54, 4, 3, 54, 5, 21, 5, 28, 162, 0, 123, 42, 180, 0, 16, 180, 1, 126, 54, 6, 42]
abbrev dktX1_years_2 : List UInt8 := dkwX1_years_2 ++ dktX1_years_3
def dkwX1_years_1 : List UInt8 := [184, 0, 141, 154, 0, 5, 2, 172, 42, 27, 181, 2, 31, 42, 180, 0, 16, 42, 180, 0, 12, 182, 1, 119]
abbrev dktX1_years_1 : List UInt8 := dkwX1_years_1 ++ dktX1_years_2
def dkwX1_years_0 : List UInt8 := [42, 180, 0, 148, 153, 0, 10, 42, 180, 0, 145, 154, 0, 6, 16, 254, 172, 28, 133, 10, 20, 2, 35]
abbrev dktX1_years_0 : List UInt8 := dkwX1_years_0 ++ dktX1_years_1
theorem dksX1_years_0 : cX1_years.data.toList.drop 0 = dktX1_years_0 := by decide +kernel
theorem dksX1_years_1 : cX1_years.data.toList.drop 23 = dktX1_years_1 := dk_seg dksX1_years_0 23 rfl rfl
theorem dksX1_years_2 : cX1_years.data.toList.drop 47 = dktX1_years_2 := dk_seg dksX1_years_1 24 rfl rfl
theorem dksX1_years_3 : cX1_years.data.toList.drop 71 = dktX1_years_3 := dk_seg dksX1_years_2 24 rfl rfl
theorem dksX1_years_4 : cX1_years.data.toList.drop 95 = dktX1_years_4 := dk_seg dksX1_years_3 24 rfl rfl
theorem dksX1_years_5 : cX1_years.data.toList.drop 119 = dktX1_years_5 := dk_seg dksX1_years_4 24 rfl rfl
theorem dksX1_years_6 : cX1_years.data.toList.drop 143 = dktX1_years_6 := dk_seg dksX1_years_5 24 rfl rfl
theorem dksX1_years_7 : cX1_years.data.toList.drop 165 = dktX1_years_7 := dk_seg dksX1_years_6 22 rfl rfl
theorem dksX1_years_8 : cX1_years.data.toList.drop 189 = dktX1_years_8 := dk_seg dksX1_years_7 24 rfl rfl
theorem dksX1_years_9 : cX1_years.data.toList.drop 213 = dktX1_years_9 := dk_seg dksX1_years_8 24 rfl rfl
theorem dX1_years_0 : decode cX1_years 0 = .ok (.aload_n 0, 1) := dk_42 (dk_at dksX1_years_0 0 rfl rfl)
theorem dX1_years_1 : decode cX1_years 1 = .ok (.getfield 148, 3) := dk_180 0 148 (dk_at dksX1_years_0 1 rfl rfl)
theorem dX1_years_4 : decode cX1_years 4 = .ok (.ifCond .eq 10, 3) := dk_153 0 10 (dk_at dksX1_years_0 4 rfl rfl)
theorem dX1_years_7 : decode cX1_years 7 = .ok (.aload_n 0, 1) := dk_42 (dk_at dksX1_years_0 7 rfl rfl)
theorem dX1_years_8 : decode cX1_years 8 = .ok (.getfield 145, 3) := dk_180 0 145 (dk_at dksX1_years_0 8 rfl rfl)
theorem dX1_years_11 : decode cX1_years 11 = .ok (.ifCond .ne 6, 3) := dk_154 0 6 (dk_at dksX1_years_0 11 rfl rfl)
theorem dX1_years_14 : decode cX1_years 14 = .ok (.bipush (-2), 2) := dk_16 254 (dk_at dksX1_years_0 14 rfl rfl)
theorem dX1_years_16 : decode cX1_years 16 = .ok (.ireturn, 1) := dk_172 (dk_at dksX1_years_0 16 rfl rfl)
theorem dX1_years_17 : decode cX1_years 17 = .ok (.iload_n 2, 1) := dk_28 (dk_at dksX1_years_0 17 rfl rfl)
theorem dX1_years_18 : decode cX1_years 18 = .ok (.i2l, 1) := dk_133 (dk_at dksX1_years_0 18 rfl rfl)
theorem dX1_years_19 : decode cX1_years 19 = .ok (.lconst 1, 1) := dk_10 (dk_at dksX1_years_0 19 rfl rfl)
theorem dX1_years_20 : decode cX1_years 20 = .ok (.ldc2_w 547, 3) := dk_20 2 35 (dk_at dksX1_years_0 20 rfl rfl)
theorem dX1_years_23 : decode cX1_years 23 = .ok (.invokestatic 141, 3) := dk_184 0 141 (dk_at dksX1_years_1 0 rfl rfl)
theorem dX1_years_26 : decode cX1_years 26 = .ok (.ifCond .ne 5, 3) := dk_154 0 5 (dk_at dksX1_years_1 3 rfl rfl)
theorem dX1_years_29 : decode cX1_years 29 = .ok (.iconst (-1), 1) := dk_2 (dk_at dksX1_years_1 6 rfl rfl)
theorem dX1_years_30 : decode cX1_years 30 = .ok (.ireturn, 1) := dk_172 (dk_at dksX1_years_1 7 rfl rfl)
theorem dX1_years_31 : decode cX1_years 31 = .ok (.aload_n 0, 1) := dk_42 (dk_at dksX1_years_1 8 rfl rfl)
theorem dX1_years_32 : decode cX1_years 32 = .ok (.iload_n 1, 1) := dk_27 (dk_at dksX1_years_1 9 rfl rfl)
theorem dX1_years_33 : decode cX1_years 33 = .ok (.putfield 543, 3) := dk_181 2 31 (dk_at dksX1_years_1 10 rfl rfl)
theorem dX1_years_36 : decode cX1_years 36 = .ok (.aload_n 0, 1) := dk_42 (dk_at dksX1_years_1 13 rfl rfl)
theorem dX1_years_37 : decode cX1_years 37 = .ok (.getfield 16, 3) := dk_180 0 16 (dk_at dksX1_years_1 14 rfl rfl)
theorem dX1_years_40 : decode cX1_years 40 = .ok (.aload_n 0, 1) := dk_42 (dk_at dksX1_years_1 17 rfl rfl)
theorem dX1_years_41 : decode cX1_years 41 = .ok (.getfield 12, 3) := dk_180 0 12 (dk_at dksX1_years_1 18 rfl rfl)
theorem dX1_years_44 : decode cX1_years 44 = .ok (.invokevirtual 375, 3) := dk_182 1 119 (dk_at dksX1_years_1 21 rfl rfl)
theorem dX1_years_47 : decode cX1_years 47 = .ok (.iconst 0, 1) := dk_3 (dk_at dksX1_years_2 0 rfl rfl)
theorem dX1_years_48 : decode cX1_years 48 = .ok (.istore_n 3, 1) := dk_62 (dk_at dksX1_years_2 1 rfl rfl)
theorem dX1_years_49 : decode cX1_years 49 = .ok (.iconst 0, 1) := dk_3 (dk_at dksX1_years_2 2 rfl rfl)
theorem dX1_years_50 : decode cX1_years 50 = .ok (.istore 4, 2) := dk_54 4 (dk_at dksX1_years_2 3 rfl rfl)
theorem dX1_years_52 : decode cX1_years 52 = .ok (.iconst 0, 1) := dk_3 (dk_at dksX1_years_2 5 rfl rfl)
theorem dX1_years_53 : decode cX1_years 53 = .ok (.istore 5, 2) := dk_54 5 (dk_at dksX1_years_2 6 rfl rfl)
theorem dX1_years_55 : decode cX1_years 55 = .ok (.iload 5, 2) := dk_21 5 (dk_at dksX1_years_2 8 rfl rfl)
theorem dX1_years_57 : decode cX1_years 57 = .ok (.iload_n 2, 1) := dk_28 (dk_at dksX1_years_2 10 rfl rfl)
theorem dX1_years_58 : decode cX1_years 58 = .ok (.if_icmp .ge 123, 3) := dk_162 0 123 (dk_at dksX1_years_2 11 rfl rfl)
theorem dX1_years_61 : decode cX1_years 61 = .ok (.aload_n 0, 1) := dk_42 (dk_at dksX1_years_2 14 rfl rfl)
theorem dX1_years_62 : decode cX1_years 62 = .ok (.getfield 16, 3) := dk_180 0 16 (dk_at dksX1_years_2 15 rfl rfl)
theorem dX1_years_65 : decode cX1_years 65 = .ok (.getfield 382, 3) := dk_180 1 126 (dk_at dksX1_years_2 18 rfl rfl)
theorem dX1_years_68 : decode cX1_years 68 = .ok (.istore 6, 2) := dk_54 6 (dk_at dksX1_years_2 21 rfl rfl)
theorem dX1_years_70 : decode cX1_years 70 = .ok (.aload_n 0, 1) := dk_42 (dk_at dksX1_years_2 23 rfl rfl)
theorem dX1_years_71 : decode cX1_years 71 = .ok (.aload_n 0, 1) := dk_42 (dk_at dksX1_years_3 0 rfl rfl)
theorem dX1_years_72 : decode cX1_years 72 = .ok (.getfield 148, 3) := dk_180 0 148 (dk_at dksX1_years_3 1 rfl rfl)
theorem dX1_years_75 : decode cX1_years 75 = .ok (.invokevirtual 549, 3) := dk_182 2 37 (dk_at dksX1_years_3 4 rfl rfl)
theorem dX1_years_78 : decode cX1_years 78 = .ok (.istore 7, 2) := dk_54 7 (dk_at dksX1_years_3 7 rfl rfl)
theorem dX1_years_80 : decode cX1_years 80 = .ok (.aload_n 0, 1) := dk_42 (dk_at dksX1_years_3 9 rfl rfl)
theorem dX1_years_81 : decode cX1_years 81 = .ok (.iconst 4, 1) := dk_7 (dk_at dksX1_years_3 10 rfl rfl)
theorem dX1_years_82 : decode cX1_years 82 = .ok (.invokevirtual 549, 3) := dk_182 2 37 (dk_at dksX1_years_3 11 rfl rfl)
theorem dX1_years_85 : decode cX1_years 85 = .ok (.istore 8, 2) := dk_54 8 (dk_at dksX1_years_3 14 rfl rfl)
theorem dX1_years_87 : decode cX1_years 87 = .ok (.iload 8, 2) := dk_21 8 (dk_at dksX1_years_3 16 rfl rfl)
theorem dX1_years_89 : decode cX1_years 89 = .ok (.iconst 2, 1) := dk_5 (dk_at dksX1_years_3 18 rfl rfl)
theorem dX1_years_90 : decode cX1_years 90 = .ok (.if_icmp .ge 20, 3) := dk_162 0 20 (dk_at dksX1_years_3 19 rfl rfl)
theorem dX1_years_93 : decode cX1_years 93 = .ok (.aload_n 0, 1) := dk_42 (dk_at dksX1_years_3 22 rfl rfl)
theorem dX1_years_94 : decode cX1_years 94 = .ok (.aload_n 0, 1) := dk_42 (dk_at dksX1_years_3 23 rfl rfl)
theorem dX1_years_95 : decode cX1_years 95 = .ok (.getfield 16, 3) := dk_180 0 16 (dk_at dksX1_years_4 0 rfl rfl)
theorem dX1_years_98 : decode cX1_years 98 = .ok (.iload 7, 2) := dk_21 7 (dk_at dksX1_years_4 3 rfl rfl)
theorem dX1_years_100 : decode cX1_years 100 = .ok (.iconst 1, 1) := dk_4 (dk_at dksX1_years_4 5 rfl rfl)
theorem dX1_years_101 : decode cX1_years 101 = .ok (.iload 8, 2) := dk_21 8 (dk_at dksX1_years_4 6 rfl rfl)
theorem dX1_years_103 : decode cX1_years 103 = .ok (.isub, 1) := dk_100 (dk_at dksX1_years_4 8 rfl rfl)
theorem dX1_years_104 : decode cX1_years 104 = .ok (.invokevirtual 415, 3) := dk_182 1 159 (dk_at dksX1_years_4 9 rfl rfl)
theorem dX1_years_107 : decode cX1_years 107 = .ok (.goto 21, 3) := dk_167 0 21 (dk_at dksX1_years_4 12 rfl rfl)
theorem dX1_years_110 : decode cX1_years 110 = .ok (.aload_n 0, 1) := dk_42 (dk_at dksX1_years_4 15 rfl rfl)
theorem dX1_years_111 : decode cX1_years 111 = .ok (.aload_n 0, 1) := dk_42 (dk_at dksX1_years_4 16 rfl rfl)
theorem dX1_years_112 : decode cX1_years 112 = .ok (.getfield 16, 3) := dk_180 0 16 (dk_at dksX1_years_4 17 rfl rfl)
theorem dX1_years_115 : decode cX1_years 115 = .ok (.iload 7, 2) := dk_21 7 (dk_at dksX1_years_4 20 rfl rfl)
theorem dX1_years_117 : decode cX1_years 117 = .ok (.aload_n 0, 1) := dk_42 (dk_at dksX1_years_4 22 rfl rfl)
theorem dX1_years_118 : decode cX1_years 118 = .ok (.aload_n 0, 1) := dk_42 (dk_at dksX1_years_4 23 rfl rfl)
theorem dX1_years_119 : decode cX1_years 119 = .ok (.getfield 145, 3) := dk_180 0 145 (dk_at dksX1_years_5 0 rfl rfl)
theorem dX1_years_122 : decode cX1_years 122 = .ok (.invokevirtual 549, 3) := dk_182 2 37 (dk_at dksX1_years_5 3 rfl rfl)
theorem dX1_years_125 : decode cX1_years 125 = .ok (.invokevirtual 424, 3) := dk_182 1 168 (dk_at dksX1_years_5 6 rfl rfl)
theorem dX1_years_128 : decode cX1_years 128 = .ok (.istore 9, 2) := dk_54 9 (dk_at dksX1_years_5 9 rfl rfl)
theorem dX1_years_130 : decode cX1_years 130 = .ok (.iload 4, 2) := dk_21 4 (dk_at dksX1_years_5 11 rfl rfl)
theorem dX1_years_132 : decode cX1_years 132 = .ok (.iload 9, 2) := dk_21 9 (dk_at dksX1_years_5 13 rfl rfl)
theorem dX1_years_134 : decode cX1_years 134 = .ok (.ifCond .ge 7, 3) := dk_156 0 7 (dk_at dksX1_years_5 15 rfl rfl)
theorem dX1_years_137 : decode cX1_years 137 = .ok (.iconst 1, 1) := dk_4 (dk_at dksX1_years_5 18 rfl rfl)
theorem dX1_years_138 : decode cX1_years 138 = .ok (.goto 4, 3) := dk_167 0 4 (dk_at dksX1_years_5 19 rfl rfl)
theorem dX1_years_141 : decode cX1_years 141 = .ok (.iconst 0, 1) := dk_3 (dk_at dksX1_years_5 22 rfl rfl)
theorem dX1_years_142 : decode cX1_years 142 = .ok (.iadd, 1) := dk_96 (dk_at dksX1_years_5 23 rfl rfl)
theorem dX1_years_143 : decode cX1_years 143 = .ok (.istore 4, 2) := dk_54 4 (dk_at dksX1_years_6 0 rfl rfl)
theorem dX1_years_145 : decode cX1_years 145 = .ok (.iload_n 3, 1) := dk_29 (dk_at dksX1_years_6 2 rfl rfl)
theorem dX1_years_146 : decode cX1_years 146 = .ok (.iload 8, 2) := dk_21 8 (dk_at dksX1_years_6 3 rfl rfl)
theorem dX1_years_148 : decode cX1_years 148 = .ok (.iconst 2, 1) := dk_5 (dk_at dksX1_years_6 5 rfl rfl)
theorem dX1_years_149 : decode cX1_years 149 = .ok (.if_icmp .ge 7, 3) := dk_162 0 7 (dk_at dksX1_years_6 6 rfl rfl)
theorem dX1_years_152 : decode cX1_years 152 = .ok (.iconst 0, 1) := dk_3 (dk_at dksX1_years_6 9 rfl rfl)
theorem dX1_years_153 : decode cX1_years 153 = .ok (.goto 9, 3) := dk_167 0 9 (dk_at dksX1_years_6 10 rfl rfl)
theorem dX1_years_156 : decode cX1_years 156 = .ok (.iconst 0, 1) := dk_3 (dk_at dksX1_years_6 13 rfl rfl)
theorem dX1_years_157 : decode cX1_years 157 = .ok (.iload 9, 2) := dk_21 9 (dk_at dksX1_years_6 14 rfl rfl)
theorem dX1_years_159 : decode cX1_years 159 = .ok (.invokestatic 258, 3) := dk_184 1 2 (dk_at dksX1_years_6 16 rfl rfl)
theorem dX1_years_162 : decode cX1_years 162 = .ok (.iadd, 1) := dk_96 (dk_at dksX1_years_6 19 rfl rfl)
theorem dX1_years_163 : decode cX1_years 163 = .ok (.istore_n 3, 1) := dk_62 (dk_at dksX1_years_6 20 rfl rfl)
theorem dX1_years_164 : decode cX1_years 164 = .ok (.aload_n 0, 1) := dk_42 (dk_at dksX1_years_6 21 rfl rfl)
theorem dX1_years_165 : decode cX1_years 165 = .ok (.getfield 16, 3) := dk_180 0 16 (dk_at dksX1_years_7 0 rfl rfl)
theorem dX1_years_168 : decode cX1_years 168 = .ok (.iload 6, 2) := dk_21 6 (dk_at dksX1_years_7 3 rfl rfl)
theorem dX1_years_170 : decode cX1_years 170 = .ok (.iconst 1, 1) := dk_4 (dk_at dksX1_years_7 5 rfl rfl)
theorem dX1_years_171 : decode cX1_years 171 = .ok (.iadd, 1) := dk_96 (dk_at dksX1_years_7 6 rfl rfl)
theorem dX1_years_172 : decode cX1_years 172 = .ok (.putfield 382, 3) := dk_181 1 126 (dk_at dksX1_years_7 7 rfl rfl)
theorem dX1_years_175 : decode cX1_years 175 = .ok (.iinc 5 1, 3) := dk_132 5 1 (dk_at dksX1_years_7 10 rfl rfl)
theorem dX1_years_178 : decode cX1_years 178 = .ok (.goto (-123), 3) := dk_167 255 133 (dk_at dksX1_years_7 13 rfl rfl)
theorem dX1_years_181 : decode cX1_years 181 = .ok (.aload_n 0, 1) := dk_42 (dk_at dksX1_years_7 16 rfl rfl)
theorem dX1_years_182 : decode cX1_years 182 = .ok (.iconst 0, 1) := dk_3 (dk_at dksX1_years_7 17 rfl rfl)
theorem dX1_years_183 : decode cX1_years 183 = .ok (.putfield 389, 3) := dk_181 1 133 (dk_at dksX1_years_7 18 rfl rfl)
theorem dX1_years_186 : decode cX1_years 186 = .ok (.aload_n 0, 1) := dk_42 (dk_at dksX1_years_7 21 rfl rfl)
theorem dX1_years_187 : decode cX1_years 187 = .ok (.iload_n 3, 1) := dk_29 (dk_at dksX1_years_7 22 rfl rfl)
theorem dX1_years_188 : decode cX1_years 188 = .ok (.i2l, 1) := dk_133 (dk_at dksX1_years_7 23 rfl rfl)
theorem dX1_years_189 : decode cX1_years 189 = .ok (.invokevirtual 392, 3) := dk_182 1 136 (dk_at dksX1_years_8 0 rfl rfl)
theorem dX1_years_192 : decode cX1_years 192 = .ok (.aload_n 0, 1) := dk_42 (dk_at dksX1_years_8 3 rfl rfl)
theorem dX1_years_193 : decode cX1_years 193 = .ok (.iload 4, 2) := dk_21 4 (dk_at dksX1_years_8 4 rfl rfl)
theorem dX1_years_195 : decode cX1_years 195 = .ok (.i2l, 1) := dk_133 (dk_at dksX1_years_8 6 rfl rfl)
theorem dX1_years_196 : decode cX1_years 196 = .ok (.invokevirtual 392, 3) := dk_182 1 136 (dk_at dksX1_years_8 7 rfl rfl)
theorem dX1_years_199 : decode cX1_years 199 = .ok (.aload_n 0, 1) := dk_42 (dk_at dksX1_years_8 10 rfl rfl)
theorem dX1_years_200 : decode cX1_years 200 = .ok (.getfield 16, 3) := dk_180 0 16 (dk_at dksX1_years_8 11 rfl rfl)
theorem dX1_years_203 : decode cX1_years 203 = .ok (.getfield 340, 3) := dk_180 1 84 (dk_at dksX1_years_8 14 rfl rfl)
theorem dX1_years_206 : decode cX1_years 206 = .ok (.aload_n 0, 1) := dk_42 (dk_at dksX1_years_8 17 rfl rfl)
theorem dX1_years_207 : decode cX1_years 207 = .ok (.getfield 12, 3) := dk_180 0 12 (dk_at dksX1_years_8 18 rfl rfl)
theorem dX1_years_210 : decode cX1_years 210 = .ok (.getfield 340, 3) := dk_180 1 84 (dk_at dksX1_years_8 21 rfl rfl)
theorem dX1_years_213 : decode cX1_years 213 = .ok (.iconst (-1), 1) := dk_2 (dk_at dksX1_years_9 0 rfl rfl)
theorem dX1_years_214 : decode cX1_years 214 = .ok (.ixor, 1) := dk_130 (dk_at dksX1_years_9 1 rfl rfl)
theorem dX1_years_215 : decode cX1_years 215 = .ok (.iand, 1) := dk_126 (dk_at dksX1_years_9 2 rfl rfl)
theorem dX1_years_216 : decode cX1_years 216 = .ok (.invokestatic 481, 3) := dk_184 1 225 (dk_at dksX1_years_9 3 rfl rfl)
theorem dX1_years_219 : decode cX1_years 219 = .ok (.ireturn, 1) := dk_172 (dk_at dksX1_years_9 6 rfl rfl)
def dkwX1_draws_1 : List UInt8 := [112, 172]
abbrev dktX1_draws_1 : List UInt8 := dkwX1_draws_1 ++ []
def dkwX1_draws_0 : List UInt8 := [42, 42, 180, 2, 31, 19, 2, 34, 104, 17, 48, 57, 96, 181, 2, 31, 42, 180, 2, 31, 16, 16, 124, 27]
abbrev dktX1_draws_0 : List UInt8 := dkwX1_draws_0 ++ dktX1_draws_1
theorem dksX1_draws_0 : cX1_draws.data.toList.drop 0 = dktX1_draws_0 := by decide +kernel
theorem dksX1_draws_1 : cX1_draws.data.toList.drop 24 = dktX1_draws_1 := dk_seg dksX1_draws_0 24 rfl rfl
theorem dX1_draws_0 : decode cX1_draws 0 = .ok (.aload_n 0, 1) := dk_42 (dk_at dksX1_draws_0 0 rfl rfl)
theorem dX1_draws_1 : decode cX1_draws 1 = .ok (.aload_n 0, 1) := dk_42 (dk_at dksX1_draws_0 1 rfl rfl)
theorem dX1_draws_2 : decode cX1_draws 2 = .ok (.getfield 543, 3) := dk_180 2 31 (dk_at dksX1_draws_0 2 rfl rfl)
theorem dX1_draws_5 : decode cX1_draws 5 = .ok (.ldc_w 546, 3) := dk_19 2 34 (dk_at dksX1_draws_0 5 rfl rfl)
theorem dX1_draws_8 : decode cX1_draws 8 = .ok (.imul, 1) := dk_104 (dk_at dksX1_draws_0 8 rfl rfl)
theorem dX1_draws_9 : decode cX1_draws 9 = .ok (.sipush 12345, 3) := dk_17 48 57 (dk_at dksX1_draws_0 9 rfl rfl)
theorem dX1_draws_12 : decode cX1_draws 12 = .ok (.iadd, 1) := dk_96 (dk_at dksX1_draws_0 12 rfl rfl)
theorem dX1_draws_13 : decode cX1_draws 13 = .ok (.putfield 543, 3) := dk_181 2 31 (dk_at dksX1_draws_0 13 rfl rfl)
theorem dX1_draws_16 : decode cX1_draws 16 = .ok (.aload_n 0, 1) := dk_42 (dk_at dksX1_draws_0 16 rfl rfl)
theorem dX1_draws_17 : decode cX1_draws 17 = .ok (.getfield 543, 3) := dk_180 2 31 (dk_at dksX1_draws_0 17 rfl rfl)
theorem dX1_draws_20 : decode cX1_draws 20 = .ok (.bipush 16, 2) := dk_16 16 (dk_at dksX1_draws_0 20 rfl rfl)
theorem dX1_draws_22 : decode cX1_draws 22 = .ok (.iushr, 1) := dk_124 (dk_at dksX1_draws_0 22 rfl rfl)
theorem dX1_draws_23 : decode cX1_draws 23 = .ok (.iload_n 1, 1) := dk_27 (dk_at dksX1_draws_0 23 rfl rfl)
theorem dX1_draws_24 : decode cX1_draws 24 = .ok (.irem, 1) := dk_112 (dk_at dksX1_draws_1 0 rfl rfl)
theorem dX1_draws_25 : decode cX1_draws 25 = .ok (.ireturn, 1) := dk_172 (dk_at dksX1_draws_1 1 rfl rfl)
def dkwX1_keep_2 : List UInt8 := [182, 1, 119, 42, 180, 0, 130, 27, 42, 180, 0, 231, 79, 4, 172]
abbrev dktX1_keep_2 : List UInt8 := dkwX1_keep_2 ++ []
def dkwX1_keep_1 : List UInt8 := [180, 0, 127, 27, 187, 0, 9, 89, 183, 0, 11, 83, 42, 180, 0, 127, 27, 50, 42, 180, 0, 12]
abbrev dktX1_keep_1 : List UInt8 := dkwX1_keep_1 ++ dktX1_keep_2
def dkwX1_keep_0 : List UInt8 := [27, 133, 9, 10, 184, 0, 141, 154, 0, 5, 3, 172, 42, 180, 0, 127, 27, 50, 199, 0, 16, 42]
abbrev dktX1_keep_0 : List UInt8 := dkwX1_keep_0 ++ dktX1_keep_1
theorem dksX1_keep_0 : cX1_keep.data.toList.drop 0 = dktX1_keep_0 := by decide +kernel
theorem dksX1_keep_1 : cX1_keep.data.toList.drop 22 = dktX1_keep_1 := dk_seg dksX1_keep_0 22 rfl rfl
theorem dksX1_keep_2 : cX1_keep.data.toList.drop 44 = dktX1_keep_2 := dk_seg dksX1_keep_1 22 rfl rfl
theorem dX1_keep_0 : decode cX1_keep 0 = .ok (.iload_n 1, 1) := dk_27 (dk_at dksX1_keep_0 0 rfl rfl)
theorem dX1_keep_1 : decode cX1_keep 1 = .ok (.i2l, 1) := dk_133 (dk_at dksX1_keep_0 1 rfl rfl)
theorem dX1_keep_2 : decode cX1_keep 2 = .ok (.lconst 0, 1) := dk_9 (dk_at dksX1_keep_0 2 rfl rfl)
theorem dX1_keep_3 : decode cX1_keep 3 = .ok (.lconst 1, 1) := dk_10 (dk_at dksX1_keep_0 3 rfl rfl)
theorem dX1_keep_4 : decode cX1_keep 4 = .ok (.invokestatic 141, 3) := dk_184 0 141 (dk_at dksX1_keep_0 4 rfl rfl)
theorem dX1_keep_7 : decode cX1_keep 7 = .ok (.ifCond .ne 5, 3) := dk_154 0 5 (dk_at dksX1_keep_0 7 rfl rfl)
theorem dX1_keep_10 : decode cX1_keep 10 = .ok (.iconst 0, 1) := dk_3 (dk_at dksX1_keep_0 10 rfl rfl)
theorem dX1_keep_11 : decode cX1_keep 11 = .ok (.ireturn, 1) := dk_172 (dk_at dksX1_keep_0 11 rfl rfl)
theorem dX1_keep_12 : decode cX1_keep 12 = .ok (.aload_n 0, 1) := dk_42 (dk_at dksX1_keep_0 12 rfl rfl)
theorem dX1_keep_13 : decode cX1_keep 13 = .ok (.getfield 127, 3) := dk_180 0 127 (dk_at dksX1_keep_0 13 rfl rfl)
theorem dX1_keep_16 : decode cX1_keep 16 = .ok (.iload_n 1, 1) := dk_27 (dk_at dksX1_keep_0 16 rfl rfl)
theorem dX1_keep_17 : decode cX1_keep 17 = .ok (.aaload, 1) := dk_50 (dk_at dksX1_keep_0 17 rfl rfl)
theorem dX1_keep_18 : decode cX1_keep 18 = .ok (.ifnonnull 16, 3) := dk_199 0 16 (dk_at dksX1_keep_0 18 rfl rfl)
theorem dX1_keep_21 : decode cX1_keep 21 = .ok (.aload_n 0, 1) := dk_42 (dk_at dksX1_keep_0 21 rfl rfl)
theorem dX1_keep_22 : decode cX1_keep 22 = .ok (.getfield 127, 3) := dk_180 0 127 (dk_at dksX1_keep_1 0 rfl rfl)
theorem dX1_keep_25 : decode cX1_keep 25 = .ok (.iload_n 1, 1) := dk_27 (dk_at dksX1_keep_1 3 rfl rfl)
theorem dX1_keep_26 : decode cX1_keep 26 = .ok (.new 9, 3) := dk_187 0 9 (dk_at dksX1_keep_1 4 rfl rfl)
theorem dX1_keep_29 : decode cX1_keep 29 = .ok (.dup, 1) := dk_89 (dk_at dksX1_keep_1 7 rfl rfl)
theorem dX1_keep_30 : decode cX1_keep 30 = .ok (.invokespecial 11, 3) := dk_183 0 11 (dk_at dksX1_keep_1 8 rfl rfl)
theorem dX1_keep_33 : decode cX1_keep 33 = .ok (.aastore, 1) := dk_83 (dk_at dksX1_keep_1 11 rfl rfl)
theorem dX1_keep_34 : decode cX1_keep 34 = .ok (.aload_n 0, 1) := dk_42 (dk_at dksX1_keep_1 12 rfl rfl)
theorem dX1_keep_35 : decode cX1_keep 35 = .ok (.getfield 127, 3) := dk_180 0 127 (dk_at dksX1_keep_1 13 rfl rfl)
theorem dX1_keep_38 : decode cX1_keep 38 = .ok (.iload_n 1, 1) := dk_27 (dk_at dksX1_keep_1 16 rfl rfl)
theorem dX1_keep_39 : decode cX1_keep 39 = .ok (.aaload, 1) := dk_50 (dk_at dksX1_keep_1 17 rfl rfl)
theorem dX1_keep_40 : decode cX1_keep 40 = .ok (.aload_n 0, 1) := dk_42 (dk_at dksX1_keep_1 18 rfl rfl)
theorem dX1_keep_41 : decode cX1_keep 41 = .ok (.getfield 12, 3) := dk_180 0 12 (dk_at dksX1_keep_1 19 rfl rfl)
theorem dX1_keep_44 : decode cX1_keep 44 = .ok (.invokevirtual 375, 3) := dk_182 1 119 (dk_at dksX1_keep_2 0 rfl rfl)
theorem dX1_keep_47 : decode cX1_keep 47 = .ok (.aload_n 0, 1) := dk_42 (dk_at dksX1_keep_2 3 rfl rfl)
theorem dX1_keep_48 : decode cX1_keep 48 = .ok (.getfield 130, 3) := dk_180 0 130 (dk_at dksX1_keep_2 4 rfl rfl)
theorem dX1_keep_51 : decode cX1_keep 51 = .ok (.iload_n 1, 1) := dk_27 (dk_at dksX1_keep_2 7 rfl rfl)
theorem dX1_keep_52 : decode cX1_keep 52 = .ok (.aload_n 0, 1) := dk_42 (dk_at dksX1_keep_2 8 rfl rfl)
theorem dX1_keep_53 : decode cX1_keep 53 = .ok (.getfield 231, 3) := dk_180 0 231 (dk_at dksX1_keep_2 9 rfl rfl)
theorem dX1_keep_56 : decode cX1_keep 56 = .ok (.iastore, 1) := dk_79 (dk_at dksX1_keep_2 12 rfl rfl)
theorem dX1_keep_57 : decode cX1_keep 57 = .ok (.iconst 1, 1) := dk_4 (dk_at dksX1_keep_2 13 rfl rfl)
theorem dX1_keep_58 : decode cX1_keep 58 = .ok (.ireturn, 1) := dk_172 (dk_at dksX1_keep_2 14 rfl rfl)
def dkwX1_again_2 : List UInt8 := [3, 181, 0, 228, 4, 172]
abbrev dktX1_again_2 : List UInt8 := dkwX1_again_2 ++ []
def dkwX1_again_1 : List UInt8 := [46, 42, 180, 0, 231, 159, 0, 5, 3, 172, 42, 180, 0, 12, 42, 180, 0, 127, 27, 50, 182, 1, 119, 42]
abbrev dktX1_again_1 : List UInt8 := dkwX1_again_1 ++ dktX1_again_2
def dkwX1_again_0 : List UInt8 := [27, 133, 9, 10, 184, 0, 141, 153, 0, 25, 42, 180, 0, 127, 27, 50, 198, 0, 16, 42, 180, 0, 130, 27]
abbrev dktX1_again_0 : List UInt8 := dkwX1_again_0 ++ dktX1_again_1
theorem dksX1_again_0 : cX1_again.data.toList.drop 0 = dktX1_again_0 := by decide +kernel
theorem dksX1_again_1 : cX1_again.data.toList.drop 24 = dktX1_again_1 := dk_seg dksX1_again_0 24 rfl rfl
theorem dksX1_again_2 : cX1_again.data.toList.drop 48 = dktX1_again_2 := dk_seg dksX1_again_1 24 rfl rfl
theorem dX1_again_0 : decode cX1_again 0 = .ok (.iload_n 1, 1) := dk_27 (dk_at dksX1_again_0 0 rfl rfl)
theorem dX1_again_1 : decode cX1_again 1 = .ok (.i2l, 1) := dk_133 (dk_at dksX1_again_0 1 rfl rfl)
theorem dX1_again_2 : decode cX1_again 2 = .ok (.lconst 0, 1) := dk_9 (dk_at dksX1_again_0 2 rfl rfl)
theorem dX1_again_3 : decode cX1_again 3 = .ok (.lconst 1, 1) := dk_10 (dk_at dksX1_again_0 3 rfl rfl)
theorem dX1_again_4 : decode cX1_again 4 = .ok (.invokestatic 141, 3) := dk_184 0 141 (dk_at dksX1_again_0 4 rfl rfl)
theorem dX1_again_7 : decode cX1_again 7 = .ok (.ifCond .eq 25, 3) := dk_153 0 25 (dk_at dksX1_again_0 7 rfl rfl)
theorem dX1_again_10 : decode cX1_again 10 = .ok (.aload_n 0, 1) := dk_42 (dk_at dksX1_again_0 10 rfl rfl)
theorem dX1_again_11 : decode cX1_again 11 = .ok (.getfield 127, 3) := dk_180 0 127 (dk_at dksX1_again_0 11 rfl rfl)
theorem dX1_again_14 : decode cX1_again 14 = .ok (.iload_n 1, 1) := dk_27 (dk_at dksX1_again_0 14 rfl rfl)
theorem dX1_again_15 : decode cX1_again 15 = .ok (.aaload, 1) := dk_50 (dk_at dksX1_again_0 15 rfl rfl)
theorem dX1_again_16 : decode cX1_again 16 = .ok (.ifnull 16, 3) := dk_198 0 16 (dk_at dksX1_again_0 16 rfl rfl)
theorem dX1_again_19 : decode cX1_again 19 = .ok (.aload_n 0, 1) := dk_42 (dk_at dksX1_again_0 19 rfl rfl)
theorem dX1_again_20 : decode cX1_again 20 = .ok (.getfield 130, 3) := dk_180 0 130 (dk_at dksX1_again_0 20 rfl rfl)
theorem dX1_again_23 : decode cX1_again 23 = .ok (.iload_n 1, 1) := dk_27 (dk_at dksX1_again_0 23 rfl rfl)
theorem dX1_again_24 : decode cX1_again 24 = .ok (.iaload, 1) := dk_46 (dk_at dksX1_again_1 0 rfl rfl)
theorem dX1_again_25 : decode cX1_again 25 = .ok (.aload_n 0, 1) := dk_42 (dk_at dksX1_again_1 1 rfl rfl)
theorem dX1_again_26 : decode cX1_again 26 = .ok (.getfield 231, 3) := dk_180 0 231 (dk_at dksX1_again_1 2 rfl rfl)
theorem dX1_again_29 : decode cX1_again 29 = .ok (.if_icmp .eq 5, 3) := dk_159 0 5 (dk_at dksX1_again_1 5 rfl rfl)
theorem dX1_again_32 : decode cX1_again 32 = .ok (.iconst 0, 1) := dk_3 (dk_at dksX1_again_1 8 rfl rfl)
theorem dX1_again_33 : decode cX1_again 33 = .ok (.ireturn, 1) := dk_172 (dk_at dksX1_again_1 9 rfl rfl)
theorem dX1_again_34 : decode cX1_again 34 = .ok (.aload_n 0, 1) := dk_42 (dk_at dksX1_again_1 10 rfl rfl)
theorem dX1_again_35 : decode cX1_again 35 = .ok (.getfield 12, 3) := dk_180 0 12 (dk_at dksX1_again_1 11 rfl rfl)
theorem dX1_again_38 : decode cX1_again 38 = .ok (.aload_n 0, 1) := dk_42 (dk_at dksX1_again_1 14 rfl rfl)
theorem dX1_again_39 : decode cX1_again 39 = .ok (.getfield 127, 3) := dk_180 0 127 (dk_at dksX1_again_1 15 rfl rfl)
theorem dX1_again_42 : decode cX1_again 42 = .ok (.iload_n 1, 1) := dk_27 (dk_at dksX1_again_1 18 rfl rfl)
theorem dX1_again_43 : decode cX1_again 43 = .ok (.aaload, 1) := dk_50 (dk_at dksX1_again_1 19 rfl rfl)
theorem dX1_again_44 : decode cX1_again 44 = .ok (.invokevirtual 375, 3) := dk_182 1 119 (dk_at dksX1_again_1 20 rfl rfl)
theorem dX1_again_47 : decode cX1_again 47 = .ok (.aload_n 0, 1) := dk_42 (dk_at dksX1_again_1 23 rfl rfl)
theorem dX1_again_48 : decode cX1_again 48 = .ok (.iconst 0, 1) := dk_3 (dk_at dksX1_again_2 0 rfl rfl)
theorem dX1_again_49 : decode cX1_again 49 = .ok (.putfield 228, 3) := dk_181 0 228 (dk_at dksX1_again_2 1 rfl rfl)
theorem dX1_again_52 : decode cX1_again 52 = .ok (.iconst 1, 1) := dk_4 (dk_at dksX1_again_2 4 rfl rfl)
theorem dX1_again_53 : decode cX1_again 53 = .ok (.ireturn, 1) := dk_172 (dk_at dksX1_again_2 5 rfl rfl)
def dkwX1_count_4 : List UInt8 := [172, 42, 182, 2, 46, 172, 42, 180, 0, 228, 172, 42, 180, 1, 133, 172, 42, 180, 0, 163, 172, 2, 172]
abbrev dktX1_count_4 : List UInt8 := dkwX1_count_4 ++ []
def dkwX1_count_3 : List UInt8 := [180, 1, 126, 172, 42, 180, 0, 12, 180, 1, 84, 172, 42, 180, 0, 12, 182, 2, 40, 172, 42, 182, 2, 43]
abbrev dktX1_count_3 : List UInt8 := dkwX1_count_3 ++ dktX1_count_4
def dkwX1_count_2 : List UInt8 := [42, 180, 0, 44, 172, 42, 180, 0, 145, 172, 42, 180, 0, 148, 172, 42, 180, 0, 252, 172, 42, 180, 0, 12]
abbrev dktX1_count_2 : List UInt8 := dkwX1_count_2 ++ dktX1_count_3
def dkwX1_count_1 : List UInt8 := [170, 0, 0, 0, 0, 0, 132, 0, 0, 0, 0, 0, 0, 0, 11, 0, 0, 0, 63, 0, 0, 0, 68, 0, 0, 0, 73, 0, 0, 0, 78, 0, 0, 0, 83, 0, 0, 0, 91, 0, 0, 0, 99, 0, 0, 0, 107, 0, 0, 0, 112, 0, 0, 0, 117, 0, 0, 0, 122, 0, 0, 0, 127]
abbrev dktX1_count_1 : List UInt8 := dkwX1_count_1 ++ dktX1_count_2
def dkwX1_count_0 : List UInt8 := [27]
abbrev dktX1_count_0 : List UInt8 := dkwX1_count_0 ++ dktX1_count_1
theorem dksX1_count_0 : cX1_count.data.toList.drop 0 = dktX1_count_0 := by decide +kernel
theorem dksX1_count_1 : cX1_count.data.toList.drop 1 = dktX1_count_1 := dk_seg dksX1_count_0 1 rfl rfl
theorem dksX1_count_2 : cX1_count.data.toList.drop 64 = dktX1_count_2 := dk_seg dksX1_count_1 63 rfl rfl
theorem dksX1_count_3 : cX1_count.data.toList.drop 88 = dktX1_count_3 := dk_seg dksX1_count_2 24 rfl rfl
theorem dksX1_count_4 : cX1_count.data.toList.drop 112 = dktX1_count_4 := dk_seg dksX1_count_3 24 rfl rfl
theorem dX1_count_0 : decode cX1_count 0 = .ok (.iload_n 1, 1) := dk_27 (dk_at dksX1_count_0 0 rfl rfl)
theorem dX1_count_1 : decode cX1_count 1 = .ok (.tableswitch 132 0 11 #[63, 68, 73, 78, 83, 91, 99, 107, 112, 117, 122, 127], 63) := by decide +kernel
theorem dX1_count_64 : decode cX1_count 64 = .ok (.aload_n 0, 1) := dk_42 (dk_at dksX1_count_2 0 rfl rfl)
theorem dX1_count_65 : decode cX1_count 65 = .ok (.getfield 44, 3) := dk_180 0 44 (dk_at dksX1_count_2 1 rfl rfl)
theorem dX1_count_68 : decode cX1_count 68 = .ok (.ireturn, 1) := dk_172 (dk_at dksX1_count_2 4 rfl rfl)
theorem dX1_count_69 : decode cX1_count 69 = .ok (.aload_n 0, 1) := dk_42 (dk_at dksX1_count_2 5 rfl rfl)
theorem dX1_count_70 : decode cX1_count 70 = .ok (.getfield 145, 3) := dk_180 0 145 (dk_at dksX1_count_2 6 rfl rfl)
theorem dX1_count_73 : decode cX1_count 73 = .ok (.ireturn, 1) := dk_172 (dk_at dksX1_count_2 9 rfl rfl)
theorem dX1_count_74 : decode cX1_count 74 = .ok (.aload_n 0, 1) := dk_42 (dk_at dksX1_count_2 10 rfl rfl)
theorem dX1_count_75 : decode cX1_count 75 = .ok (.getfield 148, 3) := dk_180 0 148 (dk_at dksX1_count_2 11 rfl rfl)
theorem dX1_count_78 : decode cX1_count 78 = .ok (.ireturn, 1) := dk_172 (dk_at dksX1_count_2 14 rfl rfl)
theorem dX1_count_79 : decode cX1_count 79 = .ok (.aload_n 0, 1) := dk_42 (dk_at dksX1_count_2 15 rfl rfl)
theorem dX1_count_80 : decode cX1_count 80 = .ok (.getfield 252, 3) := dk_180 0 252 (dk_at dksX1_count_2 16 rfl rfl)
theorem dX1_count_83 : decode cX1_count 83 = .ok (.ireturn, 1) := dk_172 (dk_at dksX1_count_2 19 rfl rfl)
theorem dX1_count_84 : decode cX1_count 84 = .ok (.aload_n 0, 1) := dk_42 (dk_at dksX1_count_2 20 rfl rfl)
theorem dX1_count_85 : decode cX1_count 85 = .ok (.getfield 12, 3) := dk_180 0 12 (dk_at dksX1_count_2 21 rfl rfl)
theorem dX1_count_88 : decode cX1_count 88 = .ok (.getfield 382, 3) := dk_180 1 126 (dk_at dksX1_count_3 0 rfl rfl)
theorem dX1_count_91 : decode cX1_count 91 = .ok (.ireturn, 1) := dk_172 (dk_at dksX1_count_3 3 rfl rfl)
theorem dX1_count_92 : decode cX1_count 92 = .ok (.aload_n 0, 1) := dk_42 (dk_at dksX1_count_3 4 rfl rfl)
theorem dX1_count_93 : decode cX1_count 93 = .ok (.getfield 12, 3) := dk_180 0 12 (dk_at dksX1_count_3 5 rfl rfl)
theorem dX1_count_96 : decode cX1_count 96 = .ok (.getfield 340, 3) := dk_180 1 84 (dk_at dksX1_count_3 8 rfl rfl)
theorem dX1_count_99 : decode cX1_count 99 = .ok (.ireturn, 1) := dk_172 (dk_at dksX1_count_3 11 rfl rfl)
theorem dX1_count_100 : decode cX1_count 100 = .ok (.aload_n 0, 1) := dk_42 (dk_at dksX1_count_3 12 rfl rfl)
theorem dX1_count_101 : decode cX1_count 101 = .ok (.getfield 12, 3) := dk_180 0 12 (dk_at dksX1_count_3 13 rfl rfl)
theorem dX1_count_104 : decode cX1_count 104 = .ok (.invokevirtual 552, 3) := dk_182 2 40 (dk_at dksX1_count_3 16 rfl rfl)
theorem dX1_count_107 : decode cX1_count 107 = .ok (.ireturn, 1) := dk_172 (dk_at dksX1_count_3 19 rfl rfl)
theorem dX1_count_108 : decode cX1_count 108 = .ok (.aload_n 0, 1) := dk_42 (dk_at dksX1_count_3 20 rfl rfl)
theorem dX1_count_109 : decode cX1_count 109 = .ok (.invokevirtual 555, 3) := dk_182 2 43 (dk_at dksX1_count_3 21 rfl rfl)
theorem dX1_count_112 : decode cX1_count 112 = .ok (.ireturn, 1) := dk_172 (dk_at dksX1_count_4 0 rfl rfl)
theorem dX1_count_113 : decode cX1_count 113 = .ok (.aload_n 0, 1) := dk_42 (dk_at dksX1_count_4 1 rfl rfl)
theorem dX1_count_114 : decode cX1_count 114 = .ok (.invokevirtual 558, 3) := dk_182 2 46 (dk_at dksX1_count_4 2 rfl rfl)
theorem dX1_count_117 : decode cX1_count 117 = .ok (.ireturn, 1) := dk_172 (dk_at dksX1_count_4 5 rfl rfl)
theorem dX1_count_118 : decode cX1_count 118 = .ok (.aload_n 0, 1) := dk_42 (dk_at dksX1_count_4 6 rfl rfl)
theorem dX1_count_119 : decode cX1_count 119 = .ok (.getfield 228, 3) := dk_180 0 228 (dk_at dksX1_count_4 7 rfl rfl)
theorem dX1_count_122 : decode cX1_count 122 = .ok (.ireturn, 1) := dk_172 (dk_at dksX1_count_4 10 rfl rfl)
theorem dX1_count_123 : decode cX1_count 123 = .ok (.aload_n 0, 1) := dk_42 (dk_at dksX1_count_4 11 rfl rfl)
theorem dX1_count_124 : decode cX1_count 124 = .ok (.getfield 389, 3) := dk_180 1 133 (dk_at dksX1_count_4 12 rfl rfl)
theorem dX1_count_127 : decode cX1_count 127 = .ok (.ireturn, 1) := dk_172 (dk_at dksX1_count_4 15 rfl rfl)
theorem dX1_count_128 : decode cX1_count 128 = .ok (.aload_n 0, 1) := dk_42 (dk_at dksX1_count_4 16 rfl rfl)
theorem dX1_count_129 : decode cX1_count 129 = .ok (.getfield 163, 3) := dk_180 0 163 (dk_at dksX1_count_4 17 rfl rfl)
theorem dX1_count_132 : decode cX1_count 132 = .ok (.ireturn, 1) := dk_172 (dk_at dksX1_count_4 20 rfl rfl)
theorem dX1_count_133 : decode cX1_count 133 = .ok (.iconst (-1), 1) := dk_2 (dk_at dksX1_count_4 21 rfl rfl)
theorem dX1_count_134 : decode cX1_count 134 = .ok (.ireturn, 1) := dk_172 (dk_at dksX1_count_4 22 rfl rfl)
def dkwX1_purses_1 : List UInt8 := [132, 2, 1, 167, 255, 233, 27, 172]
abbrev dktX1_purses_1 : List UInt8 := dkwX1_purses_1 ++ []
def dkwX1_purses_0 : List UInt8 := [3, 60, 3, 61, 28, 42, 180, 0, 148, 162, 0, 21, 27, 42, 180, 0, 12, 180, 0, 246, 28, 46, 96, 60]
abbrev dktX1_purses_0 : List UInt8 := dkwX1_purses_0 ++ dktX1_purses_1
theorem dksX1_purses_0 : cX1_purses.data.toList.drop 0 = dktX1_purses_0 := by decide +kernel
theorem dksX1_purses_1 : cX1_purses.data.toList.drop 24 = dktX1_purses_1 := dk_seg dksX1_purses_0 24 rfl rfl
theorem dX1_purses_0 : decode cX1_purses 0 = .ok (.iconst 0, 1) := dk_3 (dk_at dksX1_purses_0 0 rfl rfl)
theorem dX1_purses_1 : decode cX1_purses 1 = .ok (.istore_n 1, 1) := dk_60 (dk_at dksX1_purses_0 1 rfl rfl)
theorem dX1_purses_2 : decode cX1_purses 2 = .ok (.iconst 0, 1) := dk_3 (dk_at dksX1_purses_0 2 rfl rfl)
theorem dX1_purses_3 : decode cX1_purses 3 = .ok (.istore_n 2, 1) := dk_61 (dk_at dksX1_purses_0 3 rfl rfl)
theorem dX1_purses_4 : decode cX1_purses 4 = .ok (.iload_n 2, 1) := dk_28 (dk_at dksX1_purses_0 4 rfl rfl)
theorem dX1_purses_5 : decode cX1_purses 5 = .ok (.aload_n 0, 1) := dk_42 (dk_at dksX1_purses_0 5 rfl rfl)
theorem dX1_purses_6 : decode cX1_purses 6 = .ok (.getfield 148, 3) := dk_180 0 148 (dk_at dksX1_purses_0 6 rfl rfl)
theorem dX1_purses_9 : decode cX1_purses 9 = .ok (.if_icmp .ge 21, 3) := dk_162 0 21 (dk_at dksX1_purses_0 9 rfl rfl)
theorem dX1_purses_12 : decode cX1_purses 12 = .ok (.iload_n 1, 1) := dk_27 (dk_at dksX1_purses_0 12 rfl rfl)
theorem dX1_purses_13 : decode cX1_purses 13 = .ok (.aload_n 0, 1) := dk_42 (dk_at dksX1_purses_0 13 rfl rfl)
theorem dX1_purses_14 : decode cX1_purses 14 = .ok (.getfield 12, 3) := dk_180 0 12 (dk_at dksX1_purses_0 14 rfl rfl)
theorem dX1_purses_17 : decode cX1_purses 17 = .ok (.getfield 246, 3) := dk_180 0 246 (dk_at dksX1_purses_0 17 rfl rfl)
theorem dX1_purses_20 : decode cX1_purses 20 = .ok (.iload_n 2, 1) := dk_28 (dk_at dksX1_purses_0 20 rfl rfl)
theorem dX1_purses_21 : decode cX1_purses 21 = .ok (.iaload, 1) := dk_46 (dk_at dksX1_purses_0 21 rfl rfl)
theorem dX1_purses_22 : decode cX1_purses 22 = .ok (.iadd, 1) := dk_96 (dk_at dksX1_purses_0 22 rfl rfl)
theorem dX1_purses_23 : decode cX1_purses 23 = .ok (.istore_n 1, 1) := dk_60 (dk_at dksX1_purses_0 23 rfl rfl)
theorem dX1_purses_24 : decode cX1_purses 24 = .ok (.iinc 2 1, 3) := dk_132 2 1 (dk_at dksX1_purses_1 0 rfl rfl)
theorem dX1_purses_27 : decode cX1_purses 27 = .ok (.goto (-23), 3) := dk_167 255 233 (dk_at dksX1_purses_1 3 rfl rfl)
theorem dX1_purses_30 : decode cX1_purses 30 = .ok (.iload_n 1, 1) := dk_27 (dk_at dksX1_purses_1 6 rfl rfl)
theorem dX1_purses_31 : decode cX1_purses 31 = .ok (.ireturn, 1) := dk_172 (dk_at dksX1_purses_1 7 rfl rfl)
def dkwX1_compounds_1 : List UInt8 := [120, 167, 0, 4, 3, 128, 60, 132, 2, 1, 167, 255, 226, 27, 172]
abbrev dktX1_compounds_1 : List UInt8 := dkwX1_compounds_1 ++ []
def dkwX1_compounds_0 : List UInt8 := [3, 60, 3, 61, 28, 42, 180, 0, 145, 162, 0, 28, 27, 42, 180, 0, 29, 28, 46, 155, 0, 9, 4, 28]
abbrev dktX1_compounds_0 : List UInt8 := dkwX1_compounds_0 ++ dktX1_compounds_1
theorem dksX1_compounds_0 : cX1_compounds.data.toList.drop 0 = dktX1_compounds_0 := by decide +kernel
theorem dksX1_compounds_1 : cX1_compounds.data.toList.drop 24 = dktX1_compounds_1 := dk_seg dksX1_compounds_0 24 rfl rfl
theorem dX1_compounds_0 : decode cX1_compounds 0 = .ok (.iconst 0, 1) := dk_3 (dk_at dksX1_compounds_0 0 rfl rfl)
theorem dX1_compounds_1 : decode cX1_compounds 1 = .ok (.istore_n 1, 1) := dk_60 (dk_at dksX1_compounds_0 1 rfl rfl)
theorem dX1_compounds_2 : decode cX1_compounds 2 = .ok (.iconst 0, 1) := dk_3 (dk_at dksX1_compounds_0 2 rfl rfl)
theorem dX1_compounds_3 : decode cX1_compounds 3 = .ok (.istore_n 2, 1) := dk_61 (dk_at dksX1_compounds_0 3 rfl rfl)
theorem dX1_compounds_4 : decode cX1_compounds 4 = .ok (.iload_n 2, 1) := dk_28 (dk_at dksX1_compounds_0 4 rfl rfl)
theorem dX1_compounds_5 : decode cX1_compounds 5 = .ok (.aload_n 0, 1) := dk_42 (dk_at dksX1_compounds_0 5 rfl rfl)
theorem dX1_compounds_6 : decode cX1_compounds 6 = .ok (.getfield 145, 3) := dk_180 0 145 (dk_at dksX1_compounds_0 6 rfl rfl)
theorem dX1_compounds_9 : decode cX1_compounds 9 = .ok (.if_icmp .ge 28, 3) := dk_162 0 28 (dk_at dksX1_compounds_0 9 rfl rfl)
theorem dX1_compounds_12 : decode cX1_compounds 12 = .ok (.iload_n 1, 1) := dk_27 (dk_at dksX1_compounds_0 12 rfl rfl)
theorem dX1_compounds_13 : decode cX1_compounds 13 = .ok (.aload_n 0, 1) := dk_42 (dk_at dksX1_compounds_0 13 rfl rfl)
theorem dX1_compounds_14 : decode cX1_compounds 14 = .ok (.getfield 29, 3) := dk_180 0 29 (dk_at dksX1_compounds_0 14 rfl rfl)
theorem dX1_compounds_17 : decode cX1_compounds 17 = .ok (.iload_n 2, 1) := dk_28 (dk_at dksX1_compounds_0 17 rfl rfl)
theorem dX1_compounds_18 : decode cX1_compounds 18 = .ok (.iaload, 1) := dk_46 (dk_at dksX1_compounds_0 18 rfl rfl)
theorem dX1_compounds_19 : decode cX1_compounds 19 = .ok (.ifCond .lt 9, 3) := dk_155 0 9 (dk_at dksX1_compounds_0 19 rfl rfl)
theorem dX1_compounds_22 : decode cX1_compounds 22 = .ok (.iconst 1, 1) := dk_4 (dk_at dksX1_compounds_0 22 rfl rfl)
theorem dX1_compounds_23 : decode cX1_compounds 23 = .ok (.iload_n 2, 1) := dk_28 (dk_at dksX1_compounds_0 23 rfl rfl)
theorem dX1_compounds_24 : decode cX1_compounds 24 = .ok (.ishl, 1) := dk_120 (dk_at dksX1_compounds_1 0 rfl rfl)
theorem dX1_compounds_25 : decode cX1_compounds 25 = .ok (.goto 4, 3) := dk_167 0 4 (dk_at dksX1_compounds_1 1 rfl rfl)
theorem dX1_compounds_28 : decode cX1_compounds 28 = .ok (.iconst 0, 1) := dk_3 (dk_at dksX1_compounds_1 4 rfl rfl)
theorem dX1_compounds_29 : decode cX1_compounds 29 = .ok (.ior, 1) := dk_128 (dk_at dksX1_compounds_1 5 rfl rfl)
theorem dX1_compounds_30 : decode cX1_compounds 30 = .ok (.istore_n 1, 1) := dk_60 (dk_at dksX1_compounds_1 6 rfl rfl)
theorem dX1_compounds_31 : decode cX1_compounds 31 = .ok (.iinc 2 1, 3) := dk_132 2 1 (dk_at dksX1_compounds_1 7 rfl rfl)
theorem dX1_compounds_34 : decode cX1_compounds 34 = .ok (.goto (-30), 3) := dk_167 255 226 (dk_at dksX1_compounds_1 10 rfl rfl)
theorem dX1_compounds_37 : decode cX1_compounds 37 = .ok (.iload_n 1, 1) := dk_27 (dk_at dksX1_compounds_1 13 rfl rfl)
theorem dX1_compounds_38 : decode cX1_compounds 38 = .ok (.ireturn, 1) := dk_172 (dk_at dksX1_compounds_1 14 rfl rfl)
def dkwX1_word_4 : List UInt8 := [27, 46, 172, 42, 27, 28, 7, 100, 182, 1, 103, 172]
abbrev dktX1_word_4 : List UInt8 := dkwX1_word_4 ++ []
def dkwX1_word_3 : List UInt8 := [42, 180, 0, 23, 27, 46, 172, 42, 27, 182, 1, 100, 172, 42, 180, 0, 26, 27, 46, 172, 42, 180, 0, 29]
abbrev dktX1_word_3 : List UInt8 := dkwX1_word_3 ++ dktX1_word_4
def dkwX1_word_2 : List UInt8 := [170, 0, 0, 0, 0, 0, 58, 0, 0, 0, 0, 0, 0, 0, 3, 0, 0, 0, 31, 0, 0, 0, 38, 0, 0, 0, 44, 0, 0, 0, 51]
abbrev dktX1_word_2 : List UInt8 := dkwX1_word_2 ++ dktX1_word_3
def dkwX1_word_1 : List UInt8 := [183, 1, 99, 191, 28]
abbrev dktX1_word_1 : List UInt8 := dkwX1_word_1 ++ dktX1_word_2
def dkwX1_word_0 : List UInt8 := [42, 27, 182, 1, 91, 153, 0, 15, 28, 133, 9, 20, 1, 95, 184, 0, 141, 154, 0, 11, 187, 1, 97, 89]
abbrev dktX1_word_0 : List UInt8 := dkwX1_word_0 ++ dktX1_word_1
theorem dksX1_word_0 : cX1_word.data.toList.drop 0 = dktX1_word_0 := by decide +kernel
theorem dksX1_word_1 : cX1_word.data.toList.drop 24 = dktX1_word_1 := dk_seg dksX1_word_0 24 rfl rfl
theorem dksX1_word_2 : cX1_word.data.toList.drop 29 = dktX1_word_2 := dk_seg dksX1_word_1 5 rfl rfl
theorem dksX1_word_3 : cX1_word.data.toList.drop 60 = dktX1_word_3 := dk_seg dksX1_word_2 31 rfl rfl
theorem dksX1_word_4 : cX1_word.data.toList.drop 84 = dktX1_word_4 := dk_seg dksX1_word_3 24 rfl rfl
theorem dX1_word_0 : decode cX1_word 0 = .ok (.aload_n 0, 1) := dk_42 (dk_at dksX1_word_0 0 rfl rfl)
theorem dX1_word_1 : decode cX1_word 1 = .ok (.iload_n 1, 1) := dk_27 (dk_at dksX1_word_0 1 rfl rfl)
theorem dX1_word_2 : decode cX1_word 2 = .ok (.invokevirtual 347, 3) := dk_182 1 91 (dk_at dksX1_word_0 2 rfl rfl)
theorem dX1_word_5 : decode cX1_word 5 = .ok (.ifCond .eq 15, 3) := dk_153 0 15 (dk_at dksX1_word_0 5 rfl rfl)
theorem dX1_word_8 : decode cX1_word 8 = .ok (.iload_n 2, 1) := dk_28 (dk_at dksX1_word_0 8 rfl rfl)
theorem dX1_word_9 : decode cX1_word 9 = .ok (.i2l, 1) := dk_133 (dk_at dksX1_word_0 9 rfl rfl)
theorem dX1_word_10 : decode cX1_word 10 = .ok (.lconst 0, 1) := dk_9 (dk_at dksX1_word_0 10 rfl rfl)
theorem dX1_word_11 : decode cX1_word 11 = .ok (.ldc2_w 351, 3) := dk_20 1 95 (dk_at dksX1_word_0 11 rfl rfl)
theorem dX1_word_14 : decode cX1_word 14 = .ok (.invokestatic 141, 3) := dk_184 0 141 (dk_at dksX1_word_0 14 rfl rfl)
theorem dX1_word_17 : decode cX1_word 17 = .ok (.ifCond .ne 11, 3) := dk_154 0 11 (dk_at dksX1_word_0 17 rfl rfl)
theorem dX1_word_20 : decode cX1_word 20 = .ok (.new 353, 3) := dk_187 1 97 (dk_at dksX1_word_0 20 rfl rfl)
theorem dX1_word_23 : decode cX1_word 23 = .ok (.dup, 1) := dk_89 (dk_at dksX1_word_0 23 rfl rfl)
theorem dX1_word_24 : decode cX1_word 24 = .ok (.invokespecial 355, 3) := dk_183 1 99 (dk_at dksX1_word_1 0 rfl rfl)
theorem dX1_word_27 : decode cX1_word 27 = .ok (.athrow, 1) := dk_191 (dk_at dksX1_word_1 3 rfl rfl)
theorem dX1_word_28 : decode cX1_word 28 = .ok (.iload_n 2, 1) := dk_28 (dk_at dksX1_word_1 4 rfl rfl)
theorem dX1_word_29 : decode cX1_word 29 = .ok (.tableswitch 58 0 3 #[31, 38, 44, 51], 31) := by decide +kernel
theorem dX1_word_60 : decode cX1_word 60 = .ok (.aload_n 0, 1) := dk_42 (dk_at dksX1_word_3 0 rfl rfl)
theorem dX1_word_61 : decode cX1_word 61 = .ok (.getfield 23, 3) := dk_180 0 23 (dk_at dksX1_word_3 1 rfl rfl)
theorem dX1_word_64 : decode cX1_word 64 = .ok (.iload_n 1, 1) := dk_27 (dk_at dksX1_word_3 4 rfl rfl)
theorem dX1_word_65 : decode cX1_word 65 = .ok (.iaload, 1) := dk_46 (dk_at dksX1_word_3 5 rfl rfl)
theorem dX1_word_66 : decode cX1_word 66 = .ok (.ireturn, 1) := dk_172 (dk_at dksX1_word_3 6 rfl rfl)
theorem dX1_word_67 : decode cX1_word 67 = .ok (.aload_n 0, 1) := dk_42 (dk_at dksX1_word_3 7 rfl rfl)
theorem dX1_word_68 : decode cX1_word 68 = .ok (.iload_n 1, 1) := dk_27 (dk_at dksX1_word_3 8 rfl rfl)
theorem dX1_word_69 : decode cX1_word 69 = .ok (.invokevirtual 356, 3) := dk_182 1 100 (dk_at dksX1_word_3 9 rfl rfl)
theorem dX1_word_72 : decode cX1_word 72 = .ok (.ireturn, 1) := dk_172 (dk_at dksX1_word_3 12 rfl rfl)
theorem dX1_word_73 : decode cX1_word 73 = .ok (.aload_n 0, 1) := dk_42 (dk_at dksX1_word_3 13 rfl rfl)
theorem dX1_word_74 : decode cX1_word 74 = .ok (.getfield 26, 3) := dk_180 0 26 (dk_at dksX1_word_3 14 rfl rfl)
theorem dX1_word_77 : decode cX1_word 77 = .ok (.iload_n 1, 1) := dk_27 (dk_at dksX1_word_3 17 rfl rfl)
theorem dX1_word_78 : decode cX1_word 78 = .ok (.iaload, 1) := dk_46 (dk_at dksX1_word_3 18 rfl rfl)
theorem dX1_word_79 : decode cX1_word 79 = .ok (.ireturn, 1) := dk_172 (dk_at dksX1_word_3 19 rfl rfl)
theorem dX1_word_80 : decode cX1_word 80 = .ok (.aload_n 0, 1) := dk_42 (dk_at dksX1_word_3 20 rfl rfl)
theorem dX1_word_81 : decode cX1_word 81 = .ok (.getfield 29, 3) := dk_180 0 29 (dk_at dksX1_word_3 21 rfl rfl)
theorem dX1_word_84 : decode cX1_word 84 = .ok (.iload_n 1, 1) := dk_27 (dk_at dksX1_word_4 0 rfl rfl)
theorem dX1_word_85 : decode cX1_word 85 = .ok (.iaload, 1) := dk_46 (dk_at dksX1_word_4 1 rfl rfl)
theorem dX1_word_86 : decode cX1_word 86 = .ok (.ireturn, 1) := dk_172 (dk_at dksX1_word_4 2 rfl rfl)
theorem dX1_word_87 : decode cX1_word 87 = .ok (.aload_n 0, 1) := dk_42 (dk_at dksX1_word_4 3 rfl rfl)
theorem dX1_word_88 : decode cX1_word 88 = .ok (.iload_n 1, 1) := dk_27 (dk_at dksX1_word_4 4 rfl rfl)
theorem dX1_word_89 : decode cX1_word 89 = .ok (.iload_n 2, 1) := dk_28 (dk_at dksX1_word_4 5 rfl rfl)
theorem dX1_word_90 : decode cX1_word 90 = .ok (.iconst 4, 1) := dk_7 (dk_at dksX1_word_4 6 rfl rfl)
theorem dX1_word_91 : decode cX1_word 91 = .ok (.isub, 1) := dk_100 (dk_at dksX1_word_4 7 rfl rfl)
theorem dX1_word_92 : decode cX1_word 92 = .ok (.invokevirtual 359, 3) := dk_182 1 103 (dk_at dksX1_word_4 8 rfl rfl)
theorem dX1_word_95 : decode cX1_word 95 = .ok (.ireturn, 1) := dk_172 (dk_at dksX1_word_4 11 rfl rfl)
def dkwX1_traveller_6 : List UInt8 := [167, 255, 204, 29, 172, 187, 1, 97, 89, 183, 1, 99, 191]
abbrev dktX1_traveller_6 : List UInt8 := dkwX1_traveller_6 ++ []
def dkwX1_traveller_5 : List UInt8 := [184, 1, 87, 153, 0, 13, 42, 180, 0, 41, 21, 4, 46, 167, 0, 4, 3, 96, 62, 132, 4, 1]
abbrev dktX1_traveller_5 : List UInt8 := dkwX1_traveller_5 ++ dktX1_traveller_6
def dkwX1_traveller_4 : List UInt8 := [162, 0, 49, 29, 42, 180, 0, 32, 21, 4, 46, 27, 160, 0, 28, 42, 180, 0, 12, 180, 1, 84, 21, 4]
abbrev dktX1_traveller_4 : List UInt8 := dkwX1_traveller_4 ++ dktX1_traveller_5
def dkwX1_traveller_3 : List UInt8 := [180, 0, 249, 27, 46, 172, 42, 27, 182, 1, 109, 172, 3, 62, 3, 54, 4, 21, 4, 42, 180, 0, 252]
abbrev dktX1_traveller_3 : List UInt8 := dkwX1_traveller_3 ++ dktX1_traveller_4
def dkwX1_traveller_2 : List UInt8 := [42, 180, 0, 12, 180, 0, 244, 27, 46, 172, 42, 180, 0, 12, 180, 0, 246, 27, 46, 172, 42, 180, 0, 12]
abbrev dktX1_traveller_2 : List UInt8 := dkwX1_traveller_2 ++ dktX1_traveller_3
def dkwX1_traveller_1 : List UInt8 := [170, 0, 0, 0, 0, 0, 133, 0, 0, 0, 0, 0, 0, 0, 4, 0, 0, 0, 35, 0, 0, 0, 45, 0, 0, 0, 55, 0, 0, 0, 65, 0, 0, 0, 71]
abbrev dktX1_traveller_1 : List UInt8 := dkwX1_traveller_1 ++ dktX1_traveller_2
def dkwX1_traveller_0 : List UInt8 := [42, 27, 182, 1, 106, 154, 0, 11, 187, 1, 97, 89, 183, 1, 99, 191, 28]
abbrev dktX1_traveller_0 : List UInt8 := dkwX1_traveller_0 ++ dktX1_traveller_1
theorem dksX1_traveller_0 : cX1_traveller.data.toList.drop 0 = dktX1_traveller_0 := by decide +kernel
theorem dksX1_traveller_1 : cX1_traveller.data.toList.drop 17 = dktX1_traveller_1 := dk_seg dksX1_traveller_0 17 rfl rfl
theorem dksX1_traveller_2 : cX1_traveller.data.toList.drop 52 = dktX1_traveller_2 := dk_seg dksX1_traveller_1 35 rfl rfl
theorem dksX1_traveller_3 : cX1_traveller.data.toList.drop 76 = dktX1_traveller_3 := dk_seg dksX1_traveller_2 24 rfl rfl
theorem dksX1_traveller_4 : cX1_traveller.data.toList.drop 99 = dktX1_traveller_4 := dk_seg dksX1_traveller_3 23 rfl rfl
theorem dksX1_traveller_5 : cX1_traveller.data.toList.drop 123 = dktX1_traveller_5 := dk_seg dksX1_traveller_4 24 rfl rfl
theorem dksX1_traveller_6 : cX1_traveller.data.toList.drop 145 = dktX1_traveller_6 := dk_seg dksX1_traveller_5 22 rfl rfl
theorem dX1_traveller_0 : decode cX1_traveller 0 = .ok (.aload_n 0, 1) := dk_42 (dk_at dksX1_traveller_0 0 rfl rfl)
theorem dX1_traveller_1 : decode cX1_traveller 1 = .ok (.iload_n 1, 1) := dk_27 (dk_at dksX1_traveller_0 1 rfl rfl)
theorem dX1_traveller_2 : decode cX1_traveller 2 = .ok (.invokevirtual 362, 3) := dk_182 1 106 (dk_at dksX1_traveller_0 2 rfl rfl)
theorem dX1_traveller_5 : decode cX1_traveller 5 = .ok (.ifCond .ne 11, 3) := dk_154 0 11 (dk_at dksX1_traveller_0 5 rfl rfl)
theorem dX1_traveller_8 : decode cX1_traveller 8 = .ok (.new 353, 3) := dk_187 1 97 (dk_at dksX1_traveller_0 8 rfl rfl)
theorem dX1_traveller_11 : decode cX1_traveller 11 = .ok (.dup, 1) := dk_89 (dk_at dksX1_traveller_0 11 rfl rfl)
theorem dX1_traveller_12 : decode cX1_traveller 12 = .ok (.invokespecial 355, 3) := dk_183 1 99 (dk_at dksX1_traveller_0 12 rfl rfl)
theorem dX1_traveller_15 : decode cX1_traveller 15 = .ok (.athrow, 1) := dk_191 (dk_at dksX1_traveller_0 15 rfl rfl)
theorem dX1_traveller_16 : decode cX1_traveller 16 = .ok (.iload_n 2, 1) := dk_28 (dk_at dksX1_traveller_0 16 rfl rfl)
theorem dX1_traveller_17 : decode cX1_traveller 17 = .ok (.tableswitch 133 0 4 #[35, 45, 55, 65, 71], 35) := by decide +kernel
theorem dX1_traveller_52 : decode cX1_traveller 52 = .ok (.aload_n 0, 1) := dk_42 (dk_at dksX1_traveller_2 0 rfl rfl)
theorem dX1_traveller_53 : decode cX1_traveller 53 = .ok (.getfield 12, 3) := dk_180 0 12 (dk_at dksX1_traveller_2 1 rfl rfl)
theorem dX1_traveller_56 : decode cX1_traveller 56 = .ok (.getfield 244, 3) := dk_180 0 244 (dk_at dksX1_traveller_2 4 rfl rfl)
theorem dX1_traveller_59 : decode cX1_traveller 59 = .ok (.iload_n 1, 1) := dk_27 (dk_at dksX1_traveller_2 7 rfl rfl)
theorem dX1_traveller_60 : decode cX1_traveller 60 = .ok (.iaload, 1) := dk_46 (dk_at dksX1_traveller_2 8 rfl rfl)
theorem dX1_traveller_61 : decode cX1_traveller 61 = .ok (.ireturn, 1) := dk_172 (dk_at dksX1_traveller_2 9 rfl rfl)
theorem dX1_traveller_62 : decode cX1_traveller 62 = .ok (.aload_n 0, 1) := dk_42 (dk_at dksX1_traveller_2 10 rfl rfl)
theorem dX1_traveller_63 : decode cX1_traveller 63 = .ok (.getfield 12, 3) := dk_180 0 12 (dk_at dksX1_traveller_2 11 rfl rfl)
theorem dX1_traveller_66 : decode cX1_traveller 66 = .ok (.getfield 246, 3) := dk_180 0 246 (dk_at dksX1_traveller_2 14 rfl rfl)
theorem dX1_traveller_69 : decode cX1_traveller 69 = .ok (.iload_n 1, 1) := dk_27 (dk_at dksX1_traveller_2 17 rfl rfl)
theorem dX1_traveller_70 : decode cX1_traveller 70 = .ok (.iaload, 1) := dk_46 (dk_at dksX1_traveller_2 18 rfl rfl)
theorem dX1_traveller_71 : decode cX1_traveller 71 = .ok (.ireturn, 1) := dk_172 (dk_at dksX1_traveller_2 19 rfl rfl)
theorem dX1_traveller_72 : decode cX1_traveller 72 = .ok (.aload_n 0, 1) := dk_42 (dk_at dksX1_traveller_2 20 rfl rfl)
theorem dX1_traveller_73 : decode cX1_traveller 73 = .ok (.getfield 12, 3) := dk_180 0 12 (dk_at dksX1_traveller_2 21 rfl rfl)
theorem dX1_traveller_76 : decode cX1_traveller 76 = .ok (.getfield 249, 3) := dk_180 0 249 (dk_at dksX1_traveller_3 0 rfl rfl)
theorem dX1_traveller_79 : decode cX1_traveller 79 = .ok (.iload_n 1, 1) := dk_27 (dk_at dksX1_traveller_3 3 rfl rfl)
theorem dX1_traveller_80 : decode cX1_traveller 80 = .ok (.iaload, 1) := dk_46 (dk_at dksX1_traveller_3 4 rfl rfl)
theorem dX1_traveller_81 : decode cX1_traveller 81 = .ok (.ireturn, 1) := dk_172 (dk_at dksX1_traveller_3 5 rfl rfl)
theorem dX1_traveller_82 : decode cX1_traveller 82 = .ok (.aload_n 0, 1) := dk_42 (dk_at dksX1_traveller_3 6 rfl rfl)
theorem dX1_traveller_83 : decode cX1_traveller 83 = .ok (.iload_n 1, 1) := dk_27 (dk_at dksX1_traveller_3 7 rfl rfl)
theorem dX1_traveller_84 : decode cX1_traveller 84 = .ok (.invokevirtual 365, 3) := dk_182 1 109 (dk_at dksX1_traveller_3 8 rfl rfl)
theorem dX1_traveller_87 : decode cX1_traveller 87 = .ok (.ireturn, 1) := dk_172 (dk_at dksX1_traveller_3 11 rfl rfl)
theorem dX1_traveller_88 : decode cX1_traveller 88 = .ok (.iconst 0, 1) := dk_3 (dk_at dksX1_traveller_3 12 rfl rfl)
theorem dX1_traveller_89 : decode cX1_traveller 89 = .ok (.istore_n 3, 1) := dk_62 (dk_at dksX1_traveller_3 13 rfl rfl)
theorem dX1_traveller_90 : decode cX1_traveller 90 = .ok (.iconst 0, 1) := dk_3 (dk_at dksX1_traveller_3 14 rfl rfl)
theorem dX1_traveller_91 : decode cX1_traveller 91 = .ok (.istore 4, 2) := dk_54 4 (dk_at dksX1_traveller_3 15 rfl rfl)
theorem dX1_traveller_93 : decode cX1_traveller 93 = .ok (.iload 4, 2) := dk_21 4 (dk_at dksX1_traveller_3 17 rfl rfl)
theorem dX1_traveller_95 : decode cX1_traveller 95 = .ok (.aload_n 0, 1) := dk_42 (dk_at dksX1_traveller_3 19 rfl rfl)
theorem dX1_traveller_96 : decode cX1_traveller 96 = .ok (.getfield 252, 3) := dk_180 0 252 (dk_at dksX1_traveller_3 20 rfl rfl)
theorem dX1_traveller_99 : decode cX1_traveller 99 = .ok (.if_icmp .ge 49, 3) := dk_162 0 49 (dk_at dksX1_traveller_4 0 rfl rfl)
theorem dX1_traveller_102 : decode cX1_traveller 102 = .ok (.iload_n 3, 1) := dk_29 (dk_at dksX1_traveller_4 3 rfl rfl)
theorem dX1_traveller_103 : decode cX1_traveller 103 = .ok (.aload_n 0, 1) := dk_42 (dk_at dksX1_traveller_4 4 rfl rfl)
theorem dX1_traveller_104 : decode cX1_traveller 104 = .ok (.getfield 32, 3) := dk_180 0 32 (dk_at dksX1_traveller_4 5 rfl rfl)
theorem dX1_traveller_107 : decode cX1_traveller 107 = .ok (.iload 4, 2) := dk_21 4 (dk_at dksX1_traveller_4 8 rfl rfl)
theorem dX1_traveller_109 : decode cX1_traveller 109 = .ok (.iaload, 1) := dk_46 (dk_at dksX1_traveller_4 10 rfl rfl)
theorem dX1_traveller_110 : decode cX1_traveller 110 = .ok (.iload_n 1, 1) := dk_27 (dk_at dksX1_traveller_4 11 rfl rfl)
theorem dX1_traveller_111 : decode cX1_traveller 111 = .ok (.if_icmp .ne 28, 3) := dk_160 0 28 (dk_at dksX1_traveller_4 12 rfl rfl)
theorem dX1_traveller_114 : decode cX1_traveller 114 = .ok (.aload_n 0, 1) := dk_42 (dk_at dksX1_traveller_4 15 rfl rfl)
theorem dX1_traveller_115 : decode cX1_traveller 115 = .ok (.getfield 12, 3) := dk_180 0 12 (dk_at dksX1_traveller_4 16 rfl rfl)
theorem dX1_traveller_118 : decode cX1_traveller 118 = .ok (.getfield 340, 3) := dk_180 1 84 (dk_at dksX1_traveller_4 19 rfl rfl)
theorem dX1_traveller_121 : decode cX1_traveller 121 = .ok (.iload 4, 2) := dk_21 4 (dk_at dksX1_traveller_4 22 rfl rfl)
theorem dX1_traveller_123 : decode cX1_traveller 123 = .ok (.invokestatic 343, 3) := dk_184 1 87 (dk_at dksX1_traveller_5 0 rfl rfl)
theorem dX1_traveller_126 : decode cX1_traveller 126 = .ok (.ifCond .eq 13, 3) := dk_153 0 13 (dk_at dksX1_traveller_5 3 rfl rfl)
theorem dX1_traveller_129 : decode cX1_traveller 129 = .ok (.aload_n 0, 1) := dk_42 (dk_at dksX1_traveller_5 6 rfl rfl)
theorem dX1_traveller_130 : decode cX1_traveller 130 = .ok (.getfield 41, 3) := dk_180 0 41 (dk_at dksX1_traveller_5 7 rfl rfl)
theorem dX1_traveller_133 : decode cX1_traveller 133 = .ok (.iload 4, 2) := dk_21 4 (dk_at dksX1_traveller_5 10 rfl rfl)
theorem dX1_traveller_135 : decode cX1_traveller 135 = .ok (.iaload, 1) := dk_46 (dk_at dksX1_traveller_5 12 rfl rfl)
theorem dX1_traveller_136 : decode cX1_traveller 136 = .ok (.goto 4, 3) := dk_167 0 4 (dk_at dksX1_traveller_5 13 rfl rfl)
theorem dX1_traveller_139 : decode cX1_traveller 139 = .ok (.iconst 0, 1) := dk_3 (dk_at dksX1_traveller_5 16 rfl rfl)
theorem dX1_traveller_140 : decode cX1_traveller 140 = .ok (.iadd, 1) := dk_96 (dk_at dksX1_traveller_5 17 rfl rfl)
theorem dX1_traveller_141 : decode cX1_traveller 141 = .ok (.istore_n 3, 1) := dk_62 (dk_at dksX1_traveller_5 18 rfl rfl)
theorem dX1_traveller_142 : decode cX1_traveller 142 = .ok (.iinc 4 1, 3) := dk_132 4 1 (dk_at dksX1_traveller_5 19 rfl rfl)
theorem dX1_traveller_145 : decode cX1_traveller 145 = .ok (.goto (-52), 3) := dk_167 255 204 (dk_at dksX1_traveller_6 0 rfl rfl)
theorem dX1_traveller_148 : decode cX1_traveller 148 = .ok (.iload_n 3, 1) := dk_29 (dk_at dksX1_traveller_6 3 rfl rfl)
theorem dX1_traveller_149 : decode cX1_traveller 149 = .ok (.ireturn, 1) := dk_172 (dk_at dksX1_traveller_6 4 rfl rfl)
theorem dX1_traveller_150 : decode cX1_traveller 150 = .ok (.new 353, 3) := dk_187 1 97 (dk_at dksX1_traveller_6 5 rfl rfl)
theorem dX1_traveller_153 : decode cX1_traveller 153 = .ok (.dup, 1) := dk_89 (dk_at dksX1_traveller_6 8 rfl rfl)
theorem dX1_traveller_154 : decode cX1_traveller 154 = .ok (.invokespecial 355, 3) := dk_183 1 99 (dk_at dksX1_traveller_6 9 rfl rfl)
theorem dX1_traveller_157 : decode cX1_traveller 157 = .ok (.athrow, 1) := dk_191 (dk_at dksX1_traveller_6 12 rfl rfl)
def dkwX1_errand_5 : List UInt8 := [3, 172, 187, 1, 97, 89, 183, 1, 99, 191]
abbrev dktX1_errand_5 : List UInt8 := dkwX1_errand_5 ++ []
def dkwX1_errand_4 : List UInt8 := [180, 0, 41, 27, 46, 172, 42, 180, 0, 12, 180, 1, 84, 27, 184, 1, 87, 153, 0, 7, 4, 167, 0, 4]
abbrev dktX1_errand_4 : List UInt8 := dkwX1_errand_4 ++ dktX1_errand_5
def dkwX1_errand_3 : List UInt8 := [42, 180, 0, 32, 27, 46, 172, 42, 180, 0, 35, 27, 46, 172, 42, 180, 0, 38, 27, 46, 172, 42]
abbrev dktX1_errand_3 : List UInt8 := dkwX1_errand_3 ++ dktX1_errand_4
def dkwX1_errand_2 : List UInt8 := [170, 0, 0, 0, 0, 0, 83, 0, 0, 0, 0, 0, 0, 0, 4, 0, 0, 0, 35, 0, 0, 0, 42, 0, 0, 0, 49, 0, 0, 0, 56, 0, 0, 0, 63]
abbrev dktX1_errand_2 : List UInt8 := dkwX1_errand_2 ++ dktX1_errand_3
def dkwX1_errand_1 : List UInt8 := [28]
abbrev dktX1_errand_1 : List UInt8 := dkwX1_errand_1 ++ dktX1_errand_2
def dkwX1_errand_0 : List UInt8 := [27, 133, 9, 42, 180, 0, 252, 4, 100, 133, 184, 0, 141, 154, 0, 11, 187, 1, 97, 89, 183, 1, 99, 191]
abbrev dktX1_errand_0 : List UInt8 := dkwX1_errand_0 ++ dktX1_errand_1
theorem dksX1_errand_0 : cX1_errand.data.toList.drop 0 = dktX1_errand_0 := by decide +kernel
theorem dksX1_errand_1 : cX1_errand.data.toList.drop 24 = dktX1_errand_1 := dk_seg dksX1_errand_0 24 rfl rfl
theorem dksX1_errand_2 : cX1_errand.data.toList.drop 25 = dktX1_errand_2 := dk_seg dksX1_errand_1 1 rfl rfl
theorem dksX1_errand_3 : cX1_errand.data.toList.drop 60 = dktX1_errand_3 := dk_seg dksX1_errand_2 35 rfl rfl
theorem dksX1_errand_4 : cX1_errand.data.toList.drop 82 = dktX1_errand_4 := dk_seg dksX1_errand_3 22 rfl rfl
theorem dksX1_errand_5 : cX1_errand.data.toList.drop 106 = dktX1_errand_5 := dk_seg dksX1_errand_4 24 rfl rfl
theorem dX1_errand_0 : decode cX1_errand 0 = .ok (.iload_n 1, 1) := dk_27 (dk_at dksX1_errand_0 0 rfl rfl)
theorem dX1_errand_1 : decode cX1_errand 1 = .ok (.i2l, 1) := dk_133 (dk_at dksX1_errand_0 1 rfl rfl)
theorem dX1_errand_2 : decode cX1_errand 2 = .ok (.lconst 0, 1) := dk_9 (dk_at dksX1_errand_0 2 rfl rfl)
theorem dX1_errand_3 : decode cX1_errand 3 = .ok (.aload_n 0, 1) := dk_42 (dk_at dksX1_errand_0 3 rfl rfl)
theorem dX1_errand_4 : decode cX1_errand 4 = .ok (.getfield 252, 3) := dk_180 0 252 (dk_at dksX1_errand_0 4 rfl rfl)
theorem dX1_errand_7 : decode cX1_errand 7 = .ok (.iconst 1, 1) := dk_4 (dk_at dksX1_errand_0 7 rfl rfl)
theorem dX1_errand_8 : decode cX1_errand 8 = .ok (.isub, 1) := dk_100 (dk_at dksX1_errand_0 8 rfl rfl)
theorem dX1_errand_9 : decode cX1_errand 9 = .ok (.i2l, 1) := dk_133 (dk_at dksX1_errand_0 9 rfl rfl)
theorem dX1_errand_10 : decode cX1_errand 10 = .ok (.invokestatic 141, 3) := dk_184 0 141 (dk_at dksX1_errand_0 10 rfl rfl)
theorem dX1_errand_13 : decode cX1_errand 13 = .ok (.ifCond .ne 11, 3) := dk_154 0 11 (dk_at dksX1_errand_0 13 rfl rfl)
theorem dX1_errand_16 : decode cX1_errand 16 = .ok (.new 353, 3) := dk_187 1 97 (dk_at dksX1_errand_0 16 rfl rfl)
theorem dX1_errand_19 : decode cX1_errand 19 = .ok (.dup, 1) := dk_89 (dk_at dksX1_errand_0 19 rfl rfl)
theorem dX1_errand_20 : decode cX1_errand 20 = .ok (.invokespecial 355, 3) := dk_183 1 99 (dk_at dksX1_errand_0 20 rfl rfl)
theorem dX1_errand_23 : decode cX1_errand 23 = .ok (.athrow, 1) := dk_191 (dk_at dksX1_errand_0 23 rfl rfl)
theorem dX1_errand_24 : decode cX1_errand 24 = .ok (.iload_n 2, 1) := dk_28 (dk_at dksX1_errand_1 0 rfl rfl)
theorem dX1_errand_25 : decode cX1_errand 25 = .ok (.tableswitch 83 0 4 #[35, 42, 49, 56, 63], 35) := by decide +kernel
theorem dX1_errand_60 : decode cX1_errand 60 = .ok (.aload_n 0, 1) := dk_42 (dk_at dksX1_errand_3 0 rfl rfl)
theorem dX1_errand_61 : decode cX1_errand 61 = .ok (.getfield 32, 3) := dk_180 0 32 (dk_at dksX1_errand_3 1 rfl rfl)
theorem dX1_errand_64 : decode cX1_errand 64 = .ok (.iload_n 1, 1) := dk_27 (dk_at dksX1_errand_3 4 rfl rfl)
theorem dX1_errand_65 : decode cX1_errand 65 = .ok (.iaload, 1) := dk_46 (dk_at dksX1_errand_3 5 rfl rfl)
theorem dX1_errand_66 : decode cX1_errand 66 = .ok (.ireturn, 1) := dk_172 (dk_at dksX1_errand_3 6 rfl rfl)
theorem dX1_errand_67 : decode cX1_errand 67 = .ok (.aload_n 0, 1) := dk_42 (dk_at dksX1_errand_3 7 rfl rfl)
theorem dX1_errand_68 : decode cX1_errand 68 = .ok (.getfield 35, 3) := dk_180 0 35 (dk_at dksX1_errand_3 8 rfl rfl)
theorem dX1_errand_71 : decode cX1_errand 71 = .ok (.iload_n 1, 1) := dk_27 (dk_at dksX1_errand_3 11 rfl rfl)
theorem dX1_errand_72 : decode cX1_errand 72 = .ok (.iaload, 1) := dk_46 (dk_at dksX1_errand_3 12 rfl rfl)
theorem dX1_errand_73 : decode cX1_errand 73 = .ok (.ireturn, 1) := dk_172 (dk_at dksX1_errand_3 13 rfl rfl)
theorem dX1_errand_74 : decode cX1_errand 74 = .ok (.aload_n 0, 1) := dk_42 (dk_at dksX1_errand_3 14 rfl rfl)
theorem dX1_errand_75 : decode cX1_errand 75 = .ok (.getfield 38, 3) := dk_180 0 38 (dk_at dksX1_errand_3 15 rfl rfl)
theorem dX1_errand_78 : decode cX1_errand 78 = .ok (.iload_n 1, 1) := dk_27 (dk_at dksX1_errand_3 18 rfl rfl)
theorem dX1_errand_79 : decode cX1_errand 79 = .ok (.iaload, 1) := dk_46 (dk_at dksX1_errand_3 19 rfl rfl)
theorem dX1_errand_80 : decode cX1_errand 80 = .ok (.ireturn, 1) := dk_172 (dk_at dksX1_errand_3 20 rfl rfl)
theorem dX1_errand_81 : decode cX1_errand 81 = .ok (.aload_n 0, 1) := dk_42 (dk_at dksX1_errand_3 21 rfl rfl)
theorem dX1_errand_82 : decode cX1_errand 82 = .ok (.getfield 41, 3) := dk_180 0 41 (dk_at dksX1_errand_4 0 rfl rfl)
theorem dX1_errand_85 : decode cX1_errand 85 = .ok (.iload_n 1, 1) := dk_27 (dk_at dksX1_errand_4 3 rfl rfl)
theorem dX1_errand_86 : decode cX1_errand 86 = .ok (.iaload, 1) := dk_46 (dk_at dksX1_errand_4 4 rfl rfl)
theorem dX1_errand_87 : decode cX1_errand 87 = .ok (.ireturn, 1) := dk_172 (dk_at dksX1_errand_4 5 rfl rfl)
theorem dX1_errand_88 : decode cX1_errand 88 = .ok (.aload_n 0, 1) := dk_42 (dk_at dksX1_errand_4 6 rfl rfl)
theorem dX1_errand_89 : decode cX1_errand 89 = .ok (.getfield 12, 3) := dk_180 0 12 (dk_at dksX1_errand_4 7 rfl rfl)
theorem dX1_errand_92 : decode cX1_errand 92 = .ok (.getfield 340, 3) := dk_180 1 84 (dk_at dksX1_errand_4 10 rfl rfl)
theorem dX1_errand_95 : decode cX1_errand 95 = .ok (.iload_n 1, 1) := dk_27 (dk_at dksX1_errand_4 13 rfl rfl)
theorem dX1_errand_96 : decode cX1_errand 96 = .ok (.invokestatic 343, 3) := dk_184 1 87 (dk_at dksX1_errand_4 14 rfl rfl)
theorem dX1_errand_99 : decode cX1_errand 99 = .ok (.ifCond .eq 7, 3) := dk_153 0 7 (dk_at dksX1_errand_4 17 rfl rfl)
theorem dX1_errand_102 : decode cX1_errand 102 = .ok (.iconst 1, 1) := dk_4 (dk_at dksX1_errand_4 20 rfl rfl)
theorem dX1_errand_103 : decode cX1_errand 103 = .ok (.goto 4, 3) := dk_167 0 4 (dk_at dksX1_errand_4 21 rfl rfl)
theorem dX1_errand_106 : decode cX1_errand 106 = .ok (.iconst 0, 1) := dk_3 (dk_at dksX1_errand_5 0 rfl rfl)
theorem dX1_errand_107 : decode cX1_errand 107 = .ok (.ireturn, 1) := dk_172 (dk_at dksX1_errand_5 1 rfl rfl)
theorem dX1_errand_108 : decode cX1_errand 108 = .ok (.new 353, 3) := dk_187 1 97 (dk_at dksX1_errand_5 2 rfl rfl)
theorem dX1_errand_111 : decode cX1_errand 111 = .ok (.dup, 1) := dk_89 (dk_at dksX1_errand_5 5 rfl rfl)
theorem dX1_errand_112 : decode cX1_errand 112 = .ok (.invokespecial 355, 3) := dk_183 1 99 (dk_at dksX1_errand_5 6 rfl rfl)
theorem dX1_errand_115 : decode cX1_errand 115 = .ok (.athrow, 1) := dk_191 (dk_at dksX1_errand_5 9 rfl rfl)
def dkwX1_book_1 : List UInt8 := [183, 1, 99, 191, 42, 180, 0, 12, 180, 1, 7, 8, 27, 104, 28, 96, 46, 172]
abbrev dktX1_book_1 : List UInt8 := dkwX1_book_1 ++ []
def dkwX1_book_0 : List UInt8 := [42, 27, 182, 1, 112, 153, 0, 15, 28, 133, 9, 20, 1, 115, 184, 0, 141, 154, 0, 11, 187, 1, 97, 89]
abbrev dktX1_book_0 : List UInt8 := dkwX1_book_0 ++ dktX1_book_1
theorem dksX1_book_0 : cX1_book.data.toList.drop 0 = dktX1_book_0 := by decide +kernel
theorem dksX1_book_1 : cX1_book.data.toList.drop 24 = dktX1_book_1 := dk_seg dksX1_book_0 24 rfl rfl
theorem dX1_book_0 : decode cX1_book 0 = .ok (.aload_n 0, 1) := dk_42 (dk_at dksX1_book_0 0 rfl rfl)
theorem dX1_book_1 : decode cX1_book 1 = .ok (.iload_n 1, 1) := dk_27 (dk_at dksX1_book_0 1 rfl rfl)
theorem dX1_book_2 : decode cX1_book 2 = .ok (.invokevirtual 368, 3) := dk_182 1 112 (dk_at dksX1_book_0 2 rfl rfl)
theorem dX1_book_5 : decode cX1_book 5 = .ok (.ifCond .eq 15, 3) := dk_153 0 15 (dk_at dksX1_book_0 5 rfl rfl)
theorem dX1_book_8 : decode cX1_book 8 = .ok (.iload_n 2, 1) := dk_28 (dk_at dksX1_book_0 8 rfl rfl)
theorem dX1_book_9 : decode cX1_book 9 = .ok (.i2l, 1) := dk_133 (dk_at dksX1_book_0 9 rfl rfl)
theorem dX1_book_10 : decode cX1_book 10 = .ok (.lconst 0, 1) := dk_9 (dk_at dksX1_book_0 10 rfl rfl)
theorem dX1_book_11 : decode cX1_book 11 = .ok (.ldc2_w 371, 3) := dk_20 1 115 (dk_at dksX1_book_0 11 rfl rfl)
theorem dX1_book_14 : decode cX1_book 14 = .ok (.invokestatic 141, 3) := dk_184 0 141 (dk_at dksX1_book_0 14 rfl rfl)
theorem dX1_book_17 : decode cX1_book 17 = .ok (.ifCond .ne 11, 3) := dk_154 0 11 (dk_at dksX1_book_0 17 rfl rfl)
theorem dX1_book_20 : decode cX1_book 20 = .ok (.new 353, 3) := dk_187 1 97 (dk_at dksX1_book_0 20 rfl rfl)
theorem dX1_book_23 : decode cX1_book 23 = .ok (.dup, 1) := dk_89 (dk_at dksX1_book_0 23 rfl rfl)
theorem dX1_book_24 : decode cX1_book 24 = .ok (.invokespecial 355, 3) := dk_183 1 99 (dk_at dksX1_book_1 0 rfl rfl)
theorem dX1_book_27 : decode cX1_book 27 = .ok (.athrow, 1) := dk_191 (dk_at dksX1_book_1 3 rfl rfl)
theorem dX1_book_28 : decode cX1_book 28 = .ok (.aload_n 0, 1) := dk_42 (dk_at dksX1_book_1 4 rfl rfl)
theorem dX1_book_29 : decode cX1_book 29 = .ok (.getfield 12, 3) := dk_180 0 12 (dk_at dksX1_book_1 5 rfl rfl)
theorem dX1_book_32 : decode cX1_book 32 = .ok (.getfield 263, 3) := dk_180 1 7 (dk_at dksX1_book_1 8 rfl rfl)
theorem dX1_book_35 : decode cX1_book 35 = .ok (.iconst 5, 1) := dk_8 (dk_at dksX1_book_1 11 rfl rfl)
theorem dX1_book_36 : decode cX1_book 36 = .ok (.iload_n 1, 1) := dk_27 (dk_at dksX1_book_1 12 rfl rfl)
theorem dX1_book_37 : decode cX1_book 37 = .ok (.imul, 1) := dk_104 (dk_at dksX1_book_1 13 rfl rfl)
theorem dX1_book_38 : decode cX1_book 38 = .ok (.iload_n 2, 1) := dk_28 (dk_at dksX1_book_1 14 rfl rfl)
theorem dX1_book_39 : decode cX1_book 39 = .ok (.iadd, 1) := dk_96 (dk_at dksX1_book_1 15 rfl rfl)
theorem dX1_book_40 : decode cX1_book 40 = .ok (.iaload, 1) := dk_46 (dk_at dksX1_book_1 16 rfl rfl)
theorem dX1_book_41 : decode cX1_book 41 = .ok (.ireturn, 1) := dk_172 (dk_at dksX1_book_1 17 rfl rfl)
def dkwX1_row_1 : List UInt8 := [42, 180, 0, 133, 27, 47, 173]
abbrev dktX1_row_1 : List UInt8 := dkwX1_row_1 ++ []
def dkwX1_row_0 : List UInt8 := [27, 133, 9, 42, 180, 1, 133, 4, 100, 133, 184, 0, 141, 154, 0, 11, 187, 1, 97, 89, 183, 1, 99, 191]
abbrev dktX1_row_0 : List UInt8 := dkwX1_row_0 ++ dktX1_row_1
theorem dksX1_row_0 : cX1_row.data.toList.drop 0 = dktX1_row_0 := by decide +kernel
theorem dksX1_row_1 : cX1_row.data.toList.drop 24 = dktX1_row_1 := dk_seg dksX1_row_0 24 rfl rfl
theorem dX1_row_0 : decode cX1_row 0 = .ok (.iload_n 1, 1) := dk_27 (dk_at dksX1_row_0 0 rfl rfl)
theorem dX1_row_1 : decode cX1_row 1 = .ok (.i2l, 1) := dk_133 (dk_at dksX1_row_0 1 rfl rfl)
theorem dX1_row_2 : decode cX1_row 2 = .ok (.lconst 0, 1) := dk_9 (dk_at dksX1_row_0 2 rfl rfl)
theorem dX1_row_3 : decode cX1_row 3 = .ok (.aload_n 0, 1) := dk_42 (dk_at dksX1_row_0 3 rfl rfl)
theorem dX1_row_4 : decode cX1_row 4 = .ok (.getfield 389, 3) := dk_180 1 133 (dk_at dksX1_row_0 4 rfl rfl)
theorem dX1_row_7 : decode cX1_row 7 = .ok (.iconst 1, 1) := dk_4 (dk_at dksX1_row_0 7 rfl rfl)
theorem dX1_row_8 : decode cX1_row 8 = .ok (.isub, 1) := dk_100 (dk_at dksX1_row_0 8 rfl rfl)
theorem dX1_row_9 : decode cX1_row 9 = .ok (.i2l, 1) := dk_133 (dk_at dksX1_row_0 9 rfl rfl)
theorem dX1_row_10 : decode cX1_row 10 = .ok (.invokestatic 141, 3) := dk_184 0 141 (dk_at dksX1_row_0 10 rfl rfl)
theorem dX1_row_13 : decode cX1_row 13 = .ok (.ifCond .ne 11, 3) := dk_154 0 11 (dk_at dksX1_row_0 13 rfl rfl)
theorem dX1_row_16 : decode cX1_row 16 = .ok (.new 353, 3) := dk_187 1 97 (dk_at dksX1_row_0 16 rfl rfl)
theorem dX1_row_19 : decode cX1_row 19 = .ok (.dup, 1) := dk_89 (dk_at dksX1_row_0 19 rfl rfl)
theorem dX1_row_20 : decode cX1_row 20 = .ok (.invokespecial 355, 3) := dk_183 1 99 (dk_at dksX1_row_0 20 rfl rfl)
theorem dX1_row_23 : decode cX1_row 23 = .ok (.athrow, 1) := dk_191 (dk_at dksX1_row_0 23 rfl rfl)
theorem dX1_row_24 : decode cX1_row 24 = .ok (.aload_n 0, 1) := dk_42 (dk_at dksX1_row_1 0 rfl rfl)
theorem dX1_row_25 : decode cX1_row 25 = .ok (.getfield 133, 3) := dk_180 0 133 (dk_at dksX1_row_1 1 rfl rfl)
theorem dX1_row_28 : decode cX1_row 28 = .ok (.iload_n 1, 1) := dk_27 (dk_at dksX1_row_1 4 rfl rfl)
theorem dX1_row_29 : decode cX1_row 29 = .ok (.laload, 1) := dk_47 (dk_at dksX1_row_1 5 rfl rfl)
theorem dX1_row_30 : decode cX1_row 30 = .ok (.lreturn, 1) := dk_173 (dk_at dksX1_row_1 6 rfl rfl)
