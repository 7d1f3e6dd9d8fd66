set_option maxRecDepth 100000
def dkwX1_when_4 : List UInt8 := [182, 1, 129, 133, 182, 1, 136, 42, 42, 27, 28, 182, 1, 199, 133, 182, 1, 136, 29, 172]
abbrev dktX1_when_4 : List UInt8 := dkwX1_when_4 ++ []
def dkwX1_when_3 : List UInt8 := [132, 4, 1, 167, 255, 205, 42, 3, 181, 1, 133, 42, 42, 27, 28, 42, 180, 0, 12, 180, 1, 126, 29, 96]
abbrev dktX1_when_3 : List UInt8 := dkwX1_when_3 ++ dktX1_when_4
def dkwX1_when_2 : List UInt8 := [27, 28, 42, 180, 0, 12, 180, 1, 126, 29, 96, 182, 1, 129, 162, 0, 8, 21, 4, 167, 0, 4, 29, 62]
abbrev dktX1_when_2 : List UInt8 := dkwX1_when_2 ++ dktX1_when_3
def dkwX1_when_1 : List UInt8 := [21, 4, 16, 24, 162, 0, 50, 42, 27, 28, 42, 180, 0, 12, 180, 1, 126, 21, 4, 96, 182, 1, 129, 42]
abbrev dktX1_when_1 : List UInt8 := dkwX1_when_1 ++ dktX1_when_2
def dkwX1_when_0 : List UInt8 := [42, 27, 182, 1, 91, 153, 0, 11, 42, 28, 182, 1, 112, 154, 0, 5, 2, 172, 3, 62, 4, 54, 4]
abbrev dktX1_when_0 : List UInt8 := dkwX1_when_0 ++ dktX1_when_1
theorem dksX1_when_0 : cX1_when.data.toList.drop 0 = dktX1_when_0 := by decide +kernel
theorem dksX1_when_1 : cX1_when.data.toList.drop 23 = dktX1_when_1 := dk_seg dksX1_when_0 23 rfl rfl
theorem dksX1_when_2 : cX1_when.data.toList.drop 47 = dktX1_when_2 := dk_seg dksX1_when_1 24 rfl rfl
theorem dksX1_when_3 : cX1_when.data.toList.drop 71 = dktX1_when_3 := dk_seg dksX1_when_2 24 rfl rfl
theorem dksX1_when_4 : cX1_when.data.toList.drop 95 = dktX1_when_4 := dk_seg dksX1_when_3 24 rfl rfl
theorem dX1_when_0 : decode cX1_when 0 = .ok (.aload_n 0, 1) := dk_42 (dk_at dksX1_when_0 0 rfl rfl)
theorem dX1_when_1 : decode cX1_when 1 = .ok (.iload_n 1, 1) := dk_27 (dk_at dksX1_when_0 1 rfl rfl)
theorem dX1_when_2 : decode cX1_when 2 = .ok (.invokevirtual 347, 3) := dk_182 1 91 (dk_at dksX1_when_0 2 rfl rfl)
theorem dX1_when_5 : decode cX1_when 5 = .ok (.ifCond .eq 11, 3) := dk_153 0 11 (dk_at dksX1_when_0 5 rfl rfl)
theorem dX1_when_8 : decode cX1_when 8 = .ok (.aload_n 0, 1) := dk_42 (dk_at dksX1_when_0 8 rfl rfl)
theorem dX1_when_9 : decode cX1_when 9 = .ok (.iload_n 2, 1) := dk_28 (dk_at dksX1_when_0 9 rfl rfl)
theorem dX1_when_10 : decode cX1_when 10 = .ok (.invokevirtual 368, 3) := dk_182 1 112 (dk_at dksX1_when_0 10 rfl rfl)
theorem dX1_when_13 : decode cX1_when 13 = .ok (.ifCond .ne 5, 3) := dk_154 0 5 (dk_at dksX1_when_0 13 rfl rfl)
theorem dX1_when_16 : decode cX1_when 16 = .ok (.iconst (-1), 1) := dk_2 (dk_at dksX1_when_0 16 rfl rfl)
theorem dX1_when_17 : decode cX1_when 17 = .ok (.ireturn, 1) := dk_172 (dk_at dksX1_when_0 17 rfl rfl)
theorem dX1_when_18 : decode cX1_when 18 = .ok (.iconst 0, 1) := dk_3 (dk_at dksX1_when_0 18 rfl rfl)
theorem dX1_when_19 : decode cX1_when 19 = .ok (.istore_n 3, 1) := dk_62 (dk_at dksX1_when_0 19 rfl rfl)
theorem dX1_when_20 : decode cX1_when 20 = .ok (.iconst 1, 1) := dk_4 (dk_at dksX1_when_0 20 rfl rfl)
theorem dX1_when_21 : decode cX1_when 21 = .ok (.istore 4, 2) := dk_54 4 (dk_at dksX1_when_0 21 rfl rfl)
theorem dX1_when_23 : decode cX1_when 23 = .ok (.iload 4, 2) := dk_21 4 (dk_at dksX1_when_1 0 rfl rfl)
theorem dX1_when_25 : decode cX1_when 25 = .ok (.bipush 24, 2) := dk_16 24 (dk_at dksX1_when_1 2 rfl rfl)
theorem dX1_when_27 : decode cX1_when 27 = .ok (.if_icmp .ge 50, 3) := dk_162 0 50 (dk_at dksX1_when_1 4 rfl rfl)
theorem dX1_when_30 : decode cX1_when 30 = .ok (.aload_n 0, 1) := dk_42 (dk_at dksX1_when_1 7 rfl rfl)
theorem dX1_when_31 : decode cX1_when 31 = .ok (.iload_n 1, 1) := dk_27 (dk_at dksX1_when_1 8 rfl rfl)
theorem dX1_when_32 : decode cX1_when 32 = .ok (.iload_n 2, 1) := dk_28 (dk_at dksX1_when_1 9 rfl rfl)
theorem dX1_when_33 : decode cX1_when 33 = .ok (.aload_n 0, 1) := dk_42 (dk_at dksX1_when_1 10 rfl rfl)
theorem dX1_when_34 : decode cX1_when 34 = .ok (.getfield 12, 3) := dk_180 0 12 (dk_at dksX1_when_1 11 rfl rfl)
theorem dX1_when_37 : decode cX1_when 37 = .ok (.getfield 382, 3) := dk_180 1 126 (dk_at dksX1_when_1 14 rfl rfl)
theorem dX1_when_40 : decode cX1_when 40 = .ok (.iload 4, 2) := dk_21 4 (dk_at dksX1_when_1 17 rfl rfl)
theorem dX1_when_42 : decode cX1_when 42 = .ok (.iadd, 1) := dk_96 (dk_at dksX1_when_1 19 rfl rfl)
theorem dX1_when_43 : decode cX1_when 43 = .ok (.invokevirtual 385, 3) := dk_182 1 129 (dk_at dksX1_when_1 20 rfl rfl)
theorem dX1_when_46 : decode cX1_when 46 = .ok (.aload_n 0, 1) := dk_42 (dk_at dksX1_when_1 23 rfl rfl)
theorem dX1_when_47 : decode cX1_when 47 = .ok (.iload_n 1, 1) := dk_27 (dk_at dksX1_when_2 0 rfl rfl)
theorem dX1_when_48 : decode cX1_when 48 = .ok (.iload_n 2, 1) := dk_28 (dk_at dksX1_when_2 1 rfl rfl)
theorem dX1_when_49 : decode cX1_when 49 = .ok (.aload_n 0, 1) := dk_42 (dk_at dksX1_when_2 2 rfl rfl)
theorem dX1_when_50 : decode cX1_when 50 = .ok (.getfield 12, 3) := dk_180 0 12 (dk_at dksX1_when_2 3 rfl rfl)
theorem dX1_when_53 : decode cX1_when 53 = .ok (.getfield 382, 3) := dk_180 1 126 (dk_at dksX1_when_2 6 rfl rfl)
theorem dX1_when_56 : decode cX1_when 56 = .ok (.iload_n 3, 1) := dk_29 (dk_at dksX1_when_2 9 rfl rfl)
theorem dX1_when_57 : decode cX1_when 57 = .ok (.iadd, 1) := dk_96 (dk_at dksX1_when_2 10 rfl rfl)
theorem dX1_when_58 : decode cX1_when 58 = .ok (.invokevirtual 385, 3) := dk_182 1 129 (dk_at dksX1_when_2 11 rfl rfl)
theorem dX1_when_61 : decode cX1_when 61 = .ok (.if_icmp .ge 8, 3) := dk_162 0 8 (dk_at dksX1_when_2 14 rfl rfl)
theorem dX1_when_64 : decode cX1_when 64 = .ok (.iload 4, 2) := dk_21 4 (dk_at dksX1_when_2 17 rfl rfl)
theorem dX1_when_66 : decode cX1_when 66 = .ok (.goto 4, 3) := dk_167 0 4 (dk_at dksX1_when_2 19 rfl rfl)
theorem dX1_when_69 : decode cX1_when 69 = .ok (.iload_n 3, 1) := dk_29 (dk_at dksX1_when_2 22 rfl rfl)
theorem dX1_when_70 : decode cX1_when 70 = .ok (.istore_n 3, 1) := dk_62 (dk_at dksX1_when_2 23 rfl rfl)
theorem dX1_when_71 : decode cX1_when 71 = .ok (.iinc 4 1, 3) := dk_132 4 1 (dk_at dksX1_when_3 0 rfl rfl)
theorem dX1_when_74 : decode cX1_when 74 = .ok (.goto (-51), 3) := dk_167 255 205 (dk_at dksX1_when_3 3 rfl rfl)
theorem dX1_when_77 : decode cX1_when 77 = .ok (.aload_n 0, 1) := dk_42 (dk_at dksX1_when_3 6 rfl rfl)
theorem dX1_when_78 : decode cX1_when 78 = .ok (.iconst 0, 1) := dk_3 (dk_at dksX1_when_3 7 rfl rfl)
theorem dX1_when_79 : decode cX1_when 79 = .ok (.putfield 389, 3) := dk_181 1 133 (dk_at dksX1_when_3 8 rfl rfl)
theorem dX1_when_82 : decode cX1_when 82 = .ok (.aload_n 0, 1) := dk_42 (dk_at dksX1_when_3 11 rfl rfl)
theorem dX1_when_83 : decode cX1_when 83 = .ok (.aload_n 0, 1) := dk_42 (dk_at dksX1_when_3 12 rfl rfl)
theorem dX1_when_84 : decode cX1_when 84 = .ok (.iload_n 1, 1) := dk_27 (dk_at dksX1_when_3 13 rfl rfl)
theorem dX1_when_85 : decode cX1_when 85 = .ok (.iload_n 2, 1) := dk_28 (dk_at dksX1_when_3 14 rfl rfl)
theorem dX1_when_86 : decode cX1_when 86 = .ok (.aload_n 0, 1) := dk_42 (dk_at dksX1_when_3 15 rfl rfl)
theorem dX1_when_87 : decode cX1_when 87 = .ok (.getfield 12, 3) := dk_180 0 12 (dk_at dksX1_when_3 16 rfl rfl)
theorem dX1_when_90 : decode cX1_when 90 = .ok (.getfield 382, 3) := dk_180 1 126 (dk_at dksX1_when_3 19 rfl rfl)
theorem dX1_when_93 : decode cX1_when 93 = .ok (.iload_n 3, 1) := dk_29 (dk_at dksX1_when_3 22 rfl rfl)
theorem dX1_when_94 : decode cX1_when 94 = .ok (.iadd, 1) := dk_96 (dk_at dksX1_when_3 23 rfl rfl)
theorem dX1_when_95 : decode cX1_when 95 = .ok (.invokevirtual 385, 3) := dk_182 1 129 (dk_at dksX1_when_4 0 rfl rfl)
theorem dX1_when_98 : decode cX1_when 98 = .ok (.i2l, 1) := dk_133 (dk_at dksX1_when_4 3 rfl rfl)
theorem dX1_when_99 : decode cX1_when 99 = .ok (.invokevirtual 392, 3) := dk_182 1 136 (dk_at dksX1_when_4 4 rfl rfl)
theorem dX1_when_102 : decode cX1_when 102 = .ok (.aload_n 0, 1) := dk_42 (dk_at dksX1_when_4 7 rfl rfl)
theorem dX1_when_103 : decode cX1_when 103 = .ok (.aload_n 0, 1) := dk_42 (dk_at dksX1_when_4 8 rfl rfl)
theorem dX1_when_104 : decode cX1_when 104 = .ok (.iload_n 1, 1) := dk_27 (dk_at dksX1_when_4 9 rfl rfl)
theorem dX1_when_105 : decode cX1_when 105 = .ok (.iload_n 2, 1) := dk_28 (dk_at dksX1_when_4 10 rfl rfl)
theorem dX1_when_106 : decode cX1_when 106 = .ok (.invokevirtual 455, 3) := dk_182 1 199 (dk_at dksX1_when_4 11 rfl rfl)
theorem dX1_when_109 : decode cX1_when 109 = .ok (.i2l, 1) := dk_133 (dk_at dksX1_when_4 14 rfl rfl)
theorem dX1_when_110 : decode cX1_when 110 = .ok (.invokevirtual 392, 3) := dk_182 1 136 (dk_at dksX1_when_4 15 rfl rfl)
theorem dX1_when_113 : decode cX1_when 113 = .ok (.iload_n 3, 1) := dk_29 (dk_at dksX1_when_4 18 rfl rfl)
theorem dX1_when_114 : decode cX1_when 114 = .ok (.ireturn, 1) := dk_172 (dk_at dksX1_when_4 19 rfl rfl)
def dkwX1_shortest_7 : List UInt8 := [42, 21, 4, 28, 182, 1, 199, 133, 182, 1, 136, 21, 4, 172]
abbrev dktX1_shortest_7 : List UInt8 := dkwX1_shortest_7 ++ []
def dkwX1_shortest_6 : List UInt8 := [156, 0, 6, 16, 254, 172, 42, 3, 181, 1, 133, 42, 42, 180, 0, 23, 21, 4, 46, 133, 182, 1, 136, 42]
abbrev dktX1_shortest_6 : List UInt8 := dkwX1_shortest_6 ++ dktX1_shortest_7
def dkwX1_shortest_5 : List UInt8 := [28, 182, 1, 199, 162, 0, 8, 21, 5, 167, 0, 5, 21, 4, 54, 4, 132, 5, 1, 167, 255, 159, 21, 4]
abbrev dktX1_shortest_5 : List UInt8 := dkwX1_shortest_5 ++ dktX1_shortest_6
def dkwX1_shortest_4 : List UInt8 := [180, 0, 23, 21, 4, 46, 100, 54, 7, 21, 7, 155, 0, 20, 21, 7, 154, 0, 20, 21, 6, 42, 21, 4]
abbrev dktX1_shortest_4 : List UInt8 := dkwX1_shortest_4 ++ dktX1_shortest_5
def dkwX1_shortest_3 : List UInt8 := [29, 164, 0, 6, 167, 0, 60, 21, 4, 156, 0, 7, 2, 167, 0, 18, 42, 180, 0, 23, 21, 5, 46, 42]
abbrev dktX1_shortest_3 : List UInt8 := dkwX1_shortest_3 ++ dktX1_shortest_4
def dkwX1_shortest_2 : List UInt8 := [162, 0, 94, 42, 21, 5, 28, 182, 1, 199, 54, 6, 42, 21, 5, 27, 182, 1, 140, 153, 0, 69, 21, 6]
abbrev dktX1_shortest_2 : List UInt8 := dkwX1_shortest_2 ++ dktX1_shortest_3
def dkwX1_shortest_1 : List UInt8 := [20, 1, 157, 184, 0, 141, 154, 0, 5, 2, 172, 16, 254, 54, 4, 3, 54, 5, 21, 5, 42, 180, 0, 145]
abbrev dktX1_shortest_1 : List UInt8 := dkwX1_shortest_1 ++ dktX1_shortest_2
def dkwX1_shortest_0 : List UInt8 := [27, 133, 9, 20, 1, 202, 184, 0, 141, 153, 0, 23, 42, 28, 182, 1, 112, 153, 0, 15, 29, 133, 9]
abbrev dktX1_shortest_0 : List UInt8 := dkwX1_shortest_0 ++ dktX1_shortest_1
theorem dksX1_shortest_0 : cX1_shortest.data.toList.drop 0 = dktX1_shortest_0 := by decide +kernel
theorem dksX1_shortest_1 : cX1_shortest.data.toList.drop 23 = dktX1_shortest_1 := dk_seg dksX1_shortest_0 23 rfl rfl
theorem dksX1_shortest_2 : cX1_shortest.data.toList.drop 47 = dktX1_shortest_2 := dk_seg dksX1_shortest_1 24 rfl rfl
theorem dksX1_shortest_3 : cX1_shortest.data.toList.drop 71 = dktX1_shortest_3 := dk_seg dksX1_shortest_2 24 rfl rfl
theorem dksX1_shortest_4 : cX1_shortest.data.toList.drop 95 = dktX1_shortest_4 := dk_seg dksX1_shortest_3 24 rfl rfl
theorem dksX1_shortest_5 : cX1_shortest.data.toList.drop 119 = dktX1_shortest_5 := dk_seg dksX1_shortest_4 24 rfl rfl
theorem dksX1_shortest_6 : cX1_shortest.data.toList.drop 143 = dktX1_shortest_6 := dk_seg dksX1_shortest_5 24 rfl rfl
theorem dksX1_shortest_7 : cX1_shortest.data.toList.drop 167 = dktX1_shortest_7 := dk_seg dksX1_shortest_6 24 rfl rfl
theorem dX1_shortest_0 : decode cX1_shortest 0 = .ok (.iload_n 1, 1) := dk_27 (dk_at dksX1_shortest_0 0 rfl rfl)
theorem dX1_shortest_1 : decode cX1_shortest 1 = .ok (.i2l, 1) := dk_133 (dk_at dksX1_shortest_0 1 rfl rfl)
theorem dX1_shortest_2 : decode cX1_shortest 2 = .ok (.lconst 0, 1) := dk_9 (dk_at dksX1_shortest_0 2 rfl rfl)
theorem dX1_shortest_3 : decode cX1_shortest 3 = .ok (.ldc2_w 458, 3) := dk_20 1 202 (dk_at dksX1_shortest_0 3 rfl rfl)
theorem dX1_shortest_6 : decode cX1_shortest 6 = .ok (.invokestatic 141, 3) := dk_184 0 141 (dk_at dksX1_shortest_0 6 rfl rfl)
theorem dX1_shortest_9 : decode cX1_shortest 9 = .ok (.ifCond .eq 23, 3) := dk_153 0 23 (dk_at dksX1_shortest_0 9 rfl rfl)
theorem dX1_shortest_12 : decode cX1_shortest 12 = .ok (.aload_n 0, 1) := dk_42 (dk_at dksX1_shortest_0 12 rfl rfl)
theorem dX1_shortest_13 : decode cX1_shortest 13 = .ok (.iload_n 2, 1) := dk_28 (dk_at dksX1_shortest_0 13 rfl rfl)
theorem dX1_shortest_14 : decode cX1_shortest 14 = .ok (.invokevirtual 368, 3) := dk_182 1 112 (dk_at dksX1_shortest_0 14 rfl rfl)
theorem dX1_shortest_17 : decode cX1_shortest 17 = .ok (.ifCond .eq 15, 3) := dk_153 0 15 (dk_at dksX1_shortest_0 17 rfl rfl)
theorem dX1_shortest_20 : decode cX1_shortest 20 = .ok (.iload_n 3, 1) := dk_29 (dk_at dksX1_shortest_0 20 rfl rfl)
theorem dX1_shortest_21 : decode cX1_shortest 21 = .ok (.i2l, 1) := dk_133 (dk_at dksX1_shortest_0 21 rfl rfl)
theorem dX1_shortest_22 : decode cX1_shortest 22 = .ok (.lconst 0, 1) := dk_9 (dk_at dksX1_shortest_0 22 rfl rfl)
theorem dX1_shortest_23 : decode cX1_shortest 23 = .ok (.ldc2_w 413, 3) := dk_20 1 157 (dk_at dksX1_shortest_1 0 rfl rfl)
theorem dX1_shortest_26 : decode cX1_shortest 26 = .ok (.invokestatic 141, 3) := dk_184 0 141 (dk_at dksX1_shortest_1 3 rfl rfl)
theorem dX1_shortest_29 : decode cX1_shortest 29 = .ok (.ifCond .ne 5, 3) := dk_154 0 5 (dk_at dksX1_shortest_1 6 rfl rfl)
theorem dX1_shortest_32 : decode cX1_shortest 32 = .ok (.iconst (-1), 1) := dk_2 (dk_at dksX1_shortest_1 9 rfl rfl)
theorem dX1_shortest_33 : decode cX1_shortest 33 = .ok (.ireturn, 1) := dk_172 (dk_at dksX1_shortest_1 10 rfl rfl)
theorem dX1_shortest_34 : decode cX1_shortest 34 = .ok (.bipush (-2), 2) := dk_16 254 (dk_at dksX1_shortest_1 11 rfl rfl)
theorem dX1_shortest_36 : decode cX1_shortest 36 = .ok (.istore 4, 2) := dk_54 4 (dk_at dksX1_shortest_1 13 rfl rfl)
theorem dX1_shortest_38 : decode cX1_shortest 38 = .ok (.iconst 0, 1) := dk_3 (dk_at dksX1_shortest_1 15 rfl rfl)
theorem dX1_shortest_39 : decode cX1_shortest 39 = .ok (.istore 5, 2) := dk_54 5 (dk_at dksX1_shortest_1 16 rfl rfl)
theorem dX1_shortest_41 : decode cX1_shortest 41 = .ok (.iload 5, 2) := dk_21 5 (dk_at dksX1_shortest_1 18 rfl rfl)
theorem dX1_shortest_43 : decode cX1_shortest 43 = .ok (.aload_n 0, 1) := dk_42 (dk_at dksX1_shortest_1 20 rfl rfl)
theorem dX1_shortest_44 : decode cX1_shortest 44 = .ok (.getfield 145, 3) := dk_180 0 145 (dk_at dksX1_shortest_1 21 rfl rfl)
theorem dX1_shortest_47 : decode cX1_shortest 47 = .ok (.if_icmp .ge 94, 3) := dk_162 0 94 (dk_at dksX1_shortest_2 0 rfl rfl)
theorem dX1_shortest_50 : decode cX1_shortest 50 = .ok (.aload_n 0, 1) := dk_42 (dk_at dksX1_shortest_2 3 rfl rfl)
theorem dX1_shortest_51 : decode cX1_shortest 51 = .ok (.iload 5, 2) := dk_21 5 (dk_at dksX1_shortest_2 4 rfl rfl)
theorem dX1_shortest_53 : decode cX1_shortest 53 = .ok (.iload_n 2, 1) := dk_28 (dk_at dksX1_shortest_2 6 rfl rfl)
theorem dX1_shortest_54 : decode cX1_shortest 54 = .ok (.invokevirtual 455, 3) := dk_182 1 199 (dk_at dksX1_shortest_2 7 rfl rfl)
theorem dX1_shortest_57 : decode cX1_shortest 57 = .ok (.istore 6, 2) := dk_54 6 (dk_at dksX1_shortest_2 10 rfl rfl)
theorem dX1_shortest_59 : decode cX1_shortest 59 = .ok (.aload_n 0, 1) := dk_42 (dk_at dksX1_shortest_2 12 rfl rfl)
theorem dX1_shortest_60 : decode cX1_shortest 60 = .ok (.iload 5, 2) := dk_21 5 (dk_at dksX1_shortest_2 13 rfl rfl)
theorem dX1_shortest_62 : decode cX1_shortest 62 = .ok (.iload_n 1, 1) := dk_27 (dk_at dksX1_shortest_2 15 rfl rfl)
theorem dX1_shortest_63 : decode cX1_shortest 63 = .ok (.invokevirtual 396, 3) := dk_182 1 140 (dk_at dksX1_shortest_2 16 rfl rfl)
theorem dX1_shortest_66 : decode cX1_shortest 66 = .ok (.ifCond .eq 69, 3) := dk_153 0 69 (dk_at dksX1_shortest_2 19 rfl rfl)
theorem dX1_shortest_69 : decode cX1_shortest 69 = .ok (.iload 6, 2) := dk_21 6 (dk_at dksX1_shortest_2 22 rfl rfl)
theorem dX1_shortest_71 : decode cX1_shortest 71 = .ok (.iload_n 3, 1) := dk_29 (dk_at dksX1_shortest_3 0 rfl rfl)
theorem dX1_shortest_72 : decode cX1_shortest 72 = .ok (.if_icmp .le 6, 3) := dk_164 0 6 (dk_at dksX1_shortest_3 1 rfl rfl)
theorem dX1_shortest_75 : decode cX1_shortest 75 = .ok (.goto 60, 3) := dk_167 0 60 (dk_at dksX1_shortest_3 4 rfl rfl)
theorem dX1_shortest_78 : decode cX1_shortest 78 = .ok (.iload 4, 2) := dk_21 4 (dk_at dksX1_shortest_3 7 rfl rfl)
theorem dX1_shortest_80 : decode cX1_shortest 80 = .ok (.ifCond .ge 7, 3) := dk_156 0 7 (dk_at dksX1_shortest_3 9 rfl rfl)
theorem dX1_shortest_83 : decode cX1_shortest 83 = .ok (.iconst (-1), 1) := dk_2 (dk_at dksX1_shortest_3 12 rfl rfl)
theorem dX1_shortest_84 : decode cX1_shortest 84 = .ok (.goto 18, 3) := dk_167 0 18 (dk_at dksX1_shortest_3 13 rfl rfl)
theorem dX1_shortest_87 : decode cX1_shortest 87 = .ok (.aload_n 0, 1) := dk_42 (dk_at dksX1_shortest_3 16 rfl rfl)
theorem dX1_shortest_88 : decode cX1_shortest 88 = .ok (.getfield 23, 3) := dk_180 0 23 (dk_at dksX1_shortest_3 17 rfl rfl)
theorem dX1_shortest_91 : decode cX1_shortest 91 = .ok (.iload 5, 2) := dk_21 5 (dk_at dksX1_shortest_3 20 rfl rfl)
theorem dX1_shortest_93 : decode cX1_shortest 93 = .ok (.iaload, 1) := dk_46 (dk_at dksX1_shortest_3 22 rfl rfl)
theorem dX1_shortest_94 : decode cX1_shortest 94 = .ok (.aload_n 0, 1) := dk_42 (dk_at dksX1_shortest_3 23 rfl rfl)
theorem dX1_shortest_95 : decode cX1_shortest 95 = .ok (.getfield 23, 3) := dk_180 0 23 (dk_at dksX1_shortest_4 0 rfl rfl)
theorem dX1_shortest_98 : decode cX1_shortest 98 = .ok (.iload 4, 2) := dk_21 4 (dk_at dksX1_shortest_4 3 rfl rfl)
theorem dX1_shortest_100 : decode cX1_shortest 100 = .ok (.iaload, 1) := dk_46 (dk_at dksX1_shortest_4 5 rfl rfl)
theorem dX1_shortest_101 : decode cX1_shortest 101 = .ok (.isub, 1) := dk_100 (dk_at dksX1_shortest_4 6 rfl rfl)
theorem dX1_shortest_102 : decode cX1_shortest 102 = .ok (.istore 7, 2) := dk_54 7 (dk_at dksX1_shortest_4 7 rfl rfl)
theorem dX1_shortest_104 : decode cX1_shortest 104 = .ok (.iload 7, 2) := dk_21 7 (dk_at dksX1_shortest_4 9 rfl rfl)
theorem dX1_shortest_106 : decode cX1_shortest 106 = .ok (.ifCond .lt 20, 3) := dk_155 0 20 (dk_at dksX1_shortest_4 11 rfl rfl)
theorem dX1_shortest_109 : decode cX1_shortest 109 = .ok (.iload 7, 2) := dk_21 7 (dk_at dksX1_shortest_4 14 rfl rfl)
theorem dX1_shortest_111 : decode cX1_shortest 111 = .ok (.ifCond .ne 20, 3) := dk_154 0 20 (dk_at dksX1_shortest_4 16 rfl rfl)
theorem dX1_shortest_114 : decode cX1_shortest 114 = .ok (.iload 6, 2) := dk_21 6 (dk_at dksX1_shortest_4 19 rfl rfl)
theorem dX1_shortest_116 : decode cX1_shortest 116 = .ok (.aload_n 0, 1) := dk_42 (dk_at dksX1_shortest_4 21 rfl rfl)
theorem dX1_shortest_117 : decode cX1_shortest 117 = .ok (.iload 4, 2) := dk_21 4 (dk_at dksX1_shortest_4 22 rfl rfl)
theorem dX1_shortest_119 : decode cX1_shortest 119 = .ok (.iload_n 2, 1) := dk_28 (dk_at dksX1_shortest_5 0 rfl rfl)
theorem dX1_shortest_120 : decode cX1_shortest 120 = .ok (.invokevirtual 455, 3) := dk_182 1 199 (dk_at dksX1_shortest_5 1 rfl rfl)
theorem dX1_shortest_123 : decode cX1_shortest 123 = .ok (.if_icmp .ge 8, 3) := dk_162 0 8 (dk_at dksX1_shortest_5 4 rfl rfl)
theorem dX1_shortest_126 : decode cX1_shortest 126 = .ok (.iload 5, 2) := dk_21 5 (dk_at dksX1_shortest_5 7 rfl rfl)
theorem dX1_shortest_128 : decode cX1_shortest 128 = .ok (.goto 5, 3) := dk_167 0 5 (dk_at dksX1_shortest_5 9 rfl rfl)
theorem dX1_shortest_131 : decode cX1_shortest 131 = .ok (.iload 4, 2) := dk_21 4 (dk_at dksX1_shortest_5 12 rfl rfl)
theorem dX1_shortest_133 : decode cX1_shortest 133 = .ok (.istore 4, 2) := dk_54 4 (dk_at dksX1_shortest_5 14 rfl rfl)
theorem dX1_shortest_135 : decode cX1_shortest 135 = .ok (.iinc 5 1, 3) := dk_132 5 1 (dk_at dksX1_shortest_5 16 rfl rfl)
theorem dX1_shortest_138 : decode cX1_shortest 138 = .ok (.goto (-97), 3) := dk_167 255 159 (dk_at dksX1_shortest_5 19 rfl rfl)
theorem dX1_shortest_141 : decode cX1_shortest 141 = .ok (.iload 4, 2) := dk_21 4 (dk_at dksX1_shortest_5 22 rfl rfl)
theorem dX1_shortest_143 : decode cX1_shortest 143 = .ok (.ifCond .ge 6, 3) := dk_156 0 6 (dk_at dksX1_shortest_6 0 rfl rfl)
theorem dX1_shortest_146 : decode cX1_shortest 146 = .ok (.bipush (-2), 2) := dk_16 254 (dk_at dksX1_shortest_6 3 rfl rfl)
theorem dX1_shortest_148 : decode cX1_shortest 148 = .ok (.ireturn, 1) := dk_172 (dk_at dksX1_shortest_6 5 rfl rfl)
theorem dX1_shortest_149 : decode cX1_shortest 149 = .ok (.aload_n 0, 1) := dk_42 (dk_at dksX1_shortest_6 6 rfl rfl)
theorem dX1_shortest_150 : decode cX1_shortest 150 = .ok (.iconst 0, 1) := dk_3 (dk_at dksX1_shortest_6 7 rfl rfl)
theorem dX1_shortest_151 : decode cX1_shortest 151 = .ok (.putfield 389, 3) := dk_181 1 133 (dk_at dksX1_shortest_6 8 rfl rfl)
theorem dX1_shortest_154 : decode cX1_shortest 154 = .ok (.aload_n 0, 1) := dk_42 (dk_at dksX1_shortest_6 11 rfl rfl)
theorem dX1_shortest_155 : decode cX1_shortest 155 = .ok (.aload_n 0, 1) := dk_42 (dk_at dksX1_shortest_6 12 rfl rfl)
theorem dX1_shortest_156 : decode cX1_shortest 156 = .ok (.getfield 23, 3) := dk_180 0 23 (dk_at dksX1_shortest_6 13 rfl rfl)
theorem dX1_shortest_159 : decode cX1_shortest 159 = .ok (.iload 4, 2) := dk_21 4 (dk_at dksX1_shortest_6 16 rfl rfl)
theorem dX1_shortest_161 : decode cX1_shortest 161 = .ok (.iaload, 1) := dk_46 (dk_at dksX1_shortest_6 18 rfl rfl)
theorem dX1_shortest_162 : decode cX1_shortest 162 = .ok (.i2l, 1) := dk_133 (dk_at dksX1_shortest_6 19 rfl rfl)
theorem dX1_shortest_163 : decode cX1_shortest 163 = .ok (.invokevirtual 392, 3) := dk_182 1 136 (dk_at dksX1_shortest_6 20 rfl rfl)
theorem dX1_shortest_166 : decode cX1_shortest 166 = .ok (.aload_n 0, 1) := dk_42 (dk_at dksX1_shortest_6 23 rfl rfl)
theorem dX1_shortest_167 : decode cX1_shortest 167 = .ok (.aload_n 0, 1) := dk_42 (dk_at dksX1_shortest_7 0 rfl rfl)
theorem dX1_shortest_168 : decode cX1_shortest 168 = .ok (.iload 4, 2) := dk_21 4 (dk_at dksX1_shortest_7 1 rfl rfl)
theorem dX1_shortest_170 : decode cX1_shortest 170 = .ok (.iload_n 2, 1) := dk_28 (dk_at dksX1_shortest_7 3 rfl rfl)
theorem dX1_shortest_171 : decode cX1_shortest 171 = .ok (.invokevirtual 455, 3) := dk_182 1 199 (dk_at dksX1_shortest_7 4 rfl rfl)
theorem dX1_shortest_174 : decode cX1_shortest 174 = .ok (.i2l, 1) := dk_133 (dk_at dksX1_shortest_7 7 rfl rfl)
theorem dX1_shortest_175 : decode cX1_shortest 175 = .ok (.invokevirtual 392, 3) := dk_182 1 136 (dk_at dksX1_shortest_7 8 rfl rfl)
theorem dX1_shortest_178 : decode cX1_shortest 178 = .ok (.iload 4, 2) := dk_21 4 (dk_at dksX1_shortest_7 11 rfl rfl)
theorem dX1_shortest_180 : decode cX1_shortest 180 = .ok (.ireturn, 1) := dk_172 (dk_at dksX1_shortest_7 13 rfl rfl)
def dkwX1_differ_1 : List UInt8 := [42, 27, 28, 4, 182, 1, 217, 133, 182, 1, 136, 42, 27, 28, 3, 182, 1, 217, 172]
abbrev dktX1_differ_1 : List UInt8 := dkwX1_differ_1 ++ []
def dkwX1_differ_0 : List UInt8 := [42, 27, 182, 1, 91, 153, 0, 11, 42, 28, 182, 1, 91, 154, 0, 5, 2, 172, 42, 3, 181, 1, 133, 42]
abbrev dktX1_differ_0 : List UInt8 := dkwX1_differ_0 ++ dktX1_differ_1
theorem dksX1_differ_0 : cX1_differ.data.toList.drop 0 = dktX1_differ_0 := by decide +kernel
theorem dksX1_differ_1 : cX1_differ.data.toList.drop 24 = dktX1_differ_1 := dk_seg dksX1_differ_0 24 rfl rfl
theorem dX1_differ_0 : decode cX1_differ 0 = .ok (.aload_n 0, 1) := dk_42 (dk_at dksX1_differ_0 0 rfl rfl)
theorem dX1_differ_1 : decode cX1_differ 1 = .ok (.iload_n 1, 1) := dk_27 (dk_at dksX1_differ_0 1 rfl rfl)
theorem dX1_differ_2 : decode cX1_differ 2 = .ok (.invokevirtual 347, 3) := dk_182 1 91 (dk_at dksX1_differ_0 2 rfl rfl)
theorem dX1_differ_5 : decode cX1_differ 5 = .ok (.ifCond .eq 11, 3) := dk_153 0 11 (dk_at dksX1_differ_0 5 rfl rfl)
theorem dX1_differ_8 : decode cX1_differ 8 = .ok (.aload_n 0, 1) := dk_42 (dk_at dksX1_differ_0 8 rfl rfl)
theorem dX1_differ_9 : decode cX1_differ 9 = .ok (.iload_n 2, 1) := dk_28 (dk_at dksX1_differ_0 9 rfl rfl)
theorem dX1_differ_10 : decode cX1_differ 10 = .ok (.invokevirtual 347, 3) := dk_182 1 91 (dk_at dksX1_differ_0 10 rfl rfl)
theorem dX1_differ_13 : decode cX1_differ 13 = .ok (.ifCond .ne 5, 3) := dk_154 0 5 (dk_at dksX1_differ_0 13 rfl rfl)
theorem dX1_differ_16 : decode cX1_differ 16 = .ok (.iconst (-1), 1) := dk_2 (dk_at dksX1_differ_0 16 rfl rfl)
theorem dX1_differ_17 : decode cX1_differ 17 = .ok (.ireturn, 1) := dk_172 (dk_at dksX1_differ_0 17 rfl rfl)
theorem dX1_differ_18 : decode cX1_differ 18 = .ok (.aload_n 0, 1) := dk_42 (dk_at dksX1_differ_0 18 rfl rfl)
theorem dX1_differ_19 : decode cX1_differ 19 = .ok (.iconst 0, 1) := dk_3 (dk_at dksX1_differ_0 19 rfl rfl)
theorem dX1_differ_20 : decode cX1_differ 20 = .ok (.putfield 389, 3) := dk_181 1 133 (dk_at dksX1_differ_0 20 rfl rfl)
theorem dX1_differ_23 : decode cX1_differ 23 = .ok (.aload_n 0, 1) := dk_42 (dk_at dksX1_differ_0 23 rfl rfl)
theorem dX1_differ_24 : decode cX1_differ 24 = .ok (.aload_n 0, 1) := dk_42 (dk_at dksX1_differ_1 0 rfl rfl)
theorem dX1_differ_25 : decode cX1_differ 25 = .ok (.iload_n 1, 1) := dk_27 (dk_at dksX1_differ_1 1 rfl rfl)
theorem dX1_differ_26 : decode cX1_differ 26 = .ok (.iload_n 2, 1) := dk_28 (dk_at dksX1_differ_1 2 rfl rfl)
theorem dX1_differ_27 : decode cX1_differ 27 = .ok (.iconst 1, 1) := dk_4 (dk_at dksX1_differ_1 3 rfl rfl)
theorem dX1_differ_28 : decode cX1_differ 28 = .ok (.invokevirtual 473, 3) := dk_182 1 217 (dk_at dksX1_differ_1 4 rfl rfl)
theorem dX1_differ_31 : decode cX1_differ 31 = .ok (.i2l, 1) := dk_133 (dk_at dksX1_differ_1 7 rfl rfl)
theorem dX1_differ_32 : decode cX1_differ 32 = .ok (.invokevirtual 392, 3) := dk_182 1 136 (dk_at dksX1_differ_1 8 rfl rfl)
theorem dX1_differ_35 : decode cX1_differ 35 = .ok (.aload_n 0, 1) := dk_42 (dk_at dksX1_differ_1 11 rfl rfl)
theorem dX1_differ_36 : decode cX1_differ 36 = .ok (.iload_n 1, 1) := dk_27 (dk_at dksX1_differ_1 12 rfl rfl)
theorem dX1_differ_37 : decode cX1_differ 37 = .ok (.iload_n 2, 1) := dk_28 (dk_at dksX1_differ_1 13 rfl rfl)
theorem dX1_differ_38 : decode cX1_differ 38 = .ok (.iconst 0, 1) := dk_3 (dk_at dksX1_differ_1 14 rfl rfl)
theorem dX1_differ_39 : decode cX1_differ 39 = .ok (.invokevirtual 473, 3) := dk_182 1 217 (dk_at dksX1_differ_1 15 rfl rfl)
theorem dX1_differ_42 : decode cX1_differ 42 = .ok (.ireturn, 1) := dk_172 (dk_at dksX1_differ_1 18 rfl rfl)
def dkwX1_changesOf_8 : List UInt8 := [96, 46, 172]
abbrev dktX1_changesOf_8 : List UInt8 := dkwX1_changesOf_8 ++ []
def dkwX1_changesOf_7 : List UInt8 := [79, 132, 8, 1, 167, 255, 126, 132, 7, 1, 167, 255, 110, 42, 180, 0, 109, 21, 6, 21, 4, 104, 21, 5]
abbrev dktX1_changesOf_7 : List UInt8 := dkwX1_changesOf_7 ++ dktX1_changesOf_8
def dkwX1_changesOf_6 : List UInt8 := [184, 0, 172, 4, 96, 184, 0, 172, 54, 9, 42, 180, 0, 109, 21, 6, 21, 7, 104, 21, 8, 96, 21, 9]
abbrev dktX1_changesOf_6 : List UInt8 := dkwX1_changesOf_6 ++ dktX1_changesOf_7
def dkwX1_changesOf_5 : List UInt8 := [21, 7, 4, 100, 104, 21, 8, 96, 46, 42, 180, 0, 109, 21, 6, 21, 7, 104, 21, 8, 96, 4, 100, 46]
abbrev dktX1_changesOf_5 : List UInt8 := dkwX1_changesOf_5 ++ dktX1_changesOf_6
def dkwX1_changesOf_4 : List UInt8 := [21, 8, 4, 100, 46, 160, 0, 7, 3, 167, 0, 4, 4, 96, 54, 10, 21, 10, 42, 180, 0, 109, 21, 6]
abbrev dktX1_changesOf_4 : List UInt8 := dkwX1_changesOf_4 ++ dktX1_changesOf_5
def dkwX1_changesOf_3 : List UInt8 := [21, 7, 4, 100, 104, 21, 8, 96, 4, 100, 46, 42, 180, 0, 103, 21, 7, 4, 100, 46, 42, 180, 0, 106]
abbrev dktX1_changesOf_3 : List UInt8 := dkwX1_changesOf_3 ++ dktX1_changesOf_4
def dkwX1_changesOf_2 : List UInt8 := [21, 7, 21, 8, 96, 54, 9, 21, 7, 158, 0, 96, 21, 8, 158, 0, 91, 42, 180, 0, 109, 21, 6]
abbrev dktX1_changesOf_2 : List UInt8 := dkwX1_changesOf_2 ++ dktX1_changesOf_3
def dkwX1_changesOf_1 : List UInt8 := [16, 7, 54, 6, 3, 54, 7, 21, 7, 21, 4, 163, 0, 145, 3, 54, 8, 21, 8, 21, 5, 163, 0, 129]
abbrev dktX1_changesOf_1 : List UInt8 := dkwX1_changesOf_1 ++ dktX1_changesOf_2
def dkwX1_changesOf_0 : List UInt8 := [42, 27, 42, 180, 0, 103, 29, 182, 1, 213, 54, 4, 42, 28, 42, 180, 0, 106, 29, 182, 1, 213, 54, 5]
abbrev dktX1_changesOf_0 : List UInt8 := dkwX1_changesOf_0 ++ dktX1_changesOf_1
theorem dksX1_changesOf_0 : cX1_changesOf.data.toList.drop 0 = dktX1_changesOf_0 := by decide +kernel
theorem dksX1_changesOf_1 : cX1_changesOf.data.toList.drop 24 = dktX1_changesOf_1 := dk_seg dksX1_changesOf_0 24 rfl rfl
theorem dksX1_changesOf_2 : cX1_changesOf.data.toList.drop 48 = dktX1_changesOf_2 := dk_seg dksX1_changesOf_1 24 rfl rfl
theorem dksX1_changesOf_3 : cX1_changesOf.data.toList.drop 71 = dktX1_changesOf_3 := dk_seg dksX1_changesOf_2 23 rfl rfl
theorem dksX1_changesOf_4 : cX1_changesOf.data.toList.drop 95 = dktX1_changesOf_4 := dk_seg dksX1_changesOf_3 24 rfl rfl
theorem dksX1_changesOf_5 : cX1_changesOf.data.toList.drop 119 = dktX1_changesOf_5 := dk_seg dksX1_changesOf_4 24 rfl rfl
theorem dksX1_changesOf_6 : cX1_changesOf.data.toList.drop 143 = dktX1_changesOf_6 := dk_seg dksX1_changesOf_5 24 rfl rfl
theorem dksX1_changesOf_7 : cX1_changesOf.data.toList.drop 167 = dktX1_changesOf_7 := dk_seg dksX1_changesOf_6 24 rfl rfl
theorem dksX1_changesOf_8 : cX1_changesOf.data.toList.drop 191 = dktX1_changesOf_8 := dk_seg dksX1_changesOf_7 24 rfl rfl
theorem dX1_changesOf_0 : decode cX1_changesOf 0 = .ok (.aload_n 0, 1) := dk_42 (dk_at dksX1_changesOf_0 0 rfl rfl)
theorem dX1_changesOf_1 : decode cX1_changesOf 1 = .ok (.iload_n 1, 1) := dk_27 (dk_at dksX1_changesOf_0 1 rfl rfl)
theorem dX1_changesOf_2 : decode cX1_changesOf 2 = .ok (.aload_n 0, 1) := dk_42 (dk_at dksX1_changesOf_0 2 rfl rfl)
theorem dX1_changesOf_3 : decode cX1_changesOf 3 = .ok (.getfield 103, 3) := dk_180 0 103 (dk_at dksX1_changesOf_0 3 rfl rfl)
theorem dX1_changesOf_6 : decode cX1_changesOf 6 = .ok (.iload_n 3, 1) := dk_29 (dk_at dksX1_changesOf_0 6 rfl rfl)
theorem dX1_changesOf_7 : decode cX1_changesOf 7 = .ok (.invokevirtual 469, 3) := dk_182 1 213 (dk_at dksX1_changesOf_0 7 rfl rfl)
theorem dX1_changesOf_10 : decode cX1_changesOf 10 = .ok (.istore 4, 2) := dk_54 4 (dk_at dksX1_changesOf_0 10 rfl rfl)
theorem dX1_changesOf_12 : decode cX1_changesOf 12 = .ok (.aload_n 0, 1) := dk_42 (dk_at dksX1_changesOf_0 12 rfl rfl)
theorem dX1_changesOf_13 : decode cX1_changesOf 13 = .ok (.iload_n 2, 1) := dk_28 (dk_at dksX1_changesOf_0 13 rfl rfl)
theorem dX1_changesOf_14 : decode cX1_changesOf 14 = .ok (.aload_n 0, 1) := dk_42 (dk_at dksX1_changesOf_0 14 rfl rfl)
theorem dX1_changesOf_15 : decode cX1_changesOf 15 = .ok (.getfield 106, 3) := dk_180 0 106 (dk_at dksX1_changesOf_0 15 rfl rfl)
theorem dX1_changesOf_18 : decode cX1_changesOf 18 = .ok (.iload_n 3, 1) := dk_29 (dk_at dksX1_changesOf_0 18 rfl rfl)
theorem dX1_changesOf_19 : decode cX1_changesOf 19 = .ok (.invokevirtual 469, 3) := dk_182 1 213 (dk_at dksX1_changesOf_0 19 rfl rfl)
theorem dX1_changesOf_22 : decode cX1_changesOf 22 = .ok (.istore 5, 2) := dk_54 5 (dk_at dksX1_changesOf_0 22 rfl rfl)
theorem dX1_changesOf_24 : decode cX1_changesOf 24 = .ok (.bipush 7, 2) := dk_16 7 (dk_at dksX1_changesOf_1 0 rfl rfl)
theorem dX1_changesOf_26 : decode cX1_changesOf 26 = .ok (.istore 6, 2) := dk_54 6 (dk_at dksX1_changesOf_1 2 rfl rfl)
theorem dX1_changesOf_28 : decode cX1_changesOf 28 = .ok (.iconst 0, 1) := dk_3 (dk_at dksX1_changesOf_1 4 rfl rfl)
theorem dX1_changesOf_29 : decode cX1_changesOf 29 = .ok (.istore 7, 2) := dk_54 7 (dk_at dksX1_changesOf_1 5 rfl rfl)
theorem dX1_changesOf_31 : decode cX1_changesOf 31 = .ok (.iload 7, 2) := dk_21 7 (dk_at dksX1_changesOf_1 7 rfl rfl)
theorem dX1_changesOf_33 : decode cX1_changesOf 33 = .ok (.iload 4, 2) := dk_21 4 (dk_at dksX1_changesOf_1 9 rfl rfl)
theorem dX1_changesOf_35 : decode cX1_changesOf 35 = .ok (.if_icmp .gt 145, 3) := dk_163 0 145 (dk_at dksX1_changesOf_1 11 rfl rfl)
theorem dX1_changesOf_38 : decode cX1_changesOf 38 = .ok (.iconst 0, 1) := dk_3 (dk_at dksX1_changesOf_1 14 rfl rfl)
theorem dX1_changesOf_39 : decode cX1_changesOf 39 = .ok (.istore 8, 2) := dk_54 8 (dk_at dksX1_changesOf_1 15 rfl rfl)
theorem dX1_changesOf_41 : decode cX1_changesOf 41 = .ok (.iload 8, 2) := dk_21 8 (dk_at dksX1_changesOf_1 17 rfl rfl)
theorem dX1_changesOf_43 : decode cX1_changesOf 43 = .ok (.iload 5, 2) := dk_21 5 (dk_at dksX1_changesOf_1 19 rfl rfl)
theorem dX1_changesOf_45 : decode cX1_changesOf 45 = .ok (.if_icmp .gt 129, 3) := dk_163 0 129 (dk_at dksX1_changesOf_1 21 rfl rfl)
theorem dX1_changesOf_48 : decode cX1_changesOf 48 = .ok (.iload 7, 2) := dk_21 7 (dk_at dksX1_changesOf_2 0 rfl rfl)
theorem dX1_changesOf_50 : decode cX1_changesOf 50 = .ok (.iload 8, 2) := dk_21 8 (dk_at dksX1_changesOf_2 2 rfl rfl)
theorem dX1_changesOf_52 : decode cX1_changesOf 52 = .ok (.iadd, 1) := dk_96 (dk_at dksX1_changesOf_2 4 rfl rfl)
theorem dX1_changesOf_53 : decode cX1_changesOf 53 = .ok (.istore 9, 2) := dk_54 9 (dk_at dksX1_changesOf_2 5 rfl rfl)
theorem dX1_changesOf_55 : decode cX1_changesOf 55 = .ok (.iload 7, 2) := dk_21 7 (dk_at dksX1_changesOf_2 7 rfl rfl)
theorem dX1_changesOf_57 : decode cX1_changesOf 57 = .ok (.ifCond .le 96, 3) := dk_158 0 96 (dk_at dksX1_changesOf_2 9 rfl rfl)
theorem dX1_changesOf_60 : decode cX1_changesOf 60 = .ok (.iload 8, 2) := dk_21 8 (dk_at dksX1_changesOf_2 12 rfl rfl)
theorem dX1_changesOf_62 : decode cX1_changesOf 62 = .ok (.ifCond .le 91, 3) := dk_158 0 91 (dk_at dksX1_changesOf_2 14 rfl rfl)
theorem dX1_changesOf_65 : decode cX1_changesOf 65 = .ok (.aload_n 0, 1) := dk_42 (dk_at dksX1_changesOf_2 17 rfl rfl)
theorem dX1_changesOf_66 : decode cX1_changesOf 66 = .ok (.getfield 109, 3) := dk_180 0 109 (dk_at dksX1_changesOf_2 18 rfl rfl)
theorem dX1_changesOf_69 : decode cX1_changesOf 69 = .ok (.iload 6, 2) := dk_21 6 (dk_at dksX1_changesOf_2 21 rfl rfl)
theorem dX1_changesOf_71 : decode cX1_changesOf 71 = .ok (.iload 7, 2) := dk_21 7 (dk_at dksX1_changesOf_3 0 rfl rfl)
theorem dX1_changesOf_73 : decode cX1_changesOf 73 = .ok (.iconst 1, 1) := dk_4 (dk_at dksX1_changesOf_3 2 rfl rfl)
theorem dX1_changesOf_74 : decode cX1_changesOf 74 = .ok (.isub, 1) := dk_100 (dk_at dksX1_changesOf_3 3 rfl rfl)
theorem dX1_changesOf_75 : decode cX1_changesOf 75 = .ok (.imul, 1) := dk_104 (dk_at dksX1_changesOf_3 4 rfl rfl)
theorem dX1_changesOf_76 : decode cX1_changesOf 76 = .ok (.iload 8, 2) := dk_21 8 (dk_at dksX1_changesOf_3 5 rfl rfl)
theorem dX1_changesOf_78 : decode cX1_changesOf 78 = .ok (.iadd, 1) := dk_96 (dk_at dksX1_changesOf_3 7 rfl rfl)
theorem dX1_changesOf_79 : decode cX1_changesOf 79 = .ok (.iconst 1, 1) := dk_4 (dk_at dksX1_changesOf_3 8 rfl rfl)
theorem dX1_changesOf_80 : decode cX1_changesOf 80 = .ok (.isub, 1) := dk_100 (dk_at dksX1_changesOf_3 9 rfl rfl)
theorem dX1_changesOf_81 : decode cX1_changesOf 81 = .ok (.iaload, 1) := dk_46 (dk_at dksX1_changesOf_3 10 rfl rfl)
theorem dX1_changesOf_82 : decode cX1_changesOf 82 = .ok (.aload_n 0, 1) := dk_42 (dk_at dksX1_changesOf_3 11 rfl rfl)
theorem dX1_changesOf_83 : decode cX1_changesOf 83 = .ok (.getfield 103, 3) := dk_180 0 103 (dk_at dksX1_changesOf_3 12 rfl rfl)
theorem dX1_changesOf_86 : decode cX1_changesOf 86 = .ok (.iload 7, 2) := dk_21 7 (dk_at dksX1_changesOf_3 15 rfl rfl)
theorem dX1_changesOf_88 : decode cX1_changesOf 88 = .ok (.iconst 1, 1) := dk_4 (dk_at dksX1_changesOf_3 17 rfl rfl)
theorem dX1_changesOf_89 : decode cX1_changesOf 89 = .ok (.isub, 1) := dk_100 (dk_at dksX1_changesOf_3 18 rfl rfl)
theorem dX1_changesOf_90 : decode cX1_changesOf 90 = .ok (.iaload, 1) := dk_46 (dk_at dksX1_changesOf_3 19 rfl rfl)
theorem dX1_changesOf_91 : decode cX1_changesOf 91 = .ok (.aload_n 0, 1) := dk_42 (dk_at dksX1_changesOf_3 20 rfl rfl)
theorem dX1_changesOf_92 : decode cX1_changesOf 92 = .ok (.getfield 106, 3) := dk_180 0 106 (dk_at dksX1_changesOf_3 21 rfl rfl)
theorem dX1_changesOf_95 : decode cX1_changesOf 95 = .ok (.iload 8, 2) := dk_21 8 (dk_at dksX1_changesOf_4 0 rfl rfl)
theorem dX1_changesOf_97 : decode cX1_changesOf 97 = .ok (.iconst 1, 1) := dk_4 (dk_at dksX1_changesOf_4 2 rfl rfl)
theorem dX1_changesOf_98 : decode cX1_changesOf 98 = .ok (.isub, 1) := dk_100 (dk_at dksX1_changesOf_4 3 rfl rfl)
theorem dX1_changesOf_99 : decode cX1_changesOf 99 = .ok (.iaload, 1) := dk_46 (dk_at dksX1_changesOf_4 4 rfl rfl)
theorem dX1_changesOf_100 : decode cX1_changesOf 100 = .ok (.if_icmp .ne 7, 3) := dk_160 0 7 (dk_at dksX1_changesOf_4 5 rfl rfl)
theorem dX1_changesOf_103 : decode cX1_changesOf 103 = .ok (.iconst 0, 1) := dk_3 (dk_at dksX1_changesOf_4 8 rfl rfl)
theorem dX1_changesOf_104 : decode cX1_changesOf 104 = .ok (.goto 4, 3) := dk_167 0 4 (dk_at dksX1_changesOf_4 9 rfl rfl)
theorem dX1_changesOf_107 : decode cX1_changesOf 107 = .ok (.iconst 1, 1) := dk_4 (dk_at dksX1_changesOf_4 12 rfl rfl)
theorem dX1_changesOf_108 : decode cX1_changesOf 108 = .ok (.iadd, 1) := dk_96 (dk_at dksX1_changesOf_4 13 rfl rfl)
theorem dX1_changesOf_109 : decode cX1_changesOf 109 = .ok (.istore 10, 2) := dk_54 10 (dk_at dksX1_changesOf_4 14 rfl rfl)
theorem dX1_changesOf_111 : decode cX1_changesOf 111 = .ok (.iload 10, 2) := dk_21 10 (dk_at dksX1_changesOf_4 16 rfl rfl)
theorem dX1_changesOf_113 : decode cX1_changesOf 113 = .ok (.aload_n 0, 1) := dk_42 (dk_at dksX1_changesOf_4 18 rfl rfl)
theorem dX1_changesOf_114 : decode cX1_changesOf 114 = .ok (.getfield 109, 3) := dk_180 0 109 (dk_at dksX1_changesOf_4 19 rfl rfl)
theorem dX1_changesOf_117 : decode cX1_changesOf 117 = .ok (.iload 6, 2) := dk_21 6 (dk_at dksX1_changesOf_4 22 rfl rfl)
theorem dX1_changesOf_119 : decode cX1_changesOf 119 = .ok (.iload 7, 2) := dk_21 7 (dk_at dksX1_changesOf_5 0 rfl rfl)
theorem dX1_changesOf_121 : decode cX1_changesOf 121 = .ok (.iconst 1, 1) := dk_4 (dk_at dksX1_changesOf_5 2 rfl rfl)
theorem dX1_changesOf_122 : decode cX1_changesOf 122 = .ok (.isub, 1) := dk_100 (dk_at dksX1_changesOf_5 3 rfl rfl)
theorem dX1_changesOf_123 : decode cX1_changesOf 123 = .ok (.imul, 1) := dk_104 (dk_at dksX1_changesOf_5 4 rfl rfl)
theorem dX1_changesOf_124 : decode cX1_changesOf 124 = .ok (.iload 8, 2) := dk_21 8 (dk_at dksX1_changesOf_5 5 rfl rfl)
theorem dX1_changesOf_126 : decode cX1_changesOf 126 = .ok (.iadd, 1) := dk_96 (dk_at dksX1_changesOf_5 7 rfl rfl)
theorem dX1_changesOf_127 : decode cX1_changesOf 127 = .ok (.iaload, 1) := dk_46 (dk_at dksX1_changesOf_5 8 rfl rfl)
theorem dX1_changesOf_128 : decode cX1_changesOf 128 = .ok (.aload_n 0, 1) := dk_42 (dk_at dksX1_changesOf_5 9 rfl rfl)
theorem dX1_changesOf_129 : decode cX1_changesOf 129 = .ok (.getfield 109, 3) := dk_180 0 109 (dk_at dksX1_changesOf_5 10 rfl rfl)
theorem dX1_changesOf_132 : decode cX1_changesOf 132 = .ok (.iload 6, 2) := dk_21 6 (dk_at dksX1_changesOf_5 13 rfl rfl)
theorem dX1_changesOf_134 : decode cX1_changesOf 134 = .ok (.iload 7, 2) := dk_21 7 (dk_at dksX1_changesOf_5 15 rfl rfl)
theorem dX1_changesOf_136 : decode cX1_changesOf 136 = .ok (.imul, 1) := dk_104 (dk_at dksX1_changesOf_5 17 rfl rfl)
theorem dX1_changesOf_137 : decode cX1_changesOf 137 = .ok (.iload 8, 2) := dk_21 8 (dk_at dksX1_changesOf_5 18 rfl rfl)
theorem dX1_changesOf_139 : decode cX1_changesOf 139 = .ok (.iadd, 1) := dk_96 (dk_at dksX1_changesOf_5 20 rfl rfl)
theorem dX1_changesOf_140 : decode cX1_changesOf 140 = .ok (.iconst 1, 1) := dk_4 (dk_at dksX1_changesOf_5 21 rfl rfl)
theorem dX1_changesOf_141 : decode cX1_changesOf 141 = .ok (.isub, 1) := dk_100 (dk_at dksX1_changesOf_5 22 rfl rfl)
theorem dX1_changesOf_142 : decode cX1_changesOf 142 = .ok (.iaload, 1) := dk_46 (dk_at dksX1_changesOf_5 23 rfl rfl)
theorem dX1_changesOf_143 : decode cX1_changesOf 143 = .ok (.invokestatic 172, 3) := dk_184 0 172 (dk_at dksX1_changesOf_6 0 rfl rfl)
theorem dX1_changesOf_146 : decode cX1_changesOf 146 = .ok (.iconst 1, 1) := dk_4 (dk_at dksX1_changesOf_6 3 rfl rfl)
theorem dX1_changesOf_147 : decode cX1_changesOf 147 = .ok (.iadd, 1) := dk_96 (dk_at dksX1_changesOf_6 4 rfl rfl)
theorem dX1_changesOf_148 : decode cX1_changesOf 148 = .ok (.invokestatic 172, 3) := dk_184 0 172 (dk_at dksX1_changesOf_6 5 rfl rfl)
theorem dX1_changesOf_151 : decode cX1_changesOf 151 = .ok (.istore 9, 2) := dk_54 9 (dk_at dksX1_changesOf_6 8 rfl rfl)
theorem dX1_changesOf_153 : decode cX1_changesOf 153 = .ok (.aload_n 0, 1) := dk_42 (dk_at dksX1_changesOf_6 10 rfl rfl)
theorem dX1_changesOf_154 : decode cX1_changesOf 154 = .ok (.getfield 109, 3) := dk_180 0 109 (dk_at dksX1_changesOf_6 11 rfl rfl)
theorem dX1_changesOf_157 : decode cX1_changesOf 157 = .ok (.iload 6, 2) := dk_21 6 (dk_at dksX1_changesOf_6 14 rfl rfl)
theorem dX1_changesOf_159 : decode cX1_changesOf 159 = .ok (.iload 7, 2) := dk_21 7 (dk_at dksX1_changesOf_6 16 rfl rfl)
theorem dX1_changesOf_161 : decode cX1_changesOf 161 = .ok (.imul, 1) := dk_104 (dk_at dksX1_changesOf_6 18 rfl rfl)
theorem dX1_changesOf_162 : decode cX1_changesOf 162 = .ok (.iload 8, 2) := dk_21 8 (dk_at dksX1_changesOf_6 19 rfl rfl)
theorem dX1_changesOf_164 : decode cX1_changesOf 164 = .ok (.iadd, 1) := dk_96 (dk_at dksX1_changesOf_6 21 rfl rfl)
theorem dX1_changesOf_165 : decode cX1_changesOf 165 = .ok (.iload 9, 2) := dk_21 9 (dk_at dksX1_changesOf_6 22 rfl rfl)
theorem dX1_changesOf_167 : decode cX1_changesOf 167 = .ok (.iastore, 1) := dk_79 (dk_at dksX1_changesOf_7 0 rfl rfl)
theorem dX1_changesOf_168 : decode cX1_changesOf 168 = .ok (.iinc 8 1, 3) := dk_132 8 1 (dk_at dksX1_changesOf_7 1 rfl rfl)
theorem dX1_changesOf_171 : decode cX1_changesOf 171 = .ok (.goto (-130), 3) := dk_167 255 126 (dk_at dksX1_changesOf_7 4 rfl rfl)
theorem dX1_changesOf_174 : decode cX1_changesOf 174 = .ok (.iinc 7 1, 3) := dk_132 7 1 (dk_at dksX1_changesOf_7 7 rfl rfl)
theorem dX1_changesOf_177 : decode cX1_changesOf 177 = .ok (.goto (-146), 3) := dk_167 255 110 (dk_at dksX1_changesOf_7 10 rfl rfl)
theorem dX1_changesOf_180 : decode cX1_changesOf 180 = .ok (.aload_n 0, 1) := dk_42 (dk_at dksX1_changesOf_7 13 rfl rfl)
theorem dX1_changesOf_181 : decode cX1_changesOf 181 = .ok (.getfield 109, 3) := dk_180 0 109 (dk_at dksX1_changesOf_7 14 rfl rfl)
theorem dX1_changesOf_184 : decode cX1_changesOf 184 = .ok (.iload 6, 2) := dk_21 6 (dk_at dksX1_changesOf_7 17 rfl rfl)
theorem dX1_changesOf_186 : decode cX1_changesOf 186 = .ok (.iload 4, 2) := dk_21 4 (dk_at dksX1_changesOf_7 19 rfl rfl)
theorem dX1_changesOf_188 : decode cX1_changesOf 188 = .ok (.imul, 1) := dk_104 (dk_at dksX1_changesOf_7 21 rfl rfl)
theorem dX1_changesOf_189 : decode cX1_changesOf 189 = .ok (.iload 5, 2) := dk_21 5 (dk_at dksX1_changesOf_7 22 rfl rfl)
theorem dX1_changesOf_191 : decode cX1_changesOf 191 = .ok (.iadd, 1) := dk_96 (dk_at dksX1_changesOf_8 0 rfl rfl)
theorem dX1_changesOf_192 : decode cX1_changesOf 192 = .ok (.iaload, 1) := dk_46 (dk_at dksX1_changesOf_8 1 rfl rfl)
theorem dX1_changesOf_193 : decode cX1_changesOf 193 = .ok (.ireturn, 1) := dk_172 (dk_at dksX1_changesOf_8 2 rfl rfl)
def dkwX1_laysRow_2 : List UInt8 := [96, 46, 79, 132, 4, 1, 132, 5, 1, 167, 255, 206, 21, 4, 172]
abbrev dktX1_laysRow_2 : List UInt8 := dkwX1_laysRow_2 ++ []
def dkwX1_laysRow_1 : List UInt8 := [21, 5, 182, 0, 159, 156, 0, 6, 167, 0, 22, 44, 21, 4, 42, 180, 0, 19, 16, 6, 27, 104, 21, 5]
abbrev dktX1_laysRow_1 : List UInt8 := dkwX1_laysRow_1 ++ dktX1_laysRow_2
def dkwX1_laysRow_0 : List UInt8 := [3, 54, 4, 3, 54, 5, 21, 5, 42, 180, 0, 23, 27, 46, 162, 0, 45, 29, 153, 0, 16, 42, 27]
abbrev dktX1_laysRow_0 : List UInt8 := dkwX1_laysRow_0 ++ dktX1_laysRow_1
theorem dksX1_laysRow_0 : cX1_laysRow.data.toList.drop 0 = dktX1_laysRow_0 := by decide +kernel
theorem dksX1_laysRow_1 : cX1_laysRow.data.toList.drop 23 = dktX1_laysRow_1 := dk_seg dksX1_laysRow_0 23 rfl rfl
theorem dksX1_laysRow_2 : cX1_laysRow.data.toList.drop 47 = dktX1_laysRow_2 := dk_seg dksX1_laysRow_1 24 rfl rfl
theorem dX1_laysRow_0 : decode cX1_laysRow 0 = .ok (.iconst 0, 1) := dk_3 (dk_at dksX1_laysRow_0 0 rfl rfl)
theorem dX1_laysRow_1 : decode cX1_laysRow 1 = .ok (.istore 4, 2) := dk_54 4 (dk_at dksX1_laysRow_0 1 rfl rfl)
theorem dX1_laysRow_3 : decode cX1_laysRow 3 = .ok (.iconst 0, 1) := dk_3 (dk_at dksX1_laysRow_0 3 rfl rfl)
theorem dX1_laysRow_4 : decode cX1_laysRow 4 = .ok (.istore 5, 2) := dk_54 5 (dk_at dksX1_laysRow_0 4 rfl rfl)
theorem dX1_laysRow_6 : decode cX1_laysRow 6 = .ok (.iload 5, 2) := dk_21 5 (dk_at dksX1_laysRow_0 6 rfl rfl)
theorem dX1_laysRow_8 : decode cX1_laysRow 8 = .ok (.aload_n 0, 1) := dk_42 (dk_at dksX1_laysRow_0 8 rfl rfl)
theorem dX1_laysRow_9 : decode cX1_laysRow 9 = .ok (.getfield 23, 3) := dk_180 0 23 (dk_at dksX1_laysRow_0 9 rfl rfl)
theorem dX1_laysRow_12 : decode cX1_laysRow 12 = .ok (.iload_n 1, 1) := dk_27 (dk_at dksX1_laysRow_0 12 rfl rfl)
theorem dX1_laysRow_13 : decode cX1_laysRow 13 = .ok (.iaload, 1) := dk_46 (dk_at dksX1_laysRow_0 13 rfl rfl)
theorem dX1_laysRow_14 : decode cX1_laysRow 14 = .ok (.if_icmp .ge 45, 3) := dk_162 0 45 (dk_at dksX1_laysRow_0 14 rfl rfl)
theorem dX1_laysRow_17 : decode cX1_laysRow 17 = .ok (.iload_n 3, 1) := dk_29 (dk_at dksX1_laysRow_0 17 rfl rfl)
theorem dX1_laysRow_18 : decode cX1_laysRow 18 = .ok (.ifCond .eq 16, 3) := dk_153 0 16 (dk_at dksX1_laysRow_0 18 rfl rfl)
theorem dX1_laysRow_21 : decode cX1_laysRow 21 = .ok (.aload_n 0, 1) := dk_42 (dk_at dksX1_laysRow_0 21 rfl rfl)
theorem dX1_laysRow_22 : decode cX1_laysRow 22 = .ok (.iload_n 1, 1) := dk_27 (dk_at dksX1_laysRow_0 22 rfl rfl)
theorem dX1_laysRow_23 : decode cX1_laysRow 23 = .ok (.iload 5, 2) := dk_21 5 (dk_at dksX1_laysRow_1 0 rfl rfl)
theorem dX1_laysRow_25 : decode cX1_laysRow 25 = .ok (.invokevirtual 159, 3) := dk_182 0 159 (dk_at dksX1_laysRow_1 2 rfl rfl)
theorem dX1_laysRow_28 : decode cX1_laysRow 28 = .ok (.ifCond .ge 6, 3) := dk_156 0 6 (dk_at dksX1_laysRow_1 5 rfl rfl)
theorem dX1_laysRow_31 : decode cX1_laysRow 31 = .ok (.goto 22, 3) := dk_167 0 22 (dk_at dksX1_laysRow_1 8 rfl rfl)
theorem dX1_laysRow_34 : decode cX1_laysRow 34 = .ok (.aload_n 2, 1) := dk_44 (dk_at dksX1_laysRow_1 11 rfl rfl)
theorem dX1_laysRow_35 : decode cX1_laysRow 35 = .ok (.iload 4, 2) := dk_21 4 (dk_at dksX1_laysRow_1 12 rfl rfl)
theorem dX1_laysRow_37 : decode cX1_laysRow 37 = .ok (.aload_n 0, 1) := dk_42 (dk_at dksX1_laysRow_1 14 rfl rfl)
theorem dX1_laysRow_38 : decode cX1_laysRow 38 = .ok (.getfield 19, 3) := dk_180 0 19 (dk_at dksX1_laysRow_1 15 rfl rfl)
theorem dX1_laysRow_41 : decode cX1_laysRow 41 = .ok (.bipush 6, 2) := dk_16 6 (dk_at dksX1_laysRow_1 18 rfl rfl)
theorem dX1_laysRow_43 : decode cX1_laysRow 43 = .ok (.iload_n 1, 1) := dk_27 (dk_at dksX1_laysRow_1 20 rfl rfl)
theorem dX1_laysRow_44 : decode cX1_laysRow 44 = .ok (.imul, 1) := dk_104 (dk_at dksX1_laysRow_1 21 rfl rfl)
theorem dX1_laysRow_45 : decode cX1_laysRow 45 = .ok (.iload 5, 2) := dk_21 5 (dk_at dksX1_laysRow_1 22 rfl rfl)
theorem dX1_laysRow_47 : decode cX1_laysRow 47 = .ok (.iadd, 1) := dk_96 (dk_at dksX1_laysRow_2 0 rfl rfl)
theorem dX1_laysRow_48 : decode cX1_laysRow 48 = .ok (.iaload, 1) := dk_46 (dk_at dksX1_laysRow_2 1 rfl rfl)
theorem dX1_laysRow_49 : decode cX1_laysRow 49 = .ok (.iastore, 1) := dk_79 (dk_at dksX1_laysRow_2 2 rfl rfl)
theorem dX1_laysRow_50 : decode cX1_laysRow 50 = .ok (.iinc 4 1, 3) := dk_132 4 1 (dk_at dksX1_laysRow_2 3 rfl rfl)
theorem dX1_laysRow_53 : decode cX1_laysRow 53 = .ok (.iinc 5 1, 3) := dk_132 5 1 (dk_at dksX1_laysRow_2 6 rfl rfl)
theorem dX1_laysRow_56 : decode cX1_laysRow 56 = .ok (.goto (-50), 3) := dk_167 255 206 (dk_at dksX1_laysRow_2 9 rfl rfl)
theorem dX1_laysRow_59 : decode cX1_laysRow 59 = .ok (.iload 4, 2) := dk_21 4 (dk_at dksX1_laysRow_2 12 rfl rfl)
theorem dX1_laysRow_61 : decode cX1_laysRow 61 = .ok (.ireturn, 1) := dk_172 (dk_at dksX1_laysRow_2 14 rfl rfl)
def dkwX1_near_6 : List UInt8 := [182, 1, 136, 28, 172]
abbrev dktX1_near_6 : List UInt8 := dkwX1_near_6 ++ []
def dkwX1_near_5 : List UInt8 := [155, 0, 21, 42, 28, 42, 180, 0, 29, 27, 46, 182, 1, 140, 153, 0, 7, 10, 167, 0, 4, 9]
abbrev dktX1_near_5 : List UInt8 := dkwX1_near_5 ++ dktX1_near_6
def dkwX1_near_4 : List UInt8 := [182, 1, 136, 42, 42, 28, 42, 180, 0, 26, 27, 46, 182, 1, 140, 154, 0, 26, 42, 180, 0, 29, 27, 46]
abbrev dktX1_near_4 : List UInt8 := dkwX1_near_4 ++ dktX1_near_5
def dkwX1_near_3 : List UInt8 := [62, 132, 4, 1, 167, 255, 202, 28, 156, 0, 6, 16, 254, 172, 42, 3, 181, 1, 133, 42, 29, 133]
abbrev dktX1_near_3 : List UInt8 := dkwX1_near_3 ++ dktX1_near_4
def dkwX1_near_2 : List UInt8 := [182, 1, 217, 54, 5, 21, 5, 29, 162, 0, 8, 21, 4, 167, 0, 4, 28, 61, 29, 21, 5, 184, 0, 172]
abbrev dktX1_near_2 : List UInt8 := dkwX1_near_2 ++ dktX1_near_3
def dkwX1_near_1 : List UInt8 := [180, 0, 145, 162, 0, 51, 21, 4, 27, 160, 0, 9, 19, 1, 198, 167, 0, 11, 42, 27, 21, 4, 3]
abbrev dktX1_near_1 : List UInt8 := dkwX1_near_1 ++ dktX1_near_2
def dkwX1_near_0 : List UInt8 := [42, 27, 182, 1, 91, 154, 0, 5, 2, 172, 16, 254, 61, 19, 1, 198, 62, 3, 54, 4, 21, 4, 42]
abbrev dktX1_near_0 : List UInt8 := dkwX1_near_0 ++ dktX1_near_1
theorem dksX1_near_0 : cX1_near.data.toList.drop 0 = dktX1_near_0 := by decide +kernel
theorem dksX1_near_1 : cX1_near.data.toList.drop 23 = dktX1_near_1 := dk_seg dksX1_near_0 23 rfl rfl
theorem dksX1_near_2 : cX1_near.data.toList.drop 46 = dktX1_near_2 := dk_seg dksX1_near_1 23 rfl rfl
theorem dksX1_near_3 : cX1_near.data.toList.drop 70 = dktX1_near_3 := dk_seg dksX1_near_2 24 rfl rfl
theorem dksX1_near_4 : cX1_near.data.toList.drop 92 = dktX1_near_4 := dk_seg dksX1_near_3 22 rfl rfl
theorem dksX1_near_5 : cX1_near.data.toList.drop 116 = dktX1_near_5 := dk_seg dksX1_near_4 24 rfl rfl
theorem dksX1_near_6 : cX1_near.data.toList.drop 138 = dktX1_near_6 := dk_seg dksX1_near_5 22 rfl rfl
theorem dX1_near_0 : decode cX1_near 0 = .ok (.aload_n 0, 1) := dk_42 (dk_at dksX1_near_0 0 rfl rfl)
theorem dX1_near_1 : decode cX1_near 1 = .ok (.iload_n 1, 1) := dk_27 (dk_at dksX1_near_0 1 rfl rfl)
theorem dX1_near_2 : decode cX1_near 2 = .ok (.invokevirtual 347, 3) := dk_182 1 91 (dk_at dksX1_near_0 2 rfl rfl)
theorem dX1_near_5 : decode cX1_near 5 = .ok (.ifCond .ne 5, 3) := dk_154 0 5 (dk_at dksX1_near_0 5 rfl rfl)
theorem dX1_near_8 : decode cX1_near 8 = .ok (.iconst (-1), 1) := dk_2 (dk_at dksX1_near_0 8 rfl rfl)
theorem dX1_near_9 : decode cX1_near 9 = .ok (.ireturn, 1) := dk_172 (dk_at dksX1_near_0 9 rfl rfl)
theorem dX1_near_10 : decode cX1_near 10 = .ok (.bipush (-2), 2) := dk_16 254 (dk_at dksX1_near_0 10 rfl rfl)
theorem dX1_near_12 : decode cX1_near 12 = .ok (.istore_n 2, 1) := dk_61 (dk_at dksX1_near_0 12 rfl rfl)
theorem dX1_near_13 : decode cX1_near 13 = .ok (.ldc_w 454, 3) := dk_19 1 198 (dk_at dksX1_near_0 13 rfl rfl)
theorem dX1_near_16 : decode cX1_near 16 = .ok (.istore_n 3, 1) := dk_62 (dk_at dksX1_near_0 16 rfl rfl)
theorem dX1_near_17 : decode cX1_near 17 = .ok (.iconst 0, 1) := dk_3 (dk_at dksX1_near_0 17 rfl rfl)
theorem dX1_near_18 : decode cX1_near 18 = .ok (.istore 4, 2) := dk_54 4 (dk_at dksX1_near_0 18 rfl rfl)
theorem dX1_near_20 : decode cX1_near 20 = .ok (.iload 4, 2) := dk_21 4 (dk_at dksX1_near_0 20 rfl rfl)
theorem dX1_near_22 : decode cX1_near 22 = .ok (.aload_n 0, 1) := dk_42 (dk_at dksX1_near_0 22 rfl rfl)
theorem dX1_near_23 : decode cX1_near 23 = .ok (.getfield 145, 3) := dk_180 0 145 (dk_at dksX1_near_1 0 rfl rfl)
theorem dX1_near_26 : decode cX1_near 26 = .ok (.if_icmp .ge 51, 3) := dk_162 0 51 (dk_at dksX1_near_1 3 rfl rfl)
theorem dX1_near_29 : decode cX1_near 29 = .ok (.iload 4, 2) := dk_21 4 (dk_at dksX1_near_1 6 rfl rfl)
theorem dX1_near_31 : decode cX1_near 31 = .ok (.iload_n 1, 1) := dk_27 (dk_at dksX1_near_1 8 rfl rfl)
theorem dX1_near_32 : decode cX1_near 32 = .ok (.if_icmp .ne 9, 3) := dk_160 0 9 (dk_at dksX1_near_1 9 rfl rfl)
theorem dX1_near_35 : decode cX1_near 35 = .ok (.ldc_w 454, 3) := dk_19 1 198 (dk_at dksX1_near_1 12 rfl rfl)
theorem dX1_near_38 : decode cX1_near 38 = .ok (.goto 11, 3) := dk_167 0 11 (dk_at dksX1_near_1 15 rfl rfl)
theorem dX1_near_41 : decode cX1_near 41 = .ok (.aload_n 0, 1) := dk_42 (dk_at dksX1_near_1 18 rfl rfl)
theorem dX1_near_42 : decode cX1_near 42 = .ok (.iload_n 1, 1) := dk_27 (dk_at dksX1_near_1 19 rfl rfl)
theorem dX1_near_43 : decode cX1_near 43 = .ok (.iload 4, 2) := dk_21 4 (dk_at dksX1_near_1 20 rfl rfl)
theorem dX1_near_45 : decode cX1_near 45 = .ok (.iconst 0, 1) := dk_3 (dk_at dksX1_near_1 22 rfl rfl)
theorem dX1_near_46 : decode cX1_near 46 = .ok (.invokevirtual 473, 3) := dk_182 1 217 (dk_at dksX1_near_2 0 rfl rfl)
theorem dX1_near_49 : decode cX1_near 49 = .ok (.istore 5, 2) := dk_54 5 (dk_at dksX1_near_2 3 rfl rfl)
theorem dX1_near_51 : decode cX1_near 51 = .ok (.iload 5, 2) := dk_21 5 (dk_at dksX1_near_2 5 rfl rfl)
theorem dX1_near_53 : decode cX1_near 53 = .ok (.iload_n 3, 1) := dk_29 (dk_at dksX1_near_2 7 rfl rfl)
theorem dX1_near_54 : decode cX1_near 54 = .ok (.if_icmp .ge 8, 3) := dk_162 0 8 (dk_at dksX1_near_2 8 rfl rfl)
theorem dX1_near_57 : decode cX1_near 57 = .ok (.iload 4, 2) := dk_21 4 (dk_at dksX1_near_2 11 rfl rfl)
theorem dX1_near_59 : decode cX1_near 59 = .ok (.goto 4, 3) := dk_167 0 4 (dk_at dksX1_near_2 13 rfl rfl)
theorem dX1_near_62 : decode cX1_near 62 = .ok (.iload_n 2, 1) := dk_28 (dk_at dksX1_near_2 16 rfl rfl)
theorem dX1_near_63 : decode cX1_near 63 = .ok (.istore_n 2, 1) := dk_61 (dk_at dksX1_near_2 17 rfl rfl)
theorem dX1_near_64 : decode cX1_near 64 = .ok (.iload_n 3, 1) := dk_29 (dk_at dksX1_near_2 18 rfl rfl)
theorem dX1_near_65 : decode cX1_near 65 = .ok (.iload 5, 2) := dk_21 5 (dk_at dksX1_near_2 19 rfl rfl)
theorem dX1_near_67 : decode cX1_near 67 = .ok (.invokestatic 172, 3) := dk_184 0 172 (dk_at dksX1_near_2 21 rfl rfl)
theorem dX1_near_70 : decode cX1_near 70 = .ok (.istore_n 3, 1) := dk_62 (dk_at dksX1_near_3 0 rfl rfl)
theorem dX1_near_71 : decode cX1_near 71 = .ok (.iinc 4 1, 3) := dk_132 4 1 (dk_at dksX1_near_3 1 rfl rfl)
theorem dX1_near_74 : decode cX1_near 74 = .ok (.goto (-54), 3) := dk_167 255 202 (dk_at dksX1_near_3 4 rfl rfl)
theorem dX1_near_77 : decode cX1_near 77 = .ok (.iload_n 2, 1) := dk_28 (dk_at dksX1_near_3 7 rfl rfl)
theorem dX1_near_78 : decode cX1_near 78 = .ok (.ifCond .ge 6, 3) := dk_156 0 6 (dk_at dksX1_near_3 8 rfl rfl)
theorem dX1_near_81 : decode cX1_near 81 = .ok (.bipush (-2), 2) := dk_16 254 (dk_at dksX1_near_3 11 rfl rfl)
theorem dX1_near_83 : decode cX1_near 83 = .ok (.ireturn, 1) := dk_172 (dk_at dksX1_near_3 13 rfl rfl)
theorem dX1_near_84 : decode cX1_near 84 = .ok (.aload_n 0, 1) := dk_42 (dk_at dksX1_near_3 14 rfl rfl)
theorem dX1_near_85 : decode cX1_near 85 = .ok (.iconst 0, 1) := dk_3 (dk_at dksX1_near_3 15 rfl rfl)
theorem dX1_near_86 : decode cX1_near 86 = .ok (.putfield 389, 3) := dk_181 1 133 (dk_at dksX1_near_3 16 rfl rfl)
theorem dX1_near_89 : decode cX1_near 89 = .ok (.aload_n 0, 1) := dk_42 (dk_at dksX1_near_3 19 rfl rfl)
theorem dX1_near_90 : decode cX1_near 90 = .ok (.iload_n 3, 1) := dk_29 (dk_at dksX1_near_3 20 rfl rfl)
theorem dX1_near_91 : decode cX1_near 91 = .ok (.i2l, 1) := dk_133 (dk_at dksX1_near_3 21 rfl rfl)
theorem dX1_near_92 : decode cX1_near 92 = .ok (.invokevirtual 392, 3) := dk_182 1 136 (dk_at dksX1_near_4 0 rfl rfl)
theorem dX1_near_95 : decode cX1_near 95 = .ok (.aload_n 0, 1) := dk_42 (dk_at dksX1_near_4 3 rfl rfl)
theorem dX1_near_96 : decode cX1_near 96 = .ok (.aload_n 0, 1) := dk_42 (dk_at dksX1_near_4 4 rfl rfl)
theorem dX1_near_97 : decode cX1_near 97 = .ok (.iload_n 2, 1) := dk_28 (dk_at dksX1_near_4 5 rfl rfl)
theorem dX1_near_98 : decode cX1_near 98 = .ok (.aload_n 0, 1) := dk_42 (dk_at dksX1_near_4 6 rfl rfl)
theorem dX1_near_99 : decode cX1_near 99 = .ok (.getfield 26, 3) := dk_180 0 26 (dk_at dksX1_near_4 7 rfl rfl)
theorem dX1_near_102 : decode cX1_near 102 = .ok (.iload_n 1, 1) := dk_27 (dk_at dksX1_near_4 10 rfl rfl)
theorem dX1_near_103 : decode cX1_near 103 = .ok (.iaload, 1) := dk_46 (dk_at dksX1_near_4 11 rfl rfl)
theorem dX1_near_104 : decode cX1_near 104 = .ok (.invokevirtual 396, 3) := dk_182 1 140 (dk_at dksX1_near_4 12 rfl rfl)
theorem dX1_near_107 : decode cX1_near 107 = .ok (.ifCond .ne 26, 3) := dk_154 0 26 (dk_at dksX1_near_4 15 rfl rfl)
theorem dX1_near_110 : decode cX1_near 110 = .ok (.aload_n 0, 1) := dk_42 (dk_at dksX1_near_4 18 rfl rfl)
theorem dX1_near_111 : decode cX1_near 111 = .ok (.getfield 29, 3) := dk_180 0 29 (dk_at dksX1_near_4 19 rfl rfl)
theorem dX1_near_114 : decode cX1_near 114 = .ok (.iload_n 1, 1) := dk_27 (dk_at dksX1_near_4 22 rfl rfl)
theorem dX1_near_115 : decode cX1_near 115 = .ok (.iaload, 1) := dk_46 (dk_at dksX1_near_4 23 rfl rfl)
theorem dX1_near_116 : decode cX1_near 116 = .ok (.ifCond .lt 21, 3) := dk_155 0 21 (dk_at dksX1_near_5 0 rfl rfl)
theorem dX1_near_119 : decode cX1_near 119 = .ok (.aload_n 0, 1) := dk_42 (dk_at dksX1_near_5 3 rfl rfl)
theorem dX1_near_120 : decode cX1_near 120 = .ok (.iload_n 2, 1) := dk_28 (dk_at dksX1_near_5 4 rfl rfl)
theorem dX1_near_121 : decode cX1_near 121 = .ok (.aload_n 0, 1) := dk_42 (dk_at dksX1_near_5 5 rfl rfl)
theorem dX1_near_122 : decode cX1_near 122 = .ok (.getfield 29, 3) := dk_180 0 29 (dk_at dksX1_near_5 6 rfl rfl)
theorem dX1_near_125 : decode cX1_near 125 = .ok (.iload_n 1, 1) := dk_27 (dk_at dksX1_near_5 9 rfl rfl)
theorem dX1_near_126 : decode cX1_near 126 = .ok (.iaload, 1) := dk_46 (dk_at dksX1_near_5 10 rfl rfl)
theorem dX1_near_127 : decode cX1_near 127 = .ok (.invokevirtual 396, 3) := dk_182 1 140 (dk_at dksX1_near_5 11 rfl rfl)
theorem dX1_near_130 : decode cX1_near 130 = .ok (.ifCond .eq 7, 3) := dk_153 0 7 (dk_at dksX1_near_5 14 rfl rfl)
theorem dX1_near_133 : decode cX1_near 133 = .ok (.lconst 1, 1) := dk_10 (dk_at dksX1_near_5 17 rfl rfl)
theorem dX1_near_134 : decode cX1_near 134 = .ok (.goto 4, 3) := dk_167 0 4 (dk_at dksX1_near_5 18 rfl rfl)
theorem dX1_near_137 : decode cX1_near 137 = .ok (.lconst 0, 1) := dk_9 (dk_at dksX1_near_5 21 rfl rfl)
theorem dX1_near_138 : decode cX1_near 138 = .ok (.invokevirtual 392, 3) := dk_182 1 136 (dk_at dksX1_near_6 0 rfl rfl)
theorem dX1_near_141 : decode cX1_near 141 = .ok (.iload_n 2, 1) := dk_28 (dk_at dksX1_near_6 3 rfl rfl)
theorem dX1_near_142 : decode cX1_near 142 = .ok (.ireturn, 1) := dk_172 (dk_at dksX1_near_6 4 rfl rfl)
def dkwX1_heard_8 : List UInt8 := [22, 7, 22, 11, 109, 182, 1, 136, 3, 172]
abbrev dktX1_heard_8 : List UInt8 := dkwX1_heard_8 ++ []
def dkwX1_heard_7 : List UInt8 := [22, 5, 22, 7, 184, 0, 137, 55, 11, 42, 3, 181, 1, 133, 42, 22, 5, 22, 11, 109, 182, 1, 136, 42]
abbrev dktX1_heard_7 : List UInt8 := dkwX1_heard_7 ++ dktX1_heard_8
def dkwX1_heard_6 : List UInt8 := [22, 9, 21, 4, 21, 11, 100, 133, 105, 21, 11, 4, 96, 133, 109, 55, 9, 132, 11, 1, 167, 255, 174]
abbrev dktX1_heard_6 : List UInt8 := dkwX1_heard_6 ++ dktX1_heard_7
def dkwX1_heard_5 : List UInt8 := [100, 133, 167, 0, 5, 28, 133, 105, 55, 12, 132, 14, 1, 167, 255, 224, 22, 5, 22, 12, 97, 55, 5]
abbrev dktX1_heard_5 : List UInt8 := dkwX1_heard_5 ++ dktX1_heard_6
def dkwX1_heard_4 : List UInt8 := [55, 12, 3, 54, 14, 21, 14, 21, 4, 162, 0, 31, 22, 12, 21, 14, 21, 11, 162, 0, 11, 16, 10, 28]
abbrev dktX1_heard_4 : List UInt8 := dkwX1_heard_4 ++ dktX1_heard_5
def dkwX1_heard_3 : List UInt8 := [167, 255, 238, 10, 55, 9, 3, 54, 11, 21, 11, 29, 163, 0, 82, 21, 11, 21, 4, 163, 0, 75, 22, 9]
abbrev dktX1_heard_3 : List UInt8 := dkwX1_heard_3 ++ dktX1_heard_4
def dkwX1_heard_2 : List UInt8 := [55, 7, 3, 54, 9, 21, 9, 21, 4, 162, 0, 17, 22, 7, 20, 1, 221, 105, 55, 7, 132, 9, 1]
abbrev dktX1_heard_2 : List UInt8 := dkwX1_heard_2 ++ dktX1_heard_3
def dkwX1_heard_1 : List UInt8 := [20, 1, 223, 184, 0, 141, 154, 0, 5, 2, 172, 42, 180, 0, 23, 27, 46, 54, 4, 9, 55, 5, 10]
abbrev dktX1_heard_1 : List UInt8 := dkwX1_heard_1 ++ dktX1_heard_2
def dkwX1_heard_0 : List UInt8 := [42, 27, 182, 1, 91, 153, 0, 27, 28, 133, 9, 20, 1, 221, 184, 0, 141, 153, 0, 15, 29, 133, 9]
abbrev dktX1_heard_0 : List UInt8 := dkwX1_heard_0 ++ dktX1_heard_1
theorem dksX1_heard_0 : cX1_heard.data.toList.drop 0 = dktX1_heard_0 := by decide +kernel
theorem dksX1_heard_1 : cX1_heard.data.toList.drop 23 = dktX1_heard_1 := dk_seg dksX1_heard_0 23 rfl rfl
theorem dksX1_heard_2 : cX1_heard.data.toList.drop 46 = dktX1_heard_2 := dk_seg dksX1_heard_1 23 rfl rfl
theorem dksX1_heard_3 : cX1_heard.data.toList.drop 69 = dktX1_heard_3 := dk_seg dksX1_heard_2 23 rfl rfl
theorem dksX1_heard_4 : cX1_heard.data.toList.drop 93 = dktX1_heard_4 := dk_seg dksX1_heard_3 24 rfl rfl
theorem dksX1_heard_5 : cX1_heard.data.toList.drop 117 = dktX1_heard_5 := dk_seg dksX1_heard_4 24 rfl rfl
theorem dksX1_heard_6 : cX1_heard.data.toList.drop 140 = dktX1_heard_6 := dk_seg dksX1_heard_5 23 rfl rfl
theorem dksX1_heard_7 : cX1_heard.data.toList.drop 163 = dktX1_heard_7 := dk_seg dksX1_heard_6 23 rfl rfl
theorem dksX1_heard_8 : cX1_heard.data.toList.drop 187 = dktX1_heard_8 := dk_seg dksX1_heard_7 24 rfl rfl
theorem dX1_heard_0 : decode cX1_heard 0 = .ok (.aload_n 0, 1) := dk_42 (dk_at dksX1_heard_0 0 rfl rfl)
theorem dX1_heard_1 : decode cX1_heard 1 = .ok (.iload_n 1, 1) := dk_27 (dk_at dksX1_heard_0 1 rfl rfl)
theorem dX1_heard_2 : decode cX1_heard 2 = .ok (.invokevirtual 347, 3) := dk_182 1 91 (dk_at dksX1_heard_0 2 rfl rfl)
theorem dX1_heard_5 : decode cX1_heard 5 = .ok (.ifCond .eq 27, 3) := dk_153 0 27 (dk_at dksX1_heard_0 5 rfl rfl)
theorem dX1_heard_8 : decode cX1_heard 8 = .ok (.iload_n 2, 1) := dk_28 (dk_at dksX1_heard_0 8 rfl rfl)
theorem dX1_heard_9 : decode cX1_heard 9 = .ok (.i2l, 1) := dk_133 (dk_at dksX1_heard_0 9 rfl rfl)
theorem dX1_heard_10 : decode cX1_heard 10 = .ok (.lconst 0, 1) := dk_9 (dk_at dksX1_heard_0 10 rfl rfl)
theorem dX1_heard_11 : decode cX1_heard 11 = .ok (.ldc2_w 477, 3) := dk_20 1 221 (dk_at dksX1_heard_0 11 rfl rfl)
theorem dX1_heard_14 : decode cX1_heard 14 = .ok (.invokestatic 141, 3) := dk_184 0 141 (dk_at dksX1_heard_0 14 rfl rfl)
theorem dX1_heard_17 : decode cX1_heard 17 = .ok (.ifCond .eq 15, 3) := dk_153 0 15 (dk_at dksX1_heard_0 17 rfl rfl)
theorem dX1_heard_20 : decode cX1_heard 20 = .ok (.iload_n 3, 1) := dk_29 (dk_at dksX1_heard_0 20 rfl rfl)
theorem dX1_heard_21 : decode cX1_heard 21 = .ok (.i2l, 1) := dk_133 (dk_at dksX1_heard_0 21 rfl rfl)
theorem dX1_heard_22 : decode cX1_heard 22 = .ok (.lconst 0, 1) := dk_9 (dk_at dksX1_heard_0 22 rfl rfl)
theorem dX1_heard_23 : decode cX1_heard 23 = .ok (.ldc2_w 479, 3) := dk_20 1 223 (dk_at dksX1_heard_1 0 rfl rfl)
theorem dX1_heard_26 : decode cX1_heard 26 = .ok (.invokestatic 141, 3) := dk_184 0 141 (dk_at dksX1_heard_1 3 rfl rfl)
theorem dX1_heard_29 : decode cX1_heard 29 = .ok (.ifCond .ne 5, 3) := dk_154 0 5 (dk_at dksX1_heard_1 6 rfl rfl)
theorem dX1_heard_32 : decode cX1_heard 32 = .ok (.iconst (-1), 1) := dk_2 (dk_at dksX1_heard_1 9 rfl rfl)
theorem dX1_heard_33 : decode cX1_heard 33 = .ok (.ireturn, 1) := dk_172 (dk_at dksX1_heard_1 10 rfl rfl)
theorem dX1_heard_34 : decode cX1_heard 34 = .ok (.aload_n 0, 1) := dk_42 (dk_at dksX1_heard_1 11 rfl rfl)
theorem dX1_heard_35 : decode cX1_heard 35 = .ok (.getfield 23, 3) := dk_180 0 23 (dk_at dksX1_heard_1 12 rfl rfl)
theorem dX1_heard_38 : decode cX1_heard 38 = .ok (.iload_n 1, 1) := dk_27 (dk_at dksX1_heard_1 15 rfl rfl)
theorem dX1_heard_39 : decode cX1_heard 39 = .ok (.iaload, 1) := dk_46 (dk_at dksX1_heard_1 16 rfl rfl)
theorem dX1_heard_40 : decode cX1_heard 40 = .ok (.istore 4, 2) := dk_54 4 (dk_at dksX1_heard_1 17 rfl rfl)
theorem dX1_heard_42 : decode cX1_heard 42 = .ok (.lconst 0, 1) := dk_9 (dk_at dksX1_heard_1 19 rfl rfl)
theorem dX1_heard_43 : decode cX1_heard 43 = .ok (.lstore 5, 2) := dk_55 5 (dk_at dksX1_heard_1 20 rfl rfl)
theorem dX1_heard_45 : decode cX1_heard 45 = .ok (.lconst 1, 1) := dk_10 (dk_at dksX1_heard_1 22 rfl rfl)
theorem dX1_heard_46 : decode cX1_heard 46 = .ok (.lstore 7, 2) := dk_55 7 (dk_at dksX1_heard_2 0 rfl rfl)
theorem dX1_heard_48 : decode cX1_heard 48 = .ok (.iconst 0, 1) := dk_3 (dk_at dksX1_heard_2 2 rfl rfl)
theorem dX1_heard_49 : decode cX1_heard 49 = .ok (.istore 9, 2) := dk_54 9 (dk_at dksX1_heard_2 3 rfl rfl)
theorem dX1_heard_51 : decode cX1_heard 51 = .ok (.iload 9, 2) := dk_21 9 (dk_at dksX1_heard_2 5 rfl rfl)
theorem dX1_heard_53 : decode cX1_heard 53 = .ok (.iload 4, 2) := dk_21 4 (dk_at dksX1_heard_2 7 rfl rfl)
theorem dX1_heard_55 : decode cX1_heard 55 = .ok (.if_icmp .ge 17, 3) := dk_162 0 17 (dk_at dksX1_heard_2 9 rfl rfl)
theorem dX1_heard_58 : decode cX1_heard 58 = .ok (.lload 7, 2) := dk_22 7 (dk_at dksX1_heard_2 12 rfl rfl)
theorem dX1_heard_60 : decode cX1_heard 60 = .ok (.ldc2_w 477, 3) := dk_20 1 221 (dk_at dksX1_heard_2 14 rfl rfl)
theorem dX1_heard_63 : decode cX1_heard 63 = .ok (.lmul, 1) := dk_105 (dk_at dksX1_heard_2 17 rfl rfl)
theorem dX1_heard_64 : decode cX1_heard 64 = .ok (.lstore 7, 2) := dk_55 7 (dk_at dksX1_heard_2 18 rfl rfl)
theorem dX1_heard_66 : decode cX1_heard 66 = .ok (.iinc 9 1, 3) := dk_132 9 1 (dk_at dksX1_heard_2 20 rfl rfl)
theorem dX1_heard_69 : decode cX1_heard 69 = .ok (.goto (-18), 3) := dk_167 255 238 (dk_at dksX1_heard_3 0 rfl rfl)
theorem dX1_heard_72 : decode cX1_heard 72 = .ok (.lconst 1, 1) := dk_10 (dk_at dksX1_heard_3 3 rfl rfl)
theorem dX1_heard_73 : decode cX1_heard 73 = .ok (.lstore 9, 2) := dk_55 9 (dk_at dksX1_heard_3 4 rfl rfl)
theorem dX1_heard_75 : decode cX1_heard 75 = .ok (.iconst 0, 1) := dk_3 (dk_at dksX1_heard_3 6 rfl rfl)
theorem dX1_heard_76 : decode cX1_heard 76 = .ok (.istore 11, 2) := dk_54 11 (dk_at dksX1_heard_3 7 rfl rfl)
theorem dX1_heard_78 : decode cX1_heard 78 = .ok (.iload 11, 2) := dk_21 11 (dk_at dksX1_heard_3 9 rfl rfl)
theorem dX1_heard_80 : decode cX1_heard 80 = .ok (.iload_n 3, 1) := dk_29 (dk_at dksX1_heard_3 11 rfl rfl)
theorem dX1_heard_81 : decode cX1_heard 81 = .ok (.if_icmp .gt 82, 3) := dk_163 0 82 (dk_at dksX1_heard_3 12 rfl rfl)
theorem dX1_heard_84 : decode cX1_heard 84 = .ok (.iload 11, 2) := dk_21 11 (dk_at dksX1_heard_3 15 rfl rfl)
theorem dX1_heard_86 : decode cX1_heard 86 = .ok (.iload 4, 2) := dk_21 4 (dk_at dksX1_heard_3 17 rfl rfl)
theorem dX1_heard_88 : decode cX1_heard 88 = .ok (.if_icmp .gt 75, 3) := dk_163 0 75 (dk_at dksX1_heard_3 19 rfl rfl)
theorem dX1_heard_91 : decode cX1_heard 91 = .ok (.lload 9, 2) := dk_22 9 (dk_at dksX1_heard_3 22 rfl rfl)
theorem dX1_heard_93 : decode cX1_heard 93 = .ok (.lstore 12, 2) := dk_55 12 (dk_at dksX1_heard_4 0 rfl rfl)
theorem dX1_heard_95 : decode cX1_heard 95 = .ok (.iconst 0, 1) := dk_3 (dk_at dksX1_heard_4 2 rfl rfl)
theorem dX1_heard_96 : decode cX1_heard 96 = .ok (.istore 14, 2) := dk_54 14 (dk_at dksX1_heard_4 3 rfl rfl)
theorem dX1_heard_98 : decode cX1_heard 98 = .ok (.iload 14, 2) := dk_21 14 (dk_at dksX1_heard_4 5 rfl rfl)
theorem dX1_heard_100 : decode cX1_heard 100 = .ok (.iload 4, 2) := dk_21 4 (dk_at dksX1_heard_4 7 rfl rfl)
theorem dX1_heard_102 : decode cX1_heard 102 = .ok (.if_icmp .ge 31, 3) := dk_162 0 31 (dk_at dksX1_heard_4 9 rfl rfl)
theorem dX1_heard_105 : decode cX1_heard 105 = .ok (.lload 12, 2) := dk_22 12 (dk_at dksX1_heard_4 12 rfl rfl)
theorem dX1_heard_107 : decode cX1_heard 107 = .ok (.iload 14, 2) := dk_21 14 (dk_at dksX1_heard_4 14 rfl rfl)
theorem dX1_heard_109 : decode cX1_heard 109 = .ok (.iload 11, 2) := dk_21 11 (dk_at dksX1_heard_4 16 rfl rfl)
theorem dX1_heard_111 : decode cX1_heard 111 = .ok (.if_icmp .ge 11, 3) := dk_162 0 11 (dk_at dksX1_heard_4 18 rfl rfl)
theorem dX1_heard_114 : decode cX1_heard 114 = .ok (.bipush 10, 2) := dk_16 10 (dk_at dksX1_heard_4 21 rfl rfl)
theorem dX1_heard_116 : decode cX1_heard 116 = .ok (.iload_n 2, 1) := dk_28 (dk_at dksX1_heard_4 23 rfl rfl)
theorem dX1_heard_117 : decode cX1_heard 117 = .ok (.isub, 1) := dk_100 (dk_at dksX1_heard_5 0 rfl rfl)
theorem dX1_heard_118 : decode cX1_heard 118 = .ok (.i2l, 1) := dk_133 (dk_at dksX1_heard_5 1 rfl rfl)
theorem dX1_heard_119 : decode cX1_heard 119 = .ok (.goto 5, 3) := dk_167 0 5 (dk_at dksX1_heard_5 2 rfl rfl)
theorem dX1_heard_122 : decode cX1_heard 122 = .ok (.iload_n 2, 1) := dk_28 (dk_at dksX1_heard_5 5 rfl rfl)
theorem dX1_heard_123 : decode cX1_heard 123 = .ok (.i2l, 1) := dk_133 (dk_at dksX1_heard_5 6 rfl rfl)
theorem dX1_heard_124 : decode cX1_heard 124 = .ok (.lmul, 1) := dk_105 (dk_at dksX1_heard_5 7 rfl rfl)
theorem dX1_heard_125 : decode cX1_heard 125 = .ok (.lstore 12, 2) := dk_55 12 (dk_at dksX1_heard_5 8 rfl rfl)
theorem dX1_heard_127 : decode cX1_heard 127 = .ok (.iinc 14 1, 3) := dk_132 14 1 (dk_at dksX1_heard_5 10 rfl rfl)
theorem dX1_heard_130 : decode cX1_heard 130 = .ok (.goto (-32), 3) := dk_167 255 224 (dk_at dksX1_heard_5 13 rfl rfl)
theorem dX1_heard_133 : decode cX1_heard 133 = .ok (.lload 5, 2) := dk_22 5 (dk_at dksX1_heard_5 16 rfl rfl)
theorem dX1_heard_135 : decode cX1_heard 135 = .ok (.lload 12, 2) := dk_22 12 (dk_at dksX1_heard_5 18 rfl rfl)
theorem dX1_heard_137 : decode cX1_heard 137 = .ok (.ladd, 1) := dk_97 (dk_at dksX1_heard_5 20 rfl rfl)
theorem dX1_heard_138 : decode cX1_heard 138 = .ok (.lstore 5, 2) := dk_55 5 (dk_at dksX1_heard_5 21 rfl rfl)
theorem dX1_heard_140 : decode cX1_heard 140 = .ok (.lload 9, 2) := dk_22 9 (dk_at dksX1_heard_6 0 rfl rfl)
theorem dX1_heard_142 : decode cX1_heard 142 = .ok (.iload 4, 2) := dk_21 4 (dk_at dksX1_heard_6 2 rfl rfl)
theorem dX1_heard_144 : decode cX1_heard 144 = .ok (.iload 11, 2) := dk_21 11 (dk_at dksX1_heard_6 4 rfl rfl)
theorem dX1_heard_146 : decode cX1_heard 146 = .ok (.isub, 1) := dk_100 (dk_at dksX1_heard_6 6 rfl rfl)
theorem dX1_heard_147 : decode cX1_heard 147 = .ok (.i2l, 1) := dk_133 (dk_at dksX1_heard_6 7 rfl rfl)
theorem dX1_heard_148 : decode cX1_heard 148 = .ok (.lmul, 1) := dk_105 (dk_at dksX1_heard_6 8 rfl rfl)
theorem dX1_heard_149 : decode cX1_heard 149 = .ok (.iload 11, 2) := dk_21 11 (dk_at dksX1_heard_6 9 rfl rfl)
theorem dX1_heard_151 : decode cX1_heard 151 = .ok (.iconst 1, 1) := dk_4 (dk_at dksX1_heard_6 11 rfl rfl)
theorem dX1_heard_152 : decode cX1_heard 152 = .ok (.iadd, 1) := dk_96 (dk_at dksX1_heard_6 12 rfl rfl)
theorem dX1_heard_153 : decode cX1_heard 153 = .ok (.i2l, 1) := dk_133 (dk_at dksX1_heard_6 13 rfl rfl)
theorem dX1_heard_154 : decode cX1_heard 154 = .ok (.ldiv, 1) := dk_109 (dk_at dksX1_heard_6 14 rfl rfl)
theorem dX1_heard_155 : decode cX1_heard 155 = .ok (.lstore 9, 2) := dk_55 9 (dk_at dksX1_heard_6 15 rfl rfl)
theorem dX1_heard_157 : decode cX1_heard 157 = .ok (.iinc 11 1, 3) := dk_132 11 1 (dk_at dksX1_heard_6 17 rfl rfl)
theorem dX1_heard_160 : decode cX1_heard 160 = .ok (.goto (-82), 3) := dk_167 255 174 (dk_at dksX1_heard_6 20 rfl rfl)
theorem dX1_heard_163 : decode cX1_heard 163 = .ok (.lload 5, 2) := dk_22 5 (dk_at dksX1_heard_7 0 rfl rfl)
theorem dX1_heard_165 : decode cX1_heard 165 = .ok (.lload 7, 2) := dk_22 7 (dk_at dksX1_heard_7 2 rfl rfl)
theorem dX1_heard_167 : decode cX1_heard 167 = .ok (.invokestatic 137, 3) := dk_184 0 137 (dk_at dksX1_heard_7 4 rfl rfl)
theorem dX1_heard_170 : decode cX1_heard 170 = .ok (.lstore 11, 2) := dk_55 11 (dk_at dksX1_heard_7 7 rfl rfl)
theorem dX1_heard_172 : decode cX1_heard 172 = .ok (.aload_n 0, 1) := dk_42 (dk_at dksX1_heard_7 9 rfl rfl)
theorem dX1_heard_173 : decode cX1_heard 173 = .ok (.iconst 0, 1) := dk_3 (dk_at dksX1_heard_7 10 rfl rfl)
theorem dX1_heard_174 : decode cX1_heard 174 = .ok (.putfield 389, 3) := dk_181 1 133 (dk_at dksX1_heard_7 11 rfl rfl)
theorem dX1_heard_177 : decode cX1_heard 177 = .ok (.aload_n 0, 1) := dk_42 (dk_at dksX1_heard_7 14 rfl rfl)
theorem dX1_heard_178 : decode cX1_heard 178 = .ok (.lload 5, 2) := dk_22 5 (dk_at dksX1_heard_7 15 rfl rfl)
theorem dX1_heard_180 : decode cX1_heard 180 = .ok (.lload 11, 2) := dk_22 11 (dk_at dksX1_heard_7 17 rfl rfl)
theorem dX1_heard_182 : decode cX1_heard 182 = .ok (.ldiv, 1) := dk_109 (dk_at dksX1_heard_7 19 rfl rfl)
theorem dX1_heard_183 : decode cX1_heard 183 = .ok (.invokevirtual 392, 3) := dk_182 1 136 (dk_at dksX1_heard_7 20 rfl rfl)
theorem dX1_heard_186 : decode cX1_heard 186 = .ok (.aload_n 0, 1) := dk_42 (dk_at dksX1_heard_7 23 rfl rfl)
theorem dX1_heard_187 : decode cX1_heard 187 = .ok (.lload 7, 2) := dk_22 7 (dk_at dksX1_heard_8 0 rfl rfl)
theorem dX1_heard_189 : decode cX1_heard 189 = .ok (.lload 11, 2) := dk_22 11 (dk_at dksX1_heard_8 2 rfl rfl)
theorem dX1_heard_191 : decode cX1_heard 191 = .ok (.ldiv, 1) := dk_109 (dk_at dksX1_heard_8 4 rfl rfl)
theorem dX1_heard_192 : decode cX1_heard 192 = .ok (.invokevirtual 392, 3) := dk_182 1 136 (dk_at dksX1_heard_8 5 rfl rfl)
theorem dX1_heard_195 : decode cX1_heard 195 = .ok (.iconst 0, 1) := dk_3 (dk_at dksX1_heard_8 8 rfl rfl)
theorem dX1_heard_196 : decode cX1_heard 196 = .ok (.ireturn, 1) := dk_172 (dk_at dksX1_heard_8 9 rfl rfl)
def dkwX1_common_0 : List UInt8 := [32, 9, 148, 154, 0, 7, 30, 167, 0, 10, 32, 30, 32, 113, 184, 0, 137, 173]
abbrev dktX1_common_0 : List UInt8 := dkwX1_common_0 ++ []
theorem dksX1_common_0 : cX1_common.data.toList.drop 0 = dktX1_common_0 := by decide +kernel
theorem dX1_common_0 : decode cX1_common 0 = .ok (.lload_n 2, 1) := dk_32 (dk_at dksX1_common_0 0 rfl rfl)
theorem dX1_common_1 : decode cX1_common 1 = .ok (.lconst 0, 1) := dk_9 (dk_at dksX1_common_0 1 rfl rfl)
theorem dX1_common_2 : decode cX1_common 2 = .ok (.lcmp, 1) := dk_148 (dk_at dksX1_common_0 2 rfl rfl)
theorem dX1_common_3 : decode cX1_common 3 = .ok (.ifCond .ne 7, 3) := dk_154 0 7 (dk_at dksX1_common_0 3 rfl rfl)
theorem dX1_common_6 : decode cX1_common 6 = .ok (.lload_n 0, 1) := dk_30 (dk_at dksX1_common_0 6 rfl rfl)
theorem dX1_common_7 : decode cX1_common 7 = .ok (.goto 10, 3) := dk_167 0 10 (dk_at dksX1_common_0 7 rfl rfl)
theorem dX1_common_10 : decode cX1_common 10 = .ok (.lload_n 2, 1) := dk_32 (dk_at dksX1_common_0 10 rfl rfl)
theorem dX1_common_11 : decode cX1_common 11 = .ok (.lload_n 0, 1) := dk_30 (dk_at dksX1_common_0 11 rfl rfl)
theorem dX1_common_12 : decode cX1_common 12 = .ok (.lload_n 2, 1) := dk_32 (dk_at dksX1_common_0 12 rfl rfl)
theorem dX1_common_13 : decode cX1_common 13 = .ok (.lrem, 1) := dk_113 (dk_at dksX1_common_0 13 rfl rfl)
theorem dX1_common_14 : decode cX1_common 14 = .ok (.invokestatic 137, 3) := dk_184 0 137 (dk_at dksX1_common_0 14 rfl rfl)
theorem dX1_common_17 : decode cX1_common 17 = .ok (.lreturn, 1) := dk_173 (dk_at dksX1_common_0 17 rfl rfl)
def dkwX1_code_6 : List UInt8 := [28, 133, 182, 1, 136, 28, 184, 1, 225, 172]
abbrev dktX1_code_6 : List UInt8 := dkwX1_code_6 ++ []
def dkwX1_code_5 : List UInt8 := [182, 1, 233, 162, 0, 7, 29, 167, 0, 4, 28, 61, 132, 3, 1, 167, 255, 191, 42, 3, 181, 1, 133, 42]
abbrev dktX1_code_5 : List UInt8 := dkwX1_code_5 ++ dktX1_code_6
def dkwX1_code_4 : List UInt8 := [42, 29, 27, 182, 1, 230, 154, 0, 6, 167, 0, 27, 21, 4, 157, 0, 16, 42, 29, 182, 1, 233, 42, 28]
abbrev dktX1_code_4 : List UInt8 := dkwX1_code_4 ++ dktX1_code_5
def dkwX1_code_3 : List UInt8 := [42, 180, 0, 145, 120, 162, 0, 61, 29, 184, 1, 225, 28, 184, 1, 225, 100, 54, 4, 21, 4, 155, 0, 39]
abbrev dktX1_code_3 : List UInt8 := dkwX1_code_3 ++ dktX1_code_4
def dkwX1_code_2 : List UInt8 := [29, 3, 182, 1, 217, 79, 132, 3, 1, 167, 255, 227, 132, 2, 1, 167, 255, 209, 3, 61, 4, 62, 29, 4]
abbrev dktX1_code_2 : List UInt8 := dkwX1_code_2 ++ dktX1_code_3
def dkwX1_code_1 : List UInt8 := [28, 4, 96, 62, 29, 42, 180, 0, 145, 162, 0, 27, 42, 180, 0, 112, 16, 10, 28, 104, 29, 96, 42, 28]
abbrev dktX1_code_1 : List UInt8 := dkwX1_code_1 ++ dktX1_code_2
def dkwX1_code_0 : List UInt8 := [27, 133, 9, 20, 1, 5, 184, 0, 141, 154, 0, 5, 2, 172, 3, 61, 28, 42, 180, 0, 145, 162, 0, 45]
abbrev dktX1_code_0 : List UInt8 := dkwX1_code_0 ++ dktX1_code_1
theorem dksX1_code_0 : cX1_code.data.toList.drop 0 = dktX1_code_0 := by decide +kernel
theorem dksX1_code_1 : cX1_code.data.toList.drop 24 = dktX1_code_1 := dk_seg dksX1_code_0 24 rfl rfl
theorem dksX1_code_2 : cX1_code.data.toList.drop 48 = dktX1_code_2 := dk_seg dksX1_code_1 24 rfl rfl
theorem dksX1_code_3 : cX1_code.data.toList.drop 72 = dktX1_code_3 := dk_seg dksX1_code_2 24 rfl rfl
theorem dksX1_code_4 : cX1_code.data.toList.drop 96 = dktX1_code_4 := dk_seg dksX1_code_3 24 rfl rfl
theorem dksX1_code_5 : cX1_code.data.toList.drop 120 = dktX1_code_5 := dk_seg dksX1_code_4 24 rfl rfl
theorem dksX1_code_6 : cX1_code.data.toList.drop 144 = dktX1_code_6 := dk_seg dksX1_code_5 24 rfl rfl
theorem dX1_code_0 : decode cX1_code 0 = .ok (.iload_n 1, 1) := dk_27 (dk_at dksX1_code_0 0 rfl rfl)
theorem dX1_code_1 : decode cX1_code 1 = .ok (.i2l, 1) := dk_133 (dk_at dksX1_code_0 1 rfl rfl)
theorem dX1_code_2 : decode cX1_code 2 = .ok (.lconst 0, 1) := dk_9 (dk_at dksX1_code_0 2 rfl rfl)
theorem dX1_code_3 : decode cX1_code 3 = .ok (.ldc2_w 261, 3) := dk_20 1 5 (dk_at dksX1_code_0 3 rfl rfl)
theorem dX1_code_6 : decode cX1_code 6 = .ok (.invokestatic 141, 3) := dk_184 0 141 (dk_at dksX1_code_0 6 rfl rfl)
theorem dX1_code_9 : decode cX1_code 9 = .ok (.ifCond .ne 5, 3) := dk_154 0 5 (dk_at dksX1_code_0 9 rfl rfl)
theorem dX1_code_12 : decode cX1_code 12 = .ok (.iconst (-1), 1) := dk_2 (dk_at dksX1_code_0 12 rfl rfl)
theorem dX1_code_13 : decode cX1_code 13 = .ok (.ireturn, 1) := dk_172 (dk_at dksX1_code_0 13 rfl rfl)
theorem dX1_code_14 : decode cX1_code 14 = .ok (.iconst 0, 1) := dk_3 (dk_at dksX1_code_0 14 rfl rfl)
theorem dX1_code_15 : decode cX1_code 15 = .ok (.istore_n 2, 1) := dk_61 (dk_at dksX1_code_0 15 rfl rfl)
theorem dX1_code_16 : decode cX1_code 16 = .ok (.iload_n 2, 1) := dk_28 (dk_at dksX1_code_0 16 rfl rfl)
theorem dX1_code_17 : decode cX1_code 17 = .ok (.aload_n 0, 1) := dk_42 (dk_at dksX1_code_0 17 rfl rfl)
theorem dX1_code_18 : decode cX1_code 18 = .ok (.getfield 145, 3) := dk_180 0 145 (dk_at dksX1_code_0 18 rfl rfl)
theorem dX1_code_21 : decode cX1_code 21 = .ok (.if_icmp .ge 45, 3) := dk_162 0 45 (dk_at dksX1_code_0 21 rfl rfl)
theorem dX1_code_24 : decode cX1_code 24 = .ok (.iload_n 2, 1) := dk_28 (dk_at dksX1_code_1 0 rfl rfl)
theorem dX1_code_25 : decode cX1_code 25 = .ok (.iconst 1, 1) := dk_4 (dk_at dksX1_code_1 1 rfl rfl)
theorem dX1_code_26 : decode cX1_code 26 = .ok (.iadd, 1) := dk_96 (dk_at dksX1_code_1 2 rfl rfl)
theorem dX1_code_27 : decode cX1_code 27 = .ok (.istore_n 3, 1) := dk_62 (dk_at dksX1_code_1 3 rfl rfl)
theorem dX1_code_28 : decode cX1_code 28 = .ok (.iload_n 3, 1) := dk_29 (dk_at dksX1_code_1 4 rfl rfl)
theorem dX1_code_29 : decode cX1_code 29 = .ok (.aload_n 0, 1) := dk_42 (dk_at dksX1_code_1 5 rfl rfl)
theorem dX1_code_30 : decode cX1_code 30 = .ok (.getfield 145, 3) := dk_180 0 145 (dk_at dksX1_code_1 6 rfl rfl)
theorem dX1_code_33 : decode cX1_code 33 = .ok (.if_icmp .ge 27, 3) := dk_162 0 27 (dk_at dksX1_code_1 9 rfl rfl)
theorem dX1_code_36 : decode cX1_code 36 = .ok (.aload_n 0, 1) := dk_42 (dk_at dksX1_code_1 12 rfl rfl)
theorem dX1_code_37 : decode cX1_code 37 = .ok (.getfield 112, 3) := dk_180 0 112 (dk_at dksX1_code_1 13 rfl rfl)
theorem dX1_code_40 : decode cX1_code 40 = .ok (.bipush 10, 2) := dk_16 10 (dk_at dksX1_code_1 16 rfl rfl)
theorem dX1_code_42 : decode cX1_code 42 = .ok (.iload_n 2, 1) := dk_28 (dk_at dksX1_code_1 18 rfl rfl)
theorem dX1_code_43 : decode cX1_code 43 = .ok (.imul, 1) := dk_104 (dk_at dksX1_code_1 19 rfl rfl)
theorem dX1_code_44 : decode cX1_code 44 = .ok (.iload_n 3, 1) := dk_29 (dk_at dksX1_code_1 20 rfl rfl)
theorem dX1_code_45 : decode cX1_code 45 = .ok (.iadd, 1) := dk_96 (dk_at dksX1_code_1 21 rfl rfl)
theorem dX1_code_46 : decode cX1_code 46 = .ok (.aload_n 0, 1) := dk_42 (dk_at dksX1_code_1 22 rfl rfl)
theorem dX1_code_47 : decode cX1_code 47 = .ok (.iload_n 2, 1) := dk_28 (dk_at dksX1_code_1 23 rfl rfl)
theorem dX1_code_48 : decode cX1_code 48 = .ok (.iload_n 3, 1) := dk_29 (dk_at dksX1_code_2 0 rfl rfl)
theorem dX1_code_49 : decode cX1_code 49 = .ok (.iconst 0, 1) := dk_3 (dk_at dksX1_code_2 1 rfl rfl)
theorem dX1_code_50 : decode cX1_code 50 = .ok (.invokevirtual 473, 3) := dk_182 1 217 (dk_at dksX1_code_2 2 rfl rfl)
theorem dX1_code_53 : decode cX1_code 53 = .ok (.iastore, 1) := dk_79 (dk_at dksX1_code_2 5 rfl rfl)
theorem dX1_code_54 : decode cX1_code 54 = .ok (.iinc 3 1, 3) := dk_132 3 1 (dk_at dksX1_code_2 6 rfl rfl)
theorem dX1_code_57 : decode cX1_code 57 = .ok (.goto (-29), 3) := dk_167 255 227 (dk_at dksX1_code_2 9 rfl rfl)
theorem dX1_code_60 : decode cX1_code 60 = .ok (.iinc 2 1, 3) := dk_132 2 1 (dk_at dksX1_code_2 12 rfl rfl)
theorem dX1_code_63 : decode cX1_code 63 = .ok (.goto (-47), 3) := dk_167 255 209 (dk_at dksX1_code_2 15 rfl rfl)
theorem dX1_code_66 : decode cX1_code 66 = .ok (.iconst 0, 1) := dk_3 (dk_at dksX1_code_2 18 rfl rfl)
theorem dX1_code_67 : decode cX1_code 67 = .ok (.istore_n 2, 1) := dk_61 (dk_at dksX1_code_2 19 rfl rfl)
theorem dX1_code_68 : decode cX1_code 68 = .ok (.iconst 1, 1) := dk_4 (dk_at dksX1_code_2 20 rfl rfl)
theorem dX1_code_69 : decode cX1_code 69 = .ok (.istore_n 3, 1) := dk_62 (dk_at dksX1_code_2 21 rfl rfl)
theorem dX1_code_70 : decode cX1_code 70 = .ok (.iload_n 3, 1) := dk_29 (dk_at dksX1_code_2 22 rfl rfl)
theorem dX1_code_71 : decode cX1_code 71 = .ok (.iconst 1, 1) := dk_4 (dk_at dksX1_code_2 23 rfl rfl)
theorem dX1_code_72 : decode cX1_code 72 = .ok (.aload_n 0, 1) := dk_42 (dk_at dksX1_code_3 0 rfl rfl)
theorem dX1_code_73 : decode cX1_code 73 = .ok (.getfield 145, 3) := dk_180 0 145 (dk_at dksX1_code_3 1 rfl rfl)
theorem dX1_code_76 : decode cX1_code 76 = .ok (.ishl, 1) := dk_120 (dk_at dksX1_code_3 4 rfl rfl)
theorem dX1_code_77 : decode cX1_code 77 = .ok (.if_icmp .ge 61, 3) := dk_162 0 61 (dk_at dksX1_code_3 5 rfl rfl)
theorem dX1_code_80 : decode cX1_code 80 = .ok (.iload_n 3, 1) := dk_29 (dk_at dksX1_code_3 8 rfl rfl)
theorem dX1_code_81 : decode cX1_code 81 = .ok (.invokestatic 481, 3) := dk_184 1 225 (dk_at dksX1_code_3 9 rfl rfl)
theorem dX1_code_84 : decode cX1_code 84 = .ok (.iload_n 2, 1) := dk_28 (dk_at dksX1_code_3 12 rfl rfl)
theorem dX1_code_85 : decode cX1_code 85 = .ok (.invokestatic 481, 3) := dk_184 1 225 (dk_at dksX1_code_3 13 rfl rfl)
theorem dX1_code_88 : decode cX1_code 88 = .ok (.isub, 1) := dk_100 (dk_at dksX1_code_3 16 rfl rfl)
theorem dX1_code_89 : decode cX1_code 89 = .ok (.istore 4, 2) := dk_54 4 (dk_at dksX1_code_3 17 rfl rfl)
theorem dX1_code_91 : decode cX1_code 91 = .ok (.iload 4, 2) := dk_21 4 (dk_at dksX1_code_3 19 rfl rfl)
theorem dX1_code_93 : decode cX1_code 93 = .ok (.ifCond .lt 39, 3) := dk_155 0 39 (dk_at dksX1_code_3 21 rfl rfl)
theorem dX1_code_96 : decode cX1_code 96 = .ok (.aload_n 0, 1) := dk_42 (dk_at dksX1_code_4 0 rfl rfl)
theorem dX1_code_97 : decode cX1_code 97 = .ok (.iload_n 3, 1) := dk_29 (dk_at dksX1_code_4 1 rfl rfl)
theorem dX1_code_98 : decode cX1_code 98 = .ok (.iload_n 1, 1) := dk_27 (dk_at dksX1_code_4 2 rfl rfl)
theorem dX1_code_99 : decode cX1_code 99 = .ok (.invokevirtual 486, 3) := dk_182 1 230 (dk_at dksX1_code_4 3 rfl rfl)
theorem dX1_code_102 : decode cX1_code 102 = .ok (.ifCond .ne 6, 3) := dk_154 0 6 (dk_at dksX1_code_4 6 rfl rfl)
theorem dX1_code_105 : decode cX1_code 105 = .ok (.goto 27, 3) := dk_167 0 27 (dk_at dksX1_code_4 9 rfl rfl)
theorem dX1_code_108 : decode cX1_code 108 = .ok (.iload 4, 2) := dk_21 4 (dk_at dksX1_code_4 12 rfl rfl)
theorem dX1_code_110 : decode cX1_code 110 = .ok (.ifCond .gt 16, 3) := dk_157 0 16 (dk_at dksX1_code_4 14 rfl rfl)
theorem dX1_code_113 : decode cX1_code 113 = .ok (.aload_n 0, 1) := dk_42 (dk_at dksX1_code_4 17 rfl rfl)
theorem dX1_code_114 : decode cX1_code 114 = .ok (.iload_n 3, 1) := dk_29 (dk_at dksX1_code_4 18 rfl rfl)
theorem dX1_code_115 : decode cX1_code 115 = .ok (.invokevirtual 489, 3) := dk_182 1 233 (dk_at dksX1_code_4 19 rfl rfl)
theorem dX1_code_118 : decode cX1_code 118 = .ok (.aload_n 0, 1) := dk_42 (dk_at dksX1_code_4 22 rfl rfl)
theorem dX1_code_119 : decode cX1_code 119 = .ok (.iload_n 2, 1) := dk_28 (dk_at dksX1_code_4 23 rfl rfl)
theorem dX1_code_120 : decode cX1_code 120 = .ok (.invokevirtual 489, 3) := dk_182 1 233 (dk_at dksX1_code_5 0 rfl rfl)
theorem dX1_code_123 : decode cX1_code 123 = .ok (.if_icmp .ge 7, 3) := dk_162 0 7 (dk_at dksX1_code_5 3 rfl rfl)
theorem dX1_code_126 : decode cX1_code 126 = .ok (.iload_n 3, 1) := dk_29 (dk_at dksX1_code_5 6 rfl rfl)
theorem dX1_code_127 : decode cX1_code 127 = .ok (.goto 4, 3) := dk_167 0 4 (dk_at dksX1_code_5 7 rfl rfl)
theorem dX1_code_130 : decode cX1_code 130 = .ok (.iload_n 2, 1) := dk_28 (dk_at dksX1_code_5 10 rfl rfl)
theorem dX1_code_131 : decode cX1_code 131 = .ok (.istore_n 2, 1) := dk_61 (dk_at dksX1_code_5 11 rfl rfl)
theorem dX1_code_132 : decode cX1_code 132 = .ok (.iinc 3 1, 3) := dk_132 3 1 (dk_at dksX1_code_5 12 rfl rfl)
theorem dX1_code_135 : decode cX1_code 135 = .ok (.goto (-65), 3) := dk_167 255 191 (dk_at dksX1_code_5 15 rfl rfl)
theorem dX1_code_138 : decode cX1_code 138 = .ok (.aload_n 0, 1) := dk_42 (dk_at dksX1_code_5 18 rfl rfl)
theorem dX1_code_139 : decode cX1_code 139 = .ok (.iconst 0, 1) := dk_3 (dk_at dksX1_code_5 19 rfl rfl)
theorem dX1_code_140 : decode cX1_code 140 = .ok (.putfield 389, 3) := dk_181 1 133 (dk_at dksX1_code_5 20 rfl rfl)
theorem dX1_code_143 : decode cX1_code 143 = .ok (.aload_n 0, 1) := dk_42 (dk_at dksX1_code_5 23 rfl rfl)
theorem dX1_code_144 : decode cX1_code 144 = .ok (.iload_n 2, 1) := dk_28 (dk_at dksX1_code_6 0 rfl rfl)
theorem dX1_code_145 : decode cX1_code 145 = .ok (.i2l, 1) := dk_133 (dk_at dksX1_code_6 1 rfl rfl)
theorem dX1_code_146 : decode cX1_code 146 = .ok (.invokevirtual 392, 3) := dk_182 1 136 (dk_at dksX1_code_6 2 rfl rfl)
theorem dX1_code_149 : decode cX1_code 149 = .ok (.iload_n 2, 1) := dk_28 (dk_at dksX1_code_6 5 rfl rfl)
theorem dX1_code_150 : decode cX1_code 150 = .ok (.invokestatic 481, 3) := dk_184 1 225 (dk_at dksX1_code_6 6 rfl rfl)
theorem dX1_code_153 : decode cX1_code 153 = .ok (.ireturn, 1) := dk_172 (dk_at dksX1_code_6 9 rfl rfl)
def dkwX1_areApart_3 : List UInt8 := [167, 0, 4, 3, 62, 132, 5, 1, 167, 255, 199, 132, 4, 1, 167, 255, 178, 29, 172]
abbrev dktX1_areApart_3 : List UInt8 := dkwX1_areApart_3 ++ []
def dkwX1_areApart_2 : List UInt8 := [184, 1, 87, 153, 0, 20, 42, 180, 0, 112, 16, 10, 21, 4, 104, 21, 5, 96, 46, 28, 161, 0, 7, 4]
abbrev dktX1_areApart_2 : List UInt8 := dkwX1_areApart_2 ++ dktX1_areApart_3
def dkwX1_areApart_1 : List UInt8 := [180, 0, 145, 162, 0, 54, 29, 153, 0, 42, 27, 21, 4, 184, 1, 87, 153, 0, 29, 27, 21, 5]
abbrev dktX1_areApart_1 : List UInt8 := dkwX1_areApart_1 ++ dktX1_areApart_2
def dkwX1_areApart_0 : List UInt8 := [4, 62, 3, 54, 4, 21, 4, 42, 180, 0, 145, 162, 0, 75, 21, 4, 4, 96, 54, 5, 21, 5, 42]
abbrev dktX1_areApart_0 : List UInt8 := dkwX1_areApart_0 ++ dktX1_areApart_1
theorem dksX1_areApart_0 : cX1_areApart.data.toList.drop 0 = dktX1_areApart_0 := by decide +kernel
theorem dksX1_areApart_1 : cX1_areApart.data.toList.drop 23 = dktX1_areApart_1 := dk_seg dksX1_areApart_0 23 rfl rfl
theorem dksX1_areApart_2 : cX1_areApart.data.toList.drop 45 = dktX1_areApart_2 := dk_seg dksX1_areApart_1 22 rfl rfl
theorem dksX1_areApart_3 : cX1_areApart.data.toList.drop 69 = dktX1_areApart_3 := dk_seg dksX1_areApart_2 24 rfl rfl
theorem dX1_areApart_0 : decode cX1_areApart 0 = .ok (.iconst 1, 1) := dk_4 (dk_at dksX1_areApart_0 0 rfl rfl)
theorem dX1_areApart_1 : decode cX1_areApart 1 = .ok (.istore_n 3, 1) := dk_62 (dk_at dksX1_areApart_0 1 rfl rfl)
theorem dX1_areApart_2 : decode cX1_areApart 2 = .ok (.iconst 0, 1) := dk_3 (dk_at dksX1_areApart_0 2 rfl rfl)
theorem dX1_areApart_3 : decode cX1_areApart 3 = .ok (.istore 4, 2) := dk_54 4 (dk_at dksX1_areApart_0 3 rfl rfl)
theorem dX1_areApart_5 : decode cX1_areApart 5 = .ok (.iload 4, 2) := dk_21 4 (dk_at dksX1_areApart_0 5 rfl rfl)
theorem dX1_areApart_7 : decode cX1_areApart 7 = .ok (.aload_n 0, 1) := dk_42 (dk_at dksX1_areApart_0 7 rfl rfl)
theorem dX1_areApart_8 : decode cX1_areApart 8 = .ok (.getfield 145, 3) := dk_180 0 145 (dk_at dksX1_areApart_0 8 rfl rfl)
theorem dX1_areApart_11 : decode cX1_areApart 11 = .ok (.if_icmp .ge 75, 3) := dk_162 0 75 (dk_at dksX1_areApart_0 11 rfl rfl)
theorem dX1_areApart_14 : decode cX1_areApart 14 = .ok (.iload 4, 2) := dk_21 4 (dk_at dksX1_areApart_0 14 rfl rfl)
theorem dX1_areApart_16 : decode cX1_areApart 16 = .ok (.iconst 1, 1) := dk_4 (dk_at dksX1_areApart_0 16 rfl rfl)
theorem dX1_areApart_17 : decode cX1_areApart 17 = .ok (.iadd, 1) := dk_96 (dk_at dksX1_areApart_0 17 rfl rfl)
theorem dX1_areApart_18 : decode cX1_areApart 18 = .ok (.istore 5, 2) := dk_54 5 (dk_at dksX1_areApart_0 18 rfl rfl)
theorem dX1_areApart_20 : decode cX1_areApart 20 = .ok (.iload 5, 2) := dk_21 5 (dk_at dksX1_areApart_0 20 rfl rfl)
theorem dX1_areApart_22 : decode cX1_areApart 22 = .ok (.aload_n 0, 1) := dk_42 (dk_at dksX1_areApart_0 22 rfl rfl)
theorem dX1_areApart_23 : decode cX1_areApart 23 = .ok (.getfield 145, 3) := dk_180 0 145 (dk_at dksX1_areApart_1 0 rfl rfl)
theorem dX1_areApart_26 : decode cX1_areApart 26 = .ok (.if_icmp .ge 54, 3) := dk_162 0 54 (dk_at dksX1_areApart_1 3 rfl rfl)
theorem dX1_areApart_29 : decode cX1_areApart 29 = .ok (.iload_n 3, 1) := dk_29 (dk_at dksX1_areApart_1 6 rfl rfl)
theorem dX1_areApart_30 : decode cX1_areApart 30 = .ok (.ifCond .eq 42, 3) := dk_153 0 42 (dk_at dksX1_areApart_1 7 rfl rfl)
theorem dX1_areApart_33 : decode cX1_areApart 33 = .ok (.iload_n 1, 1) := dk_27 (dk_at dksX1_areApart_1 10 rfl rfl)
theorem dX1_areApart_34 : decode cX1_areApart 34 = .ok (.iload 4, 2) := dk_21 4 (dk_at dksX1_areApart_1 11 rfl rfl)
theorem dX1_areApart_36 : decode cX1_areApart 36 = .ok (.invokestatic 343, 3) := dk_184 1 87 (dk_at dksX1_areApart_1 13 rfl rfl)
theorem dX1_areApart_39 : decode cX1_areApart 39 = .ok (.ifCond .eq 29, 3) := dk_153 0 29 (dk_at dksX1_areApart_1 16 rfl rfl)
theorem dX1_areApart_42 : decode cX1_areApart 42 = .ok (.iload_n 1, 1) := dk_27 (dk_at dksX1_areApart_1 19 rfl rfl)
theorem dX1_areApart_43 : decode cX1_areApart 43 = .ok (.iload 5, 2) := dk_21 5 (dk_at dksX1_areApart_1 20 rfl rfl)
theorem dX1_areApart_45 : decode cX1_areApart 45 = .ok (.invokestatic 343, 3) := dk_184 1 87 (dk_at dksX1_areApart_2 0 rfl rfl)
theorem dX1_areApart_48 : decode cX1_areApart 48 = .ok (.ifCond .eq 20, 3) := dk_153 0 20 (dk_at dksX1_areApart_2 3 rfl rfl)
theorem dX1_areApart_51 : decode cX1_areApart 51 = .ok (.aload_n 0, 1) := dk_42 (dk_at dksX1_areApart_2 6 rfl rfl)
theorem dX1_areApart_52 : decode cX1_areApart 52 = .ok (.getfield 112, 3) := dk_180 0 112 (dk_at dksX1_areApart_2 7 rfl rfl)
theorem dX1_areApart_55 : decode cX1_areApart 55 = .ok (.bipush 10, 2) := dk_16 10 (dk_at dksX1_areApart_2 10 rfl rfl)
theorem dX1_areApart_57 : decode cX1_areApart 57 = .ok (.iload 4, 2) := dk_21 4 (dk_at dksX1_areApart_2 12 rfl rfl)
theorem dX1_areApart_59 : decode cX1_areApart 59 = .ok (.imul, 1) := dk_104 (dk_at dksX1_areApart_2 14 rfl rfl)
theorem dX1_areApart_60 : decode cX1_areApart 60 = .ok (.iload 5, 2) := dk_21 5 (dk_at dksX1_areApart_2 15 rfl rfl)
theorem dX1_areApart_62 : decode cX1_areApart 62 = .ok (.iadd, 1) := dk_96 (dk_at dksX1_areApart_2 17 rfl rfl)
theorem dX1_areApart_63 : decode cX1_areApart 63 = .ok (.iaload, 1) := dk_46 (dk_at dksX1_areApart_2 18 rfl rfl)
theorem dX1_areApart_64 : decode cX1_areApart 64 = .ok (.iload_n 2, 1) := dk_28 (dk_at dksX1_areApart_2 19 rfl rfl)
theorem dX1_areApart_65 : decode cX1_areApart 65 = .ok (.if_icmp .lt 7, 3) := dk_161 0 7 (dk_at dksX1_areApart_2 20 rfl rfl)
theorem dX1_areApart_68 : decode cX1_areApart 68 = .ok (.iconst 1, 1) := dk_4 (dk_at dksX1_areApart_2 23 rfl rfl)
theorem dX1_areApart_69 : decode cX1_areApart 69 = .ok (.goto 4, 3) := dk_167 0 4 (dk_at dksX1_areApart_3 0 rfl rfl)
theorem dX1_areApart_72 : decode cX1_areApart 72 = .ok (.iconst 0, 1) := dk_3 (dk_at dksX1_areApart_3 3 rfl rfl)
theorem dX1_areApart_73 : decode cX1_areApart 73 = .ok (.istore_n 3, 1) := dk_62 (dk_at dksX1_areApart_3 4 rfl rfl)
theorem dX1_areApart_74 : decode cX1_areApart 74 = .ok (.iinc 5 1, 3) := dk_132 5 1 (dk_at dksX1_areApart_3 5 rfl rfl)
theorem dX1_areApart_77 : decode cX1_areApart 77 = .ok (.goto (-57), 3) := dk_167 255 199 (dk_at dksX1_areApart_3 8 rfl rfl)
theorem dX1_areApart_80 : decode cX1_areApart 80 = .ok (.iinc 4 1, 3) := dk_132 4 1 (dk_at dksX1_areApart_3 11 rfl rfl)
theorem dX1_areApart_83 : decode cX1_areApart 83 = .ok (.goto (-78), 3) := dk_167 255 178 (dk_at dksX1_areApart_3 14 rfl rfl)
theorem dX1_areApart_86 : decode cX1_areApart 86 = .ok (.iload_n 3, 1) := dk_29 (dk_at dksX1_areApart_3 17 rfl rfl)
theorem dX1_areApart_87 : decode cX1_areApart 87 = .ok (.ireturn, 1) := dk_172 (dk_at dksX1_areApart_3 18 rfl rfl)
def dkwX1_tollOfAll_1 : List UInt8 := [182, 1, 199, 167, 0, 4, 3, 96, 61, 132, 3, 1, 167, 255, 224, 28, 172]
abbrev dktX1_tollOfAll_1 : List UInt8 := dkwX1_tollOfAll_1 ++ []
def dkwX1_tollOfAll_0 : List UInt8 := [3, 61, 3, 62, 29, 42, 180, 0, 145, 162, 0, 30, 28, 27, 29, 184, 1, 87, 153, 0, 12, 42, 29, 3]
abbrev dktX1_tollOfAll_0 : List UInt8 := dkwX1_tollOfAll_0 ++ dktX1_tollOfAll_1
theorem dksX1_tollOfAll_0 : cX1_tollOfAll.data.toList.drop 0 = dktX1_tollOfAll_0 := by decide +kernel
theorem dksX1_tollOfAll_1 : cX1_tollOfAll.data.toList.drop 24 = dktX1_tollOfAll_1 := dk_seg dksX1_tollOfAll_0 24 rfl rfl
theorem dX1_tollOfAll_0 : decode cX1_tollOfAll 0 = .ok (.iconst 0, 1) := dk_3 (dk_at dksX1_tollOfAll_0 0 rfl rfl)
theorem dX1_tollOfAll_1 : decode cX1_tollOfAll 1 = .ok (.istore_n 2, 1) := dk_61 (dk_at dksX1_tollOfAll_0 1 rfl rfl)
theorem dX1_tollOfAll_2 : decode cX1_tollOfAll 2 = .ok (.iconst 0, 1) := dk_3 (dk_at dksX1_tollOfAll_0 2 rfl rfl)
theorem dX1_tollOfAll_3 : decode cX1_tollOfAll 3 = .ok (.istore_n 3, 1) := dk_62 (dk_at dksX1_tollOfAll_0 3 rfl rfl)
theorem dX1_tollOfAll_4 : decode cX1_tollOfAll 4 = .ok (.iload_n 3, 1) := dk_29 (dk_at dksX1_tollOfAll_0 4 rfl rfl)
theorem dX1_tollOfAll_5 : decode cX1_tollOfAll 5 = .ok (.aload_n 0, 1) := dk_42 (dk_at dksX1_tollOfAll_0 5 rfl rfl)
theorem dX1_tollOfAll_6 : decode cX1_tollOfAll 6 = .ok (.getfield 145, 3) := dk_180 0 145 (dk_at dksX1_tollOfAll_0 6 rfl rfl)
theorem dX1_tollOfAll_9 : decode cX1_tollOfAll 9 = .ok (.if_icmp .ge 30, 3) := dk_162 0 30 (dk_at dksX1_tollOfAll_0 9 rfl rfl)
theorem dX1_tollOfAll_12 : decode cX1_tollOfAll 12 = .ok (.iload_n 2, 1) := dk_28 (dk_at dksX1_tollOfAll_0 12 rfl rfl)
theorem dX1_tollOfAll_13 : decode cX1_tollOfAll 13 = .ok (.iload_n 1, 1) := dk_27 (dk_at dksX1_tollOfAll_0 13 rfl rfl)
theorem dX1_tollOfAll_14 : decode cX1_tollOfAll 14 = .ok (.iload_n 3, 1) := dk_29 (dk_at dksX1_tollOfAll_0 14 rfl rfl)
theorem dX1_tollOfAll_15 : decode cX1_tollOfAll 15 = .ok (.invokestatic 343, 3) := dk_184 1 87 (dk_at dksX1_tollOfAll_0 15 rfl rfl)
theorem dX1_tollOfAll_18 : decode cX1_tollOfAll 18 = .ok (.ifCond .eq 12, 3) := dk_153 0 12 (dk_at dksX1_tollOfAll_0 18 rfl rfl)
theorem dX1_tollOfAll_21 : decode cX1_tollOfAll 21 = .ok (.aload_n 0, 1) := dk_42 (dk_at dksX1_tollOfAll_0 21 rfl rfl)
theorem dX1_tollOfAll_22 : decode cX1_tollOfAll 22 = .ok (.iload_n 3, 1) := dk_29 (dk_at dksX1_tollOfAll_0 22 rfl rfl)
theorem dX1_tollOfAll_23 : decode cX1_tollOfAll 23 = .ok (.iconst 0, 1) := dk_3 (dk_at dksX1_tollOfAll_0 23 rfl rfl)
theorem dX1_tollOfAll_24 : decode cX1_tollOfAll 24 = .ok (.invokevirtual 455, 3) := dk_182 1 199 (dk_at dksX1_tollOfAll_1 0 rfl rfl)
theorem dX1_tollOfAll_27 : decode cX1_tollOfAll 27 = .ok (.goto 4, 3) := dk_167 0 4 (dk_at dksX1_tollOfAll_1 3 rfl rfl)
theorem dX1_tollOfAll_30 : decode cX1_tollOfAll 30 = .ok (.iconst 0, 1) := dk_3 (dk_at dksX1_tollOfAll_1 6 rfl rfl)
theorem dX1_tollOfAll_31 : decode cX1_tollOfAll 31 = .ok (.iadd, 1) := dk_96 (dk_at dksX1_tollOfAll_1 7 rfl rfl)
theorem dX1_tollOfAll_32 : decode cX1_tollOfAll 32 = .ok (.istore_n 2, 1) := dk_61 (dk_at dksX1_tollOfAll_1 8 rfl rfl)
theorem dX1_tollOfAll_33 : decode cX1_tollOfAll 33 = .ok (.iinc 3 1, 3) := dk_132 3 1 (dk_at dksX1_tollOfAll_1 9 rfl rfl)
theorem dX1_tollOfAll_36 : decode cX1_tollOfAll 36 = .ok (.goto (-32), 3) := dk_167 255 224 (dk_at dksX1_tollOfAll_1 12 rfl rfl)
theorem dX1_tollOfAll_39 : decode cX1_tollOfAll 39 = .ok (.iload_n 2, 1) := dk_28 (dk_at dksX1_tollOfAll_1 15 rfl rfl)
theorem dX1_tollOfAll_40 : decode cX1_tollOfAll 40 = .ok (.ireturn, 1) := dk_172 (dk_at dksX1_tollOfAll_1 16 rfl rfl)
def dkwX1_trip_4 : List UInt8 := [42, 27, 182, 1, 109, 184, 1, 225, 133, 182, 1, 136, 21, 4, 172]
abbrev dktX1_trip_4 : List UInt8 := dkwX1_trip_4 ++ []
def dkwX1_trip_3 : List UInt8 := [21, 4, 159, 0, 9, 132, 5, 1, 167, 255, 241, 42, 3, 181, 1, 133, 42, 21, 5, 133, 182, 1, 136, 42]
abbrev dktX1_trip_3 : List UInt8 := dkwX1_trip_3 ++ dktX1_trip_4
def dkwX1_trip_2 : List UInt8 := [54, 4, 21, 4, 19, 1, 198, 161, 0, 6, 16, 254, 172, 3, 54, 5, 42, 21, 5, 29, 182, 1, 254]
abbrev dktX1_trip_2 : List UInt8 := dkwX1_trip_2 ++ dktX1_trip_3
def dkwX1_trip_1 : List UInt8 := [28, 182, 1, 251, 42, 180, 0, 12, 180, 1, 84, 42, 27, 182, 1, 109, 128, 62, 42, 28, 29, 182, 1, 254]
abbrev dktX1_trip_1 : List UInt8 := dkwX1_trip_1 ++ dktX1_trip_2
def dkwX1_trip_0 : List UInt8 := [42, 27, 182, 1, 106, 153, 0, 15, 28, 133, 9, 20, 1, 249, 184, 0, 141, 154, 0, 5, 2, 172, 42, 27]
abbrev dktX1_trip_0 : List UInt8 := dkwX1_trip_0 ++ dktX1_trip_1
theorem dksX1_trip_0 : cX1_trip.data.toList.drop 0 = dktX1_trip_0 := by decide +kernel
theorem dksX1_trip_1 : cX1_trip.data.toList.drop 24 = dktX1_trip_1 := dk_seg dksX1_trip_0 24 rfl rfl
theorem dksX1_trip_2 : cX1_trip.data.toList.drop 48 = dktX1_trip_2 := dk_seg dksX1_trip_1 24 rfl rfl
theorem dksX1_trip_3 : cX1_trip.data.toList.drop 71 = dktX1_trip_3 := dk_seg dksX1_trip_2 23 rfl rfl
theorem dksX1_trip_4 : cX1_trip.data.toList.drop 95 = dktX1_trip_4 := dk_seg dksX1_trip_3 24 rfl rfl
theorem dX1_trip_0 : decode cX1_trip 0 = .ok (.aload_n 0, 1) := dk_42 (dk_at dksX1_trip_0 0 rfl rfl)
theorem dX1_trip_1 : decode cX1_trip 1 = .ok (.iload_n 1, 1) := dk_27 (dk_at dksX1_trip_0 1 rfl rfl)
theorem dX1_trip_2 : decode cX1_trip 2 = .ok (.invokevirtual 362, 3) := dk_182 1 106 (dk_at dksX1_trip_0 2 rfl rfl)
theorem dX1_trip_5 : decode cX1_trip 5 = .ok (.ifCond .eq 15, 3) := dk_153 0 15 (dk_at dksX1_trip_0 5 rfl rfl)
theorem dX1_trip_8 : decode cX1_trip 8 = .ok (.iload_n 2, 1) := dk_28 (dk_at dksX1_trip_0 8 rfl rfl)
theorem dX1_trip_9 : decode cX1_trip 9 = .ok (.i2l, 1) := dk_133 (dk_at dksX1_trip_0 9 rfl rfl)
theorem dX1_trip_10 : decode cX1_trip 10 = .ok (.lconst 0, 1) := dk_9 (dk_at dksX1_trip_0 10 rfl rfl)
theorem dX1_trip_11 : decode cX1_trip 11 = .ok (.ldc2_w 505, 3) := dk_20 1 249 (dk_at dksX1_trip_0 11 rfl rfl)
theorem dX1_trip_14 : decode cX1_trip 14 = .ok (.invokestatic 141, 3) := dk_184 0 141 (dk_at dksX1_trip_0 14 rfl rfl)
theorem dX1_trip_17 : decode cX1_trip 17 = .ok (.ifCond .ne 5, 3) := dk_154 0 5 (dk_at dksX1_trip_0 17 rfl rfl)
theorem dX1_trip_20 : decode cX1_trip 20 = .ok (.iconst (-1), 1) := dk_2 (dk_at dksX1_trip_0 20 rfl rfl)
theorem dX1_trip_21 : decode cX1_trip 21 = .ok (.ireturn, 1) := dk_172 (dk_at dksX1_trip_0 21 rfl rfl)
theorem dX1_trip_22 : decode cX1_trip 22 = .ok (.aload_n 0, 1) := dk_42 (dk_at dksX1_trip_0 22 rfl rfl)
theorem dX1_trip_23 : decode cX1_trip 23 = .ok (.iload_n 1, 1) := dk_27 (dk_at dksX1_trip_0 23 rfl rfl)
theorem dX1_trip_24 : decode cX1_trip 24 = .ok (.iload_n 2, 1) := dk_28 (dk_at dksX1_trip_1 0 rfl rfl)
theorem dX1_trip_25 : decode cX1_trip 25 = .ok (.invokevirtual 507, 3) := dk_182 1 251 (dk_at dksX1_trip_1 1 rfl rfl)
theorem dX1_trip_28 : decode cX1_trip 28 = .ok (.aload_n 0, 1) := dk_42 (dk_at dksX1_trip_1 4 rfl rfl)
theorem dX1_trip_29 : decode cX1_trip 29 = .ok (.getfield 12, 3) := dk_180 0 12 (dk_at dksX1_trip_1 5 rfl rfl)
theorem dX1_trip_32 : decode cX1_trip 32 = .ok (.getfield 340, 3) := dk_180 1 84 (dk_at dksX1_trip_1 8 rfl rfl)
theorem dX1_trip_35 : decode cX1_trip 35 = .ok (.aload_n 0, 1) := dk_42 (dk_at dksX1_trip_1 11 rfl rfl)
theorem dX1_trip_36 : decode cX1_trip 36 = .ok (.iload_n 1, 1) := dk_27 (dk_at dksX1_trip_1 12 rfl rfl)
theorem dX1_trip_37 : decode cX1_trip 37 = .ok (.invokevirtual 365, 3) := dk_182 1 109 (dk_at dksX1_trip_1 13 rfl rfl)
theorem dX1_trip_40 : decode cX1_trip 40 = .ok (.ior, 1) := dk_128 (dk_at dksX1_trip_1 16 rfl rfl)
theorem dX1_trip_41 : decode cX1_trip 41 = .ok (.istore_n 3, 1) := dk_62 (dk_at dksX1_trip_1 17 rfl rfl)
theorem dX1_trip_42 : decode cX1_trip 42 = .ok (.aload_n 0, 1) := dk_42 (dk_at dksX1_trip_1 18 rfl rfl)
theorem dX1_trip_43 : decode cX1_trip 43 = .ok (.iload_n 2, 1) := dk_28 (dk_at dksX1_trip_1 19 rfl rfl)
theorem dX1_trip_44 : decode cX1_trip 44 = .ok (.iload_n 3, 1) := dk_29 (dk_at dksX1_trip_1 20 rfl rfl)
theorem dX1_trip_45 : decode cX1_trip 45 = .ok (.invokevirtual 510, 3) := dk_182 1 254 (dk_at dksX1_trip_1 21 rfl rfl)
theorem dX1_trip_48 : decode cX1_trip 48 = .ok (.istore 4, 2) := dk_54 4 (dk_at dksX1_trip_2 0 rfl rfl)
theorem dX1_trip_50 : decode cX1_trip 50 = .ok (.iload 4, 2) := dk_21 4 (dk_at dksX1_trip_2 2 rfl rfl)
theorem dX1_trip_52 : decode cX1_trip 52 = .ok (.ldc_w 454, 3) := dk_19 1 198 (dk_at dksX1_trip_2 4 rfl rfl)
theorem dX1_trip_55 : decode cX1_trip 55 = .ok (.if_icmp .lt 6, 3) := dk_161 0 6 (dk_at dksX1_trip_2 7 rfl rfl)
theorem dX1_trip_58 : decode cX1_trip 58 = .ok (.bipush (-2), 2) := dk_16 254 (dk_at dksX1_trip_2 10 rfl rfl)
theorem dX1_trip_60 : decode cX1_trip 60 = .ok (.ireturn, 1) := dk_172 (dk_at dksX1_trip_2 12 rfl rfl)
theorem dX1_trip_61 : decode cX1_trip 61 = .ok (.iconst 0, 1) := dk_3 (dk_at dksX1_trip_2 13 rfl rfl)
theorem dX1_trip_62 : decode cX1_trip 62 = .ok (.istore 5, 2) := dk_54 5 (dk_at dksX1_trip_2 14 rfl rfl)
theorem dX1_trip_64 : decode cX1_trip 64 = .ok (.aload_n 0, 1) := dk_42 (dk_at dksX1_trip_2 16 rfl rfl)
theorem dX1_trip_65 : decode cX1_trip 65 = .ok (.iload 5, 2) := dk_21 5 (dk_at dksX1_trip_2 17 rfl rfl)
theorem dX1_trip_67 : decode cX1_trip 67 = .ok (.iload_n 3, 1) := dk_29 (dk_at dksX1_trip_2 19 rfl rfl)
theorem dX1_trip_68 : decode cX1_trip 68 = .ok (.invokevirtual 510, 3) := dk_182 1 254 (dk_at dksX1_trip_2 20 rfl rfl)
theorem dX1_trip_71 : decode cX1_trip 71 = .ok (.iload 4, 2) := dk_21 4 (dk_at dksX1_trip_3 0 rfl rfl)
theorem dX1_trip_73 : decode cX1_trip 73 = .ok (.if_icmp .eq 9, 3) := dk_159 0 9 (dk_at dksX1_trip_3 2 rfl rfl)
theorem dX1_trip_76 : decode cX1_trip 76 = .ok (.iinc 5 1, 3) := dk_132 5 1 (dk_at dksX1_trip_3 5 rfl rfl)
theorem dX1_trip_79 : decode cX1_trip 79 = .ok (.goto (-15), 3) := dk_167 255 241 (dk_at dksX1_trip_3 8 rfl rfl)
theorem dX1_trip_82 : decode cX1_trip 82 = .ok (.aload_n 0, 1) := dk_42 (dk_at dksX1_trip_3 11 rfl rfl)
theorem dX1_trip_83 : decode cX1_trip 83 = .ok (.iconst 0, 1) := dk_3 (dk_at dksX1_trip_3 12 rfl rfl)
theorem dX1_trip_84 : decode cX1_trip 84 = .ok (.putfield 389, 3) := dk_181 1 133 (dk_at dksX1_trip_3 13 rfl rfl)
theorem dX1_trip_87 : decode cX1_trip 87 = .ok (.aload_n 0, 1) := dk_42 (dk_at dksX1_trip_3 16 rfl rfl)
theorem dX1_trip_88 : decode cX1_trip 88 = .ok (.iload 5, 2) := dk_21 5 (dk_at dksX1_trip_3 17 rfl rfl)
theorem dX1_trip_90 : decode cX1_trip 90 = .ok (.i2l, 1) := dk_133 (dk_at dksX1_trip_3 19 rfl rfl)
theorem dX1_trip_91 : decode cX1_trip 91 = .ok (.invokevirtual 392, 3) := dk_182 1 136 (dk_at dksX1_trip_3 20 rfl rfl)
theorem dX1_trip_94 : decode cX1_trip 94 = .ok (.aload_n 0, 1) := dk_42 (dk_at dksX1_trip_3 23 rfl rfl)
theorem dX1_trip_95 : decode cX1_trip 95 = .ok (.aload_n 0, 1) := dk_42 (dk_at dksX1_trip_4 0 rfl rfl)
theorem dX1_trip_96 : decode cX1_trip 96 = .ok (.iload_n 1, 1) := dk_27 (dk_at dksX1_trip_4 1 rfl rfl)
theorem dX1_trip_97 : decode cX1_trip 97 = .ok (.invokevirtual 365, 3) := dk_182 1 109 (dk_at dksX1_trip_4 2 rfl rfl)
theorem dX1_trip_100 : decode cX1_trip 100 = .ok (.invokestatic 481, 3) := dk_184 1 225 (dk_at dksX1_trip_4 5 rfl rfl)
theorem dX1_trip_103 : decode cX1_trip 103 = .ok (.i2l, 1) := dk_133 (dk_at dksX1_trip_4 8 rfl rfl)
theorem dX1_trip_104 : decode cX1_trip 104 = .ok (.invokevirtual 392, 3) := dk_182 1 136 (dk_at dksX1_trip_4 9 rfl rfl)
theorem dX1_trip_107 : decode cX1_trip 107 = .ok (.iload 4, 2) := dk_21 4 (dk_at dksX1_trip_4 12 rfl rfl)
theorem dX1_trip_109 : decode cX1_trip 109 = .ok (.ireturn, 1) := dk_172 (dk_at dksX1_trip_4 14 rfl rfl)
def dkwX1_laysTrip_5 : List UInt8 := [167, 255, 192, 177]
abbrev dktX1_laysTrip_5 : List UInt8 := dkwX1_laysTrip_5 ++ []
def dkwX1_laysTrip_4 : List UInt8 := [162, 0, 21, 29, 28, 162, 0, 16, 42, 29, 21, 4, 182, 1, 246, 132, 4, 1, 167, 255, 232, 132, 3, 1]
abbrev dktX1_laysTrip_4 : List UInt8 := dkwX1_laysTrip_4 ++ dktX1_laysTrip_5
def dkwX1_laysTrip_3 : List UInt8 := [42, 27, 29, 21, 4, 182, 1, 242, 132, 4, 1, 167, 255, 236, 3, 54, 4, 21, 4, 42, 180, 0, 44]
abbrev dktX1_laysTrip_3 : List UInt8 := dkwX1_laysTrip_3 ++ dktX1_laysTrip_4
def dkwX1_laysTrip_2 : List UInt8 := [184, 1, 236, 3, 79, 3, 62, 29, 28, 163, 0, 65, 3, 54, 4, 21, 4, 42, 180, 0, 44, 162, 0, 17]
abbrev dktX1_laysTrip_2 : List UInt8 := dkwX1_laysTrip_2 ++ dktX1_laysTrip_3
def dkwX1_laysTrip_1 : List UInt8 := [167, 255, 235, 42, 180, 0, 115, 3, 42, 180, 0, 12, 180, 0, 244, 27, 46, 42, 180, 0, 12, 180, 1, 84]
abbrev dktX1_laysTrip_1 : List UInt8 := dkwX1_laysTrip_1 ++ dktX1_laysTrip_2
def dkwX1_laysTrip_0 : List UInt8 := [3, 62, 29, 42, 180, 0, 115, 190, 162, 0, 18, 42, 180, 0, 115, 29, 19, 1, 198, 79, 132, 3, 1]
abbrev dktX1_laysTrip_0 : List UInt8 := dkwX1_laysTrip_0 ++ dktX1_laysTrip_1
theorem dksX1_laysTrip_0 : cX1_laysTrip.data.toList.drop 0 = dktX1_laysTrip_0 := by decide +kernel
theorem dksX1_laysTrip_1 : cX1_laysTrip.data.toList.drop 23 = dktX1_laysTrip_1 := dk_seg dksX1_laysTrip_0 23 rfl rfl
theorem dksX1_laysTrip_2 : cX1_laysTrip.data.toList.drop 47 = dktX1_laysTrip_2 := dk_seg dksX1_laysTrip_1 24 rfl rfl
theorem dksX1_laysTrip_3 : cX1_laysTrip.data.toList.drop 71 = dktX1_laysTrip_3 := dk_seg dksX1_laysTrip_2 24 rfl rfl
theorem dksX1_laysTrip_4 : cX1_laysTrip.data.toList.drop 94 = dktX1_laysTrip_4 := dk_seg dksX1_laysTrip_3 23 rfl rfl
theorem dksX1_laysTrip_5 : cX1_laysTrip.data.toList.drop 118 = dktX1_laysTrip_5 := dk_seg dksX1_laysTrip_4 24 rfl rfl
theorem dX1_laysTrip_0 : decode cX1_laysTrip 0 = .ok (.iconst 0, 1) := dk_3 (dk_at dksX1_laysTrip_0 0 rfl rfl)
theorem dX1_laysTrip_1 : decode cX1_laysTrip 1 = .ok (.istore_n 3, 1) := dk_62 (dk_at dksX1_laysTrip_0 1 rfl rfl)
theorem dX1_laysTrip_2 : decode cX1_laysTrip 2 = .ok (.iload_n 3, 1) := dk_29 (dk_at dksX1_laysTrip_0 2 rfl rfl)
theorem dX1_laysTrip_3 : decode cX1_laysTrip 3 = .ok (.aload_n 0, 1) := dk_42 (dk_at dksX1_laysTrip_0 3 rfl rfl)
theorem dX1_laysTrip_4 : decode cX1_laysTrip 4 = .ok (.getfield 115, 3) := dk_180 0 115 (dk_at dksX1_laysTrip_0 4 rfl rfl)
theorem dX1_laysTrip_7 : decode cX1_laysTrip 7 = .ok (.arraylength, 1) := dk_190 (dk_at dksX1_laysTrip_0 7 rfl rfl)
theorem dX1_laysTrip_8 : decode cX1_laysTrip 8 = .ok (.if_icmp .ge 18, 3) := dk_162 0 18 (dk_at dksX1_laysTrip_0 8 rfl rfl)
theorem dX1_laysTrip_11 : decode cX1_laysTrip 11 = .ok (.aload_n 0, 1) := dk_42 (dk_at dksX1_laysTrip_0 11 rfl rfl)
theorem dX1_laysTrip_12 : decode cX1_laysTrip 12 = .ok (.getfield 115, 3) := dk_180 0 115 (dk_at dksX1_laysTrip_0 12 rfl rfl)
theorem dX1_laysTrip_15 : decode cX1_laysTrip 15 = .ok (.iload_n 3, 1) := dk_29 (dk_at dksX1_laysTrip_0 15 rfl rfl)
theorem dX1_laysTrip_16 : decode cX1_laysTrip 16 = .ok (.ldc_w 454, 3) := dk_19 1 198 (dk_at dksX1_laysTrip_0 16 rfl rfl)
theorem dX1_laysTrip_19 : decode cX1_laysTrip 19 = .ok (.iastore, 1) := dk_79 (dk_at dksX1_laysTrip_0 19 rfl rfl)
theorem dX1_laysTrip_20 : decode cX1_laysTrip 20 = .ok (.iinc 3 1, 3) := dk_132 3 1 (dk_at dksX1_laysTrip_0 20 rfl rfl)
theorem dX1_laysTrip_23 : decode cX1_laysTrip 23 = .ok (.goto (-21), 3) := dk_167 255 235 (dk_at dksX1_laysTrip_1 0 rfl rfl)
theorem dX1_laysTrip_26 : decode cX1_laysTrip 26 = .ok (.aload_n 0, 1) := dk_42 (dk_at dksX1_laysTrip_1 3 rfl rfl)
theorem dX1_laysTrip_27 : decode cX1_laysTrip 27 = .ok (.getfield 115, 3) := dk_180 0 115 (dk_at dksX1_laysTrip_1 4 rfl rfl)
theorem dX1_laysTrip_30 : decode cX1_laysTrip 30 = .ok (.iconst 0, 1) := dk_3 (dk_at dksX1_laysTrip_1 7 rfl rfl)
theorem dX1_laysTrip_31 : decode cX1_laysTrip 31 = .ok (.aload_n 0, 1) := dk_42 (dk_at dksX1_laysTrip_1 8 rfl rfl)
theorem dX1_laysTrip_32 : decode cX1_laysTrip 32 = .ok (.getfield 12, 3) := dk_180 0 12 (dk_at dksX1_laysTrip_1 9 rfl rfl)
theorem dX1_laysTrip_35 : decode cX1_laysTrip 35 = .ok (.getfield 244, 3) := dk_180 0 244 (dk_at dksX1_laysTrip_1 12 rfl rfl)
theorem dX1_laysTrip_38 : decode cX1_laysTrip 38 = .ok (.iload_n 1, 1) := dk_27 (dk_at dksX1_laysTrip_1 15 rfl rfl)
theorem dX1_laysTrip_39 : decode cX1_laysTrip 39 = .ok (.iaload, 1) := dk_46 (dk_at dksX1_laysTrip_1 16 rfl rfl)
theorem dX1_laysTrip_40 : decode cX1_laysTrip 40 = .ok (.aload_n 0, 1) := dk_42 (dk_at dksX1_laysTrip_1 17 rfl rfl)
theorem dX1_laysTrip_41 : decode cX1_laysTrip 41 = .ok (.getfield 12, 3) := dk_180 0 12 (dk_at dksX1_laysTrip_1 18 rfl rfl)
theorem dX1_laysTrip_44 : decode cX1_laysTrip 44 = .ok (.getfield 340, 3) := dk_180 1 84 (dk_at dksX1_laysTrip_1 21 rfl rfl)
theorem dX1_laysTrip_47 : decode cX1_laysTrip 47 = .ok (.invokestatic 492, 3) := dk_184 1 236 (dk_at dksX1_laysTrip_2 0 rfl rfl)
theorem dX1_laysTrip_50 : decode cX1_laysTrip 50 = .ok (.iconst 0, 1) := dk_3 (dk_at dksX1_laysTrip_2 3 rfl rfl)
theorem dX1_laysTrip_51 : decode cX1_laysTrip 51 = .ok (.iastore, 1) := dk_79 (dk_at dksX1_laysTrip_2 4 rfl rfl)
theorem dX1_laysTrip_52 : decode cX1_laysTrip 52 = .ok (.iconst 0, 1) := dk_3 (dk_at dksX1_laysTrip_2 5 rfl rfl)
theorem dX1_laysTrip_53 : decode cX1_laysTrip 53 = .ok (.istore_n 3, 1) := dk_62 (dk_at dksX1_laysTrip_2 6 rfl rfl)
theorem dX1_laysTrip_54 : decode cX1_laysTrip 54 = .ok (.iload_n 3, 1) := dk_29 (dk_at dksX1_laysTrip_2 7 rfl rfl)
theorem dX1_laysTrip_55 : decode cX1_laysTrip 55 = .ok (.iload_n 2, 1) := dk_28 (dk_at dksX1_laysTrip_2 8 rfl rfl)
theorem dX1_laysTrip_56 : decode cX1_laysTrip 56 = .ok (.if_icmp .gt 65, 3) := dk_163 0 65 (dk_at dksX1_laysTrip_2 9 rfl rfl)
theorem dX1_laysTrip_59 : decode cX1_laysTrip 59 = .ok (.iconst 0, 1) := dk_3 (dk_at dksX1_laysTrip_2 12 rfl rfl)
theorem dX1_laysTrip_60 : decode cX1_laysTrip 60 = .ok (.istore 4, 2) := dk_54 4 (dk_at dksX1_laysTrip_2 13 rfl rfl)
theorem dX1_laysTrip_62 : decode cX1_laysTrip 62 = .ok (.iload 4, 2) := dk_21 4 (dk_at dksX1_laysTrip_2 15 rfl rfl)
theorem dX1_laysTrip_64 : decode cX1_laysTrip 64 = .ok (.aload_n 0, 1) := dk_42 (dk_at dksX1_laysTrip_2 17 rfl rfl)
theorem dX1_laysTrip_65 : decode cX1_laysTrip 65 = .ok (.getfield 44, 3) := dk_180 0 44 (dk_at dksX1_laysTrip_2 18 rfl rfl)
theorem dX1_laysTrip_68 : decode cX1_laysTrip 68 = .ok (.if_icmp .ge 17, 3) := dk_162 0 17 (dk_at dksX1_laysTrip_2 21 rfl rfl)
theorem dX1_laysTrip_71 : decode cX1_laysTrip 71 = .ok (.aload_n 0, 1) := dk_42 (dk_at dksX1_laysTrip_3 0 rfl rfl)
theorem dX1_laysTrip_72 : decode cX1_laysTrip 72 = .ok (.iload_n 1, 1) := dk_27 (dk_at dksX1_laysTrip_3 1 rfl rfl)
theorem dX1_laysTrip_73 : decode cX1_laysTrip 73 = .ok (.iload_n 3, 1) := dk_29 (dk_at dksX1_laysTrip_3 2 rfl rfl)
theorem dX1_laysTrip_74 : decode cX1_laysTrip 74 = .ok (.iload 4, 2) := dk_21 4 (dk_at dksX1_laysTrip_3 3 rfl rfl)
theorem dX1_laysTrip_76 : decode cX1_laysTrip 76 = .ok (.invokevirtual 498, 3) := dk_182 1 242 (dk_at dksX1_laysTrip_3 5 rfl rfl)
theorem dX1_laysTrip_79 : decode cX1_laysTrip 79 = .ok (.iinc 4 1, 3) := dk_132 4 1 (dk_at dksX1_laysTrip_3 8 rfl rfl)
theorem dX1_laysTrip_82 : decode cX1_laysTrip 82 = .ok (.goto (-20), 3) := dk_167 255 236 (dk_at dksX1_laysTrip_3 11 rfl rfl)
theorem dX1_laysTrip_85 : decode cX1_laysTrip 85 = .ok (.iconst 0, 1) := dk_3 (dk_at dksX1_laysTrip_3 14 rfl rfl)
theorem dX1_laysTrip_86 : decode cX1_laysTrip 86 = .ok (.istore 4, 2) := dk_54 4 (dk_at dksX1_laysTrip_3 15 rfl rfl)
theorem dX1_laysTrip_88 : decode cX1_laysTrip 88 = .ok (.iload 4, 2) := dk_21 4 (dk_at dksX1_laysTrip_3 17 rfl rfl)
theorem dX1_laysTrip_90 : decode cX1_laysTrip 90 = .ok (.aload_n 0, 1) := dk_42 (dk_at dksX1_laysTrip_3 19 rfl rfl)
theorem dX1_laysTrip_91 : decode cX1_laysTrip 91 = .ok (.getfield 44, 3) := dk_180 0 44 (dk_at dksX1_laysTrip_3 20 rfl rfl)
theorem dX1_laysTrip_94 : decode cX1_laysTrip 94 = .ok (.if_icmp .ge 21, 3) := dk_162 0 21 (dk_at dksX1_laysTrip_4 0 rfl rfl)
theorem dX1_laysTrip_97 : decode cX1_laysTrip 97 = .ok (.iload_n 3, 1) := dk_29 (dk_at dksX1_laysTrip_4 3 rfl rfl)
theorem dX1_laysTrip_98 : decode cX1_laysTrip 98 = .ok (.iload_n 2, 1) := dk_28 (dk_at dksX1_laysTrip_4 4 rfl rfl)
theorem dX1_laysTrip_99 : decode cX1_laysTrip 99 = .ok (.if_icmp .ge 16, 3) := dk_162 0 16 (dk_at dksX1_laysTrip_4 5 rfl rfl)
theorem dX1_laysTrip_102 : decode cX1_laysTrip 102 = .ok (.aload_n 0, 1) := dk_42 (dk_at dksX1_laysTrip_4 8 rfl rfl)
theorem dX1_laysTrip_103 : decode cX1_laysTrip 103 = .ok (.iload_n 3, 1) := dk_29 (dk_at dksX1_laysTrip_4 9 rfl rfl)
theorem dX1_laysTrip_104 : decode cX1_laysTrip 104 = .ok (.iload 4, 2) := dk_21 4 (dk_at dksX1_laysTrip_4 10 rfl rfl)
theorem dX1_laysTrip_106 : decode cX1_laysTrip 106 = .ok (.invokevirtual 502, 3) := dk_182 1 246 (dk_at dksX1_laysTrip_4 12 rfl rfl)
theorem dX1_laysTrip_109 : decode cX1_laysTrip 109 = .ok (.iinc 4 1, 3) := dk_132 4 1 (dk_at dksX1_laysTrip_4 15 rfl rfl)
theorem dX1_laysTrip_112 : decode cX1_laysTrip 112 = .ok (.goto (-24), 3) := dk_167 255 232 (dk_at dksX1_laysTrip_4 18 rfl rfl)
theorem dX1_laysTrip_115 : decode cX1_laysTrip 115 = .ok (.iinc 3 1, 3) := dk_132 3 1 (dk_at dksX1_laysTrip_4 21 rfl rfl)
theorem dX1_laysTrip_118 : decode cX1_laysTrip 118 = .ok (.goto (-64), 3) := dk_167 255 192 (dk_at dksX1_laysTrip_5 0 rfl rfl)
theorem dX1_laysTrip_121 : decode cX1_laysTrip 121 = .ok (.return_, 1) := dk_177 (dk_at dksX1_laysTrip_5 3 rfl rfl)
def dkwX1_spot_0 : List UInt8 := [16, 6, 26, 104, 27, 96, 17, 1, 0, 104, 28, 96, 172]
abbrev dktX1_spot_0 : List UInt8 := dkwX1_spot_0 ++ []
theorem dksX1_spot_0 : cX1_spot.data.toList.drop 0 = dktX1_spot_0 := by decide +kernel
theorem dX1_spot_0 : decode cX1_spot 0 = .ok (.bipush 6, 2) := dk_16 6 (dk_at dksX1_spot_0 0 rfl rfl)
theorem dX1_spot_2 : decode cX1_spot 2 = .ok (.iload_n 0, 1) := dk_26 (dk_at dksX1_spot_0 2 rfl rfl)
theorem dX1_spot_3 : decode cX1_spot 3 = .ok (.imul, 1) := dk_104 (dk_at dksX1_spot_0 3 rfl rfl)
theorem dX1_spot_4 : decode cX1_spot 4 = .ok (.iload_n 1, 1) := dk_27 (dk_at dksX1_spot_0 4 rfl rfl)
theorem dX1_spot_5 : decode cX1_spot 5 = .ok (.iadd, 1) := dk_96 (dk_at dksX1_spot_0 5 rfl rfl)
theorem dX1_spot_6 : decode cX1_spot 6 = .ok (.sipush 256, 3) := dk_17 1 0 (dk_at dksX1_spot_0 6 rfl rfl)
theorem dX1_spot_9 : decode cX1_spot 9 = .ok (.imul, 1) := dk_104 (dk_at dksX1_spot_0 9 rfl rfl)
theorem dX1_spot_10 : decode cX1_spot 10 = .ok (.iload_n 2, 1) := dk_28 (dk_at dksX1_spot_0 10 rfl rfl)
theorem dX1_spot_11 : decode cX1_spot 11 = .ok (.iadd, 1) := dk_96 (dk_at dksX1_spot_0 11 rfl rfl)
theorem dX1_spot_12 : decode cX1_spot 12 = .ok (.ireturn, 1) := dk_172 (dk_at dksX1_spot_0 12 rfl rfl)
def dkwX1_laysSayings_5 : List UInt8 := [177]
abbrev dktX1_laysSayings_5 : List UInt8 := dkwX1_laysSayings_5 ++ []
def dkwX1_laysSayings_4 : List UInt8 := [180, 1, 126, 28, 96, 182, 1, 129, 96, 182, 1, 239, 132, 5, 1, 167, 255, 166, 132, 4, 1, 167, 255, 146]
abbrev dktX1_laysSayings_4 : List UInt8 := dkwX1_laysSayings_4 ++ dktX1_laysSayings_5
def dkwX1_laysSayings_3 : List UInt8 := [184, 1, 236, 42, 180, 0, 115, 28, 29, 21, 4, 184, 1, 236, 46, 42, 21, 5, 29, 42, 180, 0, 12]
abbrev dktX1_laysSayings_3 : List UInt8 := dkwX1_laysSayings_3 ++ dktX1_laysSayings_4
def dkwX1_laysSayings_2 : List UInt8 := [27, 29, 21, 5, 182, 1, 150, 54, 6, 21, 6, 153, 0, 46, 42, 28, 29, 21, 4, 21, 6, 128]
abbrev dktX1_laysSayings_2 : List UInt8 := dkwX1_laysSayings_2 ++ dktX1_laysSayings_3
def dkwX1_laysSayings_1 : List UInt8 := [162, 0, 87, 42, 180, 0, 115, 28, 29, 21, 4, 184, 1, 236, 46, 19, 1, 198, 162, 0, 69, 42, 21, 4]
abbrev dktX1_laysSayings_1 : List UInt8 := dkwX1_laysSayings_1 ++ dktX1_laysSayings_2
def dkwX1_laysSayings_0 : List UInt8 := [3, 54, 4, 21, 4, 4, 42, 180, 0, 252, 120, 162, 0, 105, 3, 54, 5, 21, 5, 42, 180, 0, 145]
abbrev dktX1_laysSayings_0 : List UInt8 := dkwX1_laysSayings_0 ++ dktX1_laysSayings_1
theorem dksX1_laysSayings_0 : cX1_laysSayings.data.toList.drop 0 = dktX1_laysSayings_0 := by decide +kernel
theorem dksX1_laysSayings_1 : cX1_laysSayings.data.toList.drop 23 = dktX1_laysSayings_1 := dk_seg dksX1_laysSayings_0 23 rfl rfl
theorem dksX1_laysSayings_2 : cX1_laysSayings.data.toList.drop 47 = dktX1_laysSayings_2 := dk_seg dksX1_laysSayings_1 24 rfl rfl
theorem dksX1_laysSayings_3 : cX1_laysSayings.data.toList.drop 69 = dktX1_laysSayings_3 := dk_seg dksX1_laysSayings_2 22 rfl rfl
theorem dksX1_laysSayings_4 : cX1_laysSayings.data.toList.drop 92 = dktX1_laysSayings_4 := dk_seg dksX1_laysSayings_3 23 rfl rfl
theorem dksX1_laysSayings_5 : cX1_laysSayings.data.toList.drop 116 = dktX1_laysSayings_5 := dk_seg dksX1_laysSayings_4 24 rfl rfl
theorem dX1_laysSayings_0 : decode cX1_laysSayings 0 = .ok (.iconst 0, 1) := dk_3 (dk_at dksX1_laysSayings_0 0 rfl rfl)
theorem dX1_laysSayings_1 : decode cX1_laysSayings 1 = .ok (.istore 4, 2) := dk_54 4 (dk_at dksX1_laysSayings_0 1 rfl rfl)
theorem dX1_laysSayings_3 : decode cX1_laysSayings 3 = .ok (.iload 4, 2) := dk_21 4 (dk_at dksX1_laysSayings_0 3 rfl rfl)
theorem dX1_laysSayings_5 : decode cX1_laysSayings 5 = .ok (.iconst 1, 1) := dk_4 (dk_at dksX1_laysSayings_0 5 rfl rfl)
theorem dX1_laysSayings_6 : decode cX1_laysSayings 6 = .ok (.aload_n 0, 1) := dk_42 (dk_at dksX1_laysSayings_0 6 rfl rfl)
theorem dX1_laysSayings_7 : decode cX1_laysSayings 7 = .ok (.getfield 252, 3) := dk_180 0 252 (dk_at dksX1_laysSayings_0 7 rfl rfl)
theorem dX1_laysSayings_10 : decode cX1_laysSayings 10 = .ok (.ishl, 1) := dk_120 (dk_at dksX1_laysSayings_0 10 rfl rfl)
theorem dX1_laysSayings_11 : decode cX1_laysSayings 11 = .ok (.if_icmp .ge 105, 3) := dk_162 0 105 (dk_at dksX1_laysSayings_0 11 rfl rfl)
theorem dX1_laysSayings_14 : decode cX1_laysSayings 14 = .ok (.iconst 0, 1) := dk_3 (dk_at dksX1_laysSayings_0 14 rfl rfl)
theorem dX1_laysSayings_15 : decode cX1_laysSayings 15 = .ok (.istore 5, 2) := dk_54 5 (dk_at dksX1_laysSayings_0 15 rfl rfl)
theorem dX1_laysSayings_17 : decode cX1_laysSayings 17 = .ok (.iload 5, 2) := dk_21 5 (dk_at dksX1_laysSayings_0 17 rfl rfl)
theorem dX1_laysSayings_19 : decode cX1_laysSayings 19 = .ok (.aload_n 0, 1) := dk_42 (dk_at dksX1_laysSayings_0 19 rfl rfl)
theorem dX1_laysSayings_20 : decode cX1_laysSayings 20 = .ok (.getfield 145, 3) := dk_180 0 145 (dk_at dksX1_laysSayings_0 20 rfl rfl)
theorem dX1_laysSayings_23 : decode cX1_laysSayings 23 = .ok (.if_icmp .ge 87, 3) := dk_162 0 87 (dk_at dksX1_laysSayings_1 0 rfl rfl)
theorem dX1_laysSayings_26 : decode cX1_laysSayings 26 = .ok (.aload_n 0, 1) := dk_42 (dk_at dksX1_laysSayings_1 3 rfl rfl)
theorem dX1_laysSayings_27 : decode cX1_laysSayings 27 = .ok (.getfield 115, 3) := dk_180 0 115 (dk_at dksX1_laysSayings_1 4 rfl rfl)
theorem dX1_laysSayings_30 : decode cX1_laysSayings 30 = .ok (.iload_n 2, 1) := dk_28 (dk_at dksX1_laysSayings_1 7 rfl rfl)
theorem dX1_laysSayings_31 : decode cX1_laysSayings 31 = .ok (.iload_n 3, 1) := dk_29 (dk_at dksX1_laysSayings_1 8 rfl rfl)
theorem dX1_laysSayings_32 : decode cX1_laysSayings 32 = .ok (.iload 4, 2) := dk_21 4 (dk_at dksX1_laysSayings_1 9 rfl rfl)
theorem dX1_laysSayings_34 : decode cX1_laysSayings 34 = .ok (.invokestatic 492, 3) := dk_184 1 236 (dk_at dksX1_laysSayings_1 11 rfl rfl)
theorem dX1_laysSayings_37 : decode cX1_laysSayings 37 = .ok (.iaload, 1) := dk_46 (dk_at dksX1_laysSayings_1 14 rfl rfl)
theorem dX1_laysSayings_38 : decode cX1_laysSayings 38 = .ok (.ldc_w 454, 3) := dk_19 1 198 (dk_at dksX1_laysSayings_1 15 rfl rfl)
theorem dX1_laysSayings_41 : decode cX1_laysSayings 41 = .ok (.if_icmp .ge 69, 3) := dk_162 0 69 (dk_at dksX1_laysSayings_1 18 rfl rfl)
theorem dX1_laysSayings_44 : decode cX1_laysSayings 44 = .ok (.aload_n 0, 1) := dk_42 (dk_at dksX1_laysSayings_1 21 rfl rfl)
theorem dX1_laysSayings_45 : decode cX1_laysSayings 45 = .ok (.iload 4, 2) := dk_21 4 (dk_at dksX1_laysSayings_1 22 rfl rfl)
theorem dX1_laysSayings_47 : decode cX1_laysSayings 47 = .ok (.iload_n 1, 1) := dk_27 (dk_at dksX1_laysSayings_2 0 rfl rfl)
theorem dX1_laysSayings_48 : decode cX1_laysSayings 48 = .ok (.iload_n 3, 1) := dk_29 (dk_at dksX1_laysSayings_2 1 rfl rfl)
theorem dX1_laysSayings_49 : decode cX1_laysSayings 49 = .ok (.iload 5, 2) := dk_21 5 (dk_at dksX1_laysSayings_2 2 rfl rfl)
theorem dX1_laysSayings_51 : decode cX1_laysSayings 51 = .ok (.invokevirtual 406, 3) := dk_182 1 150 (dk_at dksX1_laysSayings_2 4 rfl rfl)
theorem dX1_laysSayings_54 : decode cX1_laysSayings 54 = .ok (.istore 6, 2) := dk_54 6 (dk_at dksX1_laysSayings_2 7 rfl rfl)
theorem dX1_laysSayings_56 : decode cX1_laysSayings 56 = .ok (.iload 6, 2) := dk_21 6 (dk_at dksX1_laysSayings_2 9 rfl rfl)
theorem dX1_laysSayings_58 : decode cX1_laysSayings 58 = .ok (.ifCond .eq 46, 3) := dk_153 0 46 (dk_at dksX1_laysSayings_2 11 rfl rfl)
theorem dX1_laysSayings_61 : decode cX1_laysSayings 61 = .ok (.aload_n 0, 1) := dk_42 (dk_at dksX1_laysSayings_2 14 rfl rfl)
theorem dX1_laysSayings_62 : decode cX1_laysSayings 62 = .ok (.iload_n 2, 1) := dk_28 (dk_at dksX1_laysSayings_2 15 rfl rfl)
theorem dX1_laysSayings_63 : decode cX1_laysSayings 63 = .ok (.iload_n 3, 1) := dk_29 (dk_at dksX1_laysSayings_2 16 rfl rfl)
theorem dX1_laysSayings_64 : decode cX1_laysSayings 64 = .ok (.iload 4, 2) := dk_21 4 (dk_at dksX1_laysSayings_2 17 rfl rfl)
theorem dX1_laysSayings_66 : decode cX1_laysSayings 66 = .ok (.iload 6, 2) := dk_21 6 (dk_at dksX1_laysSayings_2 19 rfl rfl)
theorem dX1_laysSayings_68 : decode cX1_laysSayings 68 = .ok (.ior, 1) := dk_128 (dk_at dksX1_laysSayings_2 21 rfl rfl)
theorem dX1_laysSayings_69 : decode cX1_laysSayings 69 = .ok (.invokestatic 492, 3) := dk_184 1 236 (dk_at dksX1_laysSayings_3 0 rfl rfl)
theorem dX1_laysSayings_72 : decode cX1_laysSayings 72 = .ok (.aload_n 0, 1) := dk_42 (dk_at dksX1_laysSayings_3 3 rfl rfl)
theorem dX1_laysSayings_73 : decode cX1_laysSayings 73 = .ok (.getfield 115, 3) := dk_180 0 115 (dk_at dksX1_laysSayings_3 4 rfl rfl)
theorem dX1_laysSayings_76 : decode cX1_laysSayings 76 = .ok (.iload_n 2, 1) := dk_28 (dk_at dksX1_laysSayings_3 7 rfl rfl)
theorem dX1_laysSayings_77 : decode cX1_laysSayings 77 = .ok (.iload_n 3, 1) := dk_29 (dk_at dksX1_laysSayings_3 8 rfl rfl)
theorem dX1_laysSayings_78 : decode cX1_laysSayings 78 = .ok (.iload 4, 2) := dk_21 4 (dk_at dksX1_laysSayings_3 9 rfl rfl)
theorem dX1_laysSayings_80 : decode cX1_laysSayings 80 = .ok (.invokestatic 492, 3) := dk_184 1 236 (dk_at dksX1_laysSayings_3 11 rfl rfl)
theorem dX1_laysSayings_83 : decode cX1_laysSayings 83 = .ok (.iaload, 1) := dk_46 (dk_at dksX1_laysSayings_3 14 rfl rfl)
theorem dX1_laysSayings_84 : decode cX1_laysSayings 84 = .ok (.aload_n 0, 1) := dk_42 (dk_at dksX1_laysSayings_3 15 rfl rfl)
theorem dX1_laysSayings_85 : decode cX1_laysSayings 85 = .ok (.iload 5, 2) := dk_21 5 (dk_at dksX1_laysSayings_3 16 rfl rfl)
theorem dX1_laysSayings_87 : decode cX1_laysSayings 87 = .ok (.iload_n 3, 1) := dk_29 (dk_at dksX1_laysSayings_3 18 rfl rfl)
theorem dX1_laysSayings_88 : decode cX1_laysSayings 88 = .ok (.aload_n 0, 1) := dk_42 (dk_at dksX1_laysSayings_3 19 rfl rfl)
theorem dX1_laysSayings_89 : decode cX1_laysSayings 89 = .ok (.getfield 12, 3) := dk_180 0 12 (dk_at dksX1_laysSayings_3 20 rfl rfl)
theorem dX1_laysSayings_92 : decode cX1_laysSayings 92 = .ok (.getfield 382, 3) := dk_180 1 126 (dk_at dksX1_laysSayings_4 0 rfl rfl)
theorem dX1_laysSayings_95 : decode cX1_laysSayings 95 = .ok (.iload_n 2, 1) := dk_28 (dk_at dksX1_laysSayings_4 3 rfl rfl)
theorem dX1_laysSayings_96 : decode cX1_laysSayings 96 = .ok (.iadd, 1) := dk_96 (dk_at dksX1_laysSayings_4 4 rfl rfl)
theorem dX1_laysSayings_97 : decode cX1_laysSayings 97 = .ok (.invokevirtual 385, 3) := dk_182 1 129 (dk_at dksX1_laysSayings_4 5 rfl rfl)
theorem dX1_laysSayings_100 : decode cX1_laysSayings 100 = .ok (.iadd, 1) := dk_96 (dk_at dksX1_laysSayings_4 8 rfl rfl)
theorem dX1_laysSayings_101 : decode cX1_laysSayings 101 = .ok (.invokevirtual 495, 3) := dk_182 1 239 (dk_at dksX1_laysSayings_4 9 rfl rfl)
theorem dX1_laysSayings_104 : decode cX1_laysSayings 104 = .ok (.iinc 5 1, 3) := dk_132 5 1 (dk_at dksX1_laysSayings_4 12 rfl rfl)
theorem dX1_laysSayings_107 : decode cX1_laysSayings 107 = .ok (.goto (-90), 3) := dk_167 255 166 (dk_at dksX1_laysSayings_4 15 rfl rfl)
theorem dX1_laysSayings_110 : decode cX1_laysSayings 110 = .ok (.iinc 4 1, 3) := dk_132 4 1 (dk_at dksX1_laysSayings_4 18 rfl rfl)
theorem dX1_laysSayings_113 : decode cX1_laysSayings 113 = .ok (.goto (-110), 3) := dk_167 255 146 (dk_at dksX1_laysSayings_4 21 rfl rfl)
theorem dX1_laysSayings_116 : decode cX1_laysSayings 116 = .ok (.return_, 1) := dk_177 (dk_at dksX1_laysSayings_5 0 rfl rfl)
def dkwX1_lessens_0 : List UInt8 := [42, 180, 0, 115, 27, 42, 180, 0, 115, 27, 46, 28, 184, 0, 172, 79, 177]
abbrev dktX1_lessens_0 : List UInt8 := dkwX1_lessens_0 ++ []
theorem dksX1_lessens_0 : cX1_lessens.data.toList.drop 0 = dktX1_lessens_0 := by decide +kernel
theorem dX1_lessens_0 : decode cX1_lessens 0 = .ok (.aload_n 0, 1) := dk_42 (dk_at dksX1_lessens_0 0 rfl rfl)
theorem dX1_lessens_1 : decode cX1_lessens 1 = .ok (.getfield 115, 3) := dk_180 0 115 (dk_at dksX1_lessens_0 1 rfl rfl)
theorem dX1_lessens_4 : decode cX1_lessens 4 = .ok (.iload_n 1, 1) := dk_27 (dk_at dksX1_lessens_0 4 rfl rfl)
theorem dX1_lessens_5 : decode cX1_lessens 5 = .ok (.aload_n 0, 1) := dk_42 (dk_at dksX1_lessens_0 5 rfl rfl)
theorem dX1_lessens_6 : decode cX1_lessens 6 = .ok (.getfield 115, 3) := dk_180 0 115 (dk_at dksX1_lessens_0 6 rfl rfl)
theorem dX1_lessens_9 : decode cX1_lessens 9 = .ok (.iload_n 1, 1) := dk_27 (dk_at dksX1_lessens_0 9 rfl rfl)
theorem dX1_lessens_10 : decode cX1_lessens 10 = .ok (.iaload, 1) := dk_46 (dk_at dksX1_lessens_0 10 rfl rfl)
theorem dX1_lessens_11 : decode cX1_lessens 11 = .ok (.iload_n 2, 1) := dk_28 (dk_at dksX1_lessens_0 11 rfl rfl)
theorem dX1_lessens_12 : decode cX1_lessens 12 = .ok (.invokestatic 172, 3) := dk_184 0 172 (dk_at dksX1_lessens_0 12 rfl rfl)
theorem dX1_lessens_15 : decode cX1_lessens 15 = .ok (.iastore, 1) := dk_79 (dk_at dksX1_lessens_0 15 rfl rfl)
theorem dX1_lessens_16 : decode cX1_lessens 16 = .ok (.return_, 1) := dk_177 (dk_at dksX1_lessens_0 16 rfl rfl)
def dkwX1_goesOn_3 : List UInt8 := [167, 255, 192, 177]
abbrev dktX1_goesOn_3 : List UInt8 := dkwX1_goesOn_3 ++ []
def dkwX1_goesOn_2 : List UInt8 := [42, 180, 0, 115, 27, 28, 21, 4, 184, 1, 236, 46, 182, 1, 239, 132, 4, 1, 167, 255, 217, 132, 3, 1]
abbrev dktX1_goesOn_2 : List UInt8 := dkwX1_goesOn_2 ++ dktX1_goesOn_3
def dkwX1_goesOn_1 : List UInt8 := [3, 54, 4, 21, 4, 4, 42, 180, 0, 252, 120, 162, 0, 34, 42, 27, 4, 96, 29, 21, 4, 184, 1, 236]
abbrev dktX1_goesOn_1 : List UInt8 := dkwX1_goesOn_1 ++ dktX1_goesOn_2
def dkwX1_goesOn_0 : List UInt8 := [3, 28, 4, 100, 184, 1, 2, 62, 29, 42, 180, 0, 44, 4, 100, 28, 4, 96, 184, 0, 172, 163, 0, 54]
abbrev dktX1_goesOn_0 : List UInt8 := dkwX1_goesOn_0 ++ dktX1_goesOn_1
theorem dksX1_goesOn_0 : cX1_goesOn.data.toList.drop 0 = dktX1_goesOn_0 := by decide +kernel
theorem dksX1_goesOn_1 : cX1_goesOn.data.toList.drop 24 = dktX1_goesOn_1 := dk_seg dksX1_goesOn_0 24 rfl rfl
theorem dksX1_goesOn_2 : cX1_goesOn.data.toList.drop 48 = dktX1_goesOn_2 := dk_seg dksX1_goesOn_1 24 rfl rfl
theorem dksX1_goesOn_3 : cX1_goesOn.data.toList.drop 72 = dktX1_goesOn_3 := dk_seg dksX1_goesOn_2 24 rfl rfl
theorem dX1_goesOn_0 : decode cX1_goesOn 0 = .ok (.iconst 0, 1) := dk_3 (dk_at dksX1_goesOn_0 0 rfl rfl)
theorem dX1_goesOn_1 : decode cX1_goesOn 1 = .ok (.iload_n 2, 1) := dk_28 (dk_at dksX1_goesOn_0 1 rfl rfl)
theorem dX1_goesOn_2 : decode cX1_goesOn 2 = .ok (.iconst 1, 1) := dk_4 (dk_at dksX1_goesOn_0 2 rfl rfl)
theorem dX1_goesOn_3 : decode cX1_goesOn 3 = .ok (.isub, 1) := dk_100 (dk_at dksX1_goesOn_0 3 rfl rfl)
theorem dX1_goesOn_4 : decode cX1_goesOn 4 = .ok (.invokestatic 258, 3) := dk_184 1 2 (dk_at dksX1_goesOn_0 4 rfl rfl)
theorem dX1_goesOn_7 : decode cX1_goesOn 7 = .ok (.istore_n 3, 1) := dk_62 (dk_at dksX1_goesOn_0 7 rfl rfl)
theorem dX1_goesOn_8 : decode cX1_goesOn 8 = .ok (.iload_n 3, 1) := dk_29 (dk_at dksX1_goesOn_0 8 rfl rfl)
theorem dX1_goesOn_9 : decode cX1_goesOn 9 = .ok (.aload_n 0, 1) := dk_42 (dk_at dksX1_goesOn_0 9 rfl rfl)
theorem dX1_goesOn_10 : decode cX1_goesOn 10 = .ok (.getfield 44, 3) := dk_180 0 44 (dk_at dksX1_goesOn_0 10 rfl rfl)
theorem dX1_goesOn_13 : decode cX1_goesOn 13 = .ok (.iconst 1, 1) := dk_4 (dk_at dksX1_goesOn_0 13 rfl rfl)
theorem dX1_goesOn_14 : decode cX1_goesOn 14 = .ok (.isub, 1) := dk_100 (dk_at dksX1_goesOn_0 14 rfl rfl)
theorem dX1_goesOn_15 : decode cX1_goesOn 15 = .ok (.iload_n 2, 1) := dk_28 (dk_at dksX1_goesOn_0 15 rfl rfl)
theorem dX1_goesOn_16 : decode cX1_goesOn 16 = .ok (.iconst 1, 1) := dk_4 (dk_at dksX1_goesOn_0 16 rfl rfl)
theorem dX1_goesOn_17 : decode cX1_goesOn 17 = .ok (.iadd, 1) := dk_96 (dk_at dksX1_goesOn_0 17 rfl rfl)
theorem dX1_goesOn_18 : decode cX1_goesOn 18 = .ok (.invokestatic 172, 3) := dk_184 0 172 (dk_at dksX1_goesOn_0 18 rfl rfl)
theorem dX1_goesOn_21 : decode cX1_goesOn 21 = .ok (.if_icmp .gt 54, 3) := dk_163 0 54 (dk_at dksX1_goesOn_0 21 rfl rfl)
theorem dX1_goesOn_24 : decode cX1_goesOn 24 = .ok (.iconst 0, 1) := dk_3 (dk_at dksX1_goesOn_1 0 rfl rfl)
theorem dX1_goesOn_25 : decode cX1_goesOn 25 = .ok (.istore 4, 2) := dk_54 4 (dk_at dksX1_goesOn_1 1 rfl rfl)
theorem dX1_goesOn_27 : decode cX1_goesOn 27 = .ok (.iload 4, 2) := dk_21 4 (dk_at dksX1_goesOn_1 3 rfl rfl)
theorem dX1_goesOn_29 : decode cX1_goesOn 29 = .ok (.iconst 1, 1) := dk_4 (dk_at dksX1_goesOn_1 5 rfl rfl)
theorem dX1_goesOn_30 : decode cX1_goesOn 30 = .ok (.aload_n 0, 1) := dk_42 (dk_at dksX1_goesOn_1 6 rfl rfl)
theorem dX1_goesOn_31 : decode cX1_goesOn 31 = .ok (.getfield 252, 3) := dk_180 0 252 (dk_at dksX1_goesOn_1 7 rfl rfl)
theorem dX1_goesOn_34 : decode cX1_goesOn 34 = .ok (.ishl, 1) := dk_120 (dk_at dksX1_goesOn_1 10 rfl rfl)
theorem dX1_goesOn_35 : decode cX1_goesOn 35 = .ok (.if_icmp .ge 34, 3) := dk_162 0 34 (dk_at dksX1_goesOn_1 11 rfl rfl)
theorem dX1_goesOn_38 : decode cX1_goesOn 38 = .ok (.aload_n 0, 1) := dk_42 (dk_at dksX1_goesOn_1 14 rfl rfl)
theorem dX1_goesOn_39 : decode cX1_goesOn 39 = .ok (.iload_n 1, 1) := dk_27 (dk_at dksX1_goesOn_1 15 rfl rfl)
theorem dX1_goesOn_40 : decode cX1_goesOn 40 = .ok (.iconst 1, 1) := dk_4 (dk_at dksX1_goesOn_1 16 rfl rfl)
theorem dX1_goesOn_41 : decode cX1_goesOn 41 = .ok (.iadd, 1) := dk_96 (dk_at dksX1_goesOn_1 17 rfl rfl)
theorem dX1_goesOn_42 : decode cX1_goesOn 42 = .ok (.iload_n 3, 1) := dk_29 (dk_at dksX1_goesOn_1 18 rfl rfl)
theorem dX1_goesOn_43 : decode cX1_goesOn 43 = .ok (.iload 4, 2) := dk_21 4 (dk_at dksX1_goesOn_1 19 rfl rfl)
theorem dX1_goesOn_45 : decode cX1_goesOn 45 = .ok (.invokestatic 492, 3) := dk_184 1 236 (dk_at dksX1_goesOn_1 21 rfl rfl)
theorem dX1_goesOn_48 : decode cX1_goesOn 48 = .ok (.aload_n 0, 1) := dk_42 (dk_at dksX1_goesOn_2 0 rfl rfl)
theorem dX1_goesOn_49 : decode cX1_goesOn 49 = .ok (.getfield 115, 3) := dk_180 0 115 (dk_at dksX1_goesOn_2 1 rfl rfl)
theorem dX1_goesOn_52 : decode cX1_goesOn 52 = .ok (.iload_n 1, 1) := dk_27 (dk_at dksX1_goesOn_2 4 rfl rfl)
theorem dX1_goesOn_53 : decode cX1_goesOn 53 = .ok (.iload_n 2, 1) := dk_28 (dk_at dksX1_goesOn_2 5 rfl rfl)
theorem dX1_goesOn_54 : decode cX1_goesOn 54 = .ok (.iload 4, 2) := dk_21 4 (dk_at dksX1_goesOn_2 6 rfl rfl)
theorem dX1_goesOn_56 : decode cX1_goesOn 56 = .ok (.invokestatic 492, 3) := dk_184 1 236 (dk_at dksX1_goesOn_2 8 rfl rfl)
theorem dX1_goesOn_59 : decode cX1_goesOn 59 = .ok (.iaload, 1) := dk_46 (dk_at dksX1_goesOn_2 11 rfl rfl)
theorem dX1_goesOn_60 : decode cX1_goesOn 60 = .ok (.invokevirtual 495, 3) := dk_182 1 239 (dk_at dksX1_goesOn_2 12 rfl rfl)
theorem dX1_goesOn_63 : decode cX1_goesOn 63 = .ok (.iinc 4 1, 3) := dk_132 4 1 (dk_at dksX1_goesOn_2 15 rfl rfl)
theorem dX1_goesOn_66 : decode cX1_goesOn 66 = .ok (.goto (-39), 3) := dk_167 255 217 (dk_at dksX1_goesOn_2 18 rfl rfl)
theorem dX1_goesOn_69 : decode cX1_goesOn 69 = .ok (.iinc 3 1, 3) := dk_132 3 1 (dk_at dksX1_goesOn_2 21 rfl rfl)
theorem dX1_goesOn_72 : decode cX1_goesOn 72 = .ok (.goto (-64), 3) := dk_167 255 192 (dk_at dksX1_goesOn_3 0 rfl rfl)
theorem dX1_goesOn_75 : decode cX1_goesOn 75 = .ok (.return_, 1) := dk_177 (dk_at dksX1_goesOn_3 3 rfl rfl)
def dkwX1_doneIn_1 : List UInt8 := [28, 184, 1, 236, 46, 184, 0, 172, 62, 132, 4, 1, 167, 255, 227, 29, 172]
abbrev dktX1_doneIn_1 : List UInt8 := dkwX1_doneIn_1 ++ []
def dkwX1_doneIn_0 : List UInt8 := [19, 1, 198, 62, 3, 54, 4, 21, 4, 42, 180, 0, 44, 162, 0, 26, 29, 42, 180, 0, 115, 27, 21, 4]
abbrev dktX1_doneIn_0 : List UInt8 := dkwX1_doneIn_0 ++ dktX1_doneIn_1
theorem dksX1_doneIn_0 : cX1_doneIn.data.toList.drop 0 = dktX1_doneIn_0 := by decide +kernel
theorem dksX1_doneIn_1 : cX1_doneIn.data.toList.drop 24 = dktX1_doneIn_1 := dk_seg dksX1_doneIn_0 24 rfl rfl
theorem dX1_doneIn_0 : decode cX1_doneIn 0 = .ok (.ldc_w 454, 3) := dk_19 1 198 (dk_at dksX1_doneIn_0 0 rfl rfl)
theorem dX1_doneIn_3 : decode cX1_doneIn 3 = .ok (.istore_n 3, 1) := dk_62 (dk_at dksX1_doneIn_0 3 rfl rfl)
theorem dX1_doneIn_4 : decode cX1_doneIn 4 = .ok (.iconst 0, 1) := dk_3 (dk_at dksX1_doneIn_0 4 rfl rfl)
theorem dX1_doneIn_5 : decode cX1_doneIn 5 = .ok (.istore 4, 2) := dk_54 4 (dk_at dksX1_doneIn_0 5 rfl rfl)
theorem dX1_doneIn_7 : decode cX1_doneIn 7 = .ok (.iload 4, 2) := dk_21 4 (dk_at dksX1_doneIn_0 7 rfl rfl)
theorem dX1_doneIn_9 : decode cX1_doneIn 9 = .ok (.aload_n 0, 1) := dk_42 (dk_at dksX1_doneIn_0 9 rfl rfl)
theorem dX1_doneIn_10 : decode cX1_doneIn 10 = .ok (.getfield 44, 3) := dk_180 0 44 (dk_at dksX1_doneIn_0 10 rfl rfl)
theorem dX1_doneIn_13 : decode cX1_doneIn 13 = .ok (.if_icmp .ge 26, 3) := dk_162 0 26 (dk_at dksX1_doneIn_0 13 rfl rfl)
theorem dX1_doneIn_16 : decode cX1_doneIn 16 = .ok (.iload_n 3, 1) := dk_29 (dk_at dksX1_doneIn_0 16 rfl rfl)
theorem dX1_doneIn_17 : decode cX1_doneIn 17 = .ok (.aload_n 0, 1) := dk_42 (dk_at dksX1_doneIn_0 17 rfl rfl)
theorem dX1_doneIn_18 : decode cX1_doneIn 18 = .ok (.getfield 115, 3) := dk_180 0 115 (dk_at dksX1_doneIn_0 18 rfl rfl)
theorem dX1_doneIn_21 : decode cX1_doneIn 21 = .ok (.iload_n 1, 1) := dk_27 (dk_at dksX1_doneIn_0 21 rfl rfl)
theorem dX1_doneIn_22 : decode cX1_doneIn 22 = .ok (.iload 4, 2) := dk_21 4 (dk_at dksX1_doneIn_0 22 rfl rfl)
theorem dX1_doneIn_24 : decode cX1_doneIn 24 = .ok (.iload_n 2, 1) := dk_28 (dk_at dksX1_doneIn_1 0 rfl rfl)
theorem dX1_doneIn_25 : decode cX1_doneIn 25 = .ok (.invokestatic 492, 3) := dk_184 1 236 (dk_at dksX1_doneIn_1 1 rfl rfl)
theorem dX1_doneIn_28 : decode cX1_doneIn 28 = .ok (.iaload, 1) := dk_46 (dk_at dksX1_doneIn_1 4 rfl rfl)
theorem dX1_doneIn_29 : decode cX1_doneIn 29 = .ok (.invokestatic 172, 3) := dk_184 0 172 (dk_at dksX1_doneIn_1 5 rfl rfl)
theorem dX1_doneIn_32 : decode cX1_doneIn 32 = .ok (.istore_n 3, 1) := dk_62 (dk_at dksX1_doneIn_1 8 rfl rfl)
theorem dX1_doneIn_33 : decode cX1_doneIn 33 = .ok (.iinc 4 1, 3) := dk_132 4 1 (dk_at dksX1_doneIn_1 9 rfl rfl)
theorem dX1_doneIn_36 : decode cX1_doneIn 36 = .ok (.goto (-29), 3) := dk_167 255 227 (dk_at dksX1_doneIn_1 12 rfl rfl)
theorem dX1_doneIn_39 : decode cX1_doneIn 39 = .ok (.iload_n 3, 1) := dk_29 (dk_at dksX1_doneIn_1 15 rfl rfl)
theorem dX1_doneIn_40 : decode cX1_doneIn 40 = .ok (.ireturn, 1) := dk_172 (dk_at dksX1_doneIn_1 16 rfl rfl)
def dkwX1_haste_3 : List UInt8 := [42, 29, 28, 182, 1, 254, 133, 182, 1, 136, 29, 172]
abbrev dktX1_haste_3 : List UInt8 := dkwX1_haste_3 ++ []
def dkwX1_haste_2 : List UInt8 := [161, 0, 9, 132, 3, 1, 167, 255, 235, 29, 16, 12, 164, 0, 6, 16, 254, 172, 42, 3, 181, 1, 133, 42]
abbrev dktX1_haste_2 : List UInt8 := dkwX1_haste_2 ++ dktX1_haste_3
def dkwX1_haste_1 : List UInt8 := [42, 27, 182, 1, 109, 128, 61, 3, 62, 29, 16, 12, 163, 0, 21, 42, 29, 28, 182, 1, 254, 19, 1, 198]
abbrev dktX1_haste_1 : List UInt8 := dkwX1_haste_1 ++ dktX1_haste_2
def dkwX1_haste_0 : List UInt8 := [42, 27, 182, 1, 106, 154, 0, 5, 2, 172, 42, 27, 16, 12, 182, 1, 251, 42, 180, 0, 12, 180, 1, 84]
abbrev dktX1_haste_0 : List UInt8 := dkwX1_haste_0 ++ dktX1_haste_1
theorem dksX1_haste_0 : cX1_haste.data.toList.drop 0 = dktX1_haste_0 := by decide +kernel
theorem dksX1_haste_1 : cX1_haste.data.toList.drop 24 = dktX1_haste_1 := dk_seg dksX1_haste_0 24 rfl rfl
theorem dksX1_haste_2 : cX1_haste.data.toList.drop 48 = dktX1_haste_2 := dk_seg dksX1_haste_1 24 rfl rfl
theorem dksX1_haste_3 : cX1_haste.data.toList.drop 72 = dktX1_haste_3 := dk_seg dksX1_haste_2 24 rfl rfl
theorem dX1_haste_0 : decode cX1_haste 0 = .ok (.aload_n 0, 1) := dk_42 (dk_at dksX1_haste_0 0 rfl rfl)
theorem dX1_haste_1 : decode cX1_haste 1 = .ok (.iload_n 1, 1) := dk_27 (dk_at dksX1_haste_0 1 rfl rfl)
theorem dX1_haste_2 : decode cX1_haste 2 = .ok (.invokevirtual 362, 3) := dk_182 1 106 (dk_at dksX1_haste_0 2 rfl rfl)
theorem dX1_haste_5 : decode cX1_haste 5 = .ok (.ifCond .ne 5, 3) := dk_154 0 5 (dk_at dksX1_haste_0 5 rfl rfl)
theorem dX1_haste_8 : decode cX1_haste 8 = .ok (.iconst (-1), 1) := dk_2 (dk_at dksX1_haste_0 8 rfl rfl)
theorem dX1_haste_9 : decode cX1_haste 9 = .ok (.ireturn, 1) := dk_172 (dk_at dksX1_haste_0 9 rfl rfl)
theorem dX1_haste_10 : decode cX1_haste 10 = .ok (.aload_n 0, 1) := dk_42 (dk_at dksX1_haste_0 10 rfl rfl)
theorem dX1_haste_11 : decode cX1_haste 11 = .ok (.iload_n 1, 1) := dk_27 (dk_at dksX1_haste_0 11 rfl rfl)
theorem dX1_haste_12 : decode cX1_haste 12 = .ok (.bipush 12, 2) := dk_16 12 (dk_at dksX1_haste_0 12 rfl rfl)
theorem dX1_haste_14 : decode cX1_haste 14 = .ok (.invokevirtual 507, 3) := dk_182 1 251 (dk_at dksX1_haste_0 14 rfl rfl)
theorem dX1_haste_17 : decode cX1_haste 17 = .ok (.aload_n 0, 1) := dk_42 (dk_at dksX1_haste_0 17 rfl rfl)
theorem dX1_haste_18 : decode cX1_haste 18 = .ok (.getfield 12, 3) := dk_180 0 12 (dk_at dksX1_haste_0 18 rfl rfl)
theorem dX1_haste_21 : decode cX1_haste 21 = .ok (.getfield 340, 3) := dk_180 1 84 (dk_at dksX1_haste_0 21 rfl rfl)
theorem dX1_haste_24 : decode cX1_haste 24 = .ok (.aload_n 0, 1) := dk_42 (dk_at dksX1_haste_1 0 rfl rfl)
theorem dX1_haste_25 : decode cX1_haste 25 = .ok (.iload_n 1, 1) := dk_27 (dk_at dksX1_haste_1 1 rfl rfl)
theorem dX1_haste_26 : decode cX1_haste 26 = .ok (.invokevirtual 365, 3) := dk_182 1 109 (dk_at dksX1_haste_1 2 rfl rfl)
theorem dX1_haste_29 : decode cX1_haste 29 = .ok (.ior, 1) := dk_128 (dk_at dksX1_haste_1 5 rfl rfl)
theorem dX1_haste_30 : decode cX1_haste 30 = .ok (.istore_n 2, 1) := dk_61 (dk_at dksX1_haste_1 6 rfl rfl)
theorem dX1_haste_31 : decode cX1_haste 31 = .ok (.iconst 0, 1) := dk_3 (dk_at dksX1_haste_1 7 rfl rfl)
theorem dX1_haste_32 : decode cX1_haste 32 = .ok (.istore_n 3, 1) := dk_62 (dk_at dksX1_haste_1 8 rfl rfl)
theorem dX1_haste_33 : decode cX1_haste 33 = .ok (.iload_n 3, 1) := dk_29 (dk_at dksX1_haste_1 9 rfl rfl)
theorem dX1_haste_34 : decode cX1_haste 34 = .ok (.bipush 12, 2) := dk_16 12 (dk_at dksX1_haste_1 10 rfl rfl)
theorem dX1_haste_36 : decode cX1_haste 36 = .ok (.if_icmp .gt 21, 3) := dk_163 0 21 (dk_at dksX1_haste_1 12 rfl rfl)
theorem dX1_haste_39 : decode cX1_haste 39 = .ok (.aload_n 0, 1) := dk_42 (dk_at dksX1_haste_1 15 rfl rfl)
theorem dX1_haste_40 : decode cX1_haste 40 = .ok (.iload_n 3, 1) := dk_29 (dk_at dksX1_haste_1 16 rfl rfl)
theorem dX1_haste_41 : decode cX1_haste 41 = .ok (.iload_n 2, 1) := dk_28 (dk_at dksX1_haste_1 17 rfl rfl)
theorem dX1_haste_42 : decode cX1_haste 42 = .ok (.invokevirtual 510, 3) := dk_182 1 254 (dk_at dksX1_haste_1 18 rfl rfl)
theorem dX1_haste_45 : decode cX1_haste 45 = .ok (.ldc_w 454, 3) := dk_19 1 198 (dk_at dksX1_haste_1 21 rfl rfl)
theorem dX1_haste_48 : decode cX1_haste 48 = .ok (.if_icmp .lt 9, 3) := dk_161 0 9 (dk_at dksX1_haste_2 0 rfl rfl)
theorem dX1_haste_51 : decode cX1_haste 51 = .ok (.iinc 3 1, 3) := dk_132 3 1 (dk_at dksX1_haste_2 3 rfl rfl)
theorem dX1_haste_54 : decode cX1_haste 54 = .ok (.goto (-21), 3) := dk_167 255 235 (dk_at dksX1_haste_2 6 rfl rfl)
theorem dX1_haste_57 : decode cX1_haste 57 = .ok (.iload_n 3, 1) := dk_29 (dk_at dksX1_haste_2 9 rfl rfl)
theorem dX1_haste_58 : decode cX1_haste 58 = .ok (.bipush 12, 2) := dk_16 12 (dk_at dksX1_haste_2 10 rfl rfl)
theorem dX1_haste_60 : decode cX1_haste 60 = .ok (.if_icmp .le 6, 3) := dk_164 0 6 (dk_at dksX1_haste_2 12 rfl rfl)
theorem dX1_haste_63 : decode cX1_haste 63 = .ok (.bipush (-2), 2) := dk_16 254 (dk_at dksX1_haste_2 15 rfl rfl)
theorem dX1_haste_65 : decode cX1_haste 65 = .ok (.ireturn, 1) := dk_172 (dk_at dksX1_haste_2 17 rfl rfl)
theorem dX1_haste_66 : decode cX1_haste 66 = .ok (.aload_n 0, 1) := dk_42 (dk_at dksX1_haste_2 18 rfl rfl)
theorem dX1_haste_67 : decode cX1_haste 67 = .ok (.iconst 0, 1) := dk_3 (dk_at dksX1_haste_2 19 rfl rfl)
theorem dX1_haste_68 : decode cX1_haste 68 = .ok (.putfield 389, 3) := dk_181 1 133 (dk_at dksX1_haste_2 20 rfl rfl)
theorem dX1_haste_71 : decode cX1_haste 71 = .ok (.aload_n 0, 1) := dk_42 (dk_at dksX1_haste_2 23 rfl rfl)
theorem dX1_haste_72 : decode cX1_haste 72 = .ok (.aload_n 0, 1) := dk_42 (dk_at dksX1_haste_3 0 rfl rfl)
theorem dX1_haste_73 : decode cX1_haste 73 = .ok (.iload_n 3, 1) := dk_29 (dk_at dksX1_haste_3 1 rfl rfl)
theorem dX1_haste_74 : decode cX1_haste 74 = .ok (.iload_n 2, 1) := dk_28 (dk_at dksX1_haste_3 2 rfl rfl)
theorem dX1_haste_75 : decode cX1_haste 75 = .ok (.invokevirtual 510, 3) := dk_182 1 254 (dk_at dksX1_haste_3 3 rfl rfl)
theorem dX1_haste_78 : decode cX1_haste 78 = .ok (.i2l, 1) := dk_133 (dk_at dksX1_haste_3 6 rfl rfl)
theorem dX1_haste_79 : decode cX1_haste 79 = .ok (.invokevirtual 392, 3) := dk_182 1 136 (dk_at dksX1_haste_3 7 rfl rfl)
theorem dX1_haste_82 : decode cX1_haste 82 = .ok (.iload_n 3, 1) := dk_29 (dk_at dksX1_haste_3 10 rfl rfl)
theorem dX1_haste_83 : decode cX1_haste 83 = .ok (.ireturn, 1) := dk_172 (dk_at dksX1_haste_3 11 rfl rfl)
def dkwX1_best_9 : List UInt8 := [21, 4, 182, 2, 4, 172]
abbrev dktX1_best_9 : List UInt8 := dkwX1_best_9 ++ []
def dkwX1_best_8 : List UInt8 := [181, 1, 133, 42, 21, 4, 133, 182, 1, 136, 42, 42, 21, 4, 28, 182, 2, 1, 133, 182, 1, 136, 42]
abbrev dktX1_best_8 : List UInt8 := dkwX1_best_8 ++ dktX1_best_9
def dkwX1_best_7 : List UInt8 := [182, 2, 1, 162, 0, 8, 21, 5, 167, 0, 5, 21, 4, 54, 4, 132, 5, 1, 167, 255, 165, 42, 3]
abbrev dktX1_best_7 : List UInt8 := dkwX1_best_7 ++ dktX1_best_8
def dkwX1_best_6 : List UInt8 := [54, 6, 21, 6, 157, 0, 25, 21, 6, 154, 0, 25, 42, 21, 5, 28, 182, 2, 1, 42, 21, 4, 28]
abbrev dktX1_best_6 : List UInt8 := dkwX1_best_6 ++ dktX1_best_7
def dkwX1_best_5 : List UInt8 := [180, 0, 246, 27, 46, 164, 0, 6, 167, 0, 54, 42, 21, 5, 182, 2, 4, 42, 21, 4, 182, 2, 4, 100]
abbrev dktX1_best_5 : List UInt8 := dkwX1_best_5 ++ dktX1_best_6
def dkwX1_best_4 : List UInt8 := [163, 0, 91, 21, 5, 29, 2, 130, 126, 154, 0, 76, 42, 21, 5, 28, 182, 2, 1, 42, 180, 0, 12]
abbrev dktX1_best_4 : List UInt8 := dkwX1_best_4 ++ dktX1_best_5
def dkwX1_best_3 : List UInt8 := [4, 21, 4, 120, 2, 130, 126, 62, 132, 4, 1, 167, 255, 204, 3, 54, 4, 4, 54, 5, 21, 5, 29]
abbrev dktX1_best_3 : List UInt8 := dkwX1_best_3 ++ dktX1_best_4
def dkwX1_best_2 : List UInt8 := [28, 160, 0, 23, 42, 42, 180, 0, 35, 21, 4, 46, 28, 3, 182, 1, 183, 155, 0, 7, 2, 167, 0, 9]
abbrev dktX1_best_2 : List UInt8 := dkwX1_best_2 ++ dktX1_best_3
def dkwX1_best_1 : List UInt8 := [182, 1, 109, 62, 3, 54, 4, 21, 4, 42, 180, 0, 252, 162, 0, 49, 29, 42, 180, 0, 38, 21, 4, 46]
abbrev dktX1_best_1 : List UInt8 := dkwX1_best_1 ++ dktX1_best_2
def dkwX1_best_0 : List UInt8 := [42, 27, 182, 1, 106, 154, 0, 5, 2, 172, 42, 180, 0, 12, 180, 0, 244, 27, 46, 61, 42, 27]
abbrev dktX1_best_0 : List UInt8 := dkwX1_best_0 ++ dktX1_best_1
theorem dksX1_best_0 : cX1_best.data.toList.drop 0 = dktX1_best_0 := by decide +kernel
theorem dksX1_best_1 : cX1_best.data.toList.drop 22 = dktX1_best_1 := dk_seg dksX1_best_0 22 rfl rfl
theorem dksX1_best_2 : cX1_best.data.toList.drop 46 = dktX1_best_2 := dk_seg dksX1_best_1 24 rfl rfl
theorem dksX1_best_3 : cX1_best.data.toList.drop 70 = dktX1_best_3 := dk_seg dksX1_best_2 24 rfl rfl
theorem dksX1_best_4 : cX1_best.data.toList.drop 93 = dktX1_best_4 := dk_seg dksX1_best_3 23 rfl rfl
theorem dksX1_best_5 : cX1_best.data.toList.drop 116 = dktX1_best_5 := dk_seg dksX1_best_4 23 rfl rfl
theorem dksX1_best_6 : cX1_best.data.toList.drop 140 = dktX1_best_6 := dk_seg dksX1_best_5 24 rfl rfl
theorem dksX1_best_7 : cX1_best.data.toList.drop 163 = dktX1_best_7 := dk_seg dksX1_best_6 23 rfl rfl
theorem dksX1_best_8 : cX1_best.data.toList.drop 186 = dktX1_best_8 := dk_seg dksX1_best_7 23 rfl rfl
theorem dksX1_best_9 : cX1_best.data.toList.drop 209 = dktX1_best_9 := dk_seg dksX1_best_8 23 rfl rfl
theorem dX1_best_0 : decode cX1_best 0 = .ok (.aload_n 0, 1) := dk_42 (dk_at dksX1_best_0 0 rfl rfl)
theorem dX1_best_1 : decode cX1_best 1 = .ok (.iload_n 1, 1) := dk_27 (dk_at dksX1_best_0 1 rfl rfl)
theorem dX1_best_2 : decode cX1_best 2 = .ok (.invokevirtual 362, 3) := dk_182 1 106 (dk_at dksX1_best_0 2 rfl rfl)
theorem dX1_best_5 : decode cX1_best 5 = .ok (.ifCond .ne 5, 3) := dk_154 0 5 (dk_at dksX1_best_0 5 rfl rfl)
theorem dX1_best_8 : decode cX1_best 8 = .ok (.iconst (-1), 1) := dk_2 (dk_at dksX1_best_0 8 rfl rfl)
theorem dX1_best_9 : decode cX1_best 9 = .ok (.ireturn, 1) := dk_172 (dk_at dksX1_best_0 9 rfl rfl)
theorem dX1_best_10 : decode cX1_best 10 = .ok (.aload_n 0, 1) := dk_42 (dk_at dksX1_best_0 10 rfl rfl)
theorem dX1_best_11 : decode cX1_best 11 = .ok (.getfield 12, 3) := dk_180 0 12 (dk_at dksX1_best_0 11 rfl rfl)
theorem dX1_best_14 : decode cX1_best 14 = .ok (.getfield 244, 3) := dk_180 0 244 (dk_at dksX1_best_0 14 rfl rfl)
theorem dX1_best_17 : decode cX1_best 17 = .ok (.iload_n 1, 1) := dk_27 (dk_at dksX1_best_0 17 rfl rfl)
theorem dX1_best_18 : decode cX1_best 18 = .ok (.iaload, 1) := dk_46 (dk_at dksX1_best_0 18 rfl rfl)
theorem dX1_best_19 : decode cX1_best 19 = .ok (.istore_n 2, 1) := dk_61 (dk_at dksX1_best_0 19 rfl rfl)
theorem dX1_best_20 : decode cX1_best 20 = .ok (.aload_n 0, 1) := dk_42 (dk_at dksX1_best_0 20 rfl rfl)
theorem dX1_best_21 : decode cX1_best 21 = .ok (.iload_n 1, 1) := dk_27 (dk_at dksX1_best_0 21 rfl rfl)
theorem dX1_best_22 : decode cX1_best 22 = .ok (.invokevirtual 365, 3) := dk_182 1 109 (dk_at dksX1_best_1 0 rfl rfl)
theorem dX1_best_25 : decode cX1_best 25 = .ok (.istore_n 3, 1) := dk_62 (dk_at dksX1_best_1 3 rfl rfl)
theorem dX1_best_26 : decode cX1_best 26 = .ok (.iconst 0, 1) := dk_3 (dk_at dksX1_best_1 4 rfl rfl)
theorem dX1_best_27 : decode cX1_best 27 = .ok (.istore 4, 2) := dk_54 4 (dk_at dksX1_best_1 5 rfl rfl)
theorem dX1_best_29 : decode cX1_best 29 = .ok (.iload 4, 2) := dk_21 4 (dk_at dksX1_best_1 7 rfl rfl)
theorem dX1_best_31 : decode cX1_best 31 = .ok (.aload_n 0, 1) := dk_42 (dk_at dksX1_best_1 9 rfl rfl)
theorem dX1_best_32 : decode cX1_best 32 = .ok (.getfield 252, 3) := dk_180 0 252 (dk_at dksX1_best_1 10 rfl rfl)
theorem dX1_best_35 : decode cX1_best 35 = .ok (.if_icmp .ge 49, 3) := dk_162 0 49 (dk_at dksX1_best_1 13 rfl rfl)
theorem dX1_best_38 : decode cX1_best 38 = .ok (.iload_n 3, 1) := dk_29 (dk_at dksX1_best_1 16 rfl rfl)
theorem dX1_best_39 : decode cX1_best 39 = .ok (.aload_n 0, 1) := dk_42 (dk_at dksX1_best_1 17 rfl rfl)
theorem dX1_best_40 : decode cX1_best 40 = .ok (.getfield 38, 3) := dk_180 0 38 (dk_at dksX1_best_1 18 rfl rfl)
theorem dX1_best_43 : decode cX1_best 43 = .ok (.iload 4, 2) := dk_21 4 (dk_at dksX1_best_1 21 rfl rfl)
theorem dX1_best_45 : decode cX1_best 45 = .ok (.iaload, 1) := dk_46 (dk_at dksX1_best_1 23 rfl rfl)
theorem dX1_best_46 : decode cX1_best 46 = .ok (.iload_n 2, 1) := dk_28 (dk_at dksX1_best_2 0 rfl rfl)
theorem dX1_best_47 : decode cX1_best 47 = .ok (.if_icmp .ne 23, 3) := dk_160 0 23 (dk_at dksX1_best_2 1 rfl rfl)
theorem dX1_best_50 : decode cX1_best 50 = .ok (.aload_n 0, 1) := dk_42 (dk_at dksX1_best_2 4 rfl rfl)
theorem dX1_best_51 : decode cX1_best 51 = .ok (.aload_n 0, 1) := dk_42 (dk_at dksX1_best_2 5 rfl rfl)
theorem dX1_best_52 : decode cX1_best 52 = .ok (.getfield 35, 3) := dk_180 0 35 (dk_at dksX1_best_2 6 rfl rfl)
theorem dX1_best_55 : decode cX1_best 55 = .ok (.iload 4, 2) := dk_21 4 (dk_at dksX1_best_2 9 rfl rfl)
theorem dX1_best_57 : decode cX1_best 57 = .ok (.iaload, 1) := dk_46 (dk_at dksX1_best_2 11 rfl rfl)
theorem dX1_best_58 : decode cX1_best 58 = .ok (.iload_n 2, 1) := dk_28 (dk_at dksX1_best_2 12 rfl rfl)
theorem dX1_best_59 : decode cX1_best 59 = .ok (.iconst 0, 1) := dk_3 (dk_at dksX1_best_2 13 rfl rfl)
theorem dX1_best_60 : decode cX1_best 60 = .ok (.invokevirtual 439, 3) := dk_182 1 183 (dk_at dksX1_best_2 14 rfl rfl)
theorem dX1_best_63 : decode cX1_best 63 = .ok (.ifCond .lt 7, 3) := dk_155 0 7 (dk_at dksX1_best_2 17 rfl rfl)
theorem dX1_best_66 : decode cX1_best 66 = .ok (.iconst (-1), 1) := dk_2 (dk_at dksX1_best_2 20 rfl rfl)
theorem dX1_best_67 : decode cX1_best 67 = .ok (.goto 9, 3) := dk_167 0 9 (dk_at dksX1_best_2 21 rfl rfl)
theorem dX1_best_70 : decode cX1_best 70 = .ok (.iconst 1, 1) := dk_4 (dk_at dksX1_best_3 0 rfl rfl)
theorem dX1_best_71 : decode cX1_best 71 = .ok (.iload 4, 2) := dk_21 4 (dk_at dksX1_best_3 1 rfl rfl)
theorem dX1_best_73 : decode cX1_best 73 = .ok (.ishl, 1) := dk_120 (dk_at dksX1_best_3 3 rfl rfl)
theorem dX1_best_74 : decode cX1_best 74 = .ok (.iconst (-1), 1) := dk_2 (dk_at dksX1_best_3 4 rfl rfl)
theorem dX1_best_75 : decode cX1_best 75 = .ok (.ixor, 1) := dk_130 (dk_at dksX1_best_3 5 rfl rfl)
theorem dX1_best_76 : decode cX1_best 76 = .ok (.iand, 1) := dk_126 (dk_at dksX1_best_3 6 rfl rfl)
theorem dX1_best_77 : decode cX1_best 77 = .ok (.istore_n 3, 1) := dk_62 (dk_at dksX1_best_3 7 rfl rfl)
theorem dX1_best_78 : decode cX1_best 78 = .ok (.iinc 4 1, 3) := dk_132 4 1 (dk_at dksX1_best_3 8 rfl rfl)
theorem dX1_best_81 : decode cX1_best 81 = .ok (.goto (-52), 3) := dk_167 255 204 (dk_at dksX1_best_3 11 rfl rfl)
theorem dX1_best_84 : decode cX1_best 84 = .ok (.iconst 0, 1) := dk_3 (dk_at dksX1_best_3 14 rfl rfl)
theorem dX1_best_85 : decode cX1_best 85 = .ok (.istore 4, 2) := dk_54 4 (dk_at dksX1_best_3 15 rfl rfl)
theorem dX1_best_87 : decode cX1_best 87 = .ok (.iconst 1, 1) := dk_4 (dk_at dksX1_best_3 17 rfl rfl)
theorem dX1_best_88 : decode cX1_best 88 = .ok (.istore 5, 2) := dk_54 5 (dk_at dksX1_best_3 18 rfl rfl)
theorem dX1_best_90 : decode cX1_best 90 = .ok (.iload 5, 2) := dk_21 5 (dk_at dksX1_best_3 20 rfl rfl)
theorem dX1_best_92 : decode cX1_best 92 = .ok (.iload_n 3, 1) := dk_29 (dk_at dksX1_best_3 22 rfl rfl)
theorem dX1_best_93 : decode cX1_best 93 = .ok (.if_icmp .gt 91, 3) := dk_163 0 91 (dk_at dksX1_best_4 0 rfl rfl)
theorem dX1_best_96 : decode cX1_best 96 = .ok (.iload 5, 2) := dk_21 5 (dk_at dksX1_best_4 3 rfl rfl)
theorem dX1_best_98 : decode cX1_best 98 = .ok (.iload_n 3, 1) := dk_29 (dk_at dksX1_best_4 5 rfl rfl)
theorem dX1_best_99 : decode cX1_best 99 = .ok (.iconst (-1), 1) := dk_2 (dk_at dksX1_best_4 6 rfl rfl)
theorem dX1_best_100 : decode cX1_best 100 = .ok (.ixor, 1) := dk_130 (dk_at dksX1_best_4 7 rfl rfl)
theorem dX1_best_101 : decode cX1_best 101 = .ok (.iand, 1) := dk_126 (dk_at dksX1_best_4 8 rfl rfl)
theorem dX1_best_102 : decode cX1_best 102 = .ok (.ifCond .ne 76, 3) := dk_154 0 76 (dk_at dksX1_best_4 9 rfl rfl)
theorem dX1_best_105 : decode cX1_best 105 = .ok (.aload_n 0, 1) := dk_42 (dk_at dksX1_best_4 12 rfl rfl)
theorem dX1_best_106 : decode cX1_best 106 = .ok (.iload 5, 2) := dk_21 5 (dk_at dksX1_best_4 13 rfl rfl)
theorem dX1_best_108 : decode cX1_best 108 = .ok (.iload_n 2, 1) := dk_28 (dk_at dksX1_best_4 15 rfl rfl)
theorem dX1_best_109 : decode cX1_best 109 = .ok (.invokevirtual 513, 3) := dk_182 2 1 (dk_at dksX1_best_4 16 rfl rfl)
theorem dX1_best_112 : decode cX1_best 112 = .ok (.aload_n 0, 1) := dk_42 (dk_at dksX1_best_4 19 rfl rfl)
theorem dX1_best_113 : decode cX1_best 113 = .ok (.getfield 12, 3) := dk_180 0 12 (dk_at dksX1_best_4 20 rfl rfl)
theorem dX1_best_116 : decode cX1_best 116 = .ok (.getfield 246, 3) := dk_180 0 246 (dk_at dksX1_best_5 0 rfl rfl)
theorem dX1_best_119 : decode cX1_best 119 = .ok (.iload_n 1, 1) := dk_27 (dk_at dksX1_best_5 3 rfl rfl)
theorem dX1_best_120 : decode cX1_best 120 = .ok (.iaload, 1) := dk_46 (dk_at dksX1_best_5 4 rfl rfl)
theorem dX1_best_121 : decode cX1_best 121 = .ok (.if_icmp .le 6, 3) := dk_164 0 6 (dk_at dksX1_best_5 5 rfl rfl)
theorem dX1_best_124 : decode cX1_best 124 = .ok (.goto 54, 3) := dk_167 0 54 (dk_at dksX1_best_5 8 rfl rfl)
theorem dX1_best_127 : decode cX1_best 127 = .ok (.aload_n 0, 1) := dk_42 (dk_at dksX1_best_5 11 rfl rfl)
theorem dX1_best_128 : decode cX1_best 128 = .ok (.iload 5, 2) := dk_21 5 (dk_at dksX1_best_5 12 rfl rfl)
theorem dX1_best_130 : decode cX1_best 130 = .ok (.invokevirtual 516, 3) := dk_182 2 4 (dk_at dksX1_best_5 14 rfl rfl)
theorem dX1_best_133 : decode cX1_best 133 = .ok (.aload_n 0, 1) := dk_42 (dk_at dksX1_best_5 17 rfl rfl)
theorem dX1_best_134 : decode cX1_best 134 = .ok (.iload 4, 2) := dk_21 4 (dk_at dksX1_best_5 18 rfl rfl)
theorem dX1_best_136 : decode cX1_best 136 = .ok (.invokevirtual 516, 3) := dk_182 2 4 (dk_at dksX1_best_5 20 rfl rfl)
theorem dX1_best_139 : decode cX1_best 139 = .ok (.isub, 1) := dk_100 (dk_at dksX1_best_5 23 rfl rfl)
theorem dX1_best_140 : decode cX1_best 140 = .ok (.istore 6, 2) := dk_54 6 (dk_at dksX1_best_6 0 rfl rfl)
theorem dX1_best_142 : decode cX1_best 142 = .ok (.iload 6, 2) := dk_21 6 (dk_at dksX1_best_6 2 rfl rfl)
theorem dX1_best_144 : decode cX1_best 144 = .ok (.ifCond .gt 25, 3) := dk_157 0 25 (dk_at dksX1_best_6 4 rfl rfl)
theorem dX1_best_147 : decode cX1_best 147 = .ok (.iload 6, 2) := dk_21 6 (dk_at dksX1_best_6 7 rfl rfl)
theorem dX1_best_149 : decode cX1_best 149 = .ok (.ifCond .ne 25, 3) := dk_154 0 25 (dk_at dksX1_best_6 9 rfl rfl)
theorem dX1_best_152 : decode cX1_best 152 = .ok (.aload_n 0, 1) := dk_42 (dk_at dksX1_best_6 12 rfl rfl)
theorem dX1_best_153 : decode cX1_best 153 = .ok (.iload 5, 2) := dk_21 5 (dk_at dksX1_best_6 13 rfl rfl)
theorem dX1_best_155 : decode cX1_best 155 = .ok (.iload_n 2, 1) := dk_28 (dk_at dksX1_best_6 15 rfl rfl)
theorem dX1_best_156 : decode cX1_best 156 = .ok (.invokevirtual 513, 3) := dk_182 2 1 (dk_at dksX1_best_6 16 rfl rfl)
theorem dX1_best_159 : decode cX1_best 159 = .ok (.aload_n 0, 1) := dk_42 (dk_at dksX1_best_6 19 rfl rfl)
theorem dX1_best_160 : decode cX1_best 160 = .ok (.iload 4, 2) := dk_21 4 (dk_at dksX1_best_6 20 rfl rfl)
theorem dX1_best_162 : decode cX1_best 162 = .ok (.iload_n 2, 1) := dk_28 (dk_at dksX1_best_6 22 rfl rfl)
theorem dX1_best_163 : decode cX1_best 163 = .ok (.invokevirtual 513, 3) := dk_182 2 1 (dk_at dksX1_best_7 0 rfl rfl)
theorem dX1_best_166 : decode cX1_best 166 = .ok (.if_icmp .ge 8, 3) := dk_162 0 8 (dk_at dksX1_best_7 3 rfl rfl)
theorem dX1_best_169 : decode cX1_best 169 = .ok (.iload 5, 2) := dk_21 5 (dk_at dksX1_best_7 6 rfl rfl)
theorem dX1_best_171 : decode cX1_best 171 = .ok (.goto 5, 3) := dk_167 0 5 (dk_at dksX1_best_7 8 rfl rfl)
theorem dX1_best_174 : decode cX1_best 174 = .ok (.iload 4, 2) := dk_21 4 (dk_at dksX1_best_7 11 rfl rfl)
theorem dX1_best_176 : decode cX1_best 176 = .ok (.istore 4, 2) := dk_54 4 (dk_at dksX1_best_7 13 rfl rfl)
theorem dX1_best_178 : decode cX1_best 178 = .ok (.iinc 5 1, 3) := dk_132 5 1 (dk_at dksX1_best_7 15 rfl rfl)
theorem dX1_best_181 : decode cX1_best 181 = .ok (.goto (-91), 3) := dk_167 255 165 (dk_at dksX1_best_7 18 rfl rfl)
theorem dX1_best_184 : decode cX1_best 184 = .ok (.aload_n 0, 1) := dk_42 (dk_at dksX1_best_7 21 rfl rfl)
theorem dX1_best_185 : decode cX1_best 185 = .ok (.iconst 0, 1) := dk_3 (dk_at dksX1_best_7 22 rfl rfl)
theorem dX1_best_186 : decode cX1_best 186 = .ok (.putfield 389, 3) := dk_181 1 133 (dk_at dksX1_best_8 0 rfl rfl)
theorem dX1_best_189 : decode cX1_best 189 = .ok (.aload_n 0, 1) := dk_42 (dk_at dksX1_best_8 3 rfl rfl)
theorem dX1_best_190 : decode cX1_best 190 = .ok (.iload 4, 2) := dk_21 4 (dk_at dksX1_best_8 4 rfl rfl)
theorem dX1_best_192 : decode cX1_best 192 = .ok (.i2l, 1) := dk_133 (dk_at dksX1_best_8 6 rfl rfl)
theorem dX1_best_193 : decode cX1_best 193 = .ok (.invokevirtual 392, 3) := dk_182 1 136 (dk_at dksX1_best_8 7 rfl rfl)
theorem dX1_best_196 : decode cX1_best 196 = .ok (.aload_n 0, 1) := dk_42 (dk_at dksX1_best_8 10 rfl rfl)
theorem dX1_best_197 : decode cX1_best 197 = .ok (.aload_n 0, 1) := dk_42 (dk_at dksX1_best_8 11 rfl rfl)
theorem dX1_best_198 : decode cX1_best 198 = .ok (.iload 4, 2) := dk_21 4 (dk_at dksX1_best_8 12 rfl rfl)
theorem dX1_best_200 : decode cX1_best 200 = .ok (.iload_n 2, 1) := dk_28 (dk_at dksX1_best_8 14 rfl rfl)
theorem dX1_best_201 : decode cX1_best 201 = .ok (.invokevirtual 513, 3) := dk_182 2 1 (dk_at dksX1_best_8 15 rfl rfl)
theorem dX1_best_204 : decode cX1_best 204 = .ok (.i2l, 1) := dk_133 (dk_at dksX1_best_8 18 rfl rfl)
theorem dX1_best_205 : decode cX1_best 205 = .ok (.invokevirtual 392, 3) := dk_182 1 136 (dk_at dksX1_best_8 19 rfl rfl)
theorem dX1_best_208 : decode cX1_best 208 = .ok (.aload_n 0, 1) := dk_42 (dk_at dksX1_best_8 22 rfl rfl)
theorem dX1_best_209 : decode cX1_best 209 = .ok (.iload 4, 2) := dk_21 4 (dk_at dksX1_best_9 0 rfl rfl)
theorem dX1_best_211 : decode cX1_best 211 = .ok (.invokevirtual 516, 3) := dk_182 2 4 (dk_at dksX1_best_9 2 rfl rfl)
theorem dX1_best_214 : decode cX1_best 214 = .ok (.ireturn, 1) := dk_172 (dk_at dksX1_best_9 5 rfl rfl)
def dkwX1_costOf_2 : List UInt8 := [132, 4, 1, 167, 255, 210, 29, 172]
abbrev dktX1_costOf_2 : List UInt8 := dkwX1_costOf_2 ++ []
def dkwX1_costOf_1 : List UInt8 := [42, 42, 42, 180, 0, 35, 21, 4, 46, 28, 3, 182, 1, 183, 28, 182, 1, 199, 167, 0, 4, 3, 96, 62]
abbrev dktX1_costOf_1 : List UInt8 := dkwX1_costOf_1 ++ dktX1_costOf_2
def dkwX1_costOf_0 : List UInt8 := [3, 62, 3, 54, 4, 21, 4, 42, 180, 0, 252, 162, 0, 43, 29, 27, 21, 4, 184, 1, 87, 153, 0, 24]
abbrev dktX1_costOf_0 : List UInt8 := dkwX1_costOf_0 ++ dktX1_costOf_1
theorem dksX1_costOf_0 : cX1_costOf.data.toList.drop 0 = dktX1_costOf_0 := by decide +kernel
theorem dksX1_costOf_1 : cX1_costOf.data.toList.drop 24 = dktX1_costOf_1 := dk_seg dksX1_costOf_0 24 rfl rfl
theorem dksX1_costOf_2 : cX1_costOf.data.toList.drop 48 = dktX1_costOf_2 := dk_seg dksX1_costOf_1 24 rfl rfl
theorem dX1_costOf_0 : decode cX1_costOf 0 = .ok (.iconst 0, 1) := dk_3 (dk_at dksX1_costOf_0 0 rfl rfl)
theorem dX1_costOf_1 : decode cX1_costOf 1 = .ok (.istore_n 3, 1) := dk_62 (dk_at dksX1_costOf_0 1 rfl rfl)
theorem dX1_costOf_2 : decode cX1_costOf 2 = .ok (.iconst 0, 1) := dk_3 (dk_at dksX1_costOf_0 2 rfl rfl)
theorem dX1_costOf_3 : decode cX1_costOf 3 = .ok (.istore 4, 2) := dk_54 4 (dk_at dksX1_costOf_0 3 rfl rfl)
theorem dX1_costOf_5 : decode cX1_costOf 5 = .ok (.iload 4, 2) := dk_21 4 (dk_at dksX1_costOf_0 5 rfl rfl)
theorem dX1_costOf_7 : decode cX1_costOf 7 = .ok (.aload_n 0, 1) := dk_42 (dk_at dksX1_costOf_0 7 rfl rfl)
theorem dX1_costOf_8 : decode cX1_costOf 8 = .ok (.getfield 252, 3) := dk_180 0 252 (dk_at dksX1_costOf_0 8 rfl rfl)
theorem dX1_costOf_11 : decode cX1_costOf 11 = .ok (.if_icmp .ge 43, 3) := dk_162 0 43 (dk_at dksX1_costOf_0 11 rfl rfl)
theorem dX1_costOf_14 : decode cX1_costOf 14 = .ok (.iload_n 3, 1) := dk_29 (dk_at dksX1_costOf_0 14 rfl rfl)
theorem dX1_costOf_15 : decode cX1_costOf 15 = .ok (.iload_n 1, 1) := dk_27 (dk_at dksX1_costOf_0 15 rfl rfl)
theorem dX1_costOf_16 : decode cX1_costOf 16 = .ok (.iload 4, 2) := dk_21 4 (dk_at dksX1_costOf_0 16 rfl rfl)
theorem dX1_costOf_18 : decode cX1_costOf 18 = .ok (.invokestatic 343, 3) := dk_184 1 87 (dk_at dksX1_costOf_0 18 rfl rfl)
theorem dX1_costOf_21 : decode cX1_costOf 21 = .ok (.ifCond .eq 24, 3) := dk_153 0 24 (dk_at dksX1_costOf_0 21 rfl rfl)
theorem dX1_costOf_24 : decode cX1_costOf 24 = .ok (.aload_n 0, 1) := dk_42 (dk_at dksX1_costOf_1 0 rfl rfl)
theorem dX1_costOf_25 : decode cX1_costOf 25 = .ok (.aload_n 0, 1) := dk_42 (dk_at dksX1_costOf_1 1 rfl rfl)
theorem dX1_costOf_26 : decode cX1_costOf 26 = .ok (.aload_n 0, 1) := dk_42 (dk_at dksX1_costOf_1 2 rfl rfl)
theorem dX1_costOf_27 : decode cX1_costOf 27 = .ok (.getfield 35, 3) := dk_180 0 35 (dk_at dksX1_costOf_1 3 rfl rfl)
theorem dX1_costOf_30 : decode cX1_costOf 30 = .ok (.iload 4, 2) := dk_21 4 (dk_at dksX1_costOf_1 6 rfl rfl)
theorem dX1_costOf_32 : decode cX1_costOf 32 = .ok (.iaload, 1) := dk_46 (dk_at dksX1_costOf_1 8 rfl rfl)
theorem dX1_costOf_33 : decode cX1_costOf 33 = .ok (.iload_n 2, 1) := dk_28 (dk_at dksX1_costOf_1 9 rfl rfl)
theorem dX1_costOf_34 : decode cX1_costOf 34 = .ok (.iconst 0, 1) := dk_3 (dk_at dksX1_costOf_1 10 rfl rfl)
theorem dX1_costOf_35 : decode cX1_costOf 35 = .ok (.invokevirtual 439, 3) := dk_182 1 183 (dk_at dksX1_costOf_1 11 rfl rfl)
theorem dX1_costOf_38 : decode cX1_costOf 38 = .ok (.iload_n 2, 1) := dk_28 (dk_at dksX1_costOf_1 14 rfl rfl)
theorem dX1_costOf_39 : decode cX1_costOf 39 = .ok (.invokevirtual 455, 3) := dk_182 1 199 (dk_at dksX1_costOf_1 15 rfl rfl)
theorem dX1_costOf_42 : decode cX1_costOf 42 = .ok (.goto 4, 3) := dk_167 0 4 (dk_at dksX1_costOf_1 18 rfl rfl)
theorem dX1_costOf_45 : decode cX1_costOf 45 = .ok (.iconst 0, 1) := dk_3 (dk_at dksX1_costOf_1 21 rfl rfl)
theorem dX1_costOf_46 : decode cX1_costOf 46 = .ok (.iadd, 1) := dk_96 (dk_at dksX1_costOf_1 22 rfl rfl)
theorem dX1_costOf_47 : decode cX1_costOf 47 = .ok (.istore_n 3, 1) := dk_62 (dk_at dksX1_costOf_1 23 rfl rfl)
theorem dX1_costOf_48 : decode cX1_costOf 48 = .ok (.iinc 4 1, 3) := dk_132 4 1 (dk_at dksX1_costOf_2 0 rfl rfl)
theorem dX1_costOf_51 : decode cX1_costOf 51 = .ok (.goto (-46), 3) := dk_167 255 210 (dk_at dksX1_costOf_2 3 rfl rfl)
theorem dX1_costOf_54 : decode cX1_costOf 54 = .ok (.iload_n 3, 1) := dk_29 (dk_at dksX1_costOf_2 6 rfl rfl)
theorem dX1_costOf_55 : decode cX1_costOf 55 = .ok (.ireturn, 1) := dk_172 (dk_at dksX1_costOf_2 7 rfl rfl)
def dkwX1_worthOf_1 : List UInt8 := [180, 0, 41, 29, 46, 167, 0, 4, 3, 96, 61, 132, 3, 1, 167, 255, 224, 28, 172]
abbrev dktX1_worthOf_1 : List UInt8 := dkwX1_worthOf_1 ++ []
def dkwX1_worthOf_0 : List UInt8 := [3, 61, 3, 62, 29, 42, 180, 0, 252, 162, 0, 30, 28, 27, 29, 184, 1, 87, 153, 0, 12, 42]
abbrev dktX1_worthOf_0 : List UInt8 := dkwX1_worthOf_0 ++ dktX1_worthOf_1
theorem dksX1_worthOf_0 : cX1_worthOf.data.toList.drop 0 = dktX1_worthOf_0 := by decide +kernel
theorem dksX1_worthOf_1 : cX1_worthOf.data.toList.drop 22 = dktX1_worthOf_1 := dk_seg dksX1_worthOf_0 22 rfl rfl
theorem dX1_worthOf_0 : decode cX1_worthOf 0 = .ok (.iconst 0, 1) := dk_3 (dk_at dksX1_worthOf_0 0 rfl rfl)
theorem dX1_worthOf_1 : decode cX1_worthOf 1 = .ok (.istore_n 2, 1) := dk_61 (dk_at dksX1_worthOf_0 1 rfl rfl)
theorem dX1_worthOf_2 : decode cX1_worthOf 2 = .ok (.iconst 0, 1) := dk_3 (dk_at dksX1_worthOf_0 2 rfl rfl)
theorem dX1_worthOf_3 : decode cX1_worthOf 3 = .ok (.istore_n 3, 1) := dk_62 (dk_at dksX1_worthOf_0 3 rfl rfl)
theorem dX1_worthOf_4 : decode cX1_worthOf 4 = .ok (.iload_n 3, 1) := dk_29 (dk_at dksX1_worthOf_0 4 rfl rfl)
theorem dX1_worthOf_5 : decode cX1_worthOf 5 = .ok (.aload_n 0, 1) := dk_42 (dk_at dksX1_worthOf_0 5 rfl rfl)
theorem dX1_worthOf_6 : decode cX1_worthOf 6 = .ok (.getfield 252, 3) := dk_180 0 252 (dk_at dksX1_worthOf_0 6 rfl rfl)
theorem dX1_worthOf_9 : decode cX1_worthOf 9 = .ok (.if_icmp .ge 30, 3) := dk_162 0 30 (dk_at dksX1_worthOf_0 9 rfl rfl)
theorem dX1_worthOf_12 : decode cX1_worthOf 12 = .ok (.iload_n 2, 1) := dk_28 (dk_at dksX1_worthOf_0 12 rfl rfl)
theorem dX1_worthOf_13 : decode cX1_worthOf 13 = .ok (.iload_n 1, 1) := dk_27 (dk_at dksX1_worthOf_0 13 rfl rfl)
theorem dX1_worthOf_14 : decode cX1_worthOf 14 = .ok (.iload_n 3, 1) := dk_29 (dk_at dksX1_worthOf_0 14 rfl rfl)
theorem dX1_worthOf_15 : decode cX1_worthOf 15 = .ok (.invokestatic 343, 3) := dk_184 1 87 (dk_at dksX1_worthOf_0 15 rfl rfl)
theorem dX1_worthOf_18 : decode cX1_worthOf 18 = .ok (.ifCond .eq 12, 3) := dk_153 0 12 (dk_at dksX1_worthOf_0 18 rfl rfl)
theorem dX1_worthOf_21 : decode cX1_worthOf 21 = .ok (.aload_n 0, 1) := dk_42 (dk_at dksX1_worthOf_0 21 rfl rfl)
theorem dX1_worthOf_22 : decode cX1_worthOf 22 = .ok (.getfield 41, 3) := dk_180 0 41 (dk_at dksX1_worthOf_1 0 rfl rfl)
theorem dX1_worthOf_25 : decode cX1_worthOf 25 = .ok (.iload_n 3, 1) := dk_29 (dk_at dksX1_worthOf_1 3 rfl rfl)
theorem dX1_worthOf_26 : decode cX1_worthOf 26 = .ok (.iaload, 1) := dk_46 (dk_at dksX1_worthOf_1 4 rfl rfl)
theorem dX1_worthOf_27 : decode cX1_worthOf 27 = .ok (.goto 4, 3) := dk_167 0 4 (dk_at dksX1_worthOf_1 5 rfl rfl)
theorem dX1_worthOf_30 : decode cX1_worthOf 30 = .ok (.iconst 0, 1) := dk_3 (dk_at dksX1_worthOf_1 8 rfl rfl)
theorem dX1_worthOf_31 : decode cX1_worthOf 31 = .ok (.iadd, 1) := dk_96 (dk_at dksX1_worthOf_1 9 rfl rfl)
theorem dX1_worthOf_32 : decode cX1_worthOf 32 = .ok (.istore_n 2, 1) := dk_61 (dk_at dksX1_worthOf_1 10 rfl rfl)
theorem dX1_worthOf_33 : decode cX1_worthOf 33 = .ok (.iinc 3 1, 3) := dk_132 3 1 (dk_at dksX1_worthOf_1 11 rfl rfl)
theorem dX1_worthOf_36 : decode cX1_worthOf 36 = .ok (.goto (-32), 3) := dk_167 255 224 (dk_at dksX1_worthOf_1 14 rfl rfl)
theorem dX1_worthOf_39 : decode cX1_worthOf 39 = .ok (.iload_n 2, 1) := dk_28 (dk_at dksX1_worthOf_1 17 rfl rfl)
theorem dX1_worthOf_40 : decode cX1_worthOf 40 = .ok (.ireturn, 1) := dk_172 (dk_at dksX1_worthOf_1 18 rfl rfl)
def dkwX1_takes_1 : List UInt8 := [28, 182, 2, 10, 62, 42, 3, 181, 1, 133, 42, 42, 180, 2, 7, 133, 182, 1, 136, 29, 172]
abbrev dktX1_takes_1 : List UInt8 := dkwX1_takes_1 ++ []
def dkwX1_takes_0 : List UInt8 := [42, 27, 182, 1, 112, 153, 0, 15, 28, 133, 9, 20, 1, 166, 184, 0, 141, 154, 0, 5, 2, 172, 42, 27]
abbrev dktX1_takes_0 : List UInt8 := dkwX1_takes_0 ++ dktX1_takes_1
theorem dksX1_takes_0 : cX1_takes.data.toList.drop 0 = dktX1_takes_0 := by decide +kernel
theorem dksX1_takes_1 : cX1_takes.data.toList.drop 24 = dktX1_takes_1 := dk_seg dksX1_takes_0 24 rfl rfl
theorem dX1_takes_0 : decode cX1_takes 0 = .ok (.aload_n 0, 1) := dk_42 (dk_at dksX1_takes_0 0 rfl rfl)
theorem dX1_takes_1 : decode cX1_takes 1 = .ok (.iload_n 1, 1) := dk_27 (dk_at dksX1_takes_0 1 rfl rfl)
theorem dX1_takes_2 : decode cX1_takes 2 = .ok (.invokevirtual 368, 3) := dk_182 1 112 (dk_at dksX1_takes_0 2 rfl rfl)
theorem dX1_takes_5 : decode cX1_takes 5 = .ok (.ifCond .eq 15, 3) := dk_153 0 15 (dk_at dksX1_takes_0 5 rfl rfl)
theorem dX1_takes_8 : decode cX1_takes 8 = .ok (.iload_n 2, 1) := dk_28 (dk_at dksX1_takes_0 8 rfl rfl)
theorem dX1_takes_9 : decode cX1_takes 9 = .ok (.i2l, 1) := dk_133 (dk_at dksX1_takes_0 9 rfl rfl)
theorem dX1_takes_10 : decode cX1_takes 10 = .ok (.lconst 0, 1) := dk_9 (dk_at dksX1_takes_0 10 rfl rfl)
theorem dX1_takes_11 : decode cX1_takes 11 = .ok (.ldc2_w 422, 3) := dk_20 1 166 (dk_at dksX1_takes_0 11 rfl rfl)
theorem dX1_takes_14 : decode cX1_takes 14 = .ok (.invokestatic 141, 3) := dk_184 0 141 (dk_at dksX1_takes_0 14 rfl rfl)
theorem dX1_takes_17 : decode cX1_takes 17 = .ok (.ifCond .ne 5, 3) := dk_154 0 5 (dk_at dksX1_takes_0 17 rfl rfl)
theorem dX1_takes_20 : decode cX1_takes 20 = .ok (.iconst (-1), 1) := dk_2 (dk_at dksX1_takes_0 20 rfl rfl)
theorem dX1_takes_21 : decode cX1_takes 21 = .ok (.ireturn, 1) := dk_172 (dk_at dksX1_takes_0 21 rfl rfl)
theorem dX1_takes_22 : decode cX1_takes 22 = .ok (.aload_n 0, 1) := dk_42 (dk_at dksX1_takes_0 22 rfl rfl)
theorem dX1_takes_23 : decode cX1_takes 23 = .ok (.iload_n 1, 1) := dk_27 (dk_at dksX1_takes_0 23 rfl rfl)
theorem dX1_takes_24 : decode cX1_takes 24 = .ok (.iload_n 2, 1) := dk_28 (dk_at dksX1_takes_1 0 rfl rfl)
theorem dX1_takes_25 : decode cX1_takes 25 = .ok (.invokevirtual 522, 3) := dk_182 2 10 (dk_at dksX1_takes_1 1 rfl rfl)
theorem dX1_takes_28 : decode cX1_takes 28 = .ok (.istore_n 3, 1) := dk_62 (dk_at dksX1_takes_1 4 rfl rfl)
theorem dX1_takes_29 : decode cX1_takes 29 = .ok (.aload_n 0, 1) := dk_42 (dk_at dksX1_takes_1 5 rfl rfl)
theorem dX1_takes_30 : decode cX1_takes 30 = .ok (.iconst 0, 1) := dk_3 (dk_at dksX1_takes_1 6 rfl rfl)
theorem dX1_takes_31 : decode cX1_takes 31 = .ok (.putfield 389, 3) := dk_181 1 133 (dk_at dksX1_takes_1 7 rfl rfl)
theorem dX1_takes_34 : decode cX1_takes 34 = .ok (.aload_n 0, 1) := dk_42 (dk_at dksX1_takes_1 10 rfl rfl)
theorem dX1_takes_35 : decode cX1_takes 35 = .ok (.aload_n 0, 1) := dk_42 (dk_at dksX1_takes_1 11 rfl rfl)
theorem dX1_takes_36 : decode cX1_takes 36 = .ok (.getfield 519, 3) := dk_180 2 7 (dk_at dksX1_takes_1 12 rfl rfl)
theorem dX1_takes_39 : decode cX1_takes 39 = .ok (.i2l, 1) := dk_133 (dk_at dksX1_takes_1 15 rfl rfl)
theorem dX1_takes_40 : decode cX1_takes 40 = .ok (.invokevirtual 392, 3) := dk_182 1 136 (dk_at dksX1_takes_1 16 rfl rfl)
theorem dX1_takes_43 : decode cX1_takes 43 = .ok (.iload_n 3, 1) := dk_29 (dk_at dksX1_takes_1 19 rfl rfl)
theorem dX1_takes_44 : decode cX1_takes 44 = .ok (.ireturn, 1) := dk_172 (dk_at dksX1_takes_1 20 rfl rfl)
def dkwX1_comesIn_5 : List UInt8 := [181, 2, 7, 29, 21, 6, 96, 62, 132, 4, 1, 167, 255, 140, 29, 172]
abbrev dktX1_comesIn_5 : List UInt8 := dkwX1_comesIn_5 ++ []
def dkwX1_comesIn_4 : List UInt8 := [21, 6, 42, 180, 0, 41, 21, 4, 46, 164, 0, 6, 167, 0, 18, 42, 89, 180, 2, 7, 4, 96]
abbrev dktX1_comesIn_4 : List UInt8 := dkwX1_comesIn_4 ++ dktX1_comesIn_5
def dkwX1_comesIn_3 : List UInt8 := [19, 1, 198, 167, 0, 19, 42, 21, 5, 27, 182, 1, 199, 28, 42, 21, 5, 182, 1, 100, 104, 96, 54, 6]
abbrev dktX1_comesIn_3 : List UInt8 := dkwX1_comesIn_3 ++ dktX1_comesIn_4
def dkwX1_comesIn_2 : List UInt8 := [180, 0, 35, 21, 4, 46, 27, 28, 182, 1, 183, 167, 0, 4, 2, 54, 5, 21, 5, 156, 0, 9]
abbrev dktX1_comesIn_2 : List UInt8 := dkwX1_comesIn_2 ++ dktX1_comesIn_3
def dkwX1_comesIn_1 : List UInt8 := [21, 4, 46, 27, 160, 0, 34, 42, 180, 0, 12, 180, 1, 84, 21, 4, 184, 1, 87, 154, 0, 19, 42, 42]
abbrev dktX1_comesIn_1 : List UInt8 := dkwX1_comesIn_1 ++ dktX1_comesIn_2
def dkwX1_comesIn_0 : List UInt8 := [42, 3, 181, 2, 7, 3, 62, 3, 54, 4, 21, 4, 42, 180, 0, 252, 162, 0, 113, 42, 180, 0, 38]
abbrev dktX1_comesIn_0 : List UInt8 := dkwX1_comesIn_0 ++ dktX1_comesIn_1
theorem dksX1_comesIn_0 : cX1_comesIn.data.toList.drop 0 = dktX1_comesIn_0 := by decide +kernel
theorem dksX1_comesIn_1 : cX1_comesIn.data.toList.drop 23 = dktX1_comesIn_1 := dk_seg dksX1_comesIn_0 23 rfl rfl
theorem dksX1_comesIn_2 : cX1_comesIn.data.toList.drop 47 = dktX1_comesIn_2 := dk_seg dksX1_comesIn_1 24 rfl rfl
theorem dksX1_comesIn_3 : cX1_comesIn.data.toList.drop 69 = dktX1_comesIn_3 := dk_seg dksX1_comesIn_2 22 rfl rfl
theorem dksX1_comesIn_4 : cX1_comesIn.data.toList.drop 93 = dktX1_comesIn_4 := dk_seg dksX1_comesIn_3 24 rfl rfl
theorem dksX1_comesIn_5 : cX1_comesIn.data.toList.drop 115 = dktX1_comesIn_5 := dk_seg dksX1_comesIn_4 22 rfl rfl
theorem dX1_comesIn_0 : decode cX1_comesIn 0 = .ok (.aload_n 0, 1) := dk_42 (dk_at dksX1_comesIn_0 0 rfl rfl)
theorem dX1_comesIn_1 : decode cX1_comesIn 1 = .ok (.iconst 0, 1) := dk_3 (dk_at dksX1_comesIn_0 1 rfl rfl)
theorem dX1_comesIn_2 : decode cX1_comesIn 2 = .ok (.putfield 519, 3) := dk_181 2 7 (dk_at dksX1_comesIn_0 2 rfl rfl)
theorem dX1_comesIn_5 : decode cX1_comesIn 5 = .ok (.iconst 0, 1) := dk_3 (dk_at dksX1_comesIn_0 5 rfl rfl)
theorem dX1_comesIn_6 : decode cX1_comesIn 6 = .ok (.istore_n 3, 1) := dk_62 (dk_at dksX1_comesIn_0 6 rfl rfl)
theorem dX1_comesIn_7 : decode cX1_comesIn 7 = .ok (.iconst 0, 1) := dk_3 (dk_at dksX1_comesIn_0 7 rfl rfl)
theorem dX1_comesIn_8 : decode cX1_comesIn 8 = .ok (.istore 4, 2) := dk_54 4 (dk_at dksX1_comesIn_0 8 rfl rfl)
theorem dX1_comesIn_10 : decode cX1_comesIn 10 = .ok (.iload 4, 2) := dk_21 4 (dk_at dksX1_comesIn_0 10 rfl rfl)
theorem dX1_comesIn_12 : decode cX1_comesIn 12 = .ok (.aload_n 0, 1) := dk_42 (dk_at dksX1_comesIn_0 12 rfl rfl)
theorem dX1_comesIn_13 : decode cX1_comesIn 13 = .ok (.getfield 252, 3) := dk_180 0 252 (dk_at dksX1_comesIn_0 13 rfl rfl)
theorem dX1_comesIn_16 : decode cX1_comesIn 16 = .ok (.if_icmp .ge 113, 3) := dk_162 0 113 (dk_at dksX1_comesIn_0 16 rfl rfl)
theorem dX1_comesIn_19 : decode cX1_comesIn 19 = .ok (.aload_n 0, 1) := dk_42 (dk_at dksX1_comesIn_0 19 rfl rfl)
theorem dX1_comesIn_20 : decode cX1_comesIn 20 = .ok (.getfield 38, 3) := dk_180 0 38 (dk_at dksX1_comesIn_0 20 rfl rfl)
theorem dX1_comesIn_23 : decode cX1_comesIn 23 = .ok (.iload 4, 2) := dk_21 4 (dk_at dksX1_comesIn_1 0 rfl rfl)
theorem dX1_comesIn_25 : decode cX1_comesIn 25 = .ok (.iaload, 1) := dk_46 (dk_at dksX1_comesIn_1 2 rfl rfl)
theorem dX1_comesIn_26 : decode cX1_comesIn 26 = .ok (.iload_n 1, 1) := dk_27 (dk_at dksX1_comesIn_1 3 rfl rfl)
theorem dX1_comesIn_27 : decode cX1_comesIn 27 = .ok (.if_icmp .ne 34, 3) := dk_160 0 34 (dk_at dksX1_comesIn_1 4 rfl rfl)
theorem dX1_comesIn_30 : decode cX1_comesIn 30 = .ok (.aload_n 0, 1) := dk_42 (dk_at dksX1_comesIn_1 7 rfl rfl)
theorem dX1_comesIn_31 : decode cX1_comesIn 31 = .ok (.getfield 12, 3) := dk_180 0 12 (dk_at dksX1_comesIn_1 8 rfl rfl)
theorem dX1_comesIn_34 : decode cX1_comesIn 34 = .ok (.getfield 340, 3) := dk_180 1 84 (dk_at dksX1_comesIn_1 11 rfl rfl)
theorem dX1_comesIn_37 : decode cX1_comesIn 37 = .ok (.iload 4, 2) := dk_21 4 (dk_at dksX1_comesIn_1 14 rfl rfl)
theorem dX1_comesIn_39 : decode cX1_comesIn 39 = .ok (.invokestatic 343, 3) := dk_184 1 87 (dk_at dksX1_comesIn_1 16 rfl rfl)
theorem dX1_comesIn_42 : decode cX1_comesIn 42 = .ok (.ifCond .ne 19, 3) := dk_154 0 19 (dk_at dksX1_comesIn_1 19 rfl rfl)
theorem dX1_comesIn_45 : decode cX1_comesIn 45 = .ok (.aload_n 0, 1) := dk_42 (dk_at dksX1_comesIn_1 22 rfl rfl)
theorem dX1_comesIn_46 : decode cX1_comesIn 46 = .ok (.aload_n 0, 1) := dk_42 (dk_at dksX1_comesIn_1 23 rfl rfl)
theorem dX1_comesIn_47 : decode cX1_comesIn 47 = .ok (.getfield 35, 3) := dk_180 0 35 (dk_at dksX1_comesIn_2 0 rfl rfl)
theorem dX1_comesIn_50 : decode cX1_comesIn 50 = .ok (.iload 4, 2) := dk_21 4 (dk_at dksX1_comesIn_2 3 rfl rfl)
theorem dX1_comesIn_52 : decode cX1_comesIn 52 = .ok (.iaload, 1) := dk_46 (dk_at dksX1_comesIn_2 5 rfl rfl)
theorem dX1_comesIn_53 : decode cX1_comesIn 53 = .ok (.iload_n 1, 1) := dk_27 (dk_at dksX1_comesIn_2 6 rfl rfl)
theorem dX1_comesIn_54 : decode cX1_comesIn 54 = .ok (.iload_n 2, 1) := dk_28 (dk_at dksX1_comesIn_2 7 rfl rfl)
theorem dX1_comesIn_55 : decode cX1_comesIn 55 = .ok (.invokevirtual 439, 3) := dk_182 1 183 (dk_at dksX1_comesIn_2 8 rfl rfl)
theorem dX1_comesIn_58 : decode cX1_comesIn 58 = .ok (.goto 4, 3) := dk_167 0 4 (dk_at dksX1_comesIn_2 11 rfl rfl)
theorem dX1_comesIn_61 : decode cX1_comesIn 61 = .ok (.iconst (-1), 1) := dk_2 (dk_at dksX1_comesIn_2 14 rfl rfl)
theorem dX1_comesIn_62 : decode cX1_comesIn 62 = .ok (.istore 5, 2) := dk_54 5 (dk_at dksX1_comesIn_2 15 rfl rfl)
theorem dX1_comesIn_64 : decode cX1_comesIn 64 = .ok (.iload 5, 2) := dk_21 5 (dk_at dksX1_comesIn_2 17 rfl rfl)
theorem dX1_comesIn_66 : decode cX1_comesIn 66 = .ok (.ifCond .ge 9, 3) := dk_156 0 9 (dk_at dksX1_comesIn_2 19 rfl rfl)
theorem dX1_comesIn_69 : decode cX1_comesIn 69 = .ok (.ldc_w 454, 3) := dk_19 1 198 (dk_at dksX1_comesIn_3 0 rfl rfl)
theorem dX1_comesIn_72 : decode cX1_comesIn 72 = .ok (.goto 19, 3) := dk_167 0 19 (dk_at dksX1_comesIn_3 3 rfl rfl)
theorem dX1_comesIn_75 : decode cX1_comesIn 75 = .ok (.aload_n 0, 1) := dk_42 (dk_at dksX1_comesIn_3 6 rfl rfl)
theorem dX1_comesIn_76 : decode cX1_comesIn 76 = .ok (.iload 5, 2) := dk_21 5 (dk_at dksX1_comesIn_3 7 rfl rfl)
theorem dX1_comesIn_78 : decode cX1_comesIn 78 = .ok (.iload_n 1, 1) := dk_27 (dk_at dksX1_comesIn_3 9 rfl rfl)
theorem dX1_comesIn_79 : decode cX1_comesIn 79 = .ok (.invokevirtual 455, 3) := dk_182 1 199 (dk_at dksX1_comesIn_3 10 rfl rfl)
theorem dX1_comesIn_82 : decode cX1_comesIn 82 = .ok (.iload_n 2, 1) := dk_28 (dk_at dksX1_comesIn_3 13 rfl rfl)
theorem dX1_comesIn_83 : decode cX1_comesIn 83 = .ok (.aload_n 0, 1) := dk_42 (dk_at dksX1_comesIn_3 14 rfl rfl)
theorem dX1_comesIn_84 : decode cX1_comesIn 84 = .ok (.iload 5, 2) := dk_21 5 (dk_at dksX1_comesIn_3 15 rfl rfl)
theorem dX1_comesIn_86 : decode cX1_comesIn 86 = .ok (.invokevirtual 356, 3) := dk_182 1 100 (dk_at dksX1_comesIn_3 17 rfl rfl)
theorem dX1_comesIn_89 : decode cX1_comesIn 89 = .ok (.imul, 1) := dk_104 (dk_at dksX1_comesIn_3 20 rfl rfl)
theorem dX1_comesIn_90 : decode cX1_comesIn 90 = .ok (.iadd, 1) := dk_96 (dk_at dksX1_comesIn_3 21 rfl rfl)
theorem dX1_comesIn_91 : decode cX1_comesIn 91 = .ok (.istore 6, 2) := dk_54 6 (dk_at dksX1_comesIn_3 22 rfl rfl)
theorem dX1_comesIn_93 : decode cX1_comesIn 93 = .ok (.iload 6, 2) := dk_21 6 (dk_at dksX1_comesIn_4 0 rfl rfl)
theorem dX1_comesIn_95 : decode cX1_comesIn 95 = .ok (.aload_n 0, 1) := dk_42 (dk_at dksX1_comesIn_4 2 rfl rfl)
theorem dX1_comesIn_96 : decode cX1_comesIn 96 = .ok (.getfield 41, 3) := dk_180 0 41 (dk_at dksX1_comesIn_4 3 rfl rfl)
theorem dX1_comesIn_99 : decode cX1_comesIn 99 = .ok (.iload 4, 2) := dk_21 4 (dk_at dksX1_comesIn_4 6 rfl rfl)
theorem dX1_comesIn_101 : decode cX1_comesIn 101 = .ok (.iaload, 1) := dk_46 (dk_at dksX1_comesIn_4 8 rfl rfl)
theorem dX1_comesIn_102 : decode cX1_comesIn 102 = .ok (.if_icmp .le 6, 3) := dk_164 0 6 (dk_at dksX1_comesIn_4 9 rfl rfl)
theorem dX1_comesIn_105 : decode cX1_comesIn 105 = .ok (.goto 18, 3) := dk_167 0 18 (dk_at dksX1_comesIn_4 12 rfl rfl)
theorem dX1_comesIn_108 : decode cX1_comesIn 108 = .ok (.aload_n 0, 1) := dk_42 (dk_at dksX1_comesIn_4 15 rfl rfl)
theorem dX1_comesIn_109 : decode cX1_comesIn 109 = .ok (.dup, 1) := dk_89 (dk_at dksX1_comesIn_4 16 rfl rfl)
theorem dX1_comesIn_110 : decode cX1_comesIn 110 = .ok (.getfield 519, 3) := dk_180 2 7 (dk_at dksX1_comesIn_4 17 rfl rfl)
theorem dX1_comesIn_113 : decode cX1_comesIn 113 = .ok (.iconst 1, 1) := dk_4 (dk_at dksX1_comesIn_4 20 rfl rfl)
theorem dX1_comesIn_114 : decode cX1_comesIn 114 = .ok (.iadd, 1) := dk_96 (dk_at dksX1_comesIn_4 21 rfl rfl)
theorem dX1_comesIn_115 : decode cX1_comesIn 115 = .ok (.putfield 519, 3) := dk_181 2 7 (dk_at dksX1_comesIn_5 0 rfl rfl)
theorem dX1_comesIn_118 : decode cX1_comesIn 118 = .ok (.iload_n 3, 1) := dk_29 (dk_at dksX1_comesIn_5 3 rfl rfl)
theorem dX1_comesIn_119 : decode cX1_comesIn 119 = .ok (.iload 6, 2) := dk_21 6 (dk_at dksX1_comesIn_5 4 rfl rfl)
theorem dX1_comesIn_121 : decode cX1_comesIn 121 = .ok (.iadd, 1) := dk_96 (dk_at dksX1_comesIn_5 6 rfl rfl)
theorem dX1_comesIn_122 : decode cX1_comesIn 122 = .ok (.istore_n 3, 1) := dk_62 (dk_at dksX1_comesIn_5 7 rfl rfl)
theorem dX1_comesIn_123 : decode cX1_comesIn 123 = .ok (.iinc 4 1, 3) := dk_132 4 1 (dk_at dksX1_comesIn_5 8 rfl rfl)
theorem dX1_comesIn_126 : decode cX1_comesIn 126 = .ok (.goto (-116), 3) := dk_167 255 140 (dk_at dksX1_comesIn_5 11 rfl rfl)
theorem dX1_comesIn_129 : decode cX1_comesIn 129 = .ok (.iload_n 3, 1) := dk_29 (dk_at dksX1_comesIn_5 14 rfl rfl)
theorem dX1_comesIn_130 : decode cX1_comesIn 130 = .ok (.ireturn, 1) := dk_172 (dk_at dksX1_comesIn_5 15 rfl rfl)
