set_option maxRecDepth 100000
def dkwX1_undo_1 : List UInt8 := [180, 0, 84, 42, 180, 0, 228, 50, 182, 1, 119, 42, 180, 0, 228, 172]
abbrev dktX1_undo_1 : List UInt8 := dkwX1_undo_1 ++ []
def dkwX1_undo_0 : List UInt8 := [42, 180, 0, 228, 154, 0, 5, 2, 172, 42, 89, 180, 0, 228, 4, 100, 181, 0, 228, 42, 180, 0, 12, 42]
abbrev dktX1_undo_0 : List UInt8 := dkwX1_undo_0 ++ dktX1_undo_1
theorem dksX1_undo_0 : cX1_undo.data.toList.drop 0 = dktX1_undo_0 := by decide +kernel
theorem dksX1_undo_1 : cX1_undo.data.toList.drop 24 = dktX1_undo_1 := dk_seg dksX1_undo_0 24 rfl rfl
theorem dX1_undo_0 : decode cX1_undo 0 = .ok (.aload_n 0, 1) := dk_42 (dk_at dksX1_undo_0 0 rfl rfl)
theorem dX1_undo_1 : decode cX1_undo 1 = .ok (.getfield 228, 3) := dk_180 0 228 (dk_at dksX1_undo_0 1 rfl rfl)
theorem dX1_undo_4 : decode cX1_undo 4 = .ok (.ifCond .ne 5, 3) := dk_154 0 5 (dk_at dksX1_undo_0 4 rfl rfl)
theorem dX1_undo_7 : decode cX1_undo 7 = .ok (.iconst (-1), 1) := dk_2 (dk_at dksX1_undo_0 7 rfl rfl)
theorem dX1_undo_8 : decode cX1_undo 8 = .ok (.ireturn, 1) := dk_172 (dk_at dksX1_undo_0 8 rfl rfl)
theorem dX1_undo_9 : decode cX1_undo 9 = .ok (.aload_n 0, 1) := dk_42 (dk_at dksX1_undo_0 9 rfl rfl)
theorem dX1_undo_10 : decode cX1_undo 10 = .ok (.dup, 1) := dk_89 (dk_at dksX1_undo_0 10 rfl rfl)
theorem dX1_undo_11 : decode cX1_undo 11 = .ok (.getfield 228, 3) := dk_180 0 228 (dk_at dksX1_undo_0 11 rfl rfl)
theorem dX1_undo_14 : decode cX1_undo 14 = .ok (.iconst 1, 1) := dk_4 (dk_at dksX1_undo_0 14 rfl rfl)
theorem dX1_undo_15 : decode cX1_undo 15 = .ok (.isub, 1) := dk_100 (dk_at dksX1_undo_0 15 rfl rfl)
theorem dX1_undo_16 : decode cX1_undo 16 = .ok (.putfield 228, 3) := dk_181 0 228 (dk_at dksX1_undo_0 16 rfl rfl)
theorem dX1_undo_19 : decode cX1_undo 19 = .ok (.aload_n 0, 1) := dk_42 (dk_at dksX1_undo_0 19 rfl rfl)
theorem dX1_undo_20 : decode cX1_undo 20 = .ok (.getfield 12, 3) := dk_180 0 12 (dk_at dksX1_undo_0 20 rfl rfl)
theorem dX1_undo_23 : decode cX1_undo 23 = .ok (.aload_n 0, 1) := dk_42 (dk_at dksX1_undo_0 23 rfl rfl)
theorem dX1_undo_24 : decode cX1_undo 24 = .ok (.getfield 84, 3) := dk_180 0 84 (dk_at dksX1_undo_1 0 rfl rfl)
theorem dX1_undo_27 : decode cX1_undo 27 = .ok (.aload_n 0, 1) := dk_42 (dk_at dksX1_undo_1 3 rfl rfl)
theorem dX1_undo_28 : decode cX1_undo 28 = .ok (.getfield 228, 3) := dk_180 0 228 (dk_at dksX1_undo_1 4 rfl rfl)
theorem dX1_undo_31 : decode cX1_undo 31 = .ok (.aaload, 1) := dk_50 (dk_at dksX1_undo_1 7 rfl rfl)
theorem dX1_undo_32 : decode cX1_undo 32 = .ok (.invokevirtual 375, 3) := dk_182 1 119 (dk_at dksX1_undo_1 8 rfl rfl)
theorem dX1_undo_35 : decode cX1_undo 35 = .ok (.aload_n 0, 1) := dk_42 (dk_at dksX1_undo_1 11 rfl rfl)
theorem dX1_undo_36 : decode cX1_undo 36 = .ok (.getfield 228, 3) := dk_180 0 228 (dk_at dksX1_undo_1 12 rfl rfl)
theorem dX1_undo_39 : decode cX1_undo 39 = .ok (.ireturn, 1) := dk_172 (dk_at dksX1_undo_1 15 rfl rfl)
def dkwX1_toll_2 : List UInt8 := [42, 42, 180, 0, 81, 21, 4, 46, 133, 182, 1, 136, 132, 4, 1, 167, 255, 235, 29, 172]
abbrev dktX1_toll_2 : List UInt8 := dkwX1_toll_2 ++ []
def dkwX1_toll_1 : List UInt8 := [180, 0, 12, 180, 1, 126, 182, 1, 129, 62, 42, 3, 181, 1, 133, 3, 54, 4, 21, 4, 8, 162, 0, 21]
abbrev dktX1_toll_1 : List UInt8 := dkwX1_toll_1 ++ dktX1_toll_2
def dkwX1_toll_0 : List UInt8 := [42, 27, 182, 1, 91, 153, 0, 11, 42, 28, 182, 1, 112, 154, 0, 5, 2, 172, 42, 27, 28, 42]
abbrev dktX1_toll_0 : List UInt8 := dkwX1_toll_0 ++ dktX1_toll_1
theorem dksX1_toll_0 : cX1_toll.data.toList.drop 0 = dktX1_toll_0 := by decide +kernel
theorem dksX1_toll_1 : cX1_toll.data.toList.drop 22 = dktX1_toll_1 := dk_seg dksX1_toll_0 22 rfl rfl
theorem dksX1_toll_2 : cX1_toll.data.toList.drop 46 = dktX1_toll_2 := dk_seg dksX1_toll_1 24 rfl rfl
theorem dX1_toll_0 : decode cX1_toll 0 = .ok (.aload_n 0, 1) := dk_42 (dk_at dksX1_toll_0 0 rfl rfl)
theorem dX1_toll_1 : decode cX1_toll 1 = .ok (.iload_n 1, 1) := dk_27 (dk_at dksX1_toll_0 1 rfl rfl)
theorem dX1_toll_2 : decode cX1_toll 2 = .ok (.invokevirtual 347, 3) := dk_182 1 91 (dk_at dksX1_toll_0 2 rfl rfl)
theorem dX1_toll_5 : decode cX1_toll 5 = .ok (.ifCond .eq 11, 3) := dk_153 0 11 (dk_at dksX1_toll_0 5 rfl rfl)
theorem dX1_toll_8 : decode cX1_toll 8 = .ok (.aload_n 0, 1) := dk_42 (dk_at dksX1_toll_0 8 rfl rfl)
theorem dX1_toll_9 : decode cX1_toll 9 = .ok (.iload_n 2, 1) := dk_28 (dk_at dksX1_toll_0 9 rfl rfl)
theorem dX1_toll_10 : decode cX1_toll 10 = .ok (.invokevirtual 368, 3) := dk_182 1 112 (dk_at dksX1_toll_0 10 rfl rfl)
theorem dX1_toll_13 : decode cX1_toll 13 = .ok (.ifCond .ne 5, 3) := dk_154 0 5 (dk_at dksX1_toll_0 13 rfl rfl)
theorem dX1_toll_16 : decode cX1_toll 16 = .ok (.iconst (-1), 1) := dk_2 (dk_at dksX1_toll_0 16 rfl rfl)
theorem dX1_toll_17 : decode cX1_toll 17 = .ok (.ireturn, 1) := dk_172 (dk_at dksX1_toll_0 17 rfl rfl)
theorem dX1_toll_18 : decode cX1_toll 18 = .ok (.aload_n 0, 1) := dk_42 (dk_at dksX1_toll_0 18 rfl rfl)
theorem dX1_toll_19 : decode cX1_toll 19 = .ok (.iload_n 1, 1) := dk_27 (dk_at dksX1_toll_0 19 rfl rfl)
theorem dX1_toll_20 : decode cX1_toll 20 = .ok (.iload_n 2, 1) := dk_28 (dk_at dksX1_toll_0 20 rfl rfl)
theorem dX1_toll_21 : decode cX1_toll 21 = .ok (.aload_n 0, 1) := dk_42 (dk_at dksX1_toll_0 21 rfl rfl)
theorem dX1_toll_22 : decode cX1_toll 22 = .ok (.getfield 12, 3) := dk_180 0 12 (dk_at dksX1_toll_1 0 rfl rfl)
theorem dX1_toll_25 : decode cX1_toll 25 = .ok (.getfield 382, 3) := dk_180 1 126 (dk_at dksX1_toll_1 3 rfl rfl)
theorem dX1_toll_28 : decode cX1_toll 28 = .ok (.invokevirtual 385, 3) := dk_182 1 129 (dk_at dksX1_toll_1 6 rfl rfl)
theorem dX1_toll_31 : decode cX1_toll 31 = .ok (.istore_n 3, 1) := dk_62 (dk_at dksX1_toll_1 9 rfl rfl)
theorem dX1_toll_32 : decode cX1_toll 32 = .ok (.aload_n 0, 1) := dk_42 (dk_at dksX1_toll_1 10 rfl rfl)
theorem dX1_toll_33 : decode cX1_toll 33 = .ok (.iconst 0, 1) := dk_3 (dk_at dksX1_toll_1 11 rfl rfl)
theorem dX1_toll_34 : decode cX1_toll 34 = .ok (.putfield 389, 3) := dk_181 1 133 (dk_at dksX1_toll_1 12 rfl rfl)
theorem dX1_toll_37 : decode cX1_toll 37 = .ok (.iconst 0, 1) := dk_3 (dk_at dksX1_toll_1 15 rfl rfl)
theorem dX1_toll_38 : decode cX1_toll 38 = .ok (.istore 4, 2) := dk_54 4 (dk_at dksX1_toll_1 16 rfl rfl)
theorem dX1_toll_40 : decode cX1_toll 40 = .ok (.iload 4, 2) := dk_21 4 (dk_at dksX1_toll_1 18 rfl rfl)
theorem dX1_toll_42 : decode cX1_toll 42 = .ok (.iconst 5, 1) := dk_8 (dk_at dksX1_toll_1 20 rfl rfl)
theorem dX1_toll_43 : decode cX1_toll 43 = .ok (.if_icmp .ge 21, 3) := dk_162 0 21 (dk_at dksX1_toll_1 21 rfl rfl)
theorem dX1_toll_46 : decode cX1_toll 46 = .ok (.aload_n 0, 1) := dk_42 (dk_at dksX1_toll_2 0 rfl rfl)
theorem dX1_toll_47 : decode cX1_toll 47 = .ok (.aload_n 0, 1) := dk_42 (dk_at dksX1_toll_2 1 rfl rfl)
theorem dX1_toll_48 : decode cX1_toll 48 = .ok (.getfield 81, 3) := dk_180 0 81 (dk_at dksX1_toll_2 2 rfl rfl)
theorem dX1_toll_51 : decode cX1_toll 51 = .ok (.iload 4, 2) := dk_21 4 (dk_at dksX1_toll_2 5 rfl rfl)
theorem dX1_toll_53 : decode cX1_toll 53 = .ok (.iaload, 1) := dk_46 (dk_at dksX1_toll_2 7 rfl rfl)
theorem dX1_toll_54 : decode cX1_toll 54 = .ok (.i2l, 1) := dk_133 (dk_at dksX1_toll_2 8 rfl rfl)
theorem dX1_toll_55 : decode cX1_toll 55 = .ok (.invokevirtual 392, 3) := dk_182 1 136 (dk_at dksX1_toll_2 9 rfl rfl)
theorem dX1_toll_58 : decode cX1_toll 58 = .ok (.iinc 4 1, 3) := dk_132 4 1 (dk_at dksX1_toll_2 12 rfl rfl)
theorem dX1_toll_61 : decode cX1_toll 61 = .ok (.goto (-21), 3) := dk_167 255 235 (dk_at dksX1_toll_2 15 rfl rfl)
theorem dX1_toll_64 : decode cX1_toll 64 = .ok (.iload_n 3, 1) := dk_29 (dk_at dksX1_toll_2 18 rfl rfl)
theorem dX1_toll_65 : decode cX1_toll 65 = .ok (.ireturn, 1) := dk_172 (dk_at dksX1_toll_2 19 rfl rfl)
def dkwX1_isWord_0 : List UInt8 := [27, 133, 9, 42, 180, 0, 145, 4, 100, 133, 184, 0, 141, 172]
abbrev dktX1_isWord_0 : List UInt8 := dkwX1_isWord_0 ++ []
theorem dksX1_isWord_0 : cX1_isWord.data.toList.drop 0 = dktX1_isWord_0 := by decide +kernel
theorem dX1_isWord_0 : decode cX1_isWord 0 = .ok (.iload_n 1, 1) := dk_27 (dk_at dksX1_isWord_0 0 rfl rfl)
theorem dX1_isWord_1 : decode cX1_isWord 1 = .ok (.i2l, 1) := dk_133 (dk_at dksX1_isWord_0 1 rfl rfl)
theorem dX1_isWord_2 : decode cX1_isWord 2 = .ok (.lconst 0, 1) := dk_9 (dk_at dksX1_isWord_0 2 rfl rfl)
theorem dX1_isWord_3 : decode cX1_isWord 3 = .ok (.aload_n 0, 1) := dk_42 (dk_at dksX1_isWord_0 3 rfl rfl)
theorem dX1_isWord_4 : decode cX1_isWord 4 = .ok (.getfield 145, 3) := dk_180 0 145 (dk_at dksX1_isWord_0 4 rfl rfl)
theorem dX1_isWord_7 : decode cX1_isWord 7 = .ok (.iconst 1, 1) := dk_4 (dk_at dksX1_isWord_0 7 rfl rfl)
theorem dX1_isWord_8 : decode cX1_isWord 8 = .ok (.isub, 1) := dk_100 (dk_at dksX1_isWord_0 8 rfl rfl)
theorem dX1_isWord_9 : decode cX1_isWord 9 = .ok (.i2l, 1) := dk_133 (dk_at dksX1_isWord_0 9 rfl rfl)
theorem dX1_isWord_10 : decode cX1_isWord 10 = .ok (.invokestatic 141, 3) := dk_184 0 141 (dk_at dksX1_isWord_0 10 rfl rfl)
theorem dX1_isWord_13 : decode cX1_isWord 13 = .ok (.ireturn, 1) := dk_172 (dk_at dksX1_isWord_0 13 rfl rfl)
def dkwX1_isStation_0 : List UInt8 := [27, 133, 9, 42, 180, 0, 44, 4, 100, 133, 184, 0, 141, 172]
abbrev dktX1_isStation_0 : List UInt8 := dkwX1_isStation_0 ++ []
theorem dksX1_isStation_0 : cX1_isStation.data.toList.drop 0 = dktX1_isStation_0 := by decide +kernel
theorem dX1_isStation_0 : decode cX1_isStation 0 = .ok (.iload_n 1, 1) := dk_27 (dk_at dksX1_isStation_0 0 rfl rfl)
theorem dX1_isStation_1 : decode cX1_isStation 1 = .ok (.i2l, 1) := dk_133 (dk_at dksX1_isStation_0 1 rfl rfl)
theorem dX1_isStation_2 : decode cX1_isStation 2 = .ok (.lconst 0, 1) := dk_9 (dk_at dksX1_isStation_0 2 rfl rfl)
theorem dX1_isStation_3 : decode cX1_isStation 3 = .ok (.aload_n 0, 1) := dk_42 (dk_at dksX1_isStation_0 3 rfl rfl)
theorem dX1_isStation_4 : decode cX1_isStation 4 = .ok (.getfield 44, 3) := dk_180 0 44 (dk_at dksX1_isStation_0 4 rfl rfl)
theorem dX1_isStation_7 : decode cX1_isStation 7 = .ok (.iconst 1, 1) := dk_4 (dk_at dksX1_isStation_0 7 rfl rfl)
theorem dX1_isStation_8 : decode cX1_isStation 8 = .ok (.isub, 1) := dk_100 (dk_at dksX1_isStation_0 8 rfl rfl)
theorem dX1_isStation_9 : decode cX1_isStation 9 = .ok (.i2l, 1) := dk_133 (dk_at dksX1_isStation_0 9 rfl rfl)
theorem dX1_isStation_10 : decode cX1_isStation 10 = .ok (.invokestatic 141, 3) := dk_184 0 141 (dk_at dksX1_isStation_0 10 rfl rfl)
theorem dX1_isStation_13 : decode cX1_isStation 13 = .ok (.ireturn, 1) := dk_172 (dk_at dksX1_isStation_0 13 rfl rfl)
def dkwX1_tollOf_8 : List UInt8 := [96, 54, 4, 42, 89, 180, 1, 67, 4, 96, 181, 1, 67, 132, 5, 1, 167, 255, 109, 21, 4, 172]
abbrev dktX1_tollOf_8 : List UInt8 := dkwX1_tollOf_8 ++ []
def dkwX1_tollOf_7 : List UInt8 := [184, 0, 172, 184, 1, 2, 54, 7, 42, 180, 0, 81, 21, 6, 92, 46, 21, 7, 96, 79, 21, 4, 21, 7]
abbrev dktX1_tollOf_7 : List UInt8 := dkwX1_tollOf_7 ++ dktX1_tollOf_8
def dkwX1_tollOf_6 : List UInt8 := [42, 180, 1, 55, 199, 0, 10, 21, 6, 4, 96, 167, 0, 19, 3, 16, 99, 42, 180, 1, 55, 182, 1, 79]
abbrev dktX1_tollOf_6 : List UInt8 := dkwX1_tollOf_6 ++ dktX1_tollOf_7
def dkwX1_tollOf_5 : List UInt8 := [180, 0, 19, 16, 6, 27, 104, 21, 5, 96, 4, 100, 46, 160, 0, 7, 4, 167, 0, 4, 3, 181, 1, 76]
abbrev dktX1_tollOf_5 : List UInt8 := dkwX1_tollOf_5 ++ dktX1_tollOf_6
def dkwX1_tollOf_4 : List UInt8 := [181, 1, 73, 42, 21, 5, 158, 0, 36, 42, 180, 0, 19, 16, 6, 27, 104, 21, 5, 96, 46, 42]
abbrev dktX1_tollOf_4 : List UInt8 := dkwX1_tollOf_4 ++ dktX1_tollOf_5
def dkwX1_tollOf_3 : List UInt8 := [21, 5, 182, 0, 159, 54, 6, 21, 6, 156, 0, 6, 167, 0, 119, 42, 21, 6, 181, 1, 70, 42, 21, 5]
abbrev dktX1_tollOf_3 : List UInt8 := dkwX1_tollOf_3 ++ dktX1_tollOf_4
def dkwX1_tollOf_2 : List UInt8 := [79, 132, 5, 1, 167, 255, 239, 3, 54, 5, 21, 5, 42, 180, 0, 23, 27, 46, 162, 0, 142, 42, 27]
abbrev dktX1_tollOf_2 : List UInt8 := dkwX1_tollOf_2 ++ dktX1_tollOf_3
def dkwX1_tollOf_1 : List UInt8 := [181, 1, 64, 42, 3, 181, 1, 67, 3, 54, 5, 21, 5, 8, 162, 0, 17, 42, 180, 0, 81, 21, 5, 3]
abbrev dktX1_tollOf_1 : List UInt8 := dkwX1_tollOf_1 ++ dktX1_tollOf_2
def dkwX1_tollOf_0 : List UInt8 := [3, 54, 4, 42, 28, 181, 1, 58, 42, 29, 16, 24, 112, 181, 1, 61, 42, 42, 180, 0, 23, 27, 46]
abbrev dktX1_tollOf_0 : List UInt8 := dkwX1_tollOf_0 ++ dktX1_tollOf_1
theorem dksX1_tollOf_0 : cX1_tollOf.data.toList.drop 0 = dktX1_tollOf_0 := by decide +kernel
theorem dksX1_tollOf_1 : cX1_tollOf.data.toList.drop 23 = dktX1_tollOf_1 := dk_seg dksX1_tollOf_0 23 rfl rfl
theorem dksX1_tollOf_2 : cX1_tollOf.data.toList.drop 47 = dktX1_tollOf_2 := dk_seg dksX1_tollOf_1 24 rfl rfl
theorem dksX1_tollOf_3 : cX1_tollOf.data.toList.drop 70 = dktX1_tollOf_3 := dk_seg dksX1_tollOf_2 23 rfl rfl
theorem dksX1_tollOf_4 : cX1_tollOf.data.toList.drop 94 = dktX1_tollOf_4 := dk_seg dksX1_tollOf_3 24 rfl rfl
theorem dksX1_tollOf_5 : cX1_tollOf.data.toList.drop 116 = dktX1_tollOf_5 := dk_seg dksX1_tollOf_4 22 rfl rfl
theorem dksX1_tollOf_6 : cX1_tollOf.data.toList.drop 140 = dktX1_tollOf_6 := dk_seg dksX1_tollOf_5 24 rfl rfl
theorem dksX1_tollOf_7 : cX1_tollOf.data.toList.drop 164 = dktX1_tollOf_7 := dk_seg dksX1_tollOf_6 24 rfl rfl
theorem dksX1_tollOf_8 : cX1_tollOf.data.toList.drop 188 = dktX1_tollOf_8 := dk_seg dksX1_tollOf_7 24 rfl rfl
theorem dX1_tollOf_0 : decode cX1_tollOf 0 = .ok (.iconst 0, 1) := dk_3 (dk_at dksX1_tollOf_0 0 rfl rfl)
theorem dX1_tollOf_1 : decode cX1_tollOf 1 = .ok (.istore 4, 2) := dk_54 4 (dk_at dksX1_tollOf_0 1 rfl rfl)
theorem dX1_tollOf_3 : decode cX1_tollOf 3 = .ok (.aload_n 0, 1) := dk_42 (dk_at dksX1_tollOf_0 3 rfl rfl)
theorem dX1_tollOf_4 : decode cX1_tollOf 4 = .ok (.iload_n 2, 1) := dk_28 (dk_at dksX1_tollOf_0 4 rfl rfl)
theorem dX1_tollOf_5 : decode cX1_tollOf 5 = .ok (.putfield 314, 3) := dk_181 1 58 (dk_at dksX1_tollOf_0 5 rfl rfl)
theorem dX1_tollOf_8 : decode cX1_tollOf 8 = .ok (.aload_n 0, 1) := dk_42 (dk_at dksX1_tollOf_0 8 rfl rfl)
theorem dX1_tollOf_9 : decode cX1_tollOf 9 = .ok (.iload_n 3, 1) := dk_29 (dk_at dksX1_tollOf_0 9 rfl rfl)
theorem dX1_tollOf_10 : decode cX1_tollOf 10 = .ok (.bipush 24, 2) := dk_16 24 (dk_at dksX1_tollOf_0 10 rfl rfl)
theorem dX1_tollOf_12 : decode cX1_tollOf 12 = .ok (.irem, 1) := dk_112 (dk_at dksX1_tollOf_0 12 rfl rfl)
theorem dX1_tollOf_13 : decode cX1_tollOf 13 = .ok (.putfield 317, 3) := dk_181 1 61 (dk_at dksX1_tollOf_0 13 rfl rfl)
theorem dX1_tollOf_16 : decode cX1_tollOf 16 = .ok (.aload_n 0, 1) := dk_42 (dk_at dksX1_tollOf_0 16 rfl rfl)
theorem dX1_tollOf_17 : decode cX1_tollOf 17 = .ok (.aload_n 0, 1) := dk_42 (dk_at dksX1_tollOf_0 17 rfl rfl)
theorem dX1_tollOf_18 : decode cX1_tollOf 18 = .ok (.getfield 23, 3) := dk_180 0 23 (dk_at dksX1_tollOf_0 18 rfl rfl)
theorem dX1_tollOf_21 : decode cX1_tollOf 21 = .ok (.iload_n 1, 1) := dk_27 (dk_at dksX1_tollOf_0 21 rfl rfl)
theorem dX1_tollOf_22 : decode cX1_tollOf 22 = .ok (.iaload, 1) := dk_46 (dk_at dksX1_tollOf_0 22 rfl rfl)
theorem dX1_tollOf_23 : decode cX1_tollOf 23 = .ok (.putfield 320, 3) := dk_181 1 64 (dk_at dksX1_tollOf_1 0 rfl rfl)
theorem dX1_tollOf_26 : decode cX1_tollOf 26 = .ok (.aload_n 0, 1) := dk_42 (dk_at dksX1_tollOf_1 3 rfl rfl)
theorem dX1_tollOf_27 : decode cX1_tollOf 27 = .ok (.iconst 0, 1) := dk_3 (dk_at dksX1_tollOf_1 4 rfl rfl)
theorem dX1_tollOf_28 : decode cX1_tollOf 28 = .ok (.putfield 323, 3) := dk_181 1 67 (dk_at dksX1_tollOf_1 5 rfl rfl)
theorem dX1_tollOf_31 : decode cX1_tollOf 31 = .ok (.iconst 0, 1) := dk_3 (dk_at dksX1_tollOf_1 8 rfl rfl)
theorem dX1_tollOf_32 : decode cX1_tollOf 32 = .ok (.istore 5, 2) := dk_54 5 (dk_at dksX1_tollOf_1 9 rfl rfl)
theorem dX1_tollOf_34 : decode cX1_tollOf 34 = .ok (.iload 5, 2) := dk_21 5 (dk_at dksX1_tollOf_1 11 rfl rfl)
theorem dX1_tollOf_36 : decode cX1_tollOf 36 = .ok (.iconst 5, 1) := dk_8 (dk_at dksX1_tollOf_1 13 rfl rfl)
theorem dX1_tollOf_37 : decode cX1_tollOf 37 = .ok (.if_icmp .ge 17, 3) := dk_162 0 17 (dk_at dksX1_tollOf_1 14 rfl rfl)
theorem dX1_tollOf_40 : decode cX1_tollOf 40 = .ok (.aload_n 0, 1) := dk_42 (dk_at dksX1_tollOf_1 17 rfl rfl)
theorem dX1_tollOf_41 : decode cX1_tollOf 41 = .ok (.getfield 81, 3) := dk_180 0 81 (dk_at dksX1_tollOf_1 18 rfl rfl)
theorem dX1_tollOf_44 : decode cX1_tollOf 44 = .ok (.iload 5, 2) := dk_21 5 (dk_at dksX1_tollOf_1 21 rfl rfl)
theorem dX1_tollOf_46 : decode cX1_tollOf 46 = .ok (.iconst 0, 1) := dk_3 (dk_at dksX1_tollOf_1 23 rfl rfl)
theorem dX1_tollOf_47 : decode cX1_tollOf 47 = .ok (.iastore, 1) := dk_79 (dk_at dksX1_tollOf_2 0 rfl rfl)
theorem dX1_tollOf_48 : decode cX1_tollOf 48 = .ok (.iinc 5 1, 3) := dk_132 5 1 (dk_at dksX1_tollOf_2 1 rfl rfl)
theorem dX1_tollOf_51 : decode cX1_tollOf 51 = .ok (.goto (-17), 3) := dk_167 255 239 (dk_at dksX1_tollOf_2 4 rfl rfl)
theorem dX1_tollOf_54 : decode cX1_tollOf 54 = .ok (.iconst 0, 1) := dk_3 (dk_at dksX1_tollOf_2 7 rfl rfl)
theorem dX1_tollOf_55 : decode cX1_tollOf 55 = .ok (.istore 5, 2) := dk_54 5 (dk_at dksX1_tollOf_2 8 rfl rfl)
theorem dX1_tollOf_57 : decode cX1_tollOf 57 = .ok (.iload 5, 2) := dk_21 5 (dk_at dksX1_tollOf_2 10 rfl rfl)
theorem dX1_tollOf_59 : decode cX1_tollOf 59 = .ok (.aload_n 0, 1) := dk_42 (dk_at dksX1_tollOf_2 12 rfl rfl)
theorem dX1_tollOf_60 : decode cX1_tollOf 60 = .ok (.getfield 23, 3) := dk_180 0 23 (dk_at dksX1_tollOf_2 13 rfl rfl)
theorem dX1_tollOf_63 : decode cX1_tollOf 63 = .ok (.iload_n 1, 1) := dk_27 (dk_at dksX1_tollOf_2 16 rfl rfl)
theorem dX1_tollOf_64 : decode cX1_tollOf 64 = .ok (.iaload, 1) := dk_46 (dk_at dksX1_tollOf_2 17 rfl rfl)
theorem dX1_tollOf_65 : decode cX1_tollOf 65 = .ok (.if_icmp .ge 142, 3) := dk_162 0 142 (dk_at dksX1_tollOf_2 18 rfl rfl)
theorem dX1_tollOf_68 : decode cX1_tollOf 68 = .ok (.aload_n 0, 1) := dk_42 (dk_at dksX1_tollOf_2 21 rfl rfl)
theorem dX1_tollOf_69 : decode cX1_tollOf 69 = .ok (.iload_n 1, 1) := dk_27 (dk_at dksX1_tollOf_2 22 rfl rfl)
theorem dX1_tollOf_70 : decode cX1_tollOf 70 = .ok (.iload 5, 2) := dk_21 5 (dk_at dksX1_tollOf_3 0 rfl rfl)
theorem dX1_tollOf_72 : decode cX1_tollOf 72 = .ok (.invokevirtual 159, 3) := dk_182 0 159 (dk_at dksX1_tollOf_3 2 rfl rfl)
theorem dX1_tollOf_75 : decode cX1_tollOf 75 = .ok (.istore 6, 2) := dk_54 6 (dk_at dksX1_tollOf_3 5 rfl rfl)
theorem dX1_tollOf_77 : decode cX1_tollOf 77 = .ok (.iload 6, 2) := dk_21 6 (dk_at dksX1_tollOf_3 7 rfl rfl)
theorem dX1_tollOf_79 : decode cX1_tollOf 79 = .ok (.ifCond .ge 6, 3) := dk_156 0 6 (dk_at dksX1_tollOf_3 9 rfl rfl)
theorem dX1_tollOf_82 : decode cX1_tollOf 82 = .ok (.goto 119, 3) := dk_167 0 119 (dk_at dksX1_tollOf_3 12 rfl rfl)
theorem dX1_tollOf_85 : decode cX1_tollOf 85 = .ok (.aload_n 0, 1) := dk_42 (dk_at dksX1_tollOf_3 15 rfl rfl)
theorem dX1_tollOf_86 : decode cX1_tollOf 86 = .ok (.iload 6, 2) := dk_21 6 (dk_at dksX1_tollOf_3 16 rfl rfl)
theorem dX1_tollOf_88 : decode cX1_tollOf 88 = .ok (.putfield 326, 3) := dk_181 1 70 (dk_at dksX1_tollOf_3 18 rfl rfl)
theorem dX1_tollOf_91 : decode cX1_tollOf 91 = .ok (.aload_n 0, 1) := dk_42 (dk_at dksX1_tollOf_3 21 rfl rfl)
theorem dX1_tollOf_92 : decode cX1_tollOf 92 = .ok (.iload 5, 2) := dk_21 5 (dk_at dksX1_tollOf_3 22 rfl rfl)
theorem dX1_tollOf_94 : decode cX1_tollOf 94 = .ok (.putfield 329, 3) := dk_181 1 73 (dk_at dksX1_tollOf_4 0 rfl rfl)
theorem dX1_tollOf_97 : decode cX1_tollOf 97 = .ok (.aload_n 0, 1) := dk_42 (dk_at dksX1_tollOf_4 3 rfl rfl)
theorem dX1_tollOf_98 : decode cX1_tollOf 98 = .ok (.iload 5, 2) := dk_21 5 (dk_at dksX1_tollOf_4 4 rfl rfl)
theorem dX1_tollOf_100 : decode cX1_tollOf 100 = .ok (.ifCond .le 36, 3) := dk_158 0 36 (dk_at dksX1_tollOf_4 6 rfl rfl)
theorem dX1_tollOf_103 : decode cX1_tollOf 103 = .ok (.aload_n 0, 1) := dk_42 (dk_at dksX1_tollOf_4 9 rfl rfl)
theorem dX1_tollOf_104 : decode cX1_tollOf 104 = .ok (.getfield 19, 3) := dk_180 0 19 (dk_at dksX1_tollOf_4 10 rfl rfl)
theorem dX1_tollOf_107 : decode cX1_tollOf 107 = .ok (.bipush 6, 2) := dk_16 6 (dk_at dksX1_tollOf_4 13 rfl rfl)
theorem dX1_tollOf_109 : decode cX1_tollOf 109 = .ok (.iload_n 1, 1) := dk_27 (dk_at dksX1_tollOf_4 15 rfl rfl)
theorem dX1_tollOf_110 : decode cX1_tollOf 110 = .ok (.imul, 1) := dk_104 (dk_at dksX1_tollOf_4 16 rfl rfl)
theorem dX1_tollOf_111 : decode cX1_tollOf 111 = .ok (.iload 5, 2) := dk_21 5 (dk_at dksX1_tollOf_4 17 rfl rfl)
theorem dX1_tollOf_113 : decode cX1_tollOf 113 = .ok (.iadd, 1) := dk_96 (dk_at dksX1_tollOf_4 19 rfl rfl)
theorem dX1_tollOf_114 : decode cX1_tollOf 114 = .ok (.iaload, 1) := dk_46 (dk_at dksX1_tollOf_4 20 rfl rfl)
theorem dX1_tollOf_115 : decode cX1_tollOf 115 = .ok (.aload_n 0, 1) := dk_42 (dk_at dksX1_tollOf_4 21 rfl rfl)
theorem dX1_tollOf_116 : decode cX1_tollOf 116 = .ok (.getfield 19, 3) := dk_180 0 19 (dk_at dksX1_tollOf_5 0 rfl rfl)
theorem dX1_tollOf_119 : decode cX1_tollOf 119 = .ok (.bipush 6, 2) := dk_16 6 (dk_at dksX1_tollOf_5 3 rfl rfl)
theorem dX1_tollOf_121 : decode cX1_tollOf 121 = .ok (.iload_n 1, 1) := dk_27 (dk_at dksX1_tollOf_5 5 rfl rfl)
theorem dX1_tollOf_122 : decode cX1_tollOf 122 = .ok (.imul, 1) := dk_104 (dk_at dksX1_tollOf_5 6 rfl rfl)
theorem dX1_tollOf_123 : decode cX1_tollOf 123 = .ok (.iload 5, 2) := dk_21 5 (dk_at dksX1_tollOf_5 7 rfl rfl)
theorem dX1_tollOf_125 : decode cX1_tollOf 125 = .ok (.iadd, 1) := dk_96 (dk_at dksX1_tollOf_5 9 rfl rfl)
theorem dX1_tollOf_126 : decode cX1_tollOf 126 = .ok (.iconst 1, 1) := dk_4 (dk_at dksX1_tollOf_5 10 rfl rfl)
theorem dX1_tollOf_127 : decode cX1_tollOf 127 = .ok (.isub, 1) := dk_100 (dk_at dksX1_tollOf_5 11 rfl rfl)
theorem dX1_tollOf_128 : decode cX1_tollOf 128 = .ok (.iaload, 1) := dk_46 (dk_at dksX1_tollOf_5 12 rfl rfl)
theorem dX1_tollOf_129 : decode cX1_tollOf 129 = .ok (.if_icmp .ne 7, 3) := dk_160 0 7 (dk_at dksX1_tollOf_5 13 rfl rfl)
theorem dX1_tollOf_132 : decode cX1_tollOf 132 = .ok (.iconst 1, 1) := dk_4 (dk_at dksX1_tollOf_5 16 rfl rfl)
theorem dX1_tollOf_133 : decode cX1_tollOf 133 = .ok (.goto 4, 3) := dk_167 0 4 (dk_at dksX1_tollOf_5 17 rfl rfl)
theorem dX1_tollOf_136 : decode cX1_tollOf 136 = .ok (.iconst 0, 1) := dk_3 (dk_at dksX1_tollOf_5 20 rfl rfl)
theorem dX1_tollOf_137 : decode cX1_tollOf 137 = .ok (.putfield 332, 3) := dk_181 1 76 (dk_at dksX1_tollOf_5 21 rfl rfl)
theorem dX1_tollOf_140 : decode cX1_tollOf 140 = .ok (.aload_n 0, 1) := dk_42 (dk_at dksX1_tollOf_6 0 rfl rfl)
theorem dX1_tollOf_141 : decode cX1_tollOf 141 = .ok (.getfield 311, 3) := dk_180 1 55 (dk_at dksX1_tollOf_6 1 rfl rfl)
theorem dX1_tollOf_144 : decode cX1_tollOf 144 = .ok (.ifnonnull 10, 3) := dk_199 0 10 (dk_at dksX1_tollOf_6 4 rfl rfl)
theorem dX1_tollOf_147 : decode cX1_tollOf 147 = .ok (.iload 6, 2) := dk_21 6 (dk_at dksX1_tollOf_6 7 rfl rfl)
theorem dX1_tollOf_149 : decode cX1_tollOf 149 = .ok (.iconst 1, 1) := dk_4 (dk_at dksX1_tollOf_6 9 rfl rfl)
theorem dX1_tollOf_150 : decode cX1_tollOf 150 = .ok (.iadd, 1) := dk_96 (dk_at dksX1_tollOf_6 10 rfl rfl)
theorem dX1_tollOf_151 : decode cX1_tollOf 151 = .ok (.goto 19, 3) := dk_167 0 19 (dk_at dksX1_tollOf_6 11 rfl rfl)
theorem dX1_tollOf_154 : decode cX1_tollOf 154 = .ok (.iconst 0, 1) := dk_3 (dk_at dksX1_tollOf_6 14 rfl rfl)
theorem dX1_tollOf_155 : decode cX1_tollOf 155 = .ok (.bipush 99, 2) := dk_16 99 (dk_at dksX1_tollOf_6 15 rfl rfl)
theorem dX1_tollOf_157 : decode cX1_tollOf 157 = .ok (.aload_n 0, 1) := dk_42 (dk_at dksX1_tollOf_6 17 rfl rfl)
theorem dX1_tollOf_158 : decode cX1_tollOf 158 = .ok (.getfield 311, 3) := dk_180 1 55 (dk_at dksX1_tollOf_6 18 rfl rfl)
theorem dX1_tollOf_161 : decode cX1_tollOf 161 = .ok (.invokevirtual 335, 3) := dk_182 1 79 (dk_at dksX1_tollOf_6 21 rfl rfl)
theorem dX1_tollOf_164 : decode cX1_tollOf 164 = .ok (.invokestatic 172, 3) := dk_184 0 172 (dk_at dksX1_tollOf_7 0 rfl rfl)
theorem dX1_tollOf_167 : decode cX1_tollOf 167 = .ok (.invokestatic 258, 3) := dk_184 1 2 (dk_at dksX1_tollOf_7 3 rfl rfl)
theorem dX1_tollOf_170 : decode cX1_tollOf 170 = .ok (.istore 7, 2) := dk_54 7 (dk_at dksX1_tollOf_7 6 rfl rfl)
theorem dX1_tollOf_172 : decode cX1_tollOf 172 = .ok (.aload_n 0, 1) := dk_42 (dk_at dksX1_tollOf_7 8 rfl rfl)
theorem dX1_tollOf_173 : decode cX1_tollOf 173 = .ok (.getfield 81, 3) := dk_180 0 81 (dk_at dksX1_tollOf_7 9 rfl rfl)
theorem dX1_tollOf_176 : decode cX1_tollOf 176 = .ok (.iload 6, 2) := dk_21 6 (dk_at dksX1_tollOf_7 12 rfl rfl)
theorem dX1_tollOf_178 : decode cX1_tollOf 178 = .ok (.dup2, 1) := dk_92 (dk_at dksX1_tollOf_7 14 rfl rfl)
theorem dX1_tollOf_179 : decode cX1_tollOf 179 = .ok (.iaload, 1) := dk_46 (dk_at dksX1_tollOf_7 15 rfl rfl)
theorem dX1_tollOf_180 : decode cX1_tollOf 180 = .ok (.iload 7, 2) := dk_21 7 (dk_at dksX1_tollOf_7 16 rfl rfl)
theorem dX1_tollOf_182 : decode cX1_tollOf 182 = .ok (.iadd, 1) := dk_96 (dk_at dksX1_tollOf_7 18 rfl rfl)
theorem dX1_tollOf_183 : decode cX1_tollOf 183 = .ok (.iastore, 1) := dk_79 (dk_at dksX1_tollOf_7 19 rfl rfl)
theorem dX1_tollOf_184 : decode cX1_tollOf 184 = .ok (.iload 4, 2) := dk_21 4 (dk_at dksX1_tollOf_7 20 rfl rfl)
theorem dX1_tollOf_186 : decode cX1_tollOf 186 = .ok (.iload 7, 2) := dk_21 7 (dk_at dksX1_tollOf_7 22 rfl rfl)
theorem dX1_tollOf_188 : decode cX1_tollOf 188 = .ok (.iadd, 1) := dk_96 (dk_at dksX1_tollOf_8 0 rfl rfl)
theorem dX1_tollOf_189 : decode cX1_tollOf 189 = .ok (.istore 4, 2) := dk_54 4 (dk_at dksX1_tollOf_8 1 rfl rfl)
theorem dX1_tollOf_191 : decode cX1_tollOf 191 = .ok (.aload_n 0, 1) := dk_42 (dk_at dksX1_tollOf_8 3 rfl rfl)
theorem dX1_tollOf_192 : decode cX1_tollOf 192 = .ok (.dup, 1) := dk_89 (dk_at dksX1_tollOf_8 4 rfl rfl)
theorem dX1_tollOf_193 : decode cX1_tollOf 193 = .ok (.getfield 323, 3) := dk_180 1 67 (dk_at dksX1_tollOf_8 5 rfl rfl)
theorem dX1_tollOf_196 : decode cX1_tollOf 196 = .ok (.iconst 1, 1) := dk_4 (dk_at dksX1_tollOf_8 8 rfl rfl)
theorem dX1_tollOf_197 : decode cX1_tollOf 197 = .ok (.iadd, 1) := dk_96 (dk_at dksX1_tollOf_8 9 rfl rfl)
theorem dX1_tollOf_198 : decode cX1_tollOf 198 = .ok (.putfield 323, 3) := dk_181 1 67 (dk_at dksX1_tollOf_8 10 rfl rfl)
theorem dX1_tollOf_201 : decode cX1_tollOf 201 = .ok (.iinc 5 1, 3) := dk_132 5 1 (dk_at dksX1_tollOf_8 13 rfl rfl)
theorem dX1_tollOf_204 : decode cX1_tollOf 204 = .ok (.goto (-147), 3) := dk_167 255 109 (dk_at dksX1_tollOf_8 16 rfl rfl)
theorem dX1_tollOf_207 : decode cX1_tollOf 207 = .ok (.iload 4, 2) := dk_21 4 (dk_at dksX1_tollOf_8 19 rfl rfl)
theorem dX1_tollOf_209 : decode cX1_tollOf 209 = .ok (.ireturn, 1) := dk_172 (dk_at dksX1_tollOf_8 21 rfl rfl)
def dkwX1_vowelAt_0 : List UInt8 := [18, 151, 16, 97, 42, 180, 0, 19, 16, 6, 27, 104, 28, 96, 46, 96, 182, 0, 153, 172]
abbrev dktX1_vowelAt_0 : List UInt8 := dkwX1_vowelAt_0 ++ []
theorem dksX1_vowelAt_0 : cX1_vowelAt.data.toList.drop 0 = dktX1_vowelAt_0 := by decide +kernel
theorem dX1_vowelAt_0 : decode cX1_vowelAt 0 = .ok (.ldc 151, 2) := dk_18 151 (dk_at dksX1_vowelAt_0 0 rfl rfl)
theorem dX1_vowelAt_2 : decode cX1_vowelAt 2 = .ok (.bipush 97, 2) := dk_16 97 (dk_at dksX1_vowelAt_0 2 rfl rfl)
theorem dX1_vowelAt_4 : decode cX1_vowelAt 4 = .ok (.aload_n 0, 1) := dk_42 (dk_at dksX1_vowelAt_0 4 rfl rfl)
theorem dX1_vowelAt_5 : decode cX1_vowelAt 5 = .ok (.getfield 19, 3) := dk_180 0 19 (dk_at dksX1_vowelAt_0 5 rfl rfl)
theorem dX1_vowelAt_8 : decode cX1_vowelAt 8 = .ok (.bipush 6, 2) := dk_16 6 (dk_at dksX1_vowelAt_0 8 rfl rfl)
theorem dX1_vowelAt_10 : decode cX1_vowelAt 10 = .ok (.iload_n 1, 1) := dk_27 (dk_at dksX1_vowelAt_0 10 rfl rfl)
theorem dX1_vowelAt_11 : decode cX1_vowelAt 11 = .ok (.imul, 1) := dk_104 (dk_at dksX1_vowelAt_0 11 rfl rfl)
theorem dX1_vowelAt_12 : decode cX1_vowelAt 12 = .ok (.iload_n 2, 1) := dk_28 (dk_at dksX1_vowelAt_0 12 rfl rfl)
theorem dX1_vowelAt_13 : decode cX1_vowelAt 13 = .ok (.iadd, 1) := dk_96 (dk_at dksX1_vowelAt_0 13 rfl rfl)
theorem dX1_vowelAt_14 : decode cX1_vowelAt 14 = .ok (.iaload, 1) := dk_46 (dk_at dksX1_vowelAt_0 14 rfl rfl)
theorem dX1_vowelAt_15 : decode cX1_vowelAt 15 = .ok (.iadd, 1) := dk_96 (dk_at dksX1_vowelAt_0 15 rfl rfl)
theorem dX1_vowelAt_16 : decode cX1_vowelAt 16 = .ok (.invokevirtual 153, 3) := dk_182 0 153 (dk_at dksX1_vowelAt_0 16 rfl rfl)
theorem dX1_vowelAt_19 : decode cX1_vowelAt 19 = .ok (.ireturn, 1) := dk_172 (dk_at dksX1_vowelAt_0 19 rfl rfl)
def dkwX1_tells_0 : List UInt8 := [42, 180, 0, 133, 42, 180, 1, 133, 31, 80, 42, 89, 180, 1, 133, 4, 96, 181, 1, 133, 177]
abbrev dktX1_tells_0 : List UInt8 := dkwX1_tells_0 ++ []
theorem dksX1_tells_0 : cX1_tells.data.toList.drop 0 = dktX1_tells_0 := by decide +kernel
theorem dX1_tells_0 : decode cX1_tells 0 = .ok (.aload_n 0, 1) := dk_42 (dk_at dksX1_tells_0 0 rfl rfl)
theorem dX1_tells_1 : decode cX1_tells 1 = .ok (.getfield 133, 3) := dk_180 0 133 (dk_at dksX1_tells_0 1 rfl rfl)
theorem dX1_tells_4 : decode cX1_tells 4 = .ok (.aload_n 0, 1) := dk_42 (dk_at dksX1_tells_0 4 rfl rfl)
theorem dX1_tells_5 : decode cX1_tells 5 = .ok (.getfield 389, 3) := dk_180 1 133 (dk_at dksX1_tells_0 5 rfl rfl)
theorem dX1_tells_8 : decode cX1_tells 8 = .ok (.lload_n 1, 1) := dk_31 (dk_at dksX1_tells_0 8 rfl rfl)
theorem dX1_tells_9 : decode cX1_tells 9 = .ok (.lastore, 1) := dk_80 (dk_at dksX1_tells_0 9 rfl rfl)
theorem dX1_tells_10 : decode cX1_tells 10 = .ok (.aload_n 0, 1) := dk_42 (dk_at dksX1_tells_0 10 rfl rfl)
theorem dX1_tells_11 : decode cX1_tells 11 = .ok (.dup, 1) := dk_89 (dk_at dksX1_tells_0 11 rfl rfl)
theorem dX1_tells_12 : decode cX1_tells 12 = .ok (.getfield 389, 3) := dk_180 1 133 (dk_at dksX1_tells_0 12 rfl rfl)
theorem dX1_tells_15 : decode cX1_tells 15 = .ok (.iconst 1, 1) := dk_4 (dk_at dksX1_tells_0 15 rfl rfl)
theorem dX1_tells_16 : decode cX1_tells 16 = .ok (.iadd, 1) := dk_96 (dk_at dksX1_tells_0 16 rfl rfl)
theorem dX1_tells_17 : decode cX1_tells 17 = .ok (.putfield 389, 3) := dk_181 1 133 (dk_at dksX1_tells_0 17 rfl rfl)
theorem dX1_tells_20 : decode cX1_tells 20 = .ok (.return_, 1) := dk_177 (dk_at dksX1_tells_0 20 rfl rfl)
def dkwX1_walk_1 : List UInt8 := [182, 1, 163, 172]
abbrev dktX1_walk_1 : List UInt8 := dkwX1_walk_1 ++ []
def dkwX1_walk_0 : List UInt8 := [42, 180, 0, 88, 42, 180, 0, 12, 182, 1, 119, 42, 42, 42, 180, 0, 12, 27, 28, 182, 1, 159]
abbrev dktX1_walk_0 : List UInt8 := dkwX1_walk_0 ++ dktX1_walk_1
theorem dksX1_walk_0 : cX1_walk.data.toList.drop 0 = dktX1_walk_0 := by decide +kernel
theorem dksX1_walk_1 : cX1_walk.data.toList.drop 22 = dktX1_walk_1 := dk_seg dksX1_walk_0 22 rfl rfl
theorem dX1_walk_0 : decode cX1_walk 0 = .ok (.aload_n 0, 1) := dk_42 (dk_at dksX1_walk_0 0 rfl rfl)
theorem dX1_walk_1 : decode cX1_walk 1 = .ok (.getfield 88, 3) := dk_180 0 88 (dk_at dksX1_walk_0 1 rfl rfl)
theorem dX1_walk_4 : decode cX1_walk 4 = .ok (.aload_n 0, 1) := dk_42 (dk_at dksX1_walk_0 4 rfl rfl)
theorem dX1_walk_5 : decode cX1_walk 5 = .ok (.getfield 12, 3) := dk_180 0 12 (dk_at dksX1_walk_0 5 rfl rfl)
theorem dX1_walk_8 : decode cX1_walk 8 = .ok (.invokevirtual 375, 3) := dk_182 1 119 (dk_at dksX1_walk_0 8 rfl rfl)
theorem dX1_walk_11 : decode cX1_walk 11 = .ok (.aload_n 0, 1) := dk_42 (dk_at dksX1_walk_0 11 rfl rfl)
theorem dX1_walk_12 : decode cX1_walk 12 = .ok (.aload_n 0, 1) := dk_42 (dk_at dksX1_walk_0 12 rfl rfl)
theorem dX1_walk_13 : decode cX1_walk 13 = .ok (.aload_n 0, 1) := dk_42 (dk_at dksX1_walk_0 13 rfl rfl)
theorem dX1_walk_14 : decode cX1_walk 14 = .ok (.getfield 12, 3) := dk_180 0 12 (dk_at dksX1_walk_0 14 rfl rfl)
theorem dX1_walk_17 : decode cX1_walk 17 = .ok (.iload_n 1, 1) := dk_27 (dk_at dksX1_walk_0 17 rfl rfl)
theorem dX1_walk_18 : decode cX1_walk 18 = .ok (.iload_n 2, 1) := dk_28 (dk_at dksX1_walk_0 18 rfl rfl)
theorem dX1_walk_19 : decode cX1_walk 19 = .ok (.invokevirtual 415, 3) := dk_182 1 159 (dk_at dksX1_walk_0 19 rfl rfl)
theorem dX1_walk_22 : decode cX1_walk 22 = .ok (.invokevirtual 419, 3) := dk_182 1 163 (dk_at dksX1_walk_1 0 rfl rfl)
theorem dX1_walk_25 : decode cX1_walk 25 = .ok (.ireturn, 1) := dk_172 (dk_at dksX1_walk_1 3 rfl rfl)
def dkwX1_walks_2 : List UInt8 := [16, 254, 172, 43, 180, 0, 244, 28, 21, 4, 79, 43, 89, 180, 1, 126, 4, 96, 181, 1, 126, 21, 4, 172]
abbrev dktX1_walks_2 : List UInt8 := dkwX1_walks_2 ++ []
def dkwX1_walks_1 : List UInt8 := [28, 46, 29, 4, 160, 0, 7, 4, 167, 0, 4, 2, 96, 54, 4, 42, 21, 4, 182, 1, 112, 154, 0, 6]
abbrev dktX1_walks_1 : List UInt8 := dkwX1_walks_1 ++ dktX1_walks_2
def dkwX1_walks_0 : List UInt8 := [42, 28, 182, 1, 106, 153, 0, 13, 29, 133, 9, 10, 184, 0, 141, 154, 0, 5, 2, 172, 43, 180, 0, 244]
abbrev dktX1_walks_0 : List UInt8 := dkwX1_walks_0 ++ dktX1_walks_1
theorem dksX1_walks_0 : cX1_walks.data.toList.drop 0 = dktX1_walks_0 := by decide +kernel
theorem dksX1_walks_1 : cX1_walks.data.toList.drop 24 = dktX1_walks_1 := dk_seg dksX1_walks_0 24 rfl rfl
theorem dksX1_walks_2 : cX1_walks.data.toList.drop 48 = dktX1_walks_2 := dk_seg dksX1_walks_1 24 rfl rfl
theorem dX1_walks_0 : decode cX1_walks 0 = .ok (.aload_n 0, 1) := dk_42 (dk_at dksX1_walks_0 0 rfl rfl)
theorem dX1_walks_1 : decode cX1_walks 1 = .ok (.iload_n 2, 1) := dk_28 (dk_at dksX1_walks_0 1 rfl rfl)
theorem dX1_walks_2 : decode cX1_walks 2 = .ok (.invokevirtual 362, 3) := dk_182 1 106 (dk_at dksX1_walks_0 2 rfl rfl)
theorem dX1_walks_5 : decode cX1_walks 5 = .ok (.ifCond .eq 13, 3) := dk_153 0 13 (dk_at dksX1_walks_0 5 rfl rfl)
theorem dX1_walks_8 : decode cX1_walks 8 = .ok (.iload_n 3, 1) := dk_29 (dk_at dksX1_walks_0 8 rfl rfl)
theorem dX1_walks_9 : decode cX1_walks 9 = .ok (.i2l, 1) := dk_133 (dk_at dksX1_walks_0 9 rfl rfl)
theorem dX1_walks_10 : decode cX1_walks 10 = .ok (.lconst 0, 1) := dk_9 (dk_at dksX1_walks_0 10 rfl rfl)
theorem dX1_walks_11 : decode cX1_walks 11 = .ok (.lconst 1, 1) := dk_10 (dk_at dksX1_walks_0 11 rfl rfl)
theorem dX1_walks_12 : decode cX1_walks 12 = .ok (.invokestatic 141, 3) := dk_184 0 141 (dk_at dksX1_walks_0 12 rfl rfl)
theorem dX1_walks_15 : decode cX1_walks 15 = .ok (.ifCond .ne 5, 3) := dk_154 0 5 (dk_at dksX1_walks_0 15 rfl rfl)
theorem dX1_walks_18 : decode cX1_walks 18 = .ok (.iconst (-1), 1) := dk_2 (dk_at dksX1_walks_0 18 rfl rfl)
theorem dX1_walks_19 : decode cX1_walks 19 = .ok (.ireturn, 1) := dk_172 (dk_at dksX1_walks_0 19 rfl rfl)
theorem dX1_walks_20 : decode cX1_walks 20 = .ok (.aload_n 1, 1) := dk_43 (dk_at dksX1_walks_0 20 rfl rfl)
theorem dX1_walks_21 : decode cX1_walks 21 = .ok (.getfield 244, 3) := dk_180 0 244 (dk_at dksX1_walks_0 21 rfl rfl)
theorem dX1_walks_24 : decode cX1_walks 24 = .ok (.iload_n 2, 1) := dk_28 (dk_at dksX1_walks_1 0 rfl rfl)
theorem dX1_walks_25 : decode cX1_walks 25 = .ok (.iaload, 1) := dk_46 (dk_at dksX1_walks_1 1 rfl rfl)
theorem dX1_walks_26 : decode cX1_walks 26 = .ok (.iload_n 3, 1) := dk_29 (dk_at dksX1_walks_1 2 rfl rfl)
theorem dX1_walks_27 : decode cX1_walks 27 = .ok (.iconst 1, 1) := dk_4 (dk_at dksX1_walks_1 3 rfl rfl)
theorem dX1_walks_28 : decode cX1_walks 28 = .ok (.if_icmp .ne 7, 3) := dk_160 0 7 (dk_at dksX1_walks_1 4 rfl rfl)
theorem dX1_walks_31 : decode cX1_walks 31 = .ok (.iconst 1, 1) := dk_4 (dk_at dksX1_walks_1 7 rfl rfl)
theorem dX1_walks_32 : decode cX1_walks 32 = .ok (.goto 4, 3) := dk_167 0 4 (dk_at dksX1_walks_1 8 rfl rfl)
theorem dX1_walks_35 : decode cX1_walks 35 = .ok (.iconst (-1), 1) := dk_2 (dk_at dksX1_walks_1 11 rfl rfl)
theorem dX1_walks_36 : decode cX1_walks 36 = .ok (.iadd, 1) := dk_96 (dk_at dksX1_walks_1 12 rfl rfl)
theorem dX1_walks_37 : decode cX1_walks 37 = .ok (.istore 4, 2) := dk_54 4 (dk_at dksX1_walks_1 13 rfl rfl)
theorem dX1_walks_39 : decode cX1_walks 39 = .ok (.aload_n 0, 1) := dk_42 (dk_at dksX1_walks_1 15 rfl rfl)
theorem dX1_walks_40 : decode cX1_walks 40 = .ok (.iload 4, 2) := dk_21 4 (dk_at dksX1_walks_1 16 rfl rfl)
theorem dX1_walks_42 : decode cX1_walks 42 = .ok (.invokevirtual 368, 3) := dk_182 1 112 (dk_at dksX1_walks_1 18 rfl rfl)
theorem dX1_walks_45 : decode cX1_walks 45 = .ok (.ifCond .ne 6, 3) := dk_154 0 6 (dk_at dksX1_walks_1 21 rfl rfl)
theorem dX1_walks_48 : decode cX1_walks 48 = .ok (.bipush (-2), 2) := dk_16 254 (dk_at dksX1_walks_2 0 rfl rfl)
theorem dX1_walks_50 : decode cX1_walks 50 = .ok (.ireturn, 1) := dk_172 (dk_at dksX1_walks_2 2 rfl rfl)
theorem dX1_walks_51 : decode cX1_walks 51 = .ok (.aload_n 1, 1) := dk_43 (dk_at dksX1_walks_2 3 rfl rfl)
theorem dX1_walks_52 : decode cX1_walks 52 = .ok (.getfield 244, 3) := dk_180 0 244 (dk_at dksX1_walks_2 4 rfl rfl)
theorem dX1_walks_55 : decode cX1_walks 55 = .ok (.iload_n 2, 1) := dk_28 (dk_at dksX1_walks_2 7 rfl rfl)
theorem dX1_walks_56 : decode cX1_walks 56 = .ok (.iload 4, 2) := dk_21 4 (dk_at dksX1_walks_2 8 rfl rfl)
theorem dX1_walks_58 : decode cX1_walks 58 = .ok (.iastore, 1) := dk_79 (dk_at dksX1_walks_2 10 rfl rfl)
theorem dX1_walks_59 : decode cX1_walks 59 = .ok (.aload_n 1, 1) := dk_43 (dk_at dksX1_walks_2 11 rfl rfl)
theorem dX1_walks_60 : decode cX1_walks 60 = .ok (.dup, 1) := dk_89 (dk_at dksX1_walks_2 12 rfl rfl)
theorem dX1_walks_61 : decode cX1_walks 61 = .ok (.getfield 382, 3) := dk_180 1 126 (dk_at dksX1_walks_2 13 rfl rfl)
theorem dX1_walks_64 : decode cX1_walks 64 = .ok (.iconst 1, 1) := dk_4 (dk_at dksX1_walks_2 16 rfl rfl)
theorem dX1_walks_65 : decode cX1_walks 65 = .ok (.iadd, 1) := dk_96 (dk_at dksX1_walks_2 17 rfl rfl)
theorem dX1_walks_66 : decode cX1_walks 66 = .ok (.putfield 382, 3) := dk_181 1 126 (dk_at dksX1_walks_2 18 rfl rfl)
theorem dX1_walks_69 : decode cX1_walks 69 = .ok (.iload 4, 2) := dk_21 4 (dk_at dksX1_walks_2 21 rfl rfl)
theorem dX1_walks_71 : decode cX1_walks 71 = .ok (.ireturn, 1) := dk_172 (dk_at dksX1_walks_2 23 rfl rfl)
def dkwX1_isTraveller_0 : List UInt8 := [27, 133, 9, 42, 180, 0, 148, 4, 100, 133, 184, 0, 141, 172]
abbrev dktX1_isTraveller_0 : List UInt8 := dkwX1_isTraveller_0 ++ []
theorem dksX1_isTraveller_0 : cX1_isTraveller.data.toList.drop 0 = dktX1_isTraveller_0 := by decide +kernel
theorem dX1_isTraveller_0 : decode cX1_isTraveller 0 = .ok (.iload_n 1, 1) := dk_27 (dk_at dksX1_isTraveller_0 0 rfl rfl)
theorem dX1_isTraveller_1 : decode cX1_isTraveller 1 = .ok (.i2l, 1) := dk_133 (dk_at dksX1_isTraveller_0 1 rfl rfl)
theorem dX1_isTraveller_2 : decode cX1_isTraveller 2 = .ok (.lconst 0, 1) := dk_9 (dk_at dksX1_isTraveller_0 2 rfl rfl)
theorem dX1_isTraveller_3 : decode cX1_isTraveller 3 = .ok (.aload_n 0, 1) := dk_42 (dk_at dksX1_isTraveller_0 3 rfl rfl)
theorem dX1_isTraveller_4 : decode cX1_isTraveller 4 = .ok (.getfield 148, 3) := dk_180 0 148 (dk_at dksX1_isTraveller_0 4 rfl rfl)
theorem dX1_isTraveller_7 : decode cX1_isTraveller 7 = .ok (.iconst 1, 1) := dk_4 (dk_at dksX1_isTraveller_0 7 rfl rfl)
theorem dX1_isTraveller_8 : decode cX1_isTraveller 8 = .ok (.isub, 1) := dk_100 (dk_at dksX1_isTraveller_0 8 rfl rfl)
theorem dX1_isTraveller_9 : decode cX1_isTraveller 9 = .ok (.i2l, 1) := dk_133 (dk_at dksX1_isTraveller_0 9 rfl rfl)
theorem dX1_isTraveller_10 : decode cX1_isTraveller 10 = .ok (.invokestatic 141, 3) := dk_184 0 141 (dk_at dksX1_isTraveller_0 10 rfl rfl)
theorem dX1_isTraveller_13 : decode cX1_isTraveller 13 = .ok (.ireturn, 1) := dk_172 (dk_at dksX1_isTraveller_0 13 rfl rfl)
def dkwX1_counts_0 : List UInt8 := [27, 155, 0, 11, 42, 42, 180, 0, 88, 182, 1, 123, 27, 172]
abbrev dktX1_counts_0 : List UInt8 := dkwX1_counts_0 ++ []
theorem dksX1_counts_0 : cX1_counts.data.toList.drop 0 = dktX1_counts_0 := by decide +kernel
theorem dX1_counts_0 : decode cX1_counts 0 = .ok (.iload_n 1, 1) := dk_27 (dk_at dksX1_counts_0 0 rfl rfl)
theorem dX1_counts_1 : decode cX1_counts 1 = .ok (.ifCond .lt 11, 3) := dk_155 0 11 (dk_at dksX1_counts_0 1 rfl rfl)
theorem dX1_counts_4 : decode cX1_counts 4 = .ok (.aload_n 0, 1) := dk_42 (dk_at dksX1_counts_0 4 rfl rfl)
theorem dX1_counts_5 : decode cX1_counts 5 = .ok (.aload_n 0, 1) := dk_42 (dk_at dksX1_counts_0 5 rfl rfl)
theorem dX1_counts_6 : decode cX1_counts 6 = .ok (.getfield 88, 3) := dk_180 0 88 (dk_at dksX1_counts_0 6 rfl rfl)
theorem dX1_counts_9 : decode cX1_counts 9 = .ok (.invokevirtual 379, 3) := dk_182 1 123 (dk_at dksX1_counts_0 9 rfl rfl)
theorem dX1_counts_12 : decode cX1_counts 12 = .ok (.iload_n 1, 1) := dk_27 (dk_at dksX1_counts_0 12 rfl rfl)
theorem dX1_counts_13 : decode cX1_counts 13 = .ok (.ireturn, 1) := dk_172 (dk_at dksX1_counts_0 13 rfl rfl)
def dkwX1_putsBy_4 : List UInt8 := [180, 0, 228, 50, 43, 182, 1, 119, 42, 89, 180, 0, 228, 4, 96, 181, 0, 228, 177]
abbrev dktX1_putsBy_4 : List UInt8 := dkwX1_putsBy_4 ++ []
def dkwX1_putsBy_3 : List UInt8 := [199, 0, 19, 42, 180, 0, 84, 42, 180, 0, 228, 187, 0, 9, 89, 183, 0, 11, 83, 42, 180, 0, 84, 42]
abbrev dktX1_putsBy_3 : List UInt8 := dkwX1_putsBy_3 ++ dktX1_putsBy_4
def dkwX1_putsBy_2 : List UInt8 := [16, 11, 44, 83, 42, 89, 180, 0, 228, 4, 100, 181, 0, 228, 42, 180, 0, 84, 42, 180, 0, 228, 50]
abbrev dktX1_putsBy_2 : List UInt8 := dkwX1_putsBy_2 ++ dktX1_putsBy_3
def dkwX1_putsBy_1 : List UInt8 := [42, 180, 0, 84, 29, 4, 100, 42, 180, 0, 84, 29, 50, 83, 132, 3, 1, 167, 255, 233, 42, 180, 0, 84]
abbrev dktX1_putsBy_1 : List UInt8 := dkwX1_putsBy_1 ++ dktX1_putsBy_2
def dkwX1_putsBy_0 : List UInt8 := [42, 180, 0, 228, 16, 12, 160, 0, 56, 42, 180, 0, 84, 3, 50, 77, 4, 62, 29, 16, 12, 162, 0, 23]
abbrev dktX1_putsBy_0 : List UInt8 := dkwX1_putsBy_0 ++ dktX1_putsBy_1
theorem dksX1_putsBy_0 : cX1_putsBy.data.toList.drop 0 = dktX1_putsBy_0 := by decide +kernel
theorem dksX1_putsBy_1 : cX1_putsBy.data.toList.drop 24 = dktX1_putsBy_1 := dk_seg dksX1_putsBy_0 24 rfl rfl
theorem dksX1_putsBy_2 : cX1_putsBy.data.toList.drop 48 = dktX1_putsBy_2 := dk_seg dksX1_putsBy_1 24 rfl rfl
theorem dksX1_putsBy_3 : cX1_putsBy.data.toList.drop 71 = dktX1_putsBy_3 := dk_seg dksX1_putsBy_2 23 rfl rfl
theorem dksX1_putsBy_4 : cX1_putsBy.data.toList.drop 95 = dktX1_putsBy_4 := dk_seg dksX1_putsBy_3 24 rfl rfl
theorem dX1_putsBy_0 : decode cX1_putsBy 0 = .ok (.aload_n 0, 1) := dk_42 (dk_at dksX1_putsBy_0 0 rfl rfl)
theorem dX1_putsBy_1 : decode cX1_putsBy 1 = .ok (.getfield 228, 3) := dk_180 0 228 (dk_at dksX1_putsBy_0 1 rfl rfl)
theorem dX1_putsBy_4 : decode cX1_putsBy 4 = .ok (.bipush 12, 2) := dk_16 12 (dk_at dksX1_putsBy_0 4 rfl rfl)
theorem dX1_putsBy_6 : decode cX1_putsBy 6 = .ok (.if_icmp .ne 56, 3) := dk_160 0 56 (dk_at dksX1_putsBy_0 6 rfl rfl)
theorem dX1_putsBy_9 : decode cX1_putsBy 9 = .ok (.aload_n 0, 1) := dk_42 (dk_at dksX1_putsBy_0 9 rfl rfl)
theorem dX1_putsBy_10 : decode cX1_putsBy 10 = .ok (.getfield 84, 3) := dk_180 0 84 (dk_at dksX1_putsBy_0 10 rfl rfl)
theorem dX1_putsBy_13 : decode cX1_putsBy 13 = .ok (.iconst 0, 1) := dk_3 (dk_at dksX1_putsBy_0 13 rfl rfl)
theorem dX1_putsBy_14 : decode cX1_putsBy 14 = .ok (.aaload, 1) := dk_50 (dk_at dksX1_putsBy_0 14 rfl rfl)
theorem dX1_putsBy_15 : decode cX1_putsBy 15 = .ok (.astore_n 2, 1) := dk_77 (dk_at dksX1_putsBy_0 15 rfl rfl)
theorem dX1_putsBy_16 : decode cX1_putsBy 16 = .ok (.iconst 1, 1) := dk_4 (dk_at dksX1_putsBy_0 16 rfl rfl)
theorem dX1_putsBy_17 : decode cX1_putsBy 17 = .ok (.istore_n 3, 1) := dk_62 (dk_at dksX1_putsBy_0 17 rfl rfl)
theorem dX1_putsBy_18 : decode cX1_putsBy 18 = .ok (.iload_n 3, 1) := dk_29 (dk_at dksX1_putsBy_0 18 rfl rfl)
theorem dX1_putsBy_19 : decode cX1_putsBy 19 = .ok (.bipush 12, 2) := dk_16 12 (dk_at dksX1_putsBy_0 19 rfl rfl)
theorem dX1_putsBy_21 : decode cX1_putsBy 21 = .ok (.if_icmp .ge 23, 3) := dk_162 0 23 (dk_at dksX1_putsBy_0 21 rfl rfl)
theorem dX1_putsBy_24 : decode cX1_putsBy 24 = .ok (.aload_n 0, 1) := dk_42 (dk_at dksX1_putsBy_1 0 rfl rfl)
theorem dX1_putsBy_25 : decode cX1_putsBy 25 = .ok (.getfield 84, 3) := dk_180 0 84 (dk_at dksX1_putsBy_1 1 rfl rfl)
theorem dX1_putsBy_28 : decode cX1_putsBy 28 = .ok (.iload_n 3, 1) := dk_29 (dk_at dksX1_putsBy_1 4 rfl rfl)
theorem dX1_putsBy_29 : decode cX1_putsBy 29 = .ok (.iconst 1, 1) := dk_4 (dk_at dksX1_putsBy_1 5 rfl rfl)
theorem dX1_putsBy_30 : decode cX1_putsBy 30 = .ok (.isub, 1) := dk_100 (dk_at dksX1_putsBy_1 6 rfl rfl)
theorem dX1_putsBy_31 : decode cX1_putsBy 31 = .ok (.aload_n 0, 1) := dk_42 (dk_at dksX1_putsBy_1 7 rfl rfl)
theorem dX1_putsBy_32 : decode cX1_putsBy 32 = .ok (.getfield 84, 3) := dk_180 0 84 (dk_at dksX1_putsBy_1 8 rfl rfl)
theorem dX1_putsBy_35 : decode cX1_putsBy 35 = .ok (.iload_n 3, 1) := dk_29 (dk_at dksX1_putsBy_1 11 rfl rfl)
theorem dX1_putsBy_36 : decode cX1_putsBy 36 = .ok (.aaload, 1) := dk_50 (dk_at dksX1_putsBy_1 12 rfl rfl)
theorem dX1_putsBy_37 : decode cX1_putsBy 37 = .ok (.aastore, 1) := dk_83 (dk_at dksX1_putsBy_1 13 rfl rfl)
theorem dX1_putsBy_38 : decode cX1_putsBy 38 = .ok (.iinc 3 1, 3) := dk_132 3 1 (dk_at dksX1_putsBy_1 14 rfl rfl)
theorem dX1_putsBy_41 : decode cX1_putsBy 41 = .ok (.goto (-23), 3) := dk_167 255 233 (dk_at dksX1_putsBy_1 17 rfl rfl)
theorem dX1_putsBy_44 : decode cX1_putsBy 44 = .ok (.aload_n 0, 1) := dk_42 (dk_at dksX1_putsBy_1 20 rfl rfl)
theorem dX1_putsBy_45 : decode cX1_putsBy 45 = .ok (.getfield 84, 3) := dk_180 0 84 (dk_at dksX1_putsBy_1 21 rfl rfl)
theorem dX1_putsBy_48 : decode cX1_putsBy 48 = .ok (.bipush 11, 2) := dk_16 11 (dk_at dksX1_putsBy_2 0 rfl rfl)
theorem dX1_putsBy_50 : decode cX1_putsBy 50 = .ok (.aload_n 2, 1) := dk_44 (dk_at dksX1_putsBy_2 2 rfl rfl)
theorem dX1_putsBy_51 : decode cX1_putsBy 51 = .ok (.aastore, 1) := dk_83 (dk_at dksX1_putsBy_2 3 rfl rfl)
theorem dX1_putsBy_52 : decode cX1_putsBy 52 = .ok (.aload_n 0, 1) := dk_42 (dk_at dksX1_putsBy_2 4 rfl rfl)
theorem dX1_putsBy_53 : decode cX1_putsBy 53 = .ok (.dup, 1) := dk_89 (dk_at dksX1_putsBy_2 5 rfl rfl)
theorem dX1_putsBy_54 : decode cX1_putsBy 54 = .ok (.getfield 228, 3) := dk_180 0 228 (dk_at dksX1_putsBy_2 6 rfl rfl)
theorem dX1_putsBy_57 : decode cX1_putsBy 57 = .ok (.iconst 1, 1) := dk_4 (dk_at dksX1_putsBy_2 9 rfl rfl)
theorem dX1_putsBy_58 : decode cX1_putsBy 58 = .ok (.isub, 1) := dk_100 (dk_at dksX1_putsBy_2 10 rfl rfl)
theorem dX1_putsBy_59 : decode cX1_putsBy 59 = .ok (.putfield 228, 3) := dk_181 0 228 (dk_at dksX1_putsBy_2 11 rfl rfl)
theorem dX1_putsBy_62 : decode cX1_putsBy 62 = .ok (.aload_n 0, 1) := dk_42 (dk_at dksX1_putsBy_2 14 rfl rfl)
theorem dX1_putsBy_63 : decode cX1_putsBy 63 = .ok (.getfield 84, 3) := dk_180 0 84 (dk_at dksX1_putsBy_2 15 rfl rfl)
theorem dX1_putsBy_66 : decode cX1_putsBy 66 = .ok (.aload_n 0, 1) := dk_42 (dk_at dksX1_putsBy_2 18 rfl rfl)
theorem dX1_putsBy_67 : decode cX1_putsBy 67 = .ok (.getfield 228, 3) := dk_180 0 228 (dk_at dksX1_putsBy_2 19 rfl rfl)
theorem dX1_putsBy_70 : decode cX1_putsBy 70 = .ok (.aaload, 1) := dk_50 (dk_at dksX1_putsBy_2 22 rfl rfl)
theorem dX1_putsBy_71 : decode cX1_putsBy 71 = .ok (.ifnonnull 19, 3) := dk_199 0 19 (dk_at dksX1_putsBy_3 0 rfl rfl)
theorem dX1_putsBy_74 : decode cX1_putsBy 74 = .ok (.aload_n 0, 1) := dk_42 (dk_at dksX1_putsBy_3 3 rfl rfl)
theorem dX1_putsBy_75 : decode cX1_putsBy 75 = .ok (.getfield 84, 3) := dk_180 0 84 (dk_at dksX1_putsBy_3 4 rfl rfl)
theorem dX1_putsBy_78 : decode cX1_putsBy 78 = .ok (.aload_n 0, 1) := dk_42 (dk_at dksX1_putsBy_3 7 rfl rfl)
theorem dX1_putsBy_79 : decode cX1_putsBy 79 = .ok (.getfield 228, 3) := dk_180 0 228 (dk_at dksX1_putsBy_3 8 rfl rfl)
theorem dX1_putsBy_82 : decode cX1_putsBy 82 = .ok (.new 9, 3) := dk_187 0 9 (dk_at dksX1_putsBy_3 11 rfl rfl)
theorem dX1_putsBy_85 : decode cX1_putsBy 85 = .ok (.dup, 1) := dk_89 (dk_at dksX1_putsBy_3 14 rfl rfl)
theorem dX1_putsBy_86 : decode cX1_putsBy 86 = .ok (.invokespecial 11, 3) := dk_183 0 11 (dk_at dksX1_putsBy_3 15 rfl rfl)
theorem dX1_putsBy_89 : decode cX1_putsBy 89 = .ok (.aastore, 1) := dk_83 (dk_at dksX1_putsBy_3 18 rfl rfl)
theorem dX1_putsBy_90 : decode cX1_putsBy 90 = .ok (.aload_n 0, 1) := dk_42 (dk_at dksX1_putsBy_3 19 rfl rfl)
theorem dX1_putsBy_91 : decode cX1_putsBy 91 = .ok (.getfield 84, 3) := dk_180 0 84 (dk_at dksX1_putsBy_3 20 rfl rfl)
theorem dX1_putsBy_94 : decode cX1_putsBy 94 = .ok (.aload_n 0, 1) := dk_42 (dk_at dksX1_putsBy_3 23 rfl rfl)
theorem dX1_putsBy_95 : decode cX1_putsBy 95 = .ok (.getfield 228, 3) := dk_180 0 228 (dk_at dksX1_putsBy_4 0 rfl rfl)
theorem dX1_putsBy_98 : decode cX1_putsBy 98 = .ok (.aaload, 1) := dk_50 (dk_at dksX1_putsBy_4 3 rfl rfl)
theorem dX1_putsBy_99 : decode cX1_putsBy 99 = .ok (.aload_n 1, 1) := dk_43 (dk_at dksX1_putsBy_4 4 rfl rfl)
theorem dX1_putsBy_100 : decode cX1_putsBy 100 = .ok (.invokevirtual 375, 3) := dk_182 1 119 (dk_at dksX1_putsBy_4 5 rfl rfl)
theorem dX1_putsBy_103 : decode cX1_putsBy 103 = .ok (.aload_n 0, 1) := dk_42 (dk_at dksX1_putsBy_4 8 rfl rfl)
theorem dX1_putsBy_104 : decode cX1_putsBy 104 = .ok (.dup, 1) := dk_89 (dk_at dksX1_putsBy_4 9 rfl rfl)
theorem dX1_putsBy_105 : decode cX1_putsBy 105 = .ok (.getfield 228, 3) := dk_180 0 228 (dk_at dksX1_putsBy_4 10 rfl rfl)
theorem dX1_putsBy_108 : decode cX1_putsBy 108 = .ok (.iconst 1, 1) := dk_4 (dk_at dksX1_putsBy_4 13 rfl rfl)
theorem dX1_putsBy_109 : decode cX1_putsBy 109 = .ok (.iadd, 1) := dk_96 (dk_at dksX1_putsBy_4 14 rfl rfl)
theorem dX1_putsBy_110 : decode cX1_putsBy 110 = .ok (.putfield 228, 3) := dk_181 0 228 (dk_at dksX1_putsBy_4 15 rfl rfl)
theorem dX1_putsBy_113 : decode cX1_putsBy 113 = .ok (.return_, 1) := dk_177 (dk_at dksX1_putsBy_4 18 rfl rfl)
def dkwX1_pause_1 : List UInt8 := [182, 1, 123, 42, 180, 0, 12, 89, 180, 1, 126, 27, 96, 181, 1, 126, 42, 180, 0, 12, 180, 1, 126, 172]
abbrev dktX1_pause_1 : List UInt8 := dkwX1_pause_1 ++ []
def dkwX1_pause_0 : List UInt8 := [27, 133, 9, 20, 1, 166, 184, 0, 141, 154, 0, 5, 2, 172, 27, 158, 0, 11, 42, 42, 180, 0, 12]
abbrev dktX1_pause_0 : List UInt8 := dkwX1_pause_0 ++ dktX1_pause_1
theorem dksX1_pause_0 : cX1_pause.data.toList.drop 0 = dktX1_pause_0 := by decide +kernel
theorem dksX1_pause_1 : cX1_pause.data.toList.drop 23 = dktX1_pause_1 := dk_seg dksX1_pause_0 23 rfl rfl
theorem dX1_pause_0 : decode cX1_pause 0 = .ok (.iload_n 1, 1) := dk_27 (dk_at dksX1_pause_0 0 rfl rfl)
theorem dX1_pause_1 : decode cX1_pause 1 = .ok (.i2l, 1) := dk_133 (dk_at dksX1_pause_0 1 rfl rfl)
theorem dX1_pause_2 : decode cX1_pause 2 = .ok (.lconst 0, 1) := dk_9 (dk_at dksX1_pause_0 2 rfl rfl)
theorem dX1_pause_3 : decode cX1_pause 3 = .ok (.ldc2_w 422, 3) := dk_20 1 166 (dk_at dksX1_pause_0 3 rfl rfl)
theorem dX1_pause_6 : decode cX1_pause 6 = .ok (.invokestatic 141, 3) := dk_184 0 141 (dk_at dksX1_pause_0 6 rfl rfl)
theorem dX1_pause_9 : decode cX1_pause 9 = .ok (.ifCond .ne 5, 3) := dk_154 0 5 (dk_at dksX1_pause_0 9 rfl rfl)
theorem dX1_pause_12 : decode cX1_pause 12 = .ok (.iconst (-1), 1) := dk_2 (dk_at dksX1_pause_0 12 rfl rfl)
theorem dX1_pause_13 : decode cX1_pause 13 = .ok (.ireturn, 1) := dk_172 (dk_at dksX1_pause_0 13 rfl rfl)
theorem dX1_pause_14 : decode cX1_pause 14 = .ok (.iload_n 1, 1) := dk_27 (dk_at dksX1_pause_0 14 rfl rfl)
theorem dX1_pause_15 : decode cX1_pause 15 = .ok (.ifCond .le 11, 3) := dk_158 0 11 (dk_at dksX1_pause_0 15 rfl rfl)
theorem dX1_pause_18 : decode cX1_pause 18 = .ok (.aload_n 0, 1) := dk_42 (dk_at dksX1_pause_0 18 rfl rfl)
theorem dX1_pause_19 : decode cX1_pause 19 = .ok (.aload_n 0, 1) := dk_42 (dk_at dksX1_pause_0 19 rfl rfl)
theorem dX1_pause_20 : decode cX1_pause 20 = .ok (.getfield 12, 3) := dk_180 0 12 (dk_at dksX1_pause_0 20 rfl rfl)
theorem dX1_pause_23 : decode cX1_pause 23 = .ok (.invokevirtual 379, 3) := dk_182 1 123 (dk_at dksX1_pause_1 0 rfl rfl)
theorem dX1_pause_26 : decode cX1_pause 26 = .ok (.aload_n 0, 1) := dk_42 (dk_at dksX1_pause_1 3 rfl rfl)
theorem dX1_pause_27 : decode cX1_pause 27 = .ok (.getfield 12, 3) := dk_180 0 12 (dk_at dksX1_pause_1 4 rfl rfl)
theorem dX1_pause_30 : decode cX1_pause 30 = .ok (.dup, 1) := dk_89 (dk_at dksX1_pause_1 7 rfl rfl)
theorem dX1_pause_31 : decode cX1_pause 31 = .ok (.getfield 382, 3) := dk_180 1 126 (dk_at dksX1_pause_1 8 rfl rfl)
theorem dX1_pause_34 : decode cX1_pause 34 = .ok (.iload_n 1, 1) := dk_27 (dk_at dksX1_pause_1 11 rfl rfl)
theorem dX1_pause_35 : decode cX1_pause 35 = .ok (.iadd, 1) := dk_96 (dk_at dksX1_pause_1 12 rfl rfl)
theorem dX1_pause_36 : decode cX1_pause 36 = .ok (.putfield 382, 3) := dk_181 1 126 (dk_at dksX1_pause_1 13 rfl rfl)
theorem dX1_pause_39 : decode cX1_pause 39 = .ok (.aload_n 0, 1) := dk_42 (dk_at dksX1_pause_1 16 rfl rfl)
theorem dX1_pause_40 : decode cX1_pause 40 = .ok (.getfield 12, 3) := dk_180 0 12 (dk_at dksX1_pause_1 17 rfl rfl)
theorem dX1_pause_43 : decode cX1_pause 43 = .ok (.getfield 382, 3) := dk_180 1 126 (dk_at dksX1_pause_1 20 rfl rfl)
theorem dX1_pause_46 : decode cX1_pause 46 = .ok (.ireturn, 1) := dk_172 (dk_at dksX1_pause_1 23 rfl rfl)
def dkwX1_say_2 : List UInt8 := [182, 1, 136, 29, 172]
abbrev dktX1_say_2 : List UInt8 := dkwX1_say_2 ++ []
def dkwX1_say_1 : List UInt8 := [156, 0, 5, 29, 172, 42, 42, 180, 0, 88, 182, 1, 123, 42, 3, 181, 1, 133, 42, 42, 180, 1, 154, 133]
abbrev dktX1_say_1 : List UInt8 := dkwX1_say_1 ++ dktX1_say_2
def dkwX1_say_0 : List UInt8 := [42, 180, 0, 88, 42, 180, 0, 12, 182, 1, 119, 42, 42, 180, 0, 12, 27, 28, 182, 1, 168, 62, 29]
abbrev dktX1_say_0 : List UInt8 := dkwX1_say_0 ++ dktX1_say_1
theorem dksX1_say_0 : cX1_say.data.toList.drop 0 = dktX1_say_0 := by decide +kernel
theorem dksX1_say_1 : cX1_say.data.toList.drop 23 = dktX1_say_1 := dk_seg dksX1_say_0 23 rfl rfl
theorem dksX1_say_2 : cX1_say.data.toList.drop 47 = dktX1_say_2 := dk_seg dksX1_say_1 24 rfl rfl
theorem dX1_say_0 : decode cX1_say 0 = .ok (.aload_n 0, 1) := dk_42 (dk_at dksX1_say_0 0 rfl rfl)
theorem dX1_say_1 : decode cX1_say 1 = .ok (.getfield 88, 3) := dk_180 0 88 (dk_at dksX1_say_0 1 rfl rfl)
theorem dX1_say_4 : decode cX1_say 4 = .ok (.aload_n 0, 1) := dk_42 (dk_at dksX1_say_0 4 rfl rfl)
theorem dX1_say_5 : decode cX1_say 5 = .ok (.getfield 12, 3) := dk_180 0 12 (dk_at dksX1_say_0 5 rfl rfl)
theorem dX1_say_8 : decode cX1_say 8 = .ok (.invokevirtual 375, 3) := dk_182 1 119 (dk_at dksX1_say_0 8 rfl rfl)
theorem dX1_say_11 : decode cX1_say 11 = .ok (.aload_n 0, 1) := dk_42 (dk_at dksX1_say_0 11 rfl rfl)
theorem dX1_say_12 : decode cX1_say 12 = .ok (.aload_n 0, 1) := dk_42 (dk_at dksX1_say_0 12 rfl rfl)
theorem dX1_say_13 : decode cX1_say 13 = .ok (.getfield 12, 3) := dk_180 0 12 (dk_at dksX1_say_0 13 rfl rfl)
theorem dX1_say_16 : decode cX1_say 16 = .ok (.iload_n 1, 1) := dk_27 (dk_at dksX1_say_0 16 rfl rfl)
theorem dX1_say_17 : decode cX1_say 17 = .ok (.iload_n 2, 1) := dk_28 (dk_at dksX1_say_0 17 rfl rfl)
theorem dX1_say_18 : decode cX1_say 18 = .ok (.invokevirtual 424, 3) := dk_182 1 168 (dk_at dksX1_say_0 18 rfl rfl)
theorem dX1_say_21 : decode cX1_say 21 = .ok (.istore_n 3, 1) := dk_62 (dk_at dksX1_say_0 21 rfl rfl)
theorem dX1_say_22 : decode cX1_say 22 = .ok (.iload_n 3, 1) := dk_29 (dk_at dksX1_say_0 22 rfl rfl)
theorem dX1_say_23 : decode cX1_say 23 = .ok (.ifCond .ge 5, 3) := dk_156 0 5 (dk_at dksX1_say_1 0 rfl rfl)
theorem dX1_say_26 : decode cX1_say 26 = .ok (.iload_n 3, 1) := dk_29 (dk_at dksX1_say_1 3 rfl rfl)
theorem dX1_say_27 : decode cX1_say 27 = .ok (.ireturn, 1) := dk_172 (dk_at dksX1_say_1 4 rfl rfl)
theorem dX1_say_28 : decode cX1_say 28 = .ok (.aload_n 0, 1) := dk_42 (dk_at dksX1_say_1 5 rfl rfl)
theorem dX1_say_29 : decode cX1_say 29 = .ok (.aload_n 0, 1) := dk_42 (dk_at dksX1_say_1 6 rfl rfl)
theorem dX1_say_30 : decode cX1_say 30 = .ok (.getfield 88, 3) := dk_180 0 88 (dk_at dksX1_say_1 7 rfl rfl)
theorem dX1_say_33 : decode cX1_say 33 = .ok (.invokevirtual 379, 3) := dk_182 1 123 (dk_at dksX1_say_1 10 rfl rfl)
theorem dX1_say_36 : decode cX1_say 36 = .ok (.aload_n 0, 1) := dk_42 (dk_at dksX1_say_1 13 rfl rfl)
theorem dX1_say_37 : decode cX1_say 37 = .ok (.iconst 0, 1) := dk_3 (dk_at dksX1_say_1 14 rfl rfl)
theorem dX1_say_38 : decode cX1_say 38 = .ok (.putfield 389, 3) := dk_181 1 133 (dk_at dksX1_say_1 15 rfl rfl)
theorem dX1_say_41 : decode cX1_say 41 = .ok (.aload_n 0, 1) := dk_42 (dk_at dksX1_say_1 18 rfl rfl)
theorem dX1_say_42 : decode cX1_say 42 = .ok (.aload_n 0, 1) := dk_42 (dk_at dksX1_say_1 19 rfl rfl)
theorem dX1_say_43 : decode cX1_say 43 = .ok (.getfield 410, 3) := dk_180 1 154 (dk_at dksX1_say_1 20 rfl rfl)
theorem dX1_say_46 : decode cX1_say 46 = .ok (.i2l, 1) := dk_133 (dk_at dksX1_say_1 23 rfl rfl)
theorem dX1_say_47 : decode cX1_say 47 = .ok (.invokevirtual 392, 3) := dk_182 1 136 (dk_at dksX1_say_2 0 rfl rfl)
theorem dX1_say_50 : decode cX1_say 50 = .ok (.iload_n 3, 1) := dk_29 (dk_at dksX1_say_2 3 rfl rfl)
theorem dX1_say_51 : decode cX1_say 51 = .ok (.ireturn, 1) := dk_172 (dk_at dksX1_say_2 4 rfl rfl)
def dkwX1_says_5 : List UInt8 := [182, 1, 150, 181, 1, 154, 43, 89, 180, 1, 84, 42, 180, 1, 154, 128, 181, 1, 84, 21, 4, 172]
abbrev dktX1_says_5 : List UInt8 := dkwX1_says_5 ++ []
def dkwX1_says_4 : List UInt8 := [182, 1, 147, 132, 5, 1, 167, 255, 215, 42, 42, 43, 180, 1, 84, 28, 43, 180, 0, 244, 28, 46, 29]
abbrev dktX1_says_4 : List UInt8 := dkwX1_says_4 ++ dktX1_says_5
def dkwX1_says_3 : List UInt8 := [21, 5, 182, 0, 159, 155, 0, 20, 43, 43, 180, 0, 244, 28, 46, 42, 29, 21, 5, 182, 0, 159]
abbrev dktX1_says_3 : List UInt8 := dkwX1_says_3 ++ dktX1_says_4
def dkwX1_says_2 : List UInt8 := [172, 43, 28, 21, 4, 182, 1, 143, 3, 54, 5, 21, 5, 42, 180, 0, 23, 29, 46, 162, 0, 36, 42, 29]
abbrev dktX1_says_2 : List UInt8 := dkwX1_says_2 ++ dktX1_says_3
def dkwX1_says_1 : List UInt8 := [28, 46, 43, 180, 1, 126, 182, 1, 129, 54, 4, 21, 4, 43, 180, 0, 246, 28, 46, 164, 0, 6, 16, 254]
abbrev dktX1_says_1 : List UInt8 := dkwX1_says_1 ++ dktX1_says_2
def dkwX1_says_0 : List UInt8 := [42, 28, 182, 1, 106, 153, 0, 11, 42, 29, 182, 1, 91, 154, 0, 5, 2, 172, 42, 29, 43, 180, 0, 244]
abbrev dktX1_says_0 : List UInt8 := dkwX1_says_0 ++ dktX1_says_1
theorem dksX1_says_0 : cX1_says.data.toList.drop 0 = dktX1_says_0 := by decide +kernel
theorem dksX1_says_1 : cX1_says.data.toList.drop 24 = dktX1_says_1 := dk_seg dksX1_says_0 24 rfl rfl
theorem dksX1_says_2 : cX1_says.data.toList.drop 48 = dktX1_says_2 := dk_seg dksX1_says_1 24 rfl rfl
theorem dksX1_says_3 : cX1_says.data.toList.drop 72 = dktX1_says_3 := dk_seg dksX1_says_2 24 rfl rfl
theorem dksX1_says_4 : cX1_says.data.toList.drop 94 = dktX1_says_4 := dk_seg dksX1_says_3 22 rfl rfl
theorem dksX1_says_5 : cX1_says.data.toList.drop 117 = dktX1_says_5 := dk_seg dksX1_says_4 23 rfl rfl
theorem dX1_says_0 : decode cX1_says 0 = .ok (.aload_n 0, 1) := dk_42 (dk_at dksX1_says_0 0 rfl rfl)
theorem dX1_says_1 : decode cX1_says 1 = .ok (.iload_n 2, 1) := dk_28 (dk_at dksX1_says_0 1 rfl rfl)
theorem dX1_says_2 : decode cX1_says 2 = .ok (.invokevirtual 362, 3) := dk_182 1 106 (dk_at dksX1_says_0 2 rfl rfl)
theorem dX1_says_5 : decode cX1_says 5 = .ok (.ifCond .eq 11, 3) := dk_153 0 11 (dk_at dksX1_says_0 5 rfl rfl)
theorem dX1_says_8 : decode cX1_says 8 = .ok (.aload_n 0, 1) := dk_42 (dk_at dksX1_says_0 8 rfl rfl)
theorem dX1_says_9 : decode cX1_says 9 = .ok (.iload_n 3, 1) := dk_29 (dk_at dksX1_says_0 9 rfl rfl)
theorem dX1_says_10 : decode cX1_says 10 = .ok (.invokevirtual 347, 3) := dk_182 1 91 (dk_at dksX1_says_0 10 rfl rfl)
theorem dX1_says_13 : decode cX1_says 13 = .ok (.ifCond .ne 5, 3) := dk_154 0 5 (dk_at dksX1_says_0 13 rfl rfl)
theorem dX1_says_16 : decode cX1_says 16 = .ok (.iconst (-1), 1) := dk_2 (dk_at dksX1_says_0 16 rfl rfl)
theorem dX1_says_17 : decode cX1_says 17 = .ok (.ireturn, 1) := dk_172 (dk_at dksX1_says_0 17 rfl rfl)
theorem dX1_says_18 : decode cX1_says 18 = .ok (.aload_n 0, 1) := dk_42 (dk_at dksX1_says_0 18 rfl rfl)
theorem dX1_says_19 : decode cX1_says 19 = .ok (.iload_n 3, 1) := dk_29 (dk_at dksX1_says_0 19 rfl rfl)
theorem dX1_says_20 : decode cX1_says 20 = .ok (.aload_n 1, 1) := dk_43 (dk_at dksX1_says_0 20 rfl rfl)
theorem dX1_says_21 : decode cX1_says 21 = .ok (.getfield 244, 3) := dk_180 0 244 (dk_at dksX1_says_0 21 rfl rfl)
theorem dX1_says_24 : decode cX1_says 24 = .ok (.iload_n 2, 1) := dk_28 (dk_at dksX1_says_1 0 rfl rfl)
theorem dX1_says_25 : decode cX1_says 25 = .ok (.iaload, 1) := dk_46 (dk_at dksX1_says_1 1 rfl rfl)
theorem dX1_says_26 : decode cX1_says 26 = .ok (.aload_n 1, 1) := dk_43 (dk_at dksX1_says_1 2 rfl rfl)
theorem dX1_says_27 : decode cX1_says 27 = .ok (.getfield 382, 3) := dk_180 1 126 (dk_at dksX1_says_1 3 rfl rfl)
theorem dX1_says_30 : decode cX1_says 30 = .ok (.invokevirtual 385, 3) := dk_182 1 129 (dk_at dksX1_says_1 6 rfl rfl)
theorem dX1_says_33 : decode cX1_says 33 = .ok (.istore 4, 2) := dk_54 4 (dk_at dksX1_says_1 9 rfl rfl)
theorem dX1_says_35 : decode cX1_says 35 = .ok (.iload 4, 2) := dk_21 4 (dk_at dksX1_says_1 11 rfl rfl)
theorem dX1_says_37 : decode cX1_says 37 = .ok (.aload_n 1, 1) := dk_43 (dk_at dksX1_says_1 13 rfl rfl)
theorem dX1_says_38 : decode cX1_says 38 = .ok (.getfield 246, 3) := dk_180 0 246 (dk_at dksX1_says_1 14 rfl rfl)
theorem dX1_says_41 : decode cX1_says 41 = .ok (.iload_n 2, 1) := dk_28 (dk_at dksX1_says_1 17 rfl rfl)
theorem dX1_says_42 : decode cX1_says 42 = .ok (.iaload, 1) := dk_46 (dk_at dksX1_says_1 18 rfl rfl)
theorem dX1_says_43 : decode cX1_says 43 = .ok (.if_icmp .le 6, 3) := dk_164 0 6 (dk_at dksX1_says_1 19 rfl rfl)
theorem dX1_says_46 : decode cX1_says 46 = .ok (.bipush (-2), 2) := dk_16 254 (dk_at dksX1_says_1 22 rfl rfl)
theorem dX1_says_48 : decode cX1_says 48 = .ok (.ireturn, 1) := dk_172 (dk_at dksX1_says_2 0 rfl rfl)
theorem dX1_says_49 : decode cX1_says 49 = .ok (.aload_n 1, 1) := dk_43 (dk_at dksX1_says_2 1 rfl rfl)
theorem dX1_says_50 : decode cX1_says 50 = .ok (.iload_n 2, 1) := dk_28 (dk_at dksX1_says_2 2 rfl rfl)
theorem dX1_says_51 : decode cX1_says 51 = .ok (.iload 4, 2) := dk_21 4 (dk_at dksX1_says_2 3 rfl rfl)
theorem dX1_says_53 : decode cX1_says 53 = .ok (.invokevirtual 399, 3) := dk_182 1 143 (dk_at dksX1_says_2 5 rfl rfl)
theorem dX1_says_56 : decode cX1_says 56 = .ok (.iconst 0, 1) := dk_3 (dk_at dksX1_says_2 8 rfl rfl)
theorem dX1_says_57 : decode cX1_says 57 = .ok (.istore 5, 2) := dk_54 5 (dk_at dksX1_says_2 9 rfl rfl)
theorem dX1_says_59 : decode cX1_says 59 = .ok (.iload 5, 2) := dk_21 5 (dk_at dksX1_says_2 11 rfl rfl)
theorem dX1_says_61 : decode cX1_says 61 = .ok (.aload_n 0, 1) := dk_42 (dk_at dksX1_says_2 13 rfl rfl)
theorem dX1_says_62 : decode cX1_says 62 = .ok (.getfield 23, 3) := dk_180 0 23 (dk_at dksX1_says_2 14 rfl rfl)
theorem dX1_says_65 : decode cX1_says 65 = .ok (.iload_n 3, 1) := dk_29 (dk_at dksX1_says_2 17 rfl rfl)
theorem dX1_says_66 : decode cX1_says 66 = .ok (.iaload, 1) := dk_46 (dk_at dksX1_says_2 18 rfl rfl)
theorem dX1_says_67 : decode cX1_says 67 = .ok (.if_icmp .ge 36, 3) := dk_162 0 36 (dk_at dksX1_says_2 19 rfl rfl)
theorem dX1_says_70 : decode cX1_says 70 = .ok (.aload_n 0, 1) := dk_42 (dk_at dksX1_says_2 22 rfl rfl)
theorem dX1_says_71 : decode cX1_says 71 = .ok (.iload_n 3, 1) := dk_29 (dk_at dksX1_says_2 23 rfl rfl)
theorem dX1_says_72 : decode cX1_says 72 = .ok (.iload 5, 2) := dk_21 5 (dk_at dksX1_says_3 0 rfl rfl)
theorem dX1_says_74 : decode cX1_says 74 = .ok (.invokevirtual 159, 3) := dk_182 0 159 (dk_at dksX1_says_3 2 rfl rfl)
theorem dX1_says_77 : decode cX1_says 77 = .ok (.ifCond .lt 20, 3) := dk_155 0 20 (dk_at dksX1_says_3 5 rfl rfl)
theorem dX1_says_80 : decode cX1_says 80 = .ok (.aload_n 1, 1) := dk_43 (dk_at dksX1_says_3 8 rfl rfl)
theorem dX1_says_81 : decode cX1_says 81 = .ok (.aload_n 1, 1) := dk_43 (dk_at dksX1_says_3 9 rfl rfl)
theorem dX1_says_82 : decode cX1_says 82 = .ok (.getfield 244, 3) := dk_180 0 244 (dk_at dksX1_says_3 10 rfl rfl)
theorem dX1_says_85 : decode cX1_says 85 = .ok (.iload_n 2, 1) := dk_28 (dk_at dksX1_says_3 13 rfl rfl)
theorem dX1_says_86 : decode cX1_says 86 = .ok (.iaload, 1) := dk_46 (dk_at dksX1_says_3 14 rfl rfl)
theorem dX1_says_87 : decode cX1_says 87 = .ok (.aload_n 0, 1) := dk_42 (dk_at dksX1_says_3 15 rfl rfl)
theorem dX1_says_88 : decode cX1_says 88 = .ok (.iload_n 3, 1) := dk_29 (dk_at dksX1_says_3 16 rfl rfl)
theorem dX1_says_89 : decode cX1_says 89 = .ok (.iload 5, 2) := dk_21 5 (dk_at dksX1_says_3 17 rfl rfl)
theorem dX1_says_91 : decode cX1_says 91 = .ok (.invokevirtual 159, 3) := dk_182 0 159 (dk_at dksX1_says_3 19 rfl rfl)
theorem dX1_says_94 : decode cX1_says 94 = .ok (.invokevirtual 403, 3) := dk_182 1 147 (dk_at dksX1_says_4 0 rfl rfl)
theorem dX1_says_97 : decode cX1_says 97 = .ok (.iinc 5 1, 3) := dk_132 5 1 (dk_at dksX1_says_4 3 rfl rfl)
theorem dX1_says_100 : decode cX1_says 100 = .ok (.goto (-41), 3) := dk_167 255 215 (dk_at dksX1_says_4 6 rfl rfl)
theorem dX1_says_103 : decode cX1_says 103 = .ok (.aload_n 0, 1) := dk_42 (dk_at dksX1_says_4 9 rfl rfl)
theorem dX1_says_104 : decode cX1_says 104 = .ok (.aload_n 0, 1) := dk_42 (dk_at dksX1_says_4 10 rfl rfl)
theorem dX1_says_105 : decode cX1_says 105 = .ok (.aload_n 1, 1) := dk_43 (dk_at dksX1_says_4 11 rfl rfl)
theorem dX1_says_106 : decode cX1_says 106 = .ok (.getfield 340, 3) := dk_180 1 84 (dk_at dksX1_says_4 12 rfl rfl)
theorem dX1_says_109 : decode cX1_says 109 = .ok (.iload_n 2, 1) := dk_28 (dk_at dksX1_says_4 15 rfl rfl)
theorem dX1_says_110 : decode cX1_says 110 = .ok (.aload_n 1, 1) := dk_43 (dk_at dksX1_says_4 16 rfl rfl)
theorem dX1_says_111 : decode cX1_says 111 = .ok (.getfield 244, 3) := dk_180 0 244 (dk_at dksX1_says_4 17 rfl rfl)
theorem dX1_says_114 : decode cX1_says 114 = .ok (.iload_n 2, 1) := dk_28 (dk_at dksX1_says_4 20 rfl rfl)
theorem dX1_says_115 : decode cX1_says 115 = .ok (.iaload, 1) := dk_46 (dk_at dksX1_says_4 21 rfl rfl)
theorem dX1_says_116 : decode cX1_says 116 = .ok (.iload_n 3, 1) := dk_29 (dk_at dksX1_says_4 22 rfl rfl)
theorem dX1_says_117 : decode cX1_says 117 = .ok (.invokevirtual 406, 3) := dk_182 1 150 (dk_at dksX1_says_5 0 rfl rfl)
theorem dX1_says_120 : decode cX1_says 120 = .ok (.putfield 410, 3) := dk_181 1 154 (dk_at dksX1_says_5 3 rfl rfl)
theorem dX1_says_123 : decode cX1_says 123 = .ok (.aload_n 1, 1) := dk_43 (dk_at dksX1_says_5 6 rfl rfl)
theorem dX1_says_124 : decode cX1_says 124 = .ok (.dup, 1) := dk_89 (dk_at dksX1_says_5 7 rfl rfl)
theorem dX1_says_125 : decode cX1_says 125 = .ok (.getfield 340, 3) := dk_180 1 84 (dk_at dksX1_says_5 8 rfl rfl)
theorem dX1_says_128 : decode cX1_says 128 = .ok (.aload_n 0, 1) := dk_42 (dk_at dksX1_says_5 11 rfl rfl)
theorem dX1_says_129 : decode cX1_says 129 = .ok (.getfield 410, 3) := dk_180 1 154 (dk_at dksX1_says_5 12 rfl rfl)
theorem dX1_says_132 : decode cX1_says 132 = .ok (.ior, 1) := dk_128 (dk_at dksX1_says_5 15 rfl rfl)
theorem dX1_says_133 : decode cX1_says 133 = .ok (.putfield 340, 3) := dk_181 1 84 (dk_at dksX1_says_5 16 rfl rfl)
theorem dX1_says_136 : decode cX1_says 136 = .ok (.iload 4, 2) := dk_21 4 (dk_at dksX1_says_5 19 rfl rfl)
theorem dX1_says_138 : decode cX1_says 138 = .ok (.ireturn, 1) := dk_172 (dk_at dksX1_says_5 21 rfl rfl)
def dkwX1_doesBy_3 : List UInt8 := [128, 54, 5, 132, 6, 1, 167, 255, 184, 21, 5, 172]
abbrev dktX1_doesBy_3 : List UInt8 := dkwX1_doesBy_3 ++ []
def dkwX1_doesBy_2 : List UInt8 := [42, 21, 4, 42, 180, 0, 35, 21, 6, 46, 182, 1, 140, 153, 0, 10, 4, 21, 6, 120, 167, 0, 4, 3]
abbrev dktX1_doesBy_2 : List UInt8 := dkwX1_doesBy_2 ++ dktX1_doesBy_3
def dkwX1_doesBy_1 : List UInt8 := [28, 160, 0, 46, 42, 180, 0, 38, 21, 6, 46, 29, 160, 0, 35, 27, 21, 6, 184, 1, 87, 154, 0, 26]
abbrev dktX1_doesBy_1 : List UInt8 := dkwX1_doesBy_1 ++ dktX1_doesBy_2
def dkwX1_doesBy_0 : List UInt8 := [3, 54, 5, 3, 54, 6, 21, 6, 42, 180, 0, 252, 162, 0, 69, 21, 5, 42, 180, 0, 32, 21, 6, 46]
abbrev dktX1_doesBy_0 : List UInt8 := dkwX1_doesBy_0 ++ dktX1_doesBy_1
theorem dksX1_doesBy_0 : cX1_doesBy.data.toList.drop 0 = dktX1_doesBy_0 := by decide +kernel
theorem dksX1_doesBy_1 : cX1_doesBy.data.toList.drop 24 = dktX1_doesBy_1 := dk_seg dksX1_doesBy_0 24 rfl rfl
theorem dksX1_doesBy_2 : cX1_doesBy.data.toList.drop 48 = dktX1_doesBy_2 := dk_seg dksX1_doesBy_1 24 rfl rfl
theorem dksX1_doesBy_3 : cX1_doesBy.data.toList.drop 72 = dktX1_doesBy_3 := dk_seg dksX1_doesBy_2 24 rfl rfl
theorem dX1_doesBy_0 : decode cX1_doesBy 0 = .ok (.iconst 0, 1) := dk_3 (dk_at dksX1_doesBy_0 0 rfl rfl)
theorem dX1_doesBy_1 : decode cX1_doesBy 1 = .ok (.istore 5, 2) := dk_54 5 (dk_at dksX1_doesBy_0 1 rfl rfl)
theorem dX1_doesBy_3 : decode cX1_doesBy 3 = .ok (.iconst 0, 1) := dk_3 (dk_at dksX1_doesBy_0 3 rfl rfl)
theorem dX1_doesBy_4 : decode cX1_doesBy 4 = .ok (.istore 6, 2) := dk_54 6 (dk_at dksX1_doesBy_0 4 rfl rfl)
theorem dX1_doesBy_6 : decode cX1_doesBy 6 = .ok (.iload 6, 2) := dk_21 6 (dk_at dksX1_doesBy_0 6 rfl rfl)
theorem dX1_doesBy_8 : decode cX1_doesBy 8 = .ok (.aload_n 0, 1) := dk_42 (dk_at dksX1_doesBy_0 8 rfl rfl)
theorem dX1_doesBy_9 : decode cX1_doesBy 9 = .ok (.getfield 252, 3) := dk_180 0 252 (dk_at dksX1_doesBy_0 9 rfl rfl)
theorem dX1_doesBy_12 : decode cX1_doesBy 12 = .ok (.if_icmp .ge 69, 3) := dk_162 0 69 (dk_at dksX1_doesBy_0 12 rfl rfl)
theorem dX1_doesBy_15 : decode cX1_doesBy 15 = .ok (.iload 5, 2) := dk_21 5 (dk_at dksX1_doesBy_0 15 rfl rfl)
theorem dX1_doesBy_17 : decode cX1_doesBy 17 = .ok (.aload_n 0, 1) := dk_42 (dk_at dksX1_doesBy_0 17 rfl rfl)
theorem dX1_doesBy_18 : decode cX1_doesBy 18 = .ok (.getfield 32, 3) := dk_180 0 32 (dk_at dksX1_doesBy_0 18 rfl rfl)
theorem dX1_doesBy_21 : decode cX1_doesBy 21 = .ok (.iload 6, 2) := dk_21 6 (dk_at dksX1_doesBy_0 21 rfl rfl)
theorem dX1_doesBy_23 : decode cX1_doesBy 23 = .ok (.iaload, 1) := dk_46 (dk_at dksX1_doesBy_0 23 rfl rfl)
theorem dX1_doesBy_24 : decode cX1_doesBy 24 = .ok (.iload_n 2, 1) := dk_28 (dk_at dksX1_doesBy_1 0 rfl rfl)
theorem dX1_doesBy_25 : decode cX1_doesBy 25 = .ok (.if_icmp .ne 46, 3) := dk_160 0 46 (dk_at dksX1_doesBy_1 1 rfl rfl)
theorem dX1_doesBy_28 : decode cX1_doesBy 28 = .ok (.aload_n 0, 1) := dk_42 (dk_at dksX1_doesBy_1 4 rfl rfl)
theorem dX1_doesBy_29 : decode cX1_doesBy 29 = .ok (.getfield 38, 3) := dk_180 0 38 (dk_at dksX1_doesBy_1 5 rfl rfl)
theorem dX1_doesBy_32 : decode cX1_doesBy 32 = .ok (.iload 6, 2) := dk_21 6 (dk_at dksX1_doesBy_1 8 rfl rfl)
theorem dX1_doesBy_34 : decode cX1_doesBy 34 = .ok (.iaload, 1) := dk_46 (dk_at dksX1_doesBy_1 10 rfl rfl)
theorem dX1_doesBy_35 : decode cX1_doesBy 35 = .ok (.iload_n 3, 1) := dk_29 (dk_at dksX1_doesBy_1 11 rfl rfl)
theorem dX1_doesBy_36 : decode cX1_doesBy 36 = .ok (.if_icmp .ne 35, 3) := dk_160 0 35 (dk_at dksX1_doesBy_1 12 rfl rfl)
theorem dX1_doesBy_39 : decode cX1_doesBy 39 = .ok (.iload_n 1, 1) := dk_27 (dk_at dksX1_doesBy_1 15 rfl rfl)
theorem dX1_doesBy_40 : decode cX1_doesBy 40 = .ok (.iload 6, 2) := dk_21 6 (dk_at dksX1_doesBy_1 16 rfl rfl)
theorem dX1_doesBy_42 : decode cX1_doesBy 42 = .ok (.invokestatic 343, 3) := dk_184 1 87 (dk_at dksX1_doesBy_1 18 rfl rfl)
theorem dX1_doesBy_45 : decode cX1_doesBy 45 = .ok (.ifCond .ne 26, 3) := dk_154 0 26 (dk_at dksX1_doesBy_1 21 rfl rfl)
theorem dX1_doesBy_48 : decode cX1_doesBy 48 = .ok (.aload_n 0, 1) := dk_42 (dk_at dksX1_doesBy_2 0 rfl rfl)
theorem dX1_doesBy_49 : decode cX1_doesBy 49 = .ok (.iload 4, 2) := dk_21 4 (dk_at dksX1_doesBy_2 1 rfl rfl)
theorem dX1_doesBy_51 : decode cX1_doesBy 51 = .ok (.aload_n 0, 1) := dk_42 (dk_at dksX1_doesBy_2 3 rfl rfl)
theorem dX1_doesBy_52 : decode cX1_doesBy 52 = .ok (.getfield 35, 3) := dk_180 0 35 (dk_at dksX1_doesBy_2 4 rfl rfl)
theorem dX1_doesBy_55 : decode cX1_doesBy 55 = .ok (.iload 6, 2) := dk_21 6 (dk_at dksX1_doesBy_2 7 rfl rfl)
theorem dX1_doesBy_57 : decode cX1_doesBy 57 = .ok (.iaload, 1) := dk_46 (dk_at dksX1_doesBy_2 9 rfl rfl)
theorem dX1_doesBy_58 : decode cX1_doesBy 58 = .ok (.invokevirtual 396, 3) := dk_182 1 140 (dk_at dksX1_doesBy_2 10 rfl rfl)
theorem dX1_doesBy_61 : decode cX1_doesBy 61 = .ok (.ifCond .eq 10, 3) := dk_153 0 10 (dk_at dksX1_doesBy_2 13 rfl rfl)
theorem dX1_doesBy_64 : decode cX1_doesBy 64 = .ok (.iconst 1, 1) := dk_4 (dk_at dksX1_doesBy_2 16 rfl rfl)
theorem dX1_doesBy_65 : decode cX1_doesBy 65 = .ok (.iload 6, 2) := dk_21 6 (dk_at dksX1_doesBy_2 17 rfl rfl)
theorem dX1_doesBy_67 : decode cX1_doesBy 67 = .ok (.ishl, 1) := dk_120 (dk_at dksX1_doesBy_2 19 rfl rfl)
theorem dX1_doesBy_68 : decode cX1_doesBy 68 = .ok (.goto 4, 3) := dk_167 0 4 (dk_at dksX1_doesBy_2 20 rfl rfl)
theorem dX1_doesBy_71 : decode cX1_doesBy 71 = .ok (.iconst 0, 1) := dk_3 (dk_at dksX1_doesBy_2 23 rfl rfl)
theorem dX1_doesBy_72 : decode cX1_doesBy 72 = .ok (.ior, 1) := dk_128 (dk_at dksX1_doesBy_3 0 rfl rfl)
theorem dX1_doesBy_73 : decode cX1_doesBy 73 = .ok (.istore 5, 2) := dk_54 5 (dk_at dksX1_doesBy_3 1 rfl rfl)
theorem dX1_doesBy_75 : decode cX1_doesBy 75 = .ok (.iinc 6 1, 3) := dk_132 6 1 (dk_at dksX1_doesBy_3 3 rfl rfl)
theorem dX1_doesBy_78 : decode cX1_doesBy 78 = .ok (.goto (-72), 3) := dk_167 255 184 (dk_at dksX1_doesBy_3 6 rfl rfl)
theorem dX1_doesBy_81 : decode cX1_doesBy 81 = .ok (.iload 5, 2) := dk_21 5 (dk_at dksX1_doesBy_3 9 rfl rfl)
theorem dX1_doesBy_83 : decode cX1_doesBy 83 = .ok (.ireturn, 1) := dk_172 (dk_at dksX1_doesBy_3 11 rfl rfl)
def dkwX1_has_0 : List UInt8 := [26, 27, 122, 4, 126, 4, 160, 0, 7, 4, 167, 0, 4, 3, 172]
abbrev dktX1_has_0 : List UInt8 := dkwX1_has_0 ++ []
theorem dksX1_has_0 : cX1_has.data.toList.drop 0 = dktX1_has_0 := by decide +kernel
theorem dX1_has_0 : decode cX1_has 0 = .ok (.iload_n 0, 1) := dk_26 (dk_at dksX1_has_0 0 rfl rfl)
theorem dX1_has_1 : decode cX1_has 1 = .ok (.iload_n 1, 1) := dk_27 (dk_at dksX1_has_0 1 rfl rfl)
theorem dX1_has_2 : decode cX1_has 2 = .ok (.ishr, 1) := dk_122 (dk_at dksX1_has_0 2 rfl rfl)
theorem dX1_has_3 : decode cX1_has 3 = .ok (.iconst 1, 1) := dk_4 (dk_at dksX1_has_0 3 rfl rfl)
theorem dX1_has_4 : decode cX1_has 4 = .ok (.iand, 1) := dk_126 (dk_at dksX1_has_0 4 rfl rfl)
theorem dX1_has_5 : decode cX1_has 5 = .ok (.iconst 1, 1) := dk_4 (dk_at dksX1_has_0 5 rfl rfl)
theorem dX1_has_6 : decode cX1_has 6 = .ok (.if_icmp .ne 7, 3) := dk_160 0 7 (dk_at dksX1_has_0 6 rfl rfl)
theorem dX1_has_9 : decode cX1_has 9 = .ok (.iconst 1, 1) := dk_4 (dk_at dksX1_has_0 9 rfl rfl)
theorem dX1_has_10 : decode cX1_has 10 = .ok (.goto 4, 3) := dk_167 0 4 (dk_at dksX1_has_0 10 rfl rfl)
theorem dX1_has_13 : decode cX1_has 13 = .ok (.iconst 0, 1) := dk_3 (dk_at dksX1_has_0 13 rfl rfl)
theorem dX1_has_14 : decode cX1_has 14 = .ok (.ireturn, 1) := dk_172 (dk_at dksX1_has_0 14 rfl rfl)
def dkwX1_means_1 : List UInt8 := [3, 172]
abbrev dktX1_means_1 : List UInt8 := dkwX1_means_1 ++ []
def dkwX1_means_0 : List UInt8 := [42, 180, 0, 26, 27, 46, 28, 159, 0, 13, 42, 180, 0, 29, 27, 46, 28, 160, 0, 7, 4, 167, 0, 4]
abbrev dktX1_means_0 : List UInt8 := dkwX1_means_0 ++ dktX1_means_1
theorem dksX1_means_0 : cX1_means.data.toList.drop 0 = dktX1_means_0 := by decide +kernel
theorem dksX1_means_1 : cX1_means.data.toList.drop 24 = dktX1_means_1 := dk_seg dksX1_means_0 24 rfl rfl
theorem dX1_means_0 : decode cX1_means 0 = .ok (.aload_n 0, 1) := dk_42 (dk_at dksX1_means_0 0 rfl rfl)
theorem dX1_means_1 : decode cX1_means 1 = .ok (.getfield 26, 3) := dk_180 0 26 (dk_at dksX1_means_0 1 rfl rfl)
theorem dX1_means_4 : decode cX1_means 4 = .ok (.iload_n 1, 1) := dk_27 (dk_at dksX1_means_0 4 rfl rfl)
theorem dX1_means_5 : decode cX1_means 5 = .ok (.iaload, 1) := dk_46 (dk_at dksX1_means_0 5 rfl rfl)
theorem dX1_means_6 : decode cX1_means 6 = .ok (.iload_n 2, 1) := dk_28 (dk_at dksX1_means_0 6 rfl rfl)
theorem dX1_means_7 : decode cX1_means 7 = .ok (.if_icmp .eq 13, 3) := dk_159 0 13 (dk_at dksX1_means_0 7 rfl rfl)
theorem dX1_means_10 : decode cX1_means 10 = .ok (.aload_n 0, 1) := dk_42 (dk_at dksX1_means_0 10 rfl rfl)
theorem dX1_means_11 : decode cX1_means 11 = .ok (.getfield 29, 3) := dk_180 0 29 (dk_at dksX1_means_0 11 rfl rfl)
theorem dX1_means_14 : decode cX1_means 14 = .ok (.iload_n 1, 1) := dk_27 (dk_at dksX1_means_0 14 rfl rfl)
theorem dX1_means_15 : decode cX1_means 15 = .ok (.iaload, 1) := dk_46 (dk_at dksX1_means_0 15 rfl rfl)
theorem dX1_means_16 : decode cX1_means 16 = .ok (.iload_n 2, 1) := dk_28 (dk_at dksX1_means_0 16 rfl rfl)
theorem dX1_means_17 : decode cX1_means 17 = .ok (.if_icmp .ne 7, 3) := dk_160 0 7 (dk_at dksX1_means_0 17 rfl rfl)
theorem dX1_means_20 : decode cX1_means 20 = .ok (.iconst 1, 1) := dk_4 (dk_at dksX1_means_0 20 rfl rfl)
theorem dX1_means_21 : decode cX1_means 21 = .ok (.goto 4, 3) := dk_167 0 4 (dk_at dksX1_means_0 21 rfl rfl)
theorem dX1_means_24 : decode cX1_means 24 = .ok (.iconst 0, 1) := dk_3 (dk_at dksX1_means_1 0 rfl rfl)
theorem dX1_means_25 : decode cX1_means 25 = .ok (.ireturn, 1) := dk_172 (dk_at dksX1_means_1 1 rfl rfl)
def dkwX1_alms_0 : List UInt8 := [42, 180, 0, 88, 42, 180, 0, 12, 182, 1, 119, 42, 42, 27, 28, 29, 182, 1, 171, 182, 1, 163, 172]
abbrev dktX1_alms_0 : List UInt8 := dkwX1_alms_0 ++ []
theorem dksX1_alms_0 : cX1_alms.data.toList.drop 0 = dktX1_alms_0 := by decide +kernel
theorem dX1_alms_0 : decode cX1_alms 0 = .ok (.aload_n 0, 1) := dk_42 (dk_at dksX1_alms_0 0 rfl rfl)
theorem dX1_alms_1 : decode cX1_alms 1 = .ok (.getfield 88, 3) := dk_180 0 88 (dk_at dksX1_alms_0 1 rfl rfl)
theorem dX1_alms_4 : decode cX1_alms 4 = .ok (.aload_n 0, 1) := dk_42 (dk_at dksX1_alms_0 4 rfl rfl)
theorem dX1_alms_5 : decode cX1_alms 5 = .ok (.getfield 12, 3) := dk_180 0 12 (dk_at dksX1_alms_0 5 rfl rfl)
theorem dX1_alms_8 : decode cX1_alms 8 = .ok (.invokevirtual 375, 3) := dk_182 1 119 (dk_at dksX1_alms_0 8 rfl rfl)
theorem dX1_alms_11 : decode cX1_alms 11 = .ok (.aload_n 0, 1) := dk_42 (dk_at dksX1_alms_0 11 rfl rfl)
theorem dX1_alms_12 : decode cX1_alms 12 = .ok (.aload_n 0, 1) := dk_42 (dk_at dksX1_alms_0 12 rfl rfl)
theorem dX1_alms_13 : decode cX1_alms 13 = .ok (.iload_n 1, 1) := dk_27 (dk_at dksX1_alms_0 13 rfl rfl)
theorem dX1_alms_14 : decode cX1_alms 14 = .ok (.iload_n 2, 1) := dk_28 (dk_at dksX1_alms_0 14 rfl rfl)
theorem dX1_alms_15 : decode cX1_alms 15 = .ok (.iload_n 3, 1) := dk_29 (dk_at dksX1_alms_0 15 rfl rfl)
theorem dX1_alms_16 : decode cX1_alms 16 = .ok (.invokevirtual 427, 3) := dk_182 1 171 (dk_at dksX1_alms_0 16 rfl rfl)
theorem dX1_alms_19 : decode cX1_alms 19 = .ok (.invokevirtual 419, 3) := dk_182 1 163 (dk_at dksX1_alms_0 19 rfl rfl)
theorem dX1_alms_22 : decode cX1_alms 22 = .ok (.ireturn, 1) := dk_172 (dk_at dksX1_alms_0 22 rfl rfl)
def dkwX1_givesAlms_5 : List UInt8 := [180, 0, 246, 28, 46, 172]
abbrev dktX1_givesAlms_5 : List UInt8 := dkwX1_givesAlms_5 ++ []
def dkwX1_givesAlms_4 : List UInt8 := [17, 39, 15, 42, 180, 0, 12, 180, 0, 246, 28, 46, 29, 96, 184, 0, 172, 79, 42, 180, 0, 12]
abbrev dktX1_givesAlms_4 : List UInt8 := dkwX1_givesAlms_4 ++ dktX1_givesAlms_5
def dkwX1_givesAlms_3 : List UInt8 := [16, 254, 172, 42, 180, 0, 12, 180, 0, 246, 27, 92, 46, 29, 100, 79, 42, 180, 0, 12, 180, 0, 246, 28]
abbrev dktX1_givesAlms_3 : List UInt8 := dkwX1_givesAlms_3 ++ dktX1_givesAlms_4
def dkwX1_givesAlms_2 : List UInt8 := [180, 0, 244, 28, 46, 159, 0, 6, 16, 253, 172, 42, 180, 0, 12, 180, 0, 246, 27, 46, 29, 162, 0, 6]
abbrev dktX1_givesAlms_2 : List UInt8 := dkwX1_givesAlms_2 ++ dktX1_givesAlms_3
def dkwX1_givesAlms_1 : List UInt8 := [20, 1, 157, 184, 0, 141, 154, 0, 5, 2, 172, 42, 180, 0, 12, 180, 0, 244, 27, 46, 42, 180, 0, 12]
abbrev dktX1_givesAlms_1 : List UInt8 := dkwX1_givesAlms_1 ++ dktX1_givesAlms_2
def dkwX1_givesAlms_0 : List UInt8 := [42, 27, 182, 1, 106, 153, 0, 28, 42, 28, 182, 1, 106, 153, 0, 20, 27, 28, 159, 0, 15, 29, 133, 10]
abbrev dktX1_givesAlms_0 : List UInt8 := dkwX1_givesAlms_0 ++ dktX1_givesAlms_1
theorem dksX1_givesAlms_0 : cX1_givesAlms.data.toList.drop 0 = dktX1_givesAlms_0 := by decide +kernel
theorem dksX1_givesAlms_1 : cX1_givesAlms.data.toList.drop 24 = dktX1_givesAlms_1 := dk_seg dksX1_givesAlms_0 24 rfl rfl
theorem dksX1_givesAlms_2 : cX1_givesAlms.data.toList.drop 48 = dktX1_givesAlms_2 := dk_seg dksX1_givesAlms_1 24 rfl rfl
theorem dksX1_givesAlms_3 : cX1_givesAlms.data.toList.drop 72 = dktX1_givesAlms_3 := dk_seg dksX1_givesAlms_2 24 rfl rfl
theorem dksX1_givesAlms_4 : cX1_givesAlms.data.toList.drop 96 = dktX1_givesAlms_4 := dk_seg dksX1_givesAlms_3 24 rfl rfl
theorem dksX1_givesAlms_5 : cX1_givesAlms.data.toList.drop 118 = dktX1_givesAlms_5 := dk_seg dksX1_givesAlms_4 22 rfl rfl
theorem dX1_givesAlms_0 : decode cX1_givesAlms 0 = .ok (.aload_n 0, 1) := dk_42 (dk_at dksX1_givesAlms_0 0 rfl rfl)
theorem dX1_givesAlms_1 : decode cX1_givesAlms 1 = .ok (.iload_n 1, 1) := dk_27 (dk_at dksX1_givesAlms_0 1 rfl rfl)
theorem dX1_givesAlms_2 : decode cX1_givesAlms 2 = .ok (.invokevirtual 362, 3) := dk_182 1 106 (dk_at dksX1_givesAlms_0 2 rfl rfl)
theorem dX1_givesAlms_5 : decode cX1_givesAlms 5 = .ok (.ifCond .eq 28, 3) := dk_153 0 28 (dk_at dksX1_givesAlms_0 5 rfl rfl)
theorem dX1_givesAlms_8 : decode cX1_givesAlms 8 = .ok (.aload_n 0, 1) := dk_42 (dk_at dksX1_givesAlms_0 8 rfl rfl)
theorem dX1_givesAlms_9 : decode cX1_givesAlms 9 = .ok (.iload_n 2, 1) := dk_28 (dk_at dksX1_givesAlms_0 9 rfl rfl)
theorem dX1_givesAlms_10 : decode cX1_givesAlms 10 = .ok (.invokevirtual 362, 3) := dk_182 1 106 (dk_at dksX1_givesAlms_0 10 rfl rfl)
theorem dX1_givesAlms_13 : decode cX1_givesAlms 13 = .ok (.ifCond .eq 20, 3) := dk_153 0 20 (dk_at dksX1_givesAlms_0 13 rfl rfl)
theorem dX1_givesAlms_16 : decode cX1_givesAlms 16 = .ok (.iload_n 1, 1) := dk_27 (dk_at dksX1_givesAlms_0 16 rfl rfl)
theorem dX1_givesAlms_17 : decode cX1_givesAlms 17 = .ok (.iload_n 2, 1) := dk_28 (dk_at dksX1_givesAlms_0 17 rfl rfl)
theorem dX1_givesAlms_18 : decode cX1_givesAlms 18 = .ok (.if_icmp .eq 15, 3) := dk_159 0 15 (dk_at dksX1_givesAlms_0 18 rfl rfl)
theorem dX1_givesAlms_21 : decode cX1_givesAlms 21 = .ok (.iload_n 3, 1) := dk_29 (dk_at dksX1_givesAlms_0 21 rfl rfl)
theorem dX1_givesAlms_22 : decode cX1_givesAlms 22 = .ok (.i2l, 1) := dk_133 (dk_at dksX1_givesAlms_0 22 rfl rfl)
theorem dX1_givesAlms_23 : decode cX1_givesAlms 23 = .ok (.lconst 1, 1) := dk_10 (dk_at dksX1_givesAlms_0 23 rfl rfl)
theorem dX1_givesAlms_24 : decode cX1_givesAlms 24 = .ok (.ldc2_w 413, 3) := dk_20 1 157 (dk_at dksX1_givesAlms_1 0 rfl rfl)
theorem dX1_givesAlms_27 : decode cX1_givesAlms 27 = .ok (.invokestatic 141, 3) := dk_184 0 141 (dk_at dksX1_givesAlms_1 3 rfl rfl)
theorem dX1_givesAlms_30 : decode cX1_givesAlms 30 = .ok (.ifCond .ne 5, 3) := dk_154 0 5 (dk_at dksX1_givesAlms_1 6 rfl rfl)
theorem dX1_givesAlms_33 : decode cX1_givesAlms 33 = .ok (.iconst (-1), 1) := dk_2 (dk_at dksX1_givesAlms_1 9 rfl rfl)
theorem dX1_givesAlms_34 : decode cX1_givesAlms 34 = .ok (.ireturn, 1) := dk_172 (dk_at dksX1_givesAlms_1 10 rfl rfl)
theorem dX1_givesAlms_35 : decode cX1_givesAlms 35 = .ok (.aload_n 0, 1) := dk_42 (dk_at dksX1_givesAlms_1 11 rfl rfl)
theorem dX1_givesAlms_36 : decode cX1_givesAlms 36 = .ok (.getfield 12, 3) := dk_180 0 12 (dk_at dksX1_givesAlms_1 12 rfl rfl)
theorem dX1_givesAlms_39 : decode cX1_givesAlms 39 = .ok (.getfield 244, 3) := dk_180 0 244 (dk_at dksX1_givesAlms_1 15 rfl rfl)
theorem dX1_givesAlms_42 : decode cX1_givesAlms 42 = .ok (.iload_n 1, 1) := dk_27 (dk_at dksX1_givesAlms_1 18 rfl rfl)
theorem dX1_givesAlms_43 : decode cX1_givesAlms 43 = .ok (.iaload, 1) := dk_46 (dk_at dksX1_givesAlms_1 19 rfl rfl)
theorem dX1_givesAlms_44 : decode cX1_givesAlms 44 = .ok (.aload_n 0, 1) := dk_42 (dk_at dksX1_givesAlms_1 20 rfl rfl)
theorem dX1_givesAlms_45 : decode cX1_givesAlms 45 = .ok (.getfield 12, 3) := dk_180 0 12 (dk_at dksX1_givesAlms_1 21 rfl rfl)
theorem dX1_givesAlms_48 : decode cX1_givesAlms 48 = .ok (.getfield 244, 3) := dk_180 0 244 (dk_at dksX1_givesAlms_2 0 rfl rfl)
theorem dX1_givesAlms_51 : decode cX1_givesAlms 51 = .ok (.iload_n 2, 1) := dk_28 (dk_at dksX1_givesAlms_2 3 rfl rfl)
theorem dX1_givesAlms_52 : decode cX1_givesAlms 52 = .ok (.iaload, 1) := dk_46 (dk_at dksX1_givesAlms_2 4 rfl rfl)
theorem dX1_givesAlms_53 : decode cX1_givesAlms 53 = .ok (.if_icmp .eq 6, 3) := dk_159 0 6 (dk_at dksX1_givesAlms_2 5 rfl rfl)
theorem dX1_givesAlms_56 : decode cX1_givesAlms 56 = .ok (.bipush (-3), 2) := dk_16 253 (dk_at dksX1_givesAlms_2 8 rfl rfl)
theorem dX1_givesAlms_58 : decode cX1_givesAlms 58 = .ok (.ireturn, 1) := dk_172 (dk_at dksX1_givesAlms_2 10 rfl rfl)
theorem dX1_givesAlms_59 : decode cX1_givesAlms 59 = .ok (.aload_n 0, 1) := dk_42 (dk_at dksX1_givesAlms_2 11 rfl rfl)
theorem dX1_givesAlms_60 : decode cX1_givesAlms 60 = .ok (.getfield 12, 3) := dk_180 0 12 (dk_at dksX1_givesAlms_2 12 rfl rfl)
theorem dX1_givesAlms_63 : decode cX1_givesAlms 63 = .ok (.getfield 246, 3) := dk_180 0 246 (dk_at dksX1_givesAlms_2 15 rfl rfl)
theorem dX1_givesAlms_66 : decode cX1_givesAlms 66 = .ok (.iload_n 1, 1) := dk_27 (dk_at dksX1_givesAlms_2 18 rfl rfl)
theorem dX1_givesAlms_67 : decode cX1_givesAlms 67 = .ok (.iaload, 1) := dk_46 (dk_at dksX1_givesAlms_2 19 rfl rfl)
theorem dX1_givesAlms_68 : decode cX1_givesAlms 68 = .ok (.iload_n 3, 1) := dk_29 (dk_at dksX1_givesAlms_2 20 rfl rfl)
theorem dX1_givesAlms_69 : decode cX1_givesAlms 69 = .ok (.if_icmp .ge 6, 3) := dk_162 0 6 (dk_at dksX1_givesAlms_2 21 rfl rfl)
theorem dX1_givesAlms_72 : decode cX1_givesAlms 72 = .ok (.bipush (-2), 2) := dk_16 254 (dk_at dksX1_givesAlms_3 0 rfl rfl)
theorem dX1_givesAlms_74 : decode cX1_givesAlms 74 = .ok (.ireturn, 1) := dk_172 (dk_at dksX1_givesAlms_3 2 rfl rfl)
theorem dX1_givesAlms_75 : decode cX1_givesAlms 75 = .ok (.aload_n 0, 1) := dk_42 (dk_at dksX1_givesAlms_3 3 rfl rfl)
theorem dX1_givesAlms_76 : decode cX1_givesAlms 76 = .ok (.getfield 12, 3) := dk_180 0 12 (dk_at dksX1_givesAlms_3 4 rfl rfl)
theorem dX1_givesAlms_79 : decode cX1_givesAlms 79 = .ok (.getfield 246, 3) := dk_180 0 246 (dk_at dksX1_givesAlms_3 7 rfl rfl)
theorem dX1_givesAlms_82 : decode cX1_givesAlms 82 = .ok (.iload_n 1, 1) := dk_27 (dk_at dksX1_givesAlms_3 10 rfl rfl)
theorem dX1_givesAlms_83 : decode cX1_givesAlms 83 = .ok (.dup2, 1) := dk_92 (dk_at dksX1_givesAlms_3 11 rfl rfl)
theorem dX1_givesAlms_84 : decode cX1_givesAlms 84 = .ok (.iaload, 1) := dk_46 (dk_at dksX1_givesAlms_3 12 rfl rfl)
theorem dX1_givesAlms_85 : decode cX1_givesAlms 85 = .ok (.iload_n 3, 1) := dk_29 (dk_at dksX1_givesAlms_3 13 rfl rfl)
theorem dX1_givesAlms_86 : decode cX1_givesAlms 86 = .ok (.isub, 1) := dk_100 (dk_at dksX1_givesAlms_3 14 rfl rfl)
theorem dX1_givesAlms_87 : decode cX1_givesAlms 87 = .ok (.iastore, 1) := dk_79 (dk_at dksX1_givesAlms_3 15 rfl rfl)
theorem dX1_givesAlms_88 : decode cX1_givesAlms 88 = .ok (.aload_n 0, 1) := dk_42 (dk_at dksX1_givesAlms_3 16 rfl rfl)
theorem dX1_givesAlms_89 : decode cX1_givesAlms 89 = .ok (.getfield 12, 3) := dk_180 0 12 (dk_at dksX1_givesAlms_3 17 rfl rfl)
theorem dX1_givesAlms_92 : decode cX1_givesAlms 92 = .ok (.getfield 246, 3) := dk_180 0 246 (dk_at dksX1_givesAlms_3 20 rfl rfl)
theorem dX1_givesAlms_95 : decode cX1_givesAlms 95 = .ok (.iload_n 2, 1) := dk_28 (dk_at dksX1_givesAlms_3 23 rfl rfl)
theorem dX1_givesAlms_96 : decode cX1_givesAlms 96 = .ok (.sipush 9999, 3) := dk_17 39 15 (dk_at dksX1_givesAlms_4 0 rfl rfl)
theorem dX1_givesAlms_99 : decode cX1_givesAlms 99 = .ok (.aload_n 0, 1) := dk_42 (dk_at dksX1_givesAlms_4 3 rfl rfl)
theorem dX1_givesAlms_100 : decode cX1_givesAlms 100 = .ok (.getfield 12, 3) := dk_180 0 12 (dk_at dksX1_givesAlms_4 4 rfl rfl)
theorem dX1_givesAlms_103 : decode cX1_givesAlms 103 = .ok (.getfield 246, 3) := dk_180 0 246 (dk_at dksX1_givesAlms_4 7 rfl rfl)
theorem dX1_givesAlms_106 : decode cX1_givesAlms 106 = .ok (.iload_n 2, 1) := dk_28 (dk_at dksX1_givesAlms_4 10 rfl rfl)
theorem dX1_givesAlms_107 : decode cX1_givesAlms 107 = .ok (.iaload, 1) := dk_46 (dk_at dksX1_givesAlms_4 11 rfl rfl)
theorem dX1_givesAlms_108 : decode cX1_givesAlms 108 = .ok (.iload_n 3, 1) := dk_29 (dk_at dksX1_givesAlms_4 12 rfl rfl)
theorem dX1_givesAlms_109 : decode cX1_givesAlms 109 = .ok (.iadd, 1) := dk_96 (dk_at dksX1_givesAlms_4 13 rfl rfl)
theorem dX1_givesAlms_110 : decode cX1_givesAlms 110 = .ok (.invokestatic 172, 3) := dk_184 0 172 (dk_at dksX1_givesAlms_4 14 rfl rfl)
theorem dX1_givesAlms_113 : decode cX1_givesAlms 113 = .ok (.iastore, 1) := dk_79 (dk_at dksX1_givesAlms_4 17 rfl rfl)
theorem dX1_givesAlms_114 : decode cX1_givesAlms 114 = .ok (.aload_n 0, 1) := dk_42 (dk_at dksX1_givesAlms_4 18 rfl rfl)
theorem dX1_givesAlms_115 : decode cX1_givesAlms 115 = .ok (.getfield 12, 3) := dk_180 0 12 (dk_at dksX1_givesAlms_4 19 rfl rfl)
theorem dX1_givesAlms_118 : decode cX1_givesAlms 118 = .ok (.getfield 246, 3) := dk_180 0 246 (dk_at dksX1_givesAlms_5 0 rfl rfl)
theorem dX1_givesAlms_121 : decode cX1_givesAlms 121 = .ok (.iload_n 2, 1) := dk_28 (dk_at dksX1_givesAlms_5 3 rfl rfl)
theorem dX1_givesAlms_122 : decode cX1_givesAlms 122 = .ok (.iaload, 1) := dk_46 (dk_at dksX1_givesAlms_5 4 rfl rfl)
theorem dX1_givesAlms_123 : decode cX1_givesAlms 123 = .ok (.ireturn, 1) := dk_172 (dk_at dksX1_givesAlms_5 5 rfl rfl)
def dkwX1_journey_6 : List UInt8 := [162, 0, 7, 10, 167, 0, 4, 9, 182, 1, 136, 42, 42, 180, 1, 180, 133, 182, 1, 136, 21, 5, 172]
abbrev dktX1_journey_6 : List UInt8 := dkwX1_journey_6 ++ []
def dkwX1_journey_5 : List UInt8 := [158, 0, 11, 42, 42, 180, 0, 88, 182, 1, 123, 42, 3, 181, 1, 133, 42, 21, 5, 42, 180, 1, 174]
abbrev dktX1_journey_5 : List UInt8 := dkwX1_journey_5 ++ dktX1_journey_6
def dkwX1_journey_4 : List UInt8 := [180, 1, 174, 162, 0, 18, 42, 21, 5, 182, 1, 195, 153, 0, 9, 132, 5, 1, 167, 255, 235, 21, 5]
abbrev dktX1_journey_4 : List UInt8 := dkwX1_journey_4 ++ dktX1_journey_5
def dkwX1_journey_3 : List UInt8 := [42, 180, 0, 88, 42, 180, 0, 12, 182, 1, 119, 42, 3, 181, 1, 180, 3, 54, 5, 21, 5, 42]
abbrev dktX1_journey_3 : List UInt8 := dkwX1_journey_3 ++ dktX1_journey_4
def dkwX1_journey_2 : List UInt8 := [167, 0, 4, 3, 62, 167, 255, 228, 42, 27, 28, 182, 0, 215, 54, 4, 21, 4, 156, 0, 6, 21, 4, 172]
abbrev dktX1_journey_2 : List UInt8 := dkwX1_journey_2 ++ dktX1_journey_3
def dkwX1_journey_1 : List UInt8 := [29, 153, 0, 30, 42, 182, 1, 192, 61, 28, 153, 0, 16, 42, 16, 59, 182, 0, 212, 153, 0, 7, 4]
abbrev dktX1_journey_1 : List UInt8 := dkwX1_journey_1 ++ dktX1_journey_2
def dkwX1_journey_0 : List UInt8 := [42, 16, 60, 182, 0, 206, 60, 42, 3, 181, 1, 174, 4, 61, 27, 158, 0, 7, 4, 167, 0, 4, 3, 62]
abbrev dktX1_journey_0 : List UInt8 := dkwX1_journey_0 ++ dktX1_journey_1
theorem dksX1_journey_0 : cX1_journey.data.toList.drop 0 = dktX1_journey_0 := by decide +kernel
theorem dksX1_journey_1 : cX1_journey.data.toList.drop 24 = dktX1_journey_1 := dk_seg dksX1_journey_0 24 rfl rfl
theorem dksX1_journey_2 : cX1_journey.data.toList.drop 47 = dktX1_journey_2 := dk_seg dksX1_journey_1 23 rfl rfl
theorem dksX1_journey_3 : cX1_journey.data.toList.drop 71 = dktX1_journey_3 := dk_seg dksX1_journey_2 24 rfl rfl
theorem dksX1_journey_4 : cX1_journey.data.toList.drop 93 = dktX1_journey_4 := dk_seg dksX1_journey_3 22 rfl rfl
theorem dksX1_journey_5 : cX1_journey.data.toList.drop 116 = dktX1_journey_5 := dk_seg dksX1_journey_4 23 rfl rfl
theorem dksX1_journey_6 : cX1_journey.data.toList.drop 139 = dktX1_journey_6 := dk_seg dksX1_journey_5 23 rfl rfl
theorem dX1_journey_0 : decode cX1_journey 0 = .ok (.aload_n 0, 1) := dk_42 (dk_at dksX1_journey_0 0 rfl rfl)
theorem dX1_journey_1 : decode cX1_journey 1 = .ok (.bipush 60, 2) := dk_16 60 (dk_at dksX1_journey_0 1 rfl rfl)
theorem dX1_journey_3 : decode cX1_journey 3 = .ok (.invokevirtual 206, 3) := dk_182 0 206 (dk_at dksX1_journey_0 3 rfl rfl)
theorem dX1_journey_6 : decode cX1_journey 6 = .ok (.istore_n 1, 1) := dk_60 (dk_at dksX1_journey_0 6 rfl rfl)
theorem dX1_journey_7 : decode cX1_journey 7 = .ok (.aload_n 0, 1) := dk_42 (dk_at dksX1_journey_0 7 rfl rfl)
theorem dX1_journey_8 : decode cX1_journey 8 = .ok (.iconst 0, 1) := dk_3 (dk_at dksX1_journey_0 8 rfl rfl)
theorem dX1_journey_9 : decode cX1_journey 9 = .ok (.putfield 430, 3) := dk_181 1 174 (dk_at dksX1_journey_0 9 rfl rfl)
theorem dX1_journey_12 : decode cX1_journey 12 = .ok (.iconst 1, 1) := dk_4 (dk_at dksX1_journey_0 12 rfl rfl)
theorem dX1_journey_13 : decode cX1_journey 13 = .ok (.istore_n 2, 1) := dk_61 (dk_at dksX1_journey_0 13 rfl rfl)
theorem dX1_journey_14 : decode cX1_journey 14 = .ok (.iload_n 1, 1) := dk_27 (dk_at dksX1_journey_0 14 rfl rfl)
theorem dX1_journey_15 : decode cX1_journey 15 = .ok (.ifCond .le 7, 3) := dk_158 0 7 (dk_at dksX1_journey_0 15 rfl rfl)
theorem dX1_journey_18 : decode cX1_journey 18 = .ok (.iconst 1, 1) := dk_4 (dk_at dksX1_journey_0 18 rfl rfl)
theorem dX1_journey_19 : decode cX1_journey 19 = .ok (.goto 4, 3) := dk_167 0 4 (dk_at dksX1_journey_0 19 rfl rfl)
theorem dX1_journey_22 : decode cX1_journey 22 = .ok (.iconst 0, 1) := dk_3 (dk_at dksX1_journey_0 22 rfl rfl)
theorem dX1_journey_23 : decode cX1_journey 23 = .ok (.istore_n 3, 1) := dk_62 (dk_at dksX1_journey_0 23 rfl rfl)
theorem dX1_journey_24 : decode cX1_journey 24 = .ok (.iload_n 3, 1) := dk_29 (dk_at dksX1_journey_1 0 rfl rfl)
theorem dX1_journey_25 : decode cX1_journey 25 = .ok (.ifCond .eq 30, 3) := dk_153 0 30 (dk_at dksX1_journey_1 1 rfl rfl)
theorem dX1_journey_28 : decode cX1_journey 28 = .ok (.aload_n 0, 1) := dk_42 (dk_at dksX1_journey_1 4 rfl rfl)
theorem dX1_journey_29 : decode cX1_journey 29 = .ok (.invokevirtual 448, 3) := dk_182 1 192 (dk_at dksX1_journey_1 5 rfl rfl)
theorem dX1_journey_32 : decode cX1_journey 32 = .ok (.istore_n 2, 1) := dk_61 (dk_at dksX1_journey_1 8 rfl rfl)
theorem dX1_journey_33 : decode cX1_journey 33 = .ok (.iload_n 2, 1) := dk_28 (dk_at dksX1_journey_1 9 rfl rfl)
theorem dX1_journey_34 : decode cX1_journey 34 = .ok (.ifCond .eq 16, 3) := dk_153 0 16 (dk_at dksX1_journey_1 10 rfl rfl)
theorem dX1_journey_37 : decode cX1_journey 37 = .ok (.aload_n 0, 1) := dk_42 (dk_at dksX1_journey_1 13 rfl rfl)
theorem dX1_journey_38 : decode cX1_journey 38 = .ok (.bipush 59, 2) := dk_16 59 (dk_at dksX1_journey_1 14 rfl rfl)
theorem dX1_journey_40 : decode cX1_journey 40 = .ok (.invokevirtual 212, 3) := dk_182 0 212 (dk_at dksX1_journey_1 16 rfl rfl)
theorem dX1_journey_43 : decode cX1_journey 43 = .ok (.ifCond .eq 7, 3) := dk_153 0 7 (dk_at dksX1_journey_1 19 rfl rfl)
theorem dX1_journey_46 : decode cX1_journey 46 = .ok (.iconst 1, 1) := dk_4 (dk_at dksX1_journey_1 22 rfl rfl)
theorem dX1_journey_47 : decode cX1_journey 47 = .ok (.goto 4, 3) := dk_167 0 4 (dk_at dksX1_journey_2 0 rfl rfl)
theorem dX1_journey_50 : decode cX1_journey 50 = .ok (.iconst 0, 1) := dk_3 (dk_at dksX1_journey_2 3 rfl rfl)
theorem dX1_journey_51 : decode cX1_journey 51 = .ok (.istore_n 3, 1) := dk_62 (dk_at dksX1_journey_2 4 rfl rfl)
theorem dX1_journey_52 : decode cX1_journey 52 = .ok (.goto (-28), 3) := dk_167 255 228 (dk_at dksX1_journey_2 5 rfl rfl)
theorem dX1_journey_55 : decode cX1_journey 55 = .ok (.aload_n 0, 1) := dk_42 (dk_at dksX1_journey_2 8 rfl rfl)
theorem dX1_journey_56 : decode cX1_journey 56 = .ok (.iload_n 1, 1) := dk_27 (dk_at dksX1_journey_2 9 rfl rfl)
theorem dX1_journey_57 : decode cX1_journey 57 = .ok (.iload_n 2, 1) := dk_28 (dk_at dksX1_journey_2 10 rfl rfl)
theorem dX1_journey_58 : decode cX1_journey 58 = .ok (.invokevirtual 215, 3) := dk_182 0 215 (dk_at dksX1_journey_2 11 rfl rfl)
theorem dX1_journey_61 : decode cX1_journey 61 = .ok (.istore 4, 2) := dk_54 4 (dk_at dksX1_journey_2 14 rfl rfl)
theorem dX1_journey_63 : decode cX1_journey 63 = .ok (.iload 4, 2) := dk_21 4 (dk_at dksX1_journey_2 16 rfl rfl)
theorem dX1_journey_65 : decode cX1_journey 65 = .ok (.ifCond .ge 6, 3) := dk_156 0 6 (dk_at dksX1_journey_2 18 rfl rfl)
theorem dX1_journey_68 : decode cX1_journey 68 = .ok (.iload 4, 2) := dk_21 4 (dk_at dksX1_journey_2 21 rfl rfl)
theorem dX1_journey_70 : decode cX1_journey 70 = .ok (.ireturn, 1) := dk_172 (dk_at dksX1_journey_2 23 rfl rfl)
theorem dX1_journey_71 : decode cX1_journey 71 = .ok (.aload_n 0, 1) := dk_42 (dk_at dksX1_journey_3 0 rfl rfl)
theorem dX1_journey_72 : decode cX1_journey 72 = .ok (.getfield 88, 3) := dk_180 0 88 (dk_at dksX1_journey_3 1 rfl rfl)
theorem dX1_journey_75 : decode cX1_journey 75 = .ok (.aload_n 0, 1) := dk_42 (dk_at dksX1_journey_3 4 rfl rfl)
theorem dX1_journey_76 : decode cX1_journey 76 = .ok (.getfield 12, 3) := dk_180 0 12 (dk_at dksX1_journey_3 5 rfl rfl)
theorem dX1_journey_79 : decode cX1_journey 79 = .ok (.invokevirtual 375, 3) := dk_182 1 119 (dk_at dksX1_journey_3 8 rfl rfl)
theorem dX1_journey_82 : decode cX1_journey 82 = .ok (.aload_n 0, 1) := dk_42 (dk_at dksX1_journey_3 11 rfl rfl)
theorem dX1_journey_83 : decode cX1_journey 83 = .ok (.iconst 0, 1) := dk_3 (dk_at dksX1_journey_3 12 rfl rfl)
theorem dX1_journey_84 : decode cX1_journey 84 = .ok (.putfield 436, 3) := dk_181 1 180 (dk_at dksX1_journey_3 13 rfl rfl)
theorem dX1_journey_87 : decode cX1_journey 87 = .ok (.iconst 0, 1) := dk_3 (dk_at dksX1_journey_3 16 rfl rfl)
theorem dX1_journey_88 : decode cX1_journey 88 = .ok (.istore 5, 2) := dk_54 5 (dk_at dksX1_journey_3 17 rfl rfl)
theorem dX1_journey_90 : decode cX1_journey 90 = .ok (.iload 5, 2) := dk_21 5 (dk_at dksX1_journey_3 19 rfl rfl)
theorem dX1_journey_92 : decode cX1_journey 92 = .ok (.aload_n 0, 1) := dk_42 (dk_at dksX1_journey_3 21 rfl rfl)
theorem dX1_journey_93 : decode cX1_journey 93 = .ok (.getfield 430, 3) := dk_180 1 174 (dk_at dksX1_journey_4 0 rfl rfl)
theorem dX1_journey_96 : decode cX1_journey 96 = .ok (.if_icmp .ge 18, 3) := dk_162 0 18 (dk_at dksX1_journey_4 3 rfl rfl)
theorem dX1_journey_99 : decode cX1_journey 99 = .ok (.aload_n 0, 1) := dk_42 (dk_at dksX1_journey_4 6 rfl rfl)
theorem dX1_journey_100 : decode cX1_journey 100 = .ok (.iload 5, 2) := dk_21 5 (dk_at dksX1_journey_4 7 rfl rfl)
theorem dX1_journey_102 : decode cX1_journey 102 = .ok (.invokevirtual 451, 3) := dk_182 1 195 (dk_at dksX1_journey_4 9 rfl rfl)
theorem dX1_journey_105 : decode cX1_journey 105 = .ok (.ifCond .eq 9, 3) := dk_153 0 9 (dk_at dksX1_journey_4 12 rfl rfl)
theorem dX1_journey_108 : decode cX1_journey 108 = .ok (.iinc 5 1, 3) := dk_132 5 1 (dk_at dksX1_journey_4 15 rfl rfl)
theorem dX1_journey_111 : decode cX1_journey 111 = .ok (.goto (-21), 3) := dk_167 255 235 (dk_at dksX1_journey_4 18 rfl rfl)
theorem dX1_journey_114 : decode cX1_journey 114 = .ok (.iload 5, 2) := dk_21 5 (dk_at dksX1_journey_4 21 rfl rfl)
theorem dX1_journey_116 : decode cX1_journey 116 = .ok (.ifCond .le 11, 3) := dk_158 0 11 (dk_at dksX1_journey_5 0 rfl rfl)
theorem dX1_journey_119 : decode cX1_journey 119 = .ok (.aload_n 0, 1) := dk_42 (dk_at dksX1_journey_5 3 rfl rfl)
theorem dX1_journey_120 : decode cX1_journey 120 = .ok (.aload_n 0, 1) := dk_42 (dk_at dksX1_journey_5 4 rfl rfl)
theorem dX1_journey_121 : decode cX1_journey 121 = .ok (.getfield 88, 3) := dk_180 0 88 (dk_at dksX1_journey_5 5 rfl rfl)
theorem dX1_journey_124 : decode cX1_journey 124 = .ok (.invokevirtual 379, 3) := dk_182 1 123 (dk_at dksX1_journey_5 8 rfl rfl)
theorem dX1_journey_127 : decode cX1_journey 127 = .ok (.aload_n 0, 1) := dk_42 (dk_at dksX1_journey_5 11 rfl rfl)
theorem dX1_journey_128 : decode cX1_journey 128 = .ok (.iconst 0, 1) := dk_3 (dk_at dksX1_journey_5 12 rfl rfl)
theorem dX1_journey_129 : decode cX1_journey 129 = .ok (.putfield 389, 3) := dk_181 1 133 (dk_at dksX1_journey_5 13 rfl rfl)
theorem dX1_journey_132 : decode cX1_journey 132 = .ok (.aload_n 0, 1) := dk_42 (dk_at dksX1_journey_5 16 rfl rfl)
theorem dX1_journey_133 : decode cX1_journey 133 = .ok (.iload 5, 2) := dk_21 5 (dk_at dksX1_journey_5 17 rfl rfl)
theorem dX1_journey_135 : decode cX1_journey 135 = .ok (.aload_n 0, 1) := dk_42 (dk_at dksX1_journey_5 19 rfl rfl)
theorem dX1_journey_136 : decode cX1_journey 136 = .ok (.getfield 430, 3) := dk_180 1 174 (dk_at dksX1_journey_5 20 rfl rfl)
theorem dX1_journey_139 : decode cX1_journey 139 = .ok (.if_icmp .ge 7, 3) := dk_162 0 7 (dk_at dksX1_journey_6 0 rfl rfl)
theorem dX1_journey_142 : decode cX1_journey 142 = .ok (.lconst 1, 1) := dk_10 (dk_at dksX1_journey_6 3 rfl rfl)
theorem dX1_journey_143 : decode cX1_journey 143 = .ok (.goto 4, 3) := dk_167 0 4 (dk_at dksX1_journey_6 4 rfl rfl)
theorem dX1_journey_146 : decode cX1_journey 146 = .ok (.lconst 0, 1) := dk_9 (dk_at dksX1_journey_6 7 rfl rfl)
theorem dX1_journey_147 : decode cX1_journey 147 = .ok (.invokevirtual 392, 3) := dk_182 1 136 (dk_at dksX1_journey_6 8 rfl rfl)
theorem dX1_journey_150 : decode cX1_journey 150 = .ok (.aload_n 0, 1) := dk_42 (dk_at dksX1_journey_6 11 rfl rfl)
theorem dX1_journey_151 : decode cX1_journey 151 = .ok (.aload_n 0, 1) := dk_42 (dk_at dksX1_journey_6 12 rfl rfl)
theorem dX1_journey_152 : decode cX1_journey 152 = .ok (.getfield 436, 3) := dk_180 1 180 (dk_at dksX1_journey_6 13 rfl rfl)
theorem dX1_journey_155 : decode cX1_journey 155 = .ok (.i2l, 1) := dk_133 (dk_at dksX1_journey_6 16 rfl rfl)
theorem dX1_journey_156 : decode cX1_journey 156 = .ok (.invokevirtual 392, 3) := dk_182 1 136 (dk_at dksX1_journey_6 17 rfl rfl)
theorem dX1_journey_159 : decode cX1_journey 159 = .ok (.iload 5, 2) := dk_21 5 (dk_at dksX1_journey_6 20 rfl rfl)
theorem dX1_journey_161 : decode cX1_journey 161 = .ok (.ireturn, 1) := dk_172 (dk_at dksX1_journey_6 22 rfl rfl)
def dkwX1_readsAct_4 : List UInt8 := [27, 42, 180, 0, 48, 42, 180, 0, 166, 46, 79, 42, 89, 180, 0, 166, 4, 96, 181, 0, 166, 4, 172]
abbrev dktX1_readsAct_4 : List UInt8 := dkwX1_readsAct_4 ++ []
def dkwX1_readsAct_3 : List UInt8 := [180, 0, 94, 27, 46, 155, 0, 13, 42, 19, 1, 178, 182, 0, 184, 156, 0, 5, 3, 172, 42, 180, 0, 91]
abbrev dktX1_readsAct_3 : List UInt8 := dkwX1_readsAct_3 ++ dktX1_readsAct_4
def dkwX1_readsAct_2 : List UInt8 := [46, 155, 0, 7, 4, 167, 0, 4, 3, 172, 42, 180, 0, 94, 27, 42, 19, 1, 176, 182, 0, 198, 79, 42]
abbrev dktX1_readsAct_2 : List UInt8 := dkwX1_readsAct_2 ++ dktX1_readsAct_3
def dkwX1_readsAct_1 : List UInt8 := [42, 180, 0, 91, 27, 16, 119, 79, 42, 180, 0, 94, 27, 42, 5, 182, 0, 238, 79, 42, 180, 0, 94, 27]
abbrev dktX1_readsAct_1 : List UInt8 := dkwX1_readsAct_1 ++ dktX1_readsAct_2
def dkwX1_readsAct_0 : List UInt8 := [42, 180, 1, 174, 60, 42, 89, 180, 1, 174, 4, 96, 181, 1, 174, 42, 16, 119, 182, 0, 212, 153, 0, 37]
abbrev dktX1_readsAct_0 : List UInt8 := dkwX1_readsAct_0 ++ dktX1_readsAct_1
theorem dksX1_readsAct_0 : cX1_readsAct.data.toList.drop 0 = dktX1_readsAct_0 := by decide +kernel
theorem dksX1_readsAct_1 : cX1_readsAct.data.toList.drop 24 = dktX1_readsAct_1 := dk_seg dksX1_readsAct_0 24 rfl rfl
theorem dksX1_readsAct_2 : cX1_readsAct.data.toList.drop 48 = dktX1_readsAct_2 := dk_seg dksX1_readsAct_1 24 rfl rfl
theorem dksX1_readsAct_3 : cX1_readsAct.data.toList.drop 72 = dktX1_readsAct_3 := dk_seg dksX1_readsAct_2 24 rfl rfl
theorem dksX1_readsAct_4 : cX1_readsAct.data.toList.drop 96 = dktX1_readsAct_4 := dk_seg dksX1_readsAct_3 24 rfl rfl
theorem dX1_readsAct_0 : decode cX1_readsAct 0 = .ok (.aload_n 0, 1) := dk_42 (dk_at dksX1_readsAct_0 0 rfl rfl)
theorem dX1_readsAct_1 : decode cX1_readsAct 1 = .ok (.getfield 430, 3) := dk_180 1 174 (dk_at dksX1_readsAct_0 1 rfl rfl)
theorem dX1_readsAct_4 : decode cX1_readsAct 4 = .ok (.istore_n 1, 1) := dk_60 (dk_at dksX1_readsAct_0 4 rfl rfl)
theorem dX1_readsAct_5 : decode cX1_readsAct 5 = .ok (.aload_n 0, 1) := dk_42 (dk_at dksX1_readsAct_0 5 rfl rfl)
theorem dX1_readsAct_6 : decode cX1_readsAct 6 = .ok (.dup, 1) := dk_89 (dk_at dksX1_readsAct_0 6 rfl rfl)
theorem dX1_readsAct_7 : decode cX1_readsAct 7 = .ok (.getfield 430, 3) := dk_180 1 174 (dk_at dksX1_readsAct_0 7 rfl rfl)
theorem dX1_readsAct_10 : decode cX1_readsAct 10 = .ok (.iconst 1, 1) := dk_4 (dk_at dksX1_readsAct_0 10 rfl rfl)
theorem dX1_readsAct_11 : decode cX1_readsAct 11 = .ok (.iadd, 1) := dk_96 (dk_at dksX1_readsAct_0 11 rfl rfl)
theorem dX1_readsAct_12 : decode cX1_readsAct 12 = .ok (.putfield 430, 3) := dk_181 1 174 (dk_at dksX1_readsAct_0 12 rfl rfl)
theorem dX1_readsAct_15 : decode cX1_readsAct 15 = .ok (.aload_n 0, 1) := dk_42 (dk_at dksX1_readsAct_0 15 rfl rfl)
theorem dX1_readsAct_16 : decode cX1_readsAct 16 = .ok (.bipush 119, 2) := dk_16 119 (dk_at dksX1_readsAct_0 16 rfl rfl)
theorem dX1_readsAct_18 : decode cX1_readsAct 18 = .ok (.invokevirtual 212, 3) := dk_182 0 212 (dk_at dksX1_readsAct_0 18 rfl rfl)
theorem dX1_readsAct_21 : decode cX1_readsAct 21 = .ok (.ifCond .eq 37, 3) := dk_153 0 37 (dk_at dksX1_readsAct_0 21 rfl rfl)
theorem dX1_readsAct_24 : decode cX1_readsAct 24 = .ok (.aload_n 0, 1) := dk_42 (dk_at dksX1_readsAct_1 0 rfl rfl)
theorem dX1_readsAct_25 : decode cX1_readsAct 25 = .ok (.getfield 91, 3) := dk_180 0 91 (dk_at dksX1_readsAct_1 1 rfl rfl)
theorem dX1_readsAct_28 : decode cX1_readsAct 28 = .ok (.iload_n 1, 1) := dk_27 (dk_at dksX1_readsAct_1 4 rfl rfl)
theorem dX1_readsAct_29 : decode cX1_readsAct 29 = .ok (.bipush 119, 2) := dk_16 119 (dk_at dksX1_readsAct_1 5 rfl rfl)
theorem dX1_readsAct_31 : decode cX1_readsAct 31 = .ok (.iastore, 1) := dk_79 (dk_at dksX1_readsAct_1 7 rfl rfl)
theorem dX1_readsAct_32 : decode cX1_readsAct 32 = .ok (.aload_n 0, 1) := dk_42 (dk_at dksX1_readsAct_1 8 rfl rfl)
theorem dX1_readsAct_33 : decode cX1_readsAct 33 = .ok (.getfield 94, 3) := dk_180 0 94 (dk_at dksX1_readsAct_1 9 rfl rfl)
theorem dX1_readsAct_36 : decode cX1_readsAct 36 = .ok (.iload_n 1, 1) := dk_27 (dk_at dksX1_readsAct_1 12 rfl rfl)
theorem dX1_readsAct_37 : decode cX1_readsAct 37 = .ok (.aload_n 0, 1) := dk_42 (dk_at dksX1_readsAct_1 13 rfl rfl)
theorem dX1_readsAct_38 : decode cX1_readsAct 38 = .ok (.iconst 2, 1) := dk_5 (dk_at dksX1_readsAct_1 14 rfl rfl)
theorem dX1_readsAct_39 : decode cX1_readsAct 39 = .ok (.invokevirtual 238, 3) := dk_182 0 238 (dk_at dksX1_readsAct_1 15 rfl rfl)
theorem dX1_readsAct_42 : decode cX1_readsAct 42 = .ok (.iastore, 1) := dk_79 (dk_at dksX1_readsAct_1 18 rfl rfl)
theorem dX1_readsAct_43 : decode cX1_readsAct 43 = .ok (.aload_n 0, 1) := dk_42 (dk_at dksX1_readsAct_1 19 rfl rfl)
theorem dX1_readsAct_44 : decode cX1_readsAct 44 = .ok (.getfield 94, 3) := dk_180 0 94 (dk_at dksX1_readsAct_1 20 rfl rfl)
theorem dX1_readsAct_47 : decode cX1_readsAct 47 = .ok (.iload_n 1, 1) := dk_27 (dk_at dksX1_readsAct_1 23 rfl rfl)
theorem dX1_readsAct_48 : decode cX1_readsAct 48 = .ok (.iaload, 1) := dk_46 (dk_at dksX1_readsAct_2 0 rfl rfl)
theorem dX1_readsAct_49 : decode cX1_readsAct 49 = .ok (.ifCond .lt 7, 3) := dk_155 0 7 (dk_at dksX1_readsAct_2 1 rfl rfl)
theorem dX1_readsAct_52 : decode cX1_readsAct 52 = .ok (.iconst 1, 1) := dk_4 (dk_at dksX1_readsAct_2 4 rfl rfl)
theorem dX1_readsAct_53 : decode cX1_readsAct 53 = .ok (.goto 4, 3) := dk_167 0 4 (dk_at dksX1_readsAct_2 5 rfl rfl)
theorem dX1_readsAct_56 : decode cX1_readsAct 56 = .ok (.iconst 0, 1) := dk_3 (dk_at dksX1_readsAct_2 8 rfl rfl)
theorem dX1_readsAct_57 : decode cX1_readsAct 57 = .ok (.ireturn, 1) := dk_172 (dk_at dksX1_readsAct_2 9 rfl rfl)
theorem dX1_readsAct_58 : decode cX1_readsAct 58 = .ok (.aload_n 0, 1) := dk_42 (dk_at dksX1_readsAct_2 10 rfl rfl)
theorem dX1_readsAct_59 : decode cX1_readsAct 59 = .ok (.getfield 94, 3) := dk_180 0 94 (dk_at dksX1_readsAct_2 11 rfl rfl)
theorem dX1_readsAct_62 : decode cX1_readsAct 62 = .ok (.iload_n 1, 1) := dk_27 (dk_at dksX1_readsAct_2 14 rfl rfl)
theorem dX1_readsAct_63 : decode cX1_readsAct 63 = .ok (.aload_n 0, 1) := dk_42 (dk_at dksX1_readsAct_2 15 rfl rfl)
theorem dX1_readsAct_64 : decode cX1_readsAct 64 = .ok (.ldc_w 432, 3) := dk_19 1 176 (dk_at dksX1_readsAct_2 16 rfl rfl)
theorem dX1_readsAct_67 : decode cX1_readsAct 67 = .ok (.invokevirtual 198, 3) := dk_182 0 198 (dk_at dksX1_readsAct_2 19 rfl rfl)
theorem dX1_readsAct_70 : decode cX1_readsAct 70 = .ok (.iastore, 1) := dk_79 (dk_at dksX1_readsAct_2 22 rfl rfl)
theorem dX1_readsAct_71 : decode cX1_readsAct 71 = .ok (.aload_n 0, 1) := dk_42 (dk_at dksX1_readsAct_2 23 rfl rfl)
theorem dX1_readsAct_72 : decode cX1_readsAct 72 = .ok (.getfield 94, 3) := dk_180 0 94 (dk_at dksX1_readsAct_3 0 rfl rfl)
theorem dX1_readsAct_75 : decode cX1_readsAct 75 = .ok (.iload_n 1, 1) := dk_27 (dk_at dksX1_readsAct_3 3 rfl rfl)
theorem dX1_readsAct_76 : decode cX1_readsAct 76 = .ok (.iaload, 1) := dk_46 (dk_at dksX1_readsAct_3 4 rfl rfl)
theorem dX1_readsAct_77 : decode cX1_readsAct 77 = .ok (.ifCond .lt 13, 3) := dk_155 0 13 (dk_at dksX1_readsAct_3 5 rfl rfl)
theorem dX1_readsAct_80 : decode cX1_readsAct 80 = .ok (.aload_n 0, 1) := dk_42 (dk_at dksX1_readsAct_3 8 rfl rfl)
theorem dX1_readsAct_81 : decode cX1_readsAct 81 = .ok (.ldc_w 434, 3) := dk_19 1 178 (dk_at dksX1_readsAct_3 9 rfl rfl)
theorem dX1_readsAct_84 : decode cX1_readsAct 84 = .ok (.invokevirtual 184, 3) := dk_182 0 184 (dk_at dksX1_readsAct_3 12 rfl rfl)
theorem dX1_readsAct_87 : decode cX1_readsAct 87 = .ok (.ifCond .ge 5, 3) := dk_156 0 5 (dk_at dksX1_readsAct_3 15 rfl rfl)
theorem dX1_readsAct_90 : decode cX1_readsAct 90 = .ok (.iconst 0, 1) := dk_3 (dk_at dksX1_readsAct_3 18 rfl rfl)
theorem dX1_readsAct_91 : decode cX1_readsAct 91 = .ok (.ireturn, 1) := dk_172 (dk_at dksX1_readsAct_3 19 rfl rfl)
theorem dX1_readsAct_92 : decode cX1_readsAct 92 = .ok (.aload_n 0, 1) := dk_42 (dk_at dksX1_readsAct_3 20 rfl rfl)
theorem dX1_readsAct_93 : decode cX1_readsAct 93 = .ok (.getfield 91, 3) := dk_180 0 91 (dk_at dksX1_readsAct_3 21 rfl rfl)
theorem dX1_readsAct_96 : decode cX1_readsAct 96 = .ok (.iload_n 1, 1) := dk_27 (dk_at dksX1_readsAct_4 0 rfl rfl)
theorem dX1_readsAct_97 : decode cX1_readsAct 97 = .ok (.aload_n 0, 1) := dk_42 (dk_at dksX1_readsAct_4 1 rfl rfl)
theorem dX1_readsAct_98 : decode cX1_readsAct 98 = .ok (.getfield 48, 3) := dk_180 0 48 (dk_at dksX1_readsAct_4 2 rfl rfl)
theorem dX1_readsAct_101 : decode cX1_readsAct 101 = .ok (.aload_n 0, 1) := dk_42 (dk_at dksX1_readsAct_4 5 rfl rfl)
theorem dX1_readsAct_102 : decode cX1_readsAct 102 = .ok (.getfield 166, 3) := dk_180 0 166 (dk_at dksX1_readsAct_4 6 rfl rfl)
theorem dX1_readsAct_105 : decode cX1_readsAct 105 = .ok (.iaload, 1) := dk_46 (dk_at dksX1_readsAct_4 9 rfl rfl)
theorem dX1_readsAct_106 : decode cX1_readsAct 106 = .ok (.iastore, 1) := dk_79 (dk_at dksX1_readsAct_4 10 rfl rfl)
theorem dX1_readsAct_107 : decode cX1_readsAct 107 = .ok (.aload_n 0, 1) := dk_42 (dk_at dksX1_readsAct_4 11 rfl rfl)
theorem dX1_readsAct_108 : decode cX1_readsAct 108 = .ok (.dup, 1) := dk_89 (dk_at dksX1_readsAct_4 12 rfl rfl)
theorem dX1_readsAct_109 : decode cX1_readsAct 109 = .ok (.getfield 166, 3) := dk_180 0 166 (dk_at dksX1_readsAct_4 13 rfl rfl)
theorem dX1_readsAct_112 : decode cX1_readsAct 112 = .ok (.iconst 1, 1) := dk_4 (dk_at dksX1_readsAct_4 16 rfl rfl)
theorem dX1_readsAct_113 : decode cX1_readsAct 113 = .ok (.iadd, 1) := dk_96 (dk_at dksX1_readsAct_4 17 rfl rfl)
theorem dX1_readsAct_114 : decode cX1_readsAct 114 = .ok (.putfield 166, 3) := dk_181 0 166 (dk_at dksX1_readsAct_4 18 rfl rfl)
theorem dX1_readsAct_117 : decode cX1_readsAct 117 = .ok (.iconst 1, 1) := dk_4 (dk_at dksX1_readsAct_4 21 rfl rfl)
theorem dX1_readsAct_118 : decode cX1_readsAct 118 = .ok (.ireturn, 1) := dk_172 (dk_at dksX1_readsAct_4 22 rfl rfl)
def dkwX1_does_7 : List UInt8 := [100, 182, 1, 168, 182, 1, 189, 172]
abbrev dktX1_does_7 : List UInt8 := dkwX1_does_7 ++ []
def dkwX1_does_6 : List UInt8 := [153, 0, 7, 4, 167, 0, 4, 3, 172, 42, 42, 42, 180, 0, 12, 28, 42, 180, 0, 91, 27, 46, 16, 48]
abbrev dktX1_does_6 : List UInt8 := dkwX1_does_6 ++ dktX1_does_7
def dkwX1_does_5 : List UInt8 := [167, 0, 4, 2, 62, 29, 155, 0, 24, 42, 42, 42, 180, 0, 12, 28, 29, 182, 1, 168, 182, 1, 189]
abbrev dktX1_does_5 : List UInt8 := dkwX1_does_5 ++ dktX1_does_6
def dkwX1_does_4 : List UInt8 := [155, 0, 7, 4, 167, 0, 4, 3, 172, 42, 28, 182, 1, 106, 153, 0, 11, 42, 28, 182, 1, 186]
abbrev dktX1_does_4 : List UInt8 := dkwX1_does_4 ++ dktX1_does_5
def dkwX1_does_3 : List UInt8 := [182, 1, 159, 155, 0, 7, 4, 167, 0, 4, 3, 172, 42, 42, 180, 0, 12, 28, 3, 182, 1, 159]
abbrev dktX1_does_3 : List UInt8 := dkwX1_does_3 ++ dktX1_does_4
def dkwX1_does_2 : List UInt8 := [42, 180, 0, 12, 89, 180, 1, 126, 28, 96, 181, 1, 126, 4, 172, 42, 42, 180, 0, 12, 28, 4]
abbrev dktX1_does_2 : List UInt8 := dkwX1_does_2 ++ dktX1_does_3
def dkwX1_does_1 : List UInt8 := [171, 0, 0, 0, 0, 0, 141, 0, 0, 0, 4, 0, 0, 0, 33, 0, 0, 0, 96, 0, 0, 0, 60, 0, 0, 0, 77, 0, 0, 0, 62, 0, 0, 0, 58, 0, 0, 0, 119, 0, 0, 0, 43]
abbrev dktX1_does_1 : List UInt8 := dkwX1_does_1 ++ dktX1_does_2
def dkwX1_does_0 : List UInt8 := [42, 180, 0, 94, 27, 46, 61, 42, 180, 0, 91, 27, 46]
abbrev dktX1_does_0 : List UInt8 := dkwX1_does_0 ++ dktX1_does_1
theorem dksX1_does_0 : cX1_does.data.toList.drop 0 = dktX1_does_0 := by decide +kernel
theorem dksX1_does_1 : cX1_does.data.toList.drop 13 = dktX1_does_1 := dk_seg dksX1_does_0 13 rfl rfl
theorem dksX1_does_2 : cX1_does.data.toList.drop 56 = dktX1_does_2 := dk_seg dksX1_does_1 43 rfl rfl
theorem dksX1_does_3 : cX1_does.data.toList.drop 78 = dktX1_does_3 := dk_seg dksX1_does_2 22 rfl rfl
theorem dksX1_does_4 : cX1_does.data.toList.drop 100 = dktX1_does_4 := dk_seg dksX1_does_3 22 rfl rfl
theorem dksX1_does_5 : cX1_does.data.toList.drop 122 = dktX1_does_5 := dk_seg dksX1_does_4 22 rfl rfl
theorem dksX1_does_6 : cX1_does.data.toList.drop 145 = dktX1_does_6 := dk_seg dksX1_does_5 23 rfl rfl
theorem dksX1_does_7 : cX1_does.data.toList.drop 169 = dktX1_does_7 := dk_seg dksX1_does_6 24 rfl rfl
theorem dX1_does_0 : decode cX1_does 0 = .ok (.aload_n 0, 1) := dk_42 (dk_at dksX1_does_0 0 rfl rfl)
theorem dX1_does_1 : decode cX1_does 1 = .ok (.getfield 94, 3) := dk_180 0 94 (dk_at dksX1_does_0 1 rfl rfl)
theorem dX1_does_4 : decode cX1_does 4 = .ok (.iload_n 1, 1) := dk_27 (dk_at dksX1_does_0 4 rfl rfl)
theorem dX1_does_5 : decode cX1_does 5 = .ok (.iaload, 1) := dk_46 (dk_at dksX1_does_0 5 rfl rfl)
theorem dX1_does_6 : decode cX1_does 6 = .ok (.istore_n 2, 1) := dk_61 (dk_at dksX1_does_0 6 rfl rfl)
theorem dX1_does_7 : decode cX1_does 7 = .ok (.aload_n 0, 1) := dk_42 (dk_at dksX1_does_0 7 rfl rfl)
theorem dX1_does_8 : decode cX1_does 8 = .ok (.getfield 91, 3) := dk_180 0 91 (dk_at dksX1_does_0 8 rfl rfl)
theorem dX1_does_11 : decode cX1_does 11 = .ok (.iload_n 1, 1) := dk_27 (dk_at dksX1_does_0 11 rfl rfl)
theorem dX1_does_12 : decode cX1_does 12 = .ok (.iaload, 1) := dk_46 (dk_at dksX1_does_0 12 rfl rfl)
theorem dX1_does_13 : decode cX1_does 13 = .ok (.lookupswitch 141 #[(33, 96), (60, 77), (62, 58), (119, 43)], 43) := by decide +kernel
theorem dX1_does_56 : decode cX1_does 56 = .ok (.aload_n 0, 1) := dk_42 (dk_at dksX1_does_2 0 rfl rfl)
theorem dX1_does_57 : decode cX1_does 57 = .ok (.getfield 12, 3) := dk_180 0 12 (dk_at dksX1_does_2 1 rfl rfl)
theorem dX1_does_60 : decode cX1_does 60 = .ok (.dup, 1) := dk_89 (dk_at dksX1_does_2 4 rfl rfl)
theorem dX1_does_61 : decode cX1_does 61 = .ok (.getfield 382, 3) := dk_180 1 126 (dk_at dksX1_does_2 5 rfl rfl)
theorem dX1_does_64 : decode cX1_does 64 = .ok (.iload_n 2, 1) := dk_28 (dk_at dksX1_does_2 8 rfl rfl)
theorem dX1_does_65 : decode cX1_does 65 = .ok (.iadd, 1) := dk_96 (dk_at dksX1_does_2 9 rfl rfl)
theorem dX1_does_66 : decode cX1_does 66 = .ok (.putfield 382, 3) := dk_181 1 126 (dk_at dksX1_does_2 10 rfl rfl)
theorem dX1_does_69 : decode cX1_does 69 = .ok (.iconst 1, 1) := dk_4 (dk_at dksX1_does_2 13 rfl rfl)
theorem dX1_does_70 : decode cX1_does 70 = .ok (.ireturn, 1) := dk_172 (dk_at dksX1_does_2 14 rfl rfl)
theorem dX1_does_71 : decode cX1_does 71 = .ok (.aload_n 0, 1) := dk_42 (dk_at dksX1_does_2 15 rfl rfl)
theorem dX1_does_72 : decode cX1_does 72 = .ok (.aload_n 0, 1) := dk_42 (dk_at dksX1_does_2 16 rfl rfl)
theorem dX1_does_73 : decode cX1_does 73 = .ok (.getfield 12, 3) := dk_180 0 12 (dk_at dksX1_does_2 17 rfl rfl)
theorem dX1_does_76 : decode cX1_does 76 = .ok (.iload_n 2, 1) := dk_28 (dk_at dksX1_does_2 20 rfl rfl)
theorem dX1_does_77 : decode cX1_does 77 = .ok (.iconst 1, 1) := dk_4 (dk_at dksX1_does_2 21 rfl rfl)
theorem dX1_does_78 : decode cX1_does 78 = .ok (.invokevirtual 415, 3) := dk_182 1 159 (dk_at dksX1_does_3 0 rfl rfl)
theorem dX1_does_81 : decode cX1_does 81 = .ok (.ifCond .lt 7, 3) := dk_155 0 7 (dk_at dksX1_does_3 3 rfl rfl)
theorem dX1_does_84 : decode cX1_does 84 = .ok (.iconst 1, 1) := dk_4 (dk_at dksX1_does_3 6 rfl rfl)
theorem dX1_does_85 : decode cX1_does 85 = .ok (.goto 4, 3) := dk_167 0 4 (dk_at dksX1_does_3 7 rfl rfl)
theorem dX1_does_88 : decode cX1_does 88 = .ok (.iconst 0, 1) := dk_3 (dk_at dksX1_does_3 10 rfl rfl)
theorem dX1_does_89 : decode cX1_does 89 = .ok (.ireturn, 1) := dk_172 (dk_at dksX1_does_3 11 rfl rfl)
theorem dX1_does_90 : decode cX1_does 90 = .ok (.aload_n 0, 1) := dk_42 (dk_at dksX1_does_3 12 rfl rfl)
theorem dX1_does_91 : decode cX1_does 91 = .ok (.aload_n 0, 1) := dk_42 (dk_at dksX1_does_3 13 rfl rfl)
theorem dX1_does_92 : decode cX1_does 92 = .ok (.getfield 12, 3) := dk_180 0 12 (dk_at dksX1_does_3 14 rfl rfl)
theorem dX1_does_95 : decode cX1_does 95 = .ok (.iload_n 2, 1) := dk_28 (dk_at dksX1_does_3 17 rfl rfl)
theorem dX1_does_96 : decode cX1_does 96 = .ok (.iconst 0, 1) := dk_3 (dk_at dksX1_does_3 18 rfl rfl)
theorem dX1_does_97 : decode cX1_does 97 = .ok (.invokevirtual 415, 3) := dk_182 1 159 (dk_at dksX1_does_3 19 rfl rfl)
theorem dX1_does_100 : decode cX1_does 100 = .ok (.ifCond .lt 7, 3) := dk_155 0 7 (dk_at dksX1_does_4 0 rfl rfl)
theorem dX1_does_103 : decode cX1_does 103 = .ok (.iconst 1, 1) := dk_4 (dk_at dksX1_does_4 3 rfl rfl)
theorem dX1_does_104 : decode cX1_does 104 = .ok (.goto 4, 3) := dk_167 0 4 (dk_at dksX1_does_4 4 rfl rfl)
theorem dX1_does_107 : decode cX1_does 107 = .ok (.iconst 0, 1) := dk_3 (dk_at dksX1_does_4 7 rfl rfl)
theorem dX1_does_108 : decode cX1_does 108 = .ok (.ireturn, 1) := dk_172 (dk_at dksX1_does_4 8 rfl rfl)
theorem dX1_does_109 : decode cX1_does 109 = .ok (.aload_n 0, 1) := dk_42 (dk_at dksX1_does_4 9 rfl rfl)
theorem dX1_does_110 : decode cX1_does 110 = .ok (.iload_n 2, 1) := dk_28 (dk_at dksX1_does_4 10 rfl rfl)
theorem dX1_does_111 : decode cX1_does 111 = .ok (.invokevirtual 362, 3) := dk_182 1 106 (dk_at dksX1_does_4 11 rfl rfl)
theorem dX1_does_114 : decode cX1_does 114 = .ok (.ifCond .eq 11, 3) := dk_153 0 11 (dk_at dksX1_does_4 14 rfl rfl)
theorem dX1_does_117 : decode cX1_does 117 = .ok (.aload_n 0, 1) := dk_42 (dk_at dksX1_does_4 17 rfl rfl)
theorem dX1_does_118 : decode cX1_does 118 = .ok (.iload_n 2, 1) := dk_28 (dk_at dksX1_does_4 18 rfl rfl)
theorem dX1_does_119 : decode cX1_does 119 = .ok (.invokevirtual 442, 3) := dk_182 1 186 (dk_at dksX1_does_4 19 rfl rfl)
theorem dX1_does_122 : decode cX1_does 122 = .ok (.goto 4, 3) := dk_167 0 4 (dk_at dksX1_does_5 0 rfl rfl)
theorem dX1_does_125 : decode cX1_does 125 = .ok (.iconst (-1), 1) := dk_2 (dk_at dksX1_does_5 3 rfl rfl)
theorem dX1_does_126 : decode cX1_does 126 = .ok (.istore_n 3, 1) := dk_62 (dk_at dksX1_does_5 4 rfl rfl)
theorem dX1_does_127 : decode cX1_does 127 = .ok (.iload_n 3, 1) := dk_29 (dk_at dksX1_does_5 5 rfl rfl)
theorem dX1_does_128 : decode cX1_does 128 = .ok (.ifCond .lt 24, 3) := dk_155 0 24 (dk_at dksX1_does_5 6 rfl rfl)
theorem dX1_does_131 : decode cX1_does 131 = .ok (.aload_n 0, 1) := dk_42 (dk_at dksX1_does_5 9 rfl rfl)
theorem dX1_does_132 : decode cX1_does 132 = .ok (.aload_n 0, 1) := dk_42 (dk_at dksX1_does_5 10 rfl rfl)
theorem dX1_does_133 : decode cX1_does 133 = .ok (.aload_n 0, 1) := dk_42 (dk_at dksX1_does_5 11 rfl rfl)
theorem dX1_does_134 : decode cX1_does 134 = .ok (.getfield 12, 3) := dk_180 0 12 (dk_at dksX1_does_5 12 rfl rfl)
theorem dX1_does_137 : decode cX1_does 137 = .ok (.iload_n 2, 1) := dk_28 (dk_at dksX1_does_5 15 rfl rfl)
theorem dX1_does_138 : decode cX1_does 138 = .ok (.iload_n 3, 1) := dk_29 (dk_at dksX1_does_5 16 rfl rfl)
theorem dX1_does_139 : decode cX1_does 139 = .ok (.invokevirtual 424, 3) := dk_182 1 168 (dk_at dksX1_does_5 17 rfl rfl)
theorem dX1_does_142 : decode cX1_does 142 = .ok (.invokevirtual 445, 3) := dk_182 1 189 (dk_at dksX1_does_5 20 rfl rfl)
theorem dX1_does_145 : decode cX1_does 145 = .ok (.ifCond .eq 7, 3) := dk_153 0 7 (dk_at dksX1_does_6 0 rfl rfl)
theorem dX1_does_148 : decode cX1_does 148 = .ok (.iconst 1, 1) := dk_4 (dk_at dksX1_does_6 3 rfl rfl)
theorem dX1_does_149 : decode cX1_does 149 = .ok (.goto 4, 3) := dk_167 0 4 (dk_at dksX1_does_6 4 rfl rfl)
theorem dX1_does_152 : decode cX1_does 152 = .ok (.iconst 0, 1) := dk_3 (dk_at dksX1_does_6 7 rfl rfl)
theorem dX1_does_153 : decode cX1_does 153 = .ok (.ireturn, 1) := dk_172 (dk_at dksX1_does_6 8 rfl rfl)
theorem dX1_does_154 : decode cX1_does 154 = .ok (.aload_n 0, 1) := dk_42 (dk_at dksX1_does_6 9 rfl rfl)
theorem dX1_does_155 : decode cX1_does 155 = .ok (.aload_n 0, 1) := dk_42 (dk_at dksX1_does_6 10 rfl rfl)
theorem dX1_does_156 : decode cX1_does 156 = .ok (.aload_n 0, 1) := dk_42 (dk_at dksX1_does_6 11 rfl rfl)
theorem dX1_does_157 : decode cX1_does 157 = .ok (.getfield 12, 3) := dk_180 0 12 (dk_at dksX1_does_6 12 rfl rfl)
theorem dX1_does_160 : decode cX1_does 160 = .ok (.iload_n 2, 1) := dk_28 (dk_at dksX1_does_6 15 rfl rfl)
theorem dX1_does_161 : decode cX1_does 161 = .ok (.aload_n 0, 1) := dk_42 (dk_at dksX1_does_6 16 rfl rfl)
theorem dX1_does_162 : decode cX1_does 162 = .ok (.getfield 91, 3) := dk_180 0 91 (dk_at dksX1_does_6 17 rfl rfl)
theorem dX1_does_165 : decode cX1_does 165 = .ok (.iload_n 1, 1) := dk_27 (dk_at dksX1_does_6 20 rfl rfl)
theorem dX1_does_166 : decode cX1_does 166 = .ok (.iaload, 1) := dk_46 (dk_at dksX1_does_6 21 rfl rfl)
theorem dX1_does_167 : decode cX1_does 167 = .ok (.bipush 48, 2) := dk_16 48 (dk_at dksX1_does_6 22 rfl rfl)
theorem dX1_does_169 : decode cX1_does 169 = .ok (.isub, 1) := dk_100 (dk_at dksX1_does_7 0 rfl rfl)
theorem dX1_does_170 : decode cX1_does 170 = .ok (.invokevirtual 424, 3) := dk_182 1 168 (dk_at dksX1_does_7 1 rfl rfl)
theorem dX1_does_173 : decode cX1_does 173 = .ok (.invokevirtual 445, 3) := dk_182 1 189 (dk_at dksX1_does_7 4 rfl rfl)
theorem dX1_does_176 : decode cX1_does 176 = .ok (.ireturn, 1) := dk_172 (dk_at dksX1_does_7 7 rfl rfl)
def dkwX1_wordFor_2 : List UInt8 := [42, 180, 0, 12, 180, 0, 244, 27, 46, 3, 182, 1, 183, 172, 132, 2, 1, 167, 255, 194, 2, 172]
abbrev dktX1_wordFor_2 : List UInt8 := dkwX1_wordFor_2 ++ []
def dkwX1_wordFor_1 : List UInt8 := [180, 0, 38, 28, 46, 42, 180, 0, 12, 180, 0, 244, 27, 46, 160, 0, 24, 42, 42, 180, 0, 35, 28, 46]
abbrev dktX1_wordFor_1 : List UInt8 := dkwX1_wordFor_1 ++ dktX1_wordFor_2
def dkwX1_wordFor_0 : List UInt8 := [3, 61, 28, 42, 180, 0, 252, 162, 0, 60, 42, 27, 182, 1, 109, 28, 184, 1, 87, 153, 0, 42, 42]
abbrev dktX1_wordFor_0 : List UInt8 := dkwX1_wordFor_0 ++ dktX1_wordFor_1
theorem dksX1_wordFor_0 : cX1_wordFor.data.toList.drop 0 = dktX1_wordFor_0 := by decide +kernel
theorem dksX1_wordFor_1 : cX1_wordFor.data.toList.drop 23 = dktX1_wordFor_1 := dk_seg dksX1_wordFor_0 23 rfl rfl
theorem dksX1_wordFor_2 : cX1_wordFor.data.toList.drop 47 = dktX1_wordFor_2 := dk_seg dksX1_wordFor_1 24 rfl rfl
theorem dX1_wordFor_0 : decode cX1_wordFor 0 = .ok (.iconst 0, 1) := dk_3 (dk_at dksX1_wordFor_0 0 rfl rfl)
theorem dX1_wordFor_1 : decode cX1_wordFor 1 = .ok (.istore_n 2, 1) := dk_61 (dk_at dksX1_wordFor_0 1 rfl rfl)
theorem dX1_wordFor_2 : decode cX1_wordFor 2 = .ok (.iload_n 2, 1) := dk_28 (dk_at dksX1_wordFor_0 2 rfl rfl)
theorem dX1_wordFor_3 : decode cX1_wordFor 3 = .ok (.aload_n 0, 1) := dk_42 (dk_at dksX1_wordFor_0 3 rfl rfl)
theorem dX1_wordFor_4 : decode cX1_wordFor 4 = .ok (.getfield 252, 3) := dk_180 0 252 (dk_at dksX1_wordFor_0 4 rfl rfl)
theorem dX1_wordFor_7 : decode cX1_wordFor 7 = .ok (.if_icmp .ge 60, 3) := dk_162 0 60 (dk_at dksX1_wordFor_0 7 rfl rfl)
theorem dX1_wordFor_10 : decode cX1_wordFor 10 = .ok (.aload_n 0, 1) := dk_42 (dk_at dksX1_wordFor_0 10 rfl rfl)
theorem dX1_wordFor_11 : decode cX1_wordFor 11 = .ok (.iload_n 1, 1) := dk_27 (dk_at dksX1_wordFor_0 11 rfl rfl)
theorem dX1_wordFor_12 : decode cX1_wordFor 12 = .ok (.invokevirtual 365, 3) := dk_182 1 109 (dk_at dksX1_wordFor_0 12 rfl rfl)
theorem dX1_wordFor_15 : decode cX1_wordFor 15 = .ok (.iload_n 2, 1) := dk_28 (dk_at dksX1_wordFor_0 15 rfl rfl)
theorem dX1_wordFor_16 : decode cX1_wordFor 16 = .ok (.invokestatic 343, 3) := dk_184 1 87 (dk_at dksX1_wordFor_0 16 rfl rfl)
theorem dX1_wordFor_19 : decode cX1_wordFor 19 = .ok (.ifCond .eq 42, 3) := dk_153 0 42 (dk_at dksX1_wordFor_0 19 rfl rfl)
theorem dX1_wordFor_22 : decode cX1_wordFor 22 = .ok (.aload_n 0, 1) := dk_42 (dk_at dksX1_wordFor_0 22 rfl rfl)
theorem dX1_wordFor_23 : decode cX1_wordFor 23 = .ok (.getfield 38, 3) := dk_180 0 38 (dk_at dksX1_wordFor_1 0 rfl rfl)
theorem dX1_wordFor_26 : decode cX1_wordFor 26 = .ok (.iload_n 2, 1) := dk_28 (dk_at dksX1_wordFor_1 3 rfl rfl)
theorem dX1_wordFor_27 : decode cX1_wordFor 27 = .ok (.iaload, 1) := dk_46 (dk_at dksX1_wordFor_1 4 rfl rfl)
theorem dX1_wordFor_28 : decode cX1_wordFor 28 = .ok (.aload_n 0, 1) := dk_42 (dk_at dksX1_wordFor_1 5 rfl rfl)
theorem dX1_wordFor_29 : decode cX1_wordFor 29 = .ok (.getfield 12, 3) := dk_180 0 12 (dk_at dksX1_wordFor_1 6 rfl rfl)
theorem dX1_wordFor_32 : decode cX1_wordFor 32 = .ok (.getfield 244, 3) := dk_180 0 244 (dk_at dksX1_wordFor_1 9 rfl rfl)
theorem dX1_wordFor_35 : decode cX1_wordFor 35 = .ok (.iload_n 1, 1) := dk_27 (dk_at dksX1_wordFor_1 12 rfl rfl)
theorem dX1_wordFor_36 : decode cX1_wordFor 36 = .ok (.iaload, 1) := dk_46 (dk_at dksX1_wordFor_1 13 rfl rfl)
theorem dX1_wordFor_37 : decode cX1_wordFor 37 = .ok (.if_icmp .ne 24, 3) := dk_160 0 24 (dk_at dksX1_wordFor_1 14 rfl rfl)
theorem dX1_wordFor_40 : decode cX1_wordFor 40 = .ok (.aload_n 0, 1) := dk_42 (dk_at dksX1_wordFor_1 17 rfl rfl)
theorem dX1_wordFor_41 : decode cX1_wordFor 41 = .ok (.aload_n 0, 1) := dk_42 (dk_at dksX1_wordFor_1 18 rfl rfl)
theorem dX1_wordFor_42 : decode cX1_wordFor 42 = .ok (.getfield 35, 3) := dk_180 0 35 (dk_at dksX1_wordFor_1 19 rfl rfl)
theorem dX1_wordFor_45 : decode cX1_wordFor 45 = .ok (.iload_n 2, 1) := dk_28 (dk_at dksX1_wordFor_1 22 rfl rfl)
theorem dX1_wordFor_46 : decode cX1_wordFor 46 = .ok (.iaload, 1) := dk_46 (dk_at dksX1_wordFor_1 23 rfl rfl)
theorem dX1_wordFor_47 : decode cX1_wordFor 47 = .ok (.aload_n 0, 1) := dk_42 (dk_at dksX1_wordFor_2 0 rfl rfl)
theorem dX1_wordFor_48 : decode cX1_wordFor 48 = .ok (.getfield 12, 3) := dk_180 0 12 (dk_at dksX1_wordFor_2 1 rfl rfl)
theorem dX1_wordFor_51 : decode cX1_wordFor 51 = .ok (.getfield 244, 3) := dk_180 0 244 (dk_at dksX1_wordFor_2 4 rfl rfl)
theorem dX1_wordFor_54 : decode cX1_wordFor 54 = .ok (.iload_n 1, 1) := dk_27 (dk_at dksX1_wordFor_2 7 rfl rfl)
theorem dX1_wordFor_55 : decode cX1_wordFor 55 = .ok (.iaload, 1) := dk_46 (dk_at dksX1_wordFor_2 8 rfl rfl)
theorem dX1_wordFor_56 : decode cX1_wordFor 56 = .ok (.iconst 0, 1) := dk_3 (dk_at dksX1_wordFor_2 9 rfl rfl)
theorem dX1_wordFor_57 : decode cX1_wordFor 57 = .ok (.invokevirtual 439, 3) := dk_182 1 183 (dk_at dksX1_wordFor_2 10 rfl rfl)
theorem dX1_wordFor_60 : decode cX1_wordFor 60 = .ok (.ireturn, 1) := dk_172 (dk_at dksX1_wordFor_2 13 rfl rfl)
theorem dX1_wordFor_61 : decode cX1_wordFor 61 = .ok (.iinc 2 1, 3) := dk_132 2 1 (dk_at dksX1_wordFor_2 14 rfl rfl)
theorem dX1_wordFor_64 : decode cX1_wordFor 64 = .ok (.goto (-62), 3) := dk_167 255 194 (dk_at dksX1_wordFor_2 17 rfl rfl)
theorem dX1_wordFor_67 : decode cX1_wordFor 67 = .ok (.iconst (-1), 1) := dk_2 (dk_at dksX1_wordFor_2 20 rfl rfl)
theorem dX1_wordFor_68 : decode cX1_wordFor 68 = .ok (.ireturn, 1) := dk_172 (dk_at dksX1_wordFor_2 21 rfl rfl)
def dkwX1_errandsOf_2 : List UInt8 := [132, 3, 1, 167, 255, 211, 28, 172]
abbrev dktX1_errandsOf_2 : List UInt8 := dkwX1_errandsOf_2 ++ []
def dkwX1_errandsOf_1 : List UInt8 := [180, 0, 12, 180, 1, 84, 29, 184, 1, 87, 154, 0, 9, 4, 29, 120, 167, 0, 4, 3, 128, 61]
abbrev dktX1_errandsOf_1 : List UInt8 := dkwX1_errandsOf_1 ++ dktX1_errandsOf_2
def dkwX1_errandsOf_0 : List UInt8 := [3, 61, 3, 62, 29, 42, 180, 0, 252, 162, 0, 43, 28, 42, 180, 0, 32, 29, 46, 27, 160, 0, 23, 42]
abbrev dktX1_errandsOf_0 : List UInt8 := dkwX1_errandsOf_0 ++ dktX1_errandsOf_1
theorem dksX1_errandsOf_0 : cX1_errandsOf.data.toList.drop 0 = dktX1_errandsOf_0 := by decide +kernel
theorem dksX1_errandsOf_1 : cX1_errandsOf.data.toList.drop 24 = dktX1_errandsOf_1 := dk_seg dksX1_errandsOf_0 24 rfl rfl
theorem dksX1_errandsOf_2 : cX1_errandsOf.data.toList.drop 46 = dktX1_errandsOf_2 := dk_seg dksX1_errandsOf_1 22 rfl rfl
theorem dX1_errandsOf_0 : decode cX1_errandsOf 0 = .ok (.iconst 0, 1) := dk_3 (dk_at dksX1_errandsOf_0 0 rfl rfl)
theorem dX1_errandsOf_1 : decode cX1_errandsOf 1 = .ok (.istore_n 2, 1) := dk_61 (dk_at dksX1_errandsOf_0 1 rfl rfl)
theorem dX1_errandsOf_2 : decode cX1_errandsOf 2 = .ok (.iconst 0, 1) := dk_3 (dk_at dksX1_errandsOf_0 2 rfl rfl)
theorem dX1_errandsOf_3 : decode cX1_errandsOf 3 = .ok (.istore_n 3, 1) := dk_62 (dk_at dksX1_errandsOf_0 3 rfl rfl)
theorem dX1_errandsOf_4 : decode cX1_errandsOf 4 = .ok (.iload_n 3, 1) := dk_29 (dk_at dksX1_errandsOf_0 4 rfl rfl)
theorem dX1_errandsOf_5 : decode cX1_errandsOf 5 = .ok (.aload_n 0, 1) := dk_42 (dk_at dksX1_errandsOf_0 5 rfl rfl)
theorem dX1_errandsOf_6 : decode cX1_errandsOf 6 = .ok (.getfield 252, 3) := dk_180 0 252 (dk_at dksX1_errandsOf_0 6 rfl rfl)
theorem dX1_errandsOf_9 : decode cX1_errandsOf 9 = .ok (.if_icmp .ge 43, 3) := dk_162 0 43 (dk_at dksX1_errandsOf_0 9 rfl rfl)
theorem dX1_errandsOf_12 : decode cX1_errandsOf 12 = .ok (.iload_n 2, 1) := dk_28 (dk_at dksX1_errandsOf_0 12 rfl rfl)
theorem dX1_errandsOf_13 : decode cX1_errandsOf 13 = .ok (.aload_n 0, 1) := dk_42 (dk_at dksX1_errandsOf_0 13 rfl rfl)
theorem dX1_errandsOf_14 : decode cX1_errandsOf 14 = .ok (.getfield 32, 3) := dk_180 0 32 (dk_at dksX1_errandsOf_0 14 rfl rfl)
theorem dX1_errandsOf_17 : decode cX1_errandsOf 17 = .ok (.iload_n 3, 1) := dk_29 (dk_at dksX1_errandsOf_0 17 rfl rfl)
theorem dX1_errandsOf_18 : decode cX1_errandsOf 18 = .ok (.iaload, 1) := dk_46 (dk_at dksX1_errandsOf_0 18 rfl rfl)
theorem dX1_errandsOf_19 : decode cX1_errandsOf 19 = .ok (.iload_n 1, 1) := dk_27 (dk_at dksX1_errandsOf_0 19 rfl rfl)
theorem dX1_errandsOf_20 : decode cX1_errandsOf 20 = .ok (.if_icmp .ne 23, 3) := dk_160 0 23 (dk_at dksX1_errandsOf_0 20 rfl rfl)
theorem dX1_errandsOf_23 : decode cX1_errandsOf 23 = .ok (.aload_n 0, 1) := dk_42 (dk_at dksX1_errandsOf_0 23 rfl rfl)
theorem dX1_errandsOf_24 : decode cX1_errandsOf 24 = .ok (.getfield 12, 3) := dk_180 0 12 (dk_at dksX1_errandsOf_1 0 rfl rfl)
theorem dX1_errandsOf_27 : decode cX1_errandsOf 27 = .ok (.getfield 340, 3) := dk_180 1 84 (dk_at dksX1_errandsOf_1 3 rfl rfl)
theorem dX1_errandsOf_30 : decode cX1_errandsOf 30 = .ok (.iload_n 3, 1) := dk_29 (dk_at dksX1_errandsOf_1 6 rfl rfl)
theorem dX1_errandsOf_31 : decode cX1_errandsOf 31 = .ok (.invokestatic 343, 3) := dk_184 1 87 (dk_at dksX1_errandsOf_1 7 rfl rfl)
theorem dX1_errandsOf_34 : decode cX1_errandsOf 34 = .ok (.ifCond .ne 9, 3) := dk_154 0 9 (dk_at dksX1_errandsOf_1 10 rfl rfl)
theorem dX1_errandsOf_37 : decode cX1_errandsOf 37 = .ok (.iconst 1, 1) := dk_4 (dk_at dksX1_errandsOf_1 13 rfl rfl)
theorem dX1_errandsOf_38 : decode cX1_errandsOf 38 = .ok (.iload_n 3, 1) := dk_29 (dk_at dksX1_errandsOf_1 14 rfl rfl)
theorem dX1_errandsOf_39 : decode cX1_errandsOf 39 = .ok (.ishl, 1) := dk_120 (dk_at dksX1_errandsOf_1 15 rfl rfl)
theorem dX1_errandsOf_40 : decode cX1_errandsOf 40 = .ok (.goto 4, 3) := dk_167 0 4 (dk_at dksX1_errandsOf_1 16 rfl rfl)
theorem dX1_errandsOf_43 : decode cX1_errandsOf 43 = .ok (.iconst 0, 1) := dk_3 (dk_at dksX1_errandsOf_1 19 rfl rfl)
theorem dX1_errandsOf_44 : decode cX1_errandsOf 44 = .ok (.ior, 1) := dk_128 (dk_at dksX1_errandsOf_1 20 rfl rfl)
theorem dX1_errandsOf_45 : decode cX1_errandsOf 45 = .ok (.istore_n 2, 1) := dk_61 (dk_at dksX1_errandsOf_1 21 rfl rfl)
theorem dX1_errandsOf_46 : decode cX1_errandsOf 46 = .ok (.iinc 3 1, 3) := dk_132 3 1 (dk_at dksX1_errandsOf_2 0 rfl rfl)
theorem dX1_errandsOf_49 : decode cX1_errandsOf 49 = .ok (.goto (-45), 3) := dk_167 255 211 (dk_at dksX1_errandsOf_2 3 rfl rfl)
theorem dX1_errandsOf_52 : decode cX1_errandsOf 52 = .ok (.iload_n 2, 1) := dk_28 (dk_at dksX1_errandsOf_2 6 rfl rfl)
theorem dX1_errandsOf_53 : decode cX1_errandsOf 53 = .ok (.ireturn, 1) := dk_172 (dk_at dksX1_errandsOf_2 7 rfl rfl)
def dkwX1_cheapestFor_3 : List UInt8 := [21, 5, 21, 7, 184, 0, 172, 54, 5, 132, 6, 1, 167, 255, 185, 21, 4, 172]
abbrev dktX1_cheapestFor_3 : List UInt8 := dkwX1_cheapestFor_3 ++ []
def dkwX1_cheapestFor_2 : List UInt8 := [167, 0, 6, 19, 1, 198, 54, 7, 21, 7, 21, 5, 162, 0, 8, 21, 6, 167, 0, 5, 21, 4, 54, 4]
abbrev dktX1_cheapestFor_2 : List UInt8 := dkwX1_cheapestFor_2 ++ dktX1_cheapestFor_3
def dkwX1_cheapestFor_1 : List UInt8 := [182, 1, 140, 153, 0, 22, 42, 21, 6, 28, 182, 1, 199, 29, 42, 21, 6, 182, 1, 100, 104, 96]
abbrev dktX1_cheapestFor_1 : List UInt8 := dkwX1_cheapestFor_1 ++ dktX1_cheapestFor_2
def dkwX1_cheapestFor_0 : List UInt8 := [2, 54, 4, 19, 1, 198, 54, 5, 3, 54, 6, 21, 6, 42, 180, 0, 145, 162, 0, 68, 42, 21, 6, 27]
abbrev dktX1_cheapestFor_0 : List UInt8 := dkwX1_cheapestFor_0 ++ dktX1_cheapestFor_1
theorem dksX1_cheapestFor_0 : cX1_cheapestFor.data.toList.drop 0 = dktX1_cheapestFor_0 := by decide +kernel
theorem dksX1_cheapestFor_1 : cX1_cheapestFor.data.toList.drop 24 = dktX1_cheapestFor_1 := dk_seg dksX1_cheapestFor_0 24 rfl rfl
theorem dksX1_cheapestFor_2 : cX1_cheapestFor.data.toList.drop 46 = dktX1_cheapestFor_2 := dk_seg dksX1_cheapestFor_1 22 rfl rfl
theorem dksX1_cheapestFor_3 : cX1_cheapestFor.data.toList.drop 70 = dktX1_cheapestFor_3 := dk_seg dksX1_cheapestFor_2 24 rfl rfl
theorem dX1_cheapestFor_0 : decode cX1_cheapestFor 0 = .ok (.iconst (-1), 1) := dk_2 (dk_at dksX1_cheapestFor_0 0 rfl rfl)
theorem dX1_cheapestFor_1 : decode cX1_cheapestFor 1 = .ok (.istore 4, 2) := dk_54 4 (dk_at dksX1_cheapestFor_0 1 rfl rfl)
theorem dX1_cheapestFor_3 : decode cX1_cheapestFor 3 = .ok (.ldc_w 454, 3) := dk_19 1 198 (dk_at dksX1_cheapestFor_0 3 rfl rfl)
theorem dX1_cheapestFor_6 : decode cX1_cheapestFor 6 = .ok (.istore 5, 2) := dk_54 5 (dk_at dksX1_cheapestFor_0 6 rfl rfl)
theorem dX1_cheapestFor_8 : decode cX1_cheapestFor 8 = .ok (.iconst 0, 1) := dk_3 (dk_at dksX1_cheapestFor_0 8 rfl rfl)
theorem dX1_cheapestFor_9 : decode cX1_cheapestFor 9 = .ok (.istore 6, 2) := dk_54 6 (dk_at dksX1_cheapestFor_0 9 rfl rfl)
theorem dX1_cheapestFor_11 : decode cX1_cheapestFor 11 = .ok (.iload 6, 2) := dk_21 6 (dk_at dksX1_cheapestFor_0 11 rfl rfl)
theorem dX1_cheapestFor_13 : decode cX1_cheapestFor 13 = .ok (.aload_n 0, 1) := dk_42 (dk_at dksX1_cheapestFor_0 13 rfl rfl)
theorem dX1_cheapestFor_14 : decode cX1_cheapestFor 14 = .ok (.getfield 145, 3) := dk_180 0 145 (dk_at dksX1_cheapestFor_0 14 rfl rfl)
theorem dX1_cheapestFor_17 : decode cX1_cheapestFor 17 = .ok (.if_icmp .ge 68, 3) := dk_162 0 68 (dk_at dksX1_cheapestFor_0 17 rfl rfl)
theorem dX1_cheapestFor_20 : decode cX1_cheapestFor 20 = .ok (.aload_n 0, 1) := dk_42 (dk_at dksX1_cheapestFor_0 20 rfl rfl)
theorem dX1_cheapestFor_21 : decode cX1_cheapestFor 21 = .ok (.iload 6, 2) := dk_21 6 (dk_at dksX1_cheapestFor_0 21 rfl rfl)
theorem dX1_cheapestFor_23 : decode cX1_cheapestFor 23 = .ok (.iload_n 1, 1) := dk_27 (dk_at dksX1_cheapestFor_0 23 rfl rfl)
theorem dX1_cheapestFor_24 : decode cX1_cheapestFor 24 = .ok (.invokevirtual 396, 3) := dk_182 1 140 (dk_at dksX1_cheapestFor_1 0 rfl rfl)
theorem dX1_cheapestFor_27 : decode cX1_cheapestFor 27 = .ok (.ifCond .eq 22, 3) := dk_153 0 22 (dk_at dksX1_cheapestFor_1 3 rfl rfl)
theorem dX1_cheapestFor_30 : decode cX1_cheapestFor 30 = .ok (.aload_n 0, 1) := dk_42 (dk_at dksX1_cheapestFor_1 6 rfl rfl)
theorem dX1_cheapestFor_31 : decode cX1_cheapestFor 31 = .ok (.iload 6, 2) := dk_21 6 (dk_at dksX1_cheapestFor_1 7 rfl rfl)
theorem dX1_cheapestFor_33 : decode cX1_cheapestFor 33 = .ok (.iload_n 2, 1) := dk_28 (dk_at dksX1_cheapestFor_1 9 rfl rfl)
theorem dX1_cheapestFor_34 : decode cX1_cheapestFor 34 = .ok (.invokevirtual 455, 3) := dk_182 1 199 (dk_at dksX1_cheapestFor_1 10 rfl rfl)
theorem dX1_cheapestFor_37 : decode cX1_cheapestFor 37 = .ok (.iload_n 3, 1) := dk_29 (dk_at dksX1_cheapestFor_1 13 rfl rfl)
theorem dX1_cheapestFor_38 : decode cX1_cheapestFor 38 = .ok (.aload_n 0, 1) := dk_42 (dk_at dksX1_cheapestFor_1 14 rfl rfl)
theorem dX1_cheapestFor_39 : decode cX1_cheapestFor 39 = .ok (.iload 6, 2) := dk_21 6 (dk_at dksX1_cheapestFor_1 15 rfl rfl)
theorem dX1_cheapestFor_41 : decode cX1_cheapestFor 41 = .ok (.invokevirtual 356, 3) := dk_182 1 100 (dk_at dksX1_cheapestFor_1 17 rfl rfl)
theorem dX1_cheapestFor_44 : decode cX1_cheapestFor 44 = .ok (.imul, 1) := dk_104 (dk_at dksX1_cheapestFor_1 20 rfl rfl)
theorem dX1_cheapestFor_45 : decode cX1_cheapestFor 45 = .ok (.iadd, 1) := dk_96 (dk_at dksX1_cheapestFor_1 21 rfl rfl)
theorem dX1_cheapestFor_46 : decode cX1_cheapestFor 46 = .ok (.goto 6, 3) := dk_167 0 6 (dk_at dksX1_cheapestFor_2 0 rfl rfl)
theorem dX1_cheapestFor_49 : decode cX1_cheapestFor 49 = .ok (.ldc_w 454, 3) := dk_19 1 198 (dk_at dksX1_cheapestFor_2 3 rfl rfl)
theorem dX1_cheapestFor_52 : decode cX1_cheapestFor 52 = .ok (.istore 7, 2) := dk_54 7 (dk_at dksX1_cheapestFor_2 6 rfl rfl)
theorem dX1_cheapestFor_54 : decode cX1_cheapestFor 54 = .ok (.iload 7, 2) := dk_21 7 (dk_at dksX1_cheapestFor_2 8 rfl rfl)
theorem dX1_cheapestFor_56 : decode cX1_cheapestFor 56 = .ok (.iload 5, 2) := dk_21 5 (dk_at dksX1_cheapestFor_2 10 rfl rfl)
theorem dX1_cheapestFor_58 : decode cX1_cheapestFor 58 = .ok (.if_icmp .ge 8, 3) := dk_162 0 8 (dk_at dksX1_cheapestFor_2 12 rfl rfl)
theorem dX1_cheapestFor_61 : decode cX1_cheapestFor 61 = .ok (.iload 6, 2) := dk_21 6 (dk_at dksX1_cheapestFor_2 15 rfl rfl)
theorem dX1_cheapestFor_63 : decode cX1_cheapestFor 63 = .ok (.goto 5, 3) := dk_167 0 5 (dk_at dksX1_cheapestFor_2 17 rfl rfl)
theorem dX1_cheapestFor_66 : decode cX1_cheapestFor 66 = .ok (.iload 4, 2) := dk_21 4 (dk_at dksX1_cheapestFor_2 20 rfl rfl)
theorem dX1_cheapestFor_68 : decode cX1_cheapestFor 68 = .ok (.istore 4, 2) := dk_54 4 (dk_at dksX1_cheapestFor_2 22 rfl rfl)
theorem dX1_cheapestFor_70 : decode cX1_cheapestFor 70 = .ok (.iload 5, 2) := dk_21 5 (dk_at dksX1_cheapestFor_3 0 rfl rfl)
theorem dX1_cheapestFor_72 : decode cX1_cheapestFor 72 = .ok (.iload 7, 2) := dk_21 7 (dk_at dksX1_cheapestFor_3 2 rfl rfl)
theorem dX1_cheapestFor_74 : decode cX1_cheapestFor 74 = .ok (.invokestatic 172, 3) := dk_184 0 172 (dk_at dksX1_cheapestFor_3 4 rfl rfl)
theorem dX1_cheapestFor_77 : decode cX1_cheapestFor 77 = .ok (.istore 5, 2) := dk_54 5 (dk_at dksX1_cheapestFor_3 7 rfl rfl)
theorem dX1_cheapestFor_79 : decode cX1_cheapestFor 79 = .ok (.iinc 6 1, 3) := dk_132 6 1 (dk_at dksX1_cheapestFor_3 9 rfl rfl)
theorem dX1_cheapestFor_82 : decode cX1_cheapestFor 82 = .ok (.goto (-71), 3) := dk_167 255 185 (dk_at dksX1_cheapestFor_3 12 rfl rfl)
theorem dX1_cheapestFor_85 : decode cX1_cheapestFor 85 = .ok (.iload 4, 2) := dk_21 4 (dk_at dksX1_cheapestFor_3 15 rfl rfl)
theorem dX1_cheapestFor_87 : decode cX1_cheapestFor 87 = .ok (.ireturn, 1) := dk_172 (dk_at dksX1_cheapestFor_3 17 rfl rfl)
def dkwX1_tollNow_0 : List UInt8 := [42, 27, 28, 42, 180, 0, 12, 180, 1, 126, 182, 1, 129, 172]
abbrev dktX1_tollNow_0 : List UInt8 := dkwX1_tollNow_0 ++ []
theorem dksX1_tollNow_0 : cX1_tollNow.data.toList.drop 0 = dktX1_tollNow_0 := by decide +kernel
theorem dX1_tollNow_0 : decode cX1_tollNow 0 = .ok (.aload_n 0, 1) := dk_42 (dk_at dksX1_tollNow_0 0 rfl rfl)
theorem dX1_tollNow_1 : decode cX1_tollNow 1 = .ok (.iload_n 1, 1) := dk_27 (dk_at dksX1_tollNow_0 1 rfl rfl)
theorem dX1_tollNow_2 : decode cX1_tollNow 2 = .ok (.iload_n 2, 1) := dk_28 (dk_at dksX1_tollNow_0 2 rfl rfl)
theorem dX1_tollNow_3 : decode cX1_tollNow 3 = .ok (.aload_n 0, 1) := dk_42 (dk_at dksX1_tollNow_0 3 rfl rfl)
theorem dX1_tollNow_4 : decode cX1_tollNow 4 = .ok (.getfield 12, 3) := dk_180 0 12 (dk_at dksX1_tollNow_0 4 rfl rfl)
theorem dX1_tollNow_7 : decode cX1_tollNow 7 = .ok (.getfield 382, 3) := dk_180 1 126 (dk_at dksX1_tollNow_0 7 rfl rfl)
theorem dX1_tollNow_10 : decode cX1_tollNow 10 = .ok (.invokevirtual 385, 3) := dk_182 1 129 (dk_at dksX1_tollNow_0 10 rfl rfl)
theorem dX1_tollNow_13 : decode cX1_tollNow 13 = .ok (.ireturn, 1) := dk_172 (dk_at dksX1_tollNow_0 13 rfl rfl)
def dkwX1_vowelsOf_1 : List UInt8 := [4, 167, 0, 4, 3, 96, 61, 132, 3, 1, 167, 255, 226, 28, 172]
abbrev dktX1_vowelsOf_1 : List UInt8 := dkwX1_vowelsOf_1 ++ []
def dkwX1_vowelsOf_0 : List UInt8 := [3, 61, 3, 62, 29, 42, 180, 0, 23, 27, 46, 162, 0, 26, 28, 42, 27, 29, 182, 0, 159, 155, 0, 7]
abbrev dktX1_vowelsOf_0 : List UInt8 := dkwX1_vowelsOf_0 ++ dktX1_vowelsOf_1
theorem dksX1_vowelsOf_0 : cX1_vowelsOf.data.toList.drop 0 = dktX1_vowelsOf_0 := by decide +kernel
theorem dksX1_vowelsOf_1 : cX1_vowelsOf.data.toList.drop 24 = dktX1_vowelsOf_1 := dk_seg dksX1_vowelsOf_0 24 rfl rfl
theorem dX1_vowelsOf_0 : decode cX1_vowelsOf 0 = .ok (.iconst 0, 1) := dk_3 (dk_at dksX1_vowelsOf_0 0 rfl rfl)
theorem dX1_vowelsOf_1 : decode cX1_vowelsOf 1 = .ok (.istore_n 2, 1) := dk_61 (dk_at dksX1_vowelsOf_0 1 rfl rfl)
theorem dX1_vowelsOf_2 : decode cX1_vowelsOf 2 = .ok (.iconst 0, 1) := dk_3 (dk_at dksX1_vowelsOf_0 2 rfl rfl)
theorem dX1_vowelsOf_3 : decode cX1_vowelsOf 3 = .ok (.istore_n 3, 1) := dk_62 (dk_at dksX1_vowelsOf_0 3 rfl rfl)
theorem dX1_vowelsOf_4 : decode cX1_vowelsOf 4 = .ok (.iload_n 3, 1) := dk_29 (dk_at dksX1_vowelsOf_0 4 rfl rfl)
theorem dX1_vowelsOf_5 : decode cX1_vowelsOf 5 = .ok (.aload_n 0, 1) := dk_42 (dk_at dksX1_vowelsOf_0 5 rfl rfl)
theorem dX1_vowelsOf_6 : decode cX1_vowelsOf 6 = .ok (.getfield 23, 3) := dk_180 0 23 (dk_at dksX1_vowelsOf_0 6 rfl rfl)
theorem dX1_vowelsOf_9 : decode cX1_vowelsOf 9 = .ok (.iload_n 1, 1) := dk_27 (dk_at dksX1_vowelsOf_0 9 rfl rfl)
theorem dX1_vowelsOf_10 : decode cX1_vowelsOf 10 = .ok (.iaload, 1) := dk_46 (dk_at dksX1_vowelsOf_0 10 rfl rfl)
theorem dX1_vowelsOf_11 : decode cX1_vowelsOf 11 = .ok (.if_icmp .ge 26, 3) := dk_162 0 26 (dk_at dksX1_vowelsOf_0 11 rfl rfl)
theorem dX1_vowelsOf_14 : decode cX1_vowelsOf 14 = .ok (.iload_n 2, 1) := dk_28 (dk_at dksX1_vowelsOf_0 14 rfl rfl)
theorem dX1_vowelsOf_15 : decode cX1_vowelsOf 15 = .ok (.aload_n 0, 1) := dk_42 (dk_at dksX1_vowelsOf_0 15 rfl rfl)
theorem dX1_vowelsOf_16 : decode cX1_vowelsOf 16 = .ok (.iload_n 1, 1) := dk_27 (dk_at dksX1_vowelsOf_0 16 rfl rfl)
theorem dX1_vowelsOf_17 : decode cX1_vowelsOf 17 = .ok (.iload_n 3, 1) := dk_29 (dk_at dksX1_vowelsOf_0 17 rfl rfl)
theorem dX1_vowelsOf_18 : decode cX1_vowelsOf 18 = .ok (.invokevirtual 159, 3) := dk_182 0 159 (dk_at dksX1_vowelsOf_0 18 rfl rfl)
theorem dX1_vowelsOf_21 : decode cX1_vowelsOf 21 = .ok (.ifCond .lt 7, 3) := dk_155 0 7 (dk_at dksX1_vowelsOf_0 21 rfl rfl)
theorem dX1_vowelsOf_24 : decode cX1_vowelsOf 24 = .ok (.iconst 1, 1) := dk_4 (dk_at dksX1_vowelsOf_1 0 rfl rfl)
theorem dX1_vowelsOf_25 : decode cX1_vowelsOf 25 = .ok (.goto 4, 3) := dk_167 0 4 (dk_at dksX1_vowelsOf_1 1 rfl rfl)
theorem dX1_vowelsOf_28 : decode cX1_vowelsOf 28 = .ok (.iconst 0, 1) := dk_3 (dk_at dksX1_vowelsOf_1 4 rfl rfl)
theorem dX1_vowelsOf_29 : decode cX1_vowelsOf 29 = .ok (.iadd, 1) := dk_96 (dk_at dksX1_vowelsOf_1 5 rfl rfl)
theorem dX1_vowelsOf_30 : decode cX1_vowelsOf 30 = .ok (.istore_n 2, 1) := dk_61 (dk_at dksX1_vowelsOf_1 6 rfl rfl)
theorem dX1_vowelsOf_31 : decode cX1_vowelsOf 31 = .ok (.iinc 3 1, 3) := dk_132 3 1 (dk_at dksX1_vowelsOf_1 7 rfl rfl)
theorem dX1_vowelsOf_34 : decode cX1_vowelsOf 34 = .ok (.goto (-30), 3) := dk_167 255 226 (dk_at dksX1_vowelsOf_1 10 rfl rfl)
theorem dX1_vowelsOf_37 : decode cX1_vowelsOf 37 = .ok (.iload_n 2, 1) := dk_28 (dk_at dksX1_vowelsOf_1 13 rfl rfl)
theorem dX1_vowelsOf_38 : decode cX1_vowelsOf 38 = .ok (.ireturn, 1) := dk_172 (dk_at dksX1_vowelsOf_1 14 rfl rfl)
def dkwX1_paid_0 : List UInt8 := [42, 89, 180, 1, 180, 3, 27, 184, 1, 2, 96, 181, 1, 180, 27, 155, 0, 7, 4, 167, 0, 4, 3, 172]
abbrev dktX1_paid_0 : List UInt8 := dkwX1_paid_0 ++ []
theorem dksX1_paid_0 : cX1_paid.data.toList.drop 0 = dktX1_paid_0 := by decide +kernel
theorem dX1_paid_0 : decode cX1_paid 0 = .ok (.aload_n 0, 1) := dk_42 (dk_at dksX1_paid_0 0 rfl rfl)
theorem dX1_paid_1 : decode cX1_paid 1 = .ok (.dup, 1) := dk_89 (dk_at dksX1_paid_0 1 rfl rfl)
theorem dX1_paid_2 : decode cX1_paid 2 = .ok (.getfield 436, 3) := dk_180 1 180 (dk_at dksX1_paid_0 2 rfl rfl)
theorem dX1_paid_5 : decode cX1_paid 5 = .ok (.iconst 0, 1) := dk_3 (dk_at dksX1_paid_0 5 rfl rfl)
theorem dX1_paid_6 : decode cX1_paid 6 = .ok (.iload_n 1, 1) := dk_27 (dk_at dksX1_paid_0 6 rfl rfl)
theorem dX1_paid_7 : decode cX1_paid 7 = .ok (.invokestatic 258, 3) := dk_184 1 2 (dk_at dksX1_paid_0 7 rfl rfl)
theorem dX1_paid_10 : decode cX1_paid 10 = .ok (.iadd, 1) := dk_96 (dk_at dksX1_paid_0 10 rfl rfl)
theorem dX1_paid_11 : decode cX1_paid 11 = .ok (.putfield 436, 3) := dk_181 1 180 (dk_at dksX1_paid_0 11 rfl rfl)
theorem dX1_paid_14 : decode cX1_paid 14 = .ok (.iload_n 1, 1) := dk_27 (dk_at dksX1_paid_0 14 rfl rfl)
theorem dX1_paid_15 : decode cX1_paid 15 = .ok (.ifCond .lt 7, 3) := dk_155 0 7 (dk_at dksX1_paid_0 15 rfl rfl)
theorem dX1_paid_18 : decode cX1_paid 18 = .ok (.iconst 1, 1) := dk_4 (dk_at dksX1_paid_0 18 rfl rfl)
theorem dX1_paid_19 : decode cX1_paid 19 = .ok (.goto 4, 3) := dk_167 0 4 (dk_at dksX1_paid_0 19 rfl rfl)
theorem dX1_paid_22 : decode cX1_paid 22 = .ok (.iconst 0, 1) := dk_3 (dk_at dksX1_paid_0 22 rfl rfl)
theorem dX1_paid_23 : decode cX1_paid 23 = .ok (.ireturn, 1) := dk_172 (dk_at dksX1_paid_0 23 rfl rfl)
def dkwX1_cheapest_4 : List UInt8 := [42, 21, 4, 133, 182, 1, 136, 29, 172]
abbrev dktX1_cheapest_4 : List UInt8 := dkwX1_cheapest_4 ++ []
def dkwX1_cheapest_3 : List UInt8 := [54, 4, 132, 5, 1, 167, 255, 224, 42, 3, 181, 1, 133, 42, 42, 29, 28, 182, 1, 199, 133, 182, 1, 136]
abbrev dktX1_cheapest_3 : List UInt8 := dkwX1_cheapest_3 ++ dktX1_cheapest_4
def dkwX1_cheapest_2 : List UInt8 := [180, 0, 145, 162, 0, 29, 21, 4, 42, 21, 5, 27, 182, 1, 140, 153, 0, 7, 4, 167, 0, 4, 3, 96]
abbrev dktX1_cheapest_2 : List UInt8 := dkwX1_cheapest_2 ++ dktX1_cheapest_3
def dkwX1_cheapest_1 : List UInt8 := [28, 3, 182, 1, 183, 62, 29, 156, 0, 6, 16, 254, 172, 3, 54, 4, 3, 54, 5, 21, 5, 42]
abbrev dktX1_cheapest_1 : List UInt8 := dkwX1_cheapest_1 ++ dktX1_cheapest_2
def dkwX1_cheapest_0 : List UInt8 := [27, 133, 9, 20, 1, 202, 184, 0, 141, 153, 0, 11, 42, 28, 182, 1, 112, 154, 0, 5, 2, 172, 42, 27]
abbrev dktX1_cheapest_0 : List UInt8 := dkwX1_cheapest_0 ++ dktX1_cheapest_1
theorem dksX1_cheapest_0 : cX1_cheapest.data.toList.drop 0 = dktX1_cheapest_0 := by decide +kernel
theorem dksX1_cheapest_1 : cX1_cheapest.data.toList.drop 24 = dktX1_cheapest_1 := dk_seg dksX1_cheapest_0 24 rfl rfl
theorem dksX1_cheapest_2 : cX1_cheapest.data.toList.drop 46 = dktX1_cheapest_2 := dk_seg dksX1_cheapest_1 22 rfl rfl
theorem dksX1_cheapest_3 : cX1_cheapest.data.toList.drop 70 = dktX1_cheapest_3 := dk_seg dksX1_cheapest_2 24 rfl rfl
theorem dksX1_cheapest_4 : cX1_cheapest.data.toList.drop 94 = dktX1_cheapest_4 := dk_seg dksX1_cheapest_3 24 rfl rfl
theorem dX1_cheapest_0 : decode cX1_cheapest 0 = .ok (.iload_n 1, 1) := dk_27 (dk_at dksX1_cheapest_0 0 rfl rfl)
theorem dX1_cheapest_1 : decode cX1_cheapest 1 = .ok (.i2l, 1) := dk_133 (dk_at dksX1_cheapest_0 1 rfl rfl)
theorem dX1_cheapest_2 : decode cX1_cheapest 2 = .ok (.lconst 0, 1) := dk_9 (dk_at dksX1_cheapest_0 2 rfl rfl)
theorem dX1_cheapest_3 : decode cX1_cheapest 3 = .ok (.ldc2_w 458, 3) := dk_20 1 202 (dk_at dksX1_cheapest_0 3 rfl rfl)
theorem dX1_cheapest_6 : decode cX1_cheapest 6 = .ok (.invokestatic 141, 3) := dk_184 0 141 (dk_at dksX1_cheapest_0 6 rfl rfl)
theorem dX1_cheapest_9 : decode cX1_cheapest 9 = .ok (.ifCond .eq 11, 3) := dk_153 0 11 (dk_at dksX1_cheapest_0 9 rfl rfl)
theorem dX1_cheapest_12 : decode cX1_cheapest 12 = .ok (.aload_n 0, 1) := dk_42 (dk_at dksX1_cheapest_0 12 rfl rfl)
theorem dX1_cheapest_13 : decode cX1_cheapest 13 = .ok (.iload_n 2, 1) := dk_28 (dk_at dksX1_cheapest_0 13 rfl rfl)
theorem dX1_cheapest_14 : decode cX1_cheapest 14 = .ok (.invokevirtual 368, 3) := dk_182 1 112 (dk_at dksX1_cheapest_0 14 rfl rfl)
theorem dX1_cheapest_17 : decode cX1_cheapest 17 = .ok (.ifCond .ne 5, 3) := dk_154 0 5 (dk_at dksX1_cheapest_0 17 rfl rfl)
theorem dX1_cheapest_20 : decode cX1_cheapest 20 = .ok (.iconst (-1), 1) := dk_2 (dk_at dksX1_cheapest_0 20 rfl rfl)
theorem dX1_cheapest_21 : decode cX1_cheapest 21 = .ok (.ireturn, 1) := dk_172 (dk_at dksX1_cheapest_0 21 rfl rfl)
theorem dX1_cheapest_22 : decode cX1_cheapest 22 = .ok (.aload_n 0, 1) := dk_42 (dk_at dksX1_cheapest_0 22 rfl rfl)
theorem dX1_cheapest_23 : decode cX1_cheapest 23 = .ok (.iload_n 1, 1) := dk_27 (dk_at dksX1_cheapest_0 23 rfl rfl)
theorem dX1_cheapest_24 : decode cX1_cheapest 24 = .ok (.iload_n 2, 1) := dk_28 (dk_at dksX1_cheapest_1 0 rfl rfl)
theorem dX1_cheapest_25 : decode cX1_cheapest 25 = .ok (.iconst 0, 1) := dk_3 (dk_at dksX1_cheapest_1 1 rfl rfl)
theorem dX1_cheapest_26 : decode cX1_cheapest 26 = .ok (.invokevirtual 439, 3) := dk_182 1 183 (dk_at dksX1_cheapest_1 2 rfl rfl)
theorem dX1_cheapest_29 : decode cX1_cheapest 29 = .ok (.istore_n 3, 1) := dk_62 (dk_at dksX1_cheapest_1 5 rfl rfl)
theorem dX1_cheapest_30 : decode cX1_cheapest 30 = .ok (.iload_n 3, 1) := dk_29 (dk_at dksX1_cheapest_1 6 rfl rfl)
theorem dX1_cheapest_31 : decode cX1_cheapest 31 = .ok (.ifCond .ge 6, 3) := dk_156 0 6 (dk_at dksX1_cheapest_1 7 rfl rfl)
theorem dX1_cheapest_34 : decode cX1_cheapest 34 = .ok (.bipush (-2), 2) := dk_16 254 (dk_at dksX1_cheapest_1 10 rfl rfl)
theorem dX1_cheapest_36 : decode cX1_cheapest 36 = .ok (.ireturn, 1) := dk_172 (dk_at dksX1_cheapest_1 12 rfl rfl)
theorem dX1_cheapest_37 : decode cX1_cheapest 37 = .ok (.iconst 0, 1) := dk_3 (dk_at dksX1_cheapest_1 13 rfl rfl)
theorem dX1_cheapest_38 : decode cX1_cheapest 38 = .ok (.istore 4, 2) := dk_54 4 (dk_at dksX1_cheapest_1 14 rfl rfl)
theorem dX1_cheapest_40 : decode cX1_cheapest 40 = .ok (.iconst 0, 1) := dk_3 (dk_at dksX1_cheapest_1 16 rfl rfl)
theorem dX1_cheapest_41 : decode cX1_cheapest 41 = .ok (.istore 5, 2) := dk_54 5 (dk_at dksX1_cheapest_1 17 rfl rfl)
theorem dX1_cheapest_43 : decode cX1_cheapest 43 = .ok (.iload 5, 2) := dk_21 5 (dk_at dksX1_cheapest_1 19 rfl rfl)
theorem dX1_cheapest_45 : decode cX1_cheapest 45 = .ok (.aload_n 0, 1) := dk_42 (dk_at dksX1_cheapest_1 21 rfl rfl)
theorem dX1_cheapest_46 : decode cX1_cheapest 46 = .ok (.getfield 145, 3) := dk_180 0 145 (dk_at dksX1_cheapest_2 0 rfl rfl)
theorem dX1_cheapest_49 : decode cX1_cheapest 49 = .ok (.if_icmp .ge 29, 3) := dk_162 0 29 (dk_at dksX1_cheapest_2 3 rfl rfl)
theorem dX1_cheapest_52 : decode cX1_cheapest 52 = .ok (.iload 4, 2) := dk_21 4 (dk_at dksX1_cheapest_2 6 rfl rfl)
theorem dX1_cheapest_54 : decode cX1_cheapest 54 = .ok (.aload_n 0, 1) := dk_42 (dk_at dksX1_cheapest_2 8 rfl rfl)
theorem dX1_cheapest_55 : decode cX1_cheapest 55 = .ok (.iload 5, 2) := dk_21 5 (dk_at dksX1_cheapest_2 9 rfl rfl)
theorem dX1_cheapest_57 : decode cX1_cheapest 57 = .ok (.iload_n 1, 1) := dk_27 (dk_at dksX1_cheapest_2 11 rfl rfl)
theorem dX1_cheapest_58 : decode cX1_cheapest 58 = .ok (.invokevirtual 396, 3) := dk_182 1 140 (dk_at dksX1_cheapest_2 12 rfl rfl)
theorem dX1_cheapest_61 : decode cX1_cheapest 61 = .ok (.ifCond .eq 7, 3) := dk_153 0 7 (dk_at dksX1_cheapest_2 15 rfl rfl)
theorem dX1_cheapest_64 : decode cX1_cheapest 64 = .ok (.iconst 1, 1) := dk_4 (dk_at dksX1_cheapest_2 18 rfl rfl)
theorem dX1_cheapest_65 : decode cX1_cheapest 65 = .ok (.goto 4, 3) := dk_167 0 4 (dk_at dksX1_cheapest_2 19 rfl rfl)
theorem dX1_cheapest_68 : decode cX1_cheapest 68 = .ok (.iconst 0, 1) := dk_3 (dk_at dksX1_cheapest_2 22 rfl rfl)
theorem dX1_cheapest_69 : decode cX1_cheapest 69 = .ok (.iadd, 1) := dk_96 (dk_at dksX1_cheapest_2 23 rfl rfl)
theorem dX1_cheapest_70 : decode cX1_cheapest 70 = .ok (.istore 4, 2) := dk_54 4 (dk_at dksX1_cheapest_3 0 rfl rfl)
theorem dX1_cheapest_72 : decode cX1_cheapest 72 = .ok (.iinc 5 1, 3) := dk_132 5 1 (dk_at dksX1_cheapest_3 2 rfl rfl)
theorem dX1_cheapest_75 : decode cX1_cheapest 75 = .ok (.goto (-32), 3) := dk_167 255 224 (dk_at dksX1_cheapest_3 5 rfl rfl)
theorem dX1_cheapest_78 : decode cX1_cheapest 78 = .ok (.aload_n 0, 1) := dk_42 (dk_at dksX1_cheapest_3 8 rfl rfl)
theorem dX1_cheapest_79 : decode cX1_cheapest 79 = .ok (.iconst 0, 1) := dk_3 (dk_at dksX1_cheapest_3 9 rfl rfl)
theorem dX1_cheapest_80 : decode cX1_cheapest 80 = .ok (.putfield 389, 3) := dk_181 1 133 (dk_at dksX1_cheapest_3 10 rfl rfl)
theorem dX1_cheapest_83 : decode cX1_cheapest 83 = .ok (.aload_n 0, 1) := dk_42 (dk_at dksX1_cheapest_3 13 rfl rfl)
theorem dX1_cheapest_84 : decode cX1_cheapest 84 = .ok (.aload_n 0, 1) := dk_42 (dk_at dksX1_cheapest_3 14 rfl rfl)
theorem dX1_cheapest_85 : decode cX1_cheapest 85 = .ok (.iload_n 3, 1) := dk_29 (dk_at dksX1_cheapest_3 15 rfl rfl)
theorem dX1_cheapest_86 : decode cX1_cheapest 86 = .ok (.iload_n 2, 1) := dk_28 (dk_at dksX1_cheapest_3 16 rfl rfl)
theorem dX1_cheapest_87 : decode cX1_cheapest 87 = .ok (.invokevirtual 455, 3) := dk_182 1 199 (dk_at dksX1_cheapest_3 17 rfl rfl)
theorem dX1_cheapest_90 : decode cX1_cheapest 90 = .ok (.i2l, 1) := dk_133 (dk_at dksX1_cheapest_3 20 rfl rfl)
theorem dX1_cheapest_91 : decode cX1_cheapest 91 = .ok (.invokevirtual 392, 3) := dk_182 1 136 (dk_at dksX1_cheapest_3 21 rfl rfl)
theorem dX1_cheapest_94 : decode cX1_cheapest 94 = .ok (.aload_n 0, 1) := dk_42 (dk_at dksX1_cheapest_4 0 rfl rfl)
theorem dX1_cheapest_95 : decode cX1_cheapest 95 = .ok (.iload 4, 2) := dk_21 4 (dk_at dksX1_cheapest_4 1 rfl rfl)
theorem dX1_cheapest_97 : decode cX1_cheapest 97 = .ok (.i2l, 1) := dk_133 (dk_at dksX1_cheapest_4 3 rfl rfl)
theorem dX1_cheapest_98 : decode cX1_cheapest 98 = .ok (.invokevirtual 392, 3) := dk_182 1 136 (dk_at dksX1_cheapest_4 4 rfl rfl)
theorem dX1_cheapest_101 : decode cX1_cheapest 101 = .ok (.iload_n 3, 1) := dk_29 (dk_at dksX1_cheapest_4 7 rfl rfl)
theorem dX1_cheapest_102 : decode cX1_cheapest 102 = .ok (.ireturn, 1) := dk_172 (dk_at dksX1_cheapest_4 8 rfl rfl)
def dkwX1_sentence_10 : List UInt8 := [61, 167, 255, 209, 42, 180, 0, 100, 3, 46, 172]
abbrev dktX1_sentence_10 : List UInt8 := dkwX1_sentence_10 ++ []
def dkwX1_sentence_9 : List UInt8 := [46, 159, 0, 9, 132, 3, 1, 167, 255, 237, 42, 29, 133, 182, 1, 136, 28, 42, 29, 28, 182, 1, 207, 96]
abbrev dktX1_sentence_9 : List UInt8 := dkwX1_sentence_9 ++ dktX1_sentence_10
def dkwX1_sentence_8 : List UInt8 := [3, 61, 28, 42, 180, 1, 204, 162, 0, 45, 3, 62, 42, 29, 28, 27, 182, 1, 210, 42, 180, 0, 100, 28]
abbrev dktX1_sentence_8 : List UInt8 := dkwX1_sentence_8 ++ dktX1_sentence_9
def dkwX1_sentence_7 : List UInt8 := [167, 255, 202, 42, 180, 0, 100, 3, 46, 19, 1, 198, 161, 0, 7, 17, 255, 56, 172, 42, 3, 181, 1, 133]
abbrev dktX1_sentence_7 : List UInt8 := dkwX1_sentence_7 ++ dktX1_sentence_8
def dkwX1_sentence_6 : List UInt8 := [28, 46, 42, 29, 28, 27, 182, 1, 210, 184, 0, 172, 79, 132, 3, 1, 167, 255, 223, 132, 2, 255]
abbrev dktX1_sentence_6 : List UInt8 := dkwX1_sentence_6 ++ dktX1_sentence_7
def dkwX1_sentence_5 : List UInt8 := [28, 19, 1, 198, 79, 3, 62, 29, 42, 180, 0, 145, 162, 0, 31, 42, 180, 0, 100, 28, 42, 180, 0, 100]
abbrev dktX1_sentence_5 : List UInt8 := dkwX1_sentence_5 ++ dktX1_sentence_6
def dkwX1_sentence_4 : List UInt8 := [180, 0, 100, 42, 180, 1, 204, 3, 79, 42, 180, 1, 204, 4, 100, 61, 28, 155, 0, 56, 42, 180, 0, 100]
abbrev dktX1_sentence_4 : List UInt8 := dkwX1_sentence_4 ++ dktX1_sentence_5
def dkwX1_sentence_3 : List UInt8 := [153, 0, 14, 42, 180, 0, 166, 42, 180, 0, 177, 162, 0, 10, 2, 42, 180, 0, 166, 100, 172, 42]
abbrev dktX1_sentence_3 : List UInt8 := dkwX1_sentence_3 ++ dktX1_sentence_4
def dkwX1_sentence_2 : List UInt8 := [4, 182, 0, 238, 79, 42, 89, 180, 1, 204, 4, 96, 181, 1, 204, 167, 255, 216, 42, 180, 1, 204]
abbrev dktX1_sentence_2 : List UInt8 := dkwX1_sentence_2 ++ dktX1_sentence_3
def dkwX1_sentence_1 : List UInt8 := [180, 1, 204, 16, 12, 162, 0, 37, 42, 182, 0, 192, 153, 0, 30, 42, 180, 0, 97, 42, 180, 1, 204, 42]
abbrev dktX1_sentence_1 : List UInt8 := dkwX1_sentence_1 ++ dktX1_sentence_2
def dkwX1_sentence_0 : List UInt8 := [42, 16, 80, 182, 0, 206, 87, 42, 27, 182, 1, 112, 154, 0, 6, 16, 156, 172, 42, 3, 181, 1, 204, 42]
abbrev dktX1_sentence_0 : List UInt8 := dkwX1_sentence_0 ++ dktX1_sentence_1
theorem dksX1_sentence_0 : cX1_sentence.data.toList.drop 0 = dktX1_sentence_0 := by decide +kernel
theorem dksX1_sentence_1 : cX1_sentence.data.toList.drop 24 = dktX1_sentence_1 := dk_seg dksX1_sentence_0 24 rfl rfl
theorem dksX1_sentence_2 : cX1_sentence.data.toList.drop 48 = dktX1_sentence_2 := dk_seg dksX1_sentence_1 24 rfl rfl
theorem dksX1_sentence_3 : cX1_sentence.data.toList.drop 70 = dktX1_sentence_3 := dk_seg dksX1_sentence_2 22 rfl rfl
theorem dksX1_sentence_4 : cX1_sentence.data.toList.drop 92 = dktX1_sentence_4 := dk_seg dksX1_sentence_3 22 rfl rfl
theorem dksX1_sentence_5 : cX1_sentence.data.toList.drop 116 = dktX1_sentence_5 := dk_seg dksX1_sentence_4 24 rfl rfl
theorem dksX1_sentence_6 : cX1_sentence.data.toList.drop 140 = dktX1_sentence_6 := dk_seg dksX1_sentence_5 24 rfl rfl
theorem dksX1_sentence_7 : cX1_sentence.data.toList.drop 162 = dktX1_sentence_7 := dk_seg dksX1_sentence_6 22 rfl rfl
theorem dksX1_sentence_8 : cX1_sentence.data.toList.drop 186 = dktX1_sentence_8 := dk_seg dksX1_sentence_7 24 rfl rfl
theorem dksX1_sentence_9 : cX1_sentence.data.toList.drop 210 = dktX1_sentence_9 := dk_seg dksX1_sentence_8 24 rfl rfl
theorem dksX1_sentence_10 : cX1_sentence.data.toList.drop 234 = dktX1_sentence_10 := dk_seg dksX1_sentence_9 24 rfl rfl
theorem dX1_sentence_0 : decode cX1_sentence 0 = .ok (.aload_n 0, 1) := dk_42 (dk_at dksX1_sentence_0 0 rfl rfl)
theorem dX1_sentence_1 : decode cX1_sentence 1 = .ok (.bipush 80, 2) := dk_16 80 (dk_at dksX1_sentence_0 1 rfl rfl)
theorem dX1_sentence_3 : decode cX1_sentence 3 = .ok (.invokevirtual 206, 3) := dk_182 0 206 (dk_at dksX1_sentence_0 3 rfl rfl)
theorem dX1_sentence_6 : decode cX1_sentence 6 = .ok (.pop, 1) := dk_87 (dk_at dksX1_sentence_0 6 rfl rfl)
theorem dX1_sentence_7 : decode cX1_sentence 7 = .ok (.aload_n 0, 1) := dk_42 (dk_at dksX1_sentence_0 7 rfl rfl)
theorem dX1_sentence_8 : decode cX1_sentence 8 = .ok (.iload_n 1, 1) := dk_27 (dk_at dksX1_sentence_0 8 rfl rfl)
theorem dX1_sentence_9 : decode cX1_sentence 9 = .ok (.invokevirtual 368, 3) := dk_182 1 112 (dk_at dksX1_sentence_0 9 rfl rfl)
theorem dX1_sentence_12 : decode cX1_sentence 12 = .ok (.ifCond .ne 6, 3) := dk_154 0 6 (dk_at dksX1_sentence_0 12 rfl rfl)
theorem dX1_sentence_15 : decode cX1_sentence 15 = .ok (.bipush (-100), 2) := dk_16 156 (dk_at dksX1_sentence_0 15 rfl rfl)
theorem dX1_sentence_17 : decode cX1_sentence 17 = .ok (.ireturn, 1) := dk_172 (dk_at dksX1_sentence_0 17 rfl rfl)
theorem dX1_sentence_18 : decode cX1_sentence 18 = .ok (.aload_n 0, 1) := dk_42 (dk_at dksX1_sentence_0 18 rfl rfl)
theorem dX1_sentence_19 : decode cX1_sentence 19 = .ok (.iconst 0, 1) := dk_3 (dk_at dksX1_sentence_0 19 rfl rfl)
theorem dX1_sentence_20 : decode cX1_sentence 20 = .ok (.putfield 460, 3) := dk_181 1 204 (dk_at dksX1_sentence_0 20 rfl rfl)
theorem dX1_sentence_23 : decode cX1_sentence 23 = .ok (.aload_n 0, 1) := dk_42 (dk_at dksX1_sentence_0 23 rfl rfl)
theorem dX1_sentence_24 : decode cX1_sentence 24 = .ok (.getfield 460, 3) := dk_180 1 204 (dk_at dksX1_sentence_1 0 rfl rfl)
theorem dX1_sentence_27 : decode cX1_sentence 27 = .ok (.bipush 12, 2) := dk_16 12 (dk_at dksX1_sentence_1 3 rfl rfl)
theorem dX1_sentence_29 : decode cX1_sentence 29 = .ok (.if_icmp .ge 37, 3) := dk_162 0 37 (dk_at dksX1_sentence_1 5 rfl rfl)
theorem dX1_sentence_32 : decode cX1_sentence 32 = .ok (.aload_n 0, 1) := dk_42 (dk_at dksX1_sentence_1 8 rfl rfl)
theorem dX1_sentence_33 : decode cX1_sentence 33 = .ok (.invokevirtual 192, 3) := dk_182 0 192 (dk_at dksX1_sentence_1 9 rfl rfl)
theorem dX1_sentence_36 : decode cX1_sentence 36 = .ok (.ifCond .eq 30, 3) := dk_153 0 30 (dk_at dksX1_sentence_1 12 rfl rfl)
theorem dX1_sentence_39 : decode cX1_sentence 39 = .ok (.aload_n 0, 1) := dk_42 (dk_at dksX1_sentence_1 15 rfl rfl)
theorem dX1_sentence_40 : decode cX1_sentence 40 = .ok (.getfield 97, 3) := dk_180 0 97 (dk_at dksX1_sentence_1 16 rfl rfl)
theorem dX1_sentence_43 : decode cX1_sentence 43 = .ok (.aload_n 0, 1) := dk_42 (dk_at dksX1_sentence_1 19 rfl rfl)
theorem dX1_sentence_44 : decode cX1_sentence 44 = .ok (.getfield 460, 3) := dk_180 1 204 (dk_at dksX1_sentence_1 20 rfl rfl)
theorem dX1_sentence_47 : decode cX1_sentence 47 = .ok (.aload_n 0, 1) := dk_42 (dk_at dksX1_sentence_1 23 rfl rfl)
theorem dX1_sentence_48 : decode cX1_sentence 48 = .ok (.iconst 1, 1) := dk_4 (dk_at dksX1_sentence_2 0 rfl rfl)
theorem dX1_sentence_49 : decode cX1_sentence 49 = .ok (.invokevirtual 238, 3) := dk_182 0 238 (dk_at dksX1_sentence_2 1 rfl rfl)
theorem dX1_sentence_52 : decode cX1_sentence 52 = .ok (.iastore, 1) := dk_79 (dk_at dksX1_sentence_2 4 rfl rfl)
theorem dX1_sentence_53 : decode cX1_sentence 53 = .ok (.aload_n 0, 1) := dk_42 (dk_at dksX1_sentence_2 5 rfl rfl)
theorem dX1_sentence_54 : decode cX1_sentence 54 = .ok (.dup, 1) := dk_89 (dk_at dksX1_sentence_2 6 rfl rfl)
theorem dX1_sentence_55 : decode cX1_sentence 55 = .ok (.getfield 460, 3) := dk_180 1 204 (dk_at dksX1_sentence_2 7 rfl rfl)
theorem dX1_sentence_58 : decode cX1_sentence 58 = .ok (.iconst 1, 1) := dk_4 (dk_at dksX1_sentence_2 10 rfl rfl)
theorem dX1_sentence_59 : decode cX1_sentence 59 = .ok (.iadd, 1) := dk_96 (dk_at dksX1_sentence_2 11 rfl rfl)
theorem dX1_sentence_60 : decode cX1_sentence 60 = .ok (.putfield 460, 3) := dk_181 1 204 (dk_at dksX1_sentence_2 12 rfl rfl)
theorem dX1_sentence_63 : decode cX1_sentence 63 = .ok (.goto (-40), 3) := dk_167 255 216 (dk_at dksX1_sentence_2 15 rfl rfl)
theorem dX1_sentence_66 : decode cX1_sentence 66 = .ok (.aload_n 0, 1) := dk_42 (dk_at dksX1_sentence_2 18 rfl rfl)
theorem dX1_sentence_67 : decode cX1_sentence 67 = .ok (.getfield 460, 3) := dk_180 1 204 (dk_at dksX1_sentence_2 19 rfl rfl)
theorem dX1_sentence_70 : decode cX1_sentence 70 = .ok (.ifCond .eq 14, 3) := dk_153 0 14 (dk_at dksX1_sentence_3 0 rfl rfl)
theorem dX1_sentence_73 : decode cX1_sentence 73 = .ok (.aload_n 0, 1) := dk_42 (dk_at dksX1_sentence_3 3 rfl rfl)
theorem dX1_sentence_74 : decode cX1_sentence 74 = .ok (.getfield 166, 3) := dk_180 0 166 (dk_at dksX1_sentence_3 4 rfl rfl)
theorem dX1_sentence_77 : decode cX1_sentence 77 = .ok (.aload_n 0, 1) := dk_42 (dk_at dksX1_sentence_3 7 rfl rfl)
theorem dX1_sentence_78 : decode cX1_sentence 78 = .ok (.getfield 177, 3) := dk_180 0 177 (dk_at dksX1_sentence_3 8 rfl rfl)
theorem dX1_sentence_81 : decode cX1_sentence 81 = .ok (.if_icmp .ge 10, 3) := dk_162 0 10 (dk_at dksX1_sentence_3 11 rfl rfl)
theorem dX1_sentence_84 : decode cX1_sentence 84 = .ok (.iconst (-1), 1) := dk_2 (dk_at dksX1_sentence_3 14 rfl rfl)
theorem dX1_sentence_85 : decode cX1_sentence 85 = .ok (.aload_n 0, 1) := dk_42 (dk_at dksX1_sentence_3 15 rfl rfl)
theorem dX1_sentence_86 : decode cX1_sentence 86 = .ok (.getfield 166, 3) := dk_180 0 166 (dk_at dksX1_sentence_3 16 rfl rfl)
theorem dX1_sentence_89 : decode cX1_sentence 89 = .ok (.isub, 1) := dk_100 (dk_at dksX1_sentence_3 19 rfl rfl)
theorem dX1_sentence_90 : decode cX1_sentence 90 = .ok (.ireturn, 1) := dk_172 (dk_at dksX1_sentence_3 20 rfl rfl)
theorem dX1_sentence_91 : decode cX1_sentence 91 = .ok (.aload_n 0, 1) := dk_42 (dk_at dksX1_sentence_3 21 rfl rfl)
theorem dX1_sentence_92 : decode cX1_sentence 92 = .ok (.getfield 100, 3) := dk_180 0 100 (dk_at dksX1_sentence_4 0 rfl rfl)
theorem dX1_sentence_95 : decode cX1_sentence 95 = .ok (.aload_n 0, 1) := dk_42 (dk_at dksX1_sentence_4 3 rfl rfl)
theorem dX1_sentence_96 : decode cX1_sentence 96 = .ok (.getfield 460, 3) := dk_180 1 204 (dk_at dksX1_sentence_4 4 rfl rfl)
theorem dX1_sentence_99 : decode cX1_sentence 99 = .ok (.iconst 0, 1) := dk_3 (dk_at dksX1_sentence_4 7 rfl rfl)
theorem dX1_sentence_100 : decode cX1_sentence 100 = .ok (.iastore, 1) := dk_79 (dk_at dksX1_sentence_4 8 rfl rfl)
theorem dX1_sentence_101 : decode cX1_sentence 101 = .ok (.aload_n 0, 1) := dk_42 (dk_at dksX1_sentence_4 9 rfl rfl)
theorem dX1_sentence_102 : decode cX1_sentence 102 = .ok (.getfield 460, 3) := dk_180 1 204 (dk_at dksX1_sentence_4 10 rfl rfl)
theorem dX1_sentence_105 : decode cX1_sentence 105 = .ok (.iconst 1, 1) := dk_4 (dk_at dksX1_sentence_4 13 rfl rfl)
theorem dX1_sentence_106 : decode cX1_sentence 106 = .ok (.isub, 1) := dk_100 (dk_at dksX1_sentence_4 14 rfl rfl)
theorem dX1_sentence_107 : decode cX1_sentence 107 = .ok (.istore_n 2, 1) := dk_61 (dk_at dksX1_sentence_4 15 rfl rfl)
theorem dX1_sentence_108 : decode cX1_sentence 108 = .ok (.iload_n 2, 1) := dk_28 (dk_at dksX1_sentence_4 16 rfl rfl)
theorem dX1_sentence_109 : decode cX1_sentence 109 = .ok (.ifCond .lt 56, 3) := dk_155 0 56 (dk_at dksX1_sentence_4 17 rfl rfl)
theorem dX1_sentence_112 : decode cX1_sentence 112 = .ok (.aload_n 0, 1) := dk_42 (dk_at dksX1_sentence_4 20 rfl rfl)
theorem dX1_sentence_113 : decode cX1_sentence 113 = .ok (.getfield 100, 3) := dk_180 0 100 (dk_at dksX1_sentence_4 21 rfl rfl)
theorem dX1_sentence_116 : decode cX1_sentence 116 = .ok (.iload_n 2, 1) := dk_28 (dk_at dksX1_sentence_5 0 rfl rfl)
theorem dX1_sentence_117 : decode cX1_sentence 117 = .ok (.ldc_w 454, 3) := dk_19 1 198 (dk_at dksX1_sentence_5 1 rfl rfl)
theorem dX1_sentence_120 : decode cX1_sentence 120 = .ok (.iastore, 1) := dk_79 (dk_at dksX1_sentence_5 4 rfl rfl)
theorem dX1_sentence_121 : decode cX1_sentence 121 = .ok (.iconst 0, 1) := dk_3 (dk_at dksX1_sentence_5 5 rfl rfl)
theorem dX1_sentence_122 : decode cX1_sentence 122 = .ok (.istore_n 3, 1) := dk_62 (dk_at dksX1_sentence_5 6 rfl rfl)
theorem dX1_sentence_123 : decode cX1_sentence 123 = .ok (.iload_n 3, 1) := dk_29 (dk_at dksX1_sentence_5 7 rfl rfl)
theorem dX1_sentence_124 : decode cX1_sentence 124 = .ok (.aload_n 0, 1) := dk_42 (dk_at dksX1_sentence_5 8 rfl rfl)
theorem dX1_sentence_125 : decode cX1_sentence 125 = .ok (.getfield 145, 3) := dk_180 0 145 (dk_at dksX1_sentence_5 9 rfl rfl)
theorem dX1_sentence_128 : decode cX1_sentence 128 = .ok (.if_icmp .ge 31, 3) := dk_162 0 31 (dk_at dksX1_sentence_5 12 rfl rfl)
theorem dX1_sentence_131 : decode cX1_sentence 131 = .ok (.aload_n 0, 1) := dk_42 (dk_at dksX1_sentence_5 15 rfl rfl)
theorem dX1_sentence_132 : decode cX1_sentence 132 = .ok (.getfield 100, 3) := dk_180 0 100 (dk_at dksX1_sentence_5 16 rfl rfl)
theorem dX1_sentence_135 : decode cX1_sentence 135 = .ok (.iload_n 2, 1) := dk_28 (dk_at dksX1_sentence_5 19 rfl rfl)
theorem dX1_sentence_136 : decode cX1_sentence 136 = .ok (.aload_n 0, 1) := dk_42 (dk_at dksX1_sentence_5 20 rfl rfl)
theorem dX1_sentence_137 : decode cX1_sentence 137 = .ok (.getfield 100, 3) := dk_180 0 100 (dk_at dksX1_sentence_5 21 rfl rfl)
theorem dX1_sentence_140 : decode cX1_sentence 140 = .ok (.iload_n 2, 1) := dk_28 (dk_at dksX1_sentence_6 0 rfl rfl)
theorem dX1_sentence_141 : decode cX1_sentence 141 = .ok (.iaload, 1) := dk_46 (dk_at dksX1_sentence_6 1 rfl rfl)
theorem dX1_sentence_142 : decode cX1_sentence 142 = .ok (.aload_n 0, 1) := dk_42 (dk_at dksX1_sentence_6 2 rfl rfl)
theorem dX1_sentence_143 : decode cX1_sentence 143 = .ok (.iload_n 3, 1) := dk_29 (dk_at dksX1_sentence_6 3 rfl rfl)
theorem dX1_sentence_144 : decode cX1_sentence 144 = .ok (.iload_n 2, 1) := dk_28 (dk_at dksX1_sentence_6 4 rfl rfl)
theorem dX1_sentence_145 : decode cX1_sentence 145 = .ok (.iload_n 1, 1) := dk_27 (dk_at dksX1_sentence_6 5 rfl rfl)
theorem dX1_sentence_146 : decode cX1_sentence 146 = .ok (.invokevirtual 466, 3) := dk_182 1 210 (dk_at dksX1_sentence_6 6 rfl rfl)
theorem dX1_sentence_149 : decode cX1_sentence 149 = .ok (.invokestatic 172, 3) := dk_184 0 172 (dk_at dksX1_sentence_6 9 rfl rfl)
theorem dX1_sentence_152 : decode cX1_sentence 152 = .ok (.iastore, 1) := dk_79 (dk_at dksX1_sentence_6 12 rfl rfl)
theorem dX1_sentence_153 : decode cX1_sentence 153 = .ok (.iinc 3 1, 3) := dk_132 3 1 (dk_at dksX1_sentence_6 13 rfl rfl)
theorem dX1_sentence_156 : decode cX1_sentence 156 = .ok (.goto (-33), 3) := dk_167 255 223 (dk_at dksX1_sentence_6 16 rfl rfl)
theorem dX1_sentence_159 : decode cX1_sentence 159 = .ok (.iinc 2 (-1), 3) := dk_132 2 255 (dk_at dksX1_sentence_6 19 rfl rfl)
theorem dX1_sentence_162 : decode cX1_sentence 162 = .ok (.goto (-54), 3) := dk_167 255 202 (dk_at dksX1_sentence_7 0 rfl rfl)
theorem dX1_sentence_165 : decode cX1_sentence 165 = .ok (.aload_n 0, 1) := dk_42 (dk_at dksX1_sentence_7 3 rfl rfl)
theorem dX1_sentence_166 : decode cX1_sentence 166 = .ok (.getfield 100, 3) := dk_180 0 100 (dk_at dksX1_sentence_7 4 rfl rfl)
theorem dX1_sentence_169 : decode cX1_sentence 169 = .ok (.iconst 0, 1) := dk_3 (dk_at dksX1_sentence_7 7 rfl rfl)
theorem dX1_sentence_170 : decode cX1_sentence 170 = .ok (.iaload, 1) := dk_46 (dk_at dksX1_sentence_7 8 rfl rfl)
theorem dX1_sentence_171 : decode cX1_sentence 171 = .ok (.ldc_w 454, 3) := dk_19 1 198 (dk_at dksX1_sentence_7 9 rfl rfl)
theorem dX1_sentence_174 : decode cX1_sentence 174 = .ok (.if_icmp .lt 7, 3) := dk_161 0 7 (dk_at dksX1_sentence_7 12 rfl rfl)
theorem dX1_sentence_177 : decode cX1_sentence 177 = .ok (.sipush (-200), 3) := dk_17 255 56 (dk_at dksX1_sentence_7 15 rfl rfl)
theorem dX1_sentence_180 : decode cX1_sentence 180 = .ok (.ireturn, 1) := dk_172 (dk_at dksX1_sentence_7 18 rfl rfl)
theorem dX1_sentence_181 : decode cX1_sentence 181 = .ok (.aload_n 0, 1) := dk_42 (dk_at dksX1_sentence_7 19 rfl rfl)
theorem dX1_sentence_182 : decode cX1_sentence 182 = .ok (.iconst 0, 1) := dk_3 (dk_at dksX1_sentence_7 20 rfl rfl)
theorem dX1_sentence_183 : decode cX1_sentence 183 = .ok (.putfield 389, 3) := dk_181 1 133 (dk_at dksX1_sentence_7 21 rfl rfl)
theorem dX1_sentence_186 : decode cX1_sentence 186 = .ok (.iconst 0, 1) := dk_3 (dk_at dksX1_sentence_8 0 rfl rfl)
theorem dX1_sentence_187 : decode cX1_sentence 187 = .ok (.istore_n 2, 1) := dk_61 (dk_at dksX1_sentence_8 1 rfl rfl)
theorem dX1_sentence_188 : decode cX1_sentence 188 = .ok (.iload_n 2, 1) := dk_28 (dk_at dksX1_sentence_8 2 rfl rfl)
theorem dX1_sentence_189 : decode cX1_sentence 189 = .ok (.aload_n 0, 1) := dk_42 (dk_at dksX1_sentence_8 3 rfl rfl)
theorem dX1_sentence_190 : decode cX1_sentence 190 = .ok (.getfield 460, 3) := dk_180 1 204 (dk_at dksX1_sentence_8 4 rfl rfl)
theorem dX1_sentence_193 : decode cX1_sentence 193 = .ok (.if_icmp .ge 45, 3) := dk_162 0 45 (dk_at dksX1_sentence_8 7 rfl rfl)
theorem dX1_sentence_196 : decode cX1_sentence 196 = .ok (.iconst 0, 1) := dk_3 (dk_at dksX1_sentence_8 10 rfl rfl)
theorem dX1_sentence_197 : decode cX1_sentence 197 = .ok (.istore_n 3, 1) := dk_62 (dk_at dksX1_sentence_8 11 rfl rfl)
theorem dX1_sentence_198 : decode cX1_sentence 198 = .ok (.aload_n 0, 1) := dk_42 (dk_at dksX1_sentence_8 12 rfl rfl)
theorem dX1_sentence_199 : decode cX1_sentence 199 = .ok (.iload_n 3, 1) := dk_29 (dk_at dksX1_sentence_8 13 rfl rfl)
theorem dX1_sentence_200 : decode cX1_sentence 200 = .ok (.iload_n 2, 1) := dk_28 (dk_at dksX1_sentence_8 14 rfl rfl)
theorem dX1_sentence_201 : decode cX1_sentence 201 = .ok (.iload_n 1, 1) := dk_27 (dk_at dksX1_sentence_8 15 rfl rfl)
theorem dX1_sentence_202 : decode cX1_sentence 202 = .ok (.invokevirtual 466, 3) := dk_182 1 210 (dk_at dksX1_sentence_8 16 rfl rfl)
theorem dX1_sentence_205 : decode cX1_sentence 205 = .ok (.aload_n 0, 1) := dk_42 (dk_at dksX1_sentence_8 19 rfl rfl)
theorem dX1_sentence_206 : decode cX1_sentence 206 = .ok (.getfield 100, 3) := dk_180 0 100 (dk_at dksX1_sentence_8 20 rfl rfl)
theorem dX1_sentence_209 : decode cX1_sentence 209 = .ok (.iload_n 2, 1) := dk_28 (dk_at dksX1_sentence_8 23 rfl rfl)
theorem dX1_sentence_210 : decode cX1_sentence 210 = .ok (.iaload, 1) := dk_46 (dk_at dksX1_sentence_9 0 rfl rfl)
theorem dX1_sentence_211 : decode cX1_sentence 211 = .ok (.if_icmp .eq 9, 3) := dk_159 0 9 (dk_at dksX1_sentence_9 1 rfl rfl)
theorem dX1_sentence_214 : decode cX1_sentence 214 = .ok (.iinc 3 1, 3) := dk_132 3 1 (dk_at dksX1_sentence_9 4 rfl rfl)
theorem dX1_sentence_217 : decode cX1_sentence 217 = .ok (.goto (-19), 3) := dk_167 255 237 (dk_at dksX1_sentence_9 7 rfl rfl)
theorem dX1_sentence_220 : decode cX1_sentence 220 = .ok (.aload_n 0, 1) := dk_42 (dk_at dksX1_sentence_9 10 rfl rfl)
theorem dX1_sentence_221 : decode cX1_sentence 221 = .ok (.iload_n 3, 1) := dk_29 (dk_at dksX1_sentence_9 11 rfl rfl)
theorem dX1_sentence_222 : decode cX1_sentence 222 = .ok (.i2l, 1) := dk_133 (dk_at dksX1_sentence_9 12 rfl rfl)
theorem dX1_sentence_223 : decode cX1_sentence 223 = .ok (.invokevirtual 392, 3) := dk_182 1 136 (dk_at dksX1_sentence_9 13 rfl rfl)
theorem dX1_sentence_226 : decode cX1_sentence 226 = .ok (.iload_n 2, 1) := dk_28 (dk_at dksX1_sentence_9 16 rfl rfl)
theorem dX1_sentence_227 : decode cX1_sentence 227 = .ok (.aload_n 0, 1) := dk_42 (dk_at dksX1_sentence_9 17 rfl rfl)
theorem dX1_sentence_228 : decode cX1_sentence 228 = .ok (.iload_n 3, 1) := dk_29 (dk_at dksX1_sentence_9 18 rfl rfl)
theorem dX1_sentence_229 : decode cX1_sentence 229 = .ok (.iload_n 2, 1) := dk_28 (dk_at dksX1_sentence_9 19 rfl rfl)
theorem dX1_sentence_230 : decode cX1_sentence 230 = .ok (.invokevirtual 463, 3) := dk_182 1 207 (dk_at dksX1_sentence_9 20 rfl rfl)
theorem dX1_sentence_233 : decode cX1_sentence 233 = .ok (.iadd, 1) := dk_96 (dk_at dksX1_sentence_9 23 rfl rfl)
theorem dX1_sentence_234 : decode cX1_sentence 234 = .ok (.istore_n 2, 1) := dk_61 (dk_at dksX1_sentence_10 0 rfl rfl)
theorem dX1_sentence_235 : decode cX1_sentence 235 = .ok (.goto (-47), 3) := dk_167 255 209 (dk_at dksX1_sentence_10 1 rfl rfl)
theorem dX1_sentence_238 : decode cX1_sentence 238 = .ok (.aload_n 0, 1) := dk_42 (dk_at dksX1_sentence_10 4 rfl rfl)
theorem dX1_sentence_239 : decode cX1_sentence 239 = .ok (.getfield 100, 3) := dk_180 0 100 (dk_at dksX1_sentence_10 5 rfl rfl)
theorem dX1_sentence_242 : decode cX1_sentence 242 = .ok (.iconst 0, 1) := dk_3 (dk_at dksX1_sentence_10 8 rfl rfl)
theorem dX1_sentence_243 : decode cX1_sentence 243 = .ok (.iaload, 1) := dk_46 (dk_at dksX1_sentence_10 9 rfl rfl)
theorem dX1_sentence_244 : decode cX1_sentence 244 = .ok (.ireturn, 1) := dk_172 (dk_at dksX1_sentence_10 10 rfl rfl)
def dkwX1_costFrom_1 : List UInt8 := [29, 182, 1, 199, 42, 180, 0, 100, 28, 21, 4, 96, 46, 96, 184, 0, 172, 172]
abbrev dktX1_costFrom_1 : List UInt8 := dkwX1_costFrom_1 ++ []
def dkwX1_costFrom_0 : List UInt8 := [42, 27, 28, 182, 1, 207, 54, 4, 21, 4, 154, 0, 9, 19, 1, 198, 167, 0, 25, 19, 1, 198, 42, 27]
abbrev dktX1_costFrom_0 : List UInt8 := dkwX1_costFrom_0 ++ dktX1_costFrom_1
theorem dksX1_costFrom_0 : cX1_costFrom.data.toList.drop 0 = dktX1_costFrom_0 := by decide +kernel
theorem dksX1_costFrom_1 : cX1_costFrom.data.toList.drop 24 = dktX1_costFrom_1 := dk_seg dksX1_costFrom_0 24 rfl rfl
theorem dX1_costFrom_0 : decode cX1_costFrom 0 = .ok (.aload_n 0, 1) := dk_42 (dk_at dksX1_costFrom_0 0 rfl rfl)
theorem dX1_costFrom_1 : decode cX1_costFrom 1 = .ok (.iload_n 1, 1) := dk_27 (dk_at dksX1_costFrom_0 1 rfl rfl)
theorem dX1_costFrom_2 : decode cX1_costFrom 2 = .ok (.iload_n 2, 1) := dk_28 (dk_at dksX1_costFrom_0 2 rfl rfl)
theorem dX1_costFrom_3 : decode cX1_costFrom 3 = .ok (.invokevirtual 463, 3) := dk_182 1 207 (dk_at dksX1_costFrom_0 3 rfl rfl)
theorem dX1_costFrom_6 : decode cX1_costFrom 6 = .ok (.istore 4, 2) := dk_54 4 (dk_at dksX1_costFrom_0 6 rfl rfl)
theorem dX1_costFrom_8 : decode cX1_costFrom 8 = .ok (.iload 4, 2) := dk_21 4 (dk_at dksX1_costFrom_0 8 rfl rfl)
theorem dX1_costFrom_10 : decode cX1_costFrom 10 = .ok (.ifCond .ne 9, 3) := dk_154 0 9 (dk_at dksX1_costFrom_0 10 rfl rfl)
theorem dX1_costFrom_13 : decode cX1_costFrom 13 = .ok (.ldc_w 454, 3) := dk_19 1 198 (dk_at dksX1_costFrom_0 13 rfl rfl)
theorem dX1_costFrom_16 : decode cX1_costFrom 16 = .ok (.goto 25, 3) := dk_167 0 25 (dk_at dksX1_costFrom_0 16 rfl rfl)
theorem dX1_costFrom_19 : decode cX1_costFrom 19 = .ok (.ldc_w 454, 3) := dk_19 1 198 (dk_at dksX1_costFrom_0 19 rfl rfl)
theorem dX1_costFrom_22 : decode cX1_costFrom 22 = .ok (.aload_n 0, 1) := dk_42 (dk_at dksX1_costFrom_0 22 rfl rfl)
theorem dX1_costFrom_23 : decode cX1_costFrom 23 = .ok (.iload_n 1, 1) := dk_27 (dk_at dksX1_costFrom_0 23 rfl rfl)
theorem dX1_costFrom_24 : decode cX1_costFrom 24 = .ok (.iload_n 3, 1) := dk_29 (dk_at dksX1_costFrom_1 0 rfl rfl)
theorem dX1_costFrom_25 : decode cX1_costFrom 25 = .ok (.invokevirtual 455, 3) := dk_182 1 199 (dk_at dksX1_costFrom_1 1 rfl rfl)
theorem dX1_costFrom_28 : decode cX1_costFrom 28 = .ok (.aload_n 0, 1) := dk_42 (dk_at dksX1_costFrom_1 4 rfl rfl)
theorem dX1_costFrom_29 : decode cX1_costFrom 29 = .ok (.getfield 100, 3) := dk_180 0 100 (dk_at dksX1_costFrom_1 5 rfl rfl)
theorem dX1_costFrom_32 : decode cX1_costFrom 32 = .ok (.iload_n 2, 1) := dk_28 (dk_at dksX1_costFrom_1 8 rfl rfl)
theorem dX1_costFrom_33 : decode cX1_costFrom 33 = .ok (.iload 4, 2) := dk_21 4 (dk_at dksX1_costFrom_1 9 rfl rfl)
theorem dX1_costFrom_35 : decode cX1_costFrom 35 = .ok (.iadd, 1) := dk_96 (dk_at dksX1_costFrom_1 11 rfl rfl)
theorem dX1_costFrom_36 : decode cX1_costFrom 36 = .ok (.iaload, 1) := dk_46 (dk_at dksX1_costFrom_1 12 rfl rfl)
theorem dX1_costFrom_37 : decode cX1_costFrom 37 = .ok (.iadd, 1) := dk_96 (dk_at dksX1_costFrom_1 13 rfl rfl)
theorem dX1_costFrom_38 : decode cX1_costFrom 38 = .ok (.invokestatic 172, 3) := dk_184 0 172 (dk_at dksX1_costFrom_1 14 rfl rfl)
theorem dX1_costFrom_41 : decode cX1_costFrom 41 = .ok (.ireturn, 1) := dk_172 (dk_at dksX1_costFrom_1 17 rfl rfl)
def dkwX1_tellsFrom_2 : List UInt8 := [180, 0, 97, 28, 4, 96, 46, 160, 0, 7, 5, 167, 0, 4, 3, 172]
abbrev dktX1_tellsFrom_2 : List UInt8 := dkwX1_tellsFrom_2 ++ []
def dkwX1_tellsFrom_1 : List UInt8 := [156, 0, 5, 4, 172, 28, 4, 96, 42, 180, 1, 204, 162, 0, 24, 42, 180, 0, 29, 27, 46, 42]
abbrev dktX1_tellsFrom_1 : List UInt8 := dkwX1_tellsFrom_1 ++ dktX1_tellsFrom_2
def dkwX1_tellsFrom_0 : List UInt8 := [42, 180, 0, 26, 27, 46, 42, 180, 0, 97, 28, 46, 159, 0, 5, 3, 172, 42, 180, 0, 29, 27, 46]
abbrev dktX1_tellsFrom_0 : List UInt8 := dkwX1_tellsFrom_0 ++ dktX1_tellsFrom_1
theorem dksX1_tellsFrom_0 : cX1_tellsFrom.data.toList.drop 0 = dktX1_tellsFrom_0 := by decide +kernel
theorem dksX1_tellsFrom_1 : cX1_tellsFrom.data.toList.drop 23 = dktX1_tellsFrom_1 := dk_seg dksX1_tellsFrom_0 23 rfl rfl
theorem dksX1_tellsFrom_2 : cX1_tellsFrom.data.toList.drop 45 = dktX1_tellsFrom_2 := dk_seg dksX1_tellsFrom_1 22 rfl rfl
theorem dX1_tellsFrom_0 : decode cX1_tellsFrom 0 = .ok (.aload_n 0, 1) := dk_42 (dk_at dksX1_tellsFrom_0 0 rfl rfl)
theorem dX1_tellsFrom_1 : decode cX1_tellsFrom 1 = .ok (.getfield 26, 3) := dk_180 0 26 (dk_at dksX1_tellsFrom_0 1 rfl rfl)
theorem dX1_tellsFrom_4 : decode cX1_tellsFrom 4 = .ok (.iload_n 1, 1) := dk_27 (dk_at dksX1_tellsFrom_0 4 rfl rfl)
theorem dX1_tellsFrom_5 : decode cX1_tellsFrom 5 = .ok (.iaload, 1) := dk_46 (dk_at dksX1_tellsFrom_0 5 rfl rfl)
theorem dX1_tellsFrom_6 : decode cX1_tellsFrom 6 = .ok (.aload_n 0, 1) := dk_42 (dk_at dksX1_tellsFrom_0 6 rfl rfl)
theorem dX1_tellsFrom_7 : decode cX1_tellsFrom 7 = .ok (.getfield 97, 3) := dk_180 0 97 (dk_at dksX1_tellsFrom_0 7 rfl rfl)
theorem dX1_tellsFrom_10 : decode cX1_tellsFrom 10 = .ok (.iload_n 2, 1) := dk_28 (dk_at dksX1_tellsFrom_0 10 rfl rfl)
theorem dX1_tellsFrom_11 : decode cX1_tellsFrom 11 = .ok (.iaload, 1) := dk_46 (dk_at dksX1_tellsFrom_0 11 rfl rfl)
theorem dX1_tellsFrom_12 : decode cX1_tellsFrom 12 = .ok (.if_icmp .eq 5, 3) := dk_159 0 5 (dk_at dksX1_tellsFrom_0 12 rfl rfl)
theorem dX1_tellsFrom_15 : decode cX1_tellsFrom 15 = .ok (.iconst 0, 1) := dk_3 (dk_at dksX1_tellsFrom_0 15 rfl rfl)
theorem dX1_tellsFrom_16 : decode cX1_tellsFrom 16 = .ok (.ireturn, 1) := dk_172 (dk_at dksX1_tellsFrom_0 16 rfl rfl)
theorem dX1_tellsFrom_17 : decode cX1_tellsFrom 17 = .ok (.aload_n 0, 1) := dk_42 (dk_at dksX1_tellsFrom_0 17 rfl rfl)
theorem dX1_tellsFrom_18 : decode cX1_tellsFrom 18 = .ok (.getfield 29, 3) := dk_180 0 29 (dk_at dksX1_tellsFrom_0 18 rfl rfl)
theorem dX1_tellsFrom_21 : decode cX1_tellsFrom 21 = .ok (.iload_n 1, 1) := dk_27 (dk_at dksX1_tellsFrom_0 21 rfl rfl)
theorem dX1_tellsFrom_22 : decode cX1_tellsFrom 22 = .ok (.iaload, 1) := dk_46 (dk_at dksX1_tellsFrom_0 22 rfl rfl)
theorem dX1_tellsFrom_23 : decode cX1_tellsFrom 23 = .ok (.ifCond .ge 5, 3) := dk_156 0 5 (dk_at dksX1_tellsFrom_1 0 rfl rfl)
theorem dX1_tellsFrom_26 : decode cX1_tellsFrom 26 = .ok (.iconst 1, 1) := dk_4 (dk_at dksX1_tellsFrom_1 3 rfl rfl)
theorem dX1_tellsFrom_27 : decode cX1_tellsFrom 27 = .ok (.ireturn, 1) := dk_172 (dk_at dksX1_tellsFrom_1 4 rfl rfl)
theorem dX1_tellsFrom_28 : decode cX1_tellsFrom 28 = .ok (.iload_n 2, 1) := dk_28 (dk_at dksX1_tellsFrom_1 5 rfl rfl)
theorem dX1_tellsFrom_29 : decode cX1_tellsFrom 29 = .ok (.iconst 1, 1) := dk_4 (dk_at dksX1_tellsFrom_1 6 rfl rfl)
theorem dX1_tellsFrom_30 : decode cX1_tellsFrom 30 = .ok (.iadd, 1) := dk_96 (dk_at dksX1_tellsFrom_1 7 rfl rfl)
theorem dX1_tellsFrom_31 : decode cX1_tellsFrom 31 = .ok (.aload_n 0, 1) := dk_42 (dk_at dksX1_tellsFrom_1 8 rfl rfl)
theorem dX1_tellsFrom_32 : decode cX1_tellsFrom 32 = .ok (.getfield 460, 3) := dk_180 1 204 (dk_at dksX1_tellsFrom_1 9 rfl rfl)
theorem dX1_tellsFrom_35 : decode cX1_tellsFrom 35 = .ok (.if_icmp .ge 24, 3) := dk_162 0 24 (dk_at dksX1_tellsFrom_1 12 rfl rfl)
theorem dX1_tellsFrom_38 : decode cX1_tellsFrom 38 = .ok (.aload_n 0, 1) := dk_42 (dk_at dksX1_tellsFrom_1 15 rfl rfl)
theorem dX1_tellsFrom_39 : decode cX1_tellsFrom 39 = .ok (.getfield 29, 3) := dk_180 0 29 (dk_at dksX1_tellsFrom_1 16 rfl rfl)
theorem dX1_tellsFrom_42 : decode cX1_tellsFrom 42 = .ok (.iload_n 1, 1) := dk_27 (dk_at dksX1_tellsFrom_1 19 rfl rfl)
theorem dX1_tellsFrom_43 : decode cX1_tellsFrom 43 = .ok (.iaload, 1) := dk_46 (dk_at dksX1_tellsFrom_1 20 rfl rfl)
theorem dX1_tellsFrom_44 : decode cX1_tellsFrom 44 = .ok (.aload_n 0, 1) := dk_42 (dk_at dksX1_tellsFrom_1 21 rfl rfl)
theorem dX1_tellsFrom_45 : decode cX1_tellsFrom 45 = .ok (.getfield 97, 3) := dk_180 0 97 (dk_at dksX1_tellsFrom_2 0 rfl rfl)
theorem dX1_tellsFrom_48 : decode cX1_tellsFrom 48 = .ok (.iload_n 2, 1) := dk_28 (dk_at dksX1_tellsFrom_2 3 rfl rfl)
theorem dX1_tellsFrom_49 : decode cX1_tellsFrom 49 = .ok (.iconst 1, 1) := dk_4 (dk_at dksX1_tellsFrom_2 4 rfl rfl)
theorem dX1_tellsFrom_50 : decode cX1_tellsFrom 50 = .ok (.iadd, 1) := dk_96 (dk_at dksX1_tellsFrom_2 5 rfl rfl)
theorem dX1_tellsFrom_51 : decode cX1_tellsFrom 51 = .ok (.iaload, 1) := dk_46 (dk_at dksX1_tellsFrom_2 6 rfl rfl)
theorem dX1_tellsFrom_52 : decode cX1_tellsFrom 52 = .ok (.if_icmp .ne 7, 3) := dk_160 0 7 (dk_at dksX1_tellsFrom_2 7 rfl rfl)
theorem dX1_tellsFrom_55 : decode cX1_tellsFrom 55 = .ok (.iconst 2, 1) := dk_5 (dk_at dksX1_tellsFrom_2 10 rfl rfl)
theorem dX1_tellsFrom_56 : decode cX1_tellsFrom 56 = .ok (.goto 4, 3) := dk_167 0 4 (dk_at dksX1_tellsFrom_2 11 rfl rfl)
theorem dX1_tellsFrom_59 : decode cX1_tellsFrom 59 = .ok (.iconst 0, 1) := dk_3 (dk_at dksX1_tellsFrom_2 14 rfl rfl)
theorem dX1_tellsFrom_60 : decode cX1_tellsFrom 60 = .ok (.ireturn, 1) := dk_172 (dk_at dksX1_tellsFrom_2 15 rfl rfl)
