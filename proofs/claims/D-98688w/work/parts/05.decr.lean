set_option maxRecDepth 100000
def dkwX2_init_1 : List UInt8 := [181, 0, 18, 42, 16, 30, 188, 10, 181, 0, 21, 177]
abbrev dktX2_init_1 : List UInt8 := dkwX2_init_1 ++ []
def dkwX2_init_0 : List UInt8 := [42, 183, 0, 3, 42, 7, 188, 10, 181, 0, 9, 42, 7, 188, 10, 181, 0, 15, 42, 7, 188, 10]
abbrev dktX2_init_0 : List UInt8 := dkwX2_init_0 ++ dktX2_init_1
theorem dksX2_init_0 : cX2_init.data.toList.drop 0 = dktX2_init_0 := by decide +kernel
theorem dksX2_init_1 : cX2_init.data.toList.drop 22 = dktX2_init_1 := dk_seg dksX2_init_0 22 rfl rfl
theorem dX2_init_0 : decode cX2_init 0 = .ok (.aload_n 0, 1) := dk_42 (dk_at dksX2_init_0 0 rfl rfl)
theorem dX2_init_1 : decode cX2_init 1 = .ok (.invokespecial 3, 3) := dk_183 0 3 (dk_at dksX2_init_0 1 rfl rfl)
theorem dX2_init_4 : decode cX2_init 4 = .ok (.aload_n 0, 1) := dk_42 (dk_at dksX2_init_0 4 rfl rfl)
theorem dX2_init_5 : decode cX2_init 5 = .ok (.iconst 4, 1) := dk_7 (dk_at dksX2_init_0 5 rfl rfl)
theorem dX2_init_6 : decode cX2_init 6 = .ok (.newarray .int, 2) := dk_188_10 (dk_at dksX2_init_0 6 rfl rfl)
theorem dX2_init_8 : decode cX2_init 8 = .ok (.putfield 9, 3) := dk_181 0 9 (dk_at dksX2_init_0 8 rfl rfl)
theorem dX2_init_11 : decode cX2_init 11 = .ok (.aload_n 0, 1) := dk_42 (dk_at dksX2_init_0 11 rfl rfl)
theorem dX2_init_12 : decode cX2_init 12 = .ok (.iconst 4, 1) := dk_7 (dk_at dksX2_init_0 12 rfl rfl)
theorem dX2_init_13 : decode cX2_init 13 = .ok (.newarray .int, 2) := dk_188_10 (dk_at dksX2_init_0 13 rfl rfl)
theorem dX2_init_15 : decode cX2_init 15 = .ok (.putfield 15, 3) := dk_181 0 15 (dk_at dksX2_init_0 15 rfl rfl)
theorem dX2_init_18 : decode cX2_init 18 = .ok (.aload_n 0, 1) := dk_42 (dk_at dksX2_init_0 18 rfl rfl)
theorem dX2_init_19 : decode cX2_init 19 = .ok (.iconst 4, 1) := dk_7 (dk_at dksX2_init_0 19 rfl rfl)
theorem dX2_init_20 : decode cX2_init 20 = .ok (.newarray .int, 2) := dk_188_10 (dk_at dksX2_init_0 20 rfl rfl)
theorem dX2_init_22 : decode cX2_init 22 = .ok (.putfield 18, 3) := dk_181 0 18 (dk_at dksX2_init_1 0 rfl rfl)
theorem dX2_init_25 : decode cX2_init 25 = .ok (.aload_n 0, 1) := dk_42 (dk_at dksX2_init_1 3 rfl rfl)
theorem dX2_init_26 : decode cX2_init 26 = .ok (.bipush 30, 2) := dk_16 30 (dk_at dksX2_init_1 4 rfl rfl)
theorem dX2_init_28 : decode cX2_init 28 = .ok (.newarray .int, 2) := dk_188_10 (dk_at dksX2_init_1 6 rfl rfl)
theorem dX2_init_30 : decode cX2_init 30 = .ok (.putfield 21, 3) := dk_181 0 21 (dk_at dksX2_init_1 8 rfl rfl)
theorem dX2_init_33 : decode cX2_init 33 = .ok (.return_, 1) := dk_177 (dk_at dksX2_init_1 11 rfl rfl)
def dkwX2_becomes_3 : List UInt8 := [181, 0, 34, 177]
abbrev dktX2_becomes_3 : List UInt8 := dkwX2_becomes_3 ++ []
def dkwX2_becomes_2 : List UInt8 := [180, 0, 21, 3, 16, 30, 184, 0, 24, 42, 43, 180, 0, 30, 181, 0, 30, 42, 43, 180, 0, 34]
abbrev dktX2_becomes_2 : List UInt8 := dkwX2_becomes_2 ++ dktX2_becomes_3
def dkwX2_becomes_1 : List UInt8 := [7, 184, 0, 24, 43, 180, 0, 18, 3, 42, 180, 0, 18, 3, 7, 184, 0, 24, 43, 180, 0, 21, 3, 42]
abbrev dktX2_becomes_1 : List UInt8 := dkwX2_becomes_1 ++ dktX2_becomes_2
def dkwX2_becomes_0 : List UInt8 := [43, 180, 0, 9, 3, 42, 180, 0, 9, 3, 7, 184, 0, 24, 43, 180, 0, 15, 3, 42, 180, 0, 15, 3]
abbrev dktX2_becomes_0 : List UInt8 := dkwX2_becomes_0 ++ dktX2_becomes_1
theorem dksX2_becomes_0 : cX2_becomes.data.toList.drop 0 = dktX2_becomes_0 := by decide +kernel
theorem dksX2_becomes_1 : cX2_becomes.data.toList.drop 24 = dktX2_becomes_1 := dk_seg dksX2_becomes_0 24 rfl rfl
theorem dksX2_becomes_2 : cX2_becomes.data.toList.drop 48 = dktX2_becomes_2 := dk_seg dksX2_becomes_1 24 rfl rfl
theorem dksX2_becomes_3 : cX2_becomes.data.toList.drop 70 = dktX2_becomes_3 := dk_seg dksX2_becomes_2 22 rfl rfl
theorem dX2_becomes_0 : decode cX2_becomes 0 = .ok (.aload_n 1, 1) := dk_43 (dk_at dksX2_becomes_0 0 rfl rfl)
theorem dX2_becomes_1 : decode cX2_becomes 1 = .ok (.getfield 9, 3) := dk_180 0 9 (dk_at dksX2_becomes_0 1 rfl rfl)
theorem dX2_becomes_4 : decode cX2_becomes 4 = .ok (.iconst 0, 1) := dk_3 (dk_at dksX2_becomes_0 4 rfl rfl)
theorem dX2_becomes_5 : decode cX2_becomes 5 = .ok (.aload_n 0, 1) := dk_42 (dk_at dksX2_becomes_0 5 rfl rfl)
theorem dX2_becomes_6 : decode cX2_becomes 6 = .ok (.getfield 9, 3) := dk_180 0 9 (dk_at dksX2_becomes_0 6 rfl rfl)
theorem dX2_becomes_9 : decode cX2_becomes 9 = .ok (.iconst 0, 1) := dk_3 (dk_at dksX2_becomes_0 9 rfl rfl)
theorem dX2_becomes_10 : decode cX2_becomes 10 = .ok (.iconst 4, 1) := dk_7 (dk_at dksX2_becomes_0 10 rfl rfl)
theorem dX2_becomes_11 : decode cX2_becomes 11 = .ok (.invokestatic 24, 3) := dk_184 0 24 (dk_at dksX2_becomes_0 11 rfl rfl)
theorem dX2_becomes_14 : decode cX2_becomes 14 = .ok (.aload_n 1, 1) := dk_43 (dk_at dksX2_becomes_0 14 rfl rfl)
theorem dX2_becomes_15 : decode cX2_becomes 15 = .ok (.getfield 15, 3) := dk_180 0 15 (dk_at dksX2_becomes_0 15 rfl rfl)
theorem dX2_becomes_18 : decode cX2_becomes 18 = .ok (.iconst 0, 1) := dk_3 (dk_at dksX2_becomes_0 18 rfl rfl)
theorem dX2_becomes_19 : decode cX2_becomes 19 = .ok (.aload_n 0, 1) := dk_42 (dk_at dksX2_becomes_0 19 rfl rfl)
theorem dX2_becomes_20 : decode cX2_becomes 20 = .ok (.getfield 15, 3) := dk_180 0 15 (dk_at dksX2_becomes_0 20 rfl rfl)
theorem dX2_becomes_23 : decode cX2_becomes 23 = .ok (.iconst 0, 1) := dk_3 (dk_at dksX2_becomes_0 23 rfl rfl)
theorem dX2_becomes_24 : decode cX2_becomes 24 = .ok (.iconst 4, 1) := dk_7 (dk_at dksX2_becomes_1 0 rfl rfl)
theorem dX2_becomes_25 : decode cX2_becomes 25 = .ok (.invokestatic 24, 3) := dk_184 0 24 (dk_at dksX2_becomes_1 1 rfl rfl)
theorem dX2_becomes_28 : decode cX2_becomes 28 = .ok (.aload_n 1, 1) := dk_43 (dk_at dksX2_becomes_1 4 rfl rfl)
theorem dX2_becomes_29 : decode cX2_becomes 29 = .ok (.getfield 18, 3) := dk_180 0 18 (dk_at dksX2_becomes_1 5 rfl rfl)
theorem dX2_becomes_32 : decode cX2_becomes 32 = .ok (.iconst 0, 1) := dk_3 (dk_at dksX2_becomes_1 8 rfl rfl)
theorem dX2_becomes_33 : decode cX2_becomes 33 = .ok (.aload_n 0, 1) := dk_42 (dk_at dksX2_becomes_1 9 rfl rfl)
theorem dX2_becomes_34 : decode cX2_becomes 34 = .ok (.getfield 18, 3) := dk_180 0 18 (dk_at dksX2_becomes_1 10 rfl rfl)
theorem dX2_becomes_37 : decode cX2_becomes 37 = .ok (.iconst 0, 1) := dk_3 (dk_at dksX2_becomes_1 13 rfl rfl)
theorem dX2_becomes_38 : decode cX2_becomes 38 = .ok (.iconst 4, 1) := dk_7 (dk_at dksX2_becomes_1 14 rfl rfl)
theorem dX2_becomes_39 : decode cX2_becomes 39 = .ok (.invokestatic 24, 3) := dk_184 0 24 (dk_at dksX2_becomes_1 15 rfl rfl)
theorem dX2_becomes_42 : decode cX2_becomes 42 = .ok (.aload_n 1, 1) := dk_43 (dk_at dksX2_becomes_1 18 rfl rfl)
theorem dX2_becomes_43 : decode cX2_becomes 43 = .ok (.getfield 21, 3) := dk_180 0 21 (dk_at dksX2_becomes_1 19 rfl rfl)
theorem dX2_becomes_46 : decode cX2_becomes 46 = .ok (.iconst 0, 1) := dk_3 (dk_at dksX2_becomes_1 22 rfl rfl)
theorem dX2_becomes_47 : decode cX2_becomes 47 = .ok (.aload_n 0, 1) := dk_42 (dk_at dksX2_becomes_1 23 rfl rfl)
theorem dX2_becomes_48 : decode cX2_becomes 48 = .ok (.getfield 21, 3) := dk_180 0 21 (dk_at dksX2_becomes_2 0 rfl rfl)
theorem dX2_becomes_51 : decode cX2_becomes 51 = .ok (.iconst 0, 1) := dk_3 (dk_at dksX2_becomes_2 3 rfl rfl)
theorem dX2_becomes_52 : decode cX2_becomes 52 = .ok (.bipush 30, 2) := dk_16 30 (dk_at dksX2_becomes_2 4 rfl rfl)
theorem dX2_becomes_54 : decode cX2_becomes 54 = .ok (.invokestatic 24, 3) := dk_184 0 24 (dk_at dksX2_becomes_2 6 rfl rfl)
theorem dX2_becomes_57 : decode cX2_becomes 57 = .ok (.aload_n 0, 1) := dk_42 (dk_at dksX2_becomes_2 9 rfl rfl)
theorem dX2_becomes_58 : decode cX2_becomes 58 = .ok (.aload_n 1, 1) := dk_43 (dk_at dksX2_becomes_2 10 rfl rfl)
theorem dX2_becomes_59 : decode cX2_becomes 59 = .ok (.getfield 30, 3) := dk_180 0 30 (dk_at dksX2_becomes_2 11 rfl rfl)
theorem dX2_becomes_62 : decode cX2_becomes 62 = .ok (.putfield 30, 3) := dk_181 0 30 (dk_at dksX2_becomes_2 14 rfl rfl)
theorem dX2_becomes_65 : decode cX2_becomes 65 = .ok (.aload_n 0, 1) := dk_42 (dk_at dksX2_becomes_2 17 rfl rfl)
theorem dX2_becomes_66 : decode cX2_becomes 66 = .ok (.aload_n 1, 1) := dk_43 (dk_at dksX2_becomes_2 18 rfl rfl)
theorem dX2_becomes_67 : decode cX2_becomes 67 = .ok (.getfield 34, 3) := dk_180 0 34 (dk_at dksX2_becomes_2 19 rfl rfl)
theorem dX2_becomes_70 : decode cX2_becomes 70 = .ok (.putfield 34, 3) := dk_181 0 34 (dk_at dksX2_becomes_3 0 rfl rfl)
theorem dX2_becomes_73 : decode cX2_becomes 73 = .ok (.return_, 1) := dk_177 (dk_at dksX2_becomes_3 3 rfl rfl)
def dkwX2_pays_0 : List UInt8 := [42, 180, 0, 15, 27, 92, 46, 28, 100, 79, 42, 180, 0, 18, 27, 92, 46, 28, 96, 79, 177]
abbrev dktX2_pays_0 : List UInt8 := dkwX2_pays_0 ++ []
theorem dksX2_pays_0 : cX2_pays.data.toList.drop 0 = dktX2_pays_0 := by decide +kernel
theorem dX2_pays_0 : decode cX2_pays 0 = .ok (.aload_n 0, 1) := dk_42 (dk_at dksX2_pays_0 0 rfl rfl)
theorem dX2_pays_1 : decode cX2_pays 1 = .ok (.getfield 15, 3) := dk_180 0 15 (dk_at dksX2_pays_0 1 rfl rfl)
theorem dX2_pays_4 : decode cX2_pays 4 = .ok (.iload_n 1, 1) := dk_27 (dk_at dksX2_pays_0 4 rfl rfl)
theorem dX2_pays_5 : decode cX2_pays 5 = .ok (.dup2, 1) := dk_92 (dk_at dksX2_pays_0 5 rfl rfl)
theorem dX2_pays_6 : decode cX2_pays 6 = .ok (.iaload, 1) := dk_46 (dk_at dksX2_pays_0 6 rfl rfl)
theorem dX2_pays_7 : decode cX2_pays 7 = .ok (.iload_n 2, 1) := dk_28 (dk_at dksX2_pays_0 7 rfl rfl)
theorem dX2_pays_8 : decode cX2_pays 8 = .ok (.isub, 1) := dk_100 (dk_at dksX2_pays_0 8 rfl rfl)
theorem dX2_pays_9 : decode cX2_pays 9 = .ok (.iastore, 1) := dk_79 (dk_at dksX2_pays_0 9 rfl rfl)
theorem dX2_pays_10 : decode cX2_pays 10 = .ok (.aload_n 0, 1) := dk_42 (dk_at dksX2_pays_0 10 rfl rfl)
theorem dX2_pays_11 : decode cX2_pays 11 = .ok (.getfield 18, 3) := dk_180 0 18 (dk_at dksX2_pays_0 11 rfl rfl)
theorem dX2_pays_14 : decode cX2_pays 14 = .ok (.iload_n 1, 1) := dk_27 (dk_at dksX2_pays_0 14 rfl rfl)
theorem dX2_pays_15 : decode cX2_pays 15 = .ok (.dup2, 1) := dk_92 (dk_at dksX2_pays_0 15 rfl rfl)
theorem dX2_pays_16 : decode cX2_pays 16 = .ok (.iaload, 1) := dk_46 (dk_at dksX2_pays_0 16 rfl rfl)
theorem dX2_pays_17 : decode cX2_pays 17 = .ok (.iload_n 2, 1) := dk_28 (dk_at dksX2_pays_0 17 rfl rfl)
theorem dX2_pays_18 : decode cX2_pays 18 = .ok (.iadd, 1) := dk_96 (dk_at dksX2_pays_0 18 rfl rfl)
theorem dX2_pays_19 : decode cX2_pays 19 = .ok (.iastore, 1) := dk_79 (dk_at dksX2_pays_0 19 rfl rfl)
theorem dX2_pays_20 : decode cX2_pays 20 = .ok (.return_, 1) := dk_177 (dk_at dksX2_pays_0 20 rfl rfl)
def dkwX2_hears_0 : List UInt8 := [42, 180, 0, 21, 8, 27, 104, 28, 96, 92, 46, 4, 96, 79, 177]
abbrev dktX2_hears_0 : List UInt8 := dkwX2_hears_0 ++ []
theorem dksX2_hears_0 : cX2_hears.data.toList.drop 0 = dktX2_hears_0 := by decide +kernel
theorem dX2_hears_0 : decode cX2_hears 0 = .ok (.aload_n 0, 1) := dk_42 (dk_at dksX2_hears_0 0 rfl rfl)
theorem dX2_hears_1 : decode cX2_hears 1 = .ok (.getfield 21, 3) := dk_180 0 21 (dk_at dksX2_hears_0 1 rfl rfl)
theorem dX2_hears_4 : decode cX2_hears 4 = .ok (.iconst 5, 1) := dk_8 (dk_at dksX2_hears_0 4 rfl rfl)
theorem dX2_hears_5 : decode cX2_hears 5 = .ok (.iload_n 1, 1) := dk_27 (dk_at dksX2_hears_0 5 rfl rfl)
theorem dX2_hears_6 : decode cX2_hears 6 = .ok (.imul, 1) := dk_104 (dk_at dksX2_hears_0 6 rfl rfl)
theorem dX2_hears_7 : decode cX2_hears 7 = .ok (.iload_n 2, 1) := dk_28 (dk_at dksX2_hears_0 7 rfl rfl)
theorem dX2_hears_8 : decode cX2_hears 8 = .ok (.iadd, 1) := dk_96 (dk_at dksX2_hears_0 8 rfl rfl)
theorem dX2_hears_9 : decode cX2_hears 9 = .ok (.dup2, 1) := dk_92 (dk_at dksX2_hears_0 9 rfl rfl)
theorem dX2_hears_10 : decode cX2_hears 10 = .ok (.iaload, 1) := dk_46 (dk_at dksX2_hears_0 10 rfl rfl)
theorem dX2_hears_11 : decode cX2_hears 11 = .ok (.iconst 1, 1) := dk_4 (dk_at dksX2_hears_0 11 rfl rfl)
theorem dX2_hears_12 : decode cX2_hears 12 = .ok (.iadd, 1) := dk_96 (dk_at dksX2_hears_0 12 rfl rfl)
theorem dX2_hears_13 : decode cX2_hears 13 = .ok (.iastore, 1) := dk_79 (dk_at dksX2_hears_0 13 rfl rfl)
theorem dX2_hears_14 : decode cX2_hears 14 = .ok (.return_, 1) := dk_177 (dk_at dksX2_hears_0 14 rfl rfl)
def dkwX2_heardInAll_1 : List UInt8 := [167, 255, 238, 27, 172]
abbrev dktX2_heardInAll_1 : List UInt8 := dkwX2_heardInAll_1 ++ []
def dkwX2_heardInAll_0 : List UInt8 := [3, 60, 3, 61, 28, 16, 30, 162, 0, 18, 27, 42, 180, 0, 21, 28, 46, 96, 60, 132, 2, 1]
abbrev dktX2_heardInAll_0 : List UInt8 := dkwX2_heardInAll_0 ++ dktX2_heardInAll_1
theorem dksX2_heardInAll_0 : cX2_heardInAll.data.toList.drop 0 = dktX2_heardInAll_0 := by decide +kernel
theorem dksX2_heardInAll_1 : cX2_heardInAll.data.toList.drop 22 = dktX2_heardInAll_1 := dk_seg dksX2_heardInAll_0 22 rfl rfl
theorem dX2_heardInAll_0 : decode cX2_heardInAll 0 = .ok (.iconst 0, 1) := dk_3 (dk_at dksX2_heardInAll_0 0 rfl rfl)
theorem dX2_heardInAll_1 : decode cX2_heardInAll 1 = .ok (.istore_n 1, 1) := dk_60 (dk_at dksX2_heardInAll_0 1 rfl rfl)
theorem dX2_heardInAll_2 : decode cX2_heardInAll 2 = .ok (.iconst 0, 1) := dk_3 (dk_at dksX2_heardInAll_0 2 rfl rfl)
theorem dX2_heardInAll_3 : decode cX2_heardInAll 3 = .ok (.istore_n 2, 1) := dk_61 (dk_at dksX2_heardInAll_0 3 rfl rfl)
theorem dX2_heardInAll_4 : decode cX2_heardInAll 4 = .ok (.iload_n 2, 1) := dk_28 (dk_at dksX2_heardInAll_0 4 rfl rfl)
theorem dX2_heardInAll_5 : decode cX2_heardInAll 5 = .ok (.bipush 30, 2) := dk_16 30 (dk_at dksX2_heardInAll_0 5 rfl rfl)
theorem dX2_heardInAll_7 : decode cX2_heardInAll 7 = .ok (.if_icmp .ge 18, 3) := dk_162 0 18 (dk_at dksX2_heardInAll_0 7 rfl rfl)
theorem dX2_heardInAll_10 : decode cX2_heardInAll 10 = .ok (.iload_n 1, 1) := dk_27 (dk_at dksX2_heardInAll_0 10 rfl rfl)
theorem dX2_heardInAll_11 : decode cX2_heardInAll 11 = .ok (.aload_n 0, 1) := dk_42 (dk_at dksX2_heardInAll_0 11 rfl rfl)
theorem dX2_heardInAll_12 : decode cX2_heardInAll 12 = .ok (.getfield 21, 3) := dk_180 0 21 (dk_at dksX2_heardInAll_0 12 rfl rfl)
theorem dX2_heardInAll_15 : decode cX2_heardInAll 15 = .ok (.iload_n 2, 1) := dk_28 (dk_at dksX2_heardInAll_0 15 rfl rfl)
theorem dX2_heardInAll_16 : decode cX2_heardInAll 16 = .ok (.iaload, 1) := dk_46 (dk_at dksX2_heardInAll_0 16 rfl rfl)
theorem dX2_heardInAll_17 : decode cX2_heardInAll 17 = .ok (.iadd, 1) := dk_96 (dk_at dksX2_heardInAll_0 17 rfl rfl)
theorem dX2_heardInAll_18 : decode cX2_heardInAll 18 = .ok (.istore_n 1, 1) := dk_60 (dk_at dksX2_heardInAll_0 18 rfl rfl)
theorem dX2_heardInAll_19 : decode cX2_heardInAll 19 = .ok (.iinc 2 1, 3) := dk_132 2 1 (dk_at dksX2_heardInAll_0 19 rfl rfl)
theorem dX2_heardInAll_22 : decode cX2_heardInAll 22 = .ok (.goto (-18), 3) := dk_167 255 238 (dk_at dksX2_heardInAll_1 0 rfl rfl)
theorem dX2_heardInAll_25 : decode cX2_heardInAll 25 = .ok (.iload_n 1, 1) := dk_27 (dk_at dksX2_heardInAll_1 3 rfl rfl)
theorem dX2_heardInAll_26 : decode cX2_heardInAll 26 = .ok (.ireturn, 1) := dk_172 (dk_at dksX2_heardInAll_1 4 rfl rfl)
def dkwX4_init_0 : List UInt8 := [42, 43, 181, 0, 1, 42, 183, 0, 7, 177]
abbrev dktX4_init_0 : List UInt8 := dkwX4_init_0 ++ []
theorem dksX4_init_0 : cX4_init.data.toList.drop 0 = dktX4_init_0 := by decide +kernel
theorem dX4_init_0 : decode cX4_init 0 = .ok (.aload_n 0, 1) := dk_42 (dk_at dksX4_init_0 0 rfl rfl)
theorem dX4_init_1 : decode cX4_init 1 = .ok (.aload_n 1, 1) := dk_43 (dk_at dksX4_init_0 1 rfl rfl)
theorem dX4_init_2 : decode cX4_init 2 = .ok (.putfield 1, 3) := dk_181 0 1 (dk_at dksX4_init_0 2 rfl rfl)
theorem dX4_init_5 : decode cX4_init 5 = .ok (.aload_n 0, 1) := dk_42 (dk_at dksX4_init_0 5 rfl rfl)
theorem dX4_init_6 : decode cX4_init 6 = .ok (.invokespecial 7, 3) := dk_183 0 7 (dk_at dksX4_init_0 6 rfl rfl)
theorem dX4_init_9 : decode cX4_init 9 = .ok (.return_, 1) := dk_177 (dk_at dksX4_init_0 9 rfl rfl)
def dkwX5_init_0 : List UInt8 := [42, 43, 181, 0, 1, 42, 43, 183, 0, 7, 42, 44, 181, 0, 13, 177]
abbrev dktX5_init_0 : List UInt8 := dkwX5_init_0 ++ []
theorem dksX5_init_0 : cX5_init.data.toList.drop 0 = dktX5_init_0 := by decide +kernel
theorem dX5_init_0 : decode cX5_init 0 = .ok (.aload_n 0, 1) := dk_42 (dk_at dksX5_init_0 0 rfl rfl)
theorem dX5_init_1 : decode cX5_init 1 = .ok (.aload_n 1, 1) := dk_43 (dk_at dksX5_init_0 1 rfl rfl)
theorem dX5_init_2 : decode cX5_init 2 = .ok (.putfield 1, 3) := dk_181 0 1 (dk_at dksX5_init_0 2 rfl rfl)
theorem dX5_init_5 : decode cX5_init 5 = .ok (.aload_n 0, 1) := dk_42 (dk_at dksX5_init_0 5 rfl rfl)
theorem dX5_init_6 : decode cX5_init 6 = .ok (.aload_n 1, 1) := dk_43 (dk_at dksX5_init_0 6 rfl rfl)
theorem dX5_init_7 : decode cX5_init 7 = .ok (.invokespecial 7, 3) := dk_183 0 7 (dk_at dksX5_init_0 7 rfl rfl)
theorem dX5_init_10 : decode cX5_init 10 = .ok (.aload_n 0, 1) := dk_42 (dk_at dksX5_init_0 10 rfl rfl)
theorem dX5_init_11 : decode cX5_init 11 = .ok (.aload_n 2, 1) := dk_44 (dk_at dksX5_init_0 11 rfl rfl)
theorem dX5_init_12 : decode cX5_init 12 = .ok (.putfield 13, 3) := dk_181 0 13 (dk_at dksX5_init_0 12 rfl rfl)
theorem dX5_init_15 : decode cX5_init 15 = .ok (.return_, 1) := dk_177 (dk_at dksX5_init_0 15 rfl rfl)
def dkwX5_value_0 : List UInt8 := [42, 180, 0, 13, 182, 0, 17, 116, 172]
abbrev dktX5_value_0 : List UInt8 := dkwX5_value_0 ++ []
theorem dksX5_value_0 : cX5_value.data.toList.drop 0 = dktX5_value_0 := by decide +kernel
theorem dX5_value_0 : decode cX5_value 0 = .ok (.aload_n 0, 1) := dk_42 (dk_at dksX5_value_0 0 rfl rfl)
theorem dX5_value_1 : decode cX5_value 1 = .ok (.getfield 13, 3) := dk_180 0 13 (dk_at dksX5_value_0 1 rfl rfl)
theorem dX5_value_4 : decode cX5_value 4 = .ok (.invokevirtual 17, 3) := dk_182 0 17 (dk_at dksX5_value_0 4 rfl rfl)
theorem dX5_value_7 : decode cX5_value 7 = .ok (.ineg, 1) := dk_116 (dk_at dksX5_value_0 7 rfl rfl)
theorem dX5_value_8 : decode cX5_value 8 = .ok (.ireturn, 1) := dk_172 (dk_at dksX5_value_0 8 rfl rfl)
def dkwX6_init_0 : List UInt8 := [42, 43, 181, 0, 1, 42, 43, 183, 0, 7, 42, 28, 181, 0, 13, 177]
abbrev dktX6_init_0 : List UInt8 := dkwX6_init_0 ++ []
theorem dksX6_init_0 : cX6_init.data.toList.drop 0 = dktX6_init_0 := by decide +kernel
theorem dX6_init_0 : decode cX6_init 0 = .ok (.aload_n 0, 1) := dk_42 (dk_at dksX6_init_0 0 rfl rfl)
theorem dX6_init_1 : decode cX6_init 1 = .ok (.aload_n 1, 1) := dk_43 (dk_at dksX6_init_0 1 rfl rfl)
theorem dX6_init_2 : decode cX6_init 2 = .ok (.putfield 1, 3) := dk_181 0 1 (dk_at dksX6_init_0 2 rfl rfl)
theorem dX6_init_5 : decode cX6_init 5 = .ok (.aload_n 0, 1) := dk_42 (dk_at dksX6_init_0 5 rfl rfl)
theorem dX6_init_6 : decode cX6_init 6 = .ok (.aload_n 1, 1) := dk_43 (dk_at dksX6_init_0 6 rfl rfl)
theorem dX6_init_7 : decode cX6_init 7 = .ok (.invokespecial 7, 3) := dk_183 0 7 (dk_at dksX6_init_0 7 rfl rfl)
theorem dX6_init_10 : decode cX6_init 10 = .ok (.aload_n 0, 1) := dk_42 (dk_at dksX6_init_0 10 rfl rfl)
theorem dX6_init_11 : decode cX6_init 11 = .ok (.iload_n 2, 1) := dk_28 (dk_at dksX6_init_0 11 rfl rfl)
theorem dX6_init_12 : decode cX6_init 12 = .ok (.putfield 13, 3) := dk_181 0 13 (dk_at dksX6_init_0 12 rfl rfl)
theorem dX6_init_15 : decode cX6_init 15 = .ok (.return_, 1) := dk_177 (dk_at dksX6_init_0 15 rfl rfl)
theorem dX6_value_0 : decode cX6_value 0 = .ok (.aload_n 0, 1) := by decide +kernel
theorem dX6_value_1 : decode cX6_value 1 = .ok (.getfield 13, 3) := by decide +kernel
theorem dX6_value_4 : decode cX6_value 4 = .ok (.ireturn, 1) := by decide +kernel
def dkwX7_init_0 : List UInt8 := [42, 43, 181, 0, 1, 42, 43, 183, 0, 7, 42, 28, 181, 0, 13, 177]
abbrev dktX7_init_0 : List UInt8 := dkwX7_init_0 ++ []
theorem dksX7_init_0 : cX7_init.data.toList.drop 0 = dktX7_init_0 := by decide +kernel
theorem dX7_init_0 : decode cX7_init 0 = .ok (.aload_n 0, 1) := dk_42 (dk_at dksX7_init_0 0 rfl rfl)
theorem dX7_init_1 : decode cX7_init 1 = .ok (.aload_n 1, 1) := dk_43 (dk_at dksX7_init_0 1 rfl rfl)
theorem dX7_init_2 : decode cX7_init 2 = .ok (.putfield 1, 3) := dk_181 0 1 (dk_at dksX7_init_0 2 rfl rfl)
theorem dX7_init_5 : decode cX7_init 5 = .ok (.aload_n 0, 1) := dk_42 (dk_at dksX7_init_0 5 rfl rfl)
theorem dX7_init_6 : decode cX7_init 6 = .ok (.aload_n 1, 1) := dk_43 (dk_at dksX7_init_0 6 rfl rfl)
theorem dX7_init_7 : decode cX7_init 7 = .ok (.invokespecial 7, 3) := dk_183 0 7 (dk_at dksX7_init_0 7 rfl rfl)
theorem dX7_init_10 : decode cX7_init 10 = .ok (.aload_n 0, 1) := dk_42 (dk_at dksX7_init_0 10 rfl rfl)
theorem dX7_init_11 : decode cX7_init 11 = .ok (.iload_n 2, 1) := dk_28 (dk_at dksX7_init_0 11 rfl rfl)
theorem dX7_init_12 : decode cX7_init 12 = .ok (.putfield 13, 3) := dk_181 0 13 (dk_at dksX7_init_0 12 rfl rfl)
theorem dX7_init_15 : decode cX7_init 15 = .ok (.return_, 1) := dk_177 (dk_at dksX7_init_0 15 rfl rfl)
def dkwX7_value_4 : List UInt8 := [42, 180, 0, 1, 180, 0, 37, 172]
abbrev dktX7_value_4 : List UInt8 := dkwX7_value_4 ++ []
def dkwX7_value_3 : List UInt8 := [42, 180, 0, 1, 180, 0, 28, 172, 42, 180, 0, 1, 180, 0, 31, 172, 42, 180, 0, 1, 180, 0, 34, 172]
abbrev dktX7_value_3 : List UInt8 := dkwX7_value_3 ++ dktX7_value_4
def dkwX7_value_2 : List UInt8 := [42, 180, 0, 1, 180, 0, 17, 172, 42, 180, 0, 1, 180, 0, 22, 172, 42, 180, 0, 1, 180, 0, 25, 172]
abbrev dktX7_value_2 : List UInt8 := dkwX7_value_2 ++ dktX7_value_3
def dkwX7_value_1 : List UInt8 := [170, 0, 0, 0, 0, 0, 0, 124, 0, 0, 0, 104, 0, 0, 0, 118, 0, 0, 0, 92, 0, 0, 0, 124, 0, 0, 0, 124, 0, 0, 0, 124, 0, 0, 0, 100, 0, 0, 0, 124, 0, 0, 0, 116, 0, 0, 0, 124, 0, 0, 0, 108, 0, 0, 0, 124, 0, 0, 0, 124, 0, 0, 0, 84, 0, 0, 0, 124, 0, 0, 0, 124, 0, 0, 0, 76]
abbrev dktX7_value_1 : List UInt8 := dkwX7_value_1 ++ dktX7_value_2
def dkwX7_value_0 : List UInt8 := [42, 180, 0, 13]
abbrev dktX7_value_0 : List UInt8 := dkwX7_value_0 ++ dktX7_value_1
theorem dksX7_value_0 : cX7_value.data.toList.drop 0 = dktX7_value_0 := by decide +kernel
theorem dksX7_value_1 : cX7_value.data.toList.drop 4 = dktX7_value_1 := dk_seg dksX7_value_0 4 rfl rfl
theorem dksX7_value_2 : cX7_value.data.toList.drop 80 = dktX7_value_2 := dk_seg dksX7_value_1 76 rfl rfl
theorem dksX7_value_3 : cX7_value.data.toList.drop 104 = dktX7_value_3 := dk_seg dksX7_value_2 24 rfl rfl
theorem dksX7_value_4 : cX7_value.data.toList.drop 128 = dktX7_value_4 := dk_seg dksX7_value_3 24 rfl rfl
theorem dX7_value_0 : decode cX7_value 0 = .ok (.aload_n 0, 1) := dk_42 (dk_at dksX7_value_0 0 rfl rfl)
theorem dX7_value_1 : decode cX7_value 1 = .ok (.getfield 13, 3) := dk_180 0 13 (dk_at dksX7_value_0 1 rfl rfl)
theorem dX7_value_4 : decode cX7_value 4 = .ok (.tableswitch 124 104 118 #[92, 124, 124, 124, 100, 124, 116, 124, 108, 124, 124, 84, 124, 124, 76], 76) := by decide +kernel
theorem dX7_value_80 : decode cX7_value 80 = .ok (.aload_n 0, 1) := dk_42 (dk_at dksX7_value_2 0 rfl rfl)
theorem dX7_value_81 : decode cX7_value 81 = .ok (.getfield 1, 3) := dk_180 0 1 (dk_at dksX7_value_2 1 rfl rfl)
theorem dX7_value_84 : decode cX7_value 84 = .ok (.getfield 17, 3) := dk_180 0 17 (dk_at dksX7_value_2 4 rfl rfl)
theorem dX7_value_87 : decode cX7_value 87 = .ok (.ireturn, 1) := dk_172 (dk_at dksX7_value_2 7 rfl rfl)
theorem dX7_value_88 : decode cX7_value 88 = .ok (.aload_n 0, 1) := dk_42 (dk_at dksX7_value_2 8 rfl rfl)
theorem dX7_value_89 : decode cX7_value 89 = .ok (.getfield 1, 3) := dk_180 0 1 (dk_at dksX7_value_2 9 rfl rfl)
theorem dX7_value_92 : decode cX7_value 92 = .ok (.getfield 22, 3) := dk_180 0 22 (dk_at dksX7_value_2 12 rfl rfl)
theorem dX7_value_95 : decode cX7_value 95 = .ok (.ireturn, 1) := dk_172 (dk_at dksX7_value_2 15 rfl rfl)
theorem dX7_value_96 : decode cX7_value 96 = .ok (.aload_n 0, 1) := dk_42 (dk_at dksX7_value_2 16 rfl rfl)
theorem dX7_value_97 : decode cX7_value 97 = .ok (.getfield 1, 3) := dk_180 0 1 (dk_at dksX7_value_2 17 rfl rfl)
theorem dX7_value_100 : decode cX7_value 100 = .ok (.getfield 25, 3) := dk_180 0 25 (dk_at dksX7_value_2 20 rfl rfl)
theorem dX7_value_103 : decode cX7_value 103 = .ok (.ireturn, 1) := dk_172 (dk_at dksX7_value_2 23 rfl rfl)
theorem dX7_value_104 : decode cX7_value 104 = .ok (.aload_n 0, 1) := dk_42 (dk_at dksX7_value_3 0 rfl rfl)
theorem dX7_value_105 : decode cX7_value 105 = .ok (.getfield 1, 3) := dk_180 0 1 (dk_at dksX7_value_3 1 rfl rfl)
theorem dX7_value_108 : decode cX7_value 108 = .ok (.getfield 28, 3) := dk_180 0 28 (dk_at dksX7_value_3 4 rfl rfl)
theorem dX7_value_111 : decode cX7_value 111 = .ok (.ireturn, 1) := dk_172 (dk_at dksX7_value_3 7 rfl rfl)
theorem dX7_value_112 : decode cX7_value 112 = .ok (.aload_n 0, 1) := dk_42 (dk_at dksX7_value_3 8 rfl rfl)
theorem dX7_value_113 : decode cX7_value 113 = .ok (.getfield 1, 3) := dk_180 0 1 (dk_at dksX7_value_3 9 rfl rfl)
theorem dX7_value_116 : decode cX7_value 116 = .ok (.getfield 31, 3) := dk_180 0 31 (dk_at dksX7_value_3 12 rfl rfl)
theorem dX7_value_119 : decode cX7_value 119 = .ok (.ireturn, 1) := dk_172 (dk_at dksX7_value_3 15 rfl rfl)
theorem dX7_value_120 : decode cX7_value 120 = .ok (.aload_n 0, 1) := dk_42 (dk_at dksX7_value_3 16 rfl rfl)
theorem dX7_value_121 : decode cX7_value 121 = .ok (.getfield 1, 3) := dk_180 0 1 (dk_at dksX7_value_3 17 rfl rfl)
theorem dX7_value_124 : decode cX7_value 124 = .ok (.getfield 34, 3) := dk_180 0 34 (dk_at dksX7_value_3 20 rfl rfl)
theorem dX7_value_127 : decode cX7_value 127 = .ok (.ireturn, 1) := dk_172 (dk_at dksX7_value_3 23 rfl rfl)
theorem dX7_value_128 : decode cX7_value 128 = .ok (.aload_n 0, 1) := dk_42 (dk_at dksX7_value_4 0 rfl rfl)
theorem dX7_value_129 : decode cX7_value 129 = .ok (.getfield 1, 3) := dk_180 0 1 (dk_at dksX7_value_4 1 rfl rfl)
theorem dX7_value_132 : decode cX7_value 132 = .ok (.getfield 37, 3) := dk_180 0 37 (dk_at dksX7_value_4 4 rfl rfl)
theorem dX7_value_135 : decode cX7_value 135 = .ok (.ireturn, 1) := dk_172 (dk_at dksX7_value_4 7 rfl rfl)
def dkwX8_init_1 : List UInt8 := [181, 0, 21, 177]
abbrev dktX8_init_1 : List UInt8 := dkwX8_init_1 ++ []
def dkwX8_init_0 : List UInt8 := [42, 43, 181, 0, 1, 42, 43, 183, 0, 7, 42, 28, 181, 0, 13, 42, 45, 181, 0, 17, 42, 25, 4]
abbrev dktX8_init_0 : List UInt8 := dkwX8_init_0 ++ dktX8_init_1
theorem dksX8_init_0 : cX8_init.data.toList.drop 0 = dktX8_init_0 := by decide +kernel
theorem dksX8_init_1 : cX8_init.data.toList.drop 23 = dktX8_init_1 := dk_seg dksX8_init_0 23 rfl rfl
theorem dX8_init_0 : decode cX8_init 0 = .ok (.aload_n 0, 1) := dk_42 (dk_at dksX8_init_0 0 rfl rfl)
theorem dX8_init_1 : decode cX8_init 1 = .ok (.aload_n 1, 1) := dk_43 (dk_at dksX8_init_0 1 rfl rfl)
theorem dX8_init_2 : decode cX8_init 2 = .ok (.putfield 1, 3) := dk_181 0 1 (dk_at dksX8_init_0 2 rfl rfl)
theorem dX8_init_5 : decode cX8_init 5 = .ok (.aload_n 0, 1) := dk_42 (dk_at dksX8_init_0 5 rfl rfl)
theorem dX8_init_6 : decode cX8_init 6 = .ok (.aload_n 1, 1) := dk_43 (dk_at dksX8_init_0 6 rfl rfl)
theorem dX8_init_7 : decode cX8_init 7 = .ok (.invokespecial 7, 3) := dk_183 0 7 (dk_at dksX8_init_0 7 rfl rfl)
theorem dX8_init_10 : decode cX8_init 10 = .ok (.aload_n 0, 1) := dk_42 (dk_at dksX8_init_0 10 rfl rfl)
theorem dX8_init_11 : decode cX8_init 11 = .ok (.iload_n 2, 1) := dk_28 (dk_at dksX8_init_0 11 rfl rfl)
theorem dX8_init_12 : decode cX8_init 12 = .ok (.putfield 13, 3) := dk_181 0 13 (dk_at dksX8_init_0 12 rfl rfl)
theorem dX8_init_15 : decode cX8_init 15 = .ok (.aload_n 0, 1) := dk_42 (dk_at dksX8_init_0 15 rfl rfl)
theorem dX8_init_16 : decode cX8_init 16 = .ok (.aload_n 3, 1) := dk_45 (dk_at dksX8_init_0 16 rfl rfl)
theorem dX8_init_17 : decode cX8_init 17 = .ok (.putfield 17, 3) := dk_181 0 17 (dk_at dksX8_init_0 17 rfl rfl)
theorem dX8_init_20 : decode cX8_init 20 = .ok (.aload_n 0, 1) := dk_42 (dk_at dksX8_init_0 20 rfl rfl)
theorem dX8_init_21 : decode cX8_init 21 = .ok (.aload 4, 2) := dk_25 4 (dk_at dksX8_init_0 21 rfl rfl)
theorem dX8_init_23 : decode cX8_init 23 = .ok (.putfield 21, 3) := dk_181 0 21 (dk_at dksX8_init_1 0 rfl rfl)
theorem dX8_init_26 : decode cX8_init 26 = .ok (.return_, 1) := dk_177 (dk_at dksX8_init_1 3 rfl rfl)
def dkwX8_value_4 : List UInt8 := [160, 0, 7, 4, 167, 0, 4, 3, 172]
abbrev dktX8_value_4 : List UInt8 := dkwX8_value_4 ++ []
def dkwX8_value_3 : List UInt8 := [27, 28, 162, 0, 7, 4, 167, 0, 4, 3, 172, 27, 28, 164, 0, 7, 4, 167, 0, 4, 3, 172, 27, 28]
abbrev dktX8_value_3 : List UInt8 := dkwX8_value_3 ++ dktX8_value_4
def dkwX8_value_2 : List UInt8 := [27, 28, 96, 172, 27, 28, 100, 172, 27, 28, 104, 172, 28, 154, 0, 7, 3, 167, 0, 6, 27, 28, 108, 172]
abbrev dktX8_value_2 : List UInt8 := dkwX8_value_2 ++ dktX8_value_3
def dkwX8_value_1 : List UInt8 := [171, 0, 0, 0, 0, 0, 0, 106, 0, 0, 0, 6, 0, 0, 0, 42, 0, 0, 0, 68, 0, 0, 0, 43, 0, 0, 0, 60, 0, 0, 0, 45, 0, 0, 0, 64, 0, 0, 0, 47, 0, 0, 0, 72, 0, 0, 0, 60, 0, 0, 0, 84, 0, 0, 0, 62, 0, 0, 0, 95]
abbrev dktX8_value_1 : List UInt8 := dkwX8_value_1 ++ dktX8_value_2
def dkwX8_value_0 : List UInt8 := [42, 180, 0, 17, 182, 0, 24, 60, 42, 180, 0, 21, 182, 0, 24, 61, 42, 180, 0, 13]
abbrev dktX8_value_0 : List UInt8 := dkwX8_value_0 ++ dktX8_value_1
theorem dksX8_value_0 : cX8_value.data.toList.drop 0 = dktX8_value_0 := by decide +kernel
theorem dksX8_value_1 : cX8_value.data.toList.drop 20 = dktX8_value_1 := dk_seg dksX8_value_0 20 rfl rfl
theorem dksX8_value_2 : cX8_value.data.toList.drop 80 = dktX8_value_2 := dk_seg dksX8_value_1 60 rfl rfl
theorem dksX8_value_3 : cX8_value.data.toList.drop 104 = dktX8_value_3 := dk_seg dksX8_value_2 24 rfl rfl
theorem dksX8_value_4 : cX8_value.data.toList.drop 128 = dktX8_value_4 := dk_seg dksX8_value_3 24 rfl rfl
theorem dX8_value_0 : decode cX8_value 0 = .ok (.aload_n 0, 1) := dk_42 (dk_at dksX8_value_0 0 rfl rfl)
theorem dX8_value_1 : decode cX8_value 1 = .ok (.getfield 17, 3) := dk_180 0 17 (dk_at dksX8_value_0 1 rfl rfl)
theorem dX8_value_4 : decode cX8_value 4 = .ok (.invokevirtual 24, 3) := dk_182 0 24 (dk_at dksX8_value_0 4 rfl rfl)
theorem dX8_value_7 : decode cX8_value 7 = .ok (.istore_n 1, 1) := dk_60 (dk_at dksX8_value_0 7 rfl rfl)
theorem dX8_value_8 : decode cX8_value 8 = .ok (.aload_n 0, 1) := dk_42 (dk_at dksX8_value_0 8 rfl rfl)
theorem dX8_value_9 : decode cX8_value 9 = .ok (.getfield 21, 3) := dk_180 0 21 (dk_at dksX8_value_0 9 rfl rfl)
theorem dX8_value_12 : decode cX8_value 12 = .ok (.invokevirtual 24, 3) := dk_182 0 24 (dk_at dksX8_value_0 12 rfl rfl)
theorem dX8_value_15 : decode cX8_value 15 = .ok (.istore_n 2, 1) := dk_61 (dk_at dksX8_value_0 15 rfl rfl)
theorem dX8_value_16 : decode cX8_value 16 = .ok (.aload_n 0, 1) := dk_42 (dk_at dksX8_value_0 16 rfl rfl)
theorem dX8_value_17 : decode cX8_value 17 = .ok (.getfield 13, 3) := dk_180 0 13 (dk_at dksX8_value_0 17 rfl rfl)
theorem dX8_value_20 : decode cX8_value 20 = .ok (.lookupswitch 106 #[(42, 68), (43, 60), (45, 64), (47, 72), (60, 84), (62, 95)], 60) := by decide +kernel
theorem dX8_value_80 : decode cX8_value 80 = .ok (.iload_n 1, 1) := dk_27 (dk_at dksX8_value_2 0 rfl rfl)
theorem dX8_value_81 : decode cX8_value 81 = .ok (.iload_n 2, 1) := dk_28 (dk_at dksX8_value_2 1 rfl rfl)
theorem dX8_value_82 : decode cX8_value 82 = .ok (.iadd, 1) := dk_96 (dk_at dksX8_value_2 2 rfl rfl)
theorem dX8_value_83 : decode cX8_value 83 = .ok (.ireturn, 1) := dk_172 (dk_at dksX8_value_2 3 rfl rfl)
theorem dX8_value_84 : decode cX8_value 84 = .ok (.iload_n 1, 1) := dk_27 (dk_at dksX8_value_2 4 rfl rfl)
theorem dX8_value_85 : decode cX8_value 85 = .ok (.iload_n 2, 1) := dk_28 (dk_at dksX8_value_2 5 rfl rfl)
theorem dX8_value_86 : decode cX8_value 86 = .ok (.isub, 1) := dk_100 (dk_at dksX8_value_2 6 rfl rfl)
theorem dX8_value_87 : decode cX8_value 87 = .ok (.ireturn, 1) := dk_172 (dk_at dksX8_value_2 7 rfl rfl)
theorem dX8_value_88 : decode cX8_value 88 = .ok (.iload_n 1, 1) := dk_27 (dk_at dksX8_value_2 8 rfl rfl)
theorem dX8_value_89 : decode cX8_value 89 = .ok (.iload_n 2, 1) := dk_28 (dk_at dksX8_value_2 9 rfl rfl)
theorem dX8_value_90 : decode cX8_value 90 = .ok (.imul, 1) := dk_104 (dk_at dksX8_value_2 10 rfl rfl)
theorem dX8_value_91 : decode cX8_value 91 = .ok (.ireturn, 1) := dk_172 (dk_at dksX8_value_2 11 rfl rfl)
theorem dX8_value_92 : decode cX8_value 92 = .ok (.iload_n 2, 1) := dk_28 (dk_at dksX8_value_2 12 rfl rfl)
theorem dX8_value_93 : decode cX8_value 93 = .ok (.ifCond .ne 7, 3) := dk_154 0 7 (dk_at dksX8_value_2 13 rfl rfl)
theorem dX8_value_96 : decode cX8_value 96 = .ok (.iconst 0, 1) := dk_3 (dk_at dksX8_value_2 16 rfl rfl)
theorem dX8_value_97 : decode cX8_value 97 = .ok (.goto 6, 3) := dk_167 0 6 (dk_at dksX8_value_2 17 rfl rfl)
theorem dX8_value_100 : decode cX8_value 100 = .ok (.iload_n 1, 1) := dk_27 (dk_at dksX8_value_2 20 rfl rfl)
theorem dX8_value_101 : decode cX8_value 101 = .ok (.iload_n 2, 1) := dk_28 (dk_at dksX8_value_2 21 rfl rfl)
theorem dX8_value_102 : decode cX8_value 102 = .ok (.idiv, 1) := dk_108 (dk_at dksX8_value_2 22 rfl rfl)
theorem dX8_value_103 : decode cX8_value 103 = .ok (.ireturn, 1) := dk_172 (dk_at dksX8_value_2 23 rfl rfl)
theorem dX8_value_104 : decode cX8_value 104 = .ok (.iload_n 1, 1) := dk_27 (dk_at dksX8_value_3 0 rfl rfl)
theorem dX8_value_105 : decode cX8_value 105 = .ok (.iload_n 2, 1) := dk_28 (dk_at dksX8_value_3 1 rfl rfl)
theorem dX8_value_106 : decode cX8_value 106 = .ok (.if_icmp .ge 7, 3) := dk_162 0 7 (dk_at dksX8_value_3 2 rfl rfl)
theorem dX8_value_109 : decode cX8_value 109 = .ok (.iconst 1, 1) := dk_4 (dk_at dksX8_value_3 5 rfl rfl)
theorem dX8_value_110 : decode cX8_value 110 = .ok (.goto 4, 3) := dk_167 0 4 (dk_at dksX8_value_3 6 rfl rfl)
theorem dX8_value_113 : decode cX8_value 113 = .ok (.iconst 0, 1) := dk_3 (dk_at dksX8_value_3 9 rfl rfl)
theorem dX8_value_114 : decode cX8_value 114 = .ok (.ireturn, 1) := dk_172 (dk_at dksX8_value_3 10 rfl rfl)
theorem dX8_value_115 : decode cX8_value 115 = .ok (.iload_n 1, 1) := dk_27 (dk_at dksX8_value_3 11 rfl rfl)
theorem dX8_value_116 : decode cX8_value 116 = .ok (.iload_n 2, 1) := dk_28 (dk_at dksX8_value_3 12 rfl rfl)
theorem dX8_value_117 : decode cX8_value 117 = .ok (.if_icmp .le 7, 3) := dk_164 0 7 (dk_at dksX8_value_3 13 rfl rfl)
theorem dX8_value_120 : decode cX8_value 120 = .ok (.iconst 1, 1) := dk_4 (dk_at dksX8_value_3 16 rfl rfl)
theorem dX8_value_121 : decode cX8_value 121 = .ok (.goto 4, 3) := dk_167 0 4 (dk_at dksX8_value_3 17 rfl rfl)
theorem dX8_value_124 : decode cX8_value 124 = .ok (.iconst 0, 1) := dk_3 (dk_at dksX8_value_3 20 rfl rfl)
theorem dX8_value_125 : decode cX8_value 125 = .ok (.ireturn, 1) := dk_172 (dk_at dksX8_value_3 21 rfl rfl)
theorem dX8_value_126 : decode cX8_value 126 = .ok (.iload_n 1, 1) := dk_27 (dk_at dksX8_value_3 22 rfl rfl)
theorem dX8_value_127 : decode cX8_value 127 = .ok (.iload_n 2, 1) := dk_28 (dk_at dksX8_value_3 23 rfl rfl)
theorem dX8_value_128 : decode cX8_value 128 = .ok (.if_icmp .ne 7, 3) := dk_160 0 7 (dk_at dksX8_value_4 0 rfl rfl)
theorem dX8_value_131 : decode cX8_value 131 = .ok (.iconst 1, 1) := dk_4 (dk_at dksX8_value_4 3 rfl rfl)
theorem dX8_value_132 : decode cX8_value 132 = .ok (.goto 4, 3) := dk_167 0 4 (dk_at dksX8_value_4 4 rfl rfl)
theorem dX8_value_135 : decode cX8_value 135 = .ok (.iconst 0, 1) := dk_3 (dk_at dksX8_value_4 7 rfl rfl)
theorem dX8_value_136 : decode cX8_value 136 = .ok (.ireturn, 1) := dk_172 (dk_at dksX8_value_4 8 rfl rfl)
def dkwX0_word_0 : List UInt8 := [45, 3, 42, 27, 28, 182, 0, 7, 133, 80, 167, 0, 7, 58, 4, 4, 172, 3, 172]
abbrev dktX0_word_0 : List UInt8 := dkwX0_word_0 ++ []
theorem dksX0_word_0 : cX0_word.data.toList.drop 0 = dktX0_word_0 := by decide +kernel
theorem dX0_word_0 : decode cX0_word 0 = .ok (.aload_n 3, 1) := dk_45 (dk_at dksX0_word_0 0 rfl rfl)
theorem dX0_word_1 : decode cX0_word 1 = .ok (.iconst 0, 1) := dk_3 (dk_at dksX0_word_0 1 rfl rfl)
theorem dX0_word_2 : decode cX0_word 2 = .ok (.aload_n 0, 1) := dk_42 (dk_at dksX0_word_0 2 rfl rfl)
theorem dX0_word_3 : decode cX0_word 3 = .ok (.iload_n 1, 1) := dk_27 (dk_at dksX0_word_0 3 rfl rfl)
theorem dX0_word_4 : decode cX0_word 4 = .ok (.iload_n 2, 1) := dk_28 (dk_at dksX0_word_0 4 rfl rfl)
theorem dX0_word_5 : decode cX0_word 5 = .ok (.invokevirtual 7, 3) := dk_182 0 7 (dk_at dksX0_word_0 5 rfl rfl)
theorem dX0_word_8 : decode cX0_word 8 = .ok (.i2l, 1) := dk_133 (dk_at dksX0_word_0 8 rfl rfl)
theorem dX0_word_9 : decode cX0_word 9 = .ok (.lastore, 1) := dk_80 (dk_at dksX0_word_0 9 rfl rfl)
theorem dX0_word_10 : decode cX0_word 10 = .ok (.goto 7, 3) := dk_167 0 7 (dk_at dksX0_word_0 10 rfl rfl)
theorem dX0_word_13 : decode cX0_word 13 = .ok (.astore 4, 2) := dk_58 4 (dk_at dksX0_word_0 13 rfl rfl)
theorem dX0_word_15 : decode cX0_word 15 = .ok (.iconst 1, 1) := dk_4 (dk_at dksX0_word_0 15 rfl rfl)
theorem dX0_word_16 : decode cX0_word 16 = .ok (.ireturn, 1) := dk_172 (dk_at dksX0_word_0 16 rfl rfl)
theorem dX0_word_17 : decode cX0_word 17 = .ok (.iconst 0, 1) := dk_3 (dk_at dksX0_word_0 17 rfl rfl)
theorem dX0_word_18 : decode cX0_word 18 = .ok (.ireturn, 1) := dk_172 (dk_at dksX0_word_0 18 rfl rfl)
def dkwX0_traveller_0 : List UInt8 := [45, 3, 42, 27, 28, 182, 0, 15, 133, 80, 167, 0, 7, 58, 4, 4, 172, 3, 172]
abbrev dktX0_traveller_0 : List UInt8 := dkwX0_traveller_0 ++ []
theorem dksX0_traveller_0 : cX0_traveller.data.toList.drop 0 = dktX0_traveller_0 := by decide +kernel
theorem dX0_traveller_0 : decode cX0_traveller 0 = .ok (.aload_n 3, 1) := dk_45 (dk_at dksX0_traveller_0 0 rfl rfl)
theorem dX0_traveller_1 : decode cX0_traveller 1 = .ok (.iconst 0, 1) := dk_3 (dk_at dksX0_traveller_0 1 rfl rfl)
theorem dX0_traveller_2 : decode cX0_traveller 2 = .ok (.aload_n 0, 1) := dk_42 (dk_at dksX0_traveller_0 2 rfl rfl)
theorem dX0_traveller_3 : decode cX0_traveller 3 = .ok (.iload_n 1, 1) := dk_27 (dk_at dksX0_traveller_0 3 rfl rfl)
theorem dX0_traveller_4 : decode cX0_traveller 4 = .ok (.iload_n 2, 1) := dk_28 (dk_at dksX0_traveller_0 4 rfl rfl)
theorem dX0_traveller_5 : decode cX0_traveller 5 = .ok (.invokevirtual 15, 3) := dk_182 0 15 (dk_at dksX0_traveller_0 5 rfl rfl)
theorem dX0_traveller_8 : decode cX0_traveller 8 = .ok (.i2l, 1) := dk_133 (dk_at dksX0_traveller_0 8 rfl rfl)
theorem dX0_traveller_9 : decode cX0_traveller 9 = .ok (.lastore, 1) := dk_80 (dk_at dksX0_traveller_0 9 rfl rfl)
theorem dX0_traveller_10 : decode cX0_traveller 10 = .ok (.goto 7, 3) := dk_167 0 7 (dk_at dksX0_traveller_0 10 rfl rfl)
theorem dX0_traveller_13 : decode cX0_traveller 13 = .ok (.astore 4, 2) := dk_58 4 (dk_at dksX0_traveller_0 13 rfl rfl)
theorem dX0_traveller_15 : decode cX0_traveller 15 = .ok (.iconst 1, 1) := dk_4 (dk_at dksX0_traveller_0 15 rfl rfl)
theorem dX0_traveller_16 : decode cX0_traveller 16 = .ok (.ireturn, 1) := dk_172 (dk_at dksX0_traveller_0 16 rfl rfl)
theorem dX0_traveller_17 : decode cX0_traveller 17 = .ok (.iconst 0, 1) := dk_3 (dk_at dksX0_traveller_0 17 rfl rfl)
theorem dX0_traveller_18 : decode cX0_traveller 18 = .ok (.ireturn, 1) := dk_172 (dk_at dksX0_traveller_0 18 rfl rfl)
def dkwX0_errand_0 : List UInt8 := [45, 3, 42, 27, 28, 182, 0, 18, 133, 80, 167, 0, 7, 58, 4, 4, 172, 3, 172]
abbrev dktX0_errand_0 : List UInt8 := dkwX0_errand_0 ++ []
theorem dksX0_errand_0 : cX0_errand.data.toList.drop 0 = dktX0_errand_0 := by decide +kernel
theorem dX0_errand_0 : decode cX0_errand 0 = .ok (.aload_n 3, 1) := dk_45 (dk_at dksX0_errand_0 0 rfl rfl)
theorem dX0_errand_1 : decode cX0_errand 1 = .ok (.iconst 0, 1) := dk_3 (dk_at dksX0_errand_0 1 rfl rfl)
theorem dX0_errand_2 : decode cX0_errand 2 = .ok (.aload_n 0, 1) := dk_42 (dk_at dksX0_errand_0 2 rfl rfl)
theorem dX0_errand_3 : decode cX0_errand 3 = .ok (.iload_n 1, 1) := dk_27 (dk_at dksX0_errand_0 3 rfl rfl)
theorem dX0_errand_4 : decode cX0_errand 4 = .ok (.iload_n 2, 1) := dk_28 (dk_at dksX0_errand_0 4 rfl rfl)
theorem dX0_errand_5 : decode cX0_errand 5 = .ok (.invokevirtual 18, 3) := dk_182 0 18 (dk_at dksX0_errand_0 5 rfl rfl)
theorem dX0_errand_8 : decode cX0_errand 8 = .ok (.i2l, 1) := dk_133 (dk_at dksX0_errand_0 8 rfl rfl)
theorem dX0_errand_9 : decode cX0_errand 9 = .ok (.lastore, 1) := dk_80 (dk_at dksX0_errand_0 9 rfl rfl)
theorem dX0_errand_10 : decode cX0_errand 10 = .ok (.goto 7, 3) := dk_167 0 7 (dk_at dksX0_errand_0 10 rfl rfl)
theorem dX0_errand_13 : decode cX0_errand 13 = .ok (.astore 4, 2) := dk_58 4 (dk_at dksX0_errand_0 13 rfl rfl)
theorem dX0_errand_15 : decode cX0_errand 15 = .ok (.iconst 1, 1) := dk_4 (dk_at dksX0_errand_0 15 rfl rfl)
theorem dX0_errand_16 : decode cX0_errand 16 = .ok (.ireturn, 1) := dk_172 (dk_at dksX0_errand_0 16 rfl rfl)
theorem dX0_errand_17 : decode cX0_errand 17 = .ok (.iconst 0, 1) := dk_3 (dk_at dksX0_errand_0 17 rfl rfl)
theorem dX0_errand_18 : decode cX0_errand 18 = .ok (.ireturn, 1) := dk_172 (dk_at dksX0_errand_0 18 rfl rfl)
def dkwX0_book_0 : List UInt8 := [45, 3, 42, 27, 28, 182, 0, 21, 133, 80, 167, 0, 7, 58, 4, 4, 172, 3, 172]
abbrev dktX0_book_0 : List UInt8 := dkwX0_book_0 ++ []
theorem dksX0_book_0 : cX0_book.data.toList.drop 0 = dktX0_book_0 := by decide +kernel
theorem dX0_book_0 : decode cX0_book 0 = .ok (.aload_n 3, 1) := dk_45 (dk_at dksX0_book_0 0 rfl rfl)
theorem dX0_book_1 : decode cX0_book 1 = .ok (.iconst 0, 1) := dk_3 (dk_at dksX0_book_0 1 rfl rfl)
theorem dX0_book_2 : decode cX0_book 2 = .ok (.aload_n 0, 1) := dk_42 (dk_at dksX0_book_0 2 rfl rfl)
theorem dX0_book_3 : decode cX0_book 3 = .ok (.iload_n 1, 1) := dk_27 (dk_at dksX0_book_0 3 rfl rfl)
theorem dX0_book_4 : decode cX0_book 4 = .ok (.iload_n 2, 1) := dk_28 (dk_at dksX0_book_0 4 rfl rfl)
theorem dX0_book_5 : decode cX0_book 5 = .ok (.invokevirtual 21, 3) := dk_182 0 21 (dk_at dksX0_book_0 5 rfl rfl)
theorem dX0_book_8 : decode cX0_book 8 = .ok (.i2l, 1) := dk_133 (dk_at dksX0_book_0 8 rfl rfl)
theorem dX0_book_9 : decode cX0_book 9 = .ok (.lastore, 1) := dk_80 (dk_at dksX0_book_0 9 rfl rfl)
theorem dX0_book_10 : decode cX0_book 10 = .ok (.goto 7, 3) := dk_167 0 7 (dk_at dksX0_book_0 10 rfl rfl)
theorem dX0_book_13 : decode cX0_book 13 = .ok (.astore 4, 2) := dk_58 4 (dk_at dksX0_book_0 13 rfl rfl)
theorem dX0_book_15 : decode cX0_book 15 = .ok (.iconst 1, 1) := dk_4 (dk_at dksX0_book_0 15 rfl rfl)
theorem dX0_book_16 : decode cX0_book 16 = .ok (.ireturn, 1) := dk_172 (dk_at dksX0_book_0 16 rfl rfl)
theorem dX0_book_17 : decode cX0_book 17 = .ok (.iconst 0, 1) := dk_3 (dk_at dksX0_book_0 17 rfl rfl)
theorem dX0_book_18 : decode cX0_book 18 = .ok (.ireturn, 1) := dk_172 (dk_at dksX0_book_0 18 rfl rfl)
def dkwX0_row_0 : List UInt8 := [44, 3, 42, 27, 182, 0, 24, 80, 167, 0, 6, 78, 4, 172, 3, 172]
abbrev dktX0_row_0 : List UInt8 := dkwX0_row_0 ++ []
theorem dksX0_row_0 : cX0_row.data.toList.drop 0 = dktX0_row_0 := by decide +kernel
theorem dX0_row_0 : decode cX0_row 0 = .ok (.aload_n 2, 1) := dk_44 (dk_at dksX0_row_0 0 rfl rfl)
theorem dX0_row_1 : decode cX0_row 1 = .ok (.iconst 0, 1) := dk_3 (dk_at dksX0_row_0 1 rfl rfl)
theorem dX0_row_2 : decode cX0_row 2 = .ok (.aload_n 0, 1) := dk_42 (dk_at dksX0_row_0 2 rfl rfl)
theorem dX0_row_3 : decode cX0_row 3 = .ok (.iload_n 1, 1) := dk_27 (dk_at dksX0_row_0 3 rfl rfl)
theorem dX0_row_4 : decode cX0_row 4 = .ok (.invokevirtual 24, 3) := dk_182 0 24 (dk_at dksX0_row_0 4 rfl rfl)
theorem dX0_row_7 : decode cX0_row 7 = .ok (.lastore, 1) := dk_80 (dk_at dksX0_row_0 7 rfl rfl)
theorem dX0_row_8 : decode cX0_row 8 = .ok (.goto 6, 3) := dk_167 0 6 (dk_at dksX0_row_0 8 rfl rfl)
theorem dX0_row_11 : decode cX0_row 11 = .ok (.astore_n 3, 1) := dk_78 (dk_at dksX0_row_0 11 rfl rfl)
theorem dX0_row_12 : decode cX0_row 12 = .ok (.iconst 1, 1) := dk_4 (dk_at dksX0_row_0 12 rfl rfl)
theorem dX0_row_13 : decode cX0_row 13 = .ok (.ireturn, 1) := dk_172 (dk_at dksX0_row_0 13 rfl rfl)
theorem dX0_row_14 : decode cX0_row 14 = .ok (.iconst 0, 1) := dk_3 (dk_at dksX0_row_0 14 rfl rfl)
theorem dX0_row_15 : decode cX0_row 15 = .ok (.ireturn, 1) := dk_172 (dk_at dksX0_row_0 15 rfl rfl)
def dkwJ0_min_0 : List UInt8 := [26, 27, 163, 0, 7, 26, 167, 0, 4, 27, 172]
abbrev dktJ0_min_0 : List UInt8 := dkwJ0_min_0 ++ []
theorem dksJ0_min_0 : cJ0_min.data.toList.drop 0 = dktJ0_min_0 := by decide +kernel
theorem dJ0_min_0 : decode cJ0_min 0 = .ok (.iload_n 0, 1) := dk_26 (dk_at dksJ0_min_0 0 rfl rfl)
theorem dJ0_min_1 : decode cJ0_min 1 = .ok (.iload_n 1, 1) := dk_27 (dk_at dksJ0_min_0 1 rfl rfl)
theorem dJ0_min_2 : decode cJ0_min 2 = .ok (.if_icmp .gt 7, 3) := dk_163 0 7 (dk_at dksJ0_min_0 2 rfl rfl)
theorem dJ0_min_5 : decode cJ0_min 5 = .ok (.iload_n 0, 1) := dk_26 (dk_at dksJ0_min_0 5 rfl rfl)
theorem dJ0_min_6 : decode cJ0_min 6 = .ok (.goto 4, 3) := dk_167 0 4 (dk_at dksJ0_min_0 6 rfl rfl)
theorem dJ0_min_9 : decode cJ0_min 9 = .ok (.iload_n 1, 1) := dk_27 (dk_at dksJ0_min_0 9 rfl rfl)
theorem dJ0_min_10 : decode cJ0_min 10 = .ok (.ireturn, 1) := dk_172 (dk_at dksJ0_min_0 10 rfl rfl)
def dkwJ0_max_0 : List UInt8 := [26, 27, 161, 0, 7, 26, 167, 0, 4, 27, 172]
abbrev dktJ0_max_0 : List UInt8 := dkwJ0_max_0 ++ []
theorem dksJ0_max_0 : cJ0_max.data.toList.drop 0 = dktJ0_max_0 := by decide +kernel
theorem dJ0_max_0 : decode cJ0_max 0 = .ok (.iload_n 0, 1) := dk_26 (dk_at dksJ0_max_0 0 rfl rfl)
theorem dJ0_max_1 : decode cJ0_max 1 = .ok (.iload_n 1, 1) := dk_27 (dk_at dksJ0_max_0 1 rfl rfl)
theorem dJ0_max_2 : decode cJ0_max 2 = .ok (.if_icmp .lt 7, 3) := dk_161 0 7 (dk_at dksJ0_max_0 2 rfl rfl)
theorem dJ0_max_5 : decode cJ0_max 5 = .ok (.iload_n 0, 1) := dk_26 (dk_at dksJ0_max_0 5 rfl rfl)
theorem dJ0_max_6 : decode cJ0_max 6 = .ok (.goto 4, 3) := dk_167 0 4 (dk_at dksJ0_max_0 6 rfl rfl)
theorem dJ0_max_9 : decode cJ0_max 9 = .ok (.iload_n 1, 1) := dk_27 (dk_at dksJ0_max_0 9 rfl rfl)
theorem dJ0_max_10 : decode cJ0_max 10 = .ok (.ireturn, 1) := dk_172 (dk_at dksJ0_max_0 10 rfl rfl)
def dkwJ1_indexOf_0 : List UInt8 := [42, 27, 3, 182, 2, 121, 172]
abbrev dktJ1_indexOf_0 : List UInt8 := dkwJ1_indexOf_0 ++ []
theorem dksJ1_indexOf_0 : cJ1_indexOf.data.toList.drop 0 = dktJ1_indexOf_0 := by decide +kernel
theorem dJ1_indexOf_0 : decode cJ1_indexOf 0 = .ok (.aload_n 0, 1) := dk_42 (dk_at dksJ1_indexOf_0 0 rfl rfl)
theorem dJ1_indexOf_1 : decode cJ1_indexOf 1 = .ok (.iload_n 1, 1) := dk_27 (dk_at dksJ1_indexOf_0 1 rfl rfl)
theorem dJ1_indexOf_2 : decode cJ1_indexOf 2 = .ok (.iconst 0, 1) := dk_3 (dk_at dksJ1_indexOf_0 2 rfl rfl)
theorem dJ1_indexOf_3 : decode cJ1_indexOf 3 = .ok (.invokevirtual 633, 3) := dk_182 2 121 (dk_at dksJ1_indexOf_0 3 rfl rfl)
theorem dJ1_indexOf_6 : decode cJ1_indexOf 6 = .ok (.ireturn, 1) := dk_172 (dk_at dksJ1_indexOf_0 6 rfl rfl)
def dkwJ1_indexOf_2_1 : List UInt8 := [180, 0, 9, 27, 28, 42, 182, 1, 249, 184, 2, 128, 172]
abbrev dktJ1_indexOf_2_1 : List UInt8 := dkwJ1_indexOf_2_1 ++ []
def dkwJ1_indexOf_2_0 : List UInt8 := [42, 182, 1, 236, 153, 0, 19, 42, 180, 0, 9, 27, 28, 42, 182, 1, 249, 184, 2, 125, 167, 0, 16, 42]
abbrev dktJ1_indexOf_2_0 : List UInt8 := dkwJ1_indexOf_2_0 ++ dktJ1_indexOf_2_1
theorem dksJ1_indexOf_2_0 : cJ1_indexOf_2.data.toList.drop 0 = dktJ1_indexOf_2_0 := by decide +kernel
theorem dksJ1_indexOf_2_1 : cJ1_indexOf_2.data.toList.drop 24 = dktJ1_indexOf_2_1 := dk_seg dksJ1_indexOf_2_0 24 rfl rfl
theorem dJ1_indexOf_2_0 : decode cJ1_indexOf_2 0 = .ok (.aload_n 0, 1) := dk_42 (dk_at dksJ1_indexOf_2_0 0 rfl rfl)
theorem dJ1_indexOf_2_1 : decode cJ1_indexOf_2 1 = .ok (.invokevirtual 492, 3) := dk_182 1 236 (dk_at dksJ1_indexOf_2_0 1 rfl rfl)
theorem dJ1_indexOf_2_4 : decode cJ1_indexOf_2 4 = .ok (.ifCond .eq 19, 3) := dk_153 0 19 (dk_at dksJ1_indexOf_2_0 4 rfl rfl)
theorem dJ1_indexOf_2_7 : decode cJ1_indexOf_2 7 = .ok (.aload_n 0, 1) := dk_42 (dk_at dksJ1_indexOf_2_0 7 rfl rfl)
theorem dJ1_indexOf_2_8 : decode cJ1_indexOf_2 8 = .ok (.getfield 9, 3) := dk_180 0 9 (dk_at dksJ1_indexOf_2_0 8 rfl rfl)
theorem dJ1_indexOf_2_11 : decode cJ1_indexOf_2 11 = .ok (.iload_n 1, 1) := dk_27 (dk_at dksJ1_indexOf_2_0 11 rfl rfl)
theorem dJ1_indexOf_2_12 : decode cJ1_indexOf_2 12 = .ok (.iload_n 2, 1) := dk_28 (dk_at dksJ1_indexOf_2_0 12 rfl rfl)
theorem dJ1_indexOf_2_13 : decode cJ1_indexOf_2 13 = .ok (.aload_n 0, 1) := dk_42 (dk_at dksJ1_indexOf_2_0 13 rfl rfl)
theorem dJ1_indexOf_2_14 : decode cJ1_indexOf_2 14 = .ok (.invokevirtual 505, 3) := dk_182 1 249 (dk_at dksJ1_indexOf_2_0 14 rfl rfl)
theorem dJ1_indexOf_2_17 : decode cJ1_indexOf_2 17 = .ok (.invokestatic 637, 3) := dk_184 2 125 (dk_at dksJ1_indexOf_2_0 17 rfl rfl)
theorem dJ1_indexOf_2_20 : decode cJ1_indexOf_2 20 = .ok (.goto 16, 3) := dk_167 0 16 (dk_at dksJ1_indexOf_2_0 20 rfl rfl)
theorem dJ1_indexOf_2_23 : decode cJ1_indexOf_2 23 = .ok (.aload_n 0, 1) := dk_42 (dk_at dksJ1_indexOf_2_0 23 rfl rfl)
theorem dJ1_indexOf_2_24 : decode cJ1_indexOf_2 24 = .ok (.getfield 9, 3) := dk_180 0 9 (dk_at dksJ1_indexOf_2_1 0 rfl rfl)
theorem dJ1_indexOf_2_27 : decode cJ1_indexOf_2 27 = .ok (.iload_n 1, 1) := dk_27 (dk_at dksJ1_indexOf_2_1 3 rfl rfl)
theorem dJ1_indexOf_2_28 : decode cJ1_indexOf_2 28 = .ok (.iload_n 2, 1) := dk_28 (dk_at dksJ1_indexOf_2_1 4 rfl rfl)
theorem dJ1_indexOf_2_29 : decode cJ1_indexOf_2 29 = .ok (.aload_n 0, 1) := dk_42 (dk_at dksJ1_indexOf_2_1 5 rfl rfl)
theorem dJ1_indexOf_2_30 : decode cJ1_indexOf_2 30 = .ok (.invokevirtual 505, 3) := dk_182 1 249 (dk_at dksJ1_indexOf_2_1 6 rfl rfl)
theorem dJ1_indexOf_2_33 : decode cJ1_indexOf_2 33 = .ok (.invokestatic 640, 3) := dk_184 2 128 (dk_at dksJ1_indexOf_2_1 9 rfl rfl)
theorem dJ1_indexOf_2_36 : decode cJ1_indexOf_2 36 = .ok (.ireturn, 1) := dk_172 (dk_at dksJ1_indexOf_2_1 12 rfl rfl)
def dkwJ1_isLatin1_0 : List UInt8 := [178, 0, 38, 153, 0, 14, 42, 180, 0, 15, 154, 0, 7, 4, 167, 0, 4, 3, 172]
abbrev dktJ1_isLatin1_0 : List UInt8 := dkwJ1_isLatin1_0 ++ []
theorem dksJ1_isLatin1_0 : cJ1_isLatin1.data.toList.drop 0 = dktJ1_isLatin1_0 := by decide +kernel
theorem dJ1_isLatin1_0 : decode cJ1_isLatin1 0 = .ok (.getstatic 38, 3) := dk_178 0 38 (dk_at dksJ1_isLatin1_0 0 rfl rfl)
theorem dJ1_isLatin1_3 : decode cJ1_isLatin1 3 = .ok (.ifCond .eq 14, 3) := dk_153 0 14 (dk_at dksJ1_isLatin1_0 3 rfl rfl)
theorem dJ1_isLatin1_6 : decode cJ1_isLatin1 6 = .ok (.aload_n 0, 1) := dk_42 (dk_at dksJ1_isLatin1_0 6 rfl rfl)
theorem dJ1_isLatin1_7 : decode cJ1_isLatin1 7 = .ok (.getfield 15, 3) := dk_180 0 15 (dk_at dksJ1_isLatin1_0 7 rfl rfl)
theorem dJ1_isLatin1_10 : decode cJ1_isLatin1 10 = .ok (.ifCond .ne 7, 3) := dk_154 0 7 (dk_at dksJ1_isLatin1_0 10 rfl rfl)
theorem dJ1_isLatin1_13 : decode cJ1_isLatin1 13 = .ok (.iconst 1, 1) := dk_4 (dk_at dksJ1_isLatin1_0 13 rfl rfl)
theorem dJ1_isLatin1_14 : decode cJ1_isLatin1 14 = .ok (.goto 4, 3) := dk_167 0 4 (dk_at dksJ1_isLatin1_0 14 rfl rfl)
theorem dJ1_isLatin1_17 : decode cJ1_isLatin1 17 = .ok (.iconst 0, 1) := dk_3 (dk_at dksJ1_isLatin1_0 17 rfl rfl)
theorem dJ1_isLatin1_18 : decode cJ1_isLatin1 18 = .ok (.ireturn, 1) := dk_172 (dk_at dksJ1_isLatin1_0 18 rfl rfl)
def dkwJ1_length_0 : List UInt8 := [42, 180, 0, 9, 190, 42, 182, 1, 79, 122, 172]
abbrev dktJ1_length_0 : List UInt8 := dkwJ1_length_0 ++ []
theorem dksJ1_length_0 : cJ1_length.data.toList.drop 0 = dktJ1_length_0 := by decide +kernel
theorem dJ1_length_0 : decode cJ1_length 0 = .ok (.aload_n 0, 1) := dk_42 (dk_at dksJ1_length_0 0 rfl rfl)
theorem dJ1_length_1 : decode cJ1_length 1 = .ok (.getfield 9, 3) := dk_180 0 9 (dk_at dksJ1_length_0 1 rfl rfl)
theorem dJ1_length_4 : decode cJ1_length 4 = .ok (.arraylength, 1) := dk_190 (dk_at dksJ1_length_0 4 rfl rfl)
theorem dJ1_length_5 : decode cJ1_length 5 = .ok (.aload_n 0, 1) := dk_42 (dk_at dksJ1_length_0 5 rfl rfl)
theorem dJ1_length_6 : decode cJ1_length 6 = .ok (.invokevirtual 335, 3) := dk_182 1 79 (dk_at dksJ1_length_0 6 rfl rfl)
theorem dJ1_length_9 : decode cJ1_length 9 = .ok (.ishr, 1) := dk_122 (dk_at dksJ1_length_0 9 rfl rfl)
theorem dJ1_length_10 : decode cJ1_length 10 = .ok (.ireturn, 1) := dk_172 (dk_at dksJ1_length_0 10 rfl rfl)
def dkwJ1_coder_0 : List UInt8 := [178, 0, 38, 153, 0, 10, 42, 180, 0, 15, 167, 0, 4, 4, 172]
abbrev dktJ1_coder_0 : List UInt8 := dkwJ1_coder_0 ++ []
theorem dksJ1_coder_0 : cJ1_coder.data.toList.drop 0 = dktJ1_coder_0 := by decide +kernel
theorem dJ1_coder_0 : decode cJ1_coder 0 = .ok (.getstatic 38, 3) := dk_178 0 38 (dk_at dksJ1_coder_0 0 rfl rfl)
theorem dJ1_coder_3 : decode cJ1_coder 3 = .ok (.ifCond .eq 10, 3) := dk_153 0 10 (dk_at dksJ1_coder_0 3 rfl rfl)
theorem dJ1_coder_6 : decode cJ1_coder 6 = .ok (.aload_n 0, 1) := dk_42 (dk_at dksJ1_coder_0 6 rfl rfl)
theorem dJ1_coder_7 : decode cJ1_coder 7 = .ok (.getfield 15, 3) := dk_180 0 15 (dk_at dksJ1_coder_0 7 rfl rfl)
theorem dJ1_coder_10 : decode cJ1_coder 10 = .ok (.goto 4, 3) := dk_167 0 4 (dk_at dksJ1_coder_0 10 rfl rfl)
theorem dJ1_coder_13 : decode cJ1_coder 13 = .ok (.iconst 1, 1) := dk_4 (dk_at dksJ1_coder_0 13 rfl rfl)
theorem dJ1_coder_14 : decode cJ1_coder 14 = .ok (.ireturn, 1) := dk_172 (dk_at dksJ1_coder_0 14 rfl rfl)
def dkwJ1_checkBoundsBeginEnd_0 : List UInt8 := [26, 27, 28, 178, 4, 29, 184, 4, 38, 87, 177]
abbrev dktJ1_checkBoundsBeginEnd_0 : List UInt8 := dkwJ1_checkBoundsBeginEnd_0 ++ []
theorem dksJ1_checkBoundsBeginEnd_0 : cJ1_checkBoundsBeginEnd.data.toList.drop 0 = dktJ1_checkBoundsBeginEnd_0 := by decide +kernel
theorem dJ1_checkBoundsBeginEnd_0 : decode cJ1_checkBoundsBeginEnd 0 = .ok (.iload_n 0, 1) := dk_26 (dk_at dksJ1_checkBoundsBeginEnd_0 0 rfl rfl)
theorem dJ1_checkBoundsBeginEnd_1 : decode cJ1_checkBoundsBeginEnd 1 = .ok (.iload_n 1, 1) := dk_27 (dk_at dksJ1_checkBoundsBeginEnd_0 1 rfl rfl)
theorem dJ1_checkBoundsBeginEnd_2 : decode cJ1_checkBoundsBeginEnd 2 = .ok (.iload_n 2, 1) := dk_28 (dk_at dksJ1_checkBoundsBeginEnd_0 2 rfl rfl)
theorem dJ1_checkBoundsBeginEnd_3 : decode cJ1_checkBoundsBeginEnd 3 = .ok (.getstatic 1053, 3) := dk_178 4 29 (dk_at dksJ1_checkBoundsBeginEnd_0 3 rfl rfl)
theorem dJ1_checkBoundsBeginEnd_6 : decode cJ1_checkBoundsBeginEnd 6 = .ok (.invokestatic 1062, 3) := dk_184 4 38 (dk_at dksJ1_checkBoundsBeginEnd_0 6 rfl rfl)
theorem dJ1_checkBoundsBeginEnd_9 : decode cJ1_checkBoundsBeginEnd 9 = .ok (.pop, 1) := dk_87 (dk_at dksJ1_checkBoundsBeginEnd_0 9 rfl rfl)
theorem dJ1_checkBoundsBeginEnd_10 : decode cJ1_checkBoundsBeginEnd 10 = .ok (.return_, 1) := dk_177 (dk_at dksJ1_checkBoundsBeginEnd_0 10 rfl rfl)
def dkwJ2_indexOf_1 : List UInt8 := [161, 0, 5, 2, 172, 42, 27, 28, 29, 184, 0, 95, 172]
abbrev dktJ2_indexOf_1 : List UInt8 := dkwJ2_indexOf_1 ++ []
def dkwJ2_indexOf_0 : List UInt8 := [27, 184, 0, 88, 154, 0, 5, 2, 172, 28, 3, 184, 0, 92, 61, 29, 42, 190, 184, 0, 38, 62, 28, 29]
abbrev dktJ2_indexOf_0 : List UInt8 := dkwJ2_indexOf_0 ++ dktJ2_indexOf_1
theorem dksJ2_indexOf_0 : cJ2_indexOf.data.toList.drop 0 = dktJ2_indexOf_0 := by decide +kernel
theorem dksJ2_indexOf_1 : cJ2_indexOf.data.toList.drop 24 = dktJ2_indexOf_1 := dk_seg dksJ2_indexOf_0 24 rfl rfl
theorem dJ2_indexOf_0 : decode cJ2_indexOf 0 = .ok (.iload_n 1, 1) := dk_27 (dk_at dksJ2_indexOf_0 0 rfl rfl)
theorem dJ2_indexOf_1 : decode cJ2_indexOf 1 = .ok (.invokestatic 88, 3) := dk_184 0 88 (dk_at dksJ2_indexOf_0 1 rfl rfl)
theorem dJ2_indexOf_4 : decode cJ2_indexOf 4 = .ok (.ifCond .ne 5, 3) := dk_154 0 5 (dk_at dksJ2_indexOf_0 4 rfl rfl)
theorem dJ2_indexOf_7 : decode cJ2_indexOf 7 = .ok (.iconst (-1), 1) := dk_2 (dk_at dksJ2_indexOf_0 7 rfl rfl)
theorem dJ2_indexOf_8 : decode cJ2_indexOf 8 = .ok (.ireturn, 1) := dk_172 (dk_at dksJ2_indexOf_0 8 rfl rfl)
theorem dJ2_indexOf_9 : decode cJ2_indexOf 9 = .ok (.iload_n 2, 1) := dk_28 (dk_at dksJ2_indexOf_0 9 rfl rfl)
theorem dJ2_indexOf_10 : decode cJ2_indexOf 10 = .ok (.iconst 0, 1) := dk_3 (dk_at dksJ2_indexOf_0 10 rfl rfl)
theorem dJ2_indexOf_11 : decode cJ2_indexOf 11 = .ok (.invokestatic 92, 3) := dk_184 0 92 (dk_at dksJ2_indexOf_0 11 rfl rfl)
theorem dJ2_indexOf_14 : decode cJ2_indexOf 14 = .ok (.istore_n 2, 1) := dk_61 (dk_at dksJ2_indexOf_0 14 rfl rfl)
theorem dJ2_indexOf_15 : decode cJ2_indexOf 15 = .ok (.iload_n 3, 1) := dk_29 (dk_at dksJ2_indexOf_0 15 rfl rfl)
theorem dJ2_indexOf_16 : decode cJ2_indexOf 16 = .ok (.aload_n 0, 1) := dk_42 (dk_at dksJ2_indexOf_0 16 rfl rfl)
theorem dJ2_indexOf_17 : decode cJ2_indexOf 17 = .ok (.arraylength, 1) := dk_190 (dk_at dksJ2_indexOf_0 17 rfl rfl)
theorem dJ2_indexOf_18 : decode cJ2_indexOf 18 = .ok (.invokestatic 38, 3) := dk_184 0 38 (dk_at dksJ2_indexOf_0 18 rfl rfl)
theorem dJ2_indexOf_21 : decode cJ2_indexOf 21 = .ok (.istore_n 3, 1) := dk_62 (dk_at dksJ2_indexOf_0 21 rfl rfl)
theorem dJ2_indexOf_22 : decode cJ2_indexOf 22 = .ok (.iload_n 2, 1) := dk_28 (dk_at dksJ2_indexOf_0 22 rfl rfl)
theorem dJ2_indexOf_23 : decode cJ2_indexOf 23 = .ok (.iload_n 3, 1) := dk_29 (dk_at dksJ2_indexOf_0 23 rfl rfl)
theorem dJ2_indexOf_24 : decode cJ2_indexOf 24 = .ok (.if_icmp .lt 5, 3) := dk_161 0 5 (dk_at dksJ2_indexOf_1 0 rfl rfl)
theorem dJ2_indexOf_27 : decode cJ2_indexOf 27 = .ok (.iconst (-1), 1) := dk_2 (dk_at dksJ2_indexOf_1 3 rfl rfl)
theorem dJ2_indexOf_28 : decode cJ2_indexOf 28 = .ok (.ireturn, 1) := dk_172 (dk_at dksJ2_indexOf_1 4 rfl rfl)
theorem dJ2_indexOf_29 : decode cJ2_indexOf 29 = .ok (.aload_n 0, 1) := dk_42 (dk_at dksJ2_indexOf_1 5 rfl rfl)
theorem dJ2_indexOf_30 : decode cJ2_indexOf 30 = .ok (.iload_n 1, 1) := dk_27 (dk_at dksJ2_indexOf_1 6 rfl rfl)
theorem dJ2_indexOf_31 : decode cJ2_indexOf 31 = .ok (.iload_n 2, 1) := dk_28 (dk_at dksJ2_indexOf_1 7 rfl rfl)
theorem dJ2_indexOf_32 : decode cJ2_indexOf 32 = .ok (.iload_n 3, 1) := dk_29 (dk_at dksJ2_indexOf_1 8 rfl rfl)
theorem dJ2_indexOf_33 : decode cJ2_indexOf 33 = .ok (.invokestatic 95, 3) := dk_184 0 95 (dk_at dksJ2_indexOf_1 9 rfl rfl)
theorem dJ2_indexOf_36 : decode cJ2_indexOf 36 = .ok (.ireturn, 1) := dk_172 (dk_at dksJ2_indexOf_1 12 rfl rfl)
def dkwJ2_canEncode_0 : List UInt8 := [26, 155, 0, 14, 26, 17, 0, 255, 163, 0, 7, 4, 167, 0, 4, 3, 172]
abbrev dktJ2_canEncode_0 : List UInt8 := dkwJ2_canEncode_0 ++ []
theorem dksJ2_canEncode_0 : cJ2_canEncode.data.toList.drop 0 = dktJ2_canEncode_0 := by decide +kernel
theorem dJ2_canEncode_0 : decode cJ2_canEncode 0 = .ok (.iload_n 0, 1) := dk_26 (dk_at dksJ2_canEncode_0 0 rfl rfl)
theorem dJ2_canEncode_1 : decode cJ2_canEncode 1 = .ok (.ifCond .lt 14, 3) := dk_155 0 14 (dk_at dksJ2_canEncode_0 1 rfl rfl)
theorem dJ2_canEncode_4 : decode cJ2_canEncode 4 = .ok (.iload_n 0, 1) := dk_26 (dk_at dksJ2_canEncode_0 4 rfl rfl)
theorem dJ2_canEncode_5 : decode cJ2_canEncode 5 = .ok (.sipush 255, 3) := dk_17 0 255 (dk_at dksJ2_canEncode_0 5 rfl rfl)
theorem dJ2_canEncode_8 : decode cJ2_canEncode 8 = .ok (.if_icmp .gt 7, 3) := dk_163 0 7 (dk_at dksJ2_canEncode_0 8 rfl rfl)
theorem dJ2_canEncode_11 : decode cJ2_canEncode 11 = .ok (.iconst 1, 1) := dk_4 (dk_at dksJ2_canEncode_0 11 rfl rfl)
theorem dJ2_canEncode_12 : decode cJ2_canEncode 12 = .ok (.goto 4, 3) := dk_167 0 4 (dk_at dksJ2_canEncode_0 12 rfl rfl)
theorem dJ2_canEncode_15 : decode cJ2_canEncode 15 = .ok (.iconst 0, 1) := dk_3 (dk_at dksJ2_canEncode_0 15 rfl rfl)
theorem dJ2_canEncode_16 : decode cJ2_canEncode 16 = .ok (.ireturn, 1) := dk_172 (dk_at dksJ2_canEncode_0 16 rfl rfl)
def dkwJ2_indexOfChar_1 : List UInt8 := [172, 132, 5, 1, 167, 255, 235, 2, 172]
abbrev dktJ2_indexOfChar_1 : List UInt8 := dkwJ2_indexOfChar_1 ++ []
def dkwJ2_indexOfChar_0 : List UInt8 := [27, 145, 54, 4, 28, 54, 5, 21, 5, 29, 162, 0, 21, 42, 21, 5, 51, 21, 4, 160, 0, 6, 21, 5]
abbrev dktJ2_indexOfChar_0 : List UInt8 := dkwJ2_indexOfChar_0 ++ dktJ2_indexOfChar_1
theorem dksJ2_indexOfChar_0 : cJ2_indexOfChar.data.toList.drop 0 = dktJ2_indexOfChar_0 := by decide +kernel
theorem dksJ2_indexOfChar_1 : cJ2_indexOfChar.data.toList.drop 24 = dktJ2_indexOfChar_1 := dk_seg dksJ2_indexOfChar_0 24 rfl rfl
theorem dJ2_indexOfChar_0 : decode cJ2_indexOfChar 0 = .ok (.iload_n 1, 1) := dk_27 (dk_at dksJ2_indexOfChar_0 0 rfl rfl)
theorem dJ2_indexOfChar_1 : decode cJ2_indexOfChar 1 = .ok (.i2b, 1) := dk_145 (dk_at dksJ2_indexOfChar_0 1 rfl rfl)
theorem dJ2_indexOfChar_2 : decode cJ2_indexOfChar 2 = .ok (.istore 4, 2) := dk_54 4 (dk_at dksJ2_indexOfChar_0 2 rfl rfl)
theorem dJ2_indexOfChar_4 : decode cJ2_indexOfChar 4 = .ok (.iload_n 2, 1) := dk_28 (dk_at dksJ2_indexOfChar_0 4 rfl rfl)
theorem dJ2_indexOfChar_5 : decode cJ2_indexOfChar 5 = .ok (.istore 5, 2) := dk_54 5 (dk_at dksJ2_indexOfChar_0 5 rfl rfl)
theorem dJ2_indexOfChar_7 : decode cJ2_indexOfChar 7 = .ok (.iload 5, 2) := dk_21 5 (dk_at dksJ2_indexOfChar_0 7 rfl rfl)
theorem dJ2_indexOfChar_9 : decode cJ2_indexOfChar 9 = .ok (.iload_n 3, 1) := dk_29 (dk_at dksJ2_indexOfChar_0 9 rfl rfl)
theorem dJ2_indexOfChar_10 : decode cJ2_indexOfChar 10 = .ok (.if_icmp .ge 21, 3) := dk_162 0 21 (dk_at dksJ2_indexOfChar_0 10 rfl rfl)
theorem dJ2_indexOfChar_13 : decode cJ2_indexOfChar 13 = .ok (.aload_n 0, 1) := dk_42 (dk_at dksJ2_indexOfChar_0 13 rfl rfl)
theorem dJ2_indexOfChar_14 : decode cJ2_indexOfChar 14 = .ok (.iload 5, 2) := dk_21 5 (dk_at dksJ2_indexOfChar_0 14 rfl rfl)
theorem dJ2_indexOfChar_16 : decode cJ2_indexOfChar 16 = .ok (.baload, 1) := dk_51 (dk_at dksJ2_indexOfChar_0 16 rfl rfl)
theorem dJ2_indexOfChar_17 : decode cJ2_indexOfChar 17 = .ok (.iload 4, 2) := dk_21 4 (dk_at dksJ2_indexOfChar_0 17 rfl rfl)
theorem dJ2_indexOfChar_19 : decode cJ2_indexOfChar 19 = .ok (.if_icmp .ne 6, 3) := dk_160 0 6 (dk_at dksJ2_indexOfChar_0 19 rfl rfl)
theorem dJ2_indexOfChar_22 : decode cJ2_indexOfChar 22 = .ok (.iload 5, 2) := dk_21 5 (dk_at dksJ2_indexOfChar_0 22 rfl rfl)
theorem dJ2_indexOfChar_24 : decode cJ2_indexOfChar 24 = .ok (.ireturn, 1) := dk_172 (dk_at dksJ2_indexOfChar_1 0 rfl rfl)
theorem dJ2_indexOfChar_25 : decode cJ2_indexOfChar 25 = .ok (.iinc 5 1, 3) := dk_132 5 1 (dk_at dksJ2_indexOfChar_1 1 rfl rfl)
theorem dJ2_indexOfChar_28 : decode cJ2_indexOfChar 28 = .ok (.goto (-21), 3) := dk_167 255 235 (dk_at dksJ2_indexOfChar_1 4 rfl rfl)
theorem dJ2_indexOfChar_31 : decode cJ2_indexOfChar 31 = .ok (.iconst (-1), 1) := dk_2 (dk_at dksJ2_indexOfChar_1 7 rfl rfl)
theorem dJ2_indexOfChar_32 : decode cJ2_indexOfChar 32 = .ok (.ireturn, 1) := dk_172 (dk_at dksJ2_indexOfChar_1 8 rfl rfl)
def dkwJ6_init_1 : List UInt8 := [182, 0, 27, 87, 177]
abbrev dktJ6_init_1 : List UInt8 := dkwJ6_init_1 ++ []
def dkwJ6_init_0 : List UInt8 := [42, 183, 0, 1, 42, 42, 181, 0, 7, 42, 178, 0, 13, 181, 0, 17, 42, 178, 0, 20, 181, 0, 24, 42]
abbrev dktJ6_init_0 : List UInt8 := dkwJ6_init_0 ++ dktJ6_init_1
theorem dksJ6_init_0 : cJ6_init.data.toList.drop 0 = dktJ6_init_0 := by decide +kernel
theorem dksJ6_init_1 : cJ6_init.data.toList.drop 24 = dktJ6_init_1 := dk_seg dksJ6_init_0 24 rfl rfl
theorem dJ6_init_0 : decode cJ6_init 0 = .ok (.aload_n 0, 1) := dk_42 (dk_at dksJ6_init_0 0 rfl rfl)
theorem dJ6_init_1 : decode cJ6_init 1 = .ok (.invokespecial 1, 3) := dk_183 0 1 (dk_at dksJ6_init_0 1 rfl rfl)
theorem dJ6_init_4 : decode cJ6_init 4 = .ok (.aload_n 0, 1) := dk_42 (dk_at dksJ6_init_0 4 rfl rfl)
theorem dJ6_init_5 : decode cJ6_init 5 = .ok (.aload_n 0, 1) := dk_42 (dk_at dksJ6_init_0 5 rfl rfl)
theorem dJ6_init_6 : decode cJ6_init 6 = .ok (.putfield 7, 3) := dk_181 0 7 (dk_at dksJ6_init_0 6 rfl rfl)
theorem dJ6_init_9 : decode cJ6_init 9 = .ok (.aload_n 0, 1) := dk_42 (dk_at dksJ6_init_0 9 rfl rfl)
theorem dJ6_init_10 : decode cJ6_init 10 = .ok (.getstatic 13, 3) := dk_178 0 13 (dk_at dksJ6_init_0 10 rfl rfl)
theorem dJ6_init_13 : decode cJ6_init 13 = .ok (.putfield 17, 3) := dk_181 0 17 (dk_at dksJ6_init_0 13 rfl rfl)
theorem dJ6_init_16 : decode cJ6_init 16 = .ok (.aload_n 0, 1) := dk_42 (dk_at dksJ6_init_0 16 rfl rfl)
theorem dJ6_init_17 : decode cJ6_init 17 = .ok (.getstatic 20, 3) := dk_178 0 20 (dk_at dksJ6_init_0 17 rfl rfl)
theorem dJ6_init_20 : decode cJ6_init 20 = .ok (.putfield 24, 3) := dk_181 0 24 (dk_at dksJ6_init_0 20 rfl rfl)
theorem dJ6_init_23 : decode cJ6_init 23 = .ok (.aload_n 0, 1) := dk_42 (dk_at dksJ6_init_0 23 rfl rfl)
theorem dJ6_init_24 : decode cJ6_init 24 = .ok (.invokevirtual 27, 3) := dk_182 0 27 (dk_at dksJ6_init_1 0 rfl rfl)
theorem dJ6_init_27 : decode cJ6_init 27 = .ok (.pop, 1) := dk_87 (dk_at dksJ6_init_1 3 rfl rfl)
theorem dJ6_init_28 : decode cJ6_init 28 = .ok (.return_, 1) := dk_177 (dk_at dksJ6_init_1 4 rfl rfl)
theorem dJ7_init_0 : decode cJ7_init 0 = .ok (.aload_n 0, 1) := by decide +kernel
theorem dJ7_init_1 : decode cJ7_init 1 = .ok (.invokespecial 1, 3) := by decide +kernel
theorem dJ7_init_4 : decode cJ7_init 4 = .ok (.return_, 1) := by decide +kernel
theorem dJ8_init_0 : decode cJ8_init 0 = .ok (.aload_n 0, 1) := by decide +kernel
theorem dJ8_init_1 : decode cJ8_init 1 = .ok (.invokespecial 1, 3) := by decide +kernel
theorem dJ8_init_4 : decode cJ8_init 4 = .ok (.return_, 1) := by decide +kernel
theorem dJ9_init_0 : decode cJ9_init 0 = .ok (.aload_n 0, 1) := by decide +kernel
theorem dJ9_init_1 : decode cJ9_init 1 = .ok (.invokespecial 1, 3) := by decide +kernel
theorem dJ9_init_4 : decode cJ9_init 4 = .ok (.return_, 1) := by decide +kernel
def dkwJ10_bitCount_2 : List UInt8 := [26, 16, 63, 126, 172]
abbrev dktJ10_bitCount_2 : List UInt8 := dkwJ10_bitCount_2 ++ []
def dkwJ10_bitCount_1 : List UInt8 := [26, 26, 7, 124, 96, 19, 1, 11, 126, 59, 26, 26, 16, 8, 124, 96, 59, 26, 26, 16, 16, 124, 96, 59]
abbrev dktJ10_bitCount_1 : List UInt8 := dkwJ10_bitCount_1 ++ dktJ10_bitCount_2
def dkwJ10_bitCount_0 : List UInt8 := [26, 26, 4, 124, 19, 1, 9, 126, 100, 59, 26, 19, 1, 10, 126, 26, 5, 124, 19, 1, 10, 126, 96, 59]
abbrev dktJ10_bitCount_0 : List UInt8 := dkwJ10_bitCount_0 ++ dktJ10_bitCount_1
theorem dksJ10_bitCount_0 : cJ10_bitCount.data.toList.drop 0 = dktJ10_bitCount_0 := by decide +kernel
theorem dksJ10_bitCount_1 : cJ10_bitCount.data.toList.drop 24 = dktJ10_bitCount_1 := dk_seg dksJ10_bitCount_0 24 rfl rfl
theorem dksJ10_bitCount_2 : cJ10_bitCount.data.toList.drop 48 = dktJ10_bitCount_2 := dk_seg dksJ10_bitCount_1 24 rfl rfl
theorem dJ10_bitCount_0 : decode cJ10_bitCount 0 = .ok (.iload_n 0, 1) := dk_26 (dk_at dksJ10_bitCount_0 0 rfl rfl)
theorem dJ10_bitCount_1 : decode cJ10_bitCount 1 = .ok (.iload_n 0, 1) := dk_26 (dk_at dksJ10_bitCount_0 1 rfl rfl)
theorem dJ10_bitCount_2 : decode cJ10_bitCount 2 = .ok (.iconst 1, 1) := dk_4 (dk_at dksJ10_bitCount_0 2 rfl rfl)
theorem dJ10_bitCount_3 : decode cJ10_bitCount 3 = .ok (.iushr, 1) := dk_124 (dk_at dksJ10_bitCount_0 3 rfl rfl)
theorem dJ10_bitCount_4 : decode cJ10_bitCount 4 = .ok (.ldc_w 265, 3) := dk_19 1 9 (dk_at dksJ10_bitCount_0 4 rfl rfl)
theorem dJ10_bitCount_7 : decode cJ10_bitCount 7 = .ok (.iand, 1) := dk_126 (dk_at dksJ10_bitCount_0 7 rfl rfl)
theorem dJ10_bitCount_8 : decode cJ10_bitCount 8 = .ok (.isub, 1) := dk_100 (dk_at dksJ10_bitCount_0 8 rfl rfl)
theorem dJ10_bitCount_9 : decode cJ10_bitCount 9 = .ok (.istore_n 0, 1) := dk_59 (dk_at dksJ10_bitCount_0 9 rfl rfl)
theorem dJ10_bitCount_10 : decode cJ10_bitCount 10 = .ok (.iload_n 0, 1) := dk_26 (dk_at dksJ10_bitCount_0 10 rfl rfl)
theorem dJ10_bitCount_11 : decode cJ10_bitCount 11 = .ok (.ldc_w 266, 3) := dk_19 1 10 (dk_at dksJ10_bitCount_0 11 rfl rfl)
theorem dJ10_bitCount_14 : decode cJ10_bitCount 14 = .ok (.iand, 1) := dk_126 (dk_at dksJ10_bitCount_0 14 rfl rfl)
theorem dJ10_bitCount_15 : decode cJ10_bitCount 15 = .ok (.iload_n 0, 1) := dk_26 (dk_at dksJ10_bitCount_0 15 rfl rfl)
theorem dJ10_bitCount_16 : decode cJ10_bitCount 16 = .ok (.iconst 2, 1) := dk_5 (dk_at dksJ10_bitCount_0 16 rfl rfl)
theorem dJ10_bitCount_17 : decode cJ10_bitCount 17 = .ok (.iushr, 1) := dk_124 (dk_at dksJ10_bitCount_0 17 rfl rfl)
theorem dJ10_bitCount_18 : decode cJ10_bitCount 18 = .ok (.ldc_w 266, 3) := dk_19 1 10 (dk_at dksJ10_bitCount_0 18 rfl rfl)
theorem dJ10_bitCount_21 : decode cJ10_bitCount 21 = .ok (.iand, 1) := dk_126 (dk_at dksJ10_bitCount_0 21 rfl rfl)
theorem dJ10_bitCount_22 : decode cJ10_bitCount 22 = .ok (.iadd, 1) := dk_96 (dk_at dksJ10_bitCount_0 22 rfl rfl)
theorem dJ10_bitCount_23 : decode cJ10_bitCount 23 = .ok (.istore_n 0, 1) := dk_59 (dk_at dksJ10_bitCount_0 23 rfl rfl)
theorem dJ10_bitCount_24 : decode cJ10_bitCount 24 = .ok (.iload_n 0, 1) := dk_26 (dk_at dksJ10_bitCount_1 0 rfl rfl)
theorem dJ10_bitCount_25 : decode cJ10_bitCount 25 = .ok (.iload_n 0, 1) := dk_26 (dk_at dksJ10_bitCount_1 1 rfl rfl)
theorem dJ10_bitCount_26 : decode cJ10_bitCount 26 = .ok (.iconst 4, 1) := dk_7 (dk_at dksJ10_bitCount_1 2 rfl rfl)
theorem dJ10_bitCount_27 : decode cJ10_bitCount 27 = .ok (.iushr, 1) := dk_124 (dk_at dksJ10_bitCount_1 3 rfl rfl)
theorem dJ10_bitCount_28 : decode cJ10_bitCount 28 = .ok (.iadd, 1) := dk_96 (dk_at dksJ10_bitCount_1 4 rfl rfl)
theorem dJ10_bitCount_29 : decode cJ10_bitCount 29 = .ok (.ldc_w 267, 3) := dk_19 1 11 (dk_at dksJ10_bitCount_1 5 rfl rfl)
theorem dJ10_bitCount_32 : decode cJ10_bitCount 32 = .ok (.iand, 1) := dk_126 (dk_at dksJ10_bitCount_1 8 rfl rfl)
theorem dJ10_bitCount_33 : decode cJ10_bitCount 33 = .ok (.istore_n 0, 1) := dk_59 (dk_at dksJ10_bitCount_1 9 rfl rfl)
theorem dJ10_bitCount_34 : decode cJ10_bitCount 34 = .ok (.iload_n 0, 1) := dk_26 (dk_at dksJ10_bitCount_1 10 rfl rfl)
theorem dJ10_bitCount_35 : decode cJ10_bitCount 35 = .ok (.iload_n 0, 1) := dk_26 (dk_at dksJ10_bitCount_1 11 rfl rfl)
theorem dJ10_bitCount_36 : decode cJ10_bitCount 36 = .ok (.bipush 8, 2) := dk_16 8 (dk_at dksJ10_bitCount_1 12 rfl rfl)
theorem dJ10_bitCount_38 : decode cJ10_bitCount 38 = .ok (.iushr, 1) := dk_124 (dk_at dksJ10_bitCount_1 14 rfl rfl)
theorem dJ10_bitCount_39 : decode cJ10_bitCount 39 = .ok (.iadd, 1) := dk_96 (dk_at dksJ10_bitCount_1 15 rfl rfl)
theorem dJ10_bitCount_40 : decode cJ10_bitCount 40 = .ok (.istore_n 0, 1) := dk_59 (dk_at dksJ10_bitCount_1 16 rfl rfl)
theorem dJ10_bitCount_41 : decode cJ10_bitCount 41 = .ok (.iload_n 0, 1) := dk_26 (dk_at dksJ10_bitCount_1 17 rfl rfl)
theorem dJ10_bitCount_42 : decode cJ10_bitCount 42 = .ok (.iload_n 0, 1) := dk_26 (dk_at dksJ10_bitCount_1 18 rfl rfl)
theorem dJ10_bitCount_43 : decode cJ10_bitCount 43 = .ok (.bipush 16, 2) := dk_16 16 (dk_at dksJ10_bitCount_1 19 rfl rfl)
theorem dJ10_bitCount_45 : decode cJ10_bitCount 45 = .ok (.iushr, 1) := dk_124 (dk_at dksJ10_bitCount_1 21 rfl rfl)
theorem dJ10_bitCount_46 : decode cJ10_bitCount 46 = .ok (.iadd, 1) := dk_96 (dk_at dksJ10_bitCount_1 22 rfl rfl)
theorem dJ10_bitCount_47 : decode cJ10_bitCount 47 = .ok (.istore_n 0, 1) := dk_59 (dk_at dksJ10_bitCount_1 23 rfl rfl)
theorem dJ10_bitCount_48 : decode cJ10_bitCount 48 = .ok (.iload_n 0, 1) := dk_26 (dk_at dksJ10_bitCount_2 0 rfl rfl)
theorem dJ10_bitCount_49 : decode cJ10_bitCount 49 = .ok (.bipush 63, 2) := dk_16 63 (dk_at dksJ10_bitCount_2 1 rfl rfl)
theorem dJ10_bitCount_51 : decode cJ10_bitCount 51 = .ok (.iand, 1) := dk_126 (dk_at dksJ10_bitCount_2 3 rfl rfl)
theorem dJ10_bitCount_52 : decode cJ10_bitCount 52 = .ok (.ireturn, 1) := dk_172 (dk_at dksJ10_bitCount_2 4 rfl rfl)
theorem dJ11_init_0 : decode cJ11_init 0 = .ok (.return_, 1) := by decide +kernel
