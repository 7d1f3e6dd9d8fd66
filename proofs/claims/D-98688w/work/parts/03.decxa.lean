set_option maxRecDepth 100000
def dkwX1_init_13 : List UInt8 := [181, 0, 127, 42, 5, 188, 10, 181, 0, 130, 42, 16, 16, 188, 11, 181, 0, 133, 177]
abbrev dktX1_init_13 : List UInt8 := dkwX1_init_13 ++ []
def dkwX1_init_12 : List UInt8 := [181, 0, 118, 42, 7, 188, 10, 181, 0, 121, 42, 7, 188, 10, 181, 0, 124, 42, 5, 189, 0, 9]
abbrev dktX1_init_12 : List UInt8 := dkwX1_init_12 ++ dktX1_init_13
def dkwX1_init_11 : List UInt8 := [181, 0, 109, 42, 16, 100, 188, 10, 181, 0, 112, 42, 17, 78, 0, 188, 10, 181, 0, 115, 42, 8, 188, 10]
abbrev dktX1_init_11 : List UInt8 := dkwX1_init_11 ++ dktX1_init_12
def dkwX1_init_10 : List UInt8 := [181, 0, 100, 42, 16, 6, 188, 10, 181, 0, 103, 42, 16, 6, 188, 10, 181, 0, 106, 42, 16, 49, 188, 10]
abbrev dktX1_init_10 : List UInt8 := dkwX1_init_10 ++ dktX1_init_11
def dkwX1_init_9 : List UInt8 := [181, 0, 91, 42, 16, 40, 188, 10, 181, 0, 94, 42, 16, 13, 188, 10, 181, 0, 97, 42, 16, 14, 188, 10]
abbrev dktX1_init_9 : List UInt8 := dkwX1_init_9 ++ dktX1_init_10
def dkwX1_init_8 : List UInt8 := [16, 12, 189, 0, 9, 181, 0, 84, 42, 187, 0, 9, 89, 183, 0, 11, 181, 0, 88, 42, 16, 40, 188, 10]
abbrev dktX1_init_8 : List UInt8 := dkwX1_init_8 ++ dktX1_init_9
def dkwX1_init_7 : List UInt8 := [16, 8, 188, 10, 181, 0, 75, 42, 16, 8, 188, 10, 181, 0, 78, 42, 8, 188, 10, 181, 0, 81, 42]
abbrev dktX1_init_7 : List UInt8 := dkwX1_init_7 ++ dktX1_init_8
def dkwX1_init_6 : List UInt8 := [7, 188, 10, 181, 0, 66, 42, 16, 8, 188, 10, 181, 0, 69, 42, 16, 8, 188, 10, 181, 0, 72, 42]
abbrev dktX1_init_6 : List UInt8 := dkwX1_init_6 ++ dktX1_init_7
def dkwX1_init_5 : List UInt8 := [42, 16, 10, 188, 10, 181, 0, 57, 42, 16, 10, 188, 10, 181, 0, 60, 42, 7, 188, 10, 181, 0, 63, 42]
abbrev dktX1_init_5 : List UInt8 := dkwX1_init_5 ++ dktX1_init_6
def dkwX1_init_4 : List UInt8 := [42, 16, 80, 188, 10, 181, 0, 48, 42, 16, 60, 188, 10, 181, 0, 51, 42, 16, 10, 188, 10, 181, 0, 54]
abbrev dktX1_init_4 : List UInt8 := dkwX1_init_4 ++ dktX1_init_5
def dkwX1_init_3 : List UInt8 := [181, 0, 35, 42, 16, 8, 188, 10, 181, 0, 38, 42, 16, 8, 188, 10, 181, 0, 41, 42, 4, 181, 0, 44]
abbrev dktX1_init_3 : List UInt8 := dkwX1_init_3 ++ dktX1_init_4
def dkwX1_init_2 : List UInt8 := [181, 0, 26, 42, 16, 10, 188, 10, 181, 0, 29, 42, 16, 8, 188, 10, 181, 0, 32, 42, 16, 8, 188, 10]
abbrev dktX1_init_2 : List UInt8 := dkwX1_init_2 ++ dktX1_init_3
def dkwX1_init_1 : List UInt8 := [181, 0, 16, 42, 16, 60, 188, 10, 181, 0, 19, 42, 16, 10, 188, 10, 181, 0, 23, 42, 16, 10, 188, 10]
abbrev dktX1_init_1 : List UInt8 := dkwX1_init_1 ++ dktX1_init_2
def dkwX1_init_0 : List UInt8 := [42, 183, 0, 3, 42, 187, 0, 9, 89, 183, 0, 11, 181, 0, 12, 42, 187, 0, 9, 89, 183, 0, 11]
abbrev dktX1_init_0 : List UInt8 := dkwX1_init_0 ++ dktX1_init_1
theorem dksX1_init_0 : cX1_init.data.toList.drop 0 = dktX1_init_0 := by decide +kernel
theorem dksX1_init_1 : cX1_init.data.toList.drop 23 = dktX1_init_1 := dk_seg dksX1_init_0 23 rfl rfl
theorem dksX1_init_2 : cX1_init.data.toList.drop 47 = dktX1_init_2 := dk_seg dksX1_init_1 24 rfl rfl
theorem dksX1_init_3 : cX1_init.data.toList.drop 71 = dktX1_init_3 := dk_seg dksX1_init_2 24 rfl rfl
theorem dksX1_init_4 : cX1_init.data.toList.drop 95 = dktX1_init_4 := dk_seg dksX1_init_3 24 rfl rfl
theorem dksX1_init_5 : cX1_init.data.toList.drop 119 = dktX1_init_5 := dk_seg dksX1_init_4 24 rfl rfl
theorem dksX1_init_6 : cX1_init.data.toList.drop 143 = dktX1_init_6 := dk_seg dksX1_init_5 24 rfl rfl
theorem dksX1_init_7 : cX1_init.data.toList.drop 166 = dktX1_init_7 := dk_seg dksX1_init_6 23 rfl rfl
theorem dksX1_init_8 : cX1_init.data.toList.drop 189 = dktX1_init_8 := dk_seg dksX1_init_7 23 rfl rfl
theorem dksX1_init_9 : cX1_init.data.toList.drop 213 = dktX1_init_9 := dk_seg dksX1_init_8 24 rfl rfl
theorem dksX1_init_10 : cX1_init.data.toList.drop 237 = dktX1_init_10 := dk_seg dksX1_init_9 24 rfl rfl
theorem dksX1_init_11 : cX1_init.data.toList.drop 261 = dktX1_init_11 := dk_seg dksX1_init_10 24 rfl rfl
theorem dksX1_init_12 : cX1_init.data.toList.drop 285 = dktX1_init_12 := dk_seg dksX1_init_11 24 rfl rfl
theorem dksX1_init_13 : cX1_init.data.toList.drop 307 = dktX1_init_13 := dk_seg dksX1_init_12 22 rfl rfl
theorem dX1_init_0 : decode cX1_init 0 = .ok (.aload_n 0, 1) := dk_42 (dk_at dksX1_init_0 0 rfl rfl)
theorem dX1_init_1 : decode cX1_init 1 = .ok (.invokespecial 3, 3) := dk_183 0 3 (dk_at dksX1_init_0 1 rfl rfl)
theorem dX1_init_4 : decode cX1_init 4 = .ok (.aload_n 0, 1) := dk_42 (dk_at dksX1_init_0 4 rfl rfl)
theorem dX1_init_5 : decode cX1_init 5 = .ok (.new 9, 3) := dk_187 0 9 (dk_at dksX1_init_0 5 rfl rfl)
theorem dX1_init_8 : decode cX1_init 8 = .ok (.dup, 1) := dk_89 (dk_at dksX1_init_0 8 rfl rfl)
theorem dX1_init_9 : decode cX1_init 9 = .ok (.invokespecial 11, 3) := dk_183 0 11 (dk_at dksX1_init_0 9 rfl rfl)
theorem dX1_init_12 : decode cX1_init 12 = .ok (.putfield 12, 3) := dk_181 0 12 (dk_at dksX1_init_0 12 rfl rfl)
theorem dX1_init_15 : decode cX1_init 15 = .ok (.aload_n 0, 1) := dk_42 (dk_at dksX1_init_0 15 rfl rfl)
theorem dX1_init_16 : decode cX1_init 16 = .ok (.new 9, 3) := dk_187 0 9 (dk_at dksX1_init_0 16 rfl rfl)
theorem dX1_init_19 : decode cX1_init 19 = .ok (.dup, 1) := dk_89 (dk_at dksX1_init_0 19 rfl rfl)
theorem dX1_init_20 : decode cX1_init 20 = .ok (.invokespecial 11, 3) := dk_183 0 11 (dk_at dksX1_init_0 20 rfl rfl)
theorem dX1_init_23 : decode cX1_init 23 = .ok (.putfield 16, 3) := dk_181 0 16 (dk_at dksX1_init_1 0 rfl rfl)
theorem dX1_init_26 : decode cX1_init 26 = .ok (.aload_n 0, 1) := dk_42 (dk_at dksX1_init_1 3 rfl rfl)
theorem dX1_init_27 : decode cX1_init 27 = .ok (.bipush 60, 2) := dk_16 60 (dk_at dksX1_init_1 4 rfl rfl)
theorem dX1_init_29 : decode cX1_init 29 = .ok (.newarray .int, 2) := dk_188_10 (dk_at dksX1_init_1 6 rfl rfl)
theorem dX1_init_31 : decode cX1_init 31 = .ok (.putfield 19, 3) := dk_181 0 19 (dk_at dksX1_init_1 8 rfl rfl)
theorem dX1_init_34 : decode cX1_init 34 = .ok (.aload_n 0, 1) := dk_42 (dk_at dksX1_init_1 11 rfl rfl)
theorem dX1_init_35 : decode cX1_init 35 = .ok (.bipush 10, 2) := dk_16 10 (dk_at dksX1_init_1 12 rfl rfl)
theorem dX1_init_37 : decode cX1_init 37 = .ok (.newarray .int, 2) := dk_188_10 (dk_at dksX1_init_1 14 rfl rfl)
theorem dX1_init_39 : decode cX1_init 39 = .ok (.putfield 23, 3) := dk_181 0 23 (dk_at dksX1_init_1 16 rfl rfl)
theorem dX1_init_42 : decode cX1_init 42 = .ok (.aload_n 0, 1) := dk_42 (dk_at dksX1_init_1 19 rfl rfl)
theorem dX1_init_43 : decode cX1_init 43 = .ok (.bipush 10, 2) := dk_16 10 (dk_at dksX1_init_1 20 rfl rfl)
theorem dX1_init_45 : decode cX1_init 45 = .ok (.newarray .int, 2) := dk_188_10 (dk_at dksX1_init_1 22 rfl rfl)
theorem dX1_init_47 : decode cX1_init 47 = .ok (.putfield 26, 3) := dk_181 0 26 (dk_at dksX1_init_2 0 rfl rfl)
theorem dX1_init_50 : decode cX1_init 50 = .ok (.aload_n 0, 1) := dk_42 (dk_at dksX1_init_2 3 rfl rfl)
theorem dX1_init_51 : decode cX1_init 51 = .ok (.bipush 10, 2) := dk_16 10 (dk_at dksX1_init_2 4 rfl rfl)
theorem dX1_init_53 : decode cX1_init 53 = .ok (.newarray .int, 2) := dk_188_10 (dk_at dksX1_init_2 6 rfl rfl)
theorem dX1_init_55 : decode cX1_init 55 = .ok (.putfield 29, 3) := dk_181 0 29 (dk_at dksX1_init_2 8 rfl rfl)
theorem dX1_init_58 : decode cX1_init 58 = .ok (.aload_n 0, 1) := dk_42 (dk_at dksX1_init_2 11 rfl rfl)
theorem dX1_init_59 : decode cX1_init 59 = .ok (.bipush 8, 2) := dk_16 8 (dk_at dksX1_init_2 12 rfl rfl)
theorem dX1_init_61 : decode cX1_init 61 = .ok (.newarray .int, 2) := dk_188_10 (dk_at dksX1_init_2 14 rfl rfl)
theorem dX1_init_63 : decode cX1_init 63 = .ok (.putfield 32, 3) := dk_181 0 32 (dk_at dksX1_init_2 16 rfl rfl)
theorem dX1_init_66 : decode cX1_init 66 = .ok (.aload_n 0, 1) := dk_42 (dk_at dksX1_init_2 19 rfl rfl)
theorem dX1_init_67 : decode cX1_init 67 = .ok (.bipush 8, 2) := dk_16 8 (dk_at dksX1_init_2 20 rfl rfl)
theorem dX1_init_69 : decode cX1_init 69 = .ok (.newarray .int, 2) := dk_188_10 (dk_at dksX1_init_2 22 rfl rfl)
theorem dX1_init_71 : decode cX1_init 71 = .ok (.putfield 35, 3) := dk_181 0 35 (dk_at dksX1_init_3 0 rfl rfl)
theorem dX1_init_74 : decode cX1_init 74 = .ok (.aload_n 0, 1) := dk_42 (dk_at dksX1_init_3 3 rfl rfl)
theorem dX1_init_75 : decode cX1_init 75 = .ok (.bipush 8, 2) := dk_16 8 (dk_at dksX1_init_3 4 rfl rfl)
theorem dX1_init_77 : decode cX1_init 77 = .ok (.newarray .int, 2) := dk_188_10 (dk_at dksX1_init_3 6 rfl rfl)
theorem dX1_init_79 : decode cX1_init 79 = .ok (.putfield 38, 3) := dk_181 0 38 (dk_at dksX1_init_3 8 rfl rfl)
theorem dX1_init_82 : decode cX1_init 82 = .ok (.aload_n 0, 1) := dk_42 (dk_at dksX1_init_3 11 rfl rfl)
theorem dX1_init_83 : decode cX1_init 83 = .ok (.bipush 8, 2) := dk_16 8 (dk_at dksX1_init_3 12 rfl rfl)
theorem dX1_init_85 : decode cX1_init 85 = .ok (.newarray .int, 2) := dk_188_10 (dk_at dksX1_init_3 14 rfl rfl)
theorem dX1_init_87 : decode cX1_init 87 = .ok (.putfield 41, 3) := dk_181 0 41 (dk_at dksX1_init_3 16 rfl rfl)
theorem dX1_init_90 : decode cX1_init 90 = .ok (.aload_n 0, 1) := dk_42 (dk_at dksX1_init_3 19 rfl rfl)
theorem dX1_init_91 : decode cX1_init 91 = .ok (.iconst 1, 1) := dk_4 (dk_at dksX1_init_3 20 rfl rfl)
theorem dX1_init_92 : decode cX1_init 92 = .ok (.putfield 44, 3) := dk_181 0 44 (dk_at dksX1_init_3 21 rfl rfl)
theorem dX1_init_95 : decode cX1_init 95 = .ok (.aload_n 0, 1) := dk_42 (dk_at dksX1_init_4 0 rfl rfl)
theorem dX1_init_96 : decode cX1_init 96 = .ok (.bipush 80, 2) := dk_16 80 (dk_at dksX1_init_4 1 rfl rfl)
theorem dX1_init_98 : decode cX1_init 98 = .ok (.newarray .int, 2) := dk_188_10 (dk_at dksX1_init_4 3 rfl rfl)
theorem dX1_init_100 : decode cX1_init 100 = .ok (.putfield 48, 3) := dk_181 0 48 (dk_at dksX1_init_4 5 rfl rfl)
theorem dX1_init_103 : decode cX1_init 103 = .ok (.aload_n 0, 1) := dk_42 (dk_at dksX1_init_4 8 rfl rfl)
theorem dX1_init_104 : decode cX1_init 104 = .ok (.bipush 60, 2) := dk_16 60 (dk_at dksX1_init_4 9 rfl rfl)
theorem dX1_init_106 : decode cX1_init 106 = .ok (.newarray .int, 2) := dk_188_10 (dk_at dksX1_init_4 11 rfl rfl)
theorem dX1_init_108 : decode cX1_init 108 = .ok (.putfield 51, 3) := dk_181 0 51 (dk_at dksX1_init_4 13 rfl rfl)
theorem dX1_init_111 : decode cX1_init 111 = .ok (.aload_n 0, 1) := dk_42 (dk_at dksX1_init_4 16 rfl rfl)
theorem dX1_init_112 : decode cX1_init 112 = .ok (.bipush 10, 2) := dk_16 10 (dk_at dksX1_init_4 17 rfl rfl)
theorem dX1_init_114 : decode cX1_init 114 = .ok (.newarray .int, 2) := dk_188_10 (dk_at dksX1_init_4 19 rfl rfl)
theorem dX1_init_116 : decode cX1_init 116 = .ok (.putfield 54, 3) := dk_181 0 54 (dk_at dksX1_init_4 21 rfl rfl)
theorem dX1_init_119 : decode cX1_init 119 = .ok (.aload_n 0, 1) := dk_42 (dk_at dksX1_init_5 0 rfl rfl)
theorem dX1_init_120 : decode cX1_init 120 = .ok (.bipush 10, 2) := dk_16 10 (dk_at dksX1_init_5 1 rfl rfl)
theorem dX1_init_122 : decode cX1_init 122 = .ok (.newarray .int, 2) := dk_188_10 (dk_at dksX1_init_5 3 rfl rfl)
theorem dX1_init_124 : decode cX1_init 124 = .ok (.putfield 57, 3) := dk_181 0 57 (dk_at dksX1_init_5 5 rfl rfl)
theorem dX1_init_127 : decode cX1_init 127 = .ok (.aload_n 0, 1) := dk_42 (dk_at dksX1_init_5 8 rfl rfl)
theorem dX1_init_128 : decode cX1_init 128 = .ok (.bipush 10, 2) := dk_16 10 (dk_at dksX1_init_5 9 rfl rfl)
theorem dX1_init_130 : decode cX1_init 130 = .ok (.newarray .int, 2) := dk_188_10 (dk_at dksX1_init_5 11 rfl rfl)
theorem dX1_init_132 : decode cX1_init 132 = .ok (.putfield 60, 3) := dk_181 0 60 (dk_at dksX1_init_5 13 rfl rfl)
theorem dX1_init_135 : decode cX1_init 135 = .ok (.aload_n 0, 1) := dk_42 (dk_at dksX1_init_5 16 rfl rfl)
theorem dX1_init_136 : decode cX1_init 136 = .ok (.iconst 4, 1) := dk_7 (dk_at dksX1_init_5 17 rfl rfl)
theorem dX1_init_137 : decode cX1_init 137 = .ok (.newarray .int, 2) := dk_188_10 (dk_at dksX1_init_5 18 rfl rfl)
theorem dX1_init_139 : decode cX1_init 139 = .ok (.putfield 63, 3) := dk_181 0 63 (dk_at dksX1_init_5 20 rfl rfl)
theorem dX1_init_142 : decode cX1_init 142 = .ok (.aload_n 0, 1) := dk_42 (dk_at dksX1_init_5 23 rfl rfl)
theorem dX1_init_143 : decode cX1_init 143 = .ok (.iconst 4, 1) := dk_7 (dk_at dksX1_init_6 0 rfl rfl)
theorem dX1_init_144 : decode cX1_init 144 = .ok (.newarray .int, 2) := dk_188_10 (dk_at dksX1_init_6 1 rfl rfl)
theorem dX1_init_146 : decode cX1_init 146 = .ok (.putfield 66, 3) := dk_181 0 66 (dk_at dksX1_init_6 3 rfl rfl)
theorem dX1_init_149 : decode cX1_init 149 = .ok (.aload_n 0, 1) := dk_42 (dk_at dksX1_init_6 6 rfl rfl)
theorem dX1_init_150 : decode cX1_init 150 = .ok (.bipush 8, 2) := dk_16 8 (dk_at dksX1_init_6 7 rfl rfl)
theorem dX1_init_152 : decode cX1_init 152 = .ok (.newarray .int, 2) := dk_188_10 (dk_at dksX1_init_6 9 rfl rfl)
theorem dX1_init_154 : decode cX1_init 154 = .ok (.putfield 69, 3) := dk_181 0 69 (dk_at dksX1_init_6 11 rfl rfl)
theorem dX1_init_157 : decode cX1_init 157 = .ok (.aload_n 0, 1) := dk_42 (dk_at dksX1_init_6 14 rfl rfl)
theorem dX1_init_158 : decode cX1_init 158 = .ok (.bipush 8, 2) := dk_16 8 (dk_at dksX1_init_6 15 rfl rfl)
theorem dX1_init_160 : decode cX1_init 160 = .ok (.newarray .int, 2) := dk_188_10 (dk_at dksX1_init_6 17 rfl rfl)
theorem dX1_init_162 : decode cX1_init 162 = .ok (.putfield 72, 3) := dk_181 0 72 (dk_at dksX1_init_6 19 rfl rfl)
theorem dX1_init_165 : decode cX1_init 165 = .ok (.aload_n 0, 1) := dk_42 (dk_at dksX1_init_6 22 rfl rfl)
theorem dX1_init_166 : decode cX1_init 166 = .ok (.bipush 8, 2) := dk_16 8 (dk_at dksX1_init_7 0 rfl rfl)
theorem dX1_init_168 : decode cX1_init 168 = .ok (.newarray .int, 2) := dk_188_10 (dk_at dksX1_init_7 2 rfl rfl)
theorem dX1_init_170 : decode cX1_init 170 = .ok (.putfield 75, 3) := dk_181 0 75 (dk_at dksX1_init_7 4 rfl rfl)
theorem dX1_init_173 : decode cX1_init 173 = .ok (.aload_n 0, 1) := dk_42 (dk_at dksX1_init_7 7 rfl rfl)
theorem dX1_init_174 : decode cX1_init 174 = .ok (.bipush 8, 2) := dk_16 8 (dk_at dksX1_init_7 8 rfl rfl)
theorem dX1_init_176 : decode cX1_init 176 = .ok (.newarray .int, 2) := dk_188_10 (dk_at dksX1_init_7 10 rfl rfl)
theorem dX1_init_178 : decode cX1_init 178 = .ok (.putfield 78, 3) := dk_181 0 78 (dk_at dksX1_init_7 12 rfl rfl)
theorem dX1_init_181 : decode cX1_init 181 = .ok (.aload_n 0, 1) := dk_42 (dk_at dksX1_init_7 15 rfl rfl)
theorem dX1_init_182 : decode cX1_init 182 = .ok (.iconst 5, 1) := dk_8 (dk_at dksX1_init_7 16 rfl rfl)
theorem dX1_init_183 : decode cX1_init 183 = .ok (.newarray .int, 2) := dk_188_10 (dk_at dksX1_init_7 17 rfl rfl)
theorem dX1_init_185 : decode cX1_init 185 = .ok (.putfield 81, 3) := dk_181 0 81 (dk_at dksX1_init_7 19 rfl rfl)
theorem dX1_init_188 : decode cX1_init 188 = .ok (.aload_n 0, 1) := dk_42 (dk_at dksX1_init_7 22 rfl rfl)
theorem dX1_init_189 : decode cX1_init 189 = .ok (.bipush 12, 2) := dk_16 12 (dk_at dksX1_init_8 0 rfl rfl)
theorem dX1_init_191 : decode cX1_init 191 = .ok (.anewarray 9, 3) := dk_189 0 9 (dk_at dksX1_init_8 2 rfl rfl)
theorem dX1_init_194 : decode cX1_init 194 = .ok (.putfield 84, 3) := dk_181 0 84 (dk_at dksX1_init_8 5 rfl rfl)
theorem dX1_init_197 : decode cX1_init 197 = .ok (.aload_n 0, 1) := dk_42 (dk_at dksX1_init_8 8 rfl rfl)
theorem dX1_init_198 : decode cX1_init 198 = .ok (.new 9, 3) := dk_187 0 9 (dk_at dksX1_init_8 9 rfl rfl)
theorem dX1_init_201 : decode cX1_init 201 = .ok (.dup, 1) := dk_89 (dk_at dksX1_init_8 12 rfl rfl)
theorem dX1_init_202 : decode cX1_init 202 = .ok (.invokespecial 11, 3) := dk_183 0 11 (dk_at dksX1_init_8 13 rfl rfl)
theorem dX1_init_205 : decode cX1_init 205 = .ok (.putfield 88, 3) := dk_181 0 88 (dk_at dksX1_init_8 16 rfl rfl)
theorem dX1_init_208 : decode cX1_init 208 = .ok (.aload_n 0, 1) := dk_42 (dk_at dksX1_init_8 19 rfl rfl)
theorem dX1_init_209 : decode cX1_init 209 = .ok (.bipush 40, 2) := dk_16 40 (dk_at dksX1_init_8 20 rfl rfl)
theorem dX1_init_211 : decode cX1_init 211 = .ok (.newarray .int, 2) := dk_188_10 (dk_at dksX1_init_8 22 rfl rfl)
theorem dX1_init_213 : decode cX1_init 213 = .ok (.putfield 91, 3) := dk_181 0 91 (dk_at dksX1_init_9 0 rfl rfl)
theorem dX1_init_216 : decode cX1_init 216 = .ok (.aload_n 0, 1) := dk_42 (dk_at dksX1_init_9 3 rfl rfl)
theorem dX1_init_217 : decode cX1_init 217 = .ok (.bipush 40, 2) := dk_16 40 (dk_at dksX1_init_9 4 rfl rfl)
theorem dX1_init_219 : decode cX1_init 219 = .ok (.newarray .int, 2) := dk_188_10 (dk_at dksX1_init_9 6 rfl rfl)
theorem dX1_init_221 : decode cX1_init 221 = .ok (.putfield 94, 3) := dk_181 0 94 (dk_at dksX1_init_9 8 rfl rfl)
theorem dX1_init_224 : decode cX1_init 224 = .ok (.aload_n 0, 1) := dk_42 (dk_at dksX1_init_9 11 rfl rfl)
theorem dX1_init_225 : decode cX1_init 225 = .ok (.bipush 13, 2) := dk_16 13 (dk_at dksX1_init_9 12 rfl rfl)
theorem dX1_init_227 : decode cX1_init 227 = .ok (.newarray .int, 2) := dk_188_10 (dk_at dksX1_init_9 14 rfl rfl)
theorem dX1_init_229 : decode cX1_init 229 = .ok (.putfield 97, 3) := dk_181 0 97 (dk_at dksX1_init_9 16 rfl rfl)
theorem dX1_init_232 : decode cX1_init 232 = .ok (.aload_n 0, 1) := dk_42 (dk_at dksX1_init_9 19 rfl rfl)
theorem dX1_init_233 : decode cX1_init 233 = .ok (.bipush 14, 2) := dk_16 14 (dk_at dksX1_init_9 20 rfl rfl)
theorem dX1_init_235 : decode cX1_init 235 = .ok (.newarray .int, 2) := dk_188_10 (dk_at dksX1_init_9 22 rfl rfl)
theorem dX1_init_237 : decode cX1_init 237 = .ok (.putfield 100, 3) := dk_181 0 100 (dk_at dksX1_init_10 0 rfl rfl)
theorem dX1_init_240 : decode cX1_init 240 = .ok (.aload_n 0, 1) := dk_42 (dk_at dksX1_init_10 3 rfl rfl)
theorem dX1_init_241 : decode cX1_init 241 = .ok (.bipush 6, 2) := dk_16 6 (dk_at dksX1_init_10 4 rfl rfl)
theorem dX1_init_243 : decode cX1_init 243 = .ok (.newarray .int, 2) := dk_188_10 (dk_at dksX1_init_10 6 rfl rfl)
theorem dX1_init_245 : decode cX1_init 245 = .ok (.putfield 103, 3) := dk_181 0 103 (dk_at dksX1_init_10 8 rfl rfl)
theorem dX1_init_248 : decode cX1_init 248 = .ok (.aload_n 0, 1) := dk_42 (dk_at dksX1_init_10 11 rfl rfl)
theorem dX1_init_249 : decode cX1_init 249 = .ok (.bipush 6, 2) := dk_16 6 (dk_at dksX1_init_10 12 rfl rfl)
theorem dX1_init_251 : decode cX1_init 251 = .ok (.newarray .int, 2) := dk_188_10 (dk_at dksX1_init_10 14 rfl rfl)
theorem dX1_init_253 : decode cX1_init 253 = .ok (.putfield 106, 3) := dk_181 0 106 (dk_at dksX1_init_10 16 rfl rfl)
theorem dX1_init_256 : decode cX1_init 256 = .ok (.aload_n 0, 1) := dk_42 (dk_at dksX1_init_10 19 rfl rfl)
theorem dX1_init_257 : decode cX1_init 257 = .ok (.bipush 49, 2) := dk_16 49 (dk_at dksX1_init_10 20 rfl rfl)
theorem dX1_init_259 : decode cX1_init 259 = .ok (.newarray .int, 2) := dk_188_10 (dk_at dksX1_init_10 22 rfl rfl)
theorem dX1_init_261 : decode cX1_init 261 = .ok (.putfield 109, 3) := dk_181 0 109 (dk_at dksX1_init_11 0 rfl rfl)
theorem dX1_init_264 : decode cX1_init 264 = .ok (.aload_n 0, 1) := dk_42 (dk_at dksX1_init_11 3 rfl rfl)
theorem dX1_init_265 : decode cX1_init 265 = .ok (.bipush 100, 2) := dk_16 100 (dk_at dksX1_init_11 4 rfl rfl)
theorem dX1_init_267 : decode cX1_init 267 = .ok (.newarray .int, 2) := dk_188_10 (dk_at dksX1_init_11 6 rfl rfl)
theorem dX1_init_269 : decode cX1_init 269 = .ok (.putfield 112, 3) := dk_181 0 112 (dk_at dksX1_init_11 8 rfl rfl)
theorem dX1_init_272 : decode cX1_init 272 = .ok (.aload_n 0, 1) := dk_42 (dk_at dksX1_init_11 11 rfl rfl)
theorem dX1_init_273 : decode cX1_init 273 = .ok (.sipush 19968, 3) := dk_17 78 0 (dk_at dksX1_init_11 12 rfl rfl)
theorem dX1_init_276 : decode cX1_init 276 = .ok (.newarray .int, 2) := dk_188_10 (dk_at dksX1_init_11 15 rfl rfl)
theorem dX1_init_278 : decode cX1_init 278 = .ok (.putfield 115, 3) := dk_181 0 115 (dk_at dksX1_init_11 17 rfl rfl)
theorem dX1_init_281 : decode cX1_init 281 = .ok (.aload_n 0, 1) := dk_42 (dk_at dksX1_init_11 20 rfl rfl)
theorem dX1_init_282 : decode cX1_init 282 = .ok (.iconst 5, 1) := dk_8 (dk_at dksX1_init_11 21 rfl rfl)
theorem dX1_init_283 : decode cX1_init 283 = .ok (.newarray .int, 2) := dk_188_10 (dk_at dksX1_init_11 22 rfl rfl)
theorem dX1_init_285 : decode cX1_init 285 = .ok (.putfield 118, 3) := dk_181 0 118 (dk_at dksX1_init_12 0 rfl rfl)
theorem dX1_init_288 : decode cX1_init 288 = .ok (.aload_n 0, 1) := dk_42 (dk_at dksX1_init_12 3 rfl rfl)
theorem dX1_init_289 : decode cX1_init 289 = .ok (.iconst 4, 1) := dk_7 (dk_at dksX1_init_12 4 rfl rfl)
theorem dX1_init_290 : decode cX1_init 290 = .ok (.newarray .int, 2) := dk_188_10 (dk_at dksX1_init_12 5 rfl rfl)
theorem dX1_init_292 : decode cX1_init 292 = .ok (.putfield 121, 3) := dk_181 0 121 (dk_at dksX1_init_12 7 rfl rfl)
theorem dX1_init_295 : decode cX1_init 295 = .ok (.aload_n 0, 1) := dk_42 (dk_at dksX1_init_12 10 rfl rfl)
theorem dX1_init_296 : decode cX1_init 296 = .ok (.iconst 4, 1) := dk_7 (dk_at dksX1_init_12 11 rfl rfl)
theorem dX1_init_297 : decode cX1_init 297 = .ok (.newarray .int, 2) := dk_188_10 (dk_at dksX1_init_12 12 rfl rfl)
theorem dX1_init_299 : decode cX1_init 299 = .ok (.putfield 124, 3) := dk_181 0 124 (dk_at dksX1_init_12 14 rfl rfl)
theorem dX1_init_302 : decode cX1_init 302 = .ok (.aload_n 0, 1) := dk_42 (dk_at dksX1_init_12 17 rfl rfl)
theorem dX1_init_303 : decode cX1_init 303 = .ok (.iconst 2, 1) := dk_5 (dk_at dksX1_init_12 18 rfl rfl)
theorem dX1_init_304 : decode cX1_init 304 = .ok (.anewarray 9, 3) := dk_189 0 9 (dk_at dksX1_init_12 19 rfl rfl)
theorem dX1_init_307 : decode cX1_init 307 = .ok (.putfield 127, 3) := dk_181 0 127 (dk_at dksX1_init_13 0 rfl rfl)
theorem dX1_init_310 : decode cX1_init 310 = .ok (.aload_n 0, 1) := dk_42 (dk_at dksX1_init_13 3 rfl rfl)
theorem dX1_init_311 : decode cX1_init 311 = .ok (.iconst 2, 1) := dk_5 (dk_at dksX1_init_13 4 rfl rfl)
theorem dX1_init_312 : decode cX1_init 312 = .ok (.newarray .int, 2) := dk_188_10 (dk_at dksX1_init_13 5 rfl rfl)
theorem dX1_init_314 : decode cX1_init 314 = .ok (.putfield 130, 3) := dk_181 0 130 (dk_at dksX1_init_13 7 rfl rfl)
theorem dX1_init_317 : decode cX1_init 317 = .ok (.aload_n 0, 1) := dk_42 (dk_at dksX1_init_13 10 rfl rfl)
theorem dX1_init_318 : decode cX1_init 318 = .ok (.bipush 16, 2) := dk_16 16 (dk_at dksX1_init_13 11 rfl rfl)
theorem dX1_init_320 : decode cX1_init 320 = .ok (.newarray .long, 2) := dk_188_11 (dk_at dksX1_init_13 13 rfl rfl)
theorem dX1_init_322 : decode cX1_init 322 = .ok (.putfield 133, 3) := dk_181 0 133 (dk_at dksX1_init_13 15 rfl rfl)
theorem dX1_init_325 : decode cX1_init 325 = .ok (.return_, 1) := dk_177 (dk_at dksX1_init_13 18 rfl rfl)
def dkwX1_sign_2 : List UInt8 := [167, 255, 224, 42, 89, 180, 0, 163, 7, 96, 181, 0, 163, 42, 180, 0, 163, 172]
abbrev dktX1_sign_2 : List UInt8 := dkwX1_sign_2 ++ []
def dkwX1_sign_1 : List UInt8 := [180, 0, 163, 28, 96, 27, 16, 24, 16, 8, 28, 104, 100, 122, 17, 0, 255, 126, 79, 132, 2, 1]
abbrev dktX1_sign_1 : List UInt8 := dkwX1_sign_1 ++ dktX1_sign_2
def dkwX1_sign_0 : List UInt8 := [42, 180, 0, 163, 16, 76, 164, 0, 5, 2, 172, 3, 61, 28, 7, 162, 0, 33, 42, 180, 0, 48, 42]
abbrev dktX1_sign_0 : List UInt8 := dkwX1_sign_0 ++ dktX1_sign_1
theorem dksX1_sign_0 : cX1_sign.data.toList.drop 0 = dktX1_sign_0 := by decide +kernel
theorem dksX1_sign_1 : cX1_sign.data.toList.drop 23 = dktX1_sign_1 := dk_seg dksX1_sign_0 23 rfl rfl
theorem dksX1_sign_2 : cX1_sign.data.toList.drop 45 = dktX1_sign_2 := dk_seg dksX1_sign_1 22 rfl rfl
theorem dX1_sign_0 : decode cX1_sign 0 = .ok (.aload_n 0, 1) := dk_42 (dk_at dksX1_sign_0 0 rfl rfl)
theorem dX1_sign_1 : decode cX1_sign 1 = .ok (.getfield 163, 3) := dk_180 0 163 (dk_at dksX1_sign_0 1 rfl rfl)
theorem dX1_sign_4 : decode cX1_sign 4 = .ok (.bipush 76, 2) := dk_16 76 (dk_at dksX1_sign_0 4 rfl rfl)
theorem dX1_sign_6 : decode cX1_sign 6 = .ok (.if_icmp .le 5, 3) := dk_164 0 5 (dk_at dksX1_sign_0 6 rfl rfl)
theorem dX1_sign_9 : decode cX1_sign 9 = .ok (.iconst (-1), 1) := dk_2 (dk_at dksX1_sign_0 9 rfl rfl)
theorem dX1_sign_10 : decode cX1_sign 10 = .ok (.ireturn, 1) := dk_172 (dk_at dksX1_sign_0 10 rfl rfl)
theorem dX1_sign_11 : decode cX1_sign 11 = .ok (.iconst 0, 1) := dk_3 (dk_at dksX1_sign_0 11 rfl rfl)
theorem dX1_sign_12 : decode cX1_sign 12 = .ok (.istore_n 2, 1) := dk_61 (dk_at dksX1_sign_0 12 rfl rfl)
theorem dX1_sign_13 : decode cX1_sign 13 = .ok (.iload_n 2, 1) := dk_28 (dk_at dksX1_sign_0 13 rfl rfl)
theorem dX1_sign_14 : decode cX1_sign 14 = .ok (.iconst 4, 1) := dk_7 (dk_at dksX1_sign_0 14 rfl rfl)
theorem dX1_sign_15 : decode cX1_sign 15 = .ok (.if_icmp .ge 33, 3) := dk_162 0 33 (dk_at dksX1_sign_0 15 rfl rfl)
theorem dX1_sign_18 : decode cX1_sign 18 = .ok (.aload_n 0, 1) := dk_42 (dk_at dksX1_sign_0 18 rfl rfl)
theorem dX1_sign_19 : decode cX1_sign 19 = .ok (.getfield 48, 3) := dk_180 0 48 (dk_at dksX1_sign_0 19 rfl rfl)
theorem dX1_sign_22 : decode cX1_sign 22 = .ok (.aload_n 0, 1) := dk_42 (dk_at dksX1_sign_0 22 rfl rfl)
theorem dX1_sign_23 : decode cX1_sign 23 = .ok (.getfield 163, 3) := dk_180 0 163 (dk_at dksX1_sign_1 0 rfl rfl)
theorem dX1_sign_26 : decode cX1_sign 26 = .ok (.iload_n 2, 1) := dk_28 (dk_at dksX1_sign_1 3 rfl rfl)
theorem dX1_sign_27 : decode cX1_sign 27 = .ok (.iadd, 1) := dk_96 (dk_at dksX1_sign_1 4 rfl rfl)
theorem dX1_sign_28 : decode cX1_sign 28 = .ok (.iload_n 1, 1) := dk_27 (dk_at dksX1_sign_1 5 rfl rfl)
theorem dX1_sign_29 : decode cX1_sign 29 = .ok (.bipush 24, 2) := dk_16 24 (dk_at dksX1_sign_1 6 rfl rfl)
theorem dX1_sign_31 : decode cX1_sign 31 = .ok (.bipush 8, 2) := dk_16 8 (dk_at dksX1_sign_1 8 rfl rfl)
theorem dX1_sign_33 : decode cX1_sign 33 = .ok (.iload_n 2, 1) := dk_28 (dk_at dksX1_sign_1 10 rfl rfl)
theorem dX1_sign_34 : decode cX1_sign 34 = .ok (.imul, 1) := dk_104 (dk_at dksX1_sign_1 11 rfl rfl)
theorem dX1_sign_35 : decode cX1_sign 35 = .ok (.isub, 1) := dk_100 (dk_at dksX1_sign_1 12 rfl rfl)
theorem dX1_sign_36 : decode cX1_sign 36 = .ok (.ishr, 1) := dk_122 (dk_at dksX1_sign_1 13 rfl rfl)
theorem dX1_sign_37 : decode cX1_sign 37 = .ok (.sipush 255, 3) := dk_17 0 255 (dk_at dksX1_sign_1 14 rfl rfl)
theorem dX1_sign_40 : decode cX1_sign 40 = .ok (.iand, 1) := dk_126 (dk_at dksX1_sign_1 17 rfl rfl)
theorem dX1_sign_41 : decode cX1_sign 41 = .ok (.iastore, 1) := dk_79 (dk_at dksX1_sign_1 18 rfl rfl)
theorem dX1_sign_42 : decode cX1_sign 42 = .ok (.iinc 2 1, 3) := dk_132 2 1 (dk_at dksX1_sign_1 19 rfl rfl)
theorem dX1_sign_45 : decode cX1_sign 45 = .ok (.goto (-32), 3) := dk_167 255 224 (dk_at dksX1_sign_2 0 rfl rfl)
theorem dX1_sign_48 : decode cX1_sign 48 = .ok (.aload_n 0, 1) := dk_42 (dk_at dksX1_sign_2 3 rfl rfl)
theorem dX1_sign_49 : decode cX1_sign 49 = .ok (.dup, 1) := dk_89 (dk_at dksX1_sign_2 4 rfl rfl)
theorem dX1_sign_50 : decode cX1_sign 50 = .ok (.getfield 163, 3) := dk_180 0 163 (dk_at dksX1_sign_2 5 rfl rfl)
theorem dX1_sign_53 : decode cX1_sign 53 = .ok (.iconst 4, 1) := dk_7 (dk_at dksX1_sign_2 8 rfl rfl)
theorem dX1_sign_54 : decode cX1_sign 54 = .ok (.iadd, 1) := dk_96 (dk_at dksX1_sign_2 9 rfl rfl)
theorem dX1_sign_55 : decode cX1_sign 55 = .ok (.putfield 163, 3) := dk_181 0 163 (dk_at dksX1_sign_2 10 rfl rfl)
theorem dX1_sign_58 : decode cX1_sign 58 = .ok (.aload_n 0, 1) := dk_42 (dk_at dksX1_sign_2 13 rfl rfl)
theorem dX1_sign_59 : decode cX1_sign 59 = .ok (.getfield 163, 3) := dk_180 0 163 (dk_at dksX1_sign_2 14 rfl rfl)
theorem dX1_sign_62 : decode cX1_sign 62 = .ok (.ireturn, 1) := dk_172 (dk_at dksX1_sign_2 17 rfl rfl)
def dkwX1_end_0 : List UInt8 := [27, 133, 9, 42, 180, 0, 163, 133, 184, 0, 141, 154, 0, 5, 3, 172, 42, 27, 181, 0, 163, 4, 172]
abbrev dktX1_end_0 : List UInt8 := dkwX1_end_0 ++ []
theorem dksX1_end_0 : cX1_end.data.toList.drop 0 = dktX1_end_0 := by decide +kernel
theorem dX1_end_0 : decode cX1_end 0 = .ok (.iload_n 1, 1) := dk_27 (dk_at dksX1_end_0 0 rfl rfl)
theorem dX1_end_1 : decode cX1_end 1 = .ok (.i2l, 1) := dk_133 (dk_at dksX1_end_0 1 rfl rfl)
theorem dX1_end_2 : decode cX1_end 2 = .ok (.lconst 0, 1) := dk_9 (dk_at dksX1_end_0 2 rfl rfl)
theorem dX1_end_3 : decode cX1_end 3 = .ok (.aload_n 0, 1) := dk_42 (dk_at dksX1_end_0 3 rfl rfl)
theorem dX1_end_4 : decode cX1_end 4 = .ok (.getfield 163, 3) := dk_180 0 163 (dk_at dksX1_end_0 4 rfl rfl)
theorem dX1_end_7 : decode cX1_end 7 = .ok (.i2l, 1) := dk_133 (dk_at dksX1_end_0 7 rfl rfl)
theorem dX1_end_8 : decode cX1_end 8 = .ok (.invokestatic 141, 3) := dk_184 0 141 (dk_at dksX1_end_0 8 rfl rfl)
theorem dX1_end_11 : decode cX1_end 11 = .ok (.ifCond .ne 5, 3) := dk_154 0 5 (dk_at dksX1_end_0 11 rfl rfl)
theorem dX1_end_14 : decode cX1_end 14 = .ok (.iconst 0, 1) := dk_3 (dk_at dksX1_end_0 14 rfl rfl)
theorem dX1_end_15 : decode cX1_end 15 = .ok (.ireturn, 1) := dk_172 (dk_at dksX1_end_0 15 rfl rfl)
theorem dX1_end_16 : decode cX1_end 16 = .ok (.aload_n 0, 1) := dk_42 (dk_at dksX1_end_0 16 rfl rfl)
theorem dX1_end_17 : decode cX1_end 17 = .ok (.iload_n 1, 1) := dk_27 (dk_at dksX1_end_0 17 rfl rfl)
theorem dX1_end_18 : decode cX1_end 18 = .ok (.putfield 163, 3) := dk_181 0 163 (dk_at dksX1_end_0 18 rfl rfl)
theorem dX1_end_21 : decode cX1_end 21 = .ok (.iconst 1, 1) := dk_4 (dk_at dksX1_end_0 21 rfl rfl)
theorem dX1_end_22 : decode cX1_end 22 = .ok (.ireturn, 1) := dk_172 (dk_at dksX1_end_0 22 rfl rfl)
def dkwX1_in_0 : List UInt8 := [30, 32, 148, 155, 0, 14, 30, 22, 4, 148, 157, 0, 7, 4, 167, 0, 4, 3, 172]
abbrev dktX1_in_0 : List UInt8 := dkwX1_in_0 ++ []
theorem dksX1_in_0 : cX1_in.data.toList.drop 0 = dktX1_in_0 := by decide +kernel
theorem dX1_in_0 : decode cX1_in 0 = .ok (.lload_n 0, 1) := dk_30 (dk_at dksX1_in_0 0 rfl rfl)
theorem dX1_in_1 : decode cX1_in 1 = .ok (.lload_n 2, 1) := dk_32 (dk_at dksX1_in_0 1 rfl rfl)
theorem dX1_in_2 : decode cX1_in 2 = .ok (.lcmp, 1) := dk_148 (dk_at dksX1_in_0 2 rfl rfl)
theorem dX1_in_3 : decode cX1_in 3 = .ok (.ifCond .lt 14, 3) := dk_155 0 14 (dk_at dksX1_in_0 3 rfl rfl)
theorem dX1_in_6 : decode cX1_in 6 = .ok (.lload_n 0, 1) := dk_30 (dk_at dksX1_in_0 6 rfl rfl)
theorem dX1_in_7 : decode cX1_in 7 = .ok (.lload 4, 2) := dk_22 4 (dk_at dksX1_in_0 7 rfl rfl)
theorem dX1_in_9 : decode cX1_in 9 = .ok (.lcmp, 1) := dk_148 (dk_at dksX1_in_0 9 rfl rfl)
theorem dX1_in_10 : decode cX1_in 10 = .ok (.ifCond .gt 7, 3) := dk_157 0 7 (dk_at dksX1_in_0 10 rfl rfl)
theorem dX1_in_13 : decode cX1_in 13 = .ok (.iconst 1, 1) := dk_4 (dk_at dksX1_in_0 13 rfl rfl)
theorem dX1_in_14 : decode cX1_in 14 = .ok (.goto 4, 3) := dk_167 0 4 (dk_at dksX1_in_0 14 rfl rfl)
theorem dX1_in_17 : decode cX1_in 17 = .ok (.iconst 0, 1) := dk_3 (dk_at dksX1_in_0 17 rfl rfl)
theorem dX1_in_18 : decode cX1_in 18 = .ok (.ireturn, 1) := dk_172 (dk_at dksX1_in_0 18 rfl rfl)
def dkwX1_words_8 : List UInt8 := [167, 255, 154, 42, 182, 0, 225, 21, 5, 172]
abbrev dktX1_words_8 : List UInt8 := dkwX1_words_8 ++ []
def dkwX1_words_7 : List UInt8 := [180, 0, 145, 42, 180, 0, 60, 42, 180, 0, 145, 46, 79, 42, 89, 180, 0, 145, 4, 96, 181, 0, 145]
abbrev dktX1_words_7 : List UInt8 := dkwX1_words_7 ++ dktX1_words_8
def dkwX1_words_6 : List UInt8 := [180, 0, 26, 42, 180, 0, 145, 42, 180, 0, 57, 42, 180, 0, 145, 46, 79, 42, 180, 0, 29, 42]
abbrev dktX1_words_6 : List UInt8 := dkwX1_words_6 ++ dktX1_words_7
def dkwX1_words_5 : List UInt8 := [184, 0, 219, 42, 180, 0, 23, 42, 180, 0, 145, 42, 180, 0, 54, 42, 180, 0, 145, 46, 79, 42]
abbrev dktX1_words_5 : List UInt8 := dkwX1_words_5 ++ dktX1_words_6
def dkwX1_words_4 : List UInt8 := [180, 0, 51, 16, 6, 42, 180, 0, 145, 104, 42, 180, 0, 19, 16, 6, 42, 180, 0, 145, 104, 16, 6]
abbrev dktX1_words_4 : List UInt8 := dkwX1_words_4 ++ dktX1_words_5
def dkwX1_words_3 : List UInt8 := [42, 180, 0, 201, 42, 180, 0, 145, 100, 54, 5, 42, 180, 0, 145, 42, 180, 0, 201, 162, 0, 97, 42]
abbrev dktX1_words_3 : List UInt8 := dkwX1_words_3 ++ dktX1_words_4
def dkwX1_words_2 : List UInt8 := [167, 0, 4, 3, 62, 167, 255, 228, 42, 27, 28, 182, 0, 215, 54, 4, 21, 4, 156, 0, 6, 21, 4, 172]
abbrev dktX1_words_2 : List UInt8 := dkwX1_words_2 ++ dktX1_words_3
def dkwX1_words_1 : List UInt8 := [62, 29, 153, 0, 30, 42, 182, 0, 209, 61, 28, 153, 0, 16, 42, 16, 59, 182, 0, 212, 153, 0, 7, 4]
abbrev dktX1_words_1 : List UInt8 := dkwX1_words_1 ++ dktX1_words_2
def dkwX1_words_0 : List UInt8 := [42, 16, 76, 182, 0, 206, 60, 27, 154, 0, 5, 3, 172, 42, 42, 180, 0, 145, 181, 0, 201, 4, 61, 4]
abbrev dktX1_words_0 : List UInt8 := dkwX1_words_0 ++ dktX1_words_1
theorem dksX1_words_0 : cX1_words.data.toList.drop 0 = dktX1_words_0 := by decide +kernel
theorem dksX1_words_1 : cX1_words.data.toList.drop 24 = dktX1_words_1 := dk_seg dksX1_words_0 24 rfl rfl
theorem dksX1_words_2 : cX1_words.data.toList.drop 48 = dktX1_words_2 := dk_seg dksX1_words_1 24 rfl rfl
theorem dksX1_words_3 : cX1_words.data.toList.drop 72 = dktX1_words_3 := dk_seg dksX1_words_2 24 rfl rfl
theorem dksX1_words_4 : cX1_words.data.toList.drop 95 = dktX1_words_4 := dk_seg dksX1_words_3 23 rfl rfl
theorem dksX1_words_5 : cX1_words.data.toList.drop 118 = dktX1_words_5 := dk_seg dksX1_words_4 23 rfl rfl
theorem dksX1_words_6 : cX1_words.data.toList.drop 140 = dktX1_words_6 := dk_seg dksX1_words_5 22 rfl rfl
theorem dksX1_words_7 : cX1_words.data.toList.drop 162 = dktX1_words_7 := dk_seg dksX1_words_6 22 rfl rfl
theorem dksX1_words_8 : cX1_words.data.toList.drop 185 = dktX1_words_8 := dk_seg dksX1_words_7 23 rfl rfl
theorem dX1_words_0 : decode cX1_words 0 = .ok (.aload_n 0, 1) := dk_42 (dk_at dksX1_words_0 0 rfl rfl)
theorem dX1_words_1 : decode cX1_words 1 = .ok (.bipush 76, 2) := dk_16 76 (dk_at dksX1_words_0 1 rfl rfl)
theorem dX1_words_3 : decode cX1_words 3 = .ok (.invokevirtual 206, 3) := dk_182 0 206 (dk_at dksX1_words_0 3 rfl rfl)
theorem dX1_words_6 : decode cX1_words 6 = .ok (.istore_n 1, 1) := dk_60 (dk_at dksX1_words_0 6 rfl rfl)
theorem dX1_words_7 : decode cX1_words 7 = .ok (.iload_n 1, 1) := dk_27 (dk_at dksX1_words_0 7 rfl rfl)
theorem dX1_words_8 : decode cX1_words 8 = .ok (.ifCond .ne 5, 3) := dk_154 0 5 (dk_at dksX1_words_0 8 rfl rfl)
theorem dX1_words_11 : decode cX1_words 11 = .ok (.iconst 0, 1) := dk_3 (dk_at dksX1_words_0 11 rfl rfl)
theorem dX1_words_12 : decode cX1_words 12 = .ok (.ireturn, 1) := dk_172 (dk_at dksX1_words_0 12 rfl rfl)
theorem dX1_words_13 : decode cX1_words 13 = .ok (.aload_n 0, 1) := dk_42 (dk_at dksX1_words_0 13 rfl rfl)
theorem dX1_words_14 : decode cX1_words 14 = .ok (.aload_n 0, 1) := dk_42 (dk_at dksX1_words_0 14 rfl rfl)
theorem dX1_words_15 : decode cX1_words 15 = .ok (.getfield 145, 3) := dk_180 0 145 (dk_at dksX1_words_0 15 rfl rfl)
theorem dX1_words_18 : decode cX1_words 18 = .ok (.putfield 201, 3) := dk_181 0 201 (dk_at dksX1_words_0 18 rfl rfl)
theorem dX1_words_21 : decode cX1_words 21 = .ok (.iconst 1, 1) := dk_4 (dk_at dksX1_words_0 21 rfl rfl)
theorem dX1_words_22 : decode cX1_words 22 = .ok (.istore_n 2, 1) := dk_61 (dk_at dksX1_words_0 22 rfl rfl)
theorem dX1_words_23 : decode cX1_words 23 = .ok (.iconst 1, 1) := dk_4 (dk_at dksX1_words_0 23 rfl rfl)
theorem dX1_words_24 : decode cX1_words 24 = .ok (.istore_n 3, 1) := dk_62 (dk_at dksX1_words_1 0 rfl rfl)
theorem dX1_words_25 : decode cX1_words 25 = .ok (.iload_n 3, 1) := dk_29 (dk_at dksX1_words_1 1 rfl rfl)
theorem dX1_words_26 : decode cX1_words 26 = .ok (.ifCond .eq 30, 3) := dk_153 0 30 (dk_at dksX1_words_1 2 rfl rfl)
theorem dX1_words_29 : decode cX1_words 29 = .ok (.aload_n 0, 1) := dk_42 (dk_at dksX1_words_1 5 rfl rfl)
theorem dX1_words_30 : decode cX1_words 30 = .ok (.invokevirtual 209, 3) := dk_182 0 209 (dk_at dksX1_words_1 6 rfl rfl)
theorem dX1_words_33 : decode cX1_words 33 = .ok (.istore_n 2, 1) := dk_61 (dk_at dksX1_words_1 9 rfl rfl)
theorem dX1_words_34 : decode cX1_words 34 = .ok (.iload_n 2, 1) := dk_28 (dk_at dksX1_words_1 10 rfl rfl)
theorem dX1_words_35 : decode cX1_words 35 = .ok (.ifCond .eq 16, 3) := dk_153 0 16 (dk_at dksX1_words_1 11 rfl rfl)
theorem dX1_words_38 : decode cX1_words 38 = .ok (.aload_n 0, 1) := dk_42 (dk_at dksX1_words_1 14 rfl rfl)
theorem dX1_words_39 : decode cX1_words 39 = .ok (.bipush 59, 2) := dk_16 59 (dk_at dksX1_words_1 15 rfl rfl)
theorem dX1_words_41 : decode cX1_words 41 = .ok (.invokevirtual 212, 3) := dk_182 0 212 (dk_at dksX1_words_1 17 rfl rfl)
theorem dX1_words_44 : decode cX1_words 44 = .ok (.ifCond .eq 7, 3) := dk_153 0 7 (dk_at dksX1_words_1 20 rfl rfl)
theorem dX1_words_47 : decode cX1_words 47 = .ok (.iconst 1, 1) := dk_4 (dk_at dksX1_words_1 23 rfl rfl)
theorem dX1_words_48 : decode cX1_words 48 = .ok (.goto 4, 3) := dk_167 0 4 (dk_at dksX1_words_2 0 rfl rfl)
theorem dX1_words_51 : decode cX1_words 51 = .ok (.iconst 0, 1) := dk_3 (dk_at dksX1_words_2 3 rfl rfl)
theorem dX1_words_52 : decode cX1_words 52 = .ok (.istore_n 3, 1) := dk_62 (dk_at dksX1_words_2 4 rfl rfl)
theorem dX1_words_53 : decode cX1_words 53 = .ok (.goto (-28), 3) := dk_167 255 228 (dk_at dksX1_words_2 5 rfl rfl)
theorem dX1_words_56 : decode cX1_words 56 = .ok (.aload_n 0, 1) := dk_42 (dk_at dksX1_words_2 8 rfl rfl)
theorem dX1_words_57 : decode cX1_words 57 = .ok (.iload_n 1, 1) := dk_27 (dk_at dksX1_words_2 9 rfl rfl)
theorem dX1_words_58 : decode cX1_words 58 = .ok (.iload_n 2, 1) := dk_28 (dk_at dksX1_words_2 10 rfl rfl)
theorem dX1_words_59 : decode cX1_words 59 = .ok (.invokevirtual 215, 3) := dk_182 0 215 (dk_at dksX1_words_2 11 rfl rfl)
theorem dX1_words_62 : decode cX1_words 62 = .ok (.istore 4, 2) := dk_54 4 (dk_at dksX1_words_2 14 rfl rfl)
theorem dX1_words_64 : decode cX1_words 64 = .ok (.iload 4, 2) := dk_21 4 (dk_at dksX1_words_2 16 rfl rfl)
theorem dX1_words_66 : decode cX1_words 66 = .ok (.ifCond .ge 6, 3) := dk_156 0 6 (dk_at dksX1_words_2 18 rfl rfl)
theorem dX1_words_69 : decode cX1_words 69 = .ok (.iload 4, 2) := dk_21 4 (dk_at dksX1_words_2 21 rfl rfl)
theorem dX1_words_71 : decode cX1_words 71 = .ok (.ireturn, 1) := dk_172 (dk_at dksX1_words_2 23 rfl rfl)
theorem dX1_words_72 : decode cX1_words 72 = .ok (.aload_n 0, 1) := dk_42 (dk_at dksX1_words_3 0 rfl rfl)
theorem dX1_words_73 : decode cX1_words 73 = .ok (.getfield 201, 3) := dk_180 0 201 (dk_at dksX1_words_3 1 rfl rfl)
theorem dX1_words_76 : decode cX1_words 76 = .ok (.aload_n 0, 1) := dk_42 (dk_at dksX1_words_3 4 rfl rfl)
theorem dX1_words_77 : decode cX1_words 77 = .ok (.getfield 145, 3) := dk_180 0 145 (dk_at dksX1_words_3 5 rfl rfl)
theorem dX1_words_80 : decode cX1_words 80 = .ok (.isub, 1) := dk_100 (dk_at dksX1_words_3 8 rfl rfl)
theorem dX1_words_81 : decode cX1_words 81 = .ok (.istore 5, 2) := dk_54 5 (dk_at dksX1_words_3 9 rfl rfl)
theorem dX1_words_83 : decode cX1_words 83 = .ok (.aload_n 0, 1) := dk_42 (dk_at dksX1_words_3 11 rfl rfl)
theorem dX1_words_84 : decode cX1_words 84 = .ok (.getfield 145, 3) := dk_180 0 145 (dk_at dksX1_words_3 12 rfl rfl)
theorem dX1_words_87 : decode cX1_words 87 = .ok (.aload_n 0, 1) := dk_42 (dk_at dksX1_words_3 15 rfl rfl)
theorem dX1_words_88 : decode cX1_words 88 = .ok (.getfield 201, 3) := dk_180 0 201 (dk_at dksX1_words_3 16 rfl rfl)
theorem dX1_words_91 : decode cX1_words 91 = .ok (.if_icmp .ge 97, 3) := dk_162 0 97 (dk_at dksX1_words_3 19 rfl rfl)
theorem dX1_words_94 : decode cX1_words 94 = .ok (.aload_n 0, 1) := dk_42 (dk_at dksX1_words_3 22 rfl rfl)
theorem dX1_words_95 : decode cX1_words 95 = .ok (.getfield 51, 3) := dk_180 0 51 (dk_at dksX1_words_4 0 rfl rfl)
theorem dX1_words_98 : decode cX1_words 98 = .ok (.bipush 6, 2) := dk_16 6 (dk_at dksX1_words_4 3 rfl rfl)
theorem dX1_words_100 : decode cX1_words 100 = .ok (.aload_n 0, 1) := dk_42 (dk_at dksX1_words_4 5 rfl rfl)
theorem dX1_words_101 : decode cX1_words 101 = .ok (.getfield 145, 3) := dk_180 0 145 (dk_at dksX1_words_4 6 rfl rfl)
theorem dX1_words_104 : decode cX1_words 104 = .ok (.imul, 1) := dk_104 (dk_at dksX1_words_4 9 rfl rfl)
theorem dX1_words_105 : decode cX1_words 105 = .ok (.aload_n 0, 1) := dk_42 (dk_at dksX1_words_4 10 rfl rfl)
theorem dX1_words_106 : decode cX1_words 106 = .ok (.getfield 19, 3) := dk_180 0 19 (dk_at dksX1_words_4 11 rfl rfl)
theorem dX1_words_109 : decode cX1_words 109 = .ok (.bipush 6, 2) := dk_16 6 (dk_at dksX1_words_4 14 rfl rfl)
theorem dX1_words_111 : decode cX1_words 111 = .ok (.aload_n 0, 1) := dk_42 (dk_at dksX1_words_4 16 rfl rfl)
theorem dX1_words_112 : decode cX1_words 112 = .ok (.getfield 145, 3) := dk_180 0 145 (dk_at dksX1_words_4 17 rfl rfl)
theorem dX1_words_115 : decode cX1_words 115 = .ok (.imul, 1) := dk_104 (dk_at dksX1_words_4 20 rfl rfl)
theorem dX1_words_116 : decode cX1_words 116 = .ok (.bipush 6, 2) := dk_16 6 (dk_at dksX1_words_4 21 rfl rfl)
theorem dX1_words_118 : decode cX1_words 118 = .ok (.invokestatic 219, 3) := dk_184 0 219 (dk_at dksX1_words_5 0 rfl rfl)
theorem dX1_words_121 : decode cX1_words 121 = .ok (.aload_n 0, 1) := dk_42 (dk_at dksX1_words_5 3 rfl rfl)
theorem dX1_words_122 : decode cX1_words 122 = .ok (.getfield 23, 3) := dk_180 0 23 (dk_at dksX1_words_5 4 rfl rfl)
theorem dX1_words_125 : decode cX1_words 125 = .ok (.aload_n 0, 1) := dk_42 (dk_at dksX1_words_5 7 rfl rfl)
theorem dX1_words_126 : decode cX1_words 126 = .ok (.getfield 145, 3) := dk_180 0 145 (dk_at dksX1_words_5 8 rfl rfl)
theorem dX1_words_129 : decode cX1_words 129 = .ok (.aload_n 0, 1) := dk_42 (dk_at dksX1_words_5 11 rfl rfl)
theorem dX1_words_130 : decode cX1_words 130 = .ok (.getfield 54, 3) := dk_180 0 54 (dk_at dksX1_words_5 12 rfl rfl)
theorem dX1_words_133 : decode cX1_words 133 = .ok (.aload_n 0, 1) := dk_42 (dk_at dksX1_words_5 15 rfl rfl)
theorem dX1_words_134 : decode cX1_words 134 = .ok (.getfield 145, 3) := dk_180 0 145 (dk_at dksX1_words_5 16 rfl rfl)
theorem dX1_words_137 : decode cX1_words 137 = .ok (.iaload, 1) := dk_46 (dk_at dksX1_words_5 19 rfl rfl)
theorem dX1_words_138 : decode cX1_words 138 = .ok (.iastore, 1) := dk_79 (dk_at dksX1_words_5 20 rfl rfl)
theorem dX1_words_139 : decode cX1_words 139 = .ok (.aload_n 0, 1) := dk_42 (dk_at dksX1_words_5 21 rfl rfl)
theorem dX1_words_140 : decode cX1_words 140 = .ok (.getfield 26, 3) := dk_180 0 26 (dk_at dksX1_words_6 0 rfl rfl)
theorem dX1_words_143 : decode cX1_words 143 = .ok (.aload_n 0, 1) := dk_42 (dk_at dksX1_words_6 3 rfl rfl)
theorem dX1_words_144 : decode cX1_words 144 = .ok (.getfield 145, 3) := dk_180 0 145 (dk_at dksX1_words_6 4 rfl rfl)
theorem dX1_words_147 : decode cX1_words 147 = .ok (.aload_n 0, 1) := dk_42 (dk_at dksX1_words_6 7 rfl rfl)
theorem dX1_words_148 : decode cX1_words 148 = .ok (.getfield 57, 3) := dk_180 0 57 (dk_at dksX1_words_6 8 rfl rfl)
theorem dX1_words_151 : decode cX1_words 151 = .ok (.aload_n 0, 1) := dk_42 (dk_at dksX1_words_6 11 rfl rfl)
theorem dX1_words_152 : decode cX1_words 152 = .ok (.getfield 145, 3) := dk_180 0 145 (dk_at dksX1_words_6 12 rfl rfl)
theorem dX1_words_155 : decode cX1_words 155 = .ok (.iaload, 1) := dk_46 (dk_at dksX1_words_6 15 rfl rfl)
theorem dX1_words_156 : decode cX1_words 156 = .ok (.iastore, 1) := dk_79 (dk_at dksX1_words_6 16 rfl rfl)
theorem dX1_words_157 : decode cX1_words 157 = .ok (.aload_n 0, 1) := dk_42 (dk_at dksX1_words_6 17 rfl rfl)
theorem dX1_words_158 : decode cX1_words 158 = .ok (.getfield 29, 3) := dk_180 0 29 (dk_at dksX1_words_6 18 rfl rfl)
theorem dX1_words_161 : decode cX1_words 161 = .ok (.aload_n 0, 1) := dk_42 (dk_at dksX1_words_6 21 rfl rfl)
theorem dX1_words_162 : decode cX1_words 162 = .ok (.getfield 145, 3) := dk_180 0 145 (dk_at dksX1_words_7 0 rfl rfl)
theorem dX1_words_165 : decode cX1_words 165 = .ok (.aload_n 0, 1) := dk_42 (dk_at dksX1_words_7 3 rfl rfl)
theorem dX1_words_166 : decode cX1_words 166 = .ok (.getfield 60, 3) := dk_180 0 60 (dk_at dksX1_words_7 4 rfl rfl)
theorem dX1_words_169 : decode cX1_words 169 = .ok (.aload_n 0, 1) := dk_42 (dk_at dksX1_words_7 7 rfl rfl)
theorem dX1_words_170 : decode cX1_words 170 = .ok (.getfield 145, 3) := dk_180 0 145 (dk_at dksX1_words_7 8 rfl rfl)
theorem dX1_words_173 : decode cX1_words 173 = .ok (.iaload, 1) := dk_46 (dk_at dksX1_words_7 11 rfl rfl)
theorem dX1_words_174 : decode cX1_words 174 = .ok (.iastore, 1) := dk_79 (dk_at dksX1_words_7 12 rfl rfl)
theorem dX1_words_175 : decode cX1_words 175 = .ok (.aload_n 0, 1) := dk_42 (dk_at dksX1_words_7 13 rfl rfl)
theorem dX1_words_176 : decode cX1_words 176 = .ok (.dup, 1) := dk_89 (dk_at dksX1_words_7 14 rfl rfl)
theorem dX1_words_177 : decode cX1_words 177 = .ok (.getfield 145, 3) := dk_180 0 145 (dk_at dksX1_words_7 15 rfl rfl)
theorem dX1_words_180 : decode cX1_words 180 = .ok (.iconst 1, 1) := dk_4 (dk_at dksX1_words_7 18 rfl rfl)
theorem dX1_words_181 : decode cX1_words 181 = .ok (.iadd, 1) := dk_96 (dk_at dksX1_words_7 19 rfl rfl)
theorem dX1_words_182 : decode cX1_words 182 = .ok (.putfield 145, 3) := dk_181 0 145 (dk_at dksX1_words_7 20 rfl rfl)
theorem dX1_words_185 : decode cX1_words 185 = .ok (.goto (-102), 3) := dk_167 255 154 (dk_at dksX1_words_8 0 rfl rfl)
theorem dX1_words_188 : decode cX1_words 188 = .ok (.aload_n 0, 1) := dk_42 (dk_at dksX1_words_8 3 rfl rfl)
theorem dX1_words_189 : decode cX1_words 189 = .ok (.invokevirtual 225, 3) := dk_182 0 225 (dk_at dksX1_words_8 4 rfl rfl)
theorem dX1_words_192 : decode cX1_words 192 = .ok (.iload 5, 2) := dk_21 5 (dk_at dksX1_words_8 7 rfl rfl)
theorem dX1_words_194 : decode cX1_words 194 = .ok (.ireturn, 1) := dk_172 (dk_at dksX1_words_8 9 rfl rfl)
def dkwX1_begins_1 : List UInt8 := [184, 0, 172, 181, 0, 177, 28, 172]
abbrev dktX1_begins_1 : List UInt8 := dkwX1_begins_1 ++ []
def dkwX1_begins_0 : List UInt8 := [42, 180, 0, 163, 61, 42, 3, 181, 0, 163, 42, 3, 181, 0, 166, 42, 3, 181, 0, 169, 42, 28, 27]
abbrev dktX1_begins_0 : List UInt8 := dkwX1_begins_0 ++ dktX1_begins_1
theorem dksX1_begins_0 : cX1_begins.data.toList.drop 0 = dktX1_begins_0 := by decide +kernel
theorem dksX1_begins_1 : cX1_begins.data.toList.drop 23 = dktX1_begins_1 := dk_seg dksX1_begins_0 23 rfl rfl
theorem dX1_begins_0 : decode cX1_begins 0 = .ok (.aload_n 0, 1) := dk_42 (dk_at dksX1_begins_0 0 rfl rfl)
theorem dX1_begins_1 : decode cX1_begins 1 = .ok (.getfield 163, 3) := dk_180 0 163 (dk_at dksX1_begins_0 1 rfl rfl)
theorem dX1_begins_4 : decode cX1_begins 4 = .ok (.istore_n 2, 1) := dk_61 (dk_at dksX1_begins_0 4 rfl rfl)
theorem dX1_begins_5 : decode cX1_begins 5 = .ok (.aload_n 0, 1) := dk_42 (dk_at dksX1_begins_0 5 rfl rfl)
theorem dX1_begins_6 : decode cX1_begins 6 = .ok (.iconst 0, 1) := dk_3 (dk_at dksX1_begins_0 6 rfl rfl)
theorem dX1_begins_7 : decode cX1_begins 7 = .ok (.putfield 163, 3) := dk_181 0 163 (dk_at dksX1_begins_0 7 rfl rfl)
theorem dX1_begins_10 : decode cX1_begins 10 = .ok (.aload_n 0, 1) := dk_42 (dk_at dksX1_begins_0 10 rfl rfl)
theorem dX1_begins_11 : decode cX1_begins 11 = .ok (.iconst 0, 1) := dk_3 (dk_at dksX1_begins_0 11 rfl rfl)
theorem dX1_begins_12 : decode cX1_begins 12 = .ok (.putfield 166, 3) := dk_181 0 166 (dk_at dksX1_begins_0 12 rfl rfl)
theorem dX1_begins_15 : decode cX1_begins 15 = .ok (.aload_n 0, 1) := dk_42 (dk_at dksX1_begins_0 15 rfl rfl)
theorem dX1_begins_16 : decode cX1_begins 16 = .ok (.iconst 0, 1) := dk_3 (dk_at dksX1_begins_0 16 rfl rfl)
theorem dX1_begins_17 : decode cX1_begins 17 = .ok (.putfield 169, 3) := dk_181 0 169 (dk_at dksX1_begins_0 17 rfl rfl)
theorem dX1_begins_20 : decode cX1_begins 20 = .ok (.aload_n 0, 1) := dk_42 (dk_at dksX1_begins_0 20 rfl rfl)
theorem dX1_begins_21 : decode cX1_begins 21 = .ok (.iload_n 2, 1) := dk_28 (dk_at dksX1_begins_0 21 rfl rfl)
theorem dX1_begins_22 : decode cX1_begins 22 = .ok (.iload_n 1, 1) := dk_27 (dk_at dksX1_begins_0 22 rfl rfl)
theorem dX1_begins_23 : decode cX1_begins 23 = .ok (.invokestatic 172, 3) := dk_184 0 172 (dk_at dksX1_begins_1 0 rfl rfl)
theorem dX1_begins_26 : decode cX1_begins 26 = .ok (.putfield 177, 3) := dk_181 0 177 (dk_at dksX1_begins_1 3 rfl rfl)
theorem dX1_begins_29 : decode cX1_begins 29 = .ok (.iload_n 2, 1) := dk_28 (dk_at dksX1_begins_1 6 rfl rfl)
theorem dX1_begins_30 : decode cX1_begins 30 = .ok (.ireturn, 1) := dk_172 (dk_at dksX1_begins_1 7 rfl rfl)
def dkwX1_readsWord_4 : List UInt8 := [89, 180, 0, 201, 4, 96, 181, 0, 201, 28, 158, 0, 7, 4, 167, 0, 4, 3, 172]
abbrev dktX1_readsWord_4 : List UInt8 := dkwX1_readsWord_4 ++ []
def dkwX1_readsWord_3 : List UInt8 := [104, 28, 96, 42, 18, 204, 182, 0, 198, 79, 132, 2, 1, 167, 255, 221, 42, 180, 0, 54, 27, 28, 79, 42]
abbrev dktX1_readsWord_3 : List UInt8 := dkwX1_readsWord_3 ++ dktX1_readsWord_4
def dkwX1_readsWord_2 : List UInt8 := [3, 61, 28, 16, 6, 162, 0, 35, 42, 18, 204, 182, 0, 184, 155, 0, 26, 42, 180, 0, 51, 16, 6, 27]
abbrev dktX1_readsWord_2 : List UInt8 := dkwX1_readsWord_2 ++ dktX1_readsWord_3
def dkwX1_readsWord_1 : List UInt8 := [79, 42, 180, 0, 57, 27, 46, 156, 0, 5, 3, 172, 42, 180, 0, 60, 27, 42, 18, 196, 182, 0, 198, 79]
abbrev dktX1_readsWord_1 : List UInt8 := dkwX1_readsWord_1 ++ dktX1_readsWord_2
def dkwX1_readsWord_0 : List UInt8 := [42, 180, 0, 201, 60, 27, 16, 10, 160, 0, 5, 3, 172, 42, 180, 0, 57, 27, 42, 18, 196, 182, 0, 198]
abbrev dktX1_readsWord_0 : List UInt8 := dkwX1_readsWord_0 ++ dktX1_readsWord_1
theorem dksX1_readsWord_0 : cX1_readsWord.data.toList.drop 0 = dktX1_readsWord_0 := by decide +kernel
theorem dksX1_readsWord_1 : cX1_readsWord.data.toList.drop 24 = dktX1_readsWord_1 := dk_seg dksX1_readsWord_0 24 rfl rfl
theorem dksX1_readsWord_2 : cX1_readsWord.data.toList.drop 48 = dktX1_readsWord_2 := dk_seg dksX1_readsWord_1 24 rfl rfl
theorem dksX1_readsWord_3 : cX1_readsWord.data.toList.drop 72 = dktX1_readsWord_3 := dk_seg dksX1_readsWord_2 24 rfl rfl
theorem dksX1_readsWord_4 : cX1_readsWord.data.toList.drop 96 = dktX1_readsWord_4 := dk_seg dksX1_readsWord_3 24 rfl rfl
theorem dX1_readsWord_0 : decode cX1_readsWord 0 = .ok (.aload_n 0, 1) := dk_42 (dk_at dksX1_readsWord_0 0 rfl rfl)
theorem dX1_readsWord_1 : decode cX1_readsWord 1 = .ok (.getfield 201, 3) := dk_180 0 201 (dk_at dksX1_readsWord_0 1 rfl rfl)
theorem dX1_readsWord_4 : decode cX1_readsWord 4 = .ok (.istore_n 1, 1) := dk_60 (dk_at dksX1_readsWord_0 4 rfl rfl)
theorem dX1_readsWord_5 : decode cX1_readsWord 5 = .ok (.iload_n 1, 1) := dk_27 (dk_at dksX1_readsWord_0 5 rfl rfl)
theorem dX1_readsWord_6 : decode cX1_readsWord 6 = .ok (.bipush 10, 2) := dk_16 10 (dk_at dksX1_readsWord_0 6 rfl rfl)
theorem dX1_readsWord_8 : decode cX1_readsWord 8 = .ok (.if_icmp .ne 5, 3) := dk_160 0 5 (dk_at dksX1_readsWord_0 8 rfl rfl)
theorem dX1_readsWord_11 : decode cX1_readsWord 11 = .ok (.iconst 0, 1) := dk_3 (dk_at dksX1_readsWord_0 11 rfl rfl)
theorem dX1_readsWord_12 : decode cX1_readsWord 12 = .ok (.ireturn, 1) := dk_172 (dk_at dksX1_readsWord_0 12 rfl rfl)
theorem dX1_readsWord_13 : decode cX1_readsWord 13 = .ok (.aload_n 0, 1) := dk_42 (dk_at dksX1_readsWord_0 13 rfl rfl)
theorem dX1_readsWord_14 : decode cX1_readsWord 14 = .ok (.getfield 57, 3) := dk_180 0 57 (dk_at dksX1_readsWord_0 14 rfl rfl)
theorem dX1_readsWord_17 : decode cX1_readsWord 17 = .ok (.iload_n 1, 1) := dk_27 (dk_at dksX1_readsWord_0 17 rfl rfl)
theorem dX1_readsWord_18 : decode cX1_readsWord 18 = .ok (.aload_n 0, 1) := dk_42 (dk_at dksX1_readsWord_0 18 rfl rfl)
theorem dX1_readsWord_19 : decode cX1_readsWord 19 = .ok (.ldc 196, 2) := dk_18 196 (dk_at dksX1_readsWord_0 19 rfl rfl)
theorem dX1_readsWord_21 : decode cX1_readsWord 21 = .ok (.invokevirtual 198, 3) := dk_182 0 198 (dk_at dksX1_readsWord_0 21 rfl rfl)
theorem dX1_readsWord_24 : decode cX1_readsWord 24 = .ok (.iastore, 1) := dk_79 (dk_at dksX1_readsWord_1 0 rfl rfl)
theorem dX1_readsWord_25 : decode cX1_readsWord 25 = .ok (.aload_n 0, 1) := dk_42 (dk_at dksX1_readsWord_1 1 rfl rfl)
theorem dX1_readsWord_26 : decode cX1_readsWord 26 = .ok (.getfield 57, 3) := dk_180 0 57 (dk_at dksX1_readsWord_1 2 rfl rfl)
theorem dX1_readsWord_29 : decode cX1_readsWord 29 = .ok (.iload_n 1, 1) := dk_27 (dk_at dksX1_readsWord_1 5 rfl rfl)
theorem dX1_readsWord_30 : decode cX1_readsWord 30 = .ok (.iaload, 1) := dk_46 (dk_at dksX1_readsWord_1 6 rfl rfl)
theorem dX1_readsWord_31 : decode cX1_readsWord 31 = .ok (.ifCond .ge 5, 3) := dk_156 0 5 (dk_at dksX1_readsWord_1 7 rfl rfl)
theorem dX1_readsWord_34 : decode cX1_readsWord 34 = .ok (.iconst 0, 1) := dk_3 (dk_at dksX1_readsWord_1 10 rfl rfl)
theorem dX1_readsWord_35 : decode cX1_readsWord 35 = .ok (.ireturn, 1) := dk_172 (dk_at dksX1_readsWord_1 11 rfl rfl)
theorem dX1_readsWord_36 : decode cX1_readsWord 36 = .ok (.aload_n 0, 1) := dk_42 (dk_at dksX1_readsWord_1 12 rfl rfl)
theorem dX1_readsWord_37 : decode cX1_readsWord 37 = .ok (.getfield 60, 3) := dk_180 0 60 (dk_at dksX1_readsWord_1 13 rfl rfl)
theorem dX1_readsWord_40 : decode cX1_readsWord 40 = .ok (.iload_n 1, 1) := dk_27 (dk_at dksX1_readsWord_1 16 rfl rfl)
theorem dX1_readsWord_41 : decode cX1_readsWord 41 = .ok (.aload_n 0, 1) := dk_42 (dk_at dksX1_readsWord_1 17 rfl rfl)
theorem dX1_readsWord_42 : decode cX1_readsWord 42 = .ok (.ldc 196, 2) := dk_18 196 (dk_at dksX1_readsWord_1 18 rfl rfl)
theorem dX1_readsWord_44 : decode cX1_readsWord 44 = .ok (.invokevirtual 198, 3) := dk_182 0 198 (dk_at dksX1_readsWord_1 20 rfl rfl)
theorem dX1_readsWord_47 : decode cX1_readsWord 47 = .ok (.iastore, 1) := dk_79 (dk_at dksX1_readsWord_1 23 rfl rfl)
theorem dX1_readsWord_48 : decode cX1_readsWord 48 = .ok (.iconst 0, 1) := dk_3 (dk_at dksX1_readsWord_2 0 rfl rfl)
theorem dX1_readsWord_49 : decode cX1_readsWord 49 = .ok (.istore_n 2, 1) := dk_61 (dk_at dksX1_readsWord_2 1 rfl rfl)
theorem dX1_readsWord_50 : decode cX1_readsWord 50 = .ok (.iload_n 2, 1) := dk_28 (dk_at dksX1_readsWord_2 2 rfl rfl)
theorem dX1_readsWord_51 : decode cX1_readsWord 51 = .ok (.bipush 6, 2) := dk_16 6 (dk_at dksX1_readsWord_2 3 rfl rfl)
theorem dX1_readsWord_53 : decode cX1_readsWord 53 = .ok (.if_icmp .ge 35, 3) := dk_162 0 35 (dk_at dksX1_readsWord_2 5 rfl rfl)
theorem dX1_readsWord_56 : decode cX1_readsWord 56 = .ok (.aload_n 0, 1) := dk_42 (dk_at dksX1_readsWord_2 8 rfl rfl)
theorem dX1_readsWord_57 : decode cX1_readsWord 57 = .ok (.ldc 204, 2) := dk_18 204 (dk_at dksX1_readsWord_2 9 rfl rfl)
theorem dX1_readsWord_59 : decode cX1_readsWord 59 = .ok (.invokevirtual 184, 3) := dk_182 0 184 (dk_at dksX1_readsWord_2 11 rfl rfl)
theorem dX1_readsWord_62 : decode cX1_readsWord 62 = .ok (.ifCond .lt 26, 3) := dk_155 0 26 (dk_at dksX1_readsWord_2 14 rfl rfl)
theorem dX1_readsWord_65 : decode cX1_readsWord 65 = .ok (.aload_n 0, 1) := dk_42 (dk_at dksX1_readsWord_2 17 rfl rfl)
theorem dX1_readsWord_66 : decode cX1_readsWord 66 = .ok (.getfield 51, 3) := dk_180 0 51 (dk_at dksX1_readsWord_2 18 rfl rfl)
theorem dX1_readsWord_69 : decode cX1_readsWord 69 = .ok (.bipush 6, 2) := dk_16 6 (dk_at dksX1_readsWord_2 21 rfl rfl)
theorem dX1_readsWord_71 : decode cX1_readsWord 71 = .ok (.iload_n 1, 1) := dk_27 (dk_at dksX1_readsWord_2 23 rfl rfl)
theorem dX1_readsWord_72 : decode cX1_readsWord 72 = .ok (.imul, 1) := dk_104 (dk_at dksX1_readsWord_3 0 rfl rfl)
theorem dX1_readsWord_73 : decode cX1_readsWord 73 = .ok (.iload_n 2, 1) := dk_28 (dk_at dksX1_readsWord_3 1 rfl rfl)
theorem dX1_readsWord_74 : decode cX1_readsWord 74 = .ok (.iadd, 1) := dk_96 (dk_at dksX1_readsWord_3 2 rfl rfl)
theorem dX1_readsWord_75 : decode cX1_readsWord 75 = .ok (.aload_n 0, 1) := dk_42 (dk_at dksX1_readsWord_3 3 rfl rfl)
theorem dX1_readsWord_76 : decode cX1_readsWord 76 = .ok (.ldc 204, 2) := dk_18 204 (dk_at dksX1_readsWord_3 4 rfl rfl)
theorem dX1_readsWord_78 : decode cX1_readsWord 78 = .ok (.invokevirtual 198, 3) := dk_182 0 198 (dk_at dksX1_readsWord_3 6 rfl rfl)
theorem dX1_readsWord_81 : decode cX1_readsWord 81 = .ok (.iastore, 1) := dk_79 (dk_at dksX1_readsWord_3 9 rfl rfl)
theorem dX1_readsWord_82 : decode cX1_readsWord 82 = .ok (.iinc 2 1, 3) := dk_132 2 1 (dk_at dksX1_readsWord_3 10 rfl rfl)
theorem dX1_readsWord_85 : decode cX1_readsWord 85 = .ok (.goto (-35), 3) := dk_167 255 221 (dk_at dksX1_readsWord_3 13 rfl rfl)
theorem dX1_readsWord_88 : decode cX1_readsWord 88 = .ok (.aload_n 0, 1) := dk_42 (dk_at dksX1_readsWord_3 16 rfl rfl)
theorem dX1_readsWord_89 : decode cX1_readsWord 89 = .ok (.getfield 54, 3) := dk_180 0 54 (dk_at dksX1_readsWord_3 17 rfl rfl)
theorem dX1_readsWord_92 : decode cX1_readsWord 92 = .ok (.iload_n 1, 1) := dk_27 (dk_at dksX1_readsWord_3 20 rfl rfl)
theorem dX1_readsWord_93 : decode cX1_readsWord 93 = .ok (.iload_n 2, 1) := dk_28 (dk_at dksX1_readsWord_3 21 rfl rfl)
theorem dX1_readsWord_94 : decode cX1_readsWord 94 = .ok (.iastore, 1) := dk_79 (dk_at dksX1_readsWord_3 22 rfl rfl)
theorem dX1_readsWord_95 : decode cX1_readsWord 95 = .ok (.aload_n 0, 1) := dk_42 (dk_at dksX1_readsWord_3 23 rfl rfl)
theorem dX1_readsWord_96 : decode cX1_readsWord 96 = .ok (.dup, 1) := dk_89 (dk_at dksX1_readsWord_4 0 rfl rfl)
theorem dX1_readsWord_97 : decode cX1_readsWord 97 = .ok (.getfield 201, 3) := dk_180 0 201 (dk_at dksX1_readsWord_4 1 rfl rfl)
theorem dX1_readsWord_100 : decode cX1_readsWord 100 = .ok (.iconst 1, 1) := dk_4 (dk_at dksX1_readsWord_4 4 rfl rfl)
theorem dX1_readsWord_101 : decode cX1_readsWord 101 = .ok (.iadd, 1) := dk_96 (dk_at dksX1_readsWord_4 5 rfl rfl)
theorem dX1_readsWord_102 : decode cX1_readsWord 102 = .ok (.putfield 201, 3) := dk_181 0 201 (dk_at dksX1_readsWord_4 6 rfl rfl)
theorem dX1_readsWord_105 : decode cX1_readsWord 105 = .ok (.iload_n 2, 1) := dk_28 (dk_at dksX1_readsWord_4 9 rfl rfl)
theorem dX1_readsWord_106 : decode cX1_readsWord 106 = .ok (.ifCond .le 7, 3) := dk_158 0 7 (dk_at dksX1_readsWord_4 10 rfl rfl)
theorem dX1_readsWord_109 : decode cX1_readsWord 109 = .ok (.iconst 1, 1) := dk_4 (dk_at dksX1_readsWord_4 13 rfl rfl)
theorem dX1_readsWord_110 : decode cX1_readsWord 110 = .ok (.goto 4, 3) := dk_167 0 4 (dk_at dksX1_readsWord_4 14 rfl rfl)
theorem dX1_readsWord_113 : decode cX1_readsWord 113 = .ok (.iconst 0, 1) := dk_3 (dk_at dksX1_readsWord_4 17 rfl rfl)
theorem dX1_readsWord_114 : decode cX1_readsWord 114 = .ok (.ireturn, 1) := dk_172 (dk_at dksX1_readsWord_4 18 rfl rfl)
def dkwX1_takesOf_1 : List UInt8 := [28, 172]
abbrev dktX1_takesOf_1 : List UInt8 := dkwX1_takesOf_1 ++ []
def dkwX1_takesOf_0 : List UInt8 := [42, 43, 182, 0, 184, 61, 42, 89, 180, 0, 166, 28, 155, 0, 7, 4, 167, 0, 4, 3, 96, 181, 0, 166]
abbrev dktX1_takesOf_0 : List UInt8 := dkwX1_takesOf_0 ++ dktX1_takesOf_1
theorem dksX1_takesOf_0 : cX1_takesOf.data.toList.drop 0 = dktX1_takesOf_0 := by decide +kernel
theorem dksX1_takesOf_1 : cX1_takesOf.data.toList.drop 24 = dktX1_takesOf_1 := dk_seg dksX1_takesOf_0 24 rfl rfl
theorem dX1_takesOf_0 : decode cX1_takesOf 0 = .ok (.aload_n 0, 1) := dk_42 (dk_at dksX1_takesOf_0 0 rfl rfl)
theorem dX1_takesOf_1 : decode cX1_takesOf 1 = .ok (.aload_n 1, 1) := dk_43 (dk_at dksX1_takesOf_0 1 rfl rfl)
theorem dX1_takesOf_2 : decode cX1_takesOf 2 = .ok (.invokevirtual 184, 3) := dk_182 0 184 (dk_at dksX1_takesOf_0 2 rfl rfl)
theorem dX1_takesOf_5 : decode cX1_takesOf 5 = .ok (.istore_n 2, 1) := dk_61 (dk_at dksX1_takesOf_0 5 rfl rfl)
theorem dX1_takesOf_6 : decode cX1_takesOf 6 = .ok (.aload_n 0, 1) := dk_42 (dk_at dksX1_takesOf_0 6 rfl rfl)
theorem dX1_takesOf_7 : decode cX1_takesOf 7 = .ok (.dup, 1) := dk_89 (dk_at dksX1_takesOf_0 7 rfl rfl)
theorem dX1_takesOf_8 : decode cX1_takesOf 8 = .ok (.getfield 166, 3) := dk_180 0 166 (dk_at dksX1_takesOf_0 8 rfl rfl)
theorem dX1_takesOf_11 : decode cX1_takesOf 11 = .ok (.iload_n 2, 1) := dk_28 (dk_at dksX1_takesOf_0 11 rfl rfl)
theorem dX1_takesOf_12 : decode cX1_takesOf 12 = .ok (.ifCond .lt 7, 3) := dk_155 0 7 (dk_at dksX1_takesOf_0 12 rfl rfl)
theorem dX1_takesOf_15 : decode cX1_takesOf 15 = .ok (.iconst 1, 1) := dk_4 (dk_at dksX1_takesOf_0 15 rfl rfl)
theorem dX1_takesOf_16 : decode cX1_takesOf 16 = .ok (.goto 4, 3) := dk_167 0 4 (dk_at dksX1_takesOf_0 16 rfl rfl)
theorem dX1_takesOf_19 : decode cX1_takesOf 19 = .ok (.iconst 0, 1) := dk_3 (dk_at dksX1_takesOf_0 19 rfl rfl)
theorem dX1_takesOf_20 : decode cX1_takesOf 20 = .ok (.iadd, 1) := dk_96 (dk_at dksX1_takesOf_0 20 rfl rfl)
theorem dX1_takesOf_21 : decode cX1_takesOf 21 = .ok (.putfield 166, 3) := dk_181 0 166 (dk_at dksX1_takesOf_0 21 rfl rfl)
theorem dX1_takesOf_24 : decode cX1_takesOf 24 = .ok (.iload_n 2, 1) := dk_28 (dk_at dksX1_takesOf_1 0 rfl rfl)
theorem dX1_takesOf_25 : decode cX1_takesOf 25 = .ok (.ireturn, 1) := dk_172 (dk_at dksX1_takesOf_1 1 rfl rfl)
def dkwX1_among_1 : List UInt8 := [42, 180, 0, 48, 42, 180, 0, 166, 46, 182, 0, 153, 167, 0, 4, 2, 172]
abbrev dktX1_among_1 : List UInt8 := dkwX1_among_1 ++ []
def dkwX1_among_0 : List UInt8 := [42, 180, 0, 166, 42, 180, 0, 177, 162, 0, 31, 42, 180, 0, 48, 42, 180, 0, 166, 46, 158, 0, 19, 43]
abbrev dktX1_among_0 : List UInt8 := dkwX1_among_0 ++ dktX1_among_1
theorem dksX1_among_0 : cX1_among.data.toList.drop 0 = dktX1_among_0 := by decide +kernel
theorem dksX1_among_1 : cX1_among.data.toList.drop 24 = dktX1_among_1 := dk_seg dksX1_among_0 24 rfl rfl
theorem dX1_among_0 : decode cX1_among 0 = .ok (.aload_n 0, 1) := dk_42 (dk_at dksX1_among_0 0 rfl rfl)
theorem dX1_among_1 : decode cX1_among 1 = .ok (.getfield 166, 3) := dk_180 0 166 (dk_at dksX1_among_0 1 rfl rfl)
theorem dX1_among_4 : decode cX1_among 4 = .ok (.aload_n 0, 1) := dk_42 (dk_at dksX1_among_0 4 rfl rfl)
theorem dX1_among_5 : decode cX1_among 5 = .ok (.getfield 177, 3) := dk_180 0 177 (dk_at dksX1_among_0 5 rfl rfl)
theorem dX1_among_8 : decode cX1_among 8 = .ok (.if_icmp .ge 31, 3) := dk_162 0 31 (dk_at dksX1_among_0 8 rfl rfl)
theorem dX1_among_11 : decode cX1_among 11 = .ok (.aload_n 0, 1) := dk_42 (dk_at dksX1_among_0 11 rfl rfl)
theorem dX1_among_12 : decode cX1_among 12 = .ok (.getfield 48, 3) := dk_180 0 48 (dk_at dksX1_among_0 12 rfl rfl)
theorem dX1_among_15 : decode cX1_among 15 = .ok (.aload_n 0, 1) := dk_42 (dk_at dksX1_among_0 15 rfl rfl)
theorem dX1_among_16 : decode cX1_among 16 = .ok (.getfield 166, 3) := dk_180 0 166 (dk_at dksX1_among_0 16 rfl rfl)
theorem dX1_among_19 : decode cX1_among 19 = .ok (.iaload, 1) := dk_46 (dk_at dksX1_among_0 19 rfl rfl)
theorem dX1_among_20 : decode cX1_among 20 = .ok (.ifCond .le 19, 3) := dk_158 0 19 (dk_at dksX1_among_0 20 rfl rfl)
theorem dX1_among_23 : decode cX1_among 23 = .ok (.aload_n 1, 1) := dk_43 (dk_at dksX1_among_0 23 rfl rfl)
theorem dX1_among_24 : decode cX1_among 24 = .ok (.aload_n 0, 1) := dk_42 (dk_at dksX1_among_1 0 rfl rfl)
theorem dX1_among_25 : decode cX1_among 25 = .ok (.getfield 48, 3) := dk_180 0 48 (dk_at dksX1_among_1 1 rfl rfl)
theorem dX1_among_28 : decode cX1_among 28 = .ok (.aload_n 0, 1) := dk_42 (dk_at dksX1_among_1 4 rfl rfl)
theorem dX1_among_29 : decode cX1_among 29 = .ok (.getfield 166, 3) := dk_180 0 166 (dk_at dksX1_among_1 5 rfl rfl)
theorem dX1_among_32 : decode cX1_among 32 = .ok (.iaload, 1) := dk_46 (dk_at dksX1_among_1 8 rfl rfl)
theorem dX1_among_33 : decode cX1_among 33 = .ok (.invokevirtual 153, 3) := dk_182 0 153 (dk_at dksX1_among_1 9 rfl rfl)
theorem dX1_among_36 : decode cX1_among 36 = .ok (.goto 4, 3) := dk_167 0 4 (dk_at dksX1_among_1 12 rfl rfl)
theorem dX1_among_39 : decode cX1_among 39 = .ok (.iconst (-1), 1) := dk_2 (dk_at dksX1_among_1 15 rfl rfl)
theorem dX1_among_40 : decode cX1_among 40 = .ok (.ireturn, 1) := dk_172 (dk_at dksX1_among_1 16 rfl rfl)
def dkwX1_eats_1 : List UInt8 := [28, 172]
abbrev dktX1_eats_1 : List UInt8 := dkwX1_eats_1 ++ []
def dkwX1_eats_0 : List UInt8 := [42, 27, 182, 0, 180, 61, 42, 89, 180, 0, 166, 28, 153, 0, 7, 4, 167, 0, 4, 3, 96, 181, 0, 166]
abbrev dktX1_eats_0 : List UInt8 := dkwX1_eats_0 ++ dktX1_eats_1
theorem dksX1_eats_0 : cX1_eats.data.toList.drop 0 = dktX1_eats_0 := by decide +kernel
theorem dksX1_eats_1 : cX1_eats.data.toList.drop 24 = dktX1_eats_1 := dk_seg dksX1_eats_0 24 rfl rfl
theorem dX1_eats_0 : decode cX1_eats 0 = .ok (.aload_n 0, 1) := dk_42 (dk_at dksX1_eats_0 0 rfl rfl)
theorem dX1_eats_1 : decode cX1_eats 1 = .ok (.iload_n 1, 1) := dk_27 (dk_at dksX1_eats_0 1 rfl rfl)
theorem dX1_eats_2 : decode cX1_eats 2 = .ok (.invokevirtual 180, 3) := dk_182 0 180 (dk_at dksX1_eats_0 2 rfl rfl)
theorem dX1_eats_5 : decode cX1_eats 5 = .ok (.istore_n 2, 1) := dk_61 (dk_at dksX1_eats_0 5 rfl rfl)
theorem dX1_eats_6 : decode cX1_eats 6 = .ok (.aload_n 0, 1) := dk_42 (dk_at dksX1_eats_0 6 rfl rfl)
theorem dX1_eats_7 : decode cX1_eats 7 = .ok (.dup, 1) := dk_89 (dk_at dksX1_eats_0 7 rfl rfl)
theorem dX1_eats_8 : decode cX1_eats 8 = .ok (.getfield 166, 3) := dk_180 0 166 (dk_at dksX1_eats_0 8 rfl rfl)
theorem dX1_eats_11 : decode cX1_eats 11 = .ok (.iload_n 2, 1) := dk_28 (dk_at dksX1_eats_0 11 rfl rfl)
theorem dX1_eats_12 : decode cX1_eats 12 = .ok (.ifCond .eq 7, 3) := dk_153 0 7 (dk_at dksX1_eats_0 12 rfl rfl)
theorem dX1_eats_15 : decode cX1_eats 15 = .ok (.iconst 1, 1) := dk_4 (dk_at dksX1_eats_0 15 rfl rfl)
theorem dX1_eats_16 : decode cX1_eats 16 = .ok (.goto 4, 3) := dk_167 0 4 (dk_at dksX1_eats_0 16 rfl rfl)
theorem dX1_eats_19 : decode cX1_eats 19 = .ok (.iconst 0, 1) := dk_3 (dk_at dksX1_eats_0 19 rfl rfl)
theorem dX1_eats_20 : decode cX1_eats 20 = .ok (.iadd, 1) := dk_96 (dk_at dksX1_eats_0 20 rfl rfl)
theorem dX1_eats_21 : decode cX1_eats 21 = .ok (.putfield 166, 3) := dk_181 0 166 (dk_at dksX1_eats_0 21 rfl rfl)
theorem dX1_eats_24 : decode cX1_eats 24 = .ok (.iload_n 2, 1) := dk_28 (dk_at dksX1_eats_1 0 rfl rfl)
theorem dX1_eats_25 : decode cX1_eats 25 = .ok (.ireturn, 1) := dk_172 (dk_at dksX1_eats_1 1 rfl rfl)
def dkwX1_isAt_1 : List UInt8 := [4, 167, 0, 4, 3, 172]
abbrev dktX1_isAt_1 : List UInt8 := dkwX1_isAt_1 ++ []
def dkwX1_isAt_0 : List UInt8 := [42, 180, 0, 166, 42, 180, 0, 177, 162, 0, 20, 42, 180, 0, 48, 42, 180, 0, 166, 46, 27, 160, 0, 7]
abbrev dktX1_isAt_0 : List UInt8 := dkwX1_isAt_0 ++ dktX1_isAt_1
theorem dksX1_isAt_0 : cX1_isAt.data.toList.drop 0 = dktX1_isAt_0 := by decide +kernel
theorem dksX1_isAt_1 : cX1_isAt.data.toList.drop 24 = dktX1_isAt_1 := dk_seg dksX1_isAt_0 24 rfl rfl
theorem dX1_isAt_0 : decode cX1_isAt 0 = .ok (.aload_n 0, 1) := dk_42 (dk_at dksX1_isAt_0 0 rfl rfl)
theorem dX1_isAt_1 : decode cX1_isAt 1 = .ok (.getfield 166, 3) := dk_180 0 166 (dk_at dksX1_isAt_0 1 rfl rfl)
theorem dX1_isAt_4 : decode cX1_isAt 4 = .ok (.aload_n 0, 1) := dk_42 (dk_at dksX1_isAt_0 4 rfl rfl)
theorem dX1_isAt_5 : decode cX1_isAt 5 = .ok (.getfield 177, 3) := dk_180 0 177 (dk_at dksX1_isAt_0 5 rfl rfl)
theorem dX1_isAt_8 : decode cX1_isAt 8 = .ok (.if_icmp .ge 20, 3) := dk_162 0 20 (dk_at dksX1_isAt_0 8 rfl rfl)
theorem dX1_isAt_11 : decode cX1_isAt 11 = .ok (.aload_n 0, 1) := dk_42 (dk_at dksX1_isAt_0 11 rfl rfl)
theorem dX1_isAt_12 : decode cX1_isAt 12 = .ok (.getfield 48, 3) := dk_180 0 48 (dk_at dksX1_isAt_0 12 rfl rfl)
theorem dX1_isAt_15 : decode cX1_isAt 15 = .ok (.aload_n 0, 1) := dk_42 (dk_at dksX1_isAt_0 15 rfl rfl)
theorem dX1_isAt_16 : decode cX1_isAt 16 = .ok (.getfield 166, 3) := dk_180 0 166 (dk_at dksX1_isAt_0 16 rfl rfl)
theorem dX1_isAt_19 : decode cX1_isAt 19 = .ok (.iaload, 1) := dk_46 (dk_at dksX1_isAt_0 19 rfl rfl)
theorem dX1_isAt_20 : decode cX1_isAt 20 = .ok (.iload_n 1, 1) := dk_27 (dk_at dksX1_isAt_0 20 rfl rfl)
theorem dX1_isAt_21 : decode cX1_isAt 21 = .ok (.if_icmp .ne 7, 3) := dk_160 0 7 (dk_at dksX1_isAt_0 21 rfl rfl)
theorem dX1_isAt_24 : decode cX1_isAt 24 = .ok (.iconst 1, 1) := dk_4 (dk_at dksX1_isAt_1 0 rfl rfl)
theorem dX1_isAt_25 : decode cX1_isAt 25 = .ok (.goto 4, 3) := dk_167 0 4 (dk_at dksX1_isAt_1 1 rfl rfl)
theorem dX1_isAt_28 : decode cX1_isAt 28 = .ok (.iconst 0, 1) := dk_3 (dk_at dksX1_isAt_1 4 rfl rfl)
theorem dX1_isAt_29 : decode cX1_isAt 29 = .ok (.ireturn, 1) := dk_172 (dk_at dksX1_isAt_1 5 rfl rfl)
def dkwX1_faultOf_2 : List UInt8 := [180, 0, 177, 100, 172, 29, 153, 0, 7, 3, 167, 0, 9, 2, 42, 180, 0, 166, 100, 172]
abbrev dktX1_faultOf_2 : List UInt8 := dkwX1_faultOf_2 ++ []
def dkwX1_faultOf_1 : List UInt8 := [180, 0, 177, 164, 0, 25, 29, 154, 0, 14, 42, 180, 0, 166, 42, 180, 0, 177, 160, 0, 10, 2, 42]
abbrev dktX1_faultOf_1 : List UInt8 := dkwX1_faultOf_1 ++ dktX1_faultOf_2
def dkwX1_faultOf_0 : List UInt8 := [28, 153, 0, 18, 42, 180, 0, 166, 42, 180, 0, 177, 160, 0, 7, 4, 167, 0, 4, 3, 62, 27, 42]
abbrev dktX1_faultOf_0 : List UInt8 := dkwX1_faultOf_0 ++ dktX1_faultOf_1
theorem dksX1_faultOf_0 : cX1_faultOf.data.toList.drop 0 = dktX1_faultOf_0 := by decide +kernel
theorem dksX1_faultOf_1 : cX1_faultOf.data.toList.drop 23 = dktX1_faultOf_1 := dk_seg dksX1_faultOf_0 23 rfl rfl
theorem dksX1_faultOf_2 : cX1_faultOf.data.toList.drop 46 = dktX1_faultOf_2 := dk_seg dksX1_faultOf_1 23 rfl rfl
theorem dX1_faultOf_0 : decode cX1_faultOf 0 = .ok (.iload_n 2, 1) := dk_28 (dk_at dksX1_faultOf_0 0 rfl rfl)
theorem dX1_faultOf_1 : decode cX1_faultOf 1 = .ok (.ifCond .eq 18, 3) := dk_153 0 18 (dk_at dksX1_faultOf_0 1 rfl rfl)
theorem dX1_faultOf_4 : decode cX1_faultOf 4 = .ok (.aload_n 0, 1) := dk_42 (dk_at dksX1_faultOf_0 4 rfl rfl)
theorem dX1_faultOf_5 : decode cX1_faultOf 5 = .ok (.getfield 166, 3) := dk_180 0 166 (dk_at dksX1_faultOf_0 5 rfl rfl)
theorem dX1_faultOf_8 : decode cX1_faultOf 8 = .ok (.aload_n 0, 1) := dk_42 (dk_at dksX1_faultOf_0 8 rfl rfl)
theorem dX1_faultOf_9 : decode cX1_faultOf 9 = .ok (.getfield 177, 3) := dk_180 0 177 (dk_at dksX1_faultOf_0 9 rfl rfl)
theorem dX1_faultOf_12 : decode cX1_faultOf 12 = .ok (.if_icmp .ne 7, 3) := dk_160 0 7 (dk_at dksX1_faultOf_0 12 rfl rfl)
theorem dX1_faultOf_15 : decode cX1_faultOf 15 = .ok (.iconst 1, 1) := dk_4 (dk_at dksX1_faultOf_0 15 rfl rfl)
theorem dX1_faultOf_16 : decode cX1_faultOf 16 = .ok (.goto 4, 3) := dk_167 0 4 (dk_at dksX1_faultOf_0 16 rfl rfl)
theorem dX1_faultOf_19 : decode cX1_faultOf 19 = .ok (.iconst 0, 1) := dk_3 (dk_at dksX1_faultOf_0 19 rfl rfl)
theorem dX1_faultOf_20 : decode cX1_faultOf 20 = .ok (.istore_n 3, 1) := dk_62 (dk_at dksX1_faultOf_0 20 rfl rfl)
theorem dX1_faultOf_21 : decode cX1_faultOf 21 = .ok (.iload_n 1, 1) := dk_27 (dk_at dksX1_faultOf_0 21 rfl rfl)
theorem dX1_faultOf_22 : decode cX1_faultOf 22 = .ok (.aload_n 0, 1) := dk_42 (dk_at dksX1_faultOf_0 22 rfl rfl)
theorem dX1_faultOf_23 : decode cX1_faultOf 23 = .ok (.getfield 177, 3) := dk_180 0 177 (dk_at dksX1_faultOf_1 0 rfl rfl)
theorem dX1_faultOf_26 : decode cX1_faultOf 26 = .ok (.if_icmp .le 25, 3) := dk_164 0 25 (dk_at dksX1_faultOf_1 3 rfl rfl)
theorem dX1_faultOf_29 : decode cX1_faultOf 29 = .ok (.iload_n 3, 1) := dk_29 (dk_at dksX1_faultOf_1 6 rfl rfl)
theorem dX1_faultOf_30 : decode cX1_faultOf 30 = .ok (.ifCond .ne 14, 3) := dk_154 0 14 (dk_at dksX1_faultOf_1 7 rfl rfl)
theorem dX1_faultOf_33 : decode cX1_faultOf 33 = .ok (.aload_n 0, 1) := dk_42 (dk_at dksX1_faultOf_1 10 rfl rfl)
theorem dX1_faultOf_34 : decode cX1_faultOf 34 = .ok (.getfield 166, 3) := dk_180 0 166 (dk_at dksX1_faultOf_1 11 rfl rfl)
theorem dX1_faultOf_37 : decode cX1_faultOf 37 = .ok (.aload_n 0, 1) := dk_42 (dk_at dksX1_faultOf_1 14 rfl rfl)
theorem dX1_faultOf_38 : decode cX1_faultOf 38 = .ok (.getfield 177, 3) := dk_180 0 177 (dk_at dksX1_faultOf_1 15 rfl rfl)
theorem dX1_faultOf_41 : decode cX1_faultOf 41 = .ok (.if_icmp .ne 10, 3) := dk_160 0 10 (dk_at dksX1_faultOf_1 18 rfl rfl)
theorem dX1_faultOf_44 : decode cX1_faultOf 44 = .ok (.iconst (-1), 1) := dk_2 (dk_at dksX1_faultOf_1 21 rfl rfl)
theorem dX1_faultOf_45 : decode cX1_faultOf 45 = .ok (.aload_n 0, 1) := dk_42 (dk_at dksX1_faultOf_1 22 rfl rfl)
theorem dX1_faultOf_46 : decode cX1_faultOf 46 = .ok (.getfield 177, 3) := dk_180 0 177 (dk_at dksX1_faultOf_2 0 rfl rfl)
theorem dX1_faultOf_49 : decode cX1_faultOf 49 = .ok (.isub, 1) := dk_100 (dk_at dksX1_faultOf_2 3 rfl rfl)
theorem dX1_faultOf_50 : decode cX1_faultOf 50 = .ok (.ireturn, 1) := dk_172 (dk_at dksX1_faultOf_2 4 rfl rfl)
theorem dX1_faultOf_51 : decode cX1_faultOf 51 = .ok (.iload_n 3, 1) := dk_29 (dk_at dksX1_faultOf_2 5 rfl rfl)
theorem dX1_faultOf_52 : decode cX1_faultOf 52 = .ok (.ifCond .eq 7, 3) := dk_153 0 7 (dk_at dksX1_faultOf_2 6 rfl rfl)
theorem dX1_faultOf_55 : decode cX1_faultOf 55 = .ok (.iconst 0, 1) := dk_3 (dk_at dksX1_faultOf_2 9 rfl rfl)
theorem dX1_faultOf_56 : decode cX1_faultOf 56 = .ok (.goto 9, 3) := dk_167 0 9 (dk_at dksX1_faultOf_2 10 rfl rfl)
theorem dX1_faultOf_59 : decode cX1_faultOf 59 = .ok (.iconst (-1), 1) := dk_2 (dk_at dksX1_faultOf_2 13 rfl rfl)
theorem dX1_faultOf_60 : decode cX1_faultOf 60 = .ok (.aload_n 0, 1) := dk_42 (dk_at dksX1_faultOf_2 14 rfl rfl)
theorem dX1_faultOf_61 : decode cX1_faultOf 61 = .ok (.getfield 166, 3) := dk_180 0 166 (dk_at dksX1_faultOf_2 15 rfl rfl)
theorem dX1_faultOf_64 : decode cX1_faultOf 64 = .ok (.isub, 1) := dk_100 (dk_at dksX1_faultOf_2 18 rfl rfl)
theorem dX1_faultOf_65 : decode cX1_faultOf 65 = .ok (.ireturn, 1) := dk_172 (dk_at dksX1_faultOf_2 19 rfl rfl)
def dkwX1_isNew_0 : List UInt8 := [42, 3, 181, 0, 228, 42, 89, 180, 0, 231, 4, 96, 181, 0, 231, 177]
abbrev dktX1_isNew_0 : List UInt8 := dkwX1_isNew_0 ++ []
theorem dksX1_isNew_0 : cX1_isNew.data.toList.drop 0 = dktX1_isNew_0 := by decide +kernel
theorem dX1_isNew_0 : decode cX1_isNew 0 = .ok (.aload_n 0, 1) := dk_42 (dk_at dksX1_isNew_0 0 rfl rfl)
theorem dX1_isNew_1 : decode cX1_isNew 1 = .ok (.iconst 0, 1) := dk_3 (dk_at dksX1_isNew_0 1 rfl rfl)
theorem dX1_isNew_2 : decode cX1_isNew 2 = .ok (.putfield 228, 3) := dk_181 0 228 (dk_at dksX1_isNew_0 2 rfl rfl)
theorem dX1_isNew_5 : decode cX1_isNew 5 = .ok (.aload_n 0, 1) := dk_42 (dk_at dksX1_isNew_0 5 rfl rfl)
theorem dX1_isNew_6 : decode cX1_isNew 6 = .ok (.dup, 1) := dk_89 (dk_at dksX1_isNew_0 6 rfl rfl)
theorem dX1_isNew_7 : decode cX1_isNew 7 = .ok (.getfield 231, 3) := dk_180 0 231 (dk_at dksX1_isNew_0 7 rfl rfl)
theorem dX1_isNew_10 : decode cX1_isNew 10 = .ok (.iconst 1, 1) := dk_4 (dk_at dksX1_isNew_0 10 rfl rfl)
theorem dX1_isNew_11 : decode cX1_isNew 11 = .ok (.iadd, 1) := dk_96 (dk_at dksX1_isNew_0 11 rfl rfl)
theorem dX1_isNew_12 : decode cX1_isNew 12 = .ok (.putfield 231, 3) := dk_181 0 231 (dk_at dksX1_isNew_0 12 rfl rfl)
theorem dX1_isNew_15 : decode cX1_isNew 15 = .ok (.return_, 1) := dk_177 (dk_at dksX1_isNew_0 15 rfl rfl)
def dkwX1_travellers_7 : List UInt8 := [21, 5, 172]
abbrev dktX1_travellers_7 : List UInt8 := dkwX1_travellers_7 ++ []
def dkwX1_travellers_6 : List UInt8 := [42, 180, 0, 148, 3, 79, 42, 89, 180, 0, 148, 4, 96, 181, 0, 148, 167, 255, 180, 42, 182, 0, 225]
abbrev dktX1_travellers_6 : List UInt8 := dkwX1_travellers_6 ++ dktX1_travellers_7
def dkwX1_travellers_5 : List UInt8 := [180, 0, 246, 42, 180, 0, 148, 42, 180, 0, 66, 42, 180, 0, 148, 46, 79, 42, 180, 0, 12, 180, 0, 249]
abbrev dktX1_travellers_5 : List UInt8 := dkwX1_travellers_5 ++ dktX1_travellers_6
def dkwX1_travellers_4 : List UInt8 := [180, 0, 12, 180, 0, 244, 42, 180, 0, 148, 42, 180, 0, 63, 42, 180, 0, 148, 46, 79, 42, 180, 0, 12]
abbrev dktX1_travellers_4 : List UInt8 := dkwX1_travellers_4 ++ dktX1_travellers_5
def dkwX1_travellers_3 : List UInt8 := [42, 180, 0, 201, 42, 180, 0, 148, 100, 54, 5, 42, 180, 0, 148, 42, 180, 0, 201, 162, 0, 71, 42]
abbrev dktX1_travellers_3 : List UInt8 := dkwX1_travellers_3 ++ dktX1_travellers_4
def dkwX1_travellers_2 : List UInt8 := [167, 0, 4, 3, 62, 167, 255, 228, 42, 27, 28, 182, 0, 215, 54, 4, 21, 4, 156, 0, 6, 21, 4, 172]
abbrev dktX1_travellers_2 : List UInt8 := dkwX1_travellers_2 ++ dktX1_travellers_3
def dkwX1_travellers_1 : List UInt8 := [62, 29, 153, 0, 30, 42, 182, 0, 241, 61, 28, 153, 0, 16, 42, 16, 59, 182, 0, 212, 153, 0, 7, 4]
abbrev dktX1_travellers_1 : List UInt8 := dkwX1_travellers_1 ++ dktX1_travellers_2
def dkwX1_travellers_0 : List UInt8 := [42, 16, 40, 182, 0, 206, 60, 27, 154, 0, 5, 3, 172, 42, 42, 180, 0, 148, 181, 0, 201, 4, 61, 4]
abbrev dktX1_travellers_0 : List UInt8 := dkwX1_travellers_0 ++ dktX1_travellers_1
theorem dksX1_travellers_0 : cX1_travellers.data.toList.drop 0 = dktX1_travellers_0 := by decide +kernel
theorem dksX1_travellers_1 : cX1_travellers.data.toList.drop 24 = dktX1_travellers_1 := dk_seg dksX1_travellers_0 24 rfl rfl
theorem dksX1_travellers_2 : cX1_travellers.data.toList.drop 48 = dktX1_travellers_2 := dk_seg dksX1_travellers_1 24 rfl rfl
theorem dksX1_travellers_3 : cX1_travellers.data.toList.drop 72 = dktX1_travellers_3 := dk_seg dksX1_travellers_2 24 rfl rfl
theorem dksX1_travellers_4 : cX1_travellers.data.toList.drop 95 = dktX1_travellers_4 := dk_seg dksX1_travellers_3 23 rfl rfl
theorem dksX1_travellers_5 : cX1_travellers.data.toList.drop 119 = dktX1_travellers_5 := dk_seg dksX1_travellers_4 24 rfl rfl
theorem dksX1_travellers_6 : cX1_travellers.data.toList.drop 143 = dktX1_travellers_6 := dk_seg dksX1_travellers_5 24 rfl rfl
theorem dksX1_travellers_7 : cX1_travellers.data.toList.drop 166 = dktX1_travellers_7 := dk_seg dksX1_travellers_6 23 rfl rfl
theorem dX1_travellers_0 : decode cX1_travellers 0 = .ok (.aload_n 0, 1) := dk_42 (dk_at dksX1_travellers_0 0 rfl rfl)
theorem dX1_travellers_1 : decode cX1_travellers 1 = .ok (.bipush 40, 2) := dk_16 40 (dk_at dksX1_travellers_0 1 rfl rfl)
theorem dX1_travellers_3 : decode cX1_travellers 3 = .ok (.invokevirtual 206, 3) := dk_182 0 206 (dk_at dksX1_travellers_0 3 rfl rfl)
theorem dX1_travellers_6 : decode cX1_travellers 6 = .ok (.istore_n 1, 1) := dk_60 (dk_at dksX1_travellers_0 6 rfl rfl)
theorem dX1_travellers_7 : decode cX1_travellers 7 = .ok (.iload_n 1, 1) := dk_27 (dk_at dksX1_travellers_0 7 rfl rfl)
theorem dX1_travellers_8 : decode cX1_travellers 8 = .ok (.ifCond .ne 5, 3) := dk_154 0 5 (dk_at dksX1_travellers_0 8 rfl rfl)
theorem dX1_travellers_11 : decode cX1_travellers 11 = .ok (.iconst 0, 1) := dk_3 (dk_at dksX1_travellers_0 11 rfl rfl)
theorem dX1_travellers_12 : decode cX1_travellers 12 = .ok (.ireturn, 1) := dk_172 (dk_at dksX1_travellers_0 12 rfl rfl)
theorem dX1_travellers_13 : decode cX1_travellers 13 = .ok (.aload_n 0, 1) := dk_42 (dk_at dksX1_travellers_0 13 rfl rfl)
theorem dX1_travellers_14 : decode cX1_travellers 14 = .ok (.aload_n 0, 1) := dk_42 (dk_at dksX1_travellers_0 14 rfl rfl)
theorem dX1_travellers_15 : decode cX1_travellers 15 = .ok (.getfield 148, 3) := dk_180 0 148 (dk_at dksX1_travellers_0 15 rfl rfl)
theorem dX1_travellers_18 : decode cX1_travellers 18 = .ok (.putfield 201, 3) := dk_181 0 201 (dk_at dksX1_travellers_0 18 rfl rfl)
theorem dX1_travellers_21 : decode cX1_travellers 21 = .ok (.iconst 1, 1) := dk_4 (dk_at dksX1_travellers_0 21 rfl rfl)
theorem dX1_travellers_22 : decode cX1_travellers 22 = .ok (.istore_n 2, 1) := dk_61 (dk_at dksX1_travellers_0 22 rfl rfl)
theorem dX1_travellers_23 : decode cX1_travellers 23 = .ok (.iconst 1, 1) := dk_4 (dk_at dksX1_travellers_0 23 rfl rfl)
theorem dX1_travellers_24 : decode cX1_travellers 24 = .ok (.istore_n 3, 1) := dk_62 (dk_at dksX1_travellers_1 0 rfl rfl)
theorem dX1_travellers_25 : decode cX1_travellers 25 = .ok (.iload_n 3, 1) := dk_29 (dk_at dksX1_travellers_1 1 rfl rfl)
theorem dX1_travellers_26 : decode cX1_travellers 26 = .ok (.ifCond .eq 30, 3) := dk_153 0 30 (dk_at dksX1_travellers_1 2 rfl rfl)
theorem dX1_travellers_29 : decode cX1_travellers 29 = .ok (.aload_n 0, 1) := dk_42 (dk_at dksX1_travellers_1 5 rfl rfl)
theorem dX1_travellers_30 : decode cX1_travellers 30 = .ok (.invokevirtual 241, 3) := dk_182 0 241 (dk_at dksX1_travellers_1 6 rfl rfl)
theorem dX1_travellers_33 : decode cX1_travellers 33 = .ok (.istore_n 2, 1) := dk_61 (dk_at dksX1_travellers_1 9 rfl rfl)
theorem dX1_travellers_34 : decode cX1_travellers 34 = .ok (.iload_n 2, 1) := dk_28 (dk_at dksX1_travellers_1 10 rfl rfl)
theorem dX1_travellers_35 : decode cX1_travellers 35 = .ok (.ifCond .eq 16, 3) := dk_153 0 16 (dk_at dksX1_travellers_1 11 rfl rfl)
theorem dX1_travellers_38 : decode cX1_travellers 38 = .ok (.aload_n 0, 1) := dk_42 (dk_at dksX1_travellers_1 14 rfl rfl)
theorem dX1_travellers_39 : decode cX1_travellers 39 = .ok (.bipush 59, 2) := dk_16 59 (dk_at dksX1_travellers_1 15 rfl rfl)
theorem dX1_travellers_41 : decode cX1_travellers 41 = .ok (.invokevirtual 212, 3) := dk_182 0 212 (dk_at dksX1_travellers_1 17 rfl rfl)
theorem dX1_travellers_44 : decode cX1_travellers 44 = .ok (.ifCond .eq 7, 3) := dk_153 0 7 (dk_at dksX1_travellers_1 20 rfl rfl)
theorem dX1_travellers_47 : decode cX1_travellers 47 = .ok (.iconst 1, 1) := dk_4 (dk_at dksX1_travellers_1 23 rfl rfl)
theorem dX1_travellers_48 : decode cX1_travellers 48 = .ok (.goto 4, 3) := dk_167 0 4 (dk_at dksX1_travellers_2 0 rfl rfl)
theorem dX1_travellers_51 : decode cX1_travellers 51 = .ok (.iconst 0, 1) := dk_3 (dk_at dksX1_travellers_2 3 rfl rfl)
theorem dX1_travellers_52 : decode cX1_travellers 52 = .ok (.istore_n 3, 1) := dk_62 (dk_at dksX1_travellers_2 4 rfl rfl)
theorem dX1_travellers_53 : decode cX1_travellers 53 = .ok (.goto (-28), 3) := dk_167 255 228 (dk_at dksX1_travellers_2 5 rfl rfl)
theorem dX1_travellers_56 : decode cX1_travellers 56 = .ok (.aload_n 0, 1) := dk_42 (dk_at dksX1_travellers_2 8 rfl rfl)
theorem dX1_travellers_57 : decode cX1_travellers 57 = .ok (.iload_n 1, 1) := dk_27 (dk_at dksX1_travellers_2 9 rfl rfl)
theorem dX1_travellers_58 : decode cX1_travellers 58 = .ok (.iload_n 2, 1) := dk_28 (dk_at dksX1_travellers_2 10 rfl rfl)
theorem dX1_travellers_59 : decode cX1_travellers 59 = .ok (.invokevirtual 215, 3) := dk_182 0 215 (dk_at dksX1_travellers_2 11 rfl rfl)
theorem dX1_travellers_62 : decode cX1_travellers 62 = .ok (.istore 4, 2) := dk_54 4 (dk_at dksX1_travellers_2 14 rfl rfl)
theorem dX1_travellers_64 : decode cX1_travellers 64 = .ok (.iload 4, 2) := dk_21 4 (dk_at dksX1_travellers_2 16 rfl rfl)
theorem dX1_travellers_66 : decode cX1_travellers 66 = .ok (.ifCond .ge 6, 3) := dk_156 0 6 (dk_at dksX1_travellers_2 18 rfl rfl)
theorem dX1_travellers_69 : decode cX1_travellers 69 = .ok (.iload 4, 2) := dk_21 4 (dk_at dksX1_travellers_2 21 rfl rfl)
theorem dX1_travellers_71 : decode cX1_travellers 71 = .ok (.ireturn, 1) := dk_172 (dk_at dksX1_travellers_2 23 rfl rfl)
theorem dX1_travellers_72 : decode cX1_travellers 72 = .ok (.aload_n 0, 1) := dk_42 (dk_at dksX1_travellers_3 0 rfl rfl)
theorem dX1_travellers_73 : decode cX1_travellers 73 = .ok (.getfield 201, 3) := dk_180 0 201 (dk_at dksX1_travellers_3 1 rfl rfl)
theorem dX1_travellers_76 : decode cX1_travellers 76 = .ok (.aload_n 0, 1) := dk_42 (dk_at dksX1_travellers_3 4 rfl rfl)
theorem dX1_travellers_77 : decode cX1_travellers 77 = .ok (.getfield 148, 3) := dk_180 0 148 (dk_at dksX1_travellers_3 5 rfl rfl)
theorem dX1_travellers_80 : decode cX1_travellers 80 = .ok (.isub, 1) := dk_100 (dk_at dksX1_travellers_3 8 rfl rfl)
theorem dX1_travellers_81 : decode cX1_travellers 81 = .ok (.istore 5, 2) := dk_54 5 (dk_at dksX1_travellers_3 9 rfl rfl)
theorem dX1_travellers_83 : decode cX1_travellers 83 = .ok (.aload_n 0, 1) := dk_42 (dk_at dksX1_travellers_3 11 rfl rfl)
theorem dX1_travellers_84 : decode cX1_travellers 84 = .ok (.getfield 148, 3) := dk_180 0 148 (dk_at dksX1_travellers_3 12 rfl rfl)
theorem dX1_travellers_87 : decode cX1_travellers 87 = .ok (.aload_n 0, 1) := dk_42 (dk_at dksX1_travellers_3 15 rfl rfl)
theorem dX1_travellers_88 : decode cX1_travellers 88 = .ok (.getfield 201, 3) := dk_180 0 201 (dk_at dksX1_travellers_3 16 rfl rfl)
theorem dX1_travellers_91 : decode cX1_travellers 91 = .ok (.if_icmp .ge 71, 3) := dk_162 0 71 (dk_at dksX1_travellers_3 19 rfl rfl)
theorem dX1_travellers_94 : decode cX1_travellers 94 = .ok (.aload_n 0, 1) := dk_42 (dk_at dksX1_travellers_3 22 rfl rfl)
theorem dX1_travellers_95 : decode cX1_travellers 95 = .ok (.getfield 12, 3) := dk_180 0 12 (dk_at dksX1_travellers_4 0 rfl rfl)
theorem dX1_travellers_98 : decode cX1_travellers 98 = .ok (.getfield 244, 3) := dk_180 0 244 (dk_at dksX1_travellers_4 3 rfl rfl)
theorem dX1_travellers_101 : decode cX1_travellers 101 = .ok (.aload_n 0, 1) := dk_42 (dk_at dksX1_travellers_4 6 rfl rfl)
theorem dX1_travellers_102 : decode cX1_travellers 102 = .ok (.getfield 148, 3) := dk_180 0 148 (dk_at dksX1_travellers_4 7 rfl rfl)
theorem dX1_travellers_105 : decode cX1_travellers 105 = .ok (.aload_n 0, 1) := dk_42 (dk_at dksX1_travellers_4 10 rfl rfl)
theorem dX1_travellers_106 : decode cX1_travellers 106 = .ok (.getfield 63, 3) := dk_180 0 63 (dk_at dksX1_travellers_4 11 rfl rfl)
theorem dX1_travellers_109 : decode cX1_travellers 109 = .ok (.aload_n 0, 1) := dk_42 (dk_at dksX1_travellers_4 14 rfl rfl)
theorem dX1_travellers_110 : decode cX1_travellers 110 = .ok (.getfield 148, 3) := dk_180 0 148 (dk_at dksX1_travellers_4 15 rfl rfl)
theorem dX1_travellers_113 : decode cX1_travellers 113 = .ok (.iaload, 1) := dk_46 (dk_at dksX1_travellers_4 18 rfl rfl)
theorem dX1_travellers_114 : decode cX1_travellers 114 = .ok (.iastore, 1) := dk_79 (dk_at dksX1_travellers_4 19 rfl rfl)
theorem dX1_travellers_115 : decode cX1_travellers 115 = .ok (.aload_n 0, 1) := dk_42 (dk_at dksX1_travellers_4 20 rfl rfl)
theorem dX1_travellers_116 : decode cX1_travellers 116 = .ok (.getfield 12, 3) := dk_180 0 12 (dk_at dksX1_travellers_4 21 rfl rfl)
theorem dX1_travellers_119 : decode cX1_travellers 119 = .ok (.getfield 246, 3) := dk_180 0 246 (dk_at dksX1_travellers_5 0 rfl rfl)
theorem dX1_travellers_122 : decode cX1_travellers 122 = .ok (.aload_n 0, 1) := dk_42 (dk_at dksX1_travellers_5 3 rfl rfl)
theorem dX1_travellers_123 : decode cX1_travellers 123 = .ok (.getfield 148, 3) := dk_180 0 148 (dk_at dksX1_travellers_5 4 rfl rfl)
theorem dX1_travellers_126 : decode cX1_travellers 126 = .ok (.aload_n 0, 1) := dk_42 (dk_at dksX1_travellers_5 7 rfl rfl)
theorem dX1_travellers_127 : decode cX1_travellers 127 = .ok (.getfield 66, 3) := dk_180 0 66 (dk_at dksX1_travellers_5 8 rfl rfl)
theorem dX1_travellers_130 : decode cX1_travellers 130 = .ok (.aload_n 0, 1) := dk_42 (dk_at dksX1_travellers_5 11 rfl rfl)
theorem dX1_travellers_131 : decode cX1_travellers 131 = .ok (.getfield 148, 3) := dk_180 0 148 (dk_at dksX1_travellers_5 12 rfl rfl)
theorem dX1_travellers_134 : decode cX1_travellers 134 = .ok (.iaload, 1) := dk_46 (dk_at dksX1_travellers_5 15 rfl rfl)
theorem dX1_travellers_135 : decode cX1_travellers 135 = .ok (.iastore, 1) := dk_79 (dk_at dksX1_travellers_5 16 rfl rfl)
theorem dX1_travellers_136 : decode cX1_travellers 136 = .ok (.aload_n 0, 1) := dk_42 (dk_at dksX1_travellers_5 17 rfl rfl)
theorem dX1_travellers_137 : decode cX1_travellers 137 = .ok (.getfield 12, 3) := dk_180 0 12 (dk_at dksX1_travellers_5 18 rfl rfl)
theorem dX1_travellers_140 : decode cX1_travellers 140 = .ok (.getfield 249, 3) := dk_180 0 249 (dk_at dksX1_travellers_5 21 rfl rfl)
theorem dX1_travellers_143 : decode cX1_travellers 143 = .ok (.aload_n 0, 1) := dk_42 (dk_at dksX1_travellers_6 0 rfl rfl)
theorem dX1_travellers_144 : decode cX1_travellers 144 = .ok (.getfield 148, 3) := dk_180 0 148 (dk_at dksX1_travellers_6 1 rfl rfl)
theorem dX1_travellers_147 : decode cX1_travellers 147 = .ok (.iconst 0, 1) := dk_3 (dk_at dksX1_travellers_6 4 rfl rfl)
theorem dX1_travellers_148 : decode cX1_travellers 148 = .ok (.iastore, 1) := dk_79 (dk_at dksX1_travellers_6 5 rfl rfl)
theorem dX1_travellers_149 : decode cX1_travellers 149 = .ok (.aload_n 0, 1) := dk_42 (dk_at dksX1_travellers_6 6 rfl rfl)
theorem dX1_travellers_150 : decode cX1_travellers 150 = .ok (.dup, 1) := dk_89 (dk_at dksX1_travellers_6 7 rfl rfl)
theorem dX1_travellers_151 : decode cX1_travellers 151 = .ok (.getfield 148, 3) := dk_180 0 148 (dk_at dksX1_travellers_6 8 rfl rfl)
theorem dX1_travellers_154 : decode cX1_travellers 154 = .ok (.iconst 1, 1) := dk_4 (dk_at dksX1_travellers_6 11 rfl rfl)
theorem dX1_travellers_155 : decode cX1_travellers 155 = .ok (.iadd, 1) := dk_96 (dk_at dksX1_travellers_6 12 rfl rfl)
theorem dX1_travellers_156 : decode cX1_travellers 156 = .ok (.putfield 148, 3) := dk_181 0 148 (dk_at dksX1_travellers_6 13 rfl rfl)
theorem dX1_travellers_159 : decode cX1_travellers 159 = .ok (.goto (-76), 3) := dk_167 255 180 (dk_at dksX1_travellers_6 16 rfl rfl)
theorem dX1_travellers_162 : decode cX1_travellers 162 = .ok (.aload_n 0, 1) := dk_42 (dk_at dksX1_travellers_6 19 rfl rfl)
theorem dX1_travellers_163 : decode cX1_travellers 163 = .ok (.invokevirtual 225, 3) := dk_182 0 225 (dk_at dksX1_travellers_6 20 rfl rfl)
theorem dX1_travellers_166 : decode cX1_travellers 166 = .ok (.iload 5, 2) := dk_21 5 (dk_at dksX1_travellers_7 0 rfl rfl)
theorem dX1_travellers_168 : decode cX1_travellers 168 = .ok (.ireturn, 1) := dk_172 (dk_at dksX1_travellers_7 2 rfl rfl)
def dkwX1_readsTraveller_3 : List UInt8 := [155, 0, 7, 4, 167, 0, 4, 3, 172]
abbrev dktX1_readsTraveller_3 : List UInt8 := dkwX1_readsTraveller_3 ++ []
def dkwX1_readsTraveller_2 : List UInt8 := [42, 6, 182, 0, 238, 79, 42, 89, 180, 0, 201, 4, 96, 181, 0, 201, 42, 180, 0, 66, 27, 46]
abbrev dktX1_readsTraveller_2 : List UInt8 := dkwX1_readsTraveller_2 ++ dktX1_readsTraveller_3
def dkwX1_readsTraveller_1 : List UInt8 := [180, 0, 63, 27, 46, 155, 0, 12, 42, 16, 58, 182, 0, 212, 154, 0, 5, 3, 172, 42, 180, 0, 66, 27]
abbrev dktX1_readsTraveller_1 : List UInt8 := dkwX1_readsTraveller_1 ++ dktX1_readsTraveller_2
def dkwX1_readsTraveller_0 : List UInt8 := [42, 180, 0, 201, 60, 27, 7, 160, 0, 5, 3, 172, 42, 180, 0, 63, 27, 42, 182, 0, 234, 79, 42]
abbrev dktX1_readsTraveller_0 : List UInt8 := dkwX1_readsTraveller_0 ++ dktX1_readsTraveller_1
theorem dksX1_readsTraveller_0 : cX1_readsTraveller.data.toList.drop 0 = dktX1_readsTraveller_0 := by decide +kernel
theorem dksX1_readsTraveller_1 : cX1_readsTraveller.data.toList.drop 23 = dktX1_readsTraveller_1 := dk_seg dksX1_readsTraveller_0 23 rfl rfl
theorem dksX1_readsTraveller_2 : cX1_readsTraveller.data.toList.drop 47 = dktX1_readsTraveller_2 := dk_seg dksX1_readsTraveller_1 24 rfl rfl
theorem dksX1_readsTraveller_3 : cX1_readsTraveller.data.toList.drop 69 = dktX1_readsTraveller_3 := dk_seg dksX1_readsTraveller_2 22 rfl rfl
theorem dX1_readsTraveller_0 : decode cX1_readsTraveller 0 = .ok (.aload_n 0, 1) := dk_42 (dk_at dksX1_readsTraveller_0 0 rfl rfl)
theorem dX1_readsTraveller_1 : decode cX1_readsTraveller 1 = .ok (.getfield 201, 3) := dk_180 0 201 (dk_at dksX1_readsTraveller_0 1 rfl rfl)
theorem dX1_readsTraveller_4 : decode cX1_readsTraveller 4 = .ok (.istore_n 1, 1) := dk_60 (dk_at dksX1_readsTraveller_0 4 rfl rfl)
theorem dX1_readsTraveller_5 : decode cX1_readsTraveller 5 = .ok (.iload_n 1, 1) := dk_27 (dk_at dksX1_readsTraveller_0 5 rfl rfl)
theorem dX1_readsTraveller_6 : decode cX1_readsTraveller 6 = .ok (.iconst 4, 1) := dk_7 (dk_at dksX1_readsTraveller_0 6 rfl rfl)
theorem dX1_readsTraveller_7 : decode cX1_readsTraveller 7 = .ok (.if_icmp .ne 5, 3) := dk_160 0 5 (dk_at dksX1_readsTraveller_0 7 rfl rfl)
theorem dX1_readsTraveller_10 : decode cX1_readsTraveller 10 = .ok (.iconst 0, 1) := dk_3 (dk_at dksX1_readsTraveller_0 10 rfl rfl)
theorem dX1_readsTraveller_11 : decode cX1_readsTraveller 11 = .ok (.ireturn, 1) := dk_172 (dk_at dksX1_readsTraveller_0 11 rfl rfl)
theorem dX1_readsTraveller_12 : decode cX1_readsTraveller 12 = .ok (.aload_n 0, 1) := dk_42 (dk_at dksX1_readsTraveller_0 12 rfl rfl)
theorem dX1_readsTraveller_13 : decode cX1_readsTraveller 13 = .ok (.getfield 63, 3) := dk_180 0 63 (dk_at dksX1_readsTraveller_0 13 rfl rfl)
theorem dX1_readsTraveller_16 : decode cX1_readsTraveller 16 = .ok (.iload_n 1, 1) := dk_27 (dk_at dksX1_readsTraveller_0 16 rfl rfl)
theorem dX1_readsTraveller_17 : decode cX1_readsTraveller 17 = .ok (.aload_n 0, 1) := dk_42 (dk_at dksX1_readsTraveller_0 17 rfl rfl)
theorem dX1_readsTraveller_18 : decode cX1_readsTraveller 18 = .ok (.invokevirtual 234, 3) := dk_182 0 234 (dk_at dksX1_readsTraveller_0 18 rfl rfl)
theorem dX1_readsTraveller_21 : decode cX1_readsTraveller 21 = .ok (.iastore, 1) := dk_79 (dk_at dksX1_readsTraveller_0 21 rfl rfl)
theorem dX1_readsTraveller_22 : decode cX1_readsTraveller 22 = .ok (.aload_n 0, 1) := dk_42 (dk_at dksX1_readsTraveller_0 22 rfl rfl)
theorem dX1_readsTraveller_23 : decode cX1_readsTraveller 23 = .ok (.getfield 63, 3) := dk_180 0 63 (dk_at dksX1_readsTraveller_1 0 rfl rfl)
theorem dX1_readsTraveller_26 : decode cX1_readsTraveller 26 = .ok (.iload_n 1, 1) := dk_27 (dk_at dksX1_readsTraveller_1 3 rfl rfl)
theorem dX1_readsTraveller_27 : decode cX1_readsTraveller 27 = .ok (.iaload, 1) := dk_46 (dk_at dksX1_readsTraveller_1 4 rfl rfl)
theorem dX1_readsTraveller_28 : decode cX1_readsTraveller 28 = .ok (.ifCond .lt 12, 3) := dk_155 0 12 (dk_at dksX1_readsTraveller_1 5 rfl rfl)
theorem dX1_readsTraveller_31 : decode cX1_readsTraveller 31 = .ok (.aload_n 0, 1) := dk_42 (dk_at dksX1_readsTraveller_1 8 rfl rfl)
theorem dX1_readsTraveller_32 : decode cX1_readsTraveller 32 = .ok (.bipush 58, 2) := dk_16 58 (dk_at dksX1_readsTraveller_1 9 rfl rfl)
theorem dX1_readsTraveller_34 : decode cX1_readsTraveller 34 = .ok (.invokevirtual 212, 3) := dk_182 0 212 (dk_at dksX1_readsTraveller_1 11 rfl rfl)
theorem dX1_readsTraveller_37 : decode cX1_readsTraveller 37 = .ok (.ifCond .ne 5, 3) := dk_154 0 5 (dk_at dksX1_readsTraveller_1 14 rfl rfl)
theorem dX1_readsTraveller_40 : decode cX1_readsTraveller 40 = .ok (.iconst 0, 1) := dk_3 (dk_at dksX1_readsTraveller_1 17 rfl rfl)
theorem dX1_readsTraveller_41 : decode cX1_readsTraveller 41 = .ok (.ireturn, 1) := dk_172 (dk_at dksX1_readsTraveller_1 18 rfl rfl)
theorem dX1_readsTraveller_42 : decode cX1_readsTraveller 42 = .ok (.aload_n 0, 1) := dk_42 (dk_at dksX1_readsTraveller_1 19 rfl rfl)
theorem dX1_readsTraveller_43 : decode cX1_readsTraveller 43 = .ok (.getfield 66, 3) := dk_180 0 66 (dk_at dksX1_readsTraveller_1 20 rfl rfl)
theorem dX1_readsTraveller_46 : decode cX1_readsTraveller 46 = .ok (.iload_n 1, 1) := dk_27 (dk_at dksX1_readsTraveller_1 23 rfl rfl)
theorem dX1_readsTraveller_47 : decode cX1_readsTraveller 47 = .ok (.aload_n 0, 1) := dk_42 (dk_at dksX1_readsTraveller_2 0 rfl rfl)
theorem dX1_readsTraveller_48 : decode cX1_readsTraveller 48 = .ok (.iconst 3, 1) := dk_6 (dk_at dksX1_readsTraveller_2 1 rfl rfl)
theorem dX1_readsTraveller_49 : decode cX1_readsTraveller 49 = .ok (.invokevirtual 238, 3) := dk_182 0 238 (dk_at dksX1_readsTraveller_2 2 rfl rfl)
theorem dX1_readsTraveller_52 : decode cX1_readsTraveller 52 = .ok (.iastore, 1) := dk_79 (dk_at dksX1_readsTraveller_2 5 rfl rfl)
theorem dX1_readsTraveller_53 : decode cX1_readsTraveller 53 = .ok (.aload_n 0, 1) := dk_42 (dk_at dksX1_readsTraveller_2 6 rfl rfl)
theorem dX1_readsTraveller_54 : decode cX1_readsTraveller 54 = .ok (.dup, 1) := dk_89 (dk_at dksX1_readsTraveller_2 7 rfl rfl)
theorem dX1_readsTraveller_55 : decode cX1_readsTraveller 55 = .ok (.getfield 201, 3) := dk_180 0 201 (dk_at dksX1_readsTraveller_2 8 rfl rfl)
theorem dX1_readsTraveller_58 : decode cX1_readsTraveller 58 = .ok (.iconst 1, 1) := dk_4 (dk_at dksX1_readsTraveller_2 11 rfl rfl)
theorem dX1_readsTraveller_59 : decode cX1_readsTraveller 59 = .ok (.iadd, 1) := dk_96 (dk_at dksX1_readsTraveller_2 12 rfl rfl)
theorem dX1_readsTraveller_60 : decode cX1_readsTraveller 60 = .ok (.putfield 201, 3) := dk_181 0 201 (dk_at dksX1_readsTraveller_2 13 rfl rfl)
theorem dX1_readsTraveller_63 : decode cX1_readsTraveller 63 = .ok (.aload_n 0, 1) := dk_42 (dk_at dksX1_readsTraveller_2 16 rfl rfl)
theorem dX1_readsTraveller_64 : decode cX1_readsTraveller 64 = .ok (.getfield 66, 3) := dk_180 0 66 (dk_at dksX1_readsTraveller_2 17 rfl rfl)
theorem dX1_readsTraveller_67 : decode cX1_readsTraveller 67 = .ok (.iload_n 1, 1) := dk_27 (dk_at dksX1_readsTraveller_2 20 rfl rfl)
theorem dX1_readsTraveller_68 : decode cX1_readsTraveller 68 = .ok (.iaload, 1) := dk_46 (dk_at dksX1_readsTraveller_2 21 rfl rfl)
theorem dX1_readsTraveller_69 : decode cX1_readsTraveller 69 = .ok (.ifCond .lt 7, 3) := dk_155 0 7 (dk_at dksX1_readsTraveller_3 0 rfl rfl)
theorem dX1_readsTraveller_72 : decode cX1_readsTraveller 72 = .ok (.iconst 1, 1) := dk_4 (dk_at dksX1_readsTraveller_3 3 rfl rfl)
theorem dX1_readsTraveller_73 : decode cX1_readsTraveller 73 = .ok (.goto 4, 3) := dk_167 0 4 (dk_at dksX1_readsTraveller_3 4 rfl rfl)
theorem dX1_readsTraveller_76 : decode cX1_readsTraveller 76 = .ok (.iconst 0, 1) := dk_3 (dk_at dksX1_readsTraveller_3 7 rfl rfl)
theorem dX1_readsTraveller_77 : decode cX1_readsTraveller 77 = .ok (.ireturn, 1) := dk_172 (dk_at dksX1_readsTraveller_3 8 rfl rfl)
def dkwX1_readsStation_1 : List UInt8 := [182, 0, 198, 167, 0, 4, 2, 172]
abbrev dktX1_readsStation_1 : List UInt8 := dkwX1_readsStation_1 ++ []
def dkwX1_readsStation_0 : List UInt8 := [42, 18, 196, 182, 0, 184, 133, 9, 42, 180, 0, 44, 4, 100, 133, 184, 0, 141, 153, 0, 12, 42, 18, 196]
abbrev dktX1_readsStation_0 : List UInt8 := dkwX1_readsStation_0 ++ dktX1_readsStation_1
theorem dksX1_readsStation_0 : cX1_readsStation.data.toList.drop 0 = dktX1_readsStation_0 := by decide +kernel
theorem dksX1_readsStation_1 : cX1_readsStation.data.toList.drop 24 = dktX1_readsStation_1 := dk_seg dksX1_readsStation_0 24 rfl rfl
theorem dX1_readsStation_0 : decode cX1_readsStation 0 = .ok (.aload_n 0, 1) := dk_42 (dk_at dksX1_readsStation_0 0 rfl rfl)
theorem dX1_readsStation_1 : decode cX1_readsStation 1 = .ok (.ldc 196, 2) := dk_18 196 (dk_at dksX1_readsStation_0 1 rfl rfl)
theorem dX1_readsStation_3 : decode cX1_readsStation 3 = .ok (.invokevirtual 184, 3) := dk_182 0 184 (dk_at dksX1_readsStation_0 3 rfl rfl)
theorem dX1_readsStation_6 : decode cX1_readsStation 6 = .ok (.i2l, 1) := dk_133 (dk_at dksX1_readsStation_0 6 rfl rfl)
theorem dX1_readsStation_7 : decode cX1_readsStation 7 = .ok (.lconst 0, 1) := dk_9 (dk_at dksX1_readsStation_0 7 rfl rfl)
theorem dX1_readsStation_8 : decode cX1_readsStation 8 = .ok (.aload_n 0, 1) := dk_42 (dk_at dksX1_readsStation_0 8 rfl rfl)
theorem dX1_readsStation_9 : decode cX1_readsStation 9 = .ok (.getfield 44, 3) := dk_180 0 44 (dk_at dksX1_readsStation_0 9 rfl rfl)
theorem dX1_readsStation_12 : decode cX1_readsStation 12 = .ok (.iconst 1, 1) := dk_4 (dk_at dksX1_readsStation_0 12 rfl rfl)
theorem dX1_readsStation_13 : decode cX1_readsStation 13 = .ok (.isub, 1) := dk_100 (dk_at dksX1_readsStation_0 13 rfl rfl)
theorem dX1_readsStation_14 : decode cX1_readsStation 14 = .ok (.i2l, 1) := dk_133 (dk_at dksX1_readsStation_0 14 rfl rfl)
theorem dX1_readsStation_15 : decode cX1_readsStation 15 = .ok (.invokestatic 141, 3) := dk_184 0 141 (dk_at dksX1_readsStation_0 15 rfl rfl)
theorem dX1_readsStation_18 : decode cX1_readsStation 18 = .ok (.ifCond .eq 12, 3) := dk_153 0 12 (dk_at dksX1_readsStation_0 18 rfl rfl)
theorem dX1_readsStation_21 : decode cX1_readsStation 21 = .ok (.aload_n 0, 1) := dk_42 (dk_at dksX1_readsStation_0 21 rfl rfl)
theorem dX1_readsStation_22 : decode cX1_readsStation 22 = .ok (.ldc 196, 2) := dk_18 196 (dk_at dksX1_readsStation_0 22 rfl rfl)
theorem dX1_readsStation_24 : decode cX1_readsStation 24 = .ok (.invokevirtual 198, 3) := dk_182 0 198 (dk_at dksX1_readsStation_1 0 rfl rfl)
theorem dX1_readsStation_27 : decode cX1_readsStation 27 = .ok (.goto 4, 3) := dk_167 0 4 (dk_at dksX1_readsStation_1 3 rfl rfl)
theorem dX1_readsStation_30 : decode cX1_readsStation 30 = .ok (.iconst (-1), 1) := dk_2 (dk_at dksX1_readsStation_1 6 rfl rfl)
theorem dX1_readsStation_31 : decode cX1_readsStation 31 = .ok (.ireturn, 1) := dk_172 (dk_at dksX1_readsStation_1 7 rfl rfl)
def dkwX1_number_2 : List UInt8 := [180, 0, 166, 4, 96, 181, 0, 166, 132, 3, 1, 167, 255, 213, 28, 172]
abbrev dktX1_number_2 : List UInt8 := dkwX1_number_2 ++ []
def dkwX1_number_1 : List UInt8 := [153, 0, 37, 16, 10, 28, 104, 42, 180, 0, 48, 42, 180, 0, 166, 46, 96, 16, 48, 100, 61, 42, 89]
abbrev dktX1_number_1 : List UInt8 := dkwX1_number_1 ++ dktX1_number_2
def dkwX1_number_0 : List UInt8 := [42, 182, 0, 192, 154, 0, 5, 2, 172, 3, 61, 3, 62, 29, 27, 162, 0, 44, 42, 182, 0, 192]
abbrev dktX1_number_0 : List UInt8 := dkwX1_number_0 ++ dktX1_number_1
theorem dksX1_number_0 : cX1_number.data.toList.drop 0 = dktX1_number_0 := by decide +kernel
theorem dksX1_number_1 : cX1_number.data.toList.drop 22 = dktX1_number_1 := dk_seg dksX1_number_0 22 rfl rfl
theorem dksX1_number_2 : cX1_number.data.toList.drop 45 = dktX1_number_2 := dk_seg dksX1_number_1 23 rfl rfl
theorem dX1_number_0 : decode cX1_number 0 = .ok (.aload_n 0, 1) := dk_42 (dk_at dksX1_number_0 0 rfl rfl)
theorem dX1_number_1 : decode cX1_number 1 = .ok (.invokevirtual 192, 3) := dk_182 0 192 (dk_at dksX1_number_0 1 rfl rfl)
theorem dX1_number_4 : decode cX1_number 4 = .ok (.ifCond .ne 5, 3) := dk_154 0 5 (dk_at dksX1_number_0 4 rfl rfl)
theorem dX1_number_7 : decode cX1_number 7 = .ok (.iconst (-1), 1) := dk_2 (dk_at dksX1_number_0 7 rfl rfl)
theorem dX1_number_8 : decode cX1_number 8 = .ok (.ireturn, 1) := dk_172 (dk_at dksX1_number_0 8 rfl rfl)
theorem dX1_number_9 : decode cX1_number 9 = .ok (.iconst 0, 1) := dk_3 (dk_at dksX1_number_0 9 rfl rfl)
theorem dX1_number_10 : decode cX1_number 10 = .ok (.istore_n 2, 1) := dk_61 (dk_at dksX1_number_0 10 rfl rfl)
theorem dX1_number_11 : decode cX1_number 11 = .ok (.iconst 0, 1) := dk_3 (dk_at dksX1_number_0 11 rfl rfl)
theorem dX1_number_12 : decode cX1_number 12 = .ok (.istore_n 3, 1) := dk_62 (dk_at dksX1_number_0 12 rfl rfl)
theorem dX1_number_13 : decode cX1_number 13 = .ok (.iload_n 3, 1) := dk_29 (dk_at dksX1_number_0 13 rfl rfl)
theorem dX1_number_14 : decode cX1_number 14 = .ok (.iload_n 1, 1) := dk_27 (dk_at dksX1_number_0 14 rfl rfl)
theorem dX1_number_15 : decode cX1_number 15 = .ok (.if_icmp .ge 44, 3) := dk_162 0 44 (dk_at dksX1_number_0 15 rfl rfl)
theorem dX1_number_18 : decode cX1_number 18 = .ok (.aload_n 0, 1) := dk_42 (dk_at dksX1_number_0 18 rfl rfl)
theorem dX1_number_19 : decode cX1_number 19 = .ok (.invokevirtual 192, 3) := dk_182 0 192 (dk_at dksX1_number_0 19 rfl rfl)
theorem dX1_number_22 : decode cX1_number 22 = .ok (.ifCond .eq 37, 3) := dk_153 0 37 (dk_at dksX1_number_1 0 rfl rfl)
theorem dX1_number_25 : decode cX1_number 25 = .ok (.bipush 10, 2) := dk_16 10 (dk_at dksX1_number_1 3 rfl rfl)
theorem dX1_number_27 : decode cX1_number 27 = .ok (.iload_n 2, 1) := dk_28 (dk_at dksX1_number_1 5 rfl rfl)
theorem dX1_number_28 : decode cX1_number 28 = .ok (.imul, 1) := dk_104 (dk_at dksX1_number_1 6 rfl rfl)
theorem dX1_number_29 : decode cX1_number 29 = .ok (.aload_n 0, 1) := dk_42 (dk_at dksX1_number_1 7 rfl rfl)
theorem dX1_number_30 : decode cX1_number 30 = .ok (.getfield 48, 3) := dk_180 0 48 (dk_at dksX1_number_1 8 rfl rfl)
theorem dX1_number_33 : decode cX1_number 33 = .ok (.aload_n 0, 1) := dk_42 (dk_at dksX1_number_1 11 rfl rfl)
theorem dX1_number_34 : decode cX1_number 34 = .ok (.getfield 166, 3) := dk_180 0 166 (dk_at dksX1_number_1 12 rfl rfl)
theorem dX1_number_37 : decode cX1_number 37 = .ok (.iaload, 1) := dk_46 (dk_at dksX1_number_1 15 rfl rfl)
theorem dX1_number_38 : decode cX1_number 38 = .ok (.iadd, 1) := dk_96 (dk_at dksX1_number_1 16 rfl rfl)
theorem dX1_number_39 : decode cX1_number 39 = .ok (.bipush 48, 2) := dk_16 48 (dk_at dksX1_number_1 17 rfl rfl)
theorem dX1_number_41 : decode cX1_number 41 = .ok (.isub, 1) := dk_100 (dk_at dksX1_number_1 19 rfl rfl)
theorem dX1_number_42 : decode cX1_number 42 = .ok (.istore_n 2, 1) := dk_61 (dk_at dksX1_number_1 20 rfl rfl)
theorem dX1_number_43 : decode cX1_number 43 = .ok (.aload_n 0, 1) := dk_42 (dk_at dksX1_number_1 21 rfl rfl)
theorem dX1_number_44 : decode cX1_number 44 = .ok (.dup, 1) := dk_89 (dk_at dksX1_number_1 22 rfl rfl)
theorem dX1_number_45 : decode cX1_number 45 = .ok (.getfield 166, 3) := dk_180 0 166 (dk_at dksX1_number_2 0 rfl rfl)
theorem dX1_number_48 : decode cX1_number 48 = .ok (.iconst 1, 1) := dk_4 (dk_at dksX1_number_2 3 rfl rfl)
theorem dX1_number_49 : decode cX1_number 49 = .ok (.iadd, 1) := dk_96 (dk_at dksX1_number_2 4 rfl rfl)
theorem dX1_number_50 : decode cX1_number 50 = .ok (.putfield 166, 3) := dk_181 0 166 (dk_at dksX1_number_2 5 rfl rfl)
theorem dX1_number_53 : decode cX1_number 53 = .ok (.iinc 3 1, 3) := dk_132 3 1 (dk_at dksX1_number_2 8 rfl rfl)
theorem dX1_number_56 : decode cX1_number 56 = .ok (.goto (-43), 3) := dk_167 255 213 (dk_at dksX1_number_2 11 rfl rfl)
theorem dX1_number_59 : decode cX1_number 59 = .ok (.iload_n 2, 1) := dk_28 (dk_at dksX1_number_2 14 rfl rfl)
theorem dX1_number_60 : decode cX1_number 60 = .ok (.ireturn, 1) := dk_172 (dk_at dksX1_number_2 15 rfl rfl)
def dkwX1_isDigit_1 : List UInt8 := [20, 0, 190, 184, 0, 141, 153, 0, 7, 4, 167, 0, 4, 3, 172]
abbrev dktX1_isDigit_1 : List UInt8 := dkwX1_isDigit_1 ++ []
def dkwX1_isDigit_0 : List UInt8 := [42, 180, 0, 166, 42, 180, 0, 177, 162, 0, 29, 42, 180, 0, 48, 42, 180, 0, 166, 46, 133, 20, 0, 188]
abbrev dktX1_isDigit_0 : List UInt8 := dkwX1_isDigit_0 ++ dktX1_isDigit_1
theorem dksX1_isDigit_0 : cX1_isDigit.data.toList.drop 0 = dktX1_isDigit_0 := by decide +kernel
theorem dksX1_isDigit_1 : cX1_isDigit.data.toList.drop 24 = dktX1_isDigit_1 := dk_seg dksX1_isDigit_0 24 rfl rfl
theorem dX1_isDigit_0 : decode cX1_isDigit 0 = .ok (.aload_n 0, 1) := dk_42 (dk_at dksX1_isDigit_0 0 rfl rfl)
theorem dX1_isDigit_1 : decode cX1_isDigit 1 = .ok (.getfield 166, 3) := dk_180 0 166 (dk_at dksX1_isDigit_0 1 rfl rfl)
theorem dX1_isDigit_4 : decode cX1_isDigit 4 = .ok (.aload_n 0, 1) := dk_42 (dk_at dksX1_isDigit_0 4 rfl rfl)
theorem dX1_isDigit_5 : decode cX1_isDigit 5 = .ok (.getfield 177, 3) := dk_180 0 177 (dk_at dksX1_isDigit_0 5 rfl rfl)
theorem dX1_isDigit_8 : decode cX1_isDigit 8 = .ok (.if_icmp .ge 29, 3) := dk_162 0 29 (dk_at dksX1_isDigit_0 8 rfl rfl)
theorem dX1_isDigit_11 : decode cX1_isDigit 11 = .ok (.aload_n 0, 1) := dk_42 (dk_at dksX1_isDigit_0 11 rfl rfl)
theorem dX1_isDigit_12 : decode cX1_isDigit 12 = .ok (.getfield 48, 3) := dk_180 0 48 (dk_at dksX1_isDigit_0 12 rfl rfl)
theorem dX1_isDigit_15 : decode cX1_isDigit 15 = .ok (.aload_n 0, 1) := dk_42 (dk_at dksX1_isDigit_0 15 rfl rfl)
theorem dX1_isDigit_16 : decode cX1_isDigit 16 = .ok (.getfield 166, 3) := dk_180 0 166 (dk_at dksX1_isDigit_0 16 rfl rfl)
theorem dX1_isDigit_19 : decode cX1_isDigit 19 = .ok (.iaload, 1) := dk_46 (dk_at dksX1_isDigit_0 19 rfl rfl)
theorem dX1_isDigit_20 : decode cX1_isDigit 20 = .ok (.i2l, 1) := dk_133 (dk_at dksX1_isDigit_0 20 rfl rfl)
theorem dX1_isDigit_21 : decode cX1_isDigit 21 = .ok (.ldc2_w 188, 3) := dk_20 0 188 (dk_at dksX1_isDigit_0 21 rfl rfl)
theorem dX1_isDigit_24 : decode cX1_isDigit 24 = .ok (.ldc2_w 190, 3) := dk_20 0 190 (dk_at dksX1_isDigit_1 0 rfl rfl)
theorem dX1_isDigit_27 : decode cX1_isDigit 27 = .ok (.invokestatic 141, 3) := dk_184 0 141 (dk_at dksX1_isDigit_1 3 rfl rfl)
theorem dX1_isDigit_30 : decode cX1_isDigit 30 = .ok (.ifCond .eq 7, 3) := dk_153 0 7 (dk_at dksX1_isDigit_1 6 rfl rfl)
theorem dX1_isDigit_33 : decode cX1_isDigit 33 = .ok (.iconst 1, 1) := dk_4 (dk_at dksX1_isDigit_1 9 rfl rfl)
theorem dX1_isDigit_34 : decode cX1_isDigit 34 = .ok (.goto 4, 3) := dk_167 0 4 (dk_at dksX1_isDigit_1 10 rfl rfl)
theorem dX1_isDigit_37 : decode cX1_isDigit 37 = .ok (.iconst 0, 1) := dk_3 (dk_at dksX1_isDigit_1 13 rfl rfl)
theorem dX1_isDigit_38 : decode cX1_isDigit 38 = .ok (.ireturn, 1) := dk_172 (dk_at dksX1_isDigit_1 14 rfl rfl)
def dkwX1_errands_8 : List UInt8 := [172]
abbrev dktX1_errands_8 : List UInt8 := dkwX1_errands_8 ++ []
def dkwX1_errands_7 : List UInt8 := [180, 0, 252, 46, 79, 42, 89, 180, 0, 252, 4, 96, 181, 0, 252, 167, 255, 163, 42, 182, 0, 225, 21, 5]
abbrev dktX1_errands_7 : List UInt8 := dkwX1_errands_7 ++ dktX1_errands_8
def dkwX1_errands_6 : List UInt8 := [180, 0, 75, 42, 180, 0, 252, 46, 79, 42, 180, 0, 41, 42, 180, 0, 252, 42, 180, 0, 78, 42]
abbrev dktX1_errands_6 : List UInt8 := dkwX1_errands_6 ++ dktX1_errands_7
def dkwX1_errands_5 : List UInt8 := [180, 0, 252, 42, 180, 0, 72, 42, 180, 0, 252, 46, 79, 42, 180, 0, 38, 42, 180, 0, 252, 42]
abbrev dktX1_errands_5 : List UInt8 := dkwX1_errands_5 ++ dktX1_errands_6
def dkwX1_errands_4 : List UInt8 := [180, 0, 32, 42, 180, 0, 252, 42, 180, 0, 69, 42, 180, 0, 252, 46, 79, 42, 180, 0, 35, 42]
abbrev dktX1_errands_4 : List UInt8 := dkwX1_errands_4 ++ dktX1_errands_5
def dkwX1_errands_3 : List UInt8 := [42, 180, 0, 201, 42, 180, 0, 252, 100, 54, 5, 42, 180, 0, 252, 42, 180, 0, 201, 162, 0, 88, 42]
abbrev dktX1_errands_3 : List UInt8 := dkwX1_errands_3 ++ dktX1_errands_4
def dkwX1_errands_2 : List UInt8 := [167, 0, 4, 3, 62, 167, 255, 228, 42, 27, 28, 182, 0, 215, 54, 4, 21, 4, 156, 0, 6, 21, 4, 172]
abbrev dktX1_errands_2 : List UInt8 := dkwX1_errands_2 ++ dktX1_errands_3
def dkwX1_errands_1 : List UInt8 := [62, 29, 153, 0, 30, 42, 182, 0, 255, 61, 28, 153, 0, 16, 42, 16, 59, 182, 0, 212, 153, 0, 7, 4]
abbrev dktX1_errands_1 : List UInt8 := dkwX1_errands_1 ++ dktX1_errands_2
def dkwX1_errands_0 : List UInt8 := [42, 16, 76, 182, 0, 206, 60, 27, 154, 0, 5, 3, 172, 42, 42, 180, 0, 252, 181, 0, 201, 4, 61, 4]
abbrev dktX1_errands_0 : List UInt8 := dkwX1_errands_0 ++ dktX1_errands_1
theorem dksX1_errands_0 : cX1_errands.data.toList.drop 0 = dktX1_errands_0 := by decide +kernel
theorem dksX1_errands_1 : cX1_errands.data.toList.drop 24 = dktX1_errands_1 := dk_seg dksX1_errands_0 24 rfl rfl
theorem dksX1_errands_2 : cX1_errands.data.toList.drop 48 = dktX1_errands_2 := dk_seg dksX1_errands_1 24 rfl rfl
theorem dksX1_errands_3 : cX1_errands.data.toList.drop 72 = dktX1_errands_3 := dk_seg dksX1_errands_2 24 rfl rfl
theorem dksX1_errands_4 : cX1_errands.data.toList.drop 95 = dktX1_errands_4 := dk_seg dksX1_errands_3 23 rfl rfl
theorem dksX1_errands_5 : cX1_errands.data.toList.drop 117 = dktX1_errands_5 := dk_seg dksX1_errands_4 22 rfl rfl
theorem dksX1_errands_6 : cX1_errands.data.toList.drop 139 = dktX1_errands_6 := dk_seg dksX1_errands_5 22 rfl rfl
theorem dksX1_errands_7 : cX1_errands.data.toList.drop 161 = dktX1_errands_7 := dk_seg dksX1_errands_6 22 rfl rfl
theorem dksX1_errands_8 : cX1_errands.data.toList.drop 185 = dktX1_errands_8 := dk_seg dksX1_errands_7 24 rfl rfl
theorem dX1_errands_0 : decode cX1_errands 0 = .ok (.aload_n 0, 1) := dk_42 (dk_at dksX1_errands_0 0 rfl rfl)
theorem dX1_errands_1 : decode cX1_errands 1 = .ok (.bipush 76, 2) := dk_16 76 (dk_at dksX1_errands_0 1 rfl rfl)
theorem dX1_errands_3 : decode cX1_errands 3 = .ok (.invokevirtual 206, 3) := dk_182 0 206 (dk_at dksX1_errands_0 3 rfl rfl)
theorem dX1_errands_6 : decode cX1_errands 6 = .ok (.istore_n 1, 1) := dk_60 (dk_at dksX1_errands_0 6 rfl rfl)
theorem dX1_errands_7 : decode cX1_errands 7 = .ok (.iload_n 1, 1) := dk_27 (dk_at dksX1_errands_0 7 rfl rfl)
theorem dX1_errands_8 : decode cX1_errands 8 = .ok (.ifCond .ne 5, 3) := dk_154 0 5 (dk_at dksX1_errands_0 8 rfl rfl)
theorem dX1_errands_11 : decode cX1_errands 11 = .ok (.iconst 0, 1) := dk_3 (dk_at dksX1_errands_0 11 rfl rfl)
theorem dX1_errands_12 : decode cX1_errands 12 = .ok (.ireturn, 1) := dk_172 (dk_at dksX1_errands_0 12 rfl rfl)
theorem dX1_errands_13 : decode cX1_errands 13 = .ok (.aload_n 0, 1) := dk_42 (dk_at dksX1_errands_0 13 rfl rfl)
theorem dX1_errands_14 : decode cX1_errands 14 = .ok (.aload_n 0, 1) := dk_42 (dk_at dksX1_errands_0 14 rfl rfl)
theorem dX1_errands_15 : decode cX1_errands 15 = .ok (.getfield 252, 3) := dk_180 0 252 (dk_at dksX1_errands_0 15 rfl rfl)
theorem dX1_errands_18 : decode cX1_errands 18 = .ok (.putfield 201, 3) := dk_181 0 201 (dk_at dksX1_errands_0 18 rfl rfl)
theorem dX1_errands_21 : decode cX1_errands 21 = .ok (.iconst 1, 1) := dk_4 (dk_at dksX1_errands_0 21 rfl rfl)
theorem dX1_errands_22 : decode cX1_errands 22 = .ok (.istore_n 2, 1) := dk_61 (dk_at dksX1_errands_0 22 rfl rfl)
theorem dX1_errands_23 : decode cX1_errands 23 = .ok (.iconst 1, 1) := dk_4 (dk_at dksX1_errands_0 23 rfl rfl)
theorem dX1_errands_24 : decode cX1_errands 24 = .ok (.istore_n 3, 1) := dk_62 (dk_at dksX1_errands_1 0 rfl rfl)
theorem dX1_errands_25 : decode cX1_errands 25 = .ok (.iload_n 3, 1) := dk_29 (dk_at dksX1_errands_1 1 rfl rfl)
theorem dX1_errands_26 : decode cX1_errands 26 = .ok (.ifCond .eq 30, 3) := dk_153 0 30 (dk_at dksX1_errands_1 2 rfl rfl)
theorem dX1_errands_29 : decode cX1_errands 29 = .ok (.aload_n 0, 1) := dk_42 (dk_at dksX1_errands_1 5 rfl rfl)
theorem dX1_errands_30 : decode cX1_errands 30 = .ok (.invokevirtual 255, 3) := dk_182 0 255 (dk_at dksX1_errands_1 6 rfl rfl)
theorem dX1_errands_33 : decode cX1_errands 33 = .ok (.istore_n 2, 1) := dk_61 (dk_at dksX1_errands_1 9 rfl rfl)
theorem dX1_errands_34 : decode cX1_errands 34 = .ok (.iload_n 2, 1) := dk_28 (dk_at dksX1_errands_1 10 rfl rfl)
theorem dX1_errands_35 : decode cX1_errands 35 = .ok (.ifCond .eq 16, 3) := dk_153 0 16 (dk_at dksX1_errands_1 11 rfl rfl)
theorem dX1_errands_38 : decode cX1_errands 38 = .ok (.aload_n 0, 1) := dk_42 (dk_at dksX1_errands_1 14 rfl rfl)
theorem dX1_errands_39 : decode cX1_errands 39 = .ok (.bipush 59, 2) := dk_16 59 (dk_at dksX1_errands_1 15 rfl rfl)
theorem dX1_errands_41 : decode cX1_errands 41 = .ok (.invokevirtual 212, 3) := dk_182 0 212 (dk_at dksX1_errands_1 17 rfl rfl)
theorem dX1_errands_44 : decode cX1_errands 44 = .ok (.ifCond .eq 7, 3) := dk_153 0 7 (dk_at dksX1_errands_1 20 rfl rfl)
theorem dX1_errands_47 : decode cX1_errands 47 = .ok (.iconst 1, 1) := dk_4 (dk_at dksX1_errands_1 23 rfl rfl)
theorem dX1_errands_48 : decode cX1_errands 48 = .ok (.goto 4, 3) := dk_167 0 4 (dk_at dksX1_errands_2 0 rfl rfl)
theorem dX1_errands_51 : decode cX1_errands 51 = .ok (.iconst 0, 1) := dk_3 (dk_at dksX1_errands_2 3 rfl rfl)
theorem dX1_errands_52 : decode cX1_errands 52 = .ok (.istore_n 3, 1) := dk_62 (dk_at dksX1_errands_2 4 rfl rfl)
theorem dX1_errands_53 : decode cX1_errands 53 = .ok (.goto (-28), 3) := dk_167 255 228 (dk_at dksX1_errands_2 5 rfl rfl)
theorem dX1_errands_56 : decode cX1_errands 56 = .ok (.aload_n 0, 1) := dk_42 (dk_at dksX1_errands_2 8 rfl rfl)
theorem dX1_errands_57 : decode cX1_errands 57 = .ok (.iload_n 1, 1) := dk_27 (dk_at dksX1_errands_2 9 rfl rfl)
theorem dX1_errands_58 : decode cX1_errands 58 = .ok (.iload_n 2, 1) := dk_28 (dk_at dksX1_errands_2 10 rfl rfl)
theorem dX1_errands_59 : decode cX1_errands 59 = .ok (.invokevirtual 215, 3) := dk_182 0 215 (dk_at dksX1_errands_2 11 rfl rfl)
theorem dX1_errands_62 : decode cX1_errands 62 = .ok (.istore 4, 2) := dk_54 4 (dk_at dksX1_errands_2 14 rfl rfl)
theorem dX1_errands_64 : decode cX1_errands 64 = .ok (.iload 4, 2) := dk_21 4 (dk_at dksX1_errands_2 16 rfl rfl)
theorem dX1_errands_66 : decode cX1_errands 66 = .ok (.ifCond .ge 6, 3) := dk_156 0 6 (dk_at dksX1_errands_2 18 rfl rfl)
theorem dX1_errands_69 : decode cX1_errands 69 = .ok (.iload 4, 2) := dk_21 4 (dk_at dksX1_errands_2 21 rfl rfl)
theorem dX1_errands_71 : decode cX1_errands 71 = .ok (.ireturn, 1) := dk_172 (dk_at dksX1_errands_2 23 rfl rfl)
theorem dX1_errands_72 : decode cX1_errands 72 = .ok (.aload_n 0, 1) := dk_42 (dk_at dksX1_errands_3 0 rfl rfl)
theorem dX1_errands_73 : decode cX1_errands 73 = .ok (.getfield 201, 3) := dk_180 0 201 (dk_at dksX1_errands_3 1 rfl rfl)
theorem dX1_errands_76 : decode cX1_errands 76 = .ok (.aload_n 0, 1) := dk_42 (dk_at dksX1_errands_3 4 rfl rfl)
theorem dX1_errands_77 : decode cX1_errands 77 = .ok (.getfield 252, 3) := dk_180 0 252 (dk_at dksX1_errands_3 5 rfl rfl)
theorem dX1_errands_80 : decode cX1_errands 80 = .ok (.isub, 1) := dk_100 (dk_at dksX1_errands_3 8 rfl rfl)
theorem dX1_errands_81 : decode cX1_errands 81 = .ok (.istore 5, 2) := dk_54 5 (dk_at dksX1_errands_3 9 rfl rfl)
theorem dX1_errands_83 : decode cX1_errands 83 = .ok (.aload_n 0, 1) := dk_42 (dk_at dksX1_errands_3 11 rfl rfl)
theorem dX1_errands_84 : decode cX1_errands 84 = .ok (.getfield 252, 3) := dk_180 0 252 (dk_at dksX1_errands_3 12 rfl rfl)
theorem dX1_errands_87 : decode cX1_errands 87 = .ok (.aload_n 0, 1) := dk_42 (dk_at dksX1_errands_3 15 rfl rfl)
theorem dX1_errands_88 : decode cX1_errands 88 = .ok (.getfield 201, 3) := dk_180 0 201 (dk_at dksX1_errands_3 16 rfl rfl)
theorem dX1_errands_91 : decode cX1_errands 91 = .ok (.if_icmp .ge 88, 3) := dk_162 0 88 (dk_at dksX1_errands_3 19 rfl rfl)
theorem dX1_errands_94 : decode cX1_errands 94 = .ok (.aload_n 0, 1) := dk_42 (dk_at dksX1_errands_3 22 rfl rfl)
theorem dX1_errands_95 : decode cX1_errands 95 = .ok (.getfield 32, 3) := dk_180 0 32 (dk_at dksX1_errands_4 0 rfl rfl)
theorem dX1_errands_98 : decode cX1_errands 98 = .ok (.aload_n 0, 1) := dk_42 (dk_at dksX1_errands_4 3 rfl rfl)
theorem dX1_errands_99 : decode cX1_errands 99 = .ok (.getfield 252, 3) := dk_180 0 252 (dk_at dksX1_errands_4 4 rfl rfl)
theorem dX1_errands_102 : decode cX1_errands 102 = .ok (.aload_n 0, 1) := dk_42 (dk_at dksX1_errands_4 7 rfl rfl)
theorem dX1_errands_103 : decode cX1_errands 103 = .ok (.getfield 69, 3) := dk_180 0 69 (dk_at dksX1_errands_4 8 rfl rfl)
theorem dX1_errands_106 : decode cX1_errands 106 = .ok (.aload_n 0, 1) := dk_42 (dk_at dksX1_errands_4 11 rfl rfl)
theorem dX1_errands_107 : decode cX1_errands 107 = .ok (.getfield 252, 3) := dk_180 0 252 (dk_at dksX1_errands_4 12 rfl rfl)
theorem dX1_errands_110 : decode cX1_errands 110 = .ok (.iaload, 1) := dk_46 (dk_at dksX1_errands_4 15 rfl rfl)
theorem dX1_errands_111 : decode cX1_errands 111 = .ok (.iastore, 1) := dk_79 (dk_at dksX1_errands_4 16 rfl rfl)
theorem dX1_errands_112 : decode cX1_errands 112 = .ok (.aload_n 0, 1) := dk_42 (dk_at dksX1_errands_4 17 rfl rfl)
theorem dX1_errands_113 : decode cX1_errands 113 = .ok (.getfield 35, 3) := dk_180 0 35 (dk_at dksX1_errands_4 18 rfl rfl)
theorem dX1_errands_116 : decode cX1_errands 116 = .ok (.aload_n 0, 1) := dk_42 (dk_at dksX1_errands_4 21 rfl rfl)
theorem dX1_errands_117 : decode cX1_errands 117 = .ok (.getfield 252, 3) := dk_180 0 252 (dk_at dksX1_errands_5 0 rfl rfl)
theorem dX1_errands_120 : decode cX1_errands 120 = .ok (.aload_n 0, 1) := dk_42 (dk_at dksX1_errands_5 3 rfl rfl)
theorem dX1_errands_121 : decode cX1_errands 121 = .ok (.getfield 72, 3) := dk_180 0 72 (dk_at dksX1_errands_5 4 rfl rfl)
theorem dX1_errands_124 : decode cX1_errands 124 = .ok (.aload_n 0, 1) := dk_42 (dk_at dksX1_errands_5 7 rfl rfl)
theorem dX1_errands_125 : decode cX1_errands 125 = .ok (.getfield 252, 3) := dk_180 0 252 (dk_at dksX1_errands_5 8 rfl rfl)
theorem dX1_errands_128 : decode cX1_errands 128 = .ok (.iaload, 1) := dk_46 (dk_at dksX1_errands_5 11 rfl rfl)
theorem dX1_errands_129 : decode cX1_errands 129 = .ok (.iastore, 1) := dk_79 (dk_at dksX1_errands_5 12 rfl rfl)
theorem dX1_errands_130 : decode cX1_errands 130 = .ok (.aload_n 0, 1) := dk_42 (dk_at dksX1_errands_5 13 rfl rfl)
theorem dX1_errands_131 : decode cX1_errands 131 = .ok (.getfield 38, 3) := dk_180 0 38 (dk_at dksX1_errands_5 14 rfl rfl)
theorem dX1_errands_134 : decode cX1_errands 134 = .ok (.aload_n 0, 1) := dk_42 (dk_at dksX1_errands_5 17 rfl rfl)
theorem dX1_errands_135 : decode cX1_errands 135 = .ok (.getfield 252, 3) := dk_180 0 252 (dk_at dksX1_errands_5 18 rfl rfl)
theorem dX1_errands_138 : decode cX1_errands 138 = .ok (.aload_n 0, 1) := dk_42 (dk_at dksX1_errands_5 21 rfl rfl)
theorem dX1_errands_139 : decode cX1_errands 139 = .ok (.getfield 75, 3) := dk_180 0 75 (dk_at dksX1_errands_6 0 rfl rfl)
theorem dX1_errands_142 : decode cX1_errands 142 = .ok (.aload_n 0, 1) := dk_42 (dk_at dksX1_errands_6 3 rfl rfl)
theorem dX1_errands_143 : decode cX1_errands 143 = .ok (.getfield 252, 3) := dk_180 0 252 (dk_at dksX1_errands_6 4 rfl rfl)
theorem dX1_errands_146 : decode cX1_errands 146 = .ok (.iaload, 1) := dk_46 (dk_at dksX1_errands_6 7 rfl rfl)
theorem dX1_errands_147 : decode cX1_errands 147 = .ok (.iastore, 1) := dk_79 (dk_at dksX1_errands_6 8 rfl rfl)
theorem dX1_errands_148 : decode cX1_errands 148 = .ok (.aload_n 0, 1) := dk_42 (dk_at dksX1_errands_6 9 rfl rfl)
theorem dX1_errands_149 : decode cX1_errands 149 = .ok (.getfield 41, 3) := dk_180 0 41 (dk_at dksX1_errands_6 10 rfl rfl)
theorem dX1_errands_152 : decode cX1_errands 152 = .ok (.aload_n 0, 1) := dk_42 (dk_at dksX1_errands_6 13 rfl rfl)
theorem dX1_errands_153 : decode cX1_errands 153 = .ok (.getfield 252, 3) := dk_180 0 252 (dk_at dksX1_errands_6 14 rfl rfl)
theorem dX1_errands_156 : decode cX1_errands 156 = .ok (.aload_n 0, 1) := dk_42 (dk_at dksX1_errands_6 17 rfl rfl)
theorem dX1_errands_157 : decode cX1_errands 157 = .ok (.getfield 78, 3) := dk_180 0 78 (dk_at dksX1_errands_6 18 rfl rfl)
theorem dX1_errands_160 : decode cX1_errands 160 = .ok (.aload_n 0, 1) := dk_42 (dk_at dksX1_errands_6 21 rfl rfl)
theorem dX1_errands_161 : decode cX1_errands 161 = .ok (.getfield 252, 3) := dk_180 0 252 (dk_at dksX1_errands_7 0 rfl rfl)
theorem dX1_errands_164 : decode cX1_errands 164 = .ok (.iaload, 1) := dk_46 (dk_at dksX1_errands_7 3 rfl rfl)
theorem dX1_errands_165 : decode cX1_errands 165 = .ok (.iastore, 1) := dk_79 (dk_at dksX1_errands_7 4 rfl rfl)
theorem dX1_errands_166 : decode cX1_errands 166 = .ok (.aload_n 0, 1) := dk_42 (dk_at dksX1_errands_7 5 rfl rfl)
theorem dX1_errands_167 : decode cX1_errands 167 = .ok (.dup, 1) := dk_89 (dk_at dksX1_errands_7 6 rfl rfl)
theorem dX1_errands_168 : decode cX1_errands 168 = .ok (.getfield 252, 3) := dk_180 0 252 (dk_at dksX1_errands_7 7 rfl rfl)
theorem dX1_errands_171 : decode cX1_errands 171 = .ok (.iconst 1, 1) := dk_4 (dk_at dksX1_errands_7 10 rfl rfl)
theorem dX1_errands_172 : decode cX1_errands 172 = .ok (.iadd, 1) := dk_96 (dk_at dksX1_errands_7 11 rfl rfl)
theorem dX1_errands_173 : decode cX1_errands 173 = .ok (.putfield 252, 3) := dk_181 0 252 (dk_at dksX1_errands_7 12 rfl rfl)
theorem dX1_errands_176 : decode cX1_errands 176 = .ok (.goto (-93), 3) := dk_167 255 163 (dk_at dksX1_errands_7 15 rfl rfl)
theorem dX1_errands_179 : decode cX1_errands 179 = .ok (.aload_n 0, 1) := dk_42 (dk_at dksX1_errands_7 18 rfl rfl)
theorem dX1_errands_180 : decode cX1_errands 180 = .ok (.invokevirtual 225, 3) := dk_182 0 225 (dk_at dksX1_errands_7 19 rfl rfl)
theorem dX1_errands_183 : decode cX1_errands 183 = .ok (.iload 5, 2) := dk_21 5 (dk_at dksX1_errands_7 22 rfl rfl)
theorem dX1_errands_185 : decode cX1_errands 185 = .ok (.ireturn, 1) := dk_172 (dk_at dksX1_errands_8 0 rfl rfl)
def dkwX1_readsErrand_6 : List UInt8 := [155, 0, 7, 4, 167, 0, 4, 3, 172]
abbrev dktX1_readsErrand_6 : List UInt8 := dkwX1_readsErrand_6 ++ []
def dkwX1_readsErrand_5 : List UInt8 := [42, 5, 182, 0, 238, 79, 42, 89, 180, 0, 201, 4, 96, 181, 0, 201, 42, 180, 0, 78, 27, 46]
abbrev dktX1_readsErrand_5 : List UInt8 := dkwX1_readsErrand_5 ++ dktX1_readsErrand_6
def dkwX1_readsErrand_4 : List UInt8 := [180, 0, 75, 27, 46, 155, 0, 12, 42, 16, 61, 182, 0, 212, 154, 0, 5, 3, 172, 42, 180, 0, 78, 27]
abbrev dktX1_readsErrand_4 : List UInt8 := dkwX1_readsErrand_4 ++ dktX1_readsErrand_5
def dkwX1_readsErrand_3 : List UInt8 := [79, 42, 180, 0, 72, 27, 46, 156, 0, 5, 3, 172, 42, 180, 0, 75, 27, 42, 182, 0, 234, 79, 42]
abbrev dktX1_readsErrand_3 : List UInt8 := dkwX1_readsErrand_3 ++ dktX1_readsErrand_4
def dkwX1_readsErrand_2 : List UInt8 := [2, 79, 42, 180, 0, 69, 27, 46, 156, 0, 5, 3, 172, 42, 180, 0, 72, 27, 42, 18, 196, 182, 0, 198]
abbrev dktX1_readsErrand_2 : List UInt8 := dkwX1_readsErrand_2 ++ dktX1_readsErrand_3
def dkwX1_readsErrand_1 : List UInt8 := [133, 9, 42, 180, 0, 148, 4, 100, 133, 184, 0, 141, 153, 0, 12, 42, 18, 204, 182, 0, 198, 167, 0, 4]
abbrev dktX1_readsErrand_1 : List UInt8 := dkwX1_readsErrand_1 ++ dktX1_readsErrand_2
def dkwX1_readsErrand_0 : List UInt8 := [42, 180, 0, 201, 60, 27, 16, 8, 160, 0, 5, 3, 172, 42, 180, 0, 69, 27, 42, 18, 204, 182, 0, 184]
abbrev dktX1_readsErrand_0 : List UInt8 := dkwX1_readsErrand_0 ++ dktX1_readsErrand_1
theorem dksX1_readsErrand_0 : cX1_readsErrand.data.toList.drop 0 = dktX1_readsErrand_0 := by decide +kernel
theorem dksX1_readsErrand_1 : cX1_readsErrand.data.toList.drop 24 = dktX1_readsErrand_1 := dk_seg dksX1_readsErrand_0 24 rfl rfl
theorem dksX1_readsErrand_2 : cX1_readsErrand.data.toList.drop 48 = dktX1_readsErrand_2 := dk_seg dksX1_readsErrand_1 24 rfl rfl
theorem dksX1_readsErrand_3 : cX1_readsErrand.data.toList.drop 72 = dktX1_readsErrand_3 := dk_seg dksX1_readsErrand_2 24 rfl rfl
theorem dksX1_readsErrand_4 : cX1_readsErrand.data.toList.drop 95 = dktX1_readsErrand_4 := dk_seg dksX1_readsErrand_3 23 rfl rfl
theorem dksX1_readsErrand_5 : cX1_readsErrand.data.toList.drop 119 = dktX1_readsErrand_5 := dk_seg dksX1_readsErrand_4 24 rfl rfl
theorem dksX1_readsErrand_6 : cX1_readsErrand.data.toList.drop 141 = dktX1_readsErrand_6 := dk_seg dksX1_readsErrand_5 22 rfl rfl
theorem dX1_readsErrand_0 : decode cX1_readsErrand 0 = .ok (.aload_n 0, 1) := dk_42 (dk_at dksX1_readsErrand_0 0 rfl rfl)
theorem dX1_readsErrand_1 : decode cX1_readsErrand 1 = .ok (.getfield 201, 3) := dk_180 0 201 (dk_at dksX1_readsErrand_0 1 rfl rfl)
theorem dX1_readsErrand_4 : decode cX1_readsErrand 4 = .ok (.istore_n 1, 1) := dk_60 (dk_at dksX1_readsErrand_0 4 rfl rfl)
theorem dX1_readsErrand_5 : decode cX1_readsErrand 5 = .ok (.iload_n 1, 1) := dk_27 (dk_at dksX1_readsErrand_0 5 rfl rfl)
theorem dX1_readsErrand_6 : decode cX1_readsErrand 6 = .ok (.bipush 8, 2) := dk_16 8 (dk_at dksX1_readsErrand_0 6 rfl rfl)
theorem dX1_readsErrand_8 : decode cX1_readsErrand 8 = .ok (.if_icmp .ne 5, 3) := dk_160 0 5 (dk_at dksX1_readsErrand_0 8 rfl rfl)
theorem dX1_readsErrand_11 : decode cX1_readsErrand 11 = .ok (.iconst 0, 1) := dk_3 (dk_at dksX1_readsErrand_0 11 rfl rfl)
theorem dX1_readsErrand_12 : decode cX1_readsErrand 12 = .ok (.ireturn, 1) := dk_172 (dk_at dksX1_readsErrand_0 12 rfl rfl)
theorem dX1_readsErrand_13 : decode cX1_readsErrand 13 = .ok (.aload_n 0, 1) := dk_42 (dk_at dksX1_readsErrand_0 13 rfl rfl)
theorem dX1_readsErrand_14 : decode cX1_readsErrand 14 = .ok (.getfield 69, 3) := dk_180 0 69 (dk_at dksX1_readsErrand_0 14 rfl rfl)
theorem dX1_readsErrand_17 : decode cX1_readsErrand 17 = .ok (.iload_n 1, 1) := dk_27 (dk_at dksX1_readsErrand_0 17 rfl rfl)
theorem dX1_readsErrand_18 : decode cX1_readsErrand 18 = .ok (.aload_n 0, 1) := dk_42 (dk_at dksX1_readsErrand_0 18 rfl rfl)
theorem dX1_readsErrand_19 : decode cX1_readsErrand 19 = .ok (.ldc 204, 2) := dk_18 204 (dk_at dksX1_readsErrand_0 19 rfl rfl)
theorem dX1_readsErrand_21 : decode cX1_readsErrand 21 = .ok (.invokevirtual 184, 3) := dk_182 0 184 (dk_at dksX1_readsErrand_0 21 rfl rfl)
theorem dX1_readsErrand_24 : decode cX1_readsErrand 24 = .ok (.i2l, 1) := dk_133 (dk_at dksX1_readsErrand_1 0 rfl rfl)
theorem dX1_readsErrand_25 : decode cX1_readsErrand 25 = .ok (.lconst 0, 1) := dk_9 (dk_at dksX1_readsErrand_1 1 rfl rfl)
theorem dX1_readsErrand_26 : decode cX1_readsErrand 26 = .ok (.aload_n 0, 1) := dk_42 (dk_at dksX1_readsErrand_1 2 rfl rfl)
theorem dX1_readsErrand_27 : decode cX1_readsErrand 27 = .ok (.getfield 148, 3) := dk_180 0 148 (dk_at dksX1_readsErrand_1 3 rfl rfl)
theorem dX1_readsErrand_30 : decode cX1_readsErrand 30 = .ok (.iconst 1, 1) := dk_4 (dk_at dksX1_readsErrand_1 6 rfl rfl)
theorem dX1_readsErrand_31 : decode cX1_readsErrand 31 = .ok (.isub, 1) := dk_100 (dk_at dksX1_readsErrand_1 7 rfl rfl)
theorem dX1_readsErrand_32 : decode cX1_readsErrand 32 = .ok (.i2l, 1) := dk_133 (dk_at dksX1_readsErrand_1 8 rfl rfl)
theorem dX1_readsErrand_33 : decode cX1_readsErrand 33 = .ok (.invokestatic 141, 3) := dk_184 0 141 (dk_at dksX1_readsErrand_1 9 rfl rfl)
theorem dX1_readsErrand_36 : decode cX1_readsErrand 36 = .ok (.ifCond .eq 12, 3) := dk_153 0 12 (dk_at dksX1_readsErrand_1 12 rfl rfl)
theorem dX1_readsErrand_39 : decode cX1_readsErrand 39 = .ok (.aload_n 0, 1) := dk_42 (dk_at dksX1_readsErrand_1 15 rfl rfl)
theorem dX1_readsErrand_40 : decode cX1_readsErrand 40 = .ok (.ldc 204, 2) := dk_18 204 (dk_at dksX1_readsErrand_1 16 rfl rfl)
theorem dX1_readsErrand_42 : decode cX1_readsErrand 42 = .ok (.invokevirtual 198, 3) := dk_182 0 198 (dk_at dksX1_readsErrand_1 18 rfl rfl)
theorem dX1_readsErrand_45 : decode cX1_readsErrand 45 = .ok (.goto 4, 3) := dk_167 0 4 (dk_at dksX1_readsErrand_1 21 rfl rfl)
theorem dX1_readsErrand_48 : decode cX1_readsErrand 48 = .ok (.iconst (-1), 1) := dk_2 (dk_at dksX1_readsErrand_2 0 rfl rfl)
theorem dX1_readsErrand_49 : decode cX1_readsErrand 49 = .ok (.iastore, 1) := dk_79 (dk_at dksX1_readsErrand_2 1 rfl rfl)
theorem dX1_readsErrand_50 : decode cX1_readsErrand 50 = .ok (.aload_n 0, 1) := dk_42 (dk_at dksX1_readsErrand_2 2 rfl rfl)
theorem dX1_readsErrand_51 : decode cX1_readsErrand 51 = .ok (.getfield 69, 3) := dk_180 0 69 (dk_at dksX1_readsErrand_2 3 rfl rfl)
theorem dX1_readsErrand_54 : decode cX1_readsErrand 54 = .ok (.iload_n 1, 1) := dk_27 (dk_at dksX1_readsErrand_2 6 rfl rfl)
theorem dX1_readsErrand_55 : decode cX1_readsErrand 55 = .ok (.iaload, 1) := dk_46 (dk_at dksX1_readsErrand_2 7 rfl rfl)
theorem dX1_readsErrand_56 : decode cX1_readsErrand 56 = .ok (.ifCond .ge 5, 3) := dk_156 0 5 (dk_at dksX1_readsErrand_2 8 rfl rfl)
theorem dX1_readsErrand_59 : decode cX1_readsErrand 59 = .ok (.iconst 0, 1) := dk_3 (dk_at dksX1_readsErrand_2 11 rfl rfl)
theorem dX1_readsErrand_60 : decode cX1_readsErrand 60 = .ok (.ireturn, 1) := dk_172 (dk_at dksX1_readsErrand_2 12 rfl rfl)
theorem dX1_readsErrand_61 : decode cX1_readsErrand 61 = .ok (.aload_n 0, 1) := dk_42 (dk_at dksX1_readsErrand_2 13 rfl rfl)
theorem dX1_readsErrand_62 : decode cX1_readsErrand 62 = .ok (.getfield 72, 3) := dk_180 0 72 (dk_at dksX1_readsErrand_2 14 rfl rfl)
theorem dX1_readsErrand_65 : decode cX1_readsErrand 65 = .ok (.iload_n 1, 1) := dk_27 (dk_at dksX1_readsErrand_2 17 rfl rfl)
theorem dX1_readsErrand_66 : decode cX1_readsErrand 66 = .ok (.aload_n 0, 1) := dk_42 (dk_at dksX1_readsErrand_2 18 rfl rfl)
theorem dX1_readsErrand_67 : decode cX1_readsErrand 67 = .ok (.ldc 196, 2) := dk_18 196 (dk_at dksX1_readsErrand_2 19 rfl rfl)
theorem dX1_readsErrand_69 : decode cX1_readsErrand 69 = .ok (.invokevirtual 198, 3) := dk_182 0 198 (dk_at dksX1_readsErrand_2 21 rfl rfl)
theorem dX1_readsErrand_72 : decode cX1_readsErrand 72 = .ok (.iastore, 1) := dk_79 (dk_at dksX1_readsErrand_3 0 rfl rfl)
theorem dX1_readsErrand_73 : decode cX1_readsErrand 73 = .ok (.aload_n 0, 1) := dk_42 (dk_at dksX1_readsErrand_3 1 rfl rfl)
theorem dX1_readsErrand_74 : decode cX1_readsErrand 74 = .ok (.getfield 72, 3) := dk_180 0 72 (dk_at dksX1_readsErrand_3 2 rfl rfl)
theorem dX1_readsErrand_77 : decode cX1_readsErrand 77 = .ok (.iload_n 1, 1) := dk_27 (dk_at dksX1_readsErrand_3 5 rfl rfl)
theorem dX1_readsErrand_78 : decode cX1_readsErrand 78 = .ok (.iaload, 1) := dk_46 (dk_at dksX1_readsErrand_3 6 rfl rfl)
theorem dX1_readsErrand_79 : decode cX1_readsErrand 79 = .ok (.ifCond .ge 5, 3) := dk_156 0 5 (dk_at dksX1_readsErrand_3 7 rfl rfl)
theorem dX1_readsErrand_82 : decode cX1_readsErrand 82 = .ok (.iconst 0, 1) := dk_3 (dk_at dksX1_readsErrand_3 10 rfl rfl)
theorem dX1_readsErrand_83 : decode cX1_readsErrand 83 = .ok (.ireturn, 1) := dk_172 (dk_at dksX1_readsErrand_3 11 rfl rfl)
theorem dX1_readsErrand_84 : decode cX1_readsErrand 84 = .ok (.aload_n 0, 1) := dk_42 (dk_at dksX1_readsErrand_3 12 rfl rfl)
theorem dX1_readsErrand_85 : decode cX1_readsErrand 85 = .ok (.getfield 75, 3) := dk_180 0 75 (dk_at dksX1_readsErrand_3 13 rfl rfl)
theorem dX1_readsErrand_88 : decode cX1_readsErrand 88 = .ok (.iload_n 1, 1) := dk_27 (dk_at dksX1_readsErrand_3 16 rfl rfl)
theorem dX1_readsErrand_89 : decode cX1_readsErrand 89 = .ok (.aload_n 0, 1) := dk_42 (dk_at dksX1_readsErrand_3 17 rfl rfl)
theorem dX1_readsErrand_90 : decode cX1_readsErrand 90 = .ok (.invokevirtual 234, 3) := dk_182 0 234 (dk_at dksX1_readsErrand_3 18 rfl rfl)
theorem dX1_readsErrand_93 : decode cX1_readsErrand 93 = .ok (.iastore, 1) := dk_79 (dk_at dksX1_readsErrand_3 21 rfl rfl)
theorem dX1_readsErrand_94 : decode cX1_readsErrand 94 = .ok (.aload_n 0, 1) := dk_42 (dk_at dksX1_readsErrand_3 22 rfl rfl)
theorem dX1_readsErrand_95 : decode cX1_readsErrand 95 = .ok (.getfield 75, 3) := dk_180 0 75 (dk_at dksX1_readsErrand_4 0 rfl rfl)
theorem dX1_readsErrand_98 : decode cX1_readsErrand 98 = .ok (.iload_n 1, 1) := dk_27 (dk_at dksX1_readsErrand_4 3 rfl rfl)
theorem dX1_readsErrand_99 : decode cX1_readsErrand 99 = .ok (.iaload, 1) := dk_46 (dk_at dksX1_readsErrand_4 4 rfl rfl)
theorem dX1_readsErrand_100 : decode cX1_readsErrand 100 = .ok (.ifCond .lt 12, 3) := dk_155 0 12 (dk_at dksX1_readsErrand_4 5 rfl rfl)
theorem dX1_readsErrand_103 : decode cX1_readsErrand 103 = .ok (.aload_n 0, 1) := dk_42 (dk_at dksX1_readsErrand_4 8 rfl rfl)
theorem dX1_readsErrand_104 : decode cX1_readsErrand 104 = .ok (.bipush 61, 2) := dk_16 61 (dk_at dksX1_readsErrand_4 9 rfl rfl)
theorem dX1_readsErrand_106 : decode cX1_readsErrand 106 = .ok (.invokevirtual 212, 3) := dk_182 0 212 (dk_at dksX1_readsErrand_4 11 rfl rfl)
theorem dX1_readsErrand_109 : decode cX1_readsErrand 109 = .ok (.ifCond .ne 5, 3) := dk_154 0 5 (dk_at dksX1_readsErrand_4 14 rfl rfl)
theorem dX1_readsErrand_112 : decode cX1_readsErrand 112 = .ok (.iconst 0, 1) := dk_3 (dk_at dksX1_readsErrand_4 17 rfl rfl)
theorem dX1_readsErrand_113 : decode cX1_readsErrand 113 = .ok (.ireturn, 1) := dk_172 (dk_at dksX1_readsErrand_4 18 rfl rfl)
theorem dX1_readsErrand_114 : decode cX1_readsErrand 114 = .ok (.aload_n 0, 1) := dk_42 (dk_at dksX1_readsErrand_4 19 rfl rfl)
theorem dX1_readsErrand_115 : decode cX1_readsErrand 115 = .ok (.getfield 78, 3) := dk_180 0 78 (dk_at dksX1_readsErrand_4 20 rfl rfl)
theorem dX1_readsErrand_118 : decode cX1_readsErrand 118 = .ok (.iload_n 1, 1) := dk_27 (dk_at dksX1_readsErrand_4 23 rfl rfl)
theorem dX1_readsErrand_119 : decode cX1_readsErrand 119 = .ok (.aload_n 0, 1) := dk_42 (dk_at dksX1_readsErrand_5 0 rfl rfl)
theorem dX1_readsErrand_120 : decode cX1_readsErrand 120 = .ok (.iconst 2, 1) := dk_5 (dk_at dksX1_readsErrand_5 1 rfl rfl)
theorem dX1_readsErrand_121 : decode cX1_readsErrand 121 = .ok (.invokevirtual 238, 3) := dk_182 0 238 (dk_at dksX1_readsErrand_5 2 rfl rfl)
theorem dX1_readsErrand_124 : decode cX1_readsErrand 124 = .ok (.iastore, 1) := dk_79 (dk_at dksX1_readsErrand_5 5 rfl rfl)
theorem dX1_readsErrand_125 : decode cX1_readsErrand 125 = .ok (.aload_n 0, 1) := dk_42 (dk_at dksX1_readsErrand_5 6 rfl rfl)
theorem dX1_readsErrand_126 : decode cX1_readsErrand 126 = .ok (.dup, 1) := dk_89 (dk_at dksX1_readsErrand_5 7 rfl rfl)
theorem dX1_readsErrand_127 : decode cX1_readsErrand 127 = .ok (.getfield 201, 3) := dk_180 0 201 (dk_at dksX1_readsErrand_5 8 rfl rfl)
theorem dX1_readsErrand_130 : decode cX1_readsErrand 130 = .ok (.iconst 1, 1) := dk_4 (dk_at dksX1_readsErrand_5 11 rfl rfl)
theorem dX1_readsErrand_131 : decode cX1_readsErrand 131 = .ok (.iadd, 1) := dk_96 (dk_at dksX1_readsErrand_5 12 rfl rfl)
theorem dX1_readsErrand_132 : decode cX1_readsErrand 132 = .ok (.putfield 201, 3) := dk_181 0 201 (dk_at dksX1_readsErrand_5 13 rfl rfl)
theorem dX1_readsErrand_135 : decode cX1_readsErrand 135 = .ok (.aload_n 0, 1) := dk_42 (dk_at dksX1_readsErrand_5 16 rfl rfl)
theorem dX1_readsErrand_136 : decode cX1_readsErrand 136 = .ok (.getfield 78, 3) := dk_180 0 78 (dk_at dksX1_readsErrand_5 17 rfl rfl)
theorem dX1_readsErrand_139 : decode cX1_readsErrand 139 = .ok (.iload_n 1, 1) := dk_27 (dk_at dksX1_readsErrand_5 20 rfl rfl)
theorem dX1_readsErrand_140 : decode cX1_readsErrand 140 = .ok (.iaload, 1) := dk_46 (dk_at dksX1_readsErrand_5 21 rfl rfl)
theorem dX1_readsErrand_141 : decode cX1_readsErrand 141 = .ok (.ifCond .lt 7, 3) := dk_155 0 7 (dk_at dksX1_readsErrand_6 0 rfl rfl)
theorem dX1_readsErrand_144 : decode cX1_readsErrand 144 = .ok (.iconst 1, 1) := dk_4 (dk_at dksX1_readsErrand_6 3 rfl rfl)
theorem dX1_readsErrand_145 : decode cX1_readsErrand 145 = .ok (.goto 4, 3) := dk_167 0 4 (dk_at dksX1_readsErrand_6 4 rfl rfl)
theorem dX1_readsErrand_148 : decode cX1_readsErrand 148 = .ok (.iconst 0, 1) := dk_3 (dk_at dksX1_readsErrand_6 7 rfl rfl)
theorem dX1_readsErrand_149 : decode cX1_readsErrand 149 = .ok (.ireturn, 1) := dk_172 (dk_at dksX1_readsErrand_6 8 rfl rfl)
def dkwX1_road_5 : List UInt8 := [42, 182, 0, 225, 29, 172]
abbrev dktX1_road_5 : List UInt8 := dkwX1_road_5 ++ []
def dkwX1_road_4 : List UInt8 := [21, 4, 16, 30, 162, 0, 20, 42, 180, 0, 12, 180, 1, 7, 21, 4, 3, 79, 132, 4, 1, 167, 255, 235]
abbrev dktX1_road_4 : List UInt8 := dkwX1_road_4 ++ dktX1_road_5
def dkwX1_road_3 : List UInt8 := [184, 0, 141, 154, 0, 5, 2, 172, 42, 180, 0, 44, 62, 42, 27, 181, 0, 44, 8, 27, 104, 54, 4]
abbrev dktX1_road_3 : List UInt8 := dkwX1_road_3 ++ dktX1_road_4
def dkwX1_road_2 : List UInt8 := [180, 0, 38, 29, 46, 4, 96, 184, 1, 2, 61, 132, 3, 1, 167, 255, 232, 27, 133, 28, 133, 20, 1, 5]
abbrev dktX1_road_2 : List UInt8 := dkwX1_road_2 ++ dktX1_road_3
def dkwX1_road_1 : List UInt8 := [184, 1, 2, 61, 132, 3, 1, 167, 255, 229, 3, 62, 29, 42, 180, 0, 252, 162, 0, 22, 28, 42]
abbrev dktX1_road_1 : List UInt8 := dkwX1_road_1 ++ dktX1_road_2
def dkwX1_road_0 : List UInt8 := [4, 61, 3, 62, 29, 42, 180, 0, 148, 162, 0, 25, 28, 42, 180, 0, 12, 180, 0, 244, 29, 46, 4, 96]
abbrev dktX1_road_0 : List UInt8 := dkwX1_road_0 ++ dktX1_road_1
theorem dksX1_road_0 : cX1_road.data.toList.drop 0 = dktX1_road_0 := by decide +kernel
theorem dksX1_road_1 : cX1_road.data.toList.drop 24 = dktX1_road_1 := dk_seg dksX1_road_0 24 rfl rfl
theorem dksX1_road_2 : cX1_road.data.toList.drop 46 = dktX1_road_2 := dk_seg dksX1_road_1 22 rfl rfl
theorem dksX1_road_3 : cX1_road.data.toList.drop 70 = dktX1_road_3 := dk_seg dksX1_road_2 24 rfl rfl
theorem dksX1_road_4 : cX1_road.data.toList.drop 93 = dktX1_road_4 := dk_seg dksX1_road_3 23 rfl rfl
theorem dksX1_road_5 : cX1_road.data.toList.drop 117 = dktX1_road_5 := dk_seg dksX1_road_4 24 rfl rfl
theorem dX1_road_0 : decode cX1_road 0 = .ok (.iconst 1, 1) := dk_4 (dk_at dksX1_road_0 0 rfl rfl)
theorem dX1_road_1 : decode cX1_road 1 = .ok (.istore_n 2, 1) := dk_61 (dk_at dksX1_road_0 1 rfl rfl)
theorem dX1_road_2 : decode cX1_road 2 = .ok (.iconst 0, 1) := dk_3 (dk_at dksX1_road_0 2 rfl rfl)
theorem dX1_road_3 : decode cX1_road 3 = .ok (.istore_n 3, 1) := dk_62 (dk_at dksX1_road_0 3 rfl rfl)
theorem dX1_road_4 : decode cX1_road 4 = .ok (.iload_n 3, 1) := dk_29 (dk_at dksX1_road_0 4 rfl rfl)
theorem dX1_road_5 : decode cX1_road 5 = .ok (.aload_n 0, 1) := dk_42 (dk_at dksX1_road_0 5 rfl rfl)
theorem dX1_road_6 : decode cX1_road 6 = .ok (.getfield 148, 3) := dk_180 0 148 (dk_at dksX1_road_0 6 rfl rfl)
theorem dX1_road_9 : decode cX1_road 9 = .ok (.if_icmp .ge 25, 3) := dk_162 0 25 (dk_at dksX1_road_0 9 rfl rfl)
theorem dX1_road_12 : decode cX1_road 12 = .ok (.iload_n 2, 1) := dk_28 (dk_at dksX1_road_0 12 rfl rfl)
theorem dX1_road_13 : decode cX1_road 13 = .ok (.aload_n 0, 1) := dk_42 (dk_at dksX1_road_0 13 rfl rfl)
theorem dX1_road_14 : decode cX1_road 14 = .ok (.getfield 12, 3) := dk_180 0 12 (dk_at dksX1_road_0 14 rfl rfl)
theorem dX1_road_17 : decode cX1_road 17 = .ok (.getfield 244, 3) := dk_180 0 244 (dk_at dksX1_road_0 17 rfl rfl)
theorem dX1_road_20 : decode cX1_road 20 = .ok (.iload_n 3, 1) := dk_29 (dk_at dksX1_road_0 20 rfl rfl)
theorem dX1_road_21 : decode cX1_road 21 = .ok (.iaload, 1) := dk_46 (dk_at dksX1_road_0 21 rfl rfl)
theorem dX1_road_22 : decode cX1_road 22 = .ok (.iconst 1, 1) := dk_4 (dk_at dksX1_road_0 22 rfl rfl)
theorem dX1_road_23 : decode cX1_road 23 = .ok (.iadd, 1) := dk_96 (dk_at dksX1_road_0 23 rfl rfl)
theorem dX1_road_24 : decode cX1_road 24 = .ok (.invokestatic 258, 3) := dk_184 1 2 (dk_at dksX1_road_1 0 rfl rfl)
theorem dX1_road_27 : decode cX1_road 27 = .ok (.istore_n 2, 1) := dk_61 (dk_at dksX1_road_1 3 rfl rfl)
theorem dX1_road_28 : decode cX1_road 28 = .ok (.iinc 3 1, 3) := dk_132 3 1 (dk_at dksX1_road_1 4 rfl rfl)
theorem dX1_road_31 : decode cX1_road 31 = .ok (.goto (-27), 3) := dk_167 255 229 (dk_at dksX1_road_1 7 rfl rfl)
theorem dX1_road_34 : decode cX1_road 34 = .ok (.iconst 0, 1) := dk_3 (dk_at dksX1_road_1 10 rfl rfl)
theorem dX1_road_35 : decode cX1_road 35 = .ok (.istore_n 3, 1) := dk_62 (dk_at dksX1_road_1 11 rfl rfl)
theorem dX1_road_36 : decode cX1_road 36 = .ok (.iload_n 3, 1) := dk_29 (dk_at dksX1_road_1 12 rfl rfl)
theorem dX1_road_37 : decode cX1_road 37 = .ok (.aload_n 0, 1) := dk_42 (dk_at dksX1_road_1 13 rfl rfl)
theorem dX1_road_38 : decode cX1_road 38 = .ok (.getfield 252, 3) := dk_180 0 252 (dk_at dksX1_road_1 14 rfl rfl)
theorem dX1_road_41 : decode cX1_road 41 = .ok (.if_icmp .ge 22, 3) := dk_162 0 22 (dk_at dksX1_road_1 17 rfl rfl)
theorem dX1_road_44 : decode cX1_road 44 = .ok (.iload_n 2, 1) := dk_28 (dk_at dksX1_road_1 20 rfl rfl)
theorem dX1_road_45 : decode cX1_road 45 = .ok (.aload_n 0, 1) := dk_42 (dk_at dksX1_road_1 21 rfl rfl)
theorem dX1_road_46 : decode cX1_road 46 = .ok (.getfield 38, 3) := dk_180 0 38 (dk_at dksX1_road_2 0 rfl rfl)
theorem dX1_road_49 : decode cX1_road 49 = .ok (.iload_n 3, 1) := dk_29 (dk_at dksX1_road_2 3 rfl rfl)
theorem dX1_road_50 : decode cX1_road 50 = .ok (.iaload, 1) := dk_46 (dk_at dksX1_road_2 4 rfl rfl)
theorem dX1_road_51 : decode cX1_road 51 = .ok (.iconst 1, 1) := dk_4 (dk_at dksX1_road_2 5 rfl rfl)
theorem dX1_road_52 : decode cX1_road 52 = .ok (.iadd, 1) := dk_96 (dk_at dksX1_road_2 6 rfl rfl)
theorem dX1_road_53 : decode cX1_road 53 = .ok (.invokestatic 258, 3) := dk_184 1 2 (dk_at dksX1_road_2 7 rfl rfl)
theorem dX1_road_56 : decode cX1_road 56 = .ok (.istore_n 2, 1) := dk_61 (dk_at dksX1_road_2 10 rfl rfl)
theorem dX1_road_57 : decode cX1_road 57 = .ok (.iinc 3 1, 3) := dk_132 3 1 (dk_at dksX1_road_2 11 rfl rfl)
theorem dX1_road_60 : decode cX1_road 60 = .ok (.goto (-24), 3) := dk_167 255 232 (dk_at dksX1_road_2 14 rfl rfl)
theorem dX1_road_63 : decode cX1_road 63 = .ok (.iload_n 1, 1) := dk_27 (dk_at dksX1_road_2 17 rfl rfl)
theorem dX1_road_64 : decode cX1_road 64 = .ok (.i2l, 1) := dk_133 (dk_at dksX1_road_2 18 rfl rfl)
theorem dX1_road_65 : decode cX1_road 65 = .ok (.iload_n 2, 1) := dk_28 (dk_at dksX1_road_2 19 rfl rfl)
theorem dX1_road_66 : decode cX1_road 66 = .ok (.i2l, 1) := dk_133 (dk_at dksX1_road_2 20 rfl rfl)
theorem dX1_road_67 : decode cX1_road 67 = .ok (.ldc2_w 261, 3) := dk_20 1 5 (dk_at dksX1_road_2 21 rfl rfl)
theorem dX1_road_70 : decode cX1_road 70 = .ok (.invokestatic 141, 3) := dk_184 0 141 (dk_at dksX1_road_3 0 rfl rfl)
theorem dX1_road_73 : decode cX1_road 73 = .ok (.ifCond .ne 5, 3) := dk_154 0 5 (dk_at dksX1_road_3 3 rfl rfl)
theorem dX1_road_76 : decode cX1_road 76 = .ok (.iconst (-1), 1) := dk_2 (dk_at dksX1_road_3 6 rfl rfl)
theorem dX1_road_77 : decode cX1_road 77 = .ok (.ireturn, 1) := dk_172 (dk_at dksX1_road_3 7 rfl rfl)
theorem dX1_road_78 : decode cX1_road 78 = .ok (.aload_n 0, 1) := dk_42 (dk_at dksX1_road_3 8 rfl rfl)
theorem dX1_road_79 : decode cX1_road 79 = .ok (.getfield 44, 3) := dk_180 0 44 (dk_at dksX1_road_3 9 rfl rfl)
theorem dX1_road_82 : decode cX1_road 82 = .ok (.istore_n 3, 1) := dk_62 (dk_at dksX1_road_3 12 rfl rfl)
theorem dX1_road_83 : decode cX1_road 83 = .ok (.aload_n 0, 1) := dk_42 (dk_at dksX1_road_3 13 rfl rfl)
theorem dX1_road_84 : decode cX1_road 84 = .ok (.iload_n 1, 1) := dk_27 (dk_at dksX1_road_3 14 rfl rfl)
theorem dX1_road_85 : decode cX1_road 85 = .ok (.putfield 44, 3) := dk_181 0 44 (dk_at dksX1_road_3 15 rfl rfl)
theorem dX1_road_88 : decode cX1_road 88 = .ok (.iconst 5, 1) := dk_8 (dk_at dksX1_road_3 18 rfl rfl)
theorem dX1_road_89 : decode cX1_road 89 = .ok (.iload_n 1, 1) := dk_27 (dk_at dksX1_road_3 19 rfl rfl)
theorem dX1_road_90 : decode cX1_road 90 = .ok (.imul, 1) := dk_104 (dk_at dksX1_road_3 20 rfl rfl)
theorem dX1_road_91 : decode cX1_road 91 = .ok (.istore 4, 2) := dk_54 4 (dk_at dksX1_road_3 21 rfl rfl)
theorem dX1_road_93 : decode cX1_road 93 = .ok (.iload 4, 2) := dk_21 4 (dk_at dksX1_road_4 0 rfl rfl)
theorem dX1_road_95 : decode cX1_road 95 = .ok (.bipush 30, 2) := dk_16 30 (dk_at dksX1_road_4 2 rfl rfl)
theorem dX1_road_97 : decode cX1_road 97 = .ok (.if_icmp .ge 20, 3) := dk_162 0 20 (dk_at dksX1_road_4 4 rfl rfl)
theorem dX1_road_100 : decode cX1_road 100 = .ok (.aload_n 0, 1) := dk_42 (dk_at dksX1_road_4 7 rfl rfl)
theorem dX1_road_101 : decode cX1_road 101 = .ok (.getfield 12, 3) := dk_180 0 12 (dk_at dksX1_road_4 8 rfl rfl)
theorem dX1_road_104 : decode cX1_road 104 = .ok (.getfield 263, 3) := dk_180 1 7 (dk_at dksX1_road_4 11 rfl rfl)
theorem dX1_road_107 : decode cX1_road 107 = .ok (.iload 4, 2) := dk_21 4 (dk_at dksX1_road_4 14 rfl rfl)
theorem dX1_road_109 : decode cX1_road 109 = .ok (.iconst 0, 1) := dk_3 (dk_at dksX1_road_4 16 rfl rfl)
theorem dX1_road_110 : decode cX1_road 110 = .ok (.iastore, 1) := dk_79 (dk_at dksX1_road_4 17 rfl rfl)
theorem dX1_road_111 : decode cX1_road 111 = .ok (.iinc 4 1, 3) := dk_132 4 1 (dk_at dksX1_road_4 18 rfl rfl)
theorem dX1_road_114 : decode cX1_road 114 = .ok (.goto (-21), 3) := dk_167 255 235 (dk_at dksX1_road_4 21 rfl rfl)
theorem dX1_road_117 : decode cX1_road 117 = .ok (.aload_n 0, 1) := dk_42 (dk_at dksX1_road_5 0 rfl rfl)
theorem dX1_road_118 : decode cX1_road 118 = .ok (.invokevirtual 225, 3) := dk_182 0 225 (dk_at dksX1_road_5 1 rfl rfl)
theorem dX1_road_121 : decode cX1_road 121 = .ok (.iload_n 3, 1) := dk_29 (dk_at dksX1_road_5 4 rfl rfl)
theorem dX1_road_122 : decode cX1_road 122 = .ok (.ireturn, 1) := dk_172 (dk_at dksX1_road_5 5 rfl rfl)
def dkwX1_rule_0 : List UInt8 := [42, 182, 1, 52, 60, 27, 154, 0, 11, 42, 42, 180, 1, 48, 181, 1, 55, 27, 172]
abbrev dktX1_rule_0 : List UInt8 := dkwX1_rule_0 ++ []
theorem dksX1_rule_0 : cX1_rule.data.toList.drop 0 = dktX1_rule_0 := by decide +kernel
theorem dX1_rule_0 : decode cX1_rule 0 = .ok (.aload_n 0, 1) := dk_42 (dk_at dksX1_rule_0 0 rfl rfl)
theorem dX1_rule_1 : decode cX1_rule 1 = .ok (.invokevirtual 308, 3) := dk_182 1 52 (dk_at dksX1_rule_0 1 rfl rfl)
theorem dX1_rule_4 : decode cX1_rule 4 = .ok (.istore_n 1, 1) := dk_60 (dk_at dksX1_rule_0 4 rfl rfl)
theorem dX1_rule_5 : decode cX1_rule 5 = .ok (.iload_n 1, 1) := dk_27 (dk_at dksX1_rule_0 5 rfl rfl)
theorem dX1_rule_6 : decode cX1_rule 6 = .ok (.ifCond .ne 11, 3) := dk_154 0 11 (dk_at dksX1_rule_0 6 rfl rfl)
theorem dX1_rule_9 : decode cX1_rule 9 = .ok (.aload_n 0, 1) := dk_42 (dk_at dksX1_rule_0 9 rfl rfl)
theorem dX1_rule_10 : decode cX1_rule 10 = .ok (.aload_n 0, 1) := dk_42 (dk_at dksX1_rule_0 10 rfl rfl)
theorem dX1_rule_11 : decode cX1_rule 11 = .ok (.getfield 304, 3) := dk_180 1 48 (dk_at dksX1_rule_0 11 rfl rfl)
theorem dX1_rule_14 : decode cX1_rule 14 = .ok (.putfield 311, 3) := dk_181 1 55 (dk_at dksX1_rule_0 14 rfl rfl)
theorem dX1_rule_17 : decode cX1_rule 17 = .ok (.iload_n 1, 1) := dk_27 (dk_at dksX1_rule_0 17 rfl rfl)
theorem dX1_rule_18 : decode cX1_rule 18 = .ok (.ireturn, 1) := dk_172 (dk_at dksX1_rule_0 18 rfl rfl)
def dkwX1_readsRule_2 : List UInt8 := [182, 0, 215, 172]
abbrev dktX1_readsRule_2 : List UInt8 := dkwX1_readsRule_2 ++ []
def dkwX1_readsRule_1 : List UInt8 := [27, 154, 0, 7, 3, 167, 0, 20, 42, 27, 42, 180, 1, 48, 198, 0, 7, 4, 167, 0, 4, 3]
abbrev dktX1_readsRule_1 : List UInt8 := dkwX1_readsRule_1 ++ dktX1_readsRule_2
def dkwX1_readsRule_0 : List UInt8 := [42, 16, 40, 182, 0, 206, 60, 42, 27, 154, 0, 7, 1, 167, 0, 8, 42, 3, 182, 1, 29, 181, 1, 48]
abbrev dktX1_readsRule_0 : List UInt8 := dkwX1_readsRule_0 ++ dktX1_readsRule_1
theorem dksX1_readsRule_0 : cX1_readsRule.data.toList.drop 0 = dktX1_readsRule_0 := by decide +kernel
theorem dksX1_readsRule_1 : cX1_readsRule.data.toList.drop 24 = dktX1_readsRule_1 := dk_seg dksX1_readsRule_0 24 rfl rfl
theorem dksX1_readsRule_2 : cX1_readsRule.data.toList.drop 46 = dktX1_readsRule_2 := dk_seg dksX1_readsRule_1 22 rfl rfl
theorem dX1_readsRule_0 : decode cX1_readsRule 0 = .ok (.aload_n 0, 1) := dk_42 (dk_at dksX1_readsRule_0 0 rfl rfl)
theorem dX1_readsRule_1 : decode cX1_readsRule 1 = .ok (.bipush 40, 2) := dk_16 40 (dk_at dksX1_readsRule_0 1 rfl rfl)
theorem dX1_readsRule_3 : decode cX1_readsRule 3 = .ok (.invokevirtual 206, 3) := dk_182 0 206 (dk_at dksX1_readsRule_0 3 rfl rfl)
theorem dX1_readsRule_6 : decode cX1_readsRule 6 = .ok (.istore_n 1, 1) := dk_60 (dk_at dksX1_readsRule_0 6 rfl rfl)
theorem dX1_readsRule_7 : decode cX1_readsRule 7 = .ok (.aload_n 0, 1) := dk_42 (dk_at dksX1_readsRule_0 7 rfl rfl)
theorem dX1_readsRule_8 : decode cX1_readsRule 8 = .ok (.iload_n 1, 1) := dk_27 (dk_at dksX1_readsRule_0 8 rfl rfl)
theorem dX1_readsRule_9 : decode cX1_readsRule 9 = .ok (.ifCond .ne 7, 3) := dk_154 0 7 (dk_at dksX1_readsRule_0 9 rfl rfl)
theorem dX1_readsRule_12 : decode cX1_readsRule 12 = .ok (.aconst_null, 1) := dk_1 (dk_at dksX1_readsRule_0 12 rfl rfl)
theorem dX1_readsRule_13 : decode cX1_readsRule 13 = .ok (.goto 8, 3) := dk_167 0 8 (dk_at dksX1_readsRule_0 13 rfl rfl)
theorem dX1_readsRule_16 : decode cX1_readsRule 16 = .ok (.aload_n 0, 1) := dk_42 (dk_at dksX1_readsRule_0 16 rfl rfl)
theorem dX1_readsRule_17 : decode cX1_readsRule 17 = .ok (.iconst 0, 1) := dk_3 (dk_at dksX1_readsRule_0 17 rfl rfl)
theorem dX1_readsRule_18 : decode cX1_readsRule 18 = .ok (.invokevirtual 285, 3) := dk_182 1 29 (dk_at dksX1_readsRule_0 18 rfl rfl)
theorem dX1_readsRule_21 : decode cX1_readsRule 21 = .ok (.putfield 304, 3) := dk_181 1 48 (dk_at dksX1_readsRule_0 21 rfl rfl)
theorem dX1_readsRule_24 : decode cX1_readsRule 24 = .ok (.iload_n 1, 1) := dk_27 (dk_at dksX1_readsRule_1 0 rfl rfl)
theorem dX1_readsRule_25 : decode cX1_readsRule 25 = .ok (.ifCond .ne 7, 3) := dk_154 0 7 (dk_at dksX1_readsRule_1 1 rfl rfl)
theorem dX1_readsRule_28 : decode cX1_readsRule 28 = .ok (.iconst 0, 1) := dk_3 (dk_at dksX1_readsRule_1 4 rfl rfl)
theorem dX1_readsRule_29 : decode cX1_readsRule 29 = .ok (.goto 20, 3) := dk_167 0 20 (dk_at dksX1_readsRule_1 5 rfl rfl)
theorem dX1_readsRule_32 : decode cX1_readsRule 32 = .ok (.aload_n 0, 1) := dk_42 (dk_at dksX1_readsRule_1 8 rfl rfl)
theorem dX1_readsRule_33 : decode cX1_readsRule 33 = .ok (.iload_n 1, 1) := dk_27 (dk_at dksX1_readsRule_1 9 rfl rfl)
theorem dX1_readsRule_34 : decode cX1_readsRule 34 = .ok (.aload_n 0, 1) := dk_42 (dk_at dksX1_readsRule_1 10 rfl rfl)
theorem dX1_readsRule_35 : decode cX1_readsRule 35 = .ok (.getfield 304, 3) := dk_180 1 48 (dk_at dksX1_readsRule_1 11 rfl rfl)
theorem dX1_readsRule_38 : decode cX1_readsRule 38 = .ok (.ifnull 7, 3) := dk_198 0 7 (dk_at dksX1_readsRule_1 14 rfl rfl)
theorem dX1_readsRule_41 : decode cX1_readsRule 41 = .ok (.iconst 1, 1) := dk_4 (dk_at dksX1_readsRule_1 17 rfl rfl)
theorem dX1_readsRule_42 : decode cX1_readsRule 42 = .ok (.goto 4, 3) := dk_167 0 4 (dk_at dksX1_readsRule_1 18 rfl rfl)
theorem dX1_readsRule_45 : decode cX1_readsRule 45 = .ok (.iconst 0, 1) := dk_3 (dk_at dksX1_readsRule_1 21 rfl rfl)
theorem dX1_readsRule_46 : decode cX1_readsRule 46 = .ok (.invokevirtual 215, 3) := dk_182 0 215 (dk_at dksX1_readsRule_2 0 rfl rfl)
theorem dX1_readsRule_49 : decode cX1_readsRule 49 = .ok (.ireturn, 1) := dk_172 (dk_at dksX1_readsRule_2 3 rfl rfl)
def dkwX1_reads_4 : List UInt8 := [158, 0, 7, 4, 167, 0, 4, 3, 62, 167, 255, 173, 44, 176]
abbrev dktX1_reads_4 : List UInt8 := dkwX1_reads_4 ++ []
def dkwX1_reads_3 : List UInt8 := [199, 0, 7, 1, 167, 0, 16, 187, 1, 43, 89, 42, 21, 4, 44, 25, 5, 183, 1, 45, 77, 27]
abbrev dktX1_reads_3 : List UInt8 := dkwX1_reads_3 ++ dktX1_reads_4
def dkwX1_reads_2 : List UInt8 := [146, 54, 4, 42, 89, 180, 0, 166, 4, 96, 181, 0, 166, 42, 27, 4, 96, 182, 1, 29, 58, 5, 25, 5]
abbrev dktX1_reads_2 : List UInt8 := dkwX1_reads_2 ++ dktX1_reads_3
def dkwX1_reads_1 : List UInt8 := [29, 153, 0, 81, 42, 27, 184, 1, 39, 182, 0, 184, 155, 0, 70, 42, 180, 0, 48, 42, 180, 0, 166, 46]
abbrev dktX1_reads_1 : List UInt8 := dkwX1_reads_1 ++ dktX1_reads_2
def dkwX1_reads_0 : List UInt8 := [27, 6, 160, 0, 8, 42, 182, 1, 10, 176, 42, 27, 4, 96, 182, 1, 29, 77, 4, 62, 44, 198, 0, 85]
abbrev dktX1_reads_0 : List UInt8 := dkwX1_reads_0 ++ dktX1_reads_1
theorem dksX1_reads_0 : cX1_reads.data.toList.drop 0 = dktX1_reads_0 := by decide +kernel
theorem dksX1_reads_1 : cX1_reads.data.toList.drop 24 = dktX1_reads_1 := dk_seg dksX1_reads_0 24 rfl rfl
theorem dksX1_reads_2 : cX1_reads.data.toList.drop 48 = dktX1_reads_2 := dk_seg dksX1_reads_1 24 rfl rfl
theorem dksX1_reads_3 : cX1_reads.data.toList.drop 72 = dktX1_reads_3 := dk_seg dksX1_reads_2 24 rfl rfl
theorem dksX1_reads_4 : cX1_reads.data.toList.drop 94 = dktX1_reads_4 := dk_seg dksX1_reads_3 22 rfl rfl
theorem dX1_reads_0 : decode cX1_reads 0 = .ok (.iload_n 1, 1) := dk_27 (dk_at dksX1_reads_0 0 rfl rfl)
theorem dX1_reads_1 : decode cX1_reads 1 = .ok (.iconst 3, 1) := dk_6 (dk_at dksX1_reads_0 1 rfl rfl)
theorem dX1_reads_2 : decode cX1_reads 2 = .ok (.if_icmp .ne 8, 3) := dk_160 0 8 (dk_at dksX1_reads_0 2 rfl rfl)
theorem dX1_reads_5 : decode cX1_reads 5 = .ok (.aload_n 0, 1) := dk_42 (dk_at dksX1_reads_0 5 rfl rfl)
theorem dX1_reads_6 : decode cX1_reads 6 = .ok (.invokevirtual 266, 3) := dk_182 1 10 (dk_at dksX1_reads_0 6 rfl rfl)
theorem dX1_reads_9 : decode cX1_reads 9 = .ok (.areturn, 1) := dk_176 (dk_at dksX1_reads_0 9 rfl rfl)
theorem dX1_reads_10 : decode cX1_reads 10 = .ok (.aload_n 0, 1) := dk_42 (dk_at dksX1_reads_0 10 rfl rfl)
theorem dX1_reads_11 : decode cX1_reads 11 = .ok (.iload_n 1, 1) := dk_27 (dk_at dksX1_reads_0 11 rfl rfl)
theorem dX1_reads_12 : decode cX1_reads 12 = .ok (.iconst 1, 1) := dk_4 (dk_at dksX1_reads_0 12 rfl rfl)
theorem dX1_reads_13 : decode cX1_reads 13 = .ok (.iadd, 1) := dk_96 (dk_at dksX1_reads_0 13 rfl rfl)
theorem dX1_reads_14 : decode cX1_reads 14 = .ok (.invokevirtual 285, 3) := dk_182 1 29 (dk_at dksX1_reads_0 14 rfl rfl)
theorem dX1_reads_17 : decode cX1_reads 17 = .ok (.astore_n 2, 1) := dk_77 (dk_at dksX1_reads_0 17 rfl rfl)
theorem dX1_reads_18 : decode cX1_reads 18 = .ok (.iconst 1, 1) := dk_4 (dk_at dksX1_reads_0 18 rfl rfl)
theorem dX1_reads_19 : decode cX1_reads 19 = .ok (.istore_n 3, 1) := dk_62 (dk_at dksX1_reads_0 19 rfl rfl)
theorem dX1_reads_20 : decode cX1_reads 20 = .ok (.aload_n 2, 1) := dk_44 (dk_at dksX1_reads_0 20 rfl rfl)
theorem dX1_reads_21 : decode cX1_reads 21 = .ok (.ifnull 85, 3) := dk_198 0 85 (dk_at dksX1_reads_0 21 rfl rfl)
theorem dX1_reads_24 : decode cX1_reads 24 = .ok (.iload_n 3, 1) := dk_29 (dk_at dksX1_reads_1 0 rfl rfl)
theorem dX1_reads_25 : decode cX1_reads 25 = .ok (.ifCond .eq 81, 3) := dk_153 0 81 (dk_at dksX1_reads_1 1 rfl rfl)
theorem dX1_reads_28 : decode cX1_reads 28 = .ok (.aload_n 0, 1) := dk_42 (dk_at dksX1_reads_1 4 rfl rfl)
theorem dX1_reads_29 : decode cX1_reads 29 = .ok (.iload_n 1, 1) := dk_27 (dk_at dksX1_reads_1 5 rfl rfl)
theorem dX1_reads_30 : decode cX1_reads 30 = .ok (.invokestatic 295, 3) := dk_184 1 39 (dk_at dksX1_reads_1 6 rfl rfl)
theorem dX1_reads_33 : decode cX1_reads 33 = .ok (.invokevirtual 184, 3) := dk_182 0 184 (dk_at dksX1_reads_1 9 rfl rfl)
theorem dX1_reads_36 : decode cX1_reads 36 = .ok (.ifCond .lt 70, 3) := dk_155 0 70 (dk_at dksX1_reads_1 12 rfl rfl)
theorem dX1_reads_39 : decode cX1_reads 39 = .ok (.aload_n 0, 1) := dk_42 (dk_at dksX1_reads_1 15 rfl rfl)
theorem dX1_reads_40 : decode cX1_reads 40 = .ok (.getfield 48, 3) := dk_180 0 48 (dk_at dksX1_reads_1 16 rfl rfl)
theorem dX1_reads_43 : decode cX1_reads 43 = .ok (.aload_n 0, 1) := dk_42 (dk_at dksX1_reads_1 19 rfl rfl)
theorem dX1_reads_44 : decode cX1_reads 44 = .ok (.getfield 166, 3) := dk_180 0 166 (dk_at dksX1_reads_1 20 rfl rfl)
theorem dX1_reads_47 : decode cX1_reads 47 = .ok (.iaload, 1) := dk_46 (dk_at dksX1_reads_1 23 rfl rfl)
theorem dX1_reads_48 : decode cX1_reads 48 = .ok (.i2c, 1) := dk_146 (dk_at dksX1_reads_2 0 rfl rfl)
theorem dX1_reads_49 : decode cX1_reads 49 = .ok (.istore 4, 2) := dk_54 4 (dk_at dksX1_reads_2 1 rfl rfl)
theorem dX1_reads_51 : decode cX1_reads 51 = .ok (.aload_n 0, 1) := dk_42 (dk_at dksX1_reads_2 3 rfl rfl)
theorem dX1_reads_52 : decode cX1_reads 52 = .ok (.dup, 1) := dk_89 (dk_at dksX1_reads_2 4 rfl rfl)
theorem dX1_reads_53 : decode cX1_reads 53 = .ok (.getfield 166, 3) := dk_180 0 166 (dk_at dksX1_reads_2 5 rfl rfl)
theorem dX1_reads_56 : decode cX1_reads 56 = .ok (.iconst 1, 1) := dk_4 (dk_at dksX1_reads_2 8 rfl rfl)
theorem dX1_reads_57 : decode cX1_reads 57 = .ok (.iadd, 1) := dk_96 (dk_at dksX1_reads_2 9 rfl rfl)
theorem dX1_reads_58 : decode cX1_reads 58 = .ok (.putfield 166, 3) := dk_181 0 166 (dk_at dksX1_reads_2 10 rfl rfl)
theorem dX1_reads_61 : decode cX1_reads 61 = .ok (.aload_n 0, 1) := dk_42 (dk_at dksX1_reads_2 13 rfl rfl)
theorem dX1_reads_62 : decode cX1_reads 62 = .ok (.iload_n 1, 1) := dk_27 (dk_at dksX1_reads_2 14 rfl rfl)
theorem dX1_reads_63 : decode cX1_reads 63 = .ok (.iconst 1, 1) := dk_4 (dk_at dksX1_reads_2 15 rfl rfl)
theorem dX1_reads_64 : decode cX1_reads 64 = .ok (.iadd, 1) := dk_96 (dk_at dksX1_reads_2 16 rfl rfl)
theorem dX1_reads_65 : decode cX1_reads 65 = .ok (.invokevirtual 285, 3) := dk_182 1 29 (dk_at dksX1_reads_2 17 rfl rfl)
theorem dX1_reads_68 : decode cX1_reads 68 = .ok (.astore 5, 2) := dk_58 5 (dk_at dksX1_reads_2 20 rfl rfl)
theorem dX1_reads_70 : decode cX1_reads 70 = .ok (.aload 5, 2) := dk_25 5 (dk_at dksX1_reads_2 22 rfl rfl)
theorem dX1_reads_72 : decode cX1_reads 72 = .ok (.ifnonnull 7, 3) := dk_199 0 7 (dk_at dksX1_reads_3 0 rfl rfl)
theorem dX1_reads_75 : decode cX1_reads 75 = .ok (.aconst_null, 1) := dk_1 (dk_at dksX1_reads_3 3 rfl rfl)
theorem dX1_reads_76 : decode cX1_reads 76 = .ok (.goto 16, 3) := dk_167 0 16 (dk_at dksX1_reads_3 4 rfl rfl)
theorem dX1_reads_79 : decode cX1_reads 79 = .ok (.new 299, 3) := dk_187 1 43 (dk_at dksX1_reads_3 7 rfl rfl)
theorem dX1_reads_82 : decode cX1_reads 82 = .ok (.dup, 1) := dk_89 (dk_at dksX1_reads_3 10 rfl rfl)
theorem dX1_reads_83 : decode cX1_reads 83 = .ok (.aload_n 0, 1) := dk_42 (dk_at dksX1_reads_3 11 rfl rfl)
theorem dX1_reads_84 : decode cX1_reads 84 = .ok (.iload 4, 2) := dk_21 4 (dk_at dksX1_reads_3 12 rfl rfl)
theorem dX1_reads_86 : decode cX1_reads 86 = .ok (.aload_n 2, 1) := dk_44 (dk_at dksX1_reads_3 14 rfl rfl)
theorem dX1_reads_87 : decode cX1_reads 87 = .ok (.aload 5, 2) := dk_25 5 (dk_at dksX1_reads_3 15 rfl rfl)
theorem dX1_reads_89 : decode cX1_reads 89 = .ok (.invokespecial 301, 3) := dk_183 1 45 (dk_at dksX1_reads_3 17 rfl rfl)
theorem dX1_reads_92 : decode cX1_reads 92 = .ok (.astore_n 2, 1) := dk_77 (dk_at dksX1_reads_3 20 rfl rfl)
theorem dX1_reads_93 : decode cX1_reads 93 = .ok (.iload_n 1, 1) := dk_27 (dk_at dksX1_reads_3 21 rfl rfl)
theorem dX1_reads_94 : decode cX1_reads 94 = .ok (.ifCond .le 7, 3) := dk_158 0 7 (dk_at dksX1_reads_4 0 rfl rfl)
theorem dX1_reads_97 : decode cX1_reads 97 = .ok (.iconst 1, 1) := dk_4 (dk_at dksX1_reads_4 3 rfl rfl)
theorem dX1_reads_98 : decode cX1_reads 98 = .ok (.goto 4, 3) := dk_167 0 4 (dk_at dksX1_reads_4 4 rfl rfl)
theorem dX1_reads_101 : decode cX1_reads 101 = .ok (.iconst 0, 1) := dk_3 (dk_at dksX1_reads_4 7 rfl rfl)
theorem dX1_reads_102 : decode cX1_reads 102 = .ok (.istore_n 3, 1) := dk_62 (dk_at dksX1_reads_4 8 rfl rfl)
theorem dX1_reads_103 : decode cX1_reads 103 = .ok (.goto (-83), 3) := dk_167 255 173 (dk_at dksX1_reads_4 9 rfl rfl)
theorem dX1_reads_106 : decode cX1_reads 106 = .ok (.aload_n 2, 1) := dk_44 (dk_at dksX1_reads_4 12 rfl rfl)
theorem dX1_reads_107 : decode cX1_reads 107 = .ok (.areturn, 1) := dk_176 (dk_at dksX1_reads_4 13 rfl rfl)
def dkwX1_readsThing_6 : List UInt8 := [42, 16, 41, 182, 0, 212, 154, 0, 5, 1, 176, 42, 89, 180, 0, 169, 4, 100, 181, 0, 169, 43, 176]
abbrev dktX1_readsThing_6 : List UInt8 := dkwX1_readsThing_6 ++ []
def dkwX1_readsThing_5 : List UInt8 := [96, 181, 0, 166, 42, 89, 180, 0, 169, 4, 96, 181, 0, 169, 42, 3, 182, 1, 29, 76, 43, 198, 0, 12]
abbrev dktX1_readsThing_5 : List UInt8 := dkwX1_readsThing_5 ++ dktX1_readsThing_6
def dkwX1_readsThing_4 : List UInt8 := [16, 40, 182, 0, 180, 153, 0, 11, 42, 180, 0, 169, 7, 160, 0, 5, 1, 176, 42, 89, 180, 0, 166, 4]
abbrev dktX1_readsThing_4 : List UInt8 := dkwX1_readsThing_4 ++ dktX1_readsThing_5
def dkwX1_readsThing_3 : List UInt8 := [181, 0, 166, 187, 1, 26, 89, 42, 42, 180, 0, 48, 42, 180, 0, 166, 4, 100, 46, 183, 1, 28, 176, 42]
abbrev dktX1_readsThing_3 : List UInt8 := dkwX1_readsThing_3 ++ dktX1_readsThing_4
def dkwX1_readsThing_2 : List UInt8 := [182, 0, 238, 183, 1, 21, 176, 42, 19, 1, 24, 182, 0, 184, 155, 0, 33, 42, 89, 180, 0, 166, 4, 96]
abbrev dktX1_readsThing_2 : List UInt8 := dkwX1_readsThing_2 ++ dktX1_readsThing_3
def dkwX1_readsThing_1 : List UInt8 := [187, 1, 14, 89, 42, 43, 183, 1, 16, 176, 42, 182, 0, 192, 153, 0, 17, 187, 1, 19, 89, 42, 42, 6]
abbrev dktX1_readsThing_1 : List UInt8 := dkwX1_readsThing_1 ++ dktX1_readsThing_2
def dkwX1_readsThing_0 : List UInt8 := [42, 16, 45, 182, 0, 212, 153, 0, 26, 42, 182, 1, 10, 76, 43, 199, 0, 7, 1, 167, 0, 12]
abbrev dktX1_readsThing_0 : List UInt8 := dkwX1_readsThing_0 ++ dktX1_readsThing_1
theorem dksX1_readsThing_0 : cX1_readsThing.data.toList.drop 0 = dktX1_readsThing_0 := by decide +kernel
theorem dksX1_readsThing_1 : cX1_readsThing.data.toList.drop 22 = dktX1_readsThing_1 := dk_seg dksX1_readsThing_0 22 rfl rfl
theorem dksX1_readsThing_2 : cX1_readsThing.data.toList.drop 46 = dktX1_readsThing_2 := dk_seg dksX1_readsThing_1 24 rfl rfl
theorem dksX1_readsThing_3 : cX1_readsThing.data.toList.drop 70 = dktX1_readsThing_3 := dk_seg dksX1_readsThing_2 24 rfl rfl
theorem dksX1_readsThing_4 : cX1_readsThing.data.toList.drop 94 = dktX1_readsThing_4 := dk_seg dksX1_readsThing_3 24 rfl rfl
theorem dksX1_readsThing_5 : cX1_readsThing.data.toList.drop 118 = dktX1_readsThing_5 := dk_seg dksX1_readsThing_4 24 rfl rfl
theorem dksX1_readsThing_6 : cX1_readsThing.data.toList.drop 142 = dktX1_readsThing_6 := dk_seg dksX1_readsThing_5 24 rfl rfl
theorem dX1_readsThing_0 : decode cX1_readsThing 0 = .ok (.aload_n 0, 1) := dk_42 (dk_at dksX1_readsThing_0 0 rfl rfl)
theorem dX1_readsThing_1 : decode cX1_readsThing 1 = .ok (.bipush 45, 2) := dk_16 45 (dk_at dksX1_readsThing_0 1 rfl rfl)
theorem dX1_readsThing_3 : decode cX1_readsThing 3 = .ok (.invokevirtual 212, 3) := dk_182 0 212 (dk_at dksX1_readsThing_0 3 rfl rfl)
theorem dX1_readsThing_6 : decode cX1_readsThing 6 = .ok (.ifCond .eq 26, 3) := dk_153 0 26 (dk_at dksX1_readsThing_0 6 rfl rfl)
theorem dX1_readsThing_9 : decode cX1_readsThing 9 = .ok (.aload_n 0, 1) := dk_42 (dk_at dksX1_readsThing_0 9 rfl rfl)
theorem dX1_readsThing_10 : decode cX1_readsThing 10 = .ok (.invokevirtual 266, 3) := dk_182 1 10 (dk_at dksX1_readsThing_0 10 rfl rfl)
theorem dX1_readsThing_13 : decode cX1_readsThing 13 = .ok (.astore_n 1, 1) := dk_76 (dk_at dksX1_readsThing_0 13 rfl rfl)
theorem dX1_readsThing_14 : decode cX1_readsThing 14 = .ok (.aload_n 1, 1) := dk_43 (dk_at dksX1_readsThing_0 14 rfl rfl)
theorem dX1_readsThing_15 : decode cX1_readsThing 15 = .ok (.ifnonnull 7, 3) := dk_199 0 7 (dk_at dksX1_readsThing_0 15 rfl rfl)
theorem dX1_readsThing_18 : decode cX1_readsThing 18 = .ok (.aconst_null, 1) := dk_1 (dk_at dksX1_readsThing_0 18 rfl rfl)
theorem dX1_readsThing_19 : decode cX1_readsThing 19 = .ok (.goto 12, 3) := dk_167 0 12 (dk_at dksX1_readsThing_0 19 rfl rfl)
theorem dX1_readsThing_22 : decode cX1_readsThing 22 = .ok (.new 270, 3) := dk_187 1 14 (dk_at dksX1_readsThing_1 0 rfl rfl)
theorem dX1_readsThing_25 : decode cX1_readsThing 25 = .ok (.dup, 1) := dk_89 (dk_at dksX1_readsThing_1 3 rfl rfl)
theorem dX1_readsThing_26 : decode cX1_readsThing 26 = .ok (.aload_n 0, 1) := dk_42 (dk_at dksX1_readsThing_1 4 rfl rfl)
theorem dX1_readsThing_27 : decode cX1_readsThing 27 = .ok (.aload_n 1, 1) := dk_43 (dk_at dksX1_readsThing_1 5 rfl rfl)
theorem dX1_readsThing_28 : decode cX1_readsThing 28 = .ok (.invokespecial 272, 3) := dk_183 1 16 (dk_at dksX1_readsThing_1 6 rfl rfl)
theorem dX1_readsThing_31 : decode cX1_readsThing 31 = .ok (.areturn, 1) := dk_176 (dk_at dksX1_readsThing_1 9 rfl rfl)
theorem dX1_readsThing_32 : decode cX1_readsThing 32 = .ok (.aload_n 0, 1) := dk_42 (dk_at dksX1_readsThing_1 10 rfl rfl)
theorem dX1_readsThing_33 : decode cX1_readsThing 33 = .ok (.invokevirtual 192, 3) := dk_182 0 192 (dk_at dksX1_readsThing_1 11 rfl rfl)
theorem dX1_readsThing_36 : decode cX1_readsThing 36 = .ok (.ifCond .eq 17, 3) := dk_153 0 17 (dk_at dksX1_readsThing_1 14 rfl rfl)
theorem dX1_readsThing_39 : decode cX1_readsThing 39 = .ok (.new 275, 3) := dk_187 1 19 (dk_at dksX1_readsThing_1 17 rfl rfl)
theorem dX1_readsThing_42 : decode cX1_readsThing 42 = .ok (.dup, 1) := dk_89 (dk_at dksX1_readsThing_1 20 rfl rfl)
theorem dX1_readsThing_43 : decode cX1_readsThing 43 = .ok (.aload_n 0, 1) := dk_42 (dk_at dksX1_readsThing_1 21 rfl rfl)
theorem dX1_readsThing_44 : decode cX1_readsThing 44 = .ok (.aload_n 0, 1) := dk_42 (dk_at dksX1_readsThing_1 22 rfl rfl)
theorem dX1_readsThing_45 : decode cX1_readsThing 45 = .ok (.iconst 3, 1) := dk_6 (dk_at dksX1_readsThing_1 23 rfl rfl)
theorem dX1_readsThing_46 : decode cX1_readsThing 46 = .ok (.invokevirtual 238, 3) := dk_182 0 238 (dk_at dksX1_readsThing_2 0 rfl rfl)
theorem dX1_readsThing_49 : decode cX1_readsThing 49 = .ok (.invokespecial 277, 3) := dk_183 1 21 (dk_at dksX1_readsThing_2 3 rfl rfl)
theorem dX1_readsThing_52 : decode cX1_readsThing 52 = .ok (.areturn, 1) := dk_176 (dk_at dksX1_readsThing_2 6 rfl rfl)
theorem dX1_readsThing_53 : decode cX1_readsThing 53 = .ok (.aload_n 0, 1) := dk_42 (dk_at dksX1_readsThing_2 7 rfl rfl)
theorem dX1_readsThing_54 : decode cX1_readsThing 54 = .ok (.ldc_w 280, 3) := dk_19 1 24 (dk_at dksX1_readsThing_2 8 rfl rfl)
theorem dX1_readsThing_57 : decode cX1_readsThing 57 = .ok (.invokevirtual 184, 3) := dk_182 0 184 (dk_at dksX1_readsThing_2 11 rfl rfl)
theorem dX1_readsThing_60 : decode cX1_readsThing 60 = .ok (.ifCond .lt 33, 3) := dk_155 0 33 (dk_at dksX1_readsThing_2 14 rfl rfl)
theorem dX1_readsThing_63 : decode cX1_readsThing 63 = .ok (.aload_n 0, 1) := dk_42 (dk_at dksX1_readsThing_2 17 rfl rfl)
theorem dX1_readsThing_64 : decode cX1_readsThing 64 = .ok (.dup, 1) := dk_89 (dk_at dksX1_readsThing_2 18 rfl rfl)
theorem dX1_readsThing_65 : decode cX1_readsThing 65 = .ok (.getfield 166, 3) := dk_180 0 166 (dk_at dksX1_readsThing_2 19 rfl rfl)
theorem dX1_readsThing_68 : decode cX1_readsThing 68 = .ok (.iconst 1, 1) := dk_4 (dk_at dksX1_readsThing_2 22 rfl rfl)
theorem dX1_readsThing_69 : decode cX1_readsThing 69 = .ok (.iadd, 1) := dk_96 (dk_at dksX1_readsThing_2 23 rfl rfl)
theorem dX1_readsThing_70 : decode cX1_readsThing 70 = .ok (.putfield 166, 3) := dk_181 0 166 (dk_at dksX1_readsThing_3 0 rfl rfl)
theorem dX1_readsThing_73 : decode cX1_readsThing 73 = .ok (.new 282, 3) := dk_187 1 26 (dk_at dksX1_readsThing_3 3 rfl rfl)
theorem dX1_readsThing_76 : decode cX1_readsThing 76 = .ok (.dup, 1) := dk_89 (dk_at dksX1_readsThing_3 6 rfl rfl)
theorem dX1_readsThing_77 : decode cX1_readsThing 77 = .ok (.aload_n 0, 1) := dk_42 (dk_at dksX1_readsThing_3 7 rfl rfl)
theorem dX1_readsThing_78 : decode cX1_readsThing 78 = .ok (.aload_n 0, 1) := dk_42 (dk_at dksX1_readsThing_3 8 rfl rfl)
theorem dX1_readsThing_79 : decode cX1_readsThing 79 = .ok (.getfield 48, 3) := dk_180 0 48 (dk_at dksX1_readsThing_3 9 rfl rfl)
theorem dX1_readsThing_82 : decode cX1_readsThing 82 = .ok (.aload_n 0, 1) := dk_42 (dk_at dksX1_readsThing_3 12 rfl rfl)
theorem dX1_readsThing_83 : decode cX1_readsThing 83 = .ok (.getfield 166, 3) := dk_180 0 166 (dk_at dksX1_readsThing_3 13 rfl rfl)
theorem dX1_readsThing_86 : decode cX1_readsThing 86 = .ok (.iconst 1, 1) := dk_4 (dk_at dksX1_readsThing_3 16 rfl rfl)
theorem dX1_readsThing_87 : decode cX1_readsThing 87 = .ok (.isub, 1) := dk_100 (dk_at dksX1_readsThing_3 17 rfl rfl)
theorem dX1_readsThing_88 : decode cX1_readsThing 88 = .ok (.iaload, 1) := dk_46 (dk_at dksX1_readsThing_3 18 rfl rfl)
theorem dX1_readsThing_89 : decode cX1_readsThing 89 = .ok (.invokespecial 284, 3) := dk_183 1 28 (dk_at dksX1_readsThing_3 19 rfl rfl)
theorem dX1_readsThing_92 : decode cX1_readsThing 92 = .ok (.areturn, 1) := dk_176 (dk_at dksX1_readsThing_3 22 rfl rfl)
theorem dX1_readsThing_93 : decode cX1_readsThing 93 = .ok (.aload_n 0, 1) := dk_42 (dk_at dksX1_readsThing_3 23 rfl rfl)
theorem dX1_readsThing_94 : decode cX1_readsThing 94 = .ok (.bipush 40, 2) := dk_16 40 (dk_at dksX1_readsThing_4 0 rfl rfl)
theorem dX1_readsThing_96 : decode cX1_readsThing 96 = .ok (.invokevirtual 180, 3) := dk_182 0 180 (dk_at dksX1_readsThing_4 2 rfl rfl)
theorem dX1_readsThing_99 : decode cX1_readsThing 99 = .ok (.ifCond .eq 11, 3) := dk_153 0 11 (dk_at dksX1_readsThing_4 5 rfl rfl)
theorem dX1_readsThing_102 : decode cX1_readsThing 102 = .ok (.aload_n 0, 1) := dk_42 (dk_at dksX1_readsThing_4 8 rfl rfl)
theorem dX1_readsThing_103 : decode cX1_readsThing 103 = .ok (.getfield 169, 3) := dk_180 0 169 (dk_at dksX1_readsThing_4 9 rfl rfl)
theorem dX1_readsThing_106 : decode cX1_readsThing 106 = .ok (.iconst 4, 1) := dk_7 (dk_at dksX1_readsThing_4 12 rfl rfl)
theorem dX1_readsThing_107 : decode cX1_readsThing 107 = .ok (.if_icmp .ne 5, 3) := dk_160 0 5 (dk_at dksX1_readsThing_4 13 rfl rfl)
theorem dX1_readsThing_110 : decode cX1_readsThing 110 = .ok (.aconst_null, 1) := dk_1 (dk_at dksX1_readsThing_4 16 rfl rfl)
theorem dX1_readsThing_111 : decode cX1_readsThing 111 = .ok (.areturn, 1) := dk_176 (dk_at dksX1_readsThing_4 17 rfl rfl)
theorem dX1_readsThing_112 : decode cX1_readsThing 112 = .ok (.aload_n 0, 1) := dk_42 (dk_at dksX1_readsThing_4 18 rfl rfl)
theorem dX1_readsThing_113 : decode cX1_readsThing 113 = .ok (.dup, 1) := dk_89 (dk_at dksX1_readsThing_4 19 rfl rfl)
theorem dX1_readsThing_114 : decode cX1_readsThing 114 = .ok (.getfield 166, 3) := dk_180 0 166 (dk_at dksX1_readsThing_4 20 rfl rfl)
theorem dX1_readsThing_117 : decode cX1_readsThing 117 = .ok (.iconst 1, 1) := dk_4 (dk_at dksX1_readsThing_4 23 rfl rfl)
theorem dX1_readsThing_118 : decode cX1_readsThing 118 = .ok (.iadd, 1) := dk_96 (dk_at dksX1_readsThing_5 0 rfl rfl)
theorem dX1_readsThing_119 : decode cX1_readsThing 119 = .ok (.putfield 166, 3) := dk_181 0 166 (dk_at dksX1_readsThing_5 1 rfl rfl)
theorem dX1_readsThing_122 : decode cX1_readsThing 122 = .ok (.aload_n 0, 1) := dk_42 (dk_at dksX1_readsThing_5 4 rfl rfl)
theorem dX1_readsThing_123 : decode cX1_readsThing 123 = .ok (.dup, 1) := dk_89 (dk_at dksX1_readsThing_5 5 rfl rfl)
theorem dX1_readsThing_124 : decode cX1_readsThing 124 = .ok (.getfield 169, 3) := dk_180 0 169 (dk_at dksX1_readsThing_5 6 rfl rfl)
theorem dX1_readsThing_127 : decode cX1_readsThing 127 = .ok (.iconst 1, 1) := dk_4 (dk_at dksX1_readsThing_5 9 rfl rfl)
theorem dX1_readsThing_128 : decode cX1_readsThing 128 = .ok (.iadd, 1) := dk_96 (dk_at dksX1_readsThing_5 10 rfl rfl)
theorem dX1_readsThing_129 : decode cX1_readsThing 129 = .ok (.putfield 169, 3) := dk_181 0 169 (dk_at dksX1_readsThing_5 11 rfl rfl)
theorem dX1_readsThing_132 : decode cX1_readsThing 132 = .ok (.aload_n 0, 1) := dk_42 (dk_at dksX1_readsThing_5 14 rfl rfl)
theorem dX1_readsThing_133 : decode cX1_readsThing 133 = .ok (.iconst 0, 1) := dk_3 (dk_at dksX1_readsThing_5 15 rfl rfl)
theorem dX1_readsThing_134 : decode cX1_readsThing 134 = .ok (.invokevirtual 285, 3) := dk_182 1 29 (dk_at dksX1_readsThing_5 16 rfl rfl)
theorem dX1_readsThing_137 : decode cX1_readsThing 137 = .ok (.astore_n 1, 1) := dk_76 (dk_at dksX1_readsThing_5 19 rfl rfl)
theorem dX1_readsThing_138 : decode cX1_readsThing 138 = .ok (.aload_n 1, 1) := dk_43 (dk_at dksX1_readsThing_5 20 rfl rfl)
theorem dX1_readsThing_139 : decode cX1_readsThing 139 = .ok (.ifnull 12, 3) := dk_198 0 12 (dk_at dksX1_readsThing_5 21 rfl rfl)
theorem dX1_readsThing_142 : decode cX1_readsThing 142 = .ok (.aload_n 0, 1) := dk_42 (dk_at dksX1_readsThing_6 0 rfl rfl)
theorem dX1_readsThing_143 : decode cX1_readsThing 143 = .ok (.bipush 41, 2) := dk_16 41 (dk_at dksX1_readsThing_6 1 rfl rfl)
theorem dX1_readsThing_145 : decode cX1_readsThing 145 = .ok (.invokevirtual 212, 3) := dk_182 0 212 (dk_at dksX1_readsThing_6 3 rfl rfl)
theorem dX1_readsThing_148 : decode cX1_readsThing 148 = .ok (.ifCond .ne 5, 3) := dk_154 0 5 (dk_at dksX1_readsThing_6 6 rfl rfl)
theorem dX1_readsThing_151 : decode cX1_readsThing 151 = .ok (.aconst_null, 1) := dk_1 (dk_at dksX1_readsThing_6 9 rfl rfl)
theorem dX1_readsThing_152 : decode cX1_readsThing 152 = .ok (.areturn, 1) := dk_176 (dk_at dksX1_readsThing_6 10 rfl rfl)
theorem dX1_readsThing_153 : decode cX1_readsThing 153 = .ok (.aload_n 0, 1) := dk_42 (dk_at dksX1_readsThing_6 11 rfl rfl)
theorem dX1_readsThing_154 : decode cX1_readsThing 154 = .ok (.dup, 1) := dk_89 (dk_at dksX1_readsThing_6 12 rfl rfl)
theorem dX1_readsThing_155 : decode cX1_readsThing 155 = .ok (.getfield 169, 3) := dk_180 0 169 (dk_at dksX1_readsThing_6 13 rfl rfl)
theorem dX1_readsThing_158 : decode cX1_readsThing 158 = .ok (.iconst 1, 1) := dk_4 (dk_at dksX1_readsThing_6 16 rfl rfl)
theorem dX1_readsThing_159 : decode cX1_readsThing 159 = .ok (.isub, 1) := dk_100 (dk_at dksX1_readsThing_6 17 rfl rfl)
theorem dX1_readsThing_160 : decode cX1_readsThing 160 = .ok (.putfield 169, 3) := dk_181 0 169 (dk_at dksX1_readsThing_6 18 rfl rfl)
theorem dX1_readsThing_163 : decode cX1_readsThing 163 = .ok (.aload_n 1, 1) := dk_43 (dk_at dksX1_readsThing_6 21 rfl rfl)
theorem dX1_readsThing_164 : decode cX1_readsThing 164 = .ok (.areturn, 1) := dk_176 (dk_at dksX1_readsThing_6 22 rfl rfl)
def dkwX1_acts_1 : List UInt8 := [176]
abbrev dktX1_acts_1 : List UInt8 := dkwX1_acts_1 ++ []
def dkwX1_acts_0 : List UInt8 := [26, 154, 0, 9, 19, 1, 33, 167, 0, 17, 26, 4, 160, 0, 9, 19, 1, 35, 167, 0, 6, 19, 1, 37]
abbrev dktX1_acts_0 : List UInt8 := dkwX1_acts_0 ++ dktX1_acts_1
theorem dksX1_acts_0 : cX1_acts.data.toList.drop 0 = dktX1_acts_0 := by decide +kernel
theorem dksX1_acts_1 : cX1_acts.data.toList.drop 24 = dktX1_acts_1 := dk_seg dksX1_acts_0 24 rfl rfl
theorem dX1_acts_0 : decode cX1_acts 0 = .ok (.iload_n 0, 1) := dk_26 (dk_at dksX1_acts_0 0 rfl rfl)
theorem dX1_acts_1 : decode cX1_acts 1 = .ok (.ifCond .ne 9, 3) := dk_154 0 9 (dk_at dksX1_acts_0 1 rfl rfl)
theorem dX1_acts_4 : decode cX1_acts 4 = .ok (.ldc_w 289, 3) := dk_19 1 33 (dk_at dksX1_acts_0 4 rfl rfl)
theorem dX1_acts_7 : decode cX1_acts 7 = .ok (.goto 17, 3) := dk_167 0 17 (dk_at dksX1_acts_0 7 rfl rfl)
theorem dX1_acts_10 : decode cX1_acts 10 = .ok (.iload_n 0, 1) := dk_26 (dk_at dksX1_acts_0 10 rfl rfl)
theorem dX1_acts_11 : decode cX1_acts 11 = .ok (.iconst 1, 1) := dk_4 (dk_at dksX1_acts_0 11 rfl rfl)
theorem dX1_acts_12 : decode cX1_acts 12 = .ok (.if_icmp .ne 9, 3) := dk_160 0 9 (dk_at dksX1_acts_0 12 rfl rfl)
theorem dX1_acts_15 : decode cX1_acts 15 = .ok (.ldc_w 291, 3) := dk_19 1 35 (dk_at dksX1_acts_0 15 rfl rfl)
theorem dX1_acts_18 : decode cX1_acts 18 = .ok (.goto 6, 3) := dk_167 0 6 (dk_at dksX1_acts_0 18 rfl rfl)
theorem dX1_acts_21 : decode cX1_acts 21 = .ok (.ldc_w 293, 3) := dk_19 1 37 (dk_at dksX1_acts_0 21 rfl rfl)
theorem dX1_acts_24 : decode cX1_acts 24 = .ok (.areturn, 1) := dk_176 (dk_at dksX1_acts_1 0 rfl rfl)
def dkwX1_sheet_6 : List UInt8 := [160, 0, 8, 16, 253, 167, 0, 5, 21, 5, 172]
abbrev dktX1_sheet_6 : List UInt8 := dkwX1_sheet_6 ++ []
def dkwX1_sheet_5 : List UInt8 := [180, 0, 246, 21, 7, 46, 96, 54, 5, 21, 6, 21, 4, 96, 54, 6, 132, 7, 1, 167, 255, 160, 27, 6]
abbrev dktX1_sheet_5 : List UInt8 := dkwX1_sheet_5 ++ dktX1_sheet_6
def dkwX1_sheet_4 : List UInt8 := [3, 167, 0, 15, 3, 17, 39, 15, 21, 8, 184, 0, 172, 184, 1, 2, 79, 21, 5, 42, 180, 0, 12]
abbrev dktX1_sheet_4 : List UInt8 := dkwX1_sheet_4 ++ dktX1_sheet_5
def dkwX1_sheet_3 : List UInt8 := [21, 6, 54, 8, 42, 180, 0, 12, 180, 0, 246, 21, 7, 27, 6, 159, 0, 9, 21, 7, 28, 161, 0, 7]
abbrev dktX1_sheet_3 : List UInt8 := dkwX1_sheet_3 ++ dktX1_sheet_4
def dkwX1_sheet_2 : List UInt8 := [162, 0, 93, 27, 154, 0, 9, 21, 6, 145, 167, 0, 16, 27, 4, 160, 0, 9, 21, 6, 147, 167, 0, 5]
abbrev dktX1_sheet_2 : List UInt8 := dkwX1_sheet_2 ++ dktX1_sheet_3
def dkwX1_sheet_1 : List UInt8 := [28, 156, 0, 6, 16, 254, 172, 3, 54, 5, 29, 54, 6, 3, 54, 7, 21, 7, 42, 180, 0, 148]
abbrev dktX1_sheet_1 : List UInt8 := dkwX1_sheet_1 ++ dktX1_sheet_2
def dkwX1_sheet_0 : List UInt8 := [27, 133, 9, 20, 1, 117, 184, 0, 141, 153, 0, 8, 28, 7, 164, 0, 5, 2, 172, 27, 6, 159, 0, 10]
abbrev dktX1_sheet_0 : List UInt8 := dkwX1_sheet_0 ++ dktX1_sheet_1
theorem dksX1_sheet_0 : cX1_sheet.data.toList.drop 0 = dktX1_sheet_0 := by decide +kernel
theorem dksX1_sheet_1 : cX1_sheet.data.toList.drop 24 = dktX1_sheet_1 := dk_seg dksX1_sheet_0 24 rfl rfl
theorem dksX1_sheet_2 : cX1_sheet.data.toList.drop 46 = dktX1_sheet_2 := dk_seg dksX1_sheet_1 22 rfl rfl
theorem dksX1_sheet_3 : cX1_sheet.data.toList.drop 70 = dktX1_sheet_3 := dk_seg dksX1_sheet_2 24 rfl rfl
theorem dksX1_sheet_4 : cX1_sheet.data.toList.drop 94 = dktX1_sheet_4 := dk_seg dksX1_sheet_3 24 rfl rfl
theorem dksX1_sheet_5 : cX1_sheet.data.toList.drop 117 = dktX1_sheet_5 := dk_seg dksX1_sheet_4 23 rfl rfl
theorem dksX1_sheet_6 : cX1_sheet.data.toList.drop 141 = dktX1_sheet_6 := dk_seg dksX1_sheet_5 24 rfl rfl
theorem dX1_sheet_0 : decode cX1_sheet 0 = .ok (.iload_n 1, 1) := dk_27 (dk_at dksX1_sheet_0 0 rfl rfl)
theorem dX1_sheet_1 : decode cX1_sheet 1 = .ok (.i2l, 1) := dk_133 (dk_at dksX1_sheet_0 1 rfl rfl)
theorem dX1_sheet_2 : decode cX1_sheet 2 = .ok (.lconst 0, 1) := dk_9 (dk_at dksX1_sheet_0 2 rfl rfl)
theorem dX1_sheet_3 : decode cX1_sheet 3 = .ok (.ldc2_w 373, 3) := dk_20 1 117 (dk_at dksX1_sheet_0 3 rfl rfl)
theorem dX1_sheet_6 : decode cX1_sheet 6 = .ok (.invokestatic 141, 3) := dk_184 0 141 (dk_at dksX1_sheet_0 6 rfl rfl)
theorem dX1_sheet_9 : decode cX1_sheet 9 = .ok (.ifCond .eq 8, 3) := dk_153 0 8 (dk_at dksX1_sheet_0 9 rfl rfl)
theorem dX1_sheet_12 : decode cX1_sheet 12 = .ok (.iload_n 2, 1) := dk_28 (dk_at dksX1_sheet_0 12 rfl rfl)
theorem dX1_sheet_13 : decode cX1_sheet 13 = .ok (.iconst 4, 1) := dk_7 (dk_at dksX1_sheet_0 13 rfl rfl)
theorem dX1_sheet_14 : decode cX1_sheet 14 = .ok (.if_icmp .le 5, 3) := dk_164 0 5 (dk_at dksX1_sheet_0 14 rfl rfl)
theorem dX1_sheet_17 : decode cX1_sheet 17 = .ok (.iconst (-1), 1) := dk_2 (dk_at dksX1_sheet_0 17 rfl rfl)
theorem dX1_sheet_18 : decode cX1_sheet 18 = .ok (.ireturn, 1) := dk_172 (dk_at dksX1_sheet_0 18 rfl rfl)
theorem dX1_sheet_19 : decode cX1_sheet 19 = .ok (.iload_n 1, 1) := dk_27 (dk_at dksX1_sheet_0 19 rfl rfl)
theorem dX1_sheet_20 : decode cX1_sheet 20 = .ok (.iconst 3, 1) := dk_6 (dk_at dksX1_sheet_0 20 rfl rfl)
theorem dX1_sheet_21 : decode cX1_sheet 21 = .ok (.if_icmp .eq 10, 3) := dk_159 0 10 (dk_at dksX1_sheet_0 21 rfl rfl)
theorem dX1_sheet_24 : decode cX1_sheet 24 = .ok (.iload_n 2, 1) := dk_28 (dk_at dksX1_sheet_1 0 rfl rfl)
theorem dX1_sheet_25 : decode cX1_sheet 25 = .ok (.ifCond .ge 6, 3) := dk_156 0 6 (dk_at dksX1_sheet_1 1 rfl rfl)
theorem dX1_sheet_28 : decode cX1_sheet 28 = .ok (.bipush (-2), 2) := dk_16 254 (dk_at dksX1_sheet_1 4 rfl rfl)
theorem dX1_sheet_30 : decode cX1_sheet 30 = .ok (.ireturn, 1) := dk_172 (dk_at dksX1_sheet_1 6 rfl rfl)
theorem dX1_sheet_31 : decode cX1_sheet 31 = .ok (.iconst 0, 1) := dk_3 (dk_at dksX1_sheet_1 7 rfl rfl)
theorem dX1_sheet_32 : decode cX1_sheet 32 = .ok (.istore 5, 2) := dk_54 5 (dk_at dksX1_sheet_1 8 rfl rfl)
theorem dX1_sheet_34 : decode cX1_sheet 34 = .ok (.iload_n 3, 1) := dk_29 (dk_at dksX1_sheet_1 10 rfl rfl)
theorem dX1_sheet_35 : decode cX1_sheet 35 = .ok (.istore 6, 2) := dk_54 6 (dk_at dksX1_sheet_1 11 rfl rfl)
theorem dX1_sheet_37 : decode cX1_sheet 37 = .ok (.iconst 0, 1) := dk_3 (dk_at dksX1_sheet_1 13 rfl rfl)
theorem dX1_sheet_38 : decode cX1_sheet 38 = .ok (.istore 7, 2) := dk_54 7 (dk_at dksX1_sheet_1 14 rfl rfl)
theorem dX1_sheet_40 : decode cX1_sheet 40 = .ok (.iload 7, 2) := dk_21 7 (dk_at dksX1_sheet_1 16 rfl rfl)
theorem dX1_sheet_42 : decode cX1_sheet 42 = .ok (.aload_n 0, 1) := dk_42 (dk_at dksX1_sheet_1 18 rfl rfl)
theorem dX1_sheet_43 : decode cX1_sheet 43 = .ok (.getfield 148, 3) := dk_180 0 148 (dk_at dksX1_sheet_1 19 rfl rfl)
theorem dX1_sheet_46 : decode cX1_sheet 46 = .ok (.if_icmp .ge 93, 3) := dk_162 0 93 (dk_at dksX1_sheet_2 0 rfl rfl)
theorem dX1_sheet_49 : decode cX1_sheet 49 = .ok (.iload_n 1, 1) := dk_27 (dk_at dksX1_sheet_2 3 rfl rfl)
theorem dX1_sheet_50 : decode cX1_sheet 50 = .ok (.ifCond .ne 9, 3) := dk_154 0 9 (dk_at dksX1_sheet_2 4 rfl rfl)
theorem dX1_sheet_53 : decode cX1_sheet 53 = .ok (.iload 6, 2) := dk_21 6 (dk_at dksX1_sheet_2 7 rfl rfl)
theorem dX1_sheet_55 : decode cX1_sheet 55 = .ok (.i2b, 1) := dk_145 (dk_at dksX1_sheet_2 9 rfl rfl)
theorem dX1_sheet_56 : decode cX1_sheet 56 = .ok (.goto 16, 3) := dk_167 0 16 (dk_at dksX1_sheet_2 10 rfl rfl)
theorem dX1_sheet_59 : decode cX1_sheet 59 = .ok (.iload_n 1, 1) := dk_27 (dk_at dksX1_sheet_2 13 rfl rfl)
theorem dX1_sheet_60 : decode cX1_sheet 60 = .ok (.iconst 1, 1) := dk_4 (dk_at dksX1_sheet_2 14 rfl rfl)
theorem dX1_sheet_61 : decode cX1_sheet 61 = .ok (.if_icmp .ne 9, 3) := dk_160 0 9 (dk_at dksX1_sheet_2 15 rfl rfl)
theorem dX1_sheet_64 : decode cX1_sheet 64 = .ok (.iload 6, 2) := dk_21 6 (dk_at dksX1_sheet_2 18 rfl rfl)
theorem dX1_sheet_66 : decode cX1_sheet 66 = .ok (.i2s, 1) := dk_147 (dk_at dksX1_sheet_2 20 rfl rfl)
theorem dX1_sheet_67 : decode cX1_sheet 67 = .ok (.goto 5, 3) := dk_167 0 5 (dk_at dksX1_sheet_2 21 rfl rfl)
theorem dX1_sheet_70 : decode cX1_sheet 70 = .ok (.iload 6, 2) := dk_21 6 (dk_at dksX1_sheet_3 0 rfl rfl)
theorem dX1_sheet_72 : decode cX1_sheet 72 = .ok (.istore 8, 2) := dk_54 8 (dk_at dksX1_sheet_3 2 rfl rfl)
theorem dX1_sheet_74 : decode cX1_sheet 74 = .ok (.aload_n 0, 1) := dk_42 (dk_at dksX1_sheet_3 4 rfl rfl)
theorem dX1_sheet_75 : decode cX1_sheet 75 = .ok (.getfield 12, 3) := dk_180 0 12 (dk_at dksX1_sheet_3 5 rfl rfl)
theorem dX1_sheet_78 : decode cX1_sheet 78 = .ok (.getfield 246, 3) := dk_180 0 246 (dk_at dksX1_sheet_3 8 rfl rfl)
theorem dX1_sheet_81 : decode cX1_sheet 81 = .ok (.iload 7, 2) := dk_21 7 (dk_at dksX1_sheet_3 11 rfl rfl)
theorem dX1_sheet_83 : decode cX1_sheet 83 = .ok (.iload_n 1, 1) := dk_27 (dk_at dksX1_sheet_3 13 rfl rfl)
theorem dX1_sheet_84 : decode cX1_sheet 84 = .ok (.iconst 3, 1) := dk_6 (dk_at dksX1_sheet_3 14 rfl rfl)
theorem dX1_sheet_85 : decode cX1_sheet 85 = .ok (.if_icmp .eq 9, 3) := dk_159 0 9 (dk_at dksX1_sheet_3 15 rfl rfl)
theorem dX1_sheet_88 : decode cX1_sheet 88 = .ok (.iload 7, 2) := dk_21 7 (dk_at dksX1_sheet_3 18 rfl rfl)
theorem dX1_sheet_90 : decode cX1_sheet 90 = .ok (.iload_n 2, 1) := dk_28 (dk_at dksX1_sheet_3 20 rfl rfl)
theorem dX1_sheet_91 : decode cX1_sheet 91 = .ok (.if_icmp .lt 7, 3) := dk_161 0 7 (dk_at dksX1_sheet_3 21 rfl rfl)
theorem dX1_sheet_94 : decode cX1_sheet 94 = .ok (.iconst 0, 1) := dk_3 (dk_at dksX1_sheet_4 0 rfl rfl)
theorem dX1_sheet_95 : decode cX1_sheet 95 = .ok (.goto 15, 3) := dk_167 0 15 (dk_at dksX1_sheet_4 1 rfl rfl)
theorem dX1_sheet_98 : decode cX1_sheet 98 = .ok (.iconst 0, 1) := dk_3 (dk_at dksX1_sheet_4 4 rfl rfl)
theorem dX1_sheet_99 : decode cX1_sheet 99 = .ok (.sipush 9999, 3) := dk_17 39 15 (dk_at dksX1_sheet_4 5 rfl rfl)
theorem dX1_sheet_102 : decode cX1_sheet 102 = .ok (.iload 8, 2) := dk_21 8 (dk_at dksX1_sheet_4 8 rfl rfl)
theorem dX1_sheet_104 : decode cX1_sheet 104 = .ok (.invokestatic 172, 3) := dk_184 0 172 (dk_at dksX1_sheet_4 10 rfl rfl)
theorem dX1_sheet_107 : decode cX1_sheet 107 = .ok (.invokestatic 258, 3) := dk_184 1 2 (dk_at dksX1_sheet_4 13 rfl rfl)
theorem dX1_sheet_110 : decode cX1_sheet 110 = .ok (.iastore, 1) := dk_79 (dk_at dksX1_sheet_4 16 rfl rfl)
theorem dX1_sheet_111 : decode cX1_sheet 111 = .ok (.iload 5, 2) := dk_21 5 (dk_at dksX1_sheet_4 17 rfl rfl)
theorem dX1_sheet_113 : decode cX1_sheet 113 = .ok (.aload_n 0, 1) := dk_42 (dk_at dksX1_sheet_4 19 rfl rfl)
theorem dX1_sheet_114 : decode cX1_sheet 114 = .ok (.getfield 12, 3) := dk_180 0 12 (dk_at dksX1_sheet_4 20 rfl rfl)
theorem dX1_sheet_117 : decode cX1_sheet 117 = .ok (.getfield 246, 3) := dk_180 0 246 (dk_at dksX1_sheet_5 0 rfl rfl)
theorem dX1_sheet_120 : decode cX1_sheet 120 = .ok (.iload 7, 2) := dk_21 7 (dk_at dksX1_sheet_5 3 rfl rfl)
theorem dX1_sheet_122 : decode cX1_sheet 122 = .ok (.iaload, 1) := dk_46 (dk_at dksX1_sheet_5 5 rfl rfl)
theorem dX1_sheet_123 : decode cX1_sheet 123 = .ok (.iadd, 1) := dk_96 (dk_at dksX1_sheet_5 6 rfl rfl)
theorem dX1_sheet_124 : decode cX1_sheet 124 = .ok (.istore 5, 2) := dk_54 5 (dk_at dksX1_sheet_5 7 rfl rfl)
theorem dX1_sheet_126 : decode cX1_sheet 126 = .ok (.iload 6, 2) := dk_21 6 (dk_at dksX1_sheet_5 9 rfl rfl)
theorem dX1_sheet_128 : decode cX1_sheet 128 = .ok (.iload 4, 2) := dk_21 4 (dk_at dksX1_sheet_5 11 rfl rfl)
theorem dX1_sheet_130 : decode cX1_sheet 130 = .ok (.iadd, 1) := dk_96 (dk_at dksX1_sheet_5 13 rfl rfl)
theorem dX1_sheet_131 : decode cX1_sheet 131 = .ok (.istore 6, 2) := dk_54 6 (dk_at dksX1_sheet_5 14 rfl rfl)
theorem dX1_sheet_133 : decode cX1_sheet 133 = .ok (.iinc 7 1, 3) := dk_132 7 1 (dk_at dksX1_sheet_5 16 rfl rfl)
theorem dX1_sheet_136 : decode cX1_sheet 136 = .ok (.goto (-96), 3) := dk_167 255 160 (dk_at dksX1_sheet_5 19 rfl rfl)
theorem dX1_sheet_139 : decode cX1_sheet 139 = .ok (.iload_n 1, 1) := dk_27 (dk_at dksX1_sheet_5 22 rfl rfl)
theorem dX1_sheet_140 : decode cX1_sheet 140 = .ok (.iconst 3, 1) := dk_6 (dk_at dksX1_sheet_5 23 rfl rfl)
theorem dX1_sheet_141 : decode cX1_sheet 141 = .ok (.if_icmp .ne 8, 3) := dk_160 0 8 (dk_at dksX1_sheet_6 0 rfl rfl)
theorem dX1_sheet_144 : decode cX1_sheet 144 = .ok (.bipush (-3), 2) := dk_16 253 (dk_at dksX1_sheet_6 3 rfl rfl)
theorem dX1_sheet_146 : decode cX1_sheet 146 = .ok (.goto 5, 3) := dk_167 0 5 (dk_at dksX1_sheet_6 5 rfl rfl)
theorem dX1_sheet_149 : decode cX1_sheet 149 = .ok (.iload 5, 2) := dk_21 5 (dk_at dksX1_sheet_6 8 rfl rfl)
theorem dX1_sheet_151 : decode cX1_sheet 151 = .ok (.ireturn, 1) := dk_172 (dk_at dksX1_sheet_6 10 rfl rfl)
