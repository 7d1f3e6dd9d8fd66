set_option maxRecDepth 100000
def dkwX3_init_10 : List UInt8 := [188, 10, 181, 0, 100, 42, 5, 188, 4, 181, 0, 103, 42, 5, 188, 10, 181, 0, 107, 177]
abbrev dktX3_init_10 : List UInt8 := dkwX3_init_10 ++ []
def dkwX3_init_9 : List UInt8 := [7, 188, 10, 181, 0, 91, 42, 7, 188, 10, 181, 0, 94, 42, 16, 44, 188, 10, 181, 0, 97, 42, 16, 88]
abbrev dktX3_init_9 : List UInt8 := dkwX3_init_9 ++ dktX3_init_10
def dkwX3_init_8 : List UInt8 := [17, 6, 0, 188, 10, 181, 0, 82, 42, 16, 10, 188, 10, 181, 0, 85, 42, 8, 188, 10, 181, 0, 88, 42]
abbrev dktX3_init_8 : List UInt8 := dkwX3_init_8 ++ dktX3_init_9
def dkwX3_init_7 : List UInt8 := [188, 10, 181, 0, 73, 42, 16, 49, 188, 10, 181, 0, 76, 42, 17, 6, 0, 188, 10, 181, 0, 79, 42]
abbrev dktX3_init_7 : List UInt8 := dkwX3_init_7 ++ dktX3_init_8
def dkwX3_init_6 : List UInt8 := [188, 10, 181, 0, 64, 42, 16, 13, 188, 10, 181, 0, 67, 42, 16, 6, 188, 10, 181, 0, 70, 42, 16, 6]
abbrev dktX3_init_6 : List UInt8 := dkwX3_init_6 ++ dktX3_init_7
def dkwX3_init_5 : List UInt8 := [181, 0, 55, 42, 17, 2, 16, 188, 10, 181, 0, 58, 42, 16, 44, 188, 10, 181, 0, 61, 42, 17, 0, 240]
abbrev dktX3_init_5 : List UInt8 := dkwX3_init_5 ++ dktX3_init_6
def dkwX3_init_4 : List UInt8 := [181, 0, 46, 42, 16, 40, 188, 8, 181, 0, 49, 42, 16, 7, 188, 10, 181, 0, 52, 42, 8, 188, 10]
abbrev dktX3_init_4 : List UInt8 := dkwX3_init_4 ++ dktX3_init_5
def dkwX3_init_3 : List UInt8 := [181, 0, 37, 42, 16, 10, 188, 10, 181, 0, 40, 42, 16, 40, 188, 10, 181, 0, 43, 42, 16, 40, 188, 8]
abbrev dktX3_init_3 : List UInt8 := dkwX3_init_3 ++ dktX3_init_4
def dkwX3_init_2 : List UInt8 := [181, 0, 27, 42, 16, 80, 188, 8, 181, 0, 30, 42, 16, 20, 188, 11, 181, 0, 33, 42, 16, 60, 188, 8]
abbrev dktX3_init_2 : List UInt8 := dkwX3_init_2 ++ dktX3_init_3
def dkwX3_init_1 : List UInt8 := [181, 0, 17, 42, 16, 10, 188, 10, 181, 0, 21, 42, 16, 20, 188, 10, 181, 0, 24, 42, 16, 32, 188, 10]
abbrev dktX3_init_1 : List UInt8 := dkwX3_init_1 ++ dktX3_init_2
def dkwX3_init_0 : List UInt8 := [42, 183, 0, 3, 42, 16, 44, 188, 10, 181, 0, 9, 42, 4, 181, 0, 13, 42, 16, 60, 188, 8]
abbrev dktX3_init_0 : List UInt8 := dkwX3_init_0 ++ dktX3_init_1
theorem dksX3_init_0 : cX3_init.data.toList.drop 0 = dktX3_init_0 := by decide +kernel
theorem dksX3_init_1 : cX3_init.data.toList.drop 22 = dktX3_init_1 := dk_seg dksX3_init_0 22 rfl rfl
theorem dksX3_init_2 : cX3_init.data.toList.drop 46 = dktX3_init_2 := dk_seg dksX3_init_1 24 rfl rfl
theorem dksX3_init_3 : cX3_init.data.toList.drop 70 = dktX3_init_3 := dk_seg dksX3_init_2 24 rfl rfl
theorem dksX3_init_4 : cX3_init.data.toList.drop 94 = dktX3_init_4 := dk_seg dksX3_init_3 24 rfl rfl
theorem dksX3_init_5 : cX3_init.data.toList.drop 117 = dktX3_init_5 := dk_seg dksX3_init_4 23 rfl rfl
theorem dksX3_init_6 : cX3_init.data.toList.drop 141 = dktX3_init_6 := dk_seg dksX3_init_5 24 rfl rfl
theorem dksX3_init_7 : cX3_init.data.toList.drop 165 = dktX3_init_7 := dk_seg dksX3_init_6 24 rfl rfl
theorem dksX3_init_8 : cX3_init.data.toList.drop 188 = dktX3_init_8 := dk_seg dksX3_init_7 23 rfl rfl
theorem dksX3_init_9 : cX3_init.data.toList.drop 212 = dktX3_init_9 := dk_seg dksX3_init_8 24 rfl rfl
theorem dksX3_init_10 : cX3_init.data.toList.drop 236 = dktX3_init_10 := dk_seg dksX3_init_9 24 rfl rfl
theorem dX3_init_0 : decode cX3_init 0 = .ok (.aload_n 0, 1) := dk_42 (dk_at dksX3_init_0 0 rfl rfl)
theorem dX3_init_1 : decode cX3_init 1 = .ok (.invokespecial 3, 3) := dk_183 0 3 (dk_at dksX3_init_0 1 rfl rfl)
theorem dX3_init_4 : decode cX3_init 4 = .ok (.aload_n 0, 1) := dk_42 (dk_at dksX3_init_0 4 rfl rfl)
theorem dX3_init_5 : decode cX3_init 5 = .ok (.bipush 44, 2) := dk_16 44 (dk_at dksX3_init_0 5 rfl rfl)
theorem dX3_init_7 : decode cX3_init 7 = .ok (.newarray .int, 2) := dk_188_10 (dk_at dksX3_init_0 7 rfl rfl)
theorem dX3_init_9 : decode cX3_init 9 = .ok (.putfield 9, 3) := dk_181 0 9 (dk_at dksX3_init_0 9 rfl rfl)
theorem dX3_init_12 : decode cX3_init 12 = .ok (.aload_n 0, 1) := dk_42 (dk_at dksX3_init_0 12 rfl rfl)
theorem dX3_init_13 : decode cX3_init 13 = .ok (.iconst 1, 1) := dk_4 (dk_at dksX3_init_0 13 rfl rfl)
theorem dX3_init_14 : decode cX3_init 14 = .ok (.putfield 13, 3) := dk_181 0 13 (dk_at dksX3_init_0 14 rfl rfl)
theorem dX3_init_17 : decode cX3_init 17 = .ok (.aload_n 0, 1) := dk_42 (dk_at dksX3_init_0 17 rfl rfl)
theorem dX3_init_18 : decode cX3_init 18 = .ok (.bipush 60, 2) := dk_16 60 (dk_at dksX3_init_0 18 rfl rfl)
theorem dX3_init_20 : decode cX3_init 20 = .ok (.newarray .byte, 2) := dk_188_8 (dk_at dksX3_init_0 20 rfl rfl)
theorem dX3_init_22 : decode cX3_init 22 = .ok (.putfield 17, 3) := dk_181 0 17 (dk_at dksX3_init_1 0 rfl rfl)
theorem dX3_init_25 : decode cX3_init 25 = .ok (.aload_n 0, 1) := dk_42 (dk_at dksX3_init_1 3 rfl rfl)
theorem dX3_init_26 : decode cX3_init 26 = .ok (.bipush 10, 2) := dk_16 10 (dk_at dksX3_init_1 4 rfl rfl)
theorem dX3_init_28 : decode cX3_init 28 = .ok (.newarray .int, 2) := dk_188_10 (dk_at dksX3_init_1 6 rfl rfl)
theorem dX3_init_30 : decode cX3_init 30 = .ok (.putfield 21, 3) := dk_181 0 21 (dk_at dksX3_init_1 8 rfl rfl)
theorem dX3_init_33 : decode cX3_init 33 = .ok (.aload_n 0, 1) := dk_42 (dk_at dksX3_init_1 11 rfl rfl)
theorem dX3_init_34 : decode cX3_init 34 = .ok (.bipush 20, 2) := dk_16 20 (dk_at dksX3_init_1 12 rfl rfl)
theorem dX3_init_36 : decode cX3_init 36 = .ok (.newarray .int, 2) := dk_188_10 (dk_at dksX3_init_1 14 rfl rfl)
theorem dX3_init_38 : decode cX3_init 38 = .ok (.putfield 24, 3) := dk_181 0 24 (dk_at dksX3_init_1 16 rfl rfl)
theorem dX3_init_41 : decode cX3_init 41 = .ok (.aload_n 0, 1) := dk_42 (dk_at dksX3_init_1 19 rfl rfl)
theorem dX3_init_42 : decode cX3_init 42 = .ok (.bipush 32, 2) := dk_16 32 (dk_at dksX3_init_1 20 rfl rfl)
theorem dX3_init_44 : decode cX3_init 44 = .ok (.newarray .int, 2) := dk_188_10 (dk_at dksX3_init_1 22 rfl rfl)
theorem dX3_init_46 : decode cX3_init 46 = .ok (.putfield 27, 3) := dk_181 0 27 (dk_at dksX3_init_2 0 rfl rfl)
theorem dX3_init_49 : decode cX3_init 49 = .ok (.aload_n 0, 1) := dk_42 (dk_at dksX3_init_2 3 rfl rfl)
theorem dX3_init_50 : decode cX3_init 50 = .ok (.bipush 80, 2) := dk_16 80 (dk_at dksX3_init_2 4 rfl rfl)
theorem dX3_init_52 : decode cX3_init 52 = .ok (.newarray .byte, 2) := dk_188_8 (dk_at dksX3_init_2 6 rfl rfl)
theorem dX3_init_54 : decode cX3_init 54 = .ok (.putfield 30, 3) := dk_181 0 30 (dk_at dksX3_init_2 8 rfl rfl)
theorem dX3_init_57 : decode cX3_init 57 = .ok (.aload_n 0, 1) := dk_42 (dk_at dksX3_init_2 11 rfl rfl)
theorem dX3_init_58 : decode cX3_init 58 = .ok (.bipush 20, 2) := dk_16 20 (dk_at dksX3_init_2 12 rfl rfl)
theorem dX3_init_60 : decode cX3_init 60 = .ok (.newarray .long, 2) := dk_188_11 (dk_at dksX3_init_2 14 rfl rfl)
theorem dX3_init_62 : decode cX3_init 62 = .ok (.putfield 33, 3) := dk_181 0 33 (dk_at dksX3_init_2 16 rfl rfl)
theorem dX3_init_65 : decode cX3_init 65 = .ok (.aload_n 0, 1) := dk_42 (dk_at dksX3_init_2 19 rfl rfl)
theorem dX3_init_66 : decode cX3_init 66 = .ok (.bipush 60, 2) := dk_16 60 (dk_at dksX3_init_2 20 rfl rfl)
theorem dX3_init_68 : decode cX3_init 68 = .ok (.newarray .byte, 2) := dk_188_8 (dk_at dksX3_init_2 22 rfl rfl)
theorem dX3_init_70 : decode cX3_init 70 = .ok (.putfield 37, 3) := dk_181 0 37 (dk_at dksX3_init_3 0 rfl rfl)
theorem dX3_init_73 : decode cX3_init 73 = .ok (.aload_n 0, 1) := dk_42 (dk_at dksX3_init_3 3 rfl rfl)
theorem dX3_init_74 : decode cX3_init 74 = .ok (.bipush 10, 2) := dk_16 10 (dk_at dksX3_init_3 4 rfl rfl)
theorem dX3_init_76 : decode cX3_init 76 = .ok (.newarray .int, 2) := dk_188_10 (dk_at dksX3_init_3 6 rfl rfl)
theorem dX3_init_78 : decode cX3_init 78 = .ok (.putfield 40, 3) := dk_181 0 40 (dk_at dksX3_init_3 8 rfl rfl)
theorem dX3_init_81 : decode cX3_init 81 = .ok (.aload_n 0, 1) := dk_42 (dk_at dksX3_init_3 11 rfl rfl)
theorem dX3_init_82 : decode cX3_init 82 = .ok (.bipush 40, 2) := dk_16 40 (dk_at dksX3_init_3 12 rfl rfl)
theorem dX3_init_84 : decode cX3_init 84 = .ok (.newarray .int, 2) := dk_188_10 (dk_at dksX3_init_3 14 rfl rfl)
theorem dX3_init_86 : decode cX3_init 86 = .ok (.putfield 43, 3) := dk_181 0 43 (dk_at dksX3_init_3 16 rfl rfl)
theorem dX3_init_89 : decode cX3_init 89 = .ok (.aload_n 0, 1) := dk_42 (dk_at dksX3_init_3 19 rfl rfl)
theorem dX3_init_90 : decode cX3_init 90 = .ok (.bipush 40, 2) := dk_16 40 (dk_at dksX3_init_3 20 rfl rfl)
theorem dX3_init_92 : decode cX3_init 92 = .ok (.newarray .byte, 2) := dk_188_8 (dk_at dksX3_init_3 22 rfl rfl)
theorem dX3_init_94 : decode cX3_init 94 = .ok (.putfield 46, 3) := dk_181 0 46 (dk_at dksX3_init_4 0 rfl rfl)
theorem dX3_init_97 : decode cX3_init 97 = .ok (.aload_n 0, 1) := dk_42 (dk_at dksX3_init_4 3 rfl rfl)
theorem dX3_init_98 : decode cX3_init 98 = .ok (.bipush 40, 2) := dk_16 40 (dk_at dksX3_init_4 4 rfl rfl)
theorem dX3_init_100 : decode cX3_init 100 = .ok (.newarray .byte, 2) := dk_188_8 (dk_at dksX3_init_4 6 rfl rfl)
theorem dX3_init_102 : decode cX3_init 102 = .ok (.putfield 49, 3) := dk_181 0 49 (dk_at dksX3_init_4 8 rfl rfl)
theorem dX3_init_105 : decode cX3_init 105 = .ok (.aload_n 0, 1) := dk_42 (dk_at dksX3_init_4 11 rfl rfl)
theorem dX3_init_106 : decode cX3_init 106 = .ok (.bipush 7, 2) := dk_16 7 (dk_at dksX3_init_4 12 rfl rfl)
theorem dX3_init_108 : decode cX3_init 108 = .ok (.newarray .int, 2) := dk_188_10 (dk_at dksX3_init_4 14 rfl rfl)
theorem dX3_init_110 : decode cX3_init 110 = .ok (.putfield 52, 3) := dk_181 0 52 (dk_at dksX3_init_4 16 rfl rfl)
theorem dX3_init_113 : decode cX3_init 113 = .ok (.aload_n 0, 1) := dk_42 (dk_at dksX3_init_4 19 rfl rfl)
theorem dX3_init_114 : decode cX3_init 114 = .ok (.iconst 5, 1) := dk_8 (dk_at dksX3_init_4 20 rfl rfl)
theorem dX3_init_115 : decode cX3_init 115 = .ok (.newarray .int, 2) := dk_188_10 (dk_at dksX3_init_4 21 rfl rfl)
theorem dX3_init_117 : decode cX3_init 117 = .ok (.putfield 55, 3) := dk_181 0 55 (dk_at dksX3_init_5 0 rfl rfl)
theorem dX3_init_120 : decode cX3_init 120 = .ok (.aload_n 0, 1) := dk_42 (dk_at dksX3_init_5 3 rfl rfl)
theorem dX3_init_121 : decode cX3_init 121 = .ok (.sipush 528, 3) := dk_17 2 16 (dk_at dksX3_init_5 4 rfl rfl)
theorem dX3_init_124 : decode cX3_init 124 = .ok (.newarray .int, 2) := dk_188_10 (dk_at dksX3_init_5 7 rfl rfl)
theorem dX3_init_126 : decode cX3_init 126 = .ok (.putfield 58, 3) := dk_181 0 58 (dk_at dksX3_init_5 9 rfl rfl)
theorem dX3_init_129 : decode cX3_init 129 = .ok (.aload_n 0, 1) := dk_42 (dk_at dksX3_init_5 12 rfl rfl)
theorem dX3_init_130 : decode cX3_init 130 = .ok (.bipush 44, 2) := dk_16 44 (dk_at dksX3_init_5 13 rfl rfl)
theorem dX3_init_132 : decode cX3_init 132 = .ok (.newarray .int, 2) := dk_188_10 (dk_at dksX3_init_5 15 rfl rfl)
theorem dX3_init_134 : decode cX3_init 134 = .ok (.putfield 61, 3) := dk_181 0 61 (dk_at dksX3_init_5 17 rfl rfl)
theorem dX3_init_137 : decode cX3_init 137 = .ok (.aload_n 0, 1) := dk_42 (dk_at dksX3_init_5 20 rfl rfl)
theorem dX3_init_138 : decode cX3_init 138 = .ok (.sipush 240, 3) := dk_17 0 240 (dk_at dksX3_init_5 21 rfl rfl)
theorem dX3_init_141 : decode cX3_init 141 = .ok (.newarray .int, 2) := dk_188_10 (dk_at dksX3_init_6 0 rfl rfl)
theorem dX3_init_143 : decode cX3_init 143 = .ok (.putfield 64, 3) := dk_181 0 64 (dk_at dksX3_init_6 2 rfl rfl)
theorem dX3_init_146 : decode cX3_init 146 = .ok (.aload_n 0, 1) := dk_42 (dk_at dksX3_init_6 5 rfl rfl)
theorem dX3_init_147 : decode cX3_init 147 = .ok (.bipush 13, 2) := dk_16 13 (dk_at dksX3_init_6 6 rfl rfl)
theorem dX3_init_149 : decode cX3_init 149 = .ok (.newarray .int, 2) := dk_188_10 (dk_at dksX3_init_6 8 rfl rfl)
theorem dX3_init_151 : decode cX3_init 151 = .ok (.putfield 67, 3) := dk_181 0 67 (dk_at dksX3_init_6 10 rfl rfl)
theorem dX3_init_154 : decode cX3_init 154 = .ok (.aload_n 0, 1) := dk_42 (dk_at dksX3_init_6 13 rfl rfl)
theorem dX3_init_155 : decode cX3_init 155 = .ok (.bipush 6, 2) := dk_16 6 (dk_at dksX3_init_6 14 rfl rfl)
theorem dX3_init_157 : decode cX3_init 157 = .ok (.newarray .int, 2) := dk_188_10 (dk_at dksX3_init_6 16 rfl rfl)
theorem dX3_init_159 : decode cX3_init 159 = .ok (.putfield 70, 3) := dk_181 0 70 (dk_at dksX3_init_6 18 rfl rfl)
theorem dX3_init_162 : decode cX3_init 162 = .ok (.aload_n 0, 1) := dk_42 (dk_at dksX3_init_6 21 rfl rfl)
theorem dX3_init_163 : decode cX3_init 163 = .ok (.bipush 6, 2) := dk_16 6 (dk_at dksX3_init_6 22 rfl rfl)
theorem dX3_init_165 : decode cX3_init 165 = .ok (.newarray .int, 2) := dk_188_10 (dk_at dksX3_init_7 0 rfl rfl)
theorem dX3_init_167 : decode cX3_init 167 = .ok (.putfield 73, 3) := dk_181 0 73 (dk_at dksX3_init_7 2 rfl rfl)
theorem dX3_init_170 : decode cX3_init 170 = .ok (.aload_n 0, 1) := dk_42 (dk_at dksX3_init_7 5 rfl rfl)
theorem dX3_init_171 : decode cX3_init 171 = .ok (.bipush 49, 2) := dk_16 49 (dk_at dksX3_init_7 6 rfl rfl)
theorem dX3_init_173 : decode cX3_init 173 = .ok (.newarray .int, 2) := dk_188_10 (dk_at dksX3_init_7 8 rfl rfl)
theorem dX3_init_175 : decode cX3_init 175 = .ok (.putfield 76, 3) := dk_181 0 76 (dk_at dksX3_init_7 10 rfl rfl)
theorem dX3_init_178 : decode cX3_init 178 = .ok (.aload_n 0, 1) := dk_42 (dk_at dksX3_init_7 13 rfl rfl)
theorem dX3_init_179 : decode cX3_init 179 = .ok (.sipush 1536, 3) := dk_17 6 0 (dk_at dksX3_init_7 14 rfl rfl)
theorem dX3_init_182 : decode cX3_init 182 = .ok (.newarray .int, 2) := dk_188_10 (dk_at dksX3_init_7 17 rfl rfl)
theorem dX3_init_184 : decode cX3_init 184 = .ok (.putfield 79, 3) := dk_181 0 79 (dk_at dksX3_init_7 19 rfl rfl)
theorem dX3_init_187 : decode cX3_init 187 = .ok (.aload_n 0, 1) := dk_42 (dk_at dksX3_init_7 22 rfl rfl)
theorem dX3_init_188 : decode cX3_init 188 = .ok (.sipush 1536, 3) := dk_17 6 0 (dk_at dksX3_init_8 0 rfl rfl)
theorem dX3_init_191 : decode cX3_init 191 = .ok (.newarray .int, 2) := dk_188_10 (dk_at dksX3_init_8 3 rfl rfl)
theorem dX3_init_193 : decode cX3_init 193 = .ok (.putfield 82, 3) := dk_181 0 82 (dk_at dksX3_init_8 5 rfl rfl)
theorem dX3_init_196 : decode cX3_init 196 = .ok (.aload_n 0, 1) := dk_42 (dk_at dksX3_init_8 8 rfl rfl)
theorem dX3_init_197 : decode cX3_init 197 = .ok (.bipush 10, 2) := dk_16 10 (dk_at dksX3_init_8 9 rfl rfl)
theorem dX3_init_199 : decode cX3_init 199 = .ok (.newarray .int, 2) := dk_188_10 (dk_at dksX3_init_8 11 rfl rfl)
theorem dX3_init_201 : decode cX3_init 201 = .ok (.putfield 85, 3) := dk_181 0 85 (dk_at dksX3_init_8 13 rfl rfl)
theorem dX3_init_204 : decode cX3_init 204 = .ok (.aload_n 0, 1) := dk_42 (dk_at dksX3_init_8 16 rfl rfl)
theorem dX3_init_205 : decode cX3_init 205 = .ok (.iconst 5, 1) := dk_8 (dk_at dksX3_init_8 17 rfl rfl)
theorem dX3_init_206 : decode cX3_init 206 = .ok (.newarray .int, 2) := dk_188_10 (dk_at dksX3_init_8 18 rfl rfl)
theorem dX3_init_208 : decode cX3_init 208 = .ok (.putfield 88, 3) := dk_181 0 88 (dk_at dksX3_init_8 20 rfl rfl)
theorem dX3_init_211 : decode cX3_init 211 = .ok (.aload_n 0, 1) := dk_42 (dk_at dksX3_init_8 23 rfl rfl)
theorem dX3_init_212 : decode cX3_init 212 = .ok (.iconst 4, 1) := dk_7 (dk_at dksX3_init_9 0 rfl rfl)
theorem dX3_init_213 : decode cX3_init 213 = .ok (.newarray .int, 2) := dk_188_10 (dk_at dksX3_init_9 1 rfl rfl)
theorem dX3_init_215 : decode cX3_init 215 = .ok (.putfield 91, 3) := dk_181 0 91 (dk_at dksX3_init_9 3 rfl rfl)
theorem dX3_init_218 : decode cX3_init 218 = .ok (.aload_n 0, 1) := dk_42 (dk_at dksX3_init_9 6 rfl rfl)
theorem dX3_init_219 : decode cX3_init 219 = .ok (.iconst 4, 1) := dk_7 (dk_at dksX3_init_9 7 rfl rfl)
theorem dX3_init_220 : decode cX3_init 220 = .ok (.newarray .int, 2) := dk_188_10 (dk_at dksX3_init_9 8 rfl rfl)
theorem dX3_init_222 : decode cX3_init 222 = .ok (.putfield 94, 3) := dk_181 0 94 (dk_at dksX3_init_9 10 rfl rfl)
theorem dX3_init_225 : decode cX3_init 225 = .ok (.aload_n 0, 1) := dk_42 (dk_at dksX3_init_9 13 rfl rfl)
theorem dX3_init_226 : decode cX3_init 226 = .ok (.bipush 44, 2) := dk_16 44 (dk_at dksX3_init_9 14 rfl rfl)
theorem dX3_init_228 : decode cX3_init 228 = .ok (.newarray .int, 2) := dk_188_10 (dk_at dksX3_init_9 16 rfl rfl)
theorem dX3_init_230 : decode cX3_init 230 = .ok (.putfield 97, 3) := dk_181 0 97 (dk_at dksX3_init_9 18 rfl rfl)
theorem dX3_init_233 : decode cX3_init 233 = .ok (.aload_n 0, 1) := dk_42 (dk_at dksX3_init_9 21 rfl rfl)
theorem dX3_init_234 : decode cX3_init 234 = .ok (.bipush 88, 2) := dk_16 88 (dk_at dksX3_init_9 22 rfl rfl)
theorem dX3_init_236 : decode cX3_init 236 = .ok (.newarray .int, 2) := dk_188_10 (dk_at dksX3_init_10 0 rfl rfl)
theorem dX3_init_238 : decode cX3_init 238 = .ok (.putfield 100, 3) := dk_181 0 100 (dk_at dksX3_init_10 2 rfl rfl)
theorem dX3_init_241 : decode cX3_init 241 = .ok (.aload_n 0, 1) := dk_42 (dk_at dksX3_init_10 5 rfl rfl)
theorem dX3_init_242 : decode cX3_init 242 = .ok (.iconst 2, 1) := dk_5 (dk_at dksX3_init_10 6 rfl rfl)
theorem dX3_init_243 : decode cX3_init 243 = .ok (.newarray .boolean, 2) := dk_188_4 (dk_at dksX3_init_10 7 rfl rfl)
theorem dX3_init_245 : decode cX3_init 245 = .ok (.putfield 103, 3) := dk_181 0 103 (dk_at dksX3_init_10 9 rfl rfl)
theorem dX3_init_248 : decode cX3_init 248 = .ok (.aload_n 0, 1) := dk_42 (dk_at dksX3_init_10 12 rfl rfl)
theorem dX3_init_249 : decode cX3_init 249 = .ok (.iconst 2, 1) := dk_5 (dk_at dksX3_init_10 13 rfl rfl)
theorem dX3_init_250 : decode cX3_init 250 = .ok (.newarray .int, 2) := dk_188_10 (dk_at dksX3_init_10 14 rfl rfl)
theorem dX3_init_252 : decode cX3_init 252 = .ok (.putfield 107, 3) := dk_181 0 107 (dk_at dksX3_init_10 16 rfl rfl)
theorem dX3_init_255 : decode cX3_init 255 = .ok (.return_, 1) := dk_177 (dk_at dksX3_init_10 19 rfl rfl)
theorem dX3_thrown_0 : decode cX3_thrown 0 = .ok (.aload_n 0, 1) := by decide +kernel
theorem dX3_thrown_1 : decode cX3_thrown 1 = .ok (.getfield 110, 3) := by decide +kernel
theorem dX3_thrown_4 : decode cX3_thrown 4 = .ok (.ireturn, 1) := by decide +kernel
def dkwX3_sign_2 : List UInt8 := [132, 2, 255, 167, 255, 226, 42, 180, 0, 126, 172]
abbrev dktX3_sign_2 : List UInt8 := dkwX3_sign_2 ++ []
def dkwX3_sign_1 : List UInt8 := [42, 180, 0, 30, 42, 89, 180, 0, 126, 90, 4, 96, 181, 0, 126, 27, 16, 8, 28, 104, 122, 145, 84]
abbrev dktX3_sign_1 : List UInt8 := dkwX3_sign_1 ++ dktX3_sign_2
def dkwX3_sign_0 : List UInt8 := [42, 3, 181, 0, 110, 42, 180, 0, 126, 7, 96, 16, 80, 164, 0, 5, 2, 172, 6, 61, 28, 155, 0, 32]
abbrev dktX3_sign_0 : List UInt8 := dkwX3_sign_0 ++ dktX3_sign_1
theorem dksX3_sign_0 : cX3_sign.data.toList.drop 0 = dktX3_sign_0 := by decide +kernel
theorem dksX3_sign_1 : cX3_sign.data.toList.drop 24 = dktX3_sign_1 := dk_seg dksX3_sign_0 24 rfl rfl
theorem dksX3_sign_2 : cX3_sign.data.toList.drop 47 = dktX3_sign_2 := dk_seg dksX3_sign_1 23 rfl rfl
theorem dX3_sign_0 : decode cX3_sign 0 = .ok (.aload_n 0, 1) := dk_42 (dk_at dksX3_sign_0 0 rfl rfl)
theorem dX3_sign_1 : decode cX3_sign 1 = .ok (.iconst 0, 1) := dk_3 (dk_at dksX3_sign_0 1 rfl rfl)
theorem dX3_sign_2 : decode cX3_sign 2 = .ok (.putfield 110, 3) := dk_181 0 110 (dk_at dksX3_sign_0 2 rfl rfl)
theorem dX3_sign_5 : decode cX3_sign 5 = .ok (.aload_n 0, 1) := dk_42 (dk_at dksX3_sign_0 5 rfl rfl)
theorem dX3_sign_6 : decode cX3_sign 6 = .ok (.getfield 126, 3) := dk_180 0 126 (dk_at dksX3_sign_0 6 rfl rfl)
theorem dX3_sign_9 : decode cX3_sign 9 = .ok (.iconst 4, 1) := dk_7 (dk_at dksX3_sign_0 9 rfl rfl)
theorem dX3_sign_10 : decode cX3_sign 10 = .ok (.iadd, 1) := dk_96 (dk_at dksX3_sign_0 10 rfl rfl)
theorem dX3_sign_11 : decode cX3_sign 11 = .ok (.bipush 80, 2) := dk_16 80 (dk_at dksX3_sign_0 11 rfl rfl)
theorem dX3_sign_13 : decode cX3_sign 13 = .ok (.if_icmp .le 5, 3) := dk_164 0 5 (dk_at dksX3_sign_0 13 rfl rfl)
theorem dX3_sign_16 : decode cX3_sign 16 = .ok (.iconst (-1), 1) := dk_2 (dk_at dksX3_sign_0 16 rfl rfl)
theorem dX3_sign_17 : decode cX3_sign 17 = .ok (.ireturn, 1) := dk_172 (dk_at dksX3_sign_0 17 rfl rfl)
theorem dX3_sign_18 : decode cX3_sign 18 = .ok (.iconst 3, 1) := dk_6 (dk_at dksX3_sign_0 18 rfl rfl)
theorem dX3_sign_19 : decode cX3_sign 19 = .ok (.istore_n 2, 1) := dk_61 (dk_at dksX3_sign_0 19 rfl rfl)
theorem dX3_sign_20 : decode cX3_sign 20 = .ok (.iload_n 2, 1) := dk_28 (dk_at dksX3_sign_0 20 rfl rfl)
theorem dX3_sign_21 : decode cX3_sign 21 = .ok (.ifCond .lt 32, 3) := dk_155 0 32 (dk_at dksX3_sign_0 21 rfl rfl)
theorem dX3_sign_24 : decode cX3_sign 24 = .ok (.aload_n 0, 1) := dk_42 (dk_at dksX3_sign_1 0 rfl rfl)
theorem dX3_sign_25 : decode cX3_sign 25 = .ok (.getfield 30, 3) := dk_180 0 30 (dk_at dksX3_sign_1 1 rfl rfl)
theorem dX3_sign_28 : decode cX3_sign 28 = .ok (.aload_n 0, 1) := dk_42 (dk_at dksX3_sign_1 4 rfl rfl)
theorem dX3_sign_29 : decode cX3_sign 29 = .ok (.dup, 1) := dk_89 (dk_at dksX3_sign_1 5 rfl rfl)
theorem dX3_sign_30 : decode cX3_sign 30 = .ok (.getfield 126, 3) := dk_180 0 126 (dk_at dksX3_sign_1 6 rfl rfl)
theorem dX3_sign_33 : decode cX3_sign 33 = .ok (.dup_x1, 1) := dk_90 (dk_at dksX3_sign_1 9 rfl rfl)
theorem dX3_sign_34 : decode cX3_sign 34 = .ok (.iconst 1, 1) := dk_4 (dk_at dksX3_sign_1 10 rfl rfl)
theorem dX3_sign_35 : decode cX3_sign 35 = .ok (.iadd, 1) := dk_96 (dk_at dksX3_sign_1 11 rfl rfl)
theorem dX3_sign_36 : decode cX3_sign 36 = .ok (.putfield 126, 3) := dk_181 0 126 (dk_at dksX3_sign_1 12 rfl rfl)
theorem dX3_sign_39 : decode cX3_sign 39 = .ok (.iload_n 1, 1) := dk_27 (dk_at dksX3_sign_1 15 rfl rfl)
theorem dX3_sign_40 : decode cX3_sign 40 = .ok (.bipush 8, 2) := dk_16 8 (dk_at dksX3_sign_1 16 rfl rfl)
theorem dX3_sign_42 : decode cX3_sign 42 = .ok (.iload_n 2, 1) := dk_28 (dk_at dksX3_sign_1 18 rfl rfl)
theorem dX3_sign_43 : decode cX3_sign 43 = .ok (.imul, 1) := dk_104 (dk_at dksX3_sign_1 19 rfl rfl)
theorem dX3_sign_44 : decode cX3_sign 44 = .ok (.ishr, 1) := dk_122 (dk_at dksX3_sign_1 20 rfl rfl)
theorem dX3_sign_45 : decode cX3_sign 45 = .ok (.i2b, 1) := dk_145 (dk_at dksX3_sign_1 21 rfl rfl)
theorem dX3_sign_46 : decode cX3_sign 46 = .ok (.bastore, 1) := dk_84 (dk_at dksX3_sign_1 22 rfl rfl)
theorem dX3_sign_47 : decode cX3_sign 47 = .ok (.iinc 2 (-1), 3) := dk_132 2 255 (dk_at dksX3_sign_2 0 rfl rfl)
theorem dX3_sign_50 : decode cX3_sign 50 = .ok (.goto (-30), 3) := dk_167 255 226 (dk_at dksX3_sign_2 3 rfl rfl)
theorem dX3_sign_53 : decode cX3_sign 53 = .ok (.aload_n 0, 1) := dk_42 (dk_at dksX3_sign_2 6 rfl rfl)
theorem dX3_sign_54 : decode cX3_sign 54 = .ok (.getfield 126, 3) := dk_180 0 126 (dk_at dksX3_sign_2 7 rfl rfl)
theorem dX3_sign_57 : decode cX3_sign 57 = .ok (.ireturn, 1) := dk_172 (dk_at dksX3_sign_2 10 rfl rfl)
def dkwX3_end_1 : List UInt8 := [4, 172]
abbrev dktX3_end_1 : List UInt8 := dkwX3_end_1 ++ []
def dkwX3_end_0 : List UInt8 := [42, 3, 181, 0, 110, 27, 3, 42, 180, 0, 126, 184, 0, 116, 154, 0, 5, 3, 172, 42, 27, 181, 0, 126]
abbrev dktX3_end_0 : List UInt8 := dkwX3_end_0 ++ dktX3_end_1
theorem dksX3_end_0 : cX3_end.data.toList.drop 0 = dktX3_end_0 := by decide +kernel
theorem dksX3_end_1 : cX3_end.data.toList.drop 24 = dktX3_end_1 := dk_seg dksX3_end_0 24 rfl rfl
theorem dX3_end_0 : decode cX3_end 0 = .ok (.aload_n 0, 1) := dk_42 (dk_at dksX3_end_0 0 rfl rfl)
theorem dX3_end_1 : decode cX3_end 1 = .ok (.iconst 0, 1) := dk_3 (dk_at dksX3_end_0 1 rfl rfl)
theorem dX3_end_2 : decode cX3_end 2 = .ok (.putfield 110, 3) := dk_181 0 110 (dk_at dksX3_end_0 2 rfl rfl)
theorem dX3_end_5 : decode cX3_end 5 = .ok (.iload_n 1, 1) := dk_27 (dk_at dksX3_end_0 5 rfl rfl)
theorem dX3_end_6 : decode cX3_end 6 = .ok (.iconst 0, 1) := dk_3 (dk_at dksX3_end_0 6 rfl rfl)
theorem dX3_end_7 : decode cX3_end 7 = .ok (.aload_n 0, 1) := dk_42 (dk_at dksX3_end_0 7 rfl rfl)
theorem dX3_end_8 : decode cX3_end 8 = .ok (.getfield 126, 3) := dk_180 0 126 (dk_at dksX3_end_0 8 rfl rfl)
theorem dX3_end_11 : decode cX3_end 11 = .ok (.invokestatic 116, 3) := dk_184 0 116 (dk_at dksX3_end_0 11 rfl rfl)
theorem dX3_end_14 : decode cX3_end 14 = .ok (.ifCond .ne 5, 3) := dk_154 0 5 (dk_at dksX3_end_0 14 rfl rfl)
theorem dX3_end_17 : decode cX3_end 17 = .ok (.iconst 0, 1) := dk_3 (dk_at dksX3_end_0 17 rfl rfl)
theorem dX3_end_18 : decode cX3_end 18 = .ok (.ireturn, 1) := dk_172 (dk_at dksX3_end_0 18 rfl rfl)
theorem dX3_end_19 : decode cX3_end 19 = .ok (.aload_n 0, 1) := dk_42 (dk_at dksX3_end_0 19 rfl rfl)
theorem dX3_end_20 : decode cX3_end 20 = .ok (.iload_n 1, 1) := dk_27 (dk_at dksX3_end_0 20 rfl rfl)
theorem dX3_end_21 : decode cX3_end 21 = .ok (.putfield 126, 3) := dk_181 0 126 (dk_at dksX3_end_0 21 rfl rfl)
theorem dX3_end_24 : decode cX3_end 24 = .ok (.iconst 1, 1) := dk_4 (dk_at dksX3_end_1 0 rfl rfl)
theorem dX3_end_25 : decode cX3_end 25 = .ok (.ireturn, 1) := dk_172 (dk_at dksX3_end_1 1 rfl rfl)
def dkwX3_in_0 : List UInt8 := [26, 27, 161, 0, 12, 26, 28, 163, 0, 7, 4, 167, 0, 4, 3, 172]
abbrev dktX3_in_0 : List UInt8 := dkwX3_in_0 ++ []
theorem dksX3_in_0 : cX3_in.data.toList.drop 0 = dktX3_in_0 := by decide +kernel
theorem dX3_in_0 : decode cX3_in 0 = .ok (.iload_n 0, 1) := dk_26 (dk_at dksX3_in_0 0 rfl rfl)
theorem dX3_in_1 : decode cX3_in 1 = .ok (.iload_n 1, 1) := dk_27 (dk_at dksX3_in_0 1 rfl rfl)
theorem dX3_in_2 : decode cX3_in 2 = .ok (.if_icmp .lt 12, 3) := dk_161 0 12 (dk_at dksX3_in_0 2 rfl rfl)
theorem dX3_in_5 : decode cX3_in 5 = .ok (.iload_n 0, 1) := dk_26 (dk_at dksX3_in_0 5 rfl rfl)
theorem dX3_in_6 : decode cX3_in 6 = .ok (.iload_n 2, 1) := dk_28 (dk_at dksX3_in_0 6 rfl rfl)
theorem dX3_in_7 : decode cX3_in 7 = .ok (.if_icmp .gt 7, 3) := dk_163 0 7 (dk_at dksX3_in_0 7 rfl rfl)
theorem dX3_in_10 : decode cX3_in 10 = .ok (.iconst 1, 1) := dk_4 (dk_at dksX3_in_0 10 rfl rfl)
theorem dX3_in_11 : decode cX3_in 11 = .ok (.goto 4, 3) := dk_167 0 4 (dk_at dksX3_in_0 11 rfl rfl)
theorem dX3_in_14 : decode cX3_in 14 = .ok (.iconst 0, 1) := dk_3 (dk_at dksX3_in_0 14 rfl rfl)
theorem dX3_in_15 : decode cX3_in 15 = .ok (.ireturn, 1) := dk_172 (dk_at dksX3_in_0 15 rfl rfl)
def dkwX3_road_5 : List UInt8 := [42, 89, 180, 0, 174, 4, 96, 181, 0, 174, 28, 172]
abbrev dktX3_road_5 : List UInt8 := dkwX3_road_5 ++ []
def dkwX3_road_4 : List UInt8 := [162, 0, 19, 42, 180, 0, 9, 16, 14, 29, 96, 3, 79, 132, 3, 1, 167, 255, 237, 42, 3, 181, 0, 171]
abbrev dktX3_road_4 : List UInt8 := dkwX3_road_4 ++ dktX3_road_5
def dkwX3_road_3 : List UInt8 := [132, 2, 1, 167, 255, 229, 42, 180, 0, 13, 61, 42, 27, 181, 0, 13, 8, 27, 104, 62, 29, 16, 30]
abbrev dktX3_road_3 : List UInt8 := dkwX3_road_3 ++ dktX3_road_4
def dkwX3_road_2 : List UInt8 := [42, 180, 0, 168, 162, 0, 25, 42, 180, 0, 27, 7, 28, 104, 5, 96, 46, 27, 161, 0, 5, 2, 172]
abbrev dktX3_road_2 : List UInt8 := dkwX3_road_2 ++ dktX3_road_3
def dkwX3_road_1 : List UInt8 := [162, 0, 21, 42, 180, 0, 9, 28, 46, 27, 161, 0, 5, 2, 172, 132, 2, 1, 167, 255, 233, 3, 61, 28]
abbrev dktX3_road_1 : List UInt8 := dkwX3_road_1 ++ dktX3_road_2
def dkwX3_road_0 : List UInt8 := [42, 3, 181, 0, 110, 27, 4, 16, 6, 184, 0, 116, 154, 0, 5, 2, 172, 3, 61, 28, 42, 180, 0, 123]
abbrev dktX3_road_0 : List UInt8 := dkwX3_road_0 ++ dktX3_road_1
theorem dksX3_road_0 : cX3_road.data.toList.drop 0 = dktX3_road_0 := by decide +kernel
theorem dksX3_road_1 : cX3_road.data.toList.drop 24 = dktX3_road_1 := dk_seg dksX3_road_0 24 rfl rfl
theorem dksX3_road_2 : cX3_road.data.toList.drop 48 = dktX3_road_2 := dk_seg dksX3_road_1 24 rfl rfl
theorem dksX3_road_3 : cX3_road.data.toList.drop 71 = dktX3_road_3 := dk_seg dksX3_road_2 23 rfl rfl
theorem dksX3_road_4 : cX3_road.data.toList.drop 94 = dktX3_road_4 := dk_seg dksX3_road_3 23 rfl rfl
theorem dksX3_road_5 : cX3_road.data.toList.drop 118 = dktX3_road_5 := dk_seg dksX3_road_4 24 rfl rfl
theorem dX3_road_0 : decode cX3_road 0 = .ok (.aload_n 0, 1) := dk_42 (dk_at dksX3_road_0 0 rfl rfl)
theorem dX3_road_1 : decode cX3_road 1 = .ok (.iconst 0, 1) := dk_3 (dk_at dksX3_road_0 1 rfl rfl)
theorem dX3_road_2 : decode cX3_road 2 = .ok (.putfield 110, 3) := dk_181 0 110 (dk_at dksX3_road_0 2 rfl rfl)
theorem dX3_road_5 : decode cX3_road 5 = .ok (.iload_n 1, 1) := dk_27 (dk_at dksX3_road_0 5 rfl rfl)
theorem dX3_road_6 : decode cX3_road 6 = .ok (.iconst 1, 1) := dk_4 (dk_at dksX3_road_0 6 rfl rfl)
theorem dX3_road_7 : decode cX3_road 7 = .ok (.bipush 6, 2) := dk_16 6 (dk_at dksX3_road_0 7 rfl rfl)
theorem dX3_road_9 : decode cX3_road 9 = .ok (.invokestatic 116, 3) := dk_184 0 116 (dk_at dksX3_road_0 9 rfl rfl)
theorem dX3_road_12 : decode cX3_road 12 = .ok (.ifCond .ne 5, 3) := dk_154 0 5 (dk_at dksX3_road_0 12 rfl rfl)
theorem dX3_road_15 : decode cX3_road 15 = .ok (.iconst (-1), 1) := dk_2 (dk_at dksX3_road_0 15 rfl rfl)
theorem dX3_road_16 : decode cX3_road 16 = .ok (.ireturn, 1) := dk_172 (dk_at dksX3_road_0 16 rfl rfl)
theorem dX3_road_17 : decode cX3_road 17 = .ok (.iconst 0, 1) := dk_3 (dk_at dksX3_road_0 17 rfl rfl)
theorem dX3_road_18 : decode cX3_road 18 = .ok (.istore_n 2, 1) := dk_61 (dk_at dksX3_road_0 18 rfl rfl)
theorem dX3_road_19 : decode cX3_road 19 = .ok (.iload_n 2, 1) := dk_28 (dk_at dksX3_road_0 19 rfl rfl)
theorem dX3_road_20 : decode cX3_road 20 = .ok (.aload_n 0, 1) := dk_42 (dk_at dksX3_road_0 20 rfl rfl)
theorem dX3_road_21 : decode cX3_road 21 = .ok (.getfield 123, 3) := dk_180 0 123 (dk_at dksX3_road_0 21 rfl rfl)
theorem dX3_road_24 : decode cX3_road 24 = .ok (.if_icmp .ge 21, 3) := dk_162 0 21 (dk_at dksX3_road_1 0 rfl rfl)
theorem dX3_road_27 : decode cX3_road 27 = .ok (.aload_n 0, 1) := dk_42 (dk_at dksX3_road_1 3 rfl rfl)
theorem dX3_road_28 : decode cX3_road 28 = .ok (.getfield 9, 3) := dk_180 0 9 (dk_at dksX3_road_1 4 rfl rfl)
theorem dX3_road_31 : decode cX3_road 31 = .ok (.iload_n 2, 1) := dk_28 (dk_at dksX3_road_1 7 rfl rfl)
theorem dX3_road_32 : decode cX3_road 32 = .ok (.iaload, 1) := dk_46 (dk_at dksX3_road_1 8 rfl rfl)
theorem dX3_road_33 : decode cX3_road 33 = .ok (.iload_n 1, 1) := dk_27 (dk_at dksX3_road_1 9 rfl rfl)
theorem dX3_road_34 : decode cX3_road 34 = .ok (.if_icmp .lt 5, 3) := dk_161 0 5 (dk_at dksX3_road_1 10 rfl rfl)
theorem dX3_road_37 : decode cX3_road 37 = .ok (.iconst (-1), 1) := dk_2 (dk_at dksX3_road_1 13 rfl rfl)
theorem dX3_road_38 : decode cX3_road 38 = .ok (.ireturn, 1) := dk_172 (dk_at dksX3_road_1 14 rfl rfl)
theorem dX3_road_39 : decode cX3_road 39 = .ok (.iinc 2 1, 3) := dk_132 2 1 (dk_at dksX3_road_1 15 rfl rfl)
theorem dX3_road_42 : decode cX3_road 42 = .ok (.goto (-23), 3) := dk_167 255 233 (dk_at dksX3_road_1 18 rfl rfl)
theorem dX3_road_45 : decode cX3_road 45 = .ok (.iconst 0, 1) := dk_3 (dk_at dksX3_road_1 21 rfl rfl)
theorem dX3_road_46 : decode cX3_road 46 = .ok (.istore_n 2, 1) := dk_61 (dk_at dksX3_road_1 22 rfl rfl)
theorem dX3_road_47 : decode cX3_road 47 = .ok (.iload_n 2, 1) := dk_28 (dk_at dksX3_road_1 23 rfl rfl)
theorem dX3_road_48 : decode cX3_road 48 = .ok (.aload_n 0, 1) := dk_42 (dk_at dksX3_road_2 0 rfl rfl)
theorem dX3_road_49 : decode cX3_road 49 = .ok (.getfield 168, 3) := dk_180 0 168 (dk_at dksX3_road_2 1 rfl rfl)
theorem dX3_road_52 : decode cX3_road 52 = .ok (.if_icmp .ge 25, 3) := dk_162 0 25 (dk_at dksX3_road_2 4 rfl rfl)
theorem dX3_road_55 : decode cX3_road 55 = .ok (.aload_n 0, 1) := dk_42 (dk_at dksX3_road_2 7 rfl rfl)
theorem dX3_road_56 : decode cX3_road 56 = .ok (.getfield 27, 3) := dk_180 0 27 (dk_at dksX3_road_2 8 rfl rfl)
theorem dX3_road_59 : decode cX3_road 59 = .ok (.iconst 4, 1) := dk_7 (dk_at dksX3_road_2 11 rfl rfl)
theorem dX3_road_60 : decode cX3_road 60 = .ok (.iload_n 2, 1) := dk_28 (dk_at dksX3_road_2 12 rfl rfl)
theorem dX3_road_61 : decode cX3_road 61 = .ok (.imul, 1) := dk_104 (dk_at dksX3_road_2 13 rfl rfl)
theorem dX3_road_62 : decode cX3_road 62 = .ok (.iconst 2, 1) := dk_5 (dk_at dksX3_road_2 14 rfl rfl)
theorem dX3_road_63 : decode cX3_road 63 = .ok (.iadd, 1) := dk_96 (dk_at dksX3_road_2 15 rfl rfl)
theorem dX3_road_64 : decode cX3_road 64 = .ok (.iaload, 1) := dk_46 (dk_at dksX3_road_2 16 rfl rfl)
theorem dX3_road_65 : decode cX3_road 65 = .ok (.iload_n 1, 1) := dk_27 (dk_at dksX3_road_2 17 rfl rfl)
theorem dX3_road_66 : decode cX3_road 66 = .ok (.if_icmp .lt 5, 3) := dk_161 0 5 (dk_at dksX3_road_2 18 rfl rfl)
theorem dX3_road_69 : decode cX3_road 69 = .ok (.iconst (-1), 1) := dk_2 (dk_at dksX3_road_2 21 rfl rfl)
theorem dX3_road_70 : decode cX3_road 70 = .ok (.ireturn, 1) := dk_172 (dk_at dksX3_road_2 22 rfl rfl)
theorem dX3_road_71 : decode cX3_road 71 = .ok (.iinc 2 1, 3) := dk_132 2 1 (dk_at dksX3_road_3 0 rfl rfl)
theorem dX3_road_74 : decode cX3_road 74 = .ok (.goto (-27), 3) := dk_167 255 229 (dk_at dksX3_road_3 3 rfl rfl)
theorem dX3_road_77 : decode cX3_road 77 = .ok (.aload_n 0, 1) := dk_42 (dk_at dksX3_road_3 6 rfl rfl)
theorem dX3_road_78 : decode cX3_road 78 = .ok (.getfield 13, 3) := dk_180 0 13 (dk_at dksX3_road_3 7 rfl rfl)
theorem dX3_road_81 : decode cX3_road 81 = .ok (.istore_n 2, 1) := dk_61 (dk_at dksX3_road_3 10 rfl rfl)
theorem dX3_road_82 : decode cX3_road 82 = .ok (.aload_n 0, 1) := dk_42 (dk_at dksX3_road_3 11 rfl rfl)
theorem dX3_road_83 : decode cX3_road 83 = .ok (.iload_n 1, 1) := dk_27 (dk_at dksX3_road_3 12 rfl rfl)
theorem dX3_road_84 : decode cX3_road 84 = .ok (.putfield 13, 3) := dk_181 0 13 (dk_at dksX3_road_3 13 rfl rfl)
theorem dX3_road_87 : decode cX3_road 87 = .ok (.iconst 5, 1) := dk_8 (dk_at dksX3_road_3 16 rfl rfl)
theorem dX3_road_88 : decode cX3_road 88 = .ok (.iload_n 1, 1) := dk_27 (dk_at dksX3_road_3 17 rfl rfl)
theorem dX3_road_89 : decode cX3_road 89 = .ok (.imul, 1) := dk_104 (dk_at dksX3_road_3 18 rfl rfl)
theorem dX3_road_90 : decode cX3_road 90 = .ok (.istore_n 3, 1) := dk_62 (dk_at dksX3_road_3 19 rfl rfl)
theorem dX3_road_91 : decode cX3_road 91 = .ok (.iload_n 3, 1) := dk_29 (dk_at dksX3_road_3 20 rfl rfl)
theorem dX3_road_92 : decode cX3_road 92 = .ok (.bipush 30, 2) := dk_16 30 (dk_at dksX3_road_3 21 rfl rfl)
theorem dX3_road_94 : decode cX3_road 94 = .ok (.if_icmp .ge 19, 3) := dk_162 0 19 (dk_at dksX3_road_4 0 rfl rfl)
theorem dX3_road_97 : decode cX3_road 97 = .ok (.aload_n 0, 1) := dk_42 (dk_at dksX3_road_4 3 rfl rfl)
theorem dX3_road_98 : decode cX3_road 98 = .ok (.getfield 9, 3) := dk_180 0 9 (dk_at dksX3_road_4 4 rfl rfl)
theorem dX3_road_101 : decode cX3_road 101 = .ok (.bipush 14, 2) := dk_16 14 (dk_at dksX3_road_4 7 rfl rfl)
theorem dX3_road_103 : decode cX3_road 103 = .ok (.iload_n 3, 1) := dk_29 (dk_at dksX3_road_4 9 rfl rfl)
theorem dX3_road_104 : decode cX3_road 104 = .ok (.iadd, 1) := dk_96 (dk_at dksX3_road_4 10 rfl rfl)
theorem dX3_road_105 : decode cX3_road 105 = .ok (.iconst 0, 1) := dk_3 (dk_at dksX3_road_4 11 rfl rfl)
theorem dX3_road_106 : decode cX3_road 106 = .ok (.iastore, 1) := dk_79 (dk_at dksX3_road_4 12 rfl rfl)
theorem dX3_road_107 : decode cX3_road 107 = .ok (.iinc 3 1, 3) := dk_132 3 1 (dk_at dksX3_road_4 13 rfl rfl)
theorem dX3_road_110 : decode cX3_road 110 = .ok (.goto (-19), 3) := dk_167 255 237 (dk_at dksX3_road_4 16 rfl rfl)
theorem dX3_road_113 : decode cX3_road 113 = .ok (.aload_n 0, 1) := dk_42 (dk_at dksX3_road_4 19 rfl rfl)
theorem dX3_road_114 : decode cX3_road 114 = .ok (.iconst 0, 1) := dk_3 (dk_at dksX3_road_4 20 rfl rfl)
theorem dX3_road_115 : decode cX3_road 115 = .ok (.putfield 171, 3) := dk_181 0 171 (dk_at dksX3_road_4 21 rfl rfl)
theorem dX3_road_118 : decode cX3_road 118 = .ok (.aload_n 0, 1) := dk_42 (dk_at dksX3_road_5 0 rfl rfl)
theorem dX3_road_119 : decode cX3_road 119 = .ok (.dup, 1) := dk_89 (dk_at dksX3_road_5 1 rfl rfl)
theorem dX3_road_120 : decode cX3_road 120 = .ok (.getfield 174, 3) := dk_180 0 174 (dk_at dksX3_road_5 2 rfl rfl)
theorem dX3_road_123 : decode cX3_road 123 = .ok (.iconst 1, 1) := dk_4 (dk_at dksX3_road_5 5 rfl rfl)
theorem dX3_road_124 : decode cX3_road 124 = .ok (.iadd, 1) := dk_96 (dk_at dksX3_road_5 6 rfl rfl)
theorem dX3_road_125 : decode cX3_road 125 = .ok (.putfield 174, 3) := dk_181 0 174 (dk_at dksX3_road_5 7 rfl rfl)
theorem dX3_road_128 : decode cX3_road 128 = .ok (.iload_n 2, 1) := dk_28 (dk_at dksX3_road_5 10 rfl rfl)
theorem dX3_road_129 : decode cX3_road 129 = .ok (.ireturn, 1) := dk_172 (dk_at dksX3_road_5 11 rfl rfl)
def dkwX3_words_9 : List UInt8 := [181, 0, 171, 42, 89, 180, 0, 174, 4, 96, 181, 0, 174, 27, 172]
abbrev dktX3_words_9 : List UInt8 := dkwX3_words_9 ++ []
def dkwX3_words_8 : List UInt8 := [4, 96, 46, 79, 42, 89, 180, 0, 120, 4, 96, 181, 0, 120, 132, 3, 1, 167, 255, 138, 42, 3]
abbrev dktX3_words_8 : List UInt8 := dkwX3_words_8 ++ dktX3_words_9
def dkwX3_words_7 : List UInt8 := [5, 29, 104, 46, 79, 42, 180, 0, 24, 5, 42, 180, 0, 120, 104, 4, 96, 42, 180, 0, 43, 5, 29, 104]
abbrev dktX3_words_7 : List UInt8 := dkwX3_words_7 ++ dktX3_words_8
def dkwX3_words_6 : List UInt8 := [180, 0, 120, 42, 180, 0, 40, 29, 46, 79, 42, 180, 0, 24, 5, 42, 180, 0, 120, 104, 42, 180, 0, 43]
abbrev dktX3_words_6 : List UInt8 := dkwX3_words_6 ++ dktX3_words_7
def dkwX3_words_5 : List UInt8 := [42, 180, 0, 37, 16, 6, 29, 104, 21, 4, 96, 51, 84, 132, 4, 1, 167, 255, 219, 42, 180, 0, 21, 42]
abbrev dktX3_words_5 : List UInt8 := dkwX3_words_5 ++ dktX3_words_6
def dkwX3_words_4 : List UInt8 := [3, 54, 4, 21, 4, 16, 6, 162, 0, 36, 42, 180, 0, 17, 16, 6, 42, 180, 0, 120, 104, 21, 4, 96]
abbrev dktX3_words_4 : List UInt8 := dkwX3_words_4 ++ dktX3_words_5
def dkwX3_words_3 : List UInt8 := [167, 255, 208, 42, 182, 0, 183, 154, 0, 10, 2, 42, 180, 0, 141, 100, 172, 3, 62, 29, 27, 162, 0, 119]
abbrev dktX3_words_3 : List UInt8 := dkwX3_words_3 ++ dktX3_words_4
def dkwX3_words_2 : List UInt8 := [180, 0, 138, 182, 0, 160, 167, 0, 8, 42, 27, 182, 0, 180, 132, 1, 1, 42, 16, 59, 182, 0, 156, 61]
abbrev dktX3_words_2 : List UInt8 := dkwX3_words_2 ++ dktX3_words_3
def dkwX3_words_1 : List UInt8 := [28, 153, 0, 50, 42, 182, 0, 148, 153, 0, 43, 42, 180, 0, 120, 27, 96, 16, 10, 160, 0, 14, 42, 42]
abbrev dktX3_words_1 : List UInt8 := dkwX3_words_1 ++ dktX3_words_2
def dkwX3_words_0 : List UInt8 := [42, 3, 181, 0, 110, 42, 16, 76, 182, 0, 177, 42, 180, 0, 132, 154, 0, 5, 3, 172, 3, 60, 4, 61]
abbrev dktX3_words_0 : List UInt8 := dkwX3_words_0 ++ dktX3_words_1
theorem dksX3_words_0 : cX3_words.data.toList.drop 0 = dktX3_words_0 := by decide +kernel
theorem dksX3_words_1 : cX3_words.data.toList.drop 24 = dktX3_words_1 := dk_seg dksX3_words_0 24 rfl rfl
theorem dksX3_words_2 : cX3_words.data.toList.drop 48 = dktX3_words_2 := dk_seg dksX3_words_1 24 rfl rfl
theorem dksX3_words_3 : cX3_words.data.toList.drop 72 = dktX3_words_3 := dk_seg dksX3_words_2 24 rfl rfl
theorem dksX3_words_4 : cX3_words.data.toList.drop 96 = dktX3_words_4 := dk_seg dksX3_words_3 24 rfl rfl
theorem dksX3_words_5 : cX3_words.data.toList.drop 120 = dktX3_words_5 := dk_seg dksX3_words_4 24 rfl rfl
theorem dksX3_words_6 : cX3_words.data.toList.drop 144 = dktX3_words_6 := dk_seg dksX3_words_5 24 rfl rfl
theorem dksX3_words_7 : cX3_words.data.toList.drop 168 = dktX3_words_7 := dk_seg dksX3_words_6 24 rfl rfl
theorem dksX3_words_8 : cX3_words.data.toList.drop 192 = dktX3_words_8 := dk_seg dksX3_words_7 24 rfl rfl
theorem dksX3_words_9 : cX3_words.data.toList.drop 214 = dktX3_words_9 := dk_seg dksX3_words_8 22 rfl rfl
theorem dX3_words_0 : decode cX3_words 0 = .ok (.aload_n 0, 1) := dk_42 (dk_at dksX3_words_0 0 rfl rfl)
theorem dX3_words_1 : decode cX3_words 1 = .ok (.iconst 0, 1) := dk_3 (dk_at dksX3_words_0 1 rfl rfl)
theorem dX3_words_2 : decode cX3_words 2 = .ok (.putfield 110, 3) := dk_181 0 110 (dk_at dksX3_words_0 2 rfl rfl)
theorem dX3_words_5 : decode cX3_words 5 = .ok (.aload_n 0, 1) := dk_42 (dk_at dksX3_words_0 5 rfl rfl)
theorem dX3_words_6 : decode cX3_words 6 = .ok (.bipush 76, 2) := dk_16 76 (dk_at dksX3_words_0 6 rfl rfl)
theorem dX3_words_8 : decode cX3_words 8 = .ok (.invokevirtual 177, 3) := dk_182 0 177 (dk_at dksX3_words_0 8 rfl rfl)
theorem dX3_words_11 : decode cX3_words 11 = .ok (.aload_n 0, 1) := dk_42 (dk_at dksX3_words_0 11 rfl rfl)
theorem dX3_words_12 : decode cX3_words 12 = .ok (.getfield 132, 3) := dk_180 0 132 (dk_at dksX3_words_0 12 rfl rfl)
theorem dX3_words_15 : decode cX3_words 15 = .ok (.ifCond .ne 5, 3) := dk_154 0 5 (dk_at dksX3_words_0 15 rfl rfl)
theorem dX3_words_18 : decode cX3_words 18 = .ok (.iconst 0, 1) := dk_3 (dk_at dksX3_words_0 18 rfl rfl)
theorem dX3_words_19 : decode cX3_words 19 = .ok (.ireturn, 1) := dk_172 (dk_at dksX3_words_0 19 rfl rfl)
theorem dX3_words_20 : decode cX3_words 20 = .ok (.iconst 0, 1) := dk_3 (dk_at dksX3_words_0 20 rfl rfl)
theorem dX3_words_21 : decode cX3_words 21 = .ok (.istore_n 1, 1) := dk_60 (dk_at dksX3_words_0 21 rfl rfl)
theorem dX3_words_22 : decode cX3_words 22 = .ok (.iconst 1, 1) := dk_4 (dk_at dksX3_words_0 22 rfl rfl)
theorem dX3_words_23 : decode cX3_words 23 = .ok (.istore_n 2, 1) := dk_61 (dk_at dksX3_words_0 23 rfl rfl)
theorem dX3_words_24 : decode cX3_words 24 = .ok (.iload_n 2, 1) := dk_28 (dk_at dksX3_words_1 0 rfl rfl)
theorem dX3_words_25 : decode cX3_words 25 = .ok (.ifCond .eq 50, 3) := dk_153 0 50 (dk_at dksX3_words_1 1 rfl rfl)
theorem dX3_words_28 : decode cX3_words 28 = .ok (.aload_n 0, 1) := dk_42 (dk_at dksX3_words_1 4 rfl rfl)
theorem dX3_words_29 : decode cX3_words 29 = .ok (.invokevirtual 148, 3) := dk_182 0 148 (dk_at dksX3_words_1 5 rfl rfl)
theorem dX3_words_32 : decode cX3_words 32 = .ok (.ifCond .eq 43, 3) := dk_153 0 43 (dk_at dksX3_words_1 8 rfl rfl)
theorem dX3_words_35 : decode cX3_words 35 = .ok (.aload_n 0, 1) := dk_42 (dk_at dksX3_words_1 11 rfl rfl)
theorem dX3_words_36 : decode cX3_words 36 = .ok (.getfield 120, 3) := dk_180 0 120 (dk_at dksX3_words_1 12 rfl rfl)
theorem dX3_words_39 : decode cX3_words 39 = .ok (.iload_n 1, 1) := dk_27 (dk_at dksX3_words_1 15 rfl rfl)
theorem dX3_words_40 : decode cX3_words 40 = .ok (.iadd, 1) := dk_96 (dk_at dksX3_words_1 16 rfl rfl)
theorem dX3_words_41 : decode cX3_words 41 = .ok (.bipush 10, 2) := dk_16 10 (dk_at dksX3_words_1 17 rfl rfl)
theorem dX3_words_43 : decode cX3_words 43 = .ok (.if_icmp .ne 14, 3) := dk_160 0 14 (dk_at dksX3_words_1 19 rfl rfl)
theorem dX3_words_46 : decode cX3_words 46 = .ok (.aload_n 0, 1) := dk_42 (dk_at dksX3_words_1 22 rfl rfl)
theorem dX3_words_47 : decode cX3_words 47 = .ok (.aload_n 0, 1) := dk_42 (dk_at dksX3_words_1 23 rfl rfl)
theorem dX3_words_48 : decode cX3_words 48 = .ok (.getfield 138, 3) := dk_180 0 138 (dk_at dksX3_words_2 0 rfl rfl)
theorem dX3_words_51 : decode cX3_words 51 = .ok (.invokevirtual 160, 3) := dk_182 0 160 (dk_at dksX3_words_2 3 rfl rfl)
theorem dX3_words_54 : decode cX3_words 54 = .ok (.goto 8, 3) := dk_167 0 8 (dk_at dksX3_words_2 6 rfl rfl)
theorem dX3_words_57 : decode cX3_words 57 = .ok (.aload_n 0, 1) := dk_42 (dk_at dksX3_words_2 9 rfl rfl)
theorem dX3_words_58 : decode cX3_words 58 = .ok (.iload_n 1, 1) := dk_27 (dk_at dksX3_words_2 10 rfl rfl)
theorem dX3_words_59 : decode cX3_words 59 = .ok (.invokevirtual 180, 3) := dk_182 0 180 (dk_at dksX3_words_2 11 rfl rfl)
theorem dX3_words_62 : decode cX3_words 62 = .ok (.iinc 1 1, 3) := dk_132 1 1 (dk_at dksX3_words_2 14 rfl rfl)
theorem dX3_words_65 : decode cX3_words 65 = .ok (.aload_n 0, 1) := dk_42 (dk_at dksX3_words_2 17 rfl rfl)
theorem dX3_words_66 : decode cX3_words 66 = .ok (.bipush 59, 2) := dk_16 59 (dk_at dksX3_words_2 18 rfl rfl)
theorem dX3_words_68 : decode cX3_words 68 = .ok (.invokevirtual 156, 3) := dk_182 0 156 (dk_at dksX3_words_2 20 rfl rfl)
theorem dX3_words_71 : decode cX3_words 71 = .ok (.istore_n 2, 1) := dk_61 (dk_at dksX3_words_2 23 rfl rfl)
theorem dX3_words_72 : decode cX3_words 72 = .ok (.goto (-48), 3) := dk_167 255 208 (dk_at dksX3_words_3 0 rfl rfl)
theorem dX3_words_75 : decode cX3_words 75 = .ok (.aload_n 0, 1) := dk_42 (dk_at dksX3_words_3 3 rfl rfl)
theorem dX3_words_76 : decode cX3_words 76 = .ok (.invokevirtual 183, 3) := dk_182 0 183 (dk_at dksX3_words_3 4 rfl rfl)
theorem dX3_words_79 : decode cX3_words 79 = .ok (.ifCond .ne 10, 3) := dk_154 0 10 (dk_at dksX3_words_3 7 rfl rfl)
theorem dX3_words_82 : decode cX3_words 82 = .ok (.iconst (-1), 1) := dk_2 (dk_at dksX3_words_3 10 rfl rfl)
theorem dX3_words_83 : decode cX3_words 83 = .ok (.aload_n 0, 1) := dk_42 (dk_at dksX3_words_3 11 rfl rfl)
theorem dX3_words_84 : decode cX3_words 84 = .ok (.getfield 141, 3) := dk_180 0 141 (dk_at dksX3_words_3 12 rfl rfl)
theorem dX3_words_87 : decode cX3_words 87 = .ok (.isub, 1) := dk_100 (dk_at dksX3_words_3 15 rfl rfl)
theorem dX3_words_88 : decode cX3_words 88 = .ok (.ireturn, 1) := dk_172 (dk_at dksX3_words_3 16 rfl rfl)
theorem dX3_words_89 : decode cX3_words 89 = .ok (.iconst 0, 1) := dk_3 (dk_at dksX3_words_3 17 rfl rfl)
theorem dX3_words_90 : decode cX3_words 90 = .ok (.istore_n 3, 1) := dk_62 (dk_at dksX3_words_3 18 rfl rfl)
theorem dX3_words_91 : decode cX3_words 91 = .ok (.iload_n 3, 1) := dk_29 (dk_at dksX3_words_3 19 rfl rfl)
theorem dX3_words_92 : decode cX3_words 92 = .ok (.iload_n 1, 1) := dk_27 (dk_at dksX3_words_3 20 rfl rfl)
theorem dX3_words_93 : decode cX3_words 93 = .ok (.if_icmp .ge 119, 3) := dk_162 0 119 (dk_at dksX3_words_3 21 rfl rfl)
theorem dX3_words_96 : decode cX3_words 96 = .ok (.iconst 0, 1) := dk_3 (dk_at dksX3_words_4 0 rfl rfl)
theorem dX3_words_97 : decode cX3_words 97 = .ok (.istore 4, 2) := dk_54 4 (dk_at dksX3_words_4 1 rfl rfl)
theorem dX3_words_99 : decode cX3_words 99 = .ok (.iload 4, 2) := dk_21 4 (dk_at dksX3_words_4 3 rfl rfl)
theorem dX3_words_101 : decode cX3_words 101 = .ok (.bipush 6, 2) := dk_16 6 (dk_at dksX3_words_4 5 rfl rfl)
theorem dX3_words_103 : decode cX3_words 103 = .ok (.if_icmp .ge 36, 3) := dk_162 0 36 (dk_at dksX3_words_4 7 rfl rfl)
theorem dX3_words_106 : decode cX3_words 106 = .ok (.aload_n 0, 1) := dk_42 (dk_at dksX3_words_4 10 rfl rfl)
theorem dX3_words_107 : decode cX3_words 107 = .ok (.getfield 17, 3) := dk_180 0 17 (dk_at dksX3_words_4 11 rfl rfl)
theorem dX3_words_110 : decode cX3_words 110 = .ok (.bipush 6, 2) := dk_16 6 (dk_at dksX3_words_4 14 rfl rfl)
theorem dX3_words_112 : decode cX3_words 112 = .ok (.aload_n 0, 1) := dk_42 (dk_at dksX3_words_4 16 rfl rfl)
theorem dX3_words_113 : decode cX3_words 113 = .ok (.getfield 120, 3) := dk_180 0 120 (dk_at dksX3_words_4 17 rfl rfl)
theorem dX3_words_116 : decode cX3_words 116 = .ok (.imul, 1) := dk_104 (dk_at dksX3_words_4 20 rfl rfl)
theorem dX3_words_117 : decode cX3_words 117 = .ok (.iload 4, 2) := dk_21 4 (dk_at dksX3_words_4 21 rfl rfl)
theorem dX3_words_119 : decode cX3_words 119 = .ok (.iadd, 1) := dk_96 (dk_at dksX3_words_4 23 rfl rfl)
theorem dX3_words_120 : decode cX3_words 120 = .ok (.aload_n 0, 1) := dk_42 (dk_at dksX3_words_5 0 rfl rfl)
theorem dX3_words_121 : decode cX3_words 121 = .ok (.getfield 37, 3) := dk_180 0 37 (dk_at dksX3_words_5 1 rfl rfl)
theorem dX3_words_124 : decode cX3_words 124 = .ok (.bipush 6, 2) := dk_16 6 (dk_at dksX3_words_5 4 rfl rfl)
theorem dX3_words_126 : decode cX3_words 126 = .ok (.iload_n 3, 1) := dk_29 (dk_at dksX3_words_5 6 rfl rfl)
theorem dX3_words_127 : decode cX3_words 127 = .ok (.imul, 1) := dk_104 (dk_at dksX3_words_5 7 rfl rfl)
theorem dX3_words_128 : decode cX3_words 128 = .ok (.iload 4, 2) := dk_21 4 (dk_at dksX3_words_5 8 rfl rfl)
theorem dX3_words_130 : decode cX3_words 130 = .ok (.iadd, 1) := dk_96 (dk_at dksX3_words_5 10 rfl rfl)
theorem dX3_words_131 : decode cX3_words 131 = .ok (.baload, 1) := dk_51 (dk_at dksX3_words_5 11 rfl rfl)
theorem dX3_words_132 : decode cX3_words 132 = .ok (.bastore, 1) := dk_84 (dk_at dksX3_words_5 12 rfl rfl)
theorem dX3_words_133 : decode cX3_words 133 = .ok (.iinc 4 1, 3) := dk_132 4 1 (dk_at dksX3_words_5 13 rfl rfl)
theorem dX3_words_136 : decode cX3_words 136 = .ok (.goto (-37), 3) := dk_167 255 219 (dk_at dksX3_words_5 16 rfl rfl)
theorem dX3_words_139 : decode cX3_words 139 = .ok (.aload_n 0, 1) := dk_42 (dk_at dksX3_words_5 19 rfl rfl)
theorem dX3_words_140 : decode cX3_words 140 = .ok (.getfield 21, 3) := dk_180 0 21 (dk_at dksX3_words_5 20 rfl rfl)
theorem dX3_words_143 : decode cX3_words 143 = .ok (.aload_n 0, 1) := dk_42 (dk_at dksX3_words_5 23 rfl rfl)
theorem dX3_words_144 : decode cX3_words 144 = .ok (.getfield 120, 3) := dk_180 0 120 (dk_at dksX3_words_6 0 rfl rfl)
theorem dX3_words_147 : decode cX3_words 147 = .ok (.aload_n 0, 1) := dk_42 (dk_at dksX3_words_6 3 rfl rfl)
theorem dX3_words_148 : decode cX3_words 148 = .ok (.getfield 40, 3) := dk_180 0 40 (dk_at dksX3_words_6 4 rfl rfl)
theorem dX3_words_151 : decode cX3_words 151 = .ok (.iload_n 3, 1) := dk_29 (dk_at dksX3_words_6 7 rfl rfl)
theorem dX3_words_152 : decode cX3_words 152 = .ok (.iaload, 1) := dk_46 (dk_at dksX3_words_6 8 rfl rfl)
theorem dX3_words_153 : decode cX3_words 153 = .ok (.iastore, 1) := dk_79 (dk_at dksX3_words_6 9 rfl rfl)
theorem dX3_words_154 : decode cX3_words 154 = .ok (.aload_n 0, 1) := dk_42 (dk_at dksX3_words_6 10 rfl rfl)
theorem dX3_words_155 : decode cX3_words 155 = .ok (.getfield 24, 3) := dk_180 0 24 (dk_at dksX3_words_6 11 rfl rfl)
theorem dX3_words_158 : decode cX3_words 158 = .ok (.iconst 2, 1) := dk_5 (dk_at dksX3_words_6 14 rfl rfl)
theorem dX3_words_159 : decode cX3_words 159 = .ok (.aload_n 0, 1) := dk_42 (dk_at dksX3_words_6 15 rfl rfl)
theorem dX3_words_160 : decode cX3_words 160 = .ok (.getfield 120, 3) := dk_180 0 120 (dk_at dksX3_words_6 16 rfl rfl)
theorem dX3_words_163 : decode cX3_words 163 = .ok (.imul, 1) := dk_104 (dk_at dksX3_words_6 19 rfl rfl)
theorem dX3_words_164 : decode cX3_words 164 = .ok (.aload_n 0, 1) := dk_42 (dk_at dksX3_words_6 20 rfl rfl)
theorem dX3_words_165 : decode cX3_words 165 = .ok (.getfield 43, 3) := dk_180 0 43 (dk_at dksX3_words_6 21 rfl rfl)
theorem dX3_words_168 : decode cX3_words 168 = .ok (.iconst 2, 1) := dk_5 (dk_at dksX3_words_7 0 rfl rfl)
theorem dX3_words_169 : decode cX3_words 169 = .ok (.iload_n 3, 1) := dk_29 (dk_at dksX3_words_7 1 rfl rfl)
theorem dX3_words_170 : decode cX3_words 170 = .ok (.imul, 1) := dk_104 (dk_at dksX3_words_7 2 rfl rfl)
theorem dX3_words_171 : decode cX3_words 171 = .ok (.iaload, 1) := dk_46 (dk_at dksX3_words_7 3 rfl rfl)
theorem dX3_words_172 : decode cX3_words 172 = .ok (.iastore, 1) := dk_79 (dk_at dksX3_words_7 4 rfl rfl)
theorem dX3_words_173 : decode cX3_words 173 = .ok (.aload_n 0, 1) := dk_42 (dk_at dksX3_words_7 5 rfl rfl)
theorem dX3_words_174 : decode cX3_words 174 = .ok (.getfield 24, 3) := dk_180 0 24 (dk_at dksX3_words_7 6 rfl rfl)
theorem dX3_words_177 : decode cX3_words 177 = .ok (.iconst 2, 1) := dk_5 (dk_at dksX3_words_7 9 rfl rfl)
theorem dX3_words_178 : decode cX3_words 178 = .ok (.aload_n 0, 1) := dk_42 (dk_at dksX3_words_7 10 rfl rfl)
theorem dX3_words_179 : decode cX3_words 179 = .ok (.getfield 120, 3) := dk_180 0 120 (dk_at dksX3_words_7 11 rfl rfl)
theorem dX3_words_182 : decode cX3_words 182 = .ok (.imul, 1) := dk_104 (dk_at dksX3_words_7 14 rfl rfl)
theorem dX3_words_183 : decode cX3_words 183 = .ok (.iconst 1, 1) := dk_4 (dk_at dksX3_words_7 15 rfl rfl)
theorem dX3_words_184 : decode cX3_words 184 = .ok (.iadd, 1) := dk_96 (dk_at dksX3_words_7 16 rfl rfl)
theorem dX3_words_185 : decode cX3_words 185 = .ok (.aload_n 0, 1) := dk_42 (dk_at dksX3_words_7 17 rfl rfl)
theorem dX3_words_186 : decode cX3_words 186 = .ok (.getfield 43, 3) := dk_180 0 43 (dk_at dksX3_words_7 18 rfl rfl)
theorem dX3_words_189 : decode cX3_words 189 = .ok (.iconst 2, 1) := dk_5 (dk_at dksX3_words_7 21 rfl rfl)
theorem dX3_words_190 : decode cX3_words 190 = .ok (.iload_n 3, 1) := dk_29 (dk_at dksX3_words_7 22 rfl rfl)
theorem dX3_words_191 : decode cX3_words 191 = .ok (.imul, 1) := dk_104 (dk_at dksX3_words_7 23 rfl rfl)
theorem dX3_words_192 : decode cX3_words 192 = .ok (.iconst 1, 1) := dk_4 (dk_at dksX3_words_8 0 rfl rfl)
theorem dX3_words_193 : decode cX3_words 193 = .ok (.iadd, 1) := dk_96 (dk_at dksX3_words_8 1 rfl rfl)
theorem dX3_words_194 : decode cX3_words 194 = .ok (.iaload, 1) := dk_46 (dk_at dksX3_words_8 2 rfl rfl)
theorem dX3_words_195 : decode cX3_words 195 = .ok (.iastore, 1) := dk_79 (dk_at dksX3_words_8 3 rfl rfl)
theorem dX3_words_196 : decode cX3_words 196 = .ok (.aload_n 0, 1) := dk_42 (dk_at dksX3_words_8 4 rfl rfl)
theorem dX3_words_197 : decode cX3_words 197 = .ok (.dup, 1) := dk_89 (dk_at dksX3_words_8 5 rfl rfl)
theorem dX3_words_198 : decode cX3_words 198 = .ok (.getfield 120, 3) := dk_180 0 120 (dk_at dksX3_words_8 6 rfl rfl)
theorem dX3_words_201 : decode cX3_words 201 = .ok (.iconst 1, 1) := dk_4 (dk_at dksX3_words_8 9 rfl rfl)
theorem dX3_words_202 : decode cX3_words 202 = .ok (.iadd, 1) := dk_96 (dk_at dksX3_words_8 10 rfl rfl)
theorem dX3_words_203 : decode cX3_words 203 = .ok (.putfield 120, 3) := dk_181 0 120 (dk_at dksX3_words_8 11 rfl rfl)
theorem dX3_words_206 : decode cX3_words 206 = .ok (.iinc 3 1, 3) := dk_132 3 1 (dk_at dksX3_words_8 14 rfl rfl)
theorem dX3_words_209 : decode cX3_words 209 = .ok (.goto (-118), 3) := dk_167 255 138 (dk_at dksX3_words_8 17 rfl rfl)
theorem dX3_words_212 : decode cX3_words 212 = .ok (.aload_n 0, 1) := dk_42 (dk_at dksX3_words_8 20 rfl rfl)
theorem dX3_words_213 : decode cX3_words 213 = .ok (.iconst 0, 1) := dk_3 (dk_at dksX3_words_8 21 rfl rfl)
theorem dX3_words_214 : decode cX3_words 214 = .ok (.putfield 171, 3) := dk_181 0 171 (dk_at dksX3_words_9 0 rfl rfl)
theorem dX3_words_217 : decode cX3_words 217 = .ok (.aload_n 0, 1) := dk_42 (dk_at dksX3_words_9 3 rfl rfl)
theorem dX3_words_218 : decode cX3_words 218 = .ok (.dup, 1) := dk_89 (dk_at dksX3_words_9 4 rfl rfl)
theorem dX3_words_219 : decode cX3_words 219 = .ok (.getfield 174, 3) := dk_180 0 174 (dk_at dksX3_words_9 5 rfl rfl)
theorem dX3_words_222 : decode cX3_words 222 = .ok (.iconst 1, 1) := dk_4 (dk_at dksX3_words_9 8 rfl rfl)
theorem dX3_words_223 : decode cX3_words 223 = .ok (.iadd, 1) := dk_96 (dk_at dksX3_words_9 9 rfl rfl)
theorem dX3_words_224 : decode cX3_words 224 = .ok (.putfield 174, 3) := dk_181 0 174 (dk_at dksX3_words_9 10 rfl rfl)
theorem dX3_words_227 : decode cX3_words 227 = .ok (.iload_n 1, 1) := dk_27 (dk_at dksX3_words_9 13 rfl rfl)
theorem dX3_words_228 : decode cX3_words 228 = .ok (.ireturn, 1) := dk_172 (dk_at dksX3_words_9 14 rfl rfl)
def dkwX3_beginText_0 : List UInt8 := [42, 42, 180, 0, 30, 42, 180, 0, 126, 27, 182, 0, 144, 42, 3, 181, 0, 126, 177]
abbrev dktX3_beginText_0 : List UInt8 := dkwX3_beginText_0 ++ []
theorem dksX3_beginText_0 : cX3_beginText.data.toList.drop 0 = dktX3_beginText_0 := by decide +kernel
theorem dX3_beginText_0 : decode cX3_beginText 0 = .ok (.aload_n 0, 1) := dk_42 (dk_at dksX3_beginText_0 0 rfl rfl)
theorem dX3_beginText_1 : decode cX3_beginText 1 = .ok (.aload_n 0, 1) := dk_42 (dk_at dksX3_beginText_0 1 rfl rfl)
theorem dX3_beginText_2 : decode cX3_beginText 2 = .ok (.getfield 30, 3) := dk_180 0 30 (dk_at dksX3_beginText_0 2 rfl rfl)
theorem dX3_beginText_5 : decode cX3_beginText 5 = .ok (.aload_n 0, 1) := dk_42 (dk_at dksX3_beginText_0 5 rfl rfl)
theorem dX3_beginText_6 : decode cX3_beginText 6 = .ok (.getfield 126, 3) := dk_180 0 126 (dk_at dksX3_beginText_0 6 rfl rfl)
theorem dX3_beginText_9 : decode cX3_beginText 9 = .ok (.iload_n 1, 1) := dk_27 (dk_at dksX3_beginText_0 9 rfl rfl)
theorem dX3_beginText_10 : decode cX3_beginText 10 = .ok (.invokevirtual 144, 3) := dk_182 0 144 (dk_at dksX3_beginText_0 10 rfl rfl)
theorem dX3_beginText_13 : decode cX3_beginText 13 = .ok (.aload_n 0, 1) := dk_42 (dk_at dksX3_beginText_0 13 rfl rfl)
theorem dX3_beginText_14 : decode cX3_beginText 14 = .ok (.iconst 0, 1) := dk_3 (dk_at dksX3_beginText_0 14 rfl rfl)
theorem dX3_beginText_15 : decode cX3_beginText 15 = .ok (.putfield 126, 3) := dk_181 0 126 (dk_at dksX3_beginText_0 15 rfl rfl)
theorem dX3_beginText_18 : decode cX3_beginText 18 = .ok (.return_, 1) := dk_177 (dk_at dksX3_beginText_0 18 rfl rfl)
def dkwX3_begin_1 : List UInt8 := [181, 0, 141, 177]
abbrev dktX3_begin_1 : List UInt8 := dkwX3_begin_1 ++ []
def dkwX3_begin_0 : List UInt8 := [42, 43, 181, 0, 129, 42, 28, 181, 0, 132, 42, 29, 181, 0, 135, 42, 3, 181, 0, 138, 42, 2]
abbrev dktX3_begin_0 : List UInt8 := dkwX3_begin_0 ++ dktX3_begin_1
theorem dksX3_begin_0 : cX3_begin.data.toList.drop 0 = dktX3_begin_0 := by decide +kernel
theorem dksX3_begin_1 : cX3_begin.data.toList.drop 22 = dktX3_begin_1 := dk_seg dksX3_begin_0 22 rfl rfl
theorem dX3_begin_0 : decode cX3_begin 0 = .ok (.aload_n 0, 1) := dk_42 (dk_at dksX3_begin_0 0 rfl rfl)
theorem dX3_begin_1 : decode cX3_begin 1 = .ok (.aload_n 1, 1) := dk_43 (dk_at dksX3_begin_0 1 rfl rfl)
theorem dX3_begin_2 : decode cX3_begin 2 = .ok (.putfield 129, 3) := dk_181 0 129 (dk_at dksX3_begin_0 2 rfl rfl)
theorem dX3_begin_5 : decode cX3_begin 5 = .ok (.aload_n 0, 1) := dk_42 (dk_at dksX3_begin_0 5 rfl rfl)
theorem dX3_begin_6 : decode cX3_begin 6 = .ok (.iload_n 2, 1) := dk_28 (dk_at dksX3_begin_0 6 rfl rfl)
theorem dX3_begin_7 : decode cX3_begin 7 = .ok (.putfield 132, 3) := dk_181 0 132 (dk_at dksX3_begin_0 7 rfl rfl)
theorem dX3_begin_10 : decode cX3_begin 10 = .ok (.aload_n 0, 1) := dk_42 (dk_at dksX3_begin_0 10 rfl rfl)
theorem dX3_begin_11 : decode cX3_begin 11 = .ok (.iload_n 3, 1) := dk_29 (dk_at dksX3_begin_0 11 rfl rfl)
theorem dX3_begin_12 : decode cX3_begin 12 = .ok (.putfield 135, 3) := dk_181 0 135 (dk_at dksX3_begin_0 12 rfl rfl)
theorem dX3_begin_15 : decode cX3_begin 15 = .ok (.aload_n 0, 1) := dk_42 (dk_at dksX3_begin_0 15 rfl rfl)
theorem dX3_begin_16 : decode cX3_begin 16 = .ok (.iconst 0, 1) := dk_3 (dk_at dksX3_begin_0 16 rfl rfl)
theorem dX3_begin_17 : decode cX3_begin 17 = .ok (.putfield 138, 3) := dk_181 0 138 (dk_at dksX3_begin_0 17 rfl rfl)
theorem dX3_begin_20 : decode cX3_begin 20 = .ok (.aload_n 0, 1) := dk_42 (dk_at dksX3_begin_0 20 rfl rfl)
theorem dX3_begin_21 : decode cX3_begin 21 = .ok (.iconst (-1), 1) := dk_2 (dk_at dksX3_begin_0 21 rfl rfl)
theorem dX3_begin_22 : decode cX3_begin 22 = .ok (.putfield 141, 3) := dk_181 0 141 (dk_at dksX3_begin_1 0 rfl rfl)
theorem dX3_begin_25 : decode cX3_begin 25 = .ok (.return_, 1) := dk_177 (dk_at dksX3_begin_1 3 rfl rfl)
def dkwX3_fine_0 : List UInt8 := [42, 180, 0, 141, 2, 160, 0, 7, 4, 167, 0, 4, 3, 172]
abbrev dktX3_fine_0 : List UInt8 := dkwX3_fine_0 ++ []
theorem dksX3_fine_0 : cX3_fine.data.toList.drop 0 = dktX3_fine_0 := by decide +kernel
theorem dX3_fine_0 : decode cX3_fine 0 = .ok (.aload_n 0, 1) := dk_42 (dk_at dksX3_fine_0 0 rfl rfl)
theorem dX3_fine_1 : decode cX3_fine 1 = .ok (.getfield 141, 3) := dk_180 0 141 (dk_at dksX3_fine_0 1 rfl rfl)
theorem dX3_fine_4 : decode cX3_fine 4 = .ok (.iconst (-1), 1) := dk_2 (dk_at dksX3_fine_0 4 rfl rfl)
theorem dX3_fine_5 : decode cX3_fine 5 = .ok (.if_icmp .ne 7, 3) := dk_160 0 7 (dk_at dksX3_fine_0 5 rfl rfl)
theorem dX3_fine_8 : decode cX3_fine 8 = .ok (.iconst 1, 1) := dk_4 (dk_at dksX3_fine_0 8 rfl rfl)
theorem dX3_fine_9 : decode cX3_fine 9 = .ok (.goto 4, 3) := dk_167 0 4 (dk_at dksX3_fine_0 9 rfl rfl)
theorem dX3_fine_12 : decode cX3_fine 12 = .ok (.iconst 0, 1) := dk_3 (dk_at dksX3_fine_0 12 rfl rfl)
theorem dX3_fine_13 : decode cX3_fine 13 = .ok (.ireturn, 1) := dk_172 (dk_at dksX3_fine_0 13 rfl rfl)
def dkwX3_fault_0 : List UInt8 := [42, 182, 0, 148, 153, 0, 8, 42, 27, 181, 0, 141, 177]
abbrev dktX3_fault_0 : List UInt8 := dkwX3_fault_0 ++ []
theorem dksX3_fault_0 : cX3_fault.data.toList.drop 0 = dktX3_fault_0 := by decide +kernel
theorem dX3_fault_0 : decode cX3_fault 0 = .ok (.aload_n 0, 1) := dk_42 (dk_at dksX3_fault_0 0 rfl rfl)
theorem dX3_fault_1 : decode cX3_fault 1 = .ok (.invokevirtual 148, 3) := dk_182 0 148 (dk_at dksX3_fault_0 1 rfl rfl)
theorem dX3_fault_4 : decode cX3_fault 4 = .ok (.ifCond .eq 8, 3) := dk_153 0 8 (dk_at dksX3_fault_0 4 rfl rfl)
theorem dX3_fault_7 : decode cX3_fault 7 = .ok (.aload_n 0, 1) := dk_42 (dk_at dksX3_fault_0 7 rfl rfl)
theorem dX3_fault_8 : decode cX3_fault 8 = .ok (.iload_n 1, 1) := dk_27 (dk_at dksX3_fault_0 8 rfl rfl)
theorem dX3_fault_9 : decode cX3_fault 9 = .ok (.putfield 141, 3) := dk_181 0 141 (dk_at dksX3_fault_0 9 rfl rfl)
theorem dX3_fault_12 : decode cX3_fault 12 = .ok (.return_, 1) := dk_177 (dk_at dksX3_fault_0 12 rfl rfl)
def dkwX3_readWord_6 : List UInt8 := [182, 0, 164, 145, 84, 42, 180, 0, 40, 27, 92, 46, 4, 96, 79, 167, 255, 169, 177]
abbrev dktX3_readWord_6 : List UInt8 := dkwX3_readWord_6 ++ []
def dkwX3_readWord_5 : List UInt8 := [167, 255, 207, 42, 180, 0, 37, 16, 6, 27, 104, 42, 180, 0, 40, 27, 46, 96, 42, 16, 97, 16, 26]
abbrev dktX3_readWord_5 : List UInt8 := dkwX3_readWord_5 ++ dktX3_readWord_6
def dkwX3_readWord_4 : List UInt8 := [153, 0, 63, 42, 180, 0, 40, 27, 46, 16, 6, 160, 0, 14, 42, 42, 180, 0, 138, 182, 0, 160]
abbrev dktX3_readWord_4 : List UInt8 := dkwX3_readWord_4 ++ dktX3_readWord_5
def dkwX3_readWord_3 : List UInt8 := [153, 0, 86, 42, 180, 0, 40, 27, 46, 153, 0, 17, 42, 182, 0, 152, 16, 97, 16, 122, 184, 0, 116]
abbrev dktX3_readWord_3 : List UInt8 := dkwX3_readWord_3 ++ dktX3_readWord_4
def dkwX3_readWord_2 : List UInt8 := [16, 48, 16, 10, 182, 0, 164, 167, 0, 4, 2, 79, 42, 180, 0, 40, 27, 3, 79, 42, 182, 0, 148]
abbrev dktX3_readWord_2 : List UInt8 := dkwX3_readWord_2 ++ dktX3_readWord_3
def dkwX3_readWord_1 : List UInt8 := [96, 42, 182, 0, 148, 153, 0, 28, 42, 182, 0, 152, 16, 48, 16, 57, 184, 0, 116, 153, 0, 14, 42]
abbrev dktX3_readWord_1 : List UInt8 := dkwX3_readWord_1 ++ dktX3_readWord_2
def dkwX3_readWord_0 : List UInt8 := [42, 180, 0, 43, 5, 27, 104, 42, 16, 48, 16, 10, 182, 0, 164, 79, 42, 180, 0, 43, 5, 27, 104, 4]
abbrev dktX3_readWord_0 : List UInt8 := dkwX3_readWord_0 ++ dktX3_readWord_1
theorem dksX3_readWord_0 : cX3_readWord.data.toList.drop 0 = dktX3_readWord_0 := by decide +kernel
theorem dksX3_readWord_1 : cX3_readWord.data.toList.drop 24 = dktX3_readWord_1 := dk_seg dksX3_readWord_0 24 rfl rfl
theorem dksX3_readWord_2 : cX3_readWord.data.toList.drop 47 = dktX3_readWord_2 := dk_seg dksX3_readWord_1 23 rfl rfl
theorem dksX3_readWord_3 : cX3_readWord.data.toList.drop 70 = dktX3_readWord_3 := dk_seg dksX3_readWord_2 23 rfl rfl
theorem dksX3_readWord_4 : cX3_readWord.data.toList.drop 93 = dktX3_readWord_4 := dk_seg dksX3_readWord_3 23 rfl rfl
theorem dksX3_readWord_5 : cX3_readWord.data.toList.drop 115 = dktX3_readWord_5 := dk_seg dksX3_readWord_4 22 rfl rfl
theorem dksX3_readWord_6 : cX3_readWord.data.toList.drop 138 = dktX3_readWord_6 := dk_seg dksX3_readWord_5 23 rfl rfl
theorem dX3_readWord_0 : decode cX3_readWord 0 = .ok (.aload_n 0, 1) := dk_42 (dk_at dksX3_readWord_0 0 rfl rfl)
theorem dX3_readWord_1 : decode cX3_readWord 1 = .ok (.getfield 43, 3) := dk_180 0 43 (dk_at dksX3_readWord_0 1 rfl rfl)
theorem dX3_readWord_4 : decode cX3_readWord 4 = .ok (.iconst 2, 1) := dk_5 (dk_at dksX3_readWord_0 4 rfl rfl)
theorem dX3_readWord_5 : decode cX3_readWord 5 = .ok (.iload_n 1, 1) := dk_27 (dk_at dksX3_readWord_0 5 rfl rfl)
theorem dX3_readWord_6 : decode cX3_readWord 6 = .ok (.imul, 1) := dk_104 (dk_at dksX3_readWord_0 6 rfl rfl)
theorem dX3_readWord_7 : decode cX3_readWord 7 = .ok (.aload_n 0, 1) := dk_42 (dk_at dksX3_readWord_0 7 rfl rfl)
theorem dX3_readWord_8 : decode cX3_readWord 8 = .ok (.bipush 48, 2) := dk_16 48 (dk_at dksX3_readWord_0 8 rfl rfl)
theorem dX3_readWord_10 : decode cX3_readWord 10 = .ok (.bipush 10, 2) := dk_16 10 (dk_at dksX3_readWord_0 10 rfl rfl)
theorem dX3_readWord_12 : decode cX3_readWord 12 = .ok (.invokevirtual 164, 3) := dk_182 0 164 (dk_at dksX3_readWord_0 12 rfl rfl)
theorem dX3_readWord_15 : decode cX3_readWord 15 = .ok (.iastore, 1) := dk_79 (dk_at dksX3_readWord_0 15 rfl rfl)
theorem dX3_readWord_16 : decode cX3_readWord 16 = .ok (.aload_n 0, 1) := dk_42 (dk_at dksX3_readWord_0 16 rfl rfl)
theorem dX3_readWord_17 : decode cX3_readWord 17 = .ok (.getfield 43, 3) := dk_180 0 43 (dk_at dksX3_readWord_0 17 rfl rfl)
theorem dX3_readWord_20 : decode cX3_readWord 20 = .ok (.iconst 2, 1) := dk_5 (dk_at dksX3_readWord_0 20 rfl rfl)
theorem dX3_readWord_21 : decode cX3_readWord 21 = .ok (.iload_n 1, 1) := dk_27 (dk_at dksX3_readWord_0 21 rfl rfl)
theorem dX3_readWord_22 : decode cX3_readWord 22 = .ok (.imul, 1) := dk_104 (dk_at dksX3_readWord_0 22 rfl rfl)
theorem dX3_readWord_23 : decode cX3_readWord 23 = .ok (.iconst 1, 1) := dk_4 (dk_at dksX3_readWord_0 23 rfl rfl)
theorem dX3_readWord_24 : decode cX3_readWord 24 = .ok (.iadd, 1) := dk_96 (dk_at dksX3_readWord_1 0 rfl rfl)
theorem dX3_readWord_25 : decode cX3_readWord 25 = .ok (.aload_n 0, 1) := dk_42 (dk_at dksX3_readWord_1 1 rfl rfl)
theorem dX3_readWord_26 : decode cX3_readWord 26 = .ok (.invokevirtual 148, 3) := dk_182 0 148 (dk_at dksX3_readWord_1 2 rfl rfl)
theorem dX3_readWord_29 : decode cX3_readWord 29 = .ok (.ifCond .eq 28, 3) := dk_153 0 28 (dk_at dksX3_readWord_1 5 rfl rfl)
theorem dX3_readWord_32 : decode cX3_readWord 32 = .ok (.aload_n 0, 1) := dk_42 (dk_at dksX3_readWord_1 8 rfl rfl)
theorem dX3_readWord_33 : decode cX3_readWord 33 = .ok (.invokevirtual 152, 3) := dk_182 0 152 (dk_at dksX3_readWord_1 9 rfl rfl)
theorem dX3_readWord_36 : decode cX3_readWord 36 = .ok (.bipush 48, 2) := dk_16 48 (dk_at dksX3_readWord_1 12 rfl rfl)
theorem dX3_readWord_38 : decode cX3_readWord 38 = .ok (.bipush 57, 2) := dk_16 57 (dk_at dksX3_readWord_1 14 rfl rfl)
theorem dX3_readWord_40 : decode cX3_readWord 40 = .ok (.invokestatic 116, 3) := dk_184 0 116 (dk_at dksX3_readWord_1 16 rfl rfl)
theorem dX3_readWord_43 : decode cX3_readWord 43 = .ok (.ifCond .eq 14, 3) := dk_153 0 14 (dk_at dksX3_readWord_1 19 rfl rfl)
theorem dX3_readWord_46 : decode cX3_readWord 46 = .ok (.aload_n 0, 1) := dk_42 (dk_at dksX3_readWord_1 22 rfl rfl)
theorem dX3_readWord_47 : decode cX3_readWord 47 = .ok (.bipush 48, 2) := dk_16 48 (dk_at dksX3_readWord_2 0 rfl rfl)
theorem dX3_readWord_49 : decode cX3_readWord 49 = .ok (.bipush 10, 2) := dk_16 10 (dk_at dksX3_readWord_2 2 rfl rfl)
theorem dX3_readWord_51 : decode cX3_readWord 51 = .ok (.invokevirtual 164, 3) := dk_182 0 164 (dk_at dksX3_readWord_2 4 rfl rfl)
theorem dX3_readWord_54 : decode cX3_readWord 54 = .ok (.goto 4, 3) := dk_167 0 4 (dk_at dksX3_readWord_2 7 rfl rfl)
theorem dX3_readWord_57 : decode cX3_readWord 57 = .ok (.iconst (-1), 1) := dk_2 (dk_at dksX3_readWord_2 10 rfl rfl)
theorem dX3_readWord_58 : decode cX3_readWord 58 = .ok (.iastore, 1) := dk_79 (dk_at dksX3_readWord_2 11 rfl rfl)
theorem dX3_readWord_59 : decode cX3_readWord 59 = .ok (.aload_n 0, 1) := dk_42 (dk_at dksX3_readWord_2 12 rfl rfl)
theorem dX3_readWord_60 : decode cX3_readWord 60 = .ok (.getfield 40, 3) := dk_180 0 40 (dk_at dksX3_readWord_2 13 rfl rfl)
theorem dX3_readWord_63 : decode cX3_readWord 63 = .ok (.iload_n 1, 1) := dk_27 (dk_at dksX3_readWord_2 16 rfl rfl)
theorem dX3_readWord_64 : decode cX3_readWord 64 = .ok (.iconst 0, 1) := dk_3 (dk_at dksX3_readWord_2 17 rfl rfl)
theorem dX3_readWord_65 : decode cX3_readWord 65 = .ok (.iastore, 1) := dk_79 (dk_at dksX3_readWord_2 18 rfl rfl)
theorem dX3_readWord_66 : decode cX3_readWord 66 = .ok (.aload_n 0, 1) := dk_42 (dk_at dksX3_readWord_2 19 rfl rfl)
theorem dX3_readWord_67 : decode cX3_readWord 67 = .ok (.invokevirtual 148, 3) := dk_182 0 148 (dk_at dksX3_readWord_2 20 rfl rfl)
theorem dX3_readWord_70 : decode cX3_readWord 70 = .ok (.ifCond .eq 86, 3) := dk_153 0 86 (dk_at dksX3_readWord_3 0 rfl rfl)
theorem dX3_readWord_73 : decode cX3_readWord 73 = .ok (.aload_n 0, 1) := dk_42 (dk_at dksX3_readWord_3 3 rfl rfl)
theorem dX3_readWord_74 : decode cX3_readWord 74 = .ok (.getfield 40, 3) := dk_180 0 40 (dk_at dksX3_readWord_3 4 rfl rfl)
theorem dX3_readWord_77 : decode cX3_readWord 77 = .ok (.iload_n 1, 1) := dk_27 (dk_at dksX3_readWord_3 7 rfl rfl)
theorem dX3_readWord_78 : decode cX3_readWord 78 = .ok (.iaload, 1) := dk_46 (dk_at dksX3_readWord_3 8 rfl rfl)
theorem dX3_readWord_79 : decode cX3_readWord 79 = .ok (.ifCond .eq 17, 3) := dk_153 0 17 (dk_at dksX3_readWord_3 9 rfl rfl)
theorem dX3_readWord_82 : decode cX3_readWord 82 = .ok (.aload_n 0, 1) := dk_42 (dk_at dksX3_readWord_3 12 rfl rfl)
theorem dX3_readWord_83 : decode cX3_readWord 83 = .ok (.invokevirtual 152, 3) := dk_182 0 152 (dk_at dksX3_readWord_3 13 rfl rfl)
theorem dX3_readWord_86 : decode cX3_readWord 86 = .ok (.bipush 97, 2) := dk_16 97 (dk_at dksX3_readWord_3 16 rfl rfl)
theorem dX3_readWord_88 : decode cX3_readWord 88 = .ok (.bipush 122, 2) := dk_16 122 (dk_at dksX3_readWord_3 18 rfl rfl)
theorem dX3_readWord_90 : decode cX3_readWord 90 = .ok (.invokestatic 116, 3) := dk_184 0 116 (dk_at dksX3_readWord_3 20 rfl rfl)
theorem dX3_readWord_93 : decode cX3_readWord 93 = .ok (.ifCond .eq 63, 3) := dk_153 0 63 (dk_at dksX3_readWord_4 0 rfl rfl)
theorem dX3_readWord_96 : decode cX3_readWord 96 = .ok (.aload_n 0, 1) := dk_42 (dk_at dksX3_readWord_4 3 rfl rfl)
theorem dX3_readWord_97 : decode cX3_readWord 97 = .ok (.getfield 40, 3) := dk_180 0 40 (dk_at dksX3_readWord_4 4 rfl rfl)
theorem dX3_readWord_100 : decode cX3_readWord 100 = .ok (.iload_n 1, 1) := dk_27 (dk_at dksX3_readWord_4 7 rfl rfl)
theorem dX3_readWord_101 : decode cX3_readWord 101 = .ok (.iaload, 1) := dk_46 (dk_at dksX3_readWord_4 8 rfl rfl)
theorem dX3_readWord_102 : decode cX3_readWord 102 = .ok (.bipush 6, 2) := dk_16 6 (dk_at dksX3_readWord_4 9 rfl rfl)
theorem dX3_readWord_104 : decode cX3_readWord 104 = .ok (.if_icmp .ne 14, 3) := dk_160 0 14 (dk_at dksX3_readWord_4 11 rfl rfl)
theorem dX3_readWord_107 : decode cX3_readWord 107 = .ok (.aload_n 0, 1) := dk_42 (dk_at dksX3_readWord_4 14 rfl rfl)
theorem dX3_readWord_108 : decode cX3_readWord 108 = .ok (.aload_n 0, 1) := dk_42 (dk_at dksX3_readWord_4 15 rfl rfl)
theorem dX3_readWord_109 : decode cX3_readWord 109 = .ok (.getfield 138, 3) := dk_180 0 138 (dk_at dksX3_readWord_4 16 rfl rfl)
theorem dX3_readWord_112 : decode cX3_readWord 112 = .ok (.invokevirtual 160, 3) := dk_182 0 160 (dk_at dksX3_readWord_4 19 rfl rfl)
theorem dX3_readWord_115 : decode cX3_readWord 115 = .ok (.goto (-49), 3) := dk_167 255 207 (dk_at dksX3_readWord_5 0 rfl rfl)
theorem dX3_readWord_118 : decode cX3_readWord 118 = .ok (.aload_n 0, 1) := dk_42 (dk_at dksX3_readWord_5 3 rfl rfl)
theorem dX3_readWord_119 : decode cX3_readWord 119 = .ok (.getfield 37, 3) := dk_180 0 37 (dk_at dksX3_readWord_5 4 rfl rfl)
theorem dX3_readWord_122 : decode cX3_readWord 122 = .ok (.bipush 6, 2) := dk_16 6 (dk_at dksX3_readWord_5 7 rfl rfl)
theorem dX3_readWord_124 : decode cX3_readWord 124 = .ok (.iload_n 1, 1) := dk_27 (dk_at dksX3_readWord_5 9 rfl rfl)
theorem dX3_readWord_125 : decode cX3_readWord 125 = .ok (.imul, 1) := dk_104 (dk_at dksX3_readWord_5 10 rfl rfl)
theorem dX3_readWord_126 : decode cX3_readWord 126 = .ok (.aload_n 0, 1) := dk_42 (dk_at dksX3_readWord_5 11 rfl rfl)
theorem dX3_readWord_127 : decode cX3_readWord 127 = .ok (.getfield 40, 3) := dk_180 0 40 (dk_at dksX3_readWord_5 12 rfl rfl)
theorem dX3_readWord_130 : decode cX3_readWord 130 = .ok (.iload_n 1, 1) := dk_27 (dk_at dksX3_readWord_5 15 rfl rfl)
theorem dX3_readWord_131 : decode cX3_readWord 131 = .ok (.iaload, 1) := dk_46 (dk_at dksX3_readWord_5 16 rfl rfl)
theorem dX3_readWord_132 : decode cX3_readWord 132 = .ok (.iadd, 1) := dk_96 (dk_at dksX3_readWord_5 17 rfl rfl)
theorem dX3_readWord_133 : decode cX3_readWord 133 = .ok (.aload_n 0, 1) := dk_42 (dk_at dksX3_readWord_5 18 rfl rfl)
theorem dX3_readWord_134 : decode cX3_readWord 134 = .ok (.bipush 97, 2) := dk_16 97 (dk_at dksX3_readWord_5 19 rfl rfl)
theorem dX3_readWord_136 : decode cX3_readWord 136 = .ok (.bipush 26, 2) := dk_16 26 (dk_at dksX3_readWord_5 21 rfl rfl)
theorem dX3_readWord_138 : decode cX3_readWord 138 = .ok (.invokevirtual 164, 3) := dk_182 0 164 (dk_at dksX3_readWord_6 0 rfl rfl)
theorem dX3_readWord_141 : decode cX3_readWord 141 = .ok (.i2b, 1) := dk_145 (dk_at dksX3_readWord_6 3 rfl rfl)
theorem dX3_readWord_142 : decode cX3_readWord 142 = .ok (.bastore, 1) := dk_84 (dk_at dksX3_readWord_6 4 rfl rfl)
theorem dX3_readWord_143 : decode cX3_readWord 143 = .ok (.aload_n 0, 1) := dk_42 (dk_at dksX3_readWord_6 5 rfl rfl)
theorem dX3_readWord_144 : decode cX3_readWord 144 = .ok (.getfield 40, 3) := dk_180 0 40 (dk_at dksX3_readWord_6 6 rfl rfl)
theorem dX3_readWord_147 : decode cX3_readWord 147 = .ok (.iload_n 1, 1) := dk_27 (dk_at dksX3_readWord_6 9 rfl rfl)
theorem dX3_readWord_148 : decode cX3_readWord 148 = .ok (.dup2, 1) := dk_92 (dk_at dksX3_readWord_6 10 rfl rfl)
theorem dX3_readWord_149 : decode cX3_readWord 149 = .ok (.iaload, 1) := dk_46 (dk_at dksX3_readWord_6 11 rfl rfl)
theorem dX3_readWord_150 : decode cX3_readWord 150 = .ok (.iconst 1, 1) := dk_4 (dk_at dksX3_readWord_6 12 rfl rfl)
theorem dX3_readWord_151 : decode cX3_readWord 151 = .ok (.iadd, 1) := dk_96 (dk_at dksX3_readWord_6 13 rfl rfl)
theorem dX3_readWord_152 : decode cX3_readWord 152 = .ok (.iastore, 1) := dk_79 (dk_at dksX3_readWord_6 14 rfl rfl)
theorem dX3_readWord_153 : decode cX3_readWord 153 = .ok (.goto (-87), 3) := dk_167 255 169 (dk_at dksX3_readWord_6 15 rfl rfl)
theorem dX3_readWord_156 : decode cX3_readWord 156 = .ok (.return_, 1) := dk_177 (dk_at dksX3_readWord_6 18 rfl rfl)
def dkwX3_oneOf_2 : List UInt8 := [180, 0, 129, 42, 180, 0, 138, 4, 100, 51, 27, 100, 172]
abbrev dktX3_oneOf_2 : List UInt8 := dkwX3_oneOf_2 ++ []
def dkwX3_oneOf_1 : List UInt8 := [154, 0, 13, 42, 42, 180, 0, 138, 182, 0, 160, 3, 172, 42, 89, 180, 0, 138, 4, 96, 181, 0, 138, 42]
abbrev dktX3_oneOf_1 : List UInt8 := dkwX3_oneOf_1 ++ dktX3_oneOf_2
def dkwX3_oneOf_0 : List UInt8 := [42, 182, 0, 148, 154, 0, 5, 3, 172, 42, 182, 0, 152, 27, 27, 28, 96, 4, 100, 184, 0, 116]
abbrev dktX3_oneOf_0 : List UInt8 := dkwX3_oneOf_0 ++ dktX3_oneOf_1
theorem dksX3_oneOf_0 : cX3_oneOf.data.toList.drop 0 = dktX3_oneOf_0 := by decide +kernel
theorem dksX3_oneOf_1 : cX3_oneOf.data.toList.drop 22 = dktX3_oneOf_1 := dk_seg dksX3_oneOf_0 22 rfl rfl
theorem dksX3_oneOf_2 : cX3_oneOf.data.toList.drop 46 = dktX3_oneOf_2 := dk_seg dksX3_oneOf_1 24 rfl rfl
theorem dX3_oneOf_0 : decode cX3_oneOf 0 = .ok (.aload_n 0, 1) := dk_42 (dk_at dksX3_oneOf_0 0 rfl rfl)
theorem dX3_oneOf_1 : decode cX3_oneOf 1 = .ok (.invokevirtual 148, 3) := dk_182 0 148 (dk_at dksX3_oneOf_0 1 rfl rfl)
theorem dX3_oneOf_4 : decode cX3_oneOf 4 = .ok (.ifCond .ne 5, 3) := dk_154 0 5 (dk_at dksX3_oneOf_0 4 rfl rfl)
theorem dX3_oneOf_7 : decode cX3_oneOf 7 = .ok (.iconst 0, 1) := dk_3 (dk_at dksX3_oneOf_0 7 rfl rfl)
theorem dX3_oneOf_8 : decode cX3_oneOf 8 = .ok (.ireturn, 1) := dk_172 (dk_at dksX3_oneOf_0 8 rfl rfl)
theorem dX3_oneOf_9 : decode cX3_oneOf 9 = .ok (.aload_n 0, 1) := dk_42 (dk_at dksX3_oneOf_0 9 rfl rfl)
theorem dX3_oneOf_10 : decode cX3_oneOf 10 = .ok (.invokevirtual 152, 3) := dk_182 0 152 (dk_at dksX3_oneOf_0 10 rfl rfl)
theorem dX3_oneOf_13 : decode cX3_oneOf 13 = .ok (.iload_n 1, 1) := dk_27 (dk_at dksX3_oneOf_0 13 rfl rfl)
theorem dX3_oneOf_14 : decode cX3_oneOf 14 = .ok (.iload_n 1, 1) := dk_27 (dk_at dksX3_oneOf_0 14 rfl rfl)
theorem dX3_oneOf_15 : decode cX3_oneOf 15 = .ok (.iload_n 2, 1) := dk_28 (dk_at dksX3_oneOf_0 15 rfl rfl)
theorem dX3_oneOf_16 : decode cX3_oneOf 16 = .ok (.iadd, 1) := dk_96 (dk_at dksX3_oneOf_0 16 rfl rfl)
theorem dX3_oneOf_17 : decode cX3_oneOf 17 = .ok (.iconst 1, 1) := dk_4 (dk_at dksX3_oneOf_0 17 rfl rfl)
theorem dX3_oneOf_18 : decode cX3_oneOf 18 = .ok (.isub, 1) := dk_100 (dk_at dksX3_oneOf_0 18 rfl rfl)
theorem dX3_oneOf_19 : decode cX3_oneOf 19 = .ok (.invokestatic 116, 3) := dk_184 0 116 (dk_at dksX3_oneOf_0 19 rfl rfl)
theorem dX3_oneOf_22 : decode cX3_oneOf 22 = .ok (.ifCond .ne 13, 3) := dk_154 0 13 (dk_at dksX3_oneOf_1 0 rfl rfl)
theorem dX3_oneOf_25 : decode cX3_oneOf 25 = .ok (.aload_n 0, 1) := dk_42 (dk_at dksX3_oneOf_1 3 rfl rfl)
theorem dX3_oneOf_26 : decode cX3_oneOf 26 = .ok (.aload_n 0, 1) := dk_42 (dk_at dksX3_oneOf_1 4 rfl rfl)
theorem dX3_oneOf_27 : decode cX3_oneOf 27 = .ok (.getfield 138, 3) := dk_180 0 138 (dk_at dksX3_oneOf_1 5 rfl rfl)
theorem dX3_oneOf_30 : decode cX3_oneOf 30 = .ok (.invokevirtual 160, 3) := dk_182 0 160 (dk_at dksX3_oneOf_1 8 rfl rfl)
theorem dX3_oneOf_33 : decode cX3_oneOf 33 = .ok (.iconst 0, 1) := dk_3 (dk_at dksX3_oneOf_1 11 rfl rfl)
theorem dX3_oneOf_34 : decode cX3_oneOf 34 = .ok (.ireturn, 1) := dk_172 (dk_at dksX3_oneOf_1 12 rfl rfl)
theorem dX3_oneOf_35 : decode cX3_oneOf 35 = .ok (.aload_n 0, 1) := dk_42 (dk_at dksX3_oneOf_1 13 rfl rfl)
theorem dX3_oneOf_36 : decode cX3_oneOf 36 = .ok (.dup, 1) := dk_89 (dk_at dksX3_oneOf_1 14 rfl rfl)
theorem dX3_oneOf_37 : decode cX3_oneOf 37 = .ok (.getfield 138, 3) := dk_180 0 138 (dk_at dksX3_oneOf_1 15 rfl rfl)
theorem dX3_oneOf_40 : decode cX3_oneOf 40 = .ok (.iconst 1, 1) := dk_4 (dk_at dksX3_oneOf_1 18 rfl rfl)
theorem dX3_oneOf_41 : decode cX3_oneOf 41 = .ok (.iadd, 1) := dk_96 (dk_at dksX3_oneOf_1 19 rfl rfl)
theorem dX3_oneOf_42 : decode cX3_oneOf 42 = .ok (.putfield 138, 3) := dk_181 0 138 (dk_at dksX3_oneOf_1 20 rfl rfl)
theorem dX3_oneOf_45 : decode cX3_oneOf 45 = .ok (.aload_n 0, 1) := dk_42 (dk_at dksX3_oneOf_1 23 rfl rfl)
theorem dX3_oneOf_46 : decode cX3_oneOf 46 = .ok (.getfield 129, 3) := dk_180 0 129 (dk_at dksX3_oneOf_2 0 rfl rfl)
theorem dX3_oneOf_49 : decode cX3_oneOf 49 = .ok (.aload_n 0, 1) := dk_42 (dk_at dksX3_oneOf_2 3 rfl rfl)
theorem dX3_oneOf_50 : decode cX3_oneOf 50 = .ok (.getfield 138, 3) := dk_180 0 138 (dk_at dksX3_oneOf_2 4 rfl rfl)
theorem dX3_oneOf_53 : decode cX3_oneOf 53 = .ok (.iconst 1, 1) := dk_4 (dk_at dksX3_oneOf_2 7 rfl rfl)
theorem dX3_oneOf_54 : decode cX3_oneOf 54 = .ok (.isub, 1) := dk_100 (dk_at dksX3_oneOf_2 8 rfl rfl)
theorem dX3_oneOf_55 : decode cX3_oneOf 55 = .ok (.baload, 1) := dk_51 (dk_at dksX3_oneOf_2 9 rfl rfl)
theorem dX3_oneOf_56 : decode cX3_oneOf 56 = .ok (.iload_n 1, 1) := dk_27 (dk_at dksX3_oneOf_2 10 rfl rfl)
theorem dX3_oneOf_57 : decode cX3_oneOf 57 = .ok (.isub, 1) := dk_100 (dk_at dksX3_oneOf_2 11 rfl rfl)
theorem dX3_oneOf_58 : decode cX3_oneOf 58 = .ok (.ireturn, 1) := dk_172 (dk_at dksX3_oneOf_2 12 rfl rfl)
def dkwX3_here_1 : List UInt8 := [180, 0, 129, 42, 180, 0, 138, 51, 17, 0, 255, 126, 167, 0, 4, 2, 172]
abbrev dktX3_here_1 : List UInt8 := dkwX3_here_1 ++ []
def dkwX3_here_0 : List UInt8 := [42, 180, 0, 138, 42, 180, 0, 132, 162, 0, 30, 42, 180, 0, 138, 42, 180, 0, 135, 162, 0, 19, 42]
abbrev dktX3_here_0 : List UInt8 := dkwX3_here_0 ++ dktX3_here_1
theorem dksX3_here_0 : cX3_here.data.toList.drop 0 = dktX3_here_0 := by decide +kernel
theorem dksX3_here_1 : cX3_here.data.toList.drop 23 = dktX3_here_1 := dk_seg dksX3_here_0 23 rfl rfl
theorem dX3_here_0 : decode cX3_here 0 = .ok (.aload_n 0, 1) := dk_42 (dk_at dksX3_here_0 0 rfl rfl)
theorem dX3_here_1 : decode cX3_here 1 = .ok (.getfield 138, 3) := dk_180 0 138 (dk_at dksX3_here_0 1 rfl rfl)
theorem dX3_here_4 : decode cX3_here 4 = .ok (.aload_n 0, 1) := dk_42 (dk_at dksX3_here_0 4 rfl rfl)
theorem dX3_here_5 : decode cX3_here 5 = .ok (.getfield 132, 3) := dk_180 0 132 (dk_at dksX3_here_0 5 rfl rfl)
theorem dX3_here_8 : decode cX3_here 8 = .ok (.if_icmp .ge 30, 3) := dk_162 0 30 (dk_at dksX3_here_0 8 rfl rfl)
theorem dX3_here_11 : decode cX3_here 11 = .ok (.aload_n 0, 1) := dk_42 (dk_at dksX3_here_0 11 rfl rfl)
theorem dX3_here_12 : decode cX3_here 12 = .ok (.getfield 138, 3) := dk_180 0 138 (dk_at dksX3_here_0 12 rfl rfl)
theorem dX3_here_15 : decode cX3_here 15 = .ok (.aload_n 0, 1) := dk_42 (dk_at dksX3_here_0 15 rfl rfl)
theorem dX3_here_16 : decode cX3_here 16 = .ok (.getfield 135, 3) := dk_180 0 135 (dk_at dksX3_here_0 16 rfl rfl)
theorem dX3_here_19 : decode cX3_here 19 = .ok (.if_icmp .ge 19, 3) := dk_162 0 19 (dk_at dksX3_here_0 19 rfl rfl)
theorem dX3_here_22 : decode cX3_here 22 = .ok (.aload_n 0, 1) := dk_42 (dk_at dksX3_here_0 22 rfl rfl)
theorem dX3_here_23 : decode cX3_here 23 = .ok (.getfield 129, 3) := dk_180 0 129 (dk_at dksX3_here_1 0 rfl rfl)
theorem dX3_here_26 : decode cX3_here 26 = .ok (.aload_n 0, 1) := dk_42 (dk_at dksX3_here_1 3 rfl rfl)
theorem dX3_here_27 : decode cX3_here 27 = .ok (.getfield 138, 3) := dk_180 0 138 (dk_at dksX3_here_1 4 rfl rfl)
theorem dX3_here_30 : decode cX3_here 30 = .ok (.baload, 1) := dk_51 (dk_at dksX3_here_1 7 rfl rfl)
theorem dX3_here_31 : decode cX3_here 31 = .ok (.sipush 255, 3) := dk_17 0 255 (dk_at dksX3_here_1 8 rfl rfl)
theorem dX3_here_34 : decode cX3_here 34 = .ok (.iand, 1) := dk_126 (dk_at dksX3_here_1 11 rfl rfl)
theorem dX3_here_35 : decode cX3_here 35 = .ok (.goto 4, 3) := dk_167 0 4 (dk_at dksX3_here_1 12 rfl rfl)
theorem dX3_here_38 : decode cX3_here 38 = .ok (.iconst (-1), 1) := dk_2 (dk_at dksX3_here_1 15 rfl rfl)
theorem dX3_here_39 : decode cX3_here 39 = .ok (.ireturn, 1) := dk_172 (dk_at dksX3_here_1 16 rfl rfl)
def dkwX3_passes_1 : List UInt8 := [181, 0, 138, 4, 172]
abbrev dktX3_passes_1 : List UInt8 := dkwX3_passes_1 ++ []
def dkwX3_passes_0 : List UInt8 := [42, 182, 0, 148, 153, 0, 11, 42, 182, 0, 152, 27, 159, 0, 5, 3, 172, 42, 89, 180, 0, 138, 4, 96]
abbrev dktX3_passes_0 : List UInt8 := dkwX3_passes_0 ++ dktX3_passes_1
theorem dksX3_passes_0 : cX3_passes.data.toList.drop 0 = dktX3_passes_0 := by decide +kernel
theorem dksX3_passes_1 : cX3_passes.data.toList.drop 24 = dktX3_passes_1 := dk_seg dksX3_passes_0 24 rfl rfl
theorem dX3_passes_0 : decode cX3_passes 0 = .ok (.aload_n 0, 1) := dk_42 (dk_at dksX3_passes_0 0 rfl rfl)
theorem dX3_passes_1 : decode cX3_passes 1 = .ok (.invokevirtual 148, 3) := dk_182 0 148 (dk_at dksX3_passes_0 1 rfl rfl)
theorem dX3_passes_4 : decode cX3_passes 4 = .ok (.ifCond .eq 11, 3) := dk_153 0 11 (dk_at dksX3_passes_0 4 rfl rfl)
theorem dX3_passes_7 : decode cX3_passes 7 = .ok (.aload_n 0, 1) := dk_42 (dk_at dksX3_passes_0 7 rfl rfl)
theorem dX3_passes_8 : decode cX3_passes 8 = .ok (.invokevirtual 152, 3) := dk_182 0 152 (dk_at dksX3_passes_0 8 rfl rfl)
theorem dX3_passes_11 : decode cX3_passes 11 = .ok (.iload_n 1, 1) := dk_27 (dk_at dksX3_passes_0 11 rfl rfl)
theorem dX3_passes_12 : decode cX3_passes 12 = .ok (.if_icmp .eq 5, 3) := dk_159 0 5 (dk_at dksX3_passes_0 12 rfl rfl)
theorem dX3_passes_15 : decode cX3_passes 15 = .ok (.iconst 0, 1) := dk_3 (dk_at dksX3_passes_0 15 rfl rfl)
theorem dX3_passes_16 : decode cX3_passes 16 = .ok (.ireturn, 1) := dk_172 (dk_at dksX3_passes_0 16 rfl rfl)
theorem dX3_passes_17 : decode cX3_passes 17 = .ok (.aload_n 0, 1) := dk_42 (dk_at dksX3_passes_0 17 rfl rfl)
theorem dX3_passes_18 : decode cX3_passes 18 = .ok (.dup, 1) := dk_89 (dk_at dksX3_passes_0 18 rfl rfl)
theorem dX3_passes_19 : decode cX3_passes 19 = .ok (.getfield 138, 3) := dk_180 0 138 (dk_at dksX3_passes_0 19 rfl rfl)
theorem dX3_passes_22 : decode cX3_passes 22 = .ok (.iconst 1, 1) := dk_4 (dk_at dksX3_passes_0 22 rfl rfl)
theorem dX3_passes_23 : decode cX3_passes 23 = .ok (.iadd, 1) := dk_96 (dk_at dksX3_passes_0 23 rfl rfl)
theorem dX3_passes_24 : decode cX3_passes 24 = .ok (.putfield 138, 3) := dk_181 0 138 (dk_at dksX3_passes_1 0 rfl rfl)
theorem dX3_passes_27 : decode cX3_passes 27 = .ok (.iconst 1, 1) := dk_4 (dk_at dksX3_passes_1 3 rfl rfl)
theorem dX3_passes_28 : decode cX3_passes 28 = .ok (.ireturn, 1) := dk_172 (dk_at dksX3_passes_1 4 rfl rfl)
def dkwX3_wasRight_0 : List UInt8 := [42, 180, 0, 138, 42, 180, 0, 132, 162, 0, 11, 42, 42, 180, 0, 138, 182, 0, 160, 42, 182, 0, 148, 172]
abbrev dktX3_wasRight_0 : List UInt8 := dkwX3_wasRight_0 ++ []
theorem dksX3_wasRight_0 : cX3_wasRight.data.toList.drop 0 = dktX3_wasRight_0 := by decide +kernel
theorem dX3_wasRight_0 : decode cX3_wasRight 0 = .ok (.aload_n 0, 1) := dk_42 (dk_at dksX3_wasRight_0 0 rfl rfl)
theorem dX3_wasRight_1 : decode cX3_wasRight 1 = .ok (.getfield 138, 3) := dk_180 0 138 (dk_at dksX3_wasRight_0 1 rfl rfl)
theorem dX3_wasRight_4 : decode cX3_wasRight 4 = .ok (.aload_n 0, 1) := dk_42 (dk_at dksX3_wasRight_0 4 rfl rfl)
theorem dX3_wasRight_5 : decode cX3_wasRight 5 = .ok (.getfield 132, 3) := dk_180 0 132 (dk_at dksX3_wasRight_0 5 rfl rfl)
theorem dX3_wasRight_8 : decode cX3_wasRight 8 = .ok (.if_icmp .ge 11, 3) := dk_162 0 11 (dk_at dksX3_wasRight_0 8 rfl rfl)
theorem dX3_wasRight_11 : decode cX3_wasRight 11 = .ok (.aload_n 0, 1) := dk_42 (dk_at dksX3_wasRight_0 11 rfl rfl)
theorem dX3_wasRight_12 : decode cX3_wasRight 12 = .ok (.aload_n 0, 1) := dk_42 (dk_at dksX3_wasRight_0 12 rfl rfl)
theorem dX3_wasRight_13 : decode cX3_wasRight 13 = .ok (.getfield 138, 3) := dk_180 0 138 (dk_at dksX3_wasRight_0 13 rfl rfl)
theorem dX3_wasRight_16 : decode cX3_wasRight 16 = .ok (.invokevirtual 160, 3) := dk_182 0 160 (dk_at dksX3_wasRight_0 16 rfl rfl)
theorem dX3_wasRight_19 : decode cX3_wasRight 19 = .ok (.aload_n 0, 1) := dk_42 (dk_at dksX3_wasRight_0 19 rfl rfl)
theorem dX3_wasRight_20 : decode cX3_wasRight 20 = .ok (.invokevirtual 148, 3) := dk_182 0 148 (dk_at dksX3_wasRight_0 20 rfl rfl)
theorem dX3_wasRight_23 : decode cX3_wasRight 23 = .ok (.ireturn, 1) := dk_172 (dk_at dksX3_wasRight_0 23 rfl rfl)
def dkwX3_travellers_9 : List UInt8 := [27, 172]
abbrev dktX3_travellers_9 : List UInt8 := dkwX3_travellers_9 ++ []
def dkwX3_travellers_8 : List UInt8 := [181, 0, 123, 132, 3, 1, 167, 255, 187, 42, 3, 181, 0, 171, 42, 89, 180, 0, 174, 4, 96, 181, 0, 174]
abbrev dktX3_travellers_8 : List UInt8 := dkwX3_travellers_8 ++ dktX3_travellers_9
def dkwX3_travellers_7 : List UInt8 := [46, 79, 42, 180, 0, 9, 16, 8, 42, 180, 0, 123, 96, 3, 79, 42, 89, 180, 0, 123, 4, 96]
abbrev dktX3_travellers_7 : List UInt8 := dkwX3_travellers_7 ++ dktX3_travellers_8
def dkwX3_travellers_6 : List UInt8 := [5, 29, 104, 46, 79, 42, 180, 0, 9, 7, 42, 180, 0, 123, 96, 42, 180, 0, 43, 5, 29, 104, 4, 96]
abbrev dktX3_travellers_6 : List UInt8 := dkwX3_travellers_6 ++ dktX3_travellers_7
def dkwX3_travellers_5 : List UInt8 := [180, 0, 141, 100, 172, 3, 62, 29, 27, 162, 0, 70, 42, 180, 0, 9, 42, 180, 0, 123, 42, 180, 0, 43]
abbrev dktX3_travellers_5 : List UInt8 := dkwX3_travellers_5 ++ dktX3_travellers_6
def dkwX3_travellers_4 : List UInt8 := [79, 132, 1, 1, 42, 16, 59, 182, 0, 156, 61, 167, 255, 175, 42, 182, 0, 183, 154, 0, 10, 2, 42]
abbrev dktX3_travellers_4 : List UInt8 := dkwX3_travellers_4 ++ dktX3_travellers_5
def dkwX3_travellers_3 : List UInt8 := [182, 0, 164, 79, 42, 16, 58, 182, 0, 186, 42, 180, 0, 43, 5, 27, 104, 4, 96, 42, 6, 182, 0, 190]
abbrev dktX3_travellers_3 : List UInt8 := dkwX3_travellers_3 ++ dktX3_travellers_4
def dkwX3_travellers_2 : List UInt8 := [180, 0, 138, 182, 0, 160, 167, 0, 42, 42, 180, 0, 43, 5, 27, 104, 42, 16, 48, 42, 180, 0, 13]
abbrev dktX3_travellers_2 : List UInt8 := dkwX3_travellers_2 ++ dktX3_travellers_3
def dkwX3_travellers_1 : List UInt8 := [28, 153, 0, 83, 42, 182, 0, 148, 153, 0, 76, 42, 180, 0, 123, 27, 96, 7, 160, 0, 14, 42, 42]
abbrev dktX3_travellers_1 : List UInt8 := dkwX3_travellers_1 ++ dktX3_travellers_2
def dkwX3_travellers_0 : List UInt8 := [42, 3, 181, 0, 110, 42, 16, 40, 182, 0, 177, 42, 180, 0, 132, 154, 0, 5, 3, 172, 3, 60, 4, 61]
abbrev dktX3_travellers_0 : List UInt8 := dkwX3_travellers_0 ++ dktX3_travellers_1
theorem dksX3_travellers_0 : cX3_travellers.data.toList.drop 0 = dktX3_travellers_0 := by decide +kernel
theorem dksX3_travellers_1 : cX3_travellers.data.toList.drop 24 = dktX3_travellers_1 := dk_seg dksX3_travellers_0 24 rfl rfl
theorem dksX3_travellers_2 : cX3_travellers.data.toList.drop 47 = dktX3_travellers_2 := dk_seg dksX3_travellers_1 23 rfl rfl
theorem dksX3_travellers_3 : cX3_travellers.data.toList.drop 70 = dktX3_travellers_3 := dk_seg dksX3_travellers_2 23 rfl rfl
theorem dksX3_travellers_4 : cX3_travellers.data.toList.drop 94 = dktX3_travellers_4 := dk_seg dksX3_travellers_3 24 rfl rfl
theorem dksX3_travellers_5 : cX3_travellers.data.toList.drop 117 = dktX3_travellers_5 := dk_seg dksX3_travellers_4 23 rfl rfl
theorem dksX3_travellers_6 : cX3_travellers.data.toList.drop 141 = dktX3_travellers_6 := dk_seg dksX3_travellers_5 24 rfl rfl
theorem dksX3_travellers_7 : cX3_travellers.data.toList.drop 165 = dktX3_travellers_7 := dk_seg dksX3_travellers_6 24 rfl rfl
theorem dksX3_travellers_8 : cX3_travellers.data.toList.drop 187 = dktX3_travellers_8 := dk_seg dksX3_travellers_7 22 rfl rfl
theorem dksX3_travellers_9 : cX3_travellers.data.toList.drop 211 = dktX3_travellers_9 := dk_seg dksX3_travellers_8 24 rfl rfl
theorem dX3_travellers_0 : decode cX3_travellers 0 = .ok (.aload_n 0, 1) := dk_42 (dk_at dksX3_travellers_0 0 rfl rfl)
theorem dX3_travellers_1 : decode cX3_travellers 1 = .ok (.iconst 0, 1) := dk_3 (dk_at dksX3_travellers_0 1 rfl rfl)
theorem dX3_travellers_2 : decode cX3_travellers 2 = .ok (.putfield 110, 3) := dk_181 0 110 (dk_at dksX3_travellers_0 2 rfl rfl)
theorem dX3_travellers_5 : decode cX3_travellers 5 = .ok (.aload_n 0, 1) := dk_42 (dk_at dksX3_travellers_0 5 rfl rfl)
theorem dX3_travellers_6 : decode cX3_travellers 6 = .ok (.bipush 40, 2) := dk_16 40 (dk_at dksX3_travellers_0 6 rfl rfl)
theorem dX3_travellers_8 : decode cX3_travellers 8 = .ok (.invokevirtual 177, 3) := dk_182 0 177 (dk_at dksX3_travellers_0 8 rfl rfl)
theorem dX3_travellers_11 : decode cX3_travellers 11 = .ok (.aload_n 0, 1) := dk_42 (dk_at dksX3_travellers_0 11 rfl rfl)
theorem dX3_travellers_12 : decode cX3_travellers 12 = .ok (.getfield 132, 3) := dk_180 0 132 (dk_at dksX3_travellers_0 12 rfl rfl)
theorem dX3_travellers_15 : decode cX3_travellers 15 = .ok (.ifCond .ne 5, 3) := dk_154 0 5 (dk_at dksX3_travellers_0 15 rfl rfl)
theorem dX3_travellers_18 : decode cX3_travellers 18 = .ok (.iconst 0, 1) := dk_3 (dk_at dksX3_travellers_0 18 rfl rfl)
theorem dX3_travellers_19 : decode cX3_travellers 19 = .ok (.ireturn, 1) := dk_172 (dk_at dksX3_travellers_0 19 rfl rfl)
theorem dX3_travellers_20 : decode cX3_travellers 20 = .ok (.iconst 0, 1) := dk_3 (dk_at dksX3_travellers_0 20 rfl rfl)
theorem dX3_travellers_21 : decode cX3_travellers 21 = .ok (.istore_n 1, 1) := dk_60 (dk_at dksX3_travellers_0 21 rfl rfl)
theorem dX3_travellers_22 : decode cX3_travellers 22 = .ok (.iconst 1, 1) := dk_4 (dk_at dksX3_travellers_0 22 rfl rfl)
theorem dX3_travellers_23 : decode cX3_travellers 23 = .ok (.istore_n 2, 1) := dk_61 (dk_at dksX3_travellers_0 23 rfl rfl)
theorem dX3_travellers_24 : decode cX3_travellers 24 = .ok (.iload_n 2, 1) := dk_28 (dk_at dksX3_travellers_1 0 rfl rfl)
theorem dX3_travellers_25 : decode cX3_travellers 25 = .ok (.ifCond .eq 83, 3) := dk_153 0 83 (dk_at dksX3_travellers_1 1 rfl rfl)
theorem dX3_travellers_28 : decode cX3_travellers 28 = .ok (.aload_n 0, 1) := dk_42 (dk_at dksX3_travellers_1 4 rfl rfl)
theorem dX3_travellers_29 : decode cX3_travellers 29 = .ok (.invokevirtual 148, 3) := dk_182 0 148 (dk_at dksX3_travellers_1 5 rfl rfl)
theorem dX3_travellers_32 : decode cX3_travellers 32 = .ok (.ifCond .eq 76, 3) := dk_153 0 76 (dk_at dksX3_travellers_1 8 rfl rfl)
theorem dX3_travellers_35 : decode cX3_travellers 35 = .ok (.aload_n 0, 1) := dk_42 (dk_at dksX3_travellers_1 11 rfl rfl)
theorem dX3_travellers_36 : decode cX3_travellers 36 = .ok (.getfield 123, 3) := dk_180 0 123 (dk_at dksX3_travellers_1 12 rfl rfl)
theorem dX3_travellers_39 : decode cX3_travellers 39 = .ok (.iload_n 1, 1) := dk_27 (dk_at dksX3_travellers_1 15 rfl rfl)
theorem dX3_travellers_40 : decode cX3_travellers 40 = .ok (.iadd, 1) := dk_96 (dk_at dksX3_travellers_1 16 rfl rfl)
theorem dX3_travellers_41 : decode cX3_travellers 41 = .ok (.iconst 4, 1) := dk_7 (dk_at dksX3_travellers_1 17 rfl rfl)
theorem dX3_travellers_42 : decode cX3_travellers 42 = .ok (.if_icmp .ne 14, 3) := dk_160 0 14 (dk_at dksX3_travellers_1 18 rfl rfl)
theorem dX3_travellers_45 : decode cX3_travellers 45 = .ok (.aload_n 0, 1) := dk_42 (dk_at dksX3_travellers_1 21 rfl rfl)
theorem dX3_travellers_46 : decode cX3_travellers 46 = .ok (.aload_n 0, 1) := dk_42 (dk_at dksX3_travellers_1 22 rfl rfl)
theorem dX3_travellers_47 : decode cX3_travellers 47 = .ok (.getfield 138, 3) := dk_180 0 138 (dk_at dksX3_travellers_2 0 rfl rfl)
theorem dX3_travellers_50 : decode cX3_travellers 50 = .ok (.invokevirtual 160, 3) := dk_182 0 160 (dk_at dksX3_travellers_2 3 rfl rfl)
theorem dX3_travellers_53 : decode cX3_travellers 53 = .ok (.goto 42, 3) := dk_167 0 42 (dk_at dksX3_travellers_2 6 rfl rfl)
theorem dX3_travellers_56 : decode cX3_travellers 56 = .ok (.aload_n 0, 1) := dk_42 (dk_at dksX3_travellers_2 9 rfl rfl)
theorem dX3_travellers_57 : decode cX3_travellers 57 = .ok (.getfield 43, 3) := dk_180 0 43 (dk_at dksX3_travellers_2 10 rfl rfl)
theorem dX3_travellers_60 : decode cX3_travellers 60 = .ok (.iconst 2, 1) := dk_5 (dk_at dksX3_travellers_2 13 rfl rfl)
theorem dX3_travellers_61 : decode cX3_travellers 61 = .ok (.iload_n 1, 1) := dk_27 (dk_at dksX3_travellers_2 14 rfl rfl)
theorem dX3_travellers_62 : decode cX3_travellers 62 = .ok (.imul, 1) := dk_104 (dk_at dksX3_travellers_2 15 rfl rfl)
theorem dX3_travellers_63 : decode cX3_travellers 63 = .ok (.aload_n 0, 1) := dk_42 (dk_at dksX3_travellers_2 16 rfl rfl)
theorem dX3_travellers_64 : decode cX3_travellers 64 = .ok (.bipush 48, 2) := dk_16 48 (dk_at dksX3_travellers_2 17 rfl rfl)
theorem dX3_travellers_66 : decode cX3_travellers 66 = .ok (.aload_n 0, 1) := dk_42 (dk_at dksX3_travellers_2 19 rfl rfl)
theorem dX3_travellers_67 : decode cX3_travellers 67 = .ok (.getfield 13, 3) := dk_180 0 13 (dk_at dksX3_travellers_2 20 rfl rfl)
theorem dX3_travellers_70 : decode cX3_travellers 70 = .ok (.invokevirtual 164, 3) := dk_182 0 164 (dk_at dksX3_travellers_3 0 rfl rfl)
theorem dX3_travellers_73 : decode cX3_travellers 73 = .ok (.iastore, 1) := dk_79 (dk_at dksX3_travellers_3 3 rfl rfl)
theorem dX3_travellers_74 : decode cX3_travellers 74 = .ok (.aload_n 0, 1) := dk_42 (dk_at dksX3_travellers_3 4 rfl rfl)
theorem dX3_travellers_75 : decode cX3_travellers 75 = .ok (.bipush 58, 2) := dk_16 58 (dk_at dksX3_travellers_3 5 rfl rfl)
theorem dX3_travellers_77 : decode cX3_travellers 77 = .ok (.invokevirtual 186, 3) := dk_182 0 186 (dk_at dksX3_travellers_3 7 rfl rfl)
theorem dX3_travellers_80 : decode cX3_travellers 80 = .ok (.aload_n 0, 1) := dk_42 (dk_at dksX3_travellers_3 10 rfl rfl)
theorem dX3_travellers_81 : decode cX3_travellers 81 = .ok (.getfield 43, 3) := dk_180 0 43 (dk_at dksX3_travellers_3 11 rfl rfl)
theorem dX3_travellers_84 : decode cX3_travellers 84 = .ok (.iconst 2, 1) := dk_5 (dk_at dksX3_travellers_3 14 rfl rfl)
theorem dX3_travellers_85 : decode cX3_travellers 85 = .ok (.iload_n 1, 1) := dk_27 (dk_at dksX3_travellers_3 15 rfl rfl)
theorem dX3_travellers_86 : decode cX3_travellers 86 = .ok (.imul, 1) := dk_104 (dk_at dksX3_travellers_3 16 rfl rfl)
theorem dX3_travellers_87 : decode cX3_travellers 87 = .ok (.iconst 1, 1) := dk_4 (dk_at dksX3_travellers_3 17 rfl rfl)
theorem dX3_travellers_88 : decode cX3_travellers 88 = .ok (.iadd, 1) := dk_96 (dk_at dksX3_travellers_3 18 rfl rfl)
theorem dX3_travellers_89 : decode cX3_travellers 89 = .ok (.aload_n 0, 1) := dk_42 (dk_at dksX3_travellers_3 19 rfl rfl)
theorem dX3_travellers_90 : decode cX3_travellers 90 = .ok (.iconst 3, 1) := dk_6 (dk_at dksX3_travellers_3 20 rfl rfl)
theorem dX3_travellers_91 : decode cX3_travellers 91 = .ok (.invokevirtual 190, 3) := dk_182 0 190 (dk_at dksX3_travellers_3 21 rfl rfl)
theorem dX3_travellers_94 : decode cX3_travellers 94 = .ok (.iastore, 1) := dk_79 (dk_at dksX3_travellers_4 0 rfl rfl)
theorem dX3_travellers_95 : decode cX3_travellers 95 = .ok (.iinc 1 1, 3) := dk_132 1 1 (dk_at dksX3_travellers_4 1 rfl rfl)
theorem dX3_travellers_98 : decode cX3_travellers 98 = .ok (.aload_n 0, 1) := dk_42 (dk_at dksX3_travellers_4 4 rfl rfl)
theorem dX3_travellers_99 : decode cX3_travellers 99 = .ok (.bipush 59, 2) := dk_16 59 (dk_at dksX3_travellers_4 5 rfl rfl)
theorem dX3_travellers_101 : decode cX3_travellers 101 = .ok (.invokevirtual 156, 3) := dk_182 0 156 (dk_at dksX3_travellers_4 7 rfl rfl)
theorem dX3_travellers_104 : decode cX3_travellers 104 = .ok (.istore_n 2, 1) := dk_61 (dk_at dksX3_travellers_4 10 rfl rfl)
theorem dX3_travellers_105 : decode cX3_travellers 105 = .ok (.goto (-81), 3) := dk_167 255 175 (dk_at dksX3_travellers_4 11 rfl rfl)
theorem dX3_travellers_108 : decode cX3_travellers 108 = .ok (.aload_n 0, 1) := dk_42 (dk_at dksX3_travellers_4 14 rfl rfl)
theorem dX3_travellers_109 : decode cX3_travellers 109 = .ok (.invokevirtual 183, 3) := dk_182 0 183 (dk_at dksX3_travellers_4 15 rfl rfl)
theorem dX3_travellers_112 : decode cX3_travellers 112 = .ok (.ifCond .ne 10, 3) := dk_154 0 10 (dk_at dksX3_travellers_4 18 rfl rfl)
theorem dX3_travellers_115 : decode cX3_travellers 115 = .ok (.iconst (-1), 1) := dk_2 (dk_at dksX3_travellers_4 21 rfl rfl)
theorem dX3_travellers_116 : decode cX3_travellers 116 = .ok (.aload_n 0, 1) := dk_42 (dk_at dksX3_travellers_4 22 rfl rfl)
theorem dX3_travellers_117 : decode cX3_travellers 117 = .ok (.getfield 141, 3) := dk_180 0 141 (dk_at dksX3_travellers_5 0 rfl rfl)
theorem dX3_travellers_120 : decode cX3_travellers 120 = .ok (.isub, 1) := dk_100 (dk_at dksX3_travellers_5 3 rfl rfl)
theorem dX3_travellers_121 : decode cX3_travellers 121 = .ok (.ireturn, 1) := dk_172 (dk_at dksX3_travellers_5 4 rfl rfl)
theorem dX3_travellers_122 : decode cX3_travellers 122 = .ok (.iconst 0, 1) := dk_3 (dk_at dksX3_travellers_5 5 rfl rfl)
theorem dX3_travellers_123 : decode cX3_travellers 123 = .ok (.istore_n 3, 1) := dk_62 (dk_at dksX3_travellers_5 6 rfl rfl)
theorem dX3_travellers_124 : decode cX3_travellers 124 = .ok (.iload_n 3, 1) := dk_29 (dk_at dksX3_travellers_5 7 rfl rfl)
theorem dX3_travellers_125 : decode cX3_travellers 125 = .ok (.iload_n 1, 1) := dk_27 (dk_at dksX3_travellers_5 8 rfl rfl)
theorem dX3_travellers_126 : decode cX3_travellers 126 = .ok (.if_icmp .ge 70, 3) := dk_162 0 70 (dk_at dksX3_travellers_5 9 rfl rfl)
theorem dX3_travellers_129 : decode cX3_travellers 129 = .ok (.aload_n 0, 1) := dk_42 (dk_at dksX3_travellers_5 12 rfl rfl)
theorem dX3_travellers_130 : decode cX3_travellers 130 = .ok (.getfield 9, 3) := dk_180 0 9 (dk_at dksX3_travellers_5 13 rfl rfl)
theorem dX3_travellers_133 : decode cX3_travellers 133 = .ok (.aload_n 0, 1) := dk_42 (dk_at dksX3_travellers_5 16 rfl rfl)
theorem dX3_travellers_134 : decode cX3_travellers 134 = .ok (.getfield 123, 3) := dk_180 0 123 (dk_at dksX3_travellers_5 17 rfl rfl)
theorem dX3_travellers_137 : decode cX3_travellers 137 = .ok (.aload_n 0, 1) := dk_42 (dk_at dksX3_travellers_5 20 rfl rfl)
theorem dX3_travellers_138 : decode cX3_travellers 138 = .ok (.getfield 43, 3) := dk_180 0 43 (dk_at dksX3_travellers_5 21 rfl rfl)
theorem dX3_travellers_141 : decode cX3_travellers 141 = .ok (.iconst 2, 1) := dk_5 (dk_at dksX3_travellers_6 0 rfl rfl)
theorem dX3_travellers_142 : decode cX3_travellers 142 = .ok (.iload_n 3, 1) := dk_29 (dk_at dksX3_travellers_6 1 rfl rfl)
theorem dX3_travellers_143 : decode cX3_travellers 143 = .ok (.imul, 1) := dk_104 (dk_at dksX3_travellers_6 2 rfl rfl)
theorem dX3_travellers_144 : decode cX3_travellers 144 = .ok (.iaload, 1) := dk_46 (dk_at dksX3_travellers_6 3 rfl rfl)
theorem dX3_travellers_145 : decode cX3_travellers 145 = .ok (.iastore, 1) := dk_79 (dk_at dksX3_travellers_6 4 rfl rfl)
theorem dX3_travellers_146 : decode cX3_travellers 146 = .ok (.aload_n 0, 1) := dk_42 (dk_at dksX3_travellers_6 5 rfl rfl)
theorem dX3_travellers_147 : decode cX3_travellers 147 = .ok (.getfield 9, 3) := dk_180 0 9 (dk_at dksX3_travellers_6 6 rfl rfl)
theorem dX3_travellers_150 : decode cX3_travellers 150 = .ok (.iconst 4, 1) := dk_7 (dk_at dksX3_travellers_6 9 rfl rfl)
theorem dX3_travellers_151 : decode cX3_travellers 151 = .ok (.aload_n 0, 1) := dk_42 (dk_at dksX3_travellers_6 10 rfl rfl)
theorem dX3_travellers_152 : decode cX3_travellers 152 = .ok (.getfield 123, 3) := dk_180 0 123 (dk_at dksX3_travellers_6 11 rfl rfl)
theorem dX3_travellers_155 : decode cX3_travellers 155 = .ok (.iadd, 1) := dk_96 (dk_at dksX3_travellers_6 14 rfl rfl)
theorem dX3_travellers_156 : decode cX3_travellers 156 = .ok (.aload_n 0, 1) := dk_42 (dk_at dksX3_travellers_6 15 rfl rfl)
theorem dX3_travellers_157 : decode cX3_travellers 157 = .ok (.getfield 43, 3) := dk_180 0 43 (dk_at dksX3_travellers_6 16 rfl rfl)
theorem dX3_travellers_160 : decode cX3_travellers 160 = .ok (.iconst 2, 1) := dk_5 (dk_at dksX3_travellers_6 19 rfl rfl)
theorem dX3_travellers_161 : decode cX3_travellers 161 = .ok (.iload_n 3, 1) := dk_29 (dk_at dksX3_travellers_6 20 rfl rfl)
theorem dX3_travellers_162 : decode cX3_travellers 162 = .ok (.imul, 1) := dk_104 (dk_at dksX3_travellers_6 21 rfl rfl)
theorem dX3_travellers_163 : decode cX3_travellers 163 = .ok (.iconst 1, 1) := dk_4 (dk_at dksX3_travellers_6 22 rfl rfl)
theorem dX3_travellers_164 : decode cX3_travellers 164 = .ok (.iadd, 1) := dk_96 (dk_at dksX3_travellers_6 23 rfl rfl)
theorem dX3_travellers_165 : decode cX3_travellers 165 = .ok (.iaload, 1) := dk_46 (dk_at dksX3_travellers_7 0 rfl rfl)
theorem dX3_travellers_166 : decode cX3_travellers 166 = .ok (.iastore, 1) := dk_79 (dk_at dksX3_travellers_7 1 rfl rfl)
theorem dX3_travellers_167 : decode cX3_travellers 167 = .ok (.aload_n 0, 1) := dk_42 (dk_at dksX3_travellers_7 2 rfl rfl)
theorem dX3_travellers_168 : decode cX3_travellers 168 = .ok (.getfield 9, 3) := dk_180 0 9 (dk_at dksX3_travellers_7 3 rfl rfl)
theorem dX3_travellers_171 : decode cX3_travellers 171 = .ok (.bipush 8, 2) := dk_16 8 (dk_at dksX3_travellers_7 6 rfl rfl)
theorem dX3_travellers_173 : decode cX3_travellers 173 = .ok (.aload_n 0, 1) := dk_42 (dk_at dksX3_travellers_7 8 rfl rfl)
theorem dX3_travellers_174 : decode cX3_travellers 174 = .ok (.getfield 123, 3) := dk_180 0 123 (dk_at dksX3_travellers_7 9 rfl rfl)
theorem dX3_travellers_177 : decode cX3_travellers 177 = .ok (.iadd, 1) := dk_96 (dk_at dksX3_travellers_7 12 rfl rfl)
theorem dX3_travellers_178 : decode cX3_travellers 178 = .ok (.iconst 0, 1) := dk_3 (dk_at dksX3_travellers_7 13 rfl rfl)
theorem dX3_travellers_179 : decode cX3_travellers 179 = .ok (.iastore, 1) := dk_79 (dk_at dksX3_travellers_7 14 rfl rfl)
theorem dX3_travellers_180 : decode cX3_travellers 180 = .ok (.aload_n 0, 1) := dk_42 (dk_at dksX3_travellers_7 15 rfl rfl)
theorem dX3_travellers_181 : decode cX3_travellers 181 = .ok (.dup, 1) := dk_89 (dk_at dksX3_travellers_7 16 rfl rfl)
theorem dX3_travellers_182 : decode cX3_travellers 182 = .ok (.getfield 123, 3) := dk_180 0 123 (dk_at dksX3_travellers_7 17 rfl rfl)
theorem dX3_travellers_185 : decode cX3_travellers 185 = .ok (.iconst 1, 1) := dk_4 (dk_at dksX3_travellers_7 20 rfl rfl)
theorem dX3_travellers_186 : decode cX3_travellers 186 = .ok (.iadd, 1) := dk_96 (dk_at dksX3_travellers_7 21 rfl rfl)
theorem dX3_travellers_187 : decode cX3_travellers 187 = .ok (.putfield 123, 3) := dk_181 0 123 (dk_at dksX3_travellers_8 0 rfl rfl)
theorem dX3_travellers_190 : decode cX3_travellers 190 = .ok (.iinc 3 1, 3) := dk_132 3 1 (dk_at dksX3_travellers_8 3 rfl rfl)
theorem dX3_travellers_193 : decode cX3_travellers 193 = .ok (.goto (-69), 3) := dk_167 255 187 (dk_at dksX3_travellers_8 6 rfl rfl)
theorem dX3_travellers_196 : decode cX3_travellers 196 = .ok (.aload_n 0, 1) := dk_42 (dk_at dksX3_travellers_8 9 rfl rfl)
theorem dX3_travellers_197 : decode cX3_travellers 197 = .ok (.iconst 0, 1) := dk_3 (dk_at dksX3_travellers_8 10 rfl rfl)
theorem dX3_travellers_198 : decode cX3_travellers 198 = .ok (.putfield 171, 3) := dk_181 0 171 (dk_at dksX3_travellers_8 11 rfl rfl)
theorem dX3_travellers_201 : decode cX3_travellers 201 = .ok (.aload_n 0, 1) := dk_42 (dk_at dksX3_travellers_8 14 rfl rfl)
theorem dX3_travellers_202 : decode cX3_travellers 202 = .ok (.dup, 1) := dk_89 (dk_at dksX3_travellers_8 15 rfl rfl)
theorem dX3_travellers_203 : decode cX3_travellers 203 = .ok (.getfield 174, 3) := dk_180 0 174 (dk_at dksX3_travellers_8 16 rfl rfl)
theorem dX3_travellers_206 : decode cX3_travellers 206 = .ok (.iconst 1, 1) := dk_4 (dk_at dksX3_travellers_8 19 rfl rfl)
theorem dX3_travellers_207 : decode cX3_travellers 207 = .ok (.iadd, 1) := dk_96 (dk_at dksX3_travellers_8 20 rfl rfl)
theorem dX3_travellers_208 : decode cX3_travellers 208 = .ok (.putfield 174, 3) := dk_181 0 174 (dk_at dksX3_travellers_8 21 rfl rfl)
theorem dX3_travellers_211 : decode cX3_travellers 211 = .ok (.iload_n 1, 1) := dk_27 (dk_at dksX3_travellers_9 0 rfl rfl)
theorem dX3_travellers_212 : decode cX3_travellers 212 = .ok (.ireturn, 1) := dk_172 (dk_at dksX3_travellers_9 1 rfl rfl)
def dkwX3_need_0 : List UInt8 := [42, 27, 182, 0, 156, 154, 0, 11, 42, 42, 180, 0, 138, 182, 0, 160, 177]
abbrev dktX3_need_0 : List UInt8 := dkwX3_need_0 ++ []
theorem dksX3_need_0 : cX3_need.data.toList.drop 0 = dktX3_need_0 := by decide +kernel
theorem dX3_need_0 : decode cX3_need 0 = .ok (.aload_n 0, 1) := dk_42 (dk_at dksX3_need_0 0 rfl rfl)
theorem dX3_need_1 : decode cX3_need 1 = .ok (.iload_n 1, 1) := dk_27 (dk_at dksX3_need_0 1 rfl rfl)
theorem dX3_need_2 : decode cX3_need 2 = .ok (.invokevirtual 156, 3) := dk_182 0 156 (dk_at dksX3_need_0 2 rfl rfl)
theorem dX3_need_5 : decode cX3_need 5 = .ok (.ifCond .ne 11, 3) := dk_154 0 11 (dk_at dksX3_need_0 5 rfl rfl)
theorem dX3_need_8 : decode cX3_need 8 = .ok (.aload_n 0, 1) := dk_42 (dk_at dksX3_need_0 8 rfl rfl)
theorem dX3_need_9 : decode cX3_need 9 = .ok (.aload_n 0, 1) := dk_42 (dk_at dksX3_need_0 9 rfl rfl)
theorem dX3_need_10 : decode cX3_need 10 = .ok (.getfield 138, 3) := dk_180 0 138 (dk_at dksX3_need_0 10 rfl rfl)
theorem dX3_need_13 : decode cX3_need 13 = .ok (.invokevirtual 160, 3) := dk_182 0 160 (dk_at dksX3_need_0 13 rfl rfl)
theorem dX3_need_16 : decode cX3_need 16 = .ok (.return_, 1) := dk_177 (dk_at dksX3_need_0 16 rfl rfl)
def dkwX3_number_2 : List UInt8 := [182, 0, 164, 96, 61, 132, 3, 1, 167, 255, 213, 28, 172]
abbrev dktX3_number_2 : List UInt8 := dkwX3_number_2 ++ []
def dkwX3_number_1 : List UInt8 := [182, 0, 152, 16, 48, 16, 57, 184, 0, 116, 153, 0, 23, 16, 10, 28, 104, 42, 16, 48, 16, 10]
abbrev dktX3_number_1 : List UInt8 := dkwX3_number_1 ++ dktX3_number_2
def dkwX3_number_0 : List UInt8 := [42, 16, 48, 16, 10, 182, 0, 164, 61, 4, 62, 29, 27, 162, 0, 44, 42, 182, 0, 148, 153, 0, 37, 42]
abbrev dktX3_number_0 : List UInt8 := dkwX3_number_0 ++ dktX3_number_1
theorem dksX3_number_0 : cX3_number.data.toList.drop 0 = dktX3_number_0 := by decide +kernel
theorem dksX3_number_1 : cX3_number.data.toList.drop 24 = dktX3_number_1 := dk_seg dksX3_number_0 24 rfl rfl
theorem dksX3_number_2 : cX3_number.data.toList.drop 46 = dktX3_number_2 := dk_seg dksX3_number_1 22 rfl rfl
theorem dX3_number_0 : decode cX3_number 0 = .ok (.aload_n 0, 1) := dk_42 (dk_at dksX3_number_0 0 rfl rfl)
theorem dX3_number_1 : decode cX3_number 1 = .ok (.bipush 48, 2) := dk_16 48 (dk_at dksX3_number_0 1 rfl rfl)
theorem dX3_number_3 : decode cX3_number 3 = .ok (.bipush 10, 2) := dk_16 10 (dk_at dksX3_number_0 3 rfl rfl)
theorem dX3_number_5 : decode cX3_number 5 = .ok (.invokevirtual 164, 3) := dk_182 0 164 (dk_at dksX3_number_0 5 rfl rfl)
theorem dX3_number_8 : decode cX3_number 8 = .ok (.istore_n 2, 1) := dk_61 (dk_at dksX3_number_0 8 rfl rfl)
theorem dX3_number_9 : decode cX3_number 9 = .ok (.iconst 1, 1) := dk_4 (dk_at dksX3_number_0 9 rfl rfl)
theorem dX3_number_10 : decode cX3_number 10 = .ok (.istore_n 3, 1) := dk_62 (dk_at dksX3_number_0 10 rfl rfl)
theorem dX3_number_11 : decode cX3_number 11 = .ok (.iload_n 3, 1) := dk_29 (dk_at dksX3_number_0 11 rfl rfl)
theorem dX3_number_12 : decode cX3_number 12 = .ok (.iload_n 1, 1) := dk_27 (dk_at dksX3_number_0 12 rfl rfl)
theorem dX3_number_13 : decode cX3_number 13 = .ok (.if_icmp .ge 44, 3) := dk_162 0 44 (dk_at dksX3_number_0 13 rfl rfl)
theorem dX3_number_16 : decode cX3_number 16 = .ok (.aload_n 0, 1) := dk_42 (dk_at dksX3_number_0 16 rfl rfl)
theorem dX3_number_17 : decode cX3_number 17 = .ok (.invokevirtual 148, 3) := dk_182 0 148 (dk_at dksX3_number_0 17 rfl rfl)
theorem dX3_number_20 : decode cX3_number 20 = .ok (.ifCond .eq 37, 3) := dk_153 0 37 (dk_at dksX3_number_0 20 rfl rfl)
theorem dX3_number_23 : decode cX3_number 23 = .ok (.aload_n 0, 1) := dk_42 (dk_at dksX3_number_0 23 rfl rfl)
theorem dX3_number_24 : decode cX3_number 24 = .ok (.invokevirtual 152, 3) := dk_182 0 152 (dk_at dksX3_number_1 0 rfl rfl)
theorem dX3_number_27 : decode cX3_number 27 = .ok (.bipush 48, 2) := dk_16 48 (dk_at dksX3_number_1 3 rfl rfl)
theorem dX3_number_29 : decode cX3_number 29 = .ok (.bipush 57, 2) := dk_16 57 (dk_at dksX3_number_1 5 rfl rfl)
theorem dX3_number_31 : decode cX3_number 31 = .ok (.invokestatic 116, 3) := dk_184 0 116 (dk_at dksX3_number_1 7 rfl rfl)
theorem dX3_number_34 : decode cX3_number 34 = .ok (.ifCond .eq 23, 3) := dk_153 0 23 (dk_at dksX3_number_1 10 rfl rfl)
theorem dX3_number_37 : decode cX3_number 37 = .ok (.bipush 10, 2) := dk_16 10 (dk_at dksX3_number_1 13 rfl rfl)
theorem dX3_number_39 : decode cX3_number 39 = .ok (.iload_n 2, 1) := dk_28 (dk_at dksX3_number_1 15 rfl rfl)
theorem dX3_number_40 : decode cX3_number 40 = .ok (.imul, 1) := dk_104 (dk_at dksX3_number_1 16 rfl rfl)
theorem dX3_number_41 : decode cX3_number 41 = .ok (.aload_n 0, 1) := dk_42 (dk_at dksX3_number_1 17 rfl rfl)
theorem dX3_number_42 : decode cX3_number 42 = .ok (.bipush 48, 2) := dk_16 48 (dk_at dksX3_number_1 18 rfl rfl)
theorem dX3_number_44 : decode cX3_number 44 = .ok (.bipush 10, 2) := dk_16 10 (dk_at dksX3_number_1 20 rfl rfl)
theorem dX3_number_46 : decode cX3_number 46 = .ok (.invokevirtual 164, 3) := dk_182 0 164 (dk_at dksX3_number_2 0 rfl rfl)
theorem dX3_number_49 : decode cX3_number 49 = .ok (.iadd, 1) := dk_96 (dk_at dksX3_number_2 3 rfl rfl)
theorem dX3_number_50 : decode cX3_number 50 = .ok (.istore_n 2, 1) := dk_61 (dk_at dksX3_number_2 4 rfl rfl)
theorem dX3_number_51 : decode cX3_number 51 = .ok (.iinc 3 1, 3) := dk_132 3 1 (dk_at dksX3_number_2 5 rfl rfl)
theorem dX3_number_54 : decode cX3_number 54 = .ok (.goto (-43), 3) := dk_167 255 213 (dk_at dksX3_number_2 8 rfl rfl)
theorem dX3_number_57 : decode cX3_number 57 = .ok (.iload_n 2, 1) := dk_28 (dk_at dksX3_number_2 11 rfl rfl)
theorem dX3_number_58 : decode cX3_number 58 = .ok (.ireturn, 1) := dk_172 (dk_at dksX3_number_2 12 rfl rfl)
def dkwX3_errands_9 : List UInt8 := [180, 0, 174, 4, 96, 181, 0, 174, 27, 172]
abbrev dktX3_errands_9 : List UInt8 := dkwX3_errands_9 ++ []
def dkwX3_errands_8 : List UInt8 := [79, 132, 3, 1, 167, 255, 227, 42, 89, 180, 0, 168, 27, 96, 181, 0, 168, 42, 3, 181, 0, 171, 42, 89]
abbrev dktX3_errands_8 : List UInt8 := dkwX3_errands_8 ++ dktX3_errands_9
def dkwX3_errands_7 : List UInt8 := [7, 27, 104, 162, 0, 28, 42, 180, 0, 27, 7, 42, 180, 0, 168, 104, 29, 96, 42, 180, 0, 43, 29, 46]
abbrev dktX3_errands_7 : List UInt8 := dkwX3_errands_7 ++ dktX3_errands_8
def dkwX3_errands_6 : List UInt8 := [182, 0, 156, 61, 167, 255, 136, 42, 182, 0, 183, 154, 0, 10, 2, 42, 180, 0, 141, 100, 172, 3, 62, 29]
abbrev dktX3_errands_6 : List UInt8 := dkwX3_errands_6 ++ dktX3_errands_7
def dkwX3_errands_5 : List UInt8 := [182, 0, 186, 42, 180, 0, 43, 7, 27, 104, 6, 96, 42, 5, 182, 0, 190, 79, 132, 1, 1, 42, 16, 59]
abbrev dktX3_errands_5 : List UInt8 := dkwX3_errands_5 ++ dktX3_errands_6
def dkwX3_errands_4 : List UInt8 := [180, 0, 43, 7, 27, 104, 5, 96, 42, 16, 48, 42, 180, 0, 13, 182, 0, 164, 79, 42, 16, 61]
abbrev dktX3_errands_4 : List UInt8 := dkwX3_errands_4 ++ dktX3_errands_5
def dkwX3_errands_3 : List UInt8 := [182, 0, 164, 79, 42, 180, 0, 43, 7, 27, 104, 4, 96, 42, 16, 48, 16, 10, 182, 0, 164, 79, 42]
abbrev dktX3_errands_3 : List UInt8 := dkwX3_errands_3 ++ dktX3_errands_4
def dkwX3_errands_2 : List UInt8 := [180, 0, 138, 182, 0, 160, 167, 0, 80, 42, 180, 0, 43, 7, 27, 104, 42, 16, 97, 42, 180, 0, 123]
abbrev dktX3_errands_2 : List UInt8 := dkwX3_errands_2 ++ dktX3_errands_3
def dkwX3_errands_1 : List UInt8 := [28, 153, 0, 122, 42, 182, 0, 148, 153, 0, 115, 42, 180, 0, 168, 27, 96, 16, 8, 160, 0, 14, 42, 42]
abbrev dktX3_errands_1 : List UInt8 := dkwX3_errands_1 ++ dktX3_errands_2
def dkwX3_errands_0 : List UInt8 := [42, 3, 181, 0, 110, 42, 16, 76, 182, 0, 177, 42, 180, 0, 132, 154, 0, 5, 3, 172, 3, 60, 4, 61]
abbrev dktX3_errands_0 : List UInt8 := dkwX3_errands_0 ++ dktX3_errands_1
theorem dksX3_errands_0 : cX3_errands.data.toList.drop 0 = dktX3_errands_0 := by decide +kernel
theorem dksX3_errands_1 : cX3_errands.data.toList.drop 24 = dktX3_errands_1 := dk_seg dksX3_errands_0 24 rfl rfl
theorem dksX3_errands_2 : cX3_errands.data.toList.drop 48 = dktX3_errands_2 := dk_seg dksX3_errands_1 24 rfl rfl
theorem dksX3_errands_3 : cX3_errands.data.toList.drop 71 = dktX3_errands_3 := dk_seg dksX3_errands_2 23 rfl rfl
theorem dksX3_errands_4 : cX3_errands.data.toList.drop 94 = dktX3_errands_4 := dk_seg dksX3_errands_3 23 rfl rfl
theorem dksX3_errands_5 : cX3_errands.data.toList.drop 116 = dktX3_errands_5 := dk_seg dksX3_errands_4 22 rfl rfl
theorem dksX3_errands_6 : cX3_errands.data.toList.drop 140 = dktX3_errands_6 := dk_seg dksX3_errands_5 24 rfl rfl
theorem dksX3_errands_7 : cX3_errands.data.toList.drop 164 = dktX3_errands_7 := dk_seg dksX3_errands_6 24 rfl rfl
theorem dksX3_errands_8 : cX3_errands.data.toList.drop 188 = dktX3_errands_8 := dk_seg dksX3_errands_7 24 rfl rfl
theorem dksX3_errands_9 : cX3_errands.data.toList.drop 212 = dktX3_errands_9 := dk_seg dksX3_errands_8 24 rfl rfl
theorem dX3_errands_0 : decode cX3_errands 0 = .ok (.aload_n 0, 1) := dk_42 (dk_at dksX3_errands_0 0 rfl rfl)
theorem dX3_errands_1 : decode cX3_errands 1 = .ok (.iconst 0, 1) := dk_3 (dk_at dksX3_errands_0 1 rfl rfl)
theorem dX3_errands_2 : decode cX3_errands 2 = .ok (.putfield 110, 3) := dk_181 0 110 (dk_at dksX3_errands_0 2 rfl rfl)
theorem dX3_errands_5 : decode cX3_errands 5 = .ok (.aload_n 0, 1) := dk_42 (dk_at dksX3_errands_0 5 rfl rfl)
theorem dX3_errands_6 : decode cX3_errands 6 = .ok (.bipush 76, 2) := dk_16 76 (dk_at dksX3_errands_0 6 rfl rfl)
theorem dX3_errands_8 : decode cX3_errands 8 = .ok (.invokevirtual 177, 3) := dk_182 0 177 (dk_at dksX3_errands_0 8 rfl rfl)
theorem dX3_errands_11 : decode cX3_errands 11 = .ok (.aload_n 0, 1) := dk_42 (dk_at dksX3_errands_0 11 rfl rfl)
theorem dX3_errands_12 : decode cX3_errands 12 = .ok (.getfield 132, 3) := dk_180 0 132 (dk_at dksX3_errands_0 12 rfl rfl)
theorem dX3_errands_15 : decode cX3_errands 15 = .ok (.ifCond .ne 5, 3) := dk_154 0 5 (dk_at dksX3_errands_0 15 rfl rfl)
theorem dX3_errands_18 : decode cX3_errands 18 = .ok (.iconst 0, 1) := dk_3 (dk_at dksX3_errands_0 18 rfl rfl)
theorem dX3_errands_19 : decode cX3_errands 19 = .ok (.ireturn, 1) := dk_172 (dk_at dksX3_errands_0 19 rfl rfl)
theorem dX3_errands_20 : decode cX3_errands 20 = .ok (.iconst 0, 1) := dk_3 (dk_at dksX3_errands_0 20 rfl rfl)
theorem dX3_errands_21 : decode cX3_errands 21 = .ok (.istore_n 1, 1) := dk_60 (dk_at dksX3_errands_0 21 rfl rfl)
theorem dX3_errands_22 : decode cX3_errands 22 = .ok (.iconst 1, 1) := dk_4 (dk_at dksX3_errands_0 22 rfl rfl)
theorem dX3_errands_23 : decode cX3_errands 23 = .ok (.istore_n 2, 1) := dk_61 (dk_at dksX3_errands_0 23 rfl rfl)
theorem dX3_errands_24 : decode cX3_errands 24 = .ok (.iload_n 2, 1) := dk_28 (dk_at dksX3_errands_1 0 rfl rfl)
theorem dX3_errands_25 : decode cX3_errands 25 = .ok (.ifCond .eq 122, 3) := dk_153 0 122 (dk_at dksX3_errands_1 1 rfl rfl)
theorem dX3_errands_28 : decode cX3_errands 28 = .ok (.aload_n 0, 1) := dk_42 (dk_at dksX3_errands_1 4 rfl rfl)
theorem dX3_errands_29 : decode cX3_errands 29 = .ok (.invokevirtual 148, 3) := dk_182 0 148 (dk_at dksX3_errands_1 5 rfl rfl)
theorem dX3_errands_32 : decode cX3_errands 32 = .ok (.ifCond .eq 115, 3) := dk_153 0 115 (dk_at dksX3_errands_1 8 rfl rfl)
theorem dX3_errands_35 : decode cX3_errands 35 = .ok (.aload_n 0, 1) := dk_42 (dk_at dksX3_errands_1 11 rfl rfl)
theorem dX3_errands_36 : decode cX3_errands 36 = .ok (.getfield 168, 3) := dk_180 0 168 (dk_at dksX3_errands_1 12 rfl rfl)
theorem dX3_errands_39 : decode cX3_errands 39 = .ok (.iload_n 1, 1) := dk_27 (dk_at dksX3_errands_1 15 rfl rfl)
theorem dX3_errands_40 : decode cX3_errands 40 = .ok (.iadd, 1) := dk_96 (dk_at dksX3_errands_1 16 rfl rfl)
theorem dX3_errands_41 : decode cX3_errands 41 = .ok (.bipush 8, 2) := dk_16 8 (dk_at dksX3_errands_1 17 rfl rfl)
theorem dX3_errands_43 : decode cX3_errands 43 = .ok (.if_icmp .ne 14, 3) := dk_160 0 14 (dk_at dksX3_errands_1 19 rfl rfl)
theorem dX3_errands_46 : decode cX3_errands 46 = .ok (.aload_n 0, 1) := dk_42 (dk_at dksX3_errands_1 22 rfl rfl)
theorem dX3_errands_47 : decode cX3_errands 47 = .ok (.aload_n 0, 1) := dk_42 (dk_at dksX3_errands_1 23 rfl rfl)
theorem dX3_errands_48 : decode cX3_errands 48 = .ok (.getfield 138, 3) := dk_180 0 138 (dk_at dksX3_errands_2 0 rfl rfl)
theorem dX3_errands_51 : decode cX3_errands 51 = .ok (.invokevirtual 160, 3) := dk_182 0 160 (dk_at dksX3_errands_2 3 rfl rfl)
theorem dX3_errands_54 : decode cX3_errands 54 = .ok (.goto 80, 3) := dk_167 0 80 (dk_at dksX3_errands_2 6 rfl rfl)
theorem dX3_errands_57 : decode cX3_errands 57 = .ok (.aload_n 0, 1) := dk_42 (dk_at dksX3_errands_2 9 rfl rfl)
theorem dX3_errands_58 : decode cX3_errands 58 = .ok (.getfield 43, 3) := dk_180 0 43 (dk_at dksX3_errands_2 10 rfl rfl)
theorem dX3_errands_61 : decode cX3_errands 61 = .ok (.iconst 4, 1) := dk_7 (dk_at dksX3_errands_2 13 rfl rfl)
theorem dX3_errands_62 : decode cX3_errands 62 = .ok (.iload_n 1, 1) := dk_27 (dk_at dksX3_errands_2 14 rfl rfl)
theorem dX3_errands_63 : decode cX3_errands 63 = .ok (.imul, 1) := dk_104 (dk_at dksX3_errands_2 15 rfl rfl)
theorem dX3_errands_64 : decode cX3_errands 64 = .ok (.aload_n 0, 1) := dk_42 (dk_at dksX3_errands_2 16 rfl rfl)
theorem dX3_errands_65 : decode cX3_errands 65 = .ok (.bipush 97, 2) := dk_16 97 (dk_at dksX3_errands_2 17 rfl rfl)
theorem dX3_errands_67 : decode cX3_errands 67 = .ok (.aload_n 0, 1) := dk_42 (dk_at dksX3_errands_2 19 rfl rfl)
theorem dX3_errands_68 : decode cX3_errands 68 = .ok (.getfield 123, 3) := dk_180 0 123 (dk_at dksX3_errands_2 20 rfl rfl)
theorem dX3_errands_71 : decode cX3_errands 71 = .ok (.invokevirtual 164, 3) := dk_182 0 164 (dk_at dksX3_errands_3 0 rfl rfl)
theorem dX3_errands_74 : decode cX3_errands 74 = .ok (.iastore, 1) := dk_79 (dk_at dksX3_errands_3 3 rfl rfl)
theorem dX3_errands_75 : decode cX3_errands 75 = .ok (.aload_n 0, 1) := dk_42 (dk_at dksX3_errands_3 4 rfl rfl)
theorem dX3_errands_76 : decode cX3_errands 76 = .ok (.getfield 43, 3) := dk_180 0 43 (dk_at dksX3_errands_3 5 rfl rfl)
theorem dX3_errands_79 : decode cX3_errands 79 = .ok (.iconst 4, 1) := dk_7 (dk_at dksX3_errands_3 8 rfl rfl)
theorem dX3_errands_80 : decode cX3_errands 80 = .ok (.iload_n 1, 1) := dk_27 (dk_at dksX3_errands_3 9 rfl rfl)
theorem dX3_errands_81 : decode cX3_errands 81 = .ok (.imul, 1) := dk_104 (dk_at dksX3_errands_3 10 rfl rfl)
theorem dX3_errands_82 : decode cX3_errands 82 = .ok (.iconst 1, 1) := dk_4 (dk_at dksX3_errands_3 11 rfl rfl)
theorem dX3_errands_83 : decode cX3_errands 83 = .ok (.iadd, 1) := dk_96 (dk_at dksX3_errands_3 12 rfl rfl)
theorem dX3_errands_84 : decode cX3_errands 84 = .ok (.aload_n 0, 1) := dk_42 (dk_at dksX3_errands_3 13 rfl rfl)
theorem dX3_errands_85 : decode cX3_errands 85 = .ok (.bipush 48, 2) := dk_16 48 (dk_at dksX3_errands_3 14 rfl rfl)
theorem dX3_errands_87 : decode cX3_errands 87 = .ok (.bipush 10, 2) := dk_16 10 (dk_at dksX3_errands_3 16 rfl rfl)
theorem dX3_errands_89 : decode cX3_errands 89 = .ok (.invokevirtual 164, 3) := dk_182 0 164 (dk_at dksX3_errands_3 18 rfl rfl)
theorem dX3_errands_92 : decode cX3_errands 92 = .ok (.iastore, 1) := dk_79 (dk_at dksX3_errands_3 21 rfl rfl)
theorem dX3_errands_93 : decode cX3_errands 93 = .ok (.aload_n 0, 1) := dk_42 (dk_at dksX3_errands_3 22 rfl rfl)
theorem dX3_errands_94 : decode cX3_errands 94 = .ok (.getfield 43, 3) := dk_180 0 43 (dk_at dksX3_errands_4 0 rfl rfl)
theorem dX3_errands_97 : decode cX3_errands 97 = .ok (.iconst 4, 1) := dk_7 (dk_at dksX3_errands_4 3 rfl rfl)
theorem dX3_errands_98 : decode cX3_errands 98 = .ok (.iload_n 1, 1) := dk_27 (dk_at dksX3_errands_4 4 rfl rfl)
theorem dX3_errands_99 : decode cX3_errands 99 = .ok (.imul, 1) := dk_104 (dk_at dksX3_errands_4 5 rfl rfl)
theorem dX3_errands_100 : decode cX3_errands 100 = .ok (.iconst 2, 1) := dk_5 (dk_at dksX3_errands_4 6 rfl rfl)
theorem dX3_errands_101 : decode cX3_errands 101 = .ok (.iadd, 1) := dk_96 (dk_at dksX3_errands_4 7 rfl rfl)
theorem dX3_errands_102 : decode cX3_errands 102 = .ok (.aload_n 0, 1) := dk_42 (dk_at dksX3_errands_4 8 rfl rfl)
theorem dX3_errands_103 : decode cX3_errands 103 = .ok (.bipush 48, 2) := dk_16 48 (dk_at dksX3_errands_4 9 rfl rfl)
theorem dX3_errands_105 : decode cX3_errands 105 = .ok (.aload_n 0, 1) := dk_42 (dk_at dksX3_errands_4 11 rfl rfl)
theorem dX3_errands_106 : decode cX3_errands 106 = .ok (.getfield 13, 3) := dk_180 0 13 (dk_at dksX3_errands_4 12 rfl rfl)
theorem dX3_errands_109 : decode cX3_errands 109 = .ok (.invokevirtual 164, 3) := dk_182 0 164 (dk_at dksX3_errands_4 15 rfl rfl)
theorem dX3_errands_112 : decode cX3_errands 112 = .ok (.iastore, 1) := dk_79 (dk_at dksX3_errands_4 18 rfl rfl)
theorem dX3_errands_113 : decode cX3_errands 113 = .ok (.aload_n 0, 1) := dk_42 (dk_at dksX3_errands_4 19 rfl rfl)
theorem dX3_errands_114 : decode cX3_errands 114 = .ok (.bipush 61, 2) := dk_16 61 (dk_at dksX3_errands_4 20 rfl rfl)
theorem dX3_errands_116 : decode cX3_errands 116 = .ok (.invokevirtual 186, 3) := dk_182 0 186 (dk_at dksX3_errands_5 0 rfl rfl)
theorem dX3_errands_119 : decode cX3_errands 119 = .ok (.aload_n 0, 1) := dk_42 (dk_at dksX3_errands_5 3 rfl rfl)
theorem dX3_errands_120 : decode cX3_errands 120 = .ok (.getfield 43, 3) := dk_180 0 43 (dk_at dksX3_errands_5 4 rfl rfl)
theorem dX3_errands_123 : decode cX3_errands 123 = .ok (.iconst 4, 1) := dk_7 (dk_at dksX3_errands_5 7 rfl rfl)
theorem dX3_errands_124 : decode cX3_errands 124 = .ok (.iload_n 1, 1) := dk_27 (dk_at dksX3_errands_5 8 rfl rfl)
theorem dX3_errands_125 : decode cX3_errands 125 = .ok (.imul, 1) := dk_104 (dk_at dksX3_errands_5 9 rfl rfl)
theorem dX3_errands_126 : decode cX3_errands 126 = .ok (.iconst 3, 1) := dk_6 (dk_at dksX3_errands_5 10 rfl rfl)
theorem dX3_errands_127 : decode cX3_errands 127 = .ok (.iadd, 1) := dk_96 (dk_at dksX3_errands_5 11 rfl rfl)
theorem dX3_errands_128 : decode cX3_errands 128 = .ok (.aload_n 0, 1) := dk_42 (dk_at dksX3_errands_5 12 rfl rfl)
theorem dX3_errands_129 : decode cX3_errands 129 = .ok (.iconst 2, 1) := dk_5 (dk_at dksX3_errands_5 13 rfl rfl)
theorem dX3_errands_130 : decode cX3_errands 130 = .ok (.invokevirtual 190, 3) := dk_182 0 190 (dk_at dksX3_errands_5 14 rfl rfl)
theorem dX3_errands_133 : decode cX3_errands 133 = .ok (.iastore, 1) := dk_79 (dk_at dksX3_errands_5 17 rfl rfl)
theorem dX3_errands_134 : decode cX3_errands 134 = .ok (.iinc 1 1, 3) := dk_132 1 1 (dk_at dksX3_errands_5 18 rfl rfl)
theorem dX3_errands_137 : decode cX3_errands 137 = .ok (.aload_n 0, 1) := dk_42 (dk_at dksX3_errands_5 21 rfl rfl)
theorem dX3_errands_138 : decode cX3_errands 138 = .ok (.bipush 59, 2) := dk_16 59 (dk_at dksX3_errands_5 22 rfl rfl)
theorem dX3_errands_140 : decode cX3_errands 140 = .ok (.invokevirtual 156, 3) := dk_182 0 156 (dk_at dksX3_errands_6 0 rfl rfl)
theorem dX3_errands_143 : decode cX3_errands 143 = .ok (.istore_n 2, 1) := dk_61 (dk_at dksX3_errands_6 3 rfl rfl)
theorem dX3_errands_144 : decode cX3_errands 144 = .ok (.goto (-120), 3) := dk_167 255 136 (dk_at dksX3_errands_6 4 rfl rfl)
theorem dX3_errands_147 : decode cX3_errands 147 = .ok (.aload_n 0, 1) := dk_42 (dk_at dksX3_errands_6 7 rfl rfl)
theorem dX3_errands_148 : decode cX3_errands 148 = .ok (.invokevirtual 183, 3) := dk_182 0 183 (dk_at dksX3_errands_6 8 rfl rfl)
theorem dX3_errands_151 : decode cX3_errands 151 = .ok (.ifCond .ne 10, 3) := dk_154 0 10 (dk_at dksX3_errands_6 11 rfl rfl)
theorem dX3_errands_154 : decode cX3_errands 154 = .ok (.iconst (-1), 1) := dk_2 (dk_at dksX3_errands_6 14 rfl rfl)
theorem dX3_errands_155 : decode cX3_errands 155 = .ok (.aload_n 0, 1) := dk_42 (dk_at dksX3_errands_6 15 rfl rfl)
theorem dX3_errands_156 : decode cX3_errands 156 = .ok (.getfield 141, 3) := dk_180 0 141 (dk_at dksX3_errands_6 16 rfl rfl)
theorem dX3_errands_159 : decode cX3_errands 159 = .ok (.isub, 1) := dk_100 (dk_at dksX3_errands_6 19 rfl rfl)
theorem dX3_errands_160 : decode cX3_errands 160 = .ok (.ireturn, 1) := dk_172 (dk_at dksX3_errands_6 20 rfl rfl)
theorem dX3_errands_161 : decode cX3_errands 161 = .ok (.iconst 0, 1) := dk_3 (dk_at dksX3_errands_6 21 rfl rfl)
theorem dX3_errands_162 : decode cX3_errands 162 = .ok (.istore_n 3, 1) := dk_62 (dk_at dksX3_errands_6 22 rfl rfl)
theorem dX3_errands_163 : decode cX3_errands 163 = .ok (.iload_n 3, 1) := dk_29 (dk_at dksX3_errands_6 23 rfl rfl)
theorem dX3_errands_164 : decode cX3_errands 164 = .ok (.iconst 4, 1) := dk_7 (dk_at dksX3_errands_7 0 rfl rfl)
theorem dX3_errands_165 : decode cX3_errands 165 = .ok (.iload_n 1, 1) := dk_27 (dk_at dksX3_errands_7 1 rfl rfl)
theorem dX3_errands_166 : decode cX3_errands 166 = .ok (.imul, 1) := dk_104 (dk_at dksX3_errands_7 2 rfl rfl)
theorem dX3_errands_167 : decode cX3_errands 167 = .ok (.if_icmp .ge 28, 3) := dk_162 0 28 (dk_at dksX3_errands_7 3 rfl rfl)
theorem dX3_errands_170 : decode cX3_errands 170 = .ok (.aload_n 0, 1) := dk_42 (dk_at dksX3_errands_7 6 rfl rfl)
theorem dX3_errands_171 : decode cX3_errands 171 = .ok (.getfield 27, 3) := dk_180 0 27 (dk_at dksX3_errands_7 7 rfl rfl)
theorem dX3_errands_174 : decode cX3_errands 174 = .ok (.iconst 4, 1) := dk_7 (dk_at dksX3_errands_7 10 rfl rfl)
theorem dX3_errands_175 : decode cX3_errands 175 = .ok (.aload_n 0, 1) := dk_42 (dk_at dksX3_errands_7 11 rfl rfl)
theorem dX3_errands_176 : decode cX3_errands 176 = .ok (.getfield 168, 3) := dk_180 0 168 (dk_at dksX3_errands_7 12 rfl rfl)
theorem dX3_errands_179 : decode cX3_errands 179 = .ok (.imul, 1) := dk_104 (dk_at dksX3_errands_7 15 rfl rfl)
theorem dX3_errands_180 : decode cX3_errands 180 = .ok (.iload_n 3, 1) := dk_29 (dk_at dksX3_errands_7 16 rfl rfl)
theorem dX3_errands_181 : decode cX3_errands 181 = .ok (.iadd, 1) := dk_96 (dk_at dksX3_errands_7 17 rfl rfl)
theorem dX3_errands_182 : decode cX3_errands 182 = .ok (.aload_n 0, 1) := dk_42 (dk_at dksX3_errands_7 18 rfl rfl)
theorem dX3_errands_183 : decode cX3_errands 183 = .ok (.getfield 43, 3) := dk_180 0 43 (dk_at dksX3_errands_7 19 rfl rfl)
theorem dX3_errands_186 : decode cX3_errands 186 = .ok (.iload_n 3, 1) := dk_29 (dk_at dksX3_errands_7 22 rfl rfl)
theorem dX3_errands_187 : decode cX3_errands 187 = .ok (.iaload, 1) := dk_46 (dk_at dksX3_errands_7 23 rfl rfl)
theorem dX3_errands_188 : decode cX3_errands 188 = .ok (.iastore, 1) := dk_79 (dk_at dksX3_errands_8 0 rfl rfl)
theorem dX3_errands_189 : decode cX3_errands 189 = .ok (.iinc 3 1, 3) := dk_132 3 1 (dk_at dksX3_errands_8 1 rfl rfl)
theorem dX3_errands_192 : decode cX3_errands 192 = .ok (.goto (-29), 3) := dk_167 255 227 (dk_at dksX3_errands_8 4 rfl rfl)
theorem dX3_errands_195 : decode cX3_errands 195 = .ok (.aload_n 0, 1) := dk_42 (dk_at dksX3_errands_8 7 rfl rfl)
theorem dX3_errands_196 : decode cX3_errands 196 = .ok (.dup, 1) := dk_89 (dk_at dksX3_errands_8 8 rfl rfl)
theorem dX3_errands_197 : decode cX3_errands 197 = .ok (.getfield 168, 3) := dk_180 0 168 (dk_at dksX3_errands_8 9 rfl rfl)
theorem dX3_errands_200 : decode cX3_errands 200 = .ok (.iload_n 1, 1) := dk_27 (dk_at dksX3_errands_8 12 rfl rfl)
theorem dX3_errands_201 : decode cX3_errands 201 = .ok (.iadd, 1) := dk_96 (dk_at dksX3_errands_8 13 rfl rfl)
theorem dX3_errands_202 : decode cX3_errands 202 = .ok (.putfield 168, 3) := dk_181 0 168 (dk_at dksX3_errands_8 14 rfl rfl)
theorem dX3_errands_205 : decode cX3_errands 205 = .ok (.aload_n 0, 1) := dk_42 (dk_at dksX3_errands_8 17 rfl rfl)
theorem dX3_errands_206 : decode cX3_errands 206 = .ok (.iconst 0, 1) := dk_3 (dk_at dksX3_errands_8 18 rfl rfl)
theorem dX3_errands_207 : decode cX3_errands 207 = .ok (.putfield 171, 3) := dk_181 0 171 (dk_at dksX3_errands_8 19 rfl rfl)
theorem dX3_errands_210 : decode cX3_errands 210 = .ok (.aload_n 0, 1) := dk_42 (dk_at dksX3_errands_8 22 rfl rfl)
theorem dX3_errands_211 : decode cX3_errands 211 = .ok (.dup, 1) := dk_89 (dk_at dksX3_errands_8 23 rfl rfl)
theorem dX3_errands_212 : decode cX3_errands 212 = .ok (.getfield 174, 3) := dk_180 0 174 (dk_at dksX3_errands_9 0 rfl rfl)
theorem dX3_errands_215 : decode cX3_errands 215 = .ok (.iconst 1, 1) := dk_4 (dk_at dksX3_errands_9 3 rfl rfl)
theorem dX3_errands_216 : decode cX3_errands 216 = .ok (.iadd, 1) := dk_96 (dk_at dksX3_errands_9 4 rfl rfl)
theorem dX3_errands_217 : decode cX3_errands 217 = .ok (.putfield 174, 3) := dk_181 0 174 (dk_at dksX3_errands_9 5 rfl rfl)
theorem dX3_errands_220 : decode cX3_errands 220 = .ok (.iload_n 1, 1) := dk_27 (dk_at dksX3_errands_9 8 rfl rfl)
theorem dX3_errands_221 : decode cX3_errands 221 = .ok (.ireturn, 1) := dk_172 (dk_at dksX3_errands_9 9 rfl rfl)
def dkwX3_rule_2 : List UInt8 := [167, 255, 236, 42, 27, 181, 0, 216, 3, 172]
abbrev dktX3_rule_2 : List UInt8 := dkwX3_rule_2 ++ []
def dkwX3_rule_1 : List UInt8 := [3, 61, 28, 27, 162, 0, 21, 42, 180, 0, 46, 28, 42, 180, 0, 30, 28, 51, 84, 132, 2, 1]
abbrev dktX3_rule_1 : List UInt8 := dkwX3_rule_1 ++ dktX3_rule_2
def dkwX3_rule_0 : List UInt8 := [42, 3, 181, 0, 110, 42, 180, 0, 126, 60, 42, 182, 0, 213, 154, 0, 10, 2, 42, 180, 0, 141, 100, 172]
abbrev dktX3_rule_0 : List UInt8 := dkwX3_rule_0 ++ dktX3_rule_1
theorem dksX3_rule_0 : cX3_rule.data.toList.drop 0 = dktX3_rule_0 := by decide +kernel
theorem dksX3_rule_1 : cX3_rule.data.toList.drop 24 = dktX3_rule_1 := dk_seg dksX3_rule_0 24 rfl rfl
theorem dksX3_rule_2 : cX3_rule.data.toList.drop 46 = dktX3_rule_2 := dk_seg dksX3_rule_1 22 rfl rfl
theorem dX3_rule_0 : decode cX3_rule 0 = .ok (.aload_n 0, 1) := dk_42 (dk_at dksX3_rule_0 0 rfl rfl)
theorem dX3_rule_1 : decode cX3_rule 1 = .ok (.iconst 0, 1) := dk_3 (dk_at dksX3_rule_0 1 rfl rfl)
theorem dX3_rule_2 : decode cX3_rule 2 = .ok (.putfield 110, 3) := dk_181 0 110 (dk_at dksX3_rule_0 2 rfl rfl)
theorem dX3_rule_5 : decode cX3_rule 5 = .ok (.aload_n 0, 1) := dk_42 (dk_at dksX3_rule_0 5 rfl rfl)
theorem dX3_rule_6 : decode cX3_rule 6 = .ok (.getfield 126, 3) := dk_180 0 126 (dk_at dksX3_rule_0 6 rfl rfl)
theorem dX3_rule_9 : decode cX3_rule 9 = .ok (.istore_n 1, 1) := dk_60 (dk_at dksX3_rule_0 9 rfl rfl)
theorem dX3_rule_10 : decode cX3_rule 10 = .ok (.aload_n 0, 1) := dk_42 (dk_at dksX3_rule_0 10 rfl rfl)
theorem dX3_rule_11 : decode cX3_rule 11 = .ok (.invokevirtual 213, 3) := dk_182 0 213 (dk_at dksX3_rule_0 11 rfl rfl)
theorem dX3_rule_14 : decode cX3_rule 14 = .ok (.ifCond .ne 10, 3) := dk_154 0 10 (dk_at dksX3_rule_0 14 rfl rfl)
theorem dX3_rule_17 : decode cX3_rule 17 = .ok (.iconst (-1), 1) := dk_2 (dk_at dksX3_rule_0 17 rfl rfl)
theorem dX3_rule_18 : decode cX3_rule 18 = .ok (.aload_n 0, 1) := dk_42 (dk_at dksX3_rule_0 18 rfl rfl)
theorem dX3_rule_19 : decode cX3_rule 19 = .ok (.getfield 141, 3) := dk_180 0 141 (dk_at dksX3_rule_0 19 rfl rfl)
theorem dX3_rule_22 : decode cX3_rule 22 = .ok (.isub, 1) := dk_100 (dk_at dksX3_rule_0 22 rfl rfl)
theorem dX3_rule_23 : decode cX3_rule 23 = .ok (.ireturn, 1) := dk_172 (dk_at dksX3_rule_0 23 rfl rfl)
theorem dX3_rule_24 : decode cX3_rule 24 = .ok (.iconst 0, 1) := dk_3 (dk_at dksX3_rule_1 0 rfl rfl)
theorem dX3_rule_25 : decode cX3_rule 25 = .ok (.istore_n 2, 1) := dk_61 (dk_at dksX3_rule_1 1 rfl rfl)
theorem dX3_rule_26 : decode cX3_rule 26 = .ok (.iload_n 2, 1) := dk_28 (dk_at dksX3_rule_1 2 rfl rfl)
theorem dX3_rule_27 : decode cX3_rule 27 = .ok (.iload_n 1, 1) := dk_27 (dk_at dksX3_rule_1 3 rfl rfl)
theorem dX3_rule_28 : decode cX3_rule 28 = .ok (.if_icmp .ge 21, 3) := dk_162 0 21 (dk_at dksX3_rule_1 4 rfl rfl)
theorem dX3_rule_31 : decode cX3_rule 31 = .ok (.aload_n 0, 1) := dk_42 (dk_at dksX3_rule_1 7 rfl rfl)
theorem dX3_rule_32 : decode cX3_rule 32 = .ok (.getfield 46, 3) := dk_180 0 46 (dk_at dksX3_rule_1 8 rfl rfl)
theorem dX3_rule_35 : decode cX3_rule 35 = .ok (.iload_n 2, 1) := dk_28 (dk_at dksX3_rule_1 11 rfl rfl)
theorem dX3_rule_36 : decode cX3_rule 36 = .ok (.aload_n 0, 1) := dk_42 (dk_at dksX3_rule_1 12 rfl rfl)
theorem dX3_rule_37 : decode cX3_rule 37 = .ok (.getfield 30, 3) := dk_180 0 30 (dk_at dksX3_rule_1 13 rfl rfl)
theorem dX3_rule_40 : decode cX3_rule 40 = .ok (.iload_n 2, 1) := dk_28 (dk_at dksX3_rule_1 16 rfl rfl)
theorem dX3_rule_41 : decode cX3_rule 41 = .ok (.baload, 1) := dk_51 (dk_at dksX3_rule_1 17 rfl rfl)
theorem dX3_rule_42 : decode cX3_rule 42 = .ok (.bastore, 1) := dk_84 (dk_at dksX3_rule_1 18 rfl rfl)
theorem dX3_rule_43 : decode cX3_rule 43 = .ok (.iinc 2 1, 3) := dk_132 2 1 (dk_at dksX3_rule_1 19 rfl rfl)
theorem dX3_rule_46 : decode cX3_rule 46 = .ok (.goto (-20), 3) := dk_167 255 236 (dk_at dksX3_rule_2 0 rfl rfl)
theorem dX3_rule_49 : decode cX3_rule 49 = .ok (.aload_n 0, 1) := dk_42 (dk_at dksX3_rule_2 3 rfl rfl)
theorem dX3_rule_50 : decode cX3_rule 50 = .ok (.iload_n 1, 1) := dk_27 (dk_at dksX3_rule_2 4 rfl rfl)
theorem dX3_rule_51 : decode cX3_rule 51 = .ok (.putfield 216, 3) := dk_181 0 216 (dk_at dksX3_rule_2 5 rfl rfl)
theorem dX3_rule_54 : decode cX3_rule 54 = .ok (.iconst 0, 1) := dk_3 (dk_at dksX3_rule_2 8 rfl rfl)
theorem dX3_rule_55 : decode cX3_rule 55 = .ok (.ireturn, 1) := dk_172 (dk_at dksX3_rule_2 9 rfl rfl)
def dkwX3_readRule_1 : List UInt8 := [42, 182, 0, 183, 172]
abbrev dktX3_readRule_1 : List UInt8 := dkwX3_readRule_1 ++ []
def dkwX3_readRule_0 : List UInt8 := [42, 16, 40, 182, 0, 177, 42, 3, 181, 0, 209, 42, 180, 0, 132, 158, 0, 9, 42, 3, 182, 0, 203, 87]
abbrev dktX3_readRule_0 : List UInt8 := dkwX3_readRule_0 ++ dktX3_readRule_1
theorem dksX3_readRule_0 : cX3_readRule.data.toList.drop 0 = dktX3_readRule_0 := by decide +kernel
theorem dksX3_readRule_1 : cX3_readRule.data.toList.drop 24 = dktX3_readRule_1 := dk_seg dksX3_readRule_0 24 rfl rfl
theorem dX3_readRule_0 : decode cX3_readRule 0 = .ok (.aload_n 0, 1) := dk_42 (dk_at dksX3_readRule_0 0 rfl rfl)
theorem dX3_readRule_1 : decode cX3_readRule 1 = .ok (.bipush 40, 2) := dk_16 40 (dk_at dksX3_readRule_0 1 rfl rfl)
theorem dX3_readRule_3 : decode cX3_readRule 3 = .ok (.invokevirtual 177, 3) := dk_182 0 177 (dk_at dksX3_readRule_0 3 rfl rfl)
theorem dX3_readRule_6 : decode cX3_readRule 6 = .ok (.aload_n 0, 1) := dk_42 (dk_at dksX3_readRule_0 6 rfl rfl)
theorem dX3_readRule_7 : decode cX3_readRule 7 = .ok (.iconst 0, 1) := dk_3 (dk_at dksX3_readRule_0 7 rfl rfl)
theorem dX3_readRule_8 : decode cX3_readRule 8 = .ok (.putfield 209, 3) := dk_181 0 209 (dk_at dksX3_readRule_0 8 rfl rfl)
theorem dX3_readRule_11 : decode cX3_readRule 11 = .ok (.aload_n 0, 1) := dk_42 (dk_at dksX3_readRule_0 11 rfl rfl)
theorem dX3_readRule_12 : decode cX3_readRule 12 = .ok (.getfield 132, 3) := dk_180 0 132 (dk_at dksX3_readRule_0 12 rfl rfl)
theorem dX3_readRule_15 : decode cX3_readRule 15 = .ok (.ifCond .le 9, 3) := dk_158 0 9 (dk_at dksX3_readRule_0 15 rfl rfl)
theorem dX3_readRule_18 : decode cX3_readRule 18 = .ok (.aload_n 0, 1) := dk_42 (dk_at dksX3_readRule_0 18 rfl rfl)
theorem dX3_readRule_19 : decode cX3_readRule 19 = .ok (.iconst 0, 1) := dk_3 (dk_at dksX3_readRule_0 19 rfl rfl)
theorem dX3_readRule_20 : decode cX3_readRule 20 = .ok (.invokevirtual 203, 3) := dk_182 0 203 (dk_at dksX3_readRule_0 20 rfl rfl)
theorem dX3_readRule_23 : decode cX3_readRule 23 = .ok (.pop, 1) := dk_87 (dk_at dksX3_readRule_0 23 rfl rfl)
theorem dX3_readRule_24 : decode cX3_readRule 24 = .ok (.aload_n 0, 1) := dk_42 (dk_at dksX3_readRule_1 0 rfl rfl)
theorem dX3_readRule_25 : decode cX3_readRule 25 = .ok (.invokevirtual 183, 3) := dk_182 0 183 (dk_at dksX3_readRule_1 1 rfl rfl)
theorem dX3_readRule_28 : decode cX3_readRule 28 = .ok (.ireturn, 1) := dk_172 (dk_at dksX3_readRule_1 4 rfl rfl)
def dkwX3_held_3 : List UInt8 := [4, 167, 0, 4, 3, 172, 28, 172]
abbrev dktX3_held_3 : List UInt8 := dkwX3_held_3 ++ []
def dkwX3_held_2 : List UInt8 := [4, 167, 0, 4, 3, 172, 42, 16, 61, 182, 0, 156, 153, 0, 18, 28, 42, 27, 182, 0, 194, 160, 0, 7]
abbrev dktX3_held_2 : List UInt8 := dkwX3_held_2 ++ dktX3_held_3
def dkwX3_held_1 : List UInt8 := [4, 167, 0, 4, 3, 172, 42, 16, 62, 182, 0, 156, 153, 0, 18, 28, 42, 27, 182, 0, 194, 164, 0, 7]
abbrev dktX3_held_1 : List UInt8 := dkwX3_held_1 ++ dktX3_held_2
def dkwX3_held_0 : List UInt8 := [42, 27, 182, 0, 194, 61, 42, 16, 60, 182, 0, 156, 153, 0, 18, 28, 42, 27, 182, 0, 194, 162, 0, 7]
abbrev dktX3_held_0 : List UInt8 := dkwX3_held_0 ++ dktX3_held_1
theorem dksX3_held_0 : cX3_held.data.toList.drop 0 = dktX3_held_0 := by decide +kernel
theorem dksX3_held_1 : cX3_held.data.toList.drop 24 = dktX3_held_1 := dk_seg dksX3_held_0 24 rfl rfl
theorem dksX3_held_2 : cX3_held.data.toList.drop 48 = dktX3_held_2 := dk_seg dksX3_held_1 24 rfl rfl
theorem dksX3_held_3 : cX3_held.data.toList.drop 72 = dktX3_held_3 := dk_seg dksX3_held_2 24 rfl rfl
theorem dX3_held_0 : decode cX3_held 0 = .ok (.aload_n 0, 1) := dk_42 (dk_at dksX3_held_0 0 rfl rfl)
theorem dX3_held_1 : decode cX3_held 1 = .ok (.iload_n 1, 1) := dk_27 (dk_at dksX3_held_0 1 rfl rfl)
theorem dX3_held_2 : decode cX3_held 2 = .ok (.invokevirtual 194, 3) := dk_182 0 194 (dk_at dksX3_held_0 2 rfl rfl)
theorem dX3_held_5 : decode cX3_held 5 = .ok (.istore_n 2, 1) := dk_61 (dk_at dksX3_held_0 5 rfl rfl)
theorem dX3_held_6 : decode cX3_held 6 = .ok (.aload_n 0, 1) := dk_42 (dk_at dksX3_held_0 6 rfl rfl)
theorem dX3_held_7 : decode cX3_held 7 = .ok (.bipush 60, 2) := dk_16 60 (dk_at dksX3_held_0 7 rfl rfl)
theorem dX3_held_9 : decode cX3_held 9 = .ok (.invokevirtual 156, 3) := dk_182 0 156 (dk_at dksX3_held_0 9 rfl rfl)
theorem dX3_held_12 : decode cX3_held 12 = .ok (.ifCond .eq 18, 3) := dk_153 0 18 (dk_at dksX3_held_0 12 rfl rfl)
theorem dX3_held_15 : decode cX3_held 15 = .ok (.iload_n 2, 1) := dk_28 (dk_at dksX3_held_0 15 rfl rfl)
theorem dX3_held_16 : decode cX3_held 16 = .ok (.aload_n 0, 1) := dk_42 (dk_at dksX3_held_0 16 rfl rfl)
theorem dX3_held_17 : decode cX3_held 17 = .ok (.iload_n 1, 1) := dk_27 (dk_at dksX3_held_0 17 rfl rfl)
theorem dX3_held_18 : decode cX3_held 18 = .ok (.invokevirtual 194, 3) := dk_182 0 194 (dk_at dksX3_held_0 18 rfl rfl)
theorem dX3_held_21 : decode cX3_held 21 = .ok (.if_icmp .ge 7, 3) := dk_162 0 7 (dk_at dksX3_held_0 21 rfl rfl)
theorem dX3_held_24 : decode cX3_held 24 = .ok (.iconst 1, 1) := dk_4 (dk_at dksX3_held_1 0 rfl rfl)
theorem dX3_held_25 : decode cX3_held 25 = .ok (.goto 4, 3) := dk_167 0 4 (dk_at dksX3_held_1 1 rfl rfl)
theorem dX3_held_28 : decode cX3_held 28 = .ok (.iconst 0, 1) := dk_3 (dk_at dksX3_held_1 4 rfl rfl)
theorem dX3_held_29 : decode cX3_held 29 = .ok (.ireturn, 1) := dk_172 (dk_at dksX3_held_1 5 rfl rfl)
theorem dX3_held_30 : decode cX3_held 30 = .ok (.aload_n 0, 1) := dk_42 (dk_at dksX3_held_1 6 rfl rfl)
theorem dX3_held_31 : decode cX3_held 31 = .ok (.bipush 62, 2) := dk_16 62 (dk_at dksX3_held_1 7 rfl rfl)
theorem dX3_held_33 : decode cX3_held 33 = .ok (.invokevirtual 156, 3) := dk_182 0 156 (dk_at dksX3_held_1 9 rfl rfl)
theorem dX3_held_36 : decode cX3_held 36 = .ok (.ifCond .eq 18, 3) := dk_153 0 18 (dk_at dksX3_held_1 12 rfl rfl)
theorem dX3_held_39 : decode cX3_held 39 = .ok (.iload_n 2, 1) := dk_28 (dk_at dksX3_held_1 15 rfl rfl)
theorem dX3_held_40 : decode cX3_held 40 = .ok (.aload_n 0, 1) := dk_42 (dk_at dksX3_held_1 16 rfl rfl)
theorem dX3_held_41 : decode cX3_held 41 = .ok (.iload_n 1, 1) := dk_27 (dk_at dksX3_held_1 17 rfl rfl)
theorem dX3_held_42 : decode cX3_held 42 = .ok (.invokevirtual 194, 3) := dk_182 0 194 (dk_at dksX3_held_1 18 rfl rfl)
theorem dX3_held_45 : decode cX3_held 45 = .ok (.if_icmp .le 7, 3) := dk_164 0 7 (dk_at dksX3_held_1 21 rfl rfl)
theorem dX3_held_48 : decode cX3_held 48 = .ok (.iconst 1, 1) := dk_4 (dk_at dksX3_held_2 0 rfl rfl)
theorem dX3_held_49 : decode cX3_held 49 = .ok (.goto 4, 3) := dk_167 0 4 (dk_at dksX3_held_2 1 rfl rfl)
theorem dX3_held_52 : decode cX3_held 52 = .ok (.iconst 0, 1) := dk_3 (dk_at dksX3_held_2 4 rfl rfl)
theorem dX3_held_53 : decode cX3_held 53 = .ok (.ireturn, 1) := dk_172 (dk_at dksX3_held_2 5 rfl rfl)
theorem dX3_held_54 : decode cX3_held 54 = .ok (.aload_n 0, 1) := dk_42 (dk_at dksX3_held_2 6 rfl rfl)
theorem dX3_held_55 : decode cX3_held 55 = .ok (.bipush 61, 2) := dk_16 61 (dk_at dksX3_held_2 7 rfl rfl)
theorem dX3_held_57 : decode cX3_held 57 = .ok (.invokevirtual 156, 3) := dk_182 0 156 (dk_at dksX3_held_2 9 rfl rfl)
theorem dX3_held_60 : decode cX3_held 60 = .ok (.ifCond .eq 18, 3) := dk_153 0 18 (dk_at dksX3_held_2 12 rfl rfl)
theorem dX3_held_63 : decode cX3_held 63 = .ok (.iload_n 2, 1) := dk_28 (dk_at dksX3_held_2 15 rfl rfl)
theorem dX3_held_64 : decode cX3_held 64 = .ok (.aload_n 0, 1) := dk_42 (dk_at dksX3_held_2 16 rfl rfl)
theorem dX3_held_65 : decode cX3_held 65 = .ok (.iload_n 1, 1) := dk_27 (dk_at dksX3_held_2 17 rfl rfl)
theorem dX3_held_66 : decode cX3_held 66 = .ok (.invokevirtual 194, 3) := dk_182 0 194 (dk_at dksX3_held_2 18 rfl rfl)
theorem dX3_held_69 : decode cX3_held 69 = .ok (.if_icmp .ne 7, 3) := dk_160 0 7 (dk_at dksX3_held_2 21 rfl rfl)
theorem dX3_held_72 : decode cX3_held 72 = .ok (.iconst 1, 1) := dk_4 (dk_at dksX3_held_3 0 rfl rfl)
theorem dX3_held_73 : decode cX3_held 73 = .ok (.goto 4, 3) := dk_167 0 4 (dk_at dksX3_held_3 1 rfl rfl)
theorem dX3_held_76 : decode cX3_held 76 = .ok (.iconst 0, 1) := dk_3 (dk_at dksX3_held_3 4 rfl rfl)
theorem dX3_held_77 : decode cX3_held 77 = .ok (.ireturn, 1) := dk_172 (dk_at dksX3_held_3 5 rfl rfl)
theorem dX3_held_78 : decode cX3_held 78 = .ok (.iload_n 2, 1) := dk_28 (dk_at dksX3_held_3 6 rfl rfl)
theorem dX3_held_79 : decode cX3_held 79 = .ok (.ireturn, 1) := dk_172 (dk_at dksX3_held_3 7 rfl rfl)
def dkwX3_sum_3 : List UInt8 := [167, 0, 7, 28, 21, 4, 100, 61, 167, 255, 183, 28, 172]
abbrev dktX3_sum_3 : List UInt8 := dkwX3_sum_3 ++ []
def dkwX3_sum_2 : List UInt8 := [89, 180, 0, 138, 4, 96, 181, 0, 138, 42, 27, 182, 0, 197, 54, 4, 29, 153, 0, 10, 28, 21, 4, 96]
abbrev dktX3_sum_2 : List UInt8 := dkwX3_sum_2 ++ dktX3_sum_3
def dkwX3_sum_1 : List UInt8 := [182, 0, 152, 16, 45, 160, 0, 54, 42, 182, 0, 152, 16, 43, 160, 0, 7, 4, 167, 0, 4, 3, 62, 42]
abbrev dktX3_sum_1 : List UInt8 := dkwX3_sum_1 ++ dktX3_sum_2
def dkwX3_sum_0 : List UInt8 := [42, 27, 182, 0, 197, 61, 42, 182, 0, 148, 153, 0, 72, 42, 182, 0, 152, 16, 43, 159, 0, 12, 42]
abbrev dktX3_sum_0 : List UInt8 := dkwX3_sum_0 ++ dktX3_sum_1
theorem dksX3_sum_0 : cX3_sum.data.toList.drop 0 = dktX3_sum_0 := by decide +kernel
theorem dksX3_sum_1 : cX3_sum.data.toList.drop 23 = dktX3_sum_1 := dk_seg dksX3_sum_0 23 rfl rfl
theorem dksX3_sum_2 : cX3_sum.data.toList.drop 47 = dktX3_sum_2 := dk_seg dksX3_sum_1 24 rfl rfl
theorem dksX3_sum_3 : cX3_sum.data.toList.drop 71 = dktX3_sum_3 := dk_seg dksX3_sum_2 24 rfl rfl
theorem dX3_sum_0 : decode cX3_sum 0 = .ok (.aload_n 0, 1) := dk_42 (dk_at dksX3_sum_0 0 rfl rfl)
theorem dX3_sum_1 : decode cX3_sum 1 = .ok (.iload_n 1, 1) := dk_27 (dk_at dksX3_sum_0 1 rfl rfl)
theorem dX3_sum_2 : decode cX3_sum 2 = .ok (.invokevirtual 197, 3) := dk_182 0 197 (dk_at dksX3_sum_0 2 rfl rfl)
theorem dX3_sum_5 : decode cX3_sum 5 = .ok (.istore_n 2, 1) := dk_61 (dk_at dksX3_sum_0 5 rfl rfl)
theorem dX3_sum_6 : decode cX3_sum 6 = .ok (.aload_n 0, 1) := dk_42 (dk_at dksX3_sum_0 6 rfl rfl)
theorem dX3_sum_7 : decode cX3_sum 7 = .ok (.invokevirtual 148, 3) := dk_182 0 148 (dk_at dksX3_sum_0 7 rfl rfl)
theorem dX3_sum_10 : decode cX3_sum 10 = .ok (.ifCond .eq 72, 3) := dk_153 0 72 (dk_at dksX3_sum_0 10 rfl rfl)
theorem dX3_sum_13 : decode cX3_sum 13 = .ok (.aload_n 0, 1) := dk_42 (dk_at dksX3_sum_0 13 rfl rfl)
theorem dX3_sum_14 : decode cX3_sum 14 = .ok (.invokevirtual 152, 3) := dk_182 0 152 (dk_at dksX3_sum_0 14 rfl rfl)
theorem dX3_sum_17 : decode cX3_sum 17 = .ok (.bipush 43, 2) := dk_16 43 (dk_at dksX3_sum_0 17 rfl rfl)
theorem dX3_sum_19 : decode cX3_sum 19 = .ok (.if_icmp .eq 12, 3) := dk_159 0 12 (dk_at dksX3_sum_0 19 rfl rfl)
theorem dX3_sum_22 : decode cX3_sum 22 = .ok (.aload_n 0, 1) := dk_42 (dk_at dksX3_sum_0 22 rfl rfl)
theorem dX3_sum_23 : decode cX3_sum 23 = .ok (.invokevirtual 152, 3) := dk_182 0 152 (dk_at dksX3_sum_1 0 rfl rfl)
theorem dX3_sum_26 : decode cX3_sum 26 = .ok (.bipush 45, 2) := dk_16 45 (dk_at dksX3_sum_1 3 rfl rfl)
theorem dX3_sum_28 : decode cX3_sum 28 = .ok (.if_icmp .ne 54, 3) := dk_160 0 54 (dk_at dksX3_sum_1 5 rfl rfl)
theorem dX3_sum_31 : decode cX3_sum 31 = .ok (.aload_n 0, 1) := dk_42 (dk_at dksX3_sum_1 8 rfl rfl)
theorem dX3_sum_32 : decode cX3_sum 32 = .ok (.invokevirtual 152, 3) := dk_182 0 152 (dk_at dksX3_sum_1 9 rfl rfl)
theorem dX3_sum_35 : decode cX3_sum 35 = .ok (.bipush 43, 2) := dk_16 43 (dk_at dksX3_sum_1 12 rfl rfl)
theorem dX3_sum_37 : decode cX3_sum 37 = .ok (.if_icmp .ne 7, 3) := dk_160 0 7 (dk_at dksX3_sum_1 14 rfl rfl)
theorem dX3_sum_40 : decode cX3_sum 40 = .ok (.iconst 1, 1) := dk_4 (dk_at dksX3_sum_1 17 rfl rfl)
theorem dX3_sum_41 : decode cX3_sum 41 = .ok (.goto 4, 3) := dk_167 0 4 (dk_at dksX3_sum_1 18 rfl rfl)
theorem dX3_sum_44 : decode cX3_sum 44 = .ok (.iconst 0, 1) := dk_3 (dk_at dksX3_sum_1 21 rfl rfl)
theorem dX3_sum_45 : decode cX3_sum 45 = .ok (.istore_n 3, 1) := dk_62 (dk_at dksX3_sum_1 22 rfl rfl)
theorem dX3_sum_46 : decode cX3_sum 46 = .ok (.aload_n 0, 1) := dk_42 (dk_at dksX3_sum_1 23 rfl rfl)
theorem dX3_sum_47 : decode cX3_sum 47 = .ok (.dup, 1) := dk_89 (dk_at dksX3_sum_2 0 rfl rfl)
theorem dX3_sum_48 : decode cX3_sum 48 = .ok (.getfield 138, 3) := dk_180 0 138 (dk_at dksX3_sum_2 1 rfl rfl)
theorem dX3_sum_51 : decode cX3_sum 51 = .ok (.iconst 1, 1) := dk_4 (dk_at dksX3_sum_2 4 rfl rfl)
theorem dX3_sum_52 : decode cX3_sum 52 = .ok (.iadd, 1) := dk_96 (dk_at dksX3_sum_2 5 rfl rfl)
theorem dX3_sum_53 : decode cX3_sum 53 = .ok (.putfield 138, 3) := dk_181 0 138 (dk_at dksX3_sum_2 6 rfl rfl)
theorem dX3_sum_56 : decode cX3_sum 56 = .ok (.aload_n 0, 1) := dk_42 (dk_at dksX3_sum_2 9 rfl rfl)
theorem dX3_sum_57 : decode cX3_sum 57 = .ok (.iload_n 1, 1) := dk_27 (dk_at dksX3_sum_2 10 rfl rfl)
theorem dX3_sum_58 : decode cX3_sum 58 = .ok (.invokevirtual 197, 3) := dk_182 0 197 (dk_at dksX3_sum_2 11 rfl rfl)
theorem dX3_sum_61 : decode cX3_sum 61 = .ok (.istore 4, 2) := dk_54 4 (dk_at dksX3_sum_2 14 rfl rfl)
theorem dX3_sum_63 : decode cX3_sum 63 = .ok (.iload_n 3, 1) := dk_29 (dk_at dksX3_sum_2 16 rfl rfl)
theorem dX3_sum_64 : decode cX3_sum 64 = .ok (.ifCond .eq 10, 3) := dk_153 0 10 (dk_at dksX3_sum_2 17 rfl rfl)
theorem dX3_sum_67 : decode cX3_sum 67 = .ok (.iload_n 2, 1) := dk_28 (dk_at dksX3_sum_2 20 rfl rfl)
theorem dX3_sum_68 : decode cX3_sum 68 = .ok (.iload 4, 2) := dk_21 4 (dk_at dksX3_sum_2 21 rfl rfl)
theorem dX3_sum_70 : decode cX3_sum 70 = .ok (.iadd, 1) := dk_96 (dk_at dksX3_sum_2 23 rfl rfl)
theorem dX3_sum_71 : decode cX3_sum 71 = .ok (.goto 7, 3) := dk_167 0 7 (dk_at dksX3_sum_3 0 rfl rfl)
theorem dX3_sum_74 : decode cX3_sum 74 = .ok (.iload_n 2, 1) := dk_28 (dk_at dksX3_sum_3 3 rfl rfl)
theorem dX3_sum_75 : decode cX3_sum 75 = .ok (.iload 4, 2) := dk_21 4 (dk_at dksX3_sum_3 4 rfl rfl)
theorem dX3_sum_77 : decode cX3_sum 77 = .ok (.isub, 1) := dk_100 (dk_at dksX3_sum_3 6 rfl rfl)
theorem dX3_sum_78 : decode cX3_sum 78 = .ok (.istore_n 2, 1) := dk_61 (dk_at dksX3_sum_3 7 rfl rfl)
theorem dX3_sum_79 : decode cX3_sum 79 = .ok (.goto (-73), 3) := dk_167 255 183 (dk_at dksX3_sum_3 8 rfl rfl)
theorem dX3_sum_82 : decode cX3_sum 82 = .ok (.iload_n 2, 1) := dk_28 (dk_at dksX3_sum_3 11 rfl rfl)
theorem dX3_sum_83 : decode cX3_sum 83 = .ok (.ireturn, 1) := dk_172 (dk_at dksX3_sum_3 12 rfl rfl)
def dkwX3_product_3 : List UInt8 := [167, 0, 16, 21, 4, 154, 0, 7, 3, 167, 0, 7, 28, 21, 4, 108, 61, 167, 255, 174, 28, 172]
abbrev dktX3_product_3 : List UInt8 := dkwX3_product_3 ++ []
def dkwX3_product_2 : List UInt8 := [89, 180, 0, 138, 4, 96, 181, 0, 138, 42, 27, 182, 0, 200, 54, 4, 29, 153, 0, 10, 28, 21, 4, 104]
abbrev dktX3_product_2 : List UInt8 := dkwX3_product_2 ++ dktX3_product_3
def dkwX3_product_1 : List UInt8 := [182, 0, 152, 16, 47, 160, 0, 63, 42, 182, 0, 152, 16, 42, 160, 0, 7, 4, 167, 0, 4, 3, 62, 42]
abbrev dktX3_product_1 : List UInt8 := dkwX3_product_1 ++ dktX3_product_2
def dkwX3_product_0 : List UInt8 := [42, 27, 182, 0, 200, 61, 42, 182, 0, 148, 153, 0, 81, 42, 182, 0, 152, 16, 42, 159, 0, 12, 42]
abbrev dktX3_product_0 : List UInt8 := dkwX3_product_0 ++ dktX3_product_1
theorem dksX3_product_0 : cX3_product.data.toList.drop 0 = dktX3_product_0 := by decide +kernel
theorem dksX3_product_1 : cX3_product.data.toList.drop 23 = dktX3_product_1 := dk_seg dksX3_product_0 23 rfl rfl
theorem dksX3_product_2 : cX3_product.data.toList.drop 47 = dktX3_product_2 := dk_seg dksX3_product_1 24 rfl rfl
theorem dksX3_product_3 : cX3_product.data.toList.drop 71 = dktX3_product_3 := dk_seg dksX3_product_2 24 rfl rfl
theorem dX3_product_0 : decode cX3_product 0 = .ok (.aload_n 0, 1) := dk_42 (dk_at dksX3_product_0 0 rfl rfl)
theorem dX3_product_1 : decode cX3_product 1 = .ok (.iload_n 1, 1) := dk_27 (dk_at dksX3_product_0 1 rfl rfl)
theorem dX3_product_2 : decode cX3_product 2 = .ok (.invokevirtual 200, 3) := dk_182 0 200 (dk_at dksX3_product_0 2 rfl rfl)
theorem dX3_product_5 : decode cX3_product 5 = .ok (.istore_n 2, 1) := dk_61 (dk_at dksX3_product_0 5 rfl rfl)
theorem dX3_product_6 : decode cX3_product 6 = .ok (.aload_n 0, 1) := dk_42 (dk_at dksX3_product_0 6 rfl rfl)
theorem dX3_product_7 : decode cX3_product 7 = .ok (.invokevirtual 148, 3) := dk_182 0 148 (dk_at dksX3_product_0 7 rfl rfl)
theorem dX3_product_10 : decode cX3_product 10 = .ok (.ifCond .eq 81, 3) := dk_153 0 81 (dk_at dksX3_product_0 10 rfl rfl)
theorem dX3_product_13 : decode cX3_product 13 = .ok (.aload_n 0, 1) := dk_42 (dk_at dksX3_product_0 13 rfl rfl)
theorem dX3_product_14 : decode cX3_product 14 = .ok (.invokevirtual 152, 3) := dk_182 0 152 (dk_at dksX3_product_0 14 rfl rfl)
theorem dX3_product_17 : decode cX3_product 17 = .ok (.bipush 42, 2) := dk_16 42 (dk_at dksX3_product_0 17 rfl rfl)
theorem dX3_product_19 : decode cX3_product 19 = .ok (.if_icmp .eq 12, 3) := dk_159 0 12 (dk_at dksX3_product_0 19 rfl rfl)
theorem dX3_product_22 : decode cX3_product 22 = .ok (.aload_n 0, 1) := dk_42 (dk_at dksX3_product_0 22 rfl rfl)
theorem dX3_product_23 : decode cX3_product 23 = .ok (.invokevirtual 152, 3) := dk_182 0 152 (dk_at dksX3_product_1 0 rfl rfl)
theorem dX3_product_26 : decode cX3_product 26 = .ok (.bipush 47, 2) := dk_16 47 (dk_at dksX3_product_1 3 rfl rfl)
theorem dX3_product_28 : decode cX3_product 28 = .ok (.if_icmp .ne 63, 3) := dk_160 0 63 (dk_at dksX3_product_1 5 rfl rfl)
theorem dX3_product_31 : decode cX3_product 31 = .ok (.aload_n 0, 1) := dk_42 (dk_at dksX3_product_1 8 rfl rfl)
theorem dX3_product_32 : decode cX3_product 32 = .ok (.invokevirtual 152, 3) := dk_182 0 152 (dk_at dksX3_product_1 9 rfl rfl)
theorem dX3_product_35 : decode cX3_product 35 = .ok (.bipush 42, 2) := dk_16 42 (dk_at dksX3_product_1 12 rfl rfl)
theorem dX3_product_37 : decode cX3_product 37 = .ok (.if_icmp .ne 7, 3) := dk_160 0 7 (dk_at dksX3_product_1 14 rfl rfl)
theorem dX3_product_40 : decode cX3_product 40 = .ok (.iconst 1, 1) := dk_4 (dk_at dksX3_product_1 17 rfl rfl)
theorem dX3_product_41 : decode cX3_product 41 = .ok (.goto 4, 3) := dk_167 0 4 (dk_at dksX3_product_1 18 rfl rfl)
theorem dX3_product_44 : decode cX3_product 44 = .ok (.iconst 0, 1) := dk_3 (dk_at dksX3_product_1 21 rfl rfl)
theorem dX3_product_45 : decode cX3_product 45 = .ok (.istore_n 3, 1) := dk_62 (dk_at dksX3_product_1 22 rfl rfl)
theorem dX3_product_46 : decode cX3_product 46 = .ok (.aload_n 0, 1) := dk_42 (dk_at dksX3_product_1 23 rfl rfl)
theorem dX3_product_47 : decode cX3_product 47 = .ok (.dup, 1) := dk_89 (dk_at dksX3_product_2 0 rfl rfl)
theorem dX3_product_48 : decode cX3_product 48 = .ok (.getfield 138, 3) := dk_180 0 138 (dk_at dksX3_product_2 1 rfl rfl)
theorem dX3_product_51 : decode cX3_product 51 = .ok (.iconst 1, 1) := dk_4 (dk_at dksX3_product_2 4 rfl rfl)
theorem dX3_product_52 : decode cX3_product 52 = .ok (.iadd, 1) := dk_96 (dk_at dksX3_product_2 5 rfl rfl)
theorem dX3_product_53 : decode cX3_product 53 = .ok (.putfield 138, 3) := dk_181 0 138 (dk_at dksX3_product_2 6 rfl rfl)
theorem dX3_product_56 : decode cX3_product 56 = .ok (.aload_n 0, 1) := dk_42 (dk_at dksX3_product_2 9 rfl rfl)
theorem dX3_product_57 : decode cX3_product 57 = .ok (.iload_n 1, 1) := dk_27 (dk_at dksX3_product_2 10 rfl rfl)
theorem dX3_product_58 : decode cX3_product 58 = .ok (.invokevirtual 200, 3) := dk_182 0 200 (dk_at dksX3_product_2 11 rfl rfl)
theorem dX3_product_61 : decode cX3_product 61 = .ok (.istore 4, 2) := dk_54 4 (dk_at dksX3_product_2 14 rfl rfl)
theorem dX3_product_63 : decode cX3_product 63 = .ok (.iload_n 3, 1) := dk_29 (dk_at dksX3_product_2 16 rfl rfl)
theorem dX3_product_64 : decode cX3_product 64 = .ok (.ifCond .eq 10, 3) := dk_153 0 10 (dk_at dksX3_product_2 17 rfl rfl)
theorem dX3_product_67 : decode cX3_product 67 = .ok (.iload_n 2, 1) := dk_28 (dk_at dksX3_product_2 20 rfl rfl)
theorem dX3_product_68 : decode cX3_product 68 = .ok (.iload 4, 2) := dk_21 4 (dk_at dksX3_product_2 21 rfl rfl)
theorem dX3_product_70 : decode cX3_product 70 = .ok (.imul, 1) := dk_104 (dk_at dksX3_product_2 23 rfl rfl)
theorem dX3_product_71 : decode cX3_product 71 = .ok (.goto 16, 3) := dk_167 0 16 (dk_at dksX3_product_3 0 rfl rfl)
theorem dX3_product_74 : decode cX3_product 74 = .ok (.iload 4, 2) := dk_21 4 (dk_at dksX3_product_3 3 rfl rfl)
theorem dX3_product_76 : decode cX3_product 76 = .ok (.ifCond .ne 7, 3) := dk_154 0 7 (dk_at dksX3_product_3 5 rfl rfl)
theorem dX3_product_79 : decode cX3_product 79 = .ok (.iconst 0, 1) := dk_3 (dk_at dksX3_product_3 8 rfl rfl)
theorem dX3_product_80 : decode cX3_product 80 = .ok (.goto 7, 3) := dk_167 0 7 (dk_at dksX3_product_3 9 rfl rfl)
theorem dX3_product_83 : decode cX3_product 83 = .ok (.iload_n 2, 1) := dk_28 (dk_at dksX3_product_3 12 rfl rfl)
theorem dX3_product_84 : decode cX3_product 84 = .ok (.iload 4, 2) := dk_21 4 (dk_at dksX3_product_3 13 rfl rfl)
theorem dX3_product_86 : decode cX3_product 86 = .ok (.idiv, 1) := dk_108 (dk_at dksX3_product_3 15 rfl rfl)
theorem dX3_product_87 : decode cX3_product 87 = .ok (.istore_n 2, 1) := dk_61 (dk_at dksX3_product_3 16 rfl rfl)
theorem dX3_product_88 : decode cX3_product 88 = .ok (.goto (-82), 3) := dk_167 255 174 (dk_at dksX3_product_3 17 rfl rfl)
theorem dX3_product_91 : decode cX3_product 91 = .ok (.iload_n 2, 1) := dk_28 (dk_at dksX3_product_3 20 rfl rfl)
theorem dX3_product_92 : decode cX3_product 92 = .ok (.ireturn, 1) := dk_172 (dk_at dksX3_product_3 21 rfl rfl)
def dkwX3_thing_5 : List UInt8 := [153, 0, 15, 42, 180, 0, 52, 28, 184, 0, 206, 46, 167, 0, 4, 3, 172]
abbrev dktX3_thing_5 : List UInt8 := dkwX3_thing_5 ++ []
def dkwX3_thing_4 : List UInt8 := [180, 0, 138, 182, 0, 160, 3, 172, 42, 89, 180, 0, 138, 4, 96, 181, 0, 138, 42, 180, 0, 209]
abbrev dktX3_thing_4 : List UInt8 := dkwX3_thing_4 ++ dktX3_thing_5
def dkwX3_thing_3 : List UInt8 := [184, 0, 116, 153, 0, 9, 42, 6, 182, 0, 190, 172, 28, 184, 0, 206, 2, 160, 0, 13, 42, 42]
abbrev dktX3_thing_3 : List UInt8 := dkwX3_thing_3 ++ dktX3_thing_4
def dkwX3_thing_2 : List UInt8 := [181, 0, 138, 42, 27, 4, 96, 182, 0, 203, 62, 42, 16, 41, 182, 0, 186, 29, 172, 28, 16, 48, 16, 57]
abbrev dktX3_thing_2 : List UInt8 := dkwX3_thing_2 ++ dktX3_thing_3
def dkwX3_thing_1 : List UInt8 := [172, 42, 182, 0, 152, 61, 28, 16, 40, 160, 0, 34, 27, 7, 162, 0, 29, 42, 89, 180, 0, 138, 4, 96]
abbrev dktX3_thing_1 : List UInt8 := dkwX3_thing_1 ++ dktX3_thing_2
def dkwX3_thing_0 : List UInt8 := [42, 16, 45, 182, 0, 156, 153, 0, 10, 42, 27, 182, 0, 200, 116, 172, 42, 182, 0, 148, 154, 0, 5, 3]
abbrev dktX3_thing_0 : List UInt8 := dkwX3_thing_0 ++ dktX3_thing_1
theorem dksX3_thing_0 : cX3_thing.data.toList.drop 0 = dktX3_thing_0 := by decide +kernel
theorem dksX3_thing_1 : cX3_thing.data.toList.drop 24 = dktX3_thing_1 := dk_seg dksX3_thing_0 24 rfl rfl
theorem dksX3_thing_2 : cX3_thing.data.toList.drop 48 = dktX3_thing_2 := dk_seg dksX3_thing_1 24 rfl rfl
theorem dksX3_thing_3 : cX3_thing.data.toList.drop 72 = dktX3_thing_3 := dk_seg dksX3_thing_2 24 rfl rfl
theorem dksX3_thing_4 : cX3_thing.data.toList.drop 94 = dktX3_thing_4 := dk_seg dksX3_thing_3 22 rfl rfl
theorem dksX3_thing_5 : cX3_thing.data.toList.drop 116 = dktX3_thing_5 := dk_seg dksX3_thing_4 22 rfl rfl
theorem dX3_thing_0 : decode cX3_thing 0 = .ok (.aload_n 0, 1) := dk_42 (dk_at dksX3_thing_0 0 rfl rfl)
theorem dX3_thing_1 : decode cX3_thing 1 = .ok (.bipush 45, 2) := dk_16 45 (dk_at dksX3_thing_0 1 rfl rfl)
theorem dX3_thing_3 : decode cX3_thing 3 = .ok (.invokevirtual 156, 3) := dk_182 0 156 (dk_at dksX3_thing_0 3 rfl rfl)
theorem dX3_thing_6 : decode cX3_thing 6 = .ok (.ifCond .eq 10, 3) := dk_153 0 10 (dk_at dksX3_thing_0 6 rfl rfl)
theorem dX3_thing_9 : decode cX3_thing 9 = .ok (.aload_n 0, 1) := dk_42 (dk_at dksX3_thing_0 9 rfl rfl)
theorem dX3_thing_10 : decode cX3_thing 10 = .ok (.iload_n 1, 1) := dk_27 (dk_at dksX3_thing_0 10 rfl rfl)
theorem dX3_thing_11 : decode cX3_thing 11 = .ok (.invokevirtual 200, 3) := dk_182 0 200 (dk_at dksX3_thing_0 11 rfl rfl)
theorem dX3_thing_14 : decode cX3_thing 14 = .ok (.ineg, 1) := dk_116 (dk_at dksX3_thing_0 14 rfl rfl)
theorem dX3_thing_15 : decode cX3_thing 15 = .ok (.ireturn, 1) := dk_172 (dk_at dksX3_thing_0 15 rfl rfl)
theorem dX3_thing_16 : decode cX3_thing 16 = .ok (.aload_n 0, 1) := dk_42 (dk_at dksX3_thing_0 16 rfl rfl)
theorem dX3_thing_17 : decode cX3_thing 17 = .ok (.invokevirtual 148, 3) := dk_182 0 148 (dk_at dksX3_thing_0 17 rfl rfl)
theorem dX3_thing_20 : decode cX3_thing 20 = .ok (.ifCond .ne 5, 3) := dk_154 0 5 (dk_at dksX3_thing_0 20 rfl rfl)
theorem dX3_thing_23 : decode cX3_thing 23 = .ok (.iconst 0, 1) := dk_3 (dk_at dksX3_thing_0 23 rfl rfl)
theorem dX3_thing_24 : decode cX3_thing 24 = .ok (.ireturn, 1) := dk_172 (dk_at dksX3_thing_1 0 rfl rfl)
theorem dX3_thing_25 : decode cX3_thing 25 = .ok (.aload_n 0, 1) := dk_42 (dk_at dksX3_thing_1 1 rfl rfl)
theorem dX3_thing_26 : decode cX3_thing 26 = .ok (.invokevirtual 152, 3) := dk_182 0 152 (dk_at dksX3_thing_1 2 rfl rfl)
theorem dX3_thing_29 : decode cX3_thing 29 = .ok (.istore_n 2, 1) := dk_61 (dk_at dksX3_thing_1 5 rfl rfl)
theorem dX3_thing_30 : decode cX3_thing 30 = .ok (.iload_n 2, 1) := dk_28 (dk_at dksX3_thing_1 6 rfl rfl)
theorem dX3_thing_31 : decode cX3_thing 31 = .ok (.bipush 40, 2) := dk_16 40 (dk_at dksX3_thing_1 7 rfl rfl)
theorem dX3_thing_33 : decode cX3_thing 33 = .ok (.if_icmp .ne 34, 3) := dk_160 0 34 (dk_at dksX3_thing_1 9 rfl rfl)
theorem dX3_thing_36 : decode cX3_thing 36 = .ok (.iload_n 1, 1) := dk_27 (dk_at dksX3_thing_1 12 rfl rfl)
theorem dX3_thing_37 : decode cX3_thing 37 = .ok (.iconst 4, 1) := dk_7 (dk_at dksX3_thing_1 13 rfl rfl)
theorem dX3_thing_38 : decode cX3_thing 38 = .ok (.if_icmp .ge 29, 3) := dk_162 0 29 (dk_at dksX3_thing_1 14 rfl rfl)
theorem dX3_thing_41 : decode cX3_thing 41 = .ok (.aload_n 0, 1) := dk_42 (dk_at dksX3_thing_1 17 rfl rfl)
theorem dX3_thing_42 : decode cX3_thing 42 = .ok (.dup, 1) := dk_89 (dk_at dksX3_thing_1 18 rfl rfl)
theorem dX3_thing_43 : decode cX3_thing 43 = .ok (.getfield 138, 3) := dk_180 0 138 (dk_at dksX3_thing_1 19 rfl rfl)
theorem dX3_thing_46 : decode cX3_thing 46 = .ok (.iconst 1, 1) := dk_4 (dk_at dksX3_thing_1 22 rfl rfl)
theorem dX3_thing_47 : decode cX3_thing 47 = .ok (.iadd, 1) := dk_96 (dk_at dksX3_thing_1 23 rfl rfl)
theorem dX3_thing_48 : decode cX3_thing 48 = .ok (.putfield 138, 3) := dk_181 0 138 (dk_at dksX3_thing_2 0 rfl rfl)
theorem dX3_thing_51 : decode cX3_thing 51 = .ok (.aload_n 0, 1) := dk_42 (dk_at dksX3_thing_2 3 rfl rfl)
theorem dX3_thing_52 : decode cX3_thing 52 = .ok (.iload_n 1, 1) := dk_27 (dk_at dksX3_thing_2 4 rfl rfl)
theorem dX3_thing_53 : decode cX3_thing 53 = .ok (.iconst 1, 1) := dk_4 (dk_at dksX3_thing_2 5 rfl rfl)
theorem dX3_thing_54 : decode cX3_thing 54 = .ok (.iadd, 1) := dk_96 (dk_at dksX3_thing_2 6 rfl rfl)
theorem dX3_thing_55 : decode cX3_thing 55 = .ok (.invokevirtual 203, 3) := dk_182 0 203 (dk_at dksX3_thing_2 7 rfl rfl)
theorem dX3_thing_58 : decode cX3_thing 58 = .ok (.istore_n 3, 1) := dk_62 (dk_at dksX3_thing_2 10 rfl rfl)
theorem dX3_thing_59 : decode cX3_thing 59 = .ok (.aload_n 0, 1) := dk_42 (dk_at dksX3_thing_2 11 rfl rfl)
theorem dX3_thing_60 : decode cX3_thing 60 = .ok (.bipush 41, 2) := dk_16 41 (dk_at dksX3_thing_2 12 rfl rfl)
theorem dX3_thing_62 : decode cX3_thing 62 = .ok (.invokevirtual 186, 3) := dk_182 0 186 (dk_at dksX3_thing_2 14 rfl rfl)
theorem dX3_thing_65 : decode cX3_thing 65 = .ok (.iload_n 3, 1) := dk_29 (dk_at dksX3_thing_2 17 rfl rfl)
theorem dX3_thing_66 : decode cX3_thing 66 = .ok (.ireturn, 1) := dk_172 (dk_at dksX3_thing_2 18 rfl rfl)
theorem dX3_thing_67 : decode cX3_thing 67 = .ok (.iload_n 2, 1) := dk_28 (dk_at dksX3_thing_2 19 rfl rfl)
theorem dX3_thing_68 : decode cX3_thing 68 = .ok (.bipush 48, 2) := dk_16 48 (dk_at dksX3_thing_2 20 rfl rfl)
theorem dX3_thing_70 : decode cX3_thing 70 = .ok (.bipush 57, 2) := dk_16 57 (dk_at dksX3_thing_2 22 rfl rfl)
theorem dX3_thing_72 : decode cX3_thing 72 = .ok (.invokestatic 116, 3) := dk_184 0 116 (dk_at dksX3_thing_3 0 rfl rfl)
theorem dX3_thing_75 : decode cX3_thing 75 = .ok (.ifCond .eq 9, 3) := dk_153 0 9 (dk_at dksX3_thing_3 3 rfl rfl)
theorem dX3_thing_78 : decode cX3_thing 78 = .ok (.aload_n 0, 1) := dk_42 (dk_at dksX3_thing_3 6 rfl rfl)
theorem dX3_thing_79 : decode cX3_thing 79 = .ok (.iconst 3, 1) := dk_6 (dk_at dksX3_thing_3 7 rfl rfl)
theorem dX3_thing_80 : decode cX3_thing 80 = .ok (.invokevirtual 190, 3) := dk_182 0 190 (dk_at dksX3_thing_3 8 rfl rfl)
theorem dX3_thing_83 : decode cX3_thing 83 = .ok (.ireturn, 1) := dk_172 (dk_at dksX3_thing_3 11 rfl rfl)
theorem dX3_thing_84 : decode cX3_thing 84 = .ok (.iload_n 2, 1) := dk_28 (dk_at dksX3_thing_3 12 rfl rfl)
theorem dX3_thing_85 : decode cX3_thing 85 = .ok (.invokestatic 206, 3) := dk_184 0 206 (dk_at dksX3_thing_3 13 rfl rfl)
theorem dX3_thing_88 : decode cX3_thing 88 = .ok (.iconst (-1), 1) := dk_2 (dk_at dksX3_thing_3 16 rfl rfl)
theorem dX3_thing_89 : decode cX3_thing 89 = .ok (.if_icmp .ne 13, 3) := dk_160 0 13 (dk_at dksX3_thing_3 17 rfl rfl)
theorem dX3_thing_92 : decode cX3_thing 92 = .ok (.aload_n 0, 1) := dk_42 (dk_at dksX3_thing_3 20 rfl rfl)
theorem dX3_thing_93 : decode cX3_thing 93 = .ok (.aload_n 0, 1) := dk_42 (dk_at dksX3_thing_3 21 rfl rfl)
theorem dX3_thing_94 : decode cX3_thing 94 = .ok (.getfield 138, 3) := dk_180 0 138 (dk_at dksX3_thing_4 0 rfl rfl)
theorem dX3_thing_97 : decode cX3_thing 97 = .ok (.invokevirtual 160, 3) := dk_182 0 160 (dk_at dksX3_thing_4 3 rfl rfl)
theorem dX3_thing_100 : decode cX3_thing 100 = .ok (.iconst 0, 1) := dk_3 (dk_at dksX3_thing_4 6 rfl rfl)
theorem dX3_thing_101 : decode cX3_thing 101 = .ok (.ireturn, 1) := dk_172 (dk_at dksX3_thing_4 7 rfl rfl)
theorem dX3_thing_102 : decode cX3_thing 102 = .ok (.aload_n 0, 1) := dk_42 (dk_at dksX3_thing_4 8 rfl rfl)
theorem dX3_thing_103 : decode cX3_thing 103 = .ok (.dup, 1) := dk_89 (dk_at dksX3_thing_4 9 rfl rfl)
theorem dX3_thing_104 : decode cX3_thing 104 = .ok (.getfield 138, 3) := dk_180 0 138 (dk_at dksX3_thing_4 10 rfl rfl)
theorem dX3_thing_107 : decode cX3_thing 107 = .ok (.iconst 1, 1) := dk_4 (dk_at dksX3_thing_4 13 rfl rfl)
theorem dX3_thing_108 : decode cX3_thing 108 = .ok (.iadd, 1) := dk_96 (dk_at dksX3_thing_4 14 rfl rfl)
theorem dX3_thing_109 : decode cX3_thing 109 = .ok (.putfield 138, 3) := dk_181 0 138 (dk_at dksX3_thing_4 15 rfl rfl)
theorem dX3_thing_112 : decode cX3_thing 112 = .ok (.aload_n 0, 1) := dk_42 (dk_at dksX3_thing_4 18 rfl rfl)
theorem dX3_thing_113 : decode cX3_thing 113 = .ok (.getfield 209, 3) := dk_180 0 209 (dk_at dksX3_thing_4 19 rfl rfl)
theorem dX3_thing_116 : decode cX3_thing 116 = .ok (.ifCond .eq 15, 3) := dk_153 0 15 (dk_at dksX3_thing_5 0 rfl rfl)
theorem dX3_thing_119 : decode cX3_thing 119 = .ok (.aload_n 0, 1) := dk_42 (dk_at dksX3_thing_5 3 rfl rfl)
theorem dX3_thing_120 : decode cX3_thing 120 = .ok (.getfield 52, 3) := dk_180 0 52 (dk_at dksX3_thing_5 4 rfl rfl)
theorem dX3_thing_123 : decode cX3_thing 123 = .ok (.iload_n 2, 1) := dk_28 (dk_at dksX3_thing_5 7 rfl rfl)
theorem dX3_thing_124 : decode cX3_thing 124 = .ok (.invokestatic 206, 3) := dk_184 0 206 (dk_at dksX3_thing_5 8 rfl rfl)
theorem dX3_thing_127 : decode cX3_thing 127 = .ok (.iaload, 1) := dk_46 (dk_at dksX3_thing_5 11 rfl rfl)
theorem dX3_thing_128 : decode cX3_thing 128 = .ok (.goto 4, 3) := dk_167 0 4 (dk_at dksX3_thing_5 12 rfl rfl)
theorem dX3_thing_131 : decode cX3_thing 131 = .ok (.iconst 0, 1) := dk_3 (dk_at dksX3_thing_5 15 rfl rfl)
theorem dX3_thing_132 : decode cX3_thing 132 = .ok (.ireturn, 1) := dk_172 (dk_at dksX3_thing_5 16 rfl rfl)
def dkwX3_letterOf_3 : List UInt8 := [2, 172]
abbrev dktX3_letterOf_3 : List UInt8 := dkwX3_letterOf_3 ++ []
def dkwX3_letterOf_2 : List UInt8 := [167, 0, 25, 26, 16, 110, 160, 0, 7, 8, 167, 0, 15, 26, 16, 100, 160, 0, 8, 16, 6, 167, 0, 4]
abbrev dktX3_letterOf_2 : List UInt8 := dkwX3_letterOf_2 ++ dktX3_letterOf_3
def dkwX3_letterOf_1 : List UInt8 := [160, 0, 7, 5, 167, 0, 45, 26, 16, 108, 160, 0, 7, 6, 167, 0, 35, 26, 16, 112, 160, 0, 7, 7]
abbrev dktX3_letterOf_1 : List UInt8 := dkwX3_letterOf_1 ++ dktX3_letterOf_2
def dkwX3_letterOf_0 : List UInt8 := [26, 16, 118, 160, 0, 7, 3, 167, 0, 65, 26, 16, 115, 160, 0, 7, 4, 167, 0, 55, 26, 16, 104]
abbrev dktX3_letterOf_0 : List UInt8 := dkwX3_letterOf_0 ++ dktX3_letterOf_1
theorem dksX3_letterOf_0 : cX3_letterOf.data.toList.drop 0 = dktX3_letterOf_0 := by decide +kernel
theorem dksX3_letterOf_1 : cX3_letterOf.data.toList.drop 23 = dktX3_letterOf_1 := dk_seg dksX3_letterOf_0 23 rfl rfl
theorem dksX3_letterOf_2 : cX3_letterOf.data.toList.drop 47 = dktX3_letterOf_2 := dk_seg dksX3_letterOf_1 24 rfl rfl
theorem dksX3_letterOf_3 : cX3_letterOf.data.toList.drop 71 = dktX3_letterOf_3 := dk_seg dksX3_letterOf_2 24 rfl rfl
theorem dX3_letterOf_0 : decode cX3_letterOf 0 = .ok (.iload_n 0, 1) := dk_26 (dk_at dksX3_letterOf_0 0 rfl rfl)
theorem dX3_letterOf_1 : decode cX3_letterOf 1 = .ok (.bipush 118, 2) := dk_16 118 (dk_at dksX3_letterOf_0 1 rfl rfl)
theorem dX3_letterOf_3 : decode cX3_letterOf 3 = .ok (.if_icmp .ne 7, 3) := dk_160 0 7 (dk_at dksX3_letterOf_0 3 rfl rfl)
theorem dX3_letterOf_6 : decode cX3_letterOf 6 = .ok (.iconst 0, 1) := dk_3 (dk_at dksX3_letterOf_0 6 rfl rfl)
theorem dX3_letterOf_7 : decode cX3_letterOf 7 = .ok (.goto 65, 3) := dk_167 0 65 (dk_at dksX3_letterOf_0 7 rfl rfl)
theorem dX3_letterOf_10 : decode cX3_letterOf 10 = .ok (.iload_n 0, 1) := dk_26 (dk_at dksX3_letterOf_0 10 rfl rfl)
theorem dX3_letterOf_11 : decode cX3_letterOf 11 = .ok (.bipush 115, 2) := dk_16 115 (dk_at dksX3_letterOf_0 11 rfl rfl)
theorem dX3_letterOf_13 : decode cX3_letterOf 13 = .ok (.if_icmp .ne 7, 3) := dk_160 0 7 (dk_at dksX3_letterOf_0 13 rfl rfl)
theorem dX3_letterOf_16 : decode cX3_letterOf 16 = .ok (.iconst 1, 1) := dk_4 (dk_at dksX3_letterOf_0 16 rfl rfl)
theorem dX3_letterOf_17 : decode cX3_letterOf 17 = .ok (.goto 55, 3) := dk_167 0 55 (dk_at dksX3_letterOf_0 17 rfl rfl)
theorem dX3_letterOf_20 : decode cX3_letterOf 20 = .ok (.iload_n 0, 1) := dk_26 (dk_at dksX3_letterOf_0 20 rfl rfl)
theorem dX3_letterOf_21 : decode cX3_letterOf 21 = .ok (.bipush 104, 2) := dk_16 104 (dk_at dksX3_letterOf_0 21 rfl rfl)
theorem dX3_letterOf_23 : decode cX3_letterOf 23 = .ok (.if_icmp .ne 7, 3) := dk_160 0 7 (dk_at dksX3_letterOf_1 0 rfl rfl)
theorem dX3_letterOf_26 : decode cX3_letterOf 26 = .ok (.iconst 2, 1) := dk_5 (dk_at dksX3_letterOf_1 3 rfl rfl)
theorem dX3_letterOf_27 : decode cX3_letterOf 27 = .ok (.goto 45, 3) := dk_167 0 45 (dk_at dksX3_letterOf_1 4 rfl rfl)
theorem dX3_letterOf_30 : decode cX3_letterOf 30 = .ok (.iload_n 0, 1) := dk_26 (dk_at dksX3_letterOf_1 7 rfl rfl)
theorem dX3_letterOf_31 : decode cX3_letterOf 31 = .ok (.bipush 108, 2) := dk_16 108 (dk_at dksX3_letterOf_1 8 rfl rfl)
theorem dX3_letterOf_33 : decode cX3_letterOf 33 = .ok (.if_icmp .ne 7, 3) := dk_160 0 7 (dk_at dksX3_letterOf_1 10 rfl rfl)
theorem dX3_letterOf_36 : decode cX3_letterOf 36 = .ok (.iconst 3, 1) := dk_6 (dk_at dksX3_letterOf_1 13 rfl rfl)
theorem dX3_letterOf_37 : decode cX3_letterOf 37 = .ok (.goto 35, 3) := dk_167 0 35 (dk_at dksX3_letterOf_1 14 rfl rfl)
theorem dX3_letterOf_40 : decode cX3_letterOf 40 = .ok (.iload_n 0, 1) := dk_26 (dk_at dksX3_letterOf_1 17 rfl rfl)
theorem dX3_letterOf_41 : decode cX3_letterOf 41 = .ok (.bipush 112, 2) := dk_16 112 (dk_at dksX3_letterOf_1 18 rfl rfl)
theorem dX3_letterOf_43 : decode cX3_letterOf 43 = .ok (.if_icmp .ne 7, 3) := dk_160 0 7 (dk_at dksX3_letterOf_1 20 rfl rfl)
theorem dX3_letterOf_46 : decode cX3_letterOf 46 = .ok (.iconst 4, 1) := dk_7 (dk_at dksX3_letterOf_1 23 rfl rfl)
theorem dX3_letterOf_47 : decode cX3_letterOf 47 = .ok (.goto 25, 3) := dk_167 0 25 (dk_at dksX3_letterOf_2 0 rfl rfl)
theorem dX3_letterOf_50 : decode cX3_letterOf 50 = .ok (.iload_n 0, 1) := dk_26 (dk_at dksX3_letterOf_2 3 rfl rfl)
theorem dX3_letterOf_51 : decode cX3_letterOf 51 = .ok (.bipush 110, 2) := dk_16 110 (dk_at dksX3_letterOf_2 4 rfl rfl)
theorem dX3_letterOf_53 : decode cX3_letterOf 53 = .ok (.if_icmp .ne 7, 3) := dk_160 0 7 (dk_at dksX3_letterOf_2 6 rfl rfl)
theorem dX3_letterOf_56 : decode cX3_letterOf 56 = .ok (.iconst 5, 1) := dk_8 (dk_at dksX3_letterOf_2 9 rfl rfl)
theorem dX3_letterOf_57 : decode cX3_letterOf 57 = .ok (.goto 15, 3) := dk_167 0 15 (dk_at dksX3_letterOf_2 10 rfl rfl)
theorem dX3_letterOf_60 : decode cX3_letterOf 60 = .ok (.iload_n 0, 1) := dk_26 (dk_at dksX3_letterOf_2 13 rfl rfl)
theorem dX3_letterOf_61 : decode cX3_letterOf 61 = .ok (.bipush 100, 2) := dk_16 100 (dk_at dksX3_letterOf_2 14 rfl rfl)
theorem dX3_letterOf_63 : decode cX3_letterOf 63 = .ok (.if_icmp .ne 8, 3) := dk_160 0 8 (dk_at dksX3_letterOf_2 16 rfl rfl)
theorem dX3_letterOf_66 : decode cX3_letterOf 66 = .ok (.bipush 6, 2) := dk_16 6 (dk_at dksX3_letterOf_2 19 rfl rfl)
theorem dX3_letterOf_68 : decode cX3_letterOf 68 = .ok (.goto 4, 3) := dk_167 0 4 (dk_at dksX3_letterOf_2 21 rfl rfl)
theorem dX3_letterOf_71 : decode cX3_letterOf 71 = .ok (.iconst (-1), 1) := dk_2 (dk_at dksX3_letterOf_3 0 rfl rfl)
theorem dX3_letterOf_72 : decode cX3_letterOf 72 = .ok (.ireturn, 1) := dk_172 (dk_at dksX3_letterOf_3 1 rfl rfl)
def dkwX3_word_3 : List UInt8 := [167, 0, 11, 42, 27, 28, 7, 100, 182, 0, 238, 172]
abbrev dktX3_word_3 : List UInt8 := dkwX3_word_3 ++ []
def dkwX3_word_2 : List UInt8 := [182, 0, 248, 167, 0, 31, 28, 7, 162, 0, 18, 42, 180, 0, 24, 5, 27, 104, 28, 96, 5, 100, 46]
abbrev dktX3_word_2 : List UInt8 := dkwX3_word_2 ++ dktX3_word_3
def dkwX3_word_1 : List UInt8 := [182, 0, 245, 172, 28, 154, 0, 12, 42, 180, 0, 21, 27, 46, 167, 0, 44, 28, 4, 160, 0, 11, 42, 27]
abbrev dktX3_word_1 : List UInt8 := dkwX3_word_1 ++ dktX3_word_2
def dkwX3_word_0 : List UInt8 := [42, 3, 181, 0, 110, 42, 27, 182, 0, 241, 153, 0, 13, 28, 3, 16, 8, 184, 0, 116, 154, 0, 8, 42]
abbrev dktX3_word_0 : List UInt8 := dkwX3_word_0 ++ dktX3_word_1
theorem dksX3_word_0 : cX3_word.data.toList.drop 0 = dktX3_word_0 := by decide +kernel
theorem dksX3_word_1 : cX3_word.data.toList.drop 24 = dktX3_word_1 := dk_seg dksX3_word_0 24 rfl rfl
theorem dksX3_word_2 : cX3_word.data.toList.drop 48 = dktX3_word_2 := dk_seg dksX3_word_1 24 rfl rfl
theorem dksX3_word_3 : cX3_word.data.toList.drop 71 = dktX3_word_3 := dk_seg dksX3_word_2 23 rfl rfl
theorem dX3_word_0 : decode cX3_word 0 = .ok (.aload_n 0, 1) := dk_42 (dk_at dksX3_word_0 0 rfl rfl)
theorem dX3_word_1 : decode cX3_word 1 = .ok (.iconst 0, 1) := dk_3 (dk_at dksX3_word_0 1 rfl rfl)
theorem dX3_word_2 : decode cX3_word 2 = .ok (.putfield 110, 3) := dk_181 0 110 (dk_at dksX3_word_0 2 rfl rfl)
theorem dX3_word_5 : decode cX3_word 5 = .ok (.aload_n 0, 1) := dk_42 (dk_at dksX3_word_0 5 rfl rfl)
theorem dX3_word_6 : decode cX3_word 6 = .ok (.iload_n 1, 1) := dk_27 (dk_at dksX3_word_0 6 rfl rfl)
theorem dX3_word_7 : decode cX3_word 7 = .ok (.invokevirtual 241, 3) := dk_182 0 241 (dk_at dksX3_word_0 7 rfl rfl)
theorem dX3_word_10 : decode cX3_word 10 = .ok (.ifCond .eq 13, 3) := dk_153 0 13 (dk_at dksX3_word_0 10 rfl rfl)
theorem dX3_word_13 : decode cX3_word 13 = .ok (.iload_n 2, 1) := dk_28 (dk_at dksX3_word_0 13 rfl rfl)
theorem dX3_word_14 : decode cX3_word 14 = .ok (.iconst 0, 1) := dk_3 (dk_at dksX3_word_0 14 rfl rfl)
theorem dX3_word_15 : decode cX3_word 15 = .ok (.bipush 8, 2) := dk_16 8 (dk_at dksX3_word_0 15 rfl rfl)
theorem dX3_word_17 : decode cX3_word 17 = .ok (.invokestatic 116, 3) := dk_184 0 116 (dk_at dksX3_word_0 17 rfl rfl)
theorem dX3_word_20 : decode cX3_word 20 = .ok (.ifCond .ne 8, 3) := dk_154 0 8 (dk_at dksX3_word_0 20 rfl rfl)
theorem dX3_word_23 : decode cX3_word 23 = .ok (.aload_n 0, 1) := dk_42 (dk_at dksX3_word_0 23 rfl rfl)
theorem dX3_word_24 : decode cX3_word 24 = .ok (.invokevirtual 245, 3) := dk_182 0 245 (dk_at dksX3_word_1 0 rfl rfl)
theorem dX3_word_27 : decode cX3_word 27 = .ok (.ireturn, 1) := dk_172 (dk_at dksX3_word_1 3 rfl rfl)
theorem dX3_word_28 : decode cX3_word 28 = .ok (.iload_n 2, 1) := dk_28 (dk_at dksX3_word_1 4 rfl rfl)
theorem dX3_word_29 : decode cX3_word 29 = .ok (.ifCond .ne 12, 3) := dk_154 0 12 (dk_at dksX3_word_1 5 rfl rfl)
theorem dX3_word_32 : decode cX3_word 32 = .ok (.aload_n 0, 1) := dk_42 (dk_at dksX3_word_1 8 rfl rfl)
theorem dX3_word_33 : decode cX3_word 33 = .ok (.getfield 21, 3) := dk_180 0 21 (dk_at dksX3_word_1 9 rfl rfl)
theorem dX3_word_36 : decode cX3_word 36 = .ok (.iload_n 1, 1) := dk_27 (dk_at dksX3_word_1 12 rfl rfl)
theorem dX3_word_37 : decode cX3_word 37 = .ok (.iaload, 1) := dk_46 (dk_at dksX3_word_1 13 rfl rfl)
theorem dX3_word_38 : decode cX3_word 38 = .ok (.goto 44, 3) := dk_167 0 44 (dk_at dksX3_word_1 14 rfl rfl)
theorem dX3_word_41 : decode cX3_word 41 = .ok (.iload_n 2, 1) := dk_28 (dk_at dksX3_word_1 17 rfl rfl)
theorem dX3_word_42 : decode cX3_word 42 = .ok (.iconst 1, 1) := dk_4 (dk_at dksX3_word_1 18 rfl rfl)
theorem dX3_word_43 : decode cX3_word 43 = .ok (.if_icmp .ne 11, 3) := dk_160 0 11 (dk_at dksX3_word_1 19 rfl rfl)
theorem dX3_word_46 : decode cX3_word 46 = .ok (.aload_n 0, 1) := dk_42 (dk_at dksX3_word_1 22 rfl rfl)
theorem dX3_word_47 : decode cX3_word 47 = .ok (.iload_n 1, 1) := dk_27 (dk_at dksX3_word_1 23 rfl rfl)
theorem dX3_word_48 : decode cX3_word 48 = .ok (.invokevirtual 248, 3) := dk_182 0 248 (dk_at dksX3_word_2 0 rfl rfl)
theorem dX3_word_51 : decode cX3_word 51 = .ok (.goto 31, 3) := dk_167 0 31 (dk_at dksX3_word_2 3 rfl rfl)
theorem dX3_word_54 : decode cX3_word 54 = .ok (.iload_n 2, 1) := dk_28 (dk_at dksX3_word_2 6 rfl rfl)
theorem dX3_word_55 : decode cX3_word 55 = .ok (.iconst 4, 1) := dk_7 (dk_at dksX3_word_2 7 rfl rfl)
theorem dX3_word_56 : decode cX3_word 56 = .ok (.if_icmp .ge 18, 3) := dk_162 0 18 (dk_at dksX3_word_2 8 rfl rfl)
theorem dX3_word_59 : decode cX3_word 59 = .ok (.aload_n 0, 1) := dk_42 (dk_at dksX3_word_2 11 rfl rfl)
theorem dX3_word_60 : decode cX3_word 60 = .ok (.getfield 24, 3) := dk_180 0 24 (dk_at dksX3_word_2 12 rfl rfl)
theorem dX3_word_63 : decode cX3_word 63 = .ok (.iconst 2, 1) := dk_5 (dk_at dksX3_word_2 15 rfl rfl)
theorem dX3_word_64 : decode cX3_word 64 = .ok (.iload_n 1, 1) := dk_27 (dk_at dksX3_word_2 16 rfl rfl)
theorem dX3_word_65 : decode cX3_word 65 = .ok (.imul, 1) := dk_104 (dk_at dksX3_word_2 17 rfl rfl)
theorem dX3_word_66 : decode cX3_word 66 = .ok (.iload_n 2, 1) := dk_28 (dk_at dksX3_word_2 18 rfl rfl)
theorem dX3_word_67 : decode cX3_word 67 = .ok (.iadd, 1) := dk_96 (dk_at dksX3_word_2 19 rfl rfl)
theorem dX3_word_68 : decode cX3_word 68 = .ok (.iconst 2, 1) := dk_5 (dk_at dksX3_word_2 20 rfl rfl)
theorem dX3_word_69 : decode cX3_word 69 = .ok (.isub, 1) := dk_100 (dk_at dksX3_word_2 21 rfl rfl)
theorem dX3_word_70 : decode cX3_word 70 = .ok (.iaload, 1) := dk_46 (dk_at dksX3_word_2 22 rfl rfl)
theorem dX3_word_71 : decode cX3_word 71 = .ok (.goto 11, 3) := dk_167 0 11 (dk_at dksX3_word_3 0 rfl rfl)
theorem dX3_word_74 : decode cX3_word 74 = .ok (.aload_n 0, 1) := dk_42 (dk_at dksX3_word_3 3 rfl rfl)
theorem dX3_word_75 : decode cX3_word 75 = .ok (.iload_n 1, 1) := dk_27 (dk_at dksX3_word_3 4 rfl rfl)
theorem dX3_word_76 : decode cX3_word 76 = .ok (.iload_n 2, 1) := dk_28 (dk_at dksX3_word_3 5 rfl rfl)
theorem dX3_word_77 : decode cX3_word 77 = .ok (.iconst 4, 1) := dk_7 (dk_at dksX3_word_3 6 rfl rfl)
theorem dX3_word_78 : decode cX3_word 78 = .ok (.isub, 1) := dk_100 (dk_at dksX3_word_3 7 rfl rfl)
theorem dX3_word_79 : decode cX3_word 79 = .ok (.invokevirtual 238, 3) := dk_182 0 238 (dk_at dksX3_word_3 8 rfl rfl)
theorem dX3_word_82 : decode cX3_word 82 = .ok (.ireturn, 1) := dk_172 (dk_at dksX3_word_3 11 rfl rfl)
