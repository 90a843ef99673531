set_option maxRecDepth 100000
def dkwX9_init_9 : List UInt8 := [181, 0, 86, 42, 16, 40, 188, 10, 181, 0, 89, 177]
abbrev dktX9_init_9 : List UInt8 := dkwX9_init_9 ++ []
def dkwX9_init_8 : List UInt8 := [42, 17, 0, 231, 188, 10, 181, 0, 80, 42, 16, 50, 188, 10, 181, 0, 83, 42, 16, 48, 188, 10]
abbrev dktX9_init_8 : List UInt8 := dkwX9_init_8 ++ dktX9_init_9
def dkwX9_init_7 : List UInt8 := [16, 8, 188, 10, 181, 0, 71, 42, 16, 48, 188, 10, 181, 0, 74, 42, 17, 36, 24, 188, 10, 181, 0, 77]
abbrev dktX9_init_7 : List UInt8 := dkwX9_init_7 ++ dktX9_init_8
def dkwX9_init_6 : List UInt8 := [16, 48, 188, 10, 181, 0, 62, 42, 16, 48, 188, 10, 181, 0, 65, 42, 16, 48, 188, 10, 181, 0, 68, 42]
abbrev dktX9_init_6 : List UInt8 := dkwX9_init_6 ++ dktX9_init_7
def dkwX9_init_5 : List UInt8 := [16, 48, 188, 10, 181, 0, 53, 42, 16, 48, 188, 10, 181, 0, 56, 42, 16, 48, 188, 10, 181, 0, 59, 42]
abbrev dktX9_init_5 : List UInt8 := dkwX9_init_5 ++ dktX9_init_6
def dkwX9_init_4 : List UInt8 := [16, 8, 188, 11, 181, 0, 44, 42, 16, 48, 188, 10, 181, 0, 47, 42, 16, 48, 188, 10, 181, 0, 50, 42]
abbrev dktX9_init_4 : List UInt8 := dkwX9_init_4 ++ dktX9_init_5
def dkwX9_init_3 : List UInt8 := [42, 5, 188, 10, 181, 0, 35, 42, 16, 8, 188, 10, 181, 0, 38, 42, 16, 8, 188, 10, 181, 0, 41, 42]
abbrev dktX9_init_3 : List UInt8 := dkwX9_init_3 ++ dktX9_init_4
def dkwX9_init_2 : List UInt8 := [17, 0, 180, 188, 10, 181, 0, 26, 42, 8, 188, 10, 181, 0, 29, 42, 17, 0, 231, 188, 10, 181, 0, 32]
abbrev dktX9_init_2 : List UInt8 := dkwX9_init_2 ++ dktX9_init_3
def dkwX9_init_1 : List UInt8 := [188, 10, 181, 0, 16, 42, 16, 8, 188, 10, 181, 0, 19, 42, 16, 8, 188, 11, 181, 0, 22, 42]
abbrev dktX9_init_1 : List UInt8 := dkwX9_init_1 ++ dktX9_init_2
def dkwX9_init_0 : List UInt8 := [42, 183, 0, 3, 42, 17, 1, 144, 188, 10, 181, 0, 9, 42, 16, 48, 188, 10, 181, 0, 13, 42, 16, 8]
abbrev dktX9_init_0 : List UInt8 := dkwX9_init_0 ++ dktX9_init_1
theorem dksX9_init_0 : cX9_init.data.toList.drop 0 = dktX9_init_0 := by decide +kernel
theorem dksX9_init_1 : cX9_init.data.toList.drop 24 = dktX9_init_1 := dk_seg dksX9_init_0 24 rfl rfl
theorem dksX9_init_2 : cX9_init.data.toList.drop 46 = dktX9_init_2 := dk_seg dksX9_init_1 22 rfl rfl
theorem dksX9_init_3 : cX9_init.data.toList.drop 70 = dktX9_init_3 := dk_seg dksX9_init_2 24 rfl rfl
theorem dksX9_init_4 : cX9_init.data.toList.drop 94 = dktX9_init_4 := dk_seg dksX9_init_3 24 rfl rfl
theorem dksX9_init_5 : cX9_init.data.toList.drop 118 = dktX9_init_5 := dk_seg dksX9_init_4 24 rfl rfl
theorem dksX9_init_6 : cX9_init.data.toList.drop 142 = dktX9_init_6 := dk_seg dksX9_init_5 24 rfl rfl
theorem dksX9_init_7 : cX9_init.data.toList.drop 166 = dktX9_init_7 := dk_seg dksX9_init_6 24 rfl rfl
theorem dksX9_init_8 : cX9_init.data.toList.drop 190 = dktX9_init_8 := dk_seg dksX9_init_7 24 rfl rfl
theorem dksX9_init_9 : cX9_init.data.toList.drop 212 = dktX9_init_9 := dk_seg dksX9_init_8 22 rfl rfl
theorem dX9_init_0 : decode cX9_init 0 = .ok (.aload_n 0, 1) := dk_42 (dk_at dksX9_init_0 0 rfl rfl)
theorem dX9_init_1 : decode cX9_init 1 = .ok (.invokespecial 3, 3) := dk_183 0 3 (dk_at dksX9_init_0 1 rfl rfl)
theorem dX9_init_4 : decode cX9_init 4 = .ok (.aload_n 0, 1) := dk_42 (dk_at dksX9_init_0 4 rfl rfl)
theorem dX9_init_5 : decode cX9_init 5 = .ok (.sipush 400, 3) := dk_17 1 144 (dk_at dksX9_init_0 5 rfl rfl)
theorem dX9_init_8 : decode cX9_init 8 = .ok (.newarray .int, 2) := dk_188_10 (dk_at dksX9_init_0 8 rfl rfl)
theorem dX9_init_10 : decode cX9_init 10 = .ok (.putfield 9, 3) := dk_181 0 9 (dk_at dksX9_init_0 10 rfl rfl)
theorem dX9_init_13 : decode cX9_init 13 = .ok (.aload_n 0, 1) := dk_42 (dk_at dksX9_init_0 13 rfl rfl)
theorem dX9_init_14 : decode cX9_init 14 = .ok (.bipush 48, 2) := dk_16 48 (dk_at dksX9_init_0 14 rfl rfl)
theorem dX9_init_16 : decode cX9_init 16 = .ok (.newarray .int, 2) := dk_188_10 (dk_at dksX9_init_0 16 rfl rfl)
theorem dX9_init_18 : decode cX9_init 18 = .ok (.putfield 13, 3) := dk_181 0 13 (dk_at dksX9_init_0 18 rfl rfl)
theorem dX9_init_21 : decode cX9_init 21 = .ok (.aload_n 0, 1) := dk_42 (dk_at dksX9_init_0 21 rfl rfl)
theorem dX9_init_22 : decode cX9_init 22 = .ok (.bipush 8, 2) := dk_16 8 (dk_at dksX9_init_0 22 rfl rfl)
theorem dX9_init_24 : decode cX9_init 24 = .ok (.newarray .int, 2) := dk_188_10 (dk_at dksX9_init_1 0 rfl rfl)
theorem dX9_init_26 : decode cX9_init 26 = .ok (.putfield 16, 3) := dk_181 0 16 (dk_at dksX9_init_1 2 rfl rfl)
theorem dX9_init_29 : decode cX9_init 29 = .ok (.aload_n 0, 1) := dk_42 (dk_at dksX9_init_1 5 rfl rfl)
theorem dX9_init_30 : decode cX9_init 30 = .ok (.bipush 8, 2) := dk_16 8 (dk_at dksX9_init_1 6 rfl rfl)
theorem dX9_init_32 : decode cX9_init 32 = .ok (.newarray .int, 2) := dk_188_10 (dk_at dksX9_init_1 8 rfl rfl)
theorem dX9_init_34 : decode cX9_init 34 = .ok (.putfield 19, 3) := dk_181 0 19 (dk_at dksX9_init_1 10 rfl rfl)
theorem dX9_init_37 : decode cX9_init 37 = .ok (.aload_n 0, 1) := dk_42 (dk_at dksX9_init_1 13 rfl rfl)
theorem dX9_init_38 : decode cX9_init 38 = .ok (.bipush 8, 2) := dk_16 8 (dk_at dksX9_init_1 14 rfl rfl)
theorem dX9_init_40 : decode cX9_init 40 = .ok (.newarray .long, 2) := dk_188_11 (dk_at dksX9_init_1 16 rfl rfl)
theorem dX9_init_42 : decode cX9_init 42 = .ok (.putfield 22, 3) := dk_181 0 22 (dk_at dksX9_init_1 18 rfl rfl)
theorem dX9_init_45 : decode cX9_init 45 = .ok (.aload_n 0, 1) := dk_42 (dk_at dksX9_init_1 21 rfl rfl)
theorem dX9_init_46 : decode cX9_init 46 = .ok (.sipush 180, 3) := dk_17 0 180 (dk_at dksX9_init_2 0 rfl rfl)
theorem dX9_init_49 : decode cX9_init 49 = .ok (.newarray .int, 2) := dk_188_10 (dk_at dksX9_init_2 3 rfl rfl)
theorem dX9_init_51 : decode cX9_init 51 = .ok (.putfield 26, 3) := dk_181 0 26 (dk_at dksX9_init_2 5 rfl rfl)
theorem dX9_init_54 : decode cX9_init 54 = .ok (.aload_n 0, 1) := dk_42 (dk_at dksX9_init_2 8 rfl rfl)
theorem dX9_init_55 : decode cX9_init 55 = .ok (.iconst 5, 1) := dk_8 (dk_at dksX9_init_2 9 rfl rfl)
theorem dX9_init_56 : decode cX9_init 56 = .ok (.newarray .int, 2) := dk_188_10 (dk_at dksX9_init_2 10 rfl rfl)
theorem dX9_init_58 : decode cX9_init 58 = .ok (.putfield 29, 3) := dk_181 0 29 (dk_at dksX9_init_2 12 rfl rfl)
theorem dX9_init_61 : decode cX9_init 61 = .ok (.aload_n 0, 1) := dk_42 (dk_at dksX9_init_2 15 rfl rfl)
theorem dX9_init_62 : decode cX9_init 62 = .ok (.sipush 231, 3) := dk_17 0 231 (dk_at dksX9_init_2 16 rfl rfl)
theorem dX9_init_65 : decode cX9_init 65 = .ok (.newarray .int, 2) := dk_188_10 (dk_at dksX9_init_2 19 rfl rfl)
theorem dX9_init_67 : decode cX9_init 67 = .ok (.putfield 32, 3) := dk_181 0 32 (dk_at dksX9_init_2 21 rfl rfl)
theorem dX9_init_70 : decode cX9_init 70 = .ok (.aload_n 0, 1) := dk_42 (dk_at dksX9_init_3 0 rfl rfl)
theorem dX9_init_71 : decode cX9_init 71 = .ok (.iconst 2, 1) := dk_5 (dk_at dksX9_init_3 1 rfl rfl)
theorem dX9_init_72 : decode cX9_init 72 = .ok (.newarray .int, 2) := dk_188_10 (dk_at dksX9_init_3 2 rfl rfl)
theorem dX9_init_74 : decode cX9_init 74 = .ok (.putfield 35, 3) := dk_181 0 35 (dk_at dksX9_init_3 4 rfl rfl)
theorem dX9_init_77 : decode cX9_init 77 = .ok (.aload_n 0, 1) := dk_42 (dk_at dksX9_init_3 7 rfl rfl)
theorem dX9_init_78 : decode cX9_init 78 = .ok (.bipush 8, 2) := dk_16 8 (dk_at dksX9_init_3 8 rfl rfl)
theorem dX9_init_80 : decode cX9_init 80 = .ok (.newarray .int, 2) := dk_188_10 (dk_at dksX9_init_3 10 rfl rfl)
theorem dX9_init_82 : decode cX9_init 82 = .ok (.putfield 38, 3) := dk_181 0 38 (dk_at dksX9_init_3 12 rfl rfl)
theorem dX9_init_85 : decode cX9_init 85 = .ok (.aload_n 0, 1) := dk_42 (dk_at dksX9_init_3 15 rfl rfl)
theorem dX9_init_86 : decode cX9_init 86 = .ok (.bipush 8, 2) := dk_16 8 (dk_at dksX9_init_3 16 rfl rfl)
theorem dX9_init_88 : decode cX9_init 88 = .ok (.newarray .int, 2) := dk_188_10 (dk_at dksX9_init_3 18 rfl rfl)
theorem dX9_init_90 : decode cX9_init 90 = .ok (.putfield 41, 3) := dk_181 0 41 (dk_at dksX9_init_3 20 rfl rfl)
theorem dX9_init_93 : decode cX9_init 93 = .ok (.aload_n 0, 1) := dk_42 (dk_at dksX9_init_3 23 rfl rfl)
theorem dX9_init_94 : decode cX9_init 94 = .ok (.bipush 8, 2) := dk_16 8 (dk_at dksX9_init_4 0 rfl rfl)
theorem dX9_init_96 : decode cX9_init 96 = .ok (.newarray .long, 2) := dk_188_11 (dk_at dksX9_init_4 2 rfl rfl)
theorem dX9_init_98 : decode cX9_init 98 = .ok (.putfield 44, 3) := dk_181 0 44 (dk_at dksX9_init_4 4 rfl rfl)
theorem dX9_init_101 : decode cX9_init 101 = .ok (.aload_n 0, 1) := dk_42 (dk_at dksX9_init_4 7 rfl rfl)
theorem dX9_init_102 : decode cX9_init 102 = .ok (.bipush 48, 2) := dk_16 48 (dk_at dksX9_init_4 8 rfl rfl)
theorem dX9_init_104 : decode cX9_init 104 = .ok (.newarray .int, 2) := dk_188_10 (dk_at dksX9_init_4 10 rfl rfl)
theorem dX9_init_106 : decode cX9_init 106 = .ok (.putfield 47, 3) := dk_181 0 47 (dk_at dksX9_init_4 12 rfl rfl)
theorem dX9_init_109 : decode cX9_init 109 = .ok (.aload_n 0, 1) := dk_42 (dk_at dksX9_init_4 15 rfl rfl)
theorem dX9_init_110 : decode cX9_init 110 = .ok (.bipush 48, 2) := dk_16 48 (dk_at dksX9_init_4 16 rfl rfl)
theorem dX9_init_112 : decode cX9_init 112 = .ok (.newarray .int, 2) := dk_188_10 (dk_at dksX9_init_4 18 rfl rfl)
theorem dX9_init_114 : decode cX9_init 114 = .ok (.putfield 50, 3) := dk_181 0 50 (dk_at dksX9_init_4 20 rfl rfl)
theorem dX9_init_117 : decode cX9_init 117 = .ok (.aload_n 0, 1) := dk_42 (dk_at dksX9_init_4 23 rfl rfl)
theorem dX9_init_118 : decode cX9_init 118 = .ok (.bipush 48, 2) := dk_16 48 (dk_at dksX9_init_5 0 rfl rfl)
theorem dX9_init_120 : decode cX9_init 120 = .ok (.newarray .int, 2) := dk_188_10 (dk_at dksX9_init_5 2 rfl rfl)
theorem dX9_init_122 : decode cX9_init 122 = .ok (.putfield 53, 3) := dk_181 0 53 (dk_at dksX9_init_5 4 rfl rfl)
theorem dX9_init_125 : decode cX9_init 125 = .ok (.aload_n 0, 1) := dk_42 (dk_at dksX9_init_5 7 rfl rfl)
theorem dX9_init_126 : decode cX9_init 126 = .ok (.bipush 48, 2) := dk_16 48 (dk_at dksX9_init_5 8 rfl rfl)
theorem dX9_init_128 : decode cX9_init 128 = .ok (.newarray .int, 2) := dk_188_10 (dk_at dksX9_init_5 10 rfl rfl)
theorem dX9_init_130 : decode cX9_init 130 = .ok (.putfield 56, 3) := dk_181 0 56 (dk_at dksX9_init_5 12 rfl rfl)
theorem dX9_init_133 : decode cX9_init 133 = .ok (.aload_n 0, 1) := dk_42 (dk_at dksX9_init_5 15 rfl rfl)
theorem dX9_init_134 : decode cX9_init 134 = .ok (.bipush 48, 2) := dk_16 48 (dk_at dksX9_init_5 16 rfl rfl)
theorem dX9_init_136 : decode cX9_init 136 = .ok (.newarray .int, 2) := dk_188_10 (dk_at dksX9_init_5 18 rfl rfl)
theorem dX9_init_138 : decode cX9_init 138 = .ok (.putfield 59, 3) := dk_181 0 59 (dk_at dksX9_init_5 20 rfl rfl)
theorem dX9_init_141 : decode cX9_init 141 = .ok (.aload_n 0, 1) := dk_42 (dk_at dksX9_init_5 23 rfl rfl)
theorem dX9_init_142 : decode cX9_init 142 = .ok (.bipush 48, 2) := dk_16 48 (dk_at dksX9_init_6 0 rfl rfl)
theorem dX9_init_144 : decode cX9_init 144 = .ok (.newarray .int, 2) := dk_188_10 (dk_at dksX9_init_6 2 rfl rfl)
theorem dX9_init_146 : decode cX9_init 146 = .ok (.putfield 62, 3) := dk_181 0 62 (dk_at dksX9_init_6 4 rfl rfl)
theorem dX9_init_149 : decode cX9_init 149 = .ok (.aload_n 0, 1) := dk_42 (dk_at dksX9_init_6 7 rfl rfl)
theorem dX9_init_150 : decode cX9_init 150 = .ok (.bipush 48, 2) := dk_16 48 (dk_at dksX9_init_6 8 rfl rfl)
theorem dX9_init_152 : decode cX9_init 152 = .ok (.newarray .int, 2) := dk_188_10 (dk_at dksX9_init_6 10 rfl rfl)
theorem dX9_init_154 : decode cX9_init 154 = .ok (.putfield 65, 3) := dk_181 0 65 (dk_at dksX9_init_6 12 rfl rfl)
theorem dX9_init_157 : decode cX9_init 157 = .ok (.aload_n 0, 1) := dk_42 (dk_at dksX9_init_6 15 rfl rfl)
theorem dX9_init_158 : decode cX9_init 158 = .ok (.bipush 48, 2) := dk_16 48 (dk_at dksX9_init_6 16 rfl rfl)
theorem dX9_init_160 : decode cX9_init 160 = .ok (.newarray .int, 2) := dk_188_10 (dk_at dksX9_init_6 18 rfl rfl)
theorem dX9_init_162 : decode cX9_init 162 = .ok (.putfield 68, 3) := dk_181 0 68 (dk_at dksX9_init_6 20 rfl rfl)
theorem dX9_init_165 : decode cX9_init 165 = .ok (.aload_n 0, 1) := dk_42 (dk_at dksX9_init_6 23 rfl rfl)
theorem dX9_init_166 : decode cX9_init 166 = .ok (.bipush 8, 2) := dk_16 8 (dk_at dksX9_init_7 0 rfl rfl)
theorem dX9_init_168 : decode cX9_init 168 = .ok (.newarray .int, 2) := dk_188_10 (dk_at dksX9_init_7 2 rfl rfl)
theorem dX9_init_170 : decode cX9_init 170 = .ok (.putfield 71, 3) := dk_181 0 71 (dk_at dksX9_init_7 4 rfl rfl)
theorem dX9_init_173 : decode cX9_init 173 = .ok (.aload_n 0, 1) := dk_42 (dk_at dksX9_init_7 7 rfl rfl)
theorem dX9_init_174 : decode cX9_init 174 = .ok (.bipush 48, 2) := dk_16 48 (dk_at dksX9_init_7 8 rfl rfl)
theorem dX9_init_176 : decode cX9_init 176 = .ok (.newarray .int, 2) := dk_188_10 (dk_at dksX9_init_7 10 rfl rfl)
theorem dX9_init_178 : decode cX9_init 178 = .ok (.putfield 74, 3) := dk_181 0 74 (dk_at dksX9_init_7 12 rfl rfl)
theorem dX9_init_181 : decode cX9_init 181 = .ok (.aload_n 0, 1) := dk_42 (dk_at dksX9_init_7 15 rfl rfl)
theorem dX9_init_182 : decode cX9_init 182 = .ok (.sipush 9240, 3) := dk_17 36 24 (dk_at dksX9_init_7 16 rfl rfl)
theorem dX9_init_185 : decode cX9_init 185 = .ok (.newarray .int, 2) := dk_188_10 (dk_at dksX9_init_7 19 rfl rfl)
theorem dX9_init_187 : decode cX9_init 187 = .ok (.putfield 77, 3) := dk_181 0 77 (dk_at dksX9_init_7 21 rfl rfl)
theorem dX9_init_190 : decode cX9_init 190 = .ok (.aload_n 0, 1) := dk_42 (dk_at dksX9_init_8 0 rfl rfl)
theorem dX9_init_191 : decode cX9_init 191 = .ok (.sipush 231, 3) := dk_17 0 231 (dk_at dksX9_init_8 1 rfl rfl)
theorem dX9_init_194 : decode cX9_init 194 = .ok (.newarray .int, 2) := dk_188_10 (dk_at dksX9_init_8 4 rfl rfl)
theorem dX9_init_196 : decode cX9_init 196 = .ok (.putfield 80, 3) := dk_181 0 80 (dk_at dksX9_init_8 6 rfl rfl)
theorem dX9_init_199 : decode cX9_init 199 = .ok (.aload_n 0, 1) := dk_42 (dk_at dksX9_init_8 9 rfl rfl)
theorem dX9_init_200 : decode cX9_init 200 = .ok (.bipush 50, 2) := dk_16 50 (dk_at dksX9_init_8 10 rfl rfl)
theorem dX9_init_202 : decode cX9_init 202 = .ok (.newarray .int, 2) := dk_188_10 (dk_at dksX9_init_8 12 rfl rfl)
theorem dX9_init_204 : decode cX9_init 204 = .ok (.putfield 83, 3) := dk_181 0 83 (dk_at dksX9_init_8 14 rfl rfl)
theorem dX9_init_207 : decode cX9_init 207 = .ok (.aload_n 0, 1) := dk_42 (dk_at dksX9_init_8 17 rfl rfl)
theorem dX9_init_208 : decode cX9_init 208 = .ok (.bipush 48, 2) := dk_16 48 (dk_at dksX9_init_8 18 rfl rfl)
theorem dX9_init_210 : decode cX9_init 210 = .ok (.newarray .int, 2) := dk_188_10 (dk_at dksX9_init_8 20 rfl rfl)
theorem dX9_init_212 : decode cX9_init 212 = .ok (.putfield 86, 3) := dk_181 0 86 (dk_at dksX9_init_9 0 rfl rfl)
theorem dX9_init_215 : decode cX9_init 215 = .ok (.aload_n 0, 1) := dk_42 (dk_at dksX9_init_9 3 rfl rfl)
theorem dX9_init_216 : decode cX9_init 216 = .ok (.bipush 40, 2) := dk_16 40 (dk_at dksX9_init_9 4 rfl rfl)
theorem dX9_init_218 : decode cX9_init 218 = .ok (.newarray .int, 2) := dk_188_10 (dk_at dksX9_init_9 6 rfl rfl)
theorem dX9_init_220 : decode cX9_init 220 = .ok (.putfield 89, 3) := dk_181 0 89 (dk_at dksX9_init_9 8 rfl rfl)
theorem dX9_init_223 : decode cX9_init 223 = .ok (.return_, 1) := dk_177 (dk_at dksX9_init_9 11 rfl rfl)
theorem dX9_thrown_0 : decode cX9_thrown 0 = .ok (.aload_n 0, 1) := by decide +kernel
theorem dX9_thrown_1 : decode cX9_thrown 1 = .ok (.getfield 92, 3) := by decide +kernel
theorem dX9_thrown_4 : decode cX9_thrown 4 = .ok (.ireturn, 1) := by decide +kernel
def dkwX9_feed_4 : List UInt8 := [21, 8, 79, 42, 89, 180, 0, 100, 4, 96, 181, 0, 100, 132, 7, 1, 167, 255, 206, 42, 180, 0, 100, 172]
abbrev dktX9_feed_4 : List UInt8 := dkwX9_feed_4 ++ []
def dkwX9_feed_3 : List UInt8 := [21, 4, 21, 5, 21, 7, 184, 0, 96, 54, 8, 21, 8, 153, 0, 24, 42, 180, 0, 9, 42, 180, 0, 100]
abbrev dktX9_feed_3 : List UInt8 := dkwX9_feed_3 ++ dktX9_feed_4
def dkwX9_feed_2 : List UInt8 := [21, 6, 96, 17, 1, 144, 164, 0, 5, 2, 172, 3, 54, 7, 21, 7, 16, 20, 162, 0, 49, 27, 28, 29]
abbrev dktX9_feed_2 : List UInt8 := dkwX9_feed_2 ++ dktX9_feed_3
def dkwX9_feed_1 : List UInt8 := [184, 0, 96, 153, 0, 7, 4, 167, 0, 4, 3, 96, 54, 6, 132, 7, 1, 167, 255, 221, 42, 180, 0, 100]
abbrev dktX9_feed_1 : List UInt8 := dkwX9_feed_1 ++ dktX9_feed_2
def dkwX9_feed_0 : List UInt8 := [3, 54, 6, 3, 54, 7, 21, 7, 16, 20, 162, 0, 34, 21, 6, 27, 28, 29, 21, 4, 21, 5, 21, 7]
abbrev dktX9_feed_0 : List UInt8 := dkwX9_feed_0 ++ dktX9_feed_1
theorem dksX9_feed_0 : cX9_feed.data.toList.drop 0 = dktX9_feed_0 := by decide +kernel
theorem dksX9_feed_1 : cX9_feed.data.toList.drop 24 = dktX9_feed_1 := dk_seg dksX9_feed_0 24 rfl rfl
theorem dksX9_feed_2 : cX9_feed.data.toList.drop 48 = dktX9_feed_2 := dk_seg dksX9_feed_1 24 rfl rfl
theorem dksX9_feed_3 : cX9_feed.data.toList.drop 72 = dktX9_feed_3 := dk_seg dksX9_feed_2 24 rfl rfl
theorem dksX9_feed_4 : cX9_feed.data.toList.drop 96 = dktX9_feed_4 := dk_seg dksX9_feed_3 24 rfl rfl
theorem dX9_feed_0 : decode cX9_feed 0 = .ok (.iconst 0, 1) := dk_3 (dk_at dksX9_feed_0 0 rfl rfl)
theorem dX9_feed_1 : decode cX9_feed 1 = .ok (.istore 6, 2) := dk_54 6 (dk_at dksX9_feed_0 1 rfl rfl)
theorem dX9_feed_3 : decode cX9_feed 3 = .ok (.iconst 0, 1) := dk_3 (dk_at dksX9_feed_0 3 rfl rfl)
theorem dX9_feed_4 : decode cX9_feed 4 = .ok (.istore 7, 2) := dk_54 7 (dk_at dksX9_feed_0 4 rfl rfl)
theorem dX9_feed_6 : decode cX9_feed 6 = .ok (.iload 7, 2) := dk_21 7 (dk_at dksX9_feed_0 6 rfl rfl)
theorem dX9_feed_8 : decode cX9_feed 8 = .ok (.bipush 20, 2) := dk_16 20 (dk_at dksX9_feed_0 8 rfl rfl)
theorem dX9_feed_10 : decode cX9_feed 10 = .ok (.if_icmp .ge 34, 3) := dk_162 0 34 (dk_at dksX9_feed_0 10 rfl rfl)
theorem dX9_feed_13 : decode cX9_feed 13 = .ok (.iload 6, 2) := dk_21 6 (dk_at dksX9_feed_0 13 rfl rfl)
theorem dX9_feed_15 : decode cX9_feed 15 = .ok (.iload_n 1, 1) := dk_27 (dk_at dksX9_feed_0 15 rfl rfl)
theorem dX9_feed_16 : decode cX9_feed 16 = .ok (.iload_n 2, 1) := dk_28 (dk_at dksX9_feed_0 16 rfl rfl)
theorem dX9_feed_17 : decode cX9_feed 17 = .ok (.iload_n 3, 1) := dk_29 (dk_at dksX9_feed_0 17 rfl rfl)
theorem dX9_feed_18 : decode cX9_feed 18 = .ok (.iload 4, 2) := dk_21 4 (dk_at dksX9_feed_0 18 rfl rfl)
theorem dX9_feed_20 : decode cX9_feed 20 = .ok (.iload 5, 2) := dk_21 5 (dk_at dksX9_feed_0 20 rfl rfl)
theorem dX9_feed_22 : decode cX9_feed 22 = .ok (.iload 7, 2) := dk_21 7 (dk_at dksX9_feed_0 22 rfl rfl)
theorem dX9_feed_24 : decode cX9_feed 24 = .ok (.invokestatic 96, 3) := dk_184 0 96 (dk_at dksX9_feed_1 0 rfl rfl)
theorem dX9_feed_27 : decode cX9_feed 27 = .ok (.ifCond .eq 7, 3) := dk_153 0 7 (dk_at dksX9_feed_1 3 rfl rfl)
theorem dX9_feed_30 : decode cX9_feed 30 = .ok (.iconst 1, 1) := dk_4 (dk_at dksX9_feed_1 6 rfl rfl)
theorem dX9_feed_31 : decode cX9_feed 31 = .ok (.goto 4, 3) := dk_167 0 4 (dk_at dksX9_feed_1 7 rfl rfl)
theorem dX9_feed_34 : decode cX9_feed 34 = .ok (.iconst 0, 1) := dk_3 (dk_at dksX9_feed_1 10 rfl rfl)
theorem dX9_feed_35 : decode cX9_feed 35 = .ok (.iadd, 1) := dk_96 (dk_at dksX9_feed_1 11 rfl rfl)
theorem dX9_feed_36 : decode cX9_feed 36 = .ok (.istore 6, 2) := dk_54 6 (dk_at dksX9_feed_1 12 rfl rfl)
theorem dX9_feed_38 : decode cX9_feed 38 = .ok (.iinc 7 1, 3) := dk_132 7 1 (dk_at dksX9_feed_1 14 rfl rfl)
theorem dX9_feed_41 : decode cX9_feed 41 = .ok (.goto (-35), 3) := dk_167 255 221 (dk_at dksX9_feed_1 17 rfl rfl)
theorem dX9_feed_44 : decode cX9_feed 44 = .ok (.aload_n 0, 1) := dk_42 (dk_at dksX9_feed_1 20 rfl rfl)
theorem dX9_feed_45 : decode cX9_feed 45 = .ok (.getfield 100, 3) := dk_180 0 100 (dk_at dksX9_feed_1 21 rfl rfl)
theorem dX9_feed_48 : decode cX9_feed 48 = .ok (.iload 6, 2) := dk_21 6 (dk_at dksX9_feed_2 0 rfl rfl)
theorem dX9_feed_50 : decode cX9_feed 50 = .ok (.iadd, 1) := dk_96 (dk_at dksX9_feed_2 2 rfl rfl)
theorem dX9_feed_51 : decode cX9_feed 51 = .ok (.sipush 400, 3) := dk_17 1 144 (dk_at dksX9_feed_2 3 rfl rfl)
theorem dX9_feed_54 : decode cX9_feed 54 = .ok (.if_icmp .le 5, 3) := dk_164 0 5 (dk_at dksX9_feed_2 6 rfl rfl)
theorem dX9_feed_57 : decode cX9_feed 57 = .ok (.iconst (-1), 1) := dk_2 (dk_at dksX9_feed_2 9 rfl rfl)
theorem dX9_feed_58 : decode cX9_feed 58 = .ok (.ireturn, 1) := dk_172 (dk_at dksX9_feed_2 10 rfl rfl)
theorem dX9_feed_59 : decode cX9_feed 59 = .ok (.iconst 0, 1) := dk_3 (dk_at dksX9_feed_2 11 rfl rfl)
theorem dX9_feed_60 : decode cX9_feed 60 = .ok (.istore 7, 2) := dk_54 7 (dk_at dksX9_feed_2 12 rfl rfl)
theorem dX9_feed_62 : decode cX9_feed 62 = .ok (.iload 7, 2) := dk_21 7 (dk_at dksX9_feed_2 14 rfl rfl)
theorem dX9_feed_64 : decode cX9_feed 64 = .ok (.bipush 20, 2) := dk_16 20 (dk_at dksX9_feed_2 16 rfl rfl)
theorem dX9_feed_66 : decode cX9_feed 66 = .ok (.if_icmp .ge 49, 3) := dk_162 0 49 (dk_at dksX9_feed_2 18 rfl rfl)
theorem dX9_feed_69 : decode cX9_feed 69 = .ok (.iload_n 1, 1) := dk_27 (dk_at dksX9_feed_2 21 rfl rfl)
theorem dX9_feed_70 : decode cX9_feed 70 = .ok (.iload_n 2, 1) := dk_28 (dk_at dksX9_feed_2 22 rfl rfl)
theorem dX9_feed_71 : decode cX9_feed 71 = .ok (.iload_n 3, 1) := dk_29 (dk_at dksX9_feed_2 23 rfl rfl)
theorem dX9_feed_72 : decode cX9_feed 72 = .ok (.iload 4, 2) := dk_21 4 (dk_at dksX9_feed_3 0 rfl rfl)
theorem dX9_feed_74 : decode cX9_feed 74 = .ok (.iload 5, 2) := dk_21 5 (dk_at dksX9_feed_3 2 rfl rfl)
theorem dX9_feed_76 : decode cX9_feed 76 = .ok (.iload 7, 2) := dk_21 7 (dk_at dksX9_feed_3 4 rfl rfl)
theorem dX9_feed_78 : decode cX9_feed 78 = .ok (.invokestatic 96, 3) := dk_184 0 96 (dk_at dksX9_feed_3 6 rfl rfl)
theorem dX9_feed_81 : decode cX9_feed 81 = .ok (.istore 8, 2) := dk_54 8 (dk_at dksX9_feed_3 9 rfl rfl)
theorem dX9_feed_83 : decode cX9_feed 83 = .ok (.iload 8, 2) := dk_21 8 (dk_at dksX9_feed_3 11 rfl rfl)
theorem dX9_feed_85 : decode cX9_feed 85 = .ok (.ifCond .eq 24, 3) := dk_153 0 24 (dk_at dksX9_feed_3 13 rfl rfl)
theorem dX9_feed_88 : decode cX9_feed 88 = .ok (.aload_n 0, 1) := dk_42 (dk_at dksX9_feed_3 16 rfl rfl)
theorem dX9_feed_89 : decode cX9_feed 89 = .ok (.getfield 9, 3) := dk_180 0 9 (dk_at dksX9_feed_3 17 rfl rfl)
theorem dX9_feed_92 : decode cX9_feed 92 = .ok (.aload_n 0, 1) := dk_42 (dk_at dksX9_feed_3 20 rfl rfl)
theorem dX9_feed_93 : decode cX9_feed 93 = .ok (.getfield 100, 3) := dk_180 0 100 (dk_at dksX9_feed_3 21 rfl rfl)
theorem dX9_feed_96 : decode cX9_feed 96 = .ok (.iload 8, 2) := dk_21 8 (dk_at dksX9_feed_4 0 rfl rfl)
theorem dX9_feed_98 : decode cX9_feed 98 = .ok (.iastore, 1) := dk_79 (dk_at dksX9_feed_4 2 rfl rfl)
theorem dX9_feed_99 : decode cX9_feed 99 = .ok (.aload_n 0, 1) := dk_42 (dk_at dksX9_feed_4 3 rfl rfl)
theorem dX9_feed_100 : decode cX9_feed 100 = .ok (.dup, 1) := dk_89 (dk_at dksX9_feed_4 4 rfl rfl)
theorem dX9_feed_101 : decode cX9_feed 101 = .ok (.getfield 100, 3) := dk_180 0 100 (dk_at dksX9_feed_4 5 rfl rfl)
theorem dX9_feed_104 : decode cX9_feed 104 = .ok (.iconst 1, 1) := dk_4 (dk_at dksX9_feed_4 8 rfl rfl)
theorem dX9_feed_105 : decode cX9_feed 105 = .ok (.iadd, 1) := dk_96 (dk_at dksX9_feed_4 9 rfl rfl)
theorem dX9_feed_106 : decode cX9_feed 106 = .ok (.putfield 100, 3) := dk_181 0 100 (dk_at dksX9_feed_4 10 rfl rfl)
theorem dX9_feed_109 : decode cX9_feed 109 = .ok (.iinc 7 1, 3) := dk_132 7 1 (dk_at dksX9_feed_4 13 rfl rfl)
theorem dX9_feed_112 : decode cX9_feed 112 = .ok (.goto (-50), 3) := dk_167 255 206 (dk_at dksX9_feed_4 16 rfl rfl)
theorem dX9_feed_115 : decode cX9_feed 115 = .ok (.aload_n 0, 1) := dk_42 (dk_at dksX9_feed_4 19 rfl rfl)
theorem dX9_feed_116 : decode cX9_feed 116 = .ok (.getfield 100, 3) := dk_180 0 100 (dk_at dksX9_feed_4 20 rfl rfl)
theorem dX9_feed_119 : decode cX9_feed 119 = .ok (.ireturn, 1) := dk_172 (dk_at dksX9_feed_4 23 rfl rfl)
def dkwX9_byteOf_2 : List UInt8 := [21, 6, 16, 24, 16, 8, 21, 5, 7, 112, 104, 100, 122, 17, 0, 255, 126, 172]
abbrev dktX9_byteOf_2 : List UInt8 := dkwX9_byteOf_2 ++ []
def dkwX9_byteOf_1 : List UInt8 := [16, 12, 162, 0, 7, 28, 167, 0, 16, 21, 5, 16, 16, 162, 0, 7, 29, 167, 0, 5, 21, 4, 54, 6]
abbrev dktX9_byteOf_1 : List UInt8 := dkwX9_byteOf_1 ++ dktX9_byteOf_2
def dkwX9_byteOf_0 : List UInt8 := [21, 5, 7, 162, 0, 7, 26, 167, 0, 38, 21, 5, 16, 8, 162, 0, 7, 27, 167, 0, 27, 21, 5]
abbrev dktX9_byteOf_0 : List UInt8 := dkwX9_byteOf_0 ++ dktX9_byteOf_1
theorem dksX9_byteOf_0 : cX9_byteOf.data.toList.drop 0 = dktX9_byteOf_0 := by decide +kernel
theorem dksX9_byteOf_1 : cX9_byteOf.data.toList.drop 23 = dktX9_byteOf_1 := dk_seg dksX9_byteOf_0 23 rfl rfl
theorem dksX9_byteOf_2 : cX9_byteOf.data.toList.drop 47 = dktX9_byteOf_2 := dk_seg dksX9_byteOf_1 24 rfl rfl
theorem dX9_byteOf_0 : decode cX9_byteOf 0 = .ok (.iload 5, 2) := dk_21 5 (dk_at dksX9_byteOf_0 0 rfl rfl)
theorem dX9_byteOf_2 : decode cX9_byteOf 2 = .ok (.iconst 4, 1) := dk_7 (dk_at dksX9_byteOf_0 2 rfl rfl)
theorem dX9_byteOf_3 : decode cX9_byteOf 3 = .ok (.if_icmp .ge 7, 3) := dk_162 0 7 (dk_at dksX9_byteOf_0 3 rfl rfl)
theorem dX9_byteOf_6 : decode cX9_byteOf 6 = .ok (.iload_n 0, 1) := dk_26 (dk_at dksX9_byteOf_0 6 rfl rfl)
theorem dX9_byteOf_7 : decode cX9_byteOf 7 = .ok (.goto 38, 3) := dk_167 0 38 (dk_at dksX9_byteOf_0 7 rfl rfl)
theorem dX9_byteOf_10 : decode cX9_byteOf 10 = .ok (.iload 5, 2) := dk_21 5 (dk_at dksX9_byteOf_0 10 rfl rfl)
theorem dX9_byteOf_12 : decode cX9_byteOf 12 = .ok (.bipush 8, 2) := dk_16 8 (dk_at dksX9_byteOf_0 12 rfl rfl)
theorem dX9_byteOf_14 : decode cX9_byteOf 14 = .ok (.if_icmp .ge 7, 3) := dk_162 0 7 (dk_at dksX9_byteOf_0 14 rfl rfl)
theorem dX9_byteOf_17 : decode cX9_byteOf 17 = .ok (.iload_n 1, 1) := dk_27 (dk_at dksX9_byteOf_0 17 rfl rfl)
theorem dX9_byteOf_18 : decode cX9_byteOf 18 = .ok (.goto 27, 3) := dk_167 0 27 (dk_at dksX9_byteOf_0 18 rfl rfl)
theorem dX9_byteOf_21 : decode cX9_byteOf 21 = .ok (.iload 5, 2) := dk_21 5 (dk_at dksX9_byteOf_0 21 rfl rfl)
theorem dX9_byteOf_23 : decode cX9_byteOf 23 = .ok (.bipush 12, 2) := dk_16 12 (dk_at dksX9_byteOf_1 0 rfl rfl)
theorem dX9_byteOf_25 : decode cX9_byteOf 25 = .ok (.if_icmp .ge 7, 3) := dk_162 0 7 (dk_at dksX9_byteOf_1 2 rfl rfl)
theorem dX9_byteOf_28 : decode cX9_byteOf 28 = .ok (.iload_n 2, 1) := dk_28 (dk_at dksX9_byteOf_1 5 rfl rfl)
theorem dX9_byteOf_29 : decode cX9_byteOf 29 = .ok (.goto 16, 3) := dk_167 0 16 (dk_at dksX9_byteOf_1 6 rfl rfl)
theorem dX9_byteOf_32 : decode cX9_byteOf 32 = .ok (.iload 5, 2) := dk_21 5 (dk_at dksX9_byteOf_1 9 rfl rfl)
theorem dX9_byteOf_34 : decode cX9_byteOf 34 = .ok (.bipush 16, 2) := dk_16 16 (dk_at dksX9_byteOf_1 11 rfl rfl)
theorem dX9_byteOf_36 : decode cX9_byteOf 36 = .ok (.if_icmp .ge 7, 3) := dk_162 0 7 (dk_at dksX9_byteOf_1 13 rfl rfl)
theorem dX9_byteOf_39 : decode cX9_byteOf 39 = .ok (.iload_n 3, 1) := dk_29 (dk_at dksX9_byteOf_1 16 rfl rfl)
theorem dX9_byteOf_40 : decode cX9_byteOf 40 = .ok (.goto 5, 3) := dk_167 0 5 (dk_at dksX9_byteOf_1 17 rfl rfl)
theorem dX9_byteOf_43 : decode cX9_byteOf 43 = .ok (.iload 4, 2) := dk_21 4 (dk_at dksX9_byteOf_1 20 rfl rfl)
theorem dX9_byteOf_45 : decode cX9_byteOf 45 = .ok (.istore 6, 2) := dk_54 6 (dk_at dksX9_byteOf_1 22 rfl rfl)
theorem dX9_byteOf_47 : decode cX9_byteOf 47 = .ok (.iload 6, 2) := dk_21 6 (dk_at dksX9_byteOf_2 0 rfl rfl)
theorem dX9_byteOf_49 : decode cX9_byteOf 49 = .ok (.bipush 24, 2) := dk_16 24 (dk_at dksX9_byteOf_2 2 rfl rfl)
theorem dX9_byteOf_51 : decode cX9_byteOf 51 = .ok (.bipush 8, 2) := dk_16 8 (dk_at dksX9_byteOf_2 4 rfl rfl)
theorem dX9_byteOf_53 : decode cX9_byteOf 53 = .ok (.iload 5, 2) := dk_21 5 (dk_at dksX9_byteOf_2 6 rfl rfl)
theorem dX9_byteOf_55 : decode cX9_byteOf 55 = .ok (.iconst 4, 1) := dk_7 (dk_at dksX9_byteOf_2 8 rfl rfl)
theorem dX9_byteOf_56 : decode cX9_byteOf 56 = .ok (.irem, 1) := dk_112 (dk_at dksX9_byteOf_2 9 rfl rfl)
theorem dX9_byteOf_57 : decode cX9_byteOf 57 = .ok (.imul, 1) := dk_104 (dk_at dksX9_byteOf_2 10 rfl rfl)
theorem dX9_byteOf_58 : decode cX9_byteOf 58 = .ok (.isub, 1) := dk_100 (dk_at dksX9_byteOf_2 11 rfl rfl)
theorem dX9_byteOf_59 : decode cX9_byteOf 59 = .ok (.ishr, 1) := dk_122 (dk_at dksX9_byteOf_2 12 rfl rfl)
theorem dX9_byteOf_60 : decode cX9_byteOf 60 = .ok (.sipush 255, 3) := dk_17 0 255 (dk_at dksX9_byteOf_2 13 rfl rfl)
theorem dX9_byteOf_63 : decode cX9_byteOf 63 = .ok (.iand, 1) := dk_126 (dk_at dksX9_byteOf_2 16 rfl rfl)
theorem dX9_byteOf_64 : decode cX9_byteOf 64 = .ok (.ireturn, 1) := dk_172 (dk_at dksX9_byteOf_2 17 rfl rfl)
def dkwX9_end_0 : List UInt8 := [27, 3, 42, 180, 0, 100, 184, 0, 103, 154, 0, 5, 3, 172, 42, 27, 181, 0, 100, 4, 172]
abbrev dktX9_end_0 : List UInt8 := dkwX9_end_0 ++ []
theorem dksX9_end_0 : cX9_end.data.toList.drop 0 = dktX9_end_0 := by decide +kernel
theorem dX9_end_0 : decode cX9_end 0 = .ok (.iload_n 1, 1) := dk_27 (dk_at dksX9_end_0 0 rfl rfl)
theorem dX9_end_1 : decode cX9_end 1 = .ok (.iconst 0, 1) := dk_3 (dk_at dksX9_end_0 1 rfl rfl)
theorem dX9_end_2 : decode cX9_end 2 = .ok (.aload_n 0, 1) := dk_42 (dk_at dksX9_end_0 2 rfl rfl)
theorem dX9_end_3 : decode cX9_end 3 = .ok (.getfield 100, 3) := dk_180 0 100 (dk_at dksX9_end_0 3 rfl rfl)
theorem dX9_end_6 : decode cX9_end 6 = .ok (.invokestatic 103, 3) := dk_184 0 103 (dk_at dksX9_end_0 6 rfl rfl)
theorem dX9_end_9 : decode cX9_end 9 = .ok (.ifCond .ne 5, 3) := dk_154 0 5 (dk_at dksX9_end_0 9 rfl rfl)
theorem dX9_end_12 : decode cX9_end 12 = .ok (.iconst 0, 1) := dk_3 (dk_at dksX9_end_0 12 rfl rfl)
theorem dX9_end_13 : decode cX9_end 13 = .ok (.ireturn, 1) := dk_172 (dk_at dksX9_end_0 13 rfl rfl)
theorem dX9_end_14 : decode cX9_end 14 = .ok (.aload_n 0, 1) := dk_42 (dk_at dksX9_end_0 14 rfl rfl)
theorem dX9_end_15 : decode cX9_end 15 = .ok (.iload_n 1, 1) := dk_27 (dk_at dksX9_end_0 15 rfl rfl)
theorem dX9_end_16 : decode cX9_end 16 = .ok (.putfield 100, 3) := dk_181 0 100 (dk_at dksX9_end_0 16 rfl rfl)
theorem dX9_end_19 : decode cX9_end 19 = .ok (.iconst 1, 1) := dk_4 (dk_at dksX9_end_0 19 rfl rfl)
theorem dX9_end_20 : decode cX9_end 20 = .ok (.ireturn, 1) := dk_172 (dk_at dksX9_end_0 20 rfl rfl)
def dkwX9_in_0 : List UInt8 := [26, 27, 161, 0, 12, 26, 28, 163, 0, 7, 4, 167, 0, 4, 3, 172]
abbrev dktX9_in_0 : List UInt8 := dkwX9_in_0 ++ []
theorem dksX9_in_0 : cX9_in.data.toList.drop 0 = dktX9_in_0 := by decide +kernel
theorem dX9_in_0 : decode cX9_in 0 = .ok (.iload_n 0, 1) := dk_26 (dk_at dksX9_in_0 0 rfl rfl)
theorem dX9_in_1 : decode cX9_in 1 = .ok (.iload_n 1, 1) := dk_27 (dk_at dksX9_in_0 1 rfl rfl)
theorem dX9_in_2 : decode cX9_in 2 = .ok (.if_icmp .lt 12, 3) := dk_161 0 12 (dk_at dksX9_in_0 2 rfl rfl)
theorem dX9_in_5 : decode cX9_in 5 = .ok (.iload_n 0, 1) := dk_26 (dk_at dksX9_in_0 5 rfl rfl)
theorem dX9_in_6 : decode cX9_in 6 = .ok (.iload_n 2, 1) := dk_28 (dk_at dksX9_in_0 6 rfl rfl)
theorem dX9_in_7 : decode cX9_in 7 = .ok (.if_icmp .gt 7, 3) := dk_163 0 7 (dk_at dksX9_in_0 7 rfl rfl)
theorem dX9_in_10 : decode cX9_in 10 = .ok (.iconst 1, 1) := dk_4 (dk_at dksX9_in_0 10 rfl rfl)
theorem dX9_in_11 : decode cX9_in 11 = .ok (.goto 4, 3) := dk_167 0 4 (dk_at dksX9_in_0 11 rfl rfl)
theorem dX9_in_14 : decode cX9_in 14 = .ok (.iconst 0, 1) := dk_3 (dk_at dksX9_in_0 14 rfl rfl)
theorem dX9_in_15 : decode cX9_in 15 = .ok (.ireturn, 1) := dk_172 (dk_at dksX9_in_0 15 rfl rfl)
def dkwX9_fault_1 : List UInt8 := [16, 254, 172]
abbrev dktX9_fault_1 : List UInt8 := dkwX9_fault_1 ++ []
def dkwX9_fault_0 : List UInt8 := [27, 154, 0, 10, 42, 182, 0, 248, 167, 0, 18, 27, 4, 160, 0, 11, 42, 7, 182, 0, 251, 167, 0, 5]
abbrev dktX9_fault_0 : List UInt8 := dkwX9_fault_0 ++ dktX9_fault_1
theorem dksX9_fault_0 : cX9_fault.data.toList.drop 0 = dktX9_fault_0 := by decide +kernel
theorem dksX9_fault_1 : cX9_fault.data.toList.drop 24 = dktX9_fault_1 := dk_seg dksX9_fault_0 24 rfl rfl
theorem dX9_fault_0 : decode cX9_fault 0 = .ok (.iload_n 1, 1) := dk_27 (dk_at dksX9_fault_0 0 rfl rfl)
theorem dX9_fault_1 : decode cX9_fault 1 = .ok (.ifCond .ne 10, 3) := dk_154 0 10 (dk_at dksX9_fault_0 1 rfl rfl)
theorem dX9_fault_4 : decode cX9_fault 4 = .ok (.aload_n 0, 1) := dk_42 (dk_at dksX9_fault_0 4 rfl rfl)
theorem dX9_fault_5 : decode cX9_fault 5 = .ok (.invokevirtual 248, 3) := dk_182 0 248 (dk_at dksX9_fault_0 5 rfl rfl)
theorem dX9_fault_8 : decode cX9_fault 8 = .ok (.goto 18, 3) := dk_167 0 18 (dk_at dksX9_fault_0 8 rfl rfl)
theorem dX9_fault_11 : decode cX9_fault 11 = .ok (.iload_n 1, 1) := dk_27 (dk_at dksX9_fault_0 11 rfl rfl)
theorem dX9_fault_12 : decode cX9_fault 12 = .ok (.iconst 1, 1) := dk_4 (dk_at dksX9_fault_0 12 rfl rfl)
theorem dX9_fault_13 : decode cX9_fault 13 = .ok (.if_icmp .ne 11, 3) := dk_160 0 11 (dk_at dksX9_fault_0 13 rfl rfl)
theorem dX9_fault_16 : decode cX9_fault 16 = .ok (.aload_n 0, 1) := dk_42 (dk_at dksX9_fault_0 16 rfl rfl)
theorem dX9_fault_17 : decode cX9_fault 17 = .ok (.iconst 4, 1) := dk_7 (dk_at dksX9_fault_0 17 rfl rfl)
theorem dX9_fault_18 : decode cX9_fault 18 = .ok (.invokevirtual 251, 3) := dk_182 0 251 (dk_at dksX9_fault_0 18 rfl rfl)
theorem dX9_fault_21 : decode cX9_fault 21 = .ok (.goto 5, 3) := dk_167 0 5 (dk_at dksX9_fault_0 21 rfl rfl)
theorem dX9_fault_24 : decode cX9_fault 24 = .ok (.bipush (-2), 2) := dk_16 254 (dk_at dksX9_fault_1 0 rfl rfl)
theorem dX9_fault_26 : decode cX9_fault 26 = .ok (.ireturn, 1) := dk_172 (dk_at dksX9_fault_1 2 rfl rfl)
def dkwX9_readTrace_4 : List UInt8 := [180, 0, 151, 172]
abbrev dktX9_readTrace_4 : List UInt8 := dkwX9_readTrace_4 ++ []
def dkwX9_readTrace_3 : List UInt8 := [2, 160, 0, 22, 42, 180, 0, 129, 154, 0, 11, 27, 3, 184, 0, 186, 154, 0, 7, 42, 182, 0, 154, 42]
abbrev dktX9_readTrace_3 : List UInt8 := dkwX9_readTrace_3 ++ dktX9_readTrace_4
def dkwX9_readTrace_2 : List UInt8 := [160, 0, 7, 4, 167, 0, 4, 3, 61, 28, 153, 255, 223, 42, 182, 0, 157, 167, 255, 216, 42, 180, 0, 151]
abbrev dktX9_readTrace_2 : List UInt8 := dkwX9_readTrace_2 ++ dktX9_readTrace_3
def dkwX9_readTrace_1 : List UInt8 := [153, 0, 42, 42, 27, 182, 0, 205, 60, 42, 180, 0, 151, 2, 160, 0, 15, 42, 180, 0, 129, 6]
abbrev dktX9_readTrace_1 : List UInt8 := dkwX9_readTrace_1 ++ dktX9_readTrace_2
def dkwX9_readTrace_0 : List UInt8 := [42, 182, 0, 202, 42, 3, 181, 0, 167, 42, 3, 181, 0, 193, 42, 4, 181, 0, 196, 3, 60, 4, 61, 28]
abbrev dktX9_readTrace_0 : List UInt8 := dkwX9_readTrace_0 ++ dktX9_readTrace_1
theorem dksX9_readTrace_0 : cX9_readTrace.data.toList.drop 0 = dktX9_readTrace_0 := by decide +kernel
theorem dksX9_readTrace_1 : cX9_readTrace.data.toList.drop 24 = dktX9_readTrace_1 := dk_seg dksX9_readTrace_0 24 rfl rfl
theorem dksX9_readTrace_2 : cX9_readTrace.data.toList.drop 46 = dktX9_readTrace_2 := dk_seg dksX9_readTrace_1 22 rfl rfl
theorem dksX9_readTrace_3 : cX9_readTrace.data.toList.drop 70 = dktX9_readTrace_3 := dk_seg dksX9_readTrace_2 24 rfl rfl
theorem dksX9_readTrace_4 : cX9_readTrace.data.toList.drop 94 = dktX9_readTrace_4 := dk_seg dksX9_readTrace_3 24 rfl rfl
theorem dX9_readTrace_0 : decode cX9_readTrace 0 = .ok (.aload_n 0, 1) := dk_42 (dk_at dksX9_readTrace_0 0 rfl rfl)
theorem dX9_readTrace_1 : decode cX9_readTrace 1 = .ok (.invokevirtual 202, 3) := dk_182 0 202 (dk_at dksX9_readTrace_0 1 rfl rfl)
theorem dX9_readTrace_4 : decode cX9_readTrace 4 = .ok (.aload_n 0, 1) := dk_42 (dk_at dksX9_readTrace_0 4 rfl rfl)
theorem dX9_readTrace_5 : decode cX9_readTrace 5 = .ok (.iconst 0, 1) := dk_3 (dk_at dksX9_readTrace_0 5 rfl rfl)
theorem dX9_readTrace_6 : decode cX9_readTrace 6 = .ok (.putfield 167, 3) := dk_181 0 167 (dk_at dksX9_readTrace_0 6 rfl rfl)
theorem dX9_readTrace_9 : decode cX9_readTrace 9 = .ok (.aload_n 0, 1) := dk_42 (dk_at dksX9_readTrace_0 9 rfl rfl)
theorem dX9_readTrace_10 : decode cX9_readTrace 10 = .ok (.iconst 0, 1) := dk_3 (dk_at dksX9_readTrace_0 10 rfl rfl)
theorem dX9_readTrace_11 : decode cX9_readTrace 11 = .ok (.putfield 193, 3) := dk_181 0 193 (dk_at dksX9_readTrace_0 11 rfl rfl)
theorem dX9_readTrace_14 : decode cX9_readTrace 14 = .ok (.aload_n 0, 1) := dk_42 (dk_at dksX9_readTrace_0 14 rfl rfl)
theorem dX9_readTrace_15 : decode cX9_readTrace 15 = .ok (.iconst 1, 1) := dk_4 (dk_at dksX9_readTrace_0 15 rfl rfl)
theorem dX9_readTrace_16 : decode cX9_readTrace 16 = .ok (.putfield 196, 3) := dk_181 0 196 (dk_at dksX9_readTrace_0 16 rfl rfl)
theorem dX9_readTrace_19 : decode cX9_readTrace 19 = .ok (.iconst 0, 1) := dk_3 (dk_at dksX9_readTrace_0 19 rfl rfl)
theorem dX9_readTrace_20 : decode cX9_readTrace 20 = .ok (.istore_n 1, 1) := dk_60 (dk_at dksX9_readTrace_0 20 rfl rfl)
theorem dX9_readTrace_21 : decode cX9_readTrace 21 = .ok (.iconst 1, 1) := dk_4 (dk_at dksX9_readTrace_0 21 rfl rfl)
theorem dX9_readTrace_22 : decode cX9_readTrace 22 = .ok (.istore_n 2, 1) := dk_61 (dk_at dksX9_readTrace_0 22 rfl rfl)
theorem dX9_readTrace_23 : decode cX9_readTrace 23 = .ok (.iload_n 2, 1) := dk_28 (dk_at dksX9_readTrace_0 23 rfl rfl)
theorem dX9_readTrace_24 : decode cX9_readTrace 24 = .ok (.ifCond .eq 42, 3) := dk_153 0 42 (dk_at dksX9_readTrace_1 0 rfl rfl)
theorem dX9_readTrace_27 : decode cX9_readTrace 27 = .ok (.aload_n 0, 1) := dk_42 (dk_at dksX9_readTrace_1 3 rfl rfl)
theorem dX9_readTrace_28 : decode cX9_readTrace 28 = .ok (.iload_n 1, 1) := dk_27 (dk_at dksX9_readTrace_1 4 rfl rfl)
theorem dX9_readTrace_29 : decode cX9_readTrace 29 = .ok (.invokevirtual 205, 3) := dk_182 0 205 (dk_at dksX9_readTrace_1 5 rfl rfl)
theorem dX9_readTrace_32 : decode cX9_readTrace 32 = .ok (.istore_n 1, 1) := dk_60 (dk_at dksX9_readTrace_1 8 rfl rfl)
theorem dX9_readTrace_33 : decode cX9_readTrace 33 = .ok (.aload_n 0, 1) := dk_42 (dk_at dksX9_readTrace_1 9 rfl rfl)
theorem dX9_readTrace_34 : decode cX9_readTrace 34 = .ok (.getfield 151, 3) := dk_180 0 151 (dk_at dksX9_readTrace_1 10 rfl rfl)
theorem dX9_readTrace_37 : decode cX9_readTrace 37 = .ok (.iconst (-1), 1) := dk_2 (dk_at dksX9_readTrace_1 13 rfl rfl)
theorem dX9_readTrace_38 : decode cX9_readTrace 38 = .ok (.if_icmp .ne 15, 3) := dk_160 0 15 (dk_at dksX9_readTrace_1 14 rfl rfl)
theorem dX9_readTrace_41 : decode cX9_readTrace 41 = .ok (.aload_n 0, 1) := dk_42 (dk_at dksX9_readTrace_1 17 rfl rfl)
theorem dX9_readTrace_42 : decode cX9_readTrace 42 = .ok (.getfield 129, 3) := dk_180 0 129 (dk_at dksX9_readTrace_1 18 rfl rfl)
theorem dX9_readTrace_45 : decode cX9_readTrace 45 = .ok (.iconst 3, 1) := dk_6 (dk_at dksX9_readTrace_1 21 rfl rfl)
theorem dX9_readTrace_46 : decode cX9_readTrace 46 = .ok (.if_icmp .ne 7, 3) := dk_160 0 7 (dk_at dksX9_readTrace_2 0 rfl rfl)
theorem dX9_readTrace_49 : decode cX9_readTrace 49 = .ok (.iconst 1, 1) := dk_4 (dk_at dksX9_readTrace_2 3 rfl rfl)
theorem dX9_readTrace_50 : decode cX9_readTrace 50 = .ok (.goto 4, 3) := dk_167 0 4 (dk_at dksX9_readTrace_2 4 rfl rfl)
theorem dX9_readTrace_53 : decode cX9_readTrace 53 = .ok (.iconst 0, 1) := dk_3 (dk_at dksX9_readTrace_2 7 rfl rfl)
theorem dX9_readTrace_54 : decode cX9_readTrace 54 = .ok (.istore_n 2, 1) := dk_61 (dk_at dksX9_readTrace_2 8 rfl rfl)
theorem dX9_readTrace_55 : decode cX9_readTrace 55 = .ok (.iload_n 2, 1) := dk_28 (dk_at dksX9_readTrace_2 9 rfl rfl)
theorem dX9_readTrace_56 : decode cX9_readTrace 56 = .ok (.ifCond .eq (-33), 3) := dk_153 255 223 (dk_at dksX9_readTrace_2 10 rfl rfl)
theorem dX9_readTrace_59 : decode cX9_readTrace 59 = .ok (.aload_n 0, 1) := dk_42 (dk_at dksX9_readTrace_2 13 rfl rfl)
theorem dX9_readTrace_60 : decode cX9_readTrace 60 = .ok (.invokevirtual 157, 3) := dk_182 0 157 (dk_at dksX9_readTrace_2 14 rfl rfl)
theorem dX9_readTrace_63 : decode cX9_readTrace 63 = .ok (.goto (-40), 3) := dk_167 255 216 (dk_at dksX9_readTrace_2 17 rfl rfl)
theorem dX9_readTrace_66 : decode cX9_readTrace 66 = .ok (.aload_n 0, 1) := dk_42 (dk_at dksX9_readTrace_2 20 rfl rfl)
theorem dX9_readTrace_67 : decode cX9_readTrace 67 = .ok (.getfield 151, 3) := dk_180 0 151 (dk_at dksX9_readTrace_2 21 rfl rfl)
theorem dX9_readTrace_70 : decode cX9_readTrace 70 = .ok (.iconst (-1), 1) := dk_2 (dk_at dksX9_readTrace_3 0 rfl rfl)
theorem dX9_readTrace_71 : decode cX9_readTrace 71 = .ok (.if_icmp .ne 22, 3) := dk_160 0 22 (dk_at dksX9_readTrace_3 1 rfl rfl)
theorem dX9_readTrace_74 : decode cX9_readTrace 74 = .ok (.aload_n 0, 1) := dk_42 (dk_at dksX9_readTrace_3 4 rfl rfl)
theorem dX9_readTrace_75 : decode cX9_readTrace 75 = .ok (.getfield 129, 3) := dk_180 0 129 (dk_at dksX9_readTrace_3 5 rfl rfl)
theorem dX9_readTrace_78 : decode cX9_readTrace 78 = .ok (.ifCond .ne 11, 3) := dk_154 0 11 (dk_at dksX9_readTrace_3 8 rfl rfl)
theorem dX9_readTrace_81 : decode cX9_readTrace 81 = .ok (.iload_n 1, 1) := dk_27 (dk_at dksX9_readTrace_3 11 rfl rfl)
theorem dX9_readTrace_82 : decode cX9_readTrace 82 = .ok (.iconst 0, 1) := dk_3 (dk_at dksX9_readTrace_3 12 rfl rfl)
theorem dX9_readTrace_83 : decode cX9_readTrace 83 = .ok (.invokestatic 186, 3) := dk_184 0 186 (dk_at dksX9_readTrace_3 13 rfl rfl)
theorem dX9_readTrace_86 : decode cX9_readTrace 86 = .ok (.ifCond .ne 7, 3) := dk_154 0 7 (dk_at dksX9_readTrace_3 16 rfl rfl)
theorem dX9_readTrace_89 : decode cX9_readTrace 89 = .ok (.aload_n 0, 1) := dk_42 (dk_at dksX9_readTrace_3 19 rfl rfl)
theorem dX9_readTrace_90 : decode cX9_readTrace 90 = .ok (.invokevirtual 154, 3) := dk_182 0 154 (dk_at dksX9_readTrace_3 20 rfl rfl)
theorem dX9_readTrace_93 : decode cX9_readTrace 93 = .ok (.aload_n 0, 1) := dk_42 (dk_at dksX9_readTrace_3 23 rfl rfl)
theorem dX9_readTrace_94 : decode cX9_readTrace 94 = .ok (.getfield 151, 3) := dk_180 0 151 (dk_at dksX9_readTrace_4 0 rfl rfl)
theorem dX9_readTrace_97 : decode cX9_readTrace 97 = .ok (.ireturn, 1) := dk_172 (dk_at dksX9_readTrace_4 3 rfl rfl)
def dkwX9_begins_0 : List UInt8 := [42, 3, 181, 0, 107, 42, 2, 181, 0, 151, 42, 182, 0, 157, 177]
abbrev dktX9_begins_0 : List UInt8 := dkwX9_begins_0 ++ []
theorem dksX9_begins_0 : cX9_begins.data.toList.drop 0 = dktX9_begins_0 := by decide +kernel
theorem dX9_begins_0 : decode cX9_begins 0 = .ok (.aload_n 0, 1) := dk_42 (dk_at dksX9_begins_0 0 rfl rfl)
theorem dX9_begins_1 : decode cX9_begins 1 = .ok (.iconst 0, 1) := dk_3 (dk_at dksX9_begins_0 1 rfl rfl)
theorem dX9_begins_2 : decode cX9_begins 2 = .ok (.putfield 107, 3) := dk_181 0 107 (dk_at dksX9_begins_0 2 rfl rfl)
theorem dX9_begins_5 : decode cX9_begins 5 = .ok (.aload_n 0, 1) := dk_42 (dk_at dksX9_begins_0 5 rfl rfl)
theorem dX9_begins_6 : decode cX9_begins 6 = .ok (.iconst (-1), 1) := dk_2 (dk_at dksX9_begins_0 6 rfl rfl)
theorem dX9_begins_7 : decode cX9_begins 7 = .ok (.putfield 151, 3) := dk_181 0 151 (dk_at dksX9_begins_0 7 rfl rfl)
theorem dX9_begins_10 : decode cX9_begins 10 = .ok (.aload_n 0, 1) := dk_42 (dk_at dksX9_begins_0 10 rfl rfl)
theorem dX9_begins_11 : decode cX9_begins 11 = .ok (.invokevirtual 157, 3) := dk_182 0 157 (dk_at dksX9_begins_0 11 rfl rfl)
theorem dX9_begins_14 : decode cX9_begins 14 = .ok (.return_, 1) := dk_177 (dk_at dksX9_begins_0 14 rfl rfl)
def dkwX9_next_4 : List UInt8 := [160, 0, 7, 6, 167, 0, 4, 7, 181, 0, 129, 177]
abbrev dktX9_next_4 : List UInt8 := dkwX9_next_4 ++ []
def dkwX9_next_3 : List UInt8 := [160, 0, 10, 42, 182, 0, 148, 167, 0, 28, 42, 89, 180, 0, 107, 4, 96, 181, 0, 107, 42, 27, 16, 59]
abbrev dktX9_next_3 : List UInt8 := dkwX9_next_3 ++ dktX9_next_4
def dkwX9_next_2 : List UInt8 := [27, 184, 0, 121, 153, 0, 10, 42, 182, 0, 145, 167, 0, 48, 27, 184, 0, 139, 154, 0, 9, 27, 16, 45]
abbrev dktX9_next_2 : List UInt8 := dkwX9_next_2 ++ dktX9_next_3
def dkwX9_next_1 : List UInt8 := [180, 0, 107, 181, 0, 142, 42, 182, 0, 117, 60, 27, 2, 160, 0, 11, 42, 3, 181, 0, 129, 167, 0, 62]
abbrev dktX9_next_1 : List UInt8 := dkwX9_next_1 ++ dktX9_next_2
def dkwX9_next_0 : List UInt8 := [42, 182, 0, 117, 16, 32, 160, 0, 16, 42, 89, 180, 0, 107, 4, 96, 181, 0, 107, 167, 255, 237, 42, 42]
abbrev dktX9_next_0 : List UInt8 := dkwX9_next_0 ++ dktX9_next_1
theorem dksX9_next_0 : cX9_next.data.toList.drop 0 = dktX9_next_0 := by decide +kernel
theorem dksX9_next_1 : cX9_next.data.toList.drop 24 = dktX9_next_1 := dk_seg dksX9_next_0 24 rfl rfl
theorem dksX9_next_2 : cX9_next.data.toList.drop 48 = dktX9_next_2 := dk_seg dksX9_next_1 24 rfl rfl
theorem dksX9_next_3 : cX9_next.data.toList.drop 72 = dktX9_next_3 := dk_seg dksX9_next_2 24 rfl rfl
theorem dksX9_next_4 : cX9_next.data.toList.drop 96 = dktX9_next_4 := dk_seg dksX9_next_3 24 rfl rfl
theorem dX9_next_0 : decode cX9_next 0 = .ok (.aload_n 0, 1) := dk_42 (dk_at dksX9_next_0 0 rfl rfl)
theorem dX9_next_1 : decode cX9_next 1 = .ok (.invokevirtual 117, 3) := dk_182 0 117 (dk_at dksX9_next_0 1 rfl rfl)
theorem dX9_next_4 : decode cX9_next 4 = .ok (.bipush 32, 2) := dk_16 32 (dk_at dksX9_next_0 4 rfl rfl)
theorem dX9_next_6 : decode cX9_next 6 = .ok (.if_icmp .ne 16, 3) := dk_160 0 16 (dk_at dksX9_next_0 6 rfl rfl)
theorem dX9_next_9 : decode cX9_next 9 = .ok (.aload_n 0, 1) := dk_42 (dk_at dksX9_next_0 9 rfl rfl)
theorem dX9_next_10 : decode cX9_next 10 = .ok (.dup, 1) := dk_89 (dk_at dksX9_next_0 10 rfl rfl)
theorem dX9_next_11 : decode cX9_next 11 = .ok (.getfield 107, 3) := dk_180 0 107 (dk_at dksX9_next_0 11 rfl rfl)
theorem dX9_next_14 : decode cX9_next 14 = .ok (.iconst 1, 1) := dk_4 (dk_at dksX9_next_0 14 rfl rfl)
theorem dX9_next_15 : decode cX9_next 15 = .ok (.iadd, 1) := dk_96 (dk_at dksX9_next_0 15 rfl rfl)
theorem dX9_next_16 : decode cX9_next 16 = .ok (.putfield 107, 3) := dk_181 0 107 (dk_at dksX9_next_0 16 rfl rfl)
theorem dX9_next_19 : decode cX9_next 19 = .ok (.goto (-19), 3) := dk_167 255 237 (dk_at dksX9_next_0 19 rfl rfl)
theorem dX9_next_22 : decode cX9_next 22 = .ok (.aload_n 0, 1) := dk_42 (dk_at dksX9_next_0 22 rfl rfl)
theorem dX9_next_23 : decode cX9_next 23 = .ok (.aload_n 0, 1) := dk_42 (dk_at dksX9_next_0 23 rfl rfl)
theorem dX9_next_24 : decode cX9_next 24 = .ok (.getfield 107, 3) := dk_180 0 107 (dk_at dksX9_next_1 0 rfl rfl)
theorem dX9_next_27 : decode cX9_next 27 = .ok (.putfield 142, 3) := dk_181 0 142 (dk_at dksX9_next_1 3 rfl rfl)
theorem dX9_next_30 : decode cX9_next 30 = .ok (.aload_n 0, 1) := dk_42 (dk_at dksX9_next_1 6 rfl rfl)
theorem dX9_next_31 : decode cX9_next 31 = .ok (.invokevirtual 117, 3) := dk_182 0 117 (dk_at dksX9_next_1 7 rfl rfl)
theorem dX9_next_34 : decode cX9_next 34 = .ok (.istore_n 1, 1) := dk_60 (dk_at dksX9_next_1 10 rfl rfl)
theorem dX9_next_35 : decode cX9_next 35 = .ok (.iload_n 1, 1) := dk_27 (dk_at dksX9_next_1 11 rfl rfl)
theorem dX9_next_36 : decode cX9_next 36 = .ok (.iconst (-1), 1) := dk_2 (dk_at dksX9_next_1 12 rfl rfl)
theorem dX9_next_37 : decode cX9_next 37 = .ok (.if_icmp .ne 11, 3) := dk_160 0 11 (dk_at dksX9_next_1 13 rfl rfl)
theorem dX9_next_40 : decode cX9_next 40 = .ok (.aload_n 0, 1) := dk_42 (dk_at dksX9_next_1 16 rfl rfl)
theorem dX9_next_41 : decode cX9_next 41 = .ok (.iconst 0, 1) := dk_3 (dk_at dksX9_next_1 17 rfl rfl)
theorem dX9_next_42 : decode cX9_next 42 = .ok (.putfield 129, 3) := dk_181 0 129 (dk_at dksX9_next_1 18 rfl rfl)
theorem dX9_next_45 : decode cX9_next 45 = .ok (.goto 62, 3) := dk_167 0 62 (dk_at dksX9_next_1 21 rfl rfl)
theorem dX9_next_48 : decode cX9_next 48 = .ok (.iload_n 1, 1) := dk_27 (dk_at dksX9_next_2 0 rfl rfl)
theorem dX9_next_49 : decode cX9_next 49 = .ok (.invokestatic 121, 3) := dk_184 0 121 (dk_at dksX9_next_2 1 rfl rfl)
theorem dX9_next_52 : decode cX9_next 52 = .ok (.ifCond .eq 10, 3) := dk_153 0 10 (dk_at dksX9_next_2 4 rfl rfl)
theorem dX9_next_55 : decode cX9_next 55 = .ok (.aload_n 0, 1) := dk_42 (dk_at dksX9_next_2 7 rfl rfl)
theorem dX9_next_56 : decode cX9_next 56 = .ok (.invokevirtual 145, 3) := dk_182 0 145 (dk_at dksX9_next_2 8 rfl rfl)
theorem dX9_next_59 : decode cX9_next 59 = .ok (.goto 48, 3) := dk_167 0 48 (dk_at dksX9_next_2 11 rfl rfl)
theorem dX9_next_62 : decode cX9_next 62 = .ok (.iload_n 1, 1) := dk_27 (dk_at dksX9_next_2 14 rfl rfl)
theorem dX9_next_63 : decode cX9_next 63 = .ok (.invokestatic 139, 3) := dk_184 0 139 (dk_at dksX9_next_2 15 rfl rfl)
theorem dX9_next_66 : decode cX9_next 66 = .ok (.ifCond .ne 9, 3) := dk_154 0 9 (dk_at dksX9_next_2 18 rfl rfl)
theorem dX9_next_69 : decode cX9_next 69 = .ok (.iload_n 1, 1) := dk_27 (dk_at dksX9_next_2 21 rfl rfl)
theorem dX9_next_70 : decode cX9_next 70 = .ok (.bipush 45, 2) := dk_16 45 (dk_at dksX9_next_2 22 rfl rfl)
theorem dX9_next_72 : decode cX9_next 72 = .ok (.if_icmp .ne 10, 3) := dk_160 0 10 (dk_at dksX9_next_3 0 rfl rfl)
theorem dX9_next_75 : decode cX9_next 75 = .ok (.aload_n 0, 1) := dk_42 (dk_at dksX9_next_3 3 rfl rfl)
theorem dX9_next_76 : decode cX9_next 76 = .ok (.invokevirtual 148, 3) := dk_182 0 148 (dk_at dksX9_next_3 4 rfl rfl)
theorem dX9_next_79 : decode cX9_next 79 = .ok (.goto 28, 3) := dk_167 0 28 (dk_at dksX9_next_3 7 rfl rfl)
theorem dX9_next_82 : decode cX9_next 82 = .ok (.aload_n 0, 1) := dk_42 (dk_at dksX9_next_3 10 rfl rfl)
theorem dX9_next_83 : decode cX9_next 83 = .ok (.dup, 1) := dk_89 (dk_at dksX9_next_3 11 rfl rfl)
theorem dX9_next_84 : decode cX9_next 84 = .ok (.getfield 107, 3) := dk_180 0 107 (dk_at dksX9_next_3 12 rfl rfl)
theorem dX9_next_87 : decode cX9_next 87 = .ok (.iconst 1, 1) := dk_4 (dk_at dksX9_next_3 15 rfl rfl)
theorem dX9_next_88 : decode cX9_next 88 = .ok (.iadd, 1) := dk_96 (dk_at dksX9_next_3 16 rfl rfl)
theorem dX9_next_89 : decode cX9_next 89 = .ok (.putfield 107, 3) := dk_181 0 107 (dk_at dksX9_next_3 17 rfl rfl)
theorem dX9_next_92 : decode cX9_next 92 = .ok (.aload_n 0, 1) := dk_42 (dk_at dksX9_next_3 20 rfl rfl)
theorem dX9_next_93 : decode cX9_next 93 = .ok (.iload_n 1, 1) := dk_27 (dk_at dksX9_next_3 21 rfl rfl)
theorem dX9_next_94 : decode cX9_next 94 = .ok (.bipush 59, 2) := dk_16 59 (dk_at dksX9_next_3 22 rfl rfl)
theorem dX9_next_96 : decode cX9_next 96 = .ok (.if_icmp .ne 7, 3) := dk_160 0 7 (dk_at dksX9_next_4 0 rfl rfl)
theorem dX9_next_99 : decode cX9_next 99 = .ok (.iconst 3, 1) := dk_6 (dk_at dksX9_next_4 3 rfl rfl)
theorem dX9_next_100 : decode cX9_next 100 = .ok (.goto 4, 3) := dk_167 0 4 (dk_at dksX9_next_4 4 rfl rfl)
theorem dX9_next_103 : decode cX9_next 103 = .ok (.iconst 4, 1) := dk_7 (dk_at dksX9_next_4 7 rfl rfl)
theorem dX9_next_104 : decode cX9_next 104 = .ok (.putfield 129, 3) := dk_181 0 129 (dk_at dksX9_next_4 8 rfl rfl)
theorem dX9_next_107 : decode cX9_next 107 = .ok (.return_, 1) := dk_177 (dk_at dksX9_next_4 11 rfl rfl)
def dkwX9_here_1 : List UInt8 := [172]
abbrev dktX9_here_1 : List UInt8 := dkwX9_here_1 ++ []
def dkwX9_here_0 : List UInt8 := [42, 180, 0, 107, 42, 180, 0, 100, 162, 0, 15, 42, 180, 0, 9, 42, 180, 0, 107, 46, 167, 0, 4, 2]
abbrev dktX9_here_0 : List UInt8 := dkwX9_here_0 ++ dktX9_here_1
theorem dksX9_here_0 : cX9_here.data.toList.drop 0 = dktX9_here_0 := by decide +kernel
theorem dksX9_here_1 : cX9_here.data.toList.drop 24 = dktX9_here_1 := dk_seg dksX9_here_0 24 rfl rfl
theorem dX9_here_0 : decode cX9_here 0 = .ok (.aload_n 0, 1) := dk_42 (dk_at dksX9_here_0 0 rfl rfl)
theorem dX9_here_1 : decode cX9_here 1 = .ok (.getfield 107, 3) := dk_180 0 107 (dk_at dksX9_here_0 1 rfl rfl)
theorem dX9_here_4 : decode cX9_here 4 = .ok (.aload_n 0, 1) := dk_42 (dk_at dksX9_here_0 4 rfl rfl)
theorem dX9_here_5 : decode cX9_here 5 = .ok (.getfield 100, 3) := dk_180 0 100 (dk_at dksX9_here_0 5 rfl rfl)
theorem dX9_here_8 : decode cX9_here 8 = .ok (.if_icmp .ge 15, 3) := dk_162 0 15 (dk_at dksX9_here_0 8 rfl rfl)
theorem dX9_here_11 : decode cX9_here 11 = .ok (.aload_n 0, 1) := dk_42 (dk_at dksX9_here_0 11 rfl rfl)
theorem dX9_here_12 : decode cX9_here 12 = .ok (.getfield 9, 3) := dk_180 0 9 (dk_at dksX9_here_0 12 rfl rfl)
theorem dX9_here_15 : decode cX9_here 15 = .ok (.aload_n 0, 1) := dk_42 (dk_at dksX9_here_0 15 rfl rfl)
theorem dX9_here_16 : decode cX9_here 16 = .ok (.getfield 107, 3) := dk_180 0 107 (dk_at dksX9_here_0 16 rfl rfl)
theorem dX9_here_19 : decode cX9_here 19 = .ok (.iaload, 1) := dk_46 (dk_at dksX9_here_0 19 rfl rfl)
theorem dX9_here_20 : decode cX9_here 20 = .ok (.goto 4, 3) := dk_167 0 4 (dk_at dksX9_here_0 20 rfl rfl)
theorem dX9_here_23 : decode cX9_here 23 = .ok (.iconst (-1), 1) := dk_2 (dk_at dksX9_here_0 23 rfl rfl)
theorem dX9_here_24 : decode cX9_here 24 = .ok (.ireturn, 1) := dk_172 (dk_at dksX9_here_1 0 rfl rfl)
def dkwX9_isLetter_0 : List UInt8 := [26, 16, 97, 161, 0, 13, 26, 16, 122, 163, 0, 7, 4, 167, 0, 4, 3, 172]
abbrev dktX9_isLetter_0 : List UInt8 := dkwX9_isLetter_0 ++ []
theorem dksX9_isLetter_0 : cX9_isLetter.data.toList.drop 0 = dktX9_isLetter_0 := by decide +kernel
theorem dX9_isLetter_0 : decode cX9_isLetter 0 = .ok (.iload_n 0, 1) := dk_26 (dk_at dksX9_isLetter_0 0 rfl rfl)
theorem dX9_isLetter_1 : decode cX9_isLetter 1 = .ok (.bipush 97, 2) := dk_16 97 (dk_at dksX9_isLetter_0 1 rfl rfl)
theorem dX9_isLetter_3 : decode cX9_isLetter 3 = .ok (.if_icmp .lt 13, 3) := dk_161 0 13 (dk_at dksX9_isLetter_0 3 rfl rfl)
theorem dX9_isLetter_6 : decode cX9_isLetter 6 = .ok (.iload_n 0, 1) := dk_26 (dk_at dksX9_isLetter_0 6 rfl rfl)
theorem dX9_isLetter_7 : decode cX9_isLetter 7 = .ok (.bipush 122, 2) := dk_16 122 (dk_at dksX9_isLetter_0 7 rfl rfl)
theorem dX9_isLetter_9 : decode cX9_isLetter 9 = .ok (.if_icmp .gt 7, 3) := dk_163 0 7 (dk_at dksX9_isLetter_0 9 rfl rfl)
theorem dX9_isLetter_12 : decode cX9_isLetter 12 = .ok (.iconst 1, 1) := dk_4 (dk_at dksX9_isLetter_0 12 rfl rfl)
theorem dX9_isLetter_13 : decode cX9_isLetter 13 = .ok (.goto 4, 3) := dk_167 0 4 (dk_at dksX9_isLetter_0 13 rfl rfl)
theorem dX9_isLetter_16 : decode cX9_isLetter 16 = .ok (.iconst 0, 1) := dk_3 (dk_at dksX9_isLetter_0 16 rfl rfl)
theorem dX9_isLetter_17 : decode cX9_isLetter 17 = .ok (.ireturn, 1) := dk_172 (dk_at dksX9_isLetter_0 17 rfl rfl)
def dkwX9_readWord_3 : List UInt8 := [181, 0, 107, 167, 255, 193, 42, 4, 181, 0, 129, 177]
abbrev dktX9_readWord_3 : List UInt8 := dkwX9_readWord_3 ++ []
def dkwX9_readWord_2 : List UInt8 := [10, 97, 181, 0, 110, 42, 89, 180, 0, 114, 4, 96, 181, 0, 114, 42, 89, 180, 0, 107, 4, 96]
abbrev dktX9_readWord_2 : List UInt8 := dkwX9_readWord_2 ++ dktX9_readWord_3
def dkwX9_readWord_1 : List UInt8 := [16, 7, 162, 0, 37, 42, 20, 0, 125, 42, 180, 0, 110, 105, 42, 182, 0, 117, 133, 97, 20, 0, 127, 101]
abbrev dktX9_readWord_1 : List UInt8 := dkwX9_readWord_1 ++ dktX9_readWord_2
def dkwX9_readWord_0 : List UInt8 := [42, 9, 181, 0, 110, 42, 3, 181, 0, 114, 42, 182, 0, 117, 184, 0, 121, 153, 0, 59, 42, 180, 0, 114]
abbrev dktX9_readWord_0 : List UInt8 := dkwX9_readWord_0 ++ dktX9_readWord_1
theorem dksX9_readWord_0 : cX9_readWord.data.toList.drop 0 = dktX9_readWord_0 := by decide +kernel
theorem dksX9_readWord_1 : cX9_readWord.data.toList.drop 24 = dktX9_readWord_1 := dk_seg dksX9_readWord_0 24 rfl rfl
theorem dksX9_readWord_2 : cX9_readWord.data.toList.drop 48 = dktX9_readWord_2 := dk_seg dksX9_readWord_1 24 rfl rfl
theorem dksX9_readWord_3 : cX9_readWord.data.toList.drop 70 = dktX9_readWord_3 := dk_seg dksX9_readWord_2 22 rfl rfl
theorem dX9_readWord_0 : decode cX9_readWord 0 = .ok (.aload_n 0, 1) := dk_42 (dk_at dksX9_readWord_0 0 rfl rfl)
theorem dX9_readWord_1 : decode cX9_readWord 1 = .ok (.lconst 0, 1) := dk_9 (dk_at dksX9_readWord_0 1 rfl rfl)
theorem dX9_readWord_2 : decode cX9_readWord 2 = .ok (.putfield 110, 3) := dk_181 0 110 (dk_at dksX9_readWord_0 2 rfl rfl)
theorem dX9_readWord_5 : decode cX9_readWord 5 = .ok (.aload_n 0, 1) := dk_42 (dk_at dksX9_readWord_0 5 rfl rfl)
theorem dX9_readWord_6 : decode cX9_readWord 6 = .ok (.iconst 0, 1) := dk_3 (dk_at dksX9_readWord_0 6 rfl rfl)
theorem dX9_readWord_7 : decode cX9_readWord 7 = .ok (.putfield 114, 3) := dk_181 0 114 (dk_at dksX9_readWord_0 7 rfl rfl)
theorem dX9_readWord_10 : decode cX9_readWord 10 = .ok (.aload_n 0, 1) := dk_42 (dk_at dksX9_readWord_0 10 rfl rfl)
theorem dX9_readWord_11 : decode cX9_readWord 11 = .ok (.invokevirtual 117, 3) := dk_182 0 117 (dk_at dksX9_readWord_0 11 rfl rfl)
theorem dX9_readWord_14 : decode cX9_readWord 14 = .ok (.invokestatic 121, 3) := dk_184 0 121 (dk_at dksX9_readWord_0 14 rfl rfl)
theorem dX9_readWord_17 : decode cX9_readWord 17 = .ok (.ifCond .eq 59, 3) := dk_153 0 59 (dk_at dksX9_readWord_0 17 rfl rfl)
theorem dX9_readWord_20 : decode cX9_readWord 20 = .ok (.aload_n 0, 1) := dk_42 (dk_at dksX9_readWord_0 20 rfl rfl)
theorem dX9_readWord_21 : decode cX9_readWord 21 = .ok (.getfield 114, 3) := dk_180 0 114 (dk_at dksX9_readWord_0 21 rfl rfl)
theorem dX9_readWord_24 : decode cX9_readWord 24 = .ok (.bipush 7, 2) := dk_16 7 (dk_at dksX9_readWord_1 0 rfl rfl)
theorem dX9_readWord_26 : decode cX9_readWord 26 = .ok (.if_icmp .ge 37, 3) := dk_162 0 37 (dk_at dksX9_readWord_1 2 rfl rfl)
theorem dX9_readWord_29 : decode cX9_readWord 29 = .ok (.aload_n 0, 1) := dk_42 (dk_at dksX9_readWord_1 5 rfl rfl)
theorem dX9_readWord_30 : decode cX9_readWord 30 = .ok (.ldc2_w 125, 3) := dk_20 0 125 (dk_at dksX9_readWord_1 6 rfl rfl)
theorem dX9_readWord_33 : decode cX9_readWord 33 = .ok (.aload_n 0, 1) := dk_42 (dk_at dksX9_readWord_1 9 rfl rfl)
theorem dX9_readWord_34 : decode cX9_readWord 34 = .ok (.getfield 110, 3) := dk_180 0 110 (dk_at dksX9_readWord_1 10 rfl rfl)
theorem dX9_readWord_37 : decode cX9_readWord 37 = .ok (.lmul, 1) := dk_105 (dk_at dksX9_readWord_1 13 rfl rfl)
theorem dX9_readWord_38 : decode cX9_readWord 38 = .ok (.aload_n 0, 1) := dk_42 (dk_at dksX9_readWord_1 14 rfl rfl)
theorem dX9_readWord_39 : decode cX9_readWord 39 = .ok (.invokevirtual 117, 3) := dk_182 0 117 (dk_at dksX9_readWord_1 15 rfl rfl)
theorem dX9_readWord_42 : decode cX9_readWord 42 = .ok (.i2l, 1) := dk_133 (dk_at dksX9_readWord_1 18 rfl rfl)
theorem dX9_readWord_43 : decode cX9_readWord 43 = .ok (.ladd, 1) := dk_97 (dk_at dksX9_readWord_1 19 rfl rfl)
theorem dX9_readWord_44 : decode cX9_readWord 44 = .ok (.ldc2_w 127, 3) := dk_20 0 127 (dk_at dksX9_readWord_1 20 rfl rfl)
theorem dX9_readWord_47 : decode cX9_readWord 47 = .ok (.lsub, 1) := dk_101 (dk_at dksX9_readWord_1 23 rfl rfl)
theorem dX9_readWord_48 : decode cX9_readWord 48 = .ok (.lconst 1, 1) := dk_10 (dk_at dksX9_readWord_2 0 rfl rfl)
theorem dX9_readWord_49 : decode cX9_readWord 49 = .ok (.ladd, 1) := dk_97 (dk_at dksX9_readWord_2 1 rfl rfl)
theorem dX9_readWord_50 : decode cX9_readWord 50 = .ok (.putfield 110, 3) := dk_181 0 110 (dk_at dksX9_readWord_2 2 rfl rfl)
theorem dX9_readWord_53 : decode cX9_readWord 53 = .ok (.aload_n 0, 1) := dk_42 (dk_at dksX9_readWord_2 5 rfl rfl)
theorem dX9_readWord_54 : decode cX9_readWord 54 = .ok (.dup, 1) := dk_89 (dk_at dksX9_readWord_2 6 rfl rfl)
theorem dX9_readWord_55 : decode cX9_readWord 55 = .ok (.getfield 114, 3) := dk_180 0 114 (dk_at dksX9_readWord_2 7 rfl rfl)
theorem dX9_readWord_58 : decode cX9_readWord 58 = .ok (.iconst 1, 1) := dk_4 (dk_at dksX9_readWord_2 10 rfl rfl)
theorem dX9_readWord_59 : decode cX9_readWord 59 = .ok (.iadd, 1) := dk_96 (dk_at dksX9_readWord_2 11 rfl rfl)
theorem dX9_readWord_60 : decode cX9_readWord 60 = .ok (.putfield 114, 3) := dk_181 0 114 (dk_at dksX9_readWord_2 12 rfl rfl)
theorem dX9_readWord_63 : decode cX9_readWord 63 = .ok (.aload_n 0, 1) := dk_42 (dk_at dksX9_readWord_2 15 rfl rfl)
theorem dX9_readWord_64 : decode cX9_readWord 64 = .ok (.dup, 1) := dk_89 (dk_at dksX9_readWord_2 16 rfl rfl)
theorem dX9_readWord_65 : decode cX9_readWord 65 = .ok (.getfield 107, 3) := dk_180 0 107 (dk_at dksX9_readWord_2 17 rfl rfl)
theorem dX9_readWord_68 : decode cX9_readWord 68 = .ok (.iconst 1, 1) := dk_4 (dk_at dksX9_readWord_2 20 rfl rfl)
theorem dX9_readWord_69 : decode cX9_readWord 69 = .ok (.iadd, 1) := dk_96 (dk_at dksX9_readWord_2 21 rfl rfl)
theorem dX9_readWord_70 : decode cX9_readWord 70 = .ok (.putfield 107, 3) := dk_181 0 107 (dk_at dksX9_readWord_3 0 rfl rfl)
theorem dX9_readWord_73 : decode cX9_readWord 73 = .ok (.goto (-63), 3) := dk_167 255 193 (dk_at dksX9_readWord_3 3 rfl rfl)
theorem dX9_readWord_76 : decode cX9_readWord 76 = .ok (.aload_n 0, 1) := dk_42 (dk_at dksX9_readWord_3 6 rfl rfl)
theorem dX9_readWord_77 : decode cX9_readWord 77 = .ok (.iconst 1, 1) := dk_4 (dk_at dksX9_readWord_3 7 rfl rfl)
theorem dX9_readWord_78 : decode cX9_readWord 78 = .ok (.putfield 129, 3) := dk_181 0 129 (dk_at dksX9_readWord_3 8 rfl rfl)
theorem dX9_readWord_81 : decode cX9_readWord 81 = .ok (.return_, 1) := dk_177 (dk_at dksX9_readWord_3 11 rfl rfl)
def dkwX9_isDigit_0 : List UInt8 := [26, 16, 48, 161, 0, 13, 26, 16, 57, 163, 0, 7, 4, 167, 0, 4, 3, 172]
abbrev dktX9_isDigit_0 : List UInt8 := dkwX9_isDigit_0 ++ []
theorem dksX9_isDigit_0 : cX9_isDigit.data.toList.drop 0 = dktX9_isDigit_0 := by decide +kernel
theorem dX9_isDigit_0 : decode cX9_isDigit 0 = .ok (.iload_n 0, 1) := dk_26 (dk_at dksX9_isDigit_0 0 rfl rfl)
theorem dX9_isDigit_1 : decode cX9_isDigit 1 = .ok (.bipush 48, 2) := dk_16 48 (dk_at dksX9_isDigit_0 1 rfl rfl)
theorem dX9_isDigit_3 : decode cX9_isDigit 3 = .ok (.if_icmp .lt 13, 3) := dk_161 0 13 (dk_at dksX9_isDigit_0 3 rfl rfl)
theorem dX9_isDigit_6 : decode cX9_isDigit 6 = .ok (.iload_n 0, 1) := dk_26 (dk_at dksX9_isDigit_0 6 rfl rfl)
theorem dX9_isDigit_7 : decode cX9_isDigit 7 = .ok (.bipush 57, 2) := dk_16 57 (dk_at dksX9_isDigit_0 7 rfl rfl)
theorem dX9_isDigit_9 : decode cX9_isDigit 9 = .ok (.if_icmp .gt 7, 3) := dk_163 0 7 (dk_at dksX9_isDigit_0 9 rfl rfl)
theorem dX9_isDigit_12 : decode cX9_isDigit 12 = .ok (.iconst 1, 1) := dk_4 (dk_at dksX9_isDigit_0 12 rfl rfl)
theorem dX9_isDigit_13 : decode cX9_isDigit 13 = .ok (.goto 4, 3) := dk_167 0 4 (dk_at dksX9_isDigit_0 13 rfl rfl)
theorem dX9_isDigit_16 : decode cX9_isDigit 16 = .ok (.iconst 0, 1) := dk_3 (dk_at dksX9_isDigit_0 16 rfl rfl)
theorem dX9_isDigit_17 : decode cX9_isDigit 17 = .ok (.ireturn, 1) := dk_172 (dk_at dksX9_isDigit_0 17 rfl rfl)
def dkwX9_readNumber_6 : List UInt8 := [177]
abbrev dktX9_readNumber_6 : List UInt8 := dkwX9_readNumber_6 ++ []
def dkwX9_readNumber_5 : List UInt8 := [180, 0, 136, 181, 0, 136, 42, 27, 4, 6, 184, 0, 103, 153, 0, 7, 5, 167, 0, 4, 7, 181, 0, 129]
abbrev dktX9_readNumber_5 : List UInt8 := dkwX9_readNumber_5 ++ dktX9_readNumber_6
def dkwX9_readNumber_4 : List UInt8 := [181, 0, 107, 167, 255, 205, 42, 42, 180, 0, 132, 153, 0, 11, 42, 180, 0, 136, 116, 167, 0, 7, 42]
abbrev dktX9_readNumber_4 : List UInt8 := dkwX9_readNumber_4 ++ dktX9_readNumber_5
def dkwX9_readNumber_3 : List UInt8 := [182, 0, 117, 96, 16, 48, 100, 167, 0, 4, 3, 181, 0, 136, 132, 1, 1, 42, 89, 180, 0, 107, 4, 96]
abbrev dktX9_readNumber_3 : List UInt8 := dkwX9_readNumber_3 ++ dktX9_readNumber_4
def dkwX9_readNumber_2 : List UInt8 := [182, 0, 117, 184, 0, 139, 153, 0, 47, 42, 27, 6, 162, 0, 21, 16, 10, 42, 180, 0, 136, 104, 42]
abbrev dktX9_readNumber_2 : List UInt8 := dkwX9_readNumber_2 ++ dktX9_readNumber_3
def dkwX9_readNumber_1 : List UInt8 := [180, 0, 132, 153, 0, 7, 4, 167, 0, 4, 3, 96, 181, 0, 107, 3, 60, 42, 3, 181, 0, 136, 42]
abbrev dktX9_readNumber_1 : List UInt8 := dkwX9_readNumber_1 ++ dktX9_readNumber_2
def dkwX9_readNumber_0 : List UInt8 := [42, 42, 182, 0, 117, 16, 45, 160, 0, 7, 4, 167, 0, 4, 3, 181, 0, 132, 42, 89, 180, 0, 107, 42]
abbrev dktX9_readNumber_0 : List UInt8 := dkwX9_readNumber_0 ++ dktX9_readNumber_1
theorem dksX9_readNumber_0 : cX9_readNumber.data.toList.drop 0 = dktX9_readNumber_0 := by decide +kernel
theorem dksX9_readNumber_1 : cX9_readNumber.data.toList.drop 24 = dktX9_readNumber_1 := dk_seg dksX9_readNumber_0 24 rfl rfl
theorem dksX9_readNumber_2 : cX9_readNumber.data.toList.drop 47 = dktX9_readNumber_2 := dk_seg dksX9_readNumber_1 23 rfl rfl
theorem dksX9_readNumber_3 : cX9_readNumber.data.toList.drop 70 = dktX9_readNumber_3 := dk_seg dksX9_readNumber_2 23 rfl rfl
theorem dksX9_readNumber_4 : cX9_readNumber.data.toList.drop 94 = dktX9_readNumber_4 := dk_seg dksX9_readNumber_3 24 rfl rfl
theorem dksX9_readNumber_5 : cX9_readNumber.data.toList.drop 117 = dktX9_readNumber_5 := dk_seg dksX9_readNumber_4 23 rfl rfl
theorem dksX9_readNumber_6 : cX9_readNumber.data.toList.drop 141 = dktX9_readNumber_6 := dk_seg dksX9_readNumber_5 24 rfl rfl
theorem dX9_readNumber_0 : decode cX9_readNumber 0 = .ok (.aload_n 0, 1) := dk_42 (dk_at dksX9_readNumber_0 0 rfl rfl)
theorem dX9_readNumber_1 : decode cX9_readNumber 1 = .ok (.aload_n 0, 1) := dk_42 (dk_at dksX9_readNumber_0 1 rfl rfl)
theorem dX9_readNumber_2 : decode cX9_readNumber 2 = .ok (.invokevirtual 117, 3) := dk_182 0 117 (dk_at dksX9_readNumber_0 2 rfl rfl)
theorem dX9_readNumber_5 : decode cX9_readNumber 5 = .ok (.bipush 45, 2) := dk_16 45 (dk_at dksX9_readNumber_0 5 rfl rfl)
theorem dX9_readNumber_7 : decode cX9_readNumber 7 = .ok (.if_icmp .ne 7, 3) := dk_160 0 7 (dk_at dksX9_readNumber_0 7 rfl rfl)
theorem dX9_readNumber_10 : decode cX9_readNumber 10 = .ok (.iconst 1, 1) := dk_4 (dk_at dksX9_readNumber_0 10 rfl rfl)
theorem dX9_readNumber_11 : decode cX9_readNumber 11 = .ok (.goto 4, 3) := dk_167 0 4 (dk_at dksX9_readNumber_0 11 rfl rfl)
theorem dX9_readNumber_14 : decode cX9_readNumber 14 = .ok (.iconst 0, 1) := dk_3 (dk_at dksX9_readNumber_0 14 rfl rfl)
theorem dX9_readNumber_15 : decode cX9_readNumber 15 = .ok (.putfield 132, 3) := dk_181 0 132 (dk_at dksX9_readNumber_0 15 rfl rfl)
theorem dX9_readNumber_18 : decode cX9_readNumber 18 = .ok (.aload_n 0, 1) := dk_42 (dk_at dksX9_readNumber_0 18 rfl rfl)
theorem dX9_readNumber_19 : decode cX9_readNumber 19 = .ok (.dup, 1) := dk_89 (dk_at dksX9_readNumber_0 19 rfl rfl)
theorem dX9_readNumber_20 : decode cX9_readNumber 20 = .ok (.getfield 107, 3) := dk_180 0 107 (dk_at dksX9_readNumber_0 20 rfl rfl)
theorem dX9_readNumber_23 : decode cX9_readNumber 23 = .ok (.aload_n 0, 1) := dk_42 (dk_at dksX9_readNumber_0 23 rfl rfl)
theorem dX9_readNumber_24 : decode cX9_readNumber 24 = .ok (.getfield 132, 3) := dk_180 0 132 (dk_at dksX9_readNumber_1 0 rfl rfl)
theorem dX9_readNumber_27 : decode cX9_readNumber 27 = .ok (.ifCond .eq 7, 3) := dk_153 0 7 (dk_at dksX9_readNumber_1 3 rfl rfl)
theorem dX9_readNumber_30 : decode cX9_readNumber 30 = .ok (.iconst 1, 1) := dk_4 (dk_at dksX9_readNumber_1 6 rfl rfl)
theorem dX9_readNumber_31 : decode cX9_readNumber 31 = .ok (.goto 4, 3) := dk_167 0 4 (dk_at dksX9_readNumber_1 7 rfl rfl)
theorem dX9_readNumber_34 : decode cX9_readNumber 34 = .ok (.iconst 0, 1) := dk_3 (dk_at dksX9_readNumber_1 10 rfl rfl)
theorem dX9_readNumber_35 : decode cX9_readNumber 35 = .ok (.iadd, 1) := dk_96 (dk_at dksX9_readNumber_1 11 rfl rfl)
theorem dX9_readNumber_36 : decode cX9_readNumber 36 = .ok (.putfield 107, 3) := dk_181 0 107 (dk_at dksX9_readNumber_1 12 rfl rfl)
theorem dX9_readNumber_39 : decode cX9_readNumber 39 = .ok (.iconst 0, 1) := dk_3 (dk_at dksX9_readNumber_1 15 rfl rfl)
theorem dX9_readNumber_40 : decode cX9_readNumber 40 = .ok (.istore_n 1, 1) := dk_60 (dk_at dksX9_readNumber_1 16 rfl rfl)
theorem dX9_readNumber_41 : decode cX9_readNumber 41 = .ok (.aload_n 0, 1) := dk_42 (dk_at dksX9_readNumber_1 17 rfl rfl)
theorem dX9_readNumber_42 : decode cX9_readNumber 42 = .ok (.iconst 0, 1) := dk_3 (dk_at dksX9_readNumber_1 18 rfl rfl)
theorem dX9_readNumber_43 : decode cX9_readNumber 43 = .ok (.putfield 136, 3) := dk_181 0 136 (dk_at dksX9_readNumber_1 19 rfl rfl)
theorem dX9_readNumber_46 : decode cX9_readNumber 46 = .ok (.aload_n 0, 1) := dk_42 (dk_at dksX9_readNumber_1 22 rfl rfl)
theorem dX9_readNumber_47 : decode cX9_readNumber 47 = .ok (.invokevirtual 117, 3) := dk_182 0 117 (dk_at dksX9_readNumber_2 0 rfl rfl)
theorem dX9_readNumber_50 : decode cX9_readNumber 50 = .ok (.invokestatic 139, 3) := dk_184 0 139 (dk_at dksX9_readNumber_2 3 rfl rfl)
theorem dX9_readNumber_53 : decode cX9_readNumber 53 = .ok (.ifCond .eq 47, 3) := dk_153 0 47 (dk_at dksX9_readNumber_2 6 rfl rfl)
theorem dX9_readNumber_56 : decode cX9_readNumber 56 = .ok (.aload_n 0, 1) := dk_42 (dk_at dksX9_readNumber_2 9 rfl rfl)
theorem dX9_readNumber_57 : decode cX9_readNumber 57 = .ok (.iload_n 1, 1) := dk_27 (dk_at dksX9_readNumber_2 10 rfl rfl)
theorem dX9_readNumber_58 : decode cX9_readNumber 58 = .ok (.iconst 3, 1) := dk_6 (dk_at dksX9_readNumber_2 11 rfl rfl)
theorem dX9_readNumber_59 : decode cX9_readNumber 59 = .ok (.if_icmp .ge 21, 3) := dk_162 0 21 (dk_at dksX9_readNumber_2 12 rfl rfl)
theorem dX9_readNumber_62 : decode cX9_readNumber 62 = .ok (.bipush 10, 2) := dk_16 10 (dk_at dksX9_readNumber_2 15 rfl rfl)
theorem dX9_readNumber_64 : decode cX9_readNumber 64 = .ok (.aload_n 0, 1) := dk_42 (dk_at dksX9_readNumber_2 17 rfl rfl)
theorem dX9_readNumber_65 : decode cX9_readNumber 65 = .ok (.getfield 136, 3) := dk_180 0 136 (dk_at dksX9_readNumber_2 18 rfl rfl)
theorem dX9_readNumber_68 : decode cX9_readNumber 68 = .ok (.imul, 1) := dk_104 (dk_at dksX9_readNumber_2 21 rfl rfl)
theorem dX9_readNumber_69 : decode cX9_readNumber 69 = .ok (.aload_n 0, 1) := dk_42 (dk_at dksX9_readNumber_2 22 rfl rfl)
theorem dX9_readNumber_70 : decode cX9_readNumber 70 = .ok (.invokevirtual 117, 3) := dk_182 0 117 (dk_at dksX9_readNumber_3 0 rfl rfl)
theorem dX9_readNumber_73 : decode cX9_readNumber 73 = .ok (.iadd, 1) := dk_96 (dk_at dksX9_readNumber_3 3 rfl rfl)
theorem dX9_readNumber_74 : decode cX9_readNumber 74 = .ok (.bipush 48, 2) := dk_16 48 (dk_at dksX9_readNumber_3 4 rfl rfl)
theorem dX9_readNumber_76 : decode cX9_readNumber 76 = .ok (.isub, 1) := dk_100 (dk_at dksX9_readNumber_3 6 rfl rfl)
theorem dX9_readNumber_77 : decode cX9_readNumber 77 = .ok (.goto 4, 3) := dk_167 0 4 (dk_at dksX9_readNumber_3 7 rfl rfl)
theorem dX9_readNumber_80 : decode cX9_readNumber 80 = .ok (.iconst 0, 1) := dk_3 (dk_at dksX9_readNumber_3 10 rfl rfl)
theorem dX9_readNumber_81 : decode cX9_readNumber 81 = .ok (.putfield 136, 3) := dk_181 0 136 (dk_at dksX9_readNumber_3 11 rfl rfl)
theorem dX9_readNumber_84 : decode cX9_readNumber 84 = .ok (.iinc 1 1, 3) := dk_132 1 1 (dk_at dksX9_readNumber_3 14 rfl rfl)
theorem dX9_readNumber_87 : decode cX9_readNumber 87 = .ok (.aload_n 0, 1) := dk_42 (dk_at dksX9_readNumber_3 17 rfl rfl)
theorem dX9_readNumber_88 : decode cX9_readNumber 88 = .ok (.dup, 1) := dk_89 (dk_at dksX9_readNumber_3 18 rfl rfl)
theorem dX9_readNumber_89 : decode cX9_readNumber 89 = .ok (.getfield 107, 3) := dk_180 0 107 (dk_at dksX9_readNumber_3 19 rfl rfl)
theorem dX9_readNumber_92 : decode cX9_readNumber 92 = .ok (.iconst 1, 1) := dk_4 (dk_at dksX9_readNumber_3 22 rfl rfl)
theorem dX9_readNumber_93 : decode cX9_readNumber 93 = .ok (.iadd, 1) := dk_96 (dk_at dksX9_readNumber_3 23 rfl rfl)
theorem dX9_readNumber_94 : decode cX9_readNumber 94 = .ok (.putfield 107, 3) := dk_181 0 107 (dk_at dksX9_readNumber_4 0 rfl rfl)
theorem dX9_readNumber_97 : decode cX9_readNumber 97 = .ok (.goto (-51), 3) := dk_167 255 205 (dk_at dksX9_readNumber_4 3 rfl rfl)
theorem dX9_readNumber_100 : decode cX9_readNumber 100 = .ok (.aload_n 0, 1) := dk_42 (dk_at dksX9_readNumber_4 6 rfl rfl)
theorem dX9_readNumber_101 : decode cX9_readNumber 101 = .ok (.aload_n 0, 1) := dk_42 (dk_at dksX9_readNumber_4 7 rfl rfl)
theorem dX9_readNumber_102 : decode cX9_readNumber 102 = .ok (.getfield 132, 3) := dk_180 0 132 (dk_at dksX9_readNumber_4 8 rfl rfl)
theorem dX9_readNumber_105 : decode cX9_readNumber 105 = .ok (.ifCond .eq 11, 3) := dk_153 0 11 (dk_at dksX9_readNumber_4 11 rfl rfl)
theorem dX9_readNumber_108 : decode cX9_readNumber 108 = .ok (.aload_n 0, 1) := dk_42 (dk_at dksX9_readNumber_4 14 rfl rfl)
theorem dX9_readNumber_109 : decode cX9_readNumber 109 = .ok (.getfield 136, 3) := dk_180 0 136 (dk_at dksX9_readNumber_4 15 rfl rfl)
theorem dX9_readNumber_112 : decode cX9_readNumber 112 = .ok (.ineg, 1) := dk_116 (dk_at dksX9_readNumber_4 18 rfl rfl)
theorem dX9_readNumber_113 : decode cX9_readNumber 113 = .ok (.goto 7, 3) := dk_167 0 7 (dk_at dksX9_readNumber_4 19 rfl rfl)
theorem dX9_readNumber_116 : decode cX9_readNumber 116 = .ok (.aload_n 0, 1) := dk_42 (dk_at dksX9_readNumber_4 22 rfl rfl)
theorem dX9_readNumber_117 : decode cX9_readNumber 117 = .ok (.getfield 136, 3) := dk_180 0 136 (dk_at dksX9_readNumber_5 0 rfl rfl)
theorem dX9_readNumber_120 : decode cX9_readNumber 120 = .ok (.putfield 136, 3) := dk_181 0 136 (dk_at dksX9_readNumber_5 3 rfl rfl)
theorem dX9_readNumber_123 : decode cX9_readNumber 123 = .ok (.aload_n 0, 1) := dk_42 (dk_at dksX9_readNumber_5 6 rfl rfl)
theorem dX9_readNumber_124 : decode cX9_readNumber 124 = .ok (.iload_n 1, 1) := dk_27 (dk_at dksX9_readNumber_5 7 rfl rfl)
theorem dX9_readNumber_125 : decode cX9_readNumber 125 = .ok (.iconst 1, 1) := dk_4 (dk_at dksX9_readNumber_5 8 rfl rfl)
theorem dX9_readNumber_126 : decode cX9_readNumber 126 = .ok (.iconst 3, 1) := dk_6 (dk_at dksX9_readNumber_5 9 rfl rfl)
theorem dX9_readNumber_127 : decode cX9_readNumber 127 = .ok (.invokestatic 103, 3) := dk_184 0 103 (dk_at dksX9_readNumber_5 10 rfl rfl)
theorem dX9_readNumber_130 : decode cX9_readNumber 130 = .ok (.ifCond .eq 7, 3) := dk_153 0 7 (dk_at dksX9_readNumber_5 13 rfl rfl)
theorem dX9_readNumber_133 : decode cX9_readNumber 133 = .ok (.iconst 2, 1) := dk_5 (dk_at dksX9_readNumber_5 16 rfl rfl)
theorem dX9_readNumber_134 : decode cX9_readNumber 134 = .ok (.goto 4, 3) := dk_167 0 4 (dk_at dksX9_readNumber_5 17 rfl rfl)
theorem dX9_readNumber_137 : decode cX9_readNumber 137 = .ok (.iconst 4, 1) := dk_7 (dk_at dksX9_readNumber_5 20 rfl rfl)
theorem dX9_readNumber_138 : decode cX9_readNumber 138 = .ok (.putfield 129, 3) := dk_181 0 129 (dk_at dksX9_readNumber_5 21 rfl rfl)
theorem dX9_readNumber_141 : decode cX9_readNumber 141 = .ok (.return_, 1) := dk_177 (dk_at dksX9_readNumber_6 0 rfl rfl)
def dkwX9_clause_7 : List UInt8 := [3, 16, 9, 182, 0, 163, 181, 0, 196, 167, 0, 7, 42, 182, 0, 199, 27, 4, 28, 120, 128, 172]
abbrev dktX9_clause_7 : List UInt8 := dkwX9_clause_7 ++ []
def dkwX9_clause_6 : List UInt8 := [42, 182, 0, 190, 167, 0, 36, 42, 42, 3, 17, 3, 231, 182, 0, 163, 181, 0, 193, 167, 0, 21, 42, 42]
abbrev dktX9_clause_6 : List UInt8 := dkwX9_clause_6 ++ dktX9_clause_7
def dkwX9_clause_5 : List UInt8 := [170, 0, 0, 0, 0, 0, 63, 0, 0, 0, 0, 0, 0, 0, 2, 0, 0, 0, 27, 0, 0, 0, 34, 0, 0, 0, 49]
abbrev dktX9_clause_5 : List UInt8 := dkwX9_clause_5 ++ dktX9_clause_6
def dkwX9_clause_4 : List UInt8 := [27, 172, 42, 182, 0, 157, 28]
abbrev dktX9_clause_4 : List UInt8 := dkwX9_clause_4 ++ dktX9_clause_5
def dkwX9_clause_3 : List UInt8 := [184, 0, 186, 154, 0, 17, 28, 6, 160, 0, 18, 42, 180, 0, 167, 16, 8, 160, 0, 9, 42, 182, 0, 154]
abbrev dktX9_clause_3 : List UInt8 := dkwX9_clause_3 ++ dktX9_clause_4
def dkwX9_clause_2 : List UInt8 := [182, 0, 173, 153, 0, 7, 6, 167, 0, 4, 2, 61, 28, 2, 159, 0, 30, 28, 6, 162, 0, 11, 27, 28]
abbrev dktX9_clause_2 : List UInt8 := dkwX9_clause_2 ++ dktX9_clause_3
def dkwX9_clause_1 : List UInt8 := [4, 167, 0, 32, 42, 178, 0, 180, 182, 0, 173, 153, 0, 7, 5, 167, 0, 18, 42, 178, 0, 183]
abbrev dktX9_clause_1 : List UInt8 := dkwX9_clause_1 ++ dktX9_clause_2
def dkwX9_clause_0 : List UInt8 := [42, 178, 0, 170, 182, 0, 173, 153, 0, 7, 3, 167, 0, 46, 42, 178, 0, 177, 182, 0, 173, 153, 0, 7]
abbrev dktX9_clause_0 : List UInt8 := dkwX9_clause_0 ++ dktX9_clause_1
theorem dksX9_clause_0 : cX9_clause.data.toList.drop 0 = dktX9_clause_0 := by decide +kernel
theorem dksX9_clause_1 : cX9_clause.data.toList.drop 24 = dktX9_clause_1 := dk_seg dksX9_clause_0 24 rfl rfl
theorem dksX9_clause_2 : cX9_clause.data.toList.drop 46 = dktX9_clause_2 := dk_seg dksX9_clause_1 22 rfl rfl
theorem dksX9_clause_3 : cX9_clause.data.toList.drop 70 = dktX9_clause_3 := dk_seg dksX9_clause_2 24 rfl rfl
theorem dksX9_clause_4 : cX9_clause.data.toList.drop 94 = dktX9_clause_4 := dk_seg dksX9_clause_3 24 rfl rfl
theorem dksX9_clause_5 : cX9_clause.data.toList.drop 101 = dktX9_clause_5 := dk_seg dksX9_clause_4 7 rfl rfl
theorem dksX9_clause_6 : cX9_clause.data.toList.drop 128 = dktX9_clause_6 := dk_seg dksX9_clause_5 27 rfl rfl
theorem dksX9_clause_7 : cX9_clause.data.toList.drop 152 = dktX9_clause_7 := dk_seg dksX9_clause_6 24 rfl rfl
theorem dX9_clause_0 : decode cX9_clause 0 = .ok (.aload_n 0, 1) := dk_42 (dk_at dksX9_clause_0 0 rfl rfl)
theorem dX9_clause_1 : decode cX9_clause 1 = .ok (.getstatic 170, 3) := dk_178 0 170 (dk_at dksX9_clause_0 1 rfl rfl)
theorem dX9_clause_4 : decode cX9_clause 4 = .ok (.invokevirtual 173, 3) := dk_182 0 173 (dk_at dksX9_clause_0 4 rfl rfl)
theorem dX9_clause_7 : decode cX9_clause 7 = .ok (.ifCond .eq 7, 3) := dk_153 0 7 (dk_at dksX9_clause_0 7 rfl rfl)
theorem dX9_clause_10 : decode cX9_clause 10 = .ok (.iconst 0, 1) := dk_3 (dk_at dksX9_clause_0 10 rfl rfl)
theorem dX9_clause_11 : decode cX9_clause 11 = .ok (.goto 46, 3) := dk_167 0 46 (dk_at dksX9_clause_0 11 rfl rfl)
theorem dX9_clause_14 : decode cX9_clause 14 = .ok (.aload_n 0, 1) := dk_42 (dk_at dksX9_clause_0 14 rfl rfl)
theorem dX9_clause_15 : decode cX9_clause 15 = .ok (.getstatic 177, 3) := dk_178 0 177 (dk_at dksX9_clause_0 15 rfl rfl)
theorem dX9_clause_18 : decode cX9_clause 18 = .ok (.invokevirtual 173, 3) := dk_182 0 173 (dk_at dksX9_clause_0 18 rfl rfl)
theorem dX9_clause_21 : decode cX9_clause 21 = .ok (.ifCond .eq 7, 3) := dk_153 0 7 (dk_at dksX9_clause_0 21 rfl rfl)
theorem dX9_clause_24 : decode cX9_clause 24 = .ok (.iconst 1, 1) := dk_4 (dk_at dksX9_clause_1 0 rfl rfl)
theorem dX9_clause_25 : decode cX9_clause 25 = .ok (.goto 32, 3) := dk_167 0 32 (dk_at dksX9_clause_1 1 rfl rfl)
theorem dX9_clause_28 : decode cX9_clause 28 = .ok (.aload_n 0, 1) := dk_42 (dk_at dksX9_clause_1 4 rfl rfl)
theorem dX9_clause_29 : decode cX9_clause 29 = .ok (.getstatic 180, 3) := dk_178 0 180 (dk_at dksX9_clause_1 5 rfl rfl)
theorem dX9_clause_32 : decode cX9_clause 32 = .ok (.invokevirtual 173, 3) := dk_182 0 173 (dk_at dksX9_clause_1 8 rfl rfl)
theorem dX9_clause_35 : decode cX9_clause 35 = .ok (.ifCond .eq 7, 3) := dk_153 0 7 (dk_at dksX9_clause_1 11 rfl rfl)
theorem dX9_clause_38 : decode cX9_clause 38 = .ok (.iconst 2, 1) := dk_5 (dk_at dksX9_clause_1 14 rfl rfl)
theorem dX9_clause_39 : decode cX9_clause 39 = .ok (.goto 18, 3) := dk_167 0 18 (dk_at dksX9_clause_1 15 rfl rfl)
theorem dX9_clause_42 : decode cX9_clause 42 = .ok (.aload_n 0, 1) := dk_42 (dk_at dksX9_clause_1 18 rfl rfl)
theorem dX9_clause_43 : decode cX9_clause 43 = .ok (.getstatic 183, 3) := dk_178 0 183 (dk_at dksX9_clause_1 19 rfl rfl)
theorem dX9_clause_46 : decode cX9_clause 46 = .ok (.invokevirtual 173, 3) := dk_182 0 173 (dk_at dksX9_clause_2 0 rfl rfl)
theorem dX9_clause_49 : decode cX9_clause 49 = .ok (.ifCond .eq 7, 3) := dk_153 0 7 (dk_at dksX9_clause_2 3 rfl rfl)
theorem dX9_clause_52 : decode cX9_clause 52 = .ok (.iconst 3, 1) := dk_6 (dk_at dksX9_clause_2 6 rfl rfl)
theorem dX9_clause_53 : decode cX9_clause 53 = .ok (.goto 4, 3) := dk_167 0 4 (dk_at dksX9_clause_2 7 rfl rfl)
theorem dX9_clause_56 : decode cX9_clause 56 = .ok (.iconst (-1), 1) := dk_2 (dk_at dksX9_clause_2 10 rfl rfl)
theorem dX9_clause_57 : decode cX9_clause 57 = .ok (.istore_n 2, 1) := dk_61 (dk_at dksX9_clause_2 11 rfl rfl)
theorem dX9_clause_58 : decode cX9_clause 58 = .ok (.iload_n 2, 1) := dk_28 (dk_at dksX9_clause_2 12 rfl rfl)
theorem dX9_clause_59 : decode cX9_clause 59 = .ok (.iconst (-1), 1) := dk_2 (dk_at dksX9_clause_2 13 rfl rfl)
theorem dX9_clause_60 : decode cX9_clause 60 = .ok (.if_icmp .eq 30, 3) := dk_159 0 30 (dk_at dksX9_clause_2 14 rfl rfl)
theorem dX9_clause_63 : decode cX9_clause 63 = .ok (.iload_n 2, 1) := dk_28 (dk_at dksX9_clause_2 17 rfl rfl)
theorem dX9_clause_64 : decode cX9_clause 64 = .ok (.iconst 3, 1) := dk_6 (dk_at dksX9_clause_2 18 rfl rfl)
theorem dX9_clause_65 : decode cX9_clause 65 = .ok (.if_icmp .ge 11, 3) := dk_162 0 11 (dk_at dksX9_clause_2 19 rfl rfl)
theorem dX9_clause_68 : decode cX9_clause 68 = .ok (.iload_n 1, 1) := dk_27 (dk_at dksX9_clause_2 22 rfl rfl)
theorem dX9_clause_69 : decode cX9_clause 69 = .ok (.iload_n 2, 1) := dk_28 (dk_at dksX9_clause_2 23 rfl rfl)
theorem dX9_clause_70 : decode cX9_clause 70 = .ok (.invokestatic 186, 3) := dk_184 0 186 (dk_at dksX9_clause_3 0 rfl rfl)
theorem dX9_clause_73 : decode cX9_clause 73 = .ok (.ifCond .ne 17, 3) := dk_154 0 17 (dk_at dksX9_clause_3 3 rfl rfl)
theorem dX9_clause_76 : decode cX9_clause 76 = .ok (.iload_n 2, 1) := dk_28 (dk_at dksX9_clause_3 6 rfl rfl)
theorem dX9_clause_77 : decode cX9_clause 77 = .ok (.iconst 3, 1) := dk_6 (dk_at dksX9_clause_3 7 rfl rfl)
theorem dX9_clause_78 : decode cX9_clause 78 = .ok (.if_icmp .ne 18, 3) := dk_160 0 18 (dk_at dksX9_clause_3 8 rfl rfl)
theorem dX9_clause_81 : decode cX9_clause 81 = .ok (.aload_n 0, 1) := dk_42 (dk_at dksX9_clause_3 11 rfl rfl)
theorem dX9_clause_82 : decode cX9_clause 82 = .ok (.getfield 167, 3) := dk_180 0 167 (dk_at dksX9_clause_3 12 rfl rfl)
theorem dX9_clause_85 : decode cX9_clause 85 = .ok (.bipush 8, 2) := dk_16 8 (dk_at dksX9_clause_3 15 rfl rfl)
theorem dX9_clause_87 : decode cX9_clause 87 = .ok (.if_icmp .ne 9, 3) := dk_160 0 9 (dk_at dksX9_clause_3 17 rfl rfl)
theorem dX9_clause_90 : decode cX9_clause 90 = .ok (.aload_n 0, 1) := dk_42 (dk_at dksX9_clause_3 20 rfl rfl)
theorem dX9_clause_91 : decode cX9_clause 91 = .ok (.invokevirtual 154, 3) := dk_182 0 154 (dk_at dksX9_clause_3 21 rfl rfl)
theorem dX9_clause_94 : decode cX9_clause 94 = .ok (.iload_n 1, 1) := dk_27 (dk_at dksX9_clause_4 0 rfl rfl)
theorem dX9_clause_95 : decode cX9_clause 95 = .ok (.ireturn, 1) := dk_172 (dk_at dksX9_clause_4 1 rfl rfl)
theorem dX9_clause_96 : decode cX9_clause 96 = .ok (.aload_n 0, 1) := dk_42 (dk_at dksX9_clause_4 2 rfl rfl)
theorem dX9_clause_97 : decode cX9_clause 97 = .ok (.invokevirtual 157, 3) := dk_182 0 157 (dk_at dksX9_clause_4 3 rfl rfl)
theorem dX9_clause_100 : decode cX9_clause 100 = .ok (.iload_n 2, 1) := dk_28 (dk_at dksX9_clause_4 6 rfl rfl)
theorem dX9_clause_101 : decode cX9_clause 101 = .ok (.tableswitch 63 0 2 #[27, 34, 49], 27) := by decide +kernel
theorem dX9_clause_128 : decode cX9_clause 128 = .ok (.aload_n 0, 1) := dk_42 (dk_at dksX9_clause_6 0 rfl rfl)
theorem dX9_clause_129 : decode cX9_clause 129 = .ok (.invokevirtual 190, 3) := dk_182 0 190 (dk_at dksX9_clause_6 1 rfl rfl)
theorem dX9_clause_132 : decode cX9_clause 132 = .ok (.goto 36, 3) := dk_167 0 36 (dk_at dksX9_clause_6 4 rfl rfl)
theorem dX9_clause_135 : decode cX9_clause 135 = .ok (.aload_n 0, 1) := dk_42 (dk_at dksX9_clause_6 7 rfl rfl)
theorem dX9_clause_136 : decode cX9_clause 136 = .ok (.aload_n 0, 1) := dk_42 (dk_at dksX9_clause_6 8 rfl rfl)
theorem dX9_clause_137 : decode cX9_clause 137 = .ok (.iconst 0, 1) := dk_3 (dk_at dksX9_clause_6 9 rfl rfl)
theorem dX9_clause_138 : decode cX9_clause 138 = .ok (.sipush 999, 3) := dk_17 3 231 (dk_at dksX9_clause_6 10 rfl rfl)
theorem dX9_clause_141 : decode cX9_clause 141 = .ok (.invokevirtual 163, 3) := dk_182 0 163 (dk_at dksX9_clause_6 13 rfl rfl)
theorem dX9_clause_144 : decode cX9_clause 144 = .ok (.putfield 193, 3) := dk_181 0 193 (dk_at dksX9_clause_6 16 rfl rfl)
theorem dX9_clause_147 : decode cX9_clause 147 = .ok (.goto 21, 3) := dk_167 0 21 (dk_at dksX9_clause_6 19 rfl rfl)
theorem dX9_clause_150 : decode cX9_clause 150 = .ok (.aload_n 0, 1) := dk_42 (dk_at dksX9_clause_6 22 rfl rfl)
theorem dX9_clause_151 : decode cX9_clause 151 = .ok (.aload_n 0, 1) := dk_42 (dk_at dksX9_clause_6 23 rfl rfl)
theorem dX9_clause_152 : decode cX9_clause 152 = .ok (.iconst 0, 1) := dk_3 (dk_at dksX9_clause_7 0 rfl rfl)
theorem dX9_clause_153 : decode cX9_clause 153 = .ok (.bipush 9, 2) := dk_16 9 (dk_at dksX9_clause_7 1 rfl rfl)
theorem dX9_clause_155 : decode cX9_clause 155 = .ok (.invokevirtual 163, 3) := dk_182 0 163 (dk_at dksX9_clause_7 3 rfl rfl)
theorem dX9_clause_158 : decode cX9_clause 158 = .ok (.putfield 196, 3) := dk_181 0 196 (dk_at dksX9_clause_7 6 rfl rfl)
theorem dX9_clause_161 : decode cX9_clause 161 = .ok (.goto 7, 3) := dk_167 0 7 (dk_at dksX9_clause_7 9 rfl rfl)
theorem dX9_clause_164 : decode cX9_clause 164 = .ok (.aload_n 0, 1) := dk_42 (dk_at dksX9_clause_7 12 rfl rfl)
theorem dX9_clause_165 : decode cX9_clause 165 = .ok (.invokevirtual 199, 3) := dk_182 0 199 (dk_at dksX9_clause_7 13 rfl rfl)
theorem dX9_clause_168 : decode cX9_clause 168 = .ok (.iload_n 1, 1) := dk_27 (dk_at dksX9_clause_7 16 rfl rfl)
theorem dX9_clause_169 : decode cX9_clause 169 = .ok (.iconst 1, 1) := dk_4 (dk_at dksX9_clause_7 17 rfl rfl)
theorem dX9_clause_170 : decode cX9_clause 170 = .ok (.iload_n 2, 1) := dk_28 (dk_at dksX9_clause_7 18 rfl rfl)
theorem dX9_clause_171 : decode cX9_clause 171 = .ok (.ishl, 1) := dk_120 (dk_at dksX9_clause_7 19 rfl rfl)
theorem dX9_clause_172 : decode cX9_clause 172 = .ok (.ior, 1) := dk_128 (dk_at dksX9_clause_7 20 rfl rfl)
theorem dX9_clause_173 : decode cX9_clause 173 = .ok (.ireturn, 1) := dk_172 (dk_at dksX9_clause_7 21 rfl rfl)
def dkwX9_isWord_0 : List UInt8 := [42, 180, 0, 129, 4, 160, 0, 16, 42, 180, 0, 110, 31, 148, 154, 0, 7, 4, 167, 0, 4, 3, 172]
abbrev dktX9_isWord_0 : List UInt8 := dkwX9_isWord_0 ++ []
theorem dksX9_isWord_0 : cX9_isWord.data.toList.drop 0 = dktX9_isWord_0 := by decide +kernel
theorem dX9_isWord_0 : decode cX9_isWord 0 = .ok (.aload_n 0, 1) := dk_42 (dk_at dksX9_isWord_0 0 rfl rfl)
theorem dX9_isWord_1 : decode cX9_isWord 1 = .ok (.getfield 129, 3) := dk_180 0 129 (dk_at dksX9_isWord_0 1 rfl rfl)
theorem dX9_isWord_4 : decode cX9_isWord 4 = .ok (.iconst 1, 1) := dk_4 (dk_at dksX9_isWord_0 4 rfl rfl)
theorem dX9_isWord_5 : decode cX9_isWord 5 = .ok (.if_icmp .ne 16, 3) := dk_160 0 16 (dk_at dksX9_isWord_0 5 rfl rfl)
theorem dX9_isWord_8 : decode cX9_isWord 8 = .ok (.aload_n 0, 1) := dk_42 (dk_at dksX9_isWord_0 8 rfl rfl)
theorem dX9_isWord_9 : decode cX9_isWord 9 = .ok (.getfield 110, 3) := dk_180 0 110 (dk_at dksX9_isWord_0 9 rfl rfl)
theorem dX9_isWord_12 : decode cX9_isWord 12 = .ok (.lload_n 1, 1) := dk_31 (dk_at dksX9_isWord_0 12 rfl rfl)
theorem dX9_isWord_13 : decode cX9_isWord 13 = .ok (.lcmp, 1) := dk_148 (dk_at dksX9_isWord_0 13 rfl rfl)
theorem dX9_isWord_14 : decode cX9_isWord 14 = .ok (.ifCond .ne 7, 3) := dk_154 0 7 (dk_at dksX9_isWord_0 14 rfl rfl)
theorem dX9_isWord_17 : decode cX9_isWord 17 = .ok (.iconst 1, 1) := dk_4 (dk_at dksX9_isWord_0 17 rfl rfl)
theorem dX9_isWord_18 : decode cX9_isWord 18 = .ok (.goto 4, 3) := dk_167 0 4 (dk_at dksX9_isWord_0 18 rfl rfl)
theorem dX9_isWord_21 : decode cX9_isWord 21 = .ok (.iconst 0, 1) := dk_3 (dk_at dksX9_isWord_0 21 rfl rfl)
theorem dX9_isWord_22 : decode cX9_isWord 22 = .ok (.ireturn, 1) := dk_172 (dk_at dksX9_isWord_0 22 rfl rfl)
def dkwX9_has_0 : List UInt8 := [26, 27, 122, 4, 126, 4, 160, 0, 7, 4, 167, 0, 4, 3, 172]
abbrev dktX9_has_0 : List UInt8 := dkwX9_has_0 ++ []
theorem dksX9_has_0 : cX9_has.data.toList.drop 0 = dktX9_has_0 := by decide +kernel
theorem dX9_has_0 : decode cX9_has 0 = .ok (.iload_n 0, 1) := dk_26 (dk_at dksX9_has_0 0 rfl rfl)
theorem dX9_has_1 : decode cX9_has 1 = .ok (.iload_n 1, 1) := dk_27 (dk_at dksX9_has_0 1 rfl rfl)
theorem dX9_has_2 : decode cX9_has 2 = .ok (.ishr, 1) := dk_122 (dk_at dksX9_has_0 2 rfl rfl)
theorem dX9_has_3 : decode cX9_has 3 = .ok (.iconst 1, 1) := dk_4 (dk_at dksX9_has_0 3 rfl rfl)
theorem dX9_has_4 : decode cX9_has 4 = .ok (.iand, 1) := dk_126 (dk_at dksX9_has_0 4 rfl rfl)
theorem dX9_has_5 : decode cX9_has 5 = .ok (.iconst 1, 1) := dk_4 (dk_at dksX9_has_0 5 rfl rfl)
theorem dX9_has_6 : decode cX9_has 6 = .ok (.if_icmp .ne 7, 3) := dk_160 0 7 (dk_at dksX9_has_0 6 rfl rfl)
theorem dX9_has_9 : decode cX9_has 9 = .ok (.iconst 1, 1) := dk_4 (dk_at dksX9_has_0 9 rfl rfl)
theorem dX9_has_10 : decode cX9_has 10 = .ok (.goto 4, 3) := dk_167 0 4 (dk_at dksX9_has_0 10 rfl rfl)
theorem dX9_has_13 : decode cX9_has 13 = .ok (.iconst 0, 1) := dk_3 (dk_at dksX9_has_0 13 rfl rfl)
theorem dX9_has_14 : decode cX9_has 14 = .ok (.ireturn, 1) := dk_172 (dk_at dksX9_has_0 14 rfl rfl)
def dkwX9_bad_0 : List UInt8 := [42, 42, 180, 0, 151, 2, 160, 0, 10, 42, 180, 0, 142, 167, 0, 7, 42, 180, 0, 151, 181, 0, 151, 177]
abbrev dktX9_bad_0 : List UInt8 := dkwX9_bad_0 ++ []
theorem dksX9_bad_0 : cX9_bad.data.toList.drop 0 = dktX9_bad_0 := by decide +kernel
theorem dX9_bad_0 : decode cX9_bad 0 = .ok (.aload_n 0, 1) := dk_42 (dk_at dksX9_bad_0 0 rfl rfl)
theorem dX9_bad_1 : decode cX9_bad 1 = .ok (.aload_n 0, 1) := dk_42 (dk_at dksX9_bad_0 1 rfl rfl)
theorem dX9_bad_2 : decode cX9_bad 2 = .ok (.getfield 151, 3) := dk_180 0 151 (dk_at dksX9_bad_0 2 rfl rfl)
theorem dX9_bad_5 : decode cX9_bad 5 = .ok (.iconst (-1), 1) := dk_2 (dk_at dksX9_bad_0 5 rfl rfl)
theorem dX9_bad_6 : decode cX9_bad 6 = .ok (.if_icmp .ne 10, 3) := dk_160 0 10 (dk_at dksX9_bad_0 6 rfl rfl)
theorem dX9_bad_9 : decode cX9_bad 9 = .ok (.aload_n 0, 1) := dk_42 (dk_at dksX9_bad_0 9 rfl rfl)
theorem dX9_bad_10 : decode cX9_bad 10 = .ok (.getfield 142, 3) := dk_180 0 142 (dk_at dksX9_bad_0 10 rfl rfl)
theorem dX9_bad_13 : decode cX9_bad 13 = .ok (.goto 7, 3) := dk_167 0 7 (dk_at dksX9_bad_0 13 rfl rfl)
theorem dX9_bad_16 : decode cX9_bad 16 = .ok (.aload_n 0, 1) := dk_42 (dk_at dksX9_bad_0 16 rfl rfl)
theorem dX9_bad_17 : decode cX9_bad 17 = .ok (.getfield 151, 3) := dk_180 0 151 (dk_at dksX9_bad_0 17 rfl rfl)
theorem dX9_bad_20 : decode cX9_bad 20 = .ok (.putfield 151, 3) := dk_181 0 151 (dk_at dksX9_bad_0 20 rfl rfl)
theorem dX9_bad_23 : decode cX9_bad 23 = .ok (.return_, 1) := dk_177 (dk_at dksX9_bad_0 23 rfl rfl)
def dkwX9_readSamples_4 : List UInt8 := [160, 0, 7, 42, 182, 0, 154, 177]
abbrev dktX9_readSamples_4 : List UInt8 := dkwX9_readSamples_4 ++ []
def dkwX9_readSamples_3 : List UInt8 := [4, 167, 0, 4, 3, 60, 167, 255, 187, 42, 180, 0, 151, 2, 160, 0, 15, 42, 180, 0, 129, 7]
abbrev dktX9_readSamples_3 : List UInt8 := dkwX9_readSamples_3 ++ dktX9_readSamples_4
def dkwX9_readSamples_2 : List UInt8 := [180, 0, 160, 4, 96, 181, 0, 160, 42, 180, 0, 151, 2, 160, 0, 15, 42, 180, 0, 129, 5, 160, 0, 7]
abbrev dktX9_readSamples_2 : List UInt8 := dkwX9_readSamples_2 ++ dktX9_readSamples_3
def dkwX9_readSamples_1 : List UInt8 := [167, 0, 30, 42, 180, 0, 13, 42, 180, 0, 160, 42, 3, 17, 3, 231, 182, 0, 163, 79, 42, 89]
abbrev dktX9_readSamples_1 : List UInt8 := dkwX9_readSamples_1 ++ dktX9_readSamples_2
def dkwX9_readSamples_0 : List UInt8 := [42, 3, 181, 0, 160, 4, 60, 27, 153, 0, 71, 42, 180, 0, 160, 16, 48, 160, 0, 10, 42, 182, 0, 154]
abbrev dktX9_readSamples_0 : List UInt8 := dkwX9_readSamples_0 ++ dktX9_readSamples_1
theorem dksX9_readSamples_0 : cX9_readSamples.data.toList.drop 0 = dktX9_readSamples_0 := by decide +kernel
theorem dksX9_readSamples_1 : cX9_readSamples.data.toList.drop 24 = dktX9_readSamples_1 := dk_seg dksX9_readSamples_0 24 rfl rfl
theorem dksX9_readSamples_2 : cX9_readSamples.data.toList.drop 46 = dktX9_readSamples_2 := dk_seg dksX9_readSamples_1 22 rfl rfl
theorem dksX9_readSamples_3 : cX9_readSamples.data.toList.drop 70 = dktX9_readSamples_3 := dk_seg dksX9_readSamples_2 24 rfl rfl
theorem dksX9_readSamples_4 : cX9_readSamples.data.toList.drop 92 = dktX9_readSamples_4 := dk_seg dksX9_readSamples_3 22 rfl rfl
theorem dX9_readSamples_0 : decode cX9_readSamples 0 = .ok (.aload_n 0, 1) := dk_42 (dk_at dksX9_readSamples_0 0 rfl rfl)
theorem dX9_readSamples_1 : decode cX9_readSamples 1 = .ok (.iconst 0, 1) := dk_3 (dk_at dksX9_readSamples_0 1 rfl rfl)
theorem dX9_readSamples_2 : decode cX9_readSamples 2 = .ok (.putfield 160, 3) := dk_181 0 160 (dk_at dksX9_readSamples_0 2 rfl rfl)
theorem dX9_readSamples_5 : decode cX9_readSamples 5 = .ok (.iconst 1, 1) := dk_4 (dk_at dksX9_readSamples_0 5 rfl rfl)
theorem dX9_readSamples_6 : decode cX9_readSamples 6 = .ok (.istore_n 1, 1) := dk_60 (dk_at dksX9_readSamples_0 6 rfl rfl)
theorem dX9_readSamples_7 : decode cX9_readSamples 7 = .ok (.iload_n 1, 1) := dk_27 (dk_at dksX9_readSamples_0 7 rfl rfl)
theorem dX9_readSamples_8 : decode cX9_readSamples 8 = .ok (.ifCond .eq 71, 3) := dk_153 0 71 (dk_at dksX9_readSamples_0 8 rfl rfl)
theorem dX9_readSamples_11 : decode cX9_readSamples 11 = .ok (.aload_n 0, 1) := dk_42 (dk_at dksX9_readSamples_0 11 rfl rfl)
theorem dX9_readSamples_12 : decode cX9_readSamples 12 = .ok (.getfield 160, 3) := dk_180 0 160 (dk_at dksX9_readSamples_0 12 rfl rfl)
theorem dX9_readSamples_15 : decode cX9_readSamples 15 = .ok (.bipush 48, 2) := dk_16 48 (dk_at dksX9_readSamples_0 15 rfl rfl)
theorem dX9_readSamples_17 : decode cX9_readSamples 17 = .ok (.if_icmp .ne 10, 3) := dk_160 0 10 (dk_at dksX9_readSamples_0 17 rfl rfl)
theorem dX9_readSamples_20 : decode cX9_readSamples 20 = .ok (.aload_n 0, 1) := dk_42 (dk_at dksX9_readSamples_0 20 rfl rfl)
theorem dX9_readSamples_21 : decode cX9_readSamples 21 = .ok (.invokevirtual 154, 3) := dk_182 0 154 (dk_at dksX9_readSamples_0 21 rfl rfl)
theorem dX9_readSamples_24 : decode cX9_readSamples 24 = .ok (.goto 30, 3) := dk_167 0 30 (dk_at dksX9_readSamples_1 0 rfl rfl)
theorem dX9_readSamples_27 : decode cX9_readSamples 27 = .ok (.aload_n 0, 1) := dk_42 (dk_at dksX9_readSamples_1 3 rfl rfl)
theorem dX9_readSamples_28 : decode cX9_readSamples 28 = .ok (.getfield 13, 3) := dk_180 0 13 (dk_at dksX9_readSamples_1 4 rfl rfl)
theorem dX9_readSamples_31 : decode cX9_readSamples 31 = .ok (.aload_n 0, 1) := dk_42 (dk_at dksX9_readSamples_1 7 rfl rfl)
theorem dX9_readSamples_32 : decode cX9_readSamples 32 = .ok (.getfield 160, 3) := dk_180 0 160 (dk_at dksX9_readSamples_1 8 rfl rfl)
theorem dX9_readSamples_35 : decode cX9_readSamples 35 = .ok (.aload_n 0, 1) := dk_42 (dk_at dksX9_readSamples_1 11 rfl rfl)
theorem dX9_readSamples_36 : decode cX9_readSamples 36 = .ok (.iconst 0, 1) := dk_3 (dk_at dksX9_readSamples_1 12 rfl rfl)
theorem dX9_readSamples_37 : decode cX9_readSamples 37 = .ok (.sipush 999, 3) := dk_17 3 231 (dk_at dksX9_readSamples_1 13 rfl rfl)
theorem dX9_readSamples_40 : decode cX9_readSamples 40 = .ok (.invokevirtual 163, 3) := dk_182 0 163 (dk_at dksX9_readSamples_1 16 rfl rfl)
theorem dX9_readSamples_43 : decode cX9_readSamples 43 = .ok (.iastore, 1) := dk_79 (dk_at dksX9_readSamples_1 19 rfl rfl)
theorem dX9_readSamples_44 : decode cX9_readSamples 44 = .ok (.aload_n 0, 1) := dk_42 (dk_at dksX9_readSamples_1 20 rfl rfl)
theorem dX9_readSamples_45 : decode cX9_readSamples 45 = .ok (.dup, 1) := dk_89 (dk_at dksX9_readSamples_1 21 rfl rfl)
theorem dX9_readSamples_46 : decode cX9_readSamples 46 = .ok (.getfield 160, 3) := dk_180 0 160 (dk_at dksX9_readSamples_2 0 rfl rfl)
theorem dX9_readSamples_49 : decode cX9_readSamples 49 = .ok (.iconst 1, 1) := dk_4 (dk_at dksX9_readSamples_2 3 rfl rfl)
theorem dX9_readSamples_50 : decode cX9_readSamples 50 = .ok (.iadd, 1) := dk_96 (dk_at dksX9_readSamples_2 4 rfl rfl)
theorem dX9_readSamples_51 : decode cX9_readSamples 51 = .ok (.putfield 160, 3) := dk_181 0 160 (dk_at dksX9_readSamples_2 5 rfl rfl)
theorem dX9_readSamples_54 : decode cX9_readSamples 54 = .ok (.aload_n 0, 1) := dk_42 (dk_at dksX9_readSamples_2 8 rfl rfl)
theorem dX9_readSamples_55 : decode cX9_readSamples 55 = .ok (.getfield 151, 3) := dk_180 0 151 (dk_at dksX9_readSamples_2 9 rfl rfl)
theorem dX9_readSamples_58 : decode cX9_readSamples 58 = .ok (.iconst (-1), 1) := dk_2 (dk_at dksX9_readSamples_2 12 rfl rfl)
theorem dX9_readSamples_59 : decode cX9_readSamples 59 = .ok (.if_icmp .ne 15, 3) := dk_160 0 15 (dk_at dksX9_readSamples_2 13 rfl rfl)
theorem dX9_readSamples_62 : decode cX9_readSamples 62 = .ok (.aload_n 0, 1) := dk_42 (dk_at dksX9_readSamples_2 16 rfl rfl)
theorem dX9_readSamples_63 : decode cX9_readSamples 63 = .ok (.getfield 129, 3) := dk_180 0 129 (dk_at dksX9_readSamples_2 17 rfl rfl)
theorem dX9_readSamples_66 : decode cX9_readSamples 66 = .ok (.iconst 2, 1) := dk_5 (dk_at dksX9_readSamples_2 20 rfl rfl)
theorem dX9_readSamples_67 : decode cX9_readSamples 67 = .ok (.if_icmp .ne 7, 3) := dk_160 0 7 (dk_at dksX9_readSamples_2 21 rfl rfl)
theorem dX9_readSamples_70 : decode cX9_readSamples 70 = .ok (.iconst 1, 1) := dk_4 (dk_at dksX9_readSamples_3 0 rfl rfl)
theorem dX9_readSamples_71 : decode cX9_readSamples 71 = .ok (.goto 4, 3) := dk_167 0 4 (dk_at dksX9_readSamples_3 1 rfl rfl)
theorem dX9_readSamples_74 : decode cX9_readSamples 74 = .ok (.iconst 0, 1) := dk_3 (dk_at dksX9_readSamples_3 4 rfl rfl)
theorem dX9_readSamples_75 : decode cX9_readSamples 75 = .ok (.istore_n 1, 1) := dk_60 (dk_at dksX9_readSamples_3 5 rfl rfl)
theorem dX9_readSamples_76 : decode cX9_readSamples 76 = .ok (.goto (-69), 3) := dk_167 255 187 (dk_at dksX9_readSamples_3 6 rfl rfl)
theorem dX9_readSamples_79 : decode cX9_readSamples 79 = .ok (.aload_n 0, 1) := dk_42 (dk_at dksX9_readSamples_3 9 rfl rfl)
theorem dX9_readSamples_80 : decode cX9_readSamples 80 = .ok (.getfield 151, 3) := dk_180 0 151 (dk_at dksX9_readSamples_3 10 rfl rfl)
theorem dX9_readSamples_83 : decode cX9_readSamples 83 = .ok (.iconst (-1), 1) := dk_2 (dk_at dksX9_readSamples_3 13 rfl rfl)
theorem dX9_readSamples_84 : decode cX9_readSamples 84 = .ok (.if_icmp .ne 15, 3) := dk_160 0 15 (dk_at dksX9_readSamples_3 14 rfl rfl)
theorem dX9_readSamples_87 : decode cX9_readSamples 87 = .ok (.aload_n 0, 1) := dk_42 (dk_at dksX9_readSamples_3 17 rfl rfl)
theorem dX9_readSamples_88 : decode cX9_readSamples 88 = .ok (.getfield 129, 3) := dk_180 0 129 (dk_at dksX9_readSamples_3 18 rfl rfl)
theorem dX9_readSamples_91 : decode cX9_readSamples 91 = .ok (.iconst 4, 1) := dk_7 (dk_at dksX9_readSamples_3 21 rfl rfl)
theorem dX9_readSamples_92 : decode cX9_readSamples 92 = .ok (.if_icmp .ne 7, 3) := dk_160 0 7 (dk_at dksX9_readSamples_4 0 rfl rfl)
theorem dX9_readSamples_95 : decode cX9_readSamples 95 = .ok (.aload_n 0, 1) := dk_42 (dk_at dksX9_readSamples_4 3 rfl rfl)
theorem dX9_readSamples_96 : decode cX9_readSamples 96 = .ok (.invokevirtual 154, 3) := dk_182 0 154 (dk_at dksX9_readSamples_4 4 rfl rfl)
theorem dX9_readSamples_99 : decode cX9_readSamples 99 = .ok (.return_, 1) := dk_177 (dk_at dksX9_readSamples_4 7 rfl rfl)
def dkwX9_number_2 : List UInt8 := [182, 0, 157, 29, 172]
abbrev dktX9_number_2 : List UInt8 := dkwX9_number_2 ++ []
def dkwX9_number_1 : List UInt8 := [180, 0, 136, 27, 28, 184, 0, 103, 154, 0, 9, 42, 182, 0, 154, 27, 172, 42, 180, 0, 136, 62, 42]
abbrev dktX9_number_1 : List UInt8 := dkwX9_number_1 ++ dktX9_number_2
def dkwX9_number_0 : List UInt8 := [42, 180, 0, 151, 2, 160, 0, 30, 42, 180, 0, 129, 5, 160, 0, 22, 42, 180, 0, 132, 154, 0, 15, 42]
abbrev dktX9_number_0 : List UInt8 := dkwX9_number_0 ++ dktX9_number_1
theorem dksX9_number_0 : cX9_number.data.toList.drop 0 = dktX9_number_0 := by decide +kernel
theorem dksX9_number_1 : cX9_number.data.toList.drop 24 = dktX9_number_1 := dk_seg dksX9_number_0 24 rfl rfl
theorem dksX9_number_2 : cX9_number.data.toList.drop 47 = dktX9_number_2 := dk_seg dksX9_number_1 23 rfl rfl
theorem dX9_number_0 : decode cX9_number 0 = .ok (.aload_n 0, 1) := dk_42 (dk_at dksX9_number_0 0 rfl rfl)
theorem dX9_number_1 : decode cX9_number 1 = .ok (.getfield 151, 3) := dk_180 0 151 (dk_at dksX9_number_0 1 rfl rfl)
theorem dX9_number_4 : decode cX9_number 4 = .ok (.iconst (-1), 1) := dk_2 (dk_at dksX9_number_0 4 rfl rfl)
theorem dX9_number_5 : decode cX9_number 5 = .ok (.if_icmp .ne 30, 3) := dk_160 0 30 (dk_at dksX9_number_0 5 rfl rfl)
theorem dX9_number_8 : decode cX9_number 8 = .ok (.aload_n 0, 1) := dk_42 (dk_at dksX9_number_0 8 rfl rfl)
theorem dX9_number_9 : decode cX9_number 9 = .ok (.getfield 129, 3) := dk_180 0 129 (dk_at dksX9_number_0 9 rfl rfl)
theorem dX9_number_12 : decode cX9_number 12 = .ok (.iconst 2, 1) := dk_5 (dk_at dksX9_number_0 12 rfl rfl)
theorem dX9_number_13 : decode cX9_number 13 = .ok (.if_icmp .ne 22, 3) := dk_160 0 22 (dk_at dksX9_number_0 13 rfl rfl)
theorem dX9_number_16 : decode cX9_number 16 = .ok (.aload_n 0, 1) := dk_42 (dk_at dksX9_number_0 16 rfl rfl)
theorem dX9_number_17 : decode cX9_number 17 = .ok (.getfield 132, 3) := dk_180 0 132 (dk_at dksX9_number_0 17 rfl rfl)
theorem dX9_number_20 : decode cX9_number 20 = .ok (.ifCond .ne 15, 3) := dk_154 0 15 (dk_at dksX9_number_0 20 rfl rfl)
theorem dX9_number_23 : decode cX9_number 23 = .ok (.aload_n 0, 1) := dk_42 (dk_at dksX9_number_0 23 rfl rfl)
theorem dX9_number_24 : decode cX9_number 24 = .ok (.getfield 136, 3) := dk_180 0 136 (dk_at dksX9_number_1 0 rfl rfl)
theorem dX9_number_27 : decode cX9_number 27 = .ok (.iload_n 1, 1) := dk_27 (dk_at dksX9_number_1 3 rfl rfl)
theorem dX9_number_28 : decode cX9_number 28 = .ok (.iload_n 2, 1) := dk_28 (dk_at dksX9_number_1 4 rfl rfl)
theorem dX9_number_29 : decode cX9_number 29 = .ok (.invokestatic 103, 3) := dk_184 0 103 (dk_at dksX9_number_1 5 rfl rfl)
theorem dX9_number_32 : decode cX9_number 32 = .ok (.ifCond .ne 9, 3) := dk_154 0 9 (dk_at dksX9_number_1 8 rfl rfl)
theorem dX9_number_35 : decode cX9_number 35 = .ok (.aload_n 0, 1) := dk_42 (dk_at dksX9_number_1 11 rfl rfl)
theorem dX9_number_36 : decode cX9_number 36 = .ok (.invokevirtual 154, 3) := dk_182 0 154 (dk_at dksX9_number_1 12 rfl rfl)
theorem dX9_number_39 : decode cX9_number 39 = .ok (.iload_n 1, 1) := dk_27 (dk_at dksX9_number_1 15 rfl rfl)
theorem dX9_number_40 : decode cX9_number 40 = .ok (.ireturn, 1) := dk_172 (dk_at dksX9_number_1 16 rfl rfl)
theorem dX9_number_41 : decode cX9_number 41 = .ok (.aload_n 0, 1) := dk_42 (dk_at dksX9_number_1 17 rfl rfl)
theorem dX9_number_42 : decode cX9_number 42 = .ok (.getfield 136, 3) := dk_180 0 136 (dk_at dksX9_number_1 18 rfl rfl)
theorem dX9_number_45 : decode cX9_number 45 = .ok (.istore_n 3, 1) := dk_62 (dk_at dksX9_number_1 21 rfl rfl)
theorem dX9_number_46 : decode cX9_number 46 = .ok (.aload_n 0, 1) := dk_42 (dk_at dksX9_number_1 22 rfl rfl)
theorem dX9_number_47 : decode cX9_number 47 = .ok (.invokevirtual 157, 3) := dk_182 0 157 (dk_at dksX9_number_2 0 rfl rfl)
theorem dX9_number_50 : decode cX9_number 50 = .ok (.iload_n 3, 1) := dk_29 (dk_at dksX9_number_2 3 rfl rfl)
theorem dX9_number_51 : decode cX9_number 51 = .ok (.ireturn, 1) := dk_172 (dk_at dksX9_number_2 4 rfl rfl)
def dkwX9_readLine_5 : List UInt8 := [42, 89, 180, 0, 167, 4, 96, 181, 0, 167, 177]
abbrev dktX9_readLine_5 : List UInt8 := dkwX9_readLine_5 ++ []
def dkwX9_readLine_4 : List UInt8 := [180, 0, 114, 79, 42, 182, 0, 157, 42, 180, 0, 16, 42, 180, 0, 167, 42, 3, 16, 47, 182, 0, 163, 79]
abbrev dktX9_readLine_4 : List UInt8 := dkwX9_readLine_4 ++ dktX9_readLine_5
def dkwX9_readLine_3 : List UInt8 := [42, 180, 0, 22, 42, 180, 0, 167, 42, 180, 0, 110, 80, 42, 180, 0, 19, 42, 180, 0, 167, 42]
abbrev dktX9_readLine_3 : List UInt8 := dkwX9_readLine_3 ++ dktX9_readLine_4
def dkwX9_readLine_2 : List UInt8 := [153, 0, 7, 4, 167, 0, 4, 3, 60, 132, 2, 1, 167, 255, 221, 27, 154, 0, 8, 42, 182, 0, 154, 177]
abbrev dktX9_readLine_2 : List UInt8 := dkwX9_readLine_2 ++ dktX9_readLine_3
def dkwX9_readLine_1 : List UInt8 := [61, 28, 42, 180, 0, 167, 162, 0, 33, 27, 153, 0, 21, 42, 180, 0, 22, 28, 47, 42, 180, 0, 110, 148]
abbrev dktX9_readLine_1 : List UInt8 := dkwX9_readLine_1 ++ dktX9_readLine_2
def dkwX9_readLine_0 : List UInt8 := [42, 180, 0, 129, 4, 160, 0, 16, 42, 180, 0, 114, 16, 6, 163, 0, 7, 4, 167, 0, 4, 3, 60, 3]
abbrev dktX9_readLine_0 : List UInt8 := dkwX9_readLine_0 ++ dktX9_readLine_1
theorem dksX9_readLine_0 : cX9_readLine.data.toList.drop 0 = dktX9_readLine_0 := by decide +kernel
theorem dksX9_readLine_1 : cX9_readLine.data.toList.drop 24 = dktX9_readLine_1 := dk_seg dksX9_readLine_0 24 rfl rfl
theorem dksX9_readLine_2 : cX9_readLine.data.toList.drop 48 = dktX9_readLine_2 := dk_seg dksX9_readLine_1 24 rfl rfl
theorem dksX9_readLine_3 : cX9_readLine.data.toList.drop 72 = dktX9_readLine_3 := dk_seg dksX9_readLine_2 24 rfl rfl
theorem dksX9_readLine_4 : cX9_readLine.data.toList.drop 94 = dktX9_readLine_4 := dk_seg dksX9_readLine_3 22 rfl rfl
theorem dksX9_readLine_5 : cX9_readLine.data.toList.drop 118 = dktX9_readLine_5 := dk_seg dksX9_readLine_4 24 rfl rfl
theorem dX9_readLine_0 : decode cX9_readLine 0 = .ok (.aload_n 0, 1) := dk_42 (dk_at dksX9_readLine_0 0 rfl rfl)
theorem dX9_readLine_1 : decode cX9_readLine 1 = .ok (.getfield 129, 3) := dk_180 0 129 (dk_at dksX9_readLine_0 1 rfl rfl)
theorem dX9_readLine_4 : decode cX9_readLine 4 = .ok (.iconst 1, 1) := dk_4 (dk_at dksX9_readLine_0 4 rfl rfl)
theorem dX9_readLine_5 : decode cX9_readLine 5 = .ok (.if_icmp .ne 16, 3) := dk_160 0 16 (dk_at dksX9_readLine_0 5 rfl rfl)
theorem dX9_readLine_8 : decode cX9_readLine 8 = .ok (.aload_n 0, 1) := dk_42 (dk_at dksX9_readLine_0 8 rfl rfl)
theorem dX9_readLine_9 : decode cX9_readLine 9 = .ok (.getfield 114, 3) := dk_180 0 114 (dk_at dksX9_readLine_0 9 rfl rfl)
theorem dX9_readLine_12 : decode cX9_readLine 12 = .ok (.bipush 6, 2) := dk_16 6 (dk_at dksX9_readLine_0 12 rfl rfl)
theorem dX9_readLine_14 : decode cX9_readLine 14 = .ok (.if_icmp .gt 7, 3) := dk_163 0 7 (dk_at dksX9_readLine_0 14 rfl rfl)
theorem dX9_readLine_17 : decode cX9_readLine 17 = .ok (.iconst 1, 1) := dk_4 (dk_at dksX9_readLine_0 17 rfl rfl)
theorem dX9_readLine_18 : decode cX9_readLine 18 = .ok (.goto 4, 3) := dk_167 0 4 (dk_at dksX9_readLine_0 18 rfl rfl)
theorem dX9_readLine_21 : decode cX9_readLine 21 = .ok (.iconst 0, 1) := dk_3 (dk_at dksX9_readLine_0 21 rfl rfl)
theorem dX9_readLine_22 : decode cX9_readLine 22 = .ok (.istore_n 1, 1) := dk_60 (dk_at dksX9_readLine_0 22 rfl rfl)
theorem dX9_readLine_23 : decode cX9_readLine 23 = .ok (.iconst 0, 1) := dk_3 (dk_at dksX9_readLine_0 23 rfl rfl)
theorem dX9_readLine_24 : decode cX9_readLine 24 = .ok (.istore_n 2, 1) := dk_61 (dk_at dksX9_readLine_1 0 rfl rfl)
theorem dX9_readLine_25 : decode cX9_readLine 25 = .ok (.iload_n 2, 1) := dk_28 (dk_at dksX9_readLine_1 1 rfl rfl)
theorem dX9_readLine_26 : decode cX9_readLine 26 = .ok (.aload_n 0, 1) := dk_42 (dk_at dksX9_readLine_1 2 rfl rfl)
theorem dX9_readLine_27 : decode cX9_readLine 27 = .ok (.getfield 167, 3) := dk_180 0 167 (dk_at dksX9_readLine_1 3 rfl rfl)
theorem dX9_readLine_30 : decode cX9_readLine 30 = .ok (.if_icmp .ge 33, 3) := dk_162 0 33 (dk_at dksX9_readLine_1 6 rfl rfl)
theorem dX9_readLine_33 : decode cX9_readLine 33 = .ok (.iload_n 1, 1) := dk_27 (dk_at dksX9_readLine_1 9 rfl rfl)
theorem dX9_readLine_34 : decode cX9_readLine 34 = .ok (.ifCond .eq 21, 3) := dk_153 0 21 (dk_at dksX9_readLine_1 10 rfl rfl)
theorem dX9_readLine_37 : decode cX9_readLine 37 = .ok (.aload_n 0, 1) := dk_42 (dk_at dksX9_readLine_1 13 rfl rfl)
theorem dX9_readLine_38 : decode cX9_readLine 38 = .ok (.getfield 22, 3) := dk_180 0 22 (dk_at dksX9_readLine_1 14 rfl rfl)
theorem dX9_readLine_41 : decode cX9_readLine 41 = .ok (.iload_n 2, 1) := dk_28 (dk_at dksX9_readLine_1 17 rfl rfl)
theorem dX9_readLine_42 : decode cX9_readLine 42 = .ok (.laload, 1) := dk_47 (dk_at dksX9_readLine_1 18 rfl rfl)
theorem dX9_readLine_43 : decode cX9_readLine 43 = .ok (.aload_n 0, 1) := dk_42 (dk_at dksX9_readLine_1 19 rfl rfl)
theorem dX9_readLine_44 : decode cX9_readLine 44 = .ok (.getfield 110, 3) := dk_180 0 110 (dk_at dksX9_readLine_1 20 rfl rfl)
theorem dX9_readLine_47 : decode cX9_readLine 47 = .ok (.lcmp, 1) := dk_148 (dk_at dksX9_readLine_1 23 rfl rfl)
theorem dX9_readLine_48 : decode cX9_readLine 48 = .ok (.ifCond .eq 7, 3) := dk_153 0 7 (dk_at dksX9_readLine_2 0 rfl rfl)
theorem dX9_readLine_51 : decode cX9_readLine 51 = .ok (.iconst 1, 1) := dk_4 (dk_at dksX9_readLine_2 3 rfl rfl)
theorem dX9_readLine_52 : decode cX9_readLine 52 = .ok (.goto 4, 3) := dk_167 0 4 (dk_at dksX9_readLine_2 4 rfl rfl)
theorem dX9_readLine_55 : decode cX9_readLine 55 = .ok (.iconst 0, 1) := dk_3 (dk_at dksX9_readLine_2 7 rfl rfl)
theorem dX9_readLine_56 : decode cX9_readLine 56 = .ok (.istore_n 1, 1) := dk_60 (dk_at dksX9_readLine_2 8 rfl rfl)
theorem dX9_readLine_57 : decode cX9_readLine 57 = .ok (.iinc 2 1, 3) := dk_132 2 1 (dk_at dksX9_readLine_2 9 rfl rfl)
theorem dX9_readLine_60 : decode cX9_readLine 60 = .ok (.goto (-35), 3) := dk_167 255 221 (dk_at dksX9_readLine_2 12 rfl rfl)
theorem dX9_readLine_63 : decode cX9_readLine 63 = .ok (.iload_n 1, 1) := dk_27 (dk_at dksX9_readLine_2 15 rfl rfl)
theorem dX9_readLine_64 : decode cX9_readLine 64 = .ok (.ifCond .ne 8, 3) := dk_154 0 8 (dk_at dksX9_readLine_2 16 rfl rfl)
theorem dX9_readLine_67 : decode cX9_readLine 67 = .ok (.aload_n 0, 1) := dk_42 (dk_at dksX9_readLine_2 19 rfl rfl)
theorem dX9_readLine_68 : decode cX9_readLine 68 = .ok (.invokevirtual 154, 3) := dk_182 0 154 (dk_at dksX9_readLine_2 20 rfl rfl)
theorem dX9_readLine_71 : decode cX9_readLine 71 = .ok (.return_, 1) := dk_177 (dk_at dksX9_readLine_2 23 rfl rfl)
theorem dX9_readLine_72 : decode cX9_readLine 72 = .ok (.aload_n 0, 1) := dk_42 (dk_at dksX9_readLine_3 0 rfl rfl)
theorem dX9_readLine_73 : decode cX9_readLine 73 = .ok (.getfield 22, 3) := dk_180 0 22 (dk_at dksX9_readLine_3 1 rfl rfl)
theorem dX9_readLine_76 : decode cX9_readLine 76 = .ok (.aload_n 0, 1) := dk_42 (dk_at dksX9_readLine_3 4 rfl rfl)
theorem dX9_readLine_77 : decode cX9_readLine 77 = .ok (.getfield 167, 3) := dk_180 0 167 (dk_at dksX9_readLine_3 5 rfl rfl)
theorem dX9_readLine_80 : decode cX9_readLine 80 = .ok (.aload_n 0, 1) := dk_42 (dk_at dksX9_readLine_3 8 rfl rfl)
theorem dX9_readLine_81 : decode cX9_readLine 81 = .ok (.getfield 110, 3) := dk_180 0 110 (dk_at dksX9_readLine_3 9 rfl rfl)
theorem dX9_readLine_84 : decode cX9_readLine 84 = .ok (.lastore, 1) := dk_80 (dk_at dksX9_readLine_3 12 rfl rfl)
theorem dX9_readLine_85 : decode cX9_readLine 85 = .ok (.aload_n 0, 1) := dk_42 (dk_at dksX9_readLine_3 13 rfl rfl)
theorem dX9_readLine_86 : decode cX9_readLine 86 = .ok (.getfield 19, 3) := dk_180 0 19 (dk_at dksX9_readLine_3 14 rfl rfl)
theorem dX9_readLine_89 : decode cX9_readLine 89 = .ok (.aload_n 0, 1) := dk_42 (dk_at dksX9_readLine_3 17 rfl rfl)
theorem dX9_readLine_90 : decode cX9_readLine 90 = .ok (.getfield 167, 3) := dk_180 0 167 (dk_at dksX9_readLine_3 18 rfl rfl)
theorem dX9_readLine_93 : decode cX9_readLine 93 = .ok (.aload_n 0, 1) := dk_42 (dk_at dksX9_readLine_3 21 rfl rfl)
theorem dX9_readLine_94 : decode cX9_readLine 94 = .ok (.getfield 114, 3) := dk_180 0 114 (dk_at dksX9_readLine_4 0 rfl rfl)
theorem dX9_readLine_97 : decode cX9_readLine 97 = .ok (.iastore, 1) := dk_79 (dk_at dksX9_readLine_4 3 rfl rfl)
theorem dX9_readLine_98 : decode cX9_readLine 98 = .ok (.aload_n 0, 1) := dk_42 (dk_at dksX9_readLine_4 4 rfl rfl)
theorem dX9_readLine_99 : decode cX9_readLine 99 = .ok (.invokevirtual 157, 3) := dk_182 0 157 (dk_at dksX9_readLine_4 5 rfl rfl)
theorem dX9_readLine_102 : decode cX9_readLine 102 = .ok (.aload_n 0, 1) := dk_42 (dk_at dksX9_readLine_4 8 rfl rfl)
theorem dX9_readLine_103 : decode cX9_readLine 103 = .ok (.getfield 16, 3) := dk_180 0 16 (dk_at dksX9_readLine_4 9 rfl rfl)
theorem dX9_readLine_106 : decode cX9_readLine 106 = .ok (.aload_n 0, 1) := dk_42 (dk_at dksX9_readLine_4 12 rfl rfl)
theorem dX9_readLine_107 : decode cX9_readLine 107 = .ok (.getfield 167, 3) := dk_180 0 167 (dk_at dksX9_readLine_4 13 rfl rfl)
theorem dX9_readLine_110 : decode cX9_readLine 110 = .ok (.aload_n 0, 1) := dk_42 (dk_at dksX9_readLine_4 16 rfl rfl)
theorem dX9_readLine_111 : decode cX9_readLine 111 = .ok (.iconst 0, 1) := dk_3 (dk_at dksX9_readLine_4 17 rfl rfl)
theorem dX9_readLine_112 : decode cX9_readLine 112 = .ok (.bipush 47, 2) := dk_16 47 (dk_at dksX9_readLine_4 18 rfl rfl)
theorem dX9_readLine_114 : decode cX9_readLine 114 = .ok (.invokevirtual 163, 3) := dk_182 0 163 (dk_at dksX9_readLine_4 20 rfl rfl)
theorem dX9_readLine_117 : decode cX9_readLine 117 = .ok (.iastore, 1) := dk_79 (dk_at dksX9_readLine_4 23 rfl rfl)
theorem dX9_readLine_118 : decode cX9_readLine 118 = .ok (.aload_n 0, 1) := dk_42 (dk_at dksX9_readLine_5 0 rfl rfl)
theorem dX9_readLine_119 : decode cX9_readLine 119 = .ok (.dup, 1) := dk_89 (dk_at dksX9_readLine_5 1 rfl rfl)
theorem dX9_readLine_120 : decode cX9_readLine 120 = .ok (.getfield 167, 3) := dk_180 0 167 (dk_at dksX9_readLine_5 2 rfl rfl)
theorem dX9_readLine_123 : decode cX9_readLine 123 = .ok (.iconst 1, 1) := dk_4 (dk_at dksX9_readLine_5 5 rfl rfl)
theorem dX9_readLine_124 : decode cX9_readLine 124 = .ok (.iadd, 1) := dk_96 (dk_at dksX9_readLine_5 6 rfl rfl)
theorem dX9_readLine_125 : decode cX9_readLine 125 = .ok (.putfield 167, 3) := dk_181 0 167 (dk_at dksX9_readLine_5 7 rfl rfl)
theorem dX9_readLine_128 : decode cX9_readLine 128 = .ok (.return_, 1) := dk_177 (dk_at dksX9_readLine_5 10 rfl rfl)
def dkwX9_readScript_4 : List UInt8 := [42, 180, 0, 129, 153, 0, 7, 42, 182, 0, 154, 42, 180, 0, 151, 172]
abbrev dktX9_readScript_4 : List UInt8 := dkwX9_readScript_4 ++ []
def dkwX9_readScript_3 : List UInt8 := [167, 0, 4, 3, 61, 28, 153, 255, 191, 42, 182, 0, 157, 167, 255, 184, 42, 180, 0, 151, 2, 160, 0, 14]
abbrev dktX9_readScript_3 : List UInt8 := dkwX9_readScript_3 ++ dktX9_readScript_4
def dkwX9_readScript_2 : List UInt8 := [2, 160, 0, 26, 42, 180, 0, 129, 6, 160, 0, 18, 42, 180, 0, 29, 27, 46, 16, 12, 162, 0, 7, 4]
abbrev dktX9_readScript_2 : List UInt8 := dkwX9_readScript_2 ++ dktX9_readScript_3
def dkwX9_readScript_1 : List UInt8 := [180, 0, 29, 27, 46, 96, 104, 182, 0, 244, 42, 180, 0, 29, 27, 92, 46, 4, 96, 79, 42, 180, 0, 151]
abbrev dktX9_readScript_1 : List UInt8 := dkwX9_readScript_1 ++ dktX9_readScript_2
def dkwX9_readScript_0 : List UInt8 := [42, 182, 0, 202, 42, 180, 0, 29, 27, 3, 79, 4, 61, 28, 153, 0, 74, 42, 6, 16, 12, 27, 104, 42]
abbrev dktX9_readScript_0 : List UInt8 := dkwX9_readScript_0 ++ dktX9_readScript_1
theorem dksX9_readScript_0 : cX9_readScript.data.toList.drop 0 = dktX9_readScript_0 := by decide +kernel
theorem dksX9_readScript_1 : cX9_readScript.data.toList.drop 24 = dktX9_readScript_1 := dk_seg dksX9_readScript_0 24 rfl rfl
theorem dksX9_readScript_2 : cX9_readScript.data.toList.drop 48 = dktX9_readScript_2 := dk_seg dksX9_readScript_1 24 rfl rfl
theorem dksX9_readScript_3 : cX9_readScript.data.toList.drop 72 = dktX9_readScript_3 := dk_seg dksX9_readScript_2 24 rfl rfl
theorem dksX9_readScript_4 : cX9_readScript.data.toList.drop 96 = dktX9_readScript_4 := dk_seg dksX9_readScript_3 24 rfl rfl
theorem dX9_readScript_0 : decode cX9_readScript 0 = .ok (.aload_n 0, 1) := dk_42 (dk_at dksX9_readScript_0 0 rfl rfl)
theorem dX9_readScript_1 : decode cX9_readScript 1 = .ok (.invokevirtual 202, 3) := dk_182 0 202 (dk_at dksX9_readScript_0 1 rfl rfl)
theorem dX9_readScript_4 : decode cX9_readScript 4 = .ok (.aload_n 0, 1) := dk_42 (dk_at dksX9_readScript_0 4 rfl rfl)
theorem dX9_readScript_5 : decode cX9_readScript 5 = .ok (.getfield 29, 3) := dk_180 0 29 (dk_at dksX9_readScript_0 5 rfl rfl)
theorem dX9_readScript_8 : decode cX9_readScript 8 = .ok (.iload_n 1, 1) := dk_27 (dk_at dksX9_readScript_0 8 rfl rfl)
theorem dX9_readScript_9 : decode cX9_readScript 9 = .ok (.iconst 0, 1) := dk_3 (dk_at dksX9_readScript_0 9 rfl rfl)
theorem dX9_readScript_10 : decode cX9_readScript 10 = .ok (.iastore, 1) := dk_79 (dk_at dksX9_readScript_0 10 rfl rfl)
theorem dX9_readScript_11 : decode cX9_readScript 11 = .ok (.iconst 1, 1) := dk_4 (dk_at dksX9_readScript_0 11 rfl rfl)
theorem dX9_readScript_12 : decode cX9_readScript 12 = .ok (.istore_n 2, 1) := dk_61 (dk_at dksX9_readScript_0 12 rfl rfl)
theorem dX9_readScript_13 : decode cX9_readScript 13 = .ok (.iload_n 2, 1) := dk_28 (dk_at dksX9_readScript_0 13 rfl rfl)
theorem dX9_readScript_14 : decode cX9_readScript 14 = .ok (.ifCond .eq 74, 3) := dk_153 0 74 (dk_at dksX9_readScript_0 14 rfl rfl)
theorem dX9_readScript_17 : decode cX9_readScript 17 = .ok (.aload_n 0, 1) := dk_42 (dk_at dksX9_readScript_0 17 rfl rfl)
theorem dX9_readScript_18 : decode cX9_readScript 18 = .ok (.iconst 3, 1) := dk_6 (dk_at dksX9_readScript_0 18 rfl rfl)
theorem dX9_readScript_19 : decode cX9_readScript 19 = .ok (.bipush 12, 2) := dk_16 12 (dk_at dksX9_readScript_0 19 rfl rfl)
theorem dX9_readScript_21 : decode cX9_readScript 21 = .ok (.iload_n 1, 1) := dk_27 (dk_at dksX9_readScript_0 21 rfl rfl)
theorem dX9_readScript_22 : decode cX9_readScript 22 = .ok (.imul, 1) := dk_104 (dk_at dksX9_readScript_0 22 rfl rfl)
theorem dX9_readScript_23 : decode cX9_readScript 23 = .ok (.aload_n 0, 1) := dk_42 (dk_at dksX9_readScript_0 23 rfl rfl)
theorem dX9_readScript_24 : decode cX9_readScript 24 = .ok (.getfield 29, 3) := dk_180 0 29 (dk_at dksX9_readScript_1 0 rfl rfl)
theorem dX9_readScript_27 : decode cX9_readScript 27 = .ok (.iload_n 1, 1) := dk_27 (dk_at dksX9_readScript_1 3 rfl rfl)
theorem dX9_readScript_28 : decode cX9_readScript 28 = .ok (.iaload, 1) := dk_46 (dk_at dksX9_readScript_1 4 rfl rfl)
theorem dX9_readScript_29 : decode cX9_readScript 29 = .ok (.iadd, 1) := dk_96 (dk_at dksX9_readScript_1 5 rfl rfl)
theorem dX9_readScript_30 : decode cX9_readScript 30 = .ok (.imul, 1) := dk_104 (dk_at dksX9_readScript_1 6 rfl rfl)
theorem dX9_readScript_31 : decode cX9_readScript 31 = .ok (.invokevirtual 244, 3) := dk_182 0 244 (dk_at dksX9_readScript_1 7 rfl rfl)
theorem dX9_readScript_34 : decode cX9_readScript 34 = .ok (.aload_n 0, 1) := dk_42 (dk_at dksX9_readScript_1 10 rfl rfl)
theorem dX9_readScript_35 : decode cX9_readScript 35 = .ok (.getfield 29, 3) := dk_180 0 29 (dk_at dksX9_readScript_1 11 rfl rfl)
theorem dX9_readScript_38 : decode cX9_readScript 38 = .ok (.iload_n 1, 1) := dk_27 (dk_at dksX9_readScript_1 14 rfl rfl)
theorem dX9_readScript_39 : decode cX9_readScript 39 = .ok (.dup2, 1) := dk_92 (dk_at dksX9_readScript_1 15 rfl rfl)
theorem dX9_readScript_40 : decode cX9_readScript 40 = .ok (.iaload, 1) := dk_46 (dk_at dksX9_readScript_1 16 rfl rfl)
theorem dX9_readScript_41 : decode cX9_readScript 41 = .ok (.iconst 1, 1) := dk_4 (dk_at dksX9_readScript_1 17 rfl rfl)
theorem dX9_readScript_42 : decode cX9_readScript 42 = .ok (.iadd, 1) := dk_96 (dk_at dksX9_readScript_1 18 rfl rfl)
theorem dX9_readScript_43 : decode cX9_readScript 43 = .ok (.iastore, 1) := dk_79 (dk_at dksX9_readScript_1 19 rfl rfl)
theorem dX9_readScript_44 : decode cX9_readScript 44 = .ok (.aload_n 0, 1) := dk_42 (dk_at dksX9_readScript_1 20 rfl rfl)
theorem dX9_readScript_45 : decode cX9_readScript 45 = .ok (.getfield 151, 3) := dk_180 0 151 (dk_at dksX9_readScript_1 21 rfl rfl)
theorem dX9_readScript_48 : decode cX9_readScript 48 = .ok (.iconst (-1), 1) := dk_2 (dk_at dksX9_readScript_2 0 rfl rfl)
theorem dX9_readScript_49 : decode cX9_readScript 49 = .ok (.if_icmp .ne 26, 3) := dk_160 0 26 (dk_at dksX9_readScript_2 1 rfl rfl)
theorem dX9_readScript_52 : decode cX9_readScript 52 = .ok (.aload_n 0, 1) := dk_42 (dk_at dksX9_readScript_2 4 rfl rfl)
theorem dX9_readScript_53 : decode cX9_readScript 53 = .ok (.getfield 129, 3) := dk_180 0 129 (dk_at dksX9_readScript_2 5 rfl rfl)
theorem dX9_readScript_56 : decode cX9_readScript 56 = .ok (.iconst 3, 1) := dk_6 (dk_at dksX9_readScript_2 8 rfl rfl)
theorem dX9_readScript_57 : decode cX9_readScript 57 = .ok (.if_icmp .ne 18, 3) := dk_160 0 18 (dk_at dksX9_readScript_2 9 rfl rfl)
theorem dX9_readScript_60 : decode cX9_readScript 60 = .ok (.aload_n 0, 1) := dk_42 (dk_at dksX9_readScript_2 12 rfl rfl)
theorem dX9_readScript_61 : decode cX9_readScript 61 = .ok (.getfield 29, 3) := dk_180 0 29 (dk_at dksX9_readScript_2 13 rfl rfl)
theorem dX9_readScript_64 : decode cX9_readScript 64 = .ok (.iload_n 1, 1) := dk_27 (dk_at dksX9_readScript_2 16 rfl rfl)
theorem dX9_readScript_65 : decode cX9_readScript 65 = .ok (.iaload, 1) := dk_46 (dk_at dksX9_readScript_2 17 rfl rfl)
theorem dX9_readScript_66 : decode cX9_readScript 66 = .ok (.bipush 12, 2) := dk_16 12 (dk_at dksX9_readScript_2 18 rfl rfl)
theorem dX9_readScript_68 : decode cX9_readScript 68 = .ok (.if_icmp .ge 7, 3) := dk_162 0 7 (dk_at dksX9_readScript_2 20 rfl rfl)
theorem dX9_readScript_71 : decode cX9_readScript 71 = .ok (.iconst 1, 1) := dk_4 (dk_at dksX9_readScript_2 23 rfl rfl)
theorem dX9_readScript_72 : decode cX9_readScript 72 = .ok (.goto 4, 3) := dk_167 0 4 (dk_at dksX9_readScript_3 0 rfl rfl)
theorem dX9_readScript_75 : decode cX9_readScript 75 = .ok (.iconst 0, 1) := dk_3 (dk_at dksX9_readScript_3 3 rfl rfl)
theorem dX9_readScript_76 : decode cX9_readScript 76 = .ok (.istore_n 2, 1) := dk_61 (dk_at dksX9_readScript_3 4 rfl rfl)
theorem dX9_readScript_77 : decode cX9_readScript 77 = .ok (.iload_n 2, 1) := dk_28 (dk_at dksX9_readScript_3 5 rfl rfl)
theorem dX9_readScript_78 : decode cX9_readScript 78 = .ok (.ifCond .eq (-65), 3) := dk_153 255 191 (dk_at dksX9_readScript_3 6 rfl rfl)
theorem dX9_readScript_81 : decode cX9_readScript 81 = .ok (.aload_n 0, 1) := dk_42 (dk_at dksX9_readScript_3 9 rfl rfl)
theorem dX9_readScript_82 : decode cX9_readScript 82 = .ok (.invokevirtual 157, 3) := dk_182 0 157 (dk_at dksX9_readScript_3 10 rfl rfl)
theorem dX9_readScript_85 : decode cX9_readScript 85 = .ok (.goto (-72), 3) := dk_167 255 184 (dk_at dksX9_readScript_3 13 rfl rfl)
theorem dX9_readScript_88 : decode cX9_readScript 88 = .ok (.aload_n 0, 1) := dk_42 (dk_at dksX9_readScript_3 16 rfl rfl)
theorem dX9_readScript_89 : decode cX9_readScript 89 = .ok (.getfield 151, 3) := dk_180 0 151 (dk_at dksX9_readScript_3 17 rfl rfl)
theorem dX9_readScript_92 : decode cX9_readScript 92 = .ok (.iconst (-1), 1) := dk_2 (dk_at dksX9_readScript_3 20 rfl rfl)
theorem dX9_readScript_93 : decode cX9_readScript 93 = .ok (.if_icmp .ne 14, 3) := dk_160 0 14 (dk_at dksX9_readScript_3 21 rfl rfl)
theorem dX9_readScript_96 : decode cX9_readScript 96 = .ok (.aload_n 0, 1) := dk_42 (dk_at dksX9_readScript_4 0 rfl rfl)
theorem dX9_readScript_97 : decode cX9_readScript 97 = .ok (.getfield 129, 3) := dk_180 0 129 (dk_at dksX9_readScript_4 1 rfl rfl)
theorem dX9_readScript_100 : decode cX9_readScript 100 = .ok (.ifCond .eq 7, 3) := dk_153 0 7 (dk_at dksX9_readScript_4 4 rfl rfl)
theorem dX9_readScript_103 : decode cX9_readScript 103 = .ok (.aload_n 0, 1) := dk_42 (dk_at dksX9_readScript_4 7 rfl rfl)
theorem dX9_readScript_104 : decode cX9_readScript 104 = .ok (.invokevirtual 154, 3) := dk_182 0 154 (dk_at dksX9_readScript_4 8 rfl rfl)
theorem dX9_readScript_107 : decode cX9_readScript 107 = .ok (.aload_n 0, 1) := dk_42 (dk_at dksX9_readScript_4 11 rfl rfl)
theorem dX9_readScript_108 : decode cX9_readScript 108 = .ok (.getfield 151, 3) := dk_180 0 151 (dk_at dksX9_readScript_4 12 rfl rfl)
theorem dX9_readScript_111 : decode cX9_readScript 111 = .ok (.ireturn, 1) := dk_172 (dk_at dksX9_readScript_4 15 rfl rfl)
def dkwX9_readStep_5 : List UInt8 := [182, 0, 157, 132, 3, 1, 167, 255, 191, 177]
abbrev dktX9_readStep_5 : List UInt8 := dkwX9_readStep_5 ++ []
def dkwX9_readStep_4 : List UInt8 := [159, 0, 10, 42, 182, 0, 154, 167, 0, 19, 42, 180, 0, 26, 27, 29, 96, 42, 180, 0, 136, 79, 42]
abbrev dktX9_readStep_4 : List UInt8 := dkwX9_readStep_4 ++ dktX9_readStep_5
def dkwX9_readStep_3 : List UInt8 := [18, 240, 79, 29, 28, 184, 0, 241, 163, 0, 42, 42, 180, 0, 151, 2, 160, 0, 11, 42, 180, 0, 129, 5]
abbrev dktX9_readStep_3 : List UInt8 := dkwX9_readStep_3 ++ dktX9_readStep_4
def dkwX9_readStep_2 : List UInt8 := [182, 0, 157, 42, 180, 0, 26, 27, 28, 79, 4, 62, 29, 6, 162, 0, 66, 42, 180, 0, 26, 27, 29, 96]
abbrev dktX9_readStep_2 : List UInt8 := dkwX9_readStep_2 ++ dktX9_readStep_3
def dkwX9_readStep_1 : List UInt8 := [167, 0, 4, 28, 61, 132, 3, 1, 167, 255, 230, 28, 2, 160, 0, 8, 42, 182, 0, 154, 177, 42]
abbrev dktX9_readStep_1 : List UInt8 := dkwX9_readStep_1 ++ dktX9_readStep_2
def dkwX9_readStep_0 : List UInt8 := [2, 61, 3, 62, 29, 16, 10, 162, 0, 26, 42, 29, 184, 0, 236, 182, 0, 173, 153, 0, 7, 29]
abbrev dktX9_readStep_0 : List UInt8 := dkwX9_readStep_0 ++ dktX9_readStep_1
theorem dksX9_readStep_0 : cX9_readStep.data.toList.drop 0 = dktX9_readStep_0 := by decide +kernel
theorem dksX9_readStep_1 : cX9_readStep.data.toList.drop 22 = dktX9_readStep_1 := dk_seg dksX9_readStep_0 22 rfl rfl
theorem dksX9_readStep_2 : cX9_readStep.data.toList.drop 44 = dktX9_readStep_2 := dk_seg dksX9_readStep_1 22 rfl rfl
theorem dksX9_readStep_3 : cX9_readStep.data.toList.drop 68 = dktX9_readStep_3 := dk_seg dksX9_readStep_2 24 rfl rfl
theorem dksX9_readStep_4 : cX9_readStep.data.toList.drop 92 = dktX9_readStep_4 := dk_seg dksX9_readStep_3 24 rfl rfl
theorem dksX9_readStep_5 : cX9_readStep.data.toList.drop 115 = dktX9_readStep_5 := dk_seg dksX9_readStep_4 23 rfl rfl
theorem dX9_readStep_0 : decode cX9_readStep 0 = .ok (.iconst (-1), 1) := dk_2 (dk_at dksX9_readStep_0 0 rfl rfl)
theorem dX9_readStep_1 : decode cX9_readStep 1 = .ok (.istore_n 2, 1) := dk_61 (dk_at dksX9_readStep_0 1 rfl rfl)
theorem dX9_readStep_2 : decode cX9_readStep 2 = .ok (.iconst 0, 1) := dk_3 (dk_at dksX9_readStep_0 2 rfl rfl)
theorem dX9_readStep_3 : decode cX9_readStep 3 = .ok (.istore_n 3, 1) := dk_62 (dk_at dksX9_readStep_0 3 rfl rfl)
theorem dX9_readStep_4 : decode cX9_readStep 4 = .ok (.iload_n 3, 1) := dk_29 (dk_at dksX9_readStep_0 4 rfl rfl)
theorem dX9_readStep_5 : decode cX9_readStep 5 = .ok (.bipush 10, 2) := dk_16 10 (dk_at dksX9_readStep_0 5 rfl rfl)
theorem dX9_readStep_7 : decode cX9_readStep 7 = .ok (.if_icmp .ge 26, 3) := dk_162 0 26 (dk_at dksX9_readStep_0 7 rfl rfl)
theorem dX9_readStep_10 : decode cX9_readStep 10 = .ok (.aload_n 0, 1) := dk_42 (dk_at dksX9_readStep_0 10 rfl rfl)
theorem dX9_readStep_11 : decode cX9_readStep 11 = .ok (.iload_n 3, 1) := dk_29 (dk_at dksX9_readStep_0 11 rfl rfl)
theorem dX9_readStep_12 : decode cX9_readStep 12 = .ok (.invokestatic 236, 3) := dk_184 0 236 (dk_at dksX9_readStep_0 12 rfl rfl)
theorem dX9_readStep_15 : decode cX9_readStep 15 = .ok (.invokevirtual 173, 3) := dk_182 0 173 (dk_at dksX9_readStep_0 15 rfl rfl)
theorem dX9_readStep_18 : decode cX9_readStep 18 = .ok (.ifCond .eq 7, 3) := dk_153 0 7 (dk_at dksX9_readStep_0 18 rfl rfl)
theorem dX9_readStep_21 : decode cX9_readStep 21 = .ok (.iload_n 3, 1) := dk_29 (dk_at dksX9_readStep_0 21 rfl rfl)
theorem dX9_readStep_22 : decode cX9_readStep 22 = .ok (.goto 4, 3) := dk_167 0 4 (dk_at dksX9_readStep_1 0 rfl rfl)
theorem dX9_readStep_25 : decode cX9_readStep 25 = .ok (.iload_n 2, 1) := dk_28 (dk_at dksX9_readStep_1 3 rfl rfl)
theorem dX9_readStep_26 : decode cX9_readStep 26 = .ok (.istore_n 2, 1) := dk_61 (dk_at dksX9_readStep_1 4 rfl rfl)
theorem dX9_readStep_27 : decode cX9_readStep 27 = .ok (.iinc 3 1, 3) := dk_132 3 1 (dk_at dksX9_readStep_1 5 rfl rfl)
theorem dX9_readStep_30 : decode cX9_readStep 30 = .ok (.goto (-26), 3) := dk_167 255 230 (dk_at dksX9_readStep_1 8 rfl rfl)
theorem dX9_readStep_33 : decode cX9_readStep 33 = .ok (.iload_n 2, 1) := dk_28 (dk_at dksX9_readStep_1 11 rfl rfl)
theorem dX9_readStep_34 : decode cX9_readStep 34 = .ok (.iconst (-1), 1) := dk_2 (dk_at dksX9_readStep_1 12 rfl rfl)
theorem dX9_readStep_35 : decode cX9_readStep 35 = .ok (.if_icmp .ne 8, 3) := dk_160 0 8 (dk_at dksX9_readStep_1 13 rfl rfl)
theorem dX9_readStep_38 : decode cX9_readStep 38 = .ok (.aload_n 0, 1) := dk_42 (dk_at dksX9_readStep_1 16 rfl rfl)
theorem dX9_readStep_39 : decode cX9_readStep 39 = .ok (.invokevirtual 154, 3) := dk_182 0 154 (dk_at dksX9_readStep_1 17 rfl rfl)
theorem dX9_readStep_42 : decode cX9_readStep 42 = .ok (.return_, 1) := dk_177 (dk_at dksX9_readStep_1 20 rfl rfl)
theorem dX9_readStep_43 : decode cX9_readStep 43 = .ok (.aload_n 0, 1) := dk_42 (dk_at dksX9_readStep_1 21 rfl rfl)
theorem dX9_readStep_44 : decode cX9_readStep 44 = .ok (.invokevirtual 157, 3) := dk_182 0 157 (dk_at dksX9_readStep_2 0 rfl rfl)
theorem dX9_readStep_47 : decode cX9_readStep 47 = .ok (.aload_n 0, 1) := dk_42 (dk_at dksX9_readStep_2 3 rfl rfl)
theorem dX9_readStep_48 : decode cX9_readStep 48 = .ok (.getfield 26, 3) := dk_180 0 26 (dk_at dksX9_readStep_2 4 rfl rfl)
theorem dX9_readStep_51 : decode cX9_readStep 51 = .ok (.iload_n 1, 1) := dk_27 (dk_at dksX9_readStep_2 7 rfl rfl)
theorem dX9_readStep_52 : decode cX9_readStep 52 = .ok (.iload_n 2, 1) := dk_28 (dk_at dksX9_readStep_2 8 rfl rfl)
theorem dX9_readStep_53 : decode cX9_readStep 53 = .ok (.iastore, 1) := dk_79 (dk_at dksX9_readStep_2 9 rfl rfl)
theorem dX9_readStep_54 : decode cX9_readStep 54 = .ok (.iconst 1, 1) := dk_4 (dk_at dksX9_readStep_2 10 rfl rfl)
theorem dX9_readStep_55 : decode cX9_readStep 55 = .ok (.istore_n 3, 1) := dk_62 (dk_at dksX9_readStep_2 11 rfl rfl)
theorem dX9_readStep_56 : decode cX9_readStep 56 = .ok (.iload_n 3, 1) := dk_29 (dk_at dksX9_readStep_2 12 rfl rfl)
theorem dX9_readStep_57 : decode cX9_readStep 57 = .ok (.iconst 3, 1) := dk_6 (dk_at dksX9_readStep_2 13 rfl rfl)
theorem dX9_readStep_58 : decode cX9_readStep 58 = .ok (.if_icmp .ge 66, 3) := dk_162 0 66 (dk_at dksX9_readStep_2 14 rfl rfl)
theorem dX9_readStep_61 : decode cX9_readStep 61 = .ok (.aload_n 0, 1) := dk_42 (dk_at dksX9_readStep_2 17 rfl rfl)
theorem dX9_readStep_62 : decode cX9_readStep 62 = .ok (.getfield 26, 3) := dk_180 0 26 (dk_at dksX9_readStep_2 18 rfl rfl)
theorem dX9_readStep_65 : decode cX9_readStep 65 = .ok (.iload_n 1, 1) := dk_27 (dk_at dksX9_readStep_2 21 rfl rfl)
theorem dX9_readStep_66 : decode cX9_readStep 66 = .ok (.iload_n 3, 1) := dk_29 (dk_at dksX9_readStep_2 22 rfl rfl)
theorem dX9_readStep_67 : decode cX9_readStep 67 = .ok (.iadd, 1) := dk_96 (dk_at dksX9_readStep_2 23 rfl rfl)
theorem dX9_readStep_68 : decode cX9_readStep 68 = .ok (.ldc 240, 2) := dk_18 240 (dk_at dksX9_readStep_3 0 rfl rfl)
theorem dX9_readStep_70 : decode cX9_readStep 70 = .ok (.iastore, 1) := dk_79 (dk_at dksX9_readStep_3 2 rfl rfl)
theorem dX9_readStep_71 : decode cX9_readStep 71 = .ok (.iload_n 3, 1) := dk_29 (dk_at dksX9_readStep_3 3 rfl rfl)
theorem dX9_readStep_72 : decode cX9_readStep 72 = .ok (.iload_n 2, 1) := dk_28 (dk_at dksX9_readStep_3 4 rfl rfl)
theorem dX9_readStep_73 : decode cX9_readStep 73 = .ok (.invokestatic 241, 3) := dk_184 0 241 (dk_at dksX9_readStep_3 5 rfl rfl)
theorem dX9_readStep_76 : decode cX9_readStep 76 = .ok (.if_icmp .gt 42, 3) := dk_163 0 42 (dk_at dksX9_readStep_3 8 rfl rfl)
theorem dX9_readStep_79 : decode cX9_readStep 79 = .ok (.aload_n 0, 1) := dk_42 (dk_at dksX9_readStep_3 11 rfl rfl)
theorem dX9_readStep_80 : decode cX9_readStep 80 = .ok (.getfield 151, 3) := dk_180 0 151 (dk_at dksX9_readStep_3 12 rfl rfl)
theorem dX9_readStep_83 : decode cX9_readStep 83 = .ok (.iconst (-1), 1) := dk_2 (dk_at dksX9_readStep_3 15 rfl rfl)
theorem dX9_readStep_84 : decode cX9_readStep 84 = .ok (.if_icmp .ne 11, 3) := dk_160 0 11 (dk_at dksX9_readStep_3 16 rfl rfl)
theorem dX9_readStep_87 : decode cX9_readStep 87 = .ok (.aload_n 0, 1) := dk_42 (dk_at dksX9_readStep_3 19 rfl rfl)
theorem dX9_readStep_88 : decode cX9_readStep 88 = .ok (.getfield 129, 3) := dk_180 0 129 (dk_at dksX9_readStep_3 20 rfl rfl)
theorem dX9_readStep_91 : decode cX9_readStep 91 = .ok (.iconst 2, 1) := dk_5 (dk_at dksX9_readStep_3 23 rfl rfl)
theorem dX9_readStep_92 : decode cX9_readStep 92 = .ok (.if_icmp .eq 10, 3) := dk_159 0 10 (dk_at dksX9_readStep_4 0 rfl rfl)
theorem dX9_readStep_95 : decode cX9_readStep 95 = .ok (.aload_n 0, 1) := dk_42 (dk_at dksX9_readStep_4 3 rfl rfl)
theorem dX9_readStep_96 : decode cX9_readStep 96 = .ok (.invokevirtual 154, 3) := dk_182 0 154 (dk_at dksX9_readStep_4 4 rfl rfl)
theorem dX9_readStep_99 : decode cX9_readStep 99 = .ok (.goto 19, 3) := dk_167 0 19 (dk_at dksX9_readStep_4 7 rfl rfl)
theorem dX9_readStep_102 : decode cX9_readStep 102 = .ok (.aload_n 0, 1) := dk_42 (dk_at dksX9_readStep_4 10 rfl rfl)
theorem dX9_readStep_103 : decode cX9_readStep 103 = .ok (.getfield 26, 3) := dk_180 0 26 (dk_at dksX9_readStep_4 11 rfl rfl)
theorem dX9_readStep_106 : decode cX9_readStep 106 = .ok (.iload_n 1, 1) := dk_27 (dk_at dksX9_readStep_4 14 rfl rfl)
theorem dX9_readStep_107 : decode cX9_readStep 107 = .ok (.iload_n 3, 1) := dk_29 (dk_at dksX9_readStep_4 15 rfl rfl)
theorem dX9_readStep_108 : decode cX9_readStep 108 = .ok (.iadd, 1) := dk_96 (dk_at dksX9_readStep_4 16 rfl rfl)
theorem dX9_readStep_109 : decode cX9_readStep 109 = .ok (.aload_n 0, 1) := dk_42 (dk_at dksX9_readStep_4 17 rfl rfl)
theorem dX9_readStep_110 : decode cX9_readStep 110 = .ok (.getfield 136, 3) := dk_180 0 136 (dk_at dksX9_readStep_4 18 rfl rfl)
theorem dX9_readStep_113 : decode cX9_readStep 113 = .ok (.iastore, 1) := dk_79 (dk_at dksX9_readStep_4 21 rfl rfl)
theorem dX9_readStep_114 : decode cX9_readStep 114 = .ok (.aload_n 0, 1) := dk_42 (dk_at dksX9_readStep_4 22 rfl rfl)
theorem dX9_readStep_115 : decode cX9_readStep 115 = .ok (.invokevirtual 157, 3) := dk_182 0 157 (dk_at dksX9_readStep_5 0 rfl rfl)
theorem dX9_readStep_118 : decode cX9_readStep 118 = .ok (.iinc 3 1, 3) := dk_132 3 1 (dk_at dksX9_readStep_5 3 rfl rfl)
theorem dX9_readStep_121 : decode cX9_readStep 121 = .ok (.goto (-65), 3) := dk_167 255 191 (dk_at dksX9_readStep_5 6 rfl rfl)
theorem dX9_readStep_124 : decode cX9_readStep 124 = .ok (.return_, 1) := dk_177 (dk_at dksX9_readStep_5 9 rfl rfl)
def dkwX9_wordOf_3 : List UInt8 := [178, 0, 227, 173, 178, 0, 230, 173, 178, 0, 177, 173, 178, 0, 233, 173]
abbrev dktX9_wordOf_3 : List UInt8 := dkwX9_wordOf_3 ++ []
def dkwX9_wordOf_2 : List UInt8 := [178, 0, 209, 173, 178, 0, 212, 173, 178, 0, 215, 173, 178, 0, 218, 173, 178, 0, 221, 173, 178, 0, 224, 173]
abbrev dktX9_wordOf_2 : List UInt8 := dkwX9_wordOf_2 ++ dktX9_wordOf_3
def dkwX9_wordOf_1 : List UInt8 := [170, 0, 0, 0, 0, 0, 87, 0, 0, 0, 0, 0, 0, 0, 8, 0, 0, 0, 51, 0, 0, 0, 55, 0, 0, 0, 59, 0, 0, 0, 63, 0, 0, 0, 67, 0, 0, 0, 71, 0, 0, 0, 75, 0, 0, 0, 79, 0, 0, 0, 83]
abbrev dktX9_wordOf_1 : List UInt8 := dkwX9_wordOf_1 ++ dktX9_wordOf_2
def dkwX9_wordOf_0 : List UInt8 := [26]
abbrev dktX9_wordOf_0 : List UInt8 := dkwX9_wordOf_0 ++ dktX9_wordOf_1
theorem dksX9_wordOf_0 : cX9_wordOf.data.toList.drop 0 = dktX9_wordOf_0 := by decide +kernel
theorem dksX9_wordOf_1 : cX9_wordOf.data.toList.drop 1 = dktX9_wordOf_1 := dk_seg dksX9_wordOf_0 1 rfl rfl
theorem dksX9_wordOf_2 : cX9_wordOf.data.toList.drop 52 = dktX9_wordOf_2 := dk_seg dksX9_wordOf_1 51 rfl rfl
theorem dksX9_wordOf_3 : cX9_wordOf.data.toList.drop 76 = dktX9_wordOf_3 := dk_seg dksX9_wordOf_2 24 rfl rfl
theorem dX9_wordOf_0 : decode cX9_wordOf 0 = .ok (.iload_n 0, 1) := dk_26 (dk_at dksX9_wordOf_0 0 rfl rfl)
theorem dX9_wordOf_1 : decode cX9_wordOf 1 = .ok (.tableswitch 87 0 8 #[51, 55, 59, 63, 67, 71, 75, 79, 83], 51) := by decide +kernel
theorem dX9_wordOf_52 : decode cX9_wordOf 52 = .ok (.getstatic 209, 3) := dk_178 0 209 (dk_at dksX9_wordOf_2 0 rfl rfl)
theorem dX9_wordOf_55 : decode cX9_wordOf 55 = .ok (.lreturn, 1) := dk_173 (dk_at dksX9_wordOf_2 3 rfl rfl)
theorem dX9_wordOf_56 : decode cX9_wordOf 56 = .ok (.getstatic 212, 3) := dk_178 0 212 (dk_at dksX9_wordOf_2 4 rfl rfl)
theorem dX9_wordOf_59 : decode cX9_wordOf 59 = .ok (.lreturn, 1) := dk_173 (dk_at dksX9_wordOf_2 7 rfl rfl)
theorem dX9_wordOf_60 : decode cX9_wordOf 60 = .ok (.getstatic 215, 3) := dk_178 0 215 (dk_at dksX9_wordOf_2 8 rfl rfl)
theorem dX9_wordOf_63 : decode cX9_wordOf 63 = .ok (.lreturn, 1) := dk_173 (dk_at dksX9_wordOf_2 11 rfl rfl)
theorem dX9_wordOf_64 : decode cX9_wordOf 64 = .ok (.getstatic 218, 3) := dk_178 0 218 (dk_at dksX9_wordOf_2 12 rfl rfl)
theorem dX9_wordOf_67 : decode cX9_wordOf 67 = .ok (.lreturn, 1) := dk_173 (dk_at dksX9_wordOf_2 15 rfl rfl)
theorem dX9_wordOf_68 : decode cX9_wordOf 68 = .ok (.getstatic 221, 3) := dk_178 0 221 (dk_at dksX9_wordOf_2 16 rfl rfl)
theorem dX9_wordOf_71 : decode cX9_wordOf 71 = .ok (.lreturn, 1) := dk_173 (dk_at dksX9_wordOf_2 19 rfl rfl)
theorem dX9_wordOf_72 : decode cX9_wordOf 72 = .ok (.getstatic 224, 3) := dk_178 0 224 (dk_at dksX9_wordOf_2 20 rfl rfl)
theorem dX9_wordOf_75 : decode cX9_wordOf 75 = .ok (.lreturn, 1) := dk_173 (dk_at dksX9_wordOf_2 23 rfl rfl)
theorem dX9_wordOf_76 : decode cX9_wordOf 76 = .ok (.getstatic 227, 3) := dk_178 0 227 (dk_at dksX9_wordOf_3 0 rfl rfl)
theorem dX9_wordOf_79 : decode cX9_wordOf 79 = .ok (.lreturn, 1) := dk_173 (dk_at dksX9_wordOf_3 3 rfl rfl)
theorem dX9_wordOf_80 : decode cX9_wordOf 80 = .ok (.getstatic 230, 3) := dk_178 0 230 (dk_at dksX9_wordOf_3 4 rfl rfl)
theorem dX9_wordOf_83 : decode cX9_wordOf 83 = .ok (.lreturn, 1) := dk_173 (dk_at dksX9_wordOf_3 7 rfl rfl)
theorem dX9_wordOf_84 : decode cX9_wordOf 84 = .ok (.getstatic 177, 3) := dk_178 0 177 (dk_at dksX9_wordOf_3 8 rfl rfl)
theorem dX9_wordOf_87 : decode cX9_wordOf 87 = .ok (.lreturn, 1) := dk_173 (dk_at dksX9_wordOf_3 11 rfl rfl)
theorem dX9_wordOf_88 : decode cX9_wordOf 88 = .ok (.getstatic 233, 3) := dk_178 0 233 (dk_at dksX9_wordOf_3 12 rfl rfl)
theorem dX9_wordOf_91 : decode cX9_wordOf 91 = .ok (.lreturn, 1) := dk_173 (dk_at dksX9_wordOf_3 15 rfl rfl)
def dkwX9_numbersOf_1 : List UInt8 := [160, 0, 7, 4, 167, 0, 4, 5, 172]
abbrev dktX9_numbersOf_1 : List UInt8 := dkwX9_numbersOf_1 ++ []
def dkwX9_numbersOf_0 : List UInt8 := [26, 6, 163, 0, 7, 3, 167, 0, 24, 26, 7, 159, 0, 14, 26, 8, 159, 0, 9, 26, 16, 8]
abbrev dktX9_numbersOf_0 : List UInt8 := dkwX9_numbersOf_0 ++ dktX9_numbersOf_1
theorem dksX9_numbersOf_0 : cX9_numbersOf.data.toList.drop 0 = dktX9_numbersOf_0 := by decide +kernel
theorem dksX9_numbersOf_1 : cX9_numbersOf.data.toList.drop 22 = dktX9_numbersOf_1 := dk_seg dksX9_numbersOf_0 22 rfl rfl
theorem dX9_numbersOf_0 : decode cX9_numbersOf 0 = .ok (.iload_n 0, 1) := dk_26 (dk_at dksX9_numbersOf_0 0 rfl rfl)
theorem dX9_numbersOf_1 : decode cX9_numbersOf 1 = .ok (.iconst 3, 1) := dk_6 (dk_at dksX9_numbersOf_0 1 rfl rfl)
theorem dX9_numbersOf_2 : decode cX9_numbersOf 2 = .ok (.if_icmp .gt 7, 3) := dk_163 0 7 (dk_at dksX9_numbersOf_0 2 rfl rfl)
theorem dX9_numbersOf_5 : decode cX9_numbersOf 5 = .ok (.iconst 0, 1) := dk_3 (dk_at dksX9_numbersOf_0 5 rfl rfl)
theorem dX9_numbersOf_6 : decode cX9_numbersOf 6 = .ok (.goto 24, 3) := dk_167 0 24 (dk_at dksX9_numbersOf_0 6 rfl rfl)
theorem dX9_numbersOf_9 : decode cX9_numbersOf 9 = .ok (.iload_n 0, 1) := dk_26 (dk_at dksX9_numbersOf_0 9 rfl rfl)
theorem dX9_numbersOf_10 : decode cX9_numbersOf 10 = .ok (.iconst 4, 1) := dk_7 (dk_at dksX9_numbersOf_0 10 rfl rfl)
theorem dX9_numbersOf_11 : decode cX9_numbersOf 11 = .ok (.if_icmp .eq 14, 3) := dk_159 0 14 (dk_at dksX9_numbersOf_0 11 rfl rfl)
theorem dX9_numbersOf_14 : decode cX9_numbersOf 14 = .ok (.iload_n 0, 1) := dk_26 (dk_at dksX9_numbersOf_0 14 rfl rfl)
theorem dX9_numbersOf_15 : decode cX9_numbersOf 15 = .ok (.iconst 5, 1) := dk_8 (dk_at dksX9_numbersOf_0 15 rfl rfl)
theorem dX9_numbersOf_16 : decode cX9_numbersOf 16 = .ok (.if_icmp .eq 9, 3) := dk_159 0 9 (dk_at dksX9_numbersOf_0 16 rfl rfl)
theorem dX9_numbersOf_19 : decode cX9_numbersOf 19 = .ok (.iload_n 0, 1) := dk_26 (dk_at dksX9_numbersOf_0 19 rfl rfl)
theorem dX9_numbersOf_20 : decode cX9_numbersOf 20 = .ok (.bipush 8, 2) := dk_16 8 (dk_at dksX9_numbersOf_0 20 rfl rfl)
theorem dX9_numbersOf_22 : decode cX9_numbersOf 22 = .ok (.if_icmp .ne 7, 3) := dk_160 0 7 (dk_at dksX9_numbersOf_1 0 rfl rfl)
theorem dX9_numbersOf_25 : decode cX9_numbersOf 25 = .ok (.iconst 1, 1) := dk_4 (dk_at dksX9_numbersOf_1 3 rfl rfl)
theorem dX9_numbersOf_26 : decode cX9_numbersOf 26 = .ok (.goto 4, 3) := dk_167 0 4 (dk_at dksX9_numbersOf_1 4 rfl rfl)
theorem dX9_numbersOf_29 : decode cX9_numbersOf 29 = .ok (.iconst 2, 1) := dk_5 (dk_at dksX9_numbersOf_1 7 rfl rfl)
theorem dX9_numbersOf_30 : decode cX9_numbersOf 30 = .ok (.ireturn, 1) := dk_172 (dk_at dksX9_numbersOf_1 8 rfl rfl)
def dkwX9_text_2 : List UInt8 := [3, 181, 0, 100, 42, 89, 180, 1, 19, 4, 96, 181, 1, 19, 42, 180, 1, 19, 4, 100, 172, 2, 172]
abbrev dktX9_text_2 : List UInt8 := dkwX9_text_2 ++ []
def dkwX9_text_1 : List UInt8 := [160, 0, 45, 42, 180, 1, 19, 7, 162, 0, 37, 42, 42, 180, 1, 19, 182, 0, 251, 2, 160, 0, 25, 42]
abbrev dktX9_text_1 : List UInt8 := dkwX9_text_1 ++ dktX9_text_2
def dkwX9_text_0 : List UInt8 := [27, 154, 0, 21, 42, 182, 0, 248, 2, 160, 0, 13, 42, 3, 181, 0, 100, 42, 182, 1, 16, 172, 27, 4]
abbrev dktX9_text_0 : List UInt8 := dkwX9_text_0 ++ dktX9_text_1
theorem dksX9_text_0 : cX9_text.data.toList.drop 0 = dktX9_text_0 := by decide +kernel
theorem dksX9_text_1 : cX9_text.data.toList.drop 24 = dktX9_text_1 := dk_seg dksX9_text_0 24 rfl rfl
theorem dksX9_text_2 : cX9_text.data.toList.drop 48 = dktX9_text_2 := dk_seg dksX9_text_1 24 rfl rfl
theorem dX9_text_0 : decode cX9_text 0 = .ok (.iload_n 1, 1) := dk_27 (dk_at dksX9_text_0 0 rfl rfl)
theorem dX9_text_1 : decode cX9_text 1 = .ok (.ifCond .ne 21, 3) := dk_154 0 21 (dk_at dksX9_text_0 1 rfl rfl)
theorem dX9_text_4 : decode cX9_text 4 = .ok (.aload_n 0, 1) := dk_42 (dk_at dksX9_text_0 4 rfl rfl)
theorem dX9_text_5 : decode cX9_text 5 = .ok (.invokevirtual 248, 3) := dk_182 0 248 (dk_at dksX9_text_0 5 rfl rfl)
theorem dX9_text_8 : decode cX9_text 8 = .ok (.iconst (-1), 1) := dk_2 (dk_at dksX9_text_0 8 rfl rfl)
theorem dX9_text_9 : decode cX9_text 9 = .ok (.if_icmp .ne 13, 3) := dk_160 0 13 (dk_at dksX9_text_0 9 rfl rfl)
theorem dX9_text_12 : decode cX9_text 12 = .ok (.aload_n 0, 1) := dk_42 (dk_at dksX9_text_0 12 rfl rfl)
theorem dX9_text_13 : decode cX9_text 13 = .ok (.iconst 0, 1) := dk_3 (dk_at dksX9_text_0 13 rfl rfl)
theorem dX9_text_14 : decode cX9_text 14 = .ok (.putfield 100, 3) := dk_181 0 100 (dk_at dksX9_text_0 14 rfl rfl)
theorem dX9_text_17 : decode cX9_text 17 = .ok (.aload_n 0, 1) := dk_42 (dk_at dksX9_text_0 17 rfl rfl)
theorem dX9_text_18 : decode cX9_text 18 = .ok (.invokevirtual 272, 3) := dk_182 1 16 (dk_at dksX9_text_0 18 rfl rfl)
theorem dX9_text_21 : decode cX9_text 21 = .ok (.ireturn, 1) := dk_172 (dk_at dksX9_text_0 21 rfl rfl)
theorem dX9_text_22 : decode cX9_text 22 = .ok (.iload_n 1, 1) := dk_27 (dk_at dksX9_text_0 22 rfl rfl)
theorem dX9_text_23 : decode cX9_text 23 = .ok (.iconst 1, 1) := dk_4 (dk_at dksX9_text_0 23 rfl rfl)
theorem dX9_text_24 : decode cX9_text 24 = .ok (.if_icmp .ne 45, 3) := dk_160 0 45 (dk_at dksX9_text_1 0 rfl rfl)
theorem dX9_text_27 : decode cX9_text 27 = .ok (.aload_n 0, 1) := dk_42 (dk_at dksX9_text_1 3 rfl rfl)
theorem dX9_text_28 : decode cX9_text 28 = .ok (.getfield 275, 3) := dk_180 1 19 (dk_at dksX9_text_1 4 rfl rfl)
theorem dX9_text_31 : decode cX9_text 31 = .ok (.iconst 4, 1) := dk_7 (dk_at dksX9_text_1 7 rfl rfl)
theorem dX9_text_32 : decode cX9_text 32 = .ok (.if_icmp .ge 37, 3) := dk_162 0 37 (dk_at dksX9_text_1 8 rfl rfl)
theorem dX9_text_35 : decode cX9_text 35 = .ok (.aload_n 0, 1) := dk_42 (dk_at dksX9_text_1 11 rfl rfl)
theorem dX9_text_36 : decode cX9_text 36 = .ok (.aload_n 0, 1) := dk_42 (dk_at dksX9_text_1 12 rfl rfl)
theorem dX9_text_37 : decode cX9_text 37 = .ok (.getfield 275, 3) := dk_180 1 19 (dk_at dksX9_text_1 13 rfl rfl)
theorem dX9_text_40 : decode cX9_text 40 = .ok (.invokevirtual 251, 3) := dk_182 0 251 (dk_at dksX9_text_1 16 rfl rfl)
theorem dX9_text_43 : decode cX9_text 43 = .ok (.iconst (-1), 1) := dk_2 (dk_at dksX9_text_1 19 rfl rfl)
theorem dX9_text_44 : decode cX9_text 44 = .ok (.if_icmp .ne 25, 3) := dk_160 0 25 (dk_at dksX9_text_1 20 rfl rfl)
theorem dX9_text_47 : decode cX9_text 47 = .ok (.aload_n 0, 1) := dk_42 (dk_at dksX9_text_1 23 rfl rfl)
theorem dX9_text_48 : decode cX9_text 48 = .ok (.iconst 0, 1) := dk_3 (dk_at dksX9_text_2 0 rfl rfl)
theorem dX9_text_49 : decode cX9_text 49 = .ok (.putfield 100, 3) := dk_181 0 100 (dk_at dksX9_text_2 1 rfl rfl)
theorem dX9_text_52 : decode cX9_text 52 = .ok (.aload_n 0, 1) := dk_42 (dk_at dksX9_text_2 4 rfl rfl)
theorem dX9_text_53 : decode cX9_text 53 = .ok (.dup, 1) := dk_89 (dk_at dksX9_text_2 5 rfl rfl)
theorem dX9_text_54 : decode cX9_text 54 = .ok (.getfield 275, 3) := dk_180 1 19 (dk_at dksX9_text_2 6 rfl rfl)
theorem dX9_text_57 : decode cX9_text 57 = .ok (.iconst 1, 1) := dk_4 (dk_at dksX9_text_2 9 rfl rfl)
theorem dX9_text_58 : decode cX9_text 58 = .ok (.iadd, 1) := dk_96 (dk_at dksX9_text_2 10 rfl rfl)
theorem dX9_text_59 : decode cX9_text 59 = .ok (.putfield 275, 3) := dk_181 1 19 (dk_at dksX9_text_2 11 rfl rfl)
theorem dX9_text_62 : decode cX9_text 62 = .ok (.aload_n 0, 1) := dk_42 (dk_at dksX9_text_2 14 rfl rfl)
theorem dX9_text_63 : decode cX9_text 63 = .ok (.getfield 275, 3) := dk_180 1 19 (dk_at dksX9_text_2 15 rfl rfl)
theorem dX9_text_66 : decode cX9_text 66 = .ok (.iconst 1, 1) := dk_4 (dk_at dksX9_text_2 18 rfl rfl)
theorem dX9_text_67 : decode cX9_text 67 = .ok (.isub, 1) := dk_100 (dk_at dksX9_text_2 19 rfl rfl)
theorem dX9_text_68 : decode cX9_text 68 = .ok (.ireturn, 1) := dk_172 (dk_at dksX9_text_2 20 rfl rfl)
theorem dX9_text_69 : decode cX9_text 69 = .ok (.iconst (-1), 1) := dk_2 (dk_at dksX9_text_2 21 rfl rfl)
theorem dX9_text_70 : decode cX9_text 70 = .ok (.ireturn, 1) := dk_172 (dk_at dksX9_text_2 22 rfl rfl)
def dkwX9_takeTrace_6 : List UInt8 := [167, 255, 209, 42, 3, 181, 1, 10, 42, 3, 181, 1, 13, 42, 182, 1, 1, 172]
abbrev dktX9_takeTrace_6 : List UInt8 := dkwX9_takeTrace_6 ++ []
def dkwX9_takeTrace_5 : List UInt8 := [42, 180, 0, 19, 27, 46, 79, 42, 180, 0, 44, 27, 42, 180, 0, 22, 27, 47, 80, 132, 1, 1]
abbrev dktX9_takeTrace_5 : List UInt8 := dkwX9_takeTrace_5 ++ dktX9_takeTrace_6
def dkwX9_takeTrace_4 : List UInt8 := [42, 180, 1, 7, 162, 0, 45, 42, 180, 0, 38, 27, 42, 180, 0, 16, 27, 46, 79, 42, 180, 0, 41, 27]
abbrev dktX9_takeTrace_4 : List UInt8 := dkwX9_takeTrace_4 ++ dktX9_takeTrace_5
def dkwX9_takeTrace_3 : List UInt8 := [42, 180, 0, 193, 79, 42, 42, 180, 0, 196, 181, 1, 4, 42, 42, 180, 0, 167, 181, 1, 7, 3, 60, 27]
abbrev dktX9_takeTrace_3 : List UInt8 := dkwX9_takeTrace_3 ++ dktX9_takeTrace_4
def dkwX9_takeTrace_2 : List UInt8 := [79, 132, 1, 1, 167, 255, 233, 42, 180, 0, 32, 16, 48, 42, 180, 0, 160, 79, 42, 180, 0, 32, 16, 49]
abbrev dktX9_takeTrace_2 : List UInt8 := dkwX9_takeTrace_2 ++ dktX9_takeTrace_3
def dkwX9_takeTrace_1 : List UInt8 := [167, 255, 239, 3, 60, 27, 42, 180, 0, 160, 162, 0, 21, 42, 180, 0, 32, 27, 42, 180, 0, 13, 27, 46]
abbrev dktX9_takeTrace_1 : List UInt8 := dkwX9_takeTrace_1 ++ dktX9_takeTrace_2
def dkwX9_takeTrace_0 : List UInt8 := [42, 4, 181, 0, 254, 3, 60, 27, 17, 0, 231, 162, 0, 16, 42, 180, 0, 32, 27, 3, 79, 132, 1, 1]
abbrev dktX9_takeTrace_0 : List UInt8 := dkwX9_takeTrace_0 ++ dktX9_takeTrace_1
theorem dksX9_takeTrace_0 : cX9_takeTrace.data.toList.drop 0 = dktX9_takeTrace_0 := by decide +kernel
theorem dksX9_takeTrace_1 : cX9_takeTrace.data.toList.drop 24 = dktX9_takeTrace_1 := dk_seg dksX9_takeTrace_0 24 rfl rfl
theorem dksX9_takeTrace_2 : cX9_takeTrace.data.toList.drop 48 = dktX9_takeTrace_2 := dk_seg dksX9_takeTrace_1 24 rfl rfl
theorem dksX9_takeTrace_3 : cX9_takeTrace.data.toList.drop 72 = dktX9_takeTrace_3 := dk_seg dksX9_takeTrace_2 24 rfl rfl
theorem dksX9_takeTrace_4 : cX9_takeTrace.data.toList.drop 96 = dktX9_takeTrace_4 := dk_seg dksX9_takeTrace_3 24 rfl rfl
theorem dksX9_takeTrace_5 : cX9_takeTrace.data.toList.drop 120 = dktX9_takeTrace_5 := dk_seg dksX9_takeTrace_4 24 rfl rfl
theorem dksX9_takeTrace_6 : cX9_takeTrace.data.toList.drop 142 = dktX9_takeTrace_6 := dk_seg dksX9_takeTrace_5 22 rfl rfl
theorem dX9_takeTrace_0 : decode cX9_takeTrace 0 = .ok (.aload_n 0, 1) := dk_42 (dk_at dksX9_takeTrace_0 0 rfl rfl)
theorem dX9_takeTrace_1 : decode cX9_takeTrace 1 = .ok (.iconst 1, 1) := dk_4 (dk_at dksX9_takeTrace_0 1 rfl rfl)
theorem dX9_takeTrace_2 : decode cX9_takeTrace 2 = .ok (.putfield 254, 3) := dk_181 0 254 (dk_at dksX9_takeTrace_0 2 rfl rfl)
theorem dX9_takeTrace_5 : decode cX9_takeTrace 5 = .ok (.iconst 0, 1) := dk_3 (dk_at dksX9_takeTrace_0 5 rfl rfl)
theorem dX9_takeTrace_6 : decode cX9_takeTrace 6 = .ok (.istore_n 1, 1) := dk_60 (dk_at dksX9_takeTrace_0 6 rfl rfl)
theorem dX9_takeTrace_7 : decode cX9_takeTrace 7 = .ok (.iload_n 1, 1) := dk_27 (dk_at dksX9_takeTrace_0 7 rfl rfl)
theorem dX9_takeTrace_8 : decode cX9_takeTrace 8 = .ok (.sipush 231, 3) := dk_17 0 231 (dk_at dksX9_takeTrace_0 8 rfl rfl)
theorem dX9_takeTrace_11 : decode cX9_takeTrace 11 = .ok (.if_icmp .ge 16, 3) := dk_162 0 16 (dk_at dksX9_takeTrace_0 11 rfl rfl)
theorem dX9_takeTrace_14 : decode cX9_takeTrace 14 = .ok (.aload_n 0, 1) := dk_42 (dk_at dksX9_takeTrace_0 14 rfl rfl)
theorem dX9_takeTrace_15 : decode cX9_takeTrace 15 = .ok (.getfield 32, 3) := dk_180 0 32 (dk_at dksX9_takeTrace_0 15 rfl rfl)
theorem dX9_takeTrace_18 : decode cX9_takeTrace 18 = .ok (.iload_n 1, 1) := dk_27 (dk_at dksX9_takeTrace_0 18 rfl rfl)
theorem dX9_takeTrace_19 : decode cX9_takeTrace 19 = .ok (.iconst 0, 1) := dk_3 (dk_at dksX9_takeTrace_0 19 rfl rfl)
theorem dX9_takeTrace_20 : decode cX9_takeTrace 20 = .ok (.iastore, 1) := dk_79 (dk_at dksX9_takeTrace_0 20 rfl rfl)
theorem dX9_takeTrace_21 : decode cX9_takeTrace 21 = .ok (.iinc 1 1, 3) := dk_132 1 1 (dk_at dksX9_takeTrace_0 21 rfl rfl)
theorem dX9_takeTrace_24 : decode cX9_takeTrace 24 = .ok (.goto (-17), 3) := dk_167 255 239 (dk_at dksX9_takeTrace_1 0 rfl rfl)
theorem dX9_takeTrace_27 : decode cX9_takeTrace 27 = .ok (.iconst 0, 1) := dk_3 (dk_at dksX9_takeTrace_1 3 rfl rfl)
theorem dX9_takeTrace_28 : decode cX9_takeTrace 28 = .ok (.istore_n 1, 1) := dk_60 (dk_at dksX9_takeTrace_1 4 rfl rfl)
theorem dX9_takeTrace_29 : decode cX9_takeTrace 29 = .ok (.iload_n 1, 1) := dk_27 (dk_at dksX9_takeTrace_1 5 rfl rfl)
theorem dX9_takeTrace_30 : decode cX9_takeTrace 30 = .ok (.aload_n 0, 1) := dk_42 (dk_at dksX9_takeTrace_1 6 rfl rfl)
theorem dX9_takeTrace_31 : decode cX9_takeTrace 31 = .ok (.getfield 160, 3) := dk_180 0 160 (dk_at dksX9_takeTrace_1 7 rfl rfl)
theorem dX9_takeTrace_34 : decode cX9_takeTrace 34 = .ok (.if_icmp .ge 21, 3) := dk_162 0 21 (dk_at dksX9_takeTrace_1 10 rfl rfl)
theorem dX9_takeTrace_37 : decode cX9_takeTrace 37 = .ok (.aload_n 0, 1) := dk_42 (dk_at dksX9_takeTrace_1 13 rfl rfl)
theorem dX9_takeTrace_38 : decode cX9_takeTrace 38 = .ok (.getfield 32, 3) := dk_180 0 32 (dk_at dksX9_takeTrace_1 14 rfl rfl)
theorem dX9_takeTrace_41 : decode cX9_takeTrace 41 = .ok (.iload_n 1, 1) := dk_27 (dk_at dksX9_takeTrace_1 17 rfl rfl)
theorem dX9_takeTrace_42 : decode cX9_takeTrace 42 = .ok (.aload_n 0, 1) := dk_42 (dk_at dksX9_takeTrace_1 18 rfl rfl)
theorem dX9_takeTrace_43 : decode cX9_takeTrace 43 = .ok (.getfield 13, 3) := dk_180 0 13 (dk_at dksX9_takeTrace_1 19 rfl rfl)
theorem dX9_takeTrace_46 : decode cX9_takeTrace 46 = .ok (.iload_n 1, 1) := dk_27 (dk_at dksX9_takeTrace_1 22 rfl rfl)
theorem dX9_takeTrace_47 : decode cX9_takeTrace 47 = .ok (.iaload, 1) := dk_46 (dk_at dksX9_takeTrace_1 23 rfl rfl)
theorem dX9_takeTrace_48 : decode cX9_takeTrace 48 = .ok (.iastore, 1) := dk_79 (dk_at dksX9_takeTrace_2 0 rfl rfl)
theorem dX9_takeTrace_49 : decode cX9_takeTrace 49 = .ok (.iinc 1 1, 3) := dk_132 1 1 (dk_at dksX9_takeTrace_2 1 rfl rfl)
theorem dX9_takeTrace_52 : decode cX9_takeTrace 52 = .ok (.goto (-23), 3) := dk_167 255 233 (dk_at dksX9_takeTrace_2 4 rfl rfl)
theorem dX9_takeTrace_55 : decode cX9_takeTrace 55 = .ok (.aload_n 0, 1) := dk_42 (dk_at dksX9_takeTrace_2 7 rfl rfl)
theorem dX9_takeTrace_56 : decode cX9_takeTrace 56 = .ok (.getfield 32, 3) := dk_180 0 32 (dk_at dksX9_takeTrace_2 8 rfl rfl)
theorem dX9_takeTrace_59 : decode cX9_takeTrace 59 = .ok (.bipush 48, 2) := dk_16 48 (dk_at dksX9_takeTrace_2 11 rfl rfl)
theorem dX9_takeTrace_61 : decode cX9_takeTrace 61 = .ok (.aload_n 0, 1) := dk_42 (dk_at dksX9_takeTrace_2 13 rfl rfl)
theorem dX9_takeTrace_62 : decode cX9_takeTrace 62 = .ok (.getfield 160, 3) := dk_180 0 160 (dk_at dksX9_takeTrace_2 14 rfl rfl)
theorem dX9_takeTrace_65 : decode cX9_takeTrace 65 = .ok (.iastore, 1) := dk_79 (dk_at dksX9_takeTrace_2 17 rfl rfl)
theorem dX9_takeTrace_66 : decode cX9_takeTrace 66 = .ok (.aload_n 0, 1) := dk_42 (dk_at dksX9_takeTrace_2 18 rfl rfl)
theorem dX9_takeTrace_67 : decode cX9_takeTrace 67 = .ok (.getfield 32, 3) := dk_180 0 32 (dk_at dksX9_takeTrace_2 19 rfl rfl)
theorem dX9_takeTrace_70 : decode cX9_takeTrace 70 = .ok (.bipush 49, 2) := dk_16 49 (dk_at dksX9_takeTrace_2 22 rfl rfl)
theorem dX9_takeTrace_72 : decode cX9_takeTrace 72 = .ok (.aload_n 0, 1) := dk_42 (dk_at dksX9_takeTrace_3 0 rfl rfl)
theorem dX9_takeTrace_73 : decode cX9_takeTrace 73 = .ok (.getfield 193, 3) := dk_180 0 193 (dk_at dksX9_takeTrace_3 1 rfl rfl)
theorem dX9_takeTrace_76 : decode cX9_takeTrace 76 = .ok (.iastore, 1) := dk_79 (dk_at dksX9_takeTrace_3 4 rfl rfl)
theorem dX9_takeTrace_77 : decode cX9_takeTrace 77 = .ok (.aload_n 0, 1) := dk_42 (dk_at dksX9_takeTrace_3 5 rfl rfl)
theorem dX9_takeTrace_78 : decode cX9_takeTrace 78 = .ok (.aload_n 0, 1) := dk_42 (dk_at dksX9_takeTrace_3 6 rfl rfl)
theorem dX9_takeTrace_79 : decode cX9_takeTrace 79 = .ok (.getfield 196, 3) := dk_180 0 196 (dk_at dksX9_takeTrace_3 7 rfl rfl)
theorem dX9_takeTrace_82 : decode cX9_takeTrace 82 = .ok (.putfield 260, 3) := dk_181 1 4 (dk_at dksX9_takeTrace_3 10 rfl rfl)
theorem dX9_takeTrace_85 : decode cX9_takeTrace 85 = .ok (.aload_n 0, 1) := dk_42 (dk_at dksX9_takeTrace_3 13 rfl rfl)
theorem dX9_takeTrace_86 : decode cX9_takeTrace 86 = .ok (.aload_n 0, 1) := dk_42 (dk_at dksX9_takeTrace_3 14 rfl rfl)
theorem dX9_takeTrace_87 : decode cX9_takeTrace 87 = .ok (.getfield 167, 3) := dk_180 0 167 (dk_at dksX9_takeTrace_3 15 rfl rfl)
theorem dX9_takeTrace_90 : decode cX9_takeTrace 90 = .ok (.putfield 263, 3) := dk_181 1 7 (dk_at dksX9_takeTrace_3 18 rfl rfl)
theorem dX9_takeTrace_93 : decode cX9_takeTrace 93 = .ok (.iconst 0, 1) := dk_3 (dk_at dksX9_takeTrace_3 21 rfl rfl)
theorem dX9_takeTrace_94 : decode cX9_takeTrace 94 = .ok (.istore_n 1, 1) := dk_60 (dk_at dksX9_takeTrace_3 22 rfl rfl)
theorem dX9_takeTrace_95 : decode cX9_takeTrace 95 = .ok (.iload_n 1, 1) := dk_27 (dk_at dksX9_takeTrace_3 23 rfl rfl)
theorem dX9_takeTrace_96 : decode cX9_takeTrace 96 = .ok (.aload_n 0, 1) := dk_42 (dk_at dksX9_takeTrace_4 0 rfl rfl)
theorem dX9_takeTrace_97 : decode cX9_takeTrace 97 = .ok (.getfield 263, 3) := dk_180 1 7 (dk_at dksX9_takeTrace_4 1 rfl rfl)
theorem dX9_takeTrace_100 : decode cX9_takeTrace 100 = .ok (.if_icmp .ge 45, 3) := dk_162 0 45 (dk_at dksX9_takeTrace_4 4 rfl rfl)
theorem dX9_takeTrace_103 : decode cX9_takeTrace 103 = .ok (.aload_n 0, 1) := dk_42 (dk_at dksX9_takeTrace_4 7 rfl rfl)
theorem dX9_takeTrace_104 : decode cX9_takeTrace 104 = .ok (.getfield 38, 3) := dk_180 0 38 (dk_at dksX9_takeTrace_4 8 rfl rfl)
theorem dX9_takeTrace_107 : decode cX9_takeTrace 107 = .ok (.iload_n 1, 1) := dk_27 (dk_at dksX9_takeTrace_4 11 rfl rfl)
theorem dX9_takeTrace_108 : decode cX9_takeTrace 108 = .ok (.aload_n 0, 1) := dk_42 (dk_at dksX9_takeTrace_4 12 rfl rfl)
theorem dX9_takeTrace_109 : decode cX9_takeTrace 109 = .ok (.getfield 16, 3) := dk_180 0 16 (dk_at dksX9_takeTrace_4 13 rfl rfl)
theorem dX9_takeTrace_112 : decode cX9_takeTrace 112 = .ok (.iload_n 1, 1) := dk_27 (dk_at dksX9_takeTrace_4 16 rfl rfl)
theorem dX9_takeTrace_113 : decode cX9_takeTrace 113 = .ok (.iaload, 1) := dk_46 (dk_at dksX9_takeTrace_4 17 rfl rfl)
theorem dX9_takeTrace_114 : decode cX9_takeTrace 114 = .ok (.iastore, 1) := dk_79 (dk_at dksX9_takeTrace_4 18 rfl rfl)
theorem dX9_takeTrace_115 : decode cX9_takeTrace 115 = .ok (.aload_n 0, 1) := dk_42 (dk_at dksX9_takeTrace_4 19 rfl rfl)
theorem dX9_takeTrace_116 : decode cX9_takeTrace 116 = .ok (.getfield 41, 3) := dk_180 0 41 (dk_at dksX9_takeTrace_4 20 rfl rfl)
theorem dX9_takeTrace_119 : decode cX9_takeTrace 119 = .ok (.iload_n 1, 1) := dk_27 (dk_at dksX9_takeTrace_4 23 rfl rfl)
theorem dX9_takeTrace_120 : decode cX9_takeTrace 120 = .ok (.aload_n 0, 1) := dk_42 (dk_at dksX9_takeTrace_5 0 rfl rfl)
theorem dX9_takeTrace_121 : decode cX9_takeTrace 121 = .ok (.getfield 19, 3) := dk_180 0 19 (dk_at dksX9_takeTrace_5 1 rfl rfl)
theorem dX9_takeTrace_124 : decode cX9_takeTrace 124 = .ok (.iload_n 1, 1) := dk_27 (dk_at dksX9_takeTrace_5 4 rfl rfl)
theorem dX9_takeTrace_125 : decode cX9_takeTrace 125 = .ok (.iaload, 1) := dk_46 (dk_at dksX9_takeTrace_5 5 rfl rfl)
theorem dX9_takeTrace_126 : decode cX9_takeTrace 126 = .ok (.iastore, 1) := dk_79 (dk_at dksX9_takeTrace_5 6 rfl rfl)
theorem dX9_takeTrace_127 : decode cX9_takeTrace 127 = .ok (.aload_n 0, 1) := dk_42 (dk_at dksX9_takeTrace_5 7 rfl rfl)
theorem dX9_takeTrace_128 : decode cX9_takeTrace 128 = .ok (.getfield 44, 3) := dk_180 0 44 (dk_at dksX9_takeTrace_5 8 rfl rfl)
theorem dX9_takeTrace_131 : decode cX9_takeTrace 131 = .ok (.iload_n 1, 1) := dk_27 (dk_at dksX9_takeTrace_5 11 rfl rfl)
theorem dX9_takeTrace_132 : decode cX9_takeTrace 132 = .ok (.aload_n 0, 1) := dk_42 (dk_at dksX9_takeTrace_5 12 rfl rfl)
theorem dX9_takeTrace_133 : decode cX9_takeTrace 133 = .ok (.getfield 22, 3) := dk_180 0 22 (dk_at dksX9_takeTrace_5 13 rfl rfl)
theorem dX9_takeTrace_136 : decode cX9_takeTrace 136 = .ok (.iload_n 1, 1) := dk_27 (dk_at dksX9_takeTrace_5 16 rfl rfl)
theorem dX9_takeTrace_137 : decode cX9_takeTrace 137 = .ok (.laload, 1) := dk_47 (dk_at dksX9_takeTrace_5 17 rfl rfl)
theorem dX9_takeTrace_138 : decode cX9_takeTrace 138 = .ok (.lastore, 1) := dk_80 (dk_at dksX9_takeTrace_5 18 rfl rfl)
theorem dX9_takeTrace_139 : decode cX9_takeTrace 139 = .ok (.iinc 1 1, 3) := dk_132 1 1 (dk_at dksX9_takeTrace_5 19 rfl rfl)
theorem dX9_takeTrace_142 : decode cX9_takeTrace 142 = .ok (.goto (-47), 3) := dk_167 255 209 (dk_at dksX9_takeTrace_6 0 rfl rfl)
theorem dX9_takeTrace_145 : decode cX9_takeTrace 145 = .ok (.aload_n 0, 1) := dk_42 (dk_at dksX9_takeTrace_6 3 rfl rfl)
theorem dX9_takeTrace_146 : decode cX9_takeTrace 146 = .ok (.iconst 0, 1) := dk_3 (dk_at dksX9_takeTrace_6 4 rfl rfl)
theorem dX9_takeTrace_147 : decode cX9_takeTrace 147 = .ok (.putfield 266, 3) := dk_181 1 10 (dk_at dksX9_takeTrace_6 5 rfl rfl)
theorem dX9_takeTrace_150 : decode cX9_takeTrace 150 = .ok (.aload_n 0, 1) := dk_42 (dk_at dksX9_takeTrace_6 8 rfl rfl)
theorem dX9_takeTrace_151 : decode cX9_takeTrace 151 = .ok (.iconst 0, 1) := dk_3 (dk_at dksX9_takeTrace_6 9 rfl rfl)
theorem dX9_takeTrace_152 : decode cX9_takeTrace 152 = .ok (.putfield 269, 3) := dk_181 1 13 (dk_at dksX9_takeTrace_6 10 rfl rfl)
theorem dX9_takeTrace_155 : decode cX9_takeTrace 155 = .ok (.aload_n 0, 1) := dk_42 (dk_at dksX9_takeTrace_6 13 rfl rfl)
theorem dX9_takeTrace_156 : decode cX9_takeTrace 156 = .ok (.invokevirtual 257, 3) := dk_182 1 1 (dk_at dksX9_takeTrace_6 14 rfl rfl)
theorem dX9_takeTrace_159 : decode cX9_takeTrace 159 = .ok (.ireturn, 1) := dk_172 (dk_at dksX9_takeTrace_6 17 rfl rfl)
def dkwX9_many_0 : List UInt8 := [42, 180, 0, 32, 16, 48, 46, 172]
abbrev dktX9_many_0 : List UInt8 := dkwX9_many_0 ++ []
theorem dksX9_many_0 : cX9_many.data.toList.drop 0 = dktX9_many_0 := by decide +kernel
theorem dX9_many_0 : decode cX9_many 0 = .ok (.aload_n 0, 1) := dk_42 (dk_at dksX9_many_0 0 rfl rfl)
theorem dX9_many_1 : decode cX9_many 1 = .ok (.getfield 32, 3) := dk_180 0 32 (dk_at dksX9_many_0 1 rfl rfl)
theorem dX9_many_4 : decode cX9_many 4 = .ok (.bipush 48, 2) := dk_16 48 (dk_at dksX9_many_0 4 rfl rfl)
theorem dX9_many_6 : decode cX9_many 6 = .ok (.iaload, 1) := dk_46 (dk_at dksX9_many_0 6 rfl rfl)
theorem dX9_many_7 : decode cX9_many 7 = .ok (.ireturn, 1) := dk_172 (dk_at dksX9_many_0 7 rfl rfl)
def dkwX9_smooth_0 : List UInt8 := [42, 3, 3, 3, 182, 1, 157, 172]
abbrev dktX9_smooth_0 : List UInt8 := dkwX9_smooth_0 ++ []
theorem dksX9_smooth_0 : cX9_smooth.data.toList.drop 0 = dktX9_smooth_0 := by decide +kernel
theorem dX9_smooth_0 : decode cX9_smooth 0 = .ok (.aload_n 0, 1) := dk_42 (dk_at dksX9_smooth_0 0 rfl rfl)
theorem dX9_smooth_1 : decode cX9_smooth 1 = .ok (.iconst 0, 1) := dk_3 (dk_at dksX9_smooth_0 1 rfl rfl)
theorem dX9_smooth_2 : decode cX9_smooth 2 = .ok (.iconst 0, 1) := dk_3 (dk_at dksX9_smooth_0 2 rfl rfl)
theorem dX9_smooth_3 : decode cX9_smooth 3 = .ok (.iconst 0, 1) := dk_3 (dk_at dksX9_smooth_0 3 rfl rfl)
theorem dX9_smooth_4 : decode cX9_smooth 4 = .ok (.invokevirtual 413, 3) := dk_182 1 157 (dk_at dksX9_smooth_0 4 rfl rfl)
theorem dX9_smooth_7 : decode cX9_smooth 7 = .ok (.ireturn, 1) := dk_172 (dk_at dksX9_smooth_0 7 rfl rfl)
def dkwX9_hand_1 : List UInt8 := [96, 79, 2, 172, 42, 27, 28, 29, 182, 1, 154, 172]
abbrev dktX9_hand_1 : List UInt8 := dkwX9_hand_1 ++ []
def dkwX9_hand_0 : List UInt8 := [42, 27, 28, 29, 182, 1, 151, 54, 4, 21, 4, 2, 159, 0, 16, 42, 180, 0, 35, 21, 4, 92, 46, 4]
abbrev dktX9_hand_0 : List UInt8 := dkwX9_hand_0 ++ dktX9_hand_1
theorem dksX9_hand_0 : cX9_hand.data.toList.drop 0 = dktX9_hand_0 := by decide +kernel
theorem dksX9_hand_1 : cX9_hand.data.toList.drop 24 = dktX9_hand_1 := dk_seg dksX9_hand_0 24 rfl rfl
theorem dX9_hand_0 : decode cX9_hand 0 = .ok (.aload_n 0, 1) := dk_42 (dk_at dksX9_hand_0 0 rfl rfl)
theorem dX9_hand_1 : decode cX9_hand 1 = .ok (.iload_n 1, 1) := dk_27 (dk_at dksX9_hand_0 1 rfl rfl)
theorem dX9_hand_2 : decode cX9_hand 2 = .ok (.iload_n 2, 1) := dk_28 (dk_at dksX9_hand_0 2 rfl rfl)
theorem dX9_hand_3 : decode cX9_hand 3 = .ok (.iload_n 3, 1) := dk_29 (dk_at dksX9_hand_0 3 rfl rfl)
theorem dX9_hand_4 : decode cX9_hand 4 = .ok (.invokevirtual 407, 3) := dk_182 1 151 (dk_at dksX9_hand_0 4 rfl rfl)
theorem dX9_hand_7 : decode cX9_hand 7 = .ok (.istore 4, 2) := dk_54 4 (dk_at dksX9_hand_0 7 rfl rfl)
theorem dX9_hand_9 : decode cX9_hand 9 = .ok (.iload 4, 2) := dk_21 4 (dk_at dksX9_hand_0 9 rfl rfl)
theorem dX9_hand_11 : decode cX9_hand 11 = .ok (.iconst (-1), 1) := dk_2 (dk_at dksX9_hand_0 11 rfl rfl)
theorem dX9_hand_12 : decode cX9_hand 12 = .ok (.if_icmp .eq 16, 3) := dk_159 0 16 (dk_at dksX9_hand_0 12 rfl rfl)
theorem dX9_hand_15 : decode cX9_hand 15 = .ok (.aload_n 0, 1) := dk_42 (dk_at dksX9_hand_0 15 rfl rfl)
theorem dX9_hand_16 : decode cX9_hand 16 = .ok (.getfield 35, 3) := dk_180 0 35 (dk_at dksX9_hand_0 16 rfl rfl)
theorem dX9_hand_19 : decode cX9_hand 19 = .ok (.iload 4, 2) := dk_21 4 (dk_at dksX9_hand_0 19 rfl rfl)
theorem dX9_hand_21 : decode cX9_hand 21 = .ok (.dup2, 1) := dk_92 (dk_at dksX9_hand_0 21 rfl rfl)
theorem dX9_hand_22 : decode cX9_hand 22 = .ok (.iaload, 1) := dk_46 (dk_at dksX9_hand_0 22 rfl rfl)
theorem dX9_hand_23 : decode cX9_hand 23 = .ok (.iconst 1, 1) := dk_4 (dk_at dksX9_hand_0 23 rfl rfl)
theorem dX9_hand_24 : decode cX9_hand 24 = .ok (.iadd, 1) := dk_96 (dk_at dksX9_hand_1 0 rfl rfl)
theorem dX9_hand_25 : decode cX9_hand 25 = .ok (.iastore, 1) := dk_79 (dk_at dksX9_hand_1 1 rfl rfl)
theorem dX9_hand_26 : decode cX9_hand 26 = .ok (.iconst (-1), 1) := dk_2 (dk_at dksX9_hand_1 2 rfl rfl)
theorem dX9_hand_27 : decode cX9_hand 27 = .ok (.ireturn, 1) := dk_172 (dk_at dksX9_hand_1 3 rfl rfl)
theorem dX9_hand_28 : decode cX9_hand 28 = .ok (.aload_n 0, 1) := dk_42 (dk_at dksX9_hand_1 4 rfl rfl)
theorem dX9_hand_29 : decode cX9_hand 29 = .ok (.iload_n 1, 1) := dk_27 (dk_at dksX9_hand_1 5 rfl rfl)
theorem dX9_hand_30 : decode cX9_hand 30 = .ok (.iload_n 2, 1) := dk_28 (dk_at dksX9_hand_1 6 rfl rfl)
theorem dX9_hand_31 : decode cX9_hand 31 = .ok (.iload_n 3, 1) := dk_29 (dk_at dksX9_hand_1 7 rfl rfl)
theorem dX9_hand_32 : decode cX9_hand 32 = .ok (.invokevirtual 410, 3) := dk_182 1 154 (dk_at dksX9_hand_1 8 rfl rfl)
theorem dX9_hand_35 : decode cX9_hand 35 = .ok (.ireturn, 1) := dk_172 (dk_at dksX9_hand_1 11 rfl rfl)
def dkwX9_whyNot_7 : List UInt8 := [2, 167, 0, 4, 4, 172, 2, 172]
abbrev dktX9_whyNot_7 : List UInt8 := dkwX9_whyNot_7 ++ []
def dkwX9_whyNot_6 : List UInt8 := [182, 1, 110, 154, 0, 7, 3, 167, 0, 22, 29, 4, 42, 182, 1, 1, 28, 100, 184, 0, 103, 153, 0, 7]
abbrev dktX9_whyNot_6 : List UInt8 := dkwX9_whyNot_6 ++ dktX9_whyNot_7
def dkwX9_whyNot_5 : List UInt8 := [167, 0, 19, 29, 3, 17, 3, 231, 184, 0, 103, 153, 0, 7, 2, 167, 0, 4, 4, 172, 42, 28]
abbrev dktX9_whyNot_5 : List UInt8 := dkwX9_whyNot_5 ++ dktX9_whyNot_6
def dkwX9_whyNot_4 : List UInt8 := [16, 99, 184, 0, 103, 153, 0, 7, 2, 167, 0, 4, 4, 172, 42, 28, 182, 1, 110, 154, 0, 7, 3]
abbrev dktX9_whyNot_4 : List UInt8 := dkwX9_whyNot_4 ++ dktX9_whyNot_5
def dkwX9_whyNot_3 : List UInt8 := [184, 0, 103, 153, 0, 7, 2, 167, 0, 4, 4, 172, 28, 3, 16, 99, 184, 0, 103, 153, 0, 17, 29, 4]
abbrev dktX9_whyNot_3 : List UInt8 := dkwX9_whyNot_3 ++ dktX9_whyNot_4
def dkwX9_whyNot_2 : List UInt8 := [28, 3, 17, 3, 231, 184, 0, 103, 153, 0, 7, 2, 167, 0, 4, 4, 172, 28, 17, 252, 25, 17, 3, 231]
abbrev dktX9_whyNot_2 : List UInt8 := dkwX9_whyNot_2 ++ dktX9_whyNot_3
def dkwX9_whyNot_1 : List UInt8 := [170, 0, 0, 0, 0, 161, 0, 0, 0, 4, 0, 0, 0, 9, 0, 0, 0, 38, 0, 0, 0, 55, 0, 0, 0, 74, 0, 0, 0, 100, 0, 0, 0, 38, 0, 0, 0, 129]
abbrev dktX9_whyNot_1 : List UInt8 := dkwX9_whyNot_1 ++ dktX9_whyNot_2
def dkwX9_whyNot_0 : List UInt8 := [42, 180, 0, 254, 154, 0, 5, 3, 172, 27]
abbrev dktX9_whyNot_0 : List UInt8 := dkwX9_whyNot_0 ++ dktX9_whyNot_1
theorem dksX9_whyNot_0 : cX9_whyNot.data.toList.drop 0 = dktX9_whyNot_0 := by decide +kernel
theorem dksX9_whyNot_1 : cX9_whyNot.data.toList.drop 10 = dktX9_whyNot_1 := dk_seg dksX9_whyNot_0 10 rfl rfl
theorem dksX9_whyNot_2 : cX9_whyNot.data.toList.drop 48 = dktX9_whyNot_2 := dk_seg dksX9_whyNot_1 38 rfl rfl
theorem dksX9_whyNot_3 : cX9_whyNot.data.toList.drop 72 = dktX9_whyNot_3 := dk_seg dksX9_whyNot_2 24 rfl rfl
theorem dksX9_whyNot_4 : cX9_whyNot.data.toList.drop 96 = dktX9_whyNot_4 := dk_seg dksX9_whyNot_3 24 rfl rfl
theorem dksX9_whyNot_5 : cX9_whyNot.data.toList.drop 119 = dktX9_whyNot_5 := dk_seg dksX9_whyNot_4 23 rfl rfl
theorem dksX9_whyNot_6 : cX9_whyNot.data.toList.drop 141 = dktX9_whyNot_6 := dk_seg dksX9_whyNot_5 22 rfl rfl
theorem dksX9_whyNot_7 : cX9_whyNot.data.toList.drop 165 = dktX9_whyNot_7 := dk_seg dksX9_whyNot_6 24 rfl rfl
theorem dX9_whyNot_0 : decode cX9_whyNot 0 = .ok (.aload_n 0, 1) := dk_42 (dk_at dksX9_whyNot_0 0 rfl rfl)
theorem dX9_whyNot_1 : decode cX9_whyNot 1 = .ok (.getfield 254, 3) := dk_180 0 254 (dk_at dksX9_whyNot_0 1 rfl rfl)
theorem dX9_whyNot_4 : decode cX9_whyNot 4 = .ok (.ifCond .ne 5, 3) := dk_154 0 5 (dk_at dksX9_whyNot_0 4 rfl rfl)
theorem dX9_whyNot_7 : decode cX9_whyNot 7 = .ok (.iconst 0, 1) := dk_3 (dk_at dksX9_whyNot_0 7 rfl rfl)
theorem dX9_whyNot_8 : decode cX9_whyNot 8 = .ok (.ireturn, 1) := dk_172 (dk_at dksX9_whyNot_0 8 rfl rfl)
theorem dX9_whyNot_9 : decode cX9_whyNot 9 = .ok (.iload_n 1, 1) := dk_27 (dk_at dksX9_whyNot_0 9 rfl rfl)
theorem dX9_whyNot_10 : decode cX9_whyNot 10 = .ok (.tableswitch 161 4 9 #[38, 55, 74, 100, 38, 129], 38) := by decide +kernel
theorem dX9_whyNot_48 : decode cX9_whyNot 48 = .ok (.iload_n 2, 1) := dk_28 (dk_at dksX9_whyNot_2 0 rfl rfl)
theorem dX9_whyNot_49 : decode cX9_whyNot 49 = .ok (.iconst 0, 1) := dk_3 (dk_at dksX9_whyNot_2 1 rfl rfl)
theorem dX9_whyNot_50 : decode cX9_whyNot 50 = .ok (.sipush 999, 3) := dk_17 3 231 (dk_at dksX9_whyNot_2 2 rfl rfl)
theorem dX9_whyNot_53 : decode cX9_whyNot 53 = .ok (.invokestatic 103, 3) := dk_184 0 103 (dk_at dksX9_whyNot_2 5 rfl rfl)
theorem dX9_whyNot_56 : decode cX9_whyNot 56 = .ok (.ifCond .eq 7, 3) := dk_153 0 7 (dk_at dksX9_whyNot_2 8 rfl rfl)
theorem dX9_whyNot_59 : decode cX9_whyNot 59 = .ok (.iconst (-1), 1) := dk_2 (dk_at dksX9_whyNot_2 11 rfl rfl)
theorem dX9_whyNot_60 : decode cX9_whyNot 60 = .ok (.goto 4, 3) := dk_167 0 4 (dk_at dksX9_whyNot_2 12 rfl rfl)
theorem dX9_whyNot_63 : decode cX9_whyNot 63 = .ok (.iconst 1, 1) := dk_4 (dk_at dksX9_whyNot_2 15 rfl rfl)
theorem dX9_whyNot_64 : decode cX9_whyNot 64 = .ok (.ireturn, 1) := dk_172 (dk_at dksX9_whyNot_2 16 rfl rfl)
theorem dX9_whyNot_65 : decode cX9_whyNot 65 = .ok (.iload_n 2, 1) := dk_28 (dk_at dksX9_whyNot_2 17 rfl rfl)
theorem dX9_whyNot_66 : decode cX9_whyNot 66 = .ok (.sipush (-999), 3) := dk_17 252 25 (dk_at dksX9_whyNot_2 18 rfl rfl)
theorem dX9_whyNot_69 : decode cX9_whyNot 69 = .ok (.sipush 999, 3) := dk_17 3 231 (dk_at dksX9_whyNot_2 21 rfl rfl)
theorem dX9_whyNot_72 : decode cX9_whyNot 72 = .ok (.invokestatic 103, 3) := dk_184 0 103 (dk_at dksX9_whyNot_3 0 rfl rfl)
theorem dX9_whyNot_75 : decode cX9_whyNot 75 = .ok (.ifCond .eq 7, 3) := dk_153 0 7 (dk_at dksX9_whyNot_3 3 rfl rfl)
theorem dX9_whyNot_78 : decode cX9_whyNot 78 = .ok (.iconst (-1), 1) := dk_2 (dk_at dksX9_whyNot_3 6 rfl rfl)
theorem dX9_whyNot_79 : decode cX9_whyNot 79 = .ok (.goto 4, 3) := dk_167 0 4 (dk_at dksX9_whyNot_3 7 rfl rfl)
theorem dX9_whyNot_82 : decode cX9_whyNot 82 = .ok (.iconst 1, 1) := dk_4 (dk_at dksX9_whyNot_3 10 rfl rfl)
theorem dX9_whyNot_83 : decode cX9_whyNot 83 = .ok (.ireturn, 1) := dk_172 (dk_at dksX9_whyNot_3 11 rfl rfl)
theorem dX9_whyNot_84 : decode cX9_whyNot 84 = .ok (.iload_n 2, 1) := dk_28 (dk_at dksX9_whyNot_3 12 rfl rfl)
theorem dX9_whyNot_85 : decode cX9_whyNot 85 = .ok (.iconst 0, 1) := dk_3 (dk_at dksX9_whyNot_3 13 rfl rfl)
theorem dX9_whyNot_86 : decode cX9_whyNot 86 = .ok (.bipush 99, 2) := dk_16 99 (dk_at dksX9_whyNot_3 14 rfl rfl)
theorem dX9_whyNot_88 : decode cX9_whyNot 88 = .ok (.invokestatic 103, 3) := dk_184 0 103 (dk_at dksX9_whyNot_3 16 rfl rfl)
theorem dX9_whyNot_91 : decode cX9_whyNot 91 = .ok (.ifCond .eq 17, 3) := dk_153 0 17 (dk_at dksX9_whyNot_3 19 rfl rfl)
theorem dX9_whyNot_94 : decode cX9_whyNot 94 = .ok (.iload_n 3, 1) := dk_29 (dk_at dksX9_whyNot_3 22 rfl rfl)
theorem dX9_whyNot_95 : decode cX9_whyNot 95 = .ok (.iconst 1, 1) := dk_4 (dk_at dksX9_whyNot_3 23 rfl rfl)
theorem dX9_whyNot_96 : decode cX9_whyNot 96 = .ok (.bipush 99, 2) := dk_16 99 (dk_at dksX9_whyNot_4 0 rfl rfl)
theorem dX9_whyNot_98 : decode cX9_whyNot 98 = .ok (.invokestatic 103, 3) := dk_184 0 103 (dk_at dksX9_whyNot_4 2 rfl rfl)
theorem dX9_whyNot_101 : decode cX9_whyNot 101 = .ok (.ifCond .eq 7, 3) := dk_153 0 7 (dk_at dksX9_whyNot_4 5 rfl rfl)
theorem dX9_whyNot_104 : decode cX9_whyNot 104 = .ok (.iconst (-1), 1) := dk_2 (dk_at dksX9_whyNot_4 8 rfl rfl)
theorem dX9_whyNot_105 : decode cX9_whyNot 105 = .ok (.goto 4, 3) := dk_167 0 4 (dk_at dksX9_whyNot_4 9 rfl rfl)
theorem dX9_whyNot_108 : decode cX9_whyNot 108 = .ok (.iconst 1, 1) := dk_4 (dk_at dksX9_whyNot_4 12 rfl rfl)
theorem dX9_whyNot_109 : decode cX9_whyNot 109 = .ok (.ireturn, 1) := dk_172 (dk_at dksX9_whyNot_4 13 rfl rfl)
theorem dX9_whyNot_110 : decode cX9_whyNot 110 = .ok (.aload_n 0, 1) := dk_42 (dk_at dksX9_whyNot_4 14 rfl rfl)
theorem dX9_whyNot_111 : decode cX9_whyNot 111 = .ok (.iload_n 2, 1) := dk_28 (dk_at dksX9_whyNot_4 15 rfl rfl)
theorem dX9_whyNot_112 : decode cX9_whyNot 112 = .ok (.invokevirtual 366, 3) := dk_182 1 110 (dk_at dksX9_whyNot_4 16 rfl rfl)
theorem dX9_whyNot_115 : decode cX9_whyNot 115 = .ok (.ifCond .ne 7, 3) := dk_154 0 7 (dk_at dksX9_whyNot_4 19 rfl rfl)
theorem dX9_whyNot_118 : decode cX9_whyNot 118 = .ok (.iconst 0, 1) := dk_3 (dk_at dksX9_whyNot_4 22 rfl rfl)
theorem dX9_whyNot_119 : decode cX9_whyNot 119 = .ok (.goto 19, 3) := dk_167 0 19 (dk_at dksX9_whyNot_5 0 rfl rfl)
theorem dX9_whyNot_122 : decode cX9_whyNot 122 = .ok (.iload_n 3, 1) := dk_29 (dk_at dksX9_whyNot_5 3 rfl rfl)
theorem dX9_whyNot_123 : decode cX9_whyNot 123 = .ok (.iconst 0, 1) := dk_3 (dk_at dksX9_whyNot_5 4 rfl rfl)
theorem dX9_whyNot_124 : decode cX9_whyNot 124 = .ok (.sipush 999, 3) := dk_17 3 231 (dk_at dksX9_whyNot_5 5 rfl rfl)
theorem dX9_whyNot_127 : decode cX9_whyNot 127 = .ok (.invokestatic 103, 3) := dk_184 0 103 (dk_at dksX9_whyNot_5 8 rfl rfl)
theorem dX9_whyNot_130 : decode cX9_whyNot 130 = .ok (.ifCond .eq 7, 3) := dk_153 0 7 (dk_at dksX9_whyNot_5 11 rfl rfl)
theorem dX9_whyNot_133 : decode cX9_whyNot 133 = .ok (.iconst (-1), 1) := dk_2 (dk_at dksX9_whyNot_5 14 rfl rfl)
theorem dX9_whyNot_134 : decode cX9_whyNot 134 = .ok (.goto 4, 3) := dk_167 0 4 (dk_at dksX9_whyNot_5 15 rfl rfl)
theorem dX9_whyNot_137 : decode cX9_whyNot 137 = .ok (.iconst 1, 1) := dk_4 (dk_at dksX9_whyNot_5 18 rfl rfl)
theorem dX9_whyNot_138 : decode cX9_whyNot 138 = .ok (.ireturn, 1) := dk_172 (dk_at dksX9_whyNot_5 19 rfl rfl)
theorem dX9_whyNot_139 : decode cX9_whyNot 139 = .ok (.aload_n 0, 1) := dk_42 (dk_at dksX9_whyNot_5 20 rfl rfl)
theorem dX9_whyNot_140 : decode cX9_whyNot 140 = .ok (.iload_n 2, 1) := dk_28 (dk_at dksX9_whyNot_5 21 rfl rfl)
theorem dX9_whyNot_141 : decode cX9_whyNot 141 = .ok (.invokevirtual 366, 3) := dk_182 1 110 (dk_at dksX9_whyNot_6 0 rfl rfl)
theorem dX9_whyNot_144 : decode cX9_whyNot 144 = .ok (.ifCond .ne 7, 3) := dk_154 0 7 (dk_at dksX9_whyNot_6 3 rfl rfl)
theorem dX9_whyNot_147 : decode cX9_whyNot 147 = .ok (.iconst 0, 1) := dk_3 (dk_at dksX9_whyNot_6 6 rfl rfl)
theorem dX9_whyNot_148 : decode cX9_whyNot 148 = .ok (.goto 22, 3) := dk_167 0 22 (dk_at dksX9_whyNot_6 7 rfl rfl)
theorem dX9_whyNot_151 : decode cX9_whyNot 151 = .ok (.iload_n 3, 1) := dk_29 (dk_at dksX9_whyNot_6 10 rfl rfl)
theorem dX9_whyNot_152 : decode cX9_whyNot 152 = .ok (.iconst 1, 1) := dk_4 (dk_at dksX9_whyNot_6 11 rfl rfl)
theorem dX9_whyNot_153 : decode cX9_whyNot 153 = .ok (.aload_n 0, 1) := dk_42 (dk_at dksX9_whyNot_6 12 rfl rfl)
theorem dX9_whyNot_154 : decode cX9_whyNot 154 = .ok (.invokevirtual 257, 3) := dk_182 1 1 (dk_at dksX9_whyNot_6 13 rfl rfl)
theorem dX9_whyNot_157 : decode cX9_whyNot 157 = .ok (.iload_n 2, 1) := dk_28 (dk_at dksX9_whyNot_6 16 rfl rfl)
theorem dX9_whyNot_158 : decode cX9_whyNot 158 = .ok (.isub, 1) := dk_100 (dk_at dksX9_whyNot_6 17 rfl rfl)
theorem dX9_whyNot_159 : decode cX9_whyNot 159 = .ok (.invokestatic 103, 3) := dk_184 0 103 (dk_at dksX9_whyNot_6 18 rfl rfl)
theorem dX9_whyNot_162 : decode cX9_whyNot 162 = .ok (.ifCond .eq 7, 3) := dk_153 0 7 (dk_at dksX9_whyNot_6 21 rfl rfl)
theorem dX9_whyNot_165 : decode cX9_whyNot 165 = .ok (.iconst (-1), 1) := dk_2 (dk_at dksX9_whyNot_7 0 rfl rfl)
theorem dX9_whyNot_166 : decode cX9_whyNot 166 = .ok (.goto 4, 3) := dk_167 0 4 (dk_at dksX9_whyNot_7 1 rfl rfl)
theorem dX9_whyNot_169 : decode cX9_whyNot 169 = .ok (.iconst 1, 1) := dk_4 (dk_at dksX9_whyNot_7 4 rfl rfl)
theorem dX9_whyNot_170 : decode cX9_whyNot 170 = .ok (.ireturn, 1) := dk_172 (dk_at dksX9_whyNot_7 5 rfl rfl)
theorem dX9_whyNot_171 : decode cX9_whyNot 171 = .ok (.iconst (-1), 1) := dk_2 (dk_at dksX9_whyNot_7 6 rfl rfl)
theorem dX9_whyNot_172 : decode cX9_whyNot 172 = .ok (.ireturn, 1) := dk_172 (dk_at dksX9_whyNot_7 7 rfl rfl)
def dkwX9_isPlace_1 : List UInt8 := [167, 0, 4, 3, 172]
abbrev dktX9_isPlace_1 : List UInt8 := dkwX9_isPlace_1 ++ []
def dkwX9_isPlace_0 : List UInt8 := [42, 180, 0, 254, 153, 0, 21, 27, 3, 42, 182, 1, 1, 4, 100, 184, 0, 103, 153, 0, 7, 4]
abbrev dktX9_isPlace_0 : List UInt8 := dkwX9_isPlace_0 ++ dktX9_isPlace_1
theorem dksX9_isPlace_0 : cX9_isPlace.data.toList.drop 0 = dktX9_isPlace_0 := by decide +kernel
theorem dksX9_isPlace_1 : cX9_isPlace.data.toList.drop 22 = dktX9_isPlace_1 := dk_seg dksX9_isPlace_0 22 rfl rfl
theorem dX9_isPlace_0 : decode cX9_isPlace 0 = .ok (.aload_n 0, 1) := dk_42 (dk_at dksX9_isPlace_0 0 rfl rfl)
theorem dX9_isPlace_1 : decode cX9_isPlace 1 = .ok (.getfield 254, 3) := dk_180 0 254 (dk_at dksX9_isPlace_0 1 rfl rfl)
theorem dX9_isPlace_4 : decode cX9_isPlace 4 = .ok (.ifCond .eq 21, 3) := dk_153 0 21 (dk_at dksX9_isPlace_0 4 rfl rfl)
theorem dX9_isPlace_7 : decode cX9_isPlace 7 = .ok (.iload_n 1, 1) := dk_27 (dk_at dksX9_isPlace_0 7 rfl rfl)
theorem dX9_isPlace_8 : decode cX9_isPlace 8 = .ok (.iconst 0, 1) := dk_3 (dk_at dksX9_isPlace_0 8 rfl rfl)
theorem dX9_isPlace_9 : decode cX9_isPlace 9 = .ok (.aload_n 0, 1) := dk_42 (dk_at dksX9_isPlace_0 9 rfl rfl)
theorem dX9_isPlace_10 : decode cX9_isPlace 10 = .ok (.invokevirtual 257, 3) := dk_182 1 1 (dk_at dksX9_isPlace_0 10 rfl rfl)
theorem dX9_isPlace_13 : decode cX9_isPlace 13 = .ok (.iconst 1, 1) := dk_4 (dk_at dksX9_isPlace_0 13 rfl rfl)
theorem dX9_isPlace_14 : decode cX9_isPlace 14 = .ok (.isub, 1) := dk_100 (dk_at dksX9_isPlace_0 14 rfl rfl)
theorem dX9_isPlace_15 : decode cX9_isPlace 15 = .ok (.invokestatic 103, 3) := dk_184 0 103 (dk_at dksX9_isPlace_0 15 rfl rfl)
theorem dX9_isPlace_18 : decode cX9_isPlace 18 = .ok (.ifCond .eq 7, 3) := dk_153 0 7 (dk_at dksX9_isPlace_0 18 rfl rfl)
theorem dX9_isPlace_21 : decode cX9_isPlace 21 = .ok (.iconst 1, 1) := dk_4 (dk_at dksX9_isPlace_0 21 rfl rfl)
theorem dX9_isPlace_22 : decode cX9_isPlace 22 = .ok (.goto 4, 3) := dk_167 0 4 (dk_at dksX9_isPlace_1 0 rfl rfl)
theorem dX9_isPlace_25 : decode cX9_isPlace 25 = .ok (.iconst 0, 1) := dk_3 (dk_at dksX9_isPlace_1 3 rfl rfl)
theorem dX9_isPlace_26 : decode cX9_isPlace 26 = .ok (.ireturn, 1) := dk_172 (dk_at dksX9_isPlace_1 4 rfl rfl)
def dkwX9_act_1 : List UInt8 := [28, 182, 1, 147, 21, 4, 172]
abbrev dktX9_act_1 : List UInt8 := dkwX9_act_1 ++ []
def dkwX9_act_0 : List UInt8 := [42, 182, 1, 141, 42, 27, 28, 29, 182, 1, 144, 54, 4, 42, 27, 27, 6, 163, 0, 7, 3, 167, 0, 4]
abbrev dktX9_act_0 : List UInt8 := dkwX9_act_0 ++ dktX9_act_1
theorem dksX9_act_0 : cX9_act.data.toList.drop 0 = dktX9_act_0 := by decide +kernel
theorem dksX9_act_1 : cX9_act.data.toList.drop 24 = dktX9_act_1 := dk_seg dksX9_act_0 24 rfl rfl
theorem dX9_act_0 : decode cX9_act 0 = .ok (.aload_n 0, 1) := dk_42 (dk_at dksX9_act_0 0 rfl rfl)
theorem dX9_act_1 : decode cX9_act 1 = .ok (.invokevirtual 397, 3) := dk_182 1 141 (dk_at dksX9_act_0 1 rfl rfl)
theorem dX9_act_4 : decode cX9_act 4 = .ok (.aload_n 0, 1) := dk_42 (dk_at dksX9_act_0 4 rfl rfl)
theorem dX9_act_5 : decode cX9_act 5 = .ok (.iload_n 1, 1) := dk_27 (dk_at dksX9_act_0 5 rfl rfl)
theorem dX9_act_6 : decode cX9_act 6 = .ok (.iload_n 2, 1) := dk_28 (dk_at dksX9_act_0 6 rfl rfl)
theorem dX9_act_7 : decode cX9_act 7 = .ok (.iload_n 3, 1) := dk_29 (dk_at dksX9_act_0 7 rfl rfl)
theorem dX9_act_8 : decode cX9_act 8 = .ok (.invokevirtual 400, 3) := dk_182 1 144 (dk_at dksX9_act_0 8 rfl rfl)
theorem dX9_act_11 : decode cX9_act 11 = .ok (.istore 4, 2) := dk_54 4 (dk_at dksX9_act_0 11 rfl rfl)
theorem dX9_act_13 : decode cX9_act 13 = .ok (.aload_n 0, 1) := dk_42 (dk_at dksX9_act_0 13 rfl rfl)
theorem dX9_act_14 : decode cX9_act 14 = .ok (.iload_n 1, 1) := dk_27 (dk_at dksX9_act_0 14 rfl rfl)
theorem dX9_act_15 : decode cX9_act 15 = .ok (.iload_n 1, 1) := dk_27 (dk_at dksX9_act_0 15 rfl rfl)
theorem dX9_act_16 : decode cX9_act 16 = .ok (.iconst 3, 1) := dk_6 (dk_at dksX9_act_0 16 rfl rfl)
theorem dX9_act_17 : decode cX9_act 17 = .ok (.if_icmp .gt 7, 3) := dk_163 0 7 (dk_at dksX9_act_0 17 rfl rfl)
theorem dX9_act_20 : decode cX9_act 20 = .ok (.iconst 0, 1) := dk_3 (dk_at dksX9_act_0 20 rfl rfl)
theorem dX9_act_21 : decode cX9_act 21 = .ok (.goto 4, 3) := dk_167 0 4 (dk_at dksX9_act_0 21 rfl rfl)
theorem dX9_act_24 : decode cX9_act 24 = .ok (.iload_n 2, 1) := dk_28 (dk_at dksX9_act_1 0 rfl rfl)
theorem dX9_act_25 : decode cX9_act 25 = .ok (.invokevirtual 403, 3) := dk_182 1 147 (dk_at dksX9_act_1 1 rfl rfl)
theorem dX9_act_28 : decode cX9_act 28 = .ok (.iload 4, 2) := dk_21 4 (dk_at dksX9_act_1 4 rfl rfl)
theorem dX9_act_30 : decode cX9_act 30 = .ok (.ireturn, 1) := dk_172 (dk_at dksX9_act_1 6 rfl rfl)
def dkwX9_keep_4 : List UInt8 := [181, 1, 10, 177]
abbrev dktX9_keep_4 : List UInt8 := dkwX9_keep_4 ++ []
def dkwX9_keep_3 : List UInt8 := [104, 27, 96, 42, 180, 0, 32, 27, 46, 79, 132, 1, 1, 167, 255, 225, 42, 89, 180, 1, 10, 4, 96]
abbrev dktX9_keep_3 : List UInt8 := dkwX9_keep_3 ++ dktX9_keep_4
def dkwX9_keep_2 : List UInt8 := [100, 181, 1, 10, 3, 60, 27, 17, 0, 231, 162, 0, 30, 42, 180, 0, 77, 17, 0, 231, 42, 180, 1, 10]
abbrev dktX9_keep_2 : List UInt8 := dkwX9_keep_2 ++ dktX9_keep_3
def dkwX9_keep_1 : List UInt8 := [27, 17, 0, 231, 100, 42, 180, 0, 77, 27, 46, 79, 132, 1, 1, 167, 255, 230, 42, 89, 180, 1, 10, 4]
abbrev dktX9_keep_1 : List UInt8 := dkwX9_keep_1 ++ dktX9_keep_2
def dkwX9_keep_0 : List UInt8 := [42, 180, 1, 10, 16, 40, 160, 0, 46, 17, 0, 231, 60, 27, 17, 36, 24, 162, 0, 25, 42, 180, 0, 77]
abbrev dktX9_keep_0 : List UInt8 := dkwX9_keep_0 ++ dktX9_keep_1
theorem dksX9_keep_0 : cX9_keep.data.toList.drop 0 = dktX9_keep_0 := by decide +kernel
theorem dksX9_keep_1 : cX9_keep.data.toList.drop 24 = dktX9_keep_1 := dk_seg dksX9_keep_0 24 rfl rfl
theorem dksX9_keep_2 : cX9_keep.data.toList.drop 48 = dktX9_keep_2 := dk_seg dksX9_keep_1 24 rfl rfl
theorem dksX9_keep_3 : cX9_keep.data.toList.drop 72 = dktX9_keep_3 := dk_seg dksX9_keep_2 24 rfl rfl
theorem dksX9_keep_4 : cX9_keep.data.toList.drop 95 = dktX9_keep_4 := dk_seg dksX9_keep_3 23 rfl rfl
theorem dX9_keep_0 : decode cX9_keep 0 = .ok (.aload_n 0, 1) := dk_42 (dk_at dksX9_keep_0 0 rfl rfl)
theorem dX9_keep_1 : decode cX9_keep 1 = .ok (.getfield 266, 3) := dk_180 1 10 (dk_at dksX9_keep_0 1 rfl rfl)
theorem dX9_keep_4 : decode cX9_keep 4 = .ok (.bipush 40, 2) := dk_16 40 (dk_at dksX9_keep_0 4 rfl rfl)
theorem dX9_keep_6 : decode cX9_keep 6 = .ok (.if_icmp .ne 46, 3) := dk_160 0 46 (dk_at dksX9_keep_0 6 rfl rfl)
theorem dX9_keep_9 : decode cX9_keep 9 = .ok (.sipush 231, 3) := dk_17 0 231 (dk_at dksX9_keep_0 9 rfl rfl)
theorem dX9_keep_12 : decode cX9_keep 12 = .ok (.istore_n 1, 1) := dk_60 (dk_at dksX9_keep_0 12 rfl rfl)
theorem dX9_keep_13 : decode cX9_keep 13 = .ok (.iload_n 1, 1) := dk_27 (dk_at dksX9_keep_0 13 rfl rfl)
theorem dX9_keep_14 : decode cX9_keep 14 = .ok (.sipush 9240, 3) := dk_17 36 24 (dk_at dksX9_keep_0 14 rfl rfl)
theorem dX9_keep_17 : decode cX9_keep 17 = .ok (.if_icmp .ge 25, 3) := dk_162 0 25 (dk_at dksX9_keep_0 17 rfl rfl)
theorem dX9_keep_20 : decode cX9_keep 20 = .ok (.aload_n 0, 1) := dk_42 (dk_at dksX9_keep_0 20 rfl rfl)
theorem dX9_keep_21 : decode cX9_keep 21 = .ok (.getfield 77, 3) := dk_180 0 77 (dk_at dksX9_keep_0 21 rfl rfl)
theorem dX9_keep_24 : decode cX9_keep 24 = .ok (.iload_n 1, 1) := dk_27 (dk_at dksX9_keep_1 0 rfl rfl)
theorem dX9_keep_25 : decode cX9_keep 25 = .ok (.sipush 231, 3) := dk_17 0 231 (dk_at dksX9_keep_1 1 rfl rfl)
theorem dX9_keep_28 : decode cX9_keep 28 = .ok (.isub, 1) := dk_100 (dk_at dksX9_keep_1 4 rfl rfl)
theorem dX9_keep_29 : decode cX9_keep 29 = .ok (.aload_n 0, 1) := dk_42 (dk_at dksX9_keep_1 5 rfl rfl)
theorem dX9_keep_30 : decode cX9_keep 30 = .ok (.getfield 77, 3) := dk_180 0 77 (dk_at dksX9_keep_1 6 rfl rfl)
theorem dX9_keep_33 : decode cX9_keep 33 = .ok (.iload_n 1, 1) := dk_27 (dk_at dksX9_keep_1 9 rfl rfl)
theorem dX9_keep_34 : decode cX9_keep 34 = .ok (.iaload, 1) := dk_46 (dk_at dksX9_keep_1 10 rfl rfl)
theorem dX9_keep_35 : decode cX9_keep 35 = .ok (.iastore, 1) := dk_79 (dk_at dksX9_keep_1 11 rfl rfl)
theorem dX9_keep_36 : decode cX9_keep 36 = .ok (.iinc 1 1, 3) := dk_132 1 1 (dk_at dksX9_keep_1 12 rfl rfl)
theorem dX9_keep_39 : decode cX9_keep 39 = .ok (.goto (-26), 3) := dk_167 255 230 (dk_at dksX9_keep_1 15 rfl rfl)
theorem dX9_keep_42 : decode cX9_keep 42 = .ok (.aload_n 0, 1) := dk_42 (dk_at dksX9_keep_1 18 rfl rfl)
theorem dX9_keep_43 : decode cX9_keep 43 = .ok (.dup, 1) := dk_89 (dk_at dksX9_keep_1 19 rfl rfl)
theorem dX9_keep_44 : decode cX9_keep 44 = .ok (.getfield 266, 3) := dk_180 1 10 (dk_at dksX9_keep_1 20 rfl rfl)
theorem dX9_keep_47 : decode cX9_keep 47 = .ok (.iconst 1, 1) := dk_4 (dk_at dksX9_keep_1 23 rfl rfl)
theorem dX9_keep_48 : decode cX9_keep 48 = .ok (.isub, 1) := dk_100 (dk_at dksX9_keep_2 0 rfl rfl)
theorem dX9_keep_49 : decode cX9_keep 49 = .ok (.putfield 266, 3) := dk_181 1 10 (dk_at dksX9_keep_2 1 rfl rfl)
theorem dX9_keep_52 : decode cX9_keep 52 = .ok (.iconst 0, 1) := dk_3 (dk_at dksX9_keep_2 4 rfl rfl)
theorem dX9_keep_53 : decode cX9_keep 53 = .ok (.istore_n 1, 1) := dk_60 (dk_at dksX9_keep_2 5 rfl rfl)
theorem dX9_keep_54 : decode cX9_keep 54 = .ok (.iload_n 1, 1) := dk_27 (dk_at dksX9_keep_2 6 rfl rfl)
theorem dX9_keep_55 : decode cX9_keep 55 = .ok (.sipush 231, 3) := dk_17 0 231 (dk_at dksX9_keep_2 7 rfl rfl)
theorem dX9_keep_58 : decode cX9_keep 58 = .ok (.if_icmp .ge 30, 3) := dk_162 0 30 (dk_at dksX9_keep_2 10 rfl rfl)
theorem dX9_keep_61 : decode cX9_keep 61 = .ok (.aload_n 0, 1) := dk_42 (dk_at dksX9_keep_2 13 rfl rfl)
theorem dX9_keep_62 : decode cX9_keep 62 = .ok (.getfield 77, 3) := dk_180 0 77 (dk_at dksX9_keep_2 14 rfl rfl)
theorem dX9_keep_65 : decode cX9_keep 65 = .ok (.sipush 231, 3) := dk_17 0 231 (dk_at dksX9_keep_2 17 rfl rfl)
theorem dX9_keep_68 : decode cX9_keep 68 = .ok (.aload_n 0, 1) := dk_42 (dk_at dksX9_keep_2 20 rfl rfl)
theorem dX9_keep_69 : decode cX9_keep 69 = .ok (.getfield 266, 3) := dk_180 1 10 (dk_at dksX9_keep_2 21 rfl rfl)
theorem dX9_keep_72 : decode cX9_keep 72 = .ok (.imul, 1) := dk_104 (dk_at dksX9_keep_3 0 rfl rfl)
theorem dX9_keep_73 : decode cX9_keep 73 = .ok (.iload_n 1, 1) := dk_27 (dk_at dksX9_keep_3 1 rfl rfl)
theorem dX9_keep_74 : decode cX9_keep 74 = .ok (.iadd, 1) := dk_96 (dk_at dksX9_keep_3 2 rfl rfl)
theorem dX9_keep_75 : decode cX9_keep 75 = .ok (.aload_n 0, 1) := dk_42 (dk_at dksX9_keep_3 3 rfl rfl)
theorem dX9_keep_76 : decode cX9_keep 76 = .ok (.getfield 32, 3) := dk_180 0 32 (dk_at dksX9_keep_3 4 rfl rfl)
theorem dX9_keep_79 : decode cX9_keep 79 = .ok (.iload_n 1, 1) := dk_27 (dk_at dksX9_keep_3 7 rfl rfl)
theorem dX9_keep_80 : decode cX9_keep 80 = .ok (.iaload, 1) := dk_46 (dk_at dksX9_keep_3 8 rfl rfl)
theorem dX9_keep_81 : decode cX9_keep 81 = .ok (.iastore, 1) := dk_79 (dk_at dksX9_keep_3 9 rfl rfl)
theorem dX9_keep_82 : decode cX9_keep 82 = .ok (.iinc 1 1, 3) := dk_132 1 1 (dk_at dksX9_keep_3 10 rfl rfl)
theorem dX9_keep_85 : decode cX9_keep 85 = .ok (.goto (-31), 3) := dk_167 255 225 (dk_at dksX9_keep_3 13 rfl rfl)
theorem dX9_keep_88 : decode cX9_keep 88 = .ok (.aload_n 0, 1) := dk_42 (dk_at dksX9_keep_3 16 rfl rfl)
theorem dX9_keep_89 : decode cX9_keep 89 = .ok (.dup, 1) := dk_89 (dk_at dksX9_keep_3 17 rfl rfl)
theorem dX9_keep_90 : decode cX9_keep 90 = .ok (.getfield 266, 3) := dk_180 1 10 (dk_at dksX9_keep_3 18 rfl rfl)
theorem dX9_keep_93 : decode cX9_keep 93 = .ok (.iconst 1, 1) := dk_4 (dk_at dksX9_keep_3 21 rfl rfl)
theorem dX9_keep_94 : decode cX9_keep 94 = .ok (.iadd, 1) := dk_96 (dk_at dksX9_keep_3 22 rfl rfl)
theorem dX9_keep_95 : decode cX9_keep 95 = .ok (.putfield 266, 3) := dk_181 1 10 (dk_at dksX9_keep_4 0 rfl rfl)
theorem dX9_keep_98 : decode cX9_keep 98 = .ok (.return_, 1) := dk_177 (dk_at dksX9_keep_4 3 rfl rfl)
def dkwX9_doNow_5 : List UInt8 := [79, 21, 4, 172, 42, 28, 29, 182, 1, 138, 172]
abbrev dktX9_doNow_5 : List UInt8 := dkwX9_doNow_5 ++ []
def dkwX9_doNow_4 : List UInt8 := [172, 42, 28, 29, 182, 1, 135, 172, 42, 180, 0, 32, 16, 49, 46, 54, 4, 42, 180, 0, 32, 16, 49, 28]
abbrev dktX9_doNow_4 : List UInt8 := dkwX9_doNow_4 ++ dktX9_doNow_5
def dkwX9_doNow_3 : List UInt8 := [172, 42, 182, 1, 123, 172, 42, 28, 182, 1, 126, 172, 42, 28, 182, 1, 129, 172, 42, 28, 29, 182, 1, 132]
abbrev dktX9_doNow_3 : List UInt8 := dkwX9_doNow_3 ++ dktX9_doNow_4
def dkwX9_doNow_2 : List UInt8 := [42, 3, 182, 1, 113, 42, 182, 1, 117, 172, 42, 4, 182, 1, 113, 42, 182, 1, 117, 172, 42, 182, 1, 120]
abbrev dktX9_doNow_2 : List UInt8 := dkwX9_doNow_2 ++ dktX9_doNow_3
def dkwX9_doNow_1 : List UInt8 := [170, 0, 0, 0, 0, 0, 0, 128, 0, 0, 0, 0, 0, 0, 0, 8, 0, 0, 0, 52, 0, 0, 0, 62, 0, 0, 0, 72, 0, 0, 0, 77, 0, 0, 0, 82, 0, 0, 0, 88, 0, 0, 0, 94, 0, 0, 0, 101, 0, 0, 0, 108]
abbrev dktX9_doNow_1 : List UInt8 := dkwX9_doNow_1 ++ dktX9_doNow_2
def dkwX9_doNow_0 : List UInt8 := [3, 54, 4, 27]
abbrev dktX9_doNow_0 : List UInt8 := dkwX9_doNow_0 ++ dktX9_doNow_1
theorem dksX9_doNow_0 : cX9_doNow.data.toList.drop 0 = dktX9_doNow_0 := by decide +kernel
theorem dksX9_doNow_1 : cX9_doNow.data.toList.drop 4 = dktX9_doNow_1 := dk_seg dksX9_doNow_0 4 rfl rfl
theorem dksX9_doNow_2 : cX9_doNow.data.toList.drop 56 = dktX9_doNow_2 := dk_seg dksX9_doNow_1 52 rfl rfl
theorem dksX9_doNow_3 : cX9_doNow.data.toList.drop 80 = dktX9_doNow_3 := dk_seg dksX9_doNow_2 24 rfl rfl
theorem dksX9_doNow_4 : cX9_doNow.data.toList.drop 104 = dktX9_doNow_4 := dk_seg dksX9_doNow_3 24 rfl rfl
theorem dksX9_doNow_5 : cX9_doNow.data.toList.drop 128 = dktX9_doNow_5 := dk_seg dksX9_doNow_4 24 rfl rfl
theorem dX9_doNow_0 : decode cX9_doNow 0 = .ok (.iconst 0, 1) := dk_3 (dk_at dksX9_doNow_0 0 rfl rfl)
theorem dX9_doNow_1 : decode cX9_doNow 1 = .ok (.istore 4, 2) := dk_54 4 (dk_at dksX9_doNow_0 1 rfl rfl)
theorem dX9_doNow_3 : decode cX9_doNow 3 = .ok (.iload_n 1, 1) := dk_27 (dk_at dksX9_doNow_0 3 rfl rfl)
theorem dX9_doNow_4 : decode cX9_doNow 4 = .ok (.tableswitch 128 0 8 #[52, 62, 72, 77, 82, 88, 94, 101, 108], 52) := by decide +kernel
theorem dX9_doNow_56 : decode cX9_doNow 56 = .ok (.aload_n 0, 1) := dk_42 (dk_at dksX9_doNow_2 0 rfl rfl)
theorem dX9_doNow_57 : decode cX9_doNow 57 = .ok (.iconst 0, 1) := dk_3 (dk_at dksX9_doNow_2 1 rfl rfl)
theorem dX9_doNow_58 : decode cX9_doNow 58 = .ok (.invokevirtual 369, 3) := dk_182 1 113 (dk_at dksX9_doNow_2 2 rfl rfl)
theorem dX9_doNow_61 : decode cX9_doNow 61 = .ok (.aload_n 0, 1) := dk_42 (dk_at dksX9_doNow_2 5 rfl rfl)
theorem dX9_doNow_62 : decode cX9_doNow 62 = .ok (.invokevirtual 373, 3) := dk_182 1 117 (dk_at dksX9_doNow_2 6 rfl rfl)
theorem dX9_doNow_65 : decode cX9_doNow 65 = .ok (.ireturn, 1) := dk_172 (dk_at dksX9_doNow_2 9 rfl rfl)
theorem dX9_doNow_66 : decode cX9_doNow 66 = .ok (.aload_n 0, 1) := dk_42 (dk_at dksX9_doNow_2 10 rfl rfl)
theorem dX9_doNow_67 : decode cX9_doNow 67 = .ok (.iconst 1, 1) := dk_4 (dk_at dksX9_doNow_2 11 rfl rfl)
theorem dX9_doNow_68 : decode cX9_doNow 68 = .ok (.invokevirtual 369, 3) := dk_182 1 113 (dk_at dksX9_doNow_2 12 rfl rfl)
theorem dX9_doNow_71 : decode cX9_doNow 71 = .ok (.aload_n 0, 1) := dk_42 (dk_at dksX9_doNow_2 15 rfl rfl)
theorem dX9_doNow_72 : decode cX9_doNow 72 = .ok (.invokevirtual 373, 3) := dk_182 1 117 (dk_at dksX9_doNow_2 16 rfl rfl)
theorem dX9_doNow_75 : decode cX9_doNow 75 = .ok (.ireturn, 1) := dk_172 (dk_at dksX9_doNow_2 19 rfl rfl)
theorem dX9_doNow_76 : decode cX9_doNow 76 = .ok (.aload_n 0, 1) := dk_42 (dk_at dksX9_doNow_2 20 rfl rfl)
theorem dX9_doNow_77 : decode cX9_doNow 77 = .ok (.invokevirtual 376, 3) := dk_182 1 120 (dk_at dksX9_doNow_2 21 rfl rfl)
theorem dX9_doNow_80 : decode cX9_doNow 80 = .ok (.ireturn, 1) := dk_172 (dk_at dksX9_doNow_3 0 rfl rfl)
theorem dX9_doNow_81 : decode cX9_doNow 81 = .ok (.aload_n 0, 1) := dk_42 (dk_at dksX9_doNow_3 1 rfl rfl)
theorem dX9_doNow_82 : decode cX9_doNow 82 = .ok (.invokevirtual 379, 3) := dk_182 1 123 (dk_at dksX9_doNow_3 2 rfl rfl)
theorem dX9_doNow_85 : decode cX9_doNow 85 = .ok (.ireturn, 1) := dk_172 (dk_at dksX9_doNow_3 5 rfl rfl)
theorem dX9_doNow_86 : decode cX9_doNow 86 = .ok (.aload_n 0, 1) := dk_42 (dk_at dksX9_doNow_3 6 rfl rfl)
theorem dX9_doNow_87 : decode cX9_doNow 87 = .ok (.iload_n 2, 1) := dk_28 (dk_at dksX9_doNow_3 7 rfl rfl)
theorem dX9_doNow_88 : decode cX9_doNow 88 = .ok (.invokevirtual 382, 3) := dk_182 1 126 (dk_at dksX9_doNow_3 8 rfl rfl)
theorem dX9_doNow_91 : decode cX9_doNow 91 = .ok (.ireturn, 1) := dk_172 (dk_at dksX9_doNow_3 11 rfl rfl)
theorem dX9_doNow_92 : decode cX9_doNow 92 = .ok (.aload_n 0, 1) := dk_42 (dk_at dksX9_doNow_3 12 rfl rfl)
theorem dX9_doNow_93 : decode cX9_doNow 93 = .ok (.iload_n 2, 1) := dk_28 (dk_at dksX9_doNow_3 13 rfl rfl)
theorem dX9_doNow_94 : decode cX9_doNow 94 = .ok (.invokevirtual 385, 3) := dk_182 1 129 (dk_at dksX9_doNow_3 14 rfl rfl)
theorem dX9_doNow_97 : decode cX9_doNow 97 = .ok (.ireturn, 1) := dk_172 (dk_at dksX9_doNow_3 17 rfl rfl)
theorem dX9_doNow_98 : decode cX9_doNow 98 = .ok (.aload_n 0, 1) := dk_42 (dk_at dksX9_doNow_3 18 rfl rfl)
theorem dX9_doNow_99 : decode cX9_doNow 99 = .ok (.iload_n 2, 1) := dk_28 (dk_at dksX9_doNow_3 19 rfl rfl)
theorem dX9_doNow_100 : decode cX9_doNow 100 = .ok (.iload_n 3, 1) := dk_29 (dk_at dksX9_doNow_3 20 rfl rfl)
theorem dX9_doNow_101 : decode cX9_doNow 101 = .ok (.invokevirtual 388, 3) := dk_182 1 132 (dk_at dksX9_doNow_3 21 rfl rfl)
theorem dX9_doNow_104 : decode cX9_doNow 104 = .ok (.ireturn, 1) := dk_172 (dk_at dksX9_doNow_4 0 rfl rfl)
theorem dX9_doNow_105 : decode cX9_doNow 105 = .ok (.aload_n 0, 1) := dk_42 (dk_at dksX9_doNow_4 1 rfl rfl)
theorem dX9_doNow_106 : decode cX9_doNow 106 = .ok (.iload_n 2, 1) := dk_28 (dk_at dksX9_doNow_4 2 rfl rfl)
theorem dX9_doNow_107 : decode cX9_doNow 107 = .ok (.iload_n 3, 1) := dk_29 (dk_at dksX9_doNow_4 3 rfl rfl)
theorem dX9_doNow_108 : decode cX9_doNow 108 = .ok (.invokevirtual 391, 3) := dk_182 1 135 (dk_at dksX9_doNow_4 4 rfl rfl)
theorem dX9_doNow_111 : decode cX9_doNow 111 = .ok (.ireturn, 1) := dk_172 (dk_at dksX9_doNow_4 7 rfl rfl)
theorem dX9_doNow_112 : decode cX9_doNow 112 = .ok (.aload_n 0, 1) := dk_42 (dk_at dksX9_doNow_4 8 rfl rfl)
theorem dX9_doNow_113 : decode cX9_doNow 113 = .ok (.getfield 32, 3) := dk_180 0 32 (dk_at dksX9_doNow_4 9 rfl rfl)
theorem dX9_doNow_116 : decode cX9_doNow 116 = .ok (.bipush 49, 2) := dk_16 49 (dk_at dksX9_doNow_4 12 rfl rfl)
theorem dX9_doNow_118 : decode cX9_doNow 118 = .ok (.iaload, 1) := dk_46 (dk_at dksX9_doNow_4 14 rfl rfl)
theorem dX9_doNow_119 : decode cX9_doNow 119 = .ok (.istore 4, 2) := dk_54 4 (dk_at dksX9_doNow_4 15 rfl rfl)
theorem dX9_doNow_121 : decode cX9_doNow 121 = .ok (.aload_n 0, 1) := dk_42 (dk_at dksX9_doNow_4 17 rfl rfl)
theorem dX9_doNow_122 : decode cX9_doNow 122 = .ok (.getfield 32, 3) := dk_180 0 32 (dk_at dksX9_doNow_4 18 rfl rfl)
theorem dX9_doNow_125 : decode cX9_doNow 125 = .ok (.bipush 49, 2) := dk_16 49 (dk_at dksX9_doNow_4 21 rfl rfl)
theorem dX9_doNow_127 : decode cX9_doNow 127 = .ok (.iload_n 2, 1) := dk_28 (dk_at dksX9_doNow_4 23 rfl rfl)
theorem dX9_doNow_128 : decode cX9_doNow 128 = .ok (.iastore, 1) := dk_79 (dk_at dksX9_doNow_5 0 rfl rfl)
theorem dX9_doNow_129 : decode cX9_doNow 129 = .ok (.iload 4, 2) := dk_21 4 (dk_at dksX9_doNow_5 1 rfl rfl)
theorem dX9_doNow_131 : decode cX9_doNow 131 = .ok (.ireturn, 1) := dk_172 (dk_at dksX9_doNow_5 3 rfl rfl)
theorem dX9_doNow_132 : decode cX9_doNow 132 = .ok (.aload_n 0, 1) := dk_42 (dk_at dksX9_doNow_5 4 rfl rfl)
theorem dX9_doNow_133 : decode cX9_doNow 133 = .ok (.iload_n 2, 1) := dk_28 (dk_at dksX9_doNow_5 5 rfl rfl)
theorem dX9_doNow_134 : decode cX9_doNow 134 = .ok (.iload_n 3, 1) := dk_29 (dk_at dksX9_doNow_5 6 rfl rfl)
theorem dX9_doNow_135 : decode cX9_doNow 135 = .ok (.invokevirtual 394, 3) := dk_182 1 138 (dk_at dksX9_doNow_5 7 rfl rfl)
theorem dX9_doNow_138 : decode cX9_doNow 138 = .ok (.ireturn, 1) := dk_172 (dk_at dksX9_doNow_5 10 rfl rfl)
def dkwX9_blends_3 : List UInt8 := [29, 5, 42, 180, 0, 74, 28, 46, 104, 96, 21, 4, 96, 7, 108, 79, 132, 2, 1, 167, 255, 173, 177]
abbrev dktX9_blends_3 : List UInt8 := dkwX9_blends_3 ++ []
def dkwX9_blends_2 : List UInt8 := [42, 180, 0, 32, 28, 27, 153, 0, 18, 29, 42, 180, 0, 74, 28, 46, 21, 4, 184, 1, 97, 167, 0, 18]
abbrev dktX9_blends_2 : List UInt8 := dkwX9_blends_2 ++ dktX9_blends_3
def dkwX9_blends_1 : List UInt8 := [184, 1, 33, 46, 62, 42, 180, 0, 74, 42, 182, 1, 1, 4, 100, 28, 4, 96, 184, 1, 28, 46, 54, 4]
abbrev dktX9_blends_1 : List UInt8 := dkwX9_blends_1 ++ dktX9_blends_2
def dkwX9_blends_0 : List UInt8 := [42, 182, 1, 94, 3, 61, 28, 42, 182, 1, 1, 162, 0, 81, 42, 180, 0, 74, 3, 28, 4, 100]
abbrev dktX9_blends_0 : List UInt8 := dkwX9_blends_0 ++ dktX9_blends_1
theorem dksX9_blends_0 : cX9_blends.data.toList.drop 0 = dktX9_blends_0 := by decide +kernel
theorem dksX9_blends_1 : cX9_blends.data.toList.drop 22 = dktX9_blends_1 := dk_seg dksX9_blends_0 22 rfl rfl
theorem dksX9_blends_2 : cX9_blends.data.toList.drop 46 = dktX9_blends_2 := dk_seg dksX9_blends_1 24 rfl rfl
theorem dksX9_blends_3 : cX9_blends.data.toList.drop 70 = dktX9_blends_3 := dk_seg dksX9_blends_2 24 rfl rfl
theorem dX9_blends_0 : decode cX9_blends 0 = .ok (.aload_n 0, 1) := dk_42 (dk_at dksX9_blends_0 0 rfl rfl)
theorem dX9_blends_1 : decode cX9_blends 1 = .ok (.invokevirtual 350, 3) := dk_182 1 94 (dk_at dksX9_blends_0 1 rfl rfl)
theorem dX9_blends_4 : decode cX9_blends 4 = .ok (.iconst 0, 1) := dk_3 (dk_at dksX9_blends_0 4 rfl rfl)
theorem dX9_blends_5 : decode cX9_blends 5 = .ok (.istore_n 2, 1) := dk_61 (dk_at dksX9_blends_0 5 rfl rfl)
theorem dX9_blends_6 : decode cX9_blends 6 = .ok (.iload_n 2, 1) := dk_28 (dk_at dksX9_blends_0 6 rfl rfl)
theorem dX9_blends_7 : decode cX9_blends 7 = .ok (.aload_n 0, 1) := dk_42 (dk_at dksX9_blends_0 7 rfl rfl)
theorem dX9_blends_8 : decode cX9_blends 8 = .ok (.invokevirtual 257, 3) := dk_182 1 1 (dk_at dksX9_blends_0 8 rfl rfl)
theorem dX9_blends_11 : decode cX9_blends 11 = .ok (.if_icmp .ge 81, 3) := dk_162 0 81 (dk_at dksX9_blends_0 11 rfl rfl)
theorem dX9_blends_14 : decode cX9_blends 14 = .ok (.aload_n 0, 1) := dk_42 (dk_at dksX9_blends_0 14 rfl rfl)
theorem dX9_blends_15 : decode cX9_blends 15 = .ok (.getfield 74, 3) := dk_180 0 74 (dk_at dksX9_blends_0 15 rfl rfl)
theorem dX9_blends_18 : decode cX9_blends 18 = .ok (.iconst 0, 1) := dk_3 (dk_at dksX9_blends_0 18 rfl rfl)
theorem dX9_blends_19 : decode cX9_blends 19 = .ok (.iload_n 2, 1) := dk_28 (dk_at dksX9_blends_0 19 rfl rfl)
theorem dX9_blends_20 : decode cX9_blends 20 = .ok (.iconst 1, 1) := dk_4 (dk_at dksX9_blends_0 20 rfl rfl)
theorem dX9_blends_21 : decode cX9_blends 21 = .ok (.isub, 1) := dk_100 (dk_at dksX9_blends_0 21 rfl rfl)
theorem dX9_blends_22 : decode cX9_blends 22 = .ok (.invokestatic 289, 3) := dk_184 1 33 (dk_at dksX9_blends_1 0 rfl rfl)
theorem dX9_blends_25 : decode cX9_blends 25 = .ok (.iaload, 1) := dk_46 (dk_at dksX9_blends_1 3 rfl rfl)
theorem dX9_blends_26 : decode cX9_blends 26 = .ok (.istore_n 3, 1) := dk_62 (dk_at dksX9_blends_1 4 rfl rfl)
theorem dX9_blends_27 : decode cX9_blends 27 = .ok (.aload_n 0, 1) := dk_42 (dk_at dksX9_blends_1 5 rfl rfl)
theorem dX9_blends_28 : decode cX9_blends 28 = .ok (.getfield 74, 3) := dk_180 0 74 (dk_at dksX9_blends_1 6 rfl rfl)
theorem dX9_blends_31 : decode cX9_blends 31 = .ok (.aload_n 0, 1) := dk_42 (dk_at dksX9_blends_1 9 rfl rfl)
theorem dX9_blends_32 : decode cX9_blends 32 = .ok (.invokevirtual 257, 3) := dk_182 1 1 (dk_at dksX9_blends_1 10 rfl rfl)
theorem dX9_blends_35 : decode cX9_blends 35 = .ok (.iconst 1, 1) := dk_4 (dk_at dksX9_blends_1 13 rfl rfl)
theorem dX9_blends_36 : decode cX9_blends 36 = .ok (.isub, 1) := dk_100 (dk_at dksX9_blends_1 14 rfl rfl)
theorem dX9_blends_37 : decode cX9_blends 37 = .ok (.iload_n 2, 1) := dk_28 (dk_at dksX9_blends_1 15 rfl rfl)
theorem dX9_blends_38 : decode cX9_blends 38 = .ok (.iconst 1, 1) := dk_4 (dk_at dksX9_blends_1 16 rfl rfl)
theorem dX9_blends_39 : decode cX9_blends 39 = .ok (.iadd, 1) := dk_96 (dk_at dksX9_blends_1 17 rfl rfl)
theorem dX9_blends_40 : decode cX9_blends 40 = .ok (.invokestatic 284, 3) := dk_184 1 28 (dk_at dksX9_blends_1 18 rfl rfl)
theorem dX9_blends_43 : decode cX9_blends 43 = .ok (.iaload, 1) := dk_46 (dk_at dksX9_blends_1 21 rfl rfl)
theorem dX9_blends_44 : decode cX9_blends 44 = .ok (.istore 4, 2) := dk_54 4 (dk_at dksX9_blends_1 22 rfl rfl)
theorem dX9_blends_46 : decode cX9_blends 46 = .ok (.aload_n 0, 1) := dk_42 (dk_at dksX9_blends_2 0 rfl rfl)
theorem dX9_blends_47 : decode cX9_blends 47 = .ok (.getfield 32, 3) := dk_180 0 32 (dk_at dksX9_blends_2 1 rfl rfl)
theorem dX9_blends_50 : decode cX9_blends 50 = .ok (.iload_n 2, 1) := dk_28 (dk_at dksX9_blends_2 4 rfl rfl)
theorem dX9_blends_51 : decode cX9_blends 51 = .ok (.iload_n 1, 1) := dk_27 (dk_at dksX9_blends_2 5 rfl rfl)
theorem dX9_blends_52 : decode cX9_blends 52 = .ok (.ifCond .eq 18, 3) := dk_153 0 18 (dk_at dksX9_blends_2 6 rfl rfl)
theorem dX9_blends_55 : decode cX9_blends 55 = .ok (.iload_n 3, 1) := dk_29 (dk_at dksX9_blends_2 9 rfl rfl)
theorem dX9_blends_56 : decode cX9_blends 56 = .ok (.aload_n 0, 1) := dk_42 (dk_at dksX9_blends_2 10 rfl rfl)
theorem dX9_blends_57 : decode cX9_blends 57 = .ok (.getfield 74, 3) := dk_180 0 74 (dk_at dksX9_blends_2 11 rfl rfl)
theorem dX9_blends_60 : decode cX9_blends 60 = .ok (.iload_n 2, 1) := dk_28 (dk_at dksX9_blends_2 14 rfl rfl)
theorem dX9_blends_61 : decode cX9_blends 61 = .ok (.iaload, 1) := dk_46 (dk_at dksX9_blends_2 15 rfl rfl)
theorem dX9_blends_62 : decode cX9_blends 62 = .ok (.iload 4, 2) := dk_21 4 (dk_at dksX9_blends_2 16 rfl rfl)
theorem dX9_blends_64 : decode cX9_blends 64 = .ok (.invokestatic 353, 3) := dk_184 1 97 (dk_at dksX9_blends_2 18 rfl rfl)
theorem dX9_blends_67 : decode cX9_blends 67 = .ok (.goto 18, 3) := dk_167 0 18 (dk_at dksX9_blends_2 21 rfl rfl)
theorem dX9_blends_70 : decode cX9_blends 70 = .ok (.iload_n 3, 1) := dk_29 (dk_at dksX9_blends_3 0 rfl rfl)
theorem dX9_blends_71 : decode cX9_blends 71 = .ok (.iconst 2, 1) := dk_5 (dk_at dksX9_blends_3 1 rfl rfl)
theorem dX9_blends_72 : decode cX9_blends 72 = .ok (.aload_n 0, 1) := dk_42 (dk_at dksX9_blends_3 2 rfl rfl)
theorem dX9_blends_73 : decode cX9_blends 73 = .ok (.getfield 74, 3) := dk_180 0 74 (dk_at dksX9_blends_3 3 rfl rfl)
theorem dX9_blends_76 : decode cX9_blends 76 = .ok (.iload_n 2, 1) := dk_28 (dk_at dksX9_blends_3 6 rfl rfl)
theorem dX9_blends_77 : decode cX9_blends 77 = .ok (.iaload, 1) := dk_46 (dk_at dksX9_blends_3 7 rfl rfl)
theorem dX9_blends_78 : decode cX9_blends 78 = .ok (.imul, 1) := dk_104 (dk_at dksX9_blends_3 8 rfl rfl)
theorem dX9_blends_79 : decode cX9_blends 79 = .ok (.iadd, 1) := dk_96 (dk_at dksX9_blends_3 9 rfl rfl)
theorem dX9_blends_80 : decode cX9_blends 80 = .ok (.iload 4, 2) := dk_21 4 (dk_at dksX9_blends_3 10 rfl rfl)
theorem dX9_blends_82 : decode cX9_blends 82 = .ok (.iadd, 1) := dk_96 (dk_at dksX9_blends_3 12 rfl rfl)
theorem dX9_blends_83 : decode cX9_blends 83 = .ok (.iconst 4, 1) := dk_7 (dk_at dksX9_blends_3 13 rfl rfl)
theorem dX9_blends_84 : decode cX9_blends 84 = .ok (.idiv, 1) := dk_108 (dk_at dksX9_blends_3 14 rfl rfl)
theorem dX9_blends_85 : decode cX9_blends 85 = .ok (.iastore, 1) := dk_79 (dk_at dksX9_blends_3 15 rfl rfl)
theorem dX9_blends_86 : decode cX9_blends 86 = .ok (.iinc 2 1, 3) := dk_132 2 1 (dk_at dksX9_blends_3 16 rfl rfl)
theorem dX9_blends_89 : decode cX9_blends 89 = .ok (.goto (-83), 3) := dk_167 255 173 (dk_at dksX9_blends_3 19 rfl rfl)
theorem dX9_blends_92 : decode cX9_blends 92 = .ok (.return_, 1) := dk_177 (dk_at dksX9_blends_3 22 rfl rfl)
def dkwX9_keepWas_1 : List UInt8 := [167, 255, 235, 177]
abbrev dktX9_keepWas_1 : List UInt8 := dkwX9_keepWas_1 ++ []
def dkwX9_keepWas_0 : List UInt8 := [3, 60, 27, 16, 48, 162, 0, 21, 42, 180, 0, 74, 27, 42, 180, 0, 32, 27, 46, 79, 132, 1, 1]
abbrev dktX9_keepWas_0 : List UInt8 := dkwX9_keepWas_0 ++ dktX9_keepWas_1
theorem dksX9_keepWas_0 : cX9_keepWas.data.toList.drop 0 = dktX9_keepWas_0 := by decide +kernel
theorem dksX9_keepWas_1 : cX9_keepWas.data.toList.drop 23 = dktX9_keepWas_1 := dk_seg dksX9_keepWas_0 23 rfl rfl
theorem dX9_keepWas_0 : decode cX9_keepWas 0 = .ok (.iconst 0, 1) := dk_3 (dk_at dksX9_keepWas_0 0 rfl rfl)
theorem dX9_keepWas_1 : decode cX9_keepWas 1 = .ok (.istore_n 1, 1) := dk_60 (dk_at dksX9_keepWas_0 1 rfl rfl)
theorem dX9_keepWas_2 : decode cX9_keepWas 2 = .ok (.iload_n 1, 1) := dk_27 (dk_at dksX9_keepWas_0 2 rfl rfl)
theorem dX9_keepWas_3 : decode cX9_keepWas 3 = .ok (.bipush 48, 2) := dk_16 48 (dk_at dksX9_keepWas_0 3 rfl rfl)
theorem dX9_keepWas_5 : decode cX9_keepWas 5 = .ok (.if_icmp .ge 21, 3) := dk_162 0 21 (dk_at dksX9_keepWas_0 5 rfl rfl)
theorem dX9_keepWas_8 : decode cX9_keepWas 8 = .ok (.aload_n 0, 1) := dk_42 (dk_at dksX9_keepWas_0 8 rfl rfl)
theorem dX9_keepWas_9 : decode cX9_keepWas 9 = .ok (.getfield 74, 3) := dk_180 0 74 (dk_at dksX9_keepWas_0 9 rfl rfl)
theorem dX9_keepWas_12 : decode cX9_keepWas 12 = .ok (.iload_n 1, 1) := dk_27 (dk_at dksX9_keepWas_0 12 rfl rfl)
theorem dX9_keepWas_13 : decode cX9_keepWas 13 = .ok (.aload_n 0, 1) := dk_42 (dk_at dksX9_keepWas_0 13 rfl rfl)
theorem dX9_keepWas_14 : decode cX9_keepWas 14 = .ok (.getfield 32, 3) := dk_180 0 32 (dk_at dksX9_keepWas_0 14 rfl rfl)
theorem dX9_keepWas_17 : decode cX9_keepWas 17 = .ok (.iload_n 1, 1) := dk_27 (dk_at dksX9_keepWas_0 17 rfl rfl)
theorem dX9_keepWas_18 : decode cX9_keepWas 18 = .ok (.iaload, 1) := dk_46 (dk_at dksX9_keepWas_0 18 rfl rfl)
theorem dX9_keepWas_19 : decode cX9_keepWas 19 = .ok (.iastore, 1) := dk_79 (dk_at dksX9_keepWas_0 19 rfl rfl)
theorem dX9_keepWas_20 : decode cX9_keepWas 20 = .ok (.iinc 1 1, 3) := dk_132 1 1 (dk_at dksX9_keepWas_0 20 rfl rfl)
theorem dX9_keepWas_23 : decode cX9_keepWas 23 = .ok (.goto (-21), 3) := dk_167 255 235 (dk_at dksX9_keepWas_1 0 rfl rfl)
theorem dX9_keepWas_26 : decode cX9_keepWas 26 = .ok (.return_, 1) := dk_177 (dk_at dksX9_keepWas_1 3 rfl rfl)
def dkwX9_middle_0 : List UInt8 := [26, 27, 184, 1, 28, 26, 27, 184, 1, 33, 28, 184, 1, 28, 184, 1, 33, 172]
abbrev dktX9_middle_0 : List UInt8 := dkwX9_middle_0 ++ []
theorem dksX9_middle_0 : cX9_middle.data.toList.drop 0 = dktX9_middle_0 := by decide +kernel
theorem dX9_middle_0 : decode cX9_middle 0 = .ok (.iload_n 0, 1) := dk_26 (dk_at dksX9_middle_0 0 rfl rfl)
theorem dX9_middle_1 : decode cX9_middle 1 = .ok (.iload_n 1, 1) := dk_27 (dk_at dksX9_middle_0 1 rfl rfl)
theorem dX9_middle_2 : decode cX9_middle 2 = .ok (.invokestatic 284, 3) := dk_184 1 28 (dk_at dksX9_middle_0 2 rfl rfl)
theorem dX9_middle_5 : decode cX9_middle 5 = .ok (.iload_n 0, 1) := dk_26 (dk_at dksX9_middle_0 5 rfl rfl)
theorem dX9_middle_6 : decode cX9_middle 6 = .ok (.iload_n 1, 1) := dk_27 (dk_at dksX9_middle_0 6 rfl rfl)
theorem dX9_middle_7 : decode cX9_middle 7 = .ok (.invokestatic 289, 3) := dk_184 1 33 (dk_at dksX9_middle_0 7 rfl rfl)
theorem dX9_middle_10 : decode cX9_middle 10 = .ok (.iload_n 2, 1) := dk_28 (dk_at dksX9_middle_0 10 rfl rfl)
theorem dX9_middle_11 : decode cX9_middle 11 = .ok (.invokestatic 284, 3) := dk_184 1 28 (dk_at dksX9_middle_0 11 rfl rfl)
theorem dX9_middle_14 : decode cX9_middle 14 = .ok (.invokestatic 289, 3) := dk_184 1 33 (dk_at dksX9_middle_0 14 rfl rfl)
theorem dX9_middle_17 : decode cX9_middle 17 = .ok (.ireturn, 1) := dk_172 (dk_at dksX9_middle_0 17 rfl rfl)
def dkwX9_keptNow_0 : List UInt8 := [42, 182, 1, 101, 42, 180, 1, 58, 172]
abbrev dktX9_keptNow_0 : List UInt8 := dkwX9_keptNow_0 ++ []
theorem dksX9_keptNow_0 : cX9_keptNow.data.toList.drop 0 = dktX9_keptNow_0 := by decide +kernel
theorem dX9_keptNow_0 : decode cX9_keptNow 0 = .ok (.aload_n 0, 1) := dk_42 (dk_at dksX9_keptNow_0 0 rfl rfl)
theorem dX9_keptNow_1 : decode cX9_keptNow 1 = .ok (.invokevirtual 357, 3) := dk_182 1 101 (dk_at dksX9_keptNow_0 1 rfl rfl)
theorem dX9_keptNow_4 : decode cX9_keptNow 4 = .ok (.aload_n 0, 1) := dk_42 (dk_at dksX9_keptNow_0 4 rfl rfl)
theorem dX9_keptNow_5 : decode cX9_keptNow 5 = .ok (.getfield 314, 3) := dk_180 1 58 (dk_at dksX9_keptNow_0 5 rfl rfl)
theorem dX9_keptNow_8 : decode cX9_keptNow 8 = .ok (.ireturn, 1) := dk_172 (dk_at dksX9_keptNow_0 8 rfl rfl)
def dkwX9_finds_8 : List UInt8 := [182, 1, 61, 177]
abbrev dktX9_finds_8 : List UInt8 := dkwX9_finds_8 ++ []
def dkwX9_finds_7 : List UInt8 := [16, 49, 46, 164, 0, 7, 4, 167, 0, 4, 3, 96, 181, 1, 58, 132, 1, 1, 167, 255, 195, 42, 3]
abbrev dktX9_finds_7 : List UInt8 := dkwX9_finds_7 ++ dktX9_finds_8
def dkwX9_finds_6 : List UInt8 := [79, 42, 89, 180, 1, 58, 27, 153, 0, 23, 42, 42, 180, 0, 62, 27, 46, 182, 1, 55, 42, 180, 0, 32]
abbrev dktX9_finds_6 : List UInt8 := dkwX9_finds_6 ++ dktX9_finds_7
def dkwX9_finds_5 : List UInt8 := [181, 1, 58, 3, 60, 27, 42, 180, 1, 25, 162, 0, 59, 42, 180, 0, 65, 42, 180, 0, 62, 27, 46, 27]
abbrev dktX9_finds_5 : List UInt8 := dkwX9_finds_5 ++ dktX9_finds_6
def dkwX9_finds_4 : List UInt8 := [46, 79, 132, 2, 255, 167, 255, 172, 42, 180, 0, 62, 28, 27, 79, 132, 1, 1, 167, 255, 149, 42, 3]
abbrev dktX9_finds_4 : List UInt8 := dkwX9_finds_4 ++ dktX9_finds_5
def dkwX9_finds_3 : List UInt8 := [100, 46, 46, 42, 180, 0, 47, 27, 46, 164, 0, 23, 42, 180, 0, 62, 28, 42, 180, 0, 62, 28, 4, 100]
abbrev dktX9_finds_3 : List UInt8 := dkwX9_finds_3 ++ dktX9_finds_4
def dkwX9_finds_2 : List UInt8 := [4, 100, 46, 182, 1, 55, 42, 27, 182, 1, 55, 160, 0, 45, 42, 180, 0, 47, 42, 180, 0, 62, 28, 4]
abbrev dktX9_finds_2 : List UInt8 := dkwX9_finds_2 ++ dktX9_finds_3
def dkwX9_finds_1 : List UInt8 := [180, 0, 62, 28, 4, 100, 46, 182, 1, 55, 42, 27, 182, 1, 55, 161, 0, 45, 42, 42, 180, 0, 62, 28]
abbrev dktX9_finds_1 : List UInt8 := dkwX9_finds_1 ++ dktX9_finds_2
def dkwX9_finds_0 : List UInt8 := [42, 182, 1, 52, 3, 60, 27, 42, 180, 1, 25, 162, 0, 105, 27, 61, 28, 4, 164, 0, 85, 42, 42]
abbrev dktX9_finds_0 : List UInt8 := dkwX9_finds_0 ++ dktX9_finds_1
theorem dksX9_finds_0 : cX9_finds.data.toList.drop 0 = dktX9_finds_0 := by decide +kernel
theorem dksX9_finds_1 : cX9_finds.data.toList.drop 23 = dktX9_finds_1 := dk_seg dksX9_finds_0 23 rfl rfl
theorem dksX9_finds_2 : cX9_finds.data.toList.drop 47 = dktX9_finds_2 := dk_seg dksX9_finds_1 24 rfl rfl
theorem dksX9_finds_3 : cX9_finds.data.toList.drop 71 = dktX9_finds_3 := dk_seg dksX9_finds_2 24 rfl rfl
theorem dksX9_finds_4 : cX9_finds.data.toList.drop 95 = dktX9_finds_4 := dk_seg dksX9_finds_3 24 rfl rfl
theorem dksX9_finds_5 : cX9_finds.data.toList.drop 118 = dktX9_finds_5 := dk_seg dksX9_finds_4 23 rfl rfl
theorem dksX9_finds_6 : cX9_finds.data.toList.drop 142 = dktX9_finds_6 := dk_seg dksX9_finds_5 24 rfl rfl
theorem dksX9_finds_7 : cX9_finds.data.toList.drop 166 = dktX9_finds_7 := dk_seg dksX9_finds_6 24 rfl rfl
theorem dksX9_finds_8 : cX9_finds.data.toList.drop 189 = dktX9_finds_8 := dk_seg dksX9_finds_7 23 rfl rfl
theorem dX9_finds_0 : decode cX9_finds 0 = .ok (.aload_n 0, 1) := dk_42 (dk_at dksX9_finds_0 0 rfl rfl)
theorem dX9_finds_1 : decode cX9_finds 1 = .ok (.invokevirtual 308, 3) := dk_182 1 52 (dk_at dksX9_finds_0 1 rfl rfl)
theorem dX9_finds_4 : decode cX9_finds 4 = .ok (.iconst 0, 1) := dk_3 (dk_at dksX9_finds_0 4 rfl rfl)
theorem dX9_finds_5 : decode cX9_finds 5 = .ok (.istore_n 1, 1) := dk_60 (dk_at dksX9_finds_0 5 rfl rfl)
theorem dX9_finds_6 : decode cX9_finds 6 = .ok (.iload_n 1, 1) := dk_27 (dk_at dksX9_finds_0 6 rfl rfl)
theorem dX9_finds_7 : decode cX9_finds 7 = .ok (.aload_n 0, 1) := dk_42 (dk_at dksX9_finds_0 7 rfl rfl)
theorem dX9_finds_8 : decode cX9_finds 8 = .ok (.getfield 281, 3) := dk_180 1 25 (dk_at dksX9_finds_0 8 rfl rfl)
theorem dX9_finds_11 : decode cX9_finds 11 = .ok (.if_icmp .ge 105, 3) := dk_162 0 105 (dk_at dksX9_finds_0 11 rfl rfl)
theorem dX9_finds_14 : decode cX9_finds 14 = .ok (.iload_n 1, 1) := dk_27 (dk_at dksX9_finds_0 14 rfl rfl)
theorem dX9_finds_15 : decode cX9_finds 15 = .ok (.istore_n 2, 1) := dk_61 (dk_at dksX9_finds_0 15 rfl rfl)
theorem dX9_finds_16 : decode cX9_finds 16 = .ok (.iload_n 2, 1) := dk_28 (dk_at dksX9_finds_0 16 rfl rfl)
theorem dX9_finds_17 : decode cX9_finds 17 = .ok (.iconst 1, 1) := dk_4 (dk_at dksX9_finds_0 17 rfl rfl)
theorem dX9_finds_18 : decode cX9_finds 18 = .ok (.if_icmp .le 85, 3) := dk_164 0 85 (dk_at dksX9_finds_0 18 rfl rfl)
theorem dX9_finds_21 : decode cX9_finds 21 = .ok (.aload_n 0, 1) := dk_42 (dk_at dksX9_finds_0 21 rfl rfl)
theorem dX9_finds_22 : decode cX9_finds 22 = .ok (.aload_n 0, 1) := dk_42 (dk_at dksX9_finds_0 22 rfl rfl)
theorem dX9_finds_23 : decode cX9_finds 23 = .ok (.getfield 62, 3) := dk_180 0 62 (dk_at dksX9_finds_1 0 rfl rfl)
theorem dX9_finds_26 : decode cX9_finds 26 = .ok (.iload_n 2, 1) := dk_28 (dk_at dksX9_finds_1 3 rfl rfl)
theorem dX9_finds_27 : decode cX9_finds 27 = .ok (.iconst 1, 1) := dk_4 (dk_at dksX9_finds_1 4 rfl rfl)
theorem dX9_finds_28 : decode cX9_finds 28 = .ok (.isub, 1) := dk_100 (dk_at dksX9_finds_1 5 rfl rfl)
theorem dX9_finds_29 : decode cX9_finds 29 = .ok (.iaload, 1) := dk_46 (dk_at dksX9_finds_1 6 rfl rfl)
theorem dX9_finds_30 : decode cX9_finds 30 = .ok (.invokevirtual 311, 3) := dk_182 1 55 (dk_at dksX9_finds_1 7 rfl rfl)
theorem dX9_finds_33 : decode cX9_finds 33 = .ok (.aload_n 0, 1) := dk_42 (dk_at dksX9_finds_1 10 rfl rfl)
theorem dX9_finds_34 : decode cX9_finds 34 = .ok (.iload_n 1, 1) := dk_27 (dk_at dksX9_finds_1 11 rfl rfl)
theorem dX9_finds_35 : decode cX9_finds 35 = .ok (.invokevirtual 311, 3) := dk_182 1 55 (dk_at dksX9_finds_1 12 rfl rfl)
theorem dX9_finds_38 : decode cX9_finds 38 = .ok (.if_icmp .lt 45, 3) := dk_161 0 45 (dk_at dksX9_finds_1 15 rfl rfl)
theorem dX9_finds_41 : decode cX9_finds 41 = .ok (.aload_n 0, 1) := dk_42 (dk_at dksX9_finds_1 18 rfl rfl)
theorem dX9_finds_42 : decode cX9_finds 42 = .ok (.aload_n 0, 1) := dk_42 (dk_at dksX9_finds_1 19 rfl rfl)
theorem dX9_finds_43 : decode cX9_finds 43 = .ok (.getfield 62, 3) := dk_180 0 62 (dk_at dksX9_finds_1 20 rfl rfl)
theorem dX9_finds_46 : decode cX9_finds 46 = .ok (.iload_n 2, 1) := dk_28 (dk_at dksX9_finds_1 23 rfl rfl)
theorem dX9_finds_47 : decode cX9_finds 47 = .ok (.iconst 1, 1) := dk_4 (dk_at dksX9_finds_2 0 rfl rfl)
theorem dX9_finds_48 : decode cX9_finds 48 = .ok (.isub, 1) := dk_100 (dk_at dksX9_finds_2 1 rfl rfl)
theorem dX9_finds_49 : decode cX9_finds 49 = .ok (.iaload, 1) := dk_46 (dk_at dksX9_finds_2 2 rfl rfl)
theorem dX9_finds_50 : decode cX9_finds 50 = .ok (.invokevirtual 311, 3) := dk_182 1 55 (dk_at dksX9_finds_2 3 rfl rfl)
theorem dX9_finds_53 : decode cX9_finds 53 = .ok (.aload_n 0, 1) := dk_42 (dk_at dksX9_finds_2 6 rfl rfl)
theorem dX9_finds_54 : decode cX9_finds 54 = .ok (.iload_n 1, 1) := dk_27 (dk_at dksX9_finds_2 7 rfl rfl)
theorem dX9_finds_55 : decode cX9_finds 55 = .ok (.invokevirtual 311, 3) := dk_182 1 55 (dk_at dksX9_finds_2 8 rfl rfl)
theorem dX9_finds_58 : decode cX9_finds 58 = .ok (.if_icmp .ne 45, 3) := dk_160 0 45 (dk_at dksX9_finds_2 11 rfl rfl)
theorem dX9_finds_61 : decode cX9_finds 61 = .ok (.aload_n 0, 1) := dk_42 (dk_at dksX9_finds_2 14 rfl rfl)
theorem dX9_finds_62 : decode cX9_finds 62 = .ok (.getfield 47, 3) := dk_180 0 47 (dk_at dksX9_finds_2 15 rfl rfl)
theorem dX9_finds_65 : decode cX9_finds 65 = .ok (.aload_n 0, 1) := dk_42 (dk_at dksX9_finds_2 18 rfl rfl)
theorem dX9_finds_66 : decode cX9_finds 66 = .ok (.getfield 62, 3) := dk_180 0 62 (dk_at dksX9_finds_2 19 rfl rfl)
theorem dX9_finds_69 : decode cX9_finds 69 = .ok (.iload_n 2, 1) := dk_28 (dk_at dksX9_finds_2 22 rfl rfl)
theorem dX9_finds_70 : decode cX9_finds 70 = .ok (.iconst 1, 1) := dk_4 (dk_at dksX9_finds_2 23 rfl rfl)
theorem dX9_finds_71 : decode cX9_finds 71 = .ok (.isub, 1) := dk_100 (dk_at dksX9_finds_3 0 rfl rfl)
theorem dX9_finds_72 : decode cX9_finds 72 = .ok (.iaload, 1) := dk_46 (dk_at dksX9_finds_3 1 rfl rfl)
theorem dX9_finds_73 : decode cX9_finds 73 = .ok (.iaload, 1) := dk_46 (dk_at dksX9_finds_3 2 rfl rfl)
theorem dX9_finds_74 : decode cX9_finds 74 = .ok (.aload_n 0, 1) := dk_42 (dk_at dksX9_finds_3 3 rfl rfl)
theorem dX9_finds_75 : decode cX9_finds 75 = .ok (.getfield 47, 3) := dk_180 0 47 (dk_at dksX9_finds_3 4 rfl rfl)
theorem dX9_finds_78 : decode cX9_finds 78 = .ok (.iload_n 1, 1) := dk_27 (dk_at dksX9_finds_3 7 rfl rfl)
theorem dX9_finds_79 : decode cX9_finds 79 = .ok (.iaload, 1) := dk_46 (dk_at dksX9_finds_3 8 rfl rfl)
theorem dX9_finds_80 : decode cX9_finds 80 = .ok (.if_icmp .le 23, 3) := dk_164 0 23 (dk_at dksX9_finds_3 9 rfl rfl)
theorem dX9_finds_83 : decode cX9_finds 83 = .ok (.aload_n 0, 1) := dk_42 (dk_at dksX9_finds_3 12 rfl rfl)
theorem dX9_finds_84 : decode cX9_finds 84 = .ok (.getfield 62, 3) := dk_180 0 62 (dk_at dksX9_finds_3 13 rfl rfl)
theorem dX9_finds_87 : decode cX9_finds 87 = .ok (.iload_n 2, 1) := dk_28 (dk_at dksX9_finds_3 16 rfl rfl)
theorem dX9_finds_88 : decode cX9_finds 88 = .ok (.aload_n 0, 1) := dk_42 (dk_at dksX9_finds_3 17 rfl rfl)
theorem dX9_finds_89 : decode cX9_finds 89 = .ok (.getfield 62, 3) := dk_180 0 62 (dk_at dksX9_finds_3 18 rfl rfl)
theorem dX9_finds_92 : decode cX9_finds 92 = .ok (.iload_n 2, 1) := dk_28 (dk_at dksX9_finds_3 21 rfl rfl)
theorem dX9_finds_93 : decode cX9_finds 93 = .ok (.iconst 1, 1) := dk_4 (dk_at dksX9_finds_3 22 rfl rfl)
theorem dX9_finds_94 : decode cX9_finds 94 = .ok (.isub, 1) := dk_100 (dk_at dksX9_finds_3 23 rfl rfl)
theorem dX9_finds_95 : decode cX9_finds 95 = .ok (.iaload, 1) := dk_46 (dk_at dksX9_finds_4 0 rfl rfl)
theorem dX9_finds_96 : decode cX9_finds 96 = .ok (.iastore, 1) := dk_79 (dk_at dksX9_finds_4 1 rfl rfl)
theorem dX9_finds_97 : decode cX9_finds 97 = .ok (.iinc 2 (-1), 3) := dk_132 2 255 (dk_at dksX9_finds_4 2 rfl rfl)
theorem dX9_finds_100 : decode cX9_finds 100 = .ok (.goto (-84), 3) := dk_167 255 172 (dk_at dksX9_finds_4 5 rfl rfl)
theorem dX9_finds_103 : decode cX9_finds 103 = .ok (.aload_n 0, 1) := dk_42 (dk_at dksX9_finds_4 8 rfl rfl)
theorem dX9_finds_104 : decode cX9_finds 104 = .ok (.getfield 62, 3) := dk_180 0 62 (dk_at dksX9_finds_4 9 rfl rfl)
theorem dX9_finds_107 : decode cX9_finds 107 = .ok (.iload_n 2, 1) := dk_28 (dk_at dksX9_finds_4 12 rfl rfl)
theorem dX9_finds_108 : decode cX9_finds 108 = .ok (.iload_n 1, 1) := dk_27 (dk_at dksX9_finds_4 13 rfl rfl)
theorem dX9_finds_109 : decode cX9_finds 109 = .ok (.iastore, 1) := dk_79 (dk_at dksX9_finds_4 14 rfl rfl)
theorem dX9_finds_110 : decode cX9_finds 110 = .ok (.iinc 1 1, 3) := dk_132 1 1 (dk_at dksX9_finds_4 15 rfl rfl)
theorem dX9_finds_113 : decode cX9_finds 113 = .ok (.goto (-107), 3) := dk_167 255 149 (dk_at dksX9_finds_4 18 rfl rfl)
theorem dX9_finds_116 : decode cX9_finds 116 = .ok (.aload_n 0, 1) := dk_42 (dk_at dksX9_finds_4 21 rfl rfl)
theorem dX9_finds_117 : decode cX9_finds 117 = .ok (.iconst 0, 1) := dk_3 (dk_at dksX9_finds_4 22 rfl rfl)
theorem dX9_finds_118 : decode cX9_finds 118 = .ok (.putfield 314, 3) := dk_181 1 58 (dk_at dksX9_finds_5 0 rfl rfl)
theorem dX9_finds_121 : decode cX9_finds 121 = .ok (.iconst 0, 1) := dk_3 (dk_at dksX9_finds_5 3 rfl rfl)
theorem dX9_finds_122 : decode cX9_finds 122 = .ok (.istore_n 1, 1) := dk_60 (dk_at dksX9_finds_5 4 rfl rfl)
theorem dX9_finds_123 : decode cX9_finds 123 = .ok (.iload_n 1, 1) := dk_27 (dk_at dksX9_finds_5 5 rfl rfl)
theorem dX9_finds_124 : decode cX9_finds 124 = .ok (.aload_n 0, 1) := dk_42 (dk_at dksX9_finds_5 6 rfl rfl)
theorem dX9_finds_125 : decode cX9_finds 125 = .ok (.getfield 281, 3) := dk_180 1 25 (dk_at dksX9_finds_5 7 rfl rfl)
theorem dX9_finds_128 : decode cX9_finds 128 = .ok (.if_icmp .ge 59, 3) := dk_162 0 59 (dk_at dksX9_finds_5 10 rfl rfl)
theorem dX9_finds_131 : decode cX9_finds 131 = .ok (.aload_n 0, 1) := dk_42 (dk_at dksX9_finds_5 13 rfl rfl)
theorem dX9_finds_132 : decode cX9_finds 132 = .ok (.getfield 65, 3) := dk_180 0 65 (dk_at dksX9_finds_5 14 rfl rfl)
theorem dX9_finds_135 : decode cX9_finds 135 = .ok (.aload_n 0, 1) := dk_42 (dk_at dksX9_finds_5 17 rfl rfl)
theorem dX9_finds_136 : decode cX9_finds 136 = .ok (.getfield 62, 3) := dk_180 0 62 (dk_at dksX9_finds_5 18 rfl rfl)
theorem dX9_finds_139 : decode cX9_finds 139 = .ok (.iload_n 1, 1) := dk_27 (dk_at dksX9_finds_5 21 rfl rfl)
theorem dX9_finds_140 : decode cX9_finds 140 = .ok (.iaload, 1) := dk_46 (dk_at dksX9_finds_5 22 rfl rfl)
theorem dX9_finds_141 : decode cX9_finds 141 = .ok (.iload_n 1, 1) := dk_27 (dk_at dksX9_finds_5 23 rfl rfl)
theorem dX9_finds_142 : decode cX9_finds 142 = .ok (.iastore, 1) := dk_79 (dk_at dksX9_finds_6 0 rfl rfl)
theorem dX9_finds_143 : decode cX9_finds 143 = .ok (.aload_n 0, 1) := dk_42 (dk_at dksX9_finds_6 1 rfl rfl)
theorem dX9_finds_144 : decode cX9_finds 144 = .ok (.dup, 1) := dk_89 (dk_at dksX9_finds_6 2 rfl rfl)
theorem dX9_finds_145 : decode cX9_finds 145 = .ok (.getfield 314, 3) := dk_180 1 58 (dk_at dksX9_finds_6 3 rfl rfl)
theorem dX9_finds_148 : decode cX9_finds 148 = .ok (.iload_n 1, 1) := dk_27 (dk_at dksX9_finds_6 6 rfl rfl)
theorem dX9_finds_149 : decode cX9_finds 149 = .ok (.ifCond .eq 23, 3) := dk_153 0 23 (dk_at dksX9_finds_6 7 rfl rfl)
theorem dX9_finds_152 : decode cX9_finds 152 = .ok (.aload_n 0, 1) := dk_42 (dk_at dksX9_finds_6 10 rfl rfl)
theorem dX9_finds_153 : decode cX9_finds 153 = .ok (.aload_n 0, 1) := dk_42 (dk_at dksX9_finds_6 11 rfl rfl)
theorem dX9_finds_154 : decode cX9_finds 154 = .ok (.getfield 62, 3) := dk_180 0 62 (dk_at dksX9_finds_6 12 rfl rfl)
theorem dX9_finds_157 : decode cX9_finds 157 = .ok (.iload_n 1, 1) := dk_27 (dk_at dksX9_finds_6 15 rfl rfl)
theorem dX9_finds_158 : decode cX9_finds 158 = .ok (.iaload, 1) := dk_46 (dk_at dksX9_finds_6 16 rfl rfl)
theorem dX9_finds_159 : decode cX9_finds 159 = .ok (.invokevirtual 311, 3) := dk_182 1 55 (dk_at dksX9_finds_6 17 rfl rfl)
theorem dX9_finds_162 : decode cX9_finds 162 = .ok (.aload_n 0, 1) := dk_42 (dk_at dksX9_finds_6 20 rfl rfl)
theorem dX9_finds_163 : decode cX9_finds 163 = .ok (.getfield 32, 3) := dk_180 0 32 (dk_at dksX9_finds_6 21 rfl rfl)
theorem dX9_finds_166 : decode cX9_finds 166 = .ok (.bipush 49, 2) := dk_16 49 (dk_at dksX9_finds_7 0 rfl rfl)
theorem dX9_finds_168 : decode cX9_finds 168 = .ok (.iaload, 1) := dk_46 (dk_at dksX9_finds_7 2 rfl rfl)
theorem dX9_finds_169 : decode cX9_finds 169 = .ok (.if_icmp .le 7, 3) := dk_164 0 7 (dk_at dksX9_finds_7 3 rfl rfl)
theorem dX9_finds_172 : decode cX9_finds 172 = .ok (.iconst 1, 1) := dk_4 (dk_at dksX9_finds_7 6 rfl rfl)
theorem dX9_finds_173 : decode cX9_finds 173 = .ok (.goto 4, 3) := dk_167 0 4 (dk_at dksX9_finds_7 7 rfl rfl)
theorem dX9_finds_176 : decode cX9_finds 176 = .ok (.iconst 0, 1) := dk_3 (dk_at dksX9_finds_7 10 rfl rfl)
theorem dX9_finds_177 : decode cX9_finds 177 = .ok (.iadd, 1) := dk_96 (dk_at dksX9_finds_7 11 rfl rfl)
theorem dX9_finds_178 : decode cX9_finds 178 = .ok (.putfield 314, 3) := dk_181 1 58 (dk_at dksX9_finds_7 12 rfl rfl)
theorem dX9_finds_181 : decode cX9_finds 181 = .ok (.iinc 1 1, 3) := dk_132 1 1 (dk_at dksX9_finds_7 15 rfl rfl)
theorem dX9_finds_184 : decode cX9_finds 184 = .ok (.goto (-61), 3) := dk_167 255 195 (dk_at dksX9_finds_7 18 rfl rfl)
theorem dX9_finds_187 : decode cX9_finds 187 = .ok (.aload_n 0, 1) := dk_42 (dk_at dksX9_finds_7 21 rfl rfl)
theorem dX9_finds_188 : decode cX9_finds 188 = .ok (.iconst 0, 1) := dk_3 (dk_at dksX9_finds_7 22 rfl rfl)
theorem dX9_finds_189 : decode cX9_finds 189 = .ok (.invokevirtual 317, 3) := dk_182 1 61 (dk_at dksX9_finds_8 0 rfl rfl)
theorem dX9_finds_192 : decode cX9_finds 192 = .ok (.return_, 1) := dk_177 (dk_at dksX9_finds_8 3 rfl rfl)
def dkwX9_lets_6 : List UInt8 := [180, 0, 53, 3, 42, 182, 1, 49, 79, 177]
abbrev dktX9_lets_6 : List UInt8 := dkwX9_lets_6 ++ []
def dkwX9_lets_5 : List UInt8 := [167, 0, 11, 42, 29, 21, 4, 27, 182, 1, 45, 42, 27, 182, 1, 36, 60, 132, 2, 1, 167, 255, 158, 42]
abbrev dktX9_lets_5 : List UInt8 := dkwX9_lets_5 ++ dktX9_lets_6
def dkwX9_lets_4 : List UInt8 := [21, 4, 160, 0, 23, 42, 180, 0, 59, 27, 29, 2, 160, 0, 8, 21, 4, 167, 0, 4, 29, 79]
abbrev dktX9_lets_4 : List UInt8 := dkwX9_lets_4 ++ dktX9_lets_5
def dkwX9_lets_3 : List UInt8 := [160, 0, 11, 42, 27, 182, 1, 42, 167, 0, 48, 29, 2, 159, 0, 15, 21, 4, 2, 159, 0, 9, 29]
abbrev dktX9_lets_3 : List UInt8 := dkwX9_lets_3 ++ dktX9_lets_4
def dkwX9_lets_2 : List UInt8 := [4, 100, 182, 1, 39, 62, 42, 27, 4, 96, 182, 1, 39, 54, 4, 29, 2, 160, 0, 17, 21, 4, 2]
abbrev dktX9_lets_2 : List UInt8 := dkwX9_lets_2 ++ dktX9_lets_3
def dkwX9_lets_1 : List UInt8 := [132, 1, 1, 167, 255, 238, 42, 2, 182, 1, 36, 60, 3, 61, 28, 42, 182, 1, 1, 162, 0, 96, 42, 27]
abbrev dktX9_lets_1 : List UInt8 := dkwX9_lets_1 ++ dktX9_lets_2
def dkwX9_lets_0 : List UInt8 := [42, 3, 181, 1, 25, 3, 60, 27, 42, 182, 1, 1, 162, 0, 16, 42, 180, 0, 59, 27, 2, 79]
abbrev dktX9_lets_0 : List UInt8 := dkwX9_lets_0 ++ dktX9_lets_1
theorem dksX9_lets_0 : cX9_lets.data.toList.drop 0 = dktX9_lets_0 := by decide +kernel
theorem dksX9_lets_1 : cX9_lets.data.toList.drop 22 = dktX9_lets_1 := dk_seg dksX9_lets_0 22 rfl rfl
theorem dksX9_lets_2 : cX9_lets.data.toList.drop 46 = dktX9_lets_2 := dk_seg dksX9_lets_1 24 rfl rfl
theorem dksX9_lets_3 : cX9_lets.data.toList.drop 69 = dktX9_lets_3 := dk_seg dksX9_lets_2 23 rfl rfl
theorem dksX9_lets_4 : cX9_lets.data.toList.drop 92 = dktX9_lets_4 := dk_seg dksX9_lets_3 23 rfl rfl
theorem dksX9_lets_5 : cX9_lets.data.toList.drop 114 = dktX9_lets_5 := dk_seg dksX9_lets_4 22 rfl rfl
theorem dksX9_lets_6 : cX9_lets.data.toList.drop 138 = dktX9_lets_6 := dk_seg dksX9_lets_5 24 rfl rfl
theorem dX9_lets_0 : decode cX9_lets 0 = .ok (.aload_n 0, 1) := dk_42 (dk_at dksX9_lets_0 0 rfl rfl)
theorem dX9_lets_1 : decode cX9_lets 1 = .ok (.iconst 0, 1) := dk_3 (dk_at dksX9_lets_0 1 rfl rfl)
theorem dX9_lets_2 : decode cX9_lets 2 = .ok (.putfield 281, 3) := dk_181 1 25 (dk_at dksX9_lets_0 2 rfl rfl)
theorem dX9_lets_5 : decode cX9_lets 5 = .ok (.iconst 0, 1) := dk_3 (dk_at dksX9_lets_0 5 rfl rfl)
theorem dX9_lets_6 : decode cX9_lets 6 = .ok (.istore_n 1, 1) := dk_60 (dk_at dksX9_lets_0 6 rfl rfl)
theorem dX9_lets_7 : decode cX9_lets 7 = .ok (.iload_n 1, 1) := dk_27 (dk_at dksX9_lets_0 7 rfl rfl)
theorem dX9_lets_8 : decode cX9_lets 8 = .ok (.aload_n 0, 1) := dk_42 (dk_at dksX9_lets_0 8 rfl rfl)
theorem dX9_lets_9 : decode cX9_lets 9 = .ok (.invokevirtual 257, 3) := dk_182 1 1 (dk_at dksX9_lets_0 9 rfl rfl)
theorem dX9_lets_12 : decode cX9_lets 12 = .ok (.if_icmp .ge 16, 3) := dk_162 0 16 (dk_at dksX9_lets_0 12 rfl rfl)
theorem dX9_lets_15 : decode cX9_lets 15 = .ok (.aload_n 0, 1) := dk_42 (dk_at dksX9_lets_0 15 rfl rfl)
theorem dX9_lets_16 : decode cX9_lets 16 = .ok (.getfield 59, 3) := dk_180 0 59 (dk_at dksX9_lets_0 16 rfl rfl)
theorem dX9_lets_19 : decode cX9_lets 19 = .ok (.iload_n 1, 1) := dk_27 (dk_at dksX9_lets_0 19 rfl rfl)
theorem dX9_lets_20 : decode cX9_lets 20 = .ok (.iconst (-1), 1) := dk_2 (dk_at dksX9_lets_0 20 rfl rfl)
theorem dX9_lets_21 : decode cX9_lets 21 = .ok (.iastore, 1) := dk_79 (dk_at dksX9_lets_0 21 rfl rfl)
theorem dX9_lets_22 : decode cX9_lets 22 = .ok (.iinc 1 1, 3) := dk_132 1 1 (dk_at dksX9_lets_1 0 rfl rfl)
theorem dX9_lets_25 : decode cX9_lets 25 = .ok (.goto (-18), 3) := dk_167 255 238 (dk_at dksX9_lets_1 3 rfl rfl)
theorem dX9_lets_28 : decode cX9_lets 28 = .ok (.aload_n 0, 1) := dk_42 (dk_at dksX9_lets_1 6 rfl rfl)
theorem dX9_lets_29 : decode cX9_lets 29 = .ok (.iconst (-1), 1) := dk_2 (dk_at dksX9_lets_1 7 rfl rfl)
theorem dX9_lets_30 : decode cX9_lets 30 = .ok (.invokevirtual 292, 3) := dk_182 1 36 (dk_at dksX9_lets_1 8 rfl rfl)
theorem dX9_lets_33 : decode cX9_lets 33 = .ok (.istore_n 1, 1) := dk_60 (dk_at dksX9_lets_1 11 rfl rfl)
theorem dX9_lets_34 : decode cX9_lets 34 = .ok (.iconst 0, 1) := dk_3 (dk_at dksX9_lets_1 12 rfl rfl)
theorem dX9_lets_35 : decode cX9_lets 35 = .ok (.istore_n 2, 1) := dk_61 (dk_at dksX9_lets_1 13 rfl rfl)
theorem dX9_lets_36 : decode cX9_lets 36 = .ok (.iload_n 2, 1) := dk_28 (dk_at dksX9_lets_1 14 rfl rfl)
theorem dX9_lets_37 : decode cX9_lets 37 = .ok (.aload_n 0, 1) := dk_42 (dk_at dksX9_lets_1 15 rfl rfl)
theorem dX9_lets_38 : decode cX9_lets 38 = .ok (.invokevirtual 257, 3) := dk_182 1 1 (dk_at dksX9_lets_1 16 rfl rfl)
theorem dX9_lets_41 : decode cX9_lets 41 = .ok (.if_icmp .ge 96, 3) := dk_162 0 96 (dk_at dksX9_lets_1 19 rfl rfl)
theorem dX9_lets_44 : decode cX9_lets 44 = .ok (.aload_n 0, 1) := dk_42 (dk_at dksX9_lets_1 22 rfl rfl)
theorem dX9_lets_45 : decode cX9_lets 45 = .ok (.iload_n 1, 1) := dk_27 (dk_at dksX9_lets_1 23 rfl rfl)
theorem dX9_lets_46 : decode cX9_lets 46 = .ok (.iconst 1, 1) := dk_4 (dk_at dksX9_lets_2 0 rfl rfl)
theorem dX9_lets_47 : decode cX9_lets 47 = .ok (.isub, 1) := dk_100 (dk_at dksX9_lets_2 1 rfl rfl)
theorem dX9_lets_48 : decode cX9_lets 48 = .ok (.invokevirtual 295, 3) := dk_182 1 39 (dk_at dksX9_lets_2 2 rfl rfl)
theorem dX9_lets_51 : decode cX9_lets 51 = .ok (.istore_n 3, 1) := dk_62 (dk_at dksX9_lets_2 5 rfl rfl)
theorem dX9_lets_52 : decode cX9_lets 52 = .ok (.aload_n 0, 1) := dk_42 (dk_at dksX9_lets_2 6 rfl rfl)
theorem dX9_lets_53 : decode cX9_lets 53 = .ok (.iload_n 1, 1) := dk_27 (dk_at dksX9_lets_2 7 rfl rfl)
theorem dX9_lets_54 : decode cX9_lets 54 = .ok (.iconst 1, 1) := dk_4 (dk_at dksX9_lets_2 8 rfl rfl)
theorem dX9_lets_55 : decode cX9_lets 55 = .ok (.iadd, 1) := dk_96 (dk_at dksX9_lets_2 9 rfl rfl)
theorem dX9_lets_56 : decode cX9_lets 56 = .ok (.invokevirtual 295, 3) := dk_182 1 39 (dk_at dksX9_lets_2 10 rfl rfl)
theorem dX9_lets_59 : decode cX9_lets 59 = .ok (.istore 4, 2) := dk_54 4 (dk_at dksX9_lets_2 13 rfl rfl)
theorem dX9_lets_61 : decode cX9_lets 61 = .ok (.iload_n 3, 1) := dk_29 (dk_at dksX9_lets_2 15 rfl rfl)
theorem dX9_lets_62 : decode cX9_lets 62 = .ok (.iconst (-1), 1) := dk_2 (dk_at dksX9_lets_2 16 rfl rfl)
theorem dX9_lets_63 : decode cX9_lets 63 = .ok (.if_icmp .ne 17, 3) := dk_160 0 17 (dk_at dksX9_lets_2 17 rfl rfl)
theorem dX9_lets_66 : decode cX9_lets 66 = .ok (.iload 4, 2) := dk_21 4 (dk_at dksX9_lets_2 20 rfl rfl)
theorem dX9_lets_68 : decode cX9_lets 68 = .ok (.iconst (-1), 1) := dk_2 (dk_at dksX9_lets_2 22 rfl rfl)
theorem dX9_lets_69 : decode cX9_lets 69 = .ok (.if_icmp .ne 11, 3) := dk_160 0 11 (dk_at dksX9_lets_3 0 rfl rfl)
theorem dX9_lets_72 : decode cX9_lets 72 = .ok (.aload_n 0, 1) := dk_42 (dk_at dksX9_lets_3 3 rfl rfl)
theorem dX9_lets_73 : decode cX9_lets 73 = .ok (.iload_n 1, 1) := dk_27 (dk_at dksX9_lets_3 4 rfl rfl)
theorem dX9_lets_74 : decode cX9_lets 74 = .ok (.invokevirtual 298, 3) := dk_182 1 42 (dk_at dksX9_lets_3 5 rfl rfl)
theorem dX9_lets_77 : decode cX9_lets 77 = .ok (.goto 48, 3) := dk_167 0 48 (dk_at dksX9_lets_3 8 rfl rfl)
theorem dX9_lets_80 : decode cX9_lets 80 = .ok (.iload_n 3, 1) := dk_29 (dk_at dksX9_lets_3 11 rfl rfl)
theorem dX9_lets_81 : decode cX9_lets 81 = .ok (.iconst (-1), 1) := dk_2 (dk_at dksX9_lets_3 12 rfl rfl)
theorem dX9_lets_82 : decode cX9_lets 82 = .ok (.if_icmp .eq 15, 3) := dk_159 0 15 (dk_at dksX9_lets_3 13 rfl rfl)
theorem dX9_lets_85 : decode cX9_lets 85 = .ok (.iload 4, 2) := dk_21 4 (dk_at dksX9_lets_3 16 rfl rfl)
theorem dX9_lets_87 : decode cX9_lets 87 = .ok (.iconst (-1), 1) := dk_2 (dk_at dksX9_lets_3 18 rfl rfl)
theorem dX9_lets_88 : decode cX9_lets 88 = .ok (.if_icmp .eq 9, 3) := dk_159 0 9 (dk_at dksX9_lets_3 19 rfl rfl)
theorem dX9_lets_91 : decode cX9_lets 91 = .ok (.iload_n 3, 1) := dk_29 (dk_at dksX9_lets_3 22 rfl rfl)
theorem dX9_lets_92 : decode cX9_lets 92 = .ok (.iload 4, 2) := dk_21 4 (dk_at dksX9_lets_4 0 rfl rfl)
theorem dX9_lets_94 : decode cX9_lets 94 = .ok (.if_icmp .ne 23, 3) := dk_160 0 23 (dk_at dksX9_lets_4 2 rfl rfl)
theorem dX9_lets_97 : decode cX9_lets 97 = .ok (.aload_n 0, 1) := dk_42 (dk_at dksX9_lets_4 5 rfl rfl)
theorem dX9_lets_98 : decode cX9_lets 98 = .ok (.getfield 59, 3) := dk_180 0 59 (dk_at dksX9_lets_4 6 rfl rfl)
theorem dX9_lets_101 : decode cX9_lets 101 = .ok (.iload_n 1, 1) := dk_27 (dk_at dksX9_lets_4 9 rfl rfl)
theorem dX9_lets_102 : decode cX9_lets 102 = .ok (.iload_n 3, 1) := dk_29 (dk_at dksX9_lets_4 10 rfl rfl)
theorem dX9_lets_103 : decode cX9_lets 103 = .ok (.iconst (-1), 1) := dk_2 (dk_at dksX9_lets_4 11 rfl rfl)
theorem dX9_lets_104 : decode cX9_lets 104 = .ok (.if_icmp .ne 8, 3) := dk_160 0 8 (dk_at dksX9_lets_4 12 rfl rfl)
theorem dX9_lets_107 : decode cX9_lets 107 = .ok (.iload 4, 2) := dk_21 4 (dk_at dksX9_lets_4 15 rfl rfl)
theorem dX9_lets_109 : decode cX9_lets 109 = .ok (.goto 4, 3) := dk_167 0 4 (dk_at dksX9_lets_4 17 rfl rfl)
theorem dX9_lets_112 : decode cX9_lets 112 = .ok (.iload_n 3, 1) := dk_29 (dk_at dksX9_lets_4 20 rfl rfl)
theorem dX9_lets_113 : decode cX9_lets 113 = .ok (.iastore, 1) := dk_79 (dk_at dksX9_lets_4 21 rfl rfl)
theorem dX9_lets_114 : decode cX9_lets 114 = .ok (.goto 11, 3) := dk_167 0 11 (dk_at dksX9_lets_5 0 rfl rfl)
theorem dX9_lets_117 : decode cX9_lets 117 = .ok (.aload_n 0, 1) := dk_42 (dk_at dksX9_lets_5 3 rfl rfl)
theorem dX9_lets_118 : decode cX9_lets 118 = .ok (.iload_n 3, 1) := dk_29 (dk_at dksX9_lets_5 4 rfl rfl)
theorem dX9_lets_119 : decode cX9_lets 119 = .ok (.iload 4, 2) := dk_21 4 (dk_at dksX9_lets_5 5 rfl rfl)
theorem dX9_lets_121 : decode cX9_lets 121 = .ok (.iload_n 1, 1) := dk_27 (dk_at dksX9_lets_5 7 rfl rfl)
theorem dX9_lets_122 : decode cX9_lets 122 = .ok (.invokevirtual 301, 3) := dk_182 1 45 (dk_at dksX9_lets_5 8 rfl rfl)
theorem dX9_lets_125 : decode cX9_lets 125 = .ok (.aload_n 0, 1) := dk_42 (dk_at dksX9_lets_5 11 rfl rfl)
theorem dX9_lets_126 : decode cX9_lets 126 = .ok (.iload_n 1, 1) := dk_27 (dk_at dksX9_lets_5 12 rfl rfl)
theorem dX9_lets_127 : decode cX9_lets 127 = .ok (.invokevirtual 292, 3) := dk_182 1 36 (dk_at dksX9_lets_5 13 rfl rfl)
theorem dX9_lets_130 : decode cX9_lets 130 = .ok (.istore_n 1, 1) := dk_60 (dk_at dksX9_lets_5 16 rfl rfl)
theorem dX9_lets_131 : decode cX9_lets 131 = .ok (.iinc 2 1, 3) := dk_132 2 1 (dk_at dksX9_lets_5 17 rfl rfl)
theorem dX9_lets_134 : decode cX9_lets 134 = .ok (.goto (-98), 3) := dk_167 255 158 (dk_at dksX9_lets_5 20 rfl rfl)
theorem dX9_lets_137 : decode cX9_lets 137 = .ok (.aload_n 0, 1) := dk_42 (dk_at dksX9_lets_5 23 rfl rfl)
theorem dX9_lets_138 : decode cX9_lets 138 = .ok (.getfield 53, 3) := dk_180 0 53 (dk_at dksX9_lets_6 0 rfl rfl)
theorem dX9_lets_141 : decode cX9_lets 141 = .ok (.iconst 0, 1) := dk_3 (dk_at dksX9_lets_6 3 rfl rfl)
theorem dX9_lets_142 : decode cX9_lets 142 = .ok (.aload_n 0, 1) := dk_42 (dk_at dksX9_lets_6 4 rfl rfl)
theorem dX9_lets_143 : decode cX9_lets 143 = .ok (.invokevirtual 305, 3) := dk_182 1 49 (dk_at dksX9_lets_6 5 rfl rfl)
theorem dX9_lets_146 : decode cX9_lets 146 = .ok (.iastore, 1) := dk_79 (dk_at dksX9_lets_6 8 rfl rfl)
theorem dX9_lets_147 : decode cX9_lets 147 = .ok (.return_, 1) := dk_177 (dk_at dksX9_lets_6 9 rfl rfl)
def dkwX9_nextBehind_2 : List UInt8 := [182, 1, 22, 153, 0, 7, 29, 167, 0, 4, 28, 61, 132, 3, 1, 167, 255, 199, 28, 172]
abbrev dktX9_nextBehind_2 : List UInt8 := dkwX9_nextBehind_2 ++ []
def dkwX9_nextBehind_1 : List UInt8 := [153, 0, 7, 4, 167, 0, 4, 3, 54, 4, 21, 4, 153, 0, 21, 28, 2, 159, 0, 12, 42, 29, 28]
abbrev dktX9_nextBehind_1 : List UInt8 := dkwX9_nextBehind_1 ++ dktX9_nextBehind_2
def dkwX9_nextBehind_0 : List UInt8 := [2, 61, 3, 62, 29, 42, 182, 1, 1, 162, 0, 55, 27, 2, 159, 0, 12, 42, 27, 29, 182, 1, 22]
abbrev dktX9_nextBehind_0 : List UInt8 := dkwX9_nextBehind_0 ++ dktX9_nextBehind_1
theorem dksX9_nextBehind_0 : cX9_nextBehind.data.toList.drop 0 = dktX9_nextBehind_0 := by decide +kernel
theorem dksX9_nextBehind_1 : cX9_nextBehind.data.toList.drop 23 = dktX9_nextBehind_1 := dk_seg dksX9_nextBehind_0 23 rfl rfl
theorem dksX9_nextBehind_2 : cX9_nextBehind.data.toList.drop 46 = dktX9_nextBehind_2 := dk_seg dksX9_nextBehind_1 23 rfl rfl
theorem dX9_nextBehind_0 : decode cX9_nextBehind 0 = .ok (.iconst (-1), 1) := dk_2 (dk_at dksX9_nextBehind_0 0 rfl rfl)
theorem dX9_nextBehind_1 : decode cX9_nextBehind 1 = .ok (.istore_n 2, 1) := dk_61 (dk_at dksX9_nextBehind_0 1 rfl rfl)
theorem dX9_nextBehind_2 : decode cX9_nextBehind 2 = .ok (.iconst 0, 1) := dk_3 (dk_at dksX9_nextBehind_0 2 rfl rfl)
theorem dX9_nextBehind_3 : decode cX9_nextBehind 3 = .ok (.istore_n 3, 1) := dk_62 (dk_at dksX9_nextBehind_0 3 rfl rfl)
theorem dX9_nextBehind_4 : decode cX9_nextBehind 4 = .ok (.iload_n 3, 1) := dk_29 (dk_at dksX9_nextBehind_0 4 rfl rfl)
theorem dX9_nextBehind_5 : decode cX9_nextBehind 5 = .ok (.aload_n 0, 1) := dk_42 (dk_at dksX9_nextBehind_0 5 rfl rfl)
theorem dX9_nextBehind_6 : decode cX9_nextBehind 6 = .ok (.invokevirtual 257, 3) := dk_182 1 1 (dk_at dksX9_nextBehind_0 6 rfl rfl)
theorem dX9_nextBehind_9 : decode cX9_nextBehind 9 = .ok (.if_icmp .ge 55, 3) := dk_162 0 55 (dk_at dksX9_nextBehind_0 9 rfl rfl)
theorem dX9_nextBehind_12 : decode cX9_nextBehind 12 = .ok (.iload_n 1, 1) := dk_27 (dk_at dksX9_nextBehind_0 12 rfl rfl)
theorem dX9_nextBehind_13 : decode cX9_nextBehind 13 = .ok (.iconst (-1), 1) := dk_2 (dk_at dksX9_nextBehind_0 13 rfl rfl)
theorem dX9_nextBehind_14 : decode cX9_nextBehind 14 = .ok (.if_icmp .eq 12, 3) := dk_159 0 12 (dk_at dksX9_nextBehind_0 14 rfl rfl)
theorem dX9_nextBehind_17 : decode cX9_nextBehind 17 = .ok (.aload_n 0, 1) := dk_42 (dk_at dksX9_nextBehind_0 17 rfl rfl)
theorem dX9_nextBehind_18 : decode cX9_nextBehind 18 = .ok (.iload_n 1, 1) := dk_27 (dk_at dksX9_nextBehind_0 18 rfl rfl)
theorem dX9_nextBehind_19 : decode cX9_nextBehind 19 = .ok (.iload_n 3, 1) := dk_29 (dk_at dksX9_nextBehind_0 19 rfl rfl)
theorem dX9_nextBehind_20 : decode cX9_nextBehind 20 = .ok (.invokevirtual 278, 3) := dk_182 1 22 (dk_at dksX9_nextBehind_0 20 rfl rfl)
theorem dX9_nextBehind_23 : decode cX9_nextBehind 23 = .ok (.ifCond .eq 7, 3) := dk_153 0 7 (dk_at dksX9_nextBehind_1 0 rfl rfl)
theorem dX9_nextBehind_26 : decode cX9_nextBehind 26 = .ok (.iconst 1, 1) := dk_4 (dk_at dksX9_nextBehind_1 3 rfl rfl)
theorem dX9_nextBehind_27 : decode cX9_nextBehind 27 = .ok (.goto 4, 3) := dk_167 0 4 (dk_at dksX9_nextBehind_1 4 rfl rfl)
theorem dX9_nextBehind_30 : decode cX9_nextBehind 30 = .ok (.iconst 0, 1) := dk_3 (dk_at dksX9_nextBehind_1 7 rfl rfl)
theorem dX9_nextBehind_31 : decode cX9_nextBehind 31 = .ok (.istore 4, 2) := dk_54 4 (dk_at dksX9_nextBehind_1 8 rfl rfl)
theorem dX9_nextBehind_33 : decode cX9_nextBehind 33 = .ok (.iload 4, 2) := dk_21 4 (dk_at dksX9_nextBehind_1 10 rfl rfl)
theorem dX9_nextBehind_35 : decode cX9_nextBehind 35 = .ok (.ifCond .eq 21, 3) := dk_153 0 21 (dk_at dksX9_nextBehind_1 12 rfl rfl)
theorem dX9_nextBehind_38 : decode cX9_nextBehind 38 = .ok (.iload_n 2, 1) := dk_28 (dk_at dksX9_nextBehind_1 15 rfl rfl)
theorem dX9_nextBehind_39 : decode cX9_nextBehind 39 = .ok (.iconst (-1), 1) := dk_2 (dk_at dksX9_nextBehind_1 16 rfl rfl)
theorem dX9_nextBehind_40 : decode cX9_nextBehind 40 = .ok (.if_icmp .eq 12, 3) := dk_159 0 12 (dk_at dksX9_nextBehind_1 17 rfl rfl)
theorem dX9_nextBehind_43 : decode cX9_nextBehind 43 = .ok (.aload_n 0, 1) := dk_42 (dk_at dksX9_nextBehind_1 20 rfl rfl)
theorem dX9_nextBehind_44 : decode cX9_nextBehind 44 = .ok (.iload_n 3, 1) := dk_29 (dk_at dksX9_nextBehind_1 21 rfl rfl)
theorem dX9_nextBehind_45 : decode cX9_nextBehind 45 = .ok (.iload_n 2, 1) := dk_28 (dk_at dksX9_nextBehind_1 22 rfl rfl)
theorem dX9_nextBehind_46 : decode cX9_nextBehind 46 = .ok (.invokevirtual 278, 3) := dk_182 1 22 (dk_at dksX9_nextBehind_2 0 rfl rfl)
theorem dX9_nextBehind_49 : decode cX9_nextBehind 49 = .ok (.ifCond .eq 7, 3) := dk_153 0 7 (dk_at dksX9_nextBehind_2 3 rfl rfl)
theorem dX9_nextBehind_52 : decode cX9_nextBehind 52 = .ok (.iload_n 3, 1) := dk_29 (dk_at dksX9_nextBehind_2 6 rfl rfl)
theorem dX9_nextBehind_53 : decode cX9_nextBehind 53 = .ok (.goto 4, 3) := dk_167 0 4 (dk_at dksX9_nextBehind_2 7 rfl rfl)
theorem dX9_nextBehind_56 : decode cX9_nextBehind 56 = .ok (.iload_n 2, 1) := dk_28 (dk_at dksX9_nextBehind_2 10 rfl rfl)
theorem dX9_nextBehind_57 : decode cX9_nextBehind 57 = .ok (.istore_n 2, 1) := dk_61 (dk_at dksX9_nextBehind_2 11 rfl rfl)
theorem dX9_nextBehind_58 : decode cX9_nextBehind 58 = .ok (.iinc 3 1, 3) := dk_132 3 1 (dk_at dksX9_nextBehind_2 12 rfl rfl)
theorem dX9_nextBehind_61 : decode cX9_nextBehind 61 = .ok (.goto (-57), 3) := dk_167 255 199 (dk_at dksX9_nextBehind_2 15 rfl rfl)
theorem dX9_nextBehind_64 : decode cX9_nextBehind 64 = .ok (.iload_n 2, 1) := dk_28 (dk_at dksX9_nextBehind_2 18 rfl rfl)
theorem dX9_nextBehind_65 : decode cX9_nextBehind 65 = .ok (.ireturn, 1) := dk_172 (dk_at dksX9_nextBehind_2 19 rfl rfl)
def dkwX9_isAhead_1 : List UInt8 := [180, 0, 32, 28, 46, 160, 0, 12, 27, 28, 162, 0, 7, 4, 167, 0, 4, 3, 172]
abbrev dktX9_isAhead_1 : List UInt8 := dkwX9_isAhead_1 ++ []
def dkwX9_isAhead_0 : List UInt8 := [42, 180, 0, 32, 27, 46, 42, 180, 0, 32, 28, 46, 163, 0, 23, 42, 180, 0, 32, 27, 46, 42]
abbrev dktX9_isAhead_0 : List UInt8 := dkwX9_isAhead_0 ++ dktX9_isAhead_1
theorem dksX9_isAhead_0 : cX9_isAhead.data.toList.drop 0 = dktX9_isAhead_0 := by decide +kernel
theorem dksX9_isAhead_1 : cX9_isAhead.data.toList.drop 22 = dktX9_isAhead_1 := dk_seg dksX9_isAhead_0 22 rfl rfl
theorem dX9_isAhead_0 : decode cX9_isAhead 0 = .ok (.aload_n 0, 1) := dk_42 (dk_at dksX9_isAhead_0 0 rfl rfl)
theorem dX9_isAhead_1 : decode cX9_isAhead 1 = .ok (.getfield 32, 3) := dk_180 0 32 (dk_at dksX9_isAhead_0 1 rfl rfl)
theorem dX9_isAhead_4 : decode cX9_isAhead 4 = .ok (.iload_n 1, 1) := dk_27 (dk_at dksX9_isAhead_0 4 rfl rfl)
theorem dX9_isAhead_5 : decode cX9_isAhead 5 = .ok (.iaload, 1) := dk_46 (dk_at dksX9_isAhead_0 5 rfl rfl)
theorem dX9_isAhead_6 : decode cX9_isAhead 6 = .ok (.aload_n 0, 1) := dk_42 (dk_at dksX9_isAhead_0 6 rfl rfl)
theorem dX9_isAhead_7 : decode cX9_isAhead 7 = .ok (.getfield 32, 3) := dk_180 0 32 (dk_at dksX9_isAhead_0 7 rfl rfl)
theorem dX9_isAhead_10 : decode cX9_isAhead 10 = .ok (.iload_n 2, 1) := dk_28 (dk_at dksX9_isAhead_0 10 rfl rfl)
theorem dX9_isAhead_11 : decode cX9_isAhead 11 = .ok (.iaload, 1) := dk_46 (dk_at dksX9_isAhead_0 11 rfl rfl)
theorem dX9_isAhead_12 : decode cX9_isAhead 12 = .ok (.if_icmp .gt 23, 3) := dk_163 0 23 (dk_at dksX9_isAhead_0 12 rfl rfl)
theorem dX9_isAhead_15 : decode cX9_isAhead 15 = .ok (.aload_n 0, 1) := dk_42 (dk_at dksX9_isAhead_0 15 rfl rfl)
theorem dX9_isAhead_16 : decode cX9_isAhead 16 = .ok (.getfield 32, 3) := dk_180 0 32 (dk_at dksX9_isAhead_0 16 rfl rfl)
theorem dX9_isAhead_19 : decode cX9_isAhead 19 = .ok (.iload_n 1, 1) := dk_27 (dk_at dksX9_isAhead_0 19 rfl rfl)
theorem dX9_isAhead_20 : decode cX9_isAhead 20 = .ok (.iaload, 1) := dk_46 (dk_at dksX9_isAhead_0 20 rfl rfl)
theorem dX9_isAhead_21 : decode cX9_isAhead 21 = .ok (.aload_n 0, 1) := dk_42 (dk_at dksX9_isAhead_0 21 rfl rfl)
theorem dX9_isAhead_22 : decode cX9_isAhead 22 = .ok (.getfield 32, 3) := dk_180 0 32 (dk_at dksX9_isAhead_1 0 rfl rfl)
theorem dX9_isAhead_25 : decode cX9_isAhead 25 = .ok (.iload_n 2, 1) := dk_28 (dk_at dksX9_isAhead_1 3 rfl rfl)
theorem dX9_isAhead_26 : decode cX9_isAhead 26 = .ok (.iaload, 1) := dk_46 (dk_at dksX9_isAhead_1 4 rfl rfl)
theorem dX9_isAhead_27 : decode cX9_isAhead 27 = .ok (.if_icmp .ne 12, 3) := dk_160 0 12 (dk_at dksX9_isAhead_1 5 rfl rfl)
theorem dX9_isAhead_30 : decode cX9_isAhead 30 = .ok (.iload_n 1, 1) := dk_27 (dk_at dksX9_isAhead_1 8 rfl rfl)
theorem dX9_isAhead_31 : decode cX9_isAhead 31 = .ok (.iload_n 2, 1) := dk_28 (dk_at dksX9_isAhead_1 9 rfl rfl)
theorem dX9_isAhead_32 : decode cX9_isAhead 32 = .ok (.if_icmp .ge 7, 3) := dk_162 0 7 (dk_at dksX9_isAhead_1 10 rfl rfl)
theorem dX9_isAhead_35 : decode cX9_isAhead 35 = .ok (.iconst 1, 1) := dk_4 (dk_at dksX9_isAhead_1 13 rfl rfl)
theorem dX9_isAhead_36 : decode cX9_isAhead 36 = .ok (.goto 4, 3) := dk_167 0 4 (dk_at dksX9_isAhead_1 14 rfl rfl)
theorem dX9_isAhead_39 : decode cX9_isAhead 39 = .ok (.iconst 0, 1) := dk_3 (dk_at dksX9_isAhead_1 17 rfl rfl)
theorem dX9_isAhead_40 : decode cX9_isAhead 40 = .ok (.ireturn, 1) := dk_172 (dk_at dksX9_isAhead_1 18 rfl rfl)
def dkwX9_belongsAt_1 : List UInt8 := [172]
abbrev dktX9_belongsAt_1 : List UInt8 := dkwX9_belongsAt_1 ++ []
def dkwX9_belongsAt_0 : List UInt8 := [27, 3, 42, 182, 1, 1, 4, 100, 184, 0, 103, 153, 0, 12, 42, 180, 0, 59, 27, 46, 167, 0, 4, 2]
abbrev dktX9_belongsAt_0 : List UInt8 := dkwX9_belongsAt_0 ++ dktX9_belongsAt_1
theorem dksX9_belongsAt_0 : cX9_belongsAt.data.toList.drop 0 = dktX9_belongsAt_0 := by decide +kernel
theorem dksX9_belongsAt_1 : cX9_belongsAt.data.toList.drop 24 = dktX9_belongsAt_1 := dk_seg dksX9_belongsAt_0 24 rfl rfl
theorem dX9_belongsAt_0 : decode cX9_belongsAt 0 = .ok (.iload_n 1, 1) := dk_27 (dk_at dksX9_belongsAt_0 0 rfl rfl)
theorem dX9_belongsAt_1 : decode cX9_belongsAt 1 = .ok (.iconst 0, 1) := dk_3 (dk_at dksX9_belongsAt_0 1 rfl rfl)
theorem dX9_belongsAt_2 : decode cX9_belongsAt 2 = .ok (.aload_n 0, 1) := dk_42 (dk_at dksX9_belongsAt_0 2 rfl rfl)
theorem dX9_belongsAt_3 : decode cX9_belongsAt 3 = .ok (.invokevirtual 257, 3) := dk_182 1 1 (dk_at dksX9_belongsAt_0 3 rfl rfl)
theorem dX9_belongsAt_6 : decode cX9_belongsAt 6 = .ok (.iconst 1, 1) := dk_4 (dk_at dksX9_belongsAt_0 6 rfl rfl)
theorem dX9_belongsAt_7 : decode cX9_belongsAt 7 = .ok (.isub, 1) := dk_100 (dk_at dksX9_belongsAt_0 7 rfl rfl)
theorem dX9_belongsAt_8 : decode cX9_belongsAt 8 = .ok (.invokestatic 103, 3) := dk_184 0 103 (dk_at dksX9_belongsAt_0 8 rfl rfl)
theorem dX9_belongsAt_11 : decode cX9_belongsAt 11 = .ok (.ifCond .eq 12, 3) := dk_153 0 12 (dk_at dksX9_belongsAt_0 11 rfl rfl)
theorem dX9_belongsAt_14 : decode cX9_belongsAt 14 = .ok (.aload_n 0, 1) := dk_42 (dk_at dksX9_belongsAt_0 14 rfl rfl)
theorem dX9_belongsAt_15 : decode cX9_belongsAt 15 = .ok (.getfield 59, 3) := dk_180 0 59 (dk_at dksX9_belongsAt_0 15 rfl rfl)
theorem dX9_belongsAt_18 : decode cX9_belongsAt 18 = .ok (.iload_n 1, 1) := dk_27 (dk_at dksX9_belongsAt_0 18 rfl rfl)
theorem dX9_belongsAt_19 : decode cX9_belongsAt 19 = .ok (.iaload, 1) := dk_46 (dk_at dksX9_belongsAt_0 19 rfl rfl)
theorem dX9_belongsAt_20 : decode cX9_belongsAt 20 = .ok (.goto 4, 3) := dk_167 0 4 (dk_at dksX9_belongsAt_0 20 rfl rfl)
theorem dX9_belongsAt_23 : decode cX9_belongsAt 23 = .ok (.iconst (-1), 1) := dk_2 (dk_at dksX9_belongsAt_0 23 rfl rfl)
theorem dX9_belongsAt_24 : decode cX9_belongsAt 24 = .ok (.ireturn, 1) := dk_172 (dk_at dksX9_belongsAt_1 0 rfl rfl)
def dkwX9_beginsAt_2 : List UInt8 := [181, 1, 25, 177]
abbrev dktX9_beginsAt_2 : List UInt8 := dkwX9_beginsAt_2 ++ []
def dkwX9_beginsAt_1 : List UInt8 := [42, 180, 1, 25, 2, 79, 42, 180, 0, 59, 27, 42, 180, 1, 25, 79, 42, 89, 180, 1, 25, 4, 96]
abbrev dktX9_beginsAt_1 : List UInt8 := dkwX9_beginsAt_1 ++ dktX9_beginsAt_2
def dkwX9_beginsAt_0 : List UInt8 := [42, 180, 0, 47, 42, 180, 1, 25, 27, 79, 42, 180, 0, 50, 42, 180, 1, 25, 2, 79, 42, 180, 0, 56]
abbrev dktX9_beginsAt_0 : List UInt8 := dkwX9_beginsAt_0 ++ dktX9_beginsAt_1
theorem dksX9_beginsAt_0 : cX9_beginsAt.data.toList.drop 0 = dktX9_beginsAt_0 := by decide +kernel
theorem dksX9_beginsAt_1 : cX9_beginsAt.data.toList.drop 24 = dktX9_beginsAt_1 := dk_seg dksX9_beginsAt_0 24 rfl rfl
theorem dksX9_beginsAt_2 : cX9_beginsAt.data.toList.drop 47 = dktX9_beginsAt_2 := dk_seg dksX9_beginsAt_1 23 rfl rfl
theorem dX9_beginsAt_0 : decode cX9_beginsAt 0 = .ok (.aload_n 0, 1) := dk_42 (dk_at dksX9_beginsAt_0 0 rfl rfl)
theorem dX9_beginsAt_1 : decode cX9_beginsAt 1 = .ok (.getfield 47, 3) := dk_180 0 47 (dk_at dksX9_beginsAt_0 1 rfl rfl)
theorem dX9_beginsAt_4 : decode cX9_beginsAt 4 = .ok (.aload_n 0, 1) := dk_42 (dk_at dksX9_beginsAt_0 4 rfl rfl)
theorem dX9_beginsAt_5 : decode cX9_beginsAt 5 = .ok (.getfield 281, 3) := dk_180 1 25 (dk_at dksX9_beginsAt_0 5 rfl rfl)
theorem dX9_beginsAt_8 : decode cX9_beginsAt 8 = .ok (.iload_n 1, 1) := dk_27 (dk_at dksX9_beginsAt_0 8 rfl rfl)
theorem dX9_beginsAt_9 : decode cX9_beginsAt 9 = .ok (.iastore, 1) := dk_79 (dk_at dksX9_beginsAt_0 9 rfl rfl)
theorem dX9_beginsAt_10 : decode cX9_beginsAt 10 = .ok (.aload_n 0, 1) := dk_42 (dk_at dksX9_beginsAt_0 10 rfl rfl)
theorem dX9_beginsAt_11 : decode cX9_beginsAt 11 = .ok (.getfield 50, 3) := dk_180 0 50 (dk_at dksX9_beginsAt_0 11 rfl rfl)
theorem dX9_beginsAt_14 : decode cX9_beginsAt 14 = .ok (.aload_n 0, 1) := dk_42 (dk_at dksX9_beginsAt_0 14 rfl rfl)
theorem dX9_beginsAt_15 : decode cX9_beginsAt 15 = .ok (.getfield 281, 3) := dk_180 1 25 (dk_at dksX9_beginsAt_0 15 rfl rfl)
theorem dX9_beginsAt_18 : decode cX9_beginsAt 18 = .ok (.iconst (-1), 1) := dk_2 (dk_at dksX9_beginsAt_0 18 rfl rfl)
theorem dX9_beginsAt_19 : decode cX9_beginsAt 19 = .ok (.iastore, 1) := dk_79 (dk_at dksX9_beginsAt_0 19 rfl rfl)
theorem dX9_beginsAt_20 : decode cX9_beginsAt 20 = .ok (.aload_n 0, 1) := dk_42 (dk_at dksX9_beginsAt_0 20 rfl rfl)
theorem dX9_beginsAt_21 : decode cX9_beginsAt 21 = .ok (.getfield 56, 3) := dk_180 0 56 (dk_at dksX9_beginsAt_0 21 rfl rfl)
theorem dX9_beginsAt_24 : decode cX9_beginsAt 24 = .ok (.aload_n 0, 1) := dk_42 (dk_at dksX9_beginsAt_1 0 rfl rfl)
theorem dX9_beginsAt_25 : decode cX9_beginsAt 25 = .ok (.getfield 281, 3) := dk_180 1 25 (dk_at dksX9_beginsAt_1 1 rfl rfl)
theorem dX9_beginsAt_28 : decode cX9_beginsAt 28 = .ok (.iconst (-1), 1) := dk_2 (dk_at dksX9_beginsAt_1 4 rfl rfl)
theorem dX9_beginsAt_29 : decode cX9_beginsAt 29 = .ok (.iastore, 1) := dk_79 (dk_at dksX9_beginsAt_1 5 rfl rfl)
theorem dX9_beginsAt_30 : decode cX9_beginsAt 30 = .ok (.aload_n 0, 1) := dk_42 (dk_at dksX9_beginsAt_1 6 rfl rfl)
theorem dX9_beginsAt_31 : decode cX9_beginsAt 31 = .ok (.getfield 59, 3) := dk_180 0 59 (dk_at dksX9_beginsAt_1 7 rfl rfl)
theorem dX9_beginsAt_34 : decode cX9_beginsAt 34 = .ok (.iload_n 1, 1) := dk_27 (dk_at dksX9_beginsAt_1 10 rfl rfl)
theorem dX9_beginsAt_35 : decode cX9_beginsAt 35 = .ok (.aload_n 0, 1) := dk_42 (dk_at dksX9_beginsAt_1 11 rfl rfl)
theorem dX9_beginsAt_36 : decode cX9_beginsAt 36 = .ok (.getfield 281, 3) := dk_180 1 25 (dk_at dksX9_beginsAt_1 12 rfl rfl)
theorem dX9_beginsAt_39 : decode cX9_beginsAt 39 = .ok (.iastore, 1) := dk_79 (dk_at dksX9_beginsAt_1 15 rfl rfl)
theorem dX9_beginsAt_40 : decode cX9_beginsAt 40 = .ok (.aload_n 0, 1) := dk_42 (dk_at dksX9_beginsAt_1 16 rfl rfl)
theorem dX9_beginsAt_41 : decode cX9_beginsAt 41 = .ok (.dup, 1) := dk_89 (dk_at dksX9_beginsAt_1 17 rfl rfl)
theorem dX9_beginsAt_42 : decode cX9_beginsAt 42 = .ok (.getfield 281, 3) := dk_180 1 25 (dk_at dksX9_beginsAt_1 18 rfl rfl)
theorem dX9_beginsAt_45 : decode cX9_beginsAt 45 = .ok (.iconst 1, 1) := dk_4 (dk_at dksX9_beginsAt_1 21 rfl rfl)
theorem dX9_beginsAt_46 : decode cX9_beginsAt 46 = .ok (.iadd, 1) := dk_96 (dk_at dksX9_beginsAt_1 22 rfl rfl)
theorem dX9_beginsAt_47 : decode cX9_beginsAt 47 = .ok (.putfield 281, 3) := dk_181 1 25 (dk_at dksX9_beginsAt_2 0 rfl rfl)
theorem dX9_beginsAt_50 : decode cX9_beginsAt 50 = .ok (.return_, 1) := dk_177 (dk_at dksX9_beginsAt_2 3 rfl rfl)
def dkwX9_joins_4 : List UInt8 := [180, 0, 59, 29, 21, 4, 79, 177]
abbrev dktX9_joins_4 : List UInt8 := dkwX9_joins_4 ++ []
def dkwX9_joins_3 : List UInt8 := [160, 0, 8, 21, 4, 167, 0, 10, 42, 180, 0, 59, 21, 6, 46, 79, 132, 6, 1, 167, 255, 213, 42]
abbrev dktX9_joins_3 : List UInt8 := dkwX9_joins_3 ++ dktX9_joins_4
def dkwX9_joins_2 : List UInt8 := [21, 6, 42, 182, 1, 1, 162, 0, 40, 42, 180, 0, 59, 21, 6, 42, 180, 0, 59, 21, 6, 46, 21, 5]
abbrev dktX9_joins_2 : List UInt8 := dkwX9_joins_2 ++ dktX9_joins_3
def dkwX9_joins_1 : List UInt8 := [180, 0, 53, 21, 5, 42, 180, 0, 32, 29, 46, 79, 42, 180, 0, 56, 21, 5, 21, 4, 79, 3, 54, 6]
abbrev dktX9_joins_1 : List UInt8 := dkwX9_joins_1 ++ dktX9_joins_2
def dkwX9_joins_0 : List UInt8 := [27, 28, 184, 1, 28, 54, 4, 27, 28, 184, 1, 33, 54, 5, 42, 180, 0, 50, 21, 5, 29, 79, 42]
abbrev dktX9_joins_0 : List UInt8 := dkwX9_joins_0 ++ dktX9_joins_1
theorem dksX9_joins_0 : cX9_joins.data.toList.drop 0 = dktX9_joins_0 := by decide +kernel
theorem dksX9_joins_1 : cX9_joins.data.toList.drop 23 = dktX9_joins_1 := dk_seg dksX9_joins_0 23 rfl rfl
theorem dksX9_joins_2 : cX9_joins.data.toList.drop 47 = dktX9_joins_2 := dk_seg dksX9_joins_1 24 rfl rfl
theorem dksX9_joins_3 : cX9_joins.data.toList.drop 71 = dktX9_joins_3 := dk_seg dksX9_joins_2 24 rfl rfl
theorem dksX9_joins_4 : cX9_joins.data.toList.drop 94 = dktX9_joins_4 := dk_seg dksX9_joins_3 23 rfl rfl
theorem dX9_joins_0 : decode cX9_joins 0 = .ok (.iload_n 1, 1) := dk_27 (dk_at dksX9_joins_0 0 rfl rfl)
theorem dX9_joins_1 : decode cX9_joins 1 = .ok (.iload_n 2, 1) := dk_28 (dk_at dksX9_joins_0 1 rfl rfl)
theorem dX9_joins_2 : decode cX9_joins 2 = .ok (.invokestatic 284, 3) := dk_184 1 28 (dk_at dksX9_joins_0 2 rfl rfl)
theorem dX9_joins_5 : decode cX9_joins 5 = .ok (.istore 4, 2) := dk_54 4 (dk_at dksX9_joins_0 5 rfl rfl)
theorem dX9_joins_7 : decode cX9_joins 7 = .ok (.iload_n 1, 1) := dk_27 (dk_at dksX9_joins_0 7 rfl rfl)
theorem dX9_joins_8 : decode cX9_joins 8 = .ok (.iload_n 2, 1) := dk_28 (dk_at dksX9_joins_0 8 rfl rfl)
theorem dX9_joins_9 : decode cX9_joins 9 = .ok (.invokestatic 289, 3) := dk_184 1 33 (dk_at dksX9_joins_0 9 rfl rfl)
theorem dX9_joins_12 : decode cX9_joins 12 = .ok (.istore 5, 2) := dk_54 5 (dk_at dksX9_joins_0 12 rfl rfl)
theorem dX9_joins_14 : decode cX9_joins 14 = .ok (.aload_n 0, 1) := dk_42 (dk_at dksX9_joins_0 14 rfl rfl)
theorem dX9_joins_15 : decode cX9_joins 15 = .ok (.getfield 50, 3) := dk_180 0 50 (dk_at dksX9_joins_0 15 rfl rfl)
theorem dX9_joins_18 : decode cX9_joins 18 = .ok (.iload 5, 2) := dk_21 5 (dk_at dksX9_joins_0 18 rfl rfl)
theorem dX9_joins_20 : decode cX9_joins 20 = .ok (.iload_n 3, 1) := dk_29 (dk_at dksX9_joins_0 20 rfl rfl)
theorem dX9_joins_21 : decode cX9_joins 21 = .ok (.iastore, 1) := dk_79 (dk_at dksX9_joins_0 21 rfl rfl)
theorem dX9_joins_22 : decode cX9_joins 22 = .ok (.aload_n 0, 1) := dk_42 (dk_at dksX9_joins_0 22 rfl rfl)
theorem dX9_joins_23 : decode cX9_joins 23 = .ok (.getfield 53, 3) := dk_180 0 53 (dk_at dksX9_joins_1 0 rfl rfl)
theorem dX9_joins_26 : decode cX9_joins 26 = .ok (.iload 5, 2) := dk_21 5 (dk_at dksX9_joins_1 3 rfl rfl)
theorem dX9_joins_28 : decode cX9_joins 28 = .ok (.aload_n 0, 1) := dk_42 (dk_at dksX9_joins_1 5 rfl rfl)
theorem dX9_joins_29 : decode cX9_joins 29 = .ok (.getfield 32, 3) := dk_180 0 32 (dk_at dksX9_joins_1 6 rfl rfl)
theorem dX9_joins_32 : decode cX9_joins 32 = .ok (.iload_n 3, 1) := dk_29 (dk_at dksX9_joins_1 9 rfl rfl)
theorem dX9_joins_33 : decode cX9_joins 33 = .ok (.iaload, 1) := dk_46 (dk_at dksX9_joins_1 10 rfl rfl)
theorem dX9_joins_34 : decode cX9_joins 34 = .ok (.iastore, 1) := dk_79 (dk_at dksX9_joins_1 11 rfl rfl)
theorem dX9_joins_35 : decode cX9_joins 35 = .ok (.aload_n 0, 1) := dk_42 (dk_at dksX9_joins_1 12 rfl rfl)
theorem dX9_joins_36 : decode cX9_joins 36 = .ok (.getfield 56, 3) := dk_180 0 56 (dk_at dksX9_joins_1 13 rfl rfl)
theorem dX9_joins_39 : decode cX9_joins 39 = .ok (.iload 5, 2) := dk_21 5 (dk_at dksX9_joins_1 16 rfl rfl)
theorem dX9_joins_41 : decode cX9_joins 41 = .ok (.iload 4, 2) := dk_21 4 (dk_at dksX9_joins_1 18 rfl rfl)
theorem dX9_joins_43 : decode cX9_joins 43 = .ok (.iastore, 1) := dk_79 (dk_at dksX9_joins_1 20 rfl rfl)
theorem dX9_joins_44 : decode cX9_joins 44 = .ok (.iconst 0, 1) := dk_3 (dk_at dksX9_joins_1 21 rfl rfl)
theorem dX9_joins_45 : decode cX9_joins 45 = .ok (.istore 6, 2) := dk_54 6 (dk_at dksX9_joins_1 22 rfl rfl)
theorem dX9_joins_47 : decode cX9_joins 47 = .ok (.iload 6, 2) := dk_21 6 (dk_at dksX9_joins_2 0 rfl rfl)
theorem dX9_joins_49 : decode cX9_joins 49 = .ok (.aload_n 0, 1) := dk_42 (dk_at dksX9_joins_2 2 rfl rfl)
theorem dX9_joins_50 : decode cX9_joins 50 = .ok (.invokevirtual 257, 3) := dk_182 1 1 (dk_at dksX9_joins_2 3 rfl rfl)
theorem dX9_joins_53 : decode cX9_joins 53 = .ok (.if_icmp .ge 40, 3) := dk_162 0 40 (dk_at dksX9_joins_2 6 rfl rfl)
theorem dX9_joins_56 : decode cX9_joins 56 = .ok (.aload_n 0, 1) := dk_42 (dk_at dksX9_joins_2 9 rfl rfl)
theorem dX9_joins_57 : decode cX9_joins 57 = .ok (.getfield 59, 3) := dk_180 0 59 (dk_at dksX9_joins_2 10 rfl rfl)
theorem dX9_joins_60 : decode cX9_joins 60 = .ok (.iload 6, 2) := dk_21 6 (dk_at dksX9_joins_2 13 rfl rfl)
theorem dX9_joins_62 : decode cX9_joins 62 = .ok (.aload_n 0, 1) := dk_42 (dk_at dksX9_joins_2 15 rfl rfl)
theorem dX9_joins_63 : decode cX9_joins 63 = .ok (.getfield 59, 3) := dk_180 0 59 (dk_at dksX9_joins_2 16 rfl rfl)
theorem dX9_joins_66 : decode cX9_joins 66 = .ok (.iload 6, 2) := dk_21 6 (dk_at dksX9_joins_2 19 rfl rfl)
theorem dX9_joins_68 : decode cX9_joins 68 = .ok (.iaload, 1) := dk_46 (dk_at dksX9_joins_2 21 rfl rfl)
theorem dX9_joins_69 : decode cX9_joins 69 = .ok (.iload 5, 2) := dk_21 5 (dk_at dksX9_joins_2 22 rfl rfl)
theorem dX9_joins_71 : decode cX9_joins 71 = .ok (.if_icmp .ne 8, 3) := dk_160 0 8 (dk_at dksX9_joins_3 0 rfl rfl)
theorem dX9_joins_74 : decode cX9_joins 74 = .ok (.iload 4, 2) := dk_21 4 (dk_at dksX9_joins_3 3 rfl rfl)
theorem dX9_joins_76 : decode cX9_joins 76 = .ok (.goto 10, 3) := dk_167 0 10 (dk_at dksX9_joins_3 5 rfl rfl)
theorem dX9_joins_79 : decode cX9_joins 79 = .ok (.aload_n 0, 1) := dk_42 (dk_at dksX9_joins_3 8 rfl rfl)
theorem dX9_joins_80 : decode cX9_joins 80 = .ok (.getfield 59, 3) := dk_180 0 59 (dk_at dksX9_joins_3 9 rfl rfl)
theorem dX9_joins_83 : decode cX9_joins 83 = .ok (.iload 6, 2) := dk_21 6 (dk_at dksX9_joins_3 12 rfl rfl)
theorem dX9_joins_85 : decode cX9_joins 85 = .ok (.iaload, 1) := dk_46 (dk_at dksX9_joins_3 14 rfl rfl)
theorem dX9_joins_86 : decode cX9_joins 86 = .ok (.iastore, 1) := dk_79 (dk_at dksX9_joins_3 15 rfl rfl)
theorem dX9_joins_87 : decode cX9_joins 87 = .ok (.iinc 6 1, 3) := dk_132 6 1 (dk_at dksX9_joins_3 16 rfl rfl)
theorem dX9_joins_90 : decode cX9_joins 90 = .ok (.goto (-43), 3) := dk_167 255 213 (dk_at dksX9_joins_3 19 rfl rfl)
theorem dX9_joins_93 : decode cX9_joins 93 = .ok (.aload_n 0, 1) := dk_42 (dk_at dksX9_joins_3 22 rfl rfl)
theorem dX9_joins_94 : decode cX9_joins 94 = .ok (.getfield 59, 3) := dk_180 0 59 (dk_at dksX9_joins_4 0 rfl rfl)
theorem dX9_joins_97 : decode cX9_joins 97 = .ok (.iload_n 3, 1) := dk_29 (dk_at dksX9_joins_4 3 rfl rfl)
theorem dX9_joins_98 : decode cX9_joins 98 = .ok (.iload 4, 2) := dk_21 4 (dk_at dksX9_joins_4 4 rfl rfl)
theorem dX9_joins_100 : decode cX9_joins 100 = .ok (.iastore, 1) := dk_79 (dk_at dksX9_joins_4 6 rfl rfl)
theorem dX9_joins_101 : decode cX9_joins 101 = .ok (.return_, 1) := dk_177 (dk_at dksX9_joins_4 7 rfl rfl)
def dkwX9_least_1 : List UInt8 := [184, 1, 28, 60, 132, 2, 1, 167, 255, 234, 27, 172]
abbrev dktX9_least_1 : List UInt8 := dkwX9_least_1 ++ []
def dkwX9_least_0 : List UInt8 := [42, 180, 0, 32, 3, 46, 60, 4, 61, 28, 42, 182, 1, 1, 162, 0, 20, 27, 42, 180, 0, 32, 28, 46]
abbrev dktX9_least_0 : List UInt8 := dkwX9_least_0 ++ dktX9_least_1
theorem dksX9_least_0 : cX9_least.data.toList.drop 0 = dktX9_least_0 := by decide +kernel
theorem dksX9_least_1 : cX9_least.data.toList.drop 24 = dktX9_least_1 := dk_seg dksX9_least_0 24 rfl rfl
theorem dX9_least_0 : decode cX9_least 0 = .ok (.aload_n 0, 1) := dk_42 (dk_at dksX9_least_0 0 rfl rfl)
theorem dX9_least_1 : decode cX9_least 1 = .ok (.getfield 32, 3) := dk_180 0 32 (dk_at dksX9_least_0 1 rfl rfl)
theorem dX9_least_4 : decode cX9_least 4 = .ok (.iconst 0, 1) := dk_3 (dk_at dksX9_least_0 4 rfl rfl)
theorem dX9_least_5 : decode cX9_least 5 = .ok (.iaload, 1) := dk_46 (dk_at dksX9_least_0 5 rfl rfl)
theorem dX9_least_6 : decode cX9_least 6 = .ok (.istore_n 1, 1) := dk_60 (dk_at dksX9_least_0 6 rfl rfl)
theorem dX9_least_7 : decode cX9_least 7 = .ok (.iconst 1, 1) := dk_4 (dk_at dksX9_least_0 7 rfl rfl)
theorem dX9_least_8 : decode cX9_least 8 = .ok (.istore_n 2, 1) := dk_61 (dk_at dksX9_least_0 8 rfl rfl)
theorem dX9_least_9 : decode cX9_least 9 = .ok (.iload_n 2, 1) := dk_28 (dk_at dksX9_least_0 9 rfl rfl)
theorem dX9_least_10 : decode cX9_least 10 = .ok (.aload_n 0, 1) := dk_42 (dk_at dksX9_least_0 10 rfl rfl)
theorem dX9_least_11 : decode cX9_least 11 = .ok (.invokevirtual 257, 3) := dk_182 1 1 (dk_at dksX9_least_0 11 rfl rfl)
theorem dX9_least_14 : decode cX9_least 14 = .ok (.if_icmp .ge 20, 3) := dk_162 0 20 (dk_at dksX9_least_0 14 rfl rfl)
theorem dX9_least_17 : decode cX9_least 17 = .ok (.iload_n 1, 1) := dk_27 (dk_at dksX9_least_0 17 rfl rfl)
theorem dX9_least_18 : decode cX9_least 18 = .ok (.aload_n 0, 1) := dk_42 (dk_at dksX9_least_0 18 rfl rfl)
theorem dX9_least_19 : decode cX9_least 19 = .ok (.getfield 32, 3) := dk_180 0 32 (dk_at dksX9_least_0 19 rfl rfl)
theorem dX9_least_22 : decode cX9_least 22 = .ok (.iload_n 2, 1) := dk_28 (dk_at dksX9_least_0 22 rfl rfl)
theorem dX9_least_23 : decode cX9_least 23 = .ok (.iaload, 1) := dk_46 (dk_at dksX9_least_0 23 rfl rfl)
theorem dX9_least_24 : decode cX9_least 24 = .ok (.invokestatic 284, 3) := dk_184 1 28 (dk_at dksX9_least_1 0 rfl rfl)
theorem dX9_least_27 : decode cX9_least 27 = .ok (.istore_n 1, 1) := dk_60 (dk_at dksX9_least_1 3 rfl rfl)
theorem dX9_least_28 : decode cX9_least 28 = .ok (.iinc 2 1, 3) := dk_132 2 1 (dk_at dksX9_least_1 4 rfl rfl)
theorem dX9_least_31 : decode cX9_least 31 = .ok (.goto (-22), 3) := dk_167 255 234 (dk_at dksX9_least_1 7 rfl rfl)
theorem dX9_least_34 : decode cX9_least 34 = .ok (.iload_n 1, 1) := dk_27 (dk_at dksX9_least_1 10 rfl rfl)
theorem dX9_least_35 : decode cX9_least 35 = .ok (.ireturn, 1) := dk_172 (dk_at dksX9_least_1 11 rfl rfl)
def dkwX9_lifeOf_0 : List UInt8 := [42, 180, 0, 32, 42, 180, 0, 47, 27, 46, 46, 42, 180, 0, 53, 27, 46, 100, 172]
abbrev dktX9_lifeOf_0 : List UInt8 := dkwX9_lifeOf_0 ++ []
theorem dksX9_lifeOf_0 : cX9_lifeOf.data.toList.drop 0 = dktX9_lifeOf_0 := by decide +kernel
theorem dX9_lifeOf_0 : decode cX9_lifeOf 0 = .ok (.aload_n 0, 1) := dk_42 (dk_at dksX9_lifeOf_0 0 rfl rfl)
theorem dX9_lifeOf_1 : decode cX9_lifeOf 1 = .ok (.getfield 32, 3) := dk_180 0 32 (dk_at dksX9_lifeOf_0 1 rfl rfl)
theorem dX9_lifeOf_4 : decode cX9_lifeOf 4 = .ok (.aload_n 0, 1) := dk_42 (dk_at dksX9_lifeOf_0 4 rfl rfl)
theorem dX9_lifeOf_5 : decode cX9_lifeOf 5 = .ok (.getfield 47, 3) := dk_180 0 47 (dk_at dksX9_lifeOf_0 5 rfl rfl)
theorem dX9_lifeOf_8 : decode cX9_lifeOf 8 = .ok (.iload_n 1, 1) := dk_27 (dk_at dksX9_lifeOf_0 8 rfl rfl)
theorem dX9_lifeOf_9 : decode cX9_lifeOf 9 = .ok (.iaload, 1) := dk_46 (dk_at dksX9_lifeOf_0 9 rfl rfl)
theorem dX9_lifeOf_10 : decode cX9_lifeOf 10 = .ok (.iaload, 1) := dk_46 (dk_at dksX9_lifeOf_0 10 rfl rfl)
theorem dX9_lifeOf_11 : decode cX9_lifeOf 11 = .ok (.aload_n 0, 1) := dk_42 (dk_at dksX9_lifeOf_0 11 rfl rfl)
theorem dX9_lifeOf_12 : decode cX9_lifeOf 12 = .ok (.getfield 53, 3) := dk_180 0 53 (dk_at dksX9_lifeOf_0 12 rfl rfl)
theorem dX9_lifeOf_15 : decode cX9_lifeOf 15 = .ok (.iload_n 1, 1) := dk_27 (dk_at dksX9_lifeOf_0 15 rfl rfl)
theorem dX9_lifeOf_16 : decode cX9_lifeOf 16 = .ok (.iaload, 1) := dk_46 (dk_at dksX9_lifeOf_0 16 rfl rfl)
theorem dX9_lifeOf_17 : decode cX9_lifeOf 17 = .ok (.isub, 1) := dk_100 (dk_at dksX9_lifeOf_0 17 rfl rfl)
theorem dX9_lifeOf_18 : decode cX9_lifeOf 18 = .ok (.ireturn, 1) := dk_172 (dk_at dksX9_lifeOf_0 18 rfl rfl)
def dkwX9_matches_9 : List UInt8 := [79, 42, 89, 180, 1, 67, 4, 96, 181, 1, 67, 132, 2, 1, 167, 255, 59, 177]
abbrev dktX9_matches_9 : List UInt8 := dkwX9_matches_9 ++ []
def dkwX9_matches_8 : List UInt8 := [167, 255, 114, 42, 180, 0, 68, 28, 46, 2, 159, 0, 25, 42, 180, 0, 71, 42, 180, 0, 68, 28, 46, 28]
abbrev dktX9_matches_8 : List UInt8 := dkwX9_matches_8 ++ dktX9_matches_9
def dkwX9_matches_7 : List UInt8 := [153, 0, 12, 21, 5, 153, 0, 7, 29, 167, 0, 9, 42, 180, 0, 68, 28, 46, 79, 132, 3, 1]
abbrev dktX9_matches_7 : List UInt8 := dkwX9_matches_7 ++ dktX9_matches_8
def dkwX9_matches_6 : List UInt8 := [27, 96, 184, 1, 70, 162, 0, 7, 4, 167, 0, 4, 3, 54, 5, 42, 180, 0, 68, 28, 21, 4]
abbrev dktX9_matches_6 : List UInt8 := dkwX9_matches_6 ++ dktX9_matches_7
def dkwX9_matches_5 : List UInt8 := [182, 1, 64, 27, 96, 184, 1, 70, 42, 180, 0, 38, 42, 180, 0, 68, 28, 46, 46, 42, 28, 182, 1, 64]
abbrev dktX9_matches_5 : List UInt8 := dkwX9_matches_5 ++ dktX9_matches_6
def dkwX9_matches_4 : List UInt8 := [167, 0, 4, 3, 54, 4, 42, 180, 0, 68, 28, 46, 2, 159, 0, 43, 42, 180, 0, 38, 29, 46, 42, 28]
abbrev dktX9_matches_4 : List UInt8 := dkwX9_matches_4 ++ dktX9_matches_5
def dkwX9_matches_3 : List UInt8 := [42, 180, 0, 38, 29, 46, 42, 28, 182, 1, 64, 27, 96, 184, 1, 70, 42, 180, 1, 4, 163, 0, 7, 4]
abbrev dktX9_matches_3 : List UInt8 := dkwX9_matches_3 ++ dktX9_matches_4
def dkwX9_matches_2 : List UInt8 := [180, 1, 7, 162, 0, 140, 28, 42, 180, 1, 58, 162, 0, 132, 42, 180, 0, 71, 29, 46, 2, 160, 0, 30]
abbrev dktX9_matches_2 : List UInt8 := dkwX9_matches_2 ++ dktX9_matches_3
def dkwX9_matches_1 : List UInt8 := [167, 255, 240, 3, 61, 28, 42, 180, 1, 25, 162, 0, 195, 42, 180, 0, 68, 28, 2, 79, 3, 62, 29, 42]
abbrev dktX9_matches_1 : List UInt8 := dkwX9_matches_1 ++ dktX9_matches_2
def dkwX9_matches_0 : List UInt8 := [42, 3, 181, 1, 67, 3, 61, 28, 16, 8, 162, 0, 16, 42, 180, 0, 71, 28, 2, 79, 132, 2, 1]
abbrev dktX9_matches_0 : List UInt8 := dkwX9_matches_0 ++ dktX9_matches_1
theorem dksX9_matches_0 : cX9_matches.data.toList.drop 0 = dktX9_matches_0 := by decide +kernel
theorem dksX9_matches_1 : cX9_matches.data.toList.drop 23 = dktX9_matches_1 := dk_seg dksX9_matches_0 23 rfl rfl
theorem dksX9_matches_2 : cX9_matches.data.toList.drop 47 = dktX9_matches_2 := dk_seg dksX9_matches_1 24 rfl rfl
theorem dksX9_matches_3 : cX9_matches.data.toList.drop 71 = dktX9_matches_3 := dk_seg dksX9_matches_2 24 rfl rfl
theorem dksX9_matches_4 : cX9_matches.data.toList.drop 95 = dktX9_matches_4 := dk_seg dksX9_matches_3 24 rfl rfl
theorem dksX9_matches_5 : cX9_matches.data.toList.drop 119 = dktX9_matches_5 := dk_seg dksX9_matches_4 24 rfl rfl
theorem dksX9_matches_6 : cX9_matches.data.toList.drop 143 = dktX9_matches_6 := dk_seg dksX9_matches_5 24 rfl rfl
theorem dksX9_matches_7 : cX9_matches.data.toList.drop 165 = dktX9_matches_7 := dk_seg dksX9_matches_6 22 rfl rfl
theorem dksX9_matches_8 : cX9_matches.data.toList.drop 187 = dktX9_matches_8 := dk_seg dksX9_matches_7 22 rfl rfl
theorem dksX9_matches_9 : cX9_matches.data.toList.drop 211 = dktX9_matches_9 := dk_seg dksX9_matches_8 24 rfl rfl
theorem dX9_matches_0 : decode cX9_matches 0 = .ok (.aload_n 0, 1) := dk_42 (dk_at dksX9_matches_0 0 rfl rfl)
theorem dX9_matches_1 : decode cX9_matches 1 = .ok (.iconst 0, 1) := dk_3 (dk_at dksX9_matches_0 1 rfl rfl)
theorem dX9_matches_2 : decode cX9_matches 2 = .ok (.putfield 323, 3) := dk_181 1 67 (dk_at dksX9_matches_0 2 rfl rfl)
theorem dX9_matches_5 : decode cX9_matches 5 = .ok (.iconst 0, 1) := dk_3 (dk_at dksX9_matches_0 5 rfl rfl)
theorem dX9_matches_6 : decode cX9_matches 6 = .ok (.istore_n 2, 1) := dk_61 (dk_at dksX9_matches_0 6 rfl rfl)
theorem dX9_matches_7 : decode cX9_matches 7 = .ok (.iload_n 2, 1) := dk_28 (dk_at dksX9_matches_0 7 rfl rfl)
theorem dX9_matches_8 : decode cX9_matches 8 = .ok (.bipush 8, 2) := dk_16 8 (dk_at dksX9_matches_0 8 rfl rfl)
theorem dX9_matches_10 : decode cX9_matches 10 = .ok (.if_icmp .ge 16, 3) := dk_162 0 16 (dk_at dksX9_matches_0 10 rfl rfl)
theorem dX9_matches_13 : decode cX9_matches 13 = .ok (.aload_n 0, 1) := dk_42 (dk_at dksX9_matches_0 13 rfl rfl)
theorem dX9_matches_14 : decode cX9_matches 14 = .ok (.getfield 71, 3) := dk_180 0 71 (dk_at dksX9_matches_0 14 rfl rfl)
theorem dX9_matches_17 : decode cX9_matches 17 = .ok (.iload_n 2, 1) := dk_28 (dk_at dksX9_matches_0 17 rfl rfl)
theorem dX9_matches_18 : decode cX9_matches 18 = .ok (.iconst (-1), 1) := dk_2 (dk_at dksX9_matches_0 18 rfl rfl)
theorem dX9_matches_19 : decode cX9_matches 19 = .ok (.iastore, 1) := dk_79 (dk_at dksX9_matches_0 19 rfl rfl)
theorem dX9_matches_20 : decode cX9_matches 20 = .ok (.iinc 2 1, 3) := dk_132 2 1 (dk_at dksX9_matches_0 20 rfl rfl)
theorem dX9_matches_23 : decode cX9_matches 23 = .ok (.goto (-16), 3) := dk_167 255 240 (dk_at dksX9_matches_1 0 rfl rfl)
theorem dX9_matches_26 : decode cX9_matches 26 = .ok (.iconst 0, 1) := dk_3 (dk_at dksX9_matches_1 3 rfl rfl)
theorem dX9_matches_27 : decode cX9_matches 27 = .ok (.istore_n 2, 1) := dk_61 (dk_at dksX9_matches_1 4 rfl rfl)
theorem dX9_matches_28 : decode cX9_matches 28 = .ok (.iload_n 2, 1) := dk_28 (dk_at dksX9_matches_1 5 rfl rfl)
theorem dX9_matches_29 : decode cX9_matches 29 = .ok (.aload_n 0, 1) := dk_42 (dk_at dksX9_matches_1 6 rfl rfl)
theorem dX9_matches_30 : decode cX9_matches 30 = .ok (.getfield 281, 3) := dk_180 1 25 (dk_at dksX9_matches_1 7 rfl rfl)
theorem dX9_matches_33 : decode cX9_matches 33 = .ok (.if_icmp .ge 195, 3) := dk_162 0 195 (dk_at dksX9_matches_1 10 rfl rfl)
theorem dX9_matches_36 : decode cX9_matches 36 = .ok (.aload_n 0, 1) := dk_42 (dk_at dksX9_matches_1 13 rfl rfl)
theorem dX9_matches_37 : decode cX9_matches 37 = .ok (.getfield 68, 3) := dk_180 0 68 (dk_at dksX9_matches_1 14 rfl rfl)
theorem dX9_matches_40 : decode cX9_matches 40 = .ok (.iload_n 2, 1) := dk_28 (dk_at dksX9_matches_1 17 rfl rfl)
theorem dX9_matches_41 : decode cX9_matches 41 = .ok (.iconst (-1), 1) := dk_2 (dk_at dksX9_matches_1 18 rfl rfl)
theorem dX9_matches_42 : decode cX9_matches 42 = .ok (.iastore, 1) := dk_79 (dk_at dksX9_matches_1 19 rfl rfl)
theorem dX9_matches_43 : decode cX9_matches 43 = .ok (.iconst 0, 1) := dk_3 (dk_at dksX9_matches_1 20 rfl rfl)
theorem dX9_matches_44 : decode cX9_matches 44 = .ok (.istore_n 3, 1) := dk_62 (dk_at dksX9_matches_1 21 rfl rfl)
theorem dX9_matches_45 : decode cX9_matches 45 = .ok (.iload_n 3, 1) := dk_29 (dk_at dksX9_matches_1 22 rfl rfl)
theorem dX9_matches_46 : decode cX9_matches 46 = .ok (.aload_n 0, 1) := dk_42 (dk_at dksX9_matches_1 23 rfl rfl)
theorem dX9_matches_47 : decode cX9_matches 47 = .ok (.getfield 263, 3) := dk_180 1 7 (dk_at dksX9_matches_2 0 rfl rfl)
theorem dX9_matches_50 : decode cX9_matches 50 = .ok (.if_icmp .ge 140, 3) := dk_162 0 140 (dk_at dksX9_matches_2 3 rfl rfl)
theorem dX9_matches_53 : decode cX9_matches 53 = .ok (.iload_n 2, 1) := dk_28 (dk_at dksX9_matches_2 6 rfl rfl)
theorem dX9_matches_54 : decode cX9_matches 54 = .ok (.aload_n 0, 1) := dk_42 (dk_at dksX9_matches_2 7 rfl rfl)
theorem dX9_matches_55 : decode cX9_matches 55 = .ok (.getfield 314, 3) := dk_180 1 58 (dk_at dksX9_matches_2 8 rfl rfl)
theorem dX9_matches_58 : decode cX9_matches 58 = .ok (.if_icmp .ge 132, 3) := dk_162 0 132 (dk_at dksX9_matches_2 11 rfl rfl)
theorem dX9_matches_61 : decode cX9_matches 61 = .ok (.aload_n 0, 1) := dk_42 (dk_at dksX9_matches_2 14 rfl rfl)
theorem dX9_matches_62 : decode cX9_matches 62 = .ok (.getfield 71, 3) := dk_180 0 71 (dk_at dksX9_matches_2 15 rfl rfl)
theorem dX9_matches_65 : decode cX9_matches 65 = .ok (.iload_n 3, 1) := dk_29 (dk_at dksX9_matches_2 18 rfl rfl)
theorem dX9_matches_66 : decode cX9_matches 66 = .ok (.iaload, 1) := dk_46 (dk_at dksX9_matches_2 19 rfl rfl)
theorem dX9_matches_67 : decode cX9_matches 67 = .ok (.iconst (-1), 1) := dk_2 (dk_at dksX9_matches_2 20 rfl rfl)
theorem dX9_matches_68 : decode cX9_matches 68 = .ok (.if_icmp .ne 30, 3) := dk_160 0 30 (dk_at dksX9_matches_2 21 rfl rfl)
theorem dX9_matches_71 : decode cX9_matches 71 = .ok (.aload_n 0, 1) := dk_42 (dk_at dksX9_matches_3 0 rfl rfl)
theorem dX9_matches_72 : decode cX9_matches 72 = .ok (.getfield 38, 3) := dk_180 0 38 (dk_at dksX9_matches_3 1 rfl rfl)
theorem dX9_matches_75 : decode cX9_matches 75 = .ok (.iload_n 3, 1) := dk_29 (dk_at dksX9_matches_3 4 rfl rfl)
theorem dX9_matches_76 : decode cX9_matches 76 = .ok (.iaload, 1) := dk_46 (dk_at dksX9_matches_3 5 rfl rfl)
theorem dX9_matches_77 : decode cX9_matches 77 = .ok (.aload_n 0, 1) := dk_42 (dk_at dksX9_matches_3 6 rfl rfl)
theorem dX9_matches_78 : decode cX9_matches 78 = .ok (.iload_n 2, 1) := dk_28 (dk_at dksX9_matches_3 7 rfl rfl)
theorem dX9_matches_79 : decode cX9_matches 79 = .ok (.invokevirtual 320, 3) := dk_182 1 64 (dk_at dksX9_matches_3 8 rfl rfl)
theorem dX9_matches_82 : decode cX9_matches 82 = .ok (.iload_n 1, 1) := dk_27 (dk_at dksX9_matches_3 11 rfl rfl)
theorem dX9_matches_83 : decode cX9_matches 83 = .ok (.iadd, 1) := dk_96 (dk_at dksX9_matches_3 12 rfl rfl)
theorem dX9_matches_84 : decode cX9_matches 84 = .ok (.invokestatic 326, 3) := dk_184 1 70 (dk_at dksX9_matches_3 13 rfl rfl)
theorem dX9_matches_87 : decode cX9_matches 87 = .ok (.aload_n 0, 1) := dk_42 (dk_at dksX9_matches_3 16 rfl rfl)
theorem dX9_matches_88 : decode cX9_matches 88 = .ok (.getfield 260, 3) := dk_180 1 4 (dk_at dksX9_matches_3 17 rfl rfl)
theorem dX9_matches_91 : decode cX9_matches 91 = .ok (.if_icmp .gt 7, 3) := dk_163 0 7 (dk_at dksX9_matches_3 20 rfl rfl)
theorem dX9_matches_94 : decode cX9_matches 94 = .ok (.iconst 1, 1) := dk_4 (dk_at dksX9_matches_3 23 rfl rfl)
theorem dX9_matches_95 : decode cX9_matches 95 = .ok (.goto 4, 3) := dk_167 0 4 (dk_at dksX9_matches_4 0 rfl rfl)
theorem dX9_matches_98 : decode cX9_matches 98 = .ok (.iconst 0, 1) := dk_3 (dk_at dksX9_matches_4 3 rfl rfl)
theorem dX9_matches_99 : decode cX9_matches 99 = .ok (.istore 4, 2) := dk_54 4 (dk_at dksX9_matches_4 4 rfl rfl)
theorem dX9_matches_101 : decode cX9_matches 101 = .ok (.aload_n 0, 1) := dk_42 (dk_at dksX9_matches_4 6 rfl rfl)
theorem dX9_matches_102 : decode cX9_matches 102 = .ok (.getfield 68, 3) := dk_180 0 68 (dk_at dksX9_matches_4 7 rfl rfl)
theorem dX9_matches_105 : decode cX9_matches 105 = .ok (.iload_n 2, 1) := dk_28 (dk_at dksX9_matches_4 10 rfl rfl)
theorem dX9_matches_106 : decode cX9_matches 106 = .ok (.iaload, 1) := dk_46 (dk_at dksX9_matches_4 11 rfl rfl)
theorem dX9_matches_107 : decode cX9_matches 107 = .ok (.iconst (-1), 1) := dk_2 (dk_at dksX9_matches_4 12 rfl rfl)
theorem dX9_matches_108 : decode cX9_matches 108 = .ok (.if_icmp .eq 43, 3) := dk_159 0 43 (dk_at dksX9_matches_4 13 rfl rfl)
theorem dX9_matches_111 : decode cX9_matches 111 = .ok (.aload_n 0, 1) := dk_42 (dk_at dksX9_matches_4 16 rfl rfl)
theorem dX9_matches_112 : decode cX9_matches 112 = .ok (.getfield 38, 3) := dk_180 0 38 (dk_at dksX9_matches_4 17 rfl rfl)
theorem dX9_matches_115 : decode cX9_matches 115 = .ok (.iload_n 3, 1) := dk_29 (dk_at dksX9_matches_4 20 rfl rfl)
theorem dX9_matches_116 : decode cX9_matches 116 = .ok (.iaload, 1) := dk_46 (dk_at dksX9_matches_4 21 rfl rfl)
theorem dX9_matches_117 : decode cX9_matches 117 = .ok (.aload_n 0, 1) := dk_42 (dk_at dksX9_matches_4 22 rfl rfl)
theorem dX9_matches_118 : decode cX9_matches 118 = .ok (.iload_n 2, 1) := dk_28 (dk_at dksX9_matches_4 23 rfl rfl)
theorem dX9_matches_119 : decode cX9_matches 119 = .ok (.invokevirtual 320, 3) := dk_182 1 64 (dk_at dksX9_matches_5 0 rfl rfl)
theorem dX9_matches_122 : decode cX9_matches 122 = .ok (.iload_n 1, 1) := dk_27 (dk_at dksX9_matches_5 3 rfl rfl)
theorem dX9_matches_123 : decode cX9_matches 123 = .ok (.iadd, 1) := dk_96 (dk_at dksX9_matches_5 4 rfl rfl)
theorem dX9_matches_124 : decode cX9_matches 124 = .ok (.invokestatic 326, 3) := dk_184 1 70 (dk_at dksX9_matches_5 5 rfl rfl)
theorem dX9_matches_127 : decode cX9_matches 127 = .ok (.aload_n 0, 1) := dk_42 (dk_at dksX9_matches_5 8 rfl rfl)
theorem dX9_matches_128 : decode cX9_matches 128 = .ok (.getfield 38, 3) := dk_180 0 38 (dk_at dksX9_matches_5 9 rfl rfl)
theorem dX9_matches_131 : decode cX9_matches 131 = .ok (.aload_n 0, 1) := dk_42 (dk_at dksX9_matches_5 12 rfl rfl)
theorem dX9_matches_132 : decode cX9_matches 132 = .ok (.getfield 68, 3) := dk_180 0 68 (dk_at dksX9_matches_5 13 rfl rfl)
theorem dX9_matches_135 : decode cX9_matches 135 = .ok (.iload_n 2, 1) := dk_28 (dk_at dksX9_matches_5 16 rfl rfl)
theorem dX9_matches_136 : decode cX9_matches 136 = .ok (.iaload, 1) := dk_46 (dk_at dksX9_matches_5 17 rfl rfl)
theorem dX9_matches_137 : decode cX9_matches 137 = .ok (.iaload, 1) := dk_46 (dk_at dksX9_matches_5 18 rfl rfl)
theorem dX9_matches_138 : decode cX9_matches 138 = .ok (.aload_n 0, 1) := dk_42 (dk_at dksX9_matches_5 19 rfl rfl)
theorem dX9_matches_139 : decode cX9_matches 139 = .ok (.iload_n 2, 1) := dk_28 (dk_at dksX9_matches_5 20 rfl rfl)
theorem dX9_matches_140 : decode cX9_matches 140 = .ok (.invokevirtual 320, 3) := dk_182 1 64 (dk_at dksX9_matches_5 21 rfl rfl)
theorem dX9_matches_143 : decode cX9_matches 143 = .ok (.iload_n 1, 1) := dk_27 (dk_at dksX9_matches_6 0 rfl rfl)
theorem dX9_matches_144 : decode cX9_matches 144 = .ok (.iadd, 1) := dk_96 (dk_at dksX9_matches_6 1 rfl rfl)
theorem dX9_matches_145 : decode cX9_matches 145 = .ok (.invokestatic 326, 3) := dk_184 1 70 (dk_at dksX9_matches_6 2 rfl rfl)
theorem dX9_matches_148 : decode cX9_matches 148 = .ok (.if_icmp .ge 7, 3) := dk_162 0 7 (dk_at dksX9_matches_6 5 rfl rfl)
theorem dX9_matches_151 : decode cX9_matches 151 = .ok (.iconst 1, 1) := dk_4 (dk_at dksX9_matches_6 8 rfl rfl)
theorem dX9_matches_152 : decode cX9_matches 152 = .ok (.goto 4, 3) := dk_167 0 4 (dk_at dksX9_matches_6 9 rfl rfl)
theorem dX9_matches_155 : decode cX9_matches 155 = .ok (.iconst 0, 1) := dk_3 (dk_at dksX9_matches_6 12 rfl rfl)
theorem dX9_matches_156 : decode cX9_matches 156 = .ok (.istore 5, 2) := dk_54 5 (dk_at dksX9_matches_6 13 rfl rfl)
theorem dX9_matches_158 : decode cX9_matches 158 = .ok (.aload_n 0, 1) := dk_42 (dk_at dksX9_matches_6 15 rfl rfl)
theorem dX9_matches_159 : decode cX9_matches 159 = .ok (.getfield 68, 3) := dk_180 0 68 (dk_at dksX9_matches_6 16 rfl rfl)
theorem dX9_matches_162 : decode cX9_matches 162 = .ok (.iload_n 2, 1) := dk_28 (dk_at dksX9_matches_6 19 rfl rfl)
theorem dX9_matches_163 : decode cX9_matches 163 = .ok (.iload 4, 2) := dk_21 4 (dk_at dksX9_matches_6 20 rfl rfl)
theorem dX9_matches_165 : decode cX9_matches 165 = .ok (.ifCond .eq 12, 3) := dk_153 0 12 (dk_at dksX9_matches_7 0 rfl rfl)
theorem dX9_matches_168 : decode cX9_matches 168 = .ok (.iload 5, 2) := dk_21 5 (dk_at dksX9_matches_7 3 rfl rfl)
theorem dX9_matches_170 : decode cX9_matches 170 = .ok (.ifCond .eq 7, 3) := dk_153 0 7 (dk_at dksX9_matches_7 5 rfl rfl)
theorem dX9_matches_173 : decode cX9_matches 173 = .ok (.iload_n 3, 1) := dk_29 (dk_at dksX9_matches_7 8 rfl rfl)
theorem dX9_matches_174 : decode cX9_matches 174 = .ok (.goto 9, 3) := dk_167 0 9 (dk_at dksX9_matches_7 9 rfl rfl)
theorem dX9_matches_177 : decode cX9_matches 177 = .ok (.aload_n 0, 1) := dk_42 (dk_at dksX9_matches_7 12 rfl rfl)
theorem dX9_matches_178 : decode cX9_matches 178 = .ok (.getfield 68, 3) := dk_180 0 68 (dk_at dksX9_matches_7 13 rfl rfl)
theorem dX9_matches_181 : decode cX9_matches 181 = .ok (.iload_n 2, 1) := dk_28 (dk_at dksX9_matches_7 16 rfl rfl)
theorem dX9_matches_182 : decode cX9_matches 182 = .ok (.iaload, 1) := dk_46 (dk_at dksX9_matches_7 17 rfl rfl)
theorem dX9_matches_183 : decode cX9_matches 183 = .ok (.iastore, 1) := dk_79 (dk_at dksX9_matches_7 18 rfl rfl)
theorem dX9_matches_184 : decode cX9_matches 184 = .ok (.iinc 3 1, 3) := dk_132 3 1 (dk_at dksX9_matches_7 19 rfl rfl)
theorem dX9_matches_187 : decode cX9_matches 187 = .ok (.goto (-142), 3) := dk_167 255 114 (dk_at dksX9_matches_8 0 rfl rfl)
theorem dX9_matches_190 : decode cX9_matches 190 = .ok (.aload_n 0, 1) := dk_42 (dk_at dksX9_matches_8 3 rfl rfl)
theorem dX9_matches_191 : decode cX9_matches 191 = .ok (.getfield 68, 3) := dk_180 0 68 (dk_at dksX9_matches_8 4 rfl rfl)
theorem dX9_matches_194 : decode cX9_matches 194 = .ok (.iload_n 2, 1) := dk_28 (dk_at dksX9_matches_8 7 rfl rfl)
theorem dX9_matches_195 : decode cX9_matches 195 = .ok (.iaload, 1) := dk_46 (dk_at dksX9_matches_8 8 rfl rfl)
theorem dX9_matches_196 : decode cX9_matches 196 = .ok (.iconst (-1), 1) := dk_2 (dk_at dksX9_matches_8 9 rfl rfl)
theorem dX9_matches_197 : decode cX9_matches 197 = .ok (.if_icmp .eq 25, 3) := dk_159 0 25 (dk_at dksX9_matches_8 10 rfl rfl)
theorem dX9_matches_200 : decode cX9_matches 200 = .ok (.aload_n 0, 1) := dk_42 (dk_at dksX9_matches_8 13 rfl rfl)
theorem dX9_matches_201 : decode cX9_matches 201 = .ok (.getfield 71, 3) := dk_180 0 71 (dk_at dksX9_matches_8 14 rfl rfl)
theorem dX9_matches_204 : decode cX9_matches 204 = .ok (.aload_n 0, 1) := dk_42 (dk_at dksX9_matches_8 17 rfl rfl)
theorem dX9_matches_205 : decode cX9_matches 205 = .ok (.getfield 68, 3) := dk_180 0 68 (dk_at dksX9_matches_8 18 rfl rfl)
theorem dX9_matches_208 : decode cX9_matches 208 = .ok (.iload_n 2, 1) := dk_28 (dk_at dksX9_matches_8 21 rfl rfl)
theorem dX9_matches_209 : decode cX9_matches 209 = .ok (.iaload, 1) := dk_46 (dk_at dksX9_matches_8 22 rfl rfl)
theorem dX9_matches_210 : decode cX9_matches 210 = .ok (.iload_n 2, 1) := dk_28 (dk_at dksX9_matches_8 23 rfl rfl)
theorem dX9_matches_211 : decode cX9_matches 211 = .ok (.iastore, 1) := dk_79 (dk_at dksX9_matches_9 0 rfl rfl)
theorem dX9_matches_212 : decode cX9_matches 212 = .ok (.aload_n 0, 1) := dk_42 (dk_at dksX9_matches_9 1 rfl rfl)
theorem dX9_matches_213 : decode cX9_matches 213 = .ok (.dup, 1) := dk_89 (dk_at dksX9_matches_9 2 rfl rfl)
theorem dX9_matches_214 : decode cX9_matches 214 = .ok (.getfield 323, 3) := dk_180 1 67 (dk_at dksX9_matches_9 3 rfl rfl)
theorem dX9_matches_217 : decode cX9_matches 217 = .ok (.iconst 1, 1) := dk_4 (dk_at dksX9_matches_9 6 rfl rfl)
theorem dX9_matches_218 : decode cX9_matches 218 = .ok (.iadd, 1) := dk_96 (dk_at dksX9_matches_9 7 rfl rfl)
theorem dX9_matches_219 : decode cX9_matches 219 = .ok (.putfield 323, 3) := dk_181 1 67 (dk_at dksX9_matches_9 8 rfl rfl)
theorem dX9_matches_222 : decode cX9_matches 222 = .ok (.iinc 2 1, 3) := dk_132 2 1 (dk_at dksX9_matches_9 11 rfl rfl)
theorem dX9_matches_225 : decode cX9_matches 225 = .ok (.goto (-197), 3) := dk_167 255 59 (dk_at dksX9_matches_9 14 rfl rfl)
theorem dX9_matches_228 : decode cX9_matches 228 = .ok (.return_, 1) := dk_177 (dk_at dksX9_matches_9 17 rfl rfl)
def dkwX9_placeOf_0 : List UInt8 := [42, 180, 0, 47, 42, 180, 0, 62, 27, 46, 46, 172]
abbrev dktX9_placeOf_0 : List UInt8 := dkwX9_placeOf_0 ++ []
theorem dksX9_placeOf_0 : cX9_placeOf.data.toList.drop 0 = dktX9_placeOf_0 := by decide +kernel
theorem dX9_placeOf_0 : decode cX9_placeOf 0 = .ok (.aload_n 0, 1) := dk_42 (dk_at dksX9_placeOf_0 0 rfl rfl)
theorem dX9_placeOf_1 : decode cX9_placeOf 1 = .ok (.getfield 47, 3) := dk_180 0 47 (dk_at dksX9_placeOf_0 1 rfl rfl)
theorem dX9_placeOf_4 : decode cX9_placeOf 4 = .ok (.aload_n 0, 1) := dk_42 (dk_at dksX9_placeOf_0 4 rfl rfl)
theorem dX9_placeOf_5 : decode cX9_placeOf 5 = .ok (.getfield 62, 3) := dk_180 0 62 (dk_at dksX9_placeOf_0 5 rfl rfl)
theorem dX9_placeOf_8 : decode cX9_placeOf 8 = .ok (.iload_n 1, 1) := dk_27 (dk_at dksX9_placeOf_0 8 rfl rfl)
theorem dX9_placeOf_9 : decode cX9_placeOf 9 = .ok (.iaload, 1) := dk_46 (dk_at dksX9_placeOf_0 9 rfl rfl)
theorem dX9_placeOf_10 : decode cX9_placeOf 10 = .ok (.iaload, 1) := dk_46 (dk_at dksX9_placeOf_0 10 rfl rfl)
theorem dX9_placeOf_11 : decode cX9_placeOf 11 = .ok (.ireturn, 1) := dk_172 (dk_at dksX9_placeOf_0 11 rfl rfl)
def dkwX9_apart_0 : List UInt8 := [26, 27, 164, 0, 9, 26, 27, 100, 167, 0, 6, 27, 26, 100, 172]
abbrev dktX9_apart_0 : List UInt8 := dkwX9_apart_0 ++ []
theorem dksX9_apart_0 : cX9_apart.data.toList.drop 0 = dktX9_apart_0 := by decide +kernel
theorem dX9_apart_0 : decode cX9_apart 0 = .ok (.iload_n 0, 1) := dk_26 (dk_at dksX9_apart_0 0 rfl rfl)
theorem dX9_apart_1 : decode cX9_apart 1 = .ok (.iload_n 1, 1) := dk_27 (dk_at dksX9_apart_0 1 rfl rfl)
theorem dX9_apart_2 : decode cX9_apart 2 = .ok (.if_icmp .le 9, 3) := dk_164 0 9 (dk_at dksX9_apart_0 2 rfl rfl)
theorem dX9_apart_5 : decode cX9_apart 5 = .ok (.iload_n 0, 1) := dk_26 (dk_at dksX9_apart_0 5 rfl rfl)
theorem dX9_apart_6 : decode cX9_apart 6 = .ok (.iload_n 1, 1) := dk_27 (dk_at dksX9_apart_0 6 rfl rfl)
theorem dX9_apart_7 : decode cX9_apart 7 = .ok (.isub, 1) := dk_100 (dk_at dksX9_apart_0 7 rfl rfl)
theorem dX9_apart_8 : decode cX9_apart 8 = .ok (.goto 6, 3) := dk_167 0 6 (dk_at dksX9_apart_0 8 rfl rfl)
theorem dX9_apart_11 : decode cX9_apart 11 = .ok (.iload_n 1, 1) := dk_27 (dk_at dksX9_apart_0 11 rfl rfl)
theorem dX9_apart_12 : decode cX9_apart 12 = .ok (.iload_n 0, 1) := dk_26 (dk_at dksX9_apart_0 12 rfl rfl)
theorem dX9_apart_13 : decode cX9_apart 13 = .ok (.isub, 1) := dk_100 (dk_at dksX9_apart_0 13 rfl rfl)
theorem dX9_apart_14 : decode cX9_apart 14 = .ok (.ireturn, 1) := dk_172 (dk_at dksX9_apart_0 14 rfl rfl)
def dkwX9_flattens_7 : List UInt8 := [172]
abbrev dktX9_flattens_7 : List UInt8 := dkwX9_flattens_7 ++ []
def dkwX9_flattens_6 : List UInt8 := [42, 180, 0, 32, 21, 6, 46, 79, 132, 6, 1, 167, 255, 207, 132, 1, 1, 167, 255, 111, 42, 182, 1, 104]
abbrev dktX9_flattens_6 : List UInt8 := dkwX9_flattens_6 ++ dktX9_flattens_7
def dkwX9_flattens_5 : List UInt8 := [180, 0, 74, 21, 6, 46, 28, 164, 0, 17, 42, 180, 0, 32, 21, 6, 46, 28, 184, 1, 28, 167, 0, 10]
abbrev dktX9_flattens_5 : List UInt8 := dkwX9_flattens_5 ++ dktX9_flattens_6
def dkwX9_flattens_4 : List UInt8 := [132, 5, 1, 167, 255, 229, 21, 4, 54, 6, 21, 6, 21, 5, 163, 0, 48, 42, 180, 0, 32, 21, 6, 42]
abbrev dktX9_flattens_4 : List UInt8 := dkwX9_flattens_4 ++ dktX9_flattens_5
def dkwX9_flattens_3 : List UInt8 := [21, 5, 42, 182, 1, 1, 4, 100, 162, 0, 22, 42, 180, 0, 74, 21, 5, 4, 96, 46, 28, 164, 0, 9]
abbrev dktX9_flattens_3 : List UInt8 := dkwX9_flattens_3 ++ dktX9_flattens_4
def dkwX9_flattens_2 : List UInt8 := [21, 4, 158, 0, 22, 42, 180, 0, 74, 21, 4, 4, 100, 46, 28, 164, 0, 9, 132, 4, 255, 167, 255, 235]
abbrev dktX9_flattens_2 : List UInt8 := dkwX9_flattens_2 ++ dktX9_flattens_3
def dkwX9_flattens_1 : List UInt8 := [180, 0, 53, 42, 180, 0, 62, 27, 46, 46, 61, 42, 27, 182, 1, 64, 62, 29, 54, 4, 29, 54, 5]
abbrev dktX9_flattens_1 : List UInt8 := dkwX9_flattens_1 ++ dktX9_flattens_2
def dkwX9_flattens_0 : List UInt8 := [42, 182, 1, 101, 42, 182, 1, 94, 42, 180, 1, 58, 60, 27, 42, 180, 1, 25, 162, 0, 143, 42]
abbrev dktX9_flattens_0 : List UInt8 := dkwX9_flattens_0 ++ dktX9_flattens_1
theorem dksX9_flattens_0 : cX9_flattens.data.toList.drop 0 = dktX9_flattens_0 := by decide +kernel
theorem dksX9_flattens_1 : cX9_flattens.data.toList.drop 22 = dktX9_flattens_1 := dk_seg dksX9_flattens_0 22 rfl rfl
theorem dksX9_flattens_2 : cX9_flattens.data.toList.drop 45 = dktX9_flattens_2 := dk_seg dksX9_flattens_1 23 rfl rfl
theorem dksX9_flattens_3 : cX9_flattens.data.toList.drop 69 = dktX9_flattens_3 := dk_seg dksX9_flattens_2 24 rfl rfl
theorem dksX9_flattens_4 : cX9_flattens.data.toList.drop 93 = dktX9_flattens_4 := dk_seg dksX9_flattens_3 24 rfl rfl
theorem dksX9_flattens_5 : cX9_flattens.data.toList.drop 117 = dktX9_flattens_5 := dk_seg dksX9_flattens_4 24 rfl rfl
theorem dksX9_flattens_6 : cX9_flattens.data.toList.drop 141 = dktX9_flattens_6 := dk_seg dksX9_flattens_5 24 rfl rfl
theorem dksX9_flattens_7 : cX9_flattens.data.toList.drop 165 = dktX9_flattens_7 := dk_seg dksX9_flattens_6 24 rfl rfl
theorem dX9_flattens_0 : decode cX9_flattens 0 = .ok (.aload_n 0, 1) := dk_42 (dk_at dksX9_flattens_0 0 rfl rfl)
theorem dX9_flattens_1 : decode cX9_flattens 1 = .ok (.invokevirtual 357, 3) := dk_182 1 101 (dk_at dksX9_flattens_0 1 rfl rfl)
theorem dX9_flattens_4 : decode cX9_flattens 4 = .ok (.aload_n 0, 1) := dk_42 (dk_at dksX9_flattens_0 4 rfl rfl)
theorem dX9_flattens_5 : decode cX9_flattens 5 = .ok (.invokevirtual 350, 3) := dk_182 1 94 (dk_at dksX9_flattens_0 5 rfl rfl)
theorem dX9_flattens_8 : decode cX9_flattens 8 = .ok (.aload_n 0, 1) := dk_42 (dk_at dksX9_flattens_0 8 rfl rfl)
theorem dX9_flattens_9 : decode cX9_flattens 9 = .ok (.getfield 314, 3) := dk_180 1 58 (dk_at dksX9_flattens_0 9 rfl rfl)
theorem dX9_flattens_12 : decode cX9_flattens 12 = .ok (.istore_n 1, 1) := dk_60 (dk_at dksX9_flattens_0 12 rfl rfl)
theorem dX9_flattens_13 : decode cX9_flattens 13 = .ok (.iload_n 1, 1) := dk_27 (dk_at dksX9_flattens_0 13 rfl rfl)
theorem dX9_flattens_14 : decode cX9_flattens 14 = .ok (.aload_n 0, 1) := dk_42 (dk_at dksX9_flattens_0 14 rfl rfl)
theorem dX9_flattens_15 : decode cX9_flattens 15 = .ok (.getfield 281, 3) := dk_180 1 25 (dk_at dksX9_flattens_0 15 rfl rfl)
theorem dX9_flattens_18 : decode cX9_flattens 18 = .ok (.if_icmp .ge 143, 3) := dk_162 0 143 (dk_at dksX9_flattens_0 18 rfl rfl)
theorem dX9_flattens_21 : decode cX9_flattens 21 = .ok (.aload_n 0, 1) := dk_42 (dk_at dksX9_flattens_0 21 rfl rfl)
theorem dX9_flattens_22 : decode cX9_flattens 22 = .ok (.getfield 53, 3) := dk_180 0 53 (dk_at dksX9_flattens_1 0 rfl rfl)
theorem dX9_flattens_25 : decode cX9_flattens 25 = .ok (.aload_n 0, 1) := dk_42 (dk_at dksX9_flattens_1 3 rfl rfl)
theorem dX9_flattens_26 : decode cX9_flattens 26 = .ok (.getfield 62, 3) := dk_180 0 62 (dk_at dksX9_flattens_1 4 rfl rfl)
theorem dX9_flattens_29 : decode cX9_flattens 29 = .ok (.iload_n 1, 1) := dk_27 (dk_at dksX9_flattens_1 7 rfl rfl)
theorem dX9_flattens_30 : decode cX9_flattens 30 = .ok (.iaload, 1) := dk_46 (dk_at dksX9_flattens_1 8 rfl rfl)
theorem dX9_flattens_31 : decode cX9_flattens 31 = .ok (.iaload, 1) := dk_46 (dk_at dksX9_flattens_1 9 rfl rfl)
theorem dX9_flattens_32 : decode cX9_flattens 32 = .ok (.istore_n 2, 1) := dk_61 (dk_at dksX9_flattens_1 10 rfl rfl)
theorem dX9_flattens_33 : decode cX9_flattens 33 = .ok (.aload_n 0, 1) := dk_42 (dk_at dksX9_flattens_1 11 rfl rfl)
theorem dX9_flattens_34 : decode cX9_flattens 34 = .ok (.iload_n 1, 1) := dk_27 (dk_at dksX9_flattens_1 12 rfl rfl)
theorem dX9_flattens_35 : decode cX9_flattens 35 = .ok (.invokevirtual 320, 3) := dk_182 1 64 (dk_at dksX9_flattens_1 13 rfl rfl)
theorem dX9_flattens_38 : decode cX9_flattens 38 = .ok (.istore_n 3, 1) := dk_62 (dk_at dksX9_flattens_1 16 rfl rfl)
theorem dX9_flattens_39 : decode cX9_flattens 39 = .ok (.iload_n 3, 1) := dk_29 (dk_at dksX9_flattens_1 17 rfl rfl)
theorem dX9_flattens_40 : decode cX9_flattens 40 = .ok (.istore 4, 2) := dk_54 4 (dk_at dksX9_flattens_1 18 rfl rfl)
theorem dX9_flattens_42 : decode cX9_flattens 42 = .ok (.iload_n 3, 1) := dk_29 (dk_at dksX9_flattens_1 20 rfl rfl)
theorem dX9_flattens_43 : decode cX9_flattens 43 = .ok (.istore 5, 2) := dk_54 5 (dk_at dksX9_flattens_1 21 rfl rfl)
theorem dX9_flattens_45 : decode cX9_flattens 45 = .ok (.iload 4, 2) := dk_21 4 (dk_at dksX9_flattens_2 0 rfl rfl)
theorem dX9_flattens_47 : decode cX9_flattens 47 = .ok (.ifCond .le 22, 3) := dk_158 0 22 (dk_at dksX9_flattens_2 2 rfl rfl)
theorem dX9_flattens_50 : decode cX9_flattens 50 = .ok (.aload_n 0, 1) := dk_42 (dk_at dksX9_flattens_2 5 rfl rfl)
theorem dX9_flattens_51 : decode cX9_flattens 51 = .ok (.getfield 74, 3) := dk_180 0 74 (dk_at dksX9_flattens_2 6 rfl rfl)
theorem dX9_flattens_54 : decode cX9_flattens 54 = .ok (.iload 4, 2) := dk_21 4 (dk_at dksX9_flattens_2 9 rfl rfl)
theorem dX9_flattens_56 : decode cX9_flattens 56 = .ok (.iconst 1, 1) := dk_4 (dk_at dksX9_flattens_2 11 rfl rfl)
theorem dX9_flattens_57 : decode cX9_flattens 57 = .ok (.isub, 1) := dk_100 (dk_at dksX9_flattens_2 12 rfl rfl)
theorem dX9_flattens_58 : decode cX9_flattens 58 = .ok (.iaload, 1) := dk_46 (dk_at dksX9_flattens_2 13 rfl rfl)
theorem dX9_flattens_59 : decode cX9_flattens 59 = .ok (.iload_n 2, 1) := dk_28 (dk_at dksX9_flattens_2 14 rfl rfl)
theorem dX9_flattens_60 : decode cX9_flattens 60 = .ok (.if_icmp .le 9, 3) := dk_164 0 9 (dk_at dksX9_flattens_2 15 rfl rfl)
theorem dX9_flattens_63 : decode cX9_flattens 63 = .ok (.iinc 4 (-1), 3) := dk_132 4 255 (dk_at dksX9_flattens_2 18 rfl rfl)
theorem dX9_flattens_66 : decode cX9_flattens 66 = .ok (.goto (-21), 3) := dk_167 255 235 (dk_at dksX9_flattens_2 21 rfl rfl)
theorem dX9_flattens_69 : decode cX9_flattens 69 = .ok (.iload 5, 2) := dk_21 5 (dk_at dksX9_flattens_3 0 rfl rfl)
theorem dX9_flattens_71 : decode cX9_flattens 71 = .ok (.aload_n 0, 1) := dk_42 (dk_at dksX9_flattens_3 2 rfl rfl)
theorem dX9_flattens_72 : decode cX9_flattens 72 = .ok (.invokevirtual 257, 3) := dk_182 1 1 (dk_at dksX9_flattens_3 3 rfl rfl)
theorem dX9_flattens_75 : decode cX9_flattens 75 = .ok (.iconst 1, 1) := dk_4 (dk_at dksX9_flattens_3 6 rfl rfl)
theorem dX9_flattens_76 : decode cX9_flattens 76 = .ok (.isub, 1) := dk_100 (dk_at dksX9_flattens_3 7 rfl rfl)
theorem dX9_flattens_77 : decode cX9_flattens 77 = .ok (.if_icmp .ge 22, 3) := dk_162 0 22 (dk_at dksX9_flattens_3 8 rfl rfl)
theorem dX9_flattens_80 : decode cX9_flattens 80 = .ok (.aload_n 0, 1) := dk_42 (dk_at dksX9_flattens_3 11 rfl rfl)
theorem dX9_flattens_81 : decode cX9_flattens 81 = .ok (.getfield 74, 3) := dk_180 0 74 (dk_at dksX9_flattens_3 12 rfl rfl)
theorem dX9_flattens_84 : decode cX9_flattens 84 = .ok (.iload 5, 2) := dk_21 5 (dk_at dksX9_flattens_3 15 rfl rfl)
theorem dX9_flattens_86 : decode cX9_flattens 86 = .ok (.iconst 1, 1) := dk_4 (dk_at dksX9_flattens_3 17 rfl rfl)
theorem dX9_flattens_87 : decode cX9_flattens 87 = .ok (.iadd, 1) := dk_96 (dk_at dksX9_flattens_3 18 rfl rfl)
theorem dX9_flattens_88 : decode cX9_flattens 88 = .ok (.iaload, 1) := dk_46 (dk_at dksX9_flattens_3 19 rfl rfl)
theorem dX9_flattens_89 : decode cX9_flattens 89 = .ok (.iload_n 2, 1) := dk_28 (dk_at dksX9_flattens_3 20 rfl rfl)
theorem dX9_flattens_90 : decode cX9_flattens 90 = .ok (.if_icmp .le 9, 3) := dk_164 0 9 (dk_at dksX9_flattens_3 21 rfl rfl)
theorem dX9_flattens_93 : decode cX9_flattens 93 = .ok (.iinc 5 1, 3) := dk_132 5 1 (dk_at dksX9_flattens_4 0 rfl rfl)
theorem dX9_flattens_96 : decode cX9_flattens 96 = .ok (.goto (-27), 3) := dk_167 255 229 (dk_at dksX9_flattens_4 3 rfl rfl)
theorem dX9_flattens_99 : decode cX9_flattens 99 = .ok (.iload 4, 2) := dk_21 4 (dk_at dksX9_flattens_4 6 rfl rfl)
theorem dX9_flattens_101 : decode cX9_flattens 101 = .ok (.istore 6, 2) := dk_54 6 (dk_at dksX9_flattens_4 8 rfl rfl)
theorem dX9_flattens_103 : decode cX9_flattens 103 = .ok (.iload 6, 2) := dk_21 6 (dk_at dksX9_flattens_4 10 rfl rfl)
theorem dX9_flattens_105 : decode cX9_flattens 105 = .ok (.iload 5, 2) := dk_21 5 (dk_at dksX9_flattens_4 12 rfl rfl)
theorem dX9_flattens_107 : decode cX9_flattens 107 = .ok (.if_icmp .gt 48, 3) := dk_163 0 48 (dk_at dksX9_flattens_4 14 rfl rfl)
theorem dX9_flattens_110 : decode cX9_flattens 110 = .ok (.aload_n 0, 1) := dk_42 (dk_at dksX9_flattens_4 17 rfl rfl)
theorem dX9_flattens_111 : decode cX9_flattens 111 = .ok (.getfield 32, 3) := dk_180 0 32 (dk_at dksX9_flattens_4 18 rfl rfl)
theorem dX9_flattens_114 : decode cX9_flattens 114 = .ok (.iload 6, 2) := dk_21 6 (dk_at dksX9_flattens_4 21 rfl rfl)
theorem dX9_flattens_116 : decode cX9_flattens 116 = .ok (.aload_n 0, 1) := dk_42 (dk_at dksX9_flattens_4 23 rfl rfl)
theorem dX9_flattens_117 : decode cX9_flattens 117 = .ok (.getfield 74, 3) := dk_180 0 74 (dk_at dksX9_flattens_5 0 rfl rfl)
theorem dX9_flattens_120 : decode cX9_flattens 120 = .ok (.iload 6, 2) := dk_21 6 (dk_at dksX9_flattens_5 3 rfl rfl)
theorem dX9_flattens_122 : decode cX9_flattens 122 = .ok (.iaload, 1) := dk_46 (dk_at dksX9_flattens_5 5 rfl rfl)
theorem dX9_flattens_123 : decode cX9_flattens 123 = .ok (.iload_n 2, 1) := dk_28 (dk_at dksX9_flattens_5 6 rfl rfl)
theorem dX9_flattens_124 : decode cX9_flattens 124 = .ok (.if_icmp .le 17, 3) := dk_164 0 17 (dk_at dksX9_flattens_5 7 rfl rfl)
theorem dX9_flattens_127 : decode cX9_flattens 127 = .ok (.aload_n 0, 1) := dk_42 (dk_at dksX9_flattens_5 10 rfl rfl)
theorem dX9_flattens_128 : decode cX9_flattens 128 = .ok (.getfield 32, 3) := dk_180 0 32 (dk_at dksX9_flattens_5 11 rfl rfl)
theorem dX9_flattens_131 : decode cX9_flattens 131 = .ok (.iload 6, 2) := dk_21 6 (dk_at dksX9_flattens_5 14 rfl rfl)
theorem dX9_flattens_133 : decode cX9_flattens 133 = .ok (.iaload, 1) := dk_46 (dk_at dksX9_flattens_5 16 rfl rfl)
theorem dX9_flattens_134 : decode cX9_flattens 134 = .ok (.iload_n 2, 1) := dk_28 (dk_at dksX9_flattens_5 17 rfl rfl)
theorem dX9_flattens_135 : decode cX9_flattens 135 = .ok (.invokestatic 284, 3) := dk_184 1 28 (dk_at dksX9_flattens_5 18 rfl rfl)
theorem dX9_flattens_138 : decode cX9_flattens 138 = .ok (.goto 10, 3) := dk_167 0 10 (dk_at dksX9_flattens_5 21 rfl rfl)
theorem dX9_flattens_141 : decode cX9_flattens 141 = .ok (.aload_n 0, 1) := dk_42 (dk_at dksX9_flattens_6 0 rfl rfl)
theorem dX9_flattens_142 : decode cX9_flattens 142 = .ok (.getfield 32, 3) := dk_180 0 32 (dk_at dksX9_flattens_6 1 rfl rfl)
theorem dX9_flattens_145 : decode cX9_flattens 145 = .ok (.iload 6, 2) := dk_21 6 (dk_at dksX9_flattens_6 4 rfl rfl)
theorem dX9_flattens_147 : decode cX9_flattens 147 = .ok (.iaload, 1) := dk_46 (dk_at dksX9_flattens_6 6 rfl rfl)
theorem dX9_flattens_148 : decode cX9_flattens 148 = .ok (.iastore, 1) := dk_79 (dk_at dksX9_flattens_6 7 rfl rfl)
theorem dX9_flattens_149 : decode cX9_flattens 149 = .ok (.iinc 6 1, 3) := dk_132 6 1 (dk_at dksX9_flattens_6 8 rfl rfl)
theorem dX9_flattens_152 : decode cX9_flattens 152 = .ok (.goto (-49), 3) := dk_167 255 207 (dk_at dksX9_flattens_6 11 rfl rfl)
theorem dX9_flattens_155 : decode cX9_flattens 155 = .ok (.iinc 1 1, 3) := dk_132 1 1 (dk_at dksX9_flattens_6 14 rfl rfl)
theorem dX9_flattens_158 : decode cX9_flattens 158 = .ok (.goto (-145), 3) := dk_167 255 111 (dk_at dksX9_flattens_6 17 rfl rfl)
theorem dX9_flattens_161 : decode cX9_flattens 161 = .ok (.aload_n 0, 1) := dk_42 (dk_at dksX9_flattens_6 20 rfl rfl)
theorem dX9_flattens_162 : decode cX9_flattens 162 = .ok (.invokevirtual 360, 3) := dk_182 1 104 (dk_at dksX9_flattens_6 21 rfl rfl)
theorem dX9_flattens_165 : decode cX9_flattens 165 = .ok (.ireturn, 1) := dk_172 (dk_at dksX9_flattens_7 0 rfl rfl)
def dkwX9_fell_1 : List UInt8 := [46, 162, 0, 7, 4, 167, 0, 4, 3, 96, 60, 132, 2, 1, 167, 255, 222, 27, 172]
abbrev dktX9_fell_1 : List UInt8 := dkwX9_fell_1 ++ []
def dkwX9_fell_0 : List UInt8 := [3, 60, 3, 61, 28, 42, 182, 1, 1, 162, 0, 32, 27, 42, 180, 0, 32, 28, 46, 42, 180, 0, 74, 28]
abbrev dktX9_fell_0 : List UInt8 := dkwX9_fell_0 ++ dktX9_fell_1
theorem dksX9_fell_0 : cX9_fell.data.toList.drop 0 = dktX9_fell_0 := by decide +kernel
theorem dksX9_fell_1 : cX9_fell.data.toList.drop 24 = dktX9_fell_1 := dk_seg dksX9_fell_0 24 rfl rfl
theorem dX9_fell_0 : decode cX9_fell 0 = .ok (.iconst 0, 1) := dk_3 (dk_at dksX9_fell_0 0 rfl rfl)
theorem dX9_fell_1 : decode cX9_fell 1 = .ok (.istore_n 1, 1) := dk_60 (dk_at dksX9_fell_0 1 rfl rfl)
theorem dX9_fell_2 : decode cX9_fell 2 = .ok (.iconst 0, 1) := dk_3 (dk_at dksX9_fell_0 2 rfl rfl)
theorem dX9_fell_3 : decode cX9_fell 3 = .ok (.istore_n 2, 1) := dk_61 (dk_at dksX9_fell_0 3 rfl rfl)
theorem dX9_fell_4 : decode cX9_fell 4 = .ok (.iload_n 2, 1) := dk_28 (dk_at dksX9_fell_0 4 rfl rfl)
theorem dX9_fell_5 : decode cX9_fell 5 = .ok (.aload_n 0, 1) := dk_42 (dk_at dksX9_fell_0 5 rfl rfl)
theorem dX9_fell_6 : decode cX9_fell 6 = .ok (.invokevirtual 257, 3) := dk_182 1 1 (dk_at dksX9_fell_0 6 rfl rfl)
theorem dX9_fell_9 : decode cX9_fell 9 = .ok (.if_icmp .ge 32, 3) := dk_162 0 32 (dk_at dksX9_fell_0 9 rfl rfl)
theorem dX9_fell_12 : decode cX9_fell 12 = .ok (.iload_n 1, 1) := dk_27 (dk_at dksX9_fell_0 12 rfl rfl)
theorem dX9_fell_13 : decode cX9_fell 13 = .ok (.aload_n 0, 1) := dk_42 (dk_at dksX9_fell_0 13 rfl rfl)
theorem dX9_fell_14 : decode cX9_fell 14 = .ok (.getfield 32, 3) := dk_180 0 32 (dk_at dksX9_fell_0 14 rfl rfl)
theorem dX9_fell_17 : decode cX9_fell 17 = .ok (.iload_n 2, 1) := dk_28 (dk_at dksX9_fell_0 17 rfl rfl)
theorem dX9_fell_18 : decode cX9_fell 18 = .ok (.iaload, 1) := dk_46 (dk_at dksX9_fell_0 18 rfl rfl)
theorem dX9_fell_19 : decode cX9_fell 19 = .ok (.aload_n 0, 1) := dk_42 (dk_at dksX9_fell_0 19 rfl rfl)
theorem dX9_fell_20 : decode cX9_fell 20 = .ok (.getfield 74, 3) := dk_180 0 74 (dk_at dksX9_fell_0 20 rfl rfl)
theorem dX9_fell_23 : decode cX9_fell 23 = .ok (.iload_n 2, 1) := dk_28 (dk_at dksX9_fell_0 23 rfl rfl)
theorem dX9_fell_24 : decode cX9_fell 24 = .ok (.iaload, 1) := dk_46 (dk_at dksX9_fell_1 0 rfl rfl)
theorem dX9_fell_25 : decode cX9_fell 25 = .ok (.if_icmp .ge 7, 3) := dk_162 0 7 (dk_at dksX9_fell_1 1 rfl rfl)
theorem dX9_fell_28 : decode cX9_fell 28 = .ok (.iconst 1, 1) := dk_4 (dk_at dksX9_fell_1 4 rfl rfl)
theorem dX9_fell_29 : decode cX9_fell 29 = .ok (.goto 4, 3) := dk_167 0 4 (dk_at dksX9_fell_1 5 rfl rfl)
theorem dX9_fell_32 : decode cX9_fell 32 = .ok (.iconst 0, 1) := dk_3 (dk_at dksX9_fell_1 8 rfl rfl)
theorem dX9_fell_33 : decode cX9_fell 33 = .ok (.iadd, 1) := dk_96 (dk_at dksX9_fell_1 9 rfl rfl)
theorem dX9_fell_34 : decode cX9_fell 34 = .ok (.istore_n 1, 1) := dk_60 (dk_at dksX9_fell_1 10 rfl rfl)
theorem dX9_fell_35 : decode cX9_fell 35 = .ok (.iinc 2 1, 3) := dk_132 2 1 (dk_at dksX9_fell_1 11 rfl rfl)
theorem dX9_fell_38 : decode cX9_fell 38 = .ok (.goto (-34), 3) := dk_167 255 222 (dk_at dksX9_fell_1 14 rfl rfl)
theorem dX9_fell_41 : decode cX9_fell 41 = .ok (.iload_n 1, 1) := dk_27 (dk_at dksX9_fell_1 17 rfl rfl)
theorem dX9_fell_42 : decode cX9_fell 42 = .ok (.ireturn, 1) := dk_172 (dk_at dksX9_fell_1 18 rfl rfl)
def dkwX9_turns_1 : List UInt8 := [182, 1, 1, 4, 100, 27, 100, 46, 79, 132, 1, 1, 167, 255, 226, 42, 180, 0, 32, 3, 46, 172]
abbrev dktX9_turns_1 : List UInt8 := dkwX9_turns_1 ++ []
def dkwX9_turns_0 : List UInt8 := [42, 182, 1, 94, 3, 60, 27, 42, 182, 1, 1, 162, 0, 28, 42, 180, 0, 32, 27, 42, 180, 0, 74, 42]
abbrev dktX9_turns_0 : List UInt8 := dkwX9_turns_0 ++ dktX9_turns_1
theorem dksX9_turns_0 : cX9_turns.data.toList.drop 0 = dktX9_turns_0 := by decide +kernel
theorem dksX9_turns_1 : cX9_turns.data.toList.drop 24 = dktX9_turns_1 := dk_seg dksX9_turns_0 24 rfl rfl
theorem dX9_turns_0 : decode cX9_turns 0 = .ok (.aload_n 0, 1) := dk_42 (dk_at dksX9_turns_0 0 rfl rfl)
theorem dX9_turns_1 : decode cX9_turns 1 = .ok (.invokevirtual 350, 3) := dk_182 1 94 (dk_at dksX9_turns_0 1 rfl rfl)
theorem dX9_turns_4 : decode cX9_turns 4 = .ok (.iconst 0, 1) := dk_3 (dk_at dksX9_turns_0 4 rfl rfl)
theorem dX9_turns_5 : decode cX9_turns 5 = .ok (.istore_n 1, 1) := dk_60 (dk_at dksX9_turns_0 5 rfl rfl)
theorem dX9_turns_6 : decode cX9_turns 6 = .ok (.iload_n 1, 1) := dk_27 (dk_at dksX9_turns_0 6 rfl rfl)
theorem dX9_turns_7 : decode cX9_turns 7 = .ok (.aload_n 0, 1) := dk_42 (dk_at dksX9_turns_0 7 rfl rfl)
theorem dX9_turns_8 : decode cX9_turns 8 = .ok (.invokevirtual 257, 3) := dk_182 1 1 (dk_at dksX9_turns_0 8 rfl rfl)
theorem dX9_turns_11 : decode cX9_turns 11 = .ok (.if_icmp .ge 28, 3) := dk_162 0 28 (dk_at dksX9_turns_0 11 rfl rfl)
theorem dX9_turns_14 : decode cX9_turns 14 = .ok (.aload_n 0, 1) := dk_42 (dk_at dksX9_turns_0 14 rfl rfl)
theorem dX9_turns_15 : decode cX9_turns 15 = .ok (.getfield 32, 3) := dk_180 0 32 (dk_at dksX9_turns_0 15 rfl rfl)
theorem dX9_turns_18 : decode cX9_turns 18 = .ok (.iload_n 1, 1) := dk_27 (dk_at dksX9_turns_0 18 rfl rfl)
theorem dX9_turns_19 : decode cX9_turns 19 = .ok (.aload_n 0, 1) := dk_42 (dk_at dksX9_turns_0 19 rfl rfl)
theorem dX9_turns_20 : decode cX9_turns 20 = .ok (.getfield 74, 3) := dk_180 0 74 (dk_at dksX9_turns_0 20 rfl rfl)
theorem dX9_turns_23 : decode cX9_turns 23 = .ok (.aload_n 0, 1) := dk_42 (dk_at dksX9_turns_0 23 rfl rfl)
theorem dX9_turns_24 : decode cX9_turns 24 = .ok (.invokevirtual 257, 3) := dk_182 1 1 (dk_at dksX9_turns_1 0 rfl rfl)
theorem dX9_turns_27 : decode cX9_turns 27 = .ok (.iconst 1, 1) := dk_4 (dk_at dksX9_turns_1 3 rfl rfl)
theorem dX9_turns_28 : decode cX9_turns 28 = .ok (.isub, 1) := dk_100 (dk_at dksX9_turns_1 4 rfl rfl)
theorem dX9_turns_29 : decode cX9_turns 29 = .ok (.iload_n 1, 1) := dk_27 (dk_at dksX9_turns_1 5 rfl rfl)
theorem dX9_turns_30 : decode cX9_turns 30 = .ok (.isub, 1) := dk_100 (dk_at dksX9_turns_1 6 rfl rfl)
theorem dX9_turns_31 : decode cX9_turns 31 = .ok (.iaload, 1) := dk_46 (dk_at dksX9_turns_1 7 rfl rfl)
theorem dX9_turns_32 : decode cX9_turns 32 = .ok (.iastore, 1) := dk_79 (dk_at dksX9_turns_1 8 rfl rfl)
theorem dX9_turns_33 : decode cX9_turns 33 = .ok (.iinc 1 1, 3) := dk_132 1 1 (dk_at dksX9_turns_1 9 rfl rfl)
theorem dX9_turns_36 : decode cX9_turns 36 = .ok (.goto (-30), 3) := dk_167 255 226 (dk_at dksX9_turns_1 12 rfl rfl)
theorem dX9_turns_39 : decode cX9_turns 39 = .ok (.aload_n 0, 1) := dk_42 (dk_at dksX9_turns_1 15 rfl rfl)
theorem dX9_turns_40 : decode cX9_turns 40 = .ok (.getfield 32, 3) := dk_180 0 32 (dk_at dksX9_turns_1 16 rfl rfl)
theorem dX9_turns_43 : decode cX9_turns 43 = .ok (.iconst 0, 1) := dk_3 (dk_at dksX9_turns_1 19 rfl rfl)
theorem dX9_turns_44 : decode cX9_turns 44 = .ok (.iaload, 1) := dk_46 (dk_at dksX9_turns_1 20 rfl rfl)
theorem dX9_turns_45 : decode cX9_turns 45 = .ok (.ireturn, 1) := dk_172 (dk_at dksX9_turns_1 21 rfl rfl)
def dkwX9_clips_1 : List UInt8 := [46, 27, 184, 1, 28, 79, 132, 2, 1, 167, 255, 229, 42, 182, 1, 104, 172]
abbrev dktX9_clips_1 : List UInt8 := dkwX9_clips_1 ++ []
def dkwX9_clips_0 : List UInt8 := [42, 182, 1, 94, 3, 61, 28, 42, 182, 1, 1, 162, 0, 25, 42, 180, 0, 32, 28, 42, 180, 0, 32, 28]
abbrev dktX9_clips_0 : List UInt8 := dkwX9_clips_0 ++ dktX9_clips_1
theorem dksX9_clips_0 : cX9_clips.data.toList.drop 0 = dktX9_clips_0 := by decide +kernel
theorem dksX9_clips_1 : cX9_clips.data.toList.drop 24 = dktX9_clips_1 := dk_seg dksX9_clips_0 24 rfl rfl
theorem dX9_clips_0 : decode cX9_clips 0 = .ok (.aload_n 0, 1) := dk_42 (dk_at dksX9_clips_0 0 rfl rfl)
theorem dX9_clips_1 : decode cX9_clips 1 = .ok (.invokevirtual 350, 3) := dk_182 1 94 (dk_at dksX9_clips_0 1 rfl rfl)
theorem dX9_clips_4 : decode cX9_clips 4 = .ok (.iconst 0, 1) := dk_3 (dk_at dksX9_clips_0 4 rfl rfl)
theorem dX9_clips_5 : decode cX9_clips 5 = .ok (.istore_n 2, 1) := dk_61 (dk_at dksX9_clips_0 5 rfl rfl)
theorem dX9_clips_6 : decode cX9_clips 6 = .ok (.iload_n 2, 1) := dk_28 (dk_at dksX9_clips_0 6 rfl rfl)
theorem dX9_clips_7 : decode cX9_clips 7 = .ok (.aload_n 0, 1) := dk_42 (dk_at dksX9_clips_0 7 rfl rfl)
theorem dX9_clips_8 : decode cX9_clips 8 = .ok (.invokevirtual 257, 3) := dk_182 1 1 (dk_at dksX9_clips_0 8 rfl rfl)
theorem dX9_clips_11 : decode cX9_clips 11 = .ok (.if_icmp .ge 25, 3) := dk_162 0 25 (dk_at dksX9_clips_0 11 rfl rfl)
theorem dX9_clips_14 : decode cX9_clips 14 = .ok (.aload_n 0, 1) := dk_42 (dk_at dksX9_clips_0 14 rfl rfl)
theorem dX9_clips_15 : decode cX9_clips 15 = .ok (.getfield 32, 3) := dk_180 0 32 (dk_at dksX9_clips_0 15 rfl rfl)
theorem dX9_clips_18 : decode cX9_clips 18 = .ok (.iload_n 2, 1) := dk_28 (dk_at dksX9_clips_0 18 rfl rfl)
theorem dX9_clips_19 : decode cX9_clips 19 = .ok (.aload_n 0, 1) := dk_42 (dk_at dksX9_clips_0 19 rfl rfl)
theorem dX9_clips_20 : decode cX9_clips 20 = .ok (.getfield 32, 3) := dk_180 0 32 (dk_at dksX9_clips_0 20 rfl rfl)
theorem dX9_clips_23 : decode cX9_clips 23 = .ok (.iload_n 2, 1) := dk_28 (dk_at dksX9_clips_0 23 rfl rfl)
theorem dX9_clips_24 : decode cX9_clips 24 = .ok (.iaload, 1) := dk_46 (dk_at dksX9_clips_1 0 rfl rfl)
theorem dX9_clips_25 : decode cX9_clips 25 = .ok (.iload_n 1, 1) := dk_27 (dk_at dksX9_clips_1 1 rfl rfl)
theorem dX9_clips_26 : decode cX9_clips 26 = .ok (.invokestatic 284, 3) := dk_184 1 28 (dk_at dksX9_clips_1 2 rfl rfl)
theorem dX9_clips_29 : decode cX9_clips 29 = .ok (.iastore, 1) := dk_79 (dk_at dksX9_clips_1 5 rfl rfl)
theorem dX9_clips_30 : decode cX9_clips 30 = .ok (.iinc 2 1, 3) := dk_132 2 1 (dk_at dksX9_clips_1 6 rfl rfl)
theorem dX9_clips_33 : decode cX9_clips 33 = .ok (.goto (-27), 3) := dk_167 255 229 (dk_at dksX9_clips_1 9 rfl rfl)
theorem dX9_clips_36 : decode cX9_clips 36 = .ok (.aload_n 0, 1) := dk_42 (dk_at dksX9_clips_1 12 rfl rfl)
theorem dX9_clips_37 : decode cX9_clips 37 = .ok (.invokevirtual 360, 3) := dk_182 1 104 (dk_at dksX9_clips_1 13 rfl rfl)
theorem dX9_clips_40 : decode cX9_clips 40 = .ok (.ireturn, 1) := dk_172 (dk_at dksX9_clips_1 16 rfl rfl)
def dkwX9_lifts_1 : List UInt8 := [46, 27, 96, 184, 1, 28, 184, 1, 33, 79, 132, 2, 1, 167, 255, 221, 42, 182, 1, 49, 172]
abbrev dktX9_lifts_1 : List UInt8 := dkwX9_lifts_1 ++ []
def dkwX9_lifts_0 : List UInt8 := [3, 61, 28, 42, 182, 1, 1, 162, 0, 33, 42, 180, 0, 32, 28, 3, 17, 3, 231, 42, 180, 0, 32, 28]
abbrev dktX9_lifts_0 : List UInt8 := dkwX9_lifts_0 ++ dktX9_lifts_1
theorem dksX9_lifts_0 : cX9_lifts.data.toList.drop 0 = dktX9_lifts_0 := by decide +kernel
theorem dksX9_lifts_1 : cX9_lifts.data.toList.drop 24 = dktX9_lifts_1 := dk_seg dksX9_lifts_0 24 rfl rfl
theorem dX9_lifts_0 : decode cX9_lifts 0 = .ok (.iconst 0, 1) := dk_3 (dk_at dksX9_lifts_0 0 rfl rfl)
theorem dX9_lifts_1 : decode cX9_lifts 1 = .ok (.istore_n 2, 1) := dk_61 (dk_at dksX9_lifts_0 1 rfl rfl)
theorem dX9_lifts_2 : decode cX9_lifts 2 = .ok (.iload_n 2, 1) := dk_28 (dk_at dksX9_lifts_0 2 rfl rfl)
theorem dX9_lifts_3 : decode cX9_lifts 3 = .ok (.aload_n 0, 1) := dk_42 (dk_at dksX9_lifts_0 3 rfl rfl)
theorem dX9_lifts_4 : decode cX9_lifts 4 = .ok (.invokevirtual 257, 3) := dk_182 1 1 (dk_at dksX9_lifts_0 4 rfl rfl)
theorem dX9_lifts_7 : decode cX9_lifts 7 = .ok (.if_icmp .ge 33, 3) := dk_162 0 33 (dk_at dksX9_lifts_0 7 rfl rfl)
theorem dX9_lifts_10 : decode cX9_lifts 10 = .ok (.aload_n 0, 1) := dk_42 (dk_at dksX9_lifts_0 10 rfl rfl)
theorem dX9_lifts_11 : decode cX9_lifts 11 = .ok (.getfield 32, 3) := dk_180 0 32 (dk_at dksX9_lifts_0 11 rfl rfl)
theorem dX9_lifts_14 : decode cX9_lifts 14 = .ok (.iload_n 2, 1) := dk_28 (dk_at dksX9_lifts_0 14 rfl rfl)
theorem dX9_lifts_15 : decode cX9_lifts 15 = .ok (.iconst 0, 1) := dk_3 (dk_at dksX9_lifts_0 15 rfl rfl)
theorem dX9_lifts_16 : decode cX9_lifts 16 = .ok (.sipush 999, 3) := dk_17 3 231 (dk_at dksX9_lifts_0 16 rfl rfl)
theorem dX9_lifts_19 : decode cX9_lifts 19 = .ok (.aload_n 0, 1) := dk_42 (dk_at dksX9_lifts_0 19 rfl rfl)
theorem dX9_lifts_20 : decode cX9_lifts 20 = .ok (.getfield 32, 3) := dk_180 0 32 (dk_at dksX9_lifts_0 20 rfl rfl)
theorem dX9_lifts_23 : decode cX9_lifts 23 = .ok (.iload_n 2, 1) := dk_28 (dk_at dksX9_lifts_0 23 rfl rfl)
theorem dX9_lifts_24 : decode cX9_lifts 24 = .ok (.iaload, 1) := dk_46 (dk_at dksX9_lifts_1 0 rfl rfl)
theorem dX9_lifts_25 : decode cX9_lifts 25 = .ok (.iload_n 1, 1) := dk_27 (dk_at dksX9_lifts_1 1 rfl rfl)
theorem dX9_lifts_26 : decode cX9_lifts 26 = .ok (.iadd, 1) := dk_96 (dk_at dksX9_lifts_1 2 rfl rfl)
theorem dX9_lifts_27 : decode cX9_lifts 27 = .ok (.invokestatic 284, 3) := dk_184 1 28 (dk_at dksX9_lifts_1 3 rfl rfl)
theorem dX9_lifts_30 : decode cX9_lifts 30 = .ok (.invokestatic 289, 3) := dk_184 1 33 (dk_at dksX9_lifts_1 6 rfl rfl)
theorem dX9_lifts_33 : decode cX9_lifts 33 = .ok (.iastore, 1) := dk_79 (dk_at dksX9_lifts_1 9 rfl rfl)
theorem dX9_lifts_34 : decode cX9_lifts 34 = .ok (.iinc 2 1, 3) := dk_132 2 1 (dk_at dksX9_lifts_1 10 rfl rfl)
theorem dX9_lifts_37 : decode cX9_lifts 37 = .ok (.goto (-35), 3) := dk_167 255 221 (dk_at dksX9_lifts_1 13 rfl rfl)
theorem dX9_lifts_40 : decode cX9_lifts 40 = .ok (.aload_n 0, 1) := dk_42 (dk_at dksX9_lifts_1 16 rfl rfl)
theorem dX9_lifts_41 : decode cX9_lifts 41 = .ok (.invokevirtual 305, 3) := dk_182 1 49 (dk_at dksX9_lifts_1 17 rfl rfl)
theorem dX9_lifts_44 : decode cX9_lifts 44 = .ok (.ireturn, 1) := dk_172 (dk_at dksX9_lifts_1 20 rfl rfl)
def dkwX9_scales_1 : List UInt8 := [27, 104, 28, 108, 184, 1, 28, 79, 132, 3, 1, 167, 255, 223, 42, 182, 1, 107, 172]
abbrev dktX9_scales_1 : List UInt8 := dkwX9_scales_1 ++ []
def dkwX9_scales_0 : List UInt8 := [3, 62, 29, 42, 182, 1, 1, 162, 0, 31, 42, 180, 0, 32, 29, 17, 3, 231, 42, 180, 0, 32, 29, 46]
abbrev dktX9_scales_0 : List UInt8 := dkwX9_scales_0 ++ dktX9_scales_1
theorem dksX9_scales_0 : cX9_scales.data.toList.drop 0 = dktX9_scales_0 := by decide +kernel
theorem dksX9_scales_1 : cX9_scales.data.toList.drop 24 = dktX9_scales_1 := dk_seg dksX9_scales_0 24 rfl rfl
theorem dX9_scales_0 : decode cX9_scales 0 = .ok (.iconst 0, 1) := dk_3 (dk_at dksX9_scales_0 0 rfl rfl)
theorem dX9_scales_1 : decode cX9_scales 1 = .ok (.istore_n 3, 1) := dk_62 (dk_at dksX9_scales_0 1 rfl rfl)
theorem dX9_scales_2 : decode cX9_scales 2 = .ok (.iload_n 3, 1) := dk_29 (dk_at dksX9_scales_0 2 rfl rfl)
theorem dX9_scales_3 : decode cX9_scales 3 = .ok (.aload_n 0, 1) := dk_42 (dk_at dksX9_scales_0 3 rfl rfl)
theorem dX9_scales_4 : decode cX9_scales 4 = .ok (.invokevirtual 257, 3) := dk_182 1 1 (dk_at dksX9_scales_0 4 rfl rfl)
theorem dX9_scales_7 : decode cX9_scales 7 = .ok (.if_icmp .ge 31, 3) := dk_162 0 31 (dk_at dksX9_scales_0 7 rfl rfl)
theorem dX9_scales_10 : decode cX9_scales 10 = .ok (.aload_n 0, 1) := dk_42 (dk_at dksX9_scales_0 10 rfl rfl)
theorem dX9_scales_11 : decode cX9_scales 11 = .ok (.getfield 32, 3) := dk_180 0 32 (dk_at dksX9_scales_0 11 rfl rfl)
theorem dX9_scales_14 : decode cX9_scales 14 = .ok (.iload_n 3, 1) := dk_29 (dk_at dksX9_scales_0 14 rfl rfl)
theorem dX9_scales_15 : decode cX9_scales 15 = .ok (.sipush 999, 3) := dk_17 3 231 (dk_at dksX9_scales_0 15 rfl rfl)
theorem dX9_scales_18 : decode cX9_scales 18 = .ok (.aload_n 0, 1) := dk_42 (dk_at dksX9_scales_0 18 rfl rfl)
theorem dX9_scales_19 : decode cX9_scales 19 = .ok (.getfield 32, 3) := dk_180 0 32 (dk_at dksX9_scales_0 19 rfl rfl)
theorem dX9_scales_22 : decode cX9_scales 22 = .ok (.iload_n 3, 1) := dk_29 (dk_at dksX9_scales_0 22 rfl rfl)
theorem dX9_scales_23 : decode cX9_scales 23 = .ok (.iaload, 1) := dk_46 (dk_at dksX9_scales_0 23 rfl rfl)
theorem dX9_scales_24 : decode cX9_scales 24 = .ok (.iload_n 1, 1) := dk_27 (dk_at dksX9_scales_1 0 rfl rfl)
theorem dX9_scales_25 : decode cX9_scales 25 = .ok (.imul, 1) := dk_104 (dk_at dksX9_scales_1 1 rfl rfl)
theorem dX9_scales_26 : decode cX9_scales 26 = .ok (.iload_n 2, 1) := dk_28 (dk_at dksX9_scales_1 2 rfl rfl)
theorem dX9_scales_27 : decode cX9_scales 27 = .ok (.idiv, 1) := dk_108 (dk_at dksX9_scales_1 3 rfl rfl)
theorem dX9_scales_28 : decode cX9_scales 28 = .ok (.invokestatic 284, 3) := dk_184 1 28 (dk_at dksX9_scales_1 4 rfl rfl)
theorem dX9_scales_31 : decode cX9_scales 31 = .ok (.iastore, 1) := dk_79 (dk_at dksX9_scales_1 7 rfl rfl)
theorem dX9_scales_32 : decode cX9_scales 32 = .ok (.iinc 3 1, 3) := dk_132 3 1 (dk_at dksX9_scales_1 8 rfl rfl)
theorem dX9_scales_35 : decode cX9_scales 35 = .ok (.goto (-33), 3) := dk_167 255 223 (dk_at dksX9_scales_1 11 rfl rfl)
theorem dX9_scales_38 : decode cX9_scales 38 = .ok (.aload_n 0, 1) := dk_42 (dk_at dksX9_scales_1 14 rfl rfl)
theorem dX9_scales_39 : decode cX9_scales 39 = .ok (.invokevirtual 363, 3) := dk_182 1 107 (dk_at dksX9_scales_1 15 rfl rfl)
