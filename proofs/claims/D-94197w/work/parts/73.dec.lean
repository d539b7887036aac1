set_option maxRecDepth 100000

theorem dX11_thrown_0 : decode cX11_thrown 0 = .ok (.aload_n 0, 1) := by decide +kernel
theorem dX11_thrown_1 : decode cX11_thrown 1 = .ok (.getfield 3, 3) := by decide +kernel
theorem dX11_thrown_4 : decode cX11_thrown 4 = .ok (.ireturn, 1) := by decide +kernel
def dkwX11_init_11 : List UInt8 := [167, 255, 237, 177]
abbrev dktX11_init_11 : List UInt8 := dkwX11_init_11 ++ []
def dkwX11_init_10 : List UInt8 := [6, 2, 79, 3, 60, 27, 16, 36, 162, 0, 19, 42, 180, 0, 13, 16, 13, 27, 96, 2, 79, 132, 1, 1]
abbrev dktX11_init_10 : List UInt8 := dkwX11_init_10 ++ dktX11_init_11
def dkwX11_init_9 : List UInt8 := [181, 0, 93, 42, 16, 30, 188, 10, 181, 0, 96, 42, 17, 2, 113, 188, 10, 181, 0, 99, 42, 180, 0, 13]
abbrev dktX11_init_9 : List UInt8 := dkwX11_init_9 ++ dktX11_init_10
def dkwX11_init_8 : List UInt8 := [181, 0, 84, 42, 16, 24, 188, 10, 181, 0, 87, 42, 16, 30, 188, 10, 181, 0, 90, 42, 16, 24, 188, 10]
abbrev dktX11_init_8 : List UInt8 := dkwX11_init_8 ++ dktX11_init_9
def dkwX11_init_7 : List UInt8 := [181, 0, 75, 42, 16, 30, 188, 10, 181, 0, 78, 42, 16, 30, 188, 10, 181, 0, 81, 42, 16, 31, 188, 10]
abbrev dktX11_init_7 : List UInt8 := dkwX11_init_7 ++ dktX11_init_8
def dkwX11_init_6 : List UInt8 := [181, 0, 65, 42, 16, 24, 188, 11, 181, 0, 68, 42, 16, 24, 188, 11, 181, 0, 72, 42, 16, 30, 188, 10]
abbrev dktX11_init_6 : List UInt8 := dkwX11_init_6 ++ dktX11_init_7
def dkwX11_init_5 : List UInt8 := [42, 17, 8, 184, 188, 10, 181, 0, 59, 42, 17, 9, 21, 188, 10, 181, 0, 62, 42, 16, 31, 188, 10]
abbrev dktX11_init_5 : List UInt8 := dkwX11_init_5 ++ dktX11_init_6
def dkwX11_init_4 : List UInt8 := [16, 8, 188, 10, 181, 0, 50, 42, 16, 31, 188, 10, 181, 0, 53, 42, 17, 8, 184, 188, 10, 181, 0, 56]
abbrev dktX11_init_4 : List UInt8 := dkwX11_init_4 ++ dktX11_init_5
def dkwX11_init_3 : List UInt8 := [17, 4, 92, 188, 10, 181, 0, 39, 42, 18, 42, 188, 4, 181, 0, 43, 42, 6, 188, 10, 181, 0, 47, 42]
abbrev dktX11_init_3 : List UInt8 := dkwX11_init_3 ++ dktX11_init_4
def dkwX11_init_2 : List UInt8 := [188, 10, 181, 0, 30, 42, 16, 6, 188, 10, 181, 0, 33, 42, 17, 1, 144, 188, 10, 181, 0, 36, 42]
abbrev dktX11_init_2 : List UInt8 := dkwX11_init_2 ++ dktX11_init_3
def dkwX11_init_1 : List UInt8 := [17, 1, 144, 188, 8, 181, 0, 20, 42, 2, 181, 0, 24, 42, 8, 188, 10, 181, 0, 27, 42, 16, 12]
abbrev dktX11_init_1 : List UInt8 := dkwX11_init_1 ++ dktX11_init_2
def dkwX11_init_0 : List UInt8 := [42, 183, 0, 7, 42, 17, 8, 77, 188, 10, 181, 0, 13, 42, 17, 5, 4, 188, 10, 181, 0, 17, 42]
abbrev dktX11_init_0 : List UInt8 := dkwX11_init_0 ++ dktX11_init_1
theorem dksX11_init_0 : cX11_init.data.toList.drop 0 = dktX11_init_0 := by decide +kernel
theorem dksX11_init_1 : cX11_init.data.toList.drop 23 = dktX11_init_1 := dk_seg dksX11_init_0 23 rfl rfl
theorem dksX11_init_2 : cX11_init.data.toList.drop 46 = dktX11_init_2 := dk_seg dksX11_init_1 23 rfl rfl
theorem dksX11_init_3 : cX11_init.data.toList.drop 69 = dktX11_init_3 := dk_seg dksX11_init_2 23 rfl rfl
theorem dksX11_init_4 : cX11_init.data.toList.drop 93 = dktX11_init_4 := dk_seg dksX11_init_3 24 rfl rfl
theorem dksX11_init_5 : cX11_init.data.toList.drop 117 = dktX11_init_5 := dk_seg dksX11_init_4 24 rfl rfl
theorem dksX11_init_6 : cX11_init.data.toList.drop 140 = dktX11_init_6 := dk_seg dksX11_init_5 23 rfl rfl
theorem dksX11_init_7 : cX11_init.data.toList.drop 164 = dktX11_init_7 := dk_seg dksX11_init_6 24 rfl rfl
theorem dksX11_init_8 : cX11_init.data.toList.drop 188 = dktX11_init_8 := dk_seg dksX11_init_7 24 rfl rfl
theorem dksX11_init_9 : cX11_init.data.toList.drop 212 = dktX11_init_9 := dk_seg dksX11_init_8 24 rfl rfl
theorem dksX11_init_10 : cX11_init.data.toList.drop 236 = dktX11_init_10 := dk_seg dksX11_init_9 24 rfl rfl
theorem dksX11_init_11 : cX11_init.data.toList.drop 260 = dktX11_init_11 := dk_seg dksX11_init_10 24 rfl rfl
theorem dX11_init_0 : decode cX11_init 0 = .ok (.aload_n 0, 1) := dk_42 (dk_at dksX11_init_0 0 rfl rfl)
theorem dX11_init_1 : decode cX11_init 1 = .ok (.invokespecial 7, 3) := dk_183 0 7 (dk_at dksX11_init_0 1 rfl rfl)
theorem dX11_init_4 : decode cX11_init 4 = .ok (.aload_n 0, 1) := dk_42 (dk_at dksX11_init_0 4 rfl rfl)
theorem dX11_init_5 : decode cX11_init 5 = .ok (.sipush 2125, 3) := dk_17 8 77 (dk_at dksX11_init_0 5 rfl rfl)
theorem dX11_init_8 : decode cX11_init 8 = .ok (.newarray .int, 2) := dk_188_10 (dk_at dksX11_init_0 8 rfl rfl)
theorem dX11_init_10 : decode cX11_init 10 = .ok (.putfield 13, 3) := dk_181 0 13 (dk_at dksX11_init_0 10 rfl rfl)
theorem dX11_init_13 : decode cX11_init 13 = .ok (.aload_n 0, 1) := dk_42 (dk_at dksX11_init_0 13 rfl rfl)
theorem dX11_init_14 : decode cX11_init 14 = .ok (.sipush 1284, 3) := dk_17 5 4 (dk_at dksX11_init_0 14 rfl rfl)
theorem dX11_init_17 : decode cX11_init 17 = .ok (.newarray .int, 2) := dk_188_10 (dk_at dksX11_init_0 17 rfl rfl)
theorem dX11_init_19 : decode cX11_init 19 = .ok (.putfield 17, 3) := dk_181 0 17 (dk_at dksX11_init_0 19 rfl rfl)
theorem dX11_init_22 : decode cX11_init 22 = .ok (.aload_n 0, 1) := dk_42 (dk_at dksX11_init_0 22 rfl rfl)
theorem dX11_init_23 : decode cX11_init 23 = .ok (.sipush 400, 3) := dk_17 1 144 (dk_at dksX11_init_1 0 rfl rfl)
theorem dX11_init_26 : decode cX11_init 26 = .ok (.newarray .byte, 2) := dk_188_8 (dk_at dksX11_init_1 3 rfl rfl)
theorem dX11_init_28 : decode cX11_init 28 = .ok (.putfield 20, 3) := dk_181 0 20 (dk_at dksX11_init_1 5 rfl rfl)
theorem dX11_init_31 : decode cX11_init 31 = .ok (.aload_n 0, 1) := dk_42 (dk_at dksX11_init_1 8 rfl rfl)
theorem dX11_init_32 : decode cX11_init 32 = .ok (.iconst (-1), 1) := dk_2 (dk_at dksX11_init_1 9 rfl rfl)
theorem dX11_init_33 : decode cX11_init 33 = .ok (.putfield 24, 3) := dk_181 0 24 (dk_at dksX11_init_1 10 rfl rfl)
theorem dX11_init_36 : decode cX11_init 36 = .ok (.aload_n 0, 1) := dk_42 (dk_at dksX11_init_1 13 rfl rfl)
theorem dX11_init_37 : decode cX11_init 37 = .ok (.iconst 5, 1) := dk_8 (dk_at dksX11_init_1 14 rfl rfl)
theorem dX11_init_38 : decode cX11_init 38 = .ok (.newarray .int, 2) := dk_188_10 (dk_at dksX11_init_1 15 rfl rfl)
theorem dX11_init_40 : decode cX11_init 40 = .ok (.putfield 27, 3) := dk_181 0 27 (dk_at dksX11_init_1 17 rfl rfl)
theorem dX11_init_43 : decode cX11_init 43 = .ok (.aload_n 0, 1) := dk_42 (dk_at dksX11_init_1 20 rfl rfl)
theorem dX11_init_44 : decode cX11_init 44 = .ok (.bipush 12, 2) := dk_16 12 (dk_at dksX11_init_1 21 rfl rfl)
theorem dX11_init_46 : decode cX11_init 46 = .ok (.newarray .int, 2) := dk_188_10 (dk_at dksX11_init_2 0 rfl rfl)
theorem dX11_init_48 : decode cX11_init 48 = .ok (.putfield 30, 3) := dk_181 0 30 (dk_at dksX11_init_2 2 rfl rfl)
theorem dX11_init_51 : decode cX11_init 51 = .ok (.aload_n 0, 1) := dk_42 (dk_at dksX11_init_2 5 rfl rfl)
theorem dX11_init_52 : decode cX11_init 52 = .ok (.bipush 6, 2) := dk_16 6 (dk_at dksX11_init_2 6 rfl rfl)
theorem dX11_init_54 : decode cX11_init 54 = .ok (.newarray .int, 2) := dk_188_10 (dk_at dksX11_init_2 8 rfl rfl)
theorem dX11_init_56 : decode cX11_init 56 = .ok (.putfield 33, 3) := dk_181 0 33 (dk_at dksX11_init_2 10 rfl rfl)
theorem dX11_init_59 : decode cX11_init 59 = .ok (.aload_n 0, 1) := dk_42 (dk_at dksX11_init_2 13 rfl rfl)
theorem dX11_init_60 : decode cX11_init 60 = .ok (.sipush 400, 3) := dk_17 1 144 (dk_at dksX11_init_2 14 rfl rfl)
theorem dX11_init_63 : decode cX11_init 63 = .ok (.newarray .int, 2) := dk_188_10 (dk_at dksX11_init_2 17 rfl rfl)
theorem dX11_init_65 : decode cX11_init 65 = .ok (.putfield 36, 3) := dk_181 0 36 (dk_at dksX11_init_2 19 rfl rfl)
theorem dX11_init_68 : decode cX11_init 68 = .ok (.aload_n 0, 1) := dk_42 (dk_at dksX11_init_2 22 rfl rfl)
theorem dX11_init_69 : decode cX11_init 69 = .ok (.sipush 1116, 3) := dk_17 4 92 (dk_at dksX11_init_3 0 rfl rfl)
theorem dX11_init_72 : decode cX11_init 72 = .ok (.newarray .int, 2) := dk_188_10 (dk_at dksX11_init_3 3 rfl rfl)
theorem dX11_init_74 : decode cX11_init 74 = .ok (.putfield 39, 3) := dk_181 0 39 (dk_at dksX11_init_3 5 rfl rfl)
theorem dX11_init_77 : decode cX11_init 77 = .ok (.aload_n 0, 1) := dk_42 (dk_at dksX11_init_3 8 rfl rfl)
theorem dX11_init_78 : decode cX11_init 78 = .ok (.ldc 42, 2) := dk_18 42 (dk_at dksX11_init_3 9 rfl rfl)
theorem dX11_init_80 : decode cX11_init 80 = .ok (.newarray .boolean, 2) := dk_188_4 (dk_at dksX11_init_3 11 rfl rfl)
theorem dX11_init_82 : decode cX11_init 82 = .ok (.putfield 43, 3) := dk_181 0 43 (dk_at dksX11_init_3 13 rfl rfl)
theorem dX11_init_85 : decode cX11_init 85 = .ok (.aload_n 0, 1) := dk_42 (dk_at dksX11_init_3 16 rfl rfl)
theorem dX11_init_86 : decode cX11_init 86 = .ok (.iconst 3, 1) := dk_6 (dk_at dksX11_init_3 17 rfl rfl)
theorem dX11_init_87 : decode cX11_init 87 = .ok (.newarray .int, 2) := dk_188_10 (dk_at dksX11_init_3 18 rfl rfl)
theorem dX11_init_89 : decode cX11_init 89 = .ok (.putfield 47, 3) := dk_181 0 47 (dk_at dksX11_init_3 20 rfl rfl)
theorem dX11_init_92 : decode cX11_init 92 = .ok (.aload_n 0, 1) := dk_42 (dk_at dksX11_init_3 23 rfl rfl)
theorem dX11_init_93 : decode cX11_init 93 = .ok (.bipush 8, 2) := dk_16 8 (dk_at dksX11_init_4 0 rfl rfl)
theorem dX11_init_95 : decode cX11_init 95 = .ok (.newarray .int, 2) := dk_188_10 (dk_at dksX11_init_4 2 rfl rfl)
theorem dX11_init_97 : decode cX11_init 97 = .ok (.putfield 50, 3) := dk_181 0 50 (dk_at dksX11_init_4 4 rfl rfl)
theorem dX11_init_100 : decode cX11_init 100 = .ok (.aload_n 0, 1) := dk_42 (dk_at dksX11_init_4 7 rfl rfl)
theorem dX11_init_101 : decode cX11_init 101 = .ok (.bipush 31, 2) := dk_16 31 (dk_at dksX11_init_4 8 rfl rfl)
theorem dX11_init_103 : decode cX11_init 103 = .ok (.newarray .int, 2) := dk_188_10 (dk_at dksX11_init_4 10 rfl rfl)
theorem dX11_init_105 : decode cX11_init 105 = .ok (.putfield 53, 3) := dk_181 0 53 (dk_at dksX11_init_4 12 rfl rfl)
theorem dX11_init_108 : decode cX11_init 108 = .ok (.aload_n 0, 1) := dk_42 (dk_at dksX11_init_4 15 rfl rfl)
theorem dX11_init_109 : decode cX11_init 109 = .ok (.sipush 2232, 3) := dk_17 8 184 (dk_at dksX11_init_4 16 rfl rfl)
theorem dX11_init_112 : decode cX11_init 112 = .ok (.newarray .int, 2) := dk_188_10 (dk_at dksX11_init_4 19 rfl rfl)
theorem dX11_init_114 : decode cX11_init 114 = .ok (.putfield 56, 3) := dk_181 0 56 (dk_at dksX11_init_4 21 rfl rfl)
theorem dX11_init_117 : decode cX11_init 117 = .ok (.aload_n 0, 1) := dk_42 (dk_at dksX11_init_5 0 rfl rfl)
theorem dX11_init_118 : decode cX11_init 118 = .ok (.sipush 2232, 3) := dk_17 8 184 (dk_at dksX11_init_5 1 rfl rfl)
theorem dX11_init_121 : decode cX11_init 121 = .ok (.newarray .int, 2) := dk_188_10 (dk_at dksX11_init_5 4 rfl rfl)
theorem dX11_init_123 : decode cX11_init 123 = .ok (.putfield 59, 3) := dk_181 0 59 (dk_at dksX11_init_5 6 rfl rfl)
theorem dX11_init_126 : decode cX11_init 126 = .ok (.aload_n 0, 1) := dk_42 (dk_at dksX11_init_5 9 rfl rfl)
theorem dX11_init_127 : decode cX11_init 127 = .ok (.sipush 2325, 3) := dk_17 9 21 (dk_at dksX11_init_5 10 rfl rfl)
theorem dX11_init_130 : decode cX11_init 130 = .ok (.newarray .int, 2) := dk_188_10 (dk_at dksX11_init_5 13 rfl rfl)
theorem dX11_init_132 : decode cX11_init 132 = .ok (.putfield 62, 3) := dk_181 0 62 (dk_at dksX11_init_5 15 rfl rfl)
theorem dX11_init_135 : decode cX11_init 135 = .ok (.aload_n 0, 1) := dk_42 (dk_at dksX11_init_5 18 rfl rfl)
theorem dX11_init_136 : decode cX11_init 136 = .ok (.bipush 31, 2) := dk_16 31 (dk_at dksX11_init_5 19 rfl rfl)
theorem dX11_init_138 : decode cX11_init 138 = .ok (.newarray .int, 2) := dk_188_10 (dk_at dksX11_init_5 21 rfl rfl)
theorem dX11_init_140 : decode cX11_init 140 = .ok (.putfield 65, 3) := dk_181 0 65 (dk_at dksX11_init_6 0 rfl rfl)
theorem dX11_init_143 : decode cX11_init 143 = .ok (.aload_n 0, 1) := dk_42 (dk_at dksX11_init_6 3 rfl rfl)
theorem dX11_init_144 : decode cX11_init 144 = .ok (.bipush 24, 2) := dk_16 24 (dk_at dksX11_init_6 4 rfl rfl)
theorem dX11_init_146 : decode cX11_init 146 = .ok (.newarray .long, 2) := dk_188_11 (dk_at dksX11_init_6 6 rfl rfl)
theorem dX11_init_148 : decode cX11_init 148 = .ok (.putfield 68, 3) := dk_181 0 68 (dk_at dksX11_init_6 8 rfl rfl)
theorem dX11_init_151 : decode cX11_init 151 = .ok (.aload_n 0, 1) := dk_42 (dk_at dksX11_init_6 11 rfl rfl)
theorem dX11_init_152 : decode cX11_init 152 = .ok (.bipush 24, 2) := dk_16 24 (dk_at dksX11_init_6 12 rfl rfl)
theorem dX11_init_154 : decode cX11_init 154 = .ok (.newarray .long, 2) := dk_188_11 (dk_at dksX11_init_6 14 rfl rfl)
theorem dX11_init_156 : decode cX11_init 156 = .ok (.putfield 72, 3) := dk_181 0 72 (dk_at dksX11_init_6 16 rfl rfl)
theorem dX11_init_159 : decode cX11_init 159 = .ok (.aload_n 0, 1) := dk_42 (dk_at dksX11_init_6 19 rfl rfl)
theorem dX11_init_160 : decode cX11_init 160 = .ok (.bipush 30, 2) := dk_16 30 (dk_at dksX11_init_6 20 rfl rfl)
theorem dX11_init_162 : decode cX11_init 162 = .ok (.newarray .int, 2) := dk_188_10 (dk_at dksX11_init_6 22 rfl rfl)
theorem dX11_init_164 : decode cX11_init 164 = .ok (.putfield 75, 3) := dk_181 0 75 (dk_at dksX11_init_7 0 rfl rfl)
theorem dX11_init_167 : decode cX11_init 167 = .ok (.aload_n 0, 1) := dk_42 (dk_at dksX11_init_7 3 rfl rfl)
theorem dX11_init_168 : decode cX11_init 168 = .ok (.bipush 30, 2) := dk_16 30 (dk_at dksX11_init_7 4 rfl rfl)
theorem dX11_init_170 : decode cX11_init 170 = .ok (.newarray .int, 2) := dk_188_10 (dk_at dksX11_init_7 6 rfl rfl)
theorem dX11_init_172 : decode cX11_init 172 = .ok (.putfield 78, 3) := dk_181 0 78 (dk_at dksX11_init_7 8 rfl rfl)
theorem dX11_init_175 : decode cX11_init 175 = .ok (.aload_n 0, 1) := dk_42 (dk_at dksX11_init_7 11 rfl rfl)
theorem dX11_init_176 : decode cX11_init 176 = .ok (.bipush 30, 2) := dk_16 30 (dk_at dksX11_init_7 12 rfl rfl)
theorem dX11_init_178 : decode cX11_init 178 = .ok (.newarray .int, 2) := dk_188_10 (dk_at dksX11_init_7 14 rfl rfl)
theorem dX11_init_180 : decode cX11_init 180 = .ok (.putfield 81, 3) := dk_181 0 81 (dk_at dksX11_init_7 16 rfl rfl)
theorem dX11_init_183 : decode cX11_init 183 = .ok (.aload_n 0, 1) := dk_42 (dk_at dksX11_init_7 19 rfl rfl)
theorem dX11_init_184 : decode cX11_init 184 = .ok (.bipush 31, 2) := dk_16 31 (dk_at dksX11_init_7 20 rfl rfl)
theorem dX11_init_186 : decode cX11_init 186 = .ok (.newarray .int, 2) := dk_188_10 (dk_at dksX11_init_7 22 rfl rfl)
theorem dX11_init_188 : decode cX11_init 188 = .ok (.putfield 84, 3) := dk_181 0 84 (dk_at dksX11_init_8 0 rfl rfl)
theorem dX11_init_191 : decode cX11_init 191 = .ok (.aload_n 0, 1) := dk_42 (dk_at dksX11_init_8 3 rfl rfl)
theorem dX11_init_192 : decode cX11_init 192 = .ok (.bipush 24, 2) := dk_16 24 (dk_at dksX11_init_8 4 rfl rfl)
theorem dX11_init_194 : decode cX11_init 194 = .ok (.newarray .int, 2) := dk_188_10 (dk_at dksX11_init_8 6 rfl rfl)
theorem dX11_init_196 : decode cX11_init 196 = .ok (.putfield 87, 3) := dk_181 0 87 (dk_at dksX11_init_8 8 rfl rfl)
theorem dX11_init_199 : decode cX11_init 199 = .ok (.aload_n 0, 1) := dk_42 (dk_at dksX11_init_8 11 rfl rfl)
theorem dX11_init_200 : decode cX11_init 200 = .ok (.bipush 30, 2) := dk_16 30 (dk_at dksX11_init_8 12 rfl rfl)
theorem dX11_init_202 : decode cX11_init 202 = .ok (.newarray .int, 2) := dk_188_10 (dk_at dksX11_init_8 14 rfl rfl)
theorem dX11_init_204 : decode cX11_init 204 = .ok (.putfield 90, 3) := dk_181 0 90 (dk_at dksX11_init_8 16 rfl rfl)
theorem dX11_init_207 : decode cX11_init 207 = .ok (.aload_n 0, 1) := dk_42 (dk_at dksX11_init_8 19 rfl rfl)
theorem dX11_init_208 : decode cX11_init 208 = .ok (.bipush 24, 2) := dk_16 24 (dk_at dksX11_init_8 20 rfl rfl)
theorem dX11_init_210 : decode cX11_init 210 = .ok (.newarray .int, 2) := dk_188_10 (dk_at dksX11_init_8 22 rfl rfl)
theorem dX11_init_212 : decode cX11_init 212 = .ok (.putfield 93, 3) := dk_181 0 93 (dk_at dksX11_init_9 0 rfl rfl)
theorem dX11_init_215 : decode cX11_init 215 = .ok (.aload_n 0, 1) := dk_42 (dk_at dksX11_init_9 3 rfl rfl)
theorem dX11_init_216 : decode cX11_init 216 = .ok (.bipush 30, 2) := dk_16 30 (dk_at dksX11_init_9 4 rfl rfl)
theorem dX11_init_218 : decode cX11_init 218 = .ok (.newarray .int, 2) := dk_188_10 (dk_at dksX11_init_9 6 rfl rfl)
theorem dX11_init_220 : decode cX11_init 220 = .ok (.putfield 96, 3) := dk_181 0 96 (dk_at dksX11_init_9 8 rfl rfl)
theorem dX11_init_223 : decode cX11_init 223 = .ok (.aload_n 0, 1) := dk_42 (dk_at dksX11_init_9 11 rfl rfl)
theorem dX11_init_224 : decode cX11_init 224 = .ok (.sipush 625, 3) := dk_17 2 113 (dk_at dksX11_init_9 12 rfl rfl)
theorem dX11_init_227 : decode cX11_init 227 = .ok (.newarray .int, 2) := dk_188_10 (dk_at dksX11_init_9 15 rfl rfl)
theorem dX11_init_229 : decode cX11_init 229 = .ok (.putfield 99, 3) := dk_181 0 99 (dk_at dksX11_init_9 17 rfl rfl)
theorem dX11_init_232 : decode cX11_init 232 = .ok (.aload_n 0, 1) := dk_42 (dk_at dksX11_init_9 20 rfl rfl)
theorem dX11_init_233 : decode cX11_init 233 = .ok (.getfield 13, 3) := dk_180 0 13 (dk_at dksX11_init_9 21 rfl rfl)
theorem dX11_init_236 : decode cX11_init 236 = .ok (.iconst 3, 1) := dk_6 (dk_at dksX11_init_10 0 rfl rfl)
theorem dX11_init_237 : decode cX11_init 237 = .ok (.iconst (-1), 1) := dk_2 (dk_at dksX11_init_10 1 rfl rfl)
theorem dX11_init_238 : decode cX11_init 238 = .ok (.iastore, 1) := dk_79 (dk_at dksX11_init_10 2 rfl rfl)
theorem dX11_init_239 : decode cX11_init 239 = .ok (.iconst 0, 1) := dk_3 (dk_at dksX11_init_10 3 rfl rfl)
theorem dX11_init_240 : decode cX11_init 240 = .ok (.istore_n 1, 1) := dk_60 (dk_at dksX11_init_10 4 rfl rfl)
theorem dX11_init_241 : decode cX11_init 241 = .ok (.iload_n 1, 1) := dk_27 (dk_at dksX11_init_10 5 rfl rfl)
theorem dX11_init_242 : decode cX11_init 242 = .ok (.bipush 36, 2) := dk_16 36 (dk_at dksX11_init_10 6 rfl rfl)
theorem dX11_init_244 : decode cX11_init 244 = .ok (.if_icmp .ge 19, 3) := dk_162 0 19 (dk_at dksX11_init_10 8 rfl rfl)
theorem dX11_init_247 : decode cX11_init 247 = .ok (.aload_n 0, 1) := dk_42 (dk_at dksX11_init_10 11 rfl rfl)
theorem dX11_init_248 : decode cX11_init 248 = .ok (.getfield 13, 3) := dk_180 0 13 (dk_at dksX11_init_10 12 rfl rfl)
theorem dX11_init_251 : decode cX11_init 251 = .ok (.bipush 13, 2) := dk_16 13 (dk_at dksX11_init_10 15 rfl rfl)
theorem dX11_init_253 : decode cX11_init 253 = .ok (.iload_n 1, 1) := dk_27 (dk_at dksX11_init_10 17 rfl rfl)
theorem dX11_init_254 : decode cX11_init 254 = .ok (.iadd, 1) := dk_96 (dk_at dksX11_init_10 18 rfl rfl)
theorem dX11_init_255 : decode cX11_init 255 = .ok (.iconst (-1), 1) := dk_2 (dk_at dksX11_init_10 19 rfl rfl)
theorem dX11_init_256 : decode cX11_init 256 = .ok (.iastore, 1) := dk_79 (dk_at dksX11_init_10 20 rfl rfl)
theorem dX11_init_257 : decode cX11_init 257 = .ok (.iinc 1 1, 3) := dk_132 1 1 (dk_at dksX11_init_10 21 rfl rfl)
theorem dX11_init_260 : decode cX11_init 260 = .ok (.goto (-19), 3) := dk_167 255 237 (dk_at dksX11_init_11 0 rfl rfl)
theorem dX11_init_263 : decode cX11_init 263 = .ok (.return_, 1) := dk_177 (dk_at dksX11_init_11 3 rfl rfl)
def dkwX11_image_1 : List UInt8 := [46, 79, 132, 1, 1, 167, 255, 234, 42, 4, 181, 0, 102, 177]
abbrev dktX11_image_1 : List UInt8 := dkwX11_image_1 ++ []
def dkwX11_image_0 : List UInt8 := [42, 3, 181, 0, 3, 3, 60, 27, 17, 5, 4, 162, 0, 21, 42, 180, 0, 17, 27, 42, 180, 0, 13, 27]
abbrev dktX11_image_0 : List UInt8 := dkwX11_image_0 ++ dktX11_image_1
theorem dksX11_image_0 : cX11_image.data.toList.drop 0 = dktX11_image_0 := by decide +kernel
theorem dksX11_image_1 : cX11_image.data.toList.drop 24 = dktX11_image_1 := dk_seg dksX11_image_0 24 rfl rfl
theorem dX11_image_0 : decode cX11_image 0 = .ok (.aload_n 0, 1) := dk_42 (dk_at dksX11_image_0 0 rfl rfl)
theorem dX11_image_1 : decode cX11_image 1 = .ok (.iconst 0, 1) := dk_3 (dk_at dksX11_image_0 1 rfl rfl)
theorem dX11_image_2 : decode cX11_image 2 = .ok (.putfield 3, 3) := dk_181 0 3 (dk_at dksX11_image_0 2 rfl rfl)
theorem dX11_image_5 : decode cX11_image 5 = .ok (.iconst 0, 1) := dk_3 (dk_at dksX11_image_0 5 rfl rfl)
theorem dX11_image_6 : decode cX11_image 6 = .ok (.istore_n 1, 1) := dk_60 (dk_at dksX11_image_0 6 rfl rfl)
theorem dX11_image_7 : decode cX11_image 7 = .ok (.iload_n 1, 1) := dk_27 (dk_at dksX11_image_0 7 rfl rfl)
theorem dX11_image_8 : decode cX11_image 8 = .ok (.sipush 1284, 3) := dk_17 5 4 (dk_at dksX11_image_0 8 rfl rfl)
theorem dX11_image_11 : decode cX11_image 11 = .ok (.if_icmp .ge 21, 3) := dk_162 0 21 (dk_at dksX11_image_0 11 rfl rfl)
theorem dX11_image_14 : decode cX11_image 14 = .ok (.aload_n 0, 1) := dk_42 (dk_at dksX11_image_0 14 rfl rfl)
theorem dX11_image_15 : decode cX11_image 15 = .ok (.getfield 17, 3) := dk_180 0 17 (dk_at dksX11_image_0 15 rfl rfl)
theorem dX11_image_18 : decode cX11_image 18 = .ok (.iload_n 1, 1) := dk_27 (dk_at dksX11_image_0 18 rfl rfl)
theorem dX11_image_19 : decode cX11_image 19 = .ok (.aload_n 0, 1) := dk_42 (dk_at dksX11_image_0 19 rfl rfl)
theorem dX11_image_20 : decode cX11_image 20 = .ok (.getfield 13, 3) := dk_180 0 13 (dk_at dksX11_image_0 20 rfl rfl)
theorem dX11_image_23 : decode cX11_image 23 = .ok (.iload_n 1, 1) := dk_27 (dk_at dksX11_image_0 23 rfl rfl)
theorem dX11_image_24 : decode cX11_image 24 = .ok (.iaload, 1) := dk_46 (dk_at dksX11_image_1 0 rfl rfl)
theorem dX11_image_25 : decode cX11_image 25 = .ok (.iastore, 1) := dk_79 (dk_at dksX11_image_1 1 rfl rfl)
theorem dX11_image_26 : decode cX11_image 26 = .ok (.iinc 1 1, 3) := dk_132 1 1 (dk_at dksX11_image_1 2 rfl rfl)
theorem dX11_image_29 : decode cX11_image 29 = .ok (.goto (-22), 3) := dk_167 255 234 (dk_at dksX11_image_1 5 rfl rfl)
theorem dX11_image_32 : decode cX11_image 32 = .ok (.aload_n 0, 1) := dk_42 (dk_at dksX11_image_1 8 rfl rfl)
theorem dX11_image_33 : decode cX11_image 33 = .ok (.iconst 1, 1) := dk_4 (dk_at dksX11_image_1 9 rfl rfl)
theorem dX11_image_34 : decode cX11_image 34 = .ok (.putfield 102, 3) := dk_181 0 102 (dk_at dksX11_image_1 10 rfl rfl)
theorem dX11_image_37 : decode cX11_image 37 = .ok (.return_, 1) := dk_177 (dk_at dksX11_image_1 13 rfl rfl)
def dkwX11_back_1 : List UInt8 := [180, 0, 13, 27, 42, 180, 0, 17, 27, 46, 79, 132, 1, 1, 167, 255, 234, 4, 172]
abbrev dktX11_back_1 : List UInt8 := dkwX11_back_1 ++ []
def dkwX11_back_0 : List UInt8 := [42, 3, 181, 0, 3, 42, 180, 0, 102, 154, 0, 5, 3, 172, 3, 60, 27, 17, 5, 4, 162, 0, 21, 42]
abbrev dktX11_back_0 : List UInt8 := dkwX11_back_0 ++ dktX11_back_1
theorem dksX11_back_0 : cX11_back.data.toList.drop 0 = dktX11_back_0 := by decide +kernel
theorem dksX11_back_1 : cX11_back.data.toList.drop 24 = dktX11_back_1 := dk_seg dksX11_back_0 24 rfl rfl
theorem dX11_back_0 : decode cX11_back 0 = .ok (.aload_n 0, 1) := dk_42 (dk_at dksX11_back_0 0 rfl rfl)
theorem dX11_back_1 : decode cX11_back 1 = .ok (.iconst 0, 1) := dk_3 (dk_at dksX11_back_0 1 rfl rfl)
theorem dX11_back_2 : decode cX11_back 2 = .ok (.putfield 3, 3) := dk_181 0 3 (dk_at dksX11_back_0 2 rfl rfl)
theorem dX11_back_5 : decode cX11_back 5 = .ok (.aload_n 0, 1) := dk_42 (dk_at dksX11_back_0 5 rfl rfl)
theorem dX11_back_6 : decode cX11_back 6 = .ok (.getfield 102, 3) := dk_180 0 102 (dk_at dksX11_back_0 6 rfl rfl)
theorem dX11_back_9 : decode cX11_back 9 = .ok (.ifCond .ne 5, 3) := dk_154 0 5 (dk_at dksX11_back_0 9 rfl rfl)
theorem dX11_back_12 : decode cX11_back 12 = .ok (.iconst 0, 1) := dk_3 (dk_at dksX11_back_0 12 rfl rfl)
theorem dX11_back_13 : decode cX11_back 13 = .ok (.ireturn, 1) := dk_172 (dk_at dksX11_back_0 13 rfl rfl)
theorem dX11_back_14 : decode cX11_back 14 = .ok (.iconst 0, 1) := dk_3 (dk_at dksX11_back_0 14 rfl rfl)
theorem dX11_back_15 : decode cX11_back 15 = .ok (.istore_n 1, 1) := dk_60 (dk_at dksX11_back_0 15 rfl rfl)
theorem dX11_back_16 : decode cX11_back 16 = .ok (.iload_n 1, 1) := dk_27 (dk_at dksX11_back_0 16 rfl rfl)
theorem dX11_back_17 : decode cX11_back 17 = .ok (.sipush 1284, 3) := dk_17 5 4 (dk_at dksX11_back_0 17 rfl rfl)
theorem dX11_back_20 : decode cX11_back 20 = .ok (.if_icmp .ge 21, 3) := dk_162 0 21 (dk_at dksX11_back_0 20 rfl rfl)
theorem dX11_back_23 : decode cX11_back 23 = .ok (.aload_n 0, 1) := dk_42 (dk_at dksX11_back_0 23 rfl rfl)
theorem dX11_back_24 : decode cX11_back 24 = .ok (.getfield 13, 3) := dk_180 0 13 (dk_at dksX11_back_1 0 rfl rfl)
theorem dX11_back_27 : decode cX11_back 27 = .ok (.iload_n 1, 1) := dk_27 (dk_at dksX11_back_1 3 rfl rfl)
theorem dX11_back_28 : decode cX11_back 28 = .ok (.aload_n 0, 1) := dk_42 (dk_at dksX11_back_1 4 rfl rfl)
theorem dX11_back_29 : decode cX11_back 29 = .ok (.getfield 17, 3) := dk_180 0 17 (dk_at dksX11_back_1 5 rfl rfl)
theorem dX11_back_32 : decode cX11_back 32 = .ok (.iload_n 1, 1) := dk_27 (dk_at dksX11_back_1 8 rfl rfl)
theorem dX11_back_33 : decode cX11_back 33 = .ok (.iaload, 1) := dk_46 (dk_at dksX11_back_1 9 rfl rfl)
theorem dX11_back_34 : decode cX11_back 34 = .ok (.iastore, 1) := dk_79 (dk_at dksX11_back_1 10 rfl rfl)
theorem dX11_back_35 : decode cX11_back 35 = .ok (.iinc 1 1, 3) := dk_132 1 1 (dk_at dksX11_back_1 11 rfl rfl)
theorem dX11_back_38 : decode cX11_back 38 = .ok (.goto (-22), 3) := dk_167 255 234 (dk_at dksX11_back_1 14 rfl rfl)
theorem dX11_back_41 : decode cX11_back 41 = .ok (.iconst 1, 1) := dk_4 (dk_at dksX11_back_1 17 rfl rfl)
theorem dX11_back_42 : decode cX11_back 42 = .ok (.ireturn, 1) := dk_172 (dk_at dksX11_back_1 18 rfl rfl)
def dkwX11_feed_5 : List UInt8 := [180, 0, 118, 172]
abbrev dktX11_feed_5 : List UInt8 := dkwX11_feed_5 ++ []
def dkwX11_feed_4 : List UInt8 := [100, 122, 145, 84, 132, 6, 1, 167, 255, 213, 42, 89, 180, 0, 118, 16, 20, 96, 181, 0, 118, 42]
abbrev dktX11_feed_4 : List UInt8 := dkwX11_feed_4 ++ dktX11_feed_5
def dkwX11_feed_3 : List UInt8 := [180, 0, 118, 21, 6, 96, 42, 180, 0, 27, 21, 6, 7, 108, 46, 16, 24, 16, 8, 21, 6, 7, 112, 104]
abbrev dktX11_feed_3 : List UInt8 := dkwX11_feed_3 ++ dktX11_feed_4
def dkwX11_feed_2 : List UInt8 := [79, 42, 180, 0, 27, 7, 21, 5, 79, 3, 54, 6, 21, 6, 16, 20, 162, 0, 42, 42, 180, 0, 20, 42]
abbrev dktX11_feed_2 : List UInt8 := dkwX11_feed_2 ++ dktX11_feed_3
def dkwX11_feed_1 : List UInt8 := [3, 27, 79, 42, 180, 0, 27, 4, 28, 79, 42, 180, 0, 27, 5, 29, 79, 42, 180, 0, 27, 6, 21, 4]
abbrev dktX11_feed_1 : List UInt8 := dkwX11_feed_1 ++ dktX11_feed_2
def dkwX11_feed_0 : List UInt8 := [42, 3, 181, 0, 3, 42, 180, 0, 118, 16, 20, 96, 17, 1, 144, 164, 0, 5, 2, 172, 42, 180, 0, 27]
abbrev dktX11_feed_0 : List UInt8 := dkwX11_feed_0 ++ dktX11_feed_1
theorem dksX11_feed_0 : cX11_feed.data.toList.drop 0 = dktX11_feed_0 := by decide +kernel
theorem dksX11_feed_1 : cX11_feed.data.toList.drop 24 = dktX11_feed_1 := dk_seg dksX11_feed_0 24 rfl rfl
theorem dksX11_feed_2 : cX11_feed.data.toList.drop 48 = dktX11_feed_2 := dk_seg dksX11_feed_1 24 rfl rfl
theorem dksX11_feed_3 : cX11_feed.data.toList.drop 72 = dktX11_feed_3 := dk_seg dksX11_feed_2 24 rfl rfl
theorem dksX11_feed_4 : cX11_feed.data.toList.drop 96 = dktX11_feed_4 := dk_seg dksX11_feed_3 24 rfl rfl
theorem dksX11_feed_5 : cX11_feed.data.toList.drop 118 = dktX11_feed_5 := dk_seg dksX11_feed_4 22 rfl rfl
theorem dX11_feed_0 : decode cX11_feed 0 = .ok (.aload_n 0, 1) := dk_42 (dk_at dksX11_feed_0 0 rfl rfl)
theorem dX11_feed_1 : decode cX11_feed 1 = .ok (.iconst 0, 1) := dk_3 (dk_at dksX11_feed_0 1 rfl rfl)
theorem dX11_feed_2 : decode cX11_feed 2 = .ok (.putfield 3, 3) := dk_181 0 3 (dk_at dksX11_feed_0 2 rfl rfl)
theorem dX11_feed_5 : decode cX11_feed 5 = .ok (.aload_n 0, 1) := dk_42 (dk_at dksX11_feed_0 5 rfl rfl)
theorem dX11_feed_6 : decode cX11_feed 6 = .ok (.getfield 118, 3) := dk_180 0 118 (dk_at dksX11_feed_0 6 rfl rfl)
theorem dX11_feed_9 : decode cX11_feed 9 = .ok (.bipush 20, 2) := dk_16 20 (dk_at dksX11_feed_0 9 rfl rfl)
theorem dX11_feed_11 : decode cX11_feed 11 = .ok (.iadd, 1) := dk_96 (dk_at dksX11_feed_0 11 rfl rfl)
theorem dX11_feed_12 : decode cX11_feed 12 = .ok (.sipush 400, 3) := dk_17 1 144 (dk_at dksX11_feed_0 12 rfl rfl)
theorem dX11_feed_15 : decode cX11_feed 15 = .ok (.if_icmp .le 5, 3) := dk_164 0 5 (dk_at dksX11_feed_0 15 rfl rfl)
theorem dX11_feed_18 : decode cX11_feed 18 = .ok (.iconst (-1), 1) := dk_2 (dk_at dksX11_feed_0 18 rfl rfl)
theorem dX11_feed_19 : decode cX11_feed 19 = .ok (.ireturn, 1) := dk_172 (dk_at dksX11_feed_0 19 rfl rfl)
theorem dX11_feed_20 : decode cX11_feed 20 = .ok (.aload_n 0, 1) := dk_42 (dk_at dksX11_feed_0 20 rfl rfl)
theorem dX11_feed_21 : decode cX11_feed 21 = .ok (.getfield 27, 3) := dk_180 0 27 (dk_at dksX11_feed_0 21 rfl rfl)
theorem dX11_feed_24 : decode cX11_feed 24 = .ok (.iconst 0, 1) := dk_3 (dk_at dksX11_feed_1 0 rfl rfl)
theorem dX11_feed_25 : decode cX11_feed 25 = .ok (.iload_n 1, 1) := dk_27 (dk_at dksX11_feed_1 1 rfl rfl)
theorem dX11_feed_26 : decode cX11_feed 26 = .ok (.iastore, 1) := dk_79 (dk_at dksX11_feed_1 2 rfl rfl)
theorem dX11_feed_27 : decode cX11_feed 27 = .ok (.aload_n 0, 1) := dk_42 (dk_at dksX11_feed_1 3 rfl rfl)
theorem dX11_feed_28 : decode cX11_feed 28 = .ok (.getfield 27, 3) := dk_180 0 27 (dk_at dksX11_feed_1 4 rfl rfl)
theorem dX11_feed_31 : decode cX11_feed 31 = .ok (.iconst 1, 1) := dk_4 (dk_at dksX11_feed_1 7 rfl rfl)
theorem dX11_feed_32 : decode cX11_feed 32 = .ok (.iload_n 2, 1) := dk_28 (dk_at dksX11_feed_1 8 rfl rfl)
theorem dX11_feed_33 : decode cX11_feed 33 = .ok (.iastore, 1) := dk_79 (dk_at dksX11_feed_1 9 rfl rfl)
theorem dX11_feed_34 : decode cX11_feed 34 = .ok (.aload_n 0, 1) := dk_42 (dk_at dksX11_feed_1 10 rfl rfl)
theorem dX11_feed_35 : decode cX11_feed 35 = .ok (.getfield 27, 3) := dk_180 0 27 (dk_at dksX11_feed_1 11 rfl rfl)
theorem dX11_feed_38 : decode cX11_feed 38 = .ok (.iconst 2, 1) := dk_5 (dk_at dksX11_feed_1 14 rfl rfl)
theorem dX11_feed_39 : decode cX11_feed 39 = .ok (.iload_n 3, 1) := dk_29 (dk_at dksX11_feed_1 15 rfl rfl)
theorem dX11_feed_40 : decode cX11_feed 40 = .ok (.iastore, 1) := dk_79 (dk_at dksX11_feed_1 16 rfl rfl)
theorem dX11_feed_41 : decode cX11_feed 41 = .ok (.aload_n 0, 1) := dk_42 (dk_at dksX11_feed_1 17 rfl rfl)
theorem dX11_feed_42 : decode cX11_feed 42 = .ok (.getfield 27, 3) := dk_180 0 27 (dk_at dksX11_feed_1 18 rfl rfl)
theorem dX11_feed_45 : decode cX11_feed 45 = .ok (.iconst 3, 1) := dk_6 (dk_at dksX11_feed_1 21 rfl rfl)
theorem dX11_feed_46 : decode cX11_feed 46 = .ok (.iload 4, 2) := dk_21 4 (dk_at dksX11_feed_1 22 rfl rfl)
theorem dX11_feed_48 : decode cX11_feed 48 = .ok (.iastore, 1) := dk_79 (dk_at dksX11_feed_2 0 rfl rfl)
theorem dX11_feed_49 : decode cX11_feed 49 = .ok (.aload_n 0, 1) := dk_42 (dk_at dksX11_feed_2 1 rfl rfl)
theorem dX11_feed_50 : decode cX11_feed 50 = .ok (.getfield 27, 3) := dk_180 0 27 (dk_at dksX11_feed_2 2 rfl rfl)
theorem dX11_feed_53 : decode cX11_feed 53 = .ok (.iconst 4, 1) := dk_7 (dk_at dksX11_feed_2 5 rfl rfl)
theorem dX11_feed_54 : decode cX11_feed 54 = .ok (.iload 5, 2) := dk_21 5 (dk_at dksX11_feed_2 6 rfl rfl)
theorem dX11_feed_56 : decode cX11_feed 56 = .ok (.iastore, 1) := dk_79 (dk_at dksX11_feed_2 8 rfl rfl)
theorem dX11_feed_57 : decode cX11_feed 57 = .ok (.iconst 0, 1) := dk_3 (dk_at dksX11_feed_2 9 rfl rfl)
theorem dX11_feed_58 : decode cX11_feed 58 = .ok (.istore 6, 2) := dk_54 6 (dk_at dksX11_feed_2 10 rfl rfl)
theorem dX11_feed_60 : decode cX11_feed 60 = .ok (.iload 6, 2) := dk_21 6 (dk_at dksX11_feed_2 12 rfl rfl)
theorem dX11_feed_62 : decode cX11_feed 62 = .ok (.bipush 20, 2) := dk_16 20 (dk_at dksX11_feed_2 14 rfl rfl)
theorem dX11_feed_64 : decode cX11_feed 64 = .ok (.if_icmp .ge 42, 3) := dk_162 0 42 (dk_at dksX11_feed_2 16 rfl rfl)
theorem dX11_feed_67 : decode cX11_feed 67 = .ok (.aload_n 0, 1) := dk_42 (dk_at dksX11_feed_2 19 rfl rfl)
theorem dX11_feed_68 : decode cX11_feed 68 = .ok (.getfield 20, 3) := dk_180 0 20 (dk_at dksX11_feed_2 20 rfl rfl)
theorem dX11_feed_71 : decode cX11_feed 71 = .ok (.aload_n 0, 1) := dk_42 (dk_at dksX11_feed_2 23 rfl rfl)
theorem dX11_feed_72 : decode cX11_feed 72 = .ok (.getfield 118, 3) := dk_180 0 118 (dk_at dksX11_feed_3 0 rfl rfl)
theorem dX11_feed_75 : decode cX11_feed 75 = .ok (.iload 6, 2) := dk_21 6 (dk_at dksX11_feed_3 3 rfl rfl)
theorem dX11_feed_77 : decode cX11_feed 77 = .ok (.iadd, 1) := dk_96 (dk_at dksX11_feed_3 5 rfl rfl)
theorem dX11_feed_78 : decode cX11_feed 78 = .ok (.aload_n 0, 1) := dk_42 (dk_at dksX11_feed_3 6 rfl rfl)
theorem dX11_feed_79 : decode cX11_feed 79 = .ok (.getfield 27, 3) := dk_180 0 27 (dk_at dksX11_feed_3 7 rfl rfl)
theorem dX11_feed_82 : decode cX11_feed 82 = .ok (.iload 6, 2) := dk_21 6 (dk_at dksX11_feed_3 10 rfl rfl)
theorem dX11_feed_84 : decode cX11_feed 84 = .ok (.iconst 4, 1) := dk_7 (dk_at dksX11_feed_3 12 rfl rfl)
theorem dX11_feed_85 : decode cX11_feed 85 = .ok (.idiv, 1) := dk_108 (dk_at dksX11_feed_3 13 rfl rfl)
theorem dX11_feed_86 : decode cX11_feed 86 = .ok (.iaload, 1) := dk_46 (dk_at dksX11_feed_3 14 rfl rfl)
theorem dX11_feed_87 : decode cX11_feed 87 = .ok (.bipush 24, 2) := dk_16 24 (dk_at dksX11_feed_3 15 rfl rfl)
theorem dX11_feed_89 : decode cX11_feed 89 = .ok (.bipush 8, 2) := dk_16 8 (dk_at dksX11_feed_3 17 rfl rfl)
theorem dX11_feed_91 : decode cX11_feed 91 = .ok (.iload 6, 2) := dk_21 6 (dk_at dksX11_feed_3 19 rfl rfl)
theorem dX11_feed_93 : decode cX11_feed 93 = .ok (.iconst 4, 1) := dk_7 (dk_at dksX11_feed_3 21 rfl rfl)
theorem dX11_feed_94 : decode cX11_feed 94 = .ok (.irem, 1) := dk_112 (dk_at dksX11_feed_3 22 rfl rfl)
theorem dX11_feed_95 : decode cX11_feed 95 = .ok (.imul, 1) := dk_104 (dk_at dksX11_feed_3 23 rfl rfl)
theorem dX11_feed_96 : decode cX11_feed 96 = .ok (.isub, 1) := dk_100 (dk_at dksX11_feed_4 0 rfl rfl)
theorem dX11_feed_97 : decode cX11_feed 97 = .ok (.ishr, 1) := dk_122 (dk_at dksX11_feed_4 1 rfl rfl)
theorem dX11_feed_98 : decode cX11_feed 98 = .ok (.i2b, 1) := dk_145 (dk_at dksX11_feed_4 2 rfl rfl)
theorem dX11_feed_99 : decode cX11_feed 99 = .ok (.bastore, 1) := dk_84 (dk_at dksX11_feed_4 3 rfl rfl)
theorem dX11_feed_100 : decode cX11_feed 100 = .ok (.iinc 6 1, 3) := dk_132 6 1 (dk_at dksX11_feed_4 4 rfl rfl)
theorem dX11_feed_103 : decode cX11_feed 103 = .ok (.goto (-43), 3) := dk_167 255 213 (dk_at dksX11_feed_4 7 rfl rfl)
theorem dX11_feed_106 : decode cX11_feed 106 = .ok (.aload_n 0, 1) := dk_42 (dk_at dksX11_feed_4 10 rfl rfl)
theorem dX11_feed_107 : decode cX11_feed 107 = .ok (.dup, 1) := dk_89 (dk_at dksX11_feed_4 11 rfl rfl)
theorem dX11_feed_108 : decode cX11_feed 108 = .ok (.getfield 118, 3) := dk_180 0 118 (dk_at dksX11_feed_4 12 rfl rfl)
theorem dX11_feed_111 : decode cX11_feed 111 = .ok (.bipush 20, 2) := dk_16 20 (dk_at dksX11_feed_4 15 rfl rfl)
theorem dX11_feed_113 : decode cX11_feed 113 = .ok (.iadd, 1) := dk_96 (dk_at dksX11_feed_4 17 rfl rfl)
theorem dX11_feed_114 : decode cX11_feed 114 = .ok (.putfield 118, 3) := dk_181 0 118 (dk_at dksX11_feed_4 18 rfl rfl)
theorem dX11_feed_117 : decode cX11_feed 117 = .ok (.aload_n 0, 1) := dk_42 (dk_at dksX11_feed_4 21 rfl rfl)
theorem dX11_feed_118 : decode cX11_feed 118 = .ok (.getfield 118, 3) := dk_180 0 118 (dk_at dksX11_feed_5 0 rfl rfl)
theorem dX11_feed_121 : decode cX11_feed 121 = .ok (.ireturn, 1) := dk_172 (dk_at dksX11_feed_5 3 rfl rfl)
def dkwX11_end_1 : List UInt8 := [4, 172]
abbrev dktX11_end_1 : List UInt8 := dkwX11_end_1 ++ []
def dkwX11_end_0 : List UInt8 := [42, 3, 181, 0, 3, 27, 155, 0, 11, 27, 42, 180, 0, 118, 164, 0, 5, 3, 172, 42, 27, 181, 0, 118]
abbrev dktX11_end_0 : List UInt8 := dkwX11_end_0 ++ dktX11_end_1
theorem dksX11_end_0 : cX11_end.data.toList.drop 0 = dktX11_end_0 := by decide +kernel
theorem dksX11_end_1 : cX11_end.data.toList.drop 24 = dktX11_end_1 := dk_seg dksX11_end_0 24 rfl rfl
theorem dX11_end_0 : decode cX11_end 0 = .ok (.aload_n 0, 1) := dk_42 (dk_at dksX11_end_0 0 rfl rfl)
theorem dX11_end_1 : decode cX11_end 1 = .ok (.iconst 0, 1) := dk_3 (dk_at dksX11_end_0 1 rfl rfl)
theorem dX11_end_2 : decode cX11_end 2 = .ok (.putfield 3, 3) := dk_181 0 3 (dk_at dksX11_end_0 2 rfl rfl)
theorem dX11_end_5 : decode cX11_end 5 = .ok (.iload_n 1, 1) := dk_27 (dk_at dksX11_end_0 5 rfl rfl)
theorem dX11_end_6 : decode cX11_end 6 = .ok (.ifCond .lt 11, 3) := dk_155 0 11 (dk_at dksX11_end_0 6 rfl rfl)
theorem dX11_end_9 : decode cX11_end 9 = .ok (.iload_n 1, 1) := dk_27 (dk_at dksX11_end_0 9 rfl rfl)
theorem dX11_end_10 : decode cX11_end 10 = .ok (.aload_n 0, 1) := dk_42 (dk_at dksX11_end_0 10 rfl rfl)
theorem dX11_end_11 : decode cX11_end 11 = .ok (.getfield 118, 3) := dk_180 0 118 (dk_at dksX11_end_0 11 rfl rfl)
theorem dX11_end_14 : decode cX11_end 14 = .ok (.if_icmp .le 5, 3) := dk_164 0 5 (dk_at dksX11_end_0 14 rfl rfl)
theorem dX11_end_17 : decode cX11_end 17 = .ok (.iconst 0, 1) := dk_3 (dk_at dksX11_end_0 17 rfl rfl)
theorem dX11_end_18 : decode cX11_end 18 = .ok (.ireturn, 1) := dk_172 (dk_at dksX11_end_0 18 rfl rfl)
theorem dX11_end_19 : decode cX11_end 19 = .ok (.aload_n 0, 1) := dk_42 (dk_at dksX11_end_0 19 rfl rfl)
theorem dX11_end_20 : decode cX11_end 20 = .ok (.iload_n 1, 1) := dk_27 (dk_at dksX11_end_0 20 rfl rfl)
theorem dX11_end_21 : decode cX11_end 21 = .ok (.putfield 118, 3) := dk_181 0 118 (dk_at dksX11_end_0 21 rfl rfl)
theorem dX11_end_24 : decode cX11_end 24 = .ok (.iconst 1, 1) := dk_4 (dk_at dksX11_end_1 0 rfl rfl)
theorem dX11_end_25 : decode cX11_end 25 = .ok (.ireturn, 1) := dk_172 (dk_at dksX11_end_1 1 rfl rfl)
def dkwX11_fault_0 : List UInt8 := [42, 3, 181, 0, 3, 42, 180, 0, 24, 172]
abbrev dktX11_fault_0 : List UInt8 := dkwX11_fault_0 ++ []
theorem dksX11_fault_0 : cX11_fault.data.toList.drop 0 = dktX11_fault_0 := by decide +kernel
theorem dX11_fault_0 : decode cX11_fault 0 = .ok (.aload_n 0, 1) := dk_42 (dk_at dksX11_fault_0 0 rfl rfl)
theorem dX11_fault_1 : decode cX11_fault 1 = .ok (.iconst 0, 1) := dk_3 (dk_at dksX11_fault_0 1 rfl rfl)
theorem dX11_fault_2 : decode cX11_fault 2 = .ok (.putfield 3, 3) := dk_181 0 3 (dk_at dksX11_fault_0 2 rfl rfl)
theorem dX11_fault_5 : decode cX11_fault 5 = .ok (.aload_n 0, 1) := dk_42 (dk_at dksX11_fault_0 5 rfl rfl)
theorem dX11_fault_6 : decode cX11_fault 6 = .ok (.getfield 24, 3) := dk_180 0 24 (dk_at dksX11_fault_0 6 rfl rfl)
theorem dX11_fault_9 : decode cX11_fault 9 = .ok (.ireturn, 1) := dk_172 (dk_at dksX11_fault_0 9 rfl rfl)
def dkwX11_kind_6 : List UInt8 := [167, 255, 227, 42, 180, 0, 13, 3, 92, 46, 4, 96, 79, 42, 180, 0, 13, 3, 46, 4, 100, 172]
abbrev dktX11_kind_6 : List UInt8 := dkwX11_kind_6 ++ []
def dkwX11_kind_5 : List UInt8 := [162, 0, 27, 42, 180, 0, 13, 29, 5, 96, 21, 4, 96, 42, 180, 0, 30, 21, 4, 46, 79, 132, 4, 1]
abbrev dktX11_kind_5 : List UInt8 := dkwX11_kind_5 ++ dktX11_kind_6
def dkwX11_kind_4 : List UInt8 := [180, 0, 13, 29, 27, 79, 42, 180, 0, 13, 29, 4, 96, 28, 79, 3, 54, 4, 21, 4, 5, 28, 104]
abbrev dktX11_kind_4 : List UInt8 := dkwX11_kind_4 ++ dktX11_kind_5
def dkwX11_kind_3 : List UInt8 := [182, 0, 235, 153, 0, 5, 3, 172, 16, 49, 16, 14, 42, 180, 0, 13, 3, 46, 104, 96, 62, 42]
abbrev dktX11_kind_3 : List UInt8 := dkwX11_kind_3 ++ dktX11_kind_4
def dkwX11_kind_2 : List UInt8 := [182, 0, 235, 154, 0, 26, 42, 42, 180, 0, 13, 3, 46, 8, 160, 0, 7, 4, 167, 0, 4, 3, 5]
abbrev dktX11_kind_2 : List UInt8 := dkwX11_kind_2 ++ dktX11_kind_3
def dkwX11_kind_1 : List UInt8 := [181, 0, 24, 42, 28, 155, 0, 13, 27, 3, 16, 20, 184, 0, 106, 154, 0, 7, 4, 167, 0, 4, 3, 4]
abbrev dktX11_kind_1 : List UInt8 := dkwX11_kind_1 ++ dktX11_kind_2
def dkwX11_kind_0 : List UInt8 := [42, 3, 181, 0, 3, 42, 4, 182, 0, 231, 61, 42, 28, 156, 0, 10, 42, 180, 0, 130, 167, 0, 4, 2]
abbrev dktX11_kind_0 : List UInt8 := dkwX11_kind_0 ++ dktX11_kind_1
theorem dksX11_kind_0 : cX11_kind.data.toList.drop 0 = dktX11_kind_0 := by decide +kernel
theorem dksX11_kind_1 : cX11_kind.data.toList.drop 24 = dktX11_kind_1 := dk_seg dksX11_kind_0 24 rfl rfl
theorem dksX11_kind_2 : cX11_kind.data.toList.drop 48 = dktX11_kind_2 := dk_seg dksX11_kind_1 24 rfl rfl
theorem dksX11_kind_3 : cX11_kind.data.toList.drop 71 = dktX11_kind_3 := dk_seg dksX11_kind_2 23 rfl rfl
theorem dksX11_kind_4 : cX11_kind.data.toList.drop 93 = dktX11_kind_4 := dk_seg dksX11_kind_3 22 rfl rfl
theorem dksX11_kind_5 : cX11_kind.data.toList.drop 116 = dktX11_kind_5 := dk_seg dksX11_kind_4 23 rfl rfl
theorem dksX11_kind_6 : cX11_kind.data.toList.drop 140 = dktX11_kind_6 := dk_seg dksX11_kind_5 24 rfl rfl
theorem dX11_kind_0 : decode cX11_kind 0 = .ok (.aload_n 0, 1) := dk_42 (dk_at dksX11_kind_0 0 rfl rfl)
theorem dX11_kind_1 : decode cX11_kind 1 = .ok (.iconst 0, 1) := dk_3 (dk_at dksX11_kind_0 1 rfl rfl)
theorem dX11_kind_2 : decode cX11_kind 2 = .ok (.putfield 3, 3) := dk_181 0 3 (dk_at dksX11_kind_0 2 rfl rfl)
theorem dX11_kind_5 : decode cX11_kind 5 = .ok (.aload_n 0, 1) := dk_42 (dk_at dksX11_kind_0 5 rfl rfl)
theorem dX11_kind_6 : decode cX11_kind 6 = .ok (.iconst 1, 1) := dk_4 (dk_at dksX11_kind_0 6 rfl rfl)
theorem dX11_kind_7 : decode cX11_kind 7 = .ok (.invokevirtual 231, 3) := dk_182 0 231 (dk_at dksX11_kind_0 7 rfl rfl)
theorem dX11_kind_10 : decode cX11_kind 10 = .ok (.istore_n 2, 1) := dk_61 (dk_at dksX11_kind_0 10 rfl rfl)
theorem dX11_kind_11 : decode cX11_kind 11 = .ok (.aload_n 0, 1) := dk_42 (dk_at dksX11_kind_0 11 rfl rfl)
theorem dX11_kind_12 : decode cX11_kind 12 = .ok (.iload_n 2, 1) := dk_28 (dk_at dksX11_kind_0 12 rfl rfl)
theorem dX11_kind_13 : decode cX11_kind 13 = .ok (.ifCond .ge 10, 3) := dk_156 0 10 (dk_at dksX11_kind_0 13 rfl rfl)
theorem dX11_kind_16 : decode cX11_kind 16 = .ok (.aload_n 0, 1) := dk_42 (dk_at dksX11_kind_0 16 rfl rfl)
theorem dX11_kind_17 : decode cX11_kind 17 = .ok (.getfield 130, 3) := dk_180 0 130 (dk_at dksX11_kind_0 17 rfl rfl)
theorem dX11_kind_20 : decode cX11_kind 20 = .ok (.goto 4, 3) := dk_167 0 4 (dk_at dksX11_kind_0 20 rfl rfl)
theorem dX11_kind_23 : decode cX11_kind 23 = .ok (.iconst (-1), 1) := dk_2 (dk_at dksX11_kind_0 23 rfl rfl)
theorem dX11_kind_24 : decode cX11_kind 24 = .ok (.putfield 24, 3) := dk_181 0 24 (dk_at dksX11_kind_1 0 rfl rfl)
theorem dX11_kind_27 : decode cX11_kind 27 = .ok (.aload_n 0, 1) := dk_42 (dk_at dksX11_kind_1 3 rfl rfl)
theorem dX11_kind_28 : decode cX11_kind 28 = .ok (.iload_n 2, 1) := dk_28 (dk_at dksX11_kind_1 4 rfl rfl)
theorem dX11_kind_29 : decode cX11_kind 29 = .ok (.ifCond .lt 13, 3) := dk_155 0 13 (dk_at dksX11_kind_1 5 rfl rfl)
theorem dX11_kind_32 : decode cX11_kind 32 = .ok (.iload_n 1, 1) := dk_27 (dk_at dksX11_kind_1 8 rfl rfl)
theorem dX11_kind_33 : decode cX11_kind 33 = .ok (.iconst 0, 1) := dk_3 (dk_at dksX11_kind_1 9 rfl rfl)
theorem dX11_kind_34 : decode cX11_kind 34 = .ok (.bipush 20, 2) := dk_16 20 (dk_at dksX11_kind_1 10 rfl rfl)
theorem dX11_kind_36 : decode cX11_kind 36 = .ok (.invokestatic 106, 3) := dk_184 0 106 (dk_at dksX11_kind_1 12 rfl rfl)
theorem dX11_kind_39 : decode cX11_kind 39 = .ok (.ifCond .ne 7, 3) := dk_154 0 7 (dk_at dksX11_kind_1 15 rfl rfl)
theorem dX11_kind_42 : decode cX11_kind 42 = .ok (.iconst 1, 1) := dk_4 (dk_at dksX11_kind_1 18 rfl rfl)
theorem dX11_kind_43 : decode cX11_kind 43 = .ok (.goto 4, 3) := dk_167 0 4 (dk_at dksX11_kind_1 19 rfl rfl)
theorem dX11_kind_46 : decode cX11_kind 46 = .ok (.iconst 0, 1) := dk_3 (dk_at dksX11_kind_1 22 rfl rfl)
theorem dX11_kind_47 : decode cX11_kind 47 = .ok (.iconst 1, 1) := dk_4 (dk_at dksX11_kind_1 23 rfl rfl)
theorem dX11_kind_48 : decode cX11_kind 48 = .ok (.invokevirtual 235, 3) := dk_182 0 235 (dk_at dksX11_kind_2 0 rfl rfl)
theorem dX11_kind_51 : decode cX11_kind 51 = .ok (.ifCond .ne 26, 3) := dk_154 0 26 (dk_at dksX11_kind_2 3 rfl rfl)
theorem dX11_kind_54 : decode cX11_kind 54 = .ok (.aload_n 0, 1) := dk_42 (dk_at dksX11_kind_2 6 rfl rfl)
theorem dX11_kind_55 : decode cX11_kind 55 = .ok (.aload_n 0, 1) := dk_42 (dk_at dksX11_kind_2 7 rfl rfl)
theorem dX11_kind_56 : decode cX11_kind 56 = .ok (.getfield 13, 3) := dk_180 0 13 (dk_at dksX11_kind_2 8 rfl rfl)
theorem dX11_kind_59 : decode cX11_kind 59 = .ok (.iconst 0, 1) := dk_3 (dk_at dksX11_kind_2 11 rfl rfl)
theorem dX11_kind_60 : decode cX11_kind 60 = .ok (.iaload, 1) := dk_46 (dk_at dksX11_kind_2 12 rfl rfl)
theorem dX11_kind_61 : decode cX11_kind 61 = .ok (.iconst 5, 1) := dk_8 (dk_at dksX11_kind_2 13 rfl rfl)
theorem dX11_kind_62 : decode cX11_kind 62 = .ok (.if_icmp .ne 7, 3) := dk_160 0 7 (dk_at dksX11_kind_2 14 rfl rfl)
theorem dX11_kind_65 : decode cX11_kind 65 = .ok (.iconst 1, 1) := dk_4 (dk_at dksX11_kind_2 17 rfl rfl)
theorem dX11_kind_66 : decode cX11_kind 66 = .ok (.goto 4, 3) := dk_167 0 4 (dk_at dksX11_kind_2 18 rfl rfl)
theorem dX11_kind_69 : decode cX11_kind 69 = .ok (.iconst 0, 1) := dk_3 (dk_at dksX11_kind_2 21 rfl rfl)
theorem dX11_kind_70 : decode cX11_kind 70 = .ok (.iconst 2, 1) := dk_5 (dk_at dksX11_kind_2 22 rfl rfl)
theorem dX11_kind_71 : decode cX11_kind 71 = .ok (.invokevirtual 235, 3) := dk_182 0 235 (dk_at dksX11_kind_3 0 rfl rfl)
theorem dX11_kind_74 : decode cX11_kind 74 = .ok (.ifCond .eq 5, 3) := dk_153 0 5 (dk_at dksX11_kind_3 3 rfl rfl)
theorem dX11_kind_77 : decode cX11_kind 77 = .ok (.iconst 0, 1) := dk_3 (dk_at dksX11_kind_3 6 rfl rfl)
theorem dX11_kind_78 : decode cX11_kind 78 = .ok (.ireturn, 1) := dk_172 (dk_at dksX11_kind_3 7 rfl rfl)
theorem dX11_kind_79 : decode cX11_kind 79 = .ok (.bipush 49, 2) := dk_16 49 (dk_at dksX11_kind_3 8 rfl rfl)
theorem dX11_kind_81 : decode cX11_kind 81 = .ok (.bipush 14, 2) := dk_16 14 (dk_at dksX11_kind_3 10 rfl rfl)
theorem dX11_kind_83 : decode cX11_kind 83 = .ok (.aload_n 0, 1) := dk_42 (dk_at dksX11_kind_3 12 rfl rfl)
theorem dX11_kind_84 : decode cX11_kind 84 = .ok (.getfield 13, 3) := dk_180 0 13 (dk_at dksX11_kind_3 13 rfl rfl)
theorem dX11_kind_87 : decode cX11_kind 87 = .ok (.iconst 0, 1) := dk_3 (dk_at dksX11_kind_3 16 rfl rfl)
theorem dX11_kind_88 : decode cX11_kind 88 = .ok (.iaload, 1) := dk_46 (dk_at dksX11_kind_3 17 rfl rfl)
theorem dX11_kind_89 : decode cX11_kind 89 = .ok (.imul, 1) := dk_104 (dk_at dksX11_kind_3 18 rfl rfl)
theorem dX11_kind_90 : decode cX11_kind 90 = .ok (.iadd, 1) := dk_96 (dk_at dksX11_kind_3 19 rfl rfl)
theorem dX11_kind_91 : decode cX11_kind 91 = .ok (.istore_n 3, 1) := dk_62 (dk_at dksX11_kind_3 20 rfl rfl)
theorem dX11_kind_92 : decode cX11_kind 92 = .ok (.aload_n 0, 1) := dk_42 (dk_at dksX11_kind_3 21 rfl rfl)
theorem dX11_kind_93 : decode cX11_kind 93 = .ok (.getfield 13, 3) := dk_180 0 13 (dk_at dksX11_kind_4 0 rfl rfl)
theorem dX11_kind_96 : decode cX11_kind 96 = .ok (.iload_n 3, 1) := dk_29 (dk_at dksX11_kind_4 3 rfl rfl)
theorem dX11_kind_97 : decode cX11_kind 97 = .ok (.iload_n 1, 1) := dk_27 (dk_at dksX11_kind_4 4 rfl rfl)
theorem dX11_kind_98 : decode cX11_kind 98 = .ok (.iastore, 1) := dk_79 (dk_at dksX11_kind_4 5 rfl rfl)
theorem dX11_kind_99 : decode cX11_kind 99 = .ok (.aload_n 0, 1) := dk_42 (dk_at dksX11_kind_4 6 rfl rfl)
theorem dX11_kind_100 : decode cX11_kind 100 = .ok (.getfield 13, 3) := dk_180 0 13 (dk_at dksX11_kind_4 7 rfl rfl)
theorem dX11_kind_103 : decode cX11_kind 103 = .ok (.iload_n 3, 1) := dk_29 (dk_at dksX11_kind_4 10 rfl rfl)
theorem dX11_kind_104 : decode cX11_kind 104 = .ok (.iconst 1, 1) := dk_4 (dk_at dksX11_kind_4 11 rfl rfl)
theorem dX11_kind_105 : decode cX11_kind 105 = .ok (.iadd, 1) := dk_96 (dk_at dksX11_kind_4 12 rfl rfl)
theorem dX11_kind_106 : decode cX11_kind 106 = .ok (.iload_n 2, 1) := dk_28 (dk_at dksX11_kind_4 13 rfl rfl)
theorem dX11_kind_107 : decode cX11_kind 107 = .ok (.iastore, 1) := dk_79 (dk_at dksX11_kind_4 14 rfl rfl)
theorem dX11_kind_108 : decode cX11_kind 108 = .ok (.iconst 0, 1) := dk_3 (dk_at dksX11_kind_4 15 rfl rfl)
theorem dX11_kind_109 : decode cX11_kind 109 = .ok (.istore 4, 2) := dk_54 4 (dk_at dksX11_kind_4 16 rfl rfl)
theorem dX11_kind_111 : decode cX11_kind 111 = .ok (.iload 4, 2) := dk_21 4 (dk_at dksX11_kind_4 18 rfl rfl)
theorem dX11_kind_113 : decode cX11_kind 113 = .ok (.iconst 2, 1) := dk_5 (dk_at dksX11_kind_4 20 rfl rfl)
theorem dX11_kind_114 : decode cX11_kind 114 = .ok (.iload_n 2, 1) := dk_28 (dk_at dksX11_kind_4 21 rfl rfl)
theorem dX11_kind_115 : decode cX11_kind 115 = .ok (.imul, 1) := dk_104 (dk_at dksX11_kind_4 22 rfl rfl)
theorem dX11_kind_116 : decode cX11_kind 116 = .ok (.if_icmp .ge 27, 3) := dk_162 0 27 (dk_at dksX11_kind_5 0 rfl rfl)
theorem dX11_kind_119 : decode cX11_kind 119 = .ok (.aload_n 0, 1) := dk_42 (dk_at dksX11_kind_5 3 rfl rfl)
theorem dX11_kind_120 : decode cX11_kind 120 = .ok (.getfield 13, 3) := dk_180 0 13 (dk_at dksX11_kind_5 4 rfl rfl)
theorem dX11_kind_123 : decode cX11_kind 123 = .ok (.iload_n 3, 1) := dk_29 (dk_at dksX11_kind_5 7 rfl rfl)
theorem dX11_kind_124 : decode cX11_kind 124 = .ok (.iconst 2, 1) := dk_5 (dk_at dksX11_kind_5 8 rfl rfl)
theorem dX11_kind_125 : decode cX11_kind 125 = .ok (.iadd, 1) := dk_96 (dk_at dksX11_kind_5 9 rfl rfl)
theorem dX11_kind_126 : decode cX11_kind 126 = .ok (.iload 4, 2) := dk_21 4 (dk_at dksX11_kind_5 10 rfl rfl)
theorem dX11_kind_128 : decode cX11_kind 128 = .ok (.iadd, 1) := dk_96 (dk_at dksX11_kind_5 12 rfl rfl)
theorem dX11_kind_129 : decode cX11_kind 129 = .ok (.aload_n 0, 1) := dk_42 (dk_at dksX11_kind_5 13 rfl rfl)
theorem dX11_kind_130 : decode cX11_kind 130 = .ok (.getfield 30, 3) := dk_180 0 30 (dk_at dksX11_kind_5 14 rfl rfl)
theorem dX11_kind_133 : decode cX11_kind 133 = .ok (.iload 4, 2) := dk_21 4 (dk_at dksX11_kind_5 17 rfl rfl)
theorem dX11_kind_135 : decode cX11_kind 135 = .ok (.iaload, 1) := dk_46 (dk_at dksX11_kind_5 19 rfl rfl)
theorem dX11_kind_136 : decode cX11_kind 136 = .ok (.iastore, 1) := dk_79 (dk_at dksX11_kind_5 20 rfl rfl)
theorem dX11_kind_137 : decode cX11_kind 137 = .ok (.iinc 4 1, 3) := dk_132 4 1 (dk_at dksX11_kind_5 21 rfl rfl)
theorem dX11_kind_140 : decode cX11_kind 140 = .ok (.goto (-29), 3) := dk_167 255 227 (dk_at dksX11_kind_6 0 rfl rfl)
theorem dX11_kind_143 : decode cX11_kind 143 = .ok (.aload_n 0, 1) := dk_42 (dk_at dksX11_kind_6 3 rfl rfl)
theorem dX11_kind_144 : decode cX11_kind 144 = .ok (.getfield 13, 3) := dk_180 0 13 (dk_at dksX11_kind_6 4 rfl rfl)
theorem dX11_kind_147 : decode cX11_kind 147 = .ok (.iconst 0, 1) := dk_3 (dk_at dksX11_kind_6 7 rfl rfl)
theorem dX11_kind_148 : decode cX11_kind 148 = .ok (.dup2, 1) := dk_92 (dk_at dksX11_kind_6 8 rfl rfl)
theorem dX11_kind_149 : decode cX11_kind 149 = .ok (.iaload, 1) := dk_46 (dk_at dksX11_kind_6 9 rfl rfl)
theorem dX11_kind_150 : decode cX11_kind 150 = .ok (.iconst 1, 1) := dk_4 (dk_at dksX11_kind_6 10 rfl rfl)
theorem dX11_kind_151 : decode cX11_kind 151 = .ok (.iadd, 1) := dk_96 (dk_at dksX11_kind_6 11 rfl rfl)
theorem dX11_kind_152 : decode cX11_kind 152 = .ok (.iastore, 1) := dk_79 (dk_at dksX11_kind_6 12 rfl rfl)
theorem dX11_kind_153 : decode cX11_kind 153 = .ok (.aload_n 0, 1) := dk_42 (dk_at dksX11_kind_6 13 rfl rfl)
theorem dX11_kind_154 : decode cX11_kind 154 = .ok (.getfield 13, 3) := dk_180 0 13 (dk_at dksX11_kind_6 14 rfl rfl)
theorem dX11_kind_157 : decode cX11_kind 157 = .ok (.iconst 0, 1) := dk_3 (dk_at dksX11_kind_6 17 rfl rfl)
theorem dX11_kind_158 : decode cX11_kind 158 = .ok (.iaload, 1) := dk_46 (dk_at dksX11_kind_6 18 rfl rfl)
theorem dX11_kind_159 : decode cX11_kind 159 = .ok (.iconst 1, 1) := dk_4 (dk_at dksX11_kind_6 19 rfl rfl)
theorem dX11_kind_160 : decode cX11_kind 160 = .ok (.isub, 1) := dk_100 (dk_at dksX11_kind_6 20 rfl rfl)
theorem dX11_kind_161 : decode cX11_kind 161 = .ok (.ireturn, 1) := dk_172 (dk_at dksX11_kind_6 21 rfl rfl)
def dkwX11_readAll_5 : List UInt8 := [42, 89, 180, 0, 121, 4, 96, 181, 0, 121, 132, 2, 1, 167, 255, 165]
abbrev dktX11_readAll_5 : List UInt8 := dkwX11_readAll_5 ++ []
def dkwX11_readAll_4 : List UInt8 := [42, 180, 0, 124, 160, 0, 7, 28, 4, 96, 172, 42, 16, 59, 16, 59, 182, 0, 127, 154, 0, 5, 2, 172]
abbrev dktX11_readAll_4 : List UInt8 := dkwX11_readAll_4 ++ dktX11_readAll_5
def dkwX11_readAll_3 : List UInt8 := [153, 0, 14, 167, 0, 13, 42, 28, 182, 0, 228, 154, 0, 5, 2, 172, 42, 182, 0, 133, 42, 180, 0, 121]
abbrev dktX11_readAll_3 : List UInt8 := dkwX11_readAll_3 ++ dktX11_readAll_4
def dkwX11_readAll_2 : List UInt8 := [153, 0, 8, 16, 6, 167, 0, 5, 16, 10, 160, 0, 5, 2, 172, 27, 153, 0, 14, 42, 28, 182, 0, 225]
abbrev dktX11_readAll_2 : List UInt8 := dkwX11_readAll_2 ++ dktX11_readAll_3
def dkwX11_readAll_1 : List UInt8 := [182, 0, 133, 42, 180, 0, 121, 42, 180, 0, 124, 160, 0, 5, 3, 172, 3, 61, 42, 182, 0, 146, 28, 27]
abbrev dktX11_readAll_1 : List UInt8 := dkwX11_readAll_1 ++ dktX11_readAll_2
def dkwX11_readAll_0 : List UInt8 := [42, 42, 180, 0, 118, 181, 0, 124, 42, 3, 181, 0, 118, 42, 3, 181, 0, 121, 42, 3, 181, 0, 153, 42]
abbrev dktX11_readAll_0 : List UInt8 := dkwX11_readAll_0 ++ dktX11_readAll_1
theorem dksX11_readAll_0 : cX11_readAll.data.toList.drop 0 = dktX11_readAll_0 := by decide +kernel
theorem dksX11_readAll_1 : cX11_readAll.data.toList.drop 24 = dktX11_readAll_1 := dk_seg dksX11_readAll_0 24 rfl rfl
theorem dksX11_readAll_2 : cX11_readAll.data.toList.drop 48 = dktX11_readAll_2 := dk_seg dksX11_readAll_1 24 rfl rfl
theorem dksX11_readAll_3 : cX11_readAll.data.toList.drop 72 = dktX11_readAll_3 := dk_seg dksX11_readAll_2 24 rfl rfl
theorem dksX11_readAll_4 : cX11_readAll.data.toList.drop 96 = dktX11_readAll_4 := dk_seg dksX11_readAll_3 24 rfl rfl
theorem dksX11_readAll_5 : cX11_readAll.data.toList.drop 120 = dktX11_readAll_5 := dk_seg dksX11_readAll_4 24 rfl rfl
theorem dX11_readAll_0 : decode cX11_readAll 0 = .ok (.aload_n 0, 1) := dk_42 (dk_at dksX11_readAll_0 0 rfl rfl)
theorem dX11_readAll_1 : decode cX11_readAll 1 = .ok (.aload_n 0, 1) := dk_42 (dk_at dksX11_readAll_0 1 rfl rfl)
theorem dX11_readAll_2 : decode cX11_readAll 2 = .ok (.getfield 118, 3) := dk_180 0 118 (dk_at dksX11_readAll_0 2 rfl rfl)
theorem dX11_readAll_5 : decode cX11_readAll 5 = .ok (.putfield 124, 3) := dk_181 0 124 (dk_at dksX11_readAll_0 5 rfl rfl)
theorem dX11_readAll_8 : decode cX11_readAll 8 = .ok (.aload_n 0, 1) := dk_42 (dk_at dksX11_readAll_0 8 rfl rfl)
theorem dX11_readAll_9 : decode cX11_readAll 9 = .ok (.iconst 0, 1) := dk_3 (dk_at dksX11_readAll_0 9 rfl rfl)
theorem dX11_readAll_10 : decode cX11_readAll 10 = .ok (.putfield 118, 3) := dk_181 0 118 (dk_at dksX11_readAll_0 10 rfl rfl)
theorem dX11_readAll_13 : decode cX11_readAll 13 = .ok (.aload_n 0, 1) := dk_42 (dk_at dksX11_readAll_0 13 rfl rfl)
theorem dX11_readAll_14 : decode cX11_readAll 14 = .ok (.iconst 0, 1) := dk_3 (dk_at dksX11_readAll_0 14 rfl rfl)
theorem dX11_readAll_15 : decode cX11_readAll 15 = .ok (.putfield 121, 3) := dk_181 0 121 (dk_at dksX11_readAll_0 15 rfl rfl)
theorem dX11_readAll_18 : decode cX11_readAll 18 = .ok (.aload_n 0, 1) := dk_42 (dk_at dksX11_readAll_0 18 rfl rfl)
theorem dX11_readAll_19 : decode cX11_readAll 19 = .ok (.iconst 0, 1) := dk_3 (dk_at dksX11_readAll_0 19 rfl rfl)
theorem dX11_readAll_20 : decode cX11_readAll 20 = .ok (.putfield 153, 3) := dk_181 0 153 (dk_at dksX11_readAll_0 20 rfl rfl)
theorem dX11_readAll_23 : decode cX11_readAll 23 = .ok (.aload_n 0, 1) := dk_42 (dk_at dksX11_readAll_0 23 rfl rfl)
theorem dX11_readAll_24 : decode cX11_readAll 24 = .ok (.invokevirtual 133, 3) := dk_182 0 133 (dk_at dksX11_readAll_1 0 rfl rfl)
theorem dX11_readAll_27 : decode cX11_readAll 27 = .ok (.aload_n 0, 1) := dk_42 (dk_at dksX11_readAll_1 3 rfl rfl)
theorem dX11_readAll_28 : decode cX11_readAll 28 = .ok (.getfield 121, 3) := dk_180 0 121 (dk_at dksX11_readAll_1 4 rfl rfl)
theorem dX11_readAll_31 : decode cX11_readAll 31 = .ok (.aload_n 0, 1) := dk_42 (dk_at dksX11_readAll_1 7 rfl rfl)
theorem dX11_readAll_32 : decode cX11_readAll 32 = .ok (.getfield 124, 3) := dk_180 0 124 (dk_at dksX11_readAll_1 8 rfl rfl)
theorem dX11_readAll_35 : decode cX11_readAll 35 = .ok (.if_icmp .ne 5, 3) := dk_160 0 5 (dk_at dksX11_readAll_1 11 rfl rfl)
theorem dX11_readAll_38 : decode cX11_readAll 38 = .ok (.iconst 0, 1) := dk_3 (dk_at dksX11_readAll_1 14 rfl rfl)
theorem dX11_readAll_39 : decode cX11_readAll 39 = .ok (.ireturn, 1) := dk_172 (dk_at dksX11_readAll_1 15 rfl rfl)
theorem dX11_readAll_40 : decode cX11_readAll 40 = .ok (.iconst 0, 1) := dk_3 (dk_at dksX11_readAll_1 16 rfl rfl)
theorem dX11_readAll_41 : decode cX11_readAll 41 = .ok (.istore_n 2, 1) := dk_61 (dk_at dksX11_readAll_1 17 rfl rfl)
theorem dX11_readAll_42 : decode cX11_readAll 42 = .ok (.aload_n 0, 1) := dk_42 (dk_at dksX11_readAll_1 18 rfl rfl)
theorem dX11_readAll_43 : decode cX11_readAll 43 = .ok (.invokevirtual 146, 3) := dk_182 0 146 (dk_at dksX11_readAll_1 19 rfl rfl)
theorem dX11_readAll_46 : decode cX11_readAll 46 = .ok (.iload_n 2, 1) := dk_28 (dk_at dksX11_readAll_1 22 rfl rfl)
theorem dX11_readAll_47 : decode cX11_readAll 47 = .ok (.iload_n 1, 1) := dk_27 (dk_at dksX11_readAll_1 23 rfl rfl)
theorem dX11_readAll_48 : decode cX11_readAll 48 = .ok (.ifCond .eq 8, 3) := dk_153 0 8 (dk_at dksX11_readAll_2 0 rfl rfl)
theorem dX11_readAll_51 : decode cX11_readAll 51 = .ok (.bipush 6, 2) := dk_16 6 (dk_at dksX11_readAll_2 3 rfl rfl)
theorem dX11_readAll_53 : decode cX11_readAll 53 = .ok (.goto 5, 3) := dk_167 0 5 (dk_at dksX11_readAll_2 5 rfl rfl)
theorem dX11_readAll_56 : decode cX11_readAll 56 = .ok (.bipush 10, 2) := dk_16 10 (dk_at dksX11_readAll_2 8 rfl rfl)
theorem dX11_readAll_58 : decode cX11_readAll 58 = .ok (.if_icmp .ne 5, 3) := dk_160 0 5 (dk_at dksX11_readAll_2 10 rfl rfl)
theorem dX11_readAll_61 : decode cX11_readAll 61 = .ok (.iconst (-1), 1) := dk_2 (dk_at dksX11_readAll_2 13 rfl rfl)
theorem dX11_readAll_62 : decode cX11_readAll 62 = .ok (.ireturn, 1) := dk_172 (dk_at dksX11_readAll_2 14 rfl rfl)
theorem dX11_readAll_63 : decode cX11_readAll 63 = .ok (.iload_n 1, 1) := dk_27 (dk_at dksX11_readAll_2 15 rfl rfl)
theorem dX11_readAll_64 : decode cX11_readAll 64 = .ok (.ifCond .eq 14, 3) := dk_153 0 14 (dk_at dksX11_readAll_2 16 rfl rfl)
theorem dX11_readAll_67 : decode cX11_readAll 67 = .ok (.aload_n 0, 1) := dk_42 (dk_at dksX11_readAll_2 19 rfl rfl)
theorem dX11_readAll_68 : decode cX11_readAll 68 = .ok (.iload_n 2, 1) := dk_28 (dk_at dksX11_readAll_2 20 rfl rfl)
theorem dX11_readAll_69 : decode cX11_readAll 69 = .ok (.invokevirtual 225, 3) := dk_182 0 225 (dk_at dksX11_readAll_2 21 rfl rfl)
theorem dX11_readAll_72 : decode cX11_readAll 72 = .ok (.ifCond .eq 14, 3) := dk_153 0 14 (dk_at dksX11_readAll_3 0 rfl rfl)
theorem dX11_readAll_75 : decode cX11_readAll 75 = .ok (.goto 13, 3) := dk_167 0 13 (dk_at dksX11_readAll_3 3 rfl rfl)
theorem dX11_readAll_78 : decode cX11_readAll 78 = .ok (.aload_n 0, 1) := dk_42 (dk_at dksX11_readAll_3 6 rfl rfl)
theorem dX11_readAll_79 : decode cX11_readAll 79 = .ok (.iload_n 2, 1) := dk_28 (dk_at dksX11_readAll_3 7 rfl rfl)
theorem dX11_readAll_80 : decode cX11_readAll 80 = .ok (.invokevirtual 228, 3) := dk_182 0 228 (dk_at dksX11_readAll_3 8 rfl rfl)
theorem dX11_readAll_83 : decode cX11_readAll 83 = .ok (.ifCond .ne 5, 3) := dk_154 0 5 (dk_at dksX11_readAll_3 11 rfl rfl)
theorem dX11_readAll_86 : decode cX11_readAll 86 = .ok (.iconst (-1), 1) := dk_2 (dk_at dksX11_readAll_3 14 rfl rfl)
theorem dX11_readAll_87 : decode cX11_readAll 87 = .ok (.ireturn, 1) := dk_172 (dk_at dksX11_readAll_3 15 rfl rfl)
theorem dX11_readAll_88 : decode cX11_readAll 88 = .ok (.aload_n 0, 1) := dk_42 (dk_at dksX11_readAll_3 16 rfl rfl)
theorem dX11_readAll_89 : decode cX11_readAll 89 = .ok (.invokevirtual 133, 3) := dk_182 0 133 (dk_at dksX11_readAll_3 17 rfl rfl)
theorem dX11_readAll_92 : decode cX11_readAll 92 = .ok (.aload_n 0, 1) := dk_42 (dk_at dksX11_readAll_3 20 rfl rfl)
theorem dX11_readAll_93 : decode cX11_readAll 93 = .ok (.getfield 121, 3) := dk_180 0 121 (dk_at dksX11_readAll_3 21 rfl rfl)
theorem dX11_readAll_96 : decode cX11_readAll 96 = .ok (.aload_n 0, 1) := dk_42 (dk_at dksX11_readAll_4 0 rfl rfl)
theorem dX11_readAll_97 : decode cX11_readAll 97 = .ok (.getfield 124, 3) := dk_180 0 124 (dk_at dksX11_readAll_4 1 rfl rfl)
theorem dX11_readAll_100 : decode cX11_readAll 100 = .ok (.if_icmp .ne 7, 3) := dk_160 0 7 (dk_at dksX11_readAll_4 4 rfl rfl)
theorem dX11_readAll_103 : decode cX11_readAll 103 = .ok (.iload_n 2, 1) := dk_28 (dk_at dksX11_readAll_4 7 rfl rfl)
theorem dX11_readAll_104 : decode cX11_readAll 104 = .ok (.iconst 1, 1) := dk_4 (dk_at dksX11_readAll_4 8 rfl rfl)
theorem dX11_readAll_105 : decode cX11_readAll 105 = .ok (.iadd, 1) := dk_96 (dk_at dksX11_readAll_4 9 rfl rfl)
theorem dX11_readAll_106 : decode cX11_readAll 106 = .ok (.ireturn, 1) := dk_172 (dk_at dksX11_readAll_4 10 rfl rfl)
theorem dX11_readAll_107 : decode cX11_readAll 107 = .ok (.aload_n 0, 1) := dk_42 (dk_at dksX11_readAll_4 11 rfl rfl)
theorem dX11_readAll_108 : decode cX11_readAll 108 = .ok (.bipush 59, 2) := dk_16 59 (dk_at dksX11_readAll_4 12 rfl rfl)
theorem dX11_readAll_110 : decode cX11_readAll 110 = .ok (.bipush 59, 2) := dk_16 59 (dk_at dksX11_readAll_4 14 rfl rfl)
theorem dX11_readAll_112 : decode cX11_readAll 112 = .ok (.invokevirtual 127, 3) := dk_182 0 127 (dk_at dksX11_readAll_4 16 rfl rfl)
theorem dX11_readAll_115 : decode cX11_readAll 115 = .ok (.ifCond .ne 5, 3) := dk_154 0 5 (dk_at dksX11_readAll_4 19 rfl rfl)
theorem dX11_readAll_118 : decode cX11_readAll 118 = .ok (.iconst (-1), 1) := dk_2 (dk_at dksX11_readAll_4 22 rfl rfl)
theorem dX11_readAll_119 : decode cX11_readAll 119 = .ok (.ireturn, 1) := dk_172 (dk_at dksX11_readAll_4 23 rfl rfl)
theorem dX11_readAll_120 : decode cX11_readAll 120 = .ok (.aload_n 0, 1) := dk_42 (dk_at dksX11_readAll_5 0 rfl rfl)
theorem dX11_readAll_121 : decode cX11_readAll 121 = .ok (.dup, 1) := dk_89 (dk_at dksX11_readAll_5 1 rfl rfl)
theorem dX11_readAll_122 : decode cX11_readAll 122 = .ok (.getfield 121, 3) := dk_180 0 121 (dk_at dksX11_readAll_5 2 rfl rfl)
theorem dX11_readAll_125 : decode cX11_readAll 125 = .ok (.iconst 1, 1) := dk_4 (dk_at dksX11_readAll_5 5 rfl rfl)
theorem dX11_readAll_126 : decode cX11_readAll 126 = .ok (.iadd, 1) := dk_96 (dk_at dksX11_readAll_5 6 rfl rfl)
theorem dX11_readAll_127 : decode cX11_readAll 127 = .ok (.putfield 121, 3) := dk_181 0 121 (dk_at dksX11_readAll_5 7 rfl rfl)
theorem dX11_readAll_130 : decode cX11_readAll 130 = .ok (.iinc 2 1, 3) := dk_132 2 1 (dk_at dksX11_readAll_5 10 rfl rfl)
theorem dX11_readAll_133 : decode cX11_readAll 133 = .ok (.goto (-91), 3) := dk_167 255 165 (dk_at dksX11_readAll_5 13 rfl rfl)
def dkwX11_blanks_1 : List UInt8 := [42, 42, 180, 0, 121, 181, 0, 130, 177]
abbrev dktX11_blanks_1 : List UInt8 := dkwX11_blanks_1 ++ []
def dkwX11_blanks_0 : List UInt8 := [42, 16, 32, 16, 32, 182, 0, 127, 153, 0, 16, 42, 89, 180, 0, 121, 4, 96, 181, 0, 121, 167, 255, 235]
abbrev dktX11_blanks_0 : List UInt8 := dkwX11_blanks_0 ++ dktX11_blanks_1
theorem dksX11_blanks_0 : cX11_blanks.data.toList.drop 0 = dktX11_blanks_0 := by decide +kernel
theorem dksX11_blanks_1 : cX11_blanks.data.toList.drop 24 = dktX11_blanks_1 := dk_seg dksX11_blanks_0 24 rfl rfl
theorem dX11_blanks_0 : decode cX11_blanks 0 = .ok (.aload_n 0, 1) := dk_42 (dk_at dksX11_blanks_0 0 rfl rfl)
theorem dX11_blanks_1 : decode cX11_blanks 1 = .ok (.bipush 32, 2) := dk_16 32 (dk_at dksX11_blanks_0 1 rfl rfl)
theorem dX11_blanks_3 : decode cX11_blanks 3 = .ok (.bipush 32, 2) := dk_16 32 (dk_at dksX11_blanks_0 3 rfl rfl)
theorem dX11_blanks_5 : decode cX11_blanks 5 = .ok (.invokevirtual 127, 3) := dk_182 0 127 (dk_at dksX11_blanks_0 5 rfl rfl)
theorem dX11_blanks_8 : decode cX11_blanks 8 = .ok (.ifCond .eq 16, 3) := dk_153 0 16 (dk_at dksX11_blanks_0 8 rfl rfl)
theorem dX11_blanks_11 : decode cX11_blanks 11 = .ok (.aload_n 0, 1) := dk_42 (dk_at dksX11_blanks_0 11 rfl rfl)
theorem dX11_blanks_12 : decode cX11_blanks 12 = .ok (.dup, 1) := dk_89 (dk_at dksX11_blanks_0 12 rfl rfl)
theorem dX11_blanks_13 : decode cX11_blanks 13 = .ok (.getfield 121, 3) := dk_180 0 121 (dk_at dksX11_blanks_0 13 rfl rfl)
theorem dX11_blanks_16 : decode cX11_blanks 16 = .ok (.iconst 1, 1) := dk_4 (dk_at dksX11_blanks_0 16 rfl rfl)
theorem dX11_blanks_17 : decode cX11_blanks 17 = .ok (.iadd, 1) := dk_96 (dk_at dksX11_blanks_0 17 rfl rfl)
theorem dX11_blanks_18 : decode cX11_blanks 18 = .ok (.putfield 121, 3) := dk_181 0 121 (dk_at dksX11_blanks_0 18 rfl rfl)
theorem dX11_blanks_21 : decode cX11_blanks 21 = .ok (.goto (-21), 3) := dk_167 255 235 (dk_at dksX11_blanks_0 21 rfl rfl)
theorem dX11_blanks_24 : decode cX11_blanks 24 = .ok (.aload_n 0, 1) := dk_42 (dk_at dksX11_blanks_1 0 rfl rfl)
theorem dX11_blanks_25 : decode cX11_blanks 25 = .ok (.aload_n 0, 1) := dk_42 (dk_at dksX11_blanks_1 1 rfl rfl)
theorem dX11_blanks_26 : decode cX11_blanks 26 = .ok (.getfield 121, 3) := dk_180 0 121 (dk_at dksX11_blanks_1 2 rfl rfl)
theorem dX11_blanks_29 : decode cX11_blanks 29 = .ok (.putfield 130, 3) := dk_181 0 130 (dk_at dksX11_blanks_1 5 rfl rfl)
theorem dX11_blanks_32 : decode cX11_blanks 32 = .ok (.return_, 1) := dk_177 (dk_at dksX11_blanks_1 8 rfl rfl)
def dkwX11_isAt_1 : List UInt8 := [42, 180, 0, 20, 42, 180, 0, 121, 51, 28, 163, 0, 7, 4, 167, 0, 4, 3, 172]
abbrev dktX11_isAt_1 : List UInt8 := dkwX11_isAt_1 ++ []
def dkwX11_isAt_0 : List UInt8 := [42, 180, 0, 121, 42, 180, 0, 124, 162, 0, 33, 42, 180, 0, 20, 42, 180, 0, 121, 51, 27, 161, 0, 20]
abbrev dktX11_isAt_0 : List UInt8 := dkwX11_isAt_0 ++ dktX11_isAt_1
theorem dksX11_isAt_0 : cX11_isAt.data.toList.drop 0 = dktX11_isAt_0 := by decide +kernel
theorem dksX11_isAt_1 : cX11_isAt.data.toList.drop 24 = dktX11_isAt_1 := dk_seg dksX11_isAt_0 24 rfl rfl
theorem dX11_isAt_0 : decode cX11_isAt 0 = .ok (.aload_n 0, 1) := dk_42 (dk_at dksX11_isAt_0 0 rfl rfl)
theorem dX11_isAt_1 : decode cX11_isAt 1 = .ok (.getfield 121, 3) := dk_180 0 121 (dk_at dksX11_isAt_0 1 rfl rfl)
theorem dX11_isAt_4 : decode cX11_isAt 4 = .ok (.aload_n 0, 1) := dk_42 (dk_at dksX11_isAt_0 4 rfl rfl)
theorem dX11_isAt_5 : decode cX11_isAt 5 = .ok (.getfield 124, 3) := dk_180 0 124 (dk_at dksX11_isAt_0 5 rfl rfl)
theorem dX11_isAt_8 : decode cX11_isAt 8 = .ok (.if_icmp .ge 33, 3) := dk_162 0 33 (dk_at dksX11_isAt_0 8 rfl rfl)
theorem dX11_isAt_11 : decode cX11_isAt 11 = .ok (.aload_n 0, 1) := dk_42 (dk_at dksX11_isAt_0 11 rfl rfl)
theorem dX11_isAt_12 : decode cX11_isAt 12 = .ok (.getfield 20, 3) := dk_180 0 20 (dk_at dksX11_isAt_0 12 rfl rfl)
theorem dX11_isAt_15 : decode cX11_isAt 15 = .ok (.aload_n 0, 1) := dk_42 (dk_at dksX11_isAt_0 15 rfl rfl)
theorem dX11_isAt_16 : decode cX11_isAt 16 = .ok (.getfield 121, 3) := dk_180 0 121 (dk_at dksX11_isAt_0 16 rfl rfl)
theorem dX11_isAt_19 : decode cX11_isAt 19 = .ok (.baload, 1) := dk_51 (dk_at dksX11_isAt_0 19 rfl rfl)
theorem dX11_isAt_20 : decode cX11_isAt 20 = .ok (.iload_n 1, 1) := dk_27 (dk_at dksX11_isAt_0 20 rfl rfl)
theorem dX11_isAt_21 : decode cX11_isAt 21 = .ok (.if_icmp .lt 20, 3) := dk_161 0 20 (dk_at dksX11_isAt_0 21 rfl rfl)
theorem dX11_isAt_24 : decode cX11_isAt 24 = .ok (.aload_n 0, 1) := dk_42 (dk_at dksX11_isAt_1 0 rfl rfl)
theorem dX11_isAt_25 : decode cX11_isAt 25 = .ok (.getfield 20, 3) := dk_180 0 20 (dk_at dksX11_isAt_1 1 rfl rfl)
theorem dX11_isAt_28 : decode cX11_isAt 28 = .ok (.aload_n 0, 1) := dk_42 (dk_at dksX11_isAt_1 4 rfl rfl)
theorem dX11_isAt_29 : decode cX11_isAt 29 = .ok (.getfield 121, 3) := dk_180 0 121 (dk_at dksX11_isAt_1 5 rfl rfl)
theorem dX11_isAt_32 : decode cX11_isAt 32 = .ok (.baload, 1) := dk_51 (dk_at dksX11_isAt_1 8 rfl rfl)
theorem dX11_isAt_33 : decode cX11_isAt 33 = .ok (.iload_n 2, 1) := dk_28 (dk_at dksX11_isAt_1 9 rfl rfl)
theorem dX11_isAt_34 : decode cX11_isAt 34 = .ok (.if_icmp .gt 7, 3) := dk_163 0 7 (dk_at dksX11_isAt_1 10 rfl rfl)
theorem dX11_isAt_37 : decode cX11_isAt 37 = .ok (.iconst 1, 1) := dk_4 (dk_at dksX11_isAt_1 13 rfl rfl)
theorem dX11_isAt_38 : decode cX11_isAt 38 = .ok (.goto 4, 3) := dk_167 0 4 (dk_at dksX11_isAt_1 14 rfl rfl)
theorem dX11_isAt_41 : decode cX11_isAt 41 = .ok (.iconst 0, 1) := dk_3 (dk_at dksX11_isAt_1 17 rfl rfl)
theorem dX11_isAt_42 : decode cX11_isAt 42 = .ok (.ireturn, 1) := dk_172 (dk_at dksX11_isAt_1 18 rfl rfl)
def dkwX11_letters_1 : List UInt8 := [181, 0, 121, 167, 255, 235, 177]
abbrev dktX11_letters_1 : List UInt8 := dkwX11_letters_1 ++ []
def dkwX11_letters_0 : List UInt8 := [42, 182, 0, 133, 42, 16, 97, 16, 122, 182, 0, 127, 153, 0, 16, 42, 89, 180, 0, 121, 4, 96]
abbrev dktX11_letters_0 : List UInt8 := dkwX11_letters_0 ++ dktX11_letters_1
theorem dksX11_letters_0 : cX11_letters.data.toList.drop 0 = dktX11_letters_0 := by decide +kernel
theorem dksX11_letters_1 : cX11_letters.data.toList.drop 22 = dktX11_letters_1 := dk_seg dksX11_letters_0 22 rfl rfl
theorem dX11_letters_0 : decode cX11_letters 0 = .ok (.aload_n 0, 1) := dk_42 (dk_at dksX11_letters_0 0 rfl rfl)
theorem dX11_letters_1 : decode cX11_letters 1 = .ok (.invokevirtual 133, 3) := dk_182 0 133 (dk_at dksX11_letters_0 1 rfl rfl)
theorem dX11_letters_4 : decode cX11_letters 4 = .ok (.aload_n 0, 1) := dk_42 (dk_at dksX11_letters_0 4 rfl rfl)
theorem dX11_letters_5 : decode cX11_letters 5 = .ok (.bipush 97, 2) := dk_16 97 (dk_at dksX11_letters_0 5 rfl rfl)
theorem dX11_letters_7 : decode cX11_letters 7 = .ok (.bipush 122, 2) := dk_16 122 (dk_at dksX11_letters_0 7 rfl rfl)
theorem dX11_letters_9 : decode cX11_letters 9 = .ok (.invokevirtual 127, 3) := dk_182 0 127 (dk_at dksX11_letters_0 9 rfl rfl)
theorem dX11_letters_12 : decode cX11_letters 12 = .ok (.ifCond .eq 16, 3) := dk_153 0 16 (dk_at dksX11_letters_0 12 rfl rfl)
theorem dX11_letters_15 : decode cX11_letters 15 = .ok (.aload_n 0, 1) := dk_42 (dk_at dksX11_letters_0 15 rfl rfl)
theorem dX11_letters_16 : decode cX11_letters 16 = .ok (.dup, 1) := dk_89 (dk_at dksX11_letters_0 16 rfl rfl)
theorem dX11_letters_17 : decode cX11_letters 17 = .ok (.getfield 121, 3) := dk_180 0 121 (dk_at dksX11_letters_0 17 rfl rfl)
theorem dX11_letters_20 : decode cX11_letters 20 = .ok (.iconst 1, 1) := dk_4 (dk_at dksX11_letters_0 20 rfl rfl)
theorem dX11_letters_21 : decode cX11_letters 21 = .ok (.iadd, 1) := dk_96 (dk_at dksX11_letters_0 21 rfl rfl)
theorem dX11_letters_22 : decode cX11_letters 22 = .ok (.putfield 121, 3) := dk_181 0 121 (dk_at dksX11_letters_1 0 rfl rfl)
theorem dX11_letters_25 : decode cX11_letters 25 = .ok (.goto (-21), 3) := dk_167 255 235 (dk_at dksX11_letters_1 3 rfl rfl)
theorem dX11_letters_28 : decode cX11_letters 28 = .ok (.return_, 1) := dk_177 (dk_at dksX11_letters_1 6 rfl rfl)
def dkwX11_readKindLine_5 : List UInt8 := [104, 4, 96, 46, 155, 0, 7, 4, 167, 0, 4, 3, 172]
abbrev dktX11_readKindLine_5 : List UInt8 := dkwX11_readKindLine_5 ++ []
def dkwX11_readKindLine_4 : List UInt8 := [162, 0, 12, 42, 4, 8, 182, 0, 170, 167, 0, 4, 3, 79, 28, 155, 0, 20, 42, 180, 0, 30, 5, 27]
abbrev dktX11_readKindLine_4 : List UInt8 := dkwX11_readKindLine_4 ++ dktX11_readKindLine_5
def dkwX11_readKindLine_3 : List UInt8 := [180, 0, 30, 5, 27, 104, 28, 79, 42, 180, 0, 30, 5, 27, 104, 4, 96, 28, 155, 0, 17, 28, 6]
abbrev dktX11_readKindLine_3 : List UInt8 := dkwX11_readKindLine_3 ++ dktX11_readKindLine_4
def dkwX11_readKindLine_2 : List UInt8 := [153, 0, 7, 6, 167, 0, 17, 42, 18, 223, 182, 0, 149, 153, 0, 7, 7, 167, 0, 4, 2, 61, 42]
abbrev dktX11_readKindLine_2 : List UInt8 := dkwX11_readKindLine_2 ++ dktX11_readKindLine_3
def dkwX11_readKindLine_1 : List UInt8 := [167, 0, 43, 42, 18, 219, 182, 0, 149, 153, 0, 7, 5, 167, 0, 30, 42, 18, 221, 182, 0, 149]
abbrev dktX11_readKindLine_1 : List UInt8 := dkwX11_readKindLine_1 ++ dktX11_readKindLine_2
def dkwX11_readKindLine_0 : List UInt8 := [42, 18, 215, 182, 0, 149, 153, 0, 7, 3, 167, 0, 56, 42, 18, 217, 182, 0, 149, 153, 0, 7, 4]
abbrev dktX11_readKindLine_0 : List UInt8 := dkwX11_readKindLine_0 ++ dktX11_readKindLine_1
theorem dksX11_readKindLine_0 : cX11_readKindLine.data.toList.drop 0 = dktX11_readKindLine_0 := by decide +kernel
theorem dksX11_readKindLine_1 : cX11_readKindLine.data.toList.drop 23 = dktX11_readKindLine_1 := dk_seg dksX11_readKindLine_0 23 rfl rfl
theorem dksX11_readKindLine_2 : cX11_readKindLine.data.toList.drop 45 = dktX11_readKindLine_2 := dk_seg dksX11_readKindLine_1 22 rfl rfl
theorem dksX11_readKindLine_3 : cX11_readKindLine.data.toList.drop 68 = dktX11_readKindLine_3 := dk_seg dksX11_readKindLine_2 23 rfl rfl
theorem dksX11_readKindLine_4 : cX11_readKindLine.data.toList.drop 91 = dktX11_readKindLine_4 := dk_seg dksX11_readKindLine_3 23 rfl rfl
theorem dksX11_readKindLine_5 : cX11_readKindLine.data.toList.drop 115 = dktX11_readKindLine_5 := dk_seg dksX11_readKindLine_4 24 rfl rfl
theorem dX11_readKindLine_0 : decode cX11_readKindLine 0 = .ok (.aload_n 0, 1) := dk_42 (dk_at dksX11_readKindLine_0 0 rfl rfl)
theorem dX11_readKindLine_1 : decode cX11_readKindLine 1 = .ok (.ldc 215, 2) := dk_18 215 (dk_at dksX11_readKindLine_0 1 rfl rfl)
theorem dX11_readKindLine_3 : decode cX11_readKindLine 3 = .ok (.invokevirtual 149, 3) := dk_182 0 149 (dk_at dksX11_readKindLine_0 3 rfl rfl)
theorem dX11_readKindLine_6 : decode cX11_readKindLine 6 = .ok (.ifCond .eq 7, 3) := dk_153 0 7 (dk_at dksX11_readKindLine_0 6 rfl rfl)
theorem dX11_readKindLine_9 : decode cX11_readKindLine 9 = .ok (.iconst 0, 1) := dk_3 (dk_at dksX11_readKindLine_0 9 rfl rfl)
theorem dX11_readKindLine_10 : decode cX11_readKindLine 10 = .ok (.goto 56, 3) := dk_167 0 56 (dk_at dksX11_readKindLine_0 10 rfl rfl)
theorem dX11_readKindLine_13 : decode cX11_readKindLine 13 = .ok (.aload_n 0, 1) := dk_42 (dk_at dksX11_readKindLine_0 13 rfl rfl)
theorem dX11_readKindLine_14 : decode cX11_readKindLine 14 = .ok (.ldc 217, 2) := dk_18 217 (dk_at dksX11_readKindLine_0 14 rfl rfl)
theorem dX11_readKindLine_16 : decode cX11_readKindLine 16 = .ok (.invokevirtual 149, 3) := dk_182 0 149 (dk_at dksX11_readKindLine_0 16 rfl rfl)
theorem dX11_readKindLine_19 : decode cX11_readKindLine 19 = .ok (.ifCond .eq 7, 3) := dk_153 0 7 (dk_at dksX11_readKindLine_0 19 rfl rfl)
theorem dX11_readKindLine_22 : decode cX11_readKindLine 22 = .ok (.iconst 1, 1) := dk_4 (dk_at dksX11_readKindLine_0 22 rfl rfl)
theorem dX11_readKindLine_23 : decode cX11_readKindLine 23 = .ok (.goto 43, 3) := dk_167 0 43 (dk_at dksX11_readKindLine_1 0 rfl rfl)
theorem dX11_readKindLine_26 : decode cX11_readKindLine 26 = .ok (.aload_n 0, 1) := dk_42 (dk_at dksX11_readKindLine_1 3 rfl rfl)
theorem dX11_readKindLine_27 : decode cX11_readKindLine 27 = .ok (.ldc 219, 2) := dk_18 219 (dk_at dksX11_readKindLine_1 4 rfl rfl)
theorem dX11_readKindLine_29 : decode cX11_readKindLine 29 = .ok (.invokevirtual 149, 3) := dk_182 0 149 (dk_at dksX11_readKindLine_1 6 rfl rfl)
theorem dX11_readKindLine_32 : decode cX11_readKindLine 32 = .ok (.ifCond .eq 7, 3) := dk_153 0 7 (dk_at dksX11_readKindLine_1 9 rfl rfl)
theorem dX11_readKindLine_35 : decode cX11_readKindLine 35 = .ok (.iconst 2, 1) := dk_5 (dk_at dksX11_readKindLine_1 12 rfl rfl)
theorem dX11_readKindLine_36 : decode cX11_readKindLine 36 = .ok (.goto 30, 3) := dk_167 0 30 (dk_at dksX11_readKindLine_1 13 rfl rfl)
theorem dX11_readKindLine_39 : decode cX11_readKindLine 39 = .ok (.aload_n 0, 1) := dk_42 (dk_at dksX11_readKindLine_1 16 rfl rfl)
theorem dX11_readKindLine_40 : decode cX11_readKindLine 40 = .ok (.ldc 221, 2) := dk_18 221 (dk_at dksX11_readKindLine_1 17 rfl rfl)
theorem dX11_readKindLine_42 : decode cX11_readKindLine 42 = .ok (.invokevirtual 149, 3) := dk_182 0 149 (dk_at dksX11_readKindLine_1 19 rfl rfl)
theorem dX11_readKindLine_45 : decode cX11_readKindLine 45 = .ok (.ifCond .eq 7, 3) := dk_153 0 7 (dk_at dksX11_readKindLine_2 0 rfl rfl)
theorem dX11_readKindLine_48 : decode cX11_readKindLine 48 = .ok (.iconst 3, 1) := dk_6 (dk_at dksX11_readKindLine_2 3 rfl rfl)
theorem dX11_readKindLine_49 : decode cX11_readKindLine 49 = .ok (.goto 17, 3) := dk_167 0 17 (dk_at dksX11_readKindLine_2 4 rfl rfl)
theorem dX11_readKindLine_52 : decode cX11_readKindLine 52 = .ok (.aload_n 0, 1) := dk_42 (dk_at dksX11_readKindLine_2 7 rfl rfl)
theorem dX11_readKindLine_53 : decode cX11_readKindLine 53 = .ok (.ldc 223, 2) := dk_18 223 (dk_at dksX11_readKindLine_2 8 rfl rfl)
theorem dX11_readKindLine_55 : decode cX11_readKindLine 55 = .ok (.invokevirtual 149, 3) := dk_182 0 149 (dk_at dksX11_readKindLine_2 10 rfl rfl)
theorem dX11_readKindLine_58 : decode cX11_readKindLine 58 = .ok (.ifCond .eq 7, 3) := dk_153 0 7 (dk_at dksX11_readKindLine_2 13 rfl rfl)
theorem dX11_readKindLine_61 : decode cX11_readKindLine 61 = .ok (.iconst 4, 1) := dk_7 (dk_at dksX11_readKindLine_2 16 rfl rfl)
theorem dX11_readKindLine_62 : decode cX11_readKindLine 62 = .ok (.goto 4, 3) := dk_167 0 4 (dk_at dksX11_readKindLine_2 17 rfl rfl)
theorem dX11_readKindLine_65 : decode cX11_readKindLine 65 = .ok (.iconst (-1), 1) := dk_2 (dk_at dksX11_readKindLine_2 20 rfl rfl)
theorem dX11_readKindLine_66 : decode cX11_readKindLine 66 = .ok (.istore_n 2, 1) := dk_61 (dk_at dksX11_readKindLine_2 21 rfl rfl)
theorem dX11_readKindLine_67 : decode cX11_readKindLine 67 = .ok (.aload_n 0, 1) := dk_42 (dk_at dksX11_readKindLine_2 22 rfl rfl)
theorem dX11_readKindLine_68 : decode cX11_readKindLine 68 = .ok (.getfield 30, 3) := dk_180 0 30 (dk_at dksX11_readKindLine_3 0 rfl rfl)
theorem dX11_readKindLine_71 : decode cX11_readKindLine 71 = .ok (.iconst 2, 1) := dk_5 (dk_at dksX11_readKindLine_3 3 rfl rfl)
theorem dX11_readKindLine_72 : decode cX11_readKindLine 72 = .ok (.iload_n 1, 1) := dk_27 (dk_at dksX11_readKindLine_3 4 rfl rfl)
theorem dX11_readKindLine_73 : decode cX11_readKindLine 73 = .ok (.imul, 1) := dk_104 (dk_at dksX11_readKindLine_3 5 rfl rfl)
theorem dX11_readKindLine_74 : decode cX11_readKindLine 74 = .ok (.iload_n 2, 1) := dk_28 (dk_at dksX11_readKindLine_3 6 rfl rfl)
theorem dX11_readKindLine_75 : decode cX11_readKindLine 75 = .ok (.iastore, 1) := dk_79 (dk_at dksX11_readKindLine_3 7 rfl rfl)
theorem dX11_readKindLine_76 : decode cX11_readKindLine 76 = .ok (.aload_n 0, 1) := dk_42 (dk_at dksX11_readKindLine_3 8 rfl rfl)
theorem dX11_readKindLine_77 : decode cX11_readKindLine 77 = .ok (.getfield 30, 3) := dk_180 0 30 (dk_at dksX11_readKindLine_3 9 rfl rfl)
theorem dX11_readKindLine_80 : decode cX11_readKindLine 80 = .ok (.iconst 2, 1) := dk_5 (dk_at dksX11_readKindLine_3 12 rfl rfl)
theorem dX11_readKindLine_81 : decode cX11_readKindLine 81 = .ok (.iload_n 1, 1) := dk_27 (dk_at dksX11_readKindLine_3 13 rfl rfl)
theorem dX11_readKindLine_82 : decode cX11_readKindLine 82 = .ok (.imul, 1) := dk_104 (dk_at dksX11_readKindLine_3 14 rfl rfl)
theorem dX11_readKindLine_83 : decode cX11_readKindLine 83 = .ok (.iconst 1, 1) := dk_4 (dk_at dksX11_readKindLine_3 15 rfl rfl)
theorem dX11_readKindLine_84 : decode cX11_readKindLine 84 = .ok (.iadd, 1) := dk_96 (dk_at dksX11_readKindLine_3 16 rfl rfl)
theorem dX11_readKindLine_85 : decode cX11_readKindLine 85 = .ok (.iload_n 2, 1) := dk_28 (dk_at dksX11_readKindLine_3 17 rfl rfl)
theorem dX11_readKindLine_86 : decode cX11_readKindLine 86 = .ok (.ifCond .lt 17, 3) := dk_155 0 17 (dk_at dksX11_readKindLine_3 18 rfl rfl)
theorem dX11_readKindLine_89 : decode cX11_readKindLine 89 = .ok (.iload_n 2, 1) := dk_28 (dk_at dksX11_readKindLine_3 21 rfl rfl)
theorem dX11_readKindLine_90 : decode cX11_readKindLine 90 = .ok (.iconst 3, 1) := dk_6 (dk_at dksX11_readKindLine_3 22 rfl rfl)
theorem dX11_readKindLine_91 : decode cX11_readKindLine 91 = .ok (.if_icmp .ge 12, 3) := dk_162 0 12 (dk_at dksX11_readKindLine_4 0 rfl rfl)
theorem dX11_readKindLine_94 : decode cX11_readKindLine 94 = .ok (.aload_n 0, 1) := dk_42 (dk_at dksX11_readKindLine_4 3 rfl rfl)
theorem dX11_readKindLine_95 : decode cX11_readKindLine 95 = .ok (.iconst 1, 1) := dk_4 (dk_at dksX11_readKindLine_4 4 rfl rfl)
theorem dX11_readKindLine_96 : decode cX11_readKindLine 96 = .ok (.iconst 5, 1) := dk_8 (dk_at dksX11_readKindLine_4 5 rfl rfl)
theorem dX11_readKindLine_97 : decode cX11_readKindLine 97 = .ok (.invokevirtual 170, 3) := dk_182 0 170 (dk_at dksX11_readKindLine_4 6 rfl rfl)
theorem dX11_readKindLine_100 : decode cX11_readKindLine 100 = .ok (.goto 4, 3) := dk_167 0 4 (dk_at dksX11_readKindLine_4 9 rfl rfl)
theorem dX11_readKindLine_103 : decode cX11_readKindLine 103 = .ok (.iconst 0, 1) := dk_3 (dk_at dksX11_readKindLine_4 12 rfl rfl)
theorem dX11_readKindLine_104 : decode cX11_readKindLine 104 = .ok (.iastore, 1) := dk_79 (dk_at dksX11_readKindLine_4 13 rfl rfl)
theorem dX11_readKindLine_105 : decode cX11_readKindLine 105 = .ok (.iload_n 2, 1) := dk_28 (dk_at dksX11_readKindLine_4 14 rfl rfl)
theorem dX11_readKindLine_106 : decode cX11_readKindLine 106 = .ok (.ifCond .lt 20, 3) := dk_155 0 20 (dk_at dksX11_readKindLine_4 15 rfl rfl)
theorem dX11_readKindLine_109 : decode cX11_readKindLine 109 = .ok (.aload_n 0, 1) := dk_42 (dk_at dksX11_readKindLine_4 18 rfl rfl)
theorem dX11_readKindLine_110 : decode cX11_readKindLine 110 = .ok (.getfield 30, 3) := dk_180 0 30 (dk_at dksX11_readKindLine_4 19 rfl rfl)
theorem dX11_readKindLine_113 : decode cX11_readKindLine 113 = .ok (.iconst 2, 1) := dk_5 (dk_at dksX11_readKindLine_4 22 rfl rfl)
theorem dX11_readKindLine_114 : decode cX11_readKindLine 114 = .ok (.iload_n 1, 1) := dk_27 (dk_at dksX11_readKindLine_4 23 rfl rfl)
theorem dX11_readKindLine_115 : decode cX11_readKindLine 115 = .ok (.imul, 1) := dk_104 (dk_at dksX11_readKindLine_5 0 rfl rfl)
theorem dX11_readKindLine_116 : decode cX11_readKindLine 116 = .ok (.iconst 1, 1) := dk_4 (dk_at dksX11_readKindLine_5 1 rfl rfl)
theorem dX11_readKindLine_117 : decode cX11_readKindLine 117 = .ok (.iadd, 1) := dk_96 (dk_at dksX11_readKindLine_5 2 rfl rfl)
theorem dX11_readKindLine_118 : decode cX11_readKindLine 118 = .ok (.iaload, 1) := dk_46 (dk_at dksX11_readKindLine_5 3 rfl rfl)
theorem dX11_readKindLine_119 : decode cX11_readKindLine 119 = .ok (.ifCond .lt 7, 3) := dk_155 0 7 (dk_at dksX11_readKindLine_5 4 rfl rfl)
theorem dX11_readKindLine_122 : decode cX11_readKindLine 122 = .ok (.iconst 1, 1) := dk_4 (dk_at dksX11_readKindLine_5 7 rfl rfl)
theorem dX11_readKindLine_123 : decode cX11_readKindLine 123 = .ok (.goto 4, 3) := dk_167 0 4 (dk_at dksX11_readKindLine_5 8 rfl rfl)
theorem dX11_readKindLine_126 : decode cX11_readKindLine 126 = .ok (.iconst 0, 1) := dk_3 (dk_at dksX11_readKindLine_5 11 rfl rfl)
theorem dX11_readKindLine_127 : decode cX11_readKindLine 127 = .ok (.ireturn, 1) := dk_172 (dk_at dksX11_readKindLine_5 12 rfl rfl)
def dkwX11_isWord_2 : List UInt8 := [29, 182, 0, 142, 160, 0, 7, 4, 167, 0, 4, 3, 61, 132, 3, 1, 167, 255, 216, 28, 172]
abbrev dktX11_isWord_2 : List UInt8 := dkwX11_isWord_2 ++ []
def dkwX11_isWord_1 : List UInt8 := [28, 153, 0, 42, 29, 43, 182, 0, 136, 162, 0, 34, 42, 180, 0, 20, 42, 180, 0, 130, 29, 96, 51, 43]
abbrev dktX11_isWord_1 : List UInt8 := dkwX11_isWord_1 ++ dktX11_isWord_2
def dkwX11_isWord_0 : List UInt8 := [42, 180, 0, 121, 42, 180, 0, 130, 100, 43, 182, 0, 136, 160, 0, 7, 4, 167, 0, 4, 3, 61, 3, 62]
abbrev dktX11_isWord_0 : List UInt8 := dkwX11_isWord_0 ++ dktX11_isWord_1
theorem dksX11_isWord_0 : cX11_isWord.data.toList.drop 0 = dktX11_isWord_0 := by decide +kernel
theorem dksX11_isWord_1 : cX11_isWord.data.toList.drop 24 = dktX11_isWord_1 := dk_seg dksX11_isWord_0 24 rfl rfl
theorem dksX11_isWord_2 : cX11_isWord.data.toList.drop 48 = dktX11_isWord_2 := dk_seg dksX11_isWord_1 24 rfl rfl
theorem dX11_isWord_0 : decode cX11_isWord 0 = .ok (.aload_n 0, 1) := dk_42 (dk_at dksX11_isWord_0 0 rfl rfl)
theorem dX11_isWord_1 : decode cX11_isWord 1 = .ok (.getfield 121, 3) := dk_180 0 121 (dk_at dksX11_isWord_0 1 rfl rfl)
theorem dX11_isWord_4 : decode cX11_isWord 4 = .ok (.aload_n 0, 1) := dk_42 (dk_at dksX11_isWord_0 4 rfl rfl)
theorem dX11_isWord_5 : decode cX11_isWord 5 = .ok (.getfield 130, 3) := dk_180 0 130 (dk_at dksX11_isWord_0 5 rfl rfl)
theorem dX11_isWord_8 : decode cX11_isWord 8 = .ok (.isub, 1) := dk_100 (dk_at dksX11_isWord_0 8 rfl rfl)
theorem dX11_isWord_9 : decode cX11_isWord 9 = .ok (.aload_n 1, 1) := dk_43 (dk_at dksX11_isWord_0 9 rfl rfl)
theorem dX11_isWord_10 : decode cX11_isWord 10 = .ok (.invokevirtual 136, 3) := dk_182 0 136 (dk_at dksX11_isWord_0 10 rfl rfl)
theorem dX11_isWord_13 : decode cX11_isWord 13 = .ok (.if_icmp .ne 7, 3) := dk_160 0 7 (dk_at dksX11_isWord_0 13 rfl rfl)
theorem dX11_isWord_16 : decode cX11_isWord 16 = .ok (.iconst 1, 1) := dk_4 (dk_at dksX11_isWord_0 16 rfl rfl)
theorem dX11_isWord_17 : decode cX11_isWord 17 = .ok (.goto 4, 3) := dk_167 0 4 (dk_at dksX11_isWord_0 17 rfl rfl)
theorem dX11_isWord_20 : decode cX11_isWord 20 = .ok (.iconst 0, 1) := dk_3 (dk_at dksX11_isWord_0 20 rfl rfl)
theorem dX11_isWord_21 : decode cX11_isWord 21 = .ok (.istore_n 2, 1) := dk_61 (dk_at dksX11_isWord_0 21 rfl rfl)
theorem dX11_isWord_22 : decode cX11_isWord 22 = .ok (.iconst 0, 1) := dk_3 (dk_at dksX11_isWord_0 22 rfl rfl)
theorem dX11_isWord_23 : decode cX11_isWord 23 = .ok (.istore_n 3, 1) := dk_62 (dk_at dksX11_isWord_0 23 rfl rfl)
theorem dX11_isWord_24 : decode cX11_isWord 24 = .ok (.iload_n 2, 1) := dk_28 (dk_at dksX11_isWord_1 0 rfl rfl)
theorem dX11_isWord_25 : decode cX11_isWord 25 = .ok (.ifCond .eq 42, 3) := dk_153 0 42 (dk_at dksX11_isWord_1 1 rfl rfl)
theorem dX11_isWord_28 : decode cX11_isWord 28 = .ok (.iload_n 3, 1) := dk_29 (dk_at dksX11_isWord_1 4 rfl rfl)
theorem dX11_isWord_29 : decode cX11_isWord 29 = .ok (.aload_n 1, 1) := dk_43 (dk_at dksX11_isWord_1 5 rfl rfl)
theorem dX11_isWord_30 : decode cX11_isWord 30 = .ok (.invokevirtual 136, 3) := dk_182 0 136 (dk_at dksX11_isWord_1 6 rfl rfl)
theorem dX11_isWord_33 : decode cX11_isWord 33 = .ok (.if_icmp .ge 34, 3) := dk_162 0 34 (dk_at dksX11_isWord_1 9 rfl rfl)
theorem dX11_isWord_36 : decode cX11_isWord 36 = .ok (.aload_n 0, 1) := dk_42 (dk_at dksX11_isWord_1 12 rfl rfl)
theorem dX11_isWord_37 : decode cX11_isWord 37 = .ok (.getfield 20, 3) := dk_180 0 20 (dk_at dksX11_isWord_1 13 rfl rfl)
theorem dX11_isWord_40 : decode cX11_isWord 40 = .ok (.aload_n 0, 1) := dk_42 (dk_at dksX11_isWord_1 16 rfl rfl)
theorem dX11_isWord_41 : decode cX11_isWord 41 = .ok (.getfield 130, 3) := dk_180 0 130 (dk_at dksX11_isWord_1 17 rfl rfl)
theorem dX11_isWord_44 : decode cX11_isWord 44 = .ok (.iload_n 3, 1) := dk_29 (dk_at dksX11_isWord_1 20 rfl rfl)
theorem dX11_isWord_45 : decode cX11_isWord 45 = .ok (.iadd, 1) := dk_96 (dk_at dksX11_isWord_1 21 rfl rfl)
theorem dX11_isWord_46 : decode cX11_isWord 46 = .ok (.baload, 1) := dk_51 (dk_at dksX11_isWord_1 22 rfl rfl)
theorem dX11_isWord_47 : decode cX11_isWord 47 = .ok (.aload_n 1, 1) := dk_43 (dk_at dksX11_isWord_1 23 rfl rfl)
theorem dX11_isWord_48 : decode cX11_isWord 48 = .ok (.iload_n 3, 1) := dk_29 (dk_at dksX11_isWord_2 0 rfl rfl)
theorem dX11_isWord_49 : decode cX11_isWord 49 = .ok (.invokevirtual 142, 3) := dk_182 0 142 (dk_at dksX11_isWord_2 1 rfl rfl)
theorem dX11_isWord_52 : decode cX11_isWord 52 = .ok (.if_icmp .ne 7, 3) := dk_160 0 7 (dk_at dksX11_isWord_2 4 rfl rfl)
theorem dX11_isWord_55 : decode cX11_isWord 55 = .ok (.iconst 1, 1) := dk_4 (dk_at dksX11_isWord_2 7 rfl rfl)
theorem dX11_isWord_56 : decode cX11_isWord 56 = .ok (.goto 4, 3) := dk_167 0 4 (dk_at dksX11_isWord_2 8 rfl rfl)
theorem dX11_isWord_59 : decode cX11_isWord 59 = .ok (.iconst 0, 1) := dk_3 (dk_at dksX11_isWord_2 11 rfl rfl)
theorem dX11_isWord_60 : decode cX11_isWord 60 = .ok (.istore_n 2, 1) := dk_61 (dk_at dksX11_isWord_2 12 rfl rfl)
theorem dX11_isWord_61 : decode cX11_isWord 61 = .ok (.iinc 3 1, 3) := dk_132 3 1 (dk_at dksX11_isWord_2 13 rfl rfl)
theorem dX11_isWord_64 : decode cX11_isWord 64 = .ok (.goto (-40), 3) := dk_167 255 216 (dk_at dksX11_isWord_2 16 rfl rfl)
theorem dX11_isWord_67 : decode cX11_isWord 67 = .ok (.iload_n 2, 1) := dk_28 (dk_at dksX11_isWord_2 19 rfl rfl)
theorem dX11_isWord_68 : decode cX11_isWord 68 = .ok (.ireturn, 1) := dk_172 (dk_at dksX11_isWord_2 20 rfl rfl)
def dkwX11_number_4 : List UInt8 := [29, 28, 164, 0, 7, 2, 167, 0, 4, 29, 172]
abbrev dktX11_number_4 : List UInt8 := dkwX11_number_4 ++ []
def dkwX11_number_3 : List UInt8 := [180, 0, 130, 159, 0, 26, 42, 180, 0, 121, 42, 180, 0, 130, 100, 6, 163, 0, 13, 29, 27, 161, 0, 8]
abbrev dktX11_number_3 : List UInt8 := dkwX11_number_3 ++ dktX11_number_4
def dkwX11_number_2 : List UInt8 := [100, 167, 0, 4, 29, 62, 42, 89, 180, 0, 121, 4, 96, 181, 0, 121, 167, 255, 200, 42, 180, 0, 121, 42]
abbrev dktX11_number_2 : List UInt8 := dkwX11_number_2 ++ dktX11_number_3
def dkwX11_number_1 : List UInt8 := [180, 0, 130, 100, 6, 162, 0, 23, 16, 10, 29, 104, 42, 180, 0, 20, 42, 180, 0, 121, 51, 96, 16, 48]
abbrev dktX11_number_1 : List UInt8 := dkwX11_number_1 ++ dktX11_number_2
def dkwX11_number_0 : List UInt8 := [42, 182, 0, 133, 3, 62, 42, 16, 48, 16, 57, 182, 0, 127, 153, 0, 51, 42, 180, 0, 121, 42]
abbrev dktX11_number_0 : List UInt8 := dkwX11_number_0 ++ dktX11_number_1
theorem dksX11_number_0 : cX11_number.data.toList.drop 0 = dktX11_number_0 := by decide +kernel
theorem dksX11_number_1 : cX11_number.data.toList.drop 22 = dktX11_number_1 := dk_seg dksX11_number_0 22 rfl rfl
theorem dksX11_number_2 : cX11_number.data.toList.drop 46 = dktX11_number_2 := dk_seg dksX11_number_1 24 rfl rfl
theorem dksX11_number_3 : cX11_number.data.toList.drop 70 = dktX11_number_3 := dk_seg dksX11_number_2 24 rfl rfl
theorem dksX11_number_4 : cX11_number.data.toList.drop 94 = dktX11_number_4 := dk_seg dksX11_number_3 24 rfl rfl
theorem dX11_number_0 : decode cX11_number 0 = .ok (.aload_n 0, 1) := dk_42 (dk_at dksX11_number_0 0 rfl rfl)
theorem dX11_number_1 : decode cX11_number 1 = .ok (.invokevirtual 133, 3) := dk_182 0 133 (dk_at dksX11_number_0 1 rfl rfl)
theorem dX11_number_4 : decode cX11_number 4 = .ok (.iconst 0, 1) := dk_3 (dk_at dksX11_number_0 4 rfl rfl)
theorem dX11_number_5 : decode cX11_number 5 = .ok (.istore_n 3, 1) := dk_62 (dk_at dksX11_number_0 5 rfl rfl)
theorem dX11_number_6 : decode cX11_number 6 = .ok (.aload_n 0, 1) := dk_42 (dk_at dksX11_number_0 6 rfl rfl)
theorem dX11_number_7 : decode cX11_number 7 = .ok (.bipush 48, 2) := dk_16 48 (dk_at dksX11_number_0 7 rfl rfl)
theorem dX11_number_9 : decode cX11_number 9 = .ok (.bipush 57, 2) := dk_16 57 (dk_at dksX11_number_0 9 rfl rfl)
theorem dX11_number_11 : decode cX11_number 11 = .ok (.invokevirtual 127, 3) := dk_182 0 127 (dk_at dksX11_number_0 11 rfl rfl)
theorem dX11_number_14 : decode cX11_number 14 = .ok (.ifCond .eq 51, 3) := dk_153 0 51 (dk_at dksX11_number_0 14 rfl rfl)
theorem dX11_number_17 : decode cX11_number 17 = .ok (.aload_n 0, 1) := dk_42 (dk_at dksX11_number_0 17 rfl rfl)
theorem dX11_number_18 : decode cX11_number 18 = .ok (.getfield 121, 3) := dk_180 0 121 (dk_at dksX11_number_0 18 rfl rfl)
theorem dX11_number_21 : decode cX11_number 21 = .ok (.aload_n 0, 1) := dk_42 (dk_at dksX11_number_0 21 rfl rfl)
theorem dX11_number_22 : decode cX11_number 22 = .ok (.getfield 130, 3) := dk_180 0 130 (dk_at dksX11_number_1 0 rfl rfl)
theorem dX11_number_25 : decode cX11_number 25 = .ok (.isub, 1) := dk_100 (dk_at dksX11_number_1 3 rfl rfl)
theorem dX11_number_26 : decode cX11_number 26 = .ok (.iconst 3, 1) := dk_6 (dk_at dksX11_number_1 4 rfl rfl)
theorem dX11_number_27 : decode cX11_number 27 = .ok (.if_icmp .ge 23, 3) := dk_162 0 23 (dk_at dksX11_number_1 5 rfl rfl)
theorem dX11_number_30 : decode cX11_number 30 = .ok (.bipush 10, 2) := dk_16 10 (dk_at dksX11_number_1 8 rfl rfl)
theorem dX11_number_32 : decode cX11_number 32 = .ok (.iload_n 3, 1) := dk_29 (dk_at dksX11_number_1 10 rfl rfl)
theorem dX11_number_33 : decode cX11_number 33 = .ok (.imul, 1) := dk_104 (dk_at dksX11_number_1 11 rfl rfl)
theorem dX11_number_34 : decode cX11_number 34 = .ok (.aload_n 0, 1) := dk_42 (dk_at dksX11_number_1 12 rfl rfl)
theorem dX11_number_35 : decode cX11_number 35 = .ok (.getfield 20, 3) := dk_180 0 20 (dk_at dksX11_number_1 13 rfl rfl)
theorem dX11_number_38 : decode cX11_number 38 = .ok (.aload_n 0, 1) := dk_42 (dk_at dksX11_number_1 16 rfl rfl)
theorem dX11_number_39 : decode cX11_number 39 = .ok (.getfield 121, 3) := dk_180 0 121 (dk_at dksX11_number_1 17 rfl rfl)
theorem dX11_number_42 : decode cX11_number 42 = .ok (.baload, 1) := dk_51 (dk_at dksX11_number_1 20 rfl rfl)
theorem dX11_number_43 : decode cX11_number 43 = .ok (.iadd, 1) := dk_96 (dk_at dksX11_number_1 21 rfl rfl)
theorem dX11_number_44 : decode cX11_number 44 = .ok (.bipush 48, 2) := dk_16 48 (dk_at dksX11_number_1 22 rfl rfl)
theorem dX11_number_46 : decode cX11_number 46 = .ok (.isub, 1) := dk_100 (dk_at dksX11_number_2 0 rfl rfl)
theorem dX11_number_47 : decode cX11_number 47 = .ok (.goto 4, 3) := dk_167 0 4 (dk_at dksX11_number_2 1 rfl rfl)
theorem dX11_number_50 : decode cX11_number 50 = .ok (.iload_n 3, 1) := dk_29 (dk_at dksX11_number_2 4 rfl rfl)
theorem dX11_number_51 : decode cX11_number 51 = .ok (.istore_n 3, 1) := dk_62 (dk_at dksX11_number_2 5 rfl rfl)
theorem dX11_number_52 : decode cX11_number 52 = .ok (.aload_n 0, 1) := dk_42 (dk_at dksX11_number_2 6 rfl rfl)
theorem dX11_number_53 : decode cX11_number 53 = .ok (.dup, 1) := dk_89 (dk_at dksX11_number_2 7 rfl rfl)
theorem dX11_number_54 : decode cX11_number 54 = .ok (.getfield 121, 3) := dk_180 0 121 (dk_at dksX11_number_2 8 rfl rfl)
theorem dX11_number_57 : decode cX11_number 57 = .ok (.iconst 1, 1) := dk_4 (dk_at dksX11_number_2 11 rfl rfl)
theorem dX11_number_58 : decode cX11_number 58 = .ok (.iadd, 1) := dk_96 (dk_at dksX11_number_2 12 rfl rfl)
theorem dX11_number_59 : decode cX11_number 59 = .ok (.putfield 121, 3) := dk_181 0 121 (dk_at dksX11_number_2 13 rfl rfl)
theorem dX11_number_62 : decode cX11_number 62 = .ok (.goto (-56), 3) := dk_167 255 200 (dk_at dksX11_number_2 16 rfl rfl)
theorem dX11_number_65 : decode cX11_number 65 = .ok (.aload_n 0, 1) := dk_42 (dk_at dksX11_number_2 19 rfl rfl)
theorem dX11_number_66 : decode cX11_number 66 = .ok (.getfield 121, 3) := dk_180 0 121 (dk_at dksX11_number_2 20 rfl rfl)
theorem dX11_number_69 : decode cX11_number 69 = .ok (.aload_n 0, 1) := dk_42 (dk_at dksX11_number_2 23 rfl rfl)
theorem dX11_number_70 : decode cX11_number 70 = .ok (.getfield 130, 3) := dk_180 0 130 (dk_at dksX11_number_3 0 rfl rfl)
theorem dX11_number_73 : decode cX11_number 73 = .ok (.if_icmp .eq 26, 3) := dk_159 0 26 (dk_at dksX11_number_3 3 rfl rfl)
theorem dX11_number_76 : decode cX11_number 76 = .ok (.aload_n 0, 1) := dk_42 (dk_at dksX11_number_3 6 rfl rfl)
theorem dX11_number_77 : decode cX11_number 77 = .ok (.getfield 121, 3) := dk_180 0 121 (dk_at dksX11_number_3 7 rfl rfl)
theorem dX11_number_80 : decode cX11_number 80 = .ok (.aload_n 0, 1) := dk_42 (dk_at dksX11_number_3 10 rfl rfl)
theorem dX11_number_81 : decode cX11_number 81 = .ok (.getfield 130, 3) := dk_180 0 130 (dk_at dksX11_number_3 11 rfl rfl)
theorem dX11_number_84 : decode cX11_number 84 = .ok (.isub, 1) := dk_100 (dk_at dksX11_number_3 14 rfl rfl)
theorem dX11_number_85 : decode cX11_number 85 = .ok (.iconst 3, 1) := dk_6 (dk_at dksX11_number_3 15 rfl rfl)
theorem dX11_number_86 : decode cX11_number 86 = .ok (.if_icmp .gt 13, 3) := dk_163 0 13 (dk_at dksX11_number_3 16 rfl rfl)
theorem dX11_number_89 : decode cX11_number 89 = .ok (.iload_n 3, 1) := dk_29 (dk_at dksX11_number_3 19 rfl rfl)
theorem dX11_number_90 : decode cX11_number 90 = .ok (.iload_n 1, 1) := dk_27 (dk_at dksX11_number_3 20 rfl rfl)
theorem dX11_number_91 : decode cX11_number 91 = .ok (.if_icmp .lt 8, 3) := dk_161 0 8 (dk_at dksX11_number_3 21 rfl rfl)
theorem dX11_number_94 : decode cX11_number 94 = .ok (.iload_n 3, 1) := dk_29 (dk_at dksX11_number_4 0 rfl rfl)
theorem dX11_number_95 : decode cX11_number 95 = .ok (.iload_n 2, 1) := dk_28 (dk_at dksX11_number_4 1 rfl rfl)
theorem dX11_number_96 : decode cX11_number 96 = .ok (.if_icmp .le 7, 3) := dk_164 0 7 (dk_at dksX11_number_4 2 rfl rfl)
theorem dX11_number_99 : decode cX11_number 99 = .ok (.iconst (-1), 1) := dk_2 (dk_at dksX11_number_4 5 rfl rfl)
theorem dX11_number_100 : decode cX11_number 100 = .ok (.goto 4, 3) := dk_167 0 4 (dk_at dksX11_number_4 6 rfl rfl)
theorem dX11_number_103 : decode cX11_number 103 = .ok (.iload_n 3, 1) := dk_29 (dk_at dksX11_number_4 9 rfl rfl)
theorem dX11_number_104 : decode cX11_number 104 = .ok (.ireturn, 1) := dk_172 (dk_at dksX11_number_4 10 rfl rfl)
def dkwX11_readMeasureLine_5 : List UInt8 := [180, 0, 153, 79, 4, 172]
abbrev dktX11_readMeasureLine_5 : List UInt8 := dkwX11_readMeasureLine_5 ++ []
def dkwX11_readMeasureLine_4 : List UInt8 := [182, 0, 188, 153, 0, 12, 42, 182, 0, 183, 154, 0, 5, 3, 172, 42, 180, 0, 13, 28, 6, 96, 42]
abbrev dktX11_readMeasureLine_4 : List UInt8 := dkwX11_readMeasureLine_4 ++ dktX11_readMeasureLine_5
def dkwX11_readMeasureLine_3 : List UInt8 := [3, 172, 42, 180, 0, 13, 28, 5, 96, 42, 180, 0, 153, 79, 42, 3, 181, 0, 180, 42, 18, 213]
abbrev dktX11_readMeasureLine_3 : List UInt8 := dkwX11_readMeasureLine_3 ++ dktX11_readMeasureLine_4
def dkwX11_readMeasureLine_2 : List UInt8 := [182, 0, 176, 153, 0, 23, 42, 182, 0, 146, 42, 28, 4, 96, 42, 182, 0, 163, 182, 0, 210, 154, 0, 5]
abbrev dktX11_readMeasureLine_2 : List UInt8 := dkwX11_readMeasureLine_2 ++ dktX11_readMeasureLine_3
def dkwX11_readMeasureLine_1 : List UInt8 := [182, 0, 170, 182, 0, 210, 154, 0, 5, 3, 172, 42, 180, 0, 13, 28, 4, 96, 2, 79, 42, 16, 42]
abbrev dktX11_readMeasureLine_1 : List UInt8 := dkwX11_readMeasureLine_1 ++ dktX11_readMeasureLine_2
def dkwX11_readMeasureLine_0 : List UInt8 := [17, 5, 5, 7, 27, 104, 96, 61, 42, 18, 208, 182, 0, 149, 153, 0, 19, 42, 28, 42, 3, 17, 3, 231]
abbrev dktX11_readMeasureLine_0 : List UInt8 := dkwX11_readMeasureLine_0 ++ dktX11_readMeasureLine_1
theorem dksX11_readMeasureLine_0 : cX11_readMeasureLine.data.toList.drop 0 = dktX11_readMeasureLine_0 := by decide +kernel
theorem dksX11_readMeasureLine_1 : cX11_readMeasureLine.data.toList.drop 24 = dktX11_readMeasureLine_1 := dk_seg dksX11_readMeasureLine_0 24 rfl rfl
theorem dksX11_readMeasureLine_2 : cX11_readMeasureLine.data.toList.drop 47 = dktX11_readMeasureLine_2 := dk_seg dksX11_readMeasureLine_1 23 rfl rfl
theorem dksX11_readMeasureLine_3 : cX11_readMeasureLine.data.toList.drop 71 = dktX11_readMeasureLine_3 := dk_seg dksX11_readMeasureLine_2 24 rfl rfl
theorem dksX11_readMeasureLine_4 : cX11_readMeasureLine.data.toList.drop 93 = dktX11_readMeasureLine_4 := dk_seg dksX11_readMeasureLine_3 22 rfl rfl
theorem dksX11_readMeasureLine_5 : cX11_readMeasureLine.data.toList.drop 116 = dktX11_readMeasureLine_5 := dk_seg dksX11_readMeasureLine_4 23 rfl rfl
theorem dX11_readMeasureLine_0 : decode cX11_readMeasureLine 0 = .ok (.sipush 1285, 3) := dk_17 5 5 (dk_at dksX11_readMeasureLine_0 0 rfl rfl)
theorem dX11_readMeasureLine_3 : decode cX11_readMeasureLine 3 = .ok (.iconst 4, 1) := dk_7 (dk_at dksX11_readMeasureLine_0 3 rfl rfl)
theorem dX11_readMeasureLine_4 : decode cX11_readMeasureLine 4 = .ok (.iload_n 1, 1) := dk_27 (dk_at dksX11_readMeasureLine_0 4 rfl rfl)
theorem dX11_readMeasureLine_5 : decode cX11_readMeasureLine 5 = .ok (.imul, 1) := dk_104 (dk_at dksX11_readMeasureLine_0 5 rfl rfl)
theorem dX11_readMeasureLine_6 : decode cX11_readMeasureLine 6 = .ok (.iadd, 1) := dk_96 (dk_at dksX11_readMeasureLine_0 6 rfl rfl)
theorem dX11_readMeasureLine_7 : decode cX11_readMeasureLine 7 = .ok (.istore_n 2, 1) := dk_61 (dk_at dksX11_readMeasureLine_0 7 rfl rfl)
theorem dX11_readMeasureLine_8 : decode cX11_readMeasureLine 8 = .ok (.aload_n 0, 1) := dk_42 (dk_at dksX11_readMeasureLine_0 8 rfl rfl)
theorem dX11_readMeasureLine_9 : decode cX11_readMeasureLine 9 = .ok (.ldc 208, 2) := dk_18 208 (dk_at dksX11_readMeasureLine_0 9 rfl rfl)
theorem dX11_readMeasureLine_11 : decode cX11_readMeasureLine 11 = .ok (.invokevirtual 149, 3) := dk_182 0 149 (dk_at dksX11_readMeasureLine_0 11 rfl rfl)
theorem dX11_readMeasureLine_14 : decode cX11_readMeasureLine 14 = .ok (.ifCond .eq 19, 3) := dk_153 0 19 (dk_at dksX11_readMeasureLine_0 14 rfl rfl)
theorem dX11_readMeasureLine_17 : decode cX11_readMeasureLine 17 = .ok (.aload_n 0, 1) := dk_42 (dk_at dksX11_readMeasureLine_0 17 rfl rfl)
theorem dX11_readMeasureLine_18 : decode cX11_readMeasureLine 18 = .ok (.iload_n 2, 1) := dk_28 (dk_at dksX11_readMeasureLine_0 18 rfl rfl)
theorem dX11_readMeasureLine_19 : decode cX11_readMeasureLine 19 = .ok (.aload_n 0, 1) := dk_42 (dk_at dksX11_readMeasureLine_0 19 rfl rfl)
theorem dX11_readMeasureLine_20 : decode cX11_readMeasureLine 20 = .ok (.iconst 0, 1) := dk_3 (dk_at dksX11_readMeasureLine_0 20 rfl rfl)
theorem dX11_readMeasureLine_21 : decode cX11_readMeasureLine 21 = .ok (.sipush 999, 3) := dk_17 3 231 (dk_at dksX11_readMeasureLine_0 21 rfl rfl)
theorem dX11_readMeasureLine_24 : decode cX11_readMeasureLine 24 = .ok (.invokevirtual 170, 3) := dk_182 0 170 (dk_at dksX11_readMeasureLine_1 0 rfl rfl)
theorem dX11_readMeasureLine_27 : decode cX11_readMeasureLine 27 = .ok (.invokevirtual 210, 3) := dk_182 0 210 (dk_at dksX11_readMeasureLine_1 3 rfl rfl)
theorem dX11_readMeasureLine_30 : decode cX11_readMeasureLine 30 = .ok (.ifCond .ne 5, 3) := dk_154 0 5 (dk_at dksX11_readMeasureLine_1 6 rfl rfl)
theorem dX11_readMeasureLine_33 : decode cX11_readMeasureLine 33 = .ok (.iconst 0, 1) := dk_3 (dk_at dksX11_readMeasureLine_1 9 rfl rfl)
theorem dX11_readMeasureLine_34 : decode cX11_readMeasureLine 34 = .ok (.ireturn, 1) := dk_172 (dk_at dksX11_readMeasureLine_1 10 rfl rfl)
theorem dX11_readMeasureLine_35 : decode cX11_readMeasureLine 35 = .ok (.aload_n 0, 1) := dk_42 (dk_at dksX11_readMeasureLine_1 11 rfl rfl)
theorem dX11_readMeasureLine_36 : decode cX11_readMeasureLine 36 = .ok (.getfield 13, 3) := dk_180 0 13 (dk_at dksX11_readMeasureLine_1 12 rfl rfl)
theorem dX11_readMeasureLine_39 : decode cX11_readMeasureLine 39 = .ok (.iload_n 2, 1) := dk_28 (dk_at dksX11_readMeasureLine_1 15 rfl rfl)
theorem dX11_readMeasureLine_40 : decode cX11_readMeasureLine 40 = .ok (.iconst 1, 1) := dk_4 (dk_at dksX11_readMeasureLine_1 16 rfl rfl)
theorem dX11_readMeasureLine_41 : decode cX11_readMeasureLine 41 = .ok (.iadd, 1) := dk_96 (dk_at dksX11_readMeasureLine_1 17 rfl rfl)
theorem dX11_readMeasureLine_42 : decode cX11_readMeasureLine 42 = .ok (.iconst (-1), 1) := dk_2 (dk_at dksX11_readMeasureLine_1 18 rfl rfl)
theorem dX11_readMeasureLine_43 : decode cX11_readMeasureLine 43 = .ok (.iastore, 1) := dk_79 (dk_at dksX11_readMeasureLine_1 19 rfl rfl)
theorem dX11_readMeasureLine_44 : decode cX11_readMeasureLine 44 = .ok (.aload_n 0, 1) := dk_42 (dk_at dksX11_readMeasureLine_1 20 rfl rfl)
theorem dX11_readMeasureLine_45 : decode cX11_readMeasureLine 45 = .ok (.bipush 42, 2) := dk_16 42 (dk_at dksX11_readMeasureLine_1 21 rfl rfl)
theorem dX11_readMeasureLine_47 : decode cX11_readMeasureLine 47 = .ok (.invokevirtual 176, 3) := dk_182 0 176 (dk_at dksX11_readMeasureLine_2 0 rfl rfl)
theorem dX11_readMeasureLine_50 : decode cX11_readMeasureLine 50 = .ok (.ifCond .eq 23, 3) := dk_153 0 23 (dk_at dksX11_readMeasureLine_2 3 rfl rfl)
theorem dX11_readMeasureLine_53 : decode cX11_readMeasureLine 53 = .ok (.aload_n 0, 1) := dk_42 (dk_at dksX11_readMeasureLine_2 6 rfl rfl)
theorem dX11_readMeasureLine_54 : decode cX11_readMeasureLine 54 = .ok (.invokevirtual 146, 3) := dk_182 0 146 (dk_at dksX11_readMeasureLine_2 7 rfl rfl)
theorem dX11_readMeasureLine_57 : decode cX11_readMeasureLine 57 = .ok (.aload_n 0, 1) := dk_42 (dk_at dksX11_readMeasureLine_2 10 rfl rfl)
theorem dX11_readMeasureLine_58 : decode cX11_readMeasureLine 58 = .ok (.iload_n 2, 1) := dk_28 (dk_at dksX11_readMeasureLine_2 11 rfl rfl)
theorem dX11_readMeasureLine_59 : decode cX11_readMeasureLine 59 = .ok (.iconst 1, 1) := dk_4 (dk_at dksX11_readMeasureLine_2 12 rfl rfl)
theorem dX11_readMeasureLine_60 : decode cX11_readMeasureLine 60 = .ok (.iadd, 1) := dk_96 (dk_at dksX11_readMeasureLine_2 13 rfl rfl)
theorem dX11_readMeasureLine_61 : decode cX11_readMeasureLine 61 = .ok (.aload_n 0, 1) := dk_42 (dk_at dksX11_readMeasureLine_2 14 rfl rfl)
theorem dX11_readMeasureLine_62 : decode cX11_readMeasureLine 62 = .ok (.invokevirtual 163, 3) := dk_182 0 163 (dk_at dksX11_readMeasureLine_2 15 rfl rfl)
theorem dX11_readMeasureLine_65 : decode cX11_readMeasureLine 65 = .ok (.invokevirtual 210, 3) := dk_182 0 210 (dk_at dksX11_readMeasureLine_2 18 rfl rfl)
theorem dX11_readMeasureLine_68 : decode cX11_readMeasureLine 68 = .ok (.ifCond .ne 5, 3) := dk_154 0 5 (dk_at dksX11_readMeasureLine_2 21 rfl rfl)
theorem dX11_readMeasureLine_71 : decode cX11_readMeasureLine 71 = .ok (.iconst 0, 1) := dk_3 (dk_at dksX11_readMeasureLine_3 0 rfl rfl)
theorem dX11_readMeasureLine_72 : decode cX11_readMeasureLine 72 = .ok (.ireturn, 1) := dk_172 (dk_at dksX11_readMeasureLine_3 1 rfl rfl)
theorem dX11_readMeasureLine_73 : decode cX11_readMeasureLine 73 = .ok (.aload_n 0, 1) := dk_42 (dk_at dksX11_readMeasureLine_3 2 rfl rfl)
theorem dX11_readMeasureLine_74 : decode cX11_readMeasureLine 74 = .ok (.getfield 13, 3) := dk_180 0 13 (dk_at dksX11_readMeasureLine_3 3 rfl rfl)
theorem dX11_readMeasureLine_77 : decode cX11_readMeasureLine 77 = .ok (.iload_n 2, 1) := dk_28 (dk_at dksX11_readMeasureLine_3 6 rfl rfl)
theorem dX11_readMeasureLine_78 : decode cX11_readMeasureLine 78 = .ok (.iconst 2, 1) := dk_5 (dk_at dksX11_readMeasureLine_3 7 rfl rfl)
theorem dX11_readMeasureLine_79 : decode cX11_readMeasureLine 79 = .ok (.iadd, 1) := dk_96 (dk_at dksX11_readMeasureLine_3 8 rfl rfl)
theorem dX11_readMeasureLine_80 : decode cX11_readMeasureLine 80 = .ok (.aload_n 0, 1) := dk_42 (dk_at dksX11_readMeasureLine_3 9 rfl rfl)
theorem dX11_readMeasureLine_81 : decode cX11_readMeasureLine 81 = .ok (.getfield 153, 3) := dk_180 0 153 (dk_at dksX11_readMeasureLine_3 10 rfl rfl)
theorem dX11_readMeasureLine_84 : decode cX11_readMeasureLine 84 = .ok (.iastore, 1) := dk_79 (dk_at dksX11_readMeasureLine_3 13 rfl rfl)
theorem dX11_readMeasureLine_85 : decode cX11_readMeasureLine 85 = .ok (.aload_n 0, 1) := dk_42 (dk_at dksX11_readMeasureLine_3 14 rfl rfl)
theorem dX11_readMeasureLine_86 : decode cX11_readMeasureLine 86 = .ok (.iconst 0, 1) := dk_3 (dk_at dksX11_readMeasureLine_3 15 rfl rfl)
theorem dX11_readMeasureLine_87 : decode cX11_readMeasureLine 87 = .ok (.putfield 180, 3) := dk_181 0 180 (dk_at dksX11_readMeasureLine_3 16 rfl rfl)
theorem dX11_readMeasureLine_90 : decode cX11_readMeasureLine 90 = .ok (.aload_n 0, 1) := dk_42 (dk_at dksX11_readMeasureLine_3 19 rfl rfl)
theorem dX11_readMeasureLine_91 : decode cX11_readMeasureLine 91 = .ok (.ldc 213, 2) := dk_18 213 (dk_at dksX11_readMeasureLine_3 20 rfl rfl)
theorem dX11_readMeasureLine_93 : decode cX11_readMeasureLine 93 = .ok (.invokevirtual 188, 3) := dk_182 0 188 (dk_at dksX11_readMeasureLine_4 0 rfl rfl)
theorem dX11_readMeasureLine_96 : decode cX11_readMeasureLine 96 = .ok (.ifCond .eq 12, 3) := dk_153 0 12 (dk_at dksX11_readMeasureLine_4 3 rfl rfl)
theorem dX11_readMeasureLine_99 : decode cX11_readMeasureLine 99 = .ok (.aload_n 0, 1) := dk_42 (dk_at dksX11_readMeasureLine_4 6 rfl rfl)
theorem dX11_readMeasureLine_100 : decode cX11_readMeasureLine 100 = .ok (.invokevirtual 183, 3) := dk_182 0 183 (dk_at dksX11_readMeasureLine_4 7 rfl rfl)
theorem dX11_readMeasureLine_103 : decode cX11_readMeasureLine 103 = .ok (.ifCond .ne 5, 3) := dk_154 0 5 (dk_at dksX11_readMeasureLine_4 10 rfl rfl)
theorem dX11_readMeasureLine_106 : decode cX11_readMeasureLine 106 = .ok (.iconst 0, 1) := dk_3 (dk_at dksX11_readMeasureLine_4 13 rfl rfl)
theorem dX11_readMeasureLine_107 : decode cX11_readMeasureLine 107 = .ok (.ireturn, 1) := dk_172 (dk_at dksX11_readMeasureLine_4 14 rfl rfl)
theorem dX11_readMeasureLine_108 : decode cX11_readMeasureLine 108 = .ok (.aload_n 0, 1) := dk_42 (dk_at dksX11_readMeasureLine_4 15 rfl rfl)
theorem dX11_readMeasureLine_109 : decode cX11_readMeasureLine 109 = .ok (.getfield 13, 3) := dk_180 0 13 (dk_at dksX11_readMeasureLine_4 16 rfl rfl)
theorem dX11_readMeasureLine_112 : decode cX11_readMeasureLine 112 = .ok (.iload_n 2, 1) := dk_28 (dk_at dksX11_readMeasureLine_4 19 rfl rfl)
theorem dX11_readMeasureLine_113 : decode cX11_readMeasureLine 113 = .ok (.iconst 3, 1) := dk_6 (dk_at dksX11_readMeasureLine_4 20 rfl rfl)
theorem dX11_readMeasureLine_114 : decode cX11_readMeasureLine 114 = .ok (.iadd, 1) := dk_96 (dk_at dksX11_readMeasureLine_4 21 rfl rfl)
theorem dX11_readMeasureLine_115 : decode cX11_readMeasureLine 115 = .ok (.aload_n 0, 1) := dk_42 (dk_at dksX11_readMeasureLine_4 22 rfl rfl)
theorem dX11_readMeasureLine_116 : decode cX11_readMeasureLine 116 = .ok (.getfield 153, 3) := dk_180 0 153 (dk_at dksX11_readMeasureLine_5 0 rfl rfl)
theorem dX11_readMeasureLine_119 : decode cX11_readMeasureLine 119 = .ok (.iastore, 1) := dk_79 (dk_at dksX11_readMeasureLine_5 3 rfl rfl)
theorem dX11_readMeasureLine_120 : decode cX11_readMeasureLine 120 = .ok (.iconst 1, 1) := dk_4 (dk_at dksX11_readMeasureLine_5 4 rfl rfl)
theorem dX11_readMeasureLine_121 : decode cX11_readMeasureLine 121 = .ok (.ireturn, 1) := dk_172 (dk_at dksX11_readMeasureLine_5 5 rfl rfl)
def dkwX11_keepsAt_0 : List UInt8 := [42, 180, 0, 13, 27, 28, 79, 28, 155, 0, 7, 4, 167, 0, 4, 3, 172]
abbrev dktX11_keepsAt_0 : List UInt8 := dkwX11_keepsAt_0 ++ []
theorem dksX11_keepsAt_0 : cX11_keepsAt.data.toList.drop 0 = dktX11_keepsAt_0 := by decide +kernel
theorem dX11_keepsAt_0 : decode cX11_keepsAt 0 = .ok (.aload_n 0, 1) := dk_42 (dk_at dksX11_keepsAt_0 0 rfl rfl)
theorem dX11_keepsAt_1 : decode cX11_keepsAt 1 = .ok (.getfield 13, 3) := dk_180 0 13 (dk_at dksX11_keepsAt_0 1 rfl rfl)
theorem dX11_keepsAt_4 : decode cX11_keepsAt 4 = .ok (.iload_n 1, 1) := dk_27 (dk_at dksX11_keepsAt_0 4 rfl rfl)
theorem dX11_keepsAt_5 : decode cX11_keepsAt 5 = .ok (.iload_n 2, 1) := dk_28 (dk_at dksX11_keepsAt_0 5 rfl rfl)
theorem dX11_keepsAt_6 : decode cX11_keepsAt 6 = .ok (.iastore, 1) := dk_79 (dk_at dksX11_keepsAt_0 6 rfl rfl)
theorem dX11_keepsAt_7 : decode cX11_keepsAt 7 = .ok (.iload_n 2, 1) := dk_28 (dk_at dksX11_keepsAt_0 7 rfl rfl)
theorem dX11_keepsAt_8 : decode cX11_keepsAt 8 = .ok (.ifCond .lt 7, 3) := dk_155 0 7 (dk_at dksX11_keepsAt_0 8 rfl rfl)
theorem dX11_keepsAt_11 : decode cX11_keepsAt 11 = .ok (.iconst 1, 1) := dk_4 (dk_at dksX11_keepsAt_0 11 rfl rfl)
theorem dX11_keepsAt_12 : decode cX11_keepsAt 12 = .ok (.goto 4, 3) := dk_167 0 4 (dk_at dksX11_keepsAt_0 12 rfl rfl)
theorem dX11_keepsAt_15 : decode cX11_keepsAt 15 = .ok (.iconst 0, 1) := dk_3 (dk_at dksX11_keepsAt_0 15 rfl rfl)
theorem dX11_keepsAt_16 : decode cX11_keepsAt 16 = .ok (.ireturn, 1) := dk_172 (dk_at dksX11_keepsAt_0 16 rfl rfl)
def dkwX11_sign_1 : List UInt8 := [181, 0, 121, 4, 172]
abbrev dktX11_sign_1 : List UInt8 := dkwX11_sign_1 ++ []
def dkwX11_sign_0 : List UInt8 := [42, 182, 0, 133, 42, 27, 27, 182, 0, 127, 154, 0, 5, 3, 172, 42, 89, 180, 0, 121, 4, 96]
abbrev dktX11_sign_0 : List UInt8 := dkwX11_sign_0 ++ dktX11_sign_1
theorem dksX11_sign_0 : cX11_sign.data.toList.drop 0 = dktX11_sign_0 := by decide +kernel
theorem dksX11_sign_1 : cX11_sign.data.toList.drop 22 = dktX11_sign_1 := dk_seg dksX11_sign_0 22 rfl rfl
theorem dX11_sign_0 : decode cX11_sign 0 = .ok (.aload_n 0, 1) := dk_42 (dk_at dksX11_sign_0 0 rfl rfl)
theorem dX11_sign_1 : decode cX11_sign 1 = .ok (.invokevirtual 133, 3) := dk_182 0 133 (dk_at dksX11_sign_0 1 rfl rfl)
theorem dX11_sign_4 : decode cX11_sign 4 = .ok (.aload_n 0, 1) := dk_42 (dk_at dksX11_sign_0 4 rfl rfl)
theorem dX11_sign_5 : decode cX11_sign 5 = .ok (.iload_n 1, 1) := dk_27 (dk_at dksX11_sign_0 5 rfl rfl)
theorem dX11_sign_6 : decode cX11_sign 6 = .ok (.iload_n 1, 1) := dk_27 (dk_at dksX11_sign_0 6 rfl rfl)
theorem dX11_sign_7 : decode cX11_sign 7 = .ok (.invokevirtual 127, 3) := dk_182 0 127 (dk_at dksX11_sign_0 7 rfl rfl)
theorem dX11_sign_10 : decode cX11_sign 10 = .ok (.ifCond .ne 5, 3) := dk_154 0 5 (dk_at dksX11_sign_0 10 rfl rfl)
theorem dX11_sign_13 : decode cX11_sign 13 = .ok (.iconst 0, 1) := dk_3 (dk_at dksX11_sign_0 13 rfl rfl)
theorem dX11_sign_14 : decode cX11_sign 14 = .ok (.ireturn, 1) := dk_172 (dk_at dksX11_sign_0 14 rfl rfl)
theorem dX11_sign_15 : decode cX11_sign 15 = .ok (.aload_n 0, 1) := dk_42 (dk_at dksX11_sign_0 15 rfl rfl)
theorem dX11_sign_16 : decode cX11_sign 16 = .ok (.dup, 1) := dk_89 (dk_at dksX11_sign_0 16 rfl rfl)
theorem dX11_sign_17 : decode cX11_sign 17 = .ok (.getfield 121, 3) := dk_180 0 121 (dk_at dksX11_sign_0 17 rfl rfl)
theorem dX11_sign_20 : decode cX11_sign 20 = .ok (.iconst 1, 1) := dk_4 (dk_at dksX11_sign_0 20 rfl rfl)
theorem dX11_sign_21 : decode cX11_sign 21 = .ok (.iadd, 1) := dk_96 (dk_at dksX11_sign_0 21 rfl rfl)
theorem dX11_sign_22 : decode cX11_sign 22 = .ok (.putfield 121, 3) := dk_181 0 121 (dk_at dksX11_sign_1 0 rfl rfl)
theorem dX11_sign_25 : decode cX11_sign 25 = .ok (.iconst 1, 1) := dk_4 (dk_at dksX11_sign_1 3 rfl rfl)
theorem dX11_sign_26 : decode cX11_sign 26 = .ok (.ireturn, 1) := dk_172 (dk_at dksX11_sign_1 4 rfl rfl)
def dkwX11_factAt_2 : List UInt8 := [153, 0, 7, 6, 167, 0, 4, 2, 172]
abbrev dktX11_factAt_2 : List UInt8 := dkwX11_factAt_2 ++ []
def dkwX11_factAt_1 : List UInt8 := [167, 0, 30, 42, 18, 159, 182, 0, 149, 153, 0, 7, 5, 167, 0, 17, 42, 18, 161, 182, 0, 149]
abbrev dktX11_factAt_1 : List UInt8 := dkwX11_factAt_1 ++ dktX11_factAt_2
def dkwX11_factAt_0 : List UInt8 := [42, 18, 156, 182, 0, 149, 153, 0, 7, 3, 167, 0, 43, 42, 18, 158, 182, 0, 149, 153, 0, 7, 4]
abbrev dktX11_factAt_0 : List UInt8 := dkwX11_factAt_0 ++ dktX11_factAt_1
theorem dksX11_factAt_0 : cX11_factAt.data.toList.drop 0 = dktX11_factAt_0 := by decide +kernel
theorem dksX11_factAt_1 : cX11_factAt.data.toList.drop 23 = dktX11_factAt_1 := dk_seg dksX11_factAt_0 23 rfl rfl
theorem dksX11_factAt_2 : cX11_factAt.data.toList.drop 45 = dktX11_factAt_2 := dk_seg dksX11_factAt_1 22 rfl rfl
theorem dX11_factAt_0 : decode cX11_factAt 0 = .ok (.aload_n 0, 1) := dk_42 (dk_at dksX11_factAt_0 0 rfl rfl)
theorem dX11_factAt_1 : decode cX11_factAt 1 = .ok (.ldc 156, 2) := dk_18 156 (dk_at dksX11_factAt_0 1 rfl rfl)
theorem dX11_factAt_3 : decode cX11_factAt 3 = .ok (.invokevirtual 149, 3) := dk_182 0 149 (dk_at dksX11_factAt_0 3 rfl rfl)
theorem dX11_factAt_6 : decode cX11_factAt 6 = .ok (.ifCond .eq 7, 3) := dk_153 0 7 (dk_at dksX11_factAt_0 6 rfl rfl)
theorem dX11_factAt_9 : decode cX11_factAt 9 = .ok (.iconst 0, 1) := dk_3 (dk_at dksX11_factAt_0 9 rfl rfl)
theorem dX11_factAt_10 : decode cX11_factAt 10 = .ok (.goto 43, 3) := dk_167 0 43 (dk_at dksX11_factAt_0 10 rfl rfl)
theorem dX11_factAt_13 : decode cX11_factAt 13 = .ok (.aload_n 0, 1) := dk_42 (dk_at dksX11_factAt_0 13 rfl rfl)
theorem dX11_factAt_14 : decode cX11_factAt 14 = .ok (.ldc 158, 2) := dk_18 158 (dk_at dksX11_factAt_0 14 rfl rfl)
theorem dX11_factAt_16 : decode cX11_factAt 16 = .ok (.invokevirtual 149, 3) := dk_182 0 149 (dk_at dksX11_factAt_0 16 rfl rfl)
theorem dX11_factAt_19 : decode cX11_factAt 19 = .ok (.ifCond .eq 7, 3) := dk_153 0 7 (dk_at dksX11_factAt_0 19 rfl rfl)
theorem dX11_factAt_22 : decode cX11_factAt 22 = .ok (.iconst 1, 1) := dk_4 (dk_at dksX11_factAt_0 22 rfl rfl)
theorem dX11_factAt_23 : decode cX11_factAt 23 = .ok (.goto 30, 3) := dk_167 0 30 (dk_at dksX11_factAt_1 0 rfl rfl)
theorem dX11_factAt_26 : decode cX11_factAt 26 = .ok (.aload_n 0, 1) := dk_42 (dk_at dksX11_factAt_1 3 rfl rfl)
theorem dX11_factAt_27 : decode cX11_factAt 27 = .ok (.ldc 159, 2) := dk_18 159 (dk_at dksX11_factAt_1 4 rfl rfl)
theorem dX11_factAt_29 : decode cX11_factAt 29 = .ok (.invokevirtual 149, 3) := dk_182 0 149 (dk_at dksX11_factAt_1 6 rfl rfl)
theorem dX11_factAt_32 : decode cX11_factAt 32 = .ok (.ifCond .eq 7, 3) := dk_153 0 7 (dk_at dksX11_factAt_1 9 rfl rfl)
theorem dX11_factAt_35 : decode cX11_factAt 35 = .ok (.iconst 2, 1) := dk_5 (dk_at dksX11_factAt_1 12 rfl rfl)
theorem dX11_factAt_36 : decode cX11_factAt 36 = .ok (.goto 17, 3) := dk_167 0 17 (dk_at dksX11_factAt_1 13 rfl rfl)
theorem dX11_factAt_39 : decode cX11_factAt 39 = .ok (.aload_n 0, 1) := dk_42 (dk_at dksX11_factAt_1 16 rfl rfl)
theorem dX11_factAt_40 : decode cX11_factAt 40 = .ok (.ldc 161, 2) := dk_18 161 (dk_at dksX11_factAt_1 17 rfl rfl)
theorem dX11_factAt_42 : decode cX11_factAt 42 = .ok (.invokevirtual 149, 3) := dk_182 0 149 (dk_at dksX11_factAt_1 19 rfl rfl)
theorem dX11_factAt_45 : decode cX11_factAt 45 = .ok (.ifCond .eq 7, 3) := dk_153 0 7 (dk_at dksX11_factAt_2 0 rfl rfl)
theorem dX11_factAt_48 : decode cX11_factAt 48 = .ok (.iconst 3, 1) := dk_6 (dk_at dksX11_factAt_2 3 rfl rfl)
theorem dX11_factAt_49 : decode cX11_factAt 49 = .ok (.goto 4, 3) := dk_167 0 4 (dk_at dksX11_factAt_2 4 rfl rfl)
theorem dX11_factAt_52 : decode cX11_factAt 52 = .ok (.iconst (-1), 1) := dk_2 (dk_at dksX11_factAt_2 7 rfl rfl)
theorem dX11_factAt_53 : decode cX11_factAt 53 = .ok (.ireturn, 1) := dk_172 (dk_at dksX11_factAt_2 8 rfl rfl)
def dkwX11_passes_0 : List UInt8 := [42, 182, 0, 146, 42, 43, 182, 0, 149, 153, 0, 5, 4, 172, 42, 42, 180, 0, 130, 181, 0, 121, 3, 172]
abbrev dktX11_passes_0 : List UInt8 := dkwX11_passes_0 ++ []
theorem dksX11_passes_0 : cX11_passes.data.toList.drop 0 = dktX11_passes_0 := by decide +kernel
theorem dX11_passes_0 : decode cX11_passes 0 = .ok (.aload_n 0, 1) := dk_42 (dk_at dksX11_passes_0 0 rfl rfl)
theorem dX11_passes_1 : decode cX11_passes 1 = .ok (.invokevirtual 146, 3) := dk_182 0 146 (dk_at dksX11_passes_0 1 rfl rfl)
theorem dX11_passes_4 : decode cX11_passes 4 = .ok (.aload_n 0, 1) := dk_42 (dk_at dksX11_passes_0 4 rfl rfl)
theorem dX11_passes_5 : decode cX11_passes 5 = .ok (.aload_n 1, 1) := dk_43 (dk_at dksX11_passes_0 5 rfl rfl)
theorem dX11_passes_6 : decode cX11_passes 6 = .ok (.invokevirtual 149, 3) := dk_182 0 149 (dk_at dksX11_passes_0 6 rfl rfl)
theorem dX11_passes_9 : decode cX11_passes 9 = .ok (.ifCond .eq 5, 3) := dk_153 0 5 (dk_at dksX11_passes_0 9 rfl rfl)
theorem dX11_passes_12 : decode cX11_passes 12 = .ok (.iconst 1, 1) := dk_4 (dk_at dksX11_passes_0 12 rfl rfl)
theorem dX11_passes_13 : decode cX11_passes 13 = .ok (.ireturn, 1) := dk_172 (dk_at dksX11_passes_0 13 rfl rfl)
theorem dX11_passes_14 : decode cX11_passes 14 = .ok (.aload_n 0, 1) := dk_42 (dk_at dksX11_passes_0 14 rfl rfl)
theorem dX11_passes_15 : decode cX11_passes 15 = .ok (.aload_n 0, 1) := dk_42 (dk_at dksX11_passes_0 15 rfl rfl)
theorem dX11_passes_16 : decode cX11_passes 16 = .ok (.getfield 130, 3) := dk_180 0 130 (dk_at dksX11_passes_0 16 rfl rfl)
theorem dX11_passes_19 : decode cX11_passes 19 = .ok (.putfield 121, 3) := dk_181 0 121 (dk_at dksX11_passes_0 19 rfl rfl)
theorem dX11_passes_22 : decode cX11_passes 22 = .ok (.iconst 0, 1) := dk_3 (dk_at dksX11_passes_0 22 rfl rfl)
theorem dX11_passes_23 : decode cX11_passes 23 = .ok (.ireturn, 1) := dk_172 (dk_at dksX11_passes_0 23 rfl rfl)
def dkwX11_readCond_1 : List UInt8 := [154, 0, 5, 3, 172, 42, 16, 12, 3, 182, 0, 166, 167, 255, 231, 4, 172]
abbrev dktX11_readCond_1 : List UInt8 := dkwX11_readCond_1 ++ []
def dkwX11_readCond_0 : List UInt8 := [42, 182, 0, 203, 154, 0, 5, 3, 172, 42, 18, 206, 182, 0, 188, 153, 0, 22, 42, 182, 0, 203]
abbrev dktX11_readCond_0 : List UInt8 := dkwX11_readCond_0 ++ dktX11_readCond_1
theorem dksX11_readCond_0 : cX11_readCond.data.toList.drop 0 = dktX11_readCond_0 := by decide +kernel
theorem dksX11_readCond_1 : cX11_readCond.data.toList.drop 22 = dktX11_readCond_1 := dk_seg dksX11_readCond_0 22 rfl rfl
theorem dX11_readCond_0 : decode cX11_readCond 0 = .ok (.aload_n 0, 1) := dk_42 (dk_at dksX11_readCond_0 0 rfl rfl)
theorem dX11_readCond_1 : decode cX11_readCond 1 = .ok (.invokevirtual 203, 3) := dk_182 0 203 (dk_at dksX11_readCond_0 1 rfl rfl)
theorem dX11_readCond_4 : decode cX11_readCond 4 = .ok (.ifCond .ne 5, 3) := dk_154 0 5 (dk_at dksX11_readCond_0 4 rfl rfl)
theorem dX11_readCond_7 : decode cX11_readCond 7 = .ok (.iconst 0, 1) := dk_3 (dk_at dksX11_readCond_0 7 rfl rfl)
theorem dX11_readCond_8 : decode cX11_readCond 8 = .ok (.ireturn, 1) := dk_172 (dk_at dksX11_readCond_0 8 rfl rfl)
theorem dX11_readCond_9 : decode cX11_readCond 9 = .ok (.aload_n 0, 1) := dk_42 (dk_at dksX11_readCond_0 9 rfl rfl)
theorem dX11_readCond_10 : decode cX11_readCond 10 = .ok (.ldc 206, 2) := dk_18 206 (dk_at dksX11_readCond_0 10 rfl rfl)
theorem dX11_readCond_12 : decode cX11_readCond 12 = .ok (.invokevirtual 188, 3) := dk_182 0 188 (dk_at dksX11_readCond_0 12 rfl rfl)
theorem dX11_readCond_15 : decode cX11_readCond 15 = .ok (.ifCond .eq 22, 3) := dk_153 0 22 (dk_at dksX11_readCond_0 15 rfl rfl)
theorem dX11_readCond_18 : decode cX11_readCond 18 = .ok (.aload_n 0, 1) := dk_42 (dk_at dksX11_readCond_0 18 rfl rfl)
theorem dX11_readCond_19 : decode cX11_readCond 19 = .ok (.invokevirtual 203, 3) := dk_182 0 203 (dk_at dksX11_readCond_0 19 rfl rfl)
theorem dX11_readCond_22 : decode cX11_readCond 22 = .ok (.ifCond .ne 5, 3) := dk_154 0 5 (dk_at dksX11_readCond_1 0 rfl rfl)
theorem dX11_readCond_25 : decode cX11_readCond 25 = .ok (.iconst 0, 1) := dk_3 (dk_at dksX11_readCond_1 3 rfl rfl)
theorem dX11_readCond_26 : decode cX11_readCond 26 = .ok (.ireturn, 1) := dk_172 (dk_at dksX11_readCond_1 4 rfl rfl)
theorem dX11_readCond_27 : decode cX11_readCond 27 = .ok (.aload_n 0, 1) := dk_42 (dk_at dksX11_readCond_1 5 rfl rfl)
theorem dX11_readCond_28 : decode cX11_readCond 28 = .ok (.bipush 12, 2) := dk_16 12 (dk_at dksX11_readCond_1 6 rfl rfl)
theorem dX11_readCond_30 : decode cX11_readCond 30 = .ok (.iconst 0, 1) := dk_3 (dk_at dksX11_readCond_1 8 rfl rfl)
theorem dX11_readCond_31 : decode cX11_readCond 31 = .ok (.invokevirtual 166, 3) := dk_182 0 166 (dk_at dksX11_readCond_1 9 rfl rfl)
theorem dX11_readCond_34 : decode cX11_readCond 34 = .ok (.goto (-25), 3) := dk_167 255 231 (dk_at dksX11_readCond_1 12 rfl rfl)
theorem dX11_readCond_37 : decode cX11_readCond 37 = .ok (.iconst 1, 1) := dk_4 (dk_at dksX11_readCond_1 15 rfl rfl)
theorem dX11_readCond_38 : decode cX11_readCond 38 = .ok (.ireturn, 1) := dk_172 (dk_at dksX11_readCond_1 16 rfl rfl)
def dkwX11_readAllOf_1 : List UInt8 := [154, 0, 5, 3, 172, 42, 16, 11, 3, 182, 0, 166, 167, 255, 231, 4, 172]
abbrev dktX11_readAllOf_1 : List UInt8 := dkwX11_readAllOf_1 ++ []
def dkwX11_readAllOf_0 : List UInt8 := [42, 182, 0, 191, 154, 0, 5, 3, 172, 42, 18, 201, 182, 0, 188, 153, 0, 22, 42, 182, 0, 191]
abbrev dktX11_readAllOf_0 : List UInt8 := dkwX11_readAllOf_0 ++ dktX11_readAllOf_1
theorem dksX11_readAllOf_0 : cX11_readAllOf.data.toList.drop 0 = dktX11_readAllOf_0 := by decide +kernel
theorem dksX11_readAllOf_1 : cX11_readAllOf.data.toList.drop 22 = dktX11_readAllOf_1 := dk_seg dksX11_readAllOf_0 22 rfl rfl
theorem dX11_readAllOf_0 : decode cX11_readAllOf 0 = .ok (.aload_n 0, 1) := dk_42 (dk_at dksX11_readAllOf_0 0 rfl rfl)
theorem dX11_readAllOf_1 : decode cX11_readAllOf 1 = .ok (.invokevirtual 191, 3) := dk_182 0 191 (dk_at dksX11_readAllOf_0 1 rfl rfl)
theorem dX11_readAllOf_4 : decode cX11_readAllOf 4 = .ok (.ifCond .ne 5, 3) := dk_154 0 5 (dk_at dksX11_readAllOf_0 4 rfl rfl)
theorem dX11_readAllOf_7 : decode cX11_readAllOf 7 = .ok (.iconst 0, 1) := dk_3 (dk_at dksX11_readAllOf_0 7 rfl rfl)
theorem dX11_readAllOf_8 : decode cX11_readAllOf 8 = .ok (.ireturn, 1) := dk_172 (dk_at dksX11_readAllOf_0 8 rfl rfl)
theorem dX11_readAllOf_9 : decode cX11_readAllOf 9 = .ok (.aload_n 0, 1) := dk_42 (dk_at dksX11_readAllOf_0 9 rfl rfl)
theorem dX11_readAllOf_10 : decode cX11_readAllOf 10 = .ok (.ldc 201, 2) := dk_18 201 (dk_at dksX11_readAllOf_0 10 rfl rfl)
theorem dX11_readAllOf_12 : decode cX11_readAllOf 12 = .ok (.invokevirtual 188, 3) := dk_182 0 188 (dk_at dksX11_readAllOf_0 12 rfl rfl)
theorem dX11_readAllOf_15 : decode cX11_readAllOf 15 = .ok (.ifCond .eq 22, 3) := dk_153 0 22 (dk_at dksX11_readAllOf_0 15 rfl rfl)
theorem dX11_readAllOf_18 : decode cX11_readAllOf 18 = .ok (.aload_n 0, 1) := dk_42 (dk_at dksX11_readAllOf_0 18 rfl rfl)
theorem dX11_readAllOf_19 : decode cX11_readAllOf 19 = .ok (.invokevirtual 191, 3) := dk_182 0 191 (dk_at dksX11_readAllOf_0 19 rfl rfl)
theorem dX11_readAllOf_22 : decode cX11_readAllOf 22 = .ok (.ifCond .ne 5, 3) := dk_154 0 5 (dk_at dksX11_readAllOf_1 0 rfl rfl)
theorem dX11_readAllOf_25 : decode cX11_readAllOf 25 = .ok (.iconst 0, 1) := dk_3 (dk_at dksX11_readAllOf_1 3 rfl rfl)
theorem dX11_readAllOf_26 : decode cX11_readAllOf 26 = .ok (.ireturn, 1) := dk_172 (dk_at dksX11_readAllOf_1 4 rfl rfl)
theorem dX11_readAllOf_27 : decode cX11_readAllOf 27 = .ok (.aload_n 0, 1) := dk_42 (dk_at dksX11_readAllOf_1 5 rfl rfl)
theorem dX11_readAllOf_28 : decode cX11_readAllOf 28 = .ok (.bipush 11, 2) := dk_16 11 (dk_at dksX11_readAllOf_1 6 rfl rfl)
theorem dX11_readAllOf_30 : decode cX11_readAllOf 30 = .ok (.iconst 0, 1) := dk_3 (dk_at dksX11_readAllOf_1 8 rfl rfl)
theorem dX11_readAllOf_31 : decode cX11_readAllOf 31 = .ok (.invokevirtual 166, 3) := dk_182 0 166 (dk_at dksX11_readAllOf_1 9 rfl rfl)
theorem dX11_readAllOf_34 : decode cX11_readAllOf 34 = .ok (.goto (-25), 3) := dk_167 255 231 (dk_at dksX11_readAllOf_1 12 rfl rfl)
theorem dX11_readAllOf_37 : decode cX11_readAllOf 37 = .ok (.iconst 1, 1) := dk_4 (dk_at dksX11_readAllOf_1 15 rfl rfl)
theorem dX11_readAllOf_38 : decode cX11_readAllOf 38 = .ok (.ireturn, 1) := dk_172 (dk_at dksX11_readAllOf_1 16 rfl rfl)
def dkwX11_readAtom_8 : List UInt8 := [3, 172, 42, 28, 153, 0, 8, 16, 8, 167, 0, 5, 16, 9, 3, 182, 0, 166, 4, 172]
abbrev dktX11_readAtom_8 : List UInt8 := dkwX11_readAtom_8 ++ []
def dkwX11_readAtom_7 : List UInt8 := [182, 0, 176, 61, 28, 154, 0, 12, 42, 16, 62, 182, 0, 176, 153, 0, 10, 42, 182, 0, 198, 154, 0, 5]
abbrev dktX11_readAtom_7 : List UInt8 := dkwX11_readAtom_7 ++ dktX11_readAtom_8
def dkwX11_readAtom_6 : List UInt8 := [167, 0, 4, 8, 3, 182, 0, 166, 4, 172, 42, 182, 0, 198, 154, 0, 5, 3, 172, 42, 16, 60]
abbrev dktX11_readAtom_6 : List UInt8 := dkwX11_readAtom_6 ++ dktX11_readAtom_7
def dkwX11_readAtom_5 : List UInt8 := [182, 0, 188, 60, 27, 154, 0, 12, 42, 18, 196, 182, 0, 188, 153, 0, 19, 42, 27, 153, 0, 7, 7]
abbrev dktX11_readAtom_5 : List UInt8 := dkwX11_readAtom_5 ++ dktX11_readAtom_6
def dkwX11_readAtom_4 : List UInt8 := [3, 172, 42, 89, 180, 0, 180, 4, 100, 181, 0, 180, 42, 16, 10, 3, 182, 0, 166, 4, 172, 42, 18, 194]
abbrev dktX11_readAtom_4 : List UInt8 := dkwX11_readAtom_4 ++ dktX11_readAtom_5
def dkwX11_readAtom_3 : List UInt8 := [16, 6, 160, 0, 5, 3, 172, 42, 89, 180, 0, 180, 4, 96, 181, 0, 180, 42, 182, 0, 191, 154, 0, 5]
abbrev dktX11_readAtom_3 : List UInt8 := dkwX11_readAtom_3 ++ dktX11_readAtom_4
def dkwX11_readAtom_2 : List UInt8 := [181, 0, 180, 42, 16, 41, 182, 0, 176, 172, 42, 18, 186, 182, 0, 188, 153, 0, 52, 42, 180, 0, 180]
abbrev dktX11_readAtom_2 : List UInt8 := dkwX11_readAtom_2 ++ dktX11_readAtom_3
def dkwX11_readAtom_1 : List UInt8 := [180, 0, 180, 4, 96, 181, 0, 180, 42, 182, 0, 183, 154, 0, 5, 3, 172, 42, 89, 180, 0, 180, 4, 100]
abbrev dktX11_readAtom_1 : List UInt8 := dkwX11_readAtom_1 ++ dktX11_readAtom_2
def dkwX11_readAtom_0 : List UInt8 := [42, 16, 40, 182, 0, 176, 153, 0, 50, 42, 180, 0, 180, 16, 6, 160, 0, 5, 3, 172, 42, 89]
abbrev dktX11_readAtom_0 : List UInt8 := dkwX11_readAtom_0 ++ dktX11_readAtom_1
theorem dksX11_readAtom_0 : cX11_readAtom.data.toList.drop 0 = dktX11_readAtom_0 := by decide +kernel
theorem dksX11_readAtom_1 : cX11_readAtom.data.toList.drop 22 = dktX11_readAtom_1 := dk_seg dksX11_readAtom_0 22 rfl rfl
theorem dksX11_readAtom_2 : cX11_readAtom.data.toList.drop 46 = dktX11_readAtom_2 := dk_seg dksX11_readAtom_1 24 rfl rfl
theorem dksX11_readAtom_3 : cX11_readAtom.data.toList.drop 69 = dktX11_readAtom_3 := dk_seg dksX11_readAtom_2 23 rfl rfl
theorem dksX11_readAtom_4 : cX11_readAtom.data.toList.drop 93 = dktX11_readAtom_4 := dk_seg dksX11_readAtom_3 24 rfl rfl
theorem dksX11_readAtom_5 : cX11_readAtom.data.toList.drop 117 = dktX11_readAtom_5 := dk_seg dksX11_readAtom_4 24 rfl rfl
theorem dksX11_readAtom_6 : cX11_readAtom.data.toList.drop 140 = dktX11_readAtom_6 := dk_seg dksX11_readAtom_5 23 rfl rfl
theorem dksX11_readAtom_7 : cX11_readAtom.data.toList.drop 162 = dktX11_readAtom_7 := dk_seg dksX11_readAtom_6 22 rfl rfl
theorem dksX11_readAtom_8 : cX11_readAtom.data.toList.drop 186 = dktX11_readAtom_8 := dk_seg dksX11_readAtom_7 24 rfl rfl
theorem dX11_readAtom_0 : decode cX11_readAtom 0 = .ok (.aload_n 0, 1) := dk_42 (dk_at dksX11_readAtom_0 0 rfl rfl)
theorem dX11_readAtom_1 : decode cX11_readAtom 1 = .ok (.bipush 40, 2) := dk_16 40 (dk_at dksX11_readAtom_0 1 rfl rfl)
theorem dX11_readAtom_3 : decode cX11_readAtom 3 = .ok (.invokevirtual 176, 3) := dk_182 0 176 (dk_at dksX11_readAtom_0 3 rfl rfl)
theorem dX11_readAtom_6 : decode cX11_readAtom 6 = .ok (.ifCond .eq 50, 3) := dk_153 0 50 (dk_at dksX11_readAtom_0 6 rfl rfl)
theorem dX11_readAtom_9 : decode cX11_readAtom 9 = .ok (.aload_n 0, 1) := dk_42 (dk_at dksX11_readAtom_0 9 rfl rfl)
theorem dX11_readAtom_10 : decode cX11_readAtom 10 = .ok (.getfield 180, 3) := dk_180 0 180 (dk_at dksX11_readAtom_0 10 rfl rfl)
theorem dX11_readAtom_13 : decode cX11_readAtom 13 = .ok (.bipush 6, 2) := dk_16 6 (dk_at dksX11_readAtom_0 13 rfl rfl)
theorem dX11_readAtom_15 : decode cX11_readAtom 15 = .ok (.if_icmp .ne 5, 3) := dk_160 0 5 (dk_at dksX11_readAtom_0 15 rfl rfl)
theorem dX11_readAtom_18 : decode cX11_readAtom 18 = .ok (.iconst 0, 1) := dk_3 (dk_at dksX11_readAtom_0 18 rfl rfl)
theorem dX11_readAtom_19 : decode cX11_readAtom 19 = .ok (.ireturn, 1) := dk_172 (dk_at dksX11_readAtom_0 19 rfl rfl)
theorem dX11_readAtom_20 : decode cX11_readAtom 20 = .ok (.aload_n 0, 1) := dk_42 (dk_at dksX11_readAtom_0 20 rfl rfl)
theorem dX11_readAtom_21 : decode cX11_readAtom 21 = .ok (.dup, 1) := dk_89 (dk_at dksX11_readAtom_0 21 rfl rfl)
theorem dX11_readAtom_22 : decode cX11_readAtom 22 = .ok (.getfield 180, 3) := dk_180 0 180 (dk_at dksX11_readAtom_1 0 rfl rfl)
theorem dX11_readAtom_25 : decode cX11_readAtom 25 = .ok (.iconst 1, 1) := dk_4 (dk_at dksX11_readAtom_1 3 rfl rfl)
theorem dX11_readAtom_26 : decode cX11_readAtom 26 = .ok (.iadd, 1) := dk_96 (dk_at dksX11_readAtom_1 4 rfl rfl)
theorem dX11_readAtom_27 : decode cX11_readAtom 27 = .ok (.putfield 180, 3) := dk_181 0 180 (dk_at dksX11_readAtom_1 5 rfl rfl)
theorem dX11_readAtom_30 : decode cX11_readAtom 30 = .ok (.aload_n 0, 1) := dk_42 (dk_at dksX11_readAtom_1 8 rfl rfl)
theorem dX11_readAtom_31 : decode cX11_readAtom 31 = .ok (.invokevirtual 183, 3) := dk_182 0 183 (dk_at dksX11_readAtom_1 9 rfl rfl)
theorem dX11_readAtom_34 : decode cX11_readAtom 34 = .ok (.ifCond .ne 5, 3) := dk_154 0 5 (dk_at dksX11_readAtom_1 12 rfl rfl)
theorem dX11_readAtom_37 : decode cX11_readAtom 37 = .ok (.iconst 0, 1) := dk_3 (dk_at dksX11_readAtom_1 15 rfl rfl)
theorem dX11_readAtom_38 : decode cX11_readAtom 38 = .ok (.ireturn, 1) := dk_172 (dk_at dksX11_readAtom_1 16 rfl rfl)
theorem dX11_readAtom_39 : decode cX11_readAtom 39 = .ok (.aload_n 0, 1) := dk_42 (dk_at dksX11_readAtom_1 17 rfl rfl)
theorem dX11_readAtom_40 : decode cX11_readAtom 40 = .ok (.dup, 1) := dk_89 (dk_at dksX11_readAtom_1 18 rfl rfl)
theorem dX11_readAtom_41 : decode cX11_readAtom 41 = .ok (.getfield 180, 3) := dk_180 0 180 (dk_at dksX11_readAtom_1 19 rfl rfl)
theorem dX11_readAtom_44 : decode cX11_readAtom 44 = .ok (.iconst 1, 1) := dk_4 (dk_at dksX11_readAtom_1 22 rfl rfl)
theorem dX11_readAtom_45 : decode cX11_readAtom 45 = .ok (.isub, 1) := dk_100 (dk_at dksX11_readAtom_1 23 rfl rfl)
theorem dX11_readAtom_46 : decode cX11_readAtom 46 = .ok (.putfield 180, 3) := dk_181 0 180 (dk_at dksX11_readAtom_2 0 rfl rfl)
theorem dX11_readAtom_49 : decode cX11_readAtom 49 = .ok (.aload_n 0, 1) := dk_42 (dk_at dksX11_readAtom_2 3 rfl rfl)
theorem dX11_readAtom_50 : decode cX11_readAtom 50 = .ok (.bipush 41, 2) := dk_16 41 (dk_at dksX11_readAtom_2 4 rfl rfl)
theorem dX11_readAtom_52 : decode cX11_readAtom 52 = .ok (.invokevirtual 176, 3) := dk_182 0 176 (dk_at dksX11_readAtom_2 6 rfl rfl)
theorem dX11_readAtom_55 : decode cX11_readAtom 55 = .ok (.ireturn, 1) := dk_172 (dk_at dksX11_readAtom_2 9 rfl rfl)
theorem dX11_readAtom_56 : decode cX11_readAtom 56 = .ok (.aload_n 0, 1) := dk_42 (dk_at dksX11_readAtom_2 10 rfl rfl)
theorem dX11_readAtom_57 : decode cX11_readAtom 57 = .ok (.ldc 186, 2) := dk_18 186 (dk_at dksX11_readAtom_2 11 rfl rfl)
theorem dX11_readAtom_59 : decode cX11_readAtom 59 = .ok (.invokevirtual 188, 3) := dk_182 0 188 (dk_at dksX11_readAtom_2 13 rfl rfl)
theorem dX11_readAtom_62 : decode cX11_readAtom 62 = .ok (.ifCond .eq 52, 3) := dk_153 0 52 (dk_at dksX11_readAtom_2 16 rfl rfl)
theorem dX11_readAtom_65 : decode cX11_readAtom 65 = .ok (.aload_n 0, 1) := dk_42 (dk_at dksX11_readAtom_2 19 rfl rfl)
theorem dX11_readAtom_66 : decode cX11_readAtom 66 = .ok (.getfield 180, 3) := dk_180 0 180 (dk_at dksX11_readAtom_2 20 rfl rfl)
theorem dX11_readAtom_69 : decode cX11_readAtom 69 = .ok (.bipush 6, 2) := dk_16 6 (dk_at dksX11_readAtom_3 0 rfl rfl)
theorem dX11_readAtom_71 : decode cX11_readAtom 71 = .ok (.if_icmp .ne 5, 3) := dk_160 0 5 (dk_at dksX11_readAtom_3 2 rfl rfl)
theorem dX11_readAtom_74 : decode cX11_readAtom 74 = .ok (.iconst 0, 1) := dk_3 (dk_at dksX11_readAtom_3 5 rfl rfl)
theorem dX11_readAtom_75 : decode cX11_readAtom 75 = .ok (.ireturn, 1) := dk_172 (dk_at dksX11_readAtom_3 6 rfl rfl)
theorem dX11_readAtom_76 : decode cX11_readAtom 76 = .ok (.aload_n 0, 1) := dk_42 (dk_at dksX11_readAtom_3 7 rfl rfl)
theorem dX11_readAtom_77 : decode cX11_readAtom 77 = .ok (.dup, 1) := dk_89 (dk_at dksX11_readAtom_3 8 rfl rfl)
theorem dX11_readAtom_78 : decode cX11_readAtom 78 = .ok (.getfield 180, 3) := dk_180 0 180 (dk_at dksX11_readAtom_3 9 rfl rfl)
theorem dX11_readAtom_81 : decode cX11_readAtom 81 = .ok (.iconst 1, 1) := dk_4 (dk_at dksX11_readAtom_3 12 rfl rfl)
theorem dX11_readAtom_82 : decode cX11_readAtom 82 = .ok (.iadd, 1) := dk_96 (dk_at dksX11_readAtom_3 13 rfl rfl)
theorem dX11_readAtom_83 : decode cX11_readAtom 83 = .ok (.putfield 180, 3) := dk_181 0 180 (dk_at dksX11_readAtom_3 14 rfl rfl)
theorem dX11_readAtom_86 : decode cX11_readAtom 86 = .ok (.aload_n 0, 1) := dk_42 (dk_at dksX11_readAtom_3 17 rfl rfl)
theorem dX11_readAtom_87 : decode cX11_readAtom 87 = .ok (.invokevirtual 191, 3) := dk_182 0 191 (dk_at dksX11_readAtom_3 18 rfl rfl)
theorem dX11_readAtom_90 : decode cX11_readAtom 90 = .ok (.ifCond .ne 5, 3) := dk_154 0 5 (dk_at dksX11_readAtom_3 21 rfl rfl)
theorem dX11_readAtom_93 : decode cX11_readAtom 93 = .ok (.iconst 0, 1) := dk_3 (dk_at dksX11_readAtom_4 0 rfl rfl)
theorem dX11_readAtom_94 : decode cX11_readAtom 94 = .ok (.ireturn, 1) := dk_172 (dk_at dksX11_readAtom_4 1 rfl rfl)
theorem dX11_readAtom_95 : decode cX11_readAtom 95 = .ok (.aload_n 0, 1) := dk_42 (dk_at dksX11_readAtom_4 2 rfl rfl)
theorem dX11_readAtom_96 : decode cX11_readAtom 96 = .ok (.dup, 1) := dk_89 (dk_at dksX11_readAtom_4 3 rfl rfl)
theorem dX11_readAtom_97 : decode cX11_readAtom 97 = .ok (.getfield 180, 3) := dk_180 0 180 (dk_at dksX11_readAtom_4 4 rfl rfl)
theorem dX11_readAtom_100 : decode cX11_readAtom 100 = .ok (.iconst 1, 1) := dk_4 (dk_at dksX11_readAtom_4 7 rfl rfl)
theorem dX11_readAtom_101 : decode cX11_readAtom 101 = .ok (.isub, 1) := dk_100 (dk_at dksX11_readAtom_4 8 rfl rfl)
theorem dX11_readAtom_102 : decode cX11_readAtom 102 = .ok (.putfield 180, 3) := dk_181 0 180 (dk_at dksX11_readAtom_4 9 rfl rfl)
theorem dX11_readAtom_105 : decode cX11_readAtom 105 = .ok (.aload_n 0, 1) := dk_42 (dk_at dksX11_readAtom_4 12 rfl rfl)
theorem dX11_readAtom_106 : decode cX11_readAtom 106 = .ok (.bipush 10, 2) := dk_16 10 (dk_at dksX11_readAtom_4 13 rfl rfl)
theorem dX11_readAtom_108 : decode cX11_readAtom 108 = .ok (.iconst 0, 1) := dk_3 (dk_at dksX11_readAtom_4 15 rfl rfl)
theorem dX11_readAtom_109 : decode cX11_readAtom 109 = .ok (.invokevirtual 166, 3) := dk_182 0 166 (dk_at dksX11_readAtom_4 16 rfl rfl)
theorem dX11_readAtom_112 : decode cX11_readAtom 112 = .ok (.iconst 1, 1) := dk_4 (dk_at dksX11_readAtom_4 19 rfl rfl)
theorem dX11_readAtom_113 : decode cX11_readAtom 113 = .ok (.ireturn, 1) := dk_172 (dk_at dksX11_readAtom_4 20 rfl rfl)
theorem dX11_readAtom_114 : decode cX11_readAtom 114 = .ok (.aload_n 0, 1) := dk_42 (dk_at dksX11_readAtom_4 21 rfl rfl)
theorem dX11_readAtom_115 : decode cX11_readAtom 115 = .ok (.ldc 194, 2) := dk_18 194 (dk_at dksX11_readAtom_4 22 rfl rfl)
theorem dX11_readAtom_117 : decode cX11_readAtom 117 = .ok (.invokevirtual 188, 3) := dk_182 0 188 (dk_at dksX11_readAtom_5 0 rfl rfl)
theorem dX11_readAtom_120 : decode cX11_readAtom 120 = .ok (.istore_n 1, 1) := dk_60 (dk_at dksX11_readAtom_5 3 rfl rfl)
theorem dX11_readAtom_121 : decode cX11_readAtom 121 = .ok (.iload_n 1, 1) := dk_27 (dk_at dksX11_readAtom_5 4 rfl rfl)
theorem dX11_readAtom_122 : decode cX11_readAtom 122 = .ok (.ifCond .ne 12, 3) := dk_154 0 12 (dk_at dksX11_readAtom_5 5 rfl rfl)
theorem dX11_readAtom_125 : decode cX11_readAtom 125 = .ok (.aload_n 0, 1) := dk_42 (dk_at dksX11_readAtom_5 8 rfl rfl)
theorem dX11_readAtom_126 : decode cX11_readAtom 126 = .ok (.ldc 196, 2) := dk_18 196 (dk_at dksX11_readAtom_5 9 rfl rfl)
theorem dX11_readAtom_128 : decode cX11_readAtom 128 = .ok (.invokevirtual 188, 3) := dk_182 0 188 (dk_at dksX11_readAtom_5 11 rfl rfl)
theorem dX11_readAtom_131 : decode cX11_readAtom 131 = .ok (.ifCond .eq 19, 3) := dk_153 0 19 (dk_at dksX11_readAtom_5 14 rfl rfl)
theorem dX11_readAtom_134 : decode cX11_readAtom 134 = .ok (.aload_n 0, 1) := dk_42 (dk_at dksX11_readAtom_5 17 rfl rfl)
theorem dX11_readAtom_135 : decode cX11_readAtom 135 = .ok (.iload_n 1, 1) := dk_27 (dk_at dksX11_readAtom_5 18 rfl rfl)
theorem dX11_readAtom_136 : decode cX11_readAtom 136 = .ok (.ifCond .eq 7, 3) := dk_153 0 7 (dk_at dksX11_readAtom_5 19 rfl rfl)
theorem dX11_readAtom_139 : decode cX11_readAtom 139 = .ok (.iconst 4, 1) := dk_7 (dk_at dksX11_readAtom_5 22 rfl rfl)
theorem dX11_readAtom_140 : decode cX11_readAtom 140 = .ok (.goto 4, 3) := dk_167 0 4 (dk_at dksX11_readAtom_6 0 rfl rfl)
theorem dX11_readAtom_143 : decode cX11_readAtom 143 = .ok (.iconst 5, 1) := dk_8 (dk_at dksX11_readAtom_6 3 rfl rfl)
theorem dX11_readAtom_144 : decode cX11_readAtom 144 = .ok (.iconst 0, 1) := dk_3 (dk_at dksX11_readAtom_6 4 rfl rfl)
theorem dX11_readAtom_145 : decode cX11_readAtom 145 = .ok (.invokevirtual 166, 3) := dk_182 0 166 (dk_at dksX11_readAtom_6 5 rfl rfl)
theorem dX11_readAtom_148 : decode cX11_readAtom 148 = .ok (.iconst 1, 1) := dk_4 (dk_at dksX11_readAtom_6 8 rfl rfl)
theorem dX11_readAtom_149 : decode cX11_readAtom 149 = .ok (.ireturn, 1) := dk_172 (dk_at dksX11_readAtom_6 9 rfl rfl)
theorem dX11_readAtom_150 : decode cX11_readAtom 150 = .ok (.aload_n 0, 1) := dk_42 (dk_at dksX11_readAtom_6 10 rfl rfl)
theorem dX11_readAtom_151 : decode cX11_readAtom 151 = .ok (.invokevirtual 198, 3) := dk_182 0 198 (dk_at dksX11_readAtom_6 11 rfl rfl)
theorem dX11_readAtom_154 : decode cX11_readAtom 154 = .ok (.ifCond .ne 5, 3) := dk_154 0 5 (dk_at dksX11_readAtom_6 14 rfl rfl)
theorem dX11_readAtom_157 : decode cX11_readAtom 157 = .ok (.iconst 0, 1) := dk_3 (dk_at dksX11_readAtom_6 17 rfl rfl)
theorem dX11_readAtom_158 : decode cX11_readAtom 158 = .ok (.ireturn, 1) := dk_172 (dk_at dksX11_readAtom_6 18 rfl rfl)
theorem dX11_readAtom_159 : decode cX11_readAtom 159 = .ok (.aload_n 0, 1) := dk_42 (dk_at dksX11_readAtom_6 19 rfl rfl)
theorem dX11_readAtom_160 : decode cX11_readAtom 160 = .ok (.bipush 60, 2) := dk_16 60 (dk_at dksX11_readAtom_6 20 rfl rfl)
theorem dX11_readAtom_162 : decode cX11_readAtom 162 = .ok (.invokevirtual 176, 3) := dk_182 0 176 (dk_at dksX11_readAtom_7 0 rfl rfl)
theorem dX11_readAtom_165 : decode cX11_readAtom 165 = .ok (.istore_n 2, 1) := dk_61 (dk_at dksX11_readAtom_7 3 rfl rfl)
theorem dX11_readAtom_166 : decode cX11_readAtom 166 = .ok (.iload_n 2, 1) := dk_28 (dk_at dksX11_readAtom_7 4 rfl rfl)
theorem dX11_readAtom_167 : decode cX11_readAtom 167 = .ok (.ifCond .ne 12, 3) := dk_154 0 12 (dk_at dksX11_readAtom_7 5 rfl rfl)
theorem dX11_readAtom_170 : decode cX11_readAtom 170 = .ok (.aload_n 0, 1) := dk_42 (dk_at dksX11_readAtom_7 8 rfl rfl)
theorem dX11_readAtom_171 : decode cX11_readAtom 171 = .ok (.bipush 62, 2) := dk_16 62 (dk_at dksX11_readAtom_7 9 rfl rfl)
theorem dX11_readAtom_173 : decode cX11_readAtom 173 = .ok (.invokevirtual 176, 3) := dk_182 0 176 (dk_at dksX11_readAtom_7 11 rfl rfl)
theorem dX11_readAtom_176 : decode cX11_readAtom 176 = .ok (.ifCond .eq 10, 3) := dk_153 0 10 (dk_at dksX11_readAtom_7 14 rfl rfl)
theorem dX11_readAtom_179 : decode cX11_readAtom 179 = .ok (.aload_n 0, 1) := dk_42 (dk_at dksX11_readAtom_7 17 rfl rfl)
theorem dX11_readAtom_180 : decode cX11_readAtom 180 = .ok (.invokevirtual 198, 3) := dk_182 0 198 (dk_at dksX11_readAtom_7 18 rfl rfl)
theorem dX11_readAtom_183 : decode cX11_readAtom 183 = .ok (.ifCond .ne 5, 3) := dk_154 0 5 (dk_at dksX11_readAtom_7 21 rfl rfl)
theorem dX11_readAtom_186 : decode cX11_readAtom 186 = .ok (.iconst 0, 1) := dk_3 (dk_at dksX11_readAtom_8 0 rfl rfl)
theorem dX11_readAtom_187 : decode cX11_readAtom 187 = .ok (.ireturn, 1) := dk_172 (dk_at dksX11_readAtom_8 1 rfl rfl)
theorem dX11_readAtom_188 : decode cX11_readAtom 188 = .ok (.aload_n 0, 1) := dk_42 (dk_at dksX11_readAtom_8 2 rfl rfl)
theorem dX11_readAtom_189 : decode cX11_readAtom 189 = .ok (.iload_n 2, 1) := dk_28 (dk_at dksX11_readAtom_8 3 rfl rfl)
theorem dX11_readAtom_190 : decode cX11_readAtom 190 = .ok (.ifCond .eq 8, 3) := dk_153 0 8 (dk_at dksX11_readAtom_8 4 rfl rfl)
theorem dX11_readAtom_193 : decode cX11_readAtom 193 = .ok (.bipush 8, 2) := dk_16 8 (dk_at dksX11_readAtom_8 7 rfl rfl)
theorem dX11_readAtom_195 : decode cX11_readAtom 195 = .ok (.goto 5, 3) := dk_167 0 5 (dk_at dksX11_readAtom_8 9 rfl rfl)
theorem dX11_readAtom_198 : decode cX11_readAtom 198 = .ok (.bipush 9, 2) := dk_16 9 (dk_at dksX11_readAtom_8 12 rfl rfl)
theorem dX11_readAtom_200 : decode cX11_readAtom 200 = .ok (.iconst 0, 1) := dk_3 (dk_at dksX11_readAtom_8 14 rfl rfl)
theorem dX11_readAtom_201 : decode cX11_readAtom 201 = .ok (.invokevirtual 166, 3) := dk_182 0 166 (dk_at dksX11_readAtom_8 15 rfl rfl)
theorem dX11_readAtom_204 : decode cX11_readAtom 204 = .ok (.iconst 1, 1) := dk_4 (dk_at dksX11_readAtom_8 18 rfl rfl)
theorem dX11_readAtom_205 : decode cX11_readAtom 205 = .ok (.ireturn, 1) := dk_172 (dk_at dksX11_readAtom_8 19 rfl rfl)
def dkwX11_emits_1 : List UInt8 := [96, 28, 79, 42, 89, 180, 0, 153, 4, 96, 181, 0, 153, 177]
abbrev dktX11_emits_1 : List UInt8 := dkwX11_emits_1 ++ []
def dkwX11_emits_0 : List UInt8 := [17, 5, 45, 5, 42, 180, 0, 153, 104, 96, 62, 42, 180, 0, 13, 29, 27, 79, 42, 180, 0, 13, 29, 4]
abbrev dktX11_emits_0 : List UInt8 := dkwX11_emits_0 ++ dktX11_emits_1
theorem dksX11_emits_0 : cX11_emits.data.toList.drop 0 = dktX11_emits_0 := by decide +kernel
theorem dksX11_emits_1 : cX11_emits.data.toList.drop 24 = dktX11_emits_1 := dk_seg dksX11_emits_0 24 rfl rfl
theorem dX11_emits_0 : decode cX11_emits 0 = .ok (.sipush 1325, 3) := dk_17 5 45 (dk_at dksX11_emits_0 0 rfl rfl)
theorem dX11_emits_3 : decode cX11_emits 3 = .ok (.iconst 2, 1) := dk_5 (dk_at dksX11_emits_0 3 rfl rfl)
theorem dX11_emits_4 : decode cX11_emits 4 = .ok (.aload_n 0, 1) := dk_42 (dk_at dksX11_emits_0 4 rfl rfl)
theorem dX11_emits_5 : decode cX11_emits 5 = .ok (.getfield 153, 3) := dk_180 0 153 (dk_at dksX11_emits_0 5 rfl rfl)
theorem dX11_emits_8 : decode cX11_emits 8 = .ok (.imul, 1) := dk_104 (dk_at dksX11_emits_0 8 rfl rfl)
theorem dX11_emits_9 : decode cX11_emits 9 = .ok (.iadd, 1) := dk_96 (dk_at dksX11_emits_0 9 rfl rfl)
theorem dX11_emits_10 : decode cX11_emits 10 = .ok (.istore_n 3, 1) := dk_62 (dk_at dksX11_emits_0 10 rfl rfl)
theorem dX11_emits_11 : decode cX11_emits 11 = .ok (.aload_n 0, 1) := dk_42 (dk_at dksX11_emits_0 11 rfl rfl)
theorem dX11_emits_12 : decode cX11_emits 12 = .ok (.getfield 13, 3) := dk_180 0 13 (dk_at dksX11_emits_0 12 rfl rfl)
theorem dX11_emits_15 : decode cX11_emits 15 = .ok (.iload_n 3, 1) := dk_29 (dk_at dksX11_emits_0 15 rfl rfl)
theorem dX11_emits_16 : decode cX11_emits 16 = .ok (.iload_n 1, 1) := dk_27 (dk_at dksX11_emits_0 16 rfl rfl)
theorem dX11_emits_17 : decode cX11_emits 17 = .ok (.iastore, 1) := dk_79 (dk_at dksX11_emits_0 17 rfl rfl)
theorem dX11_emits_18 : decode cX11_emits 18 = .ok (.aload_n 0, 1) := dk_42 (dk_at dksX11_emits_0 18 rfl rfl)
theorem dX11_emits_19 : decode cX11_emits 19 = .ok (.getfield 13, 3) := dk_180 0 13 (dk_at dksX11_emits_0 19 rfl rfl)
theorem dX11_emits_22 : decode cX11_emits 22 = .ok (.iload_n 3, 1) := dk_29 (dk_at dksX11_emits_0 22 rfl rfl)
theorem dX11_emits_23 : decode cX11_emits 23 = .ok (.iconst 1, 1) := dk_4 (dk_at dksX11_emits_0 23 rfl rfl)
theorem dX11_emits_24 : decode cX11_emits 24 = .ok (.iadd, 1) := dk_96 (dk_at dksX11_emits_1 0 rfl rfl)
theorem dX11_emits_25 : decode cX11_emits 25 = .ok (.iload_n 2, 1) := dk_28 (dk_at dksX11_emits_1 1 rfl rfl)
theorem dX11_emits_26 : decode cX11_emits 26 = .ok (.iastore, 1) := dk_79 (dk_at dksX11_emits_1 2 rfl rfl)
theorem dX11_emits_27 : decode cX11_emits 27 = .ok (.aload_n 0, 1) := dk_42 (dk_at dksX11_emits_1 3 rfl rfl)
theorem dX11_emits_28 : decode cX11_emits 28 = .ok (.dup, 1) := dk_89 (dk_at dksX11_emits_1 4 rfl rfl)
theorem dX11_emits_29 : decode cX11_emits 29 = .ok (.getfield 153, 3) := dk_180 0 153 (dk_at dksX11_emits_1 5 rfl rfl)
theorem dX11_emits_32 : decode cX11_emits 32 = .ok (.iconst 1, 1) := dk_4 (dk_at dksX11_emits_1 8 rfl rfl)
theorem dX11_emits_33 : decode cX11_emits 33 = .ok (.iadd, 1) := dk_96 (dk_at dksX11_emits_1 9 rfl rfl)
theorem dX11_emits_34 : decode cX11_emits 34 = .ok (.putfield 153, 3) := dk_181 0 153 (dk_at dksX11_emits_1 10 rfl rfl)
theorem dX11_emits_37 : decode cX11_emits 37 = .ok (.return_, 1) := dk_177 (dk_at dksX11_emits_1 13 rfl rfl)
def dkwX11_readSum_1 : List UInt8 := [154, 0, 5, 3, 172, 42, 16, 7, 3, 182, 0, 166, 167, 255, 231, 4, 172]
abbrev dktX11_readSum_1 : List UInt8 := dkwX11_readSum_1 ++ []
def dkwX11_readSum_0 : List UInt8 := [42, 182, 0, 172, 154, 0, 5, 3, 172, 42, 16, 43, 182, 0, 176, 153, 0, 22, 42, 182, 0, 172]
abbrev dktX11_readSum_0 : List UInt8 := dkwX11_readSum_0 ++ dktX11_readSum_1
theorem dksX11_readSum_0 : cX11_readSum.data.toList.drop 0 = dktX11_readSum_0 := by decide +kernel
theorem dksX11_readSum_1 : cX11_readSum.data.toList.drop 22 = dktX11_readSum_1 := dk_seg dksX11_readSum_0 22 rfl rfl
theorem dX11_readSum_0 : decode cX11_readSum 0 = .ok (.aload_n 0, 1) := dk_42 (dk_at dksX11_readSum_0 0 rfl rfl)
theorem dX11_readSum_1 : decode cX11_readSum 1 = .ok (.invokevirtual 172, 3) := dk_182 0 172 (dk_at dksX11_readSum_0 1 rfl rfl)
theorem dX11_readSum_4 : decode cX11_readSum 4 = .ok (.ifCond .ne 5, 3) := dk_154 0 5 (dk_at dksX11_readSum_0 4 rfl rfl)
theorem dX11_readSum_7 : decode cX11_readSum 7 = .ok (.iconst 0, 1) := dk_3 (dk_at dksX11_readSum_0 7 rfl rfl)
theorem dX11_readSum_8 : decode cX11_readSum 8 = .ok (.ireturn, 1) := dk_172 (dk_at dksX11_readSum_0 8 rfl rfl)
theorem dX11_readSum_9 : decode cX11_readSum 9 = .ok (.aload_n 0, 1) := dk_42 (dk_at dksX11_readSum_0 9 rfl rfl)
theorem dX11_readSum_10 : decode cX11_readSum 10 = .ok (.bipush 43, 2) := dk_16 43 (dk_at dksX11_readSum_0 10 rfl rfl)
theorem dX11_readSum_12 : decode cX11_readSum 12 = .ok (.invokevirtual 176, 3) := dk_182 0 176 (dk_at dksX11_readSum_0 12 rfl rfl)
theorem dX11_readSum_15 : decode cX11_readSum 15 = .ok (.ifCond .eq 22, 3) := dk_153 0 22 (dk_at dksX11_readSum_0 15 rfl rfl)
theorem dX11_readSum_18 : decode cX11_readSum 18 = .ok (.aload_n 0, 1) := dk_42 (dk_at dksX11_readSum_0 18 rfl rfl)
theorem dX11_readSum_19 : decode cX11_readSum 19 = .ok (.invokevirtual 172, 3) := dk_182 0 172 (dk_at dksX11_readSum_0 19 rfl rfl)
theorem dX11_readSum_22 : decode cX11_readSum 22 = .ok (.ifCond .ne 5, 3) := dk_154 0 5 (dk_at dksX11_readSum_1 0 rfl rfl)
theorem dX11_readSum_25 : decode cX11_readSum 25 = .ok (.iconst 0, 1) := dk_3 (dk_at dksX11_readSum_1 3 rfl rfl)
theorem dX11_readSum_26 : decode cX11_readSum 26 = .ok (.ireturn, 1) := dk_172 (dk_at dksX11_readSum_1 4 rfl rfl)
theorem dX11_readSum_27 : decode cX11_readSum 27 = .ok (.aload_n 0, 1) := dk_42 (dk_at dksX11_readSum_1 5 rfl rfl)
theorem dX11_readSum_28 : decode cX11_readSum 28 = .ok (.bipush 7, 2) := dk_16 7 (dk_at dksX11_readSum_1 6 rfl rfl)
theorem dX11_readSum_30 : decode cX11_readSum 30 = .ok (.iconst 0, 1) := dk_3 (dk_at dksX11_readSum_1 8 rfl rfl)
theorem dX11_readSum_31 : decode cX11_readSum 31 = .ok (.invokevirtual 166, 3) := dk_182 0 166 (dk_at dksX11_readSum_1 9 rfl rfl)
theorem dX11_readSum_34 : decode cX11_readSum 34 = .ok (.goto (-25), 3) := dk_167 255 231 (dk_at dksX11_readSum_1 12 rfl rfl)
theorem dX11_readSum_37 : decode cX11_readSum 37 = .ok (.iconst 1, 1) := dk_4 (dk_at dksX11_readSum_1 15 rfl rfl)
theorem dX11_readSum_38 : decode cX11_readSum 38 = .ok (.ireturn, 1) := dk_172 (dk_at dksX11_readSum_1 16 rfl rfl)
def dkwX11_readPart_2 : List UInt8 := [155, 0, 7, 4, 167, 0, 4, 3, 172]
abbrev dktX11_readPart_2 : List UInt8 := dkwX11_readPart_2 ++ []
def dkwX11_readPart_1 : List UInt8 := [3, 182, 0, 166, 167, 0, 19, 42, 3, 17, 3, 231, 182, 0, 170, 60, 42, 16, 6, 27, 182, 0, 166, 27]
abbrev dktX11_readPart_1 : List UInt8 := dkwX11_readPart_1 ++ dktX11_readPart_2
def dkwX11_readPart_0 : List UInt8 := [42, 182, 0, 146, 2, 60, 42, 180, 0, 121, 42, 180, 0, 130, 164, 0, 17, 42, 182, 0, 163, 60, 42, 27]
abbrev dktX11_readPart_0 : List UInt8 := dkwX11_readPart_0 ++ dktX11_readPart_1
theorem dksX11_readPart_0 : cX11_readPart.data.toList.drop 0 = dktX11_readPart_0 := by decide +kernel
theorem dksX11_readPart_1 : cX11_readPart.data.toList.drop 24 = dktX11_readPart_1 := dk_seg dksX11_readPart_0 24 rfl rfl
theorem dksX11_readPart_2 : cX11_readPart.data.toList.drop 48 = dktX11_readPart_2 := dk_seg dksX11_readPart_1 24 rfl rfl
theorem dX11_readPart_0 : decode cX11_readPart 0 = .ok (.aload_n 0, 1) := dk_42 (dk_at dksX11_readPart_0 0 rfl rfl)
theorem dX11_readPart_1 : decode cX11_readPart 1 = .ok (.invokevirtual 146, 3) := dk_182 0 146 (dk_at dksX11_readPart_0 1 rfl rfl)
theorem dX11_readPart_4 : decode cX11_readPart 4 = .ok (.iconst (-1), 1) := dk_2 (dk_at dksX11_readPart_0 4 rfl rfl)
theorem dX11_readPart_5 : decode cX11_readPart 5 = .ok (.istore_n 1, 1) := dk_60 (dk_at dksX11_readPart_0 5 rfl rfl)
theorem dX11_readPart_6 : decode cX11_readPart 6 = .ok (.aload_n 0, 1) := dk_42 (dk_at dksX11_readPart_0 6 rfl rfl)
theorem dX11_readPart_7 : decode cX11_readPart 7 = .ok (.getfield 121, 3) := dk_180 0 121 (dk_at dksX11_readPart_0 7 rfl rfl)
theorem dX11_readPart_10 : decode cX11_readPart 10 = .ok (.aload_n 0, 1) := dk_42 (dk_at dksX11_readPart_0 10 rfl rfl)
theorem dX11_readPart_11 : decode cX11_readPart 11 = .ok (.getfield 130, 3) := dk_180 0 130 (dk_at dksX11_readPart_0 11 rfl rfl)
theorem dX11_readPart_14 : decode cX11_readPart 14 = .ok (.if_icmp .le 17, 3) := dk_164 0 17 (dk_at dksX11_readPart_0 14 rfl rfl)
theorem dX11_readPart_17 : decode cX11_readPart 17 = .ok (.aload_n 0, 1) := dk_42 (dk_at dksX11_readPart_0 17 rfl rfl)
theorem dX11_readPart_18 : decode cX11_readPart 18 = .ok (.invokevirtual 163, 3) := dk_182 0 163 (dk_at dksX11_readPart_0 18 rfl rfl)
theorem dX11_readPart_21 : decode cX11_readPart 21 = .ok (.istore_n 1, 1) := dk_60 (dk_at dksX11_readPart_0 21 rfl rfl)
theorem dX11_readPart_22 : decode cX11_readPart 22 = .ok (.aload_n 0, 1) := dk_42 (dk_at dksX11_readPart_0 22 rfl rfl)
theorem dX11_readPart_23 : decode cX11_readPart 23 = .ok (.iload_n 1, 1) := dk_27 (dk_at dksX11_readPart_0 23 rfl rfl)
theorem dX11_readPart_24 : decode cX11_readPart 24 = .ok (.iconst 0, 1) := dk_3 (dk_at dksX11_readPart_1 0 rfl rfl)
theorem dX11_readPart_25 : decode cX11_readPart 25 = .ok (.invokevirtual 166, 3) := dk_182 0 166 (dk_at dksX11_readPart_1 1 rfl rfl)
theorem dX11_readPart_28 : decode cX11_readPart 28 = .ok (.goto 19, 3) := dk_167 0 19 (dk_at dksX11_readPart_1 4 rfl rfl)
theorem dX11_readPart_31 : decode cX11_readPart 31 = .ok (.aload_n 0, 1) := dk_42 (dk_at dksX11_readPart_1 7 rfl rfl)
theorem dX11_readPart_32 : decode cX11_readPart 32 = .ok (.iconst 0, 1) := dk_3 (dk_at dksX11_readPart_1 8 rfl rfl)
theorem dX11_readPart_33 : decode cX11_readPart 33 = .ok (.sipush 999, 3) := dk_17 3 231 (dk_at dksX11_readPart_1 9 rfl rfl)
theorem dX11_readPart_36 : decode cX11_readPart 36 = .ok (.invokevirtual 170, 3) := dk_182 0 170 (dk_at dksX11_readPart_1 12 rfl rfl)
theorem dX11_readPart_39 : decode cX11_readPart 39 = .ok (.istore_n 1, 1) := dk_60 (dk_at dksX11_readPart_1 15 rfl rfl)
theorem dX11_readPart_40 : decode cX11_readPart 40 = .ok (.aload_n 0, 1) := dk_42 (dk_at dksX11_readPart_1 16 rfl rfl)
theorem dX11_readPart_41 : decode cX11_readPart 41 = .ok (.bipush 6, 2) := dk_16 6 (dk_at dksX11_readPart_1 17 rfl rfl)
theorem dX11_readPart_43 : decode cX11_readPart 43 = .ok (.iload_n 1, 1) := dk_27 (dk_at dksX11_readPart_1 19 rfl rfl)
theorem dX11_readPart_44 : decode cX11_readPart 44 = .ok (.invokevirtual 166, 3) := dk_182 0 166 (dk_at dksX11_readPart_1 20 rfl rfl)
theorem dX11_readPart_47 : decode cX11_readPart 47 = .ok (.iload_n 1, 1) := dk_27 (dk_at dksX11_readPart_1 23 rfl rfl)
theorem dX11_readPart_48 : decode cX11_readPart 48 = .ok (.ifCond .lt 7, 3) := dk_155 0 7 (dk_at dksX11_readPart_2 0 rfl rfl)
theorem dX11_readPart_51 : decode cX11_readPart 51 = .ok (.iconst 1, 1) := dk_4 (dk_at dksX11_readPart_2 3 rfl rfl)
theorem dX11_readPart_52 : decode cX11_readPart 52 = .ok (.goto 4, 3) := dk_167 0 4 (dk_at dksX11_readPart_2 4 rfl rfl)
theorem dX11_readPart_55 : decode cX11_readPart 55 = .ok (.iconst 0, 1) := dk_3 (dk_at dksX11_readPart_2 7 rfl rfl)
theorem dX11_readPart_56 : decode cX11_readPart 56 = .ok (.ireturn, 1) := dk_172 (dk_at dksX11_readPart_2 8 rfl rfl)
def dkwX11_in_0 : List UInt8 := [26, 27, 161, 0, 12, 26, 28, 163, 0, 7, 4, 167, 0, 4, 3, 172]
abbrev dktX11_in_0 : List UInt8 := dkwX11_in_0 ++ []
theorem dksX11_in_0 : cX11_in.data.toList.drop 0 = dktX11_in_0 := by decide +kernel
theorem dX11_in_0 : decode cX11_in 0 = .ok (.iload_n 0, 1) := dk_26 (dk_at dksX11_in_0 0 rfl rfl)
theorem dX11_in_1 : decode cX11_in 1 = .ok (.iload_n 1, 1) := dk_27 (dk_at dksX11_in_0 1 rfl rfl)
theorem dX11_in_2 : decode cX11_in 2 = .ok (.if_icmp .lt 12, 3) := dk_161 0 12 (dk_at dksX11_in_0 2 rfl rfl)
theorem dX11_in_5 : decode cX11_in 5 = .ok (.iload_n 0, 1) := dk_26 (dk_at dksX11_in_0 5 rfl rfl)
theorem dX11_in_6 : decode cX11_in 6 = .ok (.iload_n 2, 1) := dk_28 (dk_at dksX11_in_0 6 rfl rfl)
theorem dX11_in_7 : decode cX11_in 7 = .ok (.if_icmp .gt 7, 3) := dk_163 0 7 (dk_at dksX11_in_0 7 rfl rfl)
theorem dX11_in_10 : decode cX11_in 10 = .ok (.iconst 1, 1) := dk_4 (dk_at dksX11_in_0 10 rfl rfl)
theorem dX11_in_11 : decode cX11_in 11 = .ok (.goto 4, 3) := dk_167 0 4 (dk_at dksX11_in_0 11 rfl rfl)
theorem dX11_in_14 : decode cX11_in 14 = .ok (.iconst 0, 1) := dk_3 (dk_at dksX11_in_0 14 rfl rfl)
theorem dX11_in_15 : decode cX11_in 15 = .ok (.ireturn, 1) := dk_172 (dk_at dksX11_in_0 15 rfl rfl)
def dkwX11_throwsIf_0 : List UInt8 := [27, 153, 0, 8, 42, 28, 181, 0, 3, 27, 172]
abbrev dktX11_throwsIf_0 : List UInt8 := dkwX11_throwsIf_0 ++ []
theorem dksX11_throwsIf_0 : cX11_throwsIf.data.toList.drop 0 = dktX11_throwsIf_0 := by decide +kernel
theorem dX11_throwsIf_0 : decode cX11_throwsIf 0 = .ok (.iload_n 1, 1) := dk_27 (dk_at dksX11_throwsIf_0 0 rfl rfl)
theorem dX11_throwsIf_1 : decode cX11_throwsIf 1 = .ok (.ifCond .eq 8, 3) := dk_153 0 8 (dk_at dksX11_throwsIf_0 1 rfl rfl)
theorem dX11_throwsIf_4 : decode cX11_throwsIf 4 = .ok (.aload_n 0, 1) := dk_42 (dk_at dksX11_throwsIf_0 4 rfl rfl)
theorem dX11_throwsIf_5 : decode cX11_throwsIf 5 = .ok (.iload_n 2, 1) := dk_28 (dk_at dksX11_throwsIf_0 5 rfl rfl)
theorem dX11_throwsIf_6 : decode cX11_throwsIf 6 = .ok (.putfield 3, 3) := dk_181 0 3 (dk_at dksX11_throwsIf_0 6 rfl rfl)
theorem dX11_throwsIf_9 : decode cX11_throwsIf 9 = .ok (.iload_n 1, 1) := dk_27 (dk_at dksX11_throwsIf_0 9 rfl rfl)
theorem dX11_throwsIf_10 : decode cX11_throwsIf 10 = .ok (.ireturn, 1) := dk_172 (dk_at dksX11_throwsIf_0 10 rfl rfl)
def dkwX11_measure_4 : List UInt8 := [4, 79, 27, 172]
abbrev dktX11_measure_4 : List UInt8 := dkwX11_measure_4 ++ []
def dkwX11_measure_3 : List UInt8 := [28, 96, 42, 180, 0, 13, 17, 5, 4, 28, 96, 46, 79, 132, 2, 1, 167, 255, 226, 42, 180, 0, 13, 7]
abbrev dktX11_measure_3 : List UInt8 := dkwX11_measure_3 ++ dktX11_measure_4
def dkwX11_measure_2 : List UInt8 := [180, 0, 13, 17, 5, 4, 27, 79, 3, 61, 28, 17, 3, 73, 162, 0, 29, 42, 180, 0, 13, 17, 1, 187]
abbrev dktX11_measure_2 : List UInt8 := dkwX11_measure_2 ++ dktX11_measure_3
def dkwX11_measure_1 : List UInt8 := [181, 0, 24, 42, 27, 156, 0, 7, 4, 167, 0, 4, 3, 4, 182, 0, 235, 153, 0, 5, 3, 172, 42]
abbrev dktX11_measure_1 : List UInt8 := dkwX11_measure_1 ++ dktX11_measure_2
def dkwX11_measure_0 : List UInt8 := [42, 3, 181, 0, 3, 42, 3, 182, 0, 231, 60, 42, 27, 156, 0, 10, 42, 180, 0, 130, 167, 0, 4, 2]
abbrev dktX11_measure_0 : List UInt8 := dkwX11_measure_0 ++ dktX11_measure_1
theorem dksX11_measure_0 : cX11_measure.data.toList.drop 0 = dktX11_measure_0 := by decide +kernel
theorem dksX11_measure_1 : cX11_measure.data.toList.drop 24 = dktX11_measure_1 := dk_seg dksX11_measure_0 24 rfl rfl
theorem dksX11_measure_2 : cX11_measure.data.toList.drop 47 = dktX11_measure_2 := dk_seg dksX11_measure_1 23 rfl rfl
theorem dksX11_measure_3 : cX11_measure.data.toList.drop 71 = dktX11_measure_3 := dk_seg dksX11_measure_2 24 rfl rfl
theorem dksX11_measure_4 : cX11_measure.data.toList.drop 95 = dktX11_measure_4 := dk_seg dksX11_measure_3 24 rfl rfl
theorem dX11_measure_0 : decode cX11_measure 0 = .ok (.aload_n 0, 1) := dk_42 (dk_at dksX11_measure_0 0 rfl rfl)
theorem dX11_measure_1 : decode cX11_measure 1 = .ok (.iconst 0, 1) := dk_3 (dk_at dksX11_measure_0 1 rfl rfl)
theorem dX11_measure_2 : decode cX11_measure 2 = .ok (.putfield 3, 3) := dk_181 0 3 (dk_at dksX11_measure_0 2 rfl rfl)
theorem dX11_measure_5 : decode cX11_measure 5 = .ok (.aload_n 0, 1) := dk_42 (dk_at dksX11_measure_0 5 rfl rfl)
theorem dX11_measure_6 : decode cX11_measure 6 = .ok (.iconst 0, 1) := dk_3 (dk_at dksX11_measure_0 6 rfl rfl)
theorem dX11_measure_7 : decode cX11_measure 7 = .ok (.invokevirtual 231, 3) := dk_182 0 231 (dk_at dksX11_measure_0 7 rfl rfl)
theorem dX11_measure_10 : decode cX11_measure 10 = .ok (.istore_n 1, 1) := dk_60 (dk_at dksX11_measure_0 10 rfl rfl)
theorem dX11_measure_11 : decode cX11_measure 11 = .ok (.aload_n 0, 1) := dk_42 (dk_at dksX11_measure_0 11 rfl rfl)
theorem dX11_measure_12 : decode cX11_measure 12 = .ok (.iload_n 1, 1) := dk_27 (dk_at dksX11_measure_0 12 rfl rfl)
theorem dX11_measure_13 : decode cX11_measure 13 = .ok (.ifCond .ge 10, 3) := dk_156 0 10 (dk_at dksX11_measure_0 13 rfl rfl)
theorem dX11_measure_16 : decode cX11_measure 16 = .ok (.aload_n 0, 1) := dk_42 (dk_at dksX11_measure_0 16 rfl rfl)
theorem dX11_measure_17 : decode cX11_measure 17 = .ok (.getfield 130, 3) := dk_180 0 130 (dk_at dksX11_measure_0 17 rfl rfl)
theorem dX11_measure_20 : decode cX11_measure 20 = .ok (.goto 4, 3) := dk_167 0 4 (dk_at dksX11_measure_0 20 rfl rfl)
theorem dX11_measure_23 : decode cX11_measure 23 = .ok (.iconst (-1), 1) := dk_2 (dk_at dksX11_measure_0 23 rfl rfl)
theorem dX11_measure_24 : decode cX11_measure 24 = .ok (.putfield 24, 3) := dk_181 0 24 (dk_at dksX11_measure_1 0 rfl rfl)
theorem dX11_measure_27 : decode cX11_measure 27 = .ok (.aload_n 0, 1) := dk_42 (dk_at dksX11_measure_1 3 rfl rfl)
theorem dX11_measure_28 : decode cX11_measure 28 = .ok (.iload_n 1, 1) := dk_27 (dk_at dksX11_measure_1 4 rfl rfl)
theorem dX11_measure_29 : decode cX11_measure 29 = .ok (.ifCond .ge 7, 3) := dk_156 0 7 (dk_at dksX11_measure_1 5 rfl rfl)
theorem dX11_measure_32 : decode cX11_measure 32 = .ok (.iconst 1, 1) := dk_4 (dk_at dksX11_measure_1 8 rfl rfl)
theorem dX11_measure_33 : decode cX11_measure 33 = .ok (.goto 4, 3) := dk_167 0 4 (dk_at dksX11_measure_1 9 rfl rfl)
theorem dX11_measure_36 : decode cX11_measure 36 = .ok (.iconst 0, 1) := dk_3 (dk_at dksX11_measure_1 12 rfl rfl)
theorem dX11_measure_37 : decode cX11_measure 37 = .ok (.iconst 1, 1) := dk_4 (dk_at dksX11_measure_1 13 rfl rfl)
theorem dX11_measure_38 : decode cX11_measure 38 = .ok (.invokevirtual 235, 3) := dk_182 0 235 (dk_at dksX11_measure_1 14 rfl rfl)
theorem dX11_measure_41 : decode cX11_measure 41 = .ok (.ifCond .eq 5, 3) := dk_153 0 5 (dk_at dksX11_measure_1 17 rfl rfl)
theorem dX11_measure_44 : decode cX11_measure 44 = .ok (.iconst 0, 1) := dk_3 (dk_at dksX11_measure_1 20 rfl rfl)
theorem dX11_measure_45 : decode cX11_measure 45 = .ok (.ireturn, 1) := dk_172 (dk_at dksX11_measure_1 21 rfl rfl)
theorem dX11_measure_46 : decode cX11_measure 46 = .ok (.aload_n 0, 1) := dk_42 (dk_at dksX11_measure_1 22 rfl rfl)
theorem dX11_measure_47 : decode cX11_measure 47 = .ok (.getfield 13, 3) := dk_180 0 13 (dk_at dksX11_measure_2 0 rfl rfl)
theorem dX11_measure_50 : decode cX11_measure 50 = .ok (.sipush 1284, 3) := dk_17 5 4 (dk_at dksX11_measure_2 3 rfl rfl)
theorem dX11_measure_53 : decode cX11_measure 53 = .ok (.iload_n 1, 1) := dk_27 (dk_at dksX11_measure_2 6 rfl rfl)
theorem dX11_measure_54 : decode cX11_measure 54 = .ok (.iastore, 1) := dk_79 (dk_at dksX11_measure_2 7 rfl rfl)
theorem dX11_measure_55 : decode cX11_measure 55 = .ok (.iconst 0, 1) := dk_3 (dk_at dksX11_measure_2 8 rfl rfl)
theorem dX11_measure_56 : decode cX11_measure 56 = .ok (.istore_n 2, 1) := dk_61 (dk_at dksX11_measure_2 9 rfl rfl)
theorem dX11_measure_57 : decode cX11_measure 57 = .ok (.iload_n 2, 1) := dk_28 (dk_at dksX11_measure_2 10 rfl rfl)
theorem dX11_measure_58 : decode cX11_measure 58 = .ok (.sipush 841, 3) := dk_17 3 73 (dk_at dksX11_measure_2 11 rfl rfl)
theorem dX11_measure_61 : decode cX11_measure 61 = .ok (.if_icmp .ge 29, 3) := dk_162 0 29 (dk_at dksX11_measure_2 14 rfl rfl)
theorem dX11_measure_64 : decode cX11_measure 64 = .ok (.aload_n 0, 1) := dk_42 (dk_at dksX11_measure_2 17 rfl rfl)
theorem dX11_measure_65 : decode cX11_measure 65 = .ok (.getfield 13, 3) := dk_180 0 13 (dk_at dksX11_measure_2 18 rfl rfl)
theorem dX11_measure_68 : decode cX11_measure 68 = .ok (.sipush 443, 3) := dk_17 1 187 (dk_at dksX11_measure_2 21 rfl rfl)
theorem dX11_measure_71 : decode cX11_measure 71 = .ok (.iload_n 2, 1) := dk_28 (dk_at dksX11_measure_3 0 rfl rfl)
theorem dX11_measure_72 : decode cX11_measure 72 = .ok (.iadd, 1) := dk_96 (dk_at dksX11_measure_3 1 rfl rfl)
theorem dX11_measure_73 : decode cX11_measure 73 = .ok (.aload_n 0, 1) := dk_42 (dk_at dksX11_measure_3 2 rfl rfl)
theorem dX11_measure_74 : decode cX11_measure 74 = .ok (.getfield 13, 3) := dk_180 0 13 (dk_at dksX11_measure_3 3 rfl rfl)
theorem dX11_measure_77 : decode cX11_measure 77 = .ok (.sipush 1284, 3) := dk_17 5 4 (dk_at dksX11_measure_3 6 rfl rfl)
theorem dX11_measure_80 : decode cX11_measure 80 = .ok (.iload_n 2, 1) := dk_28 (dk_at dksX11_measure_3 9 rfl rfl)
theorem dX11_measure_81 : decode cX11_measure 81 = .ok (.iadd, 1) := dk_96 (dk_at dksX11_measure_3 10 rfl rfl)
theorem dX11_measure_82 : decode cX11_measure 82 = .ok (.iaload, 1) := dk_46 (dk_at dksX11_measure_3 11 rfl rfl)
theorem dX11_measure_83 : decode cX11_measure 83 = .ok (.iastore, 1) := dk_79 (dk_at dksX11_measure_3 12 rfl rfl)
theorem dX11_measure_84 : decode cX11_measure 84 = .ok (.iinc 2 1, 3) := dk_132 2 1 (dk_at dksX11_measure_3 13 rfl rfl)
theorem dX11_measure_87 : decode cX11_measure 87 = .ok (.goto (-30), 3) := dk_167 255 226 (dk_at dksX11_measure_3 16 rfl rfl)
theorem dX11_measure_90 : decode cX11_measure 90 = .ok (.aload_n 0, 1) := dk_42 (dk_at dksX11_measure_3 19 rfl rfl)
theorem dX11_measure_91 : decode cX11_measure 91 = .ok (.getfield 13, 3) := dk_180 0 13 (dk_at dksX11_measure_3 20 rfl rfl)
theorem dX11_measure_94 : decode cX11_measure 94 = .ok (.iconst 4, 1) := dk_7 (dk_at dksX11_measure_3 23 rfl rfl)
theorem dX11_measure_95 : decode cX11_measure 95 = .ok (.iconst 1, 1) := dk_4 (dk_at dksX11_measure_4 0 rfl rfl)
theorem dX11_measure_96 : decode cX11_measure 96 = .ok (.iastore, 1) := dk_79 (dk_at dksX11_measure_4 1 rfl rfl)
theorem dX11_measure_97 : decode cX11_measure 97 = .ok (.iload_n 1, 1) := dk_27 (dk_at dksX11_measure_4 2 rfl rfl)
theorem dX11_measure_98 : decode cX11_measure 98 = .ok (.ireturn, 1) := dk_172 (dk_at dksX11_measure_4 3 rfl rfl)
def dkwX11_put_3 : List UInt8 := [16, 13, 27, 96, 28, 29, 184, 0, 248, 79, 177]
abbrev dktX11_put_3 : List UInt8 := dkwX11_put_3 ++ []
def dkwX11_put_2 : List UInt8 := [184, 0, 106, 154, 0, 7, 4, 167, 0, 4, 3, 5, 182, 0, 235, 153, 0, 4, 177, 42, 180, 0, 13]
abbrev dktX11_put_2 : List UInt8 := dkwX11_put_2 ++ dktX11_put_3
def dkwX11_put_1 : List UInt8 := [153, 0, 7, 4, 167, 0, 4, 3, 4, 182, 0, 235, 154, 0, 30, 42, 28, 2, 159, 0, 16, 29, 3, 4]
abbrev dktX11_put_1 : List UInt8 := dkwX11_put_1 ++ dktX11_put_2
def dkwX11_put_0 : List UInt8 := [42, 3, 181, 0, 3, 42, 27, 184, 0, 242, 154, 0, 16, 28, 2, 159, 0, 15, 42, 28, 182, 0, 245]
abbrev dktX11_put_0 : List UInt8 := dkwX11_put_0 ++ dktX11_put_1
theorem dksX11_put_0 : cX11_put.data.toList.drop 0 = dktX11_put_0 := by decide +kernel
theorem dksX11_put_1 : cX11_put.data.toList.drop 23 = dktX11_put_1 := dk_seg dksX11_put_0 23 rfl rfl
theorem dksX11_put_2 : cX11_put.data.toList.drop 47 = dktX11_put_2 := dk_seg dksX11_put_1 24 rfl rfl
theorem dksX11_put_3 : cX11_put.data.toList.drop 70 = dktX11_put_3 := dk_seg dksX11_put_2 23 rfl rfl
theorem dX11_put_0 : decode cX11_put 0 = .ok (.aload_n 0, 1) := dk_42 (dk_at dksX11_put_0 0 rfl rfl)
theorem dX11_put_1 : decode cX11_put 1 = .ok (.iconst 0, 1) := dk_3 (dk_at dksX11_put_0 1 rfl rfl)
theorem dX11_put_2 : decode cX11_put 2 = .ok (.putfield 3, 3) := dk_181 0 3 (dk_at dksX11_put_0 2 rfl rfl)
theorem dX11_put_5 : decode cX11_put 5 = .ok (.aload_n 0, 1) := dk_42 (dk_at dksX11_put_0 5 rfl rfl)
theorem dX11_put_6 : decode cX11_put 6 = .ok (.iload_n 1, 1) := dk_27 (dk_at dksX11_put_0 6 rfl rfl)
theorem dX11_put_7 : decode cX11_put 7 = .ok (.invokestatic 242, 3) := dk_184 0 242 (dk_at dksX11_put_0 7 rfl rfl)
theorem dX11_put_10 : decode cX11_put 10 = .ok (.ifCond .ne 16, 3) := dk_154 0 16 (dk_at dksX11_put_0 10 rfl rfl)
theorem dX11_put_13 : decode cX11_put 13 = .ok (.iload_n 2, 1) := dk_28 (dk_at dksX11_put_0 13 rfl rfl)
theorem dX11_put_14 : decode cX11_put 14 = .ok (.iconst (-1), 1) := dk_2 (dk_at dksX11_put_0 14 rfl rfl)
theorem dX11_put_15 : decode cX11_put 15 = .ok (.if_icmp .eq 15, 3) := dk_159 0 15 (dk_at dksX11_put_0 15 rfl rfl)
theorem dX11_put_18 : decode cX11_put 18 = .ok (.aload_n 0, 1) := dk_42 (dk_at dksX11_put_0 18 rfl rfl)
theorem dX11_put_19 : decode cX11_put 19 = .ok (.iload_n 2, 1) := dk_28 (dk_at dksX11_put_0 19 rfl rfl)
theorem dX11_put_20 : decode cX11_put 20 = .ok (.invokevirtual 245, 3) := dk_182 0 245 (dk_at dksX11_put_0 20 rfl rfl)
theorem dX11_put_23 : decode cX11_put 23 = .ok (.ifCond .eq 7, 3) := dk_153 0 7 (dk_at dksX11_put_1 0 rfl rfl)
theorem dX11_put_26 : decode cX11_put 26 = .ok (.iconst 1, 1) := dk_4 (dk_at dksX11_put_1 3 rfl rfl)
theorem dX11_put_27 : decode cX11_put 27 = .ok (.goto 4, 3) := dk_167 0 4 (dk_at dksX11_put_1 4 rfl rfl)
theorem dX11_put_30 : decode cX11_put 30 = .ok (.iconst 0, 1) := dk_3 (dk_at dksX11_put_1 7 rfl rfl)
theorem dX11_put_31 : decode cX11_put 31 = .ok (.iconst 1, 1) := dk_4 (dk_at dksX11_put_1 8 rfl rfl)
theorem dX11_put_32 : decode cX11_put 32 = .ok (.invokevirtual 235, 3) := dk_182 0 235 (dk_at dksX11_put_1 9 rfl rfl)
theorem dX11_put_35 : decode cX11_put 35 = .ok (.ifCond .ne 30, 3) := dk_154 0 30 (dk_at dksX11_put_1 12 rfl rfl)
theorem dX11_put_38 : decode cX11_put 38 = .ok (.aload_n 0, 1) := dk_42 (dk_at dksX11_put_1 15 rfl rfl)
theorem dX11_put_39 : decode cX11_put 39 = .ok (.iload_n 2, 1) := dk_28 (dk_at dksX11_put_1 16 rfl rfl)
theorem dX11_put_40 : decode cX11_put 40 = .ok (.iconst (-1), 1) := dk_2 (dk_at dksX11_put_1 17 rfl rfl)
theorem dX11_put_41 : decode cX11_put 41 = .ok (.if_icmp .eq 16, 3) := dk_159 0 16 (dk_at dksX11_put_1 18 rfl rfl)
theorem dX11_put_44 : decode cX11_put 44 = .ok (.iload_n 3, 1) := dk_29 (dk_at dksX11_put_1 21 rfl rfl)
theorem dX11_put_45 : decode cX11_put 45 = .ok (.iconst 0, 1) := dk_3 (dk_at dksX11_put_1 22 rfl rfl)
theorem dX11_put_46 : decode cX11_put 46 = .ok (.iconst 1, 1) := dk_4 (dk_at dksX11_put_1 23 rfl rfl)
theorem dX11_put_47 : decode cX11_put 47 = .ok (.invokestatic 106, 3) := dk_184 0 106 (dk_at dksX11_put_2 0 rfl rfl)
theorem dX11_put_50 : decode cX11_put 50 = .ok (.ifCond .ne 7, 3) := dk_154 0 7 (dk_at dksX11_put_2 3 rfl rfl)
theorem dX11_put_53 : decode cX11_put 53 = .ok (.iconst 1, 1) := dk_4 (dk_at dksX11_put_2 6 rfl rfl)
theorem dX11_put_54 : decode cX11_put 54 = .ok (.goto 4, 3) := dk_167 0 4 (dk_at dksX11_put_2 7 rfl rfl)
theorem dX11_put_57 : decode cX11_put 57 = .ok (.iconst 0, 1) := dk_3 (dk_at dksX11_put_2 10 rfl rfl)
theorem dX11_put_58 : decode cX11_put 58 = .ok (.iconst 2, 1) := dk_5 (dk_at dksX11_put_2 11 rfl rfl)
theorem dX11_put_59 : decode cX11_put 59 = .ok (.invokevirtual 235, 3) := dk_182 0 235 (dk_at dksX11_put_2 12 rfl rfl)
theorem dX11_put_62 : decode cX11_put 62 = .ok (.ifCond .eq 4, 3) := dk_153 0 4 (dk_at dksX11_put_2 15 rfl rfl)
theorem dX11_put_65 : decode cX11_put 65 = .ok (.return_, 1) := dk_177 (dk_at dksX11_put_2 18 rfl rfl)
theorem dX11_put_66 : decode cX11_put 66 = .ok (.aload_n 0, 1) := dk_42 (dk_at dksX11_put_2 19 rfl rfl)
theorem dX11_put_67 : decode cX11_put 67 = .ok (.getfield 13, 3) := dk_180 0 13 (dk_at dksX11_put_2 20 rfl rfl)
theorem dX11_put_70 : decode cX11_put 70 = .ok (.bipush 13, 2) := dk_16 13 (dk_at dksX11_put_3 0 rfl rfl)
theorem dX11_put_72 : decode cX11_put 72 = .ok (.iload_n 1, 1) := dk_27 (dk_at dksX11_put_3 2 rfl rfl)
theorem dX11_put_73 : decode cX11_put 73 = .ok (.iadd, 1) := dk_96 (dk_at dksX11_put_3 3 rfl rfl)
theorem dX11_put_74 : decode cX11_put 74 = .ok (.iload_n 2, 1) := dk_28 (dk_at dksX11_put_3 4 rfl rfl)
theorem dX11_put_75 : decode cX11_put 75 = .ok (.iload_n 3, 1) := dk_29 (dk_at dksX11_put_3 5 rfl rfl)
theorem dX11_put_76 : decode cX11_put 76 = .ok (.invokestatic 248, 3) := dk_184 0 248 (dk_at dksX11_put_3 6 rfl rfl)
theorem dX11_put_79 : decode cX11_put 79 = .ok (.iastore, 1) := dk_79 (dk_at dksX11_put_3 9 rfl rfl)
theorem dX11_put_80 : decode cX11_put 80 = .ok (.return_, 1) := dk_177 (dk_at dksX11_put_3 10 rfl rfl)
def dkwX11_noSquare_0 : List UInt8 := [26, 3, 16, 35, 184, 0, 106, 154, 0, 7, 4, 167, 0, 4, 3, 172]
abbrev dktX11_noSquare_0 : List UInt8 := dkwX11_noSquare_0 ++ []
theorem dksX11_noSquare_0 : cX11_noSquare.data.toList.drop 0 = dktX11_noSquare_0 := by decide +kernel
theorem dX11_noSquare_0 : decode cX11_noSquare 0 = .ok (.iload_n 0, 1) := dk_26 (dk_at dksX11_noSquare_0 0 rfl rfl)
theorem dX11_noSquare_1 : decode cX11_noSquare 1 = .ok (.iconst 0, 1) := dk_3 (dk_at dksX11_noSquare_0 1 rfl rfl)
theorem dX11_noSquare_2 : decode cX11_noSquare 2 = .ok (.bipush 35, 2) := dk_16 35 (dk_at dksX11_noSquare_0 2 rfl rfl)
theorem dX11_noSquare_4 : decode cX11_noSquare 4 = .ok (.invokestatic 106, 3) := dk_184 0 106 (dk_at dksX11_noSquare_0 4 rfl rfl)
theorem dX11_noSquare_7 : decode cX11_noSquare 7 = .ok (.ifCond .ne 7, 3) := dk_154 0 7 (dk_at dksX11_noSquare_0 7 rfl rfl)
theorem dX11_noSquare_10 : decode cX11_noSquare 10 = .ok (.iconst 1, 1) := dk_4 (dk_at dksX11_noSquare_0 10 rfl rfl)
theorem dX11_noSquare_11 : decode cX11_noSquare 11 = .ok (.goto 4, 3) := dk_167 0 4 (dk_at dksX11_noSquare_0 11 rfl rfl)
theorem dX11_noSquare_14 : decode cX11_noSquare 14 = .ok (.iconst 0, 1) := dk_3 (dk_at dksX11_noSquare_0 14 rfl rfl)
theorem dX11_noSquare_15 : decode cX11_noSquare 15 = .ok (.ireturn, 1) := dk_172 (dk_at dksX11_noSquare_0 15 rfl rfl)
def dkwX11_noKind_0 : List UInt8 := [42, 27, 3, 182, 0, 110, 172]
abbrev dktX11_noKind_0 : List UInt8 := dkwX11_noKind_0 ++ []
theorem dksX11_noKind_0 : cX11_noKind.data.toList.drop 0 = dktX11_noKind_0 := by decide +kernel
theorem dX11_noKind_0 : decode cX11_noKind 0 = .ok (.aload_n 0, 1) := dk_42 (dk_at dksX11_noKind_0 0 rfl rfl)
theorem dX11_noKind_1 : decode cX11_noKind 1 = .ok (.iload_n 1, 1) := dk_27 (dk_at dksX11_noKind_0 1 rfl rfl)
theorem dX11_noKind_2 : decode cX11_noKind 2 = .ok (.iconst 0, 1) := dk_3 (dk_at dksX11_noKind_0 2 rfl rfl)
theorem dX11_noKind_3 : decode cX11_noKind 3 = .ok (.invokevirtual 110, 3) := dk_182 0 110 (dk_at dksX11_noKind_0 3 rfl rfl)
theorem dX11_noKind_6 : decode cX11_noKind 6 = .ok (.ireturn, 1) := dk_172 (dk_at dksX11_noKind_0 6 rfl rfl)
def dkwX11_none_0 : List UInt8 := [27, 3, 42, 180, 0, 13, 28, 46, 4, 100, 184, 0, 106, 154, 0, 7, 4, 167, 0, 4, 3, 172]
abbrev dktX11_none_0 : List UInt8 := dkwX11_none_0 ++ []
theorem dksX11_none_0 : cX11_none.data.toList.drop 0 = dktX11_none_0 := by decide +kernel
theorem dX11_none_0 : decode cX11_none 0 = .ok (.iload_n 1, 1) := dk_27 (dk_at dksX11_none_0 0 rfl rfl)
theorem dX11_none_1 : decode cX11_none 1 = .ok (.iconst 0, 1) := dk_3 (dk_at dksX11_none_0 1 rfl rfl)
theorem dX11_none_2 : decode cX11_none 2 = .ok (.aload_n 0, 1) := dk_42 (dk_at dksX11_none_0 2 rfl rfl)
theorem dX11_none_3 : decode cX11_none 3 = .ok (.getfield 13, 3) := dk_180 0 13 (dk_at dksX11_none_0 3 rfl rfl)
theorem dX11_none_6 : decode cX11_none 6 = .ok (.iload_n 2, 1) := dk_28 (dk_at dksX11_none_0 6 rfl rfl)
theorem dX11_none_7 : decode cX11_none 7 = .ok (.iaload, 1) := dk_46 (dk_at dksX11_none_0 7 rfl rfl)
theorem dX11_none_8 : decode cX11_none 8 = .ok (.iconst 1, 1) := dk_4 (dk_at dksX11_none_0 8 rfl rfl)
theorem dX11_none_9 : decode cX11_none 9 = .ok (.isub, 1) := dk_100 (dk_at dksX11_none_0 9 rfl rfl)
theorem dX11_none_10 : decode cX11_none 10 = .ok (.invokestatic 106, 3) := dk_184 0 106 (dk_at dksX11_none_0 10 rfl rfl)
theorem dX11_none_13 : decode cX11_none 13 = .ok (.ifCond .ne 7, 3) := dk_154 0 7 (dk_at dksX11_none_0 13 rfl rfl)
theorem dX11_none_16 : decode cX11_none 16 = .ok (.iconst 1, 1) := dk_4 (dk_at dksX11_none_0 16 rfl rfl)
theorem dX11_none_17 : decode cX11_none 17 = .ok (.goto 4, 3) := dk_167 0 4 (dk_at dksX11_none_0 17 rfl rfl)
theorem dX11_none_20 : decode cX11_none 20 = .ok (.iconst 0, 1) := dk_3 (dk_at dksX11_none_0 20 rfl rfl)
theorem dX11_none_21 : decode cX11_none 21 = .ok (.ireturn, 1) := dk_172 (dk_at dksX11_none_0 21 rfl rfl)
def dkwX11_man_0 : List UInt8 := [26, 156, 0, 7, 2, 167, 0, 8, 5, 26, 104, 27, 96, 172]
abbrev dktX11_man_0 : List UInt8 := dkwX11_man_0 ++ []
theorem dksX11_man_0 : cX11_man.data.toList.drop 0 = dktX11_man_0 := by decide +kernel
theorem dX11_man_0 : decode cX11_man 0 = .ok (.iload_n 0, 1) := dk_26 (dk_at dksX11_man_0 0 rfl rfl)
theorem dX11_man_1 : decode cX11_man 1 = .ok (.ifCond .ge 7, 3) := dk_156 0 7 (dk_at dksX11_man_0 1 rfl rfl)
theorem dX11_man_4 : decode cX11_man 4 = .ok (.iconst (-1), 1) := dk_2 (dk_at dksX11_man_0 4 rfl rfl)
theorem dX11_man_5 : decode cX11_man 5 = .ok (.goto 8, 3) := dk_167 0 8 (dk_at dksX11_man_0 5 rfl rfl)
theorem dX11_man_8 : decode cX11_man 8 = .ok (.iconst 2, 1) := dk_5 (dk_at dksX11_man_0 8 rfl rfl)
theorem dX11_man_9 : decode cX11_man 9 = .ok (.iload_n 0, 1) := dk_26 (dk_at dksX11_man_0 9 rfl rfl)
theorem dX11_man_10 : decode cX11_man 10 = .ok (.imul, 1) := dk_104 (dk_at dksX11_man_0 10 rfl rfl)
theorem dX11_man_11 : decode cX11_man 11 = .ok (.iload_n 1, 1) := dk_27 (dk_at dksX11_man_0 11 rfl rfl)
theorem dX11_man_12 : decode cX11_man 12 = .ok (.iadd, 1) := dk_96 (dk_at dksX11_man_0 12 rfl rfl)
theorem dX11_man_13 : decode cX11_man 13 = .ok (.ireturn, 1) := dk_172 (dk_at dksX11_man_0 13 rfl rfl)
def dkwX11_book_4 : List UInt8 := [96, 79, 28, 172]
abbrev dktX11_book_4 : List UInt8 := dkwX11_book_4 ++ []
def dkwX11_book_3 : List UInt8 := [79, 42, 180, 0, 13, 16, 119, 16, 98, 28, 104, 96, 4, 96, 3, 79, 42, 180, 0, 13, 4, 92, 46, 4]
abbrev dktX11_book_3 : List UInt8 := dkwX11_book_3 ++ dktX11_book_4
def dkwX11_book_2 : List UInt8 := [153, 0, 5, 3, 172, 42, 180, 0, 13, 4, 46, 61, 42, 180, 0, 13, 16, 119, 16, 98, 28, 104, 96, 27]
abbrev dktX11_book_2 : List UInt8 := dkwX11_book_2 ++ dktX11_book_3
def dkwX11_book_1 : List UInt8 := [154, 0, 26, 42, 42, 180, 0, 13, 4, 46, 6, 160, 0, 7, 4, 167, 0, 4, 3, 5, 182, 0, 235]
abbrev dktX11_book_1 : List UInt8 := dkwX11_book_1 ++ dktX11_book_2
def dkwX11_book_0 : List UInt8 := [42, 3, 181, 0, 3, 42, 27, 3, 4, 184, 0, 106, 154, 0, 7, 4, 167, 0, 4, 3, 4, 182, 0, 235]
abbrev dktX11_book_0 : List UInt8 := dkwX11_book_0 ++ dktX11_book_1
theorem dksX11_book_0 : cX11_book.data.toList.drop 0 = dktX11_book_0 := by decide +kernel
theorem dksX11_book_1 : cX11_book.data.toList.drop 24 = dktX11_book_1 := dk_seg dksX11_book_0 24 rfl rfl
theorem dksX11_book_2 : cX11_book.data.toList.drop 47 = dktX11_book_2 := dk_seg dksX11_book_1 23 rfl rfl
theorem dksX11_book_3 : cX11_book.data.toList.drop 71 = dktX11_book_3 := dk_seg dksX11_book_2 24 rfl rfl
theorem dksX11_book_4 : cX11_book.data.toList.drop 95 = dktX11_book_4 := dk_seg dksX11_book_3 24 rfl rfl
theorem dX11_book_0 : decode cX11_book 0 = .ok (.aload_n 0, 1) := dk_42 (dk_at dksX11_book_0 0 rfl rfl)
theorem dX11_book_1 : decode cX11_book 1 = .ok (.iconst 0, 1) := dk_3 (dk_at dksX11_book_0 1 rfl rfl)
theorem dX11_book_2 : decode cX11_book 2 = .ok (.putfield 3, 3) := dk_181 0 3 (dk_at dksX11_book_0 2 rfl rfl)
theorem dX11_book_5 : decode cX11_book 5 = .ok (.aload_n 0, 1) := dk_42 (dk_at dksX11_book_0 5 rfl rfl)
theorem dX11_book_6 : decode cX11_book 6 = .ok (.iload_n 1, 1) := dk_27 (dk_at dksX11_book_0 6 rfl rfl)
theorem dX11_book_7 : decode cX11_book 7 = .ok (.iconst 0, 1) := dk_3 (dk_at dksX11_book_0 7 rfl rfl)
theorem dX11_book_8 : decode cX11_book 8 = .ok (.iconst 1, 1) := dk_4 (dk_at dksX11_book_0 8 rfl rfl)
theorem dX11_book_9 : decode cX11_book 9 = .ok (.invokestatic 106, 3) := dk_184 0 106 (dk_at dksX11_book_0 9 rfl rfl)
theorem dX11_book_12 : decode cX11_book 12 = .ok (.ifCond .ne 7, 3) := dk_154 0 7 (dk_at dksX11_book_0 12 rfl rfl)
theorem dX11_book_15 : decode cX11_book 15 = .ok (.iconst 1, 1) := dk_4 (dk_at dksX11_book_0 15 rfl rfl)
theorem dX11_book_16 : decode cX11_book 16 = .ok (.goto 4, 3) := dk_167 0 4 (dk_at dksX11_book_0 16 rfl rfl)
theorem dX11_book_19 : decode cX11_book 19 = .ok (.iconst 0, 1) := dk_3 (dk_at dksX11_book_0 19 rfl rfl)
theorem dX11_book_20 : decode cX11_book 20 = .ok (.iconst 1, 1) := dk_4 (dk_at dksX11_book_0 20 rfl rfl)
theorem dX11_book_21 : decode cX11_book 21 = .ok (.invokevirtual 235, 3) := dk_182 0 235 (dk_at dksX11_book_0 21 rfl rfl)
theorem dX11_book_24 : decode cX11_book 24 = .ok (.ifCond .ne 26, 3) := dk_154 0 26 (dk_at dksX11_book_1 0 rfl rfl)
theorem dX11_book_27 : decode cX11_book 27 = .ok (.aload_n 0, 1) := dk_42 (dk_at dksX11_book_1 3 rfl rfl)
theorem dX11_book_28 : decode cX11_book 28 = .ok (.aload_n 0, 1) := dk_42 (dk_at dksX11_book_1 4 rfl rfl)
theorem dX11_book_29 : decode cX11_book 29 = .ok (.getfield 13, 3) := dk_180 0 13 (dk_at dksX11_book_1 5 rfl rfl)
theorem dX11_book_32 : decode cX11_book 32 = .ok (.iconst 1, 1) := dk_4 (dk_at dksX11_book_1 8 rfl rfl)
theorem dX11_book_33 : decode cX11_book 33 = .ok (.iaload, 1) := dk_46 (dk_at dksX11_book_1 9 rfl rfl)
theorem dX11_book_34 : decode cX11_book 34 = .ok (.iconst 3, 1) := dk_6 (dk_at dksX11_book_1 10 rfl rfl)
theorem dX11_book_35 : decode cX11_book 35 = .ok (.if_icmp .ne 7, 3) := dk_160 0 7 (dk_at dksX11_book_1 11 rfl rfl)
theorem dX11_book_38 : decode cX11_book 38 = .ok (.iconst 1, 1) := dk_4 (dk_at dksX11_book_1 14 rfl rfl)
theorem dX11_book_39 : decode cX11_book 39 = .ok (.goto 4, 3) := dk_167 0 4 (dk_at dksX11_book_1 15 rfl rfl)
theorem dX11_book_42 : decode cX11_book 42 = .ok (.iconst 0, 1) := dk_3 (dk_at dksX11_book_1 18 rfl rfl)
theorem dX11_book_43 : decode cX11_book 43 = .ok (.iconst 2, 1) := dk_5 (dk_at dksX11_book_1 19 rfl rfl)
theorem dX11_book_44 : decode cX11_book 44 = .ok (.invokevirtual 235, 3) := dk_182 0 235 (dk_at dksX11_book_1 20 rfl rfl)
theorem dX11_book_47 : decode cX11_book 47 = .ok (.ifCond .eq 5, 3) := dk_153 0 5 (dk_at dksX11_book_2 0 rfl rfl)
theorem dX11_book_50 : decode cX11_book 50 = .ok (.iconst 0, 1) := dk_3 (dk_at dksX11_book_2 3 rfl rfl)
theorem dX11_book_51 : decode cX11_book 51 = .ok (.ireturn, 1) := dk_172 (dk_at dksX11_book_2 4 rfl rfl)
theorem dX11_book_52 : decode cX11_book 52 = .ok (.aload_n 0, 1) := dk_42 (dk_at dksX11_book_2 5 rfl rfl)
theorem dX11_book_53 : decode cX11_book 53 = .ok (.getfield 13, 3) := dk_180 0 13 (dk_at dksX11_book_2 6 rfl rfl)
theorem dX11_book_56 : decode cX11_book 56 = .ok (.iconst 1, 1) := dk_4 (dk_at dksX11_book_2 9 rfl rfl)
theorem dX11_book_57 : decode cX11_book 57 = .ok (.iaload, 1) := dk_46 (dk_at dksX11_book_2 10 rfl rfl)
theorem dX11_book_58 : decode cX11_book 58 = .ok (.istore_n 2, 1) := dk_61 (dk_at dksX11_book_2 11 rfl rfl)
theorem dX11_book_59 : decode cX11_book 59 = .ok (.aload_n 0, 1) := dk_42 (dk_at dksX11_book_2 12 rfl rfl)
theorem dX11_book_60 : decode cX11_book 60 = .ok (.getfield 13, 3) := dk_180 0 13 (dk_at dksX11_book_2 13 rfl rfl)
theorem dX11_book_63 : decode cX11_book 63 = .ok (.bipush 119, 2) := dk_16 119 (dk_at dksX11_book_2 16 rfl rfl)
theorem dX11_book_65 : decode cX11_book 65 = .ok (.bipush 98, 2) := dk_16 98 (dk_at dksX11_book_2 18 rfl rfl)
theorem dX11_book_67 : decode cX11_book 67 = .ok (.iload_n 2, 1) := dk_28 (dk_at dksX11_book_2 20 rfl rfl)
theorem dX11_book_68 : decode cX11_book 68 = .ok (.imul, 1) := dk_104 (dk_at dksX11_book_2 21 rfl rfl)
theorem dX11_book_69 : decode cX11_book 69 = .ok (.iadd, 1) := dk_96 (dk_at dksX11_book_2 22 rfl rfl)
theorem dX11_book_70 : decode cX11_book 70 = .ok (.iload_n 1, 1) := dk_27 (dk_at dksX11_book_2 23 rfl rfl)
theorem dX11_book_71 : decode cX11_book 71 = .ok (.iastore, 1) := dk_79 (dk_at dksX11_book_3 0 rfl rfl)
theorem dX11_book_72 : decode cX11_book 72 = .ok (.aload_n 0, 1) := dk_42 (dk_at dksX11_book_3 1 rfl rfl)
theorem dX11_book_73 : decode cX11_book 73 = .ok (.getfield 13, 3) := dk_180 0 13 (dk_at dksX11_book_3 2 rfl rfl)
theorem dX11_book_76 : decode cX11_book 76 = .ok (.bipush 119, 2) := dk_16 119 (dk_at dksX11_book_3 5 rfl rfl)
theorem dX11_book_78 : decode cX11_book 78 = .ok (.bipush 98, 2) := dk_16 98 (dk_at dksX11_book_3 7 rfl rfl)
theorem dX11_book_80 : decode cX11_book 80 = .ok (.iload_n 2, 1) := dk_28 (dk_at dksX11_book_3 9 rfl rfl)
theorem dX11_book_81 : decode cX11_book 81 = .ok (.imul, 1) := dk_104 (dk_at dksX11_book_3 10 rfl rfl)
theorem dX11_book_82 : decode cX11_book 82 = .ok (.iadd, 1) := dk_96 (dk_at dksX11_book_3 11 rfl rfl)
theorem dX11_book_83 : decode cX11_book 83 = .ok (.iconst 1, 1) := dk_4 (dk_at dksX11_book_3 12 rfl rfl)
theorem dX11_book_84 : decode cX11_book 84 = .ok (.iadd, 1) := dk_96 (dk_at dksX11_book_3 13 rfl rfl)
theorem dX11_book_85 : decode cX11_book 85 = .ok (.iconst 0, 1) := dk_3 (dk_at dksX11_book_3 14 rfl rfl)
theorem dX11_book_86 : decode cX11_book 86 = .ok (.iastore, 1) := dk_79 (dk_at dksX11_book_3 15 rfl rfl)
theorem dX11_book_87 : decode cX11_book 87 = .ok (.aload_n 0, 1) := dk_42 (dk_at dksX11_book_3 16 rfl rfl)
theorem dX11_book_88 : decode cX11_book 88 = .ok (.getfield 13, 3) := dk_180 0 13 (dk_at dksX11_book_3 17 rfl rfl)
theorem dX11_book_91 : decode cX11_book 91 = .ok (.iconst 1, 1) := dk_4 (dk_at dksX11_book_3 20 rfl rfl)
theorem dX11_book_92 : decode cX11_book 92 = .ok (.dup2, 1) := dk_92 (dk_at dksX11_book_3 21 rfl rfl)
theorem dX11_book_93 : decode cX11_book 93 = .ok (.iaload, 1) := dk_46 (dk_at dksX11_book_3 22 rfl rfl)
theorem dX11_book_94 : decode cX11_book 94 = .ok (.iconst 1, 1) := dk_4 (dk_at dksX11_book_3 23 rfl rfl)
theorem dX11_book_95 : decode cX11_book 95 = .ok (.iadd, 1) := dk_96 (dk_at dksX11_book_4 0 rfl rfl)
theorem dX11_book_96 : decode cX11_book 96 = .ok (.iastore, 1) := dk_79 (dk_at dksX11_book_4 1 rfl rfl)
theorem dX11_book_97 : decode cX11_book 97 = .ok (.iload_n 2, 1) := dk_28 (dk_at dksX11_book_4 2 rfl rfl)
theorem dX11_book_98 : decode cX11_book 98 = .ok (.ireturn, 1) := dk_172 (dk_at dksX11_book_4 3 rfl rfl)
def dkwX11_note_3 : List UInt8 := [153, 0, 5, 3, 172, 42, 27, 28, 29, 21, 4, 21, 5, 182, 1, 9, 172]
abbrev dktX11_note_3 : List UInt8 := dkwX11_note_3 ++ []
def dkwX11_note_2 : List UInt8 := [154, 0, 26, 42, 42, 27, 182, 0, 251, 16, 24, 160, 0, 7, 4, 167, 0, 4, 3, 6, 182, 0, 235]
abbrev dktX11_note_2 : List UInt8 := dkwX11_note_2 ++ dktX11_note_3
def dkwX11_note_1 : List UInt8 := [167, 0, 4, 3, 4, 182, 0, 235, 154, 0, 42, 42, 29, 21, 4, 21, 5, 184, 1, 6, 5, 182, 0, 235]
abbrev dktX11_note_1 : List UInt8 := dkwX11_note_1 ++ dktX11_note_2
def dkwX11_note_0 : List UInt8 := [42, 3, 181, 0, 3, 42, 42, 27, 182, 1, 3, 154, 0, 11, 42, 28, 182, 0, 245, 153, 0, 7, 4]
abbrev dktX11_note_0 : List UInt8 := dkwX11_note_0 ++ dktX11_note_1
theorem dksX11_note_0 : cX11_note.data.toList.drop 0 = dktX11_note_0 := by decide +kernel
theorem dksX11_note_1 : cX11_note.data.toList.drop 23 = dktX11_note_1 := dk_seg dksX11_note_0 23 rfl rfl
theorem dksX11_note_2 : cX11_note.data.toList.drop 47 = dktX11_note_2 := dk_seg dksX11_note_1 24 rfl rfl
theorem dksX11_note_3 : cX11_note.data.toList.drop 70 = dktX11_note_3 := dk_seg dksX11_note_2 23 rfl rfl
theorem dX11_note_0 : decode cX11_note 0 = .ok (.aload_n 0, 1) := dk_42 (dk_at dksX11_note_0 0 rfl rfl)
theorem dX11_note_1 : decode cX11_note 1 = .ok (.iconst 0, 1) := dk_3 (dk_at dksX11_note_0 1 rfl rfl)
theorem dX11_note_2 : decode cX11_note 2 = .ok (.putfield 3, 3) := dk_181 0 3 (dk_at dksX11_note_0 2 rfl rfl)
theorem dX11_note_5 : decode cX11_note 5 = .ok (.aload_n 0, 1) := dk_42 (dk_at dksX11_note_0 5 rfl rfl)
theorem dX11_note_6 : decode cX11_note 6 = .ok (.aload_n 0, 1) := dk_42 (dk_at dksX11_note_0 6 rfl rfl)
theorem dX11_note_7 : decode cX11_note 7 = .ok (.iload_n 1, 1) := dk_27 (dk_at dksX11_note_0 7 rfl rfl)
theorem dX11_note_8 : decode cX11_note 8 = .ok (.invokevirtual 259, 3) := dk_182 1 3 (dk_at dksX11_note_0 8 rfl rfl)
theorem dX11_note_11 : decode cX11_note 11 = .ok (.ifCond .ne 11, 3) := dk_154 0 11 (dk_at dksX11_note_0 11 rfl rfl)
theorem dX11_note_14 : decode cX11_note 14 = .ok (.aload_n 0, 1) := dk_42 (dk_at dksX11_note_0 14 rfl rfl)
theorem dX11_note_15 : decode cX11_note 15 = .ok (.iload_n 2, 1) := dk_28 (dk_at dksX11_note_0 15 rfl rfl)
theorem dX11_note_16 : decode cX11_note 16 = .ok (.invokevirtual 245, 3) := dk_182 0 245 (dk_at dksX11_note_0 16 rfl rfl)
theorem dX11_note_19 : decode cX11_note 19 = .ok (.ifCond .eq 7, 3) := dk_153 0 7 (dk_at dksX11_note_0 19 rfl rfl)
theorem dX11_note_22 : decode cX11_note 22 = .ok (.iconst 1, 1) := dk_4 (dk_at dksX11_note_0 22 rfl rfl)
theorem dX11_note_23 : decode cX11_note 23 = .ok (.goto 4, 3) := dk_167 0 4 (dk_at dksX11_note_1 0 rfl rfl)
theorem dX11_note_26 : decode cX11_note 26 = .ok (.iconst 0, 1) := dk_3 (dk_at dksX11_note_1 3 rfl rfl)
theorem dX11_note_27 : decode cX11_note 27 = .ok (.iconst 1, 1) := dk_4 (dk_at dksX11_note_1 4 rfl rfl)
theorem dX11_note_28 : decode cX11_note 28 = .ok (.invokevirtual 235, 3) := dk_182 0 235 (dk_at dksX11_note_1 5 rfl rfl)
theorem dX11_note_31 : decode cX11_note 31 = .ok (.ifCond .ne 42, 3) := dk_154 0 42 (dk_at dksX11_note_1 8 rfl rfl)
theorem dX11_note_34 : decode cX11_note 34 = .ok (.aload_n 0, 1) := dk_42 (dk_at dksX11_note_1 11 rfl rfl)
theorem dX11_note_35 : decode cX11_note 35 = .ok (.iload_n 3, 1) := dk_29 (dk_at dksX11_note_1 12 rfl rfl)
theorem dX11_note_36 : decode cX11_note 36 = .ok (.iload 4, 2) := dk_21 4 (dk_at dksX11_note_1 13 rfl rfl)
theorem dX11_note_38 : decode cX11_note 38 = .ok (.iload 5, 2) := dk_21 5 (dk_at dksX11_note_1 15 rfl rfl)
theorem dX11_note_40 : decode cX11_note 40 = .ok (.invokestatic 262, 3) := dk_184 1 6 (dk_at dksX11_note_1 17 rfl rfl)
theorem dX11_note_43 : decode cX11_note 43 = .ok (.iconst 2, 1) := dk_5 (dk_at dksX11_note_1 20 rfl rfl)
theorem dX11_note_44 : decode cX11_note 44 = .ok (.invokevirtual 235, 3) := dk_182 0 235 (dk_at dksX11_note_1 21 rfl rfl)
theorem dX11_note_47 : decode cX11_note 47 = .ok (.ifCond .ne 26, 3) := dk_154 0 26 (dk_at dksX11_note_2 0 rfl rfl)
theorem dX11_note_50 : decode cX11_note 50 = .ok (.aload_n 0, 1) := dk_42 (dk_at dksX11_note_2 3 rfl rfl)
theorem dX11_note_51 : decode cX11_note 51 = .ok (.aload_n 0, 1) := dk_42 (dk_at dksX11_note_2 4 rfl rfl)
theorem dX11_note_52 : decode cX11_note 52 = .ok (.iload_n 1, 1) := dk_27 (dk_at dksX11_note_2 5 rfl rfl)
theorem dX11_note_53 : decode cX11_note 53 = .ok (.invokevirtual 251, 3) := dk_182 0 251 (dk_at dksX11_note_2 6 rfl rfl)
theorem dX11_note_56 : decode cX11_note 56 = .ok (.bipush 24, 2) := dk_16 24 (dk_at dksX11_note_2 9 rfl rfl)
theorem dX11_note_58 : decode cX11_note 58 = .ok (.if_icmp .ne 7, 3) := dk_160 0 7 (dk_at dksX11_note_2 11 rfl rfl)
theorem dX11_note_61 : decode cX11_note 61 = .ok (.iconst 1, 1) := dk_4 (dk_at dksX11_note_2 14 rfl rfl)
theorem dX11_note_62 : decode cX11_note 62 = .ok (.goto 4, 3) := dk_167 0 4 (dk_at dksX11_note_2 15 rfl rfl)
theorem dX11_note_65 : decode cX11_note 65 = .ok (.iconst 0, 1) := dk_3 (dk_at dksX11_note_2 18 rfl rfl)
theorem dX11_note_66 : decode cX11_note 66 = .ok (.iconst 3, 1) := dk_6 (dk_at dksX11_note_2 19 rfl rfl)
theorem dX11_note_67 : decode cX11_note 67 = .ok (.invokevirtual 235, 3) := dk_182 0 235 (dk_at dksX11_note_2 20 rfl rfl)
theorem dX11_note_70 : decode cX11_note 70 = .ok (.ifCond .eq 5, 3) := dk_153 0 5 (dk_at dksX11_note_3 0 rfl rfl)
theorem dX11_note_73 : decode cX11_note 73 = .ok (.iconst 0, 1) := dk_3 (dk_at dksX11_note_3 3 rfl rfl)
theorem dX11_note_74 : decode cX11_note 74 = .ok (.ireturn, 1) := dk_172 (dk_at dksX11_note_3 4 rfl rfl)
theorem dX11_note_75 : decode cX11_note 75 = .ok (.aload_n 0, 1) := dk_42 (dk_at dksX11_note_3 5 rfl rfl)
theorem dX11_note_76 : decode cX11_note 76 = .ok (.iload_n 1, 1) := dk_27 (dk_at dksX11_note_3 6 rfl rfl)
theorem dX11_note_77 : decode cX11_note 77 = .ok (.iload_n 2, 1) := dk_28 (dk_at dksX11_note_3 7 rfl rfl)
theorem dX11_note_78 : decode cX11_note 78 = .ok (.iload_n 3, 1) := dk_29 (dk_at dksX11_note_3 8 rfl rfl)
theorem dX11_note_79 : decode cX11_note 79 = .ok (.iload 4, 2) := dk_21 4 (dk_at dksX11_note_3 9 rfl rfl)
theorem dX11_note_81 : decode cX11_note 81 = .ok (.iload 5, 2) := dk_21 5 (dk_at dksX11_note_3 11 rfl rfl)
theorem dX11_note_83 : decode cX11_note 83 = .ok (.invokevirtual 265, 3) := dk_182 1 9 (dk_at dksX11_note_3 13 rfl rfl)
theorem dX11_note_86 : decode cX11_note 86 = .ok (.ireturn, 1) := dk_172 (dk_at dksX11_note_3 16 rfl rfl)
def dkwX11_noBook_0 : List UInt8 := [42, 27, 4, 182, 0, 110, 172]
abbrev dktX11_noBook_0 : List UInt8 := dkwX11_noBook_0 ++ []
theorem dksX11_noBook_0 : cX11_noBook.data.toList.drop 0 = dktX11_noBook_0 := by decide +kernel
theorem dX11_noBook_0 : decode cX11_noBook 0 = .ok (.aload_n 0, 1) := dk_42 (dk_at dksX11_noBook_0 0 rfl rfl)
theorem dX11_noBook_1 : decode cX11_noBook 1 = .ok (.iload_n 1, 1) := dk_27 (dk_at dksX11_noBook_0 1 rfl rfl)
theorem dX11_noBook_2 : decode cX11_noBook 2 = .ok (.iconst 1, 1) := dk_4 (dk_at dksX11_noBook_0 2 rfl rfl)
theorem dX11_noBook_3 : decode cX11_noBook 3 = .ok (.invokevirtual 110, 3) := dk_182 0 110 (dk_at dksX11_noBook_0 3 rfl rfl)
theorem dX11_noBook_6 : decode cX11_noBook 6 = .ok (.ireturn, 1) := dk_172 (dk_at dksX11_noBook_0 6 rfl rfl)
def dkwX11_badNote_1 : List UInt8 := [154, 0, 7, 4, 167, 0, 4, 3, 172]
abbrev dktX11_badNote_1 : List UInt8 := dkwX11_badNote_1 ++ []
def dkwX11_badNote_0 : List UInt8 := [26, 2, 8, 184, 0, 106, 153, 0, 21, 27, 3, 8, 184, 0, 106, 153, 0, 12, 28, 3, 8, 184, 0, 106]
abbrev dktX11_badNote_0 : List UInt8 := dkwX11_badNote_0 ++ dktX11_badNote_1
theorem dksX11_badNote_0 : cX11_badNote.data.toList.drop 0 = dktX11_badNote_0 := by decide +kernel
theorem dksX11_badNote_1 : cX11_badNote.data.toList.drop 24 = dktX11_badNote_1 := dk_seg dksX11_badNote_0 24 rfl rfl
theorem dX11_badNote_0 : decode cX11_badNote 0 = .ok (.iload_n 0, 1) := dk_26 (dk_at dksX11_badNote_0 0 rfl rfl)
theorem dX11_badNote_1 : decode cX11_badNote 1 = .ok (.iconst (-1), 1) := dk_2 (dk_at dksX11_badNote_0 1 rfl rfl)
theorem dX11_badNote_2 : decode cX11_badNote 2 = .ok (.iconst 5, 1) := dk_8 (dk_at dksX11_badNote_0 2 rfl rfl)
theorem dX11_badNote_3 : decode cX11_badNote 3 = .ok (.invokestatic 106, 3) := dk_184 0 106 (dk_at dksX11_badNote_0 3 rfl rfl)
theorem dX11_badNote_6 : decode cX11_badNote 6 = .ok (.ifCond .eq 21, 3) := dk_153 0 21 (dk_at dksX11_badNote_0 6 rfl rfl)
theorem dX11_badNote_9 : decode cX11_badNote 9 = .ok (.iload_n 1, 1) := dk_27 (dk_at dksX11_badNote_0 9 rfl rfl)
theorem dX11_badNote_10 : decode cX11_badNote 10 = .ok (.iconst 0, 1) := dk_3 (dk_at dksX11_badNote_0 10 rfl rfl)
theorem dX11_badNote_11 : decode cX11_badNote 11 = .ok (.iconst 5, 1) := dk_8 (dk_at dksX11_badNote_0 11 rfl rfl)
theorem dX11_badNote_12 : decode cX11_badNote 12 = .ok (.invokestatic 106, 3) := dk_184 0 106 (dk_at dksX11_badNote_0 12 rfl rfl)
theorem dX11_badNote_15 : decode cX11_badNote 15 = .ok (.ifCond .eq 12, 3) := dk_153 0 12 (dk_at dksX11_badNote_0 15 rfl rfl)
theorem dX11_badNote_18 : decode cX11_badNote 18 = .ok (.iload_n 2, 1) := dk_28 (dk_at dksX11_badNote_0 18 rfl rfl)
theorem dX11_badNote_19 : decode cX11_badNote 19 = .ok (.iconst 0, 1) := dk_3 (dk_at dksX11_badNote_0 19 rfl rfl)
theorem dX11_badNote_20 : decode cX11_badNote 20 = .ok (.iconst 5, 1) := dk_8 (dk_at dksX11_badNote_0 20 rfl rfl)
theorem dX11_badNote_21 : decode cX11_badNote 21 = .ok (.invokestatic 106, 3) := dk_184 0 106 (dk_at dksX11_badNote_0 21 rfl rfl)
theorem dX11_badNote_24 : decode cX11_badNote 24 = .ok (.ifCond .ne 7, 3) := dk_154 0 7 (dk_at dksX11_badNote_1 0 rfl rfl)
theorem dX11_badNote_27 : decode cX11_badNote 27 = .ok (.iconst 1, 1) := dk_4 (dk_at dksX11_badNote_1 3 rfl rfl)
theorem dX11_badNote_28 : decode cX11_badNote 28 = .ok (.goto 4, 3) := dk_167 0 4 (dk_at dksX11_badNote_1 4 rfl rfl)
theorem dX11_badNote_31 : decode cX11_badNote 31 = .ok (.iconst 0, 1) := dk_3 (dk_at dksX11_badNote_1 7 rfl rfl)
theorem dX11_badNote_32 : decode cX11_badNote 32 = .ok (.ireturn, 1) := dk_172 (dk_at dksX11_badNote_1 8 rfl rfl)
def dkwX11_notes_0 : List UInt8 := [42, 27, 4, 182, 0, 114, 172]
abbrev dktX11_notes_0 : List UInt8 := dkwX11_notes_0 ++ []
theorem dksX11_notes_0 : cX11_notes.data.toList.drop 0 = dktX11_notes_0 := by decide +kernel
theorem dX11_notes_0 : decode cX11_notes 0 = .ok (.aload_n 0, 1) := dk_42 (dk_at dksX11_notes_0 0 rfl rfl)
theorem dX11_notes_1 : decode cX11_notes 1 = .ok (.iload_n 1, 1) := dk_27 (dk_at dksX11_notes_0 1 rfl rfl)
theorem dX11_notes_2 : decode cX11_notes 2 = .ok (.iconst 1, 1) := dk_4 (dk_at dksX11_notes_0 2 rfl rfl)
theorem dX11_notes_3 : decode cX11_notes 3 = .ok (.invokevirtual 114, 3) := dk_182 0 114 (dk_at dksX11_notes_0 3 rfl rfl)
theorem dX11_notes_6 : decode cX11_notes 6 = .ok (.ireturn, 1) := dk_172 (dk_at dksX11_notes_0 6 rfl rfl)
def dkwX11_ofBook_0 : List UInt8 := [42, 180, 0, 13, 16, 119, 16, 98, 27, 104, 96, 28, 96, 46, 172]
abbrev dktX11_ofBook_0 : List UInt8 := dkwX11_ofBook_0 ++ []
theorem dksX11_ofBook_0 : cX11_ofBook.data.toList.drop 0 = dktX11_ofBook_0 := by decide +kernel
theorem dX11_ofBook_0 : decode cX11_ofBook 0 = .ok (.aload_n 0, 1) := dk_42 (dk_at dksX11_ofBook_0 0 rfl rfl)
theorem dX11_ofBook_1 : decode cX11_ofBook 1 = .ok (.getfield 13, 3) := dk_180 0 13 (dk_at dksX11_ofBook_0 1 rfl rfl)
theorem dX11_ofBook_4 : decode cX11_ofBook 4 = .ok (.bipush 119, 2) := dk_16 119 (dk_at dksX11_ofBook_0 4 rfl rfl)
theorem dX11_ofBook_6 : decode cX11_ofBook 6 = .ok (.bipush 98, 2) := dk_16 98 (dk_at dksX11_ofBook_0 6 rfl rfl)
theorem dX11_ofBook_8 : decode cX11_ofBook 8 = .ok (.iload_n 1, 1) := dk_27 (dk_at dksX11_ofBook_0 8 rfl rfl)
theorem dX11_ofBook_9 : decode cX11_ofBook 9 = .ok (.imul, 1) := dk_104 (dk_at dksX11_ofBook_0 9 rfl rfl)
theorem dX11_ofBook_10 : decode cX11_ofBook 10 = .ok (.iadd, 1) := dk_96 (dk_at dksX11_ofBook_0 10 rfl rfl)
theorem dX11_ofBook_11 : decode cX11_ofBook 11 = .ok (.iload_n 2, 1) := dk_28 (dk_at dksX11_ofBook_0 11 rfl rfl)
theorem dX11_ofBook_12 : decode cX11_ofBook 12 = .ok (.iadd, 1) := dk_96 (dk_at dksX11_ofBook_0 12 rfl rfl)
theorem dX11_ofBook_13 : decode cX11_ofBook 13 = .ok (.iaload, 1) := dk_46 (dk_at dksX11_ofBook_0 13 rfl rfl)
theorem dX11_ofBook_14 : decode cX11_ofBook 14 = .ok (.ireturn, 1) := dk_172 (dk_at dksX11_ofBook_0 14 rfl rfl)
def dkwX11_addsNote_1 : List UInt8 := [27, 104, 96, 4, 96, 92, 46, 4, 96, 79, 42, 27, 182, 0, 251, 4, 100, 172]
abbrev dktX11_addsNote_1 : List UInt8 := dkwX11_addsNote_1 ++ []
def dkwX11_addsNote_0 : List UInt8 := [42, 27, 42, 27, 182, 0, 251, 28, 29, 21, 4, 21, 5, 182, 0, 255, 42, 180, 0, 13, 16, 119, 16, 98]
abbrev dktX11_addsNote_0 : List UInt8 := dkwX11_addsNote_0 ++ dktX11_addsNote_1
theorem dksX11_addsNote_0 : cX11_addsNote.data.toList.drop 0 = dktX11_addsNote_0 := by decide +kernel
theorem dksX11_addsNote_1 : cX11_addsNote.data.toList.drop 24 = dktX11_addsNote_1 := dk_seg dksX11_addsNote_0 24 rfl rfl
theorem dX11_addsNote_0 : decode cX11_addsNote 0 = .ok (.aload_n 0, 1) := dk_42 (dk_at dksX11_addsNote_0 0 rfl rfl)
theorem dX11_addsNote_1 : decode cX11_addsNote 1 = .ok (.iload_n 1, 1) := dk_27 (dk_at dksX11_addsNote_0 1 rfl rfl)
theorem dX11_addsNote_2 : decode cX11_addsNote 2 = .ok (.aload_n 0, 1) := dk_42 (dk_at dksX11_addsNote_0 2 rfl rfl)
theorem dX11_addsNote_3 : decode cX11_addsNote 3 = .ok (.iload_n 1, 1) := dk_27 (dk_at dksX11_addsNote_0 3 rfl rfl)
theorem dX11_addsNote_4 : decode cX11_addsNote 4 = .ok (.invokevirtual 251, 3) := dk_182 0 251 (dk_at dksX11_addsNote_0 4 rfl rfl)
theorem dX11_addsNote_7 : decode cX11_addsNote 7 = .ok (.iload_n 2, 1) := dk_28 (dk_at dksX11_addsNote_0 7 rfl rfl)
theorem dX11_addsNote_8 : decode cX11_addsNote 8 = .ok (.iload_n 3, 1) := dk_29 (dk_at dksX11_addsNote_0 8 rfl rfl)
theorem dX11_addsNote_9 : decode cX11_addsNote 9 = .ok (.iload 4, 2) := dk_21 4 (dk_at dksX11_addsNote_0 9 rfl rfl)
theorem dX11_addsNote_11 : decode cX11_addsNote 11 = .ok (.iload 5, 2) := dk_21 5 (dk_at dksX11_addsNote_0 11 rfl rfl)
theorem dX11_addsNote_13 : decode cX11_addsNote 13 = .ok (.invokevirtual 255, 3) := dk_182 0 255 (dk_at dksX11_addsNote_0 13 rfl rfl)
theorem dX11_addsNote_16 : decode cX11_addsNote 16 = .ok (.aload_n 0, 1) := dk_42 (dk_at dksX11_addsNote_0 16 rfl rfl)
theorem dX11_addsNote_17 : decode cX11_addsNote 17 = .ok (.getfield 13, 3) := dk_180 0 13 (dk_at dksX11_addsNote_0 17 rfl rfl)
theorem dX11_addsNote_20 : decode cX11_addsNote 20 = .ok (.bipush 119, 2) := dk_16 119 (dk_at dksX11_addsNote_0 20 rfl rfl)
theorem dX11_addsNote_22 : decode cX11_addsNote 22 = .ok (.bipush 98, 2) := dk_16 98 (dk_at dksX11_addsNote_0 22 rfl rfl)
theorem dX11_addsNote_24 : decode cX11_addsNote 24 = .ok (.iload_n 1, 1) := dk_27 (dk_at dksX11_addsNote_1 0 rfl rfl)
theorem dX11_addsNote_25 : decode cX11_addsNote 25 = .ok (.imul, 1) := dk_104 (dk_at dksX11_addsNote_1 1 rfl rfl)
theorem dX11_addsNote_26 : decode cX11_addsNote 26 = .ok (.iadd, 1) := dk_96 (dk_at dksX11_addsNote_1 2 rfl rfl)
theorem dX11_addsNote_27 : decode cX11_addsNote 27 = .ok (.iconst 1, 1) := dk_4 (dk_at dksX11_addsNote_1 3 rfl rfl)
theorem dX11_addsNote_28 : decode cX11_addsNote 28 = .ok (.iadd, 1) := dk_96 (dk_at dksX11_addsNote_1 4 rfl rfl)
theorem dX11_addsNote_29 : decode cX11_addsNote 29 = .ok (.dup2, 1) := dk_92 (dk_at dksX11_addsNote_1 5 rfl rfl)
theorem dX11_addsNote_30 : decode cX11_addsNote 30 = .ok (.iaload, 1) := dk_46 (dk_at dksX11_addsNote_1 6 rfl rfl)
theorem dX11_addsNote_31 : decode cX11_addsNote 31 = .ok (.iconst 1, 1) := dk_4 (dk_at dksX11_addsNote_1 7 rfl rfl)
theorem dX11_addsNote_32 : decode cX11_addsNote 32 = .ok (.iadd, 1) := dk_96 (dk_at dksX11_addsNote_1 8 rfl rfl)
theorem dX11_addsNote_33 : decode cX11_addsNote 33 = .ok (.iastore, 1) := dk_79 (dk_at dksX11_addsNote_1 9 rfl rfl)
theorem dX11_addsNote_34 : decode cX11_addsNote 34 = .ok (.aload_n 0, 1) := dk_42 (dk_at dksX11_addsNote_1 10 rfl rfl)
theorem dX11_addsNote_35 : decode cX11_addsNote 35 = .ok (.iload_n 1, 1) := dk_27 (dk_at dksX11_addsNote_1 11 rfl rfl)
theorem dX11_addsNote_36 : decode cX11_addsNote 36 = .ok (.invokevirtual 251, 3) := dk_182 0 251 (dk_at dksX11_addsNote_1 12 rfl rfl)
theorem dX11_addsNote_39 : decode cX11_addsNote 39 = .ok (.iconst 1, 1) := dk_4 (dk_at dksX11_addsNote_1 15 rfl rfl)
theorem dX11_addsNote_40 : decode cX11_addsNote 40 = .ok (.isub, 1) := dk_100 (dk_at dksX11_addsNote_1 16 rfl rfl)
theorem dX11_addsNote_41 : decode cX11_addsNote 41 = .ok (.ireturn, 1) := dk_172 (dk_at dksX11_addsNote_1 17 rfl rfl)
def dkwX11_setsNote_2 : List UInt8 := [180, 0, 13, 21, 7, 6, 96, 21, 6, 79, 177]
abbrev dktX11_setsNote_2 : List UInt8 := dkwX11_setsNote_2 ++ []
def dkwX11_setsNote_1 : List UInt8 := [180, 0, 13, 21, 7, 4, 96, 21, 4, 79, 42, 180, 0, 13, 21, 7, 5, 96, 21, 5, 79, 42]
abbrev dktX11_setsNote_1 : List UInt8 := dkwX11_setsNote_1 ++ dktX11_setsNote_2
def dkwX11_setsNote_0 : List UInt8 := [16, 119, 16, 98, 27, 104, 96, 5, 96, 7, 28, 104, 96, 54, 7, 42, 180, 0, 13, 21, 7, 29, 79, 42]
abbrev dktX11_setsNote_0 : List UInt8 := dkwX11_setsNote_0 ++ dktX11_setsNote_1
theorem dksX11_setsNote_0 : cX11_setsNote.data.toList.drop 0 = dktX11_setsNote_0 := by decide +kernel
theorem dksX11_setsNote_1 : cX11_setsNote.data.toList.drop 24 = dktX11_setsNote_1 := dk_seg dksX11_setsNote_0 24 rfl rfl
theorem dksX11_setsNote_2 : cX11_setsNote.data.toList.drop 46 = dktX11_setsNote_2 := dk_seg dksX11_setsNote_1 22 rfl rfl
theorem dX11_setsNote_0 : decode cX11_setsNote 0 = .ok (.bipush 119, 2) := dk_16 119 (dk_at dksX11_setsNote_0 0 rfl rfl)
theorem dX11_setsNote_2 : decode cX11_setsNote 2 = .ok (.bipush 98, 2) := dk_16 98 (dk_at dksX11_setsNote_0 2 rfl rfl)
theorem dX11_setsNote_4 : decode cX11_setsNote 4 = .ok (.iload_n 1, 1) := dk_27 (dk_at dksX11_setsNote_0 4 rfl rfl)
theorem dX11_setsNote_5 : decode cX11_setsNote 5 = .ok (.imul, 1) := dk_104 (dk_at dksX11_setsNote_0 5 rfl rfl)
theorem dX11_setsNote_6 : decode cX11_setsNote 6 = .ok (.iadd, 1) := dk_96 (dk_at dksX11_setsNote_0 6 rfl rfl)
theorem dX11_setsNote_7 : decode cX11_setsNote 7 = .ok (.iconst 2, 1) := dk_5 (dk_at dksX11_setsNote_0 7 rfl rfl)
theorem dX11_setsNote_8 : decode cX11_setsNote 8 = .ok (.iadd, 1) := dk_96 (dk_at dksX11_setsNote_0 8 rfl rfl)
theorem dX11_setsNote_9 : decode cX11_setsNote 9 = .ok (.iconst 4, 1) := dk_7 (dk_at dksX11_setsNote_0 9 rfl rfl)
theorem dX11_setsNote_10 : decode cX11_setsNote 10 = .ok (.iload_n 2, 1) := dk_28 (dk_at dksX11_setsNote_0 10 rfl rfl)
theorem dX11_setsNote_11 : decode cX11_setsNote 11 = .ok (.imul, 1) := dk_104 (dk_at dksX11_setsNote_0 11 rfl rfl)
theorem dX11_setsNote_12 : decode cX11_setsNote 12 = .ok (.iadd, 1) := dk_96 (dk_at dksX11_setsNote_0 12 rfl rfl)
theorem dX11_setsNote_13 : decode cX11_setsNote 13 = .ok (.istore 7, 2) := dk_54 7 (dk_at dksX11_setsNote_0 13 rfl rfl)
theorem dX11_setsNote_15 : decode cX11_setsNote 15 = .ok (.aload_n 0, 1) := dk_42 (dk_at dksX11_setsNote_0 15 rfl rfl)
theorem dX11_setsNote_16 : decode cX11_setsNote 16 = .ok (.getfield 13, 3) := dk_180 0 13 (dk_at dksX11_setsNote_0 16 rfl rfl)
theorem dX11_setsNote_19 : decode cX11_setsNote 19 = .ok (.iload 7, 2) := dk_21 7 (dk_at dksX11_setsNote_0 19 rfl rfl)
theorem dX11_setsNote_21 : decode cX11_setsNote 21 = .ok (.iload_n 3, 1) := dk_29 (dk_at dksX11_setsNote_0 21 rfl rfl)
theorem dX11_setsNote_22 : decode cX11_setsNote 22 = .ok (.iastore, 1) := dk_79 (dk_at dksX11_setsNote_0 22 rfl rfl)
theorem dX11_setsNote_23 : decode cX11_setsNote 23 = .ok (.aload_n 0, 1) := dk_42 (dk_at dksX11_setsNote_0 23 rfl rfl)
theorem dX11_setsNote_24 : decode cX11_setsNote 24 = .ok (.getfield 13, 3) := dk_180 0 13 (dk_at dksX11_setsNote_1 0 rfl rfl)
theorem dX11_setsNote_27 : decode cX11_setsNote 27 = .ok (.iload 7, 2) := dk_21 7 (dk_at dksX11_setsNote_1 3 rfl rfl)
theorem dX11_setsNote_29 : decode cX11_setsNote 29 = .ok (.iconst 1, 1) := dk_4 (dk_at dksX11_setsNote_1 5 rfl rfl)
theorem dX11_setsNote_30 : decode cX11_setsNote 30 = .ok (.iadd, 1) := dk_96 (dk_at dksX11_setsNote_1 6 rfl rfl)
theorem dX11_setsNote_31 : decode cX11_setsNote 31 = .ok (.iload 4, 2) := dk_21 4 (dk_at dksX11_setsNote_1 7 rfl rfl)
theorem dX11_setsNote_33 : decode cX11_setsNote 33 = .ok (.iastore, 1) := dk_79 (dk_at dksX11_setsNote_1 9 rfl rfl)
theorem dX11_setsNote_34 : decode cX11_setsNote 34 = .ok (.aload_n 0, 1) := dk_42 (dk_at dksX11_setsNote_1 10 rfl rfl)
theorem dX11_setsNote_35 : decode cX11_setsNote 35 = .ok (.getfield 13, 3) := dk_180 0 13 (dk_at dksX11_setsNote_1 11 rfl rfl)
theorem dX11_setsNote_38 : decode cX11_setsNote 38 = .ok (.iload 7, 2) := dk_21 7 (dk_at dksX11_setsNote_1 14 rfl rfl)
theorem dX11_setsNote_40 : decode cX11_setsNote 40 = .ok (.iconst 2, 1) := dk_5 (dk_at dksX11_setsNote_1 16 rfl rfl)
theorem dX11_setsNote_41 : decode cX11_setsNote 41 = .ok (.iadd, 1) := dk_96 (dk_at dksX11_setsNote_1 17 rfl rfl)
theorem dX11_setsNote_42 : decode cX11_setsNote 42 = .ok (.iload 5, 2) := dk_21 5 (dk_at dksX11_setsNote_1 18 rfl rfl)
theorem dX11_setsNote_44 : decode cX11_setsNote 44 = .ok (.iastore, 1) := dk_79 (dk_at dksX11_setsNote_1 20 rfl rfl)
theorem dX11_setsNote_45 : decode cX11_setsNote 45 = .ok (.aload_n 0, 1) := dk_42 (dk_at dksX11_setsNote_1 21 rfl rfl)
theorem dX11_setsNote_46 : decode cX11_setsNote 46 = .ok (.getfield 13, 3) := dk_180 0 13 (dk_at dksX11_setsNote_2 0 rfl rfl)
theorem dX11_setsNote_49 : decode cX11_setsNote 49 = .ok (.iload 7, 2) := dk_21 7 (dk_at dksX11_setsNote_2 3 rfl rfl)
theorem dX11_setsNote_51 : decode cX11_setsNote 51 = .ok (.iconst 3, 1) := dk_6 (dk_at dksX11_setsNote_2 5 rfl rfl)
theorem dX11_setsNote_52 : decode cX11_setsNote 52 = .ok (.iadd, 1) := dk_96 (dk_at dksX11_setsNote_2 6 rfl rfl)
theorem dX11_setsNote_53 : decode cX11_setsNote 53 = .ok (.iload 6, 2) := dk_21 6 (dk_at dksX11_setsNote_2 7 rfl rfl)
theorem dX11_setsNote_55 : decode cX11_setsNote 55 = .ok (.iastore, 1) := dk_79 (dk_at dksX11_setsNote_2 9 rfl rfl)
theorem dX11_setsNote_56 : decode cX11_setsNote 56 = .ok (.return_, 1) := dk_177 (dk_at dksX11_setsNote_2 10 rfl rfl)
def dkwX11_change_5 : List UInt8 := [21, 6, 182, 0, 255, 21, 7, 172]
abbrev dktX11_change_5 : List UInt8 := dkwX11_change_5 ++ []
def dkwX11_change_4 : List UInt8 := [182, 1, 16, 21, 6, 159, 0, 7, 4, 167, 0, 4, 3, 54, 7, 42, 27, 28, 29, 21, 4, 21, 5]
abbrev dktX11_change_4 : List UInt8 := dkwX11_change_4 ++ dktX11_change_5
def dkwX11_change_3 : List UInt8 := [182, 1, 16, 21, 4, 160, 0, 27, 42, 27, 28, 5, 182, 1, 16, 21, 5, 160, 0, 15, 42, 27, 28, 6]
abbrev dktX11_change_3 : List UInt8 := dkwX11_change_3 ++ dktX11_change_4
def dkwX11_change_2 : List UInt8 := [182, 0, 235, 153, 0, 5, 3, 172, 42, 27, 28, 3, 182, 1, 16, 29, 160, 0, 39, 42, 27, 28, 4]
abbrev dktX11_change_2 : List UInt8 := dkwX11_change_2 ++ dktX11_change_3
def dkwX11_change_1 : List UInt8 := [167, 0, 4, 3, 4, 182, 0, 235, 154, 0, 20, 42, 21, 4, 21, 5, 21, 6, 184, 1, 6, 5]
abbrev dktX11_change_1 : List UInt8 := dkwX11_change_1 ++ dktX11_change_2
def dkwX11_change_0 : List UInt8 := [42, 3, 181, 0, 3, 42, 42, 27, 28, 182, 1, 13, 154, 0, 11, 42, 29, 182, 0, 245, 153, 0, 7, 4]
abbrev dktX11_change_0 : List UInt8 := dkwX11_change_0 ++ dktX11_change_1
theorem dksX11_change_0 : cX11_change.data.toList.drop 0 = dktX11_change_0 := by decide +kernel
theorem dksX11_change_1 : cX11_change.data.toList.drop 24 = dktX11_change_1 := dk_seg dksX11_change_0 24 rfl rfl
theorem dksX11_change_2 : cX11_change.data.toList.drop 46 = dktX11_change_2 := dk_seg dksX11_change_1 22 rfl rfl
theorem dksX11_change_3 : cX11_change.data.toList.drop 69 = dktX11_change_3 := dk_seg dksX11_change_2 23 rfl rfl
theorem dksX11_change_4 : cX11_change.data.toList.drop 93 = dktX11_change_4 := dk_seg dksX11_change_3 24 rfl rfl
theorem dksX11_change_5 : cX11_change.data.toList.drop 116 = dktX11_change_5 := dk_seg dksX11_change_4 23 rfl rfl
theorem dX11_change_0 : decode cX11_change 0 = .ok (.aload_n 0, 1) := dk_42 (dk_at dksX11_change_0 0 rfl rfl)
theorem dX11_change_1 : decode cX11_change 1 = .ok (.iconst 0, 1) := dk_3 (dk_at dksX11_change_0 1 rfl rfl)
theorem dX11_change_2 : decode cX11_change 2 = .ok (.putfield 3, 3) := dk_181 0 3 (dk_at dksX11_change_0 2 rfl rfl)
theorem dX11_change_5 : decode cX11_change 5 = .ok (.aload_n 0, 1) := dk_42 (dk_at dksX11_change_0 5 rfl rfl)
theorem dX11_change_6 : decode cX11_change 6 = .ok (.aload_n 0, 1) := dk_42 (dk_at dksX11_change_0 6 rfl rfl)
theorem dX11_change_7 : decode cX11_change 7 = .ok (.iload_n 1, 1) := dk_27 (dk_at dksX11_change_0 7 rfl rfl)
theorem dX11_change_8 : decode cX11_change 8 = .ok (.iload_n 2, 1) := dk_28 (dk_at dksX11_change_0 8 rfl rfl)
theorem dX11_change_9 : decode cX11_change 9 = .ok (.invokevirtual 269, 3) := dk_182 1 13 (dk_at dksX11_change_0 9 rfl rfl)
theorem dX11_change_12 : decode cX11_change 12 = .ok (.ifCond .ne 11, 3) := dk_154 0 11 (dk_at dksX11_change_0 12 rfl rfl)
theorem dX11_change_15 : decode cX11_change 15 = .ok (.aload_n 0, 1) := dk_42 (dk_at dksX11_change_0 15 rfl rfl)
theorem dX11_change_16 : decode cX11_change 16 = .ok (.iload_n 3, 1) := dk_29 (dk_at dksX11_change_0 16 rfl rfl)
theorem dX11_change_17 : decode cX11_change 17 = .ok (.invokevirtual 245, 3) := dk_182 0 245 (dk_at dksX11_change_0 17 rfl rfl)
theorem dX11_change_20 : decode cX11_change 20 = .ok (.ifCond .eq 7, 3) := dk_153 0 7 (dk_at dksX11_change_0 20 rfl rfl)
theorem dX11_change_23 : decode cX11_change 23 = .ok (.iconst 1, 1) := dk_4 (dk_at dksX11_change_0 23 rfl rfl)
theorem dX11_change_24 : decode cX11_change 24 = .ok (.goto 4, 3) := dk_167 0 4 (dk_at dksX11_change_1 0 rfl rfl)
theorem dX11_change_27 : decode cX11_change 27 = .ok (.iconst 0, 1) := dk_3 (dk_at dksX11_change_1 3 rfl rfl)
theorem dX11_change_28 : decode cX11_change 28 = .ok (.iconst 1, 1) := dk_4 (dk_at dksX11_change_1 4 rfl rfl)
theorem dX11_change_29 : decode cX11_change 29 = .ok (.invokevirtual 235, 3) := dk_182 0 235 (dk_at dksX11_change_1 5 rfl rfl)
theorem dX11_change_32 : decode cX11_change 32 = .ok (.ifCond .ne 20, 3) := dk_154 0 20 (dk_at dksX11_change_1 8 rfl rfl)
theorem dX11_change_35 : decode cX11_change 35 = .ok (.aload_n 0, 1) := dk_42 (dk_at dksX11_change_1 11 rfl rfl)
theorem dX11_change_36 : decode cX11_change 36 = .ok (.iload 4, 2) := dk_21 4 (dk_at dksX11_change_1 12 rfl rfl)
theorem dX11_change_38 : decode cX11_change 38 = .ok (.iload 5, 2) := dk_21 5 (dk_at dksX11_change_1 14 rfl rfl)
theorem dX11_change_40 : decode cX11_change 40 = .ok (.iload 6, 2) := dk_21 6 (dk_at dksX11_change_1 16 rfl rfl)
theorem dX11_change_42 : decode cX11_change 42 = .ok (.invokestatic 262, 3) := dk_184 1 6 (dk_at dksX11_change_1 18 rfl rfl)
theorem dX11_change_45 : decode cX11_change 45 = .ok (.iconst 2, 1) := dk_5 (dk_at dksX11_change_1 21 rfl rfl)
theorem dX11_change_46 : decode cX11_change 46 = .ok (.invokevirtual 235, 3) := dk_182 0 235 (dk_at dksX11_change_2 0 rfl rfl)
theorem dX11_change_49 : decode cX11_change 49 = .ok (.ifCond .eq 5, 3) := dk_153 0 5 (dk_at dksX11_change_2 3 rfl rfl)
theorem dX11_change_52 : decode cX11_change 52 = .ok (.iconst 0, 1) := dk_3 (dk_at dksX11_change_2 6 rfl rfl)
theorem dX11_change_53 : decode cX11_change 53 = .ok (.ireturn, 1) := dk_172 (dk_at dksX11_change_2 7 rfl rfl)
theorem dX11_change_54 : decode cX11_change 54 = .ok (.aload_n 0, 1) := dk_42 (dk_at dksX11_change_2 8 rfl rfl)
theorem dX11_change_55 : decode cX11_change 55 = .ok (.iload_n 1, 1) := dk_27 (dk_at dksX11_change_2 9 rfl rfl)
theorem dX11_change_56 : decode cX11_change 56 = .ok (.iload_n 2, 1) := dk_28 (dk_at dksX11_change_2 10 rfl rfl)
theorem dX11_change_57 : decode cX11_change 57 = .ok (.iconst 0, 1) := dk_3 (dk_at dksX11_change_2 11 rfl rfl)
theorem dX11_change_58 : decode cX11_change 58 = .ok (.invokevirtual 272, 3) := dk_182 1 16 (dk_at dksX11_change_2 12 rfl rfl)
theorem dX11_change_61 : decode cX11_change 61 = .ok (.iload_n 3, 1) := dk_29 (dk_at dksX11_change_2 15 rfl rfl)
theorem dX11_change_62 : decode cX11_change 62 = .ok (.if_icmp .ne 39, 3) := dk_160 0 39 (dk_at dksX11_change_2 16 rfl rfl)
theorem dX11_change_65 : decode cX11_change 65 = .ok (.aload_n 0, 1) := dk_42 (dk_at dksX11_change_2 19 rfl rfl)
theorem dX11_change_66 : decode cX11_change 66 = .ok (.iload_n 1, 1) := dk_27 (dk_at dksX11_change_2 20 rfl rfl)
theorem dX11_change_67 : decode cX11_change 67 = .ok (.iload_n 2, 1) := dk_28 (dk_at dksX11_change_2 21 rfl rfl)
theorem dX11_change_68 : decode cX11_change 68 = .ok (.iconst 1, 1) := dk_4 (dk_at dksX11_change_2 22 rfl rfl)
theorem dX11_change_69 : decode cX11_change 69 = .ok (.invokevirtual 272, 3) := dk_182 1 16 (dk_at dksX11_change_3 0 rfl rfl)
theorem dX11_change_72 : decode cX11_change 72 = .ok (.iload 4, 2) := dk_21 4 (dk_at dksX11_change_3 3 rfl rfl)
theorem dX11_change_74 : decode cX11_change 74 = .ok (.if_icmp .ne 27, 3) := dk_160 0 27 (dk_at dksX11_change_3 5 rfl rfl)
theorem dX11_change_77 : decode cX11_change 77 = .ok (.aload_n 0, 1) := dk_42 (dk_at dksX11_change_3 8 rfl rfl)
theorem dX11_change_78 : decode cX11_change 78 = .ok (.iload_n 1, 1) := dk_27 (dk_at dksX11_change_3 9 rfl rfl)
theorem dX11_change_79 : decode cX11_change 79 = .ok (.iload_n 2, 1) := dk_28 (dk_at dksX11_change_3 10 rfl rfl)
theorem dX11_change_80 : decode cX11_change 80 = .ok (.iconst 2, 1) := dk_5 (dk_at dksX11_change_3 11 rfl rfl)
theorem dX11_change_81 : decode cX11_change 81 = .ok (.invokevirtual 272, 3) := dk_182 1 16 (dk_at dksX11_change_3 12 rfl rfl)
theorem dX11_change_84 : decode cX11_change 84 = .ok (.iload 5, 2) := dk_21 5 (dk_at dksX11_change_3 15 rfl rfl)
theorem dX11_change_86 : decode cX11_change 86 = .ok (.if_icmp .ne 15, 3) := dk_160 0 15 (dk_at dksX11_change_3 17 rfl rfl)
theorem dX11_change_89 : decode cX11_change 89 = .ok (.aload_n 0, 1) := dk_42 (dk_at dksX11_change_3 20 rfl rfl)
theorem dX11_change_90 : decode cX11_change 90 = .ok (.iload_n 1, 1) := dk_27 (dk_at dksX11_change_3 21 rfl rfl)
theorem dX11_change_91 : decode cX11_change 91 = .ok (.iload_n 2, 1) := dk_28 (dk_at dksX11_change_3 22 rfl rfl)
theorem dX11_change_92 : decode cX11_change 92 = .ok (.iconst 3, 1) := dk_6 (dk_at dksX11_change_3 23 rfl rfl)
theorem dX11_change_93 : decode cX11_change 93 = .ok (.invokevirtual 272, 3) := dk_182 1 16 (dk_at dksX11_change_4 0 rfl rfl)
theorem dX11_change_96 : decode cX11_change 96 = .ok (.iload 6, 2) := dk_21 6 (dk_at dksX11_change_4 3 rfl rfl)
theorem dX11_change_98 : decode cX11_change 98 = .ok (.if_icmp .eq 7, 3) := dk_159 0 7 (dk_at dksX11_change_4 5 rfl rfl)
theorem dX11_change_101 : decode cX11_change 101 = .ok (.iconst 1, 1) := dk_4 (dk_at dksX11_change_4 8 rfl rfl)
theorem dX11_change_102 : decode cX11_change 102 = .ok (.goto 4, 3) := dk_167 0 4 (dk_at dksX11_change_4 9 rfl rfl)
theorem dX11_change_105 : decode cX11_change 105 = .ok (.iconst 0, 1) := dk_3 (dk_at dksX11_change_4 12 rfl rfl)
theorem dX11_change_106 : decode cX11_change 106 = .ok (.istore 7, 2) := dk_54 7 (dk_at dksX11_change_4 13 rfl rfl)
theorem dX11_change_108 : decode cX11_change 108 = .ok (.aload_n 0, 1) := dk_42 (dk_at dksX11_change_4 15 rfl rfl)
theorem dX11_change_109 : decode cX11_change 109 = .ok (.iload_n 1, 1) := dk_27 (dk_at dksX11_change_4 16 rfl rfl)
theorem dX11_change_110 : decode cX11_change 110 = .ok (.iload_n 2, 1) := dk_28 (dk_at dksX11_change_4 17 rfl rfl)
theorem dX11_change_111 : decode cX11_change 111 = .ok (.iload_n 3, 1) := dk_29 (dk_at dksX11_change_4 18 rfl rfl)
theorem dX11_change_112 : decode cX11_change 112 = .ok (.iload 4, 2) := dk_21 4 (dk_at dksX11_change_4 19 rfl rfl)
theorem dX11_change_114 : decode cX11_change 114 = .ok (.iload 5, 2) := dk_21 5 (dk_at dksX11_change_4 21 rfl rfl)
theorem dX11_change_116 : decode cX11_change 116 = .ok (.iload 6, 2) := dk_21 6 (dk_at dksX11_change_5 0 rfl rfl)
theorem dX11_change_118 : decode cX11_change 118 = .ok (.invokevirtual 255, 3) := dk_182 0 255 (dk_at dksX11_change_5 2 rfl rfl)
theorem dX11_change_121 : decode cX11_change 121 = .ok (.iload 7, 2) := dk_21 7 (dk_at dksX11_change_5 5 rfl rfl)
theorem dX11_change_123 : decode cX11_change 123 = .ok (.ireturn, 1) := dk_172 (dk_at dksX11_change_5 7 rfl rfl)
def dkwX11_noNote_1 : List UInt8 := [167, 0, 4, 3, 172]
abbrev dktX11_noNote_1 : List UInt8 := dkwX11_noNote_1 ++ []
def dkwX11_noNote_0 : List UInt8 := [42, 27, 182, 1, 3, 154, 0, 18, 28, 3, 42, 27, 182, 0, 251, 4, 100, 184, 0, 106, 154, 0, 7, 4]
abbrev dktX11_noNote_0 : List UInt8 := dkwX11_noNote_0 ++ dktX11_noNote_1
theorem dksX11_noNote_0 : cX11_noNote.data.toList.drop 0 = dktX11_noNote_0 := by decide +kernel
theorem dksX11_noNote_1 : cX11_noNote.data.toList.drop 24 = dktX11_noNote_1 := dk_seg dksX11_noNote_0 24 rfl rfl
theorem dX11_noNote_0 : decode cX11_noNote 0 = .ok (.aload_n 0, 1) := dk_42 (dk_at dksX11_noNote_0 0 rfl rfl)
theorem dX11_noNote_1 : decode cX11_noNote 1 = .ok (.iload_n 1, 1) := dk_27 (dk_at dksX11_noNote_0 1 rfl rfl)
theorem dX11_noNote_2 : decode cX11_noNote 2 = .ok (.invokevirtual 259, 3) := dk_182 1 3 (dk_at dksX11_noNote_0 2 rfl rfl)
theorem dX11_noNote_5 : decode cX11_noNote 5 = .ok (.ifCond .ne 18, 3) := dk_154 0 18 (dk_at dksX11_noNote_0 5 rfl rfl)
theorem dX11_noNote_8 : decode cX11_noNote 8 = .ok (.iload_n 2, 1) := dk_28 (dk_at dksX11_noNote_0 8 rfl rfl)
theorem dX11_noNote_9 : decode cX11_noNote 9 = .ok (.iconst 0, 1) := dk_3 (dk_at dksX11_noNote_0 9 rfl rfl)
theorem dX11_noNote_10 : decode cX11_noNote 10 = .ok (.aload_n 0, 1) := dk_42 (dk_at dksX11_noNote_0 10 rfl rfl)
theorem dX11_noNote_11 : decode cX11_noNote 11 = .ok (.iload_n 1, 1) := dk_27 (dk_at dksX11_noNote_0 11 rfl rfl)
theorem dX11_noNote_12 : decode cX11_noNote 12 = .ok (.invokevirtual 251, 3) := dk_182 0 251 (dk_at dksX11_noNote_0 12 rfl rfl)
theorem dX11_noNote_15 : decode cX11_noNote 15 = .ok (.iconst 1, 1) := dk_4 (dk_at dksX11_noNote_0 15 rfl rfl)
theorem dX11_noNote_16 : decode cX11_noNote 16 = .ok (.isub, 1) := dk_100 (dk_at dksX11_noNote_0 16 rfl rfl)
theorem dX11_noNote_17 : decode cX11_noNote 17 = .ok (.invokestatic 106, 3) := dk_184 0 106 (dk_at dksX11_noNote_0 17 rfl rfl)
theorem dX11_noNote_20 : decode cX11_noNote 20 = .ok (.ifCond .ne 7, 3) := dk_154 0 7 (dk_at dksX11_noNote_0 20 rfl rfl)
theorem dX11_noNote_23 : decode cX11_noNote 23 = .ok (.iconst 1, 1) := dk_4 (dk_at dksX11_noNote_0 23 rfl rfl)
theorem dX11_noNote_24 : decode cX11_noNote 24 = .ok (.goto 4, 3) := dk_167 0 4 (dk_at dksX11_noNote_1 0 rfl rfl)
theorem dX11_noNote_27 : decode cX11_noNote 27 = .ok (.iconst 0, 1) := dk_3 (dk_at dksX11_noNote_1 3 rfl rfl)
theorem dX11_noNote_28 : decode cX11_noNote 28 = .ok (.ireturn, 1) := dk_172 (dk_at dksX11_noNote_1 4 rfl rfl)
def dkwX11_ofNote_0 : List UInt8 := [42, 27, 5, 7, 28, 104, 96, 29, 96, 182, 0, 114, 172]
abbrev dktX11_ofNote_0 : List UInt8 := dkwX11_ofNote_0 ++ []
theorem dksX11_ofNote_0 : cX11_ofNote.data.toList.drop 0 = dktX11_ofNote_0 := by decide +kernel
theorem dX11_ofNote_0 : decode cX11_ofNote 0 = .ok (.aload_n 0, 1) := dk_42 (dk_at dksX11_ofNote_0 0 rfl rfl)
theorem dX11_ofNote_1 : decode cX11_ofNote 1 = .ok (.iload_n 1, 1) := dk_27 (dk_at dksX11_ofNote_0 1 rfl rfl)
theorem dX11_ofNote_2 : decode cX11_ofNote 2 = .ok (.iconst 2, 1) := dk_5 (dk_at dksX11_ofNote_0 2 rfl rfl)
theorem dX11_ofNote_3 : decode cX11_ofNote 3 = .ok (.iconst 4, 1) := dk_7 (dk_at dksX11_ofNote_0 3 rfl rfl)
theorem dX11_ofNote_4 : decode cX11_ofNote 4 = .ok (.iload_n 2, 1) := dk_28 (dk_at dksX11_ofNote_0 4 rfl rfl)
theorem dX11_ofNote_5 : decode cX11_ofNote 5 = .ok (.imul, 1) := dk_104 (dk_at dksX11_ofNote_0 5 rfl rfl)
theorem dX11_ofNote_6 : decode cX11_ofNote 6 = .ok (.iadd, 1) := dk_96 (dk_at dksX11_ofNote_0 6 rfl rfl)
theorem dX11_ofNote_7 : decode cX11_ofNote 7 = .ok (.iload_n 3, 1) := dk_29 (dk_at dksX11_ofNote_0 7 rfl rfl)
theorem dX11_ofNote_8 : decode cX11_ofNote 8 = .ok (.iadd, 1) := dk_96 (dk_at dksX11_ofNote_0 8 rfl rfl)
theorem dX11_ofNote_9 : decode cX11_ofNote 9 = .ok (.invokevirtual 114, 3) := dk_182 0 114 (dk_at dksX11_ofNote_0 9 rfl rfl)
theorem dX11_ofNote_12 : decode cX11_ofNote 12 = .ok (.ireturn, 1) := dk_172 (dk_at dksX11_ofNote_0 12 rfl rfl)
def dkwX11_look_2 : List UInt8 := [28, 29, 182, 1, 16, 172]
abbrev dktX11_look_2 : List UInt8 := dkwX11_look_2 ++ []
def dkwX11_look_1 : List UInt8 := [184, 0, 106, 154, 0, 7, 4, 167, 0, 4, 3, 5, 182, 0, 235, 153, 0, 7, 3, 167, 0, 10, 42, 27]
abbrev dktX11_look_1 : List UInt8 := dkwX11_look_1 ++ dktX11_look_2
def dkwX11_look_0 : List UInt8 := [42, 3, 181, 0, 3, 42, 42, 27, 28, 182, 1, 13, 4, 182, 0, 235, 154, 0, 25, 42, 29, 3, 6]
abbrev dktX11_look_0 : List UInt8 := dkwX11_look_0 ++ dktX11_look_1
theorem dksX11_look_0 : cX11_look.data.toList.drop 0 = dktX11_look_0 := by decide +kernel
theorem dksX11_look_1 : cX11_look.data.toList.drop 23 = dktX11_look_1 := dk_seg dksX11_look_0 23 rfl rfl
theorem dksX11_look_2 : cX11_look.data.toList.drop 47 = dktX11_look_2 := dk_seg dksX11_look_1 24 rfl rfl
theorem dX11_look_0 : decode cX11_look 0 = .ok (.aload_n 0, 1) := dk_42 (dk_at dksX11_look_0 0 rfl rfl)
theorem dX11_look_1 : decode cX11_look 1 = .ok (.iconst 0, 1) := dk_3 (dk_at dksX11_look_0 1 rfl rfl)
theorem dX11_look_2 : decode cX11_look 2 = .ok (.putfield 3, 3) := dk_181 0 3 (dk_at dksX11_look_0 2 rfl rfl)
theorem dX11_look_5 : decode cX11_look 5 = .ok (.aload_n 0, 1) := dk_42 (dk_at dksX11_look_0 5 rfl rfl)
theorem dX11_look_6 : decode cX11_look 6 = .ok (.aload_n 0, 1) := dk_42 (dk_at dksX11_look_0 6 rfl rfl)
theorem dX11_look_7 : decode cX11_look 7 = .ok (.iload_n 1, 1) := dk_27 (dk_at dksX11_look_0 7 rfl rfl)
theorem dX11_look_8 : decode cX11_look 8 = .ok (.iload_n 2, 1) := dk_28 (dk_at dksX11_look_0 8 rfl rfl)
theorem dX11_look_9 : decode cX11_look 9 = .ok (.invokevirtual 269, 3) := dk_182 1 13 (dk_at dksX11_look_0 9 rfl rfl)
theorem dX11_look_12 : decode cX11_look 12 = .ok (.iconst 1, 1) := dk_4 (dk_at dksX11_look_0 12 rfl rfl)
theorem dX11_look_13 : decode cX11_look 13 = .ok (.invokevirtual 235, 3) := dk_182 0 235 (dk_at dksX11_look_0 13 rfl rfl)
theorem dX11_look_16 : decode cX11_look 16 = .ok (.ifCond .ne 25, 3) := dk_154 0 25 (dk_at dksX11_look_0 16 rfl rfl)
theorem dX11_look_19 : decode cX11_look 19 = .ok (.aload_n 0, 1) := dk_42 (dk_at dksX11_look_0 19 rfl rfl)
theorem dX11_look_20 : decode cX11_look 20 = .ok (.iload_n 3, 1) := dk_29 (dk_at dksX11_look_0 20 rfl rfl)
theorem dX11_look_21 : decode cX11_look 21 = .ok (.iconst 0, 1) := dk_3 (dk_at dksX11_look_0 21 rfl rfl)
theorem dX11_look_22 : decode cX11_look 22 = .ok (.iconst 3, 1) := dk_6 (dk_at dksX11_look_0 22 rfl rfl)
theorem dX11_look_23 : decode cX11_look 23 = .ok (.invokestatic 106, 3) := dk_184 0 106 (dk_at dksX11_look_1 0 rfl rfl)
theorem dX11_look_26 : decode cX11_look 26 = .ok (.ifCond .ne 7, 3) := dk_154 0 7 (dk_at dksX11_look_1 3 rfl rfl)
theorem dX11_look_29 : decode cX11_look 29 = .ok (.iconst 1, 1) := dk_4 (dk_at dksX11_look_1 6 rfl rfl)
theorem dX11_look_30 : decode cX11_look 30 = .ok (.goto 4, 3) := dk_167 0 4 (dk_at dksX11_look_1 7 rfl rfl)
theorem dX11_look_33 : decode cX11_look 33 = .ok (.iconst 0, 1) := dk_3 (dk_at dksX11_look_1 10 rfl rfl)
theorem dX11_look_34 : decode cX11_look 34 = .ok (.iconst 2, 1) := dk_5 (dk_at dksX11_look_1 11 rfl rfl)
theorem dX11_look_35 : decode cX11_look 35 = .ok (.invokevirtual 235, 3) := dk_182 0 235 (dk_at dksX11_look_1 12 rfl rfl)
theorem dX11_look_38 : decode cX11_look 38 = .ok (.ifCond .eq 7, 3) := dk_153 0 7 (dk_at dksX11_look_1 15 rfl rfl)
theorem dX11_look_41 : decode cX11_look 41 = .ok (.iconst 0, 1) := dk_3 (dk_at dksX11_look_1 18 rfl rfl)
theorem dX11_look_42 : decode cX11_look 42 = .ok (.goto 10, 3) := dk_167 0 10 (dk_at dksX11_look_1 19 rfl rfl)
theorem dX11_look_45 : decode cX11_look 45 = .ok (.aload_n 0, 1) := dk_42 (dk_at dksX11_look_1 22 rfl rfl)
theorem dX11_look_46 : decode cX11_look 46 = .ok (.iload_n 1, 1) := dk_27 (dk_at dksX11_look_1 23 rfl rfl)
theorem dX11_look_47 : decode cX11_look 47 = .ok (.iload_n 2, 1) := dk_28 (dk_at dksX11_look_2 0 rfl rfl)
theorem dX11_look_48 : decode cX11_look 48 = .ok (.iload_n 3, 1) := dk_29 (dk_at dksX11_look_2 1 rfl rfl)
theorem dX11_look_49 : decode cX11_look 49 = .ok (.invokevirtual 272, 3) := dk_182 1 16 (dk_at dksX11_look_2 2 rfl rfl)
theorem dX11_look_52 : decode cX11_look 52 = .ok (.ireturn, 1) := dk_172 (dk_at dksX11_look_2 5 rfl rfl)
def dkwX11_price_3 : List UInt8 := [28, 79, 29, 172]
abbrev dktX11_price_3 : List UInt8 := dkwX11_price_3 ++ []
def dkwX11_price_2 : List UInt8 := [182, 0, 235, 153, 0, 5, 3, 172, 42, 180, 0, 13, 8, 27, 96, 46, 62, 42, 180, 0, 13, 8, 27, 96]
abbrev dktX11_price_2 : List UInt8 := dkwX11_price_2 ++ dktX11_price_3
def dkwX11_price_1 : List UInt8 := [182, 0, 235, 154, 0, 26, 42, 28, 3, 16, 9, 184, 0, 106, 154, 0, 7, 4, 167, 0, 4, 3, 5]
abbrev dktX11_price_1 : List UInt8 := dkwX11_price_1 ++ dktX11_price_2
def dkwX11_price_0 : List UInt8 := [42, 3, 181, 0, 3, 42, 27, 4, 16, 7, 184, 0, 106, 154, 0, 7, 4, 167, 0, 4, 3, 4]
abbrev dktX11_price_0 : List UInt8 := dkwX11_price_0 ++ dktX11_price_1
theorem dksX11_price_0 : cX11_price.data.toList.drop 0 = dktX11_price_0 := by decide +kernel
theorem dksX11_price_1 : cX11_price.data.toList.drop 22 = dktX11_price_1 := dk_seg dksX11_price_0 22 rfl rfl
theorem dksX11_price_2 : cX11_price.data.toList.drop 45 = dktX11_price_2 := dk_seg dksX11_price_1 23 rfl rfl
theorem dksX11_price_3 : cX11_price.data.toList.drop 69 = dktX11_price_3 := dk_seg dksX11_price_2 24 rfl rfl
theorem dX11_price_0 : decode cX11_price 0 = .ok (.aload_n 0, 1) := dk_42 (dk_at dksX11_price_0 0 rfl rfl)
theorem dX11_price_1 : decode cX11_price 1 = .ok (.iconst 0, 1) := dk_3 (dk_at dksX11_price_0 1 rfl rfl)
theorem dX11_price_2 : decode cX11_price 2 = .ok (.putfield 3, 3) := dk_181 0 3 (dk_at dksX11_price_0 2 rfl rfl)
theorem dX11_price_5 : decode cX11_price 5 = .ok (.aload_n 0, 1) := dk_42 (dk_at dksX11_price_0 5 rfl rfl)
theorem dX11_price_6 : decode cX11_price 6 = .ok (.iload_n 1, 1) := dk_27 (dk_at dksX11_price_0 6 rfl rfl)
theorem dX11_price_7 : decode cX11_price 7 = .ok (.iconst 1, 1) := dk_4 (dk_at dksX11_price_0 7 rfl rfl)
theorem dX11_price_8 : decode cX11_price 8 = .ok (.bipush 7, 2) := dk_16 7 (dk_at dksX11_price_0 8 rfl rfl)
theorem dX11_price_10 : decode cX11_price 10 = .ok (.invokestatic 106, 3) := dk_184 0 106 (dk_at dksX11_price_0 10 rfl rfl)
theorem dX11_price_13 : decode cX11_price 13 = .ok (.ifCond .ne 7, 3) := dk_154 0 7 (dk_at dksX11_price_0 13 rfl rfl)
theorem dX11_price_16 : decode cX11_price 16 = .ok (.iconst 1, 1) := dk_4 (dk_at dksX11_price_0 16 rfl rfl)
theorem dX11_price_17 : decode cX11_price 17 = .ok (.goto 4, 3) := dk_167 0 4 (dk_at dksX11_price_0 17 rfl rfl)
theorem dX11_price_20 : decode cX11_price 20 = .ok (.iconst 0, 1) := dk_3 (dk_at dksX11_price_0 20 rfl rfl)
theorem dX11_price_21 : decode cX11_price 21 = .ok (.iconst 1, 1) := dk_4 (dk_at dksX11_price_0 21 rfl rfl)
theorem dX11_price_22 : decode cX11_price 22 = .ok (.invokevirtual 235, 3) := dk_182 0 235 (dk_at dksX11_price_1 0 rfl rfl)
theorem dX11_price_25 : decode cX11_price 25 = .ok (.ifCond .ne 26, 3) := dk_154 0 26 (dk_at dksX11_price_1 3 rfl rfl)
theorem dX11_price_28 : decode cX11_price 28 = .ok (.aload_n 0, 1) := dk_42 (dk_at dksX11_price_1 6 rfl rfl)
theorem dX11_price_29 : decode cX11_price 29 = .ok (.iload_n 2, 1) := dk_28 (dk_at dksX11_price_1 7 rfl rfl)
theorem dX11_price_30 : decode cX11_price 30 = .ok (.iconst 0, 1) := dk_3 (dk_at dksX11_price_1 8 rfl rfl)
theorem dX11_price_31 : decode cX11_price 31 = .ok (.bipush 9, 2) := dk_16 9 (dk_at dksX11_price_1 9 rfl rfl)
theorem dX11_price_33 : decode cX11_price 33 = .ok (.invokestatic 106, 3) := dk_184 0 106 (dk_at dksX11_price_1 11 rfl rfl)
theorem dX11_price_36 : decode cX11_price 36 = .ok (.ifCond .ne 7, 3) := dk_154 0 7 (dk_at dksX11_price_1 14 rfl rfl)
theorem dX11_price_39 : decode cX11_price 39 = .ok (.iconst 1, 1) := dk_4 (dk_at dksX11_price_1 17 rfl rfl)
theorem dX11_price_40 : decode cX11_price 40 = .ok (.goto 4, 3) := dk_167 0 4 (dk_at dksX11_price_1 18 rfl rfl)
theorem dX11_price_43 : decode cX11_price 43 = .ok (.iconst 0, 1) := dk_3 (dk_at dksX11_price_1 21 rfl rfl)
theorem dX11_price_44 : decode cX11_price 44 = .ok (.iconst 2, 1) := dk_5 (dk_at dksX11_price_1 22 rfl rfl)
theorem dX11_price_45 : decode cX11_price 45 = .ok (.invokevirtual 235, 3) := dk_182 0 235 (dk_at dksX11_price_2 0 rfl rfl)
theorem dX11_price_48 : decode cX11_price 48 = .ok (.ifCond .eq 5, 3) := dk_153 0 5 (dk_at dksX11_price_2 3 rfl rfl)
theorem dX11_price_51 : decode cX11_price 51 = .ok (.iconst 0, 1) := dk_3 (dk_at dksX11_price_2 6 rfl rfl)
theorem dX11_price_52 : decode cX11_price 52 = .ok (.ireturn, 1) := dk_172 (dk_at dksX11_price_2 7 rfl rfl)
theorem dX11_price_53 : decode cX11_price 53 = .ok (.aload_n 0, 1) := dk_42 (dk_at dksX11_price_2 8 rfl rfl)
theorem dX11_price_54 : decode cX11_price 54 = .ok (.getfield 13, 3) := dk_180 0 13 (dk_at dksX11_price_2 9 rfl rfl)
theorem dX11_price_57 : decode cX11_price 57 = .ok (.iconst 5, 1) := dk_8 (dk_at dksX11_price_2 12 rfl rfl)
theorem dX11_price_58 : decode cX11_price 58 = .ok (.iload_n 1, 1) := dk_27 (dk_at dksX11_price_2 13 rfl rfl)
theorem dX11_price_59 : decode cX11_price 59 = .ok (.iadd, 1) := dk_96 (dk_at dksX11_price_2 14 rfl rfl)
theorem dX11_price_60 : decode cX11_price 60 = .ok (.iaload, 1) := dk_46 (dk_at dksX11_price_2 15 rfl rfl)
theorem dX11_price_61 : decode cX11_price 61 = .ok (.istore_n 3, 1) := dk_62 (dk_at dksX11_price_2 16 rfl rfl)
theorem dX11_price_62 : decode cX11_price 62 = .ok (.aload_n 0, 1) := dk_42 (dk_at dksX11_price_2 17 rfl rfl)
theorem dX11_price_63 : decode cX11_price 63 = .ok (.getfield 13, 3) := dk_180 0 13 (dk_at dksX11_price_2 18 rfl rfl)
theorem dX11_price_66 : decode cX11_price 66 = .ok (.iconst 5, 1) := dk_8 (dk_at dksX11_price_2 21 rfl rfl)
theorem dX11_price_67 : decode cX11_price 67 = .ok (.iload_n 1, 1) := dk_27 (dk_at dksX11_price_2 22 rfl rfl)
theorem dX11_price_68 : decode cX11_price 68 = .ok (.iadd, 1) := dk_96 (dk_at dksX11_price_2 23 rfl rfl)
theorem dX11_price_69 : decode cX11_price 69 = .ok (.iload_n 2, 1) := dk_28 (dk_at dksX11_price_3 0 rfl rfl)
theorem dX11_price_70 : decode cX11_price 70 = .ok (.iastore, 1) := dk_79 (dk_at dksX11_price_3 1 rfl rfl)
theorem dX11_price_71 : decode cX11_price 71 = .ok (.iload_n 3, 1) := dk_29 (dk_at dksX11_price_3 2 rfl rfl)
theorem dX11_price_72 : decode cX11_price 72 = .ok (.ireturn, 1) := dk_172 (dk_at dksX11_price_3 3 rfl rfl)
def dkwX11_length_1 : List UInt8 := [182, 0, 235, 153, 0, 4, 177, 42, 180, 0, 13, 6, 27, 79, 177]
abbrev dktX11_length_1 : List UInt8 := dkwX11_length_1 ++ []
def dkwX11_length_0 : List UInt8 := [42, 3, 181, 0, 3, 42, 27, 2, 16, 30, 184, 0, 106, 154, 0, 7, 4, 167, 0, 4, 3, 4]
abbrev dktX11_length_0 : List UInt8 := dkwX11_length_0 ++ dktX11_length_1
theorem dksX11_length_0 : cX11_length.data.toList.drop 0 = dktX11_length_0 := by decide +kernel
theorem dksX11_length_1 : cX11_length.data.toList.drop 22 = dktX11_length_1 := dk_seg dksX11_length_0 22 rfl rfl
theorem dX11_length_0 : decode cX11_length 0 = .ok (.aload_n 0, 1) := dk_42 (dk_at dksX11_length_0 0 rfl rfl)
theorem dX11_length_1 : decode cX11_length 1 = .ok (.iconst 0, 1) := dk_3 (dk_at dksX11_length_0 1 rfl rfl)
theorem dX11_length_2 : decode cX11_length 2 = .ok (.putfield 3, 3) := dk_181 0 3 (dk_at dksX11_length_0 2 rfl rfl)
theorem dX11_length_5 : decode cX11_length 5 = .ok (.aload_n 0, 1) := dk_42 (dk_at dksX11_length_0 5 rfl rfl)
theorem dX11_length_6 : decode cX11_length 6 = .ok (.iload_n 1, 1) := dk_27 (dk_at dksX11_length_0 6 rfl rfl)
theorem dX11_length_7 : decode cX11_length 7 = .ok (.iconst (-1), 1) := dk_2 (dk_at dksX11_length_0 7 rfl rfl)
theorem dX11_length_8 : decode cX11_length 8 = .ok (.bipush 30, 2) := dk_16 30 (dk_at dksX11_length_0 8 rfl rfl)
theorem dX11_length_10 : decode cX11_length 10 = .ok (.invokestatic 106, 3) := dk_184 0 106 (dk_at dksX11_length_0 10 rfl rfl)
theorem dX11_length_13 : decode cX11_length 13 = .ok (.ifCond .ne 7, 3) := dk_154 0 7 (dk_at dksX11_length_0 13 rfl rfl)
theorem dX11_length_16 : decode cX11_length 16 = .ok (.iconst 1, 1) := dk_4 (dk_at dksX11_length_0 16 rfl rfl)
theorem dX11_length_17 : decode cX11_length 17 = .ok (.goto 4, 3) := dk_167 0 4 (dk_at dksX11_length_0 17 rfl rfl)
theorem dX11_length_20 : decode cX11_length 20 = .ok (.iconst 0, 1) := dk_3 (dk_at dksX11_length_0 20 rfl rfl)
theorem dX11_length_21 : decode cX11_length 21 = .ok (.iconst 1, 1) := dk_4 (dk_at dksX11_length_0 21 rfl rfl)
theorem dX11_length_22 : decode cX11_length 22 = .ok (.invokevirtual 235, 3) := dk_182 0 235 (dk_at dksX11_length_1 0 rfl rfl)
theorem dX11_length_25 : decode cX11_length 25 = .ok (.ifCond .eq 4, 3) := dk_153 0 4 (dk_at dksX11_length_1 3 rfl rfl)
theorem dX11_length_28 : decode cX11_length 28 = .ok (.return_, 1) := dk_177 (dk_at dksX11_length_1 6 rfl rfl)
theorem dX11_length_29 : decode cX11_length 29 = .ok (.aload_n 0, 1) := dk_42 (dk_at dksX11_length_1 7 rfl rfl)
theorem dX11_length_30 : decode cX11_length 30 = .ok (.getfield 13, 3) := dk_180 0 13 (dk_at dksX11_length_1 8 rfl rfl)
theorem dX11_length_33 : decode cX11_length 33 = .ok (.iconst 3, 1) := dk_6 (dk_at dksX11_length_1 11 rfl rfl)
theorem dX11_length_34 : decode cX11_length 34 = .ok (.iload_n 1, 1) := dk_27 (dk_at dksX11_length_1 12 rfl rfl)
theorem dX11_length_35 : decode cX11_length 35 = .ok (.iastore, 1) := dk_79 (dk_at dksX11_length_1 13 rfl rfl)
theorem dX11_length_36 : decode cX11_length 36 = .ok (.return_, 1) := dk_177 (dk_at dksX11_length_1 14 rfl rfl)
def dkwX11_picture_7 : List UInt8 := [172]
abbrev dktX11_picture_7 : List UInt8 := dkwX11_picture_7 ++ []
def dkwX11_picture_6 : List UInt8 := [96, 29, 21, 4, 184, 0, 248, 79, 42, 180, 0, 13, 5, 92, 46, 4, 96, 79, 42, 180, 0, 13, 5, 46]
abbrev dktX11_picture_6 : List UInt8 := dkwX11_picture_6 ++ dktX11_picture_7
def dkwX11_picture_5 : List UInt8 := [180, 0, 13, 21, 5, 27, 79, 42, 180, 0, 13, 21, 5, 4, 96, 28, 79, 42, 180, 0, 13, 21, 5, 5]
abbrev dktX11_picture_5 : List UInt8 := dkwX11_picture_5 ++ dktX11_picture_6
def dkwX11_picture_4 : List UInt8 := [182, 0, 235, 153, 0, 5, 3, 172, 17, 1, 157, 6, 42, 180, 0, 13, 5, 46, 104, 96, 54, 5, 42]
abbrev dktX11_picture_4 : List UInt8 := dkwX11_picture_4 ++ dktX11_picture_5
def dkwX11_picture_3 : List UInt8 := [182, 0, 235, 154, 0, 27, 42, 42, 180, 0, 13, 5, 46, 16, 10, 160, 0, 7, 4, 167, 0, 4, 3, 6]
abbrev dktX11_picture_3 : List UInt8 := dkwX11_picture_3 ++ dktX11_picture_4
def dkwX11_picture_2 : List UInt8 := [153, 0, 18, 29, 2, 159, 0, 17, 21, 4, 3, 4, 184, 0, 106, 154, 0, 7, 4, 167, 0, 4, 3, 5]
abbrev dktX11_picture_2 : List UInt8 := dkwX11_picture_2 ++ dktX11_picture_3
def dkwX11_picture_1 : List UInt8 := [153, 0, 7, 4, 167, 0, 4, 3, 4, 182, 0, 235, 154, 0, 65, 42, 27, 3, 16, 30, 184, 0, 106]
abbrev dktX11_picture_1 : List UInt8 := dkwX11_picture_1 ++ dktX11_picture_2
def dkwX11_picture_0 : List UInt8 := [42, 3, 181, 0, 3, 42, 28, 184, 0, 242, 154, 0, 16, 29, 2, 159, 0, 15, 42, 29, 182, 0, 245]
abbrev dktX11_picture_0 : List UInt8 := dkwX11_picture_0 ++ dktX11_picture_1
theorem dksX11_picture_0 : cX11_picture.data.toList.drop 0 = dktX11_picture_0 := by decide +kernel
theorem dksX11_picture_1 : cX11_picture.data.toList.drop 23 = dktX11_picture_1 := dk_seg dksX11_picture_0 23 rfl rfl
theorem dksX11_picture_2 : cX11_picture.data.toList.drop 46 = dktX11_picture_2 := dk_seg dksX11_picture_1 23 rfl rfl
theorem dksX11_picture_3 : cX11_picture.data.toList.drop 70 = dktX11_picture_3 := dk_seg dksX11_picture_2 24 rfl rfl
theorem dksX11_picture_4 : cX11_picture.data.toList.drop 94 = dktX11_picture_4 := dk_seg dksX11_picture_3 24 rfl rfl
theorem dksX11_picture_5 : cX11_picture.data.toList.drop 117 = dktX11_picture_5 := dk_seg dksX11_picture_4 23 rfl rfl
theorem dksX11_picture_6 : cX11_picture.data.toList.drop 141 = dktX11_picture_6 := dk_seg dksX11_picture_5 24 rfl rfl
theorem dksX11_picture_7 : cX11_picture.data.toList.drop 165 = dktX11_picture_7 := dk_seg dksX11_picture_6 24 rfl rfl
theorem dX11_picture_0 : decode cX11_picture 0 = .ok (.aload_n 0, 1) := dk_42 (dk_at dksX11_picture_0 0 rfl rfl)
theorem dX11_picture_1 : decode cX11_picture 1 = .ok (.iconst 0, 1) := dk_3 (dk_at dksX11_picture_0 1 rfl rfl)
theorem dX11_picture_2 : decode cX11_picture 2 = .ok (.putfield 3, 3) := dk_181 0 3 (dk_at dksX11_picture_0 2 rfl rfl)
theorem dX11_picture_5 : decode cX11_picture 5 = .ok (.aload_n 0, 1) := dk_42 (dk_at dksX11_picture_0 5 rfl rfl)
theorem dX11_picture_6 : decode cX11_picture 6 = .ok (.iload_n 2, 1) := dk_28 (dk_at dksX11_picture_0 6 rfl rfl)
theorem dX11_picture_7 : decode cX11_picture 7 = .ok (.invokestatic 242, 3) := dk_184 0 242 (dk_at dksX11_picture_0 7 rfl rfl)
theorem dX11_picture_10 : decode cX11_picture 10 = .ok (.ifCond .ne 16, 3) := dk_154 0 16 (dk_at dksX11_picture_0 10 rfl rfl)
theorem dX11_picture_13 : decode cX11_picture 13 = .ok (.iload_n 3, 1) := dk_29 (dk_at dksX11_picture_0 13 rfl rfl)
theorem dX11_picture_14 : decode cX11_picture 14 = .ok (.iconst (-1), 1) := dk_2 (dk_at dksX11_picture_0 14 rfl rfl)
theorem dX11_picture_15 : decode cX11_picture 15 = .ok (.if_icmp .eq 15, 3) := dk_159 0 15 (dk_at dksX11_picture_0 15 rfl rfl)
theorem dX11_picture_18 : decode cX11_picture 18 = .ok (.aload_n 0, 1) := dk_42 (dk_at dksX11_picture_0 18 rfl rfl)
theorem dX11_picture_19 : decode cX11_picture 19 = .ok (.iload_n 3, 1) := dk_29 (dk_at dksX11_picture_0 19 rfl rfl)
theorem dX11_picture_20 : decode cX11_picture 20 = .ok (.invokevirtual 245, 3) := dk_182 0 245 (dk_at dksX11_picture_0 20 rfl rfl)
theorem dX11_picture_23 : decode cX11_picture 23 = .ok (.ifCond .eq 7, 3) := dk_153 0 7 (dk_at dksX11_picture_1 0 rfl rfl)
theorem dX11_picture_26 : decode cX11_picture 26 = .ok (.iconst 1, 1) := dk_4 (dk_at dksX11_picture_1 3 rfl rfl)
theorem dX11_picture_27 : decode cX11_picture 27 = .ok (.goto 4, 3) := dk_167 0 4 (dk_at dksX11_picture_1 4 rfl rfl)
theorem dX11_picture_30 : decode cX11_picture 30 = .ok (.iconst 0, 1) := dk_3 (dk_at dksX11_picture_1 7 rfl rfl)
theorem dX11_picture_31 : decode cX11_picture 31 = .ok (.iconst 1, 1) := dk_4 (dk_at dksX11_picture_1 8 rfl rfl)
theorem dX11_picture_32 : decode cX11_picture 32 = .ok (.invokevirtual 235, 3) := dk_182 0 235 (dk_at dksX11_picture_1 9 rfl rfl)
theorem dX11_picture_35 : decode cX11_picture 35 = .ok (.ifCond .ne 65, 3) := dk_154 0 65 (dk_at dksX11_picture_1 12 rfl rfl)
theorem dX11_picture_38 : decode cX11_picture 38 = .ok (.aload_n 0, 1) := dk_42 (dk_at dksX11_picture_1 15 rfl rfl)
theorem dX11_picture_39 : decode cX11_picture 39 = .ok (.iload_n 1, 1) := dk_27 (dk_at dksX11_picture_1 16 rfl rfl)
theorem dX11_picture_40 : decode cX11_picture 40 = .ok (.iconst 0, 1) := dk_3 (dk_at dksX11_picture_1 17 rfl rfl)
theorem dX11_picture_41 : decode cX11_picture 41 = .ok (.bipush 30, 2) := dk_16 30 (dk_at dksX11_picture_1 18 rfl rfl)
theorem dX11_picture_43 : decode cX11_picture 43 = .ok (.invokestatic 106, 3) := dk_184 0 106 (dk_at dksX11_picture_1 20 rfl rfl)
theorem dX11_picture_46 : decode cX11_picture 46 = .ok (.ifCond .eq 18, 3) := dk_153 0 18 (dk_at dksX11_picture_2 0 rfl rfl)
theorem dX11_picture_49 : decode cX11_picture 49 = .ok (.iload_n 3, 1) := dk_29 (dk_at dksX11_picture_2 3 rfl rfl)
theorem dX11_picture_50 : decode cX11_picture 50 = .ok (.iconst (-1), 1) := dk_2 (dk_at dksX11_picture_2 4 rfl rfl)
theorem dX11_picture_51 : decode cX11_picture 51 = .ok (.if_icmp .eq 17, 3) := dk_159 0 17 (dk_at dksX11_picture_2 5 rfl rfl)
theorem dX11_picture_54 : decode cX11_picture 54 = .ok (.iload 4, 2) := dk_21 4 (dk_at dksX11_picture_2 8 rfl rfl)
theorem dX11_picture_56 : decode cX11_picture 56 = .ok (.iconst 0, 1) := dk_3 (dk_at dksX11_picture_2 10 rfl rfl)
theorem dX11_picture_57 : decode cX11_picture 57 = .ok (.iconst 1, 1) := dk_4 (dk_at dksX11_picture_2 11 rfl rfl)
theorem dX11_picture_58 : decode cX11_picture 58 = .ok (.invokestatic 106, 3) := dk_184 0 106 (dk_at dksX11_picture_2 12 rfl rfl)
theorem dX11_picture_61 : decode cX11_picture 61 = .ok (.ifCond .ne 7, 3) := dk_154 0 7 (dk_at dksX11_picture_2 15 rfl rfl)
theorem dX11_picture_64 : decode cX11_picture 64 = .ok (.iconst 1, 1) := dk_4 (dk_at dksX11_picture_2 18 rfl rfl)
theorem dX11_picture_65 : decode cX11_picture 65 = .ok (.goto 4, 3) := dk_167 0 4 (dk_at dksX11_picture_2 19 rfl rfl)
theorem dX11_picture_68 : decode cX11_picture 68 = .ok (.iconst 0, 1) := dk_3 (dk_at dksX11_picture_2 22 rfl rfl)
theorem dX11_picture_69 : decode cX11_picture 69 = .ok (.iconst 2, 1) := dk_5 (dk_at dksX11_picture_2 23 rfl rfl)
theorem dX11_picture_70 : decode cX11_picture 70 = .ok (.invokevirtual 235, 3) := dk_182 0 235 (dk_at dksX11_picture_3 0 rfl rfl)
theorem dX11_picture_73 : decode cX11_picture 73 = .ok (.ifCond .ne 27, 3) := dk_154 0 27 (dk_at dksX11_picture_3 3 rfl rfl)
theorem dX11_picture_76 : decode cX11_picture 76 = .ok (.aload_n 0, 1) := dk_42 (dk_at dksX11_picture_3 6 rfl rfl)
theorem dX11_picture_77 : decode cX11_picture 77 = .ok (.aload_n 0, 1) := dk_42 (dk_at dksX11_picture_3 7 rfl rfl)
theorem dX11_picture_78 : decode cX11_picture 78 = .ok (.getfield 13, 3) := dk_180 0 13 (dk_at dksX11_picture_3 8 rfl rfl)
theorem dX11_picture_81 : decode cX11_picture 81 = .ok (.iconst 2, 1) := dk_5 (dk_at dksX11_picture_3 11 rfl rfl)
theorem dX11_picture_82 : decode cX11_picture 82 = .ok (.iaload, 1) := dk_46 (dk_at dksX11_picture_3 12 rfl rfl)
theorem dX11_picture_83 : decode cX11_picture 83 = .ok (.bipush 10, 2) := dk_16 10 (dk_at dksX11_picture_3 13 rfl rfl)
theorem dX11_picture_85 : decode cX11_picture 85 = .ok (.if_icmp .ne 7, 3) := dk_160 0 7 (dk_at dksX11_picture_3 15 rfl rfl)
theorem dX11_picture_88 : decode cX11_picture 88 = .ok (.iconst 1, 1) := dk_4 (dk_at dksX11_picture_3 18 rfl rfl)
theorem dX11_picture_89 : decode cX11_picture 89 = .ok (.goto 4, 3) := dk_167 0 4 (dk_at dksX11_picture_3 19 rfl rfl)
theorem dX11_picture_92 : decode cX11_picture 92 = .ok (.iconst 0, 1) := dk_3 (dk_at dksX11_picture_3 22 rfl rfl)
theorem dX11_picture_93 : decode cX11_picture 93 = .ok (.iconst 3, 1) := dk_6 (dk_at dksX11_picture_3 23 rfl rfl)
theorem dX11_picture_94 : decode cX11_picture 94 = .ok (.invokevirtual 235, 3) := dk_182 0 235 (dk_at dksX11_picture_4 0 rfl rfl)
theorem dX11_picture_97 : decode cX11_picture 97 = .ok (.ifCond .eq 5, 3) := dk_153 0 5 (dk_at dksX11_picture_4 3 rfl rfl)
theorem dX11_picture_100 : decode cX11_picture 100 = .ok (.iconst 0, 1) := dk_3 (dk_at dksX11_picture_4 6 rfl rfl)
theorem dX11_picture_101 : decode cX11_picture 101 = .ok (.ireturn, 1) := dk_172 (dk_at dksX11_picture_4 7 rfl rfl)
theorem dX11_picture_102 : decode cX11_picture 102 = .ok (.sipush 413, 3) := dk_17 1 157 (dk_at dksX11_picture_4 8 rfl rfl)
theorem dX11_picture_105 : decode cX11_picture 105 = .ok (.iconst 3, 1) := dk_6 (dk_at dksX11_picture_4 11 rfl rfl)
theorem dX11_picture_106 : decode cX11_picture 106 = .ok (.aload_n 0, 1) := dk_42 (dk_at dksX11_picture_4 12 rfl rfl)
theorem dX11_picture_107 : decode cX11_picture 107 = .ok (.getfield 13, 3) := dk_180 0 13 (dk_at dksX11_picture_4 13 rfl rfl)
theorem dX11_picture_110 : decode cX11_picture 110 = .ok (.iconst 2, 1) := dk_5 (dk_at dksX11_picture_4 16 rfl rfl)
theorem dX11_picture_111 : decode cX11_picture 111 = .ok (.iaload, 1) := dk_46 (dk_at dksX11_picture_4 17 rfl rfl)
theorem dX11_picture_112 : decode cX11_picture 112 = .ok (.imul, 1) := dk_104 (dk_at dksX11_picture_4 18 rfl rfl)
theorem dX11_picture_113 : decode cX11_picture 113 = .ok (.iadd, 1) := dk_96 (dk_at dksX11_picture_4 19 rfl rfl)
theorem dX11_picture_114 : decode cX11_picture 114 = .ok (.istore 5, 2) := dk_54 5 (dk_at dksX11_picture_4 20 rfl rfl)
theorem dX11_picture_116 : decode cX11_picture 116 = .ok (.aload_n 0, 1) := dk_42 (dk_at dksX11_picture_4 22 rfl rfl)
theorem dX11_picture_117 : decode cX11_picture 117 = .ok (.getfield 13, 3) := dk_180 0 13 (dk_at dksX11_picture_5 0 rfl rfl)
theorem dX11_picture_120 : decode cX11_picture 120 = .ok (.iload 5, 2) := dk_21 5 (dk_at dksX11_picture_5 3 rfl rfl)
theorem dX11_picture_122 : decode cX11_picture 122 = .ok (.iload_n 1, 1) := dk_27 (dk_at dksX11_picture_5 5 rfl rfl)
theorem dX11_picture_123 : decode cX11_picture 123 = .ok (.iastore, 1) := dk_79 (dk_at dksX11_picture_5 6 rfl rfl)
theorem dX11_picture_124 : decode cX11_picture 124 = .ok (.aload_n 0, 1) := dk_42 (dk_at dksX11_picture_5 7 rfl rfl)
theorem dX11_picture_125 : decode cX11_picture 125 = .ok (.getfield 13, 3) := dk_180 0 13 (dk_at dksX11_picture_5 8 rfl rfl)
theorem dX11_picture_128 : decode cX11_picture 128 = .ok (.iload 5, 2) := dk_21 5 (dk_at dksX11_picture_5 11 rfl rfl)
theorem dX11_picture_130 : decode cX11_picture 130 = .ok (.iconst 1, 1) := dk_4 (dk_at dksX11_picture_5 13 rfl rfl)
theorem dX11_picture_131 : decode cX11_picture 131 = .ok (.iadd, 1) := dk_96 (dk_at dksX11_picture_5 14 rfl rfl)
theorem dX11_picture_132 : decode cX11_picture 132 = .ok (.iload_n 2, 1) := dk_28 (dk_at dksX11_picture_5 15 rfl rfl)
theorem dX11_picture_133 : decode cX11_picture 133 = .ok (.iastore, 1) := dk_79 (dk_at dksX11_picture_5 16 rfl rfl)
theorem dX11_picture_134 : decode cX11_picture 134 = .ok (.aload_n 0, 1) := dk_42 (dk_at dksX11_picture_5 17 rfl rfl)
theorem dX11_picture_135 : decode cX11_picture 135 = .ok (.getfield 13, 3) := dk_180 0 13 (dk_at dksX11_picture_5 18 rfl rfl)
theorem dX11_picture_138 : decode cX11_picture 138 = .ok (.iload 5, 2) := dk_21 5 (dk_at dksX11_picture_5 21 rfl rfl)
theorem dX11_picture_140 : decode cX11_picture 140 = .ok (.iconst 2, 1) := dk_5 (dk_at dksX11_picture_5 23 rfl rfl)
theorem dX11_picture_141 : decode cX11_picture 141 = .ok (.iadd, 1) := dk_96 (dk_at dksX11_picture_6 0 rfl rfl)
theorem dX11_picture_142 : decode cX11_picture 142 = .ok (.iload_n 3, 1) := dk_29 (dk_at dksX11_picture_6 1 rfl rfl)
theorem dX11_picture_143 : decode cX11_picture 143 = .ok (.iload 4, 2) := dk_21 4 (dk_at dksX11_picture_6 2 rfl rfl)
theorem dX11_picture_145 : decode cX11_picture 145 = .ok (.invokestatic 248, 3) := dk_184 0 248 (dk_at dksX11_picture_6 4 rfl rfl)
theorem dX11_picture_148 : decode cX11_picture 148 = .ok (.iastore, 1) := dk_79 (dk_at dksX11_picture_6 7 rfl rfl)
theorem dX11_picture_149 : decode cX11_picture 149 = .ok (.aload_n 0, 1) := dk_42 (dk_at dksX11_picture_6 8 rfl rfl)
theorem dX11_picture_150 : decode cX11_picture 150 = .ok (.getfield 13, 3) := dk_180 0 13 (dk_at dksX11_picture_6 9 rfl rfl)
theorem dX11_picture_153 : decode cX11_picture 153 = .ok (.iconst 2, 1) := dk_5 (dk_at dksX11_picture_6 12 rfl rfl)
theorem dX11_picture_154 : decode cX11_picture 154 = .ok (.dup2, 1) := dk_92 (dk_at dksX11_picture_6 13 rfl rfl)
theorem dX11_picture_155 : decode cX11_picture 155 = .ok (.iaload, 1) := dk_46 (dk_at dksX11_picture_6 14 rfl rfl)
theorem dX11_picture_156 : decode cX11_picture 156 = .ok (.iconst 1, 1) := dk_4 (dk_at dksX11_picture_6 15 rfl rfl)
theorem dX11_picture_157 : decode cX11_picture 157 = .ok (.iadd, 1) := dk_96 (dk_at dksX11_picture_6 16 rfl rfl)
theorem dX11_picture_158 : decode cX11_picture 158 = .ok (.iastore, 1) := dk_79 (dk_at dksX11_picture_6 17 rfl rfl)
theorem dX11_picture_159 : decode cX11_picture 159 = .ok (.aload_n 0, 1) := dk_42 (dk_at dksX11_picture_6 18 rfl rfl)
theorem dX11_picture_160 : decode cX11_picture 160 = .ok (.getfield 13, 3) := dk_180 0 13 (dk_at dksX11_picture_6 19 rfl rfl)
theorem dX11_picture_163 : decode cX11_picture 163 = .ok (.iconst 2, 1) := dk_5 (dk_at dksX11_picture_6 22 rfl rfl)
theorem dX11_picture_164 : decode cX11_picture 164 = .ok (.iaload, 1) := dk_46 (dk_at dksX11_picture_6 23 rfl rfl)
theorem dX11_picture_165 : decode cX11_picture 165 = .ok (.ireturn, 1) := dk_172 (dk_at dksX11_picture_7 0 rfl rfl)
def dkwX11_moves_2 : List UInt8 := [42, 3, 182, 1, 52, 167, 0, 9, 42, 3, 28, 182, 1, 55, 172]
abbrev dktX11_moves_2 : List UInt8 := dkwX11_moves_2 ++ []
def dkwX11_moves_1 : List UInt8 := [3, 4, 182, 0, 235, 153, 0, 5, 3, 172, 42, 182, 1, 46, 42, 3, 27, 182, 1, 49, 28, 156, 0, 11]
abbrev dktX11_moves_1 : List UInt8 := dkwX11_moves_1 ++ dktX11_moves_2
def dkwX11_moves_0 : List UInt8 := [42, 3, 181, 0, 3, 42, 27, 3, 4, 184, 0, 106, 153, 0, 8, 28, 2, 162, 0, 7, 4, 167, 0, 4]
abbrev dktX11_moves_0 : List UInt8 := dkwX11_moves_0 ++ dktX11_moves_1
theorem dksX11_moves_0 : cX11_moves.data.toList.drop 0 = dktX11_moves_0 := by decide +kernel
theorem dksX11_moves_1 : cX11_moves.data.toList.drop 24 = dktX11_moves_1 := dk_seg dksX11_moves_0 24 rfl rfl
theorem dksX11_moves_2 : cX11_moves.data.toList.drop 48 = dktX11_moves_2 := dk_seg dksX11_moves_1 24 rfl rfl
theorem dX11_moves_0 : decode cX11_moves 0 = .ok (.aload_n 0, 1) := dk_42 (dk_at dksX11_moves_0 0 rfl rfl)
theorem dX11_moves_1 : decode cX11_moves 1 = .ok (.iconst 0, 1) := dk_3 (dk_at dksX11_moves_0 1 rfl rfl)
theorem dX11_moves_2 : decode cX11_moves 2 = .ok (.putfield 3, 3) := dk_181 0 3 (dk_at dksX11_moves_0 2 rfl rfl)
theorem dX11_moves_5 : decode cX11_moves 5 = .ok (.aload_n 0, 1) := dk_42 (dk_at dksX11_moves_0 5 rfl rfl)
theorem dX11_moves_6 : decode cX11_moves 6 = .ok (.iload_n 1, 1) := dk_27 (dk_at dksX11_moves_0 6 rfl rfl)
theorem dX11_moves_7 : decode cX11_moves 7 = .ok (.iconst 0, 1) := dk_3 (dk_at dksX11_moves_0 7 rfl rfl)
theorem dX11_moves_8 : decode cX11_moves 8 = .ok (.iconst 1, 1) := dk_4 (dk_at dksX11_moves_0 8 rfl rfl)
theorem dX11_moves_9 : decode cX11_moves 9 = .ok (.invokestatic 106, 3) := dk_184 0 106 (dk_at dksX11_moves_0 9 rfl rfl)
theorem dX11_moves_12 : decode cX11_moves 12 = .ok (.ifCond .eq 8, 3) := dk_153 0 8 (dk_at dksX11_moves_0 12 rfl rfl)
theorem dX11_moves_15 : decode cX11_moves 15 = .ok (.iload_n 2, 1) := dk_28 (dk_at dksX11_moves_0 15 rfl rfl)
theorem dX11_moves_16 : decode cX11_moves 16 = .ok (.iconst (-1), 1) := dk_2 (dk_at dksX11_moves_0 16 rfl rfl)
theorem dX11_moves_17 : decode cX11_moves 17 = .ok (.if_icmp .ge 7, 3) := dk_162 0 7 (dk_at dksX11_moves_0 17 rfl rfl)
theorem dX11_moves_20 : decode cX11_moves 20 = .ok (.iconst 1, 1) := dk_4 (dk_at dksX11_moves_0 20 rfl rfl)
theorem dX11_moves_21 : decode cX11_moves 21 = .ok (.goto 4, 3) := dk_167 0 4 (dk_at dksX11_moves_0 21 rfl rfl)
theorem dX11_moves_24 : decode cX11_moves 24 = .ok (.iconst 0, 1) := dk_3 (dk_at dksX11_moves_1 0 rfl rfl)
theorem dX11_moves_25 : decode cX11_moves 25 = .ok (.iconst 1, 1) := dk_4 (dk_at dksX11_moves_1 1 rfl rfl)
theorem dX11_moves_26 : decode cX11_moves 26 = .ok (.invokevirtual 235, 3) := dk_182 0 235 (dk_at dksX11_moves_1 2 rfl rfl)
theorem dX11_moves_29 : decode cX11_moves 29 = .ok (.ifCond .eq 5, 3) := dk_153 0 5 (dk_at dksX11_moves_1 5 rfl rfl)
theorem dX11_moves_32 : decode cX11_moves 32 = .ok (.iconst 0, 1) := dk_3 (dk_at dksX11_moves_1 8 rfl rfl)
theorem dX11_moves_33 : decode cX11_moves 33 = .ok (.ireturn, 1) := dk_172 (dk_at dksX11_moves_1 9 rfl rfl)
theorem dX11_moves_34 : decode cX11_moves 34 = .ok (.aload_n 0, 1) := dk_42 (dk_at dksX11_moves_1 10 rfl rfl)
theorem dX11_moves_35 : decode cX11_moves 35 = .ok (.invokevirtual 302, 3) := dk_182 1 46 (dk_at dksX11_moves_1 11 rfl rfl)
theorem dX11_moves_38 : decode cX11_moves 38 = .ok (.aload_n 0, 1) := dk_42 (dk_at dksX11_moves_1 14 rfl rfl)
theorem dX11_moves_39 : decode cX11_moves 39 = .ok (.iconst 0, 1) := dk_3 (dk_at dksX11_moves_1 15 rfl rfl)
theorem dX11_moves_40 : decode cX11_moves 40 = .ok (.iload_n 1, 1) := dk_27 (dk_at dksX11_moves_1 16 rfl rfl)
theorem dX11_moves_41 : decode cX11_moves 41 = .ok (.invokevirtual 305, 3) := dk_182 1 49 (dk_at dksX11_moves_1 17 rfl rfl)
theorem dX11_moves_44 : decode cX11_moves 44 = .ok (.iload_n 2, 1) := dk_28 (dk_at dksX11_moves_1 20 rfl rfl)
theorem dX11_moves_45 : decode cX11_moves 45 = .ok (.ifCond .ge 11, 3) := dk_156 0 11 (dk_at dksX11_moves_1 21 rfl rfl)
theorem dX11_moves_48 : decode cX11_moves 48 = .ok (.aload_n 0, 1) := dk_42 (dk_at dksX11_moves_2 0 rfl rfl)
theorem dX11_moves_49 : decode cX11_moves 49 = .ok (.iconst 0, 1) := dk_3 (dk_at dksX11_moves_2 1 rfl rfl)
theorem dX11_moves_50 : decode cX11_moves 50 = .ok (.invokevirtual 308, 3) := dk_182 1 52 (dk_at dksX11_moves_2 2 rfl rfl)
theorem dX11_moves_53 : decode cX11_moves 53 = .ok (.goto 9, 3) := dk_167 0 9 (dk_at dksX11_moves_2 5 rfl rfl)
theorem dX11_moves_56 : decode cX11_moves 56 = .ok (.aload_n 0, 1) := dk_42 (dk_at dksX11_moves_2 8 rfl rfl)
theorem dX11_moves_57 : decode cX11_moves 57 = .ok (.iconst 0, 1) := dk_3 (dk_at dksX11_moves_2 9 rfl rfl)
theorem dX11_moves_58 : decode cX11_moves 58 = .ok (.iload_n 2, 1) := dk_28 (dk_at dksX11_moves_2 10 rfl rfl)
theorem dX11_moves_59 : decode cX11_moves 59 = .ok (.invokevirtual 311, 3) := dk_182 1 55 (dk_at dksX11_moves_2 11 rfl rfl)
theorem dX11_moves_62 : decode cX11_moves 62 = .ok (.ireturn, 1) := dk_172 (dk_at dksX11_moves_2 14 rfl rfl)
def dkwX11_begins_1 : List UInt8 := [132, 1, 1, 167, 255, 232, 177]
abbrev dktX11_begins_1 : List UInt8 := dkwX11_begins_1 ++ []
def dkwX11_begins_0 : List UInt8 := [3, 60, 27, 16, 36, 162, 0, 24, 42, 180, 0, 39, 27, 42, 180, 0, 13, 16, 13, 27, 96, 46, 79]
abbrev dktX11_begins_0 : List UInt8 := dkwX11_begins_0 ++ dktX11_begins_1
theorem dksX11_begins_0 : cX11_begins.data.toList.drop 0 = dktX11_begins_0 := by decide +kernel
theorem dksX11_begins_1 : cX11_begins.data.toList.drop 23 = dktX11_begins_1 := dk_seg dksX11_begins_0 23 rfl rfl
theorem dX11_begins_0 : decode cX11_begins 0 = .ok (.iconst 0, 1) := dk_3 (dk_at dksX11_begins_0 0 rfl rfl)
theorem dX11_begins_1 : decode cX11_begins 1 = .ok (.istore_n 1, 1) := dk_60 (dk_at dksX11_begins_0 1 rfl rfl)
theorem dX11_begins_2 : decode cX11_begins 2 = .ok (.iload_n 1, 1) := dk_27 (dk_at dksX11_begins_0 2 rfl rfl)
theorem dX11_begins_3 : decode cX11_begins 3 = .ok (.bipush 36, 2) := dk_16 36 (dk_at dksX11_begins_0 3 rfl rfl)
theorem dX11_begins_5 : decode cX11_begins 5 = .ok (.if_icmp .ge 24, 3) := dk_162 0 24 (dk_at dksX11_begins_0 5 rfl rfl)
theorem dX11_begins_8 : decode cX11_begins 8 = .ok (.aload_n 0, 1) := dk_42 (dk_at dksX11_begins_0 8 rfl rfl)
theorem dX11_begins_9 : decode cX11_begins 9 = .ok (.getfield 39, 3) := dk_180 0 39 (dk_at dksX11_begins_0 9 rfl rfl)
theorem dX11_begins_12 : decode cX11_begins 12 = .ok (.iload_n 1, 1) := dk_27 (dk_at dksX11_begins_0 12 rfl rfl)
theorem dX11_begins_13 : decode cX11_begins 13 = .ok (.aload_n 0, 1) := dk_42 (dk_at dksX11_begins_0 13 rfl rfl)
theorem dX11_begins_14 : decode cX11_begins 14 = .ok (.getfield 13, 3) := dk_180 0 13 (dk_at dksX11_begins_0 14 rfl rfl)
theorem dX11_begins_17 : decode cX11_begins 17 = .ok (.bipush 13, 2) := dk_16 13 (dk_at dksX11_begins_0 17 rfl rfl)
theorem dX11_begins_19 : decode cX11_begins 19 = .ok (.iload_n 1, 1) := dk_27 (dk_at dksX11_begins_0 19 rfl rfl)
theorem dX11_begins_20 : decode cX11_begins 20 = .ok (.iadd, 1) := dk_96 (dk_at dksX11_begins_0 20 rfl rfl)
theorem dX11_begins_21 : decode cX11_begins 21 = .ok (.iaload, 1) := dk_46 (dk_at dksX11_begins_0 21 rfl rfl)
theorem dX11_begins_22 : decode cX11_begins 22 = .ok (.iastore, 1) := dk_79 (dk_at dksX11_begins_0 22 rfl rfl)
theorem dX11_begins_23 : decode cX11_begins 23 = .ok (.iinc 1 1, 3) := dk_132 1 1 (dk_at dksX11_begins_1 0 rfl rfl)
theorem dX11_begins_26 : decode cX11_begins 26 = .ok (.goto (-24), 3) := dk_167 255 232 (dk_at dksX11_begins_1 3 rfl rfl)
theorem dX11_begins_29 : decode cX11_begins 29 = .ok (.return_, 1) := dk_177 (dk_at dksX11_begins_1 6 rfl rfl)
def dkwX11_finds_3 : List UInt8 := [177]
abbrev dktX11_finds_3 : List UInt8 := dkwX11_finds_3 ++ []
def dkwX11_finds_2 : List UInt8 := [27, 29, 182, 1, 23, 184, 1, 26, 28, 160, 0, 9, 42, 27, 29, 182, 1, 43, 132, 3, 1, 167, 255, 219]
abbrev dktX11_finds_2 : List UInt8 := dkwX11_finds_2 ++ dktX11_finds_3
def dkwX11_finds_1 : List UInt8 := [132, 3, 1, 167, 255, 233, 3, 62, 29, 16, 36, 162, 0, 37, 42, 27, 29, 182, 1, 23, 155, 0, 22, 42]
abbrev dktX11_finds_1 : List UInt8 := dkwX11_finds_1 ++ dktX11_finds_2
def dkwX11_finds_0 : List UInt8 := [3, 62, 29, 17, 5, 16, 162, 0, 22, 42, 180, 0, 43, 17, 5, 16, 27, 104, 29, 96, 3, 84]
abbrev dktX11_finds_0 : List UInt8 := dkwX11_finds_0 ++ dktX11_finds_1
theorem dksX11_finds_0 : cX11_finds.data.toList.drop 0 = dktX11_finds_0 := by decide +kernel
theorem dksX11_finds_1 : cX11_finds.data.toList.drop 22 = dktX11_finds_1 := dk_seg dksX11_finds_0 22 rfl rfl
theorem dksX11_finds_2 : cX11_finds.data.toList.drop 46 = dktX11_finds_2 := dk_seg dksX11_finds_1 24 rfl rfl
theorem dksX11_finds_3 : cX11_finds.data.toList.drop 70 = dktX11_finds_3 := dk_seg dksX11_finds_2 24 rfl rfl
theorem dX11_finds_0 : decode cX11_finds 0 = .ok (.iconst 0, 1) := dk_3 (dk_at dksX11_finds_0 0 rfl rfl)
theorem dX11_finds_1 : decode cX11_finds 1 = .ok (.istore_n 3, 1) := dk_62 (dk_at dksX11_finds_0 1 rfl rfl)
theorem dX11_finds_2 : decode cX11_finds 2 = .ok (.iload_n 3, 1) := dk_29 (dk_at dksX11_finds_0 2 rfl rfl)
theorem dX11_finds_3 : decode cX11_finds 3 = .ok (.sipush 1296, 3) := dk_17 5 16 (dk_at dksX11_finds_0 3 rfl rfl)
theorem dX11_finds_6 : decode cX11_finds 6 = .ok (.if_icmp .ge 22, 3) := dk_162 0 22 (dk_at dksX11_finds_0 6 rfl rfl)
theorem dX11_finds_9 : decode cX11_finds 9 = .ok (.aload_n 0, 1) := dk_42 (dk_at dksX11_finds_0 9 rfl rfl)
theorem dX11_finds_10 : decode cX11_finds 10 = .ok (.getfield 43, 3) := dk_180 0 43 (dk_at dksX11_finds_0 10 rfl rfl)
theorem dX11_finds_13 : decode cX11_finds 13 = .ok (.sipush 1296, 3) := dk_17 5 16 (dk_at dksX11_finds_0 13 rfl rfl)
theorem dX11_finds_16 : decode cX11_finds 16 = .ok (.iload_n 1, 1) := dk_27 (dk_at dksX11_finds_0 16 rfl rfl)
theorem dX11_finds_17 : decode cX11_finds 17 = .ok (.imul, 1) := dk_104 (dk_at dksX11_finds_0 17 rfl rfl)
theorem dX11_finds_18 : decode cX11_finds 18 = .ok (.iload_n 3, 1) := dk_29 (dk_at dksX11_finds_0 18 rfl rfl)
theorem dX11_finds_19 : decode cX11_finds 19 = .ok (.iadd, 1) := dk_96 (dk_at dksX11_finds_0 19 rfl rfl)
theorem dX11_finds_20 : decode cX11_finds 20 = .ok (.iconst 0, 1) := dk_3 (dk_at dksX11_finds_0 20 rfl rfl)
theorem dX11_finds_21 : decode cX11_finds 21 = .ok (.bastore, 1) := dk_84 (dk_at dksX11_finds_0 21 rfl rfl)
theorem dX11_finds_22 : decode cX11_finds 22 = .ok (.iinc 3 1, 3) := dk_132 3 1 (dk_at dksX11_finds_1 0 rfl rfl)
theorem dX11_finds_25 : decode cX11_finds 25 = .ok (.goto (-23), 3) := dk_167 255 233 (dk_at dksX11_finds_1 3 rfl rfl)
theorem dX11_finds_28 : decode cX11_finds 28 = .ok (.iconst 0, 1) := dk_3 (dk_at dksX11_finds_1 6 rfl rfl)
theorem dX11_finds_29 : decode cX11_finds 29 = .ok (.istore_n 3, 1) := dk_62 (dk_at dksX11_finds_1 7 rfl rfl)
theorem dX11_finds_30 : decode cX11_finds 30 = .ok (.iload_n 3, 1) := dk_29 (dk_at dksX11_finds_1 8 rfl rfl)
theorem dX11_finds_31 : decode cX11_finds 31 = .ok (.bipush 36, 2) := dk_16 36 (dk_at dksX11_finds_1 9 rfl rfl)
theorem dX11_finds_33 : decode cX11_finds 33 = .ok (.if_icmp .ge 37, 3) := dk_162 0 37 (dk_at dksX11_finds_1 11 rfl rfl)
theorem dX11_finds_36 : decode cX11_finds 36 = .ok (.aload_n 0, 1) := dk_42 (dk_at dksX11_finds_1 14 rfl rfl)
theorem dX11_finds_37 : decode cX11_finds 37 = .ok (.iload_n 1, 1) := dk_27 (dk_at dksX11_finds_1 15 rfl rfl)
theorem dX11_finds_38 : decode cX11_finds 38 = .ok (.iload_n 3, 1) := dk_29 (dk_at dksX11_finds_1 16 rfl rfl)
theorem dX11_finds_39 : decode cX11_finds 39 = .ok (.invokevirtual 279, 3) := dk_182 1 23 (dk_at dksX11_finds_1 17 rfl rfl)
theorem dX11_finds_42 : decode cX11_finds 42 = .ok (.ifCond .lt 22, 3) := dk_155 0 22 (dk_at dksX11_finds_1 20 rfl rfl)
theorem dX11_finds_45 : decode cX11_finds 45 = .ok (.aload_n 0, 1) := dk_42 (dk_at dksX11_finds_1 23 rfl rfl)
theorem dX11_finds_46 : decode cX11_finds 46 = .ok (.iload_n 1, 1) := dk_27 (dk_at dksX11_finds_2 0 rfl rfl)
theorem dX11_finds_47 : decode cX11_finds 47 = .ok (.iload_n 3, 1) := dk_29 (dk_at dksX11_finds_2 1 rfl rfl)
theorem dX11_finds_48 : decode cX11_finds 48 = .ok (.invokevirtual 279, 3) := dk_182 1 23 (dk_at dksX11_finds_2 2 rfl rfl)
theorem dX11_finds_51 : decode cX11_finds 51 = .ok (.invokestatic 282, 3) := dk_184 1 26 (dk_at dksX11_finds_2 5 rfl rfl)
theorem dX11_finds_54 : decode cX11_finds 54 = .ok (.iload_n 2, 1) := dk_28 (dk_at dksX11_finds_2 8 rfl rfl)
theorem dX11_finds_55 : decode cX11_finds 55 = .ok (.if_icmp .ne 9, 3) := dk_160 0 9 (dk_at dksX11_finds_2 9 rfl rfl)
theorem dX11_finds_58 : decode cX11_finds 58 = .ok (.aload_n 0, 1) := dk_42 (dk_at dksX11_finds_2 12 rfl rfl)
theorem dX11_finds_59 : decode cX11_finds 59 = .ok (.iload_n 1, 1) := dk_27 (dk_at dksX11_finds_2 13 rfl rfl)
theorem dX11_finds_60 : decode cX11_finds 60 = .ok (.iload_n 3, 1) := dk_29 (dk_at dksX11_finds_2 14 rfl rfl)
theorem dX11_finds_61 : decode cX11_finds 61 = .ok (.invokevirtual 299, 3) := dk_182 1 43 (dk_at dksX11_finds_2 15 rfl rfl)
theorem dX11_finds_64 : decode cX11_finds 64 = .ok (.iinc 3 1, 3) := dk_132 3 1 (dk_at dksX11_finds_2 18 rfl rfl)
theorem dX11_finds_67 : decode cX11_finds 67 = .ok (.goto (-37), 3) := dk_167 255 219 (dk_at dksX11_finds_2 21 rfl rfl)
theorem dX11_finds_70 : decode cX11_finds 70 = .ok (.return_, 1) := dk_177 (dk_at dksX11_finds_3 0 rfl rfl)
def dkwX11_at_0 : List UInt8 := [42, 180, 0, 39, 16, 36, 27, 104, 28, 96, 46, 172]
abbrev dktX11_at_0 : List UInt8 := dkwX11_at_0 ++ []
theorem dksX11_at_0 : cX11_at.data.toList.drop 0 = dktX11_at_0 := by decide +kernel
theorem dX11_at_0 : decode cX11_at 0 = .ok (.aload_n 0, 1) := dk_42 (dk_at dksX11_at_0 0 rfl rfl)
theorem dX11_at_1 : decode cX11_at 1 = .ok (.getfield 39, 3) := dk_180 0 39 (dk_at dksX11_at_0 1 rfl rfl)
theorem dX11_at_4 : decode cX11_at 4 = .ok (.bipush 36, 2) := dk_16 36 (dk_at dksX11_at_0 4 rfl rfl)
theorem dX11_at_6 : decode cX11_at 6 = .ok (.iload_n 1, 1) := dk_27 (dk_at dksX11_at_0 6 rfl rfl)
theorem dX11_at_7 : decode cX11_at 7 = .ok (.imul, 1) := dk_104 (dk_at dksX11_at_0 7 rfl rfl)
theorem dX11_at_8 : decode cX11_at 8 = .ok (.iload_n 2, 1) := dk_28 (dk_at dksX11_at_0 8 rfl rfl)
theorem dX11_at_9 : decode cX11_at 9 = .ok (.iadd, 1) := dk_96 (dk_at dksX11_at_0 9 rfl rfl)
theorem dX11_at_10 : decode cX11_at 10 = .ok (.iaload, 1) := dk_46 (dk_at dksX11_at_0 10 rfl rfl)
theorem dX11_at_11 : decode cX11_at 11 = .ok (.ireturn, 1) := dk_172 (dk_at dksX11_at_0 11 rfl rfl)
def dkwX11_sideOf_0 : List UInt8 := [26, 4, 126, 172]
abbrev dktX11_sideOf_0 : List UInt8 := dkwX11_sideOf_0 ++ []
theorem dksX11_sideOf_0 : cX11_sideOf.data.toList.drop 0 = dktX11_sideOf_0 := by decide +kernel
theorem dX11_sideOf_0 : decode cX11_sideOf 0 = .ok (.iload_n 0, 1) := dk_26 (dk_at dksX11_sideOf_0 0 rfl rfl)
theorem dX11_sideOf_1 : decode cX11_sideOf 1 = .ok (.iconst 1, 1) := dk_4 (dk_at dksX11_sideOf_0 1 rfl rfl)
theorem dX11_sideOf_2 : decode cX11_sideOf 2 = .ok (.iand, 1) := dk_126 (dk_at dksX11_sideOf_0 2 rfl rfl)
theorem dX11_sideOf_3 : decode cX11_sideOf 3 = .ok (.ireturn, 1) := dk_172 (dk_at dksX11_sideOf_0 3 rfl rfl)
def dkwX11_goes_9 : List UInt8 := [167, 255, 234, 132, 9, 2, 167, 255, 213, 132, 6, 1, 167, 255, 70, 177]
abbrev dktX11_goes_9 : List UInt8 := dkwX11_goes_9 ++ []
def dkwX11_goes_8 : List UInt8 := [21, 10, 4, 163, 0, 22, 42, 27, 28, 21, 9, 21, 10, 21, 8, 3, 182, 1, 33, 132, 10, 2]
abbrev dktX11_goes_8 : List UInt8 := dkwX11_goes_8 ++ dktX11_goes_9
def dkwX11_goes_7 : List UInt8 := [132, 9, 2, 167, 255, 218, 2, 54, 9, 21, 9, 4, 163, 0, 43, 21, 7, 4, 160, 0, 37, 2, 54, 10]
abbrev dktX11_goes_7 : List UInt8 := dkwX11_goes_7 ++ dktX11_goes_8
def dkwX11_goes_6 : List UInt8 := [28, 21, 9, 3, 21, 8, 3, 182, 1, 33, 42, 27, 28, 3, 21, 9, 21, 8, 3, 182, 1, 33]
abbrev dktX11_goes_6 : List UInt8 := dkwX11_goes_6 ++ dktX11_goes_7
def dkwX11_goes_5 : List UInt8 := [42, 27, 28, 21, 4, 182, 1, 40, 2, 54, 9, 21, 9, 4, 163, 0, 38, 21, 7, 154, 0, 33, 42, 27]
abbrev dktX11_goes_5 : List UInt8 := dkwX11_goes_5 ++ dktX11_goes_6
def dkwX11_goes_4 : List UInt8 := [21, 8, 4, 182, 1, 33, 21, 7, 6, 160, 0, 9, 42, 27, 28, 182, 1, 37, 21, 7, 7, 160, 0, 11]
abbrev dktX11_goes_4 : List UInt8 := dkwX11_goes_4 ++ dktX11_goes_5
def dkwX11_goes_3 : List UInt8 := [21, 5, 6, 96, 5, 21, 6, 104, 96, 46, 54, 8, 21, 7, 5, 160, 0, 15, 42, 27, 28, 3, 21, 4]
abbrev dktX11_goes_3 : List UInt8 := dkwX11_goes_3 ++ dktX11_goes_4
def dkwX11_goes_2 : List UInt8 := [162, 0, 178, 42, 180, 0, 13, 21, 5, 5, 96, 5, 21, 6, 104, 96, 46, 54, 7, 42, 180, 0, 13]
abbrev dktX11_goes_2 : List UInt8 := dkwX11_goes_2 ++ dktX11_goes_3
def dkwX11_goes_1 : List UInt8 := [16, 14, 29, 5, 108, 104, 96, 54, 5, 3, 54, 6, 21, 6, 42, 180, 0, 13, 21, 5, 4, 96, 46]
abbrev dktX11_goes_1 : List UInt8 := dkwX11_goes_1 ++ dktX11_goes_2
def dkwX11_goes_0 : List UInt8 := [42, 27, 28, 182, 1, 23, 62, 29, 184, 1, 26, 154, 0, 7, 4, 167, 0, 4, 2, 54, 4, 16, 49]
abbrev dktX11_goes_0 : List UInt8 := dkwX11_goes_0 ++ dktX11_goes_1
theorem dksX11_goes_0 : cX11_goes.data.toList.drop 0 = dktX11_goes_0 := by decide +kernel
theorem dksX11_goes_1 : cX11_goes.data.toList.drop 23 = dktX11_goes_1 := dk_seg dksX11_goes_0 23 rfl rfl
theorem dksX11_goes_2 : cX11_goes.data.toList.drop 46 = dktX11_goes_2 := dk_seg dksX11_goes_1 23 rfl rfl
theorem dksX11_goes_3 : cX11_goes.data.toList.drop 69 = dktX11_goes_3 := dk_seg dksX11_goes_2 23 rfl rfl
theorem dksX11_goes_4 : cX11_goes.data.toList.drop 93 = dktX11_goes_4 := dk_seg dksX11_goes_3 24 rfl rfl
theorem dksX11_goes_5 : cX11_goes.data.toList.drop 117 = dktX11_goes_5 := dk_seg dksX11_goes_4 24 rfl rfl
theorem dksX11_goes_6 : cX11_goes.data.toList.drop 141 = dktX11_goes_6 := dk_seg dksX11_goes_5 24 rfl rfl
theorem dksX11_goes_7 : cX11_goes.data.toList.drop 163 = dktX11_goes_7 := dk_seg dksX11_goes_6 22 rfl rfl
theorem dksX11_goes_8 : cX11_goes.data.toList.drop 187 = dktX11_goes_8 := dk_seg dksX11_goes_7 24 rfl rfl
theorem dksX11_goes_9 : cX11_goes.data.toList.drop 209 = dktX11_goes_9 := dk_seg dksX11_goes_8 22 rfl rfl
theorem dX11_goes_0 : decode cX11_goes 0 = .ok (.aload_n 0, 1) := dk_42 (dk_at dksX11_goes_0 0 rfl rfl)
theorem dX11_goes_1 : decode cX11_goes 1 = .ok (.iload_n 1, 1) := dk_27 (dk_at dksX11_goes_0 1 rfl rfl)
theorem dX11_goes_2 : decode cX11_goes 2 = .ok (.iload_n 2, 1) := dk_28 (dk_at dksX11_goes_0 2 rfl rfl)
theorem dX11_goes_3 : decode cX11_goes 3 = .ok (.invokevirtual 279, 3) := dk_182 1 23 (dk_at dksX11_goes_0 3 rfl rfl)
theorem dX11_goes_6 : decode cX11_goes 6 = .ok (.istore_n 3, 1) := dk_62 (dk_at dksX11_goes_0 6 rfl rfl)
theorem dX11_goes_7 : decode cX11_goes 7 = .ok (.iload_n 3, 1) := dk_29 (dk_at dksX11_goes_0 7 rfl rfl)
theorem dX11_goes_8 : decode cX11_goes 8 = .ok (.invokestatic 282, 3) := dk_184 1 26 (dk_at dksX11_goes_0 8 rfl rfl)
theorem dX11_goes_11 : decode cX11_goes 11 = .ok (.ifCond .ne 7, 3) := dk_154 0 7 (dk_at dksX11_goes_0 11 rfl rfl)
theorem dX11_goes_14 : decode cX11_goes 14 = .ok (.iconst 1, 1) := dk_4 (dk_at dksX11_goes_0 14 rfl rfl)
theorem dX11_goes_15 : decode cX11_goes 15 = .ok (.goto 4, 3) := dk_167 0 4 (dk_at dksX11_goes_0 15 rfl rfl)
theorem dX11_goes_18 : decode cX11_goes 18 = .ok (.iconst (-1), 1) := dk_2 (dk_at dksX11_goes_0 18 rfl rfl)
theorem dX11_goes_19 : decode cX11_goes 19 = .ok (.istore 4, 2) := dk_54 4 (dk_at dksX11_goes_0 19 rfl rfl)
theorem dX11_goes_21 : decode cX11_goes 21 = .ok (.bipush 49, 2) := dk_16 49 (dk_at dksX11_goes_0 21 rfl rfl)
theorem dX11_goes_23 : decode cX11_goes 23 = .ok (.bipush 14, 2) := dk_16 14 (dk_at dksX11_goes_1 0 rfl rfl)
theorem dX11_goes_25 : decode cX11_goes 25 = .ok (.iload_n 3, 1) := dk_29 (dk_at dksX11_goes_1 2 rfl rfl)
theorem dX11_goes_26 : decode cX11_goes 26 = .ok (.iconst 2, 1) := dk_5 (dk_at dksX11_goes_1 3 rfl rfl)
theorem dX11_goes_27 : decode cX11_goes 27 = .ok (.idiv, 1) := dk_108 (dk_at dksX11_goes_1 4 rfl rfl)
theorem dX11_goes_28 : decode cX11_goes 28 = .ok (.imul, 1) := dk_104 (dk_at dksX11_goes_1 5 rfl rfl)
theorem dX11_goes_29 : decode cX11_goes 29 = .ok (.iadd, 1) := dk_96 (dk_at dksX11_goes_1 6 rfl rfl)
theorem dX11_goes_30 : decode cX11_goes 30 = .ok (.istore 5, 2) := dk_54 5 (dk_at dksX11_goes_1 7 rfl rfl)
theorem dX11_goes_32 : decode cX11_goes 32 = .ok (.iconst 0, 1) := dk_3 (dk_at dksX11_goes_1 9 rfl rfl)
theorem dX11_goes_33 : decode cX11_goes 33 = .ok (.istore 6, 2) := dk_54 6 (dk_at dksX11_goes_1 10 rfl rfl)
theorem dX11_goes_35 : decode cX11_goes 35 = .ok (.iload 6, 2) := dk_21 6 (dk_at dksX11_goes_1 12 rfl rfl)
theorem dX11_goes_37 : decode cX11_goes 37 = .ok (.aload_n 0, 1) := dk_42 (dk_at dksX11_goes_1 14 rfl rfl)
theorem dX11_goes_38 : decode cX11_goes 38 = .ok (.getfield 13, 3) := dk_180 0 13 (dk_at dksX11_goes_1 15 rfl rfl)
theorem dX11_goes_41 : decode cX11_goes 41 = .ok (.iload 5, 2) := dk_21 5 (dk_at dksX11_goes_1 18 rfl rfl)
theorem dX11_goes_43 : decode cX11_goes 43 = .ok (.iconst 1, 1) := dk_4 (dk_at dksX11_goes_1 20 rfl rfl)
theorem dX11_goes_44 : decode cX11_goes 44 = .ok (.iadd, 1) := dk_96 (dk_at dksX11_goes_1 21 rfl rfl)
theorem dX11_goes_45 : decode cX11_goes 45 = .ok (.iaload, 1) := dk_46 (dk_at dksX11_goes_1 22 rfl rfl)
theorem dX11_goes_46 : decode cX11_goes 46 = .ok (.if_icmp .ge 178, 3) := dk_162 0 178 (dk_at dksX11_goes_2 0 rfl rfl)
theorem dX11_goes_49 : decode cX11_goes 49 = .ok (.aload_n 0, 1) := dk_42 (dk_at dksX11_goes_2 3 rfl rfl)
theorem dX11_goes_50 : decode cX11_goes 50 = .ok (.getfield 13, 3) := dk_180 0 13 (dk_at dksX11_goes_2 4 rfl rfl)
theorem dX11_goes_53 : decode cX11_goes 53 = .ok (.iload 5, 2) := dk_21 5 (dk_at dksX11_goes_2 7 rfl rfl)
theorem dX11_goes_55 : decode cX11_goes 55 = .ok (.iconst 2, 1) := dk_5 (dk_at dksX11_goes_2 9 rfl rfl)
theorem dX11_goes_56 : decode cX11_goes 56 = .ok (.iadd, 1) := dk_96 (dk_at dksX11_goes_2 10 rfl rfl)
theorem dX11_goes_57 : decode cX11_goes 57 = .ok (.iconst 2, 1) := dk_5 (dk_at dksX11_goes_2 11 rfl rfl)
theorem dX11_goes_58 : decode cX11_goes 58 = .ok (.iload 6, 2) := dk_21 6 (dk_at dksX11_goes_2 12 rfl rfl)
theorem dX11_goes_60 : decode cX11_goes 60 = .ok (.imul, 1) := dk_104 (dk_at dksX11_goes_2 14 rfl rfl)
theorem dX11_goes_61 : decode cX11_goes 61 = .ok (.iadd, 1) := dk_96 (dk_at dksX11_goes_2 15 rfl rfl)
theorem dX11_goes_62 : decode cX11_goes 62 = .ok (.iaload, 1) := dk_46 (dk_at dksX11_goes_2 16 rfl rfl)
theorem dX11_goes_63 : decode cX11_goes 63 = .ok (.istore 7, 2) := dk_54 7 (dk_at dksX11_goes_2 17 rfl rfl)
theorem dX11_goes_65 : decode cX11_goes 65 = .ok (.aload_n 0, 1) := dk_42 (dk_at dksX11_goes_2 19 rfl rfl)
theorem dX11_goes_66 : decode cX11_goes 66 = .ok (.getfield 13, 3) := dk_180 0 13 (dk_at dksX11_goes_2 20 rfl rfl)
theorem dX11_goes_69 : decode cX11_goes 69 = .ok (.iload 5, 2) := dk_21 5 (dk_at dksX11_goes_3 0 rfl rfl)
theorem dX11_goes_71 : decode cX11_goes 71 = .ok (.iconst 3, 1) := dk_6 (dk_at dksX11_goes_3 2 rfl rfl)
theorem dX11_goes_72 : decode cX11_goes 72 = .ok (.iadd, 1) := dk_96 (dk_at dksX11_goes_3 3 rfl rfl)
theorem dX11_goes_73 : decode cX11_goes 73 = .ok (.iconst 2, 1) := dk_5 (dk_at dksX11_goes_3 4 rfl rfl)
theorem dX11_goes_74 : decode cX11_goes 74 = .ok (.iload 6, 2) := dk_21 6 (dk_at dksX11_goes_3 5 rfl rfl)
theorem dX11_goes_76 : decode cX11_goes 76 = .ok (.imul, 1) := dk_104 (dk_at dksX11_goes_3 7 rfl rfl)
theorem dX11_goes_77 : decode cX11_goes 77 = .ok (.iadd, 1) := dk_96 (dk_at dksX11_goes_3 8 rfl rfl)
theorem dX11_goes_78 : decode cX11_goes 78 = .ok (.iaload, 1) := dk_46 (dk_at dksX11_goes_3 9 rfl rfl)
theorem dX11_goes_79 : decode cX11_goes 79 = .ok (.istore 8, 2) := dk_54 8 (dk_at dksX11_goes_3 10 rfl rfl)
theorem dX11_goes_81 : decode cX11_goes 81 = .ok (.iload 7, 2) := dk_21 7 (dk_at dksX11_goes_3 12 rfl rfl)
theorem dX11_goes_83 : decode cX11_goes 83 = .ok (.iconst 2, 1) := dk_5 (dk_at dksX11_goes_3 14 rfl rfl)
theorem dX11_goes_84 : decode cX11_goes 84 = .ok (.if_icmp .ne 15, 3) := dk_160 0 15 (dk_at dksX11_goes_3 15 rfl rfl)
theorem dX11_goes_87 : decode cX11_goes 87 = .ok (.aload_n 0, 1) := dk_42 (dk_at dksX11_goes_3 18 rfl rfl)
theorem dX11_goes_88 : decode cX11_goes 88 = .ok (.iload_n 1, 1) := dk_27 (dk_at dksX11_goes_3 19 rfl rfl)
theorem dX11_goes_89 : decode cX11_goes 89 = .ok (.iload_n 2, 1) := dk_28 (dk_at dksX11_goes_3 20 rfl rfl)
theorem dX11_goes_90 : decode cX11_goes 90 = .ok (.iconst 0, 1) := dk_3 (dk_at dksX11_goes_3 21 rfl rfl)
theorem dX11_goes_91 : decode cX11_goes 91 = .ok (.iload 4, 2) := dk_21 4 (dk_at dksX11_goes_3 22 rfl rfl)
theorem dX11_goes_93 : decode cX11_goes 93 = .ok (.iload 8, 2) := dk_21 8 (dk_at dksX11_goes_4 0 rfl rfl)
theorem dX11_goes_95 : decode cX11_goes 95 = .ok (.iconst 1, 1) := dk_4 (dk_at dksX11_goes_4 2 rfl rfl)
theorem dX11_goes_96 : decode cX11_goes 96 = .ok (.invokevirtual 289, 3) := dk_182 1 33 (dk_at dksX11_goes_4 3 rfl rfl)
theorem dX11_goes_99 : decode cX11_goes 99 = .ok (.iload 7, 2) := dk_21 7 (dk_at dksX11_goes_4 6 rfl rfl)
theorem dX11_goes_101 : decode cX11_goes 101 = .ok (.iconst 3, 1) := dk_6 (dk_at dksX11_goes_4 8 rfl rfl)
theorem dX11_goes_102 : decode cX11_goes 102 = .ok (.if_icmp .ne 9, 3) := dk_160 0 9 (dk_at dksX11_goes_4 9 rfl rfl)
theorem dX11_goes_105 : decode cX11_goes 105 = .ok (.aload_n 0, 1) := dk_42 (dk_at dksX11_goes_4 12 rfl rfl)
theorem dX11_goes_106 : decode cX11_goes 106 = .ok (.iload_n 1, 1) := dk_27 (dk_at dksX11_goes_4 13 rfl rfl)
theorem dX11_goes_107 : decode cX11_goes 107 = .ok (.iload_n 2, 1) := dk_28 (dk_at dksX11_goes_4 14 rfl rfl)
theorem dX11_goes_108 : decode cX11_goes 108 = .ok (.invokevirtual 293, 3) := dk_182 1 37 (dk_at dksX11_goes_4 15 rfl rfl)
theorem dX11_goes_111 : decode cX11_goes 111 = .ok (.iload 7, 2) := dk_21 7 (dk_at dksX11_goes_4 18 rfl rfl)
theorem dX11_goes_113 : decode cX11_goes 113 = .ok (.iconst 4, 1) := dk_7 (dk_at dksX11_goes_4 20 rfl rfl)
theorem dX11_goes_114 : decode cX11_goes 114 = .ok (.if_icmp .ne 11, 3) := dk_160 0 11 (dk_at dksX11_goes_4 21 rfl rfl)
theorem dX11_goes_117 : decode cX11_goes 117 = .ok (.aload_n 0, 1) := dk_42 (dk_at dksX11_goes_5 0 rfl rfl)
theorem dX11_goes_118 : decode cX11_goes 118 = .ok (.iload_n 1, 1) := dk_27 (dk_at dksX11_goes_5 1 rfl rfl)
theorem dX11_goes_119 : decode cX11_goes 119 = .ok (.iload_n 2, 1) := dk_28 (dk_at dksX11_goes_5 2 rfl rfl)
theorem dX11_goes_120 : decode cX11_goes 120 = .ok (.iload 4, 2) := dk_21 4 (dk_at dksX11_goes_5 3 rfl rfl)
theorem dX11_goes_122 : decode cX11_goes 122 = .ok (.invokevirtual 296, 3) := dk_182 1 40 (dk_at dksX11_goes_5 5 rfl rfl)
theorem dX11_goes_125 : decode cX11_goes 125 = .ok (.iconst (-1), 1) := dk_2 (dk_at dksX11_goes_5 8 rfl rfl)
theorem dX11_goes_126 : decode cX11_goes 126 = .ok (.istore 9, 2) := dk_54 9 (dk_at dksX11_goes_5 9 rfl rfl)
theorem dX11_goes_128 : decode cX11_goes 128 = .ok (.iload 9, 2) := dk_21 9 (dk_at dksX11_goes_5 11 rfl rfl)
theorem dX11_goes_130 : decode cX11_goes 130 = .ok (.iconst 1, 1) := dk_4 (dk_at dksX11_goes_5 13 rfl rfl)
theorem dX11_goes_131 : decode cX11_goes 131 = .ok (.if_icmp .gt 38, 3) := dk_163 0 38 (dk_at dksX11_goes_5 14 rfl rfl)
theorem dX11_goes_134 : decode cX11_goes 134 = .ok (.iload 7, 2) := dk_21 7 (dk_at dksX11_goes_5 17 rfl rfl)
theorem dX11_goes_136 : decode cX11_goes 136 = .ok (.ifCond .ne 33, 3) := dk_154 0 33 (dk_at dksX11_goes_5 19 rfl rfl)
theorem dX11_goes_139 : decode cX11_goes 139 = .ok (.aload_n 0, 1) := dk_42 (dk_at dksX11_goes_5 22 rfl rfl)
theorem dX11_goes_140 : decode cX11_goes 140 = .ok (.iload_n 1, 1) := dk_27 (dk_at dksX11_goes_5 23 rfl rfl)
theorem dX11_goes_141 : decode cX11_goes 141 = .ok (.iload_n 2, 1) := dk_28 (dk_at dksX11_goes_6 0 rfl rfl)
theorem dX11_goes_142 : decode cX11_goes 142 = .ok (.iload 9, 2) := dk_21 9 (dk_at dksX11_goes_6 1 rfl rfl)
theorem dX11_goes_144 : decode cX11_goes 144 = .ok (.iconst 0, 1) := dk_3 (dk_at dksX11_goes_6 3 rfl rfl)
theorem dX11_goes_145 : decode cX11_goes 145 = .ok (.iload 8, 2) := dk_21 8 (dk_at dksX11_goes_6 4 rfl rfl)
theorem dX11_goes_147 : decode cX11_goes 147 = .ok (.iconst 0, 1) := dk_3 (dk_at dksX11_goes_6 6 rfl rfl)
theorem dX11_goes_148 : decode cX11_goes 148 = .ok (.invokevirtual 289, 3) := dk_182 1 33 (dk_at dksX11_goes_6 7 rfl rfl)
theorem dX11_goes_151 : decode cX11_goes 151 = .ok (.aload_n 0, 1) := dk_42 (dk_at dksX11_goes_6 10 rfl rfl)
theorem dX11_goes_152 : decode cX11_goes 152 = .ok (.iload_n 1, 1) := dk_27 (dk_at dksX11_goes_6 11 rfl rfl)
theorem dX11_goes_153 : decode cX11_goes 153 = .ok (.iload_n 2, 1) := dk_28 (dk_at dksX11_goes_6 12 rfl rfl)
theorem dX11_goes_154 : decode cX11_goes 154 = .ok (.iconst 0, 1) := dk_3 (dk_at dksX11_goes_6 13 rfl rfl)
theorem dX11_goes_155 : decode cX11_goes 155 = .ok (.iload 9, 2) := dk_21 9 (dk_at dksX11_goes_6 14 rfl rfl)
theorem dX11_goes_157 : decode cX11_goes 157 = .ok (.iload 8, 2) := dk_21 8 (dk_at dksX11_goes_6 16 rfl rfl)
theorem dX11_goes_159 : decode cX11_goes 159 = .ok (.iconst 0, 1) := dk_3 (dk_at dksX11_goes_6 18 rfl rfl)
theorem dX11_goes_160 : decode cX11_goes 160 = .ok (.invokevirtual 289, 3) := dk_182 1 33 (dk_at dksX11_goes_6 19 rfl rfl)
theorem dX11_goes_163 : decode cX11_goes 163 = .ok (.iinc 9 2, 3) := dk_132 9 2 (dk_at dksX11_goes_7 0 rfl rfl)
theorem dX11_goes_166 : decode cX11_goes 166 = .ok (.goto (-38), 3) := dk_167 255 218 (dk_at dksX11_goes_7 3 rfl rfl)
theorem dX11_goes_169 : decode cX11_goes 169 = .ok (.iconst (-1), 1) := dk_2 (dk_at dksX11_goes_7 6 rfl rfl)
theorem dX11_goes_170 : decode cX11_goes 170 = .ok (.istore 9, 2) := dk_54 9 (dk_at dksX11_goes_7 7 rfl rfl)
theorem dX11_goes_172 : decode cX11_goes 172 = .ok (.iload 9, 2) := dk_21 9 (dk_at dksX11_goes_7 9 rfl rfl)
theorem dX11_goes_174 : decode cX11_goes 174 = .ok (.iconst 1, 1) := dk_4 (dk_at dksX11_goes_7 11 rfl rfl)
theorem dX11_goes_175 : decode cX11_goes 175 = .ok (.if_icmp .gt 43, 3) := dk_163 0 43 (dk_at dksX11_goes_7 12 rfl rfl)
theorem dX11_goes_178 : decode cX11_goes 178 = .ok (.iload 7, 2) := dk_21 7 (dk_at dksX11_goes_7 15 rfl rfl)
theorem dX11_goes_180 : decode cX11_goes 180 = .ok (.iconst 1, 1) := dk_4 (dk_at dksX11_goes_7 17 rfl rfl)
theorem dX11_goes_181 : decode cX11_goes 181 = .ok (.if_icmp .ne 37, 3) := dk_160 0 37 (dk_at dksX11_goes_7 18 rfl rfl)
theorem dX11_goes_184 : decode cX11_goes 184 = .ok (.iconst (-1), 1) := dk_2 (dk_at dksX11_goes_7 21 rfl rfl)
theorem dX11_goes_185 : decode cX11_goes 185 = .ok (.istore 10, 2) := dk_54 10 (dk_at dksX11_goes_7 22 rfl rfl)
theorem dX11_goes_187 : decode cX11_goes 187 = .ok (.iload 10, 2) := dk_21 10 (dk_at dksX11_goes_8 0 rfl rfl)
theorem dX11_goes_189 : decode cX11_goes 189 = .ok (.iconst 1, 1) := dk_4 (dk_at dksX11_goes_8 2 rfl rfl)
theorem dX11_goes_190 : decode cX11_goes 190 = .ok (.if_icmp .gt 22, 3) := dk_163 0 22 (dk_at dksX11_goes_8 3 rfl rfl)
theorem dX11_goes_193 : decode cX11_goes 193 = .ok (.aload_n 0, 1) := dk_42 (dk_at dksX11_goes_8 6 rfl rfl)
theorem dX11_goes_194 : decode cX11_goes 194 = .ok (.iload_n 1, 1) := dk_27 (dk_at dksX11_goes_8 7 rfl rfl)
theorem dX11_goes_195 : decode cX11_goes 195 = .ok (.iload_n 2, 1) := dk_28 (dk_at dksX11_goes_8 8 rfl rfl)
theorem dX11_goes_196 : decode cX11_goes 196 = .ok (.iload 9, 2) := dk_21 9 (dk_at dksX11_goes_8 9 rfl rfl)
theorem dX11_goes_198 : decode cX11_goes 198 = .ok (.iload 10, 2) := dk_21 10 (dk_at dksX11_goes_8 11 rfl rfl)
theorem dX11_goes_200 : decode cX11_goes 200 = .ok (.iload 8, 2) := dk_21 8 (dk_at dksX11_goes_8 13 rfl rfl)
theorem dX11_goes_202 : decode cX11_goes 202 = .ok (.iconst 0, 1) := dk_3 (dk_at dksX11_goes_8 15 rfl rfl)
theorem dX11_goes_203 : decode cX11_goes 203 = .ok (.invokevirtual 289, 3) := dk_182 1 33 (dk_at dksX11_goes_8 16 rfl rfl)
theorem dX11_goes_206 : decode cX11_goes 206 = .ok (.iinc 10 2, 3) := dk_132 10 2 (dk_at dksX11_goes_8 19 rfl rfl)
theorem dX11_goes_209 : decode cX11_goes 209 = .ok (.goto (-22), 3) := dk_167 255 234 (dk_at dksX11_goes_9 0 rfl rfl)
theorem dX11_goes_212 : decode cX11_goes 212 = .ok (.iinc 9 2, 3) := dk_132 9 2 (dk_at dksX11_goes_9 3 rfl rfl)
theorem dX11_goes_215 : decode cX11_goes 215 = .ok (.goto (-43), 3) := dk_167 255 213 (dk_at dksX11_goes_9 6 rfl rfl)
theorem dX11_goes_218 : decode cX11_goes 218 = .ok (.iinc 6 1, 3) := dk_132 6 1 (dk_at dksX11_goes_9 9 rfl rfl)
theorem dX11_goes_221 : decode cX11_goes 221 = .ok (.goto (-186), 3) := dk_167 255 70 (dk_at dksX11_goes_9 12 rfl rfl)
theorem dX11_goes_224 : decode cX11_goes 224 = .ok (.return_, 1) := dk_177 (dk_at dksX11_goes_9 15 rfl rfl)
def dkwX11_along_3 : List UInt8 := [21, 7, 182, 1, 29, 21, 9, 155, 0, 4, 177, 132, 8, 1, 167, 255, 180, 177]
abbrev dktX11_along_3 : List UInt8 := dkwX11_along_3 ++ []
def dkwX11_along_2 : List UInt8 := [154, 0, 28, 21, 9, 184, 1, 26, 42, 27, 28, 182, 1, 23, 184, 1, 26, 159, 0, 11, 42, 27, 28]
abbrev dktX11_along_2 : List UInt8 := dkwX11_along_2 ++ dktX11_along_3
def dkwX11_along_1 : List UInt8 := [21, 7, 156, 0, 4, 177, 42, 27, 21, 7, 182, 1, 23, 54, 9, 21, 9, 155, 0, 25, 21, 6]
abbrev dktX11_along_1 : List UInt8 := dkwX11_along_1 ++ dktX11_along_2
def dkwX11_along_0 : List UInt8 := [28, 54, 7, 3, 54, 8, 21, 8, 21, 5, 162, 0, 75, 21, 7, 29, 21, 4, 184, 1, 20, 54, 7]
abbrev dktX11_along_0 : List UInt8 := dkwX11_along_0 ++ dktX11_along_1
theorem dksX11_along_0 : cX11_along.data.toList.drop 0 = dktX11_along_0 := by decide +kernel
theorem dksX11_along_1 : cX11_along.data.toList.drop 23 = dktX11_along_1 := dk_seg dksX11_along_0 23 rfl rfl
theorem dksX11_along_2 : cX11_along.data.toList.drop 45 = dktX11_along_2 := dk_seg dksX11_along_1 22 rfl rfl
theorem dksX11_along_3 : cX11_along.data.toList.drop 68 = dktX11_along_3 := dk_seg dksX11_along_2 23 rfl rfl
theorem dX11_along_0 : decode cX11_along 0 = .ok (.iload_n 2, 1) := dk_28 (dk_at dksX11_along_0 0 rfl rfl)
theorem dX11_along_1 : decode cX11_along 1 = .ok (.istore 7, 2) := dk_54 7 (dk_at dksX11_along_0 1 rfl rfl)
theorem dX11_along_3 : decode cX11_along 3 = .ok (.iconst 0, 1) := dk_3 (dk_at dksX11_along_0 3 rfl rfl)
theorem dX11_along_4 : decode cX11_along 4 = .ok (.istore 8, 2) := dk_54 8 (dk_at dksX11_along_0 4 rfl rfl)
theorem dX11_along_6 : decode cX11_along 6 = .ok (.iload 8, 2) := dk_21 8 (dk_at dksX11_along_0 6 rfl rfl)
theorem dX11_along_8 : decode cX11_along 8 = .ok (.iload 5, 2) := dk_21 5 (dk_at dksX11_along_0 8 rfl rfl)
theorem dX11_along_10 : decode cX11_along 10 = .ok (.if_icmp .ge 75, 3) := dk_162 0 75 (dk_at dksX11_along_0 10 rfl rfl)
theorem dX11_along_13 : decode cX11_along 13 = .ok (.iload 7, 2) := dk_21 7 (dk_at dksX11_along_0 13 rfl rfl)
theorem dX11_along_15 : decode cX11_along 15 = .ok (.iload_n 3, 1) := dk_29 (dk_at dksX11_along_0 15 rfl rfl)
theorem dX11_along_16 : decode cX11_along 16 = .ok (.iload 4, 2) := dk_21 4 (dk_at dksX11_along_0 16 rfl rfl)
theorem dX11_along_18 : decode cX11_along 18 = .ok (.invokestatic 276, 3) := dk_184 1 20 (dk_at dksX11_along_0 18 rfl rfl)
theorem dX11_along_21 : decode cX11_along 21 = .ok (.istore 7, 2) := dk_54 7 (dk_at dksX11_along_0 21 rfl rfl)
theorem dX11_along_23 : decode cX11_along 23 = .ok (.iload 7, 2) := dk_21 7 (dk_at dksX11_along_1 0 rfl rfl)
theorem dX11_along_25 : decode cX11_along 25 = .ok (.ifCond .ge 4, 3) := dk_156 0 4 (dk_at dksX11_along_1 2 rfl rfl)
theorem dX11_along_28 : decode cX11_along 28 = .ok (.return_, 1) := dk_177 (dk_at dksX11_along_1 5 rfl rfl)
theorem dX11_along_29 : decode cX11_along 29 = .ok (.aload_n 0, 1) := dk_42 (dk_at dksX11_along_1 6 rfl rfl)
theorem dX11_along_30 : decode cX11_along 30 = .ok (.iload_n 1, 1) := dk_27 (dk_at dksX11_along_1 7 rfl rfl)
theorem dX11_along_31 : decode cX11_along 31 = .ok (.iload 7, 2) := dk_21 7 (dk_at dksX11_along_1 8 rfl rfl)
theorem dX11_along_33 : decode cX11_along 33 = .ok (.invokevirtual 279, 3) := dk_182 1 23 (dk_at dksX11_along_1 10 rfl rfl)
theorem dX11_along_36 : decode cX11_along 36 = .ok (.istore 9, 2) := dk_54 9 (dk_at dksX11_along_1 13 rfl rfl)
theorem dX11_along_38 : decode cX11_along 38 = .ok (.iload 9, 2) := dk_21 9 (dk_at dksX11_along_1 15 rfl rfl)
theorem dX11_along_40 : decode cX11_along 40 = .ok (.ifCond .lt 25, 3) := dk_155 0 25 (dk_at dksX11_along_1 17 rfl rfl)
theorem dX11_along_43 : decode cX11_along 43 = .ok (.iload 6, 2) := dk_21 6 (dk_at dksX11_along_1 20 rfl rfl)
theorem dX11_along_45 : decode cX11_along 45 = .ok (.ifCond .ne 28, 3) := dk_154 0 28 (dk_at dksX11_along_2 0 rfl rfl)
theorem dX11_along_48 : decode cX11_along 48 = .ok (.iload 9, 2) := dk_21 9 (dk_at dksX11_along_2 3 rfl rfl)
theorem dX11_along_50 : decode cX11_along 50 = .ok (.invokestatic 282, 3) := dk_184 1 26 (dk_at dksX11_along_2 5 rfl rfl)
theorem dX11_along_53 : decode cX11_along 53 = .ok (.aload_n 0, 1) := dk_42 (dk_at dksX11_along_2 8 rfl rfl)
theorem dX11_along_54 : decode cX11_along 54 = .ok (.iload_n 1, 1) := dk_27 (dk_at dksX11_along_2 9 rfl rfl)
theorem dX11_along_55 : decode cX11_along 55 = .ok (.iload_n 2, 1) := dk_28 (dk_at dksX11_along_2 10 rfl rfl)
theorem dX11_along_56 : decode cX11_along 56 = .ok (.invokevirtual 279, 3) := dk_182 1 23 (dk_at dksX11_along_2 11 rfl rfl)
theorem dX11_along_59 : decode cX11_along 59 = .ok (.invokestatic 282, 3) := dk_184 1 26 (dk_at dksX11_along_2 14 rfl rfl)
theorem dX11_along_62 : decode cX11_along 62 = .ok (.if_icmp .eq 11, 3) := dk_159 0 11 (dk_at dksX11_along_2 17 rfl rfl)
theorem dX11_along_65 : decode cX11_along 65 = .ok (.aload_n 0, 1) := dk_42 (dk_at dksX11_along_2 20 rfl rfl)
theorem dX11_along_66 : decode cX11_along 66 = .ok (.iload_n 1, 1) := dk_27 (dk_at dksX11_along_2 21 rfl rfl)
theorem dX11_along_67 : decode cX11_along 67 = .ok (.iload_n 2, 1) := dk_28 (dk_at dksX11_along_2 22 rfl rfl)
theorem dX11_along_68 : decode cX11_along 68 = .ok (.iload 7, 2) := dk_21 7 (dk_at dksX11_along_3 0 rfl rfl)
theorem dX11_along_70 : decode cX11_along 70 = .ok (.invokevirtual 285, 3) := dk_182 1 29 (dk_at dksX11_along_3 2 rfl rfl)
theorem dX11_along_73 : decode cX11_along 73 = .ok (.iload 9, 2) := dk_21 9 (dk_at dksX11_along_3 5 rfl rfl)
theorem dX11_along_75 : decode cX11_along 75 = .ok (.ifCond .lt 4, 3) := dk_155 0 4 (dk_at dksX11_along_3 7 rfl rfl)
theorem dX11_along_78 : decode cX11_along 78 = .ok (.return_, 1) := dk_177 (dk_at dksX11_along_3 10 rfl rfl)
theorem dX11_along_79 : decode cX11_along 79 = .ok (.iinc 8 1, 3) := dk_132 8 1 (dk_at dksX11_along_3 11 rfl rfl)
theorem dX11_along_82 : decode cX11_along 82 = .ok (.goto (-76), 3) := dk_167 255 180 (dk_at dksX11_along_3 14 rfl rfl)
theorem dX11_along_85 : decode cX11_along 85 = .ok (.return_, 1) := dk_177 (dk_at dksX11_along_3 17 rfl rfl)
def dkwX11_off_1 : List UInt8 := [21, 4, 3, 8, 184, 0, 106, 153, 0, 13, 16, 6, 21, 4, 104, 29, 96, 167, 0, 4, 2, 172]
abbrev dktX11_off_1 : List UInt8 := dkwX11_off_1 ++ []
def dkwX11_off_0 : List UInt8 := [26, 16, 6, 112, 27, 96, 62, 26, 16, 6, 108, 28, 96, 54, 4, 29, 3, 8, 184, 0, 106, 153, 0, 23]
abbrev dktX11_off_0 : List UInt8 := dkwX11_off_0 ++ dktX11_off_1
theorem dksX11_off_0 : cX11_off.data.toList.drop 0 = dktX11_off_0 := by decide +kernel
theorem dksX11_off_1 : cX11_off.data.toList.drop 24 = dktX11_off_1 := dk_seg dksX11_off_0 24 rfl rfl
theorem dX11_off_0 : decode cX11_off 0 = .ok (.iload_n 0, 1) := dk_26 (dk_at dksX11_off_0 0 rfl rfl)
theorem dX11_off_1 : decode cX11_off 1 = .ok (.bipush 6, 2) := dk_16 6 (dk_at dksX11_off_0 1 rfl rfl)
theorem dX11_off_3 : decode cX11_off 3 = .ok (.irem, 1) := dk_112 (dk_at dksX11_off_0 3 rfl rfl)
theorem dX11_off_4 : decode cX11_off 4 = .ok (.iload_n 1, 1) := dk_27 (dk_at dksX11_off_0 4 rfl rfl)
theorem dX11_off_5 : decode cX11_off 5 = .ok (.iadd, 1) := dk_96 (dk_at dksX11_off_0 5 rfl rfl)
theorem dX11_off_6 : decode cX11_off 6 = .ok (.istore_n 3, 1) := dk_62 (dk_at dksX11_off_0 6 rfl rfl)
theorem dX11_off_7 : decode cX11_off 7 = .ok (.iload_n 0, 1) := dk_26 (dk_at dksX11_off_0 7 rfl rfl)
theorem dX11_off_8 : decode cX11_off 8 = .ok (.bipush 6, 2) := dk_16 6 (dk_at dksX11_off_0 8 rfl rfl)
theorem dX11_off_10 : decode cX11_off 10 = .ok (.idiv, 1) := dk_108 (dk_at dksX11_off_0 10 rfl rfl)
theorem dX11_off_11 : decode cX11_off 11 = .ok (.iload_n 2, 1) := dk_28 (dk_at dksX11_off_0 11 rfl rfl)
theorem dX11_off_12 : decode cX11_off 12 = .ok (.iadd, 1) := dk_96 (dk_at dksX11_off_0 12 rfl rfl)
theorem dX11_off_13 : decode cX11_off 13 = .ok (.istore 4, 2) := dk_54 4 (dk_at dksX11_off_0 13 rfl rfl)
theorem dX11_off_15 : decode cX11_off 15 = .ok (.iload_n 3, 1) := dk_29 (dk_at dksX11_off_0 15 rfl rfl)
theorem dX11_off_16 : decode cX11_off 16 = .ok (.iconst 0, 1) := dk_3 (dk_at dksX11_off_0 16 rfl rfl)
theorem dX11_off_17 : decode cX11_off 17 = .ok (.iconst 5, 1) := dk_8 (dk_at dksX11_off_0 17 rfl rfl)
theorem dX11_off_18 : decode cX11_off 18 = .ok (.invokestatic 106, 3) := dk_184 0 106 (dk_at dksX11_off_0 18 rfl rfl)
theorem dX11_off_21 : decode cX11_off 21 = .ok (.ifCond .eq 23, 3) := dk_153 0 23 (dk_at dksX11_off_0 21 rfl rfl)
theorem dX11_off_24 : decode cX11_off 24 = .ok (.iload 4, 2) := dk_21 4 (dk_at dksX11_off_1 0 rfl rfl)
theorem dX11_off_26 : decode cX11_off 26 = .ok (.iconst 0, 1) := dk_3 (dk_at dksX11_off_1 2 rfl rfl)
theorem dX11_off_27 : decode cX11_off 27 = .ok (.iconst 5, 1) := dk_8 (dk_at dksX11_off_1 3 rfl rfl)
theorem dX11_off_28 : decode cX11_off 28 = .ok (.invokestatic 106, 3) := dk_184 0 106 (dk_at dksX11_off_1 4 rfl rfl)
theorem dX11_off_31 : decode cX11_off 31 = .ok (.ifCond .eq 13, 3) := dk_153 0 13 (dk_at dksX11_off_1 7 rfl rfl)
theorem dX11_off_34 : decode cX11_off 34 = .ok (.bipush 6, 2) := dk_16 6 (dk_at dksX11_off_1 10 rfl rfl)
theorem dX11_off_36 : decode cX11_off 36 = .ok (.iload 4, 2) := dk_21 4 (dk_at dksX11_off_1 12 rfl rfl)
theorem dX11_off_38 : decode cX11_off 38 = .ok (.imul, 1) := dk_104 (dk_at dksX11_off_1 14 rfl rfl)
theorem dX11_off_39 : decode cX11_off 39 = .ok (.iload_n 3, 1) := dk_29 (dk_at dksX11_off_1 15 rfl rfl)
theorem dX11_off_40 : decode cX11_off 40 = .ok (.iadd, 1) := dk_96 (dk_at dksX11_off_1 16 rfl rfl)
theorem dX11_off_41 : decode cX11_off 41 = .ok (.goto 4, 3) := dk_167 0 4 (dk_at dksX11_off_1 17 rfl rfl)
theorem dX11_off_44 : decode cX11_off 44 = .ok (.iconst (-1), 1) := dk_2 (dk_at dksX11_off_1 20 rfl rfl)
theorem dX11_off_45 : decode cX11_off 45 = .ok (.ireturn, 1) := dk_172 (dk_at dksX11_off_1 21 rfl rfl)
def dkwX11_may_0 : List UInt8 := [42, 180, 0, 43, 17, 5, 16, 27, 104, 16, 36, 28, 104, 96, 29, 96, 4, 84, 177]
abbrev dktX11_may_0 : List UInt8 := dkwX11_may_0 ++ []
theorem dksX11_may_0 : cX11_may.data.toList.drop 0 = dktX11_may_0 := by decide +kernel
theorem dX11_may_0 : decode cX11_may 0 = .ok (.aload_n 0, 1) := dk_42 (dk_at dksX11_may_0 0 rfl rfl)
theorem dX11_may_1 : decode cX11_may 1 = .ok (.getfield 43, 3) := dk_180 0 43 (dk_at dksX11_may_0 1 rfl rfl)
theorem dX11_may_4 : decode cX11_may 4 = .ok (.sipush 1296, 3) := dk_17 5 16 (dk_at dksX11_may_0 4 rfl rfl)
theorem dX11_may_7 : decode cX11_may 7 = .ok (.iload_n 1, 1) := dk_27 (dk_at dksX11_may_0 7 rfl rfl)
theorem dX11_may_8 : decode cX11_may 8 = .ok (.imul, 1) := dk_104 (dk_at dksX11_may_0 8 rfl rfl)
theorem dX11_may_9 : decode cX11_may 9 = .ok (.bipush 36, 2) := dk_16 36 (dk_at dksX11_may_0 9 rfl rfl)
theorem dX11_may_11 : decode cX11_may 11 = .ok (.iload_n 2, 1) := dk_28 (dk_at dksX11_may_0 11 rfl rfl)
theorem dX11_may_12 : decode cX11_may 12 = .ok (.imul, 1) := dk_104 (dk_at dksX11_may_0 12 rfl rfl)
theorem dX11_may_13 : decode cX11_may 13 = .ok (.iadd, 1) := dk_96 (dk_at dksX11_may_0 13 rfl rfl)
theorem dX11_may_14 : decode cX11_may 14 = .ok (.iload_n 3, 1) := dk_29 (dk_at dksX11_may_0 14 rfl rfl)
theorem dX11_may_15 : decode cX11_may 15 = .ok (.iadd, 1) := dk_96 (dk_at dksX11_may_0 15 rfl rfl)
theorem dX11_may_16 : decode cX11_may 16 = .ok (.iconst 1, 1) := dk_4 (dk_at dksX11_may_0 16 rfl rfl)
theorem dX11_may_17 : decode cX11_may 17 = .ok (.bastore, 1) := dk_84 (dk_at dksX11_may_0 17 rfl rfl)
theorem dX11_may_18 : decode cX11_may 18 = .ok (.return_, 1) := dk_177 (dk_at dksX11_may_0 18 rfl rfl)
def dkwX11_leaps_2 : List UInt8 := [167, 255, 223, 132, 3, 1, 167, 255, 208, 177]
abbrev dktX11_leaps_2 : List UInt8 := dkwX11_leaps_2 ++ []
def dkwX11_leaps_1 : List UInt8 := [21, 4, 104, 96, 8, 160, 0, 14, 42, 27, 28, 29, 21, 4, 4, 3, 182, 1, 33, 132, 4, 1]
abbrev dktX11_leaps_1 : List UInt8 := dkwX11_leaps_1 ++ dktX11_leaps_2
def dkwX11_leaps_0 : List UInt8 := [16, 254, 62, 29, 5, 163, 0, 49, 16, 254, 54, 4, 21, 4, 5, 163, 0, 33, 29, 29, 104, 21, 4]
abbrev dktX11_leaps_0 : List UInt8 := dkwX11_leaps_0 ++ dktX11_leaps_1
theorem dksX11_leaps_0 : cX11_leaps.data.toList.drop 0 = dktX11_leaps_0 := by decide +kernel
theorem dksX11_leaps_1 : cX11_leaps.data.toList.drop 23 = dktX11_leaps_1 := dk_seg dksX11_leaps_0 23 rfl rfl
theorem dksX11_leaps_2 : cX11_leaps.data.toList.drop 45 = dktX11_leaps_2 := dk_seg dksX11_leaps_1 22 rfl rfl
theorem dX11_leaps_0 : decode cX11_leaps 0 = .ok (.bipush (-2), 2) := dk_16 254 (dk_at dksX11_leaps_0 0 rfl rfl)
theorem dX11_leaps_2 : decode cX11_leaps 2 = .ok (.istore_n 3, 1) := dk_62 (dk_at dksX11_leaps_0 2 rfl rfl)
theorem dX11_leaps_3 : decode cX11_leaps 3 = .ok (.iload_n 3, 1) := dk_29 (dk_at dksX11_leaps_0 3 rfl rfl)
theorem dX11_leaps_4 : decode cX11_leaps 4 = .ok (.iconst 2, 1) := dk_5 (dk_at dksX11_leaps_0 4 rfl rfl)
theorem dX11_leaps_5 : decode cX11_leaps 5 = .ok (.if_icmp .gt 49, 3) := dk_163 0 49 (dk_at dksX11_leaps_0 5 rfl rfl)
theorem dX11_leaps_8 : decode cX11_leaps 8 = .ok (.bipush (-2), 2) := dk_16 254 (dk_at dksX11_leaps_0 8 rfl rfl)
theorem dX11_leaps_10 : decode cX11_leaps 10 = .ok (.istore 4, 2) := dk_54 4 (dk_at dksX11_leaps_0 10 rfl rfl)
theorem dX11_leaps_12 : decode cX11_leaps 12 = .ok (.iload 4, 2) := dk_21 4 (dk_at dksX11_leaps_0 12 rfl rfl)
theorem dX11_leaps_14 : decode cX11_leaps 14 = .ok (.iconst 2, 1) := dk_5 (dk_at dksX11_leaps_0 14 rfl rfl)
theorem dX11_leaps_15 : decode cX11_leaps 15 = .ok (.if_icmp .gt 33, 3) := dk_163 0 33 (dk_at dksX11_leaps_0 15 rfl rfl)
theorem dX11_leaps_18 : decode cX11_leaps 18 = .ok (.iload_n 3, 1) := dk_29 (dk_at dksX11_leaps_0 18 rfl rfl)
theorem dX11_leaps_19 : decode cX11_leaps 19 = .ok (.iload_n 3, 1) := dk_29 (dk_at dksX11_leaps_0 19 rfl rfl)
theorem dX11_leaps_20 : decode cX11_leaps 20 = .ok (.imul, 1) := dk_104 (dk_at dksX11_leaps_0 20 rfl rfl)
theorem dX11_leaps_21 : decode cX11_leaps 21 = .ok (.iload 4, 2) := dk_21 4 (dk_at dksX11_leaps_0 21 rfl rfl)
theorem dX11_leaps_23 : decode cX11_leaps 23 = .ok (.iload 4, 2) := dk_21 4 (dk_at dksX11_leaps_1 0 rfl rfl)
theorem dX11_leaps_25 : decode cX11_leaps 25 = .ok (.imul, 1) := dk_104 (dk_at dksX11_leaps_1 2 rfl rfl)
theorem dX11_leaps_26 : decode cX11_leaps 26 = .ok (.iadd, 1) := dk_96 (dk_at dksX11_leaps_1 3 rfl rfl)
theorem dX11_leaps_27 : decode cX11_leaps 27 = .ok (.iconst 5, 1) := dk_8 (dk_at dksX11_leaps_1 4 rfl rfl)
theorem dX11_leaps_28 : decode cX11_leaps 28 = .ok (.if_icmp .ne 14, 3) := dk_160 0 14 (dk_at dksX11_leaps_1 5 rfl rfl)
theorem dX11_leaps_31 : decode cX11_leaps 31 = .ok (.aload_n 0, 1) := dk_42 (dk_at dksX11_leaps_1 8 rfl rfl)
theorem dX11_leaps_32 : decode cX11_leaps 32 = .ok (.iload_n 1, 1) := dk_27 (dk_at dksX11_leaps_1 9 rfl rfl)
theorem dX11_leaps_33 : decode cX11_leaps 33 = .ok (.iload_n 2, 1) := dk_28 (dk_at dksX11_leaps_1 10 rfl rfl)
theorem dX11_leaps_34 : decode cX11_leaps 34 = .ok (.iload_n 3, 1) := dk_29 (dk_at dksX11_leaps_1 11 rfl rfl)
theorem dX11_leaps_35 : decode cX11_leaps 35 = .ok (.iload 4, 2) := dk_21 4 (dk_at dksX11_leaps_1 12 rfl rfl)
theorem dX11_leaps_37 : decode cX11_leaps 37 = .ok (.iconst 1, 1) := dk_4 (dk_at dksX11_leaps_1 14 rfl rfl)
theorem dX11_leaps_38 : decode cX11_leaps 38 = .ok (.iconst 0, 1) := dk_3 (dk_at dksX11_leaps_1 15 rfl rfl)
theorem dX11_leaps_39 : decode cX11_leaps 39 = .ok (.invokevirtual 289, 3) := dk_182 1 33 (dk_at dksX11_leaps_1 16 rfl rfl)
theorem dX11_leaps_42 : decode cX11_leaps 42 = .ok (.iinc 4 1, 3) := dk_132 4 1 (dk_at dksX11_leaps_1 19 rfl rfl)
theorem dX11_leaps_45 : decode cX11_leaps 45 = .ok (.goto (-33), 3) := dk_167 255 223 (dk_at dksX11_leaps_2 0 rfl rfl)
theorem dX11_leaps_48 : decode cX11_leaps 48 = .ok (.iinc 3 1, 3) := dk_132 3 1 (dk_at dksX11_leaps_2 3 rfl rfl)
theorem dX11_leaps_51 : decode cX11_leaps 51 = .ok (.goto (-48), 3) := dk_167 255 208 (dk_at dksX11_leaps_2 6 rfl rfl)
theorem dX11_leaps_54 : decode cX11_leaps 54 = .ok (.return_, 1) := dk_177 (dk_at dksX11_leaps_2 9 rfl rfl)
def dkwX11_bites_2 : List UInt8 := [167, 255, 212, 177]
abbrev dktX11_bites_2 : List UInt8 := dkwX11_bites_2 ++ []
def dkwX11_bites_1 : List UInt8 := [27, 21, 5, 182, 1, 23, 155, 0, 14, 42, 27, 28, 21, 4, 29, 4, 3, 182, 1, 33, 132, 4, 2]
abbrev dktX11_bites_1 : List UInt8 := dkwX11_bites_1 ++ dktX11_bites_2
def dkwX11_bites_0 : List UInt8 := [2, 54, 4, 21, 4, 4, 163, 0, 44, 28, 21, 4, 29, 184, 1, 20, 54, 5, 21, 5, 155, 0, 24, 42]
abbrev dktX11_bites_0 : List UInt8 := dkwX11_bites_0 ++ dktX11_bites_1
theorem dksX11_bites_0 : cX11_bites.data.toList.drop 0 = dktX11_bites_0 := by decide +kernel
theorem dksX11_bites_1 : cX11_bites.data.toList.drop 24 = dktX11_bites_1 := dk_seg dksX11_bites_0 24 rfl rfl
theorem dksX11_bites_2 : cX11_bites.data.toList.drop 47 = dktX11_bites_2 := dk_seg dksX11_bites_1 23 rfl rfl
theorem dX11_bites_0 : decode cX11_bites 0 = .ok (.iconst (-1), 1) := dk_2 (dk_at dksX11_bites_0 0 rfl rfl)
theorem dX11_bites_1 : decode cX11_bites 1 = .ok (.istore 4, 2) := dk_54 4 (dk_at dksX11_bites_0 1 rfl rfl)
theorem dX11_bites_3 : decode cX11_bites 3 = .ok (.iload 4, 2) := dk_21 4 (dk_at dksX11_bites_0 3 rfl rfl)
theorem dX11_bites_5 : decode cX11_bites 5 = .ok (.iconst 1, 1) := dk_4 (dk_at dksX11_bites_0 5 rfl rfl)
theorem dX11_bites_6 : decode cX11_bites 6 = .ok (.if_icmp .gt 44, 3) := dk_163 0 44 (dk_at dksX11_bites_0 6 rfl rfl)
theorem dX11_bites_9 : decode cX11_bites 9 = .ok (.iload_n 2, 1) := dk_28 (dk_at dksX11_bites_0 9 rfl rfl)
theorem dX11_bites_10 : decode cX11_bites 10 = .ok (.iload 4, 2) := dk_21 4 (dk_at dksX11_bites_0 10 rfl rfl)
theorem dX11_bites_12 : decode cX11_bites 12 = .ok (.iload_n 3, 1) := dk_29 (dk_at dksX11_bites_0 12 rfl rfl)
theorem dX11_bites_13 : decode cX11_bites 13 = .ok (.invokestatic 276, 3) := dk_184 1 20 (dk_at dksX11_bites_0 13 rfl rfl)
theorem dX11_bites_16 : decode cX11_bites 16 = .ok (.istore 5, 2) := dk_54 5 (dk_at dksX11_bites_0 16 rfl rfl)
theorem dX11_bites_18 : decode cX11_bites 18 = .ok (.iload 5, 2) := dk_21 5 (dk_at dksX11_bites_0 18 rfl rfl)
theorem dX11_bites_20 : decode cX11_bites 20 = .ok (.ifCond .lt 24, 3) := dk_155 0 24 (dk_at dksX11_bites_0 20 rfl rfl)
theorem dX11_bites_23 : decode cX11_bites 23 = .ok (.aload_n 0, 1) := dk_42 (dk_at dksX11_bites_0 23 rfl rfl)
theorem dX11_bites_24 : decode cX11_bites 24 = .ok (.iload_n 1, 1) := dk_27 (dk_at dksX11_bites_1 0 rfl rfl)
theorem dX11_bites_25 : decode cX11_bites 25 = .ok (.iload 5, 2) := dk_21 5 (dk_at dksX11_bites_1 1 rfl rfl)
theorem dX11_bites_27 : decode cX11_bites 27 = .ok (.invokevirtual 279, 3) := dk_182 1 23 (dk_at dksX11_bites_1 3 rfl rfl)
theorem dX11_bites_30 : decode cX11_bites 30 = .ok (.ifCond .lt 14, 3) := dk_155 0 14 (dk_at dksX11_bites_1 6 rfl rfl)
theorem dX11_bites_33 : decode cX11_bites 33 = .ok (.aload_n 0, 1) := dk_42 (dk_at dksX11_bites_1 9 rfl rfl)
theorem dX11_bites_34 : decode cX11_bites 34 = .ok (.iload_n 1, 1) := dk_27 (dk_at dksX11_bites_1 10 rfl rfl)
theorem dX11_bites_35 : decode cX11_bites 35 = .ok (.iload_n 2, 1) := dk_28 (dk_at dksX11_bites_1 11 rfl rfl)
theorem dX11_bites_36 : decode cX11_bites 36 = .ok (.iload 4, 2) := dk_21 4 (dk_at dksX11_bites_1 12 rfl rfl)
theorem dX11_bites_38 : decode cX11_bites 38 = .ok (.iload_n 3, 1) := dk_29 (dk_at dksX11_bites_1 14 rfl rfl)
theorem dX11_bites_39 : decode cX11_bites 39 = .ok (.iconst 1, 1) := dk_4 (dk_at dksX11_bites_1 15 rfl rfl)
theorem dX11_bites_40 : decode cX11_bites 40 = .ok (.iconst 0, 1) := dk_3 (dk_at dksX11_bites_1 16 rfl rfl)
theorem dX11_bites_41 : decode cX11_bites 41 = .ok (.invokevirtual 289, 3) := dk_182 1 33 (dk_at dksX11_bites_1 17 rfl rfl)
theorem dX11_bites_44 : decode cX11_bites 44 = .ok (.iinc 4 2, 3) := dk_132 4 2 (dk_at dksX11_bites_1 20 rfl rfl)
theorem dX11_bites_47 : decode cX11_bites 47 = .ok (.goto (-44), 3) := dk_167 255 212 (dk_at dksX11_bites_2 0 rfl rfl)
theorem dX11_bites_50 : decode cX11_bites 50 = .ok (.return_, 1) := dk_177 (dk_at dksX11_bites_2 3 rfl rfl)
def dkwX11_manyAt_1 : List UInt8 := [153, 0, 7, 4, 167, 0, 4, 3, 96, 61, 132, 3, 1, 167, 255, 223, 28, 172]
abbrev dktX11_manyAt_1 : List UInt8 := dkwX11_manyAt_1 ++ []
def dkwX11_manyAt_0 : List UInt8 := [3, 61, 3, 62, 29, 17, 5, 16, 162, 0, 32, 28, 42, 180, 0, 43, 17, 5, 16, 27, 104, 29, 96, 51]
abbrev dktX11_manyAt_0 : List UInt8 := dkwX11_manyAt_0 ++ dktX11_manyAt_1
theorem dksX11_manyAt_0 : cX11_manyAt.data.toList.drop 0 = dktX11_manyAt_0 := by decide +kernel
theorem dksX11_manyAt_1 : cX11_manyAt.data.toList.drop 24 = dktX11_manyAt_1 := dk_seg dksX11_manyAt_0 24 rfl rfl
theorem dX11_manyAt_0 : decode cX11_manyAt 0 = .ok (.iconst 0, 1) := dk_3 (dk_at dksX11_manyAt_0 0 rfl rfl)
theorem dX11_manyAt_1 : decode cX11_manyAt 1 = .ok (.istore_n 2, 1) := dk_61 (dk_at dksX11_manyAt_0 1 rfl rfl)
theorem dX11_manyAt_2 : decode cX11_manyAt 2 = .ok (.iconst 0, 1) := dk_3 (dk_at dksX11_manyAt_0 2 rfl rfl)
theorem dX11_manyAt_3 : decode cX11_manyAt 3 = .ok (.istore_n 3, 1) := dk_62 (dk_at dksX11_manyAt_0 3 rfl rfl)
theorem dX11_manyAt_4 : decode cX11_manyAt 4 = .ok (.iload_n 3, 1) := dk_29 (dk_at dksX11_manyAt_0 4 rfl rfl)
theorem dX11_manyAt_5 : decode cX11_manyAt 5 = .ok (.sipush 1296, 3) := dk_17 5 16 (dk_at dksX11_manyAt_0 5 rfl rfl)
theorem dX11_manyAt_8 : decode cX11_manyAt 8 = .ok (.if_icmp .ge 32, 3) := dk_162 0 32 (dk_at dksX11_manyAt_0 8 rfl rfl)
theorem dX11_manyAt_11 : decode cX11_manyAt 11 = .ok (.iload_n 2, 1) := dk_28 (dk_at dksX11_manyAt_0 11 rfl rfl)
theorem dX11_manyAt_12 : decode cX11_manyAt 12 = .ok (.aload_n 0, 1) := dk_42 (dk_at dksX11_manyAt_0 12 rfl rfl)
theorem dX11_manyAt_13 : decode cX11_manyAt 13 = .ok (.getfield 43, 3) := dk_180 0 43 (dk_at dksX11_manyAt_0 13 rfl rfl)
theorem dX11_manyAt_16 : decode cX11_manyAt 16 = .ok (.sipush 1296, 3) := dk_17 5 16 (dk_at dksX11_manyAt_0 16 rfl rfl)
theorem dX11_manyAt_19 : decode cX11_manyAt 19 = .ok (.iload_n 1, 1) := dk_27 (dk_at dksX11_manyAt_0 19 rfl rfl)
theorem dX11_manyAt_20 : decode cX11_manyAt 20 = .ok (.imul, 1) := dk_104 (dk_at dksX11_manyAt_0 20 rfl rfl)
theorem dX11_manyAt_21 : decode cX11_manyAt 21 = .ok (.iload_n 3, 1) := dk_29 (dk_at dksX11_manyAt_0 21 rfl rfl)
theorem dX11_manyAt_22 : decode cX11_manyAt 22 = .ok (.iadd, 1) := dk_96 (dk_at dksX11_manyAt_0 22 rfl rfl)
theorem dX11_manyAt_23 : decode cX11_manyAt 23 = .ok (.baload, 1) := dk_51 (dk_at dksX11_manyAt_0 23 rfl rfl)
theorem dX11_manyAt_24 : decode cX11_manyAt 24 = .ok (.ifCond .eq 7, 3) := dk_153 0 7 (dk_at dksX11_manyAt_1 0 rfl rfl)
theorem dX11_manyAt_27 : decode cX11_manyAt 27 = .ok (.iconst 1, 1) := dk_4 (dk_at dksX11_manyAt_1 3 rfl rfl)
theorem dX11_manyAt_28 : decode cX11_manyAt 28 = .ok (.goto 4, 3) := dk_167 0 4 (dk_at dksX11_manyAt_1 4 rfl rfl)
theorem dX11_manyAt_31 : decode cX11_manyAt 31 = .ok (.iconst 0, 1) := dk_3 (dk_at dksX11_manyAt_1 7 rfl rfl)
theorem dX11_manyAt_32 : decode cX11_manyAt 32 = .ok (.iadd, 1) := dk_96 (dk_at dksX11_manyAt_1 8 rfl rfl)
theorem dX11_manyAt_33 : decode cX11_manyAt 33 = .ok (.istore_n 2, 1) := dk_61 (dk_at dksX11_manyAt_1 9 rfl rfl)
theorem dX11_manyAt_34 : decode cX11_manyAt 34 = .ok (.iinc 3 1, 3) := dk_132 3 1 (dk_at dksX11_manyAt_1 10 rfl rfl)
theorem dX11_manyAt_37 : decode cX11_manyAt 37 = .ok (.goto (-33), 3) := dk_167 255 223 (dk_at dksX11_manyAt_1 13 rfl rfl)
theorem dX11_manyAt_40 : decode cX11_manyAt 40 = .ok (.iload_n 2, 1) := dk_28 (dk_at dksX11_manyAt_1 16 rfl rfl)
theorem dX11_manyAt_41 : decode cX11_manyAt 41 = .ok (.ireturn, 1) := dk_172 (dk_at dksX11_manyAt_1 17 rfl rfl)
def dkwX11_moveAt_2 : List UInt8 := [2, 172]
abbrev dktX11_moveAt_2 : List UInt8 := dkwX11_moveAt_2 ++ []
def dkwX11_moveAt_1 : List UInt8 := [96, 51, 154, 0, 6, 167, 0, 13, 29, 154, 0, 6, 21, 4, 172, 132, 3, 255, 132, 4, 1, 167, 255, 216]
abbrev dktX11_moveAt_1 : List UInt8 := dkwX11_moveAt_1 ++ dktX11_moveAt_2
def dkwX11_moveAt_0 : List UInt8 := [28, 62, 3, 54, 4, 21, 4, 17, 5, 16, 162, 0, 38, 42, 180, 0, 43, 17, 5, 16, 27, 104, 21, 4]
abbrev dktX11_moveAt_0 : List UInt8 := dkwX11_moveAt_0 ++ dktX11_moveAt_1
theorem dksX11_moveAt_0 : cX11_moveAt.data.toList.drop 0 = dktX11_moveAt_0 := by decide +kernel
theorem dksX11_moveAt_1 : cX11_moveAt.data.toList.drop 24 = dktX11_moveAt_1 := dk_seg dksX11_moveAt_0 24 rfl rfl
theorem dksX11_moveAt_2 : cX11_moveAt.data.toList.drop 48 = dktX11_moveAt_2 := dk_seg dksX11_moveAt_1 24 rfl rfl
theorem dX11_moveAt_0 : decode cX11_moveAt 0 = .ok (.iload_n 2, 1) := dk_28 (dk_at dksX11_moveAt_0 0 rfl rfl)
theorem dX11_moveAt_1 : decode cX11_moveAt 1 = .ok (.istore_n 3, 1) := dk_62 (dk_at dksX11_moveAt_0 1 rfl rfl)
theorem dX11_moveAt_2 : decode cX11_moveAt 2 = .ok (.iconst 0, 1) := dk_3 (dk_at dksX11_moveAt_0 2 rfl rfl)
theorem dX11_moveAt_3 : decode cX11_moveAt 3 = .ok (.istore 4, 2) := dk_54 4 (dk_at dksX11_moveAt_0 3 rfl rfl)
theorem dX11_moveAt_5 : decode cX11_moveAt 5 = .ok (.iload 4, 2) := dk_21 4 (dk_at dksX11_moveAt_0 5 rfl rfl)
theorem dX11_moveAt_7 : decode cX11_moveAt 7 = .ok (.sipush 1296, 3) := dk_17 5 16 (dk_at dksX11_moveAt_0 7 rfl rfl)
theorem dX11_moveAt_10 : decode cX11_moveAt 10 = .ok (.if_icmp .ge 38, 3) := dk_162 0 38 (dk_at dksX11_moveAt_0 10 rfl rfl)
theorem dX11_moveAt_13 : decode cX11_moveAt 13 = .ok (.aload_n 0, 1) := dk_42 (dk_at dksX11_moveAt_0 13 rfl rfl)
theorem dX11_moveAt_14 : decode cX11_moveAt 14 = .ok (.getfield 43, 3) := dk_180 0 43 (dk_at dksX11_moveAt_0 14 rfl rfl)
theorem dX11_moveAt_17 : decode cX11_moveAt 17 = .ok (.sipush 1296, 3) := dk_17 5 16 (dk_at dksX11_moveAt_0 17 rfl rfl)
theorem dX11_moveAt_20 : decode cX11_moveAt 20 = .ok (.iload_n 1, 1) := dk_27 (dk_at dksX11_moveAt_0 20 rfl rfl)
theorem dX11_moveAt_21 : decode cX11_moveAt 21 = .ok (.imul, 1) := dk_104 (dk_at dksX11_moveAt_0 21 rfl rfl)
theorem dX11_moveAt_22 : decode cX11_moveAt 22 = .ok (.iload 4, 2) := dk_21 4 (dk_at dksX11_moveAt_0 22 rfl rfl)
theorem dX11_moveAt_24 : decode cX11_moveAt 24 = .ok (.iadd, 1) := dk_96 (dk_at dksX11_moveAt_1 0 rfl rfl)
theorem dX11_moveAt_25 : decode cX11_moveAt 25 = .ok (.baload, 1) := dk_51 (dk_at dksX11_moveAt_1 1 rfl rfl)
theorem dX11_moveAt_26 : decode cX11_moveAt 26 = .ok (.ifCond .ne 6, 3) := dk_154 0 6 (dk_at dksX11_moveAt_1 2 rfl rfl)
theorem dX11_moveAt_29 : decode cX11_moveAt 29 = .ok (.goto 13, 3) := dk_167 0 13 (dk_at dksX11_moveAt_1 5 rfl rfl)
theorem dX11_moveAt_32 : decode cX11_moveAt 32 = .ok (.iload_n 3, 1) := dk_29 (dk_at dksX11_moveAt_1 8 rfl rfl)
theorem dX11_moveAt_33 : decode cX11_moveAt 33 = .ok (.ifCond .ne 6, 3) := dk_154 0 6 (dk_at dksX11_moveAt_1 9 rfl rfl)
theorem dX11_moveAt_36 : decode cX11_moveAt 36 = .ok (.iload 4, 2) := dk_21 4 (dk_at dksX11_moveAt_1 12 rfl rfl)
theorem dX11_moveAt_38 : decode cX11_moveAt 38 = .ok (.ireturn, 1) := dk_172 (dk_at dksX11_moveAt_1 14 rfl rfl)
theorem dX11_moveAt_39 : decode cX11_moveAt 39 = .ok (.iinc 3 (-1), 3) := dk_132 3 255 (dk_at dksX11_moveAt_1 15 rfl rfl)
theorem dX11_moveAt_42 : decode cX11_moveAt 42 = .ok (.iinc 4 1, 3) := dk_132 4 1 (dk_at dksX11_moveAt_1 18 rfl rfl)
theorem dX11_moveAt_45 : decode cX11_moveAt 45 = .ok (.goto (-40), 3) := dk_167 255 216 (dk_at dksX11_moveAt_1 21 rfl rfl)
theorem dX11_moveAt_48 : decode cX11_moveAt 48 = .ok (.iconst (-1), 1) := dk_2 (dk_at dksX11_moveAt_2 0 rfl rfl)
theorem dX11_moveAt_49 : decode cX11_moveAt 49 = .ok (.ireturn, 1) := dk_172 (dk_at dksX11_moveAt_2 1 rfl rfl)
def dkwX11_least_0 : List UInt8 := [42, 3, 181, 0, 3, 42, 182, 1, 185, 172]
abbrev dktX11_least_0 : List UInt8 := dkwX11_least_0 ++ []
theorem dksX11_least_0 : cX11_least.data.toList.drop 0 = dktX11_least_0 := by decide +kernel
theorem dX11_least_0 : decode cX11_least 0 = .ok (.aload_n 0, 1) := dk_42 (dk_at dksX11_least_0 0 rfl rfl)
theorem dX11_least_1 : decode cX11_least 1 = .ok (.iconst 0, 1) := dk_3 (dk_at dksX11_least_0 1 rfl rfl)
theorem dX11_least_2 : decode cX11_least 2 = .ok (.putfield 3, 3) := dk_181 0 3 (dk_at dksX11_least_0 2 rfl rfl)
theorem dX11_least_5 : decode cX11_least 5 = .ok (.aload_n 0, 1) := dk_42 (dk_at dksX11_least_0 5 rfl rfl)
theorem dX11_least_6 : decode cX11_least 6 = .ok (.invokevirtual 441, 3) := dk_182 1 185 (dk_at dksX11_least_0 6 rfl rfl)
theorem dX11_least_9 : decode cX11_least 9 = .ok (.ireturn, 1) := dk_172 (dk_at dksX11_least_0 9 rfl rfl)
def dkwX11_asksWhole_0 : List UInt8 := [42, 182, 1, 179, 42, 182, 1, 182, 172]
abbrev dktX11_asksWhole_0 : List UInt8 := dkwX11_asksWhole_0 ++ []
theorem dksX11_asksWhole_0 : cX11_asksWhole.data.toList.drop 0 = dktX11_asksWhole_0 := by decide +kernel
theorem dX11_asksWhole_0 : decode cX11_asksWhole 0 = .ok (.aload_n 0, 1) := dk_42 (dk_at dksX11_asksWhole_0 0 rfl rfl)
theorem dX11_asksWhole_1 : decode cX11_asksWhole 1 = .ok (.invokevirtual 435, 3) := dk_182 1 179 (dk_at dksX11_asksWhole_0 1 rfl rfl)
theorem dX11_asksWhole_4 : decode cX11_asksWhole 4 = .ok (.aload_n 0, 1) := dk_42 (dk_at dksX11_asksWhole_0 4 rfl rfl)
theorem dX11_asksWhole_5 : decode cX11_asksWhole 5 = .ok (.invokevirtual 438, 3) := dk_182 1 182 (dk_at dksX11_asksWhole_0 5 rfl rfl)
theorem dX11_asksWhole_8 : decode cX11_asksWhole 8 = .ok (.ireturn, 1) := dk_172 (dk_at dksX11_asksWhole_0 8 rfl rfl)
def dkwX11_asksAll_3 : List UInt8 := [167, 255, 233, 177]
abbrev dktX11_asksAll_3 : List UInt8 := dkwX11_asksAll_3 ++ []
def dkwX11_asksAll_2 : List UInt8 := [16, 8, 162, 0, 23, 42, 180, 0, 50, 27, 42, 180, 0, 13, 8, 27, 96, 46, 79, 132, 1, 1]
abbrev dktX11_asksAll_2 : List UInt8 := dkwX11_asksAll_2 ++ dktX11_asksAll_3
def dkwX11_asksAll_1 : List UInt8 := [162, 0, 21, 42, 180, 0, 47, 27, 42, 27, 3, 182, 0, 114, 79, 132, 1, 1, 167, 255, 231, 3, 60, 27]
abbrev dktX11_asksAll_1 : List UInt8 := dkwX11_asksAll_1 ++ dktX11_asksAll_2
def dkwX11_asksAll_0 : List UInt8 := [42, 4, 42, 180, 0, 13, 4, 46, 120, 4, 100, 181, 1, 58, 3, 60, 27, 42, 180, 0, 13, 4, 46]
abbrev dktX11_asksAll_0 : List UInt8 := dkwX11_asksAll_0 ++ dktX11_asksAll_1
theorem dksX11_asksAll_0 : cX11_asksAll.data.toList.drop 0 = dktX11_asksAll_0 := by decide +kernel
theorem dksX11_asksAll_1 : cX11_asksAll.data.toList.drop 23 = dktX11_asksAll_1 := dk_seg dksX11_asksAll_0 23 rfl rfl
theorem dksX11_asksAll_2 : cX11_asksAll.data.toList.drop 47 = dktX11_asksAll_2 := dk_seg dksX11_asksAll_1 24 rfl rfl
theorem dksX11_asksAll_3 : cX11_asksAll.data.toList.drop 69 = dktX11_asksAll_3 := dk_seg dksX11_asksAll_2 22 rfl rfl
theorem dX11_asksAll_0 : decode cX11_asksAll 0 = .ok (.aload_n 0, 1) := dk_42 (dk_at dksX11_asksAll_0 0 rfl rfl)
theorem dX11_asksAll_1 : decode cX11_asksAll 1 = .ok (.iconst 1, 1) := dk_4 (dk_at dksX11_asksAll_0 1 rfl rfl)
theorem dX11_asksAll_2 : decode cX11_asksAll 2 = .ok (.aload_n 0, 1) := dk_42 (dk_at dksX11_asksAll_0 2 rfl rfl)
theorem dX11_asksAll_3 : decode cX11_asksAll 3 = .ok (.getfield 13, 3) := dk_180 0 13 (dk_at dksX11_asksAll_0 3 rfl rfl)
theorem dX11_asksAll_6 : decode cX11_asksAll 6 = .ok (.iconst 1, 1) := dk_4 (dk_at dksX11_asksAll_0 6 rfl rfl)
theorem dX11_asksAll_7 : decode cX11_asksAll 7 = .ok (.iaload, 1) := dk_46 (dk_at dksX11_asksAll_0 7 rfl rfl)
theorem dX11_asksAll_8 : decode cX11_asksAll 8 = .ok (.ishl, 1) := dk_120 (dk_at dksX11_asksAll_0 8 rfl rfl)
theorem dX11_asksAll_9 : decode cX11_asksAll 9 = .ok (.iconst 1, 1) := dk_4 (dk_at dksX11_asksAll_0 9 rfl rfl)
theorem dX11_asksAll_10 : decode cX11_asksAll 10 = .ok (.isub, 1) := dk_100 (dk_at dksX11_asksAll_0 10 rfl rfl)
theorem dX11_asksAll_11 : decode cX11_asksAll 11 = .ok (.putfield 314, 3) := dk_181 1 58 (dk_at dksX11_asksAll_0 11 rfl rfl)
theorem dX11_asksAll_14 : decode cX11_asksAll 14 = .ok (.iconst 0, 1) := dk_3 (dk_at dksX11_asksAll_0 14 rfl rfl)
theorem dX11_asksAll_15 : decode cX11_asksAll 15 = .ok (.istore_n 1, 1) := dk_60 (dk_at dksX11_asksAll_0 15 rfl rfl)
theorem dX11_asksAll_16 : decode cX11_asksAll 16 = .ok (.iload_n 1, 1) := dk_27 (dk_at dksX11_asksAll_0 16 rfl rfl)
theorem dX11_asksAll_17 : decode cX11_asksAll 17 = .ok (.aload_n 0, 1) := dk_42 (dk_at dksX11_asksAll_0 17 rfl rfl)
theorem dX11_asksAll_18 : decode cX11_asksAll 18 = .ok (.getfield 13, 3) := dk_180 0 13 (dk_at dksX11_asksAll_0 18 rfl rfl)
theorem dX11_asksAll_21 : decode cX11_asksAll 21 = .ok (.iconst 1, 1) := dk_4 (dk_at dksX11_asksAll_0 21 rfl rfl)
theorem dX11_asksAll_22 : decode cX11_asksAll 22 = .ok (.iaload, 1) := dk_46 (dk_at dksX11_asksAll_0 22 rfl rfl)
theorem dX11_asksAll_23 : decode cX11_asksAll 23 = .ok (.if_icmp .ge 21, 3) := dk_162 0 21 (dk_at dksX11_asksAll_1 0 rfl rfl)
theorem dX11_asksAll_26 : decode cX11_asksAll 26 = .ok (.aload_n 0, 1) := dk_42 (dk_at dksX11_asksAll_1 3 rfl rfl)
theorem dX11_asksAll_27 : decode cX11_asksAll 27 = .ok (.getfield 47, 3) := dk_180 0 47 (dk_at dksX11_asksAll_1 4 rfl rfl)
theorem dX11_asksAll_30 : decode cX11_asksAll 30 = .ok (.iload_n 1, 1) := dk_27 (dk_at dksX11_asksAll_1 7 rfl rfl)
theorem dX11_asksAll_31 : decode cX11_asksAll 31 = .ok (.aload_n 0, 1) := dk_42 (dk_at dksX11_asksAll_1 8 rfl rfl)
theorem dX11_asksAll_32 : decode cX11_asksAll 32 = .ok (.iload_n 1, 1) := dk_27 (dk_at dksX11_asksAll_1 9 rfl rfl)
theorem dX11_asksAll_33 : decode cX11_asksAll 33 = .ok (.iconst 0, 1) := dk_3 (dk_at dksX11_asksAll_1 10 rfl rfl)
theorem dX11_asksAll_34 : decode cX11_asksAll 34 = .ok (.invokevirtual 114, 3) := dk_182 0 114 (dk_at dksX11_asksAll_1 11 rfl rfl)
theorem dX11_asksAll_37 : decode cX11_asksAll 37 = .ok (.iastore, 1) := dk_79 (dk_at dksX11_asksAll_1 14 rfl rfl)
theorem dX11_asksAll_38 : decode cX11_asksAll 38 = .ok (.iinc 1 1, 3) := dk_132 1 1 (dk_at dksX11_asksAll_1 15 rfl rfl)
theorem dX11_asksAll_41 : decode cX11_asksAll 41 = .ok (.goto (-25), 3) := dk_167 255 231 (dk_at dksX11_asksAll_1 18 rfl rfl)
theorem dX11_asksAll_44 : decode cX11_asksAll 44 = .ok (.iconst 0, 1) := dk_3 (dk_at dksX11_asksAll_1 21 rfl rfl)
theorem dX11_asksAll_45 : decode cX11_asksAll 45 = .ok (.istore_n 1, 1) := dk_60 (dk_at dksX11_asksAll_1 22 rfl rfl)
theorem dX11_asksAll_46 : decode cX11_asksAll 46 = .ok (.iload_n 1, 1) := dk_27 (dk_at dksX11_asksAll_1 23 rfl rfl)
theorem dX11_asksAll_47 : decode cX11_asksAll 47 = .ok (.bipush 8, 2) := dk_16 8 (dk_at dksX11_asksAll_2 0 rfl rfl)
theorem dX11_asksAll_49 : decode cX11_asksAll 49 = .ok (.if_icmp .ge 23, 3) := dk_162 0 23 (dk_at dksX11_asksAll_2 2 rfl rfl)
theorem dX11_asksAll_52 : decode cX11_asksAll 52 = .ok (.aload_n 0, 1) := dk_42 (dk_at dksX11_asksAll_2 5 rfl rfl)
theorem dX11_asksAll_53 : decode cX11_asksAll 53 = .ok (.getfield 50, 3) := dk_180 0 50 (dk_at dksX11_asksAll_2 6 rfl rfl)
theorem dX11_asksAll_56 : decode cX11_asksAll 56 = .ok (.iload_n 1, 1) := dk_27 (dk_at dksX11_asksAll_2 9 rfl rfl)
theorem dX11_asksAll_57 : decode cX11_asksAll 57 = .ok (.aload_n 0, 1) := dk_42 (dk_at dksX11_asksAll_2 10 rfl rfl)
theorem dX11_asksAll_58 : decode cX11_asksAll 58 = .ok (.getfield 13, 3) := dk_180 0 13 (dk_at dksX11_asksAll_2 11 rfl rfl)
theorem dX11_asksAll_61 : decode cX11_asksAll 61 = .ok (.iconst 5, 1) := dk_8 (dk_at dksX11_asksAll_2 14 rfl rfl)
theorem dX11_asksAll_62 : decode cX11_asksAll 62 = .ok (.iload_n 1, 1) := dk_27 (dk_at dksX11_asksAll_2 15 rfl rfl)
theorem dX11_asksAll_63 : decode cX11_asksAll 63 = .ok (.iadd, 1) := dk_96 (dk_at dksX11_asksAll_2 16 rfl rfl)
theorem dX11_asksAll_64 : decode cX11_asksAll 64 = .ok (.iaload, 1) := dk_46 (dk_at dksX11_asksAll_2 17 rfl rfl)
theorem dX11_asksAll_65 : decode cX11_asksAll 65 = .ok (.iastore, 1) := dk_79 (dk_at dksX11_asksAll_2 18 rfl rfl)
theorem dX11_asksAll_66 : decode cX11_asksAll 66 = .ok (.iinc 1 1, 3) := dk_132 1 1 (dk_at dksX11_asksAll_2 19 rfl rfl)
theorem dX11_asksAll_69 : decode cX11_asksAll 69 = .ok (.goto (-23), 3) := dk_167 255 233 (dk_at dksX11_asksAll_3 0 rfl rfl)
theorem dX11_asksAll_72 : decode cX11_asksAll 72 = .ok (.return_, 1) := dk_177 (dk_at dksX11_asksAll_3 3 rfl rfl)
def dkwX11_asks_2 : List UInt8 := [158, 0, 5, 27, 172, 132, 1, 1, 167, 255, 223, 2, 172]
abbrev dktX11_asks_2 : List UInt8 := dkwX11_asks_2 ++ []
def dkwX11_asks_1 : List UInt8 := [16, 20, 163, 0, 33, 42, 27, 182, 1, 176, 42, 180, 1, 145, 153, 0, 6, 16, 254, 172, 42, 180, 1, 118]
abbrev dktX11_asks_1 : List UInt8 := dkwX11_asks_1 ++ dktX11_asks_2
def dkwX11_asks_0 : List UInt8 := [42, 3, 181, 1, 142, 42, 3, 181, 1, 145, 42, 3, 181, 1, 103, 42, 16, 30, 181, 1, 112, 3, 60, 27]
abbrev dktX11_asks_0 : List UInt8 := dkwX11_asks_0 ++ dktX11_asks_1
theorem dksX11_asks_0 : cX11_asks.data.toList.drop 0 = dktX11_asks_0 := by decide +kernel
theorem dksX11_asks_1 : cX11_asks.data.toList.drop 24 = dktX11_asks_1 := dk_seg dksX11_asks_0 24 rfl rfl
theorem dksX11_asks_2 : cX11_asks.data.toList.drop 48 = dktX11_asks_2 := dk_seg dksX11_asks_1 24 rfl rfl
theorem dX11_asks_0 : decode cX11_asks 0 = .ok (.aload_n 0, 1) := dk_42 (dk_at dksX11_asks_0 0 rfl rfl)
theorem dX11_asks_1 : decode cX11_asks 1 = .ok (.iconst 0, 1) := dk_3 (dk_at dksX11_asks_0 1 rfl rfl)
theorem dX11_asks_2 : decode cX11_asks 2 = .ok (.putfield 398, 3) := dk_181 1 142 (dk_at dksX11_asks_0 2 rfl rfl)
theorem dX11_asks_5 : decode cX11_asks 5 = .ok (.aload_n 0, 1) := dk_42 (dk_at dksX11_asks_0 5 rfl rfl)
theorem dX11_asks_6 : decode cX11_asks 6 = .ok (.iconst 0, 1) := dk_3 (dk_at dksX11_asks_0 6 rfl rfl)
theorem dX11_asks_7 : decode cX11_asks 7 = .ok (.putfield 401, 3) := dk_181 1 145 (dk_at dksX11_asks_0 7 rfl rfl)
theorem dX11_asks_10 : decode cX11_asks 10 = .ok (.aload_n 0, 1) := dk_42 (dk_at dksX11_asks_0 10 rfl rfl)
theorem dX11_asks_11 : decode cX11_asks 11 = .ok (.iconst 0, 1) := dk_3 (dk_at dksX11_asks_0 11 rfl rfl)
theorem dX11_asks_12 : decode cX11_asks 12 = .ok (.putfield 359, 3) := dk_181 1 103 (dk_at dksX11_asks_0 12 rfl rfl)
theorem dX11_asks_15 : decode cX11_asks 15 = .ok (.aload_n 0, 1) := dk_42 (dk_at dksX11_asks_0 15 rfl rfl)
theorem dX11_asks_16 : decode cX11_asks 16 = .ok (.bipush 30, 2) := dk_16 30 (dk_at dksX11_asks_0 16 rfl rfl)
theorem dX11_asks_18 : decode cX11_asks 18 = .ok (.putfield 368, 3) := dk_181 1 112 (dk_at dksX11_asks_0 18 rfl rfl)
theorem dX11_asks_21 : decode cX11_asks 21 = .ok (.iconst 0, 1) := dk_3 (dk_at dksX11_asks_0 21 rfl rfl)
theorem dX11_asks_22 : decode cX11_asks 22 = .ok (.istore_n 1, 1) := dk_60 (dk_at dksX11_asks_0 22 rfl rfl)
theorem dX11_asks_23 : decode cX11_asks 23 = .ok (.iload_n 1, 1) := dk_27 (dk_at dksX11_asks_0 23 rfl rfl)
theorem dX11_asks_24 : decode cX11_asks 24 = .ok (.bipush 20, 2) := dk_16 20 (dk_at dksX11_asks_1 0 rfl rfl)
theorem dX11_asks_26 : decode cX11_asks 26 = .ok (.if_icmp .gt 33, 3) := dk_163 0 33 (dk_at dksX11_asks_1 2 rfl rfl)
theorem dX11_asks_29 : decode cX11_asks 29 = .ok (.aload_n 0, 1) := dk_42 (dk_at dksX11_asks_1 5 rfl rfl)
theorem dX11_asks_30 : decode cX11_asks 30 = .ok (.iload_n 1, 1) := dk_27 (dk_at dksX11_asks_1 6 rfl rfl)
theorem dX11_asks_31 : decode cX11_asks 31 = .ok (.invokevirtual 432, 3) := dk_182 1 176 (dk_at dksX11_asks_1 7 rfl rfl)
theorem dX11_asks_34 : decode cX11_asks 34 = .ok (.aload_n 0, 1) := dk_42 (dk_at dksX11_asks_1 10 rfl rfl)
theorem dX11_asks_35 : decode cX11_asks 35 = .ok (.getfield 401, 3) := dk_180 1 145 (dk_at dksX11_asks_1 11 rfl rfl)
theorem dX11_asks_38 : decode cX11_asks 38 = .ok (.ifCond .eq 6, 3) := dk_153 0 6 (dk_at dksX11_asks_1 14 rfl rfl)
theorem dX11_asks_41 : decode cX11_asks 41 = .ok (.bipush (-2), 2) := dk_16 254 (dk_at dksX11_asks_1 17 rfl rfl)
theorem dX11_asks_43 : decode cX11_asks 43 = .ok (.ireturn, 1) := dk_172 (dk_at dksX11_asks_1 19 rfl rfl)
theorem dX11_asks_44 : decode cX11_asks 44 = .ok (.aload_n 0, 1) := dk_42 (dk_at dksX11_asks_1 20 rfl rfl)
theorem dX11_asks_45 : decode cX11_asks 45 = .ok (.getfield 374, 3) := dk_180 1 118 (dk_at dksX11_asks_1 21 rfl rfl)
theorem dX11_asks_48 : decode cX11_asks 48 = .ok (.ifCond .le 5, 3) := dk_158 0 5 (dk_at dksX11_asks_2 0 rfl rfl)
theorem dX11_asks_51 : decode cX11_asks 51 = .ok (.iload_n 1, 1) := dk_27 (dk_at dksX11_asks_2 3 rfl rfl)
theorem dX11_asks_52 : decode cX11_asks 52 = .ok (.ireturn, 1) := dk_172 (dk_at dksX11_asks_2 4 rfl rfl)
theorem dX11_asks_53 : decode cX11_asks 53 = .ok (.iinc 1 1, 3) := dk_132 1 1 (dk_at dksX11_asks_2 5 rfl rfl)
theorem dX11_asks_56 : decode cX11_asks 56 = .ok (.goto (-33), 3) := dk_167 255 223 (dk_at dksX11_asks_2 8 rfl rfl)
theorem dX11_asks_59 : decode cX11_asks 59 = .ok (.iconst (-1), 1) := dk_2 (dk_at dksX11_asks_2 11 rfl rfl)
theorem dX11_asks_60 : decode cX11_asks 60 = .ok (.ireturn, 1) := dk_172 (dk_at dksX11_asks_2 12 rfl rfl)
def dkwX11_laysAll_9 : List UInt8 := [167, 255, 102, 132, 2, 1, 42, 28, 27, 182, 1, 167, 167, 255, 90, 177]
abbrev dktX11_laysAll_9 : List UInt8 := dkwX11_laysAll_9 ++ []
def dkwX11_laysAll_8 : List UInt8 := [167, 255, 224, 132, 4, 1, 167, 255, 204, 42, 28, 4, 96, 182, 1, 164, 42, 180, 1, 91, 27, 164, 0, 6]
abbrev dktX11_laysAll_8 : List UInt8 := dkwX11_laysAll_8 ++ dktX11_laysAll_9
def dkwX11_laysAll_7 : List UInt8 := [162, 0, 27, 42, 21, 4, 182, 1, 97, 153, 0, 18, 42, 28, 21, 4, 21, 5, 182, 1, 173, 132, 5, 1]
abbrev dktX11_laysAll_7 : List UInt8 := dkwX11_laysAll_7 ++ dktX11_laysAll_8
def dkwX11_laysAll_6 : List UInt8 := [21, 4, 42, 180, 0, 13, 4, 46, 162, 0, 47, 3, 54, 5, 21, 5, 42, 21, 4, 182, 0, 251]
abbrev dktX11_laysAll_6 : List UInt8 := dkwX11_laysAll_6 ++ dktX11_laysAll_7
def dkwX11_laysAll_5 : List UInt8 := [180, 0, 65, 28, 29, 4, 96, 79, 42, 180, 0, 53, 28, 29, 79, 42, 28, 29, 182, 1, 170, 3, 54, 4]
abbrev dktX11_laysAll_5 : List UInt8 := dkwX11_laysAll_5 ++ dktX11_laysAll_6
def dkwX11_laysAll_4 : List UInt8 := [51, 154, 0, 9, 132, 3, 1, 167, 255, 231, 29, 17, 5, 16, 160, 0, 9, 132, 2, 255, 167, 255, 200, 42]
abbrev dktX11_laysAll_4 : List UInt8 := dkwX11_laysAll_4 ++ dktX11_laysAll_5
def dkwX11_laysAll_3 : List UInt8 := [180, 0, 65, 28, 46, 62, 29, 17, 5, 16, 162, 0, 24, 42, 180, 0, 43, 17, 5, 16, 28, 104, 29, 96]
abbrev dktX11_laysAll_3 : List UInt8 := dkwX11_laysAll_3 ++ dktX11_laysAll_4
def dkwX11_laysAll_2 : List UInt8 := [182, 1, 164, 42, 3, 27, 182, 1, 167, 3, 61, 28, 155, 0, 168, 42, 180, 1, 145, 154, 0, 161, 42]
abbrev dktX11_laysAll_2 : List UInt8 := dkwX11_laysAll_2 ++ dktX11_laysAll_3
def dkwX11_laysAll_1 : List UInt8 := [80, 132, 2, 1, 167, 255, 230, 42, 3, 181, 1, 118, 42, 3, 181, 1, 148, 42, 182, 1, 46, 42, 3]
abbrev dktX11_laysAll_1 : List UInt8 := dkwX11_laysAll_1 ++ dktX11_laysAll_2
def dkwX11_laysAll_0 : List UInt8 := [3, 61, 28, 42, 180, 0, 68, 190, 162, 0, 23, 42, 180, 0, 68, 28, 9, 80, 42, 180, 0, 72, 28, 9]
abbrev dktX11_laysAll_0 : List UInt8 := dkwX11_laysAll_0 ++ dktX11_laysAll_1
theorem dksX11_laysAll_0 : cX11_laysAll.data.toList.drop 0 = dktX11_laysAll_0 := by decide +kernel
theorem dksX11_laysAll_1 : cX11_laysAll.data.toList.drop 24 = dktX11_laysAll_1 := dk_seg dksX11_laysAll_0 24 rfl rfl
theorem dksX11_laysAll_2 : cX11_laysAll.data.toList.drop 47 = dktX11_laysAll_2 := dk_seg dksX11_laysAll_1 23 rfl rfl
theorem dksX11_laysAll_3 : cX11_laysAll.data.toList.drop 70 = dktX11_laysAll_3 := dk_seg dksX11_laysAll_2 23 rfl rfl
theorem dksX11_laysAll_4 : cX11_laysAll.data.toList.drop 94 = dktX11_laysAll_4 := dk_seg dksX11_laysAll_3 24 rfl rfl
theorem dksX11_laysAll_5 : cX11_laysAll.data.toList.drop 118 = dktX11_laysAll_5 := dk_seg dksX11_laysAll_4 24 rfl rfl
theorem dksX11_laysAll_6 : cX11_laysAll.data.toList.drop 142 = dktX11_laysAll_6 := dk_seg dksX11_laysAll_5 24 rfl rfl
theorem dksX11_laysAll_7 : cX11_laysAll.data.toList.drop 164 = dktX11_laysAll_7 := dk_seg dksX11_laysAll_6 22 rfl rfl
theorem dksX11_laysAll_8 : cX11_laysAll.data.toList.drop 188 = dktX11_laysAll_8 := dk_seg dksX11_laysAll_7 24 rfl rfl
theorem dksX11_laysAll_9 : cX11_laysAll.data.toList.drop 212 = dktX11_laysAll_9 := dk_seg dksX11_laysAll_8 24 rfl rfl
theorem dX11_laysAll_0 : decode cX11_laysAll 0 = .ok (.iconst 0, 1) := dk_3 (dk_at dksX11_laysAll_0 0 rfl rfl)
theorem dX11_laysAll_1 : decode cX11_laysAll 1 = .ok (.istore_n 2, 1) := dk_61 (dk_at dksX11_laysAll_0 1 rfl rfl)
theorem dX11_laysAll_2 : decode cX11_laysAll 2 = .ok (.iload_n 2, 1) := dk_28 (dk_at dksX11_laysAll_0 2 rfl rfl)
theorem dX11_laysAll_3 : decode cX11_laysAll 3 = .ok (.aload_n 0, 1) := dk_42 (dk_at dksX11_laysAll_0 3 rfl rfl)
theorem dX11_laysAll_4 : decode cX11_laysAll 4 = .ok (.getfield 68, 3) := dk_180 0 68 (dk_at dksX11_laysAll_0 4 rfl rfl)
theorem dX11_laysAll_7 : decode cX11_laysAll 7 = .ok (.arraylength, 1) := dk_190 (dk_at dksX11_laysAll_0 7 rfl rfl)
theorem dX11_laysAll_8 : decode cX11_laysAll 8 = .ok (.if_icmp .ge 23, 3) := dk_162 0 23 (dk_at dksX11_laysAll_0 8 rfl rfl)
theorem dX11_laysAll_11 : decode cX11_laysAll 11 = .ok (.aload_n 0, 1) := dk_42 (dk_at dksX11_laysAll_0 11 rfl rfl)
theorem dX11_laysAll_12 : decode cX11_laysAll 12 = .ok (.getfield 68, 3) := dk_180 0 68 (dk_at dksX11_laysAll_0 12 rfl rfl)
theorem dX11_laysAll_15 : decode cX11_laysAll 15 = .ok (.iload_n 2, 1) := dk_28 (dk_at dksX11_laysAll_0 15 rfl rfl)
theorem dX11_laysAll_16 : decode cX11_laysAll 16 = .ok (.lconst 0, 1) := dk_9 (dk_at dksX11_laysAll_0 16 rfl rfl)
theorem dX11_laysAll_17 : decode cX11_laysAll 17 = .ok (.lastore, 1) := dk_80 (dk_at dksX11_laysAll_0 17 rfl rfl)
theorem dX11_laysAll_18 : decode cX11_laysAll 18 = .ok (.aload_n 0, 1) := dk_42 (dk_at dksX11_laysAll_0 18 rfl rfl)
theorem dX11_laysAll_19 : decode cX11_laysAll 19 = .ok (.getfield 72, 3) := dk_180 0 72 (dk_at dksX11_laysAll_0 19 rfl rfl)
theorem dX11_laysAll_22 : decode cX11_laysAll 22 = .ok (.iload_n 2, 1) := dk_28 (dk_at dksX11_laysAll_0 22 rfl rfl)
theorem dX11_laysAll_23 : decode cX11_laysAll 23 = .ok (.lconst 0, 1) := dk_9 (dk_at dksX11_laysAll_0 23 rfl rfl)
theorem dX11_laysAll_24 : decode cX11_laysAll 24 = .ok (.lastore, 1) := dk_80 (dk_at dksX11_laysAll_1 0 rfl rfl)
theorem dX11_laysAll_25 : decode cX11_laysAll 25 = .ok (.iinc 2 1, 3) := dk_132 2 1 (dk_at dksX11_laysAll_1 1 rfl rfl)
theorem dX11_laysAll_28 : decode cX11_laysAll 28 = .ok (.goto (-26), 3) := dk_167 255 230 (dk_at dksX11_laysAll_1 4 rfl rfl)
theorem dX11_laysAll_31 : decode cX11_laysAll 31 = .ok (.aload_n 0, 1) := dk_42 (dk_at dksX11_laysAll_1 7 rfl rfl)
theorem dX11_laysAll_32 : decode cX11_laysAll 32 = .ok (.iconst 0, 1) := dk_3 (dk_at dksX11_laysAll_1 8 rfl rfl)
theorem dX11_laysAll_33 : decode cX11_laysAll 33 = .ok (.putfield 374, 3) := dk_181 1 118 (dk_at dksX11_laysAll_1 9 rfl rfl)
theorem dX11_laysAll_36 : decode cX11_laysAll 36 = .ok (.aload_n 0, 1) := dk_42 (dk_at dksX11_laysAll_1 12 rfl rfl)
theorem dX11_laysAll_37 : decode cX11_laysAll 37 = .ok (.iconst 0, 1) := dk_3 (dk_at dksX11_laysAll_1 13 rfl rfl)
theorem dX11_laysAll_38 : decode cX11_laysAll 38 = .ok (.putfield 404, 3) := dk_181 1 148 (dk_at dksX11_laysAll_1 14 rfl rfl)
theorem dX11_laysAll_41 : decode cX11_laysAll 41 = .ok (.aload_n 0, 1) := dk_42 (dk_at dksX11_laysAll_1 17 rfl rfl)
theorem dX11_laysAll_42 : decode cX11_laysAll 42 = .ok (.invokevirtual 302, 3) := dk_182 1 46 (dk_at dksX11_laysAll_1 18 rfl rfl)
theorem dX11_laysAll_45 : decode cX11_laysAll 45 = .ok (.aload_n 0, 1) := dk_42 (dk_at dksX11_laysAll_1 21 rfl rfl)
theorem dX11_laysAll_46 : decode cX11_laysAll 46 = .ok (.iconst 0, 1) := dk_3 (dk_at dksX11_laysAll_1 22 rfl rfl)
theorem dX11_laysAll_47 : decode cX11_laysAll 47 = .ok (.invokevirtual 420, 3) := dk_182 1 164 (dk_at dksX11_laysAll_2 0 rfl rfl)
theorem dX11_laysAll_50 : decode cX11_laysAll 50 = .ok (.aload_n 0, 1) := dk_42 (dk_at dksX11_laysAll_2 3 rfl rfl)
theorem dX11_laysAll_51 : decode cX11_laysAll 51 = .ok (.iconst 0, 1) := dk_3 (dk_at dksX11_laysAll_2 4 rfl rfl)
theorem dX11_laysAll_52 : decode cX11_laysAll 52 = .ok (.iload_n 1, 1) := dk_27 (dk_at dksX11_laysAll_2 5 rfl rfl)
theorem dX11_laysAll_53 : decode cX11_laysAll 53 = .ok (.invokevirtual 423, 3) := dk_182 1 167 (dk_at dksX11_laysAll_2 6 rfl rfl)
theorem dX11_laysAll_56 : decode cX11_laysAll 56 = .ok (.iconst 0, 1) := dk_3 (dk_at dksX11_laysAll_2 9 rfl rfl)
theorem dX11_laysAll_57 : decode cX11_laysAll 57 = .ok (.istore_n 2, 1) := dk_61 (dk_at dksX11_laysAll_2 10 rfl rfl)
theorem dX11_laysAll_58 : decode cX11_laysAll 58 = .ok (.iload_n 2, 1) := dk_28 (dk_at dksX11_laysAll_2 11 rfl rfl)
theorem dX11_laysAll_59 : decode cX11_laysAll 59 = .ok (.ifCond .lt 168, 3) := dk_155 0 168 (dk_at dksX11_laysAll_2 12 rfl rfl)
theorem dX11_laysAll_62 : decode cX11_laysAll 62 = .ok (.aload_n 0, 1) := dk_42 (dk_at dksX11_laysAll_2 15 rfl rfl)
theorem dX11_laysAll_63 : decode cX11_laysAll 63 = .ok (.getfield 401, 3) := dk_180 1 145 (dk_at dksX11_laysAll_2 16 rfl rfl)
theorem dX11_laysAll_66 : decode cX11_laysAll 66 = .ok (.ifCond .ne 161, 3) := dk_154 0 161 (dk_at dksX11_laysAll_2 19 rfl rfl)
theorem dX11_laysAll_69 : decode cX11_laysAll 69 = .ok (.aload_n 0, 1) := dk_42 (dk_at dksX11_laysAll_2 22 rfl rfl)
theorem dX11_laysAll_70 : decode cX11_laysAll 70 = .ok (.getfield 65, 3) := dk_180 0 65 (dk_at dksX11_laysAll_3 0 rfl rfl)
theorem dX11_laysAll_73 : decode cX11_laysAll 73 = .ok (.iload_n 2, 1) := dk_28 (dk_at dksX11_laysAll_3 3 rfl rfl)
theorem dX11_laysAll_74 : decode cX11_laysAll 74 = .ok (.iaload, 1) := dk_46 (dk_at dksX11_laysAll_3 4 rfl rfl)
theorem dX11_laysAll_75 : decode cX11_laysAll 75 = .ok (.istore_n 3, 1) := dk_62 (dk_at dksX11_laysAll_3 5 rfl rfl)
theorem dX11_laysAll_76 : decode cX11_laysAll 76 = .ok (.iload_n 3, 1) := dk_29 (dk_at dksX11_laysAll_3 6 rfl rfl)
theorem dX11_laysAll_77 : decode cX11_laysAll 77 = .ok (.sipush 1296, 3) := dk_17 5 16 (dk_at dksX11_laysAll_3 7 rfl rfl)
theorem dX11_laysAll_80 : decode cX11_laysAll 80 = .ok (.if_icmp .ge 24, 3) := dk_162 0 24 (dk_at dksX11_laysAll_3 10 rfl rfl)
theorem dX11_laysAll_83 : decode cX11_laysAll 83 = .ok (.aload_n 0, 1) := dk_42 (dk_at dksX11_laysAll_3 13 rfl rfl)
theorem dX11_laysAll_84 : decode cX11_laysAll 84 = .ok (.getfield 43, 3) := dk_180 0 43 (dk_at dksX11_laysAll_3 14 rfl rfl)
theorem dX11_laysAll_87 : decode cX11_laysAll 87 = .ok (.sipush 1296, 3) := dk_17 5 16 (dk_at dksX11_laysAll_3 17 rfl rfl)
theorem dX11_laysAll_90 : decode cX11_laysAll 90 = .ok (.iload_n 2, 1) := dk_28 (dk_at dksX11_laysAll_3 20 rfl rfl)
theorem dX11_laysAll_91 : decode cX11_laysAll 91 = .ok (.imul, 1) := dk_104 (dk_at dksX11_laysAll_3 21 rfl rfl)
theorem dX11_laysAll_92 : decode cX11_laysAll 92 = .ok (.iload_n 3, 1) := dk_29 (dk_at dksX11_laysAll_3 22 rfl rfl)
theorem dX11_laysAll_93 : decode cX11_laysAll 93 = .ok (.iadd, 1) := dk_96 (dk_at dksX11_laysAll_3 23 rfl rfl)
theorem dX11_laysAll_94 : decode cX11_laysAll 94 = .ok (.baload, 1) := dk_51 (dk_at dksX11_laysAll_4 0 rfl rfl)
theorem dX11_laysAll_95 : decode cX11_laysAll 95 = .ok (.ifCond .ne 9, 3) := dk_154 0 9 (dk_at dksX11_laysAll_4 1 rfl rfl)
theorem dX11_laysAll_98 : decode cX11_laysAll 98 = .ok (.iinc 3 1, 3) := dk_132 3 1 (dk_at dksX11_laysAll_4 4 rfl rfl)
theorem dX11_laysAll_101 : decode cX11_laysAll 101 = .ok (.goto (-25), 3) := dk_167 255 231 (dk_at dksX11_laysAll_4 7 rfl rfl)
theorem dX11_laysAll_104 : decode cX11_laysAll 104 = .ok (.iload_n 3, 1) := dk_29 (dk_at dksX11_laysAll_4 10 rfl rfl)
theorem dX11_laysAll_105 : decode cX11_laysAll 105 = .ok (.sipush 1296, 3) := dk_17 5 16 (dk_at dksX11_laysAll_4 11 rfl rfl)
theorem dX11_laysAll_108 : decode cX11_laysAll 108 = .ok (.if_icmp .ne 9, 3) := dk_160 0 9 (dk_at dksX11_laysAll_4 14 rfl rfl)
theorem dX11_laysAll_111 : decode cX11_laysAll 111 = .ok (.iinc 2 (-1), 3) := dk_132 2 255 (dk_at dksX11_laysAll_4 17 rfl rfl)
theorem dX11_laysAll_114 : decode cX11_laysAll 114 = .ok (.goto (-56), 3) := dk_167 255 200 (dk_at dksX11_laysAll_4 20 rfl rfl)
theorem dX11_laysAll_117 : decode cX11_laysAll 117 = .ok (.aload_n 0, 1) := dk_42 (dk_at dksX11_laysAll_4 23 rfl rfl)
theorem dX11_laysAll_118 : decode cX11_laysAll 118 = .ok (.getfield 65, 3) := dk_180 0 65 (dk_at dksX11_laysAll_5 0 rfl rfl)
theorem dX11_laysAll_121 : decode cX11_laysAll 121 = .ok (.iload_n 2, 1) := dk_28 (dk_at dksX11_laysAll_5 3 rfl rfl)
theorem dX11_laysAll_122 : decode cX11_laysAll 122 = .ok (.iload_n 3, 1) := dk_29 (dk_at dksX11_laysAll_5 4 rfl rfl)
theorem dX11_laysAll_123 : decode cX11_laysAll 123 = .ok (.iconst 1, 1) := dk_4 (dk_at dksX11_laysAll_5 5 rfl rfl)
theorem dX11_laysAll_124 : decode cX11_laysAll 124 = .ok (.iadd, 1) := dk_96 (dk_at dksX11_laysAll_5 6 rfl rfl)
theorem dX11_laysAll_125 : decode cX11_laysAll 125 = .ok (.iastore, 1) := dk_79 (dk_at dksX11_laysAll_5 7 rfl rfl)
theorem dX11_laysAll_126 : decode cX11_laysAll 126 = .ok (.aload_n 0, 1) := dk_42 (dk_at dksX11_laysAll_5 8 rfl rfl)
theorem dX11_laysAll_127 : decode cX11_laysAll 127 = .ok (.getfield 53, 3) := dk_180 0 53 (dk_at dksX11_laysAll_5 9 rfl rfl)
theorem dX11_laysAll_130 : decode cX11_laysAll 130 = .ok (.iload_n 2, 1) := dk_28 (dk_at dksX11_laysAll_5 12 rfl rfl)
theorem dX11_laysAll_131 : decode cX11_laysAll 131 = .ok (.iload_n 3, 1) := dk_29 (dk_at dksX11_laysAll_5 13 rfl rfl)
theorem dX11_laysAll_132 : decode cX11_laysAll 132 = .ok (.iastore, 1) := dk_79 (dk_at dksX11_laysAll_5 14 rfl rfl)
theorem dX11_laysAll_133 : decode cX11_laysAll 133 = .ok (.aload_n 0, 1) := dk_42 (dk_at dksX11_laysAll_5 15 rfl rfl)
theorem dX11_laysAll_134 : decode cX11_laysAll 134 = .ok (.iload_n 2, 1) := dk_28 (dk_at dksX11_laysAll_5 16 rfl rfl)
theorem dX11_laysAll_135 : decode cX11_laysAll 135 = .ok (.iload_n 3, 1) := dk_29 (dk_at dksX11_laysAll_5 17 rfl rfl)
theorem dX11_laysAll_136 : decode cX11_laysAll 136 = .ok (.invokevirtual 426, 3) := dk_182 1 170 (dk_at dksX11_laysAll_5 18 rfl rfl)
theorem dX11_laysAll_139 : decode cX11_laysAll 139 = .ok (.iconst 0, 1) := dk_3 (dk_at dksX11_laysAll_5 21 rfl rfl)
theorem dX11_laysAll_140 : decode cX11_laysAll 140 = .ok (.istore 4, 2) := dk_54 4 (dk_at dksX11_laysAll_5 22 rfl rfl)
theorem dX11_laysAll_142 : decode cX11_laysAll 142 = .ok (.iload 4, 2) := dk_21 4 (dk_at dksX11_laysAll_6 0 rfl rfl)
theorem dX11_laysAll_144 : decode cX11_laysAll 144 = .ok (.aload_n 0, 1) := dk_42 (dk_at dksX11_laysAll_6 2 rfl rfl)
theorem dX11_laysAll_145 : decode cX11_laysAll 145 = .ok (.getfield 13, 3) := dk_180 0 13 (dk_at dksX11_laysAll_6 3 rfl rfl)
theorem dX11_laysAll_148 : decode cX11_laysAll 148 = .ok (.iconst 1, 1) := dk_4 (dk_at dksX11_laysAll_6 6 rfl rfl)
theorem dX11_laysAll_149 : decode cX11_laysAll 149 = .ok (.iaload, 1) := dk_46 (dk_at dksX11_laysAll_6 7 rfl rfl)
theorem dX11_laysAll_150 : decode cX11_laysAll 150 = .ok (.if_icmp .ge 47, 3) := dk_162 0 47 (dk_at dksX11_laysAll_6 8 rfl rfl)
theorem dX11_laysAll_153 : decode cX11_laysAll 153 = .ok (.iconst 0, 1) := dk_3 (dk_at dksX11_laysAll_6 11 rfl rfl)
theorem dX11_laysAll_154 : decode cX11_laysAll 154 = .ok (.istore 5, 2) := dk_54 5 (dk_at dksX11_laysAll_6 12 rfl rfl)
theorem dX11_laysAll_156 : decode cX11_laysAll 156 = .ok (.iload 5, 2) := dk_21 5 (dk_at dksX11_laysAll_6 14 rfl rfl)
theorem dX11_laysAll_158 : decode cX11_laysAll 158 = .ok (.aload_n 0, 1) := dk_42 (dk_at dksX11_laysAll_6 16 rfl rfl)
theorem dX11_laysAll_159 : decode cX11_laysAll 159 = .ok (.iload 4, 2) := dk_21 4 (dk_at dksX11_laysAll_6 17 rfl rfl)
theorem dX11_laysAll_161 : decode cX11_laysAll 161 = .ok (.invokevirtual 251, 3) := dk_182 0 251 (dk_at dksX11_laysAll_6 19 rfl rfl)
theorem dX11_laysAll_164 : decode cX11_laysAll 164 = .ok (.if_icmp .ge 27, 3) := dk_162 0 27 (dk_at dksX11_laysAll_7 0 rfl rfl)
theorem dX11_laysAll_167 : decode cX11_laysAll 167 = .ok (.aload_n 0, 1) := dk_42 (dk_at dksX11_laysAll_7 3 rfl rfl)
theorem dX11_laysAll_168 : decode cX11_laysAll 168 = .ok (.iload 4, 2) := dk_21 4 (dk_at dksX11_laysAll_7 4 rfl rfl)
theorem dX11_laysAll_170 : decode cX11_laysAll 170 = .ok (.invokevirtual 353, 3) := dk_182 1 97 (dk_at dksX11_laysAll_7 6 rfl rfl)
theorem dX11_laysAll_173 : decode cX11_laysAll 173 = .ok (.ifCond .eq 18, 3) := dk_153 0 18 (dk_at dksX11_laysAll_7 9 rfl rfl)
theorem dX11_laysAll_176 : decode cX11_laysAll 176 = .ok (.aload_n 0, 1) := dk_42 (dk_at dksX11_laysAll_7 12 rfl rfl)
theorem dX11_laysAll_177 : decode cX11_laysAll 177 = .ok (.iload_n 2, 1) := dk_28 (dk_at dksX11_laysAll_7 13 rfl rfl)
theorem dX11_laysAll_178 : decode cX11_laysAll 178 = .ok (.iload 4, 2) := dk_21 4 (dk_at dksX11_laysAll_7 14 rfl rfl)
theorem dX11_laysAll_180 : decode cX11_laysAll 180 = .ok (.iload 5, 2) := dk_21 5 (dk_at dksX11_laysAll_7 16 rfl rfl)
theorem dX11_laysAll_182 : decode cX11_laysAll 182 = .ok (.invokevirtual 429, 3) := dk_182 1 173 (dk_at dksX11_laysAll_7 18 rfl rfl)
theorem dX11_laysAll_185 : decode cX11_laysAll 185 = .ok (.iinc 5 1, 3) := dk_132 5 1 (dk_at dksX11_laysAll_7 21 rfl rfl)
theorem dX11_laysAll_188 : decode cX11_laysAll 188 = .ok (.goto (-32), 3) := dk_167 255 224 (dk_at dksX11_laysAll_8 0 rfl rfl)
theorem dX11_laysAll_191 : decode cX11_laysAll 191 = .ok (.iinc 4 1, 3) := dk_132 4 1 (dk_at dksX11_laysAll_8 3 rfl rfl)
theorem dX11_laysAll_194 : decode cX11_laysAll 194 = .ok (.goto (-52), 3) := dk_167 255 204 (dk_at dksX11_laysAll_8 6 rfl rfl)
theorem dX11_laysAll_197 : decode cX11_laysAll 197 = .ok (.aload_n 0, 1) := dk_42 (dk_at dksX11_laysAll_8 9 rfl rfl)
theorem dX11_laysAll_198 : decode cX11_laysAll 198 = .ok (.iload_n 2, 1) := dk_28 (dk_at dksX11_laysAll_8 10 rfl rfl)
theorem dX11_laysAll_199 : decode cX11_laysAll 199 = .ok (.iconst 1, 1) := dk_4 (dk_at dksX11_laysAll_8 11 rfl rfl)
theorem dX11_laysAll_200 : decode cX11_laysAll 200 = .ok (.iadd, 1) := dk_96 (dk_at dksX11_laysAll_8 12 rfl rfl)
theorem dX11_laysAll_201 : decode cX11_laysAll 201 = .ok (.invokevirtual 420, 3) := dk_182 1 164 (dk_at dksX11_laysAll_8 13 rfl rfl)
theorem dX11_laysAll_204 : decode cX11_laysAll 204 = .ok (.aload_n 0, 1) := dk_42 (dk_at dksX11_laysAll_8 16 rfl rfl)
theorem dX11_laysAll_205 : decode cX11_laysAll 205 = .ok (.getfield 347, 3) := dk_180 1 91 (dk_at dksX11_laysAll_8 17 rfl rfl)
theorem dX11_laysAll_208 : decode cX11_laysAll 208 = .ok (.iload_n 1, 1) := dk_27 (dk_at dksX11_laysAll_8 20 rfl rfl)
theorem dX11_laysAll_209 : decode cX11_laysAll 209 = .ok (.if_icmp .le 6, 3) := dk_164 0 6 (dk_at dksX11_laysAll_8 21 rfl rfl)
theorem dX11_laysAll_212 : decode cX11_laysAll 212 = .ok (.goto (-154), 3) := dk_167 255 102 (dk_at dksX11_laysAll_9 0 rfl rfl)
theorem dX11_laysAll_215 : decode cX11_laysAll 215 = .ok (.iinc 2 1, 3) := dk_132 2 1 (dk_at dksX11_laysAll_9 3 rfl rfl)
theorem dX11_laysAll_218 : decode cX11_laysAll 218 = .ok (.aload_n 0, 1) := dk_42 (dk_at dksX11_laysAll_9 6 rfl rfl)
theorem dX11_laysAll_219 : decode cX11_laysAll 219 = .ok (.iload_n 2, 1) := dk_28 (dk_at dksX11_laysAll_9 7 rfl rfl)
theorem dX11_laysAll_220 : decode cX11_laysAll 220 = .ok (.iload_n 1, 1) := dk_27 (dk_at dksX11_laysAll_9 8 rfl rfl)
theorem dX11_laysAll_221 : decode cX11_laysAll 221 = .ok (.invokevirtual 423, 3) := dk_182 1 167 (dk_at dksX11_laysAll_9 9 rfl rfl)
theorem dX11_laysAll_224 : decode cX11_laysAll 224 = .ok (.goto (-166), 3) := dk_167 255 90 (dk_at dksX11_laysAll_9 12 rfl rfl)
theorem dX11_laysAll_227 : decode cX11_laysAll 227 = .ok (.return_, 1) := dk_177 (dk_at dksX11_laysAll_9 15 rfl rfl)
def dkwX11_prices_5 : List UInt8 := [177]
abbrev dktX11_prices_5 : List UInt8 := dkwX11_prices_5 ++ []
def dkwX11_prices_4 : List UInt8 := [180, 0, 62, 28, 27, 42, 28, 182, 0, 251, 184, 1, 76, 46, 96, 181, 1, 94, 132, 2, 1, 167, 255, 152]
abbrev dktX11_prices_4 : List UInt8 := dkwX11_prices_4 ++ dktX11_prices_5
def dkwX11_prices_3 : List UInt8 := [62, 132, 4, 1, 167, 255, 226, 42, 89, 180, 1, 91, 29, 96, 181, 1, 91, 42, 89, 180, 1, 94, 42]
abbrev dktX11_prices_3 : List UInt8 := dkwX11_prices_3 ++ dktX11_prices_4
def dkwX11_prices_2 : List UInt8 := [42, 28, 182, 0, 251, 163, 0, 26, 29, 42, 180, 0, 62, 28, 27, 21, 4, 184, 1, 76, 46, 184, 1, 70]
abbrev dktX11_prices_2 : List UInt8 := dkwX11_prices_2 ++ dktX11_prices_3
def dkwX11_prices_1 : List UInt8 := [182, 1, 97, 154, 0, 6, 167, 0, 83, 42, 28, 27, 182, 1, 100, 17, 3, 232, 62, 3, 54, 4, 21, 4]
abbrev dktX11_prices_1 : List UInt8 := dkwX11_prices_1 ++ dktX11_prices_2
def dkwX11_prices_0 : List UInt8 := [42, 3, 181, 1, 91, 42, 3, 181, 1, 94, 3, 61, 28, 42, 180, 0, 13, 4, 46, 162, 0, 100, 42, 28]
abbrev dktX11_prices_0 : List UInt8 := dkwX11_prices_0 ++ dktX11_prices_1
theorem dksX11_prices_0 : cX11_prices.data.toList.drop 0 = dktX11_prices_0 := by decide +kernel
theorem dksX11_prices_1 : cX11_prices.data.toList.drop 24 = dktX11_prices_1 := dk_seg dksX11_prices_0 24 rfl rfl
theorem dksX11_prices_2 : cX11_prices.data.toList.drop 48 = dktX11_prices_2 := dk_seg dksX11_prices_1 24 rfl rfl
theorem dksX11_prices_3 : cX11_prices.data.toList.drop 72 = dktX11_prices_3 := dk_seg dksX11_prices_2 24 rfl rfl
theorem dksX11_prices_4 : cX11_prices.data.toList.drop 95 = dktX11_prices_4 := dk_seg dksX11_prices_3 23 rfl rfl
theorem dksX11_prices_5 : cX11_prices.data.toList.drop 119 = dktX11_prices_5 := dk_seg dksX11_prices_4 24 rfl rfl
theorem dX11_prices_0 : decode cX11_prices 0 = .ok (.aload_n 0, 1) := dk_42 (dk_at dksX11_prices_0 0 rfl rfl)
theorem dX11_prices_1 : decode cX11_prices 1 = .ok (.iconst 0, 1) := dk_3 (dk_at dksX11_prices_0 1 rfl rfl)
theorem dX11_prices_2 : decode cX11_prices 2 = .ok (.putfield 347, 3) := dk_181 1 91 (dk_at dksX11_prices_0 2 rfl rfl)
theorem dX11_prices_5 : decode cX11_prices 5 = .ok (.aload_n 0, 1) := dk_42 (dk_at dksX11_prices_0 5 rfl rfl)
theorem dX11_prices_6 : decode cX11_prices 6 = .ok (.iconst 0, 1) := dk_3 (dk_at dksX11_prices_0 6 rfl rfl)
theorem dX11_prices_7 : decode cX11_prices 7 = .ok (.putfield 350, 3) := dk_181 1 94 (dk_at dksX11_prices_0 7 rfl rfl)
theorem dX11_prices_10 : decode cX11_prices 10 = .ok (.iconst 0, 1) := dk_3 (dk_at dksX11_prices_0 10 rfl rfl)
theorem dX11_prices_11 : decode cX11_prices 11 = .ok (.istore_n 2, 1) := dk_61 (dk_at dksX11_prices_0 11 rfl rfl)
theorem dX11_prices_12 : decode cX11_prices 12 = .ok (.iload_n 2, 1) := dk_28 (dk_at dksX11_prices_0 12 rfl rfl)
theorem dX11_prices_13 : decode cX11_prices 13 = .ok (.aload_n 0, 1) := dk_42 (dk_at dksX11_prices_0 13 rfl rfl)
theorem dX11_prices_14 : decode cX11_prices 14 = .ok (.getfield 13, 3) := dk_180 0 13 (dk_at dksX11_prices_0 14 rfl rfl)
theorem dX11_prices_17 : decode cX11_prices 17 = .ok (.iconst 1, 1) := dk_4 (dk_at dksX11_prices_0 17 rfl rfl)
theorem dX11_prices_18 : decode cX11_prices 18 = .ok (.iaload, 1) := dk_46 (dk_at dksX11_prices_0 18 rfl rfl)
theorem dX11_prices_19 : decode cX11_prices 19 = .ok (.if_icmp .ge 100, 3) := dk_162 0 100 (dk_at dksX11_prices_0 19 rfl rfl)
theorem dX11_prices_22 : decode cX11_prices 22 = .ok (.aload_n 0, 1) := dk_42 (dk_at dksX11_prices_0 22 rfl rfl)
theorem dX11_prices_23 : decode cX11_prices 23 = .ok (.iload_n 2, 1) := dk_28 (dk_at dksX11_prices_0 23 rfl rfl)
theorem dX11_prices_24 : decode cX11_prices 24 = .ok (.invokevirtual 353, 3) := dk_182 1 97 (dk_at dksX11_prices_1 0 rfl rfl)
theorem dX11_prices_27 : decode cX11_prices 27 = .ok (.ifCond .ne 6, 3) := dk_154 0 6 (dk_at dksX11_prices_1 3 rfl rfl)
theorem dX11_prices_30 : decode cX11_prices 30 = .ok (.goto 83, 3) := dk_167 0 83 (dk_at dksX11_prices_1 6 rfl rfl)
theorem dX11_prices_33 : decode cX11_prices 33 = .ok (.aload_n 0, 1) := dk_42 (dk_at dksX11_prices_1 9 rfl rfl)
theorem dX11_prices_34 : decode cX11_prices 34 = .ok (.iload_n 2, 1) := dk_28 (dk_at dksX11_prices_1 10 rfl rfl)
theorem dX11_prices_35 : decode cX11_prices 35 = .ok (.iload_n 1, 1) := dk_27 (dk_at dksX11_prices_1 11 rfl rfl)
theorem dX11_prices_36 : decode cX11_prices 36 = .ok (.invokevirtual 356, 3) := dk_182 1 100 (dk_at dksX11_prices_1 12 rfl rfl)
theorem dX11_prices_39 : decode cX11_prices 39 = .ok (.sipush 1000, 3) := dk_17 3 232 (dk_at dksX11_prices_1 15 rfl rfl)
theorem dX11_prices_42 : decode cX11_prices 42 = .ok (.istore_n 3, 1) := dk_62 (dk_at dksX11_prices_1 18 rfl rfl)
theorem dX11_prices_43 : decode cX11_prices 43 = .ok (.iconst 0, 1) := dk_3 (dk_at dksX11_prices_1 19 rfl rfl)
theorem dX11_prices_44 : decode cX11_prices 44 = .ok (.istore 4, 2) := dk_54 4 (dk_at dksX11_prices_1 20 rfl rfl)
theorem dX11_prices_46 : decode cX11_prices 46 = .ok (.iload 4, 2) := dk_21 4 (dk_at dksX11_prices_1 22 rfl rfl)
theorem dX11_prices_48 : decode cX11_prices 48 = .ok (.aload_n 0, 1) := dk_42 (dk_at dksX11_prices_2 0 rfl rfl)
theorem dX11_prices_49 : decode cX11_prices 49 = .ok (.iload_n 2, 1) := dk_28 (dk_at dksX11_prices_2 1 rfl rfl)
theorem dX11_prices_50 : decode cX11_prices 50 = .ok (.invokevirtual 251, 3) := dk_182 0 251 (dk_at dksX11_prices_2 2 rfl rfl)
theorem dX11_prices_53 : decode cX11_prices 53 = .ok (.if_icmp .gt 26, 3) := dk_163 0 26 (dk_at dksX11_prices_2 5 rfl rfl)
theorem dX11_prices_56 : decode cX11_prices 56 = .ok (.iload_n 3, 1) := dk_29 (dk_at dksX11_prices_2 8 rfl rfl)
theorem dX11_prices_57 : decode cX11_prices 57 = .ok (.aload_n 0, 1) := dk_42 (dk_at dksX11_prices_2 9 rfl rfl)
theorem dX11_prices_58 : decode cX11_prices 58 = .ok (.getfield 62, 3) := dk_180 0 62 (dk_at dksX11_prices_2 10 rfl rfl)
theorem dX11_prices_61 : decode cX11_prices 61 = .ok (.iload_n 2, 1) := dk_28 (dk_at dksX11_prices_2 13 rfl rfl)
theorem dX11_prices_62 : decode cX11_prices 62 = .ok (.iload_n 1, 1) := dk_27 (dk_at dksX11_prices_2 14 rfl rfl)
theorem dX11_prices_63 : decode cX11_prices 63 = .ok (.iload 4, 2) := dk_21 4 (dk_at dksX11_prices_2 15 rfl rfl)
theorem dX11_prices_65 : decode cX11_prices 65 = .ok (.invokestatic 332, 3) := dk_184 1 76 (dk_at dksX11_prices_2 17 rfl rfl)
theorem dX11_prices_68 : decode cX11_prices 68 = .ok (.iaload, 1) := dk_46 (dk_at dksX11_prices_2 20 rfl rfl)
theorem dX11_prices_69 : decode cX11_prices 69 = .ok (.invokestatic 326, 3) := dk_184 1 70 (dk_at dksX11_prices_2 21 rfl rfl)
theorem dX11_prices_72 : decode cX11_prices 72 = .ok (.istore_n 3, 1) := dk_62 (dk_at dksX11_prices_3 0 rfl rfl)
theorem dX11_prices_73 : decode cX11_prices 73 = .ok (.iinc 4 1, 3) := dk_132 4 1 (dk_at dksX11_prices_3 1 rfl rfl)
theorem dX11_prices_76 : decode cX11_prices 76 = .ok (.goto (-30), 3) := dk_167 255 226 (dk_at dksX11_prices_3 4 rfl rfl)
theorem dX11_prices_79 : decode cX11_prices 79 = .ok (.aload_n 0, 1) := dk_42 (dk_at dksX11_prices_3 7 rfl rfl)
theorem dX11_prices_80 : decode cX11_prices 80 = .ok (.dup, 1) := dk_89 (dk_at dksX11_prices_3 8 rfl rfl)
theorem dX11_prices_81 : decode cX11_prices 81 = .ok (.getfield 347, 3) := dk_180 1 91 (dk_at dksX11_prices_3 9 rfl rfl)
theorem dX11_prices_84 : decode cX11_prices 84 = .ok (.iload_n 3, 1) := dk_29 (dk_at dksX11_prices_3 12 rfl rfl)
theorem dX11_prices_85 : decode cX11_prices 85 = .ok (.iadd, 1) := dk_96 (dk_at dksX11_prices_3 13 rfl rfl)
theorem dX11_prices_86 : decode cX11_prices 86 = .ok (.putfield 347, 3) := dk_181 1 91 (dk_at dksX11_prices_3 14 rfl rfl)
theorem dX11_prices_89 : decode cX11_prices 89 = .ok (.aload_n 0, 1) := dk_42 (dk_at dksX11_prices_3 17 rfl rfl)
theorem dX11_prices_90 : decode cX11_prices 90 = .ok (.dup, 1) := dk_89 (dk_at dksX11_prices_3 18 rfl rfl)
theorem dX11_prices_91 : decode cX11_prices 91 = .ok (.getfield 350, 3) := dk_180 1 94 (dk_at dksX11_prices_3 19 rfl rfl)
theorem dX11_prices_94 : decode cX11_prices 94 = .ok (.aload_n 0, 1) := dk_42 (dk_at dksX11_prices_3 22 rfl rfl)
theorem dX11_prices_95 : decode cX11_prices 95 = .ok (.getfield 62, 3) := dk_180 0 62 (dk_at dksX11_prices_4 0 rfl rfl)
theorem dX11_prices_98 : decode cX11_prices 98 = .ok (.iload_n 2, 1) := dk_28 (dk_at dksX11_prices_4 3 rfl rfl)
theorem dX11_prices_99 : decode cX11_prices 99 = .ok (.iload_n 1, 1) := dk_27 (dk_at dksX11_prices_4 4 rfl rfl)
theorem dX11_prices_100 : decode cX11_prices 100 = .ok (.aload_n 0, 1) := dk_42 (dk_at dksX11_prices_4 5 rfl rfl)
theorem dX11_prices_101 : decode cX11_prices 101 = .ok (.iload_n 2, 1) := dk_28 (dk_at dksX11_prices_4 6 rfl rfl)
theorem dX11_prices_102 : decode cX11_prices 102 = .ok (.invokevirtual 251, 3) := dk_182 0 251 (dk_at dksX11_prices_4 7 rfl rfl)
theorem dX11_prices_105 : decode cX11_prices 105 = .ok (.invokestatic 332, 3) := dk_184 1 76 (dk_at dksX11_prices_4 10 rfl rfl)
theorem dX11_prices_108 : decode cX11_prices 108 = .ok (.iaload, 1) := dk_46 (dk_at dksX11_prices_4 13 rfl rfl)
theorem dX11_prices_109 : decode cX11_prices 109 = .ok (.iadd, 1) := dk_96 (dk_at dksX11_prices_4 14 rfl rfl)
theorem dX11_prices_110 : decode cX11_prices 110 = .ok (.putfield 350, 3) := dk_181 1 94 (dk_at dksX11_prices_4 15 rfl rfl)
theorem dX11_prices_113 : decode cX11_prices 113 = .ok (.iinc 2 1, 3) := dk_132 2 1 (dk_at dksX11_prices_4 18 rfl rfl)
theorem dX11_prices_116 : decode cX11_prices 116 = .ok (.goto (-104), 3) := dk_167 255 152 (dk_at dksX11_prices_4 21 rfl rfl)
theorem dX11_prices_119 : decode cX11_prices 119 = .ok (.return_, 1) := dk_177 (dk_at dksX11_prices_5 0 rfl rfl)
def dkwX11_isAsked_0 : List UInt8 := [42, 180, 1, 58, 27, 122, 4, 126, 4, 160, 0, 7, 4, 167, 0, 4, 3, 172]
abbrev dktX11_isAsked_0 : List UInt8 := dkwX11_isAsked_0 ++ []
theorem dksX11_isAsked_0 : cX11_isAsked.data.toList.drop 0 = dktX11_isAsked_0 := by decide +kernel
theorem dX11_isAsked_0 : decode cX11_isAsked 0 = .ok (.aload_n 0, 1) := dk_42 (dk_at dksX11_isAsked_0 0 rfl rfl)
theorem dX11_isAsked_1 : decode cX11_isAsked 1 = .ok (.getfield 314, 3) := dk_180 1 58 (dk_at dksX11_isAsked_0 1 rfl rfl)
theorem dX11_isAsked_4 : decode cX11_isAsked 4 = .ok (.iload_n 1, 1) := dk_27 (dk_at dksX11_isAsked_0 4 rfl rfl)
theorem dX11_isAsked_5 : decode cX11_isAsked 5 = .ok (.ishr, 1) := dk_122 (dk_at dksX11_isAsked_0 5 rfl rfl)
theorem dX11_isAsked_6 : decode cX11_isAsked 6 = .ok (.iconst 1, 1) := dk_4 (dk_at dksX11_isAsked_0 6 rfl rfl)
theorem dX11_isAsked_7 : decode cX11_isAsked 7 = .ok (.iand, 1) := dk_126 (dk_at dksX11_isAsked_0 7 rfl rfl)
theorem dX11_isAsked_8 : decode cX11_isAsked 8 = .ok (.iconst 1, 1) := dk_4 (dk_at dksX11_isAsked_0 8 rfl rfl)
theorem dX11_isAsked_9 : decode cX11_isAsked 9 = .ok (.if_icmp .ne 7, 3) := dk_160 0 7 (dk_at dksX11_isAsked_0 9 rfl rfl)
theorem dX11_isAsked_12 : decode cX11_isAsked 12 = .ok (.iconst 1, 1) := dk_4 (dk_at dksX11_isAsked_0 12 rfl rfl)
theorem dX11_isAsked_13 : decode cX11_isAsked 13 = .ok (.goto 4, 3) := dk_167 0 4 (dk_at dksX11_isAsked_0 13 rfl rfl)
theorem dX11_isAsked_16 : decode cX11_isAsked 16 = .ok (.iconst 0, 1) := dk_3 (dk_at dksX11_isAsked_0 16 rfl rfl)
theorem dX11_isAsked_17 : decode cX11_isAsked 17 = .ok (.ireturn, 1) := dk_172 (dk_at dksX11_isAsked_0 17 rfl rfl)
def dkwX11_sums_3 : List UInt8 := [167, 255, 186, 177]
abbrev dktX11_sums_3 : List UInt8 := dkwX11_sums_3 ++ []
def dkwX11_sums_2 : List UInt8 := [54, 4, 42, 180, 0, 62, 27, 28, 29, 184, 1, 76, 17, 3, 232, 21, 4, 184, 1, 70, 79, 132, 3, 1]
abbrev dktX11_sums_2 : List UInt8 := dkwX11_sums_2 ++ dktX11_sums_3
def dkwX11_sums_1 : List UInt8 := [27, 182, 1, 82, 42, 28, 29, 27, 182, 1, 85, 42, 28, 29, 27, 182, 1, 88, 184, 1, 70, 184, 1, 70]
abbrev dktX11_sums_1 : List UInt8 := dkwX11_sums_1 ++ dktX11_sums_2
def dkwX11_sums_0 : List UInt8 := [3, 62, 29, 42, 27, 182, 0, 251, 163, 0, 67, 28, 29, 96, 154, 0, 7, 3, 167, 0, 30, 42, 28, 29]
abbrev dktX11_sums_0 : List UInt8 := dkwX11_sums_0 ++ dktX11_sums_1
theorem dksX11_sums_0 : cX11_sums.data.toList.drop 0 = dktX11_sums_0 := by decide +kernel
theorem dksX11_sums_1 : cX11_sums.data.toList.drop 24 = dktX11_sums_1 := dk_seg dksX11_sums_0 24 rfl rfl
theorem dksX11_sums_2 : cX11_sums.data.toList.drop 48 = dktX11_sums_2 := dk_seg dksX11_sums_1 24 rfl rfl
theorem dksX11_sums_3 : cX11_sums.data.toList.drop 72 = dktX11_sums_3 := dk_seg dksX11_sums_2 24 rfl rfl
theorem dX11_sums_0 : decode cX11_sums 0 = .ok (.iconst 0, 1) := dk_3 (dk_at dksX11_sums_0 0 rfl rfl)
theorem dX11_sums_1 : decode cX11_sums 1 = .ok (.istore_n 3, 1) := dk_62 (dk_at dksX11_sums_0 1 rfl rfl)
theorem dX11_sums_2 : decode cX11_sums 2 = .ok (.iload_n 3, 1) := dk_29 (dk_at dksX11_sums_0 2 rfl rfl)
theorem dX11_sums_3 : decode cX11_sums 3 = .ok (.aload_n 0, 1) := dk_42 (dk_at dksX11_sums_0 3 rfl rfl)
theorem dX11_sums_4 : decode cX11_sums 4 = .ok (.iload_n 1, 1) := dk_27 (dk_at dksX11_sums_0 4 rfl rfl)
theorem dX11_sums_5 : decode cX11_sums 5 = .ok (.invokevirtual 251, 3) := dk_182 0 251 (dk_at dksX11_sums_0 5 rfl rfl)
theorem dX11_sums_8 : decode cX11_sums 8 = .ok (.if_icmp .gt 67, 3) := dk_163 0 67 (dk_at dksX11_sums_0 8 rfl rfl)
theorem dX11_sums_11 : decode cX11_sums 11 = .ok (.iload_n 2, 1) := dk_28 (dk_at dksX11_sums_0 11 rfl rfl)
theorem dX11_sums_12 : decode cX11_sums 12 = .ok (.iload_n 3, 1) := dk_29 (dk_at dksX11_sums_0 12 rfl rfl)
theorem dX11_sums_13 : decode cX11_sums 13 = .ok (.iadd, 1) := dk_96 (dk_at dksX11_sums_0 13 rfl rfl)
theorem dX11_sums_14 : decode cX11_sums 14 = .ok (.ifCond .ne 7, 3) := dk_154 0 7 (dk_at dksX11_sums_0 14 rfl rfl)
theorem dX11_sums_17 : decode cX11_sums 17 = .ok (.iconst 0, 1) := dk_3 (dk_at dksX11_sums_0 17 rfl rfl)
theorem dX11_sums_18 : decode cX11_sums 18 = .ok (.goto 30, 3) := dk_167 0 30 (dk_at dksX11_sums_0 18 rfl rfl)
theorem dX11_sums_21 : decode cX11_sums 21 = .ok (.aload_n 0, 1) := dk_42 (dk_at dksX11_sums_0 21 rfl rfl)
theorem dX11_sums_22 : decode cX11_sums 22 = .ok (.iload_n 2, 1) := dk_28 (dk_at dksX11_sums_0 22 rfl rfl)
theorem dX11_sums_23 : decode cX11_sums 23 = .ok (.iload_n 3, 1) := dk_29 (dk_at dksX11_sums_0 23 rfl rfl)
theorem dX11_sums_24 : decode cX11_sums 24 = .ok (.iload_n 1, 1) := dk_27 (dk_at dksX11_sums_1 0 rfl rfl)
theorem dX11_sums_25 : decode cX11_sums 25 = .ok (.invokevirtual 338, 3) := dk_182 1 82 (dk_at dksX11_sums_1 1 rfl rfl)
theorem dX11_sums_28 : decode cX11_sums 28 = .ok (.aload_n 0, 1) := dk_42 (dk_at dksX11_sums_1 4 rfl rfl)
theorem dX11_sums_29 : decode cX11_sums 29 = .ok (.iload_n 2, 1) := dk_28 (dk_at dksX11_sums_1 5 rfl rfl)
theorem dX11_sums_30 : decode cX11_sums 30 = .ok (.iload_n 3, 1) := dk_29 (dk_at dksX11_sums_1 6 rfl rfl)
theorem dX11_sums_31 : decode cX11_sums 31 = .ok (.iload_n 1, 1) := dk_27 (dk_at dksX11_sums_1 7 rfl rfl)
theorem dX11_sums_32 : decode cX11_sums 32 = .ok (.invokevirtual 341, 3) := dk_182 1 85 (dk_at dksX11_sums_1 8 rfl rfl)
theorem dX11_sums_35 : decode cX11_sums 35 = .ok (.aload_n 0, 1) := dk_42 (dk_at dksX11_sums_1 11 rfl rfl)
theorem dX11_sums_36 : decode cX11_sums 36 = .ok (.iload_n 2, 1) := dk_28 (dk_at dksX11_sums_1 12 rfl rfl)
theorem dX11_sums_37 : decode cX11_sums 37 = .ok (.iload_n 3, 1) := dk_29 (dk_at dksX11_sums_1 13 rfl rfl)
theorem dX11_sums_38 : decode cX11_sums 38 = .ok (.iload_n 1, 1) := dk_27 (dk_at dksX11_sums_1 14 rfl rfl)
theorem dX11_sums_39 : decode cX11_sums 39 = .ok (.invokevirtual 344, 3) := dk_182 1 88 (dk_at dksX11_sums_1 15 rfl rfl)
theorem dX11_sums_42 : decode cX11_sums 42 = .ok (.invokestatic 326, 3) := dk_184 1 70 (dk_at dksX11_sums_1 18 rfl rfl)
theorem dX11_sums_45 : decode cX11_sums 45 = .ok (.invokestatic 326, 3) := dk_184 1 70 (dk_at dksX11_sums_1 21 rfl rfl)
theorem dX11_sums_48 : decode cX11_sums 48 = .ok (.istore 4, 2) := dk_54 4 (dk_at dksX11_sums_2 0 rfl rfl)
theorem dX11_sums_50 : decode cX11_sums 50 = .ok (.aload_n 0, 1) := dk_42 (dk_at dksX11_sums_2 2 rfl rfl)
theorem dX11_sums_51 : decode cX11_sums 51 = .ok (.getfield 62, 3) := dk_180 0 62 (dk_at dksX11_sums_2 3 rfl rfl)
theorem dX11_sums_54 : decode cX11_sums 54 = .ok (.iload_n 1, 1) := dk_27 (dk_at dksX11_sums_2 6 rfl rfl)
theorem dX11_sums_55 : decode cX11_sums 55 = .ok (.iload_n 2, 1) := dk_28 (dk_at dksX11_sums_2 7 rfl rfl)
theorem dX11_sums_56 : decode cX11_sums 56 = .ok (.iload_n 3, 1) := dk_29 (dk_at dksX11_sums_2 8 rfl rfl)
theorem dX11_sums_57 : decode cX11_sums 57 = .ok (.invokestatic 332, 3) := dk_184 1 76 (dk_at dksX11_sums_2 9 rfl rfl)
theorem dX11_sums_60 : decode cX11_sums 60 = .ok (.sipush 1000, 3) := dk_17 3 232 (dk_at dksX11_sums_2 12 rfl rfl)
theorem dX11_sums_63 : decode cX11_sums 63 = .ok (.iload 4, 2) := dk_21 4 (dk_at dksX11_sums_2 15 rfl rfl)
theorem dX11_sums_65 : decode cX11_sums 65 = .ok (.invokestatic 326, 3) := dk_184 1 70 (dk_at dksX11_sums_2 17 rfl rfl)
theorem dX11_sums_68 : decode cX11_sums 68 = .ok (.iastore, 1) := dk_79 (dk_at dksX11_sums_2 20 rfl rfl)
theorem dX11_sums_69 : decode cX11_sums 69 = .ok (.iinc 3 1, 3) := dk_132 3 1 (dk_at dksX11_sums_2 21 rfl rfl)
theorem dX11_sums_72 : decode cX11_sums 72 = .ok (.goto (-70), 3) := dk_167 255 186 (dk_at dksX11_sums_3 0 rfl rfl)
theorem dX11_sums_75 : decode cX11_sums 75 = .ok (.return_, 1) := dk_177 (dk_at dksX11_sums_3 3 rfl rfl)
def dkwX11_ofMove_1 : List UInt8 := [100, 184, 1, 76, 46, 42, 180, 0, 56, 27, 4, 100, 29, 28, 4, 100, 184, 1, 73, 46, 96, 172]
abbrev dktX11_ofMove_1 : List UInt8 := dkwX11_ofMove_1 ++ []
def dkwX11_ofMove_0 : List UInt8 := [27, 153, 0, 7, 28, 154, 0, 9, 17, 3, 232, 167, 0, 34, 42, 180, 0, 62, 29, 27, 4, 100, 28, 4]
abbrev dktX11_ofMove_0 : List UInt8 := dkwX11_ofMove_0 ++ dktX11_ofMove_1
theorem dksX11_ofMove_0 : cX11_ofMove.data.toList.drop 0 = dktX11_ofMove_0 := by decide +kernel
theorem dksX11_ofMove_1 : cX11_ofMove.data.toList.drop 24 = dktX11_ofMove_1 := dk_seg dksX11_ofMove_0 24 rfl rfl
theorem dX11_ofMove_0 : decode cX11_ofMove 0 = .ok (.iload_n 1, 1) := dk_27 (dk_at dksX11_ofMove_0 0 rfl rfl)
theorem dX11_ofMove_1 : decode cX11_ofMove 1 = .ok (.ifCond .eq 7, 3) := dk_153 0 7 (dk_at dksX11_ofMove_0 1 rfl rfl)
theorem dX11_ofMove_4 : decode cX11_ofMove 4 = .ok (.iload_n 2, 1) := dk_28 (dk_at dksX11_ofMove_0 4 rfl rfl)
theorem dX11_ofMove_5 : decode cX11_ofMove 5 = .ok (.ifCond .ne 9, 3) := dk_154 0 9 (dk_at dksX11_ofMove_0 5 rfl rfl)
theorem dX11_ofMove_8 : decode cX11_ofMove 8 = .ok (.sipush 1000, 3) := dk_17 3 232 (dk_at dksX11_ofMove_0 8 rfl rfl)
theorem dX11_ofMove_11 : decode cX11_ofMove 11 = .ok (.goto 34, 3) := dk_167 0 34 (dk_at dksX11_ofMove_0 11 rfl rfl)
theorem dX11_ofMove_14 : decode cX11_ofMove 14 = .ok (.aload_n 0, 1) := dk_42 (dk_at dksX11_ofMove_0 14 rfl rfl)
theorem dX11_ofMove_15 : decode cX11_ofMove 15 = .ok (.getfield 62, 3) := dk_180 0 62 (dk_at dksX11_ofMove_0 15 rfl rfl)
theorem dX11_ofMove_18 : decode cX11_ofMove 18 = .ok (.iload_n 3, 1) := dk_29 (dk_at dksX11_ofMove_0 18 rfl rfl)
theorem dX11_ofMove_19 : decode cX11_ofMove 19 = .ok (.iload_n 1, 1) := dk_27 (dk_at dksX11_ofMove_0 19 rfl rfl)
theorem dX11_ofMove_20 : decode cX11_ofMove 20 = .ok (.iconst 1, 1) := dk_4 (dk_at dksX11_ofMove_0 20 rfl rfl)
theorem dX11_ofMove_21 : decode cX11_ofMove 21 = .ok (.isub, 1) := dk_100 (dk_at dksX11_ofMove_0 21 rfl rfl)
theorem dX11_ofMove_22 : decode cX11_ofMove 22 = .ok (.iload_n 2, 1) := dk_28 (dk_at dksX11_ofMove_0 22 rfl rfl)
theorem dX11_ofMove_23 : decode cX11_ofMove 23 = .ok (.iconst 1, 1) := dk_4 (dk_at dksX11_ofMove_0 23 rfl rfl)
theorem dX11_ofMove_24 : decode cX11_ofMove 24 = .ok (.isub, 1) := dk_100 (dk_at dksX11_ofMove_1 0 rfl rfl)
theorem dX11_ofMove_25 : decode cX11_ofMove 25 = .ok (.invokestatic 332, 3) := dk_184 1 76 (dk_at dksX11_ofMove_1 1 rfl rfl)
theorem dX11_ofMove_28 : decode cX11_ofMove 28 = .ok (.iaload, 1) := dk_46 (dk_at dksX11_ofMove_1 4 rfl rfl)
theorem dX11_ofMove_29 : decode cX11_ofMove 29 = .ok (.aload_n 0, 1) := dk_42 (dk_at dksX11_ofMove_1 5 rfl rfl)
theorem dX11_ofMove_30 : decode cX11_ofMove 30 = .ok (.getfield 56, 3) := dk_180 0 56 (dk_at dksX11_ofMove_1 6 rfl rfl)
theorem dX11_ofMove_33 : decode cX11_ofMove 33 = .ok (.iload_n 1, 1) := dk_27 (dk_at dksX11_ofMove_1 9 rfl rfl)
theorem dX11_ofMove_34 : decode cX11_ofMove 34 = .ok (.iconst 1, 1) := dk_4 (dk_at dksX11_ofMove_1 10 rfl rfl)
theorem dX11_ofMove_35 : decode cX11_ofMove 35 = .ok (.isub, 1) := dk_100 (dk_at dksX11_ofMove_1 11 rfl rfl)
theorem dX11_ofMove_36 : decode cX11_ofMove 36 = .ok (.iload_n 3, 1) := dk_29 (dk_at dksX11_ofMove_1 12 rfl rfl)
theorem dX11_ofMove_37 : decode cX11_ofMove 37 = .ok (.iload_n 2, 1) := dk_28 (dk_at dksX11_ofMove_1 13 rfl rfl)
theorem dX11_ofMove_38 : decode cX11_ofMove 38 = .ok (.iconst 1, 1) := dk_4 (dk_at dksX11_ofMove_1 14 rfl rfl)
theorem dX11_ofMove_39 : decode cX11_ofMove 39 = .ok (.isub, 1) := dk_100 (dk_at dksX11_ofMove_1 15 rfl rfl)
theorem dX11_ofMove_40 : decode cX11_ofMove 40 = .ok (.invokestatic 329, 3) := dk_184 1 73 (dk_at dksX11_ofMove_1 16 rfl rfl)
theorem dX11_ofMove_43 : decode cX11_ofMove 43 = .ok (.iaload, 1) := dk_46 (dk_at dksX11_ofMove_1 19 rfl rfl)
theorem dX11_ofMove_44 : decode cX11_ofMove 44 = .ok (.iadd, 1) := dk_96 (dk_at dksX11_ofMove_1 20 rfl rfl)
theorem dX11_ofMove_45 : decode cX11_ofMove 45 = .ok (.ireturn, 1) := dk_172 (dk_at dksX11_ofMove_1 21 rfl rfl)
def dkwX11_sumAt_0 : List UInt8 := [16, 25, 16, 31, 26, 104, 27, 96, 104, 28, 96, 172]
abbrev dktX11_sumAt_0 : List UInt8 := dkwX11_sumAt_0 ++ []
theorem dksX11_sumAt_0 : cX11_sumAt.data.toList.drop 0 = dktX11_sumAt_0 := by decide +kernel
theorem dX11_sumAt_0 : decode cX11_sumAt 0 = .ok (.bipush 25, 2) := dk_16 25 (dk_at dksX11_sumAt_0 0 rfl rfl)
theorem dX11_sumAt_2 : decode cX11_sumAt 2 = .ok (.bipush 31, 2) := dk_16 31 (dk_at dksX11_sumAt_0 2 rfl rfl)
theorem dX11_sumAt_4 : decode cX11_sumAt 4 = .ok (.iload_n 0, 1) := dk_26 (dk_at dksX11_sumAt_0 4 rfl rfl)
theorem dX11_sumAt_5 : decode cX11_sumAt 5 = .ok (.imul, 1) := dk_104 (dk_at dksX11_sumAt_0 5 rfl rfl)
theorem dX11_sumAt_6 : decode cX11_sumAt 6 = .ok (.iload_n 1, 1) := dk_27 (dk_at dksX11_sumAt_0 6 rfl rfl)
theorem dX11_sumAt_7 : decode cX11_sumAt 7 = .ok (.iadd, 1) := dk_96 (dk_at dksX11_sumAt_0 7 rfl rfl)
theorem dX11_sumAt_8 : decode cX11_sumAt 8 = .ok (.imul, 1) := dk_104 (dk_at dksX11_sumAt_0 8 rfl rfl)
theorem dX11_sumAt_9 : decode cX11_sumAt 9 = .ok (.iload_n 2, 1) := dk_28 (dk_at dksX11_sumAt_0 9 rfl rfl)
theorem dX11_sumAt_10 : decode cX11_sumAt 10 = .ok (.iadd, 1) := dk_96 (dk_at dksX11_sumAt_0 10 rfl rfl)
theorem dX11_sumAt_11 : decode cX11_sumAt 11 = .ok (.ireturn, 1) := dk_172 (dk_at dksX11_sumAt_0 11 rfl rfl)
def dkwX11_fitAt_0 : List UInt8 := [6, 26, 104, 27, 96, 16, 24, 104, 28, 96, 172]
abbrev dktX11_fitAt_0 : List UInt8 := dkwX11_fitAt_0 ++ []
theorem dksX11_fitAt_0 : cX11_fitAt.data.toList.drop 0 = dktX11_fitAt_0 := by decide +kernel
theorem dX11_fitAt_0 : decode cX11_fitAt 0 = .ok (.iconst 3, 1) := dk_6 (dk_at dksX11_fitAt_0 0 rfl rfl)
theorem dX11_fitAt_1 : decode cX11_fitAt 1 = .ok (.iload_n 0, 1) := dk_26 (dk_at dksX11_fitAt_0 1 rfl rfl)
theorem dX11_fitAt_2 : decode cX11_fitAt 2 = .ok (.imul, 1) := dk_104 (dk_at dksX11_fitAt_0 2 rfl rfl)
theorem dX11_fitAt_3 : decode cX11_fitAt 3 = .ok (.iload_n 1, 1) := dk_27 (dk_at dksX11_fitAt_0 3 rfl rfl)
theorem dX11_fitAt_4 : decode cX11_fitAt 4 = .ok (.iadd, 1) := dk_96 (dk_at dksX11_fitAt_0 4 rfl rfl)
theorem dX11_fitAt_5 : decode cX11_fitAt 5 = .ok (.bipush 24, 2) := dk_16 24 (dk_at dksX11_fitAt_0 5 rfl rfl)
theorem dX11_fitAt_7 : decode cX11_fitAt 7 = .ok (.imul, 1) := dk_104 (dk_at dksX11_fitAt_0 7 rfl rfl)
theorem dX11_fitAt_8 : decode cX11_fitAt 8 = .ok (.iload_n 2, 1) := dk_28 (dk_at dksX11_fitAt_0 8 rfl rfl)
theorem dX11_fitAt_9 : decode cX11_fitAt 9 = .ok (.iadd, 1) := dk_96 (dk_at dksX11_fitAt_0 9 rfl rfl)
theorem dX11_fitAt_10 : decode cX11_fitAt 10 = .ok (.ireturn, 1) := dk_172 (dk_at dksX11_fitAt_0 10 rfl rfl)
def dkwX11_ofLost_1 : List UInt8 := [29, 27, 4, 100, 28, 184, 1, 76, 46, 42, 180, 0, 50, 16, 6, 46, 96, 172]
abbrev dktX11_ofLost_1 : List UInt8 := dkwX11_ofLost_1 ++ []
def dkwX11_ofLost_0 : List UInt8 := [27, 153, 0, 13, 42, 180, 0, 50, 16, 6, 46, 154, 0, 9, 17, 3, 232, 167, 0, 24, 42, 180, 0, 62]
abbrev dktX11_ofLost_0 : List UInt8 := dkwX11_ofLost_0 ++ dktX11_ofLost_1
theorem dksX11_ofLost_0 : cX11_ofLost.data.toList.drop 0 = dktX11_ofLost_0 := by decide +kernel
theorem dksX11_ofLost_1 : cX11_ofLost.data.toList.drop 24 = dktX11_ofLost_1 := dk_seg dksX11_ofLost_0 24 rfl rfl
theorem dX11_ofLost_0 : decode cX11_ofLost 0 = .ok (.iload_n 1, 1) := dk_27 (dk_at dksX11_ofLost_0 0 rfl rfl)
theorem dX11_ofLost_1 : decode cX11_ofLost 1 = .ok (.ifCond .eq 13, 3) := dk_153 0 13 (dk_at dksX11_ofLost_0 1 rfl rfl)
theorem dX11_ofLost_4 : decode cX11_ofLost 4 = .ok (.aload_n 0, 1) := dk_42 (dk_at dksX11_ofLost_0 4 rfl rfl)
theorem dX11_ofLost_5 : decode cX11_ofLost 5 = .ok (.getfield 50, 3) := dk_180 0 50 (dk_at dksX11_ofLost_0 5 rfl rfl)
theorem dX11_ofLost_8 : decode cX11_ofLost 8 = .ok (.bipush 6, 2) := dk_16 6 (dk_at dksX11_ofLost_0 8 rfl rfl)
theorem dX11_ofLost_10 : decode cX11_ofLost 10 = .ok (.iaload, 1) := dk_46 (dk_at dksX11_ofLost_0 10 rfl rfl)
theorem dX11_ofLost_11 : decode cX11_ofLost 11 = .ok (.ifCond .ne 9, 3) := dk_154 0 9 (dk_at dksX11_ofLost_0 11 rfl rfl)
theorem dX11_ofLost_14 : decode cX11_ofLost 14 = .ok (.sipush 1000, 3) := dk_17 3 232 (dk_at dksX11_ofLost_0 14 rfl rfl)
theorem dX11_ofLost_17 : decode cX11_ofLost 17 = .ok (.goto 24, 3) := dk_167 0 24 (dk_at dksX11_ofLost_0 17 rfl rfl)
theorem dX11_ofLost_20 : decode cX11_ofLost 20 = .ok (.aload_n 0, 1) := dk_42 (dk_at dksX11_ofLost_0 20 rfl rfl)
theorem dX11_ofLost_21 : decode cX11_ofLost 21 = .ok (.getfield 62, 3) := dk_180 0 62 (dk_at dksX11_ofLost_0 21 rfl rfl)
theorem dX11_ofLost_24 : decode cX11_ofLost 24 = .ok (.iload_n 3, 1) := dk_29 (dk_at dksX11_ofLost_1 0 rfl rfl)
theorem dX11_ofLost_25 : decode cX11_ofLost 25 = .ok (.iload_n 1, 1) := dk_27 (dk_at dksX11_ofLost_1 1 rfl rfl)
theorem dX11_ofLost_26 : decode cX11_ofLost 26 = .ok (.iconst 1, 1) := dk_4 (dk_at dksX11_ofLost_1 2 rfl rfl)
theorem dX11_ofLost_27 : decode cX11_ofLost 27 = .ok (.isub, 1) := dk_100 (dk_at dksX11_ofLost_1 3 rfl rfl)
theorem dX11_ofLost_28 : decode cX11_ofLost 28 = .ok (.iload_n 2, 1) := dk_28 (dk_at dksX11_ofLost_1 4 rfl rfl)
theorem dX11_ofLost_29 : decode cX11_ofLost 29 = .ok (.invokestatic 332, 3) := dk_184 1 76 (dk_at dksX11_ofLost_1 5 rfl rfl)
theorem dX11_ofLost_32 : decode cX11_ofLost 32 = .ok (.iaload, 1) := dk_46 (dk_at dksX11_ofLost_1 8 rfl rfl)
theorem dX11_ofLost_33 : decode cX11_ofLost 33 = .ok (.aload_n 0, 1) := dk_42 (dk_at dksX11_ofLost_1 9 rfl rfl)
theorem dX11_ofLost_34 : decode cX11_ofLost 34 = .ok (.getfield 50, 3) := dk_180 0 50 (dk_at dksX11_ofLost_1 10 rfl rfl)
theorem dX11_ofLost_37 : decode cX11_ofLost 37 = .ok (.bipush 6, 2) := dk_16 6 (dk_at dksX11_ofLost_1 13 rfl rfl)
theorem dX11_ofLost_39 : decode cX11_ofLost 39 = .ok (.iaload, 1) := dk_46 (dk_at dksX11_ofLost_1 15 rfl rfl)
theorem dX11_ofLost_40 : decode cX11_ofLost 40 = .ok (.iadd, 1) := dk_96 (dk_at dksX11_ofLost_1 16 rfl rfl)
theorem dX11_ofLost_41 : decode cX11_ofLost 41 = .ok (.ireturn, 1) := dk_172 (dk_at dksX11_ofLost_1 17 rfl rfl)
def dkwX11_ofTwice_1 : List UInt8 := [180, 0, 62, 29, 27, 28, 4, 100, 184, 1, 76, 46, 42, 180, 0, 50, 16, 7, 46, 96, 172]
abbrev dktX11_ofTwice_1 : List UInt8 := dkwX11_ofTwice_1 ++ []
def dkwX11_ofTwice_0 : List UInt8 := [28, 153, 0, 14, 42, 29, 28, 4, 100, 182, 1, 79, 154, 0, 9, 17, 3, 232, 167, 0, 24, 42]
abbrev dktX11_ofTwice_0 : List UInt8 := dkwX11_ofTwice_0 ++ dktX11_ofTwice_1
theorem dksX11_ofTwice_0 : cX11_ofTwice.data.toList.drop 0 = dktX11_ofTwice_0 := by decide +kernel
theorem dksX11_ofTwice_1 : cX11_ofTwice.data.toList.drop 22 = dktX11_ofTwice_1 := dk_seg dksX11_ofTwice_0 22 rfl rfl
theorem dX11_ofTwice_0 : decode cX11_ofTwice 0 = .ok (.iload_n 2, 1) := dk_28 (dk_at dksX11_ofTwice_0 0 rfl rfl)
theorem dX11_ofTwice_1 : decode cX11_ofTwice 1 = .ok (.ifCond .eq 14, 3) := dk_153 0 14 (dk_at dksX11_ofTwice_0 1 rfl rfl)
theorem dX11_ofTwice_4 : decode cX11_ofTwice 4 = .ok (.aload_n 0, 1) := dk_42 (dk_at dksX11_ofTwice_0 4 rfl rfl)
theorem dX11_ofTwice_5 : decode cX11_ofTwice 5 = .ok (.iload_n 3, 1) := dk_29 (dk_at dksX11_ofTwice_0 5 rfl rfl)
theorem dX11_ofTwice_6 : decode cX11_ofTwice 6 = .ok (.iload_n 2, 1) := dk_28 (dk_at dksX11_ofTwice_0 6 rfl rfl)
theorem dX11_ofTwice_7 : decode cX11_ofTwice 7 = .ok (.iconst 1, 1) := dk_4 (dk_at dksX11_ofTwice_0 7 rfl rfl)
theorem dX11_ofTwice_8 : decode cX11_ofTwice 8 = .ok (.isub, 1) := dk_100 (dk_at dksX11_ofTwice_0 8 rfl rfl)
theorem dX11_ofTwice_9 : decode cX11_ofTwice 9 = .ok (.invokevirtual 335, 3) := dk_182 1 79 (dk_at dksX11_ofTwice_0 9 rfl rfl)
theorem dX11_ofTwice_12 : decode cX11_ofTwice 12 = .ok (.ifCond .ne 9, 3) := dk_154 0 9 (dk_at dksX11_ofTwice_0 12 rfl rfl)
theorem dX11_ofTwice_15 : decode cX11_ofTwice 15 = .ok (.sipush 1000, 3) := dk_17 3 232 (dk_at dksX11_ofTwice_0 15 rfl rfl)
theorem dX11_ofTwice_18 : decode cX11_ofTwice 18 = .ok (.goto 24, 3) := dk_167 0 24 (dk_at dksX11_ofTwice_0 18 rfl rfl)
theorem dX11_ofTwice_21 : decode cX11_ofTwice 21 = .ok (.aload_n 0, 1) := dk_42 (dk_at dksX11_ofTwice_0 21 rfl rfl)
theorem dX11_ofTwice_22 : decode cX11_ofTwice 22 = .ok (.getfield 62, 3) := dk_180 0 62 (dk_at dksX11_ofTwice_1 0 rfl rfl)
theorem dX11_ofTwice_25 : decode cX11_ofTwice 25 = .ok (.iload_n 3, 1) := dk_29 (dk_at dksX11_ofTwice_1 3 rfl rfl)
theorem dX11_ofTwice_26 : decode cX11_ofTwice 26 = .ok (.iload_n 1, 1) := dk_27 (dk_at dksX11_ofTwice_1 4 rfl rfl)
theorem dX11_ofTwice_27 : decode cX11_ofTwice 27 = .ok (.iload_n 2, 1) := dk_28 (dk_at dksX11_ofTwice_1 5 rfl rfl)
theorem dX11_ofTwice_28 : decode cX11_ofTwice 28 = .ok (.iconst 1, 1) := dk_4 (dk_at dksX11_ofTwice_1 6 rfl rfl)
theorem dX11_ofTwice_29 : decode cX11_ofTwice 29 = .ok (.isub, 1) := dk_100 (dk_at dksX11_ofTwice_1 7 rfl rfl)
theorem dX11_ofTwice_30 : decode cX11_ofTwice 30 = .ok (.invokestatic 332, 3) := dk_184 1 76 (dk_at dksX11_ofTwice_1 8 rfl rfl)
theorem dX11_ofTwice_33 : decode cX11_ofTwice 33 = .ok (.iaload, 1) := dk_46 (dk_at dksX11_ofTwice_1 11 rfl rfl)
theorem dX11_ofTwice_34 : decode cX11_ofTwice 34 = .ok (.aload_n 0, 1) := dk_42 (dk_at dksX11_ofTwice_1 12 rfl rfl)
theorem dX11_ofTwice_35 : decode cX11_ofTwice 35 = .ok (.getfield 50, 3) := dk_180 0 50 (dk_at dksX11_ofTwice_1 13 rfl rfl)
theorem dX11_ofTwice_38 : decode cX11_ofTwice 38 = .ok (.bipush 7, 2) := dk_16 7 (dk_at dksX11_ofTwice_1 16 rfl rfl)
theorem dX11_ofTwice_40 : decode cX11_ofTwice 40 = .ok (.iaload, 1) := dk_46 (dk_at dksX11_ofTwice_1 18 rfl rfl)
theorem dX11_ofTwice_41 : decode cX11_ofTwice 41 = .ok (.iadd, 1) := dk_96 (dk_at dksX11_ofTwice_1 19 rfl rfl)
theorem dX11_ofTwice_42 : decode cX11_ofTwice 42 = .ok (.ireturn, 1) := dk_172 (dk_at dksX11_ofTwice_1 20 rfl rfl)
def dkwX11_isTwice_2 : List UInt8 := [21, 4, 182, 1, 16, 160, 0, 7, 4, 167, 0, 4, 3, 62, 132, 4, 1, 167, 255, 216, 29, 172]
abbrev dktX11_isTwice_2 : List UInt8 := dkwX11_isTwice_2 ++ []
def dkwX11_isTwice_1 : List UInt8 := [21, 4, 7, 162, 0, 40, 29, 153, 0, 36, 42, 27, 28, 21, 4, 182, 1, 16, 42, 27, 28, 4, 100]
abbrev dktX11_isTwice_1 : List UInt8 := dkwX11_isTwice_1 ++ dktX11_isTwice_2
def dkwX11_isTwice_0 : List UInt8 := [28, 158, 0, 17, 42, 180, 0, 50, 16, 7, 46, 158, 0, 7, 4, 167, 0, 4, 3, 62, 3, 54, 4]
abbrev dktX11_isTwice_0 : List UInt8 := dkwX11_isTwice_0 ++ dktX11_isTwice_1
theorem dksX11_isTwice_0 : cX11_isTwice.data.toList.drop 0 = dktX11_isTwice_0 := by decide +kernel
theorem dksX11_isTwice_1 : cX11_isTwice.data.toList.drop 23 = dktX11_isTwice_1 := dk_seg dksX11_isTwice_0 23 rfl rfl
theorem dksX11_isTwice_2 : cX11_isTwice.data.toList.drop 46 = dktX11_isTwice_2 := dk_seg dksX11_isTwice_1 23 rfl rfl
theorem dX11_isTwice_0 : decode cX11_isTwice 0 = .ok (.iload_n 2, 1) := dk_28 (dk_at dksX11_isTwice_0 0 rfl rfl)
theorem dX11_isTwice_1 : decode cX11_isTwice 1 = .ok (.ifCond .le 17, 3) := dk_158 0 17 (dk_at dksX11_isTwice_0 1 rfl rfl)
theorem dX11_isTwice_4 : decode cX11_isTwice 4 = .ok (.aload_n 0, 1) := dk_42 (dk_at dksX11_isTwice_0 4 rfl rfl)
theorem dX11_isTwice_5 : decode cX11_isTwice 5 = .ok (.getfield 50, 3) := dk_180 0 50 (dk_at dksX11_isTwice_0 5 rfl rfl)
theorem dX11_isTwice_8 : decode cX11_isTwice 8 = .ok (.bipush 7, 2) := dk_16 7 (dk_at dksX11_isTwice_0 8 rfl rfl)
theorem dX11_isTwice_10 : decode cX11_isTwice 10 = .ok (.iaload, 1) := dk_46 (dk_at dksX11_isTwice_0 10 rfl rfl)
theorem dX11_isTwice_11 : decode cX11_isTwice 11 = .ok (.ifCond .le 7, 3) := dk_158 0 7 (dk_at dksX11_isTwice_0 11 rfl rfl)
theorem dX11_isTwice_14 : decode cX11_isTwice 14 = .ok (.iconst 1, 1) := dk_4 (dk_at dksX11_isTwice_0 14 rfl rfl)
theorem dX11_isTwice_15 : decode cX11_isTwice 15 = .ok (.goto 4, 3) := dk_167 0 4 (dk_at dksX11_isTwice_0 15 rfl rfl)
theorem dX11_isTwice_18 : decode cX11_isTwice 18 = .ok (.iconst 0, 1) := dk_3 (dk_at dksX11_isTwice_0 18 rfl rfl)
theorem dX11_isTwice_19 : decode cX11_isTwice 19 = .ok (.istore_n 3, 1) := dk_62 (dk_at dksX11_isTwice_0 19 rfl rfl)
theorem dX11_isTwice_20 : decode cX11_isTwice 20 = .ok (.iconst 0, 1) := dk_3 (dk_at dksX11_isTwice_0 20 rfl rfl)
theorem dX11_isTwice_21 : decode cX11_isTwice 21 = .ok (.istore 4, 2) := dk_54 4 (dk_at dksX11_isTwice_0 21 rfl rfl)
theorem dX11_isTwice_23 : decode cX11_isTwice 23 = .ok (.iload 4, 2) := dk_21 4 (dk_at dksX11_isTwice_1 0 rfl rfl)
theorem dX11_isTwice_25 : decode cX11_isTwice 25 = .ok (.iconst 4, 1) := dk_7 (dk_at dksX11_isTwice_1 2 rfl rfl)
theorem dX11_isTwice_26 : decode cX11_isTwice 26 = .ok (.if_icmp .ge 40, 3) := dk_162 0 40 (dk_at dksX11_isTwice_1 3 rfl rfl)
theorem dX11_isTwice_29 : decode cX11_isTwice 29 = .ok (.iload_n 3, 1) := dk_29 (dk_at dksX11_isTwice_1 6 rfl rfl)
theorem dX11_isTwice_30 : decode cX11_isTwice 30 = .ok (.ifCond .eq 36, 3) := dk_153 0 36 (dk_at dksX11_isTwice_1 7 rfl rfl)
theorem dX11_isTwice_33 : decode cX11_isTwice 33 = .ok (.aload_n 0, 1) := dk_42 (dk_at dksX11_isTwice_1 10 rfl rfl)
theorem dX11_isTwice_34 : decode cX11_isTwice 34 = .ok (.iload_n 1, 1) := dk_27 (dk_at dksX11_isTwice_1 11 rfl rfl)
theorem dX11_isTwice_35 : decode cX11_isTwice 35 = .ok (.iload_n 2, 1) := dk_28 (dk_at dksX11_isTwice_1 12 rfl rfl)
theorem dX11_isTwice_36 : decode cX11_isTwice 36 = .ok (.iload 4, 2) := dk_21 4 (dk_at dksX11_isTwice_1 13 rfl rfl)
theorem dX11_isTwice_38 : decode cX11_isTwice 38 = .ok (.invokevirtual 272, 3) := dk_182 1 16 (dk_at dksX11_isTwice_1 15 rfl rfl)
theorem dX11_isTwice_41 : decode cX11_isTwice 41 = .ok (.aload_n 0, 1) := dk_42 (dk_at dksX11_isTwice_1 18 rfl rfl)
theorem dX11_isTwice_42 : decode cX11_isTwice 42 = .ok (.iload_n 1, 1) := dk_27 (dk_at dksX11_isTwice_1 19 rfl rfl)
theorem dX11_isTwice_43 : decode cX11_isTwice 43 = .ok (.iload_n 2, 1) := dk_28 (dk_at dksX11_isTwice_1 20 rfl rfl)
theorem dX11_isTwice_44 : decode cX11_isTwice 44 = .ok (.iconst 1, 1) := dk_4 (dk_at dksX11_isTwice_1 21 rfl rfl)
theorem dX11_isTwice_45 : decode cX11_isTwice 45 = .ok (.isub, 1) := dk_100 (dk_at dksX11_isTwice_1 22 rfl rfl)
theorem dX11_isTwice_46 : decode cX11_isTwice 46 = .ok (.iload 4, 2) := dk_21 4 (dk_at dksX11_isTwice_2 0 rfl rfl)
theorem dX11_isTwice_48 : decode cX11_isTwice 48 = .ok (.invokevirtual 272, 3) := dk_182 1 16 (dk_at dksX11_isTwice_2 2 rfl rfl)
theorem dX11_isTwice_51 : decode cX11_isTwice 51 = .ok (.if_icmp .ne 7, 3) := dk_160 0 7 (dk_at dksX11_isTwice_2 5 rfl rfl)
theorem dX11_isTwice_54 : decode cX11_isTwice 54 = .ok (.iconst 1, 1) := dk_4 (dk_at dksX11_isTwice_2 8 rfl rfl)
theorem dX11_isTwice_55 : decode cX11_isTwice 55 = .ok (.goto 4, 3) := dk_167 0 4 (dk_at dksX11_isTwice_2 9 rfl rfl)
theorem dX11_isTwice_58 : decode cX11_isTwice 58 = .ok (.iconst 0, 1) := dk_3 (dk_at dksX11_isTwice_2 12 rfl rfl)
theorem dX11_isTwice_59 : decode cX11_isTwice 59 = .ok (.istore_n 3, 1) := dk_62 (dk_at dksX11_isTwice_2 13 rfl rfl)
theorem dX11_isTwice_60 : decode cX11_isTwice 60 = .ok (.iinc 4 1, 3) := dk_132 4 1 (dk_at dksX11_isTwice_2 14 rfl rfl)
theorem dX11_isTwice_63 : decode cX11_isTwice 63 = .ok (.goto (-40), 3) := dk_167 255 216 (dk_at dksX11_isTwice_2 17 rfl rfl)
theorem dX11_isTwice_66 : decode cX11_isTwice 66 = .ok (.iload_n 3, 1) := dk_29 (dk_at dksX11_isTwice_2 20 rfl rfl)
theorem dX11_isTwice_67 : decode cX11_isTwice 67 = .ok (.ireturn, 1) := dk_172 (dk_at dksX11_isTwice_2 21 rfl rfl)
def dkwX11_lays_3 : List UInt8 := [180, 0, 65, 27, 42, 27, 182, 1, 161, 153, 0, 7, 3, 167, 0, 6, 17, 5, 16, 79, 177]
abbrev dktX11_lays_3 : List UInt8 := dkwX11_lays_3 ++ []
def dkwX11_lays_2 : List UInt8 := [181, 1, 148, 42, 27, 27, 5, 112, 182, 1, 49, 42, 27, 182, 1, 154, 42, 27, 28, 182, 1, 158, 42]
abbrev dktX11_lays_2 : List UInt8 := dkwX11_lays_2 ++ dktX11_lays_3
def dkwX11_lays_1 : List UInt8 := [17, 31, 64, 164, 0, 7, 4, 167, 0, 4, 3, 181, 1, 145, 42, 42, 180, 1, 148, 27, 184, 1, 151]
abbrev dktX11_lays_1 : List UInt8 := dkwX11_lays_1 ++ dktX11_lays_2
def dkwX11_lays_0 : List UInt8 := [42, 89, 180, 1, 142, 4, 96, 181, 1, 142, 42, 42, 180, 1, 145, 154, 0, 13, 42, 180, 1, 142]
abbrev dktX11_lays_0 : List UInt8 := dkwX11_lays_0 ++ dktX11_lays_1
theorem dksX11_lays_0 : cX11_lays.data.toList.drop 0 = dktX11_lays_0 := by decide +kernel
theorem dksX11_lays_1 : cX11_lays.data.toList.drop 22 = dktX11_lays_1 := dk_seg dksX11_lays_0 22 rfl rfl
theorem dksX11_lays_2 : cX11_lays.data.toList.drop 45 = dktX11_lays_2 := dk_seg dksX11_lays_1 23 rfl rfl
theorem dksX11_lays_3 : cX11_lays.data.toList.drop 68 = dktX11_lays_3 := dk_seg dksX11_lays_2 23 rfl rfl
theorem dX11_lays_0 : decode cX11_lays 0 = .ok (.aload_n 0, 1) := dk_42 (dk_at dksX11_lays_0 0 rfl rfl)
theorem dX11_lays_1 : decode cX11_lays 1 = .ok (.dup, 1) := dk_89 (dk_at dksX11_lays_0 1 rfl rfl)
theorem dX11_lays_2 : decode cX11_lays 2 = .ok (.getfield 398, 3) := dk_180 1 142 (dk_at dksX11_lays_0 2 rfl rfl)
theorem dX11_lays_5 : decode cX11_lays 5 = .ok (.iconst 1, 1) := dk_4 (dk_at dksX11_lays_0 5 rfl rfl)
theorem dX11_lays_6 : decode cX11_lays 6 = .ok (.iadd, 1) := dk_96 (dk_at dksX11_lays_0 6 rfl rfl)
theorem dX11_lays_7 : decode cX11_lays 7 = .ok (.putfield 398, 3) := dk_181 1 142 (dk_at dksX11_lays_0 7 rfl rfl)
theorem dX11_lays_10 : decode cX11_lays 10 = .ok (.aload_n 0, 1) := dk_42 (dk_at dksX11_lays_0 10 rfl rfl)
theorem dX11_lays_11 : decode cX11_lays 11 = .ok (.aload_n 0, 1) := dk_42 (dk_at dksX11_lays_0 11 rfl rfl)
theorem dX11_lays_12 : decode cX11_lays 12 = .ok (.getfield 401, 3) := dk_180 1 145 (dk_at dksX11_lays_0 12 rfl rfl)
theorem dX11_lays_15 : decode cX11_lays 15 = .ok (.ifCond .ne 13, 3) := dk_154 0 13 (dk_at dksX11_lays_0 15 rfl rfl)
theorem dX11_lays_18 : decode cX11_lays 18 = .ok (.aload_n 0, 1) := dk_42 (dk_at dksX11_lays_0 18 rfl rfl)
theorem dX11_lays_19 : decode cX11_lays 19 = .ok (.getfield 398, 3) := dk_180 1 142 (dk_at dksX11_lays_0 19 rfl rfl)
theorem dX11_lays_22 : decode cX11_lays 22 = .ok (.sipush 8000, 3) := dk_17 31 64 (dk_at dksX11_lays_1 0 rfl rfl)
theorem dX11_lays_25 : decode cX11_lays 25 = .ok (.if_icmp .le 7, 3) := dk_164 0 7 (dk_at dksX11_lays_1 3 rfl rfl)
theorem dX11_lays_28 : decode cX11_lays 28 = .ok (.iconst 1, 1) := dk_4 (dk_at dksX11_lays_1 6 rfl rfl)
theorem dX11_lays_29 : decode cX11_lays 29 = .ok (.goto 4, 3) := dk_167 0 4 (dk_at dksX11_lays_1 7 rfl rfl)
theorem dX11_lays_32 : decode cX11_lays 32 = .ok (.iconst 0, 1) := dk_3 (dk_at dksX11_lays_1 10 rfl rfl)
theorem dX11_lays_33 : decode cX11_lays 33 = .ok (.putfield 401, 3) := dk_181 1 145 (dk_at dksX11_lays_1 11 rfl rfl)
theorem dX11_lays_36 : decode cX11_lays 36 = .ok (.aload_n 0, 1) := dk_42 (dk_at dksX11_lays_1 14 rfl rfl)
theorem dX11_lays_37 : decode cX11_lays 37 = .ok (.aload_n 0, 1) := dk_42 (dk_at dksX11_lays_1 15 rfl rfl)
theorem dX11_lays_38 : decode cX11_lays 38 = .ok (.getfield 404, 3) := dk_180 1 148 (dk_at dksX11_lays_1 16 rfl rfl)
theorem dX11_lays_41 : decode cX11_lays 41 = .ok (.iload_n 1, 1) := dk_27 (dk_at dksX11_lays_1 19 rfl rfl)
theorem dX11_lays_42 : decode cX11_lays 42 = .ok (.invokestatic 407, 3) := dk_184 1 151 (dk_at dksX11_lays_1 20 rfl rfl)
theorem dX11_lays_45 : decode cX11_lays 45 = .ok (.putfield 404, 3) := dk_181 1 148 (dk_at dksX11_lays_2 0 rfl rfl)
theorem dX11_lays_48 : decode cX11_lays 48 = .ok (.aload_n 0, 1) := dk_42 (dk_at dksX11_lays_2 3 rfl rfl)
theorem dX11_lays_49 : decode cX11_lays 49 = .ok (.iload_n 1, 1) := dk_27 (dk_at dksX11_lays_2 4 rfl rfl)
theorem dX11_lays_50 : decode cX11_lays 50 = .ok (.iload_n 1, 1) := dk_27 (dk_at dksX11_lays_2 5 rfl rfl)
theorem dX11_lays_51 : decode cX11_lays 51 = .ok (.iconst 2, 1) := dk_5 (dk_at dksX11_lays_2 6 rfl rfl)
theorem dX11_lays_52 : decode cX11_lays 52 = .ok (.irem, 1) := dk_112 (dk_at dksX11_lays_2 7 rfl rfl)
theorem dX11_lays_53 : decode cX11_lays 53 = .ok (.invokevirtual 305, 3) := dk_182 1 49 (dk_at dksX11_lays_2 8 rfl rfl)
theorem dX11_lays_56 : decode cX11_lays 56 = .ok (.aload_n 0, 1) := dk_42 (dk_at dksX11_lays_2 11 rfl rfl)
theorem dX11_lays_57 : decode cX11_lays 57 = .ok (.iload_n 1, 1) := dk_27 (dk_at dksX11_lays_2 12 rfl rfl)
theorem dX11_lays_58 : decode cX11_lays 58 = .ok (.invokevirtual 410, 3) := dk_182 1 154 (dk_at dksX11_lays_2 13 rfl rfl)
theorem dX11_lays_61 : decode cX11_lays 61 = .ok (.aload_n 0, 1) := dk_42 (dk_at dksX11_lays_2 16 rfl rfl)
theorem dX11_lays_62 : decode cX11_lays 62 = .ok (.iload_n 1, 1) := dk_27 (dk_at dksX11_lays_2 17 rfl rfl)
theorem dX11_lays_63 : decode cX11_lays 63 = .ok (.iload_n 2, 1) := dk_28 (dk_at dksX11_lays_2 18 rfl rfl)
theorem dX11_lays_64 : decode cX11_lays 64 = .ok (.invokevirtual 414, 3) := dk_182 1 158 (dk_at dksX11_lays_2 19 rfl rfl)
theorem dX11_lays_67 : decode cX11_lays 67 = .ok (.aload_n 0, 1) := dk_42 (dk_at dksX11_lays_2 22 rfl rfl)
theorem dX11_lays_68 : decode cX11_lays 68 = .ok (.getfield 65, 3) := dk_180 0 65 (dk_at dksX11_lays_3 0 rfl rfl)
theorem dX11_lays_71 : decode cX11_lays 71 = .ok (.iload_n 1, 1) := dk_27 (dk_at dksX11_lays_3 3 rfl rfl)
theorem dX11_lays_72 : decode cX11_lays 72 = .ok (.aload_n 0, 1) := dk_42 (dk_at dksX11_lays_3 4 rfl rfl)
theorem dX11_lays_73 : decode cX11_lays 73 = .ok (.iload_n 1, 1) := dk_27 (dk_at dksX11_lays_3 5 rfl rfl)
theorem dX11_lays_74 : decode cX11_lays 74 = .ok (.invokevirtual 417, 3) := dk_182 1 161 (dk_at dksX11_lays_3 6 rfl rfl)
theorem dX11_lays_77 : decode cX11_lays 77 = .ok (.ifCond .eq 7, 3) := dk_153 0 7 (dk_at dksX11_lays_3 9 rfl rfl)
theorem dX11_lays_80 : decode cX11_lays 80 = .ok (.iconst 0, 1) := dk_3 (dk_at dksX11_lays_3 12 rfl rfl)
theorem dX11_lays_81 : decode cX11_lays 81 = .ok (.goto 6, 3) := dk_167 0 6 (dk_at dksX11_lays_3 13 rfl rfl)
theorem dX11_lays_84 : decode cX11_lays 84 = .ok (.sipush 1296, 3) := dk_17 5 16 (dk_at dksX11_lays_3 16 rfl rfl)
theorem dX11_lays_87 : decode cX11_lays 87 = .ok (.iastore, 1) := dk_79 (dk_at dksX11_lays_3 19 rfl rfl)
theorem dX11_lays_88 : decode cX11_lays 88 = .ok (.return_, 1) := dk_177 (dk_at dksX11_lays_3 20 rfl rfl)
def dkwX11_measures_10 : List UInt8 := [3, 96, 79, 177]
abbrev dktX11_measures_10 : List UInt8 := dkwX11_measures_10 ++ []
def dkwX11_measures_9 : List UInt8 := [180, 0, 84, 27, 4, 100, 46, 42, 180, 0, 13, 7, 46, 4, 160, 0, 10, 42, 182, 1, 139, 167, 0, 4]
abbrev dktX11_measures_9 : List UInt8 := dkwX11_measures_9 ++ dktX11_measures_10
def dkwX11_measures_8 : List UInt8 := [153, 0, 10, 42, 180, 0, 33, 8, 3, 79, 132, 6, 1, 167, 255, 176, 42, 180, 0, 84, 27, 42]
abbrev dktX11_measures_8 : List UInt8 := dkwX11_measures_8 ++ dktX11_measures_9
def dkwX11_measures_7 : List UInt8 := [167, 0, 4, 3, 96, 79, 42, 180, 0, 43, 17, 5, 16, 27, 104, 16, 36, 21, 6, 104, 96, 29, 96, 51]
abbrev dktX11_measures_7 : List UInt8 := dkwX11_measures_7 ++ dktX11_measures_8
def dkwX11_measures_6 : List UInt8 := [155, 0, 25, 42, 27, 21, 6, 182, 1, 23, 184, 1, 26, 21, 5, 184, 1, 26, 160, 0, 7, 4]
abbrev dktX11_measures_6 : List UInt8 := dkwX11_measures_6 ++ dktX11_measures_7
def dkwX11_measures_5 : List UInt8 := [54, 6, 21, 6, 16, 36, 162, 0, 79, 42, 180, 0, 33, 6, 92, 46, 42, 27, 21, 6, 182, 1, 23]
abbrev dktX11_measures_5 : List UInt8 := dkwX11_measures_5 ++ dktX11_measures_6
def dkwX11_measures_4 : List UInt8 := [156, 0, 7, 3, 167, 0, 4, 4, 79, 42, 180, 0, 33, 8, 4, 79, 42, 180, 0, 33, 6, 3, 79, 3]
abbrev dktX11_measures_4 : List UInt8 := dkwX11_measures_4 ++ dktX11_measures_5
def dkwX11_measures_3 : List UInt8 := [42, 21, 5, 5, 108, 182, 1, 136, 79, 42, 180, 0, 33, 5, 27, 79, 42, 180, 0, 33, 7, 21, 4]
abbrev dktX11_measures_3 : List UInt8 := dkwX11_measures_3 ++ dktX11_measures_4
def dkwX11_measures_2 : List UInt8 := [3, 21, 4, 156, 0, 7, 3, 167, 0, 11, 42, 21, 4, 5, 108, 182, 1, 136, 79, 42, 180, 0, 33, 4]
abbrev dktX11_measures_2 : List UInt8 := dkwX11_measures_2 ++ dktX11_measures_3
def dkwX11_measures_1 : List UInt8 := [112, 62, 42, 27, 4, 100, 29, 182, 1, 23, 54, 4, 42, 27, 29, 182, 1, 23, 54, 5, 42, 180, 0, 33]
abbrev dktX11_measures_1 : List UInt8 := dkwX11_measures_1 ++ dktX11_measures_2
def dkwX11_measures_0 : List UInt8 := [27, 154, 0, 11, 42, 180, 0, 84, 3, 3, 79, 177, 42, 180, 0, 53, 27, 4, 100, 46, 61, 28, 16, 36]
abbrev dktX11_measures_0 : List UInt8 := dkwX11_measures_0 ++ dktX11_measures_1
theorem dksX11_measures_0 : cX11_measures.data.toList.drop 0 = dktX11_measures_0 := by decide +kernel
theorem dksX11_measures_1 : cX11_measures.data.toList.drop 24 = dktX11_measures_1 := dk_seg dksX11_measures_0 24 rfl rfl
theorem dksX11_measures_2 : cX11_measures.data.toList.drop 48 = dktX11_measures_2 := dk_seg dksX11_measures_1 24 rfl rfl
theorem dksX11_measures_3 : cX11_measures.data.toList.drop 72 = dktX11_measures_3 := dk_seg dksX11_measures_2 24 rfl rfl
theorem dksX11_measures_4 : cX11_measures.data.toList.drop 95 = dktX11_measures_4 := dk_seg dksX11_measures_3 23 rfl rfl
theorem dksX11_measures_5 : cX11_measures.data.toList.drop 119 = dktX11_measures_5 := dk_seg dksX11_measures_4 24 rfl rfl
theorem dksX11_measures_6 : cX11_measures.data.toList.drop 142 = dktX11_measures_6 := dk_seg dksX11_measures_5 23 rfl rfl
theorem dksX11_measures_7 : cX11_measures.data.toList.drop 164 = dktX11_measures_7 := dk_seg dksX11_measures_6 22 rfl rfl
theorem dksX11_measures_8 : cX11_measures.data.toList.drop 188 = dktX11_measures_8 := dk_seg dksX11_measures_7 24 rfl rfl
theorem dksX11_measures_9 : cX11_measures.data.toList.drop 210 = dktX11_measures_9 := dk_seg dksX11_measures_8 22 rfl rfl
theorem dksX11_measures_10 : cX11_measures.data.toList.drop 234 = dktX11_measures_10 := dk_seg dksX11_measures_9 24 rfl rfl
theorem dX11_measures_0 : decode cX11_measures 0 = .ok (.iload_n 1, 1) := dk_27 (dk_at dksX11_measures_0 0 rfl rfl)
theorem dX11_measures_1 : decode cX11_measures 1 = .ok (.ifCond .ne 11, 3) := dk_154 0 11 (dk_at dksX11_measures_0 1 rfl rfl)
theorem dX11_measures_4 : decode cX11_measures 4 = .ok (.aload_n 0, 1) := dk_42 (dk_at dksX11_measures_0 4 rfl rfl)
theorem dX11_measures_5 : decode cX11_measures 5 = .ok (.getfield 84, 3) := dk_180 0 84 (dk_at dksX11_measures_0 5 rfl rfl)
theorem dX11_measures_8 : decode cX11_measures 8 = .ok (.iconst 0, 1) := dk_3 (dk_at dksX11_measures_0 8 rfl rfl)
theorem dX11_measures_9 : decode cX11_measures 9 = .ok (.iconst 0, 1) := dk_3 (dk_at dksX11_measures_0 9 rfl rfl)
theorem dX11_measures_10 : decode cX11_measures 10 = .ok (.iastore, 1) := dk_79 (dk_at dksX11_measures_0 10 rfl rfl)
theorem dX11_measures_11 : decode cX11_measures 11 = .ok (.return_, 1) := dk_177 (dk_at dksX11_measures_0 11 rfl rfl)
theorem dX11_measures_12 : decode cX11_measures 12 = .ok (.aload_n 0, 1) := dk_42 (dk_at dksX11_measures_0 12 rfl rfl)
theorem dX11_measures_13 : decode cX11_measures 13 = .ok (.getfield 53, 3) := dk_180 0 53 (dk_at dksX11_measures_0 13 rfl rfl)
theorem dX11_measures_16 : decode cX11_measures 16 = .ok (.iload_n 1, 1) := dk_27 (dk_at dksX11_measures_0 16 rfl rfl)
theorem dX11_measures_17 : decode cX11_measures 17 = .ok (.iconst 1, 1) := dk_4 (dk_at dksX11_measures_0 17 rfl rfl)
theorem dX11_measures_18 : decode cX11_measures 18 = .ok (.isub, 1) := dk_100 (dk_at dksX11_measures_0 18 rfl rfl)
theorem dX11_measures_19 : decode cX11_measures 19 = .ok (.iaload, 1) := dk_46 (dk_at dksX11_measures_0 19 rfl rfl)
theorem dX11_measures_20 : decode cX11_measures 20 = .ok (.istore_n 2, 1) := dk_61 (dk_at dksX11_measures_0 20 rfl rfl)
theorem dX11_measures_21 : decode cX11_measures 21 = .ok (.iload_n 2, 1) := dk_28 (dk_at dksX11_measures_0 21 rfl rfl)
theorem dX11_measures_22 : decode cX11_measures 22 = .ok (.bipush 36, 2) := dk_16 36 (dk_at dksX11_measures_0 22 rfl rfl)
theorem dX11_measures_24 : decode cX11_measures 24 = .ok (.irem, 1) := dk_112 (dk_at dksX11_measures_1 0 rfl rfl)
theorem dX11_measures_25 : decode cX11_measures 25 = .ok (.istore_n 3, 1) := dk_62 (dk_at dksX11_measures_1 1 rfl rfl)
theorem dX11_measures_26 : decode cX11_measures 26 = .ok (.aload_n 0, 1) := dk_42 (dk_at dksX11_measures_1 2 rfl rfl)
theorem dX11_measures_27 : decode cX11_measures 27 = .ok (.iload_n 1, 1) := dk_27 (dk_at dksX11_measures_1 3 rfl rfl)
theorem dX11_measures_28 : decode cX11_measures 28 = .ok (.iconst 1, 1) := dk_4 (dk_at dksX11_measures_1 4 rfl rfl)
theorem dX11_measures_29 : decode cX11_measures 29 = .ok (.isub, 1) := dk_100 (dk_at dksX11_measures_1 5 rfl rfl)
theorem dX11_measures_30 : decode cX11_measures 30 = .ok (.iload_n 3, 1) := dk_29 (dk_at dksX11_measures_1 6 rfl rfl)
theorem dX11_measures_31 : decode cX11_measures 31 = .ok (.invokevirtual 279, 3) := dk_182 1 23 (dk_at dksX11_measures_1 7 rfl rfl)
theorem dX11_measures_34 : decode cX11_measures 34 = .ok (.istore 4, 2) := dk_54 4 (dk_at dksX11_measures_1 10 rfl rfl)
theorem dX11_measures_36 : decode cX11_measures 36 = .ok (.aload_n 0, 1) := dk_42 (dk_at dksX11_measures_1 12 rfl rfl)
theorem dX11_measures_37 : decode cX11_measures 37 = .ok (.iload_n 1, 1) := dk_27 (dk_at dksX11_measures_1 13 rfl rfl)
theorem dX11_measures_38 : decode cX11_measures 38 = .ok (.iload_n 3, 1) := dk_29 (dk_at dksX11_measures_1 14 rfl rfl)
theorem dX11_measures_39 : decode cX11_measures 39 = .ok (.invokevirtual 279, 3) := dk_182 1 23 (dk_at dksX11_measures_1 15 rfl rfl)
theorem dX11_measures_42 : decode cX11_measures 42 = .ok (.istore 5, 2) := dk_54 5 (dk_at dksX11_measures_1 18 rfl rfl)
theorem dX11_measures_44 : decode cX11_measures 44 = .ok (.aload_n 0, 1) := dk_42 (dk_at dksX11_measures_1 20 rfl rfl)
theorem dX11_measures_45 : decode cX11_measures 45 = .ok (.getfield 33, 3) := dk_180 0 33 (dk_at dksX11_measures_1 21 rfl rfl)
theorem dX11_measures_48 : decode cX11_measures 48 = .ok (.iconst 0, 1) := dk_3 (dk_at dksX11_measures_2 0 rfl rfl)
theorem dX11_measures_49 : decode cX11_measures 49 = .ok (.iload 4, 2) := dk_21 4 (dk_at dksX11_measures_2 1 rfl rfl)
theorem dX11_measures_51 : decode cX11_measures 51 = .ok (.ifCond .ge 7, 3) := dk_156 0 7 (dk_at dksX11_measures_2 3 rfl rfl)
theorem dX11_measures_54 : decode cX11_measures 54 = .ok (.iconst 0, 1) := dk_3 (dk_at dksX11_measures_2 6 rfl rfl)
theorem dX11_measures_55 : decode cX11_measures 55 = .ok (.goto 11, 3) := dk_167 0 11 (dk_at dksX11_measures_2 7 rfl rfl)
theorem dX11_measures_58 : decode cX11_measures 58 = .ok (.aload_n 0, 1) := dk_42 (dk_at dksX11_measures_2 10 rfl rfl)
theorem dX11_measures_59 : decode cX11_measures 59 = .ok (.iload 4, 2) := dk_21 4 (dk_at dksX11_measures_2 11 rfl rfl)
theorem dX11_measures_61 : decode cX11_measures 61 = .ok (.iconst 2, 1) := dk_5 (dk_at dksX11_measures_2 13 rfl rfl)
theorem dX11_measures_62 : decode cX11_measures 62 = .ok (.idiv, 1) := dk_108 (dk_at dksX11_measures_2 14 rfl rfl)
theorem dX11_measures_63 : decode cX11_measures 63 = .ok (.invokevirtual 392, 3) := dk_182 1 136 (dk_at dksX11_measures_2 15 rfl rfl)
theorem dX11_measures_66 : decode cX11_measures 66 = .ok (.iastore, 1) := dk_79 (dk_at dksX11_measures_2 18 rfl rfl)
theorem dX11_measures_67 : decode cX11_measures 67 = .ok (.aload_n 0, 1) := dk_42 (dk_at dksX11_measures_2 19 rfl rfl)
theorem dX11_measures_68 : decode cX11_measures 68 = .ok (.getfield 33, 3) := dk_180 0 33 (dk_at dksX11_measures_2 20 rfl rfl)
theorem dX11_measures_71 : decode cX11_measures 71 = .ok (.iconst 1, 1) := dk_4 (dk_at dksX11_measures_2 23 rfl rfl)
theorem dX11_measures_72 : decode cX11_measures 72 = .ok (.aload_n 0, 1) := dk_42 (dk_at dksX11_measures_3 0 rfl rfl)
theorem dX11_measures_73 : decode cX11_measures 73 = .ok (.iload 5, 2) := dk_21 5 (dk_at dksX11_measures_3 1 rfl rfl)
theorem dX11_measures_75 : decode cX11_measures 75 = .ok (.iconst 2, 1) := dk_5 (dk_at dksX11_measures_3 3 rfl rfl)
theorem dX11_measures_76 : decode cX11_measures 76 = .ok (.idiv, 1) := dk_108 (dk_at dksX11_measures_3 4 rfl rfl)
theorem dX11_measures_77 : decode cX11_measures 77 = .ok (.invokevirtual 392, 3) := dk_182 1 136 (dk_at dksX11_measures_3 5 rfl rfl)
theorem dX11_measures_80 : decode cX11_measures 80 = .ok (.iastore, 1) := dk_79 (dk_at dksX11_measures_3 8 rfl rfl)
theorem dX11_measures_81 : decode cX11_measures 81 = .ok (.aload_n 0, 1) := dk_42 (dk_at dksX11_measures_3 9 rfl rfl)
theorem dX11_measures_82 : decode cX11_measures 82 = .ok (.getfield 33, 3) := dk_180 0 33 (dk_at dksX11_measures_3 10 rfl rfl)
theorem dX11_measures_85 : decode cX11_measures 85 = .ok (.iconst 2, 1) := dk_5 (dk_at dksX11_measures_3 13 rfl rfl)
theorem dX11_measures_86 : decode cX11_measures 86 = .ok (.iload_n 1, 1) := dk_27 (dk_at dksX11_measures_3 14 rfl rfl)
theorem dX11_measures_87 : decode cX11_measures 87 = .ok (.iastore, 1) := dk_79 (dk_at dksX11_measures_3 15 rfl rfl)
theorem dX11_measures_88 : decode cX11_measures 88 = .ok (.aload_n 0, 1) := dk_42 (dk_at dksX11_measures_3 16 rfl rfl)
theorem dX11_measures_89 : decode cX11_measures 89 = .ok (.getfield 33, 3) := dk_180 0 33 (dk_at dksX11_measures_3 17 rfl rfl)
theorem dX11_measures_92 : decode cX11_measures 92 = .ok (.iconst 4, 1) := dk_7 (dk_at dksX11_measures_3 20 rfl rfl)
theorem dX11_measures_93 : decode cX11_measures 93 = .ok (.iload 4, 2) := dk_21 4 (dk_at dksX11_measures_3 21 rfl rfl)
theorem dX11_measures_95 : decode cX11_measures 95 = .ok (.ifCond .ge 7, 3) := dk_156 0 7 (dk_at dksX11_measures_4 0 rfl rfl)
theorem dX11_measures_98 : decode cX11_measures 98 = .ok (.iconst 0, 1) := dk_3 (dk_at dksX11_measures_4 3 rfl rfl)
theorem dX11_measures_99 : decode cX11_measures 99 = .ok (.goto 4, 3) := dk_167 0 4 (dk_at dksX11_measures_4 4 rfl rfl)
theorem dX11_measures_102 : decode cX11_measures 102 = .ok (.iconst 1, 1) := dk_4 (dk_at dksX11_measures_4 7 rfl rfl)
theorem dX11_measures_103 : decode cX11_measures 103 = .ok (.iastore, 1) := dk_79 (dk_at dksX11_measures_4 8 rfl rfl)
theorem dX11_measures_104 : decode cX11_measures 104 = .ok (.aload_n 0, 1) := dk_42 (dk_at dksX11_measures_4 9 rfl rfl)
theorem dX11_measures_105 : decode cX11_measures 105 = .ok (.getfield 33, 3) := dk_180 0 33 (dk_at dksX11_measures_4 10 rfl rfl)
theorem dX11_measures_108 : decode cX11_measures 108 = .ok (.iconst 5, 1) := dk_8 (dk_at dksX11_measures_4 13 rfl rfl)
theorem dX11_measures_109 : decode cX11_measures 109 = .ok (.iconst 1, 1) := dk_4 (dk_at dksX11_measures_4 14 rfl rfl)
theorem dX11_measures_110 : decode cX11_measures 110 = .ok (.iastore, 1) := dk_79 (dk_at dksX11_measures_4 15 rfl rfl)
theorem dX11_measures_111 : decode cX11_measures 111 = .ok (.aload_n 0, 1) := dk_42 (dk_at dksX11_measures_4 16 rfl rfl)
theorem dX11_measures_112 : decode cX11_measures 112 = .ok (.getfield 33, 3) := dk_180 0 33 (dk_at dksX11_measures_4 17 rfl rfl)
theorem dX11_measures_115 : decode cX11_measures 115 = .ok (.iconst 3, 1) := dk_6 (dk_at dksX11_measures_4 20 rfl rfl)
theorem dX11_measures_116 : decode cX11_measures 116 = .ok (.iconst 0, 1) := dk_3 (dk_at dksX11_measures_4 21 rfl rfl)
theorem dX11_measures_117 : decode cX11_measures 117 = .ok (.iastore, 1) := dk_79 (dk_at dksX11_measures_4 22 rfl rfl)
theorem dX11_measures_118 : decode cX11_measures 118 = .ok (.iconst 0, 1) := dk_3 (dk_at dksX11_measures_4 23 rfl rfl)
theorem dX11_measures_119 : decode cX11_measures 119 = .ok (.istore 6, 2) := dk_54 6 (dk_at dksX11_measures_5 0 rfl rfl)
theorem dX11_measures_121 : decode cX11_measures 121 = .ok (.iload 6, 2) := dk_21 6 (dk_at dksX11_measures_5 2 rfl rfl)
theorem dX11_measures_123 : decode cX11_measures 123 = .ok (.bipush 36, 2) := dk_16 36 (dk_at dksX11_measures_5 4 rfl rfl)
theorem dX11_measures_125 : decode cX11_measures 125 = .ok (.if_icmp .ge 79, 3) := dk_162 0 79 (dk_at dksX11_measures_5 6 rfl rfl)
theorem dX11_measures_128 : decode cX11_measures 128 = .ok (.aload_n 0, 1) := dk_42 (dk_at dksX11_measures_5 9 rfl rfl)
theorem dX11_measures_129 : decode cX11_measures 129 = .ok (.getfield 33, 3) := dk_180 0 33 (dk_at dksX11_measures_5 10 rfl rfl)
theorem dX11_measures_132 : decode cX11_measures 132 = .ok (.iconst 3, 1) := dk_6 (dk_at dksX11_measures_5 13 rfl rfl)
theorem dX11_measures_133 : decode cX11_measures 133 = .ok (.dup2, 1) := dk_92 (dk_at dksX11_measures_5 14 rfl rfl)
theorem dX11_measures_134 : decode cX11_measures 134 = .ok (.iaload, 1) := dk_46 (dk_at dksX11_measures_5 15 rfl rfl)
theorem dX11_measures_135 : decode cX11_measures 135 = .ok (.aload_n 0, 1) := dk_42 (dk_at dksX11_measures_5 16 rfl rfl)
theorem dX11_measures_136 : decode cX11_measures 136 = .ok (.iload_n 1, 1) := dk_27 (dk_at dksX11_measures_5 17 rfl rfl)
theorem dX11_measures_137 : decode cX11_measures 137 = .ok (.iload 6, 2) := dk_21 6 (dk_at dksX11_measures_5 18 rfl rfl)
theorem dX11_measures_139 : decode cX11_measures 139 = .ok (.invokevirtual 279, 3) := dk_182 1 23 (dk_at dksX11_measures_5 20 rfl rfl)
theorem dX11_measures_142 : decode cX11_measures 142 = .ok (.ifCond .lt 25, 3) := dk_155 0 25 (dk_at dksX11_measures_6 0 rfl rfl)
theorem dX11_measures_145 : decode cX11_measures 145 = .ok (.aload_n 0, 1) := dk_42 (dk_at dksX11_measures_6 3 rfl rfl)
theorem dX11_measures_146 : decode cX11_measures 146 = .ok (.iload_n 1, 1) := dk_27 (dk_at dksX11_measures_6 4 rfl rfl)
theorem dX11_measures_147 : decode cX11_measures 147 = .ok (.iload 6, 2) := dk_21 6 (dk_at dksX11_measures_6 5 rfl rfl)
theorem dX11_measures_149 : decode cX11_measures 149 = .ok (.invokevirtual 279, 3) := dk_182 1 23 (dk_at dksX11_measures_6 7 rfl rfl)
theorem dX11_measures_152 : decode cX11_measures 152 = .ok (.invokestatic 282, 3) := dk_184 1 26 (dk_at dksX11_measures_6 10 rfl rfl)
theorem dX11_measures_155 : decode cX11_measures 155 = .ok (.iload 5, 2) := dk_21 5 (dk_at dksX11_measures_6 13 rfl rfl)
theorem dX11_measures_157 : decode cX11_measures 157 = .ok (.invokestatic 282, 3) := dk_184 1 26 (dk_at dksX11_measures_6 15 rfl rfl)
theorem dX11_measures_160 : decode cX11_measures 160 = .ok (.if_icmp .ne 7, 3) := dk_160 0 7 (dk_at dksX11_measures_6 18 rfl rfl)
theorem dX11_measures_163 : decode cX11_measures 163 = .ok (.iconst 1, 1) := dk_4 (dk_at dksX11_measures_6 21 rfl rfl)
theorem dX11_measures_164 : decode cX11_measures 164 = .ok (.goto 4, 3) := dk_167 0 4 (dk_at dksX11_measures_7 0 rfl rfl)
theorem dX11_measures_167 : decode cX11_measures 167 = .ok (.iconst 0, 1) := dk_3 (dk_at dksX11_measures_7 3 rfl rfl)
theorem dX11_measures_168 : decode cX11_measures 168 = .ok (.iadd, 1) := dk_96 (dk_at dksX11_measures_7 4 rfl rfl)
theorem dX11_measures_169 : decode cX11_measures 169 = .ok (.iastore, 1) := dk_79 (dk_at dksX11_measures_7 5 rfl rfl)
theorem dX11_measures_170 : decode cX11_measures 170 = .ok (.aload_n 0, 1) := dk_42 (dk_at dksX11_measures_7 6 rfl rfl)
theorem dX11_measures_171 : decode cX11_measures 171 = .ok (.getfield 43, 3) := dk_180 0 43 (dk_at dksX11_measures_7 7 rfl rfl)
theorem dX11_measures_174 : decode cX11_measures 174 = .ok (.sipush 1296, 3) := dk_17 5 16 (dk_at dksX11_measures_7 10 rfl rfl)
theorem dX11_measures_177 : decode cX11_measures 177 = .ok (.iload_n 1, 1) := dk_27 (dk_at dksX11_measures_7 13 rfl rfl)
theorem dX11_measures_178 : decode cX11_measures 178 = .ok (.imul, 1) := dk_104 (dk_at dksX11_measures_7 14 rfl rfl)
theorem dX11_measures_179 : decode cX11_measures 179 = .ok (.bipush 36, 2) := dk_16 36 (dk_at dksX11_measures_7 15 rfl rfl)
theorem dX11_measures_181 : decode cX11_measures 181 = .ok (.iload 6, 2) := dk_21 6 (dk_at dksX11_measures_7 17 rfl rfl)
theorem dX11_measures_183 : decode cX11_measures 183 = .ok (.imul, 1) := dk_104 (dk_at dksX11_measures_7 19 rfl rfl)
theorem dX11_measures_184 : decode cX11_measures 184 = .ok (.iadd, 1) := dk_96 (dk_at dksX11_measures_7 20 rfl rfl)
theorem dX11_measures_185 : decode cX11_measures 185 = .ok (.iload_n 3, 1) := dk_29 (dk_at dksX11_measures_7 21 rfl rfl)
theorem dX11_measures_186 : decode cX11_measures 186 = .ok (.iadd, 1) := dk_96 (dk_at dksX11_measures_7 22 rfl rfl)
theorem dX11_measures_187 : decode cX11_measures 187 = .ok (.baload, 1) := dk_51 (dk_at dksX11_measures_7 23 rfl rfl)
theorem dX11_measures_188 : decode cX11_measures 188 = .ok (.ifCond .eq 10, 3) := dk_153 0 10 (dk_at dksX11_measures_8 0 rfl rfl)
theorem dX11_measures_191 : decode cX11_measures 191 = .ok (.aload_n 0, 1) := dk_42 (dk_at dksX11_measures_8 3 rfl rfl)
theorem dX11_measures_192 : decode cX11_measures 192 = .ok (.getfield 33, 3) := dk_180 0 33 (dk_at dksX11_measures_8 4 rfl rfl)
theorem dX11_measures_195 : decode cX11_measures 195 = .ok (.iconst 5, 1) := dk_8 (dk_at dksX11_measures_8 7 rfl rfl)
theorem dX11_measures_196 : decode cX11_measures 196 = .ok (.iconst 0, 1) := dk_3 (dk_at dksX11_measures_8 8 rfl rfl)
theorem dX11_measures_197 : decode cX11_measures 197 = .ok (.iastore, 1) := dk_79 (dk_at dksX11_measures_8 9 rfl rfl)
theorem dX11_measures_198 : decode cX11_measures 198 = .ok (.iinc 6 1, 3) := dk_132 6 1 (dk_at dksX11_measures_8 10 rfl rfl)
theorem dX11_measures_201 : decode cX11_measures 201 = .ok (.goto (-80), 3) := dk_167 255 176 (dk_at dksX11_measures_8 13 rfl rfl)
theorem dX11_measures_204 : decode cX11_measures 204 = .ok (.aload_n 0, 1) := dk_42 (dk_at dksX11_measures_8 16 rfl rfl)
theorem dX11_measures_205 : decode cX11_measures 205 = .ok (.getfield 84, 3) := dk_180 0 84 (dk_at dksX11_measures_8 17 rfl rfl)
theorem dX11_measures_208 : decode cX11_measures 208 = .ok (.iload_n 1, 1) := dk_27 (dk_at dksX11_measures_8 20 rfl rfl)
theorem dX11_measures_209 : decode cX11_measures 209 = .ok (.aload_n 0, 1) := dk_42 (dk_at dksX11_measures_8 21 rfl rfl)
theorem dX11_measures_210 : decode cX11_measures 210 = .ok (.getfield 84, 3) := dk_180 0 84 (dk_at dksX11_measures_9 0 rfl rfl)
theorem dX11_measures_213 : decode cX11_measures 213 = .ok (.iload_n 1, 1) := dk_27 (dk_at dksX11_measures_9 3 rfl rfl)
theorem dX11_measures_214 : decode cX11_measures 214 = .ok (.iconst 1, 1) := dk_4 (dk_at dksX11_measures_9 4 rfl rfl)
theorem dX11_measures_215 : decode cX11_measures 215 = .ok (.isub, 1) := dk_100 (dk_at dksX11_measures_9 5 rfl rfl)
theorem dX11_measures_216 : decode cX11_measures 216 = .ok (.iaload, 1) := dk_46 (dk_at dksX11_measures_9 6 rfl rfl)
theorem dX11_measures_217 : decode cX11_measures 217 = .ok (.aload_n 0, 1) := dk_42 (dk_at dksX11_measures_9 7 rfl rfl)
theorem dX11_measures_218 : decode cX11_measures 218 = .ok (.getfield 13, 3) := dk_180 0 13 (dk_at dksX11_measures_9 8 rfl rfl)
theorem dX11_measures_221 : decode cX11_measures 221 = .ok (.iconst 4, 1) := dk_7 (dk_at dksX11_measures_9 11 rfl rfl)
theorem dX11_measures_222 : decode cX11_measures 222 = .ok (.iaload, 1) := dk_46 (dk_at dksX11_measures_9 12 rfl rfl)
theorem dX11_measures_223 : decode cX11_measures 223 = .ok (.iconst 1, 1) := dk_4 (dk_at dksX11_measures_9 13 rfl rfl)
theorem dX11_measures_224 : decode cX11_measures 224 = .ok (.if_icmp .ne 10, 3) := dk_160 0 10 (dk_at dksX11_measures_9 14 rfl rfl)
theorem dX11_measures_227 : decode cX11_measures 227 = .ok (.aload_n 0, 1) := dk_42 (dk_at dksX11_measures_9 17 rfl rfl)
theorem dX11_measures_228 : decode cX11_measures 228 = .ok (.invokevirtual 395, 3) := dk_182 1 139 (dk_at dksX11_measures_9 18 rfl rfl)
theorem dX11_measures_231 : decode cX11_measures 231 = .ok (.goto 4, 3) := dk_167 0 4 (dk_at dksX11_measures_9 21 rfl rfl)
theorem dX11_measures_234 : decode cX11_measures 234 = .ok (.iconst 0, 1) := dk_3 (dk_at dksX11_measures_10 0 rfl rfl)
theorem dX11_measures_235 : decode cX11_measures 235 = .ok (.iadd, 1) := dk_96 (dk_at dksX11_measures_10 1 rfl rfl)
theorem dX11_measures_236 : decode cX11_measures 236 = .ok (.iastore, 1) := dk_79 (dk_at dksX11_measures_10 2 rfl rfl)
theorem dX11_measures_237 : decode cX11_measures 237 = .ok (.return_, 1) := dk_177 (dk_at dksX11_measures_10 3 rfl rfl)
def dkwX11_valueOf_0 : List UInt8 := [42, 180, 0, 13, 16, 49, 16, 14, 27, 104, 96, 46, 172]
abbrev dktX11_valueOf_0 : List UInt8 := dkwX11_valueOf_0 ++ []
theorem dksX11_valueOf_0 : cX11_valueOf.data.toList.drop 0 = dktX11_valueOf_0 := by decide +kernel
theorem dX11_valueOf_0 : decode cX11_valueOf 0 = .ok (.aload_n 0, 1) := dk_42 (dk_at dksX11_valueOf_0 0 rfl rfl)
theorem dX11_valueOf_1 : decode cX11_valueOf 1 = .ok (.getfield 13, 3) := dk_180 0 13 (dk_at dksX11_valueOf_0 1 rfl rfl)
theorem dX11_valueOf_4 : decode cX11_valueOf 4 = .ok (.bipush 49, 2) := dk_16 49 (dk_at dksX11_valueOf_0 4 rfl rfl)
theorem dX11_valueOf_6 : decode cX11_valueOf 6 = .ok (.bipush 14, 2) := dk_16 14 (dk_at dksX11_valueOf_0 6 rfl rfl)
theorem dX11_valueOf_8 : decode cX11_valueOf 8 = .ok (.iload_n 1, 1) := dk_27 (dk_at dksX11_valueOf_0 8 rfl rfl)
theorem dX11_valueOf_9 : decode cX11_valueOf 9 = .ok (.imul, 1) := dk_104 (dk_at dksX11_valueOf_0 9 rfl rfl)
theorem dX11_valueOf_10 : decode cX11_valueOf 10 = .ok (.iadd, 1) := dk_96 (dk_at dksX11_valueOf_0 10 rfl rfl)
theorem dX11_valueOf_11 : decode cX11_valueOf 11 = .ok (.iaload, 1) := dk_46 (dk_at dksX11_valueOf_0 11 rfl rfl)
theorem dX11_valueOf_12 : decode cX11_valueOf 12 = .ok (.ireturn, 1) := dk_172 (dk_at dksX11_valueOf_0 12 rfl rfl)
def dkwX11_measured_3 : List UInt8 := [132, 2, 1, 167, 255, 187, 27, 172]
abbrev dktX11_measured_3 : List UInt8 := dkwX11_measured_3 ++ []
def dkwX11_measured_2 : List UInt8 := [156, 0, 7, 4, 167, 0, 16, 42, 180, 0, 33, 42, 180, 0, 13, 29, 4, 96, 46, 46, 104, 96, 60]
abbrev dktX11_measured_2 : List UInt8 := dkwX11_measured_2 ++ dktX11_measured_3
def dkwX11_measured_1 : List UInt8 := [42, 29, 182, 0, 239, 153, 0, 41, 27, 42, 180, 0, 13, 29, 46, 42, 180, 0, 13, 29, 4, 96, 46]
abbrev dktX11_measured_1 : List UInt8 := dkwX11_measured_1 ++ dktX11_measured_2
def dkwX11_measured_0 : List UInt8 := [3, 60, 3, 61, 28, 42, 180, 0, 13, 17, 1, 187, 46, 162, 0, 63, 17, 1, 188, 7, 28, 104, 96, 62]
abbrev dktX11_measured_0 : List UInt8 := dkwX11_measured_0 ++ dktX11_measured_1
theorem dksX11_measured_0 : cX11_measured.data.toList.drop 0 = dktX11_measured_0 := by decide +kernel
theorem dksX11_measured_1 : cX11_measured.data.toList.drop 24 = dktX11_measured_1 := dk_seg dksX11_measured_0 24 rfl rfl
theorem dksX11_measured_2 : cX11_measured.data.toList.drop 47 = dktX11_measured_2 := dk_seg dksX11_measured_1 23 rfl rfl
theorem dksX11_measured_3 : cX11_measured.data.toList.drop 70 = dktX11_measured_3 := dk_seg dksX11_measured_2 23 rfl rfl
theorem dX11_measured_0 : decode cX11_measured 0 = .ok (.iconst 0, 1) := dk_3 (dk_at dksX11_measured_0 0 rfl rfl)
theorem dX11_measured_1 : decode cX11_measured 1 = .ok (.istore_n 1, 1) := dk_60 (dk_at dksX11_measured_0 1 rfl rfl)
theorem dX11_measured_2 : decode cX11_measured 2 = .ok (.iconst 0, 1) := dk_3 (dk_at dksX11_measured_0 2 rfl rfl)
theorem dX11_measured_3 : decode cX11_measured 3 = .ok (.istore_n 2, 1) := dk_61 (dk_at dksX11_measured_0 3 rfl rfl)
theorem dX11_measured_4 : decode cX11_measured 4 = .ok (.iload_n 2, 1) := dk_28 (dk_at dksX11_measured_0 4 rfl rfl)
theorem dX11_measured_5 : decode cX11_measured 5 = .ok (.aload_n 0, 1) := dk_42 (dk_at dksX11_measured_0 5 rfl rfl)
theorem dX11_measured_6 : decode cX11_measured 6 = .ok (.getfield 13, 3) := dk_180 0 13 (dk_at dksX11_measured_0 6 rfl rfl)
theorem dX11_measured_9 : decode cX11_measured 9 = .ok (.sipush 443, 3) := dk_17 1 187 (dk_at dksX11_measured_0 9 rfl rfl)
theorem dX11_measured_12 : decode cX11_measured 12 = .ok (.iaload, 1) := dk_46 (dk_at dksX11_measured_0 12 rfl rfl)
theorem dX11_measured_13 : decode cX11_measured 13 = .ok (.if_icmp .ge 63, 3) := dk_162 0 63 (dk_at dksX11_measured_0 13 rfl rfl)
theorem dX11_measured_16 : decode cX11_measured 16 = .ok (.sipush 444, 3) := dk_17 1 188 (dk_at dksX11_measured_0 16 rfl rfl)
theorem dX11_measured_19 : decode cX11_measured 19 = .ok (.iconst 4, 1) := dk_7 (dk_at dksX11_measured_0 19 rfl rfl)
theorem dX11_measured_20 : decode cX11_measured 20 = .ok (.iload_n 2, 1) := dk_28 (dk_at dksX11_measured_0 20 rfl rfl)
theorem dX11_measured_21 : decode cX11_measured 21 = .ok (.imul, 1) := dk_104 (dk_at dksX11_measured_0 21 rfl rfl)
theorem dX11_measured_22 : decode cX11_measured 22 = .ok (.iadd, 1) := dk_96 (dk_at dksX11_measured_0 22 rfl rfl)
theorem dX11_measured_23 : decode cX11_measured 23 = .ok (.istore_n 3, 1) := dk_62 (dk_at dksX11_measured_0 23 rfl rfl)
theorem dX11_measured_24 : decode cX11_measured 24 = .ok (.aload_n 0, 1) := dk_42 (dk_at dksX11_measured_1 0 rfl rfl)
theorem dX11_measured_25 : decode cX11_measured 25 = .ok (.iload_n 3, 1) := dk_29 (dk_at dksX11_measured_1 1 rfl rfl)
theorem dX11_measured_26 : decode cX11_measured 26 = .ok (.invokevirtual 239, 3) := dk_182 0 239 (dk_at dksX11_measured_1 2 rfl rfl)
theorem dX11_measured_29 : decode cX11_measured 29 = .ok (.ifCond .eq 41, 3) := dk_153 0 41 (dk_at dksX11_measured_1 5 rfl rfl)
theorem dX11_measured_32 : decode cX11_measured 32 = .ok (.iload_n 1, 1) := dk_27 (dk_at dksX11_measured_1 8 rfl rfl)
theorem dX11_measured_33 : decode cX11_measured 33 = .ok (.aload_n 0, 1) := dk_42 (dk_at dksX11_measured_1 9 rfl rfl)
theorem dX11_measured_34 : decode cX11_measured 34 = .ok (.getfield 13, 3) := dk_180 0 13 (dk_at dksX11_measured_1 10 rfl rfl)
theorem dX11_measured_37 : decode cX11_measured 37 = .ok (.iload_n 3, 1) := dk_29 (dk_at dksX11_measured_1 13 rfl rfl)
theorem dX11_measured_38 : decode cX11_measured 38 = .ok (.iaload, 1) := dk_46 (dk_at dksX11_measured_1 14 rfl rfl)
theorem dX11_measured_39 : decode cX11_measured 39 = .ok (.aload_n 0, 1) := dk_42 (dk_at dksX11_measured_1 15 rfl rfl)
theorem dX11_measured_40 : decode cX11_measured 40 = .ok (.getfield 13, 3) := dk_180 0 13 (dk_at dksX11_measured_1 16 rfl rfl)
theorem dX11_measured_43 : decode cX11_measured 43 = .ok (.iload_n 3, 1) := dk_29 (dk_at dksX11_measured_1 19 rfl rfl)
theorem dX11_measured_44 : decode cX11_measured 44 = .ok (.iconst 1, 1) := dk_4 (dk_at dksX11_measured_1 20 rfl rfl)
theorem dX11_measured_45 : decode cX11_measured 45 = .ok (.iadd, 1) := dk_96 (dk_at dksX11_measured_1 21 rfl rfl)
theorem dX11_measured_46 : decode cX11_measured 46 = .ok (.iaload, 1) := dk_46 (dk_at dksX11_measured_1 22 rfl rfl)
theorem dX11_measured_47 : decode cX11_measured 47 = .ok (.ifCond .ge 7, 3) := dk_156 0 7 (dk_at dksX11_measured_2 0 rfl rfl)
theorem dX11_measured_50 : decode cX11_measured 50 = .ok (.iconst 1, 1) := dk_4 (dk_at dksX11_measured_2 3 rfl rfl)
theorem dX11_measured_51 : decode cX11_measured 51 = .ok (.goto 16, 3) := dk_167 0 16 (dk_at dksX11_measured_2 4 rfl rfl)
theorem dX11_measured_54 : decode cX11_measured 54 = .ok (.aload_n 0, 1) := dk_42 (dk_at dksX11_measured_2 7 rfl rfl)
theorem dX11_measured_55 : decode cX11_measured 55 = .ok (.getfield 33, 3) := dk_180 0 33 (dk_at dksX11_measured_2 8 rfl rfl)
theorem dX11_measured_58 : decode cX11_measured 58 = .ok (.aload_n 0, 1) := dk_42 (dk_at dksX11_measured_2 11 rfl rfl)
theorem dX11_measured_59 : decode cX11_measured 59 = .ok (.getfield 13, 3) := dk_180 0 13 (dk_at dksX11_measured_2 12 rfl rfl)
theorem dX11_measured_62 : decode cX11_measured 62 = .ok (.iload_n 3, 1) := dk_29 (dk_at dksX11_measured_2 15 rfl rfl)
theorem dX11_measured_63 : decode cX11_measured 63 = .ok (.iconst 1, 1) := dk_4 (dk_at dksX11_measured_2 16 rfl rfl)
theorem dX11_measured_64 : decode cX11_measured 64 = .ok (.iadd, 1) := dk_96 (dk_at dksX11_measured_2 17 rfl rfl)
theorem dX11_measured_65 : decode cX11_measured 65 = .ok (.iaload, 1) := dk_46 (dk_at dksX11_measured_2 18 rfl rfl)
theorem dX11_measured_66 : decode cX11_measured 66 = .ok (.iaload, 1) := dk_46 (dk_at dksX11_measured_2 19 rfl rfl)
theorem dX11_measured_67 : decode cX11_measured 67 = .ok (.imul, 1) := dk_104 (dk_at dksX11_measured_2 20 rfl rfl)
theorem dX11_measured_68 : decode cX11_measured 68 = .ok (.iadd, 1) := dk_96 (dk_at dksX11_measured_2 21 rfl rfl)
theorem dX11_measured_69 : decode cX11_measured 69 = .ok (.istore_n 1, 1) := dk_60 (dk_at dksX11_measured_2 22 rfl rfl)
theorem dX11_measured_70 : decode cX11_measured 70 = .ok (.iinc 2 1, 3) := dk_132 2 1 (dk_at dksX11_measured_3 0 rfl rfl)
theorem dX11_measured_73 : decode cX11_measured 73 = .ok (.goto (-69), 3) := dk_167 255 187 (dk_at dksX11_measured_3 3 rfl rfl)
theorem dX11_measured_76 : decode cX11_measured 76 = .ok (.iload_n 1, 1) := dk_27 (dk_at dksX11_measured_3 6 rfl rfl)
theorem dX11_measured_77 : decode cX11_measured 77 = .ok (.ireturn, 1) := dk_172 (dk_at dksX11_measured_3 7 rfl rfl)
def dkwX11_holdsLine_12 : List UInt8 := [3, 172]
abbrev dktX11_holdsLine_12 : List UInt8 := dkwX11_holdsLine_12 ++ []
def dkwX11_holdsLine_11 : List UInt8 := [132, 3, 1, 167, 255, 12, 28, 153, 0, 13, 42, 180, 0, 36, 3, 46, 4, 160, 0, 7, 4, 167, 0, 4]
abbrev dktX11_holdsLine_11 : List UInt8 := dkwX11_holdsLine_11 ++ dktX11_holdsLine_12
def dkwX11_holdsLine_10 : List UInt8 := [160, 0, 11, 21, 5, 21, 6, 96, 167, 0, 13, 21, 7, 153, 0, 7, 4, 167, 0, 4, 3, 79]
abbrev dktX11_holdsLine_10 : List UInt8 := dkwX11_holdsLine_10 ++ dktX11_holdsLine_11
def dkwX11_holdsLine_9 : List UInt8 := [96, 158, 0, 7, 4, 167, 0, 4, 3, 54, 7, 42, 180, 0, 36, 28, 4, 100, 21, 4, 16, 7]
abbrev dktX11_holdsLine_9 : List UInt8 := dkwX11_holdsLine_9 ++ dktX11_holdsLine_10
def dkwX11_holdsLine_8 : List UInt8 := [160, 0, 20, 21, 5, 21, 6, 96, 5, 160, 0, 7, 4, 167, 0, 20, 3, 167, 0, 16, 21, 5, 21, 6]
abbrev dktX11_holdsLine_8 : List UInt8 := dkwX11_holdsLine_8 ++ dktX11_holdsLine_9
def dkwX11_holdsLine_7 : List UInt8 := [160, 0, 18, 21, 5, 21, 6, 164, 0, 7, 4, 167, 0, 44, 3, 167, 0, 40, 21, 4, 16, 11]
abbrev dktX11_holdsLine_7 : List UInt8 := dkwX11_holdsLine_7 ++ dktX11_holdsLine_8
def dkwX11_holdsLine_6 : List UInt8 := [160, 0, 18, 21, 5, 21, 6, 162, 0, 7, 4, 167, 0, 66, 3, 167, 0, 62, 21, 4, 16, 9]
abbrev dktX11_holdsLine_6 : List UInt8 := dkwX11_holdsLine_6 ++ dktX11_holdsLine_7
def dkwX11_holdsLine_5 : List UInt8 := [42, 180, 0, 36, 28, 4, 100, 46, 54, 5, 42, 180, 0, 36, 28, 46, 54, 6, 21, 4, 16, 8]
abbrev dktX11_holdsLine_5 : List UInt8 := dkwX11_holdsLine_5 ++ dktX11_holdsLine_6
def dkwX11_holdsLine_4 : List UInt8 := [42, 180, 0, 36, 28, 4, 100, 4, 42, 180, 0, 36, 28, 4, 100, 46, 100, 79, 167, 0, 140, 132, 2, 255]
abbrev dktX11_holdsLine_4 : List UInt8 := dkwX11_holdsLine_4 ++ dktX11_holdsLine_5
def dkwX11_holdsLine_3 : List UInt8 := [167, 0, 10, 42, 180, 0, 33, 21, 4, 46, 79, 132, 2, 1, 167, 0, 168, 21, 4, 16, 10, 160, 0, 24]
abbrev dktX11_holdsLine_3 : List UInt8 := dkwX11_holdsLine_3 ++ dktX11_holdsLine_4
def dkwX11_holdsLine_2 : List UInt8 := [28, 21, 4, 16, 6, 160, 0, 20, 42, 180, 0, 13, 17, 1, 228, 5, 29, 104, 96, 4, 96, 46]
abbrev dktX11_holdsLine_2 : List UInt8 := dkwX11_holdsLine_2 ++ dktX11_holdsLine_3
def dkwX11_holdsLine_1 : List UInt8 := [180, 0, 13, 17, 1, 228, 5, 29, 104, 96, 46, 54, 4, 21, 4, 16, 6, 163, 0, 46, 42, 180, 0, 36]
abbrev dktX11_holdsLine_1 : List UInt8 := dkwX11_holdsLine_1 ++ dktX11_holdsLine_2
def dkwX11_holdsLine_0 : List UInt8 := [3, 61, 42, 180, 0, 13, 27, 5, 96, 46, 62, 29, 42, 180, 0, 13, 27, 6, 96, 46, 162, 0, 238, 42]
abbrev dktX11_holdsLine_0 : List UInt8 := dkwX11_holdsLine_0 ++ dktX11_holdsLine_1
theorem dksX11_holdsLine_0 : cX11_holdsLine.data.toList.drop 0 = dktX11_holdsLine_0 := by decide +kernel
theorem dksX11_holdsLine_1 : cX11_holdsLine.data.toList.drop 24 = dktX11_holdsLine_1 := dk_seg dksX11_holdsLine_0 24 rfl rfl
theorem dksX11_holdsLine_2 : cX11_holdsLine.data.toList.drop 48 = dktX11_holdsLine_2 := dk_seg dksX11_holdsLine_1 24 rfl rfl
theorem dksX11_holdsLine_3 : cX11_holdsLine.data.toList.drop 70 = dktX11_holdsLine_3 := dk_seg dksX11_holdsLine_2 22 rfl rfl
theorem dksX11_holdsLine_4 : cX11_holdsLine.data.toList.drop 94 = dktX11_holdsLine_4 := dk_seg dksX11_holdsLine_3 24 rfl rfl
theorem dksX11_holdsLine_5 : cX11_holdsLine.data.toList.drop 118 = dktX11_holdsLine_5 := dk_seg dksX11_holdsLine_4 24 rfl rfl
theorem dksX11_holdsLine_6 : cX11_holdsLine.data.toList.drop 140 = dktX11_holdsLine_6 := dk_seg dksX11_holdsLine_5 22 rfl rfl
theorem dksX11_holdsLine_7 : cX11_holdsLine.data.toList.drop 162 = dktX11_holdsLine_7 := dk_seg dksX11_holdsLine_6 22 rfl rfl
theorem dksX11_holdsLine_8 : cX11_holdsLine.data.toList.drop 184 = dktX11_holdsLine_8 := dk_seg dksX11_holdsLine_7 22 rfl rfl
theorem dksX11_holdsLine_9 : cX11_holdsLine.data.toList.drop 208 = dktX11_holdsLine_9 := dk_seg dksX11_holdsLine_8 24 rfl rfl
theorem dksX11_holdsLine_10 : cX11_holdsLine.data.toList.drop 230 = dktX11_holdsLine_10 := dk_seg dksX11_holdsLine_9 22 rfl rfl
theorem dksX11_holdsLine_11 : cX11_holdsLine.data.toList.drop 252 = dktX11_holdsLine_11 := dk_seg dksX11_holdsLine_10 22 rfl rfl
theorem dksX11_holdsLine_12 : cX11_holdsLine.data.toList.drop 276 = dktX11_holdsLine_12 := dk_seg dksX11_holdsLine_11 24 rfl rfl
theorem dX11_holdsLine_0 : decode cX11_holdsLine 0 = .ok (.iconst 0, 1) := dk_3 (dk_at dksX11_holdsLine_0 0 rfl rfl)
theorem dX11_holdsLine_1 : decode cX11_holdsLine 1 = .ok (.istore_n 2, 1) := dk_61 (dk_at dksX11_holdsLine_0 1 rfl rfl)
theorem dX11_holdsLine_2 : decode cX11_holdsLine 2 = .ok (.aload_n 0, 1) := dk_42 (dk_at dksX11_holdsLine_0 2 rfl rfl)
theorem dX11_holdsLine_3 : decode cX11_holdsLine 3 = .ok (.getfield 13, 3) := dk_180 0 13 (dk_at dksX11_holdsLine_0 3 rfl rfl)
theorem dX11_holdsLine_6 : decode cX11_holdsLine 6 = .ok (.iload_n 1, 1) := dk_27 (dk_at dksX11_holdsLine_0 6 rfl rfl)
theorem dX11_holdsLine_7 : decode cX11_holdsLine 7 = .ok (.iconst 2, 1) := dk_5 (dk_at dksX11_holdsLine_0 7 rfl rfl)
theorem dX11_holdsLine_8 : decode cX11_holdsLine 8 = .ok (.iadd, 1) := dk_96 (dk_at dksX11_holdsLine_0 8 rfl rfl)
theorem dX11_holdsLine_9 : decode cX11_holdsLine 9 = .ok (.iaload, 1) := dk_46 (dk_at dksX11_holdsLine_0 9 rfl rfl)
theorem dX11_holdsLine_10 : decode cX11_holdsLine 10 = .ok (.istore_n 3, 1) := dk_62 (dk_at dksX11_holdsLine_0 10 rfl rfl)
theorem dX11_holdsLine_11 : decode cX11_holdsLine 11 = .ok (.iload_n 3, 1) := dk_29 (dk_at dksX11_holdsLine_0 11 rfl rfl)
theorem dX11_holdsLine_12 : decode cX11_holdsLine 12 = .ok (.aload_n 0, 1) := dk_42 (dk_at dksX11_holdsLine_0 12 rfl rfl)
theorem dX11_holdsLine_13 : decode cX11_holdsLine 13 = .ok (.getfield 13, 3) := dk_180 0 13 (dk_at dksX11_holdsLine_0 13 rfl rfl)
theorem dX11_holdsLine_16 : decode cX11_holdsLine 16 = .ok (.iload_n 1, 1) := dk_27 (dk_at dksX11_holdsLine_0 16 rfl rfl)
theorem dX11_holdsLine_17 : decode cX11_holdsLine 17 = .ok (.iconst 3, 1) := dk_6 (dk_at dksX11_holdsLine_0 17 rfl rfl)
theorem dX11_holdsLine_18 : decode cX11_holdsLine 18 = .ok (.iadd, 1) := dk_96 (dk_at dksX11_holdsLine_0 18 rfl rfl)
theorem dX11_holdsLine_19 : decode cX11_holdsLine 19 = .ok (.iaload, 1) := dk_46 (dk_at dksX11_holdsLine_0 19 rfl rfl)
theorem dX11_holdsLine_20 : decode cX11_holdsLine 20 = .ok (.if_icmp .ge 238, 3) := dk_162 0 238 (dk_at dksX11_holdsLine_0 20 rfl rfl)
theorem dX11_holdsLine_23 : decode cX11_holdsLine 23 = .ok (.aload_n 0, 1) := dk_42 (dk_at dksX11_holdsLine_0 23 rfl rfl)
theorem dX11_holdsLine_24 : decode cX11_holdsLine 24 = .ok (.getfield 13, 3) := dk_180 0 13 (dk_at dksX11_holdsLine_1 0 rfl rfl)
theorem dX11_holdsLine_27 : decode cX11_holdsLine 27 = .ok (.sipush 484, 3) := dk_17 1 228 (dk_at dksX11_holdsLine_1 3 rfl rfl)
theorem dX11_holdsLine_30 : decode cX11_holdsLine 30 = .ok (.iconst 2, 1) := dk_5 (dk_at dksX11_holdsLine_1 6 rfl rfl)
theorem dX11_holdsLine_31 : decode cX11_holdsLine 31 = .ok (.iload_n 3, 1) := dk_29 (dk_at dksX11_holdsLine_1 7 rfl rfl)
theorem dX11_holdsLine_32 : decode cX11_holdsLine 32 = .ok (.imul, 1) := dk_104 (dk_at dksX11_holdsLine_1 8 rfl rfl)
theorem dX11_holdsLine_33 : decode cX11_holdsLine 33 = .ok (.iadd, 1) := dk_96 (dk_at dksX11_holdsLine_1 9 rfl rfl)
theorem dX11_holdsLine_34 : decode cX11_holdsLine 34 = .ok (.iaload, 1) := dk_46 (dk_at dksX11_holdsLine_1 10 rfl rfl)
theorem dX11_holdsLine_35 : decode cX11_holdsLine 35 = .ok (.istore 4, 2) := dk_54 4 (dk_at dksX11_holdsLine_1 11 rfl rfl)
theorem dX11_holdsLine_37 : decode cX11_holdsLine 37 = .ok (.iload 4, 2) := dk_21 4 (dk_at dksX11_holdsLine_1 13 rfl rfl)
theorem dX11_holdsLine_39 : decode cX11_holdsLine 39 = .ok (.bipush 6, 2) := dk_16 6 (dk_at dksX11_holdsLine_1 15 rfl rfl)
theorem dX11_holdsLine_41 : decode cX11_holdsLine 41 = .ok (.if_icmp .gt 46, 3) := dk_163 0 46 (dk_at dksX11_holdsLine_1 17 rfl rfl)
theorem dX11_holdsLine_44 : decode cX11_holdsLine 44 = .ok (.aload_n 0, 1) := dk_42 (dk_at dksX11_holdsLine_1 20 rfl rfl)
theorem dX11_holdsLine_45 : decode cX11_holdsLine 45 = .ok (.getfield 36, 3) := dk_180 0 36 (dk_at dksX11_holdsLine_1 21 rfl rfl)
theorem dX11_holdsLine_48 : decode cX11_holdsLine 48 = .ok (.iload_n 2, 1) := dk_28 (dk_at dksX11_holdsLine_2 0 rfl rfl)
theorem dX11_holdsLine_49 : decode cX11_holdsLine 49 = .ok (.iload 4, 2) := dk_21 4 (dk_at dksX11_holdsLine_2 1 rfl rfl)
theorem dX11_holdsLine_51 : decode cX11_holdsLine 51 = .ok (.bipush 6, 2) := dk_16 6 (dk_at dksX11_holdsLine_2 3 rfl rfl)
theorem dX11_holdsLine_53 : decode cX11_holdsLine 53 = .ok (.if_icmp .ne 20, 3) := dk_160 0 20 (dk_at dksX11_holdsLine_2 5 rfl rfl)
theorem dX11_holdsLine_56 : decode cX11_holdsLine 56 = .ok (.aload_n 0, 1) := dk_42 (dk_at dksX11_holdsLine_2 8 rfl rfl)
theorem dX11_holdsLine_57 : decode cX11_holdsLine 57 = .ok (.getfield 13, 3) := dk_180 0 13 (dk_at dksX11_holdsLine_2 9 rfl rfl)
theorem dX11_holdsLine_60 : decode cX11_holdsLine 60 = .ok (.sipush 484, 3) := dk_17 1 228 (dk_at dksX11_holdsLine_2 12 rfl rfl)
theorem dX11_holdsLine_63 : decode cX11_holdsLine 63 = .ok (.iconst 2, 1) := dk_5 (dk_at dksX11_holdsLine_2 15 rfl rfl)
theorem dX11_holdsLine_64 : decode cX11_holdsLine 64 = .ok (.iload_n 3, 1) := dk_29 (dk_at dksX11_holdsLine_2 16 rfl rfl)
theorem dX11_holdsLine_65 : decode cX11_holdsLine 65 = .ok (.imul, 1) := dk_104 (dk_at dksX11_holdsLine_2 17 rfl rfl)
theorem dX11_holdsLine_66 : decode cX11_holdsLine 66 = .ok (.iadd, 1) := dk_96 (dk_at dksX11_holdsLine_2 18 rfl rfl)
theorem dX11_holdsLine_67 : decode cX11_holdsLine 67 = .ok (.iconst 1, 1) := dk_4 (dk_at dksX11_holdsLine_2 19 rfl rfl)
theorem dX11_holdsLine_68 : decode cX11_holdsLine 68 = .ok (.iadd, 1) := dk_96 (dk_at dksX11_holdsLine_2 20 rfl rfl)
theorem dX11_holdsLine_69 : decode cX11_holdsLine 69 = .ok (.iaload, 1) := dk_46 (dk_at dksX11_holdsLine_2 21 rfl rfl)
theorem dX11_holdsLine_70 : decode cX11_holdsLine 70 = .ok (.goto 10, 3) := dk_167 0 10 (dk_at dksX11_holdsLine_3 0 rfl rfl)
theorem dX11_holdsLine_73 : decode cX11_holdsLine 73 = .ok (.aload_n 0, 1) := dk_42 (dk_at dksX11_holdsLine_3 3 rfl rfl)
theorem dX11_holdsLine_74 : decode cX11_holdsLine 74 = .ok (.getfield 33, 3) := dk_180 0 33 (dk_at dksX11_holdsLine_3 4 rfl rfl)
theorem dX11_holdsLine_77 : decode cX11_holdsLine 77 = .ok (.iload 4, 2) := dk_21 4 (dk_at dksX11_holdsLine_3 7 rfl rfl)
theorem dX11_holdsLine_79 : decode cX11_holdsLine 79 = .ok (.iaload, 1) := dk_46 (dk_at dksX11_holdsLine_3 9 rfl rfl)
theorem dX11_holdsLine_80 : decode cX11_holdsLine 80 = .ok (.iastore, 1) := dk_79 (dk_at dksX11_holdsLine_3 10 rfl rfl)
theorem dX11_holdsLine_81 : decode cX11_holdsLine 81 = .ok (.iinc 2 1, 3) := dk_132 2 1 (dk_at dksX11_holdsLine_3 11 rfl rfl)
theorem dX11_holdsLine_84 : decode cX11_holdsLine 84 = .ok (.goto 168, 3) := dk_167 0 168 (dk_at dksX11_holdsLine_3 14 rfl rfl)
theorem dX11_holdsLine_87 : decode cX11_holdsLine 87 = .ok (.iload 4, 2) := dk_21 4 (dk_at dksX11_holdsLine_3 17 rfl rfl)
theorem dX11_holdsLine_89 : decode cX11_holdsLine 89 = .ok (.bipush 10, 2) := dk_16 10 (dk_at dksX11_holdsLine_3 19 rfl rfl)
theorem dX11_holdsLine_91 : decode cX11_holdsLine 91 = .ok (.if_icmp .ne 24, 3) := dk_160 0 24 (dk_at dksX11_holdsLine_3 21 rfl rfl)
theorem dX11_holdsLine_94 : decode cX11_holdsLine 94 = .ok (.aload_n 0, 1) := dk_42 (dk_at dksX11_holdsLine_4 0 rfl rfl)
theorem dX11_holdsLine_95 : decode cX11_holdsLine 95 = .ok (.getfield 36, 3) := dk_180 0 36 (dk_at dksX11_holdsLine_4 1 rfl rfl)
theorem dX11_holdsLine_98 : decode cX11_holdsLine 98 = .ok (.iload_n 2, 1) := dk_28 (dk_at dksX11_holdsLine_4 4 rfl rfl)
theorem dX11_holdsLine_99 : decode cX11_holdsLine 99 = .ok (.iconst 1, 1) := dk_4 (dk_at dksX11_holdsLine_4 5 rfl rfl)
theorem dX11_holdsLine_100 : decode cX11_holdsLine 100 = .ok (.isub, 1) := dk_100 (dk_at dksX11_holdsLine_4 6 rfl rfl)
theorem dX11_holdsLine_101 : decode cX11_holdsLine 101 = .ok (.iconst 1, 1) := dk_4 (dk_at dksX11_holdsLine_4 7 rfl rfl)
theorem dX11_holdsLine_102 : decode cX11_holdsLine 102 = .ok (.aload_n 0, 1) := dk_42 (dk_at dksX11_holdsLine_4 8 rfl rfl)
theorem dX11_holdsLine_103 : decode cX11_holdsLine 103 = .ok (.getfield 36, 3) := dk_180 0 36 (dk_at dksX11_holdsLine_4 9 rfl rfl)
theorem dX11_holdsLine_106 : decode cX11_holdsLine 106 = .ok (.iload_n 2, 1) := dk_28 (dk_at dksX11_holdsLine_4 12 rfl rfl)
theorem dX11_holdsLine_107 : decode cX11_holdsLine 107 = .ok (.iconst 1, 1) := dk_4 (dk_at dksX11_holdsLine_4 13 rfl rfl)
theorem dX11_holdsLine_108 : decode cX11_holdsLine 108 = .ok (.isub, 1) := dk_100 (dk_at dksX11_holdsLine_4 14 rfl rfl)
theorem dX11_holdsLine_109 : decode cX11_holdsLine 109 = .ok (.iaload, 1) := dk_46 (dk_at dksX11_holdsLine_4 15 rfl rfl)
theorem dX11_holdsLine_110 : decode cX11_holdsLine 110 = .ok (.isub, 1) := dk_100 (dk_at dksX11_holdsLine_4 16 rfl rfl)
theorem dX11_holdsLine_111 : decode cX11_holdsLine 111 = .ok (.iastore, 1) := dk_79 (dk_at dksX11_holdsLine_4 17 rfl rfl)
theorem dX11_holdsLine_112 : decode cX11_holdsLine 112 = .ok (.goto 140, 3) := dk_167 0 140 (dk_at dksX11_holdsLine_4 18 rfl rfl)
theorem dX11_holdsLine_115 : decode cX11_holdsLine 115 = .ok (.iinc 2 (-1), 3) := dk_132 2 255 (dk_at dksX11_holdsLine_4 21 rfl rfl)
theorem dX11_holdsLine_118 : decode cX11_holdsLine 118 = .ok (.aload_n 0, 1) := dk_42 (dk_at dksX11_holdsLine_5 0 rfl rfl)
theorem dX11_holdsLine_119 : decode cX11_holdsLine 119 = .ok (.getfield 36, 3) := dk_180 0 36 (dk_at dksX11_holdsLine_5 1 rfl rfl)
theorem dX11_holdsLine_122 : decode cX11_holdsLine 122 = .ok (.iload_n 2, 1) := dk_28 (dk_at dksX11_holdsLine_5 4 rfl rfl)
theorem dX11_holdsLine_123 : decode cX11_holdsLine 123 = .ok (.iconst 1, 1) := dk_4 (dk_at dksX11_holdsLine_5 5 rfl rfl)
theorem dX11_holdsLine_124 : decode cX11_holdsLine 124 = .ok (.isub, 1) := dk_100 (dk_at dksX11_holdsLine_5 6 rfl rfl)
theorem dX11_holdsLine_125 : decode cX11_holdsLine 125 = .ok (.iaload, 1) := dk_46 (dk_at dksX11_holdsLine_5 7 rfl rfl)
theorem dX11_holdsLine_126 : decode cX11_holdsLine 126 = .ok (.istore 5, 2) := dk_54 5 (dk_at dksX11_holdsLine_5 8 rfl rfl)
theorem dX11_holdsLine_128 : decode cX11_holdsLine 128 = .ok (.aload_n 0, 1) := dk_42 (dk_at dksX11_holdsLine_5 10 rfl rfl)
theorem dX11_holdsLine_129 : decode cX11_holdsLine 129 = .ok (.getfield 36, 3) := dk_180 0 36 (dk_at dksX11_holdsLine_5 11 rfl rfl)
theorem dX11_holdsLine_132 : decode cX11_holdsLine 132 = .ok (.iload_n 2, 1) := dk_28 (dk_at dksX11_holdsLine_5 14 rfl rfl)
theorem dX11_holdsLine_133 : decode cX11_holdsLine 133 = .ok (.iaload, 1) := dk_46 (dk_at dksX11_holdsLine_5 15 rfl rfl)
theorem dX11_holdsLine_134 : decode cX11_holdsLine 134 = .ok (.istore 6, 2) := dk_54 6 (dk_at dksX11_holdsLine_5 16 rfl rfl)
theorem dX11_holdsLine_136 : decode cX11_holdsLine 136 = .ok (.iload 4, 2) := dk_21 4 (dk_at dksX11_holdsLine_5 18 rfl rfl)
theorem dX11_holdsLine_138 : decode cX11_holdsLine 138 = .ok (.bipush 8, 2) := dk_16 8 (dk_at dksX11_holdsLine_5 20 rfl rfl)
theorem dX11_holdsLine_140 : decode cX11_holdsLine 140 = .ok (.if_icmp .ne 18, 3) := dk_160 0 18 (dk_at dksX11_holdsLine_6 0 rfl rfl)
theorem dX11_holdsLine_143 : decode cX11_holdsLine 143 = .ok (.iload 5, 2) := dk_21 5 (dk_at dksX11_holdsLine_6 3 rfl rfl)
theorem dX11_holdsLine_145 : decode cX11_holdsLine 145 = .ok (.iload 6, 2) := dk_21 6 (dk_at dksX11_holdsLine_6 5 rfl rfl)
theorem dX11_holdsLine_147 : decode cX11_holdsLine 147 = .ok (.if_icmp .ge 7, 3) := dk_162 0 7 (dk_at dksX11_holdsLine_6 7 rfl rfl)
theorem dX11_holdsLine_150 : decode cX11_holdsLine 150 = .ok (.iconst 1, 1) := dk_4 (dk_at dksX11_holdsLine_6 10 rfl rfl)
theorem dX11_holdsLine_151 : decode cX11_holdsLine 151 = .ok (.goto 66, 3) := dk_167 0 66 (dk_at dksX11_holdsLine_6 11 rfl rfl)
theorem dX11_holdsLine_154 : decode cX11_holdsLine 154 = .ok (.iconst 0, 1) := dk_3 (dk_at dksX11_holdsLine_6 14 rfl rfl)
theorem dX11_holdsLine_155 : decode cX11_holdsLine 155 = .ok (.goto 62, 3) := dk_167 0 62 (dk_at dksX11_holdsLine_6 15 rfl rfl)
theorem dX11_holdsLine_158 : decode cX11_holdsLine 158 = .ok (.iload 4, 2) := dk_21 4 (dk_at dksX11_holdsLine_6 18 rfl rfl)
theorem dX11_holdsLine_160 : decode cX11_holdsLine 160 = .ok (.bipush 9, 2) := dk_16 9 (dk_at dksX11_holdsLine_6 20 rfl rfl)
theorem dX11_holdsLine_162 : decode cX11_holdsLine 162 = .ok (.if_icmp .ne 18, 3) := dk_160 0 18 (dk_at dksX11_holdsLine_7 0 rfl rfl)
theorem dX11_holdsLine_165 : decode cX11_holdsLine 165 = .ok (.iload 5, 2) := dk_21 5 (dk_at dksX11_holdsLine_7 3 rfl rfl)
theorem dX11_holdsLine_167 : decode cX11_holdsLine 167 = .ok (.iload 6, 2) := dk_21 6 (dk_at dksX11_holdsLine_7 5 rfl rfl)
theorem dX11_holdsLine_169 : decode cX11_holdsLine 169 = .ok (.if_icmp .le 7, 3) := dk_164 0 7 (dk_at dksX11_holdsLine_7 7 rfl rfl)
theorem dX11_holdsLine_172 : decode cX11_holdsLine 172 = .ok (.iconst 1, 1) := dk_4 (dk_at dksX11_holdsLine_7 10 rfl rfl)
theorem dX11_holdsLine_173 : decode cX11_holdsLine 173 = .ok (.goto 44, 3) := dk_167 0 44 (dk_at dksX11_holdsLine_7 11 rfl rfl)
theorem dX11_holdsLine_176 : decode cX11_holdsLine 176 = .ok (.iconst 0, 1) := dk_3 (dk_at dksX11_holdsLine_7 14 rfl rfl)
theorem dX11_holdsLine_177 : decode cX11_holdsLine 177 = .ok (.goto 40, 3) := dk_167 0 40 (dk_at dksX11_holdsLine_7 15 rfl rfl)
theorem dX11_holdsLine_180 : decode cX11_holdsLine 180 = .ok (.iload 4, 2) := dk_21 4 (dk_at dksX11_holdsLine_7 18 rfl rfl)
theorem dX11_holdsLine_182 : decode cX11_holdsLine 182 = .ok (.bipush 11, 2) := dk_16 11 (dk_at dksX11_holdsLine_7 20 rfl rfl)
theorem dX11_holdsLine_184 : decode cX11_holdsLine 184 = .ok (.if_icmp .ne 20, 3) := dk_160 0 20 (dk_at dksX11_holdsLine_8 0 rfl rfl)
theorem dX11_holdsLine_187 : decode cX11_holdsLine 187 = .ok (.iload 5, 2) := dk_21 5 (dk_at dksX11_holdsLine_8 3 rfl rfl)
theorem dX11_holdsLine_189 : decode cX11_holdsLine 189 = .ok (.iload 6, 2) := dk_21 6 (dk_at dksX11_holdsLine_8 5 rfl rfl)
theorem dX11_holdsLine_191 : decode cX11_holdsLine 191 = .ok (.iadd, 1) := dk_96 (dk_at dksX11_holdsLine_8 7 rfl rfl)
theorem dX11_holdsLine_192 : decode cX11_holdsLine 192 = .ok (.iconst 2, 1) := dk_5 (dk_at dksX11_holdsLine_8 8 rfl rfl)
theorem dX11_holdsLine_193 : decode cX11_holdsLine 193 = .ok (.if_icmp .ne 7, 3) := dk_160 0 7 (dk_at dksX11_holdsLine_8 9 rfl rfl)
theorem dX11_holdsLine_196 : decode cX11_holdsLine 196 = .ok (.iconst 1, 1) := dk_4 (dk_at dksX11_holdsLine_8 12 rfl rfl)
theorem dX11_holdsLine_197 : decode cX11_holdsLine 197 = .ok (.goto 20, 3) := dk_167 0 20 (dk_at dksX11_holdsLine_8 13 rfl rfl)
theorem dX11_holdsLine_200 : decode cX11_holdsLine 200 = .ok (.iconst 0, 1) := dk_3 (dk_at dksX11_holdsLine_8 16 rfl rfl)
theorem dX11_holdsLine_201 : decode cX11_holdsLine 201 = .ok (.goto 16, 3) := dk_167 0 16 (dk_at dksX11_holdsLine_8 17 rfl rfl)
theorem dX11_holdsLine_204 : decode cX11_holdsLine 204 = .ok (.iload 5, 2) := dk_21 5 (dk_at dksX11_holdsLine_8 20 rfl rfl)
theorem dX11_holdsLine_206 : decode cX11_holdsLine 206 = .ok (.iload 6, 2) := dk_21 6 (dk_at dksX11_holdsLine_8 22 rfl rfl)
theorem dX11_holdsLine_208 : decode cX11_holdsLine 208 = .ok (.iadd, 1) := dk_96 (dk_at dksX11_holdsLine_9 0 rfl rfl)
theorem dX11_holdsLine_209 : decode cX11_holdsLine 209 = .ok (.ifCond .le 7, 3) := dk_158 0 7 (dk_at dksX11_holdsLine_9 1 rfl rfl)
theorem dX11_holdsLine_212 : decode cX11_holdsLine 212 = .ok (.iconst 1, 1) := dk_4 (dk_at dksX11_holdsLine_9 4 rfl rfl)
theorem dX11_holdsLine_213 : decode cX11_holdsLine 213 = .ok (.goto 4, 3) := dk_167 0 4 (dk_at dksX11_holdsLine_9 5 rfl rfl)
theorem dX11_holdsLine_216 : decode cX11_holdsLine 216 = .ok (.iconst 0, 1) := dk_3 (dk_at dksX11_holdsLine_9 8 rfl rfl)
theorem dX11_holdsLine_217 : decode cX11_holdsLine 217 = .ok (.istore 7, 2) := dk_54 7 (dk_at dksX11_holdsLine_9 9 rfl rfl)
theorem dX11_holdsLine_219 : decode cX11_holdsLine 219 = .ok (.aload_n 0, 1) := dk_42 (dk_at dksX11_holdsLine_9 11 rfl rfl)
theorem dX11_holdsLine_220 : decode cX11_holdsLine 220 = .ok (.getfield 36, 3) := dk_180 0 36 (dk_at dksX11_holdsLine_9 12 rfl rfl)
theorem dX11_holdsLine_223 : decode cX11_holdsLine 223 = .ok (.iload_n 2, 1) := dk_28 (dk_at dksX11_holdsLine_9 15 rfl rfl)
theorem dX11_holdsLine_224 : decode cX11_holdsLine 224 = .ok (.iconst 1, 1) := dk_4 (dk_at dksX11_holdsLine_9 16 rfl rfl)
theorem dX11_holdsLine_225 : decode cX11_holdsLine 225 = .ok (.isub, 1) := dk_100 (dk_at dksX11_holdsLine_9 17 rfl rfl)
theorem dX11_holdsLine_226 : decode cX11_holdsLine 226 = .ok (.iload 4, 2) := dk_21 4 (dk_at dksX11_holdsLine_9 18 rfl rfl)
theorem dX11_holdsLine_228 : decode cX11_holdsLine 228 = .ok (.bipush 7, 2) := dk_16 7 (dk_at dksX11_holdsLine_9 20 rfl rfl)
theorem dX11_holdsLine_230 : decode cX11_holdsLine 230 = .ok (.if_icmp .ne 11, 3) := dk_160 0 11 (dk_at dksX11_holdsLine_10 0 rfl rfl)
theorem dX11_holdsLine_233 : decode cX11_holdsLine 233 = .ok (.iload 5, 2) := dk_21 5 (dk_at dksX11_holdsLine_10 3 rfl rfl)
theorem dX11_holdsLine_235 : decode cX11_holdsLine 235 = .ok (.iload 6, 2) := dk_21 6 (dk_at dksX11_holdsLine_10 5 rfl rfl)
theorem dX11_holdsLine_237 : decode cX11_holdsLine 237 = .ok (.iadd, 1) := dk_96 (dk_at dksX11_holdsLine_10 7 rfl rfl)
theorem dX11_holdsLine_238 : decode cX11_holdsLine 238 = .ok (.goto 13, 3) := dk_167 0 13 (dk_at dksX11_holdsLine_10 8 rfl rfl)
theorem dX11_holdsLine_241 : decode cX11_holdsLine 241 = .ok (.iload 7, 2) := dk_21 7 (dk_at dksX11_holdsLine_10 11 rfl rfl)
theorem dX11_holdsLine_243 : decode cX11_holdsLine 243 = .ok (.ifCond .eq 7, 3) := dk_153 0 7 (dk_at dksX11_holdsLine_10 13 rfl rfl)
theorem dX11_holdsLine_246 : decode cX11_holdsLine 246 = .ok (.iconst 1, 1) := dk_4 (dk_at dksX11_holdsLine_10 16 rfl rfl)
theorem dX11_holdsLine_247 : decode cX11_holdsLine 247 = .ok (.goto 4, 3) := dk_167 0 4 (dk_at dksX11_holdsLine_10 17 rfl rfl)
theorem dX11_holdsLine_250 : decode cX11_holdsLine 250 = .ok (.iconst 0, 1) := dk_3 (dk_at dksX11_holdsLine_10 20 rfl rfl)
theorem dX11_holdsLine_251 : decode cX11_holdsLine 251 = .ok (.iastore, 1) := dk_79 (dk_at dksX11_holdsLine_10 21 rfl rfl)
theorem dX11_holdsLine_252 : decode cX11_holdsLine 252 = .ok (.iinc 3 1, 3) := dk_132 3 1 (dk_at dksX11_holdsLine_11 0 rfl rfl)
theorem dX11_holdsLine_255 : decode cX11_holdsLine 255 = .ok (.goto (-244), 3) := dk_167 255 12 (dk_at dksX11_holdsLine_11 3 rfl rfl)
theorem dX11_holdsLine_258 : decode cX11_holdsLine 258 = .ok (.iload_n 2, 1) := dk_28 (dk_at dksX11_holdsLine_11 6 rfl rfl)
theorem dX11_holdsLine_259 : decode cX11_holdsLine 259 = .ok (.ifCond .eq 13, 3) := dk_153 0 13 (dk_at dksX11_holdsLine_11 7 rfl rfl)
theorem dX11_holdsLine_262 : decode cX11_holdsLine 262 = .ok (.aload_n 0, 1) := dk_42 (dk_at dksX11_holdsLine_11 10 rfl rfl)
theorem dX11_holdsLine_263 : decode cX11_holdsLine 263 = .ok (.getfield 36, 3) := dk_180 0 36 (dk_at dksX11_holdsLine_11 11 rfl rfl)
theorem dX11_holdsLine_266 : decode cX11_holdsLine 266 = .ok (.iconst 0, 1) := dk_3 (dk_at dksX11_holdsLine_11 14 rfl rfl)
theorem dX11_holdsLine_267 : decode cX11_holdsLine 267 = .ok (.iaload, 1) := dk_46 (dk_at dksX11_holdsLine_11 15 rfl rfl)
theorem dX11_holdsLine_268 : decode cX11_holdsLine 268 = .ok (.iconst 1, 1) := dk_4 (dk_at dksX11_holdsLine_11 16 rfl rfl)
theorem dX11_holdsLine_269 : decode cX11_holdsLine 269 = .ok (.if_icmp .ne 7, 3) := dk_160 0 7 (dk_at dksX11_holdsLine_11 17 rfl rfl)
theorem dX11_holdsLine_272 : decode cX11_holdsLine 272 = .ok (.iconst 1, 1) := dk_4 (dk_at dksX11_holdsLine_11 20 rfl rfl)
theorem dX11_holdsLine_273 : decode cX11_holdsLine 273 = .ok (.goto 4, 3) := dk_167 0 4 (dk_at dksX11_holdsLine_11 21 rfl rfl)
theorem dX11_holdsLine_276 : decode cX11_holdsLine 276 = .ok (.iconst 0, 1) := dk_3 (dk_at dksX11_holdsLine_12 0 rfl rfl)
theorem dX11_holdsLine_277 : decode cX11_holdsLine 277 = .ok (.ireturn, 1) := dk_172 (dk_at dksX11_holdsLine_12 1 rfl rfl)
def dkwX11_meets_7 : List UInt8 := [27, 182, 1, 121, 181, 1, 133, 42, 42, 180, 0, 84, 27, 46, 181, 1, 130, 177]
abbrev dktX11_meets_7 : List UInt8 := dkwX11_meets_7 ++ []
def dkwX11_meets_6 : List UInt8 := [4, 164, 0, 17, 42, 180, 0, 84, 27, 46, 42, 180, 1, 130, 161, 0, 4, 177, 42, 42, 42, 180, 0, 81]
abbrev dktX11_meets_6 : List UInt8 := dkwX11_meets_6 ++ dktX11_meets_7
def dkwX11_meets_5 : List UInt8 := [180, 0, 78, 27, 182, 1, 121, 181, 1, 127, 42, 180, 1, 118, 17, 0, 200, 163, 0, 24, 42, 180, 1, 118]
abbrev dktX11_meets_5 : List UInt8 := dkwX11_meets_5 ++ dktX11_meets_6
def dkwX11_meets_4 : List UInt8 := [42, 180, 0, 75, 27, 182, 1, 121, 181, 1, 124, 42, 180, 1, 118, 5, 160, 0, 16, 42, 42, 42]
abbrev dktX11_meets_4 : List UInt8 := dkwX11_meets_4 ++ dktX11_meets_5
def dkwX11_meets_3 : List UInt8 := [47, 10, 97, 80, 42, 89, 180, 1, 118, 4, 96, 181, 1, 118, 42, 180, 1, 118, 4, 160, 0, 16, 42, 42]
abbrev dktX11_meets_3 : List UInt8 := dkwX11_meets_3 ++ dktX11_meets_4
def dkwX11_meets_2 : List UInt8 := [180, 0, 53, 42, 180, 1, 112, 46, 42, 180, 1, 115, 160, 0, 16, 42, 180, 0, 72, 42, 180, 1, 94, 92]
abbrev dktX11_meets_2 : List UInt8 := dkwX11_meets_2 ++ dktX11_meets_3
def dkwX11_meets_1 : List UInt8 := [177, 42, 180, 0, 68, 42, 180, 1, 94, 92, 47, 10, 97, 80, 42, 180, 1, 112, 27, 162, 0, 32, 42]
abbrev dktX11_meets_1 : List UInt8 := dkwX11_meets_1 ++ dktX11_meets_2
def dkwX11_meets_0 : List UInt8 := [42, 180, 1, 94, 28, 163, 0, 19, 42, 27, 182, 1, 106, 154, 0, 11, 42, 27, 182, 1, 109, 154, 0, 4]
abbrev dktX11_meets_0 : List UInt8 := dkwX11_meets_0 ++ dktX11_meets_1
theorem dksX11_meets_0 : cX11_meets.data.toList.drop 0 = dktX11_meets_0 := by decide +kernel
theorem dksX11_meets_1 : cX11_meets.data.toList.drop 24 = dktX11_meets_1 := dk_seg dksX11_meets_0 24 rfl rfl
theorem dksX11_meets_2 : cX11_meets.data.toList.drop 47 = dktX11_meets_2 := dk_seg dksX11_meets_1 23 rfl rfl
theorem dksX11_meets_3 : cX11_meets.data.toList.drop 71 = dktX11_meets_3 := dk_seg dksX11_meets_2 24 rfl rfl
theorem dksX11_meets_4 : cX11_meets.data.toList.drop 95 = dktX11_meets_4 := dk_seg dksX11_meets_3 24 rfl rfl
theorem dksX11_meets_5 : cX11_meets.data.toList.drop 117 = dktX11_meets_5 := dk_seg dksX11_meets_4 22 rfl rfl
theorem dksX11_meets_6 : cX11_meets.data.toList.drop 141 = dktX11_meets_6 := dk_seg dksX11_meets_5 24 rfl rfl
theorem dksX11_meets_7 : cX11_meets.data.toList.drop 165 = dktX11_meets_7 := dk_seg dksX11_meets_6 24 rfl rfl
theorem dX11_meets_0 : decode cX11_meets 0 = .ok (.aload_n 0, 1) := dk_42 (dk_at dksX11_meets_0 0 rfl rfl)
theorem dX11_meets_1 : decode cX11_meets 1 = .ok (.getfield 350, 3) := dk_180 1 94 (dk_at dksX11_meets_0 1 rfl rfl)
theorem dX11_meets_4 : decode cX11_meets 4 = .ok (.iload_n 2, 1) := dk_28 (dk_at dksX11_meets_0 4 rfl rfl)
theorem dX11_meets_5 : decode cX11_meets 5 = .ok (.if_icmp .gt 19, 3) := dk_163 0 19 (dk_at dksX11_meets_0 5 rfl rfl)
theorem dX11_meets_8 : decode cX11_meets 8 = .ok (.aload_n 0, 1) := dk_42 (dk_at dksX11_meets_0 8 rfl rfl)
theorem dX11_meets_9 : decode cX11_meets 9 = .ok (.iload_n 1, 1) := dk_27 (dk_at dksX11_meets_0 9 rfl rfl)
theorem dX11_meets_10 : decode cX11_meets 10 = .ok (.invokevirtual 362, 3) := dk_182 1 106 (dk_at dksX11_meets_0 10 rfl rfl)
theorem dX11_meets_13 : decode cX11_meets 13 = .ok (.ifCond .ne 11, 3) := dk_154 0 11 (dk_at dksX11_meets_0 13 rfl rfl)
theorem dX11_meets_16 : decode cX11_meets 16 = .ok (.aload_n 0, 1) := dk_42 (dk_at dksX11_meets_0 16 rfl rfl)
theorem dX11_meets_17 : decode cX11_meets 17 = .ok (.iload_n 1, 1) := dk_27 (dk_at dksX11_meets_0 17 rfl rfl)
theorem dX11_meets_18 : decode cX11_meets 18 = .ok (.invokevirtual 365, 3) := dk_182 1 109 (dk_at dksX11_meets_0 18 rfl rfl)
theorem dX11_meets_21 : decode cX11_meets 21 = .ok (.ifCond .ne 4, 3) := dk_154 0 4 (dk_at dksX11_meets_0 21 rfl rfl)
theorem dX11_meets_24 : decode cX11_meets 24 = .ok (.return_, 1) := dk_177 (dk_at dksX11_meets_1 0 rfl rfl)
theorem dX11_meets_25 : decode cX11_meets 25 = .ok (.aload_n 0, 1) := dk_42 (dk_at dksX11_meets_1 1 rfl rfl)
theorem dX11_meets_26 : decode cX11_meets 26 = .ok (.getfield 68, 3) := dk_180 0 68 (dk_at dksX11_meets_1 2 rfl rfl)
theorem dX11_meets_29 : decode cX11_meets 29 = .ok (.aload_n 0, 1) := dk_42 (dk_at dksX11_meets_1 5 rfl rfl)
theorem dX11_meets_30 : decode cX11_meets 30 = .ok (.getfield 350, 3) := dk_180 1 94 (dk_at dksX11_meets_1 6 rfl rfl)
theorem dX11_meets_33 : decode cX11_meets 33 = .ok (.dup2, 1) := dk_92 (dk_at dksX11_meets_1 9 rfl rfl)
theorem dX11_meets_34 : decode cX11_meets 34 = .ok (.laload, 1) := dk_47 (dk_at dksX11_meets_1 10 rfl rfl)
theorem dX11_meets_35 : decode cX11_meets 35 = .ok (.lconst 1, 1) := dk_10 (dk_at dksX11_meets_1 11 rfl rfl)
theorem dX11_meets_36 : decode cX11_meets 36 = .ok (.ladd, 1) := dk_97 (dk_at dksX11_meets_1 12 rfl rfl)
theorem dX11_meets_37 : decode cX11_meets 37 = .ok (.lastore, 1) := dk_80 (dk_at dksX11_meets_1 13 rfl rfl)
theorem dX11_meets_38 : decode cX11_meets 38 = .ok (.aload_n 0, 1) := dk_42 (dk_at dksX11_meets_1 14 rfl rfl)
theorem dX11_meets_39 : decode cX11_meets 39 = .ok (.getfield 368, 3) := dk_180 1 112 (dk_at dksX11_meets_1 15 rfl rfl)
theorem dX11_meets_42 : decode cX11_meets 42 = .ok (.iload_n 1, 1) := dk_27 (dk_at dksX11_meets_1 18 rfl rfl)
theorem dX11_meets_43 : decode cX11_meets 43 = .ok (.if_icmp .ge 32, 3) := dk_162 0 32 (dk_at dksX11_meets_1 19 rfl rfl)
theorem dX11_meets_46 : decode cX11_meets 46 = .ok (.aload_n 0, 1) := dk_42 (dk_at dksX11_meets_1 22 rfl rfl)
theorem dX11_meets_47 : decode cX11_meets 47 = .ok (.getfield 53, 3) := dk_180 0 53 (dk_at dksX11_meets_2 0 rfl rfl)
theorem dX11_meets_50 : decode cX11_meets 50 = .ok (.aload_n 0, 1) := dk_42 (dk_at dksX11_meets_2 3 rfl rfl)
theorem dX11_meets_51 : decode cX11_meets 51 = .ok (.getfield 368, 3) := dk_180 1 112 (dk_at dksX11_meets_2 4 rfl rfl)
theorem dX11_meets_54 : decode cX11_meets 54 = .ok (.iaload, 1) := dk_46 (dk_at dksX11_meets_2 7 rfl rfl)
theorem dX11_meets_55 : decode cX11_meets 55 = .ok (.aload_n 0, 1) := dk_42 (dk_at dksX11_meets_2 8 rfl rfl)
theorem dX11_meets_56 : decode cX11_meets 56 = .ok (.getfield 371, 3) := dk_180 1 115 (dk_at dksX11_meets_2 9 rfl rfl)
theorem dX11_meets_59 : decode cX11_meets 59 = .ok (.if_icmp .ne 16, 3) := dk_160 0 16 (dk_at dksX11_meets_2 12 rfl rfl)
theorem dX11_meets_62 : decode cX11_meets 62 = .ok (.aload_n 0, 1) := dk_42 (dk_at dksX11_meets_2 15 rfl rfl)
theorem dX11_meets_63 : decode cX11_meets 63 = .ok (.getfield 72, 3) := dk_180 0 72 (dk_at dksX11_meets_2 16 rfl rfl)
theorem dX11_meets_66 : decode cX11_meets 66 = .ok (.aload_n 0, 1) := dk_42 (dk_at dksX11_meets_2 19 rfl rfl)
theorem dX11_meets_67 : decode cX11_meets 67 = .ok (.getfield 350, 3) := dk_180 1 94 (dk_at dksX11_meets_2 20 rfl rfl)
theorem dX11_meets_70 : decode cX11_meets 70 = .ok (.dup2, 1) := dk_92 (dk_at dksX11_meets_2 23 rfl rfl)
theorem dX11_meets_71 : decode cX11_meets 71 = .ok (.laload, 1) := dk_47 (dk_at dksX11_meets_3 0 rfl rfl)
theorem dX11_meets_72 : decode cX11_meets 72 = .ok (.lconst 1, 1) := dk_10 (dk_at dksX11_meets_3 1 rfl rfl)
theorem dX11_meets_73 : decode cX11_meets 73 = .ok (.ladd, 1) := dk_97 (dk_at dksX11_meets_3 2 rfl rfl)
theorem dX11_meets_74 : decode cX11_meets 74 = .ok (.lastore, 1) := dk_80 (dk_at dksX11_meets_3 3 rfl rfl)
theorem dX11_meets_75 : decode cX11_meets 75 = .ok (.aload_n 0, 1) := dk_42 (dk_at dksX11_meets_3 4 rfl rfl)
theorem dX11_meets_76 : decode cX11_meets 76 = .ok (.dup, 1) := dk_89 (dk_at dksX11_meets_3 5 rfl rfl)
theorem dX11_meets_77 : decode cX11_meets 77 = .ok (.getfield 374, 3) := dk_180 1 118 (dk_at dksX11_meets_3 6 rfl rfl)
theorem dX11_meets_80 : decode cX11_meets 80 = .ok (.iconst 1, 1) := dk_4 (dk_at dksX11_meets_3 9 rfl rfl)
theorem dX11_meets_81 : decode cX11_meets 81 = .ok (.iadd, 1) := dk_96 (dk_at dksX11_meets_3 10 rfl rfl)
theorem dX11_meets_82 : decode cX11_meets 82 = .ok (.putfield 374, 3) := dk_181 1 118 (dk_at dksX11_meets_3 11 rfl rfl)
theorem dX11_meets_85 : decode cX11_meets 85 = .ok (.aload_n 0, 1) := dk_42 (dk_at dksX11_meets_3 14 rfl rfl)
theorem dX11_meets_86 : decode cX11_meets 86 = .ok (.getfield 374, 3) := dk_180 1 118 (dk_at dksX11_meets_3 15 rfl rfl)
theorem dX11_meets_89 : decode cX11_meets 89 = .ok (.iconst 1, 1) := dk_4 (dk_at dksX11_meets_3 18 rfl rfl)
theorem dX11_meets_90 : decode cX11_meets 90 = .ok (.if_icmp .ne 16, 3) := dk_160 0 16 (dk_at dksX11_meets_3 19 rfl rfl)
theorem dX11_meets_93 : decode cX11_meets 93 = .ok (.aload_n 0, 1) := dk_42 (dk_at dksX11_meets_3 22 rfl rfl)
theorem dX11_meets_94 : decode cX11_meets 94 = .ok (.aload_n 0, 1) := dk_42 (dk_at dksX11_meets_3 23 rfl rfl)
theorem dX11_meets_95 : decode cX11_meets 95 = .ok (.aload_n 0, 1) := dk_42 (dk_at dksX11_meets_4 0 rfl rfl)
theorem dX11_meets_96 : decode cX11_meets 96 = .ok (.getfield 75, 3) := dk_180 0 75 (dk_at dksX11_meets_4 1 rfl rfl)
theorem dX11_meets_99 : decode cX11_meets 99 = .ok (.iload_n 1, 1) := dk_27 (dk_at dksX11_meets_4 4 rfl rfl)
theorem dX11_meets_100 : decode cX11_meets 100 = .ok (.invokevirtual 377, 3) := dk_182 1 121 (dk_at dksX11_meets_4 5 rfl rfl)
theorem dX11_meets_103 : decode cX11_meets 103 = .ok (.putfield 380, 3) := dk_181 1 124 (dk_at dksX11_meets_4 8 rfl rfl)
theorem dX11_meets_106 : decode cX11_meets 106 = .ok (.aload_n 0, 1) := dk_42 (dk_at dksX11_meets_4 11 rfl rfl)
theorem dX11_meets_107 : decode cX11_meets 107 = .ok (.getfield 374, 3) := dk_180 1 118 (dk_at dksX11_meets_4 12 rfl rfl)
theorem dX11_meets_110 : decode cX11_meets 110 = .ok (.iconst 2, 1) := dk_5 (dk_at dksX11_meets_4 15 rfl rfl)
theorem dX11_meets_111 : decode cX11_meets 111 = .ok (.if_icmp .ne 16, 3) := dk_160 0 16 (dk_at dksX11_meets_4 16 rfl rfl)
theorem dX11_meets_114 : decode cX11_meets 114 = .ok (.aload_n 0, 1) := dk_42 (dk_at dksX11_meets_4 19 rfl rfl)
theorem dX11_meets_115 : decode cX11_meets 115 = .ok (.aload_n 0, 1) := dk_42 (dk_at dksX11_meets_4 20 rfl rfl)
theorem dX11_meets_116 : decode cX11_meets 116 = .ok (.aload_n 0, 1) := dk_42 (dk_at dksX11_meets_4 21 rfl rfl)
theorem dX11_meets_117 : decode cX11_meets 117 = .ok (.getfield 78, 3) := dk_180 0 78 (dk_at dksX11_meets_5 0 rfl rfl)
theorem dX11_meets_120 : decode cX11_meets 120 = .ok (.iload_n 1, 1) := dk_27 (dk_at dksX11_meets_5 3 rfl rfl)
theorem dX11_meets_121 : decode cX11_meets 121 = .ok (.invokevirtual 377, 3) := dk_182 1 121 (dk_at dksX11_meets_5 4 rfl rfl)
theorem dX11_meets_124 : decode cX11_meets 124 = .ok (.putfield 383, 3) := dk_181 1 127 (dk_at dksX11_meets_5 7 rfl rfl)
theorem dX11_meets_127 : decode cX11_meets 127 = .ok (.aload_n 0, 1) := dk_42 (dk_at dksX11_meets_5 10 rfl rfl)
theorem dX11_meets_128 : decode cX11_meets 128 = .ok (.getfield 374, 3) := dk_180 1 118 (dk_at dksX11_meets_5 11 rfl rfl)
theorem dX11_meets_131 : decode cX11_meets 131 = .ok (.sipush 200, 3) := dk_17 0 200 (dk_at dksX11_meets_5 14 rfl rfl)
theorem dX11_meets_134 : decode cX11_meets 134 = .ok (.if_icmp .gt 24, 3) := dk_163 0 24 (dk_at dksX11_meets_5 17 rfl rfl)
theorem dX11_meets_137 : decode cX11_meets 137 = .ok (.aload_n 0, 1) := dk_42 (dk_at dksX11_meets_5 20 rfl rfl)
theorem dX11_meets_138 : decode cX11_meets 138 = .ok (.getfield 374, 3) := dk_180 1 118 (dk_at dksX11_meets_5 21 rfl rfl)
theorem dX11_meets_141 : decode cX11_meets 141 = .ok (.iconst 1, 1) := dk_4 (dk_at dksX11_meets_6 0 rfl rfl)
theorem dX11_meets_142 : decode cX11_meets 142 = .ok (.if_icmp .le 17, 3) := dk_164 0 17 (dk_at dksX11_meets_6 1 rfl rfl)
theorem dX11_meets_145 : decode cX11_meets 145 = .ok (.aload_n 0, 1) := dk_42 (dk_at dksX11_meets_6 4 rfl rfl)
theorem dX11_meets_146 : decode cX11_meets 146 = .ok (.getfield 84, 3) := dk_180 0 84 (dk_at dksX11_meets_6 5 rfl rfl)
theorem dX11_meets_149 : decode cX11_meets 149 = .ok (.iload_n 1, 1) := dk_27 (dk_at dksX11_meets_6 8 rfl rfl)
theorem dX11_meets_150 : decode cX11_meets 150 = .ok (.iaload, 1) := dk_46 (dk_at dksX11_meets_6 9 rfl rfl)
theorem dX11_meets_151 : decode cX11_meets 151 = .ok (.aload_n 0, 1) := dk_42 (dk_at dksX11_meets_6 10 rfl rfl)
theorem dX11_meets_152 : decode cX11_meets 152 = .ok (.getfield 386, 3) := dk_180 1 130 (dk_at dksX11_meets_6 11 rfl rfl)
theorem dX11_meets_155 : decode cX11_meets 155 = .ok (.if_icmp .lt 4, 3) := dk_161 0 4 (dk_at dksX11_meets_6 14 rfl rfl)
theorem dX11_meets_158 : decode cX11_meets 158 = .ok (.return_, 1) := dk_177 (dk_at dksX11_meets_6 17 rfl rfl)
theorem dX11_meets_159 : decode cX11_meets 159 = .ok (.aload_n 0, 1) := dk_42 (dk_at dksX11_meets_6 18 rfl rfl)
theorem dX11_meets_160 : decode cX11_meets 160 = .ok (.aload_n 0, 1) := dk_42 (dk_at dksX11_meets_6 19 rfl rfl)
theorem dX11_meets_161 : decode cX11_meets 161 = .ok (.aload_n 0, 1) := dk_42 (dk_at dksX11_meets_6 20 rfl rfl)
theorem dX11_meets_162 : decode cX11_meets 162 = .ok (.getfield 81, 3) := dk_180 0 81 (dk_at dksX11_meets_6 21 rfl rfl)
theorem dX11_meets_165 : decode cX11_meets 165 = .ok (.iload_n 1, 1) := dk_27 (dk_at dksX11_meets_7 0 rfl rfl)
theorem dX11_meets_166 : decode cX11_meets 166 = .ok (.invokevirtual 377, 3) := dk_182 1 121 (dk_at dksX11_meets_7 1 rfl rfl)
theorem dX11_meets_169 : decode cX11_meets 169 = .ok (.putfield 389, 3) := dk_181 1 133 (dk_at dksX11_meets_7 4 rfl rfl)
theorem dX11_meets_172 : decode cX11_meets 172 = .ok (.aload_n 0, 1) := dk_42 (dk_at dksX11_meets_7 7 rfl rfl)
theorem dX11_meets_173 : decode cX11_meets 173 = .ok (.aload_n 0, 1) := dk_42 (dk_at dksX11_meets_7 8 rfl rfl)
theorem dX11_meets_174 : decode cX11_meets 174 = .ok (.getfield 84, 3) := dk_180 0 84 (dk_at dksX11_meets_7 9 rfl rfl)
theorem dX11_meets_177 : decode cX11_meets 177 = .ok (.iload_n 1, 1) := dk_27 (dk_at dksX11_meets_7 12 rfl rfl)
theorem dX11_meets_178 : decode cX11_meets 178 = .ok (.iaload, 1) := dk_46 (dk_at dksX11_meets_7 13 rfl rfl)
theorem dX11_meets_179 : decode cX11_meets 179 = .ok (.putfield 386, 3) := dk_181 1 130 (dk_at dksX11_meets_7 14 rfl rfl)
theorem dX11_meets_182 : decode cX11_meets 182 = .ok (.return_, 1) := dk_177 (dk_at dksX11_meets_7 17 rfl rfl)
def dkwX11_isBarred_3 : List UInt8 := [167, 0, 4, 3, 61, 132, 3, 1, 167, 255, 180, 28, 172]
abbrev dktX11_isBarred_3 : List UInt8 := dkwX11_isBarred_3 ++ []
def dkwX11_isBarred_2 : List UInt8 := [180, 0, 13, 21, 4, 4, 96, 46, 182, 1, 23, 42, 180, 0, 13, 21, 4, 5, 96, 46, 159, 0, 7, 4]
abbrev dktX11_isBarred_2 : List UInt8 := dkwX11_isBarred_2 ++ dktX11_isBarred_3
def dkwX11_isBarred_1 : List UInt8 := [6, 29, 104, 96, 54, 4, 28, 154, 0, 40, 42, 180, 0, 13, 21, 4, 46, 27, 160, 0, 33, 42, 27, 42]
abbrev dktX11_isBarred_1 : List UInt8 := dkwX11_isBarred_1 ++ dktX11_isBarred_2
def dkwX11_isBarred_0 : List UInt8 := [3, 61, 3, 62, 29, 42, 180, 0, 13, 5, 46, 162, 0, 72, 42, 180, 1, 103, 154, 0, 65, 17, 1, 157]
abbrev dktX11_isBarred_0 : List UInt8 := dkwX11_isBarred_0 ++ dktX11_isBarred_1
theorem dksX11_isBarred_0 : cX11_isBarred.data.toList.drop 0 = dktX11_isBarred_0 := by decide +kernel
theorem dksX11_isBarred_1 : cX11_isBarred.data.toList.drop 24 = dktX11_isBarred_1 := dk_seg dksX11_isBarred_0 24 rfl rfl
theorem dksX11_isBarred_2 : cX11_isBarred.data.toList.drop 48 = dktX11_isBarred_2 := dk_seg dksX11_isBarred_1 24 rfl rfl
theorem dksX11_isBarred_3 : cX11_isBarred.data.toList.drop 72 = dktX11_isBarred_3 := dk_seg dksX11_isBarred_2 24 rfl rfl
theorem dX11_isBarred_0 : decode cX11_isBarred 0 = .ok (.iconst 0, 1) := dk_3 (dk_at dksX11_isBarred_0 0 rfl rfl)
theorem dX11_isBarred_1 : decode cX11_isBarred 1 = .ok (.istore_n 2, 1) := dk_61 (dk_at dksX11_isBarred_0 1 rfl rfl)
theorem dX11_isBarred_2 : decode cX11_isBarred 2 = .ok (.iconst 0, 1) := dk_3 (dk_at dksX11_isBarred_0 2 rfl rfl)
theorem dX11_isBarred_3 : decode cX11_isBarred 3 = .ok (.istore_n 3, 1) := dk_62 (dk_at dksX11_isBarred_0 3 rfl rfl)
theorem dX11_isBarred_4 : decode cX11_isBarred 4 = .ok (.iload_n 3, 1) := dk_29 (dk_at dksX11_isBarred_0 4 rfl rfl)
theorem dX11_isBarred_5 : decode cX11_isBarred 5 = .ok (.aload_n 0, 1) := dk_42 (dk_at dksX11_isBarred_0 5 rfl rfl)
theorem dX11_isBarred_6 : decode cX11_isBarred 6 = .ok (.getfield 13, 3) := dk_180 0 13 (dk_at dksX11_isBarred_0 6 rfl rfl)
theorem dX11_isBarred_9 : decode cX11_isBarred 9 = .ok (.iconst 2, 1) := dk_5 (dk_at dksX11_isBarred_0 9 rfl rfl)
theorem dX11_isBarred_10 : decode cX11_isBarred 10 = .ok (.iaload, 1) := dk_46 (dk_at dksX11_isBarred_0 10 rfl rfl)
theorem dX11_isBarred_11 : decode cX11_isBarred 11 = .ok (.if_icmp .ge 72, 3) := dk_162 0 72 (dk_at dksX11_isBarred_0 11 rfl rfl)
theorem dX11_isBarred_14 : decode cX11_isBarred 14 = .ok (.aload_n 0, 1) := dk_42 (dk_at dksX11_isBarred_0 14 rfl rfl)
theorem dX11_isBarred_15 : decode cX11_isBarred 15 = .ok (.getfield 359, 3) := dk_180 1 103 (dk_at dksX11_isBarred_0 15 rfl rfl)
theorem dX11_isBarred_18 : decode cX11_isBarred 18 = .ok (.ifCond .ne 65, 3) := dk_154 0 65 (dk_at dksX11_isBarred_0 18 rfl rfl)
theorem dX11_isBarred_21 : decode cX11_isBarred 21 = .ok (.sipush 413, 3) := dk_17 1 157 (dk_at dksX11_isBarred_0 21 rfl rfl)
theorem dX11_isBarred_24 : decode cX11_isBarred 24 = .ok (.iconst 3, 1) := dk_6 (dk_at dksX11_isBarred_1 0 rfl rfl)
theorem dX11_isBarred_25 : decode cX11_isBarred 25 = .ok (.iload_n 3, 1) := dk_29 (dk_at dksX11_isBarred_1 1 rfl rfl)
theorem dX11_isBarred_26 : decode cX11_isBarred 26 = .ok (.imul, 1) := dk_104 (dk_at dksX11_isBarred_1 2 rfl rfl)
theorem dX11_isBarred_27 : decode cX11_isBarred 27 = .ok (.iadd, 1) := dk_96 (dk_at dksX11_isBarred_1 3 rfl rfl)
theorem dX11_isBarred_28 : decode cX11_isBarred 28 = .ok (.istore 4, 2) := dk_54 4 (dk_at dksX11_isBarred_1 4 rfl rfl)
theorem dX11_isBarred_30 : decode cX11_isBarred 30 = .ok (.iload_n 2, 1) := dk_28 (dk_at dksX11_isBarred_1 6 rfl rfl)
theorem dX11_isBarred_31 : decode cX11_isBarred 31 = .ok (.ifCond .ne 40, 3) := dk_154 0 40 (dk_at dksX11_isBarred_1 7 rfl rfl)
theorem dX11_isBarred_34 : decode cX11_isBarred 34 = .ok (.aload_n 0, 1) := dk_42 (dk_at dksX11_isBarred_1 10 rfl rfl)
theorem dX11_isBarred_35 : decode cX11_isBarred 35 = .ok (.getfield 13, 3) := dk_180 0 13 (dk_at dksX11_isBarred_1 11 rfl rfl)
theorem dX11_isBarred_38 : decode cX11_isBarred 38 = .ok (.iload 4, 2) := dk_21 4 (dk_at dksX11_isBarred_1 14 rfl rfl)
theorem dX11_isBarred_40 : decode cX11_isBarred 40 = .ok (.iaload, 1) := dk_46 (dk_at dksX11_isBarred_1 16 rfl rfl)
theorem dX11_isBarred_41 : decode cX11_isBarred 41 = .ok (.iload_n 1, 1) := dk_27 (dk_at dksX11_isBarred_1 17 rfl rfl)
theorem dX11_isBarred_42 : decode cX11_isBarred 42 = .ok (.if_icmp .ne 33, 3) := dk_160 0 33 (dk_at dksX11_isBarred_1 18 rfl rfl)
theorem dX11_isBarred_45 : decode cX11_isBarred 45 = .ok (.aload_n 0, 1) := dk_42 (dk_at dksX11_isBarred_1 21 rfl rfl)
theorem dX11_isBarred_46 : decode cX11_isBarred 46 = .ok (.iload_n 1, 1) := dk_27 (dk_at dksX11_isBarred_1 22 rfl rfl)
theorem dX11_isBarred_47 : decode cX11_isBarred 47 = .ok (.aload_n 0, 1) := dk_42 (dk_at dksX11_isBarred_1 23 rfl rfl)
theorem dX11_isBarred_48 : decode cX11_isBarred 48 = .ok (.getfield 13, 3) := dk_180 0 13 (dk_at dksX11_isBarred_2 0 rfl rfl)
theorem dX11_isBarred_51 : decode cX11_isBarred 51 = .ok (.iload 4, 2) := dk_21 4 (dk_at dksX11_isBarred_2 3 rfl rfl)
theorem dX11_isBarred_53 : decode cX11_isBarred 53 = .ok (.iconst 1, 1) := dk_4 (dk_at dksX11_isBarred_2 5 rfl rfl)
theorem dX11_isBarred_54 : decode cX11_isBarred 54 = .ok (.iadd, 1) := dk_96 (dk_at dksX11_isBarred_2 6 rfl rfl)
theorem dX11_isBarred_55 : decode cX11_isBarred 55 = .ok (.iaload, 1) := dk_46 (dk_at dksX11_isBarred_2 7 rfl rfl)
theorem dX11_isBarred_56 : decode cX11_isBarred 56 = .ok (.invokevirtual 279, 3) := dk_182 1 23 (dk_at dksX11_isBarred_2 8 rfl rfl)
theorem dX11_isBarred_59 : decode cX11_isBarred 59 = .ok (.aload_n 0, 1) := dk_42 (dk_at dksX11_isBarred_2 11 rfl rfl)
theorem dX11_isBarred_60 : decode cX11_isBarred 60 = .ok (.getfield 13, 3) := dk_180 0 13 (dk_at dksX11_isBarred_2 12 rfl rfl)
theorem dX11_isBarred_63 : decode cX11_isBarred 63 = .ok (.iload 4, 2) := dk_21 4 (dk_at dksX11_isBarred_2 15 rfl rfl)
theorem dX11_isBarred_65 : decode cX11_isBarred 65 = .ok (.iconst 2, 1) := dk_5 (dk_at dksX11_isBarred_2 17 rfl rfl)
theorem dX11_isBarred_66 : decode cX11_isBarred 66 = .ok (.iadd, 1) := dk_96 (dk_at dksX11_isBarred_2 18 rfl rfl)
theorem dX11_isBarred_67 : decode cX11_isBarred 67 = .ok (.iaload, 1) := dk_46 (dk_at dksX11_isBarred_2 19 rfl rfl)
theorem dX11_isBarred_68 : decode cX11_isBarred 68 = .ok (.if_icmp .eq 7, 3) := dk_159 0 7 (dk_at dksX11_isBarred_2 20 rfl rfl)
theorem dX11_isBarred_71 : decode cX11_isBarred 71 = .ok (.iconst 1, 1) := dk_4 (dk_at dksX11_isBarred_2 23 rfl rfl)
theorem dX11_isBarred_72 : decode cX11_isBarred 72 = .ok (.goto 4, 3) := dk_167 0 4 (dk_at dksX11_isBarred_3 0 rfl rfl)
theorem dX11_isBarred_75 : decode cX11_isBarred 75 = .ok (.iconst 0, 1) := dk_3 (dk_at dksX11_isBarred_3 3 rfl rfl)
theorem dX11_isBarred_76 : decode cX11_isBarred 76 = .ok (.istore_n 2, 1) := dk_61 (dk_at dksX11_isBarred_3 4 rfl rfl)
theorem dX11_isBarred_77 : decode cX11_isBarred 77 = .ok (.iinc 3 1, 3) := dk_132 3 1 (dk_at dksX11_isBarred_3 5 rfl rfl)
theorem dX11_isBarred_80 : decode cX11_isBarred 80 = .ok (.goto (-76), 3) := dk_167 255 180 (dk_at dksX11_isBarred_3 8 rfl rfl)
theorem dX11_isBarred_83 : decode cX11_isBarred 83 = .ok (.iload_n 2, 1) := dk_28 (dk_at dksX11_isBarred_3 11 rfl rfl)
theorem dX11_isBarred_84 : decode cX11_isBarred 84 = .ok (.ireturn, 1) := dk_172 (dk_at dksX11_isBarred_3 12 rfl rfl)
def dkwX11_isLongEnough_3 : List UInt8 := [163, 0, 7, 4, 167, 0, 4, 3, 61, 132, 3, 1, 167, 255, 210, 28, 172]
abbrev dktX11_isLongEnough_3 : List UInt8 := dkwX11_isLongEnough_3 ++ []
def dkwX11_isLongEnough_2 : List UInt8 := [180, 1, 103, 154, 0, 35, 28, 153, 0, 23, 42, 180, 0, 13, 17, 1, 157, 6, 29, 104, 96, 46, 27]
abbrev dktX11_isLongEnough_2 : List UInt8 := dkwX11_isLongEnough_2 ++ dktX11_isLongEnough_3
def dkwX11_isLongEnough_1 : List UInt8 := [160, 0, 7, 4, 167, 0, 4, 3, 61, 3, 62, 29, 42, 180, 0, 13, 5, 46, 162, 0, 42, 42]
abbrev dktX11_isLongEnough_1 : List UInt8 := dkwX11_isLongEnough_1 ++ dktX11_isLongEnough_2
def dkwX11_isLongEnough_0 : List UInt8 := [42, 180, 1, 103, 154, 0, 22, 42, 180, 0, 13, 6, 46, 155, 0, 13, 42, 180, 0, 13, 6, 46, 27]
abbrev dktX11_isLongEnough_0 : List UInt8 := dkwX11_isLongEnough_0 ++ dktX11_isLongEnough_1
theorem dksX11_isLongEnough_0 : cX11_isLongEnough.data.toList.drop 0 = dktX11_isLongEnough_0 := by decide +kernel
theorem dksX11_isLongEnough_1 : cX11_isLongEnough.data.toList.drop 23 = dktX11_isLongEnough_1 := dk_seg dksX11_isLongEnough_0 23 rfl rfl
theorem dksX11_isLongEnough_2 : cX11_isLongEnough.data.toList.drop 45 = dktX11_isLongEnough_2 := dk_seg dksX11_isLongEnough_1 22 rfl rfl
theorem dksX11_isLongEnough_3 : cX11_isLongEnough.data.toList.drop 68 = dktX11_isLongEnough_3 := dk_seg dksX11_isLongEnough_2 23 rfl rfl
theorem dX11_isLongEnough_0 : decode cX11_isLongEnough 0 = .ok (.aload_n 0, 1) := dk_42 (dk_at dksX11_isLongEnough_0 0 rfl rfl)
theorem dX11_isLongEnough_1 : decode cX11_isLongEnough 1 = .ok (.getfield 359, 3) := dk_180 1 103 (dk_at dksX11_isLongEnough_0 1 rfl rfl)
theorem dX11_isLongEnough_4 : decode cX11_isLongEnough 4 = .ok (.ifCond .ne 22, 3) := dk_154 0 22 (dk_at dksX11_isLongEnough_0 4 rfl rfl)
theorem dX11_isLongEnough_7 : decode cX11_isLongEnough 7 = .ok (.aload_n 0, 1) := dk_42 (dk_at dksX11_isLongEnough_0 7 rfl rfl)
theorem dX11_isLongEnough_8 : decode cX11_isLongEnough 8 = .ok (.getfield 13, 3) := dk_180 0 13 (dk_at dksX11_isLongEnough_0 8 rfl rfl)
theorem dX11_isLongEnough_11 : decode cX11_isLongEnough 11 = .ok (.iconst 3, 1) := dk_6 (dk_at dksX11_isLongEnough_0 11 rfl rfl)
theorem dX11_isLongEnough_12 : decode cX11_isLongEnough 12 = .ok (.iaload, 1) := dk_46 (dk_at dksX11_isLongEnough_0 12 rfl rfl)
theorem dX11_isLongEnough_13 : decode cX11_isLongEnough 13 = .ok (.ifCond .lt 13, 3) := dk_155 0 13 (dk_at dksX11_isLongEnough_0 13 rfl rfl)
theorem dX11_isLongEnough_16 : decode cX11_isLongEnough 16 = .ok (.aload_n 0, 1) := dk_42 (dk_at dksX11_isLongEnough_0 16 rfl rfl)
theorem dX11_isLongEnough_17 : decode cX11_isLongEnough 17 = .ok (.getfield 13, 3) := dk_180 0 13 (dk_at dksX11_isLongEnough_0 17 rfl rfl)
theorem dX11_isLongEnough_20 : decode cX11_isLongEnough 20 = .ok (.iconst 3, 1) := dk_6 (dk_at dksX11_isLongEnough_0 20 rfl rfl)
theorem dX11_isLongEnough_21 : decode cX11_isLongEnough 21 = .ok (.iaload, 1) := dk_46 (dk_at dksX11_isLongEnough_0 21 rfl rfl)
theorem dX11_isLongEnough_22 : decode cX11_isLongEnough 22 = .ok (.iload_n 1, 1) := dk_27 (dk_at dksX11_isLongEnough_0 22 rfl rfl)
theorem dX11_isLongEnough_23 : decode cX11_isLongEnough 23 = .ok (.if_icmp .ne 7, 3) := dk_160 0 7 (dk_at dksX11_isLongEnough_1 0 rfl rfl)
theorem dX11_isLongEnough_26 : decode cX11_isLongEnough 26 = .ok (.iconst 1, 1) := dk_4 (dk_at dksX11_isLongEnough_1 3 rfl rfl)
theorem dX11_isLongEnough_27 : decode cX11_isLongEnough 27 = .ok (.goto 4, 3) := dk_167 0 4 (dk_at dksX11_isLongEnough_1 4 rfl rfl)
theorem dX11_isLongEnough_30 : decode cX11_isLongEnough 30 = .ok (.iconst 0, 1) := dk_3 (dk_at dksX11_isLongEnough_1 7 rfl rfl)
theorem dX11_isLongEnough_31 : decode cX11_isLongEnough 31 = .ok (.istore_n 2, 1) := dk_61 (dk_at dksX11_isLongEnough_1 8 rfl rfl)
theorem dX11_isLongEnough_32 : decode cX11_isLongEnough 32 = .ok (.iconst 0, 1) := dk_3 (dk_at dksX11_isLongEnough_1 9 rfl rfl)
theorem dX11_isLongEnough_33 : decode cX11_isLongEnough 33 = .ok (.istore_n 3, 1) := dk_62 (dk_at dksX11_isLongEnough_1 10 rfl rfl)
theorem dX11_isLongEnough_34 : decode cX11_isLongEnough 34 = .ok (.iload_n 3, 1) := dk_29 (dk_at dksX11_isLongEnough_1 11 rfl rfl)
theorem dX11_isLongEnough_35 : decode cX11_isLongEnough 35 = .ok (.aload_n 0, 1) := dk_42 (dk_at dksX11_isLongEnough_1 12 rfl rfl)
theorem dX11_isLongEnough_36 : decode cX11_isLongEnough 36 = .ok (.getfield 13, 3) := dk_180 0 13 (dk_at dksX11_isLongEnough_1 13 rfl rfl)
theorem dX11_isLongEnough_39 : decode cX11_isLongEnough 39 = .ok (.iconst 2, 1) := dk_5 (dk_at dksX11_isLongEnough_1 16 rfl rfl)
theorem dX11_isLongEnough_40 : decode cX11_isLongEnough 40 = .ok (.iaload, 1) := dk_46 (dk_at dksX11_isLongEnough_1 17 rfl rfl)
theorem dX11_isLongEnough_41 : decode cX11_isLongEnough 41 = .ok (.if_icmp .ge 42, 3) := dk_162 0 42 (dk_at dksX11_isLongEnough_1 18 rfl rfl)
theorem dX11_isLongEnough_44 : decode cX11_isLongEnough 44 = .ok (.aload_n 0, 1) := dk_42 (dk_at dksX11_isLongEnough_1 21 rfl rfl)
theorem dX11_isLongEnough_45 : decode cX11_isLongEnough 45 = .ok (.getfield 359, 3) := dk_180 1 103 (dk_at dksX11_isLongEnough_2 0 rfl rfl)
theorem dX11_isLongEnough_48 : decode cX11_isLongEnough 48 = .ok (.ifCond .ne 35, 3) := dk_154 0 35 (dk_at dksX11_isLongEnough_2 3 rfl rfl)
theorem dX11_isLongEnough_51 : decode cX11_isLongEnough 51 = .ok (.iload_n 2, 1) := dk_28 (dk_at dksX11_isLongEnough_2 6 rfl rfl)
theorem dX11_isLongEnough_52 : decode cX11_isLongEnough 52 = .ok (.ifCond .eq 23, 3) := dk_153 0 23 (dk_at dksX11_isLongEnough_2 7 rfl rfl)
theorem dX11_isLongEnough_55 : decode cX11_isLongEnough 55 = .ok (.aload_n 0, 1) := dk_42 (dk_at dksX11_isLongEnough_2 10 rfl rfl)
theorem dX11_isLongEnough_56 : decode cX11_isLongEnough 56 = .ok (.getfield 13, 3) := dk_180 0 13 (dk_at dksX11_isLongEnough_2 11 rfl rfl)
theorem dX11_isLongEnough_59 : decode cX11_isLongEnough 59 = .ok (.sipush 413, 3) := dk_17 1 157 (dk_at dksX11_isLongEnough_2 14 rfl rfl)
theorem dX11_isLongEnough_62 : decode cX11_isLongEnough 62 = .ok (.iconst 3, 1) := dk_6 (dk_at dksX11_isLongEnough_2 17 rfl rfl)
theorem dX11_isLongEnough_63 : decode cX11_isLongEnough 63 = .ok (.iload_n 3, 1) := dk_29 (dk_at dksX11_isLongEnough_2 18 rfl rfl)
theorem dX11_isLongEnough_64 : decode cX11_isLongEnough 64 = .ok (.imul, 1) := dk_104 (dk_at dksX11_isLongEnough_2 19 rfl rfl)
theorem dX11_isLongEnough_65 : decode cX11_isLongEnough 65 = .ok (.iadd, 1) := dk_96 (dk_at dksX11_isLongEnough_2 20 rfl rfl)
theorem dX11_isLongEnough_66 : decode cX11_isLongEnough 66 = .ok (.iaload, 1) := dk_46 (dk_at dksX11_isLongEnough_2 21 rfl rfl)
theorem dX11_isLongEnough_67 : decode cX11_isLongEnough 67 = .ok (.iload_n 1, 1) := dk_27 (dk_at dksX11_isLongEnough_2 22 rfl rfl)
theorem dX11_isLongEnough_68 : decode cX11_isLongEnough 68 = .ok (.if_icmp .gt 7, 3) := dk_163 0 7 (dk_at dksX11_isLongEnough_3 0 rfl rfl)
theorem dX11_isLongEnough_71 : decode cX11_isLongEnough 71 = .ok (.iconst 1, 1) := dk_4 (dk_at dksX11_isLongEnough_3 3 rfl rfl)
theorem dX11_isLongEnough_72 : decode cX11_isLongEnough 72 = .ok (.goto 4, 3) := dk_167 0 4 (dk_at dksX11_isLongEnough_3 4 rfl rfl)
theorem dX11_isLongEnough_75 : decode cX11_isLongEnough 75 = .ok (.iconst 0, 1) := dk_3 (dk_at dksX11_isLongEnough_3 7 rfl rfl)
theorem dX11_isLongEnough_76 : decode cX11_isLongEnough 76 = .ok (.istore_n 2, 1) := dk_61 (dk_at dksX11_isLongEnough_3 8 rfl rfl)
theorem dX11_isLongEnough_77 : decode cX11_isLongEnough 77 = .ok (.iinc 3 1, 3) := dk_132 3 1 (dk_at dksX11_isLongEnough_3 9 rfl rfl)
theorem dX11_isLongEnough_80 : decode cX11_isLongEnough 80 = .ok (.goto (-46), 3) := dk_167 255 210 (dk_at dksX11_isLongEnough_3 12 rfl rfl)
theorem dX11_isLongEnough_83 : decode cX11_isLongEnough 83 = .ok (.iload_n 2, 1) := dk_28 (dk_at dksX11_isLongEnough_3 15 rfl rfl)
theorem dX11_isLongEnough_84 : decode cX11_isLongEnough 84 = .ok (.ireturn, 1) := dk_172 (dk_at dksX11_isLongEnough_3 16 rfl rfl)
def dkwX11_takes_0 : List UInt8 := [3, 62, 29, 28, 162, 0, 18, 43, 29, 42, 180, 0, 53, 29, 46, 79, 132, 3, 1, 167, 255, 239, 28, 172]
abbrev dktX11_takes_0 : List UInt8 := dkwX11_takes_0 ++ []
theorem dksX11_takes_0 : cX11_takes.data.toList.drop 0 = dktX11_takes_0 := by decide +kernel
theorem dX11_takes_0 : decode cX11_takes 0 = .ok (.iconst 0, 1) := dk_3 (dk_at dksX11_takes_0 0 rfl rfl)
theorem dX11_takes_1 : decode cX11_takes 1 = .ok (.istore_n 3, 1) := dk_62 (dk_at dksX11_takes_0 1 rfl rfl)
theorem dX11_takes_2 : decode cX11_takes 2 = .ok (.iload_n 3, 1) := dk_29 (dk_at dksX11_takes_0 2 rfl rfl)
theorem dX11_takes_3 : decode cX11_takes 3 = .ok (.iload_n 2, 1) := dk_28 (dk_at dksX11_takes_0 3 rfl rfl)
theorem dX11_takes_4 : decode cX11_takes 4 = .ok (.if_icmp .ge 18, 3) := dk_162 0 18 (dk_at dksX11_takes_0 4 rfl rfl)
theorem dX11_takes_7 : decode cX11_takes 7 = .ok (.aload_n 1, 1) := dk_43 (dk_at dksX11_takes_0 7 rfl rfl)
theorem dX11_takes_8 : decode cX11_takes 8 = .ok (.iload_n 3, 1) := dk_29 (dk_at dksX11_takes_0 8 rfl rfl)
theorem dX11_takes_9 : decode cX11_takes 9 = .ok (.aload_n 0, 1) := dk_42 (dk_at dksX11_takes_0 9 rfl rfl)
theorem dX11_takes_10 : decode cX11_takes 10 = .ok (.getfield 53, 3) := dk_180 0 53 (dk_at dksX11_takes_0 10 rfl rfl)
theorem dX11_takes_13 : decode cX11_takes 13 = .ok (.iload_n 3, 1) := dk_29 (dk_at dksX11_takes_0 13 rfl rfl)
theorem dX11_takes_14 : decode cX11_takes 14 = .ok (.iaload, 1) := dk_46 (dk_at dksX11_takes_0 14 rfl rfl)
theorem dX11_takes_15 : decode cX11_takes 15 = .ok (.iastore, 1) := dk_79 (dk_at dksX11_takes_0 15 rfl rfl)
theorem dX11_takes_16 : decode cX11_takes 16 = .ok (.iinc 3 1, 3) := dk_132 3 1 (dk_at dksX11_takes_0 16 rfl rfl)
theorem dX11_takes_19 : decode cX11_takes 19 = .ok (.goto (-17), 3) := dk_167 255 239 (dk_at dksX11_takes_0 19 rfl rfl)
theorem dX11_takes_22 : decode cX11_takes 22 = .ok (.iload_n 2, 1) := dk_28 (dk_at dksX11_takes_0 22 rfl rfl)
theorem dX11_takes_23 : decode cX11_takes 23 = .ok (.ireturn, 1) := dk_172 (dk_at dksX11_takes_0 23 rfl rfl)
def dkwX11_goesOn_1 : List UInt8 := [27, 182, 1, 106, 154, 0, 7, 4, 167, 0, 4, 3, 172]
abbrev dktX11_goesOn_1 : List UInt8 := dkwX11_goesOn_1 ++ []
def dkwX11_goesOn_0 : List UInt8 := [27, 16, 30, 162, 0, 32, 42, 180, 1, 103, 154, 0, 13, 42, 180, 0, 13, 6, 46, 27, 159, 0, 15, 42]
abbrev dktX11_goesOn_0 : List UInt8 := dkwX11_goesOn_0 ++ dktX11_goesOn_1
theorem dksX11_goesOn_0 : cX11_goesOn.data.toList.drop 0 = dktX11_goesOn_0 := by decide +kernel
theorem dksX11_goesOn_1 : cX11_goesOn.data.toList.drop 24 = dktX11_goesOn_1 := dk_seg dksX11_goesOn_0 24 rfl rfl
theorem dX11_goesOn_0 : decode cX11_goesOn 0 = .ok (.iload_n 1, 1) := dk_27 (dk_at dksX11_goesOn_0 0 rfl rfl)
theorem dX11_goesOn_1 : decode cX11_goesOn 1 = .ok (.bipush 30, 2) := dk_16 30 (dk_at dksX11_goesOn_0 1 rfl rfl)
theorem dX11_goesOn_3 : decode cX11_goesOn 3 = .ok (.if_icmp .ge 32, 3) := dk_162 0 32 (dk_at dksX11_goesOn_0 3 rfl rfl)
theorem dX11_goesOn_6 : decode cX11_goesOn 6 = .ok (.aload_n 0, 1) := dk_42 (dk_at dksX11_goesOn_0 6 rfl rfl)
theorem dX11_goesOn_7 : decode cX11_goesOn 7 = .ok (.getfield 359, 3) := dk_180 1 103 (dk_at dksX11_goesOn_0 7 rfl rfl)
theorem dX11_goesOn_10 : decode cX11_goesOn 10 = .ok (.ifCond .ne 13, 3) := dk_154 0 13 (dk_at dksX11_goesOn_0 10 rfl rfl)
theorem dX11_goesOn_13 : decode cX11_goesOn 13 = .ok (.aload_n 0, 1) := dk_42 (dk_at dksX11_goesOn_0 13 rfl rfl)
theorem dX11_goesOn_14 : decode cX11_goesOn 14 = .ok (.getfield 13, 3) := dk_180 0 13 (dk_at dksX11_goesOn_0 14 rfl rfl)
theorem dX11_goesOn_17 : decode cX11_goesOn 17 = .ok (.iconst 3, 1) := dk_6 (dk_at dksX11_goesOn_0 17 rfl rfl)
theorem dX11_goesOn_18 : decode cX11_goesOn 18 = .ok (.iaload, 1) := dk_46 (dk_at dksX11_goesOn_0 18 rfl rfl)
theorem dX11_goesOn_19 : decode cX11_goesOn 19 = .ok (.iload_n 1, 1) := dk_27 (dk_at dksX11_goesOn_0 19 rfl rfl)
theorem dX11_goesOn_20 : decode cX11_goesOn 20 = .ok (.if_icmp .eq 15, 3) := dk_159 0 15 (dk_at dksX11_goesOn_0 20 rfl rfl)
theorem dX11_goesOn_23 : decode cX11_goesOn 23 = .ok (.aload_n 0, 1) := dk_42 (dk_at dksX11_goesOn_0 23 rfl rfl)
theorem dX11_goesOn_24 : decode cX11_goesOn 24 = .ok (.iload_n 1, 1) := dk_27 (dk_at dksX11_goesOn_1 0 rfl rfl)
theorem dX11_goesOn_25 : decode cX11_goesOn 25 = .ok (.invokevirtual 362, 3) := dk_182 1 106 (dk_at dksX11_goesOn_1 1 rfl rfl)
theorem dX11_goesOn_28 : decode cX11_goesOn 28 = .ok (.ifCond .ne 7, 3) := dk_154 0 7 (dk_at dksX11_goesOn_1 4 rfl rfl)
theorem dX11_goesOn_31 : decode cX11_goesOn 31 = .ok (.iconst 1, 1) := dk_4 (dk_at dksX11_goesOn_1 7 rfl rfl)
theorem dX11_goesOn_32 : decode cX11_goesOn 32 = .ok (.goto 4, 3) := dk_167 0 4 (dk_at dksX11_goesOn_1 8 rfl rfl)
theorem dX11_goesOn_35 : decode cX11_goesOn 35 = .ok (.iconst 0, 1) := dk_3 (dk_at dksX11_goesOn_1 11 rfl rfl)
theorem dX11_goesOn_36 : decode cX11_goesOn 36 = .ok (.ireturn, 1) := dk_172 (dk_at dksX11_goesOn_1 12 rfl rfl)
def dkwX11_makes_3 : List UInt8 := [108, 96, 2, 79, 177]
abbrev dktX11_makes_3 : List UInt8 := dkwX11_makes_3 ++ []
def dkwX11_makes_2 : List UInt8 := [96, 42, 27, 28, 16, 36, 108, 182, 1, 23, 79, 42, 180, 0, 39, 16, 36, 27, 4, 96, 104, 28, 16, 36]
abbrev dktX11_makes_2 : List UInt8 := dkwX11_makes_2 ++ dktX11_makes_3
def dkwX11_makes_1 : List UInt8 := [182, 1, 23, 79, 132, 3, 1, 167, 255, 228, 42, 180, 0, 39, 16, 36, 27, 4, 96, 104, 28, 16, 36, 112]
abbrev dktX11_makes_1 : List UInt8 := dkwX11_makes_1 ++ dktX11_makes_2
def dkwX11_makes_0 : List UInt8 := [3, 62, 29, 16, 36, 162, 0, 28, 42, 180, 0, 39, 16, 36, 27, 4, 96, 104, 29, 96, 42, 27, 29]
abbrev dktX11_makes_0 : List UInt8 := dkwX11_makes_0 ++ dktX11_makes_1
theorem dksX11_makes_0 : cX11_makes.data.toList.drop 0 = dktX11_makes_0 := by decide +kernel
theorem dksX11_makes_1 : cX11_makes.data.toList.drop 23 = dktX11_makes_1 := dk_seg dksX11_makes_0 23 rfl rfl
theorem dksX11_makes_2 : cX11_makes.data.toList.drop 47 = dktX11_makes_2 := dk_seg dksX11_makes_1 24 rfl rfl
theorem dksX11_makes_3 : cX11_makes.data.toList.drop 71 = dktX11_makes_3 := dk_seg dksX11_makes_2 24 rfl rfl
theorem dX11_makes_0 : decode cX11_makes 0 = .ok (.iconst 0, 1) := dk_3 (dk_at dksX11_makes_0 0 rfl rfl)
theorem dX11_makes_1 : decode cX11_makes 1 = .ok (.istore_n 3, 1) := dk_62 (dk_at dksX11_makes_0 1 rfl rfl)
theorem dX11_makes_2 : decode cX11_makes 2 = .ok (.iload_n 3, 1) := dk_29 (dk_at dksX11_makes_0 2 rfl rfl)
theorem dX11_makes_3 : decode cX11_makes 3 = .ok (.bipush 36, 2) := dk_16 36 (dk_at dksX11_makes_0 3 rfl rfl)
theorem dX11_makes_5 : decode cX11_makes 5 = .ok (.if_icmp .ge 28, 3) := dk_162 0 28 (dk_at dksX11_makes_0 5 rfl rfl)
theorem dX11_makes_8 : decode cX11_makes 8 = .ok (.aload_n 0, 1) := dk_42 (dk_at dksX11_makes_0 8 rfl rfl)
theorem dX11_makes_9 : decode cX11_makes 9 = .ok (.getfield 39, 3) := dk_180 0 39 (dk_at dksX11_makes_0 9 rfl rfl)
theorem dX11_makes_12 : decode cX11_makes 12 = .ok (.bipush 36, 2) := dk_16 36 (dk_at dksX11_makes_0 12 rfl rfl)
theorem dX11_makes_14 : decode cX11_makes 14 = .ok (.iload_n 1, 1) := dk_27 (dk_at dksX11_makes_0 14 rfl rfl)
theorem dX11_makes_15 : decode cX11_makes 15 = .ok (.iconst 1, 1) := dk_4 (dk_at dksX11_makes_0 15 rfl rfl)
theorem dX11_makes_16 : decode cX11_makes 16 = .ok (.iadd, 1) := dk_96 (dk_at dksX11_makes_0 16 rfl rfl)
theorem dX11_makes_17 : decode cX11_makes 17 = .ok (.imul, 1) := dk_104 (dk_at dksX11_makes_0 17 rfl rfl)
theorem dX11_makes_18 : decode cX11_makes 18 = .ok (.iload_n 3, 1) := dk_29 (dk_at dksX11_makes_0 18 rfl rfl)
theorem dX11_makes_19 : decode cX11_makes 19 = .ok (.iadd, 1) := dk_96 (dk_at dksX11_makes_0 19 rfl rfl)
theorem dX11_makes_20 : decode cX11_makes 20 = .ok (.aload_n 0, 1) := dk_42 (dk_at dksX11_makes_0 20 rfl rfl)
theorem dX11_makes_21 : decode cX11_makes 21 = .ok (.iload_n 1, 1) := dk_27 (dk_at dksX11_makes_0 21 rfl rfl)
theorem dX11_makes_22 : decode cX11_makes 22 = .ok (.iload_n 3, 1) := dk_29 (dk_at dksX11_makes_0 22 rfl rfl)
theorem dX11_makes_23 : decode cX11_makes 23 = .ok (.invokevirtual 279, 3) := dk_182 1 23 (dk_at dksX11_makes_1 0 rfl rfl)
theorem dX11_makes_26 : decode cX11_makes 26 = .ok (.iastore, 1) := dk_79 (dk_at dksX11_makes_1 3 rfl rfl)
theorem dX11_makes_27 : decode cX11_makes 27 = .ok (.iinc 3 1, 3) := dk_132 3 1 (dk_at dksX11_makes_1 4 rfl rfl)
theorem dX11_makes_30 : decode cX11_makes 30 = .ok (.goto (-28), 3) := dk_167 255 228 (dk_at dksX11_makes_1 7 rfl rfl)
theorem dX11_makes_33 : decode cX11_makes 33 = .ok (.aload_n 0, 1) := dk_42 (dk_at dksX11_makes_1 10 rfl rfl)
theorem dX11_makes_34 : decode cX11_makes 34 = .ok (.getfield 39, 3) := dk_180 0 39 (dk_at dksX11_makes_1 11 rfl rfl)
theorem dX11_makes_37 : decode cX11_makes 37 = .ok (.bipush 36, 2) := dk_16 36 (dk_at dksX11_makes_1 14 rfl rfl)
theorem dX11_makes_39 : decode cX11_makes 39 = .ok (.iload_n 1, 1) := dk_27 (dk_at dksX11_makes_1 16 rfl rfl)
theorem dX11_makes_40 : decode cX11_makes 40 = .ok (.iconst 1, 1) := dk_4 (dk_at dksX11_makes_1 17 rfl rfl)
theorem dX11_makes_41 : decode cX11_makes 41 = .ok (.iadd, 1) := dk_96 (dk_at dksX11_makes_1 18 rfl rfl)
theorem dX11_makes_42 : decode cX11_makes 42 = .ok (.imul, 1) := dk_104 (dk_at dksX11_makes_1 19 rfl rfl)
theorem dX11_makes_43 : decode cX11_makes 43 = .ok (.iload_n 2, 1) := dk_28 (dk_at dksX11_makes_1 20 rfl rfl)
theorem dX11_makes_44 : decode cX11_makes 44 = .ok (.bipush 36, 2) := dk_16 36 (dk_at dksX11_makes_1 21 rfl rfl)
theorem dX11_makes_46 : decode cX11_makes 46 = .ok (.irem, 1) := dk_112 (dk_at dksX11_makes_1 23 rfl rfl)
theorem dX11_makes_47 : decode cX11_makes 47 = .ok (.iadd, 1) := dk_96 (dk_at dksX11_makes_2 0 rfl rfl)
theorem dX11_makes_48 : decode cX11_makes 48 = .ok (.aload_n 0, 1) := dk_42 (dk_at dksX11_makes_2 1 rfl rfl)
theorem dX11_makes_49 : decode cX11_makes 49 = .ok (.iload_n 1, 1) := dk_27 (dk_at dksX11_makes_2 2 rfl rfl)
theorem dX11_makes_50 : decode cX11_makes 50 = .ok (.iload_n 2, 1) := dk_28 (dk_at dksX11_makes_2 3 rfl rfl)
theorem dX11_makes_51 : decode cX11_makes 51 = .ok (.bipush 36, 2) := dk_16 36 (dk_at dksX11_makes_2 4 rfl rfl)
theorem dX11_makes_53 : decode cX11_makes 53 = .ok (.idiv, 1) := dk_108 (dk_at dksX11_makes_2 6 rfl rfl)
theorem dX11_makes_54 : decode cX11_makes 54 = .ok (.invokevirtual 279, 3) := dk_182 1 23 (dk_at dksX11_makes_2 7 rfl rfl)
theorem dX11_makes_57 : decode cX11_makes 57 = .ok (.iastore, 1) := dk_79 (dk_at dksX11_makes_2 10 rfl rfl)
theorem dX11_makes_58 : decode cX11_makes 58 = .ok (.aload_n 0, 1) := dk_42 (dk_at dksX11_makes_2 11 rfl rfl)
theorem dX11_makes_59 : decode cX11_makes 59 = .ok (.getfield 39, 3) := dk_180 0 39 (dk_at dksX11_makes_2 12 rfl rfl)
theorem dX11_makes_62 : decode cX11_makes 62 = .ok (.bipush 36, 2) := dk_16 36 (dk_at dksX11_makes_2 15 rfl rfl)
theorem dX11_makes_64 : decode cX11_makes 64 = .ok (.iload_n 1, 1) := dk_27 (dk_at dksX11_makes_2 17 rfl rfl)
theorem dX11_makes_65 : decode cX11_makes 65 = .ok (.iconst 1, 1) := dk_4 (dk_at dksX11_makes_2 18 rfl rfl)
theorem dX11_makes_66 : decode cX11_makes 66 = .ok (.iadd, 1) := dk_96 (dk_at dksX11_makes_2 19 rfl rfl)
theorem dX11_makes_67 : decode cX11_makes 67 = .ok (.imul, 1) := dk_104 (dk_at dksX11_makes_2 20 rfl rfl)
theorem dX11_makes_68 : decode cX11_makes 68 = .ok (.iload_n 2, 1) := dk_28 (dk_at dksX11_makes_2 21 rfl rfl)
theorem dX11_makes_69 : decode cX11_makes 69 = .ok (.bipush 36, 2) := dk_16 36 (dk_at dksX11_makes_2 22 rfl rfl)
theorem dX11_makes_71 : decode cX11_makes 71 = .ok (.idiv, 1) := dk_108 (dk_at dksX11_makes_3 0 rfl rfl)
theorem dX11_makes_72 : decode cX11_makes 72 = .ok (.iadd, 1) := dk_96 (dk_at dksX11_makes_3 1 rfl rfl)
theorem dX11_makes_73 : decode cX11_makes 73 = .ok (.iconst (-1), 1) := dk_2 (dk_at dksX11_makes_3 2 rfl rfl)
theorem dX11_makes_74 : decode cX11_makes 74 = .ok (.iastore, 1) := dk_79 (dk_at dksX11_makes_3 3 rfl rfl)
theorem dX11_makes_75 : decode cX11_makes 75 = .ok (.return_, 1) := dk_177 (dk_at dksX11_makes_3 4 rfl rfl)
def dkwX11_tries_11 : List UInt8 := [28, 29, 184, 1, 73, 21, 11, 79, 177]
abbrev dktX11_tries_11 : List UInt8 := dkwX11_tries_11 ++ []
def dkwX11_tries_10 : List UInt8 := [132, 12, 1, 167, 255, 152, 42, 180, 0, 56, 27, 28, 29, 184, 1, 73, 21, 10, 79, 42, 180, 0, 59, 27]
abbrev dktX11_tries_10 : List UInt8 := dkwX11_tries_10 ++ dktX11_tries_11
def dkwX11_tries_9 : List UInt8 := [21, 10, 162, 0, 8, 21, 12, 167, 0, 5, 21, 11, 54, 11, 21, 10, 21, 13, 184, 1, 70, 54, 10]
abbrev dktX11_tries_9 : List UInt8 := dkwX11_tries_9 ++ dktX11_tries_10
def dkwX11_tries_8 : List UInt8 := [167, 0, 46, 21, 12, 154, 0, 7, 3, 167, 0, 10, 42, 180, 0, 50, 21, 12, 46, 54, 13, 21, 13]
abbrev dktX11_tries_8 : List UInt8 := dkwX11_tries_8 ++ dktX11_tries_9
def dkwX11_tries_7 : List UInt8 := [182, 1, 16, 42, 28, 29, 6, 182, 1, 16, 21, 6, 16, 6, 112, 21, 7, 184, 1, 66, 154, 0, 6]
abbrev dktX11_tries_7 : List UInt8 := dkwX11_tries_7 ++ dktX11_tries_8
def dkwX11_tries_6 : List UInt8 := [158, 0, 13, 42, 180, 0, 50, 21, 12, 46, 153, 0, 82, 21, 12, 21, 8, 21, 9, 42, 28, 29, 5]
abbrev dktX11_tries_6 : List UInt8 := dkwX11_tries_6 ++ dktX11_tries_7
def dkwX11_tries_5 : List UInt8 := [54, 9, 17, 3, 232, 54, 10, 3, 54, 11, 3, 54, 12, 21, 12, 16, 6, 162, 0, 103, 21, 12]
abbrev dktX11_tries_5 : List UInt8 := dkwX11_tries_5 ++ dktX11_tries_6
def dkwX11_tries_4 : List UInt8 := [42, 28, 29, 4, 182, 1, 16, 21, 4, 16, 36, 108, 16, 6, 112, 160, 0, 7, 4, 167, 0, 4, 3]
abbrev dktX11_tries_4 : List UInt8 := dkwX11_tries_4 ++ dktX11_tries_5
def dkwX11_tries_3 : List UInt8 := [21, 5, 5, 108, 160, 0, 7, 4, 167, 0, 4, 3, 54, 8, 42, 28, 29, 4, 182, 1, 16, 155, 0, 21]
abbrev dktX11_tries_3 : List UInt8 := dkwX11_tries_3 ++ dktX11_tries_4
def dkwX11_tries_2 : List UInt8 := [21, 6, 16, 6, 108, 100, 167, 0, 8, 21, 6, 16, 6, 108, 54, 7, 42, 28, 29, 3, 182, 1, 16]
abbrev dktX11_tries_2 : List UInt8 := dkwX11_tries_2 ++ dktX11_tries_3
def dkwX11_tries_1 : List UInt8 := [112, 54, 6, 42, 180, 0, 47, 28, 46, 4, 160, 0, 22, 21, 5, 184, 1, 26, 4, 160, 0, 13, 8]
abbrev dktX11_tries_1 : List UInt8 := dkwX11_tries_1 ++ dktX11_tries_2
def dkwX11_tries_0 : List UInt8 := [42, 180, 0, 53, 27, 46, 54, 4, 42, 27, 21, 4, 16, 36, 108, 182, 1, 23, 54, 5, 21, 4, 16, 36]
abbrev dktX11_tries_0 : List UInt8 := dkwX11_tries_0 ++ dktX11_tries_1
theorem dksX11_tries_0 : cX11_tries.data.toList.drop 0 = dktX11_tries_0 := by decide +kernel
theorem dksX11_tries_1 : cX11_tries.data.toList.drop 24 = dktX11_tries_1 := dk_seg dksX11_tries_0 24 rfl rfl
theorem dksX11_tries_2 : cX11_tries.data.toList.drop 47 = dktX11_tries_2 := dk_seg dksX11_tries_1 23 rfl rfl
theorem dksX11_tries_3 : cX11_tries.data.toList.drop 70 = dktX11_tries_3 := dk_seg dksX11_tries_2 23 rfl rfl
theorem dksX11_tries_4 : cX11_tries.data.toList.drop 94 = dktX11_tries_4 := dk_seg dksX11_tries_3 24 rfl rfl
theorem dksX11_tries_5 : cX11_tries.data.toList.drop 117 = dktX11_tries_5 := dk_seg dksX11_tries_4 23 rfl rfl
theorem dksX11_tries_6 : cX11_tries.data.toList.drop 139 = dktX11_tries_6 := dk_seg dksX11_tries_5 22 rfl rfl
theorem dksX11_tries_7 : cX11_tries.data.toList.drop 162 = dktX11_tries_7 := dk_seg dksX11_tries_6 23 rfl rfl
theorem dksX11_tries_8 : cX11_tries.data.toList.drop 185 = dktX11_tries_8 := dk_seg dksX11_tries_7 23 rfl rfl
theorem dksX11_tries_9 : cX11_tries.data.toList.drop 208 = dktX11_tries_9 := dk_seg dksX11_tries_8 23 rfl rfl
theorem dksX11_tries_10 : cX11_tries.data.toList.drop 231 = dktX11_tries_10 := dk_seg dksX11_tries_9 23 rfl rfl
theorem dksX11_tries_11 : cX11_tries.data.toList.drop 255 = dktX11_tries_11 := dk_seg dksX11_tries_10 24 rfl rfl
theorem dX11_tries_0 : decode cX11_tries 0 = .ok (.aload_n 0, 1) := dk_42 (dk_at dksX11_tries_0 0 rfl rfl)
theorem dX11_tries_1 : decode cX11_tries 1 = .ok (.getfield 53, 3) := dk_180 0 53 (dk_at dksX11_tries_0 1 rfl rfl)
theorem dX11_tries_4 : decode cX11_tries 4 = .ok (.iload_n 1, 1) := dk_27 (dk_at dksX11_tries_0 4 rfl rfl)
theorem dX11_tries_5 : decode cX11_tries 5 = .ok (.iaload, 1) := dk_46 (dk_at dksX11_tries_0 5 rfl rfl)
theorem dX11_tries_6 : decode cX11_tries 6 = .ok (.istore 4, 2) := dk_54 4 (dk_at dksX11_tries_0 6 rfl rfl)
theorem dX11_tries_8 : decode cX11_tries 8 = .ok (.aload_n 0, 1) := dk_42 (dk_at dksX11_tries_0 8 rfl rfl)
theorem dX11_tries_9 : decode cX11_tries 9 = .ok (.iload_n 1, 1) := dk_27 (dk_at dksX11_tries_0 9 rfl rfl)
theorem dX11_tries_10 : decode cX11_tries 10 = .ok (.iload 4, 2) := dk_21 4 (dk_at dksX11_tries_0 10 rfl rfl)
theorem dX11_tries_12 : decode cX11_tries 12 = .ok (.bipush 36, 2) := dk_16 36 (dk_at dksX11_tries_0 12 rfl rfl)
theorem dX11_tries_14 : decode cX11_tries 14 = .ok (.idiv, 1) := dk_108 (dk_at dksX11_tries_0 14 rfl rfl)
theorem dX11_tries_15 : decode cX11_tries 15 = .ok (.invokevirtual 279, 3) := dk_182 1 23 (dk_at dksX11_tries_0 15 rfl rfl)
theorem dX11_tries_18 : decode cX11_tries 18 = .ok (.istore 5, 2) := dk_54 5 (dk_at dksX11_tries_0 18 rfl rfl)
theorem dX11_tries_20 : decode cX11_tries 20 = .ok (.iload 4, 2) := dk_21 4 (dk_at dksX11_tries_0 20 rfl rfl)
theorem dX11_tries_22 : decode cX11_tries 22 = .ok (.bipush 36, 2) := dk_16 36 (dk_at dksX11_tries_0 22 rfl rfl)
theorem dX11_tries_24 : decode cX11_tries 24 = .ok (.irem, 1) := dk_112 (dk_at dksX11_tries_1 0 rfl rfl)
theorem dX11_tries_25 : decode cX11_tries 25 = .ok (.istore 6, 2) := dk_54 6 (dk_at dksX11_tries_1 1 rfl rfl)
theorem dX11_tries_27 : decode cX11_tries 27 = .ok (.aload_n 0, 1) := dk_42 (dk_at dksX11_tries_1 3 rfl rfl)
theorem dX11_tries_28 : decode cX11_tries 28 = .ok (.getfield 47, 3) := dk_180 0 47 (dk_at dksX11_tries_1 4 rfl rfl)
theorem dX11_tries_31 : decode cX11_tries 31 = .ok (.iload_n 2, 1) := dk_28 (dk_at dksX11_tries_1 7 rfl rfl)
theorem dX11_tries_32 : decode cX11_tries 32 = .ok (.iaload, 1) := dk_46 (dk_at dksX11_tries_1 8 rfl rfl)
theorem dX11_tries_33 : decode cX11_tries 33 = .ok (.iconst 1, 1) := dk_4 (dk_at dksX11_tries_1 9 rfl rfl)
theorem dX11_tries_34 : decode cX11_tries 34 = .ok (.if_icmp .ne 22, 3) := dk_160 0 22 (dk_at dksX11_tries_1 10 rfl rfl)
theorem dX11_tries_37 : decode cX11_tries 37 = .ok (.iload 5, 2) := dk_21 5 (dk_at dksX11_tries_1 13 rfl rfl)
theorem dX11_tries_39 : decode cX11_tries 39 = .ok (.invokestatic 282, 3) := dk_184 1 26 (dk_at dksX11_tries_1 15 rfl rfl)
theorem dX11_tries_42 : decode cX11_tries 42 = .ok (.iconst 1, 1) := dk_4 (dk_at dksX11_tries_1 18 rfl rfl)
theorem dX11_tries_43 : decode cX11_tries 43 = .ok (.if_icmp .ne 13, 3) := dk_160 0 13 (dk_at dksX11_tries_1 19 rfl rfl)
theorem dX11_tries_46 : decode cX11_tries 46 = .ok (.iconst 5, 1) := dk_8 (dk_at dksX11_tries_1 22 rfl rfl)
theorem dX11_tries_47 : decode cX11_tries 47 = .ok (.iload 6, 2) := dk_21 6 (dk_at dksX11_tries_2 0 rfl rfl)
theorem dX11_tries_49 : decode cX11_tries 49 = .ok (.bipush 6, 2) := dk_16 6 (dk_at dksX11_tries_2 2 rfl rfl)
theorem dX11_tries_51 : decode cX11_tries 51 = .ok (.idiv, 1) := dk_108 (dk_at dksX11_tries_2 4 rfl rfl)
theorem dX11_tries_52 : decode cX11_tries 52 = .ok (.isub, 1) := dk_100 (dk_at dksX11_tries_2 5 rfl rfl)
theorem dX11_tries_53 : decode cX11_tries 53 = .ok (.goto 8, 3) := dk_167 0 8 (dk_at dksX11_tries_2 6 rfl rfl)
theorem dX11_tries_56 : decode cX11_tries 56 = .ok (.iload 6, 2) := dk_21 6 (dk_at dksX11_tries_2 9 rfl rfl)
theorem dX11_tries_58 : decode cX11_tries 58 = .ok (.bipush 6, 2) := dk_16 6 (dk_at dksX11_tries_2 11 rfl rfl)
theorem dX11_tries_60 : decode cX11_tries 60 = .ok (.idiv, 1) := dk_108 (dk_at dksX11_tries_2 13 rfl rfl)
theorem dX11_tries_61 : decode cX11_tries 61 = .ok (.istore 7, 2) := dk_54 7 (dk_at dksX11_tries_2 14 rfl rfl)
theorem dX11_tries_63 : decode cX11_tries 63 = .ok (.aload_n 0, 1) := dk_42 (dk_at dksX11_tries_2 16 rfl rfl)
theorem dX11_tries_64 : decode cX11_tries 64 = .ok (.iload_n 2, 1) := dk_28 (dk_at dksX11_tries_2 17 rfl rfl)
theorem dX11_tries_65 : decode cX11_tries 65 = .ok (.iload_n 3, 1) := dk_29 (dk_at dksX11_tries_2 18 rfl rfl)
theorem dX11_tries_66 : decode cX11_tries 66 = .ok (.iconst 0, 1) := dk_3 (dk_at dksX11_tries_2 19 rfl rfl)
theorem dX11_tries_67 : decode cX11_tries 67 = .ok (.invokevirtual 272, 3) := dk_182 1 16 (dk_at dksX11_tries_2 20 rfl rfl)
theorem dX11_tries_70 : decode cX11_tries 70 = .ok (.iload 5, 2) := dk_21 5 (dk_at dksX11_tries_3 0 rfl rfl)
theorem dX11_tries_72 : decode cX11_tries 72 = .ok (.iconst 2, 1) := dk_5 (dk_at dksX11_tries_3 2 rfl rfl)
theorem dX11_tries_73 : decode cX11_tries 73 = .ok (.idiv, 1) := dk_108 (dk_at dksX11_tries_3 3 rfl rfl)
theorem dX11_tries_74 : decode cX11_tries 74 = .ok (.if_icmp .ne 7, 3) := dk_160 0 7 (dk_at dksX11_tries_3 4 rfl rfl)
theorem dX11_tries_77 : decode cX11_tries 77 = .ok (.iconst 1, 1) := dk_4 (dk_at dksX11_tries_3 7 rfl rfl)
theorem dX11_tries_78 : decode cX11_tries 78 = .ok (.goto 4, 3) := dk_167 0 4 (dk_at dksX11_tries_3 8 rfl rfl)
theorem dX11_tries_81 : decode cX11_tries 81 = .ok (.iconst 0, 1) := dk_3 (dk_at dksX11_tries_3 11 rfl rfl)
theorem dX11_tries_82 : decode cX11_tries 82 = .ok (.istore 8, 2) := dk_54 8 (dk_at dksX11_tries_3 12 rfl rfl)
theorem dX11_tries_84 : decode cX11_tries 84 = .ok (.aload_n 0, 1) := dk_42 (dk_at dksX11_tries_3 14 rfl rfl)
theorem dX11_tries_85 : decode cX11_tries 85 = .ok (.iload_n 2, 1) := dk_28 (dk_at dksX11_tries_3 15 rfl rfl)
theorem dX11_tries_86 : decode cX11_tries 86 = .ok (.iload_n 3, 1) := dk_29 (dk_at dksX11_tries_3 16 rfl rfl)
theorem dX11_tries_87 : decode cX11_tries 87 = .ok (.iconst 1, 1) := dk_4 (dk_at dksX11_tries_3 17 rfl rfl)
theorem dX11_tries_88 : decode cX11_tries 88 = .ok (.invokevirtual 272, 3) := dk_182 1 16 (dk_at dksX11_tries_3 18 rfl rfl)
theorem dX11_tries_91 : decode cX11_tries 91 = .ok (.ifCond .lt 21, 3) := dk_155 0 21 (dk_at dksX11_tries_3 21 rfl rfl)
theorem dX11_tries_94 : decode cX11_tries 94 = .ok (.aload_n 0, 1) := dk_42 (dk_at dksX11_tries_4 0 rfl rfl)
theorem dX11_tries_95 : decode cX11_tries 95 = .ok (.iload_n 2, 1) := dk_28 (dk_at dksX11_tries_4 1 rfl rfl)
theorem dX11_tries_96 : decode cX11_tries 96 = .ok (.iload_n 3, 1) := dk_29 (dk_at dksX11_tries_4 2 rfl rfl)
theorem dX11_tries_97 : decode cX11_tries 97 = .ok (.iconst 1, 1) := dk_4 (dk_at dksX11_tries_4 3 rfl rfl)
theorem dX11_tries_98 : decode cX11_tries 98 = .ok (.invokevirtual 272, 3) := dk_182 1 16 (dk_at dksX11_tries_4 4 rfl rfl)
theorem dX11_tries_101 : decode cX11_tries 101 = .ok (.iload 4, 2) := dk_21 4 (dk_at dksX11_tries_4 7 rfl rfl)
theorem dX11_tries_103 : decode cX11_tries 103 = .ok (.bipush 36, 2) := dk_16 36 (dk_at dksX11_tries_4 9 rfl rfl)
theorem dX11_tries_105 : decode cX11_tries 105 = .ok (.idiv, 1) := dk_108 (dk_at dksX11_tries_4 11 rfl rfl)
theorem dX11_tries_106 : decode cX11_tries 106 = .ok (.bipush 6, 2) := dk_16 6 (dk_at dksX11_tries_4 12 rfl rfl)
theorem dX11_tries_108 : decode cX11_tries 108 = .ok (.irem, 1) := dk_112 (dk_at dksX11_tries_4 14 rfl rfl)
theorem dX11_tries_109 : decode cX11_tries 109 = .ok (.if_icmp .ne 7, 3) := dk_160 0 7 (dk_at dksX11_tries_4 15 rfl rfl)
theorem dX11_tries_112 : decode cX11_tries 112 = .ok (.iconst 1, 1) := dk_4 (dk_at dksX11_tries_4 18 rfl rfl)
theorem dX11_tries_113 : decode cX11_tries 113 = .ok (.goto 4, 3) := dk_167 0 4 (dk_at dksX11_tries_4 19 rfl rfl)
theorem dX11_tries_116 : decode cX11_tries 116 = .ok (.iconst 0, 1) := dk_3 (dk_at dksX11_tries_4 22 rfl rfl)
theorem dX11_tries_117 : decode cX11_tries 117 = .ok (.istore 9, 2) := dk_54 9 (dk_at dksX11_tries_5 0 rfl rfl)
theorem dX11_tries_119 : decode cX11_tries 119 = .ok (.sipush 1000, 3) := dk_17 3 232 (dk_at dksX11_tries_5 2 rfl rfl)
theorem dX11_tries_122 : decode cX11_tries 122 = .ok (.istore 10, 2) := dk_54 10 (dk_at dksX11_tries_5 5 rfl rfl)
theorem dX11_tries_124 : decode cX11_tries 124 = .ok (.iconst 0, 1) := dk_3 (dk_at dksX11_tries_5 7 rfl rfl)
theorem dX11_tries_125 : decode cX11_tries 125 = .ok (.istore 11, 2) := dk_54 11 (dk_at dksX11_tries_5 8 rfl rfl)
theorem dX11_tries_127 : decode cX11_tries 127 = .ok (.iconst 0, 1) := dk_3 (dk_at dksX11_tries_5 10 rfl rfl)
theorem dX11_tries_128 : decode cX11_tries 128 = .ok (.istore 12, 2) := dk_54 12 (dk_at dksX11_tries_5 11 rfl rfl)
theorem dX11_tries_130 : decode cX11_tries 130 = .ok (.iload 12, 2) := dk_21 12 (dk_at dksX11_tries_5 13 rfl rfl)
theorem dX11_tries_132 : decode cX11_tries 132 = .ok (.bipush 6, 2) := dk_16 6 (dk_at dksX11_tries_5 15 rfl rfl)
theorem dX11_tries_134 : decode cX11_tries 134 = .ok (.if_icmp .ge 103, 3) := dk_162 0 103 (dk_at dksX11_tries_5 17 rfl rfl)
theorem dX11_tries_137 : decode cX11_tries 137 = .ok (.iload 12, 2) := dk_21 12 (dk_at dksX11_tries_5 20 rfl rfl)
theorem dX11_tries_139 : decode cX11_tries 139 = .ok (.ifCond .le 13, 3) := dk_158 0 13 (dk_at dksX11_tries_6 0 rfl rfl)
theorem dX11_tries_142 : decode cX11_tries 142 = .ok (.aload_n 0, 1) := dk_42 (dk_at dksX11_tries_6 3 rfl rfl)
theorem dX11_tries_143 : decode cX11_tries 143 = .ok (.getfield 50, 3) := dk_180 0 50 (dk_at dksX11_tries_6 4 rfl rfl)
theorem dX11_tries_146 : decode cX11_tries 146 = .ok (.iload 12, 2) := dk_21 12 (dk_at dksX11_tries_6 7 rfl rfl)
theorem dX11_tries_148 : decode cX11_tries 148 = .ok (.iaload, 1) := dk_46 (dk_at dksX11_tries_6 9 rfl rfl)
theorem dX11_tries_149 : decode cX11_tries 149 = .ok (.ifCond .eq 82, 3) := dk_153 0 82 (dk_at dksX11_tries_6 10 rfl rfl)
theorem dX11_tries_152 : decode cX11_tries 152 = .ok (.iload 12, 2) := dk_21 12 (dk_at dksX11_tries_6 13 rfl rfl)
theorem dX11_tries_154 : decode cX11_tries 154 = .ok (.iload 8, 2) := dk_21 8 (dk_at dksX11_tries_6 15 rfl rfl)
theorem dX11_tries_156 : decode cX11_tries 156 = .ok (.iload 9, 2) := dk_21 9 (dk_at dksX11_tries_6 17 rfl rfl)
theorem dX11_tries_158 : decode cX11_tries 158 = .ok (.aload_n 0, 1) := dk_42 (dk_at dksX11_tries_6 19 rfl rfl)
theorem dX11_tries_159 : decode cX11_tries 159 = .ok (.iload_n 2, 1) := dk_28 (dk_at dksX11_tries_6 20 rfl rfl)
theorem dX11_tries_160 : decode cX11_tries 160 = .ok (.iload_n 3, 1) := dk_29 (dk_at dksX11_tries_6 21 rfl rfl)
theorem dX11_tries_161 : decode cX11_tries 161 = .ok (.iconst 2, 1) := dk_5 (dk_at dksX11_tries_6 22 rfl rfl)
theorem dX11_tries_162 : decode cX11_tries 162 = .ok (.invokevirtual 272, 3) := dk_182 1 16 (dk_at dksX11_tries_7 0 rfl rfl)
theorem dX11_tries_165 : decode cX11_tries 165 = .ok (.aload_n 0, 1) := dk_42 (dk_at dksX11_tries_7 3 rfl rfl)
theorem dX11_tries_166 : decode cX11_tries 166 = .ok (.iload_n 2, 1) := dk_28 (dk_at dksX11_tries_7 4 rfl rfl)
theorem dX11_tries_167 : decode cX11_tries 167 = .ok (.iload_n 3, 1) := dk_29 (dk_at dksX11_tries_7 5 rfl rfl)
theorem dX11_tries_168 : decode cX11_tries 168 = .ok (.iconst 3, 1) := dk_6 (dk_at dksX11_tries_7 6 rfl rfl)
theorem dX11_tries_169 : decode cX11_tries 169 = .ok (.invokevirtual 272, 3) := dk_182 1 16 (dk_at dksX11_tries_7 7 rfl rfl)
theorem dX11_tries_172 : decode cX11_tries 172 = .ok (.iload 6, 2) := dk_21 6 (dk_at dksX11_tries_7 10 rfl rfl)
theorem dX11_tries_174 : decode cX11_tries 174 = .ok (.bipush 6, 2) := dk_16 6 (dk_at dksX11_tries_7 12 rfl rfl)
theorem dX11_tries_176 : decode cX11_tries 176 = .ok (.irem, 1) := dk_112 (dk_at dksX11_tries_7 14 rfl rfl)
theorem dX11_tries_177 : decode cX11_tries 177 = .ok (.iload 7, 2) := dk_21 7 (dk_at dksX11_tries_7 15 rfl rfl)
theorem dX11_tries_179 : decode cX11_tries 179 = .ok (.invokestatic 322, 3) := dk_184 1 66 (dk_at dksX11_tries_7 17 rfl rfl)
theorem dX11_tries_182 : decode cX11_tries 182 = .ok (.ifCond .ne 6, 3) := dk_154 0 6 (dk_at dksX11_tries_7 20 rfl rfl)
theorem dX11_tries_185 : decode cX11_tries 185 = .ok (.goto 46, 3) := dk_167 0 46 (dk_at dksX11_tries_8 0 rfl rfl)
theorem dX11_tries_188 : decode cX11_tries 188 = .ok (.iload 12, 2) := dk_21 12 (dk_at dksX11_tries_8 3 rfl rfl)
theorem dX11_tries_190 : decode cX11_tries 190 = .ok (.ifCond .ne 7, 3) := dk_154 0 7 (dk_at dksX11_tries_8 5 rfl rfl)
theorem dX11_tries_193 : decode cX11_tries 193 = .ok (.iconst 0, 1) := dk_3 (dk_at dksX11_tries_8 8 rfl rfl)
theorem dX11_tries_194 : decode cX11_tries 194 = .ok (.goto 10, 3) := dk_167 0 10 (dk_at dksX11_tries_8 9 rfl rfl)
theorem dX11_tries_197 : decode cX11_tries 197 = .ok (.aload_n 0, 1) := dk_42 (dk_at dksX11_tries_8 12 rfl rfl)
theorem dX11_tries_198 : decode cX11_tries 198 = .ok (.getfield 50, 3) := dk_180 0 50 (dk_at dksX11_tries_8 13 rfl rfl)
theorem dX11_tries_201 : decode cX11_tries 201 = .ok (.iload 12, 2) := dk_21 12 (dk_at dksX11_tries_8 16 rfl rfl)
theorem dX11_tries_203 : decode cX11_tries 203 = .ok (.iaload, 1) := dk_46 (dk_at dksX11_tries_8 18 rfl rfl)
theorem dX11_tries_204 : decode cX11_tries 204 = .ok (.istore 13, 2) := dk_54 13 (dk_at dksX11_tries_8 19 rfl rfl)
theorem dX11_tries_206 : decode cX11_tries 206 = .ok (.iload 13, 2) := dk_21 13 (dk_at dksX11_tries_8 21 rfl rfl)
theorem dX11_tries_208 : decode cX11_tries 208 = .ok (.iload 10, 2) := dk_21 10 (dk_at dksX11_tries_9 0 rfl rfl)
theorem dX11_tries_210 : decode cX11_tries 210 = .ok (.if_icmp .ge 8, 3) := dk_162 0 8 (dk_at dksX11_tries_9 2 rfl rfl)
theorem dX11_tries_213 : decode cX11_tries 213 = .ok (.iload 12, 2) := dk_21 12 (dk_at dksX11_tries_9 5 rfl rfl)
theorem dX11_tries_215 : decode cX11_tries 215 = .ok (.goto 5, 3) := dk_167 0 5 (dk_at dksX11_tries_9 7 rfl rfl)
theorem dX11_tries_218 : decode cX11_tries 218 = .ok (.iload 11, 2) := dk_21 11 (dk_at dksX11_tries_9 10 rfl rfl)
theorem dX11_tries_220 : decode cX11_tries 220 = .ok (.istore 11, 2) := dk_54 11 (dk_at dksX11_tries_9 12 rfl rfl)
theorem dX11_tries_222 : decode cX11_tries 222 = .ok (.iload 10, 2) := dk_21 10 (dk_at dksX11_tries_9 14 rfl rfl)
theorem dX11_tries_224 : decode cX11_tries 224 = .ok (.iload 13, 2) := dk_21 13 (dk_at dksX11_tries_9 16 rfl rfl)
theorem dX11_tries_226 : decode cX11_tries 226 = .ok (.invokestatic 326, 3) := dk_184 1 70 (dk_at dksX11_tries_9 18 rfl rfl)
theorem dX11_tries_229 : decode cX11_tries 229 = .ok (.istore 10, 2) := dk_54 10 (dk_at dksX11_tries_9 21 rfl rfl)
theorem dX11_tries_231 : decode cX11_tries 231 = .ok (.iinc 12 1, 3) := dk_132 12 1 (dk_at dksX11_tries_10 0 rfl rfl)
theorem dX11_tries_234 : decode cX11_tries 234 = .ok (.goto (-104), 3) := dk_167 255 152 (dk_at dksX11_tries_10 3 rfl rfl)
theorem dX11_tries_237 : decode cX11_tries 237 = .ok (.aload_n 0, 1) := dk_42 (dk_at dksX11_tries_10 6 rfl rfl)
theorem dX11_tries_238 : decode cX11_tries 238 = .ok (.getfield 56, 3) := dk_180 0 56 (dk_at dksX11_tries_10 7 rfl rfl)
theorem dX11_tries_241 : decode cX11_tries 241 = .ok (.iload_n 1, 1) := dk_27 (dk_at dksX11_tries_10 10 rfl rfl)
theorem dX11_tries_242 : decode cX11_tries 242 = .ok (.iload_n 2, 1) := dk_28 (dk_at dksX11_tries_10 11 rfl rfl)
theorem dX11_tries_243 : decode cX11_tries 243 = .ok (.iload_n 3, 1) := dk_29 (dk_at dksX11_tries_10 12 rfl rfl)
theorem dX11_tries_244 : decode cX11_tries 244 = .ok (.invokestatic 329, 3) := dk_184 1 73 (dk_at dksX11_tries_10 13 rfl rfl)
theorem dX11_tries_247 : decode cX11_tries 247 = .ok (.iload 10, 2) := dk_21 10 (dk_at dksX11_tries_10 16 rfl rfl)
theorem dX11_tries_249 : decode cX11_tries 249 = .ok (.iastore, 1) := dk_79 (dk_at dksX11_tries_10 18 rfl rfl)
theorem dX11_tries_250 : decode cX11_tries 250 = .ok (.aload_n 0, 1) := dk_42 (dk_at dksX11_tries_10 19 rfl rfl)
theorem dX11_tries_251 : decode cX11_tries 251 = .ok (.getfield 59, 3) := dk_180 0 59 (dk_at dksX11_tries_10 20 rfl rfl)
theorem dX11_tries_254 : decode cX11_tries 254 = .ok (.iload_n 1, 1) := dk_27 (dk_at dksX11_tries_10 23 rfl rfl)
theorem dX11_tries_255 : decode cX11_tries 255 = .ok (.iload_n 2, 1) := dk_28 (dk_at dksX11_tries_11 0 rfl rfl)
theorem dX11_tries_256 : decode cX11_tries 256 = .ok (.iload_n 3, 1) := dk_29 (dk_at dksX11_tries_11 1 rfl rfl)
theorem dX11_tries_257 : decode cX11_tries 257 = .ok (.invokestatic 329, 3) := dk_184 1 73 (dk_at dksX11_tries_11 2 rfl rfl)
theorem dX11_tries_260 : decode cX11_tries 260 = .ok (.iload 11, 2) := dk_21 11 (dk_at dksX11_tries_11 5 rfl rfl)
theorem dX11_tries_262 : decode cX11_tries 262 = .ok (.iastore, 1) := dk_79 (dk_at dksX11_tries_11 7 rfl rfl)
theorem dX11_tries_263 : decode cX11_tries 263 = .ok (.return_, 1) := dk_177 (dk_at dksX11_tries_11 8 rfl rfl)
def dkwX11_fits_9 : List UInt8 := [153, 0, 21, 28, 154, 0, 17, 21, 7, 153, 0, 12, 21, 8, 153, 0, 7, 4, 167, 0, 4, 3, 172]
abbrev dktX11_fits_9 : List UInt8 := dkwX11_fits_9 ++ []
def dkwX11_fits_8 : List UInt8 := [153, 0, 21, 21, 8, 154, 0, 16, 8, 21, 4, 100, 21, 6, 160, 0, 7, 4, 167, 0, 4, 3, 172, 27]
abbrev dktX11_fits_8 : List UInt8 := dkwX11_fits_8 ++ dktX11_fits_9
def dkwX11_fits_7 : List UInt8 := [184, 1, 61, 4, 160, 0, 7, 4, 167, 0, 4, 3, 172, 27, 153, 0, 30, 28, 153, 0, 26, 21, 7]
abbrev dktX11_fits_7 : List UInt8 := dkwX11_fits_7 ++ dktX11_fits_8
def dkwX11_fits_6 : List UInt8 := [4, 167, 0, 4, 3, 172, 27, 153, 0, 28, 28, 153, 0, 24, 21, 7, 153, 0, 19, 21, 4, 21, 6, 100]
abbrev dktX11_fits_6 : List UInt8 := dkwX11_fits_6 ++ dktX11_fits_7
def dkwX11_fits_5 : List UInt8 := [27, 153, 0, 27, 28, 153, 0, 23, 29, 21, 5, 100, 184, 1, 61, 4, 160, 0, 12, 21, 8, 153, 0, 7]
abbrev dktX11_fits_5 : List UInt8 := dkwX11_fits_5 ++ dktX11_fits_6
def dkwX11_fits_4 : List UInt8 := [27, 154, 0, 21, 28, 153, 0, 17, 21, 7, 153, 0, 12, 21, 8, 153, 0, 7, 4, 167, 0, 4, 3, 172]
abbrev dktX11_fits_4 : List UInt8 := dkwX11_fits_4 ++ dktX11_fits_5
def dkwX11_fits_3 : List UInt8 := [27, 153, 0, 21, 28, 153, 0, 17, 21, 7, 153, 0, 12, 21, 8, 153, 0, 7, 4, 167, 0, 4, 3, 172]
abbrev dktX11_fits_3 : List UInt8 := dkwX11_fits_3 ++ dktX11_fits_4
def dkwX11_fits_2 : List UInt8 := [170, 0, 0, 0, 0, 0, 0, 178, 0, 0, 0, 0, 0, 0, 0, 4, 0, 0, 0, 36, 0, 0, 0, 60, 0, 0, 0, 84, 0, 0, 0, 114, 0, 0, 0, 145]
abbrev dktX11_fits_2 : List UInt8 := dkwX11_fits_2 ++ dktX11_fits_3
def dkwX11_fits_1 : List UInt8 := [3, 54, 8, 26]
abbrev dktX11_fits_1 : List UInt8 := dkwX11_fits_1 ++ dktX11_fits_2
def dkwX11_fits_0 : List UInt8 := [29, 21, 5, 160, 0, 7, 4, 167, 0, 4, 3, 54, 7, 21, 4, 21, 6, 160, 0, 7, 4, 167, 0, 4]
abbrev dktX11_fits_0 : List UInt8 := dkwX11_fits_0 ++ dktX11_fits_1
theorem dksX11_fits_0 : cX11_fits.data.toList.drop 0 = dktX11_fits_0 := by decide +kernel
theorem dksX11_fits_1 : cX11_fits.data.toList.drop 24 = dktX11_fits_1 := dk_seg dksX11_fits_0 24 rfl rfl
theorem dksX11_fits_2 : cX11_fits.data.toList.drop 28 = dktX11_fits_2 := dk_seg dksX11_fits_1 4 rfl rfl
theorem dksX11_fits_3 : cX11_fits.data.toList.drop 64 = dktX11_fits_3 := dk_seg dksX11_fits_2 36 rfl rfl
theorem dksX11_fits_4 : cX11_fits.data.toList.drop 88 = dktX11_fits_4 := dk_seg dksX11_fits_3 24 rfl rfl
theorem dksX11_fits_5 : cX11_fits.data.toList.drop 112 = dktX11_fits_5 := dk_seg dksX11_fits_4 24 rfl rfl
theorem dksX11_fits_6 : cX11_fits.data.toList.drop 136 = dktX11_fits_6 := dk_seg dksX11_fits_5 24 rfl rfl
theorem dksX11_fits_7 : cX11_fits.data.toList.drop 160 = dktX11_fits_7 := dk_seg dksX11_fits_6 24 rfl rfl
theorem dksX11_fits_8 : cX11_fits.data.toList.drop 183 = dktX11_fits_8 := dk_seg dksX11_fits_7 23 rfl rfl
theorem dksX11_fits_9 : cX11_fits.data.toList.drop 207 = dktX11_fits_9 := dk_seg dksX11_fits_8 24 rfl rfl
theorem dX11_fits_0 : decode cX11_fits 0 = .ok (.iload_n 3, 1) := dk_29 (dk_at dksX11_fits_0 0 rfl rfl)
theorem dX11_fits_1 : decode cX11_fits 1 = .ok (.iload 5, 2) := dk_21 5 (dk_at dksX11_fits_0 1 rfl rfl)
theorem dX11_fits_3 : decode cX11_fits 3 = .ok (.if_icmp .ne 7, 3) := dk_160 0 7 (dk_at dksX11_fits_0 3 rfl rfl)
theorem dX11_fits_6 : decode cX11_fits 6 = .ok (.iconst 1, 1) := dk_4 (dk_at dksX11_fits_0 6 rfl rfl)
theorem dX11_fits_7 : decode cX11_fits 7 = .ok (.goto 4, 3) := dk_167 0 4 (dk_at dksX11_fits_0 7 rfl rfl)
theorem dX11_fits_10 : decode cX11_fits 10 = .ok (.iconst 0, 1) := dk_3 (dk_at dksX11_fits_0 10 rfl rfl)
theorem dX11_fits_11 : decode cX11_fits 11 = .ok (.istore 7, 2) := dk_54 7 (dk_at dksX11_fits_0 11 rfl rfl)
theorem dX11_fits_13 : decode cX11_fits 13 = .ok (.iload 4, 2) := dk_21 4 (dk_at dksX11_fits_0 13 rfl rfl)
theorem dX11_fits_15 : decode cX11_fits 15 = .ok (.iload 6, 2) := dk_21 6 (dk_at dksX11_fits_0 15 rfl rfl)
theorem dX11_fits_17 : decode cX11_fits 17 = .ok (.if_icmp .ne 7, 3) := dk_160 0 7 (dk_at dksX11_fits_0 17 rfl rfl)
theorem dX11_fits_20 : decode cX11_fits 20 = .ok (.iconst 1, 1) := dk_4 (dk_at dksX11_fits_0 20 rfl rfl)
theorem dX11_fits_21 : decode cX11_fits 21 = .ok (.goto 4, 3) := dk_167 0 4 (dk_at dksX11_fits_0 21 rfl rfl)
theorem dX11_fits_24 : decode cX11_fits 24 = .ok (.iconst 0, 1) := dk_3 (dk_at dksX11_fits_1 0 rfl rfl)
theorem dX11_fits_25 : decode cX11_fits 25 = .ok (.istore 8, 2) := dk_54 8 (dk_at dksX11_fits_1 1 rfl rfl)
theorem dX11_fits_27 : decode cX11_fits 27 = .ok (.iload_n 0, 1) := dk_26 (dk_at dksX11_fits_1 3 rfl rfl)
theorem dX11_fits_28 : decode cX11_fits 28 = .ok (.tableswitch 178 0 4 #[36, 60, 84, 114, 145], 36) := by decide +kernel
theorem dX11_fits_64 : decode cX11_fits 64 = .ok (.iload_n 1, 1) := dk_27 (dk_at dksX11_fits_3 0 rfl rfl)
theorem dX11_fits_65 : decode cX11_fits 65 = .ok (.ifCond .eq 21, 3) := dk_153 0 21 (dk_at dksX11_fits_3 1 rfl rfl)
theorem dX11_fits_68 : decode cX11_fits 68 = .ok (.iload_n 2, 1) := dk_28 (dk_at dksX11_fits_3 4 rfl rfl)
theorem dX11_fits_69 : decode cX11_fits 69 = .ok (.ifCond .eq 17, 3) := dk_153 0 17 (dk_at dksX11_fits_3 5 rfl rfl)
theorem dX11_fits_72 : decode cX11_fits 72 = .ok (.iload 7, 2) := dk_21 7 (dk_at dksX11_fits_3 8 rfl rfl)
theorem dX11_fits_74 : decode cX11_fits 74 = .ok (.ifCond .eq 12, 3) := dk_153 0 12 (dk_at dksX11_fits_3 10 rfl rfl)
theorem dX11_fits_77 : decode cX11_fits 77 = .ok (.iload 8, 2) := dk_21 8 (dk_at dksX11_fits_3 13 rfl rfl)
theorem dX11_fits_79 : decode cX11_fits 79 = .ok (.ifCond .eq 7, 3) := dk_153 0 7 (dk_at dksX11_fits_3 15 rfl rfl)
theorem dX11_fits_82 : decode cX11_fits 82 = .ok (.iconst 1, 1) := dk_4 (dk_at dksX11_fits_3 18 rfl rfl)
theorem dX11_fits_83 : decode cX11_fits 83 = .ok (.goto 4, 3) := dk_167 0 4 (dk_at dksX11_fits_3 19 rfl rfl)
theorem dX11_fits_86 : decode cX11_fits 86 = .ok (.iconst 0, 1) := dk_3 (dk_at dksX11_fits_3 22 rfl rfl)
theorem dX11_fits_87 : decode cX11_fits 87 = .ok (.ireturn, 1) := dk_172 (dk_at dksX11_fits_3 23 rfl rfl)
theorem dX11_fits_88 : decode cX11_fits 88 = .ok (.iload_n 1, 1) := dk_27 (dk_at dksX11_fits_4 0 rfl rfl)
theorem dX11_fits_89 : decode cX11_fits 89 = .ok (.ifCond .ne 21, 3) := dk_154 0 21 (dk_at dksX11_fits_4 1 rfl rfl)
theorem dX11_fits_92 : decode cX11_fits 92 = .ok (.iload_n 2, 1) := dk_28 (dk_at dksX11_fits_4 4 rfl rfl)
theorem dX11_fits_93 : decode cX11_fits 93 = .ok (.ifCond .eq 17, 3) := dk_153 0 17 (dk_at dksX11_fits_4 5 rfl rfl)
theorem dX11_fits_96 : decode cX11_fits 96 = .ok (.iload 7, 2) := dk_21 7 (dk_at dksX11_fits_4 8 rfl rfl)
theorem dX11_fits_98 : decode cX11_fits 98 = .ok (.ifCond .eq 12, 3) := dk_153 0 12 (dk_at dksX11_fits_4 10 rfl rfl)
theorem dX11_fits_101 : decode cX11_fits 101 = .ok (.iload 8, 2) := dk_21 8 (dk_at dksX11_fits_4 13 rfl rfl)
theorem dX11_fits_103 : decode cX11_fits 103 = .ok (.ifCond .eq 7, 3) := dk_153 0 7 (dk_at dksX11_fits_4 15 rfl rfl)
theorem dX11_fits_106 : decode cX11_fits 106 = .ok (.iconst 1, 1) := dk_4 (dk_at dksX11_fits_4 18 rfl rfl)
theorem dX11_fits_107 : decode cX11_fits 107 = .ok (.goto 4, 3) := dk_167 0 4 (dk_at dksX11_fits_4 19 rfl rfl)
theorem dX11_fits_110 : decode cX11_fits 110 = .ok (.iconst 0, 1) := dk_3 (dk_at dksX11_fits_4 22 rfl rfl)
theorem dX11_fits_111 : decode cX11_fits 111 = .ok (.ireturn, 1) := dk_172 (dk_at dksX11_fits_4 23 rfl rfl)
theorem dX11_fits_112 : decode cX11_fits 112 = .ok (.iload_n 1, 1) := dk_27 (dk_at dksX11_fits_5 0 rfl rfl)
theorem dX11_fits_113 : decode cX11_fits 113 = .ok (.ifCond .eq 27, 3) := dk_153 0 27 (dk_at dksX11_fits_5 1 rfl rfl)
theorem dX11_fits_116 : decode cX11_fits 116 = .ok (.iload_n 2, 1) := dk_28 (dk_at dksX11_fits_5 4 rfl rfl)
theorem dX11_fits_117 : decode cX11_fits 117 = .ok (.ifCond .eq 23, 3) := dk_153 0 23 (dk_at dksX11_fits_5 5 rfl rfl)
theorem dX11_fits_120 : decode cX11_fits 120 = .ok (.iload_n 3, 1) := dk_29 (dk_at dksX11_fits_5 8 rfl rfl)
theorem dX11_fits_121 : decode cX11_fits 121 = .ok (.iload 5, 2) := dk_21 5 (dk_at dksX11_fits_5 9 rfl rfl)
theorem dX11_fits_123 : decode cX11_fits 123 = .ok (.isub, 1) := dk_100 (dk_at dksX11_fits_5 11 rfl rfl)
theorem dX11_fits_124 : decode cX11_fits 124 = .ok (.invokestatic 317, 3) := dk_184 1 61 (dk_at dksX11_fits_5 12 rfl rfl)
theorem dX11_fits_127 : decode cX11_fits 127 = .ok (.iconst 1, 1) := dk_4 (dk_at dksX11_fits_5 15 rfl rfl)
theorem dX11_fits_128 : decode cX11_fits 128 = .ok (.if_icmp .ne 12, 3) := dk_160 0 12 (dk_at dksX11_fits_5 16 rfl rfl)
theorem dX11_fits_131 : decode cX11_fits 131 = .ok (.iload 8, 2) := dk_21 8 (dk_at dksX11_fits_5 19 rfl rfl)
theorem dX11_fits_133 : decode cX11_fits 133 = .ok (.ifCond .eq 7, 3) := dk_153 0 7 (dk_at dksX11_fits_5 21 rfl rfl)
theorem dX11_fits_136 : decode cX11_fits 136 = .ok (.iconst 1, 1) := dk_4 (dk_at dksX11_fits_6 0 rfl rfl)
theorem dX11_fits_137 : decode cX11_fits 137 = .ok (.goto 4, 3) := dk_167 0 4 (dk_at dksX11_fits_6 1 rfl rfl)
theorem dX11_fits_140 : decode cX11_fits 140 = .ok (.iconst 0, 1) := dk_3 (dk_at dksX11_fits_6 4 rfl rfl)
theorem dX11_fits_141 : decode cX11_fits 141 = .ok (.ireturn, 1) := dk_172 (dk_at dksX11_fits_6 5 rfl rfl)
theorem dX11_fits_142 : decode cX11_fits 142 = .ok (.iload_n 1, 1) := dk_27 (dk_at dksX11_fits_6 6 rfl rfl)
theorem dX11_fits_143 : decode cX11_fits 143 = .ok (.ifCond .eq 28, 3) := dk_153 0 28 (dk_at dksX11_fits_6 7 rfl rfl)
theorem dX11_fits_146 : decode cX11_fits 146 = .ok (.iload_n 2, 1) := dk_28 (dk_at dksX11_fits_6 10 rfl rfl)
theorem dX11_fits_147 : decode cX11_fits 147 = .ok (.ifCond .eq 24, 3) := dk_153 0 24 (dk_at dksX11_fits_6 11 rfl rfl)
theorem dX11_fits_150 : decode cX11_fits 150 = .ok (.iload 7, 2) := dk_21 7 (dk_at dksX11_fits_6 14 rfl rfl)
theorem dX11_fits_152 : decode cX11_fits 152 = .ok (.ifCond .eq 19, 3) := dk_153 0 19 (dk_at dksX11_fits_6 16 rfl rfl)
theorem dX11_fits_155 : decode cX11_fits 155 = .ok (.iload 4, 2) := dk_21 4 (dk_at dksX11_fits_6 19 rfl rfl)
theorem dX11_fits_157 : decode cX11_fits 157 = .ok (.iload 6, 2) := dk_21 6 (dk_at dksX11_fits_6 21 rfl rfl)
theorem dX11_fits_159 : decode cX11_fits 159 = .ok (.isub, 1) := dk_100 (dk_at dksX11_fits_6 23 rfl rfl)
theorem dX11_fits_160 : decode cX11_fits 160 = .ok (.invokestatic 317, 3) := dk_184 1 61 (dk_at dksX11_fits_7 0 rfl rfl)
theorem dX11_fits_163 : decode cX11_fits 163 = .ok (.iconst 1, 1) := dk_4 (dk_at dksX11_fits_7 3 rfl rfl)
theorem dX11_fits_164 : decode cX11_fits 164 = .ok (.if_icmp .ne 7, 3) := dk_160 0 7 (dk_at dksX11_fits_7 4 rfl rfl)
theorem dX11_fits_167 : decode cX11_fits 167 = .ok (.iconst 1, 1) := dk_4 (dk_at dksX11_fits_7 7 rfl rfl)
theorem dX11_fits_168 : decode cX11_fits 168 = .ok (.goto 4, 3) := dk_167 0 4 (dk_at dksX11_fits_7 8 rfl rfl)
theorem dX11_fits_171 : decode cX11_fits 171 = .ok (.iconst 0, 1) := dk_3 (dk_at dksX11_fits_7 11 rfl rfl)
theorem dX11_fits_172 : decode cX11_fits 172 = .ok (.ireturn, 1) := dk_172 (dk_at dksX11_fits_7 12 rfl rfl)
theorem dX11_fits_173 : decode cX11_fits 173 = .ok (.iload_n 1, 1) := dk_27 (dk_at dksX11_fits_7 13 rfl rfl)
theorem dX11_fits_174 : decode cX11_fits 174 = .ok (.ifCond .eq 30, 3) := dk_153 0 30 (dk_at dksX11_fits_7 14 rfl rfl)
theorem dX11_fits_177 : decode cX11_fits 177 = .ok (.iload_n 2, 1) := dk_28 (dk_at dksX11_fits_7 17 rfl rfl)
theorem dX11_fits_178 : decode cX11_fits 178 = .ok (.ifCond .eq 26, 3) := dk_153 0 26 (dk_at dksX11_fits_7 18 rfl rfl)
theorem dX11_fits_181 : decode cX11_fits 181 = .ok (.iload 7, 2) := dk_21 7 (dk_at dksX11_fits_7 21 rfl rfl)
theorem dX11_fits_183 : decode cX11_fits 183 = .ok (.ifCond .eq 21, 3) := dk_153 0 21 (dk_at dksX11_fits_8 0 rfl rfl)
theorem dX11_fits_186 : decode cX11_fits 186 = .ok (.iload 8, 2) := dk_21 8 (dk_at dksX11_fits_8 3 rfl rfl)
theorem dX11_fits_188 : decode cX11_fits 188 = .ok (.ifCond .ne 16, 3) := dk_154 0 16 (dk_at dksX11_fits_8 5 rfl rfl)
theorem dX11_fits_191 : decode cX11_fits 191 = .ok (.iconst 5, 1) := dk_8 (dk_at dksX11_fits_8 8 rfl rfl)
theorem dX11_fits_192 : decode cX11_fits 192 = .ok (.iload 4, 2) := dk_21 4 (dk_at dksX11_fits_8 9 rfl rfl)
theorem dX11_fits_194 : decode cX11_fits 194 = .ok (.isub, 1) := dk_100 (dk_at dksX11_fits_8 11 rfl rfl)
theorem dX11_fits_195 : decode cX11_fits 195 = .ok (.iload 6, 2) := dk_21 6 (dk_at dksX11_fits_8 12 rfl rfl)
theorem dX11_fits_197 : decode cX11_fits 197 = .ok (.if_icmp .ne 7, 3) := dk_160 0 7 (dk_at dksX11_fits_8 14 rfl rfl)
theorem dX11_fits_200 : decode cX11_fits 200 = .ok (.iconst 1, 1) := dk_4 (dk_at dksX11_fits_8 17 rfl rfl)
theorem dX11_fits_201 : decode cX11_fits 201 = .ok (.goto 4, 3) := dk_167 0 4 (dk_at dksX11_fits_8 18 rfl rfl)
theorem dX11_fits_204 : decode cX11_fits 204 = .ok (.iconst 0, 1) := dk_3 (dk_at dksX11_fits_8 21 rfl rfl)
theorem dX11_fits_205 : decode cX11_fits 205 = .ok (.ireturn, 1) := dk_172 (dk_at dksX11_fits_8 22 rfl rfl)
theorem dX11_fits_206 : decode cX11_fits 206 = .ok (.iload_n 1, 1) := dk_27 (dk_at dksX11_fits_8 23 rfl rfl)
theorem dX11_fits_207 : decode cX11_fits 207 = .ok (.ifCond .eq 21, 3) := dk_153 0 21 (dk_at dksX11_fits_9 0 rfl rfl)
theorem dX11_fits_210 : decode cX11_fits 210 = .ok (.iload_n 2, 1) := dk_28 (dk_at dksX11_fits_9 3 rfl rfl)
theorem dX11_fits_211 : decode cX11_fits 211 = .ok (.ifCond .ne 17, 3) := dk_154 0 17 (dk_at dksX11_fits_9 4 rfl rfl)
theorem dX11_fits_214 : decode cX11_fits 214 = .ok (.iload 7, 2) := dk_21 7 (dk_at dksX11_fits_9 7 rfl rfl)
theorem dX11_fits_216 : decode cX11_fits 216 = .ok (.ifCond .eq 12, 3) := dk_153 0 12 (dk_at dksX11_fits_9 9 rfl rfl)
theorem dX11_fits_219 : decode cX11_fits 219 = .ok (.iload 8, 2) := dk_21 8 (dk_at dksX11_fits_9 12 rfl rfl)
theorem dX11_fits_221 : decode cX11_fits 221 = .ok (.ifCond .eq 7, 3) := dk_153 0 7 (dk_at dksX11_fits_9 14 rfl rfl)
theorem dX11_fits_224 : decode cX11_fits 224 = .ok (.iconst 1, 1) := dk_4 (dk_at dksX11_fits_9 17 rfl rfl)
theorem dX11_fits_225 : decode cX11_fits 225 = .ok (.goto 4, 3) := dk_167 0 4 (dk_at dksX11_fits_9 18 rfl rfl)
theorem dX11_fits_228 : decode cX11_fits 228 = .ok (.iconst 0, 1) := dk_3 (dk_at dksX11_fits_9 21 rfl rfl)
theorem dX11_fits_229 : decode cX11_fits 229 = .ok (.ireturn, 1) := dk_172 (dk_at dksX11_fits_9 22 rfl rfl)
def dkwX11_many_0 : List UInt8 := [42, 3, 181, 0, 3, 42, 182, 1, 185, 60, 27, 156, 0, 7, 27, 167, 0, 7, 42, 180, 1, 118, 172]
abbrev dktX11_many_0 : List UInt8 := dkwX11_many_0 ++ []
theorem dksX11_many_0 : cX11_many.data.toList.drop 0 = dktX11_many_0 := by decide +kernel
theorem dX11_many_0 : decode cX11_many 0 = .ok (.aload_n 0, 1) := dk_42 (dk_at dksX11_many_0 0 rfl rfl)
theorem dX11_many_1 : decode cX11_many 1 = .ok (.iconst 0, 1) := dk_3 (dk_at dksX11_many_0 1 rfl rfl)
theorem dX11_many_2 : decode cX11_many 2 = .ok (.putfield 3, 3) := dk_181 0 3 (dk_at dksX11_many_0 2 rfl rfl)
theorem dX11_many_5 : decode cX11_many 5 = .ok (.aload_n 0, 1) := dk_42 (dk_at dksX11_many_0 5 rfl rfl)
theorem dX11_many_6 : decode cX11_many 6 = .ok (.invokevirtual 441, 3) := dk_182 1 185 (dk_at dksX11_many_0 6 rfl rfl)
theorem dX11_many_9 : decode cX11_many 9 = .ok (.istore_n 1, 1) := dk_60 (dk_at dksX11_many_0 9 rfl rfl)
theorem dX11_many_10 : decode cX11_many 10 = .ok (.iload_n 1, 1) := dk_27 (dk_at dksX11_many_0 10 rfl rfl)
theorem dX11_many_11 : decode cX11_many 11 = .ok (.ifCond .ge 7, 3) := dk_156 0 7 (dk_at dksX11_many_0 11 rfl rfl)
theorem dX11_many_14 : decode cX11_many 14 = .ok (.iload_n 1, 1) := dk_27 (dk_at dksX11_many_0 14 rfl rfl)
theorem dX11_many_15 : decode cX11_many 15 = .ok (.goto 7, 3) := dk_167 0 7 (dk_at dksX11_many_0 15 rfl rfl)
theorem dX11_many_18 : decode cX11_many 18 = .ok (.aload_n 0, 1) := dk_42 (dk_at dksX11_many_0 18 rfl rfl)
theorem dX11_many_19 : decode cX11_many 19 = .ok (.getfield 374, 3) := dk_180 1 118 (dk_at dksX11_many_0 19 rfl rfl)
theorem dX11_many_22 : decode cX11_many 22 = .ok (.ireturn, 1) := dk_172 (dk_at dksX11_many_0 22 rfl rfl)
def dkwX11_read_2 : List UInt8 := [167, 0, 22, 27, 42, 180, 1, 124, 162, 0, 12, 42, 180, 0, 75, 27, 46, 167, 0, 5, 16, 253, 172]
abbrev dktX11_read_2 : List UInt8 := dkwX11_read_2 ++ []
def dkwX11_read_1 : List UInt8 := [172, 42, 182, 1, 185, 61, 28, 156, 0, 7, 28, 167, 0, 33, 27, 156, 0, 10, 42, 180, 1, 124]
abbrev dktX11_read_1 : List UInt8 := dkwX11_read_1 ++ dktX11_read_2
def dkwX11_read_0 : List UInt8 := [42, 3, 181, 0, 3, 42, 27, 2, 162, 0, 7, 4, 167, 0, 4, 3, 4, 182, 0, 235, 153, 0, 5, 3]
abbrev dktX11_read_0 : List UInt8 := dkwX11_read_0 ++ dktX11_read_1
theorem dksX11_read_0 : cX11_read.data.toList.drop 0 = dktX11_read_0 := by decide +kernel
theorem dksX11_read_1 : cX11_read.data.toList.drop 24 = dktX11_read_1 := dk_seg dksX11_read_0 24 rfl rfl
theorem dksX11_read_2 : cX11_read.data.toList.drop 46 = dktX11_read_2 := dk_seg dksX11_read_1 22 rfl rfl
theorem dX11_read_0 : decode cX11_read 0 = .ok (.aload_n 0, 1) := dk_42 (dk_at dksX11_read_0 0 rfl rfl)
theorem dX11_read_1 : decode cX11_read 1 = .ok (.iconst 0, 1) := dk_3 (dk_at dksX11_read_0 1 rfl rfl)
theorem dX11_read_2 : decode cX11_read 2 = .ok (.putfield 3, 3) := dk_181 0 3 (dk_at dksX11_read_0 2 rfl rfl)
theorem dX11_read_5 : decode cX11_read 5 = .ok (.aload_n 0, 1) := dk_42 (dk_at dksX11_read_0 5 rfl rfl)
theorem dX11_read_6 : decode cX11_read 6 = .ok (.iload_n 1, 1) := dk_27 (dk_at dksX11_read_0 6 rfl rfl)
theorem dX11_read_7 : decode cX11_read 7 = .ok (.iconst (-1), 1) := dk_2 (dk_at dksX11_read_0 7 rfl rfl)
theorem dX11_read_8 : decode cX11_read 8 = .ok (.if_icmp .ge 7, 3) := dk_162 0 7 (dk_at dksX11_read_0 8 rfl rfl)
theorem dX11_read_11 : decode cX11_read 11 = .ok (.iconst 1, 1) := dk_4 (dk_at dksX11_read_0 11 rfl rfl)
theorem dX11_read_12 : decode cX11_read 12 = .ok (.goto 4, 3) := dk_167 0 4 (dk_at dksX11_read_0 12 rfl rfl)
theorem dX11_read_15 : decode cX11_read 15 = .ok (.iconst 0, 1) := dk_3 (dk_at dksX11_read_0 15 rfl rfl)
theorem dX11_read_16 : decode cX11_read 16 = .ok (.iconst 1, 1) := dk_4 (dk_at dksX11_read_0 16 rfl rfl)
theorem dX11_read_17 : decode cX11_read 17 = .ok (.invokevirtual 235, 3) := dk_182 0 235 (dk_at dksX11_read_0 17 rfl rfl)
theorem dX11_read_20 : decode cX11_read 20 = .ok (.ifCond .eq 5, 3) := dk_153 0 5 (dk_at dksX11_read_0 20 rfl rfl)
theorem dX11_read_23 : decode cX11_read 23 = .ok (.iconst 0, 1) := dk_3 (dk_at dksX11_read_0 23 rfl rfl)
theorem dX11_read_24 : decode cX11_read 24 = .ok (.ireturn, 1) := dk_172 (dk_at dksX11_read_1 0 rfl rfl)
theorem dX11_read_25 : decode cX11_read 25 = .ok (.aload_n 0, 1) := dk_42 (dk_at dksX11_read_1 1 rfl rfl)
theorem dX11_read_26 : decode cX11_read 26 = .ok (.invokevirtual 441, 3) := dk_182 1 185 (dk_at dksX11_read_1 2 rfl rfl)
theorem dX11_read_29 : decode cX11_read 29 = .ok (.istore_n 2, 1) := dk_61 (dk_at dksX11_read_1 5 rfl rfl)
theorem dX11_read_30 : decode cX11_read 30 = .ok (.iload_n 2, 1) := dk_28 (dk_at dksX11_read_1 6 rfl rfl)
theorem dX11_read_31 : decode cX11_read 31 = .ok (.ifCond .ge 7, 3) := dk_156 0 7 (dk_at dksX11_read_1 7 rfl rfl)
theorem dX11_read_34 : decode cX11_read 34 = .ok (.iload_n 2, 1) := dk_28 (dk_at dksX11_read_1 10 rfl rfl)
theorem dX11_read_35 : decode cX11_read 35 = .ok (.goto 33, 3) := dk_167 0 33 (dk_at dksX11_read_1 11 rfl rfl)
theorem dX11_read_38 : decode cX11_read 38 = .ok (.iload_n 1, 1) := dk_27 (dk_at dksX11_read_1 14 rfl rfl)
theorem dX11_read_39 : decode cX11_read 39 = .ok (.ifCond .ge 10, 3) := dk_156 0 10 (dk_at dksX11_read_1 15 rfl rfl)
theorem dX11_read_42 : decode cX11_read 42 = .ok (.aload_n 0, 1) := dk_42 (dk_at dksX11_read_1 18 rfl rfl)
theorem dX11_read_43 : decode cX11_read 43 = .ok (.getfield 380, 3) := dk_180 1 124 (dk_at dksX11_read_1 19 rfl rfl)
theorem dX11_read_46 : decode cX11_read 46 = .ok (.goto 22, 3) := dk_167 0 22 (dk_at dksX11_read_2 0 rfl rfl)
theorem dX11_read_49 : decode cX11_read 49 = .ok (.iload_n 1, 1) := dk_27 (dk_at dksX11_read_2 3 rfl rfl)
theorem dX11_read_50 : decode cX11_read 50 = .ok (.aload_n 0, 1) := dk_42 (dk_at dksX11_read_2 4 rfl rfl)
theorem dX11_read_51 : decode cX11_read 51 = .ok (.getfield 380, 3) := dk_180 1 124 (dk_at dksX11_read_2 5 rfl rfl)
theorem dX11_read_54 : decode cX11_read 54 = .ok (.if_icmp .ge 12, 3) := dk_162 0 12 (dk_at dksX11_read_2 8 rfl rfl)
theorem dX11_read_57 : decode cX11_read 57 = .ok (.aload_n 0, 1) := dk_42 (dk_at dksX11_read_2 11 rfl rfl)
theorem dX11_read_58 : decode cX11_read 58 = .ok (.getfield 75, 3) := dk_180 0 75 (dk_at dksX11_read_2 12 rfl rfl)
theorem dX11_read_61 : decode cX11_read 61 = .ok (.iload_n 1, 1) := dk_27 (dk_at dksX11_read_2 15 rfl rfl)
theorem dX11_read_62 : decode cX11_read 62 = .ok (.iaload, 1) := dk_46 (dk_at dksX11_read_2 16 rfl rfl)
theorem dX11_read_63 : decode cX11_read 63 = .ok (.goto 5, 3) := dk_167 0 5 (dk_at dksX11_read_2 17 rfl rfl)
theorem dX11_read_66 : decode cX11_read 66 = .ok (.bipush (-3), 2) := dk_16 253 (dk_at dksX11_read_2 20 rfl rfl)
theorem dX11_read_68 : decode cX11_read 68 = .ok (.ireturn, 1) := dk_172 (dk_at dksX11_read_2 22 rfl rfl)
def dkwX11_readNext_3 : List UInt8 := [180, 0, 78, 27, 46, 167, 0, 5, 16, 253, 172]
abbrev dktX11_readNext_3 : List UInt8 := dkwX11_readNext_3 ++ []
def dkwX11_readNext_2 : List UInt8 := [167, 0, 33, 27, 156, 0, 10, 42, 180, 1, 127, 167, 0, 22, 27, 42, 180, 1, 127, 162, 0, 12, 42]
abbrev dktX11_readNext_2 : List UInt8 := dkwX11_readNext_2 ++ dktX11_readNext_3
def dkwX11_readNext_1 : List UInt8 := [172, 42, 182, 1, 185, 61, 28, 156, 0, 7, 28, 167, 0, 46, 42, 180, 1, 118, 5, 162, 0, 8, 16, 253]
abbrev dktX11_readNext_1 : List UInt8 := dkwX11_readNext_1 ++ dktX11_readNext_2
def dkwX11_readNext_0 : List UInt8 := [42, 3, 181, 0, 3, 42, 27, 2, 162, 0, 7, 4, 167, 0, 4, 3, 4, 182, 0, 235, 153, 0, 5, 3]
abbrev dktX11_readNext_0 : List UInt8 := dkwX11_readNext_0 ++ dktX11_readNext_1
theorem dksX11_readNext_0 : cX11_readNext.data.toList.drop 0 = dktX11_readNext_0 := by decide +kernel
theorem dksX11_readNext_1 : cX11_readNext.data.toList.drop 24 = dktX11_readNext_1 := dk_seg dksX11_readNext_0 24 rfl rfl
theorem dksX11_readNext_2 : cX11_readNext.data.toList.drop 48 = dktX11_readNext_2 := dk_seg dksX11_readNext_1 24 rfl rfl
theorem dksX11_readNext_3 : cX11_readNext.data.toList.drop 71 = dktX11_readNext_3 := dk_seg dksX11_readNext_2 23 rfl rfl
theorem dX11_readNext_0 : decode cX11_readNext 0 = .ok (.aload_n 0, 1) := dk_42 (dk_at dksX11_readNext_0 0 rfl rfl)
theorem dX11_readNext_1 : decode cX11_readNext 1 = .ok (.iconst 0, 1) := dk_3 (dk_at dksX11_readNext_0 1 rfl rfl)
theorem dX11_readNext_2 : decode cX11_readNext 2 = .ok (.putfield 3, 3) := dk_181 0 3 (dk_at dksX11_readNext_0 2 rfl rfl)
theorem dX11_readNext_5 : decode cX11_readNext 5 = .ok (.aload_n 0, 1) := dk_42 (dk_at dksX11_readNext_0 5 rfl rfl)
theorem dX11_readNext_6 : decode cX11_readNext 6 = .ok (.iload_n 1, 1) := dk_27 (dk_at dksX11_readNext_0 6 rfl rfl)
theorem dX11_readNext_7 : decode cX11_readNext 7 = .ok (.iconst (-1), 1) := dk_2 (dk_at dksX11_readNext_0 7 rfl rfl)
theorem dX11_readNext_8 : decode cX11_readNext 8 = .ok (.if_icmp .ge 7, 3) := dk_162 0 7 (dk_at dksX11_readNext_0 8 rfl rfl)
theorem dX11_readNext_11 : decode cX11_readNext 11 = .ok (.iconst 1, 1) := dk_4 (dk_at dksX11_readNext_0 11 rfl rfl)
theorem dX11_readNext_12 : decode cX11_readNext 12 = .ok (.goto 4, 3) := dk_167 0 4 (dk_at dksX11_readNext_0 12 rfl rfl)
theorem dX11_readNext_15 : decode cX11_readNext 15 = .ok (.iconst 0, 1) := dk_3 (dk_at dksX11_readNext_0 15 rfl rfl)
theorem dX11_readNext_16 : decode cX11_readNext 16 = .ok (.iconst 1, 1) := dk_4 (dk_at dksX11_readNext_0 16 rfl rfl)
theorem dX11_readNext_17 : decode cX11_readNext 17 = .ok (.invokevirtual 235, 3) := dk_182 0 235 (dk_at dksX11_readNext_0 17 rfl rfl)
theorem dX11_readNext_20 : decode cX11_readNext 20 = .ok (.ifCond .eq 5, 3) := dk_153 0 5 (dk_at dksX11_readNext_0 20 rfl rfl)
theorem dX11_readNext_23 : decode cX11_readNext 23 = .ok (.iconst 0, 1) := dk_3 (dk_at dksX11_readNext_0 23 rfl rfl)
theorem dX11_readNext_24 : decode cX11_readNext 24 = .ok (.ireturn, 1) := dk_172 (dk_at dksX11_readNext_1 0 rfl rfl)
theorem dX11_readNext_25 : decode cX11_readNext 25 = .ok (.aload_n 0, 1) := dk_42 (dk_at dksX11_readNext_1 1 rfl rfl)
theorem dX11_readNext_26 : decode cX11_readNext 26 = .ok (.invokevirtual 441, 3) := dk_182 1 185 (dk_at dksX11_readNext_1 2 rfl rfl)
theorem dX11_readNext_29 : decode cX11_readNext 29 = .ok (.istore_n 2, 1) := dk_61 (dk_at dksX11_readNext_1 5 rfl rfl)
theorem dX11_readNext_30 : decode cX11_readNext 30 = .ok (.iload_n 2, 1) := dk_28 (dk_at dksX11_readNext_1 6 rfl rfl)
theorem dX11_readNext_31 : decode cX11_readNext 31 = .ok (.ifCond .ge 7, 3) := dk_156 0 7 (dk_at dksX11_readNext_1 7 rfl rfl)
theorem dX11_readNext_34 : decode cX11_readNext 34 = .ok (.iload_n 2, 1) := dk_28 (dk_at dksX11_readNext_1 10 rfl rfl)
theorem dX11_readNext_35 : decode cX11_readNext 35 = .ok (.goto 46, 3) := dk_167 0 46 (dk_at dksX11_readNext_1 11 rfl rfl)
theorem dX11_readNext_38 : decode cX11_readNext 38 = .ok (.aload_n 0, 1) := dk_42 (dk_at dksX11_readNext_1 14 rfl rfl)
theorem dX11_readNext_39 : decode cX11_readNext 39 = .ok (.getfield 374, 3) := dk_180 1 118 (dk_at dksX11_readNext_1 15 rfl rfl)
theorem dX11_readNext_42 : decode cX11_readNext 42 = .ok (.iconst 2, 1) := dk_5 (dk_at dksX11_readNext_1 18 rfl rfl)
theorem dX11_readNext_43 : decode cX11_readNext 43 = .ok (.if_icmp .ge 8, 3) := dk_162 0 8 (dk_at dksX11_readNext_1 19 rfl rfl)
theorem dX11_readNext_46 : decode cX11_readNext 46 = .ok (.bipush (-3), 2) := dk_16 253 (dk_at dksX11_readNext_1 22 rfl rfl)
theorem dX11_readNext_48 : decode cX11_readNext 48 = .ok (.goto 33, 3) := dk_167 0 33 (dk_at dksX11_readNext_2 0 rfl rfl)
theorem dX11_readNext_51 : decode cX11_readNext 51 = .ok (.iload_n 1, 1) := dk_27 (dk_at dksX11_readNext_2 3 rfl rfl)
theorem dX11_readNext_52 : decode cX11_readNext 52 = .ok (.ifCond .ge 10, 3) := dk_156 0 10 (dk_at dksX11_readNext_2 4 rfl rfl)
theorem dX11_readNext_55 : decode cX11_readNext 55 = .ok (.aload_n 0, 1) := dk_42 (dk_at dksX11_readNext_2 7 rfl rfl)
theorem dX11_readNext_56 : decode cX11_readNext 56 = .ok (.getfield 383, 3) := dk_180 1 127 (dk_at dksX11_readNext_2 8 rfl rfl)
theorem dX11_readNext_59 : decode cX11_readNext 59 = .ok (.goto 22, 3) := dk_167 0 22 (dk_at dksX11_readNext_2 11 rfl rfl)
theorem dX11_readNext_62 : decode cX11_readNext 62 = .ok (.iload_n 1, 1) := dk_27 (dk_at dksX11_readNext_2 14 rfl rfl)
theorem dX11_readNext_63 : decode cX11_readNext 63 = .ok (.aload_n 0, 1) := dk_42 (dk_at dksX11_readNext_2 15 rfl rfl)
theorem dX11_readNext_64 : decode cX11_readNext 64 = .ok (.getfield 383, 3) := dk_180 1 127 (dk_at dksX11_readNext_2 16 rfl rfl)
theorem dX11_readNext_67 : decode cX11_readNext 67 = .ok (.if_icmp .ge 12, 3) := dk_162 0 12 (dk_at dksX11_readNext_2 19 rfl rfl)
theorem dX11_readNext_70 : decode cX11_readNext 70 = .ok (.aload_n 0, 1) := dk_42 (dk_at dksX11_readNext_2 22 rfl rfl)
theorem dX11_readNext_71 : decode cX11_readNext 71 = .ok (.getfield 78, 3) := dk_180 0 78 (dk_at dksX11_readNext_3 0 rfl rfl)
theorem dX11_readNext_74 : decode cX11_readNext 74 = .ok (.iload_n 1, 1) := dk_27 (dk_at dksX11_readNext_3 3 rfl rfl)
theorem dX11_readNext_75 : decode cX11_readNext 75 = .ok (.iaload, 1) := dk_46 (dk_at dksX11_readNext_3 4 rfl rfl)
theorem dX11_readNext_76 : decode cX11_readNext 76 = .ok (.goto 5, 3) := dk_167 0 5 (dk_at dksX11_readNext_3 5 rfl rfl)
theorem dX11_readNext_79 : decode cX11_readNext 79 = .ok (.bipush (-3), 2) := dk_16 253 (dk_at dksX11_readNext_3 8 rfl rfl)
theorem dX11_readNext_81 : decode cX11_readNext 81 = .ok (.ireturn, 1) := dk_172 (dk_at dksX11_readNext_3 10 rfl rfl)
def dkwX11_slip_1 : List UInt8 := [182, 1, 185, 62, 29, 156, 0, 5, 29, 172, 42, 27, 182, 1, 188, 42, 180, 0, 87, 28, 46, 172]
abbrev dktX11_slip_1 : List UInt8 := dkwX11_slip_1 ++ []
def dkwX11_slip_0 : List UInt8 := [42, 3, 181, 0, 3, 42, 42, 27, 28, 182, 1, 13, 4, 182, 0, 235, 153, 0, 5, 3, 172, 42]
abbrev dktX11_slip_0 : List UInt8 := dkwX11_slip_0 ++ dktX11_slip_1
theorem dksX11_slip_0 : cX11_slip.data.toList.drop 0 = dktX11_slip_0 := by decide +kernel
theorem dksX11_slip_1 : cX11_slip.data.toList.drop 22 = dktX11_slip_1 := dk_seg dksX11_slip_0 22 rfl rfl
theorem dX11_slip_0 : decode cX11_slip 0 = .ok (.aload_n 0, 1) := dk_42 (dk_at dksX11_slip_0 0 rfl rfl)
theorem dX11_slip_1 : decode cX11_slip 1 = .ok (.iconst 0, 1) := dk_3 (dk_at dksX11_slip_0 1 rfl rfl)
theorem dX11_slip_2 : decode cX11_slip 2 = .ok (.putfield 3, 3) := dk_181 0 3 (dk_at dksX11_slip_0 2 rfl rfl)
theorem dX11_slip_5 : decode cX11_slip 5 = .ok (.aload_n 0, 1) := dk_42 (dk_at dksX11_slip_0 5 rfl rfl)
theorem dX11_slip_6 : decode cX11_slip 6 = .ok (.aload_n 0, 1) := dk_42 (dk_at dksX11_slip_0 6 rfl rfl)
theorem dX11_slip_7 : decode cX11_slip 7 = .ok (.iload_n 1, 1) := dk_27 (dk_at dksX11_slip_0 7 rfl rfl)
theorem dX11_slip_8 : decode cX11_slip 8 = .ok (.iload_n 2, 1) := dk_28 (dk_at dksX11_slip_0 8 rfl rfl)
theorem dX11_slip_9 : decode cX11_slip 9 = .ok (.invokevirtual 269, 3) := dk_182 1 13 (dk_at dksX11_slip_0 9 rfl rfl)
theorem dX11_slip_12 : decode cX11_slip 12 = .ok (.iconst 1, 1) := dk_4 (dk_at dksX11_slip_0 12 rfl rfl)
theorem dX11_slip_13 : decode cX11_slip 13 = .ok (.invokevirtual 235, 3) := dk_182 0 235 (dk_at dksX11_slip_0 13 rfl rfl)
theorem dX11_slip_16 : decode cX11_slip 16 = .ok (.ifCond .eq 5, 3) := dk_153 0 5 (dk_at dksX11_slip_0 16 rfl rfl)
theorem dX11_slip_19 : decode cX11_slip 19 = .ok (.iconst 0, 1) := dk_3 (dk_at dksX11_slip_0 19 rfl rfl)
theorem dX11_slip_20 : decode cX11_slip 20 = .ok (.ireturn, 1) := dk_172 (dk_at dksX11_slip_0 20 rfl rfl)
theorem dX11_slip_21 : decode cX11_slip 21 = .ok (.aload_n 0, 1) := dk_42 (dk_at dksX11_slip_0 21 rfl rfl)
theorem dX11_slip_22 : decode cX11_slip 22 = .ok (.invokevirtual 441, 3) := dk_182 1 185 (dk_at dksX11_slip_1 0 rfl rfl)
theorem dX11_slip_25 : decode cX11_slip 25 = .ok (.istore_n 3, 1) := dk_62 (dk_at dksX11_slip_1 3 rfl rfl)
theorem dX11_slip_26 : decode cX11_slip 26 = .ok (.iload_n 3, 1) := dk_29 (dk_at dksX11_slip_1 4 rfl rfl)
theorem dX11_slip_27 : decode cX11_slip 27 = .ok (.ifCond .ge 5, 3) := dk_156 0 5 (dk_at dksX11_slip_1 5 rfl rfl)
theorem dX11_slip_30 : decode cX11_slip 30 = .ok (.iload_n 3, 1) := dk_29 (dk_at dksX11_slip_1 8 rfl rfl)
theorem dX11_slip_31 : decode cX11_slip 31 = .ok (.ireturn, 1) := dk_172 (dk_at dksX11_slip_1 9 rfl rfl)
theorem dX11_slip_32 : decode cX11_slip 32 = .ok (.aload_n 0, 1) := dk_42 (dk_at dksX11_slip_1 10 rfl rfl)
theorem dX11_slip_33 : decode cX11_slip 33 = .ok (.iload_n 1, 1) := dk_27 (dk_at dksX11_slip_1 11 rfl rfl)
theorem dX11_slip_34 : decode cX11_slip 34 = .ok (.invokevirtual 444, 3) := dk_182 1 188 (dk_at dksX11_slip_1 12 rfl rfl)
theorem dX11_slip_37 : decode cX11_slip 37 = .ok (.aload_n 0, 1) := dk_42 (dk_at dksX11_slip_1 15 rfl rfl)
theorem dX11_slip_38 : decode cX11_slip 38 = .ok (.getfield 87, 3) := dk_180 0 87 (dk_at dksX11_slip_1 16 rfl rfl)
theorem dX11_slip_41 : decode cX11_slip 41 = .ok (.iload_n 2, 1) := dk_28 (dk_at dksX11_slip_1 19 rfl rfl)
theorem dX11_slip_42 : decode cX11_slip 42 = .ok (.iaload, 1) := dk_46 (dk_at dksX11_slip_1 20 rfl rfl)
theorem dX11_slip_43 : decode cX11_slip 43 = .ok (.ireturn, 1) := dk_172 (dk_at dksX11_slip_1 21 rfl rfl)
def dkwX11_follows_8 : List UInt8 := [16, 7, 79, 167, 255, 156, 177]
abbrev dktX11_follows_8 : List UInt8 := dkwX11_follows_8 ++ []
def dkwX11_follows_7 : List UInt8 := [160, 0, 16, 132, 2, 255, 42, 180, 0, 90, 28, 2, 79, 167, 0, 14, 132, 3, 255, 42, 180, 0, 87, 29]
abbrev dktX11_follows_7 : List UInt8 := dkwX11_follows_7 ++ dktX11_follows_8
def dkwX11_follows_6 : List UInt8 := [184, 1, 73, 46, 79, 42, 180, 0, 90, 28, 29, 79, 167, 0, 39, 21, 4, 42, 28, 29, 27, 182, 1, 85]
abbrev dktX11_follows_6 : List UInt8 := dkwX11_follows_6 ++ dktX11_follows_7
def dkwX11_follows_5 : List UInt8 := [182, 1, 82, 160, 0, 36, 132, 2, 255, 132, 3, 255, 42, 180, 0, 87, 29, 42, 180, 0, 59, 28, 27, 29]
abbrev dktX11_follows_5 : List UInt8 := dkwX11_follows_5 ++ dktX11_follows_6
def dkwX11_follows_4 : List UInt8 := [158, 0, 100, 42, 180, 0, 62, 27, 28, 29, 184, 1, 76, 46, 54, 4, 21, 4, 42, 28, 29, 27]
abbrev dktX11_follows_4 : List UInt8 := dkwX11_follows_4 ++ dktX11_follows_5
def dkwX11_follows_3 : List UInt8 := [182, 1, 100, 132, 2, 1, 167, 255, 190, 42, 180, 1, 124, 61, 42, 27, 182, 0, 251, 62, 28, 29, 96]
abbrev dktX11_follows_3 : List UInt8 := dkwX11_follows_3 ++ dktX11_follows_4
def dkwX11_follows_2 : List UInt8 := [182, 0, 251, 162, 0, 16, 42, 28, 27, 29, 182, 1, 173, 132, 3, 1, 167, 255, 237, 42, 27, 28, 4, 96]
abbrev dktX11_follows_2 : List UInt8 := dkwX11_follows_2 ++ dktX11_follows_3
def dkwX11_follows_1 : List UInt8 := [28, 42, 180, 0, 75, 28, 46, 79, 42, 28, 42, 180, 0, 75, 28, 46, 182, 1, 170, 3, 62, 29, 42, 27]
abbrev dktX11_follows_1 : List UInt8 := dkwX11_follows_1 ++ dktX11_follows_2
def dkwX11_follows_0 : List UInt8 := [42, 182, 1, 46, 42, 27, 3, 182, 1, 100, 3, 61, 28, 42, 180, 1, 124, 162, 0, 64, 42, 180, 0, 53]
abbrev dktX11_follows_0 : List UInt8 := dkwX11_follows_0 ++ dktX11_follows_1
theorem dksX11_follows_0 : cX11_follows.data.toList.drop 0 = dktX11_follows_0 := by decide +kernel
theorem dksX11_follows_1 : cX11_follows.data.toList.drop 24 = dktX11_follows_1 := dk_seg dksX11_follows_0 24 rfl rfl
theorem dksX11_follows_2 : cX11_follows.data.toList.drop 48 = dktX11_follows_2 := dk_seg dksX11_follows_1 24 rfl rfl
theorem dksX11_follows_3 : cX11_follows.data.toList.drop 72 = dktX11_follows_3 := dk_seg dksX11_follows_2 24 rfl rfl
theorem dksX11_follows_4 : cX11_follows.data.toList.drop 95 = dktX11_follows_4 := dk_seg dksX11_follows_3 23 rfl rfl
theorem dksX11_follows_5 : cX11_follows.data.toList.drop 117 = dktX11_follows_5 := dk_seg dksX11_follows_4 22 rfl rfl
theorem dksX11_follows_6 : cX11_follows.data.toList.drop 141 = dktX11_follows_6 := dk_seg dksX11_follows_5 24 rfl rfl
theorem dksX11_follows_7 : cX11_follows.data.toList.drop 165 = dktX11_follows_7 := dk_seg dksX11_follows_6 24 rfl rfl
theorem dksX11_follows_8 : cX11_follows.data.toList.drop 189 = dktX11_follows_8 := dk_seg dksX11_follows_7 24 rfl rfl
theorem dX11_follows_0 : decode cX11_follows 0 = .ok (.aload_n 0, 1) := dk_42 (dk_at dksX11_follows_0 0 rfl rfl)
theorem dX11_follows_1 : decode cX11_follows 1 = .ok (.invokevirtual 302, 3) := dk_182 1 46 (dk_at dksX11_follows_0 1 rfl rfl)
theorem dX11_follows_4 : decode cX11_follows 4 = .ok (.aload_n 0, 1) := dk_42 (dk_at dksX11_follows_0 4 rfl rfl)
theorem dX11_follows_5 : decode cX11_follows 5 = .ok (.iload_n 1, 1) := dk_27 (dk_at dksX11_follows_0 5 rfl rfl)
theorem dX11_follows_6 : decode cX11_follows 6 = .ok (.iconst 0, 1) := dk_3 (dk_at dksX11_follows_0 6 rfl rfl)
theorem dX11_follows_7 : decode cX11_follows 7 = .ok (.invokevirtual 356, 3) := dk_182 1 100 (dk_at dksX11_follows_0 7 rfl rfl)
theorem dX11_follows_10 : decode cX11_follows 10 = .ok (.iconst 0, 1) := dk_3 (dk_at dksX11_follows_0 10 rfl rfl)
theorem dX11_follows_11 : decode cX11_follows 11 = .ok (.istore_n 2, 1) := dk_61 (dk_at dksX11_follows_0 11 rfl rfl)
theorem dX11_follows_12 : decode cX11_follows 12 = .ok (.iload_n 2, 1) := dk_28 (dk_at dksX11_follows_0 12 rfl rfl)
theorem dX11_follows_13 : decode cX11_follows 13 = .ok (.aload_n 0, 1) := dk_42 (dk_at dksX11_follows_0 13 rfl rfl)
theorem dX11_follows_14 : decode cX11_follows 14 = .ok (.getfield 380, 3) := dk_180 1 124 (dk_at dksX11_follows_0 14 rfl rfl)
theorem dX11_follows_17 : decode cX11_follows 17 = .ok (.if_icmp .ge 64, 3) := dk_162 0 64 (dk_at dksX11_follows_0 17 rfl rfl)
theorem dX11_follows_20 : decode cX11_follows 20 = .ok (.aload_n 0, 1) := dk_42 (dk_at dksX11_follows_0 20 rfl rfl)
theorem dX11_follows_21 : decode cX11_follows 21 = .ok (.getfield 53, 3) := dk_180 0 53 (dk_at dksX11_follows_0 21 rfl rfl)
theorem dX11_follows_24 : decode cX11_follows 24 = .ok (.iload_n 2, 1) := dk_28 (dk_at dksX11_follows_1 0 rfl rfl)
theorem dX11_follows_25 : decode cX11_follows 25 = .ok (.aload_n 0, 1) := dk_42 (dk_at dksX11_follows_1 1 rfl rfl)
theorem dX11_follows_26 : decode cX11_follows 26 = .ok (.getfield 75, 3) := dk_180 0 75 (dk_at dksX11_follows_1 2 rfl rfl)
theorem dX11_follows_29 : decode cX11_follows 29 = .ok (.iload_n 2, 1) := dk_28 (dk_at dksX11_follows_1 5 rfl rfl)
theorem dX11_follows_30 : decode cX11_follows 30 = .ok (.iaload, 1) := dk_46 (dk_at dksX11_follows_1 6 rfl rfl)
theorem dX11_follows_31 : decode cX11_follows 31 = .ok (.iastore, 1) := dk_79 (dk_at dksX11_follows_1 7 rfl rfl)
theorem dX11_follows_32 : decode cX11_follows 32 = .ok (.aload_n 0, 1) := dk_42 (dk_at dksX11_follows_1 8 rfl rfl)
theorem dX11_follows_33 : decode cX11_follows 33 = .ok (.iload_n 2, 1) := dk_28 (dk_at dksX11_follows_1 9 rfl rfl)
theorem dX11_follows_34 : decode cX11_follows 34 = .ok (.aload_n 0, 1) := dk_42 (dk_at dksX11_follows_1 10 rfl rfl)
theorem dX11_follows_35 : decode cX11_follows 35 = .ok (.getfield 75, 3) := dk_180 0 75 (dk_at dksX11_follows_1 11 rfl rfl)
theorem dX11_follows_38 : decode cX11_follows 38 = .ok (.iload_n 2, 1) := dk_28 (dk_at dksX11_follows_1 14 rfl rfl)
theorem dX11_follows_39 : decode cX11_follows 39 = .ok (.iaload, 1) := dk_46 (dk_at dksX11_follows_1 15 rfl rfl)
theorem dX11_follows_40 : decode cX11_follows 40 = .ok (.invokevirtual 426, 3) := dk_182 1 170 (dk_at dksX11_follows_1 16 rfl rfl)
theorem dX11_follows_43 : decode cX11_follows 43 = .ok (.iconst 0, 1) := dk_3 (dk_at dksX11_follows_1 19 rfl rfl)
theorem dX11_follows_44 : decode cX11_follows 44 = .ok (.istore_n 3, 1) := dk_62 (dk_at dksX11_follows_1 20 rfl rfl)
theorem dX11_follows_45 : decode cX11_follows 45 = .ok (.iload_n 3, 1) := dk_29 (dk_at dksX11_follows_1 21 rfl rfl)
theorem dX11_follows_46 : decode cX11_follows 46 = .ok (.aload_n 0, 1) := dk_42 (dk_at dksX11_follows_1 22 rfl rfl)
theorem dX11_follows_47 : decode cX11_follows 47 = .ok (.iload_n 1, 1) := dk_27 (dk_at dksX11_follows_1 23 rfl rfl)
theorem dX11_follows_48 : decode cX11_follows 48 = .ok (.invokevirtual 251, 3) := dk_182 0 251 (dk_at dksX11_follows_2 0 rfl rfl)
theorem dX11_follows_51 : decode cX11_follows 51 = .ok (.if_icmp .ge 16, 3) := dk_162 0 16 (dk_at dksX11_follows_2 3 rfl rfl)
theorem dX11_follows_54 : decode cX11_follows 54 = .ok (.aload_n 0, 1) := dk_42 (dk_at dksX11_follows_2 6 rfl rfl)
theorem dX11_follows_55 : decode cX11_follows 55 = .ok (.iload_n 2, 1) := dk_28 (dk_at dksX11_follows_2 7 rfl rfl)
theorem dX11_follows_56 : decode cX11_follows 56 = .ok (.iload_n 1, 1) := dk_27 (dk_at dksX11_follows_2 8 rfl rfl)
theorem dX11_follows_57 : decode cX11_follows 57 = .ok (.iload_n 3, 1) := dk_29 (dk_at dksX11_follows_2 9 rfl rfl)
theorem dX11_follows_58 : decode cX11_follows 58 = .ok (.invokevirtual 429, 3) := dk_182 1 173 (dk_at dksX11_follows_2 10 rfl rfl)
theorem dX11_follows_61 : decode cX11_follows 61 = .ok (.iinc 3 1, 3) := dk_132 3 1 (dk_at dksX11_follows_2 13 rfl rfl)
theorem dX11_follows_64 : decode cX11_follows 64 = .ok (.goto (-19), 3) := dk_167 255 237 (dk_at dksX11_follows_2 16 rfl rfl)
theorem dX11_follows_67 : decode cX11_follows 67 = .ok (.aload_n 0, 1) := dk_42 (dk_at dksX11_follows_2 19 rfl rfl)
theorem dX11_follows_68 : decode cX11_follows 68 = .ok (.iload_n 1, 1) := dk_27 (dk_at dksX11_follows_2 20 rfl rfl)
theorem dX11_follows_69 : decode cX11_follows 69 = .ok (.iload_n 2, 1) := dk_28 (dk_at dksX11_follows_2 21 rfl rfl)
theorem dX11_follows_70 : decode cX11_follows 70 = .ok (.iconst 1, 1) := dk_4 (dk_at dksX11_follows_2 22 rfl rfl)
theorem dX11_follows_71 : decode cX11_follows 71 = .ok (.iadd, 1) := dk_96 (dk_at dksX11_follows_2 23 rfl rfl)
theorem dX11_follows_72 : decode cX11_follows 72 = .ok (.invokevirtual 356, 3) := dk_182 1 100 (dk_at dksX11_follows_3 0 rfl rfl)
theorem dX11_follows_75 : decode cX11_follows 75 = .ok (.iinc 2 1, 3) := dk_132 2 1 (dk_at dksX11_follows_3 3 rfl rfl)
theorem dX11_follows_78 : decode cX11_follows 78 = .ok (.goto (-66), 3) := dk_167 255 190 (dk_at dksX11_follows_3 6 rfl rfl)
theorem dX11_follows_81 : decode cX11_follows 81 = .ok (.aload_n 0, 1) := dk_42 (dk_at dksX11_follows_3 9 rfl rfl)
theorem dX11_follows_82 : decode cX11_follows 82 = .ok (.getfield 380, 3) := dk_180 1 124 (dk_at dksX11_follows_3 10 rfl rfl)
theorem dX11_follows_85 : decode cX11_follows 85 = .ok (.istore_n 2, 1) := dk_61 (dk_at dksX11_follows_3 13 rfl rfl)
theorem dX11_follows_86 : decode cX11_follows 86 = .ok (.aload_n 0, 1) := dk_42 (dk_at dksX11_follows_3 14 rfl rfl)
theorem dX11_follows_87 : decode cX11_follows 87 = .ok (.iload_n 1, 1) := dk_27 (dk_at dksX11_follows_3 15 rfl rfl)
theorem dX11_follows_88 : decode cX11_follows 88 = .ok (.invokevirtual 251, 3) := dk_182 0 251 (dk_at dksX11_follows_3 16 rfl rfl)
theorem dX11_follows_91 : decode cX11_follows 91 = .ok (.istore_n 3, 1) := dk_62 (dk_at dksX11_follows_3 19 rfl rfl)
theorem dX11_follows_92 : decode cX11_follows 92 = .ok (.iload_n 2, 1) := dk_28 (dk_at dksX11_follows_3 20 rfl rfl)
theorem dX11_follows_93 : decode cX11_follows 93 = .ok (.iload_n 3, 1) := dk_29 (dk_at dksX11_follows_3 21 rfl rfl)
theorem dX11_follows_94 : decode cX11_follows 94 = .ok (.iadd, 1) := dk_96 (dk_at dksX11_follows_3 22 rfl rfl)
theorem dX11_follows_95 : decode cX11_follows 95 = .ok (.ifCond .le 100, 3) := dk_158 0 100 (dk_at dksX11_follows_4 0 rfl rfl)
theorem dX11_follows_98 : decode cX11_follows 98 = .ok (.aload_n 0, 1) := dk_42 (dk_at dksX11_follows_4 3 rfl rfl)
theorem dX11_follows_99 : decode cX11_follows 99 = .ok (.getfield 62, 3) := dk_180 0 62 (dk_at dksX11_follows_4 4 rfl rfl)
theorem dX11_follows_102 : decode cX11_follows 102 = .ok (.iload_n 1, 1) := dk_27 (dk_at dksX11_follows_4 7 rfl rfl)
theorem dX11_follows_103 : decode cX11_follows 103 = .ok (.iload_n 2, 1) := dk_28 (dk_at dksX11_follows_4 8 rfl rfl)
theorem dX11_follows_104 : decode cX11_follows 104 = .ok (.iload_n 3, 1) := dk_29 (dk_at dksX11_follows_4 9 rfl rfl)
theorem dX11_follows_105 : decode cX11_follows 105 = .ok (.invokestatic 332, 3) := dk_184 1 76 (dk_at dksX11_follows_4 10 rfl rfl)
theorem dX11_follows_108 : decode cX11_follows 108 = .ok (.iaload, 1) := dk_46 (dk_at dksX11_follows_4 13 rfl rfl)
theorem dX11_follows_109 : decode cX11_follows 109 = .ok (.istore 4, 2) := dk_54 4 (dk_at dksX11_follows_4 14 rfl rfl)
theorem dX11_follows_111 : decode cX11_follows 111 = .ok (.iload 4, 2) := dk_21 4 (dk_at dksX11_follows_4 16 rfl rfl)
theorem dX11_follows_113 : decode cX11_follows 113 = .ok (.aload_n 0, 1) := dk_42 (dk_at dksX11_follows_4 18 rfl rfl)
theorem dX11_follows_114 : decode cX11_follows 114 = .ok (.iload_n 2, 1) := dk_28 (dk_at dksX11_follows_4 19 rfl rfl)
theorem dX11_follows_115 : decode cX11_follows 115 = .ok (.iload_n 3, 1) := dk_29 (dk_at dksX11_follows_4 20 rfl rfl)
theorem dX11_follows_116 : decode cX11_follows 116 = .ok (.iload_n 1, 1) := dk_27 (dk_at dksX11_follows_4 21 rfl rfl)
theorem dX11_follows_117 : decode cX11_follows 117 = .ok (.invokevirtual 338, 3) := dk_182 1 82 (dk_at dksX11_follows_5 0 rfl rfl)
theorem dX11_follows_120 : decode cX11_follows 120 = .ok (.if_icmp .ne 36, 3) := dk_160 0 36 (dk_at dksX11_follows_5 3 rfl rfl)
theorem dX11_follows_123 : decode cX11_follows 123 = .ok (.iinc 2 (-1), 3) := dk_132 2 255 (dk_at dksX11_follows_5 6 rfl rfl)
theorem dX11_follows_126 : decode cX11_follows 126 = .ok (.iinc 3 (-1), 3) := dk_132 3 255 (dk_at dksX11_follows_5 9 rfl rfl)
theorem dX11_follows_129 : decode cX11_follows 129 = .ok (.aload_n 0, 1) := dk_42 (dk_at dksX11_follows_5 12 rfl rfl)
theorem dX11_follows_130 : decode cX11_follows 130 = .ok (.getfield 87, 3) := dk_180 0 87 (dk_at dksX11_follows_5 13 rfl rfl)
theorem dX11_follows_133 : decode cX11_follows 133 = .ok (.iload_n 3, 1) := dk_29 (dk_at dksX11_follows_5 16 rfl rfl)
theorem dX11_follows_134 : decode cX11_follows 134 = .ok (.aload_n 0, 1) := dk_42 (dk_at dksX11_follows_5 17 rfl rfl)
theorem dX11_follows_135 : decode cX11_follows 135 = .ok (.getfield 59, 3) := dk_180 0 59 (dk_at dksX11_follows_5 18 rfl rfl)
theorem dX11_follows_138 : decode cX11_follows 138 = .ok (.iload_n 2, 1) := dk_28 (dk_at dksX11_follows_5 21 rfl rfl)
theorem dX11_follows_139 : decode cX11_follows 139 = .ok (.iload_n 1, 1) := dk_27 (dk_at dksX11_follows_5 22 rfl rfl)
theorem dX11_follows_140 : decode cX11_follows 140 = .ok (.iload_n 3, 1) := dk_29 (dk_at dksX11_follows_5 23 rfl rfl)
theorem dX11_follows_141 : decode cX11_follows 141 = .ok (.invokestatic 329, 3) := dk_184 1 73 (dk_at dksX11_follows_6 0 rfl rfl)
theorem dX11_follows_144 : decode cX11_follows 144 = .ok (.iaload, 1) := dk_46 (dk_at dksX11_follows_6 3 rfl rfl)
theorem dX11_follows_145 : decode cX11_follows 145 = .ok (.iastore, 1) := dk_79 (dk_at dksX11_follows_6 4 rfl rfl)
theorem dX11_follows_146 : decode cX11_follows 146 = .ok (.aload_n 0, 1) := dk_42 (dk_at dksX11_follows_6 5 rfl rfl)
theorem dX11_follows_147 : decode cX11_follows 147 = .ok (.getfield 90, 3) := dk_180 0 90 (dk_at dksX11_follows_6 6 rfl rfl)
theorem dX11_follows_150 : decode cX11_follows 150 = .ok (.iload_n 2, 1) := dk_28 (dk_at dksX11_follows_6 9 rfl rfl)
theorem dX11_follows_151 : decode cX11_follows 151 = .ok (.iload_n 3, 1) := dk_29 (dk_at dksX11_follows_6 10 rfl rfl)
theorem dX11_follows_152 : decode cX11_follows 152 = .ok (.iastore, 1) := dk_79 (dk_at dksX11_follows_6 11 rfl rfl)
theorem dX11_follows_153 : decode cX11_follows 153 = .ok (.goto 39, 3) := dk_167 0 39 (dk_at dksX11_follows_6 12 rfl rfl)
theorem dX11_follows_156 : decode cX11_follows 156 = .ok (.iload 4, 2) := dk_21 4 (dk_at dksX11_follows_6 15 rfl rfl)
theorem dX11_follows_158 : decode cX11_follows 158 = .ok (.aload_n 0, 1) := dk_42 (dk_at dksX11_follows_6 17 rfl rfl)
theorem dX11_follows_159 : decode cX11_follows 159 = .ok (.iload_n 2, 1) := dk_28 (dk_at dksX11_follows_6 18 rfl rfl)
theorem dX11_follows_160 : decode cX11_follows 160 = .ok (.iload_n 3, 1) := dk_29 (dk_at dksX11_follows_6 19 rfl rfl)
theorem dX11_follows_161 : decode cX11_follows 161 = .ok (.iload_n 1, 1) := dk_27 (dk_at dksX11_follows_6 20 rfl rfl)
theorem dX11_follows_162 : decode cX11_follows 162 = .ok (.invokevirtual 341, 3) := dk_182 1 85 (dk_at dksX11_follows_6 21 rfl rfl)
theorem dX11_follows_165 : decode cX11_follows 165 = .ok (.if_icmp .ne 16, 3) := dk_160 0 16 (dk_at dksX11_follows_7 0 rfl rfl)
theorem dX11_follows_168 : decode cX11_follows 168 = .ok (.iinc 2 (-1), 3) := dk_132 2 255 (dk_at dksX11_follows_7 3 rfl rfl)
theorem dX11_follows_171 : decode cX11_follows 171 = .ok (.aload_n 0, 1) := dk_42 (dk_at dksX11_follows_7 6 rfl rfl)
theorem dX11_follows_172 : decode cX11_follows 172 = .ok (.getfield 90, 3) := dk_180 0 90 (dk_at dksX11_follows_7 7 rfl rfl)
theorem dX11_follows_175 : decode cX11_follows 175 = .ok (.iload_n 2, 1) := dk_28 (dk_at dksX11_follows_7 10 rfl rfl)
theorem dX11_follows_176 : decode cX11_follows 176 = .ok (.iconst (-1), 1) := dk_2 (dk_at dksX11_follows_7 11 rfl rfl)
theorem dX11_follows_177 : decode cX11_follows 177 = .ok (.iastore, 1) := dk_79 (dk_at dksX11_follows_7 12 rfl rfl)
theorem dX11_follows_178 : decode cX11_follows 178 = .ok (.goto 14, 3) := dk_167 0 14 (dk_at dksX11_follows_7 13 rfl rfl)
theorem dX11_follows_181 : decode cX11_follows 181 = .ok (.iinc 3 (-1), 3) := dk_132 3 255 (dk_at dksX11_follows_7 16 rfl rfl)
theorem dX11_follows_184 : decode cX11_follows 184 = .ok (.aload_n 0, 1) := dk_42 (dk_at dksX11_follows_7 19 rfl rfl)
theorem dX11_follows_185 : decode cX11_follows 185 = .ok (.getfield 87, 3) := dk_180 0 87 (dk_at dksX11_follows_7 20 rfl rfl)
theorem dX11_follows_188 : decode cX11_follows 188 = .ok (.iload_n 3, 1) := dk_29 (dk_at dksX11_follows_7 23 rfl rfl)
theorem dX11_follows_189 : decode cX11_follows 189 = .ok (.bipush 7, 2) := dk_16 7 (dk_at dksX11_follows_8 0 rfl rfl)
theorem dX11_follows_191 : decode cX11_follows 191 = .ok (.iastore, 1) := dk_79 (dk_at dksX11_follows_8 2 rfl rfl)
theorem dX11_follows_192 : decode cX11_follows 192 = .ok (.goto (-100), 3) := dk_167 255 156 (dk_at dksX11_follows_8 3 rfl rfl)
theorem dX11_follows_195 : decode cX11_follows 195 = .ok (.return_, 1) := dk_177 (dk_at dksX11_follows_8 6 rfl rfl)
def dkwX11_slips_6 : List UInt8 := [21, 4, 172]
abbrev dktX11_slips_6 : List UInt8 := dkwX11_slips_6 ++ []
def dkwX11_slips_5 : List UInt8 := [180, 0, 90, 21, 5, 46, 156, 0, 7, 4, 167, 0, 4, 3, 96, 54, 4, 132, 5, 1, 167, 255, 218]
abbrev dktX11_slips_5 : List UInt8 := dkwX11_slips_5 ++ dktX11_slips_6
def dkwX11_slips_4 : List UInt8 := [167, 255, 222, 3, 54, 5, 21, 5, 42, 180, 1, 124, 162, 0, 35, 28, 16, 6, 160, 0, 29, 21, 4, 42]
abbrev dktX11_slips_4 : List UInt8 := dkwX11_slips_4 ++ dktX11_slips_5
def dkwX11_slips_3 : List UInt8 := [42, 180, 0, 87, 21, 5, 46, 28, 160, 0, 7, 4, 167, 0, 4, 3, 96, 54, 4, 132, 5, 1]
abbrev dktX11_slips_3 : List UInt8 := dkwX11_slips_3 ++ dktX11_slips_4
def dkwX11_slips_2 : List UInt8 := [172, 42, 27, 182, 1, 188, 3, 54, 4, 3, 54, 5, 21, 5, 42, 27, 182, 0, 251, 162, 0, 30, 21, 4]
abbrev dktX11_slips_2 : List UInt8 := dkwX11_slips_2 ++ dktX11_slips_3
def dkwX11_slips_1 : List UInt8 := [4, 167, 0, 4, 3, 4, 182, 0, 235, 153, 0, 5, 3, 172, 42, 182, 1, 185, 62, 29, 156, 0, 5, 29]
abbrev dktX11_slips_1 : List UInt8 := dkwX11_slips_1 ++ dktX11_slips_2
def dkwX11_slips_0 : List UInt8 := [42, 3, 181, 0, 3, 42, 42, 27, 182, 1, 3, 154, 0, 13, 28, 4, 16, 7, 184, 0, 106, 154, 0, 7]
abbrev dktX11_slips_0 : List UInt8 := dkwX11_slips_0 ++ dktX11_slips_1
theorem dksX11_slips_0 : cX11_slips.data.toList.drop 0 = dktX11_slips_0 := by decide +kernel
theorem dksX11_slips_1 : cX11_slips.data.toList.drop 24 = dktX11_slips_1 := dk_seg dksX11_slips_0 24 rfl rfl
theorem dksX11_slips_2 : cX11_slips.data.toList.drop 48 = dktX11_slips_2 := dk_seg dksX11_slips_1 24 rfl rfl
theorem dksX11_slips_3 : cX11_slips.data.toList.drop 72 = dktX11_slips_3 := dk_seg dksX11_slips_2 24 rfl rfl
theorem dksX11_slips_4 : cX11_slips.data.toList.drop 94 = dktX11_slips_4 := dk_seg dksX11_slips_3 22 rfl rfl
theorem dksX11_slips_5 : cX11_slips.data.toList.drop 118 = dktX11_slips_5 := dk_seg dksX11_slips_4 24 rfl rfl
theorem dksX11_slips_6 : cX11_slips.data.toList.drop 141 = dktX11_slips_6 := dk_seg dksX11_slips_5 23 rfl rfl
theorem dX11_slips_0 : decode cX11_slips 0 = .ok (.aload_n 0, 1) := dk_42 (dk_at dksX11_slips_0 0 rfl rfl)
theorem dX11_slips_1 : decode cX11_slips 1 = .ok (.iconst 0, 1) := dk_3 (dk_at dksX11_slips_0 1 rfl rfl)
theorem dX11_slips_2 : decode cX11_slips 2 = .ok (.putfield 3, 3) := dk_181 0 3 (dk_at dksX11_slips_0 2 rfl rfl)
theorem dX11_slips_5 : decode cX11_slips 5 = .ok (.aload_n 0, 1) := dk_42 (dk_at dksX11_slips_0 5 rfl rfl)
theorem dX11_slips_6 : decode cX11_slips 6 = .ok (.aload_n 0, 1) := dk_42 (dk_at dksX11_slips_0 6 rfl rfl)
theorem dX11_slips_7 : decode cX11_slips 7 = .ok (.iload_n 1, 1) := dk_27 (dk_at dksX11_slips_0 7 rfl rfl)
theorem dX11_slips_8 : decode cX11_slips 8 = .ok (.invokevirtual 259, 3) := dk_182 1 3 (dk_at dksX11_slips_0 8 rfl rfl)
theorem dX11_slips_11 : decode cX11_slips 11 = .ok (.ifCond .ne 13, 3) := dk_154 0 13 (dk_at dksX11_slips_0 11 rfl rfl)
theorem dX11_slips_14 : decode cX11_slips 14 = .ok (.iload_n 2, 1) := dk_28 (dk_at dksX11_slips_0 14 rfl rfl)
theorem dX11_slips_15 : decode cX11_slips 15 = .ok (.iconst 1, 1) := dk_4 (dk_at dksX11_slips_0 15 rfl rfl)
theorem dX11_slips_16 : decode cX11_slips 16 = .ok (.bipush 7, 2) := dk_16 7 (dk_at dksX11_slips_0 16 rfl rfl)
theorem dX11_slips_18 : decode cX11_slips 18 = .ok (.invokestatic 106, 3) := dk_184 0 106 (dk_at dksX11_slips_0 18 rfl rfl)
theorem dX11_slips_21 : decode cX11_slips 21 = .ok (.ifCond .ne 7, 3) := dk_154 0 7 (dk_at dksX11_slips_0 21 rfl rfl)
theorem dX11_slips_24 : decode cX11_slips 24 = .ok (.iconst 1, 1) := dk_4 (dk_at dksX11_slips_1 0 rfl rfl)
theorem dX11_slips_25 : decode cX11_slips 25 = .ok (.goto 4, 3) := dk_167 0 4 (dk_at dksX11_slips_1 1 rfl rfl)
theorem dX11_slips_28 : decode cX11_slips 28 = .ok (.iconst 0, 1) := dk_3 (dk_at dksX11_slips_1 4 rfl rfl)
theorem dX11_slips_29 : decode cX11_slips 29 = .ok (.iconst 1, 1) := dk_4 (dk_at dksX11_slips_1 5 rfl rfl)
theorem dX11_slips_30 : decode cX11_slips 30 = .ok (.invokevirtual 235, 3) := dk_182 0 235 (dk_at dksX11_slips_1 6 rfl rfl)
theorem dX11_slips_33 : decode cX11_slips 33 = .ok (.ifCond .eq 5, 3) := dk_153 0 5 (dk_at dksX11_slips_1 9 rfl rfl)
theorem dX11_slips_36 : decode cX11_slips 36 = .ok (.iconst 0, 1) := dk_3 (dk_at dksX11_slips_1 12 rfl rfl)
theorem dX11_slips_37 : decode cX11_slips 37 = .ok (.ireturn, 1) := dk_172 (dk_at dksX11_slips_1 13 rfl rfl)
theorem dX11_slips_38 : decode cX11_slips 38 = .ok (.aload_n 0, 1) := dk_42 (dk_at dksX11_slips_1 14 rfl rfl)
theorem dX11_slips_39 : decode cX11_slips 39 = .ok (.invokevirtual 441, 3) := dk_182 1 185 (dk_at dksX11_slips_1 15 rfl rfl)
theorem dX11_slips_42 : decode cX11_slips 42 = .ok (.istore_n 3, 1) := dk_62 (dk_at dksX11_slips_1 18 rfl rfl)
theorem dX11_slips_43 : decode cX11_slips 43 = .ok (.iload_n 3, 1) := dk_29 (dk_at dksX11_slips_1 19 rfl rfl)
theorem dX11_slips_44 : decode cX11_slips 44 = .ok (.ifCond .ge 5, 3) := dk_156 0 5 (dk_at dksX11_slips_1 20 rfl rfl)
theorem dX11_slips_47 : decode cX11_slips 47 = .ok (.iload_n 3, 1) := dk_29 (dk_at dksX11_slips_1 23 rfl rfl)
theorem dX11_slips_48 : decode cX11_slips 48 = .ok (.ireturn, 1) := dk_172 (dk_at dksX11_slips_2 0 rfl rfl)
theorem dX11_slips_49 : decode cX11_slips 49 = .ok (.aload_n 0, 1) := dk_42 (dk_at dksX11_slips_2 1 rfl rfl)
theorem dX11_slips_50 : decode cX11_slips 50 = .ok (.iload_n 1, 1) := dk_27 (dk_at dksX11_slips_2 2 rfl rfl)
theorem dX11_slips_51 : decode cX11_slips 51 = .ok (.invokevirtual 444, 3) := dk_182 1 188 (dk_at dksX11_slips_2 3 rfl rfl)
theorem dX11_slips_54 : decode cX11_slips 54 = .ok (.iconst 0, 1) := dk_3 (dk_at dksX11_slips_2 6 rfl rfl)
theorem dX11_slips_55 : decode cX11_slips 55 = .ok (.istore 4, 2) := dk_54 4 (dk_at dksX11_slips_2 7 rfl rfl)
theorem dX11_slips_57 : decode cX11_slips 57 = .ok (.iconst 0, 1) := dk_3 (dk_at dksX11_slips_2 9 rfl rfl)
theorem dX11_slips_58 : decode cX11_slips 58 = .ok (.istore 5, 2) := dk_54 5 (dk_at dksX11_slips_2 10 rfl rfl)
theorem dX11_slips_60 : decode cX11_slips 60 = .ok (.iload 5, 2) := dk_21 5 (dk_at dksX11_slips_2 12 rfl rfl)
theorem dX11_slips_62 : decode cX11_slips 62 = .ok (.aload_n 0, 1) := dk_42 (dk_at dksX11_slips_2 14 rfl rfl)
theorem dX11_slips_63 : decode cX11_slips 63 = .ok (.iload_n 1, 1) := dk_27 (dk_at dksX11_slips_2 15 rfl rfl)
theorem dX11_slips_64 : decode cX11_slips 64 = .ok (.invokevirtual 251, 3) := dk_182 0 251 (dk_at dksX11_slips_2 16 rfl rfl)
theorem dX11_slips_67 : decode cX11_slips 67 = .ok (.if_icmp .ge 30, 3) := dk_162 0 30 (dk_at dksX11_slips_2 19 rfl rfl)
theorem dX11_slips_70 : decode cX11_slips 70 = .ok (.iload 4, 2) := dk_21 4 (dk_at dksX11_slips_2 22 rfl rfl)
theorem dX11_slips_72 : decode cX11_slips 72 = .ok (.aload_n 0, 1) := dk_42 (dk_at dksX11_slips_3 0 rfl rfl)
theorem dX11_slips_73 : decode cX11_slips 73 = .ok (.getfield 87, 3) := dk_180 0 87 (dk_at dksX11_slips_3 1 rfl rfl)
theorem dX11_slips_76 : decode cX11_slips 76 = .ok (.iload 5, 2) := dk_21 5 (dk_at dksX11_slips_3 4 rfl rfl)
theorem dX11_slips_78 : decode cX11_slips 78 = .ok (.iaload, 1) := dk_46 (dk_at dksX11_slips_3 6 rfl rfl)
theorem dX11_slips_79 : decode cX11_slips 79 = .ok (.iload_n 2, 1) := dk_28 (dk_at dksX11_slips_3 7 rfl rfl)
theorem dX11_slips_80 : decode cX11_slips 80 = .ok (.if_icmp .ne 7, 3) := dk_160 0 7 (dk_at dksX11_slips_3 8 rfl rfl)
theorem dX11_slips_83 : decode cX11_slips 83 = .ok (.iconst 1, 1) := dk_4 (dk_at dksX11_slips_3 11 rfl rfl)
theorem dX11_slips_84 : decode cX11_slips 84 = .ok (.goto 4, 3) := dk_167 0 4 (dk_at dksX11_slips_3 12 rfl rfl)
theorem dX11_slips_87 : decode cX11_slips 87 = .ok (.iconst 0, 1) := dk_3 (dk_at dksX11_slips_3 15 rfl rfl)
theorem dX11_slips_88 : decode cX11_slips 88 = .ok (.iadd, 1) := dk_96 (dk_at dksX11_slips_3 16 rfl rfl)
theorem dX11_slips_89 : decode cX11_slips 89 = .ok (.istore 4, 2) := dk_54 4 (dk_at dksX11_slips_3 17 rfl rfl)
theorem dX11_slips_91 : decode cX11_slips 91 = .ok (.iinc 5 1, 3) := dk_132 5 1 (dk_at dksX11_slips_3 19 rfl rfl)
theorem dX11_slips_94 : decode cX11_slips 94 = .ok (.goto (-34), 3) := dk_167 255 222 (dk_at dksX11_slips_4 0 rfl rfl)
theorem dX11_slips_97 : decode cX11_slips 97 = .ok (.iconst 0, 1) := dk_3 (dk_at dksX11_slips_4 3 rfl rfl)
theorem dX11_slips_98 : decode cX11_slips 98 = .ok (.istore 5, 2) := dk_54 5 (dk_at dksX11_slips_4 4 rfl rfl)
theorem dX11_slips_100 : decode cX11_slips 100 = .ok (.iload 5, 2) := dk_21 5 (dk_at dksX11_slips_4 6 rfl rfl)
theorem dX11_slips_102 : decode cX11_slips 102 = .ok (.aload_n 0, 1) := dk_42 (dk_at dksX11_slips_4 8 rfl rfl)
theorem dX11_slips_103 : decode cX11_slips 103 = .ok (.getfield 380, 3) := dk_180 1 124 (dk_at dksX11_slips_4 9 rfl rfl)
theorem dX11_slips_106 : decode cX11_slips 106 = .ok (.if_icmp .ge 35, 3) := dk_162 0 35 (dk_at dksX11_slips_4 12 rfl rfl)
theorem dX11_slips_109 : decode cX11_slips 109 = .ok (.iload_n 2, 1) := dk_28 (dk_at dksX11_slips_4 15 rfl rfl)
theorem dX11_slips_110 : decode cX11_slips 110 = .ok (.bipush 6, 2) := dk_16 6 (dk_at dksX11_slips_4 16 rfl rfl)
theorem dX11_slips_112 : decode cX11_slips 112 = .ok (.if_icmp .ne 29, 3) := dk_160 0 29 (dk_at dksX11_slips_4 18 rfl rfl)
theorem dX11_slips_115 : decode cX11_slips 115 = .ok (.iload 4, 2) := dk_21 4 (dk_at dksX11_slips_4 21 rfl rfl)
theorem dX11_slips_117 : decode cX11_slips 117 = .ok (.aload_n 0, 1) := dk_42 (dk_at dksX11_slips_4 23 rfl rfl)
theorem dX11_slips_118 : decode cX11_slips 118 = .ok (.getfield 90, 3) := dk_180 0 90 (dk_at dksX11_slips_5 0 rfl rfl)
theorem dX11_slips_121 : decode cX11_slips 121 = .ok (.iload 5, 2) := dk_21 5 (dk_at dksX11_slips_5 3 rfl rfl)
theorem dX11_slips_123 : decode cX11_slips 123 = .ok (.iaload, 1) := dk_46 (dk_at dksX11_slips_5 5 rfl rfl)
theorem dX11_slips_124 : decode cX11_slips 124 = .ok (.ifCond .ge 7, 3) := dk_156 0 7 (dk_at dksX11_slips_5 6 rfl rfl)
theorem dX11_slips_127 : decode cX11_slips 127 = .ok (.iconst 1, 1) := dk_4 (dk_at dksX11_slips_5 9 rfl rfl)
theorem dX11_slips_128 : decode cX11_slips 128 = .ok (.goto 4, 3) := dk_167 0 4 (dk_at dksX11_slips_5 10 rfl rfl)
theorem dX11_slips_131 : decode cX11_slips 131 = .ok (.iconst 0, 1) := dk_3 (dk_at dksX11_slips_5 13 rfl rfl)
theorem dX11_slips_132 : decode cX11_slips 132 = .ok (.iadd, 1) := dk_96 (dk_at dksX11_slips_5 14 rfl rfl)
theorem dX11_slips_133 : decode cX11_slips 133 = .ok (.istore 4, 2) := dk_54 4 (dk_at dksX11_slips_5 15 rfl rfl)
theorem dX11_slips_135 : decode cX11_slips 135 = .ok (.iinc 5 1, 3) := dk_132 5 1 (dk_at dksX11_slips_5 17 rfl rfl)
theorem dX11_slips_138 : decode cX11_slips 138 = .ok (.goto (-38), 3) := dk_167 255 218 (dk_at dksX11_slips_5 20 rfl rfl)
theorem dX11_slips_141 : decode cX11_slips 141 = .ok (.iload 4, 2) := dk_21 4 (dk_at dksX11_slips_6 0 rfl rfl)
theorem dX11_slips_143 : decode cX11_slips 143 = .ok (.ireturn, 1) := dk_172 (dk_at dksX11_slips_6 2 rfl rfl)
def dkwX11_breaks_4 : List UInt8 := [42, 27, 182, 0, 251, 160, 0, 8, 16, 253, 167, 0, 7, 42, 180, 1, 148, 172]
abbrev dktX11_breaks_4 : List UInt8 := dkwX11_breaks_4 ++ []
def dkwX11_breaks_3 : List UInt8 := [181, 1, 112, 42, 3, 182, 1, 176, 42, 180, 1, 145, 153, 0, 8, 16, 254, 167, 0, 24, 42, 180, 1, 148]
abbrev dktX11_breaks_3 : List UInt8 := dkwX11_breaks_3 ++ dktX11_breaks_4
def dkwX11_breaks_2 : List UInt8 := [132, 2, 1, 167, 255, 240, 42, 3, 181, 1, 142, 42, 3, 181, 1, 145, 42, 4, 181, 1, 103, 42, 16, 30]
abbrev dktX11_breaks_2 : List UInt8 := dkwX11_breaks_2 ++ dktX11_breaks_3
def dkwX11_breaks_1 : List UInt8 := [42, 4, 27, 120, 181, 1, 58, 3, 61, 28, 16, 8, 162, 0, 16, 42, 180, 0, 50, 28, 3, 79]
abbrev dktX11_breaks_1 : List UInt8 := dkwX11_breaks_1 ++ dktX11_breaks_2
def dkwX11_breaks_0 : List UInt8 := [42, 3, 181, 0, 3, 42, 42, 27, 182, 1, 3, 4, 182, 0, 235, 153, 0, 5, 3, 172, 42, 182, 1, 179]
abbrev dktX11_breaks_0 : List UInt8 := dkwX11_breaks_0 ++ dktX11_breaks_1
theorem dksX11_breaks_0 : cX11_breaks.data.toList.drop 0 = dktX11_breaks_0 := by decide +kernel
theorem dksX11_breaks_1 : cX11_breaks.data.toList.drop 24 = dktX11_breaks_1 := dk_seg dksX11_breaks_0 24 rfl rfl
theorem dksX11_breaks_2 : cX11_breaks.data.toList.drop 46 = dktX11_breaks_2 := dk_seg dksX11_breaks_1 22 rfl rfl
theorem dksX11_breaks_3 : cX11_breaks.data.toList.drop 70 = dktX11_breaks_3 := dk_seg dksX11_breaks_2 24 rfl rfl
theorem dksX11_breaks_4 : cX11_breaks.data.toList.drop 94 = dktX11_breaks_4 := dk_seg dksX11_breaks_3 24 rfl rfl
theorem dX11_breaks_0 : decode cX11_breaks 0 = .ok (.aload_n 0, 1) := dk_42 (dk_at dksX11_breaks_0 0 rfl rfl)
theorem dX11_breaks_1 : decode cX11_breaks 1 = .ok (.iconst 0, 1) := dk_3 (dk_at dksX11_breaks_0 1 rfl rfl)
theorem dX11_breaks_2 : decode cX11_breaks 2 = .ok (.putfield 3, 3) := dk_181 0 3 (dk_at dksX11_breaks_0 2 rfl rfl)
theorem dX11_breaks_5 : decode cX11_breaks 5 = .ok (.aload_n 0, 1) := dk_42 (dk_at dksX11_breaks_0 5 rfl rfl)
theorem dX11_breaks_6 : decode cX11_breaks 6 = .ok (.aload_n 0, 1) := dk_42 (dk_at dksX11_breaks_0 6 rfl rfl)
theorem dX11_breaks_7 : decode cX11_breaks 7 = .ok (.iload_n 1, 1) := dk_27 (dk_at dksX11_breaks_0 7 rfl rfl)
theorem dX11_breaks_8 : decode cX11_breaks 8 = .ok (.invokevirtual 259, 3) := dk_182 1 3 (dk_at dksX11_breaks_0 8 rfl rfl)
theorem dX11_breaks_11 : decode cX11_breaks 11 = .ok (.iconst 1, 1) := dk_4 (dk_at dksX11_breaks_0 11 rfl rfl)
theorem dX11_breaks_12 : decode cX11_breaks 12 = .ok (.invokevirtual 235, 3) := dk_182 0 235 (dk_at dksX11_breaks_0 12 rfl rfl)
theorem dX11_breaks_15 : decode cX11_breaks 15 = .ok (.ifCond .eq 5, 3) := dk_153 0 5 (dk_at dksX11_breaks_0 15 rfl rfl)
theorem dX11_breaks_18 : decode cX11_breaks 18 = .ok (.iconst 0, 1) := dk_3 (dk_at dksX11_breaks_0 18 rfl rfl)
theorem dX11_breaks_19 : decode cX11_breaks 19 = .ok (.ireturn, 1) := dk_172 (dk_at dksX11_breaks_0 19 rfl rfl)
theorem dX11_breaks_20 : decode cX11_breaks 20 = .ok (.aload_n 0, 1) := dk_42 (dk_at dksX11_breaks_0 20 rfl rfl)
theorem dX11_breaks_21 : decode cX11_breaks 21 = .ok (.invokevirtual 435, 3) := dk_182 1 179 (dk_at dksX11_breaks_0 21 rfl rfl)
theorem dX11_breaks_24 : decode cX11_breaks 24 = .ok (.aload_n 0, 1) := dk_42 (dk_at dksX11_breaks_1 0 rfl rfl)
theorem dX11_breaks_25 : decode cX11_breaks 25 = .ok (.iconst 1, 1) := dk_4 (dk_at dksX11_breaks_1 1 rfl rfl)
theorem dX11_breaks_26 : decode cX11_breaks 26 = .ok (.iload_n 1, 1) := dk_27 (dk_at dksX11_breaks_1 2 rfl rfl)
theorem dX11_breaks_27 : decode cX11_breaks 27 = .ok (.ishl, 1) := dk_120 (dk_at dksX11_breaks_1 3 rfl rfl)
theorem dX11_breaks_28 : decode cX11_breaks 28 = .ok (.putfield 314, 3) := dk_181 1 58 (dk_at dksX11_breaks_1 4 rfl rfl)
theorem dX11_breaks_31 : decode cX11_breaks 31 = .ok (.iconst 0, 1) := dk_3 (dk_at dksX11_breaks_1 7 rfl rfl)
theorem dX11_breaks_32 : decode cX11_breaks 32 = .ok (.istore_n 2, 1) := dk_61 (dk_at dksX11_breaks_1 8 rfl rfl)
theorem dX11_breaks_33 : decode cX11_breaks 33 = .ok (.iload_n 2, 1) := dk_28 (dk_at dksX11_breaks_1 9 rfl rfl)
theorem dX11_breaks_34 : decode cX11_breaks 34 = .ok (.bipush 8, 2) := dk_16 8 (dk_at dksX11_breaks_1 10 rfl rfl)
theorem dX11_breaks_36 : decode cX11_breaks 36 = .ok (.if_icmp .ge 16, 3) := dk_162 0 16 (dk_at dksX11_breaks_1 12 rfl rfl)
theorem dX11_breaks_39 : decode cX11_breaks 39 = .ok (.aload_n 0, 1) := dk_42 (dk_at dksX11_breaks_1 15 rfl rfl)
theorem dX11_breaks_40 : decode cX11_breaks 40 = .ok (.getfield 50, 3) := dk_180 0 50 (dk_at dksX11_breaks_1 16 rfl rfl)
theorem dX11_breaks_43 : decode cX11_breaks 43 = .ok (.iload_n 2, 1) := dk_28 (dk_at dksX11_breaks_1 19 rfl rfl)
theorem dX11_breaks_44 : decode cX11_breaks 44 = .ok (.iconst 0, 1) := dk_3 (dk_at dksX11_breaks_1 20 rfl rfl)
theorem dX11_breaks_45 : decode cX11_breaks 45 = .ok (.iastore, 1) := dk_79 (dk_at dksX11_breaks_1 21 rfl rfl)
theorem dX11_breaks_46 : decode cX11_breaks 46 = .ok (.iinc 2 1, 3) := dk_132 2 1 (dk_at dksX11_breaks_2 0 rfl rfl)
theorem dX11_breaks_49 : decode cX11_breaks 49 = .ok (.goto (-16), 3) := dk_167 255 240 (dk_at dksX11_breaks_2 3 rfl rfl)
theorem dX11_breaks_52 : decode cX11_breaks 52 = .ok (.aload_n 0, 1) := dk_42 (dk_at dksX11_breaks_2 6 rfl rfl)
theorem dX11_breaks_53 : decode cX11_breaks 53 = .ok (.iconst 0, 1) := dk_3 (dk_at dksX11_breaks_2 7 rfl rfl)
theorem dX11_breaks_54 : decode cX11_breaks 54 = .ok (.putfield 398, 3) := dk_181 1 142 (dk_at dksX11_breaks_2 8 rfl rfl)
theorem dX11_breaks_57 : decode cX11_breaks 57 = .ok (.aload_n 0, 1) := dk_42 (dk_at dksX11_breaks_2 11 rfl rfl)
theorem dX11_breaks_58 : decode cX11_breaks 58 = .ok (.iconst 0, 1) := dk_3 (dk_at dksX11_breaks_2 12 rfl rfl)
theorem dX11_breaks_59 : decode cX11_breaks 59 = .ok (.putfield 401, 3) := dk_181 1 145 (dk_at dksX11_breaks_2 13 rfl rfl)
theorem dX11_breaks_62 : decode cX11_breaks 62 = .ok (.aload_n 0, 1) := dk_42 (dk_at dksX11_breaks_2 16 rfl rfl)
theorem dX11_breaks_63 : decode cX11_breaks 63 = .ok (.iconst 1, 1) := dk_4 (dk_at dksX11_breaks_2 17 rfl rfl)
theorem dX11_breaks_64 : decode cX11_breaks 64 = .ok (.putfield 359, 3) := dk_181 1 103 (dk_at dksX11_breaks_2 18 rfl rfl)
theorem dX11_breaks_67 : decode cX11_breaks 67 = .ok (.aload_n 0, 1) := dk_42 (dk_at dksX11_breaks_2 21 rfl rfl)
theorem dX11_breaks_68 : decode cX11_breaks 68 = .ok (.bipush 30, 2) := dk_16 30 (dk_at dksX11_breaks_2 22 rfl rfl)
theorem dX11_breaks_70 : decode cX11_breaks 70 = .ok (.putfield 368, 3) := dk_181 1 112 (dk_at dksX11_breaks_3 0 rfl rfl)
theorem dX11_breaks_73 : decode cX11_breaks 73 = .ok (.aload_n 0, 1) := dk_42 (dk_at dksX11_breaks_3 3 rfl rfl)
theorem dX11_breaks_74 : decode cX11_breaks 74 = .ok (.iconst 0, 1) := dk_3 (dk_at dksX11_breaks_3 4 rfl rfl)
theorem dX11_breaks_75 : decode cX11_breaks 75 = .ok (.invokevirtual 432, 3) := dk_182 1 176 (dk_at dksX11_breaks_3 5 rfl rfl)
theorem dX11_breaks_78 : decode cX11_breaks 78 = .ok (.aload_n 0, 1) := dk_42 (dk_at dksX11_breaks_3 8 rfl rfl)
theorem dX11_breaks_79 : decode cX11_breaks 79 = .ok (.getfield 401, 3) := dk_180 1 145 (dk_at dksX11_breaks_3 9 rfl rfl)
theorem dX11_breaks_82 : decode cX11_breaks 82 = .ok (.ifCond .eq 8, 3) := dk_153 0 8 (dk_at dksX11_breaks_3 12 rfl rfl)
theorem dX11_breaks_85 : decode cX11_breaks 85 = .ok (.bipush (-2), 2) := dk_16 254 (dk_at dksX11_breaks_3 15 rfl rfl)
theorem dX11_breaks_87 : decode cX11_breaks 87 = .ok (.goto 24, 3) := dk_167 0 24 (dk_at dksX11_breaks_3 17 rfl rfl)
theorem dX11_breaks_90 : decode cX11_breaks 90 = .ok (.aload_n 0, 1) := dk_42 (dk_at dksX11_breaks_3 20 rfl rfl)
theorem dX11_breaks_91 : decode cX11_breaks 91 = .ok (.getfield 404, 3) := dk_180 1 148 (dk_at dksX11_breaks_3 21 rfl rfl)
theorem dX11_breaks_94 : decode cX11_breaks 94 = .ok (.aload_n 0, 1) := dk_42 (dk_at dksX11_breaks_4 0 rfl rfl)
theorem dX11_breaks_95 : decode cX11_breaks 95 = .ok (.iload_n 1, 1) := dk_27 (dk_at dksX11_breaks_4 1 rfl rfl)
theorem dX11_breaks_96 : decode cX11_breaks 96 = .ok (.invokevirtual 251, 3) := dk_182 0 251 (dk_at dksX11_breaks_4 2 rfl rfl)
theorem dX11_breaks_99 : decode cX11_breaks 99 = .ok (.if_icmp .ne 8, 3) := dk_160 0 8 (dk_at dksX11_breaks_4 5 rfl rfl)
theorem dX11_breaks_102 : decode cX11_breaks 102 = .ok (.bipush (-3), 2) := dk_16 253 (dk_at dksX11_breaks_4 8 rfl rfl)
theorem dX11_breaks_104 : decode cX11_breaks 104 = .ok (.goto 7, 3) := dk_167 0 7 (dk_at dksX11_breaks_4 10 rfl rfl)
theorem dX11_breaks_107 : decode cX11_breaks 107 = .ok (.aload_n 0, 1) := dk_42 (dk_at dksX11_breaks_4 13 rfl rfl)
theorem dX11_breaks_108 : decode cX11_breaks 108 = .ok (.getfield 404, 3) := dk_180 1 148 (dk_at dksX11_breaks_4 14 rfl rfl)
theorem dX11_breaks_111 : decode cX11_breaks 111 = .ok (.ireturn, 1) := dk_172 (dk_at dksX11_breaks_4 17 rfl rfl)
def dkwX11_brief_7 : List UInt8 := [54, 4, 132, 5, 1, 167, 255, 194, 21, 4, 172]
abbrev dktX11_brief_7 : List UInt8 := dkwX11_brief_7 ++ []
def dkwX11_brief_6 : List UInt8 := [51, 153, 0, 20, 42, 27, 21, 5, 182, 1, 23, 5, 108, 29, 160, 0, 7, 4, 167, 0, 4, 3, 96]
abbrev dktX11_brief_6 : List UInt8 := dkwX11_brief_6 ++ dktX11_brief_7
def dkwX11_brief_5 : List UInt8 := [180, 0, 43, 17, 5, 16, 27, 104, 16, 36, 21, 5, 104, 96, 42, 180, 0, 75, 27, 46, 16, 36, 112, 96]
abbrev dktX11_brief_5 : List UInt8 := dkwX11_brief_5 ++ dktX11_brief_6
def dkwX11_brief_4 : List UInt8 := [182, 1, 23, 5, 108, 62, 3, 54, 4, 3, 54, 5, 21, 5, 16, 36, 162, 0, 61, 21, 4, 42]
abbrev dktX11_brief_4 : List UInt8 := dkwX11_brief_4 ++ dktX11_brief_5
def dkwX11_brief_3 : List UInt8 := [167, 255, 237, 42, 27, 27, 5, 112, 182, 1, 49, 42, 27, 42, 180, 0, 75, 27, 46, 16, 36, 108]
abbrev dktX11_brief_3 : List UInt8 := dkwX11_brief_3 ++ dktX11_brief_4
def dkwX11_brief_2 : List UInt8 := [182, 1, 46, 3, 62, 29, 27, 162, 0, 20, 42, 29, 42, 180, 0, 75, 29, 46, 182, 1, 170, 132, 3, 1]
abbrev dktX11_brief_2 : List UInt8 := dkwX11_brief_2 ++ dktX11_brief_3
def dkwX11_brief_1 : List UInt8 := [42, 182, 1, 185, 61, 28, 156, 0, 5, 28, 172, 27, 42, 180, 1, 124, 161, 0, 6, 16, 253, 172, 42]
abbrev dktX11_brief_1 : List UInt8 := dkwX11_brief_1 ++ dktX11_brief_2
def dkwX11_brief_0 : List UInt8 := [42, 3, 181, 0, 3, 42, 27, 156, 0, 7, 4, 167, 0, 4, 3, 4, 182, 0, 235, 153, 0, 5, 3, 172]
abbrev dktX11_brief_0 : List UInt8 := dkwX11_brief_0 ++ dktX11_brief_1
theorem dksX11_brief_0 : cX11_brief.data.toList.drop 0 = dktX11_brief_0 := by decide +kernel
theorem dksX11_brief_1 : cX11_brief.data.toList.drop 24 = dktX11_brief_1 := dk_seg dksX11_brief_0 24 rfl rfl
theorem dksX11_brief_2 : cX11_brief.data.toList.drop 47 = dktX11_brief_2 := dk_seg dksX11_brief_1 23 rfl rfl
theorem dksX11_brief_3 : cX11_brief.data.toList.drop 71 = dktX11_brief_3 := dk_seg dksX11_brief_2 24 rfl rfl
theorem dksX11_brief_4 : cX11_brief.data.toList.drop 93 = dktX11_brief_4 := dk_seg dksX11_brief_3 22 rfl rfl
theorem dksX11_brief_5 : cX11_brief.data.toList.drop 115 = dktX11_brief_5 := dk_seg dksX11_brief_4 22 rfl rfl
theorem dksX11_brief_6 : cX11_brief.data.toList.drop 139 = dktX11_brief_6 := dk_seg dksX11_brief_5 24 rfl rfl
theorem dksX11_brief_7 : cX11_brief.data.toList.drop 162 = dktX11_brief_7 := dk_seg dksX11_brief_6 23 rfl rfl
theorem dX11_brief_0 : decode cX11_brief 0 = .ok (.aload_n 0, 1) := dk_42 (dk_at dksX11_brief_0 0 rfl rfl)
theorem dX11_brief_1 : decode cX11_brief 1 = .ok (.iconst 0, 1) := dk_3 (dk_at dksX11_brief_0 1 rfl rfl)
theorem dX11_brief_2 : decode cX11_brief 2 = .ok (.putfield 3, 3) := dk_181 0 3 (dk_at dksX11_brief_0 2 rfl rfl)
theorem dX11_brief_5 : decode cX11_brief 5 = .ok (.aload_n 0, 1) := dk_42 (dk_at dksX11_brief_0 5 rfl rfl)
theorem dX11_brief_6 : decode cX11_brief 6 = .ok (.iload_n 1, 1) := dk_27 (dk_at dksX11_brief_0 6 rfl rfl)
theorem dX11_brief_7 : decode cX11_brief 7 = .ok (.ifCond .ge 7, 3) := dk_156 0 7 (dk_at dksX11_brief_0 7 rfl rfl)
theorem dX11_brief_10 : decode cX11_brief 10 = .ok (.iconst 1, 1) := dk_4 (dk_at dksX11_brief_0 10 rfl rfl)
theorem dX11_brief_11 : decode cX11_brief 11 = .ok (.goto 4, 3) := dk_167 0 4 (dk_at dksX11_brief_0 11 rfl rfl)
theorem dX11_brief_14 : decode cX11_brief 14 = .ok (.iconst 0, 1) := dk_3 (dk_at dksX11_brief_0 14 rfl rfl)
theorem dX11_brief_15 : decode cX11_brief 15 = .ok (.iconst 1, 1) := dk_4 (dk_at dksX11_brief_0 15 rfl rfl)
theorem dX11_brief_16 : decode cX11_brief 16 = .ok (.invokevirtual 235, 3) := dk_182 0 235 (dk_at dksX11_brief_0 16 rfl rfl)
theorem dX11_brief_19 : decode cX11_brief 19 = .ok (.ifCond .eq 5, 3) := dk_153 0 5 (dk_at dksX11_brief_0 19 rfl rfl)
theorem dX11_brief_22 : decode cX11_brief 22 = .ok (.iconst 0, 1) := dk_3 (dk_at dksX11_brief_0 22 rfl rfl)
theorem dX11_brief_23 : decode cX11_brief 23 = .ok (.ireturn, 1) := dk_172 (dk_at dksX11_brief_0 23 rfl rfl)
theorem dX11_brief_24 : decode cX11_brief 24 = .ok (.aload_n 0, 1) := dk_42 (dk_at dksX11_brief_1 0 rfl rfl)
theorem dX11_brief_25 : decode cX11_brief 25 = .ok (.invokevirtual 441, 3) := dk_182 1 185 (dk_at dksX11_brief_1 1 rfl rfl)
theorem dX11_brief_28 : decode cX11_brief 28 = .ok (.istore_n 2, 1) := dk_61 (dk_at dksX11_brief_1 4 rfl rfl)
theorem dX11_brief_29 : decode cX11_brief 29 = .ok (.iload_n 2, 1) := dk_28 (dk_at dksX11_brief_1 5 rfl rfl)
theorem dX11_brief_30 : decode cX11_brief 30 = .ok (.ifCond .ge 5, 3) := dk_156 0 5 (dk_at dksX11_brief_1 6 rfl rfl)
theorem dX11_brief_33 : decode cX11_brief 33 = .ok (.iload_n 2, 1) := dk_28 (dk_at dksX11_brief_1 9 rfl rfl)
theorem dX11_brief_34 : decode cX11_brief 34 = .ok (.ireturn, 1) := dk_172 (dk_at dksX11_brief_1 10 rfl rfl)
theorem dX11_brief_35 : decode cX11_brief 35 = .ok (.iload_n 1, 1) := dk_27 (dk_at dksX11_brief_1 11 rfl rfl)
theorem dX11_brief_36 : decode cX11_brief 36 = .ok (.aload_n 0, 1) := dk_42 (dk_at dksX11_brief_1 12 rfl rfl)
theorem dX11_brief_37 : decode cX11_brief 37 = .ok (.getfield 380, 3) := dk_180 1 124 (dk_at dksX11_brief_1 13 rfl rfl)
theorem dX11_brief_40 : decode cX11_brief 40 = .ok (.if_icmp .lt 6, 3) := dk_161 0 6 (dk_at dksX11_brief_1 16 rfl rfl)
theorem dX11_brief_43 : decode cX11_brief 43 = .ok (.bipush (-3), 2) := dk_16 253 (dk_at dksX11_brief_1 19 rfl rfl)
theorem dX11_brief_45 : decode cX11_brief 45 = .ok (.ireturn, 1) := dk_172 (dk_at dksX11_brief_1 21 rfl rfl)
theorem dX11_brief_46 : decode cX11_brief 46 = .ok (.aload_n 0, 1) := dk_42 (dk_at dksX11_brief_1 22 rfl rfl)
theorem dX11_brief_47 : decode cX11_brief 47 = .ok (.invokevirtual 302, 3) := dk_182 1 46 (dk_at dksX11_brief_2 0 rfl rfl)
theorem dX11_brief_50 : decode cX11_brief 50 = .ok (.iconst 0, 1) := dk_3 (dk_at dksX11_brief_2 3 rfl rfl)
theorem dX11_brief_51 : decode cX11_brief 51 = .ok (.istore_n 3, 1) := dk_62 (dk_at dksX11_brief_2 4 rfl rfl)
theorem dX11_brief_52 : decode cX11_brief 52 = .ok (.iload_n 3, 1) := dk_29 (dk_at dksX11_brief_2 5 rfl rfl)
theorem dX11_brief_53 : decode cX11_brief 53 = .ok (.iload_n 1, 1) := dk_27 (dk_at dksX11_brief_2 6 rfl rfl)
theorem dX11_brief_54 : decode cX11_brief 54 = .ok (.if_icmp .ge 20, 3) := dk_162 0 20 (dk_at dksX11_brief_2 7 rfl rfl)
theorem dX11_brief_57 : decode cX11_brief 57 = .ok (.aload_n 0, 1) := dk_42 (dk_at dksX11_brief_2 10 rfl rfl)
theorem dX11_brief_58 : decode cX11_brief 58 = .ok (.iload_n 3, 1) := dk_29 (dk_at dksX11_brief_2 11 rfl rfl)
theorem dX11_brief_59 : decode cX11_brief 59 = .ok (.aload_n 0, 1) := dk_42 (dk_at dksX11_brief_2 12 rfl rfl)
theorem dX11_brief_60 : decode cX11_brief 60 = .ok (.getfield 75, 3) := dk_180 0 75 (dk_at dksX11_brief_2 13 rfl rfl)
theorem dX11_brief_63 : decode cX11_brief 63 = .ok (.iload_n 3, 1) := dk_29 (dk_at dksX11_brief_2 16 rfl rfl)
theorem dX11_brief_64 : decode cX11_brief 64 = .ok (.iaload, 1) := dk_46 (dk_at dksX11_brief_2 17 rfl rfl)
theorem dX11_brief_65 : decode cX11_brief 65 = .ok (.invokevirtual 426, 3) := dk_182 1 170 (dk_at dksX11_brief_2 18 rfl rfl)
theorem dX11_brief_68 : decode cX11_brief 68 = .ok (.iinc 3 1, 3) := dk_132 3 1 (dk_at dksX11_brief_2 21 rfl rfl)
theorem dX11_brief_71 : decode cX11_brief 71 = .ok (.goto (-19), 3) := dk_167 255 237 (dk_at dksX11_brief_3 0 rfl rfl)
theorem dX11_brief_74 : decode cX11_brief 74 = .ok (.aload_n 0, 1) := dk_42 (dk_at dksX11_brief_3 3 rfl rfl)
theorem dX11_brief_75 : decode cX11_brief 75 = .ok (.iload_n 1, 1) := dk_27 (dk_at dksX11_brief_3 4 rfl rfl)
theorem dX11_brief_76 : decode cX11_brief 76 = .ok (.iload_n 1, 1) := dk_27 (dk_at dksX11_brief_3 5 rfl rfl)
theorem dX11_brief_77 : decode cX11_brief 77 = .ok (.iconst 2, 1) := dk_5 (dk_at dksX11_brief_3 6 rfl rfl)
theorem dX11_brief_78 : decode cX11_brief 78 = .ok (.irem, 1) := dk_112 (dk_at dksX11_brief_3 7 rfl rfl)
theorem dX11_brief_79 : decode cX11_brief 79 = .ok (.invokevirtual 305, 3) := dk_182 1 49 (dk_at dksX11_brief_3 8 rfl rfl)
theorem dX11_brief_82 : decode cX11_brief 82 = .ok (.aload_n 0, 1) := dk_42 (dk_at dksX11_brief_3 11 rfl rfl)
theorem dX11_brief_83 : decode cX11_brief 83 = .ok (.iload_n 1, 1) := dk_27 (dk_at dksX11_brief_3 12 rfl rfl)
theorem dX11_brief_84 : decode cX11_brief 84 = .ok (.aload_n 0, 1) := dk_42 (dk_at dksX11_brief_3 13 rfl rfl)
theorem dX11_brief_85 : decode cX11_brief 85 = .ok (.getfield 75, 3) := dk_180 0 75 (dk_at dksX11_brief_3 14 rfl rfl)
theorem dX11_brief_88 : decode cX11_brief 88 = .ok (.iload_n 1, 1) := dk_27 (dk_at dksX11_brief_3 17 rfl rfl)
theorem dX11_brief_89 : decode cX11_brief 89 = .ok (.iaload, 1) := dk_46 (dk_at dksX11_brief_3 18 rfl rfl)
theorem dX11_brief_90 : decode cX11_brief 90 = .ok (.bipush 36, 2) := dk_16 36 (dk_at dksX11_brief_3 19 rfl rfl)
theorem dX11_brief_92 : decode cX11_brief 92 = .ok (.idiv, 1) := dk_108 (dk_at dksX11_brief_3 21 rfl rfl)
theorem dX11_brief_93 : decode cX11_brief 93 = .ok (.invokevirtual 279, 3) := dk_182 1 23 (dk_at dksX11_brief_4 0 rfl rfl)
theorem dX11_brief_96 : decode cX11_brief 96 = .ok (.iconst 2, 1) := dk_5 (dk_at dksX11_brief_4 3 rfl rfl)
theorem dX11_brief_97 : decode cX11_brief 97 = .ok (.idiv, 1) := dk_108 (dk_at dksX11_brief_4 4 rfl rfl)
theorem dX11_brief_98 : decode cX11_brief 98 = .ok (.istore_n 3, 1) := dk_62 (dk_at dksX11_brief_4 5 rfl rfl)
theorem dX11_brief_99 : decode cX11_brief 99 = .ok (.iconst 0, 1) := dk_3 (dk_at dksX11_brief_4 6 rfl rfl)
theorem dX11_brief_100 : decode cX11_brief 100 = .ok (.istore 4, 2) := dk_54 4 (dk_at dksX11_brief_4 7 rfl rfl)
theorem dX11_brief_102 : decode cX11_brief 102 = .ok (.iconst 0, 1) := dk_3 (dk_at dksX11_brief_4 9 rfl rfl)
theorem dX11_brief_103 : decode cX11_brief 103 = .ok (.istore 5, 2) := dk_54 5 (dk_at dksX11_brief_4 10 rfl rfl)
theorem dX11_brief_105 : decode cX11_brief 105 = .ok (.iload 5, 2) := dk_21 5 (dk_at dksX11_brief_4 12 rfl rfl)
theorem dX11_brief_107 : decode cX11_brief 107 = .ok (.bipush 36, 2) := dk_16 36 (dk_at dksX11_brief_4 14 rfl rfl)
theorem dX11_brief_109 : decode cX11_brief 109 = .ok (.if_icmp .ge 61, 3) := dk_162 0 61 (dk_at dksX11_brief_4 16 rfl rfl)
theorem dX11_brief_112 : decode cX11_brief 112 = .ok (.iload 4, 2) := dk_21 4 (dk_at dksX11_brief_4 19 rfl rfl)
theorem dX11_brief_114 : decode cX11_brief 114 = .ok (.aload_n 0, 1) := dk_42 (dk_at dksX11_brief_4 21 rfl rfl)
theorem dX11_brief_115 : decode cX11_brief 115 = .ok (.getfield 43, 3) := dk_180 0 43 (dk_at dksX11_brief_5 0 rfl rfl)
theorem dX11_brief_118 : decode cX11_brief 118 = .ok (.sipush 1296, 3) := dk_17 5 16 (dk_at dksX11_brief_5 3 rfl rfl)
theorem dX11_brief_121 : decode cX11_brief 121 = .ok (.iload_n 1, 1) := dk_27 (dk_at dksX11_brief_5 6 rfl rfl)
theorem dX11_brief_122 : decode cX11_brief 122 = .ok (.imul, 1) := dk_104 (dk_at dksX11_brief_5 7 rfl rfl)
theorem dX11_brief_123 : decode cX11_brief 123 = .ok (.bipush 36, 2) := dk_16 36 (dk_at dksX11_brief_5 8 rfl rfl)
theorem dX11_brief_125 : decode cX11_brief 125 = .ok (.iload 5, 2) := dk_21 5 (dk_at dksX11_brief_5 10 rfl rfl)
theorem dX11_brief_127 : decode cX11_brief 127 = .ok (.imul, 1) := dk_104 (dk_at dksX11_brief_5 12 rfl rfl)
theorem dX11_brief_128 : decode cX11_brief 128 = .ok (.iadd, 1) := dk_96 (dk_at dksX11_brief_5 13 rfl rfl)
theorem dX11_brief_129 : decode cX11_brief 129 = .ok (.aload_n 0, 1) := dk_42 (dk_at dksX11_brief_5 14 rfl rfl)
theorem dX11_brief_130 : decode cX11_brief 130 = .ok (.getfield 75, 3) := dk_180 0 75 (dk_at dksX11_brief_5 15 rfl rfl)
theorem dX11_brief_133 : decode cX11_brief 133 = .ok (.iload_n 1, 1) := dk_27 (dk_at dksX11_brief_5 18 rfl rfl)
theorem dX11_brief_134 : decode cX11_brief 134 = .ok (.iaload, 1) := dk_46 (dk_at dksX11_brief_5 19 rfl rfl)
theorem dX11_brief_135 : decode cX11_brief 135 = .ok (.bipush 36, 2) := dk_16 36 (dk_at dksX11_brief_5 20 rfl rfl)
theorem dX11_brief_137 : decode cX11_brief 137 = .ok (.irem, 1) := dk_112 (dk_at dksX11_brief_5 22 rfl rfl)
theorem dX11_brief_138 : decode cX11_brief 138 = .ok (.iadd, 1) := dk_96 (dk_at dksX11_brief_5 23 rfl rfl)
theorem dX11_brief_139 : decode cX11_brief 139 = .ok (.baload, 1) := dk_51 (dk_at dksX11_brief_6 0 rfl rfl)
theorem dX11_brief_140 : decode cX11_brief 140 = .ok (.ifCond .eq 20, 3) := dk_153 0 20 (dk_at dksX11_brief_6 1 rfl rfl)
theorem dX11_brief_143 : decode cX11_brief 143 = .ok (.aload_n 0, 1) := dk_42 (dk_at dksX11_brief_6 4 rfl rfl)
theorem dX11_brief_144 : decode cX11_brief 144 = .ok (.iload_n 1, 1) := dk_27 (dk_at dksX11_brief_6 5 rfl rfl)
theorem dX11_brief_145 : decode cX11_brief 145 = .ok (.iload 5, 2) := dk_21 5 (dk_at dksX11_brief_6 6 rfl rfl)
theorem dX11_brief_147 : decode cX11_brief 147 = .ok (.invokevirtual 279, 3) := dk_182 1 23 (dk_at dksX11_brief_6 8 rfl rfl)
theorem dX11_brief_150 : decode cX11_brief 150 = .ok (.iconst 2, 1) := dk_5 (dk_at dksX11_brief_6 11 rfl rfl)
theorem dX11_brief_151 : decode cX11_brief 151 = .ok (.idiv, 1) := dk_108 (dk_at dksX11_brief_6 12 rfl rfl)
theorem dX11_brief_152 : decode cX11_brief 152 = .ok (.iload_n 3, 1) := dk_29 (dk_at dksX11_brief_6 13 rfl rfl)
theorem dX11_brief_153 : decode cX11_brief 153 = .ok (.if_icmp .ne 7, 3) := dk_160 0 7 (dk_at dksX11_brief_6 14 rfl rfl)
theorem dX11_brief_156 : decode cX11_brief 156 = .ok (.iconst 1, 1) := dk_4 (dk_at dksX11_brief_6 17 rfl rfl)
theorem dX11_brief_157 : decode cX11_brief 157 = .ok (.goto 4, 3) := dk_167 0 4 (dk_at dksX11_brief_6 18 rfl rfl)
theorem dX11_brief_160 : decode cX11_brief 160 = .ok (.iconst 0, 1) := dk_3 (dk_at dksX11_brief_6 21 rfl rfl)
theorem dX11_brief_161 : decode cX11_brief 161 = .ok (.iadd, 1) := dk_96 (dk_at dksX11_brief_6 22 rfl rfl)
theorem dX11_brief_162 : decode cX11_brief 162 = .ok (.istore 4, 2) := dk_54 4 (dk_at dksX11_brief_7 0 rfl rfl)
theorem dX11_brief_164 : decode cX11_brief 164 = .ok (.iinc 5 1, 3) := dk_132 5 1 (dk_at dksX11_brief_7 2 rfl rfl)
theorem dX11_brief_167 : decode cX11_brief 167 = .ok (.goto (-62), 3) := dk_167 255 194 (dk_at dksX11_brief_7 5 rfl rfl)
theorem dX11_brief_170 : decode cX11_brief 170 = .ok (.iload 4, 2) := dk_21 4 (dk_at dksX11_brief_7 8 rfl rfl)
theorem dX11_brief_172 : decode cX11_brief 172 = .ok (.ireturn, 1) := dk_172 (dk_at dksX11_brief_7 10 rfl rfl)
def dkwX11_part_2 : List UInt8 := [180, 0, 75, 28, 46, 42, 180, 0, 78, 28, 46, 160, 0, 9, 132, 2, 1, 167, 255, 222, 28, 172]
abbrev dktX11_part_2 : List UInt8 := dkwX11_part_2 ++ []
def dkwX11_part_1 : List UInt8 := [16, 253, 172, 3, 61, 28, 42, 180, 1, 124, 162, 0, 32, 28, 42, 180, 1, 127, 162, 0, 24, 42]
abbrev dktX11_part_1 : List UInt8 := dkwX11_part_1 ++ dktX11_part_2
def dkwX11_part_0 : List UInt8 := [42, 3, 181, 0, 3, 42, 182, 1, 185, 60, 27, 156, 0, 5, 27, 172, 42, 180, 1, 118, 5, 162, 0, 6]
abbrev dktX11_part_0 : List UInt8 := dkwX11_part_0 ++ dktX11_part_1
theorem dksX11_part_0 : cX11_part.data.toList.drop 0 = dktX11_part_0 := by decide +kernel
theorem dksX11_part_1 : cX11_part.data.toList.drop 24 = dktX11_part_1 := dk_seg dksX11_part_0 24 rfl rfl
theorem dksX11_part_2 : cX11_part.data.toList.drop 46 = dktX11_part_2 := dk_seg dksX11_part_1 22 rfl rfl
theorem dX11_part_0 : decode cX11_part 0 = .ok (.aload_n 0, 1) := dk_42 (dk_at dksX11_part_0 0 rfl rfl)
theorem dX11_part_1 : decode cX11_part 1 = .ok (.iconst 0, 1) := dk_3 (dk_at dksX11_part_0 1 rfl rfl)
theorem dX11_part_2 : decode cX11_part 2 = .ok (.putfield 3, 3) := dk_181 0 3 (dk_at dksX11_part_0 2 rfl rfl)
theorem dX11_part_5 : decode cX11_part 5 = .ok (.aload_n 0, 1) := dk_42 (dk_at dksX11_part_0 5 rfl rfl)
theorem dX11_part_6 : decode cX11_part 6 = .ok (.invokevirtual 441, 3) := dk_182 1 185 (dk_at dksX11_part_0 6 rfl rfl)
theorem dX11_part_9 : decode cX11_part 9 = .ok (.istore_n 1, 1) := dk_60 (dk_at dksX11_part_0 9 rfl rfl)
theorem dX11_part_10 : decode cX11_part 10 = .ok (.iload_n 1, 1) := dk_27 (dk_at dksX11_part_0 10 rfl rfl)
theorem dX11_part_11 : decode cX11_part 11 = .ok (.ifCond .ge 5, 3) := dk_156 0 5 (dk_at dksX11_part_0 11 rfl rfl)
theorem dX11_part_14 : decode cX11_part 14 = .ok (.iload_n 1, 1) := dk_27 (dk_at dksX11_part_0 14 rfl rfl)
theorem dX11_part_15 : decode cX11_part 15 = .ok (.ireturn, 1) := dk_172 (dk_at dksX11_part_0 15 rfl rfl)
theorem dX11_part_16 : decode cX11_part 16 = .ok (.aload_n 0, 1) := dk_42 (dk_at dksX11_part_0 16 rfl rfl)
theorem dX11_part_17 : decode cX11_part 17 = .ok (.getfield 374, 3) := dk_180 1 118 (dk_at dksX11_part_0 17 rfl rfl)
theorem dX11_part_20 : decode cX11_part 20 = .ok (.iconst 2, 1) := dk_5 (dk_at dksX11_part_0 20 rfl rfl)
theorem dX11_part_21 : decode cX11_part 21 = .ok (.if_icmp .ge 6, 3) := dk_162 0 6 (dk_at dksX11_part_0 21 rfl rfl)
theorem dX11_part_24 : decode cX11_part 24 = .ok (.bipush (-3), 2) := dk_16 253 (dk_at dksX11_part_1 0 rfl rfl)
theorem dX11_part_26 : decode cX11_part 26 = .ok (.ireturn, 1) := dk_172 (dk_at dksX11_part_1 2 rfl rfl)
theorem dX11_part_27 : decode cX11_part 27 = .ok (.iconst 0, 1) := dk_3 (dk_at dksX11_part_1 3 rfl rfl)
theorem dX11_part_28 : decode cX11_part 28 = .ok (.istore_n 2, 1) := dk_61 (dk_at dksX11_part_1 4 rfl rfl)
theorem dX11_part_29 : decode cX11_part 29 = .ok (.iload_n 2, 1) := dk_28 (dk_at dksX11_part_1 5 rfl rfl)
theorem dX11_part_30 : decode cX11_part 30 = .ok (.aload_n 0, 1) := dk_42 (dk_at dksX11_part_1 6 rfl rfl)
theorem dX11_part_31 : decode cX11_part 31 = .ok (.getfield 380, 3) := dk_180 1 124 (dk_at dksX11_part_1 7 rfl rfl)
theorem dX11_part_34 : decode cX11_part 34 = .ok (.if_icmp .ge 32, 3) := dk_162 0 32 (dk_at dksX11_part_1 10 rfl rfl)
theorem dX11_part_37 : decode cX11_part 37 = .ok (.iload_n 2, 1) := dk_28 (dk_at dksX11_part_1 13 rfl rfl)
theorem dX11_part_38 : decode cX11_part 38 = .ok (.aload_n 0, 1) := dk_42 (dk_at dksX11_part_1 14 rfl rfl)
theorem dX11_part_39 : decode cX11_part 39 = .ok (.getfield 383, 3) := dk_180 1 127 (dk_at dksX11_part_1 15 rfl rfl)
theorem dX11_part_42 : decode cX11_part 42 = .ok (.if_icmp .ge 24, 3) := dk_162 0 24 (dk_at dksX11_part_1 18 rfl rfl)
theorem dX11_part_45 : decode cX11_part 45 = .ok (.aload_n 0, 1) := dk_42 (dk_at dksX11_part_1 21 rfl rfl)
theorem dX11_part_46 : decode cX11_part 46 = .ok (.getfield 75, 3) := dk_180 0 75 (dk_at dksX11_part_2 0 rfl rfl)
theorem dX11_part_49 : decode cX11_part 49 = .ok (.iload_n 2, 1) := dk_28 (dk_at dksX11_part_2 3 rfl rfl)
theorem dX11_part_50 : decode cX11_part 50 = .ok (.iaload, 1) := dk_46 (dk_at dksX11_part_2 4 rfl rfl)
theorem dX11_part_51 : decode cX11_part 51 = .ok (.aload_n 0, 1) := dk_42 (dk_at dksX11_part_2 5 rfl rfl)
theorem dX11_part_52 : decode cX11_part 52 = .ok (.getfield 78, 3) := dk_180 0 78 (dk_at dksX11_part_2 6 rfl rfl)
theorem dX11_part_55 : decode cX11_part 55 = .ok (.iload_n 2, 1) := dk_28 (dk_at dksX11_part_2 9 rfl rfl)
theorem dX11_part_56 : decode cX11_part 56 = .ok (.iaload, 1) := dk_46 (dk_at dksX11_part_2 10 rfl rfl)
theorem dX11_part_57 : decode cX11_part 57 = .ok (.if_icmp .ne 9, 3) := dk_160 0 9 (dk_at dksX11_part_2 11 rfl rfl)
theorem dX11_part_60 : decode cX11_part 60 = .ok (.iinc 2 1, 3) := dk_132 2 1 (dk_at dksX11_part_2 14 rfl rfl)
theorem dX11_part_63 : decode cX11_part 63 = .ok (.goto (-34), 3) := dk_167 255 222 (dk_at dksX11_part_2 17 rfl rfl)
theorem dX11_part_66 : decode cX11_part 66 = .ok (.iload_n 2, 1) := dk_28 (dk_at dksX11_part_2 20 rfl rfl)
theorem dX11_part_67 : decode cX11_part 67 = .ok (.ireturn, 1) := dk_172 (dk_at dksX11_part_2 21 rfl rfl)
def dkwX11_best_2 : List UInt8 := [167, 0, 22, 27, 42, 180, 1, 133, 162, 0, 12, 42, 180, 0, 81, 27, 46, 167, 0, 5, 16, 253, 172]
abbrev dktX11_best_2 : List UInt8 := dkwX11_best_2 ++ []
def dkwX11_best_1 : List UInt8 := [172, 42, 182, 1, 185, 61, 28, 156, 0, 7, 28, 167, 0, 33, 27, 156, 0, 10, 42, 180, 1, 130]
abbrev dktX11_best_1 : List UInt8 := dkwX11_best_1 ++ dktX11_best_2
def dkwX11_best_0 : List UInt8 := [42, 3, 181, 0, 3, 42, 27, 2, 162, 0, 7, 4, 167, 0, 4, 3, 4, 182, 0, 235, 153, 0, 5, 3]
abbrev dktX11_best_0 : List UInt8 := dkwX11_best_0 ++ dktX11_best_1
theorem dksX11_best_0 : cX11_best.data.toList.drop 0 = dktX11_best_0 := by decide +kernel
theorem dksX11_best_1 : cX11_best.data.toList.drop 24 = dktX11_best_1 := dk_seg dksX11_best_0 24 rfl rfl
theorem dksX11_best_2 : cX11_best.data.toList.drop 46 = dktX11_best_2 := dk_seg dksX11_best_1 22 rfl rfl
theorem dX11_best_0 : decode cX11_best 0 = .ok (.aload_n 0, 1) := dk_42 (dk_at dksX11_best_0 0 rfl rfl)
theorem dX11_best_1 : decode cX11_best 1 = .ok (.iconst 0, 1) := dk_3 (dk_at dksX11_best_0 1 rfl rfl)
theorem dX11_best_2 : decode cX11_best 2 = .ok (.putfield 3, 3) := dk_181 0 3 (dk_at dksX11_best_0 2 rfl rfl)
theorem dX11_best_5 : decode cX11_best 5 = .ok (.aload_n 0, 1) := dk_42 (dk_at dksX11_best_0 5 rfl rfl)
theorem dX11_best_6 : decode cX11_best 6 = .ok (.iload_n 1, 1) := dk_27 (dk_at dksX11_best_0 6 rfl rfl)
theorem dX11_best_7 : decode cX11_best 7 = .ok (.iconst (-1), 1) := dk_2 (dk_at dksX11_best_0 7 rfl rfl)
theorem dX11_best_8 : decode cX11_best 8 = .ok (.if_icmp .ge 7, 3) := dk_162 0 7 (dk_at dksX11_best_0 8 rfl rfl)
theorem dX11_best_11 : decode cX11_best 11 = .ok (.iconst 1, 1) := dk_4 (dk_at dksX11_best_0 11 rfl rfl)
theorem dX11_best_12 : decode cX11_best 12 = .ok (.goto 4, 3) := dk_167 0 4 (dk_at dksX11_best_0 12 rfl rfl)
theorem dX11_best_15 : decode cX11_best 15 = .ok (.iconst 0, 1) := dk_3 (dk_at dksX11_best_0 15 rfl rfl)
theorem dX11_best_16 : decode cX11_best 16 = .ok (.iconst 1, 1) := dk_4 (dk_at dksX11_best_0 16 rfl rfl)
theorem dX11_best_17 : decode cX11_best 17 = .ok (.invokevirtual 235, 3) := dk_182 0 235 (dk_at dksX11_best_0 17 rfl rfl)
theorem dX11_best_20 : decode cX11_best 20 = .ok (.ifCond .eq 5, 3) := dk_153 0 5 (dk_at dksX11_best_0 20 rfl rfl)
theorem dX11_best_23 : decode cX11_best 23 = .ok (.iconst 0, 1) := dk_3 (dk_at dksX11_best_0 23 rfl rfl)
theorem dX11_best_24 : decode cX11_best 24 = .ok (.ireturn, 1) := dk_172 (dk_at dksX11_best_1 0 rfl rfl)
theorem dX11_best_25 : decode cX11_best 25 = .ok (.aload_n 0, 1) := dk_42 (dk_at dksX11_best_1 1 rfl rfl)
theorem dX11_best_26 : decode cX11_best 26 = .ok (.invokevirtual 441, 3) := dk_182 1 185 (dk_at dksX11_best_1 2 rfl rfl)
theorem dX11_best_29 : decode cX11_best 29 = .ok (.istore_n 2, 1) := dk_61 (dk_at dksX11_best_1 5 rfl rfl)
theorem dX11_best_30 : decode cX11_best 30 = .ok (.iload_n 2, 1) := dk_28 (dk_at dksX11_best_1 6 rfl rfl)
theorem dX11_best_31 : decode cX11_best 31 = .ok (.ifCond .ge 7, 3) := dk_156 0 7 (dk_at dksX11_best_1 7 rfl rfl)
theorem dX11_best_34 : decode cX11_best 34 = .ok (.iload_n 2, 1) := dk_28 (dk_at dksX11_best_1 10 rfl rfl)
theorem dX11_best_35 : decode cX11_best 35 = .ok (.goto 33, 3) := dk_167 0 33 (dk_at dksX11_best_1 11 rfl rfl)
theorem dX11_best_38 : decode cX11_best 38 = .ok (.iload_n 1, 1) := dk_27 (dk_at dksX11_best_1 14 rfl rfl)
theorem dX11_best_39 : decode cX11_best 39 = .ok (.ifCond .ge 10, 3) := dk_156 0 10 (dk_at dksX11_best_1 15 rfl rfl)
theorem dX11_best_42 : decode cX11_best 42 = .ok (.aload_n 0, 1) := dk_42 (dk_at dksX11_best_1 18 rfl rfl)
theorem dX11_best_43 : decode cX11_best 43 = .ok (.getfield 386, 3) := dk_180 1 130 (dk_at dksX11_best_1 19 rfl rfl)
theorem dX11_best_46 : decode cX11_best 46 = .ok (.goto 22, 3) := dk_167 0 22 (dk_at dksX11_best_2 0 rfl rfl)
theorem dX11_best_49 : decode cX11_best 49 = .ok (.iload_n 1, 1) := dk_27 (dk_at dksX11_best_2 3 rfl rfl)
theorem dX11_best_50 : decode cX11_best 50 = .ok (.aload_n 0, 1) := dk_42 (dk_at dksX11_best_2 4 rfl rfl)
theorem dX11_best_51 : decode cX11_best 51 = .ok (.getfield 389, 3) := dk_180 1 133 (dk_at dksX11_best_2 5 rfl rfl)
theorem dX11_best_54 : decode cX11_best 54 = .ok (.if_icmp .ge 12, 3) := dk_162 0 12 (dk_at dksX11_best_2 8 rfl rfl)
theorem dX11_best_57 : decode cX11_best 57 = .ok (.aload_n 0, 1) := dk_42 (dk_at dksX11_best_2 11 rfl rfl)
theorem dX11_best_58 : decode cX11_best 58 = .ok (.getfield 81, 3) := dk_180 0 81 (dk_at dksX11_best_2 12 rfl rfl)
theorem dX11_best_61 : decode cX11_best 61 = .ok (.iload_n 1, 1) := dk_27 (dk_at dksX11_best_2 15 rfl rfl)
theorem dX11_best_62 : decode cX11_best 62 = .ok (.iaload, 1) := dk_46 (dk_at dksX11_best_2 16 rfl rfl)
theorem dX11_best_63 : decode cX11_best 63 = .ok (.goto 5, 3) := dk_167 0 5 (dk_at dksX11_best_2 17 rfl rfl)
theorem dX11_best_66 : decode cX11_best 66 = .ok (.bipush (-3), 2) := dk_16 253 (dk_at dksX11_best_2 20 rfl rfl)
theorem dX11_best_68 : decode cX11_best 68 = .ok (.ireturn, 1) := dk_172 (dk_at dksX11_best_2 22 rfl rfl)
def dkwX11_odds_10 : List UInt8 := [173]
abbrev dktX11_odds_10 : List UInt8 := dkwX11_odds_10 ++ []
def dkwX11_odds_9 : List UInt8 := [22, 7, 184, 1, 195, 55, 9, 29, 153, 0, 11, 22, 7, 22, 9, 109, 167, 0, 8, 22, 5, 22, 9, 109]
abbrev dktX11_odds_9 : List UInt8 := dkwX11_odds_9 ++ dktX11_odds_10
def dkwX11_odds_8 : List UInt8 := [22, 7, 22, 10, 42, 180, 0, 68, 21, 9, 47, 105, 97, 55, 7, 132, 9, 1, 167, 255, 201, 22, 5]
abbrev dktX11_odds_8 : List UInt8 := dkwX11_odds_8 ++ dktX11_odds_9
def dkwX11_odds_7 : List UInt8 := [96, 21, 9, 100, 104, 121, 55, 10, 22, 5, 22, 10, 42, 180, 0, 72, 21, 9, 47, 105, 97, 55, 5]
abbrev dktX11_odds_7 : List UInt8 := dkwX11_odds_7 ++ dktX11_odds_8
def dkwX11_odds_6 : List UInt8 := [9, 55, 5, 9, 55, 7, 21, 4, 54, 9, 21, 9, 21, 4, 28, 96, 163, 0, 52, 10, 5, 21, 4, 28]
abbrev dktX11_odds_6 : List UInt8 := dkwX11_odds_6 ++ dktX11_odds_7
def dkwX11_odds_5 : List UInt8 := [153, 0, 7, 20, 1, 191, 173, 132, 5, 1, 167, 255, 227, 42, 180, 1, 115, 156, 0, 7, 20, 1, 193, 173]
abbrev dktX11_odds_5 : List UInt8 := dkwX11_odds_5 ++ dktX11_odds_6
def dkwX11_odds_4 : List UInt8 := [96, 54, 5, 21, 5, 21, 4, 28, 96, 163, 0, 26, 42, 21, 5, 182, 1, 176, 42, 180, 1, 145]
abbrev dktX11_odds_4 : List UInt8 := dkwX11_odds_4 ++ dktX11_odds_5
def dkwX11_odds_3 : List UInt8 := [181, 1, 115, 28, 154, 0, 8, 42, 3, 181, 1, 142, 28, 154, 0, 8, 21, 4, 167, 0, 7, 21, 4, 4]
abbrev dktX11_odds_3 : List UInt8 := dkwX11_odds_3 ++ dktX11_odds_4
def dkwX11_odds_2 : List UInt8 := [42, 27, 181, 1, 112, 42, 27, 42, 180, 1, 124, 162, 0, 12, 42, 180, 0, 75, 27, 46, 167, 0, 4, 2]
abbrev dktX11_odds_2 : List UInt8 := dkwX11_odds_2 ++ dktX11_odds_3
def dkwX11_odds_1 : List UInt8 := [4, 182, 0, 235, 153, 0, 5, 9, 173, 42, 182, 1, 185, 54, 4, 21, 4, 156, 0, 7, 21, 4, 133, 173]
abbrev dktX11_odds_1 : List UInt8 := dkwX11_odds_1 ++ dktX11_odds_2
def dkwX11_odds_0 : List UInt8 := [42, 3, 181, 0, 3, 42, 27, 155, 0, 12, 28, 3, 5, 184, 0, 106, 154, 0, 7, 4, 167, 0, 4, 3]
abbrev dktX11_odds_0 : List UInt8 := dkwX11_odds_0 ++ dktX11_odds_1
theorem dksX11_odds_0 : cX11_odds.data.toList.drop 0 = dktX11_odds_0 := by decide +kernel
theorem dksX11_odds_1 : cX11_odds.data.toList.drop 24 = dktX11_odds_1 := dk_seg dksX11_odds_0 24 rfl rfl
theorem dksX11_odds_2 : cX11_odds.data.toList.drop 48 = dktX11_odds_2 := dk_seg dksX11_odds_1 24 rfl rfl
theorem dksX11_odds_3 : cX11_odds.data.toList.drop 72 = dktX11_odds_3 := dk_seg dksX11_odds_2 24 rfl rfl
theorem dksX11_odds_4 : cX11_odds.data.toList.drop 96 = dktX11_odds_4 := dk_seg dksX11_odds_3 24 rfl rfl
theorem dksX11_odds_5 : cX11_odds.data.toList.drop 118 = dktX11_odds_5 := dk_seg dksX11_odds_4 22 rfl rfl
theorem dksX11_odds_6 : cX11_odds.data.toList.drop 142 = dktX11_odds_6 := dk_seg dksX11_odds_5 24 rfl rfl
theorem dksX11_odds_7 : cX11_odds.data.toList.drop 166 = dktX11_odds_7 := dk_seg dksX11_odds_6 24 rfl rfl
theorem dksX11_odds_8 : cX11_odds.data.toList.drop 189 = dktX11_odds_8 := dk_seg dksX11_odds_7 23 rfl rfl
theorem dksX11_odds_9 : cX11_odds.data.toList.drop 212 = dktX11_odds_9 := dk_seg dksX11_odds_8 23 rfl rfl
theorem dksX11_odds_10 : cX11_odds.data.toList.drop 236 = dktX11_odds_10 := dk_seg dksX11_odds_9 24 rfl rfl
theorem dX11_odds_0 : decode cX11_odds 0 = .ok (.aload_n 0, 1) := dk_42 (dk_at dksX11_odds_0 0 rfl rfl)
theorem dX11_odds_1 : decode cX11_odds 1 = .ok (.iconst 0, 1) := dk_3 (dk_at dksX11_odds_0 1 rfl rfl)
theorem dX11_odds_2 : decode cX11_odds 2 = .ok (.putfield 3, 3) := dk_181 0 3 (dk_at dksX11_odds_0 2 rfl rfl)
theorem dX11_odds_5 : decode cX11_odds 5 = .ok (.aload_n 0, 1) := dk_42 (dk_at dksX11_odds_0 5 rfl rfl)
theorem dX11_odds_6 : decode cX11_odds 6 = .ok (.iload_n 1, 1) := dk_27 (dk_at dksX11_odds_0 6 rfl rfl)
theorem dX11_odds_7 : decode cX11_odds 7 = .ok (.ifCond .lt 12, 3) := dk_155 0 12 (dk_at dksX11_odds_0 7 rfl rfl)
theorem dX11_odds_10 : decode cX11_odds 10 = .ok (.iload_n 2, 1) := dk_28 (dk_at dksX11_odds_0 10 rfl rfl)
theorem dX11_odds_11 : decode cX11_odds 11 = .ok (.iconst 0, 1) := dk_3 (dk_at dksX11_odds_0 11 rfl rfl)
theorem dX11_odds_12 : decode cX11_odds 12 = .ok (.iconst 2, 1) := dk_5 (dk_at dksX11_odds_0 12 rfl rfl)
theorem dX11_odds_13 : decode cX11_odds 13 = .ok (.invokestatic 106, 3) := dk_184 0 106 (dk_at dksX11_odds_0 13 rfl rfl)
theorem dX11_odds_16 : decode cX11_odds 16 = .ok (.ifCond .ne 7, 3) := dk_154 0 7 (dk_at dksX11_odds_0 16 rfl rfl)
theorem dX11_odds_19 : decode cX11_odds 19 = .ok (.iconst 1, 1) := dk_4 (dk_at dksX11_odds_0 19 rfl rfl)
theorem dX11_odds_20 : decode cX11_odds 20 = .ok (.goto 4, 3) := dk_167 0 4 (dk_at dksX11_odds_0 20 rfl rfl)
theorem dX11_odds_23 : decode cX11_odds 23 = .ok (.iconst 0, 1) := dk_3 (dk_at dksX11_odds_0 23 rfl rfl)
theorem dX11_odds_24 : decode cX11_odds 24 = .ok (.iconst 1, 1) := dk_4 (dk_at dksX11_odds_1 0 rfl rfl)
theorem dX11_odds_25 : decode cX11_odds 25 = .ok (.invokevirtual 235, 3) := dk_182 0 235 (dk_at dksX11_odds_1 1 rfl rfl)
theorem dX11_odds_28 : decode cX11_odds 28 = .ok (.ifCond .eq 5, 3) := dk_153 0 5 (dk_at dksX11_odds_1 4 rfl rfl)
theorem dX11_odds_31 : decode cX11_odds 31 = .ok (.lconst 0, 1) := dk_9 (dk_at dksX11_odds_1 7 rfl rfl)
theorem dX11_odds_32 : decode cX11_odds 32 = .ok (.lreturn, 1) := dk_173 (dk_at dksX11_odds_1 8 rfl rfl)
theorem dX11_odds_33 : decode cX11_odds 33 = .ok (.aload_n 0, 1) := dk_42 (dk_at dksX11_odds_1 9 rfl rfl)
theorem dX11_odds_34 : decode cX11_odds 34 = .ok (.invokevirtual 441, 3) := dk_182 1 185 (dk_at dksX11_odds_1 10 rfl rfl)
theorem dX11_odds_37 : decode cX11_odds 37 = .ok (.istore 4, 2) := dk_54 4 (dk_at dksX11_odds_1 13 rfl rfl)
theorem dX11_odds_39 : decode cX11_odds 39 = .ok (.iload 4, 2) := dk_21 4 (dk_at dksX11_odds_1 15 rfl rfl)
theorem dX11_odds_41 : decode cX11_odds 41 = .ok (.ifCond .ge 7, 3) := dk_156 0 7 (dk_at dksX11_odds_1 17 rfl rfl)
theorem dX11_odds_44 : decode cX11_odds 44 = .ok (.iload 4, 2) := dk_21 4 (dk_at dksX11_odds_1 20 rfl rfl)
theorem dX11_odds_46 : decode cX11_odds 46 = .ok (.i2l, 1) := dk_133 (dk_at dksX11_odds_1 22 rfl rfl)
theorem dX11_odds_47 : decode cX11_odds 47 = .ok (.lreturn, 1) := dk_173 (dk_at dksX11_odds_1 23 rfl rfl)
theorem dX11_odds_48 : decode cX11_odds 48 = .ok (.aload_n 0, 1) := dk_42 (dk_at dksX11_odds_2 0 rfl rfl)
theorem dX11_odds_49 : decode cX11_odds 49 = .ok (.iload_n 1, 1) := dk_27 (dk_at dksX11_odds_2 1 rfl rfl)
theorem dX11_odds_50 : decode cX11_odds 50 = .ok (.putfield 368, 3) := dk_181 1 112 (dk_at dksX11_odds_2 2 rfl rfl)
theorem dX11_odds_53 : decode cX11_odds 53 = .ok (.aload_n 0, 1) := dk_42 (dk_at dksX11_odds_2 5 rfl rfl)
theorem dX11_odds_54 : decode cX11_odds 54 = .ok (.iload_n 1, 1) := dk_27 (dk_at dksX11_odds_2 6 rfl rfl)
theorem dX11_odds_55 : decode cX11_odds 55 = .ok (.aload_n 0, 1) := dk_42 (dk_at dksX11_odds_2 7 rfl rfl)
theorem dX11_odds_56 : decode cX11_odds 56 = .ok (.getfield 380, 3) := dk_180 1 124 (dk_at dksX11_odds_2 8 rfl rfl)
theorem dX11_odds_59 : decode cX11_odds 59 = .ok (.if_icmp .ge 12, 3) := dk_162 0 12 (dk_at dksX11_odds_2 11 rfl rfl)
theorem dX11_odds_62 : decode cX11_odds 62 = .ok (.aload_n 0, 1) := dk_42 (dk_at dksX11_odds_2 14 rfl rfl)
theorem dX11_odds_63 : decode cX11_odds 63 = .ok (.getfield 75, 3) := dk_180 0 75 (dk_at dksX11_odds_2 15 rfl rfl)
theorem dX11_odds_66 : decode cX11_odds 66 = .ok (.iload_n 1, 1) := dk_27 (dk_at dksX11_odds_2 18 rfl rfl)
theorem dX11_odds_67 : decode cX11_odds 67 = .ok (.iaload, 1) := dk_46 (dk_at dksX11_odds_2 19 rfl rfl)
theorem dX11_odds_68 : decode cX11_odds 68 = .ok (.goto 4, 3) := dk_167 0 4 (dk_at dksX11_odds_2 20 rfl rfl)
theorem dX11_odds_71 : decode cX11_odds 71 = .ok (.iconst (-1), 1) := dk_2 (dk_at dksX11_odds_2 23 rfl rfl)
theorem dX11_odds_72 : decode cX11_odds 72 = .ok (.putfield 371, 3) := dk_181 1 115 (dk_at dksX11_odds_3 0 rfl rfl)
theorem dX11_odds_75 : decode cX11_odds 75 = .ok (.iload_n 2, 1) := dk_28 (dk_at dksX11_odds_3 3 rfl rfl)
theorem dX11_odds_76 : decode cX11_odds 76 = .ok (.ifCond .ne 8, 3) := dk_154 0 8 (dk_at dksX11_odds_3 4 rfl rfl)
theorem dX11_odds_79 : decode cX11_odds 79 = .ok (.aload_n 0, 1) := dk_42 (dk_at dksX11_odds_3 7 rfl rfl)
theorem dX11_odds_80 : decode cX11_odds 80 = .ok (.iconst 0, 1) := dk_3 (dk_at dksX11_odds_3 8 rfl rfl)
theorem dX11_odds_81 : decode cX11_odds 81 = .ok (.putfield 398, 3) := dk_181 1 142 (dk_at dksX11_odds_3 9 rfl rfl)
theorem dX11_odds_84 : decode cX11_odds 84 = .ok (.iload_n 2, 1) := dk_28 (dk_at dksX11_odds_3 12 rfl rfl)
theorem dX11_odds_85 : decode cX11_odds 85 = .ok (.ifCond .ne 8, 3) := dk_154 0 8 (dk_at dksX11_odds_3 13 rfl rfl)
theorem dX11_odds_88 : decode cX11_odds 88 = .ok (.iload 4, 2) := dk_21 4 (dk_at dksX11_odds_3 16 rfl rfl)
theorem dX11_odds_90 : decode cX11_odds 90 = .ok (.goto 7, 3) := dk_167 0 7 (dk_at dksX11_odds_3 18 rfl rfl)
theorem dX11_odds_93 : decode cX11_odds 93 = .ok (.iload 4, 2) := dk_21 4 (dk_at dksX11_odds_3 21 rfl rfl)
theorem dX11_odds_95 : decode cX11_odds 95 = .ok (.iconst 1, 1) := dk_4 (dk_at dksX11_odds_3 23 rfl rfl)
theorem dX11_odds_96 : decode cX11_odds 96 = .ok (.iadd, 1) := dk_96 (dk_at dksX11_odds_4 0 rfl rfl)
theorem dX11_odds_97 : decode cX11_odds 97 = .ok (.istore 5, 2) := dk_54 5 (dk_at dksX11_odds_4 1 rfl rfl)
theorem dX11_odds_99 : decode cX11_odds 99 = .ok (.iload 5, 2) := dk_21 5 (dk_at dksX11_odds_4 3 rfl rfl)
theorem dX11_odds_101 : decode cX11_odds 101 = .ok (.iload 4, 2) := dk_21 4 (dk_at dksX11_odds_4 5 rfl rfl)
theorem dX11_odds_103 : decode cX11_odds 103 = .ok (.iload_n 2, 1) := dk_28 (dk_at dksX11_odds_4 7 rfl rfl)
theorem dX11_odds_104 : decode cX11_odds 104 = .ok (.iadd, 1) := dk_96 (dk_at dksX11_odds_4 8 rfl rfl)
theorem dX11_odds_105 : decode cX11_odds 105 = .ok (.if_icmp .gt 26, 3) := dk_163 0 26 (dk_at dksX11_odds_4 9 rfl rfl)
theorem dX11_odds_108 : decode cX11_odds 108 = .ok (.aload_n 0, 1) := dk_42 (dk_at dksX11_odds_4 12 rfl rfl)
theorem dX11_odds_109 : decode cX11_odds 109 = .ok (.iload 5, 2) := dk_21 5 (dk_at dksX11_odds_4 13 rfl rfl)
theorem dX11_odds_111 : decode cX11_odds 111 = .ok (.invokevirtual 432, 3) := dk_182 1 176 (dk_at dksX11_odds_4 15 rfl rfl)
theorem dX11_odds_114 : decode cX11_odds 114 = .ok (.aload_n 0, 1) := dk_42 (dk_at dksX11_odds_4 18 rfl rfl)
theorem dX11_odds_115 : decode cX11_odds 115 = .ok (.getfield 401, 3) := dk_180 1 145 (dk_at dksX11_odds_4 19 rfl rfl)
theorem dX11_odds_118 : decode cX11_odds 118 = .ok (.ifCond .eq 7, 3) := dk_153 0 7 (dk_at dksX11_odds_5 0 rfl rfl)
theorem dX11_odds_121 : decode cX11_odds 121 = .ok (.ldc2_w 447, 3) := dk_20 1 191 (dk_at dksX11_odds_5 3 rfl rfl)
theorem dX11_odds_124 : decode cX11_odds 124 = .ok (.lreturn, 1) := dk_173 (dk_at dksX11_odds_5 6 rfl rfl)
theorem dX11_odds_125 : decode cX11_odds 125 = .ok (.iinc 5 1, 3) := dk_132 5 1 (dk_at dksX11_odds_5 7 rfl rfl)
theorem dX11_odds_128 : decode cX11_odds 128 = .ok (.goto (-29), 3) := dk_167 255 227 (dk_at dksX11_odds_5 10 rfl rfl)
theorem dX11_odds_131 : decode cX11_odds 131 = .ok (.aload_n 0, 1) := dk_42 (dk_at dksX11_odds_5 13 rfl rfl)
theorem dX11_odds_132 : decode cX11_odds 132 = .ok (.getfield 371, 3) := dk_180 1 115 (dk_at dksX11_odds_5 14 rfl rfl)
theorem dX11_odds_135 : decode cX11_odds 135 = .ok (.ifCond .ge 7, 3) := dk_156 0 7 (dk_at dksX11_odds_5 17 rfl rfl)
theorem dX11_odds_138 : decode cX11_odds 138 = .ok (.ldc2_w 449, 3) := dk_20 1 193 (dk_at dksX11_odds_5 20 rfl rfl)
theorem dX11_odds_141 : decode cX11_odds 141 = .ok (.lreturn, 1) := dk_173 (dk_at dksX11_odds_5 23 rfl rfl)
theorem dX11_odds_142 : decode cX11_odds 142 = .ok (.lconst 0, 1) := dk_9 (dk_at dksX11_odds_6 0 rfl rfl)
theorem dX11_odds_143 : decode cX11_odds 143 = .ok (.lstore 5, 2) := dk_55 5 (dk_at dksX11_odds_6 1 rfl rfl)
theorem dX11_odds_145 : decode cX11_odds 145 = .ok (.lconst 0, 1) := dk_9 (dk_at dksX11_odds_6 3 rfl rfl)
theorem dX11_odds_146 : decode cX11_odds 146 = .ok (.lstore 7, 2) := dk_55 7 (dk_at dksX11_odds_6 4 rfl rfl)
theorem dX11_odds_148 : decode cX11_odds 148 = .ok (.iload 4, 2) := dk_21 4 (dk_at dksX11_odds_6 6 rfl rfl)
theorem dX11_odds_150 : decode cX11_odds 150 = .ok (.istore 9, 2) := dk_54 9 (dk_at dksX11_odds_6 8 rfl rfl)
theorem dX11_odds_152 : decode cX11_odds 152 = .ok (.iload 9, 2) := dk_21 9 (dk_at dksX11_odds_6 10 rfl rfl)
theorem dX11_odds_154 : decode cX11_odds 154 = .ok (.iload 4, 2) := dk_21 4 (dk_at dksX11_odds_6 12 rfl rfl)
theorem dX11_odds_156 : decode cX11_odds 156 = .ok (.iload_n 2, 1) := dk_28 (dk_at dksX11_odds_6 14 rfl rfl)
theorem dX11_odds_157 : decode cX11_odds 157 = .ok (.iadd, 1) := dk_96 (dk_at dksX11_odds_6 15 rfl rfl)
theorem dX11_odds_158 : decode cX11_odds 158 = .ok (.if_icmp .gt 52, 3) := dk_163 0 52 (dk_at dksX11_odds_6 16 rfl rfl)
theorem dX11_odds_161 : decode cX11_odds 161 = .ok (.lconst 1, 1) := dk_10 (dk_at dksX11_odds_6 19 rfl rfl)
theorem dX11_odds_162 : decode cX11_odds 162 = .ok (.iconst 2, 1) := dk_5 (dk_at dksX11_odds_6 20 rfl rfl)
theorem dX11_odds_163 : decode cX11_odds 163 = .ok (.iload 4, 2) := dk_21 4 (dk_at dksX11_odds_6 21 rfl rfl)
theorem dX11_odds_165 : decode cX11_odds 165 = .ok (.iload_n 2, 1) := dk_28 (dk_at dksX11_odds_6 23 rfl rfl)
theorem dX11_odds_166 : decode cX11_odds 166 = .ok (.iadd, 1) := dk_96 (dk_at dksX11_odds_7 0 rfl rfl)
theorem dX11_odds_167 : decode cX11_odds 167 = .ok (.iload 9, 2) := dk_21 9 (dk_at dksX11_odds_7 1 rfl rfl)
theorem dX11_odds_169 : decode cX11_odds 169 = .ok (.isub, 1) := dk_100 (dk_at dksX11_odds_7 3 rfl rfl)
theorem dX11_odds_170 : decode cX11_odds 170 = .ok (.imul, 1) := dk_104 (dk_at dksX11_odds_7 4 rfl rfl)
theorem dX11_odds_171 : decode cX11_odds 171 = .ok (.lshl, 1) := dk_121 (dk_at dksX11_odds_7 5 rfl rfl)
theorem dX11_odds_172 : decode cX11_odds 172 = .ok (.lstore 10, 2) := dk_55 10 (dk_at dksX11_odds_7 6 rfl rfl)
theorem dX11_odds_174 : decode cX11_odds 174 = .ok (.lload 5, 2) := dk_22 5 (dk_at dksX11_odds_7 8 rfl rfl)
theorem dX11_odds_176 : decode cX11_odds 176 = .ok (.lload 10, 2) := dk_22 10 (dk_at dksX11_odds_7 10 rfl rfl)
theorem dX11_odds_178 : decode cX11_odds 178 = .ok (.aload_n 0, 1) := dk_42 (dk_at dksX11_odds_7 12 rfl rfl)
theorem dX11_odds_179 : decode cX11_odds 179 = .ok (.getfield 72, 3) := dk_180 0 72 (dk_at dksX11_odds_7 13 rfl rfl)
theorem dX11_odds_182 : decode cX11_odds 182 = .ok (.iload 9, 2) := dk_21 9 (dk_at dksX11_odds_7 16 rfl rfl)
theorem dX11_odds_184 : decode cX11_odds 184 = .ok (.laload, 1) := dk_47 (dk_at dksX11_odds_7 18 rfl rfl)
theorem dX11_odds_185 : decode cX11_odds 185 = .ok (.lmul, 1) := dk_105 (dk_at dksX11_odds_7 19 rfl rfl)
theorem dX11_odds_186 : decode cX11_odds 186 = .ok (.ladd, 1) := dk_97 (dk_at dksX11_odds_7 20 rfl rfl)
theorem dX11_odds_187 : decode cX11_odds 187 = .ok (.lstore 5, 2) := dk_55 5 (dk_at dksX11_odds_7 21 rfl rfl)
theorem dX11_odds_189 : decode cX11_odds 189 = .ok (.lload 7, 2) := dk_22 7 (dk_at dksX11_odds_8 0 rfl rfl)
theorem dX11_odds_191 : decode cX11_odds 191 = .ok (.lload 10, 2) := dk_22 10 (dk_at dksX11_odds_8 2 rfl rfl)
theorem dX11_odds_193 : decode cX11_odds 193 = .ok (.aload_n 0, 1) := dk_42 (dk_at dksX11_odds_8 4 rfl rfl)
theorem dX11_odds_194 : decode cX11_odds 194 = .ok (.getfield 68, 3) := dk_180 0 68 (dk_at dksX11_odds_8 5 rfl rfl)
theorem dX11_odds_197 : decode cX11_odds 197 = .ok (.iload 9, 2) := dk_21 9 (dk_at dksX11_odds_8 8 rfl rfl)
theorem dX11_odds_199 : decode cX11_odds 199 = .ok (.laload, 1) := dk_47 (dk_at dksX11_odds_8 10 rfl rfl)
theorem dX11_odds_200 : decode cX11_odds 200 = .ok (.lmul, 1) := dk_105 (dk_at dksX11_odds_8 11 rfl rfl)
theorem dX11_odds_201 : decode cX11_odds 201 = .ok (.ladd, 1) := dk_97 (dk_at dksX11_odds_8 12 rfl rfl)
theorem dX11_odds_202 : decode cX11_odds 202 = .ok (.lstore 7, 2) := dk_55 7 (dk_at dksX11_odds_8 13 rfl rfl)
theorem dX11_odds_204 : decode cX11_odds 204 = .ok (.iinc 9 1, 3) := dk_132 9 1 (dk_at dksX11_odds_8 15 rfl rfl)
theorem dX11_odds_207 : decode cX11_odds 207 = .ok (.goto (-55), 3) := dk_167 255 201 (dk_at dksX11_odds_8 18 rfl rfl)
theorem dX11_odds_210 : decode cX11_odds 210 = .ok (.lload 5, 2) := dk_22 5 (dk_at dksX11_odds_8 21 rfl rfl)
theorem dX11_odds_212 : decode cX11_odds 212 = .ok (.lload 7, 2) := dk_22 7 (dk_at dksX11_odds_9 0 rfl rfl)
theorem dX11_odds_214 : decode cX11_odds 214 = .ok (.invokestatic 451, 3) := dk_184 1 195 (dk_at dksX11_odds_9 2 rfl rfl)
theorem dX11_odds_217 : decode cX11_odds 217 = .ok (.lstore 9, 2) := dk_55 9 (dk_at dksX11_odds_9 5 rfl rfl)
theorem dX11_odds_219 : decode cX11_odds 219 = .ok (.iload_n 3, 1) := dk_29 (dk_at dksX11_odds_9 7 rfl rfl)
theorem dX11_odds_220 : decode cX11_odds 220 = .ok (.ifCond .eq 11, 3) := dk_153 0 11 (dk_at dksX11_odds_9 8 rfl rfl)
theorem dX11_odds_223 : decode cX11_odds 223 = .ok (.lload 7, 2) := dk_22 7 (dk_at dksX11_odds_9 11 rfl rfl)
theorem dX11_odds_225 : decode cX11_odds 225 = .ok (.lload 9, 2) := dk_22 9 (dk_at dksX11_odds_9 13 rfl rfl)
theorem dX11_odds_227 : decode cX11_odds 227 = .ok (.ldiv, 1) := dk_109 (dk_at dksX11_odds_9 15 rfl rfl)
theorem dX11_odds_228 : decode cX11_odds 228 = .ok (.goto 8, 3) := dk_167 0 8 (dk_at dksX11_odds_9 16 rfl rfl)
theorem dX11_odds_231 : decode cX11_odds 231 = .ok (.lload 5, 2) := dk_22 5 (dk_at dksX11_odds_9 19 rfl rfl)
theorem dX11_odds_233 : decode cX11_odds 233 = .ok (.lload 9, 2) := dk_22 9 (dk_at dksX11_odds_9 21 rfl rfl)
theorem dX11_odds_235 : decode cX11_odds 235 = .ok (.ldiv, 1) := dk_109 (dk_at dksX11_odds_9 23 rfl rfl)
theorem dX11_odds_236 : decode cX11_odds 236 = .ok (.lreturn, 1) := dk_173 (dk_at dksX11_odds_10 0 rfl rfl)
def dkwX11_common_1 : List UInt8 := [22, 8, 55, 6, 167, 255, 234, 22, 4, 173]
abbrev dktX11_common_1 : List UInt8 := dkwX11_common_1 ++ []
def dkwX11_common_0 : List UInt8 := [30, 55, 4, 32, 55, 6, 22, 6, 9, 148, 158, 0, 21, 22, 4, 22, 6, 113, 55, 8, 22, 6, 55, 4]
abbrev dktX11_common_0 : List UInt8 := dkwX11_common_0 ++ dktX11_common_1
theorem dksX11_common_0 : cX11_common.data.toList.drop 0 = dktX11_common_0 := by decide +kernel
theorem dksX11_common_1 : cX11_common.data.toList.drop 24 = dktX11_common_1 := dk_seg dksX11_common_0 24 rfl rfl
theorem dX11_common_0 : decode cX11_common 0 = .ok (.lload_n 0, 1) := dk_30 (dk_at dksX11_common_0 0 rfl rfl)
theorem dX11_common_1 : decode cX11_common 1 = .ok (.lstore 4, 2) := dk_55 4 (dk_at dksX11_common_0 1 rfl rfl)
theorem dX11_common_3 : decode cX11_common 3 = .ok (.lload_n 2, 1) := dk_32 (dk_at dksX11_common_0 3 rfl rfl)
theorem dX11_common_4 : decode cX11_common 4 = .ok (.lstore 6, 2) := dk_55 6 (dk_at dksX11_common_0 4 rfl rfl)
theorem dX11_common_6 : decode cX11_common 6 = .ok (.lload 6, 2) := dk_22 6 (dk_at dksX11_common_0 6 rfl rfl)
theorem dX11_common_8 : decode cX11_common 8 = .ok (.lconst 0, 1) := dk_9 (dk_at dksX11_common_0 8 rfl rfl)
theorem dX11_common_9 : decode cX11_common 9 = .ok (.lcmp, 1) := dk_148 (dk_at dksX11_common_0 9 rfl rfl)
theorem dX11_common_10 : decode cX11_common 10 = .ok (.ifCond .le 21, 3) := dk_158 0 21 (dk_at dksX11_common_0 10 rfl rfl)
theorem dX11_common_13 : decode cX11_common 13 = .ok (.lload 4, 2) := dk_22 4 (dk_at dksX11_common_0 13 rfl rfl)
theorem dX11_common_15 : decode cX11_common 15 = .ok (.lload 6, 2) := dk_22 6 (dk_at dksX11_common_0 15 rfl rfl)
theorem dX11_common_17 : decode cX11_common 17 = .ok (.lrem, 1) := dk_113 (dk_at dksX11_common_0 17 rfl rfl)
theorem dX11_common_18 : decode cX11_common 18 = .ok (.lstore 8, 2) := dk_55 8 (dk_at dksX11_common_0 18 rfl rfl)
theorem dX11_common_20 : decode cX11_common 20 = .ok (.lload 6, 2) := dk_22 6 (dk_at dksX11_common_0 20 rfl rfl)
theorem dX11_common_22 : decode cX11_common 22 = .ok (.lstore 4, 2) := dk_55 4 (dk_at dksX11_common_0 22 rfl rfl)
theorem dX11_common_24 : decode cX11_common 24 = .ok (.lload 8, 2) := dk_22 8 (dk_at dksX11_common_1 0 rfl rfl)
theorem dX11_common_26 : decode cX11_common 26 = .ok (.lstore 6, 2) := dk_55 6 (dk_at dksX11_common_1 2 rfl rfl)
theorem dX11_common_28 : decode cX11_common 28 = .ok (.goto (-22), 3) := dk_167 255 234 (dk_at dksX11_common_1 4 rfl rfl)
theorem dX11_common_31 : decode cX11_common 31 = .ok (.lload 4, 2) := dk_22 4 (dk_at dksX11_common_1 7 rfl rfl)
theorem dX11_common_33 : decode cX11_common 33 = .ok (.lreturn, 1) := dk_173 (dk_at dksX11_common_1 9 rfl rfl)
def dkwX11_shared_13 : List UInt8 := [154, 0, 8, 21, 5, 167, 0, 15, 21, 5, 21, 6, 164, 0, 7, 4, 167, 0, 4, 3, 172]
abbrev dktX11_shared_13 : List UInt8 := dkwX11_shared_13 ++ []
def dkwX11_shared_12 : List UInt8 := [21, 9, 6, 182, 1, 16, 160, 0, 7, 4, 167, 0, 4, 3, 96, 54, 5, 132, 7, 1, 167, 255, 91, 29]
abbrev dktX11_shared_12 : List UInt8 := dkwX11_shared_12 ++ dktX11_shared_13
def dkwX11_shared_11 : List UInt8 := [182, 1, 16, 42, 28, 21, 9, 5, 182, 1, 16, 160, 0, 26, 42, 27, 21, 8, 6, 182, 1, 16, 42, 28]
abbrev dktX11_shared_11 : List UInt8 := dkwX11_shared_11 ++ dktX11_shared_12
def dkwX11_shared_10 : List UInt8 := [21, 8, 3, 182, 1, 16, 42, 28, 21, 9, 3, 182, 1, 16, 160, 0, 45, 42, 27, 21, 8, 5]
abbrev dktX11_shared_10 : List UInt8 := dkwX11_shared_10 ++ dktX11_shared_11
def dkwX11_shared_9 : List UInt8 := [21, 8, 155, 0, 81, 42, 180, 0, 93, 21, 8, 46, 42, 180, 0, 87, 21, 9, 46, 160, 0, 64, 42, 27]
abbrev dktX11_shared_9 : List UInt8 := dkwX11_shared_9 ++ dktX11_shared_10
def dkwX11_shared_8 : List UInt8 := [155, 0, 13, 42, 180, 0, 93, 21, 8, 46, 154, 0, 7, 4, 167, 0, 4, 3, 96, 54, 6, 21, 5]
abbrev dktX11_shared_8 : List UInt8 := dkwX11_shared_8 ++ dktX11_shared_9
def dkwX11_shared_7 : List UInt8 := [155, 0, 133, 42, 180, 0, 87, 21, 9, 46, 184, 1, 199, 154, 0, 6, 167, 0, 117, 21, 6, 21, 8]
abbrev dktX11_shared_7 : List UInt8 := dkwX11_shared_7 ++ dktX11_shared_8
def dkwX11_shared_6 : List UInt8 := [162, 0, 162, 42, 180, 0, 96, 21, 7, 46, 54, 8, 42, 180, 0, 90, 21, 7, 46, 54, 9, 21, 9]
abbrev dktX11_shared_6 : List UInt8 := dkwX11_shared_6 ++ dktX11_shared_7
def dkwX11_shared_5 : List UInt8 := [167, 255, 230, 42, 28, 182, 1, 188, 3, 54, 5, 3, 54, 6, 3, 54, 7, 21, 7, 42, 180, 1, 124]
abbrev dktX11_shared_5 : List UInt8 := dkwX11_shared_5 ++ dktX11_shared_6
def dkwX11_shared_4 : List UInt8 := [42, 180, 1, 124, 162, 0, 23, 42, 180, 0, 96, 21, 5, 42, 180, 0, 90, 21, 5, 46, 79, 132, 5, 1]
abbrev dktX11_shared_4 : List UInt8 := dkwX11_shared_4 ++ dktX11_shared_5
def dkwX11_shared_3 : List UInt8 := [180, 0, 93, 21, 5, 42, 180, 0, 87, 21, 5, 46, 79, 132, 5, 1, 167, 255, 229, 3, 54, 5, 21, 5]
abbrev dktX11_shared_3 : List UInt8 := dkwX11_shared_3 ++ dktX11_shared_4
def dkwX11_shared_2 : List UInt8 := [21, 4, 172, 42, 27, 182, 1, 188, 3, 54, 5, 21, 5, 42, 27, 182, 0, 251, 162, 0, 23, 42]
abbrev dktX11_shared_2 : List UInt8 := dkwX11_shared_2 ++ dktX11_shared_3
def dkwX11_shared_1 : List UInt8 := [167, 0, 4, 3, 4, 182, 0, 235, 153, 0, 5, 3, 172, 42, 182, 1, 185, 54, 4, 21, 4, 156, 0, 6]
abbrev dktX11_shared_1 : List UInt8 := dkwX11_shared_1 ++ dktX11_shared_2
def dkwX11_shared_0 : List UInt8 := [42, 3, 181, 0, 3, 42, 42, 27, 182, 1, 3, 154, 0, 11, 42, 28, 182, 1, 3, 153, 0, 7, 4]
abbrev dktX11_shared_0 : List UInt8 := dkwX11_shared_0 ++ dktX11_shared_1
theorem dksX11_shared_0 : cX11_shared.data.toList.drop 0 = dktX11_shared_0 := by decide +kernel
theorem dksX11_shared_1 : cX11_shared.data.toList.drop 23 = dktX11_shared_1 := dk_seg dksX11_shared_0 23 rfl rfl
theorem dksX11_shared_2 : cX11_shared.data.toList.drop 47 = dktX11_shared_2 := dk_seg dksX11_shared_1 24 rfl rfl
theorem dksX11_shared_3 : cX11_shared.data.toList.drop 69 = dktX11_shared_3 := dk_seg dksX11_shared_2 22 rfl rfl
theorem dksX11_shared_4 : cX11_shared.data.toList.drop 93 = dktX11_shared_4 := dk_seg dksX11_shared_3 24 rfl rfl
theorem dksX11_shared_5 : cX11_shared.data.toList.drop 117 = dktX11_shared_5 := dk_seg dksX11_shared_4 24 rfl rfl
theorem dksX11_shared_6 : cX11_shared.data.toList.drop 140 = dktX11_shared_6 := dk_seg dksX11_shared_5 23 rfl rfl
theorem dksX11_shared_7 : cX11_shared.data.toList.drop 163 = dktX11_shared_7 := dk_seg dksX11_shared_6 23 rfl rfl
theorem dksX11_shared_8 : cX11_shared.data.toList.drop 186 = dktX11_shared_8 := dk_seg dksX11_shared_7 23 rfl rfl
theorem dksX11_shared_9 : cX11_shared.data.toList.drop 209 = dktX11_shared_9 := dk_seg dksX11_shared_8 23 rfl rfl
theorem dksX11_shared_10 : cX11_shared.data.toList.drop 233 = dktX11_shared_10 := dk_seg dksX11_shared_9 24 rfl rfl
theorem dksX11_shared_11 : cX11_shared.data.toList.drop 255 = dktX11_shared_11 := dk_seg dksX11_shared_10 22 rfl rfl
theorem dksX11_shared_12 : cX11_shared.data.toList.drop 279 = dktX11_shared_12 := dk_seg dksX11_shared_11 24 rfl rfl
theorem dksX11_shared_13 : cX11_shared.data.toList.drop 303 = dktX11_shared_13 := dk_seg dksX11_shared_12 24 rfl rfl
theorem dX11_shared_0 : decode cX11_shared 0 = .ok (.aload_n 0, 1) := dk_42 (dk_at dksX11_shared_0 0 rfl rfl)
theorem dX11_shared_1 : decode cX11_shared 1 = .ok (.iconst 0, 1) := dk_3 (dk_at dksX11_shared_0 1 rfl rfl)
theorem dX11_shared_2 : decode cX11_shared 2 = .ok (.putfield 3, 3) := dk_181 0 3 (dk_at dksX11_shared_0 2 rfl rfl)
theorem dX11_shared_5 : decode cX11_shared 5 = .ok (.aload_n 0, 1) := dk_42 (dk_at dksX11_shared_0 5 rfl rfl)
theorem dX11_shared_6 : decode cX11_shared 6 = .ok (.aload_n 0, 1) := dk_42 (dk_at dksX11_shared_0 6 rfl rfl)
theorem dX11_shared_7 : decode cX11_shared 7 = .ok (.iload_n 1, 1) := dk_27 (dk_at dksX11_shared_0 7 rfl rfl)
theorem dX11_shared_8 : decode cX11_shared 8 = .ok (.invokevirtual 259, 3) := dk_182 1 3 (dk_at dksX11_shared_0 8 rfl rfl)
theorem dX11_shared_11 : decode cX11_shared 11 = .ok (.ifCond .ne 11, 3) := dk_154 0 11 (dk_at dksX11_shared_0 11 rfl rfl)
theorem dX11_shared_14 : decode cX11_shared 14 = .ok (.aload_n 0, 1) := dk_42 (dk_at dksX11_shared_0 14 rfl rfl)
theorem dX11_shared_15 : decode cX11_shared 15 = .ok (.iload_n 2, 1) := dk_28 (dk_at dksX11_shared_0 15 rfl rfl)
theorem dX11_shared_16 : decode cX11_shared 16 = .ok (.invokevirtual 259, 3) := dk_182 1 3 (dk_at dksX11_shared_0 16 rfl rfl)
theorem dX11_shared_19 : decode cX11_shared 19 = .ok (.ifCond .eq 7, 3) := dk_153 0 7 (dk_at dksX11_shared_0 19 rfl rfl)
theorem dX11_shared_22 : decode cX11_shared 22 = .ok (.iconst 1, 1) := dk_4 (dk_at dksX11_shared_0 22 rfl rfl)
theorem dX11_shared_23 : decode cX11_shared 23 = .ok (.goto 4, 3) := dk_167 0 4 (dk_at dksX11_shared_1 0 rfl rfl)
theorem dX11_shared_26 : decode cX11_shared 26 = .ok (.iconst 0, 1) := dk_3 (dk_at dksX11_shared_1 3 rfl rfl)
theorem dX11_shared_27 : decode cX11_shared 27 = .ok (.iconst 1, 1) := dk_4 (dk_at dksX11_shared_1 4 rfl rfl)
theorem dX11_shared_28 : decode cX11_shared 28 = .ok (.invokevirtual 235, 3) := dk_182 0 235 (dk_at dksX11_shared_1 5 rfl rfl)
theorem dX11_shared_31 : decode cX11_shared 31 = .ok (.ifCond .eq 5, 3) := dk_153 0 5 (dk_at dksX11_shared_1 8 rfl rfl)
theorem dX11_shared_34 : decode cX11_shared 34 = .ok (.iconst 0, 1) := dk_3 (dk_at dksX11_shared_1 11 rfl rfl)
theorem dX11_shared_35 : decode cX11_shared 35 = .ok (.ireturn, 1) := dk_172 (dk_at dksX11_shared_1 12 rfl rfl)
theorem dX11_shared_36 : decode cX11_shared 36 = .ok (.aload_n 0, 1) := dk_42 (dk_at dksX11_shared_1 13 rfl rfl)
theorem dX11_shared_37 : decode cX11_shared 37 = .ok (.invokevirtual 441, 3) := dk_182 1 185 (dk_at dksX11_shared_1 14 rfl rfl)
theorem dX11_shared_40 : decode cX11_shared 40 = .ok (.istore 4, 2) := dk_54 4 (dk_at dksX11_shared_1 17 rfl rfl)
theorem dX11_shared_42 : decode cX11_shared 42 = .ok (.iload 4, 2) := dk_21 4 (dk_at dksX11_shared_1 19 rfl rfl)
theorem dX11_shared_44 : decode cX11_shared 44 = .ok (.ifCond .ge 6, 3) := dk_156 0 6 (dk_at dksX11_shared_1 21 rfl rfl)
theorem dX11_shared_47 : decode cX11_shared 47 = .ok (.iload 4, 2) := dk_21 4 (dk_at dksX11_shared_2 0 rfl rfl)
theorem dX11_shared_49 : decode cX11_shared 49 = .ok (.ireturn, 1) := dk_172 (dk_at dksX11_shared_2 2 rfl rfl)
theorem dX11_shared_50 : decode cX11_shared 50 = .ok (.aload_n 0, 1) := dk_42 (dk_at dksX11_shared_2 3 rfl rfl)
theorem dX11_shared_51 : decode cX11_shared 51 = .ok (.iload_n 1, 1) := dk_27 (dk_at dksX11_shared_2 4 rfl rfl)
theorem dX11_shared_52 : decode cX11_shared 52 = .ok (.invokevirtual 444, 3) := dk_182 1 188 (dk_at dksX11_shared_2 5 rfl rfl)
theorem dX11_shared_55 : decode cX11_shared 55 = .ok (.iconst 0, 1) := dk_3 (dk_at dksX11_shared_2 8 rfl rfl)
theorem dX11_shared_56 : decode cX11_shared 56 = .ok (.istore 5, 2) := dk_54 5 (dk_at dksX11_shared_2 9 rfl rfl)
theorem dX11_shared_58 : decode cX11_shared 58 = .ok (.iload 5, 2) := dk_21 5 (dk_at dksX11_shared_2 11 rfl rfl)
theorem dX11_shared_60 : decode cX11_shared 60 = .ok (.aload_n 0, 1) := dk_42 (dk_at dksX11_shared_2 13 rfl rfl)
theorem dX11_shared_61 : decode cX11_shared 61 = .ok (.iload_n 1, 1) := dk_27 (dk_at dksX11_shared_2 14 rfl rfl)
theorem dX11_shared_62 : decode cX11_shared 62 = .ok (.invokevirtual 251, 3) := dk_182 0 251 (dk_at dksX11_shared_2 15 rfl rfl)
theorem dX11_shared_65 : decode cX11_shared 65 = .ok (.if_icmp .ge 23, 3) := dk_162 0 23 (dk_at dksX11_shared_2 18 rfl rfl)
theorem dX11_shared_68 : decode cX11_shared 68 = .ok (.aload_n 0, 1) := dk_42 (dk_at dksX11_shared_2 21 rfl rfl)
theorem dX11_shared_69 : decode cX11_shared 69 = .ok (.getfield 93, 3) := dk_180 0 93 (dk_at dksX11_shared_3 0 rfl rfl)
theorem dX11_shared_72 : decode cX11_shared 72 = .ok (.iload 5, 2) := dk_21 5 (dk_at dksX11_shared_3 3 rfl rfl)
theorem dX11_shared_74 : decode cX11_shared 74 = .ok (.aload_n 0, 1) := dk_42 (dk_at dksX11_shared_3 5 rfl rfl)
theorem dX11_shared_75 : decode cX11_shared 75 = .ok (.getfield 87, 3) := dk_180 0 87 (dk_at dksX11_shared_3 6 rfl rfl)
theorem dX11_shared_78 : decode cX11_shared 78 = .ok (.iload 5, 2) := dk_21 5 (dk_at dksX11_shared_3 9 rfl rfl)
theorem dX11_shared_80 : decode cX11_shared 80 = .ok (.iaload, 1) := dk_46 (dk_at dksX11_shared_3 11 rfl rfl)
theorem dX11_shared_81 : decode cX11_shared 81 = .ok (.iastore, 1) := dk_79 (dk_at dksX11_shared_3 12 rfl rfl)
theorem dX11_shared_82 : decode cX11_shared 82 = .ok (.iinc 5 1, 3) := dk_132 5 1 (dk_at dksX11_shared_3 13 rfl rfl)
theorem dX11_shared_85 : decode cX11_shared 85 = .ok (.goto (-27), 3) := dk_167 255 229 (dk_at dksX11_shared_3 16 rfl rfl)
theorem dX11_shared_88 : decode cX11_shared 88 = .ok (.iconst 0, 1) := dk_3 (dk_at dksX11_shared_3 19 rfl rfl)
theorem dX11_shared_89 : decode cX11_shared 89 = .ok (.istore 5, 2) := dk_54 5 (dk_at dksX11_shared_3 20 rfl rfl)
theorem dX11_shared_91 : decode cX11_shared 91 = .ok (.iload 5, 2) := dk_21 5 (dk_at dksX11_shared_3 22 rfl rfl)
theorem dX11_shared_93 : decode cX11_shared 93 = .ok (.aload_n 0, 1) := dk_42 (dk_at dksX11_shared_4 0 rfl rfl)
theorem dX11_shared_94 : decode cX11_shared 94 = .ok (.getfield 380, 3) := dk_180 1 124 (dk_at dksX11_shared_4 1 rfl rfl)
theorem dX11_shared_97 : decode cX11_shared 97 = .ok (.if_icmp .ge 23, 3) := dk_162 0 23 (dk_at dksX11_shared_4 4 rfl rfl)
theorem dX11_shared_100 : decode cX11_shared 100 = .ok (.aload_n 0, 1) := dk_42 (dk_at dksX11_shared_4 7 rfl rfl)
theorem dX11_shared_101 : decode cX11_shared 101 = .ok (.getfield 96, 3) := dk_180 0 96 (dk_at dksX11_shared_4 8 rfl rfl)
theorem dX11_shared_104 : decode cX11_shared 104 = .ok (.iload 5, 2) := dk_21 5 (dk_at dksX11_shared_4 11 rfl rfl)
theorem dX11_shared_106 : decode cX11_shared 106 = .ok (.aload_n 0, 1) := dk_42 (dk_at dksX11_shared_4 13 rfl rfl)
theorem dX11_shared_107 : decode cX11_shared 107 = .ok (.getfield 90, 3) := dk_180 0 90 (dk_at dksX11_shared_4 14 rfl rfl)
theorem dX11_shared_110 : decode cX11_shared 110 = .ok (.iload 5, 2) := dk_21 5 (dk_at dksX11_shared_4 17 rfl rfl)
theorem dX11_shared_112 : decode cX11_shared 112 = .ok (.iaload, 1) := dk_46 (dk_at dksX11_shared_4 19 rfl rfl)
theorem dX11_shared_113 : decode cX11_shared 113 = .ok (.iastore, 1) := dk_79 (dk_at dksX11_shared_4 20 rfl rfl)
theorem dX11_shared_114 : decode cX11_shared 114 = .ok (.iinc 5 1, 3) := dk_132 5 1 (dk_at dksX11_shared_4 21 rfl rfl)
theorem dX11_shared_117 : decode cX11_shared 117 = .ok (.goto (-26), 3) := dk_167 255 230 (dk_at dksX11_shared_5 0 rfl rfl)
theorem dX11_shared_120 : decode cX11_shared 120 = .ok (.aload_n 0, 1) := dk_42 (dk_at dksX11_shared_5 3 rfl rfl)
theorem dX11_shared_121 : decode cX11_shared 121 = .ok (.iload_n 2, 1) := dk_28 (dk_at dksX11_shared_5 4 rfl rfl)
theorem dX11_shared_122 : decode cX11_shared 122 = .ok (.invokevirtual 444, 3) := dk_182 1 188 (dk_at dksX11_shared_5 5 rfl rfl)
theorem dX11_shared_125 : decode cX11_shared 125 = .ok (.iconst 0, 1) := dk_3 (dk_at dksX11_shared_5 8 rfl rfl)
theorem dX11_shared_126 : decode cX11_shared 126 = .ok (.istore 5, 2) := dk_54 5 (dk_at dksX11_shared_5 9 rfl rfl)
theorem dX11_shared_128 : decode cX11_shared 128 = .ok (.iconst 0, 1) := dk_3 (dk_at dksX11_shared_5 11 rfl rfl)
theorem dX11_shared_129 : decode cX11_shared 129 = .ok (.istore 6, 2) := dk_54 6 (dk_at dksX11_shared_5 12 rfl rfl)
theorem dX11_shared_131 : decode cX11_shared 131 = .ok (.iconst 0, 1) := dk_3 (dk_at dksX11_shared_5 14 rfl rfl)
theorem dX11_shared_132 : decode cX11_shared 132 = .ok (.istore 7, 2) := dk_54 7 (dk_at dksX11_shared_5 15 rfl rfl)
theorem dX11_shared_134 : decode cX11_shared 134 = .ok (.iload 7, 2) := dk_21 7 (dk_at dksX11_shared_5 17 rfl rfl)
theorem dX11_shared_136 : decode cX11_shared 136 = .ok (.aload_n 0, 1) := dk_42 (dk_at dksX11_shared_5 19 rfl rfl)
theorem dX11_shared_137 : decode cX11_shared 137 = .ok (.getfield 380, 3) := dk_180 1 124 (dk_at dksX11_shared_5 20 rfl rfl)
theorem dX11_shared_140 : decode cX11_shared 140 = .ok (.if_icmp .ge 162, 3) := dk_162 0 162 (dk_at dksX11_shared_6 0 rfl rfl)
theorem dX11_shared_143 : decode cX11_shared 143 = .ok (.aload_n 0, 1) := dk_42 (dk_at dksX11_shared_6 3 rfl rfl)
theorem dX11_shared_144 : decode cX11_shared 144 = .ok (.getfield 96, 3) := dk_180 0 96 (dk_at dksX11_shared_6 4 rfl rfl)
theorem dX11_shared_147 : decode cX11_shared 147 = .ok (.iload 7, 2) := dk_21 7 (dk_at dksX11_shared_6 7 rfl rfl)
theorem dX11_shared_149 : decode cX11_shared 149 = .ok (.iaload, 1) := dk_46 (dk_at dksX11_shared_6 9 rfl rfl)
theorem dX11_shared_150 : decode cX11_shared 150 = .ok (.istore 8, 2) := dk_54 8 (dk_at dksX11_shared_6 10 rfl rfl)
theorem dX11_shared_152 : decode cX11_shared 152 = .ok (.aload_n 0, 1) := dk_42 (dk_at dksX11_shared_6 12 rfl rfl)
theorem dX11_shared_153 : decode cX11_shared 153 = .ok (.getfield 90, 3) := dk_180 0 90 (dk_at dksX11_shared_6 13 rfl rfl)
theorem dX11_shared_156 : decode cX11_shared 156 = .ok (.iload 7, 2) := dk_21 7 (dk_at dksX11_shared_6 16 rfl rfl)
theorem dX11_shared_158 : decode cX11_shared 158 = .ok (.iaload, 1) := dk_46 (dk_at dksX11_shared_6 18 rfl rfl)
theorem dX11_shared_159 : decode cX11_shared 159 = .ok (.istore 9, 2) := dk_54 9 (dk_at dksX11_shared_6 19 rfl rfl)
theorem dX11_shared_161 : decode cX11_shared 161 = .ok (.iload 9, 2) := dk_21 9 (dk_at dksX11_shared_6 21 rfl rfl)
theorem dX11_shared_163 : decode cX11_shared 163 = .ok (.ifCond .lt 133, 3) := dk_155 0 133 (dk_at dksX11_shared_7 0 rfl rfl)
theorem dX11_shared_166 : decode cX11_shared 166 = .ok (.aload_n 0, 1) := dk_42 (dk_at dksX11_shared_7 3 rfl rfl)
theorem dX11_shared_167 : decode cX11_shared 167 = .ok (.getfield 87, 3) := dk_180 0 87 (dk_at dksX11_shared_7 4 rfl rfl)
theorem dX11_shared_170 : decode cX11_shared 170 = .ok (.iload 9, 2) := dk_21 9 (dk_at dksX11_shared_7 7 rfl rfl)
theorem dX11_shared_172 : decode cX11_shared 172 = .ok (.iaload, 1) := dk_46 (dk_at dksX11_shared_7 9 rfl rfl)
theorem dX11_shared_173 : decode cX11_shared 173 = .ok (.invokestatic 455, 3) := dk_184 1 199 (dk_at dksX11_shared_7 10 rfl rfl)
theorem dX11_shared_176 : decode cX11_shared 176 = .ok (.ifCond .ne 6, 3) := dk_154 0 6 (dk_at dksX11_shared_7 13 rfl rfl)
theorem dX11_shared_179 : decode cX11_shared 179 = .ok (.goto 117, 3) := dk_167 0 117 (dk_at dksX11_shared_7 16 rfl rfl)
theorem dX11_shared_182 : decode cX11_shared 182 = .ok (.iload 6, 2) := dk_21 6 (dk_at dksX11_shared_7 19 rfl rfl)
theorem dX11_shared_184 : decode cX11_shared 184 = .ok (.iload 8, 2) := dk_21 8 (dk_at dksX11_shared_7 21 rfl rfl)
theorem dX11_shared_186 : decode cX11_shared 186 = .ok (.ifCond .lt 13, 3) := dk_155 0 13 (dk_at dksX11_shared_8 0 rfl rfl)
theorem dX11_shared_189 : decode cX11_shared 189 = .ok (.aload_n 0, 1) := dk_42 (dk_at dksX11_shared_8 3 rfl rfl)
theorem dX11_shared_190 : decode cX11_shared 190 = .ok (.getfield 93, 3) := dk_180 0 93 (dk_at dksX11_shared_8 4 rfl rfl)
theorem dX11_shared_193 : decode cX11_shared 193 = .ok (.iload 8, 2) := dk_21 8 (dk_at dksX11_shared_8 7 rfl rfl)
theorem dX11_shared_195 : decode cX11_shared 195 = .ok (.iaload, 1) := dk_46 (dk_at dksX11_shared_8 9 rfl rfl)
theorem dX11_shared_196 : decode cX11_shared 196 = .ok (.ifCond .ne 7, 3) := dk_154 0 7 (dk_at dksX11_shared_8 10 rfl rfl)
theorem dX11_shared_199 : decode cX11_shared 199 = .ok (.iconst 1, 1) := dk_4 (dk_at dksX11_shared_8 13 rfl rfl)
theorem dX11_shared_200 : decode cX11_shared 200 = .ok (.goto 4, 3) := dk_167 0 4 (dk_at dksX11_shared_8 14 rfl rfl)
theorem dX11_shared_203 : decode cX11_shared 203 = .ok (.iconst 0, 1) := dk_3 (dk_at dksX11_shared_8 17 rfl rfl)
theorem dX11_shared_204 : decode cX11_shared 204 = .ok (.iadd, 1) := dk_96 (dk_at dksX11_shared_8 18 rfl rfl)
theorem dX11_shared_205 : decode cX11_shared 205 = .ok (.istore 6, 2) := dk_54 6 (dk_at dksX11_shared_8 19 rfl rfl)
theorem dX11_shared_207 : decode cX11_shared 207 = .ok (.iload 5, 2) := dk_21 5 (dk_at dksX11_shared_8 21 rfl rfl)
theorem dX11_shared_209 : decode cX11_shared 209 = .ok (.iload 8, 2) := dk_21 8 (dk_at dksX11_shared_9 0 rfl rfl)
theorem dX11_shared_211 : decode cX11_shared 211 = .ok (.ifCond .lt 81, 3) := dk_155 0 81 (dk_at dksX11_shared_9 2 rfl rfl)
theorem dX11_shared_214 : decode cX11_shared 214 = .ok (.aload_n 0, 1) := dk_42 (dk_at dksX11_shared_9 5 rfl rfl)
theorem dX11_shared_215 : decode cX11_shared 215 = .ok (.getfield 93, 3) := dk_180 0 93 (dk_at dksX11_shared_9 6 rfl rfl)
theorem dX11_shared_218 : decode cX11_shared 218 = .ok (.iload 8, 2) := dk_21 8 (dk_at dksX11_shared_9 9 rfl rfl)
theorem dX11_shared_220 : decode cX11_shared 220 = .ok (.iaload, 1) := dk_46 (dk_at dksX11_shared_9 11 rfl rfl)
theorem dX11_shared_221 : decode cX11_shared 221 = .ok (.aload_n 0, 1) := dk_42 (dk_at dksX11_shared_9 12 rfl rfl)
theorem dX11_shared_222 : decode cX11_shared 222 = .ok (.getfield 87, 3) := dk_180 0 87 (dk_at dksX11_shared_9 13 rfl rfl)
theorem dX11_shared_225 : decode cX11_shared 225 = .ok (.iload 9, 2) := dk_21 9 (dk_at dksX11_shared_9 16 rfl rfl)
theorem dX11_shared_227 : decode cX11_shared 227 = .ok (.iaload, 1) := dk_46 (dk_at dksX11_shared_9 18 rfl rfl)
theorem dX11_shared_228 : decode cX11_shared 228 = .ok (.if_icmp .ne 64, 3) := dk_160 0 64 (dk_at dksX11_shared_9 19 rfl rfl)
theorem dX11_shared_231 : decode cX11_shared 231 = .ok (.aload_n 0, 1) := dk_42 (dk_at dksX11_shared_9 22 rfl rfl)
theorem dX11_shared_232 : decode cX11_shared 232 = .ok (.iload_n 1, 1) := dk_27 (dk_at dksX11_shared_9 23 rfl rfl)
theorem dX11_shared_233 : decode cX11_shared 233 = .ok (.iload 8, 2) := dk_21 8 (dk_at dksX11_shared_10 0 rfl rfl)
theorem dX11_shared_235 : decode cX11_shared 235 = .ok (.iconst 0, 1) := dk_3 (dk_at dksX11_shared_10 2 rfl rfl)
theorem dX11_shared_236 : decode cX11_shared 236 = .ok (.invokevirtual 272, 3) := dk_182 1 16 (dk_at dksX11_shared_10 3 rfl rfl)
theorem dX11_shared_239 : decode cX11_shared 239 = .ok (.aload_n 0, 1) := dk_42 (dk_at dksX11_shared_10 6 rfl rfl)
theorem dX11_shared_240 : decode cX11_shared 240 = .ok (.iload_n 2, 1) := dk_28 (dk_at dksX11_shared_10 7 rfl rfl)
theorem dX11_shared_241 : decode cX11_shared 241 = .ok (.iload 9, 2) := dk_21 9 (dk_at dksX11_shared_10 8 rfl rfl)
theorem dX11_shared_243 : decode cX11_shared 243 = .ok (.iconst 0, 1) := dk_3 (dk_at dksX11_shared_10 10 rfl rfl)
theorem dX11_shared_244 : decode cX11_shared 244 = .ok (.invokevirtual 272, 3) := dk_182 1 16 (dk_at dksX11_shared_10 11 rfl rfl)
theorem dX11_shared_247 : decode cX11_shared 247 = .ok (.if_icmp .ne 45, 3) := dk_160 0 45 (dk_at dksX11_shared_10 14 rfl rfl)
theorem dX11_shared_250 : decode cX11_shared 250 = .ok (.aload_n 0, 1) := dk_42 (dk_at dksX11_shared_10 17 rfl rfl)
theorem dX11_shared_251 : decode cX11_shared 251 = .ok (.iload_n 1, 1) := dk_27 (dk_at dksX11_shared_10 18 rfl rfl)
theorem dX11_shared_252 : decode cX11_shared 252 = .ok (.iload 8, 2) := dk_21 8 (dk_at dksX11_shared_10 19 rfl rfl)
theorem dX11_shared_254 : decode cX11_shared 254 = .ok (.iconst 2, 1) := dk_5 (dk_at dksX11_shared_10 21 rfl rfl)
theorem dX11_shared_255 : decode cX11_shared 255 = .ok (.invokevirtual 272, 3) := dk_182 1 16 (dk_at dksX11_shared_11 0 rfl rfl)
theorem dX11_shared_258 : decode cX11_shared 258 = .ok (.aload_n 0, 1) := dk_42 (dk_at dksX11_shared_11 3 rfl rfl)
theorem dX11_shared_259 : decode cX11_shared 259 = .ok (.iload_n 2, 1) := dk_28 (dk_at dksX11_shared_11 4 rfl rfl)
theorem dX11_shared_260 : decode cX11_shared 260 = .ok (.iload 9, 2) := dk_21 9 (dk_at dksX11_shared_11 5 rfl rfl)
theorem dX11_shared_262 : decode cX11_shared 262 = .ok (.iconst 2, 1) := dk_5 (dk_at dksX11_shared_11 7 rfl rfl)
theorem dX11_shared_263 : decode cX11_shared 263 = .ok (.invokevirtual 272, 3) := dk_182 1 16 (dk_at dksX11_shared_11 8 rfl rfl)
theorem dX11_shared_266 : decode cX11_shared 266 = .ok (.if_icmp .ne 26, 3) := dk_160 0 26 (dk_at dksX11_shared_11 11 rfl rfl)
theorem dX11_shared_269 : decode cX11_shared 269 = .ok (.aload_n 0, 1) := dk_42 (dk_at dksX11_shared_11 14 rfl rfl)
theorem dX11_shared_270 : decode cX11_shared 270 = .ok (.iload_n 1, 1) := dk_27 (dk_at dksX11_shared_11 15 rfl rfl)
theorem dX11_shared_271 : decode cX11_shared 271 = .ok (.iload 8, 2) := dk_21 8 (dk_at dksX11_shared_11 16 rfl rfl)
theorem dX11_shared_273 : decode cX11_shared 273 = .ok (.iconst 3, 1) := dk_6 (dk_at dksX11_shared_11 18 rfl rfl)
theorem dX11_shared_274 : decode cX11_shared 274 = .ok (.invokevirtual 272, 3) := dk_182 1 16 (dk_at dksX11_shared_11 19 rfl rfl)
theorem dX11_shared_277 : decode cX11_shared 277 = .ok (.aload_n 0, 1) := dk_42 (dk_at dksX11_shared_11 22 rfl rfl)
theorem dX11_shared_278 : decode cX11_shared 278 = .ok (.iload_n 2, 1) := dk_28 (dk_at dksX11_shared_11 23 rfl rfl)
theorem dX11_shared_279 : decode cX11_shared 279 = .ok (.iload 9, 2) := dk_21 9 (dk_at dksX11_shared_12 0 rfl rfl)
theorem dX11_shared_281 : decode cX11_shared 281 = .ok (.iconst 3, 1) := dk_6 (dk_at dksX11_shared_12 2 rfl rfl)
theorem dX11_shared_282 : decode cX11_shared 282 = .ok (.invokevirtual 272, 3) := dk_182 1 16 (dk_at dksX11_shared_12 3 rfl rfl)
theorem dX11_shared_285 : decode cX11_shared 285 = .ok (.if_icmp .ne 7, 3) := dk_160 0 7 (dk_at dksX11_shared_12 6 rfl rfl)
theorem dX11_shared_288 : decode cX11_shared 288 = .ok (.iconst 1, 1) := dk_4 (dk_at dksX11_shared_12 9 rfl rfl)
theorem dX11_shared_289 : decode cX11_shared 289 = .ok (.goto 4, 3) := dk_167 0 4 (dk_at dksX11_shared_12 10 rfl rfl)
theorem dX11_shared_292 : decode cX11_shared 292 = .ok (.iconst 0, 1) := dk_3 (dk_at dksX11_shared_12 13 rfl rfl)
theorem dX11_shared_293 : decode cX11_shared 293 = .ok (.iadd, 1) := dk_96 (dk_at dksX11_shared_12 14 rfl rfl)
theorem dX11_shared_294 : decode cX11_shared 294 = .ok (.istore 5, 2) := dk_54 5 (dk_at dksX11_shared_12 15 rfl rfl)
theorem dX11_shared_296 : decode cX11_shared 296 = .ok (.iinc 7 1, 3) := dk_132 7 1 (dk_at dksX11_shared_12 17 rfl rfl)
theorem dX11_shared_299 : decode cX11_shared 299 = .ok (.goto (-165), 3) := dk_167 255 91 (dk_at dksX11_shared_12 20 rfl rfl)
theorem dX11_shared_302 : decode cX11_shared 302 = .ok (.iload_n 3, 1) := dk_29 (dk_at dksX11_shared_12 23 rfl rfl)
theorem dX11_shared_303 : decode cX11_shared 303 = .ok (.ifCond .ne 8, 3) := dk_154 0 8 (dk_at dksX11_shared_13 0 rfl rfl)
theorem dX11_shared_306 : decode cX11_shared 306 = .ok (.iload 5, 2) := dk_21 5 (dk_at dksX11_shared_13 3 rfl rfl)
theorem dX11_shared_308 : decode cX11_shared 308 = .ok (.goto 15, 3) := dk_167 0 15 (dk_at dksX11_shared_13 5 rfl rfl)
theorem dX11_shared_311 : decode cX11_shared 311 = .ok (.iload 5, 2) := dk_21 5 (dk_at dksX11_shared_13 8 rfl rfl)
theorem dX11_shared_313 : decode cX11_shared 313 = .ok (.iload 6, 2) := dk_21 6 (dk_at dksX11_shared_13 10 rfl rfl)
theorem dX11_shared_315 : decode cX11_shared 315 = .ok (.if_icmp .le 7, 3) := dk_164 0 7 (dk_at dksX11_shared_13 12 rfl rfl)
theorem dX11_shared_318 : decode cX11_shared 318 = .ok (.iconst 1, 1) := dk_4 (dk_at dksX11_shared_13 15 rfl rfl)
theorem dX11_shared_319 : decode cX11_shared 319 = .ok (.goto 4, 3) := dk_167 0 4 (dk_at dksX11_shared_13 16 rfl rfl)
theorem dX11_shared_322 : decode cX11_shared 322 = .ok (.iconst 0, 1) := dk_3 (dk_at dksX11_shared_13 19 rfl rfl)
theorem dX11_shared_323 : decode cX11_shared 323 = .ok (.ireturn, 1) := dk_172 (dk_at dksX11_shared_13 20 rfl rfl)
def dkwX11_isSlip_0 : List UInt8 := [26, 4, 8, 184, 0, 106, 172]
abbrev dktX11_isSlip_0 : List UInt8 := dkwX11_isSlip_0 ++ []
theorem dksX11_isSlip_0 : cX11_isSlip.data.toList.drop 0 = dktX11_isSlip_0 := by decide +kernel
theorem dX11_isSlip_0 : decode cX11_isSlip 0 = .ok (.iload_n 0, 1) := dk_26 (dk_at dksX11_isSlip_0 0 rfl rfl)
theorem dX11_isSlip_1 : decode cX11_isSlip 1 = .ok (.iconst 1, 1) := dk_4 (dk_at dksX11_isSlip_0 1 rfl rfl)
theorem dX11_isSlip_2 : decode cX11_isSlip 2 = .ok (.iconst 5, 1) := dk_8 (dk_at dksX11_isSlip_0 2 rfl rfl)
theorem dX11_isSlip_3 : decode cX11_isSlip 3 = .ok (.invokestatic 106, 3) := dk_184 0 106 (dk_at dksX11_isSlip_0 3 rfl rfl)
theorem dX11_isSlip_6 : decode cX11_isSlip 6 = .ok (.ireturn, 1) := dk_172 (dk_at dksX11_isSlip_0 6 rfl rfl)
def dkwX11_alike_10 : List UInt8 := [28, 182, 0, 251, 96, 46, 172]
abbrev dktX11_alike_10 : List UInt8 := dkwX11_alike_10 ++ []
def dkwX11_alike_9 : List UInt8 := [132, 5, 1, 167, 255, 102, 132, 4, 1, 167, 255, 83, 42, 180, 0, 99, 29, 42, 27, 182, 0, 251, 104, 42]
abbrev dktX11_alike_9 : List UInt8 := dkwX11_alike_9 ++ dktX11_alike_10
def dkwX11_alike_8 : List UInt8 := [4, 100, 46, 184, 1, 151, 54, 6, 42, 180, 0, 99, 29, 21, 4, 104, 21, 5, 96, 21, 6, 79]
abbrev dktX11_alike_8 : List UInt8 := dkwX11_alike_8 ++ dktX11_alike_9
def dkwX11_alike_7 : List UInt8 := [180, 0, 99, 29, 21, 4, 4, 100, 104, 21, 5, 96, 46, 42, 180, 0, 99, 29, 21, 4, 104, 21, 5, 96]
abbrev dktX11_alike_7 : List UInt8 := dkwX11_alike_7 ++ dktX11_alike_8
def dkwX11_alike_6 : List UInt8 := [4, 42, 180, 0, 99, 29, 21, 4, 4, 100, 104, 21, 5, 96, 4, 100, 46, 96, 167, 0, 34, 42]
abbrev dktX11_alike_6 : List UInt8 := dkwX11_alike_6 ++ dktX11_alike_7
def dkwX11_alike_5 : List UInt8 := [182, 1, 16, 160, 0, 7, 4, 167, 0, 4, 3, 54, 7, 132, 8, 1, 167, 255, 210, 21, 7, 153, 0, 24]
abbrev dktX11_alike_5 : List UInt8 := dkwX11_alike_5 ++ dktX11_alike_6
def dkwX11_alike_4 : List UInt8 := [153, 0, 32, 42, 27, 21, 4, 4, 100, 21, 8, 182, 1, 16, 42, 28, 21, 5, 4, 100, 21, 8]
abbrev dktX11_alike_4 : List UInt8 := dkwX11_alike_4 ++ dktX11_alike_5
def dkwX11_alike_3 : List UInt8 := [158, 0, 122, 21, 5, 158, 0, 117, 4, 54, 7, 3, 54, 8, 21, 8, 7, 162, 0, 46, 21, 7]
abbrev dktX11_alike_3 : List UInt8 := dkwX11_alike_3 ++ dktX11_alike_4
def dkwX11_alike_2 : List UInt8 := [182, 0, 251, 163, 0, 169, 3, 54, 5, 21, 5, 42, 28, 182, 0, 251, 163, 0, 150, 3, 54, 6, 21, 4]
abbrev dktX11_alike_2 : List UInt8 := dkwX11_alike_2 ++ dktX11_alike_3
def dkwX11_alike_1 : List UInt8 := [167, 0, 4, 3, 4, 182, 0, 235, 153, 0, 5, 3, 172, 16, 25, 62, 3, 54, 4, 21, 4, 42, 27]
abbrev dktX11_alike_1 : List UInt8 := dkwX11_alike_1 ++ dktX11_alike_2
def dkwX11_alike_0 : List UInt8 := [42, 3, 181, 0, 3, 42, 42, 27, 182, 1, 3, 154, 0, 11, 42, 28, 182, 1, 3, 153, 0, 7, 4]
abbrev dktX11_alike_0 : List UInt8 := dkwX11_alike_0 ++ dktX11_alike_1
theorem dksX11_alike_0 : cX11_alike.data.toList.drop 0 = dktX11_alike_0 := by decide +kernel
theorem dksX11_alike_1 : cX11_alike.data.toList.drop 23 = dktX11_alike_1 := dk_seg dksX11_alike_0 23 rfl rfl
theorem dksX11_alike_2 : cX11_alike.data.toList.drop 46 = dktX11_alike_2 := dk_seg dksX11_alike_1 23 rfl rfl
theorem dksX11_alike_3 : cX11_alike.data.toList.drop 70 = dktX11_alike_3 := dk_seg dksX11_alike_2 24 rfl rfl
theorem dksX11_alike_4 : cX11_alike.data.toList.drop 92 = dktX11_alike_4 := dk_seg dksX11_alike_3 22 rfl rfl
theorem dksX11_alike_5 : cX11_alike.data.toList.drop 114 = dktX11_alike_5 := dk_seg dksX11_alike_4 22 rfl rfl
theorem dksX11_alike_6 : cX11_alike.data.toList.drop 138 = dktX11_alike_6 := dk_seg dksX11_alike_5 24 rfl rfl
theorem dksX11_alike_7 : cX11_alike.data.toList.drop 160 = dktX11_alike_7 := dk_seg dksX11_alike_6 22 rfl rfl
theorem dksX11_alike_8 : cX11_alike.data.toList.drop 184 = dktX11_alike_8 := dk_seg dksX11_alike_7 24 rfl rfl
theorem dksX11_alike_9 : cX11_alike.data.toList.drop 206 = dktX11_alike_9 := dk_seg dksX11_alike_8 22 rfl rfl
theorem dksX11_alike_10 : cX11_alike.data.toList.drop 230 = dktX11_alike_10 := dk_seg dksX11_alike_9 24 rfl rfl
theorem dX11_alike_0 : decode cX11_alike 0 = .ok (.aload_n 0, 1) := dk_42 (dk_at dksX11_alike_0 0 rfl rfl)
theorem dX11_alike_1 : decode cX11_alike 1 = .ok (.iconst 0, 1) := dk_3 (dk_at dksX11_alike_0 1 rfl rfl)
theorem dX11_alike_2 : decode cX11_alike 2 = .ok (.putfield 3, 3) := dk_181 0 3 (dk_at dksX11_alike_0 2 rfl rfl)
theorem dX11_alike_5 : decode cX11_alike 5 = .ok (.aload_n 0, 1) := dk_42 (dk_at dksX11_alike_0 5 rfl rfl)
theorem dX11_alike_6 : decode cX11_alike 6 = .ok (.aload_n 0, 1) := dk_42 (dk_at dksX11_alike_0 6 rfl rfl)
theorem dX11_alike_7 : decode cX11_alike 7 = .ok (.iload_n 1, 1) := dk_27 (dk_at dksX11_alike_0 7 rfl rfl)
theorem dX11_alike_8 : decode cX11_alike 8 = .ok (.invokevirtual 259, 3) := dk_182 1 3 (dk_at dksX11_alike_0 8 rfl rfl)
theorem dX11_alike_11 : decode cX11_alike 11 = .ok (.ifCond .ne 11, 3) := dk_154 0 11 (dk_at dksX11_alike_0 11 rfl rfl)
theorem dX11_alike_14 : decode cX11_alike 14 = .ok (.aload_n 0, 1) := dk_42 (dk_at dksX11_alike_0 14 rfl rfl)
theorem dX11_alike_15 : decode cX11_alike 15 = .ok (.iload_n 2, 1) := dk_28 (dk_at dksX11_alike_0 15 rfl rfl)
theorem dX11_alike_16 : decode cX11_alike 16 = .ok (.invokevirtual 259, 3) := dk_182 1 3 (dk_at dksX11_alike_0 16 rfl rfl)
theorem dX11_alike_19 : decode cX11_alike 19 = .ok (.ifCond .eq 7, 3) := dk_153 0 7 (dk_at dksX11_alike_0 19 rfl rfl)
theorem dX11_alike_22 : decode cX11_alike 22 = .ok (.iconst 1, 1) := dk_4 (dk_at dksX11_alike_0 22 rfl rfl)
theorem dX11_alike_23 : decode cX11_alike 23 = .ok (.goto 4, 3) := dk_167 0 4 (dk_at dksX11_alike_1 0 rfl rfl)
theorem dX11_alike_26 : decode cX11_alike 26 = .ok (.iconst 0, 1) := dk_3 (dk_at dksX11_alike_1 3 rfl rfl)
theorem dX11_alike_27 : decode cX11_alike 27 = .ok (.iconst 1, 1) := dk_4 (dk_at dksX11_alike_1 4 rfl rfl)
theorem dX11_alike_28 : decode cX11_alike 28 = .ok (.invokevirtual 235, 3) := dk_182 0 235 (dk_at dksX11_alike_1 5 rfl rfl)
theorem dX11_alike_31 : decode cX11_alike 31 = .ok (.ifCond .eq 5, 3) := dk_153 0 5 (dk_at dksX11_alike_1 8 rfl rfl)
theorem dX11_alike_34 : decode cX11_alike 34 = .ok (.iconst 0, 1) := dk_3 (dk_at dksX11_alike_1 11 rfl rfl)
theorem dX11_alike_35 : decode cX11_alike 35 = .ok (.ireturn, 1) := dk_172 (dk_at dksX11_alike_1 12 rfl rfl)
theorem dX11_alike_36 : decode cX11_alike 36 = .ok (.bipush 25, 2) := dk_16 25 (dk_at dksX11_alike_1 13 rfl rfl)
theorem dX11_alike_38 : decode cX11_alike 38 = .ok (.istore_n 3, 1) := dk_62 (dk_at dksX11_alike_1 15 rfl rfl)
theorem dX11_alike_39 : decode cX11_alike 39 = .ok (.iconst 0, 1) := dk_3 (dk_at dksX11_alike_1 16 rfl rfl)
theorem dX11_alike_40 : decode cX11_alike 40 = .ok (.istore 4, 2) := dk_54 4 (dk_at dksX11_alike_1 17 rfl rfl)
theorem dX11_alike_42 : decode cX11_alike 42 = .ok (.iload 4, 2) := dk_21 4 (dk_at dksX11_alike_1 19 rfl rfl)
theorem dX11_alike_44 : decode cX11_alike 44 = .ok (.aload_n 0, 1) := dk_42 (dk_at dksX11_alike_1 21 rfl rfl)
theorem dX11_alike_45 : decode cX11_alike 45 = .ok (.iload_n 1, 1) := dk_27 (dk_at dksX11_alike_1 22 rfl rfl)
theorem dX11_alike_46 : decode cX11_alike 46 = .ok (.invokevirtual 251, 3) := dk_182 0 251 (dk_at dksX11_alike_2 0 rfl rfl)
theorem dX11_alike_49 : decode cX11_alike 49 = .ok (.if_icmp .gt 169, 3) := dk_163 0 169 (dk_at dksX11_alike_2 3 rfl rfl)
theorem dX11_alike_52 : decode cX11_alike 52 = .ok (.iconst 0, 1) := dk_3 (dk_at dksX11_alike_2 6 rfl rfl)
theorem dX11_alike_53 : decode cX11_alike 53 = .ok (.istore 5, 2) := dk_54 5 (dk_at dksX11_alike_2 7 rfl rfl)
theorem dX11_alike_55 : decode cX11_alike 55 = .ok (.iload 5, 2) := dk_21 5 (dk_at dksX11_alike_2 9 rfl rfl)
theorem dX11_alike_57 : decode cX11_alike 57 = .ok (.aload_n 0, 1) := dk_42 (dk_at dksX11_alike_2 11 rfl rfl)
theorem dX11_alike_58 : decode cX11_alike 58 = .ok (.iload_n 2, 1) := dk_28 (dk_at dksX11_alike_2 12 rfl rfl)
theorem dX11_alike_59 : decode cX11_alike 59 = .ok (.invokevirtual 251, 3) := dk_182 0 251 (dk_at dksX11_alike_2 13 rfl rfl)
theorem dX11_alike_62 : decode cX11_alike 62 = .ok (.if_icmp .gt 150, 3) := dk_163 0 150 (dk_at dksX11_alike_2 16 rfl rfl)
theorem dX11_alike_65 : decode cX11_alike 65 = .ok (.iconst 0, 1) := dk_3 (dk_at dksX11_alike_2 19 rfl rfl)
theorem dX11_alike_66 : decode cX11_alike 66 = .ok (.istore 6, 2) := dk_54 6 (dk_at dksX11_alike_2 20 rfl rfl)
theorem dX11_alike_68 : decode cX11_alike 68 = .ok (.iload 4, 2) := dk_21 4 (dk_at dksX11_alike_2 22 rfl rfl)
theorem dX11_alike_70 : decode cX11_alike 70 = .ok (.ifCond .le 122, 3) := dk_158 0 122 (dk_at dksX11_alike_3 0 rfl rfl)
theorem dX11_alike_73 : decode cX11_alike 73 = .ok (.iload 5, 2) := dk_21 5 (dk_at dksX11_alike_3 3 rfl rfl)
theorem dX11_alike_75 : decode cX11_alike 75 = .ok (.ifCond .le 117, 3) := dk_158 0 117 (dk_at dksX11_alike_3 5 rfl rfl)
theorem dX11_alike_78 : decode cX11_alike 78 = .ok (.iconst 1, 1) := dk_4 (dk_at dksX11_alike_3 8 rfl rfl)
theorem dX11_alike_79 : decode cX11_alike 79 = .ok (.istore 7, 2) := dk_54 7 (dk_at dksX11_alike_3 9 rfl rfl)
theorem dX11_alike_81 : decode cX11_alike 81 = .ok (.iconst 0, 1) := dk_3 (dk_at dksX11_alike_3 11 rfl rfl)
theorem dX11_alike_82 : decode cX11_alike 82 = .ok (.istore 8, 2) := dk_54 8 (dk_at dksX11_alike_3 12 rfl rfl)
theorem dX11_alike_84 : decode cX11_alike 84 = .ok (.iload 8, 2) := dk_21 8 (dk_at dksX11_alike_3 14 rfl rfl)
theorem dX11_alike_86 : decode cX11_alike 86 = .ok (.iconst 4, 1) := dk_7 (dk_at dksX11_alike_3 16 rfl rfl)
theorem dX11_alike_87 : decode cX11_alike 87 = .ok (.if_icmp .ge 46, 3) := dk_162 0 46 (dk_at dksX11_alike_3 17 rfl rfl)
theorem dX11_alike_90 : decode cX11_alike 90 = .ok (.iload 7, 2) := dk_21 7 (dk_at dksX11_alike_3 20 rfl rfl)
theorem dX11_alike_92 : decode cX11_alike 92 = .ok (.ifCond .eq 32, 3) := dk_153 0 32 (dk_at dksX11_alike_4 0 rfl rfl)
theorem dX11_alike_95 : decode cX11_alike 95 = .ok (.aload_n 0, 1) := dk_42 (dk_at dksX11_alike_4 3 rfl rfl)
theorem dX11_alike_96 : decode cX11_alike 96 = .ok (.iload_n 1, 1) := dk_27 (dk_at dksX11_alike_4 4 rfl rfl)
theorem dX11_alike_97 : decode cX11_alike 97 = .ok (.iload 4, 2) := dk_21 4 (dk_at dksX11_alike_4 5 rfl rfl)
theorem dX11_alike_99 : decode cX11_alike 99 = .ok (.iconst 1, 1) := dk_4 (dk_at dksX11_alike_4 7 rfl rfl)
theorem dX11_alike_100 : decode cX11_alike 100 = .ok (.isub, 1) := dk_100 (dk_at dksX11_alike_4 8 rfl rfl)
theorem dX11_alike_101 : decode cX11_alike 101 = .ok (.iload 8, 2) := dk_21 8 (dk_at dksX11_alike_4 9 rfl rfl)
theorem dX11_alike_103 : decode cX11_alike 103 = .ok (.invokevirtual 272, 3) := dk_182 1 16 (dk_at dksX11_alike_4 11 rfl rfl)
theorem dX11_alike_106 : decode cX11_alike 106 = .ok (.aload_n 0, 1) := dk_42 (dk_at dksX11_alike_4 14 rfl rfl)
theorem dX11_alike_107 : decode cX11_alike 107 = .ok (.iload_n 2, 1) := dk_28 (dk_at dksX11_alike_4 15 rfl rfl)
theorem dX11_alike_108 : decode cX11_alike 108 = .ok (.iload 5, 2) := dk_21 5 (dk_at dksX11_alike_4 16 rfl rfl)
theorem dX11_alike_110 : decode cX11_alike 110 = .ok (.iconst 1, 1) := dk_4 (dk_at dksX11_alike_4 18 rfl rfl)
theorem dX11_alike_111 : decode cX11_alike 111 = .ok (.isub, 1) := dk_100 (dk_at dksX11_alike_4 19 rfl rfl)
theorem dX11_alike_112 : decode cX11_alike 112 = .ok (.iload 8, 2) := dk_21 8 (dk_at dksX11_alike_4 20 rfl rfl)
theorem dX11_alike_114 : decode cX11_alike 114 = .ok (.invokevirtual 272, 3) := dk_182 1 16 (dk_at dksX11_alike_5 0 rfl rfl)
theorem dX11_alike_117 : decode cX11_alike 117 = .ok (.if_icmp .ne 7, 3) := dk_160 0 7 (dk_at dksX11_alike_5 3 rfl rfl)
theorem dX11_alike_120 : decode cX11_alike 120 = .ok (.iconst 1, 1) := dk_4 (dk_at dksX11_alike_5 6 rfl rfl)
theorem dX11_alike_121 : decode cX11_alike 121 = .ok (.goto 4, 3) := dk_167 0 4 (dk_at dksX11_alike_5 7 rfl rfl)
theorem dX11_alike_124 : decode cX11_alike 124 = .ok (.iconst 0, 1) := dk_3 (dk_at dksX11_alike_5 10 rfl rfl)
theorem dX11_alike_125 : decode cX11_alike 125 = .ok (.istore 7, 2) := dk_54 7 (dk_at dksX11_alike_5 11 rfl rfl)
theorem dX11_alike_127 : decode cX11_alike 127 = .ok (.iinc 8 1, 3) := dk_132 8 1 (dk_at dksX11_alike_5 13 rfl rfl)
theorem dX11_alike_130 : decode cX11_alike 130 = .ok (.goto (-46), 3) := dk_167 255 210 (dk_at dksX11_alike_5 16 rfl rfl)
theorem dX11_alike_133 : decode cX11_alike 133 = .ok (.iload 7, 2) := dk_21 7 (dk_at dksX11_alike_5 19 rfl rfl)
theorem dX11_alike_135 : decode cX11_alike 135 = .ok (.ifCond .eq 24, 3) := dk_153 0 24 (dk_at dksX11_alike_5 21 rfl rfl)
theorem dX11_alike_138 : decode cX11_alike 138 = .ok (.iconst 1, 1) := dk_4 (dk_at dksX11_alike_6 0 rfl rfl)
theorem dX11_alike_139 : decode cX11_alike 139 = .ok (.aload_n 0, 1) := dk_42 (dk_at dksX11_alike_6 1 rfl rfl)
theorem dX11_alike_140 : decode cX11_alike 140 = .ok (.getfield 99, 3) := dk_180 0 99 (dk_at dksX11_alike_6 2 rfl rfl)
theorem dX11_alike_143 : decode cX11_alike 143 = .ok (.iload_n 3, 1) := dk_29 (dk_at dksX11_alike_6 5 rfl rfl)
theorem dX11_alike_144 : decode cX11_alike 144 = .ok (.iload 4, 2) := dk_21 4 (dk_at dksX11_alike_6 6 rfl rfl)
theorem dX11_alike_146 : decode cX11_alike 146 = .ok (.iconst 1, 1) := dk_4 (dk_at dksX11_alike_6 8 rfl rfl)
theorem dX11_alike_147 : decode cX11_alike 147 = .ok (.isub, 1) := dk_100 (dk_at dksX11_alike_6 9 rfl rfl)
theorem dX11_alike_148 : decode cX11_alike 148 = .ok (.imul, 1) := dk_104 (dk_at dksX11_alike_6 10 rfl rfl)
theorem dX11_alike_149 : decode cX11_alike 149 = .ok (.iload 5, 2) := dk_21 5 (dk_at dksX11_alike_6 11 rfl rfl)
theorem dX11_alike_151 : decode cX11_alike 151 = .ok (.iadd, 1) := dk_96 (dk_at dksX11_alike_6 13 rfl rfl)
theorem dX11_alike_152 : decode cX11_alike 152 = .ok (.iconst 1, 1) := dk_4 (dk_at dksX11_alike_6 14 rfl rfl)
theorem dX11_alike_153 : decode cX11_alike 153 = .ok (.isub, 1) := dk_100 (dk_at dksX11_alike_6 15 rfl rfl)
theorem dX11_alike_154 : decode cX11_alike 154 = .ok (.iaload, 1) := dk_46 (dk_at dksX11_alike_6 16 rfl rfl)
theorem dX11_alike_155 : decode cX11_alike 155 = .ok (.iadd, 1) := dk_96 (dk_at dksX11_alike_6 17 rfl rfl)
theorem dX11_alike_156 : decode cX11_alike 156 = .ok (.goto 34, 3) := dk_167 0 34 (dk_at dksX11_alike_6 18 rfl rfl)
theorem dX11_alike_159 : decode cX11_alike 159 = .ok (.aload_n 0, 1) := dk_42 (dk_at dksX11_alike_6 21 rfl rfl)
theorem dX11_alike_160 : decode cX11_alike 160 = .ok (.getfield 99, 3) := dk_180 0 99 (dk_at dksX11_alike_7 0 rfl rfl)
theorem dX11_alike_163 : decode cX11_alike 163 = .ok (.iload_n 3, 1) := dk_29 (dk_at dksX11_alike_7 3 rfl rfl)
theorem dX11_alike_164 : decode cX11_alike 164 = .ok (.iload 4, 2) := dk_21 4 (dk_at dksX11_alike_7 4 rfl rfl)
theorem dX11_alike_166 : decode cX11_alike 166 = .ok (.iconst 1, 1) := dk_4 (dk_at dksX11_alike_7 6 rfl rfl)
theorem dX11_alike_167 : decode cX11_alike 167 = .ok (.isub, 1) := dk_100 (dk_at dksX11_alike_7 7 rfl rfl)
theorem dX11_alike_168 : decode cX11_alike 168 = .ok (.imul, 1) := dk_104 (dk_at dksX11_alike_7 8 rfl rfl)
theorem dX11_alike_169 : decode cX11_alike 169 = .ok (.iload 5, 2) := dk_21 5 (dk_at dksX11_alike_7 9 rfl rfl)
theorem dX11_alike_171 : decode cX11_alike 171 = .ok (.iadd, 1) := dk_96 (dk_at dksX11_alike_7 11 rfl rfl)
theorem dX11_alike_172 : decode cX11_alike 172 = .ok (.iaload, 1) := dk_46 (dk_at dksX11_alike_7 12 rfl rfl)
theorem dX11_alike_173 : decode cX11_alike 173 = .ok (.aload_n 0, 1) := dk_42 (dk_at dksX11_alike_7 13 rfl rfl)
theorem dX11_alike_174 : decode cX11_alike 174 = .ok (.getfield 99, 3) := dk_180 0 99 (dk_at dksX11_alike_7 14 rfl rfl)
theorem dX11_alike_177 : decode cX11_alike 177 = .ok (.iload_n 3, 1) := dk_29 (dk_at dksX11_alike_7 17 rfl rfl)
theorem dX11_alike_178 : decode cX11_alike 178 = .ok (.iload 4, 2) := dk_21 4 (dk_at dksX11_alike_7 18 rfl rfl)
theorem dX11_alike_180 : decode cX11_alike 180 = .ok (.imul, 1) := dk_104 (dk_at dksX11_alike_7 20 rfl rfl)
theorem dX11_alike_181 : decode cX11_alike 181 = .ok (.iload 5, 2) := dk_21 5 (dk_at dksX11_alike_7 21 rfl rfl)
theorem dX11_alike_183 : decode cX11_alike 183 = .ok (.iadd, 1) := dk_96 (dk_at dksX11_alike_7 23 rfl rfl)
theorem dX11_alike_184 : decode cX11_alike 184 = .ok (.iconst 1, 1) := dk_4 (dk_at dksX11_alike_8 0 rfl rfl)
theorem dX11_alike_185 : decode cX11_alike 185 = .ok (.isub, 1) := dk_100 (dk_at dksX11_alike_8 1 rfl rfl)
theorem dX11_alike_186 : decode cX11_alike 186 = .ok (.iaload, 1) := dk_46 (dk_at dksX11_alike_8 2 rfl rfl)
theorem dX11_alike_187 : decode cX11_alike 187 = .ok (.invokestatic 407, 3) := dk_184 1 151 (dk_at dksX11_alike_8 3 rfl rfl)
theorem dX11_alike_190 : decode cX11_alike 190 = .ok (.istore 6, 2) := dk_54 6 (dk_at dksX11_alike_8 6 rfl rfl)
theorem dX11_alike_192 : decode cX11_alike 192 = .ok (.aload_n 0, 1) := dk_42 (dk_at dksX11_alike_8 8 rfl rfl)
theorem dX11_alike_193 : decode cX11_alike 193 = .ok (.getfield 99, 3) := dk_180 0 99 (dk_at dksX11_alike_8 9 rfl rfl)
theorem dX11_alike_196 : decode cX11_alike 196 = .ok (.iload_n 3, 1) := dk_29 (dk_at dksX11_alike_8 12 rfl rfl)
theorem dX11_alike_197 : decode cX11_alike 197 = .ok (.iload 4, 2) := dk_21 4 (dk_at dksX11_alike_8 13 rfl rfl)
theorem dX11_alike_199 : decode cX11_alike 199 = .ok (.imul, 1) := dk_104 (dk_at dksX11_alike_8 15 rfl rfl)
theorem dX11_alike_200 : decode cX11_alike 200 = .ok (.iload 5, 2) := dk_21 5 (dk_at dksX11_alike_8 16 rfl rfl)
theorem dX11_alike_202 : decode cX11_alike 202 = .ok (.iadd, 1) := dk_96 (dk_at dksX11_alike_8 18 rfl rfl)
theorem dX11_alike_203 : decode cX11_alike 203 = .ok (.iload 6, 2) := dk_21 6 (dk_at dksX11_alike_8 19 rfl rfl)
theorem dX11_alike_205 : decode cX11_alike 205 = .ok (.iastore, 1) := dk_79 (dk_at dksX11_alike_8 21 rfl rfl)
theorem dX11_alike_206 : decode cX11_alike 206 = .ok (.iinc 5 1, 3) := dk_132 5 1 (dk_at dksX11_alike_9 0 rfl rfl)
theorem dX11_alike_209 : decode cX11_alike 209 = .ok (.goto (-154), 3) := dk_167 255 102 (dk_at dksX11_alike_9 3 rfl rfl)
theorem dX11_alike_212 : decode cX11_alike 212 = .ok (.iinc 4 1, 3) := dk_132 4 1 (dk_at dksX11_alike_9 6 rfl rfl)
theorem dX11_alike_215 : decode cX11_alike 215 = .ok (.goto (-173), 3) := dk_167 255 83 (dk_at dksX11_alike_9 9 rfl rfl)
theorem dX11_alike_218 : decode cX11_alike 218 = .ok (.aload_n 0, 1) := dk_42 (dk_at dksX11_alike_9 12 rfl rfl)
theorem dX11_alike_219 : decode cX11_alike 219 = .ok (.getfield 99, 3) := dk_180 0 99 (dk_at dksX11_alike_9 13 rfl rfl)
theorem dX11_alike_222 : decode cX11_alike 222 = .ok (.iload_n 3, 1) := dk_29 (dk_at dksX11_alike_9 16 rfl rfl)
theorem dX11_alike_223 : decode cX11_alike 223 = .ok (.aload_n 0, 1) := dk_42 (dk_at dksX11_alike_9 17 rfl rfl)
theorem dX11_alike_224 : decode cX11_alike 224 = .ok (.iload_n 1, 1) := dk_27 (dk_at dksX11_alike_9 18 rfl rfl)
theorem dX11_alike_225 : decode cX11_alike 225 = .ok (.invokevirtual 251, 3) := dk_182 0 251 (dk_at dksX11_alike_9 19 rfl rfl)
theorem dX11_alike_228 : decode cX11_alike 228 = .ok (.imul, 1) := dk_104 (dk_at dksX11_alike_9 22 rfl rfl)
theorem dX11_alike_229 : decode cX11_alike 229 = .ok (.aload_n 0, 1) := dk_42 (dk_at dksX11_alike_9 23 rfl rfl)
theorem dX11_alike_230 : decode cX11_alike 230 = .ok (.iload_n 2, 1) := dk_28 (dk_at dksX11_alike_10 0 rfl rfl)
theorem dX11_alike_231 : decode cX11_alike 231 = .ok (.invokevirtual 251, 3) := dk_182 0 251 (dk_at dksX11_alike_10 1 rfl rfl)
theorem dX11_alike_234 : decode cX11_alike 234 = .ok (.iadd, 1) := dk_96 (dk_at dksX11_alike_10 4 rfl rfl)
theorem dX11_alike_235 : decode cX11_alike 235 = .ok (.iaload, 1) := dk_46 (dk_at dksX11_alike_10 5 rfl rfl)
theorem dX11_alike_236 : decode cX11_alike 236 = .ok (.ireturn, 1) := dk_172 (dk_at dksX11_alike_10 6 rfl rfl)
def dkwX11_way_5 : List UInt8 := [16, 253, 172]
abbrev dktX11_way_5 : List UInt8 := dkwX11_way_5 ++ []
def dkwX11_way_4 : List UInt8 := [54, 5, 21, 4, 21, 5, 162, 0, 7, 3, 167, 0, 16, 21, 5, 21, 4, 162, 0, 7, 4, 167, 0, 5]
abbrev dktX11_way_4 : List UInt8 := dkwX11_way_4 ++ dktX11_way_5
def dkwX11_way_3 : List UInt8 := [156, 0, 9, 17, 3, 232, 167, 0, 4, 28, 54, 4, 29, 156, 0, 9, 17, 3, 232, 167, 0, 4, 29]
abbrev dktX11_way_3 : List UInt8 := dkwX11_way_3 ++ dktX11_way_4
def dkwX11_way_2 : List UInt8 := [4, 79, 42, 182, 1, 182, 62, 28, 16, 254, 159, 0, 9, 29, 16, 254, 160, 0, 6, 16, 254, 172, 28]
abbrev dktX11_way_2 : List UInt8 := dkwX11_way_2 ++ dktX11_way_3
def dkwX11_way_1 : List UInt8 := [42, 4, 27, 120, 181, 1, 58, 42, 180, 0, 47, 27, 3, 79, 42, 182, 1, 182, 61, 42, 180, 0, 47, 27]
abbrev dktX11_way_1 : List UInt8 := dkwX11_way_1 ++ dktX11_way_2
def dkwX11_way_0 : List UInt8 := [42, 3, 181, 0, 3, 42, 42, 27, 182, 1, 3, 4, 182, 0, 235, 153, 0, 5, 3, 172, 42, 182, 1, 179]
abbrev dktX11_way_0 : List UInt8 := dkwX11_way_0 ++ dktX11_way_1
theorem dksX11_way_0 : cX11_way.data.toList.drop 0 = dktX11_way_0 := by decide +kernel
theorem dksX11_way_1 : cX11_way.data.toList.drop 24 = dktX11_way_1 := dk_seg dksX11_way_0 24 rfl rfl
theorem dksX11_way_2 : cX11_way.data.toList.drop 48 = dktX11_way_2 := dk_seg dksX11_way_1 24 rfl rfl
theorem dksX11_way_3 : cX11_way.data.toList.drop 71 = dktX11_way_3 := dk_seg dksX11_way_2 23 rfl rfl
theorem dksX11_way_4 : cX11_way.data.toList.drop 94 = dktX11_way_4 := dk_seg dksX11_way_3 23 rfl rfl
theorem dksX11_way_5 : cX11_way.data.toList.drop 118 = dktX11_way_5 := dk_seg dksX11_way_4 24 rfl rfl
theorem dX11_way_0 : decode cX11_way 0 = .ok (.aload_n 0, 1) := dk_42 (dk_at dksX11_way_0 0 rfl rfl)
theorem dX11_way_1 : decode cX11_way 1 = .ok (.iconst 0, 1) := dk_3 (dk_at dksX11_way_0 1 rfl rfl)
theorem dX11_way_2 : decode cX11_way 2 = .ok (.putfield 3, 3) := dk_181 0 3 (dk_at dksX11_way_0 2 rfl rfl)
theorem dX11_way_5 : decode cX11_way 5 = .ok (.aload_n 0, 1) := dk_42 (dk_at dksX11_way_0 5 rfl rfl)
theorem dX11_way_6 : decode cX11_way 6 = .ok (.aload_n 0, 1) := dk_42 (dk_at dksX11_way_0 6 rfl rfl)
theorem dX11_way_7 : decode cX11_way 7 = .ok (.iload_n 1, 1) := dk_27 (dk_at dksX11_way_0 7 rfl rfl)
theorem dX11_way_8 : decode cX11_way 8 = .ok (.invokevirtual 259, 3) := dk_182 1 3 (dk_at dksX11_way_0 8 rfl rfl)
theorem dX11_way_11 : decode cX11_way 11 = .ok (.iconst 1, 1) := dk_4 (dk_at dksX11_way_0 11 rfl rfl)
theorem dX11_way_12 : decode cX11_way 12 = .ok (.invokevirtual 235, 3) := dk_182 0 235 (dk_at dksX11_way_0 12 rfl rfl)
theorem dX11_way_15 : decode cX11_way 15 = .ok (.ifCond .eq 5, 3) := dk_153 0 5 (dk_at dksX11_way_0 15 rfl rfl)
theorem dX11_way_18 : decode cX11_way 18 = .ok (.iconst 0, 1) := dk_3 (dk_at dksX11_way_0 18 rfl rfl)
theorem dX11_way_19 : decode cX11_way 19 = .ok (.ireturn, 1) := dk_172 (dk_at dksX11_way_0 19 rfl rfl)
theorem dX11_way_20 : decode cX11_way 20 = .ok (.aload_n 0, 1) := dk_42 (dk_at dksX11_way_0 20 rfl rfl)
theorem dX11_way_21 : decode cX11_way 21 = .ok (.invokevirtual 435, 3) := dk_182 1 179 (dk_at dksX11_way_0 21 rfl rfl)
theorem dX11_way_24 : decode cX11_way 24 = .ok (.aload_n 0, 1) := dk_42 (dk_at dksX11_way_1 0 rfl rfl)
theorem dX11_way_25 : decode cX11_way 25 = .ok (.iconst 1, 1) := dk_4 (dk_at dksX11_way_1 1 rfl rfl)
theorem dX11_way_26 : decode cX11_way 26 = .ok (.iload_n 1, 1) := dk_27 (dk_at dksX11_way_1 2 rfl rfl)
theorem dX11_way_27 : decode cX11_way 27 = .ok (.ishl, 1) := dk_120 (dk_at dksX11_way_1 3 rfl rfl)
theorem dX11_way_28 : decode cX11_way 28 = .ok (.putfield 314, 3) := dk_181 1 58 (dk_at dksX11_way_1 4 rfl rfl)
theorem dX11_way_31 : decode cX11_way 31 = .ok (.aload_n 0, 1) := dk_42 (dk_at dksX11_way_1 7 rfl rfl)
theorem dX11_way_32 : decode cX11_way 32 = .ok (.getfield 47, 3) := dk_180 0 47 (dk_at dksX11_way_1 8 rfl rfl)
theorem dX11_way_35 : decode cX11_way 35 = .ok (.iload_n 1, 1) := dk_27 (dk_at dksX11_way_1 11 rfl rfl)
theorem dX11_way_36 : decode cX11_way 36 = .ok (.iconst 0, 1) := dk_3 (dk_at dksX11_way_1 12 rfl rfl)
theorem dX11_way_37 : decode cX11_way 37 = .ok (.iastore, 1) := dk_79 (dk_at dksX11_way_1 13 rfl rfl)
theorem dX11_way_38 : decode cX11_way 38 = .ok (.aload_n 0, 1) := dk_42 (dk_at dksX11_way_1 14 rfl rfl)
theorem dX11_way_39 : decode cX11_way 39 = .ok (.invokevirtual 438, 3) := dk_182 1 182 (dk_at dksX11_way_1 15 rfl rfl)
theorem dX11_way_42 : decode cX11_way 42 = .ok (.istore_n 2, 1) := dk_61 (dk_at dksX11_way_1 18 rfl rfl)
theorem dX11_way_43 : decode cX11_way 43 = .ok (.aload_n 0, 1) := dk_42 (dk_at dksX11_way_1 19 rfl rfl)
theorem dX11_way_44 : decode cX11_way 44 = .ok (.getfield 47, 3) := dk_180 0 47 (dk_at dksX11_way_1 20 rfl rfl)
theorem dX11_way_47 : decode cX11_way 47 = .ok (.iload_n 1, 1) := dk_27 (dk_at dksX11_way_1 23 rfl rfl)
theorem dX11_way_48 : decode cX11_way 48 = .ok (.iconst 1, 1) := dk_4 (dk_at dksX11_way_2 0 rfl rfl)
theorem dX11_way_49 : decode cX11_way 49 = .ok (.iastore, 1) := dk_79 (dk_at dksX11_way_2 1 rfl rfl)
theorem dX11_way_50 : decode cX11_way 50 = .ok (.aload_n 0, 1) := dk_42 (dk_at dksX11_way_2 2 rfl rfl)
theorem dX11_way_51 : decode cX11_way 51 = .ok (.invokevirtual 438, 3) := dk_182 1 182 (dk_at dksX11_way_2 3 rfl rfl)
theorem dX11_way_54 : decode cX11_way 54 = .ok (.istore_n 3, 1) := dk_62 (dk_at dksX11_way_2 6 rfl rfl)
theorem dX11_way_55 : decode cX11_way 55 = .ok (.iload_n 2, 1) := dk_28 (dk_at dksX11_way_2 7 rfl rfl)
theorem dX11_way_56 : decode cX11_way 56 = .ok (.bipush (-2), 2) := dk_16 254 (dk_at dksX11_way_2 8 rfl rfl)
theorem dX11_way_58 : decode cX11_way 58 = .ok (.if_icmp .eq 9, 3) := dk_159 0 9 (dk_at dksX11_way_2 10 rfl rfl)
theorem dX11_way_61 : decode cX11_way 61 = .ok (.iload_n 3, 1) := dk_29 (dk_at dksX11_way_2 13 rfl rfl)
theorem dX11_way_62 : decode cX11_way 62 = .ok (.bipush (-2), 2) := dk_16 254 (dk_at dksX11_way_2 14 rfl rfl)
theorem dX11_way_64 : decode cX11_way 64 = .ok (.if_icmp .ne 6, 3) := dk_160 0 6 (dk_at dksX11_way_2 16 rfl rfl)
theorem dX11_way_67 : decode cX11_way 67 = .ok (.bipush (-2), 2) := dk_16 254 (dk_at dksX11_way_2 19 rfl rfl)
theorem dX11_way_69 : decode cX11_way 69 = .ok (.ireturn, 1) := dk_172 (dk_at dksX11_way_2 21 rfl rfl)
theorem dX11_way_70 : decode cX11_way 70 = .ok (.iload_n 2, 1) := dk_28 (dk_at dksX11_way_2 22 rfl rfl)
theorem dX11_way_71 : decode cX11_way 71 = .ok (.ifCond .ge 9, 3) := dk_156 0 9 (dk_at dksX11_way_3 0 rfl rfl)
theorem dX11_way_74 : decode cX11_way 74 = .ok (.sipush 1000, 3) := dk_17 3 232 (dk_at dksX11_way_3 3 rfl rfl)
theorem dX11_way_77 : decode cX11_way 77 = .ok (.goto 4, 3) := dk_167 0 4 (dk_at dksX11_way_3 6 rfl rfl)
theorem dX11_way_80 : decode cX11_way 80 = .ok (.iload_n 2, 1) := dk_28 (dk_at dksX11_way_3 9 rfl rfl)
theorem dX11_way_81 : decode cX11_way 81 = .ok (.istore 4, 2) := dk_54 4 (dk_at dksX11_way_3 10 rfl rfl)
theorem dX11_way_83 : decode cX11_way 83 = .ok (.iload_n 3, 1) := dk_29 (dk_at dksX11_way_3 12 rfl rfl)
theorem dX11_way_84 : decode cX11_way 84 = .ok (.ifCond .ge 9, 3) := dk_156 0 9 (dk_at dksX11_way_3 13 rfl rfl)
theorem dX11_way_87 : decode cX11_way 87 = .ok (.sipush 1000, 3) := dk_17 3 232 (dk_at dksX11_way_3 16 rfl rfl)
theorem dX11_way_90 : decode cX11_way 90 = .ok (.goto 4, 3) := dk_167 0 4 (dk_at dksX11_way_3 19 rfl rfl)
theorem dX11_way_93 : decode cX11_way 93 = .ok (.iload_n 3, 1) := dk_29 (dk_at dksX11_way_3 22 rfl rfl)
theorem dX11_way_94 : decode cX11_way 94 = .ok (.istore 5, 2) := dk_54 5 (dk_at dksX11_way_4 0 rfl rfl)
theorem dX11_way_96 : decode cX11_way 96 = .ok (.iload 4, 2) := dk_21 4 (dk_at dksX11_way_4 2 rfl rfl)
theorem dX11_way_98 : decode cX11_way 98 = .ok (.iload 5, 2) := dk_21 5 (dk_at dksX11_way_4 4 rfl rfl)
theorem dX11_way_100 : decode cX11_way 100 = .ok (.if_icmp .ge 7, 3) := dk_162 0 7 (dk_at dksX11_way_4 6 rfl rfl)
theorem dX11_way_103 : decode cX11_way 103 = .ok (.iconst 0, 1) := dk_3 (dk_at dksX11_way_4 9 rfl rfl)
theorem dX11_way_104 : decode cX11_way 104 = .ok (.goto 16, 3) := dk_167 0 16 (dk_at dksX11_way_4 10 rfl rfl)
theorem dX11_way_107 : decode cX11_way 107 = .ok (.iload 5, 2) := dk_21 5 (dk_at dksX11_way_4 13 rfl rfl)
theorem dX11_way_109 : decode cX11_way 109 = .ok (.iload 4, 2) := dk_21 4 (dk_at dksX11_way_4 15 rfl rfl)
theorem dX11_way_111 : decode cX11_way 111 = .ok (.if_icmp .ge 7, 3) := dk_162 0 7 (dk_at dksX11_way_4 17 rfl rfl)
theorem dX11_way_114 : decode cX11_way 114 = .ok (.iconst 1, 1) := dk_4 (dk_at dksX11_way_4 20 rfl rfl)
theorem dX11_way_115 : decode cX11_way 115 = .ok (.goto 5, 3) := dk_167 0 5 (dk_at dksX11_way_4 21 rfl rfl)
theorem dX11_way_118 : decode cX11_way 118 = .ok (.bipush (-3), 2) := dk_16 253 (dk_at dksX11_way_5 0 rfl rfl)
theorem dX11_way_120 : decode cX11_way 120 = .ok (.ireturn, 1) := dk_172 (dk_at dksX11_way_5 2 rfl rfl)
def dkwX11_cheaper_3 : List UInt8 := [156, 0, 7, 29, 167, 0, 6, 28, 29, 100, 172]
abbrev dktX11_cheaper_3 : List UInt8 := dkwX11_cheaper_3 ++ []
def dkwX11_cheaper_2 : List UInt8 := [46, 5, 162, 0, 9, 3, 28, 184, 1, 70, 172, 42, 180, 0, 50, 27, 4, 79, 42, 182, 1, 182, 62, 29]
abbrev dktX11_cheaper_2 : List UInt8 := dkwX11_cheaper_2 ++ dktX11_cheaper_3
def dkwX11_cheaper_1 : List UInt8 := [182, 0, 235, 153, 0, 5, 3, 172, 42, 182, 1, 185, 61, 28, 155, 0, 15, 42, 180, 0, 13, 8, 27, 96]
abbrev dktX11_cheaper_1 : List UInt8 := dkwX11_cheaper_1 ++ dktX11_cheaper_2
def dkwX11_cheaper_0 : List UInt8 := [42, 3, 181, 0, 3, 42, 27, 4, 16, 7, 184, 0, 106, 154, 0, 7, 4, 167, 0, 4, 3, 4]
abbrev dktX11_cheaper_0 : List UInt8 := dkwX11_cheaper_0 ++ dktX11_cheaper_1
theorem dksX11_cheaper_0 : cX11_cheaper.data.toList.drop 0 = dktX11_cheaper_0 := by decide +kernel
theorem dksX11_cheaper_1 : cX11_cheaper.data.toList.drop 22 = dktX11_cheaper_1 := dk_seg dksX11_cheaper_0 22 rfl rfl
theorem dksX11_cheaper_2 : cX11_cheaper.data.toList.drop 46 = dktX11_cheaper_2 := dk_seg dksX11_cheaper_1 24 rfl rfl
theorem dksX11_cheaper_3 : cX11_cheaper.data.toList.drop 70 = dktX11_cheaper_3 := dk_seg dksX11_cheaper_2 24 rfl rfl
theorem dX11_cheaper_0 : decode cX11_cheaper 0 = .ok (.aload_n 0, 1) := dk_42 (dk_at dksX11_cheaper_0 0 rfl rfl)
theorem dX11_cheaper_1 : decode cX11_cheaper 1 = .ok (.iconst 0, 1) := dk_3 (dk_at dksX11_cheaper_0 1 rfl rfl)
theorem dX11_cheaper_2 : decode cX11_cheaper 2 = .ok (.putfield 3, 3) := dk_181 0 3 (dk_at dksX11_cheaper_0 2 rfl rfl)
theorem dX11_cheaper_5 : decode cX11_cheaper 5 = .ok (.aload_n 0, 1) := dk_42 (dk_at dksX11_cheaper_0 5 rfl rfl)
theorem dX11_cheaper_6 : decode cX11_cheaper 6 = .ok (.iload_n 1, 1) := dk_27 (dk_at dksX11_cheaper_0 6 rfl rfl)
theorem dX11_cheaper_7 : decode cX11_cheaper 7 = .ok (.iconst 1, 1) := dk_4 (dk_at dksX11_cheaper_0 7 rfl rfl)
theorem dX11_cheaper_8 : decode cX11_cheaper 8 = .ok (.bipush 7, 2) := dk_16 7 (dk_at dksX11_cheaper_0 8 rfl rfl)
theorem dX11_cheaper_10 : decode cX11_cheaper 10 = .ok (.invokestatic 106, 3) := dk_184 0 106 (dk_at dksX11_cheaper_0 10 rfl rfl)
theorem dX11_cheaper_13 : decode cX11_cheaper 13 = .ok (.ifCond .ne 7, 3) := dk_154 0 7 (dk_at dksX11_cheaper_0 13 rfl rfl)
theorem dX11_cheaper_16 : decode cX11_cheaper 16 = .ok (.iconst 1, 1) := dk_4 (dk_at dksX11_cheaper_0 16 rfl rfl)
theorem dX11_cheaper_17 : decode cX11_cheaper 17 = .ok (.goto 4, 3) := dk_167 0 4 (dk_at dksX11_cheaper_0 17 rfl rfl)
theorem dX11_cheaper_20 : decode cX11_cheaper 20 = .ok (.iconst 0, 1) := dk_3 (dk_at dksX11_cheaper_0 20 rfl rfl)
theorem dX11_cheaper_21 : decode cX11_cheaper 21 = .ok (.iconst 1, 1) := dk_4 (dk_at dksX11_cheaper_0 21 rfl rfl)
theorem dX11_cheaper_22 : decode cX11_cheaper 22 = .ok (.invokevirtual 235, 3) := dk_182 0 235 (dk_at dksX11_cheaper_1 0 rfl rfl)
theorem dX11_cheaper_25 : decode cX11_cheaper 25 = .ok (.ifCond .eq 5, 3) := dk_153 0 5 (dk_at dksX11_cheaper_1 3 rfl rfl)
theorem dX11_cheaper_28 : decode cX11_cheaper 28 = .ok (.iconst 0, 1) := dk_3 (dk_at dksX11_cheaper_1 6 rfl rfl)
theorem dX11_cheaper_29 : decode cX11_cheaper 29 = .ok (.ireturn, 1) := dk_172 (dk_at dksX11_cheaper_1 7 rfl rfl)
theorem dX11_cheaper_30 : decode cX11_cheaper 30 = .ok (.aload_n 0, 1) := dk_42 (dk_at dksX11_cheaper_1 8 rfl rfl)
theorem dX11_cheaper_31 : decode cX11_cheaper 31 = .ok (.invokevirtual 441, 3) := dk_182 1 185 (dk_at dksX11_cheaper_1 9 rfl rfl)
theorem dX11_cheaper_34 : decode cX11_cheaper 34 = .ok (.istore_n 2, 1) := dk_61 (dk_at dksX11_cheaper_1 12 rfl rfl)
theorem dX11_cheaper_35 : decode cX11_cheaper 35 = .ok (.iload_n 2, 1) := dk_28 (dk_at dksX11_cheaper_1 13 rfl rfl)
theorem dX11_cheaper_36 : decode cX11_cheaper 36 = .ok (.ifCond .lt 15, 3) := dk_155 0 15 (dk_at dksX11_cheaper_1 14 rfl rfl)
theorem dX11_cheaper_39 : decode cX11_cheaper 39 = .ok (.aload_n 0, 1) := dk_42 (dk_at dksX11_cheaper_1 17 rfl rfl)
theorem dX11_cheaper_40 : decode cX11_cheaper 40 = .ok (.getfield 13, 3) := dk_180 0 13 (dk_at dksX11_cheaper_1 18 rfl rfl)
theorem dX11_cheaper_43 : decode cX11_cheaper 43 = .ok (.iconst 5, 1) := dk_8 (dk_at dksX11_cheaper_1 21 rfl rfl)
theorem dX11_cheaper_44 : decode cX11_cheaper 44 = .ok (.iload_n 1, 1) := dk_27 (dk_at dksX11_cheaper_1 22 rfl rfl)
theorem dX11_cheaper_45 : decode cX11_cheaper 45 = .ok (.iadd, 1) := dk_96 (dk_at dksX11_cheaper_1 23 rfl rfl)
theorem dX11_cheaper_46 : decode cX11_cheaper 46 = .ok (.iaload, 1) := dk_46 (dk_at dksX11_cheaper_2 0 rfl rfl)
theorem dX11_cheaper_47 : decode cX11_cheaper 47 = .ok (.iconst 2, 1) := dk_5 (dk_at dksX11_cheaper_2 1 rfl rfl)
theorem dX11_cheaper_48 : decode cX11_cheaper 48 = .ok (.if_icmp .ge 9, 3) := dk_162 0 9 (dk_at dksX11_cheaper_2 2 rfl rfl)
theorem dX11_cheaper_51 : decode cX11_cheaper 51 = .ok (.iconst 0, 1) := dk_3 (dk_at dksX11_cheaper_2 5 rfl rfl)
theorem dX11_cheaper_52 : decode cX11_cheaper 52 = .ok (.iload_n 2, 1) := dk_28 (dk_at dksX11_cheaper_2 6 rfl rfl)
theorem dX11_cheaper_53 : decode cX11_cheaper 53 = .ok (.invokestatic 326, 3) := dk_184 1 70 (dk_at dksX11_cheaper_2 7 rfl rfl)
theorem dX11_cheaper_56 : decode cX11_cheaper 56 = .ok (.ireturn, 1) := dk_172 (dk_at dksX11_cheaper_2 10 rfl rfl)
theorem dX11_cheaper_57 : decode cX11_cheaper 57 = .ok (.aload_n 0, 1) := dk_42 (dk_at dksX11_cheaper_2 11 rfl rfl)
theorem dX11_cheaper_58 : decode cX11_cheaper 58 = .ok (.getfield 50, 3) := dk_180 0 50 (dk_at dksX11_cheaper_2 12 rfl rfl)
theorem dX11_cheaper_61 : decode cX11_cheaper 61 = .ok (.iload_n 1, 1) := dk_27 (dk_at dksX11_cheaper_2 15 rfl rfl)
theorem dX11_cheaper_62 : decode cX11_cheaper 62 = .ok (.iconst 1, 1) := dk_4 (dk_at dksX11_cheaper_2 16 rfl rfl)
theorem dX11_cheaper_63 : decode cX11_cheaper 63 = .ok (.iastore, 1) := dk_79 (dk_at dksX11_cheaper_2 17 rfl rfl)
theorem dX11_cheaper_64 : decode cX11_cheaper 64 = .ok (.aload_n 0, 1) := dk_42 (dk_at dksX11_cheaper_2 18 rfl rfl)
theorem dX11_cheaper_65 : decode cX11_cheaper 65 = .ok (.invokevirtual 438, 3) := dk_182 1 182 (dk_at dksX11_cheaper_2 19 rfl rfl)
theorem dX11_cheaper_68 : decode cX11_cheaper 68 = .ok (.istore_n 3, 1) := dk_62 (dk_at dksX11_cheaper_2 22 rfl rfl)
theorem dX11_cheaper_69 : decode cX11_cheaper 69 = .ok (.iload_n 3, 1) := dk_29 (dk_at dksX11_cheaper_2 23 rfl rfl)
theorem dX11_cheaper_70 : decode cX11_cheaper 70 = .ok (.ifCond .ge 7, 3) := dk_156 0 7 (dk_at dksX11_cheaper_3 0 rfl rfl)
theorem dX11_cheaper_73 : decode cX11_cheaper 73 = .ok (.iload_n 3, 1) := dk_29 (dk_at dksX11_cheaper_3 3 rfl rfl)
theorem dX11_cheaper_74 : decode cX11_cheaper 74 = .ok (.goto 6, 3) := dk_167 0 6 (dk_at dksX11_cheaper_3 4 rfl rfl)
theorem dX11_cheaper_77 : decode cX11_cheaper 77 = .ok (.iload_n 2, 1) := dk_28 (dk_at dksX11_cheaper_3 7 rfl rfl)
theorem dX11_cheaper_78 : decode cX11_cheaper 78 = .ok (.iload_n 3, 1) := dk_29 (dk_at dksX11_cheaper_3 8 rfl rfl)
theorem dX11_cheaper_79 : decode cX11_cheaper 79 = .ok (.isub, 1) := dk_100 (dk_at dksX11_cheaper_3 9 rfl rfl)
theorem dX11_cheaper_80 : decode cX11_cheaper 80 = .ok (.ireturn, 1) := dk_172 (dk_at dksX11_cheaper_3 10 rfl rfl)
def dkwX11_write_15 : List UInt8 := [132, 6, 1, 167, 255, 38, 21, 5, 172]
abbrev dktX11_write_15 : List UInt8 := dkwX11_write_15 ++ []
def dkwX11_write_14 : List UInt8 := [42, 21, 5, 21, 10, 2, 21, 11, 21, 12, 182, 1, 9, 87, 42, 21, 6, 21, 8, 182, 1, 170]
abbrev dktX11_write_14 : List UInt8 := dkwX11_write_14 ++ dktX11_write_15
def dkwX11_write_13 : List UInt8 := [54, 11, 167, 0, 22, 21, 12, 8, 160, 0, 10, 21, 12, 4, 100, 167, 0, 7, 21, 12, 4, 96, 54, 12]
abbrev dktX11_write_13 : List UInt8 := dkwX11_write_13 ++ dktX11_write_14
def dkwX11_write_12 : List UInt8 := [21, 13, 4, 160, 0, 25, 21, 11, 8, 160, 0, 10, 21, 11, 4, 100, 167, 0, 7, 21, 11, 4, 96]
abbrev dktX11_write_12 : List UInt8 := dkwX11_write_12 ++ dktX11_write_13
def dkwX11_write_11 : List UInt8 := [54, 13, 21, 13, 154, 0, 19, 21, 10, 4, 96, 42, 180, 0, 13, 3, 46, 112, 54, 10, 167, 0, 50]
abbrev dktX11_write_11 : List UInt8 := dkwX11_write_11 ++ dktX11_write_12
def dkwX11_write_10 : List UInt8 := [21, 9, 16, 6, 108, 54, 12, 42, 182, 1, 206, 16, 10, 112, 29, 162, 0, 79, 42, 182, 1, 206, 6, 112]
abbrev dktX11_write_10 : List UInt8 := dkwX11_write_10 ++ dktX11_write_11
def dkwX11_write_9 : List UInt8 := [27, 4, 160, 0, 21, 21, 6, 5, 112, 4, 160, 0, 13, 8, 21, 9, 16, 6, 108, 100, 167, 0, 8]
abbrev dktX11_write_9 : List UInt8 := dkwX11_write_9 ++ dktX11_write_10
def dkwX11_write_8 : List UInt8 := [54, 9, 42, 21, 6, 21, 8, 16, 36, 108, 182, 1, 23, 5, 108, 54, 10, 21, 9, 16, 6, 112, 54, 11]
abbrev dktX11_write_8 : List UInt8 := dkwX11_write_8 ++ dktX11_write_9
def dkwX11_write_7 : List UInt8 := [21, 5, 172, 42, 21, 6, 42, 182, 1, 206, 21, 7, 112, 182, 1, 55, 54, 8, 21, 8, 16, 36, 112]
abbrev dktX11_write_7 : List UInt8 := dkwX11_write_7 ++ dktX11_write_8
def dkwX11_write_6 : List UInt8 := [42, 21, 6, 21, 6, 5, 112, 182, 1, 49, 42, 21, 6, 182, 1, 52, 54, 7, 21, 7, 154, 0, 6]
abbrev dktX11_write_6 : List UInt8 := dkwX11_write_6 ++ dktX11_write_7
def dkwX11_write_5 : List UInt8 := [92, 46, 4, 96, 79, 42, 21, 4, 181, 1, 203, 42, 182, 1, 46, 3, 54, 6, 21, 6, 28, 162, 0, 218]
abbrev dktX11_write_5 : List UInt8 := dkwX11_write_5 ++ dktX11_write_6
def dkwX11_write_4 : List UInt8 := [96, 27, 79, 42, 180, 0, 13, 16, 119, 16, 98, 21, 5, 104, 96, 4, 96, 3, 79, 42, 180, 0, 13, 4]
abbrev dktX11_write_4 : List UInt8 := dkwX11_write_4 ++ dktX11_write_5
def dkwX11_write_3 : List UInt8 := [153, 0, 5, 3, 172, 42, 180, 0, 13, 4, 46, 54, 5, 42, 180, 0, 13, 16, 119, 16, 98, 21, 5, 104]
abbrev dktX11_write_3 : List UInt8 := dkwX11_write_3 ++ dktX11_write_4
def dkwX11_write_2 : List UInt8 := [154, 0, 26, 42, 42, 180, 0, 13, 4, 46, 6, 160, 0, 7, 4, 167, 0, 4, 3, 5, 182, 0, 235]
abbrev dktX11_write_2 : List UInt8 := dkwX11_write_2 ++ dktX11_write_3
def dkwX11_write_1 : List UInt8 := [153, 0, 13, 29, 3, 16, 9, 184, 0, 106, 154, 0, 7, 4, 167, 0, 4, 3, 4, 182, 0, 235]
abbrev dktX11_write_1 : List UInt8 := dkwX11_write_1 ++ dktX11_write_2
def dkwX11_write_0 : List UInt8 := [42, 3, 181, 0, 3, 42, 27, 3, 4, 184, 0, 106, 153, 0, 23, 28, 4, 16, 24, 184, 0, 106]
abbrev dktX11_write_0 : List UInt8 := dkwX11_write_0 ++ dktX11_write_1
theorem dksX11_write_0 : cX11_write.data.toList.drop 0 = dktX11_write_0 := by decide +kernel
theorem dksX11_write_1 : cX11_write.data.toList.drop 22 = dktX11_write_1 := dk_seg dksX11_write_0 22 rfl rfl
theorem dksX11_write_2 : cX11_write.data.toList.drop 44 = dktX11_write_2 := dk_seg dksX11_write_1 22 rfl rfl
theorem dksX11_write_3 : cX11_write.data.toList.drop 67 = dktX11_write_3 := dk_seg dksX11_write_2 23 rfl rfl
theorem dksX11_write_4 : cX11_write.data.toList.drop 91 = dktX11_write_4 := dk_seg dksX11_write_3 24 rfl rfl
theorem dksX11_write_5 : cX11_write.data.toList.drop 115 = dktX11_write_5 := dk_seg dksX11_write_4 24 rfl rfl
theorem dksX11_write_6 : cX11_write.data.toList.drop 139 = dktX11_write_6 := dk_seg dksX11_write_5 24 rfl rfl
theorem dksX11_write_7 : cX11_write.data.toList.drop 162 = dktX11_write_7 := dk_seg dksX11_write_6 23 rfl rfl
theorem dksX11_write_8 : cX11_write.data.toList.drop 185 = dktX11_write_8 := dk_seg dksX11_write_7 23 rfl rfl
theorem dksX11_write_9 : cX11_write.data.toList.drop 209 = dktX11_write_9 := dk_seg dksX11_write_8 24 rfl rfl
theorem dksX11_write_10 : cX11_write.data.toList.drop 232 = dktX11_write_10 := dk_seg dksX11_write_9 23 rfl rfl
theorem dksX11_write_11 : cX11_write.data.toList.drop 256 = dktX11_write_11 := dk_seg dksX11_write_10 24 rfl rfl
theorem dksX11_write_12 : cX11_write.data.toList.drop 279 = dktX11_write_12 := dk_seg dksX11_write_11 23 rfl rfl
theorem dksX11_write_13 : cX11_write.data.toList.drop 302 = dktX11_write_13 := dk_seg dksX11_write_12 23 rfl rfl
theorem dksX11_write_14 : cX11_write.data.toList.drop 326 = dktX11_write_14 := dk_seg dksX11_write_13 24 rfl rfl
theorem dksX11_write_15 : cX11_write.data.toList.drop 348 = dktX11_write_15 := dk_seg dksX11_write_14 22 rfl rfl
theorem dX11_write_0 : decode cX11_write 0 = .ok (.aload_n 0, 1) := dk_42 (dk_at dksX11_write_0 0 rfl rfl)
theorem dX11_write_1 : decode cX11_write 1 = .ok (.iconst 0, 1) := dk_3 (dk_at dksX11_write_0 1 rfl rfl)
theorem dX11_write_2 : decode cX11_write 2 = .ok (.putfield 3, 3) := dk_181 0 3 (dk_at dksX11_write_0 2 rfl rfl)
theorem dX11_write_5 : decode cX11_write 5 = .ok (.aload_n 0, 1) := dk_42 (dk_at dksX11_write_0 5 rfl rfl)
theorem dX11_write_6 : decode cX11_write 6 = .ok (.iload_n 1, 1) := dk_27 (dk_at dksX11_write_0 6 rfl rfl)
theorem dX11_write_7 : decode cX11_write 7 = .ok (.iconst 0, 1) := dk_3 (dk_at dksX11_write_0 7 rfl rfl)
theorem dX11_write_8 : decode cX11_write 8 = .ok (.iconst 1, 1) := dk_4 (dk_at dksX11_write_0 8 rfl rfl)
theorem dX11_write_9 : decode cX11_write 9 = .ok (.invokestatic 106, 3) := dk_184 0 106 (dk_at dksX11_write_0 9 rfl rfl)
theorem dX11_write_12 : decode cX11_write 12 = .ok (.ifCond .eq 23, 3) := dk_153 0 23 (dk_at dksX11_write_0 12 rfl rfl)
theorem dX11_write_15 : decode cX11_write 15 = .ok (.iload_n 2, 1) := dk_28 (dk_at dksX11_write_0 15 rfl rfl)
theorem dX11_write_16 : decode cX11_write 16 = .ok (.iconst 1, 1) := dk_4 (dk_at dksX11_write_0 16 rfl rfl)
theorem dX11_write_17 : decode cX11_write 17 = .ok (.bipush 24, 2) := dk_16 24 (dk_at dksX11_write_0 17 rfl rfl)
theorem dX11_write_19 : decode cX11_write 19 = .ok (.invokestatic 106, 3) := dk_184 0 106 (dk_at dksX11_write_0 19 rfl rfl)
theorem dX11_write_22 : decode cX11_write 22 = .ok (.ifCond .eq 13, 3) := dk_153 0 13 (dk_at dksX11_write_1 0 rfl rfl)
theorem dX11_write_25 : decode cX11_write 25 = .ok (.iload_n 3, 1) := dk_29 (dk_at dksX11_write_1 3 rfl rfl)
theorem dX11_write_26 : decode cX11_write 26 = .ok (.iconst 0, 1) := dk_3 (dk_at dksX11_write_1 4 rfl rfl)
theorem dX11_write_27 : decode cX11_write 27 = .ok (.bipush 9, 2) := dk_16 9 (dk_at dksX11_write_1 5 rfl rfl)
theorem dX11_write_29 : decode cX11_write 29 = .ok (.invokestatic 106, 3) := dk_184 0 106 (dk_at dksX11_write_1 7 rfl rfl)
theorem dX11_write_32 : decode cX11_write 32 = .ok (.ifCond .ne 7, 3) := dk_154 0 7 (dk_at dksX11_write_1 10 rfl rfl)
theorem dX11_write_35 : decode cX11_write 35 = .ok (.iconst 1, 1) := dk_4 (dk_at dksX11_write_1 13 rfl rfl)
theorem dX11_write_36 : decode cX11_write 36 = .ok (.goto 4, 3) := dk_167 0 4 (dk_at dksX11_write_1 14 rfl rfl)
theorem dX11_write_39 : decode cX11_write 39 = .ok (.iconst 0, 1) := dk_3 (dk_at dksX11_write_1 17 rfl rfl)
theorem dX11_write_40 : decode cX11_write 40 = .ok (.iconst 1, 1) := dk_4 (dk_at dksX11_write_1 18 rfl rfl)
theorem dX11_write_41 : decode cX11_write 41 = .ok (.invokevirtual 235, 3) := dk_182 0 235 (dk_at dksX11_write_1 19 rfl rfl)
theorem dX11_write_44 : decode cX11_write 44 = .ok (.ifCond .ne 26, 3) := dk_154 0 26 (dk_at dksX11_write_2 0 rfl rfl)
theorem dX11_write_47 : decode cX11_write 47 = .ok (.aload_n 0, 1) := dk_42 (dk_at dksX11_write_2 3 rfl rfl)
theorem dX11_write_48 : decode cX11_write 48 = .ok (.aload_n 0, 1) := dk_42 (dk_at dksX11_write_2 4 rfl rfl)
theorem dX11_write_49 : decode cX11_write 49 = .ok (.getfield 13, 3) := dk_180 0 13 (dk_at dksX11_write_2 5 rfl rfl)
theorem dX11_write_52 : decode cX11_write 52 = .ok (.iconst 1, 1) := dk_4 (dk_at dksX11_write_2 8 rfl rfl)
theorem dX11_write_53 : decode cX11_write 53 = .ok (.iaload, 1) := dk_46 (dk_at dksX11_write_2 9 rfl rfl)
theorem dX11_write_54 : decode cX11_write 54 = .ok (.iconst 3, 1) := dk_6 (dk_at dksX11_write_2 10 rfl rfl)
theorem dX11_write_55 : decode cX11_write 55 = .ok (.if_icmp .ne 7, 3) := dk_160 0 7 (dk_at dksX11_write_2 11 rfl rfl)
theorem dX11_write_58 : decode cX11_write 58 = .ok (.iconst 1, 1) := dk_4 (dk_at dksX11_write_2 14 rfl rfl)
theorem dX11_write_59 : decode cX11_write 59 = .ok (.goto 4, 3) := dk_167 0 4 (dk_at dksX11_write_2 15 rfl rfl)
theorem dX11_write_62 : decode cX11_write 62 = .ok (.iconst 0, 1) := dk_3 (dk_at dksX11_write_2 18 rfl rfl)
theorem dX11_write_63 : decode cX11_write 63 = .ok (.iconst 2, 1) := dk_5 (dk_at dksX11_write_2 19 rfl rfl)
theorem dX11_write_64 : decode cX11_write 64 = .ok (.invokevirtual 235, 3) := dk_182 0 235 (dk_at dksX11_write_2 20 rfl rfl)
theorem dX11_write_67 : decode cX11_write 67 = .ok (.ifCond .eq 5, 3) := dk_153 0 5 (dk_at dksX11_write_3 0 rfl rfl)
theorem dX11_write_70 : decode cX11_write 70 = .ok (.iconst 0, 1) := dk_3 (dk_at dksX11_write_3 3 rfl rfl)
theorem dX11_write_71 : decode cX11_write 71 = .ok (.ireturn, 1) := dk_172 (dk_at dksX11_write_3 4 rfl rfl)
theorem dX11_write_72 : decode cX11_write 72 = .ok (.aload_n 0, 1) := dk_42 (dk_at dksX11_write_3 5 rfl rfl)
theorem dX11_write_73 : decode cX11_write 73 = .ok (.getfield 13, 3) := dk_180 0 13 (dk_at dksX11_write_3 6 rfl rfl)
theorem dX11_write_76 : decode cX11_write 76 = .ok (.iconst 1, 1) := dk_4 (dk_at dksX11_write_3 9 rfl rfl)
theorem dX11_write_77 : decode cX11_write 77 = .ok (.iaload, 1) := dk_46 (dk_at dksX11_write_3 10 rfl rfl)
theorem dX11_write_78 : decode cX11_write 78 = .ok (.istore 5, 2) := dk_54 5 (dk_at dksX11_write_3 11 rfl rfl)
theorem dX11_write_80 : decode cX11_write 80 = .ok (.aload_n 0, 1) := dk_42 (dk_at dksX11_write_3 13 rfl rfl)
theorem dX11_write_81 : decode cX11_write 81 = .ok (.getfield 13, 3) := dk_180 0 13 (dk_at dksX11_write_3 14 rfl rfl)
theorem dX11_write_84 : decode cX11_write 84 = .ok (.bipush 119, 2) := dk_16 119 (dk_at dksX11_write_3 17 rfl rfl)
theorem dX11_write_86 : decode cX11_write 86 = .ok (.bipush 98, 2) := dk_16 98 (dk_at dksX11_write_3 19 rfl rfl)
theorem dX11_write_88 : decode cX11_write 88 = .ok (.iload 5, 2) := dk_21 5 (dk_at dksX11_write_3 21 rfl rfl)
theorem dX11_write_90 : decode cX11_write 90 = .ok (.imul, 1) := dk_104 (dk_at dksX11_write_3 23 rfl rfl)
theorem dX11_write_91 : decode cX11_write 91 = .ok (.iadd, 1) := dk_96 (dk_at dksX11_write_4 0 rfl rfl)
theorem dX11_write_92 : decode cX11_write 92 = .ok (.iload_n 1, 1) := dk_27 (dk_at dksX11_write_4 1 rfl rfl)
theorem dX11_write_93 : decode cX11_write 93 = .ok (.iastore, 1) := dk_79 (dk_at dksX11_write_4 2 rfl rfl)
theorem dX11_write_94 : decode cX11_write 94 = .ok (.aload_n 0, 1) := dk_42 (dk_at dksX11_write_4 3 rfl rfl)
theorem dX11_write_95 : decode cX11_write 95 = .ok (.getfield 13, 3) := dk_180 0 13 (dk_at dksX11_write_4 4 rfl rfl)
theorem dX11_write_98 : decode cX11_write 98 = .ok (.bipush 119, 2) := dk_16 119 (dk_at dksX11_write_4 7 rfl rfl)
theorem dX11_write_100 : decode cX11_write 100 = .ok (.bipush 98, 2) := dk_16 98 (dk_at dksX11_write_4 9 rfl rfl)
theorem dX11_write_102 : decode cX11_write 102 = .ok (.iload 5, 2) := dk_21 5 (dk_at dksX11_write_4 11 rfl rfl)
theorem dX11_write_104 : decode cX11_write 104 = .ok (.imul, 1) := dk_104 (dk_at dksX11_write_4 13 rfl rfl)
theorem dX11_write_105 : decode cX11_write 105 = .ok (.iadd, 1) := dk_96 (dk_at dksX11_write_4 14 rfl rfl)
theorem dX11_write_106 : decode cX11_write 106 = .ok (.iconst 1, 1) := dk_4 (dk_at dksX11_write_4 15 rfl rfl)
theorem dX11_write_107 : decode cX11_write 107 = .ok (.iadd, 1) := dk_96 (dk_at dksX11_write_4 16 rfl rfl)
theorem dX11_write_108 : decode cX11_write 108 = .ok (.iconst 0, 1) := dk_3 (dk_at dksX11_write_4 17 rfl rfl)
theorem dX11_write_109 : decode cX11_write 109 = .ok (.iastore, 1) := dk_79 (dk_at dksX11_write_4 18 rfl rfl)
theorem dX11_write_110 : decode cX11_write 110 = .ok (.aload_n 0, 1) := dk_42 (dk_at dksX11_write_4 19 rfl rfl)
theorem dX11_write_111 : decode cX11_write 111 = .ok (.getfield 13, 3) := dk_180 0 13 (dk_at dksX11_write_4 20 rfl rfl)
theorem dX11_write_114 : decode cX11_write 114 = .ok (.iconst 1, 1) := dk_4 (dk_at dksX11_write_4 23 rfl rfl)
theorem dX11_write_115 : decode cX11_write 115 = .ok (.dup2, 1) := dk_92 (dk_at dksX11_write_5 0 rfl rfl)
theorem dX11_write_116 : decode cX11_write 116 = .ok (.iaload, 1) := dk_46 (dk_at dksX11_write_5 1 rfl rfl)
theorem dX11_write_117 : decode cX11_write 117 = .ok (.iconst 1, 1) := dk_4 (dk_at dksX11_write_5 2 rfl rfl)
theorem dX11_write_118 : decode cX11_write 118 = .ok (.iadd, 1) := dk_96 (dk_at dksX11_write_5 3 rfl rfl)
theorem dX11_write_119 : decode cX11_write 119 = .ok (.iastore, 1) := dk_79 (dk_at dksX11_write_5 4 rfl rfl)
theorem dX11_write_120 : decode cX11_write 120 = .ok (.aload_n 0, 1) := dk_42 (dk_at dksX11_write_5 5 rfl rfl)
theorem dX11_write_121 : decode cX11_write 121 = .ok (.iload 4, 2) := dk_21 4 (dk_at dksX11_write_5 6 rfl rfl)
theorem dX11_write_123 : decode cX11_write 123 = .ok (.putfield 459, 3) := dk_181 1 203 (dk_at dksX11_write_5 8 rfl rfl)
theorem dX11_write_126 : decode cX11_write 126 = .ok (.aload_n 0, 1) := dk_42 (dk_at dksX11_write_5 11 rfl rfl)
theorem dX11_write_127 : decode cX11_write 127 = .ok (.invokevirtual 302, 3) := dk_182 1 46 (dk_at dksX11_write_5 12 rfl rfl)
theorem dX11_write_130 : decode cX11_write 130 = .ok (.iconst 0, 1) := dk_3 (dk_at dksX11_write_5 15 rfl rfl)
theorem dX11_write_131 : decode cX11_write 131 = .ok (.istore 6, 2) := dk_54 6 (dk_at dksX11_write_5 16 rfl rfl)
theorem dX11_write_133 : decode cX11_write 133 = .ok (.iload 6, 2) := dk_21 6 (dk_at dksX11_write_5 18 rfl rfl)
theorem dX11_write_135 : decode cX11_write 135 = .ok (.iload_n 2, 1) := dk_28 (dk_at dksX11_write_5 20 rfl rfl)
theorem dX11_write_136 : decode cX11_write 136 = .ok (.if_icmp .ge 218, 3) := dk_162 0 218 (dk_at dksX11_write_5 21 rfl rfl)
theorem dX11_write_139 : decode cX11_write 139 = .ok (.aload_n 0, 1) := dk_42 (dk_at dksX11_write_6 0 rfl rfl)
theorem dX11_write_140 : decode cX11_write 140 = .ok (.iload 6, 2) := dk_21 6 (dk_at dksX11_write_6 1 rfl rfl)
theorem dX11_write_142 : decode cX11_write 142 = .ok (.iload 6, 2) := dk_21 6 (dk_at dksX11_write_6 3 rfl rfl)
theorem dX11_write_144 : decode cX11_write 144 = .ok (.iconst 2, 1) := dk_5 (dk_at dksX11_write_6 5 rfl rfl)
theorem dX11_write_145 : decode cX11_write 145 = .ok (.irem, 1) := dk_112 (dk_at dksX11_write_6 6 rfl rfl)
theorem dX11_write_146 : decode cX11_write 146 = .ok (.invokevirtual 305, 3) := dk_182 1 49 (dk_at dksX11_write_6 7 rfl rfl)
theorem dX11_write_149 : decode cX11_write 149 = .ok (.aload_n 0, 1) := dk_42 (dk_at dksX11_write_6 10 rfl rfl)
theorem dX11_write_150 : decode cX11_write 150 = .ok (.iload 6, 2) := dk_21 6 (dk_at dksX11_write_6 11 rfl rfl)
theorem dX11_write_152 : decode cX11_write 152 = .ok (.invokevirtual 308, 3) := dk_182 1 52 (dk_at dksX11_write_6 13 rfl rfl)
theorem dX11_write_155 : decode cX11_write 155 = .ok (.istore 7, 2) := dk_54 7 (dk_at dksX11_write_6 16 rfl rfl)
theorem dX11_write_157 : decode cX11_write 157 = .ok (.iload 7, 2) := dk_21 7 (dk_at dksX11_write_6 18 rfl rfl)
theorem dX11_write_159 : decode cX11_write 159 = .ok (.ifCond .ne 6, 3) := dk_154 0 6 (dk_at dksX11_write_6 20 rfl rfl)
theorem dX11_write_162 : decode cX11_write 162 = .ok (.iload 5, 2) := dk_21 5 (dk_at dksX11_write_7 0 rfl rfl)
theorem dX11_write_164 : decode cX11_write 164 = .ok (.ireturn, 1) := dk_172 (dk_at dksX11_write_7 2 rfl rfl)
theorem dX11_write_165 : decode cX11_write 165 = .ok (.aload_n 0, 1) := dk_42 (dk_at dksX11_write_7 3 rfl rfl)
theorem dX11_write_166 : decode cX11_write 166 = .ok (.iload 6, 2) := dk_21 6 (dk_at dksX11_write_7 4 rfl rfl)
theorem dX11_write_168 : decode cX11_write 168 = .ok (.aload_n 0, 1) := dk_42 (dk_at dksX11_write_7 6 rfl rfl)
theorem dX11_write_169 : decode cX11_write 169 = .ok (.invokevirtual 462, 3) := dk_182 1 206 (dk_at dksX11_write_7 7 rfl rfl)
theorem dX11_write_172 : decode cX11_write 172 = .ok (.iload 7, 2) := dk_21 7 (dk_at dksX11_write_7 10 rfl rfl)
theorem dX11_write_174 : decode cX11_write 174 = .ok (.irem, 1) := dk_112 (dk_at dksX11_write_7 12 rfl rfl)
theorem dX11_write_175 : decode cX11_write 175 = .ok (.invokevirtual 311, 3) := dk_182 1 55 (dk_at dksX11_write_7 13 rfl rfl)
theorem dX11_write_178 : decode cX11_write 178 = .ok (.istore 8, 2) := dk_54 8 (dk_at dksX11_write_7 16 rfl rfl)
theorem dX11_write_180 : decode cX11_write 180 = .ok (.iload 8, 2) := dk_21 8 (dk_at dksX11_write_7 18 rfl rfl)
theorem dX11_write_182 : decode cX11_write 182 = .ok (.bipush 36, 2) := dk_16 36 (dk_at dksX11_write_7 20 rfl rfl)
theorem dX11_write_184 : decode cX11_write 184 = .ok (.irem, 1) := dk_112 (dk_at dksX11_write_7 22 rfl rfl)
theorem dX11_write_185 : decode cX11_write 185 = .ok (.istore 9, 2) := dk_54 9 (dk_at dksX11_write_8 0 rfl rfl)
theorem dX11_write_187 : decode cX11_write 187 = .ok (.aload_n 0, 1) := dk_42 (dk_at dksX11_write_8 2 rfl rfl)
theorem dX11_write_188 : decode cX11_write 188 = .ok (.iload 6, 2) := dk_21 6 (dk_at dksX11_write_8 3 rfl rfl)
theorem dX11_write_190 : decode cX11_write 190 = .ok (.iload 8, 2) := dk_21 8 (dk_at dksX11_write_8 5 rfl rfl)
theorem dX11_write_192 : decode cX11_write 192 = .ok (.bipush 36, 2) := dk_16 36 (dk_at dksX11_write_8 7 rfl rfl)
theorem dX11_write_194 : decode cX11_write 194 = .ok (.idiv, 1) := dk_108 (dk_at dksX11_write_8 9 rfl rfl)
theorem dX11_write_195 : decode cX11_write 195 = .ok (.invokevirtual 279, 3) := dk_182 1 23 (dk_at dksX11_write_8 10 rfl rfl)
theorem dX11_write_198 : decode cX11_write 198 = .ok (.iconst 2, 1) := dk_5 (dk_at dksX11_write_8 13 rfl rfl)
theorem dX11_write_199 : decode cX11_write 199 = .ok (.idiv, 1) := dk_108 (dk_at dksX11_write_8 14 rfl rfl)
theorem dX11_write_200 : decode cX11_write 200 = .ok (.istore 10, 2) := dk_54 10 (dk_at dksX11_write_8 15 rfl rfl)
theorem dX11_write_202 : decode cX11_write 202 = .ok (.iload 9, 2) := dk_21 9 (dk_at dksX11_write_8 17 rfl rfl)
theorem dX11_write_204 : decode cX11_write 204 = .ok (.bipush 6, 2) := dk_16 6 (dk_at dksX11_write_8 19 rfl rfl)
theorem dX11_write_206 : decode cX11_write 206 = .ok (.irem, 1) := dk_112 (dk_at dksX11_write_8 21 rfl rfl)
theorem dX11_write_207 : decode cX11_write 207 = .ok (.istore 11, 2) := dk_54 11 (dk_at dksX11_write_8 22 rfl rfl)
theorem dX11_write_209 : decode cX11_write 209 = .ok (.iload_n 1, 1) := dk_27 (dk_at dksX11_write_9 0 rfl rfl)
theorem dX11_write_210 : decode cX11_write 210 = .ok (.iconst 1, 1) := dk_4 (dk_at dksX11_write_9 1 rfl rfl)
theorem dX11_write_211 : decode cX11_write 211 = .ok (.if_icmp .ne 21, 3) := dk_160 0 21 (dk_at dksX11_write_9 2 rfl rfl)
theorem dX11_write_214 : decode cX11_write 214 = .ok (.iload 6, 2) := dk_21 6 (dk_at dksX11_write_9 5 rfl rfl)
theorem dX11_write_216 : decode cX11_write 216 = .ok (.iconst 2, 1) := dk_5 (dk_at dksX11_write_9 7 rfl rfl)
theorem dX11_write_217 : decode cX11_write 217 = .ok (.irem, 1) := dk_112 (dk_at dksX11_write_9 8 rfl rfl)
theorem dX11_write_218 : decode cX11_write 218 = .ok (.iconst 1, 1) := dk_4 (dk_at dksX11_write_9 9 rfl rfl)
theorem dX11_write_219 : decode cX11_write 219 = .ok (.if_icmp .ne 13, 3) := dk_160 0 13 (dk_at dksX11_write_9 10 rfl rfl)
theorem dX11_write_222 : decode cX11_write 222 = .ok (.iconst 5, 1) := dk_8 (dk_at dksX11_write_9 13 rfl rfl)
theorem dX11_write_223 : decode cX11_write 223 = .ok (.iload 9, 2) := dk_21 9 (dk_at dksX11_write_9 14 rfl rfl)
theorem dX11_write_225 : decode cX11_write 225 = .ok (.bipush 6, 2) := dk_16 6 (dk_at dksX11_write_9 16 rfl rfl)
theorem dX11_write_227 : decode cX11_write 227 = .ok (.idiv, 1) := dk_108 (dk_at dksX11_write_9 18 rfl rfl)
theorem dX11_write_228 : decode cX11_write 228 = .ok (.isub, 1) := dk_100 (dk_at dksX11_write_9 19 rfl rfl)
theorem dX11_write_229 : decode cX11_write 229 = .ok (.goto 8, 3) := dk_167 0 8 (dk_at dksX11_write_9 20 rfl rfl)
theorem dX11_write_232 : decode cX11_write 232 = .ok (.iload 9, 2) := dk_21 9 (dk_at dksX11_write_10 0 rfl rfl)
theorem dX11_write_234 : decode cX11_write 234 = .ok (.bipush 6, 2) := dk_16 6 (dk_at dksX11_write_10 2 rfl rfl)
theorem dX11_write_236 : decode cX11_write 236 = .ok (.idiv, 1) := dk_108 (dk_at dksX11_write_10 4 rfl rfl)
theorem dX11_write_237 : decode cX11_write 237 = .ok (.istore 12, 2) := dk_54 12 (dk_at dksX11_write_10 5 rfl rfl)
theorem dX11_write_239 : decode cX11_write 239 = .ok (.aload_n 0, 1) := dk_42 (dk_at dksX11_write_10 7 rfl rfl)
theorem dX11_write_240 : decode cX11_write 240 = .ok (.invokevirtual 462, 3) := dk_182 1 206 (dk_at dksX11_write_10 8 rfl rfl)
theorem dX11_write_243 : decode cX11_write 243 = .ok (.bipush 10, 2) := dk_16 10 (dk_at dksX11_write_10 11 rfl rfl)
theorem dX11_write_245 : decode cX11_write 245 = .ok (.irem, 1) := dk_112 (dk_at dksX11_write_10 13 rfl rfl)
theorem dX11_write_246 : decode cX11_write 246 = .ok (.iload_n 3, 1) := dk_29 (dk_at dksX11_write_10 14 rfl rfl)
theorem dX11_write_247 : decode cX11_write 247 = .ok (.if_icmp .ge 79, 3) := dk_162 0 79 (dk_at dksX11_write_10 15 rfl rfl)
theorem dX11_write_250 : decode cX11_write 250 = .ok (.aload_n 0, 1) := dk_42 (dk_at dksX11_write_10 18 rfl rfl)
theorem dX11_write_251 : decode cX11_write 251 = .ok (.invokevirtual 462, 3) := dk_182 1 206 (dk_at dksX11_write_10 19 rfl rfl)
theorem dX11_write_254 : decode cX11_write 254 = .ok (.iconst 3, 1) := dk_6 (dk_at dksX11_write_10 22 rfl rfl)
theorem dX11_write_255 : decode cX11_write 255 = .ok (.irem, 1) := dk_112 (dk_at dksX11_write_10 23 rfl rfl)
theorem dX11_write_256 : decode cX11_write 256 = .ok (.istore 13, 2) := dk_54 13 (dk_at dksX11_write_11 0 rfl rfl)
theorem dX11_write_258 : decode cX11_write 258 = .ok (.iload 13, 2) := dk_21 13 (dk_at dksX11_write_11 2 rfl rfl)
theorem dX11_write_260 : decode cX11_write 260 = .ok (.ifCond .ne 19, 3) := dk_154 0 19 (dk_at dksX11_write_11 4 rfl rfl)
theorem dX11_write_263 : decode cX11_write 263 = .ok (.iload 10, 2) := dk_21 10 (dk_at dksX11_write_11 7 rfl rfl)
theorem dX11_write_265 : decode cX11_write 265 = .ok (.iconst 1, 1) := dk_4 (dk_at dksX11_write_11 9 rfl rfl)
theorem dX11_write_266 : decode cX11_write 266 = .ok (.iadd, 1) := dk_96 (dk_at dksX11_write_11 10 rfl rfl)
theorem dX11_write_267 : decode cX11_write 267 = .ok (.aload_n 0, 1) := dk_42 (dk_at dksX11_write_11 11 rfl rfl)
theorem dX11_write_268 : decode cX11_write 268 = .ok (.getfield 13, 3) := dk_180 0 13 (dk_at dksX11_write_11 12 rfl rfl)
theorem dX11_write_271 : decode cX11_write 271 = .ok (.iconst 0, 1) := dk_3 (dk_at dksX11_write_11 15 rfl rfl)
theorem dX11_write_272 : decode cX11_write 272 = .ok (.iaload, 1) := dk_46 (dk_at dksX11_write_11 16 rfl rfl)
theorem dX11_write_273 : decode cX11_write 273 = .ok (.irem, 1) := dk_112 (dk_at dksX11_write_11 17 rfl rfl)
theorem dX11_write_274 : decode cX11_write 274 = .ok (.istore 10, 2) := dk_54 10 (dk_at dksX11_write_11 18 rfl rfl)
theorem dX11_write_276 : decode cX11_write 276 = .ok (.goto 50, 3) := dk_167 0 50 (dk_at dksX11_write_11 20 rfl rfl)
theorem dX11_write_279 : decode cX11_write 279 = .ok (.iload 13, 2) := dk_21 13 (dk_at dksX11_write_12 0 rfl rfl)
theorem dX11_write_281 : decode cX11_write 281 = .ok (.iconst 1, 1) := dk_4 (dk_at dksX11_write_12 2 rfl rfl)
theorem dX11_write_282 : decode cX11_write 282 = .ok (.if_icmp .ne 25, 3) := dk_160 0 25 (dk_at dksX11_write_12 3 rfl rfl)
theorem dX11_write_285 : decode cX11_write 285 = .ok (.iload 11, 2) := dk_21 11 (dk_at dksX11_write_12 6 rfl rfl)
theorem dX11_write_287 : decode cX11_write 287 = .ok (.iconst 5, 1) := dk_8 (dk_at dksX11_write_12 8 rfl rfl)
theorem dX11_write_288 : decode cX11_write 288 = .ok (.if_icmp .ne 10, 3) := dk_160 0 10 (dk_at dksX11_write_12 9 rfl rfl)
theorem dX11_write_291 : decode cX11_write 291 = .ok (.iload 11, 2) := dk_21 11 (dk_at dksX11_write_12 12 rfl rfl)
theorem dX11_write_293 : decode cX11_write 293 = .ok (.iconst 1, 1) := dk_4 (dk_at dksX11_write_12 14 rfl rfl)
theorem dX11_write_294 : decode cX11_write 294 = .ok (.isub, 1) := dk_100 (dk_at dksX11_write_12 15 rfl rfl)
theorem dX11_write_295 : decode cX11_write 295 = .ok (.goto 7, 3) := dk_167 0 7 (dk_at dksX11_write_12 16 rfl rfl)
theorem dX11_write_298 : decode cX11_write 298 = .ok (.iload 11, 2) := dk_21 11 (dk_at dksX11_write_12 19 rfl rfl)
theorem dX11_write_300 : decode cX11_write 300 = .ok (.iconst 1, 1) := dk_4 (dk_at dksX11_write_12 21 rfl rfl)
theorem dX11_write_301 : decode cX11_write 301 = .ok (.iadd, 1) := dk_96 (dk_at dksX11_write_12 22 rfl rfl)
theorem dX11_write_302 : decode cX11_write 302 = .ok (.istore 11, 2) := dk_54 11 (dk_at dksX11_write_13 0 rfl rfl)
theorem dX11_write_304 : decode cX11_write 304 = .ok (.goto 22, 3) := dk_167 0 22 (dk_at dksX11_write_13 2 rfl rfl)
theorem dX11_write_307 : decode cX11_write 307 = .ok (.iload 12, 2) := dk_21 12 (dk_at dksX11_write_13 5 rfl rfl)
theorem dX11_write_309 : decode cX11_write 309 = .ok (.iconst 5, 1) := dk_8 (dk_at dksX11_write_13 7 rfl rfl)
theorem dX11_write_310 : decode cX11_write 310 = .ok (.if_icmp .ne 10, 3) := dk_160 0 10 (dk_at dksX11_write_13 8 rfl rfl)
theorem dX11_write_313 : decode cX11_write 313 = .ok (.iload 12, 2) := dk_21 12 (dk_at dksX11_write_13 11 rfl rfl)
theorem dX11_write_315 : decode cX11_write 315 = .ok (.iconst 1, 1) := dk_4 (dk_at dksX11_write_13 13 rfl rfl)
theorem dX11_write_316 : decode cX11_write 316 = .ok (.isub, 1) := dk_100 (dk_at dksX11_write_13 14 rfl rfl)
theorem dX11_write_317 : decode cX11_write 317 = .ok (.goto 7, 3) := dk_167 0 7 (dk_at dksX11_write_13 15 rfl rfl)
theorem dX11_write_320 : decode cX11_write 320 = .ok (.iload 12, 2) := dk_21 12 (dk_at dksX11_write_13 18 rfl rfl)
theorem dX11_write_322 : decode cX11_write 322 = .ok (.iconst 1, 1) := dk_4 (dk_at dksX11_write_13 20 rfl rfl)
theorem dX11_write_323 : decode cX11_write 323 = .ok (.iadd, 1) := dk_96 (dk_at dksX11_write_13 21 rfl rfl)
theorem dX11_write_324 : decode cX11_write 324 = .ok (.istore 12, 2) := dk_54 12 (dk_at dksX11_write_13 22 rfl rfl)
theorem dX11_write_326 : decode cX11_write 326 = .ok (.aload_n 0, 1) := dk_42 (dk_at dksX11_write_14 0 rfl rfl)
theorem dX11_write_327 : decode cX11_write 327 = .ok (.iload 5, 2) := dk_21 5 (dk_at dksX11_write_14 1 rfl rfl)
theorem dX11_write_329 : decode cX11_write 329 = .ok (.iload 10, 2) := dk_21 10 (dk_at dksX11_write_14 3 rfl rfl)
theorem dX11_write_331 : decode cX11_write 331 = .ok (.iconst (-1), 1) := dk_2 (dk_at dksX11_write_14 5 rfl rfl)
theorem dX11_write_332 : decode cX11_write 332 = .ok (.iload 11, 2) := dk_21 11 (dk_at dksX11_write_14 6 rfl rfl)
theorem dX11_write_334 : decode cX11_write 334 = .ok (.iload 12, 2) := dk_21 12 (dk_at dksX11_write_14 8 rfl rfl)
theorem dX11_write_336 : decode cX11_write 336 = .ok (.invokevirtual 265, 3) := dk_182 1 9 (dk_at dksX11_write_14 10 rfl rfl)
theorem dX11_write_339 : decode cX11_write 339 = .ok (.pop, 1) := dk_87 (dk_at dksX11_write_14 13 rfl rfl)
theorem dX11_write_340 : decode cX11_write 340 = .ok (.aload_n 0, 1) := dk_42 (dk_at dksX11_write_14 14 rfl rfl)
theorem dX11_write_341 : decode cX11_write 341 = .ok (.iload 6, 2) := dk_21 6 (dk_at dksX11_write_14 15 rfl rfl)
theorem dX11_write_343 : decode cX11_write 343 = .ok (.iload 8, 2) := dk_21 8 (dk_at dksX11_write_14 17 rfl rfl)
theorem dX11_write_345 : decode cX11_write 345 = .ok (.invokevirtual 426, 3) := dk_182 1 170 (dk_at dksX11_write_14 19 rfl rfl)
theorem dX11_write_348 : decode cX11_write 348 = .ok (.iinc 6 1, 3) := dk_132 6 1 (dk_at dksX11_write_15 0 rfl rfl)
theorem dX11_write_351 : decode cX11_write 351 = .ok (.goto (-218), 3) := dk_167 255 38 (dk_at dksX11_write_15 3 rfl rfl)
theorem dX11_write_354 : decode cX11_write 354 = .ok (.iload 5, 2) := dk_21 5 (dk_at dksX11_write_15 6 rfl rfl)
theorem dX11_write_356 : decode cX11_write 356 = .ok (.ireturn, 1) := dk_172 (dk_at dksX11_write_15 8 rfl rfl)
def dkwX11_draw_1 : List UInt8 := [17, 127, 255, 126, 172]
abbrev dktX11_draw_1 : List UInt8 := dkwX11_draw_1 ++ []
def dkwX11_draw_0 : List UInt8 := [42, 19, 1, 202, 42, 180, 1, 203, 104, 17, 48, 57, 96, 181, 1, 203, 42, 180, 1, 203, 16, 16, 122]
abbrev dktX11_draw_0 : List UInt8 := dkwX11_draw_0 ++ dktX11_draw_1
theorem dksX11_draw_0 : cX11_draw.data.toList.drop 0 = dktX11_draw_0 := by decide +kernel
theorem dksX11_draw_1 : cX11_draw.data.toList.drop 23 = dktX11_draw_1 := dk_seg dksX11_draw_0 23 rfl rfl
theorem dX11_draw_0 : decode cX11_draw 0 = .ok (.aload_n 0, 1) := dk_42 (dk_at dksX11_draw_0 0 rfl rfl)
theorem dX11_draw_1 : decode cX11_draw 1 = .ok (.ldc_w 458, 3) := dk_19 1 202 (dk_at dksX11_draw_0 1 rfl rfl)
theorem dX11_draw_4 : decode cX11_draw 4 = .ok (.aload_n 0, 1) := dk_42 (dk_at dksX11_draw_0 4 rfl rfl)
theorem dX11_draw_5 : decode cX11_draw 5 = .ok (.getfield 459, 3) := dk_180 1 203 (dk_at dksX11_draw_0 5 rfl rfl)
theorem dX11_draw_8 : decode cX11_draw 8 = .ok (.imul, 1) := dk_104 (dk_at dksX11_draw_0 8 rfl rfl)
theorem dX11_draw_9 : decode cX11_draw 9 = .ok (.sipush 12345, 3) := dk_17 48 57 (dk_at dksX11_draw_0 9 rfl rfl)
theorem dX11_draw_12 : decode cX11_draw 12 = .ok (.iadd, 1) := dk_96 (dk_at dksX11_draw_0 12 rfl rfl)
theorem dX11_draw_13 : decode cX11_draw 13 = .ok (.putfield 459, 3) := dk_181 1 203 (dk_at dksX11_draw_0 13 rfl rfl)
theorem dX11_draw_16 : decode cX11_draw 16 = .ok (.aload_n 0, 1) := dk_42 (dk_at dksX11_draw_0 16 rfl rfl)
theorem dX11_draw_17 : decode cX11_draw 17 = .ok (.getfield 459, 3) := dk_180 1 203 (dk_at dksX11_draw_0 17 rfl rfl)
theorem dX11_draw_20 : decode cX11_draw 20 = .ok (.bipush 16, 2) := dk_16 16 (dk_at dksX11_draw_0 20 rfl rfl)
theorem dX11_draw_22 : decode cX11_draw 22 = .ok (.ishr, 1) := dk_122 (dk_at dksX11_draw_0 22 rfl rfl)
theorem dX11_draw_23 : decode cX11_draw 23 = .ok (.sipush 32767, 3) := dk_17 127 255 (dk_at dksX11_draw_1 0 rfl rfl)
theorem dX11_draw_26 : decode cX11_draw 26 = .ok (.iand, 1) := dk_126 (dk_at dksX11_draw_1 3 rfl rfl)
theorem dX11_draw_27 : decode cX11_draw 27 = .ok (.ireturn, 1) := dk_172 (dk_at dksX11_draw_1 4 rfl rfl)
def dkwX11_count_9 : List UInt8 := [2, 172]
abbrev dktX11_count_9 : List UInt8 := dkwX11_count_9 ++ []
def dkwX11_count_8 : List UInt8 := [16, 13, 29, 96, 46, 5, 108, 182, 1, 136, 167, 0, 4, 3, 96, 61, 132, 3, 1, 167, 255, 213, 28, 172]
abbrev dktX11_count_8 : List UInt8 := dkwX11_count_8 ++ dktX11_count_9
def dkwX11_count_7 : List UInt8 := [16, 36, 162, 0, 43, 28, 42, 180, 0, 13, 16, 13, 29, 96, 46, 155, 0, 21, 42, 42, 180, 0, 13]
abbrev dktX11_count_7 : List UInt8 := dkwX11_count_7 ++ dktX11_count_8
def dkwX11_count_6 : List UInt8 := [182, 1, 185, 87, 42, 180, 1, 145, 153, 0, 8, 16, 254, 167, 0, 7, 42, 180, 1, 142, 172, 3, 62, 29]
abbrev dktX11_count_6 : List UInt8 := dkwX11_count_6 ++ dktX11_count_7
def dkwX11_count_5 : List UInt8 := [132, 3, 1, 167, 255, 235, 28, 172, 42, 180, 0, 13, 5, 46, 172, 42, 180, 0, 13, 6, 46, 172, 42]
abbrev dktX11_count_5 : List UInt8 := dkwX11_count_5 ++ dktX11_count_6
def dkwX11_count_4 : List UInt8 := [46, 172, 3, 62, 29, 42, 180, 0, 13, 4, 46, 162, 0, 17, 28, 42, 29, 182, 0, 251, 96, 61]
abbrev dktX11_count_4 : List UInt8 := dkwX11_count_4 ++ dktX11_count_5
def dkwX11_count_3 : List UInt8 := [46, 155, 0, 7, 4, 167, 0, 4, 3, 96, 61, 132, 3, 1, 167, 255, 227, 28, 172, 42, 180, 0, 13, 4]
abbrev dktX11_count_3 : List UInt8 := dkwX11_count_3 ++ dktX11_count_4
def dkwX11_count_2 : List UInt8 := [42, 180, 0, 13, 3, 46, 172, 3, 62, 29, 16, 36, 162, 0, 29, 28, 42, 180, 0, 13, 16, 13, 29, 96]
abbrev dktX11_count_2 : List UInt8 := dkwX11_count_2 ++ dktX11_count_3
def dkwX11_count_1 : List UInt8 := [170, 0, 0, 0, 0, 0, 0, 212, 0, 0, 0, 0, 0, 0, 0, 7, 0, 0, 0, 48, 0, 0, 0, 55, 0, 0, 0, 91, 0, 0, 0, 98, 0, 0, 0, 126, 0, 0, 0, 133, 0, 0, 0, 140, 0, 0, 0, 162]
abbrev dktX11_count_1 : List UInt8 := dkwX11_count_1 ++ dktX11_count_2
def dkwX11_count_0 : List UInt8 := [42, 3, 181, 0, 3, 3, 61, 27]
abbrev dktX11_count_0 : List UInt8 := dkwX11_count_0 ++ dktX11_count_1
theorem dksX11_count_0 : cX11_count.data.toList.drop 0 = dktX11_count_0 := by decide +kernel
theorem dksX11_count_1 : cX11_count.data.toList.drop 8 = dktX11_count_1 := dk_seg dksX11_count_0 8 rfl rfl
theorem dksX11_count_2 : cX11_count.data.toList.drop 56 = dktX11_count_2 := dk_seg dksX11_count_1 48 rfl rfl
theorem dksX11_count_3 : cX11_count.data.toList.drop 80 = dktX11_count_3 := dk_seg dksX11_count_2 24 rfl rfl
theorem dksX11_count_4 : cX11_count.data.toList.drop 104 = dktX11_count_4 := dk_seg dksX11_count_3 24 rfl rfl
theorem dksX11_count_5 : cX11_count.data.toList.drop 126 = dktX11_count_5 := dk_seg dksX11_count_4 22 rfl rfl
theorem dksX11_count_6 : cX11_count.data.toList.drop 149 = dktX11_count_6 := dk_seg dksX11_count_5 23 rfl rfl
theorem dksX11_count_7 : cX11_count.data.toList.drop 173 = dktX11_count_7 := dk_seg dksX11_count_6 24 rfl rfl
theorem dksX11_count_8 : cX11_count.data.toList.drop 196 = dktX11_count_8 := dk_seg dksX11_count_7 23 rfl rfl
theorem dksX11_count_9 : cX11_count.data.toList.drop 220 = dktX11_count_9 := dk_seg dksX11_count_8 24 rfl rfl
theorem dX11_count_0 : decode cX11_count 0 = .ok (.aload_n 0, 1) := dk_42 (dk_at dksX11_count_0 0 rfl rfl)
theorem dX11_count_1 : decode cX11_count 1 = .ok (.iconst 0, 1) := dk_3 (dk_at dksX11_count_0 1 rfl rfl)
theorem dX11_count_2 : decode cX11_count 2 = .ok (.putfield 3, 3) := dk_181 0 3 (dk_at dksX11_count_0 2 rfl rfl)
theorem dX11_count_5 : decode cX11_count 5 = .ok (.iconst 0, 1) := dk_3 (dk_at dksX11_count_0 5 rfl rfl)
theorem dX11_count_6 : decode cX11_count 6 = .ok (.istore_n 2, 1) := dk_61 (dk_at dksX11_count_0 6 rfl rfl)
theorem dX11_count_7 : decode cX11_count 7 = .ok (.iload_n 1, 1) := dk_27 (dk_at dksX11_count_0 7 rfl rfl)
theorem dX11_count_8 : decode cX11_count 8 = .ok (.tableswitch 212 0 7 #[48, 55, 91, 98, 126, 133, 140, 162], 48) := by decide +kernel
theorem dX11_count_56 : decode cX11_count 56 = .ok (.aload_n 0, 1) := dk_42 (dk_at dksX11_count_2 0 rfl rfl)
theorem dX11_count_57 : decode cX11_count 57 = .ok (.getfield 13, 3) := dk_180 0 13 (dk_at dksX11_count_2 1 rfl rfl)
theorem dX11_count_60 : decode cX11_count 60 = .ok (.iconst 0, 1) := dk_3 (dk_at dksX11_count_2 4 rfl rfl)
theorem dX11_count_61 : decode cX11_count 61 = .ok (.iaload, 1) := dk_46 (dk_at dksX11_count_2 5 rfl rfl)
theorem dX11_count_62 : decode cX11_count 62 = .ok (.ireturn, 1) := dk_172 (dk_at dksX11_count_2 6 rfl rfl)
theorem dX11_count_63 : decode cX11_count 63 = .ok (.iconst 0, 1) := dk_3 (dk_at dksX11_count_2 7 rfl rfl)
theorem dX11_count_64 : decode cX11_count 64 = .ok (.istore_n 3, 1) := dk_62 (dk_at dksX11_count_2 8 rfl rfl)
theorem dX11_count_65 : decode cX11_count 65 = .ok (.iload_n 3, 1) := dk_29 (dk_at dksX11_count_2 9 rfl rfl)
theorem dX11_count_66 : decode cX11_count 66 = .ok (.bipush 36, 2) := dk_16 36 (dk_at dksX11_count_2 10 rfl rfl)
theorem dX11_count_68 : decode cX11_count 68 = .ok (.if_icmp .ge 29, 3) := dk_162 0 29 (dk_at dksX11_count_2 12 rfl rfl)
theorem dX11_count_71 : decode cX11_count 71 = .ok (.iload_n 2, 1) := dk_28 (dk_at dksX11_count_2 15 rfl rfl)
theorem dX11_count_72 : decode cX11_count 72 = .ok (.aload_n 0, 1) := dk_42 (dk_at dksX11_count_2 16 rfl rfl)
theorem dX11_count_73 : decode cX11_count 73 = .ok (.getfield 13, 3) := dk_180 0 13 (dk_at dksX11_count_2 17 rfl rfl)
theorem dX11_count_76 : decode cX11_count 76 = .ok (.bipush 13, 2) := dk_16 13 (dk_at dksX11_count_2 20 rfl rfl)
theorem dX11_count_78 : decode cX11_count 78 = .ok (.iload_n 3, 1) := dk_29 (dk_at dksX11_count_2 22 rfl rfl)
theorem dX11_count_79 : decode cX11_count 79 = .ok (.iadd, 1) := dk_96 (dk_at dksX11_count_2 23 rfl rfl)
theorem dX11_count_80 : decode cX11_count 80 = .ok (.iaload, 1) := dk_46 (dk_at dksX11_count_3 0 rfl rfl)
theorem dX11_count_81 : decode cX11_count 81 = .ok (.ifCond .lt 7, 3) := dk_155 0 7 (dk_at dksX11_count_3 1 rfl rfl)
theorem dX11_count_84 : decode cX11_count 84 = .ok (.iconst 1, 1) := dk_4 (dk_at dksX11_count_3 4 rfl rfl)
theorem dX11_count_85 : decode cX11_count 85 = .ok (.goto 4, 3) := dk_167 0 4 (dk_at dksX11_count_3 5 rfl rfl)
theorem dX11_count_88 : decode cX11_count 88 = .ok (.iconst 0, 1) := dk_3 (dk_at dksX11_count_3 8 rfl rfl)
theorem dX11_count_89 : decode cX11_count 89 = .ok (.iadd, 1) := dk_96 (dk_at dksX11_count_3 9 rfl rfl)
theorem dX11_count_90 : decode cX11_count 90 = .ok (.istore_n 2, 1) := dk_61 (dk_at dksX11_count_3 10 rfl rfl)
theorem dX11_count_91 : decode cX11_count 91 = .ok (.iinc 3 1, 3) := dk_132 3 1 (dk_at dksX11_count_3 11 rfl rfl)
theorem dX11_count_94 : decode cX11_count 94 = .ok (.goto (-29), 3) := dk_167 255 227 (dk_at dksX11_count_3 14 rfl rfl)
theorem dX11_count_97 : decode cX11_count 97 = .ok (.iload_n 2, 1) := dk_28 (dk_at dksX11_count_3 17 rfl rfl)
theorem dX11_count_98 : decode cX11_count 98 = .ok (.ireturn, 1) := dk_172 (dk_at dksX11_count_3 18 rfl rfl)
theorem dX11_count_99 : decode cX11_count 99 = .ok (.aload_n 0, 1) := dk_42 (dk_at dksX11_count_3 19 rfl rfl)
theorem dX11_count_100 : decode cX11_count 100 = .ok (.getfield 13, 3) := dk_180 0 13 (dk_at dksX11_count_3 20 rfl rfl)
theorem dX11_count_103 : decode cX11_count 103 = .ok (.iconst 1, 1) := dk_4 (dk_at dksX11_count_3 23 rfl rfl)
theorem dX11_count_104 : decode cX11_count 104 = .ok (.iaload, 1) := dk_46 (dk_at dksX11_count_4 0 rfl rfl)
theorem dX11_count_105 : decode cX11_count 105 = .ok (.ireturn, 1) := dk_172 (dk_at dksX11_count_4 1 rfl rfl)
theorem dX11_count_106 : decode cX11_count 106 = .ok (.iconst 0, 1) := dk_3 (dk_at dksX11_count_4 2 rfl rfl)
theorem dX11_count_107 : decode cX11_count 107 = .ok (.istore_n 3, 1) := dk_62 (dk_at dksX11_count_4 3 rfl rfl)
theorem dX11_count_108 : decode cX11_count 108 = .ok (.iload_n 3, 1) := dk_29 (dk_at dksX11_count_4 4 rfl rfl)
theorem dX11_count_109 : decode cX11_count 109 = .ok (.aload_n 0, 1) := dk_42 (dk_at dksX11_count_4 5 rfl rfl)
theorem dX11_count_110 : decode cX11_count 110 = .ok (.getfield 13, 3) := dk_180 0 13 (dk_at dksX11_count_4 6 rfl rfl)
theorem dX11_count_113 : decode cX11_count 113 = .ok (.iconst 1, 1) := dk_4 (dk_at dksX11_count_4 9 rfl rfl)
theorem dX11_count_114 : decode cX11_count 114 = .ok (.iaload, 1) := dk_46 (dk_at dksX11_count_4 10 rfl rfl)
theorem dX11_count_115 : decode cX11_count 115 = .ok (.if_icmp .ge 17, 3) := dk_162 0 17 (dk_at dksX11_count_4 11 rfl rfl)
theorem dX11_count_118 : decode cX11_count 118 = .ok (.iload_n 2, 1) := dk_28 (dk_at dksX11_count_4 14 rfl rfl)
theorem dX11_count_119 : decode cX11_count 119 = .ok (.aload_n 0, 1) := dk_42 (dk_at dksX11_count_4 15 rfl rfl)
theorem dX11_count_120 : decode cX11_count 120 = .ok (.iload_n 3, 1) := dk_29 (dk_at dksX11_count_4 16 rfl rfl)
theorem dX11_count_121 : decode cX11_count 121 = .ok (.invokevirtual 251, 3) := dk_182 0 251 (dk_at dksX11_count_4 17 rfl rfl)
theorem dX11_count_124 : decode cX11_count 124 = .ok (.iadd, 1) := dk_96 (dk_at dksX11_count_4 20 rfl rfl)
theorem dX11_count_125 : decode cX11_count 125 = .ok (.istore_n 2, 1) := dk_61 (dk_at dksX11_count_4 21 rfl rfl)
theorem dX11_count_126 : decode cX11_count 126 = .ok (.iinc 3 1, 3) := dk_132 3 1 (dk_at dksX11_count_5 0 rfl rfl)
theorem dX11_count_129 : decode cX11_count 129 = .ok (.goto (-21), 3) := dk_167 255 235 (dk_at dksX11_count_5 3 rfl rfl)
theorem dX11_count_132 : decode cX11_count 132 = .ok (.iload_n 2, 1) := dk_28 (dk_at dksX11_count_5 6 rfl rfl)
theorem dX11_count_133 : decode cX11_count 133 = .ok (.ireturn, 1) := dk_172 (dk_at dksX11_count_5 7 rfl rfl)
theorem dX11_count_134 : decode cX11_count 134 = .ok (.aload_n 0, 1) := dk_42 (dk_at dksX11_count_5 8 rfl rfl)
theorem dX11_count_135 : decode cX11_count 135 = .ok (.getfield 13, 3) := dk_180 0 13 (dk_at dksX11_count_5 9 rfl rfl)
theorem dX11_count_138 : decode cX11_count 138 = .ok (.iconst 2, 1) := dk_5 (dk_at dksX11_count_5 12 rfl rfl)
theorem dX11_count_139 : decode cX11_count 139 = .ok (.iaload, 1) := dk_46 (dk_at dksX11_count_5 13 rfl rfl)
theorem dX11_count_140 : decode cX11_count 140 = .ok (.ireturn, 1) := dk_172 (dk_at dksX11_count_5 14 rfl rfl)
theorem dX11_count_141 : decode cX11_count 141 = .ok (.aload_n 0, 1) := dk_42 (dk_at dksX11_count_5 15 rfl rfl)
theorem dX11_count_142 : decode cX11_count 142 = .ok (.getfield 13, 3) := dk_180 0 13 (dk_at dksX11_count_5 16 rfl rfl)
theorem dX11_count_145 : decode cX11_count 145 = .ok (.iconst 3, 1) := dk_6 (dk_at dksX11_count_5 19 rfl rfl)
theorem dX11_count_146 : decode cX11_count 146 = .ok (.iaload, 1) := dk_46 (dk_at dksX11_count_5 20 rfl rfl)
theorem dX11_count_147 : decode cX11_count 147 = .ok (.ireturn, 1) := dk_172 (dk_at dksX11_count_5 21 rfl rfl)
theorem dX11_count_148 : decode cX11_count 148 = .ok (.aload_n 0, 1) := dk_42 (dk_at dksX11_count_5 22 rfl rfl)
theorem dX11_count_149 : decode cX11_count 149 = .ok (.invokevirtual 441, 3) := dk_182 1 185 (dk_at dksX11_count_6 0 rfl rfl)
theorem dX11_count_152 : decode cX11_count 152 = .ok (.pop, 1) := dk_87 (dk_at dksX11_count_6 3 rfl rfl)
theorem dX11_count_153 : decode cX11_count 153 = .ok (.aload_n 0, 1) := dk_42 (dk_at dksX11_count_6 4 rfl rfl)
theorem dX11_count_154 : decode cX11_count 154 = .ok (.getfield 401, 3) := dk_180 1 145 (dk_at dksX11_count_6 5 rfl rfl)
theorem dX11_count_157 : decode cX11_count 157 = .ok (.ifCond .eq 8, 3) := dk_153 0 8 (dk_at dksX11_count_6 8 rfl rfl)
theorem dX11_count_160 : decode cX11_count 160 = .ok (.bipush (-2), 2) := dk_16 254 (dk_at dksX11_count_6 11 rfl rfl)
theorem dX11_count_162 : decode cX11_count 162 = .ok (.goto 7, 3) := dk_167 0 7 (dk_at dksX11_count_6 13 rfl rfl)
theorem dX11_count_165 : decode cX11_count 165 = .ok (.aload_n 0, 1) := dk_42 (dk_at dksX11_count_6 16 rfl rfl)
theorem dX11_count_166 : decode cX11_count 166 = .ok (.getfield 398, 3) := dk_180 1 142 (dk_at dksX11_count_6 17 rfl rfl)
theorem dX11_count_169 : decode cX11_count 169 = .ok (.ireturn, 1) := dk_172 (dk_at dksX11_count_6 20 rfl rfl)
theorem dX11_count_170 : decode cX11_count 170 = .ok (.iconst 0, 1) := dk_3 (dk_at dksX11_count_6 21 rfl rfl)
theorem dX11_count_171 : decode cX11_count 171 = .ok (.istore_n 3, 1) := dk_62 (dk_at dksX11_count_6 22 rfl rfl)
theorem dX11_count_172 : decode cX11_count 172 = .ok (.iload_n 3, 1) := dk_29 (dk_at dksX11_count_6 23 rfl rfl)
theorem dX11_count_173 : decode cX11_count 173 = .ok (.bipush 36, 2) := dk_16 36 (dk_at dksX11_count_7 0 rfl rfl)
theorem dX11_count_175 : decode cX11_count 175 = .ok (.if_icmp .ge 43, 3) := dk_162 0 43 (dk_at dksX11_count_7 2 rfl rfl)
theorem dX11_count_178 : decode cX11_count 178 = .ok (.iload_n 2, 1) := dk_28 (dk_at dksX11_count_7 5 rfl rfl)
theorem dX11_count_179 : decode cX11_count 179 = .ok (.aload_n 0, 1) := dk_42 (dk_at dksX11_count_7 6 rfl rfl)
theorem dX11_count_180 : decode cX11_count 180 = .ok (.getfield 13, 3) := dk_180 0 13 (dk_at dksX11_count_7 7 rfl rfl)
theorem dX11_count_183 : decode cX11_count 183 = .ok (.bipush 13, 2) := dk_16 13 (dk_at dksX11_count_7 10 rfl rfl)
theorem dX11_count_185 : decode cX11_count 185 = .ok (.iload_n 3, 1) := dk_29 (dk_at dksX11_count_7 12 rfl rfl)
theorem dX11_count_186 : decode cX11_count 186 = .ok (.iadd, 1) := dk_96 (dk_at dksX11_count_7 13 rfl rfl)
theorem dX11_count_187 : decode cX11_count 187 = .ok (.iaload, 1) := dk_46 (dk_at dksX11_count_7 14 rfl rfl)
theorem dX11_count_188 : decode cX11_count 188 = .ok (.ifCond .lt 21, 3) := dk_155 0 21 (dk_at dksX11_count_7 15 rfl rfl)
theorem dX11_count_191 : decode cX11_count 191 = .ok (.aload_n 0, 1) := dk_42 (dk_at dksX11_count_7 18 rfl rfl)
theorem dX11_count_192 : decode cX11_count 192 = .ok (.aload_n 0, 1) := dk_42 (dk_at dksX11_count_7 19 rfl rfl)
theorem dX11_count_193 : decode cX11_count 193 = .ok (.getfield 13, 3) := dk_180 0 13 (dk_at dksX11_count_7 20 rfl rfl)
theorem dX11_count_196 : decode cX11_count 196 = .ok (.bipush 13, 2) := dk_16 13 (dk_at dksX11_count_8 0 rfl rfl)
theorem dX11_count_198 : decode cX11_count 198 = .ok (.iload_n 3, 1) := dk_29 (dk_at dksX11_count_8 2 rfl rfl)
theorem dX11_count_199 : decode cX11_count 199 = .ok (.iadd, 1) := dk_96 (dk_at dksX11_count_8 3 rfl rfl)
theorem dX11_count_200 : decode cX11_count 200 = .ok (.iaload, 1) := dk_46 (dk_at dksX11_count_8 4 rfl rfl)
theorem dX11_count_201 : decode cX11_count 201 = .ok (.iconst 2, 1) := dk_5 (dk_at dksX11_count_8 5 rfl rfl)
theorem dX11_count_202 : decode cX11_count 202 = .ok (.idiv, 1) := dk_108 (dk_at dksX11_count_8 6 rfl rfl)
theorem dX11_count_203 : decode cX11_count 203 = .ok (.invokevirtual 392, 3) := dk_182 1 136 (dk_at dksX11_count_8 7 rfl rfl)
theorem dX11_count_206 : decode cX11_count 206 = .ok (.goto 4, 3) := dk_167 0 4 (dk_at dksX11_count_8 10 rfl rfl)
theorem dX11_count_209 : decode cX11_count 209 = .ok (.iconst 0, 1) := dk_3 (dk_at dksX11_count_8 13 rfl rfl)
theorem dX11_count_210 : decode cX11_count 210 = .ok (.iadd, 1) := dk_96 (dk_at dksX11_count_8 14 rfl rfl)
theorem dX11_count_211 : decode cX11_count 211 = .ok (.istore_n 2, 1) := dk_61 (dk_at dksX11_count_8 15 rfl rfl)
theorem dX11_count_212 : decode cX11_count 212 = .ok (.iinc 3 1, 3) := dk_132 3 1 (dk_at dksX11_count_8 16 rfl rfl)
theorem dX11_count_215 : decode cX11_count 215 = .ok (.goto (-43), 3) := dk_167 255 213 (dk_at dksX11_count_8 19 rfl rfl)
theorem dX11_count_218 : decode cX11_count 218 = .ok (.iload_n 2, 1) := dk_28 (dk_at dksX11_count_8 22 rfl rfl)
theorem dX11_count_219 : decode cX11_count 219 = .ok (.ireturn, 1) := dk_172 (dk_at dksX11_count_8 23 rfl rfl)
theorem dX11_count_220 : decode cX11_count 220 = .ok (.iconst (-1), 1) := dk_2 (dk_at dksX11_count_9 0 rfl rfl)
theorem dX11_count_221 : decode cX11_count 221 = .ok (.ireturn, 1) := dk_172 (dk_at dksX11_count_9 1 rfl rfl)
