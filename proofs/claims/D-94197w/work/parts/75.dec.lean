set_option maxRecDepth 100000

def dkwX1_init_6 : List UInt8 := [187, 0, 62, 89, 183, 0, 64, 181, 0, 65, 42, 2, 181, 0, 69, 177]
abbrev dktX1_init_6 : List UInt8 := dkwX1_init_6 ++ []
def dkwX1_init_5 : List UInt8 := [188, 10, 181, 0, 52, 42, 16, 30, 188, 10, 181, 0, 56, 42, 17, 5, 16, 188, 10, 181, 0, 59, 42]
abbrev dktX1_init_5 : List UInt8 := dkwX1_init_5 ++ dktX1_init_6
def dkwX1_init_4 : List UInt8 := [16, 25, 197, 0, 38, 2, 181, 0, 46, 42, 16, 25, 16, 25, 197, 0, 38, 2, 181, 0, 49, 42, 6]
abbrev dktX1_init_4 : List UInt8 := dkwX1_init_4 ++ dktX1_init_5
def dkwX1_init_3 : List UInt8 := [16, 24, 197, 0, 38, 2, 181, 0, 40, 42, 6, 16, 30, 197, 0, 38, 2, 181, 0, 43, 42, 16, 31]
abbrev dktX1_init_3 : List UInt8 := dkwX1_init_3 ++ dktX1_init_4
def dkwX1_init_2 : List UInt8 := [183, 0, 28, 181, 0, 31, 42, 187, 0, 26, 89, 42, 180, 0, 19, 183, 0, 28, 181, 0, 35, 42, 6]
abbrev dktX1_init_2 : List UInt8 := dkwX1_init_2 ++ dktX1_init_3
def dkwX1_init_1 : List UInt8 := [181, 0, 19, 42, 187, 0, 16, 89, 183, 0, 18, 181, 0, 23, 42, 187, 0, 26, 89, 42, 180, 0, 19]
abbrev dktX1_init_1 : List UInt8 := dkwX1_init_1 ++ dktX1_init_2
def dkwX1_init_0 : List UInt8 := [42, 183, 0, 1, 42, 187, 0, 7, 89, 183, 0, 9, 181, 0, 10, 42, 187, 0, 16, 89, 183, 0, 18]
abbrev dktX1_init_0 : List UInt8 := dkwX1_init_0 ++ dktX1_init_1
theorem dksX1_init_0 : cX1_init.data.toList.drop 0 = dktX1_init_0 := by decide +kernel
theorem dksX1_init_1 : cX1_init.data.toList.drop 23 = dktX1_init_1 := dk_seg dksX1_init_0 23 rfl rfl
theorem dksX1_init_2 : cX1_init.data.toList.drop 46 = dktX1_init_2 := dk_seg dksX1_init_1 23 rfl rfl
theorem dksX1_init_3 : cX1_init.data.toList.drop 69 = dktX1_init_3 := dk_seg dksX1_init_2 23 rfl rfl
theorem dksX1_init_4 : cX1_init.data.toList.drop 92 = dktX1_init_4 := dk_seg dksX1_init_3 23 rfl rfl
theorem dksX1_init_5 : cX1_init.data.toList.drop 115 = dktX1_init_5 := dk_seg dksX1_init_4 23 rfl rfl
theorem dksX1_init_6 : cX1_init.data.toList.drop 138 = dktX1_init_6 := dk_seg dksX1_init_5 23 rfl rfl
theorem dX1_init_0 : decode cX1_init 0 = .ok (.aload_n 0, 1) := dk_42 (dk_at dksX1_init_0 0 rfl rfl)
theorem dX1_init_1 : decode cX1_init 1 = .ok (.invokespecial 1, 3) := dk_183 0 1 (dk_at dksX1_init_0 1 rfl rfl)
theorem dX1_init_4 : decode cX1_init 4 = .ok (.aload_n 0, 1) := dk_42 (dk_at dksX1_init_0 4 rfl rfl)
theorem dX1_init_5 : decode cX1_init 5 = .ok (.new 7, 3) := dk_187 0 7 (dk_at dksX1_init_0 5 rfl rfl)
theorem dX1_init_8 : decode cX1_init 8 = .ok (.dup, 1) := dk_89 (dk_at dksX1_init_0 8 rfl rfl)
theorem dX1_init_9 : decode cX1_init 9 = .ok (.invokespecial 9, 3) := dk_183 0 9 (dk_at dksX1_init_0 9 rfl rfl)
theorem dX1_init_12 : decode cX1_init 12 = .ok (.putfield 10, 3) := dk_181 0 10 (dk_at dksX1_init_0 12 rfl rfl)
theorem dX1_init_15 : decode cX1_init 15 = .ok (.aload_n 0, 1) := dk_42 (dk_at dksX1_init_0 15 rfl rfl)
theorem dX1_init_16 : decode cX1_init 16 = .ok (.new 16, 3) := dk_187 0 16 (dk_at dksX1_init_0 16 rfl rfl)
theorem dX1_init_19 : decode cX1_init 19 = .ok (.dup, 1) := dk_89 (dk_at dksX1_init_0 19 rfl rfl)
theorem dX1_init_20 : decode cX1_init 20 = .ok (.invokespecial 18, 3) := dk_183 0 18 (dk_at dksX1_init_0 20 rfl rfl)
theorem dX1_init_23 : decode cX1_init 23 = .ok (.putfield 19, 3) := dk_181 0 19 (dk_at dksX1_init_1 0 rfl rfl)
theorem dX1_init_26 : decode cX1_init 26 = .ok (.aload_n 0, 1) := dk_42 (dk_at dksX1_init_1 3 rfl rfl)
theorem dX1_init_27 : decode cX1_init 27 = .ok (.new 16, 3) := dk_187 0 16 (dk_at dksX1_init_1 4 rfl rfl)
theorem dX1_init_30 : decode cX1_init 30 = .ok (.dup, 1) := dk_89 (dk_at dksX1_init_1 7 rfl rfl)
theorem dX1_init_31 : decode cX1_init 31 = .ok (.invokespecial 18, 3) := dk_183 0 18 (dk_at dksX1_init_1 8 rfl rfl)
theorem dX1_init_34 : decode cX1_init 34 = .ok (.putfield 23, 3) := dk_181 0 23 (dk_at dksX1_init_1 11 rfl rfl)
theorem dX1_init_37 : decode cX1_init 37 = .ok (.aload_n 0, 1) := dk_42 (dk_at dksX1_init_1 14 rfl rfl)
theorem dX1_init_38 : decode cX1_init 38 = .ok (.new 26, 3) := dk_187 0 26 (dk_at dksX1_init_1 15 rfl rfl)
theorem dX1_init_41 : decode cX1_init 41 = .ok (.dup, 1) := dk_89 (dk_at dksX1_init_1 18 rfl rfl)
theorem dX1_init_42 : decode cX1_init 42 = .ok (.aload_n 0, 1) := dk_42 (dk_at dksX1_init_1 19 rfl rfl)
theorem dX1_init_43 : decode cX1_init 43 = .ok (.getfield 19, 3) := dk_180 0 19 (dk_at dksX1_init_1 20 rfl rfl)
theorem dX1_init_46 : decode cX1_init 46 = .ok (.invokespecial 28, 3) := dk_183 0 28 (dk_at dksX1_init_2 0 rfl rfl)
theorem dX1_init_49 : decode cX1_init 49 = .ok (.putfield 31, 3) := dk_181 0 31 (dk_at dksX1_init_2 3 rfl rfl)
theorem dX1_init_52 : decode cX1_init 52 = .ok (.aload_n 0, 1) := dk_42 (dk_at dksX1_init_2 6 rfl rfl)
theorem dX1_init_53 : decode cX1_init 53 = .ok (.new 26, 3) := dk_187 0 26 (dk_at dksX1_init_2 7 rfl rfl)
theorem dX1_init_56 : decode cX1_init 56 = .ok (.dup, 1) := dk_89 (dk_at dksX1_init_2 10 rfl rfl)
theorem dX1_init_57 : decode cX1_init 57 = .ok (.aload_n 0, 1) := dk_42 (dk_at dksX1_init_2 11 rfl rfl)
theorem dX1_init_58 : decode cX1_init 58 = .ok (.getfield 19, 3) := dk_180 0 19 (dk_at dksX1_init_2 12 rfl rfl)
theorem dX1_init_61 : decode cX1_init 61 = .ok (.invokespecial 28, 3) := dk_183 0 28 (dk_at dksX1_init_2 15 rfl rfl)
theorem dX1_init_64 : decode cX1_init 64 = .ok (.putfield 35, 3) := dk_181 0 35 (dk_at dksX1_init_2 18 rfl rfl)
theorem dX1_init_67 : decode cX1_init 67 = .ok (.aload_n 0, 1) := dk_42 (dk_at dksX1_init_2 21 rfl rfl)
theorem dX1_init_68 : decode cX1_init 68 = .ok (.iconst 3, 1) := dk_6 (dk_at dksX1_init_2 22 rfl rfl)
theorem dX1_init_69 : decode cX1_init 69 = .ok (.bipush 24, 2) := dk_16 24 (dk_at dksX1_init_3 0 rfl rfl)
theorem dX1_init_71 : decode cX1_init 71 = .ok (.multianewarray 38 2, 4) := by decide +kernel
theorem dX1_init_75 : decode cX1_init 75 = .ok (.putfield 40, 3) := dk_181 0 40 (dk_at dksX1_init_3 6 rfl rfl)
theorem dX1_init_78 : decode cX1_init 78 = .ok (.aload_n 0, 1) := dk_42 (dk_at dksX1_init_3 9 rfl rfl)
theorem dX1_init_79 : decode cX1_init 79 = .ok (.iconst 3, 1) := dk_6 (dk_at dksX1_init_3 10 rfl rfl)
theorem dX1_init_80 : decode cX1_init 80 = .ok (.bipush 30, 2) := dk_16 30 (dk_at dksX1_init_3 11 rfl rfl)
theorem dX1_init_82 : decode cX1_init 82 = .ok (.multianewarray 38 2, 4) := by decide +kernel
theorem dX1_init_86 : decode cX1_init 86 = .ok (.putfield 43, 3) := dk_181 0 43 (dk_at dksX1_init_3 17 rfl rfl)
theorem dX1_init_89 : decode cX1_init 89 = .ok (.aload_n 0, 1) := dk_42 (dk_at dksX1_init_3 20 rfl rfl)
theorem dX1_init_90 : decode cX1_init 90 = .ok (.bipush 31, 2) := dk_16 31 (dk_at dksX1_init_3 21 rfl rfl)
theorem dX1_init_92 : decode cX1_init 92 = .ok (.bipush 25, 2) := dk_16 25 (dk_at dksX1_init_4 0 rfl rfl)
theorem dX1_init_94 : decode cX1_init 94 = .ok (.multianewarray 38 2, 4) := by decide +kernel
theorem dX1_init_98 : decode cX1_init 98 = .ok (.putfield 46, 3) := dk_181 0 46 (dk_at dksX1_init_4 6 rfl rfl)
theorem dX1_init_101 : decode cX1_init 101 = .ok (.aload_n 0, 1) := dk_42 (dk_at dksX1_init_4 9 rfl rfl)
theorem dX1_init_102 : decode cX1_init 102 = .ok (.bipush 25, 2) := dk_16 25 (dk_at dksX1_init_4 10 rfl rfl)
theorem dX1_init_104 : decode cX1_init 104 = .ok (.bipush 25, 2) := dk_16 25 (dk_at dksX1_init_4 12 rfl rfl)
theorem dX1_init_106 : decode cX1_init 106 = .ok (.multianewarray 38 2, 4) := by decide +kernel
theorem dX1_init_110 : decode cX1_init 110 = .ok (.putfield 49, 3) := dk_181 0 49 (dk_at dksX1_init_4 18 rfl rfl)
theorem dX1_init_113 : decode cX1_init 113 = .ok (.aload_n 0, 1) := dk_42 (dk_at dksX1_init_4 21 rfl rfl)
theorem dX1_init_114 : decode cX1_init 114 = .ok (.iconst 3, 1) := dk_6 (dk_at dksX1_init_4 22 rfl rfl)
theorem dX1_init_115 : decode cX1_init 115 = .ok (.newarray .int, 2) := dk_188_10 (dk_at dksX1_init_5 0 rfl rfl)
theorem dX1_init_117 : decode cX1_init 117 = .ok (.putfield 52, 3) := dk_181 0 52 (dk_at dksX1_init_5 2 rfl rfl)
theorem dX1_init_120 : decode cX1_init 120 = .ok (.aload_n 0, 1) := dk_42 (dk_at dksX1_init_5 5 rfl rfl)
theorem dX1_init_121 : decode cX1_init 121 = .ok (.bipush 30, 2) := dk_16 30 (dk_at dksX1_init_5 6 rfl rfl)
theorem dX1_init_123 : decode cX1_init 123 = .ok (.newarray .int, 2) := dk_188_10 (dk_at dksX1_init_5 8 rfl rfl)
theorem dX1_init_125 : decode cX1_init 125 = .ok (.putfield 56, 3) := dk_181 0 56 (dk_at dksX1_init_5 10 rfl rfl)
theorem dX1_init_128 : decode cX1_init 128 = .ok (.aload_n 0, 1) := dk_42 (dk_at dksX1_init_5 13 rfl rfl)
theorem dX1_init_129 : decode cX1_init 129 = .ok (.sipush 1296, 3) := dk_17 5 16 (dk_at dksX1_init_5 14 rfl rfl)
theorem dX1_init_132 : decode cX1_init 132 = .ok (.newarray .int, 2) := dk_188_10 (dk_at dksX1_init_5 17 rfl rfl)
theorem dX1_init_134 : decode cX1_init 134 = .ok (.putfield 59, 3) := dk_181 0 59 (dk_at dksX1_init_5 19 rfl rfl)
theorem dX1_init_137 : decode cX1_init 137 = .ok (.aload_n 0, 1) := dk_42 (dk_at dksX1_init_5 22 rfl rfl)
theorem dX1_init_138 : decode cX1_init 138 = .ok (.new 62, 3) := dk_187 0 62 (dk_at dksX1_init_6 0 rfl rfl)
theorem dX1_init_141 : decode cX1_init 141 = .ok (.dup, 1) := dk_89 (dk_at dksX1_init_6 3 rfl rfl)
theorem dX1_init_142 : decode cX1_init 142 = .ok (.invokespecial 64, 3) := dk_183 0 64 (dk_at dksX1_init_6 4 rfl rfl)
theorem dX1_init_145 : decode cX1_init 145 = .ok (.putfield 65, 3) := dk_181 0 65 (dk_at dksX1_init_6 7 rfl rfl)
theorem dX1_init_148 : decode cX1_init 148 = .ok (.aload_n 0, 1) := dk_42 (dk_at dksX1_init_6 10 rfl rfl)
theorem dX1_init_149 : decode cX1_init 149 = .ok (.iconst (-1), 1) := dk_2 (dk_at dksX1_init_6 11 rfl rfl)
theorem dX1_init_150 : decode cX1_init 150 = .ok (.putfield 69, 3) := dk_181 0 69 (dk_at dksX1_init_6 12 rfl rfl)
theorem dX1_init_153 : decode cX1_init 153 = .ok (.return_, 1) := dk_177 (dk_at dksX1_init_6 15 rfl rfl)
def dkwX1_feed_2 : List UInt8 := [180, 0, 10, 180, 0, 116, 172]
abbrev dktX1_feed_2 : List UInt8 := dkwX1_feed_2 ++ []
def dkwX1_feed_1 : List UInt8 := [28, 182, 0, 119, 42, 29, 182, 0, 119, 42, 21, 4, 182, 0, 119, 42, 21, 5, 182, 0, 119, 42]
abbrev dktX1_feed_1 : List UInt8 := dkwX1_feed_1 ++ dktX1_feed_2
def dkwX1_feed_0 : List UInt8 := [42, 180, 0, 10, 180, 0, 116, 16, 20, 96, 17, 1, 144, 164, 0, 5, 2, 172, 42, 27, 182, 0, 119, 42]
abbrev dktX1_feed_0 : List UInt8 := dkwX1_feed_0 ++ dktX1_feed_1
theorem dksX1_feed_0 : cX1_feed.data.toList.drop 0 = dktX1_feed_0 := by decide +kernel
theorem dksX1_feed_1 : cX1_feed.data.toList.drop 24 = dktX1_feed_1 := dk_seg dksX1_feed_0 24 rfl rfl
theorem dksX1_feed_2 : cX1_feed.data.toList.drop 46 = dktX1_feed_2 := dk_seg dksX1_feed_1 22 rfl rfl
theorem dX1_feed_0 : decode cX1_feed 0 = .ok (.aload_n 0, 1) := dk_42 (dk_at dksX1_feed_0 0 rfl rfl)
theorem dX1_feed_1 : decode cX1_feed 1 = .ok (.getfield 10, 3) := dk_180 0 10 (dk_at dksX1_feed_0 1 rfl rfl)
theorem dX1_feed_4 : decode cX1_feed 4 = .ok (.getfield 116, 3) := dk_180 0 116 (dk_at dksX1_feed_0 4 rfl rfl)
theorem dX1_feed_7 : decode cX1_feed 7 = .ok (.bipush 20, 2) := dk_16 20 (dk_at dksX1_feed_0 7 rfl rfl)
theorem dX1_feed_9 : decode cX1_feed 9 = .ok (.iadd, 1) := dk_96 (dk_at dksX1_feed_0 9 rfl rfl)
theorem dX1_feed_10 : decode cX1_feed 10 = .ok (.sipush 400, 3) := dk_17 1 144 (dk_at dksX1_feed_0 10 rfl rfl)
theorem dX1_feed_13 : decode cX1_feed 13 = .ok (.if_icmp .le 5, 3) := dk_164 0 5 (dk_at dksX1_feed_0 13 rfl rfl)
theorem dX1_feed_16 : decode cX1_feed 16 = .ok (.iconst (-1), 1) := dk_2 (dk_at dksX1_feed_0 16 rfl rfl)
theorem dX1_feed_17 : decode cX1_feed 17 = .ok (.ireturn, 1) := dk_172 (dk_at dksX1_feed_0 17 rfl rfl)
theorem dX1_feed_18 : decode cX1_feed 18 = .ok (.aload_n 0, 1) := dk_42 (dk_at dksX1_feed_0 18 rfl rfl)
theorem dX1_feed_19 : decode cX1_feed 19 = .ok (.iload_n 1, 1) := dk_27 (dk_at dksX1_feed_0 19 rfl rfl)
theorem dX1_feed_20 : decode cX1_feed 20 = .ok (.invokevirtual 119, 3) := dk_182 0 119 (dk_at dksX1_feed_0 20 rfl rfl)
theorem dX1_feed_23 : decode cX1_feed 23 = .ok (.aload_n 0, 1) := dk_42 (dk_at dksX1_feed_0 23 rfl rfl)
theorem dX1_feed_24 : decode cX1_feed 24 = .ok (.iload_n 2, 1) := dk_28 (dk_at dksX1_feed_1 0 rfl rfl)
theorem dX1_feed_25 : decode cX1_feed 25 = .ok (.invokevirtual 119, 3) := dk_182 0 119 (dk_at dksX1_feed_1 1 rfl rfl)
theorem dX1_feed_28 : decode cX1_feed 28 = .ok (.aload_n 0, 1) := dk_42 (dk_at dksX1_feed_1 4 rfl rfl)
theorem dX1_feed_29 : decode cX1_feed 29 = .ok (.iload_n 3, 1) := dk_29 (dk_at dksX1_feed_1 5 rfl rfl)
theorem dX1_feed_30 : decode cX1_feed 30 = .ok (.invokevirtual 119, 3) := dk_182 0 119 (dk_at dksX1_feed_1 6 rfl rfl)
theorem dX1_feed_33 : decode cX1_feed 33 = .ok (.aload_n 0, 1) := dk_42 (dk_at dksX1_feed_1 9 rfl rfl)
theorem dX1_feed_34 : decode cX1_feed 34 = .ok (.iload 4, 2) := dk_21 4 (dk_at dksX1_feed_1 10 rfl rfl)
theorem dX1_feed_36 : decode cX1_feed 36 = .ok (.invokevirtual 119, 3) := dk_182 0 119 (dk_at dksX1_feed_1 12 rfl rfl)
theorem dX1_feed_39 : decode cX1_feed 39 = .ok (.aload_n 0, 1) := dk_42 (dk_at dksX1_feed_1 15 rfl rfl)
theorem dX1_feed_40 : decode cX1_feed 40 = .ok (.iload 5, 2) := dk_21 5 (dk_at dksX1_feed_1 16 rfl rfl)
theorem dX1_feed_42 : decode cX1_feed 42 = .ok (.invokevirtual 119, 3) := dk_182 0 119 (dk_at dksX1_feed_1 18 rfl rfl)
theorem dX1_feed_45 : decode cX1_feed 45 = .ok (.aload_n 0, 1) := dk_42 (dk_at dksX1_feed_1 21 rfl rfl)
theorem dX1_feed_46 : decode cX1_feed 46 = .ok (.getfield 10, 3) := dk_180 0 10 (dk_at dksX1_feed_2 0 rfl rfl)
theorem dX1_feed_49 : decode cX1_feed 49 = .ok (.getfield 116, 3) := dk_180 0 116 (dk_at dksX1_feed_2 3 rfl rfl)
theorem dX1_feed_52 : decode cX1_feed 52 = .ok (.ireturn, 1) := dk_172 (dk_at dksX1_feed_2 6 rfl rfl)
def dkwX1_four_1 : List UInt8 := [145, 84, 42, 180, 0, 10, 89, 180, 0, 116, 4, 96, 181, 0, 116, 132, 2, 248, 167, 255, 217, 177]
abbrev dktX1_four_1 : List UInt8 := dkwX1_four_1 ++ []
def dkwX1_four_0 : List UInt8 := [16, 24, 61, 28, 155, 0, 41, 42, 180, 0, 10, 180, 0, 112, 42, 180, 0, 10, 180, 0, 116, 27, 28, 122]
abbrev dktX1_four_0 : List UInt8 := dkwX1_four_0 ++ dktX1_four_1
theorem dksX1_four_0 : cX1_four.data.toList.drop 0 = dktX1_four_0 := by decide +kernel
theorem dksX1_four_1 : cX1_four.data.toList.drop 24 = dktX1_four_1 := dk_seg dksX1_four_0 24 rfl rfl
theorem dX1_four_0 : decode cX1_four 0 = .ok (.bipush 24, 2) := dk_16 24 (dk_at dksX1_four_0 0 rfl rfl)
theorem dX1_four_2 : decode cX1_four 2 = .ok (.istore_n 2, 1) := dk_61 (dk_at dksX1_four_0 2 rfl rfl)
theorem dX1_four_3 : decode cX1_four 3 = .ok (.iload_n 2, 1) := dk_28 (dk_at dksX1_four_0 3 rfl rfl)
theorem dX1_four_4 : decode cX1_four 4 = .ok (.ifCond .lt 41, 3) := dk_155 0 41 (dk_at dksX1_four_0 4 rfl rfl)
theorem dX1_four_7 : decode cX1_four 7 = .ok (.aload_n 0, 1) := dk_42 (dk_at dksX1_four_0 7 rfl rfl)
theorem dX1_four_8 : decode cX1_four 8 = .ok (.getfield 10, 3) := dk_180 0 10 (dk_at dksX1_four_0 8 rfl rfl)
theorem dX1_four_11 : decode cX1_four 11 = .ok (.getfield 112, 3) := dk_180 0 112 (dk_at dksX1_four_0 11 rfl rfl)
theorem dX1_four_14 : decode cX1_four 14 = .ok (.aload_n 0, 1) := dk_42 (dk_at dksX1_four_0 14 rfl rfl)
theorem dX1_four_15 : decode cX1_four 15 = .ok (.getfield 10, 3) := dk_180 0 10 (dk_at dksX1_four_0 15 rfl rfl)
theorem dX1_four_18 : decode cX1_four 18 = .ok (.getfield 116, 3) := dk_180 0 116 (dk_at dksX1_four_0 18 rfl rfl)
theorem dX1_four_21 : decode cX1_four 21 = .ok (.iload_n 1, 1) := dk_27 (dk_at dksX1_four_0 21 rfl rfl)
theorem dX1_four_22 : decode cX1_four 22 = .ok (.iload_n 2, 1) := dk_28 (dk_at dksX1_four_0 22 rfl rfl)
theorem dX1_four_23 : decode cX1_four 23 = .ok (.ishr, 1) := dk_122 (dk_at dksX1_four_0 23 rfl rfl)
theorem dX1_four_24 : decode cX1_four 24 = .ok (.i2b, 1) := dk_145 (dk_at dksX1_four_1 0 rfl rfl)
theorem dX1_four_25 : decode cX1_four 25 = .ok (.bastore, 1) := dk_84 (dk_at dksX1_four_1 1 rfl rfl)
theorem dX1_four_26 : decode cX1_four 26 = .ok (.aload_n 0, 1) := dk_42 (dk_at dksX1_four_1 2 rfl rfl)
theorem dX1_four_27 : decode cX1_four 27 = .ok (.getfield 10, 3) := dk_180 0 10 (dk_at dksX1_four_1 3 rfl rfl)
theorem dX1_four_30 : decode cX1_four 30 = .ok (.dup, 1) := dk_89 (dk_at dksX1_four_1 6 rfl rfl)
theorem dX1_four_31 : decode cX1_four 31 = .ok (.getfield 116, 3) := dk_180 0 116 (dk_at dksX1_four_1 7 rfl rfl)
theorem dX1_four_34 : decode cX1_four 34 = .ok (.iconst 1, 1) := dk_4 (dk_at dksX1_four_1 10 rfl rfl)
theorem dX1_four_35 : decode cX1_four 35 = .ok (.iadd, 1) := dk_96 (dk_at dksX1_four_1 11 rfl rfl)
theorem dX1_four_36 : decode cX1_four 36 = .ok (.putfield 116, 3) := dk_181 0 116 (dk_at dksX1_four_1 12 rfl rfl)
theorem dX1_four_39 : decode cX1_four 39 = .ok (.iinc 2 (-8), 3) := dk_132 2 248 (dk_at dksX1_four_1 15 rfl rfl)
theorem dX1_four_42 : decode cX1_four 42 = .ok (.goto (-39), 3) := dk_167 255 217 (dk_at dksX1_four_1 18 rfl rfl)
theorem dX1_four_45 : decode cX1_four 45 = .ok (.return_, 1) := dk_177 (dk_at dksX1_four_1 21 rfl rfl)
def dkwX1_end_1 : List UInt8 := [181, 0, 116, 4, 172]
abbrev dktX1_end_1 : List UInt8 := dkwX1_end_1 ++ []
def dkwX1_end_0 : List UInt8 := [27, 3, 42, 180, 0, 10, 180, 0, 116, 184, 0, 85, 154, 0, 5, 3, 172, 42, 180, 0, 10, 27]
abbrev dktX1_end_0 : List UInt8 := dkwX1_end_0 ++ dktX1_end_1
theorem dksX1_end_0 : cX1_end.data.toList.drop 0 = dktX1_end_0 := by decide +kernel
theorem dksX1_end_1 : cX1_end.data.toList.drop 22 = dktX1_end_1 := dk_seg dksX1_end_0 22 rfl rfl
theorem dX1_end_0 : decode cX1_end 0 = .ok (.iload_n 1, 1) := dk_27 (dk_at dksX1_end_0 0 rfl rfl)
theorem dX1_end_1 : decode cX1_end 1 = .ok (.iconst 0, 1) := dk_3 (dk_at dksX1_end_0 1 rfl rfl)
theorem dX1_end_2 : decode cX1_end 2 = .ok (.aload_n 0, 1) := dk_42 (dk_at dksX1_end_0 2 rfl rfl)
theorem dX1_end_3 : decode cX1_end 3 = .ok (.getfield 10, 3) := dk_180 0 10 (dk_at dksX1_end_0 3 rfl rfl)
theorem dX1_end_6 : decode cX1_end 6 = .ok (.getfield 116, 3) := dk_180 0 116 (dk_at dksX1_end_0 6 rfl rfl)
theorem dX1_end_9 : decode cX1_end 9 = .ok (.invokestatic 85, 3) := dk_184 0 85 (dk_at dksX1_end_0 9 rfl rfl)
theorem dX1_end_12 : decode cX1_end 12 = .ok (.ifCond .ne 5, 3) := dk_154 0 5 (dk_at dksX1_end_0 12 rfl rfl)
theorem dX1_end_15 : decode cX1_end 15 = .ok (.iconst 0, 1) := dk_3 (dk_at dksX1_end_0 15 rfl rfl)
theorem dX1_end_16 : decode cX1_end 16 = .ok (.ireturn, 1) := dk_172 (dk_at dksX1_end_0 16 rfl rfl)
theorem dX1_end_17 : decode cX1_end 17 = .ok (.aload_n 0, 1) := dk_42 (dk_at dksX1_end_0 17 rfl rfl)
theorem dX1_end_18 : decode cX1_end 18 = .ok (.getfield 10, 3) := dk_180 0 10 (dk_at dksX1_end_0 18 rfl rfl)
theorem dX1_end_21 : decode cX1_end 21 = .ok (.iload_n 1, 1) := dk_27 (dk_at dksX1_end_0 21 rfl rfl)
theorem dX1_end_22 : decode cX1_end 22 = .ok (.putfield 116, 3) := dk_181 0 116 (dk_at dksX1_end_1 0 rfl rfl)
theorem dX1_end_25 : decode cX1_end 25 = .ok (.iconst 1, 1) := dk_4 (dk_at dksX1_end_1 3 rfl rfl)
theorem dX1_end_26 : decode cX1_end 26 = .ok (.ireturn, 1) := dk_172 (dk_at dksX1_end_1 4 rfl rfl)
def dkwX1_isIn_0 : List UInt8 := [26, 27, 161, 0, 12, 26, 28, 163, 0, 7, 4, 167, 0, 4, 3, 172]
abbrev dktX1_isIn_0 : List UInt8 := dkwX1_isIn_0 ++ []
theorem dksX1_isIn_0 : cX1_isIn.data.toList.drop 0 = dktX1_isIn_0 := by decide +kernel
theorem dX1_isIn_0 : decode cX1_isIn 0 = .ok (.iload_n 0, 1) := dk_26 (dk_at dksX1_isIn_0 0 rfl rfl)
theorem dX1_isIn_1 : decode cX1_isIn 1 = .ok (.iload_n 1, 1) := dk_27 (dk_at dksX1_isIn_0 1 rfl rfl)
theorem dX1_isIn_2 : decode cX1_isIn 2 = .ok (.if_icmp .lt 12, 3) := dk_161 0 12 (dk_at dksX1_isIn_0 2 rfl rfl)
theorem dX1_isIn_5 : decode cX1_isIn 5 = .ok (.iload_n 0, 1) := dk_26 (dk_at dksX1_isIn_0 5 rfl rfl)
theorem dX1_isIn_6 : decode cX1_isIn 6 = .ok (.iload_n 2, 1) := dk_28 (dk_at dksX1_isIn_0 6 rfl rfl)
theorem dX1_isIn_7 : decode cX1_isIn 7 = .ok (.if_icmp .gt 7, 3) := dk_163 0 7 (dk_at dksX1_isIn_0 7 rfl rfl)
theorem dX1_isIn_10 : decode cX1_isIn 10 = .ok (.iconst 1, 1) := dk_4 (dk_at dksX1_isIn_0 10 rfl rfl)
theorem dX1_isIn_11 : decode cX1_isIn 11 = .ok (.goto 4, 3) := dk_167 0 4 (dk_at dksX1_isIn_0 11 rfl rfl)
theorem dX1_isIn_14 : decode cX1_isIn 14 = .ok (.iconst 0, 1) := dk_3 (dk_at dksX1_isIn_0 14 rfl rfl)
theorem dX1_isIn_15 : decode cX1_isIn 15 = .ok (.ireturn, 1) := dk_172 (dk_at dksX1_isIn_0 15 rfl rfl)
theorem dX1_fault_0 : decode cX1_fault 0 = .ok (.aload_n 0, 1) := by decide +kernel
theorem dX1_fault_1 : decode cX1_fault 1 = .ok (.getfield 69, 3) := by decide +kernel
theorem dX1_fault_4 : decode cX1_fault 4 = .ok (.ireturn, 1) := by decide +kernel
theorem dX1_least_0 : decode cX1_least 0 = .ok (.aload_n 0, 1) := by decide +kernel
theorem dX1_least_1 : decode cX1_least 1 = .ok (.invokevirtual 283, 3) := by decide +kernel
theorem dX1_least_4 : decode cX1_least 4 = .ok (.ireturn, 1) := by decide +kernel
def dkwX1_reads_3 : List UInt8 := [181, 0, 174, 42, 180, 0, 253, 172]
abbrev dktX1_reads_3 : List UInt8 := dkwX1_reads_3 ++ []
def dkwX1_reads_2 : List UInt8 := [162, 0, 21, 42, 180, 0, 253, 155, 0, 14, 42, 27, 182, 1, 9, 132, 1, 1, 167, 255, 230, 42, 4]
abbrev dktX1_reads_2 : List UInt8 := dkwX1_reads_2 ++ dktX1_reads_3
def dkwX1_reads_1 : List UInt8 := [180, 0, 31, 42, 182, 1, 3, 182, 1, 6, 181, 0, 253, 3, 60, 27, 42, 180, 0, 19, 180, 0, 96]
abbrev dktX1_reads_1 : List UInt8 := dkwX1_reads_1 ++ dktX1_reads_2
def dkwX1_reads_0 : List UInt8 := [42, 180, 0, 174, 153, 0, 8, 42, 180, 0, 253, 172, 42, 180, 0, 31, 3, 181, 1, 0, 42, 42]
abbrev dktX1_reads_0 : List UInt8 := dkwX1_reads_0 ++ dktX1_reads_1
theorem dksX1_reads_0 : cX1_reads.data.toList.drop 0 = dktX1_reads_0 := by decide +kernel
theorem dksX1_reads_1 : cX1_reads.data.toList.drop 22 = dktX1_reads_1 := dk_seg dksX1_reads_0 22 rfl rfl
theorem dksX1_reads_2 : cX1_reads.data.toList.drop 45 = dktX1_reads_2 := dk_seg dksX1_reads_1 23 rfl rfl
theorem dksX1_reads_3 : cX1_reads.data.toList.drop 68 = dktX1_reads_3 := dk_seg dksX1_reads_2 23 rfl rfl
theorem dX1_reads_0 : decode cX1_reads 0 = .ok (.aload_n 0, 1) := dk_42 (dk_at dksX1_reads_0 0 rfl rfl)
theorem dX1_reads_1 : decode cX1_reads 1 = .ok (.getfield 174, 3) := dk_180 0 174 (dk_at dksX1_reads_0 1 rfl rfl)
theorem dX1_reads_4 : decode cX1_reads 4 = .ok (.ifCond .eq 8, 3) := dk_153 0 8 (dk_at dksX1_reads_0 4 rfl rfl)
theorem dX1_reads_7 : decode cX1_reads 7 = .ok (.aload_n 0, 1) := dk_42 (dk_at dksX1_reads_0 7 rfl rfl)
theorem dX1_reads_8 : decode cX1_reads 8 = .ok (.getfield 253, 3) := dk_180 0 253 (dk_at dksX1_reads_0 8 rfl rfl)
theorem dX1_reads_11 : decode cX1_reads 11 = .ok (.ireturn, 1) := dk_172 (dk_at dksX1_reads_0 11 rfl rfl)
theorem dX1_reads_12 : decode cX1_reads 12 = .ok (.aload_n 0, 1) := dk_42 (dk_at dksX1_reads_0 12 rfl rfl)
theorem dX1_reads_13 : decode cX1_reads 13 = .ok (.getfield 31, 3) := dk_180 0 31 (dk_at dksX1_reads_0 13 rfl rfl)
theorem dX1_reads_16 : decode cX1_reads 16 = .ok (.iconst 0, 1) := dk_3 (dk_at dksX1_reads_0 16 rfl rfl)
theorem dX1_reads_17 : decode cX1_reads 17 = .ok (.putfield 256, 3) := dk_181 1 0 (dk_at dksX1_reads_0 17 rfl rfl)
theorem dX1_reads_20 : decode cX1_reads 20 = .ok (.aload_n 0, 1) := dk_42 (dk_at dksX1_reads_0 20 rfl rfl)
theorem dX1_reads_21 : decode cX1_reads 21 = .ok (.aload_n 0, 1) := dk_42 (dk_at dksX1_reads_0 21 rfl rfl)
theorem dX1_reads_22 : decode cX1_reads 22 = .ok (.getfield 31, 3) := dk_180 0 31 (dk_at dksX1_reads_1 0 rfl rfl)
theorem dX1_reads_25 : decode cX1_reads 25 = .ok (.aload_n 0, 1) := dk_42 (dk_at dksX1_reads_1 3 rfl rfl)
theorem dX1_reads_26 : decode cX1_reads 26 = .ok (.invokevirtual 259, 3) := dk_182 1 3 (dk_at dksX1_reads_1 4 rfl rfl)
theorem dX1_reads_29 : decode cX1_reads 29 = .ok (.invokevirtual 262, 3) := dk_182 1 6 (dk_at dksX1_reads_1 7 rfl rfl)
theorem dX1_reads_32 : decode cX1_reads 32 = .ok (.putfield 253, 3) := dk_181 0 253 (dk_at dksX1_reads_1 10 rfl rfl)
theorem dX1_reads_35 : decode cX1_reads 35 = .ok (.iconst 0, 1) := dk_3 (dk_at dksX1_reads_1 13 rfl rfl)
theorem dX1_reads_36 : decode cX1_reads 36 = .ok (.istore_n 1, 1) := dk_60 (dk_at dksX1_reads_1 14 rfl rfl)
theorem dX1_reads_37 : decode cX1_reads 37 = .ok (.iload_n 1, 1) := dk_27 (dk_at dksX1_reads_1 15 rfl rfl)
theorem dX1_reads_38 : decode cX1_reads 38 = .ok (.aload_n 0, 1) := dk_42 (dk_at dksX1_reads_1 16 rfl rfl)
theorem dX1_reads_39 : decode cX1_reads 39 = .ok (.getfield 19, 3) := dk_180 0 19 (dk_at dksX1_reads_1 17 rfl rfl)
theorem dX1_reads_42 : decode cX1_reads 42 = .ok (.getfield 96, 3) := dk_180 0 96 (dk_at dksX1_reads_1 20 rfl rfl)
theorem dX1_reads_45 : decode cX1_reads 45 = .ok (.if_icmp .ge 21, 3) := dk_162 0 21 (dk_at dksX1_reads_2 0 rfl rfl)
theorem dX1_reads_48 : decode cX1_reads 48 = .ok (.aload_n 0, 1) := dk_42 (dk_at dksX1_reads_2 3 rfl rfl)
theorem dX1_reads_49 : decode cX1_reads 49 = .ok (.getfield 253, 3) := dk_180 0 253 (dk_at dksX1_reads_2 4 rfl rfl)
theorem dX1_reads_52 : decode cX1_reads 52 = .ok (.ifCond .lt 14, 3) := dk_155 0 14 (dk_at dksX1_reads_2 7 rfl rfl)
theorem dX1_reads_55 : decode cX1_reads 55 = .ok (.aload_n 0, 1) := dk_42 (dk_at dksX1_reads_2 10 rfl rfl)
theorem dX1_reads_56 : decode cX1_reads 56 = .ok (.iload_n 1, 1) := dk_27 (dk_at dksX1_reads_2 11 rfl rfl)
theorem dX1_reads_57 : decode cX1_reads 57 = .ok (.invokevirtual 265, 3) := dk_182 1 9 (dk_at dksX1_reads_2 12 rfl rfl)
theorem dX1_reads_60 : decode cX1_reads 60 = .ok (.iinc 1 1, 3) := dk_132 1 1 (dk_at dksX1_reads_2 15 rfl rfl)
theorem dX1_reads_63 : decode cX1_reads 63 = .ok (.goto (-26), 3) := dk_167 255 230 (dk_at dksX1_reads_2 18 rfl rfl)
theorem dX1_reads_66 : decode cX1_reads 66 = .ok (.aload_n 0, 1) := dk_42 (dk_at dksX1_reads_2 21 rfl rfl)
theorem dX1_reads_67 : decode cX1_reads 67 = .ok (.iconst 1, 1) := dk_4 (dk_at dksX1_reads_2 22 rfl rfl)
theorem dX1_reads_68 : decode cX1_reads 68 = .ok (.putfield 174, 3) := dk_181 0 174 (dk_at dksX1_reads_3 0 rfl rfl)
theorem dX1_reads_71 : decode cX1_reads 71 = .ok (.aload_n 0, 1) := dk_42 (dk_at dksX1_reads_3 3 rfl rfl)
theorem dX1_reads_72 : decode cX1_reads 72 = .ok (.getfield 253, 3) := dk_180 0 253 (dk_at dksX1_reads_3 4 rfl rfl)
theorem dX1_reads_75 : decode cX1_reads 75 = .ok (.ireturn, 1) := dk_172 (dk_at dksX1_reads_3 7 rfl rfl)
def dkwX1_allBooks_0 : List UInt8 := [4, 42, 180, 0, 19, 180, 0, 96, 120, 4, 100, 172]
abbrev dktX1_allBooks_0 : List UInt8 := dkwX1_allBooks_0 ++ []
theorem dksX1_allBooks_0 : cX1_allBooks.data.toList.drop 0 = dktX1_allBooks_0 := by decide +kernel
theorem dX1_allBooks_0 : decode cX1_allBooks 0 = .ok (.iconst 1, 1) := dk_4 (dk_at dksX1_allBooks_0 0 rfl rfl)
theorem dX1_allBooks_1 : decode cX1_allBooks 1 = .ok (.aload_n 0, 1) := dk_42 (dk_at dksX1_allBooks_0 1 rfl rfl)
theorem dX1_allBooks_2 : decode cX1_allBooks 2 = .ok (.getfield 19, 3) := dk_180 0 19 (dk_at dksX1_allBooks_0 2 rfl rfl)
theorem dX1_allBooks_5 : decode cX1_allBooks 5 = .ok (.getfield 96, 3) := dk_180 0 96 (dk_at dksX1_allBooks_0 5 rfl rfl)
theorem dX1_allBooks_8 : decode cX1_allBooks 8 = .ok (.ishl, 1) := dk_120 (dk_at dksX1_allBooks_0 8 rfl rfl)
theorem dX1_allBooks_9 : decode cX1_allBooks 9 = .ok (.iconst 1, 1) := dk_4 (dk_at dksX1_allBooks_0 9 rfl rfl)
theorem dX1_allBooks_10 : decode cX1_allBooks 10 = .ok (.isub, 1) := dk_100 (dk_at dksX1_allBooks_0 10 rfl rfl)
theorem dX1_allBooks_11 : decode cX1_allBooks 11 = .ok (.ireturn, 1) := dk_172 (dk_at dksX1_allBooks_0 11 rfl rfl)
def dkwX1_lays_18 : List UInt8 := [167, 255, 14, 177]
abbrev dktX1_lays_18 : List UInt8 := dkwX1_lays_18 ++ []
def dkwX1_lays_17 : List UInt8 := [92, 46, 4, 96, 79, 167, 0, 17, 132, 4, 255, 42, 180, 0, 40, 27, 50, 21, 4, 16, 7, 79]
abbrev dktX1_lays_17 : List UInt8 := dkwX1_lays_17 ++ dktX1_lays_18
def dkwX1_lays_16 : List UInt8 := [16, 6, 46, 96, 160, 0, 28, 132, 3, 255, 42, 180, 0, 43, 27, 50, 29, 2, 79, 42, 180, 0, 52, 27]
abbrev dktX1_lays_16 : List UInt8 := dkwX1_lays_16 ++ dktX1_lays_17
def dkwX1_lays_15 : List UInt8 := [29, 50, 21, 4, 46, 42, 180, 0, 46, 29, 4, 100, 50, 21, 4, 46, 42, 180, 0, 19, 180, 0, 237]
abbrev dktX1_lays_15 : List UInt8 := dkwX1_lays_15 ++ dktX1_lays_16
def dkwX1_lays_14 : List UInt8 := [167, 0, 93, 29, 158, 0, 75, 42, 180, 0, 19, 180, 0, 237, 16, 6, 46, 158, 0, 62, 42, 180, 0, 46]
abbrev dktX1_lays_14 : List UInt8 := dkwX1_lays_14 ++ dktX1_lays_15
def dkwX1_lays_13 : List UInt8 := [132, 4, 255, 42, 180, 0, 40, 27, 50, 21, 4, 21, 5, 79, 42, 180, 0, 43, 27, 50, 29, 21, 4, 79]
abbrev dktX1_lays_13 : List UInt8 := dkwX1_lays_13 ++ dktX1_lays_14
def dkwX1_lays_12 : List UInt8 := [154, 0, 7, 3, 167, 0, 13, 42, 180, 0, 19, 180, 0, 237, 21, 5, 46, 96, 160, 0, 33, 132, 3, 255]
abbrev dktX1_lays_12 : List UInt8 := dkwX1_lays_12 ++ dktX1_lays_13
def dkwX1_lays_11 : List UInt8 := [180, 0, 46, 29, 50, 21, 4, 46, 42, 180, 0, 46, 29, 4, 100, 50, 21, 4, 4, 100, 46, 21, 5]
abbrev dktX1_lays_11 : List UInt8 := dkwX1_lays_11 ++ dktX1_lays_12
def dkwX1_lays_10 : List UInt8 := [180, 0, 19, 180, 0, 237, 182, 1, 23, 167, 0, 4, 2, 54, 5, 21, 5, 2, 159, 0, 78, 42]
abbrev dktX1_lays_10 : List UInt8 := dkwX1_lays_10 ++ dktX1_lays_11
def dkwX1_lays_9 : List UInt8 := [180, 0, 56, 29, 4, 100, 46, 29, 4, 100, 5, 112, 42, 180, 0, 31, 180, 1, 16, 29, 4, 100, 46, 42]
abbrev dktX1_lays_9 : List UInt8 := dkwX1_lays_9 ++ dktX1_lays_10
def dkwX1_lays_8 : List UInt8 := [29, 158, 0, 58, 21, 4, 158, 0, 53, 44, 180, 0, 193, 21, 4, 4, 100, 50, 44, 180, 0, 182, 42]
abbrev dktX1_lays_8 : List UInt8 := dkwX1_lays_8 ++ dktX1_lays_9
def dkwX1_lays_7 : List UInt8 := [79, 42, 180, 0, 31, 180, 1, 13, 62, 44, 180, 0, 107, 54, 4, 29, 157, 0, 8, 21, 4, 158, 0, 239]
abbrev dktX1_lays_7 : List UInt8 := dkwX1_lays_7 ++ dktX1_lays_8
def dkwX1_lays_6 : List UInt8 := [46, 79, 42, 180, 0, 65, 21, 4, 182, 0, 231, 87, 132, 3, 1, 167, 255, 160, 42, 180, 0, 52, 27, 3]
abbrev dktX1_lays_6 : List UInt8 := dkwX1_lays_6 ++ dktX1_lays_7
def dkwX1_lays_5 : List UInt8 := [21, 4, 182, 1, 19, 54, 5, 42, 180, 0, 56, 29, 42, 180, 0, 65, 180, 0, 169, 21, 4, 16, 36, 108]
abbrev dktX1_lays_5 : List UInt8 := dkwX1_lays_5 ++ dktX1_lays_6
def dkwX1_lays_4 : List UInt8 := [180, 0, 46, 29, 4, 96, 50, 42, 180, 0, 65, 180, 0, 169, 21, 4, 16, 36, 108, 46, 29, 5, 112]
abbrev dktX1_lays_4 : List UInt8 := dkwX1_lays_4 ++ dktX1_lays_5
def dkwX1_lays_3 : List UInt8 := [180, 0, 31, 180, 1, 16, 29, 46, 54, 4, 42, 180, 0, 31, 44, 42, 180, 0, 46, 29, 50, 42]
abbrev dktX1_lays_3 : List UInt8 := dkwX1_lays_3 ++ dktX1_lays_4
def dkwX1_lays_2 : List UInt8 := [19, 1, 12, 79, 132, 3, 1, 167, 255, 228, 3, 62, 29, 42, 180, 0, 31, 180, 1, 13, 162, 0, 91, 42]
abbrev dktX1_lays_2 : List UInt8 := dkwX1_lays_2 ++ dktX1_lays_3
def dkwX1_lays_1 : List UInt8 := [3, 62, 29, 16, 24, 163, 0, 28, 42, 180, 0, 46, 3, 50, 29, 29, 154, 0, 7, 3, 167, 0, 6]
abbrev dktX1_lays_1 : List UInt8 := dkwX1_lays_1 ++ dktX1_lays_2
def dkwX1_lays_0 : List UInt8 := [42, 180, 0, 19, 180, 0, 99, 27, 50, 77, 42, 180, 0, 65, 42, 180, 0, 19, 180, 0, 166, 182, 0, 224]
abbrev dktX1_lays_0 : List UInt8 := dkwX1_lays_0 ++ dktX1_lays_1
theorem dksX1_lays_0 : cX1_lays.data.toList.drop 0 = dktX1_lays_0 := by decide +kernel
theorem dksX1_lays_1 : cX1_lays.data.toList.drop 24 = dktX1_lays_1 := dk_seg dksX1_lays_0 24 rfl rfl
theorem dksX1_lays_2 : cX1_lays.data.toList.drop 47 = dktX1_lays_2 := dk_seg dksX1_lays_1 23 rfl rfl
theorem dksX1_lays_3 : cX1_lays.data.toList.drop 71 = dktX1_lays_3 := dk_seg dksX1_lays_2 24 rfl rfl
theorem dksX1_lays_4 : cX1_lays.data.toList.drop 93 = dktX1_lays_4 := dk_seg dksX1_lays_3 22 rfl rfl
theorem dksX1_lays_5 : cX1_lays.data.toList.drop 116 = dktX1_lays_5 := dk_seg dksX1_lays_4 23 rfl rfl
theorem dksX1_lays_6 : cX1_lays.data.toList.drop 140 = dktX1_lays_6 := dk_seg dksX1_lays_5 24 rfl rfl
theorem dksX1_lays_7 : cX1_lays.data.toList.drop 164 = dktX1_lays_7 := dk_seg dksX1_lays_6 24 rfl rfl
theorem dksX1_lays_8 : cX1_lays.data.toList.drop 188 = dktX1_lays_8 := dk_seg dksX1_lays_7 24 rfl rfl
theorem dksX1_lays_9 : cX1_lays.data.toList.drop 211 = dktX1_lays_9 := dk_seg dksX1_lays_8 23 rfl rfl
theorem dksX1_lays_10 : cX1_lays.data.toList.drop 235 = dktX1_lays_10 := dk_seg dksX1_lays_9 24 rfl rfl
theorem dksX1_lays_11 : cX1_lays.data.toList.drop 257 = dktX1_lays_11 := dk_seg dksX1_lays_10 22 rfl rfl
theorem dksX1_lays_12 : cX1_lays.data.toList.drop 280 = dktX1_lays_12 := dk_seg dksX1_lays_11 23 rfl rfl
theorem dksX1_lays_13 : cX1_lays.data.toList.drop 304 = dktX1_lays_13 := dk_seg dksX1_lays_12 24 rfl rfl
theorem dksX1_lays_14 : cX1_lays.data.toList.drop 328 = dktX1_lays_14 := dk_seg dksX1_lays_13 24 rfl rfl
theorem dksX1_lays_15 : cX1_lays.data.toList.drop 352 = dktX1_lays_15 := dk_seg dksX1_lays_14 24 rfl rfl
theorem dksX1_lays_16 : cX1_lays.data.toList.drop 375 = dktX1_lays_16 := dk_seg dksX1_lays_15 23 rfl rfl
theorem dksX1_lays_17 : cX1_lays.data.toList.drop 399 = dktX1_lays_17 := dk_seg dksX1_lays_16 24 rfl rfl
theorem dksX1_lays_18 : cX1_lays.data.toList.drop 421 = dktX1_lays_18 := dk_seg dksX1_lays_17 22 rfl rfl
theorem dX1_lays_0 : decode cX1_lays 0 = .ok (.aload_n 0, 1) := dk_42 (dk_at dksX1_lays_0 0 rfl rfl)
theorem dX1_lays_1 : decode cX1_lays 1 = .ok (.getfield 19, 3) := dk_180 0 19 (dk_at dksX1_lays_0 1 rfl rfl)
theorem dX1_lays_4 : decode cX1_lays 4 = .ok (.getfield 99, 3) := dk_180 0 99 (dk_at dksX1_lays_0 4 rfl rfl)
theorem dX1_lays_7 : decode cX1_lays 7 = .ok (.iload_n 1, 1) := dk_27 (dk_at dksX1_lays_0 7 rfl rfl)
theorem dX1_lays_8 : decode cX1_lays 8 = .ok (.aaload, 1) := dk_50 (dk_at dksX1_lays_0 8 rfl rfl)
theorem dX1_lays_9 : decode cX1_lays 9 = .ok (.astore_n 2, 1) := dk_77 (dk_at dksX1_lays_0 9 rfl rfl)
theorem dX1_lays_10 : decode cX1_lays 10 = .ok (.aload_n 0, 1) := dk_42 (dk_at dksX1_lays_0 10 rfl rfl)
theorem dX1_lays_11 : decode cX1_lays 11 = .ok (.getfield 65, 3) := dk_180 0 65 (dk_at dksX1_lays_0 11 rfl rfl)
theorem dX1_lays_14 : decode cX1_lays 14 = .ok (.aload_n 0, 1) := dk_42 (dk_at dksX1_lays_0 14 rfl rfl)
theorem dX1_lays_15 : decode cX1_lays 15 = .ok (.getfield 19, 3) := dk_180 0 19 (dk_at dksX1_lays_0 15 rfl rfl)
theorem dX1_lays_18 : decode cX1_lays 18 = .ok (.getfield 166, 3) := dk_180 0 166 (dk_at dksX1_lays_0 18 rfl rfl)
theorem dX1_lays_21 : decode cX1_lays 21 = .ok (.invokevirtual 224, 3) := dk_182 0 224 (dk_at dksX1_lays_0 21 rfl rfl)
theorem dX1_lays_24 : decode cX1_lays 24 = .ok (.iconst 0, 1) := dk_3 (dk_at dksX1_lays_1 0 rfl rfl)
theorem dX1_lays_25 : decode cX1_lays 25 = .ok (.istore_n 3, 1) := dk_62 (dk_at dksX1_lays_1 1 rfl rfl)
theorem dX1_lays_26 : decode cX1_lays 26 = .ok (.iload_n 3, 1) := dk_29 (dk_at dksX1_lays_1 2 rfl rfl)
theorem dX1_lays_27 : decode cX1_lays 27 = .ok (.bipush 24, 2) := dk_16 24 (dk_at dksX1_lays_1 3 rfl rfl)
theorem dX1_lays_29 : decode cX1_lays 29 = .ok (.if_icmp .gt 28, 3) := dk_163 0 28 (dk_at dksX1_lays_1 5 rfl rfl)
theorem dX1_lays_32 : decode cX1_lays 32 = .ok (.aload_n 0, 1) := dk_42 (dk_at dksX1_lays_1 8 rfl rfl)
theorem dX1_lays_33 : decode cX1_lays 33 = .ok (.getfield 46, 3) := dk_180 0 46 (dk_at dksX1_lays_1 9 rfl rfl)
theorem dX1_lays_36 : decode cX1_lays 36 = .ok (.iconst 0, 1) := dk_3 (dk_at dksX1_lays_1 12 rfl rfl)
theorem dX1_lays_37 : decode cX1_lays 37 = .ok (.aaload, 1) := dk_50 (dk_at dksX1_lays_1 13 rfl rfl)
theorem dX1_lays_38 : decode cX1_lays 38 = .ok (.iload_n 3, 1) := dk_29 (dk_at dksX1_lays_1 14 rfl rfl)
theorem dX1_lays_39 : decode cX1_lays 39 = .ok (.iload_n 3, 1) := dk_29 (dk_at dksX1_lays_1 15 rfl rfl)
theorem dX1_lays_40 : decode cX1_lays 40 = .ok (.ifCond .ne 7, 3) := dk_154 0 7 (dk_at dksX1_lays_1 16 rfl rfl)
theorem dX1_lays_43 : decode cX1_lays 43 = .ok (.iconst 0, 1) := dk_3 (dk_at dksX1_lays_1 19 rfl rfl)
theorem dX1_lays_44 : decode cX1_lays 44 = .ok (.goto 6, 3) := dk_167 0 6 (dk_at dksX1_lays_1 20 rfl rfl)
theorem dX1_lays_47 : decode cX1_lays 47 = .ok (.ldc_w 268, 3) := dk_19 1 12 (dk_at dksX1_lays_2 0 rfl rfl)
theorem dX1_lays_50 : decode cX1_lays 50 = .ok (.iastore, 1) := dk_79 (dk_at dksX1_lays_2 3 rfl rfl)
theorem dX1_lays_51 : decode cX1_lays 51 = .ok (.iinc 3 1, 3) := dk_132 3 1 (dk_at dksX1_lays_2 4 rfl rfl)
theorem dX1_lays_54 : decode cX1_lays 54 = .ok (.goto (-28), 3) := dk_167 255 228 (dk_at dksX1_lays_2 7 rfl rfl)
theorem dX1_lays_57 : decode cX1_lays 57 = .ok (.iconst 0, 1) := dk_3 (dk_at dksX1_lays_2 10 rfl rfl)
theorem dX1_lays_58 : decode cX1_lays 58 = .ok (.istore_n 3, 1) := dk_62 (dk_at dksX1_lays_2 11 rfl rfl)
theorem dX1_lays_59 : decode cX1_lays 59 = .ok (.iload_n 3, 1) := dk_29 (dk_at dksX1_lays_2 12 rfl rfl)
theorem dX1_lays_60 : decode cX1_lays 60 = .ok (.aload_n 0, 1) := dk_42 (dk_at dksX1_lays_2 13 rfl rfl)
theorem dX1_lays_61 : decode cX1_lays 61 = .ok (.getfield 31, 3) := dk_180 0 31 (dk_at dksX1_lays_2 14 rfl rfl)
theorem dX1_lays_64 : decode cX1_lays 64 = .ok (.getfield 269, 3) := dk_180 1 13 (dk_at dksX1_lays_2 17 rfl rfl)
theorem dX1_lays_67 : decode cX1_lays 67 = .ok (.if_icmp .ge 91, 3) := dk_162 0 91 (dk_at dksX1_lays_2 20 rfl rfl)
theorem dX1_lays_70 : decode cX1_lays 70 = .ok (.aload_n 0, 1) := dk_42 (dk_at dksX1_lays_2 23 rfl rfl)
theorem dX1_lays_71 : decode cX1_lays 71 = .ok (.getfield 31, 3) := dk_180 0 31 (dk_at dksX1_lays_3 0 rfl rfl)
theorem dX1_lays_74 : decode cX1_lays 74 = .ok (.getfield 272, 3) := dk_180 1 16 (dk_at dksX1_lays_3 3 rfl rfl)
theorem dX1_lays_77 : decode cX1_lays 77 = .ok (.iload_n 3, 1) := dk_29 (dk_at dksX1_lays_3 6 rfl rfl)
theorem dX1_lays_78 : decode cX1_lays 78 = .ok (.iaload, 1) := dk_46 (dk_at dksX1_lays_3 7 rfl rfl)
theorem dX1_lays_79 : decode cX1_lays 79 = .ok (.istore 4, 2) := dk_54 4 (dk_at dksX1_lays_3 8 rfl rfl)
theorem dX1_lays_81 : decode cX1_lays 81 = .ok (.aload_n 0, 1) := dk_42 (dk_at dksX1_lays_3 10 rfl rfl)
theorem dX1_lays_82 : decode cX1_lays 82 = .ok (.getfield 31, 3) := dk_180 0 31 (dk_at dksX1_lays_3 11 rfl rfl)
theorem dX1_lays_85 : decode cX1_lays 85 = .ok (.aload_n 2, 1) := dk_44 (dk_at dksX1_lays_3 14 rfl rfl)
theorem dX1_lays_86 : decode cX1_lays 86 = .ok (.aload_n 0, 1) := dk_42 (dk_at dksX1_lays_3 15 rfl rfl)
theorem dX1_lays_87 : decode cX1_lays 87 = .ok (.getfield 46, 3) := dk_180 0 46 (dk_at dksX1_lays_3 16 rfl rfl)
theorem dX1_lays_90 : decode cX1_lays 90 = .ok (.iload_n 3, 1) := dk_29 (dk_at dksX1_lays_3 19 rfl rfl)
theorem dX1_lays_91 : decode cX1_lays 91 = .ok (.aaload, 1) := dk_50 (dk_at dksX1_lays_3 20 rfl rfl)
theorem dX1_lays_92 : decode cX1_lays 92 = .ok (.aload_n 0, 1) := dk_42 (dk_at dksX1_lays_3 21 rfl rfl)
theorem dX1_lays_93 : decode cX1_lays 93 = .ok (.getfield 46, 3) := dk_180 0 46 (dk_at dksX1_lays_4 0 rfl rfl)
theorem dX1_lays_96 : decode cX1_lays 96 = .ok (.iload_n 3, 1) := dk_29 (dk_at dksX1_lays_4 3 rfl rfl)
theorem dX1_lays_97 : decode cX1_lays 97 = .ok (.iconst 1, 1) := dk_4 (dk_at dksX1_lays_4 4 rfl rfl)
theorem dX1_lays_98 : decode cX1_lays 98 = .ok (.iadd, 1) := dk_96 (dk_at dksX1_lays_4 5 rfl rfl)
theorem dX1_lays_99 : decode cX1_lays 99 = .ok (.aaload, 1) := dk_50 (dk_at dksX1_lays_4 6 rfl rfl)
theorem dX1_lays_100 : decode cX1_lays 100 = .ok (.aload_n 0, 1) := dk_42 (dk_at dksX1_lays_4 7 rfl rfl)
theorem dX1_lays_101 : decode cX1_lays 101 = .ok (.getfield 65, 3) := dk_180 0 65 (dk_at dksX1_lays_4 8 rfl rfl)
theorem dX1_lays_104 : decode cX1_lays 104 = .ok (.getfield 169, 3) := dk_180 0 169 (dk_at dksX1_lays_4 11 rfl rfl)
theorem dX1_lays_107 : decode cX1_lays 107 = .ok (.iload 4, 2) := dk_21 4 (dk_at dksX1_lays_4 14 rfl rfl)
theorem dX1_lays_109 : decode cX1_lays 109 = .ok (.bipush 36, 2) := dk_16 36 (dk_at dksX1_lays_4 16 rfl rfl)
theorem dX1_lays_111 : decode cX1_lays 111 = .ok (.idiv, 1) := dk_108 (dk_at dksX1_lays_4 18 rfl rfl)
theorem dX1_lays_112 : decode cX1_lays 112 = .ok (.iaload, 1) := dk_46 (dk_at dksX1_lays_4 19 rfl rfl)
theorem dX1_lays_113 : decode cX1_lays 113 = .ok (.iload_n 3, 1) := dk_29 (dk_at dksX1_lays_4 20 rfl rfl)
theorem dX1_lays_114 : decode cX1_lays 114 = .ok (.iconst 2, 1) := dk_5 (dk_at dksX1_lays_4 21 rfl rfl)
theorem dX1_lays_115 : decode cX1_lays 115 = .ok (.irem, 1) := dk_112 (dk_at dksX1_lays_4 22 rfl rfl)
theorem dX1_lays_116 : decode cX1_lays 116 = .ok (.iload 4, 2) := dk_21 4 (dk_at dksX1_lays_5 0 rfl rfl)
theorem dX1_lays_118 : decode cX1_lays 118 = .ok (.invokevirtual 275, 3) := dk_182 1 19 (dk_at dksX1_lays_5 2 rfl rfl)
theorem dX1_lays_121 : decode cX1_lays 121 = .ok (.istore 5, 2) := dk_54 5 (dk_at dksX1_lays_5 5 rfl rfl)
theorem dX1_lays_123 : decode cX1_lays 123 = .ok (.aload_n 0, 1) := dk_42 (dk_at dksX1_lays_5 7 rfl rfl)
theorem dX1_lays_124 : decode cX1_lays 124 = .ok (.getfield 56, 3) := dk_180 0 56 (dk_at dksX1_lays_5 8 rfl rfl)
theorem dX1_lays_127 : decode cX1_lays 127 = .ok (.iload_n 3, 1) := dk_29 (dk_at dksX1_lays_5 11 rfl rfl)
theorem dX1_lays_128 : decode cX1_lays 128 = .ok (.aload_n 0, 1) := dk_42 (dk_at dksX1_lays_5 12 rfl rfl)
theorem dX1_lays_129 : decode cX1_lays 129 = .ok (.getfield 65, 3) := dk_180 0 65 (dk_at dksX1_lays_5 13 rfl rfl)
theorem dX1_lays_132 : decode cX1_lays 132 = .ok (.getfield 169, 3) := dk_180 0 169 (dk_at dksX1_lays_5 16 rfl rfl)
theorem dX1_lays_135 : decode cX1_lays 135 = .ok (.iload 4, 2) := dk_21 4 (dk_at dksX1_lays_5 19 rfl rfl)
theorem dX1_lays_137 : decode cX1_lays 137 = .ok (.bipush 36, 2) := dk_16 36 (dk_at dksX1_lays_5 21 rfl rfl)
theorem dX1_lays_139 : decode cX1_lays 139 = .ok (.idiv, 1) := dk_108 (dk_at dksX1_lays_5 23 rfl rfl)
theorem dX1_lays_140 : decode cX1_lays 140 = .ok (.iaload, 1) := dk_46 (dk_at dksX1_lays_6 0 rfl rfl)
theorem dX1_lays_141 : decode cX1_lays 141 = .ok (.iastore, 1) := dk_79 (dk_at dksX1_lays_6 1 rfl rfl)
theorem dX1_lays_142 : decode cX1_lays 142 = .ok (.aload_n 0, 1) := dk_42 (dk_at dksX1_lays_6 2 rfl rfl)
theorem dX1_lays_143 : decode cX1_lays 143 = .ok (.getfield 65, 3) := dk_180 0 65 (dk_at dksX1_lays_6 3 rfl rfl)
theorem dX1_lays_146 : decode cX1_lays 146 = .ok (.iload 4, 2) := dk_21 4 (dk_at dksX1_lays_6 6 rfl rfl)
theorem dX1_lays_148 : decode cX1_lays 148 = .ok (.invokevirtual 231, 3) := dk_182 0 231 (dk_at dksX1_lays_6 8 rfl rfl)
theorem dX1_lays_151 : decode cX1_lays 151 = .ok (.pop, 1) := dk_87 (dk_at dksX1_lays_6 11 rfl rfl)
theorem dX1_lays_152 : decode cX1_lays 152 = .ok (.iinc 3 1, 3) := dk_132 3 1 (dk_at dksX1_lays_6 12 rfl rfl)
theorem dX1_lays_155 : decode cX1_lays 155 = .ok (.goto (-96), 3) := dk_167 255 160 (dk_at dksX1_lays_6 15 rfl rfl)
theorem dX1_lays_158 : decode cX1_lays 158 = .ok (.aload_n 0, 1) := dk_42 (dk_at dksX1_lays_6 18 rfl rfl)
theorem dX1_lays_159 : decode cX1_lays 159 = .ok (.getfield 52, 3) := dk_180 0 52 (dk_at dksX1_lays_6 19 rfl rfl)
theorem dX1_lays_162 : decode cX1_lays 162 = .ok (.iload_n 1, 1) := dk_27 (dk_at dksX1_lays_6 22 rfl rfl)
theorem dX1_lays_163 : decode cX1_lays 163 = .ok (.iconst 0, 1) := dk_3 (dk_at dksX1_lays_6 23 rfl rfl)
theorem dX1_lays_164 : decode cX1_lays 164 = .ok (.iastore, 1) := dk_79 (dk_at dksX1_lays_7 0 rfl rfl)
theorem dX1_lays_165 : decode cX1_lays 165 = .ok (.aload_n 0, 1) := dk_42 (dk_at dksX1_lays_7 1 rfl rfl)
theorem dX1_lays_166 : decode cX1_lays 166 = .ok (.getfield 31, 3) := dk_180 0 31 (dk_at dksX1_lays_7 2 rfl rfl)
theorem dX1_lays_169 : decode cX1_lays 169 = .ok (.getfield 269, 3) := dk_180 1 13 (dk_at dksX1_lays_7 5 rfl rfl)
theorem dX1_lays_172 : decode cX1_lays 172 = .ok (.istore_n 3, 1) := dk_62 (dk_at dksX1_lays_7 8 rfl rfl)
theorem dX1_lays_173 : decode cX1_lays 173 = .ok (.aload_n 2, 1) := dk_44 (dk_at dksX1_lays_7 9 rfl rfl)
theorem dX1_lays_174 : decode cX1_lays 174 = .ok (.getfield 107, 3) := dk_180 0 107 (dk_at dksX1_lays_7 10 rfl rfl)
theorem dX1_lays_177 : decode cX1_lays 177 = .ok (.istore 4, 2) := dk_54 4 (dk_at dksX1_lays_7 13 rfl rfl)
theorem dX1_lays_179 : decode cX1_lays 179 = .ok (.iload_n 3, 1) := dk_29 (dk_at dksX1_lays_7 15 rfl rfl)
theorem dX1_lays_180 : decode cX1_lays 180 = .ok (.ifCond .gt 8, 3) := dk_157 0 8 (dk_at dksX1_lays_7 16 rfl rfl)
theorem dX1_lays_183 : decode cX1_lays 183 = .ok (.iload 4, 2) := dk_21 4 (dk_at dksX1_lays_7 19 rfl rfl)
theorem dX1_lays_185 : decode cX1_lays 185 = .ok (.ifCond .le 239, 3) := dk_158 0 239 (dk_at dksX1_lays_7 21 rfl rfl)
theorem dX1_lays_188 : decode cX1_lays 188 = .ok (.iload_n 3, 1) := dk_29 (dk_at dksX1_lays_8 0 rfl rfl)
theorem dX1_lays_189 : decode cX1_lays 189 = .ok (.ifCond .le 58, 3) := dk_158 0 58 (dk_at dksX1_lays_8 1 rfl rfl)
theorem dX1_lays_192 : decode cX1_lays 192 = .ok (.iload 4, 2) := dk_21 4 (dk_at dksX1_lays_8 4 rfl rfl)
theorem dX1_lays_194 : decode cX1_lays 194 = .ok (.ifCond .le 53, 3) := dk_158 0 53 (dk_at dksX1_lays_8 6 rfl rfl)
theorem dX1_lays_197 : decode cX1_lays 197 = .ok (.aload_n 2, 1) := dk_44 (dk_at dksX1_lays_8 9 rfl rfl)
theorem dX1_lays_198 : decode cX1_lays 198 = .ok (.getfield 193, 3) := dk_180 0 193 (dk_at dksX1_lays_8 10 rfl rfl)
theorem dX1_lays_201 : decode cX1_lays 201 = .ok (.iload 4, 2) := dk_21 4 (dk_at dksX1_lays_8 13 rfl rfl)
theorem dX1_lays_203 : decode cX1_lays 203 = .ok (.iconst 1, 1) := dk_4 (dk_at dksX1_lays_8 15 rfl rfl)
theorem dX1_lays_204 : decode cX1_lays 204 = .ok (.isub, 1) := dk_100 (dk_at dksX1_lays_8 16 rfl rfl)
theorem dX1_lays_205 : decode cX1_lays 205 = .ok (.aaload, 1) := dk_50 (dk_at dksX1_lays_8 17 rfl rfl)
theorem dX1_lays_206 : decode cX1_lays 206 = .ok (.aload_n 2, 1) := dk_44 (dk_at dksX1_lays_8 18 rfl rfl)
theorem dX1_lays_207 : decode cX1_lays 207 = .ok (.getfield 182, 3) := dk_180 0 182 (dk_at dksX1_lays_8 19 rfl rfl)
theorem dX1_lays_210 : decode cX1_lays 210 = .ok (.aload_n 0, 1) := dk_42 (dk_at dksX1_lays_8 22 rfl rfl)
theorem dX1_lays_211 : decode cX1_lays 211 = .ok (.getfield 56, 3) := dk_180 0 56 (dk_at dksX1_lays_9 0 rfl rfl)
theorem dX1_lays_214 : decode cX1_lays 214 = .ok (.iload_n 3, 1) := dk_29 (dk_at dksX1_lays_9 3 rfl rfl)
theorem dX1_lays_215 : decode cX1_lays 215 = .ok (.iconst 1, 1) := dk_4 (dk_at dksX1_lays_9 4 rfl rfl)
theorem dX1_lays_216 : decode cX1_lays 216 = .ok (.isub, 1) := dk_100 (dk_at dksX1_lays_9 5 rfl rfl)
theorem dX1_lays_217 : decode cX1_lays 217 = .ok (.iaload, 1) := dk_46 (dk_at dksX1_lays_9 6 rfl rfl)
theorem dX1_lays_218 : decode cX1_lays 218 = .ok (.iload_n 3, 1) := dk_29 (dk_at dksX1_lays_9 7 rfl rfl)
theorem dX1_lays_219 : decode cX1_lays 219 = .ok (.iconst 1, 1) := dk_4 (dk_at dksX1_lays_9 8 rfl rfl)
theorem dX1_lays_220 : decode cX1_lays 220 = .ok (.isub, 1) := dk_100 (dk_at dksX1_lays_9 9 rfl rfl)
theorem dX1_lays_221 : decode cX1_lays 221 = .ok (.iconst 2, 1) := dk_5 (dk_at dksX1_lays_9 10 rfl rfl)
theorem dX1_lays_222 : decode cX1_lays 222 = .ok (.irem, 1) := dk_112 (dk_at dksX1_lays_9 11 rfl rfl)
theorem dX1_lays_223 : decode cX1_lays 223 = .ok (.aload_n 0, 1) := dk_42 (dk_at dksX1_lays_9 12 rfl rfl)
theorem dX1_lays_224 : decode cX1_lays 224 = .ok (.getfield 31, 3) := dk_180 0 31 (dk_at dksX1_lays_9 13 rfl rfl)
theorem dX1_lays_227 : decode cX1_lays 227 = .ok (.getfield 272, 3) := dk_180 1 16 (dk_at dksX1_lays_9 16 rfl rfl)
theorem dX1_lays_230 : decode cX1_lays 230 = .ok (.iload_n 3, 1) := dk_29 (dk_at dksX1_lays_9 19 rfl rfl)
theorem dX1_lays_231 : decode cX1_lays 231 = .ok (.iconst 1, 1) := dk_4 (dk_at dksX1_lays_9 20 rfl rfl)
theorem dX1_lays_232 : decode cX1_lays 232 = .ok (.isub, 1) := dk_100 (dk_at dksX1_lays_9 21 rfl rfl)
theorem dX1_lays_233 : decode cX1_lays 233 = .ok (.iaload, 1) := dk_46 (dk_at dksX1_lays_9 22 rfl rfl)
theorem dX1_lays_234 : decode cX1_lays 234 = .ok (.aload_n 0, 1) := dk_42 (dk_at dksX1_lays_9 23 rfl rfl)
theorem dX1_lays_235 : decode cX1_lays 235 = .ok (.getfield 19, 3) := dk_180 0 19 (dk_at dksX1_lays_10 0 rfl rfl)
theorem dX1_lays_238 : decode cX1_lays 238 = .ok (.getfield 237, 3) := dk_180 0 237 (dk_at dksX1_lays_10 3 rfl rfl)
theorem dX1_lays_241 : decode cX1_lays 241 = .ok (.invokevirtual 279, 3) := dk_182 1 23 (dk_at dksX1_lays_10 6 rfl rfl)
theorem dX1_lays_244 : decode cX1_lays 244 = .ok (.goto 4, 3) := dk_167 0 4 (dk_at dksX1_lays_10 9 rfl rfl)
theorem dX1_lays_247 : decode cX1_lays 247 = .ok (.iconst (-1), 1) := dk_2 (dk_at dksX1_lays_10 12 rfl rfl)
theorem dX1_lays_248 : decode cX1_lays 248 = .ok (.istore 5, 2) := dk_54 5 (dk_at dksX1_lays_10 13 rfl rfl)
theorem dX1_lays_250 : decode cX1_lays 250 = .ok (.iload 5, 2) := dk_21 5 (dk_at dksX1_lays_10 15 rfl rfl)
theorem dX1_lays_252 : decode cX1_lays 252 = .ok (.iconst (-1), 1) := dk_2 (dk_at dksX1_lays_10 17 rfl rfl)
theorem dX1_lays_253 : decode cX1_lays 253 = .ok (.if_icmp .eq 78, 3) := dk_159 0 78 (dk_at dksX1_lays_10 18 rfl rfl)
theorem dX1_lays_256 : decode cX1_lays 256 = .ok (.aload_n 0, 1) := dk_42 (dk_at dksX1_lays_10 21 rfl rfl)
theorem dX1_lays_257 : decode cX1_lays 257 = .ok (.getfield 46, 3) := dk_180 0 46 (dk_at dksX1_lays_11 0 rfl rfl)
theorem dX1_lays_260 : decode cX1_lays 260 = .ok (.iload_n 3, 1) := dk_29 (dk_at dksX1_lays_11 3 rfl rfl)
theorem dX1_lays_261 : decode cX1_lays 261 = .ok (.aaload, 1) := dk_50 (dk_at dksX1_lays_11 4 rfl rfl)
theorem dX1_lays_262 : decode cX1_lays 262 = .ok (.iload 4, 2) := dk_21 4 (dk_at dksX1_lays_11 5 rfl rfl)
theorem dX1_lays_264 : decode cX1_lays 264 = .ok (.iaload, 1) := dk_46 (dk_at dksX1_lays_11 7 rfl rfl)
theorem dX1_lays_265 : decode cX1_lays 265 = .ok (.aload_n 0, 1) := dk_42 (dk_at dksX1_lays_11 8 rfl rfl)
theorem dX1_lays_266 : decode cX1_lays 266 = .ok (.getfield 46, 3) := dk_180 0 46 (dk_at dksX1_lays_11 9 rfl rfl)
theorem dX1_lays_269 : decode cX1_lays 269 = .ok (.iload_n 3, 1) := dk_29 (dk_at dksX1_lays_11 12 rfl rfl)
theorem dX1_lays_270 : decode cX1_lays 270 = .ok (.iconst 1, 1) := dk_4 (dk_at dksX1_lays_11 13 rfl rfl)
theorem dX1_lays_271 : decode cX1_lays 271 = .ok (.isub, 1) := dk_100 (dk_at dksX1_lays_11 14 rfl rfl)
theorem dX1_lays_272 : decode cX1_lays 272 = .ok (.aaload, 1) := dk_50 (dk_at dksX1_lays_11 15 rfl rfl)
theorem dX1_lays_273 : decode cX1_lays 273 = .ok (.iload 4, 2) := dk_21 4 (dk_at dksX1_lays_11 16 rfl rfl)
theorem dX1_lays_275 : decode cX1_lays 275 = .ok (.iconst 1, 1) := dk_4 (dk_at dksX1_lays_11 18 rfl rfl)
theorem dX1_lays_276 : decode cX1_lays 276 = .ok (.isub, 1) := dk_100 (dk_at dksX1_lays_11 19 rfl rfl)
theorem dX1_lays_277 : decode cX1_lays 277 = .ok (.iaload, 1) := dk_46 (dk_at dksX1_lays_11 20 rfl rfl)
theorem dX1_lays_278 : decode cX1_lays 278 = .ok (.iload 5, 2) := dk_21 5 (dk_at dksX1_lays_11 21 rfl rfl)
theorem dX1_lays_280 : decode cX1_lays 280 = .ok (.ifCond .ne 7, 3) := dk_154 0 7 (dk_at dksX1_lays_12 0 rfl rfl)
theorem dX1_lays_283 : decode cX1_lays 283 = .ok (.iconst 0, 1) := dk_3 (dk_at dksX1_lays_12 3 rfl rfl)
theorem dX1_lays_284 : decode cX1_lays 284 = .ok (.goto 13, 3) := dk_167 0 13 (dk_at dksX1_lays_12 4 rfl rfl)
theorem dX1_lays_287 : decode cX1_lays 287 = .ok (.aload_n 0, 1) := dk_42 (dk_at dksX1_lays_12 7 rfl rfl)
theorem dX1_lays_288 : decode cX1_lays 288 = .ok (.getfield 19, 3) := dk_180 0 19 (dk_at dksX1_lays_12 8 rfl rfl)
theorem dX1_lays_291 : decode cX1_lays 291 = .ok (.getfield 237, 3) := dk_180 0 237 (dk_at dksX1_lays_12 11 rfl rfl)
theorem dX1_lays_294 : decode cX1_lays 294 = .ok (.iload 5, 2) := dk_21 5 (dk_at dksX1_lays_12 14 rfl rfl)
theorem dX1_lays_296 : decode cX1_lays 296 = .ok (.iaload, 1) := dk_46 (dk_at dksX1_lays_12 16 rfl rfl)
theorem dX1_lays_297 : decode cX1_lays 297 = .ok (.iadd, 1) := dk_96 (dk_at dksX1_lays_12 17 rfl rfl)
theorem dX1_lays_298 : decode cX1_lays 298 = .ok (.if_icmp .ne 33, 3) := dk_160 0 33 (dk_at dksX1_lays_12 18 rfl rfl)
theorem dX1_lays_301 : decode cX1_lays 301 = .ok (.iinc 3 (-1), 3) := dk_132 3 255 (dk_at dksX1_lays_12 21 rfl rfl)
theorem dX1_lays_304 : decode cX1_lays 304 = .ok (.iinc 4 (-1), 3) := dk_132 4 255 (dk_at dksX1_lays_13 0 rfl rfl)
theorem dX1_lays_307 : decode cX1_lays 307 = .ok (.aload_n 0, 1) := dk_42 (dk_at dksX1_lays_13 3 rfl rfl)
theorem dX1_lays_308 : decode cX1_lays 308 = .ok (.getfield 40, 3) := dk_180 0 40 (dk_at dksX1_lays_13 4 rfl rfl)
theorem dX1_lays_311 : decode cX1_lays 311 = .ok (.iload_n 1, 1) := dk_27 (dk_at dksX1_lays_13 7 rfl rfl)
theorem dX1_lays_312 : decode cX1_lays 312 = .ok (.aaload, 1) := dk_50 (dk_at dksX1_lays_13 8 rfl rfl)
theorem dX1_lays_313 : decode cX1_lays 313 = .ok (.iload 4, 2) := dk_21 4 (dk_at dksX1_lays_13 9 rfl rfl)
theorem dX1_lays_315 : decode cX1_lays 315 = .ok (.iload 5, 2) := dk_21 5 (dk_at dksX1_lays_13 11 rfl rfl)
theorem dX1_lays_317 : decode cX1_lays 317 = .ok (.iastore, 1) := dk_79 (dk_at dksX1_lays_13 13 rfl rfl)
theorem dX1_lays_318 : decode cX1_lays 318 = .ok (.aload_n 0, 1) := dk_42 (dk_at dksX1_lays_13 14 rfl rfl)
theorem dX1_lays_319 : decode cX1_lays 319 = .ok (.getfield 43, 3) := dk_180 0 43 (dk_at dksX1_lays_13 15 rfl rfl)
theorem dX1_lays_322 : decode cX1_lays 322 = .ok (.iload_n 1, 1) := dk_27 (dk_at dksX1_lays_13 18 rfl rfl)
theorem dX1_lays_323 : decode cX1_lays 323 = .ok (.aaload, 1) := dk_50 (dk_at dksX1_lays_13 19 rfl rfl)
theorem dX1_lays_324 : decode cX1_lays 324 = .ok (.iload_n 3, 1) := dk_29 (dk_at dksX1_lays_13 20 rfl rfl)
theorem dX1_lays_325 : decode cX1_lays 325 = .ok (.iload 4, 2) := dk_21 4 (dk_at dksX1_lays_13 21 rfl rfl)
theorem dX1_lays_327 : decode cX1_lays 327 = .ok (.iastore, 1) := dk_79 (dk_at dksX1_lays_13 23 rfl rfl)
theorem dX1_lays_328 : decode cX1_lays 328 = .ok (.goto 93, 3) := dk_167 0 93 (dk_at dksX1_lays_14 0 rfl rfl)
theorem dX1_lays_331 : decode cX1_lays 331 = .ok (.iload_n 3, 1) := dk_29 (dk_at dksX1_lays_14 3 rfl rfl)
theorem dX1_lays_332 : decode cX1_lays 332 = .ok (.ifCond .le 75, 3) := dk_158 0 75 (dk_at dksX1_lays_14 4 rfl rfl)
theorem dX1_lays_335 : decode cX1_lays 335 = .ok (.aload_n 0, 1) := dk_42 (dk_at dksX1_lays_14 7 rfl rfl)
theorem dX1_lays_336 : decode cX1_lays 336 = .ok (.getfield 19, 3) := dk_180 0 19 (dk_at dksX1_lays_14 8 rfl rfl)
theorem dX1_lays_339 : decode cX1_lays 339 = .ok (.getfield 237, 3) := dk_180 0 237 (dk_at dksX1_lays_14 11 rfl rfl)
theorem dX1_lays_342 : decode cX1_lays 342 = .ok (.bipush 6, 2) := dk_16 6 (dk_at dksX1_lays_14 14 rfl rfl)
theorem dX1_lays_344 : decode cX1_lays 344 = .ok (.iaload, 1) := dk_46 (dk_at dksX1_lays_14 16 rfl rfl)
theorem dX1_lays_345 : decode cX1_lays 345 = .ok (.ifCond .le 62, 3) := dk_158 0 62 (dk_at dksX1_lays_14 17 rfl rfl)
theorem dX1_lays_348 : decode cX1_lays 348 = .ok (.aload_n 0, 1) := dk_42 (dk_at dksX1_lays_14 20 rfl rfl)
theorem dX1_lays_349 : decode cX1_lays 349 = .ok (.getfield 46, 3) := dk_180 0 46 (dk_at dksX1_lays_14 21 rfl rfl)
theorem dX1_lays_352 : decode cX1_lays 352 = .ok (.iload_n 3, 1) := dk_29 (dk_at dksX1_lays_15 0 rfl rfl)
theorem dX1_lays_353 : decode cX1_lays 353 = .ok (.aaload, 1) := dk_50 (dk_at dksX1_lays_15 1 rfl rfl)
theorem dX1_lays_354 : decode cX1_lays 354 = .ok (.iload 4, 2) := dk_21 4 (dk_at dksX1_lays_15 2 rfl rfl)
theorem dX1_lays_356 : decode cX1_lays 356 = .ok (.iaload, 1) := dk_46 (dk_at dksX1_lays_15 4 rfl rfl)
theorem dX1_lays_357 : decode cX1_lays 357 = .ok (.aload_n 0, 1) := dk_42 (dk_at dksX1_lays_15 5 rfl rfl)
theorem dX1_lays_358 : decode cX1_lays 358 = .ok (.getfield 46, 3) := dk_180 0 46 (dk_at dksX1_lays_15 6 rfl rfl)
theorem dX1_lays_361 : decode cX1_lays 361 = .ok (.iload_n 3, 1) := dk_29 (dk_at dksX1_lays_15 9 rfl rfl)
theorem dX1_lays_362 : decode cX1_lays 362 = .ok (.iconst 1, 1) := dk_4 (dk_at dksX1_lays_15 10 rfl rfl)
theorem dX1_lays_363 : decode cX1_lays 363 = .ok (.isub, 1) := dk_100 (dk_at dksX1_lays_15 11 rfl rfl)
theorem dX1_lays_364 : decode cX1_lays 364 = .ok (.aaload, 1) := dk_50 (dk_at dksX1_lays_15 12 rfl rfl)
theorem dX1_lays_365 : decode cX1_lays 365 = .ok (.iload 4, 2) := dk_21 4 (dk_at dksX1_lays_15 13 rfl rfl)
theorem dX1_lays_367 : decode cX1_lays 367 = .ok (.iaload, 1) := dk_46 (dk_at dksX1_lays_15 15 rfl rfl)
theorem dX1_lays_368 : decode cX1_lays 368 = .ok (.aload_n 0, 1) := dk_42 (dk_at dksX1_lays_15 16 rfl rfl)
theorem dX1_lays_369 : decode cX1_lays 369 = .ok (.getfield 19, 3) := dk_180 0 19 (dk_at dksX1_lays_15 17 rfl rfl)
theorem dX1_lays_372 : decode cX1_lays 372 = .ok (.getfield 237, 3) := dk_180 0 237 (dk_at dksX1_lays_15 20 rfl rfl)
theorem dX1_lays_375 : decode cX1_lays 375 = .ok (.bipush 6, 2) := dk_16 6 (dk_at dksX1_lays_16 0 rfl rfl)
theorem dX1_lays_377 : decode cX1_lays 377 = .ok (.iaload, 1) := dk_46 (dk_at dksX1_lays_16 2 rfl rfl)
theorem dX1_lays_378 : decode cX1_lays 378 = .ok (.iadd, 1) := dk_96 (dk_at dksX1_lays_16 3 rfl rfl)
theorem dX1_lays_379 : decode cX1_lays 379 = .ok (.if_icmp .ne 28, 3) := dk_160 0 28 (dk_at dksX1_lays_16 4 rfl rfl)
theorem dX1_lays_382 : decode cX1_lays 382 = .ok (.iinc 3 (-1), 3) := dk_132 3 255 (dk_at dksX1_lays_16 7 rfl rfl)
theorem dX1_lays_385 : decode cX1_lays 385 = .ok (.aload_n 0, 1) := dk_42 (dk_at dksX1_lays_16 10 rfl rfl)
theorem dX1_lays_386 : decode cX1_lays 386 = .ok (.getfield 43, 3) := dk_180 0 43 (dk_at dksX1_lays_16 11 rfl rfl)
theorem dX1_lays_389 : decode cX1_lays 389 = .ok (.iload_n 1, 1) := dk_27 (dk_at dksX1_lays_16 14 rfl rfl)
theorem dX1_lays_390 : decode cX1_lays 390 = .ok (.aaload, 1) := dk_50 (dk_at dksX1_lays_16 15 rfl rfl)
theorem dX1_lays_391 : decode cX1_lays 391 = .ok (.iload_n 3, 1) := dk_29 (dk_at dksX1_lays_16 16 rfl rfl)
theorem dX1_lays_392 : decode cX1_lays 392 = .ok (.iconst (-1), 1) := dk_2 (dk_at dksX1_lays_16 17 rfl rfl)
theorem dX1_lays_393 : decode cX1_lays 393 = .ok (.iastore, 1) := dk_79 (dk_at dksX1_lays_16 18 rfl rfl)
theorem dX1_lays_394 : decode cX1_lays 394 = .ok (.aload_n 0, 1) := dk_42 (dk_at dksX1_lays_16 19 rfl rfl)
theorem dX1_lays_395 : decode cX1_lays 395 = .ok (.getfield 52, 3) := dk_180 0 52 (dk_at dksX1_lays_16 20 rfl rfl)
theorem dX1_lays_398 : decode cX1_lays 398 = .ok (.iload_n 1, 1) := dk_27 (dk_at dksX1_lays_16 23 rfl rfl)
theorem dX1_lays_399 : decode cX1_lays 399 = .ok (.dup2, 1) := dk_92 (dk_at dksX1_lays_17 0 rfl rfl)
theorem dX1_lays_400 : decode cX1_lays 400 = .ok (.iaload, 1) := dk_46 (dk_at dksX1_lays_17 1 rfl rfl)
theorem dX1_lays_401 : decode cX1_lays 401 = .ok (.iconst 1, 1) := dk_4 (dk_at dksX1_lays_17 2 rfl rfl)
theorem dX1_lays_402 : decode cX1_lays 402 = .ok (.iadd, 1) := dk_96 (dk_at dksX1_lays_17 3 rfl rfl)
theorem dX1_lays_403 : decode cX1_lays 403 = .ok (.iastore, 1) := dk_79 (dk_at dksX1_lays_17 4 rfl rfl)
theorem dX1_lays_404 : decode cX1_lays 404 = .ok (.goto 17, 3) := dk_167 0 17 (dk_at dksX1_lays_17 5 rfl rfl)
theorem dX1_lays_407 : decode cX1_lays 407 = .ok (.iinc 4 (-1), 3) := dk_132 4 255 (dk_at dksX1_lays_17 8 rfl rfl)
theorem dX1_lays_410 : decode cX1_lays 410 = .ok (.aload_n 0, 1) := dk_42 (dk_at dksX1_lays_17 11 rfl rfl)
theorem dX1_lays_411 : decode cX1_lays 411 = .ok (.getfield 40, 3) := dk_180 0 40 (dk_at dksX1_lays_17 12 rfl rfl)
theorem dX1_lays_414 : decode cX1_lays 414 = .ok (.iload_n 1, 1) := dk_27 (dk_at dksX1_lays_17 15 rfl rfl)
theorem dX1_lays_415 : decode cX1_lays 415 = .ok (.aaload, 1) := dk_50 (dk_at dksX1_lays_17 16 rfl rfl)
theorem dX1_lays_416 : decode cX1_lays 416 = .ok (.iload 4, 2) := dk_21 4 (dk_at dksX1_lays_17 17 rfl rfl)
theorem dX1_lays_418 : decode cX1_lays 418 = .ok (.bipush 7, 2) := dk_16 7 (dk_at dksX1_lays_17 19 rfl rfl)
theorem dX1_lays_420 : decode cX1_lays 420 = .ok (.iastore, 1) := dk_79 (dk_at dksX1_lays_17 21 rfl rfl)
theorem dX1_lays_421 : decode cX1_lays 421 = .ok (.goto (-242), 3) := dk_167 255 14 (dk_at dksX1_lays_18 0 rfl rfl)
theorem dX1_lays_424 : decode cX1_lays 424 = .ok (.return_, 1) := dk_177 (dk_at dksX1_lays_18 3 rfl rfl)
def dkwX1_many_0 : List UInt8 := [42, 182, 1, 27, 156, 0, 10, 42, 180, 0, 253, 167, 0, 10, 42, 180, 0, 31, 180, 1, 30, 172]
abbrev dktX1_many_0 : List UInt8 := dkwX1_many_0 ++ []
theorem dksX1_many_0 : cX1_many.data.toList.drop 0 = dktX1_many_0 := by decide +kernel
theorem dX1_many_0 : decode cX1_many 0 = .ok (.aload_n 0, 1) := dk_42 (dk_at dksX1_many_0 0 rfl rfl)
theorem dX1_many_1 : decode cX1_many 1 = .ok (.invokevirtual 283, 3) := dk_182 1 27 (dk_at dksX1_many_0 1 rfl rfl)
theorem dX1_many_4 : decode cX1_many 4 = .ok (.ifCond .ge 10, 3) := dk_156 0 10 (dk_at dksX1_many_0 4 rfl rfl)
theorem dX1_many_7 : decode cX1_many 7 = .ok (.aload_n 0, 1) := dk_42 (dk_at dksX1_many_0 7 rfl rfl)
theorem dX1_many_8 : decode cX1_many 8 = .ok (.getfield 253, 3) := dk_180 0 253 (dk_at dksX1_many_0 8 rfl rfl)
theorem dX1_many_11 : decode cX1_many 11 = .ok (.goto 10, 3) := dk_167 0 10 (dk_at dksX1_many_0 11 rfl rfl)
theorem dX1_many_14 : decode cX1_many 14 = .ok (.aload_n 0, 1) := dk_42 (dk_at dksX1_many_0 14 rfl rfl)
theorem dX1_many_15 : decode cX1_many 15 = .ok (.getfield 31, 3) := dk_180 0 31 (dk_at dksX1_many_0 15 rfl rfl)
theorem dX1_many_18 : decode cX1_many 18 = .ok (.getfield 286, 3) := dk_180 1 30 (dk_at dksX1_many_0 18 rfl rfl)
theorem dX1_many_21 : decode cX1_many 21 = .ok (.ireturn, 1) := dk_172 (dk_at dksX1_many_0 21 rfl rfl)
def dkwX1_part_3 : List UInt8 := [132, 1, 1, 167, 255, 210, 27, 172]
abbrev dktX1_part_3 : List UInt8 := dkwX1_part_3 ++ []
def dkwX1_part_2 : List UInt8 := [162, 0, 30, 42, 180, 0, 31, 180, 1, 16, 27, 46, 42, 180, 0, 31, 180, 1, 34, 27, 46, 160, 0, 9]
abbrev dktX1_part_2 : List UInt8 := dkwX1_part_2 ++ dktX1_part_3
def dkwX1_part_1 : List UInt8 := [16, 253, 172, 3, 60, 27, 42, 180, 0, 31, 180, 1, 13, 162, 0, 41, 27, 42, 180, 0, 31, 180, 1, 31]
abbrev dktX1_part_1 : List UInt8 := dkwX1_part_1 ++ dktX1_part_2
def dkwX1_part_0 : List UInt8 := [42, 182, 1, 27, 156, 0, 8, 42, 180, 0, 253, 172, 42, 180, 0, 31, 180, 1, 30, 5, 162, 0, 6]
abbrev dktX1_part_0 : List UInt8 := dkwX1_part_0 ++ dktX1_part_1
theorem dksX1_part_0 : cX1_part.data.toList.drop 0 = dktX1_part_0 := by decide +kernel
theorem dksX1_part_1 : cX1_part.data.toList.drop 23 = dktX1_part_1 := dk_seg dksX1_part_0 23 rfl rfl
theorem dksX1_part_2 : cX1_part.data.toList.drop 47 = dktX1_part_2 := dk_seg dksX1_part_1 24 rfl rfl
theorem dksX1_part_3 : cX1_part.data.toList.drop 71 = dktX1_part_3 := dk_seg dksX1_part_2 24 rfl rfl
theorem dX1_part_0 : decode cX1_part 0 = .ok (.aload_n 0, 1) := dk_42 (dk_at dksX1_part_0 0 rfl rfl)
theorem dX1_part_1 : decode cX1_part 1 = .ok (.invokevirtual 283, 3) := dk_182 1 27 (dk_at dksX1_part_0 1 rfl rfl)
theorem dX1_part_4 : decode cX1_part 4 = .ok (.ifCond .ge 8, 3) := dk_156 0 8 (dk_at dksX1_part_0 4 rfl rfl)
theorem dX1_part_7 : decode cX1_part 7 = .ok (.aload_n 0, 1) := dk_42 (dk_at dksX1_part_0 7 rfl rfl)
theorem dX1_part_8 : decode cX1_part 8 = .ok (.getfield 253, 3) := dk_180 0 253 (dk_at dksX1_part_0 8 rfl rfl)
theorem dX1_part_11 : decode cX1_part 11 = .ok (.ireturn, 1) := dk_172 (dk_at dksX1_part_0 11 rfl rfl)
theorem dX1_part_12 : decode cX1_part 12 = .ok (.aload_n 0, 1) := dk_42 (dk_at dksX1_part_0 12 rfl rfl)
theorem dX1_part_13 : decode cX1_part 13 = .ok (.getfield 31, 3) := dk_180 0 31 (dk_at dksX1_part_0 13 rfl rfl)
theorem dX1_part_16 : decode cX1_part 16 = .ok (.getfield 286, 3) := dk_180 1 30 (dk_at dksX1_part_0 16 rfl rfl)
theorem dX1_part_19 : decode cX1_part 19 = .ok (.iconst 2, 1) := dk_5 (dk_at dksX1_part_0 19 rfl rfl)
theorem dX1_part_20 : decode cX1_part 20 = .ok (.if_icmp .ge 6, 3) := dk_162 0 6 (dk_at dksX1_part_0 20 rfl rfl)
theorem dX1_part_23 : decode cX1_part 23 = .ok (.bipush (-3), 2) := dk_16 253 (dk_at dksX1_part_1 0 rfl rfl)
theorem dX1_part_25 : decode cX1_part 25 = .ok (.ireturn, 1) := dk_172 (dk_at dksX1_part_1 2 rfl rfl)
theorem dX1_part_26 : decode cX1_part 26 = .ok (.iconst 0, 1) := dk_3 (dk_at dksX1_part_1 3 rfl rfl)
theorem dX1_part_27 : decode cX1_part 27 = .ok (.istore_n 1, 1) := dk_60 (dk_at dksX1_part_1 4 rfl rfl)
theorem dX1_part_28 : decode cX1_part 28 = .ok (.iload_n 1, 1) := dk_27 (dk_at dksX1_part_1 5 rfl rfl)
theorem dX1_part_29 : decode cX1_part 29 = .ok (.aload_n 0, 1) := dk_42 (dk_at dksX1_part_1 6 rfl rfl)
theorem dX1_part_30 : decode cX1_part 30 = .ok (.getfield 31, 3) := dk_180 0 31 (dk_at dksX1_part_1 7 rfl rfl)
theorem dX1_part_33 : decode cX1_part 33 = .ok (.getfield 269, 3) := dk_180 1 13 (dk_at dksX1_part_1 10 rfl rfl)
theorem dX1_part_36 : decode cX1_part 36 = .ok (.if_icmp .ge 41, 3) := dk_162 0 41 (dk_at dksX1_part_1 13 rfl rfl)
theorem dX1_part_39 : decode cX1_part 39 = .ok (.iload_n 1, 1) := dk_27 (dk_at dksX1_part_1 16 rfl rfl)
theorem dX1_part_40 : decode cX1_part 40 = .ok (.aload_n 0, 1) := dk_42 (dk_at dksX1_part_1 17 rfl rfl)
theorem dX1_part_41 : decode cX1_part 41 = .ok (.getfield 31, 3) := dk_180 0 31 (dk_at dksX1_part_1 18 rfl rfl)
theorem dX1_part_44 : decode cX1_part 44 = .ok (.getfield 287, 3) := dk_180 1 31 (dk_at dksX1_part_1 21 rfl rfl)
theorem dX1_part_47 : decode cX1_part 47 = .ok (.if_icmp .ge 30, 3) := dk_162 0 30 (dk_at dksX1_part_2 0 rfl rfl)
theorem dX1_part_50 : decode cX1_part 50 = .ok (.aload_n 0, 1) := dk_42 (dk_at dksX1_part_2 3 rfl rfl)
theorem dX1_part_51 : decode cX1_part 51 = .ok (.getfield 31, 3) := dk_180 0 31 (dk_at dksX1_part_2 4 rfl rfl)
theorem dX1_part_54 : decode cX1_part 54 = .ok (.getfield 272, 3) := dk_180 1 16 (dk_at dksX1_part_2 7 rfl rfl)
theorem dX1_part_57 : decode cX1_part 57 = .ok (.iload_n 1, 1) := dk_27 (dk_at dksX1_part_2 10 rfl rfl)
theorem dX1_part_58 : decode cX1_part 58 = .ok (.iaload, 1) := dk_46 (dk_at dksX1_part_2 11 rfl rfl)
theorem dX1_part_59 : decode cX1_part 59 = .ok (.aload_n 0, 1) := dk_42 (dk_at dksX1_part_2 12 rfl rfl)
theorem dX1_part_60 : decode cX1_part 60 = .ok (.getfield 31, 3) := dk_180 0 31 (dk_at dksX1_part_2 13 rfl rfl)
theorem dX1_part_63 : decode cX1_part 63 = .ok (.getfield 290, 3) := dk_180 1 34 (dk_at dksX1_part_2 16 rfl rfl)
theorem dX1_part_66 : decode cX1_part 66 = .ok (.iload_n 1, 1) := dk_27 (dk_at dksX1_part_2 19 rfl rfl)
theorem dX1_part_67 : decode cX1_part 67 = .ok (.iaload, 1) := dk_46 (dk_at dksX1_part_2 20 rfl rfl)
theorem dX1_part_68 : decode cX1_part 68 = .ok (.if_icmp .ne 9, 3) := dk_160 0 9 (dk_at dksX1_part_2 21 rfl rfl)
theorem dX1_part_71 : decode cX1_part 71 = .ok (.iinc 1 1, 3) := dk_132 1 1 (dk_at dksX1_part_3 0 rfl rfl)
theorem dX1_part_74 : decode cX1_part 74 = .ok (.goto (-46), 3) := dk_167 255 210 (dk_at dksX1_part_3 3 rfl rfl)
theorem dX1_part_77 : decode cX1_part 77 = .ok (.iload_n 1, 1) := dk_27 (dk_at dksX1_part_3 6 rfl rfl)
theorem dX1_part_78 : decode cX1_part 78 = .ok (.ireturn, 1) := dk_172 (dk_at dksX1_part_3 7 rfl rfl)
def dkwX1_image_0 : List UInt8 := [42, 180, 0, 23, 42, 180, 0, 19, 182, 1, 83, 42, 4, 181, 1, 85, 177]
abbrev dktX1_image_0 : List UInt8 := dkwX1_image_0 ++ []
theorem dksX1_image_0 : cX1_image.data.toList.drop 0 = dktX1_image_0 := by decide +kernel
theorem dX1_image_0 : decode cX1_image 0 = .ok (.aload_n 0, 1) := dk_42 (dk_at dksX1_image_0 0 rfl rfl)
theorem dX1_image_1 : decode cX1_image 1 = .ok (.getfield 23, 3) := dk_180 0 23 (dk_at dksX1_image_0 1 rfl rfl)
theorem dX1_image_4 : decode cX1_image 4 = .ok (.aload_n 0, 1) := dk_42 (dk_at dksX1_image_0 4 rfl rfl)
theorem dX1_image_5 : decode cX1_image 5 = .ok (.getfield 19, 3) := dk_180 0 19 (dk_at dksX1_image_0 5 rfl rfl)
theorem dX1_image_8 : decode cX1_image 8 = .ok (.invokevirtual 339, 3) := dk_182 1 83 (dk_at dksX1_image_0 8 rfl rfl)
theorem dX1_image_11 : decode cX1_image 11 = .ok (.aload_n 0, 1) := dk_42 (dk_at dksX1_image_0 11 rfl rfl)
theorem dX1_image_12 : decode cX1_image 12 = .ok (.iconst 1, 1) := dk_4 (dk_at dksX1_image_0 12 rfl rfl)
theorem dX1_image_13 : decode cX1_image 13 = .ok (.putfield 341, 3) := dk_181 1 85 (dk_at dksX1_image_0 13 rfl rfl)
theorem dX1_image_16 : decode cX1_image 16 = .ok (.return_, 1) := dk_177 (dk_at dksX1_image_0 16 rfl rfl)
def dkwX1_back_1 : List UInt8 := [181, 0, 174, 4, 172]
abbrev dktX1_back_1 : List UInt8 := dkwX1_back_1 ++ []
def dkwX1_back_0 : List UInt8 := [42, 180, 1, 85, 154, 0, 5, 3, 172, 42, 180, 0, 19, 42, 180, 0, 23, 182, 1, 83, 42, 3]
abbrev dktX1_back_0 : List UInt8 := dkwX1_back_0 ++ dktX1_back_1
theorem dksX1_back_0 : cX1_back.data.toList.drop 0 = dktX1_back_0 := by decide +kernel
theorem dksX1_back_1 : cX1_back.data.toList.drop 22 = dktX1_back_1 := dk_seg dksX1_back_0 22 rfl rfl
theorem dX1_back_0 : decode cX1_back 0 = .ok (.aload_n 0, 1) := dk_42 (dk_at dksX1_back_0 0 rfl rfl)
theorem dX1_back_1 : decode cX1_back 1 = .ok (.getfield 341, 3) := dk_180 1 85 (dk_at dksX1_back_0 1 rfl rfl)
theorem dX1_back_4 : decode cX1_back 4 = .ok (.ifCond .ne 5, 3) := dk_154 0 5 (dk_at dksX1_back_0 4 rfl rfl)
theorem dX1_back_7 : decode cX1_back 7 = .ok (.iconst 0, 1) := dk_3 (dk_at dksX1_back_0 7 rfl rfl)
theorem dX1_back_8 : decode cX1_back 8 = .ok (.ireturn, 1) := dk_172 (dk_at dksX1_back_0 8 rfl rfl)
theorem dX1_back_9 : decode cX1_back 9 = .ok (.aload_n 0, 1) := dk_42 (dk_at dksX1_back_0 9 rfl rfl)
theorem dX1_back_10 : decode cX1_back 10 = .ok (.getfield 19, 3) := dk_180 0 19 (dk_at dksX1_back_0 10 rfl rfl)
theorem dX1_back_13 : decode cX1_back 13 = .ok (.aload_n 0, 1) := dk_42 (dk_at dksX1_back_0 13 rfl rfl)
theorem dX1_back_14 : decode cX1_back 14 = .ok (.getfield 23, 3) := dk_180 0 23 (dk_at dksX1_back_0 14 rfl rfl)
theorem dX1_back_17 : decode cX1_back 17 = .ok (.invokevirtual 339, 3) := dk_182 1 83 (dk_at dksX1_back_0 17 rfl rfl)
theorem dX1_back_20 : decode cX1_back 20 = .ok (.aload_n 0, 1) := dk_42 (dk_at dksX1_back_0 20 rfl rfl)
theorem dX1_back_21 : decode cX1_back 21 = .ok (.iconst 0, 1) := dk_3 (dk_at dksX1_back_0 21 rfl rfl)
theorem dX1_back_22 : decode cX1_back 22 = .ok (.putfield 174, 3) := dk_181 0 174 (dk_at dksX1_back_1 0 rfl rfl)
theorem dX1_back_25 : decode cX1_back 25 = .ok (.iconst 1, 1) := dk_4 (dk_at dksX1_back_1 3 rfl rfl)
theorem dX1_back_26 : decode cX1_back 26 = .ok (.ireturn, 1) := dk_172 (dk_at dksX1_back_1 4 rfl rfl)
def dkwX1_count_9 : List UInt8 := [180, 1, 94, 96, 61, 132, 3, 1, 167, 255, 201, 28, 172, 2, 172]
abbrev dktX1_count_9 : List UInt8 := dkwX1_count_9 ++ []
def dkwX1_count_8 : List UInt8 := [167, 0, 26, 42, 180, 0, 19, 180, 0, 142, 42, 180, 0, 19, 180, 0, 166, 180, 0, 169, 29, 46, 50]
abbrev dktX1_count_8 : List UInt8 := dkwX1_count_8 ++ dktX1_count_9
def dkwX1_count_7 : List UInt8 := [16, 36, 162, 0, 55, 28, 42, 180, 0, 19, 180, 0, 166, 180, 0, 169, 29, 46, 2, 160, 0, 7, 3]
abbrev dktX1_count_7 : List UInt8 := dkwX1_count_7 ++ dktX1_count_8
def dkwX1_count_6 : List UInt8 := [182, 1, 27, 16, 254, 160, 0, 8, 16, 254, 167, 0, 10, 42, 180, 0, 31, 180, 1, 91, 172, 3, 62, 29]
abbrev dktX1_count_6 : List UInt8 := dkwX1_count_6 ++ dktX1_count_7
def dkwX1_count_5 : List UInt8 := [167, 255, 227, 28, 172, 42, 180, 0, 19, 180, 0, 243, 172, 42, 180, 0, 19, 180, 0, 240, 172, 42]
abbrev dktX1_count_5 : List UInt8 := dkwX1_count_5 ++ dktX1_count_6
def dkwX1_count_4 : List UInt8 := [180, 0, 96, 162, 0, 24, 28, 42, 180, 0, 19, 180, 0, 99, 29, 50, 180, 0, 107, 96, 61, 132, 3, 1]
abbrev dktX1_count_4 : List UInt8 := dkwX1_count_4 ++ dktX1_count_5
def dkwX1_count_3 : List UInt8 := [180, 0, 166, 4, 182, 1, 88, 96, 172, 42, 180, 0, 19, 180, 0, 96, 172, 3, 62, 29, 42, 180, 0, 19]
abbrev dktX1_count_3 : List UInt8 := dkwX1_count_3 ++ dktX1_count_4
def dkwX1_count_2 : List UInt8 := [42, 180, 0, 19, 180, 0, 93, 172, 42, 180, 0, 19, 180, 0, 166, 3, 182, 1, 88, 42, 180, 0, 19]
abbrev dktX1_count_2 : List UInt8 := dkwX1_count_2 ++ dktX1_count_3
def dkwX1_count_1 : List UInt8 := [170, 0, 0, 0, 221, 0, 0, 0, 0, 0, 0, 0, 7, 0, 0, 0, 45, 0, 0, 0, 53, 0, 0, 0, 77, 0, 0, 0, 85, 0, 0, 0, 121, 0, 0, 0, 129, 0, 0, 0, 137, 0, 0, 0, 159]
abbrev dktX1_count_1 : List UInt8 := dkwX1_count_1 ++ dktX1_count_2
def dkwX1_count_0 : List UInt8 := [3, 61, 27]
abbrev dktX1_count_0 : List UInt8 := dkwX1_count_0 ++ dktX1_count_1
theorem dksX1_count_0 : cX1_count.data.toList.drop 0 = dktX1_count_0 := by decide +kernel
theorem dksX1_count_1 : cX1_count.data.toList.drop 3 = dktX1_count_1 := dk_seg dksX1_count_0 3 rfl rfl
theorem dksX1_count_2 : cX1_count.data.toList.drop 48 = dktX1_count_2 := dk_seg dksX1_count_1 45 rfl rfl
theorem dksX1_count_3 : cX1_count.data.toList.drop 71 = dktX1_count_3 := dk_seg dksX1_count_2 23 rfl rfl
theorem dksX1_count_4 : cX1_count.data.toList.drop 95 = dktX1_count_4 := dk_seg dksX1_count_3 24 rfl rfl
theorem dksX1_count_5 : cX1_count.data.toList.drop 119 = dktX1_count_5 := dk_seg dksX1_count_4 24 rfl rfl
theorem dksX1_count_6 : cX1_count.data.toList.drop 141 = dktX1_count_6 := dk_seg dksX1_count_5 22 rfl rfl
theorem dksX1_count_7 : cX1_count.data.toList.drop 165 = dktX1_count_7 := dk_seg dksX1_count_6 24 rfl rfl
theorem dksX1_count_8 : cX1_count.data.toList.drop 188 = dktX1_count_8 := dk_seg dksX1_count_7 23 rfl rfl
theorem dksX1_count_9 : cX1_count.data.toList.drop 211 = dktX1_count_9 := dk_seg dksX1_count_8 23 rfl rfl
theorem dX1_count_0 : decode cX1_count 0 = .ok (.iconst 0, 1) := dk_3 (dk_at dksX1_count_0 0 rfl rfl)
theorem dX1_count_1 : decode cX1_count 1 = .ok (.istore_n 2, 1) := dk_61 (dk_at dksX1_count_0 1 rfl rfl)
theorem dX1_count_2 : decode cX1_count 2 = .ok (.iload_n 1, 1) := dk_27 (dk_at dksX1_count_0 2 rfl rfl)
theorem dX1_count_3 : decode cX1_count 3 = .ok (.tableswitch 221 0 7 #[45, 53, 77, 85, 121, 129, 137, 159], 45) := by decide +kernel
theorem dX1_count_48 : decode cX1_count 48 = .ok (.aload_n 0, 1) := dk_42 (dk_at dksX1_count_2 0 rfl rfl)
theorem dX1_count_49 : decode cX1_count 49 = .ok (.getfield 19, 3) := dk_180 0 19 (dk_at dksX1_count_2 1 rfl rfl)
theorem dX1_count_52 : decode cX1_count 52 = .ok (.getfield 93, 3) := dk_180 0 93 (dk_at dksX1_count_2 4 rfl rfl)
theorem dX1_count_55 : decode cX1_count 55 = .ok (.ireturn, 1) := dk_172 (dk_at dksX1_count_2 7 rfl rfl)
theorem dX1_count_56 : decode cX1_count 56 = .ok (.aload_n 0, 1) := dk_42 (dk_at dksX1_count_2 8 rfl rfl)
theorem dX1_count_57 : decode cX1_count 57 = .ok (.getfield 19, 3) := dk_180 0 19 (dk_at dksX1_count_2 9 rfl rfl)
theorem dX1_count_60 : decode cX1_count 60 = .ok (.getfield 166, 3) := dk_180 0 166 (dk_at dksX1_count_2 12 rfl rfl)
theorem dX1_count_63 : decode cX1_count 63 = .ok (.iconst 0, 1) := dk_3 (dk_at dksX1_count_2 15 rfl rfl)
theorem dX1_count_64 : decode cX1_count 64 = .ok (.invokevirtual 344, 3) := dk_182 1 88 (dk_at dksX1_count_2 16 rfl rfl)
theorem dX1_count_67 : decode cX1_count 67 = .ok (.aload_n 0, 1) := dk_42 (dk_at dksX1_count_2 19 rfl rfl)
theorem dX1_count_68 : decode cX1_count 68 = .ok (.getfield 19, 3) := dk_180 0 19 (dk_at dksX1_count_2 20 rfl rfl)
theorem dX1_count_71 : decode cX1_count 71 = .ok (.getfield 166, 3) := dk_180 0 166 (dk_at dksX1_count_3 0 rfl rfl)
theorem dX1_count_74 : decode cX1_count 74 = .ok (.iconst 1, 1) := dk_4 (dk_at dksX1_count_3 3 rfl rfl)
theorem dX1_count_75 : decode cX1_count 75 = .ok (.invokevirtual 344, 3) := dk_182 1 88 (dk_at dksX1_count_3 4 rfl rfl)
theorem dX1_count_78 : decode cX1_count 78 = .ok (.iadd, 1) := dk_96 (dk_at dksX1_count_3 7 rfl rfl)
theorem dX1_count_79 : decode cX1_count 79 = .ok (.ireturn, 1) := dk_172 (dk_at dksX1_count_3 8 rfl rfl)
theorem dX1_count_80 : decode cX1_count 80 = .ok (.aload_n 0, 1) := dk_42 (dk_at dksX1_count_3 9 rfl rfl)
theorem dX1_count_81 : decode cX1_count 81 = .ok (.getfield 19, 3) := dk_180 0 19 (dk_at dksX1_count_3 10 rfl rfl)
theorem dX1_count_84 : decode cX1_count 84 = .ok (.getfield 96, 3) := dk_180 0 96 (dk_at dksX1_count_3 13 rfl rfl)
theorem dX1_count_87 : decode cX1_count 87 = .ok (.ireturn, 1) := dk_172 (dk_at dksX1_count_3 16 rfl rfl)
theorem dX1_count_88 : decode cX1_count 88 = .ok (.iconst 0, 1) := dk_3 (dk_at dksX1_count_3 17 rfl rfl)
theorem dX1_count_89 : decode cX1_count 89 = .ok (.istore_n 3, 1) := dk_62 (dk_at dksX1_count_3 18 rfl rfl)
theorem dX1_count_90 : decode cX1_count 90 = .ok (.iload_n 3, 1) := dk_29 (dk_at dksX1_count_3 19 rfl rfl)
theorem dX1_count_91 : decode cX1_count 91 = .ok (.aload_n 0, 1) := dk_42 (dk_at dksX1_count_3 20 rfl rfl)
theorem dX1_count_92 : decode cX1_count 92 = .ok (.getfield 19, 3) := dk_180 0 19 (dk_at dksX1_count_3 21 rfl rfl)
theorem dX1_count_95 : decode cX1_count 95 = .ok (.getfield 96, 3) := dk_180 0 96 (dk_at dksX1_count_4 0 rfl rfl)
theorem dX1_count_98 : decode cX1_count 98 = .ok (.if_icmp .ge 24, 3) := dk_162 0 24 (dk_at dksX1_count_4 3 rfl rfl)
theorem dX1_count_101 : decode cX1_count 101 = .ok (.iload_n 2, 1) := dk_28 (dk_at dksX1_count_4 6 rfl rfl)
theorem dX1_count_102 : decode cX1_count 102 = .ok (.aload_n 0, 1) := dk_42 (dk_at dksX1_count_4 7 rfl rfl)
theorem dX1_count_103 : decode cX1_count 103 = .ok (.getfield 19, 3) := dk_180 0 19 (dk_at dksX1_count_4 8 rfl rfl)
theorem dX1_count_106 : decode cX1_count 106 = .ok (.getfield 99, 3) := dk_180 0 99 (dk_at dksX1_count_4 11 rfl rfl)
theorem dX1_count_109 : decode cX1_count 109 = .ok (.iload_n 3, 1) := dk_29 (dk_at dksX1_count_4 14 rfl rfl)
theorem dX1_count_110 : decode cX1_count 110 = .ok (.aaload, 1) := dk_50 (dk_at dksX1_count_4 15 rfl rfl)
theorem dX1_count_111 : decode cX1_count 111 = .ok (.getfield 107, 3) := dk_180 0 107 (dk_at dksX1_count_4 16 rfl rfl)
theorem dX1_count_114 : decode cX1_count 114 = .ok (.iadd, 1) := dk_96 (dk_at dksX1_count_4 19 rfl rfl)
theorem dX1_count_115 : decode cX1_count 115 = .ok (.istore_n 2, 1) := dk_61 (dk_at dksX1_count_4 20 rfl rfl)
theorem dX1_count_116 : decode cX1_count 116 = .ok (.iinc 3 1, 3) := dk_132 3 1 (dk_at dksX1_count_4 21 rfl rfl)
theorem dX1_count_119 : decode cX1_count 119 = .ok (.goto (-29), 3) := dk_167 255 227 (dk_at dksX1_count_5 0 rfl rfl)
theorem dX1_count_122 : decode cX1_count 122 = .ok (.iload_n 2, 1) := dk_28 (dk_at dksX1_count_5 3 rfl rfl)
theorem dX1_count_123 : decode cX1_count 123 = .ok (.ireturn, 1) := dk_172 (dk_at dksX1_count_5 4 rfl rfl)
theorem dX1_count_124 : decode cX1_count 124 = .ok (.aload_n 0, 1) := dk_42 (dk_at dksX1_count_5 5 rfl rfl)
theorem dX1_count_125 : decode cX1_count 125 = .ok (.getfield 19, 3) := dk_180 0 19 (dk_at dksX1_count_5 6 rfl rfl)
theorem dX1_count_128 : decode cX1_count 128 = .ok (.getfield 243, 3) := dk_180 0 243 (dk_at dksX1_count_5 9 rfl rfl)
theorem dX1_count_131 : decode cX1_count 131 = .ok (.ireturn, 1) := dk_172 (dk_at dksX1_count_5 12 rfl rfl)
theorem dX1_count_132 : decode cX1_count 132 = .ok (.aload_n 0, 1) := dk_42 (dk_at dksX1_count_5 13 rfl rfl)
theorem dX1_count_133 : decode cX1_count 133 = .ok (.getfield 19, 3) := dk_180 0 19 (dk_at dksX1_count_5 14 rfl rfl)
theorem dX1_count_136 : decode cX1_count 136 = .ok (.getfield 240, 3) := dk_180 0 240 (dk_at dksX1_count_5 17 rfl rfl)
theorem dX1_count_139 : decode cX1_count 139 = .ok (.ireturn, 1) := dk_172 (dk_at dksX1_count_5 20 rfl rfl)
theorem dX1_count_140 : decode cX1_count 140 = .ok (.aload_n 0, 1) := dk_42 (dk_at dksX1_count_5 21 rfl rfl)
theorem dX1_count_141 : decode cX1_count 141 = .ok (.invokevirtual 283, 3) := dk_182 1 27 (dk_at dksX1_count_6 0 rfl rfl)
theorem dX1_count_144 : decode cX1_count 144 = .ok (.bipush (-2), 2) := dk_16 254 (dk_at dksX1_count_6 3 rfl rfl)
theorem dX1_count_146 : decode cX1_count 146 = .ok (.if_icmp .ne 8, 3) := dk_160 0 8 (dk_at dksX1_count_6 5 rfl rfl)
theorem dX1_count_149 : decode cX1_count 149 = .ok (.bipush (-2), 2) := dk_16 254 (dk_at dksX1_count_6 8 rfl rfl)
theorem dX1_count_151 : decode cX1_count 151 = .ok (.goto 10, 3) := dk_167 0 10 (dk_at dksX1_count_6 10 rfl rfl)
theorem dX1_count_154 : decode cX1_count 154 = .ok (.aload_n 0, 1) := dk_42 (dk_at dksX1_count_6 13 rfl rfl)
theorem dX1_count_155 : decode cX1_count 155 = .ok (.getfield 31, 3) := dk_180 0 31 (dk_at dksX1_count_6 14 rfl rfl)
theorem dX1_count_158 : decode cX1_count 158 = .ok (.getfield 347, 3) := dk_180 1 91 (dk_at dksX1_count_6 17 rfl rfl)
theorem dX1_count_161 : decode cX1_count 161 = .ok (.ireturn, 1) := dk_172 (dk_at dksX1_count_6 20 rfl rfl)
theorem dX1_count_162 : decode cX1_count 162 = .ok (.iconst 0, 1) := dk_3 (dk_at dksX1_count_6 21 rfl rfl)
theorem dX1_count_163 : decode cX1_count 163 = .ok (.istore_n 3, 1) := dk_62 (dk_at dksX1_count_6 22 rfl rfl)
theorem dX1_count_164 : decode cX1_count 164 = .ok (.iload_n 3, 1) := dk_29 (dk_at dksX1_count_6 23 rfl rfl)
theorem dX1_count_165 : decode cX1_count 165 = .ok (.bipush 36, 2) := dk_16 36 (dk_at dksX1_count_7 0 rfl rfl)
theorem dX1_count_167 : decode cX1_count 167 = .ok (.if_icmp .ge 55, 3) := dk_162 0 55 (dk_at dksX1_count_7 2 rfl rfl)
theorem dX1_count_170 : decode cX1_count 170 = .ok (.iload_n 2, 1) := dk_28 (dk_at dksX1_count_7 5 rfl rfl)
theorem dX1_count_171 : decode cX1_count 171 = .ok (.aload_n 0, 1) := dk_42 (dk_at dksX1_count_7 6 rfl rfl)
theorem dX1_count_172 : decode cX1_count 172 = .ok (.getfield 19, 3) := dk_180 0 19 (dk_at dksX1_count_7 7 rfl rfl)
theorem dX1_count_175 : decode cX1_count 175 = .ok (.getfield 166, 3) := dk_180 0 166 (dk_at dksX1_count_7 10 rfl rfl)
theorem dX1_count_178 : decode cX1_count 178 = .ok (.getfield 169, 3) := dk_180 0 169 (dk_at dksX1_count_7 13 rfl rfl)
theorem dX1_count_181 : decode cX1_count 181 = .ok (.iload_n 3, 1) := dk_29 (dk_at dksX1_count_7 16 rfl rfl)
theorem dX1_count_182 : decode cX1_count 182 = .ok (.iaload, 1) := dk_46 (dk_at dksX1_count_7 17 rfl rfl)
theorem dX1_count_183 : decode cX1_count 183 = .ok (.iconst (-1), 1) := dk_2 (dk_at dksX1_count_7 18 rfl rfl)
theorem dX1_count_184 : decode cX1_count 184 = .ok (.if_icmp .ne 7, 3) := dk_160 0 7 (dk_at dksX1_count_7 19 rfl rfl)
theorem dX1_count_187 : decode cX1_count 187 = .ok (.iconst 0, 1) := dk_3 (dk_at dksX1_count_7 22 rfl rfl)
theorem dX1_count_188 : decode cX1_count 188 = .ok (.goto 26, 3) := dk_167 0 26 (dk_at dksX1_count_8 0 rfl rfl)
theorem dX1_count_191 : decode cX1_count 191 = .ok (.aload_n 0, 1) := dk_42 (dk_at dksX1_count_8 3 rfl rfl)
theorem dX1_count_192 : decode cX1_count 192 = .ok (.getfield 19, 3) := dk_180 0 19 (dk_at dksX1_count_8 4 rfl rfl)
theorem dX1_count_195 : decode cX1_count 195 = .ok (.getfield 142, 3) := dk_180 0 142 (dk_at dksX1_count_8 7 rfl rfl)
theorem dX1_count_198 : decode cX1_count 198 = .ok (.aload_n 0, 1) := dk_42 (dk_at dksX1_count_8 10 rfl rfl)
theorem dX1_count_199 : decode cX1_count 199 = .ok (.getfield 19, 3) := dk_180 0 19 (dk_at dksX1_count_8 11 rfl rfl)
theorem dX1_count_202 : decode cX1_count 202 = .ok (.getfield 166, 3) := dk_180 0 166 (dk_at dksX1_count_8 14 rfl rfl)
theorem dX1_count_205 : decode cX1_count 205 = .ok (.getfield 169, 3) := dk_180 0 169 (dk_at dksX1_count_8 17 rfl rfl)
theorem dX1_count_208 : decode cX1_count 208 = .ok (.iload_n 3, 1) := dk_29 (dk_at dksX1_count_8 20 rfl rfl)
theorem dX1_count_209 : decode cX1_count 209 = .ok (.iaload, 1) := dk_46 (dk_at dksX1_count_8 21 rfl rfl)
theorem dX1_count_210 : decode cX1_count 210 = .ok (.aaload, 1) := dk_50 (dk_at dksX1_count_8 22 rfl rfl)
theorem dX1_count_211 : decode cX1_count 211 = .ok (.getfield 350, 3) := dk_180 1 94 (dk_at dksX1_count_9 0 rfl rfl)
theorem dX1_count_214 : decode cX1_count 214 = .ok (.iadd, 1) := dk_96 (dk_at dksX1_count_9 3 rfl rfl)
theorem dX1_count_215 : decode cX1_count 215 = .ok (.istore_n 2, 1) := dk_61 (dk_at dksX1_count_9 4 rfl rfl)
theorem dX1_count_216 : decode cX1_count 216 = .ok (.iinc 3 1, 3) := dk_132 3 1 (dk_at dksX1_count_9 5 rfl rfl)
theorem dX1_count_219 : decode cX1_count 219 = .ok (.goto (-55), 3) := dk_167 255 201 (dk_at dksX1_count_9 8 rfl rfl)
theorem dX1_count_222 : decode cX1_count 222 = .ok (.iload_n 2, 1) := dk_28 (dk_at dksX1_count_9 11 rfl rfl)
theorem dX1_count_223 : decode cX1_count 223 = .ok (.ireturn, 1) := dk_172 (dk_at dksX1_count_9 12 rfl rfl)
theorem dX1_count_224 : decode cX1_count 224 = .ok (.iconst (-1), 1) := dk_2 (dk_at dksX1_count_9 13 rfl rfl)
theorem dX1_count_225 : decode cX1_count 225 = .ok (.ireturn, 1) := dk_172 (dk_at dksX1_count_9 14 rfl rfl)
def dkwX1_kind_4 : List UInt8 := [181, 0, 93, 42, 180, 0, 19, 180, 0, 93, 4, 100, 172]
abbrev dktX1_kind_4 : List UInt8 := dkwX1_kind_4 ++ []
def dkwX1_kind_3 : List UInt8 := [180, 0, 142, 42, 180, 0, 19, 180, 0, 93, 45, 83, 42, 180, 0, 19, 89, 180, 0, 93, 4, 96]
abbrev dktX1_kind_3 : List UInt8 := dkwX1_kind_3 ++ dktX1_kind_4
def dkwX1_kind_2 : List UInt8 := [42, 180, 0, 19, 180, 0, 93, 8, 162, 0, 7, 4, 167, 0, 4, 3, 184, 0, 139, 42, 180, 0, 19]
abbrev dktX1_kind_2 : List UInt8 := dkwX1_kind_2 ++ dktX1_kind_3
def dkwX1_kind_1 : List UInt8 := [180, 0, 133, 181, 0, 69, 187, 0, 73, 89, 183, 0, 75, 191, 27, 3, 16, 20, 184, 0, 85, 184, 0, 136]
abbrev dktX1_kind_1 : List UInt8 := dkwX1_kind_1 ++ dktX1_kind_2
def dkwX1_kind_0 : List UInt8 := [42, 182, 0, 123, 61, 42, 180, 0, 10, 28, 27, 182, 0, 127, 78, 167, 0, 22, 58, 4, 42, 25, 4]
abbrev dktX1_kind_0 : List UInt8 := dkwX1_kind_0 ++ dktX1_kind_1
theorem dksX1_kind_0 : cX1_kind.data.toList.drop 0 = dktX1_kind_0 := by decide +kernel
theorem dksX1_kind_1 : cX1_kind.data.toList.drop 23 = dktX1_kind_1 := dk_seg dksX1_kind_0 23 rfl rfl
theorem dksX1_kind_2 : cX1_kind.data.toList.drop 47 = dktX1_kind_2 := dk_seg dksX1_kind_1 24 rfl rfl
theorem dksX1_kind_3 : cX1_kind.data.toList.drop 70 = dktX1_kind_3 := dk_seg dksX1_kind_2 23 rfl rfl
theorem dksX1_kind_4 : cX1_kind.data.toList.drop 92 = dktX1_kind_4 := dk_seg dksX1_kind_3 22 rfl rfl
theorem dX1_kind_0 : decode cX1_kind 0 = .ok (.aload_n 0, 1) := dk_42 (dk_at dksX1_kind_0 0 rfl rfl)
theorem dX1_kind_1 : decode cX1_kind 1 = .ok (.invokevirtual 123, 3) := dk_182 0 123 (dk_at dksX1_kind_0 1 rfl rfl)
theorem dX1_kind_4 : decode cX1_kind 4 = .ok (.istore_n 2, 1) := dk_61 (dk_at dksX1_kind_0 4 rfl rfl)
theorem dX1_kind_5 : decode cX1_kind 5 = .ok (.aload_n 0, 1) := dk_42 (dk_at dksX1_kind_0 5 rfl rfl)
theorem dX1_kind_6 : decode cX1_kind 6 = .ok (.getfield 10, 3) := dk_180 0 10 (dk_at dksX1_kind_0 6 rfl rfl)
theorem dX1_kind_9 : decode cX1_kind 9 = .ok (.iload_n 2, 1) := dk_28 (dk_at dksX1_kind_0 9 rfl rfl)
theorem dX1_kind_10 : decode cX1_kind 10 = .ok (.iload_n 1, 1) := dk_27 (dk_at dksX1_kind_0 10 rfl rfl)
theorem dX1_kind_11 : decode cX1_kind 11 = .ok (.invokevirtual 127, 3) := dk_182 0 127 (dk_at dksX1_kind_0 11 rfl rfl)
theorem dX1_kind_14 : decode cX1_kind 14 = .ok (.astore_n 3, 1) := dk_78 (dk_at dksX1_kind_0 14 rfl rfl)
theorem dX1_kind_15 : decode cX1_kind 15 = .ok (.goto 22, 3) := dk_167 0 22 (dk_at dksX1_kind_0 15 rfl rfl)
theorem dX1_kind_18 : decode cX1_kind 18 = .ok (.astore 4, 2) := dk_58 4 (dk_at dksX1_kind_0 18 rfl rfl)
theorem dX1_kind_20 : decode cX1_kind 20 = .ok (.aload_n 0, 1) := dk_42 (dk_at dksX1_kind_0 20 rfl rfl)
theorem dX1_kind_21 : decode cX1_kind 21 = .ok (.aload 4, 2) := dk_25 4 (dk_at dksX1_kind_0 21 rfl rfl)
theorem dX1_kind_23 : decode cX1_kind 23 = .ok (.getfield 133, 3) := dk_180 0 133 (dk_at dksX1_kind_1 0 rfl rfl)
theorem dX1_kind_26 : decode cX1_kind 26 = .ok (.putfield 69, 3) := dk_181 0 69 (dk_at dksX1_kind_1 3 rfl rfl)
theorem dX1_kind_29 : decode cX1_kind 29 = .ok (.new 73, 3) := dk_187 0 73 (dk_at dksX1_kind_1 6 rfl rfl)
theorem dX1_kind_32 : decode cX1_kind 32 = .ok (.dup, 1) := dk_89 (dk_at dksX1_kind_1 9 rfl rfl)
theorem dX1_kind_33 : decode cX1_kind 33 = .ok (.invokespecial 75, 3) := dk_183 0 75 (dk_at dksX1_kind_1 10 rfl rfl)
theorem dX1_kind_36 : decode cX1_kind 36 = .ok (.athrow, 1) := dk_191 (dk_at dksX1_kind_1 13 rfl rfl)
theorem dX1_kind_37 : decode cX1_kind 37 = .ok (.iload_n 1, 1) := dk_27 (dk_at dksX1_kind_1 14 rfl rfl)
theorem dX1_kind_38 : decode cX1_kind 38 = .ok (.iconst 0, 1) := dk_3 (dk_at dksX1_kind_1 15 rfl rfl)
theorem dX1_kind_39 : decode cX1_kind 39 = .ok (.bipush 20, 2) := dk_16 20 (dk_at dksX1_kind_1 16 rfl rfl)
theorem dX1_kind_41 : decode cX1_kind 41 = .ok (.invokestatic 85, 3) := dk_184 0 85 (dk_at dksX1_kind_1 18 rfl rfl)
theorem dX1_kind_44 : decode cX1_kind 44 = .ok (.invokestatic 136, 3) := dk_184 0 136 (dk_at dksX1_kind_1 21 rfl rfl)
theorem dX1_kind_47 : decode cX1_kind 47 = .ok (.aload_n 0, 1) := dk_42 (dk_at dksX1_kind_2 0 rfl rfl)
theorem dX1_kind_48 : decode cX1_kind 48 = .ok (.getfield 19, 3) := dk_180 0 19 (dk_at dksX1_kind_2 1 rfl rfl)
theorem dX1_kind_51 : decode cX1_kind 51 = .ok (.getfield 93, 3) := dk_180 0 93 (dk_at dksX1_kind_2 4 rfl rfl)
theorem dX1_kind_54 : decode cX1_kind 54 = .ok (.iconst 5, 1) := dk_8 (dk_at dksX1_kind_2 7 rfl rfl)
theorem dX1_kind_55 : decode cX1_kind 55 = .ok (.if_icmp .ge 7, 3) := dk_162 0 7 (dk_at dksX1_kind_2 8 rfl rfl)
theorem dX1_kind_58 : decode cX1_kind 58 = .ok (.iconst 1, 1) := dk_4 (dk_at dksX1_kind_2 11 rfl rfl)
theorem dX1_kind_59 : decode cX1_kind 59 = .ok (.goto 4, 3) := dk_167 0 4 (dk_at dksX1_kind_2 12 rfl rfl)
theorem dX1_kind_62 : decode cX1_kind 62 = .ok (.iconst 0, 1) := dk_3 (dk_at dksX1_kind_2 15 rfl rfl)
theorem dX1_kind_63 : decode cX1_kind 63 = .ok (.invokestatic 139, 3) := dk_184 0 139 (dk_at dksX1_kind_2 16 rfl rfl)
theorem dX1_kind_66 : decode cX1_kind 66 = .ok (.aload_n 0, 1) := dk_42 (dk_at dksX1_kind_2 19 rfl rfl)
theorem dX1_kind_67 : decode cX1_kind 67 = .ok (.getfield 19, 3) := dk_180 0 19 (dk_at dksX1_kind_2 20 rfl rfl)
theorem dX1_kind_70 : decode cX1_kind 70 = .ok (.getfield 142, 3) := dk_180 0 142 (dk_at dksX1_kind_3 0 rfl rfl)
theorem dX1_kind_73 : decode cX1_kind 73 = .ok (.aload_n 0, 1) := dk_42 (dk_at dksX1_kind_3 3 rfl rfl)
theorem dX1_kind_74 : decode cX1_kind 74 = .ok (.getfield 19, 3) := dk_180 0 19 (dk_at dksX1_kind_3 4 rfl rfl)
theorem dX1_kind_77 : decode cX1_kind 77 = .ok (.getfield 93, 3) := dk_180 0 93 (dk_at dksX1_kind_3 7 rfl rfl)
theorem dX1_kind_80 : decode cX1_kind 80 = .ok (.aload_n 3, 1) := dk_45 (dk_at dksX1_kind_3 10 rfl rfl)
theorem dX1_kind_81 : decode cX1_kind 81 = .ok (.aastore, 1) := dk_83 (dk_at dksX1_kind_3 11 rfl rfl)
theorem dX1_kind_82 : decode cX1_kind 82 = .ok (.aload_n 0, 1) := dk_42 (dk_at dksX1_kind_3 12 rfl rfl)
theorem dX1_kind_83 : decode cX1_kind 83 = .ok (.getfield 19, 3) := dk_180 0 19 (dk_at dksX1_kind_3 13 rfl rfl)
theorem dX1_kind_86 : decode cX1_kind 86 = .ok (.dup, 1) := dk_89 (dk_at dksX1_kind_3 16 rfl rfl)
theorem dX1_kind_87 : decode cX1_kind 87 = .ok (.getfield 93, 3) := dk_180 0 93 (dk_at dksX1_kind_3 17 rfl rfl)
theorem dX1_kind_90 : decode cX1_kind 90 = .ok (.iconst 1, 1) := dk_4 (dk_at dksX1_kind_3 20 rfl rfl)
theorem dX1_kind_91 : decode cX1_kind 91 = .ok (.iadd, 1) := dk_96 (dk_at dksX1_kind_3 21 rfl rfl)
theorem dX1_kind_92 : decode cX1_kind 92 = .ok (.putfield 93, 3) := dk_181 0 93 (dk_at dksX1_kind_4 0 rfl rfl)
theorem dX1_kind_95 : decode cX1_kind 95 = .ok (.aload_n 0, 1) := dk_42 (dk_at dksX1_kind_4 3 rfl rfl)
theorem dX1_kind_96 : decode cX1_kind 96 = .ok (.getfield 19, 3) := dk_180 0 19 (dk_at dksX1_kind_4 4 rfl rfl)
theorem dX1_kind_99 : decode cX1_kind 99 = .ok (.getfield 93, 3) := dk_180 0 93 (dk_at dksX1_kind_4 7 rfl rfl)
theorem dX1_kind_102 : decode cX1_kind 102 = .ok (.iconst 1, 1) := dk_4 (dk_at dksX1_kind_4 10 rfl rfl)
theorem dX1_kind_103 : decode cX1_kind 103 = .ok (.isub, 1) := dk_100 (dk_at dksX1_kind_4 11 rfl rfl)
theorem dX1_kind_104 : decode cX1_kind 104 = .ok (.ireturn, 1) := dk_172 (dk_at dksX1_kind_4 12 rfl rfl)
def dkwX1_use_0 : List UInt8 := [42, 180, 0, 10, 180, 0, 116, 60, 42, 180, 0, 10, 3, 181, 0, 116, 42, 2, 181, 0, 69, 27, 172]
abbrev dktX1_use_0 : List UInt8 := dkwX1_use_0 ++ []
theorem dksX1_use_0 : cX1_use.data.toList.drop 0 = dktX1_use_0 := by decide +kernel
theorem dX1_use_0 : decode cX1_use 0 = .ok (.aload_n 0, 1) := dk_42 (dk_at dksX1_use_0 0 rfl rfl)
theorem dX1_use_1 : decode cX1_use 1 = .ok (.getfield 10, 3) := dk_180 0 10 (dk_at dksX1_use_0 1 rfl rfl)
theorem dX1_use_4 : decode cX1_use 4 = .ok (.getfield 116, 3) := dk_180 0 116 (dk_at dksX1_use_0 4 rfl rfl)
theorem dX1_use_7 : decode cX1_use 7 = .ok (.istore_n 1, 1) := dk_60 (dk_at dksX1_use_0 7 rfl rfl)
theorem dX1_use_8 : decode cX1_use 8 = .ok (.aload_n 0, 1) := dk_42 (dk_at dksX1_use_0 8 rfl rfl)
theorem dX1_use_9 : decode cX1_use 9 = .ok (.getfield 10, 3) := dk_180 0 10 (dk_at dksX1_use_0 9 rfl rfl)
theorem dX1_use_12 : decode cX1_use 12 = .ok (.iconst 0, 1) := dk_3 (dk_at dksX1_use_0 12 rfl rfl)
theorem dX1_use_13 : decode cX1_use 13 = .ok (.putfield 116, 3) := dk_181 0 116 (dk_at dksX1_use_0 13 rfl rfl)
theorem dX1_use_16 : decode cX1_use 16 = .ok (.aload_n 0, 1) := dk_42 (dk_at dksX1_use_0 16 rfl rfl)
theorem dX1_use_17 : decode cX1_use 17 = .ok (.iconst (-1), 1) := dk_2 (dk_at dksX1_use_0 17 rfl rfl)
theorem dX1_use_18 : decode cX1_use 18 = .ok (.putfield 69, 3) := dk_181 0 69 (dk_at dksX1_use_0 18 rfl rfl)
theorem dX1_use_21 : decode cX1_use 21 = .ok (.iload_n 1, 1) := dk_27 (dk_at dksX1_use_0 21 rfl rfl)
theorem dX1_use_22 : decode cX1_use 22 = .ok (.ireturn, 1) := dk_172 (dk_at dksX1_use_0 22 rfl rfl)
def dkwX1_must_0 : List UInt8 := [26, 154, 0, 11, 187, 0, 73, 89, 183, 0, 75, 191, 177]
abbrev dktX1_must_0 : List UInt8 := dkwX1_must_0 ++ []
theorem dksX1_must_0 : cX1_must.data.toList.drop 0 = dktX1_must_0 := by decide +kernel
theorem dX1_must_0 : decode cX1_must 0 = .ok (.iload_n 0, 1) := dk_26 (dk_at dksX1_must_0 0 rfl rfl)
theorem dX1_must_1 : decode cX1_must 1 = .ok (.ifCond .ne 11, 3) := dk_154 0 11 (dk_at dksX1_must_0 1 rfl rfl)
theorem dX1_must_4 : decode cX1_must 4 = .ok (.new 73, 3) := dk_187 0 73 (dk_at dksX1_must_0 4 rfl rfl)
theorem dX1_must_7 : decode cX1_must 7 = .ok (.dup, 1) := dk_89 (dk_at dksX1_must_0 7 rfl rfl)
theorem dX1_must_8 : decode cX1_must 8 = .ok (.invokespecial 75, 3) := dk_183 0 75 (dk_at dksX1_must_0 8 rfl rfl)
theorem dX1_must_11 : decode cX1_must 11 = .ok (.athrow, 1) := dk_191 (dk_at dksX1_must_0 11 rfl rfl)
theorem dX1_must_12 : decode cX1_must 12 = .ok (.return_, 1) := dk_177 (dk_at dksX1_must_0 12 rfl rfl)
def dkwX1_mayBe_0 : List UInt8 := [26, 154, 0, 11, 187, 0, 76, 89, 183, 0, 78, 191, 177]
abbrev dktX1_mayBe_0 : List UInt8 := dkwX1_mayBe_0 ++ []
theorem dksX1_mayBe_0 : cX1_mayBe.data.toList.drop 0 = dktX1_mayBe_0 := by decide +kernel
theorem dX1_mayBe_0 : decode cX1_mayBe 0 = .ok (.iload_n 0, 1) := dk_26 (dk_at dksX1_mayBe_0 0 rfl rfl)
theorem dX1_mayBe_1 : decode cX1_mayBe 1 = .ok (.ifCond .ne 11, 3) := dk_154 0 11 (dk_at dksX1_mayBe_0 1 rfl rfl)
theorem dX1_mayBe_4 : decode cX1_mayBe 4 = .ok (.new 76, 3) := dk_187 0 76 (dk_at dksX1_mayBe_0 4 rfl rfl)
theorem dX1_mayBe_7 : decode cX1_mayBe 7 = .ok (.dup, 1) := dk_89 (dk_at dksX1_mayBe_0 7 rfl rfl)
theorem dX1_mayBe_8 : decode cX1_mayBe 8 = .ok (.invokespecial 78, 3) := dk_183 0 78 (dk_at dksX1_mayBe_0 8 rfl rfl)
theorem dX1_mayBe_11 : decode cX1_mayBe 11 = .ok (.athrow, 1) := dk_191 (dk_at dksX1_mayBe_0 11 rfl rfl)
theorem dX1_mayBe_12 : decode cX1_mayBe 12 = .ok (.return_, 1) := dk_177 (dk_at dksX1_mayBe_0 12 rfl rfl)
def dkwX1_measure_2 : List UInt8 := [180, 0, 153, 190, 172]
abbrev dktX1_measure_2 : List UInt8 := dkwX1_measure_2 ++ []
def dkwX1_measure_1 : List UInt8 := [42, 44, 180, 0, 133, 181, 0, 69, 187, 0, 73, 89, 183, 0, 75, 191, 42, 180, 0, 19, 180, 0, 150]
abbrev dktX1_measure_1 : List UInt8 := dkwX1_measure_1 ++ dktX1_measure_2
def dkwX1_measure_0 : List UInt8 := [42, 182, 0, 123, 60, 42, 180, 0, 19, 42, 180, 0, 10, 27, 182, 0, 146, 181, 0, 150, 167, 0, 20, 77]
abbrev dktX1_measure_0 : List UInt8 := dkwX1_measure_0 ++ dktX1_measure_1
theorem dksX1_measure_0 : cX1_measure.data.toList.drop 0 = dktX1_measure_0 := by decide +kernel
theorem dksX1_measure_1 : cX1_measure.data.toList.drop 24 = dktX1_measure_1 := dk_seg dksX1_measure_0 24 rfl rfl
theorem dksX1_measure_2 : cX1_measure.data.toList.drop 47 = dktX1_measure_2 := dk_seg dksX1_measure_1 23 rfl rfl
theorem dX1_measure_0 : decode cX1_measure 0 = .ok (.aload_n 0, 1) := dk_42 (dk_at dksX1_measure_0 0 rfl rfl)
theorem dX1_measure_1 : decode cX1_measure 1 = .ok (.invokevirtual 123, 3) := dk_182 0 123 (dk_at dksX1_measure_0 1 rfl rfl)
theorem dX1_measure_4 : decode cX1_measure 4 = .ok (.istore_n 1, 1) := dk_60 (dk_at dksX1_measure_0 4 rfl rfl)
theorem dX1_measure_5 : decode cX1_measure 5 = .ok (.aload_n 0, 1) := dk_42 (dk_at dksX1_measure_0 5 rfl rfl)
theorem dX1_measure_6 : decode cX1_measure 6 = .ok (.getfield 19, 3) := dk_180 0 19 (dk_at dksX1_measure_0 6 rfl rfl)
theorem dX1_measure_9 : decode cX1_measure 9 = .ok (.aload_n 0, 1) := dk_42 (dk_at dksX1_measure_0 9 rfl rfl)
theorem dX1_measure_10 : decode cX1_measure 10 = .ok (.getfield 10, 3) := dk_180 0 10 (dk_at dksX1_measure_0 10 rfl rfl)
theorem dX1_measure_13 : decode cX1_measure 13 = .ok (.iload_n 1, 1) := dk_27 (dk_at dksX1_measure_0 13 rfl rfl)
theorem dX1_measure_14 : decode cX1_measure 14 = .ok (.invokevirtual 146, 3) := dk_182 0 146 (dk_at dksX1_measure_0 14 rfl rfl)
theorem dX1_measure_17 : decode cX1_measure 17 = .ok (.putfield 150, 3) := dk_181 0 150 (dk_at dksX1_measure_0 17 rfl rfl)
theorem dX1_measure_20 : decode cX1_measure 20 = .ok (.goto 20, 3) := dk_167 0 20 (dk_at dksX1_measure_0 20 rfl rfl)
theorem dX1_measure_23 : decode cX1_measure 23 = .ok (.astore_n 2, 1) := dk_77 (dk_at dksX1_measure_0 23 rfl rfl)
theorem dX1_measure_24 : decode cX1_measure 24 = .ok (.aload_n 0, 1) := dk_42 (dk_at dksX1_measure_1 0 rfl rfl)
theorem dX1_measure_25 : decode cX1_measure 25 = .ok (.aload_n 2, 1) := dk_44 (dk_at dksX1_measure_1 1 rfl rfl)
theorem dX1_measure_26 : decode cX1_measure 26 = .ok (.getfield 133, 3) := dk_180 0 133 (dk_at dksX1_measure_1 2 rfl rfl)
theorem dX1_measure_29 : decode cX1_measure 29 = .ok (.putfield 69, 3) := dk_181 0 69 (dk_at dksX1_measure_1 5 rfl rfl)
theorem dX1_measure_32 : decode cX1_measure 32 = .ok (.new 73, 3) := dk_187 0 73 (dk_at dksX1_measure_1 8 rfl rfl)
theorem dX1_measure_35 : decode cX1_measure 35 = .ok (.dup, 1) := dk_89 (dk_at dksX1_measure_1 11 rfl rfl)
theorem dX1_measure_36 : decode cX1_measure 36 = .ok (.invokespecial 75, 3) := dk_183 0 75 (dk_at dksX1_measure_1 12 rfl rfl)
theorem dX1_measure_39 : decode cX1_measure 39 = .ok (.athrow, 1) := dk_191 (dk_at dksX1_measure_1 15 rfl rfl)
theorem dX1_measure_40 : decode cX1_measure 40 = .ok (.aload_n 0, 1) := dk_42 (dk_at dksX1_measure_1 16 rfl rfl)
theorem dX1_measure_41 : decode cX1_measure 41 = .ok (.getfield 19, 3) := dk_180 0 19 (dk_at dksX1_measure_1 17 rfl rfl)
theorem dX1_measure_44 : decode cX1_measure 44 = .ok (.getfield 150, 3) := dk_180 0 150 (dk_at dksX1_measure_1 20 rfl rfl)
theorem dX1_measure_47 : decode cX1_measure 47 = .ok (.getfield 153, 3) := dk_180 0 153 (dk_at dksX1_measure_2 0 rfl rfl)
theorem dX1_measure_50 : decode cX1_measure 50 = .ok (.arraylength, 1) := dk_190 (dk_at dksX1_measure_2 3 rfl rfl)
theorem dX1_measure_51 : decode cX1_measure 51 = .ok (.ireturn, 1) := dk_172 (dk_at dksX1_measure_2 4 rfl rfl)
def dkwX1_put_3 : List UInt8 := [181, 0, 174, 177]
abbrev dktX1_put_3 : List UInt8 := dkwX1_put_3 ++ []
def dkwX1_put_2 : List UInt8 := [180, 0, 19, 180, 0, 166, 180, 0, 171, 27, 28, 2, 160, 0, 7, 3, 167, 0, 4, 29, 79, 42, 3]
abbrev dktX1_put_2 : List UInt8 := dkwX1_put_2 ++ dktX1_put_3
def dkwX1_put_1 : List UInt8 := [4, 167, 0, 4, 3, 184, 0, 136, 42, 180, 0, 19, 180, 0, 166, 180, 0, 169, 27, 28, 79, 42]
abbrev dktX1_put_1 : List UInt8 := dkwX1_put_1 ++ dktX1_put_2
def dkwX1_put_0 : List UInt8 := [27, 184, 0, 159, 42, 28, 2, 182, 0, 162, 28, 2, 159, 0, 12, 29, 3, 4, 184, 0, 85, 153, 0, 7]
abbrev dktX1_put_0 : List UInt8 := dkwX1_put_0 ++ dktX1_put_1
theorem dksX1_put_0 : cX1_put.data.toList.drop 0 = dktX1_put_0 := by decide +kernel
theorem dksX1_put_1 : cX1_put.data.toList.drop 24 = dktX1_put_1 := dk_seg dksX1_put_0 24 rfl rfl
theorem dksX1_put_2 : cX1_put.data.toList.drop 46 = dktX1_put_2 := dk_seg dksX1_put_1 22 rfl rfl
theorem dksX1_put_3 : cX1_put.data.toList.drop 69 = dktX1_put_3 := dk_seg dksX1_put_2 23 rfl rfl
theorem dX1_put_0 : decode cX1_put 0 = .ok (.iload_n 1, 1) := dk_27 (dk_at dksX1_put_0 0 rfl rfl)
theorem dX1_put_1 : decode cX1_put 1 = .ok (.invokestatic 159, 3) := dk_184 0 159 (dk_at dksX1_put_0 1 rfl rfl)
theorem dX1_put_4 : decode cX1_put 4 = .ok (.aload_n 0, 1) := dk_42 (dk_at dksX1_put_0 4 rfl rfl)
theorem dX1_put_5 : decode cX1_put 5 = .ok (.iload_n 2, 1) := dk_28 (dk_at dksX1_put_0 5 rfl rfl)
theorem dX1_put_6 : decode cX1_put 6 = .ok (.iconst (-1), 1) := dk_2 (dk_at dksX1_put_0 6 rfl rfl)
theorem dX1_put_7 : decode cX1_put 7 = .ok (.invokevirtual 162, 3) := dk_182 0 162 (dk_at dksX1_put_0 7 rfl rfl)
theorem dX1_put_10 : decode cX1_put 10 = .ok (.iload_n 2, 1) := dk_28 (dk_at dksX1_put_0 10 rfl rfl)
theorem dX1_put_11 : decode cX1_put 11 = .ok (.iconst (-1), 1) := dk_2 (dk_at dksX1_put_0 11 rfl rfl)
theorem dX1_put_12 : decode cX1_put 12 = .ok (.if_icmp .eq 12, 3) := dk_159 0 12 (dk_at dksX1_put_0 12 rfl rfl)
theorem dX1_put_15 : decode cX1_put 15 = .ok (.iload_n 3, 1) := dk_29 (dk_at dksX1_put_0 15 rfl rfl)
theorem dX1_put_16 : decode cX1_put 16 = .ok (.iconst 0, 1) := dk_3 (dk_at dksX1_put_0 16 rfl rfl)
theorem dX1_put_17 : decode cX1_put 17 = .ok (.iconst 1, 1) := dk_4 (dk_at dksX1_put_0 17 rfl rfl)
theorem dX1_put_18 : decode cX1_put 18 = .ok (.invokestatic 85, 3) := dk_184 0 85 (dk_at dksX1_put_0 18 rfl rfl)
theorem dX1_put_21 : decode cX1_put 21 = .ok (.ifCond .eq 7, 3) := dk_153 0 7 (dk_at dksX1_put_0 21 rfl rfl)
theorem dX1_put_24 : decode cX1_put 24 = .ok (.iconst 1, 1) := dk_4 (dk_at dksX1_put_1 0 rfl rfl)
theorem dX1_put_25 : decode cX1_put 25 = .ok (.goto 4, 3) := dk_167 0 4 (dk_at dksX1_put_1 1 rfl rfl)
theorem dX1_put_28 : decode cX1_put 28 = .ok (.iconst 0, 1) := dk_3 (dk_at dksX1_put_1 4 rfl rfl)
theorem dX1_put_29 : decode cX1_put 29 = .ok (.invokestatic 136, 3) := dk_184 0 136 (dk_at dksX1_put_1 5 rfl rfl)
theorem dX1_put_32 : decode cX1_put 32 = .ok (.aload_n 0, 1) := dk_42 (dk_at dksX1_put_1 8 rfl rfl)
theorem dX1_put_33 : decode cX1_put 33 = .ok (.getfield 19, 3) := dk_180 0 19 (dk_at dksX1_put_1 9 rfl rfl)
theorem dX1_put_36 : decode cX1_put 36 = .ok (.getfield 166, 3) := dk_180 0 166 (dk_at dksX1_put_1 12 rfl rfl)
theorem dX1_put_39 : decode cX1_put 39 = .ok (.getfield 169, 3) := dk_180 0 169 (dk_at dksX1_put_1 15 rfl rfl)
theorem dX1_put_42 : decode cX1_put 42 = .ok (.iload_n 1, 1) := dk_27 (dk_at dksX1_put_1 18 rfl rfl)
theorem dX1_put_43 : decode cX1_put 43 = .ok (.iload_n 2, 1) := dk_28 (dk_at dksX1_put_1 19 rfl rfl)
theorem dX1_put_44 : decode cX1_put 44 = .ok (.iastore, 1) := dk_79 (dk_at dksX1_put_1 20 rfl rfl)
theorem dX1_put_45 : decode cX1_put 45 = .ok (.aload_n 0, 1) := dk_42 (dk_at dksX1_put_1 21 rfl rfl)
theorem dX1_put_46 : decode cX1_put 46 = .ok (.getfield 19, 3) := dk_180 0 19 (dk_at dksX1_put_2 0 rfl rfl)
theorem dX1_put_49 : decode cX1_put 49 = .ok (.getfield 166, 3) := dk_180 0 166 (dk_at dksX1_put_2 3 rfl rfl)
theorem dX1_put_52 : decode cX1_put 52 = .ok (.getfield 171, 3) := dk_180 0 171 (dk_at dksX1_put_2 6 rfl rfl)
theorem dX1_put_55 : decode cX1_put 55 = .ok (.iload_n 1, 1) := dk_27 (dk_at dksX1_put_2 9 rfl rfl)
theorem dX1_put_56 : decode cX1_put 56 = .ok (.iload_n 2, 1) := dk_28 (dk_at dksX1_put_2 10 rfl rfl)
theorem dX1_put_57 : decode cX1_put 57 = .ok (.iconst (-1), 1) := dk_2 (dk_at dksX1_put_2 11 rfl rfl)
theorem dX1_put_58 : decode cX1_put 58 = .ok (.if_icmp .ne 7, 3) := dk_160 0 7 (dk_at dksX1_put_2 12 rfl rfl)
theorem dX1_put_61 : decode cX1_put 61 = .ok (.iconst 0, 1) := dk_3 (dk_at dksX1_put_2 15 rfl rfl)
theorem dX1_put_62 : decode cX1_put 62 = .ok (.goto 4, 3) := dk_167 0 4 (dk_at dksX1_put_2 16 rfl rfl)
theorem dX1_put_65 : decode cX1_put 65 = .ok (.iload_n 3, 1) := dk_29 (dk_at dksX1_put_2 19 rfl rfl)
theorem dX1_put_66 : decode cX1_put 66 = .ok (.iastore, 1) := dk_79 (dk_at dksX1_put_2 20 rfl rfl)
theorem dX1_put_67 : decode cX1_put 67 = .ok (.aload_n 0, 1) := dk_42 (dk_at dksX1_put_2 21 rfl rfl)
theorem dX1_put_68 : decode cX1_put 68 = .ok (.iconst 0, 1) := dk_3 (dk_at dksX1_put_2 22 rfl rfl)
theorem dX1_put_69 : decode cX1_put 69 = .ok (.putfield 174, 3) := dk_181 0 174 (dk_at dksX1_put_3 0 rfl rfl)
theorem dX1_put_72 : decode cX1_put 72 = .ok (.return_, 1) := dk_177 (dk_at dksX1_put_3 3 rfl rfl)
def dkwX1_isSquare_0 : List UInt8 := [26, 3, 16, 35, 184, 0, 85, 184, 0, 89, 177]
abbrev dktX1_isSquare_0 : List UInt8 := dkwX1_isSquare_0 ++ []
theorem dksX1_isSquare_0 : cX1_isSquare.data.toList.drop 0 = dktX1_isSquare_0 := by decide +kernel
theorem dX1_isSquare_0 : decode cX1_isSquare 0 = .ok (.iload_n 0, 1) := dk_26 (dk_at dksX1_isSquare_0 0 rfl rfl)
theorem dX1_isSquare_1 : decode cX1_isSquare 1 = .ok (.iconst 0, 1) := dk_3 (dk_at dksX1_isSquare_0 1 rfl rfl)
theorem dX1_isSquare_2 : decode cX1_isSquare 2 = .ok (.bipush 35, 2) := dk_16 35 (dk_at dksX1_isSquare_0 2 rfl rfl)
theorem dX1_isSquare_4 : decode cX1_isSquare 4 = .ok (.invokestatic 85, 3) := dk_184 0 85 (dk_at dksX1_isSquare_0 4 rfl rfl)
theorem dX1_isSquare_7 : decode cX1_isSquare 7 = .ok (.invokestatic 89, 3) := dk_184 0 89 (dk_at dksX1_isSquare_0 7 rfl rfl)
theorem dX1_isSquare_10 : decode cX1_isSquare 10 = .ok (.return_, 1) := dk_177 (dk_at dksX1_isSquare_0 10 rfl rfl)
def dkwX1_mustBe_0 : List UInt8 := [26, 154, 0, 11, 187, 0, 79, 89, 183, 0, 81, 191, 177]
abbrev dktX1_mustBe_0 : List UInt8 := dkwX1_mustBe_0 ++ []
theorem dksX1_mustBe_0 : cX1_mustBe.data.toList.drop 0 = dktX1_mustBe_0 := by decide +kernel
theorem dX1_mustBe_0 : decode cX1_mustBe 0 = .ok (.iload_n 0, 1) := dk_26 (dk_at dksX1_mustBe_0 0 rfl rfl)
theorem dX1_mustBe_1 : decode cX1_mustBe 1 = .ok (.ifCond .ne 11, 3) := dk_154 0 11 (dk_at dksX1_mustBe_0 1 rfl rfl)
theorem dX1_mustBe_4 : decode cX1_mustBe 4 = .ok (.new 79, 3) := dk_187 0 79 (dk_at dksX1_mustBe_0 4 rfl rfl)
theorem dX1_mustBe_7 : decode cX1_mustBe 7 = .ok (.dup, 1) := dk_89 (dk_at dksX1_mustBe_0 7 rfl rfl)
theorem dX1_mustBe_8 : decode cX1_mustBe 8 = .ok (.invokespecial 81, 3) := dk_183 0 81 (dk_at dksX1_mustBe_0 8 rfl rfl)
theorem dX1_mustBe_11 : decode cX1_mustBe 11 = .ok (.athrow, 1) := dk_191 (dk_at dksX1_mustBe_0 11 rfl rfl)
theorem dX1_mustBe_12 : decode cX1_mustBe 12 = .ok (.return_, 1) := dk_177 (dk_at dksX1_mustBe_0 12 rfl rfl)
def dkwX1_isKind_0 : List UInt8 := [27, 28, 42, 180, 0, 19, 180, 0, 93, 4, 100, 184, 0, 85, 184, 0, 89, 177]
abbrev dktX1_isKind_0 : List UInt8 := dkwX1_isKind_0 ++ []
theorem dksX1_isKind_0 : cX1_isKind.data.toList.drop 0 = dktX1_isKind_0 := by decide +kernel
theorem dX1_isKind_0 : decode cX1_isKind 0 = .ok (.iload_n 1, 1) := dk_27 (dk_at dksX1_isKind_0 0 rfl rfl)
theorem dX1_isKind_1 : decode cX1_isKind 1 = .ok (.iload_n 2, 1) := dk_28 (dk_at dksX1_isKind_0 1 rfl rfl)
theorem dX1_isKind_2 : decode cX1_isKind 2 = .ok (.aload_n 0, 1) := dk_42 (dk_at dksX1_isKind_0 2 rfl rfl)
theorem dX1_isKind_3 : decode cX1_isKind 3 = .ok (.getfield 19, 3) := dk_180 0 19 (dk_at dksX1_isKind_0 3 rfl rfl)
theorem dX1_isKind_6 : decode cX1_isKind 6 = .ok (.getfield 93, 3) := dk_180 0 93 (dk_at dksX1_isKind_0 6 rfl rfl)
theorem dX1_isKind_9 : decode cX1_isKind 9 = .ok (.iconst 1, 1) := dk_4 (dk_at dksX1_isKind_0 9 rfl rfl)
theorem dX1_isKind_10 : decode cX1_isKind 10 = .ok (.isub, 1) := dk_100 (dk_at dksX1_isKind_0 10 rfl rfl)
theorem dX1_isKind_11 : decode cX1_isKind 11 = .ok (.invokestatic 85, 3) := dk_184 0 85 (dk_at dksX1_isKind_0 11 rfl rfl)
theorem dX1_isKind_14 : decode cX1_isKind 14 = .ok (.invokestatic 89, 3) := dk_184 0 89 (dk_at dksX1_isKind_0 14 rfl rfl)
theorem dX1_isKind_17 : decode cX1_isKind 17 = .ok (.return_, 1) := dk_177 (dk_at dksX1_isKind_0 17 rfl rfl)
def dkwX1_moves_2 : List UInt8 := [29, 167, 0, 18, 28, 29, 162, 0, 12, 42, 180, 0, 59, 28, 46, 167, 0, 4, 2, 172]
abbrev dktX1_moves_2 : List UInt8 := dkwX1_moves_2 ++ []
def dkwX1_moves_1 : List UInt8 := [180, 0, 35, 42, 180, 0, 19, 180, 0, 166, 27, 42, 180, 0, 59, 182, 0, 178, 62, 28, 2, 160, 0, 7]
abbrev dktX1_moves_1 : List UInt8 := dkwX1_moves_1 ++ dktX1_moves_2
def dkwX1_moves_0 : List UInt8 := [27, 3, 4, 184, 0, 85, 153, 0, 12, 28, 2, 161, 0, 7, 4, 167, 0, 4, 3, 184, 0, 136, 42]
abbrev dktX1_moves_0 : List UInt8 := dkwX1_moves_0 ++ dktX1_moves_1
theorem dksX1_moves_0 : cX1_moves.data.toList.drop 0 = dktX1_moves_0 := by decide +kernel
theorem dksX1_moves_1 : cX1_moves.data.toList.drop 23 = dktX1_moves_1 := dk_seg dksX1_moves_0 23 rfl rfl
theorem dksX1_moves_2 : cX1_moves.data.toList.drop 47 = dktX1_moves_2 := dk_seg dksX1_moves_1 24 rfl rfl
theorem dX1_moves_0 : decode cX1_moves 0 = .ok (.iload_n 1, 1) := dk_27 (dk_at dksX1_moves_0 0 rfl rfl)
theorem dX1_moves_1 : decode cX1_moves 1 = .ok (.iconst 0, 1) := dk_3 (dk_at dksX1_moves_0 1 rfl rfl)
theorem dX1_moves_2 : decode cX1_moves 2 = .ok (.iconst 1, 1) := dk_4 (dk_at dksX1_moves_0 2 rfl rfl)
theorem dX1_moves_3 : decode cX1_moves 3 = .ok (.invokestatic 85, 3) := dk_184 0 85 (dk_at dksX1_moves_0 3 rfl rfl)
theorem dX1_moves_6 : decode cX1_moves 6 = .ok (.ifCond .eq 12, 3) := dk_153 0 12 (dk_at dksX1_moves_0 6 rfl rfl)
theorem dX1_moves_9 : decode cX1_moves 9 = .ok (.iload_n 2, 1) := dk_28 (dk_at dksX1_moves_0 9 rfl rfl)
theorem dX1_moves_10 : decode cX1_moves 10 = .ok (.iconst (-1), 1) := dk_2 (dk_at dksX1_moves_0 10 rfl rfl)
theorem dX1_moves_11 : decode cX1_moves 11 = .ok (.if_icmp .lt 7, 3) := dk_161 0 7 (dk_at dksX1_moves_0 11 rfl rfl)
theorem dX1_moves_14 : decode cX1_moves 14 = .ok (.iconst 1, 1) := dk_4 (dk_at dksX1_moves_0 14 rfl rfl)
theorem dX1_moves_15 : decode cX1_moves 15 = .ok (.goto 4, 3) := dk_167 0 4 (dk_at dksX1_moves_0 15 rfl rfl)
theorem dX1_moves_18 : decode cX1_moves 18 = .ok (.iconst 0, 1) := dk_3 (dk_at dksX1_moves_0 18 rfl rfl)
theorem dX1_moves_19 : decode cX1_moves 19 = .ok (.invokestatic 136, 3) := dk_184 0 136 (dk_at dksX1_moves_0 19 rfl rfl)
theorem dX1_moves_22 : decode cX1_moves 22 = .ok (.aload_n 0, 1) := dk_42 (dk_at dksX1_moves_0 22 rfl rfl)
theorem dX1_moves_23 : decode cX1_moves 23 = .ok (.getfield 35, 3) := dk_180 0 35 (dk_at dksX1_moves_1 0 rfl rfl)
theorem dX1_moves_26 : decode cX1_moves 26 = .ok (.aload_n 0, 1) := dk_42 (dk_at dksX1_moves_1 3 rfl rfl)
theorem dX1_moves_27 : decode cX1_moves 27 = .ok (.getfield 19, 3) := dk_180 0 19 (dk_at dksX1_moves_1 4 rfl rfl)
theorem dX1_moves_30 : decode cX1_moves 30 = .ok (.getfield 166, 3) := dk_180 0 166 (dk_at dksX1_moves_1 7 rfl rfl)
theorem dX1_moves_33 : decode cX1_moves 33 = .ok (.iload_n 1, 1) := dk_27 (dk_at dksX1_moves_1 10 rfl rfl)
theorem dX1_moves_34 : decode cX1_moves 34 = .ok (.aload_n 0, 1) := dk_42 (dk_at dksX1_moves_1 11 rfl rfl)
theorem dX1_moves_35 : decode cX1_moves 35 = .ok (.getfield 59, 3) := dk_180 0 59 (dk_at dksX1_moves_1 12 rfl rfl)
theorem dX1_moves_38 : decode cX1_moves 38 = .ok (.invokevirtual 178, 3) := dk_182 0 178 (dk_at dksX1_moves_1 15 rfl rfl)
theorem dX1_moves_41 : decode cX1_moves 41 = .ok (.istore_n 3, 1) := dk_62 (dk_at dksX1_moves_1 18 rfl rfl)
theorem dX1_moves_42 : decode cX1_moves 42 = .ok (.iload_n 2, 1) := dk_28 (dk_at dksX1_moves_1 19 rfl rfl)
theorem dX1_moves_43 : decode cX1_moves 43 = .ok (.iconst (-1), 1) := dk_2 (dk_at dksX1_moves_1 20 rfl rfl)
theorem dX1_moves_44 : decode cX1_moves 44 = .ok (.if_icmp .ne 7, 3) := dk_160 0 7 (dk_at dksX1_moves_1 21 rfl rfl)
theorem dX1_moves_47 : decode cX1_moves 47 = .ok (.iload_n 3, 1) := dk_29 (dk_at dksX1_moves_2 0 rfl rfl)
theorem dX1_moves_48 : decode cX1_moves 48 = .ok (.goto 18, 3) := dk_167 0 18 (dk_at dksX1_moves_2 1 rfl rfl)
theorem dX1_moves_51 : decode cX1_moves 51 = .ok (.iload_n 2, 1) := dk_28 (dk_at dksX1_moves_2 4 rfl rfl)
theorem dX1_moves_52 : decode cX1_moves 52 = .ok (.iload_n 3, 1) := dk_29 (dk_at dksX1_moves_2 5 rfl rfl)
theorem dX1_moves_53 : decode cX1_moves 53 = .ok (.if_icmp .ge 12, 3) := dk_162 0 12 (dk_at dksX1_moves_2 6 rfl rfl)
theorem dX1_moves_56 : decode cX1_moves 56 = .ok (.aload_n 0, 1) := dk_42 (dk_at dksX1_moves_2 9 rfl rfl)
theorem dX1_moves_57 : decode cX1_moves 57 = .ok (.getfield 59, 3) := dk_180 0 59 (dk_at dksX1_moves_2 10 rfl rfl)
theorem dX1_moves_60 : decode cX1_moves 60 = .ok (.iload_n 2, 1) := dk_28 (dk_at dksX1_moves_2 13 rfl rfl)
theorem dX1_moves_61 : decode cX1_moves 61 = .ok (.iaload, 1) := dk_46 (dk_at dksX1_moves_2 14 rfl rfl)
theorem dX1_moves_62 : decode cX1_moves 62 = .ok (.goto 4, 3) := dk_167 0 4 (dk_at dksX1_moves_2 15 rfl rfl)
theorem dX1_moves_65 : decode cX1_moves 65 = .ok (.iconst (-1), 1) := dk_2 (dk_at dksX1_moves_2 18 rfl rfl)
theorem dX1_moves_66 : decode cX1_moves 66 = .ok (.ireturn, 1) := dk_172 (dk_at dksX1_moves_2 19 rfl rfl)
def dkwX1_book_1 : List UInt8 := [3, 184, 0, 139, 42, 27, 182, 0, 185, 172]
abbrev dktX1_book_1 : List UInt8 := dkwX1_book_1 ++ []
def dkwX1_book_0 : List UInt8 := [27, 3, 4, 184, 0, 85, 184, 0, 136, 42, 180, 0, 19, 180, 0, 96, 6, 162, 0, 7, 4, 167, 0, 4]
abbrev dktX1_book_0 : List UInt8 := dkwX1_book_0 ++ dktX1_book_1
theorem dksX1_book_0 : cX1_book.data.toList.drop 0 = dktX1_book_0 := by decide +kernel
theorem dksX1_book_1 : cX1_book.data.toList.drop 24 = dktX1_book_1 := dk_seg dksX1_book_0 24 rfl rfl
theorem dX1_book_0 : decode cX1_book 0 = .ok (.iload_n 1, 1) := dk_27 (dk_at dksX1_book_0 0 rfl rfl)
theorem dX1_book_1 : decode cX1_book 1 = .ok (.iconst 0, 1) := dk_3 (dk_at dksX1_book_0 1 rfl rfl)
theorem dX1_book_2 : decode cX1_book 2 = .ok (.iconst 1, 1) := dk_4 (dk_at dksX1_book_0 2 rfl rfl)
theorem dX1_book_3 : decode cX1_book 3 = .ok (.invokestatic 85, 3) := dk_184 0 85 (dk_at dksX1_book_0 3 rfl rfl)
theorem dX1_book_6 : decode cX1_book 6 = .ok (.invokestatic 136, 3) := dk_184 0 136 (dk_at dksX1_book_0 6 rfl rfl)
theorem dX1_book_9 : decode cX1_book 9 = .ok (.aload_n 0, 1) := dk_42 (dk_at dksX1_book_0 9 rfl rfl)
theorem dX1_book_10 : decode cX1_book 10 = .ok (.getfield 19, 3) := dk_180 0 19 (dk_at dksX1_book_0 10 rfl rfl)
theorem dX1_book_13 : decode cX1_book 13 = .ok (.getfield 96, 3) := dk_180 0 96 (dk_at dksX1_book_0 13 rfl rfl)
theorem dX1_book_16 : decode cX1_book 16 = .ok (.iconst 3, 1) := dk_6 (dk_at dksX1_book_0 16 rfl rfl)
theorem dX1_book_17 : decode cX1_book 17 = .ok (.if_icmp .ge 7, 3) := dk_162 0 7 (dk_at dksX1_book_0 17 rfl rfl)
theorem dX1_book_20 : decode cX1_book 20 = .ok (.iconst 1, 1) := dk_4 (dk_at dksX1_book_0 20 rfl rfl)
theorem dX1_book_21 : decode cX1_book 21 = .ok (.goto 4, 3) := dk_167 0 4 (dk_at dksX1_book_0 21 rfl rfl)
theorem dX1_book_24 : decode cX1_book 24 = .ok (.iconst 0, 1) := dk_3 (dk_at dksX1_book_1 0 rfl rfl)
theorem dX1_book_25 : decode cX1_book 25 = .ok (.invokestatic 139, 3) := dk_184 0 139 (dk_at dksX1_book_1 1 rfl rfl)
theorem dX1_book_28 : decode cX1_book 28 = .ok (.aload_n 0, 1) := dk_42 (dk_at dksX1_book_1 4 rfl rfl)
theorem dX1_book_29 : decode cX1_book 29 = .ok (.iload_n 1, 1) := dk_27 (dk_at dksX1_book_1 5 rfl rfl)
theorem dX1_book_30 : decode cX1_book 30 = .ok (.invokevirtual 185, 3) := dk_182 0 185 (dk_at dksX1_book_1 6 rfl rfl)
theorem dX1_book_33 : decode cX1_book 33 = .ok (.ireturn, 1) := dk_172 (dk_at dksX1_book_1 9 rfl rfl)
def dkwX1_newBook_2 : List UInt8 := [180, 0, 19, 180, 0, 96, 4, 100, 172]
abbrev dktX1_newBook_2 : List UInt8 := dkwX1_newBook_2 ++ []
def dkwX1_newBook_1 : List UInt8 := [181, 0, 107, 42, 180, 0, 19, 89, 180, 0, 96, 4, 96, 181, 0, 96, 42, 3, 181, 0, 174, 42]
abbrev dktX1_newBook_1 : List UInt8 := dkwX1_newBook_1 ++ dktX1_newBook_2
def dkwX1_newBook_0 : List UInt8 := [42, 180, 0, 19, 180, 0, 99, 42, 180, 0, 19, 180, 0, 96, 50, 77, 44, 27, 181, 0, 182, 44, 3]
abbrev dktX1_newBook_0 : List UInt8 := dkwX1_newBook_0 ++ dktX1_newBook_1
theorem dksX1_newBook_0 : cX1_newBook.data.toList.drop 0 = dktX1_newBook_0 := by decide +kernel
theorem dksX1_newBook_1 : cX1_newBook.data.toList.drop 23 = dktX1_newBook_1 := dk_seg dksX1_newBook_0 23 rfl rfl
theorem dksX1_newBook_2 : cX1_newBook.data.toList.drop 45 = dktX1_newBook_2 := dk_seg dksX1_newBook_1 22 rfl rfl
theorem dX1_newBook_0 : decode cX1_newBook 0 = .ok (.aload_n 0, 1) := dk_42 (dk_at dksX1_newBook_0 0 rfl rfl)
theorem dX1_newBook_1 : decode cX1_newBook 1 = .ok (.getfield 19, 3) := dk_180 0 19 (dk_at dksX1_newBook_0 1 rfl rfl)
theorem dX1_newBook_4 : decode cX1_newBook 4 = .ok (.getfield 99, 3) := dk_180 0 99 (dk_at dksX1_newBook_0 4 rfl rfl)
theorem dX1_newBook_7 : decode cX1_newBook 7 = .ok (.aload_n 0, 1) := dk_42 (dk_at dksX1_newBook_0 7 rfl rfl)
theorem dX1_newBook_8 : decode cX1_newBook 8 = .ok (.getfield 19, 3) := dk_180 0 19 (dk_at dksX1_newBook_0 8 rfl rfl)
theorem dX1_newBook_11 : decode cX1_newBook 11 = .ok (.getfield 96, 3) := dk_180 0 96 (dk_at dksX1_newBook_0 11 rfl rfl)
theorem dX1_newBook_14 : decode cX1_newBook 14 = .ok (.aaload, 1) := dk_50 (dk_at dksX1_newBook_0 14 rfl rfl)
theorem dX1_newBook_15 : decode cX1_newBook 15 = .ok (.astore_n 2, 1) := dk_77 (dk_at dksX1_newBook_0 15 rfl rfl)
theorem dX1_newBook_16 : decode cX1_newBook 16 = .ok (.aload_n 2, 1) := dk_44 (dk_at dksX1_newBook_0 16 rfl rfl)
theorem dX1_newBook_17 : decode cX1_newBook 17 = .ok (.iload_n 1, 1) := dk_27 (dk_at dksX1_newBook_0 17 rfl rfl)
theorem dX1_newBook_18 : decode cX1_newBook 18 = .ok (.putfield 182, 3) := dk_181 0 182 (dk_at dksX1_newBook_0 18 rfl rfl)
theorem dX1_newBook_21 : decode cX1_newBook 21 = .ok (.aload_n 2, 1) := dk_44 (dk_at dksX1_newBook_0 21 rfl rfl)
theorem dX1_newBook_22 : decode cX1_newBook 22 = .ok (.iconst 0, 1) := dk_3 (dk_at dksX1_newBook_0 22 rfl rfl)
theorem dX1_newBook_23 : decode cX1_newBook 23 = .ok (.putfield 107, 3) := dk_181 0 107 (dk_at dksX1_newBook_1 0 rfl rfl)
theorem dX1_newBook_26 : decode cX1_newBook 26 = .ok (.aload_n 0, 1) := dk_42 (dk_at dksX1_newBook_1 3 rfl rfl)
theorem dX1_newBook_27 : decode cX1_newBook 27 = .ok (.getfield 19, 3) := dk_180 0 19 (dk_at dksX1_newBook_1 4 rfl rfl)
theorem dX1_newBook_30 : decode cX1_newBook 30 = .ok (.dup, 1) := dk_89 (dk_at dksX1_newBook_1 7 rfl rfl)
theorem dX1_newBook_31 : decode cX1_newBook 31 = .ok (.getfield 96, 3) := dk_180 0 96 (dk_at dksX1_newBook_1 8 rfl rfl)
theorem dX1_newBook_34 : decode cX1_newBook 34 = .ok (.iconst 1, 1) := dk_4 (dk_at dksX1_newBook_1 11 rfl rfl)
theorem dX1_newBook_35 : decode cX1_newBook 35 = .ok (.iadd, 1) := dk_96 (dk_at dksX1_newBook_1 12 rfl rfl)
theorem dX1_newBook_36 : decode cX1_newBook 36 = .ok (.putfield 96, 3) := dk_181 0 96 (dk_at dksX1_newBook_1 13 rfl rfl)
theorem dX1_newBook_39 : decode cX1_newBook 39 = .ok (.aload_n 0, 1) := dk_42 (dk_at dksX1_newBook_1 16 rfl rfl)
theorem dX1_newBook_40 : decode cX1_newBook 40 = .ok (.iconst 0, 1) := dk_3 (dk_at dksX1_newBook_1 17 rfl rfl)
theorem dX1_newBook_41 : decode cX1_newBook 41 = .ok (.putfield 174, 3) := dk_181 0 174 (dk_at dksX1_newBook_1 18 rfl rfl)
theorem dX1_newBook_44 : decode cX1_newBook 44 = .ok (.aload_n 0, 1) := dk_42 (dk_at dksX1_newBook_1 21 rfl rfl)
theorem dX1_newBook_45 : decode cX1_newBook 45 = .ok (.getfield 19, 3) := dk_180 0 19 (dk_at dksX1_newBook_2 0 rfl rfl)
theorem dX1_newBook_48 : decode cX1_newBook 48 = .ok (.getfield 96, 3) := dk_180 0 96 (dk_at dksX1_newBook_2 3 rfl rfl)
theorem dX1_newBook_51 : decode cX1_newBook 51 = .ok (.iconst 1, 1) := dk_4 (dk_at dksX1_newBook_2 6 rfl rfl)
theorem dX1_newBook_52 : decode cX1_newBook 52 = .ok (.isub, 1) := dk_100 (dk_at dksX1_newBook_2 7 rfl rfl)
theorem dX1_newBook_53 : decode cX1_newBook 53 = .ok (.ireturn, 1) := dk_172 (dk_at dksX1_newBook_2 8 rfl rfl)
def dkwX1_note_3 : List UInt8 := [96, 181, 0, 107, 42, 3, 181, 0, 174, 25, 6, 180, 0, 107, 4, 100, 172]
abbrev dktX1_note_3 : List UInt8 := dkwX1_note_3 ++ []
def dkwX1_note_2 : List UInt8 := [180, 0, 107, 187, 0, 197, 89, 28, 29, 21, 4, 21, 5, 183, 0, 199, 83, 25, 6, 89, 180, 0, 107, 4]
abbrev dktX1_note_2 : List UInt8 := dkwX1_note_2 ++ dktX1_note_3
def dkwX1_note_1 : List UInt8 := [180, 0, 107, 16, 24, 162, 0, 7, 4, 167, 0, 4, 3, 184, 0, 139, 25, 6, 180, 0, 193, 25, 6]
abbrev dktX1_note_1 : List UInt8 := dkwX1_note_1 ++ dktX1_note_2
def dkwX1_note_0 : List UInt8 := [42, 27, 182, 0, 103, 58, 6, 42, 28, 3, 182, 0, 162, 29, 21, 4, 21, 5, 184, 0, 189, 25, 6]
abbrev dktX1_note_0 : List UInt8 := dkwX1_note_0 ++ dktX1_note_1
theorem dksX1_note_0 : cX1_note.data.toList.drop 0 = dktX1_note_0 := by decide +kernel
theorem dksX1_note_1 : cX1_note.data.toList.drop 23 = dktX1_note_1 := dk_seg dksX1_note_0 23 rfl rfl
theorem dksX1_note_2 : cX1_note.data.toList.drop 46 = dktX1_note_2 := dk_seg dksX1_note_1 23 rfl rfl
theorem dksX1_note_3 : cX1_note.data.toList.drop 70 = dktX1_note_3 := dk_seg dksX1_note_2 24 rfl rfl
theorem dX1_note_0 : decode cX1_note 0 = .ok (.aload_n 0, 1) := dk_42 (dk_at dksX1_note_0 0 rfl rfl)
theorem dX1_note_1 : decode cX1_note 1 = .ok (.iload_n 1, 1) := dk_27 (dk_at dksX1_note_0 1 rfl rfl)
theorem dX1_note_2 : decode cX1_note 2 = .ok (.invokevirtual 103, 3) := dk_182 0 103 (dk_at dksX1_note_0 2 rfl rfl)
theorem dX1_note_5 : decode cX1_note 5 = .ok (.astore 6, 2) := dk_58 6 (dk_at dksX1_note_0 5 rfl rfl)
theorem dX1_note_7 : decode cX1_note 7 = .ok (.aload_n 0, 1) := dk_42 (dk_at dksX1_note_0 7 rfl rfl)
theorem dX1_note_8 : decode cX1_note 8 = .ok (.iload_n 2, 1) := dk_28 (dk_at dksX1_note_0 8 rfl rfl)
theorem dX1_note_9 : decode cX1_note 9 = .ok (.iconst 0, 1) := dk_3 (dk_at dksX1_note_0 9 rfl rfl)
theorem dX1_note_10 : decode cX1_note 10 = .ok (.invokevirtual 162, 3) := dk_182 0 162 (dk_at dksX1_note_0 10 rfl rfl)
theorem dX1_note_13 : decode cX1_note 13 = .ok (.iload_n 3, 1) := dk_29 (dk_at dksX1_note_0 13 rfl rfl)
theorem dX1_note_14 : decode cX1_note 14 = .ok (.iload 4, 2) := dk_21 4 (dk_at dksX1_note_0 14 rfl rfl)
theorem dX1_note_16 : decode cX1_note 16 = .ok (.iload 5, 2) := dk_21 5 (dk_at dksX1_note_0 16 rfl rfl)
theorem dX1_note_18 : decode cX1_note 18 = .ok (.invokestatic 189, 3) := dk_184 0 189 (dk_at dksX1_note_0 18 rfl rfl)
theorem dX1_note_21 : decode cX1_note 21 = .ok (.aload 6, 2) := dk_25 6 (dk_at dksX1_note_0 21 rfl rfl)
theorem dX1_note_23 : decode cX1_note 23 = .ok (.getfield 107, 3) := dk_180 0 107 (dk_at dksX1_note_1 0 rfl rfl)
theorem dX1_note_26 : decode cX1_note 26 = .ok (.bipush 24, 2) := dk_16 24 (dk_at dksX1_note_1 3 rfl rfl)
theorem dX1_note_28 : decode cX1_note 28 = .ok (.if_icmp .ge 7, 3) := dk_162 0 7 (dk_at dksX1_note_1 5 rfl rfl)
theorem dX1_note_31 : decode cX1_note 31 = .ok (.iconst 1, 1) := dk_4 (dk_at dksX1_note_1 8 rfl rfl)
theorem dX1_note_32 : decode cX1_note 32 = .ok (.goto 4, 3) := dk_167 0 4 (dk_at dksX1_note_1 9 rfl rfl)
theorem dX1_note_35 : decode cX1_note 35 = .ok (.iconst 0, 1) := dk_3 (dk_at dksX1_note_1 12 rfl rfl)
theorem dX1_note_36 : decode cX1_note 36 = .ok (.invokestatic 139, 3) := dk_184 0 139 (dk_at dksX1_note_1 13 rfl rfl)
theorem dX1_note_39 : decode cX1_note 39 = .ok (.aload 6, 2) := dk_25 6 (dk_at dksX1_note_1 16 rfl rfl)
theorem dX1_note_41 : decode cX1_note 41 = .ok (.getfield 193, 3) := dk_180 0 193 (dk_at dksX1_note_1 18 rfl rfl)
theorem dX1_note_44 : decode cX1_note 44 = .ok (.aload 6, 2) := dk_25 6 (dk_at dksX1_note_1 21 rfl rfl)
theorem dX1_note_46 : decode cX1_note 46 = .ok (.getfield 107, 3) := dk_180 0 107 (dk_at dksX1_note_2 0 rfl rfl)
theorem dX1_note_49 : decode cX1_note 49 = .ok (.new 197, 3) := dk_187 0 197 (dk_at dksX1_note_2 3 rfl rfl)
theorem dX1_note_52 : decode cX1_note 52 = .ok (.dup, 1) := dk_89 (dk_at dksX1_note_2 6 rfl rfl)
theorem dX1_note_53 : decode cX1_note 53 = .ok (.iload_n 2, 1) := dk_28 (dk_at dksX1_note_2 7 rfl rfl)
theorem dX1_note_54 : decode cX1_note 54 = .ok (.iload_n 3, 1) := dk_29 (dk_at dksX1_note_2 8 rfl rfl)
theorem dX1_note_55 : decode cX1_note 55 = .ok (.iload 4, 2) := dk_21 4 (dk_at dksX1_note_2 9 rfl rfl)
theorem dX1_note_57 : decode cX1_note 57 = .ok (.iload 5, 2) := dk_21 5 (dk_at dksX1_note_2 11 rfl rfl)
theorem dX1_note_59 : decode cX1_note 59 = .ok (.invokespecial 199, 3) := dk_183 0 199 (dk_at dksX1_note_2 13 rfl rfl)
theorem dX1_note_62 : decode cX1_note 62 = .ok (.aastore, 1) := dk_83 (dk_at dksX1_note_2 16 rfl rfl)
theorem dX1_note_63 : decode cX1_note 63 = .ok (.aload 6, 2) := dk_25 6 (dk_at dksX1_note_2 17 rfl rfl)
theorem dX1_note_65 : decode cX1_note 65 = .ok (.dup, 1) := dk_89 (dk_at dksX1_note_2 19 rfl rfl)
theorem dX1_note_66 : decode cX1_note 66 = .ok (.getfield 107, 3) := dk_180 0 107 (dk_at dksX1_note_2 20 rfl rfl)
theorem dX1_note_69 : decode cX1_note 69 = .ok (.iconst 1, 1) := dk_4 (dk_at dksX1_note_2 23 rfl rfl)
theorem dX1_note_70 : decode cX1_note 70 = .ok (.iadd, 1) := dk_96 (dk_at dksX1_note_3 0 rfl rfl)
theorem dX1_note_71 : decode cX1_note 71 = .ok (.putfield 107, 3) := dk_181 0 107 (dk_at dksX1_note_3 1 rfl rfl)
theorem dX1_note_74 : decode cX1_note 74 = .ok (.aload_n 0, 1) := dk_42 (dk_at dksX1_note_3 4 rfl rfl)
theorem dX1_note_75 : decode cX1_note 75 = .ok (.iconst 0, 1) := dk_3 (dk_at dksX1_note_3 5 rfl rfl)
theorem dX1_note_76 : decode cX1_note 76 = .ok (.putfield 174, 3) := dk_181 0 174 (dk_at dksX1_note_3 6 rfl rfl)
theorem dX1_note_79 : decode cX1_note 79 = .ok (.aload 6, 2) := dk_25 6 (dk_at dksX1_note_3 9 rfl rfl)
theorem dX1_note_81 : decode cX1_note 81 = .ok (.getfield 107, 3) := dk_180 0 107 (dk_at dksX1_note_3 11 rfl rfl)
theorem dX1_note_84 : decode cX1_note 84 = .ok (.iconst 1, 1) := dk_4 (dk_at dksX1_note_3 14 rfl rfl)
theorem dX1_note_85 : decode cX1_note 85 = .ok (.isub, 1) := dk_100 (dk_at dksX1_note_3 15 rfl rfl)
theorem dX1_note_86 : decode cX1_note 86 = .ok (.ireturn, 1) := dk_172 (dk_at dksX1_note_3 16 rfl rfl)
def dkwX1_bookAt_1 : List UInt8 := [27, 50, 176]
abbrev dktX1_bookAt_1 : List UInt8 := dkwX1_bookAt_1 ++ []
def dkwX1_bookAt_0 : List UInt8 := [27, 3, 42, 180, 0, 19, 180, 0, 96, 4, 100, 184, 0, 85, 184, 0, 89, 42, 180, 0, 19, 180, 0, 99]
abbrev dktX1_bookAt_0 : List UInt8 := dkwX1_bookAt_0 ++ dktX1_bookAt_1
theorem dksX1_bookAt_0 : cX1_bookAt.data.toList.drop 0 = dktX1_bookAt_0 := by decide +kernel
theorem dksX1_bookAt_1 : cX1_bookAt.data.toList.drop 24 = dktX1_bookAt_1 := dk_seg dksX1_bookAt_0 24 rfl rfl
theorem dX1_bookAt_0 : decode cX1_bookAt 0 = .ok (.iload_n 1, 1) := dk_27 (dk_at dksX1_bookAt_0 0 rfl rfl)
theorem dX1_bookAt_1 : decode cX1_bookAt 1 = .ok (.iconst 0, 1) := dk_3 (dk_at dksX1_bookAt_0 1 rfl rfl)
theorem dX1_bookAt_2 : decode cX1_bookAt 2 = .ok (.aload_n 0, 1) := dk_42 (dk_at dksX1_bookAt_0 2 rfl rfl)
theorem dX1_bookAt_3 : decode cX1_bookAt 3 = .ok (.getfield 19, 3) := dk_180 0 19 (dk_at dksX1_bookAt_0 3 rfl rfl)
theorem dX1_bookAt_6 : decode cX1_bookAt 6 = .ok (.getfield 96, 3) := dk_180 0 96 (dk_at dksX1_bookAt_0 6 rfl rfl)
theorem dX1_bookAt_9 : decode cX1_bookAt 9 = .ok (.iconst 1, 1) := dk_4 (dk_at dksX1_bookAt_0 9 rfl rfl)
theorem dX1_bookAt_10 : decode cX1_bookAt 10 = .ok (.isub, 1) := dk_100 (dk_at dksX1_bookAt_0 10 rfl rfl)
theorem dX1_bookAt_11 : decode cX1_bookAt 11 = .ok (.invokestatic 85, 3) := dk_184 0 85 (dk_at dksX1_bookAt_0 11 rfl rfl)
theorem dX1_bookAt_14 : decode cX1_bookAt 14 = .ok (.invokestatic 89, 3) := dk_184 0 89 (dk_at dksX1_bookAt_0 14 rfl rfl)
theorem dX1_bookAt_17 : decode cX1_bookAt 17 = .ok (.aload_n 0, 1) := dk_42 (dk_at dksX1_bookAt_0 17 rfl rfl)
theorem dX1_bookAt_18 : decode cX1_bookAt 18 = .ok (.getfield 19, 3) := dk_180 0 19 (dk_at dksX1_bookAt_0 18 rfl rfl)
theorem dX1_bookAt_21 : decode cX1_bookAt 21 = .ok (.getfield 99, 3) := dk_180 0 99 (dk_at dksX1_bookAt_0 21 rfl rfl)
theorem dX1_bookAt_24 : decode cX1_bookAt 24 = .ok (.iload_n 1, 1) := dk_27 (dk_at dksX1_bookAt_1 0 rfl rfl)
theorem dX1_bookAt_25 : decode cX1_bookAt 25 = .ok (.aaload, 1) := dk_50 (dk_at dksX1_bookAt_1 1 rfl rfl)
theorem dX1_bookAt_26 : decode cX1_bookAt 26 = .ok (.areturn, 1) := dk_176 (dk_at dksX1_bookAt_1 2 rfl rfl)
def dkwX1_isNoted_1 : List UInt8 := [153, 0, 7, 4, 167, 0, 4, 3, 184, 0, 136, 177]
abbrev dktX1_isNoted_1 : List UInt8 := dkwX1_isNoted_1 ++ []
def dkwX1_isNoted_0 : List UInt8 := [26, 2, 8, 184, 0, 85, 153, 0, 25, 27, 3, 8, 184, 0, 85, 153, 0, 16, 28, 3, 8, 184, 0, 85]
abbrev dktX1_isNoted_0 : List UInt8 := dkwX1_isNoted_0 ++ dktX1_isNoted_1
theorem dksX1_isNoted_0 : cX1_isNoted.data.toList.drop 0 = dktX1_isNoted_0 := by decide +kernel
theorem dksX1_isNoted_1 : cX1_isNoted.data.toList.drop 24 = dktX1_isNoted_1 := dk_seg dksX1_isNoted_0 24 rfl rfl
theorem dX1_isNoted_0 : decode cX1_isNoted 0 = .ok (.iload_n 0, 1) := dk_26 (dk_at dksX1_isNoted_0 0 rfl rfl)
theorem dX1_isNoted_1 : decode cX1_isNoted 1 = .ok (.iconst (-1), 1) := dk_2 (dk_at dksX1_isNoted_0 1 rfl rfl)
theorem dX1_isNoted_2 : decode cX1_isNoted 2 = .ok (.iconst 5, 1) := dk_8 (dk_at dksX1_isNoted_0 2 rfl rfl)
theorem dX1_isNoted_3 : decode cX1_isNoted 3 = .ok (.invokestatic 85, 3) := dk_184 0 85 (dk_at dksX1_isNoted_0 3 rfl rfl)
theorem dX1_isNoted_6 : decode cX1_isNoted 6 = .ok (.ifCond .eq 25, 3) := dk_153 0 25 (dk_at dksX1_isNoted_0 6 rfl rfl)
theorem dX1_isNoted_9 : decode cX1_isNoted 9 = .ok (.iload_n 1, 1) := dk_27 (dk_at dksX1_isNoted_0 9 rfl rfl)
theorem dX1_isNoted_10 : decode cX1_isNoted 10 = .ok (.iconst 0, 1) := dk_3 (dk_at dksX1_isNoted_0 10 rfl rfl)
theorem dX1_isNoted_11 : decode cX1_isNoted 11 = .ok (.iconst 5, 1) := dk_8 (dk_at dksX1_isNoted_0 11 rfl rfl)
theorem dX1_isNoted_12 : decode cX1_isNoted 12 = .ok (.invokestatic 85, 3) := dk_184 0 85 (dk_at dksX1_isNoted_0 12 rfl rfl)
theorem dX1_isNoted_15 : decode cX1_isNoted 15 = .ok (.ifCond .eq 16, 3) := dk_153 0 16 (dk_at dksX1_isNoted_0 15 rfl rfl)
theorem dX1_isNoted_18 : decode cX1_isNoted 18 = .ok (.iload_n 2, 1) := dk_28 (dk_at dksX1_isNoted_0 18 rfl rfl)
theorem dX1_isNoted_19 : decode cX1_isNoted 19 = .ok (.iconst 0, 1) := dk_3 (dk_at dksX1_isNoted_0 19 rfl rfl)
theorem dX1_isNoted_20 : decode cX1_isNoted 20 = .ok (.iconst 5, 1) := dk_8 (dk_at dksX1_isNoted_0 20 rfl rfl)
theorem dX1_isNoted_21 : decode cX1_isNoted 21 = .ok (.invokestatic 85, 3) := dk_184 0 85 (dk_at dksX1_isNoted_0 21 rfl rfl)
theorem dX1_isNoted_24 : decode cX1_isNoted 24 = .ok (.ifCond .eq 7, 3) := dk_153 0 7 (dk_at dksX1_isNoted_1 0 rfl rfl)
theorem dX1_isNoted_27 : decode cX1_isNoted 27 = .ok (.iconst 1, 1) := dk_4 (dk_at dksX1_isNoted_1 3 rfl rfl)
theorem dX1_isNoted_28 : decode cX1_isNoted 28 = .ok (.goto 4, 3) := dk_167 0 4 (dk_at dksX1_isNoted_1 4 rfl rfl)
theorem dX1_isNoted_31 : decode cX1_isNoted 31 = .ok (.iconst 0, 1) := dk_3 (dk_at dksX1_isNoted_1 7 rfl rfl)
theorem dX1_isNoted_32 : decode cX1_isNoted 32 = .ok (.invokestatic 136, 3) := dk_184 0 136 (dk_at dksX1_isNoted_1 8 rfl rfl)
theorem dX1_isNoted_35 : decode cX1_isNoted 35 = .ok (.return_, 1) := dk_177 (dk_at dksX1_isNoted_1 11 rfl rfl)
def dkwX1_change_3 : List UInt8 := [180, 0, 99, 27, 50, 180, 0, 193, 28, 25, 7, 83, 42, 3, 181, 0, 174, 21, 8, 172]
abbrev dktX1_change_3 : List UInt8 := dkwX1_change_3 ++ []
def dkwX1_change_2 : List UInt8 := [180, 0, 193, 28, 50, 182, 0, 205, 154, 0, 7, 4, 167, 0, 4, 3, 54, 8, 42, 180, 0, 19]
abbrev dktX1_change_2 : List UInt8 := dkwX1_change_2 ++ dktX1_change_3
def dkwX1_change_1 : List UInt8 := [89, 29, 21, 4, 21, 5, 21, 6, 183, 0, 199, 58, 7, 25, 7, 42, 180, 0, 19, 180, 0, 99, 27, 50]
abbrev dktX1_change_1 : List UInt8 := dkwX1_change_1 ++ dktX1_change_2
def dkwX1_change_0 : List UInt8 := [42, 27, 28, 182, 0, 202, 42, 29, 3, 182, 0, 162, 21, 4, 21, 5, 21, 6, 184, 0, 189, 187, 0, 197]
abbrev dktX1_change_0 : List UInt8 := dkwX1_change_0 ++ dktX1_change_1
theorem dksX1_change_0 : cX1_change.data.toList.drop 0 = dktX1_change_0 := by decide +kernel
theorem dksX1_change_1 : cX1_change.data.toList.drop 24 = dktX1_change_1 := dk_seg dksX1_change_0 24 rfl rfl
theorem dksX1_change_2 : cX1_change.data.toList.drop 48 = dktX1_change_2 := dk_seg dksX1_change_1 24 rfl rfl
theorem dksX1_change_3 : cX1_change.data.toList.drop 70 = dktX1_change_3 := dk_seg dksX1_change_2 22 rfl rfl
theorem dX1_change_0 : decode cX1_change 0 = .ok (.aload_n 0, 1) := dk_42 (dk_at dksX1_change_0 0 rfl rfl)
theorem dX1_change_1 : decode cX1_change 1 = .ok (.iload_n 1, 1) := dk_27 (dk_at dksX1_change_0 1 rfl rfl)
theorem dX1_change_2 : decode cX1_change 2 = .ok (.iload_n 2, 1) := dk_28 (dk_at dksX1_change_0 2 rfl rfl)
theorem dX1_change_3 : decode cX1_change 3 = .ok (.invokevirtual 202, 3) := dk_182 0 202 (dk_at dksX1_change_0 3 rfl rfl)
theorem dX1_change_6 : decode cX1_change 6 = .ok (.aload_n 0, 1) := dk_42 (dk_at dksX1_change_0 6 rfl rfl)
theorem dX1_change_7 : decode cX1_change 7 = .ok (.iload_n 3, 1) := dk_29 (dk_at dksX1_change_0 7 rfl rfl)
theorem dX1_change_8 : decode cX1_change 8 = .ok (.iconst 0, 1) := dk_3 (dk_at dksX1_change_0 8 rfl rfl)
theorem dX1_change_9 : decode cX1_change 9 = .ok (.invokevirtual 162, 3) := dk_182 0 162 (dk_at dksX1_change_0 9 rfl rfl)
theorem dX1_change_12 : decode cX1_change 12 = .ok (.iload 4, 2) := dk_21 4 (dk_at dksX1_change_0 12 rfl rfl)
theorem dX1_change_14 : decode cX1_change 14 = .ok (.iload 5, 2) := dk_21 5 (dk_at dksX1_change_0 14 rfl rfl)
theorem dX1_change_16 : decode cX1_change 16 = .ok (.iload 6, 2) := dk_21 6 (dk_at dksX1_change_0 16 rfl rfl)
theorem dX1_change_18 : decode cX1_change 18 = .ok (.invokestatic 189, 3) := dk_184 0 189 (dk_at dksX1_change_0 18 rfl rfl)
theorem dX1_change_21 : decode cX1_change 21 = .ok (.new 197, 3) := dk_187 0 197 (dk_at dksX1_change_0 21 rfl rfl)
theorem dX1_change_24 : decode cX1_change 24 = .ok (.dup, 1) := dk_89 (dk_at dksX1_change_1 0 rfl rfl)
theorem dX1_change_25 : decode cX1_change 25 = .ok (.iload_n 3, 1) := dk_29 (dk_at dksX1_change_1 1 rfl rfl)
theorem dX1_change_26 : decode cX1_change 26 = .ok (.iload 4, 2) := dk_21 4 (dk_at dksX1_change_1 2 rfl rfl)
theorem dX1_change_28 : decode cX1_change 28 = .ok (.iload 5, 2) := dk_21 5 (dk_at dksX1_change_1 4 rfl rfl)
theorem dX1_change_30 : decode cX1_change 30 = .ok (.iload 6, 2) := dk_21 6 (dk_at dksX1_change_1 6 rfl rfl)
theorem dX1_change_32 : decode cX1_change 32 = .ok (.invokespecial 199, 3) := dk_183 0 199 (dk_at dksX1_change_1 8 rfl rfl)
theorem dX1_change_35 : decode cX1_change 35 = .ok (.astore 7, 2) := dk_58 7 (dk_at dksX1_change_1 11 rfl rfl)
theorem dX1_change_37 : decode cX1_change 37 = .ok (.aload 7, 2) := dk_25 7 (dk_at dksX1_change_1 13 rfl rfl)
theorem dX1_change_39 : decode cX1_change 39 = .ok (.aload_n 0, 1) := dk_42 (dk_at dksX1_change_1 15 rfl rfl)
theorem dX1_change_40 : decode cX1_change 40 = .ok (.getfield 19, 3) := dk_180 0 19 (dk_at dksX1_change_1 16 rfl rfl)
theorem dX1_change_43 : decode cX1_change 43 = .ok (.getfield 99, 3) := dk_180 0 99 (dk_at dksX1_change_1 19 rfl rfl)
theorem dX1_change_46 : decode cX1_change 46 = .ok (.iload_n 1, 1) := dk_27 (dk_at dksX1_change_1 22 rfl rfl)
theorem dX1_change_47 : decode cX1_change 47 = .ok (.aaload, 1) := dk_50 (dk_at dksX1_change_1 23 rfl rfl)
theorem dX1_change_48 : decode cX1_change 48 = .ok (.getfield 193, 3) := dk_180 0 193 (dk_at dksX1_change_2 0 rfl rfl)
theorem dX1_change_51 : decode cX1_change 51 = .ok (.iload_n 2, 1) := dk_28 (dk_at dksX1_change_2 3 rfl rfl)
theorem dX1_change_52 : decode cX1_change 52 = .ok (.aaload, 1) := dk_50 (dk_at dksX1_change_2 4 rfl rfl)
theorem dX1_change_53 : decode cX1_change 53 = .ok (.invokevirtual 205, 3) := dk_182 0 205 (dk_at dksX1_change_2 5 rfl rfl)
theorem dX1_change_56 : decode cX1_change 56 = .ok (.ifCond .ne 7, 3) := dk_154 0 7 (dk_at dksX1_change_2 8 rfl rfl)
theorem dX1_change_59 : decode cX1_change 59 = .ok (.iconst 1, 1) := dk_4 (dk_at dksX1_change_2 11 rfl rfl)
theorem dX1_change_60 : decode cX1_change 60 = .ok (.goto 4, 3) := dk_167 0 4 (dk_at dksX1_change_2 12 rfl rfl)
theorem dX1_change_63 : decode cX1_change 63 = .ok (.iconst 0, 1) := dk_3 (dk_at dksX1_change_2 15 rfl rfl)
theorem dX1_change_64 : decode cX1_change 64 = .ok (.istore 8, 2) := dk_54 8 (dk_at dksX1_change_2 16 rfl rfl)
theorem dX1_change_66 : decode cX1_change 66 = .ok (.aload_n 0, 1) := dk_42 (dk_at dksX1_change_2 18 rfl rfl)
theorem dX1_change_67 : decode cX1_change 67 = .ok (.getfield 19, 3) := dk_180 0 19 (dk_at dksX1_change_2 19 rfl rfl)
theorem dX1_change_70 : decode cX1_change 70 = .ok (.getfield 99, 3) := dk_180 0 99 (dk_at dksX1_change_3 0 rfl rfl)
theorem dX1_change_73 : decode cX1_change 73 = .ok (.iload_n 1, 1) := dk_27 (dk_at dksX1_change_3 3 rfl rfl)
theorem dX1_change_74 : decode cX1_change 74 = .ok (.aaload, 1) := dk_50 (dk_at dksX1_change_3 4 rfl rfl)
theorem dX1_change_75 : decode cX1_change 75 = .ok (.getfield 193, 3) := dk_180 0 193 (dk_at dksX1_change_3 5 rfl rfl)
theorem dX1_change_78 : decode cX1_change 78 = .ok (.iload_n 2, 1) := dk_28 (dk_at dksX1_change_3 8 rfl rfl)
theorem dX1_change_79 : decode cX1_change 79 = .ok (.aload 7, 2) := dk_25 7 (dk_at dksX1_change_3 9 rfl rfl)
theorem dX1_change_81 : decode cX1_change 81 = .ok (.aastore, 1) := dk_83 (dk_at dksX1_change_3 11 rfl rfl)
theorem dX1_change_82 : decode cX1_change 82 = .ok (.aload_n 0, 1) := dk_42 (dk_at dksX1_change_3 12 rfl rfl)
theorem dX1_change_83 : decode cX1_change 83 = .ok (.iconst 0, 1) := dk_3 (dk_at dksX1_change_3 13 rfl rfl)
theorem dX1_change_84 : decode cX1_change 84 = .ok (.putfield 174, 3) := dk_181 0 174 (dk_at dksX1_change_3 14 rfl rfl)
theorem dX1_change_87 : decode cX1_change 87 = .ok (.iload 8, 2) := dk_21 8 (dk_at dksX1_change_3 17 rfl rfl)
theorem dX1_change_89 : decode cX1_change 89 = .ok (.ireturn, 1) := dk_172 (dk_at dksX1_change_3 19 rfl rfl)
def dkwX1_isNote_0 : List UInt8 := [28, 3, 42, 27, 182, 0, 103, 180, 0, 107, 4, 100, 184, 0, 85, 184, 0, 89, 177]
abbrev dktX1_isNote_0 : List UInt8 := dkwX1_isNote_0 ++ []
theorem dksX1_isNote_0 : cX1_isNote.data.toList.drop 0 = dktX1_isNote_0 := by decide +kernel
theorem dX1_isNote_0 : decode cX1_isNote 0 = .ok (.iload_n 2, 1) := dk_28 (dk_at dksX1_isNote_0 0 rfl rfl)
theorem dX1_isNote_1 : decode cX1_isNote 1 = .ok (.iconst 0, 1) := dk_3 (dk_at dksX1_isNote_0 1 rfl rfl)
theorem dX1_isNote_2 : decode cX1_isNote 2 = .ok (.aload_n 0, 1) := dk_42 (dk_at dksX1_isNote_0 2 rfl rfl)
theorem dX1_isNote_3 : decode cX1_isNote 3 = .ok (.iload_n 1, 1) := dk_27 (dk_at dksX1_isNote_0 3 rfl rfl)
theorem dX1_isNote_4 : decode cX1_isNote 4 = .ok (.invokevirtual 103, 3) := dk_182 0 103 (dk_at dksX1_isNote_0 4 rfl rfl)
theorem dX1_isNote_7 : decode cX1_isNote 7 = .ok (.getfield 107, 3) := dk_180 0 107 (dk_at dksX1_isNote_0 7 rfl rfl)
theorem dX1_isNote_10 : decode cX1_isNote 10 = .ok (.iconst 1, 1) := dk_4 (dk_at dksX1_isNote_0 10 rfl rfl)
theorem dX1_isNote_11 : decode cX1_isNote 11 = .ok (.isub, 1) := dk_100 (dk_at dksX1_isNote_0 11 rfl rfl)
theorem dX1_isNote_12 : decode cX1_isNote 12 = .ok (.invokestatic 85, 3) := dk_184 0 85 (dk_at dksX1_isNote_0 12 rfl rfl)
theorem dX1_isNote_15 : decode cX1_isNote 15 = .ok (.invokestatic 89, 3) := dk_184 0 89 (dk_at dksX1_isNote_0 15 rfl rfl)
theorem dX1_isNote_18 : decode cX1_isNote 18 = .ok (.return_, 1) := dk_177 (dk_at dksX1_isNote_0 18 rfl rfl)
def dkwX1_look_3 : List UInt8 := [187, 0, 82, 89, 183, 0, 84, 191]
abbrev dktX1_look_3 : List UInt8 := dkwX1_look_3 ++ []
def dkwX1_look_2 : List UInt8 := [25, 4, 180, 0, 209, 172, 25, 4, 180, 0, 211, 172, 25, 4, 180, 0, 214, 172, 25, 4, 180, 0, 217, 172]
abbrev dktX1_look_2 : List UInt8 := dkwX1_look_2 ++ dktX1_look_3
def dkwX1_look_1 : List UInt8 := [170, 0, 0, 0, 53, 0, 0, 0, 0, 0, 0, 0, 3, 0, 0, 0, 29, 0, 0, 0, 35, 0, 0, 0, 41, 0, 0, 0, 47]
abbrev dktX1_look_1 : List UInt8 := dkwX1_look_1 ++ dktX1_look_2
def dkwX1_look_0 : List UInt8 := [42, 27, 28, 182, 0, 202, 42, 180, 0, 19, 180, 0, 99, 27, 50, 180, 0, 193, 28, 50, 58, 4, 29]
abbrev dktX1_look_0 : List UInt8 := dkwX1_look_0 ++ dktX1_look_1
theorem dksX1_look_0 : cX1_look.data.toList.drop 0 = dktX1_look_0 := by decide +kernel
theorem dksX1_look_1 : cX1_look.data.toList.drop 23 = dktX1_look_1 := dk_seg dksX1_look_0 23 rfl rfl
theorem dksX1_look_2 : cX1_look.data.toList.drop 52 = dktX1_look_2 := dk_seg dksX1_look_1 29 rfl rfl
theorem dksX1_look_3 : cX1_look.data.toList.drop 76 = dktX1_look_3 := dk_seg dksX1_look_2 24 rfl rfl
theorem dX1_look_0 : decode cX1_look 0 = .ok (.aload_n 0, 1) := dk_42 (dk_at dksX1_look_0 0 rfl rfl)
theorem dX1_look_1 : decode cX1_look 1 = .ok (.iload_n 1, 1) := dk_27 (dk_at dksX1_look_0 1 rfl rfl)
theorem dX1_look_2 : decode cX1_look 2 = .ok (.iload_n 2, 1) := dk_28 (dk_at dksX1_look_0 2 rfl rfl)
theorem dX1_look_3 : decode cX1_look 3 = .ok (.invokevirtual 202, 3) := dk_182 0 202 (dk_at dksX1_look_0 3 rfl rfl)
theorem dX1_look_6 : decode cX1_look 6 = .ok (.aload_n 0, 1) := dk_42 (dk_at dksX1_look_0 6 rfl rfl)
theorem dX1_look_7 : decode cX1_look 7 = .ok (.getfield 19, 3) := dk_180 0 19 (dk_at dksX1_look_0 7 rfl rfl)
theorem dX1_look_10 : decode cX1_look 10 = .ok (.getfield 99, 3) := dk_180 0 99 (dk_at dksX1_look_0 10 rfl rfl)
theorem dX1_look_13 : decode cX1_look 13 = .ok (.iload_n 1, 1) := dk_27 (dk_at dksX1_look_0 13 rfl rfl)
theorem dX1_look_14 : decode cX1_look 14 = .ok (.aaload, 1) := dk_50 (dk_at dksX1_look_0 14 rfl rfl)
theorem dX1_look_15 : decode cX1_look 15 = .ok (.getfield 193, 3) := dk_180 0 193 (dk_at dksX1_look_0 15 rfl rfl)
theorem dX1_look_18 : decode cX1_look 18 = .ok (.iload_n 2, 1) := dk_28 (dk_at dksX1_look_0 18 rfl rfl)
theorem dX1_look_19 : decode cX1_look 19 = .ok (.aaload, 1) := dk_50 (dk_at dksX1_look_0 19 rfl rfl)
theorem dX1_look_20 : decode cX1_look 20 = .ok (.astore 4, 2) := dk_58 4 (dk_at dksX1_look_0 20 rfl rfl)
theorem dX1_look_22 : decode cX1_look 22 = .ok (.iload_n 3, 1) := dk_29 (dk_at dksX1_look_0 22 rfl rfl)
theorem dX1_look_23 : decode cX1_look 23 = .ok (.tableswitch 53 0 3 #[29, 35, 41, 47], 29) := by decide +kernel
theorem dX1_look_52 : decode cX1_look 52 = .ok (.aload 4, 2) := dk_25 4 (dk_at dksX1_look_2 0 rfl rfl)
theorem dX1_look_54 : decode cX1_look 54 = .ok (.getfield 209, 3) := dk_180 0 209 (dk_at dksX1_look_2 2 rfl rfl)
theorem dX1_look_57 : decode cX1_look 57 = .ok (.ireturn, 1) := dk_172 (dk_at dksX1_look_2 5 rfl rfl)
theorem dX1_look_58 : decode cX1_look 58 = .ok (.aload 4, 2) := dk_25 4 (dk_at dksX1_look_2 6 rfl rfl)
theorem dX1_look_60 : decode cX1_look 60 = .ok (.getfield 211, 3) := dk_180 0 211 (dk_at dksX1_look_2 8 rfl rfl)
theorem dX1_look_63 : decode cX1_look 63 = .ok (.ireturn, 1) := dk_172 (dk_at dksX1_look_2 11 rfl rfl)
theorem dX1_look_64 : decode cX1_look 64 = .ok (.aload 4, 2) := dk_25 4 (dk_at dksX1_look_2 12 rfl rfl)
theorem dX1_look_66 : decode cX1_look 66 = .ok (.getfield 214, 3) := dk_180 0 214 (dk_at dksX1_look_2 14 rfl rfl)
theorem dX1_look_69 : decode cX1_look 69 = .ok (.ireturn, 1) := dk_172 (dk_at dksX1_look_2 17 rfl rfl)
theorem dX1_look_70 : decode cX1_look 70 = .ok (.aload 4, 2) := dk_25 4 (dk_at dksX1_look_2 18 rfl rfl)
theorem dX1_look_72 : decode cX1_look 72 = .ok (.getfield 217, 3) := dk_180 0 217 (dk_at dksX1_look_2 20 rfl rfl)
theorem dX1_look_75 : decode cX1_look 75 = .ok (.ireturn, 1) := dk_172 (dk_at dksX1_look_2 23 rfl rfl)
theorem dX1_look_76 : decode cX1_look 76 = .ok (.new 82, 3) := dk_187 0 82 (dk_at dksX1_look_3 0 rfl rfl)
theorem dX1_look_79 : decode cX1_look 79 = .ok (.dup, 1) := dk_89 (dk_at dksX1_look_3 3 rfl rfl)
theorem dX1_look_80 : decode cX1_look 80 = .ok (.invokespecial 84, 3) := dk_183 0 84 (dk_at dksX1_look_3 4 rfl rfl)
theorem dX1_look_83 : decode cX1_look 83 = .ok (.athrow, 1) := dk_191 (dk_at dksX1_look_3 7 rfl rfl)
def dkwX1_write_14 : List UInt8 := [25, 6, 89, 180, 0, 107, 4, 96, 181, 0, 107, 132, 7, 1, 167, 255, 18, 21, 5, 172]
abbrev dktX1_write_14 : List UInt8 := dkwX1_write_14 ++ []
def dkwX1_write_13 : List UInt8 := [54, 13, 25, 6, 180, 0, 193, 21, 7, 187, 0, 197, 89, 21, 11, 2, 21, 12, 21, 13, 183, 0, 199, 83]
abbrev dktX1_write_13 : List UInt8 := dkwX1_write_13 ++ dktX1_write_14
def dkwX1_write_12 : List UInt8 := [167, 0, 4, 4, 96, 54, 12, 167, 0, 19, 21, 13, 21, 13, 8, 160, 0, 7, 2, 167, 0, 4, 4, 96]
abbrev dktX1_write_12 : List UInt8 := dkwX1_write_12 ++ dktX1_write_13
def dkwX1_write_11 : List UInt8 := [180, 0, 93, 112, 54, 11, 167, 0, 44, 21, 14, 4, 160, 0, 22, 21, 12, 21, 12, 8, 160, 0, 7, 2]
abbrev dktX1_write_11 : List UInt8 := dkwX1_write_11 ++ dktX1_write_12
def dkwX1_write_10 : List UInt8 := [162, 0, 74, 42, 182, 0, 228, 6, 112, 54, 14, 21, 14, 154, 0, 20, 21, 11, 4, 96, 42, 180, 0, 19]
abbrev dktX1_write_10 : List UInt8 := dkwX1_write_10 ++ dktX1_write_11
def dkwX1_write_9 : List UInt8 := [21, 13, 54, 13, 42, 180, 0, 65, 21, 10, 182, 0, 231, 87, 42, 182, 0, 228, 16, 10, 112, 29]
abbrev dktX1_write_9 : List UInt8 := dkwX1_write_9 ++ dktX1_write_10
def dkwX1_write_8 : List UInt8 := [16, 6, 108, 54, 13, 27, 4, 160, 0, 16, 21, 8, 4, 160, 0, 10, 8, 21, 13, 100, 167, 0, 5]
abbrev dktX1_write_8 : List UInt8 := dkwX1_write_8 ++ dktX1_write_9
def dkwX1_write_7 : List UInt8 := [21, 10, 16, 36, 108, 46, 54, 11, 21, 10, 16, 36, 112, 16, 6, 112, 54, 12, 21, 10, 16, 36, 112]
abbrev dktX1_write_7 : List UInt8 := dkwX1_write_7 ++ dktX1_write_8
def dkwX1_write_6 : List UInt8 := [21, 5, 172, 42, 180, 0, 59, 42, 182, 0, 228, 21, 9, 112, 46, 54, 10, 42, 180, 0, 65, 180, 0, 169]
abbrev dktX1_write_6 : List UInt8 := dkwX1_write_6 ++ dktX1_write_7
def dkwX1_write_5 : List UInt8 := [180, 0, 35, 42, 180, 0, 65, 21, 8, 42, 180, 0, 59, 182, 0, 178, 54, 9, 21, 9, 154, 0, 6]
abbrev dktX1_write_5 : List UInt8 := dkwX1_write_5 ++ dktX1_write_6
def dkwX1_write_4 : List UInt8 := [180, 0, 166, 182, 0, 224, 3, 54, 7, 21, 7, 28, 162, 0, 238, 21, 7, 5, 112, 54, 8, 42]
abbrev dktX1_write_4 : List UInt8 := dkwX1_write_4 ++ dktX1_write_5
def dkwX1_write_3 : List UInt8 := [180, 0, 99, 21, 5, 50, 58, 6, 42, 21, 4, 181, 0, 221, 42, 180, 0, 65, 42, 180, 0, 19]
abbrev dktX1_write_3 : List UInt8 := dkwX1_write_3 ++ dktX1_write_4
def dkwX1_write_2 : List UInt8 := [162, 0, 7, 4, 167, 0, 4, 3, 184, 0, 139, 42, 27, 182, 0, 185, 54, 5, 42, 180, 0, 19]
abbrev dktX1_write_2 : List UInt8 := dkwX1_write_2 ++ dktX1_write_3
def dkwX1_write_1 : List UInt8 := [184, 0, 85, 153, 0, 7, 4, 167, 0, 4, 3, 184, 0, 136, 42, 180, 0, 19, 180, 0, 96, 6]
abbrev dktX1_write_1 : List UInt8 := dkwX1_write_1 ++ dktX1_write_2
def dkwX1_write_0 : List UInt8 := [27, 3, 4, 184, 0, 85, 153, 0, 27, 28, 4, 16, 24, 184, 0, 85, 153, 0, 17, 29, 3, 16, 9]
abbrev dktX1_write_0 : List UInt8 := dkwX1_write_0 ++ dktX1_write_1
theorem dksX1_write_0 : cX1_write.data.toList.drop 0 = dktX1_write_0 := by decide +kernel
theorem dksX1_write_1 : cX1_write.data.toList.drop 23 = dktX1_write_1 := dk_seg dksX1_write_0 23 rfl rfl
theorem dksX1_write_2 : cX1_write.data.toList.drop 45 = dktX1_write_2 := dk_seg dksX1_write_1 22 rfl rfl
theorem dksX1_write_3 : cX1_write.data.toList.drop 67 = dktX1_write_3 := dk_seg dksX1_write_2 22 rfl rfl
theorem dksX1_write_4 : cX1_write.data.toList.drop 89 = dktX1_write_4 := dk_seg dksX1_write_3 22 rfl rfl
theorem dksX1_write_5 : cX1_write.data.toList.drop 111 = dktX1_write_5 := dk_seg dksX1_write_4 22 rfl rfl
theorem dksX1_write_6 : cX1_write.data.toList.drop 134 = dktX1_write_6 := dk_seg dksX1_write_5 23 rfl rfl
theorem dksX1_write_7 : cX1_write.data.toList.drop 158 = dktX1_write_7 := dk_seg dksX1_write_6 24 rfl rfl
theorem dksX1_write_8 : cX1_write.data.toList.drop 181 = dktX1_write_8 := dk_seg dksX1_write_7 23 rfl rfl
theorem dksX1_write_9 : cX1_write.data.toList.drop 204 = dktX1_write_9 := dk_seg dksX1_write_8 23 rfl rfl
theorem dksX1_write_10 : cX1_write.data.toList.drop 226 = dktX1_write_10 := dk_seg dksX1_write_9 22 rfl rfl
theorem dksX1_write_11 : cX1_write.data.toList.drop 250 = dktX1_write_11 := dk_seg dksX1_write_10 24 rfl rfl
theorem dksX1_write_12 : cX1_write.data.toList.drop 274 = dktX1_write_12 := dk_seg dksX1_write_11 24 rfl rfl
theorem dksX1_write_13 : cX1_write.data.toList.drop 298 = dktX1_write_13 := dk_seg dksX1_write_12 24 rfl rfl
theorem dksX1_write_14 : cX1_write.data.toList.drop 322 = dktX1_write_14 := dk_seg dksX1_write_13 24 rfl rfl
theorem dX1_write_0 : decode cX1_write 0 = .ok (.iload_n 1, 1) := dk_27 (dk_at dksX1_write_0 0 rfl rfl)
theorem dX1_write_1 : decode cX1_write 1 = .ok (.iconst 0, 1) := dk_3 (dk_at dksX1_write_0 1 rfl rfl)
theorem dX1_write_2 : decode cX1_write 2 = .ok (.iconst 1, 1) := dk_4 (dk_at dksX1_write_0 2 rfl rfl)
theorem dX1_write_3 : decode cX1_write 3 = .ok (.invokestatic 85, 3) := dk_184 0 85 (dk_at dksX1_write_0 3 rfl rfl)
theorem dX1_write_6 : decode cX1_write 6 = .ok (.ifCond .eq 27, 3) := dk_153 0 27 (dk_at dksX1_write_0 6 rfl rfl)
theorem dX1_write_9 : decode cX1_write 9 = .ok (.iload_n 2, 1) := dk_28 (dk_at dksX1_write_0 9 rfl rfl)
theorem dX1_write_10 : decode cX1_write 10 = .ok (.iconst 1, 1) := dk_4 (dk_at dksX1_write_0 10 rfl rfl)
theorem dX1_write_11 : decode cX1_write 11 = .ok (.bipush 24, 2) := dk_16 24 (dk_at dksX1_write_0 11 rfl rfl)
theorem dX1_write_13 : decode cX1_write 13 = .ok (.invokestatic 85, 3) := dk_184 0 85 (dk_at dksX1_write_0 13 rfl rfl)
theorem dX1_write_16 : decode cX1_write 16 = .ok (.ifCond .eq 17, 3) := dk_153 0 17 (dk_at dksX1_write_0 16 rfl rfl)
theorem dX1_write_19 : decode cX1_write 19 = .ok (.iload_n 3, 1) := dk_29 (dk_at dksX1_write_0 19 rfl rfl)
theorem dX1_write_20 : decode cX1_write 20 = .ok (.iconst 0, 1) := dk_3 (dk_at dksX1_write_0 20 rfl rfl)
theorem dX1_write_21 : decode cX1_write 21 = .ok (.bipush 9, 2) := dk_16 9 (dk_at dksX1_write_0 21 rfl rfl)
theorem dX1_write_23 : decode cX1_write 23 = .ok (.invokestatic 85, 3) := dk_184 0 85 (dk_at dksX1_write_1 0 rfl rfl)
theorem dX1_write_26 : decode cX1_write 26 = .ok (.ifCond .eq 7, 3) := dk_153 0 7 (dk_at dksX1_write_1 3 rfl rfl)
theorem dX1_write_29 : decode cX1_write 29 = .ok (.iconst 1, 1) := dk_4 (dk_at dksX1_write_1 6 rfl rfl)
theorem dX1_write_30 : decode cX1_write 30 = .ok (.goto 4, 3) := dk_167 0 4 (dk_at dksX1_write_1 7 rfl rfl)
theorem dX1_write_33 : decode cX1_write 33 = .ok (.iconst 0, 1) := dk_3 (dk_at dksX1_write_1 10 rfl rfl)
theorem dX1_write_34 : decode cX1_write 34 = .ok (.invokestatic 136, 3) := dk_184 0 136 (dk_at dksX1_write_1 11 rfl rfl)
theorem dX1_write_37 : decode cX1_write 37 = .ok (.aload_n 0, 1) := dk_42 (dk_at dksX1_write_1 14 rfl rfl)
theorem dX1_write_38 : decode cX1_write 38 = .ok (.getfield 19, 3) := dk_180 0 19 (dk_at dksX1_write_1 15 rfl rfl)
theorem dX1_write_41 : decode cX1_write 41 = .ok (.getfield 96, 3) := dk_180 0 96 (dk_at dksX1_write_1 18 rfl rfl)
theorem dX1_write_44 : decode cX1_write 44 = .ok (.iconst 3, 1) := dk_6 (dk_at dksX1_write_1 21 rfl rfl)
theorem dX1_write_45 : decode cX1_write 45 = .ok (.if_icmp .ge 7, 3) := dk_162 0 7 (dk_at dksX1_write_2 0 rfl rfl)
theorem dX1_write_48 : decode cX1_write 48 = .ok (.iconst 1, 1) := dk_4 (dk_at dksX1_write_2 3 rfl rfl)
theorem dX1_write_49 : decode cX1_write 49 = .ok (.goto 4, 3) := dk_167 0 4 (dk_at dksX1_write_2 4 rfl rfl)
theorem dX1_write_52 : decode cX1_write 52 = .ok (.iconst 0, 1) := dk_3 (dk_at dksX1_write_2 7 rfl rfl)
theorem dX1_write_53 : decode cX1_write 53 = .ok (.invokestatic 139, 3) := dk_184 0 139 (dk_at dksX1_write_2 8 rfl rfl)
theorem dX1_write_56 : decode cX1_write 56 = .ok (.aload_n 0, 1) := dk_42 (dk_at dksX1_write_2 11 rfl rfl)
theorem dX1_write_57 : decode cX1_write 57 = .ok (.iload_n 1, 1) := dk_27 (dk_at dksX1_write_2 12 rfl rfl)
theorem dX1_write_58 : decode cX1_write 58 = .ok (.invokevirtual 185, 3) := dk_182 0 185 (dk_at dksX1_write_2 13 rfl rfl)
theorem dX1_write_61 : decode cX1_write 61 = .ok (.istore 5, 2) := dk_54 5 (dk_at dksX1_write_2 16 rfl rfl)
theorem dX1_write_63 : decode cX1_write 63 = .ok (.aload_n 0, 1) := dk_42 (dk_at dksX1_write_2 18 rfl rfl)
theorem dX1_write_64 : decode cX1_write 64 = .ok (.getfield 19, 3) := dk_180 0 19 (dk_at dksX1_write_2 19 rfl rfl)
theorem dX1_write_67 : decode cX1_write 67 = .ok (.getfield 99, 3) := dk_180 0 99 (dk_at dksX1_write_3 0 rfl rfl)
theorem dX1_write_70 : decode cX1_write 70 = .ok (.iload 5, 2) := dk_21 5 (dk_at dksX1_write_3 3 rfl rfl)
theorem dX1_write_72 : decode cX1_write 72 = .ok (.aaload, 1) := dk_50 (dk_at dksX1_write_3 5 rfl rfl)
theorem dX1_write_73 : decode cX1_write 73 = .ok (.astore 6, 2) := dk_58 6 (dk_at dksX1_write_3 6 rfl rfl)
theorem dX1_write_75 : decode cX1_write 75 = .ok (.aload_n 0, 1) := dk_42 (dk_at dksX1_write_3 8 rfl rfl)
theorem dX1_write_76 : decode cX1_write 76 = .ok (.iload 4, 2) := dk_21 4 (dk_at dksX1_write_3 9 rfl rfl)
theorem dX1_write_78 : decode cX1_write 78 = .ok (.putfield 221, 3) := dk_181 0 221 (dk_at dksX1_write_3 11 rfl rfl)
theorem dX1_write_81 : decode cX1_write 81 = .ok (.aload_n 0, 1) := dk_42 (dk_at dksX1_write_3 14 rfl rfl)
theorem dX1_write_82 : decode cX1_write 82 = .ok (.getfield 65, 3) := dk_180 0 65 (dk_at dksX1_write_3 15 rfl rfl)
theorem dX1_write_85 : decode cX1_write 85 = .ok (.aload_n 0, 1) := dk_42 (dk_at dksX1_write_3 18 rfl rfl)
theorem dX1_write_86 : decode cX1_write 86 = .ok (.getfield 19, 3) := dk_180 0 19 (dk_at dksX1_write_3 19 rfl rfl)
theorem dX1_write_89 : decode cX1_write 89 = .ok (.getfield 166, 3) := dk_180 0 166 (dk_at dksX1_write_4 0 rfl rfl)
theorem dX1_write_92 : decode cX1_write 92 = .ok (.invokevirtual 224, 3) := dk_182 0 224 (dk_at dksX1_write_4 3 rfl rfl)
theorem dX1_write_95 : decode cX1_write 95 = .ok (.iconst 0, 1) := dk_3 (dk_at dksX1_write_4 6 rfl rfl)
theorem dX1_write_96 : decode cX1_write 96 = .ok (.istore 7, 2) := dk_54 7 (dk_at dksX1_write_4 7 rfl rfl)
theorem dX1_write_98 : decode cX1_write 98 = .ok (.iload 7, 2) := dk_21 7 (dk_at dksX1_write_4 9 rfl rfl)
theorem dX1_write_100 : decode cX1_write 100 = .ok (.iload_n 2, 1) := dk_28 (dk_at dksX1_write_4 11 rfl rfl)
theorem dX1_write_101 : decode cX1_write 101 = .ok (.if_icmp .ge 238, 3) := dk_162 0 238 (dk_at dksX1_write_4 12 rfl rfl)
theorem dX1_write_104 : decode cX1_write 104 = .ok (.iload 7, 2) := dk_21 7 (dk_at dksX1_write_4 15 rfl rfl)
theorem dX1_write_106 : decode cX1_write 106 = .ok (.iconst 2, 1) := dk_5 (dk_at dksX1_write_4 17 rfl rfl)
theorem dX1_write_107 : decode cX1_write 107 = .ok (.irem, 1) := dk_112 (dk_at dksX1_write_4 18 rfl rfl)
theorem dX1_write_108 : decode cX1_write 108 = .ok (.istore 8, 2) := dk_54 8 (dk_at dksX1_write_4 19 rfl rfl)
theorem dX1_write_110 : decode cX1_write 110 = .ok (.aload_n 0, 1) := dk_42 (dk_at dksX1_write_4 21 rfl rfl)
theorem dX1_write_111 : decode cX1_write 111 = .ok (.getfield 35, 3) := dk_180 0 35 (dk_at dksX1_write_5 0 rfl rfl)
theorem dX1_write_114 : decode cX1_write 114 = .ok (.aload_n 0, 1) := dk_42 (dk_at dksX1_write_5 3 rfl rfl)
theorem dX1_write_115 : decode cX1_write 115 = .ok (.getfield 65, 3) := dk_180 0 65 (dk_at dksX1_write_5 4 rfl rfl)
theorem dX1_write_118 : decode cX1_write 118 = .ok (.iload 8, 2) := dk_21 8 (dk_at dksX1_write_5 7 rfl rfl)
theorem dX1_write_120 : decode cX1_write 120 = .ok (.aload_n 0, 1) := dk_42 (dk_at dksX1_write_5 9 rfl rfl)
theorem dX1_write_121 : decode cX1_write 121 = .ok (.getfield 59, 3) := dk_180 0 59 (dk_at dksX1_write_5 10 rfl rfl)
theorem dX1_write_124 : decode cX1_write 124 = .ok (.invokevirtual 178, 3) := dk_182 0 178 (dk_at dksX1_write_5 13 rfl rfl)
theorem dX1_write_127 : decode cX1_write 127 = .ok (.istore 9, 2) := dk_54 9 (dk_at dksX1_write_5 16 rfl rfl)
theorem dX1_write_129 : decode cX1_write 129 = .ok (.iload 9, 2) := dk_21 9 (dk_at dksX1_write_5 18 rfl rfl)
theorem dX1_write_131 : decode cX1_write 131 = .ok (.ifCond .ne 6, 3) := dk_154 0 6 (dk_at dksX1_write_5 20 rfl rfl)
theorem dX1_write_134 : decode cX1_write 134 = .ok (.iload 5, 2) := dk_21 5 (dk_at dksX1_write_6 0 rfl rfl)
theorem dX1_write_136 : decode cX1_write 136 = .ok (.ireturn, 1) := dk_172 (dk_at dksX1_write_6 2 rfl rfl)
theorem dX1_write_137 : decode cX1_write 137 = .ok (.aload_n 0, 1) := dk_42 (dk_at dksX1_write_6 3 rfl rfl)
theorem dX1_write_138 : decode cX1_write 138 = .ok (.getfield 59, 3) := dk_180 0 59 (dk_at dksX1_write_6 4 rfl rfl)
theorem dX1_write_141 : decode cX1_write 141 = .ok (.aload_n 0, 1) := dk_42 (dk_at dksX1_write_6 7 rfl rfl)
theorem dX1_write_142 : decode cX1_write 142 = .ok (.invokevirtual 228, 3) := dk_182 0 228 (dk_at dksX1_write_6 8 rfl rfl)
theorem dX1_write_145 : decode cX1_write 145 = .ok (.iload 9, 2) := dk_21 9 (dk_at dksX1_write_6 11 rfl rfl)
theorem dX1_write_147 : decode cX1_write 147 = .ok (.irem, 1) := dk_112 (dk_at dksX1_write_6 13 rfl rfl)
theorem dX1_write_148 : decode cX1_write 148 = .ok (.iaload, 1) := dk_46 (dk_at dksX1_write_6 14 rfl rfl)
theorem dX1_write_149 : decode cX1_write 149 = .ok (.istore 10, 2) := dk_54 10 (dk_at dksX1_write_6 15 rfl rfl)
theorem dX1_write_151 : decode cX1_write 151 = .ok (.aload_n 0, 1) := dk_42 (dk_at dksX1_write_6 17 rfl rfl)
theorem dX1_write_152 : decode cX1_write 152 = .ok (.getfield 65, 3) := dk_180 0 65 (dk_at dksX1_write_6 18 rfl rfl)
theorem dX1_write_155 : decode cX1_write 155 = .ok (.getfield 169, 3) := dk_180 0 169 (dk_at dksX1_write_6 21 rfl rfl)
theorem dX1_write_158 : decode cX1_write 158 = .ok (.iload 10, 2) := dk_21 10 (dk_at dksX1_write_7 0 rfl rfl)
theorem dX1_write_160 : decode cX1_write 160 = .ok (.bipush 36, 2) := dk_16 36 (dk_at dksX1_write_7 2 rfl rfl)
theorem dX1_write_162 : decode cX1_write 162 = .ok (.idiv, 1) := dk_108 (dk_at dksX1_write_7 4 rfl rfl)
theorem dX1_write_163 : decode cX1_write 163 = .ok (.iaload, 1) := dk_46 (dk_at dksX1_write_7 5 rfl rfl)
theorem dX1_write_164 : decode cX1_write 164 = .ok (.istore 11, 2) := dk_54 11 (dk_at dksX1_write_7 6 rfl rfl)
theorem dX1_write_166 : decode cX1_write 166 = .ok (.iload 10, 2) := dk_21 10 (dk_at dksX1_write_7 8 rfl rfl)
theorem dX1_write_168 : decode cX1_write 168 = .ok (.bipush 36, 2) := dk_16 36 (dk_at dksX1_write_7 10 rfl rfl)
theorem dX1_write_170 : decode cX1_write 170 = .ok (.irem, 1) := dk_112 (dk_at dksX1_write_7 12 rfl rfl)
theorem dX1_write_171 : decode cX1_write 171 = .ok (.bipush 6, 2) := dk_16 6 (dk_at dksX1_write_7 13 rfl rfl)
theorem dX1_write_173 : decode cX1_write 173 = .ok (.irem, 1) := dk_112 (dk_at dksX1_write_7 15 rfl rfl)
theorem dX1_write_174 : decode cX1_write 174 = .ok (.istore 12, 2) := dk_54 12 (dk_at dksX1_write_7 16 rfl rfl)
theorem dX1_write_176 : decode cX1_write 176 = .ok (.iload 10, 2) := dk_21 10 (dk_at dksX1_write_7 18 rfl rfl)
theorem dX1_write_178 : decode cX1_write 178 = .ok (.bipush 36, 2) := dk_16 36 (dk_at dksX1_write_7 20 rfl rfl)
theorem dX1_write_180 : decode cX1_write 180 = .ok (.irem, 1) := dk_112 (dk_at dksX1_write_7 22 rfl rfl)
theorem dX1_write_181 : decode cX1_write 181 = .ok (.bipush 6, 2) := dk_16 6 (dk_at dksX1_write_8 0 rfl rfl)
theorem dX1_write_183 : decode cX1_write 183 = .ok (.idiv, 1) := dk_108 (dk_at dksX1_write_8 2 rfl rfl)
theorem dX1_write_184 : decode cX1_write 184 = .ok (.istore 13, 2) := dk_54 13 (dk_at dksX1_write_8 3 rfl rfl)
theorem dX1_write_186 : decode cX1_write 186 = .ok (.iload_n 1, 1) := dk_27 (dk_at dksX1_write_8 5 rfl rfl)
theorem dX1_write_187 : decode cX1_write 187 = .ok (.iconst 1, 1) := dk_4 (dk_at dksX1_write_8 6 rfl rfl)
theorem dX1_write_188 : decode cX1_write 188 = .ok (.if_icmp .ne 16, 3) := dk_160 0 16 (dk_at dksX1_write_8 7 rfl rfl)
theorem dX1_write_191 : decode cX1_write 191 = .ok (.iload 8, 2) := dk_21 8 (dk_at dksX1_write_8 10 rfl rfl)
theorem dX1_write_193 : decode cX1_write 193 = .ok (.iconst 1, 1) := dk_4 (dk_at dksX1_write_8 12 rfl rfl)
theorem dX1_write_194 : decode cX1_write 194 = .ok (.if_icmp .ne 10, 3) := dk_160 0 10 (dk_at dksX1_write_8 13 rfl rfl)
theorem dX1_write_197 : decode cX1_write 197 = .ok (.iconst 5, 1) := dk_8 (dk_at dksX1_write_8 16 rfl rfl)
theorem dX1_write_198 : decode cX1_write 198 = .ok (.iload 13, 2) := dk_21 13 (dk_at dksX1_write_8 17 rfl rfl)
theorem dX1_write_200 : decode cX1_write 200 = .ok (.isub, 1) := dk_100 (dk_at dksX1_write_8 19 rfl rfl)
theorem dX1_write_201 : decode cX1_write 201 = .ok (.goto 5, 3) := dk_167 0 5 (dk_at dksX1_write_8 20 rfl rfl)
theorem dX1_write_204 : decode cX1_write 204 = .ok (.iload 13, 2) := dk_21 13 (dk_at dksX1_write_9 0 rfl rfl)
theorem dX1_write_206 : decode cX1_write 206 = .ok (.istore 13, 2) := dk_54 13 (dk_at dksX1_write_9 2 rfl rfl)
theorem dX1_write_208 : decode cX1_write 208 = .ok (.aload_n 0, 1) := dk_42 (dk_at dksX1_write_9 4 rfl rfl)
theorem dX1_write_209 : decode cX1_write 209 = .ok (.getfield 65, 3) := dk_180 0 65 (dk_at dksX1_write_9 5 rfl rfl)
theorem dX1_write_212 : decode cX1_write 212 = .ok (.iload 10, 2) := dk_21 10 (dk_at dksX1_write_9 8 rfl rfl)
theorem dX1_write_214 : decode cX1_write 214 = .ok (.invokevirtual 231, 3) := dk_182 0 231 (dk_at dksX1_write_9 10 rfl rfl)
theorem dX1_write_217 : decode cX1_write 217 = .ok (.pop, 1) := dk_87 (dk_at dksX1_write_9 13 rfl rfl)
theorem dX1_write_218 : decode cX1_write 218 = .ok (.aload_n 0, 1) := dk_42 (dk_at dksX1_write_9 14 rfl rfl)
theorem dX1_write_219 : decode cX1_write 219 = .ok (.invokevirtual 228, 3) := dk_182 0 228 (dk_at dksX1_write_9 15 rfl rfl)
theorem dX1_write_222 : decode cX1_write 222 = .ok (.bipush 10, 2) := dk_16 10 (dk_at dksX1_write_9 18 rfl rfl)
theorem dX1_write_224 : decode cX1_write 224 = .ok (.irem, 1) := dk_112 (dk_at dksX1_write_9 20 rfl rfl)
theorem dX1_write_225 : decode cX1_write 225 = .ok (.iload_n 3, 1) := dk_29 (dk_at dksX1_write_9 21 rfl rfl)
theorem dX1_write_226 : decode cX1_write 226 = .ok (.if_icmp .ge 74, 3) := dk_162 0 74 (dk_at dksX1_write_10 0 rfl rfl)
theorem dX1_write_229 : decode cX1_write 229 = .ok (.aload_n 0, 1) := dk_42 (dk_at dksX1_write_10 3 rfl rfl)
theorem dX1_write_230 : decode cX1_write 230 = .ok (.invokevirtual 228, 3) := dk_182 0 228 (dk_at dksX1_write_10 4 rfl rfl)
theorem dX1_write_233 : decode cX1_write 233 = .ok (.iconst 3, 1) := dk_6 (dk_at dksX1_write_10 7 rfl rfl)
theorem dX1_write_234 : decode cX1_write 234 = .ok (.irem, 1) := dk_112 (dk_at dksX1_write_10 8 rfl rfl)
theorem dX1_write_235 : decode cX1_write 235 = .ok (.istore 14, 2) := dk_54 14 (dk_at dksX1_write_10 9 rfl rfl)
theorem dX1_write_237 : decode cX1_write 237 = .ok (.iload 14, 2) := dk_21 14 (dk_at dksX1_write_10 11 rfl rfl)
theorem dX1_write_239 : decode cX1_write 239 = .ok (.ifCond .ne 20, 3) := dk_154 0 20 (dk_at dksX1_write_10 13 rfl rfl)
theorem dX1_write_242 : decode cX1_write 242 = .ok (.iload 11, 2) := dk_21 11 (dk_at dksX1_write_10 16 rfl rfl)
theorem dX1_write_244 : decode cX1_write 244 = .ok (.iconst 1, 1) := dk_4 (dk_at dksX1_write_10 18 rfl rfl)
theorem dX1_write_245 : decode cX1_write 245 = .ok (.iadd, 1) := dk_96 (dk_at dksX1_write_10 19 rfl rfl)
theorem dX1_write_246 : decode cX1_write 246 = .ok (.aload_n 0, 1) := dk_42 (dk_at dksX1_write_10 20 rfl rfl)
theorem dX1_write_247 : decode cX1_write 247 = .ok (.getfield 19, 3) := dk_180 0 19 (dk_at dksX1_write_10 21 rfl rfl)
theorem dX1_write_250 : decode cX1_write 250 = .ok (.getfield 93, 3) := dk_180 0 93 (dk_at dksX1_write_11 0 rfl rfl)
theorem dX1_write_253 : decode cX1_write 253 = .ok (.irem, 1) := dk_112 (dk_at dksX1_write_11 3 rfl rfl)
theorem dX1_write_254 : decode cX1_write 254 = .ok (.istore 11, 2) := dk_54 11 (dk_at dksX1_write_11 4 rfl rfl)
theorem dX1_write_256 : decode cX1_write 256 = .ok (.goto 44, 3) := dk_167 0 44 (dk_at dksX1_write_11 6 rfl rfl)
theorem dX1_write_259 : decode cX1_write 259 = .ok (.iload 14, 2) := dk_21 14 (dk_at dksX1_write_11 9 rfl rfl)
theorem dX1_write_261 : decode cX1_write 261 = .ok (.iconst 1, 1) := dk_4 (dk_at dksX1_write_11 11 rfl rfl)
theorem dX1_write_262 : decode cX1_write 262 = .ok (.if_icmp .ne 22, 3) := dk_160 0 22 (dk_at dksX1_write_11 12 rfl rfl)
theorem dX1_write_265 : decode cX1_write 265 = .ok (.iload 12, 2) := dk_21 12 (dk_at dksX1_write_11 15 rfl rfl)
theorem dX1_write_267 : decode cX1_write 267 = .ok (.iload 12, 2) := dk_21 12 (dk_at dksX1_write_11 17 rfl rfl)
theorem dX1_write_269 : decode cX1_write 269 = .ok (.iconst 5, 1) := dk_8 (dk_at dksX1_write_11 19 rfl rfl)
theorem dX1_write_270 : decode cX1_write 270 = .ok (.if_icmp .ne 7, 3) := dk_160 0 7 (dk_at dksX1_write_11 20 rfl rfl)
theorem dX1_write_273 : decode cX1_write 273 = .ok (.iconst (-1), 1) := dk_2 (dk_at dksX1_write_11 23 rfl rfl)
theorem dX1_write_274 : decode cX1_write 274 = .ok (.goto 4, 3) := dk_167 0 4 (dk_at dksX1_write_12 0 rfl rfl)
theorem dX1_write_277 : decode cX1_write 277 = .ok (.iconst 1, 1) := dk_4 (dk_at dksX1_write_12 3 rfl rfl)
theorem dX1_write_278 : decode cX1_write 278 = .ok (.iadd, 1) := dk_96 (dk_at dksX1_write_12 4 rfl rfl)
theorem dX1_write_279 : decode cX1_write 279 = .ok (.istore 12, 2) := dk_54 12 (dk_at dksX1_write_12 5 rfl rfl)
theorem dX1_write_281 : decode cX1_write 281 = .ok (.goto 19, 3) := dk_167 0 19 (dk_at dksX1_write_12 7 rfl rfl)
theorem dX1_write_284 : decode cX1_write 284 = .ok (.iload 13, 2) := dk_21 13 (dk_at dksX1_write_12 10 rfl rfl)
theorem dX1_write_286 : decode cX1_write 286 = .ok (.iload 13, 2) := dk_21 13 (dk_at dksX1_write_12 12 rfl rfl)
theorem dX1_write_288 : decode cX1_write 288 = .ok (.iconst 5, 1) := dk_8 (dk_at dksX1_write_12 14 rfl rfl)
theorem dX1_write_289 : decode cX1_write 289 = .ok (.if_icmp .ne 7, 3) := dk_160 0 7 (dk_at dksX1_write_12 15 rfl rfl)
theorem dX1_write_292 : decode cX1_write 292 = .ok (.iconst (-1), 1) := dk_2 (dk_at dksX1_write_12 18 rfl rfl)
theorem dX1_write_293 : decode cX1_write 293 = .ok (.goto 4, 3) := dk_167 0 4 (dk_at dksX1_write_12 19 rfl rfl)
theorem dX1_write_296 : decode cX1_write 296 = .ok (.iconst 1, 1) := dk_4 (dk_at dksX1_write_12 22 rfl rfl)
theorem dX1_write_297 : decode cX1_write 297 = .ok (.iadd, 1) := dk_96 (dk_at dksX1_write_12 23 rfl rfl)
theorem dX1_write_298 : decode cX1_write 298 = .ok (.istore 13, 2) := dk_54 13 (dk_at dksX1_write_13 0 rfl rfl)
theorem dX1_write_300 : decode cX1_write 300 = .ok (.aload 6, 2) := dk_25 6 (dk_at dksX1_write_13 2 rfl rfl)
theorem dX1_write_302 : decode cX1_write 302 = .ok (.getfield 193, 3) := dk_180 0 193 (dk_at dksX1_write_13 4 rfl rfl)
theorem dX1_write_305 : decode cX1_write 305 = .ok (.iload 7, 2) := dk_21 7 (dk_at dksX1_write_13 7 rfl rfl)
theorem dX1_write_307 : decode cX1_write 307 = .ok (.new 197, 3) := dk_187 0 197 (dk_at dksX1_write_13 9 rfl rfl)
theorem dX1_write_310 : decode cX1_write 310 = .ok (.dup, 1) := dk_89 (dk_at dksX1_write_13 12 rfl rfl)
theorem dX1_write_311 : decode cX1_write 311 = .ok (.iload 11, 2) := dk_21 11 (dk_at dksX1_write_13 13 rfl rfl)
theorem dX1_write_313 : decode cX1_write 313 = .ok (.iconst (-1), 1) := dk_2 (dk_at dksX1_write_13 15 rfl rfl)
theorem dX1_write_314 : decode cX1_write 314 = .ok (.iload 12, 2) := dk_21 12 (dk_at dksX1_write_13 16 rfl rfl)
theorem dX1_write_316 : decode cX1_write 316 = .ok (.iload 13, 2) := dk_21 13 (dk_at dksX1_write_13 18 rfl rfl)
theorem dX1_write_318 : decode cX1_write 318 = .ok (.invokespecial 199, 3) := dk_183 0 199 (dk_at dksX1_write_13 20 rfl rfl)
theorem dX1_write_321 : decode cX1_write 321 = .ok (.aastore, 1) := dk_83 (dk_at dksX1_write_13 23 rfl rfl)
theorem dX1_write_322 : decode cX1_write 322 = .ok (.aload 6, 2) := dk_25 6 (dk_at dksX1_write_14 0 rfl rfl)
theorem dX1_write_324 : decode cX1_write 324 = .ok (.dup, 1) := dk_89 (dk_at dksX1_write_14 2 rfl rfl)
theorem dX1_write_325 : decode cX1_write 325 = .ok (.getfield 107, 3) := dk_180 0 107 (dk_at dksX1_write_14 3 rfl rfl)
theorem dX1_write_328 : decode cX1_write 328 = .ok (.iconst 1, 1) := dk_4 (dk_at dksX1_write_14 6 rfl rfl)
theorem dX1_write_329 : decode cX1_write 329 = .ok (.iadd, 1) := dk_96 (dk_at dksX1_write_14 7 rfl rfl)
theorem dX1_write_330 : decode cX1_write 330 = .ok (.putfield 107, 3) := dk_181 0 107 (dk_at dksX1_write_14 8 rfl rfl)
theorem dX1_write_333 : decode cX1_write 333 = .ok (.iinc 7 1, 3) := dk_132 7 1 (dk_at dksX1_write_14 11 rfl rfl)
theorem dX1_write_336 : decode cX1_write 336 = .ok (.goto (-238), 3) := dk_167 255 18 (dk_at dksX1_write_14 14 rfl rfl)
theorem dX1_write_339 : decode cX1_write 339 = .ok (.iload 5, 2) := dk_21 5 (dk_at dksX1_write_14 17 rfl rfl)
theorem dX1_write_341 : decode cX1_write 341 = .ok (.ireturn, 1) := dk_172 (dk_at dksX1_write_14 19 rfl rfl)
def dkwX1_draw_1 : List UInt8 := [17, 127, 255, 126, 172]
abbrev dktX1_draw_1 : List UInt8 := dkwX1_draw_1 ++ []
def dkwX1_draw_0 : List UInt8 := [42, 18, 220, 42, 180, 0, 221, 104, 17, 48, 57, 96, 181, 0, 221, 42, 180, 0, 221, 16, 16, 124]
abbrev dktX1_draw_0 : List UInt8 := dkwX1_draw_0 ++ dktX1_draw_1
theorem dksX1_draw_0 : cX1_draw.data.toList.drop 0 = dktX1_draw_0 := by decide +kernel
theorem dksX1_draw_1 : cX1_draw.data.toList.drop 22 = dktX1_draw_1 := dk_seg dksX1_draw_0 22 rfl rfl
theorem dX1_draw_0 : decode cX1_draw 0 = .ok (.aload_n 0, 1) := dk_42 (dk_at dksX1_draw_0 0 rfl rfl)
theorem dX1_draw_1 : decode cX1_draw 1 = .ok (.ldc 220, 2) := dk_18 220 (dk_at dksX1_draw_0 1 rfl rfl)
theorem dX1_draw_3 : decode cX1_draw 3 = .ok (.aload_n 0, 1) := dk_42 (dk_at dksX1_draw_0 3 rfl rfl)
theorem dX1_draw_4 : decode cX1_draw 4 = .ok (.getfield 221, 3) := dk_180 0 221 (dk_at dksX1_draw_0 4 rfl rfl)
theorem dX1_draw_7 : decode cX1_draw 7 = .ok (.imul, 1) := dk_104 (dk_at dksX1_draw_0 7 rfl rfl)
theorem dX1_draw_8 : decode cX1_draw 8 = .ok (.sipush 12345, 3) := dk_17 48 57 (dk_at dksX1_draw_0 8 rfl rfl)
theorem dX1_draw_11 : decode cX1_draw 11 = .ok (.iadd, 1) := dk_96 (dk_at dksX1_draw_0 11 rfl rfl)
theorem dX1_draw_12 : decode cX1_draw 12 = .ok (.putfield 221, 3) := dk_181 0 221 (dk_at dksX1_draw_0 12 rfl rfl)
theorem dX1_draw_15 : decode cX1_draw 15 = .ok (.aload_n 0, 1) := dk_42 (dk_at dksX1_draw_0 15 rfl rfl)
theorem dX1_draw_16 : decode cX1_draw 16 = .ok (.getfield 221, 3) := dk_180 0 221 (dk_at dksX1_draw_0 16 rfl rfl)
theorem dX1_draw_19 : decode cX1_draw 19 = .ok (.bipush 16, 2) := dk_16 16 (dk_at dksX1_draw_0 19 rfl rfl)
theorem dX1_draw_21 : decode cX1_draw 21 = .ok (.iushr, 1) := dk_124 (dk_at dksX1_draw_0 21 rfl rfl)
theorem dX1_draw_22 : decode cX1_draw 22 = .ok (.sipush 32767, 3) := dk_17 127 255 (dk_at dksX1_draw_1 0 rfl rfl)
theorem dX1_draw_25 : decode cX1_draw 25 = .ok (.iand, 1) := dk_126 (dk_at dksX1_draw_1 3 rfl rfl)
theorem dX1_draw_26 : decode cX1_draw 26 = .ok (.ireturn, 1) := dk_172 (dk_at dksX1_draw_1 4 rfl rfl)
def dkwX1_price_1 : List UInt8 := [42, 180, 0, 19, 180, 0, 237, 27, 28, 79, 42, 3, 181, 0, 174, 29, 172]
abbrev dktX1_price_1 : List UInt8 := dkwX1_price_1 ++ []
def dkwX1_price_0 : List UInt8 := [27, 184, 0, 234, 28, 3, 16, 9, 184, 0, 85, 184, 0, 136, 42, 180, 0, 19, 180, 0, 237, 27, 46, 62]
abbrev dktX1_price_0 : List UInt8 := dkwX1_price_0 ++ dktX1_price_1
theorem dksX1_price_0 : cX1_price.data.toList.drop 0 = dktX1_price_0 := by decide +kernel
theorem dksX1_price_1 : cX1_price.data.toList.drop 24 = dktX1_price_1 := dk_seg dksX1_price_0 24 rfl rfl
theorem dX1_price_0 : decode cX1_price 0 = .ok (.iload_n 1, 1) := dk_27 (dk_at dksX1_price_0 0 rfl rfl)
theorem dX1_price_1 : decode cX1_price 1 = .ok (.invokestatic 234, 3) := dk_184 0 234 (dk_at dksX1_price_0 1 rfl rfl)
theorem dX1_price_4 : decode cX1_price 4 = .ok (.iload_n 2, 1) := dk_28 (dk_at dksX1_price_0 4 rfl rfl)
theorem dX1_price_5 : decode cX1_price 5 = .ok (.iconst 0, 1) := dk_3 (dk_at dksX1_price_0 5 rfl rfl)
theorem dX1_price_6 : decode cX1_price 6 = .ok (.bipush 9, 2) := dk_16 9 (dk_at dksX1_price_0 6 rfl rfl)
theorem dX1_price_8 : decode cX1_price 8 = .ok (.invokestatic 85, 3) := dk_184 0 85 (dk_at dksX1_price_0 8 rfl rfl)
theorem dX1_price_11 : decode cX1_price 11 = .ok (.invokestatic 136, 3) := dk_184 0 136 (dk_at dksX1_price_0 11 rfl rfl)
theorem dX1_price_14 : decode cX1_price 14 = .ok (.aload_n 0, 1) := dk_42 (dk_at dksX1_price_0 14 rfl rfl)
theorem dX1_price_15 : decode cX1_price 15 = .ok (.getfield 19, 3) := dk_180 0 19 (dk_at dksX1_price_0 15 rfl rfl)
theorem dX1_price_18 : decode cX1_price 18 = .ok (.getfield 237, 3) := dk_180 0 237 (dk_at dksX1_price_0 18 rfl rfl)
theorem dX1_price_21 : decode cX1_price 21 = .ok (.iload_n 1, 1) := dk_27 (dk_at dksX1_price_0 21 rfl rfl)
theorem dX1_price_22 : decode cX1_price 22 = .ok (.iaload, 1) := dk_46 (dk_at dksX1_price_0 22 rfl rfl)
theorem dX1_price_23 : decode cX1_price 23 = .ok (.istore_n 3, 1) := dk_62 (dk_at dksX1_price_0 23 rfl rfl)
theorem dX1_price_24 : decode cX1_price 24 = .ok (.aload_n 0, 1) := dk_42 (dk_at dksX1_price_1 0 rfl rfl)
theorem dX1_price_25 : decode cX1_price 25 = .ok (.getfield 19, 3) := dk_180 0 19 (dk_at dksX1_price_1 1 rfl rfl)
theorem dX1_price_28 : decode cX1_price 28 = .ok (.getfield 237, 3) := dk_180 0 237 (dk_at dksX1_price_1 4 rfl rfl)
theorem dX1_price_31 : decode cX1_price 31 = .ok (.iload_n 1, 1) := dk_27 (dk_at dksX1_price_1 7 rfl rfl)
theorem dX1_price_32 : decode cX1_price 32 = .ok (.iload_n 2, 1) := dk_28 (dk_at dksX1_price_1 8 rfl rfl)
theorem dX1_price_33 : decode cX1_price 33 = .ok (.iastore, 1) := dk_79 (dk_at dksX1_price_1 9 rfl rfl)
theorem dX1_price_34 : decode cX1_price 34 = .ok (.aload_n 0, 1) := dk_42 (dk_at dksX1_price_1 10 rfl rfl)
theorem dX1_price_35 : decode cX1_price 35 = .ok (.iconst 0, 1) := dk_3 (dk_at dksX1_price_1 11 rfl rfl)
theorem dX1_price_36 : decode cX1_price 36 = .ok (.putfield 174, 3) := dk_181 0 174 (dk_at dksX1_price_1 12 rfl rfl)
theorem dX1_price_39 : decode cX1_price 39 = .ok (.iload_n 3, 1) := dk_29 (dk_at dksX1_price_1 15 rfl rfl)
theorem dX1_price_40 : decode cX1_price 40 = .ok (.ireturn, 1) := dk_172 (dk_at dksX1_price_1 16 rfl rfl)
def dkwX1_isSlip_0 : List UInt8 := [26, 4, 16, 7, 184, 0, 85, 184, 0, 89, 177]
abbrev dktX1_isSlip_0 : List UInt8 := dkwX1_isSlip_0 ++ []
theorem dksX1_isSlip_0 : cX1_isSlip.data.toList.drop 0 = dktX1_isSlip_0 := by decide +kernel
theorem dX1_isSlip_0 : decode cX1_isSlip 0 = .ok (.iload_n 0, 1) := dk_26 (dk_at dksX1_isSlip_0 0 rfl rfl)
theorem dX1_isSlip_1 : decode cX1_isSlip 1 = .ok (.iconst 1, 1) := dk_4 (dk_at dksX1_isSlip_0 1 rfl rfl)
theorem dX1_isSlip_2 : decode cX1_isSlip 2 = .ok (.bipush 7, 2) := dk_16 7 (dk_at dksX1_isSlip_0 2 rfl rfl)
theorem dX1_isSlip_4 : decode cX1_isSlip 4 = .ok (.invokestatic 85, 3) := dk_184 0 85 (dk_at dksX1_isSlip_0 4 rfl rfl)
theorem dX1_isSlip_7 : decode cX1_isSlip 7 = .ok (.invokestatic 89, 3) := dk_184 0 89 (dk_at dksX1_isSlip_0 7 rfl rfl)
theorem dX1_isSlip_10 : decode cX1_isSlip 10 = .ok (.return_, 1) := dk_177 (dk_at dksX1_isSlip_0 10 rfl rfl)
def dkwX1_length_0 : List UInt8 := [27, 2, 16, 30, 184, 0, 85, 184, 0, 136, 42, 180, 0, 19, 27, 181, 0, 240, 42, 3, 181, 0, 174, 177]
abbrev dktX1_length_0 : List UInt8 := dkwX1_length_0 ++ []
theorem dksX1_length_0 : cX1_length.data.toList.drop 0 = dktX1_length_0 := by decide +kernel
theorem dX1_length_0 : decode cX1_length 0 = .ok (.iload_n 1, 1) := dk_27 (dk_at dksX1_length_0 0 rfl rfl)
theorem dX1_length_1 : decode cX1_length 1 = .ok (.iconst (-1), 1) := dk_2 (dk_at dksX1_length_0 1 rfl rfl)
theorem dX1_length_2 : decode cX1_length 2 = .ok (.bipush 30, 2) := dk_16 30 (dk_at dksX1_length_0 2 rfl rfl)
theorem dX1_length_4 : decode cX1_length 4 = .ok (.invokestatic 85, 3) := dk_184 0 85 (dk_at dksX1_length_0 4 rfl rfl)
theorem dX1_length_7 : decode cX1_length 7 = .ok (.invokestatic 136, 3) := dk_184 0 136 (dk_at dksX1_length_0 7 rfl rfl)
theorem dX1_length_10 : decode cX1_length 10 = .ok (.aload_n 0, 1) := dk_42 (dk_at dksX1_length_0 10 rfl rfl)
theorem dX1_length_11 : decode cX1_length 11 = .ok (.getfield 19, 3) := dk_180 0 19 (dk_at dksX1_length_0 11 rfl rfl)
theorem dX1_length_14 : decode cX1_length 14 = .ok (.iload_n 1, 1) := dk_27 (dk_at dksX1_length_0 14 rfl rfl)
theorem dX1_length_15 : decode cX1_length 15 = .ok (.putfield 240, 3) := dk_181 0 240 (dk_at dksX1_length_0 15 rfl rfl)
theorem dX1_length_18 : decode cX1_length 18 = .ok (.aload_n 0, 1) := dk_42 (dk_at dksX1_length_0 18 rfl rfl)
theorem dX1_length_19 : decode cX1_length 19 = .ok (.iconst 0, 1) := dk_3 (dk_at dksX1_length_0 19 rfl rfl)
theorem dX1_length_20 : decode cX1_length 20 = .ok (.putfield 174, 3) := dk_181 0 174 (dk_at dksX1_length_0 20 rfl rfl)
theorem dX1_length_23 : decode cX1_length 23 = .ok (.return_, 1) := dk_177 (dk_at dksX1_length_0 23 rfl rfl)
def dkwX1_picture_5 : List UInt8 := [172]
abbrev dktX1_picture_5 : List UInt8 := dkwX1_picture_5 ++ []
def dkwX1_picture_4 : List UInt8 := [180, 0, 19, 89, 180, 0, 243, 4, 96, 181, 0, 243, 42, 3, 181, 0, 174, 42, 180, 0, 19, 180, 0, 243]
abbrev dktX1_picture_4 : List UInt8 := dkwX1_picture_4 ++ dktX1_picture_5
def dkwX1_picture_3 : List UInt8 := [180, 0, 246, 42, 180, 0, 19, 180, 0, 243, 187, 0, 250, 89, 27, 28, 29, 21, 4, 183, 0, 252, 83, 42]
abbrev dktX1_picture_3 : List UInt8 := dkwX1_picture_3 ++ dktX1_picture_4
def dkwX1_picture_2 : List UInt8 := [180, 0, 19, 180, 0, 243, 16, 10, 162, 0, 7, 4, 167, 0, 4, 3, 184, 0, 139, 42, 180, 0, 19]
abbrev dktX1_picture_2 : List UInt8 := dkwX1_picture_2 ++ dktX1_picture_3
def dkwX1_picture_1 : List UInt8 := [159, 0, 13, 21, 4, 3, 4, 184, 0, 85, 153, 0, 7, 4, 167, 0, 4, 3, 184, 0, 136, 42]
abbrev dktX1_picture_1 : List UInt8 := dkwX1_picture_1 ++ dktX1_picture_2
def dkwX1_picture_0 : List UInt8 := [28, 184, 0, 159, 42, 29, 2, 182, 0, 162, 27, 3, 16, 30, 184, 0, 85, 153, 0, 22, 29, 2]
abbrev dktX1_picture_0 : List UInt8 := dkwX1_picture_0 ++ dktX1_picture_1
theorem dksX1_picture_0 : cX1_picture.data.toList.drop 0 = dktX1_picture_0 := by decide +kernel
theorem dksX1_picture_1 : cX1_picture.data.toList.drop 22 = dktX1_picture_1 := dk_seg dksX1_picture_0 22 rfl rfl
theorem dksX1_picture_2 : cX1_picture.data.toList.drop 44 = dktX1_picture_2 := dk_seg dksX1_picture_1 22 rfl rfl
theorem dksX1_picture_3 : cX1_picture.data.toList.drop 67 = dktX1_picture_3 := dk_seg dksX1_picture_2 23 rfl rfl
theorem dksX1_picture_4 : cX1_picture.data.toList.drop 91 = dktX1_picture_4 := dk_seg dksX1_picture_3 24 rfl rfl
theorem dksX1_picture_5 : cX1_picture.data.toList.drop 115 = dktX1_picture_5 := dk_seg dksX1_picture_4 24 rfl rfl
theorem dX1_picture_0 : decode cX1_picture 0 = .ok (.iload_n 2, 1) := dk_28 (dk_at dksX1_picture_0 0 rfl rfl)
theorem dX1_picture_1 : decode cX1_picture 1 = .ok (.invokestatic 159, 3) := dk_184 0 159 (dk_at dksX1_picture_0 1 rfl rfl)
theorem dX1_picture_4 : decode cX1_picture 4 = .ok (.aload_n 0, 1) := dk_42 (dk_at dksX1_picture_0 4 rfl rfl)
theorem dX1_picture_5 : decode cX1_picture 5 = .ok (.iload_n 3, 1) := dk_29 (dk_at dksX1_picture_0 5 rfl rfl)
theorem dX1_picture_6 : decode cX1_picture 6 = .ok (.iconst (-1), 1) := dk_2 (dk_at dksX1_picture_0 6 rfl rfl)
theorem dX1_picture_7 : decode cX1_picture 7 = .ok (.invokevirtual 162, 3) := dk_182 0 162 (dk_at dksX1_picture_0 7 rfl rfl)
theorem dX1_picture_10 : decode cX1_picture 10 = .ok (.iload_n 1, 1) := dk_27 (dk_at dksX1_picture_0 10 rfl rfl)
theorem dX1_picture_11 : decode cX1_picture 11 = .ok (.iconst 0, 1) := dk_3 (dk_at dksX1_picture_0 11 rfl rfl)
theorem dX1_picture_12 : decode cX1_picture 12 = .ok (.bipush 30, 2) := dk_16 30 (dk_at dksX1_picture_0 12 rfl rfl)
theorem dX1_picture_14 : decode cX1_picture 14 = .ok (.invokestatic 85, 3) := dk_184 0 85 (dk_at dksX1_picture_0 14 rfl rfl)
theorem dX1_picture_17 : decode cX1_picture 17 = .ok (.ifCond .eq 22, 3) := dk_153 0 22 (dk_at dksX1_picture_0 17 rfl rfl)
theorem dX1_picture_20 : decode cX1_picture 20 = .ok (.iload_n 3, 1) := dk_29 (dk_at dksX1_picture_0 20 rfl rfl)
theorem dX1_picture_21 : decode cX1_picture 21 = .ok (.iconst (-1), 1) := dk_2 (dk_at dksX1_picture_0 21 rfl rfl)
theorem dX1_picture_22 : decode cX1_picture 22 = .ok (.if_icmp .eq 13, 3) := dk_159 0 13 (dk_at dksX1_picture_1 0 rfl rfl)
theorem dX1_picture_25 : decode cX1_picture 25 = .ok (.iload 4, 2) := dk_21 4 (dk_at dksX1_picture_1 3 rfl rfl)
theorem dX1_picture_27 : decode cX1_picture 27 = .ok (.iconst 0, 1) := dk_3 (dk_at dksX1_picture_1 5 rfl rfl)
theorem dX1_picture_28 : decode cX1_picture 28 = .ok (.iconst 1, 1) := dk_4 (dk_at dksX1_picture_1 6 rfl rfl)
theorem dX1_picture_29 : decode cX1_picture 29 = .ok (.invokestatic 85, 3) := dk_184 0 85 (dk_at dksX1_picture_1 7 rfl rfl)
theorem dX1_picture_32 : decode cX1_picture 32 = .ok (.ifCond .eq 7, 3) := dk_153 0 7 (dk_at dksX1_picture_1 10 rfl rfl)
theorem dX1_picture_35 : decode cX1_picture 35 = .ok (.iconst 1, 1) := dk_4 (dk_at dksX1_picture_1 13 rfl rfl)
theorem dX1_picture_36 : decode cX1_picture 36 = .ok (.goto 4, 3) := dk_167 0 4 (dk_at dksX1_picture_1 14 rfl rfl)
theorem dX1_picture_39 : decode cX1_picture 39 = .ok (.iconst 0, 1) := dk_3 (dk_at dksX1_picture_1 17 rfl rfl)
theorem dX1_picture_40 : decode cX1_picture 40 = .ok (.invokestatic 136, 3) := dk_184 0 136 (dk_at dksX1_picture_1 18 rfl rfl)
theorem dX1_picture_43 : decode cX1_picture 43 = .ok (.aload_n 0, 1) := dk_42 (dk_at dksX1_picture_1 21 rfl rfl)
theorem dX1_picture_44 : decode cX1_picture 44 = .ok (.getfield 19, 3) := dk_180 0 19 (dk_at dksX1_picture_2 0 rfl rfl)
theorem dX1_picture_47 : decode cX1_picture 47 = .ok (.getfield 243, 3) := dk_180 0 243 (dk_at dksX1_picture_2 3 rfl rfl)
theorem dX1_picture_50 : decode cX1_picture 50 = .ok (.bipush 10, 2) := dk_16 10 (dk_at dksX1_picture_2 6 rfl rfl)
theorem dX1_picture_52 : decode cX1_picture 52 = .ok (.if_icmp .ge 7, 3) := dk_162 0 7 (dk_at dksX1_picture_2 8 rfl rfl)
theorem dX1_picture_55 : decode cX1_picture 55 = .ok (.iconst 1, 1) := dk_4 (dk_at dksX1_picture_2 11 rfl rfl)
theorem dX1_picture_56 : decode cX1_picture 56 = .ok (.goto 4, 3) := dk_167 0 4 (dk_at dksX1_picture_2 12 rfl rfl)
theorem dX1_picture_59 : decode cX1_picture 59 = .ok (.iconst 0, 1) := dk_3 (dk_at dksX1_picture_2 15 rfl rfl)
theorem dX1_picture_60 : decode cX1_picture 60 = .ok (.invokestatic 139, 3) := dk_184 0 139 (dk_at dksX1_picture_2 16 rfl rfl)
theorem dX1_picture_63 : decode cX1_picture 63 = .ok (.aload_n 0, 1) := dk_42 (dk_at dksX1_picture_2 19 rfl rfl)
theorem dX1_picture_64 : decode cX1_picture 64 = .ok (.getfield 19, 3) := dk_180 0 19 (dk_at dksX1_picture_2 20 rfl rfl)
theorem dX1_picture_67 : decode cX1_picture 67 = .ok (.getfield 246, 3) := dk_180 0 246 (dk_at dksX1_picture_3 0 rfl rfl)
theorem dX1_picture_70 : decode cX1_picture 70 = .ok (.aload_n 0, 1) := dk_42 (dk_at dksX1_picture_3 3 rfl rfl)
theorem dX1_picture_71 : decode cX1_picture 71 = .ok (.getfield 19, 3) := dk_180 0 19 (dk_at dksX1_picture_3 4 rfl rfl)
theorem dX1_picture_74 : decode cX1_picture 74 = .ok (.getfield 243, 3) := dk_180 0 243 (dk_at dksX1_picture_3 7 rfl rfl)
theorem dX1_picture_77 : decode cX1_picture 77 = .ok (.new 250, 3) := dk_187 0 250 (dk_at dksX1_picture_3 10 rfl rfl)
theorem dX1_picture_80 : decode cX1_picture 80 = .ok (.dup, 1) := dk_89 (dk_at dksX1_picture_3 13 rfl rfl)
theorem dX1_picture_81 : decode cX1_picture 81 = .ok (.iload_n 1, 1) := dk_27 (dk_at dksX1_picture_3 14 rfl rfl)
theorem dX1_picture_82 : decode cX1_picture 82 = .ok (.iload_n 2, 1) := dk_28 (dk_at dksX1_picture_3 15 rfl rfl)
theorem dX1_picture_83 : decode cX1_picture 83 = .ok (.iload_n 3, 1) := dk_29 (dk_at dksX1_picture_3 16 rfl rfl)
theorem dX1_picture_84 : decode cX1_picture 84 = .ok (.iload 4, 2) := dk_21 4 (dk_at dksX1_picture_3 17 rfl rfl)
theorem dX1_picture_86 : decode cX1_picture 86 = .ok (.invokespecial 252, 3) := dk_183 0 252 (dk_at dksX1_picture_3 19 rfl rfl)
theorem dX1_picture_89 : decode cX1_picture 89 = .ok (.aastore, 1) := dk_83 (dk_at dksX1_picture_3 22 rfl rfl)
theorem dX1_picture_90 : decode cX1_picture 90 = .ok (.aload_n 0, 1) := dk_42 (dk_at dksX1_picture_3 23 rfl rfl)
theorem dX1_picture_91 : decode cX1_picture 91 = .ok (.getfield 19, 3) := dk_180 0 19 (dk_at dksX1_picture_4 0 rfl rfl)
theorem dX1_picture_94 : decode cX1_picture 94 = .ok (.dup, 1) := dk_89 (dk_at dksX1_picture_4 3 rfl rfl)
theorem dX1_picture_95 : decode cX1_picture 95 = .ok (.getfield 243, 3) := dk_180 0 243 (dk_at dksX1_picture_4 4 rfl rfl)
theorem dX1_picture_98 : decode cX1_picture 98 = .ok (.iconst 1, 1) := dk_4 (dk_at dksX1_picture_4 7 rfl rfl)
theorem dX1_picture_99 : decode cX1_picture 99 = .ok (.iadd, 1) := dk_96 (dk_at dksX1_picture_4 8 rfl rfl)
theorem dX1_picture_100 : decode cX1_picture 100 = .ok (.putfield 243, 3) := dk_181 0 243 (dk_at dksX1_picture_4 9 rfl rfl)
theorem dX1_picture_103 : decode cX1_picture 103 = .ok (.aload_n 0, 1) := dk_42 (dk_at dksX1_picture_4 12 rfl rfl)
theorem dX1_picture_104 : decode cX1_picture 104 = .ok (.iconst 0, 1) := dk_3 (dk_at dksX1_picture_4 13 rfl rfl)
theorem dX1_picture_105 : decode cX1_picture 105 = .ok (.putfield 174, 3) := dk_181 0 174 (dk_at dksX1_picture_4 14 rfl rfl)
theorem dX1_picture_108 : decode cX1_picture 108 = .ok (.aload_n 0, 1) := dk_42 (dk_at dksX1_picture_4 17 rfl rfl)
theorem dX1_picture_109 : decode cX1_picture 109 = .ok (.getfield 19, 3) := dk_180 0 19 (dk_at dksX1_picture_4 18 rfl rfl)
theorem dX1_picture_112 : decode cX1_picture 112 = .ok (.getfield 243, 3) := dk_180 0 243 (dk_at dksX1_picture_4 21 rfl rfl)
theorem dX1_picture_115 : decode cX1_picture 115 = .ok (.ireturn, 1) := dk_172 (dk_at dksX1_picture_5 0 rfl rfl)
def dkwX1_read_2 : List UInt8 := [162, 0, 15, 42, 180, 0, 31, 180, 1, 16, 27, 46, 167, 0, 5, 16, 253, 172]
abbrev dktX1_read_2 : List UInt8 := dkwX1_read_2 ++ []
def dkwX1_read_1 : List UInt8 := [172, 27, 2, 160, 0, 13, 42, 180, 0, 31, 180, 1, 13, 167, 0, 28, 27, 42, 180, 0, 31, 180, 1, 13]
abbrev dktX1_read_1 : List UInt8 := dkwX1_read_1 ++ dktX1_read_2
def dkwX1_read_0 : List UInt8 := [27, 2, 161, 0, 7, 4, 167, 0, 4, 3, 184, 0, 136, 42, 182, 1, 27, 156, 0, 8, 42, 180, 0, 253]
abbrev dktX1_read_0 : List UInt8 := dkwX1_read_0 ++ dktX1_read_1
theorem dksX1_read_0 : cX1_read.data.toList.drop 0 = dktX1_read_0 := by decide +kernel
theorem dksX1_read_1 : cX1_read.data.toList.drop 24 = dktX1_read_1 := dk_seg dksX1_read_0 24 rfl rfl
theorem dksX1_read_2 : cX1_read.data.toList.drop 48 = dktX1_read_2 := dk_seg dksX1_read_1 24 rfl rfl
theorem dX1_read_0 : decode cX1_read 0 = .ok (.iload_n 1, 1) := dk_27 (dk_at dksX1_read_0 0 rfl rfl)
theorem dX1_read_1 : decode cX1_read 1 = .ok (.iconst (-1), 1) := dk_2 (dk_at dksX1_read_0 1 rfl rfl)
theorem dX1_read_2 : decode cX1_read 2 = .ok (.if_icmp .lt 7, 3) := dk_161 0 7 (dk_at dksX1_read_0 2 rfl rfl)
theorem dX1_read_5 : decode cX1_read 5 = .ok (.iconst 1, 1) := dk_4 (dk_at dksX1_read_0 5 rfl rfl)
theorem dX1_read_6 : decode cX1_read 6 = .ok (.goto 4, 3) := dk_167 0 4 (dk_at dksX1_read_0 6 rfl rfl)
theorem dX1_read_9 : decode cX1_read 9 = .ok (.iconst 0, 1) := dk_3 (dk_at dksX1_read_0 9 rfl rfl)
theorem dX1_read_10 : decode cX1_read 10 = .ok (.invokestatic 136, 3) := dk_184 0 136 (dk_at dksX1_read_0 10 rfl rfl)
theorem dX1_read_13 : decode cX1_read 13 = .ok (.aload_n 0, 1) := dk_42 (dk_at dksX1_read_0 13 rfl rfl)
theorem dX1_read_14 : decode cX1_read 14 = .ok (.invokevirtual 283, 3) := dk_182 1 27 (dk_at dksX1_read_0 14 rfl rfl)
theorem dX1_read_17 : decode cX1_read 17 = .ok (.ifCond .ge 8, 3) := dk_156 0 8 (dk_at dksX1_read_0 17 rfl rfl)
theorem dX1_read_20 : decode cX1_read 20 = .ok (.aload_n 0, 1) := dk_42 (dk_at dksX1_read_0 20 rfl rfl)
theorem dX1_read_21 : decode cX1_read 21 = .ok (.getfield 253, 3) := dk_180 0 253 (dk_at dksX1_read_0 21 rfl rfl)
theorem dX1_read_24 : decode cX1_read 24 = .ok (.ireturn, 1) := dk_172 (dk_at dksX1_read_1 0 rfl rfl)
theorem dX1_read_25 : decode cX1_read 25 = .ok (.iload_n 1, 1) := dk_27 (dk_at dksX1_read_1 1 rfl rfl)
theorem dX1_read_26 : decode cX1_read 26 = .ok (.iconst (-1), 1) := dk_2 (dk_at dksX1_read_1 2 rfl rfl)
theorem dX1_read_27 : decode cX1_read 27 = .ok (.if_icmp .ne 13, 3) := dk_160 0 13 (dk_at dksX1_read_1 3 rfl rfl)
theorem dX1_read_30 : decode cX1_read 30 = .ok (.aload_n 0, 1) := dk_42 (dk_at dksX1_read_1 6 rfl rfl)
theorem dX1_read_31 : decode cX1_read 31 = .ok (.getfield 31, 3) := dk_180 0 31 (dk_at dksX1_read_1 7 rfl rfl)
theorem dX1_read_34 : decode cX1_read 34 = .ok (.getfield 269, 3) := dk_180 1 13 (dk_at dksX1_read_1 10 rfl rfl)
theorem dX1_read_37 : decode cX1_read 37 = .ok (.goto 28, 3) := dk_167 0 28 (dk_at dksX1_read_1 13 rfl rfl)
theorem dX1_read_40 : decode cX1_read 40 = .ok (.iload_n 1, 1) := dk_27 (dk_at dksX1_read_1 16 rfl rfl)
theorem dX1_read_41 : decode cX1_read 41 = .ok (.aload_n 0, 1) := dk_42 (dk_at dksX1_read_1 17 rfl rfl)
theorem dX1_read_42 : decode cX1_read 42 = .ok (.getfield 31, 3) := dk_180 0 31 (dk_at dksX1_read_1 18 rfl rfl)
theorem dX1_read_45 : decode cX1_read 45 = .ok (.getfield 269, 3) := dk_180 1 13 (dk_at dksX1_read_1 21 rfl rfl)
theorem dX1_read_48 : decode cX1_read 48 = .ok (.if_icmp .ge 15, 3) := dk_162 0 15 (dk_at dksX1_read_2 0 rfl rfl)
theorem dX1_read_51 : decode cX1_read 51 = .ok (.aload_n 0, 1) := dk_42 (dk_at dksX1_read_2 3 rfl rfl)
theorem dX1_read_52 : decode cX1_read 52 = .ok (.getfield 31, 3) := dk_180 0 31 (dk_at dksX1_read_2 4 rfl rfl)
theorem dX1_read_55 : decode cX1_read 55 = .ok (.getfield 272, 3) := dk_180 1 16 (dk_at dksX1_read_2 7 rfl rfl)
theorem dX1_read_58 : decode cX1_read 58 = .ok (.iload_n 1, 1) := dk_27 (dk_at dksX1_read_2 10 rfl rfl)
theorem dX1_read_59 : decode cX1_read 59 = .ok (.iaload, 1) := dk_46 (dk_at dksX1_read_2 11 rfl rfl)
theorem dX1_read_60 : decode cX1_read 60 = .ok (.goto 5, 3) := dk_167 0 5 (dk_at dksX1_read_2 12 rfl rfl)
theorem dX1_read_63 : decode cX1_read 63 = .ok (.bipush (-3), 2) := dk_16 253 (dk_at dksX1_read_2 15 rfl rfl)
theorem dX1_read_65 : decode cX1_read 65 = .ok (.ireturn, 1) := dk_172 (dk_at dksX1_read_2 17 rfl rfl)
def dkwX1_readNext_3 : List UInt8 := [27, 46, 167, 0, 5, 16, 253, 172]
abbrev dktX1_readNext_3 : List UInt8 := dkwX1_readNext_3 ++ []
def dkwX1_readNext_2 : List UInt8 := [180, 1, 31, 167, 0, 28, 27, 42, 180, 0, 31, 180, 1, 31, 162, 0, 15, 42, 180, 0, 31, 180, 1, 34]
abbrev dktX1_readNext_2 : List UInt8 := dkwX1_readNext_2 ++ dktX1_readNext_3
def dkwX1_readNext_1 : List UInt8 := [172, 42, 180, 0, 31, 180, 1, 30, 5, 162, 0, 6, 16, 253, 172, 27, 2, 160, 0, 13, 42, 180, 0, 31]
abbrev dktX1_readNext_1 : List UInt8 := dkwX1_readNext_1 ++ dktX1_readNext_2
def dkwX1_readNext_0 : List UInt8 := [27, 2, 161, 0, 7, 4, 167, 0, 4, 3, 184, 0, 136, 42, 182, 1, 27, 156, 0, 8, 42, 180, 0, 253]
abbrev dktX1_readNext_0 : List UInt8 := dkwX1_readNext_0 ++ dktX1_readNext_1
theorem dksX1_readNext_0 : cX1_readNext.data.toList.drop 0 = dktX1_readNext_0 := by decide +kernel
theorem dksX1_readNext_1 : cX1_readNext.data.toList.drop 24 = dktX1_readNext_1 := dk_seg dksX1_readNext_0 24 rfl rfl
theorem dksX1_readNext_2 : cX1_readNext.data.toList.drop 48 = dktX1_readNext_2 := dk_seg dksX1_readNext_1 24 rfl rfl
theorem dksX1_readNext_3 : cX1_readNext.data.toList.drop 72 = dktX1_readNext_3 := dk_seg dksX1_readNext_2 24 rfl rfl
theorem dX1_readNext_0 : decode cX1_readNext 0 = .ok (.iload_n 1, 1) := dk_27 (dk_at dksX1_readNext_0 0 rfl rfl)
theorem dX1_readNext_1 : decode cX1_readNext 1 = .ok (.iconst (-1), 1) := dk_2 (dk_at dksX1_readNext_0 1 rfl rfl)
theorem dX1_readNext_2 : decode cX1_readNext 2 = .ok (.if_icmp .lt 7, 3) := dk_161 0 7 (dk_at dksX1_readNext_0 2 rfl rfl)
theorem dX1_readNext_5 : decode cX1_readNext 5 = .ok (.iconst 1, 1) := dk_4 (dk_at dksX1_readNext_0 5 rfl rfl)
theorem dX1_readNext_6 : decode cX1_readNext 6 = .ok (.goto 4, 3) := dk_167 0 4 (dk_at dksX1_readNext_0 6 rfl rfl)
theorem dX1_readNext_9 : decode cX1_readNext 9 = .ok (.iconst 0, 1) := dk_3 (dk_at dksX1_readNext_0 9 rfl rfl)
theorem dX1_readNext_10 : decode cX1_readNext 10 = .ok (.invokestatic 136, 3) := dk_184 0 136 (dk_at dksX1_readNext_0 10 rfl rfl)
theorem dX1_readNext_13 : decode cX1_readNext 13 = .ok (.aload_n 0, 1) := dk_42 (dk_at dksX1_readNext_0 13 rfl rfl)
theorem dX1_readNext_14 : decode cX1_readNext 14 = .ok (.invokevirtual 283, 3) := dk_182 1 27 (dk_at dksX1_readNext_0 14 rfl rfl)
theorem dX1_readNext_17 : decode cX1_readNext 17 = .ok (.ifCond .ge 8, 3) := dk_156 0 8 (dk_at dksX1_readNext_0 17 rfl rfl)
theorem dX1_readNext_20 : decode cX1_readNext 20 = .ok (.aload_n 0, 1) := dk_42 (dk_at dksX1_readNext_0 20 rfl rfl)
theorem dX1_readNext_21 : decode cX1_readNext 21 = .ok (.getfield 253, 3) := dk_180 0 253 (dk_at dksX1_readNext_0 21 rfl rfl)
theorem dX1_readNext_24 : decode cX1_readNext 24 = .ok (.ireturn, 1) := dk_172 (dk_at dksX1_readNext_1 0 rfl rfl)
theorem dX1_readNext_25 : decode cX1_readNext 25 = .ok (.aload_n 0, 1) := dk_42 (dk_at dksX1_readNext_1 1 rfl rfl)
theorem dX1_readNext_26 : decode cX1_readNext 26 = .ok (.getfield 31, 3) := dk_180 0 31 (dk_at dksX1_readNext_1 2 rfl rfl)
theorem dX1_readNext_29 : decode cX1_readNext 29 = .ok (.getfield 286, 3) := dk_180 1 30 (dk_at dksX1_readNext_1 5 rfl rfl)
theorem dX1_readNext_32 : decode cX1_readNext 32 = .ok (.iconst 2, 1) := dk_5 (dk_at dksX1_readNext_1 8 rfl rfl)
theorem dX1_readNext_33 : decode cX1_readNext 33 = .ok (.if_icmp .ge 6, 3) := dk_162 0 6 (dk_at dksX1_readNext_1 9 rfl rfl)
theorem dX1_readNext_36 : decode cX1_readNext 36 = .ok (.bipush (-3), 2) := dk_16 253 (dk_at dksX1_readNext_1 12 rfl rfl)
theorem dX1_readNext_38 : decode cX1_readNext 38 = .ok (.ireturn, 1) := dk_172 (dk_at dksX1_readNext_1 14 rfl rfl)
theorem dX1_readNext_39 : decode cX1_readNext 39 = .ok (.iload_n 1, 1) := dk_27 (dk_at dksX1_readNext_1 15 rfl rfl)
theorem dX1_readNext_40 : decode cX1_readNext 40 = .ok (.iconst (-1), 1) := dk_2 (dk_at dksX1_readNext_1 16 rfl rfl)
theorem dX1_readNext_41 : decode cX1_readNext 41 = .ok (.if_icmp .ne 13, 3) := dk_160 0 13 (dk_at dksX1_readNext_1 17 rfl rfl)
theorem dX1_readNext_44 : decode cX1_readNext 44 = .ok (.aload_n 0, 1) := dk_42 (dk_at dksX1_readNext_1 20 rfl rfl)
theorem dX1_readNext_45 : decode cX1_readNext 45 = .ok (.getfield 31, 3) := dk_180 0 31 (dk_at dksX1_readNext_1 21 rfl rfl)
theorem dX1_readNext_48 : decode cX1_readNext 48 = .ok (.getfield 287, 3) := dk_180 1 31 (dk_at dksX1_readNext_2 0 rfl rfl)
theorem dX1_readNext_51 : decode cX1_readNext 51 = .ok (.goto 28, 3) := dk_167 0 28 (dk_at dksX1_readNext_2 3 rfl rfl)
theorem dX1_readNext_54 : decode cX1_readNext 54 = .ok (.iload_n 1, 1) := dk_27 (dk_at dksX1_readNext_2 6 rfl rfl)
theorem dX1_readNext_55 : decode cX1_readNext 55 = .ok (.aload_n 0, 1) := dk_42 (dk_at dksX1_readNext_2 7 rfl rfl)
theorem dX1_readNext_56 : decode cX1_readNext 56 = .ok (.getfield 31, 3) := dk_180 0 31 (dk_at dksX1_readNext_2 8 rfl rfl)
theorem dX1_readNext_59 : decode cX1_readNext 59 = .ok (.getfield 287, 3) := dk_180 1 31 (dk_at dksX1_readNext_2 11 rfl rfl)
theorem dX1_readNext_62 : decode cX1_readNext 62 = .ok (.if_icmp .ge 15, 3) := dk_162 0 15 (dk_at dksX1_readNext_2 14 rfl rfl)
theorem dX1_readNext_65 : decode cX1_readNext 65 = .ok (.aload_n 0, 1) := dk_42 (dk_at dksX1_readNext_2 17 rfl rfl)
theorem dX1_readNext_66 : decode cX1_readNext 66 = .ok (.getfield 31, 3) := dk_180 0 31 (dk_at dksX1_readNext_2 18 rfl rfl)
theorem dX1_readNext_69 : decode cX1_readNext 69 = .ok (.getfield 290, 3) := dk_180 1 34 (dk_at dksX1_readNext_2 21 rfl rfl)
theorem dX1_readNext_72 : decode cX1_readNext 72 = .ok (.iload_n 1, 1) := dk_27 (dk_at dksX1_readNext_3 0 rfl rfl)
theorem dX1_readNext_73 : decode cX1_readNext 73 = .ok (.iaload, 1) := dk_46 (dk_at dksX1_readNext_3 1 rfl rfl)
theorem dX1_readNext_74 : decode cX1_readNext 74 = .ok (.goto 5, 3) := dk_167 0 5 (dk_at dksX1_readNext_3 2 rfl rfl)
theorem dX1_readNext_77 : decode cX1_readNext 77 = .ok (.bipush (-3), 2) := dk_16 253 (dk_at dksX1_readNext_3 5 rfl rfl)
theorem dX1_readNext_79 : decode cX1_readNext 79 = .ok (.ireturn, 1) := dk_172 (dk_at dksX1_readNext_3 7 rfl rfl)
def dkwX1_slip_1 : List UInt8 := [27, 50, 28, 46, 172]
abbrev dktX1_slip_1 : List UInt8 := dkwX1_slip_1 ++ []
def dkwX1_slip_0 : List UInt8 := [42, 27, 28, 182, 0, 202, 42, 182, 1, 27, 156, 0, 10, 42, 180, 0, 253, 167, 0, 11, 42, 180, 0, 40]
abbrev dktX1_slip_0 : List UInt8 := dkwX1_slip_0 ++ dktX1_slip_1
theorem dksX1_slip_0 : cX1_slip.data.toList.drop 0 = dktX1_slip_0 := by decide +kernel
theorem dksX1_slip_1 : cX1_slip.data.toList.drop 24 = dktX1_slip_1 := dk_seg dksX1_slip_0 24 rfl rfl
theorem dX1_slip_0 : decode cX1_slip 0 = .ok (.aload_n 0, 1) := dk_42 (dk_at dksX1_slip_0 0 rfl rfl)
theorem dX1_slip_1 : decode cX1_slip 1 = .ok (.iload_n 1, 1) := dk_27 (dk_at dksX1_slip_0 1 rfl rfl)
theorem dX1_slip_2 : decode cX1_slip 2 = .ok (.iload_n 2, 1) := dk_28 (dk_at dksX1_slip_0 2 rfl rfl)
theorem dX1_slip_3 : decode cX1_slip 3 = .ok (.invokevirtual 202, 3) := dk_182 0 202 (dk_at dksX1_slip_0 3 rfl rfl)
theorem dX1_slip_6 : decode cX1_slip 6 = .ok (.aload_n 0, 1) := dk_42 (dk_at dksX1_slip_0 6 rfl rfl)
theorem dX1_slip_7 : decode cX1_slip 7 = .ok (.invokevirtual 283, 3) := dk_182 1 27 (dk_at dksX1_slip_0 7 rfl rfl)
theorem dX1_slip_10 : decode cX1_slip 10 = .ok (.ifCond .ge 10, 3) := dk_156 0 10 (dk_at dksX1_slip_0 10 rfl rfl)
theorem dX1_slip_13 : decode cX1_slip 13 = .ok (.aload_n 0, 1) := dk_42 (dk_at dksX1_slip_0 13 rfl rfl)
theorem dX1_slip_14 : decode cX1_slip 14 = .ok (.getfield 253, 3) := dk_180 0 253 (dk_at dksX1_slip_0 14 rfl rfl)
theorem dX1_slip_17 : decode cX1_slip 17 = .ok (.goto 11, 3) := dk_167 0 11 (dk_at dksX1_slip_0 17 rfl rfl)
theorem dX1_slip_20 : decode cX1_slip 20 = .ok (.aload_n 0, 1) := dk_42 (dk_at dksX1_slip_0 20 rfl rfl)
theorem dX1_slip_21 : decode cX1_slip 21 = .ok (.getfield 40, 3) := dk_180 0 40 (dk_at dksX1_slip_0 21 rfl rfl)
theorem dX1_slip_24 : decode cX1_slip 24 = .ok (.iload_n 1, 1) := dk_27 (dk_at dksX1_slip_1 0 rfl rfl)
theorem dX1_slip_25 : decode cX1_slip 25 = .ok (.aaload, 1) := dk_50 (dk_at dksX1_slip_1 1 rfl rfl)
theorem dX1_slip_26 : decode cX1_slip 26 = .ok (.iload_n 2, 1) := dk_28 (dk_at dksX1_slip_1 2 rfl rfl)
theorem dX1_slip_27 : decode cX1_slip 27 = .ok (.iaload, 1) := dk_46 (dk_at dksX1_slip_1 3 rfl rfl)
theorem dX1_slip_28 : decode cX1_slip 28 = .ok (.ireturn, 1) := dk_172 (dk_at dksX1_slip_1 4 rfl rfl)
def dkwX1_slips_3 : List UInt8 := [54, 4, 132, 5, 1, 167, 255, 221, 21, 4, 172]
abbrev dktX1_slips_3 : List UInt8 := dkwX1_slips_3 ++ []
def dkwX1_slips_2 : List UInt8 := [162, 0, 32, 21, 4, 42, 180, 0, 40, 27, 50, 21, 5, 46, 28, 160, 0, 7, 4, 167, 0, 4, 3, 96]
abbrev dktX1_slips_2 : List UInt8 := dkwX1_slips_2 ++ dktX1_slips_3
def dkwX1_slips_1 : List UInt8 := [16, 6, 160, 0, 10, 42, 180, 0, 52, 27, 46, 172, 3, 54, 4, 3, 54, 5, 21, 5, 45, 180, 0, 107]
abbrev dktX1_slips_1 : List UInt8 := dkwX1_slips_1 ++ dktX1_slips_2
def dkwX1_slips_0 : List UInt8 := [42, 27, 182, 0, 103, 78, 28, 184, 0, 234, 42, 182, 1, 27, 156, 0, 8, 42, 180, 0, 253, 172, 28]
abbrev dktX1_slips_0 : List UInt8 := dkwX1_slips_0 ++ dktX1_slips_1
theorem dksX1_slips_0 : cX1_slips.data.toList.drop 0 = dktX1_slips_0 := by decide +kernel
theorem dksX1_slips_1 : cX1_slips.data.toList.drop 23 = dktX1_slips_1 := dk_seg dksX1_slips_0 23 rfl rfl
theorem dksX1_slips_2 : cX1_slips.data.toList.drop 47 = dktX1_slips_2 := dk_seg dksX1_slips_1 24 rfl rfl
theorem dksX1_slips_3 : cX1_slips.data.toList.drop 71 = dktX1_slips_3 := dk_seg dksX1_slips_2 24 rfl rfl
theorem dX1_slips_0 : decode cX1_slips 0 = .ok (.aload_n 0, 1) := dk_42 (dk_at dksX1_slips_0 0 rfl rfl)
theorem dX1_slips_1 : decode cX1_slips 1 = .ok (.iload_n 1, 1) := dk_27 (dk_at dksX1_slips_0 1 rfl rfl)
theorem dX1_slips_2 : decode cX1_slips 2 = .ok (.invokevirtual 103, 3) := dk_182 0 103 (dk_at dksX1_slips_0 2 rfl rfl)
theorem dX1_slips_5 : decode cX1_slips 5 = .ok (.astore_n 3, 1) := dk_78 (dk_at dksX1_slips_0 5 rfl rfl)
theorem dX1_slips_6 : decode cX1_slips 6 = .ok (.iload_n 2, 1) := dk_28 (dk_at dksX1_slips_0 6 rfl rfl)
theorem dX1_slips_7 : decode cX1_slips 7 = .ok (.invokestatic 234, 3) := dk_184 0 234 (dk_at dksX1_slips_0 7 rfl rfl)
theorem dX1_slips_10 : decode cX1_slips 10 = .ok (.aload_n 0, 1) := dk_42 (dk_at dksX1_slips_0 10 rfl rfl)
theorem dX1_slips_11 : decode cX1_slips 11 = .ok (.invokevirtual 283, 3) := dk_182 1 27 (dk_at dksX1_slips_0 11 rfl rfl)
theorem dX1_slips_14 : decode cX1_slips 14 = .ok (.ifCond .ge 8, 3) := dk_156 0 8 (dk_at dksX1_slips_0 14 rfl rfl)
theorem dX1_slips_17 : decode cX1_slips 17 = .ok (.aload_n 0, 1) := dk_42 (dk_at dksX1_slips_0 17 rfl rfl)
theorem dX1_slips_18 : decode cX1_slips 18 = .ok (.getfield 253, 3) := dk_180 0 253 (dk_at dksX1_slips_0 18 rfl rfl)
theorem dX1_slips_21 : decode cX1_slips 21 = .ok (.ireturn, 1) := dk_172 (dk_at dksX1_slips_0 21 rfl rfl)
theorem dX1_slips_22 : decode cX1_slips 22 = .ok (.iload_n 2, 1) := dk_28 (dk_at dksX1_slips_0 22 rfl rfl)
theorem dX1_slips_23 : decode cX1_slips 23 = .ok (.bipush 6, 2) := dk_16 6 (dk_at dksX1_slips_1 0 rfl rfl)
theorem dX1_slips_25 : decode cX1_slips 25 = .ok (.if_icmp .ne 10, 3) := dk_160 0 10 (dk_at dksX1_slips_1 2 rfl rfl)
theorem dX1_slips_28 : decode cX1_slips 28 = .ok (.aload_n 0, 1) := dk_42 (dk_at dksX1_slips_1 5 rfl rfl)
theorem dX1_slips_29 : decode cX1_slips 29 = .ok (.getfield 52, 3) := dk_180 0 52 (dk_at dksX1_slips_1 6 rfl rfl)
theorem dX1_slips_32 : decode cX1_slips 32 = .ok (.iload_n 1, 1) := dk_27 (dk_at dksX1_slips_1 9 rfl rfl)
theorem dX1_slips_33 : decode cX1_slips 33 = .ok (.iaload, 1) := dk_46 (dk_at dksX1_slips_1 10 rfl rfl)
theorem dX1_slips_34 : decode cX1_slips 34 = .ok (.ireturn, 1) := dk_172 (dk_at dksX1_slips_1 11 rfl rfl)
theorem dX1_slips_35 : decode cX1_slips 35 = .ok (.iconst 0, 1) := dk_3 (dk_at dksX1_slips_1 12 rfl rfl)
theorem dX1_slips_36 : decode cX1_slips 36 = .ok (.istore 4, 2) := dk_54 4 (dk_at dksX1_slips_1 13 rfl rfl)
theorem dX1_slips_38 : decode cX1_slips 38 = .ok (.iconst 0, 1) := dk_3 (dk_at dksX1_slips_1 15 rfl rfl)
theorem dX1_slips_39 : decode cX1_slips 39 = .ok (.istore 5, 2) := dk_54 5 (dk_at dksX1_slips_1 16 rfl rfl)
theorem dX1_slips_41 : decode cX1_slips 41 = .ok (.iload 5, 2) := dk_21 5 (dk_at dksX1_slips_1 18 rfl rfl)
theorem dX1_slips_43 : decode cX1_slips 43 = .ok (.aload_n 3, 1) := dk_45 (dk_at dksX1_slips_1 20 rfl rfl)
theorem dX1_slips_44 : decode cX1_slips 44 = .ok (.getfield 107, 3) := dk_180 0 107 (dk_at dksX1_slips_1 21 rfl rfl)
theorem dX1_slips_47 : decode cX1_slips 47 = .ok (.if_icmp .ge 32, 3) := dk_162 0 32 (dk_at dksX1_slips_2 0 rfl rfl)
theorem dX1_slips_50 : decode cX1_slips 50 = .ok (.iload 4, 2) := dk_21 4 (dk_at dksX1_slips_2 3 rfl rfl)
theorem dX1_slips_52 : decode cX1_slips 52 = .ok (.aload_n 0, 1) := dk_42 (dk_at dksX1_slips_2 5 rfl rfl)
theorem dX1_slips_53 : decode cX1_slips 53 = .ok (.getfield 40, 3) := dk_180 0 40 (dk_at dksX1_slips_2 6 rfl rfl)
theorem dX1_slips_56 : decode cX1_slips 56 = .ok (.iload_n 1, 1) := dk_27 (dk_at dksX1_slips_2 9 rfl rfl)
theorem dX1_slips_57 : decode cX1_slips 57 = .ok (.aaload, 1) := dk_50 (dk_at dksX1_slips_2 10 rfl rfl)
theorem dX1_slips_58 : decode cX1_slips 58 = .ok (.iload 5, 2) := dk_21 5 (dk_at dksX1_slips_2 11 rfl rfl)
theorem dX1_slips_60 : decode cX1_slips 60 = .ok (.iaload, 1) := dk_46 (dk_at dksX1_slips_2 13 rfl rfl)
theorem dX1_slips_61 : decode cX1_slips 61 = .ok (.iload_n 2, 1) := dk_28 (dk_at dksX1_slips_2 14 rfl rfl)
theorem dX1_slips_62 : decode cX1_slips 62 = .ok (.if_icmp .ne 7, 3) := dk_160 0 7 (dk_at dksX1_slips_2 15 rfl rfl)
theorem dX1_slips_65 : decode cX1_slips 65 = .ok (.iconst 1, 1) := dk_4 (dk_at dksX1_slips_2 18 rfl rfl)
theorem dX1_slips_66 : decode cX1_slips 66 = .ok (.goto 4, 3) := dk_167 0 4 (dk_at dksX1_slips_2 19 rfl rfl)
theorem dX1_slips_69 : decode cX1_slips 69 = .ok (.iconst 0, 1) := dk_3 (dk_at dksX1_slips_2 22 rfl rfl)
theorem dX1_slips_70 : decode cX1_slips 70 = .ok (.iadd, 1) := dk_96 (dk_at dksX1_slips_2 23 rfl rfl)
theorem dX1_slips_71 : decode cX1_slips 71 = .ok (.istore 4, 2) := dk_54 4 (dk_at dksX1_slips_3 0 rfl rfl)
theorem dX1_slips_73 : decode cX1_slips 73 = .ok (.iinc 5 1, 3) := dk_132 5 1 (dk_at dksX1_slips_3 2 rfl rfl)
theorem dX1_slips_76 : decode cX1_slips 76 = .ok (.goto (-35), 3) := dk_167 255 221 (dk_at dksX1_slips_3 5 rfl rfl)
theorem dX1_slips_79 : decode cX1_slips 79 = .ok (.iload 4, 2) := dk_21 4 (dk_at dksX1_slips_3 8 rfl rfl)
theorem dX1_slips_81 : decode cX1_slips 81 = .ok (.ireturn, 1) := dk_172 (dk_at dksX1_slips_3 10 rfl rfl)
def dkwX1_breaks_1 : List UInt8 := [16, 253, 167, 0, 4, 29, 172]
abbrev dktX1_breaks_1 : List UInt8 := dkwX1_breaks_1 ++ []
def dkwX1_breaks_0 : List UInt8 := [42, 27, 182, 0, 103, 77, 42, 180, 0, 35, 27, 182, 1, 37, 62, 29, 44, 180, 0, 107, 160, 0, 8]
abbrev dktX1_breaks_0 : List UInt8 := dkwX1_breaks_0 ++ dktX1_breaks_1
theorem dksX1_breaks_0 : cX1_breaks.data.toList.drop 0 = dktX1_breaks_0 := by decide +kernel
theorem dksX1_breaks_1 : cX1_breaks.data.toList.drop 23 = dktX1_breaks_1 := dk_seg dksX1_breaks_0 23 rfl rfl
theorem dX1_breaks_0 : decode cX1_breaks 0 = .ok (.aload_n 0, 1) := dk_42 (dk_at dksX1_breaks_0 0 rfl rfl)
theorem dX1_breaks_1 : decode cX1_breaks 1 = .ok (.iload_n 1, 1) := dk_27 (dk_at dksX1_breaks_0 1 rfl rfl)
theorem dX1_breaks_2 : decode cX1_breaks 2 = .ok (.invokevirtual 103, 3) := dk_182 0 103 (dk_at dksX1_breaks_0 2 rfl rfl)
theorem dX1_breaks_5 : decode cX1_breaks 5 = .ok (.astore_n 2, 1) := dk_77 (dk_at dksX1_breaks_0 5 rfl rfl)
theorem dX1_breaks_6 : decode cX1_breaks 6 = .ok (.aload_n 0, 1) := dk_42 (dk_at dksX1_breaks_0 6 rfl rfl)
theorem dX1_breaks_7 : decode cX1_breaks 7 = .ok (.getfield 35, 3) := dk_180 0 35 (dk_at dksX1_breaks_0 7 rfl rfl)
theorem dX1_breaks_10 : decode cX1_breaks 10 = .ok (.iload_n 1, 1) := dk_27 (dk_at dksX1_breaks_0 10 rfl rfl)
theorem dX1_breaks_11 : decode cX1_breaks 11 = .ok (.invokevirtual 293, 3) := dk_182 1 37 (dk_at dksX1_breaks_0 11 rfl rfl)
theorem dX1_breaks_14 : decode cX1_breaks 14 = .ok (.istore_n 3, 1) := dk_62 (dk_at dksX1_breaks_0 14 rfl rfl)
theorem dX1_breaks_15 : decode cX1_breaks 15 = .ok (.iload_n 3, 1) := dk_29 (dk_at dksX1_breaks_0 15 rfl rfl)
theorem dX1_breaks_16 : decode cX1_breaks 16 = .ok (.aload_n 2, 1) := dk_44 (dk_at dksX1_breaks_0 16 rfl rfl)
theorem dX1_breaks_17 : decode cX1_breaks 17 = .ok (.getfield 107, 3) := dk_180 0 107 (dk_at dksX1_breaks_0 17 rfl rfl)
theorem dX1_breaks_20 : decode cX1_breaks 20 = .ok (.if_icmp .ne 8, 3) := dk_160 0 8 (dk_at dksX1_breaks_0 20 rfl rfl)
theorem dX1_breaks_23 : decode cX1_breaks 23 = .ok (.bipush (-3), 2) := dk_16 253 (dk_at dksX1_breaks_1 0 rfl rfl)
theorem dX1_breaks_25 : decode cX1_breaks 25 = .ok (.goto 4, 3) := dk_167 0 4 (dk_at dksX1_breaks_1 2 rfl rfl)
theorem dX1_breaks_28 : decode cX1_breaks 28 = .ok (.iload_n 3, 1) := dk_29 (dk_at dksX1_breaks_1 5 rfl rfl)
theorem dX1_breaks_29 : decode cX1_breaks 29 = .ok (.ireturn, 1) := dk_172 (dk_at dksX1_breaks_1 6 rfl rfl)
def dkwX1_brief_8 : List UInt8 := [132, 5, 1, 167, 255, 187, 21, 4, 172]
abbrev dktX1_brief_8 : List UInt8 := dkwX1_brief_8 ++ []
def dkwX1_brief_7 : List UInt8 := [180, 0, 65, 180, 0, 169, 29, 16, 36, 108, 46, 160, 0, 7, 4, 167, 0, 4, 3, 96, 54, 4]
abbrev dktX1_brief_7 : List UInt8 := dkwX1_brief_7 ++ dktX1_brief_8
def dkwX1_brief_6 : List UInt8 := [160, 0, 40, 42, 180, 0, 65, 180, 0, 169, 42, 180, 0, 59, 21, 5, 46, 16, 36, 108, 46, 42]
abbrev dktX1_brief_6 : List UInt8 := dkwX1_brief_6 ++ dktX1_brief_7
def dkwX1_brief_5 : List UInt8 := [21, 5, 28, 162, 0, 69, 21, 4, 42, 180, 0, 59, 21, 5, 46, 16, 36, 112, 29, 16, 36, 112]
abbrev dktX1_brief_5 : List UInt8 := dkwX1_brief_5 ++ dktX1_brief_6
def dkwX1_brief_4 : List UInt8 := [180, 0, 59, 182, 0, 178, 61, 42, 180, 0, 31, 180, 1, 16, 27, 46, 62, 3, 54, 4, 3, 54, 5]
abbrev dktX1_brief_4 : List UInt8 := dkwX1_brief_4 ++ dktX1_brief_5
def dkwX1_brief_3 : List UInt8 := [28, 46, 182, 0, 231, 87, 132, 2, 1, 167, 255, 231, 42, 180, 0, 35, 42, 180, 0, 65, 27, 5, 112, 42]
abbrev dktX1_brief_3 : List UInt8 := dkwX1_brief_3 ++ dktX1_brief_4
def dkwX1_brief_2 : List UInt8 := [180, 0, 166, 182, 0, 224, 3, 61, 28, 27, 162, 0, 26, 42, 180, 0, 65, 42, 180, 0, 31, 180, 1, 16]
abbrev dktX1_brief_2 : List UInt8 := dkwX1_brief_2 ++ dktX1_brief_3
def dkwX1_brief_1 : List UInt8 := [27, 42, 180, 0, 31, 180, 1, 13, 161, 0, 6, 16, 253, 172, 42, 180, 0, 65, 42, 180, 0, 19]
abbrev dktX1_brief_1 : List UInt8 := dkwX1_brief_1 ++ dktX1_brief_2
def dkwX1_brief_0 : List UInt8 := [27, 155, 0, 7, 4, 167, 0, 4, 3, 184, 0, 136, 42, 182, 1, 27, 156, 0, 8, 42, 180, 0, 253, 172]
abbrev dktX1_brief_0 : List UInt8 := dkwX1_brief_0 ++ dktX1_brief_1
theorem dksX1_brief_0 : cX1_brief.data.toList.drop 0 = dktX1_brief_0 := by decide +kernel
theorem dksX1_brief_1 : cX1_brief.data.toList.drop 24 = dktX1_brief_1 := dk_seg dksX1_brief_0 24 rfl rfl
theorem dksX1_brief_2 : cX1_brief.data.toList.drop 46 = dktX1_brief_2 := dk_seg dksX1_brief_1 22 rfl rfl
theorem dksX1_brief_3 : cX1_brief.data.toList.drop 70 = dktX1_brief_3 := dk_seg dksX1_brief_2 24 rfl rfl
theorem dksX1_brief_4 : cX1_brief.data.toList.drop 94 = dktX1_brief_4 := dk_seg dksX1_brief_3 24 rfl rfl
theorem dksX1_brief_5 : cX1_brief.data.toList.drop 117 = dktX1_brief_5 := dk_seg dksX1_brief_4 23 rfl rfl
theorem dksX1_brief_6 : cX1_brief.data.toList.drop 139 = dktX1_brief_6 := dk_seg dksX1_brief_5 22 rfl rfl
theorem dksX1_brief_7 : cX1_brief.data.toList.drop 161 = dktX1_brief_7 := dk_seg dksX1_brief_6 22 rfl rfl
theorem dksX1_brief_8 : cX1_brief.data.toList.drop 183 = dktX1_brief_8 := dk_seg dksX1_brief_7 22 rfl rfl
theorem dX1_brief_0 : decode cX1_brief 0 = .ok (.iload_n 1, 1) := dk_27 (dk_at dksX1_brief_0 0 rfl rfl)
theorem dX1_brief_1 : decode cX1_brief 1 = .ok (.ifCond .lt 7, 3) := dk_155 0 7 (dk_at dksX1_brief_0 1 rfl rfl)
theorem dX1_brief_4 : decode cX1_brief 4 = .ok (.iconst 1, 1) := dk_4 (dk_at dksX1_brief_0 4 rfl rfl)
theorem dX1_brief_5 : decode cX1_brief 5 = .ok (.goto 4, 3) := dk_167 0 4 (dk_at dksX1_brief_0 5 rfl rfl)
theorem dX1_brief_8 : decode cX1_brief 8 = .ok (.iconst 0, 1) := dk_3 (dk_at dksX1_brief_0 8 rfl rfl)
theorem dX1_brief_9 : decode cX1_brief 9 = .ok (.invokestatic 136, 3) := dk_184 0 136 (dk_at dksX1_brief_0 9 rfl rfl)
theorem dX1_brief_12 : decode cX1_brief 12 = .ok (.aload_n 0, 1) := dk_42 (dk_at dksX1_brief_0 12 rfl rfl)
theorem dX1_brief_13 : decode cX1_brief 13 = .ok (.invokevirtual 283, 3) := dk_182 1 27 (dk_at dksX1_brief_0 13 rfl rfl)
theorem dX1_brief_16 : decode cX1_brief 16 = .ok (.ifCond .ge 8, 3) := dk_156 0 8 (dk_at dksX1_brief_0 16 rfl rfl)
theorem dX1_brief_19 : decode cX1_brief 19 = .ok (.aload_n 0, 1) := dk_42 (dk_at dksX1_brief_0 19 rfl rfl)
theorem dX1_brief_20 : decode cX1_brief 20 = .ok (.getfield 253, 3) := dk_180 0 253 (dk_at dksX1_brief_0 20 rfl rfl)
theorem dX1_brief_23 : decode cX1_brief 23 = .ok (.ireturn, 1) := dk_172 (dk_at dksX1_brief_0 23 rfl rfl)
theorem dX1_brief_24 : decode cX1_brief 24 = .ok (.iload_n 1, 1) := dk_27 (dk_at dksX1_brief_1 0 rfl rfl)
theorem dX1_brief_25 : decode cX1_brief 25 = .ok (.aload_n 0, 1) := dk_42 (dk_at dksX1_brief_1 1 rfl rfl)
theorem dX1_brief_26 : decode cX1_brief 26 = .ok (.getfield 31, 3) := dk_180 0 31 (dk_at dksX1_brief_1 2 rfl rfl)
theorem dX1_brief_29 : decode cX1_brief 29 = .ok (.getfield 269, 3) := dk_180 1 13 (dk_at dksX1_brief_1 5 rfl rfl)
theorem dX1_brief_32 : decode cX1_brief 32 = .ok (.if_icmp .lt 6, 3) := dk_161 0 6 (dk_at dksX1_brief_1 8 rfl rfl)
theorem dX1_brief_35 : decode cX1_brief 35 = .ok (.bipush (-3), 2) := dk_16 253 (dk_at dksX1_brief_1 11 rfl rfl)
theorem dX1_brief_37 : decode cX1_brief 37 = .ok (.ireturn, 1) := dk_172 (dk_at dksX1_brief_1 13 rfl rfl)
theorem dX1_brief_38 : decode cX1_brief 38 = .ok (.aload_n 0, 1) := dk_42 (dk_at dksX1_brief_1 14 rfl rfl)
theorem dX1_brief_39 : decode cX1_brief 39 = .ok (.getfield 65, 3) := dk_180 0 65 (dk_at dksX1_brief_1 15 rfl rfl)
theorem dX1_brief_42 : decode cX1_brief 42 = .ok (.aload_n 0, 1) := dk_42 (dk_at dksX1_brief_1 18 rfl rfl)
theorem dX1_brief_43 : decode cX1_brief 43 = .ok (.getfield 19, 3) := dk_180 0 19 (dk_at dksX1_brief_1 19 rfl rfl)
theorem dX1_brief_46 : decode cX1_brief 46 = .ok (.getfield 166, 3) := dk_180 0 166 (dk_at dksX1_brief_2 0 rfl rfl)
theorem dX1_brief_49 : decode cX1_brief 49 = .ok (.invokevirtual 224, 3) := dk_182 0 224 (dk_at dksX1_brief_2 3 rfl rfl)
theorem dX1_brief_52 : decode cX1_brief 52 = .ok (.iconst 0, 1) := dk_3 (dk_at dksX1_brief_2 6 rfl rfl)
theorem dX1_brief_53 : decode cX1_brief 53 = .ok (.istore_n 2, 1) := dk_61 (dk_at dksX1_brief_2 7 rfl rfl)
theorem dX1_brief_54 : decode cX1_brief 54 = .ok (.iload_n 2, 1) := dk_28 (dk_at dksX1_brief_2 8 rfl rfl)
theorem dX1_brief_55 : decode cX1_brief 55 = .ok (.iload_n 1, 1) := dk_27 (dk_at dksX1_brief_2 9 rfl rfl)
theorem dX1_brief_56 : decode cX1_brief 56 = .ok (.if_icmp .ge 26, 3) := dk_162 0 26 (dk_at dksX1_brief_2 10 rfl rfl)
theorem dX1_brief_59 : decode cX1_brief 59 = .ok (.aload_n 0, 1) := dk_42 (dk_at dksX1_brief_2 13 rfl rfl)
theorem dX1_brief_60 : decode cX1_brief 60 = .ok (.getfield 65, 3) := dk_180 0 65 (dk_at dksX1_brief_2 14 rfl rfl)
theorem dX1_brief_63 : decode cX1_brief 63 = .ok (.aload_n 0, 1) := dk_42 (dk_at dksX1_brief_2 17 rfl rfl)
theorem dX1_brief_64 : decode cX1_brief 64 = .ok (.getfield 31, 3) := dk_180 0 31 (dk_at dksX1_brief_2 18 rfl rfl)
theorem dX1_brief_67 : decode cX1_brief 67 = .ok (.getfield 272, 3) := dk_180 1 16 (dk_at dksX1_brief_2 21 rfl rfl)
theorem dX1_brief_70 : decode cX1_brief 70 = .ok (.iload_n 2, 1) := dk_28 (dk_at dksX1_brief_3 0 rfl rfl)
theorem dX1_brief_71 : decode cX1_brief 71 = .ok (.iaload, 1) := dk_46 (dk_at dksX1_brief_3 1 rfl rfl)
theorem dX1_brief_72 : decode cX1_brief 72 = .ok (.invokevirtual 231, 3) := dk_182 0 231 (dk_at dksX1_brief_3 2 rfl rfl)
theorem dX1_brief_75 : decode cX1_brief 75 = .ok (.pop, 1) := dk_87 (dk_at dksX1_brief_3 5 rfl rfl)
theorem dX1_brief_76 : decode cX1_brief 76 = .ok (.iinc 2 1, 3) := dk_132 2 1 (dk_at dksX1_brief_3 6 rfl rfl)
theorem dX1_brief_79 : decode cX1_brief 79 = .ok (.goto (-25), 3) := dk_167 255 231 (dk_at dksX1_brief_3 9 rfl rfl)
theorem dX1_brief_82 : decode cX1_brief 82 = .ok (.aload_n 0, 1) := dk_42 (dk_at dksX1_brief_3 12 rfl rfl)
theorem dX1_brief_83 : decode cX1_brief 83 = .ok (.getfield 35, 3) := dk_180 0 35 (dk_at dksX1_brief_3 13 rfl rfl)
theorem dX1_brief_86 : decode cX1_brief 86 = .ok (.aload_n 0, 1) := dk_42 (dk_at dksX1_brief_3 16 rfl rfl)
theorem dX1_brief_87 : decode cX1_brief 87 = .ok (.getfield 65, 3) := dk_180 0 65 (dk_at dksX1_brief_3 17 rfl rfl)
theorem dX1_brief_90 : decode cX1_brief 90 = .ok (.iload_n 1, 1) := dk_27 (dk_at dksX1_brief_3 20 rfl rfl)
theorem dX1_brief_91 : decode cX1_brief 91 = .ok (.iconst 2, 1) := dk_5 (dk_at dksX1_brief_3 21 rfl rfl)
theorem dX1_brief_92 : decode cX1_brief 92 = .ok (.irem, 1) := dk_112 (dk_at dksX1_brief_3 22 rfl rfl)
theorem dX1_brief_93 : decode cX1_brief 93 = .ok (.aload_n 0, 1) := dk_42 (dk_at dksX1_brief_3 23 rfl rfl)
theorem dX1_brief_94 : decode cX1_brief 94 = .ok (.getfield 59, 3) := dk_180 0 59 (dk_at dksX1_brief_4 0 rfl rfl)
theorem dX1_brief_97 : decode cX1_brief 97 = .ok (.invokevirtual 178, 3) := dk_182 0 178 (dk_at dksX1_brief_4 3 rfl rfl)
theorem dX1_brief_100 : decode cX1_brief 100 = .ok (.istore_n 2, 1) := dk_61 (dk_at dksX1_brief_4 6 rfl rfl)
theorem dX1_brief_101 : decode cX1_brief 101 = .ok (.aload_n 0, 1) := dk_42 (dk_at dksX1_brief_4 7 rfl rfl)
theorem dX1_brief_102 : decode cX1_brief 102 = .ok (.getfield 31, 3) := dk_180 0 31 (dk_at dksX1_brief_4 8 rfl rfl)
theorem dX1_brief_105 : decode cX1_brief 105 = .ok (.getfield 272, 3) := dk_180 1 16 (dk_at dksX1_brief_4 11 rfl rfl)
theorem dX1_brief_108 : decode cX1_brief 108 = .ok (.iload_n 1, 1) := dk_27 (dk_at dksX1_brief_4 14 rfl rfl)
theorem dX1_brief_109 : decode cX1_brief 109 = .ok (.iaload, 1) := dk_46 (dk_at dksX1_brief_4 15 rfl rfl)
theorem dX1_brief_110 : decode cX1_brief 110 = .ok (.istore_n 3, 1) := dk_62 (dk_at dksX1_brief_4 16 rfl rfl)
theorem dX1_brief_111 : decode cX1_brief 111 = .ok (.iconst 0, 1) := dk_3 (dk_at dksX1_brief_4 17 rfl rfl)
theorem dX1_brief_112 : decode cX1_brief 112 = .ok (.istore 4, 2) := dk_54 4 (dk_at dksX1_brief_4 18 rfl rfl)
theorem dX1_brief_114 : decode cX1_brief 114 = .ok (.iconst 0, 1) := dk_3 (dk_at dksX1_brief_4 20 rfl rfl)
theorem dX1_brief_115 : decode cX1_brief 115 = .ok (.istore 5, 2) := dk_54 5 (dk_at dksX1_brief_4 21 rfl rfl)
theorem dX1_brief_117 : decode cX1_brief 117 = .ok (.iload 5, 2) := dk_21 5 (dk_at dksX1_brief_5 0 rfl rfl)
theorem dX1_brief_119 : decode cX1_brief 119 = .ok (.iload_n 2, 1) := dk_28 (dk_at dksX1_brief_5 2 rfl rfl)
theorem dX1_brief_120 : decode cX1_brief 120 = .ok (.if_icmp .ge 69, 3) := dk_162 0 69 (dk_at dksX1_brief_5 3 rfl rfl)
theorem dX1_brief_123 : decode cX1_brief 123 = .ok (.iload 4, 2) := dk_21 4 (dk_at dksX1_brief_5 6 rfl rfl)
theorem dX1_brief_125 : decode cX1_brief 125 = .ok (.aload_n 0, 1) := dk_42 (dk_at dksX1_brief_5 8 rfl rfl)
theorem dX1_brief_126 : decode cX1_brief 126 = .ok (.getfield 59, 3) := dk_180 0 59 (dk_at dksX1_brief_5 9 rfl rfl)
theorem dX1_brief_129 : decode cX1_brief 129 = .ok (.iload 5, 2) := dk_21 5 (dk_at dksX1_brief_5 12 rfl rfl)
theorem dX1_brief_131 : decode cX1_brief 131 = .ok (.iaload, 1) := dk_46 (dk_at dksX1_brief_5 14 rfl rfl)
theorem dX1_brief_132 : decode cX1_brief 132 = .ok (.bipush 36, 2) := dk_16 36 (dk_at dksX1_brief_5 15 rfl rfl)
theorem dX1_brief_134 : decode cX1_brief 134 = .ok (.irem, 1) := dk_112 (dk_at dksX1_brief_5 17 rfl rfl)
theorem dX1_brief_135 : decode cX1_brief 135 = .ok (.iload_n 3, 1) := dk_29 (dk_at dksX1_brief_5 18 rfl rfl)
theorem dX1_brief_136 : decode cX1_brief 136 = .ok (.bipush 36, 2) := dk_16 36 (dk_at dksX1_brief_5 19 rfl rfl)
theorem dX1_brief_138 : decode cX1_brief 138 = .ok (.irem, 1) := dk_112 (dk_at dksX1_brief_5 21 rfl rfl)
theorem dX1_brief_139 : decode cX1_brief 139 = .ok (.if_icmp .ne 40, 3) := dk_160 0 40 (dk_at dksX1_brief_6 0 rfl rfl)
theorem dX1_brief_142 : decode cX1_brief 142 = .ok (.aload_n 0, 1) := dk_42 (dk_at dksX1_brief_6 3 rfl rfl)
theorem dX1_brief_143 : decode cX1_brief 143 = .ok (.getfield 65, 3) := dk_180 0 65 (dk_at dksX1_brief_6 4 rfl rfl)
theorem dX1_brief_146 : decode cX1_brief 146 = .ok (.getfield 169, 3) := dk_180 0 169 (dk_at dksX1_brief_6 7 rfl rfl)
theorem dX1_brief_149 : decode cX1_brief 149 = .ok (.aload_n 0, 1) := dk_42 (dk_at dksX1_brief_6 10 rfl rfl)
theorem dX1_brief_150 : decode cX1_brief 150 = .ok (.getfield 59, 3) := dk_180 0 59 (dk_at dksX1_brief_6 11 rfl rfl)
theorem dX1_brief_153 : decode cX1_brief 153 = .ok (.iload 5, 2) := dk_21 5 (dk_at dksX1_brief_6 14 rfl rfl)
theorem dX1_brief_155 : decode cX1_brief 155 = .ok (.iaload, 1) := dk_46 (dk_at dksX1_brief_6 16 rfl rfl)
theorem dX1_brief_156 : decode cX1_brief 156 = .ok (.bipush 36, 2) := dk_16 36 (dk_at dksX1_brief_6 17 rfl rfl)
theorem dX1_brief_158 : decode cX1_brief 158 = .ok (.idiv, 1) := dk_108 (dk_at dksX1_brief_6 19 rfl rfl)
theorem dX1_brief_159 : decode cX1_brief 159 = .ok (.iaload, 1) := dk_46 (dk_at dksX1_brief_6 20 rfl rfl)
theorem dX1_brief_160 : decode cX1_brief 160 = .ok (.aload_n 0, 1) := dk_42 (dk_at dksX1_brief_6 21 rfl rfl)
theorem dX1_brief_161 : decode cX1_brief 161 = .ok (.getfield 65, 3) := dk_180 0 65 (dk_at dksX1_brief_7 0 rfl rfl)
theorem dX1_brief_164 : decode cX1_brief 164 = .ok (.getfield 169, 3) := dk_180 0 169 (dk_at dksX1_brief_7 3 rfl rfl)
theorem dX1_brief_167 : decode cX1_brief 167 = .ok (.iload_n 3, 1) := dk_29 (dk_at dksX1_brief_7 6 rfl rfl)
theorem dX1_brief_168 : decode cX1_brief 168 = .ok (.bipush 36, 2) := dk_16 36 (dk_at dksX1_brief_7 7 rfl rfl)
theorem dX1_brief_170 : decode cX1_brief 170 = .ok (.idiv, 1) := dk_108 (dk_at dksX1_brief_7 9 rfl rfl)
theorem dX1_brief_171 : decode cX1_brief 171 = .ok (.iaload, 1) := dk_46 (dk_at dksX1_brief_7 10 rfl rfl)
theorem dX1_brief_172 : decode cX1_brief 172 = .ok (.if_icmp .ne 7, 3) := dk_160 0 7 (dk_at dksX1_brief_7 11 rfl rfl)
theorem dX1_brief_175 : decode cX1_brief 175 = .ok (.iconst 1, 1) := dk_4 (dk_at dksX1_brief_7 14 rfl rfl)
theorem dX1_brief_176 : decode cX1_brief 176 = .ok (.goto 4, 3) := dk_167 0 4 (dk_at dksX1_brief_7 15 rfl rfl)
theorem dX1_brief_179 : decode cX1_brief 179 = .ok (.iconst 0, 1) := dk_3 (dk_at dksX1_brief_7 18 rfl rfl)
theorem dX1_brief_180 : decode cX1_brief 180 = .ok (.iadd, 1) := dk_96 (dk_at dksX1_brief_7 19 rfl rfl)
theorem dX1_brief_181 : decode cX1_brief 181 = .ok (.istore 4, 2) := dk_54 4 (dk_at dksX1_brief_7 20 rfl rfl)
theorem dX1_brief_183 : decode cX1_brief 183 = .ok (.iinc 5 1, 3) := dk_132 5 1 (dk_at dksX1_brief_8 0 rfl rfl)
theorem dX1_brief_186 : decode cX1_brief 186 = .ok (.goto (-69), 3) := dk_167 255 187 (dk_at dksX1_brief_8 3 rfl rfl)
theorem dX1_brief_189 : decode cX1_brief 189 = .ok (.iload 4, 2) := dk_21 4 (dk_at dksX1_brief_8 6 rfl rfl)
theorem dX1_brief_191 : decode cX1_brief 191 = .ok (.ireturn, 1) := dk_172 (dk_at dksX1_brief_8 8 rfl rfl)
def dkwX1_best_3 : List UInt8 := [162, 0, 15, 42, 180, 0, 35, 180, 1, 46, 27, 46, 167, 0, 5, 16, 253, 172]
abbrev dktX1_best_3 : List UInt8 := dkwX1_best_3 ++ []
def dkwX1_best_2 : List UInt8 := [172, 27, 2, 160, 0, 13, 42, 180, 0, 35, 180, 1, 40, 167, 0, 28, 27, 42, 180, 0, 35, 180, 1, 43]
abbrev dktX1_best_2 : List UInt8 := dkwX1_best_2 ++ dktX1_best_3
def dkwX1_best_1 : List UInt8 := [180, 0, 35, 42, 182, 1, 3, 182, 1, 6, 61, 42, 180, 0, 35, 3, 181, 1, 0, 28, 156, 0, 5, 28]
abbrev dktX1_best_1 : List UInt8 := dkwX1_best_1 ++ dktX1_best_2
def dkwX1_best_0 : List UInt8 := [27, 2, 161, 0, 7, 4, 167, 0, 4, 3, 184, 0, 136, 42, 180, 0, 35, 4, 181, 1, 0, 42]
abbrev dktX1_best_0 : List UInt8 := dkwX1_best_0 ++ dktX1_best_1
theorem dksX1_best_0 : cX1_best.data.toList.drop 0 = dktX1_best_0 := by decide +kernel
theorem dksX1_best_1 : cX1_best.data.toList.drop 22 = dktX1_best_1 := dk_seg dksX1_best_0 22 rfl rfl
theorem dksX1_best_2 : cX1_best.data.toList.drop 46 = dktX1_best_2 := dk_seg dksX1_best_1 24 rfl rfl
theorem dksX1_best_3 : cX1_best.data.toList.drop 70 = dktX1_best_3 := dk_seg dksX1_best_2 24 rfl rfl
theorem dX1_best_0 : decode cX1_best 0 = .ok (.iload_n 1, 1) := dk_27 (dk_at dksX1_best_0 0 rfl rfl)
theorem dX1_best_1 : decode cX1_best 1 = .ok (.iconst (-1), 1) := dk_2 (dk_at dksX1_best_0 1 rfl rfl)
theorem dX1_best_2 : decode cX1_best 2 = .ok (.if_icmp .lt 7, 3) := dk_161 0 7 (dk_at dksX1_best_0 2 rfl rfl)
theorem dX1_best_5 : decode cX1_best 5 = .ok (.iconst 1, 1) := dk_4 (dk_at dksX1_best_0 5 rfl rfl)
theorem dX1_best_6 : decode cX1_best 6 = .ok (.goto 4, 3) := dk_167 0 4 (dk_at dksX1_best_0 6 rfl rfl)
theorem dX1_best_9 : decode cX1_best 9 = .ok (.iconst 0, 1) := dk_3 (dk_at dksX1_best_0 9 rfl rfl)
theorem dX1_best_10 : decode cX1_best 10 = .ok (.invokestatic 136, 3) := dk_184 0 136 (dk_at dksX1_best_0 10 rfl rfl)
theorem dX1_best_13 : decode cX1_best 13 = .ok (.aload_n 0, 1) := dk_42 (dk_at dksX1_best_0 13 rfl rfl)
theorem dX1_best_14 : decode cX1_best 14 = .ok (.getfield 35, 3) := dk_180 0 35 (dk_at dksX1_best_0 14 rfl rfl)
theorem dX1_best_17 : decode cX1_best 17 = .ok (.iconst 1, 1) := dk_4 (dk_at dksX1_best_0 17 rfl rfl)
theorem dX1_best_18 : decode cX1_best 18 = .ok (.putfield 256, 3) := dk_181 1 0 (dk_at dksX1_best_0 18 rfl rfl)
theorem dX1_best_21 : decode cX1_best 21 = .ok (.aload_n 0, 1) := dk_42 (dk_at dksX1_best_0 21 rfl rfl)
theorem dX1_best_22 : decode cX1_best 22 = .ok (.getfield 35, 3) := dk_180 0 35 (dk_at dksX1_best_1 0 rfl rfl)
theorem dX1_best_25 : decode cX1_best 25 = .ok (.aload_n 0, 1) := dk_42 (dk_at dksX1_best_1 3 rfl rfl)
theorem dX1_best_26 : decode cX1_best 26 = .ok (.invokevirtual 259, 3) := dk_182 1 3 (dk_at dksX1_best_1 4 rfl rfl)
theorem dX1_best_29 : decode cX1_best 29 = .ok (.invokevirtual 262, 3) := dk_182 1 6 (dk_at dksX1_best_1 7 rfl rfl)
theorem dX1_best_32 : decode cX1_best 32 = .ok (.istore_n 2, 1) := dk_61 (dk_at dksX1_best_1 10 rfl rfl)
theorem dX1_best_33 : decode cX1_best 33 = .ok (.aload_n 0, 1) := dk_42 (dk_at dksX1_best_1 11 rfl rfl)
theorem dX1_best_34 : decode cX1_best 34 = .ok (.getfield 35, 3) := dk_180 0 35 (dk_at dksX1_best_1 12 rfl rfl)
theorem dX1_best_37 : decode cX1_best 37 = .ok (.iconst 0, 1) := dk_3 (dk_at dksX1_best_1 15 rfl rfl)
theorem dX1_best_38 : decode cX1_best 38 = .ok (.putfield 256, 3) := dk_181 1 0 (dk_at dksX1_best_1 16 rfl rfl)
theorem dX1_best_41 : decode cX1_best 41 = .ok (.iload_n 2, 1) := dk_28 (dk_at dksX1_best_1 19 rfl rfl)
theorem dX1_best_42 : decode cX1_best 42 = .ok (.ifCond .ge 5, 3) := dk_156 0 5 (dk_at dksX1_best_1 20 rfl rfl)
theorem dX1_best_45 : decode cX1_best 45 = .ok (.iload_n 2, 1) := dk_28 (dk_at dksX1_best_1 23 rfl rfl)
theorem dX1_best_46 : decode cX1_best 46 = .ok (.ireturn, 1) := dk_172 (dk_at dksX1_best_2 0 rfl rfl)
theorem dX1_best_47 : decode cX1_best 47 = .ok (.iload_n 1, 1) := dk_27 (dk_at dksX1_best_2 1 rfl rfl)
theorem dX1_best_48 : decode cX1_best 48 = .ok (.iconst (-1), 1) := dk_2 (dk_at dksX1_best_2 2 rfl rfl)
theorem dX1_best_49 : decode cX1_best 49 = .ok (.if_icmp .ne 13, 3) := dk_160 0 13 (dk_at dksX1_best_2 3 rfl rfl)
theorem dX1_best_52 : decode cX1_best 52 = .ok (.aload_n 0, 1) := dk_42 (dk_at dksX1_best_2 6 rfl rfl)
theorem dX1_best_53 : decode cX1_best 53 = .ok (.getfield 35, 3) := dk_180 0 35 (dk_at dksX1_best_2 7 rfl rfl)
theorem dX1_best_56 : decode cX1_best 56 = .ok (.getfield 296, 3) := dk_180 1 40 (dk_at dksX1_best_2 10 rfl rfl)
theorem dX1_best_59 : decode cX1_best 59 = .ok (.goto 28, 3) := dk_167 0 28 (dk_at dksX1_best_2 13 rfl rfl)
theorem dX1_best_62 : decode cX1_best 62 = .ok (.iload_n 1, 1) := dk_27 (dk_at dksX1_best_2 16 rfl rfl)
theorem dX1_best_63 : decode cX1_best 63 = .ok (.aload_n 0, 1) := dk_42 (dk_at dksX1_best_2 17 rfl rfl)
theorem dX1_best_64 : decode cX1_best 64 = .ok (.getfield 35, 3) := dk_180 0 35 (dk_at dksX1_best_2 18 rfl rfl)
theorem dX1_best_67 : decode cX1_best 67 = .ok (.getfield 299, 3) := dk_180 1 43 (dk_at dksX1_best_2 21 rfl rfl)
theorem dX1_best_70 : decode cX1_best 70 = .ok (.if_icmp .ge 15, 3) := dk_162 0 15 (dk_at dksX1_best_3 0 rfl rfl)
theorem dX1_best_73 : decode cX1_best 73 = .ok (.aload_n 0, 1) := dk_42 (dk_at dksX1_best_3 3 rfl rfl)
theorem dX1_best_74 : decode cX1_best 74 = .ok (.getfield 35, 3) := dk_180 0 35 (dk_at dksX1_best_3 4 rfl rfl)
theorem dX1_best_77 : decode cX1_best 77 = .ok (.getfield 302, 3) := dk_180 1 46 (dk_at dksX1_best_3 7 rfl rfl)
theorem dX1_best_80 : decode cX1_best 80 = .ok (.iload_n 1, 1) := dk_27 (dk_at dksX1_best_3 10 rfl rfl)
theorem dX1_best_81 : decode cX1_best 81 = .ok (.iaload, 1) := dk_46 (dk_at dksX1_best_3 11 rfl rfl)
theorem dX1_best_82 : decode cX1_best 82 = .ok (.goto 5, 3) := dk_167 0 5 (dk_at dksX1_best_3 12 rfl rfl)
theorem dX1_best_85 : decode cX1_best 85 = .ok (.bipush (-3), 2) := dk_16 253 (dk_at dksX1_best_3 15 rfl rfl)
theorem dX1_best_87 : decode cX1_best 87 = .ok (.ireturn, 1) := dk_172 (dk_at dksX1_best_3 17 rfl rfl)
def dkwX1_odds_6 : List UInt8 := [180, 1, 63, 22, 4, 109, 173]
abbrev dktX1_odds_6 : List UInt8 := dkwX1_odds_6 ++ []
def dkwX1_odds_5 : List UInt8 := [55, 4, 29, 153, 0, 16, 42, 180, 0, 35, 180, 1, 67, 22, 4, 109, 167, 0, 13, 42, 180, 0, 35]
abbrev dktX1_odds_5 : List UInt8 := dkwX1_odds_5 ++ dktX1_odds_6
def dkwX1_odds_4 : List UInt8 := [161, 0, 7, 20, 1, 61, 173, 42, 180, 0, 35, 180, 1, 63, 42, 180, 0, 35, 180, 1, 67, 184, 1, 70]
abbrev dktX1_odds_4 : List UInt8 := dkwX1_odds_4 ++ dktX1_odds_5
def dkwX1_odds_3 : List UInt8 := [180, 0, 253, 27, 28, 182, 1, 55, 154, 0, 7, 20, 1, 59, 173, 27, 42, 180, 0, 31, 180, 1, 13]
abbrev dktX1_odds_3 : List UInt8 := dkwX1_odds_3 ++ dktX1_odds_4
def dkwX1_odds_2 : List UInt8 := [180, 1, 16, 3, 42, 180, 0, 31, 180, 1, 13, 184, 1, 49, 42, 180, 0, 35, 42, 182, 1, 3, 42]
abbrev dktX1_odds_2 : List UInt8 := dkwX1_odds_2 ++ dktX1_odds_3
def dkwX1_odds_1 : List UInt8 := [182, 1, 27, 156, 0, 9, 42, 180, 0, 253, 133, 173, 42, 180, 0, 31, 180, 1, 16, 3, 42, 180, 0, 35]
abbrev dktX1_odds_1 : List UInt8 := dkwX1_odds_1 ++ dktX1_odds_2
def dkwX1_odds_0 : List UInt8 := [27, 155, 0, 16, 28, 3, 5, 184, 0, 85, 153, 0, 7, 4, 167, 0, 4, 3, 184, 0, 136, 42]
abbrev dktX1_odds_0 : List UInt8 := dkwX1_odds_0 ++ dktX1_odds_1
theorem dksX1_odds_0 : cX1_odds.data.toList.drop 0 = dktX1_odds_0 := by decide +kernel
theorem dksX1_odds_1 : cX1_odds.data.toList.drop 22 = dktX1_odds_1 := dk_seg dksX1_odds_0 22 rfl rfl
theorem dksX1_odds_2 : cX1_odds.data.toList.drop 46 = dktX1_odds_2 := dk_seg dksX1_odds_1 24 rfl rfl
theorem dksX1_odds_3 : cX1_odds.data.toList.drop 69 = dktX1_odds_3 := dk_seg dksX1_odds_2 23 rfl rfl
theorem dksX1_odds_4 : cX1_odds.data.toList.drop 92 = dktX1_odds_4 := dk_seg dksX1_odds_3 23 rfl rfl
theorem dksX1_odds_5 : cX1_odds.data.toList.drop 116 = dktX1_odds_5 := dk_seg dksX1_odds_4 24 rfl rfl
theorem dksX1_odds_6 : cX1_odds.data.toList.drop 139 = dktX1_odds_6 := dk_seg dksX1_odds_5 23 rfl rfl
theorem dX1_odds_0 : decode cX1_odds 0 = .ok (.iload_n 1, 1) := dk_27 (dk_at dksX1_odds_0 0 rfl rfl)
theorem dX1_odds_1 : decode cX1_odds 1 = .ok (.ifCond .lt 16, 3) := dk_155 0 16 (dk_at dksX1_odds_0 1 rfl rfl)
theorem dX1_odds_4 : decode cX1_odds 4 = .ok (.iload_n 2, 1) := dk_28 (dk_at dksX1_odds_0 4 rfl rfl)
theorem dX1_odds_5 : decode cX1_odds 5 = .ok (.iconst 0, 1) := dk_3 (dk_at dksX1_odds_0 5 rfl rfl)
theorem dX1_odds_6 : decode cX1_odds 6 = .ok (.iconst 2, 1) := dk_5 (dk_at dksX1_odds_0 6 rfl rfl)
theorem dX1_odds_7 : decode cX1_odds 7 = .ok (.invokestatic 85, 3) := dk_184 0 85 (dk_at dksX1_odds_0 7 rfl rfl)
theorem dX1_odds_10 : decode cX1_odds 10 = .ok (.ifCond .eq 7, 3) := dk_153 0 7 (dk_at dksX1_odds_0 10 rfl rfl)
theorem dX1_odds_13 : decode cX1_odds 13 = .ok (.iconst 1, 1) := dk_4 (dk_at dksX1_odds_0 13 rfl rfl)
theorem dX1_odds_14 : decode cX1_odds 14 = .ok (.goto 4, 3) := dk_167 0 4 (dk_at dksX1_odds_0 14 rfl rfl)
theorem dX1_odds_17 : decode cX1_odds 17 = .ok (.iconst 0, 1) := dk_3 (dk_at dksX1_odds_0 17 rfl rfl)
theorem dX1_odds_18 : decode cX1_odds 18 = .ok (.invokestatic 136, 3) := dk_184 0 136 (dk_at dksX1_odds_0 18 rfl rfl)
theorem dX1_odds_21 : decode cX1_odds 21 = .ok (.aload_n 0, 1) := dk_42 (dk_at dksX1_odds_0 21 rfl rfl)
theorem dX1_odds_22 : decode cX1_odds 22 = .ok (.invokevirtual 283, 3) := dk_182 1 27 (dk_at dksX1_odds_1 0 rfl rfl)
theorem dX1_odds_25 : decode cX1_odds 25 = .ok (.ifCond .ge 9, 3) := dk_156 0 9 (dk_at dksX1_odds_1 3 rfl rfl)
theorem dX1_odds_28 : decode cX1_odds 28 = .ok (.aload_n 0, 1) := dk_42 (dk_at dksX1_odds_1 6 rfl rfl)
theorem dX1_odds_29 : decode cX1_odds 29 = .ok (.getfield 253, 3) := dk_180 0 253 (dk_at dksX1_odds_1 7 rfl rfl)
theorem dX1_odds_32 : decode cX1_odds 32 = .ok (.i2l, 1) := dk_133 (dk_at dksX1_odds_1 10 rfl rfl)
theorem dX1_odds_33 : decode cX1_odds 33 = .ok (.lreturn, 1) := dk_173 (dk_at dksX1_odds_1 11 rfl rfl)
theorem dX1_odds_34 : decode cX1_odds 34 = .ok (.aload_n 0, 1) := dk_42 (dk_at dksX1_odds_1 12 rfl rfl)
theorem dX1_odds_35 : decode cX1_odds 35 = .ok (.getfield 31, 3) := dk_180 0 31 (dk_at dksX1_odds_1 13 rfl rfl)
theorem dX1_odds_38 : decode cX1_odds 38 = .ok (.getfield 272, 3) := dk_180 1 16 (dk_at dksX1_odds_1 16 rfl rfl)
theorem dX1_odds_41 : decode cX1_odds 41 = .ok (.iconst 0, 1) := dk_3 (dk_at dksX1_odds_1 19 rfl rfl)
theorem dX1_odds_42 : decode cX1_odds 42 = .ok (.aload_n 0, 1) := dk_42 (dk_at dksX1_odds_1 20 rfl rfl)
theorem dX1_odds_43 : decode cX1_odds 43 = .ok (.getfield 35, 3) := dk_180 0 35 (dk_at dksX1_odds_1 21 rfl rfl)
theorem dX1_odds_46 : decode cX1_odds 46 = .ok (.getfield 272, 3) := dk_180 1 16 (dk_at dksX1_odds_2 0 rfl rfl)
theorem dX1_odds_49 : decode cX1_odds 49 = .ok (.iconst 0, 1) := dk_3 (dk_at dksX1_odds_2 3 rfl rfl)
theorem dX1_odds_50 : decode cX1_odds 50 = .ok (.aload_n 0, 1) := dk_42 (dk_at dksX1_odds_2 4 rfl rfl)
theorem dX1_odds_51 : decode cX1_odds 51 = .ok (.getfield 31, 3) := dk_180 0 31 (dk_at dksX1_odds_2 5 rfl rfl)
theorem dX1_odds_54 : decode cX1_odds 54 = .ok (.getfield 269, 3) := dk_180 1 13 (dk_at dksX1_odds_2 8 rfl rfl)
theorem dX1_odds_57 : decode cX1_odds 57 = .ok (.invokestatic 305, 3) := dk_184 1 49 (dk_at dksX1_odds_2 11 rfl rfl)
theorem dX1_odds_60 : decode cX1_odds 60 = .ok (.aload_n 0, 1) := dk_42 (dk_at dksX1_odds_2 14 rfl rfl)
theorem dX1_odds_61 : decode cX1_odds 61 = .ok (.getfield 35, 3) := dk_180 0 35 (dk_at dksX1_odds_2 15 rfl rfl)
theorem dX1_odds_64 : decode cX1_odds 64 = .ok (.aload_n 0, 1) := dk_42 (dk_at dksX1_odds_2 18 rfl rfl)
theorem dX1_odds_65 : decode cX1_odds 65 = .ok (.invokevirtual 259, 3) := dk_182 1 3 (dk_at dksX1_odds_2 19 rfl rfl)
theorem dX1_odds_68 : decode cX1_odds 68 = .ok (.aload_n 0, 1) := dk_42 (dk_at dksX1_odds_2 22 rfl rfl)
theorem dX1_odds_69 : decode cX1_odds 69 = .ok (.getfield 253, 3) := dk_180 0 253 (dk_at dksX1_odds_3 0 rfl rfl)
theorem dX1_odds_72 : decode cX1_odds 72 = .ok (.iload_n 1, 1) := dk_27 (dk_at dksX1_odds_3 3 rfl rfl)
theorem dX1_odds_73 : decode cX1_odds 73 = .ok (.iload_n 2, 1) := dk_28 (dk_at dksX1_odds_3 4 rfl rfl)
theorem dX1_odds_74 : decode cX1_odds 74 = .ok (.invokevirtual 311, 3) := dk_182 1 55 (dk_at dksX1_odds_3 5 rfl rfl)
theorem dX1_odds_77 : decode cX1_odds 77 = .ok (.ifCond .ne 7, 3) := dk_154 0 7 (dk_at dksX1_odds_3 8 rfl rfl)
theorem dX1_odds_80 : decode cX1_odds 80 = .ok (.ldc2_w 315, 3) := dk_20 1 59 (dk_at dksX1_odds_3 11 rfl rfl)
theorem dX1_odds_83 : decode cX1_odds 83 = .ok (.lreturn, 1) := dk_173 (dk_at dksX1_odds_3 14 rfl rfl)
theorem dX1_odds_84 : decode cX1_odds 84 = .ok (.iload_n 1, 1) := dk_27 (dk_at dksX1_odds_3 15 rfl rfl)
theorem dX1_odds_85 : decode cX1_odds 85 = .ok (.aload_n 0, 1) := dk_42 (dk_at dksX1_odds_3 16 rfl rfl)
theorem dX1_odds_86 : decode cX1_odds 86 = .ok (.getfield 31, 3) := dk_180 0 31 (dk_at dksX1_odds_3 17 rfl rfl)
theorem dX1_odds_89 : decode cX1_odds 89 = .ok (.getfield 269, 3) := dk_180 1 13 (dk_at dksX1_odds_3 20 rfl rfl)
theorem dX1_odds_92 : decode cX1_odds 92 = .ok (.if_icmp .lt 7, 3) := dk_161 0 7 (dk_at dksX1_odds_4 0 rfl rfl)
theorem dX1_odds_95 : decode cX1_odds 95 = .ok (.ldc2_w 317, 3) := dk_20 1 61 (dk_at dksX1_odds_4 3 rfl rfl)
theorem dX1_odds_98 : decode cX1_odds 98 = .ok (.lreturn, 1) := dk_173 (dk_at dksX1_odds_4 6 rfl rfl)
theorem dX1_odds_99 : decode cX1_odds 99 = .ok (.aload_n 0, 1) := dk_42 (dk_at dksX1_odds_4 7 rfl rfl)
theorem dX1_odds_100 : decode cX1_odds 100 = .ok (.getfield 35, 3) := dk_180 0 35 (dk_at dksX1_odds_4 8 rfl rfl)
theorem dX1_odds_103 : decode cX1_odds 103 = .ok (.getfield 319, 3) := dk_180 1 63 (dk_at dksX1_odds_4 11 rfl rfl)
theorem dX1_odds_106 : decode cX1_odds 106 = .ok (.aload_n 0, 1) := dk_42 (dk_at dksX1_odds_4 14 rfl rfl)
theorem dX1_odds_107 : decode cX1_odds 107 = .ok (.getfield 35, 3) := dk_180 0 35 (dk_at dksX1_odds_4 15 rfl rfl)
theorem dX1_odds_110 : decode cX1_odds 110 = .ok (.getfield 323, 3) := dk_180 1 67 (dk_at dksX1_odds_4 18 rfl rfl)
theorem dX1_odds_113 : decode cX1_odds 113 = .ok (.invokestatic 326, 3) := dk_184 1 70 (dk_at dksX1_odds_4 21 rfl rfl)
theorem dX1_odds_116 : decode cX1_odds 116 = .ok (.lstore 4, 2) := dk_55 4 (dk_at dksX1_odds_5 0 rfl rfl)
theorem dX1_odds_118 : decode cX1_odds 118 = .ok (.iload_n 3, 1) := dk_29 (dk_at dksX1_odds_5 2 rfl rfl)
theorem dX1_odds_119 : decode cX1_odds 119 = .ok (.ifCond .eq 16, 3) := dk_153 0 16 (dk_at dksX1_odds_5 3 rfl rfl)
theorem dX1_odds_122 : decode cX1_odds 122 = .ok (.aload_n 0, 1) := dk_42 (dk_at dksX1_odds_5 6 rfl rfl)
theorem dX1_odds_123 : decode cX1_odds 123 = .ok (.getfield 35, 3) := dk_180 0 35 (dk_at dksX1_odds_5 7 rfl rfl)
theorem dX1_odds_126 : decode cX1_odds 126 = .ok (.getfield 323, 3) := dk_180 1 67 (dk_at dksX1_odds_5 10 rfl rfl)
theorem dX1_odds_129 : decode cX1_odds 129 = .ok (.lload 4, 2) := dk_22 4 (dk_at dksX1_odds_5 13 rfl rfl)
theorem dX1_odds_131 : decode cX1_odds 131 = .ok (.ldiv, 1) := dk_109 (dk_at dksX1_odds_5 15 rfl rfl)
theorem dX1_odds_132 : decode cX1_odds 132 = .ok (.goto 13, 3) := dk_167 0 13 (dk_at dksX1_odds_5 16 rfl rfl)
theorem dX1_odds_135 : decode cX1_odds 135 = .ok (.aload_n 0, 1) := dk_42 (dk_at dksX1_odds_5 19 rfl rfl)
theorem dX1_odds_136 : decode cX1_odds 136 = .ok (.getfield 35, 3) := dk_180 0 35 (dk_at dksX1_odds_5 20 rfl rfl)
theorem dX1_odds_139 : decode cX1_odds 139 = .ok (.getfield 319, 3) := dk_180 1 63 (dk_at dksX1_odds_6 0 rfl rfl)
theorem dX1_odds_142 : decode cX1_odds 142 = .ok (.lload 4, 2) := dk_22 4 (dk_at dksX1_odds_6 3 rfl rfl)
theorem dX1_odds_144 : decode cX1_odds 144 = .ok (.ldiv, 1) := dk_109 (dk_at dksX1_odds_6 5 rfl rfl)
theorem dX1_odds_145 : decode cX1_odds 145 = .ok (.lreturn, 1) := dk_173 (dk_at dksX1_odds_6 6 rfl rfl)
def dkwX1_common_1 : List UInt8 := [22, 8, 55, 6, 167, 255, 234, 22, 4, 173]
abbrev dktX1_common_1 : List UInt8 := dkwX1_common_1 ++ []
def dkwX1_common_0 : List UInt8 := [30, 55, 4, 32, 55, 6, 22, 6, 9, 148, 153, 0, 21, 22, 4, 22, 6, 113, 55, 8, 22, 6, 55, 4]
abbrev dktX1_common_0 : List UInt8 := dkwX1_common_0 ++ dktX1_common_1
theorem dksX1_common_0 : cX1_common.data.toList.drop 0 = dktX1_common_0 := by decide +kernel
theorem dksX1_common_1 : cX1_common.data.toList.drop 24 = dktX1_common_1 := dk_seg dksX1_common_0 24 rfl rfl
theorem dX1_common_0 : decode cX1_common 0 = .ok (.lload_n 0, 1) := dk_30 (dk_at dksX1_common_0 0 rfl rfl)
theorem dX1_common_1 : decode cX1_common 1 = .ok (.lstore 4, 2) := dk_55 4 (dk_at dksX1_common_0 1 rfl rfl)
theorem dX1_common_3 : decode cX1_common 3 = .ok (.lload_n 2, 1) := dk_32 (dk_at dksX1_common_0 3 rfl rfl)
theorem dX1_common_4 : decode cX1_common 4 = .ok (.lstore 6, 2) := dk_55 6 (dk_at dksX1_common_0 4 rfl rfl)
theorem dX1_common_6 : decode cX1_common 6 = .ok (.lload 6, 2) := dk_22 6 (dk_at dksX1_common_0 6 rfl rfl)
theorem dX1_common_8 : decode cX1_common 8 = .ok (.lconst 0, 1) := dk_9 (dk_at dksX1_common_0 8 rfl rfl)
theorem dX1_common_9 : decode cX1_common 9 = .ok (.lcmp, 1) := dk_148 (dk_at dksX1_common_0 9 rfl rfl)
theorem dX1_common_10 : decode cX1_common 10 = .ok (.ifCond .eq 21, 3) := dk_153 0 21 (dk_at dksX1_common_0 10 rfl rfl)
theorem dX1_common_13 : decode cX1_common 13 = .ok (.lload 4, 2) := dk_22 4 (dk_at dksX1_common_0 13 rfl rfl)
theorem dX1_common_15 : decode cX1_common 15 = .ok (.lload 6, 2) := dk_22 6 (dk_at dksX1_common_0 15 rfl rfl)
theorem dX1_common_17 : decode cX1_common 17 = .ok (.lrem, 1) := dk_113 (dk_at dksX1_common_0 17 rfl rfl)
theorem dX1_common_18 : decode cX1_common 18 = .ok (.lstore 8, 2) := dk_55 8 (dk_at dksX1_common_0 18 rfl rfl)
theorem dX1_common_20 : decode cX1_common 20 = .ok (.lload 6, 2) := dk_22 6 (dk_at dksX1_common_0 20 rfl rfl)
theorem dX1_common_22 : decode cX1_common 22 = .ok (.lstore 4, 2) := dk_55 4 (dk_at dksX1_common_0 22 rfl rfl)
theorem dX1_common_24 : decode cX1_common 24 = .ok (.lload 8, 2) := dk_22 8 (dk_at dksX1_common_1 0 rfl rfl)
theorem dX1_common_26 : decode cX1_common 26 = .ok (.lstore 6, 2) := dk_55 6 (dk_at dksX1_common_1 2 rfl rfl)
theorem dX1_common_28 : decode cX1_common 28 = .ok (.goto (-22), 3) := dk_167 255 234 (dk_at dksX1_common_1 4 rfl rfl)
theorem dX1_common_31 : decode cX1_common 31 = .ok (.lload 4, 2) := dk_22 4 (dk_at dksX1_common_1 7 rfl rfl)
theorem dX1_common_33 : decode cX1_common 33 = .ok (.lreturn, 1) := dk_173 (dk_at dksX1_common_1 9 rfl rfl)
def dkwX1_shared_8 : List UInt8 := [154, 0, 8, 21, 6, 167, 0, 15, 21, 6, 21, 7, 164, 0, 7, 4, 167, 0, 4, 3, 172]
abbrev dktX1_shared_8 : List UInt8 := dkwX1_shared_8 ++ []
def dkwX1_shared_7 : List UInt8 := [158, 0, 12, 21, 11, 154, 0, 7, 4, 167, 0, 4, 3, 96, 54, 7, 132, 8, 1, 167, 255, 113, 29]
abbrev dktX1_shared_7 : List UInt8 := dkwX1_shared_7 ++ dktX1_shared_8
def dkwX1_shared_6 : List UInt8 := [180, 0, 193, 21, 10, 50, 182, 1, 74, 153, 0, 7, 4, 167, 0, 4, 3, 96, 54, 6, 21, 7, 21, 12]
abbrev dktX1_shared_6 : List UInt8 := dkwX1_shared_6 ++ dktX1_shared_7
def dkwX1_shared_5 : List UInt8 := [21, 11, 158, 0, 36, 21, 11, 21, 12, 160, 0, 29, 25, 4, 180, 0, 193, 21, 9, 50, 25, 5]
abbrev dktX1_shared_5 : List UInt8 := dkwX1_shared_5 ++ dktX1_shared_6
def dkwX1_shared_4 : List UInt8 := [21, 10, 2, 160, 0, 7, 3, 167, 0, 12, 42, 180, 0, 40, 28, 50, 21, 10, 46, 54, 12, 21, 6]
abbrev dktX1_shared_4 : List UInt8 := dkwX1_shared_4 ++ dktX1_shared_5
def dkwX1_shared_3 : List UInt8 := [54, 10, 21, 9, 2, 160, 0, 7, 3, 167, 0, 12, 42, 180, 0, 40, 27, 50, 21, 9, 46, 54, 11]
abbrev dktX1_shared_3 : List UInt8 := dkwX1_shared_3 ++ dktX1_shared_4
def dkwX1_shared_2 : List UInt8 := [162, 0, 137, 42, 180, 0, 43, 27, 50, 21, 8, 46, 54, 9, 42, 180, 0, 43, 28, 50, 21, 8, 46]
abbrev dktX1_shared_2 : List UInt8 := dkwX1_shared_2 ++ dktX1_shared_3
def dkwX1_shared_1 : List UInt8 := [180, 0, 253, 172, 3, 54, 6, 3, 54, 7, 3, 54, 8, 21, 8, 42, 180, 0, 31, 180, 1, 13]
abbrev dktX1_shared_1 : List UInt8 := dkwX1_shared_1 ++ dktX1_shared_2
def dkwX1_shared_0 : List UInt8 := [42, 27, 182, 0, 103, 58, 4, 42, 28, 182, 0, 103, 58, 5, 42, 182, 1, 27, 156, 0, 8, 42]
abbrev dktX1_shared_0 : List UInt8 := dkwX1_shared_0 ++ dktX1_shared_1
theorem dksX1_shared_0 : cX1_shared.data.toList.drop 0 = dktX1_shared_0 := by decide +kernel
theorem dksX1_shared_1 : cX1_shared.data.toList.drop 22 = dktX1_shared_1 := dk_seg dksX1_shared_0 22 rfl rfl
theorem dksX1_shared_2 : cX1_shared.data.toList.drop 44 = dktX1_shared_2 := dk_seg dksX1_shared_1 22 rfl rfl
theorem dksX1_shared_3 : cX1_shared.data.toList.drop 67 = dktX1_shared_3 := dk_seg dksX1_shared_2 23 rfl rfl
theorem dksX1_shared_4 : cX1_shared.data.toList.drop 90 = dktX1_shared_4 := dk_seg dksX1_shared_3 23 rfl rfl
theorem dksX1_shared_5 : cX1_shared.data.toList.drop 113 = dktX1_shared_5 := dk_seg dksX1_shared_4 23 rfl rfl
theorem dksX1_shared_6 : cX1_shared.data.toList.drop 135 = dktX1_shared_6 := dk_seg dksX1_shared_5 22 rfl rfl
theorem dksX1_shared_7 : cX1_shared.data.toList.drop 159 = dktX1_shared_7 := dk_seg dksX1_shared_6 24 rfl rfl
theorem dksX1_shared_8 : cX1_shared.data.toList.drop 182 = dktX1_shared_8 := dk_seg dksX1_shared_7 23 rfl rfl
theorem dX1_shared_0 : decode cX1_shared 0 = .ok (.aload_n 0, 1) := dk_42 (dk_at dksX1_shared_0 0 rfl rfl)
theorem dX1_shared_1 : decode cX1_shared 1 = .ok (.iload_n 1, 1) := dk_27 (dk_at dksX1_shared_0 1 rfl rfl)
theorem dX1_shared_2 : decode cX1_shared 2 = .ok (.invokevirtual 103, 3) := dk_182 0 103 (dk_at dksX1_shared_0 2 rfl rfl)
theorem dX1_shared_5 : decode cX1_shared 5 = .ok (.astore 4, 2) := dk_58 4 (dk_at dksX1_shared_0 5 rfl rfl)
theorem dX1_shared_7 : decode cX1_shared 7 = .ok (.aload_n 0, 1) := dk_42 (dk_at dksX1_shared_0 7 rfl rfl)
theorem dX1_shared_8 : decode cX1_shared 8 = .ok (.iload_n 2, 1) := dk_28 (dk_at dksX1_shared_0 8 rfl rfl)
theorem dX1_shared_9 : decode cX1_shared 9 = .ok (.invokevirtual 103, 3) := dk_182 0 103 (dk_at dksX1_shared_0 9 rfl rfl)
theorem dX1_shared_12 : decode cX1_shared 12 = .ok (.astore 5, 2) := dk_58 5 (dk_at dksX1_shared_0 12 rfl rfl)
theorem dX1_shared_14 : decode cX1_shared 14 = .ok (.aload_n 0, 1) := dk_42 (dk_at dksX1_shared_0 14 rfl rfl)
theorem dX1_shared_15 : decode cX1_shared 15 = .ok (.invokevirtual 283, 3) := dk_182 1 27 (dk_at dksX1_shared_0 15 rfl rfl)
theorem dX1_shared_18 : decode cX1_shared 18 = .ok (.ifCond .ge 8, 3) := dk_156 0 8 (dk_at dksX1_shared_0 18 rfl rfl)
theorem dX1_shared_21 : decode cX1_shared 21 = .ok (.aload_n 0, 1) := dk_42 (dk_at dksX1_shared_0 21 rfl rfl)
theorem dX1_shared_22 : decode cX1_shared 22 = .ok (.getfield 253, 3) := dk_180 0 253 (dk_at dksX1_shared_1 0 rfl rfl)
theorem dX1_shared_25 : decode cX1_shared 25 = .ok (.ireturn, 1) := dk_172 (dk_at dksX1_shared_1 3 rfl rfl)
theorem dX1_shared_26 : decode cX1_shared 26 = .ok (.iconst 0, 1) := dk_3 (dk_at dksX1_shared_1 4 rfl rfl)
theorem dX1_shared_27 : decode cX1_shared 27 = .ok (.istore 6, 2) := dk_54 6 (dk_at dksX1_shared_1 5 rfl rfl)
theorem dX1_shared_29 : decode cX1_shared 29 = .ok (.iconst 0, 1) := dk_3 (dk_at dksX1_shared_1 7 rfl rfl)
theorem dX1_shared_30 : decode cX1_shared 30 = .ok (.istore 7, 2) := dk_54 7 (dk_at dksX1_shared_1 8 rfl rfl)
theorem dX1_shared_32 : decode cX1_shared 32 = .ok (.iconst 0, 1) := dk_3 (dk_at dksX1_shared_1 10 rfl rfl)
theorem dX1_shared_33 : decode cX1_shared 33 = .ok (.istore 8, 2) := dk_54 8 (dk_at dksX1_shared_1 11 rfl rfl)
theorem dX1_shared_35 : decode cX1_shared 35 = .ok (.iload 8, 2) := dk_21 8 (dk_at dksX1_shared_1 13 rfl rfl)
theorem dX1_shared_37 : decode cX1_shared 37 = .ok (.aload_n 0, 1) := dk_42 (dk_at dksX1_shared_1 15 rfl rfl)
theorem dX1_shared_38 : decode cX1_shared 38 = .ok (.getfield 31, 3) := dk_180 0 31 (dk_at dksX1_shared_1 16 rfl rfl)
theorem dX1_shared_41 : decode cX1_shared 41 = .ok (.getfield 269, 3) := dk_180 1 13 (dk_at dksX1_shared_1 19 rfl rfl)
theorem dX1_shared_44 : decode cX1_shared 44 = .ok (.if_icmp .ge 137, 3) := dk_162 0 137 (dk_at dksX1_shared_2 0 rfl rfl)
theorem dX1_shared_47 : decode cX1_shared 47 = .ok (.aload_n 0, 1) := dk_42 (dk_at dksX1_shared_2 3 rfl rfl)
theorem dX1_shared_48 : decode cX1_shared 48 = .ok (.getfield 43, 3) := dk_180 0 43 (dk_at dksX1_shared_2 4 rfl rfl)
theorem dX1_shared_51 : decode cX1_shared 51 = .ok (.iload_n 1, 1) := dk_27 (dk_at dksX1_shared_2 7 rfl rfl)
theorem dX1_shared_52 : decode cX1_shared 52 = .ok (.aaload, 1) := dk_50 (dk_at dksX1_shared_2 8 rfl rfl)
theorem dX1_shared_53 : decode cX1_shared 53 = .ok (.iload 8, 2) := dk_21 8 (dk_at dksX1_shared_2 9 rfl rfl)
theorem dX1_shared_55 : decode cX1_shared 55 = .ok (.iaload, 1) := dk_46 (dk_at dksX1_shared_2 11 rfl rfl)
theorem dX1_shared_56 : decode cX1_shared 56 = .ok (.istore 9, 2) := dk_54 9 (dk_at dksX1_shared_2 12 rfl rfl)
theorem dX1_shared_58 : decode cX1_shared 58 = .ok (.aload_n 0, 1) := dk_42 (dk_at dksX1_shared_2 14 rfl rfl)
theorem dX1_shared_59 : decode cX1_shared 59 = .ok (.getfield 43, 3) := dk_180 0 43 (dk_at dksX1_shared_2 15 rfl rfl)
theorem dX1_shared_62 : decode cX1_shared 62 = .ok (.iload_n 2, 1) := dk_28 (dk_at dksX1_shared_2 18 rfl rfl)
theorem dX1_shared_63 : decode cX1_shared 63 = .ok (.aaload, 1) := dk_50 (dk_at dksX1_shared_2 19 rfl rfl)
theorem dX1_shared_64 : decode cX1_shared 64 = .ok (.iload 8, 2) := dk_21 8 (dk_at dksX1_shared_2 20 rfl rfl)
theorem dX1_shared_66 : decode cX1_shared 66 = .ok (.iaload, 1) := dk_46 (dk_at dksX1_shared_2 22 rfl rfl)
theorem dX1_shared_67 : decode cX1_shared 67 = .ok (.istore 10, 2) := dk_54 10 (dk_at dksX1_shared_3 0 rfl rfl)
theorem dX1_shared_69 : decode cX1_shared 69 = .ok (.iload 9, 2) := dk_21 9 (dk_at dksX1_shared_3 2 rfl rfl)
theorem dX1_shared_71 : decode cX1_shared 71 = .ok (.iconst (-1), 1) := dk_2 (dk_at dksX1_shared_3 4 rfl rfl)
theorem dX1_shared_72 : decode cX1_shared 72 = .ok (.if_icmp .ne 7, 3) := dk_160 0 7 (dk_at dksX1_shared_3 5 rfl rfl)
theorem dX1_shared_75 : decode cX1_shared 75 = .ok (.iconst 0, 1) := dk_3 (dk_at dksX1_shared_3 8 rfl rfl)
theorem dX1_shared_76 : decode cX1_shared 76 = .ok (.goto 12, 3) := dk_167 0 12 (dk_at dksX1_shared_3 9 rfl rfl)
theorem dX1_shared_79 : decode cX1_shared 79 = .ok (.aload_n 0, 1) := dk_42 (dk_at dksX1_shared_3 12 rfl rfl)
theorem dX1_shared_80 : decode cX1_shared 80 = .ok (.getfield 40, 3) := dk_180 0 40 (dk_at dksX1_shared_3 13 rfl rfl)
theorem dX1_shared_83 : decode cX1_shared 83 = .ok (.iload_n 1, 1) := dk_27 (dk_at dksX1_shared_3 16 rfl rfl)
theorem dX1_shared_84 : decode cX1_shared 84 = .ok (.aaload, 1) := dk_50 (dk_at dksX1_shared_3 17 rfl rfl)
theorem dX1_shared_85 : decode cX1_shared 85 = .ok (.iload 9, 2) := dk_21 9 (dk_at dksX1_shared_3 18 rfl rfl)
theorem dX1_shared_87 : decode cX1_shared 87 = .ok (.iaload, 1) := dk_46 (dk_at dksX1_shared_3 20 rfl rfl)
theorem dX1_shared_88 : decode cX1_shared 88 = .ok (.istore 11, 2) := dk_54 11 (dk_at dksX1_shared_3 21 rfl rfl)
theorem dX1_shared_90 : decode cX1_shared 90 = .ok (.iload 10, 2) := dk_21 10 (dk_at dksX1_shared_4 0 rfl rfl)
theorem dX1_shared_92 : decode cX1_shared 92 = .ok (.iconst (-1), 1) := dk_2 (dk_at dksX1_shared_4 2 rfl rfl)
theorem dX1_shared_93 : decode cX1_shared 93 = .ok (.if_icmp .ne 7, 3) := dk_160 0 7 (dk_at dksX1_shared_4 3 rfl rfl)
theorem dX1_shared_96 : decode cX1_shared 96 = .ok (.iconst 0, 1) := dk_3 (dk_at dksX1_shared_4 6 rfl rfl)
theorem dX1_shared_97 : decode cX1_shared 97 = .ok (.goto 12, 3) := dk_167 0 12 (dk_at dksX1_shared_4 7 rfl rfl)
theorem dX1_shared_100 : decode cX1_shared 100 = .ok (.aload_n 0, 1) := dk_42 (dk_at dksX1_shared_4 10 rfl rfl)
theorem dX1_shared_101 : decode cX1_shared 101 = .ok (.getfield 40, 3) := dk_180 0 40 (dk_at dksX1_shared_4 11 rfl rfl)
theorem dX1_shared_104 : decode cX1_shared 104 = .ok (.iload_n 2, 1) := dk_28 (dk_at dksX1_shared_4 14 rfl rfl)
theorem dX1_shared_105 : decode cX1_shared 105 = .ok (.aaload, 1) := dk_50 (dk_at dksX1_shared_4 15 rfl rfl)
theorem dX1_shared_106 : decode cX1_shared 106 = .ok (.iload 10, 2) := dk_21 10 (dk_at dksX1_shared_4 16 rfl rfl)
theorem dX1_shared_108 : decode cX1_shared 108 = .ok (.iaload, 1) := dk_46 (dk_at dksX1_shared_4 18 rfl rfl)
theorem dX1_shared_109 : decode cX1_shared 109 = .ok (.istore 12, 2) := dk_54 12 (dk_at dksX1_shared_4 19 rfl rfl)
theorem dX1_shared_111 : decode cX1_shared 111 = .ok (.iload 6, 2) := dk_21 6 (dk_at dksX1_shared_4 21 rfl rfl)
theorem dX1_shared_113 : decode cX1_shared 113 = .ok (.iload 11, 2) := dk_21 11 (dk_at dksX1_shared_5 0 rfl rfl)
theorem dX1_shared_115 : decode cX1_shared 115 = .ok (.ifCond .le 36, 3) := dk_158 0 36 (dk_at dksX1_shared_5 2 rfl rfl)
theorem dX1_shared_118 : decode cX1_shared 118 = .ok (.iload 11, 2) := dk_21 11 (dk_at dksX1_shared_5 5 rfl rfl)
theorem dX1_shared_120 : decode cX1_shared 120 = .ok (.iload 12, 2) := dk_21 12 (dk_at dksX1_shared_5 7 rfl rfl)
theorem dX1_shared_122 : decode cX1_shared 122 = .ok (.if_icmp .ne 29, 3) := dk_160 0 29 (dk_at dksX1_shared_5 9 rfl rfl)
theorem dX1_shared_125 : decode cX1_shared 125 = .ok (.aload 4, 2) := dk_25 4 (dk_at dksX1_shared_5 12 rfl rfl)
theorem dX1_shared_127 : decode cX1_shared 127 = .ok (.getfield 193, 3) := dk_180 0 193 (dk_at dksX1_shared_5 14 rfl rfl)
theorem dX1_shared_130 : decode cX1_shared 130 = .ok (.iload 9, 2) := dk_21 9 (dk_at dksX1_shared_5 17 rfl rfl)
theorem dX1_shared_132 : decode cX1_shared 132 = .ok (.aaload, 1) := dk_50 (dk_at dksX1_shared_5 19 rfl rfl)
theorem dX1_shared_133 : decode cX1_shared 133 = .ok (.aload 5, 2) := dk_25 5 (dk_at dksX1_shared_5 20 rfl rfl)
theorem dX1_shared_135 : decode cX1_shared 135 = .ok (.getfield 193, 3) := dk_180 0 193 (dk_at dksX1_shared_6 0 rfl rfl)
theorem dX1_shared_138 : decode cX1_shared 138 = .ok (.iload 10, 2) := dk_21 10 (dk_at dksX1_shared_6 3 rfl rfl)
theorem dX1_shared_140 : decode cX1_shared 140 = .ok (.aaload, 1) := dk_50 (dk_at dksX1_shared_6 5 rfl rfl)
theorem dX1_shared_141 : decode cX1_shared 141 = .ok (.invokevirtual 330, 3) := dk_182 1 74 (dk_at dksX1_shared_6 6 rfl rfl)
theorem dX1_shared_144 : decode cX1_shared 144 = .ok (.ifCond .eq 7, 3) := dk_153 0 7 (dk_at dksX1_shared_6 9 rfl rfl)
theorem dX1_shared_147 : decode cX1_shared 147 = .ok (.iconst 1, 1) := dk_4 (dk_at dksX1_shared_6 12 rfl rfl)
theorem dX1_shared_148 : decode cX1_shared 148 = .ok (.goto 4, 3) := dk_167 0 4 (dk_at dksX1_shared_6 13 rfl rfl)
theorem dX1_shared_151 : decode cX1_shared 151 = .ok (.iconst 0, 1) := dk_3 (dk_at dksX1_shared_6 16 rfl rfl)
theorem dX1_shared_152 : decode cX1_shared 152 = .ok (.iadd, 1) := dk_96 (dk_at dksX1_shared_6 17 rfl rfl)
theorem dX1_shared_153 : decode cX1_shared 153 = .ok (.istore 6, 2) := dk_54 6 (dk_at dksX1_shared_6 18 rfl rfl)
theorem dX1_shared_155 : decode cX1_shared 155 = .ok (.iload 7, 2) := dk_21 7 (dk_at dksX1_shared_6 20 rfl rfl)
theorem dX1_shared_157 : decode cX1_shared 157 = .ok (.iload 12, 2) := dk_21 12 (dk_at dksX1_shared_6 22 rfl rfl)
theorem dX1_shared_159 : decode cX1_shared 159 = .ok (.ifCond .le 12, 3) := dk_158 0 12 (dk_at dksX1_shared_7 0 rfl rfl)
theorem dX1_shared_162 : decode cX1_shared 162 = .ok (.iload 11, 2) := dk_21 11 (dk_at dksX1_shared_7 3 rfl rfl)
theorem dX1_shared_164 : decode cX1_shared 164 = .ok (.ifCond .ne 7, 3) := dk_154 0 7 (dk_at dksX1_shared_7 5 rfl rfl)
theorem dX1_shared_167 : decode cX1_shared 167 = .ok (.iconst 1, 1) := dk_4 (dk_at dksX1_shared_7 8 rfl rfl)
theorem dX1_shared_168 : decode cX1_shared 168 = .ok (.goto 4, 3) := dk_167 0 4 (dk_at dksX1_shared_7 9 rfl rfl)
theorem dX1_shared_171 : decode cX1_shared 171 = .ok (.iconst 0, 1) := dk_3 (dk_at dksX1_shared_7 12 rfl rfl)
theorem dX1_shared_172 : decode cX1_shared 172 = .ok (.iadd, 1) := dk_96 (dk_at dksX1_shared_7 13 rfl rfl)
theorem dX1_shared_173 : decode cX1_shared 173 = .ok (.istore 7, 2) := dk_54 7 (dk_at dksX1_shared_7 14 rfl rfl)
theorem dX1_shared_175 : decode cX1_shared 175 = .ok (.iinc 8 1, 3) := dk_132 8 1 (dk_at dksX1_shared_7 16 rfl rfl)
theorem dX1_shared_178 : decode cX1_shared 178 = .ok (.goto (-143), 3) := dk_167 255 113 (dk_at dksX1_shared_7 19 rfl rfl)
theorem dX1_shared_181 : decode cX1_shared 181 = .ok (.iload_n 3, 1) := dk_29 (dk_at dksX1_shared_7 22 rfl rfl)
theorem dX1_shared_182 : decode cX1_shared 182 = .ok (.ifCond .ne 8, 3) := dk_154 0 8 (dk_at dksX1_shared_8 0 rfl rfl)
theorem dX1_shared_185 : decode cX1_shared 185 = .ok (.iload 6, 2) := dk_21 6 (dk_at dksX1_shared_8 3 rfl rfl)
theorem dX1_shared_187 : decode cX1_shared 187 = .ok (.goto 15, 3) := dk_167 0 15 (dk_at dksX1_shared_8 5 rfl rfl)
theorem dX1_shared_190 : decode cX1_shared 190 = .ok (.iload 6, 2) := dk_21 6 (dk_at dksX1_shared_8 8 rfl rfl)
theorem dX1_shared_192 : decode cX1_shared 192 = .ok (.iload 7, 2) := dk_21 7 (dk_at dksX1_shared_8 10 rfl rfl)
theorem dX1_shared_194 : decode cX1_shared 194 = .ok (.if_icmp .le 7, 3) := dk_164 0 7 (dk_at dksX1_shared_8 12 rfl rfl)
theorem dX1_shared_197 : decode cX1_shared 197 = .ok (.iconst 1, 1) := dk_4 (dk_at dksX1_shared_8 15 rfl rfl)
theorem dX1_shared_198 : decode cX1_shared 198 = .ok (.goto 4, 3) := dk_167 0 4 (dk_at dksX1_shared_8 16 rfl rfl)
theorem dX1_shared_201 : decode cX1_shared 201 = .ok (.iconst 0, 1) := dk_3 (dk_at dksX1_shared_8 19 rfl rfl)
theorem dX1_shared_202 : decode cX1_shared 202 = .ok (.ireturn, 1) := dk_172 (dk_at dksX1_shared_8 20 rfl rfl)
def dkwX1_alike_7 : List UInt8 := [132, 5, 255, 167, 255, 110, 42, 180, 0, 49, 3, 50, 3, 46, 172]
abbrev dktX1_alike_7 : List UInt8 := dkwX1_alike_7 ++ []
def dkwX1_alike_6 : List UInt8 := [42, 180, 0, 49, 21, 5, 50, 21, 6, 4, 96, 46, 184, 1, 77, 79, 132, 6, 255, 167, 255, 128]
abbrev dktX1_alike_6 : List UInt8 := dkwX1_alike_6 ++ dktX1_alike_7
def dkwX1_alike_5 : List UInt8 := [167, 0, 40, 42, 180, 0, 49, 21, 5, 50, 21, 6, 42, 180, 0, 49, 21, 5, 4, 96, 50, 21, 6, 46]
abbrev dktX1_alike_5 : List UInt8 := dkwX1_alike_5 ++ dktX1_alike_6
def dkwX1_alike_4 : List UInt8 := [21, 5, 50, 21, 6, 42, 180, 0, 49, 21, 5, 4, 96, 50, 21, 6, 4, 96, 46, 4, 96, 79]
abbrev dktX1_alike_4 : List UInt8 := dkwX1_alike_4 ++ dktX1_alike_5
def dkwX1_alike_3 : List UInt8 := [180, 0, 193, 21, 5, 50, 25, 4, 180, 0, 193, 21, 6, 50, 182, 0, 205, 153, 0, 32, 42, 180, 0, 49]
abbrev dktX1_alike_3 : List UInt8 := dkwX1_alike_3 ++ dktX1_alike_4
def dkwX1_alike_2 : List UInt8 := [25, 4, 180, 0, 107, 160, 0, 17, 42, 180, 0, 49, 21, 5, 50, 21, 6, 3, 79, 167, 0, 90, 45]
abbrev dktX1_alike_2 : List UInt8 := dkwX1_alike_2 ++ dktX1_alike_3
def dkwX1_alike_1 : List UInt8 := [25, 4, 180, 0, 107, 54, 6, 21, 6, 155, 0, 129, 21, 5, 45, 180, 0, 107, 159, 0, 13, 21, 6]
abbrev dktX1_alike_1 : List UInt8 := dkwX1_alike_1 ++ dktX1_alike_2
def dkwX1_alike_0 : List UInt8 := [42, 27, 182, 0, 103, 78, 42, 28, 182, 0, 103, 58, 4, 45, 180, 0, 107, 54, 5, 21, 5, 155, 0, 147]
abbrev dktX1_alike_0 : List UInt8 := dkwX1_alike_0 ++ dktX1_alike_1
theorem dksX1_alike_0 : cX1_alike.data.toList.drop 0 = dktX1_alike_0 := by decide +kernel
theorem dksX1_alike_1 : cX1_alike.data.toList.drop 24 = dktX1_alike_1 := dk_seg dksX1_alike_0 24 rfl rfl
theorem dksX1_alike_2 : cX1_alike.data.toList.drop 47 = dktX1_alike_2 := dk_seg dksX1_alike_1 23 rfl rfl
theorem dksX1_alike_3 : cX1_alike.data.toList.drop 70 = dktX1_alike_3 := dk_seg dksX1_alike_2 23 rfl rfl
theorem dksX1_alike_4 : cX1_alike.data.toList.drop 94 = dktX1_alike_4 := dk_seg dksX1_alike_3 24 rfl rfl
theorem dksX1_alike_5 : cX1_alike.data.toList.drop 116 = dktX1_alike_5 := dk_seg dksX1_alike_4 22 rfl rfl
theorem dksX1_alike_6 : cX1_alike.data.toList.drop 140 = dktX1_alike_6 := dk_seg dksX1_alike_5 24 rfl rfl
theorem dksX1_alike_7 : cX1_alike.data.toList.drop 162 = dktX1_alike_7 := dk_seg dksX1_alike_6 22 rfl rfl
theorem dX1_alike_0 : decode cX1_alike 0 = .ok (.aload_n 0, 1) := dk_42 (dk_at dksX1_alike_0 0 rfl rfl)
theorem dX1_alike_1 : decode cX1_alike 1 = .ok (.iload_n 1, 1) := dk_27 (dk_at dksX1_alike_0 1 rfl rfl)
theorem dX1_alike_2 : decode cX1_alike 2 = .ok (.invokevirtual 103, 3) := dk_182 0 103 (dk_at dksX1_alike_0 2 rfl rfl)
theorem dX1_alike_5 : decode cX1_alike 5 = .ok (.astore_n 3, 1) := dk_78 (dk_at dksX1_alike_0 5 rfl rfl)
theorem dX1_alike_6 : decode cX1_alike 6 = .ok (.aload_n 0, 1) := dk_42 (dk_at dksX1_alike_0 6 rfl rfl)
theorem dX1_alike_7 : decode cX1_alike 7 = .ok (.iload_n 2, 1) := dk_28 (dk_at dksX1_alike_0 7 rfl rfl)
theorem dX1_alike_8 : decode cX1_alike 8 = .ok (.invokevirtual 103, 3) := dk_182 0 103 (dk_at dksX1_alike_0 8 rfl rfl)
theorem dX1_alike_11 : decode cX1_alike 11 = .ok (.astore 4, 2) := dk_58 4 (dk_at dksX1_alike_0 11 rfl rfl)
theorem dX1_alike_13 : decode cX1_alike 13 = .ok (.aload_n 3, 1) := dk_45 (dk_at dksX1_alike_0 13 rfl rfl)
theorem dX1_alike_14 : decode cX1_alike 14 = .ok (.getfield 107, 3) := dk_180 0 107 (dk_at dksX1_alike_0 14 rfl rfl)
theorem dX1_alike_17 : decode cX1_alike 17 = .ok (.istore 5, 2) := dk_54 5 (dk_at dksX1_alike_0 17 rfl rfl)
theorem dX1_alike_19 : decode cX1_alike 19 = .ok (.iload 5, 2) := dk_21 5 (dk_at dksX1_alike_0 19 rfl rfl)
theorem dX1_alike_21 : decode cX1_alike 21 = .ok (.ifCond .lt 147, 3) := dk_155 0 147 (dk_at dksX1_alike_0 21 rfl rfl)
theorem dX1_alike_24 : decode cX1_alike 24 = .ok (.aload 4, 2) := dk_25 4 (dk_at dksX1_alike_1 0 rfl rfl)
theorem dX1_alike_26 : decode cX1_alike 26 = .ok (.getfield 107, 3) := dk_180 0 107 (dk_at dksX1_alike_1 2 rfl rfl)
theorem dX1_alike_29 : decode cX1_alike 29 = .ok (.istore 6, 2) := dk_54 6 (dk_at dksX1_alike_1 5 rfl rfl)
theorem dX1_alike_31 : decode cX1_alike 31 = .ok (.iload 6, 2) := dk_21 6 (dk_at dksX1_alike_1 7 rfl rfl)
theorem dX1_alike_33 : decode cX1_alike 33 = .ok (.ifCond .lt 129, 3) := dk_155 0 129 (dk_at dksX1_alike_1 9 rfl rfl)
theorem dX1_alike_36 : decode cX1_alike 36 = .ok (.iload 5, 2) := dk_21 5 (dk_at dksX1_alike_1 12 rfl rfl)
theorem dX1_alike_38 : decode cX1_alike 38 = .ok (.aload_n 3, 1) := dk_45 (dk_at dksX1_alike_1 14 rfl rfl)
theorem dX1_alike_39 : decode cX1_alike 39 = .ok (.getfield 107, 3) := dk_180 0 107 (dk_at dksX1_alike_1 15 rfl rfl)
theorem dX1_alike_42 : decode cX1_alike 42 = .ok (.if_icmp .eq 13, 3) := dk_159 0 13 (dk_at dksX1_alike_1 18 rfl rfl)
theorem dX1_alike_45 : decode cX1_alike 45 = .ok (.iload 6, 2) := dk_21 6 (dk_at dksX1_alike_1 21 rfl rfl)
theorem dX1_alike_47 : decode cX1_alike 47 = .ok (.aload 4, 2) := dk_25 4 (dk_at dksX1_alike_2 0 rfl rfl)
theorem dX1_alike_49 : decode cX1_alike 49 = .ok (.getfield 107, 3) := dk_180 0 107 (dk_at dksX1_alike_2 2 rfl rfl)
theorem dX1_alike_52 : decode cX1_alike 52 = .ok (.if_icmp .ne 17, 3) := dk_160 0 17 (dk_at dksX1_alike_2 5 rfl rfl)
theorem dX1_alike_55 : decode cX1_alike 55 = .ok (.aload_n 0, 1) := dk_42 (dk_at dksX1_alike_2 8 rfl rfl)
theorem dX1_alike_56 : decode cX1_alike 56 = .ok (.getfield 49, 3) := dk_180 0 49 (dk_at dksX1_alike_2 9 rfl rfl)
theorem dX1_alike_59 : decode cX1_alike 59 = .ok (.iload 5, 2) := dk_21 5 (dk_at dksX1_alike_2 12 rfl rfl)
theorem dX1_alike_61 : decode cX1_alike 61 = .ok (.aaload, 1) := dk_50 (dk_at dksX1_alike_2 14 rfl rfl)
theorem dX1_alike_62 : decode cX1_alike 62 = .ok (.iload 6, 2) := dk_21 6 (dk_at dksX1_alike_2 15 rfl rfl)
theorem dX1_alike_64 : decode cX1_alike 64 = .ok (.iconst 0, 1) := dk_3 (dk_at dksX1_alike_2 17 rfl rfl)
theorem dX1_alike_65 : decode cX1_alike 65 = .ok (.iastore, 1) := dk_79 (dk_at dksX1_alike_2 18 rfl rfl)
theorem dX1_alike_66 : decode cX1_alike 66 = .ok (.goto 90, 3) := dk_167 0 90 (dk_at dksX1_alike_2 19 rfl rfl)
theorem dX1_alike_69 : decode cX1_alike 69 = .ok (.aload_n 3, 1) := dk_45 (dk_at dksX1_alike_2 22 rfl rfl)
theorem dX1_alike_70 : decode cX1_alike 70 = .ok (.getfield 193, 3) := dk_180 0 193 (dk_at dksX1_alike_3 0 rfl rfl)
theorem dX1_alike_73 : decode cX1_alike 73 = .ok (.iload 5, 2) := dk_21 5 (dk_at dksX1_alike_3 3 rfl rfl)
theorem dX1_alike_75 : decode cX1_alike 75 = .ok (.aaload, 1) := dk_50 (dk_at dksX1_alike_3 5 rfl rfl)
theorem dX1_alike_76 : decode cX1_alike 76 = .ok (.aload 4, 2) := dk_25 4 (dk_at dksX1_alike_3 6 rfl rfl)
theorem dX1_alike_78 : decode cX1_alike 78 = .ok (.getfield 193, 3) := dk_180 0 193 (dk_at dksX1_alike_3 8 rfl rfl)
theorem dX1_alike_81 : decode cX1_alike 81 = .ok (.iload 6, 2) := dk_21 6 (dk_at dksX1_alike_3 11 rfl rfl)
theorem dX1_alike_83 : decode cX1_alike 83 = .ok (.aaload, 1) := dk_50 (dk_at dksX1_alike_3 13 rfl rfl)
theorem dX1_alike_84 : decode cX1_alike 84 = .ok (.invokevirtual 205, 3) := dk_182 0 205 (dk_at dksX1_alike_3 14 rfl rfl)
theorem dX1_alike_87 : decode cX1_alike 87 = .ok (.ifCond .eq 32, 3) := dk_153 0 32 (dk_at dksX1_alike_3 17 rfl rfl)
theorem dX1_alike_90 : decode cX1_alike 90 = .ok (.aload_n 0, 1) := dk_42 (dk_at dksX1_alike_3 20 rfl rfl)
theorem dX1_alike_91 : decode cX1_alike 91 = .ok (.getfield 49, 3) := dk_180 0 49 (dk_at dksX1_alike_3 21 rfl rfl)
theorem dX1_alike_94 : decode cX1_alike 94 = .ok (.iload 5, 2) := dk_21 5 (dk_at dksX1_alike_4 0 rfl rfl)
theorem dX1_alike_96 : decode cX1_alike 96 = .ok (.aaload, 1) := dk_50 (dk_at dksX1_alike_4 2 rfl rfl)
theorem dX1_alike_97 : decode cX1_alike 97 = .ok (.iload 6, 2) := dk_21 6 (dk_at dksX1_alike_4 3 rfl rfl)
theorem dX1_alike_99 : decode cX1_alike 99 = .ok (.aload_n 0, 1) := dk_42 (dk_at dksX1_alike_4 5 rfl rfl)
theorem dX1_alike_100 : decode cX1_alike 100 = .ok (.getfield 49, 3) := dk_180 0 49 (dk_at dksX1_alike_4 6 rfl rfl)
theorem dX1_alike_103 : decode cX1_alike 103 = .ok (.iload 5, 2) := dk_21 5 (dk_at dksX1_alike_4 9 rfl rfl)
theorem dX1_alike_105 : decode cX1_alike 105 = .ok (.iconst 1, 1) := dk_4 (dk_at dksX1_alike_4 11 rfl rfl)
theorem dX1_alike_106 : decode cX1_alike 106 = .ok (.iadd, 1) := dk_96 (dk_at dksX1_alike_4 12 rfl rfl)
theorem dX1_alike_107 : decode cX1_alike 107 = .ok (.aaload, 1) := dk_50 (dk_at dksX1_alike_4 13 rfl rfl)
theorem dX1_alike_108 : decode cX1_alike 108 = .ok (.iload 6, 2) := dk_21 6 (dk_at dksX1_alike_4 14 rfl rfl)
theorem dX1_alike_110 : decode cX1_alike 110 = .ok (.iconst 1, 1) := dk_4 (dk_at dksX1_alike_4 16 rfl rfl)
theorem dX1_alike_111 : decode cX1_alike 111 = .ok (.iadd, 1) := dk_96 (dk_at dksX1_alike_4 17 rfl rfl)
theorem dX1_alike_112 : decode cX1_alike 112 = .ok (.iaload, 1) := dk_46 (dk_at dksX1_alike_4 18 rfl rfl)
theorem dX1_alike_113 : decode cX1_alike 113 = .ok (.iconst 1, 1) := dk_4 (dk_at dksX1_alike_4 19 rfl rfl)
theorem dX1_alike_114 : decode cX1_alike 114 = .ok (.iadd, 1) := dk_96 (dk_at dksX1_alike_4 20 rfl rfl)
theorem dX1_alike_115 : decode cX1_alike 115 = .ok (.iastore, 1) := dk_79 (dk_at dksX1_alike_4 21 rfl rfl)
theorem dX1_alike_116 : decode cX1_alike 116 = .ok (.goto 40, 3) := dk_167 0 40 (dk_at dksX1_alike_5 0 rfl rfl)
theorem dX1_alike_119 : decode cX1_alike 119 = .ok (.aload_n 0, 1) := dk_42 (dk_at dksX1_alike_5 3 rfl rfl)
theorem dX1_alike_120 : decode cX1_alike 120 = .ok (.getfield 49, 3) := dk_180 0 49 (dk_at dksX1_alike_5 4 rfl rfl)
theorem dX1_alike_123 : decode cX1_alike 123 = .ok (.iload 5, 2) := dk_21 5 (dk_at dksX1_alike_5 7 rfl rfl)
theorem dX1_alike_125 : decode cX1_alike 125 = .ok (.aaload, 1) := dk_50 (dk_at dksX1_alike_5 9 rfl rfl)
theorem dX1_alike_126 : decode cX1_alike 126 = .ok (.iload 6, 2) := dk_21 6 (dk_at dksX1_alike_5 10 rfl rfl)
theorem dX1_alike_128 : decode cX1_alike 128 = .ok (.aload_n 0, 1) := dk_42 (dk_at dksX1_alike_5 12 rfl rfl)
theorem dX1_alike_129 : decode cX1_alike 129 = .ok (.getfield 49, 3) := dk_180 0 49 (dk_at dksX1_alike_5 13 rfl rfl)
theorem dX1_alike_132 : decode cX1_alike 132 = .ok (.iload 5, 2) := dk_21 5 (dk_at dksX1_alike_5 16 rfl rfl)
theorem dX1_alike_134 : decode cX1_alike 134 = .ok (.iconst 1, 1) := dk_4 (dk_at dksX1_alike_5 18 rfl rfl)
theorem dX1_alike_135 : decode cX1_alike 135 = .ok (.iadd, 1) := dk_96 (dk_at dksX1_alike_5 19 rfl rfl)
theorem dX1_alike_136 : decode cX1_alike 136 = .ok (.aaload, 1) := dk_50 (dk_at dksX1_alike_5 20 rfl rfl)
theorem dX1_alike_137 : decode cX1_alike 137 = .ok (.iload 6, 2) := dk_21 6 (dk_at dksX1_alike_5 21 rfl rfl)
theorem dX1_alike_139 : decode cX1_alike 139 = .ok (.iaload, 1) := dk_46 (dk_at dksX1_alike_5 23 rfl rfl)
theorem dX1_alike_140 : decode cX1_alike 140 = .ok (.aload_n 0, 1) := dk_42 (dk_at dksX1_alike_6 0 rfl rfl)
theorem dX1_alike_141 : decode cX1_alike 141 = .ok (.getfield 49, 3) := dk_180 0 49 (dk_at dksX1_alike_6 1 rfl rfl)
theorem dX1_alike_144 : decode cX1_alike 144 = .ok (.iload 5, 2) := dk_21 5 (dk_at dksX1_alike_6 4 rfl rfl)
theorem dX1_alike_146 : decode cX1_alike 146 = .ok (.aaload, 1) := dk_50 (dk_at dksX1_alike_6 6 rfl rfl)
theorem dX1_alike_147 : decode cX1_alike 147 = .ok (.iload 6, 2) := dk_21 6 (dk_at dksX1_alike_6 7 rfl rfl)
theorem dX1_alike_149 : decode cX1_alike 149 = .ok (.iconst 1, 1) := dk_4 (dk_at dksX1_alike_6 9 rfl rfl)
theorem dX1_alike_150 : decode cX1_alike 150 = .ok (.iadd, 1) := dk_96 (dk_at dksX1_alike_6 10 rfl rfl)
theorem dX1_alike_151 : decode cX1_alike 151 = .ok (.iaload, 1) := dk_46 (dk_at dksX1_alike_6 11 rfl rfl)
theorem dX1_alike_152 : decode cX1_alike 152 = .ok (.invokestatic 333, 3) := dk_184 1 77 (dk_at dksX1_alike_6 12 rfl rfl)
theorem dX1_alike_155 : decode cX1_alike 155 = .ok (.iastore, 1) := dk_79 (dk_at dksX1_alike_6 15 rfl rfl)
theorem dX1_alike_156 : decode cX1_alike 156 = .ok (.iinc 6 (-1), 3) := dk_132 6 255 (dk_at dksX1_alike_6 16 rfl rfl)
theorem dX1_alike_159 : decode cX1_alike 159 = .ok (.goto (-128), 3) := dk_167 255 128 (dk_at dksX1_alike_6 19 rfl rfl)
theorem dX1_alike_162 : decode cX1_alike 162 = .ok (.iinc 5 (-1), 3) := dk_132 5 255 (dk_at dksX1_alike_7 0 rfl rfl)
theorem dX1_alike_165 : decode cX1_alike 165 = .ok (.goto (-146), 3) := dk_167 255 110 (dk_at dksX1_alike_7 3 rfl rfl)
theorem dX1_alike_168 : decode cX1_alike 168 = .ok (.aload_n 0, 1) := dk_42 (dk_at dksX1_alike_7 6 rfl rfl)
theorem dX1_alike_169 : decode cX1_alike 169 = .ok (.getfield 49, 3) := dk_180 0 49 (dk_at dksX1_alike_7 7 rfl rfl)
theorem dX1_alike_172 : decode cX1_alike 172 = .ok (.iconst 0, 1) := dk_3 (dk_at dksX1_alike_7 10 rfl rfl)
theorem dX1_alike_173 : decode cX1_alike 173 = .ok (.aaload, 1) := dk_50 (dk_at dksX1_alike_7 11 rfl rfl)
theorem dX1_alike_174 : decode cX1_alike 174 = .ok (.iconst 0, 1) := dk_3 (dk_at dksX1_alike_7 12 rfl rfl)
theorem dX1_alike_175 : decode cX1_alike 175 = .ok (.iaload, 1) := dk_46 (dk_at dksX1_alike_7 13 rfl rfl)
theorem dX1_alike_176 : decode cX1_alike 176 = .ok (.ireturn, 1) := dk_172 (dk_at dksX1_alike_7 14 rfl rfl)
def dkwX1_way_5 : List UInt8 := [162, 0, 7, 3, 167, 0, 4, 4, 172]
abbrev dktX1_way_5 : List UInt8 := dkwX1_way_5 ++ []
def dkwX1_way_4 : List UInt8 := [167, 0, 5, 21, 5, 54, 5, 21, 4, 21, 5, 160, 0, 8, 16, 253, 167, 0, 15, 21, 4, 21, 5]
abbrev dktX1_way_4 : List UInt8 := dkwX1_way_4 ++ dktX1_way_5
def dkwX1_way_3 : List UInt8 := [160, 0, 9, 19, 1, 12, 167, 0, 5, 21, 4, 54, 4, 21, 5, 2, 160, 0, 9, 19, 1, 12]
abbrev dktX1_way_3 : List UInt8 := dkwX1_way_3 ++ dktX1_way_4
def dkwX1_way_2 : List UInt8 := [181, 0, 182, 21, 4, 16, 254, 159, 0, 10, 21, 5, 16, 254, 160, 0, 6, 16, 254, 172, 21, 4, 2]
abbrev dktX1_way_2 : List UInt8 := dkwX1_way_2 ++ dktX1_way_3
def dkwX1_way_1 : List UInt8 := [182, 1, 6, 54, 4, 44, 4, 181, 0, 182, 42, 180, 0, 35, 4, 27, 120, 182, 1, 6, 54, 5, 44, 29]
abbrev dktX1_way_1 : List UInt8 := dkwX1_way_1 ++ dktX1_way_2
def dkwX1_way_0 : List UInt8 := [42, 27, 182, 0, 103, 77, 44, 180, 0, 182, 62, 44, 3, 181, 0, 182, 42, 180, 0, 35, 4, 27, 120]
abbrev dktX1_way_0 : List UInt8 := dkwX1_way_0 ++ dktX1_way_1
theorem dksX1_way_0 : cX1_way.data.toList.drop 0 = dktX1_way_0 := by decide +kernel
theorem dksX1_way_1 : cX1_way.data.toList.drop 23 = dktX1_way_1 := dk_seg dksX1_way_0 23 rfl rfl
theorem dksX1_way_2 : cX1_way.data.toList.drop 47 = dktX1_way_2 := dk_seg dksX1_way_1 24 rfl rfl
theorem dksX1_way_3 : cX1_way.data.toList.drop 70 = dktX1_way_3 := dk_seg dksX1_way_2 23 rfl rfl
theorem dksX1_way_4 : cX1_way.data.toList.drop 92 = dktX1_way_4 := dk_seg dksX1_way_3 22 rfl rfl
theorem dksX1_way_5 : cX1_way.data.toList.drop 115 = dktX1_way_5 := dk_seg dksX1_way_4 23 rfl rfl
theorem dX1_way_0 : decode cX1_way 0 = .ok (.aload_n 0, 1) := dk_42 (dk_at dksX1_way_0 0 rfl rfl)
theorem dX1_way_1 : decode cX1_way 1 = .ok (.iload_n 1, 1) := dk_27 (dk_at dksX1_way_0 1 rfl rfl)
theorem dX1_way_2 : decode cX1_way 2 = .ok (.invokevirtual 103, 3) := dk_182 0 103 (dk_at dksX1_way_0 2 rfl rfl)
theorem dX1_way_5 : decode cX1_way 5 = .ok (.astore_n 2, 1) := dk_77 (dk_at dksX1_way_0 5 rfl rfl)
theorem dX1_way_6 : decode cX1_way 6 = .ok (.aload_n 2, 1) := dk_44 (dk_at dksX1_way_0 6 rfl rfl)
theorem dX1_way_7 : decode cX1_way 7 = .ok (.getfield 182, 3) := dk_180 0 182 (dk_at dksX1_way_0 7 rfl rfl)
theorem dX1_way_10 : decode cX1_way 10 = .ok (.istore_n 3, 1) := dk_62 (dk_at dksX1_way_0 10 rfl rfl)
theorem dX1_way_11 : decode cX1_way 11 = .ok (.aload_n 2, 1) := dk_44 (dk_at dksX1_way_0 11 rfl rfl)
theorem dX1_way_12 : decode cX1_way 12 = .ok (.iconst 0, 1) := dk_3 (dk_at dksX1_way_0 12 rfl rfl)
theorem dX1_way_13 : decode cX1_way 13 = .ok (.putfield 182, 3) := dk_181 0 182 (dk_at dksX1_way_0 13 rfl rfl)
theorem dX1_way_16 : decode cX1_way 16 = .ok (.aload_n 0, 1) := dk_42 (dk_at dksX1_way_0 16 rfl rfl)
theorem dX1_way_17 : decode cX1_way 17 = .ok (.getfield 35, 3) := dk_180 0 35 (dk_at dksX1_way_0 17 rfl rfl)
theorem dX1_way_20 : decode cX1_way 20 = .ok (.iconst 1, 1) := dk_4 (dk_at dksX1_way_0 20 rfl rfl)
theorem dX1_way_21 : decode cX1_way 21 = .ok (.iload_n 1, 1) := dk_27 (dk_at dksX1_way_0 21 rfl rfl)
theorem dX1_way_22 : decode cX1_way 22 = .ok (.ishl, 1) := dk_120 (dk_at dksX1_way_0 22 rfl rfl)
theorem dX1_way_23 : decode cX1_way 23 = .ok (.invokevirtual 262, 3) := dk_182 1 6 (dk_at dksX1_way_1 0 rfl rfl)
theorem dX1_way_26 : decode cX1_way 26 = .ok (.istore 4, 2) := dk_54 4 (dk_at dksX1_way_1 3 rfl rfl)
theorem dX1_way_28 : decode cX1_way 28 = .ok (.aload_n 2, 1) := dk_44 (dk_at dksX1_way_1 5 rfl rfl)
theorem dX1_way_29 : decode cX1_way 29 = .ok (.iconst 1, 1) := dk_4 (dk_at dksX1_way_1 6 rfl rfl)
theorem dX1_way_30 : decode cX1_way 30 = .ok (.putfield 182, 3) := dk_181 0 182 (dk_at dksX1_way_1 7 rfl rfl)
theorem dX1_way_33 : decode cX1_way 33 = .ok (.aload_n 0, 1) := dk_42 (dk_at dksX1_way_1 10 rfl rfl)
theorem dX1_way_34 : decode cX1_way 34 = .ok (.getfield 35, 3) := dk_180 0 35 (dk_at dksX1_way_1 11 rfl rfl)
theorem dX1_way_37 : decode cX1_way 37 = .ok (.iconst 1, 1) := dk_4 (dk_at dksX1_way_1 14 rfl rfl)
theorem dX1_way_38 : decode cX1_way 38 = .ok (.iload_n 1, 1) := dk_27 (dk_at dksX1_way_1 15 rfl rfl)
theorem dX1_way_39 : decode cX1_way 39 = .ok (.ishl, 1) := dk_120 (dk_at dksX1_way_1 16 rfl rfl)
theorem dX1_way_40 : decode cX1_way 40 = .ok (.invokevirtual 262, 3) := dk_182 1 6 (dk_at dksX1_way_1 17 rfl rfl)
theorem dX1_way_43 : decode cX1_way 43 = .ok (.istore 5, 2) := dk_54 5 (dk_at dksX1_way_1 20 rfl rfl)
theorem dX1_way_45 : decode cX1_way 45 = .ok (.aload_n 2, 1) := dk_44 (dk_at dksX1_way_1 22 rfl rfl)
theorem dX1_way_46 : decode cX1_way 46 = .ok (.iload_n 3, 1) := dk_29 (dk_at dksX1_way_1 23 rfl rfl)
theorem dX1_way_47 : decode cX1_way 47 = .ok (.putfield 182, 3) := dk_181 0 182 (dk_at dksX1_way_2 0 rfl rfl)
theorem dX1_way_50 : decode cX1_way 50 = .ok (.iload 4, 2) := dk_21 4 (dk_at dksX1_way_2 3 rfl rfl)
theorem dX1_way_52 : decode cX1_way 52 = .ok (.bipush (-2), 2) := dk_16 254 (dk_at dksX1_way_2 5 rfl rfl)
theorem dX1_way_54 : decode cX1_way 54 = .ok (.if_icmp .eq 10, 3) := dk_159 0 10 (dk_at dksX1_way_2 7 rfl rfl)
theorem dX1_way_57 : decode cX1_way 57 = .ok (.iload 5, 2) := dk_21 5 (dk_at dksX1_way_2 10 rfl rfl)
theorem dX1_way_59 : decode cX1_way 59 = .ok (.bipush (-2), 2) := dk_16 254 (dk_at dksX1_way_2 12 rfl rfl)
theorem dX1_way_61 : decode cX1_way 61 = .ok (.if_icmp .ne 6, 3) := dk_160 0 6 (dk_at dksX1_way_2 14 rfl rfl)
theorem dX1_way_64 : decode cX1_way 64 = .ok (.bipush (-2), 2) := dk_16 254 (dk_at dksX1_way_2 17 rfl rfl)
theorem dX1_way_66 : decode cX1_way 66 = .ok (.ireturn, 1) := dk_172 (dk_at dksX1_way_2 19 rfl rfl)
theorem dX1_way_67 : decode cX1_way 67 = .ok (.iload 4, 2) := dk_21 4 (dk_at dksX1_way_2 20 rfl rfl)
theorem dX1_way_69 : decode cX1_way 69 = .ok (.iconst (-1), 1) := dk_2 (dk_at dksX1_way_2 22 rfl rfl)
theorem dX1_way_70 : decode cX1_way 70 = .ok (.if_icmp .ne 9, 3) := dk_160 0 9 (dk_at dksX1_way_3 0 rfl rfl)
theorem dX1_way_73 : decode cX1_way 73 = .ok (.ldc_w 268, 3) := dk_19 1 12 (dk_at dksX1_way_3 3 rfl rfl)
theorem dX1_way_76 : decode cX1_way 76 = .ok (.goto 5, 3) := dk_167 0 5 (dk_at dksX1_way_3 6 rfl rfl)
theorem dX1_way_79 : decode cX1_way 79 = .ok (.iload 4, 2) := dk_21 4 (dk_at dksX1_way_3 9 rfl rfl)
theorem dX1_way_81 : decode cX1_way 81 = .ok (.istore 4, 2) := dk_54 4 (dk_at dksX1_way_3 11 rfl rfl)
theorem dX1_way_83 : decode cX1_way 83 = .ok (.iload 5, 2) := dk_21 5 (dk_at dksX1_way_3 13 rfl rfl)
theorem dX1_way_85 : decode cX1_way 85 = .ok (.iconst (-1), 1) := dk_2 (dk_at dksX1_way_3 15 rfl rfl)
theorem dX1_way_86 : decode cX1_way 86 = .ok (.if_icmp .ne 9, 3) := dk_160 0 9 (dk_at dksX1_way_3 16 rfl rfl)
theorem dX1_way_89 : decode cX1_way 89 = .ok (.ldc_w 268, 3) := dk_19 1 12 (dk_at dksX1_way_3 19 rfl rfl)
theorem dX1_way_92 : decode cX1_way 92 = .ok (.goto 5, 3) := dk_167 0 5 (dk_at dksX1_way_4 0 rfl rfl)
theorem dX1_way_95 : decode cX1_way 95 = .ok (.iload 5, 2) := dk_21 5 (dk_at dksX1_way_4 3 rfl rfl)
theorem dX1_way_97 : decode cX1_way 97 = .ok (.istore 5, 2) := dk_54 5 (dk_at dksX1_way_4 5 rfl rfl)
theorem dX1_way_99 : decode cX1_way 99 = .ok (.iload 4, 2) := dk_21 4 (dk_at dksX1_way_4 7 rfl rfl)
theorem dX1_way_101 : decode cX1_way 101 = .ok (.iload 5, 2) := dk_21 5 (dk_at dksX1_way_4 9 rfl rfl)
theorem dX1_way_103 : decode cX1_way 103 = .ok (.if_icmp .ne 8, 3) := dk_160 0 8 (dk_at dksX1_way_4 11 rfl rfl)
theorem dX1_way_106 : decode cX1_way 106 = .ok (.bipush (-3), 2) := dk_16 253 (dk_at dksX1_way_4 14 rfl rfl)
theorem dX1_way_108 : decode cX1_way 108 = .ok (.goto 15, 3) := dk_167 0 15 (dk_at dksX1_way_4 16 rfl rfl)
theorem dX1_way_111 : decode cX1_way 111 = .ok (.iload 4, 2) := dk_21 4 (dk_at dksX1_way_4 19 rfl rfl)
theorem dX1_way_113 : decode cX1_way 113 = .ok (.iload 5, 2) := dk_21 5 (dk_at dksX1_way_4 21 rfl rfl)
theorem dX1_way_115 : decode cX1_way 115 = .ok (.if_icmp .ge 7, 3) := dk_162 0 7 (dk_at dksX1_way_5 0 rfl rfl)
theorem dX1_way_118 : decode cX1_way 118 = .ok (.iconst 0, 1) := dk_3 (dk_at dksX1_way_5 3 rfl rfl)
theorem dX1_way_119 : decode cX1_way 119 = .ok (.goto 4, 3) := dk_167 0 4 (dk_at dksX1_way_5 4 rfl rfl)
theorem dX1_way_122 : decode cX1_way 122 = .ok (.iconst 1, 1) := dk_4 (dk_at dksX1_way_5 7 rfl rfl)
theorem dX1_way_123 : decode cX1_way 123 = .ok (.ireturn, 1) := dk_172 (dk_at dksX1_way_5 8 rfl rfl)
def dkwX1_cheaper_3 : List UInt8 := [167, 0, 9, 42, 180, 0, 253, 29, 100, 172]
abbrev dktX1_cheaper_3 : List UInt8 := dkwX1_cheaper_3 ++ []
def dkwX1_cheaper_2 : List UInt8 := [182, 1, 3, 182, 1, 6, 62, 42, 180, 0, 19, 180, 0, 237, 27, 28, 79, 29, 156, 0, 7, 29]
abbrev dktX1_cheaper_2 : List UInt8 := dkwX1_cheaper_2 ++ dktX1_cheaper_3
def dkwX1_cheaper_1 : List UInt8 := [46, 61, 28, 5, 162, 0, 5, 3, 172, 42, 180, 0, 19, 180, 0, 237, 27, 4, 79, 42, 180, 0, 35, 42]
abbrev dktX1_cheaper_1 : List UInt8 := dkwX1_cheaper_1 ++ dktX1_cheaper_2
def dkwX1_cheaper_0 : List UInt8 := [27, 184, 0, 234, 42, 182, 1, 27, 156, 0, 8, 42, 180, 0, 253, 172, 42, 180, 0, 19, 180, 0, 237, 27]
abbrev dktX1_cheaper_0 : List UInt8 := dkwX1_cheaper_0 ++ dktX1_cheaper_1
theorem dksX1_cheaper_0 : cX1_cheaper.data.toList.drop 0 = dktX1_cheaper_0 := by decide +kernel
theorem dksX1_cheaper_1 : cX1_cheaper.data.toList.drop 24 = dktX1_cheaper_1 := dk_seg dksX1_cheaper_0 24 rfl rfl
theorem dksX1_cheaper_2 : cX1_cheaper.data.toList.drop 48 = dktX1_cheaper_2 := dk_seg dksX1_cheaper_1 24 rfl rfl
theorem dksX1_cheaper_3 : cX1_cheaper.data.toList.drop 70 = dktX1_cheaper_3 := dk_seg dksX1_cheaper_2 22 rfl rfl
theorem dX1_cheaper_0 : decode cX1_cheaper 0 = .ok (.iload_n 1, 1) := dk_27 (dk_at dksX1_cheaper_0 0 rfl rfl)
theorem dX1_cheaper_1 : decode cX1_cheaper 1 = .ok (.invokestatic 234, 3) := dk_184 0 234 (dk_at dksX1_cheaper_0 1 rfl rfl)
theorem dX1_cheaper_4 : decode cX1_cheaper 4 = .ok (.aload_n 0, 1) := dk_42 (dk_at dksX1_cheaper_0 4 rfl rfl)
theorem dX1_cheaper_5 : decode cX1_cheaper 5 = .ok (.invokevirtual 283, 3) := dk_182 1 27 (dk_at dksX1_cheaper_0 5 rfl rfl)
theorem dX1_cheaper_8 : decode cX1_cheaper 8 = .ok (.ifCond .ge 8, 3) := dk_156 0 8 (dk_at dksX1_cheaper_0 8 rfl rfl)
theorem dX1_cheaper_11 : decode cX1_cheaper 11 = .ok (.aload_n 0, 1) := dk_42 (dk_at dksX1_cheaper_0 11 rfl rfl)
theorem dX1_cheaper_12 : decode cX1_cheaper 12 = .ok (.getfield 253, 3) := dk_180 0 253 (dk_at dksX1_cheaper_0 12 rfl rfl)
theorem dX1_cheaper_15 : decode cX1_cheaper 15 = .ok (.ireturn, 1) := dk_172 (dk_at dksX1_cheaper_0 15 rfl rfl)
theorem dX1_cheaper_16 : decode cX1_cheaper 16 = .ok (.aload_n 0, 1) := dk_42 (dk_at dksX1_cheaper_0 16 rfl rfl)
theorem dX1_cheaper_17 : decode cX1_cheaper 17 = .ok (.getfield 19, 3) := dk_180 0 19 (dk_at dksX1_cheaper_0 17 rfl rfl)
theorem dX1_cheaper_20 : decode cX1_cheaper 20 = .ok (.getfield 237, 3) := dk_180 0 237 (dk_at dksX1_cheaper_0 20 rfl rfl)
theorem dX1_cheaper_23 : decode cX1_cheaper 23 = .ok (.iload_n 1, 1) := dk_27 (dk_at dksX1_cheaper_0 23 rfl rfl)
theorem dX1_cheaper_24 : decode cX1_cheaper 24 = .ok (.iaload, 1) := dk_46 (dk_at dksX1_cheaper_1 0 rfl rfl)
theorem dX1_cheaper_25 : decode cX1_cheaper 25 = .ok (.istore_n 2, 1) := dk_61 (dk_at dksX1_cheaper_1 1 rfl rfl)
theorem dX1_cheaper_26 : decode cX1_cheaper 26 = .ok (.iload_n 2, 1) := dk_28 (dk_at dksX1_cheaper_1 2 rfl rfl)
theorem dX1_cheaper_27 : decode cX1_cheaper 27 = .ok (.iconst 2, 1) := dk_5 (dk_at dksX1_cheaper_1 3 rfl rfl)
theorem dX1_cheaper_28 : decode cX1_cheaper 28 = .ok (.if_icmp .ge 5, 3) := dk_162 0 5 (dk_at dksX1_cheaper_1 4 rfl rfl)
theorem dX1_cheaper_31 : decode cX1_cheaper 31 = .ok (.iconst 0, 1) := dk_3 (dk_at dksX1_cheaper_1 7 rfl rfl)
theorem dX1_cheaper_32 : decode cX1_cheaper 32 = .ok (.ireturn, 1) := dk_172 (dk_at dksX1_cheaper_1 8 rfl rfl)
theorem dX1_cheaper_33 : decode cX1_cheaper 33 = .ok (.aload_n 0, 1) := dk_42 (dk_at dksX1_cheaper_1 9 rfl rfl)
theorem dX1_cheaper_34 : decode cX1_cheaper 34 = .ok (.getfield 19, 3) := dk_180 0 19 (dk_at dksX1_cheaper_1 10 rfl rfl)
theorem dX1_cheaper_37 : decode cX1_cheaper 37 = .ok (.getfield 237, 3) := dk_180 0 237 (dk_at dksX1_cheaper_1 13 rfl rfl)
theorem dX1_cheaper_40 : decode cX1_cheaper 40 = .ok (.iload_n 1, 1) := dk_27 (dk_at dksX1_cheaper_1 16 rfl rfl)
theorem dX1_cheaper_41 : decode cX1_cheaper 41 = .ok (.iconst 1, 1) := dk_4 (dk_at dksX1_cheaper_1 17 rfl rfl)
theorem dX1_cheaper_42 : decode cX1_cheaper 42 = .ok (.iastore, 1) := dk_79 (dk_at dksX1_cheaper_1 18 rfl rfl)
theorem dX1_cheaper_43 : decode cX1_cheaper 43 = .ok (.aload_n 0, 1) := dk_42 (dk_at dksX1_cheaper_1 19 rfl rfl)
theorem dX1_cheaper_44 : decode cX1_cheaper 44 = .ok (.getfield 35, 3) := dk_180 0 35 (dk_at dksX1_cheaper_1 20 rfl rfl)
theorem dX1_cheaper_47 : decode cX1_cheaper 47 = .ok (.aload_n 0, 1) := dk_42 (dk_at dksX1_cheaper_1 23 rfl rfl)
theorem dX1_cheaper_48 : decode cX1_cheaper 48 = .ok (.invokevirtual 259, 3) := dk_182 1 3 (dk_at dksX1_cheaper_2 0 rfl rfl)
theorem dX1_cheaper_51 : decode cX1_cheaper 51 = .ok (.invokevirtual 262, 3) := dk_182 1 6 (dk_at dksX1_cheaper_2 3 rfl rfl)
theorem dX1_cheaper_54 : decode cX1_cheaper 54 = .ok (.istore_n 3, 1) := dk_62 (dk_at dksX1_cheaper_2 6 rfl rfl)
theorem dX1_cheaper_55 : decode cX1_cheaper 55 = .ok (.aload_n 0, 1) := dk_42 (dk_at dksX1_cheaper_2 7 rfl rfl)
theorem dX1_cheaper_56 : decode cX1_cheaper 56 = .ok (.getfield 19, 3) := dk_180 0 19 (dk_at dksX1_cheaper_2 8 rfl rfl)
theorem dX1_cheaper_59 : decode cX1_cheaper 59 = .ok (.getfield 237, 3) := dk_180 0 237 (dk_at dksX1_cheaper_2 11 rfl rfl)
theorem dX1_cheaper_62 : decode cX1_cheaper 62 = .ok (.iload_n 1, 1) := dk_27 (dk_at dksX1_cheaper_2 14 rfl rfl)
theorem dX1_cheaper_63 : decode cX1_cheaper 63 = .ok (.iload_n 2, 1) := dk_28 (dk_at dksX1_cheaper_2 15 rfl rfl)
theorem dX1_cheaper_64 : decode cX1_cheaper 64 = .ok (.iastore, 1) := dk_79 (dk_at dksX1_cheaper_2 16 rfl rfl)
theorem dX1_cheaper_65 : decode cX1_cheaper 65 = .ok (.iload_n 3, 1) := dk_29 (dk_at dksX1_cheaper_2 17 rfl rfl)
theorem dX1_cheaper_66 : decode cX1_cheaper 66 = .ok (.ifCond .ge 7, 3) := dk_156 0 7 (dk_at dksX1_cheaper_2 18 rfl rfl)
theorem dX1_cheaper_69 : decode cX1_cheaper 69 = .ok (.iload_n 3, 1) := dk_29 (dk_at dksX1_cheaper_2 21 rfl rfl)
theorem dX1_cheaper_70 : decode cX1_cheaper 70 = .ok (.goto 9, 3) := dk_167 0 9 (dk_at dksX1_cheaper_3 0 rfl rfl)
theorem dX1_cheaper_73 : decode cX1_cheaper 73 = .ok (.aload_n 0, 1) := dk_42 (dk_at dksX1_cheaper_3 3 rfl rfl)
theorem dX1_cheaper_74 : decode cX1_cheaper 74 = .ok (.getfield 253, 3) := dk_180 0 253 (dk_at dksX1_cheaper_3 4 rfl rfl)
theorem dX1_cheaper_77 : decode cX1_cheaper 77 = .ok (.iload_n 3, 1) := dk_29 (dk_at dksX1_cheaper_3 7 rfl rfl)
theorem dX1_cheaper_78 : decode cX1_cheaper 78 = .ok (.isub, 1) := dk_100 (dk_at dksX1_cheaper_3 8 rfl rfl)
theorem dX1_cheaper_79 : decode cX1_cheaper 79 = .ok (.ireturn, 1) := dk_172 (dk_at dksX1_cheaper_3 9 rfl rfl)
def dkwX0_kind_0 : List UInt8 := [44, 3, 42, 27, 182, 0, 7, 133, 80, 167, 0, 9, 78, 4, 172, 78, 5, 172, 3, 172]
abbrev dktX0_kind_0 : List UInt8 := dkwX0_kind_0 ++ []
theorem dksX0_kind_0 : cX0_kind.data.toList.drop 0 = dktX0_kind_0 := by decide +kernel
theorem dX0_kind_0 : decode cX0_kind 0 = .ok (.aload_n 2, 1) := dk_44 (dk_at dksX0_kind_0 0 rfl rfl)
theorem dX0_kind_1 : decode cX0_kind 1 = .ok (.iconst 0, 1) := dk_3 (dk_at dksX0_kind_0 1 rfl rfl)
theorem dX0_kind_2 : decode cX0_kind 2 = .ok (.aload_n 0, 1) := dk_42 (dk_at dksX0_kind_0 2 rfl rfl)
theorem dX0_kind_3 : decode cX0_kind 3 = .ok (.iload_n 1, 1) := dk_27 (dk_at dksX0_kind_0 3 rfl rfl)
theorem dX0_kind_4 : decode cX0_kind 4 = .ok (.invokevirtual 7, 3) := dk_182 0 7 (dk_at dksX0_kind_0 4 rfl rfl)
theorem dX0_kind_7 : decode cX0_kind 7 = .ok (.i2l, 1) := dk_133 (dk_at dksX0_kind_0 7 rfl rfl)
theorem dX0_kind_8 : decode cX0_kind 8 = .ok (.lastore, 1) := dk_80 (dk_at dksX0_kind_0 8 rfl rfl)
theorem dX0_kind_9 : decode cX0_kind 9 = .ok (.goto 9, 3) := dk_167 0 9 (dk_at dksX0_kind_0 9 rfl rfl)
theorem dX0_kind_12 : decode cX0_kind 12 = .ok (.astore_n 3, 1) := dk_78 (dk_at dksX0_kind_0 12 rfl rfl)
theorem dX0_kind_13 : decode cX0_kind 13 = .ok (.iconst 1, 1) := dk_4 (dk_at dksX0_kind_0 13 rfl rfl)
theorem dX0_kind_14 : decode cX0_kind 14 = .ok (.ireturn, 1) := dk_172 (dk_at dksX0_kind_0 14 rfl rfl)
theorem dX0_kind_15 : decode cX0_kind 15 = .ok (.astore_n 3, 1) := dk_78 (dk_at dksX0_kind_0 15 rfl rfl)
theorem dX0_kind_16 : decode cX0_kind 16 = .ok (.iconst 2, 1) := dk_5 (dk_at dksX0_kind_0 16 rfl rfl)
theorem dX0_kind_17 : decode cX0_kind 17 = .ok (.ireturn, 1) := dk_172 (dk_at dksX0_kind_0 17 rfl rfl)
theorem dX0_kind_18 : decode cX0_kind 18 = .ok (.iconst 0, 1) := dk_3 (dk_at dksX0_kind_0 18 rfl rfl)
theorem dX0_kind_19 : decode cX0_kind 19 = .ok (.ireturn, 1) := dk_172 (dk_at dksX0_kind_0 19 rfl rfl)
def dkwX0_measure_0 : List UInt8 := [43, 3, 42, 182, 0, 17, 133, 80, 167, 0, 6, 77, 4, 172, 3, 172]
abbrev dktX0_measure_0 : List UInt8 := dkwX0_measure_0 ++ []
theorem dksX0_measure_0 : cX0_measure.data.toList.drop 0 = dktX0_measure_0 := by decide +kernel
theorem dX0_measure_0 : decode cX0_measure 0 = .ok (.aload_n 1, 1) := dk_43 (dk_at dksX0_measure_0 0 rfl rfl)
theorem dX0_measure_1 : decode cX0_measure 1 = .ok (.iconst 0, 1) := dk_3 (dk_at dksX0_measure_0 1 rfl rfl)
theorem dX0_measure_2 : decode cX0_measure 2 = .ok (.aload_n 0, 1) := dk_42 (dk_at dksX0_measure_0 2 rfl rfl)
theorem dX0_measure_3 : decode cX0_measure 3 = .ok (.invokevirtual 17, 3) := dk_182 0 17 (dk_at dksX0_measure_0 3 rfl rfl)
theorem dX0_measure_6 : decode cX0_measure 6 = .ok (.i2l, 1) := dk_133 (dk_at dksX0_measure_0 6 rfl rfl)
theorem dX0_measure_7 : decode cX0_measure 7 = .ok (.lastore, 1) := dk_80 (dk_at dksX0_measure_0 7 rfl rfl)
theorem dX0_measure_8 : decode cX0_measure 8 = .ok (.goto 6, 3) := dk_167 0 6 (dk_at dksX0_measure_0 8 rfl rfl)
theorem dX0_measure_11 : decode cX0_measure 11 = .ok (.astore_n 2, 1) := dk_77 (dk_at dksX0_measure_0 11 rfl rfl)
theorem dX0_measure_12 : decode cX0_measure 12 = .ok (.iconst 1, 1) := dk_4 (dk_at dksX0_measure_0 12 rfl rfl)
theorem dX0_measure_13 : decode cX0_measure 13 = .ok (.ireturn, 1) := dk_172 (dk_at dksX0_measure_0 13 rfl rfl)
theorem dX0_measure_14 : decode cX0_measure 14 = .ok (.iconst 0, 1) := dk_3 (dk_at dksX0_measure_0 14 rfl rfl)
theorem dX0_measure_15 : decode cX0_measure 15 = .ok (.ireturn, 1) := dk_172 (dk_at dksX0_measure_0 15 rfl rfl)
def dkwX0_put_0 : List UInt8 := [42, 27, 28, 29, 182, 0, 21, 167, 0, 11, 58, 4, 4, 172, 58, 4, 5, 172, 3, 172]
abbrev dktX0_put_0 : List UInt8 := dkwX0_put_0 ++ []
theorem dksX0_put_0 : cX0_put.data.toList.drop 0 = dktX0_put_0 := by decide +kernel
theorem dX0_put_0 : decode cX0_put 0 = .ok (.aload_n 0, 1) := dk_42 (dk_at dksX0_put_0 0 rfl rfl)
theorem dX0_put_1 : decode cX0_put 1 = .ok (.iload_n 1, 1) := dk_27 (dk_at dksX0_put_0 1 rfl rfl)
theorem dX0_put_2 : decode cX0_put 2 = .ok (.iload_n 2, 1) := dk_28 (dk_at dksX0_put_0 2 rfl rfl)
theorem dX0_put_3 : decode cX0_put 3 = .ok (.iload_n 3, 1) := dk_29 (dk_at dksX0_put_0 3 rfl rfl)
theorem dX0_put_4 : decode cX0_put 4 = .ok (.invokevirtual 21, 3) := dk_182 0 21 (dk_at dksX0_put_0 4 rfl rfl)
theorem dX0_put_7 : decode cX0_put 7 = .ok (.goto 11, 3) := dk_167 0 11 (dk_at dksX0_put_0 7 rfl rfl)
theorem dX0_put_10 : decode cX0_put 10 = .ok (.astore 4, 2) := dk_58 4 (dk_at dksX0_put_0 10 rfl rfl)
theorem dX0_put_12 : decode cX0_put 12 = .ok (.iconst 1, 1) := dk_4 (dk_at dksX0_put_0 12 rfl rfl)
theorem dX0_put_13 : decode cX0_put 13 = .ok (.ireturn, 1) := dk_172 (dk_at dksX0_put_0 13 rfl rfl)
theorem dX0_put_14 : decode cX0_put 14 = .ok (.astore 4, 2) := dk_58 4 (dk_at dksX0_put_0 14 rfl rfl)
theorem dX0_put_16 : decode cX0_put 16 = .ok (.iconst 2, 1) := dk_5 (dk_at dksX0_put_0 16 rfl rfl)
theorem dX0_put_17 : decode cX0_put 17 = .ok (.ireturn, 1) := dk_172 (dk_at dksX0_put_0 17 rfl rfl)
theorem dX0_put_18 : decode cX0_put 18 = .ok (.iconst 0, 1) := dk_3 (dk_at dksX0_put_0 18 rfl rfl)
theorem dX0_put_19 : decode cX0_put 19 = .ok (.ireturn, 1) := dk_172 (dk_at dksX0_put_0 19 rfl rfl)
def dkwX0_moves_0 : List UInt8 := [45, 3, 42, 27, 28, 182, 0, 27, 133, 80, 167, 0, 7, 58, 4, 4, 172, 3, 172]
abbrev dktX0_moves_0 : List UInt8 := dkwX0_moves_0 ++ []
theorem dksX0_moves_0 : cX0_moves.data.toList.drop 0 = dktX0_moves_0 := by decide +kernel
theorem dX0_moves_0 : decode cX0_moves 0 = .ok (.aload_n 3, 1) := dk_45 (dk_at dksX0_moves_0 0 rfl rfl)
theorem dX0_moves_1 : decode cX0_moves 1 = .ok (.iconst 0, 1) := dk_3 (dk_at dksX0_moves_0 1 rfl rfl)
theorem dX0_moves_2 : decode cX0_moves 2 = .ok (.aload_n 0, 1) := dk_42 (dk_at dksX0_moves_0 2 rfl rfl)
theorem dX0_moves_3 : decode cX0_moves 3 = .ok (.iload_n 1, 1) := dk_27 (dk_at dksX0_moves_0 3 rfl rfl)
theorem dX0_moves_4 : decode cX0_moves 4 = .ok (.iload_n 2, 1) := dk_28 (dk_at dksX0_moves_0 4 rfl rfl)
theorem dX0_moves_5 : decode cX0_moves 5 = .ok (.invokevirtual 27, 3) := dk_182 0 27 (dk_at dksX0_moves_0 5 rfl rfl)
theorem dX0_moves_8 : decode cX0_moves 8 = .ok (.i2l, 1) := dk_133 (dk_at dksX0_moves_0 8 rfl rfl)
theorem dX0_moves_9 : decode cX0_moves 9 = .ok (.lastore, 1) := dk_80 (dk_at dksX0_moves_0 9 rfl rfl)
theorem dX0_moves_10 : decode cX0_moves 10 = .ok (.goto 7, 3) := dk_167 0 7 (dk_at dksX0_moves_0 10 rfl rfl)
theorem dX0_moves_13 : decode cX0_moves 13 = .ok (.astore 4, 2) := dk_58 4 (dk_at dksX0_moves_0 13 rfl rfl)
theorem dX0_moves_15 : decode cX0_moves 15 = .ok (.iconst 1, 1) := dk_4 (dk_at dksX0_moves_0 15 rfl rfl)
theorem dX0_moves_16 : decode cX0_moves 16 = .ok (.ireturn, 1) := dk_172 (dk_at dksX0_moves_0 16 rfl rfl)
theorem dX0_moves_17 : decode cX0_moves 17 = .ok (.iconst 0, 1) := dk_3 (dk_at dksX0_moves_0 17 rfl rfl)
theorem dX0_moves_18 : decode cX0_moves 18 = .ok (.ireturn, 1) := dk_172 (dk_at dksX0_moves_0 18 rfl rfl)
def dkwX0_book_0 : List UInt8 := [44, 3, 42, 27, 182, 0, 31, 133, 80, 167, 0, 9, 78, 4, 172, 78, 5, 172, 3, 172]
abbrev dktX0_book_0 : List UInt8 := dkwX0_book_0 ++ []
theorem dksX0_book_0 : cX0_book.data.toList.drop 0 = dktX0_book_0 := by decide +kernel
theorem dX0_book_0 : decode cX0_book 0 = .ok (.aload_n 2, 1) := dk_44 (dk_at dksX0_book_0 0 rfl rfl)
theorem dX0_book_1 : decode cX0_book 1 = .ok (.iconst 0, 1) := dk_3 (dk_at dksX0_book_0 1 rfl rfl)
theorem dX0_book_2 : decode cX0_book 2 = .ok (.aload_n 0, 1) := dk_42 (dk_at dksX0_book_0 2 rfl rfl)
theorem dX0_book_3 : decode cX0_book 3 = .ok (.iload_n 1, 1) := dk_27 (dk_at dksX0_book_0 3 rfl rfl)
theorem dX0_book_4 : decode cX0_book 4 = .ok (.invokevirtual 31, 3) := dk_182 0 31 (dk_at dksX0_book_0 4 rfl rfl)
theorem dX0_book_7 : decode cX0_book 7 = .ok (.i2l, 1) := dk_133 (dk_at dksX0_book_0 7 rfl rfl)
theorem dX0_book_8 : decode cX0_book 8 = .ok (.lastore, 1) := dk_80 (dk_at dksX0_book_0 8 rfl rfl)
theorem dX0_book_9 : decode cX0_book 9 = .ok (.goto 9, 3) := dk_167 0 9 (dk_at dksX0_book_0 9 rfl rfl)
theorem dX0_book_12 : decode cX0_book 12 = .ok (.astore_n 3, 1) := dk_78 (dk_at dksX0_book_0 12 rfl rfl)
theorem dX0_book_13 : decode cX0_book 13 = .ok (.iconst 1, 1) := dk_4 (dk_at dksX0_book_0 13 rfl rfl)
theorem dX0_book_14 : decode cX0_book 14 = .ok (.ireturn, 1) := dk_172 (dk_at dksX0_book_0 14 rfl rfl)
theorem dX0_book_15 : decode cX0_book 15 = .ok (.astore_n 3, 1) := dk_78 (dk_at dksX0_book_0 15 rfl rfl)
theorem dX0_book_16 : decode cX0_book 16 = .ok (.iconst 2, 1) := dk_5 (dk_at dksX0_book_0 16 rfl rfl)
theorem dX0_book_17 : decode cX0_book 17 = .ok (.ireturn, 1) := dk_172 (dk_at dksX0_book_0 17 rfl rfl)
theorem dX0_book_18 : decode cX0_book 18 = .ok (.iconst 0, 1) := dk_3 (dk_at dksX0_book_0 18 rfl rfl)
theorem dX0_book_19 : decode cX0_book 19 = .ok (.ireturn, 1) := dk_172 (dk_at dksX0_book_0 19 rfl rfl)
def dkwX0_note_1 : List UInt8 := [58, 7, 5, 172, 58, 7, 6, 172, 3, 172]
abbrev dktX0_note_1 : List UInt8 := dkwX0_note_1 ++ []
def dkwX0_note_0 : List UInt8 := [25, 6, 3, 42, 27, 28, 29, 21, 4, 21, 5, 182, 0, 34, 133, 80, 167, 0, 15, 58, 7, 4, 172]
abbrev dktX0_note_0 : List UInt8 := dkwX0_note_0 ++ dktX0_note_1
theorem dksX0_note_0 : cX0_note.data.toList.drop 0 = dktX0_note_0 := by decide +kernel
theorem dksX0_note_1 : cX0_note.data.toList.drop 23 = dktX0_note_1 := dk_seg dksX0_note_0 23 rfl rfl
theorem dX0_note_0 : decode cX0_note 0 = .ok (.aload 6, 2) := dk_25 6 (dk_at dksX0_note_0 0 rfl rfl)
theorem dX0_note_2 : decode cX0_note 2 = .ok (.iconst 0, 1) := dk_3 (dk_at dksX0_note_0 2 rfl rfl)
theorem dX0_note_3 : decode cX0_note 3 = .ok (.aload_n 0, 1) := dk_42 (dk_at dksX0_note_0 3 rfl rfl)
theorem dX0_note_4 : decode cX0_note 4 = .ok (.iload_n 1, 1) := dk_27 (dk_at dksX0_note_0 4 rfl rfl)
theorem dX0_note_5 : decode cX0_note 5 = .ok (.iload_n 2, 1) := dk_28 (dk_at dksX0_note_0 5 rfl rfl)
theorem dX0_note_6 : decode cX0_note 6 = .ok (.iload_n 3, 1) := dk_29 (dk_at dksX0_note_0 6 rfl rfl)
theorem dX0_note_7 : decode cX0_note 7 = .ok (.iload 4, 2) := dk_21 4 (dk_at dksX0_note_0 7 rfl rfl)
theorem dX0_note_9 : decode cX0_note 9 = .ok (.iload 5, 2) := dk_21 5 (dk_at dksX0_note_0 9 rfl rfl)
theorem dX0_note_11 : decode cX0_note 11 = .ok (.invokevirtual 34, 3) := dk_182 0 34 (dk_at dksX0_note_0 11 rfl rfl)
theorem dX0_note_14 : decode cX0_note 14 = .ok (.i2l, 1) := dk_133 (dk_at dksX0_note_0 14 rfl rfl)
theorem dX0_note_15 : decode cX0_note 15 = .ok (.lastore, 1) := dk_80 (dk_at dksX0_note_0 15 rfl rfl)
theorem dX0_note_16 : decode cX0_note 16 = .ok (.goto 15, 3) := dk_167 0 15 (dk_at dksX0_note_0 16 rfl rfl)
theorem dX0_note_19 : decode cX0_note 19 = .ok (.astore 7, 2) := dk_58 7 (dk_at dksX0_note_0 19 rfl rfl)
theorem dX0_note_21 : decode cX0_note 21 = .ok (.iconst 1, 1) := dk_4 (dk_at dksX0_note_0 21 rfl rfl)
theorem dX0_note_22 : decode cX0_note 22 = .ok (.ireturn, 1) := dk_172 (dk_at dksX0_note_0 22 rfl rfl)
theorem dX0_note_23 : decode cX0_note 23 = .ok (.astore 7, 2) := dk_58 7 (dk_at dksX0_note_1 0 rfl rfl)
theorem dX0_note_25 : decode cX0_note 25 = .ok (.iconst 2, 1) := dk_5 (dk_at dksX0_note_1 2 rfl rfl)
theorem dX0_note_26 : decode cX0_note 26 = .ok (.ireturn, 1) := dk_172 (dk_at dksX0_note_1 3 rfl rfl)
theorem dX0_note_27 : decode cX0_note 27 = .ok (.astore 7, 2) := dk_58 7 (dk_at dksX0_note_1 4 rfl rfl)
theorem dX0_note_29 : decode cX0_note 29 = .ok (.iconst 3, 1) := dk_6 (dk_at dksX0_note_1 6 rfl rfl)
theorem dX0_note_30 : decode cX0_note 30 = .ok (.ireturn, 1) := dk_172 (dk_at dksX0_note_1 7 rfl rfl)
theorem dX0_note_31 : decode cX0_note 31 = .ok (.iconst 0, 1) := dk_3 (dk_at dksX0_note_1 8 rfl rfl)
theorem dX0_note_32 : decode cX0_note 32 = .ok (.ireturn, 1) := dk_172 (dk_at dksX0_note_1 9 rfl rfl)
def dkwX0_change_1 : List UInt8 := [80, 167, 0, 11, 58, 8, 4, 172, 58, 8, 5, 172, 3, 172]
abbrev dktX0_change_1 : List UInt8 := dkwX0_change_1 ++ []
def dkwX0_change_0 : List UInt8 := [25, 7, 3, 42, 27, 28, 29, 21, 4, 21, 5, 21, 6, 182, 0, 38, 153, 0, 7, 10, 167, 0, 4, 9]
abbrev dktX0_change_0 : List UInt8 := dkwX0_change_0 ++ dktX0_change_1
theorem dksX0_change_0 : cX0_change.data.toList.drop 0 = dktX0_change_0 := by decide +kernel
theorem dksX0_change_1 : cX0_change.data.toList.drop 24 = dktX0_change_1 := dk_seg dksX0_change_0 24 rfl rfl
theorem dX0_change_0 : decode cX0_change 0 = .ok (.aload 7, 2) := dk_25 7 (dk_at dksX0_change_0 0 rfl rfl)
theorem dX0_change_2 : decode cX0_change 2 = .ok (.iconst 0, 1) := dk_3 (dk_at dksX0_change_0 2 rfl rfl)
theorem dX0_change_3 : decode cX0_change 3 = .ok (.aload_n 0, 1) := dk_42 (dk_at dksX0_change_0 3 rfl rfl)
theorem dX0_change_4 : decode cX0_change 4 = .ok (.iload_n 1, 1) := dk_27 (dk_at dksX0_change_0 4 rfl rfl)
theorem dX0_change_5 : decode cX0_change 5 = .ok (.iload_n 2, 1) := dk_28 (dk_at dksX0_change_0 5 rfl rfl)
theorem dX0_change_6 : decode cX0_change 6 = .ok (.iload_n 3, 1) := dk_29 (dk_at dksX0_change_0 6 rfl rfl)
theorem dX0_change_7 : decode cX0_change 7 = .ok (.iload 4, 2) := dk_21 4 (dk_at dksX0_change_0 7 rfl rfl)
theorem dX0_change_9 : decode cX0_change 9 = .ok (.iload 5, 2) := dk_21 5 (dk_at dksX0_change_0 9 rfl rfl)
theorem dX0_change_11 : decode cX0_change 11 = .ok (.iload 6, 2) := dk_21 6 (dk_at dksX0_change_0 11 rfl rfl)
theorem dX0_change_13 : decode cX0_change 13 = .ok (.invokevirtual 38, 3) := dk_182 0 38 (dk_at dksX0_change_0 13 rfl rfl)
theorem dX0_change_16 : decode cX0_change 16 = .ok (.ifCond .eq 7, 3) := dk_153 0 7 (dk_at dksX0_change_0 16 rfl rfl)
theorem dX0_change_19 : decode cX0_change 19 = .ok (.lconst 1, 1) := dk_10 (dk_at dksX0_change_0 19 rfl rfl)
theorem dX0_change_20 : decode cX0_change 20 = .ok (.goto 4, 3) := dk_167 0 4 (dk_at dksX0_change_0 20 rfl rfl)
theorem dX0_change_23 : decode cX0_change 23 = .ok (.lconst 0, 1) := dk_9 (dk_at dksX0_change_0 23 rfl rfl)
theorem dX0_change_24 : decode cX0_change 24 = .ok (.lastore, 1) := dk_80 (dk_at dksX0_change_1 0 rfl rfl)
theorem dX0_change_25 : decode cX0_change 25 = .ok (.goto 11, 3) := dk_167 0 11 (dk_at dksX0_change_1 1 rfl rfl)
theorem dX0_change_28 : decode cX0_change 28 = .ok (.astore 8, 2) := dk_58 8 (dk_at dksX0_change_1 4 rfl rfl)
theorem dX0_change_30 : decode cX0_change 30 = .ok (.iconst 1, 1) := dk_4 (dk_at dksX0_change_1 6 rfl rfl)
theorem dX0_change_31 : decode cX0_change 31 = .ok (.ireturn, 1) := dk_172 (dk_at dksX0_change_1 7 rfl rfl)
theorem dX0_change_32 : decode cX0_change 32 = .ok (.astore 8, 2) := dk_58 8 (dk_at dksX0_change_1 8 rfl rfl)
theorem dX0_change_34 : decode cX0_change 34 = .ok (.iconst 2, 1) := dk_5 (dk_at dksX0_change_1 10 rfl rfl)
theorem dX0_change_35 : decode cX0_change 35 = .ok (.ireturn, 1) := dk_172 (dk_at dksX0_change_1 11 rfl rfl)
theorem dX0_change_36 : decode cX0_change 36 = .ok (.iconst 0, 1) := dk_3 (dk_at dksX0_change_1 12 rfl rfl)
theorem dX0_change_37 : decode cX0_change 37 = .ok (.ireturn, 1) := dk_172 (dk_at dksX0_change_1 13 rfl rfl)
def dkwX0_look_1 : List UInt8 := [172]
abbrev dktX0_look_1 : List UInt8 := dkwX0_look_1 ++ []
def dkwX0_look_0 : List UInt8 := [25, 4, 3, 42, 27, 28, 29, 182, 0, 42, 133, 80, 167, 0, 11, 58, 5, 4, 172, 58, 5, 5, 172, 3]
abbrev dktX0_look_0 : List UInt8 := dkwX0_look_0 ++ dktX0_look_1
theorem dksX0_look_0 : cX0_look.data.toList.drop 0 = dktX0_look_0 := by decide +kernel
theorem dksX0_look_1 : cX0_look.data.toList.drop 24 = dktX0_look_1 := dk_seg dksX0_look_0 24 rfl rfl
theorem dX0_look_0 : decode cX0_look 0 = .ok (.aload 4, 2) := dk_25 4 (dk_at dksX0_look_0 0 rfl rfl)
theorem dX0_look_2 : decode cX0_look 2 = .ok (.iconst 0, 1) := dk_3 (dk_at dksX0_look_0 2 rfl rfl)
theorem dX0_look_3 : decode cX0_look 3 = .ok (.aload_n 0, 1) := dk_42 (dk_at dksX0_look_0 3 rfl rfl)
theorem dX0_look_4 : decode cX0_look 4 = .ok (.iload_n 1, 1) := dk_27 (dk_at dksX0_look_0 4 rfl rfl)
theorem dX0_look_5 : decode cX0_look 5 = .ok (.iload_n 2, 1) := dk_28 (dk_at dksX0_look_0 5 rfl rfl)
theorem dX0_look_6 : decode cX0_look 6 = .ok (.iload_n 3, 1) := dk_29 (dk_at dksX0_look_0 6 rfl rfl)
theorem dX0_look_7 : decode cX0_look 7 = .ok (.invokevirtual 42, 3) := dk_182 0 42 (dk_at dksX0_look_0 7 rfl rfl)
theorem dX0_look_10 : decode cX0_look 10 = .ok (.i2l, 1) := dk_133 (dk_at dksX0_look_0 10 rfl rfl)
theorem dX0_look_11 : decode cX0_look 11 = .ok (.lastore, 1) := dk_80 (dk_at dksX0_look_0 11 rfl rfl)
theorem dX0_look_12 : decode cX0_look 12 = .ok (.goto 11, 3) := dk_167 0 11 (dk_at dksX0_look_0 12 rfl rfl)
theorem dX0_look_15 : decode cX0_look 15 = .ok (.astore 5, 2) := dk_58 5 (dk_at dksX0_look_0 15 rfl rfl)
theorem dX0_look_17 : decode cX0_look 17 = .ok (.iconst 1, 1) := dk_4 (dk_at dksX0_look_0 17 rfl rfl)
theorem dX0_look_18 : decode cX0_look 18 = .ok (.ireturn, 1) := dk_172 (dk_at dksX0_look_0 18 rfl rfl)
theorem dX0_look_19 : decode cX0_look 19 = .ok (.astore 5, 2) := dk_58 5 (dk_at dksX0_look_0 19 rfl rfl)
theorem dX0_look_21 : decode cX0_look 21 = .ok (.iconst 2, 1) := dk_5 (dk_at dksX0_look_0 21 rfl rfl)
theorem dX0_look_22 : decode cX0_look 22 = .ok (.ireturn, 1) := dk_172 (dk_at dksX0_look_0 22 rfl rfl)
theorem dX0_look_23 : decode cX0_look 23 = .ok (.iconst 0, 1) := dk_3 (dk_at dksX0_look_0 23 rfl rfl)
theorem dX0_look_24 : decode cX0_look 24 = .ok (.ireturn, 1) := dk_172 (dk_at dksX0_look_1 0 rfl rfl)
def dkwX0_write_1 : List UInt8 := [172, 3, 172]
abbrev dktX0_write_1 : List UInt8 := dkwX0_write_1 ++ []
def dkwX0_write_0 : List UInt8 := [25, 5, 3, 42, 27, 28, 29, 21, 4, 182, 0, 48, 133, 80, 167, 0, 11, 58, 6, 4, 172, 58, 6, 5]
abbrev dktX0_write_0 : List UInt8 := dkwX0_write_0 ++ dktX0_write_1
theorem dksX0_write_0 : cX0_write.data.toList.drop 0 = dktX0_write_0 := by decide +kernel
theorem dksX0_write_1 : cX0_write.data.toList.drop 24 = dktX0_write_1 := dk_seg dksX0_write_0 24 rfl rfl
theorem dX0_write_0 : decode cX0_write 0 = .ok (.aload 5, 2) := dk_25 5 (dk_at dksX0_write_0 0 rfl rfl)
theorem dX0_write_2 : decode cX0_write 2 = .ok (.iconst 0, 1) := dk_3 (dk_at dksX0_write_0 2 rfl rfl)
theorem dX0_write_3 : decode cX0_write 3 = .ok (.aload_n 0, 1) := dk_42 (dk_at dksX0_write_0 3 rfl rfl)
theorem dX0_write_4 : decode cX0_write 4 = .ok (.iload_n 1, 1) := dk_27 (dk_at dksX0_write_0 4 rfl rfl)
theorem dX0_write_5 : decode cX0_write 5 = .ok (.iload_n 2, 1) := dk_28 (dk_at dksX0_write_0 5 rfl rfl)
theorem dX0_write_6 : decode cX0_write 6 = .ok (.iload_n 3, 1) := dk_29 (dk_at dksX0_write_0 6 rfl rfl)
theorem dX0_write_7 : decode cX0_write 7 = .ok (.iload 4, 2) := dk_21 4 (dk_at dksX0_write_0 7 rfl rfl)
theorem dX0_write_9 : decode cX0_write 9 = .ok (.invokevirtual 48, 3) := dk_182 0 48 (dk_at dksX0_write_0 9 rfl rfl)
theorem dX0_write_12 : decode cX0_write 12 = .ok (.i2l, 1) := dk_133 (dk_at dksX0_write_0 12 rfl rfl)
theorem dX0_write_13 : decode cX0_write 13 = .ok (.lastore, 1) := dk_80 (dk_at dksX0_write_0 13 rfl rfl)
theorem dX0_write_14 : decode cX0_write 14 = .ok (.goto 11, 3) := dk_167 0 11 (dk_at dksX0_write_0 14 rfl rfl)
theorem dX0_write_17 : decode cX0_write 17 = .ok (.astore 6, 2) := dk_58 6 (dk_at dksX0_write_0 17 rfl rfl)
theorem dX0_write_19 : decode cX0_write 19 = .ok (.iconst 1, 1) := dk_4 (dk_at dksX0_write_0 19 rfl rfl)
theorem dX0_write_20 : decode cX0_write 20 = .ok (.ireturn, 1) := dk_172 (dk_at dksX0_write_0 20 rfl rfl)
theorem dX0_write_21 : decode cX0_write 21 = .ok (.astore 6, 2) := dk_58 6 (dk_at dksX0_write_0 21 rfl rfl)
theorem dX0_write_23 : decode cX0_write 23 = .ok (.iconst 2, 1) := dk_5 (dk_at dksX0_write_0 23 rfl rfl)
theorem dX0_write_24 : decode cX0_write 24 = .ok (.ireturn, 1) := dk_172 (dk_at dksX0_write_1 0 rfl rfl)
theorem dX0_write_25 : decode cX0_write 25 = .ok (.iconst 0, 1) := dk_3 (dk_at dksX0_write_1 1 rfl rfl)
theorem dX0_write_26 : decode cX0_write 26 = .ok (.ireturn, 1) := dk_172 (dk_at dksX0_write_1 2 rfl rfl)
def dkwX0_price_0 : List UInt8 := [45, 3, 42, 27, 28, 182, 0, 52, 133, 80, 167, 0, 11, 58, 4, 4, 172, 58, 4, 5, 172, 3, 172]
abbrev dktX0_price_0 : List UInt8 := dkwX0_price_0 ++ []
theorem dksX0_price_0 : cX0_price.data.toList.drop 0 = dktX0_price_0 := by decide +kernel
theorem dX0_price_0 : decode cX0_price 0 = .ok (.aload_n 3, 1) := dk_45 (dk_at dksX0_price_0 0 rfl rfl)
theorem dX0_price_1 : decode cX0_price 1 = .ok (.iconst 0, 1) := dk_3 (dk_at dksX0_price_0 1 rfl rfl)
theorem dX0_price_2 : decode cX0_price 2 = .ok (.aload_n 0, 1) := dk_42 (dk_at dksX0_price_0 2 rfl rfl)
theorem dX0_price_3 : decode cX0_price 3 = .ok (.iload_n 1, 1) := dk_27 (dk_at dksX0_price_0 3 rfl rfl)
theorem dX0_price_4 : decode cX0_price 4 = .ok (.iload_n 2, 1) := dk_28 (dk_at dksX0_price_0 4 rfl rfl)
theorem dX0_price_5 : decode cX0_price 5 = .ok (.invokevirtual 52, 3) := dk_182 0 52 (dk_at dksX0_price_0 5 rfl rfl)
theorem dX0_price_8 : decode cX0_price 8 = .ok (.i2l, 1) := dk_133 (dk_at dksX0_price_0 8 rfl rfl)
theorem dX0_price_9 : decode cX0_price 9 = .ok (.lastore, 1) := dk_80 (dk_at dksX0_price_0 9 rfl rfl)
theorem dX0_price_10 : decode cX0_price 10 = .ok (.goto 11, 3) := dk_167 0 11 (dk_at dksX0_price_0 10 rfl rfl)
theorem dX0_price_13 : decode cX0_price 13 = .ok (.astore 4, 2) := dk_58 4 (dk_at dksX0_price_0 13 rfl rfl)
theorem dX0_price_15 : decode cX0_price 15 = .ok (.iconst 1, 1) := dk_4 (dk_at dksX0_price_0 15 rfl rfl)
theorem dX0_price_16 : decode cX0_price 16 = .ok (.ireturn, 1) := dk_172 (dk_at dksX0_price_0 16 rfl rfl)
theorem dX0_price_17 : decode cX0_price 17 = .ok (.astore 4, 2) := dk_58 4 (dk_at dksX0_price_0 17 rfl rfl)
theorem dX0_price_19 : decode cX0_price 19 = .ok (.iconst 2, 1) := dk_5 (dk_at dksX0_price_0 19 rfl rfl)
theorem dX0_price_20 : decode cX0_price 20 = .ok (.ireturn, 1) := dk_172 (dk_at dksX0_price_0 20 rfl rfl)
theorem dX0_price_21 : decode cX0_price 21 = .ok (.iconst 0, 1) := dk_3 (dk_at dksX0_price_0 21 rfl rfl)
theorem dX0_price_22 : decode cX0_price 22 = .ok (.ireturn, 1) := dk_172 (dk_at dksX0_price_0 22 rfl rfl)
def dkwX0_length_0 : List UInt8 := [42, 27, 182, 0, 55, 167, 0, 6, 77, 4, 172, 3, 172]
abbrev dktX0_length_0 : List UInt8 := dkwX0_length_0 ++ []
theorem dksX0_length_0 : cX0_length.data.toList.drop 0 = dktX0_length_0 := by decide +kernel
theorem dX0_length_0 : decode cX0_length 0 = .ok (.aload_n 0, 1) := dk_42 (dk_at dksX0_length_0 0 rfl rfl)
theorem dX0_length_1 : decode cX0_length 1 = .ok (.iload_n 1, 1) := dk_27 (dk_at dksX0_length_0 1 rfl rfl)
theorem dX0_length_2 : decode cX0_length 2 = .ok (.invokevirtual 55, 3) := dk_182 0 55 (dk_at dksX0_length_0 2 rfl rfl)
theorem dX0_length_5 : decode cX0_length 5 = .ok (.goto 6, 3) := dk_167 0 6 (dk_at dksX0_length_0 5 rfl rfl)
theorem dX0_length_8 : decode cX0_length 8 = .ok (.astore_n 2, 1) := dk_77 (dk_at dksX0_length_0 8 rfl rfl)
theorem dX0_length_9 : decode cX0_length 9 = .ok (.iconst 1, 1) := dk_4 (dk_at dksX0_length_0 9 rfl rfl)
theorem dX0_length_10 : decode cX0_length 10 = .ok (.ireturn, 1) := dk_172 (dk_at dksX0_length_0 10 rfl rfl)
theorem dX0_length_11 : decode cX0_length 11 = .ok (.iconst 0, 1) := dk_3 (dk_at dksX0_length_0 11 rfl rfl)
theorem dX0_length_12 : decode cX0_length 12 = .ok (.ireturn, 1) := dk_172 (dk_at dksX0_length_0 12 rfl rfl)
def dkwX0_picture_1 : List UInt8 := [172, 58, 6, 6, 172, 3, 172]
abbrev dktX0_picture_1 : List UInt8 := dkwX0_picture_1 ++ []
def dkwX0_picture_0 : List UInt8 := [25, 5, 3, 42, 27, 28, 29, 21, 4, 182, 0, 59, 133, 80, 167, 0, 15, 58, 6, 4, 172, 58, 6, 5]
abbrev dktX0_picture_0 : List UInt8 := dkwX0_picture_0 ++ dktX0_picture_1
theorem dksX0_picture_0 : cX0_picture.data.toList.drop 0 = dktX0_picture_0 := by decide +kernel
theorem dksX0_picture_1 : cX0_picture.data.toList.drop 24 = dktX0_picture_1 := dk_seg dksX0_picture_0 24 rfl rfl
theorem dX0_picture_0 : decode cX0_picture 0 = .ok (.aload 5, 2) := dk_25 5 (dk_at dksX0_picture_0 0 rfl rfl)
theorem dX0_picture_2 : decode cX0_picture 2 = .ok (.iconst 0, 1) := dk_3 (dk_at dksX0_picture_0 2 rfl rfl)
theorem dX0_picture_3 : decode cX0_picture 3 = .ok (.aload_n 0, 1) := dk_42 (dk_at dksX0_picture_0 3 rfl rfl)
theorem dX0_picture_4 : decode cX0_picture 4 = .ok (.iload_n 1, 1) := dk_27 (dk_at dksX0_picture_0 4 rfl rfl)
theorem dX0_picture_5 : decode cX0_picture 5 = .ok (.iload_n 2, 1) := dk_28 (dk_at dksX0_picture_0 5 rfl rfl)
theorem dX0_picture_6 : decode cX0_picture 6 = .ok (.iload_n 3, 1) := dk_29 (dk_at dksX0_picture_0 6 rfl rfl)
theorem dX0_picture_7 : decode cX0_picture 7 = .ok (.iload 4, 2) := dk_21 4 (dk_at dksX0_picture_0 7 rfl rfl)
theorem dX0_picture_9 : decode cX0_picture 9 = .ok (.invokevirtual 59, 3) := dk_182 0 59 (dk_at dksX0_picture_0 9 rfl rfl)
theorem dX0_picture_12 : decode cX0_picture 12 = .ok (.i2l, 1) := dk_133 (dk_at dksX0_picture_0 12 rfl rfl)
theorem dX0_picture_13 : decode cX0_picture 13 = .ok (.lastore, 1) := dk_80 (dk_at dksX0_picture_0 13 rfl rfl)
theorem dX0_picture_14 : decode cX0_picture 14 = .ok (.goto 15, 3) := dk_167 0 15 (dk_at dksX0_picture_0 14 rfl rfl)
theorem dX0_picture_17 : decode cX0_picture 17 = .ok (.astore 6, 2) := dk_58 6 (dk_at dksX0_picture_0 17 rfl rfl)
theorem dX0_picture_19 : decode cX0_picture 19 = .ok (.iconst 1, 1) := dk_4 (dk_at dksX0_picture_0 19 rfl rfl)
theorem dX0_picture_20 : decode cX0_picture 20 = .ok (.ireturn, 1) := dk_172 (dk_at dksX0_picture_0 20 rfl rfl)
theorem dX0_picture_21 : decode cX0_picture 21 = .ok (.astore 6, 2) := dk_58 6 (dk_at dksX0_picture_0 21 rfl rfl)
theorem dX0_picture_23 : decode cX0_picture 23 = .ok (.iconst 2, 1) := dk_5 (dk_at dksX0_picture_0 23 rfl rfl)
theorem dX0_picture_24 : decode cX0_picture 24 = .ok (.ireturn, 1) := dk_172 (dk_at dksX0_picture_1 0 rfl rfl)
theorem dX0_picture_25 : decode cX0_picture 25 = .ok (.astore 6, 2) := dk_58 6 (dk_at dksX0_picture_1 1 rfl rfl)
theorem dX0_picture_27 : decode cX0_picture 27 = .ok (.iconst 3, 1) := dk_6 (dk_at dksX0_picture_1 3 rfl rfl)
theorem dX0_picture_28 : decode cX0_picture 28 = .ok (.ireturn, 1) := dk_172 (dk_at dksX0_picture_1 4 rfl rfl)
theorem dX0_picture_29 : decode cX0_picture 29 = .ok (.iconst 0, 1) := dk_3 (dk_at dksX0_picture_1 5 rfl rfl)
theorem dX0_picture_30 : decode cX0_picture 30 = .ok (.ireturn, 1) := dk_172 (dk_at dksX0_picture_1 6 rfl rfl)
def dkwX0_read_0 : List UInt8 := [44, 3, 42, 27, 182, 0, 62, 133, 80, 167, 0, 6, 78, 4, 172, 3, 172]
abbrev dktX0_read_0 : List UInt8 := dkwX0_read_0 ++ []
theorem dksX0_read_0 : cX0_read.data.toList.drop 0 = dktX0_read_0 := by decide +kernel
theorem dX0_read_0 : decode cX0_read 0 = .ok (.aload_n 2, 1) := dk_44 (dk_at dksX0_read_0 0 rfl rfl)
theorem dX0_read_1 : decode cX0_read 1 = .ok (.iconst 0, 1) := dk_3 (dk_at dksX0_read_0 1 rfl rfl)
theorem dX0_read_2 : decode cX0_read 2 = .ok (.aload_n 0, 1) := dk_42 (dk_at dksX0_read_0 2 rfl rfl)
theorem dX0_read_3 : decode cX0_read 3 = .ok (.iload_n 1, 1) := dk_27 (dk_at dksX0_read_0 3 rfl rfl)
theorem dX0_read_4 : decode cX0_read 4 = .ok (.invokevirtual 62, 3) := dk_182 0 62 (dk_at dksX0_read_0 4 rfl rfl)
theorem dX0_read_7 : decode cX0_read 7 = .ok (.i2l, 1) := dk_133 (dk_at dksX0_read_0 7 rfl rfl)
theorem dX0_read_8 : decode cX0_read 8 = .ok (.lastore, 1) := dk_80 (dk_at dksX0_read_0 8 rfl rfl)
theorem dX0_read_9 : decode cX0_read 9 = .ok (.goto 6, 3) := dk_167 0 6 (dk_at dksX0_read_0 9 rfl rfl)
theorem dX0_read_12 : decode cX0_read 12 = .ok (.astore_n 3, 1) := dk_78 (dk_at dksX0_read_0 12 rfl rfl)
theorem dX0_read_13 : decode cX0_read 13 = .ok (.iconst 1, 1) := dk_4 (dk_at dksX0_read_0 13 rfl rfl)
theorem dX0_read_14 : decode cX0_read 14 = .ok (.ireturn, 1) := dk_172 (dk_at dksX0_read_0 14 rfl rfl)
theorem dX0_read_15 : decode cX0_read 15 = .ok (.iconst 0, 1) := dk_3 (dk_at dksX0_read_0 15 rfl rfl)
theorem dX0_read_16 : decode cX0_read 16 = .ok (.ireturn, 1) := dk_172 (dk_at dksX0_read_0 16 rfl rfl)
def dkwX0_readNext_0 : List UInt8 := [44, 3, 42, 27, 182, 0, 65, 133, 80, 167, 0, 6, 78, 4, 172, 3, 172]
abbrev dktX0_readNext_0 : List UInt8 := dkwX0_readNext_0 ++ []
theorem dksX0_readNext_0 : cX0_readNext.data.toList.drop 0 = dktX0_readNext_0 := by decide +kernel
theorem dX0_readNext_0 : decode cX0_readNext 0 = .ok (.aload_n 2, 1) := dk_44 (dk_at dksX0_readNext_0 0 rfl rfl)
theorem dX0_readNext_1 : decode cX0_readNext 1 = .ok (.iconst 0, 1) := dk_3 (dk_at dksX0_readNext_0 1 rfl rfl)
theorem dX0_readNext_2 : decode cX0_readNext 2 = .ok (.aload_n 0, 1) := dk_42 (dk_at dksX0_readNext_0 2 rfl rfl)
theorem dX0_readNext_3 : decode cX0_readNext 3 = .ok (.iload_n 1, 1) := dk_27 (dk_at dksX0_readNext_0 3 rfl rfl)
theorem dX0_readNext_4 : decode cX0_readNext 4 = .ok (.invokevirtual 65, 3) := dk_182 0 65 (dk_at dksX0_readNext_0 4 rfl rfl)
theorem dX0_readNext_7 : decode cX0_readNext 7 = .ok (.i2l, 1) := dk_133 (dk_at dksX0_readNext_0 7 rfl rfl)
theorem dX0_readNext_8 : decode cX0_readNext 8 = .ok (.lastore, 1) := dk_80 (dk_at dksX0_readNext_0 8 rfl rfl)
theorem dX0_readNext_9 : decode cX0_readNext 9 = .ok (.goto 6, 3) := dk_167 0 6 (dk_at dksX0_readNext_0 9 rfl rfl)
theorem dX0_readNext_12 : decode cX0_readNext 12 = .ok (.astore_n 3, 1) := dk_78 (dk_at dksX0_readNext_0 12 rfl rfl)
theorem dX0_readNext_13 : decode cX0_readNext 13 = .ok (.iconst 1, 1) := dk_4 (dk_at dksX0_readNext_0 13 rfl rfl)
theorem dX0_readNext_14 : decode cX0_readNext 14 = .ok (.ireturn, 1) := dk_172 (dk_at dksX0_readNext_0 14 rfl rfl)
theorem dX0_readNext_15 : decode cX0_readNext 15 = .ok (.iconst 0, 1) := dk_3 (dk_at dksX0_readNext_0 15 rfl rfl)
theorem dX0_readNext_16 : decode cX0_readNext 16 = .ok (.ireturn, 1) := dk_172 (dk_at dksX0_readNext_0 16 rfl rfl)
def dkwX0_slip_0 : List UInt8 := [45, 3, 42, 27, 28, 182, 0, 68, 133, 80, 167, 0, 7, 58, 4, 4, 172, 3, 172]
abbrev dktX0_slip_0 : List UInt8 := dkwX0_slip_0 ++ []
theorem dksX0_slip_0 : cX0_slip.data.toList.drop 0 = dktX0_slip_0 := by decide +kernel
theorem dX0_slip_0 : decode cX0_slip 0 = .ok (.aload_n 3, 1) := dk_45 (dk_at dksX0_slip_0 0 rfl rfl)
theorem dX0_slip_1 : decode cX0_slip 1 = .ok (.iconst 0, 1) := dk_3 (dk_at dksX0_slip_0 1 rfl rfl)
theorem dX0_slip_2 : decode cX0_slip 2 = .ok (.aload_n 0, 1) := dk_42 (dk_at dksX0_slip_0 2 rfl rfl)
theorem dX0_slip_3 : decode cX0_slip 3 = .ok (.iload_n 1, 1) := dk_27 (dk_at dksX0_slip_0 3 rfl rfl)
theorem dX0_slip_4 : decode cX0_slip 4 = .ok (.iload_n 2, 1) := dk_28 (dk_at dksX0_slip_0 4 rfl rfl)
theorem dX0_slip_5 : decode cX0_slip 5 = .ok (.invokevirtual 68, 3) := dk_182 0 68 (dk_at dksX0_slip_0 5 rfl rfl)
theorem dX0_slip_8 : decode cX0_slip 8 = .ok (.i2l, 1) := dk_133 (dk_at dksX0_slip_0 8 rfl rfl)
theorem dX0_slip_9 : decode cX0_slip 9 = .ok (.lastore, 1) := dk_80 (dk_at dksX0_slip_0 9 rfl rfl)
theorem dX0_slip_10 : decode cX0_slip 10 = .ok (.goto 7, 3) := dk_167 0 7 (dk_at dksX0_slip_0 10 rfl rfl)
theorem dX0_slip_13 : decode cX0_slip 13 = .ok (.astore 4, 2) := dk_58 4 (dk_at dksX0_slip_0 13 rfl rfl)
theorem dX0_slip_15 : decode cX0_slip 15 = .ok (.iconst 1, 1) := dk_4 (dk_at dksX0_slip_0 15 rfl rfl)
theorem dX0_slip_16 : decode cX0_slip 16 = .ok (.ireturn, 1) := dk_172 (dk_at dksX0_slip_0 16 rfl rfl)
theorem dX0_slip_17 : decode cX0_slip 17 = .ok (.iconst 0, 1) := dk_3 (dk_at dksX0_slip_0 17 rfl rfl)
theorem dX0_slip_18 : decode cX0_slip 18 = .ok (.ireturn, 1) := dk_172 (dk_at dksX0_slip_0 18 rfl rfl)
def dkwX0_slips_0 : List UInt8 := [45, 3, 42, 27, 28, 182, 0, 71, 133, 80, 167, 0, 7, 58, 4, 4, 172, 3, 172]
abbrev dktX0_slips_0 : List UInt8 := dkwX0_slips_0 ++ []
theorem dksX0_slips_0 : cX0_slips.data.toList.drop 0 = dktX0_slips_0 := by decide +kernel
theorem dX0_slips_0 : decode cX0_slips 0 = .ok (.aload_n 3, 1) := dk_45 (dk_at dksX0_slips_0 0 rfl rfl)
theorem dX0_slips_1 : decode cX0_slips 1 = .ok (.iconst 0, 1) := dk_3 (dk_at dksX0_slips_0 1 rfl rfl)
theorem dX0_slips_2 : decode cX0_slips 2 = .ok (.aload_n 0, 1) := dk_42 (dk_at dksX0_slips_0 2 rfl rfl)
theorem dX0_slips_3 : decode cX0_slips 3 = .ok (.iload_n 1, 1) := dk_27 (dk_at dksX0_slips_0 3 rfl rfl)
theorem dX0_slips_4 : decode cX0_slips 4 = .ok (.iload_n 2, 1) := dk_28 (dk_at dksX0_slips_0 4 rfl rfl)
theorem dX0_slips_5 : decode cX0_slips 5 = .ok (.invokevirtual 71, 3) := dk_182 0 71 (dk_at dksX0_slips_0 5 rfl rfl)
theorem dX0_slips_8 : decode cX0_slips 8 = .ok (.i2l, 1) := dk_133 (dk_at dksX0_slips_0 8 rfl rfl)
theorem dX0_slips_9 : decode cX0_slips 9 = .ok (.lastore, 1) := dk_80 (dk_at dksX0_slips_0 9 rfl rfl)
theorem dX0_slips_10 : decode cX0_slips 10 = .ok (.goto 7, 3) := dk_167 0 7 (dk_at dksX0_slips_0 10 rfl rfl)
theorem dX0_slips_13 : decode cX0_slips 13 = .ok (.astore 4, 2) := dk_58 4 (dk_at dksX0_slips_0 13 rfl rfl)
theorem dX0_slips_15 : decode cX0_slips 15 = .ok (.iconst 1, 1) := dk_4 (dk_at dksX0_slips_0 15 rfl rfl)
theorem dX0_slips_16 : decode cX0_slips 16 = .ok (.ireturn, 1) := dk_172 (dk_at dksX0_slips_0 16 rfl rfl)
theorem dX0_slips_17 : decode cX0_slips 17 = .ok (.iconst 0, 1) := dk_3 (dk_at dksX0_slips_0 17 rfl rfl)
theorem dX0_slips_18 : decode cX0_slips 18 = .ok (.ireturn, 1) := dk_172 (dk_at dksX0_slips_0 18 rfl rfl)
def dkwX0_breaks_0 : List UInt8 := [44, 3, 42, 27, 182, 0, 74, 133, 80, 167, 0, 6, 78, 4, 172, 3, 172]
abbrev dktX0_breaks_0 : List UInt8 := dkwX0_breaks_0 ++ []
theorem dksX0_breaks_0 : cX0_breaks.data.toList.drop 0 = dktX0_breaks_0 := by decide +kernel
theorem dX0_breaks_0 : decode cX0_breaks 0 = .ok (.aload_n 2, 1) := dk_44 (dk_at dksX0_breaks_0 0 rfl rfl)
theorem dX0_breaks_1 : decode cX0_breaks 1 = .ok (.iconst 0, 1) := dk_3 (dk_at dksX0_breaks_0 1 rfl rfl)
theorem dX0_breaks_2 : decode cX0_breaks 2 = .ok (.aload_n 0, 1) := dk_42 (dk_at dksX0_breaks_0 2 rfl rfl)
theorem dX0_breaks_3 : decode cX0_breaks 3 = .ok (.iload_n 1, 1) := dk_27 (dk_at dksX0_breaks_0 3 rfl rfl)
theorem dX0_breaks_4 : decode cX0_breaks 4 = .ok (.invokevirtual 74, 3) := dk_182 0 74 (dk_at dksX0_breaks_0 4 rfl rfl)
theorem dX0_breaks_7 : decode cX0_breaks 7 = .ok (.i2l, 1) := dk_133 (dk_at dksX0_breaks_0 7 rfl rfl)
theorem dX0_breaks_8 : decode cX0_breaks 8 = .ok (.lastore, 1) := dk_80 (dk_at dksX0_breaks_0 8 rfl rfl)
theorem dX0_breaks_9 : decode cX0_breaks 9 = .ok (.goto 6, 3) := dk_167 0 6 (dk_at dksX0_breaks_0 9 rfl rfl)
theorem dX0_breaks_12 : decode cX0_breaks 12 = .ok (.astore_n 3, 1) := dk_78 (dk_at dksX0_breaks_0 12 rfl rfl)
theorem dX0_breaks_13 : decode cX0_breaks 13 = .ok (.iconst 1, 1) := dk_4 (dk_at dksX0_breaks_0 13 rfl rfl)
theorem dX0_breaks_14 : decode cX0_breaks 14 = .ok (.ireturn, 1) := dk_172 (dk_at dksX0_breaks_0 14 rfl rfl)
theorem dX0_breaks_15 : decode cX0_breaks 15 = .ok (.iconst 0, 1) := dk_3 (dk_at dksX0_breaks_0 15 rfl rfl)
theorem dX0_breaks_16 : decode cX0_breaks 16 = .ok (.ireturn, 1) := dk_172 (dk_at dksX0_breaks_0 16 rfl rfl)
def dkwX0_brief_0 : List UInt8 := [44, 3, 42, 27, 182, 0, 77, 133, 80, 167, 0, 6, 78, 4, 172, 3, 172]
abbrev dktX0_brief_0 : List UInt8 := dkwX0_brief_0 ++ []
theorem dksX0_brief_0 : cX0_brief.data.toList.drop 0 = dktX0_brief_0 := by decide +kernel
theorem dX0_brief_0 : decode cX0_brief 0 = .ok (.aload_n 2, 1) := dk_44 (dk_at dksX0_brief_0 0 rfl rfl)
theorem dX0_brief_1 : decode cX0_brief 1 = .ok (.iconst 0, 1) := dk_3 (dk_at dksX0_brief_0 1 rfl rfl)
theorem dX0_brief_2 : decode cX0_brief 2 = .ok (.aload_n 0, 1) := dk_42 (dk_at dksX0_brief_0 2 rfl rfl)
theorem dX0_brief_3 : decode cX0_brief 3 = .ok (.iload_n 1, 1) := dk_27 (dk_at dksX0_brief_0 3 rfl rfl)
theorem dX0_brief_4 : decode cX0_brief 4 = .ok (.invokevirtual 77, 3) := dk_182 0 77 (dk_at dksX0_brief_0 4 rfl rfl)
theorem dX0_brief_7 : decode cX0_brief 7 = .ok (.i2l, 1) := dk_133 (dk_at dksX0_brief_0 7 rfl rfl)
theorem dX0_brief_8 : decode cX0_brief 8 = .ok (.lastore, 1) := dk_80 (dk_at dksX0_brief_0 8 rfl rfl)
theorem dX0_brief_9 : decode cX0_brief 9 = .ok (.goto 6, 3) := dk_167 0 6 (dk_at dksX0_brief_0 9 rfl rfl)
theorem dX0_brief_12 : decode cX0_brief 12 = .ok (.astore_n 3, 1) := dk_78 (dk_at dksX0_brief_0 12 rfl rfl)
theorem dX0_brief_13 : decode cX0_brief 13 = .ok (.iconst 1, 1) := dk_4 (dk_at dksX0_brief_0 13 rfl rfl)
theorem dX0_brief_14 : decode cX0_brief 14 = .ok (.ireturn, 1) := dk_172 (dk_at dksX0_brief_0 14 rfl rfl)
theorem dX0_brief_15 : decode cX0_brief 15 = .ok (.iconst 0, 1) := dk_3 (dk_at dksX0_brief_0 15 rfl rfl)
theorem dX0_brief_16 : decode cX0_brief 16 = .ok (.ireturn, 1) := dk_172 (dk_at dksX0_brief_0 16 rfl rfl)
def dkwX0_best_0 : List UInt8 := [44, 3, 42, 27, 182, 0, 80, 133, 80, 167, 0, 6, 78, 4, 172, 3, 172]
abbrev dktX0_best_0 : List UInt8 := dkwX0_best_0 ++ []
theorem dksX0_best_0 : cX0_best.data.toList.drop 0 = dktX0_best_0 := by decide +kernel
theorem dX0_best_0 : decode cX0_best 0 = .ok (.aload_n 2, 1) := dk_44 (dk_at dksX0_best_0 0 rfl rfl)
theorem dX0_best_1 : decode cX0_best 1 = .ok (.iconst 0, 1) := dk_3 (dk_at dksX0_best_0 1 rfl rfl)
theorem dX0_best_2 : decode cX0_best 2 = .ok (.aload_n 0, 1) := dk_42 (dk_at dksX0_best_0 2 rfl rfl)
theorem dX0_best_3 : decode cX0_best 3 = .ok (.iload_n 1, 1) := dk_27 (dk_at dksX0_best_0 3 rfl rfl)
theorem dX0_best_4 : decode cX0_best 4 = .ok (.invokevirtual 80, 3) := dk_182 0 80 (dk_at dksX0_best_0 4 rfl rfl)
theorem dX0_best_7 : decode cX0_best 7 = .ok (.i2l, 1) := dk_133 (dk_at dksX0_best_0 7 rfl rfl)
theorem dX0_best_8 : decode cX0_best 8 = .ok (.lastore, 1) := dk_80 (dk_at dksX0_best_0 8 rfl rfl)
theorem dX0_best_9 : decode cX0_best 9 = .ok (.goto 6, 3) := dk_167 0 6 (dk_at dksX0_best_0 9 rfl rfl)
theorem dX0_best_12 : decode cX0_best 12 = .ok (.astore_n 3, 1) := dk_78 (dk_at dksX0_best_0 12 rfl rfl)
theorem dX0_best_13 : decode cX0_best 13 = .ok (.iconst 1, 1) := dk_4 (dk_at dksX0_best_0 13 rfl rfl)
theorem dX0_best_14 : decode cX0_best 14 = .ok (.ireturn, 1) := dk_172 (dk_at dksX0_best_0 14 rfl rfl)
theorem dX0_best_15 : decode cX0_best 15 = .ok (.iconst 0, 1) := dk_3 (dk_at dksX0_best_0 15 rfl rfl)
theorem dX0_best_16 : decode cX0_best 16 = .ok (.ireturn, 1) := dk_172 (dk_at dksX0_best_0 16 rfl rfl)
def dkwX0_odds_0 : List UInt8 := [25, 4, 3, 42, 27, 28, 29, 182, 0, 83, 80, 167, 0, 7, 58, 5, 4, 172, 3, 172]
abbrev dktX0_odds_0 : List UInt8 := dkwX0_odds_0 ++ []
theorem dksX0_odds_0 : cX0_odds.data.toList.drop 0 = dktX0_odds_0 := by decide +kernel
theorem dX0_odds_0 : decode cX0_odds 0 = .ok (.aload 4, 2) := dk_25 4 (dk_at dksX0_odds_0 0 rfl rfl)
theorem dX0_odds_2 : decode cX0_odds 2 = .ok (.iconst 0, 1) := dk_3 (dk_at dksX0_odds_0 2 rfl rfl)
theorem dX0_odds_3 : decode cX0_odds 3 = .ok (.aload_n 0, 1) := dk_42 (dk_at dksX0_odds_0 3 rfl rfl)
theorem dX0_odds_4 : decode cX0_odds 4 = .ok (.iload_n 1, 1) := dk_27 (dk_at dksX0_odds_0 4 rfl rfl)
theorem dX0_odds_5 : decode cX0_odds 5 = .ok (.iload_n 2, 1) := dk_28 (dk_at dksX0_odds_0 5 rfl rfl)
theorem dX0_odds_6 : decode cX0_odds 6 = .ok (.iload_n 3, 1) := dk_29 (dk_at dksX0_odds_0 6 rfl rfl)
theorem dX0_odds_7 : decode cX0_odds 7 = .ok (.invokevirtual 83, 3) := dk_182 0 83 (dk_at dksX0_odds_0 7 rfl rfl)
theorem dX0_odds_10 : decode cX0_odds 10 = .ok (.lastore, 1) := dk_80 (dk_at dksX0_odds_0 10 rfl rfl)
theorem dX0_odds_11 : decode cX0_odds 11 = .ok (.goto 7, 3) := dk_167 0 7 (dk_at dksX0_odds_0 11 rfl rfl)
theorem dX0_odds_14 : decode cX0_odds 14 = .ok (.astore 5, 2) := dk_58 5 (dk_at dksX0_odds_0 14 rfl rfl)
theorem dX0_odds_16 : decode cX0_odds 16 = .ok (.iconst 1, 1) := dk_4 (dk_at dksX0_odds_0 16 rfl rfl)
theorem dX0_odds_17 : decode cX0_odds 17 = .ok (.ireturn, 1) := dk_172 (dk_at dksX0_odds_0 17 rfl rfl)
theorem dX0_odds_18 : decode cX0_odds 18 = .ok (.iconst 0, 1) := dk_3 (dk_at dksX0_odds_0 18 rfl rfl)
theorem dX0_odds_19 : decode cX0_odds 19 = .ok (.ireturn, 1) := dk_172 (dk_at dksX0_odds_0 19 rfl rfl)
def dkwX0_shared_0 : List UInt8 := [25, 4, 3, 42, 27, 28, 29, 182, 0, 87, 133, 80, 167, 0, 7, 58, 5, 4, 172, 3, 172]
abbrev dktX0_shared_0 : List UInt8 := dkwX0_shared_0 ++ []
theorem dksX0_shared_0 : cX0_shared.data.toList.drop 0 = dktX0_shared_0 := by decide +kernel
theorem dX0_shared_0 : decode cX0_shared 0 = .ok (.aload 4, 2) := dk_25 4 (dk_at dksX0_shared_0 0 rfl rfl)
theorem dX0_shared_2 : decode cX0_shared 2 = .ok (.iconst 0, 1) := dk_3 (dk_at dksX0_shared_0 2 rfl rfl)
theorem dX0_shared_3 : decode cX0_shared 3 = .ok (.aload_n 0, 1) := dk_42 (dk_at dksX0_shared_0 3 rfl rfl)
theorem dX0_shared_4 : decode cX0_shared 4 = .ok (.iload_n 1, 1) := dk_27 (dk_at dksX0_shared_0 4 rfl rfl)
theorem dX0_shared_5 : decode cX0_shared 5 = .ok (.iload_n 2, 1) := dk_28 (dk_at dksX0_shared_0 5 rfl rfl)
theorem dX0_shared_6 : decode cX0_shared 6 = .ok (.iload_n 3, 1) := dk_29 (dk_at dksX0_shared_0 6 rfl rfl)
theorem dX0_shared_7 : decode cX0_shared 7 = .ok (.invokevirtual 87, 3) := dk_182 0 87 (dk_at dksX0_shared_0 7 rfl rfl)
theorem dX0_shared_10 : decode cX0_shared 10 = .ok (.i2l, 1) := dk_133 (dk_at dksX0_shared_0 10 rfl rfl)
theorem dX0_shared_11 : decode cX0_shared 11 = .ok (.lastore, 1) := dk_80 (dk_at dksX0_shared_0 11 rfl rfl)
theorem dX0_shared_12 : decode cX0_shared 12 = .ok (.goto 7, 3) := dk_167 0 7 (dk_at dksX0_shared_0 12 rfl rfl)
theorem dX0_shared_15 : decode cX0_shared 15 = .ok (.astore 5, 2) := dk_58 5 (dk_at dksX0_shared_0 15 rfl rfl)
theorem dX0_shared_17 : decode cX0_shared 17 = .ok (.iconst 1, 1) := dk_4 (dk_at dksX0_shared_0 17 rfl rfl)
theorem dX0_shared_18 : decode cX0_shared 18 = .ok (.ireturn, 1) := dk_172 (dk_at dksX0_shared_0 18 rfl rfl)
theorem dX0_shared_19 : decode cX0_shared 19 = .ok (.iconst 0, 1) := dk_3 (dk_at dksX0_shared_0 19 rfl rfl)
theorem dX0_shared_20 : decode cX0_shared 20 = .ok (.ireturn, 1) := dk_172 (dk_at dksX0_shared_0 20 rfl rfl)
def dkwX0_alike_0 : List UInt8 := [45, 3, 42, 27, 28, 182, 0, 91, 133, 80, 167, 0, 7, 58, 4, 4, 172, 3, 172]
abbrev dktX0_alike_0 : List UInt8 := dkwX0_alike_0 ++ []
theorem dksX0_alike_0 : cX0_alike.data.toList.drop 0 = dktX0_alike_0 := by decide +kernel
theorem dX0_alike_0 : decode cX0_alike 0 = .ok (.aload_n 3, 1) := dk_45 (dk_at dksX0_alike_0 0 rfl rfl)
theorem dX0_alike_1 : decode cX0_alike 1 = .ok (.iconst 0, 1) := dk_3 (dk_at dksX0_alike_0 1 rfl rfl)
theorem dX0_alike_2 : decode cX0_alike 2 = .ok (.aload_n 0, 1) := dk_42 (dk_at dksX0_alike_0 2 rfl rfl)
theorem dX0_alike_3 : decode cX0_alike 3 = .ok (.iload_n 1, 1) := dk_27 (dk_at dksX0_alike_0 3 rfl rfl)
theorem dX0_alike_4 : decode cX0_alike 4 = .ok (.iload_n 2, 1) := dk_28 (dk_at dksX0_alike_0 4 rfl rfl)
theorem dX0_alike_5 : decode cX0_alike 5 = .ok (.invokevirtual 91, 3) := dk_182 0 91 (dk_at dksX0_alike_0 5 rfl rfl)
theorem dX0_alike_8 : decode cX0_alike 8 = .ok (.i2l, 1) := dk_133 (dk_at dksX0_alike_0 8 rfl rfl)
theorem dX0_alike_9 : decode cX0_alike 9 = .ok (.lastore, 1) := dk_80 (dk_at dksX0_alike_0 9 rfl rfl)
theorem dX0_alike_10 : decode cX0_alike 10 = .ok (.goto 7, 3) := dk_167 0 7 (dk_at dksX0_alike_0 10 rfl rfl)
theorem dX0_alike_13 : decode cX0_alike 13 = .ok (.astore 4, 2) := dk_58 4 (dk_at dksX0_alike_0 13 rfl rfl)
theorem dX0_alike_15 : decode cX0_alike 15 = .ok (.iconst 1, 1) := dk_4 (dk_at dksX0_alike_0 15 rfl rfl)
theorem dX0_alike_16 : decode cX0_alike 16 = .ok (.ireturn, 1) := dk_172 (dk_at dksX0_alike_0 16 rfl rfl)
theorem dX0_alike_17 : decode cX0_alike 17 = .ok (.iconst 0, 1) := dk_3 (dk_at dksX0_alike_0 17 rfl rfl)
theorem dX0_alike_18 : decode cX0_alike 18 = .ok (.ireturn, 1) := dk_172 (dk_at dksX0_alike_0 18 rfl rfl)
def dkwX0_way_0 : List UInt8 := [44, 3, 42, 27, 182, 0, 94, 133, 80, 167, 0, 6, 78, 4, 172, 3, 172]
abbrev dktX0_way_0 : List UInt8 := dkwX0_way_0 ++ []
theorem dksX0_way_0 : cX0_way.data.toList.drop 0 = dktX0_way_0 := by decide +kernel
theorem dX0_way_0 : decode cX0_way 0 = .ok (.aload_n 2, 1) := dk_44 (dk_at dksX0_way_0 0 rfl rfl)
theorem dX0_way_1 : decode cX0_way 1 = .ok (.iconst 0, 1) := dk_3 (dk_at dksX0_way_0 1 rfl rfl)
theorem dX0_way_2 : decode cX0_way 2 = .ok (.aload_n 0, 1) := dk_42 (dk_at dksX0_way_0 2 rfl rfl)
theorem dX0_way_3 : decode cX0_way 3 = .ok (.iload_n 1, 1) := dk_27 (dk_at dksX0_way_0 3 rfl rfl)
theorem dX0_way_4 : decode cX0_way 4 = .ok (.invokevirtual 94, 3) := dk_182 0 94 (dk_at dksX0_way_0 4 rfl rfl)
theorem dX0_way_7 : decode cX0_way 7 = .ok (.i2l, 1) := dk_133 (dk_at dksX0_way_0 7 rfl rfl)
theorem dX0_way_8 : decode cX0_way 8 = .ok (.lastore, 1) := dk_80 (dk_at dksX0_way_0 8 rfl rfl)
theorem dX0_way_9 : decode cX0_way 9 = .ok (.goto 6, 3) := dk_167 0 6 (dk_at dksX0_way_0 9 rfl rfl)
theorem dX0_way_12 : decode cX0_way 12 = .ok (.astore_n 3, 1) := dk_78 (dk_at dksX0_way_0 12 rfl rfl)
theorem dX0_way_13 : decode cX0_way 13 = .ok (.iconst 1, 1) := dk_4 (dk_at dksX0_way_0 13 rfl rfl)
theorem dX0_way_14 : decode cX0_way 14 = .ok (.ireturn, 1) := dk_172 (dk_at dksX0_way_0 14 rfl rfl)
theorem dX0_way_15 : decode cX0_way 15 = .ok (.iconst 0, 1) := dk_3 (dk_at dksX0_way_0 15 rfl rfl)
theorem dX0_way_16 : decode cX0_way 16 = .ok (.ireturn, 1) := dk_172 (dk_at dksX0_way_0 16 rfl rfl)
def dkwX0_cheaper_0 : List UInt8 := [44, 3, 42, 27, 182, 0, 97, 133, 80, 167, 0, 6, 78, 4, 172, 3, 172]
abbrev dktX0_cheaper_0 : List UInt8 := dkwX0_cheaper_0 ++ []
theorem dksX0_cheaper_0 : cX0_cheaper.data.toList.drop 0 = dktX0_cheaper_0 := by decide +kernel
theorem dX0_cheaper_0 : decode cX0_cheaper 0 = .ok (.aload_n 2, 1) := dk_44 (dk_at dksX0_cheaper_0 0 rfl rfl)
theorem dX0_cheaper_1 : decode cX0_cheaper 1 = .ok (.iconst 0, 1) := dk_3 (dk_at dksX0_cheaper_0 1 rfl rfl)
theorem dX0_cheaper_2 : decode cX0_cheaper 2 = .ok (.aload_n 0, 1) := dk_42 (dk_at dksX0_cheaper_0 2 rfl rfl)
theorem dX0_cheaper_3 : decode cX0_cheaper 3 = .ok (.iload_n 1, 1) := dk_27 (dk_at dksX0_cheaper_0 3 rfl rfl)
theorem dX0_cheaper_4 : decode cX0_cheaper 4 = .ok (.invokevirtual 97, 3) := dk_182 0 97 (dk_at dksX0_cheaper_0 4 rfl rfl)
theorem dX0_cheaper_7 : decode cX0_cheaper 7 = .ok (.i2l, 1) := dk_133 (dk_at dksX0_cheaper_0 7 rfl rfl)
theorem dX0_cheaper_8 : decode cX0_cheaper 8 = .ok (.lastore, 1) := dk_80 (dk_at dksX0_cheaper_0 8 rfl rfl)
theorem dX0_cheaper_9 : decode cX0_cheaper 9 = .ok (.goto 6, 3) := dk_167 0 6 (dk_at dksX0_cheaper_0 9 rfl rfl)
theorem dX0_cheaper_12 : decode cX0_cheaper 12 = .ok (.astore_n 3, 1) := dk_78 (dk_at dksX0_cheaper_0 12 rfl rfl)
theorem dX0_cheaper_13 : decode cX0_cheaper 13 = .ok (.iconst 1, 1) := dk_4 (dk_at dksX0_cheaper_0 13 rfl rfl)
theorem dX0_cheaper_14 : decode cX0_cheaper 14 = .ok (.ireturn, 1) := dk_172 (dk_at dksX0_cheaper_0 14 rfl rfl)
theorem dX0_cheaper_15 : decode cX0_cheaper 15 = .ok (.iconst 0, 1) := dk_3 (dk_at dksX0_cheaper_0 15 rfl rfl)
theorem dX0_cheaper_16 : decode cX0_cheaper 16 = .ok (.ireturn, 1) := dk_172 (dk_at dksX0_cheaper_0 16 rfl rfl)
