set_option maxRecDepth 100000

def dkwX22_tells_1 : List UInt8 := [96, 61, 132, 3, 1, 167, 255, 231, 28, 172]
abbrev dktX22_tells_1 : List UInt8 := dkwX22_tells_1 ++ []
def dkwX22_tells_0 : List UInt8 := [3, 61, 3, 62, 29, 42, 180, 0, 9, 190, 162, 0, 22, 28, 42, 180, 0, 9, 29, 50, 43, 182, 0, 21]
abbrev dktX22_tells_0 : List UInt8 := dkwX22_tells_0 ++ dktX22_tells_1
theorem dksX22_tells_0 : cX22_tells.data.toList.drop 0 = dktX22_tells_0 := by decide +kernel
theorem dksX22_tells_1 : cX22_tells.data.toList.drop 24 = dktX22_tells_1 := dk_seg dksX22_tells_0 24 rfl rfl
theorem dX22_tells_0 : decode cX22_tells 0 = .ok (.iconst 0, 1) := dk_3 (dk_at dksX22_tells_0 0 rfl rfl)
theorem dX22_tells_1 : decode cX22_tells 1 = .ok (.istore_n 2, 1) := dk_61 (dk_at dksX22_tells_0 1 rfl rfl)
theorem dX22_tells_2 : decode cX22_tells 2 = .ok (.iconst 0, 1) := dk_3 (dk_at dksX22_tells_0 2 rfl rfl)
theorem dX22_tells_3 : decode cX22_tells 3 = .ok (.istore_n 3, 1) := dk_62 (dk_at dksX22_tells_0 3 rfl rfl)
theorem dX22_tells_4 : decode cX22_tells 4 = .ok (.iload_n 3, 1) := dk_29 (dk_at dksX22_tells_0 4 rfl rfl)
theorem dX22_tells_5 : decode cX22_tells 5 = .ok (.aload_n 0, 1) := dk_42 (dk_at dksX22_tells_0 5 rfl rfl)
theorem dX22_tells_6 : decode cX22_tells 6 = .ok (.getfield 9, 3) := dk_180 0 9 (dk_at dksX22_tells_0 6 rfl rfl)
theorem dX22_tells_9 : decode cX22_tells 9 = .ok (.arraylength, 1) := dk_190 (dk_at dksX22_tells_0 9 rfl rfl)
theorem dX22_tells_10 : decode cX22_tells 10 = .ok (.if_icmp .ge 22, 3) := dk_162 0 22 (dk_at dksX22_tells_0 10 rfl rfl)
theorem dX22_tells_13 : decode cX22_tells 13 = .ok (.iload_n 2, 1) := dk_28 (dk_at dksX22_tells_0 13 rfl rfl)
theorem dX22_tells_14 : decode cX22_tells 14 = .ok (.aload_n 0, 1) := dk_42 (dk_at dksX22_tells_0 14 rfl rfl)
theorem dX22_tells_15 : decode cX22_tells 15 = .ok (.getfield 9, 3) := dk_180 0 9 (dk_at dksX22_tells_0 15 rfl rfl)
theorem dX22_tells_18 : decode cX22_tells 18 = .ok (.iload_n 3, 1) := dk_29 (dk_at dksX22_tells_0 18 rfl rfl)
theorem dX22_tells_19 : decode cX22_tells 19 = .ok (.aaload, 1) := dk_50 (dk_at dksX22_tells_0 19 rfl rfl)
theorem dX22_tells_20 : decode cX22_tells 20 = .ok (.aload_n 1, 1) := dk_43 (dk_at dksX22_tells_0 20 rfl rfl)
theorem dX22_tells_21 : decode cX22_tells 21 = .ok (.invokevirtual 21, 3) := dk_182 0 21 (dk_at dksX22_tells_0 21 rfl rfl)
theorem dX22_tells_24 : decode cX22_tells 24 = .ok (.iadd, 1) := dk_96 (dk_at dksX22_tells_1 0 rfl rfl)
theorem dX22_tells_25 : decode cX22_tells 25 = .ok (.istore_n 2, 1) := dk_61 (dk_at dksX22_tells_1 1 rfl rfl)
theorem dX22_tells_26 : decode cX22_tells 26 = .ok (.iinc 3 1, 3) := dk_132 3 1 (dk_at dksX22_tells_1 2 rfl rfl)
theorem dX22_tells_29 : decode cX22_tells 29 = .ok (.goto (-25), 3) := dk_167 255 231 (dk_at dksX22_tells_1 5 rfl rfl)
theorem dX22_tells_32 : decode cX22_tells 32 = .ok (.iload_n 2, 1) := dk_28 (dk_at dksX22_tells_1 8 rfl rfl)
theorem dX22_tells_33 : decode cX22_tells 33 = .ok (.ireturn, 1) := dk_172 (dk_at dksX22_tells_1 9 rfl rfl)
def dkwX22_init_0 : List UInt8 := [42, 183, 0, 1, 42, 28, 189, 0, 7, 181, 0, 9, 43, 3, 42, 180, 0, 9, 3, 28, 184, 0, 15, 177]
abbrev dktX22_init_0 : List UInt8 := dkwX22_init_0 ++ []
theorem dksX22_init_0 : cX22_init.data.toList.drop 0 = dktX22_init_0 := by decide +kernel
theorem dX22_init_0 : decode cX22_init 0 = .ok (.aload_n 0, 1) := dk_42 (dk_at dksX22_init_0 0 rfl rfl)
theorem dX22_init_1 : decode cX22_init 1 = .ok (.invokespecial 1, 3) := dk_183 0 1 (dk_at dksX22_init_0 1 rfl rfl)
theorem dX22_init_4 : decode cX22_init 4 = .ok (.aload_n 0, 1) := dk_42 (dk_at dksX22_init_0 4 rfl rfl)
theorem dX22_init_5 : decode cX22_init 5 = .ok (.iload_n 2, 1) := dk_28 (dk_at dksX22_init_0 5 rfl rfl)
theorem dX22_init_6 : decode cX22_init 6 = .ok (.anewarray 7, 3) := dk_189 0 7 (dk_at dksX22_init_0 6 rfl rfl)
theorem dX22_init_9 : decode cX22_init 9 = .ok (.putfield 9, 3) := dk_181 0 9 (dk_at dksX22_init_0 9 rfl rfl)
theorem dX22_init_12 : decode cX22_init 12 = .ok (.aload_n 1, 1) := dk_43 (dk_at dksX22_init_0 12 rfl rfl)
theorem dX22_init_13 : decode cX22_init 13 = .ok (.iconst 0, 1) := dk_3 (dk_at dksX22_init_0 13 rfl rfl)
theorem dX22_init_14 : decode cX22_init 14 = .ok (.aload_n 0, 1) := dk_42 (dk_at dksX22_init_0 14 rfl rfl)
theorem dX22_init_15 : decode cX22_init 15 = .ok (.getfield 9, 3) := dk_180 0 9 (dk_at dksX22_init_0 15 rfl rfl)
theorem dX22_init_18 : decode cX22_init 18 = .ok (.iconst 0, 1) := dk_3 (dk_at dksX22_init_0 18 rfl rfl)
theorem dX22_init_19 : decode cX22_init 19 = .ok (.iload_n 2, 1) := dk_28 (dk_at dksX22_init_0 19 rfl rfl)
theorem dX22_init_20 : decode cX22_init 20 = .ok (.invokestatic 15, 3) := dk_184 0 15 (dk_at dksX22_init_0 20 rfl rfl)
theorem dX22_init_23 : decode cX22_init 23 = .ok (.return_, 1) := dk_177 (dk_at dksX22_init_0 23 rfl rfl)
def dkwX10_init_4 : List UInt8 := [181, 0, 48, 42, 187, 0, 9, 89, 183, 0, 11, 181, 0, 51, 42, 43, 181, 0, 54, 177]
abbrev dktX10_init_4 : List UInt8 := dkwX10_init_4 ++ []
def dkwX10_init_3 : List UInt8 := [181, 0, 39, 42, 16, 30, 188, 10, 181, 0, 42, 42, 16, 8, 188, 10, 181, 0, 45, 42, 16, 6, 188, 10]
abbrev dktX10_init_3 : List UInt8 := dkwX10_init_3 ++ dktX10_init_4
def dkwX10_init_2 : List UInt8 := [181, 0, 29, 42, 16, 30, 188, 10, 181, 0, 32, 42, 16, 30, 188, 10, 181, 0, 36, 42, 16, 30, 188, 10]
abbrev dktX10_init_2 : List UInt8 := dkwX10_init_2 ++ dktX10_init_3
def dkwX10_init_1 : List UInt8 := [16, 31, 17, 5, 16, 197, 0, 22, 2, 181, 0, 24, 42, 6, 16, 31, 16, 25, 197, 0, 27, 3]
abbrev dktX10_init_1 : List UInt8 := dkwX10_init_1 ++ dktX10_init_2
def dkwX10_init_0 : List UInt8 := [42, 183, 0, 3, 42, 187, 0, 9, 89, 183, 0, 11, 181, 0, 12, 42, 16, 36, 188, 4, 181, 0, 18, 42]
abbrev dktX10_init_0 : List UInt8 := dkwX10_init_0 ++ dktX10_init_1
theorem dksX10_init_0 : cX10_init.data.toList.drop 0 = dktX10_init_0 := by decide +kernel
theorem dksX10_init_1 : cX10_init.data.toList.drop 24 = dktX10_init_1 := dk_seg dksX10_init_0 24 rfl rfl
theorem dksX10_init_2 : cX10_init.data.toList.drop 46 = dktX10_init_2 := dk_seg dksX10_init_1 22 rfl rfl
theorem dksX10_init_3 : cX10_init.data.toList.drop 70 = dktX10_init_3 := dk_seg dksX10_init_2 24 rfl rfl
theorem dksX10_init_4 : cX10_init.data.toList.drop 94 = dktX10_init_4 := dk_seg dksX10_init_3 24 rfl rfl
theorem dX10_init_0 : decode cX10_init 0 = .ok (.aload_n 0, 1) := dk_42 (dk_at dksX10_init_0 0 rfl rfl)
theorem dX10_init_1 : decode cX10_init 1 = .ok (.invokespecial 3, 3) := dk_183 0 3 (dk_at dksX10_init_0 1 rfl rfl)
theorem dX10_init_4 : decode cX10_init 4 = .ok (.aload_n 0, 1) := dk_42 (dk_at dksX10_init_0 4 rfl rfl)
theorem dX10_init_5 : decode cX10_init 5 = .ok (.new 9, 3) := dk_187 0 9 (dk_at dksX10_init_0 5 rfl rfl)
theorem dX10_init_8 : decode cX10_init 8 = .ok (.dup, 1) := dk_89 (dk_at dksX10_init_0 8 rfl rfl)
theorem dX10_init_9 : decode cX10_init 9 = .ok (.invokespecial 11, 3) := dk_183 0 11 (dk_at dksX10_init_0 9 rfl rfl)
theorem dX10_init_12 : decode cX10_init 12 = .ok (.putfield 12, 3) := dk_181 0 12 (dk_at dksX10_init_0 12 rfl rfl)
theorem dX10_init_15 : decode cX10_init 15 = .ok (.aload_n 0, 1) := dk_42 (dk_at dksX10_init_0 15 rfl rfl)
theorem dX10_init_16 : decode cX10_init 16 = .ok (.bipush 36, 2) := dk_16 36 (dk_at dksX10_init_0 16 rfl rfl)
theorem dX10_init_18 : decode cX10_init 18 = .ok (.newarray .boolean, 2) := dk_188_4 (dk_at dksX10_init_0 18 rfl rfl)
theorem dX10_init_20 : decode cX10_init 20 = .ok (.putfield 18, 3) := dk_181 0 18 (dk_at dksX10_init_0 20 rfl rfl)
theorem dX10_init_23 : decode cX10_init 23 = .ok (.aload_n 0, 1) := dk_42 (dk_at dksX10_init_0 23 rfl rfl)
theorem dX10_init_24 : decode cX10_init 24 = .ok (.bipush 31, 2) := dk_16 31 (dk_at dksX10_init_1 0 rfl rfl)
theorem dX10_init_26 : decode cX10_init 26 = .ok (.sipush 1296, 3) := dk_17 5 16 (dk_at dksX10_init_1 2 rfl rfl)
theorem dX10_init_29 : decode cX10_init 29 = .ok (.multianewarray 22 2, 4) := by decide +kernel
theorem dX10_init_33 : decode cX10_init 33 = .ok (.putfield 24, 3) := dk_181 0 24 (dk_at dksX10_init_1 9 rfl rfl)
theorem dX10_init_36 : decode cX10_init 36 = .ok (.aload_n 0, 1) := dk_42 (dk_at dksX10_init_1 12 rfl rfl)
theorem dX10_init_37 : decode cX10_init 37 = .ok (.iconst 3, 1) := dk_6 (dk_at dksX10_init_1 13 rfl rfl)
theorem dX10_init_38 : decode cX10_init 38 = .ok (.bipush 31, 2) := dk_16 31 (dk_at dksX10_init_1 14 rfl rfl)
theorem dX10_init_40 : decode cX10_init 40 = .ok (.bipush 25, 2) := dk_16 25 (dk_at dksX10_init_1 16 rfl rfl)
theorem dX10_init_42 : decode cX10_init 42 = .ok (.multianewarray 27 3, 4) := by decide +kernel
theorem dX10_init_46 : decode cX10_init 46 = .ok (.putfield 29, 3) := dk_181 0 29 (dk_at dksX10_init_2 0 rfl rfl)
theorem dX10_init_49 : decode cX10_init 49 = .ok (.aload_n 0, 1) := dk_42 (dk_at dksX10_init_2 3 rfl rfl)
theorem dX10_init_50 : decode cX10_init 50 = .ok (.bipush 30, 2) := dk_16 30 (dk_at dksX10_init_2 4 rfl rfl)
theorem dX10_init_52 : decode cX10_init 52 = .ok (.newarray .int, 2) := dk_188_10 (dk_at dksX10_init_2 6 rfl rfl)
theorem dX10_init_54 : decode cX10_init 54 = .ok (.putfield 32, 3) := dk_181 0 32 (dk_at dksX10_init_2 8 rfl rfl)
theorem dX10_init_57 : decode cX10_init 57 = .ok (.aload_n 0, 1) := dk_42 (dk_at dksX10_init_2 11 rfl rfl)
theorem dX10_init_58 : decode cX10_init 58 = .ok (.bipush 30, 2) := dk_16 30 (dk_at dksX10_init_2 12 rfl rfl)
theorem dX10_init_60 : decode cX10_init 60 = .ok (.newarray .int, 2) := dk_188_10 (dk_at dksX10_init_2 14 rfl rfl)
theorem dX10_init_62 : decode cX10_init 62 = .ok (.putfield 36, 3) := dk_181 0 36 (dk_at dksX10_init_2 16 rfl rfl)
theorem dX10_init_65 : decode cX10_init 65 = .ok (.aload_n 0, 1) := dk_42 (dk_at dksX10_init_2 19 rfl rfl)
theorem dX10_init_66 : decode cX10_init 66 = .ok (.bipush 30, 2) := dk_16 30 (dk_at dksX10_init_2 20 rfl rfl)
theorem dX10_init_68 : decode cX10_init 68 = .ok (.newarray .int, 2) := dk_188_10 (dk_at dksX10_init_2 22 rfl rfl)
theorem dX10_init_70 : decode cX10_init 70 = .ok (.putfield 39, 3) := dk_181 0 39 (dk_at dksX10_init_3 0 rfl rfl)
theorem dX10_init_73 : decode cX10_init 73 = .ok (.aload_n 0, 1) := dk_42 (dk_at dksX10_init_3 3 rfl rfl)
theorem dX10_init_74 : decode cX10_init 74 = .ok (.bipush 30, 2) := dk_16 30 (dk_at dksX10_init_3 4 rfl rfl)
theorem dX10_init_76 : decode cX10_init 76 = .ok (.newarray .int, 2) := dk_188_10 (dk_at dksX10_init_3 6 rfl rfl)
theorem dX10_init_78 : decode cX10_init 78 = .ok (.putfield 42, 3) := dk_181 0 42 (dk_at dksX10_init_3 8 rfl rfl)
theorem dX10_init_81 : decode cX10_init 81 = .ok (.aload_n 0, 1) := dk_42 (dk_at dksX10_init_3 11 rfl rfl)
theorem dX10_init_82 : decode cX10_init 82 = .ok (.bipush 8, 2) := dk_16 8 (dk_at dksX10_init_3 12 rfl rfl)
theorem dX10_init_84 : decode cX10_init 84 = .ok (.newarray .int, 2) := dk_188_10 (dk_at dksX10_init_3 14 rfl rfl)
theorem dX10_init_86 : decode cX10_init 86 = .ok (.putfield 45, 3) := dk_181 0 45 (dk_at dksX10_init_3 16 rfl rfl)
theorem dX10_init_89 : decode cX10_init 89 = .ok (.aload_n 0, 1) := dk_42 (dk_at dksX10_init_3 19 rfl rfl)
theorem dX10_init_90 : decode cX10_init 90 = .ok (.bipush 6, 2) := dk_16 6 (dk_at dksX10_init_3 20 rfl rfl)
theorem dX10_init_92 : decode cX10_init 92 = .ok (.newarray .int, 2) := dk_188_10 (dk_at dksX10_init_3 22 rfl rfl)
theorem dX10_init_94 : decode cX10_init 94 = .ok (.putfield 48, 3) := dk_181 0 48 (dk_at dksX10_init_4 0 rfl rfl)
theorem dX10_init_97 : decode cX10_init 97 = .ok (.aload_n 0, 1) := dk_42 (dk_at dksX10_init_4 3 rfl rfl)
theorem dX10_init_98 : decode cX10_init 98 = .ok (.new 9, 3) := dk_187 0 9 (dk_at dksX10_init_4 4 rfl rfl)
theorem dX10_init_101 : decode cX10_init 101 = .ok (.dup, 1) := dk_89 (dk_at dksX10_init_4 7 rfl rfl)
theorem dX10_init_102 : decode cX10_init 102 = .ok (.invokespecial 11, 3) := dk_183 0 11 (dk_at dksX10_init_4 8 rfl rfl)
theorem dX10_init_105 : decode cX10_init 105 = .ok (.putfield 51, 3) := dk_181 0 51 (dk_at dksX10_init_4 11 rfl rfl)
theorem dX10_init_108 : decode cX10_init 108 = .ok (.aload_n 0, 1) := dk_42 (dk_at dksX10_init_4 14 rfl rfl)
theorem dX10_init_109 : decode cX10_init 109 = .ok (.aload_n 1, 1) := dk_43 (dk_at dksX10_init_4 15 rfl rfl)
theorem dX10_init_110 : decode cX10_init 110 = .ok (.putfield 54, 3) := dk_181 0 54 (dk_at dksX10_init_4 16 rfl rfl)
theorem dX10_init_113 : decode cX10_init 113 = .ok (.return_, 1) := dk_177 (dk_at dksX10_init_4 19 rfl rfl)
def dkwX10_least_3 : List UInt8 := [167, 0, 7, 42, 180, 0, 249, 172]
abbrev dktX10_least_3 : List UInt8 := dkwX10_least_3 ++ []
def dkwX10_least_2 : List UInt8 := [167, 255, 223, 42, 180, 0, 156, 153, 0, 8, 16, 254, 167, 0, 18, 42, 180, 0, 209, 154, 0, 7, 2]
abbrev dktX10_least_2 : List UInt8 := dkwX10_least_2 ++ dktX10_least_3
def dkwX10_least_1 : List UInt8 := [154, 0, 26, 42, 180, 0, 156, 154, 0, 19, 42, 28, 182, 0, 246, 42, 28, 181, 0, 249, 132, 2, 1]
abbrev dktX10_least_1 : List UInt8 := dkwX10_least_1 ++ dktX10_least_2
def dkwX10_least_0 : List UInt8 := [42, 27, 3, 182, 0, 242, 42, 3, 181, 0, 209, 3, 61, 28, 16, 20, 163, 0, 33, 42, 180, 0, 209]
abbrev dktX10_least_0 : List UInt8 := dkwX10_least_0 ++ dktX10_least_1
theorem dksX10_least_0 : cX10_least.data.toList.drop 0 = dktX10_least_0 := by decide +kernel
theorem dksX10_least_1 : cX10_least.data.toList.drop 23 = dktX10_least_1 := dk_seg dksX10_least_0 23 rfl rfl
theorem dksX10_least_2 : cX10_least.data.toList.drop 46 = dktX10_least_2 := dk_seg dksX10_least_1 23 rfl rfl
theorem dksX10_least_3 : cX10_least.data.toList.drop 69 = dktX10_least_3 := dk_seg dksX10_least_2 23 rfl rfl
theorem dX10_least_0 : decode cX10_least 0 = .ok (.aload_n 0, 1) := dk_42 (dk_at dksX10_least_0 0 rfl rfl)
theorem dX10_least_1 : decode cX10_least 1 = .ok (.iload_n 1, 1) := dk_27 (dk_at dksX10_least_0 1 rfl rfl)
theorem dX10_least_2 : decode cX10_least 2 = .ok (.iconst 0, 1) := dk_3 (dk_at dksX10_least_0 2 rfl rfl)
theorem dX10_least_3 : decode cX10_least 3 = .ok (.invokevirtual 242, 3) := dk_182 0 242 (dk_at dksX10_least_0 3 rfl rfl)
theorem dX10_least_6 : decode cX10_least 6 = .ok (.aload_n 0, 1) := dk_42 (dk_at dksX10_least_0 6 rfl rfl)
theorem dX10_least_7 : decode cX10_least 7 = .ok (.iconst 0, 1) := dk_3 (dk_at dksX10_least_0 7 rfl rfl)
theorem dX10_least_8 : decode cX10_least 8 = .ok (.putfield 209, 3) := dk_181 0 209 (dk_at dksX10_least_0 8 rfl rfl)
theorem dX10_least_11 : decode cX10_least 11 = .ok (.iconst 0, 1) := dk_3 (dk_at dksX10_least_0 11 rfl rfl)
theorem dX10_least_12 : decode cX10_least 12 = .ok (.istore_n 2, 1) := dk_61 (dk_at dksX10_least_0 12 rfl rfl)
theorem dX10_least_13 : decode cX10_least 13 = .ok (.iload_n 2, 1) := dk_28 (dk_at dksX10_least_0 13 rfl rfl)
theorem dX10_least_14 : decode cX10_least 14 = .ok (.bipush 20, 2) := dk_16 20 (dk_at dksX10_least_0 14 rfl rfl)
theorem dX10_least_16 : decode cX10_least 16 = .ok (.if_icmp .gt 33, 3) := dk_163 0 33 (dk_at dksX10_least_0 16 rfl rfl)
theorem dX10_least_19 : decode cX10_least 19 = .ok (.aload_n 0, 1) := dk_42 (dk_at dksX10_least_0 19 rfl rfl)
theorem dX10_least_20 : decode cX10_least 20 = .ok (.getfield 209, 3) := dk_180 0 209 (dk_at dksX10_least_0 20 rfl rfl)
theorem dX10_least_23 : decode cX10_least 23 = .ok (.ifCond .ne 26, 3) := dk_154 0 26 (dk_at dksX10_least_1 0 rfl rfl)
theorem dX10_least_26 : decode cX10_least 26 = .ok (.aload_n 0, 1) := dk_42 (dk_at dksX10_least_1 3 rfl rfl)
theorem dX10_least_27 : decode cX10_least 27 = .ok (.getfield 156, 3) := dk_180 0 156 (dk_at dksX10_least_1 4 rfl rfl)
theorem dX10_least_30 : decode cX10_least 30 = .ok (.ifCond .ne 19, 3) := dk_154 0 19 (dk_at dksX10_least_1 7 rfl rfl)
theorem dX10_least_33 : decode cX10_least 33 = .ok (.aload_n 0, 1) := dk_42 (dk_at dksX10_least_1 10 rfl rfl)
theorem dX10_least_34 : decode cX10_least 34 = .ok (.iload_n 2, 1) := dk_28 (dk_at dksX10_least_1 11 rfl rfl)
theorem dX10_least_35 : decode cX10_least 35 = .ok (.invokevirtual 246, 3) := dk_182 0 246 (dk_at dksX10_least_1 12 rfl rfl)
theorem dX10_least_38 : decode cX10_least 38 = .ok (.aload_n 0, 1) := dk_42 (dk_at dksX10_least_1 15 rfl rfl)
theorem dX10_least_39 : decode cX10_least 39 = .ok (.iload_n 2, 1) := dk_28 (dk_at dksX10_least_1 16 rfl rfl)
theorem dX10_least_40 : decode cX10_least 40 = .ok (.putfield 249, 3) := dk_181 0 249 (dk_at dksX10_least_1 17 rfl rfl)
theorem dX10_least_43 : decode cX10_least 43 = .ok (.iinc 2 1, 3) := dk_132 2 1 (dk_at dksX10_least_1 20 rfl rfl)
theorem dX10_least_46 : decode cX10_least 46 = .ok (.goto (-33), 3) := dk_167 255 223 (dk_at dksX10_least_2 0 rfl rfl)
theorem dX10_least_49 : decode cX10_least 49 = .ok (.aload_n 0, 1) := dk_42 (dk_at dksX10_least_2 3 rfl rfl)
theorem dX10_least_50 : decode cX10_least 50 = .ok (.getfield 156, 3) := dk_180 0 156 (dk_at dksX10_least_2 4 rfl rfl)
theorem dX10_least_53 : decode cX10_least 53 = .ok (.ifCond .eq 8, 3) := dk_153 0 8 (dk_at dksX10_least_2 7 rfl rfl)
theorem dX10_least_56 : decode cX10_least 56 = .ok (.bipush (-2), 2) := dk_16 254 (dk_at dksX10_least_2 10 rfl rfl)
theorem dX10_least_58 : decode cX10_least 58 = .ok (.goto 18, 3) := dk_167 0 18 (dk_at dksX10_least_2 12 rfl rfl)
theorem dX10_least_61 : decode cX10_least 61 = .ok (.aload_n 0, 1) := dk_42 (dk_at dksX10_least_2 15 rfl rfl)
theorem dX10_least_62 : decode cX10_least 62 = .ok (.getfield 209, 3) := dk_180 0 209 (dk_at dksX10_least_2 16 rfl rfl)
theorem dX10_least_65 : decode cX10_least 65 = .ok (.ifCond .ne 7, 3) := dk_154 0 7 (dk_at dksX10_least_2 19 rfl rfl)
theorem dX10_least_68 : decode cX10_least 68 = .ok (.iconst (-1), 1) := dk_2 (dk_at dksX10_least_2 22 rfl rfl)
theorem dX10_least_69 : decode cX10_least 69 = .ok (.goto 7, 3) := dk_167 0 7 (dk_at dksX10_least_3 0 rfl rfl)
theorem dX10_least_72 : decode cX10_least 72 = .ok (.aload_n 0, 1) := dk_42 (dk_at dksX10_least_3 3 rfl rfl)
theorem dX10_least_73 : decode cX10_least 73 = .ok (.getfield 249, 3) := dk_180 0 249 (dk_at dksX10_least_3 4 rfl rfl)
theorem dX10_least_76 : decode cX10_least 76 = .ok (.ireturn, 1) := dk_172 (dk_at dksX10_least_3 7 rfl rfl)
def dkwX10_begins_2 : List UInt8 := [153, 0, 7, 3, 167, 0, 12, 42, 180, 0, 54, 180, 0, 241, 29, 46, 79, 132, 3, 1, 167, 255, 224, 177]
abbrev dktX10_begins_2 : List UInt8 := dkwX10_begins_2 ++ []
def dkwX10_begins_1 : List UInt8 := [181, 0, 156, 42, 3, 181, 0, 193, 3, 62, 29, 16, 7, 163, 0, 32, 42, 180, 0, 45, 29, 28]
abbrev dktX10_begins_1 : List UInt8 := dkwX10_begins_1 ++ dktX10_begins_2
def dkwX10_begins_0 : List UInt8 := [42, 27, 181, 0, 116, 42, 28, 181, 0, 122, 42, 3, 181, 0, 153, 42, 3, 181, 0, 162, 42, 3]
abbrev dktX10_begins_0 : List UInt8 := dkwX10_begins_0 ++ dktX10_begins_1
theorem dksX10_begins_0 : cX10_begins.data.toList.drop 0 = dktX10_begins_0 := by decide +kernel
theorem dksX10_begins_1 : cX10_begins.data.toList.drop 22 = dktX10_begins_1 := dk_seg dksX10_begins_0 22 rfl rfl
theorem dksX10_begins_2 : cX10_begins.data.toList.drop 44 = dktX10_begins_2 := dk_seg dksX10_begins_1 22 rfl rfl
theorem dX10_begins_0 : decode cX10_begins 0 = .ok (.aload_n 0, 1) := dk_42 (dk_at dksX10_begins_0 0 rfl rfl)
theorem dX10_begins_1 : decode cX10_begins 1 = .ok (.iload_n 1, 1) := dk_27 (dk_at dksX10_begins_0 1 rfl rfl)
theorem dX10_begins_2 : decode cX10_begins 2 = .ok (.putfield 116, 3) := dk_181 0 116 (dk_at dksX10_begins_0 2 rfl rfl)
theorem dX10_begins_5 : decode cX10_begins 5 = .ok (.aload_n 0, 1) := dk_42 (dk_at dksX10_begins_0 5 rfl rfl)
theorem dX10_begins_6 : decode cX10_begins 6 = .ok (.iload_n 2, 1) := dk_28 (dk_at dksX10_begins_0 6 rfl rfl)
theorem dX10_begins_7 : decode cX10_begins 7 = .ok (.putfield 122, 3) := dk_181 0 122 (dk_at dksX10_begins_0 7 rfl rfl)
theorem dX10_begins_10 : decode cX10_begins 10 = .ok (.aload_n 0, 1) := dk_42 (dk_at dksX10_begins_0 10 rfl rfl)
theorem dX10_begins_11 : decode cX10_begins 11 = .ok (.iconst 0, 1) := dk_3 (dk_at dksX10_begins_0 11 rfl rfl)
theorem dX10_begins_12 : decode cX10_begins 12 = .ok (.putfield 153, 3) := dk_181 0 153 (dk_at dksX10_begins_0 12 rfl rfl)
theorem dX10_begins_15 : decode cX10_begins 15 = .ok (.aload_n 0, 1) := dk_42 (dk_at dksX10_begins_0 15 rfl rfl)
theorem dX10_begins_16 : decode cX10_begins 16 = .ok (.iconst 0, 1) := dk_3 (dk_at dksX10_begins_0 16 rfl rfl)
theorem dX10_begins_17 : decode cX10_begins 17 = .ok (.putfield 162, 3) := dk_181 0 162 (dk_at dksX10_begins_0 17 rfl rfl)
theorem dX10_begins_20 : decode cX10_begins 20 = .ok (.aload_n 0, 1) := dk_42 (dk_at dksX10_begins_0 20 rfl rfl)
theorem dX10_begins_21 : decode cX10_begins 21 = .ok (.iconst 0, 1) := dk_3 (dk_at dksX10_begins_0 21 rfl rfl)
theorem dX10_begins_22 : decode cX10_begins 22 = .ok (.putfield 156, 3) := dk_181 0 156 (dk_at dksX10_begins_1 0 rfl rfl)
theorem dX10_begins_25 : decode cX10_begins 25 = .ok (.aload_n 0, 1) := dk_42 (dk_at dksX10_begins_1 3 rfl rfl)
theorem dX10_begins_26 : decode cX10_begins 26 = .ok (.iconst 0, 1) := dk_3 (dk_at dksX10_begins_1 4 rfl rfl)
theorem dX10_begins_27 : decode cX10_begins 27 = .ok (.putfield 193, 3) := dk_181 0 193 (dk_at dksX10_begins_1 5 rfl rfl)
theorem dX10_begins_30 : decode cX10_begins 30 = .ok (.iconst 0, 1) := dk_3 (dk_at dksX10_begins_1 8 rfl rfl)
theorem dX10_begins_31 : decode cX10_begins 31 = .ok (.istore_n 3, 1) := dk_62 (dk_at dksX10_begins_1 9 rfl rfl)
theorem dX10_begins_32 : decode cX10_begins 32 = .ok (.iload_n 3, 1) := dk_29 (dk_at dksX10_begins_1 10 rfl rfl)
theorem dX10_begins_33 : decode cX10_begins 33 = .ok (.bipush 7, 2) := dk_16 7 (dk_at dksX10_begins_1 11 rfl rfl)
theorem dX10_begins_35 : decode cX10_begins 35 = .ok (.if_icmp .gt 32, 3) := dk_163 0 32 (dk_at dksX10_begins_1 13 rfl rfl)
theorem dX10_begins_38 : decode cX10_begins 38 = .ok (.aload_n 0, 1) := dk_42 (dk_at dksX10_begins_1 16 rfl rfl)
theorem dX10_begins_39 : decode cX10_begins 39 = .ok (.getfield 45, 3) := dk_180 0 45 (dk_at dksX10_begins_1 17 rfl rfl)
theorem dX10_begins_42 : decode cX10_begins 42 = .ok (.iload_n 3, 1) := dk_29 (dk_at dksX10_begins_1 20 rfl rfl)
theorem dX10_begins_43 : decode cX10_begins 43 = .ok (.iload_n 2, 1) := dk_28 (dk_at dksX10_begins_1 21 rfl rfl)
theorem dX10_begins_44 : decode cX10_begins 44 = .ok (.ifCond .eq 7, 3) := dk_153 0 7 (dk_at dksX10_begins_2 0 rfl rfl)
theorem dX10_begins_47 : decode cX10_begins 47 = .ok (.iconst 0, 1) := dk_3 (dk_at dksX10_begins_2 3 rfl rfl)
theorem dX10_begins_48 : decode cX10_begins 48 = .ok (.goto 12, 3) := dk_167 0 12 (dk_at dksX10_begins_2 4 rfl rfl)
theorem dX10_begins_51 : decode cX10_begins 51 = .ok (.aload_n 0, 1) := dk_42 (dk_at dksX10_begins_2 7 rfl rfl)
theorem dX10_begins_52 : decode cX10_begins 52 = .ok (.getfield 54, 3) := dk_180 0 54 (dk_at dksX10_begins_2 8 rfl rfl)
theorem dX10_begins_55 : decode cX10_begins 55 = .ok (.getfield 241, 3) := dk_180 0 241 (dk_at dksX10_begins_2 11 rfl rfl)
theorem dX10_begins_58 : decode cX10_begins 58 = .ok (.iload_n 3, 1) := dk_29 (dk_at dksX10_begins_2 14 rfl rfl)
theorem dX10_begins_59 : decode cX10_begins 59 = .ok (.iaload, 1) := dk_46 (dk_at dksX10_begins_2 15 rfl rfl)
theorem dX10_begins_60 : decode cX10_begins 60 = .ok (.iastore, 1) := dk_79 (dk_at dksX10_begins_2 16 rfl rfl)
theorem dX10_begins_61 : decode cX10_begins 61 = .ok (.iinc 3 1, 3) := dk_132 3 1 (dk_at dksX10_begins_2 17 rfl rfl)
theorem dX10_begins_64 : decode cX10_begins 64 = .ok (.goto (-32), 3) := dk_167 255 224 (dk_at dksX10_begins_2 20 rfl rfl)
theorem dX10_begins_67 : decode cX10_begins 67 = .ok (.return_, 1) := dk_177 (dk_at dksX10_begins_2 23 rfl rfl)
def dkwX10_walks_3 : List UInt8 := [167, 255, 208, 42, 3, 182, 0, 187, 177]
abbrev dktX10_walks_3 : List UInt8 := dkwX10_walks_3 ++ []
def dkwX10_walks_2 : List UInt8 := [50, 29, 29, 154, 0, 7, 3, 167, 0, 5, 18, 98, 79, 132, 3, 1, 167, 255, 227, 132, 2, 1]
abbrev dktX10_walks_2 : List UInt8 := dkwX10_walks_2 ++ dktX10_walks_3
def dkwX10_walks_1 : List UInt8 := [180, 0, 54, 180, 0, 141, 162, 0, 43, 3, 62, 29, 16, 24, 163, 0, 29, 42, 180, 0, 29, 28, 50, 3]
abbrev dktX10_walks_1 : List UInt8 := dkwX10_walks_1 ++ dktX10_walks_2
def dkwX10_walks_0 : List UInt8 := [42, 27, 181, 0, 150, 42, 180, 0, 12, 42, 180, 0, 54, 180, 0, 234, 182, 0, 237, 3, 61, 28, 42]
abbrev dktX10_walks_0 : List UInt8 := dkwX10_walks_0 ++ dktX10_walks_1
theorem dksX10_walks_0 : cX10_walks.data.toList.drop 0 = dktX10_walks_0 := by decide +kernel
theorem dksX10_walks_1 : cX10_walks.data.toList.drop 23 = dktX10_walks_1 := dk_seg dksX10_walks_0 23 rfl rfl
theorem dksX10_walks_2 : cX10_walks.data.toList.drop 47 = dktX10_walks_2 := dk_seg dksX10_walks_1 24 rfl rfl
theorem dksX10_walks_3 : cX10_walks.data.toList.drop 69 = dktX10_walks_3 := dk_seg dksX10_walks_2 22 rfl rfl
theorem dX10_walks_0 : decode cX10_walks 0 = .ok (.aload_n 0, 1) := dk_42 (dk_at dksX10_walks_0 0 rfl rfl)
theorem dX10_walks_1 : decode cX10_walks 1 = .ok (.iload_n 1, 1) := dk_27 (dk_at dksX10_walks_0 1 rfl rfl)
theorem dX10_walks_2 : decode cX10_walks 2 = .ok (.putfield 150, 3) := dk_181 0 150 (dk_at dksX10_walks_0 2 rfl rfl)
theorem dX10_walks_5 : decode cX10_walks 5 = .ok (.aload_n 0, 1) := dk_42 (dk_at dksX10_walks_0 5 rfl rfl)
theorem dX10_walks_6 : decode cX10_walks 6 = .ok (.getfield 12, 3) := dk_180 0 12 (dk_at dksX10_walks_0 6 rfl rfl)
theorem dX10_walks_9 : decode cX10_walks 9 = .ok (.aload_n 0, 1) := dk_42 (dk_at dksX10_walks_0 9 rfl rfl)
theorem dX10_walks_10 : decode cX10_walks 10 = .ok (.getfield 54, 3) := dk_180 0 54 (dk_at dksX10_walks_0 10 rfl rfl)
theorem dX10_walks_13 : decode cX10_walks 13 = .ok (.getfield 234, 3) := dk_180 0 234 (dk_at dksX10_walks_0 13 rfl rfl)
theorem dX10_walks_16 : decode cX10_walks 16 = .ok (.invokevirtual 237, 3) := dk_182 0 237 (dk_at dksX10_walks_0 16 rfl rfl)
theorem dX10_walks_19 : decode cX10_walks 19 = .ok (.iconst 0, 1) := dk_3 (dk_at dksX10_walks_0 19 rfl rfl)
theorem dX10_walks_20 : decode cX10_walks 20 = .ok (.istore_n 2, 1) := dk_61 (dk_at dksX10_walks_0 20 rfl rfl)
theorem dX10_walks_21 : decode cX10_walks 21 = .ok (.iload_n 2, 1) := dk_28 (dk_at dksX10_walks_0 21 rfl rfl)
theorem dX10_walks_22 : decode cX10_walks 22 = .ok (.aload_n 0, 1) := dk_42 (dk_at dksX10_walks_0 22 rfl rfl)
theorem dX10_walks_23 : decode cX10_walks 23 = .ok (.getfield 54, 3) := dk_180 0 54 (dk_at dksX10_walks_1 0 rfl rfl)
theorem dX10_walks_26 : decode cX10_walks 26 = .ok (.getfield 141, 3) := dk_180 0 141 (dk_at dksX10_walks_1 3 rfl rfl)
theorem dX10_walks_29 : decode cX10_walks 29 = .ok (.if_icmp .ge 43, 3) := dk_162 0 43 (dk_at dksX10_walks_1 6 rfl rfl)
theorem dX10_walks_32 : decode cX10_walks 32 = .ok (.iconst 0, 1) := dk_3 (dk_at dksX10_walks_1 9 rfl rfl)
theorem dX10_walks_33 : decode cX10_walks 33 = .ok (.istore_n 3, 1) := dk_62 (dk_at dksX10_walks_1 10 rfl rfl)
theorem dX10_walks_34 : decode cX10_walks 34 = .ok (.iload_n 3, 1) := dk_29 (dk_at dksX10_walks_1 11 rfl rfl)
theorem dX10_walks_35 : decode cX10_walks 35 = .ok (.bipush 24, 2) := dk_16 24 (dk_at dksX10_walks_1 12 rfl rfl)
theorem dX10_walks_37 : decode cX10_walks 37 = .ok (.if_icmp .gt 29, 3) := dk_163 0 29 (dk_at dksX10_walks_1 14 rfl rfl)
theorem dX10_walks_40 : decode cX10_walks 40 = .ok (.aload_n 0, 1) := dk_42 (dk_at dksX10_walks_1 17 rfl rfl)
theorem dX10_walks_41 : decode cX10_walks 41 = .ok (.getfield 29, 3) := dk_180 0 29 (dk_at dksX10_walks_1 18 rfl rfl)
theorem dX10_walks_44 : decode cX10_walks 44 = .ok (.iload_n 2, 1) := dk_28 (dk_at dksX10_walks_1 21 rfl rfl)
theorem dX10_walks_45 : decode cX10_walks 45 = .ok (.aaload, 1) := dk_50 (dk_at dksX10_walks_1 22 rfl rfl)
theorem dX10_walks_46 : decode cX10_walks 46 = .ok (.iconst 0, 1) := dk_3 (dk_at dksX10_walks_1 23 rfl rfl)
theorem dX10_walks_47 : decode cX10_walks 47 = .ok (.aaload, 1) := dk_50 (dk_at dksX10_walks_2 0 rfl rfl)
theorem dX10_walks_48 : decode cX10_walks 48 = .ok (.iload_n 3, 1) := dk_29 (dk_at dksX10_walks_2 1 rfl rfl)
theorem dX10_walks_49 : decode cX10_walks 49 = .ok (.iload_n 3, 1) := dk_29 (dk_at dksX10_walks_2 2 rfl rfl)
theorem dX10_walks_50 : decode cX10_walks 50 = .ok (.ifCond .ne 7, 3) := dk_154 0 7 (dk_at dksX10_walks_2 3 rfl rfl)
theorem dX10_walks_53 : decode cX10_walks 53 = .ok (.iconst 0, 1) := dk_3 (dk_at dksX10_walks_2 6 rfl rfl)
theorem dX10_walks_54 : decode cX10_walks 54 = .ok (.goto 5, 3) := dk_167 0 5 (dk_at dksX10_walks_2 7 rfl rfl)
theorem dX10_walks_57 : decode cX10_walks 57 = .ok (.ldc 98, 2) := dk_18 98 (dk_at dksX10_walks_2 10 rfl rfl)
theorem dX10_walks_59 : decode cX10_walks 59 = .ok (.iastore, 1) := dk_79 (dk_at dksX10_walks_2 12 rfl rfl)
theorem dX10_walks_60 : decode cX10_walks 60 = .ok (.iinc 3 1, 3) := dk_132 3 1 (dk_at dksX10_walks_2 13 rfl rfl)
theorem dX10_walks_63 : decode cX10_walks 63 = .ok (.goto (-29), 3) := dk_167 255 227 (dk_at dksX10_walks_2 16 rfl rfl)
theorem dX10_walks_66 : decode cX10_walks 66 = .ok (.iinc 2 1, 3) := dk_132 2 1 (dk_at dksX10_walks_2 19 rfl rfl)
theorem dX10_walks_69 : decode cX10_walks 69 = .ok (.goto (-48), 3) := dk_167 255 208 (dk_at dksX10_walks_3 0 rfl rfl)
theorem dX10_walks_72 : decode cX10_walks 72 = .ok (.aload_n 0, 1) := dk_42 (dk_at dksX10_walks_3 3 rfl rfl)
theorem dX10_walks_73 : decode cX10_walks 73 = .ok (.iconst 0, 1) := dk_3 (dk_at dksX10_walks_3 4 rfl rfl)
theorem dX10_walks_74 : decode cX10_walks 74 = .ok (.invokevirtual 187, 3) := dk_182 0 187 (dk_at dksX10_walks_3 5 rfl rfl)
theorem dX10_walks_77 : decode cX10_walks 77 = .ok (.return_, 1) := dk_177 (dk_at dksX10_walks_3 8 rfl rfl)
def dkwX10_goes_12 : List UInt8 := [21, 6, 21, 9, 182, 0, 189, 132, 5, 1, 167, 255, 82, 177]
abbrev dktX10_goes_12 : List UInt8 := dkwX10_goes_12 ++ []
def dkwX10_goes_11 : List UInt8 := [182, 0, 183, 54, 9, 42, 180, 0, 32, 27, 21, 6, 79, 42, 27, 4, 96, 182, 0, 187, 42, 180, 0, 12]
abbrev dktX10_goes_11 : List UInt8 := dkwX10_goes_11 ++ dktX10_goes_12
def dkwX10_goes_10 : List UInt8 := [132, 9, 1, 167, 255, 178, 21, 8, 42, 180, 0, 150, 164, 0, 6, 167, 0, 40, 42, 180, 0, 12, 21, 6]
abbrev dktX10_goes_10 : List UInt8 := dkwX10_goes_10 ++ dktX10_goes_11
def dkwX10_goes_9 : List UInt8 := [50, 27, 4, 96, 50, 21, 7, 28, 21, 6, 182, 0, 179, 96, 184, 0, 106, 167, 0, 5, 21, 8, 54, 8]
abbrev dktX10_goes_9 : List UInt8 := dkwX10_goes_9 ++ dktX10_goes_10
def dkwX10_goes_8 : List UInt8 := [180, 0, 54, 180, 0, 147, 21, 9, 50, 42, 180, 0, 29, 21, 9, 50, 27, 50, 42, 180, 0, 29, 21, 9]
abbrev dktX10_goes_8 : List UInt8 := dkwX10_goes_8 ++ dktX10_goes_9
def dkwX10_goes_7 : List UInt8 := [180, 0, 54, 180, 0, 141, 162, 0, 72, 42, 21, 9, 182, 0, 144, 153, 0, 53, 18, 98, 21, 8, 42, 42]
abbrev dktX10_goes_7 : List UInt8 := dkwX10_goes_7 ++ dktX10_goes_8
def dkwX10_goes_6 : List UInt8 := [180, 0, 12, 180, 0, 58, 21, 6, 16, 36, 108, 46, 54, 7, 3, 54, 8, 3, 54, 9, 21, 9, 42]
abbrev dktX10_goes_6 : List UInt8 := dkwX10_goes_6 ++ dktX10_goes_7
def dkwX10_goes_5 : List UInt8 := [3, 54, 5, 21, 5, 21, 4, 162, 0, 173, 42, 180, 0, 156, 154, 0, 166, 45, 21, 5, 46, 54, 6, 42]
abbrev dktX10_goes_5 : List UInt8 := dkwX10_goes_5 ++ dktX10_goes_6
def dkwX10_goes_4 : List UInt8 := [177, 27, 5, 112, 61, 42, 180, 0, 24, 27, 50, 78, 42, 42, 180, 0, 12, 28, 45, 182, 0, 175, 54, 4]
abbrev dktX10_goes_4 : List UInt8 := dkwX10_goes_4 ++ dktX10_goes_5
def dkwX10_goes_3 : List UInt8 := [27, 16, 30, 159, 0, 21, 42, 180, 0, 122, 154, 0, 15, 27, 42, 180, 0, 54, 180, 0, 138, 160, 0, 4]
abbrev dktX10_goes_3 : List UInt8 := dkwX10_goes_3 ++ dktX10_goes_4
def dkwX10_goes_2 : List UInt8 := [42, 180, 0, 162, 27, 184, 0, 165, 181, 0, 162, 42, 27, 182, 0, 168, 153, 0, 8, 42, 27, 182, 0, 171]
abbrev dktX10_goes_2 : List UInt8 := dkwX10_goes_2 ++ dktX10_goes_3
def dkwX10_goes_1 : List UInt8 := [167, 0, 4, 3, 181, 0, 156, 42, 180, 0, 156, 154, 0, 11, 42, 27, 182, 0, 159, 153, 0, 4, 177, 42]
abbrev dktX10_goes_1 : List UInt8 := dkwX10_goes_1 ++ dktX10_goes_2
def dkwX10_goes_0 : List UInt8 := [42, 89, 180, 0, 153, 4, 96, 181, 0, 153, 42, 42, 180, 0, 153, 17, 31, 64, 164, 0, 7, 4]
abbrev dktX10_goes_0 : List UInt8 := dkwX10_goes_0 ++ dktX10_goes_1
theorem dksX10_goes_0 : cX10_goes.data.toList.drop 0 = dktX10_goes_0 := by decide +kernel
theorem dksX10_goes_1 : cX10_goes.data.toList.drop 22 = dktX10_goes_1 := dk_seg dksX10_goes_0 22 rfl rfl
theorem dksX10_goes_2 : cX10_goes.data.toList.drop 46 = dktX10_goes_2 := dk_seg dksX10_goes_1 24 rfl rfl
theorem dksX10_goes_3 : cX10_goes.data.toList.drop 70 = dktX10_goes_3 := dk_seg dksX10_goes_2 24 rfl rfl
theorem dksX10_goes_4 : cX10_goes.data.toList.drop 94 = dktX10_goes_4 := dk_seg dksX10_goes_3 24 rfl rfl
theorem dksX10_goes_5 : cX10_goes.data.toList.drop 118 = dktX10_goes_5 := dk_seg dksX10_goes_4 24 rfl rfl
theorem dksX10_goes_6 : cX10_goes.data.toList.drop 142 = dktX10_goes_6 := dk_seg dksX10_goes_5 24 rfl rfl
theorem dksX10_goes_7 : cX10_goes.data.toList.drop 165 = dktX10_goes_7 := dk_seg dksX10_goes_6 23 rfl rfl
theorem dksX10_goes_8 : cX10_goes.data.toList.drop 189 = dktX10_goes_8 := dk_seg dksX10_goes_7 24 rfl rfl
theorem dksX10_goes_9 : cX10_goes.data.toList.drop 213 = dktX10_goes_9 := dk_seg dksX10_goes_8 24 rfl rfl
theorem dksX10_goes_10 : cX10_goes.data.toList.drop 237 = dktX10_goes_10 := dk_seg dksX10_goes_9 24 rfl rfl
theorem dksX10_goes_11 : cX10_goes.data.toList.drop 261 = dktX10_goes_11 := dk_seg dksX10_goes_10 24 rfl rfl
theorem dksX10_goes_12 : cX10_goes.data.toList.drop 285 = dktX10_goes_12 := dk_seg dksX10_goes_11 24 rfl rfl
theorem dX10_goes_0 : decode cX10_goes 0 = .ok (.aload_n 0, 1) := dk_42 (dk_at dksX10_goes_0 0 rfl rfl)
theorem dX10_goes_1 : decode cX10_goes 1 = .ok (.dup, 1) := dk_89 (dk_at dksX10_goes_0 1 rfl rfl)
theorem dX10_goes_2 : decode cX10_goes 2 = .ok (.getfield 153, 3) := dk_180 0 153 (dk_at dksX10_goes_0 2 rfl rfl)
theorem dX10_goes_5 : decode cX10_goes 5 = .ok (.iconst 1, 1) := dk_4 (dk_at dksX10_goes_0 5 rfl rfl)
theorem dX10_goes_6 : decode cX10_goes 6 = .ok (.iadd, 1) := dk_96 (dk_at dksX10_goes_0 6 rfl rfl)
theorem dX10_goes_7 : decode cX10_goes 7 = .ok (.putfield 153, 3) := dk_181 0 153 (dk_at dksX10_goes_0 7 rfl rfl)
theorem dX10_goes_10 : decode cX10_goes 10 = .ok (.aload_n 0, 1) := dk_42 (dk_at dksX10_goes_0 10 rfl rfl)
theorem dX10_goes_11 : decode cX10_goes 11 = .ok (.aload_n 0, 1) := dk_42 (dk_at dksX10_goes_0 11 rfl rfl)
theorem dX10_goes_12 : decode cX10_goes 12 = .ok (.getfield 153, 3) := dk_180 0 153 (dk_at dksX10_goes_0 12 rfl rfl)
theorem dX10_goes_15 : decode cX10_goes 15 = .ok (.sipush 8000, 3) := dk_17 31 64 (dk_at dksX10_goes_0 15 rfl rfl)
theorem dX10_goes_18 : decode cX10_goes 18 = .ok (.if_icmp .le 7, 3) := dk_164 0 7 (dk_at dksX10_goes_0 18 rfl rfl)
theorem dX10_goes_21 : decode cX10_goes 21 = .ok (.iconst 1, 1) := dk_4 (dk_at dksX10_goes_0 21 rfl rfl)
theorem dX10_goes_22 : decode cX10_goes 22 = .ok (.goto 4, 3) := dk_167 0 4 (dk_at dksX10_goes_1 0 rfl rfl)
theorem dX10_goes_25 : decode cX10_goes 25 = .ok (.iconst 0, 1) := dk_3 (dk_at dksX10_goes_1 3 rfl rfl)
theorem dX10_goes_26 : decode cX10_goes 26 = .ok (.putfield 156, 3) := dk_181 0 156 (dk_at dksX10_goes_1 4 rfl rfl)
theorem dX10_goes_29 : decode cX10_goes 29 = .ok (.aload_n 0, 1) := dk_42 (dk_at dksX10_goes_1 7 rfl rfl)
theorem dX10_goes_30 : decode cX10_goes 30 = .ok (.getfield 156, 3) := dk_180 0 156 (dk_at dksX10_goes_1 8 rfl rfl)
theorem dX10_goes_33 : decode cX10_goes 33 = .ok (.ifCond .ne 11, 3) := dk_154 0 11 (dk_at dksX10_goes_1 11 rfl rfl)
theorem dX10_goes_36 : decode cX10_goes 36 = .ok (.aload_n 0, 1) := dk_42 (dk_at dksX10_goes_1 14 rfl rfl)
theorem dX10_goes_37 : decode cX10_goes 37 = .ok (.iload_n 1, 1) := dk_27 (dk_at dksX10_goes_1 15 rfl rfl)
theorem dX10_goes_38 : decode cX10_goes 38 = .ok (.invokevirtual 159, 3) := dk_182 0 159 (dk_at dksX10_goes_1 16 rfl rfl)
theorem dX10_goes_41 : decode cX10_goes 41 = .ok (.ifCond .eq 4, 3) := dk_153 0 4 (dk_at dksX10_goes_1 19 rfl rfl)
theorem dX10_goes_44 : decode cX10_goes 44 = .ok (.return_, 1) := dk_177 (dk_at dksX10_goes_1 22 rfl rfl)
theorem dX10_goes_45 : decode cX10_goes 45 = .ok (.aload_n 0, 1) := dk_42 (dk_at dksX10_goes_1 23 rfl rfl)
theorem dX10_goes_46 : decode cX10_goes 46 = .ok (.aload_n 0, 1) := dk_42 (dk_at dksX10_goes_2 0 rfl rfl)
theorem dX10_goes_47 : decode cX10_goes 47 = .ok (.getfield 162, 3) := dk_180 0 162 (dk_at dksX10_goes_2 1 rfl rfl)
theorem dX10_goes_50 : decode cX10_goes 50 = .ok (.iload_n 1, 1) := dk_27 (dk_at dksX10_goes_2 4 rfl rfl)
theorem dX10_goes_51 : decode cX10_goes 51 = .ok (.invokestatic 165, 3) := dk_184 0 165 (dk_at dksX10_goes_2 5 rfl rfl)
theorem dX10_goes_54 : decode cX10_goes 54 = .ok (.putfield 162, 3) := dk_181 0 162 (dk_at dksX10_goes_2 8 rfl rfl)
theorem dX10_goes_57 : decode cX10_goes 57 = .ok (.aload_n 0, 1) := dk_42 (dk_at dksX10_goes_2 11 rfl rfl)
theorem dX10_goes_58 : decode cX10_goes 58 = .ok (.iload_n 1, 1) := dk_27 (dk_at dksX10_goes_2 12 rfl rfl)
theorem dX10_goes_59 : decode cX10_goes 59 = .ok (.invokevirtual 168, 3) := dk_182 0 168 (dk_at dksX10_goes_2 13 rfl rfl)
theorem dX10_goes_62 : decode cX10_goes 62 = .ok (.ifCond .eq 8, 3) := dk_153 0 8 (dk_at dksX10_goes_2 16 rfl rfl)
theorem dX10_goes_65 : decode cX10_goes 65 = .ok (.aload_n 0, 1) := dk_42 (dk_at dksX10_goes_2 19 rfl rfl)
theorem dX10_goes_66 : decode cX10_goes 66 = .ok (.iload_n 1, 1) := dk_27 (dk_at dksX10_goes_2 20 rfl rfl)
theorem dX10_goes_67 : decode cX10_goes 67 = .ok (.invokevirtual 171, 3) := dk_182 0 171 (dk_at dksX10_goes_2 21 rfl rfl)
theorem dX10_goes_70 : decode cX10_goes 70 = .ok (.iload_n 1, 1) := dk_27 (dk_at dksX10_goes_3 0 rfl rfl)
theorem dX10_goes_71 : decode cX10_goes 71 = .ok (.bipush 30, 2) := dk_16 30 (dk_at dksX10_goes_3 1 rfl rfl)
theorem dX10_goes_73 : decode cX10_goes 73 = .ok (.if_icmp .eq 21, 3) := dk_159 0 21 (dk_at dksX10_goes_3 3 rfl rfl)
theorem dX10_goes_76 : decode cX10_goes 76 = .ok (.aload_n 0, 1) := dk_42 (dk_at dksX10_goes_3 6 rfl rfl)
theorem dX10_goes_77 : decode cX10_goes 77 = .ok (.getfield 122, 3) := dk_180 0 122 (dk_at dksX10_goes_3 7 rfl rfl)
theorem dX10_goes_80 : decode cX10_goes 80 = .ok (.ifCond .ne 15, 3) := dk_154 0 15 (dk_at dksX10_goes_3 10 rfl rfl)
theorem dX10_goes_83 : decode cX10_goes 83 = .ok (.iload_n 1, 1) := dk_27 (dk_at dksX10_goes_3 13 rfl rfl)
theorem dX10_goes_84 : decode cX10_goes 84 = .ok (.aload_n 0, 1) := dk_42 (dk_at dksX10_goes_3 14 rfl rfl)
theorem dX10_goes_85 : decode cX10_goes 85 = .ok (.getfield 54, 3) := dk_180 0 54 (dk_at dksX10_goes_3 15 rfl rfl)
theorem dX10_goes_88 : decode cX10_goes 88 = .ok (.getfield 138, 3) := dk_180 0 138 (dk_at dksX10_goes_3 18 rfl rfl)
theorem dX10_goes_91 : decode cX10_goes 91 = .ok (.if_icmp .ne 4, 3) := dk_160 0 4 (dk_at dksX10_goes_3 21 rfl rfl)
theorem dX10_goes_94 : decode cX10_goes 94 = .ok (.return_, 1) := dk_177 (dk_at dksX10_goes_4 0 rfl rfl)
theorem dX10_goes_95 : decode cX10_goes 95 = .ok (.iload_n 1, 1) := dk_27 (dk_at dksX10_goes_4 1 rfl rfl)
theorem dX10_goes_96 : decode cX10_goes 96 = .ok (.iconst 2, 1) := dk_5 (dk_at dksX10_goes_4 2 rfl rfl)
theorem dX10_goes_97 : decode cX10_goes 97 = .ok (.irem, 1) := dk_112 (dk_at dksX10_goes_4 3 rfl rfl)
theorem dX10_goes_98 : decode cX10_goes 98 = .ok (.istore_n 2, 1) := dk_61 (dk_at dksX10_goes_4 4 rfl rfl)
theorem dX10_goes_99 : decode cX10_goes 99 = .ok (.aload_n 0, 1) := dk_42 (dk_at dksX10_goes_4 5 rfl rfl)
theorem dX10_goes_100 : decode cX10_goes 100 = .ok (.getfield 24, 3) := dk_180 0 24 (dk_at dksX10_goes_4 6 rfl rfl)
theorem dX10_goes_103 : decode cX10_goes 103 = .ok (.iload_n 1, 1) := dk_27 (dk_at dksX10_goes_4 9 rfl rfl)
theorem dX10_goes_104 : decode cX10_goes 104 = .ok (.aaload, 1) := dk_50 (dk_at dksX10_goes_4 10 rfl rfl)
theorem dX10_goes_105 : decode cX10_goes 105 = .ok (.astore_n 3, 1) := dk_78 (dk_at dksX10_goes_4 11 rfl rfl)
theorem dX10_goes_106 : decode cX10_goes 106 = .ok (.aload_n 0, 1) := dk_42 (dk_at dksX10_goes_4 12 rfl rfl)
theorem dX10_goes_107 : decode cX10_goes 107 = .ok (.aload_n 0, 1) := dk_42 (dk_at dksX10_goes_4 13 rfl rfl)
theorem dX10_goes_108 : decode cX10_goes 108 = .ok (.getfield 12, 3) := dk_180 0 12 (dk_at dksX10_goes_4 14 rfl rfl)
theorem dX10_goes_111 : decode cX10_goes 111 = .ok (.iload_n 2, 1) := dk_28 (dk_at dksX10_goes_4 17 rfl rfl)
theorem dX10_goes_112 : decode cX10_goes 112 = .ok (.aload_n 3, 1) := dk_45 (dk_at dksX10_goes_4 18 rfl rfl)
theorem dX10_goes_113 : decode cX10_goes 113 = .ok (.invokevirtual 175, 3) := dk_182 0 175 (dk_at dksX10_goes_4 19 rfl rfl)
theorem dX10_goes_116 : decode cX10_goes 116 = .ok (.istore 4, 2) := dk_54 4 (dk_at dksX10_goes_4 22 rfl rfl)
theorem dX10_goes_118 : decode cX10_goes 118 = .ok (.iconst 0, 1) := dk_3 (dk_at dksX10_goes_5 0 rfl rfl)
theorem dX10_goes_119 : decode cX10_goes 119 = .ok (.istore 5, 2) := dk_54 5 (dk_at dksX10_goes_5 1 rfl rfl)
theorem dX10_goes_121 : decode cX10_goes 121 = .ok (.iload 5, 2) := dk_21 5 (dk_at dksX10_goes_5 3 rfl rfl)
theorem dX10_goes_123 : decode cX10_goes 123 = .ok (.iload 4, 2) := dk_21 4 (dk_at dksX10_goes_5 5 rfl rfl)
theorem dX10_goes_125 : decode cX10_goes 125 = .ok (.if_icmp .ge 173, 3) := dk_162 0 173 (dk_at dksX10_goes_5 7 rfl rfl)
theorem dX10_goes_128 : decode cX10_goes 128 = .ok (.aload_n 0, 1) := dk_42 (dk_at dksX10_goes_5 10 rfl rfl)
theorem dX10_goes_129 : decode cX10_goes 129 = .ok (.getfield 156, 3) := dk_180 0 156 (dk_at dksX10_goes_5 11 rfl rfl)
theorem dX10_goes_132 : decode cX10_goes 132 = .ok (.ifCond .ne 166, 3) := dk_154 0 166 (dk_at dksX10_goes_5 14 rfl rfl)
theorem dX10_goes_135 : decode cX10_goes 135 = .ok (.aload_n 3, 1) := dk_45 (dk_at dksX10_goes_5 17 rfl rfl)
theorem dX10_goes_136 : decode cX10_goes 136 = .ok (.iload 5, 2) := dk_21 5 (dk_at dksX10_goes_5 18 rfl rfl)
theorem dX10_goes_138 : decode cX10_goes 138 = .ok (.iaload, 1) := dk_46 (dk_at dksX10_goes_5 20 rfl rfl)
theorem dX10_goes_139 : decode cX10_goes 139 = .ok (.istore 6, 2) := dk_54 6 (dk_at dksX10_goes_5 21 rfl rfl)
theorem dX10_goes_141 : decode cX10_goes 141 = .ok (.aload_n 0, 1) := dk_42 (dk_at dksX10_goes_5 23 rfl rfl)
theorem dX10_goes_142 : decode cX10_goes 142 = .ok (.getfield 12, 3) := dk_180 0 12 (dk_at dksX10_goes_6 0 rfl rfl)
theorem dX10_goes_145 : decode cX10_goes 145 = .ok (.getfield 58, 3) := dk_180 0 58 (dk_at dksX10_goes_6 3 rfl rfl)
theorem dX10_goes_148 : decode cX10_goes 148 = .ok (.iload 6, 2) := dk_21 6 (dk_at dksX10_goes_6 6 rfl rfl)
theorem dX10_goes_150 : decode cX10_goes 150 = .ok (.bipush 36, 2) := dk_16 36 (dk_at dksX10_goes_6 8 rfl rfl)
theorem dX10_goes_152 : decode cX10_goes 152 = .ok (.idiv, 1) := dk_108 (dk_at dksX10_goes_6 10 rfl rfl)
theorem dX10_goes_153 : decode cX10_goes 153 = .ok (.iaload, 1) := dk_46 (dk_at dksX10_goes_6 11 rfl rfl)
theorem dX10_goes_154 : decode cX10_goes 154 = .ok (.istore 7, 2) := dk_54 7 (dk_at dksX10_goes_6 12 rfl rfl)
theorem dX10_goes_156 : decode cX10_goes 156 = .ok (.iconst 0, 1) := dk_3 (dk_at dksX10_goes_6 14 rfl rfl)
theorem dX10_goes_157 : decode cX10_goes 157 = .ok (.istore 8, 2) := dk_54 8 (dk_at dksX10_goes_6 15 rfl rfl)
theorem dX10_goes_159 : decode cX10_goes 159 = .ok (.iconst 0, 1) := dk_3 (dk_at dksX10_goes_6 17 rfl rfl)
theorem dX10_goes_160 : decode cX10_goes 160 = .ok (.istore 9, 2) := dk_54 9 (dk_at dksX10_goes_6 18 rfl rfl)
theorem dX10_goes_162 : decode cX10_goes 162 = .ok (.iload 9, 2) := dk_21 9 (dk_at dksX10_goes_6 20 rfl rfl)
theorem dX10_goes_164 : decode cX10_goes 164 = .ok (.aload_n 0, 1) := dk_42 (dk_at dksX10_goes_6 22 rfl rfl)
theorem dX10_goes_165 : decode cX10_goes 165 = .ok (.getfield 54, 3) := dk_180 0 54 (dk_at dksX10_goes_7 0 rfl rfl)
theorem dX10_goes_168 : decode cX10_goes 168 = .ok (.getfield 141, 3) := dk_180 0 141 (dk_at dksX10_goes_7 3 rfl rfl)
theorem dX10_goes_171 : decode cX10_goes 171 = .ok (.if_icmp .ge 72, 3) := dk_162 0 72 (dk_at dksX10_goes_7 6 rfl rfl)
theorem dX10_goes_174 : decode cX10_goes 174 = .ok (.aload_n 0, 1) := dk_42 (dk_at dksX10_goes_7 9 rfl rfl)
theorem dX10_goes_175 : decode cX10_goes 175 = .ok (.iload 9, 2) := dk_21 9 (dk_at dksX10_goes_7 10 rfl rfl)
theorem dX10_goes_177 : decode cX10_goes 177 = .ok (.invokevirtual 144, 3) := dk_182 0 144 (dk_at dksX10_goes_7 12 rfl rfl)
theorem dX10_goes_180 : decode cX10_goes 180 = .ok (.ifCond .eq 53, 3) := dk_153 0 53 (dk_at dksX10_goes_7 15 rfl rfl)
theorem dX10_goes_183 : decode cX10_goes 183 = .ok (.ldc 98, 2) := dk_18 98 (dk_at dksX10_goes_7 18 rfl rfl)
theorem dX10_goes_185 : decode cX10_goes 185 = .ok (.iload 8, 2) := dk_21 8 (dk_at dksX10_goes_7 20 rfl rfl)
theorem dX10_goes_187 : decode cX10_goes 187 = .ok (.aload_n 0, 1) := dk_42 (dk_at dksX10_goes_7 22 rfl rfl)
theorem dX10_goes_188 : decode cX10_goes 188 = .ok (.aload_n 0, 1) := dk_42 (dk_at dksX10_goes_7 23 rfl rfl)
theorem dX10_goes_189 : decode cX10_goes 189 = .ok (.getfield 54, 3) := dk_180 0 54 (dk_at dksX10_goes_8 0 rfl rfl)
theorem dX10_goes_192 : decode cX10_goes 192 = .ok (.getfield 147, 3) := dk_180 0 147 (dk_at dksX10_goes_8 3 rfl rfl)
theorem dX10_goes_195 : decode cX10_goes 195 = .ok (.iload 9, 2) := dk_21 9 (dk_at dksX10_goes_8 6 rfl rfl)
theorem dX10_goes_197 : decode cX10_goes 197 = .ok (.aaload, 1) := dk_50 (dk_at dksX10_goes_8 8 rfl rfl)
theorem dX10_goes_198 : decode cX10_goes 198 = .ok (.aload_n 0, 1) := dk_42 (dk_at dksX10_goes_8 9 rfl rfl)
theorem dX10_goes_199 : decode cX10_goes 199 = .ok (.getfield 29, 3) := dk_180 0 29 (dk_at dksX10_goes_8 10 rfl rfl)
theorem dX10_goes_202 : decode cX10_goes 202 = .ok (.iload 9, 2) := dk_21 9 (dk_at dksX10_goes_8 13 rfl rfl)
theorem dX10_goes_204 : decode cX10_goes 204 = .ok (.aaload, 1) := dk_50 (dk_at dksX10_goes_8 15 rfl rfl)
theorem dX10_goes_205 : decode cX10_goes 205 = .ok (.iload_n 1, 1) := dk_27 (dk_at dksX10_goes_8 16 rfl rfl)
theorem dX10_goes_206 : decode cX10_goes 206 = .ok (.aaload, 1) := dk_50 (dk_at dksX10_goes_8 17 rfl rfl)
theorem dX10_goes_207 : decode cX10_goes 207 = .ok (.aload_n 0, 1) := dk_42 (dk_at dksX10_goes_8 18 rfl rfl)
theorem dX10_goes_208 : decode cX10_goes 208 = .ok (.getfield 29, 3) := dk_180 0 29 (dk_at dksX10_goes_8 19 rfl rfl)
theorem dX10_goes_211 : decode cX10_goes 211 = .ok (.iload 9, 2) := dk_21 9 (dk_at dksX10_goes_8 22 rfl rfl)
theorem dX10_goes_213 : decode cX10_goes 213 = .ok (.aaload, 1) := dk_50 (dk_at dksX10_goes_9 0 rfl rfl)
theorem dX10_goes_214 : decode cX10_goes 214 = .ok (.iload_n 1, 1) := dk_27 (dk_at dksX10_goes_9 1 rfl rfl)
theorem dX10_goes_215 : decode cX10_goes 215 = .ok (.iconst 1, 1) := dk_4 (dk_at dksX10_goes_9 2 rfl rfl)
theorem dX10_goes_216 : decode cX10_goes 216 = .ok (.iadd, 1) := dk_96 (dk_at dksX10_goes_9 3 rfl rfl)
theorem dX10_goes_217 : decode cX10_goes 217 = .ok (.aaload, 1) := dk_50 (dk_at dksX10_goes_9 4 rfl rfl)
theorem dX10_goes_218 : decode cX10_goes 218 = .ok (.iload 7, 2) := dk_21 7 (dk_at dksX10_goes_9 5 rfl rfl)
theorem dX10_goes_220 : decode cX10_goes 220 = .ok (.iload_n 2, 1) := dk_28 (dk_at dksX10_goes_9 7 rfl rfl)
theorem dX10_goes_221 : decode cX10_goes 221 = .ok (.iload 6, 2) := dk_21 6 (dk_at dksX10_goes_9 8 rfl rfl)
theorem dX10_goes_223 : decode cX10_goes 223 = .ok (.invokevirtual 179, 3) := dk_182 0 179 (dk_at dksX10_goes_9 10 rfl rfl)
theorem dX10_goes_226 : decode cX10_goes 226 = .ok (.iadd, 1) := dk_96 (dk_at dksX10_goes_9 13 rfl rfl)
theorem dX10_goes_227 : decode cX10_goes 227 = .ok (.invokestatic 106, 3) := dk_184 0 106 (dk_at dksX10_goes_9 14 rfl rfl)
theorem dX10_goes_230 : decode cX10_goes 230 = .ok (.goto 5, 3) := dk_167 0 5 (dk_at dksX10_goes_9 17 rfl rfl)
theorem dX10_goes_233 : decode cX10_goes 233 = .ok (.iload 8, 2) := dk_21 8 (dk_at dksX10_goes_9 20 rfl rfl)
theorem dX10_goes_235 : decode cX10_goes 235 = .ok (.istore 8, 2) := dk_54 8 (dk_at dksX10_goes_9 22 rfl rfl)
theorem dX10_goes_237 : decode cX10_goes 237 = .ok (.iinc 9 1, 3) := dk_132 9 1 (dk_at dksX10_goes_10 0 rfl rfl)
theorem dX10_goes_240 : decode cX10_goes 240 = .ok (.goto (-78), 3) := dk_167 255 178 (dk_at dksX10_goes_10 3 rfl rfl)
theorem dX10_goes_243 : decode cX10_goes 243 = .ok (.iload 8, 2) := dk_21 8 (dk_at dksX10_goes_10 6 rfl rfl)
theorem dX10_goes_245 : decode cX10_goes 245 = .ok (.aload_n 0, 1) := dk_42 (dk_at dksX10_goes_10 8 rfl rfl)
theorem dX10_goes_246 : decode cX10_goes 246 = .ok (.getfield 150, 3) := dk_180 0 150 (dk_at dksX10_goes_10 9 rfl rfl)
theorem dX10_goes_249 : decode cX10_goes 249 = .ok (.if_icmp .le 6, 3) := dk_164 0 6 (dk_at dksX10_goes_10 12 rfl rfl)
theorem dX10_goes_252 : decode cX10_goes 252 = .ok (.goto 40, 3) := dk_167 0 40 (dk_at dksX10_goes_10 15 rfl rfl)
theorem dX10_goes_255 : decode cX10_goes 255 = .ok (.aload_n 0, 1) := dk_42 (dk_at dksX10_goes_10 18 rfl rfl)
theorem dX10_goes_256 : decode cX10_goes 256 = .ok (.getfield 12, 3) := dk_180 0 12 (dk_at dksX10_goes_10 19 rfl rfl)
theorem dX10_goes_259 : decode cX10_goes 259 = .ok (.iload 6, 2) := dk_21 6 (dk_at dksX10_goes_10 22 rfl rfl)
theorem dX10_goes_261 : decode cX10_goes 261 = .ok (.invokevirtual 183, 3) := dk_182 0 183 (dk_at dksX10_goes_11 0 rfl rfl)
theorem dX10_goes_264 : decode cX10_goes 264 = .ok (.istore 9, 2) := dk_54 9 (dk_at dksX10_goes_11 3 rfl rfl)
theorem dX10_goes_266 : decode cX10_goes 266 = .ok (.aload_n 0, 1) := dk_42 (dk_at dksX10_goes_11 5 rfl rfl)
theorem dX10_goes_267 : decode cX10_goes 267 = .ok (.getfield 32, 3) := dk_180 0 32 (dk_at dksX10_goes_11 6 rfl rfl)
theorem dX10_goes_270 : decode cX10_goes 270 = .ok (.iload_n 1, 1) := dk_27 (dk_at dksX10_goes_11 9 rfl rfl)
theorem dX10_goes_271 : decode cX10_goes 271 = .ok (.iload 6, 2) := dk_21 6 (dk_at dksX10_goes_11 10 rfl rfl)
theorem dX10_goes_273 : decode cX10_goes 273 = .ok (.iastore, 1) := dk_79 (dk_at dksX10_goes_11 12 rfl rfl)
theorem dX10_goes_274 : decode cX10_goes 274 = .ok (.aload_n 0, 1) := dk_42 (dk_at dksX10_goes_11 13 rfl rfl)
theorem dX10_goes_275 : decode cX10_goes 275 = .ok (.iload_n 1, 1) := dk_27 (dk_at dksX10_goes_11 14 rfl rfl)
theorem dX10_goes_276 : decode cX10_goes 276 = .ok (.iconst 1, 1) := dk_4 (dk_at dksX10_goes_11 15 rfl rfl)
theorem dX10_goes_277 : decode cX10_goes 277 = .ok (.iadd, 1) := dk_96 (dk_at dksX10_goes_11 16 rfl rfl)
theorem dX10_goes_278 : decode cX10_goes 278 = .ok (.invokevirtual 187, 3) := dk_182 0 187 (dk_at dksX10_goes_11 17 rfl rfl)
theorem dX10_goes_281 : decode cX10_goes 281 = .ok (.aload_n 0, 1) := dk_42 (dk_at dksX10_goes_11 20 rfl rfl)
theorem dX10_goes_282 : decode cX10_goes 282 = .ok (.getfield 12, 3) := dk_180 0 12 (dk_at dksX10_goes_11 21 rfl rfl)
theorem dX10_goes_285 : decode cX10_goes 285 = .ok (.iload 6, 2) := dk_21 6 (dk_at dksX10_goes_12 0 rfl rfl)
theorem dX10_goes_287 : decode cX10_goes 287 = .ok (.iload 9, 2) := dk_21 9 (dk_at dksX10_goes_12 2 rfl rfl)
theorem dX10_goes_289 : decode cX10_goes 289 = .ok (.invokevirtual 189, 3) := dk_182 0 189 (dk_at dksX10_goes_12 4 rfl rfl)
theorem dX10_goes_292 : decode cX10_goes 292 = .ok (.iinc 5 1, 3) := dk_132 5 1 (dk_at dksX10_goes_12 7 rfl rfl)
theorem dX10_goes_295 : decode cX10_goes 295 = .ok (.goto (-174), 3) := dk_167 255 82 (dk_at dksX10_goes_12 10 rfl rfl)
theorem dX10_goes_298 : decode cX10_goes 298 = .ok (.return_, 1) := dk_177 (dk_at dksX10_goes_12 13 rfl rfl)
def dkwX10_bars_3 : List UInt8 := [167, 255, 190, 28, 172]
abbrev dktX10_bars_3 : List UInt8 := dkwX10_bars_3 ++ []
def dkwX10_bars_2 : List UInt8 := [180, 0, 126, 29, 50, 42, 180, 0, 12, 182, 0, 134, 154, 0, 7, 4, 167, 0, 4, 3, 61, 132, 3, 1]
abbrev dktX10_bars_2 : List UInt8 := dkwX10_bars_2 ++ dktX10_bars_3
def dkwX10_bars_1 : List UInt8 := [154, 0, 38, 42, 180, 0, 54, 180, 0, 126, 29, 50, 180, 0, 130, 27, 160, 0, 26, 42, 180, 0, 54]
abbrev dktX10_bars_1 : List UInt8 := dkwX10_bars_1 ++ dktX10_bars_2
def dkwX10_bars_0 : List UInt8 := [3, 61, 3, 62, 29, 42, 180, 0, 54, 180, 0, 119, 162, 0, 61, 42, 180, 0, 122, 154, 0, 54, 28]
abbrev dktX10_bars_0 : List UInt8 := dkwX10_bars_0 ++ dktX10_bars_1
theorem dksX10_bars_0 : cX10_bars.data.toList.drop 0 = dktX10_bars_0 := by decide +kernel
theorem dksX10_bars_1 : cX10_bars.data.toList.drop 23 = dktX10_bars_1 := dk_seg dksX10_bars_0 23 rfl rfl
theorem dksX10_bars_2 : cX10_bars.data.toList.drop 46 = dktX10_bars_2 := dk_seg dksX10_bars_1 23 rfl rfl
theorem dksX10_bars_3 : cX10_bars.data.toList.drop 70 = dktX10_bars_3 := dk_seg dksX10_bars_2 24 rfl rfl
theorem dX10_bars_0 : decode cX10_bars 0 = .ok (.iconst 0, 1) := dk_3 (dk_at dksX10_bars_0 0 rfl rfl)
theorem dX10_bars_1 : decode cX10_bars 1 = .ok (.istore_n 2, 1) := dk_61 (dk_at dksX10_bars_0 1 rfl rfl)
theorem dX10_bars_2 : decode cX10_bars 2 = .ok (.iconst 0, 1) := dk_3 (dk_at dksX10_bars_0 2 rfl rfl)
theorem dX10_bars_3 : decode cX10_bars 3 = .ok (.istore_n 3, 1) := dk_62 (dk_at dksX10_bars_0 3 rfl rfl)
theorem dX10_bars_4 : decode cX10_bars 4 = .ok (.iload_n 3, 1) := dk_29 (dk_at dksX10_bars_0 4 rfl rfl)
theorem dX10_bars_5 : decode cX10_bars 5 = .ok (.aload_n 0, 1) := dk_42 (dk_at dksX10_bars_0 5 rfl rfl)
theorem dX10_bars_6 : decode cX10_bars 6 = .ok (.getfield 54, 3) := dk_180 0 54 (dk_at dksX10_bars_0 6 rfl rfl)
theorem dX10_bars_9 : decode cX10_bars 9 = .ok (.getfield 119, 3) := dk_180 0 119 (dk_at dksX10_bars_0 9 rfl rfl)
theorem dX10_bars_12 : decode cX10_bars 12 = .ok (.if_icmp .ge 61, 3) := dk_162 0 61 (dk_at dksX10_bars_0 12 rfl rfl)
theorem dX10_bars_15 : decode cX10_bars 15 = .ok (.aload_n 0, 1) := dk_42 (dk_at dksX10_bars_0 15 rfl rfl)
theorem dX10_bars_16 : decode cX10_bars 16 = .ok (.getfield 122, 3) := dk_180 0 122 (dk_at dksX10_bars_0 16 rfl rfl)
theorem dX10_bars_19 : decode cX10_bars 19 = .ok (.ifCond .ne 54, 3) := dk_154 0 54 (dk_at dksX10_bars_0 19 rfl rfl)
theorem dX10_bars_22 : decode cX10_bars 22 = .ok (.iload_n 2, 1) := dk_28 (dk_at dksX10_bars_0 22 rfl rfl)
theorem dX10_bars_23 : decode cX10_bars 23 = .ok (.ifCond .ne 38, 3) := dk_154 0 38 (dk_at dksX10_bars_1 0 rfl rfl)
theorem dX10_bars_26 : decode cX10_bars 26 = .ok (.aload_n 0, 1) := dk_42 (dk_at dksX10_bars_1 3 rfl rfl)
theorem dX10_bars_27 : decode cX10_bars 27 = .ok (.getfield 54, 3) := dk_180 0 54 (dk_at dksX10_bars_1 4 rfl rfl)
theorem dX10_bars_30 : decode cX10_bars 30 = .ok (.getfield 126, 3) := dk_180 0 126 (dk_at dksX10_bars_1 7 rfl rfl)
theorem dX10_bars_33 : decode cX10_bars 33 = .ok (.iload_n 3, 1) := dk_29 (dk_at dksX10_bars_1 10 rfl rfl)
theorem dX10_bars_34 : decode cX10_bars 34 = .ok (.aaload, 1) := dk_50 (dk_at dksX10_bars_1 11 rfl rfl)
theorem dX10_bars_35 : decode cX10_bars 35 = .ok (.getfield 130, 3) := dk_180 0 130 (dk_at dksX10_bars_1 12 rfl rfl)
theorem dX10_bars_38 : decode cX10_bars 38 = .ok (.iload_n 1, 1) := dk_27 (dk_at dksX10_bars_1 15 rfl rfl)
theorem dX10_bars_39 : decode cX10_bars 39 = .ok (.if_icmp .ne 26, 3) := dk_160 0 26 (dk_at dksX10_bars_1 16 rfl rfl)
theorem dX10_bars_42 : decode cX10_bars 42 = .ok (.aload_n 0, 1) := dk_42 (dk_at dksX10_bars_1 19 rfl rfl)
theorem dX10_bars_43 : decode cX10_bars 43 = .ok (.getfield 54, 3) := dk_180 0 54 (dk_at dksX10_bars_1 20 rfl rfl)
theorem dX10_bars_46 : decode cX10_bars 46 = .ok (.getfield 126, 3) := dk_180 0 126 (dk_at dksX10_bars_2 0 rfl rfl)
theorem dX10_bars_49 : decode cX10_bars 49 = .ok (.iload_n 3, 1) := dk_29 (dk_at dksX10_bars_2 3 rfl rfl)
theorem dX10_bars_50 : decode cX10_bars 50 = .ok (.aaload, 1) := dk_50 (dk_at dksX10_bars_2 4 rfl rfl)
theorem dX10_bars_51 : decode cX10_bars 51 = .ok (.aload_n 0, 1) := dk_42 (dk_at dksX10_bars_2 5 rfl rfl)
theorem dX10_bars_52 : decode cX10_bars 52 = .ok (.getfield 12, 3) := dk_180 0 12 (dk_at dksX10_bars_2 6 rfl rfl)
theorem dX10_bars_55 : decode cX10_bars 55 = .ok (.invokevirtual 134, 3) := dk_182 0 134 (dk_at dksX10_bars_2 9 rfl rfl)
theorem dX10_bars_58 : decode cX10_bars 58 = .ok (.ifCond .ne 7, 3) := dk_154 0 7 (dk_at dksX10_bars_2 12 rfl rfl)
theorem dX10_bars_61 : decode cX10_bars 61 = .ok (.iconst 1, 1) := dk_4 (dk_at dksX10_bars_2 15 rfl rfl)
theorem dX10_bars_62 : decode cX10_bars 62 = .ok (.goto 4, 3) := dk_167 0 4 (dk_at dksX10_bars_2 16 rfl rfl)
theorem dX10_bars_65 : decode cX10_bars 65 = .ok (.iconst 0, 1) := dk_3 (dk_at dksX10_bars_2 19 rfl rfl)
theorem dX10_bars_66 : decode cX10_bars 66 = .ok (.istore_n 2, 1) := dk_61 (dk_at dksX10_bars_2 20 rfl rfl)
theorem dX10_bars_67 : decode cX10_bars 67 = .ok (.iinc 3 1, 3) := dk_132 3 1 (dk_at dksX10_bars_2 21 rfl rfl)
theorem dX10_bars_70 : decode cX10_bars 70 = .ok (.goto (-66), 3) := dk_167 255 190 (dk_at dksX10_bars_3 0 rfl rfl)
theorem dX10_bars_73 : decode cX10_bars 73 = .ok (.iload_n 2, 1) := dk_28 (dk_at dksX10_bars_3 3 rfl rfl)
theorem dX10_bars_74 : decode cX10_bars 74 = .ok (.ireturn, 1) := dk_172 (dk_at dksX10_bars_3 4 rfl rfl)
def dkwX10_isReading_6 : List UInt8 := [180, 0, 150, 160, 0, 7, 4, 167, 0, 4, 3, 172]
abbrev dktX10_isReading_6 : List UInt8 := dkwX10_isReading_6 ++ []
def dkwX10_isReading_5 : List UInt8 := [29, 50, 180, 0, 99, 46, 96, 184, 0, 106, 167, 0, 4, 28, 61, 132, 3, 1, 167, 255, 201, 28, 42]
abbrev dktX10_isReading_5 : List UInt8 := dkwX10_isReading_5 ++ dktX10_isReading_6
def dkwX10_isReading_4 : List UInt8 := [182, 0, 144, 153, 0, 34, 18, 98, 28, 42, 180, 0, 29, 29, 50, 27, 50, 42, 180, 0, 54, 180, 0, 147]
abbrev dktX10_isReading_4 : List UInt8 := dkwX10_isReading_4 ++ dktX10_isReading_5
def dkwX10_isReading_3 : List UInt8 := [132, 2, 1, 167, 255, 217, 3, 61, 3, 62, 29, 42, 180, 0, 54, 180, 0, 141, 162, 0, 50, 42, 29]
abbrev dktX10_isReading_3 : List UInt8 := dkwX10_isReading_3 ++ dktX10_isReading_4
def dkwX10_isReading_2 : List UInt8 := [180, 0, 122, 154, 0, 27, 42, 180, 0, 54, 180, 0, 126, 28, 50, 180, 0, 130, 27, 164, 0, 5, 3, 172]
abbrev dktX10_isReading_2 : List UInt8 := dkwX10_isReading_2 ++ dktX10_isReading_3
def dkwX10_isReading_1 : List UInt8 := [180, 0, 138, 27, 159, 0, 5, 3, 172, 3, 61, 28, 42, 180, 0, 54, 180, 0, 119, 162, 0, 34, 42]
abbrev dktX10_isReading_1 : List UInt8 := dkwX10_isReading_1 ++ dktX10_isReading_2
def dkwX10_isReading_0 : List UInt8 := [42, 180, 0, 122, 154, 0, 27, 42, 180, 0, 54, 180, 0, 138, 2, 159, 0, 16, 42, 180, 0, 54]
abbrev dktX10_isReading_0 : List UInt8 := dkwX10_isReading_0 ++ dktX10_isReading_1
theorem dksX10_isReading_0 : cX10_isReading.data.toList.drop 0 = dktX10_isReading_0 := by decide +kernel
theorem dksX10_isReading_1 : cX10_isReading.data.toList.drop 22 = dktX10_isReading_1 := dk_seg dksX10_isReading_0 22 rfl rfl
theorem dksX10_isReading_2 : cX10_isReading.data.toList.drop 45 = dktX10_isReading_2 := dk_seg dksX10_isReading_1 23 rfl rfl
theorem dksX10_isReading_3 : cX10_isReading.data.toList.drop 69 = dktX10_isReading_3 := dk_seg dksX10_isReading_2 24 rfl rfl
theorem dksX10_isReading_4 : cX10_isReading.data.toList.drop 92 = dktX10_isReading_4 := dk_seg dksX10_isReading_3 23 rfl rfl
theorem dksX10_isReading_5 : cX10_isReading.data.toList.drop 116 = dktX10_isReading_5 := dk_seg dksX10_isReading_4 24 rfl rfl
theorem dksX10_isReading_6 : cX10_isReading.data.toList.drop 139 = dktX10_isReading_6 := dk_seg dksX10_isReading_5 23 rfl rfl
theorem dX10_isReading_0 : decode cX10_isReading 0 = .ok (.aload_n 0, 1) := dk_42 (dk_at dksX10_isReading_0 0 rfl rfl)
theorem dX10_isReading_1 : decode cX10_isReading 1 = .ok (.getfield 122, 3) := dk_180 0 122 (dk_at dksX10_isReading_0 1 rfl rfl)
theorem dX10_isReading_4 : decode cX10_isReading 4 = .ok (.ifCond .ne 27, 3) := dk_154 0 27 (dk_at dksX10_isReading_0 4 rfl rfl)
theorem dX10_isReading_7 : decode cX10_isReading 7 = .ok (.aload_n 0, 1) := dk_42 (dk_at dksX10_isReading_0 7 rfl rfl)
theorem dX10_isReading_8 : decode cX10_isReading 8 = .ok (.getfield 54, 3) := dk_180 0 54 (dk_at dksX10_isReading_0 8 rfl rfl)
theorem dX10_isReading_11 : decode cX10_isReading 11 = .ok (.getfield 138, 3) := dk_180 0 138 (dk_at dksX10_isReading_0 11 rfl rfl)
theorem dX10_isReading_14 : decode cX10_isReading 14 = .ok (.iconst (-1), 1) := dk_2 (dk_at dksX10_isReading_0 14 rfl rfl)
theorem dX10_isReading_15 : decode cX10_isReading 15 = .ok (.if_icmp .eq 16, 3) := dk_159 0 16 (dk_at dksX10_isReading_0 15 rfl rfl)
theorem dX10_isReading_18 : decode cX10_isReading 18 = .ok (.aload_n 0, 1) := dk_42 (dk_at dksX10_isReading_0 18 rfl rfl)
theorem dX10_isReading_19 : decode cX10_isReading 19 = .ok (.getfield 54, 3) := dk_180 0 54 (dk_at dksX10_isReading_0 19 rfl rfl)
theorem dX10_isReading_22 : decode cX10_isReading 22 = .ok (.getfield 138, 3) := dk_180 0 138 (dk_at dksX10_isReading_1 0 rfl rfl)
theorem dX10_isReading_25 : decode cX10_isReading 25 = .ok (.iload_n 1, 1) := dk_27 (dk_at dksX10_isReading_1 3 rfl rfl)
theorem dX10_isReading_26 : decode cX10_isReading 26 = .ok (.if_icmp .eq 5, 3) := dk_159 0 5 (dk_at dksX10_isReading_1 4 rfl rfl)
theorem dX10_isReading_29 : decode cX10_isReading 29 = .ok (.iconst 0, 1) := dk_3 (dk_at dksX10_isReading_1 7 rfl rfl)
theorem dX10_isReading_30 : decode cX10_isReading 30 = .ok (.ireturn, 1) := dk_172 (dk_at dksX10_isReading_1 8 rfl rfl)
theorem dX10_isReading_31 : decode cX10_isReading 31 = .ok (.iconst 0, 1) := dk_3 (dk_at dksX10_isReading_1 9 rfl rfl)
theorem dX10_isReading_32 : decode cX10_isReading 32 = .ok (.istore_n 2, 1) := dk_61 (dk_at dksX10_isReading_1 10 rfl rfl)
theorem dX10_isReading_33 : decode cX10_isReading 33 = .ok (.iload_n 2, 1) := dk_28 (dk_at dksX10_isReading_1 11 rfl rfl)
theorem dX10_isReading_34 : decode cX10_isReading 34 = .ok (.aload_n 0, 1) := dk_42 (dk_at dksX10_isReading_1 12 rfl rfl)
theorem dX10_isReading_35 : decode cX10_isReading 35 = .ok (.getfield 54, 3) := dk_180 0 54 (dk_at dksX10_isReading_1 13 rfl rfl)
theorem dX10_isReading_38 : decode cX10_isReading 38 = .ok (.getfield 119, 3) := dk_180 0 119 (dk_at dksX10_isReading_1 16 rfl rfl)
theorem dX10_isReading_41 : decode cX10_isReading 41 = .ok (.if_icmp .ge 34, 3) := dk_162 0 34 (dk_at dksX10_isReading_1 19 rfl rfl)
theorem dX10_isReading_44 : decode cX10_isReading 44 = .ok (.aload_n 0, 1) := dk_42 (dk_at dksX10_isReading_1 22 rfl rfl)
theorem dX10_isReading_45 : decode cX10_isReading 45 = .ok (.getfield 122, 3) := dk_180 0 122 (dk_at dksX10_isReading_2 0 rfl rfl)
theorem dX10_isReading_48 : decode cX10_isReading 48 = .ok (.ifCond .ne 27, 3) := dk_154 0 27 (dk_at dksX10_isReading_2 3 rfl rfl)
theorem dX10_isReading_51 : decode cX10_isReading 51 = .ok (.aload_n 0, 1) := dk_42 (dk_at dksX10_isReading_2 6 rfl rfl)
theorem dX10_isReading_52 : decode cX10_isReading 52 = .ok (.getfield 54, 3) := dk_180 0 54 (dk_at dksX10_isReading_2 7 rfl rfl)
theorem dX10_isReading_55 : decode cX10_isReading 55 = .ok (.getfield 126, 3) := dk_180 0 126 (dk_at dksX10_isReading_2 10 rfl rfl)
theorem dX10_isReading_58 : decode cX10_isReading 58 = .ok (.iload_n 2, 1) := dk_28 (dk_at dksX10_isReading_2 13 rfl rfl)
theorem dX10_isReading_59 : decode cX10_isReading 59 = .ok (.aaload, 1) := dk_50 (dk_at dksX10_isReading_2 14 rfl rfl)
theorem dX10_isReading_60 : decode cX10_isReading 60 = .ok (.getfield 130, 3) := dk_180 0 130 (dk_at dksX10_isReading_2 15 rfl rfl)
theorem dX10_isReading_63 : decode cX10_isReading 63 = .ok (.iload_n 1, 1) := dk_27 (dk_at dksX10_isReading_2 18 rfl rfl)
theorem dX10_isReading_64 : decode cX10_isReading 64 = .ok (.if_icmp .le 5, 3) := dk_164 0 5 (dk_at dksX10_isReading_2 19 rfl rfl)
theorem dX10_isReading_67 : decode cX10_isReading 67 = .ok (.iconst 0, 1) := dk_3 (dk_at dksX10_isReading_2 22 rfl rfl)
theorem dX10_isReading_68 : decode cX10_isReading 68 = .ok (.ireturn, 1) := dk_172 (dk_at dksX10_isReading_2 23 rfl rfl)
theorem dX10_isReading_69 : decode cX10_isReading 69 = .ok (.iinc 2 1, 3) := dk_132 2 1 (dk_at dksX10_isReading_3 0 rfl rfl)
theorem dX10_isReading_72 : decode cX10_isReading 72 = .ok (.goto (-39), 3) := dk_167 255 217 (dk_at dksX10_isReading_3 3 rfl rfl)
theorem dX10_isReading_75 : decode cX10_isReading 75 = .ok (.iconst 0, 1) := dk_3 (dk_at dksX10_isReading_3 6 rfl rfl)
theorem dX10_isReading_76 : decode cX10_isReading 76 = .ok (.istore_n 2, 1) := dk_61 (dk_at dksX10_isReading_3 7 rfl rfl)
theorem dX10_isReading_77 : decode cX10_isReading 77 = .ok (.iconst 0, 1) := dk_3 (dk_at dksX10_isReading_3 8 rfl rfl)
theorem dX10_isReading_78 : decode cX10_isReading 78 = .ok (.istore_n 3, 1) := dk_62 (dk_at dksX10_isReading_3 9 rfl rfl)
theorem dX10_isReading_79 : decode cX10_isReading 79 = .ok (.iload_n 3, 1) := dk_29 (dk_at dksX10_isReading_3 10 rfl rfl)
theorem dX10_isReading_80 : decode cX10_isReading 80 = .ok (.aload_n 0, 1) := dk_42 (dk_at dksX10_isReading_3 11 rfl rfl)
theorem dX10_isReading_81 : decode cX10_isReading 81 = .ok (.getfield 54, 3) := dk_180 0 54 (dk_at dksX10_isReading_3 12 rfl rfl)
theorem dX10_isReading_84 : decode cX10_isReading 84 = .ok (.getfield 141, 3) := dk_180 0 141 (dk_at dksX10_isReading_3 15 rfl rfl)
theorem dX10_isReading_87 : decode cX10_isReading 87 = .ok (.if_icmp .ge 50, 3) := dk_162 0 50 (dk_at dksX10_isReading_3 18 rfl rfl)
theorem dX10_isReading_90 : decode cX10_isReading 90 = .ok (.aload_n 0, 1) := dk_42 (dk_at dksX10_isReading_3 21 rfl rfl)
theorem dX10_isReading_91 : decode cX10_isReading 91 = .ok (.iload_n 3, 1) := dk_29 (dk_at dksX10_isReading_3 22 rfl rfl)
theorem dX10_isReading_92 : decode cX10_isReading 92 = .ok (.invokevirtual 144, 3) := dk_182 0 144 (dk_at dksX10_isReading_4 0 rfl rfl)
theorem dX10_isReading_95 : decode cX10_isReading 95 = .ok (.ifCond .eq 34, 3) := dk_153 0 34 (dk_at dksX10_isReading_4 3 rfl rfl)
theorem dX10_isReading_98 : decode cX10_isReading 98 = .ok (.ldc 98, 2) := dk_18 98 (dk_at dksX10_isReading_4 6 rfl rfl)
theorem dX10_isReading_100 : decode cX10_isReading 100 = .ok (.iload_n 2, 1) := dk_28 (dk_at dksX10_isReading_4 8 rfl rfl)
theorem dX10_isReading_101 : decode cX10_isReading 101 = .ok (.aload_n 0, 1) := dk_42 (dk_at dksX10_isReading_4 9 rfl rfl)
theorem dX10_isReading_102 : decode cX10_isReading 102 = .ok (.getfield 29, 3) := dk_180 0 29 (dk_at dksX10_isReading_4 10 rfl rfl)
theorem dX10_isReading_105 : decode cX10_isReading 105 = .ok (.iload_n 3, 1) := dk_29 (dk_at dksX10_isReading_4 13 rfl rfl)
theorem dX10_isReading_106 : decode cX10_isReading 106 = .ok (.aaload, 1) := dk_50 (dk_at dksX10_isReading_4 14 rfl rfl)
theorem dX10_isReading_107 : decode cX10_isReading 107 = .ok (.iload_n 1, 1) := dk_27 (dk_at dksX10_isReading_4 15 rfl rfl)
theorem dX10_isReading_108 : decode cX10_isReading 108 = .ok (.aaload, 1) := dk_50 (dk_at dksX10_isReading_4 16 rfl rfl)
theorem dX10_isReading_109 : decode cX10_isReading 109 = .ok (.aload_n 0, 1) := dk_42 (dk_at dksX10_isReading_4 17 rfl rfl)
theorem dX10_isReading_110 : decode cX10_isReading 110 = .ok (.getfield 54, 3) := dk_180 0 54 (dk_at dksX10_isReading_4 18 rfl rfl)
theorem dX10_isReading_113 : decode cX10_isReading 113 = .ok (.getfield 147, 3) := dk_180 0 147 (dk_at dksX10_isReading_4 21 rfl rfl)
theorem dX10_isReading_116 : decode cX10_isReading 116 = .ok (.iload_n 3, 1) := dk_29 (dk_at dksX10_isReading_5 0 rfl rfl)
theorem dX10_isReading_117 : decode cX10_isReading 117 = .ok (.aaload, 1) := dk_50 (dk_at dksX10_isReading_5 1 rfl rfl)
theorem dX10_isReading_118 : decode cX10_isReading 118 = .ok (.getfield 99, 3) := dk_180 0 99 (dk_at dksX10_isReading_5 2 rfl rfl)
theorem dX10_isReading_121 : decode cX10_isReading 121 = .ok (.iaload, 1) := dk_46 (dk_at dksX10_isReading_5 5 rfl rfl)
theorem dX10_isReading_122 : decode cX10_isReading 122 = .ok (.iadd, 1) := dk_96 (dk_at dksX10_isReading_5 6 rfl rfl)
theorem dX10_isReading_123 : decode cX10_isReading 123 = .ok (.invokestatic 106, 3) := dk_184 0 106 (dk_at dksX10_isReading_5 7 rfl rfl)
theorem dX10_isReading_126 : decode cX10_isReading 126 = .ok (.goto 4, 3) := dk_167 0 4 (dk_at dksX10_isReading_5 10 rfl rfl)
theorem dX10_isReading_129 : decode cX10_isReading 129 = .ok (.iload_n 2, 1) := dk_28 (dk_at dksX10_isReading_5 13 rfl rfl)
theorem dX10_isReading_130 : decode cX10_isReading 130 = .ok (.istore_n 2, 1) := dk_61 (dk_at dksX10_isReading_5 14 rfl rfl)
theorem dX10_isReading_131 : decode cX10_isReading 131 = .ok (.iinc 3 1, 3) := dk_132 3 1 (dk_at dksX10_isReading_5 15 rfl rfl)
theorem dX10_isReading_134 : decode cX10_isReading 134 = .ok (.goto (-55), 3) := dk_167 255 201 (dk_at dksX10_isReading_5 18 rfl rfl)
theorem dX10_isReading_137 : decode cX10_isReading 137 = .ok (.iload_n 2, 1) := dk_28 (dk_at dksX10_isReading_5 21 rfl rfl)
theorem dX10_isReading_138 : decode cX10_isReading 138 = .ok (.aload_n 0, 1) := dk_42 (dk_at dksX10_isReading_5 22 rfl rfl)
theorem dX10_isReading_139 : decode cX10_isReading 139 = .ok (.getfield 150, 3) := dk_180 0 150 (dk_at dksX10_isReading_6 0 rfl rfl)
theorem dX10_isReading_142 : decode cX10_isReading 142 = .ok (.if_icmp .ne 7, 3) := dk_160 0 7 (dk_at dksX10_isReading_6 3 rfl rfl)
theorem dX10_isReading_145 : decode cX10_isReading 145 = .ok (.iconst 1, 1) := dk_4 (dk_at dksX10_isReading_6 6 rfl rfl)
theorem dX10_isReading_146 : decode cX10_isReading 146 = .ok (.goto 4, 3) := dk_167 0 4 (dk_at dksX10_isReading_6 7 rfl rfl)
theorem dX10_isReading_149 : decode cX10_isReading 149 = .ok (.iconst 0, 1) := dk_3 (dk_at dksX10_isReading_6 10 rfl rfl)
theorem dX10_isReading_150 : decode cX10_isReading 150 = .ok (.ireturn, 1) := dk_172 (dk_at dksX10_isReading_6 11 rfl rfl)
def dkwX10_isIn_0 : List UInt8 := [42, 180, 0, 116, 27, 122, 4, 126, 4, 160, 0, 7, 4, 167, 0, 4, 3, 172]
abbrev dktX10_isIn_0 : List UInt8 := dkwX10_isIn_0 ++ []
theorem dksX10_isIn_0 : cX10_isIn.data.toList.drop 0 = dktX10_isIn_0 := by decide +kernel
theorem dX10_isIn_0 : decode cX10_isIn 0 = .ok (.aload_n 0, 1) := dk_42 (dk_at dksX10_isIn_0 0 rfl rfl)
theorem dX10_isIn_1 : decode cX10_isIn 1 = .ok (.getfield 116, 3) := dk_180 0 116 (dk_at dksX10_isIn_0 1 rfl rfl)
theorem dX10_isIn_4 : decode cX10_isIn 4 = .ok (.iload_n 1, 1) := dk_27 (dk_at dksX10_isIn_0 4 rfl rfl)
theorem dX10_isIn_5 : decode cX10_isIn 5 = .ok (.ishr, 1) := dk_122 (dk_at dksX10_isIn_0 5 rfl rfl)
theorem dX10_isIn_6 : decode cX10_isIn 6 = .ok (.iconst 1, 1) := dk_4 (dk_at dksX10_isIn_0 6 rfl rfl)
theorem dX10_isIn_7 : decode cX10_isIn 7 = .ok (.iand, 1) := dk_126 (dk_at dksX10_isIn_0 7 rfl rfl)
theorem dX10_isIn_8 : decode cX10_isIn 8 = .ok (.iconst 1, 1) := dk_4 (dk_at dksX10_isIn_0 8 rfl rfl)
theorem dX10_isIn_9 : decode cX10_isIn 9 = .ok (.if_icmp .ne 7, 3) := dk_160 0 7 (dk_at dksX10_isIn_0 9 rfl rfl)
theorem dX10_isIn_12 : decode cX10_isIn 12 = .ok (.iconst 1, 1) := dk_4 (dk_at dksX10_isIn_0 12 rfl rfl)
theorem dX10_isIn_13 : decode cX10_isIn 13 = .ok (.goto 4, 3) := dk_167 0 4 (dk_at dksX10_isIn_0 13 rfl rfl)
theorem dX10_isIn_16 : decode cX10_isIn 16 = .ok (.iconst 0, 1) := dk_3 (dk_at dksX10_isIn_0 16 rfl rfl)
theorem dX10_isIn_17 : decode cX10_isIn 17 = .ok (.ireturn, 1) := dk_172 (dk_at dksX10_isIn_0 17 rfl rfl)
def dkwX10_found_8 : List UInt8 := [42, 89, 180, 0, 209, 4, 96, 181, 0, 209, 177]
abbrev dktX10_found_8 : List UInt8 := dkwX10_found_8 ++ []
def dkwX10_found_7 : List UInt8 := [42, 28, 181, 0, 228, 42, 27, 181, 0, 231, 42, 180, 0, 32, 3, 42, 180, 0, 42, 3, 27, 184, 0, 210]
abbrev dktX10_found_7 : List UInt8 := dkwX10_found_7 ++ dktX10_found_8
def dkwX10_found_6 : List UInt8 := [162, 0, 48, 42, 27, 182, 0, 225, 61, 42, 180, 0, 209, 153, 0, 11, 28, 42, 180, 0, 228, 162, 0, 27]
abbrev dktX10_found_6 : List UInt8 := dkwX10_found_6 ++ dktX10_found_7
def dkwX10_found_5 : List UInt8 := [184, 0, 210, 42, 27, 181, 0, 219, 42, 180, 0, 222, 153, 0, 58, 42, 180, 0, 209, 17, 0, 200]
abbrev dktX10_found_5 : List UInt8 := dkwX10_found_5 ++ dktX10_found_6
def dkwX10_found_4 : List UInt8 := [181, 0, 216, 42, 180, 0, 209, 4, 160, 0, 22, 42, 180, 0, 32, 3, 42, 180, 0, 39, 3, 27]
abbrev dktX10_found_4 : List UInt8 := dkwX10_found_4 ++ dktX10_found_5
def dkwX10_found_3 : List UInt8 := [180, 0, 209, 154, 0, 22, 42, 180, 0, 32, 3, 42, 180, 0, 36, 3, 27, 184, 0, 210, 42, 27]
abbrev dktX10_found_3 : List UInt8 := dkwX10_found_3 ++ dktX10_found_4
def dkwX10_found_2 : List UInt8 := [42, 180, 0, 206, 46, 160, 0, 10, 42, 180, 0, 200, 167, 0, 4, 9, 97, 181, 0, 203, 177, 42]
abbrev dktX10_found_2 : List UInt8 := dkwX10_found_2 ++ dktX10_found_3
def dkwX10_found_1 : List UInt8 := [180, 0, 203, 27, 42, 180, 0, 206, 164, 0, 31, 42, 180, 0, 32, 42, 180, 0, 206, 46, 42, 180, 0, 36]
abbrev dktX10_found_1 : List UInt8 := dkwX10_found_1 ++ dktX10_found_2
def dkwX10_found_0 : List UInt8 := [42, 180, 0, 193, 153, 0, 63, 42, 89, 180, 0, 196, 42, 180, 0, 200, 97, 181, 0, 196, 42, 89]
abbrev dktX10_found_0 : List UInt8 := dkwX10_found_0 ++ dktX10_found_1
theorem dksX10_found_0 : cX10_found.data.toList.drop 0 = dktX10_found_0 := by decide +kernel
theorem dksX10_found_1 : cX10_found.data.toList.drop 22 = dktX10_found_1 := dk_seg dksX10_found_0 22 rfl rfl
theorem dksX10_found_2 : cX10_found.data.toList.drop 46 = dktX10_found_2 := dk_seg dksX10_found_1 24 rfl rfl
theorem dksX10_found_3 : cX10_found.data.toList.drop 68 = dktX10_found_3 := dk_seg dksX10_found_2 22 rfl rfl
theorem dksX10_found_4 : cX10_found.data.toList.drop 90 = dktX10_found_4 := dk_seg dksX10_found_3 22 rfl rfl
theorem dksX10_found_5 : cX10_found.data.toList.drop 112 = dktX10_found_5 := dk_seg dksX10_found_4 22 rfl rfl
theorem dksX10_found_6 : cX10_found.data.toList.drop 134 = dktX10_found_6 := dk_seg dksX10_found_5 22 rfl rfl
theorem dksX10_found_7 : cX10_found.data.toList.drop 158 = dktX10_found_7 := dk_seg dksX10_found_6 24 rfl rfl
theorem dksX10_found_8 : cX10_found.data.toList.drop 182 = dktX10_found_8 := dk_seg dksX10_found_7 24 rfl rfl
theorem dX10_found_0 : decode cX10_found 0 = .ok (.aload_n 0, 1) := dk_42 (dk_at dksX10_found_0 0 rfl rfl)
theorem dX10_found_1 : decode cX10_found 1 = .ok (.getfield 193, 3) := dk_180 0 193 (dk_at dksX10_found_0 1 rfl rfl)
theorem dX10_found_4 : decode cX10_found 4 = .ok (.ifCond .eq 63, 3) := dk_153 0 63 (dk_at dksX10_found_0 4 rfl rfl)
theorem dX10_found_7 : decode cX10_found 7 = .ok (.aload_n 0, 1) := dk_42 (dk_at dksX10_found_0 7 rfl rfl)
theorem dX10_found_8 : decode cX10_found 8 = .ok (.dup, 1) := dk_89 (dk_at dksX10_found_0 8 rfl rfl)
theorem dX10_found_9 : decode cX10_found 9 = .ok (.getfield 196, 3) := dk_180 0 196 (dk_at dksX10_found_0 9 rfl rfl)
theorem dX10_found_12 : decode cX10_found 12 = .ok (.aload_n 0, 1) := dk_42 (dk_at dksX10_found_0 12 rfl rfl)
theorem dX10_found_13 : decode cX10_found 13 = .ok (.getfield 200, 3) := dk_180 0 200 (dk_at dksX10_found_0 13 rfl rfl)
theorem dX10_found_16 : decode cX10_found 16 = .ok (.ladd, 1) := dk_97 (dk_at dksX10_found_0 16 rfl rfl)
theorem dX10_found_17 : decode cX10_found 17 = .ok (.putfield 196, 3) := dk_181 0 196 (dk_at dksX10_found_0 17 rfl rfl)
theorem dX10_found_20 : decode cX10_found 20 = .ok (.aload_n 0, 1) := dk_42 (dk_at dksX10_found_0 20 rfl rfl)
theorem dX10_found_21 : decode cX10_found 21 = .ok (.dup, 1) := dk_89 (dk_at dksX10_found_0 21 rfl rfl)
theorem dX10_found_22 : decode cX10_found 22 = .ok (.getfield 203, 3) := dk_180 0 203 (dk_at dksX10_found_1 0 rfl rfl)
theorem dX10_found_25 : decode cX10_found 25 = .ok (.iload_n 1, 1) := dk_27 (dk_at dksX10_found_1 3 rfl rfl)
theorem dX10_found_26 : decode cX10_found 26 = .ok (.aload_n 0, 1) := dk_42 (dk_at dksX10_found_1 4 rfl rfl)
theorem dX10_found_27 : decode cX10_found 27 = .ok (.getfield 206, 3) := dk_180 0 206 (dk_at dksX10_found_1 5 rfl rfl)
theorem dX10_found_30 : decode cX10_found 30 = .ok (.if_icmp .le 31, 3) := dk_164 0 31 (dk_at dksX10_found_1 8 rfl rfl)
theorem dX10_found_33 : decode cX10_found 33 = .ok (.aload_n 0, 1) := dk_42 (dk_at dksX10_found_1 11 rfl rfl)
theorem dX10_found_34 : decode cX10_found 34 = .ok (.getfield 32, 3) := dk_180 0 32 (dk_at dksX10_found_1 12 rfl rfl)
theorem dX10_found_37 : decode cX10_found 37 = .ok (.aload_n 0, 1) := dk_42 (dk_at dksX10_found_1 15 rfl rfl)
theorem dX10_found_38 : decode cX10_found 38 = .ok (.getfield 206, 3) := dk_180 0 206 (dk_at dksX10_found_1 16 rfl rfl)
theorem dX10_found_41 : decode cX10_found 41 = .ok (.iaload, 1) := dk_46 (dk_at dksX10_found_1 19 rfl rfl)
theorem dX10_found_42 : decode cX10_found 42 = .ok (.aload_n 0, 1) := dk_42 (dk_at dksX10_found_1 20 rfl rfl)
theorem dX10_found_43 : decode cX10_found 43 = .ok (.getfield 36, 3) := dk_180 0 36 (dk_at dksX10_found_1 21 rfl rfl)
theorem dX10_found_46 : decode cX10_found 46 = .ok (.aload_n 0, 1) := dk_42 (dk_at dksX10_found_2 0 rfl rfl)
theorem dX10_found_47 : decode cX10_found 47 = .ok (.getfield 206, 3) := dk_180 0 206 (dk_at dksX10_found_2 1 rfl rfl)
theorem dX10_found_50 : decode cX10_found 50 = .ok (.iaload, 1) := dk_46 (dk_at dksX10_found_2 4 rfl rfl)
theorem dX10_found_51 : decode cX10_found 51 = .ok (.if_icmp .ne 10, 3) := dk_160 0 10 (dk_at dksX10_found_2 5 rfl rfl)
theorem dX10_found_54 : decode cX10_found 54 = .ok (.aload_n 0, 1) := dk_42 (dk_at dksX10_found_2 8 rfl rfl)
theorem dX10_found_55 : decode cX10_found 55 = .ok (.getfield 200, 3) := dk_180 0 200 (dk_at dksX10_found_2 9 rfl rfl)
theorem dX10_found_58 : decode cX10_found 58 = .ok (.goto 4, 3) := dk_167 0 4 (dk_at dksX10_found_2 12 rfl rfl)
theorem dX10_found_61 : decode cX10_found 61 = .ok (.lconst 0, 1) := dk_9 (dk_at dksX10_found_2 15 rfl rfl)
theorem dX10_found_62 : decode cX10_found 62 = .ok (.ladd, 1) := dk_97 (dk_at dksX10_found_2 16 rfl rfl)
theorem dX10_found_63 : decode cX10_found 63 = .ok (.putfield 203, 3) := dk_181 0 203 (dk_at dksX10_found_2 17 rfl rfl)
theorem dX10_found_66 : decode cX10_found 66 = .ok (.return_, 1) := dk_177 (dk_at dksX10_found_2 20 rfl rfl)
theorem dX10_found_67 : decode cX10_found 67 = .ok (.aload_n 0, 1) := dk_42 (dk_at dksX10_found_2 21 rfl rfl)
theorem dX10_found_68 : decode cX10_found 68 = .ok (.getfield 209, 3) := dk_180 0 209 (dk_at dksX10_found_3 0 rfl rfl)
theorem dX10_found_71 : decode cX10_found 71 = .ok (.ifCond .ne 22, 3) := dk_154 0 22 (dk_at dksX10_found_3 3 rfl rfl)
theorem dX10_found_74 : decode cX10_found 74 = .ok (.aload_n 0, 1) := dk_42 (dk_at dksX10_found_3 6 rfl rfl)
theorem dX10_found_75 : decode cX10_found 75 = .ok (.getfield 32, 3) := dk_180 0 32 (dk_at dksX10_found_3 7 rfl rfl)
theorem dX10_found_78 : decode cX10_found 78 = .ok (.iconst 0, 1) := dk_3 (dk_at dksX10_found_3 10 rfl rfl)
theorem dX10_found_79 : decode cX10_found 79 = .ok (.aload_n 0, 1) := dk_42 (dk_at dksX10_found_3 11 rfl rfl)
theorem dX10_found_80 : decode cX10_found 80 = .ok (.getfield 36, 3) := dk_180 0 36 (dk_at dksX10_found_3 12 rfl rfl)
theorem dX10_found_83 : decode cX10_found 83 = .ok (.iconst 0, 1) := dk_3 (dk_at dksX10_found_3 15 rfl rfl)
theorem dX10_found_84 : decode cX10_found 84 = .ok (.iload_n 1, 1) := dk_27 (dk_at dksX10_found_3 16 rfl rfl)
theorem dX10_found_85 : decode cX10_found 85 = .ok (.invokestatic 210, 3) := dk_184 0 210 (dk_at dksX10_found_3 17 rfl rfl)
theorem dX10_found_88 : decode cX10_found 88 = .ok (.aload_n 0, 1) := dk_42 (dk_at dksX10_found_3 20 rfl rfl)
theorem dX10_found_89 : decode cX10_found 89 = .ok (.iload_n 1, 1) := dk_27 (dk_at dksX10_found_3 21 rfl rfl)
theorem dX10_found_90 : decode cX10_found 90 = .ok (.putfield 216, 3) := dk_181 0 216 (dk_at dksX10_found_4 0 rfl rfl)
theorem dX10_found_93 : decode cX10_found 93 = .ok (.aload_n 0, 1) := dk_42 (dk_at dksX10_found_4 3 rfl rfl)
theorem dX10_found_94 : decode cX10_found 94 = .ok (.getfield 209, 3) := dk_180 0 209 (dk_at dksX10_found_4 4 rfl rfl)
theorem dX10_found_97 : decode cX10_found 97 = .ok (.iconst 1, 1) := dk_4 (dk_at dksX10_found_4 7 rfl rfl)
theorem dX10_found_98 : decode cX10_found 98 = .ok (.if_icmp .ne 22, 3) := dk_160 0 22 (dk_at dksX10_found_4 8 rfl rfl)
theorem dX10_found_101 : decode cX10_found 101 = .ok (.aload_n 0, 1) := dk_42 (dk_at dksX10_found_4 11 rfl rfl)
theorem dX10_found_102 : decode cX10_found 102 = .ok (.getfield 32, 3) := dk_180 0 32 (dk_at dksX10_found_4 12 rfl rfl)
theorem dX10_found_105 : decode cX10_found 105 = .ok (.iconst 0, 1) := dk_3 (dk_at dksX10_found_4 15 rfl rfl)
theorem dX10_found_106 : decode cX10_found 106 = .ok (.aload_n 0, 1) := dk_42 (dk_at dksX10_found_4 16 rfl rfl)
theorem dX10_found_107 : decode cX10_found 107 = .ok (.getfield 39, 3) := dk_180 0 39 (dk_at dksX10_found_4 17 rfl rfl)
theorem dX10_found_110 : decode cX10_found 110 = .ok (.iconst 0, 1) := dk_3 (dk_at dksX10_found_4 20 rfl rfl)
theorem dX10_found_111 : decode cX10_found 111 = .ok (.iload_n 1, 1) := dk_27 (dk_at dksX10_found_4 21 rfl rfl)
theorem dX10_found_112 : decode cX10_found 112 = .ok (.invokestatic 210, 3) := dk_184 0 210 (dk_at dksX10_found_5 0 rfl rfl)
theorem dX10_found_115 : decode cX10_found 115 = .ok (.aload_n 0, 1) := dk_42 (dk_at dksX10_found_5 3 rfl rfl)
theorem dX10_found_116 : decode cX10_found 116 = .ok (.iload_n 1, 1) := dk_27 (dk_at dksX10_found_5 4 rfl rfl)
theorem dX10_found_117 : decode cX10_found 117 = .ok (.putfield 219, 3) := dk_181 0 219 (dk_at dksX10_found_5 5 rfl rfl)
theorem dX10_found_120 : decode cX10_found 120 = .ok (.aload_n 0, 1) := dk_42 (dk_at dksX10_found_5 8 rfl rfl)
theorem dX10_found_121 : decode cX10_found 121 = .ok (.getfield 222, 3) := dk_180 0 222 (dk_at dksX10_found_5 9 rfl rfl)
theorem dX10_found_124 : decode cX10_found 124 = .ok (.ifCond .eq 58, 3) := dk_153 0 58 (dk_at dksX10_found_5 12 rfl rfl)
theorem dX10_found_127 : decode cX10_found 127 = .ok (.aload_n 0, 1) := dk_42 (dk_at dksX10_found_5 15 rfl rfl)
theorem dX10_found_128 : decode cX10_found 128 = .ok (.getfield 209, 3) := dk_180 0 209 (dk_at dksX10_found_5 16 rfl rfl)
theorem dX10_found_131 : decode cX10_found 131 = .ok (.sipush 200, 3) := dk_17 0 200 (dk_at dksX10_found_5 19 rfl rfl)
theorem dX10_found_134 : decode cX10_found 134 = .ok (.if_icmp .ge 48, 3) := dk_162 0 48 (dk_at dksX10_found_6 0 rfl rfl)
theorem dX10_found_137 : decode cX10_found 137 = .ok (.aload_n 0, 1) := dk_42 (dk_at dksX10_found_6 3 rfl rfl)
theorem dX10_found_138 : decode cX10_found 138 = .ok (.iload_n 1, 1) := dk_27 (dk_at dksX10_found_6 4 rfl rfl)
theorem dX10_found_139 : decode cX10_found 139 = .ok (.invokevirtual 225, 3) := dk_182 0 225 (dk_at dksX10_found_6 5 rfl rfl)
theorem dX10_found_142 : decode cX10_found 142 = .ok (.istore_n 2, 1) := dk_61 (dk_at dksX10_found_6 8 rfl rfl)
theorem dX10_found_143 : decode cX10_found 143 = .ok (.aload_n 0, 1) := dk_42 (dk_at dksX10_found_6 9 rfl rfl)
theorem dX10_found_144 : decode cX10_found 144 = .ok (.getfield 209, 3) := dk_180 0 209 (dk_at dksX10_found_6 10 rfl rfl)
theorem dX10_found_147 : decode cX10_found 147 = .ok (.ifCond .eq 11, 3) := dk_153 0 11 (dk_at dksX10_found_6 13 rfl rfl)
theorem dX10_found_150 : decode cX10_found 150 = .ok (.iload_n 2, 1) := dk_28 (dk_at dksX10_found_6 16 rfl rfl)
theorem dX10_found_151 : decode cX10_found 151 = .ok (.aload_n 0, 1) := dk_42 (dk_at dksX10_found_6 17 rfl rfl)
theorem dX10_found_152 : decode cX10_found 152 = .ok (.getfield 228, 3) := dk_180 0 228 (dk_at dksX10_found_6 18 rfl rfl)
theorem dX10_found_155 : decode cX10_found 155 = .ok (.if_icmp .ge 27, 3) := dk_162 0 27 (dk_at dksX10_found_6 21 rfl rfl)
theorem dX10_found_158 : decode cX10_found 158 = .ok (.aload_n 0, 1) := dk_42 (dk_at dksX10_found_7 0 rfl rfl)
theorem dX10_found_159 : decode cX10_found 159 = .ok (.iload_n 2, 1) := dk_28 (dk_at dksX10_found_7 1 rfl rfl)
theorem dX10_found_160 : decode cX10_found 160 = .ok (.putfield 228, 3) := dk_181 0 228 (dk_at dksX10_found_7 2 rfl rfl)
theorem dX10_found_163 : decode cX10_found 163 = .ok (.aload_n 0, 1) := dk_42 (dk_at dksX10_found_7 5 rfl rfl)
theorem dX10_found_164 : decode cX10_found 164 = .ok (.iload_n 1, 1) := dk_27 (dk_at dksX10_found_7 6 rfl rfl)
theorem dX10_found_165 : decode cX10_found 165 = .ok (.putfield 231, 3) := dk_181 0 231 (dk_at dksX10_found_7 7 rfl rfl)
theorem dX10_found_168 : decode cX10_found 168 = .ok (.aload_n 0, 1) := dk_42 (dk_at dksX10_found_7 10 rfl rfl)
theorem dX10_found_169 : decode cX10_found 169 = .ok (.getfield 32, 3) := dk_180 0 32 (dk_at dksX10_found_7 11 rfl rfl)
theorem dX10_found_172 : decode cX10_found 172 = .ok (.iconst 0, 1) := dk_3 (dk_at dksX10_found_7 14 rfl rfl)
theorem dX10_found_173 : decode cX10_found 173 = .ok (.aload_n 0, 1) := dk_42 (dk_at dksX10_found_7 15 rfl rfl)
theorem dX10_found_174 : decode cX10_found 174 = .ok (.getfield 42, 3) := dk_180 0 42 (dk_at dksX10_found_7 16 rfl rfl)
theorem dX10_found_177 : decode cX10_found 177 = .ok (.iconst 0, 1) := dk_3 (dk_at dksX10_found_7 19 rfl rfl)
theorem dX10_found_178 : decode cX10_found 178 = .ok (.iload_n 1, 1) := dk_27 (dk_at dksX10_found_7 20 rfl rfl)
theorem dX10_found_179 : decode cX10_found 179 = .ok (.invokestatic 210, 3) := dk_184 0 210 (dk_at dksX10_found_7 21 rfl rfl)
theorem dX10_found_182 : decode cX10_found 182 = .ok (.aload_n 0, 1) := dk_42 (dk_at dksX10_found_8 0 rfl rfl)
theorem dX10_found_183 : decode cX10_found 183 = .ok (.dup, 1) := dk_89 (dk_at dksX10_found_8 1 rfl rfl)
theorem dX10_found_184 : decode cX10_found 184 = .ok (.getfield 209, 3) := dk_180 0 209 (dk_at dksX10_found_8 2 rfl rfl)
theorem dX10_found_187 : decode cX10_found 187 = .ok (.iconst 1, 1) := dk_4 (dk_at dksX10_found_8 5 rfl rfl)
theorem dX10_found_188 : decode cX10_found 188 = .ok (.iadd, 1) := dk_96 (dk_at dksX10_found_8 6 rfl rfl)
theorem dX10_found_189 : decode cX10_found 189 = .ok (.putfield 209, 3) := dk_181 0 209 (dk_at dksX10_found_8 7 rfl rfl)
theorem dX10_found_192 : decode cX10_found 192 = .ok (.return_, 1) := dk_177 (dk_at dksX10_found_8 10 rfl rfl)
def dkwX10_played_9 : List UInt8 := [132, 3, 1, 167, 255, 76, 28, 172]
abbrev dktX10_played_9 : List UInt8 := dkwX10_played_9 ++ []
def dkwX10_played_8 : List UInt8 := [167, 0, 4, 4, 79, 28, 42, 180, 0, 54, 180, 0, 252, 42, 180, 0, 48, 182, 1, 10, 96, 61]
abbrev dktX10_played_8 : List UInt8 := dkwX10_played_8 ++ dktX10_played_9
def dkwX10_played_7 : List UInt8 := [4, 79, 42, 180, 0, 48, 8, 42, 21, 5, 16, 36, 112, 4, 21, 4, 100, 182, 1, 6, 153, 0, 7, 3]
abbrev dktX10_played_7 : List UInt8 := dkwX10_played_7 ++ dktX10_played_8
def dkwX10_played_6 : List UInt8 := [180, 0, 51, 21, 4, 182, 1, 3, 79, 42, 180, 0, 48, 7, 21, 7, 2, 160, 0, 7, 3, 167, 0, 4]
abbrev dktX10_played_6 : List UInt8 := dkwX10_played_6 ++ dktX10_played_7
def dkwX10_played_5 : List UInt8 := [180, 0, 48, 4, 21, 6, 79, 42, 180, 0, 48, 5, 29, 4, 96, 79, 42, 180, 0, 48, 6, 42]
abbrev dktX10_played_5 : List UInt8 := dkwX10_played_5 ++ dktX10_played_6
def dkwX10_played_4 : List UInt8 := [160, 0, 7, 3, 167, 0, 16, 42, 180, 0, 54, 180, 0, 64, 21, 7, 50, 180, 1, 0, 79, 42]
abbrev dktX10_played_4 : List UInt8 := dkwX10_played_4 ++ dktX10_played_5
def dkwX10_played_3 : List UInt8 := [180, 1, 0, 54, 6, 42, 180, 0, 51, 21, 5, 182, 0, 183, 54, 7, 42, 180, 0, 48, 3, 21, 7, 2]
abbrev dktX10_played_3 : List UInt8 := dkwX10_played_3 ++ dktX10_played_4
def dkwX10_played_2 : List UInt8 := [54, 5, 42, 180, 0, 54, 180, 0, 64, 42, 180, 0, 51, 180, 0, 58, 21, 5, 16, 36, 108, 46, 50]
abbrev dktX10_played_2 : List UInt8 := dkwX10_played_2 ++ dktX10_played_3
def dkwX10_played_1 : List UInt8 := [182, 0, 237, 3, 61, 3, 62, 29, 27, 162, 0, 181, 29, 5, 112, 54, 4, 42, 180, 0, 32, 29, 46]
abbrev dktX10_played_1 : List UInt8 := dkwX10_played_1 ++ dktX10_played_2
def dkwX10_played_0 : List UInt8 := [42, 180, 0, 54, 180, 0, 252, 199, 0, 5, 3, 172, 42, 180, 0, 51, 42, 180, 0, 54, 180, 0, 234]
abbrev dktX10_played_0 : List UInt8 := dkwX10_played_0 ++ dktX10_played_1
theorem dksX10_played_0 : cX10_played.data.toList.drop 0 = dktX10_played_0 := by decide +kernel
theorem dksX10_played_1 : cX10_played.data.toList.drop 23 = dktX10_played_1 := dk_seg dksX10_played_0 23 rfl rfl
theorem dksX10_played_2 : cX10_played.data.toList.drop 46 = dktX10_played_2 := dk_seg dksX10_played_1 23 rfl rfl
theorem dksX10_played_3 : cX10_played.data.toList.drop 69 = dktX10_played_3 := dk_seg dksX10_played_2 23 rfl rfl
theorem dksX10_played_4 : cX10_played.data.toList.drop 93 = dktX10_played_4 := dk_seg dksX10_played_3 24 rfl rfl
theorem dksX10_played_5 : cX10_played.data.toList.drop 115 = dktX10_played_5 := dk_seg dksX10_played_4 22 rfl rfl
theorem dksX10_played_6 : cX10_played.data.toList.drop 137 = dktX10_played_6 := dk_seg dksX10_played_5 22 rfl rfl
theorem dksX10_played_7 : cX10_played.data.toList.drop 161 = dktX10_played_7 := dk_seg dksX10_played_6 24 rfl rfl
theorem dksX10_played_8 : cX10_played.data.toList.drop 185 = dktX10_played_8 := dk_seg dksX10_played_7 24 rfl rfl
theorem dksX10_played_9 : cX10_played.data.toList.drop 207 = dktX10_played_9 := dk_seg dksX10_played_8 22 rfl rfl
theorem dX10_played_0 : decode cX10_played 0 = .ok (.aload_n 0, 1) := dk_42 (dk_at dksX10_played_0 0 rfl rfl)
theorem dX10_played_1 : decode cX10_played 1 = .ok (.getfield 54, 3) := dk_180 0 54 (dk_at dksX10_played_0 1 rfl rfl)
theorem dX10_played_4 : decode cX10_played 4 = .ok (.getfield 252, 3) := dk_180 0 252 (dk_at dksX10_played_0 4 rfl rfl)
theorem dX10_played_7 : decode cX10_played 7 = .ok (.ifnonnull 5, 3) := dk_199 0 5 (dk_at dksX10_played_0 7 rfl rfl)
theorem dX10_played_10 : decode cX10_played 10 = .ok (.iconst 0, 1) := dk_3 (dk_at dksX10_played_0 10 rfl rfl)
theorem dX10_played_11 : decode cX10_played 11 = .ok (.ireturn, 1) := dk_172 (dk_at dksX10_played_0 11 rfl rfl)
theorem dX10_played_12 : decode cX10_played 12 = .ok (.aload_n 0, 1) := dk_42 (dk_at dksX10_played_0 12 rfl rfl)
theorem dX10_played_13 : decode cX10_played 13 = .ok (.getfield 51, 3) := dk_180 0 51 (dk_at dksX10_played_0 13 rfl rfl)
theorem dX10_played_16 : decode cX10_played 16 = .ok (.aload_n 0, 1) := dk_42 (dk_at dksX10_played_0 16 rfl rfl)
theorem dX10_played_17 : decode cX10_played 17 = .ok (.getfield 54, 3) := dk_180 0 54 (dk_at dksX10_played_0 17 rfl rfl)
theorem dX10_played_20 : decode cX10_played 20 = .ok (.getfield 234, 3) := dk_180 0 234 (dk_at dksX10_played_0 20 rfl rfl)
theorem dX10_played_23 : decode cX10_played 23 = .ok (.invokevirtual 237, 3) := dk_182 0 237 (dk_at dksX10_played_1 0 rfl rfl)
theorem dX10_played_26 : decode cX10_played 26 = .ok (.iconst 0, 1) := dk_3 (dk_at dksX10_played_1 3 rfl rfl)
theorem dX10_played_27 : decode cX10_played 27 = .ok (.istore_n 2, 1) := dk_61 (dk_at dksX10_played_1 4 rfl rfl)
theorem dX10_played_28 : decode cX10_played 28 = .ok (.iconst 0, 1) := dk_3 (dk_at dksX10_played_1 5 rfl rfl)
theorem dX10_played_29 : decode cX10_played 29 = .ok (.istore_n 3, 1) := dk_62 (dk_at dksX10_played_1 6 rfl rfl)
theorem dX10_played_30 : decode cX10_played 30 = .ok (.iload_n 3, 1) := dk_29 (dk_at dksX10_played_1 7 rfl rfl)
theorem dX10_played_31 : decode cX10_played 31 = .ok (.iload_n 1, 1) := dk_27 (dk_at dksX10_played_1 8 rfl rfl)
theorem dX10_played_32 : decode cX10_played 32 = .ok (.if_icmp .ge 181, 3) := dk_162 0 181 (dk_at dksX10_played_1 9 rfl rfl)
theorem dX10_played_35 : decode cX10_played 35 = .ok (.iload_n 3, 1) := dk_29 (dk_at dksX10_played_1 12 rfl rfl)
theorem dX10_played_36 : decode cX10_played 36 = .ok (.iconst 2, 1) := dk_5 (dk_at dksX10_played_1 13 rfl rfl)
theorem dX10_played_37 : decode cX10_played 37 = .ok (.irem, 1) := dk_112 (dk_at dksX10_played_1 14 rfl rfl)
theorem dX10_played_38 : decode cX10_played 38 = .ok (.istore 4, 2) := dk_54 4 (dk_at dksX10_played_1 15 rfl rfl)
theorem dX10_played_40 : decode cX10_played 40 = .ok (.aload_n 0, 1) := dk_42 (dk_at dksX10_played_1 17 rfl rfl)
theorem dX10_played_41 : decode cX10_played 41 = .ok (.getfield 32, 3) := dk_180 0 32 (dk_at dksX10_played_1 18 rfl rfl)
theorem dX10_played_44 : decode cX10_played 44 = .ok (.iload_n 3, 1) := dk_29 (dk_at dksX10_played_1 21 rfl rfl)
theorem dX10_played_45 : decode cX10_played 45 = .ok (.iaload, 1) := dk_46 (dk_at dksX10_played_1 22 rfl rfl)
theorem dX10_played_46 : decode cX10_played 46 = .ok (.istore 5, 2) := dk_54 5 (dk_at dksX10_played_2 0 rfl rfl)
theorem dX10_played_48 : decode cX10_played 48 = .ok (.aload_n 0, 1) := dk_42 (dk_at dksX10_played_2 2 rfl rfl)
theorem dX10_played_49 : decode cX10_played 49 = .ok (.getfield 54, 3) := dk_180 0 54 (dk_at dksX10_played_2 3 rfl rfl)
theorem dX10_played_52 : decode cX10_played 52 = .ok (.getfield 64, 3) := dk_180 0 64 (dk_at dksX10_played_2 6 rfl rfl)
theorem dX10_played_55 : decode cX10_played 55 = .ok (.aload_n 0, 1) := dk_42 (dk_at dksX10_played_2 9 rfl rfl)
theorem dX10_played_56 : decode cX10_played 56 = .ok (.getfield 51, 3) := dk_180 0 51 (dk_at dksX10_played_2 10 rfl rfl)
theorem dX10_played_59 : decode cX10_played 59 = .ok (.getfield 58, 3) := dk_180 0 58 (dk_at dksX10_played_2 13 rfl rfl)
theorem dX10_played_62 : decode cX10_played 62 = .ok (.iload 5, 2) := dk_21 5 (dk_at dksX10_played_2 16 rfl rfl)
theorem dX10_played_64 : decode cX10_played 64 = .ok (.bipush 36, 2) := dk_16 36 (dk_at dksX10_played_2 18 rfl rfl)
theorem dX10_played_66 : decode cX10_played 66 = .ok (.idiv, 1) := dk_108 (dk_at dksX10_played_2 20 rfl rfl)
theorem dX10_played_67 : decode cX10_played 67 = .ok (.iaload, 1) := dk_46 (dk_at dksX10_played_2 21 rfl rfl)
theorem dX10_played_68 : decode cX10_played 68 = .ok (.aaload, 1) := dk_50 (dk_at dksX10_played_2 22 rfl rfl)
theorem dX10_played_69 : decode cX10_played 69 = .ok (.getfield 256, 3) := dk_180 1 0 (dk_at dksX10_played_3 0 rfl rfl)
theorem dX10_played_72 : decode cX10_played 72 = .ok (.istore 6, 2) := dk_54 6 (dk_at dksX10_played_3 3 rfl rfl)
theorem dX10_played_74 : decode cX10_played 74 = .ok (.aload_n 0, 1) := dk_42 (dk_at dksX10_played_3 5 rfl rfl)
theorem dX10_played_75 : decode cX10_played 75 = .ok (.getfield 51, 3) := dk_180 0 51 (dk_at dksX10_played_3 6 rfl rfl)
theorem dX10_played_78 : decode cX10_played 78 = .ok (.iload 5, 2) := dk_21 5 (dk_at dksX10_played_3 9 rfl rfl)
theorem dX10_played_80 : decode cX10_played 80 = .ok (.invokevirtual 183, 3) := dk_182 0 183 (dk_at dksX10_played_3 11 rfl rfl)
theorem dX10_played_83 : decode cX10_played 83 = .ok (.istore 7, 2) := dk_54 7 (dk_at dksX10_played_3 14 rfl rfl)
theorem dX10_played_85 : decode cX10_played 85 = .ok (.aload_n 0, 1) := dk_42 (dk_at dksX10_played_3 16 rfl rfl)
theorem dX10_played_86 : decode cX10_played 86 = .ok (.getfield 48, 3) := dk_180 0 48 (dk_at dksX10_played_3 17 rfl rfl)
theorem dX10_played_89 : decode cX10_played 89 = .ok (.iconst 0, 1) := dk_3 (dk_at dksX10_played_3 20 rfl rfl)
theorem dX10_played_90 : decode cX10_played 90 = .ok (.iload 7, 2) := dk_21 7 (dk_at dksX10_played_3 21 rfl rfl)
theorem dX10_played_92 : decode cX10_played 92 = .ok (.iconst (-1), 1) := dk_2 (dk_at dksX10_played_3 23 rfl rfl)
theorem dX10_played_93 : decode cX10_played 93 = .ok (.if_icmp .ne 7, 3) := dk_160 0 7 (dk_at dksX10_played_4 0 rfl rfl)
theorem dX10_played_96 : decode cX10_played 96 = .ok (.iconst 0, 1) := dk_3 (dk_at dksX10_played_4 3 rfl rfl)
theorem dX10_played_97 : decode cX10_played 97 = .ok (.goto 16, 3) := dk_167 0 16 (dk_at dksX10_played_4 4 rfl rfl)
theorem dX10_played_100 : decode cX10_played 100 = .ok (.aload_n 0, 1) := dk_42 (dk_at dksX10_played_4 7 rfl rfl)
theorem dX10_played_101 : decode cX10_played 101 = .ok (.getfield 54, 3) := dk_180 0 54 (dk_at dksX10_played_4 8 rfl rfl)
theorem dX10_played_104 : decode cX10_played 104 = .ok (.getfield 64, 3) := dk_180 0 64 (dk_at dksX10_played_4 11 rfl rfl)
theorem dX10_played_107 : decode cX10_played 107 = .ok (.iload 7, 2) := dk_21 7 (dk_at dksX10_played_4 14 rfl rfl)
theorem dX10_played_109 : decode cX10_played 109 = .ok (.aaload, 1) := dk_50 (dk_at dksX10_played_4 16 rfl rfl)
theorem dX10_played_110 : decode cX10_played 110 = .ok (.getfield 256, 3) := dk_180 1 0 (dk_at dksX10_played_4 17 rfl rfl)
theorem dX10_played_113 : decode cX10_played 113 = .ok (.iastore, 1) := dk_79 (dk_at dksX10_played_4 20 rfl rfl)
theorem dX10_played_114 : decode cX10_played 114 = .ok (.aload_n 0, 1) := dk_42 (dk_at dksX10_played_4 21 rfl rfl)
theorem dX10_played_115 : decode cX10_played 115 = .ok (.getfield 48, 3) := dk_180 0 48 (dk_at dksX10_played_5 0 rfl rfl)
theorem dX10_played_118 : decode cX10_played 118 = .ok (.iconst 1, 1) := dk_4 (dk_at dksX10_played_5 3 rfl rfl)
theorem dX10_played_119 : decode cX10_played 119 = .ok (.iload 6, 2) := dk_21 6 (dk_at dksX10_played_5 4 rfl rfl)
theorem dX10_played_121 : decode cX10_played 121 = .ok (.iastore, 1) := dk_79 (dk_at dksX10_played_5 6 rfl rfl)
theorem dX10_played_122 : decode cX10_played 122 = .ok (.aload_n 0, 1) := dk_42 (dk_at dksX10_played_5 7 rfl rfl)
theorem dX10_played_123 : decode cX10_played 123 = .ok (.getfield 48, 3) := dk_180 0 48 (dk_at dksX10_played_5 8 rfl rfl)
theorem dX10_played_126 : decode cX10_played 126 = .ok (.iconst 2, 1) := dk_5 (dk_at dksX10_played_5 11 rfl rfl)
theorem dX10_played_127 : decode cX10_played 127 = .ok (.iload_n 3, 1) := dk_29 (dk_at dksX10_played_5 12 rfl rfl)
theorem dX10_played_128 : decode cX10_played 128 = .ok (.iconst 1, 1) := dk_4 (dk_at dksX10_played_5 13 rfl rfl)
theorem dX10_played_129 : decode cX10_played 129 = .ok (.iadd, 1) := dk_96 (dk_at dksX10_played_5 14 rfl rfl)
theorem dX10_played_130 : decode cX10_played 130 = .ok (.iastore, 1) := dk_79 (dk_at dksX10_played_5 15 rfl rfl)
theorem dX10_played_131 : decode cX10_played 131 = .ok (.aload_n 0, 1) := dk_42 (dk_at dksX10_played_5 16 rfl rfl)
theorem dX10_played_132 : decode cX10_played 132 = .ok (.getfield 48, 3) := dk_180 0 48 (dk_at dksX10_played_5 17 rfl rfl)
theorem dX10_played_135 : decode cX10_played 135 = .ok (.iconst 3, 1) := dk_6 (dk_at dksX10_played_5 20 rfl rfl)
theorem dX10_played_136 : decode cX10_played 136 = .ok (.aload_n 0, 1) := dk_42 (dk_at dksX10_played_5 21 rfl rfl)
theorem dX10_played_137 : decode cX10_played 137 = .ok (.getfield 51, 3) := dk_180 0 51 (dk_at dksX10_played_6 0 rfl rfl)
theorem dX10_played_140 : decode cX10_played 140 = .ok (.iload 4, 2) := dk_21 4 (dk_at dksX10_played_6 3 rfl rfl)
theorem dX10_played_142 : decode cX10_played 142 = .ok (.invokevirtual 259, 3) := dk_182 1 3 (dk_at dksX10_played_6 5 rfl rfl)
theorem dX10_played_145 : decode cX10_played 145 = .ok (.iastore, 1) := dk_79 (dk_at dksX10_played_6 8 rfl rfl)
theorem dX10_played_146 : decode cX10_played 146 = .ok (.aload_n 0, 1) := dk_42 (dk_at dksX10_played_6 9 rfl rfl)
theorem dX10_played_147 : decode cX10_played 147 = .ok (.getfield 48, 3) := dk_180 0 48 (dk_at dksX10_played_6 10 rfl rfl)
theorem dX10_played_150 : decode cX10_played 150 = .ok (.iconst 4, 1) := dk_7 (dk_at dksX10_played_6 13 rfl rfl)
theorem dX10_played_151 : decode cX10_played 151 = .ok (.iload 7, 2) := dk_21 7 (dk_at dksX10_played_6 14 rfl rfl)
theorem dX10_played_153 : decode cX10_played 153 = .ok (.iconst (-1), 1) := dk_2 (dk_at dksX10_played_6 16 rfl rfl)
theorem dX10_played_154 : decode cX10_played 154 = .ok (.if_icmp .ne 7, 3) := dk_160 0 7 (dk_at dksX10_played_6 17 rfl rfl)
theorem dX10_played_157 : decode cX10_played 157 = .ok (.iconst 0, 1) := dk_3 (dk_at dksX10_played_6 20 rfl rfl)
theorem dX10_played_158 : decode cX10_played 158 = .ok (.goto 4, 3) := dk_167 0 4 (dk_at dksX10_played_6 21 rfl rfl)
theorem dX10_played_161 : decode cX10_played 161 = .ok (.iconst 1, 1) := dk_4 (dk_at dksX10_played_7 0 rfl rfl)
theorem dX10_played_162 : decode cX10_played 162 = .ok (.iastore, 1) := dk_79 (dk_at dksX10_played_7 1 rfl rfl)
theorem dX10_played_163 : decode cX10_played 163 = .ok (.aload_n 0, 1) := dk_42 (dk_at dksX10_played_7 2 rfl rfl)
theorem dX10_played_164 : decode cX10_played 164 = .ok (.getfield 48, 3) := dk_180 0 48 (dk_at dksX10_played_7 3 rfl rfl)
theorem dX10_played_167 : decode cX10_played 167 = .ok (.iconst 5, 1) := dk_8 (dk_at dksX10_played_7 6 rfl rfl)
theorem dX10_played_168 : decode cX10_played 168 = .ok (.aload_n 0, 1) := dk_42 (dk_at dksX10_played_7 7 rfl rfl)
theorem dX10_played_169 : decode cX10_played 169 = .ok (.iload 5, 2) := dk_21 5 (dk_at dksX10_played_7 8 rfl rfl)
theorem dX10_played_171 : decode cX10_played 171 = .ok (.bipush 36, 2) := dk_16 36 (dk_at dksX10_played_7 10 rfl rfl)
theorem dX10_played_173 : decode cX10_played 173 = .ok (.irem, 1) := dk_112 (dk_at dksX10_played_7 12 rfl rfl)
theorem dX10_played_174 : decode cX10_played 174 = .ok (.iconst 1, 1) := dk_4 (dk_at dksX10_played_7 13 rfl rfl)
theorem dX10_played_175 : decode cX10_played 175 = .ok (.iload 4, 2) := dk_21 4 (dk_at dksX10_played_7 14 rfl rfl)
theorem dX10_played_177 : decode cX10_played 177 = .ok (.isub, 1) := dk_100 (dk_at dksX10_played_7 16 rfl rfl)
theorem dX10_played_178 : decode cX10_played 178 = .ok (.invokevirtual 262, 3) := dk_182 1 6 (dk_at dksX10_played_7 17 rfl rfl)
theorem dX10_played_181 : decode cX10_played 181 = .ok (.ifCond .eq 7, 3) := dk_153 0 7 (dk_at dksX10_played_7 20 rfl rfl)
theorem dX10_played_184 : decode cX10_played 184 = .ok (.iconst 0, 1) := dk_3 (dk_at dksX10_played_7 23 rfl rfl)
theorem dX10_played_185 : decode cX10_played 185 = .ok (.goto 4, 3) := dk_167 0 4 (dk_at dksX10_played_8 0 rfl rfl)
theorem dX10_played_188 : decode cX10_played 188 = .ok (.iconst 1, 1) := dk_4 (dk_at dksX10_played_8 3 rfl rfl)
theorem dX10_played_189 : decode cX10_played 189 = .ok (.iastore, 1) := dk_79 (dk_at dksX10_played_8 4 rfl rfl)
theorem dX10_played_190 : decode cX10_played 190 = .ok (.iload_n 2, 1) := dk_28 (dk_at dksX10_played_8 5 rfl rfl)
theorem dX10_played_191 : decode cX10_played 191 = .ok (.aload_n 0, 1) := dk_42 (dk_at dksX10_played_8 6 rfl rfl)
theorem dX10_played_192 : decode cX10_played 192 = .ok (.getfield 54, 3) := dk_180 0 54 (dk_at dksX10_played_8 7 rfl rfl)
theorem dX10_played_195 : decode cX10_played 195 = .ok (.getfield 252, 3) := dk_180 0 252 (dk_at dksX10_played_8 10 rfl rfl)
theorem dX10_played_198 : decode cX10_played 198 = .ok (.aload_n 0, 1) := dk_42 (dk_at dksX10_played_8 13 rfl rfl)
theorem dX10_played_199 : decode cX10_played 199 = .ok (.getfield 48, 3) := dk_180 0 48 (dk_at dksX10_played_8 14 rfl rfl)
theorem dX10_played_202 : decode cX10_played 202 = .ok (.invokevirtual 266, 3) := dk_182 1 10 (dk_at dksX10_played_8 17 rfl rfl)
theorem dX10_played_205 : decode cX10_played 205 = .ok (.iadd, 1) := dk_96 (dk_at dksX10_played_8 20 rfl rfl)
theorem dX10_played_206 : decode cX10_played 206 = .ok (.istore_n 2, 1) := dk_61 (dk_at dksX10_played_8 21 rfl rfl)
theorem dX10_played_207 : decode cX10_played 207 = .ok (.iinc 3 1, 3) := dk_132 3 1 (dk_at dksX10_played_9 0 rfl rfl)
theorem dX10_played_210 : decode cX10_played 210 = .ok (.goto (-180), 3) := dk_167 255 76 (dk_at dksX10_played_9 3 rfl rfl)
theorem dX10_played_213 : decode cX10_played 213 = .ok (.iload_n 2, 1) := dk_28 (dk_at dksX10_played_9 6 rfl rfl)
theorem dX10_played_214 : decode cX10_played 214 = .ok (.ireturn, 1) := dk_172 (dk_at dksX10_played_9 7 rfl rfl)
def dkwX10_isTaken_2 : List UInt8 := [27, 160, 0, 7, 4, 167, 0, 4, 3, 54, 4, 132, 5, 1, 167, 255, 218, 21, 4, 172]
abbrev dktX10_isTaken_2 : List UInt8 := dkwX10_isTaken_2 ++ []
def dkwX10_isTaken_1 : List UInt8 := [21, 5, 29, 162, 0, 38, 21, 4, 154, 0, 20, 42, 180, 0, 24, 16, 30, 50, 21, 5, 46, 16, 36, 112]
abbrev dktX10_isTaken_1 : List UInt8 := dkwX10_isTaken_1 ++ dktX10_isTaken_2
def dkwX10_isTaken_0 : List UInt8 := [42, 42, 180, 0, 51, 28, 42, 180, 0, 24, 16, 30, 50, 182, 0, 175, 62, 3, 54, 4, 3, 54, 5]
abbrev dktX10_isTaken_0 : List UInt8 := dkwX10_isTaken_0 ++ dktX10_isTaken_1
theorem dksX10_isTaken_0 : cX10_isTaken.data.toList.drop 0 = dktX10_isTaken_0 := by decide +kernel
theorem dksX10_isTaken_1 : cX10_isTaken.data.toList.drop 23 = dktX10_isTaken_1 := dk_seg dksX10_isTaken_0 23 rfl rfl
theorem dksX10_isTaken_2 : cX10_isTaken.data.toList.drop 47 = dktX10_isTaken_2 := dk_seg dksX10_isTaken_1 24 rfl rfl
theorem dX10_isTaken_0 : decode cX10_isTaken 0 = .ok (.aload_n 0, 1) := dk_42 (dk_at dksX10_isTaken_0 0 rfl rfl)
theorem dX10_isTaken_1 : decode cX10_isTaken 1 = .ok (.aload_n 0, 1) := dk_42 (dk_at dksX10_isTaken_0 1 rfl rfl)
theorem dX10_isTaken_2 : decode cX10_isTaken 2 = .ok (.getfield 51, 3) := dk_180 0 51 (dk_at dksX10_isTaken_0 2 rfl rfl)
theorem dX10_isTaken_5 : decode cX10_isTaken 5 = .ok (.iload_n 2, 1) := dk_28 (dk_at dksX10_isTaken_0 5 rfl rfl)
theorem dX10_isTaken_6 : decode cX10_isTaken 6 = .ok (.aload_n 0, 1) := dk_42 (dk_at dksX10_isTaken_0 6 rfl rfl)
theorem dX10_isTaken_7 : decode cX10_isTaken 7 = .ok (.getfield 24, 3) := dk_180 0 24 (dk_at dksX10_isTaken_0 7 rfl rfl)
theorem dX10_isTaken_10 : decode cX10_isTaken 10 = .ok (.bipush 30, 2) := dk_16 30 (dk_at dksX10_isTaken_0 10 rfl rfl)
theorem dX10_isTaken_12 : decode cX10_isTaken 12 = .ok (.aaload, 1) := dk_50 (dk_at dksX10_isTaken_0 12 rfl rfl)
theorem dX10_isTaken_13 : decode cX10_isTaken 13 = .ok (.invokevirtual 175, 3) := dk_182 0 175 (dk_at dksX10_isTaken_0 13 rfl rfl)
theorem dX10_isTaken_16 : decode cX10_isTaken 16 = .ok (.istore_n 3, 1) := dk_62 (dk_at dksX10_isTaken_0 16 rfl rfl)
theorem dX10_isTaken_17 : decode cX10_isTaken 17 = .ok (.iconst 0, 1) := dk_3 (dk_at dksX10_isTaken_0 17 rfl rfl)
theorem dX10_isTaken_18 : decode cX10_isTaken 18 = .ok (.istore 4, 2) := dk_54 4 (dk_at dksX10_isTaken_0 18 rfl rfl)
theorem dX10_isTaken_20 : decode cX10_isTaken 20 = .ok (.iconst 0, 1) := dk_3 (dk_at dksX10_isTaken_0 20 rfl rfl)
theorem dX10_isTaken_21 : decode cX10_isTaken 21 = .ok (.istore 5, 2) := dk_54 5 (dk_at dksX10_isTaken_0 21 rfl rfl)
theorem dX10_isTaken_23 : decode cX10_isTaken 23 = .ok (.iload 5, 2) := dk_21 5 (dk_at dksX10_isTaken_1 0 rfl rfl)
theorem dX10_isTaken_25 : decode cX10_isTaken 25 = .ok (.iload_n 3, 1) := dk_29 (dk_at dksX10_isTaken_1 2 rfl rfl)
theorem dX10_isTaken_26 : decode cX10_isTaken 26 = .ok (.if_icmp .ge 38, 3) := dk_162 0 38 (dk_at dksX10_isTaken_1 3 rfl rfl)
theorem dX10_isTaken_29 : decode cX10_isTaken 29 = .ok (.iload 4, 2) := dk_21 4 (dk_at dksX10_isTaken_1 6 rfl rfl)
theorem dX10_isTaken_31 : decode cX10_isTaken 31 = .ok (.ifCond .ne 20, 3) := dk_154 0 20 (dk_at dksX10_isTaken_1 8 rfl rfl)
theorem dX10_isTaken_34 : decode cX10_isTaken 34 = .ok (.aload_n 0, 1) := dk_42 (dk_at dksX10_isTaken_1 11 rfl rfl)
theorem dX10_isTaken_35 : decode cX10_isTaken 35 = .ok (.getfield 24, 3) := dk_180 0 24 (dk_at dksX10_isTaken_1 12 rfl rfl)
theorem dX10_isTaken_38 : decode cX10_isTaken 38 = .ok (.bipush 30, 2) := dk_16 30 (dk_at dksX10_isTaken_1 15 rfl rfl)
theorem dX10_isTaken_40 : decode cX10_isTaken 40 = .ok (.aaload, 1) := dk_50 (dk_at dksX10_isTaken_1 17 rfl rfl)
theorem dX10_isTaken_41 : decode cX10_isTaken 41 = .ok (.iload 5, 2) := dk_21 5 (dk_at dksX10_isTaken_1 18 rfl rfl)
theorem dX10_isTaken_43 : decode cX10_isTaken 43 = .ok (.iaload, 1) := dk_46 (dk_at dksX10_isTaken_1 20 rfl rfl)
theorem dX10_isTaken_44 : decode cX10_isTaken 44 = .ok (.bipush 36, 2) := dk_16 36 (dk_at dksX10_isTaken_1 21 rfl rfl)
theorem dX10_isTaken_46 : decode cX10_isTaken 46 = .ok (.irem, 1) := dk_112 (dk_at dksX10_isTaken_1 23 rfl rfl)
theorem dX10_isTaken_47 : decode cX10_isTaken 47 = .ok (.iload_n 1, 1) := dk_27 (dk_at dksX10_isTaken_2 0 rfl rfl)
theorem dX10_isTaken_48 : decode cX10_isTaken 48 = .ok (.if_icmp .ne 7, 3) := dk_160 0 7 (dk_at dksX10_isTaken_2 1 rfl rfl)
theorem dX10_isTaken_51 : decode cX10_isTaken 51 = .ok (.iconst 1, 1) := dk_4 (dk_at dksX10_isTaken_2 4 rfl rfl)
theorem dX10_isTaken_52 : decode cX10_isTaken 52 = .ok (.goto 4, 3) := dk_167 0 4 (dk_at dksX10_isTaken_2 5 rfl rfl)
theorem dX10_isTaken_55 : decode cX10_isTaken 55 = .ok (.iconst 0, 1) := dk_3 (dk_at dksX10_isTaken_2 8 rfl rfl)
theorem dX10_isTaken_56 : decode cX10_isTaken 56 = .ok (.istore 4, 2) := dk_54 4 (dk_at dksX10_isTaken_2 9 rfl rfl)
theorem dX10_isTaken_58 : decode cX10_isTaken 58 = .ok (.iinc 5 1, 3) := dk_132 5 1 (dk_at dksX10_isTaken_2 11 rfl rfl)
theorem dX10_isTaken_61 : decode cX10_isTaken 61 = .ok (.goto (-38), 3) := dk_167 255 218 (dk_at dksX10_isTaken_2 14 rfl rfl)
theorem dX10_isTaken_64 : decode cX10_isTaken 64 = .ok (.iload 4, 2) := dk_21 4 (dk_at dksX10_isTaken_2 17 rfl rfl)
theorem dX10_isTaken_66 : decode cX10_isTaken 66 = .ok (.ireturn, 1) := dk_172 (dk_at dksX10_isTaken_2 19 rfl rfl)
def dkwX10_gathers_7 : List UInt8 := [167, 255, 218, 132, 5, 1, 167, 255, 92, 21, 4, 172]
abbrev dktX10_gathers_7 : List UInt8 := dkwX10_gathers_7 ++ []
def dkwX10_gathers_6 : List UInt8 := [154, 0, 6, 167, 0, 18, 45, 21, 4, 16, 36, 21, 5, 104, 21, 6, 96, 79, 132, 4, 1, 132, 6, 1]
abbrev dktX10_gathers_6 : List UInt8 := dkwX10_gathers_6 ++ dktX10_gathers_7
def dkwX10_gathers_5 : List UInt8 := [132, 8, 1, 167, 255, 226, 3, 54, 6, 21, 6, 16, 36, 162, 0, 37, 42, 180, 0, 18, 21, 6, 51]
abbrev dktX10_gathers_5 : List UInt8 := dkwX10_gathers_5 ++ dktX10_gathers_6
def dkwX10_gathers_4 : List UInt8 := [162, 0, 29, 25, 6, 21, 8, 50, 58, 9, 25, 9, 43, 21, 5, 28, 42, 180, 0, 18, 182, 0, 76]
abbrev dktX10_gathers_4 : List UInt8 := dkwX10_gathers_4 ++ dktX10_gathers_5
def dkwX10_gathers_3 : List UInt8 := [180, 0, 58, 21, 5, 46, 50, 180, 0, 70, 58, 6, 25, 6, 190, 54, 7, 3, 54, 8, 21, 8, 21, 7]
abbrev dktX10_gathers_3 : List UInt8 := dkwX10_gathers_3 ++ dktX10_gathers_4
def dkwX10_gathers_2 : List UInt8 := [42, 180, 0, 18, 21, 6, 3, 84, 132, 6, 1, 167, 255, 238, 42, 180, 0, 54, 180, 0, 64, 43]
abbrev dktX10_gathers_2 : List UInt8 := dkwX10_gathers_2 ++ dktX10_gathers_3
def dkwX10_gathers_1 : List UInt8 := [43, 180, 0, 61, 21, 5, 46, 28, 159, 0, 6, 167, 0, 132, 3, 54, 6, 21, 6, 16, 36, 162, 0, 17]
abbrev dktX10_gathers_1 : List UInt8 := dkwX10_gathers_1 ++ dktX10_gathers_2
def dkwX10_gathers_0 : List UInt8 := [3, 54, 4, 3, 54, 5, 21, 5, 16, 36, 162, 0, 163, 43, 180, 0, 58, 21, 5, 46, 2, 159, 0, 146]
abbrev dktX10_gathers_0 : List UInt8 := dkwX10_gathers_0 ++ dktX10_gathers_1
theorem dksX10_gathers_0 : cX10_gathers.data.toList.drop 0 = dktX10_gathers_0 := by decide +kernel
theorem dksX10_gathers_1 : cX10_gathers.data.toList.drop 24 = dktX10_gathers_1 := dk_seg dksX10_gathers_0 24 rfl rfl
theorem dksX10_gathers_2 : cX10_gathers.data.toList.drop 48 = dktX10_gathers_2 := dk_seg dksX10_gathers_1 24 rfl rfl
theorem dksX10_gathers_3 : cX10_gathers.data.toList.drop 70 = dktX10_gathers_3 := dk_seg dksX10_gathers_2 22 rfl rfl
theorem dksX10_gathers_4 : cX10_gathers.data.toList.drop 94 = dktX10_gathers_4 := dk_seg dksX10_gathers_3 24 rfl rfl
theorem dksX10_gathers_5 : cX10_gathers.data.toList.drop 117 = dktX10_gathers_5 := dk_seg dksX10_gathers_4 23 rfl rfl
theorem dksX10_gathers_6 : cX10_gathers.data.toList.drop 140 = dktX10_gathers_6 := dk_seg dksX10_gathers_5 23 rfl rfl
theorem dksX10_gathers_7 : cX10_gathers.data.toList.drop 164 = dktX10_gathers_7 := dk_seg dksX10_gathers_6 24 rfl rfl
theorem dX10_gathers_0 : decode cX10_gathers 0 = .ok (.iconst 0, 1) := dk_3 (dk_at dksX10_gathers_0 0 rfl rfl)
theorem dX10_gathers_1 : decode cX10_gathers 1 = .ok (.istore 4, 2) := dk_54 4 (dk_at dksX10_gathers_0 1 rfl rfl)
theorem dX10_gathers_3 : decode cX10_gathers 3 = .ok (.iconst 0, 1) := dk_3 (dk_at dksX10_gathers_0 3 rfl rfl)
theorem dX10_gathers_4 : decode cX10_gathers 4 = .ok (.istore 5, 2) := dk_54 5 (dk_at dksX10_gathers_0 4 rfl rfl)
theorem dX10_gathers_6 : decode cX10_gathers 6 = .ok (.iload 5, 2) := dk_21 5 (dk_at dksX10_gathers_0 6 rfl rfl)
theorem dX10_gathers_8 : decode cX10_gathers 8 = .ok (.bipush 36, 2) := dk_16 36 (dk_at dksX10_gathers_0 8 rfl rfl)
theorem dX10_gathers_10 : decode cX10_gathers 10 = .ok (.if_icmp .ge 163, 3) := dk_162 0 163 (dk_at dksX10_gathers_0 10 rfl rfl)
theorem dX10_gathers_13 : decode cX10_gathers 13 = .ok (.aload_n 1, 1) := dk_43 (dk_at dksX10_gathers_0 13 rfl rfl)
theorem dX10_gathers_14 : decode cX10_gathers 14 = .ok (.getfield 58, 3) := dk_180 0 58 (dk_at dksX10_gathers_0 14 rfl rfl)
theorem dX10_gathers_17 : decode cX10_gathers 17 = .ok (.iload 5, 2) := dk_21 5 (dk_at dksX10_gathers_0 17 rfl rfl)
theorem dX10_gathers_19 : decode cX10_gathers 19 = .ok (.iaload, 1) := dk_46 (dk_at dksX10_gathers_0 19 rfl rfl)
theorem dX10_gathers_20 : decode cX10_gathers 20 = .ok (.iconst (-1), 1) := dk_2 (dk_at dksX10_gathers_0 20 rfl rfl)
theorem dX10_gathers_21 : decode cX10_gathers 21 = .ok (.if_icmp .eq 146, 3) := dk_159 0 146 (dk_at dksX10_gathers_0 21 rfl rfl)
theorem dX10_gathers_24 : decode cX10_gathers 24 = .ok (.aload_n 1, 1) := dk_43 (dk_at dksX10_gathers_1 0 rfl rfl)
theorem dX10_gathers_25 : decode cX10_gathers 25 = .ok (.getfield 61, 3) := dk_180 0 61 (dk_at dksX10_gathers_1 1 rfl rfl)
theorem dX10_gathers_28 : decode cX10_gathers 28 = .ok (.iload 5, 2) := dk_21 5 (dk_at dksX10_gathers_1 4 rfl rfl)
theorem dX10_gathers_30 : decode cX10_gathers 30 = .ok (.iaload, 1) := dk_46 (dk_at dksX10_gathers_1 6 rfl rfl)
theorem dX10_gathers_31 : decode cX10_gathers 31 = .ok (.iload_n 2, 1) := dk_28 (dk_at dksX10_gathers_1 7 rfl rfl)
theorem dX10_gathers_32 : decode cX10_gathers 32 = .ok (.if_icmp .eq 6, 3) := dk_159 0 6 (dk_at dksX10_gathers_1 8 rfl rfl)
theorem dX10_gathers_35 : decode cX10_gathers 35 = .ok (.goto 132, 3) := dk_167 0 132 (dk_at dksX10_gathers_1 11 rfl rfl)
theorem dX10_gathers_38 : decode cX10_gathers 38 = .ok (.iconst 0, 1) := dk_3 (dk_at dksX10_gathers_1 14 rfl rfl)
theorem dX10_gathers_39 : decode cX10_gathers 39 = .ok (.istore 6, 2) := dk_54 6 (dk_at dksX10_gathers_1 15 rfl rfl)
theorem dX10_gathers_41 : decode cX10_gathers 41 = .ok (.iload 6, 2) := dk_21 6 (dk_at dksX10_gathers_1 17 rfl rfl)
theorem dX10_gathers_43 : decode cX10_gathers 43 = .ok (.bipush 36, 2) := dk_16 36 (dk_at dksX10_gathers_1 19 rfl rfl)
theorem dX10_gathers_45 : decode cX10_gathers 45 = .ok (.if_icmp .ge 17, 3) := dk_162 0 17 (dk_at dksX10_gathers_1 21 rfl rfl)
theorem dX10_gathers_48 : decode cX10_gathers 48 = .ok (.aload_n 0, 1) := dk_42 (dk_at dksX10_gathers_2 0 rfl rfl)
theorem dX10_gathers_49 : decode cX10_gathers 49 = .ok (.getfield 18, 3) := dk_180 0 18 (dk_at dksX10_gathers_2 1 rfl rfl)
theorem dX10_gathers_52 : decode cX10_gathers 52 = .ok (.iload 6, 2) := dk_21 6 (dk_at dksX10_gathers_2 4 rfl rfl)
theorem dX10_gathers_54 : decode cX10_gathers 54 = .ok (.iconst 0, 1) := dk_3 (dk_at dksX10_gathers_2 6 rfl rfl)
theorem dX10_gathers_55 : decode cX10_gathers 55 = .ok (.bastore, 1) := dk_84 (dk_at dksX10_gathers_2 7 rfl rfl)
theorem dX10_gathers_56 : decode cX10_gathers 56 = .ok (.iinc 6 1, 3) := dk_132 6 1 (dk_at dksX10_gathers_2 8 rfl rfl)
theorem dX10_gathers_59 : decode cX10_gathers 59 = .ok (.goto (-18), 3) := dk_167 255 238 (dk_at dksX10_gathers_2 11 rfl rfl)
theorem dX10_gathers_62 : decode cX10_gathers 62 = .ok (.aload_n 0, 1) := dk_42 (dk_at dksX10_gathers_2 14 rfl rfl)
theorem dX10_gathers_63 : decode cX10_gathers 63 = .ok (.getfield 54, 3) := dk_180 0 54 (dk_at dksX10_gathers_2 15 rfl rfl)
theorem dX10_gathers_66 : decode cX10_gathers 66 = .ok (.getfield 64, 3) := dk_180 0 64 (dk_at dksX10_gathers_2 18 rfl rfl)
theorem dX10_gathers_69 : decode cX10_gathers 69 = .ok (.aload_n 1, 1) := dk_43 (dk_at dksX10_gathers_2 21 rfl rfl)
theorem dX10_gathers_70 : decode cX10_gathers 70 = .ok (.getfield 58, 3) := dk_180 0 58 (dk_at dksX10_gathers_3 0 rfl rfl)
theorem dX10_gathers_73 : decode cX10_gathers 73 = .ok (.iload 5, 2) := dk_21 5 (dk_at dksX10_gathers_3 3 rfl rfl)
theorem dX10_gathers_75 : decode cX10_gathers 75 = .ok (.iaload, 1) := dk_46 (dk_at dksX10_gathers_3 5 rfl rfl)
theorem dX10_gathers_76 : decode cX10_gathers 76 = .ok (.aaload, 1) := dk_50 (dk_at dksX10_gathers_3 6 rfl rfl)
theorem dX10_gathers_77 : decode cX10_gathers 77 = .ok (.getfield 70, 3) := dk_180 0 70 (dk_at dksX10_gathers_3 7 rfl rfl)
theorem dX10_gathers_80 : decode cX10_gathers 80 = .ok (.astore 6, 2) := dk_58 6 (dk_at dksX10_gathers_3 10 rfl rfl)
theorem dX10_gathers_82 : decode cX10_gathers 82 = .ok (.aload 6, 2) := dk_25 6 (dk_at dksX10_gathers_3 12 rfl rfl)
theorem dX10_gathers_84 : decode cX10_gathers 84 = .ok (.arraylength, 1) := dk_190 (dk_at dksX10_gathers_3 14 rfl rfl)
theorem dX10_gathers_85 : decode cX10_gathers 85 = .ok (.istore 7, 2) := dk_54 7 (dk_at dksX10_gathers_3 15 rfl rfl)
theorem dX10_gathers_87 : decode cX10_gathers 87 = .ok (.iconst 0, 1) := dk_3 (dk_at dksX10_gathers_3 17 rfl rfl)
theorem dX10_gathers_88 : decode cX10_gathers 88 = .ok (.istore 8, 2) := dk_54 8 (dk_at dksX10_gathers_3 18 rfl rfl)
theorem dX10_gathers_90 : decode cX10_gathers 90 = .ok (.iload 8, 2) := dk_21 8 (dk_at dksX10_gathers_3 20 rfl rfl)
theorem dX10_gathers_92 : decode cX10_gathers 92 = .ok (.iload 7, 2) := dk_21 7 (dk_at dksX10_gathers_3 22 rfl rfl)
theorem dX10_gathers_94 : decode cX10_gathers 94 = .ok (.if_icmp .ge 29, 3) := dk_162 0 29 (dk_at dksX10_gathers_4 0 rfl rfl)
theorem dX10_gathers_97 : decode cX10_gathers 97 = .ok (.aload 6, 2) := dk_25 6 (dk_at dksX10_gathers_4 3 rfl rfl)
theorem dX10_gathers_99 : decode cX10_gathers 99 = .ok (.iload 8, 2) := dk_21 8 (dk_at dksX10_gathers_4 5 rfl rfl)
theorem dX10_gathers_101 : decode cX10_gathers 101 = .ok (.aaload, 1) := dk_50 (dk_at dksX10_gathers_4 7 rfl rfl)
theorem dX10_gathers_102 : decode cX10_gathers 102 = .ok (.astore 9, 2) := dk_58 9 (dk_at dksX10_gathers_4 8 rfl rfl)
theorem dX10_gathers_104 : decode cX10_gathers 104 = .ok (.aload 9, 2) := dk_25 9 (dk_at dksX10_gathers_4 10 rfl rfl)
theorem dX10_gathers_106 : decode cX10_gathers 106 = .ok (.aload_n 1, 1) := dk_43 (dk_at dksX10_gathers_4 12 rfl rfl)
theorem dX10_gathers_107 : decode cX10_gathers 107 = .ok (.iload 5, 2) := dk_21 5 (dk_at dksX10_gathers_4 13 rfl rfl)
theorem dX10_gathers_109 : decode cX10_gathers 109 = .ok (.iload_n 2, 1) := dk_28 (dk_at dksX10_gathers_4 15 rfl rfl)
theorem dX10_gathers_110 : decode cX10_gathers 110 = .ok (.aload_n 0, 1) := dk_42 (dk_at dksX10_gathers_4 16 rfl rfl)
theorem dX10_gathers_111 : decode cX10_gathers 111 = .ok (.getfield 18, 3) := dk_180 0 18 (dk_at dksX10_gathers_4 17 rfl rfl)
theorem dX10_gathers_114 : decode cX10_gathers 114 = .ok (.invokevirtual 76, 3) := dk_182 0 76 (dk_at dksX10_gathers_4 20 rfl rfl)
theorem dX10_gathers_117 : decode cX10_gathers 117 = .ok (.iinc 8 1, 3) := dk_132 8 1 (dk_at dksX10_gathers_5 0 rfl rfl)
theorem dX10_gathers_120 : decode cX10_gathers 120 = .ok (.goto (-30), 3) := dk_167 255 226 (dk_at dksX10_gathers_5 3 rfl rfl)
theorem dX10_gathers_123 : decode cX10_gathers 123 = .ok (.iconst 0, 1) := dk_3 (dk_at dksX10_gathers_5 6 rfl rfl)
theorem dX10_gathers_124 : decode cX10_gathers 124 = .ok (.istore 6, 2) := dk_54 6 (dk_at dksX10_gathers_5 7 rfl rfl)
theorem dX10_gathers_126 : decode cX10_gathers 126 = .ok (.iload 6, 2) := dk_21 6 (dk_at dksX10_gathers_5 9 rfl rfl)
theorem dX10_gathers_128 : decode cX10_gathers 128 = .ok (.bipush 36, 2) := dk_16 36 (dk_at dksX10_gathers_5 11 rfl rfl)
theorem dX10_gathers_130 : decode cX10_gathers 130 = .ok (.if_icmp .ge 37, 3) := dk_162 0 37 (dk_at dksX10_gathers_5 13 rfl rfl)
theorem dX10_gathers_133 : decode cX10_gathers 133 = .ok (.aload_n 0, 1) := dk_42 (dk_at dksX10_gathers_5 16 rfl rfl)
theorem dX10_gathers_134 : decode cX10_gathers 134 = .ok (.getfield 18, 3) := dk_180 0 18 (dk_at dksX10_gathers_5 17 rfl rfl)
theorem dX10_gathers_137 : decode cX10_gathers 137 = .ok (.iload 6, 2) := dk_21 6 (dk_at dksX10_gathers_5 20 rfl rfl)
theorem dX10_gathers_139 : decode cX10_gathers 139 = .ok (.baload, 1) := dk_51 (dk_at dksX10_gathers_5 22 rfl rfl)
theorem dX10_gathers_140 : decode cX10_gathers 140 = .ok (.ifCond .ne 6, 3) := dk_154 0 6 (dk_at dksX10_gathers_6 0 rfl rfl)
theorem dX10_gathers_143 : decode cX10_gathers 143 = .ok (.goto 18, 3) := dk_167 0 18 (dk_at dksX10_gathers_6 3 rfl rfl)
theorem dX10_gathers_146 : decode cX10_gathers 146 = .ok (.aload_n 3, 1) := dk_45 (dk_at dksX10_gathers_6 6 rfl rfl)
theorem dX10_gathers_147 : decode cX10_gathers 147 = .ok (.iload 4, 2) := dk_21 4 (dk_at dksX10_gathers_6 7 rfl rfl)
theorem dX10_gathers_149 : decode cX10_gathers 149 = .ok (.bipush 36, 2) := dk_16 36 (dk_at dksX10_gathers_6 9 rfl rfl)
theorem dX10_gathers_151 : decode cX10_gathers 151 = .ok (.iload 5, 2) := dk_21 5 (dk_at dksX10_gathers_6 11 rfl rfl)
theorem dX10_gathers_153 : decode cX10_gathers 153 = .ok (.imul, 1) := dk_104 (dk_at dksX10_gathers_6 13 rfl rfl)
theorem dX10_gathers_154 : decode cX10_gathers 154 = .ok (.iload 6, 2) := dk_21 6 (dk_at dksX10_gathers_6 14 rfl rfl)
theorem dX10_gathers_156 : decode cX10_gathers 156 = .ok (.iadd, 1) := dk_96 (dk_at dksX10_gathers_6 16 rfl rfl)
theorem dX10_gathers_157 : decode cX10_gathers 157 = .ok (.iastore, 1) := dk_79 (dk_at dksX10_gathers_6 17 rfl rfl)
theorem dX10_gathers_158 : decode cX10_gathers 158 = .ok (.iinc 4 1, 3) := dk_132 4 1 (dk_at dksX10_gathers_6 18 rfl rfl)
theorem dX10_gathers_161 : decode cX10_gathers 161 = .ok (.iinc 6 1, 3) := dk_132 6 1 (dk_at dksX10_gathers_6 21 rfl rfl)
theorem dX10_gathers_164 : decode cX10_gathers 164 = .ok (.goto (-38), 3) := dk_167 255 218 (dk_at dksX10_gathers_7 0 rfl rfl)
theorem dX10_gathers_167 : decode cX10_gathers 167 = .ok (.iinc 5 1, 3) := dk_132 5 1 (dk_at dksX10_gathers_7 3 rfl rfl)
theorem dX10_gathers_170 : decode cX10_gathers 170 = .ok (.goto (-164), 3) := dk_167 255 92 (dk_at dksX10_gathers_7 6 rfl rfl)
theorem dX10_gathers_173 : decode cX10_gathers 173 = .ok (.iload 4, 2) := dk_21 4 (dk_at dksX10_gathers_7 9 rfl rfl)
theorem dX10_gathers_175 : decode cX10_gathers 175 = .ok (.ireturn, 1) := dk_172 (dk_at dksX10_gathers_7 11 rfl rfl)
def dkwX10_leads_7 : List UInt8 := [21, 7, 172]
abbrev dktX10_leads_7 : List UInt8 := dkwX10_leads_7 ++ []
def dkwX10_leads_6 : List UInt8 := [18, 98, 184, 0, 106, 79, 21, 7, 45, 21, 8, 46, 184, 0, 106, 54, 7, 132, 8, 1, 167, 255, 101]
abbrev dktX10_leads_6 : List UInt8 := dkwX10_leads_6 ++ dktX10_leads_7
def dkwX10_leads_5 : List UInt8 := [21, 8, 4, 100, 46, 42, 180, 0, 45, 16, 7, 46, 96, 184, 0, 106, 54, 9, 45, 21, 8, 21, 9]
abbrev dktX10_leads_5 : List UInt8 := dkwX10_leads_5 ++ dktX10_leads_6
def dkwX10_leads_4 : List UInt8 := [42, 180, 0, 45, 16, 7, 46, 158, 0, 35, 43, 21, 8, 4, 100, 182, 0, 112, 153, 0, 24, 21, 9, 45]
abbrev dktX10_leads_4 : List UInt8 := dkwX10_leads_4 ++ dktX10_leads_5
def dkwX10_leads_3 : List UInt8 := [21, 8, 4, 100, 21, 4, 21, 5, 21, 6, 182, 0, 102, 96, 184, 0, 106, 54, 9, 21, 8, 158, 0, 45]
abbrev dktX10_leads_3 : List UInt8 := dkwX10_leads_3 ++ dktX10_leads_4
def dkwX10_leads_2 : List UInt8 := [158, 0, 43, 44, 21, 8, 4, 100, 46, 18, 98, 162, 0, 32, 21, 9, 44, 21, 8, 4, 100, 46, 42, 43]
abbrev dktX10_leads_2 : List UInt8 := dkwX10_leads_2 ++ dktX10_leads_3
def dkwX10_leads_1 : List UInt8 := [158, 0, 18, 44, 21, 8, 46, 42, 180, 0, 45, 16, 6, 46, 96, 167, 0, 5, 18, 98, 54, 9, 21, 8]
abbrev dktX10_leads_1 : List UInt8 := dkwX10_leads_1 ++ dktX10_leads_2
def dkwX10_leads_0 : List UInt8 := [18, 98, 54, 7, 3, 54, 8, 21, 8, 43, 180, 0, 99, 163, 0, 152, 42, 180, 0, 45, 16, 6, 46]
abbrev dktX10_leads_0 : List UInt8 := dkwX10_leads_0 ++ dktX10_leads_1
theorem dksX10_leads_0 : cX10_leads.data.toList.drop 0 = dktX10_leads_0 := by decide +kernel
theorem dksX10_leads_1 : cX10_leads.data.toList.drop 23 = dktX10_leads_1 := dk_seg dksX10_leads_0 23 rfl rfl
theorem dksX10_leads_2 : cX10_leads.data.toList.drop 47 = dktX10_leads_2 := dk_seg dksX10_leads_1 24 rfl rfl
theorem dksX10_leads_3 : cX10_leads.data.toList.drop 71 = dktX10_leads_3 := dk_seg dksX10_leads_2 24 rfl rfl
theorem dksX10_leads_4 : cX10_leads.data.toList.drop 95 = dktX10_leads_4 := dk_seg dksX10_leads_3 24 rfl rfl
theorem dksX10_leads_5 : cX10_leads.data.toList.drop 119 = dktX10_leads_5 := dk_seg dksX10_leads_4 24 rfl rfl
theorem dksX10_leads_6 : cX10_leads.data.toList.drop 142 = dktX10_leads_6 := dk_seg dksX10_leads_5 23 rfl rfl
theorem dksX10_leads_7 : cX10_leads.data.toList.drop 165 = dktX10_leads_7 := dk_seg dksX10_leads_6 23 rfl rfl
theorem dX10_leads_0 : decode cX10_leads 0 = .ok (.ldc 98, 2) := dk_18 98 (dk_at dksX10_leads_0 0 rfl rfl)
theorem dX10_leads_2 : decode cX10_leads 2 = .ok (.istore 7, 2) := dk_54 7 (dk_at dksX10_leads_0 2 rfl rfl)
theorem dX10_leads_4 : decode cX10_leads 4 = .ok (.iconst 0, 1) := dk_3 (dk_at dksX10_leads_0 4 rfl rfl)
theorem dX10_leads_5 : decode cX10_leads 5 = .ok (.istore 8, 2) := dk_54 8 (dk_at dksX10_leads_0 5 rfl rfl)
theorem dX10_leads_7 : decode cX10_leads 7 = .ok (.iload 8, 2) := dk_21 8 (dk_at dksX10_leads_0 7 rfl rfl)
theorem dX10_leads_9 : decode cX10_leads 9 = .ok (.aload_n 1, 1) := dk_43 (dk_at dksX10_leads_0 9 rfl rfl)
theorem dX10_leads_10 : decode cX10_leads 10 = .ok (.getfield 99, 3) := dk_180 0 99 (dk_at dksX10_leads_0 10 rfl rfl)
theorem dX10_leads_13 : decode cX10_leads 13 = .ok (.if_icmp .gt 152, 3) := dk_163 0 152 (dk_at dksX10_leads_0 13 rfl rfl)
theorem dX10_leads_16 : decode cX10_leads 16 = .ok (.aload_n 0, 1) := dk_42 (dk_at dksX10_leads_0 16 rfl rfl)
theorem dX10_leads_17 : decode cX10_leads 17 = .ok (.getfield 45, 3) := dk_180 0 45 (dk_at dksX10_leads_0 17 rfl rfl)
theorem dX10_leads_20 : decode cX10_leads 20 = .ok (.bipush 6, 2) := dk_16 6 (dk_at dksX10_leads_0 20 rfl rfl)
theorem dX10_leads_22 : decode cX10_leads 22 = .ok (.iaload, 1) := dk_46 (dk_at dksX10_leads_0 22 rfl rfl)
theorem dX10_leads_23 : decode cX10_leads 23 = .ok (.ifCond .le 18, 3) := dk_158 0 18 (dk_at dksX10_leads_1 0 rfl rfl)
theorem dX10_leads_26 : decode cX10_leads 26 = .ok (.aload_n 2, 1) := dk_44 (dk_at dksX10_leads_1 3 rfl rfl)
theorem dX10_leads_27 : decode cX10_leads 27 = .ok (.iload 8, 2) := dk_21 8 (dk_at dksX10_leads_1 4 rfl rfl)
theorem dX10_leads_29 : decode cX10_leads 29 = .ok (.iaload, 1) := dk_46 (dk_at dksX10_leads_1 6 rfl rfl)
theorem dX10_leads_30 : decode cX10_leads 30 = .ok (.aload_n 0, 1) := dk_42 (dk_at dksX10_leads_1 7 rfl rfl)
theorem dX10_leads_31 : decode cX10_leads 31 = .ok (.getfield 45, 3) := dk_180 0 45 (dk_at dksX10_leads_1 8 rfl rfl)
theorem dX10_leads_34 : decode cX10_leads 34 = .ok (.bipush 6, 2) := dk_16 6 (dk_at dksX10_leads_1 11 rfl rfl)
theorem dX10_leads_36 : decode cX10_leads 36 = .ok (.iaload, 1) := dk_46 (dk_at dksX10_leads_1 13 rfl rfl)
theorem dX10_leads_37 : decode cX10_leads 37 = .ok (.iadd, 1) := dk_96 (dk_at dksX10_leads_1 14 rfl rfl)
theorem dX10_leads_38 : decode cX10_leads 38 = .ok (.goto 5, 3) := dk_167 0 5 (dk_at dksX10_leads_1 15 rfl rfl)
theorem dX10_leads_41 : decode cX10_leads 41 = .ok (.ldc 98, 2) := dk_18 98 (dk_at dksX10_leads_1 18 rfl rfl)
theorem dX10_leads_43 : decode cX10_leads 43 = .ok (.istore 9, 2) := dk_54 9 (dk_at dksX10_leads_1 20 rfl rfl)
theorem dX10_leads_45 : decode cX10_leads 45 = .ok (.iload 8, 2) := dk_21 8 (dk_at dksX10_leads_1 22 rfl rfl)
theorem dX10_leads_47 : decode cX10_leads 47 = .ok (.ifCond .le 43, 3) := dk_158 0 43 (dk_at dksX10_leads_2 0 rfl rfl)
theorem dX10_leads_50 : decode cX10_leads 50 = .ok (.aload_n 2, 1) := dk_44 (dk_at dksX10_leads_2 3 rfl rfl)
theorem dX10_leads_51 : decode cX10_leads 51 = .ok (.iload 8, 2) := dk_21 8 (dk_at dksX10_leads_2 4 rfl rfl)
theorem dX10_leads_53 : decode cX10_leads 53 = .ok (.iconst 1, 1) := dk_4 (dk_at dksX10_leads_2 6 rfl rfl)
theorem dX10_leads_54 : decode cX10_leads 54 = .ok (.isub, 1) := dk_100 (dk_at dksX10_leads_2 7 rfl rfl)
theorem dX10_leads_55 : decode cX10_leads 55 = .ok (.iaload, 1) := dk_46 (dk_at dksX10_leads_2 8 rfl rfl)
theorem dX10_leads_56 : decode cX10_leads 56 = .ok (.ldc 98, 2) := dk_18 98 (dk_at dksX10_leads_2 9 rfl rfl)
theorem dX10_leads_58 : decode cX10_leads 58 = .ok (.if_icmp .ge 32, 3) := dk_162 0 32 (dk_at dksX10_leads_2 11 rfl rfl)
theorem dX10_leads_61 : decode cX10_leads 61 = .ok (.iload 9, 2) := dk_21 9 (dk_at dksX10_leads_2 14 rfl rfl)
theorem dX10_leads_63 : decode cX10_leads 63 = .ok (.aload_n 2, 1) := dk_44 (dk_at dksX10_leads_2 16 rfl rfl)
theorem dX10_leads_64 : decode cX10_leads 64 = .ok (.iload 8, 2) := dk_21 8 (dk_at dksX10_leads_2 17 rfl rfl)
theorem dX10_leads_66 : decode cX10_leads 66 = .ok (.iconst 1, 1) := dk_4 (dk_at dksX10_leads_2 19 rfl rfl)
theorem dX10_leads_67 : decode cX10_leads 67 = .ok (.isub, 1) := dk_100 (dk_at dksX10_leads_2 20 rfl rfl)
theorem dX10_leads_68 : decode cX10_leads 68 = .ok (.iaload, 1) := dk_46 (dk_at dksX10_leads_2 21 rfl rfl)
theorem dX10_leads_69 : decode cX10_leads 69 = .ok (.aload_n 0, 1) := dk_42 (dk_at dksX10_leads_2 22 rfl rfl)
theorem dX10_leads_70 : decode cX10_leads 70 = .ok (.aload_n 1, 1) := dk_43 (dk_at dksX10_leads_2 23 rfl rfl)
theorem dX10_leads_71 : decode cX10_leads 71 = .ok (.iload 8, 2) := dk_21 8 (dk_at dksX10_leads_3 0 rfl rfl)
theorem dX10_leads_73 : decode cX10_leads 73 = .ok (.iconst 1, 1) := dk_4 (dk_at dksX10_leads_3 2 rfl rfl)
theorem dX10_leads_74 : decode cX10_leads 74 = .ok (.isub, 1) := dk_100 (dk_at dksX10_leads_3 3 rfl rfl)
theorem dX10_leads_75 : decode cX10_leads 75 = .ok (.iload 4, 2) := dk_21 4 (dk_at dksX10_leads_3 4 rfl rfl)
theorem dX10_leads_77 : decode cX10_leads 77 = .ok (.iload 5, 2) := dk_21 5 (dk_at dksX10_leads_3 6 rfl rfl)
theorem dX10_leads_79 : decode cX10_leads 79 = .ok (.iload 6, 2) := dk_21 6 (dk_at dksX10_leads_3 8 rfl rfl)
theorem dX10_leads_81 : decode cX10_leads 81 = .ok (.invokevirtual 102, 3) := dk_182 0 102 (dk_at dksX10_leads_3 10 rfl rfl)
theorem dX10_leads_84 : decode cX10_leads 84 = .ok (.iadd, 1) := dk_96 (dk_at dksX10_leads_3 13 rfl rfl)
theorem dX10_leads_85 : decode cX10_leads 85 = .ok (.invokestatic 106, 3) := dk_184 0 106 (dk_at dksX10_leads_3 14 rfl rfl)
theorem dX10_leads_88 : decode cX10_leads 88 = .ok (.istore 9, 2) := dk_54 9 (dk_at dksX10_leads_3 17 rfl rfl)
theorem dX10_leads_90 : decode cX10_leads 90 = .ok (.iload 8, 2) := dk_21 8 (dk_at dksX10_leads_3 19 rfl rfl)
theorem dX10_leads_92 : decode cX10_leads 92 = .ok (.ifCond .le 45, 3) := dk_158 0 45 (dk_at dksX10_leads_3 21 rfl rfl)
theorem dX10_leads_95 : decode cX10_leads 95 = .ok (.aload_n 0, 1) := dk_42 (dk_at dksX10_leads_4 0 rfl rfl)
theorem dX10_leads_96 : decode cX10_leads 96 = .ok (.getfield 45, 3) := dk_180 0 45 (dk_at dksX10_leads_4 1 rfl rfl)
theorem dX10_leads_99 : decode cX10_leads 99 = .ok (.bipush 7, 2) := dk_16 7 (dk_at dksX10_leads_4 4 rfl rfl)
theorem dX10_leads_101 : decode cX10_leads 101 = .ok (.iaload, 1) := dk_46 (dk_at dksX10_leads_4 6 rfl rfl)
theorem dX10_leads_102 : decode cX10_leads 102 = .ok (.ifCond .le 35, 3) := dk_158 0 35 (dk_at dksX10_leads_4 7 rfl rfl)
theorem dX10_leads_105 : decode cX10_leads 105 = .ok (.aload_n 1, 1) := dk_43 (dk_at dksX10_leads_4 10 rfl rfl)
theorem dX10_leads_106 : decode cX10_leads 106 = .ok (.iload 8, 2) := dk_21 8 (dk_at dksX10_leads_4 11 rfl rfl)
theorem dX10_leads_108 : decode cX10_leads 108 = .ok (.iconst 1, 1) := dk_4 (dk_at dksX10_leads_4 13 rfl rfl)
theorem dX10_leads_109 : decode cX10_leads 109 = .ok (.isub, 1) := dk_100 (dk_at dksX10_leads_4 14 rfl rfl)
theorem dX10_leads_110 : decode cX10_leads 110 = .ok (.invokevirtual 112, 3) := dk_182 0 112 (dk_at dksX10_leads_4 15 rfl rfl)
theorem dX10_leads_113 : decode cX10_leads 113 = .ok (.ifCond .eq 24, 3) := dk_153 0 24 (dk_at dksX10_leads_4 18 rfl rfl)
theorem dX10_leads_116 : decode cX10_leads 116 = .ok (.iload 9, 2) := dk_21 9 (dk_at dksX10_leads_4 21 rfl rfl)
theorem dX10_leads_118 : decode cX10_leads 118 = .ok (.aload_n 3, 1) := dk_45 (dk_at dksX10_leads_4 23 rfl rfl)
theorem dX10_leads_119 : decode cX10_leads 119 = .ok (.iload 8, 2) := dk_21 8 (dk_at dksX10_leads_5 0 rfl rfl)
theorem dX10_leads_121 : decode cX10_leads 121 = .ok (.iconst 1, 1) := dk_4 (dk_at dksX10_leads_5 2 rfl rfl)
theorem dX10_leads_122 : decode cX10_leads 122 = .ok (.isub, 1) := dk_100 (dk_at dksX10_leads_5 3 rfl rfl)
theorem dX10_leads_123 : decode cX10_leads 123 = .ok (.iaload, 1) := dk_46 (dk_at dksX10_leads_5 4 rfl rfl)
theorem dX10_leads_124 : decode cX10_leads 124 = .ok (.aload_n 0, 1) := dk_42 (dk_at dksX10_leads_5 5 rfl rfl)
theorem dX10_leads_125 : decode cX10_leads 125 = .ok (.getfield 45, 3) := dk_180 0 45 (dk_at dksX10_leads_5 6 rfl rfl)
theorem dX10_leads_128 : decode cX10_leads 128 = .ok (.bipush 7, 2) := dk_16 7 (dk_at dksX10_leads_5 9 rfl rfl)
theorem dX10_leads_130 : decode cX10_leads 130 = .ok (.iaload, 1) := dk_46 (dk_at dksX10_leads_5 11 rfl rfl)
theorem dX10_leads_131 : decode cX10_leads 131 = .ok (.iadd, 1) := dk_96 (dk_at dksX10_leads_5 12 rfl rfl)
theorem dX10_leads_132 : decode cX10_leads 132 = .ok (.invokestatic 106, 3) := dk_184 0 106 (dk_at dksX10_leads_5 13 rfl rfl)
theorem dX10_leads_135 : decode cX10_leads 135 = .ok (.istore 9, 2) := dk_54 9 (dk_at dksX10_leads_5 16 rfl rfl)
theorem dX10_leads_137 : decode cX10_leads 137 = .ok (.aload_n 3, 1) := dk_45 (dk_at dksX10_leads_5 18 rfl rfl)
theorem dX10_leads_138 : decode cX10_leads 138 = .ok (.iload 8, 2) := dk_21 8 (dk_at dksX10_leads_5 19 rfl rfl)
theorem dX10_leads_140 : decode cX10_leads 140 = .ok (.iload 9, 2) := dk_21 9 (dk_at dksX10_leads_5 21 rfl rfl)
theorem dX10_leads_142 : decode cX10_leads 142 = .ok (.ldc 98, 2) := dk_18 98 (dk_at dksX10_leads_6 0 rfl rfl)
theorem dX10_leads_144 : decode cX10_leads 144 = .ok (.invokestatic 106, 3) := dk_184 0 106 (dk_at dksX10_leads_6 2 rfl rfl)
theorem dX10_leads_147 : decode cX10_leads 147 = .ok (.iastore, 1) := dk_79 (dk_at dksX10_leads_6 5 rfl rfl)
theorem dX10_leads_148 : decode cX10_leads 148 = .ok (.iload 7, 2) := dk_21 7 (dk_at dksX10_leads_6 6 rfl rfl)
theorem dX10_leads_150 : decode cX10_leads 150 = .ok (.aload_n 3, 1) := dk_45 (dk_at dksX10_leads_6 8 rfl rfl)
theorem dX10_leads_151 : decode cX10_leads 151 = .ok (.iload 8, 2) := dk_21 8 (dk_at dksX10_leads_6 9 rfl rfl)
theorem dX10_leads_153 : decode cX10_leads 153 = .ok (.iaload, 1) := dk_46 (dk_at dksX10_leads_6 11 rfl rfl)
theorem dX10_leads_154 : decode cX10_leads 154 = .ok (.invokestatic 106, 3) := dk_184 0 106 (dk_at dksX10_leads_6 12 rfl rfl)
theorem dX10_leads_157 : decode cX10_leads 157 = .ok (.istore 7, 2) := dk_54 7 (dk_at dksX10_leads_6 15 rfl rfl)
theorem dX10_leads_159 : decode cX10_leads 159 = .ok (.iinc 8 1, 3) := dk_132 8 1 (dk_at dksX10_leads_6 17 rfl rfl)
theorem dX10_leads_162 : decode cX10_leads 162 = .ok (.goto (-155), 3) := dk_167 255 101 (dk_at dksX10_leads_6 20 rfl rfl)
theorem dX10_leads_165 : decode cX10_leads 165 = .ok (.iload 7, 2) := dk_21 7 (dk_at dksX10_leads_7 0 rfl rfl)
theorem dX10_leads_167 : decode cX10_leads 167 = .ok (.ireturn, 1) := dk_172 (dk_at dksX10_leads_7 2 rfl rfl)
def dkwX10_cost_2 : List UInt8 := [21, 6, 46, 172]
abbrev dktX10_cost_2 : List UInt8 := dkwX10_cost_2 ++ []
def dkwX10_cost_1 : List UInt8 := [21, 6, 2, 160, 0, 8, 18, 98, 167, 0, 19, 21, 6, 154, 0, 7, 3, 167, 0, 10, 42, 180, 0, 45]
abbrev dktX10_cost_1 : List UInt8 := dkwX10_cost_1 ++ dktX10_cost_2
def dkwX10_cost_0 : List UInt8 := [43, 180, 0, 82, 28, 50, 43, 180, 0, 88, 29, 21, 4, 21, 5, 42, 180, 0, 45, 182, 0, 92, 54, 6]
abbrev dktX10_cost_0 : List UInt8 := dkwX10_cost_0 ++ dktX10_cost_1
theorem dksX10_cost_0 : cX10_cost.data.toList.drop 0 = dktX10_cost_0 := by decide +kernel
theorem dksX10_cost_1 : cX10_cost.data.toList.drop 24 = dktX10_cost_1 := dk_seg dksX10_cost_0 24 rfl rfl
theorem dksX10_cost_2 : cX10_cost.data.toList.drop 48 = dktX10_cost_2 := dk_seg dksX10_cost_1 24 rfl rfl
theorem dX10_cost_0 : decode cX10_cost 0 = .ok (.aload_n 1, 1) := dk_43 (dk_at dksX10_cost_0 0 rfl rfl)
theorem dX10_cost_1 : decode cX10_cost 1 = .ok (.getfield 82, 3) := dk_180 0 82 (dk_at dksX10_cost_0 1 rfl rfl)
theorem dX10_cost_4 : decode cX10_cost 4 = .ok (.iload_n 2, 1) := dk_28 (dk_at dksX10_cost_0 4 rfl rfl)
theorem dX10_cost_5 : decode cX10_cost 5 = .ok (.aaload, 1) := dk_50 (dk_at dksX10_cost_0 5 rfl rfl)
theorem dX10_cost_6 : decode cX10_cost 6 = .ok (.aload_n 1, 1) := dk_43 (dk_at dksX10_cost_0 6 rfl rfl)
theorem dX10_cost_7 : decode cX10_cost 7 = .ok (.getfield 88, 3) := dk_180 0 88 (dk_at dksX10_cost_0 7 rfl rfl)
theorem dX10_cost_10 : decode cX10_cost 10 = .ok (.iload_n 3, 1) := dk_29 (dk_at dksX10_cost_0 10 rfl rfl)
theorem dX10_cost_11 : decode cX10_cost 11 = .ok (.iload 4, 2) := dk_21 4 (dk_at dksX10_cost_0 11 rfl rfl)
theorem dX10_cost_13 : decode cX10_cost 13 = .ok (.iload 5, 2) := dk_21 5 (dk_at dksX10_cost_0 13 rfl rfl)
theorem dX10_cost_15 : decode cX10_cost 15 = .ok (.aload_n 0, 1) := dk_42 (dk_at dksX10_cost_0 15 rfl rfl)
theorem dX10_cost_16 : decode cX10_cost 16 = .ok (.getfield 45, 3) := dk_180 0 45 (dk_at dksX10_cost_0 16 rfl rfl)
theorem dX10_cost_19 : decode cX10_cost 19 = .ok (.invokevirtual 92, 3) := dk_182 0 92 (dk_at dksX10_cost_0 19 rfl rfl)
theorem dX10_cost_22 : decode cX10_cost 22 = .ok (.istore 6, 2) := dk_54 6 (dk_at dksX10_cost_0 22 rfl rfl)
theorem dX10_cost_24 : decode cX10_cost 24 = .ok (.iload 6, 2) := dk_21 6 (dk_at dksX10_cost_1 0 rfl rfl)
theorem dX10_cost_26 : decode cX10_cost 26 = .ok (.iconst (-1), 1) := dk_2 (dk_at dksX10_cost_1 2 rfl rfl)
theorem dX10_cost_27 : decode cX10_cost 27 = .ok (.if_icmp .ne 8, 3) := dk_160 0 8 (dk_at dksX10_cost_1 3 rfl rfl)
theorem dX10_cost_30 : decode cX10_cost 30 = .ok (.ldc 98, 2) := dk_18 98 (dk_at dksX10_cost_1 6 rfl rfl)
theorem dX10_cost_32 : decode cX10_cost 32 = .ok (.goto 19, 3) := dk_167 0 19 (dk_at dksX10_cost_1 8 rfl rfl)
theorem dX10_cost_35 : decode cX10_cost 35 = .ok (.iload 6, 2) := dk_21 6 (dk_at dksX10_cost_1 11 rfl rfl)
theorem dX10_cost_37 : decode cX10_cost 37 = .ok (.ifCond .ne 7, 3) := dk_154 0 7 (dk_at dksX10_cost_1 13 rfl rfl)
theorem dX10_cost_40 : decode cX10_cost 40 = .ok (.iconst 0, 1) := dk_3 (dk_at dksX10_cost_1 16 rfl rfl)
theorem dX10_cost_41 : decode cX10_cost 41 = .ok (.goto 10, 3) := dk_167 0 10 (dk_at dksX10_cost_1 17 rfl rfl)
theorem dX10_cost_44 : decode cX10_cost 44 = .ok (.aload_n 0, 1) := dk_42 (dk_at dksX10_cost_1 20 rfl rfl)
theorem dX10_cost_45 : decode cX10_cost 45 = .ok (.getfield 45, 3) := dk_180 0 45 (dk_at dksX10_cost_1 21 rfl rfl)
theorem dX10_cost_48 : decode cX10_cost 48 = .ok (.iload 6, 2) := dk_21 6 (dk_at dksX10_cost_2 0 rfl rfl)
theorem dX10_cost_50 : decode cX10_cost 50 = .ok (.iaload, 1) := dk_46 (dk_at dksX10_cost_2 2 rfl rfl)
theorem dX10_cost_51 : decode cX10_cost 51 = .ok (.ireturn, 1) := dk_172 (dk_at dksX10_cost_2 3 rfl rfl)
def dkwX10_lets_1 : List UInt8 := [167, 0, 7, 42, 180, 0, 162, 172]
abbrev dktX10_lets_1 : List UInt8 := dkwX10_lets_1 ++ []
def dkwX10_lets_0 : List UInt8 := [42, 4, 27, 120, 4, 182, 0, 242, 42, 3, 182, 0, 246, 42, 180, 0, 156, 153, 0, 8, 16, 254]
abbrev dktX10_lets_0 : List UInt8 := dkwX10_lets_0 ++ dktX10_lets_1
theorem dksX10_lets_0 : cX10_lets.data.toList.drop 0 = dktX10_lets_0 := by decide +kernel
theorem dksX10_lets_1 : cX10_lets.data.toList.drop 22 = dktX10_lets_1 := dk_seg dksX10_lets_0 22 rfl rfl
theorem dX10_lets_0 : decode cX10_lets 0 = .ok (.aload_n 0, 1) := dk_42 (dk_at dksX10_lets_0 0 rfl rfl)
theorem dX10_lets_1 : decode cX10_lets 1 = .ok (.iconst 1, 1) := dk_4 (dk_at dksX10_lets_0 1 rfl rfl)
theorem dX10_lets_2 : decode cX10_lets 2 = .ok (.iload_n 1, 1) := dk_27 (dk_at dksX10_lets_0 2 rfl rfl)
theorem dX10_lets_3 : decode cX10_lets 3 = .ok (.ishl, 1) := dk_120 (dk_at dksX10_lets_0 3 rfl rfl)
theorem dX10_lets_4 : decode cX10_lets 4 = .ok (.iconst 1, 1) := dk_4 (dk_at dksX10_lets_0 4 rfl rfl)
theorem dX10_lets_5 : decode cX10_lets 5 = .ok (.invokevirtual 242, 3) := dk_182 0 242 (dk_at dksX10_lets_0 5 rfl rfl)
theorem dX10_lets_8 : decode cX10_lets 8 = .ok (.aload_n 0, 1) := dk_42 (dk_at dksX10_lets_0 8 rfl rfl)
theorem dX10_lets_9 : decode cX10_lets 9 = .ok (.iconst 0, 1) := dk_3 (dk_at dksX10_lets_0 9 rfl rfl)
theorem dX10_lets_10 : decode cX10_lets 10 = .ok (.invokevirtual 246, 3) := dk_182 0 246 (dk_at dksX10_lets_0 10 rfl rfl)
theorem dX10_lets_13 : decode cX10_lets 13 = .ok (.aload_n 0, 1) := dk_42 (dk_at dksX10_lets_0 13 rfl rfl)
theorem dX10_lets_14 : decode cX10_lets 14 = .ok (.getfield 156, 3) := dk_180 0 156 (dk_at dksX10_lets_0 14 rfl rfl)
theorem dX10_lets_17 : decode cX10_lets 17 = .ok (.ifCond .eq 8, 3) := dk_153 0 8 (dk_at dksX10_lets_0 17 rfl rfl)
theorem dX10_lets_20 : decode cX10_lets 20 = .ok (.bipush (-2), 2) := dk_16 254 (dk_at dksX10_lets_0 20 rfl rfl)
theorem dX10_lets_22 : decode cX10_lets 22 = .ok (.goto 7, 3) := dk_167 0 7 (dk_at dksX10_lets_1 0 rfl rfl)
theorem dX10_lets_25 : decode cX10_lets 25 = .ok (.aload_n 0, 1) := dk_42 (dk_at dksX10_lets_1 3 rfl rfl)
theorem dX10_lets_26 : decode cX10_lets 26 = .ok (.getfield 162, 3) := dk_180 0 162 (dk_at dksX10_lets_1 4 rfl rfl)
theorem dX10_lets_29 : decode cX10_lets 29 = .ok (.ireturn, 1) := dk_172 (dk_at dksX10_lets_1 7 rfl rfl)
def dkwX10_weigh_4 : List UInt8 := [4, 167, 0, 4, 3, 172]
abbrev dktX10_weigh_4 : List UInt8 := dkwX10_weigh_4 ++ []
def dkwX10_weigh_3 : List UInt8 := [42, 21, 5, 182, 0, 246, 132, 5, 1, 167, 255, 206, 42, 3, 181, 0, 193, 42, 180, 0, 156, 154, 0, 7]
abbrev dktX10_weigh_3 : List UInt8 := dkwX10_weigh_3 ++ dktX10_weigh_4
def dkwX10_weigh_2 : List UInt8 := [21, 5, 28, 162, 0, 7, 9, 167, 0, 14, 10, 5, 28, 21, 4, 96, 21, 5, 100, 104, 121, 181, 0, 200]
abbrev dktX10_weigh_2 : List UInt8 := dkwX10_weigh_2 ++ dktX10_weigh_3
def dkwX10_weigh_1 : List UInt8 := [181, 0, 196, 3, 54, 5, 21, 5, 28, 21, 4, 96, 163, 0, 47, 42, 180, 0, 156, 154, 0, 40, 42]
abbrev dktX10_weigh_1 : List UInt8 := dkwX10_weigh_1 ++ dktX10_weigh_2
def dkwX10_weigh_0 : List UInt8 := [42, 27, 3, 182, 0, 242, 42, 4, 181, 0, 193, 42, 29, 181, 0, 206, 42, 9, 181, 0, 203, 42, 9]
abbrev dktX10_weigh_0 : List UInt8 := dkwX10_weigh_0 ++ dktX10_weigh_1
theorem dksX10_weigh_0 : cX10_weigh.data.toList.drop 0 = dktX10_weigh_0 := by decide +kernel
theorem dksX10_weigh_1 : cX10_weigh.data.toList.drop 23 = dktX10_weigh_1 := dk_seg dksX10_weigh_0 23 rfl rfl
theorem dksX10_weigh_2 : cX10_weigh.data.toList.drop 46 = dktX10_weigh_2 := dk_seg dksX10_weigh_1 23 rfl rfl
theorem dksX10_weigh_3 : cX10_weigh.data.toList.drop 70 = dktX10_weigh_3 := dk_seg dksX10_weigh_2 24 rfl rfl
theorem dksX10_weigh_4 : cX10_weigh.data.toList.drop 94 = dktX10_weigh_4 := dk_seg dksX10_weigh_3 24 rfl rfl
theorem dX10_weigh_0 : decode cX10_weigh 0 = .ok (.aload_n 0, 1) := dk_42 (dk_at dksX10_weigh_0 0 rfl rfl)
theorem dX10_weigh_1 : decode cX10_weigh 1 = .ok (.iload_n 1, 1) := dk_27 (dk_at dksX10_weigh_0 1 rfl rfl)
theorem dX10_weigh_2 : decode cX10_weigh 2 = .ok (.iconst 0, 1) := dk_3 (dk_at dksX10_weigh_0 2 rfl rfl)
theorem dX10_weigh_3 : decode cX10_weigh 3 = .ok (.invokevirtual 242, 3) := dk_182 0 242 (dk_at dksX10_weigh_0 3 rfl rfl)
theorem dX10_weigh_6 : decode cX10_weigh 6 = .ok (.aload_n 0, 1) := dk_42 (dk_at dksX10_weigh_0 6 rfl rfl)
theorem dX10_weigh_7 : decode cX10_weigh 7 = .ok (.iconst 1, 1) := dk_4 (dk_at dksX10_weigh_0 7 rfl rfl)
theorem dX10_weigh_8 : decode cX10_weigh 8 = .ok (.putfield 193, 3) := dk_181 0 193 (dk_at dksX10_weigh_0 8 rfl rfl)
theorem dX10_weigh_11 : decode cX10_weigh 11 = .ok (.aload_n 0, 1) := dk_42 (dk_at dksX10_weigh_0 11 rfl rfl)
theorem dX10_weigh_12 : decode cX10_weigh 12 = .ok (.iload_n 3, 1) := dk_29 (dk_at dksX10_weigh_0 12 rfl rfl)
theorem dX10_weigh_13 : decode cX10_weigh 13 = .ok (.putfield 206, 3) := dk_181 0 206 (dk_at dksX10_weigh_0 13 rfl rfl)
theorem dX10_weigh_16 : decode cX10_weigh 16 = .ok (.aload_n 0, 1) := dk_42 (dk_at dksX10_weigh_0 16 rfl rfl)
theorem dX10_weigh_17 : decode cX10_weigh 17 = .ok (.lconst 0, 1) := dk_9 (dk_at dksX10_weigh_0 17 rfl rfl)
theorem dX10_weigh_18 : decode cX10_weigh 18 = .ok (.putfield 203, 3) := dk_181 0 203 (dk_at dksX10_weigh_0 18 rfl rfl)
theorem dX10_weigh_21 : decode cX10_weigh 21 = .ok (.aload_n 0, 1) := dk_42 (dk_at dksX10_weigh_0 21 rfl rfl)
theorem dX10_weigh_22 : decode cX10_weigh 22 = .ok (.lconst 0, 1) := dk_9 (dk_at dksX10_weigh_0 22 rfl rfl)
theorem dX10_weigh_23 : decode cX10_weigh 23 = .ok (.putfield 196, 3) := dk_181 0 196 (dk_at dksX10_weigh_1 0 rfl rfl)
theorem dX10_weigh_26 : decode cX10_weigh 26 = .ok (.iconst 0, 1) := dk_3 (dk_at dksX10_weigh_1 3 rfl rfl)
theorem dX10_weigh_27 : decode cX10_weigh 27 = .ok (.istore 5, 2) := dk_54 5 (dk_at dksX10_weigh_1 4 rfl rfl)
theorem dX10_weigh_29 : decode cX10_weigh 29 = .ok (.iload 5, 2) := dk_21 5 (dk_at dksX10_weigh_1 6 rfl rfl)
theorem dX10_weigh_31 : decode cX10_weigh 31 = .ok (.iload_n 2, 1) := dk_28 (dk_at dksX10_weigh_1 8 rfl rfl)
theorem dX10_weigh_32 : decode cX10_weigh 32 = .ok (.iload 4, 2) := dk_21 4 (dk_at dksX10_weigh_1 9 rfl rfl)
theorem dX10_weigh_34 : decode cX10_weigh 34 = .ok (.iadd, 1) := dk_96 (dk_at dksX10_weigh_1 11 rfl rfl)
theorem dX10_weigh_35 : decode cX10_weigh 35 = .ok (.if_icmp .gt 47, 3) := dk_163 0 47 (dk_at dksX10_weigh_1 12 rfl rfl)
theorem dX10_weigh_38 : decode cX10_weigh 38 = .ok (.aload_n 0, 1) := dk_42 (dk_at dksX10_weigh_1 15 rfl rfl)
theorem dX10_weigh_39 : decode cX10_weigh 39 = .ok (.getfield 156, 3) := dk_180 0 156 (dk_at dksX10_weigh_1 16 rfl rfl)
theorem dX10_weigh_42 : decode cX10_weigh 42 = .ok (.ifCond .ne 40, 3) := dk_154 0 40 (dk_at dksX10_weigh_1 19 rfl rfl)
theorem dX10_weigh_45 : decode cX10_weigh 45 = .ok (.aload_n 0, 1) := dk_42 (dk_at dksX10_weigh_1 22 rfl rfl)
theorem dX10_weigh_46 : decode cX10_weigh 46 = .ok (.iload 5, 2) := dk_21 5 (dk_at dksX10_weigh_2 0 rfl rfl)
theorem dX10_weigh_48 : decode cX10_weigh 48 = .ok (.iload_n 2, 1) := dk_28 (dk_at dksX10_weigh_2 2 rfl rfl)
theorem dX10_weigh_49 : decode cX10_weigh 49 = .ok (.if_icmp .ge 7, 3) := dk_162 0 7 (dk_at dksX10_weigh_2 3 rfl rfl)
theorem dX10_weigh_52 : decode cX10_weigh 52 = .ok (.lconst 0, 1) := dk_9 (dk_at dksX10_weigh_2 6 rfl rfl)
theorem dX10_weigh_53 : decode cX10_weigh 53 = .ok (.goto 14, 3) := dk_167 0 14 (dk_at dksX10_weigh_2 7 rfl rfl)
theorem dX10_weigh_56 : decode cX10_weigh 56 = .ok (.lconst 1, 1) := dk_10 (dk_at dksX10_weigh_2 10 rfl rfl)
theorem dX10_weigh_57 : decode cX10_weigh 57 = .ok (.iconst 2, 1) := dk_5 (dk_at dksX10_weigh_2 11 rfl rfl)
theorem dX10_weigh_58 : decode cX10_weigh 58 = .ok (.iload_n 2, 1) := dk_28 (dk_at dksX10_weigh_2 12 rfl rfl)
theorem dX10_weigh_59 : decode cX10_weigh 59 = .ok (.iload 4, 2) := dk_21 4 (dk_at dksX10_weigh_2 13 rfl rfl)
theorem dX10_weigh_61 : decode cX10_weigh 61 = .ok (.iadd, 1) := dk_96 (dk_at dksX10_weigh_2 15 rfl rfl)
theorem dX10_weigh_62 : decode cX10_weigh 62 = .ok (.iload 5, 2) := dk_21 5 (dk_at dksX10_weigh_2 16 rfl rfl)
theorem dX10_weigh_64 : decode cX10_weigh 64 = .ok (.isub, 1) := dk_100 (dk_at dksX10_weigh_2 18 rfl rfl)
theorem dX10_weigh_65 : decode cX10_weigh 65 = .ok (.imul, 1) := dk_104 (dk_at dksX10_weigh_2 19 rfl rfl)
theorem dX10_weigh_66 : decode cX10_weigh 66 = .ok (.lshl, 1) := dk_121 (dk_at dksX10_weigh_2 20 rfl rfl)
theorem dX10_weigh_67 : decode cX10_weigh 67 = .ok (.putfield 200, 3) := dk_181 0 200 (dk_at dksX10_weigh_2 21 rfl rfl)
theorem dX10_weigh_70 : decode cX10_weigh 70 = .ok (.aload_n 0, 1) := dk_42 (dk_at dksX10_weigh_3 0 rfl rfl)
theorem dX10_weigh_71 : decode cX10_weigh 71 = .ok (.iload 5, 2) := dk_21 5 (dk_at dksX10_weigh_3 1 rfl rfl)
theorem dX10_weigh_73 : decode cX10_weigh 73 = .ok (.invokevirtual 246, 3) := dk_182 0 246 (dk_at dksX10_weigh_3 3 rfl rfl)
theorem dX10_weigh_76 : decode cX10_weigh 76 = .ok (.iinc 5 1, 3) := dk_132 5 1 (dk_at dksX10_weigh_3 6 rfl rfl)
theorem dX10_weigh_79 : decode cX10_weigh 79 = .ok (.goto (-50), 3) := dk_167 255 206 (dk_at dksX10_weigh_3 9 rfl rfl)
theorem dX10_weigh_82 : decode cX10_weigh 82 = .ok (.aload_n 0, 1) := dk_42 (dk_at dksX10_weigh_3 12 rfl rfl)
theorem dX10_weigh_83 : decode cX10_weigh 83 = .ok (.iconst 0, 1) := dk_3 (dk_at dksX10_weigh_3 13 rfl rfl)
theorem dX10_weigh_84 : decode cX10_weigh 84 = .ok (.putfield 193, 3) := dk_181 0 193 (dk_at dksX10_weigh_3 14 rfl rfl)
theorem dX10_weigh_87 : decode cX10_weigh 87 = .ok (.aload_n 0, 1) := dk_42 (dk_at dksX10_weigh_3 17 rfl rfl)
theorem dX10_weigh_88 : decode cX10_weigh 88 = .ok (.getfield 156, 3) := dk_180 0 156 (dk_at dksX10_weigh_3 18 rfl rfl)
theorem dX10_weigh_91 : decode cX10_weigh 91 = .ok (.ifCond .ne 7, 3) := dk_154 0 7 (dk_at dksX10_weigh_3 21 rfl rfl)
theorem dX10_weigh_94 : decode cX10_weigh 94 = .ok (.iconst 1, 1) := dk_4 (dk_at dksX10_weigh_4 0 rfl rfl)
theorem dX10_weigh_95 : decode cX10_weigh 95 = .ok (.goto 4, 3) := dk_167 0 4 (dk_at dksX10_weigh_4 1 rfl rfl)
theorem dX10_weigh_98 : decode cX10_weigh 98 = .ok (.iconst 0, 1) := dk_3 (dk_at dksX10_weigh_4 4 rfl rfl)
theorem dX10_weigh_99 : decode cX10_weigh 99 = .ok (.ireturn, 1) := dk_172 (dk_at dksX10_weigh_4 5 rfl rfl)
def dkwX2_init_3 : List UInt8 := [187, 0, 48, 89, 183, 0, 50, 181, 0, 51, 42, 187, 0, 55, 89, 183, 0, 57, 181, 0, 58, 177]
abbrev dktX2_init_3 : List UInt8 := dkwX2_init_3 ++ []
def dkwX2_init_2 : List UInt8 := [181, 0, 31, 42, 16, 10, 189, 0, 35, 181, 0, 37, 42, 187, 0, 41, 89, 183, 0, 43, 181, 0, 44, 42]
abbrev dktX2_init_2 : List UInt8 := dkwX2_init_2 ++ dktX2_init_3
def dkwX2_init_1 : List UInt8 := [4, 18, 19, 83, 89, 5, 18, 21, 83, 89, 6, 18, 23, 83, 181, 0, 25, 42, 16, 6, 189, 0, 29]
abbrev dktX2_init_1 : List UInt8 := dkwX2_init_1 ++ dktX2_init_2
def dkwX2_init_0 : List UInt8 := [42, 183, 0, 3, 42, 17, 1, 144, 188, 8, 181, 0, 9, 42, 7, 189, 0, 15, 89, 3, 18, 17, 83, 89]
abbrev dktX2_init_0 : List UInt8 := dkwX2_init_0 ++ dktX2_init_1
theorem dksX2_init_0 : cX2_init.data.toList.drop 0 = dktX2_init_0 := by decide +kernel
theorem dksX2_init_1 : cX2_init.data.toList.drop 24 = dktX2_init_1 := dk_seg dksX2_init_0 24 rfl rfl
theorem dksX2_init_2 : cX2_init.data.toList.drop 47 = dktX2_init_2 := dk_seg dksX2_init_1 23 rfl rfl
theorem dksX2_init_3 : cX2_init.data.toList.drop 71 = dktX2_init_3 := dk_seg dksX2_init_2 24 rfl rfl
theorem dX2_init_0 : decode cX2_init 0 = .ok (.aload_n 0, 1) := dk_42 (dk_at dksX2_init_0 0 rfl rfl)
theorem dX2_init_1 : decode cX2_init 1 = .ok (.invokespecial 3, 3) := dk_183 0 3 (dk_at dksX2_init_0 1 rfl rfl)
theorem dX2_init_4 : decode cX2_init 4 = .ok (.aload_n 0, 1) := dk_42 (dk_at dksX2_init_0 4 rfl rfl)
theorem dX2_init_5 : decode cX2_init 5 = .ok (.sipush 400, 3) := dk_17 1 144 (dk_at dksX2_init_0 5 rfl rfl)
theorem dX2_init_8 : decode cX2_init 8 = .ok (.newarray .byte, 2) := dk_188_8 (dk_at dksX2_init_0 8 rfl rfl)
theorem dX2_init_10 : decode cX2_init 10 = .ok (.putfield 9, 3) := dk_181 0 9 (dk_at dksX2_init_0 10 rfl rfl)
theorem dX2_init_13 : decode cX2_init 13 = .ok (.aload_n 0, 1) := dk_42 (dk_at dksX2_init_0 13 rfl rfl)
theorem dX2_init_14 : decode cX2_init 14 = .ok (.iconst 4, 1) := dk_7 (dk_at dksX2_init_0 14 rfl rfl)
theorem dX2_init_15 : decode cX2_init 15 = .ok (.anewarray 15, 3) := dk_189 0 15 (dk_at dksX2_init_0 15 rfl rfl)
theorem dX2_init_18 : decode cX2_init 18 = .ok (.dup, 1) := dk_89 (dk_at dksX2_init_0 18 rfl rfl)
theorem dX2_init_19 : decode cX2_init 19 = .ok (.iconst 0, 1) := dk_3 (dk_at dksX2_init_0 19 rfl rfl)
theorem dX2_init_20 : decode cX2_init 20 = .ok (.ldc 17, 2) := dk_18 17 (dk_at dksX2_init_0 20 rfl rfl)
theorem dX2_init_22 : decode cX2_init 22 = .ok (.aastore, 1) := dk_83 (dk_at dksX2_init_0 22 rfl rfl)
theorem dX2_init_23 : decode cX2_init 23 = .ok (.dup, 1) := dk_89 (dk_at dksX2_init_0 23 rfl rfl)
theorem dX2_init_24 : decode cX2_init 24 = .ok (.iconst 1, 1) := dk_4 (dk_at dksX2_init_1 0 rfl rfl)
theorem dX2_init_25 : decode cX2_init 25 = .ok (.ldc 19, 2) := dk_18 19 (dk_at dksX2_init_1 1 rfl rfl)
theorem dX2_init_27 : decode cX2_init 27 = .ok (.aastore, 1) := dk_83 (dk_at dksX2_init_1 3 rfl rfl)
theorem dX2_init_28 : decode cX2_init 28 = .ok (.dup, 1) := dk_89 (dk_at dksX2_init_1 4 rfl rfl)
theorem dX2_init_29 : decode cX2_init 29 = .ok (.iconst 2, 1) := dk_5 (dk_at dksX2_init_1 5 rfl rfl)
theorem dX2_init_30 : decode cX2_init 30 = .ok (.ldc 21, 2) := dk_18 21 (dk_at dksX2_init_1 6 rfl rfl)
theorem dX2_init_32 : decode cX2_init 32 = .ok (.aastore, 1) := dk_83 (dk_at dksX2_init_1 8 rfl rfl)
theorem dX2_init_33 : decode cX2_init 33 = .ok (.dup, 1) := dk_89 (dk_at dksX2_init_1 9 rfl rfl)
theorem dX2_init_34 : decode cX2_init 34 = .ok (.iconst 3, 1) := dk_6 (dk_at dksX2_init_1 10 rfl rfl)
theorem dX2_init_35 : decode cX2_init 35 = .ok (.ldc 23, 2) := dk_18 23 (dk_at dksX2_init_1 11 rfl rfl)
theorem dX2_init_37 : decode cX2_init 37 = .ok (.aastore, 1) := dk_83 (dk_at dksX2_init_1 13 rfl rfl)
theorem dX2_init_38 : decode cX2_init 38 = .ok (.putfield 25, 3) := dk_181 0 25 (dk_at dksX2_init_1 14 rfl rfl)
theorem dX2_init_41 : decode cX2_init 41 = .ok (.aload_n 0, 1) := dk_42 (dk_at dksX2_init_1 17 rfl rfl)
theorem dX2_init_42 : decode cX2_init 42 = .ok (.bipush 6, 2) := dk_16 6 (dk_at dksX2_init_1 18 rfl rfl)
theorem dX2_init_44 : decode cX2_init 44 = .ok (.anewarray 29, 3) := dk_189 0 29 (dk_at dksX2_init_1 20 rfl rfl)
theorem dX2_init_47 : decode cX2_init 47 = .ok (.putfield 31, 3) := dk_181 0 31 (dk_at dksX2_init_2 0 rfl rfl)
theorem dX2_init_50 : decode cX2_init 50 = .ok (.aload_n 0, 1) := dk_42 (dk_at dksX2_init_2 3 rfl rfl)
theorem dX2_init_51 : decode cX2_init 51 = .ok (.bipush 10, 2) := dk_16 10 (dk_at dksX2_init_2 4 rfl rfl)
theorem dX2_init_53 : decode cX2_init 53 = .ok (.anewarray 35, 3) := dk_189 0 35 (dk_at dksX2_init_2 6 rfl rfl)
theorem dX2_init_56 : decode cX2_init 56 = .ok (.putfield 37, 3) := dk_181 0 37 (dk_at dksX2_init_2 9 rfl rfl)
theorem dX2_init_59 : decode cX2_init 59 = .ok (.aload_n 0, 1) := dk_42 (dk_at dksX2_init_2 12 rfl rfl)
theorem dX2_init_60 : decode cX2_init 60 = .ok (.new 41, 3) := dk_187 0 41 (dk_at dksX2_init_2 13 rfl rfl)
theorem dX2_init_63 : decode cX2_init 63 = .ok (.dup, 1) := dk_89 (dk_at dksX2_init_2 16 rfl rfl)
theorem dX2_init_64 : decode cX2_init 64 = .ok (.invokespecial 43, 3) := dk_183 0 43 (dk_at dksX2_init_2 17 rfl rfl)
theorem dX2_init_67 : decode cX2_init 67 = .ok (.putfield 44, 3) := dk_181 0 44 (dk_at dksX2_init_2 20 rfl rfl)
theorem dX2_init_70 : decode cX2_init 70 = .ok (.aload_n 0, 1) := dk_42 (dk_at dksX2_init_2 23 rfl rfl)
theorem dX2_init_71 : decode cX2_init 71 = .ok (.new 48, 3) := dk_187 0 48 (dk_at dksX2_init_3 0 rfl rfl)
theorem dX2_init_74 : decode cX2_init 74 = .ok (.dup, 1) := dk_89 (dk_at dksX2_init_3 3 rfl rfl)
theorem dX2_init_75 : decode cX2_init 75 = .ok (.invokespecial 50, 3) := dk_183 0 50 (dk_at dksX2_init_3 4 rfl rfl)
theorem dX2_init_78 : decode cX2_init 78 = .ok (.putfield 51, 3) := dk_181 0 51 (dk_at dksX2_init_3 7 rfl rfl)
theorem dX2_init_81 : decode cX2_init 81 = .ok (.aload_n 0, 1) := dk_42 (dk_at dksX2_init_3 10 rfl rfl)
theorem dX2_init_82 : decode cX2_init 82 = .ok (.new 55, 3) := dk_187 0 55 (dk_at dksX2_init_3 11 rfl rfl)
theorem dX2_init_85 : decode cX2_init 85 = .ok (.dup, 1) := dk_89 (dk_at dksX2_init_3 14 rfl rfl)
theorem dX2_init_86 : decode cX2_init 86 = .ok (.invokespecial 57, 3) := dk_183 0 57 (dk_at dksX2_init_3 15 rfl rfl)
theorem dX2_init_89 : decode cX2_init 89 = .ok (.putfield 58, 3) := dk_181 0 58 (dk_at dksX2_init_3 18 rfl rfl)
theorem dX2_init_92 : decode cX2_init 92 = .ok (.return_, 1) := dk_177 (dk_at dksX2_init_3 21 rfl rfl)
def dkwX2_kind_0 : List UInt8 := [187, 0, 98, 89, 28, 42, 180, 0, 31, 42, 27, 4, 182, 0, 100, 183, 0, 104, 176]
abbrev dktX2_kind_0 : List UInt8 := dkwX2_kind_0 ++ []
theorem dksX2_kind_0 : cX2_kind.data.toList.drop 0 = dktX2_kind_0 := by decide +kernel
theorem dX2_kind_0 : decode cX2_kind 0 = .ok (.new 98, 3) := dk_187 0 98 (dk_at dksX2_kind_0 0 rfl rfl)
theorem dX2_kind_3 : decode cX2_kind 3 = .ok (.dup, 1) := dk_89 (dk_at dksX2_kind_0 3 rfl rfl)
theorem dX2_kind_4 : decode cX2_kind 4 = .ok (.iload_n 2, 1) := dk_28 (dk_at dksX2_kind_0 4 rfl rfl)
theorem dX2_kind_5 : decode cX2_kind 5 = .ok (.aload_n 0, 1) := dk_42 (dk_at dksX2_kind_0 5 rfl rfl)
theorem dX2_kind_6 : decode cX2_kind 6 = .ok (.getfield 31, 3) := dk_180 0 31 (dk_at dksX2_kind_0 6 rfl rfl)
theorem dX2_kind_9 : decode cX2_kind 9 = .ok (.aload_n 0, 1) := dk_42 (dk_at dksX2_kind_0 9 rfl rfl)
theorem dX2_kind_10 : decode cX2_kind 10 = .ok (.iload_n 1, 1) := dk_27 (dk_at dksX2_kind_0 10 rfl rfl)
theorem dX2_kind_11 : decode cX2_kind 11 = .ok (.iconst 1, 1) := dk_4 (dk_at dksX2_kind_0 11 rfl rfl)
theorem dX2_kind_12 : decode cX2_kind 12 = .ok (.invokevirtual 100, 3) := dk_182 0 100 (dk_at dksX2_kind_0 12 rfl rfl)
theorem dX2_kind_15 : decode cX2_kind 15 = .ok (.invokespecial 104, 3) := dk_183 0 104 (dk_at dksX2_kind_0 15 rfl rfl)
theorem dX2_kind_18 : decode cX2_kind 18 = .ok (.areturn, 1) := dk_176 (dk_at dksX2_kind_0 18 rfl rfl)
def dkwX2_lines_6 : List UInt8 := [159, 0, 11, 42, 42, 180, 0, 66, 182, 0, 83, 167, 255, 142, 29, 172]
abbrev dktX2_lines_6 : List UInt8 := dkwX2_lines_6 ++ []
def dkwX2_lines_5 : List UInt8 := [21, 4, 153, 0, 16, 42, 89, 180, 0, 66, 4, 96, 181, 0, 66, 167, 0, 19, 42, 182, 0, 72, 2]
abbrev dktX2_lines_5 : List UInt8 := dkwX2_lines_5 ++ dktX2_lines_6
def dkwX2_lines_4 : List UInt8 := [182, 0, 94, 83, 132, 3, 1, 42, 182, 0, 72, 16, 59, 160, 0, 7, 4, 167, 0, 4, 3, 54, 4]
abbrev dktX2_lines_4 : List UInt8 := dkwX2_lines_4 ++ dktX2_lines_5
def dkwX2_lines_3 : List UInt8 := [153, 0, 16, 42, 180, 0, 31, 29, 42, 182, 0, 90, 83, 167, 0, 13, 42, 180, 0, 37, 29, 42]
abbrev dktX2_lines_3 : List UInt8 := dkwX2_lines_3 ++ dktX2_lines_4
def dkwX2_lines_2 : List UInt8 := [153, 0, 8, 16, 6, 167, 0, 5, 16, 10, 160, 0, 11, 42, 42, 180, 0, 66, 182, 0, 83, 28]
abbrev dktX2_lines_2 : List UInt8 := dkwX2_lines_2 ++ dktX2_lines_3
def dkwX2_lines_1 : List UInt8 := [159, 0, 7, 4, 167, 0, 4, 3, 54, 4, 21, 4, 153, 0, 115, 42, 182, 0, 72, 54, 5, 29, 28]
abbrev dktX2_lines_1 : List UInt8 := dkwX2_lines_1 ++ dktX2_lines_2
def dkwX2_lines_0 : List UInt8 := [42, 27, 181, 0, 69, 42, 3, 181, 0, 66, 42, 3, 181, 0, 87, 3, 62, 42, 182, 0, 72, 2]
abbrev dktX2_lines_0 : List UInt8 := dkwX2_lines_0 ++ dktX2_lines_1
theorem dksX2_lines_0 : cX2_lines.data.toList.drop 0 = dktX2_lines_0 := by decide +kernel
theorem dksX2_lines_1 : cX2_lines.data.toList.drop 22 = dktX2_lines_1 := dk_seg dksX2_lines_0 22 rfl rfl
theorem dksX2_lines_2 : cX2_lines.data.toList.drop 45 = dktX2_lines_2 := dk_seg dksX2_lines_1 23 rfl rfl
theorem dksX2_lines_3 : cX2_lines.data.toList.drop 67 = dktX2_lines_3 := dk_seg dksX2_lines_2 22 rfl rfl
theorem dksX2_lines_4 : cX2_lines.data.toList.drop 89 = dktX2_lines_4 := dk_seg dksX2_lines_3 22 rfl rfl
theorem dksX2_lines_5 : cX2_lines.data.toList.drop 112 = dktX2_lines_5 := dk_seg dksX2_lines_4 23 rfl rfl
theorem dksX2_lines_6 : cX2_lines.data.toList.drop 135 = dktX2_lines_6 := dk_seg dksX2_lines_5 23 rfl rfl
theorem dX2_lines_0 : decode cX2_lines 0 = .ok (.aload_n 0, 1) := dk_42 (dk_at dksX2_lines_0 0 rfl rfl)
theorem dX2_lines_1 : decode cX2_lines 1 = .ok (.iload_n 1, 1) := dk_27 (dk_at dksX2_lines_0 1 rfl rfl)
theorem dX2_lines_2 : decode cX2_lines 2 = .ok (.putfield 69, 3) := dk_181 0 69 (dk_at dksX2_lines_0 2 rfl rfl)
theorem dX2_lines_5 : decode cX2_lines 5 = .ok (.aload_n 0, 1) := dk_42 (dk_at dksX2_lines_0 5 rfl rfl)
theorem dX2_lines_6 : decode cX2_lines 6 = .ok (.iconst 0, 1) := dk_3 (dk_at dksX2_lines_0 6 rfl rfl)
theorem dX2_lines_7 : decode cX2_lines 7 = .ok (.putfield 66, 3) := dk_181 0 66 (dk_at dksX2_lines_0 7 rfl rfl)
theorem dX2_lines_10 : decode cX2_lines 10 = .ok (.aload_n 0, 1) := dk_42 (dk_at dksX2_lines_0 10 rfl rfl)
theorem dX2_lines_11 : decode cX2_lines 11 = .ok (.iconst 0, 1) := dk_3 (dk_at dksX2_lines_0 11 rfl rfl)
theorem dX2_lines_12 : decode cX2_lines 12 = .ok (.putfield 87, 3) := dk_181 0 87 (dk_at dksX2_lines_0 12 rfl rfl)
theorem dX2_lines_15 : decode cX2_lines 15 = .ok (.iconst 0, 1) := dk_3 (dk_at dksX2_lines_0 15 rfl rfl)
theorem dX2_lines_16 : decode cX2_lines 16 = .ok (.istore_n 3, 1) := dk_62 (dk_at dksX2_lines_0 16 rfl rfl)
theorem dX2_lines_17 : decode cX2_lines 17 = .ok (.aload_n 0, 1) := dk_42 (dk_at dksX2_lines_0 17 rfl rfl)
theorem dX2_lines_18 : decode cX2_lines 18 = .ok (.invokevirtual 72, 3) := dk_182 0 72 (dk_at dksX2_lines_0 18 rfl rfl)
theorem dX2_lines_21 : decode cX2_lines 21 = .ok (.iconst (-1), 1) := dk_2 (dk_at dksX2_lines_0 21 rfl rfl)
theorem dX2_lines_22 : decode cX2_lines 22 = .ok (.if_icmp .eq 7, 3) := dk_159 0 7 (dk_at dksX2_lines_1 0 rfl rfl)
theorem dX2_lines_25 : decode cX2_lines 25 = .ok (.iconst 1, 1) := dk_4 (dk_at dksX2_lines_1 3 rfl rfl)
theorem dX2_lines_26 : decode cX2_lines 26 = .ok (.goto 4, 3) := dk_167 0 4 (dk_at dksX2_lines_1 4 rfl rfl)
theorem dX2_lines_29 : decode cX2_lines 29 = .ok (.iconst 0, 1) := dk_3 (dk_at dksX2_lines_1 7 rfl rfl)
theorem dX2_lines_30 : decode cX2_lines 30 = .ok (.istore 4, 2) := dk_54 4 (dk_at dksX2_lines_1 8 rfl rfl)
theorem dX2_lines_32 : decode cX2_lines 32 = .ok (.iload 4, 2) := dk_21 4 (dk_at dksX2_lines_1 10 rfl rfl)
theorem dX2_lines_34 : decode cX2_lines 34 = .ok (.ifCond .eq 115, 3) := dk_153 0 115 (dk_at dksX2_lines_1 12 rfl rfl)
theorem dX2_lines_37 : decode cX2_lines 37 = .ok (.aload_n 0, 1) := dk_42 (dk_at dksX2_lines_1 15 rfl rfl)
theorem dX2_lines_38 : decode cX2_lines 38 = .ok (.invokevirtual 72, 3) := dk_182 0 72 (dk_at dksX2_lines_1 16 rfl rfl)
theorem dX2_lines_41 : decode cX2_lines 41 = .ok (.istore 5, 2) := dk_54 5 (dk_at dksX2_lines_1 19 rfl rfl)
theorem dX2_lines_43 : decode cX2_lines 43 = .ok (.iload_n 3, 1) := dk_29 (dk_at dksX2_lines_1 21 rfl rfl)
theorem dX2_lines_44 : decode cX2_lines 44 = .ok (.iload_n 2, 1) := dk_28 (dk_at dksX2_lines_1 22 rfl rfl)
theorem dX2_lines_45 : decode cX2_lines 45 = .ok (.ifCond .eq 8, 3) := dk_153 0 8 (dk_at dksX2_lines_2 0 rfl rfl)
theorem dX2_lines_48 : decode cX2_lines 48 = .ok (.bipush 6, 2) := dk_16 6 (dk_at dksX2_lines_2 3 rfl rfl)
theorem dX2_lines_50 : decode cX2_lines 50 = .ok (.goto 5, 3) := dk_167 0 5 (dk_at dksX2_lines_2 5 rfl rfl)
theorem dX2_lines_53 : decode cX2_lines 53 = .ok (.bipush 10, 2) := dk_16 10 (dk_at dksX2_lines_2 8 rfl rfl)
theorem dX2_lines_55 : decode cX2_lines 55 = .ok (.if_icmp .ne 11, 3) := dk_160 0 11 (dk_at dksX2_lines_2 10 rfl rfl)
theorem dX2_lines_58 : decode cX2_lines 58 = .ok (.aload_n 0, 1) := dk_42 (dk_at dksX2_lines_2 13 rfl rfl)
theorem dX2_lines_59 : decode cX2_lines 59 = .ok (.aload_n 0, 1) := dk_42 (dk_at dksX2_lines_2 14 rfl rfl)
theorem dX2_lines_60 : decode cX2_lines 60 = .ok (.getfield 66, 3) := dk_180 0 66 (dk_at dksX2_lines_2 15 rfl rfl)
theorem dX2_lines_63 : decode cX2_lines 63 = .ok (.invokevirtual 83, 3) := dk_182 0 83 (dk_at dksX2_lines_2 18 rfl rfl)
theorem dX2_lines_66 : decode cX2_lines 66 = .ok (.iload_n 2, 1) := dk_28 (dk_at dksX2_lines_2 21 rfl rfl)
theorem dX2_lines_67 : decode cX2_lines 67 = .ok (.ifCond .eq 16, 3) := dk_153 0 16 (dk_at dksX2_lines_3 0 rfl rfl)
theorem dX2_lines_70 : decode cX2_lines 70 = .ok (.aload_n 0, 1) := dk_42 (dk_at dksX2_lines_3 3 rfl rfl)
theorem dX2_lines_71 : decode cX2_lines 71 = .ok (.getfield 31, 3) := dk_180 0 31 (dk_at dksX2_lines_3 4 rfl rfl)
theorem dX2_lines_74 : decode cX2_lines 74 = .ok (.iload_n 3, 1) := dk_29 (dk_at dksX2_lines_3 7 rfl rfl)
theorem dX2_lines_75 : decode cX2_lines 75 = .ok (.aload_n 0, 1) := dk_42 (dk_at dksX2_lines_3 8 rfl rfl)
theorem dX2_lines_76 : decode cX2_lines 76 = .ok (.invokevirtual 90, 3) := dk_182 0 90 (dk_at dksX2_lines_3 9 rfl rfl)
theorem dX2_lines_79 : decode cX2_lines 79 = .ok (.aastore, 1) := dk_83 (dk_at dksX2_lines_3 12 rfl rfl)
theorem dX2_lines_80 : decode cX2_lines 80 = .ok (.goto 13, 3) := dk_167 0 13 (dk_at dksX2_lines_3 13 rfl rfl)
theorem dX2_lines_83 : decode cX2_lines 83 = .ok (.aload_n 0, 1) := dk_42 (dk_at dksX2_lines_3 16 rfl rfl)
theorem dX2_lines_84 : decode cX2_lines 84 = .ok (.getfield 37, 3) := dk_180 0 37 (dk_at dksX2_lines_3 17 rfl rfl)
theorem dX2_lines_87 : decode cX2_lines 87 = .ok (.iload_n 3, 1) := dk_29 (dk_at dksX2_lines_3 20 rfl rfl)
theorem dX2_lines_88 : decode cX2_lines 88 = .ok (.aload_n 0, 1) := dk_42 (dk_at dksX2_lines_3 21 rfl rfl)
theorem dX2_lines_89 : decode cX2_lines 89 = .ok (.invokevirtual 94, 3) := dk_182 0 94 (dk_at dksX2_lines_4 0 rfl rfl)
theorem dX2_lines_92 : decode cX2_lines 92 = .ok (.aastore, 1) := dk_83 (dk_at dksX2_lines_4 3 rfl rfl)
theorem dX2_lines_93 : decode cX2_lines 93 = .ok (.iinc 3 1, 3) := dk_132 3 1 (dk_at dksX2_lines_4 4 rfl rfl)
theorem dX2_lines_96 : decode cX2_lines 96 = .ok (.aload_n 0, 1) := dk_42 (dk_at dksX2_lines_4 7 rfl rfl)
theorem dX2_lines_97 : decode cX2_lines 97 = .ok (.invokevirtual 72, 3) := dk_182 0 72 (dk_at dksX2_lines_4 8 rfl rfl)
theorem dX2_lines_100 : decode cX2_lines 100 = .ok (.bipush 59, 2) := dk_16 59 (dk_at dksX2_lines_4 11 rfl rfl)
theorem dX2_lines_102 : decode cX2_lines 102 = .ok (.if_icmp .ne 7, 3) := dk_160 0 7 (dk_at dksX2_lines_4 13 rfl rfl)
theorem dX2_lines_105 : decode cX2_lines 105 = .ok (.iconst 1, 1) := dk_4 (dk_at dksX2_lines_4 16 rfl rfl)
theorem dX2_lines_106 : decode cX2_lines 106 = .ok (.goto 4, 3) := dk_167 0 4 (dk_at dksX2_lines_4 17 rfl rfl)
theorem dX2_lines_109 : decode cX2_lines 109 = .ok (.iconst 0, 1) := dk_3 (dk_at dksX2_lines_4 20 rfl rfl)
theorem dX2_lines_110 : decode cX2_lines 110 = .ok (.istore 4, 2) := dk_54 4 (dk_at dksX2_lines_4 21 rfl rfl)
theorem dX2_lines_112 : decode cX2_lines 112 = .ok (.iload 4, 2) := dk_21 4 (dk_at dksX2_lines_5 0 rfl rfl)
theorem dX2_lines_114 : decode cX2_lines 114 = .ok (.ifCond .eq 16, 3) := dk_153 0 16 (dk_at dksX2_lines_5 2 rfl rfl)
theorem dX2_lines_117 : decode cX2_lines 117 = .ok (.aload_n 0, 1) := dk_42 (dk_at dksX2_lines_5 5 rfl rfl)
theorem dX2_lines_118 : decode cX2_lines 118 = .ok (.dup, 1) := dk_89 (dk_at dksX2_lines_5 6 rfl rfl)
theorem dX2_lines_119 : decode cX2_lines 119 = .ok (.getfield 66, 3) := dk_180 0 66 (dk_at dksX2_lines_5 7 rfl rfl)
theorem dX2_lines_122 : decode cX2_lines 122 = .ok (.iconst 1, 1) := dk_4 (dk_at dksX2_lines_5 10 rfl rfl)
theorem dX2_lines_123 : decode cX2_lines 123 = .ok (.iadd, 1) := dk_96 (dk_at dksX2_lines_5 11 rfl rfl)
theorem dX2_lines_124 : decode cX2_lines 124 = .ok (.putfield 66, 3) := dk_181 0 66 (dk_at dksX2_lines_5 12 rfl rfl)
theorem dX2_lines_127 : decode cX2_lines 127 = .ok (.goto 19, 3) := dk_167 0 19 (dk_at dksX2_lines_5 15 rfl rfl)
theorem dX2_lines_130 : decode cX2_lines 130 = .ok (.aload_n 0, 1) := dk_42 (dk_at dksX2_lines_5 18 rfl rfl)
theorem dX2_lines_131 : decode cX2_lines 131 = .ok (.invokevirtual 72, 3) := dk_182 0 72 (dk_at dksX2_lines_5 19 rfl rfl)
theorem dX2_lines_134 : decode cX2_lines 134 = .ok (.iconst (-1), 1) := dk_2 (dk_at dksX2_lines_5 22 rfl rfl)
theorem dX2_lines_135 : decode cX2_lines 135 = .ok (.if_icmp .eq 11, 3) := dk_159 0 11 (dk_at dksX2_lines_6 0 rfl rfl)
theorem dX2_lines_138 : decode cX2_lines 138 = .ok (.aload_n 0, 1) := dk_42 (dk_at dksX2_lines_6 3 rfl rfl)
theorem dX2_lines_139 : decode cX2_lines 139 = .ok (.aload_n 0, 1) := dk_42 (dk_at dksX2_lines_6 4 rfl rfl)
theorem dX2_lines_140 : decode cX2_lines 140 = .ok (.getfield 66, 3) := dk_180 0 66 (dk_at dksX2_lines_6 5 rfl rfl)
theorem dX2_lines_143 : decode cX2_lines 143 = .ok (.invokevirtual 83, 3) := dk_182 0 83 (dk_at dksX2_lines_6 8 rfl rfl)
theorem dX2_lines_146 : decode cX2_lines 146 = .ok (.goto (-114), 3) := dk_167 255 142 (dk_at dksX2_lines_6 11 rfl rfl)
theorem dX2_lines_149 : decode cX2_lines 149 = .ok (.iload_n 3, 1) := dk_29 (dk_at dksX2_lines_6 14 rfl rfl)
theorem dX2_lines_150 : decode cX2_lines 150 = .ok (.ireturn, 1) := dk_172 (dk_at dksX2_lines_6 15 rfl rfl)
def dkwX2_sign_2 : List UInt8 := [162, 0, 19, 42, 180, 0, 9, 42, 180, 0, 66, 51, 17, 0, 255, 126, 167, 0, 4, 2, 172]
abbrev dktX2_sign_2 : List UInt8 := dkwX2_sign_2 ++ []
def dkwX2_sign_1 : List UInt8 := [160, 0, 16, 42, 89, 180, 0, 66, 4, 96, 181, 0, 66, 167, 255, 221, 42, 180, 0, 66, 42, 180, 0, 69]
abbrev dktX2_sign_1 : List UInt8 := dkwX2_sign_1 ++ dktX2_sign_2
def dkwX2_sign_0 : List UInt8 := [42, 180, 0, 66, 42, 180, 0, 69, 162, 0, 30, 42, 180, 0, 9, 42, 180, 0, 66, 51, 16, 32]
abbrev dktX2_sign_0 : List UInt8 := dkwX2_sign_0 ++ dktX2_sign_1
theorem dksX2_sign_0 : cX2_sign.data.toList.drop 0 = dktX2_sign_0 := by decide +kernel
theorem dksX2_sign_1 : cX2_sign.data.toList.drop 22 = dktX2_sign_1 := dk_seg dksX2_sign_0 22 rfl rfl
theorem dksX2_sign_2 : cX2_sign.data.toList.drop 46 = dktX2_sign_2 := dk_seg dksX2_sign_1 24 rfl rfl
theorem dX2_sign_0 : decode cX2_sign 0 = .ok (.aload_n 0, 1) := dk_42 (dk_at dksX2_sign_0 0 rfl rfl)
theorem dX2_sign_1 : decode cX2_sign 1 = .ok (.getfield 66, 3) := dk_180 0 66 (dk_at dksX2_sign_0 1 rfl rfl)
theorem dX2_sign_4 : decode cX2_sign 4 = .ok (.aload_n 0, 1) := dk_42 (dk_at dksX2_sign_0 4 rfl rfl)
theorem dX2_sign_5 : decode cX2_sign 5 = .ok (.getfield 69, 3) := dk_180 0 69 (dk_at dksX2_sign_0 5 rfl rfl)
theorem dX2_sign_8 : decode cX2_sign 8 = .ok (.if_icmp .ge 30, 3) := dk_162 0 30 (dk_at dksX2_sign_0 8 rfl rfl)
theorem dX2_sign_11 : decode cX2_sign 11 = .ok (.aload_n 0, 1) := dk_42 (dk_at dksX2_sign_0 11 rfl rfl)
theorem dX2_sign_12 : decode cX2_sign 12 = .ok (.getfield 9, 3) := dk_180 0 9 (dk_at dksX2_sign_0 12 rfl rfl)
theorem dX2_sign_15 : decode cX2_sign 15 = .ok (.aload_n 0, 1) := dk_42 (dk_at dksX2_sign_0 15 rfl rfl)
theorem dX2_sign_16 : decode cX2_sign 16 = .ok (.getfield 66, 3) := dk_180 0 66 (dk_at dksX2_sign_0 16 rfl rfl)
theorem dX2_sign_19 : decode cX2_sign 19 = .ok (.baload, 1) := dk_51 (dk_at dksX2_sign_0 19 rfl rfl)
theorem dX2_sign_20 : decode cX2_sign 20 = .ok (.bipush 32, 2) := dk_16 32 (dk_at dksX2_sign_0 20 rfl rfl)
theorem dX2_sign_22 : decode cX2_sign 22 = .ok (.if_icmp .ne 16, 3) := dk_160 0 16 (dk_at dksX2_sign_1 0 rfl rfl)
theorem dX2_sign_25 : decode cX2_sign 25 = .ok (.aload_n 0, 1) := dk_42 (dk_at dksX2_sign_1 3 rfl rfl)
theorem dX2_sign_26 : decode cX2_sign 26 = .ok (.dup, 1) := dk_89 (dk_at dksX2_sign_1 4 rfl rfl)
theorem dX2_sign_27 : decode cX2_sign 27 = .ok (.getfield 66, 3) := dk_180 0 66 (dk_at dksX2_sign_1 5 rfl rfl)
theorem dX2_sign_30 : decode cX2_sign 30 = .ok (.iconst 1, 1) := dk_4 (dk_at dksX2_sign_1 8 rfl rfl)
theorem dX2_sign_31 : decode cX2_sign 31 = .ok (.iadd, 1) := dk_96 (dk_at dksX2_sign_1 9 rfl rfl)
theorem dX2_sign_32 : decode cX2_sign 32 = .ok (.putfield 66, 3) := dk_181 0 66 (dk_at dksX2_sign_1 10 rfl rfl)
theorem dX2_sign_35 : decode cX2_sign 35 = .ok (.goto (-35), 3) := dk_167 255 221 (dk_at dksX2_sign_1 13 rfl rfl)
theorem dX2_sign_38 : decode cX2_sign 38 = .ok (.aload_n 0, 1) := dk_42 (dk_at dksX2_sign_1 16 rfl rfl)
theorem dX2_sign_39 : decode cX2_sign 39 = .ok (.getfield 66, 3) := dk_180 0 66 (dk_at dksX2_sign_1 17 rfl rfl)
theorem dX2_sign_42 : decode cX2_sign 42 = .ok (.aload_n 0, 1) := dk_42 (dk_at dksX2_sign_1 20 rfl rfl)
theorem dX2_sign_43 : decode cX2_sign 43 = .ok (.getfield 69, 3) := dk_180 0 69 (dk_at dksX2_sign_1 21 rfl rfl)
theorem dX2_sign_46 : decode cX2_sign 46 = .ok (.if_icmp .ge 19, 3) := dk_162 0 19 (dk_at dksX2_sign_2 0 rfl rfl)
theorem dX2_sign_49 : decode cX2_sign 49 = .ok (.aload_n 0, 1) := dk_42 (dk_at dksX2_sign_2 3 rfl rfl)
theorem dX2_sign_50 : decode cX2_sign 50 = .ok (.getfield 9, 3) := dk_180 0 9 (dk_at dksX2_sign_2 4 rfl rfl)
theorem dX2_sign_53 : decode cX2_sign 53 = .ok (.aload_n 0, 1) := dk_42 (dk_at dksX2_sign_2 7 rfl rfl)
theorem dX2_sign_54 : decode cX2_sign 54 = .ok (.getfield 66, 3) := dk_180 0 66 (dk_at dksX2_sign_2 8 rfl rfl)
theorem dX2_sign_57 : decode cX2_sign 57 = .ok (.baload, 1) := dk_51 (dk_at dksX2_sign_2 11 rfl rfl)
theorem dX2_sign_58 : decode cX2_sign 58 = .ok (.sipush 255, 3) := dk_17 0 255 (dk_at dksX2_sign_2 12 rfl rfl)
theorem dX2_sign_61 : decode cX2_sign 61 = .ok (.iand, 1) := dk_126 (dk_at dksX2_sign_2 15 rfl rfl)
theorem dX2_sign_62 : decode cX2_sign 62 = .ok (.goto 4, 3) := dk_167 0 4 (dk_at dksX2_sign_2 16 rfl rfl)
theorem dX2_sign_65 : decode cX2_sign 65 = .ok (.iconst (-1), 1) := dk_2 (dk_at dksX2_sign_2 19 rfl rfl)
theorem dX2_sign_66 : decode cX2_sign 66 = .ok (.ireturn, 1) := dk_172 (dk_at dksX2_sign_2 20 rfl rfl)
def dkwX2_fail_0 : List UInt8 := [42, 180, 0, 58, 27, 181, 0, 62, 42, 180, 0, 58, 191]
abbrev dktX2_fail_0 : List UInt8 := dkwX2_fail_0 ++ []
theorem dksX2_fail_0 : cX2_fail.data.toList.drop 0 = dktX2_fail_0 := by decide +kernel
theorem dX2_fail_0 : decode cX2_fail 0 = .ok (.aload_n 0, 1) := dk_42 (dk_at dksX2_fail_0 0 rfl rfl)
theorem dX2_fail_1 : decode cX2_fail 1 = .ok (.getfield 58, 3) := dk_180 0 58 (dk_at dksX2_fail_0 1 rfl rfl)
theorem dX2_fail_4 : decode cX2_fail 4 = .ok (.iload_n 1, 1) := dk_27 (dk_at dksX2_fail_0 4 rfl rfl)
theorem dX2_fail_5 : decode cX2_fail 5 = .ok (.putfield 62, 3) := dk_181 0 62 (dk_at dksX2_fail_0 5 rfl rfl)
theorem dX2_fail_8 : decode cX2_fail 8 = .ok (.aload_n 0, 1) := dk_42 (dk_at dksX2_fail_0 8 rfl rfl)
theorem dX2_fail_9 : decode cX2_fail 9 = .ok (.getfield 58, 3) := dk_180 0 58 (dk_at dksX2_fail_0 9 rfl rfl)
theorem dX2_fail_12 : decode cX2_fail 12 = .ok (.athrow, 1) := dk_191 (dk_at dksX2_fail_0 12 rfl rfl)
def dkwX2_going_4 : List UInt8 := [180, 0, 66, 182, 0, 83, 42, 180, 0, 51, 176]
abbrev dktX2_going_4 : List UInt8 := dkwX2_going_4 ++ []
def dkwX2_going_3 : List UInt8 := [18, 135, 182, 0, 114, 153, 0, 8, 42, 180, 0, 44, 176, 42, 18, 136, 182, 0, 114, 154, 0, 11, 42, 42]
abbrev dktX2_going_3 : List UInt8 := dkwX2_going_3 ++ dktX2_going_4
def dkwX2_going_2 : List UInt8 := [18, 130, 182, 0, 114, 153, 0, 17, 187, 0, 132, 89, 42, 4, 8, 182, 0, 120, 183, 0, 134, 176, 42]
abbrev dktX2_going_2 : List UInt8 := dkwX2_going_2 ++ dktX2_going_3
def dkwX2_going_1 : List UInt8 := [18, 125, 182, 0, 114, 153, 0, 17, 187, 0, 127, 89, 42, 4, 8, 182, 0, 120, 183, 0, 129, 176, 42]
abbrev dktX2_going_1 : List UInt8 := dkwX2_going_1 ++ dktX2_going_2
def dkwX2_going_0 : List UInt8 := [42, 18, 112, 182, 0, 114, 153, 0, 17, 187, 0, 118, 89, 42, 4, 8, 182, 0, 120, 183, 0, 123, 176, 42]
abbrev dktX2_going_0 : List UInt8 := dkwX2_going_0 ++ dktX2_going_1
theorem dksX2_going_0 : cX2_going.data.toList.drop 0 = dktX2_going_0 := by decide +kernel
theorem dksX2_going_1 : cX2_going.data.toList.drop 24 = dktX2_going_1 := dk_seg dksX2_going_0 24 rfl rfl
theorem dksX2_going_2 : cX2_going.data.toList.drop 47 = dktX2_going_2 := dk_seg dksX2_going_1 23 rfl rfl
theorem dksX2_going_3 : cX2_going.data.toList.drop 70 = dktX2_going_3 := dk_seg dksX2_going_2 23 rfl rfl
theorem dksX2_going_4 : cX2_going.data.toList.drop 94 = dktX2_going_4 := dk_seg dksX2_going_3 24 rfl rfl
theorem dX2_going_0 : decode cX2_going 0 = .ok (.aload_n 0, 1) := dk_42 (dk_at dksX2_going_0 0 rfl rfl)
theorem dX2_going_1 : decode cX2_going 1 = .ok (.ldc 112, 2) := dk_18 112 (dk_at dksX2_going_0 1 rfl rfl)
theorem dX2_going_3 : decode cX2_going 3 = .ok (.invokevirtual 114, 3) := dk_182 0 114 (dk_at dksX2_going_0 3 rfl rfl)
theorem dX2_going_6 : decode cX2_going 6 = .ok (.ifCond .eq 17, 3) := dk_153 0 17 (dk_at dksX2_going_0 6 rfl rfl)
theorem dX2_going_9 : decode cX2_going 9 = .ok (.new 118, 3) := dk_187 0 118 (dk_at dksX2_going_0 9 rfl rfl)
theorem dX2_going_12 : decode cX2_going 12 = .ok (.dup, 1) := dk_89 (dk_at dksX2_going_0 12 rfl rfl)
theorem dX2_going_13 : decode cX2_going 13 = .ok (.aload_n 0, 1) := dk_42 (dk_at dksX2_going_0 13 rfl rfl)
theorem dX2_going_14 : decode cX2_going 14 = .ok (.iconst 1, 1) := dk_4 (dk_at dksX2_going_0 14 rfl rfl)
theorem dX2_going_15 : decode cX2_going 15 = .ok (.iconst 5, 1) := dk_8 (dk_at dksX2_going_0 15 rfl rfl)
theorem dX2_going_16 : decode cX2_going 16 = .ok (.invokevirtual 120, 3) := dk_182 0 120 (dk_at dksX2_going_0 16 rfl rfl)
theorem dX2_going_19 : decode cX2_going 19 = .ok (.invokespecial 123, 3) := dk_183 0 123 (dk_at dksX2_going_0 19 rfl rfl)
theorem dX2_going_22 : decode cX2_going 22 = .ok (.areturn, 1) := dk_176 (dk_at dksX2_going_0 22 rfl rfl)
theorem dX2_going_23 : decode cX2_going 23 = .ok (.aload_n 0, 1) := dk_42 (dk_at dksX2_going_0 23 rfl rfl)
theorem dX2_going_24 : decode cX2_going 24 = .ok (.ldc 125, 2) := dk_18 125 (dk_at dksX2_going_1 0 rfl rfl)
theorem dX2_going_26 : decode cX2_going 26 = .ok (.invokevirtual 114, 3) := dk_182 0 114 (dk_at dksX2_going_1 2 rfl rfl)
theorem dX2_going_29 : decode cX2_going 29 = .ok (.ifCond .eq 17, 3) := dk_153 0 17 (dk_at dksX2_going_1 5 rfl rfl)
theorem dX2_going_32 : decode cX2_going 32 = .ok (.new 127, 3) := dk_187 0 127 (dk_at dksX2_going_1 8 rfl rfl)
theorem dX2_going_35 : decode cX2_going 35 = .ok (.dup, 1) := dk_89 (dk_at dksX2_going_1 11 rfl rfl)
theorem dX2_going_36 : decode cX2_going 36 = .ok (.aload_n 0, 1) := dk_42 (dk_at dksX2_going_1 12 rfl rfl)
theorem dX2_going_37 : decode cX2_going 37 = .ok (.iconst 1, 1) := dk_4 (dk_at dksX2_going_1 13 rfl rfl)
theorem dX2_going_38 : decode cX2_going 38 = .ok (.iconst 5, 1) := dk_8 (dk_at dksX2_going_1 14 rfl rfl)
theorem dX2_going_39 : decode cX2_going 39 = .ok (.invokevirtual 120, 3) := dk_182 0 120 (dk_at dksX2_going_1 15 rfl rfl)
theorem dX2_going_42 : decode cX2_going 42 = .ok (.invokespecial 129, 3) := dk_183 0 129 (dk_at dksX2_going_1 18 rfl rfl)
theorem dX2_going_45 : decode cX2_going 45 = .ok (.areturn, 1) := dk_176 (dk_at dksX2_going_1 21 rfl rfl)
theorem dX2_going_46 : decode cX2_going 46 = .ok (.aload_n 0, 1) := dk_42 (dk_at dksX2_going_1 22 rfl rfl)
theorem dX2_going_47 : decode cX2_going 47 = .ok (.ldc 130, 2) := dk_18 130 (dk_at dksX2_going_2 0 rfl rfl)
theorem dX2_going_49 : decode cX2_going 49 = .ok (.invokevirtual 114, 3) := dk_182 0 114 (dk_at dksX2_going_2 2 rfl rfl)
theorem dX2_going_52 : decode cX2_going 52 = .ok (.ifCond .eq 17, 3) := dk_153 0 17 (dk_at dksX2_going_2 5 rfl rfl)
theorem dX2_going_55 : decode cX2_going 55 = .ok (.new 132, 3) := dk_187 0 132 (dk_at dksX2_going_2 8 rfl rfl)
theorem dX2_going_58 : decode cX2_going 58 = .ok (.dup, 1) := dk_89 (dk_at dksX2_going_2 11 rfl rfl)
theorem dX2_going_59 : decode cX2_going 59 = .ok (.aload_n 0, 1) := dk_42 (dk_at dksX2_going_2 12 rfl rfl)
theorem dX2_going_60 : decode cX2_going 60 = .ok (.iconst 1, 1) := dk_4 (dk_at dksX2_going_2 13 rfl rfl)
theorem dX2_going_61 : decode cX2_going 61 = .ok (.iconst 5, 1) := dk_8 (dk_at dksX2_going_2 14 rfl rfl)
theorem dX2_going_62 : decode cX2_going 62 = .ok (.invokevirtual 120, 3) := dk_182 0 120 (dk_at dksX2_going_2 15 rfl rfl)
theorem dX2_going_65 : decode cX2_going 65 = .ok (.invokespecial 134, 3) := dk_183 0 134 (dk_at dksX2_going_2 18 rfl rfl)
theorem dX2_going_68 : decode cX2_going 68 = .ok (.areturn, 1) := dk_176 (dk_at dksX2_going_2 21 rfl rfl)
theorem dX2_going_69 : decode cX2_going 69 = .ok (.aload_n 0, 1) := dk_42 (dk_at dksX2_going_2 22 rfl rfl)
theorem dX2_going_70 : decode cX2_going 70 = .ok (.ldc 135, 2) := dk_18 135 (dk_at dksX2_going_3 0 rfl rfl)
theorem dX2_going_72 : decode cX2_going 72 = .ok (.invokevirtual 114, 3) := dk_182 0 114 (dk_at dksX2_going_3 2 rfl rfl)
theorem dX2_going_75 : decode cX2_going 75 = .ok (.ifCond .eq 8, 3) := dk_153 0 8 (dk_at dksX2_going_3 5 rfl rfl)
theorem dX2_going_78 : decode cX2_going 78 = .ok (.aload_n 0, 1) := dk_42 (dk_at dksX2_going_3 8 rfl rfl)
theorem dX2_going_79 : decode cX2_going 79 = .ok (.getfield 44, 3) := dk_180 0 44 (dk_at dksX2_going_3 9 rfl rfl)
theorem dX2_going_82 : decode cX2_going 82 = .ok (.areturn, 1) := dk_176 (dk_at dksX2_going_3 12 rfl rfl)
theorem dX2_going_83 : decode cX2_going 83 = .ok (.aload_n 0, 1) := dk_42 (dk_at dksX2_going_3 13 rfl rfl)
theorem dX2_going_84 : decode cX2_going 84 = .ok (.ldc 136, 2) := dk_18 136 (dk_at dksX2_going_3 14 rfl rfl)
theorem dX2_going_86 : decode cX2_going 86 = .ok (.invokevirtual 114, 3) := dk_182 0 114 (dk_at dksX2_going_3 16 rfl rfl)
theorem dX2_going_89 : decode cX2_going 89 = .ok (.ifCond .ne 11, 3) := dk_154 0 11 (dk_at dksX2_going_3 19 rfl rfl)
theorem dX2_going_92 : decode cX2_going 92 = .ok (.aload_n 0, 1) := dk_42 (dk_at dksX2_going_3 22 rfl rfl)
theorem dX2_going_93 : decode cX2_going 93 = .ok (.aload_n 0, 1) := dk_42 (dk_at dksX2_going_3 23 rfl rfl)
theorem dX2_going_94 : decode cX2_going 94 = .ok (.getfield 66, 3) := dk_180 0 66 (dk_at dksX2_going_4 0 rfl rfl)
theorem dX2_going_97 : decode cX2_going 97 = .ok (.invokevirtual 83, 3) := dk_182 0 83 (dk_at dksX2_going_4 3 rfl rfl)
theorem dX2_going_100 : decode cX2_going 100 = .ok (.aload_n 0, 1) := dk_42 (dk_at dksX2_going_4 6 rfl rfl)
theorem dX2_going_101 : decode cX2_going 101 = .ok (.getfield 51, 3) := dk_180 0 51 (dk_at dksX2_going_4 7 rfl rfl)
theorem dX2_going_104 : decode cX2_going 104 = .ok (.areturn, 1) := dk_176 (dk_at dksX2_going_4 10 rfl rfl)
def dkwX2_takes_5 : List UInt8 := [153, 0, 8, 42, 29, 181, 0, 66, 21, 4, 172]
abbrev dktX2_takes_5 : List UInt8 := dkwX2_takes_5 ++ []
def dkwX2_takes_4 : List UInt8 := [21, 5, 182, 0, 79, 160, 0, 7, 4, 167, 0, 4, 3, 54, 4, 132, 5, 1, 167, 255, 211, 21, 4]
abbrev dktX2_takes_4 : List UInt8 := dkwX2_takes_4 ++ dktX2_takes_5
def dkwX2_takes_3 : List UInt8 := [182, 0, 76, 162, 0, 42, 21, 4, 153, 0, 37, 42, 180, 0, 9, 42, 180, 0, 66, 21, 5, 96, 51, 43]
abbrev dktX2_takes_3 : List UInt8 := dkwX2_takes_3 ++ dktX2_takes_4
def dkwX2_takes_2 : List UInt8 := [180, 0, 66, 100, 43, 182, 0, 76, 160, 0, 7, 4, 167, 0, 4, 3, 54, 4, 3, 54, 5, 21, 5, 43]
abbrev dktX2_takes_2 : List UInt8 := dkwX2_takes_2 ++ dktX2_takes_3
def dkwX2_takes_1 : List UInt8 := [16, 97, 161, 0, 20, 42, 180, 0, 9, 29, 51, 16, 122, 163, 0, 9, 132, 3, 1, 167, 255, 223, 29, 42]
abbrev dktX2_takes_1 : List UInt8 := dkwX2_takes_1 ++ dktX2_takes_2
def dkwX2_takes_0 : List UInt8 := [42, 182, 0, 72, 61, 42, 180, 0, 66, 62, 29, 42, 180, 0, 69, 162, 0, 31, 42, 180, 0, 9, 29, 51]
abbrev dktX2_takes_0 : List UInt8 := dkwX2_takes_0 ++ dktX2_takes_1
theorem dksX2_takes_0 : cX2_takes.data.toList.drop 0 = dktX2_takes_0 := by decide +kernel
theorem dksX2_takes_1 : cX2_takes.data.toList.drop 24 = dktX2_takes_1 := dk_seg dksX2_takes_0 24 rfl rfl
theorem dksX2_takes_2 : cX2_takes.data.toList.drop 48 = dktX2_takes_2 := dk_seg dksX2_takes_1 24 rfl rfl
theorem dksX2_takes_3 : cX2_takes.data.toList.drop 72 = dktX2_takes_3 := dk_seg dksX2_takes_2 24 rfl rfl
theorem dksX2_takes_4 : cX2_takes.data.toList.drop 96 = dktX2_takes_4 := dk_seg dksX2_takes_3 24 rfl rfl
theorem dksX2_takes_5 : cX2_takes.data.toList.drop 119 = dktX2_takes_5 := dk_seg dksX2_takes_4 23 rfl rfl
theorem dX2_takes_0 : decode cX2_takes 0 = .ok (.aload_n 0, 1) := dk_42 (dk_at dksX2_takes_0 0 rfl rfl)
theorem dX2_takes_1 : decode cX2_takes 1 = .ok (.invokevirtual 72, 3) := dk_182 0 72 (dk_at dksX2_takes_0 1 rfl rfl)
theorem dX2_takes_4 : decode cX2_takes 4 = .ok (.istore_n 2, 1) := dk_61 (dk_at dksX2_takes_0 4 rfl rfl)
theorem dX2_takes_5 : decode cX2_takes 5 = .ok (.aload_n 0, 1) := dk_42 (dk_at dksX2_takes_0 5 rfl rfl)
theorem dX2_takes_6 : decode cX2_takes 6 = .ok (.getfield 66, 3) := dk_180 0 66 (dk_at dksX2_takes_0 6 rfl rfl)
theorem dX2_takes_9 : decode cX2_takes 9 = .ok (.istore_n 3, 1) := dk_62 (dk_at dksX2_takes_0 9 rfl rfl)
theorem dX2_takes_10 : decode cX2_takes 10 = .ok (.iload_n 3, 1) := dk_29 (dk_at dksX2_takes_0 10 rfl rfl)
theorem dX2_takes_11 : decode cX2_takes 11 = .ok (.aload_n 0, 1) := dk_42 (dk_at dksX2_takes_0 11 rfl rfl)
theorem dX2_takes_12 : decode cX2_takes 12 = .ok (.getfield 69, 3) := dk_180 0 69 (dk_at dksX2_takes_0 12 rfl rfl)
theorem dX2_takes_15 : decode cX2_takes 15 = .ok (.if_icmp .ge 31, 3) := dk_162 0 31 (dk_at dksX2_takes_0 15 rfl rfl)
theorem dX2_takes_18 : decode cX2_takes 18 = .ok (.aload_n 0, 1) := dk_42 (dk_at dksX2_takes_0 18 rfl rfl)
theorem dX2_takes_19 : decode cX2_takes 19 = .ok (.getfield 9, 3) := dk_180 0 9 (dk_at dksX2_takes_0 19 rfl rfl)
theorem dX2_takes_22 : decode cX2_takes 22 = .ok (.iload_n 3, 1) := dk_29 (dk_at dksX2_takes_0 22 rfl rfl)
theorem dX2_takes_23 : decode cX2_takes 23 = .ok (.baload, 1) := dk_51 (dk_at dksX2_takes_0 23 rfl rfl)
theorem dX2_takes_24 : decode cX2_takes 24 = .ok (.bipush 97, 2) := dk_16 97 (dk_at dksX2_takes_1 0 rfl rfl)
theorem dX2_takes_26 : decode cX2_takes 26 = .ok (.if_icmp .lt 20, 3) := dk_161 0 20 (dk_at dksX2_takes_1 2 rfl rfl)
theorem dX2_takes_29 : decode cX2_takes 29 = .ok (.aload_n 0, 1) := dk_42 (dk_at dksX2_takes_1 5 rfl rfl)
theorem dX2_takes_30 : decode cX2_takes 30 = .ok (.getfield 9, 3) := dk_180 0 9 (dk_at dksX2_takes_1 6 rfl rfl)
theorem dX2_takes_33 : decode cX2_takes 33 = .ok (.iload_n 3, 1) := dk_29 (dk_at dksX2_takes_1 9 rfl rfl)
theorem dX2_takes_34 : decode cX2_takes 34 = .ok (.baload, 1) := dk_51 (dk_at dksX2_takes_1 10 rfl rfl)
theorem dX2_takes_35 : decode cX2_takes 35 = .ok (.bipush 122, 2) := dk_16 122 (dk_at dksX2_takes_1 11 rfl rfl)
theorem dX2_takes_37 : decode cX2_takes 37 = .ok (.if_icmp .gt 9, 3) := dk_163 0 9 (dk_at dksX2_takes_1 13 rfl rfl)
theorem dX2_takes_40 : decode cX2_takes 40 = .ok (.iinc 3 1, 3) := dk_132 3 1 (dk_at dksX2_takes_1 16 rfl rfl)
theorem dX2_takes_43 : decode cX2_takes 43 = .ok (.goto (-33), 3) := dk_167 255 223 (dk_at dksX2_takes_1 19 rfl rfl)
theorem dX2_takes_46 : decode cX2_takes 46 = .ok (.iload_n 3, 1) := dk_29 (dk_at dksX2_takes_1 22 rfl rfl)
theorem dX2_takes_47 : decode cX2_takes 47 = .ok (.aload_n 0, 1) := dk_42 (dk_at dksX2_takes_1 23 rfl rfl)
theorem dX2_takes_48 : decode cX2_takes 48 = .ok (.getfield 66, 3) := dk_180 0 66 (dk_at dksX2_takes_2 0 rfl rfl)
theorem dX2_takes_51 : decode cX2_takes 51 = .ok (.isub, 1) := dk_100 (dk_at dksX2_takes_2 3 rfl rfl)
theorem dX2_takes_52 : decode cX2_takes 52 = .ok (.aload_n 1, 1) := dk_43 (dk_at dksX2_takes_2 4 rfl rfl)
theorem dX2_takes_53 : decode cX2_takes 53 = .ok (.invokevirtual 76, 3) := dk_182 0 76 (dk_at dksX2_takes_2 5 rfl rfl)
theorem dX2_takes_56 : decode cX2_takes 56 = .ok (.if_icmp .ne 7, 3) := dk_160 0 7 (dk_at dksX2_takes_2 8 rfl rfl)
theorem dX2_takes_59 : decode cX2_takes 59 = .ok (.iconst 1, 1) := dk_4 (dk_at dksX2_takes_2 11 rfl rfl)
theorem dX2_takes_60 : decode cX2_takes 60 = .ok (.goto 4, 3) := dk_167 0 4 (dk_at dksX2_takes_2 12 rfl rfl)
theorem dX2_takes_63 : decode cX2_takes 63 = .ok (.iconst 0, 1) := dk_3 (dk_at dksX2_takes_2 15 rfl rfl)
theorem dX2_takes_64 : decode cX2_takes 64 = .ok (.istore 4, 2) := dk_54 4 (dk_at dksX2_takes_2 16 rfl rfl)
theorem dX2_takes_66 : decode cX2_takes 66 = .ok (.iconst 0, 1) := dk_3 (dk_at dksX2_takes_2 18 rfl rfl)
theorem dX2_takes_67 : decode cX2_takes 67 = .ok (.istore 5, 2) := dk_54 5 (dk_at dksX2_takes_2 19 rfl rfl)
theorem dX2_takes_69 : decode cX2_takes 69 = .ok (.iload 5, 2) := dk_21 5 (dk_at dksX2_takes_2 21 rfl rfl)
theorem dX2_takes_71 : decode cX2_takes 71 = .ok (.aload_n 1, 1) := dk_43 (dk_at dksX2_takes_2 23 rfl rfl)
theorem dX2_takes_72 : decode cX2_takes 72 = .ok (.invokevirtual 76, 3) := dk_182 0 76 (dk_at dksX2_takes_3 0 rfl rfl)
theorem dX2_takes_75 : decode cX2_takes 75 = .ok (.if_icmp .ge 42, 3) := dk_162 0 42 (dk_at dksX2_takes_3 3 rfl rfl)
theorem dX2_takes_78 : decode cX2_takes 78 = .ok (.iload 4, 2) := dk_21 4 (dk_at dksX2_takes_3 6 rfl rfl)
theorem dX2_takes_80 : decode cX2_takes 80 = .ok (.ifCond .eq 37, 3) := dk_153 0 37 (dk_at dksX2_takes_3 8 rfl rfl)
theorem dX2_takes_83 : decode cX2_takes 83 = .ok (.aload_n 0, 1) := dk_42 (dk_at dksX2_takes_3 11 rfl rfl)
theorem dX2_takes_84 : decode cX2_takes 84 = .ok (.getfield 9, 3) := dk_180 0 9 (dk_at dksX2_takes_3 12 rfl rfl)
theorem dX2_takes_87 : decode cX2_takes 87 = .ok (.aload_n 0, 1) := dk_42 (dk_at dksX2_takes_3 15 rfl rfl)
theorem dX2_takes_88 : decode cX2_takes 88 = .ok (.getfield 66, 3) := dk_180 0 66 (dk_at dksX2_takes_3 16 rfl rfl)
theorem dX2_takes_91 : decode cX2_takes 91 = .ok (.iload 5, 2) := dk_21 5 (dk_at dksX2_takes_3 19 rfl rfl)
theorem dX2_takes_93 : decode cX2_takes 93 = .ok (.iadd, 1) := dk_96 (dk_at dksX2_takes_3 21 rfl rfl)
theorem dX2_takes_94 : decode cX2_takes 94 = .ok (.baload, 1) := dk_51 (dk_at dksX2_takes_3 22 rfl rfl)
theorem dX2_takes_95 : decode cX2_takes 95 = .ok (.aload_n 1, 1) := dk_43 (dk_at dksX2_takes_3 23 rfl rfl)
theorem dX2_takes_96 : decode cX2_takes 96 = .ok (.iload 5, 2) := dk_21 5 (dk_at dksX2_takes_4 0 rfl rfl)
theorem dX2_takes_98 : decode cX2_takes 98 = .ok (.invokevirtual 79, 3) := dk_182 0 79 (dk_at dksX2_takes_4 2 rfl rfl)
theorem dX2_takes_101 : decode cX2_takes 101 = .ok (.if_icmp .ne 7, 3) := dk_160 0 7 (dk_at dksX2_takes_4 5 rfl rfl)
theorem dX2_takes_104 : decode cX2_takes 104 = .ok (.iconst 1, 1) := dk_4 (dk_at dksX2_takes_4 8 rfl rfl)
theorem dX2_takes_105 : decode cX2_takes 105 = .ok (.goto 4, 3) := dk_167 0 4 (dk_at dksX2_takes_4 9 rfl rfl)
theorem dX2_takes_108 : decode cX2_takes 108 = .ok (.iconst 0, 1) := dk_3 (dk_at dksX2_takes_4 12 rfl rfl)
theorem dX2_takes_109 : decode cX2_takes 109 = .ok (.istore 4, 2) := dk_54 4 (dk_at dksX2_takes_4 13 rfl rfl)
theorem dX2_takes_111 : decode cX2_takes 111 = .ok (.iinc 5 1, 3) := dk_132 5 1 (dk_at dksX2_takes_4 15 rfl rfl)
theorem dX2_takes_114 : decode cX2_takes 114 = .ok (.goto (-45), 3) := dk_167 255 211 (dk_at dksX2_takes_4 18 rfl rfl)
theorem dX2_takes_117 : decode cX2_takes 117 = .ok (.iload 4, 2) := dk_21 4 (dk_at dksX2_takes_4 21 rfl rfl)
theorem dX2_takes_119 : decode cX2_takes 119 = .ok (.ifCond .eq 8, 3) := dk_153 0 8 (dk_at dksX2_takes_5 0 rfl rfl)
theorem dX2_takes_122 : decode cX2_takes 122 = .ok (.aload_n 0, 1) := dk_42 (dk_at dksX2_takes_5 3 rfl rfl)
theorem dX2_takes_123 : decode cX2_takes 123 = .ok (.iload_n 3, 1) := dk_29 (dk_at dksX2_takes_5 4 rfl rfl)
theorem dX2_takes_124 : decode cX2_takes 124 = .ok (.putfield 66, 3) := dk_181 0 66 (dk_at dksX2_takes_5 5 rfl rfl)
theorem dX2_takes_127 : decode cX2_takes 127 = .ok (.iload 4, 2) := dk_21 4 (dk_at dksX2_takes_5 8 rfl rfl)
theorem dX2_takes_129 : decode cX2_takes 129 = .ok (.ireturn, 1) := dk_172 (dk_at dksX2_takes_5 10 rfl rfl)
def dkwX2_number_5 : List UInt8 := [161, 0, 9, 21, 5, 28, 164, 0, 9, 42, 21, 4, 182, 0, 83, 21, 5, 172]
abbrev dktX2_number_5 : List UInt8 := dkwX2_number_5 ++ []
def dkwX2_number_4 : List UInt8 := [89, 180, 0, 66, 4, 96, 181, 0, 66, 167, 255, 170, 42, 180, 0, 66, 21, 4, 159, 0, 15, 21, 5, 27]
abbrev dktX2_number_4 : List UInt8 := dkwX2_number_4 ++ dktX2_number_5
def dkwX2_number_3 : List UInt8 := [182, 0, 83, 16, 10, 21, 5, 104, 42, 180, 0, 9, 42, 180, 0, 66, 51, 96, 16, 48, 100, 54, 5, 42]
abbrev dktX2_number_3 : List UInt8 := dkwX2_number_3 ++ dktX2_number_4
def dkwX2_number_2 : List UInt8 := [180, 0, 66, 51, 16, 57, 163, 0, 53, 42, 180, 0, 66, 21, 4, 100, 6, 160, 0, 9, 42, 21, 4]
abbrev dktX2_number_2 : List UInt8 := dkwX2_number_2 ++ dktX2_number_3
def dkwX2_number_1 : List UInt8 := [162, 0, 81, 42, 180, 0, 9, 42, 180, 0, 66, 51, 16, 48, 161, 0, 67, 42, 180, 0, 9, 42]
abbrev dktX2_number_1 : List UInt8 := dkwX2_number_1 ++ dktX2_number_2
def dkwX2_number_0 : List UInt8 := [42, 182, 0, 72, 62, 42, 180, 0, 66, 54, 4, 3, 54, 5, 42, 180, 0, 66, 42, 180, 0, 69]
abbrev dktX2_number_0 : List UInt8 := dkwX2_number_0 ++ dktX2_number_1
theorem dksX2_number_0 : cX2_number.data.toList.drop 0 = dktX2_number_0 := by decide +kernel
theorem dksX2_number_1 : cX2_number.data.toList.drop 22 = dktX2_number_1 := dk_seg dksX2_number_0 22 rfl rfl
theorem dksX2_number_2 : cX2_number.data.toList.drop 44 = dktX2_number_2 := dk_seg dksX2_number_1 22 rfl rfl
theorem dksX2_number_3 : cX2_number.data.toList.drop 67 = dktX2_number_3 := dk_seg dksX2_number_2 23 rfl rfl
theorem dksX2_number_4 : cX2_number.data.toList.drop 91 = dktX2_number_4 := dk_seg dksX2_number_3 24 rfl rfl
theorem dksX2_number_5 : cX2_number.data.toList.drop 115 = dktX2_number_5 := dk_seg dksX2_number_4 24 rfl rfl
theorem dX2_number_0 : decode cX2_number 0 = .ok (.aload_n 0, 1) := dk_42 (dk_at dksX2_number_0 0 rfl rfl)
theorem dX2_number_1 : decode cX2_number 1 = .ok (.invokevirtual 72, 3) := dk_182 0 72 (dk_at dksX2_number_0 1 rfl rfl)
theorem dX2_number_4 : decode cX2_number 4 = .ok (.istore_n 3, 1) := dk_62 (dk_at dksX2_number_0 4 rfl rfl)
theorem dX2_number_5 : decode cX2_number 5 = .ok (.aload_n 0, 1) := dk_42 (dk_at dksX2_number_0 5 rfl rfl)
theorem dX2_number_6 : decode cX2_number 6 = .ok (.getfield 66, 3) := dk_180 0 66 (dk_at dksX2_number_0 6 rfl rfl)
theorem dX2_number_9 : decode cX2_number 9 = .ok (.istore 4, 2) := dk_54 4 (dk_at dksX2_number_0 9 rfl rfl)
theorem dX2_number_11 : decode cX2_number 11 = .ok (.iconst 0, 1) := dk_3 (dk_at dksX2_number_0 11 rfl rfl)
theorem dX2_number_12 : decode cX2_number 12 = .ok (.istore 5, 2) := dk_54 5 (dk_at dksX2_number_0 12 rfl rfl)
theorem dX2_number_14 : decode cX2_number 14 = .ok (.aload_n 0, 1) := dk_42 (dk_at dksX2_number_0 14 rfl rfl)
theorem dX2_number_15 : decode cX2_number 15 = .ok (.getfield 66, 3) := dk_180 0 66 (dk_at dksX2_number_0 15 rfl rfl)
theorem dX2_number_18 : decode cX2_number 18 = .ok (.aload_n 0, 1) := dk_42 (dk_at dksX2_number_0 18 rfl rfl)
theorem dX2_number_19 : decode cX2_number 19 = .ok (.getfield 69, 3) := dk_180 0 69 (dk_at dksX2_number_0 19 rfl rfl)
theorem dX2_number_22 : decode cX2_number 22 = .ok (.if_icmp .ge 81, 3) := dk_162 0 81 (dk_at dksX2_number_1 0 rfl rfl)
theorem dX2_number_25 : decode cX2_number 25 = .ok (.aload_n 0, 1) := dk_42 (dk_at dksX2_number_1 3 rfl rfl)
theorem dX2_number_26 : decode cX2_number 26 = .ok (.getfield 9, 3) := dk_180 0 9 (dk_at dksX2_number_1 4 rfl rfl)
theorem dX2_number_29 : decode cX2_number 29 = .ok (.aload_n 0, 1) := dk_42 (dk_at dksX2_number_1 7 rfl rfl)
theorem dX2_number_30 : decode cX2_number 30 = .ok (.getfield 66, 3) := dk_180 0 66 (dk_at dksX2_number_1 8 rfl rfl)
theorem dX2_number_33 : decode cX2_number 33 = .ok (.baload, 1) := dk_51 (dk_at dksX2_number_1 11 rfl rfl)
theorem dX2_number_34 : decode cX2_number 34 = .ok (.bipush 48, 2) := dk_16 48 (dk_at dksX2_number_1 12 rfl rfl)
theorem dX2_number_36 : decode cX2_number 36 = .ok (.if_icmp .lt 67, 3) := dk_161 0 67 (dk_at dksX2_number_1 14 rfl rfl)
theorem dX2_number_39 : decode cX2_number 39 = .ok (.aload_n 0, 1) := dk_42 (dk_at dksX2_number_1 17 rfl rfl)
theorem dX2_number_40 : decode cX2_number 40 = .ok (.getfield 9, 3) := dk_180 0 9 (dk_at dksX2_number_1 18 rfl rfl)
theorem dX2_number_43 : decode cX2_number 43 = .ok (.aload_n 0, 1) := dk_42 (dk_at dksX2_number_1 21 rfl rfl)
theorem dX2_number_44 : decode cX2_number 44 = .ok (.getfield 66, 3) := dk_180 0 66 (dk_at dksX2_number_2 0 rfl rfl)
theorem dX2_number_47 : decode cX2_number 47 = .ok (.baload, 1) := dk_51 (dk_at dksX2_number_2 3 rfl rfl)
theorem dX2_number_48 : decode cX2_number 48 = .ok (.bipush 57, 2) := dk_16 57 (dk_at dksX2_number_2 4 rfl rfl)
theorem dX2_number_50 : decode cX2_number 50 = .ok (.if_icmp .gt 53, 3) := dk_163 0 53 (dk_at dksX2_number_2 6 rfl rfl)
theorem dX2_number_53 : decode cX2_number 53 = .ok (.aload_n 0, 1) := dk_42 (dk_at dksX2_number_2 9 rfl rfl)
theorem dX2_number_54 : decode cX2_number 54 = .ok (.getfield 66, 3) := dk_180 0 66 (dk_at dksX2_number_2 10 rfl rfl)
theorem dX2_number_57 : decode cX2_number 57 = .ok (.iload 4, 2) := dk_21 4 (dk_at dksX2_number_2 13 rfl rfl)
theorem dX2_number_59 : decode cX2_number 59 = .ok (.isub, 1) := dk_100 (dk_at dksX2_number_2 15 rfl rfl)
theorem dX2_number_60 : decode cX2_number 60 = .ok (.iconst 3, 1) := dk_6 (dk_at dksX2_number_2 16 rfl rfl)
theorem dX2_number_61 : decode cX2_number 61 = .ok (.if_icmp .ne 9, 3) := dk_160 0 9 (dk_at dksX2_number_2 17 rfl rfl)
theorem dX2_number_64 : decode cX2_number 64 = .ok (.aload_n 0, 1) := dk_42 (dk_at dksX2_number_2 20 rfl rfl)
theorem dX2_number_65 : decode cX2_number 65 = .ok (.iload 4, 2) := dk_21 4 (dk_at dksX2_number_2 21 rfl rfl)
theorem dX2_number_67 : decode cX2_number 67 = .ok (.invokevirtual 83, 3) := dk_182 0 83 (dk_at dksX2_number_3 0 rfl rfl)
theorem dX2_number_70 : decode cX2_number 70 = .ok (.bipush 10, 2) := dk_16 10 (dk_at dksX2_number_3 3 rfl rfl)
theorem dX2_number_72 : decode cX2_number 72 = .ok (.iload 5, 2) := dk_21 5 (dk_at dksX2_number_3 5 rfl rfl)
theorem dX2_number_74 : decode cX2_number 74 = .ok (.imul, 1) := dk_104 (dk_at dksX2_number_3 7 rfl rfl)
theorem dX2_number_75 : decode cX2_number 75 = .ok (.aload_n 0, 1) := dk_42 (dk_at dksX2_number_3 8 rfl rfl)
theorem dX2_number_76 : decode cX2_number 76 = .ok (.getfield 9, 3) := dk_180 0 9 (dk_at dksX2_number_3 9 rfl rfl)
theorem dX2_number_79 : decode cX2_number 79 = .ok (.aload_n 0, 1) := dk_42 (dk_at dksX2_number_3 12 rfl rfl)
theorem dX2_number_80 : decode cX2_number 80 = .ok (.getfield 66, 3) := dk_180 0 66 (dk_at dksX2_number_3 13 rfl rfl)
theorem dX2_number_83 : decode cX2_number 83 = .ok (.baload, 1) := dk_51 (dk_at dksX2_number_3 16 rfl rfl)
theorem dX2_number_84 : decode cX2_number 84 = .ok (.iadd, 1) := dk_96 (dk_at dksX2_number_3 17 rfl rfl)
theorem dX2_number_85 : decode cX2_number 85 = .ok (.bipush 48, 2) := dk_16 48 (dk_at dksX2_number_3 18 rfl rfl)
theorem dX2_number_87 : decode cX2_number 87 = .ok (.isub, 1) := dk_100 (dk_at dksX2_number_3 20 rfl rfl)
theorem dX2_number_88 : decode cX2_number 88 = .ok (.istore 5, 2) := dk_54 5 (dk_at dksX2_number_3 21 rfl rfl)
theorem dX2_number_90 : decode cX2_number 90 = .ok (.aload_n 0, 1) := dk_42 (dk_at dksX2_number_3 23 rfl rfl)
theorem dX2_number_91 : decode cX2_number 91 = .ok (.dup, 1) := dk_89 (dk_at dksX2_number_4 0 rfl rfl)
theorem dX2_number_92 : decode cX2_number 92 = .ok (.getfield 66, 3) := dk_180 0 66 (dk_at dksX2_number_4 1 rfl rfl)
theorem dX2_number_95 : decode cX2_number 95 = .ok (.iconst 1, 1) := dk_4 (dk_at dksX2_number_4 4 rfl rfl)
theorem dX2_number_96 : decode cX2_number 96 = .ok (.iadd, 1) := dk_96 (dk_at dksX2_number_4 5 rfl rfl)
theorem dX2_number_97 : decode cX2_number 97 = .ok (.putfield 66, 3) := dk_181 0 66 (dk_at dksX2_number_4 6 rfl rfl)
theorem dX2_number_100 : decode cX2_number 100 = .ok (.goto (-86), 3) := dk_167 255 170 (dk_at dksX2_number_4 9 rfl rfl)
theorem dX2_number_103 : decode cX2_number 103 = .ok (.aload_n 0, 1) := dk_42 (dk_at dksX2_number_4 12 rfl rfl)
theorem dX2_number_104 : decode cX2_number 104 = .ok (.getfield 66, 3) := dk_180 0 66 (dk_at dksX2_number_4 13 rfl rfl)
theorem dX2_number_107 : decode cX2_number 107 = .ok (.iload 4, 2) := dk_21 4 (dk_at dksX2_number_4 16 rfl rfl)
theorem dX2_number_109 : decode cX2_number 109 = .ok (.if_icmp .eq 15, 3) := dk_159 0 15 (dk_at dksX2_number_4 18 rfl rfl)
theorem dX2_number_112 : decode cX2_number 112 = .ok (.iload 5, 2) := dk_21 5 (dk_at dksX2_number_4 21 rfl rfl)
theorem dX2_number_114 : decode cX2_number 114 = .ok (.iload_n 1, 1) := dk_27 (dk_at dksX2_number_4 23 rfl rfl)
theorem dX2_number_115 : decode cX2_number 115 = .ok (.if_icmp .lt 9, 3) := dk_161 0 9 (dk_at dksX2_number_5 0 rfl rfl)
theorem dX2_number_118 : decode cX2_number 118 = .ok (.iload 5, 2) := dk_21 5 (dk_at dksX2_number_5 3 rfl rfl)
theorem dX2_number_120 : decode cX2_number 120 = .ok (.iload_n 2, 1) := dk_28 (dk_at dksX2_number_5 5 rfl rfl)
theorem dX2_number_121 : decode cX2_number 121 = .ok (.if_icmp .le 9, 3) := dk_164 0 9 (dk_at dksX2_number_5 6 rfl rfl)
theorem dX2_number_124 : decode cX2_number 124 = .ok (.aload_n 0, 1) := dk_42 (dk_at dksX2_number_5 9 rfl rfl)
theorem dX2_number_125 : decode cX2_number 125 = .ok (.iload 4, 2) := dk_21 4 (dk_at dksX2_number_5 10 rfl rfl)
theorem dX2_number_127 : decode cX2_number 127 = .ok (.invokevirtual 83, 3) := dk_182 0 83 (dk_at dksX2_number_5 12 rfl rfl)
theorem dX2_number_130 : decode cX2_number 130 = .ok (.iload 5, 2) := dk_21 5 (dk_at dksX2_number_5 15 rfl rfl)
theorem dX2_number_132 : decode cX2_number 132 = .ok (.ireturn, 1) := dk_172 (dk_at dksX2_number_5 17 rfl rfl)
def dkwX2_playLine_3 : List UInt8 := [3, 182, 0, 144, 167, 0, 4, 1, 183, 0, 147, 176]
abbrev dktX2_playLine_3 : List UInt8 := dkwX2_playLine_3 ++ []
def dkwX2_playLine_2 : List UInt8 := [181, 0, 66, 42, 182, 0, 139, 61, 187, 0, 35, 89, 27, 28, 42, 18, 142, 182, 0, 114, 153, 0, 11, 42]
abbrev dktX2_playLine_2 : List UInt8 := dkwX2_playLine_2 ++ dktX2_playLine_3
def dkwX2_playLine_1 : List UInt8 := [182, 0, 120, 60, 2, 61, 42, 182, 0, 72, 16, 42, 160, 0, 18, 42, 89, 180, 0, 66, 4, 96]
abbrev dktX2_playLine_1 : List UInt8 := dkwX2_playLine_1 ++ dktX2_playLine_2
def dkwX2_playLine_0 : List UInt8 := [42, 18, 137, 182, 0, 114, 154, 0, 11, 42, 42, 180, 0, 66, 182, 0, 83, 42, 3, 17, 3, 231]
abbrev dktX2_playLine_0 : List UInt8 := dkwX2_playLine_0 ++ dktX2_playLine_1
theorem dksX2_playLine_0 : cX2_playLine.data.toList.drop 0 = dktX2_playLine_0 := by decide +kernel
theorem dksX2_playLine_1 : cX2_playLine.data.toList.drop 22 = dktX2_playLine_1 := dk_seg dksX2_playLine_0 22 rfl rfl
theorem dksX2_playLine_2 : cX2_playLine.data.toList.drop 44 = dktX2_playLine_2 := dk_seg dksX2_playLine_1 22 rfl rfl
theorem dksX2_playLine_3 : cX2_playLine.data.toList.drop 68 = dktX2_playLine_3 := dk_seg dksX2_playLine_2 24 rfl rfl
theorem dX2_playLine_0 : decode cX2_playLine 0 = .ok (.aload_n 0, 1) := dk_42 (dk_at dksX2_playLine_0 0 rfl rfl)
theorem dX2_playLine_1 : decode cX2_playLine 1 = .ok (.ldc 137, 2) := dk_18 137 (dk_at dksX2_playLine_0 1 rfl rfl)
theorem dX2_playLine_3 : decode cX2_playLine 3 = .ok (.invokevirtual 114, 3) := dk_182 0 114 (dk_at dksX2_playLine_0 3 rfl rfl)
theorem dX2_playLine_6 : decode cX2_playLine 6 = .ok (.ifCond .ne 11, 3) := dk_154 0 11 (dk_at dksX2_playLine_0 6 rfl rfl)
theorem dX2_playLine_9 : decode cX2_playLine 9 = .ok (.aload_n 0, 1) := dk_42 (dk_at dksX2_playLine_0 9 rfl rfl)
theorem dX2_playLine_10 : decode cX2_playLine 10 = .ok (.aload_n 0, 1) := dk_42 (dk_at dksX2_playLine_0 10 rfl rfl)
theorem dX2_playLine_11 : decode cX2_playLine 11 = .ok (.getfield 66, 3) := dk_180 0 66 (dk_at dksX2_playLine_0 11 rfl rfl)
theorem dX2_playLine_14 : decode cX2_playLine 14 = .ok (.invokevirtual 83, 3) := dk_182 0 83 (dk_at dksX2_playLine_0 14 rfl rfl)
theorem dX2_playLine_17 : decode cX2_playLine 17 = .ok (.aload_n 0, 1) := dk_42 (dk_at dksX2_playLine_0 17 rfl rfl)
theorem dX2_playLine_18 : decode cX2_playLine 18 = .ok (.iconst 0, 1) := dk_3 (dk_at dksX2_playLine_0 18 rfl rfl)
theorem dX2_playLine_19 : decode cX2_playLine 19 = .ok (.sipush 999, 3) := dk_17 3 231 (dk_at dksX2_playLine_0 19 rfl rfl)
theorem dX2_playLine_22 : decode cX2_playLine 22 = .ok (.invokevirtual 120, 3) := dk_182 0 120 (dk_at dksX2_playLine_1 0 rfl rfl)
theorem dX2_playLine_25 : decode cX2_playLine 25 = .ok (.istore_n 1, 1) := dk_60 (dk_at dksX2_playLine_1 3 rfl rfl)
theorem dX2_playLine_26 : decode cX2_playLine 26 = .ok (.iconst (-1), 1) := dk_2 (dk_at dksX2_playLine_1 4 rfl rfl)
theorem dX2_playLine_27 : decode cX2_playLine 27 = .ok (.istore_n 2, 1) := dk_61 (dk_at dksX2_playLine_1 5 rfl rfl)
theorem dX2_playLine_28 : decode cX2_playLine 28 = .ok (.aload_n 0, 1) := dk_42 (dk_at dksX2_playLine_1 6 rfl rfl)
theorem dX2_playLine_29 : decode cX2_playLine 29 = .ok (.invokevirtual 72, 3) := dk_182 0 72 (dk_at dksX2_playLine_1 7 rfl rfl)
theorem dX2_playLine_32 : decode cX2_playLine 32 = .ok (.bipush 42, 2) := dk_16 42 (dk_at dksX2_playLine_1 10 rfl rfl)
theorem dX2_playLine_34 : decode cX2_playLine 34 = .ok (.if_icmp .ne 18, 3) := dk_160 0 18 (dk_at dksX2_playLine_1 12 rfl rfl)
theorem dX2_playLine_37 : decode cX2_playLine 37 = .ok (.aload_n 0, 1) := dk_42 (dk_at dksX2_playLine_1 15 rfl rfl)
theorem dX2_playLine_38 : decode cX2_playLine 38 = .ok (.dup, 1) := dk_89 (dk_at dksX2_playLine_1 16 rfl rfl)
theorem dX2_playLine_39 : decode cX2_playLine 39 = .ok (.getfield 66, 3) := dk_180 0 66 (dk_at dksX2_playLine_1 17 rfl rfl)
theorem dX2_playLine_42 : decode cX2_playLine 42 = .ok (.iconst 1, 1) := dk_4 (dk_at dksX2_playLine_1 20 rfl rfl)
theorem dX2_playLine_43 : decode cX2_playLine 43 = .ok (.iadd, 1) := dk_96 (dk_at dksX2_playLine_1 21 rfl rfl)
theorem dX2_playLine_44 : decode cX2_playLine 44 = .ok (.putfield 66, 3) := dk_181 0 66 (dk_at dksX2_playLine_2 0 rfl rfl)
theorem dX2_playLine_47 : decode cX2_playLine 47 = .ok (.aload_n 0, 1) := dk_42 (dk_at dksX2_playLine_2 3 rfl rfl)
theorem dX2_playLine_48 : decode cX2_playLine 48 = .ok (.invokevirtual 139, 3) := dk_182 0 139 (dk_at dksX2_playLine_2 4 rfl rfl)
theorem dX2_playLine_51 : decode cX2_playLine 51 = .ok (.istore_n 2, 1) := dk_61 (dk_at dksX2_playLine_2 7 rfl rfl)
theorem dX2_playLine_52 : decode cX2_playLine 52 = .ok (.new 35, 3) := dk_187 0 35 (dk_at dksX2_playLine_2 8 rfl rfl)
theorem dX2_playLine_55 : decode cX2_playLine 55 = .ok (.dup, 1) := dk_89 (dk_at dksX2_playLine_2 11 rfl rfl)
theorem dX2_playLine_56 : decode cX2_playLine 56 = .ok (.iload_n 1, 1) := dk_27 (dk_at dksX2_playLine_2 12 rfl rfl)
theorem dX2_playLine_57 : decode cX2_playLine 57 = .ok (.iload_n 2, 1) := dk_28 (dk_at dksX2_playLine_2 13 rfl rfl)
theorem dX2_playLine_58 : decode cX2_playLine 58 = .ok (.aload_n 0, 1) := dk_42 (dk_at dksX2_playLine_2 14 rfl rfl)
theorem dX2_playLine_59 : decode cX2_playLine 59 = .ok (.ldc 142, 2) := dk_18 142 (dk_at dksX2_playLine_2 15 rfl rfl)
theorem dX2_playLine_61 : decode cX2_playLine 61 = .ok (.invokevirtual 114, 3) := dk_182 0 114 (dk_at dksX2_playLine_2 17 rfl rfl)
theorem dX2_playLine_64 : decode cX2_playLine 64 = .ok (.ifCond .eq 11, 3) := dk_153 0 11 (dk_at dksX2_playLine_2 20 rfl rfl)
theorem dX2_playLine_67 : decode cX2_playLine 67 = .ok (.aload_n 0, 1) := dk_42 (dk_at dksX2_playLine_2 23 rfl rfl)
theorem dX2_playLine_68 : decode cX2_playLine 68 = .ok (.iconst 0, 1) := dk_3 (dk_at dksX2_playLine_3 0 rfl rfl)
theorem dX2_playLine_69 : decode cX2_playLine 69 = .ok (.invokevirtual 144, 3) := dk_182 0 144 (dk_at dksX2_playLine_3 1 rfl rfl)
theorem dX2_playLine_72 : decode cX2_playLine 72 = .ok (.goto 4, 3) := dk_167 0 4 (dk_at dksX2_playLine_3 4 rfl rfl)
theorem dX2_playLine_75 : decode cX2_playLine 75 = .ok (.aconst_null, 1) := dk_1 (dk_at dksX2_playLine_3 7 rfl rfl)
theorem dX2_playLine_76 : decode cX2_playLine 76 = .ok (.invokespecial 147, 3) := dk_183 0 147 (dk_at dksX2_playLine_3 8 rfl rfl)
theorem dX2_playLine_79 : decode cX2_playLine 79 = .ok (.areturn, 1) := dk_176 (dk_at dksX2_playLine_3 11 rfl rfl)
def dkwX2_fact_1 : List UInt8 := [132, 1, 1, 167, 255, 233, 42, 42, 180, 0, 66, 182, 0, 83, 2, 172]
abbrev dktX2_fact_1 : List UInt8 := dkwX2_fact_1 ++ []
def dkwX2_fact_0 : List UInt8 := [3, 60, 27, 7, 162, 0, 24, 42, 42, 180, 0, 25, 27, 50, 182, 0, 114, 153, 0, 5, 27, 172]
abbrev dktX2_fact_0 : List UInt8 := dkwX2_fact_0 ++ dktX2_fact_1
theorem dksX2_fact_0 : cX2_fact.data.toList.drop 0 = dktX2_fact_0 := by decide +kernel
theorem dksX2_fact_1 : cX2_fact.data.toList.drop 22 = dktX2_fact_1 := dk_seg dksX2_fact_0 22 rfl rfl
theorem dX2_fact_0 : decode cX2_fact 0 = .ok (.iconst 0, 1) := dk_3 (dk_at dksX2_fact_0 0 rfl rfl)
theorem dX2_fact_1 : decode cX2_fact 1 = .ok (.istore_n 1, 1) := dk_60 (dk_at dksX2_fact_0 1 rfl rfl)
theorem dX2_fact_2 : decode cX2_fact 2 = .ok (.iload_n 1, 1) := dk_27 (dk_at dksX2_fact_0 2 rfl rfl)
theorem dX2_fact_3 : decode cX2_fact 3 = .ok (.iconst 4, 1) := dk_7 (dk_at dksX2_fact_0 3 rfl rfl)
theorem dX2_fact_4 : decode cX2_fact 4 = .ok (.if_icmp .ge 24, 3) := dk_162 0 24 (dk_at dksX2_fact_0 4 rfl rfl)
theorem dX2_fact_7 : decode cX2_fact 7 = .ok (.aload_n 0, 1) := dk_42 (dk_at dksX2_fact_0 7 rfl rfl)
theorem dX2_fact_8 : decode cX2_fact 8 = .ok (.aload_n 0, 1) := dk_42 (dk_at dksX2_fact_0 8 rfl rfl)
theorem dX2_fact_9 : decode cX2_fact 9 = .ok (.getfield 25, 3) := dk_180 0 25 (dk_at dksX2_fact_0 9 rfl rfl)
theorem dX2_fact_12 : decode cX2_fact 12 = .ok (.iload_n 1, 1) := dk_27 (dk_at dksX2_fact_0 12 rfl rfl)
theorem dX2_fact_13 : decode cX2_fact 13 = .ok (.aaload, 1) := dk_50 (dk_at dksX2_fact_0 13 rfl rfl)
theorem dX2_fact_14 : decode cX2_fact 14 = .ok (.invokevirtual 114, 3) := dk_182 0 114 (dk_at dksX2_fact_0 14 rfl rfl)
theorem dX2_fact_17 : decode cX2_fact 17 = .ok (.ifCond .eq 5, 3) := dk_153 0 5 (dk_at dksX2_fact_0 17 rfl rfl)
theorem dX2_fact_20 : decode cX2_fact 20 = .ok (.iload_n 1, 1) := dk_27 (dk_at dksX2_fact_0 20 rfl rfl)
theorem dX2_fact_21 : decode cX2_fact 21 = .ok (.ireturn, 1) := dk_172 (dk_at dksX2_fact_0 21 rfl rfl)
theorem dX2_fact_22 : decode cX2_fact 22 = .ok (.iinc 1 1, 3) := dk_132 1 1 (dk_at dksX2_fact_1 0 rfl rfl)
theorem dX2_fact_25 : decode cX2_fact 25 = .ok (.goto (-23), 3) := dk_167 255 233 (dk_at dksX2_fact_1 3 rfl rfl)
theorem dX2_fact_28 : decode cX2_fact 28 = .ok (.aload_n 0, 1) := dk_42 (dk_at dksX2_fact_1 6 rfl rfl)
theorem dX2_fact_29 : decode cX2_fact 29 = .ok (.aload_n 0, 1) := dk_42 (dk_at dksX2_fact_1 7 rfl rfl)
theorem dX2_fact_30 : decode cX2_fact 30 = .ok (.getfield 66, 3) := dk_180 0 66 (dk_at dksX2_fact_1 8 rfl rfl)
theorem dX2_fact_33 : decode cX2_fact 33 = .ok (.invokevirtual 83, 3) := dk_182 0 83 (dk_at dksX2_fact_1 11 rfl rfl)
theorem dX2_fact_36 : decode cX2_fact 36 = .ok (.iconst (-1), 1) := dk_2 (dk_at dksX2_fact_1 14 rfl rfl)
theorem dX2_fact_37 : decode cX2_fact 37 = .ok (.ireturn, 1) := dk_172 (dk_at dksX2_fact_1 15 rfl rfl)
def dkwX2_row_3 : List UInt8 := [181, 0, 163, 45, 180, 0, 163, 78, 167, 255, 205, 44, 176]
abbrev dktX2_row_3 : List UInt8 := dkwX2_row_3 ++ []
def dkwX2_row_2 : List UInt8 := [187, 0, 150, 89, 27, 153, 0, 10, 42, 182, 0, 152, 167, 0, 8, 42, 4, 182, 0, 144, 27, 183, 0, 156]
abbrev dktX2_row_2 : List UInt8 := dkwX2_row_2 ++ dktX2_row_3
def dkwX2_row_1 : List UInt8 := [77, 44, 78, 42, 27, 153, 0, 8, 18, 159, 167, 0, 5, 18, 161, 182, 0, 114, 153, 0, 39, 45]
abbrev dktX2_row_1 : List UInt8 := dkwX2_row_1 ++ dktX2_row_2
def dkwX2_row_0 : List UInt8 := [187, 0, 150, 89, 27, 153, 0, 10, 42, 182, 0, 152, 167, 0, 8, 42, 4, 182, 0, 144, 27, 183, 0, 156]
abbrev dktX2_row_0 : List UInt8 := dkwX2_row_0 ++ dktX2_row_1
theorem dksX2_row_0 : cX2_row.data.toList.drop 0 = dktX2_row_0 := by decide +kernel
theorem dksX2_row_1 : cX2_row.data.toList.drop 24 = dktX2_row_1 := dk_seg dksX2_row_0 24 rfl rfl
theorem dksX2_row_2 : cX2_row.data.toList.drop 46 = dktX2_row_2 := dk_seg dksX2_row_1 22 rfl rfl
theorem dksX2_row_3 : cX2_row.data.toList.drop 70 = dktX2_row_3 := dk_seg dksX2_row_2 24 rfl rfl
theorem dX2_row_0 : decode cX2_row 0 = .ok (.new 150, 3) := dk_187 0 150 (dk_at dksX2_row_0 0 rfl rfl)
theorem dX2_row_3 : decode cX2_row 3 = .ok (.dup, 1) := dk_89 (dk_at dksX2_row_0 3 rfl rfl)
theorem dX2_row_4 : decode cX2_row 4 = .ok (.iload_n 1, 1) := dk_27 (dk_at dksX2_row_0 4 rfl rfl)
theorem dX2_row_5 : decode cX2_row 5 = .ok (.ifCond .eq 10, 3) := dk_153 0 10 (dk_at dksX2_row_0 5 rfl rfl)
theorem dX2_row_8 : decode cX2_row 8 = .ok (.aload_n 0, 1) := dk_42 (dk_at dksX2_row_0 8 rfl rfl)
theorem dX2_row_9 : decode cX2_row 9 = .ok (.invokevirtual 152, 3) := dk_182 0 152 (dk_at dksX2_row_0 9 rfl rfl)
theorem dX2_row_12 : decode cX2_row 12 = .ok (.goto 8, 3) := dk_167 0 8 (dk_at dksX2_row_0 12 rfl rfl)
theorem dX2_row_15 : decode cX2_row 15 = .ok (.aload_n 0, 1) := dk_42 (dk_at dksX2_row_0 15 rfl rfl)
theorem dX2_row_16 : decode cX2_row 16 = .ok (.iconst 1, 1) := dk_4 (dk_at dksX2_row_0 16 rfl rfl)
theorem dX2_row_17 : decode cX2_row 17 = .ok (.invokevirtual 144, 3) := dk_182 0 144 (dk_at dksX2_row_0 17 rfl rfl)
theorem dX2_row_20 : decode cX2_row 20 = .ok (.iload_n 1, 1) := dk_27 (dk_at dksX2_row_0 20 rfl rfl)
theorem dX2_row_21 : decode cX2_row 21 = .ok (.invokespecial 156, 3) := dk_183 0 156 (dk_at dksX2_row_0 21 rfl rfl)
theorem dX2_row_24 : decode cX2_row 24 = .ok (.astore_n 2, 1) := dk_77 (dk_at dksX2_row_1 0 rfl rfl)
theorem dX2_row_25 : decode cX2_row 25 = .ok (.aload_n 2, 1) := dk_44 (dk_at dksX2_row_1 1 rfl rfl)
theorem dX2_row_26 : decode cX2_row 26 = .ok (.astore_n 3, 1) := dk_78 (dk_at dksX2_row_1 2 rfl rfl)
theorem dX2_row_27 : decode cX2_row 27 = .ok (.aload_n 0, 1) := dk_42 (dk_at dksX2_row_1 3 rfl rfl)
theorem dX2_row_28 : decode cX2_row 28 = .ok (.iload_n 1, 1) := dk_27 (dk_at dksX2_row_1 4 rfl rfl)
theorem dX2_row_29 : decode cX2_row 29 = .ok (.ifCond .eq 8, 3) := dk_153 0 8 (dk_at dksX2_row_1 5 rfl rfl)
theorem dX2_row_32 : decode cX2_row 32 = .ok (.ldc 159, 2) := dk_18 159 (dk_at dksX2_row_1 8 rfl rfl)
theorem dX2_row_34 : decode cX2_row 34 = .ok (.goto 5, 3) := dk_167 0 5 (dk_at dksX2_row_1 10 rfl rfl)
theorem dX2_row_37 : decode cX2_row 37 = .ok (.ldc 161, 2) := dk_18 161 (dk_at dksX2_row_1 13 rfl rfl)
theorem dX2_row_39 : decode cX2_row 39 = .ok (.invokevirtual 114, 3) := dk_182 0 114 (dk_at dksX2_row_1 15 rfl rfl)
theorem dX2_row_42 : decode cX2_row 42 = .ok (.ifCond .eq 39, 3) := dk_153 0 39 (dk_at dksX2_row_1 18 rfl rfl)
theorem dX2_row_45 : decode cX2_row 45 = .ok (.aload_n 3, 1) := dk_45 (dk_at dksX2_row_1 21 rfl rfl)
theorem dX2_row_46 : decode cX2_row 46 = .ok (.new 150, 3) := dk_187 0 150 (dk_at dksX2_row_2 0 rfl rfl)
theorem dX2_row_49 : decode cX2_row 49 = .ok (.dup, 1) := dk_89 (dk_at dksX2_row_2 3 rfl rfl)
theorem dX2_row_50 : decode cX2_row 50 = .ok (.iload_n 1, 1) := dk_27 (dk_at dksX2_row_2 4 rfl rfl)
theorem dX2_row_51 : decode cX2_row 51 = .ok (.ifCond .eq 10, 3) := dk_153 0 10 (dk_at dksX2_row_2 5 rfl rfl)
theorem dX2_row_54 : decode cX2_row 54 = .ok (.aload_n 0, 1) := dk_42 (dk_at dksX2_row_2 8 rfl rfl)
theorem dX2_row_55 : decode cX2_row 55 = .ok (.invokevirtual 152, 3) := dk_182 0 152 (dk_at dksX2_row_2 9 rfl rfl)
theorem dX2_row_58 : decode cX2_row 58 = .ok (.goto 8, 3) := dk_167 0 8 (dk_at dksX2_row_2 12 rfl rfl)
theorem dX2_row_61 : decode cX2_row 61 = .ok (.aload_n 0, 1) := dk_42 (dk_at dksX2_row_2 15 rfl rfl)
theorem dX2_row_62 : decode cX2_row 62 = .ok (.iconst 1, 1) := dk_4 (dk_at dksX2_row_2 16 rfl rfl)
theorem dX2_row_63 : decode cX2_row 63 = .ok (.invokevirtual 144, 3) := dk_182 0 144 (dk_at dksX2_row_2 17 rfl rfl)
theorem dX2_row_66 : decode cX2_row 66 = .ok (.iload_n 1, 1) := dk_27 (dk_at dksX2_row_2 20 rfl rfl)
theorem dX2_row_67 : decode cX2_row 67 = .ok (.invokespecial 156, 3) := dk_183 0 156 (dk_at dksX2_row_2 21 rfl rfl)
theorem dX2_row_70 : decode cX2_row 70 = .ok (.putfield 163, 3) := dk_181 0 163 (dk_at dksX2_row_3 0 rfl rfl)
theorem dX2_row_73 : decode cX2_row 73 = .ok (.aload_n 3, 1) := dk_45 (dk_at dksX2_row_3 3 rfl rfl)
theorem dX2_row_74 : decode cX2_row 74 = .ok (.getfield 163, 3) := dk_180 0 163 (dk_at dksX2_row_3 4 rfl rfl)
theorem dX2_row_77 : decode cX2_row 77 = .ok (.astore_n 3, 1) := dk_78 (dk_at dksX2_row_3 7 rfl rfl)
theorem dX2_row_78 : decode cX2_row 78 = .ok (.goto (-51), 3) := dk_167 255 205 (dk_at dksX2_row_3 8 rfl rfl)
theorem dX2_row_81 : decode cX2_row 81 = .ok (.aload_n 2, 1) := dk_44 (dk_at dksX2_row_3 11 rfl rfl)
theorem dX2_row_82 : decode cX2_row 82 = .ok (.areturn, 1) := dk_176 (dk_at dksX2_row_3 12 rfl rfl)
def dkwX2_atom_5 : List UInt8 := [181, 0, 66, 42, 89, 180, 0, 87, 4, 100, 181, 0, 87, 25, 4, 176]
abbrev dktX2_atom_5 : List UInt8 := dkwX2_atom_5 ++ []
def dkwX2_atom_4 : List UInt8 := [182, 0, 72, 16, 41, 159, 0, 11, 42, 42, 180, 0, 66, 182, 0, 83, 42, 89, 180, 0, 66, 4, 96]
abbrev dktX2_atom_4 : List UInt8 := dkwX2_atom_4 ++ dktX2_atom_5
def dkwX2_atom_3 : List UInt8 := [58, 4, 167, 0, 47, 42, 89, 180, 0, 66, 4, 96, 181, 0, 66, 42, 3, 182, 0, 144, 58, 4, 42]
abbrev dktX2_atom_3 : List UInt8 := dkwX2_atom_3 ++ dktX2_atom_4
def dkwX2_atom_2 : List UInt8 := [180, 0, 87, 4, 96, 181, 0, 87, 29, 153, 0, 19, 187, 0, 172, 89, 42, 182, 0, 152, 183, 0, 174]
abbrev dktX2_atom_2 : List UInt8 := dkwX2_atom_2 ++ dktX2_atom_3
def dkwX2_atom_1 : List UInt8 := [159, 0, 8, 42, 182, 0, 169, 176, 42, 180, 0, 87, 16, 6, 160, 0, 8, 42, 28, 182, 0, 83, 42, 89]
abbrev dktX2_atom_1 : List UInt8 := dkwX2_atom_1 ++ dktX2_atom_2
def dkwX2_atom_0 : List UInt8 := [42, 182, 0, 72, 60, 42, 180, 0, 66, 61, 42, 18, 167, 182, 0, 114, 62, 29, 154, 0, 14, 27, 16, 40]
abbrev dktX2_atom_0 : List UInt8 := dkwX2_atom_0 ++ dktX2_atom_1
theorem dksX2_atom_0 : cX2_atom.data.toList.drop 0 = dktX2_atom_0 := by decide +kernel
theorem dksX2_atom_1 : cX2_atom.data.toList.drop 24 = dktX2_atom_1 := dk_seg dksX2_atom_0 24 rfl rfl
theorem dksX2_atom_2 : cX2_atom.data.toList.drop 48 = dktX2_atom_2 := dk_seg dksX2_atom_1 24 rfl rfl
theorem dksX2_atom_3 : cX2_atom.data.toList.drop 71 = dktX2_atom_3 := dk_seg dksX2_atom_2 23 rfl rfl
theorem dksX2_atom_4 : cX2_atom.data.toList.drop 94 = dktX2_atom_4 := dk_seg dksX2_atom_3 23 rfl rfl
theorem dksX2_atom_5 : cX2_atom.data.toList.drop 117 = dktX2_atom_5 := dk_seg dksX2_atom_4 23 rfl rfl
theorem dX2_atom_0 : decode cX2_atom 0 = .ok (.aload_n 0, 1) := dk_42 (dk_at dksX2_atom_0 0 rfl rfl)
theorem dX2_atom_1 : decode cX2_atom 1 = .ok (.invokevirtual 72, 3) := dk_182 0 72 (dk_at dksX2_atom_0 1 rfl rfl)
theorem dX2_atom_4 : decode cX2_atom 4 = .ok (.istore_n 1, 1) := dk_60 (dk_at dksX2_atom_0 4 rfl rfl)
theorem dX2_atom_5 : decode cX2_atom 5 = .ok (.aload_n 0, 1) := dk_42 (dk_at dksX2_atom_0 5 rfl rfl)
theorem dX2_atom_6 : decode cX2_atom 6 = .ok (.getfield 66, 3) := dk_180 0 66 (dk_at dksX2_atom_0 6 rfl rfl)
theorem dX2_atom_9 : decode cX2_atom 9 = .ok (.istore_n 2, 1) := dk_61 (dk_at dksX2_atom_0 9 rfl rfl)
theorem dX2_atom_10 : decode cX2_atom 10 = .ok (.aload_n 0, 1) := dk_42 (dk_at dksX2_atom_0 10 rfl rfl)
theorem dX2_atom_11 : decode cX2_atom 11 = .ok (.ldc 167, 2) := dk_18 167 (dk_at dksX2_atom_0 11 rfl rfl)
theorem dX2_atom_13 : decode cX2_atom 13 = .ok (.invokevirtual 114, 3) := dk_182 0 114 (dk_at dksX2_atom_0 13 rfl rfl)
theorem dX2_atom_16 : decode cX2_atom 16 = .ok (.istore_n 3, 1) := dk_62 (dk_at dksX2_atom_0 16 rfl rfl)
theorem dX2_atom_17 : decode cX2_atom 17 = .ok (.iload_n 3, 1) := dk_29 (dk_at dksX2_atom_0 17 rfl rfl)
theorem dX2_atom_18 : decode cX2_atom 18 = .ok (.ifCond .ne 14, 3) := dk_154 0 14 (dk_at dksX2_atom_0 18 rfl rfl)
theorem dX2_atom_21 : decode cX2_atom 21 = .ok (.iload_n 1, 1) := dk_27 (dk_at dksX2_atom_0 21 rfl rfl)
theorem dX2_atom_22 : decode cX2_atom 22 = .ok (.bipush 40, 2) := dk_16 40 (dk_at dksX2_atom_0 22 rfl rfl)
theorem dX2_atom_24 : decode cX2_atom 24 = .ok (.if_icmp .eq 8, 3) := dk_159 0 8 (dk_at dksX2_atom_1 0 rfl rfl)
theorem dX2_atom_27 : decode cX2_atom 27 = .ok (.aload_n 0, 1) := dk_42 (dk_at dksX2_atom_1 3 rfl rfl)
theorem dX2_atom_28 : decode cX2_atom 28 = .ok (.invokevirtual 169, 3) := dk_182 0 169 (dk_at dksX2_atom_1 4 rfl rfl)
theorem dX2_atom_31 : decode cX2_atom 31 = .ok (.areturn, 1) := dk_176 (dk_at dksX2_atom_1 7 rfl rfl)
theorem dX2_atom_32 : decode cX2_atom 32 = .ok (.aload_n 0, 1) := dk_42 (dk_at dksX2_atom_1 8 rfl rfl)
theorem dX2_atom_33 : decode cX2_atom 33 = .ok (.getfield 87, 3) := dk_180 0 87 (dk_at dksX2_atom_1 9 rfl rfl)
theorem dX2_atom_36 : decode cX2_atom 36 = .ok (.bipush 6, 2) := dk_16 6 (dk_at dksX2_atom_1 12 rfl rfl)
theorem dX2_atom_38 : decode cX2_atom 38 = .ok (.if_icmp .ne 8, 3) := dk_160 0 8 (dk_at dksX2_atom_1 14 rfl rfl)
theorem dX2_atom_41 : decode cX2_atom 41 = .ok (.aload_n 0, 1) := dk_42 (dk_at dksX2_atom_1 17 rfl rfl)
theorem dX2_atom_42 : decode cX2_atom 42 = .ok (.iload_n 2, 1) := dk_28 (dk_at dksX2_atom_1 18 rfl rfl)
theorem dX2_atom_43 : decode cX2_atom 43 = .ok (.invokevirtual 83, 3) := dk_182 0 83 (dk_at dksX2_atom_1 19 rfl rfl)
theorem dX2_atom_46 : decode cX2_atom 46 = .ok (.aload_n 0, 1) := dk_42 (dk_at dksX2_atom_1 22 rfl rfl)
theorem dX2_atom_47 : decode cX2_atom 47 = .ok (.dup, 1) := dk_89 (dk_at dksX2_atom_1 23 rfl rfl)
theorem dX2_atom_48 : decode cX2_atom 48 = .ok (.getfield 87, 3) := dk_180 0 87 (dk_at dksX2_atom_2 0 rfl rfl)
theorem dX2_atom_51 : decode cX2_atom 51 = .ok (.iconst 1, 1) := dk_4 (dk_at dksX2_atom_2 3 rfl rfl)
theorem dX2_atom_52 : decode cX2_atom 52 = .ok (.iadd, 1) := dk_96 (dk_at dksX2_atom_2 4 rfl rfl)
theorem dX2_atom_53 : decode cX2_atom 53 = .ok (.putfield 87, 3) := dk_181 0 87 (dk_at dksX2_atom_2 5 rfl rfl)
theorem dX2_atom_56 : decode cX2_atom 56 = .ok (.iload_n 3, 1) := dk_29 (dk_at dksX2_atom_2 8 rfl rfl)
theorem dX2_atom_57 : decode cX2_atom 57 = .ok (.ifCond .eq 19, 3) := dk_153 0 19 (dk_at dksX2_atom_2 9 rfl rfl)
theorem dX2_atom_60 : decode cX2_atom 60 = .ok (.new 172, 3) := dk_187 0 172 (dk_at dksX2_atom_2 12 rfl rfl)
theorem dX2_atom_63 : decode cX2_atom 63 = .ok (.dup, 1) := dk_89 (dk_at dksX2_atom_2 15 rfl rfl)
theorem dX2_atom_64 : decode cX2_atom 64 = .ok (.aload_n 0, 1) := dk_42 (dk_at dksX2_atom_2 16 rfl rfl)
theorem dX2_atom_65 : decode cX2_atom 65 = .ok (.invokevirtual 152, 3) := dk_182 0 152 (dk_at dksX2_atom_2 17 rfl rfl)
theorem dX2_atom_68 : decode cX2_atom 68 = .ok (.invokespecial 174, 3) := dk_183 0 174 (dk_at dksX2_atom_2 20 rfl rfl)
theorem dX2_atom_71 : decode cX2_atom 71 = .ok (.astore 4, 2) := dk_58 4 (dk_at dksX2_atom_3 0 rfl rfl)
theorem dX2_atom_73 : decode cX2_atom 73 = .ok (.goto 47, 3) := dk_167 0 47 (dk_at dksX2_atom_3 2 rfl rfl)
theorem dX2_atom_76 : decode cX2_atom 76 = .ok (.aload_n 0, 1) := dk_42 (dk_at dksX2_atom_3 5 rfl rfl)
theorem dX2_atom_77 : decode cX2_atom 77 = .ok (.dup, 1) := dk_89 (dk_at dksX2_atom_3 6 rfl rfl)
theorem dX2_atom_78 : decode cX2_atom 78 = .ok (.getfield 66, 3) := dk_180 0 66 (dk_at dksX2_atom_3 7 rfl rfl)
theorem dX2_atom_81 : decode cX2_atom 81 = .ok (.iconst 1, 1) := dk_4 (dk_at dksX2_atom_3 10 rfl rfl)
theorem dX2_atom_82 : decode cX2_atom 82 = .ok (.iadd, 1) := dk_96 (dk_at dksX2_atom_3 11 rfl rfl)
theorem dX2_atom_83 : decode cX2_atom 83 = .ok (.putfield 66, 3) := dk_181 0 66 (dk_at dksX2_atom_3 12 rfl rfl)
theorem dX2_atom_86 : decode cX2_atom 86 = .ok (.aload_n 0, 1) := dk_42 (dk_at dksX2_atom_3 15 rfl rfl)
theorem dX2_atom_87 : decode cX2_atom 87 = .ok (.iconst 0, 1) := dk_3 (dk_at dksX2_atom_3 16 rfl rfl)
theorem dX2_atom_88 : decode cX2_atom 88 = .ok (.invokevirtual 144, 3) := dk_182 0 144 (dk_at dksX2_atom_3 17 rfl rfl)
theorem dX2_atom_91 : decode cX2_atom 91 = .ok (.astore 4, 2) := dk_58 4 (dk_at dksX2_atom_3 20 rfl rfl)
theorem dX2_atom_93 : decode cX2_atom 93 = .ok (.aload_n 0, 1) := dk_42 (dk_at dksX2_atom_3 22 rfl rfl)
theorem dX2_atom_94 : decode cX2_atom 94 = .ok (.invokevirtual 72, 3) := dk_182 0 72 (dk_at dksX2_atom_4 0 rfl rfl)
theorem dX2_atom_97 : decode cX2_atom 97 = .ok (.bipush 41, 2) := dk_16 41 (dk_at dksX2_atom_4 3 rfl rfl)
theorem dX2_atom_99 : decode cX2_atom 99 = .ok (.if_icmp .eq 11, 3) := dk_159 0 11 (dk_at dksX2_atom_4 5 rfl rfl)
theorem dX2_atom_102 : decode cX2_atom 102 = .ok (.aload_n 0, 1) := dk_42 (dk_at dksX2_atom_4 8 rfl rfl)
theorem dX2_atom_103 : decode cX2_atom 103 = .ok (.aload_n 0, 1) := dk_42 (dk_at dksX2_atom_4 9 rfl rfl)
theorem dX2_atom_104 : decode cX2_atom 104 = .ok (.getfield 66, 3) := dk_180 0 66 (dk_at dksX2_atom_4 10 rfl rfl)
theorem dX2_atom_107 : decode cX2_atom 107 = .ok (.invokevirtual 83, 3) := dk_182 0 83 (dk_at dksX2_atom_4 13 rfl rfl)
theorem dX2_atom_110 : decode cX2_atom 110 = .ok (.aload_n 0, 1) := dk_42 (dk_at dksX2_atom_4 16 rfl rfl)
theorem dX2_atom_111 : decode cX2_atom 111 = .ok (.dup, 1) := dk_89 (dk_at dksX2_atom_4 17 rfl rfl)
theorem dX2_atom_112 : decode cX2_atom 112 = .ok (.getfield 66, 3) := dk_180 0 66 (dk_at dksX2_atom_4 18 rfl rfl)
theorem dX2_atom_115 : decode cX2_atom 115 = .ok (.iconst 1, 1) := dk_4 (dk_at dksX2_atom_4 21 rfl rfl)
theorem dX2_atom_116 : decode cX2_atom 116 = .ok (.iadd, 1) := dk_96 (dk_at dksX2_atom_4 22 rfl rfl)
theorem dX2_atom_117 : decode cX2_atom 117 = .ok (.putfield 66, 3) := dk_181 0 66 (dk_at dksX2_atom_5 0 rfl rfl)
theorem dX2_atom_120 : decode cX2_atom 120 = .ok (.aload_n 0, 1) := dk_42 (dk_at dksX2_atom_5 3 rfl rfl)
theorem dX2_atom_121 : decode cX2_atom 121 = .ok (.dup, 1) := dk_89 (dk_at dksX2_atom_5 4 rfl rfl)
theorem dX2_atom_122 : decode cX2_atom 122 = .ok (.getfield 87, 3) := dk_180 0 87 (dk_at dksX2_atom_5 5 rfl rfl)
theorem dX2_atom_125 : decode cX2_atom 125 = .ok (.iconst 1, 1) := dk_4 (dk_at dksX2_atom_5 8 rfl rfl)
theorem dX2_atom_126 : decode cX2_atom 126 = .ok (.isub, 1) := dk_100 (dk_at dksX2_atom_5 9 rfl rfl)
theorem dX2_atom_127 : decode cX2_atom 127 = .ok (.putfield 87, 3) := dk_181 0 87 (dk_at dksX2_atom_5 10 rfl rfl)
theorem dX2_atom_130 : decode cX2_atom 130 = .ok (.aload 4, 2) := dk_25 4 (dk_at dksX2_atom_5 13 rfl rfl)
theorem dX2_atom_132 : decode cX2_atom 132 = .ok (.areturn, 1) := dk_176 (dk_at dksX2_atom_5 15 rfl rfl)
def dkwX2_tag_4 : List UInt8 := [183, 0, 189, 167, 0, 12, 187, 0, 187, 89, 45, 43, 183, 0, 189, 176]
abbrev dktX2_tag_4 : List UInt8 := dkwX2_tag_4 ++ []
def dkwX2_tag_3 : List UInt8 := [4, 96, 181, 0, 66, 42, 182, 0, 183, 78, 28, 16, 60, 160, 0, 15, 187, 0, 187, 89, 43, 45]
abbrev dktX2_tag_3 : List UInt8 := dkwX2_tag_3 ++ dktX2_tag_4
def dkwX2_tag_2 : List UInt8 := [16, 60, 159, 0, 17, 28, 16, 62, 159, 0, 11, 42, 42, 180, 0, 66, 182, 0, 83, 42, 89, 180, 0, 66]
abbrev dktX2_tag_2 : List UInt8 := dkwX2_tag_2 ++ dktX2_tag_3
def dkwX2_tag_1 : List UInt8 := [153, 0, 12, 187, 0, 178, 89, 8, 183, 0, 180, 176, 42, 182, 0, 183, 76, 42, 182, 0, 72, 61, 28]
abbrev dktX2_tag_1 : List UInt8 := dkwX2_tag_1 ++ dktX2_tag_2
def dkwX2_tag_0 : List UInt8 := [42, 18, 177, 182, 0, 114, 153, 0, 12, 187, 0, 178, 89, 7, 183, 0, 180, 176, 42, 18, 181, 182, 0, 114]
abbrev dktX2_tag_0 : List UInt8 := dkwX2_tag_0 ++ dktX2_tag_1
theorem dksX2_tag_0 : cX2_tag.data.toList.drop 0 = dktX2_tag_0 := by decide +kernel
theorem dksX2_tag_1 : cX2_tag.data.toList.drop 24 = dktX2_tag_1 := dk_seg dksX2_tag_0 24 rfl rfl
theorem dksX2_tag_2 : cX2_tag.data.toList.drop 47 = dktX2_tag_2 := dk_seg dksX2_tag_1 23 rfl rfl
theorem dksX2_tag_3 : cX2_tag.data.toList.drop 71 = dktX2_tag_3 := dk_seg dksX2_tag_2 24 rfl rfl
theorem dksX2_tag_4 : cX2_tag.data.toList.drop 93 = dktX2_tag_4 := dk_seg dksX2_tag_3 22 rfl rfl
theorem dX2_tag_0 : decode cX2_tag 0 = .ok (.aload_n 0, 1) := dk_42 (dk_at dksX2_tag_0 0 rfl rfl)
theorem dX2_tag_1 : decode cX2_tag 1 = .ok (.ldc 177, 2) := dk_18 177 (dk_at dksX2_tag_0 1 rfl rfl)
theorem dX2_tag_3 : decode cX2_tag 3 = .ok (.invokevirtual 114, 3) := dk_182 0 114 (dk_at dksX2_tag_0 3 rfl rfl)
theorem dX2_tag_6 : decode cX2_tag 6 = .ok (.ifCond .eq 12, 3) := dk_153 0 12 (dk_at dksX2_tag_0 6 rfl rfl)
theorem dX2_tag_9 : decode cX2_tag 9 = .ok (.new 178, 3) := dk_187 0 178 (dk_at dksX2_tag_0 9 rfl rfl)
theorem dX2_tag_12 : decode cX2_tag 12 = .ok (.dup, 1) := dk_89 (dk_at dksX2_tag_0 12 rfl rfl)
theorem dX2_tag_13 : decode cX2_tag 13 = .ok (.iconst 4, 1) := dk_7 (dk_at dksX2_tag_0 13 rfl rfl)
theorem dX2_tag_14 : decode cX2_tag 14 = .ok (.invokespecial 180, 3) := dk_183 0 180 (dk_at dksX2_tag_0 14 rfl rfl)
theorem dX2_tag_17 : decode cX2_tag 17 = .ok (.areturn, 1) := dk_176 (dk_at dksX2_tag_0 17 rfl rfl)
theorem dX2_tag_18 : decode cX2_tag 18 = .ok (.aload_n 0, 1) := dk_42 (dk_at dksX2_tag_0 18 rfl rfl)
theorem dX2_tag_19 : decode cX2_tag 19 = .ok (.ldc 181, 2) := dk_18 181 (dk_at dksX2_tag_0 19 rfl rfl)
theorem dX2_tag_21 : decode cX2_tag 21 = .ok (.invokevirtual 114, 3) := dk_182 0 114 (dk_at dksX2_tag_0 21 rfl rfl)
theorem dX2_tag_24 : decode cX2_tag 24 = .ok (.ifCond .eq 12, 3) := dk_153 0 12 (dk_at dksX2_tag_1 0 rfl rfl)
theorem dX2_tag_27 : decode cX2_tag 27 = .ok (.new 178, 3) := dk_187 0 178 (dk_at dksX2_tag_1 3 rfl rfl)
theorem dX2_tag_30 : decode cX2_tag 30 = .ok (.dup, 1) := dk_89 (dk_at dksX2_tag_1 6 rfl rfl)
theorem dX2_tag_31 : decode cX2_tag 31 = .ok (.iconst 5, 1) := dk_8 (dk_at dksX2_tag_1 7 rfl rfl)
theorem dX2_tag_32 : decode cX2_tag 32 = .ok (.invokespecial 180, 3) := dk_183 0 180 (dk_at dksX2_tag_1 8 rfl rfl)
theorem dX2_tag_35 : decode cX2_tag 35 = .ok (.areturn, 1) := dk_176 (dk_at dksX2_tag_1 11 rfl rfl)
theorem dX2_tag_36 : decode cX2_tag 36 = .ok (.aload_n 0, 1) := dk_42 (dk_at dksX2_tag_1 12 rfl rfl)
theorem dX2_tag_37 : decode cX2_tag 37 = .ok (.invokevirtual 183, 3) := dk_182 0 183 (dk_at dksX2_tag_1 13 rfl rfl)
theorem dX2_tag_40 : decode cX2_tag 40 = .ok (.astore_n 1, 1) := dk_76 (dk_at dksX2_tag_1 16 rfl rfl)
theorem dX2_tag_41 : decode cX2_tag 41 = .ok (.aload_n 0, 1) := dk_42 (dk_at dksX2_tag_1 17 rfl rfl)
theorem dX2_tag_42 : decode cX2_tag 42 = .ok (.invokevirtual 72, 3) := dk_182 0 72 (dk_at dksX2_tag_1 18 rfl rfl)
theorem dX2_tag_45 : decode cX2_tag 45 = .ok (.istore_n 2, 1) := dk_61 (dk_at dksX2_tag_1 21 rfl rfl)
theorem dX2_tag_46 : decode cX2_tag 46 = .ok (.iload_n 2, 1) := dk_28 (dk_at dksX2_tag_1 22 rfl rfl)
theorem dX2_tag_47 : decode cX2_tag 47 = .ok (.bipush 60, 2) := dk_16 60 (dk_at dksX2_tag_2 0 rfl rfl)
theorem dX2_tag_49 : decode cX2_tag 49 = .ok (.if_icmp .eq 17, 3) := dk_159 0 17 (dk_at dksX2_tag_2 2 rfl rfl)
theorem dX2_tag_52 : decode cX2_tag 52 = .ok (.iload_n 2, 1) := dk_28 (dk_at dksX2_tag_2 5 rfl rfl)
theorem dX2_tag_53 : decode cX2_tag 53 = .ok (.bipush 62, 2) := dk_16 62 (dk_at dksX2_tag_2 6 rfl rfl)
theorem dX2_tag_55 : decode cX2_tag 55 = .ok (.if_icmp .eq 11, 3) := dk_159 0 11 (dk_at dksX2_tag_2 8 rfl rfl)
theorem dX2_tag_58 : decode cX2_tag 58 = .ok (.aload_n 0, 1) := dk_42 (dk_at dksX2_tag_2 11 rfl rfl)
theorem dX2_tag_59 : decode cX2_tag 59 = .ok (.aload_n 0, 1) := dk_42 (dk_at dksX2_tag_2 12 rfl rfl)
theorem dX2_tag_60 : decode cX2_tag 60 = .ok (.getfield 66, 3) := dk_180 0 66 (dk_at dksX2_tag_2 13 rfl rfl)
theorem dX2_tag_63 : decode cX2_tag 63 = .ok (.invokevirtual 83, 3) := dk_182 0 83 (dk_at dksX2_tag_2 16 rfl rfl)
theorem dX2_tag_66 : decode cX2_tag 66 = .ok (.aload_n 0, 1) := dk_42 (dk_at dksX2_tag_2 19 rfl rfl)
theorem dX2_tag_67 : decode cX2_tag 67 = .ok (.dup, 1) := dk_89 (dk_at dksX2_tag_2 20 rfl rfl)
theorem dX2_tag_68 : decode cX2_tag 68 = .ok (.getfield 66, 3) := dk_180 0 66 (dk_at dksX2_tag_2 21 rfl rfl)
theorem dX2_tag_71 : decode cX2_tag 71 = .ok (.iconst 1, 1) := dk_4 (dk_at dksX2_tag_3 0 rfl rfl)
theorem dX2_tag_72 : decode cX2_tag 72 = .ok (.iadd, 1) := dk_96 (dk_at dksX2_tag_3 1 rfl rfl)
theorem dX2_tag_73 : decode cX2_tag 73 = .ok (.putfield 66, 3) := dk_181 0 66 (dk_at dksX2_tag_3 2 rfl rfl)
theorem dX2_tag_76 : decode cX2_tag 76 = .ok (.aload_n 0, 1) := dk_42 (dk_at dksX2_tag_3 5 rfl rfl)
theorem dX2_tag_77 : decode cX2_tag 77 = .ok (.invokevirtual 183, 3) := dk_182 0 183 (dk_at dksX2_tag_3 6 rfl rfl)
theorem dX2_tag_80 : decode cX2_tag 80 = .ok (.astore_n 3, 1) := dk_78 (dk_at dksX2_tag_3 9 rfl rfl)
theorem dX2_tag_81 : decode cX2_tag 81 = .ok (.iload_n 2, 1) := dk_28 (dk_at dksX2_tag_3 10 rfl rfl)
theorem dX2_tag_82 : decode cX2_tag 82 = .ok (.bipush 60, 2) := dk_16 60 (dk_at dksX2_tag_3 11 rfl rfl)
theorem dX2_tag_84 : decode cX2_tag 84 = .ok (.if_icmp .ne 15, 3) := dk_160 0 15 (dk_at dksX2_tag_3 13 rfl rfl)
theorem dX2_tag_87 : decode cX2_tag 87 = .ok (.new 187, 3) := dk_187 0 187 (dk_at dksX2_tag_3 16 rfl rfl)
theorem dX2_tag_90 : decode cX2_tag 90 = .ok (.dup, 1) := dk_89 (dk_at dksX2_tag_3 19 rfl rfl)
theorem dX2_tag_91 : decode cX2_tag 91 = .ok (.aload_n 1, 1) := dk_43 (dk_at dksX2_tag_3 20 rfl rfl)
theorem dX2_tag_92 : decode cX2_tag 92 = .ok (.aload_n 3, 1) := dk_45 (dk_at dksX2_tag_3 21 rfl rfl)
theorem dX2_tag_93 : decode cX2_tag 93 = .ok (.invokespecial 189, 3) := dk_183 0 189 (dk_at dksX2_tag_4 0 rfl rfl)
theorem dX2_tag_96 : decode cX2_tag 96 = .ok (.goto 12, 3) := dk_167 0 12 (dk_at dksX2_tag_4 3 rfl rfl)
theorem dX2_tag_99 : decode cX2_tag 99 = .ok (.new 187, 3) := dk_187 0 187 (dk_at dksX2_tag_4 6 rfl rfl)
theorem dX2_tag_102 : decode cX2_tag 102 = .ok (.dup, 1) := dk_89 (dk_at dksX2_tag_4 9 rfl rfl)
theorem dX2_tag_103 : decode cX2_tag 103 = .ok (.aload_n 3, 1) := dk_45 (dk_at dksX2_tag_4 10 rfl rfl)
theorem dX2_tag_104 : decode cX2_tag 104 = .ok (.aload_n 1, 1) := dk_43 (dk_at dksX2_tag_4 11 rfl rfl)
theorem dX2_tag_105 : decode cX2_tag 105 = .ok (.invokespecial 189, 3) := dk_183 0 189 (dk_at dksX2_tag_4 12 rfl rfl)
theorem dX2_tag_108 : decode cX2_tag 108 = .ok (.areturn, 1) := dk_176 (dk_at dksX2_tag_4 15 rfl rfl)
def dkwX2_sum_1 : List UInt8 := [180, 0, 66, 4, 96, 181, 0, 66, 42, 43, 182, 0, 195, 167, 255, 232, 43, 176]
abbrev dktX2_sum_1 : List UInt8 := dkwX2_sum_1 ++ []
def dkwX2_sum_0 : List UInt8 := [187, 0, 192, 89, 183, 0, 194, 76, 42, 43, 182, 0, 195, 42, 182, 0, 72, 16, 43, 160, 0, 21, 42, 89]
abbrev dktX2_sum_0 : List UInt8 := dkwX2_sum_0 ++ dktX2_sum_1
theorem dksX2_sum_0 : cX2_sum.data.toList.drop 0 = dktX2_sum_0 := by decide +kernel
theorem dksX2_sum_1 : cX2_sum.data.toList.drop 24 = dktX2_sum_1 := dk_seg dksX2_sum_0 24 rfl rfl
theorem dX2_sum_0 : decode cX2_sum 0 = .ok (.new 192, 3) := dk_187 0 192 (dk_at dksX2_sum_0 0 rfl rfl)
theorem dX2_sum_3 : decode cX2_sum 3 = .ok (.dup, 1) := dk_89 (dk_at dksX2_sum_0 3 rfl rfl)
theorem dX2_sum_4 : decode cX2_sum 4 = .ok (.invokespecial 194, 3) := dk_183 0 194 (dk_at dksX2_sum_0 4 rfl rfl)
theorem dX2_sum_7 : decode cX2_sum 7 = .ok (.astore_n 1, 1) := dk_76 (dk_at dksX2_sum_0 7 rfl rfl)
theorem dX2_sum_8 : decode cX2_sum 8 = .ok (.aload_n 0, 1) := dk_42 (dk_at dksX2_sum_0 8 rfl rfl)
theorem dX2_sum_9 : decode cX2_sum 9 = .ok (.aload_n 1, 1) := dk_43 (dk_at dksX2_sum_0 9 rfl rfl)
theorem dX2_sum_10 : decode cX2_sum 10 = .ok (.invokevirtual 195, 3) := dk_182 0 195 (dk_at dksX2_sum_0 10 rfl rfl)
theorem dX2_sum_13 : decode cX2_sum 13 = .ok (.aload_n 0, 1) := dk_42 (dk_at dksX2_sum_0 13 rfl rfl)
theorem dX2_sum_14 : decode cX2_sum 14 = .ok (.invokevirtual 72, 3) := dk_182 0 72 (dk_at dksX2_sum_0 14 rfl rfl)
theorem dX2_sum_17 : decode cX2_sum 17 = .ok (.bipush 43, 2) := dk_16 43 (dk_at dksX2_sum_0 17 rfl rfl)
theorem dX2_sum_19 : decode cX2_sum 19 = .ok (.if_icmp .ne 21, 3) := dk_160 0 21 (dk_at dksX2_sum_0 19 rfl rfl)
theorem dX2_sum_22 : decode cX2_sum 22 = .ok (.aload_n 0, 1) := dk_42 (dk_at dksX2_sum_0 22 rfl rfl)
theorem dX2_sum_23 : decode cX2_sum 23 = .ok (.dup, 1) := dk_89 (dk_at dksX2_sum_0 23 rfl rfl)
theorem dX2_sum_24 : decode cX2_sum 24 = .ok (.getfield 66, 3) := dk_180 0 66 (dk_at dksX2_sum_1 0 rfl rfl)
theorem dX2_sum_27 : decode cX2_sum 27 = .ok (.iconst 1, 1) := dk_4 (dk_at dksX2_sum_1 3 rfl rfl)
theorem dX2_sum_28 : decode cX2_sum 28 = .ok (.iadd, 1) := dk_96 (dk_at dksX2_sum_1 4 rfl rfl)
theorem dX2_sum_29 : decode cX2_sum 29 = .ok (.putfield 66, 3) := dk_181 0 66 (dk_at dksX2_sum_1 5 rfl rfl)
theorem dX2_sum_32 : decode cX2_sum 32 = .ok (.aload_n 0, 1) := dk_42 (dk_at dksX2_sum_1 8 rfl rfl)
theorem dX2_sum_33 : decode cX2_sum 33 = .ok (.aload_n 1, 1) := dk_43 (dk_at dksX2_sum_1 9 rfl rfl)
theorem dX2_sum_34 : decode cX2_sum 34 = .ok (.invokevirtual 195, 3) := dk_182 0 195 (dk_at dksX2_sum_1 10 rfl rfl)
theorem dX2_sum_37 : decode cX2_sum 37 = .ok (.goto (-24), 3) := dk_167 255 232 (dk_at dksX2_sum_1 13 rfl rfl)
theorem dX2_sum_40 : decode cX2_sum 40 = .ok (.aload_n 1, 1) := dk_43 (dk_at dksX2_sum_1 16 rfl rfl)
theorem dX2_sum_41 : decode cX2_sum 41 = .ok (.areturn, 1) := dk_176 (dk_at dksX2_sum_1 17 rfl rfl)
def dkwX2_part_2 : List UInt8 := [96, 79, 177]
abbrev dktX2_part_2 : List UInt8 := dkwX2_part_2 ++ []
def dkwX2_part_1 : List UInt8 := [17, 3, 231, 182, 0, 120, 96, 181, 0, 199, 167, 0, 16, 43, 180, 0, 201, 42, 182, 0, 139, 92, 46, 4]
abbrev dktX2_part_1 : List UInt8 := dkwX2_part_1 ++ dktX2_part_2
def dkwX2_part_0 : List UInt8 := [42, 182, 0, 72, 61, 28, 16, 48, 161, 0, 29, 28, 16, 57, 163, 0, 23, 43, 89, 180, 0, 199, 42, 3]
abbrev dktX2_part_0 : List UInt8 := dkwX2_part_0 ++ dktX2_part_1
theorem dksX2_part_0 : cX2_part.data.toList.drop 0 = dktX2_part_0 := by decide +kernel
theorem dksX2_part_1 : cX2_part.data.toList.drop 24 = dktX2_part_1 := dk_seg dksX2_part_0 24 rfl rfl
theorem dksX2_part_2 : cX2_part.data.toList.drop 48 = dktX2_part_2 := dk_seg dksX2_part_1 24 rfl rfl
theorem dX2_part_0 : decode cX2_part 0 = .ok (.aload_n 0, 1) := dk_42 (dk_at dksX2_part_0 0 rfl rfl)
theorem dX2_part_1 : decode cX2_part 1 = .ok (.invokevirtual 72, 3) := dk_182 0 72 (dk_at dksX2_part_0 1 rfl rfl)
theorem dX2_part_4 : decode cX2_part 4 = .ok (.istore_n 2, 1) := dk_61 (dk_at dksX2_part_0 4 rfl rfl)
theorem dX2_part_5 : decode cX2_part 5 = .ok (.iload_n 2, 1) := dk_28 (dk_at dksX2_part_0 5 rfl rfl)
theorem dX2_part_6 : decode cX2_part 6 = .ok (.bipush 48, 2) := dk_16 48 (dk_at dksX2_part_0 6 rfl rfl)
theorem dX2_part_8 : decode cX2_part 8 = .ok (.if_icmp .lt 29, 3) := dk_161 0 29 (dk_at dksX2_part_0 8 rfl rfl)
theorem dX2_part_11 : decode cX2_part 11 = .ok (.iload_n 2, 1) := dk_28 (dk_at dksX2_part_0 11 rfl rfl)
theorem dX2_part_12 : decode cX2_part 12 = .ok (.bipush 57, 2) := dk_16 57 (dk_at dksX2_part_0 12 rfl rfl)
theorem dX2_part_14 : decode cX2_part 14 = .ok (.if_icmp .gt 23, 3) := dk_163 0 23 (dk_at dksX2_part_0 14 rfl rfl)
theorem dX2_part_17 : decode cX2_part 17 = .ok (.aload_n 1, 1) := dk_43 (dk_at dksX2_part_0 17 rfl rfl)
theorem dX2_part_18 : decode cX2_part 18 = .ok (.dup, 1) := dk_89 (dk_at dksX2_part_0 18 rfl rfl)
theorem dX2_part_19 : decode cX2_part 19 = .ok (.getfield 199, 3) := dk_180 0 199 (dk_at dksX2_part_0 19 rfl rfl)
theorem dX2_part_22 : decode cX2_part 22 = .ok (.aload_n 0, 1) := dk_42 (dk_at dksX2_part_0 22 rfl rfl)
theorem dX2_part_23 : decode cX2_part 23 = .ok (.iconst 0, 1) := dk_3 (dk_at dksX2_part_0 23 rfl rfl)
theorem dX2_part_24 : decode cX2_part 24 = .ok (.sipush 999, 3) := dk_17 3 231 (dk_at dksX2_part_1 0 rfl rfl)
theorem dX2_part_27 : decode cX2_part 27 = .ok (.invokevirtual 120, 3) := dk_182 0 120 (dk_at dksX2_part_1 3 rfl rfl)
theorem dX2_part_30 : decode cX2_part 30 = .ok (.iadd, 1) := dk_96 (dk_at dksX2_part_1 6 rfl rfl)
theorem dX2_part_31 : decode cX2_part 31 = .ok (.putfield 199, 3) := dk_181 0 199 (dk_at dksX2_part_1 7 rfl rfl)
theorem dX2_part_34 : decode cX2_part 34 = .ok (.goto 16, 3) := dk_167 0 16 (dk_at dksX2_part_1 10 rfl rfl)
theorem dX2_part_37 : decode cX2_part 37 = .ok (.aload_n 1, 1) := dk_43 (dk_at dksX2_part_1 13 rfl rfl)
theorem dX2_part_38 : decode cX2_part 38 = .ok (.getfield 201, 3) := dk_180 0 201 (dk_at dksX2_part_1 14 rfl rfl)
theorem dX2_part_41 : decode cX2_part 41 = .ok (.aload_n 0, 1) := dk_42 (dk_at dksX2_part_1 17 rfl rfl)
theorem dX2_part_42 : decode cX2_part 42 = .ok (.invokevirtual 139, 3) := dk_182 0 139 (dk_at dksX2_part_1 18 rfl rfl)
theorem dX2_part_45 : decode cX2_part 45 = .ok (.dup2, 1) := dk_92 (dk_at dksX2_part_1 21 rfl rfl)
theorem dX2_part_46 : decode cX2_part 46 = .ok (.iaload, 1) := dk_46 (dk_at dksX2_part_1 22 rfl rfl)
theorem dX2_part_47 : decode cX2_part 47 = .ok (.iconst 1, 1) := dk_4 (dk_at dksX2_part_1 23 rfl rfl)
theorem dX2_part_48 : decode cX2_part 48 = .ok (.iadd, 1) := dk_96 (dk_at dksX2_part_2 0 rfl rfl)
theorem dX2_part_49 : decode cX2_part 49 = .ok (.iastore, 1) := dk_79 (dk_at dksX2_part_2 1 rfl rfl)
theorem dX2_part_50 : decode cX2_part 50 = .ok (.return_, 1) := dk_177 (dk_at dksX2_part_2 2 rfl rfl)
def dkwX2_measure_0 : List UInt8 := [187, 0, 107, 89, 42, 180, 0, 37, 42, 27, 3, 182, 0, 100, 183, 0, 109, 176]
abbrev dktX2_measure_0 : List UInt8 := dkwX2_measure_0 ++ []
theorem dksX2_measure_0 : cX2_measure.data.toList.drop 0 = dktX2_measure_0 := by decide +kernel
theorem dX2_measure_0 : decode cX2_measure 0 = .ok (.new 107, 3) := dk_187 0 107 (dk_at dksX2_measure_0 0 rfl rfl)
theorem dX2_measure_3 : decode cX2_measure 3 = .ok (.dup, 1) := dk_89 (dk_at dksX2_measure_0 3 rfl rfl)
theorem dX2_measure_4 : decode cX2_measure 4 = .ok (.aload_n 0, 1) := dk_42 (dk_at dksX2_measure_0 4 rfl rfl)
theorem dX2_measure_5 : decode cX2_measure 5 = .ok (.getfield 37, 3) := dk_180 0 37 (dk_at dksX2_measure_0 5 rfl rfl)
theorem dX2_measure_8 : decode cX2_measure 8 = .ok (.aload_n 0, 1) := dk_42 (dk_at dksX2_measure_0 8 rfl rfl)
theorem dX2_measure_9 : decode cX2_measure 9 = .ok (.iload_n 1, 1) := dk_27 (dk_at dksX2_measure_0 9 rfl rfl)
theorem dX2_measure_10 : decode cX2_measure 10 = .ok (.iconst 0, 1) := dk_3 (dk_at dksX2_measure_0 10 rfl rfl)
theorem dX2_measure_11 : decode cX2_measure 11 = .ok (.invokevirtual 100, 3) := dk_182 0 100 (dk_at dksX2_measure_0 11 rfl rfl)
theorem dX2_measure_14 : decode cX2_measure 14 = .ok (.invokespecial 109, 3) := dk_183 0 109 (dk_at dksX2_measure_0 14 rfl rfl)
theorem dX2_measure_17 : decode cX2_measure 17 = .ok (.areturn, 1) := dk_176 (dk_at dksX2_measure_0 17 rfl rfl)
def dkwX16_tells_2 : List UInt8 := [46, 104, 172]
abbrev dktX16_tells_2 : List UInt8 := dkwX16_tells_2 ++ []
def dkwX16_tells_1 : List UInt8 := [42, 180, 0, 15, 2, 160, 0, 10, 42, 180, 0, 9, 167, 0, 14, 42, 180, 0, 9, 43, 42, 180, 0, 15]
abbrev dktX16_tells_1 : List UInt8 := dkwX16_tells_1 ++ dktX16_tells_2
def dkwX16_tells_0 : List UInt8 := [42, 180, 0, 18, 198, 0, 20, 42, 180, 0, 18, 43, 185, 0, 22, 2, 0, 154, 0, 7, 3, 167, 0, 29]
abbrev dktX16_tells_0 : List UInt8 := dkwX16_tells_0 ++ dktX16_tells_1
theorem dksX16_tells_0 : cX16_tells.data.toList.drop 0 = dktX16_tells_0 := by decide +kernel
theorem dksX16_tells_1 : cX16_tells.data.toList.drop 24 = dktX16_tells_1 := dk_seg dksX16_tells_0 24 rfl rfl
theorem dksX16_tells_2 : cX16_tells.data.toList.drop 48 = dktX16_tells_2 := dk_seg dksX16_tells_1 24 rfl rfl
theorem dX16_tells_0 : decode cX16_tells 0 = .ok (.aload_n 0, 1) := dk_42 (dk_at dksX16_tells_0 0 rfl rfl)
theorem dX16_tells_1 : decode cX16_tells 1 = .ok (.getfield 18, 3) := dk_180 0 18 (dk_at dksX16_tells_0 1 rfl rfl)
theorem dX16_tells_4 : decode cX16_tells 4 = .ok (.ifnull 20, 3) := dk_198 0 20 (dk_at dksX16_tells_0 4 rfl rfl)
theorem dX16_tells_7 : decode cX16_tells 7 = .ok (.aload_n 0, 1) := dk_42 (dk_at dksX16_tells_0 7 rfl rfl)
theorem dX16_tells_8 : decode cX16_tells 8 = .ok (.getfield 18, 3) := dk_180 0 18 (dk_at dksX16_tells_0 8 rfl rfl)
theorem dX16_tells_11 : decode cX16_tells 11 = .ok (.aload_n 1, 1) := dk_43 (dk_at dksX16_tells_0 11 rfl rfl)
theorem dX16_tells_12 : decode cX16_tells 12 = .ok (.invokeinterface 22 2, 5) := by decide +kernel
theorem dX16_tells_17 : decode cX16_tells 17 = .ok (.ifCond .ne 7, 3) := dk_154 0 7 (dk_at dksX16_tells_0 17 rfl rfl)
theorem dX16_tells_20 : decode cX16_tells 20 = .ok (.iconst 0, 1) := dk_3 (dk_at dksX16_tells_0 20 rfl rfl)
theorem dX16_tells_21 : decode cX16_tells 21 = .ok (.goto 29, 3) := dk_167 0 29 (dk_at dksX16_tells_0 21 rfl rfl)
theorem dX16_tells_24 : decode cX16_tells 24 = .ok (.aload_n 0, 1) := dk_42 (dk_at dksX16_tells_1 0 rfl rfl)
theorem dX16_tells_25 : decode cX16_tells 25 = .ok (.getfield 15, 3) := dk_180 0 15 (dk_at dksX16_tells_1 1 rfl rfl)
theorem dX16_tells_28 : decode cX16_tells 28 = .ok (.iconst (-1), 1) := dk_2 (dk_at dksX16_tells_1 4 rfl rfl)
theorem dX16_tells_29 : decode cX16_tells 29 = .ok (.if_icmp .ne 10, 3) := dk_160 0 10 (dk_at dksX16_tells_1 5 rfl rfl)
theorem dX16_tells_32 : decode cX16_tells 32 = .ok (.aload_n 0, 1) := dk_42 (dk_at dksX16_tells_1 8 rfl rfl)
theorem dX16_tells_33 : decode cX16_tells 33 = .ok (.getfield 9, 3) := dk_180 0 9 (dk_at dksX16_tells_1 9 rfl rfl)
theorem dX16_tells_36 : decode cX16_tells 36 = .ok (.goto 14, 3) := dk_167 0 14 (dk_at dksX16_tells_1 12 rfl rfl)
theorem dX16_tells_39 : decode cX16_tells 39 = .ok (.aload_n 0, 1) := dk_42 (dk_at dksX16_tells_1 15 rfl rfl)
theorem dX16_tells_40 : decode cX16_tells 40 = .ok (.getfield 9, 3) := dk_180 0 9 (dk_at dksX16_tells_1 16 rfl rfl)
theorem dX16_tells_43 : decode cX16_tells 43 = .ok (.aload_n 1, 1) := dk_43 (dk_at dksX16_tells_1 19 rfl rfl)
theorem dX16_tells_44 : decode cX16_tells 44 = .ok (.aload_n 0, 1) := dk_42 (dk_at dksX16_tells_1 20 rfl rfl)
theorem dX16_tells_45 : decode cX16_tells 45 = .ok (.getfield 15, 3) := dk_180 0 15 (dk_at dksX16_tells_1 21 rfl rfl)
theorem dX16_tells_48 : decode cX16_tells 48 = .ok (.iaload, 1) := dk_46 (dk_at dksX16_tells_2 0 rfl rfl)
theorem dX16_tells_49 : decode cX16_tells 49 = .ok (.imul, 1) := dk_104 (dk_at dksX16_tells_2 1 rfl rfl)
theorem dX16_tells_50 : decode cX16_tells 50 = .ok (.ireturn, 1) := dk_172 (dk_at dksX16_tells_2 2 rfl rfl)
def dkwX16_init_0 : List UInt8 := [42, 183, 0, 3, 42, 27, 181, 0, 9, 42, 28, 181, 0, 15, 42, 45, 181, 0, 18, 177]
abbrev dktX16_init_0 : List UInt8 := dkwX16_init_0 ++ []
theorem dksX16_init_0 : cX16_init.data.toList.drop 0 = dktX16_init_0 := by decide +kernel
theorem dX16_init_0 : decode cX16_init 0 = .ok (.aload_n 0, 1) := dk_42 (dk_at dksX16_init_0 0 rfl rfl)
theorem dX16_init_1 : decode cX16_init 1 = .ok (.invokespecial 3, 3) := dk_183 0 3 (dk_at dksX16_init_0 1 rfl rfl)
theorem dX16_init_4 : decode cX16_init 4 = .ok (.aload_n 0, 1) := dk_42 (dk_at dksX16_init_0 4 rfl rfl)
theorem dX16_init_5 : decode cX16_init 5 = .ok (.iload_n 1, 1) := dk_27 (dk_at dksX16_init_0 5 rfl rfl)
theorem dX16_init_6 : decode cX16_init 6 = .ok (.putfield 9, 3) := dk_181 0 9 (dk_at dksX16_init_0 6 rfl rfl)
theorem dX16_init_9 : decode cX16_init 9 = .ok (.aload_n 0, 1) := dk_42 (dk_at dksX16_init_0 9 rfl rfl)
theorem dX16_init_10 : decode cX16_init 10 = .ok (.iload_n 2, 1) := dk_28 (dk_at dksX16_init_0 10 rfl rfl)
theorem dX16_init_11 : decode cX16_init 11 = .ok (.putfield 15, 3) := dk_181 0 15 (dk_at dksX16_init_0 11 rfl rfl)
theorem dX16_init_14 : decode cX16_init 14 = .ok (.aload_n 0, 1) := dk_42 (dk_at dksX16_init_0 14 rfl rfl)
theorem dX16_init_15 : decode cX16_init 15 = .ok (.aload_n 3, 1) := dk_45 (dk_at dksX16_init_0 15 rfl rfl)
theorem dX16_init_16 : decode cX16_init 16 = .ok (.putfield 18, 3) := dk_181 0 18 (dk_at dksX16_init_0 16 rfl rfl)
theorem dX16_init_19 : decode cX16_init 19 = .ok (.return_, 1) := dk_177 (dk_at dksX16_init_0 19 rfl rfl)
def dkwX17_holds_2 : List UInt8 := [172]
abbrev dktX17_holds_2 : List UInt8 := dkwX17_holds_2 ++ []
def dkwX17_holds_1 : List UInt8 := [180, 0, 13, 154, 0, 7, 4, 167, 0, 4, 3, 172, 44, 180, 0, 23, 77, 167, 255, 217, 42, 180, 0, 13]
abbrev dktX17_holds_1 : List UInt8 := dkwX17_holds_1 ++ dktX17_holds_2
def dkwX17_holds_0 : List UInt8 := [42, 77, 44, 198, 0, 41, 44, 180, 0, 7, 43, 185, 0, 17, 2, 0, 42, 180, 0, 13, 159, 0, 16, 42]
abbrev dktX17_holds_0 : List UInt8 := dkwX17_holds_0 ++ dktX17_holds_1
theorem dksX17_holds_0 : cX17_holds.data.toList.drop 0 = dktX17_holds_0 := by decide +kernel
theorem dksX17_holds_1 : cX17_holds.data.toList.drop 24 = dktX17_holds_1 := dk_seg dksX17_holds_0 24 rfl rfl
theorem dksX17_holds_2 : cX17_holds.data.toList.drop 48 = dktX17_holds_2 := dk_seg dksX17_holds_1 24 rfl rfl
theorem dX17_holds_0 : decode cX17_holds 0 = .ok (.aload_n 0, 1) := dk_42 (dk_at dksX17_holds_0 0 rfl rfl)
theorem dX17_holds_1 : decode cX17_holds 1 = .ok (.astore_n 2, 1) := dk_77 (dk_at dksX17_holds_0 1 rfl rfl)
theorem dX17_holds_2 : decode cX17_holds 2 = .ok (.aload_n 2, 1) := dk_44 (dk_at dksX17_holds_0 2 rfl rfl)
theorem dX17_holds_3 : decode cX17_holds 3 = .ok (.ifnull 41, 3) := dk_198 0 41 (dk_at dksX17_holds_0 3 rfl rfl)
theorem dX17_holds_6 : decode cX17_holds 6 = .ok (.aload_n 2, 1) := dk_44 (dk_at dksX17_holds_0 6 rfl rfl)
theorem dX17_holds_7 : decode cX17_holds 7 = .ok (.getfield 7, 3) := dk_180 0 7 (dk_at dksX17_holds_0 7 rfl rfl)
theorem dX17_holds_10 : decode cX17_holds 10 = .ok (.aload_n 1, 1) := dk_43 (dk_at dksX17_holds_0 10 rfl rfl)
theorem dX17_holds_11 : decode cX17_holds 11 = .ok (.invokeinterface 17 2, 5) := by decide +kernel
theorem dX17_holds_16 : decode cX17_holds 16 = .ok (.aload_n 0, 1) := dk_42 (dk_at dksX17_holds_0 16 rfl rfl)
theorem dX17_holds_17 : decode cX17_holds 17 = .ok (.getfield 13, 3) := dk_180 0 13 (dk_at dksX17_holds_0 17 rfl rfl)
theorem dX17_holds_20 : decode cX17_holds 20 = .ok (.if_icmp .eq 16, 3) := dk_159 0 16 (dk_at dksX17_holds_0 20 rfl rfl)
theorem dX17_holds_23 : decode cX17_holds 23 = .ok (.aload_n 0, 1) := dk_42 (dk_at dksX17_holds_0 23 rfl rfl)
theorem dX17_holds_24 : decode cX17_holds 24 = .ok (.getfield 13, 3) := dk_180 0 13 (dk_at dksX17_holds_1 0 rfl rfl)
theorem dX17_holds_27 : decode cX17_holds 27 = .ok (.ifCond .ne 7, 3) := dk_154 0 7 (dk_at dksX17_holds_1 3 rfl rfl)
theorem dX17_holds_30 : decode cX17_holds 30 = .ok (.iconst 1, 1) := dk_4 (dk_at dksX17_holds_1 6 rfl rfl)
theorem dX17_holds_31 : decode cX17_holds 31 = .ok (.goto 4, 3) := dk_167 0 4 (dk_at dksX17_holds_1 7 rfl rfl)
theorem dX17_holds_34 : decode cX17_holds 34 = .ok (.iconst 0, 1) := dk_3 (dk_at dksX17_holds_1 10 rfl rfl)
theorem dX17_holds_35 : decode cX17_holds 35 = .ok (.ireturn, 1) := dk_172 (dk_at dksX17_holds_1 11 rfl rfl)
theorem dX17_holds_36 : decode cX17_holds 36 = .ok (.aload_n 2, 1) := dk_44 (dk_at dksX17_holds_1 12 rfl rfl)
theorem dX17_holds_37 : decode cX17_holds 37 = .ok (.getfield 23, 3) := dk_180 0 23 (dk_at dksX17_holds_1 13 rfl rfl)
theorem dX17_holds_40 : decode cX17_holds 40 = .ok (.astore_n 2, 1) := dk_77 (dk_at dksX17_holds_1 16 rfl rfl)
theorem dX17_holds_41 : decode cX17_holds 41 = .ok (.goto (-39), 3) := dk_167 255 217 (dk_at dksX17_holds_1 17 rfl rfl)
theorem dX17_holds_44 : decode cX17_holds 44 = .ok (.aload_n 0, 1) := dk_42 (dk_at dksX17_holds_1 20 rfl rfl)
theorem dX17_holds_45 : decode cX17_holds 45 = .ok (.getfield 13, 3) := dk_180 0 13 (dk_at dksX17_holds_1 21 rfl rfl)
theorem dX17_holds_48 : decode cX17_holds 48 = .ok (.ireturn, 1) := dk_172 (dk_at dksX17_holds_2 0 rfl rfl)
def dkwX17_init_0 : List UInt8 := [42, 183, 0, 1, 42, 43, 181, 0, 7, 42, 28, 181, 0, 13, 177]
abbrev dktX17_init_0 : List UInt8 := dkwX17_init_0 ++ []
theorem dksX17_init_0 : cX17_init.data.toList.drop 0 = dktX17_init_0 := by decide +kernel
theorem dX17_init_0 : decode cX17_init 0 = .ok (.aload_n 0, 1) := dk_42 (dk_at dksX17_init_0 0 rfl rfl)
theorem dX17_init_1 : decode cX17_init 1 = .ok (.invokespecial 1, 3) := dk_183 0 1 (dk_at dksX17_init_0 1 rfl rfl)
theorem dX17_init_4 : decode cX17_init 4 = .ok (.aload_n 0, 1) := dk_42 (dk_at dksX17_init_0 4 rfl rfl)
theorem dX17_init_5 : decode cX17_init 5 = .ok (.aload_n 1, 1) := dk_43 (dk_at dksX17_init_0 5 rfl rfl)
theorem dX17_init_6 : decode cX17_init 6 = .ok (.putfield 7, 3) := dk_181 0 7 (dk_at dksX17_init_0 6 rfl rfl)
theorem dX17_init_9 : decode cX17_init 9 = .ok (.aload_n 0, 1) := dk_42 (dk_at dksX17_init_0 9 rfl rfl)
theorem dX17_init_10 : decode cX17_init 10 = .ok (.iload_n 2, 1) := dk_28 (dk_at dksX17_init_0 10 rfl rfl)
theorem dX17_init_11 : decode cX17_init 11 = .ok (.putfield 13, 3) := dk_181 0 13 (dk_at dksX17_init_0 11 rfl rfl)
theorem dX17_init_14 : decode cX17_init 14 = .ok (.return_, 1) := dk_177 (dk_at dksX17_init_0 14 rfl rfl)
def dkwX20_holds_1 : List UInt8 := [172]
abbrev dktX20_holds_1 : List UInt8 := dkwX20_holds_1 ++ []
def dkwX20_holds_0 : List UInt8 := [42, 180, 0, 7, 43, 182, 0, 16, 42, 180, 0, 13, 43, 182, 0, 16, 162, 0, 7, 4, 167, 0, 4, 3]
abbrev dktX20_holds_0 : List UInt8 := dkwX20_holds_0 ++ dktX20_holds_1
theorem dksX20_holds_0 : cX20_holds.data.toList.drop 0 = dktX20_holds_0 := by decide +kernel
theorem dksX20_holds_1 : cX20_holds.data.toList.drop 24 = dktX20_holds_1 := dk_seg dksX20_holds_0 24 rfl rfl
theorem dX20_holds_0 : decode cX20_holds 0 = .ok (.aload_n 0, 1) := dk_42 (dk_at dksX20_holds_0 0 rfl rfl)
theorem dX20_holds_1 : decode cX20_holds 1 = .ok (.getfield 7, 3) := dk_180 0 7 (dk_at dksX20_holds_0 1 rfl rfl)
theorem dX20_holds_4 : decode cX20_holds 4 = .ok (.aload_n 1, 1) := dk_43 (dk_at dksX20_holds_0 4 rfl rfl)
theorem dX20_holds_5 : decode cX20_holds 5 = .ok (.invokevirtual 16, 3) := dk_182 0 16 (dk_at dksX20_holds_0 5 rfl rfl)
theorem dX20_holds_8 : decode cX20_holds 8 = .ok (.aload_n 0, 1) := dk_42 (dk_at dksX20_holds_0 8 rfl rfl)
theorem dX20_holds_9 : decode cX20_holds 9 = .ok (.getfield 13, 3) := dk_180 0 13 (dk_at dksX20_holds_0 9 rfl rfl)
theorem dX20_holds_12 : decode cX20_holds 12 = .ok (.aload_n 1, 1) := dk_43 (dk_at dksX20_holds_0 12 rfl rfl)
theorem dX20_holds_13 : decode cX20_holds 13 = .ok (.invokevirtual 16, 3) := dk_182 0 16 (dk_at dksX20_holds_0 13 rfl rfl)
theorem dX20_holds_16 : decode cX20_holds 16 = .ok (.if_icmp .ge 7, 3) := dk_162 0 7 (dk_at dksX20_holds_0 16 rfl rfl)
theorem dX20_holds_19 : decode cX20_holds 19 = .ok (.iconst 1, 1) := dk_4 (dk_at dksX20_holds_0 19 rfl rfl)
theorem dX20_holds_20 : decode cX20_holds 20 = .ok (.goto 4, 3) := dk_167 0 4 (dk_at dksX20_holds_0 20 rfl rfl)
theorem dX20_holds_23 : decode cX20_holds 23 = .ok (.iconst 0, 1) := dk_3 (dk_at dksX20_holds_0 23 rfl rfl)
theorem dX20_holds_24 : decode cX20_holds 24 = .ok (.ireturn, 1) := dk_172 (dk_at dksX20_holds_1 0 rfl rfl)
def dkwX20_init_0 : List UInt8 := [42, 183, 0, 1, 42, 43, 181, 0, 7, 42, 44, 181, 0, 13, 177]
abbrev dktX20_init_0 : List UInt8 := dkwX20_init_0 ++ []
theorem dksX20_init_0 : cX20_init.data.toList.drop 0 = dktX20_init_0 := by decide +kernel
theorem dX20_init_0 : decode cX20_init 0 = .ok (.aload_n 0, 1) := dk_42 (dk_at dksX20_init_0 0 rfl rfl)
theorem dX20_init_1 : decode cX20_init 1 = .ok (.invokespecial 1, 3) := dk_183 0 1 (dk_at dksX20_init_0 1 rfl rfl)
theorem dX20_init_4 : decode cX20_init 4 = .ok (.aload_n 0, 1) := dk_42 (dk_at dksX20_init_0 4 rfl rfl)
theorem dX20_init_5 : decode cX20_init 5 = .ok (.aload_n 1, 1) := dk_43 (dk_at dksX20_init_0 5 rfl rfl)
theorem dX20_init_6 : decode cX20_init 6 = .ok (.putfield 7, 3) := dk_181 0 7 (dk_at dksX20_init_0 6 rfl rfl)
theorem dX20_init_9 : decode cX20_init 9 = .ok (.aload_n 0, 1) := dk_42 (dk_at dksX20_init_0 9 rfl rfl)
theorem dX20_init_10 : decode cX20_init 10 = .ok (.aload_n 2, 1) := dk_44 (dk_at dksX20_init_0 10 rfl rfl)
theorem dX20_init_11 : decode cX20_init 11 = .ok (.putfield 13, 3) := dk_181 0 13 (dk_at dksX20_init_0 11 rfl rfl)
theorem dX20_init_14 : decode cX20_init 14 = .ok (.return_, 1) := dk_177 (dk_at dksX20_init_0 14 rfl rfl)
def dkwX21_holds_0 : List UInt8 := [42, 180, 0, 7, 43, 185, 0, 13, 2, 0, 154, 0, 7, 4, 167, 0, 4, 3, 172]
abbrev dktX21_holds_0 : List UInt8 := dkwX21_holds_0 ++ []
theorem dksX21_holds_0 : cX21_holds.data.toList.drop 0 = dktX21_holds_0 := by decide +kernel
theorem dX21_holds_0 : decode cX21_holds 0 = .ok (.aload_n 0, 1) := dk_42 (dk_at dksX21_holds_0 0 rfl rfl)
theorem dX21_holds_1 : decode cX21_holds 1 = .ok (.getfield 7, 3) := dk_180 0 7 (dk_at dksX21_holds_0 1 rfl rfl)
theorem dX21_holds_4 : decode cX21_holds 4 = .ok (.aload_n 1, 1) := dk_43 (dk_at dksX21_holds_0 4 rfl rfl)
theorem dX21_holds_5 : decode cX21_holds 5 = .ok (.invokeinterface 13 2, 5) := by decide +kernel
theorem dX21_holds_10 : decode cX21_holds 10 = .ok (.ifCond .ne 7, 3) := dk_154 0 7 (dk_at dksX21_holds_0 10 rfl rfl)
theorem dX21_holds_13 : decode cX21_holds 13 = .ok (.iconst 1, 1) := dk_4 (dk_at dksX21_holds_0 13 rfl rfl)
theorem dX21_holds_14 : decode cX21_holds 14 = .ok (.goto 4, 3) := dk_167 0 4 (dk_at dksX21_holds_0 14 rfl rfl)
theorem dX21_holds_17 : decode cX21_holds 17 = .ok (.iconst 0, 1) := dk_3 (dk_at dksX21_holds_0 17 rfl rfl)
theorem dX21_holds_18 : decode cX21_holds 18 = .ok (.ireturn, 1) := dk_172 (dk_at dksX21_holds_0 18 rfl rfl)
def dkwX21_init_0 : List UInt8 := [42, 183, 0, 1, 42, 43, 181, 0, 7, 177]
abbrev dktX21_init_0 : List UInt8 := dkwX21_init_0 ++ []
theorem dksX21_init_0 : cX21_init.data.toList.drop 0 = dktX21_init_0 := by decide +kernel
theorem dX21_init_0 : decode cX21_init 0 = .ok (.aload_n 0, 1) := dk_42 (dk_at dksX21_init_0 0 rfl rfl)
theorem dX21_init_1 : decode cX21_init 1 = .ok (.invokespecial 1, 3) := dk_183 0 1 (dk_at dksX21_init_0 1 rfl rfl)
theorem dX21_init_4 : decode cX21_init 4 = .ok (.aload_n 0, 1) := dk_42 (dk_at dksX21_init_0 4 rfl rfl)
theorem dX21_init_5 : decode cX21_init 5 = .ok (.aload_n 1, 1) := dk_43 (dk_at dksX21_init_0 5 rfl rfl)
theorem dX21_init_6 : decode cX21_init 6 = .ok (.putfield 7, 3) := dk_181 0 7 (dk_at dksX21_init_0 6 rfl rfl)
theorem dX21_init_9 : decode cX21_init 9 = .ok (.return_, 1) := dk_177 (dk_at dksX21_init_0 9 rfl rfl)
