set_option maxRecDepth 100000
def dkwX1_init_19 : List UInt8 := [167, 255, 234, 177]
abbrev dktX1_init_19 : List UInt8 := dkwX1_init_19 ++ []
def dkwX1_init_18 : List UInt8 := [27, 16, 20, 162, 0, 22, 42, 180, 0, 25, 27, 187, 0, 15, 89, 183, 0, 17, 83, 132, 1, 1]
abbrev dktX1_init_18 : List UInt8 := dkwX1_init_18 ++ dktX1_init_19
def dkwX1_init_17 : List UInt8 := [162, 0, 22, 42, 180, 0, 11, 27, 187, 0, 9, 89, 183, 0, 41, 83, 132, 1, 1, 167, 255, 234, 3, 60]
abbrev dktX1_init_17 : List UInt8 := dkwX1_init_17 ++ dktX1_init_18
def dkwX1_init_16 : List UInt8 := [181, 0, 142, 42, 16, 9, 188, 11, 181, 0, 145, 42, 6, 189, 0, 148, 181, 0, 150, 3, 60, 27, 16, 8]
abbrev dktX1_init_16 : List UInt8 := dkwX1_init_16 ++ dktX1_init_17
def dkwX1_init_15 : List UInt8 := [183, 0, 17, 83, 89, 5, 187, 0, 15, 89, 183, 0, 17, 83, 181, 0, 139, 42, 16, 9, 188, 11]
abbrev dktX1_init_15 : List UInt8 := dkwX1_init_15 ++ dktX1_init_16
def dkwX1_init_14 : List UInt8 := [181, 0, 136, 42, 6, 189, 0, 15, 89, 3, 187, 0, 15, 89, 183, 0, 17, 83, 89, 4, 187, 0, 15, 89]
abbrev dktX1_init_14 : List UInt8 := dkwX1_init_14 ++ dktX1_init_15
def dkwX1_init_13 : List UInt8 := [181, 0, 127, 42, 16, 12, 188, 10, 181, 0, 130, 42, 16, 10, 188, 10, 181, 0, 133, 42, 16, 10, 188, 10]
abbrev dktX1_init_13 : List UInt8 := dkwX1_init_13 ++ dktX1_init_14
def dkwX1_init_12 : List UInt8 := [183, 0, 115, 181, 0, 116, 42, 187, 0, 120, 89, 42, 183, 0, 122, 181, 0, 123, 42, 16, 12, 188, 10]
abbrev dktX1_init_12 : List UInt8 := dkwX1_init_12 ++ dktX1_init_13
def dkwX1_init_11 : List UInt8 := [183, 0, 101, 181, 0, 102, 42, 187, 0, 106, 89, 42, 183, 0, 108, 181, 0, 109, 42, 187, 0, 113, 89, 42]
abbrev dktX1_init_11 : List UInt8 := dkwX1_init_11 ++ dktX1_init_12
def dkwX1_init_10 : List UInt8 := [7, 188, 10, 181, 0, 89, 42, 187, 0, 92, 89, 42, 183, 0, 94, 181, 0, 95, 42, 187, 0, 99, 89, 42]
abbrev dktX1_init_10 : List UInt8 := dkwX1_init_10 ++ dktX1_init_11
def dkwX1_init_9 : List UInt8 := [181, 0, 75, 42, 187, 0, 79, 89, 42, 183, 0, 81, 181, 0, 82, 42, 16, 61, 188, 10, 181, 0, 86, 42]
abbrev dktX1_init_9 : List UInt8 := dkwX1_init_9 ++ dktX1_init_10
def dkwX1_init_8 : List UInt8 := [181, 0, 61, 42, 187, 0, 65, 89, 42, 183, 0, 67, 181, 0, 68, 42, 187, 0, 72, 89, 183, 0, 74]
abbrev dktX1_init_8 : List UInt8 := dkwX1_init_8 ++ dktX1_init_9
def dkwX1_init_7 : List UInt8 := [181, 0, 45, 42, 187, 0, 49, 89, 42, 183, 0, 51, 181, 0, 54, 42, 187, 0, 58, 89, 183, 0, 60]
abbrev dktX1_init_7 : List UInt8 := dkwX1_init_7 ++ dktX1_init_8
def dkwX1_init_6 : List UInt8 := [183, 0, 41, 83, 89, 16, 7, 187, 0, 9, 89, 183, 0, 41, 83, 181, 0, 42, 42, 16, 8, 188, 10]
abbrev dktX1_init_6 : List UInt8 := dkwX1_init_6 ++ dktX1_init_7
def dkwX1_init_5 : List UInt8 := [89, 183, 0, 41, 83, 89, 8, 187, 0, 9, 89, 183, 0, 41, 83, 89, 16, 6, 187, 0, 9, 89]
abbrev dktX1_init_5 : List UInt8 := dkwX1_init_5 ++ dktX1_init_6
def dkwX1_init_4 : List UInt8 := [5, 187, 0, 9, 89, 183, 0, 41, 83, 89, 6, 187, 0, 9, 89, 183, 0, 41, 83, 89, 7, 187, 0, 9]
abbrev dktX1_init_4 : List UInt8 := dkwX1_init_4 ++ dktX1_init_5
def dkwX1_init_3 : List UInt8 := [189, 0, 9, 89, 3, 187, 0, 9, 89, 183, 0, 41, 83, 89, 4, 187, 0, 9, 89, 183, 0, 41, 83, 89]
abbrev dktX1_init_3 : List UInt8 := dkwX1_init_3 ++ dktX1_init_4
def dkwX1_init_2 : List UInt8 := [181, 0, 29, 42, 16, 80, 188, 8, 181, 0, 33, 42, 16, 16, 188, 11, 181, 0, 37, 42, 16, 8]
abbrev dktX1_init_2 : List UInt8 := dkwX1_init_2 ++ dktX1_init_3
def dkwX1_init_1 : List UInt8 := [42, 187, 0, 15, 89, 183, 0, 17, 181, 0, 22, 42, 16, 20, 189, 0, 15, 181, 0, 25, 42, 4]
abbrev dktX1_init_1 : List UInt8 := dkwX1_init_1 ++ dktX1_init_2
def dkwX1_init_0 : List UInt8 := [42, 183, 0, 1, 42, 16, 8, 189, 0, 9, 181, 0, 11, 42, 187, 0, 15, 89, 183, 0, 17, 181, 0, 18]
abbrev dktX1_init_0 : List UInt8 := dkwX1_init_0 ++ dktX1_init_1
theorem dksX1_init_0 : cX1_init.data.toList.drop 0 = dktX1_init_0 := by decide +kernel
theorem dksX1_init_1 : cX1_init.data.toList.drop 24 = dktX1_init_1 := dk_seg dksX1_init_0 24 rfl rfl
theorem dksX1_init_2 : cX1_init.data.toList.drop 46 = dktX1_init_2 := dk_seg dksX1_init_1 22 rfl rfl
theorem dksX1_init_3 : cX1_init.data.toList.drop 68 = dktX1_init_3 := dk_seg dksX1_init_2 22 rfl rfl
theorem dksX1_init_4 : cX1_init.data.toList.drop 92 = dktX1_init_4 := dk_seg dksX1_init_3 24 rfl rfl
theorem dksX1_init_5 : cX1_init.data.toList.drop 116 = dktX1_init_5 := dk_seg dksX1_init_4 24 rfl rfl
theorem dksX1_init_6 : cX1_init.data.toList.drop 138 = dktX1_init_6 := dk_seg dksX1_init_5 22 rfl rfl
theorem dksX1_init_7 : cX1_init.data.toList.drop 161 = dktX1_init_7 := dk_seg dksX1_init_6 23 rfl rfl
theorem dksX1_init_8 : cX1_init.data.toList.drop 184 = dktX1_init_8 := dk_seg dksX1_init_7 23 rfl rfl
theorem dksX1_init_9 : cX1_init.data.toList.drop 207 = dktX1_init_9 := dk_seg dksX1_init_8 23 rfl rfl
theorem dksX1_init_10 : cX1_init.data.toList.drop 231 = dktX1_init_10 := dk_seg dksX1_init_9 24 rfl rfl
theorem dksX1_init_11 : cX1_init.data.toList.drop 255 = dktX1_init_11 := dk_seg dksX1_init_10 24 rfl rfl
theorem dksX1_init_12 : cX1_init.data.toList.drop 279 = dktX1_init_12 := dk_seg dksX1_init_11 24 rfl rfl
theorem dksX1_init_13 : cX1_init.data.toList.drop 302 = dktX1_init_13 := dk_seg dksX1_init_12 23 rfl rfl
theorem dksX1_init_14 : cX1_init.data.toList.drop 326 = dktX1_init_14 := dk_seg dksX1_init_13 24 rfl rfl
theorem dksX1_init_15 : cX1_init.data.toList.drop 350 = dktX1_init_15 := dk_seg dksX1_init_14 24 rfl rfl
theorem dksX1_init_16 : cX1_init.data.toList.drop 372 = dktX1_init_16 := dk_seg dksX1_init_15 22 rfl rfl
theorem dksX1_init_17 : cX1_init.data.toList.drop 396 = dktX1_init_17 := dk_seg dksX1_init_16 24 rfl rfl
theorem dksX1_init_18 : cX1_init.data.toList.drop 420 = dktX1_init_18 := dk_seg dksX1_init_17 24 rfl rfl
theorem dksX1_init_19 : cX1_init.data.toList.drop 442 = dktX1_init_19 := dk_seg dksX1_init_18 22 rfl rfl
theorem dX1_init_0 : decode cX1_init 0 = .ok (.aload_n 0, 1) := dk_42 (dk_at dksX1_init_0 0 rfl rfl)
theorem dX1_init_1 : decode cX1_init 1 = .ok (.invokespecial 1, 3) := dk_183 0 1 (dk_at dksX1_init_0 1 rfl rfl)
theorem dX1_init_4 : decode cX1_init 4 = .ok (.aload_n 0, 1) := dk_42 (dk_at dksX1_init_0 4 rfl rfl)
theorem dX1_init_5 : decode cX1_init 5 = .ok (.bipush 8, 2) := dk_16 8 (dk_at dksX1_init_0 5 rfl rfl)
theorem dX1_init_7 : decode cX1_init 7 = .ok (.anewarray 9, 3) := dk_189 0 9 (dk_at dksX1_init_0 7 rfl rfl)
theorem dX1_init_10 : decode cX1_init 10 = .ok (.putfield 11, 3) := dk_181 0 11 (dk_at dksX1_init_0 10 rfl rfl)
theorem dX1_init_13 : decode cX1_init 13 = .ok (.aload_n 0, 1) := dk_42 (dk_at dksX1_init_0 13 rfl rfl)
theorem dX1_init_14 : decode cX1_init 14 = .ok (.new 15, 3) := dk_187 0 15 (dk_at dksX1_init_0 14 rfl rfl)
theorem dX1_init_17 : decode cX1_init 17 = .ok (.dup, 1) := dk_89 (dk_at dksX1_init_0 17 rfl rfl)
theorem dX1_init_18 : decode cX1_init 18 = .ok (.invokespecial 17, 3) := dk_183 0 17 (dk_at dksX1_init_0 18 rfl rfl)
theorem dX1_init_21 : decode cX1_init 21 = .ok (.putfield 18, 3) := dk_181 0 18 (dk_at dksX1_init_0 21 rfl rfl)
theorem dX1_init_24 : decode cX1_init 24 = .ok (.aload_n 0, 1) := dk_42 (dk_at dksX1_init_1 0 rfl rfl)
theorem dX1_init_25 : decode cX1_init 25 = .ok (.new 15, 3) := dk_187 0 15 (dk_at dksX1_init_1 1 rfl rfl)
theorem dX1_init_28 : decode cX1_init 28 = .ok (.dup, 1) := dk_89 (dk_at dksX1_init_1 4 rfl rfl)
theorem dX1_init_29 : decode cX1_init 29 = .ok (.invokespecial 17, 3) := dk_183 0 17 (dk_at dksX1_init_1 5 rfl rfl)
theorem dX1_init_32 : decode cX1_init 32 = .ok (.putfield 22, 3) := dk_181 0 22 (dk_at dksX1_init_1 8 rfl rfl)
theorem dX1_init_35 : decode cX1_init 35 = .ok (.aload_n 0, 1) := dk_42 (dk_at dksX1_init_1 11 rfl rfl)
theorem dX1_init_36 : decode cX1_init 36 = .ok (.bipush 20, 2) := dk_16 20 (dk_at dksX1_init_1 12 rfl rfl)
theorem dX1_init_38 : decode cX1_init 38 = .ok (.anewarray 15, 3) := dk_189 0 15 (dk_at dksX1_init_1 14 rfl rfl)
theorem dX1_init_41 : decode cX1_init 41 = .ok (.putfield 25, 3) := dk_181 0 25 (dk_at dksX1_init_1 17 rfl rfl)
theorem dX1_init_44 : decode cX1_init 44 = .ok (.aload_n 0, 1) := dk_42 (dk_at dksX1_init_1 20 rfl rfl)
theorem dX1_init_45 : decode cX1_init 45 = .ok (.iconst 1, 1) := dk_4 (dk_at dksX1_init_1 21 rfl rfl)
theorem dX1_init_46 : decode cX1_init 46 = .ok (.putfield 29, 3) := dk_181 0 29 (dk_at dksX1_init_2 0 rfl rfl)
theorem dX1_init_49 : decode cX1_init 49 = .ok (.aload_n 0, 1) := dk_42 (dk_at dksX1_init_2 3 rfl rfl)
theorem dX1_init_50 : decode cX1_init 50 = .ok (.bipush 80, 2) := dk_16 80 (dk_at dksX1_init_2 4 rfl rfl)
theorem dX1_init_52 : decode cX1_init 52 = .ok (.newarray .byte, 2) := dk_188_8 (dk_at dksX1_init_2 6 rfl rfl)
theorem dX1_init_54 : decode cX1_init 54 = .ok (.putfield 33, 3) := dk_181 0 33 (dk_at dksX1_init_2 8 rfl rfl)
theorem dX1_init_57 : decode cX1_init 57 = .ok (.aload_n 0, 1) := dk_42 (dk_at dksX1_init_2 11 rfl rfl)
theorem dX1_init_58 : decode cX1_init 58 = .ok (.bipush 16, 2) := dk_16 16 (dk_at dksX1_init_2 12 rfl rfl)
theorem dX1_init_60 : decode cX1_init 60 = .ok (.newarray .long, 2) := dk_188_11 (dk_at dksX1_init_2 14 rfl rfl)
theorem dX1_init_62 : decode cX1_init 62 = .ok (.putfield 37, 3) := dk_181 0 37 (dk_at dksX1_init_2 16 rfl rfl)
theorem dX1_init_65 : decode cX1_init 65 = .ok (.aload_n 0, 1) := dk_42 (dk_at dksX1_init_2 19 rfl rfl)
theorem dX1_init_66 : decode cX1_init 66 = .ok (.bipush 8, 2) := dk_16 8 (dk_at dksX1_init_2 20 rfl rfl)
theorem dX1_init_68 : decode cX1_init 68 = .ok (.anewarray 9, 3) := dk_189 0 9 (dk_at dksX1_init_3 0 rfl rfl)
theorem dX1_init_71 : decode cX1_init 71 = .ok (.dup, 1) := dk_89 (dk_at dksX1_init_3 3 rfl rfl)
theorem dX1_init_72 : decode cX1_init 72 = .ok (.iconst 0, 1) := dk_3 (dk_at dksX1_init_3 4 rfl rfl)
theorem dX1_init_73 : decode cX1_init 73 = .ok (.new 9, 3) := dk_187 0 9 (dk_at dksX1_init_3 5 rfl rfl)
theorem dX1_init_76 : decode cX1_init 76 = .ok (.dup, 1) := dk_89 (dk_at dksX1_init_3 8 rfl rfl)
theorem dX1_init_77 : decode cX1_init 77 = .ok (.invokespecial 41, 3) := dk_183 0 41 (dk_at dksX1_init_3 9 rfl rfl)
theorem dX1_init_80 : decode cX1_init 80 = .ok (.aastore, 1) := dk_83 (dk_at dksX1_init_3 12 rfl rfl)
theorem dX1_init_81 : decode cX1_init 81 = .ok (.dup, 1) := dk_89 (dk_at dksX1_init_3 13 rfl rfl)
theorem dX1_init_82 : decode cX1_init 82 = .ok (.iconst 1, 1) := dk_4 (dk_at dksX1_init_3 14 rfl rfl)
theorem dX1_init_83 : decode cX1_init 83 = .ok (.new 9, 3) := dk_187 0 9 (dk_at dksX1_init_3 15 rfl rfl)
theorem dX1_init_86 : decode cX1_init 86 = .ok (.dup, 1) := dk_89 (dk_at dksX1_init_3 18 rfl rfl)
theorem dX1_init_87 : decode cX1_init 87 = .ok (.invokespecial 41, 3) := dk_183 0 41 (dk_at dksX1_init_3 19 rfl rfl)
theorem dX1_init_90 : decode cX1_init 90 = .ok (.aastore, 1) := dk_83 (dk_at dksX1_init_3 22 rfl rfl)
theorem dX1_init_91 : decode cX1_init 91 = .ok (.dup, 1) := dk_89 (dk_at dksX1_init_3 23 rfl rfl)
theorem dX1_init_92 : decode cX1_init 92 = .ok (.iconst 2, 1) := dk_5 (dk_at dksX1_init_4 0 rfl rfl)
theorem dX1_init_93 : decode cX1_init 93 = .ok (.new 9, 3) := dk_187 0 9 (dk_at dksX1_init_4 1 rfl rfl)
theorem dX1_init_96 : decode cX1_init 96 = .ok (.dup, 1) := dk_89 (dk_at dksX1_init_4 4 rfl rfl)
theorem dX1_init_97 : decode cX1_init 97 = .ok (.invokespecial 41, 3) := dk_183 0 41 (dk_at dksX1_init_4 5 rfl rfl)
theorem dX1_init_100 : decode cX1_init 100 = .ok (.aastore, 1) := dk_83 (dk_at dksX1_init_4 8 rfl rfl)
theorem dX1_init_101 : decode cX1_init 101 = .ok (.dup, 1) := dk_89 (dk_at dksX1_init_4 9 rfl rfl)
theorem dX1_init_102 : decode cX1_init 102 = .ok (.iconst 3, 1) := dk_6 (dk_at dksX1_init_4 10 rfl rfl)
theorem dX1_init_103 : decode cX1_init 103 = .ok (.new 9, 3) := dk_187 0 9 (dk_at dksX1_init_4 11 rfl rfl)
theorem dX1_init_106 : decode cX1_init 106 = .ok (.dup, 1) := dk_89 (dk_at dksX1_init_4 14 rfl rfl)
theorem dX1_init_107 : decode cX1_init 107 = .ok (.invokespecial 41, 3) := dk_183 0 41 (dk_at dksX1_init_4 15 rfl rfl)
theorem dX1_init_110 : decode cX1_init 110 = .ok (.aastore, 1) := dk_83 (dk_at dksX1_init_4 18 rfl rfl)
theorem dX1_init_111 : decode cX1_init 111 = .ok (.dup, 1) := dk_89 (dk_at dksX1_init_4 19 rfl rfl)
theorem dX1_init_112 : decode cX1_init 112 = .ok (.iconst 4, 1) := dk_7 (dk_at dksX1_init_4 20 rfl rfl)
theorem dX1_init_113 : decode cX1_init 113 = .ok (.new 9, 3) := dk_187 0 9 (dk_at dksX1_init_4 21 rfl rfl)
theorem dX1_init_116 : decode cX1_init 116 = .ok (.dup, 1) := dk_89 (dk_at dksX1_init_5 0 rfl rfl)
theorem dX1_init_117 : decode cX1_init 117 = .ok (.invokespecial 41, 3) := dk_183 0 41 (dk_at dksX1_init_5 1 rfl rfl)
theorem dX1_init_120 : decode cX1_init 120 = .ok (.aastore, 1) := dk_83 (dk_at dksX1_init_5 4 rfl rfl)
theorem dX1_init_121 : decode cX1_init 121 = .ok (.dup, 1) := dk_89 (dk_at dksX1_init_5 5 rfl rfl)
theorem dX1_init_122 : decode cX1_init 122 = .ok (.iconst 5, 1) := dk_8 (dk_at dksX1_init_5 6 rfl rfl)
theorem dX1_init_123 : decode cX1_init 123 = .ok (.new 9, 3) := dk_187 0 9 (dk_at dksX1_init_5 7 rfl rfl)
theorem dX1_init_126 : decode cX1_init 126 = .ok (.dup, 1) := dk_89 (dk_at dksX1_init_5 10 rfl rfl)
theorem dX1_init_127 : decode cX1_init 127 = .ok (.invokespecial 41, 3) := dk_183 0 41 (dk_at dksX1_init_5 11 rfl rfl)
theorem dX1_init_130 : decode cX1_init 130 = .ok (.aastore, 1) := dk_83 (dk_at dksX1_init_5 14 rfl rfl)
theorem dX1_init_131 : decode cX1_init 131 = .ok (.dup, 1) := dk_89 (dk_at dksX1_init_5 15 rfl rfl)
theorem dX1_init_132 : decode cX1_init 132 = .ok (.bipush 6, 2) := dk_16 6 (dk_at dksX1_init_5 16 rfl rfl)
theorem dX1_init_134 : decode cX1_init 134 = .ok (.new 9, 3) := dk_187 0 9 (dk_at dksX1_init_5 18 rfl rfl)
theorem dX1_init_137 : decode cX1_init 137 = .ok (.dup, 1) := dk_89 (dk_at dksX1_init_5 21 rfl rfl)
theorem dX1_init_138 : decode cX1_init 138 = .ok (.invokespecial 41, 3) := dk_183 0 41 (dk_at dksX1_init_6 0 rfl rfl)
theorem dX1_init_141 : decode cX1_init 141 = .ok (.aastore, 1) := dk_83 (dk_at dksX1_init_6 3 rfl rfl)
theorem dX1_init_142 : decode cX1_init 142 = .ok (.dup, 1) := dk_89 (dk_at dksX1_init_6 4 rfl rfl)
theorem dX1_init_143 : decode cX1_init 143 = .ok (.bipush 7, 2) := dk_16 7 (dk_at dksX1_init_6 5 rfl rfl)
theorem dX1_init_145 : decode cX1_init 145 = .ok (.new 9, 3) := dk_187 0 9 (dk_at dksX1_init_6 7 rfl rfl)
theorem dX1_init_148 : decode cX1_init 148 = .ok (.dup, 1) := dk_89 (dk_at dksX1_init_6 10 rfl rfl)
theorem dX1_init_149 : decode cX1_init 149 = .ok (.invokespecial 41, 3) := dk_183 0 41 (dk_at dksX1_init_6 11 rfl rfl)
theorem dX1_init_152 : decode cX1_init 152 = .ok (.aastore, 1) := dk_83 (dk_at dksX1_init_6 14 rfl rfl)
theorem dX1_init_153 : decode cX1_init 153 = .ok (.putfield 42, 3) := dk_181 0 42 (dk_at dksX1_init_6 15 rfl rfl)
theorem dX1_init_156 : decode cX1_init 156 = .ok (.aload_n 0, 1) := dk_42 (dk_at dksX1_init_6 18 rfl rfl)
theorem dX1_init_157 : decode cX1_init 157 = .ok (.bipush 8, 2) := dk_16 8 (dk_at dksX1_init_6 19 rfl rfl)
theorem dX1_init_159 : decode cX1_init 159 = .ok (.newarray .int, 2) := dk_188_10 (dk_at dksX1_init_6 21 rfl rfl)
theorem dX1_init_161 : decode cX1_init 161 = .ok (.putfield 45, 3) := dk_181 0 45 (dk_at dksX1_init_7 0 rfl rfl)
theorem dX1_init_164 : decode cX1_init 164 = .ok (.aload_n 0, 1) := dk_42 (dk_at dksX1_init_7 3 rfl rfl)
theorem dX1_init_165 : decode cX1_init 165 = .ok (.new 49, 3) := dk_187 0 49 (dk_at dksX1_init_7 4 rfl rfl)
theorem dX1_init_168 : decode cX1_init 168 = .ok (.dup, 1) := dk_89 (dk_at dksX1_init_7 7 rfl rfl)
theorem dX1_init_169 : decode cX1_init 169 = .ok (.aload_n 0, 1) := dk_42 (dk_at dksX1_init_7 8 rfl rfl)
theorem dX1_init_170 : decode cX1_init 170 = .ok (.invokespecial 51, 3) := dk_183 0 51 (dk_at dksX1_init_7 9 rfl rfl)
theorem dX1_init_173 : decode cX1_init 173 = .ok (.putfield 54, 3) := dk_181 0 54 (dk_at dksX1_init_7 12 rfl rfl)
theorem dX1_init_176 : decode cX1_init 176 = .ok (.aload_n 0, 1) := dk_42 (dk_at dksX1_init_7 15 rfl rfl)
theorem dX1_init_177 : decode cX1_init 177 = .ok (.new 58, 3) := dk_187 0 58 (dk_at dksX1_init_7 16 rfl rfl)
theorem dX1_init_180 : decode cX1_init 180 = .ok (.dup, 1) := dk_89 (dk_at dksX1_init_7 19 rfl rfl)
theorem dX1_init_181 : decode cX1_init 181 = .ok (.invokespecial 60, 3) := dk_183 0 60 (dk_at dksX1_init_7 20 rfl rfl)
theorem dX1_init_184 : decode cX1_init 184 = .ok (.putfield 61, 3) := dk_181 0 61 (dk_at dksX1_init_8 0 rfl rfl)
theorem dX1_init_187 : decode cX1_init 187 = .ok (.aload_n 0, 1) := dk_42 (dk_at dksX1_init_8 3 rfl rfl)
theorem dX1_init_188 : decode cX1_init 188 = .ok (.new 65, 3) := dk_187 0 65 (dk_at dksX1_init_8 4 rfl rfl)
theorem dX1_init_191 : decode cX1_init 191 = .ok (.dup, 1) := dk_89 (dk_at dksX1_init_8 7 rfl rfl)
theorem dX1_init_192 : decode cX1_init 192 = .ok (.aload_n 0, 1) := dk_42 (dk_at dksX1_init_8 8 rfl rfl)
theorem dX1_init_193 : decode cX1_init 193 = .ok (.invokespecial 67, 3) := dk_183 0 67 (dk_at dksX1_init_8 9 rfl rfl)
theorem dX1_init_196 : decode cX1_init 196 = .ok (.putfield 68, 3) := dk_181 0 68 (dk_at dksX1_init_8 12 rfl rfl)
theorem dX1_init_199 : decode cX1_init 199 = .ok (.aload_n 0, 1) := dk_42 (dk_at dksX1_init_8 15 rfl rfl)
theorem dX1_init_200 : decode cX1_init 200 = .ok (.new 72, 3) := dk_187 0 72 (dk_at dksX1_init_8 16 rfl rfl)
theorem dX1_init_203 : decode cX1_init 203 = .ok (.dup, 1) := dk_89 (dk_at dksX1_init_8 19 rfl rfl)
theorem dX1_init_204 : decode cX1_init 204 = .ok (.invokespecial 74, 3) := dk_183 0 74 (dk_at dksX1_init_8 20 rfl rfl)
theorem dX1_init_207 : decode cX1_init 207 = .ok (.putfield 75, 3) := dk_181 0 75 (dk_at dksX1_init_9 0 rfl rfl)
theorem dX1_init_210 : decode cX1_init 210 = .ok (.aload_n 0, 1) := dk_42 (dk_at dksX1_init_9 3 rfl rfl)
theorem dX1_init_211 : decode cX1_init 211 = .ok (.new 79, 3) := dk_187 0 79 (dk_at dksX1_init_9 4 rfl rfl)
theorem dX1_init_214 : decode cX1_init 214 = .ok (.dup, 1) := dk_89 (dk_at dksX1_init_9 7 rfl rfl)
theorem dX1_init_215 : decode cX1_init 215 = .ok (.aload_n 0, 1) := dk_42 (dk_at dksX1_init_9 8 rfl rfl)
theorem dX1_init_216 : decode cX1_init 216 = .ok (.invokespecial 81, 3) := dk_183 0 81 (dk_at dksX1_init_9 9 rfl rfl)
theorem dX1_init_219 : decode cX1_init 219 = .ok (.putfield 82, 3) := dk_181 0 82 (dk_at dksX1_init_9 12 rfl rfl)
theorem dX1_init_222 : decode cX1_init 222 = .ok (.aload_n 0, 1) := dk_42 (dk_at dksX1_init_9 15 rfl rfl)
theorem dX1_init_223 : decode cX1_init 223 = .ok (.bipush 61, 2) := dk_16 61 (dk_at dksX1_init_9 16 rfl rfl)
theorem dX1_init_225 : decode cX1_init 225 = .ok (.newarray .int, 2) := dk_188_10 (dk_at dksX1_init_9 18 rfl rfl)
theorem dX1_init_227 : decode cX1_init 227 = .ok (.putfield 86, 3) := dk_181 0 86 (dk_at dksX1_init_9 20 rfl rfl)
theorem dX1_init_230 : decode cX1_init 230 = .ok (.aload_n 0, 1) := dk_42 (dk_at dksX1_init_9 23 rfl rfl)
theorem dX1_init_231 : decode cX1_init 231 = .ok (.iconst 4, 1) := dk_7 (dk_at dksX1_init_10 0 rfl rfl)
theorem dX1_init_232 : decode cX1_init 232 = .ok (.newarray .int, 2) := dk_188_10 (dk_at dksX1_init_10 1 rfl rfl)
theorem dX1_init_234 : decode cX1_init 234 = .ok (.putfield 89, 3) := dk_181 0 89 (dk_at dksX1_init_10 3 rfl rfl)
theorem dX1_init_237 : decode cX1_init 237 = .ok (.aload_n 0, 1) := dk_42 (dk_at dksX1_init_10 6 rfl rfl)
theorem dX1_init_238 : decode cX1_init 238 = .ok (.new 92, 3) := dk_187 0 92 (dk_at dksX1_init_10 7 rfl rfl)
theorem dX1_init_241 : decode cX1_init 241 = .ok (.dup, 1) := dk_89 (dk_at dksX1_init_10 10 rfl rfl)
theorem dX1_init_242 : decode cX1_init 242 = .ok (.aload_n 0, 1) := dk_42 (dk_at dksX1_init_10 11 rfl rfl)
theorem dX1_init_243 : decode cX1_init 243 = .ok (.invokespecial 94, 3) := dk_183 0 94 (dk_at dksX1_init_10 12 rfl rfl)
theorem dX1_init_246 : decode cX1_init 246 = .ok (.putfield 95, 3) := dk_181 0 95 (dk_at dksX1_init_10 15 rfl rfl)
theorem dX1_init_249 : decode cX1_init 249 = .ok (.aload_n 0, 1) := dk_42 (dk_at dksX1_init_10 18 rfl rfl)
theorem dX1_init_250 : decode cX1_init 250 = .ok (.new 99, 3) := dk_187 0 99 (dk_at dksX1_init_10 19 rfl rfl)
theorem dX1_init_253 : decode cX1_init 253 = .ok (.dup, 1) := dk_89 (dk_at dksX1_init_10 22 rfl rfl)
theorem dX1_init_254 : decode cX1_init 254 = .ok (.aload_n 0, 1) := dk_42 (dk_at dksX1_init_10 23 rfl rfl)
theorem dX1_init_255 : decode cX1_init 255 = .ok (.invokespecial 101, 3) := dk_183 0 101 (dk_at dksX1_init_11 0 rfl rfl)
theorem dX1_init_258 : decode cX1_init 258 = .ok (.putfield 102, 3) := dk_181 0 102 (dk_at dksX1_init_11 3 rfl rfl)
theorem dX1_init_261 : decode cX1_init 261 = .ok (.aload_n 0, 1) := dk_42 (dk_at dksX1_init_11 6 rfl rfl)
theorem dX1_init_262 : decode cX1_init 262 = .ok (.new 106, 3) := dk_187 0 106 (dk_at dksX1_init_11 7 rfl rfl)
theorem dX1_init_265 : decode cX1_init 265 = .ok (.dup, 1) := dk_89 (dk_at dksX1_init_11 10 rfl rfl)
theorem dX1_init_266 : decode cX1_init 266 = .ok (.aload_n 0, 1) := dk_42 (dk_at dksX1_init_11 11 rfl rfl)
theorem dX1_init_267 : decode cX1_init 267 = .ok (.invokespecial 108, 3) := dk_183 0 108 (dk_at dksX1_init_11 12 rfl rfl)
theorem dX1_init_270 : decode cX1_init 270 = .ok (.putfield 109, 3) := dk_181 0 109 (dk_at dksX1_init_11 15 rfl rfl)
theorem dX1_init_273 : decode cX1_init 273 = .ok (.aload_n 0, 1) := dk_42 (dk_at dksX1_init_11 18 rfl rfl)
theorem dX1_init_274 : decode cX1_init 274 = .ok (.new 113, 3) := dk_187 0 113 (dk_at dksX1_init_11 19 rfl rfl)
theorem dX1_init_277 : decode cX1_init 277 = .ok (.dup, 1) := dk_89 (dk_at dksX1_init_11 22 rfl rfl)
theorem dX1_init_278 : decode cX1_init 278 = .ok (.aload_n 0, 1) := dk_42 (dk_at dksX1_init_11 23 rfl rfl)
theorem dX1_init_279 : decode cX1_init 279 = .ok (.invokespecial 115, 3) := dk_183 0 115 (dk_at dksX1_init_12 0 rfl rfl)
theorem dX1_init_282 : decode cX1_init 282 = .ok (.putfield 116, 3) := dk_181 0 116 (dk_at dksX1_init_12 3 rfl rfl)
theorem dX1_init_285 : decode cX1_init 285 = .ok (.aload_n 0, 1) := dk_42 (dk_at dksX1_init_12 6 rfl rfl)
theorem dX1_init_286 : decode cX1_init 286 = .ok (.new 120, 3) := dk_187 0 120 (dk_at dksX1_init_12 7 rfl rfl)
theorem dX1_init_289 : decode cX1_init 289 = .ok (.dup, 1) := dk_89 (dk_at dksX1_init_12 10 rfl rfl)
theorem dX1_init_290 : decode cX1_init 290 = .ok (.aload_n 0, 1) := dk_42 (dk_at dksX1_init_12 11 rfl rfl)
theorem dX1_init_291 : decode cX1_init 291 = .ok (.invokespecial 122, 3) := dk_183 0 122 (dk_at dksX1_init_12 12 rfl rfl)
theorem dX1_init_294 : decode cX1_init 294 = .ok (.putfield 123, 3) := dk_181 0 123 (dk_at dksX1_init_12 15 rfl rfl)
theorem dX1_init_297 : decode cX1_init 297 = .ok (.aload_n 0, 1) := dk_42 (dk_at dksX1_init_12 18 rfl rfl)
theorem dX1_init_298 : decode cX1_init 298 = .ok (.bipush 12, 2) := dk_16 12 (dk_at dksX1_init_12 19 rfl rfl)
theorem dX1_init_300 : decode cX1_init 300 = .ok (.newarray .int, 2) := dk_188_10 (dk_at dksX1_init_12 21 rfl rfl)
theorem dX1_init_302 : decode cX1_init 302 = .ok (.putfield 127, 3) := dk_181 0 127 (dk_at dksX1_init_13 0 rfl rfl)
theorem dX1_init_305 : decode cX1_init 305 = .ok (.aload_n 0, 1) := dk_42 (dk_at dksX1_init_13 3 rfl rfl)
theorem dX1_init_306 : decode cX1_init 306 = .ok (.bipush 12, 2) := dk_16 12 (dk_at dksX1_init_13 4 rfl rfl)
theorem dX1_init_308 : decode cX1_init 308 = .ok (.newarray .int, 2) := dk_188_10 (dk_at dksX1_init_13 6 rfl rfl)
theorem dX1_init_310 : decode cX1_init 310 = .ok (.putfield 130, 3) := dk_181 0 130 (dk_at dksX1_init_13 8 rfl rfl)
theorem dX1_init_313 : decode cX1_init 313 = .ok (.aload_n 0, 1) := dk_42 (dk_at dksX1_init_13 11 rfl rfl)
theorem dX1_init_314 : decode cX1_init 314 = .ok (.bipush 10, 2) := dk_16 10 (dk_at dksX1_init_13 12 rfl rfl)
theorem dX1_init_316 : decode cX1_init 316 = .ok (.newarray .int, 2) := dk_188_10 (dk_at dksX1_init_13 14 rfl rfl)
theorem dX1_init_318 : decode cX1_init 318 = .ok (.putfield 133, 3) := dk_181 0 133 (dk_at dksX1_init_13 16 rfl rfl)
theorem dX1_init_321 : decode cX1_init 321 = .ok (.aload_n 0, 1) := dk_42 (dk_at dksX1_init_13 19 rfl rfl)
theorem dX1_init_322 : decode cX1_init 322 = .ok (.bipush 10, 2) := dk_16 10 (dk_at dksX1_init_13 20 rfl rfl)
theorem dX1_init_324 : decode cX1_init 324 = .ok (.newarray .int, 2) := dk_188_10 (dk_at dksX1_init_13 22 rfl rfl)
theorem dX1_init_326 : decode cX1_init 326 = .ok (.putfield 136, 3) := dk_181 0 136 (dk_at dksX1_init_14 0 rfl rfl)
theorem dX1_init_329 : decode cX1_init 329 = .ok (.aload_n 0, 1) := dk_42 (dk_at dksX1_init_14 3 rfl rfl)
theorem dX1_init_330 : decode cX1_init 330 = .ok (.iconst 3, 1) := dk_6 (dk_at dksX1_init_14 4 rfl rfl)
theorem dX1_init_331 : decode cX1_init 331 = .ok (.anewarray 15, 3) := dk_189 0 15 (dk_at dksX1_init_14 5 rfl rfl)
theorem dX1_init_334 : decode cX1_init 334 = .ok (.dup, 1) := dk_89 (dk_at dksX1_init_14 8 rfl rfl)
theorem dX1_init_335 : decode cX1_init 335 = .ok (.iconst 0, 1) := dk_3 (dk_at dksX1_init_14 9 rfl rfl)
theorem dX1_init_336 : decode cX1_init 336 = .ok (.new 15, 3) := dk_187 0 15 (dk_at dksX1_init_14 10 rfl rfl)
theorem dX1_init_339 : decode cX1_init 339 = .ok (.dup, 1) := dk_89 (dk_at dksX1_init_14 13 rfl rfl)
theorem dX1_init_340 : decode cX1_init 340 = .ok (.invokespecial 17, 3) := dk_183 0 17 (dk_at dksX1_init_14 14 rfl rfl)
theorem dX1_init_343 : decode cX1_init 343 = .ok (.aastore, 1) := dk_83 (dk_at dksX1_init_14 17 rfl rfl)
theorem dX1_init_344 : decode cX1_init 344 = .ok (.dup, 1) := dk_89 (dk_at dksX1_init_14 18 rfl rfl)
theorem dX1_init_345 : decode cX1_init 345 = .ok (.iconst 1, 1) := dk_4 (dk_at dksX1_init_14 19 rfl rfl)
theorem dX1_init_346 : decode cX1_init 346 = .ok (.new 15, 3) := dk_187 0 15 (dk_at dksX1_init_14 20 rfl rfl)
theorem dX1_init_349 : decode cX1_init 349 = .ok (.dup, 1) := dk_89 (dk_at dksX1_init_14 23 rfl rfl)
theorem dX1_init_350 : decode cX1_init 350 = .ok (.invokespecial 17, 3) := dk_183 0 17 (dk_at dksX1_init_15 0 rfl rfl)
theorem dX1_init_353 : decode cX1_init 353 = .ok (.aastore, 1) := dk_83 (dk_at dksX1_init_15 3 rfl rfl)
theorem dX1_init_354 : decode cX1_init 354 = .ok (.dup, 1) := dk_89 (dk_at dksX1_init_15 4 rfl rfl)
theorem dX1_init_355 : decode cX1_init 355 = .ok (.iconst 2, 1) := dk_5 (dk_at dksX1_init_15 5 rfl rfl)
theorem dX1_init_356 : decode cX1_init 356 = .ok (.new 15, 3) := dk_187 0 15 (dk_at dksX1_init_15 6 rfl rfl)
theorem dX1_init_359 : decode cX1_init 359 = .ok (.dup, 1) := dk_89 (dk_at dksX1_init_15 9 rfl rfl)
theorem dX1_init_360 : decode cX1_init 360 = .ok (.invokespecial 17, 3) := dk_183 0 17 (dk_at dksX1_init_15 10 rfl rfl)
theorem dX1_init_363 : decode cX1_init 363 = .ok (.aastore, 1) := dk_83 (dk_at dksX1_init_15 13 rfl rfl)
theorem dX1_init_364 : decode cX1_init 364 = .ok (.putfield 139, 3) := dk_181 0 139 (dk_at dksX1_init_15 14 rfl rfl)
theorem dX1_init_367 : decode cX1_init 367 = .ok (.aload_n 0, 1) := dk_42 (dk_at dksX1_init_15 17 rfl rfl)
theorem dX1_init_368 : decode cX1_init 368 = .ok (.bipush 9, 2) := dk_16 9 (dk_at dksX1_init_15 18 rfl rfl)
theorem dX1_init_370 : decode cX1_init 370 = .ok (.newarray .long, 2) := dk_188_11 (dk_at dksX1_init_15 20 rfl rfl)
theorem dX1_init_372 : decode cX1_init 372 = .ok (.putfield 142, 3) := dk_181 0 142 (dk_at dksX1_init_16 0 rfl rfl)
theorem dX1_init_375 : decode cX1_init 375 = .ok (.aload_n 0, 1) := dk_42 (dk_at dksX1_init_16 3 rfl rfl)
theorem dX1_init_376 : decode cX1_init 376 = .ok (.bipush 9, 2) := dk_16 9 (dk_at dksX1_init_16 4 rfl rfl)
theorem dX1_init_378 : decode cX1_init 378 = .ok (.newarray .long, 2) := dk_188_11 (dk_at dksX1_init_16 6 rfl rfl)
theorem dX1_init_380 : decode cX1_init 380 = .ok (.putfield 145, 3) := dk_181 0 145 (dk_at dksX1_init_16 8 rfl rfl)
theorem dX1_init_383 : decode cX1_init 383 = .ok (.aload_n 0, 1) := dk_42 (dk_at dksX1_init_16 11 rfl rfl)
theorem dX1_init_384 : decode cX1_init 384 = .ok (.iconst 3, 1) := dk_6 (dk_at dksX1_init_16 12 rfl rfl)
theorem dX1_init_385 : decode cX1_init 385 = .ok (.anewarray 148, 3) := dk_189 0 148 (dk_at dksX1_init_16 13 rfl rfl)
theorem dX1_init_388 : decode cX1_init 388 = .ok (.putfield 150, 3) := dk_181 0 150 (dk_at dksX1_init_16 16 rfl rfl)
theorem dX1_init_391 : decode cX1_init 391 = .ok (.iconst 0, 1) := dk_3 (dk_at dksX1_init_16 19 rfl rfl)
theorem dX1_init_392 : decode cX1_init 392 = .ok (.istore_n 1, 1) := dk_60 (dk_at dksX1_init_16 20 rfl rfl)
theorem dX1_init_393 : decode cX1_init 393 = .ok (.iload_n 1, 1) := dk_27 (dk_at dksX1_init_16 21 rfl rfl)
theorem dX1_init_394 : decode cX1_init 394 = .ok (.bipush 8, 2) := dk_16 8 (dk_at dksX1_init_16 22 rfl rfl)
theorem dX1_init_396 : decode cX1_init 396 = .ok (.if_icmp .ge 22, 3) := dk_162 0 22 (dk_at dksX1_init_17 0 rfl rfl)
theorem dX1_init_399 : decode cX1_init 399 = .ok (.aload_n 0, 1) := dk_42 (dk_at dksX1_init_17 3 rfl rfl)
theorem dX1_init_400 : decode cX1_init 400 = .ok (.getfield 11, 3) := dk_180 0 11 (dk_at dksX1_init_17 4 rfl rfl)
theorem dX1_init_403 : decode cX1_init 403 = .ok (.iload_n 1, 1) := dk_27 (dk_at dksX1_init_17 7 rfl rfl)
theorem dX1_init_404 : decode cX1_init 404 = .ok (.new 9, 3) := dk_187 0 9 (dk_at dksX1_init_17 8 rfl rfl)
theorem dX1_init_407 : decode cX1_init 407 = .ok (.dup, 1) := dk_89 (dk_at dksX1_init_17 11 rfl rfl)
theorem dX1_init_408 : decode cX1_init 408 = .ok (.invokespecial 41, 3) := dk_183 0 41 (dk_at dksX1_init_17 12 rfl rfl)
theorem dX1_init_411 : decode cX1_init 411 = .ok (.aastore, 1) := dk_83 (dk_at dksX1_init_17 15 rfl rfl)
theorem dX1_init_412 : decode cX1_init 412 = .ok (.iinc 1 1, 3) := dk_132 1 1 (dk_at dksX1_init_17 16 rfl rfl)
theorem dX1_init_415 : decode cX1_init 415 = .ok (.goto (-22), 3) := dk_167 255 234 (dk_at dksX1_init_17 19 rfl rfl)
theorem dX1_init_418 : decode cX1_init 418 = .ok (.iconst 0, 1) := dk_3 (dk_at dksX1_init_17 22 rfl rfl)
theorem dX1_init_419 : decode cX1_init 419 = .ok (.istore_n 1, 1) := dk_60 (dk_at dksX1_init_17 23 rfl rfl)
theorem dX1_init_420 : decode cX1_init 420 = .ok (.iload_n 1, 1) := dk_27 (dk_at dksX1_init_18 0 rfl rfl)
theorem dX1_init_421 : decode cX1_init 421 = .ok (.bipush 20, 2) := dk_16 20 (dk_at dksX1_init_18 1 rfl rfl)
theorem dX1_init_423 : decode cX1_init 423 = .ok (.if_icmp .ge 22, 3) := dk_162 0 22 (dk_at dksX1_init_18 3 rfl rfl)
theorem dX1_init_426 : decode cX1_init 426 = .ok (.aload_n 0, 1) := dk_42 (dk_at dksX1_init_18 6 rfl rfl)
theorem dX1_init_427 : decode cX1_init 427 = .ok (.getfield 25, 3) := dk_180 0 25 (dk_at dksX1_init_18 7 rfl rfl)
theorem dX1_init_430 : decode cX1_init 430 = .ok (.iload_n 1, 1) := dk_27 (dk_at dksX1_init_18 10 rfl rfl)
theorem dX1_init_431 : decode cX1_init 431 = .ok (.new 15, 3) := dk_187 0 15 (dk_at dksX1_init_18 11 rfl rfl)
theorem dX1_init_434 : decode cX1_init 434 = .ok (.dup, 1) := dk_89 (dk_at dksX1_init_18 14 rfl rfl)
theorem dX1_init_435 : decode cX1_init 435 = .ok (.invokespecial 17, 3) := dk_183 0 17 (dk_at dksX1_init_18 15 rfl rfl)
theorem dX1_init_438 : decode cX1_init 438 = .ok (.aastore, 1) := dk_83 (dk_at dksX1_init_18 18 rfl rfl)
theorem dX1_init_439 : decode cX1_init 439 = .ok (.iinc 1 1, 3) := dk_132 1 1 (dk_at dksX1_init_18 19 rfl rfl)
theorem dX1_init_442 : decode cX1_init 442 = .ok (.goto (-22), 3) := dk_167 255 234 (dk_at dksX1_init_19 0 rfl rfl)
theorem dX1_init_445 : decode cX1_init 445 = .ok (.return_, 1) := dk_177 (dk_at dksX1_init_19 3 rfl rfl)
def dkwX1_sign_2 : List UInt8 := [167, 255, 226, 42, 180, 0, 186, 172]
abbrev dktX1_sign_2 : List UInt8 := dkwX1_sign_2 ++ []
def dkwX1_sign_1 : List UInt8 := [42, 180, 0, 186, 27, 28, 122, 145, 84, 42, 89, 180, 0, 186, 4, 96, 181, 0, 186, 132, 2, 248]
abbrev dktX1_sign_1 : List UInt8 := dkwX1_sign_1 ++ dktX1_sign_2
def dkwX1_sign_0 : List UInt8 := [42, 180, 0, 186, 7, 96, 16, 80, 164, 0, 5, 2, 172, 16, 24, 61, 28, 155, 0, 32, 42, 180, 0, 33]
abbrev dktX1_sign_0 : List UInt8 := dkwX1_sign_0 ++ dktX1_sign_1
theorem dksX1_sign_0 : cX1_sign.data.toList.drop 0 = dktX1_sign_0 := by decide +kernel
theorem dksX1_sign_1 : cX1_sign.data.toList.drop 24 = dktX1_sign_1 := dk_seg dksX1_sign_0 24 rfl rfl
theorem dksX1_sign_2 : cX1_sign.data.toList.drop 46 = dktX1_sign_2 := dk_seg dksX1_sign_1 22 rfl rfl
theorem dX1_sign_0 : decode cX1_sign 0 = .ok (.aload_n 0, 1) := dk_42 (dk_at dksX1_sign_0 0 rfl rfl)
theorem dX1_sign_1 : decode cX1_sign 1 = .ok (.getfield 186, 3) := dk_180 0 186 (dk_at dksX1_sign_0 1 rfl rfl)
theorem dX1_sign_4 : decode cX1_sign 4 = .ok (.iconst 4, 1) := dk_7 (dk_at dksX1_sign_0 4 rfl rfl)
theorem dX1_sign_5 : decode cX1_sign 5 = .ok (.iadd, 1) := dk_96 (dk_at dksX1_sign_0 5 rfl rfl)
theorem dX1_sign_6 : decode cX1_sign 6 = .ok (.bipush 80, 2) := dk_16 80 (dk_at dksX1_sign_0 6 rfl rfl)
theorem dX1_sign_8 : decode cX1_sign 8 = .ok (.if_icmp .le 5, 3) := dk_164 0 5 (dk_at dksX1_sign_0 8 rfl rfl)
theorem dX1_sign_11 : decode cX1_sign 11 = .ok (.iconst (-1), 1) := dk_2 (dk_at dksX1_sign_0 11 rfl rfl)
theorem dX1_sign_12 : decode cX1_sign 12 = .ok (.ireturn, 1) := dk_172 (dk_at dksX1_sign_0 12 rfl rfl)
theorem dX1_sign_13 : decode cX1_sign 13 = .ok (.bipush 24, 2) := dk_16 24 (dk_at dksX1_sign_0 13 rfl rfl)
theorem dX1_sign_15 : decode cX1_sign 15 = .ok (.istore_n 2, 1) := dk_61 (dk_at dksX1_sign_0 15 rfl rfl)
theorem dX1_sign_16 : decode cX1_sign 16 = .ok (.iload_n 2, 1) := dk_28 (dk_at dksX1_sign_0 16 rfl rfl)
theorem dX1_sign_17 : decode cX1_sign 17 = .ok (.ifCond .lt 32, 3) := dk_155 0 32 (dk_at dksX1_sign_0 17 rfl rfl)
theorem dX1_sign_20 : decode cX1_sign 20 = .ok (.aload_n 0, 1) := dk_42 (dk_at dksX1_sign_0 20 rfl rfl)
theorem dX1_sign_21 : decode cX1_sign 21 = .ok (.getfield 33, 3) := dk_180 0 33 (dk_at dksX1_sign_0 21 rfl rfl)
theorem dX1_sign_24 : decode cX1_sign 24 = .ok (.aload_n 0, 1) := dk_42 (dk_at dksX1_sign_1 0 rfl rfl)
theorem dX1_sign_25 : decode cX1_sign 25 = .ok (.getfield 186, 3) := dk_180 0 186 (dk_at dksX1_sign_1 1 rfl rfl)
theorem dX1_sign_28 : decode cX1_sign 28 = .ok (.iload_n 1, 1) := dk_27 (dk_at dksX1_sign_1 4 rfl rfl)
theorem dX1_sign_29 : decode cX1_sign 29 = .ok (.iload_n 2, 1) := dk_28 (dk_at dksX1_sign_1 5 rfl rfl)
theorem dX1_sign_30 : decode cX1_sign 30 = .ok (.ishr, 1) := dk_122 (dk_at dksX1_sign_1 6 rfl rfl)
theorem dX1_sign_31 : decode cX1_sign 31 = .ok (.i2b, 1) := dk_145 (dk_at dksX1_sign_1 7 rfl rfl)
theorem dX1_sign_32 : decode cX1_sign 32 = .ok (.bastore, 1) := dk_84 (dk_at dksX1_sign_1 8 rfl rfl)
theorem dX1_sign_33 : decode cX1_sign 33 = .ok (.aload_n 0, 1) := dk_42 (dk_at dksX1_sign_1 9 rfl rfl)
theorem dX1_sign_34 : decode cX1_sign 34 = .ok (.dup, 1) := dk_89 (dk_at dksX1_sign_1 10 rfl rfl)
theorem dX1_sign_35 : decode cX1_sign 35 = .ok (.getfield 186, 3) := dk_180 0 186 (dk_at dksX1_sign_1 11 rfl rfl)
theorem dX1_sign_38 : decode cX1_sign 38 = .ok (.iconst 1, 1) := dk_4 (dk_at dksX1_sign_1 14 rfl rfl)
theorem dX1_sign_39 : decode cX1_sign 39 = .ok (.iadd, 1) := dk_96 (dk_at dksX1_sign_1 15 rfl rfl)
theorem dX1_sign_40 : decode cX1_sign 40 = .ok (.putfield 186, 3) := dk_181 0 186 (dk_at dksX1_sign_1 16 rfl rfl)
theorem dX1_sign_43 : decode cX1_sign 43 = .ok (.iinc 2 (-8), 3) := dk_132 2 248 (dk_at dksX1_sign_1 19 rfl rfl)
theorem dX1_sign_46 : decode cX1_sign 46 = .ok (.goto (-30), 3) := dk_167 255 226 (dk_at dksX1_sign_2 0 rfl rfl)
theorem dX1_sign_49 : decode cX1_sign 49 = .ok (.aload_n 0, 1) := dk_42 (dk_at dksX1_sign_2 3 rfl rfl)
theorem dX1_sign_50 : decode cX1_sign 50 = .ok (.getfield 186, 3) := dk_180 0 186 (dk_at dksX1_sign_2 4 rfl rfl)
theorem dX1_sign_53 : decode cX1_sign 53 = .ok (.ireturn, 1) := dk_172 (dk_at dksX1_sign_2 7 rfl rfl)
def dkwX1_end_0 : List UInt8 := [27, 133, 9, 42, 180, 0, 186, 133, 184, 0, 160, 154, 0, 5, 3, 172, 42, 27, 181, 0, 186, 4, 172]
abbrev dktX1_end_0 : List UInt8 := dkwX1_end_0 ++ []
theorem dksX1_end_0 : cX1_end.data.toList.drop 0 = dktX1_end_0 := by decide +kernel
theorem dX1_end_0 : decode cX1_end 0 = .ok (.iload_n 1, 1) := dk_27 (dk_at dksX1_end_0 0 rfl rfl)
theorem dX1_end_1 : decode cX1_end 1 = .ok (.i2l, 1) := dk_133 (dk_at dksX1_end_0 1 rfl rfl)
theorem dX1_end_2 : decode cX1_end 2 = .ok (.lconst 0, 1) := dk_9 (dk_at dksX1_end_0 2 rfl rfl)
theorem dX1_end_3 : decode cX1_end 3 = .ok (.aload_n 0, 1) := dk_42 (dk_at dksX1_end_0 3 rfl rfl)
theorem dX1_end_4 : decode cX1_end 4 = .ok (.getfield 186, 3) := dk_180 0 186 (dk_at dksX1_end_0 4 rfl rfl)
theorem dX1_end_7 : decode cX1_end 7 = .ok (.i2l, 1) := dk_133 (dk_at dksX1_end_0 7 rfl rfl)
theorem dX1_end_8 : decode cX1_end 8 = .ok (.invokestatic 160, 3) := dk_184 0 160 (dk_at dksX1_end_0 8 rfl rfl)
theorem dX1_end_11 : decode cX1_end 11 = .ok (.ifCond .ne 5, 3) := dk_154 0 5 (dk_at dksX1_end_0 11 rfl rfl)
theorem dX1_end_14 : decode cX1_end 14 = .ok (.iconst 0, 1) := dk_3 (dk_at dksX1_end_0 14 rfl rfl)
theorem dX1_end_15 : decode cX1_end 15 = .ok (.ireturn, 1) := dk_172 (dk_at dksX1_end_0 15 rfl rfl)
theorem dX1_end_16 : decode cX1_end 16 = .ok (.aload_n 0, 1) := dk_42 (dk_at dksX1_end_0 16 rfl rfl)
theorem dX1_end_17 : decode cX1_end 17 = .ok (.iload_n 1, 1) := dk_27 (dk_at dksX1_end_0 17 rfl rfl)
theorem dX1_end_18 : decode cX1_end 18 = .ok (.putfield 186, 3) := dk_181 0 186 (dk_at dksX1_end_0 18 rfl rfl)
theorem dX1_end_21 : decode cX1_end 21 = .ok (.iconst 1, 1) := dk_4 (dk_at dksX1_end_0 21 rfl rfl)
theorem dX1_end_22 : decode cX1_end 22 = .ok (.ireturn, 1) := dk_172 (dk_at dksX1_end_0 22 rfl rfl)
def dkwX1_in_0 : List UInt8 := [30, 32, 148, 155, 0, 14, 30, 22, 4, 148, 157, 0, 7, 4, 167, 0, 4, 3, 172]
abbrev dktX1_in_0 : List UInt8 := dkwX1_in_0 ++ []
theorem dksX1_in_0 : cX1_in.data.toList.drop 0 = dktX1_in_0 := by decide +kernel
theorem dX1_in_0 : decode cX1_in 0 = .ok (.lload_n 0, 1) := dk_30 (dk_at dksX1_in_0 0 rfl rfl)
theorem dX1_in_1 : decode cX1_in 1 = .ok (.lload_n 2, 1) := dk_32 (dk_at dksX1_in_0 1 rfl rfl)
theorem dX1_in_2 : decode cX1_in 2 = .ok (.lcmp, 1) := dk_148 (dk_at dksX1_in_0 2 rfl rfl)
theorem dX1_in_3 : decode cX1_in 3 = .ok (.ifCond .lt 14, 3) := dk_155 0 14 (dk_at dksX1_in_0 3 rfl rfl)
theorem dX1_in_6 : decode cX1_in 6 = .ok (.lload_n 0, 1) := dk_30 (dk_at dksX1_in_0 6 rfl rfl)
theorem dX1_in_7 : decode cX1_in 7 = .ok (.lload 4, 2) := dk_22 4 (dk_at dksX1_in_0 7 rfl rfl)
theorem dX1_in_9 : decode cX1_in 9 = .ok (.lcmp, 1) := dk_148 (dk_at dksX1_in_0 9 rfl rfl)
theorem dX1_in_10 : decode cX1_in 10 = .ok (.ifCond .gt 7, 3) := dk_157 0 7 (dk_at dksX1_in_0 10 rfl rfl)
theorem dX1_in_13 : decode cX1_in 13 = .ok (.iconst 1, 1) := dk_4 (dk_at dksX1_in_0 13 rfl rfl)
theorem dX1_in_14 : decode cX1_in 14 = .ok (.goto 4, 3) := dk_167 0 4 (dk_at dksX1_in_0 14 rfl rfl)
theorem dX1_in_17 : decode cX1_in 17 = .ok (.iconst 0, 1) := dk_3 (dk_at dksX1_in_0 17 rfl rfl)
theorem dX1_in_18 : decode cX1_in 18 = .ok (.ireturn, 1) := dk_172 (dk_at dksX1_in_0 18 rfl rfl)
def dkwX1_town_6 : List UInt8 := [2, 44, 180, 0, 230, 100, 172]
abbrev dktX1_town_6 : List UInt8 := dkwX1_town_6 ++ []
def dkwX1_town_5 : List UInt8 := [42, 180, 0, 42, 29, 50, 42, 180, 0, 45, 29, 46, 182, 0, 224, 132, 3, 1, 167, 255, 232, 28, 172, 77]
abbrev dktX1_town_5 : List UInt8 := dkwX1_town_5 ++ dktX1_town_6
def dkwX1_town_4 : List UInt8 := [132, 2, 1, 43, 16, 59, 182, 0, 207, 154, 255, 171, 43, 182, 0, 221, 3, 62, 29, 28, 162, 0, 25, 42]
abbrev dktX1_town_4 : List UInt8 := dkwX1_town_4 ++ dktX1_town_5
def dkwX1_town_3 : List UInt8 := [43, 4, 3, 6, 182, 0, 203, 167, 0, 4, 3, 181, 0, 211, 45, 3, 181, 0, 214, 43, 45, 182, 0, 217]
abbrev dktX1_town_3 : List UInt8 := dkwX1_town_3 ++ dktX1_town_4
def dkwX1_town_2 : List UInt8 := [180, 0, 45, 28, 43, 6, 4, 17, 3, 231, 182, 0, 203, 79, 45, 43, 16, 42, 182, 0, 207, 153, 0, 13]
abbrev dktX1_town_2 : List UInt8 := dkwX1_town_2 ++ dktX1_town_3
def dkwX1_town_1 : List UInt8 := [96, 16, 8, 162, 0, 7, 4, 167, 0, 4, 3, 182, 0, 199, 42, 180, 0, 42, 28, 50, 78, 42]
abbrev dktX1_town_1 : List UInt8 := dkwX1_town_1 ++ dktX1_town_2
def dkwX1_town_0 : List UInt8 := [42, 16, 76, 182, 0, 192, 76, 43, 180, 0, 196, 154, 0, 5, 3, 172, 3, 61, 43, 42, 180, 0, 157, 28]
abbrev dktX1_town_0 : List UInt8 := dkwX1_town_0 ++ dktX1_town_1
theorem dksX1_town_0 : cX1_town.data.toList.drop 0 = dktX1_town_0 := by decide +kernel
theorem dksX1_town_1 : cX1_town.data.toList.drop 24 = dktX1_town_1 := dk_seg dksX1_town_0 24 rfl rfl
theorem dksX1_town_2 : cX1_town.data.toList.drop 46 = dktX1_town_2 := dk_seg dksX1_town_1 22 rfl rfl
theorem dksX1_town_3 : cX1_town.data.toList.drop 70 = dktX1_town_3 := dk_seg dksX1_town_2 24 rfl rfl
theorem dksX1_town_4 : cX1_town.data.toList.drop 94 = dktX1_town_4 := dk_seg dksX1_town_3 24 rfl rfl
theorem dksX1_town_5 : cX1_town.data.toList.drop 118 = dktX1_town_5 := dk_seg dksX1_town_4 24 rfl rfl
theorem dksX1_town_6 : cX1_town.data.toList.drop 142 = dktX1_town_6 := dk_seg dksX1_town_5 24 rfl rfl
theorem dX1_town_0 : decode cX1_town 0 = .ok (.aload_n 0, 1) := dk_42 (dk_at dksX1_town_0 0 rfl rfl)
theorem dX1_town_1 : decode cX1_town 1 = .ok (.bipush 76, 2) := dk_16 76 (dk_at dksX1_town_0 1 rfl rfl)
theorem dX1_town_3 : decode cX1_town 3 = .ok (.invokevirtual 192, 3) := dk_182 0 192 (dk_at dksX1_town_0 3 rfl rfl)
theorem dX1_town_6 : decode cX1_town 6 = .ok (.astore_n 1, 1) := dk_76 (dk_at dksX1_town_0 6 rfl rfl)
theorem dX1_town_7 : decode cX1_town 7 = .ok (.aload_n 1, 1) := dk_43 (dk_at dksX1_town_0 7 rfl rfl)
theorem dX1_town_8 : decode cX1_town 8 = .ok (.getfield 196, 3) := dk_180 0 196 (dk_at dksX1_town_0 8 rfl rfl)
theorem dX1_town_11 : decode cX1_town 11 = .ok (.ifCond .ne 5, 3) := dk_154 0 5 (dk_at dksX1_town_0 11 rfl rfl)
theorem dX1_town_14 : decode cX1_town 14 = .ok (.iconst 0, 1) := dk_3 (dk_at dksX1_town_0 14 rfl rfl)
theorem dX1_town_15 : decode cX1_town 15 = .ok (.ireturn, 1) := dk_172 (dk_at dksX1_town_0 15 rfl rfl)
theorem dX1_town_16 : decode cX1_town 16 = .ok (.iconst 0, 1) := dk_3 (dk_at dksX1_town_0 16 rfl rfl)
theorem dX1_town_17 : decode cX1_town 17 = .ok (.istore_n 2, 1) := dk_61 (dk_at dksX1_town_0 17 rfl rfl)
theorem dX1_town_18 : decode cX1_town 18 = .ok (.aload_n 1, 1) := dk_43 (dk_at dksX1_town_0 18 rfl rfl)
theorem dX1_town_19 : decode cX1_town 19 = .ok (.aload_n 0, 1) := dk_42 (dk_at dksX1_town_0 19 rfl rfl)
theorem dX1_town_20 : decode cX1_town 20 = .ok (.getfield 157, 3) := dk_180 0 157 (dk_at dksX1_town_0 20 rfl rfl)
theorem dX1_town_23 : decode cX1_town 23 = .ok (.iload_n 2, 1) := dk_28 (dk_at dksX1_town_0 23 rfl rfl)
theorem dX1_town_24 : decode cX1_town 24 = .ok (.iadd, 1) := dk_96 (dk_at dksX1_town_1 0 rfl rfl)
theorem dX1_town_25 : decode cX1_town 25 = .ok (.bipush 8, 2) := dk_16 8 (dk_at dksX1_town_1 1 rfl rfl)
theorem dX1_town_27 : decode cX1_town 27 = .ok (.if_icmp .ge 7, 3) := dk_162 0 7 (dk_at dksX1_town_1 3 rfl rfl)
theorem dX1_town_30 : decode cX1_town 30 = .ok (.iconst 1, 1) := dk_4 (dk_at dksX1_town_1 6 rfl rfl)
theorem dX1_town_31 : decode cX1_town 31 = .ok (.goto 4, 3) := dk_167 0 4 (dk_at dksX1_town_1 7 rfl rfl)
theorem dX1_town_34 : decode cX1_town 34 = .ok (.iconst 0, 1) := dk_3 (dk_at dksX1_town_1 10 rfl rfl)
theorem dX1_town_35 : decode cX1_town 35 = .ok (.invokevirtual 199, 3) := dk_182 0 199 (dk_at dksX1_town_1 11 rfl rfl)
theorem dX1_town_38 : decode cX1_town 38 = .ok (.aload_n 0, 1) := dk_42 (dk_at dksX1_town_1 14 rfl rfl)
theorem dX1_town_39 : decode cX1_town 39 = .ok (.getfield 42, 3) := dk_180 0 42 (dk_at dksX1_town_1 15 rfl rfl)
theorem dX1_town_42 : decode cX1_town 42 = .ok (.iload_n 2, 1) := dk_28 (dk_at dksX1_town_1 18 rfl rfl)
theorem dX1_town_43 : decode cX1_town 43 = .ok (.aaload, 1) := dk_50 (dk_at dksX1_town_1 19 rfl rfl)
theorem dX1_town_44 : decode cX1_town 44 = .ok (.astore_n 3, 1) := dk_78 (dk_at dksX1_town_1 20 rfl rfl)
theorem dX1_town_45 : decode cX1_town 45 = .ok (.aload_n 0, 1) := dk_42 (dk_at dksX1_town_1 21 rfl rfl)
theorem dX1_town_46 : decode cX1_town 46 = .ok (.getfield 45, 3) := dk_180 0 45 (dk_at dksX1_town_2 0 rfl rfl)
theorem dX1_town_49 : decode cX1_town 49 = .ok (.iload_n 2, 1) := dk_28 (dk_at dksX1_town_2 3 rfl rfl)
theorem dX1_town_50 : decode cX1_town 50 = .ok (.aload_n 1, 1) := dk_43 (dk_at dksX1_town_2 4 rfl rfl)
theorem dX1_town_51 : decode cX1_town 51 = .ok (.iconst 3, 1) := dk_6 (dk_at dksX1_town_2 5 rfl rfl)
theorem dX1_town_52 : decode cX1_town 52 = .ok (.iconst 1, 1) := dk_4 (dk_at dksX1_town_2 6 rfl rfl)
theorem dX1_town_53 : decode cX1_town 53 = .ok (.sipush 999, 3) := dk_17 3 231 (dk_at dksX1_town_2 7 rfl rfl)
theorem dX1_town_56 : decode cX1_town 56 = .ok (.invokevirtual 203, 3) := dk_182 0 203 (dk_at dksX1_town_2 10 rfl rfl)
theorem dX1_town_59 : decode cX1_town 59 = .ok (.iastore, 1) := dk_79 (dk_at dksX1_town_2 13 rfl rfl)
theorem dX1_town_60 : decode cX1_town 60 = .ok (.aload_n 3, 1) := dk_45 (dk_at dksX1_town_2 14 rfl rfl)
theorem dX1_town_61 : decode cX1_town 61 = .ok (.aload_n 1, 1) := dk_43 (dk_at dksX1_town_2 15 rfl rfl)
theorem dX1_town_62 : decode cX1_town 62 = .ok (.bipush 42, 2) := dk_16 42 (dk_at dksX1_town_2 16 rfl rfl)
theorem dX1_town_64 : decode cX1_town 64 = .ok (.invokevirtual 207, 3) := dk_182 0 207 (dk_at dksX1_town_2 18 rfl rfl)
theorem dX1_town_67 : decode cX1_town 67 = .ok (.ifCond .eq 13, 3) := dk_153 0 13 (dk_at dksX1_town_2 21 rfl rfl)
theorem dX1_town_70 : decode cX1_town 70 = .ok (.aload_n 1, 1) := dk_43 (dk_at dksX1_town_3 0 rfl rfl)
theorem dX1_town_71 : decode cX1_town 71 = .ok (.iconst 1, 1) := dk_4 (dk_at dksX1_town_3 1 rfl rfl)
theorem dX1_town_72 : decode cX1_town 72 = .ok (.iconst 0, 1) := dk_3 (dk_at dksX1_town_3 2 rfl rfl)
theorem dX1_town_73 : decode cX1_town 73 = .ok (.iconst 3, 1) := dk_6 (dk_at dksX1_town_3 3 rfl rfl)
theorem dX1_town_74 : decode cX1_town 74 = .ok (.invokevirtual 203, 3) := dk_182 0 203 (dk_at dksX1_town_3 4 rfl rfl)
theorem dX1_town_77 : decode cX1_town 77 = .ok (.goto 4, 3) := dk_167 0 4 (dk_at dksX1_town_3 7 rfl rfl)
theorem dX1_town_80 : decode cX1_town 80 = .ok (.iconst 0, 1) := dk_3 (dk_at dksX1_town_3 10 rfl rfl)
theorem dX1_town_81 : decode cX1_town 81 = .ok (.putfield 211, 3) := dk_181 0 211 (dk_at dksX1_town_3 11 rfl rfl)
theorem dX1_town_84 : decode cX1_town 84 = .ok (.aload_n 3, 1) := dk_45 (dk_at dksX1_town_3 14 rfl rfl)
theorem dX1_town_85 : decode cX1_town 85 = .ok (.iconst 0, 1) := dk_3 (dk_at dksX1_town_3 15 rfl rfl)
theorem dX1_town_86 : decode cX1_town 86 = .ok (.putfield 214, 3) := dk_181 0 214 (dk_at dksX1_town_3 16 rfl rfl)
theorem dX1_town_89 : decode cX1_town 89 = .ok (.aload_n 1, 1) := dk_43 (dk_at dksX1_town_3 19 rfl rfl)
theorem dX1_town_90 : decode cX1_town 90 = .ok (.aload_n 3, 1) := dk_45 (dk_at dksX1_town_3 20 rfl rfl)
theorem dX1_town_91 : decode cX1_town 91 = .ok (.invokevirtual 217, 3) := dk_182 0 217 (dk_at dksX1_town_3 21 rfl rfl)
theorem dX1_town_94 : decode cX1_town 94 = .ok (.iinc 2 1, 3) := dk_132 2 1 (dk_at dksX1_town_4 0 rfl rfl)
theorem dX1_town_97 : decode cX1_town 97 = .ok (.aload_n 1, 1) := dk_43 (dk_at dksX1_town_4 3 rfl rfl)
theorem dX1_town_98 : decode cX1_town 98 = .ok (.bipush 59, 2) := dk_16 59 (dk_at dksX1_town_4 4 rfl rfl)
theorem dX1_town_100 : decode cX1_town 100 = .ok (.invokevirtual 207, 3) := dk_182 0 207 (dk_at dksX1_town_4 6 rfl rfl)
theorem dX1_town_103 : decode cX1_town 103 = .ok (.ifCond .ne (-85), 3) := dk_154 255 171 (dk_at dksX1_town_4 9 rfl rfl)
theorem dX1_town_106 : decode cX1_town 106 = .ok (.aload_n 1, 1) := dk_43 (dk_at dksX1_town_4 12 rfl rfl)
theorem dX1_town_107 : decode cX1_town 107 = .ok (.invokevirtual 221, 3) := dk_182 0 221 (dk_at dksX1_town_4 13 rfl rfl)
theorem dX1_town_110 : decode cX1_town 110 = .ok (.iconst 0, 1) := dk_3 (dk_at dksX1_town_4 16 rfl rfl)
theorem dX1_town_111 : decode cX1_town 111 = .ok (.istore_n 3, 1) := dk_62 (dk_at dksX1_town_4 17 rfl rfl)
theorem dX1_town_112 : decode cX1_town 112 = .ok (.iload_n 3, 1) := dk_29 (dk_at dksX1_town_4 18 rfl rfl)
theorem dX1_town_113 : decode cX1_town 113 = .ok (.iload_n 2, 1) := dk_28 (dk_at dksX1_town_4 19 rfl rfl)
theorem dX1_town_114 : decode cX1_town 114 = .ok (.if_icmp .ge 25, 3) := dk_162 0 25 (dk_at dksX1_town_4 20 rfl rfl)
theorem dX1_town_117 : decode cX1_town 117 = .ok (.aload_n 0, 1) := dk_42 (dk_at dksX1_town_4 23 rfl rfl)
theorem dX1_town_118 : decode cX1_town 118 = .ok (.aload_n 0, 1) := dk_42 (dk_at dksX1_town_5 0 rfl rfl)
theorem dX1_town_119 : decode cX1_town 119 = .ok (.getfield 42, 3) := dk_180 0 42 (dk_at dksX1_town_5 1 rfl rfl)
theorem dX1_town_122 : decode cX1_town 122 = .ok (.iload_n 3, 1) := dk_29 (dk_at dksX1_town_5 4 rfl rfl)
theorem dX1_town_123 : decode cX1_town 123 = .ok (.aaload, 1) := dk_50 (dk_at dksX1_town_5 5 rfl rfl)
theorem dX1_town_124 : decode cX1_town 124 = .ok (.aload_n 0, 1) := dk_42 (dk_at dksX1_town_5 6 rfl rfl)
theorem dX1_town_125 : decode cX1_town 125 = .ok (.getfield 45, 3) := dk_180 0 45 (dk_at dksX1_town_5 7 rfl rfl)
theorem dX1_town_128 : decode cX1_town 128 = .ok (.iload_n 3, 1) := dk_29 (dk_at dksX1_town_5 10 rfl rfl)
theorem dX1_town_129 : decode cX1_town 129 = .ok (.iaload, 1) := dk_46 (dk_at dksX1_town_5 11 rfl rfl)
theorem dX1_town_130 : decode cX1_town 130 = .ok (.invokevirtual 224, 3) := dk_182 0 224 (dk_at dksX1_town_5 12 rfl rfl)
theorem dX1_town_133 : decode cX1_town 133 = .ok (.iinc 3 1, 3) := dk_132 3 1 (dk_at dksX1_town_5 15 rfl rfl)
theorem dX1_town_136 : decode cX1_town 136 = .ok (.goto (-24), 3) := dk_167 255 232 (dk_at dksX1_town_5 18 rfl rfl)
theorem dX1_town_139 : decode cX1_town 139 = .ok (.iload_n 2, 1) := dk_28 (dk_at dksX1_town_5 21 rfl rfl)
theorem dX1_town_140 : decode cX1_town 140 = .ok (.ireturn, 1) := dk_172 (dk_at dksX1_town_5 22 rfl rfl)
theorem dX1_town_141 : decode cX1_town 141 = .ok (.astore_n 2, 1) := dk_77 (dk_at dksX1_town_5 23 rfl rfl)
theorem dX1_town_142 : decode cX1_town 142 = .ok (.iconst (-1), 1) := dk_2 (dk_at dksX1_town_6 0 rfl rfl)
theorem dX1_town_143 : decode cX1_town 143 = .ok (.aload_n 2, 1) := dk_44 (dk_at dksX1_town_6 1 rfl rfl)
theorem dX1_town_144 : decode cX1_town 144 = .ok (.getfield 230, 3) := dk_180 0 230 (dk_at dksX1_town_6 2 rfl rfl)
theorem dX1_town_147 : decode cX1_town 147 = .ok (.isub, 1) := dk_100 (dk_at dksX1_town_6 5 rfl rfl)
theorem dX1_town_148 : decode cX1_town 148 = .ok (.ireturn, 1) := dk_172 (dk_at dksX1_town_6 6 rfl rfl)
def dkwX1_words_0 : List UInt8 := [187, 0, 184, 89, 42, 180, 0, 33, 42, 180, 0, 186, 27, 183, 0, 189, 77, 42, 3, 181, 0, 186, 44, 176]
abbrev dktX1_words_0 : List UInt8 := dkwX1_words_0 ++ []
theorem dksX1_words_0 : cX1_words.data.toList.drop 0 = dktX1_words_0 := by decide +kernel
theorem dX1_words_0 : decode cX1_words 0 = .ok (.new 184, 3) := dk_187 0 184 (dk_at dksX1_words_0 0 rfl rfl)
theorem dX1_words_3 : decode cX1_words 3 = .ok (.dup, 1) := dk_89 (dk_at dksX1_words_0 3 rfl rfl)
theorem dX1_words_4 : decode cX1_words 4 = .ok (.aload_n 0, 1) := dk_42 (dk_at dksX1_words_0 4 rfl rfl)
theorem dX1_words_5 : decode cX1_words 5 = .ok (.getfield 33, 3) := dk_180 0 33 (dk_at dksX1_words_0 5 rfl rfl)
theorem dX1_words_8 : decode cX1_words 8 = .ok (.aload_n 0, 1) := dk_42 (dk_at dksX1_words_0 8 rfl rfl)
theorem dX1_words_9 : decode cX1_words 9 = .ok (.getfield 186, 3) := dk_180 0 186 (dk_at dksX1_words_0 9 rfl rfl)
theorem dX1_words_12 : decode cX1_words 12 = .ok (.iload_n 1, 1) := dk_27 (dk_at dksX1_words_0 12 rfl rfl)
theorem dX1_words_13 : decode cX1_words 13 = .ok (.invokespecial 189, 3) := dk_183 0 189 (dk_at dksX1_words_0 13 rfl rfl)
theorem dX1_words_16 : decode cX1_words 16 = .ok (.astore_n 2, 1) := dk_77 (dk_at dksX1_words_0 16 rfl rfl)
theorem dX1_words_17 : decode cX1_words 17 = .ok (.aload_n 0, 1) := dk_42 (dk_at dksX1_words_0 17 rfl rfl)
theorem dX1_words_18 : decode cX1_words 18 = .ok (.iconst 0, 1) := dk_3 (dk_at dksX1_words_0 18 rfl rfl)
theorem dX1_words_19 : decode cX1_words 19 = .ok (.putfield 186, 3) := dk_181 0 186 (dk_at dksX1_words_0 19 rfl rfl)
theorem dX1_words_22 : decode cX1_words 22 = .ok (.aload_n 2, 1) := dk_44 (dk_at dksX1_words_0 22 rfl rfl)
theorem dX1_words_23 : decode cX1_words 23 = .ok (.areturn, 1) := dk_176 (dk_at dksX1_words_0 23 rfl rfl)
def dkwX1_add_3 : List UInt8 := [4, 96, 181, 0, 242, 42, 3, 181, 0, 245, 177]
abbrev dktX1_add_3 : List UInt8 := dkwX1_add_3 ++ []
def dkwX1_add_2 : List UInt8 := [42, 180, 0, 157, 120, 128, 181, 0, 168, 42, 89, 180, 0, 157, 4, 96, 181, 0, 157, 42, 89, 180, 0, 242]
abbrev dktX1_add_2 : List UInt8 := dkwX1_add_2 ++ dktX1_add_3
def dkwX1_add_1 : List UInt8 := [28, 79, 42, 180, 0, 18, 180, 0, 239, 42, 180, 0, 157, 3, 79, 42, 180, 0, 18, 89, 180, 0, 168, 4]
abbrev dktX1_add_1 : List UInt8 := dkwX1_add_1 ++ dktX1_add_2
def dkwX1_add_0 : List UInt8 := [42, 180, 0, 11, 42, 180, 0, 157, 50, 43, 182, 0, 233, 42, 180, 0, 18, 180, 0, 236, 42, 180, 0, 157]
abbrev dktX1_add_0 : List UInt8 := dkwX1_add_0 ++ dktX1_add_1
theorem dksX1_add_0 : cX1_add.data.toList.drop 0 = dktX1_add_0 := by decide +kernel
theorem dksX1_add_1 : cX1_add.data.toList.drop 24 = dktX1_add_1 := dk_seg dksX1_add_0 24 rfl rfl
theorem dksX1_add_2 : cX1_add.data.toList.drop 48 = dktX1_add_2 := dk_seg dksX1_add_1 24 rfl rfl
theorem dksX1_add_3 : cX1_add.data.toList.drop 72 = dktX1_add_3 := dk_seg dksX1_add_2 24 rfl rfl
theorem dX1_add_0 : decode cX1_add 0 = .ok (.aload_n 0, 1) := dk_42 (dk_at dksX1_add_0 0 rfl rfl)
theorem dX1_add_1 : decode cX1_add 1 = .ok (.getfield 11, 3) := dk_180 0 11 (dk_at dksX1_add_0 1 rfl rfl)
theorem dX1_add_4 : decode cX1_add 4 = .ok (.aload_n 0, 1) := dk_42 (dk_at dksX1_add_0 4 rfl rfl)
theorem dX1_add_5 : decode cX1_add 5 = .ok (.getfield 157, 3) := dk_180 0 157 (dk_at dksX1_add_0 5 rfl rfl)
theorem dX1_add_8 : decode cX1_add 8 = .ok (.aaload, 1) := dk_50 (dk_at dksX1_add_0 8 rfl rfl)
theorem dX1_add_9 : decode cX1_add 9 = .ok (.aload_n 1, 1) := dk_43 (dk_at dksX1_add_0 9 rfl rfl)
theorem dX1_add_10 : decode cX1_add 10 = .ok (.invokevirtual 233, 3) := dk_182 0 233 (dk_at dksX1_add_0 10 rfl rfl)
theorem dX1_add_13 : decode cX1_add 13 = .ok (.aload_n 0, 1) := dk_42 (dk_at dksX1_add_0 13 rfl rfl)
theorem dX1_add_14 : decode cX1_add 14 = .ok (.getfield 18, 3) := dk_180 0 18 (dk_at dksX1_add_0 14 rfl rfl)
theorem dX1_add_17 : decode cX1_add 17 = .ok (.getfield 236, 3) := dk_180 0 236 (dk_at dksX1_add_0 17 rfl rfl)
theorem dX1_add_20 : decode cX1_add 20 = .ok (.aload_n 0, 1) := dk_42 (dk_at dksX1_add_0 20 rfl rfl)
theorem dX1_add_21 : decode cX1_add 21 = .ok (.getfield 157, 3) := dk_180 0 157 (dk_at dksX1_add_0 21 rfl rfl)
theorem dX1_add_24 : decode cX1_add 24 = .ok (.iload_n 2, 1) := dk_28 (dk_at dksX1_add_1 0 rfl rfl)
theorem dX1_add_25 : decode cX1_add 25 = .ok (.iastore, 1) := dk_79 (dk_at dksX1_add_1 1 rfl rfl)
theorem dX1_add_26 : decode cX1_add 26 = .ok (.aload_n 0, 1) := dk_42 (dk_at dksX1_add_1 2 rfl rfl)
theorem dX1_add_27 : decode cX1_add 27 = .ok (.getfield 18, 3) := dk_180 0 18 (dk_at dksX1_add_1 3 rfl rfl)
theorem dX1_add_30 : decode cX1_add 30 = .ok (.getfield 239, 3) := dk_180 0 239 (dk_at dksX1_add_1 6 rfl rfl)
theorem dX1_add_33 : decode cX1_add 33 = .ok (.aload_n 0, 1) := dk_42 (dk_at dksX1_add_1 9 rfl rfl)
theorem dX1_add_34 : decode cX1_add 34 = .ok (.getfield 157, 3) := dk_180 0 157 (dk_at dksX1_add_1 10 rfl rfl)
theorem dX1_add_37 : decode cX1_add 37 = .ok (.iconst 0, 1) := dk_3 (dk_at dksX1_add_1 13 rfl rfl)
theorem dX1_add_38 : decode cX1_add 38 = .ok (.iastore, 1) := dk_79 (dk_at dksX1_add_1 14 rfl rfl)
theorem dX1_add_39 : decode cX1_add 39 = .ok (.aload_n 0, 1) := dk_42 (dk_at dksX1_add_1 15 rfl rfl)
theorem dX1_add_40 : decode cX1_add 40 = .ok (.getfield 18, 3) := dk_180 0 18 (dk_at dksX1_add_1 16 rfl rfl)
theorem dX1_add_43 : decode cX1_add 43 = .ok (.dup, 1) := dk_89 (dk_at dksX1_add_1 19 rfl rfl)
theorem dX1_add_44 : decode cX1_add 44 = .ok (.getfield 168, 3) := dk_180 0 168 (dk_at dksX1_add_1 20 rfl rfl)
theorem dX1_add_47 : decode cX1_add 47 = .ok (.iconst 1, 1) := dk_4 (dk_at dksX1_add_1 23 rfl rfl)
theorem dX1_add_48 : decode cX1_add 48 = .ok (.aload_n 0, 1) := dk_42 (dk_at dksX1_add_2 0 rfl rfl)
theorem dX1_add_49 : decode cX1_add 49 = .ok (.getfield 157, 3) := dk_180 0 157 (dk_at dksX1_add_2 1 rfl rfl)
theorem dX1_add_52 : decode cX1_add 52 = .ok (.ishl, 1) := dk_120 (dk_at dksX1_add_2 4 rfl rfl)
theorem dX1_add_53 : decode cX1_add 53 = .ok (.ior, 1) := dk_128 (dk_at dksX1_add_2 5 rfl rfl)
theorem dX1_add_54 : decode cX1_add 54 = .ok (.putfield 168, 3) := dk_181 0 168 (dk_at dksX1_add_2 6 rfl rfl)
theorem dX1_add_57 : decode cX1_add 57 = .ok (.aload_n 0, 1) := dk_42 (dk_at dksX1_add_2 9 rfl rfl)
theorem dX1_add_58 : decode cX1_add 58 = .ok (.dup, 1) := dk_89 (dk_at dksX1_add_2 10 rfl rfl)
theorem dX1_add_59 : decode cX1_add 59 = .ok (.getfield 157, 3) := dk_180 0 157 (dk_at dksX1_add_2 11 rfl rfl)
theorem dX1_add_62 : decode cX1_add 62 = .ok (.iconst 1, 1) := dk_4 (dk_at dksX1_add_2 14 rfl rfl)
theorem dX1_add_63 : decode cX1_add 63 = .ok (.iadd, 1) := dk_96 (dk_at dksX1_add_2 15 rfl rfl)
theorem dX1_add_64 : decode cX1_add 64 = .ok (.putfield 157, 3) := dk_181 0 157 (dk_at dksX1_add_2 16 rfl rfl)
theorem dX1_add_67 : decode cX1_add 67 = .ok (.aload_n 0, 1) := dk_42 (dk_at dksX1_add_2 19 rfl rfl)
theorem dX1_add_68 : decode cX1_add 68 = .ok (.dup, 1) := dk_89 (dk_at dksX1_add_2 20 rfl rfl)
theorem dX1_add_69 : decode cX1_add 69 = .ok (.getfield 242, 3) := dk_180 0 242 (dk_at dksX1_add_2 21 rfl rfl)
theorem dX1_add_72 : decode cX1_add 72 = .ok (.iconst 1, 1) := dk_4 (dk_at dksX1_add_3 0 rfl rfl)
theorem dX1_add_73 : decode cX1_add 73 = .ok (.iadd, 1) := dk_96 (dk_at dksX1_add_3 1 rfl rfl)
theorem dX1_add_74 : decode cX1_add 74 = .ok (.putfield 242, 3) := dk_181 0 242 (dk_at dksX1_add_3 2 rfl rfl)
theorem dX1_add_77 : decode cX1_add 77 = .ok (.aload_n 0, 1) := dk_42 (dk_at dksX1_add_3 5 rfl rfl)
theorem dX1_add_78 : decode cX1_add 78 = .ok (.iconst 0, 1) := dk_3 (dk_at dksX1_add_3 6 rfl rfl)
theorem dX1_add_79 : decode cX1_add 79 = .ok (.putfield 245, 3) := dk_181 0 245 (dk_at dksX1_add_3 7 rfl rfl)
theorem dX1_add_82 : decode cX1_add 82 = .ok (.return_, 1) := dk_177 (dk_at dksX1_add_3 10 rfl rfl)
def dkwX1_will_2 : List UInt8 := [181, 0, 253, 3, 172, 78, 2, 45, 180, 0, 230, 100, 172]
abbrev dktX1_will_2 : List UInt8 := dkwX1_will_2 ++ []
def dkwX1_will_1 : List UInt8 := [154, 0, 10, 42, 1, 181, 0, 253, 3, 172, 42, 187, 1, 1, 89, 42, 43, 28, 183, 1, 3, 182, 1, 6]
abbrev dktX1_will_1 : List UInt8 := dkwX1_will_1 ++ dktX1_will_2
def dkwX1_will_0 : List UInt8 := [42, 180, 0, 33, 182, 0, 248, 192, 0, 249, 76, 42, 180, 0, 186, 61, 42, 3, 181, 0, 186, 28]
abbrev dktX1_will_0 : List UInt8 := dkwX1_will_0 ++ dktX1_will_1
theorem dksX1_will_0 : cX1_will.data.toList.drop 0 = dktX1_will_0 := by decide +kernel
theorem dksX1_will_1 : cX1_will.data.toList.drop 22 = dktX1_will_1 := dk_seg dksX1_will_0 22 rfl rfl
theorem dksX1_will_2 : cX1_will.data.toList.drop 46 = dktX1_will_2 := dk_seg dksX1_will_1 24 rfl rfl
theorem dX1_will_0 : decode cX1_will 0 = .ok (.aload_n 0, 1) := dk_42 (dk_at dksX1_will_0 0 rfl rfl)
theorem dX1_will_1 : decode cX1_will 1 = .ok (.getfield 33, 3) := dk_180 0 33 (dk_at dksX1_will_0 1 rfl rfl)
theorem dX1_will_4 : decode cX1_will 4 = .ok (.invokevirtual 248, 3) := dk_182 0 248 (dk_at dksX1_will_0 4 rfl rfl)
theorem dX1_will_7 : decode cX1_will 7 = .ok (.checkcast 249, 3) := dk_192 0 249 (dk_at dksX1_will_0 7 rfl rfl)
theorem dX1_will_10 : decode cX1_will 10 = .ok (.astore_n 1, 1) := dk_76 (dk_at dksX1_will_0 10 rfl rfl)
theorem dX1_will_11 : decode cX1_will 11 = .ok (.aload_n 0, 1) := dk_42 (dk_at dksX1_will_0 11 rfl rfl)
theorem dX1_will_12 : decode cX1_will 12 = .ok (.getfield 186, 3) := dk_180 0 186 (dk_at dksX1_will_0 12 rfl rfl)
theorem dX1_will_15 : decode cX1_will 15 = .ok (.istore_n 2, 1) := dk_61 (dk_at dksX1_will_0 15 rfl rfl)
theorem dX1_will_16 : decode cX1_will 16 = .ok (.aload_n 0, 1) := dk_42 (dk_at dksX1_will_0 16 rfl rfl)
theorem dX1_will_17 : decode cX1_will 17 = .ok (.iconst 0, 1) := dk_3 (dk_at dksX1_will_0 17 rfl rfl)
theorem dX1_will_18 : decode cX1_will 18 = .ok (.putfield 186, 3) := dk_181 0 186 (dk_at dksX1_will_0 18 rfl rfl)
theorem dX1_will_21 : decode cX1_will 21 = .ok (.iload_n 2, 1) := dk_28 (dk_at dksX1_will_0 21 rfl rfl)
theorem dX1_will_22 : decode cX1_will 22 = .ok (.ifCond .ne 10, 3) := dk_154 0 10 (dk_at dksX1_will_1 0 rfl rfl)
theorem dX1_will_25 : decode cX1_will 25 = .ok (.aload_n 0, 1) := dk_42 (dk_at dksX1_will_1 3 rfl rfl)
theorem dX1_will_26 : decode cX1_will 26 = .ok (.aconst_null, 1) := dk_1 (dk_at dksX1_will_1 4 rfl rfl)
theorem dX1_will_27 : decode cX1_will 27 = .ok (.putfield 253, 3) := dk_181 0 253 (dk_at dksX1_will_1 5 rfl rfl)
theorem dX1_will_30 : decode cX1_will 30 = .ok (.iconst 0, 1) := dk_3 (dk_at dksX1_will_1 8 rfl rfl)
theorem dX1_will_31 : decode cX1_will 31 = .ok (.ireturn, 1) := dk_172 (dk_at dksX1_will_1 9 rfl rfl)
theorem dX1_will_32 : decode cX1_will 32 = .ok (.aload_n 0, 1) := dk_42 (dk_at dksX1_will_1 10 rfl rfl)
theorem dX1_will_33 : decode cX1_will 33 = .ok (.new 257, 3) := dk_187 1 1 (dk_at dksX1_will_1 11 rfl rfl)
theorem dX1_will_36 : decode cX1_will 36 = .ok (.dup, 1) := dk_89 (dk_at dksX1_will_1 14 rfl rfl)
theorem dX1_will_37 : decode cX1_will 37 = .ok (.aload_n 0, 1) := dk_42 (dk_at dksX1_will_1 15 rfl rfl)
theorem dX1_will_38 : decode cX1_will 38 = .ok (.aload_n 1, 1) := dk_43 (dk_at dksX1_will_1 16 rfl rfl)
theorem dX1_will_39 : decode cX1_will 39 = .ok (.iload_n 2, 1) := dk_28 (dk_at dksX1_will_1 17 rfl rfl)
theorem dX1_will_40 : decode cX1_will 40 = .ok (.invokespecial 259, 3) := dk_183 1 3 (dk_at dksX1_will_1 18 rfl rfl)
theorem dX1_will_43 : decode cX1_will 43 = .ok (.invokevirtual 262, 3) := dk_182 1 6 (dk_at dksX1_will_1 21 rfl rfl)
theorem dX1_will_46 : decode cX1_will 46 = .ok (.putfield 253, 3) := dk_181 0 253 (dk_at dksX1_will_2 0 rfl rfl)
theorem dX1_will_49 : decode cX1_will 49 = .ok (.iconst 0, 1) := dk_3 (dk_at dksX1_will_2 3 rfl rfl)
theorem dX1_will_50 : decode cX1_will 50 = .ok (.ireturn, 1) := dk_172 (dk_at dksX1_will_2 4 rfl rfl)
theorem dX1_will_51 : decode cX1_will 51 = .ok (.astore_n 3, 1) := dk_78 (dk_at dksX1_will_2 5 rfl rfl)
theorem dX1_will_52 : decode cX1_will 52 = .ok (.iconst (-1), 1) := dk_2 (dk_at dksX1_will_2 6 rfl rfl)
theorem dX1_will_53 : decode cX1_will 53 = .ok (.aload_n 3, 1) := dk_45 (dk_at dksX1_will_2 7 rfl rfl)
theorem dX1_will_54 : decode cX1_will 54 = .ok (.getfield 230, 3) := dk_180 0 230 (dk_at dksX1_will_2 8 rfl rfl)
theorem dX1_will_57 : decode cX1_will 57 = .ok (.isub, 1) := dk_100 (dk_at dksX1_will_2 11 rfl rfl)
theorem dX1_will_58 : decode cX1_will 58 = .ok (.ireturn, 1) := dk_172 (dk_at dksX1_will_2 12 rfl rfl)
def dkwX1_habit_3 : List UInt8 := [180, 1, 17, 3, 16, 6, 184, 1, 19, 45, 180, 1, 14, 172]
abbrev dktX1_habit_3 : List UInt8 := dkwX1_habit_3 ++ []
def dkwX1_habit_2 : List UInt8 := [180, 0, 11, 27, 50, 45, 180, 1, 14, 181, 1, 14, 45, 180, 1, 17, 3, 42, 180, 0, 11, 27, 50]
abbrev dktX1_habit_2 : List UInt8 := dkwX1_habit_2 ++ dktX1_habit_3
def dkwX1_habit_1 : List UInt8 := [78, 44, 45, 182, 0, 217, 44, 182, 0, 221, 167, 0, 13, 58, 4, 2, 25, 4, 180, 0, 230, 100, 172, 42]
abbrev dktX1_habit_1 : List UInt8 := dkwX1_habit_1 ++ dktX1_habit_2
def dkwX1_habit_0 : List UInt8 := [42, 16, 12, 182, 0, 192, 77, 42, 27, 182, 0, 164, 154, 0, 6, 16, 156, 172, 42, 180, 0, 42, 3, 50]
abbrev dktX1_habit_0 : List UInt8 := dkwX1_habit_0 ++ dktX1_habit_1
theorem dksX1_habit_0 : cX1_habit.data.toList.drop 0 = dktX1_habit_0 := by decide +kernel
theorem dksX1_habit_1 : cX1_habit.data.toList.drop 24 = dktX1_habit_1 := dk_seg dksX1_habit_0 24 rfl rfl
theorem dksX1_habit_2 : cX1_habit.data.toList.drop 48 = dktX1_habit_2 := dk_seg dksX1_habit_1 24 rfl rfl
theorem dksX1_habit_3 : cX1_habit.data.toList.drop 71 = dktX1_habit_3 := dk_seg dksX1_habit_2 23 rfl rfl
theorem dX1_habit_0 : decode cX1_habit 0 = .ok (.aload_n 0, 1) := dk_42 (dk_at dksX1_habit_0 0 rfl rfl)
theorem dX1_habit_1 : decode cX1_habit 1 = .ok (.bipush 12, 2) := dk_16 12 (dk_at dksX1_habit_0 1 rfl rfl)
theorem dX1_habit_3 : decode cX1_habit 3 = .ok (.invokevirtual 192, 3) := dk_182 0 192 (dk_at dksX1_habit_0 3 rfl rfl)
theorem dX1_habit_6 : decode cX1_habit 6 = .ok (.astore_n 2, 1) := dk_77 (dk_at dksX1_habit_0 6 rfl rfl)
theorem dX1_habit_7 : decode cX1_habit 7 = .ok (.aload_n 0, 1) := dk_42 (dk_at dksX1_habit_0 7 rfl rfl)
theorem dX1_habit_8 : decode cX1_habit 8 = .ok (.iload_n 1, 1) := dk_27 (dk_at dksX1_habit_0 8 rfl rfl)
theorem dX1_habit_9 : decode cX1_habit 9 = .ok (.invokevirtual 164, 3) := dk_182 0 164 (dk_at dksX1_habit_0 9 rfl rfl)
theorem dX1_habit_12 : decode cX1_habit 12 = .ok (.ifCond .ne 6, 3) := dk_154 0 6 (dk_at dksX1_habit_0 12 rfl rfl)
theorem dX1_habit_15 : decode cX1_habit 15 = .ok (.bipush (-100), 2) := dk_16 156 (dk_at dksX1_habit_0 15 rfl rfl)
theorem dX1_habit_17 : decode cX1_habit 17 = .ok (.ireturn, 1) := dk_172 (dk_at dksX1_habit_0 17 rfl rfl)
theorem dX1_habit_18 : decode cX1_habit 18 = .ok (.aload_n 0, 1) := dk_42 (dk_at dksX1_habit_0 18 rfl rfl)
theorem dX1_habit_19 : decode cX1_habit 19 = .ok (.getfield 42, 3) := dk_180 0 42 (dk_at dksX1_habit_0 19 rfl rfl)
theorem dX1_habit_22 : decode cX1_habit 22 = .ok (.iconst 0, 1) := dk_3 (dk_at dksX1_habit_0 22 rfl rfl)
theorem dX1_habit_23 : decode cX1_habit 23 = .ok (.aaload, 1) := dk_50 (dk_at dksX1_habit_0 23 rfl rfl)
theorem dX1_habit_24 : decode cX1_habit 24 = .ok (.astore_n 3, 1) := dk_78 (dk_at dksX1_habit_1 0 rfl rfl)
theorem dX1_habit_25 : decode cX1_habit 25 = .ok (.aload_n 2, 1) := dk_44 (dk_at dksX1_habit_1 1 rfl rfl)
theorem dX1_habit_26 : decode cX1_habit 26 = .ok (.aload_n 3, 1) := dk_45 (dk_at dksX1_habit_1 2 rfl rfl)
theorem dX1_habit_27 : decode cX1_habit 27 = .ok (.invokevirtual 217, 3) := dk_182 0 217 (dk_at dksX1_habit_1 3 rfl rfl)
theorem dX1_habit_30 : decode cX1_habit 30 = .ok (.aload_n 2, 1) := dk_44 (dk_at dksX1_habit_1 6 rfl rfl)
theorem dX1_habit_31 : decode cX1_habit 31 = .ok (.invokevirtual 221, 3) := dk_182 0 221 (dk_at dksX1_habit_1 7 rfl rfl)
theorem dX1_habit_34 : decode cX1_habit 34 = .ok (.goto 13, 3) := dk_167 0 13 (dk_at dksX1_habit_1 10 rfl rfl)
theorem dX1_habit_37 : decode cX1_habit 37 = .ok (.astore 4, 2) := dk_58 4 (dk_at dksX1_habit_1 13 rfl rfl)
theorem dX1_habit_39 : decode cX1_habit 39 = .ok (.iconst (-1), 1) := dk_2 (dk_at dksX1_habit_1 15 rfl rfl)
theorem dX1_habit_40 : decode cX1_habit 40 = .ok (.aload 4, 2) := dk_25 4 (dk_at dksX1_habit_1 16 rfl rfl)
theorem dX1_habit_42 : decode cX1_habit 42 = .ok (.getfield 230, 3) := dk_180 0 230 (dk_at dksX1_habit_1 18 rfl rfl)
theorem dX1_habit_45 : decode cX1_habit 45 = .ok (.isub, 1) := dk_100 (dk_at dksX1_habit_1 21 rfl rfl)
theorem dX1_habit_46 : decode cX1_habit 46 = .ok (.ireturn, 1) := dk_172 (dk_at dksX1_habit_1 22 rfl rfl)
theorem dX1_habit_47 : decode cX1_habit 47 = .ok (.aload_n 0, 1) := dk_42 (dk_at dksX1_habit_1 23 rfl rfl)
theorem dX1_habit_48 : decode cX1_habit 48 = .ok (.getfield 11, 3) := dk_180 0 11 (dk_at dksX1_habit_2 0 rfl rfl)
theorem dX1_habit_51 : decode cX1_habit 51 = .ok (.iload_n 1, 1) := dk_27 (dk_at dksX1_habit_2 3 rfl rfl)
theorem dX1_habit_52 : decode cX1_habit 52 = .ok (.aaload, 1) := dk_50 (dk_at dksX1_habit_2 4 rfl rfl)
theorem dX1_habit_53 : decode cX1_habit 53 = .ok (.aload_n 3, 1) := dk_45 (dk_at dksX1_habit_2 5 rfl rfl)
theorem dX1_habit_54 : decode cX1_habit 54 = .ok (.getfield 270, 3) := dk_180 1 14 (dk_at dksX1_habit_2 6 rfl rfl)
theorem dX1_habit_57 : decode cX1_habit 57 = .ok (.putfield 270, 3) := dk_181 1 14 (dk_at dksX1_habit_2 9 rfl rfl)
theorem dX1_habit_60 : decode cX1_habit 60 = .ok (.aload_n 3, 1) := dk_45 (dk_at dksX1_habit_2 12 rfl rfl)
theorem dX1_habit_61 : decode cX1_habit 61 = .ok (.getfield 273, 3) := dk_180 1 17 (dk_at dksX1_habit_2 13 rfl rfl)
theorem dX1_habit_64 : decode cX1_habit 64 = .ok (.iconst 0, 1) := dk_3 (dk_at dksX1_habit_2 16 rfl rfl)
theorem dX1_habit_65 : decode cX1_habit 65 = .ok (.aload_n 0, 1) := dk_42 (dk_at dksX1_habit_2 17 rfl rfl)
theorem dX1_habit_66 : decode cX1_habit 66 = .ok (.getfield 11, 3) := dk_180 0 11 (dk_at dksX1_habit_2 18 rfl rfl)
theorem dX1_habit_69 : decode cX1_habit 69 = .ok (.iload_n 1, 1) := dk_27 (dk_at dksX1_habit_2 21 rfl rfl)
theorem dX1_habit_70 : decode cX1_habit 70 = .ok (.aaload, 1) := dk_50 (dk_at dksX1_habit_2 22 rfl rfl)
theorem dX1_habit_71 : decode cX1_habit 71 = .ok (.getfield 273, 3) := dk_180 1 17 (dk_at dksX1_habit_3 0 rfl rfl)
theorem dX1_habit_74 : decode cX1_habit 74 = .ok (.iconst 0, 1) := dk_3 (dk_at dksX1_habit_3 3 rfl rfl)
theorem dX1_habit_75 : decode cX1_habit 75 = .ok (.bipush 6, 2) := dk_16 6 (dk_at dksX1_habit_3 4 rfl rfl)
theorem dX1_habit_77 : decode cX1_habit 77 = .ok (.invokestatic 275, 3) := dk_184 1 19 (dk_at dksX1_habit_3 6 rfl rfl)
theorem dX1_habit_80 : decode cX1_habit 80 = .ok (.aload_n 3, 1) := dk_45 (dk_at dksX1_habit_3 9 rfl rfl)
theorem dX1_habit_81 : decode cX1_habit 81 = .ok (.getfield 270, 3) := dk_180 1 14 (dk_at dksX1_habit_3 10 rfl rfl)
theorem dX1_habit_84 : decode cX1_habit 84 = .ok (.ireturn, 1) := dk_172 (dk_at dksX1_habit_3 13 rfl rfl)
def dkwX1_isOne_0 : List UInt8 := [27, 133, 9, 42, 180, 0, 157, 4, 100, 133, 184, 0, 160, 172]
abbrev dktX1_isOne_0 : List UInt8 := dkwX1_isOne_0 ++ []
theorem dksX1_isOne_0 : cX1_isOne.data.toList.drop 0 = dktX1_isOne_0 := by decide +kernel
theorem dX1_isOne_0 : decode cX1_isOne 0 = .ok (.iload_n 1, 1) := dk_27 (dk_at dksX1_isOne_0 0 rfl rfl)
theorem dX1_isOne_1 : decode cX1_isOne 1 = .ok (.i2l, 1) := dk_133 (dk_at dksX1_isOne_0 1 rfl rfl)
theorem dX1_isOne_2 : decode cX1_isOne 2 = .ok (.lconst 0, 1) := dk_9 (dk_at dksX1_isOne_0 2 rfl rfl)
theorem dX1_isOne_3 : decode cX1_isOne 3 = .ok (.aload_n 0, 1) := dk_42 (dk_at dksX1_isOne_0 3 rfl rfl)
theorem dX1_isOne_4 : decode cX1_isOne 4 = .ok (.getfield 157, 3) := dk_180 0 157 (dk_at dksX1_isOne_0 4 rfl rfl)
theorem dX1_isOne_7 : decode cX1_isOne 7 = .ok (.iconst 1, 1) := dk_4 (dk_at dksX1_isOne_0 7 rfl rfl)
theorem dX1_isOne_8 : decode cX1_isOne 8 = .ok (.isub, 1) := dk_100 (dk_at dksX1_isOne_0 8 rfl rfl)
theorem dX1_isOne_9 : decode cX1_isOne 9 = .ok (.i2l, 1) := dk_133 (dk_at dksX1_isOne_0 9 rfl rfl)
theorem dX1_isOne_10 : decode cX1_isOne 10 = .ok (.invokestatic 160, 3) := dk_184 0 160 (dk_at dksX1_isOne_0 10 rfl rfl)
theorem dX1_isOne_13 : decode cX1_isOne 13 = .ok (.ireturn, 1) := dk_172 (dk_at dksX1_isOne_0 13 rfl rfl)
def dkwX1_set_5 : List UInt8 := [180, 0, 214, 54, 4, 42, 180, 0, 11, 28, 50, 29, 181, 0, 214, 21, 4, 172]
abbrev dktX1_set_5 : List UInt8 := dkwX1_set_5 ++ []
def dkwX1_set_4 : List UInt8 := [160, 0, 15, 29, 133, 9, 20, 1, 39, 184, 0, 160, 154, 0, 5, 2, 172, 42, 180, 0, 11, 28, 50]
abbrev dktX1_set_4 : List UInt8 := dkwX1_set_4 ++ dktX1_set_5
def dkwX1_set_3 : List UInt8 := [28, 50, 180, 0, 211, 54, 4, 42, 180, 0, 11, 28, 50, 29, 181, 0, 211, 21, 4, 172, 27, 5]
abbrev dktX1_set_3 : List UInt8 := dkwX1_set_3 ++ dktX1_set_4
def dkwX1_set_2 : List UInt8 := [21, 4, 172, 27, 4, 160, 0, 39, 29, 133, 9, 20, 1, 37, 184, 0, 160, 153, 0, 27, 42, 180, 0, 11]
abbrev dktX1_set_2 : List UInt8 := dkwX1_set_2 ++ dktX1_set_3
def dkwX1_set_1 : List UInt8 := [153, 0, 27, 42, 180, 0, 18, 180, 0, 236, 28, 46, 54, 4, 42, 180, 0, 18, 180, 0, 236, 28, 29, 79]
abbrev dktX1_set_1 : List UInt8 := dkwX1_set_1 ++ dktX1_set_2
def dkwX1_set_0 : List UInt8 := [42, 28, 182, 0, 164, 154, 0, 5, 2, 172, 27, 154, 0, 39, 29, 133, 10, 20, 1, 35, 184, 0, 160]
abbrev dktX1_set_0 : List UInt8 := dkwX1_set_0 ++ dktX1_set_1
theorem dksX1_set_0 : cX1_set.data.toList.drop 0 = dktX1_set_0 := by decide +kernel
theorem dksX1_set_1 : cX1_set.data.toList.drop 23 = dktX1_set_1 := dk_seg dksX1_set_0 23 rfl rfl
theorem dksX1_set_2 : cX1_set.data.toList.drop 47 = dktX1_set_2 := dk_seg dksX1_set_1 24 rfl rfl
theorem dksX1_set_3 : cX1_set.data.toList.drop 71 = dktX1_set_3 := dk_seg dksX1_set_2 24 rfl rfl
theorem dksX1_set_4 : cX1_set.data.toList.drop 93 = dktX1_set_4 := dk_seg dksX1_set_3 22 rfl rfl
theorem dksX1_set_5 : cX1_set.data.toList.drop 116 = dktX1_set_5 := dk_seg dksX1_set_4 23 rfl rfl
theorem dX1_set_0 : decode cX1_set 0 = .ok (.aload_n 0, 1) := dk_42 (dk_at dksX1_set_0 0 rfl rfl)
theorem dX1_set_1 : decode cX1_set 1 = .ok (.iload_n 2, 1) := dk_28 (dk_at dksX1_set_0 1 rfl rfl)
theorem dX1_set_2 : decode cX1_set 2 = .ok (.invokevirtual 164, 3) := dk_182 0 164 (dk_at dksX1_set_0 2 rfl rfl)
theorem dX1_set_5 : decode cX1_set 5 = .ok (.ifCond .ne 5, 3) := dk_154 0 5 (dk_at dksX1_set_0 5 rfl rfl)
theorem dX1_set_8 : decode cX1_set 8 = .ok (.iconst (-1), 1) := dk_2 (dk_at dksX1_set_0 8 rfl rfl)
theorem dX1_set_9 : decode cX1_set 9 = .ok (.ireturn, 1) := dk_172 (dk_at dksX1_set_0 9 rfl rfl)
theorem dX1_set_10 : decode cX1_set 10 = .ok (.iload_n 1, 1) := dk_27 (dk_at dksX1_set_0 10 rfl rfl)
theorem dX1_set_11 : decode cX1_set 11 = .ok (.ifCond .ne 39, 3) := dk_154 0 39 (dk_at dksX1_set_0 11 rfl rfl)
theorem dX1_set_14 : decode cX1_set 14 = .ok (.iload_n 3, 1) := dk_29 (dk_at dksX1_set_0 14 rfl rfl)
theorem dX1_set_15 : decode cX1_set 15 = .ok (.i2l, 1) := dk_133 (dk_at dksX1_set_0 15 rfl rfl)
theorem dX1_set_16 : decode cX1_set 16 = .ok (.lconst 1, 1) := dk_10 (dk_at dksX1_set_0 16 rfl rfl)
theorem dX1_set_17 : decode cX1_set 17 = .ok (.ldc2_w 291, 3) := dk_20 1 35 (dk_at dksX1_set_0 17 rfl rfl)
theorem dX1_set_20 : decode cX1_set 20 = .ok (.invokestatic 160, 3) := dk_184 0 160 (dk_at dksX1_set_0 20 rfl rfl)
theorem dX1_set_23 : decode cX1_set 23 = .ok (.ifCond .eq 27, 3) := dk_153 0 27 (dk_at dksX1_set_1 0 rfl rfl)
theorem dX1_set_26 : decode cX1_set 26 = .ok (.aload_n 0, 1) := dk_42 (dk_at dksX1_set_1 3 rfl rfl)
theorem dX1_set_27 : decode cX1_set 27 = .ok (.getfield 18, 3) := dk_180 0 18 (dk_at dksX1_set_1 4 rfl rfl)
theorem dX1_set_30 : decode cX1_set 30 = .ok (.getfield 236, 3) := dk_180 0 236 (dk_at dksX1_set_1 7 rfl rfl)
theorem dX1_set_33 : decode cX1_set 33 = .ok (.iload_n 2, 1) := dk_28 (dk_at dksX1_set_1 10 rfl rfl)
theorem dX1_set_34 : decode cX1_set 34 = .ok (.iaload, 1) := dk_46 (dk_at dksX1_set_1 11 rfl rfl)
theorem dX1_set_35 : decode cX1_set 35 = .ok (.istore 4, 2) := dk_54 4 (dk_at dksX1_set_1 12 rfl rfl)
theorem dX1_set_37 : decode cX1_set 37 = .ok (.aload_n 0, 1) := dk_42 (dk_at dksX1_set_1 14 rfl rfl)
theorem dX1_set_38 : decode cX1_set 38 = .ok (.getfield 18, 3) := dk_180 0 18 (dk_at dksX1_set_1 15 rfl rfl)
theorem dX1_set_41 : decode cX1_set 41 = .ok (.getfield 236, 3) := dk_180 0 236 (dk_at dksX1_set_1 18 rfl rfl)
theorem dX1_set_44 : decode cX1_set 44 = .ok (.iload_n 2, 1) := dk_28 (dk_at dksX1_set_1 21 rfl rfl)
theorem dX1_set_45 : decode cX1_set 45 = .ok (.iload_n 3, 1) := dk_29 (dk_at dksX1_set_1 22 rfl rfl)
theorem dX1_set_46 : decode cX1_set 46 = .ok (.iastore, 1) := dk_79 (dk_at dksX1_set_1 23 rfl rfl)
theorem dX1_set_47 : decode cX1_set 47 = .ok (.iload 4, 2) := dk_21 4 (dk_at dksX1_set_2 0 rfl rfl)
theorem dX1_set_49 : decode cX1_set 49 = .ok (.ireturn, 1) := dk_172 (dk_at dksX1_set_2 2 rfl rfl)
theorem dX1_set_50 : decode cX1_set 50 = .ok (.iload_n 1, 1) := dk_27 (dk_at dksX1_set_2 3 rfl rfl)
theorem dX1_set_51 : decode cX1_set 51 = .ok (.iconst 1, 1) := dk_4 (dk_at dksX1_set_2 4 rfl rfl)
theorem dX1_set_52 : decode cX1_set 52 = .ok (.if_icmp .ne 39, 3) := dk_160 0 39 (dk_at dksX1_set_2 5 rfl rfl)
theorem dX1_set_55 : decode cX1_set 55 = .ok (.iload_n 3, 1) := dk_29 (dk_at dksX1_set_2 8 rfl rfl)
theorem dX1_set_56 : decode cX1_set 56 = .ok (.i2l, 1) := dk_133 (dk_at dksX1_set_2 9 rfl rfl)
theorem dX1_set_57 : decode cX1_set 57 = .ok (.lconst 0, 1) := dk_9 (dk_at dksX1_set_2 10 rfl rfl)
theorem dX1_set_58 : decode cX1_set 58 = .ok (.ldc2_w 293, 3) := dk_20 1 37 (dk_at dksX1_set_2 11 rfl rfl)
theorem dX1_set_61 : decode cX1_set 61 = .ok (.invokestatic 160, 3) := dk_184 0 160 (dk_at dksX1_set_2 14 rfl rfl)
theorem dX1_set_64 : decode cX1_set 64 = .ok (.ifCond .eq 27, 3) := dk_153 0 27 (dk_at dksX1_set_2 17 rfl rfl)
theorem dX1_set_67 : decode cX1_set 67 = .ok (.aload_n 0, 1) := dk_42 (dk_at dksX1_set_2 20 rfl rfl)
theorem dX1_set_68 : decode cX1_set 68 = .ok (.getfield 11, 3) := dk_180 0 11 (dk_at dksX1_set_2 21 rfl rfl)
theorem dX1_set_71 : decode cX1_set 71 = .ok (.iload_n 2, 1) := dk_28 (dk_at dksX1_set_3 0 rfl rfl)
theorem dX1_set_72 : decode cX1_set 72 = .ok (.aaload, 1) := dk_50 (dk_at dksX1_set_3 1 rfl rfl)
theorem dX1_set_73 : decode cX1_set 73 = .ok (.getfield 211, 3) := dk_180 0 211 (dk_at dksX1_set_3 2 rfl rfl)
theorem dX1_set_76 : decode cX1_set 76 = .ok (.istore 4, 2) := dk_54 4 (dk_at dksX1_set_3 5 rfl rfl)
theorem dX1_set_78 : decode cX1_set 78 = .ok (.aload_n 0, 1) := dk_42 (dk_at dksX1_set_3 7 rfl rfl)
theorem dX1_set_79 : decode cX1_set 79 = .ok (.getfield 11, 3) := dk_180 0 11 (dk_at dksX1_set_3 8 rfl rfl)
theorem dX1_set_82 : decode cX1_set 82 = .ok (.iload_n 2, 1) := dk_28 (dk_at dksX1_set_3 11 rfl rfl)
theorem dX1_set_83 : decode cX1_set 83 = .ok (.aaload, 1) := dk_50 (dk_at dksX1_set_3 12 rfl rfl)
theorem dX1_set_84 : decode cX1_set 84 = .ok (.iload_n 3, 1) := dk_29 (dk_at dksX1_set_3 13 rfl rfl)
theorem dX1_set_85 : decode cX1_set 85 = .ok (.putfield 211, 3) := dk_181 0 211 (dk_at dksX1_set_3 14 rfl rfl)
theorem dX1_set_88 : decode cX1_set 88 = .ok (.iload 4, 2) := dk_21 4 (dk_at dksX1_set_3 17 rfl rfl)
theorem dX1_set_90 : decode cX1_set 90 = .ok (.ireturn, 1) := dk_172 (dk_at dksX1_set_3 19 rfl rfl)
theorem dX1_set_91 : decode cX1_set 91 = .ok (.iload_n 1, 1) := dk_27 (dk_at dksX1_set_3 20 rfl rfl)
theorem dX1_set_92 : decode cX1_set 92 = .ok (.iconst 2, 1) := dk_5 (dk_at dksX1_set_3 21 rfl rfl)
theorem dX1_set_93 : decode cX1_set 93 = .ok (.if_icmp .ne 15, 3) := dk_160 0 15 (dk_at dksX1_set_4 0 rfl rfl)
theorem dX1_set_96 : decode cX1_set 96 = .ok (.iload_n 3, 1) := dk_29 (dk_at dksX1_set_4 3 rfl rfl)
theorem dX1_set_97 : decode cX1_set 97 = .ok (.i2l, 1) := dk_133 (dk_at dksX1_set_4 4 rfl rfl)
theorem dX1_set_98 : decode cX1_set 98 = .ok (.lconst 0, 1) := dk_9 (dk_at dksX1_set_4 5 rfl rfl)
theorem dX1_set_99 : decode cX1_set 99 = .ok (.ldc2_w 295, 3) := dk_20 1 39 (dk_at dksX1_set_4 6 rfl rfl)
theorem dX1_set_102 : decode cX1_set 102 = .ok (.invokestatic 160, 3) := dk_184 0 160 (dk_at dksX1_set_4 9 rfl rfl)
theorem dX1_set_105 : decode cX1_set 105 = .ok (.ifCond .ne 5, 3) := dk_154 0 5 (dk_at dksX1_set_4 12 rfl rfl)
theorem dX1_set_108 : decode cX1_set 108 = .ok (.iconst (-1), 1) := dk_2 (dk_at dksX1_set_4 15 rfl rfl)
theorem dX1_set_109 : decode cX1_set 109 = .ok (.ireturn, 1) := dk_172 (dk_at dksX1_set_4 16 rfl rfl)
theorem dX1_set_110 : decode cX1_set 110 = .ok (.aload_n 0, 1) := dk_42 (dk_at dksX1_set_4 17 rfl rfl)
theorem dX1_set_111 : decode cX1_set 111 = .ok (.getfield 11, 3) := dk_180 0 11 (dk_at dksX1_set_4 18 rfl rfl)
theorem dX1_set_114 : decode cX1_set 114 = .ok (.iload_n 2, 1) := dk_28 (dk_at dksX1_set_4 21 rfl rfl)
theorem dX1_set_115 : decode cX1_set 115 = .ok (.aaload, 1) := dk_50 (dk_at dksX1_set_4 22 rfl rfl)
theorem dX1_set_116 : decode cX1_set 116 = .ok (.getfield 214, 3) := dk_180 0 214 (dk_at dksX1_set_5 0 rfl rfl)
theorem dX1_set_119 : decode cX1_set 119 = .ok (.istore 4, 2) := dk_54 4 (dk_at dksX1_set_5 3 rfl rfl)
theorem dX1_set_121 : decode cX1_set 121 = .ok (.aload_n 0, 1) := dk_42 (dk_at dksX1_set_5 5 rfl rfl)
theorem dX1_set_122 : decode cX1_set 122 = .ok (.getfield 11, 3) := dk_180 0 11 (dk_at dksX1_set_5 6 rfl rfl)
theorem dX1_set_125 : decode cX1_set 125 = .ok (.iload_n 2, 1) := dk_28 (dk_at dksX1_set_5 9 rfl rfl)
theorem dX1_set_126 : decode cX1_set 126 = .ok (.aaload, 1) := dk_50 (dk_at dksX1_set_5 10 rfl rfl)
theorem dX1_set_127 : decode cX1_set 127 = .ok (.iload_n 3, 1) := dk_29 (dk_at dksX1_set_5 11 rfl rfl)
theorem dX1_set_128 : decode cX1_set 128 = .ok (.putfield 214, 3) := dk_181 0 214 (dk_at dksX1_set_5 12 rfl rfl)
theorem dX1_set_131 : decode cX1_set 131 = .ok (.iload 4, 2) := dk_21 4 (dk_at dksX1_set_5 15 rfl rfl)
theorem dX1_set_133 : decode cX1_set 133 = .ok (.ireturn, 1) := dk_172 (dk_at dksX1_set_5 17 rfl rfl)
def dkwX1_scale_2 : List UInt8 := [181, 0, 175, 4, 172]
abbrev dktX1_scale_2 : List UInt8 := dkwX1_scale_2 ++ []
def dkwX1_scale_1 : List UInt8 := [4, 160, 0, 17, 28, 133, 20, 1, 41, 20, 1, 39, 184, 0, 160, 154, 0, 5, 3, 172, 42, 28]
abbrev dktX1_scale_1 : List UInt8 := dkwX1_scale_1 ++ dktX1_scale_2
def dkwX1_scale_0 : List UInt8 := [27, 154, 0, 22, 28, 133, 10, 20, 1, 39, 184, 0, 160, 153, 0, 10, 42, 28, 181, 0, 29, 4, 172, 27]
abbrev dktX1_scale_0 : List UInt8 := dkwX1_scale_0 ++ dktX1_scale_1
theorem dksX1_scale_0 : cX1_scale.data.toList.drop 0 = dktX1_scale_0 := by decide +kernel
theorem dksX1_scale_1 : cX1_scale.data.toList.drop 24 = dktX1_scale_1 := dk_seg dksX1_scale_0 24 rfl rfl
theorem dksX1_scale_2 : cX1_scale.data.toList.drop 46 = dktX1_scale_2 := dk_seg dksX1_scale_1 22 rfl rfl
theorem dX1_scale_0 : decode cX1_scale 0 = .ok (.iload_n 1, 1) := dk_27 (dk_at dksX1_scale_0 0 rfl rfl)
theorem dX1_scale_1 : decode cX1_scale 1 = .ok (.ifCond .ne 22, 3) := dk_154 0 22 (dk_at dksX1_scale_0 1 rfl rfl)
theorem dX1_scale_4 : decode cX1_scale 4 = .ok (.iload_n 2, 1) := dk_28 (dk_at dksX1_scale_0 4 rfl rfl)
theorem dX1_scale_5 : decode cX1_scale 5 = .ok (.i2l, 1) := dk_133 (dk_at dksX1_scale_0 5 rfl rfl)
theorem dX1_scale_6 : decode cX1_scale 6 = .ok (.lconst 1, 1) := dk_10 (dk_at dksX1_scale_0 6 rfl rfl)
theorem dX1_scale_7 : decode cX1_scale 7 = .ok (.ldc2_w 295, 3) := dk_20 1 39 (dk_at dksX1_scale_0 7 rfl rfl)
theorem dX1_scale_10 : decode cX1_scale 10 = .ok (.invokestatic 160, 3) := dk_184 0 160 (dk_at dksX1_scale_0 10 rfl rfl)
theorem dX1_scale_13 : decode cX1_scale 13 = .ok (.ifCond .eq 10, 3) := dk_153 0 10 (dk_at dksX1_scale_0 13 rfl rfl)
theorem dX1_scale_16 : decode cX1_scale 16 = .ok (.aload_n 0, 1) := dk_42 (dk_at dksX1_scale_0 16 rfl rfl)
theorem dX1_scale_17 : decode cX1_scale 17 = .ok (.iload_n 2, 1) := dk_28 (dk_at dksX1_scale_0 17 rfl rfl)
theorem dX1_scale_18 : decode cX1_scale 18 = .ok (.putfield 29, 3) := dk_181 0 29 (dk_at dksX1_scale_0 18 rfl rfl)
theorem dX1_scale_21 : decode cX1_scale 21 = .ok (.iconst 1, 1) := dk_4 (dk_at dksX1_scale_0 21 rfl rfl)
theorem dX1_scale_22 : decode cX1_scale 22 = .ok (.ireturn, 1) := dk_172 (dk_at dksX1_scale_0 22 rfl rfl)
theorem dX1_scale_23 : decode cX1_scale 23 = .ok (.iload_n 1, 1) := dk_27 (dk_at dksX1_scale_0 23 rfl rfl)
theorem dX1_scale_24 : decode cX1_scale 24 = .ok (.iconst 1, 1) := dk_4 (dk_at dksX1_scale_1 0 rfl rfl)
theorem dX1_scale_25 : decode cX1_scale 25 = .ok (.if_icmp .ne 17, 3) := dk_160 0 17 (dk_at dksX1_scale_1 1 rfl rfl)
theorem dX1_scale_28 : decode cX1_scale 28 = .ok (.iload_n 2, 1) := dk_28 (dk_at dksX1_scale_1 4 rfl rfl)
theorem dX1_scale_29 : decode cX1_scale 29 = .ok (.i2l, 1) := dk_133 (dk_at dksX1_scale_1 5 rfl rfl)
theorem dX1_scale_30 : decode cX1_scale 30 = .ok (.ldc2_w 297, 3) := dk_20 1 41 (dk_at dksX1_scale_1 6 rfl rfl)
theorem dX1_scale_33 : decode cX1_scale 33 = .ok (.ldc2_w 295, 3) := dk_20 1 39 (dk_at dksX1_scale_1 9 rfl rfl)
theorem dX1_scale_36 : decode cX1_scale 36 = .ok (.invokestatic 160, 3) := dk_184 0 160 (dk_at dksX1_scale_1 12 rfl rfl)
theorem dX1_scale_39 : decode cX1_scale 39 = .ok (.ifCond .ne 5, 3) := dk_154 0 5 (dk_at dksX1_scale_1 15 rfl rfl)
theorem dX1_scale_42 : decode cX1_scale 42 = .ok (.iconst 0, 1) := dk_3 (dk_at dksX1_scale_1 18 rfl rfl)
theorem dX1_scale_43 : decode cX1_scale 43 = .ok (.ireturn, 1) := dk_172 (dk_at dksX1_scale_1 19 rfl rfl)
theorem dX1_scale_44 : decode cX1_scale 44 = .ok (.aload_n 0, 1) := dk_42 (dk_at dksX1_scale_1 20 rfl rfl)
theorem dX1_scale_45 : decode cX1_scale 45 = .ok (.iload_n 2, 1) := dk_28 (dk_at dksX1_scale_1 21 rfl rfl)
theorem dX1_scale_46 : decode cX1_scale 46 = .ok (.putfield 175, 3) := dk_181 0 175 (dk_at dksX1_scale_2 0 rfl rfl)
theorem dX1_scale_49 : decode cX1_scale 49 = .ok (.iconst 1, 1) := dk_4 (dk_at dksX1_scale_2 3 rfl rfl)
theorem dX1_scale_50 : decode cX1_scale 50 = .ok (.ireturn, 1) := dk_172 (dk_at dksX1_scale_2 4 rfl rfl)
def dkwX1_sheet_5 : List UInt8 := [54, 6, 132, 7, 1, 167, 255, 187, 25, 5, 199, 0, 8, 16, 253, 167, 0, 5, 21, 6, 172]
abbrev dktX1_sheet_5 : List UInt8 := dkwX1_sheet_5 ++ []
def dkwX1_sheet_4 : List UInt8 := [184, 1, 52, 184, 1, 56, 184, 0, 178, 79, 21, 6, 42, 180, 0, 18, 180, 0, 236, 21, 7, 46, 96]
abbrev dktX1_sheet_4 : List UInt8 := dkwX1_sheet_4 ++ dktX1_sheet_5
def dkwX1_sheet_3 : List UInt8 := [25, 5, 198, 0, 9, 21, 7, 28, 161, 0, 7, 4, 167, 0, 20, 4, 17, 3, 231, 25, 5, 21, 7]
abbrev dktX1_sheet_3 : List UInt8 := dkwX1_sheet_3 ++ dktX1_sheet_4
def dkwX1_sheet_2 : List UInt8 := [54, 6, 3, 54, 7, 21, 7, 42, 180, 0, 157, 162, 0, 66, 42, 180, 0, 18, 180, 0, 236, 21, 7]
abbrev dktX1_sheet_2 : List UInt8 := dkwX1_sheet_2 ++ dktX1_sheet_3
def dkwX1_sheet_1 : List UInt8 := [6, 162, 0, 21, 27, 28, 29, 21, 4, 184, 1, 46, 58, 5, 167, 0, 8, 58, 6, 16, 254, 172, 3]
abbrev dktX1_sheet_1 : List UInt8 := dkwX1_sheet_1 ++ dktX1_sheet_2
def dkwX1_sheet_0 : List UInt8 := [27, 133, 9, 20, 1, 37, 184, 0, 160, 153, 0, 9, 28, 16, 8, 164, 0, 5, 2, 172, 1, 58, 5, 27]
abbrev dktX1_sheet_0 : List UInt8 := dkwX1_sheet_0 ++ dktX1_sheet_1
theorem dksX1_sheet_0 : cX1_sheet.data.toList.drop 0 = dktX1_sheet_0 := by decide +kernel
theorem dksX1_sheet_1 : cX1_sheet.data.toList.drop 24 = dktX1_sheet_1 := dk_seg dksX1_sheet_0 24 rfl rfl
theorem dksX1_sheet_2 : cX1_sheet.data.toList.drop 47 = dktX1_sheet_2 := dk_seg dksX1_sheet_1 23 rfl rfl
theorem dksX1_sheet_3 : cX1_sheet.data.toList.drop 70 = dktX1_sheet_3 := dk_seg dksX1_sheet_2 23 rfl rfl
theorem dksX1_sheet_4 : cX1_sheet.data.toList.drop 93 = dktX1_sheet_4 := dk_seg dksX1_sheet_3 23 rfl rfl
theorem dksX1_sheet_5 : cX1_sheet.data.toList.drop 116 = dktX1_sheet_5 := dk_seg dksX1_sheet_4 23 rfl rfl
theorem dX1_sheet_0 : decode cX1_sheet 0 = .ok (.iload_n 1, 1) := dk_27 (dk_at dksX1_sheet_0 0 rfl rfl)
theorem dX1_sheet_1 : decode cX1_sheet 1 = .ok (.i2l, 1) := dk_133 (dk_at dksX1_sheet_0 1 rfl rfl)
theorem dX1_sheet_2 : decode cX1_sheet 2 = .ok (.lconst 0, 1) := dk_9 (dk_at dksX1_sheet_0 2 rfl rfl)
theorem dX1_sheet_3 : decode cX1_sheet 3 = .ok (.ldc2_w 293, 3) := dk_20 1 37 (dk_at dksX1_sheet_0 3 rfl rfl)
theorem dX1_sheet_6 : decode cX1_sheet 6 = .ok (.invokestatic 160, 3) := dk_184 0 160 (dk_at dksX1_sheet_0 6 rfl rfl)
theorem dX1_sheet_9 : decode cX1_sheet 9 = .ok (.ifCond .eq 9, 3) := dk_153 0 9 (dk_at dksX1_sheet_0 9 rfl rfl)
theorem dX1_sheet_12 : decode cX1_sheet 12 = .ok (.iload_n 2, 1) := dk_28 (dk_at dksX1_sheet_0 12 rfl rfl)
theorem dX1_sheet_13 : decode cX1_sheet 13 = .ok (.bipush 8, 2) := dk_16 8 (dk_at dksX1_sheet_0 13 rfl rfl)
theorem dX1_sheet_15 : decode cX1_sheet 15 = .ok (.if_icmp .le 5, 3) := dk_164 0 5 (dk_at dksX1_sheet_0 15 rfl rfl)
theorem dX1_sheet_18 : decode cX1_sheet 18 = .ok (.iconst (-1), 1) := dk_2 (dk_at dksX1_sheet_0 18 rfl rfl)
theorem dX1_sheet_19 : decode cX1_sheet 19 = .ok (.ireturn, 1) := dk_172 (dk_at dksX1_sheet_0 19 rfl rfl)
theorem dX1_sheet_20 : decode cX1_sheet 20 = .ok (.aconst_null, 1) := dk_1 (dk_at dksX1_sheet_0 20 rfl rfl)
theorem dX1_sheet_21 : decode cX1_sheet 21 = .ok (.astore 5, 2) := dk_58 5 (dk_at dksX1_sheet_0 21 rfl rfl)
theorem dX1_sheet_23 : decode cX1_sheet 23 = .ok (.iload_n 1, 1) := dk_27 (dk_at dksX1_sheet_0 23 rfl rfl)
theorem dX1_sheet_24 : decode cX1_sheet 24 = .ok (.iconst 3, 1) := dk_6 (dk_at dksX1_sheet_1 0 rfl rfl)
theorem dX1_sheet_25 : decode cX1_sheet 25 = .ok (.if_icmp .ge 21, 3) := dk_162 0 21 (dk_at dksX1_sheet_1 1 rfl rfl)
theorem dX1_sheet_28 : decode cX1_sheet 28 = .ok (.iload_n 1, 1) := dk_27 (dk_at dksX1_sheet_1 4 rfl rfl)
theorem dX1_sheet_29 : decode cX1_sheet 29 = .ok (.iload_n 2, 1) := dk_28 (dk_at dksX1_sheet_1 5 rfl rfl)
theorem dX1_sheet_30 : decode cX1_sheet 30 = .ok (.iload_n 3, 1) := dk_29 (dk_at dksX1_sheet_1 6 rfl rfl)
theorem dX1_sheet_31 : decode cX1_sheet 31 = .ok (.iload 4, 2) := dk_21 4 (dk_at dksX1_sheet_1 7 rfl rfl)
theorem dX1_sheet_33 : decode cX1_sheet 33 = .ok (.invokestatic 302, 3) := dk_184 1 46 (dk_at dksX1_sheet_1 9 rfl rfl)
theorem dX1_sheet_36 : decode cX1_sheet 36 = .ok (.astore 5, 2) := dk_58 5 (dk_at dksX1_sheet_1 12 rfl rfl)
theorem dX1_sheet_38 : decode cX1_sheet 38 = .ok (.goto 8, 3) := dk_167 0 8 (dk_at dksX1_sheet_1 14 rfl rfl)
theorem dX1_sheet_41 : decode cX1_sheet 41 = .ok (.astore 6, 2) := dk_58 6 (dk_at dksX1_sheet_1 17 rfl rfl)
theorem dX1_sheet_43 : decode cX1_sheet 43 = .ok (.bipush (-2), 2) := dk_16 254 (dk_at dksX1_sheet_1 19 rfl rfl)
theorem dX1_sheet_45 : decode cX1_sheet 45 = .ok (.ireturn, 1) := dk_172 (dk_at dksX1_sheet_1 21 rfl rfl)
theorem dX1_sheet_46 : decode cX1_sheet 46 = .ok (.iconst 0, 1) := dk_3 (dk_at dksX1_sheet_1 22 rfl rfl)
theorem dX1_sheet_47 : decode cX1_sheet 47 = .ok (.istore 6, 2) := dk_54 6 (dk_at dksX1_sheet_2 0 rfl rfl)
theorem dX1_sheet_49 : decode cX1_sheet 49 = .ok (.iconst 0, 1) := dk_3 (dk_at dksX1_sheet_2 2 rfl rfl)
theorem dX1_sheet_50 : decode cX1_sheet 50 = .ok (.istore 7, 2) := dk_54 7 (dk_at dksX1_sheet_2 3 rfl rfl)
theorem dX1_sheet_52 : decode cX1_sheet 52 = .ok (.iload 7, 2) := dk_21 7 (dk_at dksX1_sheet_2 5 rfl rfl)
theorem dX1_sheet_54 : decode cX1_sheet 54 = .ok (.aload_n 0, 1) := dk_42 (dk_at dksX1_sheet_2 7 rfl rfl)
theorem dX1_sheet_55 : decode cX1_sheet 55 = .ok (.getfield 157, 3) := dk_180 0 157 (dk_at dksX1_sheet_2 8 rfl rfl)
theorem dX1_sheet_58 : decode cX1_sheet 58 = .ok (.if_icmp .ge 66, 3) := dk_162 0 66 (dk_at dksX1_sheet_2 11 rfl rfl)
theorem dX1_sheet_61 : decode cX1_sheet 61 = .ok (.aload_n 0, 1) := dk_42 (dk_at dksX1_sheet_2 14 rfl rfl)
theorem dX1_sheet_62 : decode cX1_sheet 62 = .ok (.getfield 18, 3) := dk_180 0 18 (dk_at dksX1_sheet_2 15 rfl rfl)
theorem dX1_sheet_65 : decode cX1_sheet 65 = .ok (.getfield 236, 3) := dk_180 0 236 (dk_at dksX1_sheet_2 18 rfl rfl)
theorem dX1_sheet_68 : decode cX1_sheet 68 = .ok (.iload 7, 2) := dk_21 7 (dk_at dksX1_sheet_2 21 rfl rfl)
theorem dX1_sheet_70 : decode cX1_sheet 70 = .ok (.aload 5, 2) := dk_25 5 (dk_at dksX1_sheet_3 0 rfl rfl)
theorem dX1_sheet_72 : decode cX1_sheet 72 = .ok (.ifnull 9, 3) := dk_198 0 9 (dk_at dksX1_sheet_3 2 rfl rfl)
theorem dX1_sheet_75 : decode cX1_sheet 75 = .ok (.iload 7, 2) := dk_21 7 (dk_at dksX1_sheet_3 5 rfl rfl)
theorem dX1_sheet_77 : decode cX1_sheet 77 = .ok (.iload_n 2, 1) := dk_28 (dk_at dksX1_sheet_3 7 rfl rfl)
theorem dX1_sheet_78 : decode cX1_sheet 78 = .ok (.if_icmp .lt 7, 3) := dk_161 0 7 (dk_at dksX1_sheet_3 8 rfl rfl)
theorem dX1_sheet_81 : decode cX1_sheet 81 = .ok (.iconst 1, 1) := dk_4 (dk_at dksX1_sheet_3 11 rfl rfl)
theorem dX1_sheet_82 : decode cX1_sheet 82 = .ok (.goto 20, 3) := dk_167 0 20 (dk_at dksX1_sheet_3 12 rfl rfl)
theorem dX1_sheet_85 : decode cX1_sheet 85 = .ok (.iconst 1, 1) := dk_4 (dk_at dksX1_sheet_3 15 rfl rfl)
theorem dX1_sheet_86 : decode cX1_sheet 86 = .ok (.sipush 999, 3) := dk_17 3 231 (dk_at dksX1_sheet_3 16 rfl rfl)
theorem dX1_sheet_89 : decode cX1_sheet 89 = .ok (.aload 5, 2) := dk_25 5 (dk_at dksX1_sheet_3 19 rfl rfl)
theorem dX1_sheet_91 : decode cX1_sheet 91 = .ok (.iload 7, 2) := dk_21 7 (dk_at dksX1_sheet_3 21 rfl rfl)
theorem dX1_sheet_93 : decode cX1_sheet 93 = .ok (.invokestatic 308, 3) := dk_184 1 52 (dk_at dksX1_sheet_4 0 rfl rfl)
theorem dX1_sheet_96 : decode cX1_sheet 96 = .ok (.invokestatic 312, 3) := dk_184 1 56 (dk_at dksX1_sheet_4 3 rfl rfl)
theorem dX1_sheet_99 : decode cX1_sheet 99 = .ok (.invokestatic 178, 3) := dk_184 0 178 (dk_at dksX1_sheet_4 6 rfl rfl)
theorem dX1_sheet_102 : decode cX1_sheet 102 = .ok (.iastore, 1) := dk_79 (dk_at dksX1_sheet_4 9 rfl rfl)
theorem dX1_sheet_103 : decode cX1_sheet 103 = .ok (.iload 6, 2) := dk_21 6 (dk_at dksX1_sheet_4 10 rfl rfl)
theorem dX1_sheet_105 : decode cX1_sheet 105 = .ok (.aload_n 0, 1) := dk_42 (dk_at dksX1_sheet_4 12 rfl rfl)
theorem dX1_sheet_106 : decode cX1_sheet 106 = .ok (.getfield 18, 3) := dk_180 0 18 (dk_at dksX1_sheet_4 13 rfl rfl)
theorem dX1_sheet_109 : decode cX1_sheet 109 = .ok (.getfield 236, 3) := dk_180 0 236 (dk_at dksX1_sheet_4 16 rfl rfl)
theorem dX1_sheet_112 : decode cX1_sheet 112 = .ok (.iload 7, 2) := dk_21 7 (dk_at dksX1_sheet_4 19 rfl rfl)
theorem dX1_sheet_114 : decode cX1_sheet 114 = .ok (.iaload, 1) := dk_46 (dk_at dksX1_sheet_4 21 rfl rfl)
theorem dX1_sheet_115 : decode cX1_sheet 115 = .ok (.iadd, 1) := dk_96 (dk_at dksX1_sheet_4 22 rfl rfl)
theorem dX1_sheet_116 : decode cX1_sheet 116 = .ok (.istore 6, 2) := dk_54 6 (dk_at dksX1_sheet_5 0 rfl rfl)
theorem dX1_sheet_118 : decode cX1_sheet 118 = .ok (.iinc 7 1, 3) := dk_132 7 1 (dk_at dksX1_sheet_5 2 rfl rfl)
theorem dX1_sheet_121 : decode cX1_sheet 121 = .ok (.goto (-69), 3) := dk_167 255 187 (dk_at dksX1_sheet_5 5 rfl rfl)
theorem dX1_sheet_124 : decode cX1_sheet 124 = .ok (.aload 5, 2) := dk_25 5 (dk_at dksX1_sheet_5 8 rfl rfl)
theorem dX1_sheet_126 : decode cX1_sheet 126 = .ok (.ifnonnull 8, 3) := dk_199 0 8 (dk_at dksX1_sheet_5 10 rfl rfl)
theorem dX1_sheet_129 : decode cX1_sheet 129 = .ok (.bipush (-3), 2) := dk_16 253 (dk_at dksX1_sheet_5 13 rfl rfl)
theorem dX1_sheet_131 : decode cX1_sheet 131 = .ok (.goto 5, 3) := dk_167 0 5 (dk_at dksX1_sheet_5 15 rfl rfl)
theorem dX1_sheet_134 : decode cX1_sheet 134 = .ok (.iload 6, 2) := dk_21 6 (dk_at dksX1_sheet_5 18 rfl rfl)
theorem dX1_sheet_136 : decode cX1_sheet 136 = .ok (.ireturn, 1) := dk_172 (dk_at dksX1_sheet_5 20 rfl rfl)
def dkwX1_rowOf_5 : List UInt8 := [167, 255, 234, 25, 5, 176]
abbrev dktX1_rowOf_5 : List UInt8 := dkwX1_rowOf_5 ++ []
def dkwX1_rowOf_4 : List UInt8 := [21, 6, 27, 162, 0, 22, 25, 5, 21, 6, 21, 4, 79, 132, 6, 1, 21, 4, 29, 96, 54, 4]
abbrev dktX1_rowOf_4 : List UInt8 := dkwX1_rowOf_4 ++ dktX1_rowOf_5
def dkwX1_rowOf_3 : List UInt8 := [86, 132, 6, 1, 21, 4, 29, 96, 54, 4, 167, 255, 233, 25, 5, 176, 27, 188, 10, 58, 5, 3, 54, 6]
abbrev dktX1_rowOf_3 : List UInt8 := dkwX1_rowOf_3 ++ dktX1_rowOf_4
def dkwX1_rowOf_2 : List UInt8 := [160, 0, 40, 27, 188, 9, 58, 5, 3, 54, 6, 21, 6, 27, 162, 0, 23, 25, 5, 21, 6, 21, 4, 147]
abbrev dktX1_rowOf_2 : List UInt8 := dkwX1_rowOf_2 ++ dktX1_rowOf_3
def dkwX1_rowOf_1 : List UInt8 := [21, 6, 21, 4, 145, 84, 132, 6, 1, 21, 4, 29, 96, 54, 4, 167, 255, 233, 25, 5, 176, 26, 4]
abbrev dktX1_rowOf_1 : List UInt8 := dkwX1_rowOf_1 ++ dktX1_rowOf_2
def dkwX1_rowOf_0 : List UInt8 := [28, 54, 4, 26, 154, 0, 40, 27, 188, 8, 58, 5, 3, 54, 6, 21, 6, 27, 162, 0, 23, 25, 5]
abbrev dktX1_rowOf_0 : List UInt8 := dkwX1_rowOf_0 ++ dktX1_rowOf_1
theorem dksX1_rowOf_0 : cX1_rowOf.data.toList.drop 0 = dktX1_rowOf_0 := by decide +kernel
theorem dksX1_rowOf_1 : cX1_rowOf.data.toList.drop 23 = dktX1_rowOf_1 := dk_seg dksX1_rowOf_0 23 rfl rfl
theorem dksX1_rowOf_2 : cX1_rowOf.data.toList.drop 46 = dktX1_rowOf_2 := dk_seg dksX1_rowOf_1 23 rfl rfl
theorem dksX1_rowOf_3 : cX1_rowOf.data.toList.drop 70 = dktX1_rowOf_3 := dk_seg dksX1_rowOf_2 24 rfl rfl
theorem dksX1_rowOf_4 : cX1_rowOf.data.toList.drop 94 = dktX1_rowOf_4 := dk_seg dksX1_rowOf_3 24 rfl rfl
theorem dksX1_rowOf_5 : cX1_rowOf.data.toList.drop 116 = dktX1_rowOf_5 := dk_seg dksX1_rowOf_4 22 rfl rfl
theorem dX1_rowOf_0 : decode cX1_rowOf 0 = .ok (.iload_n 2, 1) := dk_28 (dk_at dksX1_rowOf_0 0 rfl rfl)
theorem dX1_rowOf_1 : decode cX1_rowOf 1 = .ok (.istore 4, 2) := dk_54 4 (dk_at dksX1_rowOf_0 1 rfl rfl)
theorem dX1_rowOf_3 : decode cX1_rowOf 3 = .ok (.iload_n 0, 1) := dk_26 (dk_at dksX1_rowOf_0 3 rfl rfl)
theorem dX1_rowOf_4 : decode cX1_rowOf 4 = .ok (.ifCond .ne 40, 3) := dk_154 0 40 (dk_at dksX1_rowOf_0 4 rfl rfl)
theorem dX1_rowOf_7 : decode cX1_rowOf 7 = .ok (.iload_n 1, 1) := dk_27 (dk_at dksX1_rowOf_0 7 rfl rfl)
theorem dX1_rowOf_8 : decode cX1_rowOf 8 = .ok (.newarray .byte, 2) := dk_188_8 (dk_at dksX1_rowOf_0 8 rfl rfl)
theorem dX1_rowOf_10 : decode cX1_rowOf 10 = .ok (.astore 5, 2) := dk_58 5 (dk_at dksX1_rowOf_0 10 rfl rfl)
theorem dX1_rowOf_12 : decode cX1_rowOf 12 = .ok (.iconst 0, 1) := dk_3 (dk_at dksX1_rowOf_0 12 rfl rfl)
theorem dX1_rowOf_13 : decode cX1_rowOf 13 = .ok (.istore 6, 2) := dk_54 6 (dk_at dksX1_rowOf_0 13 rfl rfl)
theorem dX1_rowOf_15 : decode cX1_rowOf 15 = .ok (.iload 6, 2) := dk_21 6 (dk_at dksX1_rowOf_0 15 rfl rfl)
theorem dX1_rowOf_17 : decode cX1_rowOf 17 = .ok (.iload_n 1, 1) := dk_27 (dk_at dksX1_rowOf_0 17 rfl rfl)
theorem dX1_rowOf_18 : decode cX1_rowOf 18 = .ok (.if_icmp .ge 23, 3) := dk_162 0 23 (dk_at dksX1_rowOf_0 18 rfl rfl)
theorem dX1_rowOf_21 : decode cX1_rowOf 21 = .ok (.aload 5, 2) := dk_25 5 (dk_at dksX1_rowOf_0 21 rfl rfl)
theorem dX1_rowOf_23 : decode cX1_rowOf 23 = .ok (.iload 6, 2) := dk_21 6 (dk_at dksX1_rowOf_1 0 rfl rfl)
theorem dX1_rowOf_25 : decode cX1_rowOf 25 = .ok (.iload 4, 2) := dk_21 4 (dk_at dksX1_rowOf_1 2 rfl rfl)
theorem dX1_rowOf_27 : decode cX1_rowOf 27 = .ok (.i2b, 1) := dk_145 (dk_at dksX1_rowOf_1 4 rfl rfl)
theorem dX1_rowOf_28 : decode cX1_rowOf 28 = .ok (.bastore, 1) := dk_84 (dk_at dksX1_rowOf_1 5 rfl rfl)
theorem dX1_rowOf_29 : decode cX1_rowOf 29 = .ok (.iinc 6 1, 3) := dk_132 6 1 (dk_at dksX1_rowOf_1 6 rfl rfl)
theorem dX1_rowOf_32 : decode cX1_rowOf 32 = .ok (.iload 4, 2) := dk_21 4 (dk_at dksX1_rowOf_1 9 rfl rfl)
theorem dX1_rowOf_34 : decode cX1_rowOf 34 = .ok (.iload_n 3, 1) := dk_29 (dk_at dksX1_rowOf_1 11 rfl rfl)
theorem dX1_rowOf_35 : decode cX1_rowOf 35 = .ok (.iadd, 1) := dk_96 (dk_at dksX1_rowOf_1 12 rfl rfl)
theorem dX1_rowOf_36 : decode cX1_rowOf 36 = .ok (.istore 4, 2) := dk_54 4 (dk_at dksX1_rowOf_1 13 rfl rfl)
theorem dX1_rowOf_38 : decode cX1_rowOf 38 = .ok (.goto (-23), 3) := dk_167 255 233 (dk_at dksX1_rowOf_1 15 rfl rfl)
theorem dX1_rowOf_41 : decode cX1_rowOf 41 = .ok (.aload 5, 2) := dk_25 5 (dk_at dksX1_rowOf_1 18 rfl rfl)
theorem dX1_rowOf_43 : decode cX1_rowOf 43 = .ok (.areturn, 1) := dk_176 (dk_at dksX1_rowOf_1 20 rfl rfl)
theorem dX1_rowOf_44 : decode cX1_rowOf 44 = .ok (.iload_n 0, 1) := dk_26 (dk_at dksX1_rowOf_1 21 rfl rfl)
theorem dX1_rowOf_45 : decode cX1_rowOf 45 = .ok (.iconst 1, 1) := dk_4 (dk_at dksX1_rowOf_1 22 rfl rfl)
theorem dX1_rowOf_46 : decode cX1_rowOf 46 = .ok (.if_icmp .ne 40, 3) := dk_160 0 40 (dk_at dksX1_rowOf_2 0 rfl rfl)
theorem dX1_rowOf_49 : decode cX1_rowOf 49 = .ok (.iload_n 1, 1) := dk_27 (dk_at dksX1_rowOf_2 3 rfl rfl)
theorem dX1_rowOf_50 : decode cX1_rowOf 50 = .ok (.newarray .short, 2) := dk_188_9 (dk_at dksX1_rowOf_2 4 rfl rfl)
theorem dX1_rowOf_52 : decode cX1_rowOf 52 = .ok (.astore 5, 2) := dk_58 5 (dk_at dksX1_rowOf_2 6 rfl rfl)
theorem dX1_rowOf_54 : decode cX1_rowOf 54 = .ok (.iconst 0, 1) := dk_3 (dk_at dksX1_rowOf_2 8 rfl rfl)
theorem dX1_rowOf_55 : decode cX1_rowOf 55 = .ok (.istore 6, 2) := dk_54 6 (dk_at dksX1_rowOf_2 9 rfl rfl)
theorem dX1_rowOf_57 : decode cX1_rowOf 57 = .ok (.iload 6, 2) := dk_21 6 (dk_at dksX1_rowOf_2 11 rfl rfl)
theorem dX1_rowOf_59 : decode cX1_rowOf 59 = .ok (.iload_n 1, 1) := dk_27 (dk_at dksX1_rowOf_2 13 rfl rfl)
theorem dX1_rowOf_60 : decode cX1_rowOf 60 = .ok (.if_icmp .ge 23, 3) := dk_162 0 23 (dk_at dksX1_rowOf_2 14 rfl rfl)
theorem dX1_rowOf_63 : decode cX1_rowOf 63 = .ok (.aload 5, 2) := dk_25 5 (dk_at dksX1_rowOf_2 17 rfl rfl)
theorem dX1_rowOf_65 : decode cX1_rowOf 65 = .ok (.iload 6, 2) := dk_21 6 (dk_at dksX1_rowOf_2 19 rfl rfl)
theorem dX1_rowOf_67 : decode cX1_rowOf 67 = .ok (.iload 4, 2) := dk_21 4 (dk_at dksX1_rowOf_2 21 rfl rfl)
theorem dX1_rowOf_69 : decode cX1_rowOf 69 = .ok (.i2s, 1) := dk_147 (dk_at dksX1_rowOf_2 23 rfl rfl)
theorem dX1_rowOf_70 : decode cX1_rowOf 70 = .ok (.sastore, 1) := dk_86 (dk_at dksX1_rowOf_3 0 rfl rfl)
theorem dX1_rowOf_71 : decode cX1_rowOf 71 = .ok (.iinc 6 1, 3) := dk_132 6 1 (dk_at dksX1_rowOf_3 1 rfl rfl)
theorem dX1_rowOf_74 : decode cX1_rowOf 74 = .ok (.iload 4, 2) := dk_21 4 (dk_at dksX1_rowOf_3 4 rfl rfl)
theorem dX1_rowOf_76 : decode cX1_rowOf 76 = .ok (.iload_n 3, 1) := dk_29 (dk_at dksX1_rowOf_3 6 rfl rfl)
theorem dX1_rowOf_77 : decode cX1_rowOf 77 = .ok (.iadd, 1) := dk_96 (dk_at dksX1_rowOf_3 7 rfl rfl)
theorem dX1_rowOf_78 : decode cX1_rowOf 78 = .ok (.istore 4, 2) := dk_54 4 (dk_at dksX1_rowOf_3 8 rfl rfl)
theorem dX1_rowOf_80 : decode cX1_rowOf 80 = .ok (.goto (-23), 3) := dk_167 255 233 (dk_at dksX1_rowOf_3 10 rfl rfl)
theorem dX1_rowOf_83 : decode cX1_rowOf 83 = .ok (.aload 5, 2) := dk_25 5 (dk_at dksX1_rowOf_3 13 rfl rfl)
theorem dX1_rowOf_85 : decode cX1_rowOf 85 = .ok (.areturn, 1) := dk_176 (dk_at dksX1_rowOf_3 15 rfl rfl)
theorem dX1_rowOf_86 : decode cX1_rowOf 86 = .ok (.iload_n 1, 1) := dk_27 (dk_at dksX1_rowOf_3 16 rfl rfl)
theorem dX1_rowOf_87 : decode cX1_rowOf 87 = .ok (.newarray .int, 2) := dk_188_10 (dk_at dksX1_rowOf_3 17 rfl rfl)
theorem dX1_rowOf_89 : decode cX1_rowOf 89 = .ok (.astore 5, 2) := dk_58 5 (dk_at dksX1_rowOf_3 19 rfl rfl)
theorem dX1_rowOf_91 : decode cX1_rowOf 91 = .ok (.iconst 0, 1) := dk_3 (dk_at dksX1_rowOf_3 21 rfl rfl)
theorem dX1_rowOf_92 : decode cX1_rowOf 92 = .ok (.istore 6, 2) := dk_54 6 (dk_at dksX1_rowOf_3 22 rfl rfl)
theorem dX1_rowOf_94 : decode cX1_rowOf 94 = .ok (.iload 6, 2) := dk_21 6 (dk_at dksX1_rowOf_4 0 rfl rfl)
theorem dX1_rowOf_96 : decode cX1_rowOf 96 = .ok (.iload_n 1, 1) := dk_27 (dk_at dksX1_rowOf_4 2 rfl rfl)
theorem dX1_rowOf_97 : decode cX1_rowOf 97 = .ok (.if_icmp .ge 22, 3) := dk_162 0 22 (dk_at dksX1_rowOf_4 3 rfl rfl)
theorem dX1_rowOf_100 : decode cX1_rowOf 100 = .ok (.aload 5, 2) := dk_25 5 (dk_at dksX1_rowOf_4 6 rfl rfl)
theorem dX1_rowOf_102 : decode cX1_rowOf 102 = .ok (.iload 6, 2) := dk_21 6 (dk_at dksX1_rowOf_4 8 rfl rfl)
theorem dX1_rowOf_104 : decode cX1_rowOf 104 = .ok (.iload 4, 2) := dk_21 4 (dk_at dksX1_rowOf_4 10 rfl rfl)
theorem dX1_rowOf_106 : decode cX1_rowOf 106 = .ok (.iastore, 1) := dk_79 (dk_at dksX1_rowOf_4 12 rfl rfl)
theorem dX1_rowOf_107 : decode cX1_rowOf 107 = .ok (.iinc 6 1, 3) := dk_132 6 1 (dk_at dksX1_rowOf_4 13 rfl rfl)
theorem dX1_rowOf_110 : decode cX1_rowOf 110 = .ok (.iload 4, 2) := dk_21 4 (dk_at dksX1_rowOf_4 16 rfl rfl)
theorem dX1_rowOf_112 : decode cX1_rowOf 112 = .ok (.iload_n 3, 1) := dk_29 (dk_at dksX1_rowOf_4 18 rfl rfl)
theorem dX1_rowOf_113 : decode cX1_rowOf 113 = .ok (.iadd, 1) := dk_96 (dk_at dksX1_rowOf_4 19 rfl rfl)
theorem dX1_rowOf_114 : decode cX1_rowOf 114 = .ok (.istore 4, 2) := dk_54 4 (dk_at dksX1_rowOf_4 20 rfl rfl)
theorem dX1_rowOf_116 : decode cX1_rowOf 116 = .ok (.goto (-22), 3) := dk_167 255 234 (dk_at dksX1_rowOf_5 0 rfl rfl)
theorem dX1_rowOf_119 : decode cX1_rowOf 119 = .ok (.aload 5, 2) := dk_25 5 (dk_at dksX1_rowOf_5 3 rfl rfl)
theorem dX1_rowOf_121 : decode cX1_rowOf 121 = .ok (.areturn, 1) := dk_176 (dk_at dksX1_rowOf_5 5 rfl rfl)
def dkwX1_entry_1 : List UInt8 := [192, 1, 43, 27, 53, 167, 0, 9, 42, 192, 1, 45, 27, 46, 172]
abbrev dktX1_entry_1 : List UInt8 := dkwX1_entry_1 ++ []
def dkwX1_entry_0 : List UInt8 := [42, 193, 0, 249, 153, 0, 10, 42, 192, 0, 249, 27, 51, 172, 42, 193, 1, 43, 153, 0, 12, 42]
abbrev dktX1_entry_0 : List UInt8 := dkwX1_entry_0 ++ dktX1_entry_1
theorem dksX1_entry_0 : cX1_entry.data.toList.drop 0 = dktX1_entry_0 := by decide +kernel
theorem dksX1_entry_1 : cX1_entry.data.toList.drop 22 = dktX1_entry_1 := dk_seg dksX1_entry_0 22 rfl rfl
theorem dX1_entry_0 : decode cX1_entry 0 = .ok (.aload_n 0, 1) := dk_42 (dk_at dksX1_entry_0 0 rfl rfl)
theorem dX1_entry_1 : decode cX1_entry 1 = .ok (.instanceof 249, 3) := dk_193 0 249 (dk_at dksX1_entry_0 1 rfl rfl)
theorem dX1_entry_4 : decode cX1_entry 4 = .ok (.ifCond .eq 10, 3) := dk_153 0 10 (dk_at dksX1_entry_0 4 rfl rfl)
theorem dX1_entry_7 : decode cX1_entry 7 = .ok (.aload_n 0, 1) := dk_42 (dk_at dksX1_entry_0 7 rfl rfl)
theorem dX1_entry_8 : decode cX1_entry 8 = .ok (.checkcast 249, 3) := dk_192 0 249 (dk_at dksX1_entry_0 8 rfl rfl)
theorem dX1_entry_11 : decode cX1_entry 11 = .ok (.iload_n 1, 1) := dk_27 (dk_at dksX1_entry_0 11 rfl rfl)
theorem dX1_entry_12 : decode cX1_entry 12 = .ok (.baload, 1) := dk_51 (dk_at dksX1_entry_0 12 rfl rfl)
theorem dX1_entry_13 : decode cX1_entry 13 = .ok (.ireturn, 1) := dk_172 (dk_at dksX1_entry_0 13 rfl rfl)
theorem dX1_entry_14 : decode cX1_entry 14 = .ok (.aload_n 0, 1) := dk_42 (dk_at dksX1_entry_0 14 rfl rfl)
theorem dX1_entry_15 : decode cX1_entry 15 = .ok (.instanceof 299, 3) := dk_193 1 43 (dk_at dksX1_entry_0 15 rfl rfl)
theorem dX1_entry_18 : decode cX1_entry 18 = .ok (.ifCond .eq 12, 3) := dk_153 0 12 (dk_at dksX1_entry_0 18 rfl rfl)
theorem dX1_entry_21 : decode cX1_entry 21 = .ok (.aload_n 0, 1) := dk_42 (dk_at dksX1_entry_0 21 rfl rfl)
theorem dX1_entry_22 : decode cX1_entry 22 = .ok (.checkcast 299, 3) := dk_192 1 43 (dk_at dksX1_entry_1 0 rfl rfl)
theorem dX1_entry_25 : decode cX1_entry 25 = .ok (.iload_n 1, 1) := dk_27 (dk_at dksX1_entry_1 3 rfl rfl)
theorem dX1_entry_26 : decode cX1_entry 26 = .ok (.saload, 1) := dk_53 (dk_at dksX1_entry_1 4 rfl rfl)
theorem dX1_entry_27 : decode cX1_entry 27 = .ok (.goto 9, 3) := dk_167 0 9 (dk_at dksX1_entry_1 5 rfl rfl)
theorem dX1_entry_30 : decode cX1_entry 30 = .ok (.aload_n 0, 1) := dk_42 (dk_at dksX1_entry_1 8 rfl rfl)
theorem dX1_entry_31 : decode cX1_entry 31 = .ok (.checkcast 301, 3) := dk_192 1 45 (dk_at dksX1_entry_1 9 rfl rfl)
theorem dX1_entry_34 : decode cX1_entry 34 = .ok (.iload_n 1, 1) := dk_27 (dk_at dksX1_entry_1 12 rfl rfl)
theorem dX1_entry_35 : decode cX1_entry 35 = .ok (.iaload, 1) := dk_46 (dk_at dksX1_entry_1 13 rfl rfl)
theorem dX1_entry_36 : decode cX1_entry 36 = .ok (.ireturn, 1) := dk_172 (dk_at dksX1_entry_1 14 rfl rfl)
def dkwX1_stand_3 : List UInt8 := [180, 1, 80, 133, 182, 1, 111, 42, 180, 0, 18, 180, 1, 59, 172]
abbrev dktX1_stand_3 : List UInt8 := dkwX1_stand_3 ++ []
def dkwX1_stand_2 : List UInt8 := [3, 181, 0, 154, 42, 42, 180, 1, 76, 153, 0, 7, 10, 167, 0, 4, 9, 182, 1, 111, 42, 42]
abbrev dktX1_stand_2 : List UInt8 := dkwX1_stand_2 ++ dktX1_stand_3
def dkwX1_stand_1 : List UInt8 := [182, 1, 101, 42, 180, 0, 61, 27, 181, 1, 104, 42, 42, 180, 0, 18, 42, 180, 0, 61, 182, 1, 107, 42]
abbrev dktX1_stand_1 : List UInt8 := dkwX1_stand_1 ++ dktX1_stand_2
def dkwX1_stand_0 : List UInt8 := [27, 133, 9, 4, 42, 180, 0, 157, 120, 4, 100, 133, 184, 0, 160, 154, 0, 6, 16, 254, 172, 42]
abbrev dktX1_stand_0 : List UInt8 := dkwX1_stand_0 ++ dktX1_stand_1
theorem dksX1_stand_0 : cX1_stand.data.toList.drop 0 = dktX1_stand_0 := by decide +kernel
theorem dksX1_stand_1 : cX1_stand.data.toList.drop 22 = dktX1_stand_1 := dk_seg dksX1_stand_0 22 rfl rfl
theorem dksX1_stand_2 : cX1_stand.data.toList.drop 46 = dktX1_stand_2 := dk_seg dksX1_stand_1 24 rfl rfl
theorem dksX1_stand_3 : cX1_stand.data.toList.drop 68 = dktX1_stand_3 := dk_seg dksX1_stand_2 22 rfl rfl
theorem dX1_stand_0 : decode cX1_stand 0 = .ok (.iload_n 1, 1) := dk_27 (dk_at dksX1_stand_0 0 rfl rfl)
theorem dX1_stand_1 : decode cX1_stand 1 = .ok (.i2l, 1) := dk_133 (dk_at dksX1_stand_0 1 rfl rfl)
theorem dX1_stand_2 : decode cX1_stand 2 = .ok (.lconst 0, 1) := dk_9 (dk_at dksX1_stand_0 2 rfl rfl)
theorem dX1_stand_3 : decode cX1_stand 3 = .ok (.iconst 1, 1) := dk_4 (dk_at dksX1_stand_0 3 rfl rfl)
theorem dX1_stand_4 : decode cX1_stand 4 = .ok (.aload_n 0, 1) := dk_42 (dk_at dksX1_stand_0 4 rfl rfl)
theorem dX1_stand_5 : decode cX1_stand 5 = .ok (.getfield 157, 3) := dk_180 0 157 (dk_at dksX1_stand_0 5 rfl rfl)
theorem dX1_stand_8 : decode cX1_stand 8 = .ok (.ishl, 1) := dk_120 (dk_at dksX1_stand_0 8 rfl rfl)
theorem dX1_stand_9 : decode cX1_stand 9 = .ok (.iconst 1, 1) := dk_4 (dk_at dksX1_stand_0 9 rfl rfl)
theorem dX1_stand_10 : decode cX1_stand 10 = .ok (.isub, 1) := dk_100 (dk_at dksX1_stand_0 10 rfl rfl)
theorem dX1_stand_11 : decode cX1_stand 11 = .ok (.i2l, 1) := dk_133 (dk_at dksX1_stand_0 11 rfl rfl)
theorem dX1_stand_12 : decode cX1_stand 12 = .ok (.invokestatic 160, 3) := dk_184 0 160 (dk_at dksX1_stand_0 12 rfl rfl)
theorem dX1_stand_15 : decode cX1_stand 15 = .ok (.ifCond .ne 6, 3) := dk_154 0 6 (dk_at dksX1_stand_0 15 rfl rfl)
theorem dX1_stand_18 : decode cX1_stand 18 = .ok (.bipush (-2), 2) := dk_16 254 (dk_at dksX1_stand_0 18 rfl rfl)
theorem dX1_stand_20 : decode cX1_stand 20 = .ok (.ireturn, 1) := dk_172 (dk_at dksX1_stand_0 20 rfl rfl)
theorem dX1_stand_21 : decode cX1_stand 21 = .ok (.aload_n 0, 1) := dk_42 (dk_at dksX1_stand_0 21 rfl rfl)
theorem dX1_stand_22 : decode cX1_stand 22 = .ok (.invokevirtual 357, 3) := dk_182 1 101 (dk_at dksX1_stand_1 0 rfl rfl)
theorem dX1_stand_25 : decode cX1_stand 25 = .ok (.aload_n 0, 1) := dk_42 (dk_at dksX1_stand_1 3 rfl rfl)
theorem dX1_stand_26 : decode cX1_stand 26 = .ok (.getfield 61, 3) := dk_180 0 61 (dk_at dksX1_stand_1 4 rfl rfl)
theorem dX1_stand_29 : decode cX1_stand 29 = .ok (.iload_n 1, 1) := dk_27 (dk_at dksX1_stand_1 7 rfl rfl)
theorem dX1_stand_30 : decode cX1_stand 30 = .ok (.putfield 360, 3) := dk_181 1 104 (dk_at dksX1_stand_1 8 rfl rfl)
theorem dX1_stand_33 : decode cX1_stand 33 = .ok (.aload_n 0, 1) := dk_42 (dk_at dksX1_stand_1 11 rfl rfl)
theorem dX1_stand_34 : decode cX1_stand 34 = .ok (.aload_n 0, 1) := dk_42 (dk_at dksX1_stand_1 12 rfl rfl)
theorem dX1_stand_35 : decode cX1_stand 35 = .ok (.getfield 18, 3) := dk_180 0 18 (dk_at dksX1_stand_1 13 rfl rfl)
theorem dX1_stand_38 : decode cX1_stand 38 = .ok (.aload_n 0, 1) := dk_42 (dk_at dksX1_stand_1 16 rfl rfl)
theorem dX1_stand_39 : decode cX1_stand 39 = .ok (.getfield 61, 3) := dk_180 0 61 (dk_at dksX1_stand_1 17 rfl rfl)
theorem dX1_stand_42 : decode cX1_stand 42 = .ok (.invokevirtual 363, 3) := dk_182 1 107 (dk_at dksX1_stand_1 20 rfl rfl)
theorem dX1_stand_45 : decode cX1_stand 45 = .ok (.aload_n 0, 1) := dk_42 (dk_at dksX1_stand_1 23 rfl rfl)
theorem dX1_stand_46 : decode cX1_stand 46 = .ok (.iconst 0, 1) := dk_3 (dk_at dksX1_stand_2 0 rfl rfl)
theorem dX1_stand_47 : decode cX1_stand 47 = .ok (.putfield 154, 3) := dk_181 0 154 (dk_at dksX1_stand_2 1 rfl rfl)
theorem dX1_stand_50 : decode cX1_stand 50 = .ok (.aload_n 0, 1) := dk_42 (dk_at dksX1_stand_2 4 rfl rfl)
theorem dX1_stand_51 : decode cX1_stand 51 = .ok (.aload_n 0, 1) := dk_42 (dk_at dksX1_stand_2 5 rfl rfl)
theorem dX1_stand_52 : decode cX1_stand 52 = .ok (.getfield 332, 3) := dk_180 1 76 (dk_at dksX1_stand_2 6 rfl rfl)
theorem dX1_stand_55 : decode cX1_stand 55 = .ok (.ifCond .eq 7, 3) := dk_153 0 7 (dk_at dksX1_stand_2 9 rfl rfl)
theorem dX1_stand_58 : decode cX1_stand 58 = .ok (.lconst 1, 1) := dk_10 (dk_at dksX1_stand_2 12 rfl rfl)
theorem dX1_stand_59 : decode cX1_stand 59 = .ok (.goto 4, 3) := dk_167 0 4 (dk_at dksX1_stand_2 13 rfl rfl)
theorem dX1_stand_62 : decode cX1_stand 62 = .ok (.lconst 0, 1) := dk_9 (dk_at dksX1_stand_2 16 rfl rfl)
theorem dX1_stand_63 : decode cX1_stand 63 = .ok (.invokevirtual 367, 3) := dk_182 1 111 (dk_at dksX1_stand_2 17 rfl rfl)
theorem dX1_stand_66 : decode cX1_stand 66 = .ok (.aload_n 0, 1) := dk_42 (dk_at dksX1_stand_2 20 rfl rfl)
theorem dX1_stand_67 : decode cX1_stand 67 = .ok (.aload_n 0, 1) := dk_42 (dk_at dksX1_stand_2 21 rfl rfl)
theorem dX1_stand_68 : decode cX1_stand 68 = .ok (.getfield 336, 3) := dk_180 1 80 (dk_at dksX1_stand_3 0 rfl rfl)
theorem dX1_stand_71 : decode cX1_stand 71 = .ok (.i2l, 1) := dk_133 (dk_at dksX1_stand_3 3 rfl rfl)
theorem dX1_stand_72 : decode cX1_stand 72 = .ok (.invokevirtual 367, 3) := dk_182 1 111 (dk_at dksX1_stand_3 4 rfl rfl)
theorem dX1_stand_75 : decode cX1_stand 75 = .ok (.aload_n 0, 1) := dk_42 (dk_at dksX1_stand_3 7 rfl rfl)
theorem dX1_stand_76 : decode cX1_stand 76 = .ok (.getfield 18, 3) := dk_180 0 18 (dk_at dksX1_stand_3 8 rfl rfl)
theorem dX1_stand_79 : decode cX1_stand 79 = .ok (.getfield 315, 3) := dk_180 1 59 (dk_at dksX1_stand_3 11 rfl rfl)
theorem dX1_stand_82 : decode cX1_stand 82 = .ok (.ireturn, 1) := dk_172 (dk_at dksX1_stand_3 14 rfl rfl)
def dkwX1_remember_3 : List UInt8 := [4, 96, 181, 0, 245, 177]
abbrev dktX1_remember_3 : List UInt8 := dkwX1_remember_3 ++ []
def dkwX1_remember_2 : List UInt8 := [181, 0, 245, 42, 180, 0, 25, 42, 180, 0, 245, 50, 42, 180, 0, 18, 182, 1, 98, 42, 89, 180, 0, 245]
abbrev dktX1_remember_2 : List UInt8 := dkwX1_remember_2 ++ dktX1_remember_3
def dkwX1_remember_1 : List UInt8 := [180, 0, 25, 3, 16, 19, 184, 1, 19, 42, 180, 0, 25, 16, 19, 43, 83, 42, 89, 180, 0, 245, 4, 100]
abbrev dktX1_remember_1 : List UInt8 := dkwX1_remember_1 ++ dktX1_remember_2
def dkwX1_remember_0 : List UInt8 := [42, 180, 0, 245, 16, 20, 160, 0, 43, 42, 180, 0, 25, 3, 50, 76, 42, 180, 0, 25, 4, 42]
abbrev dktX1_remember_0 : List UInt8 := dkwX1_remember_0 ++ dktX1_remember_1
theorem dksX1_remember_0 : cX1_remember.data.toList.drop 0 = dktX1_remember_0 := by decide +kernel
theorem dksX1_remember_1 : cX1_remember.data.toList.drop 22 = dktX1_remember_1 := dk_seg dksX1_remember_0 22 rfl rfl
theorem dksX1_remember_2 : cX1_remember.data.toList.drop 46 = dktX1_remember_2 := dk_seg dksX1_remember_1 24 rfl rfl
theorem dksX1_remember_3 : cX1_remember.data.toList.drop 70 = dktX1_remember_3 := dk_seg dksX1_remember_2 24 rfl rfl
theorem dX1_remember_0 : decode cX1_remember 0 = .ok (.aload_n 0, 1) := dk_42 (dk_at dksX1_remember_0 0 rfl rfl)
theorem dX1_remember_1 : decode cX1_remember 1 = .ok (.getfield 245, 3) := dk_180 0 245 (dk_at dksX1_remember_0 1 rfl rfl)
theorem dX1_remember_4 : decode cX1_remember 4 = .ok (.bipush 20, 2) := dk_16 20 (dk_at dksX1_remember_0 4 rfl rfl)
theorem dX1_remember_6 : decode cX1_remember 6 = .ok (.if_icmp .ne 43, 3) := dk_160 0 43 (dk_at dksX1_remember_0 6 rfl rfl)
theorem dX1_remember_9 : decode cX1_remember 9 = .ok (.aload_n 0, 1) := dk_42 (dk_at dksX1_remember_0 9 rfl rfl)
theorem dX1_remember_10 : decode cX1_remember 10 = .ok (.getfield 25, 3) := dk_180 0 25 (dk_at dksX1_remember_0 10 rfl rfl)
theorem dX1_remember_13 : decode cX1_remember 13 = .ok (.iconst 0, 1) := dk_3 (dk_at dksX1_remember_0 13 rfl rfl)
theorem dX1_remember_14 : decode cX1_remember 14 = .ok (.aaload, 1) := dk_50 (dk_at dksX1_remember_0 14 rfl rfl)
theorem dX1_remember_15 : decode cX1_remember 15 = .ok (.astore_n 1, 1) := dk_76 (dk_at dksX1_remember_0 15 rfl rfl)
theorem dX1_remember_16 : decode cX1_remember 16 = .ok (.aload_n 0, 1) := dk_42 (dk_at dksX1_remember_0 16 rfl rfl)
theorem dX1_remember_17 : decode cX1_remember 17 = .ok (.getfield 25, 3) := dk_180 0 25 (dk_at dksX1_remember_0 17 rfl rfl)
theorem dX1_remember_20 : decode cX1_remember 20 = .ok (.iconst 1, 1) := dk_4 (dk_at dksX1_remember_0 20 rfl rfl)
theorem dX1_remember_21 : decode cX1_remember 21 = .ok (.aload_n 0, 1) := dk_42 (dk_at dksX1_remember_0 21 rfl rfl)
theorem dX1_remember_22 : decode cX1_remember 22 = .ok (.getfield 25, 3) := dk_180 0 25 (dk_at dksX1_remember_1 0 rfl rfl)
theorem dX1_remember_25 : decode cX1_remember 25 = .ok (.iconst 0, 1) := dk_3 (dk_at dksX1_remember_1 3 rfl rfl)
theorem dX1_remember_26 : decode cX1_remember 26 = .ok (.bipush 19, 2) := dk_16 19 (dk_at dksX1_remember_1 4 rfl rfl)
theorem dX1_remember_28 : decode cX1_remember 28 = .ok (.invokestatic 275, 3) := dk_184 1 19 (dk_at dksX1_remember_1 6 rfl rfl)
theorem dX1_remember_31 : decode cX1_remember 31 = .ok (.aload_n 0, 1) := dk_42 (dk_at dksX1_remember_1 9 rfl rfl)
theorem dX1_remember_32 : decode cX1_remember 32 = .ok (.getfield 25, 3) := dk_180 0 25 (dk_at dksX1_remember_1 10 rfl rfl)
theorem dX1_remember_35 : decode cX1_remember 35 = .ok (.bipush 19, 2) := dk_16 19 (dk_at dksX1_remember_1 13 rfl rfl)
theorem dX1_remember_37 : decode cX1_remember 37 = .ok (.aload_n 1, 1) := dk_43 (dk_at dksX1_remember_1 15 rfl rfl)
theorem dX1_remember_38 : decode cX1_remember 38 = .ok (.aastore, 1) := dk_83 (dk_at dksX1_remember_1 16 rfl rfl)
theorem dX1_remember_39 : decode cX1_remember 39 = .ok (.aload_n 0, 1) := dk_42 (dk_at dksX1_remember_1 17 rfl rfl)
theorem dX1_remember_40 : decode cX1_remember 40 = .ok (.dup, 1) := dk_89 (dk_at dksX1_remember_1 18 rfl rfl)
theorem dX1_remember_41 : decode cX1_remember 41 = .ok (.getfield 245, 3) := dk_180 0 245 (dk_at dksX1_remember_1 19 rfl rfl)
theorem dX1_remember_44 : decode cX1_remember 44 = .ok (.iconst 1, 1) := dk_4 (dk_at dksX1_remember_1 22 rfl rfl)
theorem dX1_remember_45 : decode cX1_remember 45 = .ok (.isub, 1) := dk_100 (dk_at dksX1_remember_1 23 rfl rfl)
theorem dX1_remember_46 : decode cX1_remember 46 = .ok (.putfield 245, 3) := dk_181 0 245 (dk_at dksX1_remember_2 0 rfl rfl)
theorem dX1_remember_49 : decode cX1_remember 49 = .ok (.aload_n 0, 1) := dk_42 (dk_at dksX1_remember_2 3 rfl rfl)
theorem dX1_remember_50 : decode cX1_remember 50 = .ok (.getfield 25, 3) := dk_180 0 25 (dk_at dksX1_remember_2 4 rfl rfl)
theorem dX1_remember_53 : decode cX1_remember 53 = .ok (.aload_n 0, 1) := dk_42 (dk_at dksX1_remember_2 7 rfl rfl)
theorem dX1_remember_54 : decode cX1_remember 54 = .ok (.getfield 245, 3) := dk_180 0 245 (dk_at dksX1_remember_2 8 rfl rfl)
theorem dX1_remember_57 : decode cX1_remember 57 = .ok (.aaload, 1) := dk_50 (dk_at dksX1_remember_2 11 rfl rfl)
theorem dX1_remember_58 : decode cX1_remember 58 = .ok (.aload_n 0, 1) := dk_42 (dk_at dksX1_remember_2 12 rfl rfl)
theorem dX1_remember_59 : decode cX1_remember 59 = .ok (.getfield 18, 3) := dk_180 0 18 (dk_at dksX1_remember_2 13 rfl rfl)
theorem dX1_remember_62 : decode cX1_remember 62 = .ok (.invokevirtual 354, 3) := dk_182 1 98 (dk_at dksX1_remember_2 16 rfl rfl)
theorem dX1_remember_65 : decode cX1_remember 65 = .ok (.aload_n 0, 1) := dk_42 (dk_at dksX1_remember_2 19 rfl rfl)
theorem dX1_remember_66 : decode cX1_remember 66 = .ok (.dup, 1) := dk_89 (dk_at dksX1_remember_2 20 rfl rfl)
theorem dX1_remember_67 : decode cX1_remember 67 = .ok (.getfield 245, 3) := dk_180 0 245 (dk_at dksX1_remember_2 21 rfl rfl)
theorem dX1_remember_70 : decode cX1_remember 70 = .ok (.iconst 1, 1) := dk_4 (dk_at dksX1_remember_3 0 rfl rfl)
theorem dX1_remember_71 : decode cX1_remember 71 = .ok (.iadd, 1) := dk_96 (dk_at dksX1_remember_3 1 rfl rfl)
theorem dX1_remember_72 : decode cX1_remember 72 = .ok (.putfield 245, 3) := dk_181 0 245 (dk_at dksX1_remember_3 2 rfl rfl)
theorem dX1_remember_75 : decode cX1_remember 75 = .ok (.return_, 1) := dk_177 (dk_at dksX1_remember_3 5 rfl rfl)
def dkwX1_goes_0 : List UInt8 := [42, 43, 42, 43, 44, 182, 1, 68, 182, 1, 72, 177]
abbrev dktX1_goes_0 : List UInt8 := dkwX1_goes_0 ++ []
theorem dksX1_goes_0 : cX1_goes.data.toList.drop 0 = dktX1_goes_0 := by decide +kernel
theorem dX1_goes_0 : decode cX1_goes 0 = .ok (.aload_n 0, 1) := dk_42 (dk_at dksX1_goes_0 0 rfl rfl)
theorem dX1_goes_1 : decode cX1_goes 1 = .ok (.aload_n 1, 1) := dk_43 (dk_at dksX1_goes_0 1 rfl rfl)
theorem dX1_goes_2 : decode cX1_goes 2 = .ok (.aload_n 0, 1) := dk_42 (dk_at dksX1_goes_0 2 rfl rfl)
theorem dX1_goes_3 : decode cX1_goes 3 = .ok (.aload_n 1, 1) := dk_43 (dk_at dksX1_goes_0 3 rfl rfl)
theorem dX1_goes_4 : decode cX1_goes 4 = .ok (.aload_n 2, 1) := dk_44 (dk_at dksX1_goes_0 4 rfl rfl)
theorem dX1_goes_5 : decode cX1_goes 5 = .ok (.invokevirtual 324, 3) := dk_182 1 68 (dk_at dksX1_goes_0 5 rfl rfl)
theorem dX1_goes_8 : decode cX1_goes 8 = .ok (.invokevirtual 328, 3) := dk_182 1 72 (dk_at dksX1_goes_0 8 rfl rfl)
theorem dX1_goes_11 : decode cX1_goes 11 = .ok (.return_, 1) := dk_177 (dk_at dksX1_goes_0 11 rfl rfl)
def dkwX1_heir_5 : List UInt8 := [43, 180, 1, 59, 46, 182, 1, 28, 164, 0, 7, 29, 167, 0, 4, 2, 172]
abbrev dktX1_heir_5 : List UInt8 := dkwX1_heir_5 ++ []
def dkwX1_heir_4 : List UInt8 := [180, 1, 59, 2, 160, 0, 5, 29, 172, 42, 43, 180, 0, 236, 29, 46, 182, 1, 28, 42, 43, 180, 0, 236]
abbrev dktX1_heir_4 : List UInt8 := dkwX1_heir_4 ++ dktX1_heir_5
def dkwX1_heir_3 : List UInt8 := [29, 46, 182, 1, 28, 164, 0, 6, 21, 4, 62, 132, 4, 1, 167, 255, 176, 29, 2, 159, 0, 11, 43]
abbrev dktX1_heir_3 : List UInt8 := dkwX1_heir_3 ++ dktX1_heir_4
def dkwX1_heir_2 : List UInt8 := [167, 0, 35, 29, 2, 159, 0, 27, 42, 43, 180, 0, 236, 21, 4, 46, 182, 1, 28, 42, 43, 180, 0, 236]
abbrev dktX1_heir_2 : List UInt8 := dkwX1_heir_2 ++ dktX1_heir_3
def dkwX1_heir_1 : List UInt8 := [153, 0, 59, 21, 4, 43, 180, 1, 59, 159, 0, 50, 44, 43, 21, 4, 185, 1, 62, 3, 0, 154, 0, 6]
abbrev dktX1_heir_1 : List UInt8 := dkwX1_heir_1 ++ dktX1_heir_2
def dkwX1_heir_0 : List UInt8 := [2, 62, 3, 54, 4, 21, 4, 42, 180, 0, 157, 162, 0, 77, 43, 180, 0, 168, 21, 4, 184, 0, 171]
abbrev dktX1_heir_0 : List UInt8 := dkwX1_heir_0 ++ dktX1_heir_1
theorem dksX1_heir_0 : cX1_heir.data.toList.drop 0 = dktX1_heir_0 := by decide +kernel
theorem dksX1_heir_1 : cX1_heir.data.toList.drop 23 = dktX1_heir_1 := dk_seg dksX1_heir_0 23 rfl rfl
theorem dksX1_heir_2 : cX1_heir.data.toList.drop 47 = dktX1_heir_2 := dk_seg dksX1_heir_1 24 rfl rfl
theorem dksX1_heir_3 : cX1_heir.data.toList.drop 71 = dktX1_heir_3 := dk_seg dksX1_heir_2 24 rfl rfl
theorem dksX1_heir_4 : cX1_heir.data.toList.drop 94 = dktX1_heir_4 := dk_seg dksX1_heir_3 23 rfl rfl
theorem dksX1_heir_5 : cX1_heir.data.toList.drop 118 = dktX1_heir_5 := dk_seg dksX1_heir_4 24 rfl rfl
theorem dX1_heir_0 : decode cX1_heir 0 = .ok (.iconst (-1), 1) := dk_2 (dk_at dksX1_heir_0 0 rfl rfl)
theorem dX1_heir_1 : decode cX1_heir 1 = .ok (.istore_n 3, 1) := dk_62 (dk_at dksX1_heir_0 1 rfl rfl)
theorem dX1_heir_2 : decode cX1_heir 2 = .ok (.iconst 0, 1) := dk_3 (dk_at dksX1_heir_0 2 rfl rfl)
theorem dX1_heir_3 : decode cX1_heir 3 = .ok (.istore 4, 2) := dk_54 4 (dk_at dksX1_heir_0 3 rfl rfl)
theorem dX1_heir_5 : decode cX1_heir 5 = .ok (.iload 4, 2) := dk_21 4 (dk_at dksX1_heir_0 5 rfl rfl)
theorem dX1_heir_7 : decode cX1_heir 7 = .ok (.aload_n 0, 1) := dk_42 (dk_at dksX1_heir_0 7 rfl rfl)
theorem dX1_heir_8 : decode cX1_heir 8 = .ok (.getfield 157, 3) := dk_180 0 157 (dk_at dksX1_heir_0 8 rfl rfl)
theorem dX1_heir_11 : decode cX1_heir 11 = .ok (.if_icmp .ge 77, 3) := dk_162 0 77 (dk_at dksX1_heir_0 11 rfl rfl)
theorem dX1_heir_14 : decode cX1_heir 14 = .ok (.aload_n 1, 1) := dk_43 (dk_at dksX1_heir_0 14 rfl rfl)
theorem dX1_heir_15 : decode cX1_heir 15 = .ok (.getfield 168, 3) := dk_180 0 168 (dk_at dksX1_heir_0 15 rfl rfl)
theorem dX1_heir_18 : decode cX1_heir 18 = .ok (.iload 4, 2) := dk_21 4 (dk_at dksX1_heir_0 18 rfl rfl)
theorem dX1_heir_20 : decode cX1_heir 20 = .ok (.invokestatic 171, 3) := dk_184 0 171 (dk_at dksX1_heir_0 20 rfl rfl)
theorem dX1_heir_23 : decode cX1_heir 23 = .ok (.ifCond .eq 59, 3) := dk_153 0 59 (dk_at dksX1_heir_1 0 rfl rfl)
theorem dX1_heir_26 : decode cX1_heir 26 = .ok (.iload 4, 2) := dk_21 4 (dk_at dksX1_heir_1 3 rfl rfl)
theorem dX1_heir_28 : decode cX1_heir 28 = .ok (.aload_n 1, 1) := dk_43 (dk_at dksX1_heir_1 5 rfl rfl)
theorem dX1_heir_29 : decode cX1_heir 29 = .ok (.getfield 315, 3) := dk_180 1 59 (dk_at dksX1_heir_1 6 rfl rfl)
theorem dX1_heir_32 : decode cX1_heir 32 = .ok (.if_icmp .eq 50, 3) := dk_159 0 50 (dk_at dksX1_heir_1 9 rfl rfl)
theorem dX1_heir_35 : decode cX1_heir 35 = .ok (.aload_n 2, 1) := dk_44 (dk_at dksX1_heir_1 12 rfl rfl)
theorem dX1_heir_36 : decode cX1_heir 36 = .ok (.aload_n 1, 1) := dk_43 (dk_at dksX1_heir_1 13 rfl rfl)
theorem dX1_heir_37 : decode cX1_heir 37 = .ok (.iload 4, 2) := dk_21 4 (dk_at dksX1_heir_1 14 rfl rfl)
theorem dX1_heir_39 : decode cX1_heir 39 = .ok (.invokeinterface 318 3, 5) := by decide +kernel
theorem dX1_heir_44 : decode cX1_heir 44 = .ok (.ifCond .ne 6, 3) := dk_154 0 6 (dk_at dksX1_heir_1 21 rfl rfl)
theorem dX1_heir_47 : decode cX1_heir 47 = .ok (.goto 35, 3) := dk_167 0 35 (dk_at dksX1_heir_2 0 rfl rfl)
theorem dX1_heir_50 : decode cX1_heir 50 = .ok (.iload_n 3, 1) := dk_29 (dk_at dksX1_heir_2 3 rfl rfl)
theorem dX1_heir_51 : decode cX1_heir 51 = .ok (.iconst (-1), 1) := dk_2 (dk_at dksX1_heir_2 4 rfl rfl)
theorem dX1_heir_52 : decode cX1_heir 52 = .ok (.if_icmp .eq 27, 3) := dk_159 0 27 (dk_at dksX1_heir_2 5 rfl rfl)
theorem dX1_heir_55 : decode cX1_heir 55 = .ok (.aload_n 0, 1) := dk_42 (dk_at dksX1_heir_2 8 rfl rfl)
theorem dX1_heir_56 : decode cX1_heir 56 = .ok (.aload_n 1, 1) := dk_43 (dk_at dksX1_heir_2 9 rfl rfl)
theorem dX1_heir_57 : decode cX1_heir 57 = .ok (.getfield 236, 3) := dk_180 0 236 (dk_at dksX1_heir_2 10 rfl rfl)
theorem dX1_heir_60 : decode cX1_heir 60 = .ok (.iload 4, 2) := dk_21 4 (dk_at dksX1_heir_2 13 rfl rfl)
theorem dX1_heir_62 : decode cX1_heir 62 = .ok (.iaload, 1) := dk_46 (dk_at dksX1_heir_2 15 rfl rfl)
theorem dX1_heir_63 : decode cX1_heir 63 = .ok (.invokevirtual 284, 3) := dk_182 1 28 (dk_at dksX1_heir_2 16 rfl rfl)
theorem dX1_heir_66 : decode cX1_heir 66 = .ok (.aload_n 0, 1) := dk_42 (dk_at dksX1_heir_2 19 rfl rfl)
theorem dX1_heir_67 : decode cX1_heir 67 = .ok (.aload_n 1, 1) := dk_43 (dk_at dksX1_heir_2 20 rfl rfl)
theorem dX1_heir_68 : decode cX1_heir 68 = .ok (.getfield 236, 3) := dk_180 0 236 (dk_at dksX1_heir_2 21 rfl rfl)
theorem dX1_heir_71 : decode cX1_heir 71 = .ok (.iload_n 3, 1) := dk_29 (dk_at dksX1_heir_3 0 rfl rfl)
theorem dX1_heir_72 : decode cX1_heir 72 = .ok (.iaload, 1) := dk_46 (dk_at dksX1_heir_3 1 rfl rfl)
theorem dX1_heir_73 : decode cX1_heir 73 = .ok (.invokevirtual 284, 3) := dk_182 1 28 (dk_at dksX1_heir_3 2 rfl rfl)
theorem dX1_heir_76 : decode cX1_heir 76 = .ok (.if_icmp .le 6, 3) := dk_164 0 6 (dk_at dksX1_heir_3 5 rfl rfl)
theorem dX1_heir_79 : decode cX1_heir 79 = .ok (.iload 4, 2) := dk_21 4 (dk_at dksX1_heir_3 8 rfl rfl)
theorem dX1_heir_81 : decode cX1_heir 81 = .ok (.istore_n 3, 1) := dk_62 (dk_at dksX1_heir_3 10 rfl rfl)
theorem dX1_heir_82 : decode cX1_heir 82 = .ok (.iinc 4 1, 3) := dk_132 4 1 (dk_at dksX1_heir_3 11 rfl rfl)
theorem dX1_heir_85 : decode cX1_heir 85 = .ok (.goto (-80), 3) := dk_167 255 176 (dk_at dksX1_heir_3 14 rfl rfl)
theorem dX1_heir_88 : decode cX1_heir 88 = .ok (.iload_n 3, 1) := dk_29 (dk_at dksX1_heir_3 17 rfl rfl)
theorem dX1_heir_89 : decode cX1_heir 89 = .ok (.iconst (-1), 1) := dk_2 (dk_at dksX1_heir_3 18 rfl rfl)
theorem dX1_heir_90 : decode cX1_heir 90 = .ok (.if_icmp .eq 11, 3) := dk_159 0 11 (dk_at dksX1_heir_3 19 rfl rfl)
theorem dX1_heir_93 : decode cX1_heir 93 = .ok (.aload_n 1, 1) := dk_43 (dk_at dksX1_heir_3 22 rfl rfl)
theorem dX1_heir_94 : decode cX1_heir 94 = .ok (.getfield 315, 3) := dk_180 1 59 (dk_at dksX1_heir_4 0 rfl rfl)
theorem dX1_heir_97 : decode cX1_heir 97 = .ok (.iconst (-1), 1) := dk_2 (dk_at dksX1_heir_4 3 rfl rfl)
theorem dX1_heir_98 : decode cX1_heir 98 = .ok (.if_icmp .ne 5, 3) := dk_160 0 5 (dk_at dksX1_heir_4 4 rfl rfl)
theorem dX1_heir_101 : decode cX1_heir 101 = .ok (.iload_n 3, 1) := dk_29 (dk_at dksX1_heir_4 7 rfl rfl)
theorem dX1_heir_102 : decode cX1_heir 102 = .ok (.ireturn, 1) := dk_172 (dk_at dksX1_heir_4 8 rfl rfl)
theorem dX1_heir_103 : decode cX1_heir 103 = .ok (.aload_n 0, 1) := dk_42 (dk_at dksX1_heir_4 9 rfl rfl)
theorem dX1_heir_104 : decode cX1_heir 104 = .ok (.aload_n 1, 1) := dk_43 (dk_at dksX1_heir_4 10 rfl rfl)
theorem dX1_heir_105 : decode cX1_heir 105 = .ok (.getfield 236, 3) := dk_180 0 236 (dk_at dksX1_heir_4 11 rfl rfl)
theorem dX1_heir_108 : decode cX1_heir 108 = .ok (.iload_n 3, 1) := dk_29 (dk_at dksX1_heir_4 14 rfl rfl)
theorem dX1_heir_109 : decode cX1_heir 109 = .ok (.iaload, 1) := dk_46 (dk_at dksX1_heir_4 15 rfl rfl)
theorem dX1_heir_110 : decode cX1_heir 110 = .ok (.invokevirtual 284, 3) := dk_182 1 28 (dk_at dksX1_heir_4 16 rfl rfl)
theorem dX1_heir_113 : decode cX1_heir 113 = .ok (.aload_n 0, 1) := dk_42 (dk_at dksX1_heir_4 19 rfl rfl)
theorem dX1_heir_114 : decode cX1_heir 114 = .ok (.aload_n 1, 1) := dk_43 (dk_at dksX1_heir_4 20 rfl rfl)
theorem dX1_heir_115 : decode cX1_heir 115 = .ok (.getfield 236, 3) := dk_180 0 236 (dk_at dksX1_heir_4 21 rfl rfl)
theorem dX1_heir_118 : decode cX1_heir 118 = .ok (.aload_n 1, 1) := dk_43 (dk_at dksX1_heir_5 0 rfl rfl)
theorem dX1_heir_119 : decode cX1_heir 119 = .ok (.getfield 315, 3) := dk_180 1 59 (dk_at dksX1_heir_5 1 rfl rfl)
theorem dX1_heir_122 : decode cX1_heir 122 = .ok (.iaload, 1) := dk_46 (dk_at dksX1_heir_5 4 rfl rfl)
theorem dX1_heir_123 : decode cX1_heir 123 = .ok (.invokevirtual 284, 3) := dk_182 1 28 (dk_at dksX1_heir_5 5 rfl rfl)
theorem dX1_heir_126 : decode cX1_heir 126 = .ok (.if_icmp .le 7, 3) := dk_164 0 7 (dk_at dksX1_heir_5 8 rfl rfl)
theorem dX1_heir_129 : decode cX1_heir 129 = .ok (.iload_n 3, 1) := dk_29 (dk_at dksX1_heir_5 11 rfl rfl)
theorem dX1_heir_130 : decode cX1_heir 130 = .ok (.goto 4, 3) := dk_167 0 4 (dk_at dksX1_heir_5 12 rfl rfl)
theorem dX1_heir_133 : decode cX1_heir 133 = .ok (.iconst (-1), 1) := dk_2 (dk_at dksX1_heir_5 15 rfl rfl)
theorem dX1_heir_134 : decode cX1_heir 134 = .ok (.ireturn, 1) := dk_172 (dk_at dksX1_heir_5 16 rfl rfl)
def dkwX1_has_0 : List UInt8 := [26, 27, 122, 4, 126, 4, 160, 0, 7, 4, 167, 0, 4, 3, 172]
abbrev dktX1_has_0 : List UInt8 := dkwX1_has_0 ++ []
theorem dksX1_has_0 : cX1_has.data.toList.drop 0 = dktX1_has_0 := by decide +kernel
theorem dX1_has_0 : decode cX1_has 0 = .ok (.iload_n 0, 1) := dk_26 (dk_at dksX1_has_0 0 rfl rfl)
theorem dX1_has_1 : decode cX1_has 1 = .ok (.iload_n 1, 1) := dk_27 (dk_at dksX1_has_0 1 rfl rfl)
theorem dX1_has_2 : decode cX1_has 2 = .ok (.ishr, 1) := dk_122 (dk_at dksX1_has_0 2 rfl rfl)
theorem dX1_has_3 : decode cX1_has 3 = .ok (.iconst 1, 1) := dk_4 (dk_at dksX1_has_0 3 rfl rfl)
theorem dX1_has_4 : decode cX1_has 4 = .ok (.iand, 1) := dk_126 (dk_at dksX1_has_0 4 rfl rfl)
theorem dX1_has_5 : decode cX1_has 5 = .ok (.iconst 1, 1) := dk_4 (dk_at dksX1_has_0 5 rfl rfl)
theorem dX1_has_6 : decode cX1_has 6 = .ok (.if_icmp .ne 7, 3) := dk_160 0 7 (dk_at dksX1_has_0 6 rfl rfl)
theorem dX1_has_9 : decode cX1_has 9 = .ok (.iconst 1, 1) := dk_4 (dk_at dksX1_has_0 9 rfl rfl)
theorem dX1_has_10 : decode cX1_has 10 = .ok (.goto 4, 3) := dk_167 0 4 (dk_at dksX1_has_0 10 rfl rfl)
theorem dX1_has_13 : decode cX1_has 13 = .ok (.iconst 0, 1) := dk_3 (dk_at dksX1_has_0 13 rfl rfl)
theorem dX1_has_14 : decode cX1_has 14 = .ok (.ireturn, 1) := dk_172 (dk_at dksX1_has_0 14 rfl rfl)
def dkwX1_willOf_0 : List UInt8 := [42, 180, 0, 253, 199, 0, 7, 4, 167, 0, 12, 42, 180, 0, 253, 43, 28, 182, 1, 10, 172]
abbrev dktX1_willOf_0 : List UInt8 := dkwX1_willOf_0 ++ []
theorem dksX1_willOf_0 : cX1_willOf.data.toList.drop 0 = dktX1_willOf_0 := by decide +kernel
theorem dX1_willOf_0 : decode cX1_willOf 0 = .ok (.aload_n 0, 1) := dk_42 (dk_at dksX1_willOf_0 0 rfl rfl)
theorem dX1_willOf_1 : decode cX1_willOf 1 = .ok (.getfield 253, 3) := dk_180 0 253 (dk_at dksX1_willOf_0 1 rfl rfl)
theorem dX1_willOf_4 : decode cX1_willOf 4 = .ok (.ifnonnull 7, 3) := dk_199 0 7 (dk_at dksX1_willOf_0 4 rfl rfl)
theorem dX1_willOf_7 : decode cX1_willOf 7 = .ok (.iconst 1, 1) := dk_4 (dk_at dksX1_willOf_0 7 rfl rfl)
theorem dX1_willOf_8 : decode cX1_willOf 8 = .ok (.goto 12, 3) := dk_167 0 12 (dk_at dksX1_willOf_0 8 rfl rfl)
theorem dX1_willOf_11 : decode cX1_willOf 11 = .ok (.aload_n 0, 1) := dk_42 (dk_at dksX1_willOf_0 11 rfl rfl)
theorem dX1_willOf_12 : decode cX1_willOf 12 = .ok (.getfield 253, 3) := dk_180 0 253 (dk_at dksX1_willOf_0 12 rfl rfl)
theorem dX1_willOf_15 : decode cX1_willOf 15 = .ok (.aload_n 1, 1) := dk_43 (dk_at dksX1_willOf_0 15 rfl rfl)
theorem dX1_willOf_16 : decode cX1_willOf 16 = .ok (.iload_n 2, 1) := dk_28 (dk_at dksX1_willOf_0 16 rfl rfl)
theorem dX1_willOf_17 : decode cX1_willOf 17 = .ok (.invokevirtual 266, 3) := dk_182 1 10 (dk_at dksX1_willOf_0 17 rfl rfl)
theorem dX1_willOf_20 : decode cX1_willOf 20 = .ok (.ireturn, 1) := dk_172 (dk_at dksX1_willOf_0 20 rfl rfl)
def dkwX1_shows_0 : List UInt8 := [3, 27, 42, 180, 0, 175, 96, 184, 0, 178, 61, 28, 28, 42, 180, 0, 29, 112, 100, 172]
abbrev dktX1_shows_0 : List UInt8 := dkwX1_shows_0 ++ []
theorem dksX1_shows_0 : cX1_shows.data.toList.drop 0 = dktX1_shows_0 := by decide +kernel
theorem dX1_shows_0 : decode cX1_shows 0 = .ok (.iconst 0, 1) := dk_3 (dk_at dksX1_shows_0 0 rfl rfl)
theorem dX1_shows_1 : decode cX1_shows 1 = .ok (.iload_n 1, 1) := dk_27 (dk_at dksX1_shows_0 1 rfl rfl)
theorem dX1_shows_2 : decode cX1_shows 2 = .ok (.aload_n 0, 1) := dk_42 (dk_at dksX1_shows_0 2 rfl rfl)
theorem dX1_shows_3 : decode cX1_shows 3 = .ok (.getfield 175, 3) := dk_180 0 175 (dk_at dksX1_shows_0 3 rfl rfl)
theorem dX1_shows_6 : decode cX1_shows 6 = .ok (.iadd, 1) := dk_96 (dk_at dksX1_shows_0 6 rfl rfl)
theorem dX1_shows_7 : decode cX1_shows 7 = .ok (.invokestatic 178, 3) := dk_184 0 178 (dk_at dksX1_shows_0 7 rfl rfl)
theorem dX1_shows_10 : decode cX1_shows 10 = .ok (.istore_n 2, 1) := dk_61 (dk_at dksX1_shows_0 10 rfl rfl)
theorem dX1_shows_11 : decode cX1_shows 11 = .ok (.iload_n 2, 1) := dk_28 (dk_at dksX1_shows_0 11 rfl rfl)
theorem dX1_shows_12 : decode cX1_shows 12 = .ok (.iload_n 2, 1) := dk_28 (dk_at dksX1_shows_0 12 rfl rfl)
theorem dX1_shows_13 : decode cX1_shows 13 = .ok (.aload_n 0, 1) := dk_42 (dk_at dksX1_shows_0 13 rfl rfl)
theorem dX1_shows_14 : decode cX1_shows 14 = .ok (.getfield 29, 3) := dk_180 0 29 (dk_at dksX1_shows_0 14 rfl rfl)
theorem dX1_shows_17 : decode cX1_shows 17 = .ok (.irem, 1) := dk_112 (dk_at dksX1_shows_0 17 rfl rfl)
theorem dX1_shows_18 : decode cX1_shows 18 = .ok (.isub, 1) := dk_100 (dk_at dksX1_shows_0 18 rfl rfl)
theorem dX1_shows_19 : decode cX1_shows 19 = .ok (.ireturn, 1) := dk_172 (dk_at dksX1_shows_0 19 rfl rfl)
def dkwX1_comeTo_7 : List UInt8 := [180, 1, 92, 4, 96, 181, 1, 92, 177]
abbrev dktX1_comeTo_7 : List UInt8 := dkwX1_comeTo_7 ++ []
def dkwX1_comeTo_6 : List UInt8 := [180, 1, 92, 182, 1, 95, 96, 184, 1, 56, 184, 0, 178, 79, 132, 3, 1, 167, 255, 202, 43, 89]
abbrev dktX1_comeTo_6 : List UInt8 := dkwX1_comeTo_6 ++ dktX1_comeTo_7
def dkwX1_comeTo_5 : List UInt8 := [184, 0, 171, 153, 0, 35, 43, 180, 0, 236, 29, 4, 17, 3, 231, 43, 180, 0, 236, 29, 46, 42, 29, 43]
abbrev dktX1_comeTo_5 : List UInt8 := dkwX1_comeTo_5 ++ dktX1_comeTo_6
def dkwX1_comeTo_4 : List UInt8 := [180, 1, 86, 4, 96, 181, 1, 86, 3, 62, 29, 42, 180, 0, 157, 162, 0, 52, 43, 180, 0, 168, 29]
abbrev dktX1_comeTo_4 : List UInt8 := dkwX1_comeTo_4 ++ dktX1_comeTo_5
def dkwX1_comeTo_3 : List UInt8 := [79, 43, 180, 1, 59, 2, 159, 0, 26, 43, 180, 0, 239, 43, 180, 1, 59, 92, 46, 4, 96, 79, 43, 89]
abbrev dktX1_comeTo_3 : List UInt8 := dkwX1_comeTo_3 ++ dktX1_comeTo_4
def dkwX1_comeTo_2 : List UInt8 := [28, 181, 1, 59, 43, 3, 181, 1, 86, 43, 180, 1, 89, 43, 180, 1, 92, 16, 60, 112, 43, 180, 1, 59]
abbrev dktX1_comeTo_2 : List UInt8 := dkwX1_comeTo_2 ++ dktX1_comeTo_3
def dkwX1_comeTo_1 : List UInt8 := [153, 0, 33, 43, 180, 1, 59, 2, 159, 0, 15, 42, 43, 43, 180, 1, 59, 182, 1, 83, 181, 1, 80, 43]
abbrev dktX1_comeTo_1 : List UInt8 := dkwX1_comeTo_1 ++ dktX1_comeTo_2
def dkwX1_comeTo_0 : List UInt8 := [42, 28, 2, 159, 0, 7, 4, 167, 0, 4, 3, 181, 1, 76, 42, 3, 181, 1, 80, 42, 180, 1, 76]
abbrev dktX1_comeTo_0 : List UInt8 := dkwX1_comeTo_0 ++ dktX1_comeTo_1
theorem dksX1_comeTo_0 : cX1_comeTo.data.toList.drop 0 = dktX1_comeTo_0 := by decide +kernel
theorem dksX1_comeTo_1 : cX1_comeTo.data.toList.drop 23 = dktX1_comeTo_1 := dk_seg dksX1_comeTo_0 23 rfl rfl
theorem dksX1_comeTo_2 : cX1_comeTo.data.toList.drop 47 = dktX1_comeTo_2 := dk_seg dksX1_comeTo_1 24 rfl rfl
theorem dksX1_comeTo_3 : cX1_comeTo.data.toList.drop 71 = dktX1_comeTo_3 := dk_seg dksX1_comeTo_2 24 rfl rfl
theorem dksX1_comeTo_4 : cX1_comeTo.data.toList.drop 95 = dktX1_comeTo_4 := dk_seg dksX1_comeTo_3 24 rfl rfl
theorem dksX1_comeTo_5 : cX1_comeTo.data.toList.drop 118 = dktX1_comeTo_5 := dk_seg dksX1_comeTo_4 23 rfl rfl
theorem dksX1_comeTo_6 : cX1_comeTo.data.toList.drop 142 = dktX1_comeTo_6 := dk_seg dksX1_comeTo_5 24 rfl rfl
theorem dksX1_comeTo_7 : cX1_comeTo.data.toList.drop 164 = dktX1_comeTo_7 := dk_seg dksX1_comeTo_6 22 rfl rfl
theorem dX1_comeTo_0 : decode cX1_comeTo 0 = .ok (.aload_n 0, 1) := dk_42 (dk_at dksX1_comeTo_0 0 rfl rfl)
theorem dX1_comeTo_1 : decode cX1_comeTo 1 = .ok (.iload_n 2, 1) := dk_28 (dk_at dksX1_comeTo_0 1 rfl rfl)
theorem dX1_comeTo_2 : decode cX1_comeTo 2 = .ok (.iconst (-1), 1) := dk_2 (dk_at dksX1_comeTo_0 2 rfl rfl)
theorem dX1_comeTo_3 : decode cX1_comeTo 3 = .ok (.if_icmp .eq 7, 3) := dk_159 0 7 (dk_at dksX1_comeTo_0 3 rfl rfl)
theorem dX1_comeTo_6 : decode cX1_comeTo 6 = .ok (.iconst 1, 1) := dk_4 (dk_at dksX1_comeTo_0 6 rfl rfl)
theorem dX1_comeTo_7 : decode cX1_comeTo 7 = .ok (.goto 4, 3) := dk_167 0 4 (dk_at dksX1_comeTo_0 7 rfl rfl)
theorem dX1_comeTo_10 : decode cX1_comeTo 10 = .ok (.iconst 0, 1) := dk_3 (dk_at dksX1_comeTo_0 10 rfl rfl)
theorem dX1_comeTo_11 : decode cX1_comeTo 11 = .ok (.putfield 332, 3) := dk_181 1 76 (dk_at dksX1_comeTo_0 11 rfl rfl)
theorem dX1_comeTo_14 : decode cX1_comeTo 14 = .ok (.aload_n 0, 1) := dk_42 (dk_at dksX1_comeTo_0 14 rfl rfl)
theorem dX1_comeTo_15 : decode cX1_comeTo 15 = .ok (.iconst 0, 1) := dk_3 (dk_at dksX1_comeTo_0 15 rfl rfl)
theorem dX1_comeTo_16 : decode cX1_comeTo 16 = .ok (.putfield 336, 3) := dk_181 1 80 (dk_at dksX1_comeTo_0 16 rfl rfl)
theorem dX1_comeTo_19 : decode cX1_comeTo 19 = .ok (.aload_n 0, 1) := dk_42 (dk_at dksX1_comeTo_0 19 rfl rfl)
theorem dX1_comeTo_20 : decode cX1_comeTo 20 = .ok (.getfield 332, 3) := dk_180 1 76 (dk_at dksX1_comeTo_0 20 rfl rfl)
theorem dX1_comeTo_23 : decode cX1_comeTo 23 = .ok (.ifCond .eq 33, 3) := dk_153 0 33 (dk_at dksX1_comeTo_1 0 rfl rfl)
theorem dX1_comeTo_26 : decode cX1_comeTo 26 = .ok (.aload_n 1, 1) := dk_43 (dk_at dksX1_comeTo_1 3 rfl rfl)
theorem dX1_comeTo_27 : decode cX1_comeTo 27 = .ok (.getfield 315, 3) := dk_180 1 59 (dk_at dksX1_comeTo_1 4 rfl rfl)
theorem dX1_comeTo_30 : decode cX1_comeTo 30 = .ok (.iconst (-1), 1) := dk_2 (dk_at dksX1_comeTo_1 7 rfl rfl)
theorem dX1_comeTo_31 : decode cX1_comeTo 31 = .ok (.if_icmp .eq 15, 3) := dk_159 0 15 (dk_at dksX1_comeTo_1 8 rfl rfl)
theorem dX1_comeTo_34 : decode cX1_comeTo 34 = .ok (.aload_n 0, 1) := dk_42 (dk_at dksX1_comeTo_1 11 rfl rfl)
theorem dX1_comeTo_35 : decode cX1_comeTo 35 = .ok (.aload_n 1, 1) := dk_43 (dk_at dksX1_comeTo_1 12 rfl rfl)
theorem dX1_comeTo_36 : decode cX1_comeTo 36 = .ok (.aload_n 1, 1) := dk_43 (dk_at dksX1_comeTo_1 13 rfl rfl)
theorem dX1_comeTo_37 : decode cX1_comeTo 37 = .ok (.getfield 315, 3) := dk_180 1 59 (dk_at dksX1_comeTo_1 14 rfl rfl)
theorem dX1_comeTo_40 : decode cX1_comeTo 40 = .ok (.invokevirtual 339, 3) := dk_182 1 83 (dk_at dksX1_comeTo_1 17 rfl rfl)
theorem dX1_comeTo_43 : decode cX1_comeTo 43 = .ok (.putfield 336, 3) := dk_181 1 80 (dk_at dksX1_comeTo_1 20 rfl rfl)
theorem dX1_comeTo_46 : decode cX1_comeTo 46 = .ok (.aload_n 1, 1) := dk_43 (dk_at dksX1_comeTo_1 23 rfl rfl)
theorem dX1_comeTo_47 : decode cX1_comeTo 47 = .ok (.iload_n 2, 1) := dk_28 (dk_at dksX1_comeTo_2 0 rfl rfl)
theorem dX1_comeTo_48 : decode cX1_comeTo 48 = .ok (.putfield 315, 3) := dk_181 1 59 (dk_at dksX1_comeTo_2 1 rfl rfl)
theorem dX1_comeTo_51 : decode cX1_comeTo 51 = .ok (.aload_n 1, 1) := dk_43 (dk_at dksX1_comeTo_2 4 rfl rfl)
theorem dX1_comeTo_52 : decode cX1_comeTo 52 = .ok (.iconst 0, 1) := dk_3 (dk_at dksX1_comeTo_2 5 rfl rfl)
theorem dX1_comeTo_53 : decode cX1_comeTo 53 = .ok (.putfield 342, 3) := dk_181 1 86 (dk_at dksX1_comeTo_2 6 rfl rfl)
theorem dX1_comeTo_56 : decode cX1_comeTo 56 = .ok (.aload_n 1, 1) := dk_43 (dk_at dksX1_comeTo_2 9 rfl rfl)
theorem dX1_comeTo_57 : decode cX1_comeTo 57 = .ok (.getfield 345, 3) := dk_180 1 89 (dk_at dksX1_comeTo_2 10 rfl rfl)
theorem dX1_comeTo_60 : decode cX1_comeTo 60 = .ok (.aload_n 1, 1) := dk_43 (dk_at dksX1_comeTo_2 13 rfl rfl)
theorem dX1_comeTo_61 : decode cX1_comeTo 61 = .ok (.getfield 348, 3) := dk_180 1 92 (dk_at dksX1_comeTo_2 14 rfl rfl)
theorem dX1_comeTo_64 : decode cX1_comeTo 64 = .ok (.bipush 60, 2) := dk_16 60 (dk_at dksX1_comeTo_2 17 rfl rfl)
theorem dX1_comeTo_66 : decode cX1_comeTo 66 = .ok (.irem, 1) := dk_112 (dk_at dksX1_comeTo_2 19 rfl rfl)
theorem dX1_comeTo_67 : decode cX1_comeTo 67 = .ok (.aload_n 1, 1) := dk_43 (dk_at dksX1_comeTo_2 20 rfl rfl)
theorem dX1_comeTo_68 : decode cX1_comeTo 68 = .ok (.getfield 315, 3) := dk_180 1 59 (dk_at dksX1_comeTo_2 21 rfl rfl)
theorem dX1_comeTo_71 : decode cX1_comeTo 71 = .ok (.iastore, 1) := dk_79 (dk_at dksX1_comeTo_3 0 rfl rfl)
theorem dX1_comeTo_72 : decode cX1_comeTo 72 = .ok (.aload_n 1, 1) := dk_43 (dk_at dksX1_comeTo_3 1 rfl rfl)
theorem dX1_comeTo_73 : decode cX1_comeTo 73 = .ok (.getfield 315, 3) := dk_180 1 59 (dk_at dksX1_comeTo_3 2 rfl rfl)
theorem dX1_comeTo_76 : decode cX1_comeTo 76 = .ok (.iconst (-1), 1) := dk_2 (dk_at dksX1_comeTo_3 5 rfl rfl)
theorem dX1_comeTo_77 : decode cX1_comeTo 77 = .ok (.if_icmp .eq 26, 3) := dk_159 0 26 (dk_at dksX1_comeTo_3 6 rfl rfl)
theorem dX1_comeTo_80 : decode cX1_comeTo 80 = .ok (.aload_n 1, 1) := dk_43 (dk_at dksX1_comeTo_3 9 rfl rfl)
theorem dX1_comeTo_81 : decode cX1_comeTo 81 = .ok (.getfield 239, 3) := dk_180 0 239 (dk_at dksX1_comeTo_3 10 rfl rfl)
theorem dX1_comeTo_84 : decode cX1_comeTo 84 = .ok (.aload_n 1, 1) := dk_43 (dk_at dksX1_comeTo_3 13 rfl rfl)
theorem dX1_comeTo_85 : decode cX1_comeTo 85 = .ok (.getfield 315, 3) := dk_180 1 59 (dk_at dksX1_comeTo_3 14 rfl rfl)
theorem dX1_comeTo_88 : decode cX1_comeTo 88 = .ok (.dup2, 1) := dk_92 (dk_at dksX1_comeTo_3 17 rfl rfl)
theorem dX1_comeTo_89 : decode cX1_comeTo 89 = .ok (.iaload, 1) := dk_46 (dk_at dksX1_comeTo_3 18 rfl rfl)
theorem dX1_comeTo_90 : decode cX1_comeTo 90 = .ok (.iconst 1, 1) := dk_4 (dk_at dksX1_comeTo_3 19 rfl rfl)
theorem dX1_comeTo_91 : decode cX1_comeTo 91 = .ok (.iadd, 1) := dk_96 (dk_at dksX1_comeTo_3 20 rfl rfl)
theorem dX1_comeTo_92 : decode cX1_comeTo 92 = .ok (.iastore, 1) := dk_79 (dk_at dksX1_comeTo_3 21 rfl rfl)
theorem dX1_comeTo_93 : decode cX1_comeTo 93 = .ok (.aload_n 1, 1) := dk_43 (dk_at dksX1_comeTo_3 22 rfl rfl)
theorem dX1_comeTo_94 : decode cX1_comeTo 94 = .ok (.dup, 1) := dk_89 (dk_at dksX1_comeTo_3 23 rfl rfl)
theorem dX1_comeTo_95 : decode cX1_comeTo 95 = .ok (.getfield 342, 3) := dk_180 1 86 (dk_at dksX1_comeTo_4 0 rfl rfl)
theorem dX1_comeTo_98 : decode cX1_comeTo 98 = .ok (.iconst 1, 1) := dk_4 (dk_at dksX1_comeTo_4 3 rfl rfl)
theorem dX1_comeTo_99 : decode cX1_comeTo 99 = .ok (.iadd, 1) := dk_96 (dk_at dksX1_comeTo_4 4 rfl rfl)
theorem dX1_comeTo_100 : decode cX1_comeTo 100 = .ok (.putfield 342, 3) := dk_181 1 86 (dk_at dksX1_comeTo_4 5 rfl rfl)
theorem dX1_comeTo_103 : decode cX1_comeTo 103 = .ok (.iconst 0, 1) := dk_3 (dk_at dksX1_comeTo_4 8 rfl rfl)
theorem dX1_comeTo_104 : decode cX1_comeTo 104 = .ok (.istore_n 3, 1) := dk_62 (dk_at dksX1_comeTo_4 9 rfl rfl)
theorem dX1_comeTo_105 : decode cX1_comeTo 105 = .ok (.iload_n 3, 1) := dk_29 (dk_at dksX1_comeTo_4 10 rfl rfl)
theorem dX1_comeTo_106 : decode cX1_comeTo 106 = .ok (.aload_n 0, 1) := dk_42 (dk_at dksX1_comeTo_4 11 rfl rfl)
theorem dX1_comeTo_107 : decode cX1_comeTo 107 = .ok (.getfield 157, 3) := dk_180 0 157 (dk_at dksX1_comeTo_4 12 rfl rfl)
theorem dX1_comeTo_110 : decode cX1_comeTo 110 = .ok (.if_icmp .ge 52, 3) := dk_162 0 52 (dk_at dksX1_comeTo_4 15 rfl rfl)
theorem dX1_comeTo_113 : decode cX1_comeTo 113 = .ok (.aload_n 1, 1) := dk_43 (dk_at dksX1_comeTo_4 18 rfl rfl)
theorem dX1_comeTo_114 : decode cX1_comeTo 114 = .ok (.getfield 168, 3) := dk_180 0 168 (dk_at dksX1_comeTo_4 19 rfl rfl)
theorem dX1_comeTo_117 : decode cX1_comeTo 117 = .ok (.iload_n 3, 1) := dk_29 (dk_at dksX1_comeTo_4 22 rfl rfl)
theorem dX1_comeTo_118 : decode cX1_comeTo 118 = .ok (.invokestatic 171, 3) := dk_184 0 171 (dk_at dksX1_comeTo_5 0 rfl rfl)
theorem dX1_comeTo_121 : decode cX1_comeTo 121 = .ok (.ifCond .eq 35, 3) := dk_153 0 35 (dk_at dksX1_comeTo_5 3 rfl rfl)
theorem dX1_comeTo_124 : decode cX1_comeTo 124 = .ok (.aload_n 1, 1) := dk_43 (dk_at dksX1_comeTo_5 6 rfl rfl)
theorem dX1_comeTo_125 : decode cX1_comeTo 125 = .ok (.getfield 236, 3) := dk_180 0 236 (dk_at dksX1_comeTo_5 7 rfl rfl)
theorem dX1_comeTo_128 : decode cX1_comeTo 128 = .ok (.iload_n 3, 1) := dk_29 (dk_at dksX1_comeTo_5 10 rfl rfl)
theorem dX1_comeTo_129 : decode cX1_comeTo 129 = .ok (.iconst 1, 1) := dk_4 (dk_at dksX1_comeTo_5 11 rfl rfl)
theorem dX1_comeTo_130 : decode cX1_comeTo 130 = .ok (.sipush 999, 3) := dk_17 3 231 (dk_at dksX1_comeTo_5 12 rfl rfl)
theorem dX1_comeTo_133 : decode cX1_comeTo 133 = .ok (.aload_n 1, 1) := dk_43 (dk_at dksX1_comeTo_5 15 rfl rfl)
theorem dX1_comeTo_134 : decode cX1_comeTo 134 = .ok (.getfield 236, 3) := dk_180 0 236 (dk_at dksX1_comeTo_5 16 rfl rfl)
theorem dX1_comeTo_137 : decode cX1_comeTo 137 = .ok (.iload_n 3, 1) := dk_29 (dk_at dksX1_comeTo_5 19 rfl rfl)
theorem dX1_comeTo_138 : decode cX1_comeTo 138 = .ok (.iaload, 1) := dk_46 (dk_at dksX1_comeTo_5 20 rfl rfl)
theorem dX1_comeTo_139 : decode cX1_comeTo 139 = .ok (.aload_n 0, 1) := dk_42 (dk_at dksX1_comeTo_5 21 rfl rfl)
theorem dX1_comeTo_140 : decode cX1_comeTo 140 = .ok (.iload_n 3, 1) := dk_29 (dk_at dksX1_comeTo_5 22 rfl rfl)
theorem dX1_comeTo_141 : decode cX1_comeTo 141 = .ok (.aload_n 1, 1) := dk_43 (dk_at dksX1_comeTo_5 23 rfl rfl)
theorem dX1_comeTo_142 : decode cX1_comeTo 142 = .ok (.getfield 348, 3) := dk_180 1 92 (dk_at dksX1_comeTo_6 0 rfl rfl)
theorem dX1_comeTo_145 : decode cX1_comeTo 145 = .ok (.invokevirtual 351, 3) := dk_182 1 95 (dk_at dksX1_comeTo_6 3 rfl rfl)
theorem dX1_comeTo_148 : decode cX1_comeTo 148 = .ok (.iadd, 1) := dk_96 (dk_at dksX1_comeTo_6 6 rfl rfl)
theorem dX1_comeTo_149 : decode cX1_comeTo 149 = .ok (.invokestatic 312, 3) := dk_184 1 56 (dk_at dksX1_comeTo_6 7 rfl rfl)
theorem dX1_comeTo_152 : decode cX1_comeTo 152 = .ok (.invokestatic 178, 3) := dk_184 0 178 (dk_at dksX1_comeTo_6 10 rfl rfl)
theorem dX1_comeTo_155 : decode cX1_comeTo 155 = .ok (.iastore, 1) := dk_79 (dk_at dksX1_comeTo_6 13 rfl rfl)
theorem dX1_comeTo_156 : decode cX1_comeTo 156 = .ok (.iinc 3 1, 3) := dk_132 3 1 (dk_at dksX1_comeTo_6 14 rfl rfl)
theorem dX1_comeTo_159 : decode cX1_comeTo 159 = .ok (.goto (-54), 3) := dk_167 255 202 (dk_at dksX1_comeTo_6 17 rfl rfl)
theorem dX1_comeTo_162 : decode cX1_comeTo 162 = .ok (.aload_n 1, 1) := dk_43 (dk_at dksX1_comeTo_6 20 rfl rfl)
theorem dX1_comeTo_163 : decode cX1_comeTo 163 = .ok (.dup, 1) := dk_89 (dk_at dksX1_comeTo_6 21 rfl rfl)
theorem dX1_comeTo_164 : decode cX1_comeTo 164 = .ok (.getfield 348, 3) := dk_180 1 92 (dk_at dksX1_comeTo_7 0 rfl rfl)
theorem dX1_comeTo_167 : decode cX1_comeTo 167 = .ok (.iconst 1, 1) := dk_4 (dk_at dksX1_comeTo_7 3 rfl rfl)
theorem dX1_comeTo_168 : decode cX1_comeTo 168 = .ok (.iadd, 1) := dk_96 (dk_at dksX1_comeTo_7 4 rfl rfl)
theorem dX1_comeTo_169 : decode cX1_comeTo 169 = .ok (.putfield 348, 3) := dk_181 1 92 (dk_at dksX1_comeTo_7 5 rfl rfl)
theorem dX1_comeTo_172 : decode cX1_comeTo 172 = .ok (.return_, 1) := dk_177 (dk_at dksX1_comeTo_7 8 rfl rfl)
def dkwX1_changeIn_1 : List UInt8 := [180, 1, 14, 112, 46, 172]
abbrev dktX1_changeIn_1 : List UInt8 := dkwX1_changeIn_1 ++ []
def dkwX1_changeIn_0 : List UInt8 := [42, 180, 0, 11, 27, 50, 78, 45, 180, 1, 14, 154, 0, 7, 3, 167, 0, 14, 45, 180, 1, 17, 28, 45]
abbrev dktX1_changeIn_0 : List UInt8 := dkwX1_changeIn_0 ++ dktX1_changeIn_1
theorem dksX1_changeIn_0 : cX1_changeIn.data.toList.drop 0 = dktX1_changeIn_0 := by decide +kernel
theorem dksX1_changeIn_1 : cX1_changeIn.data.toList.drop 24 = dktX1_changeIn_1 := dk_seg dksX1_changeIn_0 24 rfl rfl
theorem dX1_changeIn_0 : decode cX1_changeIn 0 = .ok (.aload_n 0, 1) := dk_42 (dk_at dksX1_changeIn_0 0 rfl rfl)
theorem dX1_changeIn_1 : decode cX1_changeIn 1 = .ok (.getfield 11, 3) := dk_180 0 11 (dk_at dksX1_changeIn_0 1 rfl rfl)
theorem dX1_changeIn_4 : decode cX1_changeIn 4 = .ok (.iload_n 1, 1) := dk_27 (dk_at dksX1_changeIn_0 4 rfl rfl)
theorem dX1_changeIn_5 : decode cX1_changeIn 5 = .ok (.aaload, 1) := dk_50 (dk_at dksX1_changeIn_0 5 rfl rfl)
theorem dX1_changeIn_6 : decode cX1_changeIn 6 = .ok (.astore_n 3, 1) := dk_78 (dk_at dksX1_changeIn_0 6 rfl rfl)
theorem dX1_changeIn_7 : decode cX1_changeIn 7 = .ok (.aload_n 3, 1) := dk_45 (dk_at dksX1_changeIn_0 7 rfl rfl)
theorem dX1_changeIn_8 : decode cX1_changeIn 8 = .ok (.getfield 270, 3) := dk_180 1 14 (dk_at dksX1_changeIn_0 8 rfl rfl)
theorem dX1_changeIn_11 : decode cX1_changeIn 11 = .ok (.ifCond .ne 7, 3) := dk_154 0 7 (dk_at dksX1_changeIn_0 11 rfl rfl)
theorem dX1_changeIn_14 : decode cX1_changeIn 14 = .ok (.iconst 0, 1) := dk_3 (dk_at dksX1_changeIn_0 14 rfl rfl)
theorem dX1_changeIn_15 : decode cX1_changeIn 15 = .ok (.goto 14, 3) := dk_167 0 14 (dk_at dksX1_changeIn_0 15 rfl rfl)
theorem dX1_changeIn_18 : decode cX1_changeIn 18 = .ok (.aload_n 3, 1) := dk_45 (dk_at dksX1_changeIn_0 18 rfl rfl)
theorem dX1_changeIn_19 : decode cX1_changeIn 19 = .ok (.getfield 273, 3) := dk_180 1 17 (dk_at dksX1_changeIn_0 19 rfl rfl)
theorem dX1_changeIn_22 : decode cX1_changeIn 22 = .ok (.iload_n 2, 1) := dk_28 (dk_at dksX1_changeIn_0 22 rfl rfl)
theorem dX1_changeIn_23 : decode cX1_changeIn 23 = .ok (.aload_n 3, 1) := dk_45 (dk_at dksX1_changeIn_0 23 rfl rfl)
theorem dX1_changeIn_24 : decode cX1_changeIn 24 = .ok (.getfield 270, 3) := dk_180 1 14 (dk_at dksX1_changeIn_1 0 rfl rfl)
theorem dX1_changeIn_27 : decode cX1_changeIn 27 = .ok (.irem, 1) := dk_112 (dk_at dksX1_changeIn_1 3 rfl rfl)
theorem dX1_changeIn_28 : decode cX1_changeIn 28 = .ok (.iaload, 1) := dk_46 (dk_at dksX1_changeIn_1 4 rfl rfl)
theorem dX1_changeIn_29 : decode cX1_changeIn 29 = .ok (.ireturn, 1) := dk_172 (dk_at dksX1_changeIn_1 5 rfl rfl)
def dkwX1_tell_0 : List UInt8 := [42, 180, 0, 37, 42, 180, 0, 154, 31, 80, 42, 89, 180, 0, 154, 4, 96, 181, 0, 154, 177]
abbrev dktX1_tell_0 : List UInt8 := dkwX1_tell_0 ++ []
theorem dksX1_tell_0 : cX1_tell.data.toList.drop 0 = dktX1_tell_0 := by decide +kernel
theorem dX1_tell_0 : decode cX1_tell 0 = .ok (.aload_n 0, 1) := dk_42 (dk_at dksX1_tell_0 0 rfl rfl)
theorem dX1_tell_1 : decode cX1_tell 1 = .ok (.getfield 37, 3) := dk_180 0 37 (dk_at dksX1_tell_0 1 rfl rfl)
theorem dX1_tell_4 : decode cX1_tell 4 = .ok (.aload_n 0, 1) := dk_42 (dk_at dksX1_tell_0 4 rfl rfl)
theorem dX1_tell_5 : decode cX1_tell 5 = .ok (.getfield 154, 3) := dk_180 0 154 (dk_at dksX1_tell_0 5 rfl rfl)
theorem dX1_tell_8 : decode cX1_tell 8 = .ok (.lload_n 1, 1) := dk_31 (dk_at dksX1_tell_0 8 rfl rfl)
theorem dX1_tell_9 : decode cX1_tell 9 = .ok (.lastore, 1) := dk_80 (dk_at dksX1_tell_0 9 rfl rfl)
theorem dX1_tell_10 : decode cX1_tell 10 = .ok (.aload_n 0, 1) := dk_42 (dk_at dksX1_tell_0 10 rfl rfl)
theorem dX1_tell_11 : decode cX1_tell 11 = .ok (.dup, 1) := dk_89 (dk_at dksX1_tell_0 11 rfl rfl)
theorem dX1_tell_12 : decode cX1_tell 12 = .ok (.getfield 154, 3) := dk_180 0 154 (dk_at dksX1_tell_0 12 rfl rfl)
theorem dX1_tell_15 : decode cX1_tell 15 = .ok (.iconst 1, 1) := dk_4 (dk_at dksX1_tell_0 15 rfl rfl)
theorem dX1_tell_16 : decode cX1_tell 16 = .ok (.iadd, 1) := dk_96 (dk_at dksX1_tell_0 16 rfl rfl)
theorem dX1_tell_17 : decode cX1_tell 17 = .ok (.putfield 154, 3) := dk_181 0 154 (dk_at dksX1_tell_0 17 rfl rfl)
theorem dX1_tell_20 : decode cX1_tell 20 = .ok (.return_, 1) := dk_177 (dk_at dksX1_tell_0 20 rfl rfl)
def dkwX1_weeks_4 : List UInt8 := [182, 1, 111, 28, 172]
abbrev dktX1_weeks_4 : List UInt8 := dkwX1_weeks_4 ++ []
def dkwX1_weeks_3 : List UInt8 := [167, 255, 213, 42, 3, 181, 0, 154, 42, 42, 180, 0, 18, 180, 1, 59, 133, 182, 1, 111, 42, 29, 133]
abbrev dktX1_weeks_3 : List UInt8 := dkwX1_weeks_3 ++ dktX1_weeks_4
def dkwX1_weeks_2 : List UInt8 := [42, 180, 1, 76, 153, 0, 7, 4, 167, 0, 4, 3, 96, 61, 29, 42, 180, 1, 80, 96, 62, 132, 4, 1]
abbrev dktX1_weeks_2 : List UInt8 := dkwX1_weeks_2 ++ dktX1_weeks_3
def dkwX1_weeks_1 : List UInt8 := [3, 62, 3, 54, 4, 21, 4, 27, 162, 0, 43, 42, 42, 180, 0, 18, 42, 180, 0, 54, 182, 1, 107, 28]
abbrev dktX1_weeks_1 : List UInt8 := dkwX1_weeks_1 ++ dktX1_weeks_2
def dkwX1_weeks_0 : List UInt8 := [27, 133, 9, 20, 1, 115, 184, 0, 160, 154, 0, 5, 2, 172, 27, 158, 0, 7, 42, 182, 1, 101, 3, 61]
abbrev dktX1_weeks_0 : List UInt8 := dkwX1_weeks_0 ++ dktX1_weeks_1
theorem dksX1_weeks_0 : cX1_weeks.data.toList.drop 0 = dktX1_weeks_0 := by decide +kernel
theorem dksX1_weeks_1 : cX1_weeks.data.toList.drop 24 = dktX1_weeks_1 := dk_seg dksX1_weeks_0 24 rfl rfl
theorem dksX1_weeks_2 : cX1_weeks.data.toList.drop 48 = dktX1_weeks_2 := dk_seg dksX1_weeks_1 24 rfl rfl
theorem dksX1_weeks_3 : cX1_weeks.data.toList.drop 72 = dktX1_weeks_3 := dk_seg dksX1_weeks_2 24 rfl rfl
theorem dksX1_weeks_4 : cX1_weeks.data.toList.drop 95 = dktX1_weeks_4 := dk_seg dksX1_weeks_3 23 rfl rfl
theorem dX1_weeks_0 : decode cX1_weeks 0 = .ok (.iload_n 1, 1) := dk_27 (dk_at dksX1_weeks_0 0 rfl rfl)
theorem dX1_weeks_1 : decode cX1_weeks 1 = .ok (.i2l, 1) := dk_133 (dk_at dksX1_weeks_0 1 rfl rfl)
theorem dX1_weeks_2 : decode cX1_weeks 2 = .ok (.lconst 0, 1) := dk_9 (dk_at dksX1_weeks_0 2 rfl rfl)
theorem dX1_weeks_3 : decode cX1_weeks 3 = .ok (.ldc2_w 371, 3) := dk_20 1 115 (dk_at dksX1_weeks_0 3 rfl rfl)
theorem dX1_weeks_6 : decode cX1_weeks 6 = .ok (.invokestatic 160, 3) := dk_184 0 160 (dk_at dksX1_weeks_0 6 rfl rfl)
theorem dX1_weeks_9 : decode cX1_weeks 9 = .ok (.ifCond .ne 5, 3) := dk_154 0 5 (dk_at dksX1_weeks_0 9 rfl rfl)
theorem dX1_weeks_12 : decode cX1_weeks 12 = .ok (.iconst (-1), 1) := dk_2 (dk_at dksX1_weeks_0 12 rfl rfl)
theorem dX1_weeks_13 : decode cX1_weeks 13 = .ok (.ireturn, 1) := dk_172 (dk_at dksX1_weeks_0 13 rfl rfl)
theorem dX1_weeks_14 : decode cX1_weeks 14 = .ok (.iload_n 1, 1) := dk_27 (dk_at dksX1_weeks_0 14 rfl rfl)
theorem dX1_weeks_15 : decode cX1_weeks 15 = .ok (.ifCond .le 7, 3) := dk_158 0 7 (dk_at dksX1_weeks_0 15 rfl rfl)
theorem dX1_weeks_18 : decode cX1_weeks 18 = .ok (.aload_n 0, 1) := dk_42 (dk_at dksX1_weeks_0 18 rfl rfl)
theorem dX1_weeks_19 : decode cX1_weeks 19 = .ok (.invokevirtual 357, 3) := dk_182 1 101 (dk_at dksX1_weeks_0 19 rfl rfl)
theorem dX1_weeks_22 : decode cX1_weeks 22 = .ok (.iconst 0, 1) := dk_3 (dk_at dksX1_weeks_0 22 rfl rfl)
theorem dX1_weeks_23 : decode cX1_weeks 23 = .ok (.istore_n 2, 1) := dk_61 (dk_at dksX1_weeks_0 23 rfl rfl)
theorem dX1_weeks_24 : decode cX1_weeks 24 = .ok (.iconst 0, 1) := dk_3 (dk_at dksX1_weeks_1 0 rfl rfl)
theorem dX1_weeks_25 : decode cX1_weeks 25 = .ok (.istore_n 3, 1) := dk_62 (dk_at dksX1_weeks_1 1 rfl rfl)
theorem dX1_weeks_26 : decode cX1_weeks 26 = .ok (.iconst 0, 1) := dk_3 (dk_at dksX1_weeks_1 2 rfl rfl)
theorem dX1_weeks_27 : decode cX1_weeks 27 = .ok (.istore 4, 2) := dk_54 4 (dk_at dksX1_weeks_1 3 rfl rfl)
theorem dX1_weeks_29 : decode cX1_weeks 29 = .ok (.iload 4, 2) := dk_21 4 (dk_at dksX1_weeks_1 5 rfl rfl)
theorem dX1_weeks_31 : decode cX1_weeks 31 = .ok (.iload_n 1, 1) := dk_27 (dk_at dksX1_weeks_1 7 rfl rfl)
theorem dX1_weeks_32 : decode cX1_weeks 32 = .ok (.if_icmp .ge 43, 3) := dk_162 0 43 (dk_at dksX1_weeks_1 8 rfl rfl)
theorem dX1_weeks_35 : decode cX1_weeks 35 = .ok (.aload_n 0, 1) := dk_42 (dk_at dksX1_weeks_1 11 rfl rfl)
theorem dX1_weeks_36 : decode cX1_weeks 36 = .ok (.aload_n 0, 1) := dk_42 (dk_at dksX1_weeks_1 12 rfl rfl)
theorem dX1_weeks_37 : decode cX1_weeks 37 = .ok (.getfield 18, 3) := dk_180 0 18 (dk_at dksX1_weeks_1 13 rfl rfl)
theorem dX1_weeks_40 : decode cX1_weeks 40 = .ok (.aload_n 0, 1) := dk_42 (dk_at dksX1_weeks_1 16 rfl rfl)
theorem dX1_weeks_41 : decode cX1_weeks 41 = .ok (.getfield 54, 3) := dk_180 0 54 (dk_at dksX1_weeks_1 17 rfl rfl)
theorem dX1_weeks_44 : decode cX1_weeks 44 = .ok (.invokevirtual 363, 3) := dk_182 1 107 (dk_at dksX1_weeks_1 20 rfl rfl)
theorem dX1_weeks_47 : decode cX1_weeks 47 = .ok (.iload_n 2, 1) := dk_28 (dk_at dksX1_weeks_1 23 rfl rfl)
theorem dX1_weeks_48 : decode cX1_weeks 48 = .ok (.aload_n 0, 1) := dk_42 (dk_at dksX1_weeks_2 0 rfl rfl)
theorem dX1_weeks_49 : decode cX1_weeks 49 = .ok (.getfield 332, 3) := dk_180 1 76 (dk_at dksX1_weeks_2 1 rfl rfl)
theorem dX1_weeks_52 : decode cX1_weeks 52 = .ok (.ifCond .eq 7, 3) := dk_153 0 7 (dk_at dksX1_weeks_2 4 rfl rfl)
theorem dX1_weeks_55 : decode cX1_weeks 55 = .ok (.iconst 1, 1) := dk_4 (dk_at dksX1_weeks_2 7 rfl rfl)
theorem dX1_weeks_56 : decode cX1_weeks 56 = .ok (.goto 4, 3) := dk_167 0 4 (dk_at dksX1_weeks_2 8 rfl rfl)
theorem dX1_weeks_59 : decode cX1_weeks 59 = .ok (.iconst 0, 1) := dk_3 (dk_at dksX1_weeks_2 11 rfl rfl)
theorem dX1_weeks_60 : decode cX1_weeks 60 = .ok (.iadd, 1) := dk_96 (dk_at dksX1_weeks_2 12 rfl rfl)
theorem dX1_weeks_61 : decode cX1_weeks 61 = .ok (.istore_n 2, 1) := dk_61 (dk_at dksX1_weeks_2 13 rfl rfl)
theorem dX1_weeks_62 : decode cX1_weeks 62 = .ok (.iload_n 3, 1) := dk_29 (dk_at dksX1_weeks_2 14 rfl rfl)
theorem dX1_weeks_63 : decode cX1_weeks 63 = .ok (.aload_n 0, 1) := dk_42 (dk_at dksX1_weeks_2 15 rfl rfl)
theorem dX1_weeks_64 : decode cX1_weeks 64 = .ok (.getfield 336, 3) := dk_180 1 80 (dk_at dksX1_weeks_2 16 rfl rfl)
theorem dX1_weeks_67 : decode cX1_weeks 67 = .ok (.iadd, 1) := dk_96 (dk_at dksX1_weeks_2 19 rfl rfl)
theorem dX1_weeks_68 : decode cX1_weeks 68 = .ok (.istore_n 3, 1) := dk_62 (dk_at dksX1_weeks_2 20 rfl rfl)
theorem dX1_weeks_69 : decode cX1_weeks 69 = .ok (.iinc 4 1, 3) := dk_132 4 1 (dk_at dksX1_weeks_2 21 rfl rfl)
theorem dX1_weeks_72 : decode cX1_weeks 72 = .ok (.goto (-43), 3) := dk_167 255 213 (dk_at dksX1_weeks_3 0 rfl rfl)
theorem dX1_weeks_75 : decode cX1_weeks 75 = .ok (.aload_n 0, 1) := dk_42 (dk_at dksX1_weeks_3 3 rfl rfl)
theorem dX1_weeks_76 : decode cX1_weeks 76 = .ok (.iconst 0, 1) := dk_3 (dk_at dksX1_weeks_3 4 rfl rfl)
theorem dX1_weeks_77 : decode cX1_weeks 77 = .ok (.putfield 154, 3) := dk_181 0 154 (dk_at dksX1_weeks_3 5 rfl rfl)
theorem dX1_weeks_80 : decode cX1_weeks 80 = .ok (.aload_n 0, 1) := dk_42 (dk_at dksX1_weeks_3 8 rfl rfl)
theorem dX1_weeks_81 : decode cX1_weeks 81 = .ok (.aload_n 0, 1) := dk_42 (dk_at dksX1_weeks_3 9 rfl rfl)
theorem dX1_weeks_82 : decode cX1_weeks 82 = .ok (.getfield 18, 3) := dk_180 0 18 (dk_at dksX1_weeks_3 10 rfl rfl)
theorem dX1_weeks_85 : decode cX1_weeks 85 = .ok (.getfield 315, 3) := dk_180 1 59 (dk_at dksX1_weeks_3 13 rfl rfl)
theorem dX1_weeks_88 : decode cX1_weeks 88 = .ok (.i2l, 1) := dk_133 (dk_at dksX1_weeks_3 16 rfl rfl)
theorem dX1_weeks_89 : decode cX1_weeks 89 = .ok (.invokevirtual 367, 3) := dk_182 1 111 (dk_at dksX1_weeks_3 17 rfl rfl)
theorem dX1_weeks_92 : decode cX1_weeks 92 = .ok (.aload_n 0, 1) := dk_42 (dk_at dksX1_weeks_3 20 rfl rfl)
theorem dX1_weeks_93 : decode cX1_weeks 93 = .ok (.iload_n 3, 1) := dk_29 (dk_at dksX1_weeks_3 21 rfl rfl)
theorem dX1_weeks_94 : decode cX1_weeks 94 = .ok (.i2l, 1) := dk_133 (dk_at dksX1_weeks_3 22 rfl rfl)
theorem dX1_weeks_95 : decode cX1_weeks 95 = .ok (.invokevirtual 367, 3) := dk_182 1 111 (dk_at dksX1_weeks_4 0 rfl rfl)
theorem dX1_weeks_98 : decode cX1_weeks 98 = .ok (.iload_n 2, 1) := dk_28 (dk_at dksX1_weeks_4 3 rfl rfl)
theorem dX1_weeks_99 : decode cX1_weeks 99 = .ok (.ireturn, 1) := dk_172 (dk_at dksX1_weeks_4 4 rfl rfl)
def dkwX1_year_6 : List UInt8 := [29, 28, 162, 0, 7, 10, 167, 0, 4, 9, 182, 1, 111, 29, 172]
abbrev dktX1_year_6 : List UInt8 := dkwX1_year_6 ++ []
def dkwX1_year_5 : List UInt8 := [132, 3, 1, 167, 255, 192, 42, 3, 181, 0, 154, 42, 42, 180, 0, 18, 180, 1, 59, 133, 182, 1, 111, 42]
abbrev dktX1_year_5 : List UInt8 := dkwX1_year_5 ++ dktX1_year_6
def dkwX1_year_4 : List UInt8 := [180, 0, 61, 42, 180, 0, 86, 29, 46, 181, 1, 104, 42, 42, 180, 0, 18, 42, 180, 0, 61, 182, 1, 107]
abbrev dktX1_year_4 : List UInt8 := dkwX1_year_4 ++ dktX1_year_5
def dkwX1_year_3 : List UInt8 := [180, 0, 157, 120, 4, 100, 133, 184, 0, 160, 153, 0, 42, 29, 154, 0, 7, 42, 182, 1, 101, 42]
abbrev dktX1_year_3 : List UInt8 := dkwX1_year_3 ++ dktX1_year_4
def dkwX1_year_2 : List UInt8 := [2, 45, 180, 0, 230, 100, 172, 3, 62, 29, 28, 162, 0, 65, 42, 180, 0, 86, 29, 46, 133, 9, 4, 42]
abbrev dktX1_year_2 : List UInt8 := dkwX1_year_2 ++ dktX1_year_3
def dkwX1_year_1 : List UInt8 := [184, 1, 117, 79, 132, 2, 1, 43, 16, 59, 182, 0, 207, 154, 255, 237, 43, 182, 0, 221, 167, 0, 11, 78]
abbrev dktX1_year_1 : List UInt8 := dkwX1_year_1 ++ dktX1_year_2
def dkwX1_year_0 : List UInt8 := [42, 16, 60, 182, 0, 192, 76, 3, 61, 43, 180, 0, 196, 158, 0, 25, 42, 180, 0, 86, 28, 43]
abbrev dktX1_year_0 : List UInt8 := dkwX1_year_0 ++ dktX1_year_1
theorem dksX1_year_0 : cX1_year.data.toList.drop 0 = dktX1_year_0 := by decide +kernel
theorem dksX1_year_1 : cX1_year.data.toList.drop 22 = dktX1_year_1 := dk_seg dksX1_year_0 22 rfl rfl
theorem dksX1_year_2 : cX1_year.data.toList.drop 46 = dktX1_year_2 := dk_seg dksX1_year_1 24 rfl rfl
theorem dksX1_year_3 : cX1_year.data.toList.drop 70 = dktX1_year_3 := dk_seg dksX1_year_2 24 rfl rfl
theorem dksX1_year_4 : cX1_year.data.toList.drop 92 = dktX1_year_4 := dk_seg dksX1_year_3 22 rfl rfl
theorem dksX1_year_5 : cX1_year.data.toList.drop 116 = dktX1_year_5 := dk_seg dksX1_year_4 24 rfl rfl
theorem dksX1_year_6 : cX1_year.data.toList.drop 140 = dktX1_year_6 := dk_seg dksX1_year_5 24 rfl rfl
theorem dX1_year_0 : decode cX1_year 0 = .ok (.aload_n 0, 1) := dk_42 (dk_at dksX1_year_0 0 rfl rfl)
theorem dX1_year_1 : decode cX1_year 1 = .ok (.bipush 60, 2) := dk_16 60 (dk_at dksX1_year_0 1 rfl rfl)
theorem dX1_year_3 : decode cX1_year 3 = .ok (.invokevirtual 192, 3) := dk_182 0 192 (dk_at dksX1_year_0 3 rfl rfl)
theorem dX1_year_6 : decode cX1_year 6 = .ok (.astore_n 1, 1) := dk_76 (dk_at dksX1_year_0 6 rfl rfl)
theorem dX1_year_7 : decode cX1_year 7 = .ok (.iconst 0, 1) := dk_3 (dk_at dksX1_year_0 7 rfl rfl)
theorem dX1_year_8 : decode cX1_year 8 = .ok (.istore_n 2, 1) := dk_61 (dk_at dksX1_year_0 8 rfl rfl)
theorem dX1_year_9 : decode cX1_year 9 = .ok (.aload_n 1, 1) := dk_43 (dk_at dksX1_year_0 9 rfl rfl)
theorem dX1_year_10 : decode cX1_year 10 = .ok (.getfield 196, 3) := dk_180 0 196 (dk_at dksX1_year_0 10 rfl rfl)
theorem dX1_year_13 : decode cX1_year 13 = .ok (.ifCond .le 25, 3) := dk_158 0 25 (dk_at dksX1_year_0 13 rfl rfl)
theorem dX1_year_16 : decode cX1_year 16 = .ok (.aload_n 0, 1) := dk_42 (dk_at dksX1_year_0 16 rfl rfl)
theorem dX1_year_17 : decode cX1_year 17 = .ok (.getfield 86, 3) := dk_180 0 86 (dk_at dksX1_year_0 17 rfl rfl)
theorem dX1_year_20 : decode cX1_year 20 = .ok (.iload_n 2, 1) := dk_28 (dk_at dksX1_year_0 20 rfl rfl)
theorem dX1_year_21 : decode cX1_year 21 = .ok (.aload_n 1, 1) := dk_43 (dk_at dksX1_year_0 21 rfl rfl)
theorem dX1_year_22 : decode cX1_year 22 = .ok (.invokestatic 373, 3) := dk_184 1 117 (dk_at dksX1_year_1 0 rfl rfl)
theorem dX1_year_25 : decode cX1_year 25 = .ok (.iastore, 1) := dk_79 (dk_at dksX1_year_1 3 rfl rfl)
theorem dX1_year_26 : decode cX1_year 26 = .ok (.iinc 2 1, 3) := dk_132 2 1 (dk_at dksX1_year_1 4 rfl rfl)
theorem dX1_year_29 : decode cX1_year 29 = .ok (.aload_n 1, 1) := dk_43 (dk_at dksX1_year_1 7 rfl rfl)
theorem dX1_year_30 : decode cX1_year 30 = .ok (.bipush 59, 2) := dk_16 59 (dk_at dksX1_year_1 8 rfl rfl)
theorem dX1_year_32 : decode cX1_year 32 = .ok (.invokevirtual 207, 3) := dk_182 0 207 (dk_at dksX1_year_1 10 rfl rfl)
theorem dX1_year_35 : decode cX1_year 35 = .ok (.ifCond .ne (-19), 3) := dk_154 255 237 (dk_at dksX1_year_1 13 rfl rfl)
theorem dX1_year_38 : decode cX1_year 38 = .ok (.aload_n 1, 1) := dk_43 (dk_at dksX1_year_1 16 rfl rfl)
theorem dX1_year_39 : decode cX1_year 39 = .ok (.invokevirtual 221, 3) := dk_182 0 221 (dk_at dksX1_year_1 17 rfl rfl)
theorem dX1_year_42 : decode cX1_year 42 = .ok (.goto 11, 3) := dk_167 0 11 (dk_at dksX1_year_1 20 rfl rfl)
theorem dX1_year_45 : decode cX1_year 45 = .ok (.astore_n 3, 1) := dk_78 (dk_at dksX1_year_1 23 rfl rfl)
theorem dX1_year_46 : decode cX1_year 46 = .ok (.iconst (-1), 1) := dk_2 (dk_at dksX1_year_2 0 rfl rfl)
theorem dX1_year_47 : decode cX1_year 47 = .ok (.aload_n 3, 1) := dk_45 (dk_at dksX1_year_2 1 rfl rfl)
theorem dX1_year_48 : decode cX1_year 48 = .ok (.getfield 230, 3) := dk_180 0 230 (dk_at dksX1_year_2 2 rfl rfl)
theorem dX1_year_51 : decode cX1_year 51 = .ok (.isub, 1) := dk_100 (dk_at dksX1_year_2 5 rfl rfl)
theorem dX1_year_52 : decode cX1_year 52 = .ok (.ireturn, 1) := dk_172 (dk_at dksX1_year_2 6 rfl rfl)
theorem dX1_year_53 : decode cX1_year 53 = .ok (.iconst 0, 1) := dk_3 (dk_at dksX1_year_2 7 rfl rfl)
theorem dX1_year_54 : decode cX1_year 54 = .ok (.istore_n 3, 1) := dk_62 (dk_at dksX1_year_2 8 rfl rfl)
theorem dX1_year_55 : decode cX1_year 55 = .ok (.iload_n 3, 1) := dk_29 (dk_at dksX1_year_2 9 rfl rfl)
theorem dX1_year_56 : decode cX1_year 56 = .ok (.iload_n 2, 1) := dk_28 (dk_at dksX1_year_2 10 rfl rfl)
theorem dX1_year_57 : decode cX1_year 57 = .ok (.if_icmp .ge 65, 3) := dk_162 0 65 (dk_at dksX1_year_2 11 rfl rfl)
theorem dX1_year_60 : decode cX1_year 60 = .ok (.aload_n 0, 1) := dk_42 (dk_at dksX1_year_2 14 rfl rfl)
theorem dX1_year_61 : decode cX1_year 61 = .ok (.getfield 86, 3) := dk_180 0 86 (dk_at dksX1_year_2 15 rfl rfl)
theorem dX1_year_64 : decode cX1_year 64 = .ok (.iload_n 3, 1) := dk_29 (dk_at dksX1_year_2 18 rfl rfl)
theorem dX1_year_65 : decode cX1_year 65 = .ok (.iaload, 1) := dk_46 (dk_at dksX1_year_2 19 rfl rfl)
theorem dX1_year_66 : decode cX1_year 66 = .ok (.i2l, 1) := dk_133 (dk_at dksX1_year_2 20 rfl rfl)
theorem dX1_year_67 : decode cX1_year 67 = .ok (.lconst 0, 1) := dk_9 (dk_at dksX1_year_2 21 rfl rfl)
theorem dX1_year_68 : decode cX1_year 68 = .ok (.iconst 1, 1) := dk_4 (dk_at dksX1_year_2 22 rfl rfl)
theorem dX1_year_69 : decode cX1_year 69 = .ok (.aload_n 0, 1) := dk_42 (dk_at dksX1_year_2 23 rfl rfl)
theorem dX1_year_70 : decode cX1_year 70 = .ok (.getfield 157, 3) := dk_180 0 157 (dk_at dksX1_year_3 0 rfl rfl)
theorem dX1_year_73 : decode cX1_year 73 = .ok (.ishl, 1) := dk_120 (dk_at dksX1_year_3 3 rfl rfl)
theorem dX1_year_74 : decode cX1_year 74 = .ok (.iconst 1, 1) := dk_4 (dk_at dksX1_year_3 4 rfl rfl)
theorem dX1_year_75 : decode cX1_year 75 = .ok (.isub, 1) := dk_100 (dk_at dksX1_year_3 5 rfl rfl)
theorem dX1_year_76 : decode cX1_year 76 = .ok (.i2l, 1) := dk_133 (dk_at dksX1_year_3 6 rfl rfl)
theorem dX1_year_77 : decode cX1_year 77 = .ok (.invokestatic 160, 3) := dk_184 0 160 (dk_at dksX1_year_3 7 rfl rfl)
theorem dX1_year_80 : decode cX1_year 80 = .ok (.ifCond .eq 42, 3) := dk_153 0 42 (dk_at dksX1_year_3 10 rfl rfl)
theorem dX1_year_83 : decode cX1_year 83 = .ok (.iload_n 3, 1) := dk_29 (dk_at dksX1_year_3 13 rfl rfl)
theorem dX1_year_84 : decode cX1_year 84 = .ok (.ifCond .ne 7, 3) := dk_154 0 7 (dk_at dksX1_year_3 14 rfl rfl)
theorem dX1_year_87 : decode cX1_year 87 = .ok (.aload_n 0, 1) := dk_42 (dk_at dksX1_year_3 17 rfl rfl)
theorem dX1_year_88 : decode cX1_year 88 = .ok (.invokevirtual 357, 3) := dk_182 1 101 (dk_at dksX1_year_3 18 rfl rfl)
theorem dX1_year_91 : decode cX1_year 91 = .ok (.aload_n 0, 1) := dk_42 (dk_at dksX1_year_3 21 rfl rfl)
theorem dX1_year_92 : decode cX1_year 92 = .ok (.getfield 61, 3) := dk_180 0 61 (dk_at dksX1_year_4 0 rfl rfl)
theorem dX1_year_95 : decode cX1_year 95 = .ok (.aload_n 0, 1) := dk_42 (dk_at dksX1_year_4 3 rfl rfl)
theorem dX1_year_96 : decode cX1_year 96 = .ok (.getfield 86, 3) := dk_180 0 86 (dk_at dksX1_year_4 4 rfl rfl)
theorem dX1_year_99 : decode cX1_year 99 = .ok (.iload_n 3, 1) := dk_29 (dk_at dksX1_year_4 7 rfl rfl)
theorem dX1_year_100 : decode cX1_year 100 = .ok (.iaload, 1) := dk_46 (dk_at dksX1_year_4 8 rfl rfl)
theorem dX1_year_101 : decode cX1_year 101 = .ok (.putfield 360, 3) := dk_181 1 104 (dk_at dksX1_year_4 9 rfl rfl)
theorem dX1_year_104 : decode cX1_year 104 = .ok (.aload_n 0, 1) := dk_42 (dk_at dksX1_year_4 12 rfl rfl)
theorem dX1_year_105 : decode cX1_year 105 = .ok (.aload_n 0, 1) := dk_42 (dk_at dksX1_year_4 13 rfl rfl)
theorem dX1_year_106 : decode cX1_year 106 = .ok (.getfield 18, 3) := dk_180 0 18 (dk_at dksX1_year_4 14 rfl rfl)
theorem dX1_year_109 : decode cX1_year 109 = .ok (.aload_n 0, 1) := dk_42 (dk_at dksX1_year_4 17 rfl rfl)
theorem dX1_year_110 : decode cX1_year 110 = .ok (.getfield 61, 3) := dk_180 0 61 (dk_at dksX1_year_4 18 rfl rfl)
theorem dX1_year_113 : decode cX1_year 113 = .ok (.invokevirtual 363, 3) := dk_182 1 107 (dk_at dksX1_year_4 21 rfl rfl)
theorem dX1_year_116 : decode cX1_year 116 = .ok (.iinc 3 1, 3) := dk_132 3 1 (dk_at dksX1_year_5 0 rfl rfl)
theorem dX1_year_119 : decode cX1_year 119 = .ok (.goto (-64), 3) := dk_167 255 192 (dk_at dksX1_year_5 3 rfl rfl)
theorem dX1_year_122 : decode cX1_year 122 = .ok (.aload_n 0, 1) := dk_42 (dk_at dksX1_year_5 6 rfl rfl)
theorem dX1_year_123 : decode cX1_year 123 = .ok (.iconst 0, 1) := dk_3 (dk_at dksX1_year_5 7 rfl rfl)
theorem dX1_year_124 : decode cX1_year 124 = .ok (.putfield 154, 3) := dk_181 0 154 (dk_at dksX1_year_5 8 rfl rfl)
theorem dX1_year_127 : decode cX1_year 127 = .ok (.aload_n 0, 1) := dk_42 (dk_at dksX1_year_5 11 rfl rfl)
theorem dX1_year_128 : decode cX1_year 128 = .ok (.aload_n 0, 1) := dk_42 (dk_at dksX1_year_5 12 rfl rfl)
theorem dX1_year_129 : decode cX1_year 129 = .ok (.getfield 18, 3) := dk_180 0 18 (dk_at dksX1_year_5 13 rfl rfl)
theorem dX1_year_132 : decode cX1_year 132 = .ok (.getfield 315, 3) := dk_180 1 59 (dk_at dksX1_year_5 16 rfl rfl)
theorem dX1_year_135 : decode cX1_year 135 = .ok (.i2l, 1) := dk_133 (dk_at dksX1_year_5 19 rfl rfl)
theorem dX1_year_136 : decode cX1_year 136 = .ok (.invokevirtual 367, 3) := dk_182 1 111 (dk_at dksX1_year_5 20 rfl rfl)
theorem dX1_year_139 : decode cX1_year 139 = .ok (.aload_n 0, 1) := dk_42 (dk_at dksX1_year_5 23 rfl rfl)
theorem dX1_year_140 : decode cX1_year 140 = .ok (.iload_n 3, 1) := dk_29 (dk_at dksX1_year_6 0 rfl rfl)
theorem dX1_year_141 : decode cX1_year 141 = .ok (.iload_n 2, 1) := dk_28 (dk_at dksX1_year_6 1 rfl rfl)
theorem dX1_year_142 : decode cX1_year 142 = .ok (.if_icmp .ge 7, 3) := dk_162 0 7 (dk_at dksX1_year_6 2 rfl rfl)
theorem dX1_year_145 : decode cX1_year 145 = .ok (.lconst 1, 1) := dk_10 (dk_at dksX1_year_6 5 rfl rfl)
theorem dX1_year_146 : decode cX1_year 146 = .ok (.goto 4, 3) := dk_167 0 4 (dk_at dksX1_year_6 6 rfl rfl)
theorem dX1_year_149 : decode cX1_year 149 = .ok (.lconst 0, 1) := dk_9 (dk_at dksX1_year_6 9 rfl rfl)
theorem dX1_year_150 : decode cX1_year 150 = .ok (.invokevirtual 367, 3) := dk_182 1 111 (dk_at dksX1_year_6 10 rfl rfl)
theorem dX1_year_153 : decode cX1_year 153 = .ok (.iload_n 3, 1) := dk_29 (dk_at dksX1_year_6 13 rfl rfl)
theorem dX1_year_154 : decode cX1_year 154 = .ok (.ireturn, 1) := dk_172 (dk_at dksX1_year_6 14 rfl rfl)
def dkwX1_letters_2 : List UInt8 := [60, 42, 89, 180, 1, 129, 4, 96, 181, 1, 129, 167, 255, 200, 27, 172]
abbrev dktX1_letters_2 : List UInt8 := dkwX1_letters_2 ++ []
def dkwX1_letters_1 : List UInt8 := [16, 97, 100, 61, 42, 27, 28, 122, 154, 0, 7, 4, 167, 0, 4, 3, 182, 0, 199, 27, 4, 28, 120, 128]
abbrev dktX1_letters_1 : List UInt8 := dkwX1_letters_1 ++ dktX1_letters_2
def dkwX1_letters_0 : List UInt8 := [3, 60, 42, 182, 1, 121, 133, 20, 1, 125, 20, 1, 127, 184, 0, 160, 153, 0, 45, 42, 182, 1, 121]
abbrev dktX1_letters_0 : List UInt8 := dkwX1_letters_0 ++ dktX1_letters_1
theorem dksX1_letters_0 : cX1_letters.data.toList.drop 0 = dktX1_letters_0 := by decide +kernel
theorem dksX1_letters_1 : cX1_letters.data.toList.drop 23 = dktX1_letters_1 := dk_seg dksX1_letters_0 23 rfl rfl
theorem dksX1_letters_2 : cX1_letters.data.toList.drop 47 = dktX1_letters_2 := dk_seg dksX1_letters_1 24 rfl rfl
theorem dX1_letters_0 : decode cX1_letters 0 = .ok (.iconst 0, 1) := dk_3 (dk_at dksX1_letters_0 0 rfl rfl)
theorem dX1_letters_1 : decode cX1_letters 1 = .ok (.istore_n 1, 1) := dk_60 (dk_at dksX1_letters_0 1 rfl rfl)
theorem dX1_letters_2 : decode cX1_letters 2 = .ok (.aload_n 0, 1) := dk_42 (dk_at dksX1_letters_0 2 rfl rfl)
theorem dX1_letters_3 : decode cX1_letters 3 = .ok (.invokevirtual 377, 3) := dk_182 1 121 (dk_at dksX1_letters_0 3 rfl rfl)
theorem dX1_letters_6 : decode cX1_letters 6 = .ok (.i2l, 1) := dk_133 (dk_at dksX1_letters_0 6 rfl rfl)
theorem dX1_letters_7 : decode cX1_letters 7 = .ok (.ldc2_w 381, 3) := dk_20 1 125 (dk_at dksX1_letters_0 7 rfl rfl)
theorem dX1_letters_10 : decode cX1_letters 10 = .ok (.ldc2_w 383, 3) := dk_20 1 127 (dk_at dksX1_letters_0 10 rfl rfl)
theorem dX1_letters_13 : decode cX1_letters 13 = .ok (.invokestatic 160, 3) := dk_184 0 160 (dk_at dksX1_letters_0 13 rfl rfl)
theorem dX1_letters_16 : decode cX1_letters 16 = .ok (.ifCond .eq 45, 3) := dk_153 0 45 (dk_at dksX1_letters_0 16 rfl rfl)
theorem dX1_letters_19 : decode cX1_letters 19 = .ok (.aload_n 0, 1) := dk_42 (dk_at dksX1_letters_0 19 rfl rfl)
theorem dX1_letters_20 : decode cX1_letters 20 = .ok (.invokevirtual 377, 3) := dk_182 1 121 (dk_at dksX1_letters_0 20 rfl rfl)
theorem dX1_letters_23 : decode cX1_letters 23 = .ok (.bipush 97, 2) := dk_16 97 (dk_at dksX1_letters_1 0 rfl rfl)
theorem dX1_letters_25 : decode cX1_letters 25 = .ok (.isub, 1) := dk_100 (dk_at dksX1_letters_1 2 rfl rfl)
theorem dX1_letters_26 : decode cX1_letters 26 = .ok (.istore_n 2, 1) := dk_61 (dk_at dksX1_letters_1 3 rfl rfl)
theorem dX1_letters_27 : decode cX1_letters 27 = .ok (.aload_n 0, 1) := dk_42 (dk_at dksX1_letters_1 4 rfl rfl)
theorem dX1_letters_28 : decode cX1_letters 28 = .ok (.iload_n 1, 1) := dk_27 (dk_at dksX1_letters_1 5 rfl rfl)
theorem dX1_letters_29 : decode cX1_letters 29 = .ok (.iload_n 2, 1) := dk_28 (dk_at dksX1_letters_1 6 rfl rfl)
theorem dX1_letters_30 : decode cX1_letters 30 = .ok (.ishr, 1) := dk_122 (dk_at dksX1_letters_1 7 rfl rfl)
theorem dX1_letters_31 : decode cX1_letters 31 = .ok (.ifCond .ne 7, 3) := dk_154 0 7 (dk_at dksX1_letters_1 8 rfl rfl)
theorem dX1_letters_34 : decode cX1_letters 34 = .ok (.iconst 1, 1) := dk_4 (dk_at dksX1_letters_1 11 rfl rfl)
theorem dX1_letters_35 : decode cX1_letters 35 = .ok (.goto 4, 3) := dk_167 0 4 (dk_at dksX1_letters_1 12 rfl rfl)
theorem dX1_letters_38 : decode cX1_letters 38 = .ok (.iconst 0, 1) := dk_3 (dk_at dksX1_letters_1 15 rfl rfl)
theorem dX1_letters_39 : decode cX1_letters 39 = .ok (.invokevirtual 199, 3) := dk_182 0 199 (dk_at dksX1_letters_1 16 rfl rfl)
theorem dX1_letters_42 : decode cX1_letters 42 = .ok (.iload_n 1, 1) := dk_27 (dk_at dksX1_letters_1 19 rfl rfl)
theorem dX1_letters_43 : decode cX1_letters 43 = .ok (.iconst 1, 1) := dk_4 (dk_at dksX1_letters_1 20 rfl rfl)
theorem dX1_letters_44 : decode cX1_letters 44 = .ok (.iload_n 2, 1) := dk_28 (dk_at dksX1_letters_1 21 rfl rfl)
theorem dX1_letters_45 : decode cX1_letters 45 = .ok (.ishl, 1) := dk_120 (dk_at dksX1_letters_1 22 rfl rfl)
theorem dX1_letters_46 : decode cX1_letters 46 = .ok (.ior, 1) := dk_128 (dk_at dksX1_letters_1 23 rfl rfl)
theorem dX1_letters_47 : decode cX1_letters 47 = .ok (.istore_n 1, 1) := dk_60 (dk_at dksX1_letters_2 0 rfl rfl)
theorem dX1_letters_48 : decode cX1_letters 48 = .ok (.aload_n 0, 1) := dk_42 (dk_at dksX1_letters_2 1 rfl rfl)
theorem dX1_letters_49 : decode cX1_letters 49 = .ok (.dup, 1) := dk_89 (dk_at dksX1_letters_2 2 rfl rfl)
theorem dX1_letters_50 : decode cX1_letters 50 = .ok (.getfield 385, 3) := dk_180 1 129 (dk_at dksX1_letters_2 3 rfl rfl)
theorem dX1_letters_53 : decode cX1_letters 53 = .ok (.iconst 1, 1) := dk_4 (dk_at dksX1_letters_2 6 rfl rfl)
theorem dX1_letters_54 : decode cX1_letters 54 = .ok (.iadd, 1) := dk_96 (dk_at dksX1_letters_2 7 rfl rfl)
theorem dX1_letters_55 : decode cX1_letters 55 = .ok (.putfield 385, 3) := dk_181 1 129 (dk_at dksX1_letters_2 8 rfl rfl)
theorem dX1_letters_58 : decode cX1_letters 58 = .ok (.goto (-56), 3) := dk_167 255 200 (dk_at dksX1_letters_2 11 rfl rfl)
theorem dX1_letters_61 : decode cX1_letters 61 = .ok (.iload_n 1, 1) := dk_27 (dk_at dksX1_letters_2 14 rfl rfl)
theorem dX1_letters_62 : decode cX1_letters 62 = .ok (.ireturn, 1) := dk_172 (dk_at dksX1_letters_2 15 rfl rfl)
def dkwX1_law_4 : List UInt8 := [180, 0, 18, 89, 180, 1, 132, 4, 96, 181, 1, 132, 42, 180, 0, 18, 180, 1, 132, 4, 100, 172]
abbrev dktX1_law_4 : List UInt8 := dkwX1_law_4 ++ []
def dkwX1_law_3 : List UInt8 := [180, 0, 18, 180, 1, 92, 79, 42, 180, 0, 18, 180, 1, 141, 42, 180, 0, 18, 180, 1, 132, 2, 79, 42]
abbrev dktX1_law_3 : List UInt8 := dkwX1_law_3 ++ dktX1_law_4
def dkwX1_law_2 : List UInt8 := [42, 180, 0, 18, 180, 1, 59, 79, 42, 180, 0, 18, 180, 1, 138, 42, 180, 0, 18, 180, 1, 132, 42]
abbrev dktX1_law_2 : List UInt8 := dkwX1_law_2 ++ dktX1_law_3
def dkwX1_law_1 : List UInt8 := [160, 0, 6, 16, 253, 172, 42, 182, 1, 101, 42, 180, 0, 18, 180, 1, 135, 42, 180, 0, 18, 180, 1, 132]
abbrev dktX1_law_1 : List UInt8 := dkwX1_law_1 ++ dktX1_law_2
def dkwX1_law_0 : List UInt8 := [42, 180, 0, 18, 180, 1, 59, 2, 160, 0, 6, 16, 254, 172, 42, 180, 0, 18, 180, 1, 132, 16, 12]
abbrev dktX1_law_0 : List UInt8 := dkwX1_law_0 ++ dktX1_law_1
theorem dksX1_law_0 : cX1_law.data.toList.drop 0 = dktX1_law_0 := by decide +kernel
theorem dksX1_law_1 : cX1_law.data.toList.drop 23 = dktX1_law_1 := dk_seg dksX1_law_0 23 rfl rfl
theorem dksX1_law_2 : cX1_law.data.toList.drop 47 = dktX1_law_2 := dk_seg dksX1_law_1 24 rfl rfl
theorem dksX1_law_3 : cX1_law.data.toList.drop 70 = dktX1_law_3 := dk_seg dksX1_law_2 23 rfl rfl
theorem dksX1_law_4 : cX1_law.data.toList.drop 94 = dktX1_law_4 := dk_seg dksX1_law_3 24 rfl rfl
theorem dX1_law_0 : decode cX1_law 0 = .ok (.aload_n 0, 1) := dk_42 (dk_at dksX1_law_0 0 rfl rfl)
theorem dX1_law_1 : decode cX1_law 1 = .ok (.getfield 18, 3) := dk_180 0 18 (dk_at dksX1_law_0 1 rfl rfl)
theorem dX1_law_4 : decode cX1_law 4 = .ok (.getfield 315, 3) := dk_180 1 59 (dk_at dksX1_law_0 4 rfl rfl)
theorem dX1_law_7 : decode cX1_law 7 = .ok (.iconst (-1), 1) := dk_2 (dk_at dksX1_law_0 7 rfl rfl)
theorem dX1_law_8 : decode cX1_law 8 = .ok (.if_icmp .ne 6, 3) := dk_160 0 6 (dk_at dksX1_law_0 8 rfl rfl)
theorem dX1_law_11 : decode cX1_law 11 = .ok (.bipush (-2), 2) := dk_16 254 (dk_at dksX1_law_0 11 rfl rfl)
theorem dX1_law_13 : decode cX1_law 13 = .ok (.ireturn, 1) := dk_172 (dk_at dksX1_law_0 13 rfl rfl)
theorem dX1_law_14 : decode cX1_law 14 = .ok (.aload_n 0, 1) := dk_42 (dk_at dksX1_law_0 14 rfl rfl)
theorem dX1_law_15 : decode cX1_law 15 = .ok (.getfield 18, 3) := dk_180 0 18 (dk_at dksX1_law_0 15 rfl rfl)
theorem dX1_law_18 : decode cX1_law 18 = .ok (.getfield 388, 3) := dk_180 1 132 (dk_at dksX1_law_0 18 rfl rfl)
theorem dX1_law_21 : decode cX1_law 21 = .ok (.bipush 12, 2) := dk_16 12 (dk_at dksX1_law_0 21 rfl rfl)
theorem dX1_law_23 : decode cX1_law 23 = .ok (.if_icmp .ne 6, 3) := dk_160 0 6 (dk_at dksX1_law_1 0 rfl rfl)
theorem dX1_law_26 : decode cX1_law 26 = .ok (.bipush (-3), 2) := dk_16 253 (dk_at dksX1_law_1 3 rfl rfl)
theorem dX1_law_28 : decode cX1_law 28 = .ok (.ireturn, 1) := dk_172 (dk_at dksX1_law_1 5 rfl rfl)
theorem dX1_law_29 : decode cX1_law 29 = .ok (.aload_n 0, 1) := dk_42 (dk_at dksX1_law_1 6 rfl rfl)
theorem dX1_law_30 : decode cX1_law 30 = .ok (.invokevirtual 357, 3) := dk_182 1 101 (dk_at dksX1_law_1 7 rfl rfl)
theorem dX1_law_33 : decode cX1_law 33 = .ok (.aload_n 0, 1) := dk_42 (dk_at dksX1_law_1 10 rfl rfl)
theorem dX1_law_34 : decode cX1_law 34 = .ok (.getfield 18, 3) := dk_180 0 18 (dk_at dksX1_law_1 11 rfl rfl)
theorem dX1_law_37 : decode cX1_law 37 = .ok (.getfield 391, 3) := dk_180 1 135 (dk_at dksX1_law_1 14 rfl rfl)
theorem dX1_law_40 : decode cX1_law 40 = .ok (.aload_n 0, 1) := dk_42 (dk_at dksX1_law_1 17 rfl rfl)
theorem dX1_law_41 : decode cX1_law 41 = .ok (.getfield 18, 3) := dk_180 0 18 (dk_at dksX1_law_1 18 rfl rfl)
theorem dX1_law_44 : decode cX1_law 44 = .ok (.getfield 388, 3) := dk_180 1 132 (dk_at dksX1_law_1 21 rfl rfl)
theorem dX1_law_47 : decode cX1_law 47 = .ok (.aload_n 0, 1) := dk_42 (dk_at dksX1_law_2 0 rfl rfl)
theorem dX1_law_48 : decode cX1_law 48 = .ok (.getfield 18, 3) := dk_180 0 18 (dk_at dksX1_law_2 1 rfl rfl)
theorem dX1_law_51 : decode cX1_law 51 = .ok (.getfield 315, 3) := dk_180 1 59 (dk_at dksX1_law_2 4 rfl rfl)
theorem dX1_law_54 : decode cX1_law 54 = .ok (.iastore, 1) := dk_79 (dk_at dksX1_law_2 7 rfl rfl)
theorem dX1_law_55 : decode cX1_law 55 = .ok (.aload_n 0, 1) := dk_42 (dk_at dksX1_law_2 8 rfl rfl)
theorem dX1_law_56 : decode cX1_law 56 = .ok (.getfield 18, 3) := dk_180 0 18 (dk_at dksX1_law_2 9 rfl rfl)
theorem dX1_law_59 : decode cX1_law 59 = .ok (.getfield 394, 3) := dk_180 1 138 (dk_at dksX1_law_2 12 rfl rfl)
theorem dX1_law_62 : decode cX1_law 62 = .ok (.aload_n 0, 1) := dk_42 (dk_at dksX1_law_2 15 rfl rfl)
theorem dX1_law_63 : decode cX1_law 63 = .ok (.getfield 18, 3) := dk_180 0 18 (dk_at dksX1_law_2 16 rfl rfl)
theorem dX1_law_66 : decode cX1_law 66 = .ok (.getfield 388, 3) := dk_180 1 132 (dk_at dksX1_law_2 19 rfl rfl)
theorem dX1_law_69 : decode cX1_law 69 = .ok (.aload_n 0, 1) := dk_42 (dk_at dksX1_law_2 22 rfl rfl)
theorem dX1_law_70 : decode cX1_law 70 = .ok (.getfield 18, 3) := dk_180 0 18 (dk_at dksX1_law_3 0 rfl rfl)
theorem dX1_law_73 : decode cX1_law 73 = .ok (.getfield 348, 3) := dk_180 1 92 (dk_at dksX1_law_3 3 rfl rfl)
theorem dX1_law_76 : decode cX1_law 76 = .ok (.iastore, 1) := dk_79 (dk_at dksX1_law_3 6 rfl rfl)
theorem dX1_law_77 : decode cX1_law 77 = .ok (.aload_n 0, 1) := dk_42 (dk_at dksX1_law_3 7 rfl rfl)
theorem dX1_law_78 : decode cX1_law 78 = .ok (.getfield 18, 3) := dk_180 0 18 (dk_at dksX1_law_3 8 rfl rfl)
theorem dX1_law_81 : decode cX1_law 81 = .ok (.getfield 397, 3) := dk_180 1 141 (dk_at dksX1_law_3 11 rfl rfl)
theorem dX1_law_84 : decode cX1_law 84 = .ok (.aload_n 0, 1) := dk_42 (dk_at dksX1_law_3 14 rfl rfl)
theorem dX1_law_85 : decode cX1_law 85 = .ok (.getfield 18, 3) := dk_180 0 18 (dk_at dksX1_law_3 15 rfl rfl)
theorem dX1_law_88 : decode cX1_law 88 = .ok (.getfield 388, 3) := dk_180 1 132 (dk_at dksX1_law_3 18 rfl rfl)
theorem dX1_law_91 : decode cX1_law 91 = .ok (.iconst (-1), 1) := dk_2 (dk_at dksX1_law_3 21 rfl rfl)
theorem dX1_law_92 : decode cX1_law 92 = .ok (.iastore, 1) := dk_79 (dk_at dksX1_law_3 22 rfl rfl)
theorem dX1_law_93 : decode cX1_law 93 = .ok (.aload_n 0, 1) := dk_42 (dk_at dksX1_law_3 23 rfl rfl)
theorem dX1_law_94 : decode cX1_law 94 = .ok (.getfield 18, 3) := dk_180 0 18 (dk_at dksX1_law_4 0 rfl rfl)
theorem dX1_law_97 : decode cX1_law 97 = .ok (.dup, 1) := dk_89 (dk_at dksX1_law_4 3 rfl rfl)
theorem dX1_law_98 : decode cX1_law 98 = .ok (.getfield 388, 3) := dk_180 1 132 (dk_at dksX1_law_4 4 rfl rfl)
theorem dX1_law_101 : decode cX1_law 101 = .ok (.iconst 1, 1) := dk_4 (dk_at dksX1_law_4 7 rfl rfl)
theorem dX1_law_102 : decode cX1_law 102 = .ok (.iadd, 1) := dk_96 (dk_at dksX1_law_4 8 rfl rfl)
theorem dX1_law_103 : decode cX1_law 103 = .ok (.putfield 388, 3) := dk_181 1 132 (dk_at dksX1_law_4 9 rfl rfl)
theorem dX1_law_106 : decode cX1_law 106 = .ok (.aload_n 0, 1) := dk_42 (dk_at dksX1_law_4 12 rfl rfl)
theorem dX1_law_107 : decode cX1_law 107 = .ok (.getfield 18, 3) := dk_180 0 18 (dk_at dksX1_law_4 13 rfl rfl)
theorem dX1_law_110 : decode cX1_law 110 = .ok (.getfield 388, 3) := dk_180 1 132 (dk_at dksX1_law_4 16 rfl rfl)
theorem dX1_law_113 : decode cX1_law 113 = .ok (.iconst 1, 1) := dk_4 (dk_at dksX1_law_4 19 rfl rfl)
theorem dX1_law_114 : decode cX1_law 114 = .ok (.isub, 1) := dk_100 (dk_at dksX1_law_4 20 rfl rfl)
theorem dX1_law_115 : decode cX1_law 115 = .ok (.ireturn, 1) := dk_172 (dk_at dksX1_law_4 21 rfl rfl)
def dkwX1_feed_2 : List UInt8 := [96, 184, 1, 56, 79, 42, 180, 0, 18, 180, 0, 236, 27, 46, 172]
abbrev dktX1_feed_2 : List UInt8 := dkwX1_feed_2 ++ []
def dkwX1_feed_1 : List UInt8 := [182, 1, 101, 42, 180, 0, 18, 180, 0, 236, 27, 17, 3, 231, 42, 180, 0, 18, 180, 0, 236, 27, 46, 28]
abbrev dktX1_feed_1 : List UInt8 := dkwX1_feed_1 ++ dktX1_feed_2
def dkwX1_feed_0 : List UInt8 := [42, 27, 182, 1, 146, 153, 0, 15, 28, 133, 10, 20, 1, 115, 184, 0, 160, 154, 0, 5, 2, 172, 42]
abbrev dktX1_feed_0 : List UInt8 := dkwX1_feed_0 ++ dktX1_feed_1
theorem dksX1_feed_0 : cX1_feed.data.toList.drop 0 = dktX1_feed_0 := by decide +kernel
theorem dksX1_feed_1 : cX1_feed.data.toList.drop 23 = dktX1_feed_1 := dk_seg dksX1_feed_0 23 rfl rfl
theorem dksX1_feed_2 : cX1_feed.data.toList.drop 47 = dktX1_feed_2 := dk_seg dksX1_feed_1 24 rfl rfl
theorem dX1_feed_0 : decode cX1_feed 0 = .ok (.aload_n 0, 1) := dk_42 (dk_at dksX1_feed_0 0 rfl rfl)
theorem dX1_feed_1 : decode cX1_feed 1 = .ok (.iload_n 1, 1) := dk_27 (dk_at dksX1_feed_0 1 rfl rfl)
theorem dX1_feed_2 : decode cX1_feed 2 = .ok (.invokevirtual 402, 3) := dk_182 1 146 (dk_at dksX1_feed_0 2 rfl rfl)
theorem dX1_feed_5 : decode cX1_feed 5 = .ok (.ifCond .eq 15, 3) := dk_153 0 15 (dk_at dksX1_feed_0 5 rfl rfl)
theorem dX1_feed_8 : decode cX1_feed 8 = .ok (.iload_n 2, 1) := dk_28 (dk_at dksX1_feed_0 8 rfl rfl)
theorem dX1_feed_9 : decode cX1_feed 9 = .ok (.i2l, 1) := dk_133 (dk_at dksX1_feed_0 9 rfl rfl)
theorem dX1_feed_10 : decode cX1_feed 10 = .ok (.lconst 1, 1) := dk_10 (dk_at dksX1_feed_0 10 rfl rfl)
theorem dX1_feed_11 : decode cX1_feed 11 = .ok (.ldc2_w 371, 3) := dk_20 1 115 (dk_at dksX1_feed_0 11 rfl rfl)
theorem dX1_feed_14 : decode cX1_feed 14 = .ok (.invokestatic 160, 3) := dk_184 0 160 (dk_at dksX1_feed_0 14 rfl rfl)
theorem dX1_feed_17 : decode cX1_feed 17 = .ok (.ifCond .ne 5, 3) := dk_154 0 5 (dk_at dksX1_feed_0 17 rfl rfl)
theorem dX1_feed_20 : decode cX1_feed 20 = .ok (.iconst (-1), 1) := dk_2 (dk_at dksX1_feed_0 20 rfl rfl)
theorem dX1_feed_21 : decode cX1_feed 21 = .ok (.ireturn, 1) := dk_172 (dk_at dksX1_feed_0 21 rfl rfl)
theorem dX1_feed_22 : decode cX1_feed 22 = .ok (.aload_n 0, 1) := dk_42 (dk_at dksX1_feed_0 22 rfl rfl)
theorem dX1_feed_23 : decode cX1_feed 23 = .ok (.invokevirtual 357, 3) := dk_182 1 101 (dk_at dksX1_feed_1 0 rfl rfl)
theorem dX1_feed_26 : decode cX1_feed 26 = .ok (.aload_n 0, 1) := dk_42 (dk_at dksX1_feed_1 3 rfl rfl)
theorem dX1_feed_27 : decode cX1_feed 27 = .ok (.getfield 18, 3) := dk_180 0 18 (dk_at dksX1_feed_1 4 rfl rfl)
theorem dX1_feed_30 : decode cX1_feed 30 = .ok (.getfield 236, 3) := dk_180 0 236 (dk_at dksX1_feed_1 7 rfl rfl)
theorem dX1_feed_33 : decode cX1_feed 33 = .ok (.iload_n 1, 1) := dk_27 (dk_at dksX1_feed_1 10 rfl rfl)
theorem dX1_feed_34 : decode cX1_feed 34 = .ok (.sipush 999, 3) := dk_17 3 231 (dk_at dksX1_feed_1 11 rfl rfl)
theorem dX1_feed_37 : decode cX1_feed 37 = .ok (.aload_n 0, 1) := dk_42 (dk_at dksX1_feed_1 14 rfl rfl)
theorem dX1_feed_38 : decode cX1_feed 38 = .ok (.getfield 18, 3) := dk_180 0 18 (dk_at dksX1_feed_1 15 rfl rfl)
theorem dX1_feed_41 : decode cX1_feed 41 = .ok (.getfield 236, 3) := dk_180 0 236 (dk_at dksX1_feed_1 18 rfl rfl)
theorem dX1_feed_44 : decode cX1_feed 44 = .ok (.iload_n 1, 1) := dk_27 (dk_at dksX1_feed_1 21 rfl rfl)
theorem dX1_feed_45 : decode cX1_feed 45 = .ok (.iaload, 1) := dk_46 (dk_at dksX1_feed_1 22 rfl rfl)
theorem dX1_feed_46 : decode cX1_feed 46 = .ok (.iload_n 2, 1) := dk_28 (dk_at dksX1_feed_1 23 rfl rfl)
theorem dX1_feed_47 : decode cX1_feed 47 = .ok (.iadd, 1) := dk_96 (dk_at dksX1_feed_2 0 rfl rfl)
theorem dX1_feed_48 : decode cX1_feed 48 = .ok (.invokestatic 312, 3) := dk_184 1 56 (dk_at dksX1_feed_2 1 rfl rfl)
theorem dX1_feed_51 : decode cX1_feed 51 = .ok (.iastore, 1) := dk_79 (dk_at dksX1_feed_2 4 rfl rfl)
theorem dX1_feed_52 : decode cX1_feed 52 = .ok (.aload_n 0, 1) := dk_42 (dk_at dksX1_feed_2 5 rfl rfl)
theorem dX1_feed_53 : decode cX1_feed 53 = .ok (.getfield 18, 3) := dk_180 0 18 (dk_at dksX1_feed_2 6 rfl rfl)
theorem dX1_feed_56 : decode cX1_feed 56 = .ok (.getfield 236, 3) := dk_180 0 236 (dk_at dksX1_feed_2 9 rfl rfl)
theorem dX1_feed_59 : decode cX1_feed 59 = .ok (.iload_n 1, 1) := dk_27 (dk_at dksX1_feed_2 12 rfl rfl)
theorem dX1_feed_60 : decode cX1_feed 60 = .ok (.iaload, 1) := dk_46 (dk_at dksX1_feed_2 13 rfl rfl)
theorem dX1_feed_61 : decode cX1_feed 61 = .ok (.ireturn, 1) := dk_172 (dk_at dksX1_feed_2 14 rfl rfl)
def dkwX1_isAlive_1 : List UInt8 := [167, 0, 4, 3, 172]
abbrev dktX1_isAlive_1 : List UInt8 := dkwX1_isAlive_1 ++ []
def dkwX1_isAlive_0 : List UInt8 := [42, 27, 182, 0, 164, 153, 0, 21, 42, 180, 0, 18, 180, 0, 168, 27, 184, 0, 171, 153, 0, 7, 4]
abbrev dktX1_isAlive_0 : List UInt8 := dkwX1_isAlive_0 ++ dktX1_isAlive_1
theorem dksX1_isAlive_0 : cX1_isAlive.data.toList.drop 0 = dktX1_isAlive_0 := by decide +kernel
theorem dksX1_isAlive_1 : cX1_isAlive.data.toList.drop 23 = dktX1_isAlive_1 := dk_seg dksX1_isAlive_0 23 rfl rfl
theorem dX1_isAlive_0 : decode cX1_isAlive 0 = .ok (.aload_n 0, 1) := dk_42 (dk_at dksX1_isAlive_0 0 rfl rfl)
theorem dX1_isAlive_1 : decode cX1_isAlive 1 = .ok (.iload_n 1, 1) := dk_27 (dk_at dksX1_isAlive_0 1 rfl rfl)
theorem dX1_isAlive_2 : decode cX1_isAlive 2 = .ok (.invokevirtual 164, 3) := dk_182 0 164 (dk_at dksX1_isAlive_0 2 rfl rfl)
theorem dX1_isAlive_5 : decode cX1_isAlive 5 = .ok (.ifCond .eq 21, 3) := dk_153 0 21 (dk_at dksX1_isAlive_0 5 rfl rfl)
theorem dX1_isAlive_8 : decode cX1_isAlive 8 = .ok (.aload_n 0, 1) := dk_42 (dk_at dksX1_isAlive_0 8 rfl rfl)
theorem dX1_isAlive_9 : decode cX1_isAlive 9 = .ok (.getfield 18, 3) := dk_180 0 18 (dk_at dksX1_isAlive_0 9 rfl rfl)
theorem dX1_isAlive_12 : decode cX1_isAlive 12 = .ok (.getfield 168, 3) := dk_180 0 168 (dk_at dksX1_isAlive_0 12 rfl rfl)
theorem dX1_isAlive_15 : decode cX1_isAlive 15 = .ok (.iload_n 1, 1) := dk_27 (dk_at dksX1_isAlive_0 15 rfl rfl)
theorem dX1_isAlive_16 : decode cX1_isAlive 16 = .ok (.invokestatic 171, 3) := dk_184 0 171 (dk_at dksX1_isAlive_0 16 rfl rfl)
theorem dX1_isAlive_19 : decode cX1_isAlive 19 = .ok (.ifCond .eq 7, 3) := dk_153 0 7 (dk_at dksX1_isAlive_0 19 rfl rfl)
theorem dX1_isAlive_22 : decode cX1_isAlive 22 = .ok (.iconst 1, 1) := dk_4 (dk_at dksX1_isAlive_0 22 rfl rfl)
theorem dX1_isAlive_23 : decode cX1_isAlive 23 = .ok (.goto 4, 3) := dk_167 0 4 (dk_at dksX1_isAlive_1 0 rfl rfl)
theorem dX1_isAlive_26 : decode cX1_isAlive 26 = .ok (.iconst 0, 1) := dk_3 (dk_at dksX1_isAlive_1 3 rfl rfl)
theorem dX1_isAlive_27 : decode cX1_isAlive 27 = .ok (.ireturn, 1) := dk_172 (dk_at dksX1_isAlive_1 4 rfl rfl)
def dkwX1_fast_2 : List UInt8 := [184, 0, 178, 79, 42, 180, 0, 18, 180, 0, 236, 27, 46, 172]
abbrev dktX1_fast_2 : List UInt8 := dkwX1_fast_2 ++ []
def dkwX1_fast_1 : List UInt8 := [182, 1, 101, 42, 180, 0, 18, 180, 0, 236, 27, 4, 42, 180, 0, 18, 180, 0, 236, 27, 46, 28, 100]
abbrev dktX1_fast_1 : List UInt8 := dkwX1_fast_1 ++ dktX1_fast_2
def dkwX1_fast_0 : List UInt8 := [42, 27, 182, 1, 146, 153, 0, 15, 28, 133, 10, 20, 1, 115, 184, 0, 160, 154, 0, 5, 2, 172, 42]
abbrev dktX1_fast_0 : List UInt8 := dkwX1_fast_0 ++ dktX1_fast_1
theorem dksX1_fast_0 : cX1_fast.data.toList.drop 0 = dktX1_fast_0 := by decide +kernel
theorem dksX1_fast_1 : cX1_fast.data.toList.drop 23 = dktX1_fast_1 := dk_seg dksX1_fast_0 23 rfl rfl
theorem dksX1_fast_2 : cX1_fast.data.toList.drop 46 = dktX1_fast_2 := dk_seg dksX1_fast_1 23 rfl rfl
theorem dX1_fast_0 : decode cX1_fast 0 = .ok (.aload_n 0, 1) := dk_42 (dk_at dksX1_fast_0 0 rfl rfl)
theorem dX1_fast_1 : decode cX1_fast 1 = .ok (.iload_n 1, 1) := dk_27 (dk_at dksX1_fast_0 1 rfl rfl)
theorem dX1_fast_2 : decode cX1_fast 2 = .ok (.invokevirtual 402, 3) := dk_182 1 146 (dk_at dksX1_fast_0 2 rfl rfl)
theorem dX1_fast_5 : decode cX1_fast 5 = .ok (.ifCond .eq 15, 3) := dk_153 0 15 (dk_at dksX1_fast_0 5 rfl rfl)
theorem dX1_fast_8 : decode cX1_fast 8 = .ok (.iload_n 2, 1) := dk_28 (dk_at dksX1_fast_0 8 rfl rfl)
theorem dX1_fast_9 : decode cX1_fast 9 = .ok (.i2l, 1) := dk_133 (dk_at dksX1_fast_0 9 rfl rfl)
theorem dX1_fast_10 : decode cX1_fast 10 = .ok (.lconst 1, 1) := dk_10 (dk_at dksX1_fast_0 10 rfl rfl)
theorem dX1_fast_11 : decode cX1_fast 11 = .ok (.ldc2_w 371, 3) := dk_20 1 115 (dk_at dksX1_fast_0 11 rfl rfl)
theorem dX1_fast_14 : decode cX1_fast 14 = .ok (.invokestatic 160, 3) := dk_184 0 160 (dk_at dksX1_fast_0 14 rfl rfl)
theorem dX1_fast_17 : decode cX1_fast 17 = .ok (.ifCond .ne 5, 3) := dk_154 0 5 (dk_at dksX1_fast_0 17 rfl rfl)
theorem dX1_fast_20 : decode cX1_fast 20 = .ok (.iconst (-1), 1) := dk_2 (dk_at dksX1_fast_0 20 rfl rfl)
theorem dX1_fast_21 : decode cX1_fast 21 = .ok (.ireturn, 1) := dk_172 (dk_at dksX1_fast_0 21 rfl rfl)
theorem dX1_fast_22 : decode cX1_fast 22 = .ok (.aload_n 0, 1) := dk_42 (dk_at dksX1_fast_0 22 rfl rfl)
theorem dX1_fast_23 : decode cX1_fast 23 = .ok (.invokevirtual 357, 3) := dk_182 1 101 (dk_at dksX1_fast_1 0 rfl rfl)
theorem dX1_fast_26 : decode cX1_fast 26 = .ok (.aload_n 0, 1) := dk_42 (dk_at dksX1_fast_1 3 rfl rfl)
theorem dX1_fast_27 : decode cX1_fast 27 = .ok (.getfield 18, 3) := dk_180 0 18 (dk_at dksX1_fast_1 4 rfl rfl)
theorem dX1_fast_30 : decode cX1_fast 30 = .ok (.getfield 236, 3) := dk_180 0 236 (dk_at dksX1_fast_1 7 rfl rfl)
theorem dX1_fast_33 : decode cX1_fast 33 = .ok (.iload_n 1, 1) := dk_27 (dk_at dksX1_fast_1 10 rfl rfl)
theorem dX1_fast_34 : decode cX1_fast 34 = .ok (.iconst 1, 1) := dk_4 (dk_at dksX1_fast_1 11 rfl rfl)
theorem dX1_fast_35 : decode cX1_fast 35 = .ok (.aload_n 0, 1) := dk_42 (dk_at dksX1_fast_1 12 rfl rfl)
theorem dX1_fast_36 : decode cX1_fast 36 = .ok (.getfield 18, 3) := dk_180 0 18 (dk_at dksX1_fast_1 13 rfl rfl)
theorem dX1_fast_39 : decode cX1_fast 39 = .ok (.getfield 236, 3) := dk_180 0 236 (dk_at dksX1_fast_1 16 rfl rfl)
theorem dX1_fast_42 : decode cX1_fast 42 = .ok (.iload_n 1, 1) := dk_27 (dk_at dksX1_fast_1 19 rfl rfl)
theorem dX1_fast_43 : decode cX1_fast 43 = .ok (.iaload, 1) := dk_46 (dk_at dksX1_fast_1 20 rfl rfl)
theorem dX1_fast_44 : decode cX1_fast 44 = .ok (.iload_n 2, 1) := dk_28 (dk_at dksX1_fast_1 21 rfl rfl)
theorem dX1_fast_45 : decode cX1_fast 45 = .ok (.isub, 1) := dk_100 (dk_at dksX1_fast_1 22 rfl rfl)
theorem dX1_fast_46 : decode cX1_fast 46 = .ok (.invokestatic 178, 3) := dk_184 0 178 (dk_at dksX1_fast_2 0 rfl rfl)
theorem dX1_fast_49 : decode cX1_fast 49 = .ok (.iastore, 1) := dk_79 (dk_at dksX1_fast_2 3 rfl rfl)
theorem dX1_fast_50 : decode cX1_fast 50 = .ok (.aload_n 0, 1) := dk_42 (dk_at dksX1_fast_2 4 rfl rfl)
theorem dX1_fast_51 : decode cX1_fast 51 = .ok (.getfield 18, 3) := dk_180 0 18 (dk_at dksX1_fast_2 5 rfl rfl)
theorem dX1_fast_54 : decode cX1_fast 54 = .ok (.getfield 236, 3) := dk_180 0 236 (dk_at dksX1_fast_2 8 rfl rfl)
theorem dX1_fast_57 : decode cX1_fast 57 = .ok (.iload_n 1, 1) := dk_27 (dk_at dksX1_fast_2 11 rfl rfl)
theorem dX1_fast_58 : decode cX1_fast 58 = .ok (.iaload, 1) := dk_46 (dk_at dksX1_fast_2 12 rfl rfl)
theorem dX1_fast_59 : decode cX1_fast 59 = .ok (.ireturn, 1) := dk_172 (dk_at dksX1_fast_2 13 rfl rfl)
def dkwX1_dies_2 : List UInt8 := [27, 182, 1, 83, 61, 42, 180, 0, 18, 2, 181, 1, 59, 42, 180, 0, 18, 3, 181, 1, 86, 28, 172]
abbrev dktX1_dies_2 : List UInt8 := dkwX1_dies_2 ++ []
def dkwX1_dies_1 : List UInt8 := [120, 2, 130, 126, 181, 0, 168, 42, 180, 0, 18, 180, 1, 59, 27, 159, 0, 5, 3, 172, 42, 180, 0, 18]
abbrev dktX1_dies_1 : List UInt8 := dkwX1_dies_1 ++ dktX1_dies_2
def dkwX1_dies_0 : List UInt8 := [42, 27, 182, 1, 146, 154, 0, 5, 2, 172, 42, 182, 1, 101, 42, 180, 0, 18, 89, 180, 0, 168, 4, 27]
abbrev dktX1_dies_0 : List UInt8 := dkwX1_dies_0 ++ dktX1_dies_1
theorem dksX1_dies_0 : cX1_dies.data.toList.drop 0 = dktX1_dies_0 := by decide +kernel
theorem dksX1_dies_1 : cX1_dies.data.toList.drop 24 = dktX1_dies_1 := dk_seg dksX1_dies_0 24 rfl rfl
theorem dksX1_dies_2 : cX1_dies.data.toList.drop 48 = dktX1_dies_2 := dk_seg dksX1_dies_1 24 rfl rfl
theorem dX1_dies_0 : decode cX1_dies 0 = .ok (.aload_n 0, 1) := dk_42 (dk_at dksX1_dies_0 0 rfl rfl)
theorem dX1_dies_1 : decode cX1_dies 1 = .ok (.iload_n 1, 1) := dk_27 (dk_at dksX1_dies_0 1 rfl rfl)
theorem dX1_dies_2 : decode cX1_dies 2 = .ok (.invokevirtual 402, 3) := dk_182 1 146 (dk_at dksX1_dies_0 2 rfl rfl)
theorem dX1_dies_5 : decode cX1_dies 5 = .ok (.ifCond .ne 5, 3) := dk_154 0 5 (dk_at dksX1_dies_0 5 rfl rfl)
theorem dX1_dies_8 : decode cX1_dies 8 = .ok (.iconst (-1), 1) := dk_2 (dk_at dksX1_dies_0 8 rfl rfl)
theorem dX1_dies_9 : decode cX1_dies 9 = .ok (.ireturn, 1) := dk_172 (dk_at dksX1_dies_0 9 rfl rfl)
theorem dX1_dies_10 : decode cX1_dies 10 = .ok (.aload_n 0, 1) := dk_42 (dk_at dksX1_dies_0 10 rfl rfl)
theorem dX1_dies_11 : decode cX1_dies 11 = .ok (.invokevirtual 357, 3) := dk_182 1 101 (dk_at dksX1_dies_0 11 rfl rfl)
theorem dX1_dies_14 : decode cX1_dies 14 = .ok (.aload_n 0, 1) := dk_42 (dk_at dksX1_dies_0 14 rfl rfl)
theorem dX1_dies_15 : decode cX1_dies 15 = .ok (.getfield 18, 3) := dk_180 0 18 (dk_at dksX1_dies_0 15 rfl rfl)
theorem dX1_dies_18 : decode cX1_dies 18 = .ok (.dup, 1) := dk_89 (dk_at dksX1_dies_0 18 rfl rfl)
theorem dX1_dies_19 : decode cX1_dies 19 = .ok (.getfield 168, 3) := dk_180 0 168 (dk_at dksX1_dies_0 19 rfl rfl)
theorem dX1_dies_22 : decode cX1_dies 22 = .ok (.iconst 1, 1) := dk_4 (dk_at dksX1_dies_0 22 rfl rfl)
theorem dX1_dies_23 : decode cX1_dies 23 = .ok (.iload_n 1, 1) := dk_27 (dk_at dksX1_dies_0 23 rfl rfl)
theorem dX1_dies_24 : decode cX1_dies 24 = .ok (.ishl, 1) := dk_120 (dk_at dksX1_dies_1 0 rfl rfl)
theorem dX1_dies_25 : decode cX1_dies 25 = .ok (.iconst (-1), 1) := dk_2 (dk_at dksX1_dies_1 1 rfl rfl)
theorem dX1_dies_26 : decode cX1_dies 26 = .ok (.ixor, 1) := dk_130 (dk_at dksX1_dies_1 2 rfl rfl)
theorem dX1_dies_27 : decode cX1_dies 27 = .ok (.iand, 1) := dk_126 (dk_at dksX1_dies_1 3 rfl rfl)
theorem dX1_dies_28 : decode cX1_dies 28 = .ok (.putfield 168, 3) := dk_181 0 168 (dk_at dksX1_dies_1 4 rfl rfl)
theorem dX1_dies_31 : decode cX1_dies 31 = .ok (.aload_n 0, 1) := dk_42 (dk_at dksX1_dies_1 7 rfl rfl)
theorem dX1_dies_32 : decode cX1_dies 32 = .ok (.getfield 18, 3) := dk_180 0 18 (dk_at dksX1_dies_1 8 rfl rfl)
theorem dX1_dies_35 : decode cX1_dies 35 = .ok (.getfield 315, 3) := dk_180 1 59 (dk_at dksX1_dies_1 11 rfl rfl)
theorem dX1_dies_38 : decode cX1_dies 38 = .ok (.iload_n 1, 1) := dk_27 (dk_at dksX1_dies_1 14 rfl rfl)
theorem dX1_dies_39 : decode cX1_dies 39 = .ok (.if_icmp .eq 5, 3) := dk_159 0 5 (dk_at dksX1_dies_1 15 rfl rfl)
theorem dX1_dies_42 : decode cX1_dies 42 = .ok (.iconst 0, 1) := dk_3 (dk_at dksX1_dies_1 18 rfl rfl)
theorem dX1_dies_43 : decode cX1_dies 43 = .ok (.ireturn, 1) := dk_172 (dk_at dksX1_dies_1 19 rfl rfl)
theorem dX1_dies_44 : decode cX1_dies 44 = .ok (.aload_n 0, 1) := dk_42 (dk_at dksX1_dies_1 20 rfl rfl)
theorem dX1_dies_45 : decode cX1_dies 45 = .ok (.getfield 18, 3) := dk_180 0 18 (dk_at dksX1_dies_1 21 rfl rfl)
theorem dX1_dies_48 : decode cX1_dies 48 = .ok (.iload_n 1, 1) := dk_27 (dk_at dksX1_dies_2 0 rfl rfl)
theorem dX1_dies_49 : decode cX1_dies 49 = .ok (.invokevirtual 339, 3) := dk_182 1 83 (dk_at dksX1_dies_2 1 rfl rfl)
theorem dX1_dies_52 : decode cX1_dies 52 = .ok (.istore_n 2, 1) := dk_61 (dk_at dksX1_dies_2 4 rfl rfl)
theorem dX1_dies_53 : decode cX1_dies 53 = .ok (.aload_n 0, 1) := dk_42 (dk_at dksX1_dies_2 5 rfl rfl)
theorem dX1_dies_54 : decode cX1_dies 54 = .ok (.getfield 18, 3) := dk_180 0 18 (dk_at dksX1_dies_2 6 rfl rfl)
theorem dX1_dies_57 : decode cX1_dies 57 = .ok (.iconst (-1), 1) := dk_2 (dk_at dksX1_dies_2 9 rfl rfl)
theorem dX1_dies_58 : decode cX1_dies 58 = .ok (.putfield 315, 3) := dk_181 1 59 (dk_at dksX1_dies_2 10 rfl rfl)
theorem dX1_dies_61 : decode cX1_dies 61 = .ok (.aload_n 0, 1) := dk_42 (dk_at dksX1_dies_2 13 rfl rfl)
theorem dX1_dies_62 : decode cX1_dies 62 = .ok (.getfield 18, 3) := dk_180 0 18 (dk_at dksX1_dies_2 14 rfl rfl)
theorem dX1_dies_65 : decode cX1_dies 65 = .ok (.iconst 0, 1) := dk_3 (dk_at dksX1_dies_2 17 rfl rfl)
theorem dX1_dies_66 : decode cX1_dies 66 = .ok (.putfield 342, 3) := dk_181 1 86 (dk_at dksX1_dies_2 18 rfl rfl)
theorem dX1_dies_69 : decode cX1_dies 69 = .ok (.iload_n 2, 1) := dk_28 (dk_at dksX1_dies_2 21 rfl rfl)
theorem dX1_dies_70 : decode cX1_dies 70 = .ok (.ireturn, 1) := dk_172 (dk_at dksX1_dies_2 22 rfl rfl)
def dkwX1_undo_1 : List UInt8 := [180, 0, 25, 42, 180, 0, 245, 50, 182, 1, 98, 42, 180, 0, 245, 172]
abbrev dktX1_undo_1 : List UInt8 := dkwX1_undo_1 ++ []
def dkwX1_undo_0 : List UInt8 := [42, 180, 0, 245, 154, 0, 5, 2, 172, 42, 89, 180, 0, 245, 4, 100, 181, 0, 245, 42, 180, 0, 18, 42]
abbrev dktX1_undo_0 : List UInt8 := dkwX1_undo_0 ++ dktX1_undo_1
theorem dksX1_undo_0 : cX1_undo.data.toList.drop 0 = dktX1_undo_0 := by decide +kernel
theorem dksX1_undo_1 : cX1_undo.data.toList.drop 24 = dktX1_undo_1 := dk_seg dksX1_undo_0 24 rfl rfl
theorem dX1_undo_0 : decode cX1_undo 0 = .ok (.aload_n 0, 1) := dk_42 (dk_at dksX1_undo_0 0 rfl rfl)
theorem dX1_undo_1 : decode cX1_undo 1 = .ok (.getfield 245, 3) := dk_180 0 245 (dk_at dksX1_undo_0 1 rfl rfl)
theorem dX1_undo_4 : decode cX1_undo 4 = .ok (.ifCond .ne 5, 3) := dk_154 0 5 (dk_at dksX1_undo_0 4 rfl rfl)
theorem dX1_undo_7 : decode cX1_undo 7 = .ok (.iconst (-1), 1) := dk_2 (dk_at dksX1_undo_0 7 rfl rfl)
theorem dX1_undo_8 : decode cX1_undo 8 = .ok (.ireturn, 1) := dk_172 (dk_at dksX1_undo_0 8 rfl rfl)
theorem dX1_undo_9 : decode cX1_undo 9 = .ok (.aload_n 0, 1) := dk_42 (dk_at dksX1_undo_0 9 rfl rfl)
theorem dX1_undo_10 : decode cX1_undo 10 = .ok (.dup, 1) := dk_89 (dk_at dksX1_undo_0 10 rfl rfl)
theorem dX1_undo_11 : decode cX1_undo 11 = .ok (.getfield 245, 3) := dk_180 0 245 (dk_at dksX1_undo_0 11 rfl rfl)
theorem dX1_undo_14 : decode cX1_undo 14 = .ok (.iconst 1, 1) := dk_4 (dk_at dksX1_undo_0 14 rfl rfl)
theorem dX1_undo_15 : decode cX1_undo 15 = .ok (.isub, 1) := dk_100 (dk_at dksX1_undo_0 15 rfl rfl)
theorem dX1_undo_16 : decode cX1_undo 16 = .ok (.putfield 245, 3) := dk_181 0 245 (dk_at dksX1_undo_0 16 rfl rfl)
theorem dX1_undo_19 : decode cX1_undo 19 = .ok (.aload_n 0, 1) := dk_42 (dk_at dksX1_undo_0 19 rfl rfl)
theorem dX1_undo_20 : decode cX1_undo 20 = .ok (.getfield 18, 3) := dk_180 0 18 (dk_at dksX1_undo_0 20 rfl rfl)
theorem dX1_undo_23 : decode cX1_undo 23 = .ok (.aload_n 0, 1) := dk_42 (dk_at dksX1_undo_0 23 rfl rfl)
theorem dX1_undo_24 : decode cX1_undo 24 = .ok (.getfield 25, 3) := dk_180 0 25 (dk_at dksX1_undo_1 0 rfl rfl)
theorem dX1_undo_27 : decode cX1_undo 27 = .ok (.aload_n 0, 1) := dk_42 (dk_at dksX1_undo_1 3 rfl rfl)
theorem dX1_undo_28 : decode cX1_undo 28 = .ok (.getfield 245, 3) := dk_180 0 245 (dk_at dksX1_undo_1 4 rfl rfl)
theorem dX1_undo_31 : decode cX1_undo 31 = .ok (.aaload, 1) := dk_50 (dk_at dksX1_undo_1 7 rfl rfl)
theorem dX1_undo_32 : decode cX1_undo 32 = .ok (.invokevirtual 354, 3) := dk_182 1 98 (dk_at dksX1_undo_1 8 rfl rfl)
theorem dX1_undo_35 : decode cX1_undo 35 = .ok (.aload_n 0, 1) := dk_42 (dk_at dksX1_undo_1 11 rfl rfl)
theorem dX1_undo_36 : decode cX1_undo 36 = .ok (.getfield 245, 3) := dk_180 0 245 (dk_at dksX1_undo_1 12 rfl rfl)
theorem dX1_undo_39 : decode cX1_undo 39 = .ok (.ireturn, 1) := dk_172 (dk_at dksX1_undo_1 15 rfl rfl)
def dkwX1_served_2 : List UInt8 := [16, 254, 172]
abbrev dktX1_served_2 : List UInt8 := dkwX1_served_2 ++ []
def dkwX1_served_1 : List UInt8 := [4, 100, 133, 184, 0, 160, 153, 0, 18, 42, 180, 0, 18, 180, 1, 89, 27, 16, 60, 112, 46, 167, 0, 5]
abbrev dktX1_served_1 : List UInt8 := dkwX1_served_1 ++ dktX1_served_2
def dkwX1_served_0 : List UInt8 := [27, 133, 3, 42, 180, 0, 18, 180, 1, 92, 16, 60, 100, 184, 0, 178, 133, 42, 180, 0, 18, 180, 1, 92]
abbrev dktX1_served_0 : List UInt8 := dkwX1_served_0 ++ dktX1_served_1
theorem dksX1_served_0 : cX1_served.data.toList.drop 0 = dktX1_served_0 := by decide +kernel
theorem dksX1_served_1 : cX1_served.data.toList.drop 24 = dktX1_served_1 := dk_seg dksX1_served_0 24 rfl rfl
theorem dksX1_served_2 : cX1_served.data.toList.drop 48 = dktX1_served_2 := dk_seg dksX1_served_1 24 rfl rfl
theorem dX1_served_0 : decode cX1_served 0 = .ok (.iload_n 1, 1) := dk_27 (dk_at dksX1_served_0 0 rfl rfl)
theorem dX1_served_1 : decode cX1_served 1 = .ok (.i2l, 1) := dk_133 (dk_at dksX1_served_0 1 rfl rfl)
theorem dX1_served_2 : decode cX1_served 2 = .ok (.iconst 0, 1) := dk_3 (dk_at dksX1_served_0 2 rfl rfl)
theorem dX1_served_3 : decode cX1_served 3 = .ok (.aload_n 0, 1) := dk_42 (dk_at dksX1_served_0 3 rfl rfl)
theorem dX1_served_4 : decode cX1_served 4 = .ok (.getfield 18, 3) := dk_180 0 18 (dk_at dksX1_served_0 4 rfl rfl)
theorem dX1_served_7 : decode cX1_served 7 = .ok (.getfield 348, 3) := dk_180 1 92 (dk_at dksX1_served_0 7 rfl rfl)
theorem dX1_served_10 : decode cX1_served 10 = .ok (.bipush 60, 2) := dk_16 60 (dk_at dksX1_served_0 10 rfl rfl)
theorem dX1_served_12 : decode cX1_served 12 = .ok (.isub, 1) := dk_100 (dk_at dksX1_served_0 12 rfl rfl)
theorem dX1_served_13 : decode cX1_served 13 = .ok (.invokestatic 178, 3) := dk_184 0 178 (dk_at dksX1_served_0 13 rfl rfl)
theorem dX1_served_16 : decode cX1_served 16 = .ok (.i2l, 1) := dk_133 (dk_at dksX1_served_0 16 rfl rfl)
theorem dX1_served_17 : decode cX1_served 17 = .ok (.aload_n 0, 1) := dk_42 (dk_at dksX1_served_0 17 rfl rfl)
theorem dX1_served_18 : decode cX1_served 18 = .ok (.getfield 18, 3) := dk_180 0 18 (dk_at dksX1_served_0 18 rfl rfl)
theorem dX1_served_21 : decode cX1_served 21 = .ok (.getfield 348, 3) := dk_180 1 92 (dk_at dksX1_served_0 21 rfl rfl)
theorem dX1_served_24 : decode cX1_served 24 = .ok (.iconst 1, 1) := dk_4 (dk_at dksX1_served_1 0 rfl rfl)
theorem dX1_served_25 : decode cX1_served 25 = .ok (.isub, 1) := dk_100 (dk_at dksX1_served_1 1 rfl rfl)
theorem dX1_served_26 : decode cX1_served 26 = .ok (.i2l, 1) := dk_133 (dk_at dksX1_served_1 2 rfl rfl)
theorem dX1_served_27 : decode cX1_served 27 = .ok (.invokestatic 160, 3) := dk_184 0 160 (dk_at dksX1_served_1 3 rfl rfl)
theorem dX1_served_30 : decode cX1_served 30 = .ok (.ifCond .eq 18, 3) := dk_153 0 18 (dk_at dksX1_served_1 6 rfl rfl)
theorem dX1_served_33 : decode cX1_served 33 = .ok (.aload_n 0, 1) := dk_42 (dk_at dksX1_served_1 9 rfl rfl)
theorem dX1_served_34 : decode cX1_served 34 = .ok (.getfield 18, 3) := dk_180 0 18 (dk_at dksX1_served_1 10 rfl rfl)
theorem dX1_served_37 : decode cX1_served 37 = .ok (.getfield 345, 3) := dk_180 1 89 (dk_at dksX1_served_1 13 rfl rfl)
theorem dX1_served_40 : decode cX1_served 40 = .ok (.iload_n 1, 1) := dk_27 (dk_at dksX1_served_1 16 rfl rfl)
theorem dX1_served_41 : decode cX1_served 41 = .ok (.bipush 60, 2) := dk_16 60 (dk_at dksX1_served_1 17 rfl rfl)
theorem dX1_served_43 : decode cX1_served 43 = .ok (.irem, 1) := dk_112 (dk_at dksX1_served_1 19 rfl rfl)
theorem dX1_served_44 : decode cX1_served 44 = .ok (.iaload, 1) := dk_46 (dk_at dksX1_served_1 20 rfl rfl)
theorem dX1_served_45 : decode cX1_served 45 = .ok (.goto 5, 3) := dk_167 0 5 (dk_at dksX1_served_1 21 rfl rfl)
theorem dX1_served_48 : decode cX1_served 48 = .ok (.bipush (-2), 2) := dk_16 254 (dk_at dksX1_served_2 0 rfl rfl)
theorem dX1_served_50 : decode cX1_served 50 = .ok (.ireturn, 1) := dk_172 (dk_at dksX1_served_2 2 rfl rfl)
def dkwX1_later_3 : List UInt8 := [132, 4, 1, 167, 255, 219, 29, 172]
abbrev dktX1_later_3 : List UInt8 := dkwX1_later_3 ++ []
def dkwX1_later_2 : List UInt8 := [27, 42, 180, 0, 18, 180, 1, 92, 21, 4, 96, 182, 1, 95, 96, 184, 1, 56, 184, 0, 178, 62]
abbrev dktX1_later_2 : List UInt8 := dkwX1_later_2 ++ dktX1_later_3
def dkwX1_later_1 : List UInt8 := [180, 0, 18, 180, 0, 236, 27, 46, 62, 3, 54, 4, 21, 4, 28, 162, 0, 37, 4, 17, 3, 231, 29, 42]
abbrev dktX1_later_1 : List UInt8 := dkwX1_later_1 ++ dktX1_later_2
def dkwX1_later_0 : List UInt8 := [42, 27, 182, 1, 146, 153, 0, 15, 28, 133, 9, 20, 1, 115, 184, 0, 160, 154, 0, 5, 2, 172, 42]
abbrev dktX1_later_0 : List UInt8 := dkwX1_later_0 ++ dktX1_later_1
theorem dksX1_later_0 : cX1_later.data.toList.drop 0 = dktX1_later_0 := by decide +kernel
theorem dksX1_later_1 : cX1_later.data.toList.drop 23 = dktX1_later_1 := dk_seg dksX1_later_0 23 rfl rfl
theorem dksX1_later_2 : cX1_later.data.toList.drop 47 = dktX1_later_2 := dk_seg dksX1_later_1 24 rfl rfl
theorem dksX1_later_3 : cX1_later.data.toList.drop 69 = dktX1_later_3 := dk_seg dksX1_later_2 22 rfl rfl
theorem dX1_later_0 : decode cX1_later 0 = .ok (.aload_n 0, 1) := dk_42 (dk_at dksX1_later_0 0 rfl rfl)
theorem dX1_later_1 : decode cX1_later 1 = .ok (.iload_n 1, 1) := dk_27 (dk_at dksX1_later_0 1 rfl rfl)
theorem dX1_later_2 : decode cX1_later 2 = .ok (.invokevirtual 402, 3) := dk_182 1 146 (dk_at dksX1_later_0 2 rfl rfl)
theorem dX1_later_5 : decode cX1_later 5 = .ok (.ifCond .eq 15, 3) := dk_153 0 15 (dk_at dksX1_later_0 5 rfl rfl)
theorem dX1_later_8 : decode cX1_later 8 = .ok (.iload_n 2, 1) := dk_28 (dk_at dksX1_later_0 8 rfl rfl)
theorem dX1_later_9 : decode cX1_later 9 = .ok (.i2l, 1) := dk_133 (dk_at dksX1_later_0 9 rfl rfl)
theorem dX1_later_10 : decode cX1_later 10 = .ok (.lconst 0, 1) := dk_9 (dk_at dksX1_later_0 10 rfl rfl)
theorem dX1_later_11 : decode cX1_later 11 = .ok (.ldc2_w 371, 3) := dk_20 1 115 (dk_at dksX1_later_0 11 rfl rfl)
theorem dX1_later_14 : decode cX1_later 14 = .ok (.invokestatic 160, 3) := dk_184 0 160 (dk_at dksX1_later_0 14 rfl rfl)
theorem dX1_later_17 : decode cX1_later 17 = .ok (.ifCond .ne 5, 3) := dk_154 0 5 (dk_at dksX1_later_0 17 rfl rfl)
theorem dX1_later_20 : decode cX1_later 20 = .ok (.iconst (-1), 1) := dk_2 (dk_at dksX1_later_0 20 rfl rfl)
theorem dX1_later_21 : decode cX1_later 21 = .ok (.ireturn, 1) := dk_172 (dk_at dksX1_later_0 21 rfl rfl)
theorem dX1_later_22 : decode cX1_later 22 = .ok (.aload_n 0, 1) := dk_42 (dk_at dksX1_later_0 22 rfl rfl)
theorem dX1_later_23 : decode cX1_later 23 = .ok (.getfield 18, 3) := dk_180 0 18 (dk_at dksX1_later_1 0 rfl rfl)
theorem dX1_later_26 : decode cX1_later 26 = .ok (.getfield 236, 3) := dk_180 0 236 (dk_at dksX1_later_1 3 rfl rfl)
theorem dX1_later_29 : decode cX1_later 29 = .ok (.iload_n 1, 1) := dk_27 (dk_at dksX1_later_1 6 rfl rfl)
theorem dX1_later_30 : decode cX1_later 30 = .ok (.iaload, 1) := dk_46 (dk_at dksX1_later_1 7 rfl rfl)
theorem dX1_later_31 : decode cX1_later 31 = .ok (.istore_n 3, 1) := dk_62 (dk_at dksX1_later_1 8 rfl rfl)
theorem dX1_later_32 : decode cX1_later 32 = .ok (.iconst 0, 1) := dk_3 (dk_at dksX1_later_1 9 rfl rfl)
theorem dX1_later_33 : decode cX1_later 33 = .ok (.istore 4, 2) := dk_54 4 (dk_at dksX1_later_1 10 rfl rfl)
theorem dX1_later_35 : decode cX1_later 35 = .ok (.iload 4, 2) := dk_21 4 (dk_at dksX1_later_1 12 rfl rfl)
theorem dX1_later_37 : decode cX1_later 37 = .ok (.iload_n 2, 1) := dk_28 (dk_at dksX1_later_1 14 rfl rfl)
theorem dX1_later_38 : decode cX1_later 38 = .ok (.if_icmp .ge 37, 3) := dk_162 0 37 (dk_at dksX1_later_1 15 rfl rfl)
theorem dX1_later_41 : decode cX1_later 41 = .ok (.iconst 1, 1) := dk_4 (dk_at dksX1_later_1 18 rfl rfl)
theorem dX1_later_42 : decode cX1_later 42 = .ok (.sipush 999, 3) := dk_17 3 231 (dk_at dksX1_later_1 19 rfl rfl)
theorem dX1_later_45 : decode cX1_later 45 = .ok (.iload_n 3, 1) := dk_29 (dk_at dksX1_later_1 22 rfl rfl)
theorem dX1_later_46 : decode cX1_later 46 = .ok (.aload_n 0, 1) := dk_42 (dk_at dksX1_later_1 23 rfl rfl)
theorem dX1_later_47 : decode cX1_later 47 = .ok (.iload_n 1, 1) := dk_27 (dk_at dksX1_later_2 0 rfl rfl)
theorem dX1_later_48 : decode cX1_later 48 = .ok (.aload_n 0, 1) := dk_42 (dk_at dksX1_later_2 1 rfl rfl)
theorem dX1_later_49 : decode cX1_later 49 = .ok (.getfield 18, 3) := dk_180 0 18 (dk_at dksX1_later_2 2 rfl rfl)
theorem dX1_later_52 : decode cX1_later 52 = .ok (.getfield 348, 3) := dk_180 1 92 (dk_at dksX1_later_2 5 rfl rfl)
theorem dX1_later_55 : decode cX1_later 55 = .ok (.iload 4, 2) := dk_21 4 (dk_at dksX1_later_2 8 rfl rfl)
theorem dX1_later_57 : decode cX1_later 57 = .ok (.iadd, 1) := dk_96 (dk_at dksX1_later_2 10 rfl rfl)
theorem dX1_later_58 : decode cX1_later 58 = .ok (.invokevirtual 351, 3) := dk_182 1 95 (dk_at dksX1_later_2 11 rfl rfl)
theorem dX1_later_61 : decode cX1_later 61 = .ok (.iadd, 1) := dk_96 (dk_at dksX1_later_2 14 rfl rfl)
theorem dX1_later_62 : decode cX1_later 62 = .ok (.invokestatic 312, 3) := dk_184 1 56 (dk_at dksX1_later_2 15 rfl rfl)
theorem dX1_later_65 : decode cX1_later 65 = .ok (.invokestatic 178, 3) := dk_184 0 178 (dk_at dksX1_later_2 18 rfl rfl)
theorem dX1_later_68 : decode cX1_later 68 = .ok (.istore_n 3, 1) := dk_62 (dk_at dksX1_later_2 21 rfl rfl)
theorem dX1_later_69 : decode cX1_later 69 = .ok (.iinc 4 1, 3) := dk_132 4 1 (dk_at dksX1_later_3 0 rfl rfl)
theorem dX1_later_72 : decode cX1_later 72 = .ok (.goto (-37), 3) := dk_167 255 219 (dk_at dksX1_later_3 3 rfl rfl)
theorem dX1_later_75 : decode cX1_later 75 = .ok (.iload_n 3, 1) := dk_29 (dk_at dksX1_later_3 6 rfl rfl)
theorem dX1_later_76 : decode cX1_later 76 = .ok (.ireturn, 1) := dk_172 (dk_at dksX1_later_3 7 rfl rfl)
def dkwX1_then_4 : List UInt8 := [132, 2, 1, 167, 255, 221, 42, 180, 0, 22, 180, 1, 59, 172]
abbrev dktX1_then_4 : List UInt8 := dkwX1_then_4 ++ []
def dkwX1_then_3 : List UInt8 := [180, 0, 22, 180, 0, 239, 28, 46, 42, 180, 0, 18, 180, 0, 239, 28, 46, 100, 133, 182, 1, 111]
abbrev dktX1_then_3 : List UInt8 := dkwX1_then_3 ++ dktX1_then_4
def dkwX1_then_2 : List UInt8 := [132, 2, 1, 167, 255, 236, 42, 3, 181, 0, 154, 3, 61, 28, 42, 180, 0, 157, 162, 0, 33, 42, 42]
abbrev dktX1_then_2 : List UInt8 := dkwX1_then_2 ++ dktX1_then_3
def dkwX1_then_1 : List UInt8 := [182, 1, 98, 3, 61, 28, 27, 162, 0, 21, 42, 42, 180, 0, 22, 42, 180, 0, 54, 182, 1, 107]
abbrev dktX1_then_1 : List UInt8 := dkwX1_then_1 ++ dktX1_then_2
def dkwX1_then_0 : List UInt8 := [27, 133, 9, 20, 1, 115, 184, 0, 160, 154, 0, 6, 16, 254, 172, 42, 180, 0, 22, 42, 180, 0, 18]
abbrev dktX1_then_0 : List UInt8 := dkwX1_then_0 ++ dktX1_then_1
theorem dksX1_then_0 : cX1_then.data.toList.drop 0 = dktX1_then_0 := by decide +kernel
theorem dksX1_then_1 : cX1_then.data.toList.drop 23 = dktX1_then_1 := dk_seg dksX1_then_0 23 rfl rfl
theorem dksX1_then_2 : cX1_then.data.toList.drop 45 = dktX1_then_2 := dk_seg dksX1_then_1 22 rfl rfl
theorem dksX1_then_3 : cX1_then.data.toList.drop 68 = dktX1_then_3 := dk_seg dksX1_then_2 23 rfl rfl
theorem dksX1_then_4 : cX1_then.data.toList.drop 90 = dktX1_then_4 := dk_seg dksX1_then_3 22 rfl rfl
theorem dX1_then_0 : decode cX1_then 0 = .ok (.iload_n 1, 1) := dk_27 (dk_at dksX1_then_0 0 rfl rfl)
theorem dX1_then_1 : decode cX1_then 1 = .ok (.i2l, 1) := dk_133 (dk_at dksX1_then_0 1 rfl rfl)
theorem dX1_then_2 : decode cX1_then 2 = .ok (.lconst 0, 1) := dk_9 (dk_at dksX1_then_0 2 rfl rfl)
theorem dX1_then_3 : decode cX1_then 3 = .ok (.ldc2_w 371, 3) := dk_20 1 115 (dk_at dksX1_then_0 3 rfl rfl)
theorem dX1_then_6 : decode cX1_then 6 = .ok (.invokestatic 160, 3) := dk_184 0 160 (dk_at dksX1_then_0 6 rfl rfl)
theorem dX1_then_9 : decode cX1_then 9 = .ok (.ifCond .ne 6, 3) := dk_154 0 6 (dk_at dksX1_then_0 9 rfl rfl)
theorem dX1_then_12 : decode cX1_then 12 = .ok (.bipush (-2), 2) := dk_16 254 (dk_at dksX1_then_0 12 rfl rfl)
theorem dX1_then_14 : decode cX1_then 14 = .ok (.ireturn, 1) := dk_172 (dk_at dksX1_then_0 14 rfl rfl)
theorem dX1_then_15 : decode cX1_then 15 = .ok (.aload_n 0, 1) := dk_42 (dk_at dksX1_then_0 15 rfl rfl)
theorem dX1_then_16 : decode cX1_then 16 = .ok (.getfield 22, 3) := dk_180 0 22 (dk_at dksX1_then_0 16 rfl rfl)
theorem dX1_then_19 : decode cX1_then 19 = .ok (.aload_n 0, 1) := dk_42 (dk_at dksX1_then_0 19 rfl rfl)
theorem dX1_then_20 : decode cX1_then 20 = .ok (.getfield 18, 3) := dk_180 0 18 (dk_at dksX1_then_0 20 rfl rfl)
theorem dX1_then_23 : decode cX1_then 23 = .ok (.invokevirtual 354, 3) := dk_182 1 98 (dk_at dksX1_then_1 0 rfl rfl)
theorem dX1_then_26 : decode cX1_then 26 = .ok (.iconst 0, 1) := dk_3 (dk_at dksX1_then_1 3 rfl rfl)
theorem dX1_then_27 : decode cX1_then 27 = .ok (.istore_n 2, 1) := dk_61 (dk_at dksX1_then_1 4 rfl rfl)
theorem dX1_then_28 : decode cX1_then 28 = .ok (.iload_n 2, 1) := dk_28 (dk_at dksX1_then_1 5 rfl rfl)
theorem dX1_then_29 : decode cX1_then 29 = .ok (.iload_n 1, 1) := dk_27 (dk_at dksX1_then_1 6 rfl rfl)
theorem dX1_then_30 : decode cX1_then 30 = .ok (.if_icmp .ge 21, 3) := dk_162 0 21 (dk_at dksX1_then_1 7 rfl rfl)
theorem dX1_then_33 : decode cX1_then 33 = .ok (.aload_n 0, 1) := dk_42 (dk_at dksX1_then_1 10 rfl rfl)
theorem dX1_then_34 : decode cX1_then 34 = .ok (.aload_n 0, 1) := dk_42 (dk_at dksX1_then_1 11 rfl rfl)
theorem dX1_then_35 : decode cX1_then 35 = .ok (.getfield 22, 3) := dk_180 0 22 (dk_at dksX1_then_1 12 rfl rfl)
theorem dX1_then_38 : decode cX1_then 38 = .ok (.aload_n 0, 1) := dk_42 (dk_at dksX1_then_1 15 rfl rfl)
theorem dX1_then_39 : decode cX1_then 39 = .ok (.getfield 54, 3) := dk_180 0 54 (dk_at dksX1_then_1 16 rfl rfl)
theorem dX1_then_42 : decode cX1_then 42 = .ok (.invokevirtual 363, 3) := dk_182 1 107 (dk_at dksX1_then_1 19 rfl rfl)
theorem dX1_then_45 : decode cX1_then 45 = .ok (.iinc 2 1, 3) := dk_132 2 1 (dk_at dksX1_then_2 0 rfl rfl)
theorem dX1_then_48 : decode cX1_then 48 = .ok (.goto (-20), 3) := dk_167 255 236 (dk_at dksX1_then_2 3 rfl rfl)
theorem dX1_then_51 : decode cX1_then 51 = .ok (.aload_n 0, 1) := dk_42 (dk_at dksX1_then_2 6 rfl rfl)
theorem dX1_then_52 : decode cX1_then 52 = .ok (.iconst 0, 1) := dk_3 (dk_at dksX1_then_2 7 rfl rfl)
theorem dX1_then_53 : decode cX1_then 53 = .ok (.putfield 154, 3) := dk_181 0 154 (dk_at dksX1_then_2 8 rfl rfl)
theorem dX1_then_56 : decode cX1_then 56 = .ok (.iconst 0, 1) := dk_3 (dk_at dksX1_then_2 11 rfl rfl)
theorem dX1_then_57 : decode cX1_then 57 = .ok (.istore_n 2, 1) := dk_61 (dk_at dksX1_then_2 12 rfl rfl)
theorem dX1_then_58 : decode cX1_then 58 = .ok (.iload_n 2, 1) := dk_28 (dk_at dksX1_then_2 13 rfl rfl)
theorem dX1_then_59 : decode cX1_then 59 = .ok (.aload_n 0, 1) := dk_42 (dk_at dksX1_then_2 14 rfl rfl)
theorem dX1_then_60 : decode cX1_then 60 = .ok (.getfield 157, 3) := dk_180 0 157 (dk_at dksX1_then_2 15 rfl rfl)
theorem dX1_then_63 : decode cX1_then 63 = .ok (.if_icmp .ge 33, 3) := dk_162 0 33 (dk_at dksX1_then_2 18 rfl rfl)
theorem dX1_then_66 : decode cX1_then 66 = .ok (.aload_n 0, 1) := dk_42 (dk_at dksX1_then_2 21 rfl rfl)
theorem dX1_then_67 : decode cX1_then 67 = .ok (.aload_n 0, 1) := dk_42 (dk_at dksX1_then_2 22 rfl rfl)
theorem dX1_then_68 : decode cX1_then 68 = .ok (.getfield 22, 3) := dk_180 0 22 (dk_at dksX1_then_3 0 rfl rfl)
theorem dX1_then_71 : decode cX1_then 71 = .ok (.getfield 239, 3) := dk_180 0 239 (dk_at dksX1_then_3 3 rfl rfl)
theorem dX1_then_74 : decode cX1_then 74 = .ok (.iload_n 2, 1) := dk_28 (dk_at dksX1_then_3 6 rfl rfl)
theorem dX1_then_75 : decode cX1_then 75 = .ok (.iaload, 1) := dk_46 (dk_at dksX1_then_3 7 rfl rfl)
theorem dX1_then_76 : decode cX1_then 76 = .ok (.aload_n 0, 1) := dk_42 (dk_at dksX1_then_3 8 rfl rfl)
theorem dX1_then_77 : decode cX1_then 77 = .ok (.getfield 18, 3) := dk_180 0 18 (dk_at dksX1_then_3 9 rfl rfl)
theorem dX1_then_80 : decode cX1_then 80 = .ok (.getfield 239, 3) := dk_180 0 239 (dk_at dksX1_then_3 12 rfl rfl)
theorem dX1_then_83 : decode cX1_then 83 = .ok (.iload_n 2, 1) := dk_28 (dk_at dksX1_then_3 15 rfl rfl)
theorem dX1_then_84 : decode cX1_then 84 = .ok (.iaload, 1) := dk_46 (dk_at dksX1_then_3 16 rfl rfl)
theorem dX1_then_85 : decode cX1_then 85 = .ok (.isub, 1) := dk_100 (dk_at dksX1_then_3 17 rfl rfl)
theorem dX1_then_86 : decode cX1_then 86 = .ok (.i2l, 1) := dk_133 (dk_at dksX1_then_3 18 rfl rfl)
theorem dX1_then_87 : decode cX1_then 87 = .ok (.invokevirtual 367, 3) := dk_182 1 111 (dk_at dksX1_then_3 19 rfl rfl)
theorem dX1_then_90 : decode cX1_then 90 = .ok (.iinc 2 1, 3) := dk_132 2 1 (dk_at dksX1_then_4 0 rfl rfl)
theorem dX1_then_93 : decode cX1_then 93 = .ok (.goto (-35), 3) := dk_167 255 221 (dk_at dksX1_then_4 3 rfl rfl)
theorem dX1_then_96 : decode cX1_then 96 = .ok (.aload_n 0, 1) := dk_42 (dk_at dksX1_then_4 6 rfl rfl)
theorem dX1_then_97 : decode cX1_then 97 = .ok (.getfield 22, 3) := dk_180 0 22 (dk_at dksX1_then_4 7 rfl rfl)
theorem dX1_then_100 : decode cX1_then 100 = .ok (.getfield 315, 3) := dk_180 1 59 (dk_at dksX1_then_4 10 rfl rfl)
theorem dX1_then_103 : decode cX1_then 103 = .ok (.ireturn, 1) := dk_172 (dk_at dksX1_then_4 13 rfl rfl)
def dkwX1_soonest_3 : List UInt8 := [167, 255, 222, 16, 254, 172]
abbrev dktX1_soonest_3 : List UInt8 := dkwX1_soonest_3 ++ []
def dkwX1_soonest_2 : List UInt8 := [42, 180, 0, 54, 182, 1, 107, 42, 180, 0, 22, 180, 1, 59, 27, 160, 0, 5, 28, 172, 132, 2, 1]
abbrev dktX1_soonest_2 : List UInt8 := dkwX1_soonest_2 ++ dktX1_soonest_3
def dkwX1_soonest_1 : List UInt8 := [42, 180, 0, 22, 42, 180, 0, 18, 182, 1, 98, 4, 61, 28, 16, 99, 163, 0, 34, 42, 42, 180, 0, 22]
abbrev dktX1_soonest_1 : List UInt8 := dkwX1_soonest_1 ++ dktX1_soonest_2
def dkwX1_soonest_0 : List UInt8 := [42, 27, 182, 0, 164, 154, 0, 5, 2, 172, 42, 180, 0, 18, 180, 1, 59, 27, 160, 0, 6, 16, 253, 172]
abbrev dktX1_soonest_0 : List UInt8 := dkwX1_soonest_0 ++ dktX1_soonest_1
theorem dksX1_soonest_0 : cX1_soonest.data.toList.drop 0 = dktX1_soonest_0 := by decide +kernel
theorem dksX1_soonest_1 : cX1_soonest.data.toList.drop 24 = dktX1_soonest_1 := dk_seg dksX1_soonest_0 24 rfl rfl
theorem dksX1_soonest_2 : cX1_soonest.data.toList.drop 48 = dktX1_soonest_2 := dk_seg dksX1_soonest_1 24 rfl rfl
theorem dksX1_soonest_3 : cX1_soonest.data.toList.drop 71 = dktX1_soonest_3 := dk_seg dksX1_soonest_2 23 rfl rfl
theorem dX1_soonest_0 : decode cX1_soonest 0 = .ok (.aload_n 0, 1) := dk_42 (dk_at dksX1_soonest_0 0 rfl rfl)
theorem dX1_soonest_1 : decode cX1_soonest 1 = .ok (.iload_n 1, 1) := dk_27 (dk_at dksX1_soonest_0 1 rfl rfl)
theorem dX1_soonest_2 : decode cX1_soonest 2 = .ok (.invokevirtual 164, 3) := dk_182 0 164 (dk_at dksX1_soonest_0 2 rfl rfl)
theorem dX1_soonest_5 : decode cX1_soonest 5 = .ok (.ifCond .ne 5, 3) := dk_154 0 5 (dk_at dksX1_soonest_0 5 rfl rfl)
theorem dX1_soonest_8 : decode cX1_soonest 8 = .ok (.iconst (-1), 1) := dk_2 (dk_at dksX1_soonest_0 8 rfl rfl)
theorem dX1_soonest_9 : decode cX1_soonest 9 = .ok (.ireturn, 1) := dk_172 (dk_at dksX1_soonest_0 9 rfl rfl)
theorem dX1_soonest_10 : decode cX1_soonest 10 = .ok (.aload_n 0, 1) := dk_42 (dk_at dksX1_soonest_0 10 rfl rfl)
theorem dX1_soonest_11 : decode cX1_soonest 11 = .ok (.getfield 18, 3) := dk_180 0 18 (dk_at dksX1_soonest_0 11 rfl rfl)
theorem dX1_soonest_14 : decode cX1_soonest 14 = .ok (.getfield 315, 3) := dk_180 1 59 (dk_at dksX1_soonest_0 14 rfl rfl)
theorem dX1_soonest_17 : decode cX1_soonest 17 = .ok (.iload_n 1, 1) := dk_27 (dk_at dksX1_soonest_0 17 rfl rfl)
theorem dX1_soonest_18 : decode cX1_soonest 18 = .ok (.if_icmp .ne 6, 3) := dk_160 0 6 (dk_at dksX1_soonest_0 18 rfl rfl)
theorem dX1_soonest_21 : decode cX1_soonest 21 = .ok (.bipush (-3), 2) := dk_16 253 (dk_at dksX1_soonest_0 21 rfl rfl)
theorem dX1_soonest_23 : decode cX1_soonest 23 = .ok (.ireturn, 1) := dk_172 (dk_at dksX1_soonest_0 23 rfl rfl)
theorem dX1_soonest_24 : decode cX1_soonest 24 = .ok (.aload_n 0, 1) := dk_42 (dk_at dksX1_soonest_1 0 rfl rfl)
theorem dX1_soonest_25 : decode cX1_soonest 25 = .ok (.getfield 22, 3) := dk_180 0 22 (dk_at dksX1_soonest_1 1 rfl rfl)
theorem dX1_soonest_28 : decode cX1_soonest 28 = .ok (.aload_n 0, 1) := dk_42 (dk_at dksX1_soonest_1 4 rfl rfl)
theorem dX1_soonest_29 : decode cX1_soonest 29 = .ok (.getfield 18, 3) := dk_180 0 18 (dk_at dksX1_soonest_1 5 rfl rfl)
theorem dX1_soonest_32 : decode cX1_soonest 32 = .ok (.invokevirtual 354, 3) := dk_182 1 98 (dk_at dksX1_soonest_1 8 rfl rfl)
theorem dX1_soonest_35 : decode cX1_soonest 35 = .ok (.iconst 1, 1) := dk_4 (dk_at dksX1_soonest_1 11 rfl rfl)
theorem dX1_soonest_36 : decode cX1_soonest 36 = .ok (.istore_n 2, 1) := dk_61 (dk_at dksX1_soonest_1 12 rfl rfl)
theorem dX1_soonest_37 : decode cX1_soonest 37 = .ok (.iload_n 2, 1) := dk_28 (dk_at dksX1_soonest_1 13 rfl rfl)
theorem dX1_soonest_38 : decode cX1_soonest 38 = .ok (.bipush 99, 2) := dk_16 99 (dk_at dksX1_soonest_1 14 rfl rfl)
theorem dX1_soonest_40 : decode cX1_soonest 40 = .ok (.if_icmp .gt 34, 3) := dk_163 0 34 (dk_at dksX1_soonest_1 16 rfl rfl)
theorem dX1_soonest_43 : decode cX1_soonest 43 = .ok (.aload_n 0, 1) := dk_42 (dk_at dksX1_soonest_1 19 rfl rfl)
theorem dX1_soonest_44 : decode cX1_soonest 44 = .ok (.aload_n 0, 1) := dk_42 (dk_at dksX1_soonest_1 20 rfl rfl)
theorem dX1_soonest_45 : decode cX1_soonest 45 = .ok (.getfield 22, 3) := dk_180 0 22 (dk_at dksX1_soonest_1 21 rfl rfl)
theorem dX1_soonest_48 : decode cX1_soonest 48 = .ok (.aload_n 0, 1) := dk_42 (dk_at dksX1_soonest_2 0 rfl rfl)
theorem dX1_soonest_49 : decode cX1_soonest 49 = .ok (.getfield 54, 3) := dk_180 0 54 (dk_at dksX1_soonest_2 1 rfl rfl)
theorem dX1_soonest_52 : decode cX1_soonest 52 = .ok (.invokevirtual 363, 3) := dk_182 1 107 (dk_at dksX1_soonest_2 4 rfl rfl)
theorem dX1_soonest_55 : decode cX1_soonest 55 = .ok (.aload_n 0, 1) := dk_42 (dk_at dksX1_soonest_2 7 rfl rfl)
theorem dX1_soonest_56 : decode cX1_soonest 56 = .ok (.getfield 22, 3) := dk_180 0 22 (dk_at dksX1_soonest_2 8 rfl rfl)
theorem dX1_soonest_59 : decode cX1_soonest 59 = .ok (.getfield 315, 3) := dk_180 1 59 (dk_at dksX1_soonest_2 11 rfl rfl)
theorem dX1_soonest_62 : decode cX1_soonest 62 = .ok (.iload_n 1, 1) := dk_27 (dk_at dksX1_soonest_2 14 rfl rfl)
theorem dX1_soonest_63 : decode cX1_soonest 63 = .ok (.if_icmp .ne 5, 3) := dk_160 0 5 (dk_at dksX1_soonest_2 15 rfl rfl)
theorem dX1_soonest_66 : decode cX1_soonest 66 = .ok (.iload_n 2, 1) := dk_28 (dk_at dksX1_soonest_2 18 rfl rfl)
theorem dX1_soonest_67 : decode cX1_soonest 67 = .ok (.ireturn, 1) := dk_172 (dk_at dksX1_soonest_2 19 rfl rfl)
theorem dX1_soonest_68 : decode cX1_soonest 68 = .ok (.iinc 2 1, 3) := dk_132 2 1 (dk_at dksX1_soonest_2 20 rfl rfl)
theorem dX1_soonest_71 : decode cX1_soonest 71 = .ok (.goto (-34), 3) := dk_167 255 222 (dk_at dksX1_soonest_3 0 rfl rfl)
theorem dX1_soonest_74 : decode cX1_soonest 74 = .ok (.bipush (-2), 2) := dk_16 254 (dk_at dksX1_soonest_3 3 rfl rfl)
theorem dX1_soonest_76 : decode cX1_soonest 76 = .ok (.ireturn, 1) := dk_172 (dk_at dksX1_soonest_3 5 rfl rfl)
def dkwX1_ever_7 : List UInt8 := [167, 255, 157, 42, 3, 181, 0, 154, 42, 21, 4, 133, 182, 1, 111, 29, 172]
abbrev dktX1_ever_7 : List UInt8 := dkwX1_ever_7 ++ []
def dkwX1_ever_6 : List UInt8 := [180, 0, 61, 3, 181, 1, 104, 42, 42, 180, 0, 22, 42, 180, 0, 61, 182, 1, 107, 132, 5, 1]
abbrev dktX1_ever_6 : List UInt8 := dkwX1_ever_6 ++ dktX1_ever_7
def dkwX1_ever_5 : List UInt8 := [132, 7, 1, 167, 255, 210, 21, 6, 61, 28, 17, 0, 255, 126, 54, 4, 29, 21, 4, 128, 62, 42]
abbrev dktX1_ever_5 : List UInt8 := dkwX1_ever_5 ++ dktX1_ever_6
def dkwX1_ever_4 : List UInt8 := [153, 0, 22, 42, 21, 7, 28, 182, 1, 151, 153, 0, 12, 21, 6, 4, 21, 7, 120, 128, 54, 6]
abbrev dktX1_ever_4 : List UInt8 := dkwX1_ever_4 ++ dktX1_ever_5
def dkwX1_ever_3 : List UInt8 := [54, 7, 21, 7, 42, 180, 0, 157, 162, 0, 43, 42, 180, 0, 18, 180, 0, 168, 21, 7, 184, 0, 171]
abbrev dktX1_ever_3 : List UInt8 := dkwX1_ever_3 ++ dktX1_ever_4
def dkwX1_ever_2 : List UInt8 := [180, 0, 22, 42, 180, 0, 18, 182, 1, 98, 3, 54, 5, 21, 5, 27, 162, 0, 99, 28, 54, 6, 3]
abbrev dktX1_ever_2 : List UInt8 := dkwX1_ever_2 ++ dktX1_ever_3
def dkwX1_ever_1 : List UInt8 := [160, 0, 8, 16, 8, 167, 0, 10, 42, 180, 0, 18, 180, 1, 59, 120, 61, 3, 62, 3, 54, 4, 42]
abbrev dktX1_ever_1 : List UInt8 := dkwX1_ever_1 ++ dktX1_ever_2
def dkwX1_ever_0 : List UInt8 := [27, 133, 9, 20, 1, 149, 184, 0, 160, 154, 0, 5, 2, 172, 4, 42, 180, 0, 18, 180, 1, 59, 2]
abbrev dktX1_ever_0 : List UInt8 := dkwX1_ever_0 ++ dktX1_ever_1
theorem dksX1_ever_0 : cX1_ever.data.toList.drop 0 = dktX1_ever_0 := by decide +kernel
theorem dksX1_ever_1 : cX1_ever.data.toList.drop 23 = dktX1_ever_1 := dk_seg dksX1_ever_0 23 rfl rfl
theorem dksX1_ever_2 : cX1_ever.data.toList.drop 46 = dktX1_ever_2 := dk_seg dksX1_ever_1 23 rfl rfl
theorem dksX1_ever_3 : cX1_ever.data.toList.drop 69 = dktX1_ever_3 := dk_seg dksX1_ever_2 23 rfl rfl
theorem dksX1_ever_4 : cX1_ever.data.toList.drop 92 = dktX1_ever_4 := dk_seg dksX1_ever_3 23 rfl rfl
theorem dksX1_ever_5 : cX1_ever.data.toList.drop 114 = dktX1_ever_5 := dk_seg dksX1_ever_4 22 rfl rfl
theorem dksX1_ever_6 : cX1_ever.data.toList.drop 136 = dktX1_ever_6 := dk_seg dksX1_ever_5 22 rfl rfl
theorem dksX1_ever_7 : cX1_ever.data.toList.drop 158 = dktX1_ever_7 := dk_seg dksX1_ever_6 22 rfl rfl
theorem dX1_ever_0 : decode cX1_ever 0 = .ok (.iload_n 1, 1) := dk_27 (dk_at dksX1_ever_0 0 rfl rfl)
theorem dX1_ever_1 : decode cX1_ever 1 = .ok (.i2l, 1) := dk_133 (dk_at dksX1_ever_0 1 rfl rfl)
theorem dX1_ever_2 : decode cX1_ever 2 = .ok (.lconst 0, 1) := dk_9 (dk_at dksX1_ever_0 2 rfl rfl)
theorem dX1_ever_3 : decode cX1_ever 3 = .ok (.ldc2_w 405, 3) := dk_20 1 149 (dk_at dksX1_ever_0 3 rfl rfl)
theorem dX1_ever_6 : decode cX1_ever 6 = .ok (.invokestatic 160, 3) := dk_184 0 160 (dk_at dksX1_ever_0 6 rfl rfl)
theorem dX1_ever_9 : decode cX1_ever 9 = .ok (.ifCond .ne 5, 3) := dk_154 0 5 (dk_at dksX1_ever_0 9 rfl rfl)
theorem dX1_ever_12 : decode cX1_ever 12 = .ok (.iconst (-1), 1) := dk_2 (dk_at dksX1_ever_0 12 rfl rfl)
theorem dX1_ever_13 : decode cX1_ever 13 = .ok (.ireturn, 1) := dk_172 (dk_at dksX1_ever_0 13 rfl rfl)
theorem dX1_ever_14 : decode cX1_ever 14 = .ok (.iconst 1, 1) := dk_4 (dk_at dksX1_ever_0 14 rfl rfl)
theorem dX1_ever_15 : decode cX1_ever 15 = .ok (.aload_n 0, 1) := dk_42 (dk_at dksX1_ever_0 15 rfl rfl)
theorem dX1_ever_16 : decode cX1_ever 16 = .ok (.getfield 18, 3) := dk_180 0 18 (dk_at dksX1_ever_0 16 rfl rfl)
theorem dX1_ever_19 : decode cX1_ever 19 = .ok (.getfield 315, 3) := dk_180 1 59 (dk_at dksX1_ever_0 19 rfl rfl)
theorem dX1_ever_22 : decode cX1_ever 22 = .ok (.iconst (-1), 1) := dk_2 (dk_at dksX1_ever_0 22 rfl rfl)
theorem dX1_ever_23 : decode cX1_ever 23 = .ok (.if_icmp .ne 8, 3) := dk_160 0 8 (dk_at dksX1_ever_1 0 rfl rfl)
theorem dX1_ever_26 : decode cX1_ever 26 = .ok (.bipush 8, 2) := dk_16 8 (dk_at dksX1_ever_1 3 rfl rfl)
theorem dX1_ever_28 : decode cX1_ever 28 = .ok (.goto 10, 3) := dk_167 0 10 (dk_at dksX1_ever_1 5 rfl rfl)
theorem dX1_ever_31 : decode cX1_ever 31 = .ok (.aload_n 0, 1) := dk_42 (dk_at dksX1_ever_1 8 rfl rfl)
theorem dX1_ever_32 : decode cX1_ever 32 = .ok (.getfield 18, 3) := dk_180 0 18 (dk_at dksX1_ever_1 9 rfl rfl)
theorem dX1_ever_35 : decode cX1_ever 35 = .ok (.getfield 315, 3) := dk_180 1 59 (dk_at dksX1_ever_1 12 rfl rfl)
theorem dX1_ever_38 : decode cX1_ever 38 = .ok (.ishl, 1) := dk_120 (dk_at dksX1_ever_1 15 rfl rfl)
theorem dX1_ever_39 : decode cX1_ever 39 = .ok (.istore_n 2, 1) := dk_61 (dk_at dksX1_ever_1 16 rfl rfl)
theorem dX1_ever_40 : decode cX1_ever 40 = .ok (.iconst 0, 1) := dk_3 (dk_at dksX1_ever_1 17 rfl rfl)
theorem dX1_ever_41 : decode cX1_ever 41 = .ok (.istore_n 3, 1) := dk_62 (dk_at dksX1_ever_1 18 rfl rfl)
theorem dX1_ever_42 : decode cX1_ever 42 = .ok (.iconst 0, 1) := dk_3 (dk_at dksX1_ever_1 19 rfl rfl)
theorem dX1_ever_43 : decode cX1_ever 43 = .ok (.istore 4, 2) := dk_54 4 (dk_at dksX1_ever_1 20 rfl rfl)
theorem dX1_ever_45 : decode cX1_ever 45 = .ok (.aload_n 0, 1) := dk_42 (dk_at dksX1_ever_1 22 rfl rfl)
theorem dX1_ever_46 : decode cX1_ever 46 = .ok (.getfield 22, 3) := dk_180 0 22 (dk_at dksX1_ever_2 0 rfl rfl)
theorem dX1_ever_49 : decode cX1_ever 49 = .ok (.aload_n 0, 1) := dk_42 (dk_at dksX1_ever_2 3 rfl rfl)
theorem dX1_ever_50 : decode cX1_ever 50 = .ok (.getfield 18, 3) := dk_180 0 18 (dk_at dksX1_ever_2 4 rfl rfl)
theorem dX1_ever_53 : decode cX1_ever 53 = .ok (.invokevirtual 354, 3) := dk_182 1 98 (dk_at dksX1_ever_2 7 rfl rfl)
theorem dX1_ever_56 : decode cX1_ever 56 = .ok (.iconst 0, 1) := dk_3 (dk_at dksX1_ever_2 10 rfl rfl)
theorem dX1_ever_57 : decode cX1_ever 57 = .ok (.istore 5, 2) := dk_54 5 (dk_at dksX1_ever_2 11 rfl rfl)
theorem dX1_ever_59 : decode cX1_ever 59 = .ok (.iload 5, 2) := dk_21 5 (dk_at dksX1_ever_2 13 rfl rfl)
theorem dX1_ever_61 : decode cX1_ever 61 = .ok (.iload_n 1, 1) := dk_27 (dk_at dksX1_ever_2 15 rfl rfl)
theorem dX1_ever_62 : decode cX1_ever 62 = .ok (.if_icmp .ge 99, 3) := dk_162 0 99 (dk_at dksX1_ever_2 16 rfl rfl)
theorem dX1_ever_65 : decode cX1_ever 65 = .ok (.iload_n 2, 1) := dk_28 (dk_at dksX1_ever_2 19 rfl rfl)
theorem dX1_ever_66 : decode cX1_ever 66 = .ok (.istore 6, 2) := dk_54 6 (dk_at dksX1_ever_2 20 rfl rfl)
theorem dX1_ever_68 : decode cX1_ever 68 = .ok (.iconst 0, 1) := dk_3 (dk_at dksX1_ever_2 22 rfl rfl)
theorem dX1_ever_69 : decode cX1_ever 69 = .ok (.istore 7, 2) := dk_54 7 (dk_at dksX1_ever_3 0 rfl rfl)
theorem dX1_ever_71 : decode cX1_ever 71 = .ok (.iload 7, 2) := dk_21 7 (dk_at dksX1_ever_3 2 rfl rfl)
theorem dX1_ever_73 : decode cX1_ever 73 = .ok (.aload_n 0, 1) := dk_42 (dk_at dksX1_ever_3 4 rfl rfl)
theorem dX1_ever_74 : decode cX1_ever 74 = .ok (.getfield 157, 3) := dk_180 0 157 (dk_at dksX1_ever_3 5 rfl rfl)
theorem dX1_ever_77 : decode cX1_ever 77 = .ok (.if_icmp .ge 43, 3) := dk_162 0 43 (dk_at dksX1_ever_3 8 rfl rfl)
theorem dX1_ever_80 : decode cX1_ever 80 = .ok (.aload_n 0, 1) := dk_42 (dk_at dksX1_ever_3 11 rfl rfl)
theorem dX1_ever_81 : decode cX1_ever 81 = .ok (.getfield 18, 3) := dk_180 0 18 (dk_at dksX1_ever_3 12 rfl rfl)
theorem dX1_ever_84 : decode cX1_ever 84 = .ok (.getfield 168, 3) := dk_180 0 168 (dk_at dksX1_ever_3 15 rfl rfl)
theorem dX1_ever_87 : decode cX1_ever 87 = .ok (.iload 7, 2) := dk_21 7 (dk_at dksX1_ever_3 18 rfl rfl)
theorem dX1_ever_89 : decode cX1_ever 89 = .ok (.invokestatic 171, 3) := dk_184 0 171 (dk_at dksX1_ever_3 20 rfl rfl)
theorem dX1_ever_92 : decode cX1_ever 92 = .ok (.ifCond .eq 22, 3) := dk_153 0 22 (dk_at dksX1_ever_4 0 rfl rfl)
theorem dX1_ever_95 : decode cX1_ever 95 = .ok (.aload_n 0, 1) := dk_42 (dk_at dksX1_ever_4 3 rfl rfl)
theorem dX1_ever_96 : decode cX1_ever 96 = .ok (.iload 7, 2) := dk_21 7 (dk_at dksX1_ever_4 4 rfl rfl)
theorem dX1_ever_98 : decode cX1_ever 98 = .ok (.iload_n 2, 1) := dk_28 (dk_at dksX1_ever_4 6 rfl rfl)
theorem dX1_ever_99 : decode cX1_ever 99 = .ok (.invokevirtual 407, 3) := dk_182 1 151 (dk_at dksX1_ever_4 7 rfl rfl)
theorem dX1_ever_102 : decode cX1_ever 102 = .ok (.ifCond .eq 12, 3) := dk_153 0 12 (dk_at dksX1_ever_4 10 rfl rfl)
theorem dX1_ever_105 : decode cX1_ever 105 = .ok (.iload 6, 2) := dk_21 6 (dk_at dksX1_ever_4 13 rfl rfl)
theorem dX1_ever_107 : decode cX1_ever 107 = .ok (.iconst 1, 1) := dk_4 (dk_at dksX1_ever_4 15 rfl rfl)
theorem dX1_ever_108 : decode cX1_ever 108 = .ok (.iload 7, 2) := dk_21 7 (dk_at dksX1_ever_4 16 rfl rfl)
theorem dX1_ever_110 : decode cX1_ever 110 = .ok (.ishl, 1) := dk_120 (dk_at dksX1_ever_4 18 rfl rfl)
theorem dX1_ever_111 : decode cX1_ever 111 = .ok (.ior, 1) := dk_128 (dk_at dksX1_ever_4 19 rfl rfl)
theorem dX1_ever_112 : decode cX1_ever 112 = .ok (.istore 6, 2) := dk_54 6 (dk_at dksX1_ever_4 20 rfl rfl)
theorem dX1_ever_114 : decode cX1_ever 114 = .ok (.iinc 7 1, 3) := dk_132 7 1 (dk_at dksX1_ever_5 0 rfl rfl)
theorem dX1_ever_117 : decode cX1_ever 117 = .ok (.goto (-46), 3) := dk_167 255 210 (dk_at dksX1_ever_5 3 rfl rfl)
theorem dX1_ever_120 : decode cX1_ever 120 = .ok (.iload 6, 2) := dk_21 6 (dk_at dksX1_ever_5 6 rfl rfl)
theorem dX1_ever_122 : decode cX1_ever 122 = .ok (.istore_n 2, 1) := dk_61 (dk_at dksX1_ever_5 8 rfl rfl)
theorem dX1_ever_123 : decode cX1_ever 123 = .ok (.iload_n 2, 1) := dk_28 (dk_at dksX1_ever_5 9 rfl rfl)
theorem dX1_ever_124 : decode cX1_ever 124 = .ok (.sipush 255, 3) := dk_17 0 255 (dk_at dksX1_ever_5 10 rfl rfl)
theorem dX1_ever_127 : decode cX1_ever 127 = .ok (.iand, 1) := dk_126 (dk_at dksX1_ever_5 13 rfl rfl)
theorem dX1_ever_128 : decode cX1_ever 128 = .ok (.istore 4, 2) := dk_54 4 (dk_at dksX1_ever_5 14 rfl rfl)
theorem dX1_ever_130 : decode cX1_ever 130 = .ok (.iload_n 3, 1) := dk_29 (dk_at dksX1_ever_5 16 rfl rfl)
theorem dX1_ever_131 : decode cX1_ever 131 = .ok (.iload 4, 2) := dk_21 4 (dk_at dksX1_ever_5 17 rfl rfl)
theorem dX1_ever_133 : decode cX1_ever 133 = .ok (.ior, 1) := dk_128 (dk_at dksX1_ever_5 19 rfl rfl)
theorem dX1_ever_134 : decode cX1_ever 134 = .ok (.istore_n 3, 1) := dk_62 (dk_at dksX1_ever_5 20 rfl rfl)
theorem dX1_ever_135 : decode cX1_ever 135 = .ok (.aload_n 0, 1) := dk_42 (dk_at dksX1_ever_5 21 rfl rfl)
theorem dX1_ever_136 : decode cX1_ever 136 = .ok (.getfield 61, 3) := dk_180 0 61 (dk_at dksX1_ever_6 0 rfl rfl)
theorem dX1_ever_139 : decode cX1_ever 139 = .ok (.iconst 0, 1) := dk_3 (dk_at dksX1_ever_6 3 rfl rfl)
theorem dX1_ever_140 : decode cX1_ever 140 = .ok (.putfield 360, 3) := dk_181 1 104 (dk_at dksX1_ever_6 4 rfl rfl)
theorem dX1_ever_143 : decode cX1_ever 143 = .ok (.aload_n 0, 1) := dk_42 (dk_at dksX1_ever_6 7 rfl rfl)
theorem dX1_ever_144 : decode cX1_ever 144 = .ok (.aload_n 0, 1) := dk_42 (dk_at dksX1_ever_6 8 rfl rfl)
theorem dX1_ever_145 : decode cX1_ever 145 = .ok (.getfield 22, 3) := dk_180 0 22 (dk_at dksX1_ever_6 9 rfl rfl)
theorem dX1_ever_148 : decode cX1_ever 148 = .ok (.aload_n 0, 1) := dk_42 (dk_at dksX1_ever_6 12 rfl rfl)
theorem dX1_ever_149 : decode cX1_ever 149 = .ok (.getfield 61, 3) := dk_180 0 61 (dk_at dksX1_ever_6 13 rfl rfl)
theorem dX1_ever_152 : decode cX1_ever 152 = .ok (.invokevirtual 363, 3) := dk_182 1 107 (dk_at dksX1_ever_6 16 rfl rfl)
theorem dX1_ever_155 : decode cX1_ever 155 = .ok (.iinc 5 1, 3) := dk_132 5 1 (dk_at dksX1_ever_6 19 rfl rfl)
theorem dX1_ever_158 : decode cX1_ever 158 = .ok (.goto (-99), 3) := dk_167 255 157 (dk_at dksX1_ever_7 0 rfl rfl)
theorem dX1_ever_161 : decode cX1_ever 161 = .ok (.aload_n 0, 1) := dk_42 (dk_at dksX1_ever_7 3 rfl rfl)
theorem dX1_ever_162 : decode cX1_ever 162 = .ok (.iconst 0, 1) := dk_3 (dk_at dksX1_ever_7 4 rfl rfl)
theorem dX1_ever_163 : decode cX1_ever 163 = .ok (.putfield 154, 3) := dk_181 0 154 (dk_at dksX1_ever_7 5 rfl rfl)
theorem dX1_ever_166 : decode cX1_ever 166 = .ok (.aload_n 0, 1) := dk_42 (dk_at dksX1_ever_7 8 rfl rfl)
theorem dX1_ever_167 : decode cX1_ever 167 = .ok (.iload 4, 2) := dk_21 4 (dk_at dksX1_ever_7 9 rfl rfl)
theorem dX1_ever_169 : decode cX1_ever 169 = .ok (.i2l, 1) := dk_133 (dk_at dksX1_ever_7 11 rfl rfl)
theorem dX1_ever_170 : decode cX1_ever 170 = .ok (.invokevirtual 367, 3) := dk_182 1 111 (dk_at dksX1_ever_7 12 rfl rfl)
theorem dX1_ever_173 : decode cX1_ever 173 = .ok (.iload_n 3, 1) := dk_29 (dk_at dksX1_ever_7 15 rfl rfl)
theorem dX1_ever_174 : decode cX1_ever 174 = .ok (.ireturn, 1) := dk_172 (dk_at dksX1_ever_7 16 rfl rfl)
def dkwX1_canFollow_2 : List UInt8 := [180, 0, 236, 29, 46, 182, 1, 28, 164, 0, 5, 4, 172, 132, 3, 1, 167, 255, 206, 3, 172]
abbrev dktX1_canFollow_2 : List UInt8 := dkwX1_canFollow_2 ++ []
def dkwX1_canFollow_1 : List UInt8 := [184, 0, 171, 153, 0, 34, 42, 42, 180, 0, 22, 180, 0, 236, 27, 46, 182, 1, 28, 42, 42, 180, 0, 22]
abbrev dktX1_canFollow_1 : List UInt8 := dkwX1_canFollow_1 ++ dktX1_canFollow_2
def dkwX1_canFollow_0 : List UInt8 := [28, 16, 8, 184, 0, 171, 153, 0, 5, 4, 172, 3, 62, 29, 42, 180, 0, 157, 162, 0, 48, 28, 29]
abbrev dktX1_canFollow_0 : List UInt8 := dkwX1_canFollow_0 ++ dktX1_canFollow_1
theorem dksX1_canFollow_0 : cX1_canFollow.data.toList.drop 0 = dktX1_canFollow_0 := by decide +kernel
theorem dksX1_canFollow_1 : cX1_canFollow.data.toList.drop 23 = dktX1_canFollow_1 := dk_seg dksX1_canFollow_0 23 rfl rfl
theorem dksX1_canFollow_2 : cX1_canFollow.data.toList.drop 47 = dktX1_canFollow_2 := dk_seg dksX1_canFollow_1 24 rfl rfl
theorem dX1_canFollow_0 : decode cX1_canFollow 0 = .ok (.iload_n 2, 1) := dk_28 (dk_at dksX1_canFollow_0 0 rfl rfl)
theorem dX1_canFollow_1 : decode cX1_canFollow 1 = .ok (.bipush 8, 2) := dk_16 8 (dk_at dksX1_canFollow_0 1 rfl rfl)
theorem dX1_canFollow_3 : decode cX1_canFollow 3 = .ok (.invokestatic 171, 3) := dk_184 0 171 (dk_at dksX1_canFollow_0 3 rfl rfl)
theorem dX1_canFollow_6 : decode cX1_canFollow 6 = .ok (.ifCond .eq 5, 3) := dk_153 0 5 (dk_at dksX1_canFollow_0 6 rfl rfl)
theorem dX1_canFollow_9 : decode cX1_canFollow 9 = .ok (.iconst 1, 1) := dk_4 (dk_at dksX1_canFollow_0 9 rfl rfl)
theorem dX1_canFollow_10 : decode cX1_canFollow 10 = .ok (.ireturn, 1) := dk_172 (dk_at dksX1_canFollow_0 10 rfl rfl)
theorem dX1_canFollow_11 : decode cX1_canFollow 11 = .ok (.iconst 0, 1) := dk_3 (dk_at dksX1_canFollow_0 11 rfl rfl)
theorem dX1_canFollow_12 : decode cX1_canFollow 12 = .ok (.istore_n 3, 1) := dk_62 (dk_at dksX1_canFollow_0 12 rfl rfl)
theorem dX1_canFollow_13 : decode cX1_canFollow 13 = .ok (.iload_n 3, 1) := dk_29 (dk_at dksX1_canFollow_0 13 rfl rfl)
theorem dX1_canFollow_14 : decode cX1_canFollow 14 = .ok (.aload_n 0, 1) := dk_42 (dk_at dksX1_canFollow_0 14 rfl rfl)
theorem dX1_canFollow_15 : decode cX1_canFollow 15 = .ok (.getfield 157, 3) := dk_180 0 157 (dk_at dksX1_canFollow_0 15 rfl rfl)
theorem dX1_canFollow_18 : decode cX1_canFollow 18 = .ok (.if_icmp .ge 48, 3) := dk_162 0 48 (dk_at dksX1_canFollow_0 18 rfl rfl)
theorem dX1_canFollow_21 : decode cX1_canFollow 21 = .ok (.iload_n 2, 1) := dk_28 (dk_at dksX1_canFollow_0 21 rfl rfl)
theorem dX1_canFollow_22 : decode cX1_canFollow 22 = .ok (.iload_n 3, 1) := dk_29 (dk_at dksX1_canFollow_0 22 rfl rfl)
theorem dX1_canFollow_23 : decode cX1_canFollow 23 = .ok (.invokestatic 171, 3) := dk_184 0 171 (dk_at dksX1_canFollow_1 0 rfl rfl)
theorem dX1_canFollow_26 : decode cX1_canFollow 26 = .ok (.ifCond .eq 34, 3) := dk_153 0 34 (dk_at dksX1_canFollow_1 3 rfl rfl)
theorem dX1_canFollow_29 : decode cX1_canFollow 29 = .ok (.aload_n 0, 1) := dk_42 (dk_at dksX1_canFollow_1 6 rfl rfl)
theorem dX1_canFollow_30 : decode cX1_canFollow 30 = .ok (.aload_n 0, 1) := dk_42 (dk_at dksX1_canFollow_1 7 rfl rfl)
theorem dX1_canFollow_31 : decode cX1_canFollow 31 = .ok (.getfield 22, 3) := dk_180 0 22 (dk_at dksX1_canFollow_1 8 rfl rfl)
theorem dX1_canFollow_34 : decode cX1_canFollow 34 = .ok (.getfield 236, 3) := dk_180 0 236 (dk_at dksX1_canFollow_1 11 rfl rfl)
theorem dX1_canFollow_37 : decode cX1_canFollow 37 = .ok (.iload_n 1, 1) := dk_27 (dk_at dksX1_canFollow_1 14 rfl rfl)
theorem dX1_canFollow_38 : decode cX1_canFollow 38 = .ok (.iaload, 1) := dk_46 (dk_at dksX1_canFollow_1 15 rfl rfl)
theorem dX1_canFollow_39 : decode cX1_canFollow 39 = .ok (.invokevirtual 284, 3) := dk_182 1 28 (dk_at dksX1_canFollow_1 16 rfl rfl)
theorem dX1_canFollow_42 : decode cX1_canFollow 42 = .ok (.aload_n 0, 1) := dk_42 (dk_at dksX1_canFollow_1 19 rfl rfl)
theorem dX1_canFollow_43 : decode cX1_canFollow 43 = .ok (.aload_n 0, 1) := dk_42 (dk_at dksX1_canFollow_1 20 rfl rfl)
theorem dX1_canFollow_44 : decode cX1_canFollow 44 = .ok (.getfield 22, 3) := dk_180 0 22 (dk_at dksX1_canFollow_1 21 rfl rfl)
theorem dX1_canFollow_47 : decode cX1_canFollow 47 = .ok (.getfield 236, 3) := dk_180 0 236 (dk_at dksX1_canFollow_2 0 rfl rfl)
theorem dX1_canFollow_50 : decode cX1_canFollow 50 = .ok (.iload_n 3, 1) := dk_29 (dk_at dksX1_canFollow_2 3 rfl rfl)
theorem dX1_canFollow_51 : decode cX1_canFollow 51 = .ok (.iaload, 1) := dk_46 (dk_at dksX1_canFollow_2 4 rfl rfl)
theorem dX1_canFollow_52 : decode cX1_canFollow 52 = .ok (.invokevirtual 284, 3) := dk_182 1 28 (dk_at dksX1_canFollow_2 5 rfl rfl)
theorem dX1_canFollow_55 : decode cX1_canFollow 55 = .ok (.if_icmp .le 5, 3) := dk_164 0 5 (dk_at dksX1_canFollow_2 8 rfl rfl)
theorem dX1_canFollow_58 : decode cX1_canFollow 58 = .ok (.iconst 1, 1) := dk_4 (dk_at dksX1_canFollow_2 11 rfl rfl)
theorem dX1_canFollow_59 : decode cX1_canFollow 59 = .ok (.ireturn, 1) := dk_172 (dk_at dksX1_canFollow_2 12 rfl rfl)
theorem dX1_canFollow_60 : decode cX1_canFollow 60 = .ok (.iinc 3 1, 3) := dk_132 3 1 (dk_at dksX1_canFollow_2 13 rfl rfl)
theorem dX1_canFollow_63 : decode cX1_canFollow 63 = .ok (.goto (-50), 3) := dk_167 255 206 (dk_at dksX1_canFollow_2 16 rfl rfl)
theorem dX1_canFollow_66 : decode cX1_canFollow 66 = .ok (.iconst 0, 1) := dk_3 (dk_at dksX1_canFollow_2 19 rfl rfl)
theorem dX1_canFollow_67 : decode cX1_canFollow 67 = .ok (.ireturn, 1) := dk_172 (dk_at dksX1_canFollow_2 20 rfl rfl)
def dkwX1_most_5 : List UInt8 := [132, 5, 1, 167, 255, 188, 42, 3, 181, 0, 154, 42, 29, 133, 182, 1, 111, 21, 4, 172]
abbrev dktX1_most_5 : List UInt8 := dkwX1_most_5 ++ []
def dkwX1_most_4 : List UInt8 := [21, 5, 184, 1, 169, 29, 184, 1, 169, 161, 0, 6, 167, 0, 10, 21, 5, 62, 21, 6, 54, 4]
abbrev dktX1_most_4 : List UInt8 := dkwX1_most_4 ++ dktX1_most_5
def dkwX1_most_3 : List UInt8 := [28, 42, 180, 0, 68, 182, 1, 165, 54, 6, 21, 6, 21, 4, 161, 0, 32, 21, 6, 21, 4, 160, 0, 18]
abbrev dktX1_most_3 : List UInt8 := dkwX1_most_3 ++ dktX1_most_4
def dkwX1_most_2 : List UInt8 := [54, 4, 3, 54, 5, 21, 5, 4, 28, 120, 162, 0, 66, 42, 180, 0, 68, 21, 5, 181, 1, 162, 42, 27]
abbrev dktX1_most_2 : List UInt8 := dkwX1_most_2 ++ dktX1_most_3
def dkwX1_most_1 : List UInt8 := [180, 0, 68, 27, 181, 1, 156, 42, 180, 0, 68, 42, 180, 0, 18, 180, 1, 92, 181, 1, 159, 3, 62, 2]
abbrev dktX1_most_1 : List UInt8 := dkwX1_most_1 ++ dktX1_most_2
def dkwX1_most_0 : List UInt8 := [42, 27, 182, 1, 146, 153, 0, 15, 28, 133, 9, 20, 1, 154, 184, 0, 160, 154, 0, 5, 2, 172, 42]
abbrev dktX1_most_0 : List UInt8 := dkwX1_most_0 ++ dktX1_most_1
theorem dksX1_most_0 : cX1_most.data.toList.drop 0 = dktX1_most_0 := by decide +kernel
theorem dksX1_most_1 : cX1_most.data.toList.drop 23 = dktX1_most_1 := dk_seg dksX1_most_0 23 rfl rfl
theorem dksX1_most_2 : cX1_most.data.toList.drop 47 = dktX1_most_2 := dk_seg dksX1_most_1 24 rfl rfl
theorem dksX1_most_3 : cX1_most.data.toList.drop 71 = dktX1_most_3 := dk_seg dksX1_most_2 24 rfl rfl
theorem dksX1_most_4 : cX1_most.data.toList.drop 95 = dktX1_most_4 := dk_seg dksX1_most_3 24 rfl rfl
theorem dksX1_most_5 : cX1_most.data.toList.drop 117 = dktX1_most_5 := dk_seg dksX1_most_4 22 rfl rfl
theorem dX1_most_0 : decode cX1_most 0 = .ok (.aload_n 0, 1) := dk_42 (dk_at dksX1_most_0 0 rfl rfl)
theorem dX1_most_1 : decode cX1_most 1 = .ok (.iload_n 1, 1) := dk_27 (dk_at dksX1_most_0 1 rfl rfl)
theorem dX1_most_2 : decode cX1_most 2 = .ok (.invokevirtual 402, 3) := dk_182 1 146 (dk_at dksX1_most_0 2 rfl rfl)
theorem dX1_most_5 : decode cX1_most 5 = .ok (.ifCond .eq 15, 3) := dk_153 0 15 (dk_at dksX1_most_0 5 rfl rfl)
theorem dX1_most_8 : decode cX1_most 8 = .ok (.iload_n 2, 1) := dk_28 (dk_at dksX1_most_0 8 rfl rfl)
theorem dX1_most_9 : decode cX1_most 9 = .ok (.i2l, 1) := dk_133 (dk_at dksX1_most_0 9 rfl rfl)
theorem dX1_most_10 : decode cX1_most 10 = .ok (.lconst 0, 1) := dk_9 (dk_at dksX1_most_0 10 rfl rfl)
theorem dX1_most_11 : decode cX1_most 11 = .ok (.ldc2_w 410, 3) := dk_20 1 154 (dk_at dksX1_most_0 11 rfl rfl)
theorem dX1_most_14 : decode cX1_most 14 = .ok (.invokestatic 160, 3) := dk_184 0 160 (dk_at dksX1_most_0 14 rfl rfl)
theorem dX1_most_17 : decode cX1_most 17 = .ok (.ifCond .ne 5, 3) := dk_154 0 5 (dk_at dksX1_most_0 17 rfl rfl)
theorem dX1_most_20 : decode cX1_most 20 = .ok (.iconst (-1), 1) := dk_2 (dk_at dksX1_most_0 20 rfl rfl)
theorem dX1_most_21 : decode cX1_most 21 = .ok (.ireturn, 1) := dk_172 (dk_at dksX1_most_0 21 rfl rfl)
theorem dX1_most_22 : decode cX1_most 22 = .ok (.aload_n 0, 1) := dk_42 (dk_at dksX1_most_0 22 rfl rfl)
theorem dX1_most_23 : decode cX1_most 23 = .ok (.getfield 68, 3) := dk_180 0 68 (dk_at dksX1_most_1 0 rfl rfl)
theorem dX1_most_26 : decode cX1_most 26 = .ok (.iload_n 1, 1) := dk_27 (dk_at dksX1_most_1 3 rfl rfl)
theorem dX1_most_27 : decode cX1_most 27 = .ok (.putfield 412, 3) := dk_181 1 156 (dk_at dksX1_most_1 4 rfl rfl)
theorem dX1_most_30 : decode cX1_most 30 = .ok (.aload_n 0, 1) := dk_42 (dk_at dksX1_most_1 7 rfl rfl)
theorem dX1_most_31 : decode cX1_most 31 = .ok (.getfield 68, 3) := dk_180 0 68 (dk_at dksX1_most_1 8 rfl rfl)
theorem dX1_most_34 : decode cX1_most 34 = .ok (.aload_n 0, 1) := dk_42 (dk_at dksX1_most_1 11 rfl rfl)
theorem dX1_most_35 : decode cX1_most 35 = .ok (.getfield 18, 3) := dk_180 0 18 (dk_at dksX1_most_1 12 rfl rfl)
theorem dX1_most_38 : decode cX1_most 38 = .ok (.getfield 348, 3) := dk_180 1 92 (dk_at dksX1_most_1 15 rfl rfl)
theorem dX1_most_41 : decode cX1_most 41 = .ok (.putfield 415, 3) := dk_181 1 159 (dk_at dksX1_most_1 18 rfl rfl)
theorem dX1_most_44 : decode cX1_most 44 = .ok (.iconst 0, 1) := dk_3 (dk_at dksX1_most_1 21 rfl rfl)
theorem dX1_most_45 : decode cX1_most 45 = .ok (.istore_n 3, 1) := dk_62 (dk_at dksX1_most_1 22 rfl rfl)
theorem dX1_most_46 : decode cX1_most 46 = .ok (.iconst (-1), 1) := dk_2 (dk_at dksX1_most_1 23 rfl rfl)
theorem dX1_most_47 : decode cX1_most 47 = .ok (.istore 4, 2) := dk_54 4 (dk_at dksX1_most_2 0 rfl rfl)
theorem dX1_most_49 : decode cX1_most 49 = .ok (.iconst 0, 1) := dk_3 (dk_at dksX1_most_2 2 rfl rfl)
theorem dX1_most_50 : decode cX1_most 50 = .ok (.istore 5, 2) := dk_54 5 (dk_at dksX1_most_2 3 rfl rfl)
theorem dX1_most_52 : decode cX1_most 52 = .ok (.iload 5, 2) := dk_21 5 (dk_at dksX1_most_2 5 rfl rfl)
theorem dX1_most_54 : decode cX1_most 54 = .ok (.iconst 1, 1) := dk_4 (dk_at dksX1_most_2 7 rfl rfl)
theorem dX1_most_55 : decode cX1_most 55 = .ok (.iload_n 2, 1) := dk_28 (dk_at dksX1_most_2 8 rfl rfl)
theorem dX1_most_56 : decode cX1_most 56 = .ok (.ishl, 1) := dk_120 (dk_at dksX1_most_2 9 rfl rfl)
theorem dX1_most_57 : decode cX1_most 57 = .ok (.if_icmp .ge 66, 3) := dk_162 0 66 (dk_at dksX1_most_2 10 rfl rfl)
theorem dX1_most_60 : decode cX1_most 60 = .ok (.aload_n 0, 1) := dk_42 (dk_at dksX1_most_2 13 rfl rfl)
theorem dX1_most_61 : decode cX1_most 61 = .ok (.getfield 68, 3) := dk_180 0 68 (dk_at dksX1_most_2 14 rfl rfl)
theorem dX1_most_64 : decode cX1_most 64 = .ok (.iload 5, 2) := dk_21 5 (dk_at dksX1_most_2 17 rfl rfl)
theorem dX1_most_66 : decode cX1_most 66 = .ok (.putfield 418, 3) := dk_181 1 162 (dk_at dksX1_most_2 19 rfl rfl)
theorem dX1_most_69 : decode cX1_most 69 = .ok (.aload_n 0, 1) := dk_42 (dk_at dksX1_most_2 22 rfl rfl)
theorem dX1_most_70 : decode cX1_most 70 = .ok (.iload_n 1, 1) := dk_27 (dk_at dksX1_most_2 23 rfl rfl)
theorem dX1_most_71 : decode cX1_most 71 = .ok (.iload_n 2, 1) := dk_28 (dk_at dksX1_most_3 0 rfl rfl)
theorem dX1_most_72 : decode cX1_most 72 = .ok (.aload_n 0, 1) := dk_42 (dk_at dksX1_most_3 1 rfl rfl)
theorem dX1_most_73 : decode cX1_most 73 = .ok (.getfield 68, 3) := dk_180 0 68 (dk_at dksX1_most_3 2 rfl rfl)
theorem dX1_most_76 : decode cX1_most 76 = .ok (.invokevirtual 421, 3) := dk_182 1 165 (dk_at dksX1_most_3 5 rfl rfl)
theorem dX1_most_79 : decode cX1_most 79 = .ok (.istore 6, 2) := dk_54 6 (dk_at dksX1_most_3 8 rfl rfl)
theorem dX1_most_81 : decode cX1_most 81 = .ok (.iload 6, 2) := dk_21 6 (dk_at dksX1_most_3 10 rfl rfl)
theorem dX1_most_83 : decode cX1_most 83 = .ok (.iload 4, 2) := dk_21 4 (dk_at dksX1_most_3 12 rfl rfl)
theorem dX1_most_85 : decode cX1_most 85 = .ok (.if_icmp .lt 32, 3) := dk_161 0 32 (dk_at dksX1_most_3 14 rfl rfl)
theorem dX1_most_88 : decode cX1_most 88 = .ok (.iload 6, 2) := dk_21 6 (dk_at dksX1_most_3 17 rfl rfl)
theorem dX1_most_90 : decode cX1_most 90 = .ok (.iload 4, 2) := dk_21 4 (dk_at dksX1_most_3 19 rfl rfl)
theorem dX1_most_92 : decode cX1_most 92 = .ok (.if_icmp .ne 18, 3) := dk_160 0 18 (dk_at dksX1_most_3 21 rfl rfl)
theorem dX1_most_95 : decode cX1_most 95 = .ok (.iload 5, 2) := dk_21 5 (dk_at dksX1_most_4 0 rfl rfl)
theorem dX1_most_97 : decode cX1_most 97 = .ok (.invokestatic 425, 3) := dk_184 1 169 (dk_at dksX1_most_4 2 rfl rfl)
theorem dX1_most_100 : decode cX1_most 100 = .ok (.iload_n 3, 1) := dk_29 (dk_at dksX1_most_4 5 rfl rfl)
theorem dX1_most_101 : decode cX1_most 101 = .ok (.invokestatic 425, 3) := dk_184 1 169 (dk_at dksX1_most_4 6 rfl rfl)
theorem dX1_most_104 : decode cX1_most 104 = .ok (.if_icmp .lt 6, 3) := dk_161 0 6 (dk_at dksX1_most_4 9 rfl rfl)
theorem dX1_most_107 : decode cX1_most 107 = .ok (.goto 10, 3) := dk_167 0 10 (dk_at dksX1_most_4 12 rfl rfl)
theorem dX1_most_110 : decode cX1_most 110 = .ok (.iload 5, 2) := dk_21 5 (dk_at dksX1_most_4 15 rfl rfl)
theorem dX1_most_112 : decode cX1_most 112 = .ok (.istore_n 3, 1) := dk_62 (dk_at dksX1_most_4 17 rfl rfl)
theorem dX1_most_113 : decode cX1_most 113 = .ok (.iload 6, 2) := dk_21 6 (dk_at dksX1_most_4 18 rfl rfl)
theorem dX1_most_115 : decode cX1_most 115 = .ok (.istore 4, 2) := dk_54 4 (dk_at dksX1_most_4 20 rfl rfl)
theorem dX1_most_117 : decode cX1_most 117 = .ok (.iinc 5 1, 3) := dk_132 5 1 (dk_at dksX1_most_5 0 rfl rfl)
theorem dX1_most_120 : decode cX1_most 120 = .ok (.goto (-68), 3) := dk_167 255 188 (dk_at dksX1_most_5 3 rfl rfl)
theorem dX1_most_123 : decode cX1_most 123 = .ok (.aload_n 0, 1) := dk_42 (dk_at dksX1_most_5 6 rfl rfl)
theorem dX1_most_124 : decode cX1_most 124 = .ok (.iconst 0, 1) := dk_3 (dk_at dksX1_most_5 7 rfl rfl)
theorem dX1_most_125 : decode cX1_most 125 = .ok (.putfield 154, 3) := dk_181 0 154 (dk_at dksX1_most_5 8 rfl rfl)
theorem dX1_most_128 : decode cX1_most 128 = .ok (.aload_n 0, 1) := dk_42 (dk_at dksX1_most_5 11 rfl rfl)
theorem dX1_most_129 : decode cX1_most 129 = .ok (.iload_n 3, 1) := dk_29 (dk_at dksX1_most_5 12 rfl rfl)
theorem dX1_most_130 : decode cX1_most 130 = .ok (.i2l, 1) := dk_133 (dk_at dksX1_most_5 13 rfl rfl)
theorem dX1_most_131 : decode cX1_most 131 = .ok (.invokevirtual 367, 3) := dk_182 1 111 (dk_at dksX1_most_5 14 rfl rfl)
theorem dX1_most_134 : decode cX1_most 134 = .ok (.iload 4, 2) := dk_21 4 (dk_at dksX1_most_5 17 rfl rfl)
theorem dX1_most_136 : decode cX1_most 136 = .ok (.ireturn, 1) := dk_172 (dk_at dksX1_most_5 19 rfl rfl)
def dkwX1_servesBy_2 : List UInt8 := [180, 0, 18, 180, 0, 239, 27, 46, 100, 172]
abbrev dktX1_servesBy_2 : List UInt8 := dkwX1_servesBy_2 ++ []
def dkwX1_servesBy_1 : List UInt8 := [180, 0, 22, 45, 182, 1, 107, 132, 4, 1, 167, 255, 238, 42, 180, 0, 22, 180, 0, 239, 27, 46, 42]
abbrev dktX1_servesBy_1 : List UInt8 := dkwX1_servesBy_1 ++ dktX1_servesBy_2
def dkwX1_servesBy_0 : List UInt8 := [42, 180, 0, 22, 42, 180, 0, 18, 182, 1, 98, 3, 54, 4, 21, 4, 28, 162, 0, 18, 42, 42]
abbrev dktX1_servesBy_0 : List UInt8 := dkwX1_servesBy_0 ++ dktX1_servesBy_1
theorem dksX1_servesBy_0 : cX1_servesBy.data.toList.drop 0 = dktX1_servesBy_0 := by decide +kernel
theorem dksX1_servesBy_1 : cX1_servesBy.data.toList.drop 22 = dktX1_servesBy_1 := dk_seg dksX1_servesBy_0 22 rfl rfl
theorem dksX1_servesBy_2 : cX1_servesBy.data.toList.drop 45 = dktX1_servesBy_2 := dk_seg dksX1_servesBy_1 23 rfl rfl
theorem dX1_servesBy_0 : decode cX1_servesBy 0 = .ok (.aload_n 0, 1) := dk_42 (dk_at dksX1_servesBy_0 0 rfl rfl)
theorem dX1_servesBy_1 : decode cX1_servesBy 1 = .ok (.getfield 22, 3) := dk_180 0 22 (dk_at dksX1_servesBy_0 1 rfl rfl)
theorem dX1_servesBy_4 : decode cX1_servesBy 4 = .ok (.aload_n 0, 1) := dk_42 (dk_at dksX1_servesBy_0 4 rfl rfl)
theorem dX1_servesBy_5 : decode cX1_servesBy 5 = .ok (.getfield 18, 3) := dk_180 0 18 (dk_at dksX1_servesBy_0 5 rfl rfl)
theorem dX1_servesBy_8 : decode cX1_servesBy 8 = .ok (.invokevirtual 354, 3) := dk_182 1 98 (dk_at dksX1_servesBy_0 8 rfl rfl)
theorem dX1_servesBy_11 : decode cX1_servesBy 11 = .ok (.iconst 0, 1) := dk_3 (dk_at dksX1_servesBy_0 11 rfl rfl)
theorem dX1_servesBy_12 : decode cX1_servesBy 12 = .ok (.istore 4, 2) := dk_54 4 (dk_at dksX1_servesBy_0 12 rfl rfl)
theorem dX1_servesBy_14 : decode cX1_servesBy 14 = .ok (.iload 4, 2) := dk_21 4 (dk_at dksX1_servesBy_0 14 rfl rfl)
theorem dX1_servesBy_16 : decode cX1_servesBy 16 = .ok (.iload_n 2, 1) := dk_28 (dk_at dksX1_servesBy_0 16 rfl rfl)
theorem dX1_servesBy_17 : decode cX1_servesBy 17 = .ok (.if_icmp .ge 18, 3) := dk_162 0 18 (dk_at dksX1_servesBy_0 17 rfl rfl)
theorem dX1_servesBy_20 : decode cX1_servesBy 20 = .ok (.aload_n 0, 1) := dk_42 (dk_at dksX1_servesBy_0 20 rfl rfl)
theorem dX1_servesBy_21 : decode cX1_servesBy 21 = .ok (.aload_n 0, 1) := dk_42 (dk_at dksX1_servesBy_0 21 rfl rfl)
theorem dX1_servesBy_22 : decode cX1_servesBy 22 = .ok (.getfield 22, 3) := dk_180 0 22 (dk_at dksX1_servesBy_1 0 rfl rfl)
theorem dX1_servesBy_25 : decode cX1_servesBy 25 = .ok (.aload_n 3, 1) := dk_45 (dk_at dksX1_servesBy_1 3 rfl rfl)
theorem dX1_servesBy_26 : decode cX1_servesBy 26 = .ok (.invokevirtual 363, 3) := dk_182 1 107 (dk_at dksX1_servesBy_1 4 rfl rfl)
theorem dX1_servesBy_29 : decode cX1_servesBy 29 = .ok (.iinc 4 1, 3) := dk_132 4 1 (dk_at dksX1_servesBy_1 7 rfl rfl)
theorem dX1_servesBy_32 : decode cX1_servesBy 32 = .ok (.goto (-18), 3) := dk_167 255 238 (dk_at dksX1_servesBy_1 10 rfl rfl)
theorem dX1_servesBy_35 : decode cX1_servesBy 35 = .ok (.aload_n 0, 1) := dk_42 (dk_at dksX1_servesBy_1 13 rfl rfl)
theorem dX1_servesBy_36 : decode cX1_servesBy 36 = .ok (.getfield 22, 3) := dk_180 0 22 (dk_at dksX1_servesBy_1 14 rfl rfl)
theorem dX1_servesBy_39 : decode cX1_servesBy 39 = .ok (.getfield 239, 3) := dk_180 0 239 (dk_at dksX1_servesBy_1 17 rfl rfl)
theorem dX1_servesBy_42 : decode cX1_servesBy 42 = .ok (.iload_n 1, 1) := dk_27 (dk_at dksX1_servesBy_1 20 rfl rfl)
theorem dX1_servesBy_43 : decode cX1_servesBy 43 = .ok (.iaload, 1) := dk_46 (dk_at dksX1_servesBy_1 21 rfl rfl)
theorem dX1_servesBy_44 : decode cX1_servesBy 44 = .ok (.aload_n 0, 1) := dk_42 (dk_at dksX1_servesBy_1 22 rfl rfl)
theorem dX1_servesBy_45 : decode cX1_servesBy 45 = .ok (.getfield 18, 3) := dk_180 0 18 (dk_at dksX1_servesBy_2 0 rfl rfl)
theorem dX1_servesBy_48 : decode cX1_servesBy 48 = .ok (.getfield 239, 3) := dk_180 0 239 (dk_at dksX1_servesBy_2 3 rfl rfl)
theorem dX1_servesBy_51 : decode cX1_servesBy 51 = .ok (.iload_n 1, 1) := dk_27 (dk_at dksX1_servesBy_2 6 rfl rfl)
theorem dX1_servesBy_52 : decode cX1_servesBy 52 = .ok (.iaload, 1) := dk_46 (dk_at dksX1_servesBy_2 7 rfl rfl)
theorem dX1_servesBy_53 : decode cX1_servesBy 53 = .ok (.isub, 1) := dk_100 (dk_at dksX1_servesBy_2 8 rfl rfl)
theorem dX1_servesBy_54 : decode cX1_servesBy 54 = .ok (.ireturn, 1) := dk_172 (dk_at dksX1_servesBy_2 9 rfl rfl)
def dkwX1_rests_7 : List UInt8 := [42, 180, 0, 75, 180, 1, 179, 21, 5, 46, 133, 182, 1, 111, 132, 5, 1, 167, 255, 229, 29, 172]
abbrev dktX1_rests_7 : List UInt8 := dkwX1_rests_7 ++ []
def dkwX1_rests_6 : List UInt8 := [153, 0, 7, 10, 167, 0, 4, 9, 182, 1, 111, 3, 54, 5, 21, 5, 42, 180, 0, 157, 162, 0, 24, 42]
abbrev dktX1_rests_6 : List UInt8 := dkwX1_rests_6 ++ dktX1_rests_7
def dkwX1_rests_5 : List UInt8 := [167, 0, 4, 3, 126, 54, 4, 132, 5, 1, 167, 255, 209, 167, 255, 187, 42, 3, 181, 0, 154, 42, 21, 4]
abbrev dktX1_rests_5 : List UInt8 := dkwX1_rests_5 ++ dktX1_rests_6
def dkwX1_rests_4 : List UInt8 := [180, 0, 168, 21, 5, 184, 0, 171, 153, 0, 13, 42, 21, 5, 27, 182, 1, 188, 154, 0, 7, 4]
abbrev dktX1_rests_4 : List UInt8 := dkwX1_rests_4 ++ dktX1_rests_5
def dkwX1_rests_3 : List UInt8 := [54, 4, 132, 3, 1, 3, 54, 5, 21, 5, 42, 180, 0, 157, 162, 0, 44, 21, 4, 42, 180, 0, 18]
abbrev dktX1_rests_3 : List UInt8 := dkwX1_rests_3 ++ dktX1_rests_4
def dkwX1_rests_2 : List UInt8 := [27, 120, 4, 100, 184, 1, 182, 3, 62, 3, 54, 4, 29, 28, 162, 0, 70, 21, 4, 154, 0, 65, 4]
abbrev dktX1_rests_2 : List UInt8 := dkwX1_rests_2 ++ dktX1_rests_3
def dkwX1_rests_1 : List UInt8 := [2, 172, 42, 180, 0, 75, 42, 180, 0, 18, 180, 1, 92, 181, 1, 178, 42, 180, 0, 75, 180, 1, 179, 4]
abbrev dktX1_rests_1 : List UInt8 := dkwX1_rests_1 ++ dktX1_rests_2
def dkwX1_rests_0 : List UInt8 := [27, 133, 10, 20, 1, 174, 184, 0, 160, 153, 0, 15, 28, 133, 9, 20, 1, 176, 184, 0, 160, 154, 0, 5]
abbrev dktX1_rests_0 : List UInt8 := dkwX1_rests_0 ++ dktX1_rests_1
theorem dksX1_rests_0 : cX1_rests.data.toList.drop 0 = dktX1_rests_0 := by decide +kernel
theorem dksX1_rests_1 : cX1_rests.data.toList.drop 24 = dktX1_rests_1 := dk_seg dksX1_rests_0 24 rfl rfl
theorem dksX1_rests_2 : cX1_rests.data.toList.drop 48 = dktX1_rests_2 := dk_seg dksX1_rests_1 24 rfl rfl
theorem dksX1_rests_3 : cX1_rests.data.toList.drop 71 = dktX1_rests_3 := dk_seg dksX1_rests_2 23 rfl rfl
theorem dksX1_rests_4 : cX1_rests.data.toList.drop 94 = dktX1_rests_4 := dk_seg dksX1_rests_3 23 rfl rfl
theorem dksX1_rests_5 : cX1_rests.data.toList.drop 116 = dktX1_rests_5 := dk_seg dksX1_rests_4 22 rfl rfl
theorem dksX1_rests_6 : cX1_rests.data.toList.drop 140 = dktX1_rests_6 := dk_seg dksX1_rests_5 24 rfl rfl
theorem dksX1_rests_7 : cX1_rests.data.toList.drop 164 = dktX1_rests_7 := dk_seg dksX1_rests_6 24 rfl rfl
theorem dX1_rests_0 : decode cX1_rests 0 = .ok (.iload_n 1, 1) := dk_27 (dk_at dksX1_rests_0 0 rfl rfl)
theorem dX1_rests_1 : decode cX1_rests 1 = .ok (.i2l, 1) := dk_133 (dk_at dksX1_rests_0 1 rfl rfl)
theorem dX1_rests_2 : decode cX1_rests 2 = .ok (.lconst 1, 1) := dk_10 (dk_at dksX1_rests_0 2 rfl rfl)
theorem dX1_rests_3 : decode cX1_rests 3 = .ok (.ldc2_w 430, 3) := dk_20 1 174 (dk_at dksX1_rests_0 3 rfl rfl)
theorem dX1_rests_6 : decode cX1_rests 6 = .ok (.invokestatic 160, 3) := dk_184 0 160 (dk_at dksX1_rests_0 6 rfl rfl)
theorem dX1_rests_9 : decode cX1_rests 9 = .ok (.ifCond .eq 15, 3) := dk_153 0 15 (dk_at dksX1_rests_0 9 rfl rfl)
theorem dX1_rests_12 : decode cX1_rests 12 = .ok (.iload_n 2, 1) := dk_28 (dk_at dksX1_rests_0 12 rfl rfl)
theorem dX1_rests_13 : decode cX1_rests 13 = .ok (.i2l, 1) := dk_133 (dk_at dksX1_rests_0 13 rfl rfl)
theorem dX1_rests_14 : decode cX1_rests 14 = .ok (.lconst 0, 1) := dk_9 (dk_at dksX1_rests_0 14 rfl rfl)
theorem dX1_rests_15 : decode cX1_rests 15 = .ok (.ldc2_w 432, 3) := dk_20 1 176 (dk_at dksX1_rests_0 15 rfl rfl)
theorem dX1_rests_18 : decode cX1_rests 18 = .ok (.invokestatic 160, 3) := dk_184 0 160 (dk_at dksX1_rests_0 18 rfl rfl)
theorem dX1_rests_21 : decode cX1_rests 21 = .ok (.ifCond .ne 5, 3) := dk_154 0 5 (dk_at dksX1_rests_0 21 rfl rfl)
theorem dX1_rests_24 : decode cX1_rests 24 = .ok (.iconst (-1), 1) := dk_2 (dk_at dksX1_rests_1 0 rfl rfl)
theorem dX1_rests_25 : decode cX1_rests 25 = .ok (.ireturn, 1) := dk_172 (dk_at dksX1_rests_1 1 rfl rfl)
theorem dX1_rests_26 : decode cX1_rests 26 = .ok (.aload_n 0, 1) := dk_42 (dk_at dksX1_rests_1 2 rfl rfl)
theorem dX1_rests_27 : decode cX1_rests 27 = .ok (.getfield 75, 3) := dk_180 0 75 (dk_at dksX1_rests_1 3 rfl rfl)
theorem dX1_rests_30 : decode cX1_rests 30 = .ok (.aload_n 0, 1) := dk_42 (dk_at dksX1_rests_1 6 rfl rfl)
theorem dX1_rests_31 : decode cX1_rests 31 = .ok (.getfield 18, 3) := dk_180 0 18 (dk_at dksX1_rests_1 7 rfl rfl)
theorem dX1_rests_34 : decode cX1_rests 34 = .ok (.getfield 348, 3) := dk_180 1 92 (dk_at dksX1_rests_1 10 rfl rfl)
theorem dX1_rests_37 : decode cX1_rests 37 = .ok (.putfield 434, 3) := dk_181 1 178 (dk_at dksX1_rests_1 13 rfl rfl)
theorem dX1_rests_40 : decode cX1_rests 40 = .ok (.aload_n 0, 1) := dk_42 (dk_at dksX1_rests_1 16 rfl rfl)
theorem dX1_rests_41 : decode cX1_rests 41 = .ok (.getfield 75, 3) := dk_180 0 75 (dk_at dksX1_rests_1 17 rfl rfl)
theorem dX1_rests_44 : decode cX1_rests 44 = .ok (.getfield 435, 3) := dk_180 1 179 (dk_at dksX1_rests_1 20 rfl rfl)
theorem dX1_rests_47 : decode cX1_rests 47 = .ok (.iconst 1, 1) := dk_4 (dk_at dksX1_rests_1 23 rfl rfl)
theorem dX1_rests_48 : decode cX1_rests 48 = .ok (.iload_n 1, 1) := dk_27 (dk_at dksX1_rests_2 0 rfl rfl)
theorem dX1_rests_49 : decode cX1_rests 49 = .ok (.ishl, 1) := dk_120 (dk_at dksX1_rests_2 1 rfl rfl)
theorem dX1_rests_50 : decode cX1_rests 50 = .ok (.iconst 1, 1) := dk_4 (dk_at dksX1_rests_2 2 rfl rfl)
theorem dX1_rests_51 : decode cX1_rests 51 = .ok (.isub, 1) := dk_100 (dk_at dksX1_rests_2 3 rfl rfl)
theorem dX1_rests_52 : decode cX1_rests 52 = .ok (.invokestatic 438, 3) := dk_184 1 182 (dk_at dksX1_rests_2 4 rfl rfl)
theorem dX1_rests_55 : decode cX1_rests 55 = .ok (.iconst 0, 1) := dk_3 (dk_at dksX1_rests_2 7 rfl rfl)
theorem dX1_rests_56 : decode cX1_rests 56 = .ok (.istore_n 3, 1) := dk_62 (dk_at dksX1_rests_2 8 rfl rfl)
theorem dX1_rests_57 : decode cX1_rests 57 = .ok (.iconst 0, 1) := dk_3 (dk_at dksX1_rests_2 9 rfl rfl)
theorem dX1_rests_58 : decode cX1_rests 58 = .ok (.istore 4, 2) := dk_54 4 (dk_at dksX1_rests_2 10 rfl rfl)
theorem dX1_rests_60 : decode cX1_rests 60 = .ok (.iload_n 3, 1) := dk_29 (dk_at dksX1_rests_2 12 rfl rfl)
theorem dX1_rests_61 : decode cX1_rests 61 = .ok (.iload_n 2, 1) := dk_28 (dk_at dksX1_rests_2 13 rfl rfl)
theorem dX1_rests_62 : decode cX1_rests 62 = .ok (.if_icmp .ge 70, 3) := dk_162 0 70 (dk_at dksX1_rests_2 14 rfl rfl)
theorem dX1_rests_65 : decode cX1_rests 65 = .ok (.iload 4, 2) := dk_21 4 (dk_at dksX1_rests_2 17 rfl rfl)
theorem dX1_rests_67 : decode cX1_rests 67 = .ok (.ifCond .ne 65, 3) := dk_154 0 65 (dk_at dksX1_rests_2 19 rfl rfl)
theorem dX1_rests_70 : decode cX1_rests 70 = .ok (.iconst 1, 1) := dk_4 (dk_at dksX1_rests_2 22 rfl rfl)
theorem dX1_rests_71 : decode cX1_rests 71 = .ok (.istore 4, 2) := dk_54 4 (dk_at dksX1_rests_3 0 rfl rfl)
theorem dX1_rests_73 : decode cX1_rests 73 = .ok (.iinc 3 1, 3) := dk_132 3 1 (dk_at dksX1_rests_3 2 rfl rfl)
theorem dX1_rests_76 : decode cX1_rests 76 = .ok (.iconst 0, 1) := dk_3 (dk_at dksX1_rests_3 5 rfl rfl)
theorem dX1_rests_77 : decode cX1_rests 77 = .ok (.istore 5, 2) := dk_54 5 (dk_at dksX1_rests_3 6 rfl rfl)
theorem dX1_rests_79 : decode cX1_rests 79 = .ok (.iload 5, 2) := dk_21 5 (dk_at dksX1_rests_3 8 rfl rfl)
theorem dX1_rests_81 : decode cX1_rests 81 = .ok (.aload_n 0, 1) := dk_42 (dk_at dksX1_rests_3 10 rfl rfl)
theorem dX1_rests_82 : decode cX1_rests 82 = .ok (.getfield 157, 3) := dk_180 0 157 (dk_at dksX1_rests_3 11 rfl rfl)
theorem dX1_rests_85 : decode cX1_rests 85 = .ok (.if_icmp .ge 44, 3) := dk_162 0 44 (dk_at dksX1_rests_3 14 rfl rfl)
theorem dX1_rests_88 : decode cX1_rests 88 = .ok (.iload 4, 2) := dk_21 4 (dk_at dksX1_rests_3 17 rfl rfl)
theorem dX1_rests_90 : decode cX1_rests 90 = .ok (.aload_n 0, 1) := dk_42 (dk_at dksX1_rests_3 19 rfl rfl)
theorem dX1_rests_91 : decode cX1_rests 91 = .ok (.getfield 18, 3) := dk_180 0 18 (dk_at dksX1_rests_3 20 rfl rfl)
theorem dX1_rests_94 : decode cX1_rests 94 = .ok (.getfield 168, 3) := dk_180 0 168 (dk_at dksX1_rests_4 0 rfl rfl)
theorem dX1_rests_97 : decode cX1_rests 97 = .ok (.iload 5, 2) := dk_21 5 (dk_at dksX1_rests_4 3 rfl rfl)
theorem dX1_rests_99 : decode cX1_rests 99 = .ok (.invokestatic 171, 3) := dk_184 0 171 (dk_at dksX1_rests_4 5 rfl rfl)
theorem dX1_rests_102 : decode cX1_rests 102 = .ok (.ifCond .eq 13, 3) := dk_153 0 13 (dk_at dksX1_rests_4 8 rfl rfl)
theorem dX1_rests_105 : decode cX1_rests 105 = .ok (.aload_n 0, 1) := dk_42 (dk_at dksX1_rests_4 11 rfl rfl)
theorem dX1_rests_106 : decode cX1_rests 106 = .ok (.iload 5, 2) := dk_21 5 (dk_at dksX1_rests_4 12 rfl rfl)
theorem dX1_rests_108 : decode cX1_rests 108 = .ok (.iload_n 1, 1) := dk_27 (dk_at dksX1_rests_4 14 rfl rfl)
theorem dX1_rests_109 : decode cX1_rests 109 = .ok (.invokevirtual 444, 3) := dk_182 1 188 (dk_at dksX1_rests_4 15 rfl rfl)
theorem dX1_rests_112 : decode cX1_rests 112 = .ok (.ifCond .ne 7, 3) := dk_154 0 7 (dk_at dksX1_rests_4 18 rfl rfl)
theorem dX1_rests_115 : decode cX1_rests 115 = .ok (.iconst 1, 1) := dk_4 (dk_at dksX1_rests_4 21 rfl rfl)
theorem dX1_rests_116 : decode cX1_rests 116 = .ok (.goto 4, 3) := dk_167 0 4 (dk_at dksX1_rests_5 0 rfl rfl)
theorem dX1_rests_119 : decode cX1_rests 119 = .ok (.iconst 0, 1) := dk_3 (dk_at dksX1_rests_5 3 rfl rfl)
theorem dX1_rests_120 : decode cX1_rests 120 = .ok (.iand, 1) := dk_126 (dk_at dksX1_rests_5 4 rfl rfl)
theorem dX1_rests_121 : decode cX1_rests 121 = .ok (.istore 4, 2) := dk_54 4 (dk_at dksX1_rests_5 5 rfl rfl)
theorem dX1_rests_123 : decode cX1_rests 123 = .ok (.iinc 5 1, 3) := dk_132 5 1 (dk_at dksX1_rests_5 7 rfl rfl)
theorem dX1_rests_126 : decode cX1_rests 126 = .ok (.goto (-47), 3) := dk_167 255 209 (dk_at dksX1_rests_5 10 rfl rfl)
theorem dX1_rests_129 : decode cX1_rests 129 = .ok (.goto (-69), 3) := dk_167 255 187 (dk_at dksX1_rests_5 13 rfl rfl)
theorem dX1_rests_132 : decode cX1_rests 132 = .ok (.aload_n 0, 1) := dk_42 (dk_at dksX1_rests_5 16 rfl rfl)
theorem dX1_rests_133 : decode cX1_rests 133 = .ok (.iconst 0, 1) := dk_3 (dk_at dksX1_rests_5 17 rfl rfl)
theorem dX1_rests_134 : decode cX1_rests 134 = .ok (.putfield 154, 3) := dk_181 0 154 (dk_at dksX1_rests_5 18 rfl rfl)
theorem dX1_rests_137 : decode cX1_rests 137 = .ok (.aload_n 0, 1) := dk_42 (dk_at dksX1_rests_5 21 rfl rfl)
theorem dX1_rests_138 : decode cX1_rests 138 = .ok (.iload 4, 2) := dk_21 4 (dk_at dksX1_rests_5 22 rfl rfl)
theorem dX1_rests_140 : decode cX1_rests 140 = .ok (.ifCond .eq 7, 3) := dk_153 0 7 (dk_at dksX1_rests_6 0 rfl rfl)
theorem dX1_rests_143 : decode cX1_rests 143 = .ok (.lconst 1, 1) := dk_10 (dk_at dksX1_rests_6 3 rfl rfl)
theorem dX1_rests_144 : decode cX1_rests 144 = .ok (.goto 4, 3) := dk_167 0 4 (dk_at dksX1_rests_6 4 rfl rfl)
theorem dX1_rests_147 : decode cX1_rests 147 = .ok (.lconst 0, 1) := dk_9 (dk_at dksX1_rests_6 7 rfl rfl)
theorem dX1_rests_148 : decode cX1_rests 148 = .ok (.invokevirtual 367, 3) := dk_182 1 111 (dk_at dksX1_rests_6 8 rfl rfl)
theorem dX1_rests_151 : decode cX1_rests 151 = .ok (.iconst 0, 1) := dk_3 (dk_at dksX1_rests_6 11 rfl rfl)
theorem dX1_rests_152 : decode cX1_rests 152 = .ok (.istore 5, 2) := dk_54 5 (dk_at dksX1_rests_6 12 rfl rfl)
theorem dX1_rests_154 : decode cX1_rests 154 = .ok (.iload 5, 2) := dk_21 5 (dk_at dksX1_rests_6 14 rfl rfl)
theorem dX1_rests_156 : decode cX1_rests 156 = .ok (.aload_n 0, 1) := dk_42 (dk_at dksX1_rests_6 16 rfl rfl)
theorem dX1_rests_157 : decode cX1_rests 157 = .ok (.getfield 157, 3) := dk_180 0 157 (dk_at dksX1_rests_6 17 rfl rfl)
theorem dX1_rests_160 : decode cX1_rests 160 = .ok (.if_icmp .ge 24, 3) := dk_162 0 24 (dk_at dksX1_rests_6 20 rfl rfl)
theorem dX1_rests_163 : decode cX1_rests 163 = .ok (.aload_n 0, 1) := dk_42 (dk_at dksX1_rests_6 23 rfl rfl)
theorem dX1_rests_164 : decode cX1_rests 164 = .ok (.aload_n 0, 1) := dk_42 (dk_at dksX1_rests_7 0 rfl rfl)
theorem dX1_rests_165 : decode cX1_rests 165 = .ok (.getfield 75, 3) := dk_180 0 75 (dk_at dksX1_rests_7 1 rfl rfl)
theorem dX1_rests_168 : decode cX1_rests 168 = .ok (.getfield 435, 3) := dk_180 1 179 (dk_at dksX1_rests_7 4 rfl rfl)
theorem dX1_rests_171 : decode cX1_rests 171 = .ok (.iload 5, 2) := dk_21 5 (dk_at dksX1_rests_7 7 rfl rfl)
theorem dX1_rests_173 : decode cX1_rests 173 = .ok (.iaload, 1) := dk_46 (dk_at dksX1_rests_7 9 rfl rfl)
theorem dX1_rests_174 : decode cX1_rests 174 = .ok (.i2l, 1) := dk_133 (dk_at dksX1_rests_7 10 rfl rfl)
theorem dX1_rests_175 : decode cX1_rests 175 = .ok (.invokevirtual 367, 3) := dk_182 1 111 (dk_at dksX1_rests_7 11 rfl rfl)
theorem dX1_rests_178 : decode cX1_rests 178 = .ok (.iinc 5 1, 3) := dk_132 5 1 (dk_at dksX1_rests_7 14 rfl rfl)
theorem dX1_rests_181 : decode cX1_rests 181 = .ok (.goto (-27), 3) := dk_167 255 229 (dk_at dksX1_rests_7 17 rfl rfl)
theorem dX1_rests_184 : decode cX1_rests 184 = .ok (.iload_n 3, 1) := dk_29 (dk_at dksX1_rests_7 20 rfl rfl)
theorem dX1_rests_185 : decode cX1_rests 185 = .ok (.ireturn, 1) := dk_172 (dk_at dksX1_rests_7 21 rfl rfl)
def dkwX1_takesAnother_4 : List UInt8 := [21, 4, 29, 159, 0, 7, 4, 167, 0, 4, 3, 172]
abbrev dktX1_takesAnother_4 : List UInt8 := dkwX1_takesAnother_4 ++ []
def dkwX1_takesAnother_3 : List UInt8 := [54, 4, 21, 7, 54, 5, 132, 6, 1, 167, 255, 204, 42, 180, 0, 75, 180, 1, 179, 27, 21, 4, 79]
abbrev dktX1_takesAnother_3 : List UInt8 := dkwX1_takesAnother_3 ++ dktX1_takesAnother_4
def dkwX1_takesAnother_2 : List UInt8 := [42, 27, 28, 42, 180, 0, 75, 182, 1, 165, 54, 7, 21, 7, 21, 5, 163, 0, 6, 167, 0, 11, 21, 6]
abbrev dktX1_takesAnother_2 : List UInt8 := dkwX1_takesAnother_2 ++ dktX1_takesAnother_3
def dkwX1_takesAnother_1 : List UInt8 := [54, 5, 3, 54, 6, 21, 6, 4, 28, 120, 162, 0, 50, 42, 180, 0, 75, 180, 1, 179, 27, 21, 6, 79]
abbrev dktX1_takesAnother_1 : List UInt8 := dkwX1_takesAnother_1 ++ dktX1_takesAnother_2
def dkwX1_takesAnother_0 : List UInt8 := [42, 180, 0, 75, 180, 1, 179, 27, 46, 62, 29, 54, 4, 42, 27, 28, 42, 180, 0, 75, 182, 1, 165]
abbrev dktX1_takesAnother_0 : List UInt8 := dkwX1_takesAnother_0 ++ dktX1_takesAnother_1
theorem dksX1_takesAnother_0 : cX1_takesAnother.data.toList.drop 0 = dktX1_takesAnother_0 := by decide +kernel
theorem dksX1_takesAnother_1 : cX1_takesAnother.data.toList.drop 23 = dktX1_takesAnother_1 := dk_seg dksX1_takesAnother_0 23 rfl rfl
theorem dksX1_takesAnother_2 : cX1_takesAnother.data.toList.drop 47 = dktX1_takesAnother_2 := dk_seg dksX1_takesAnother_1 24 rfl rfl
theorem dksX1_takesAnother_3 : cX1_takesAnother.data.toList.drop 71 = dktX1_takesAnother_3 := dk_seg dksX1_takesAnother_2 24 rfl rfl
theorem dksX1_takesAnother_4 : cX1_takesAnother.data.toList.drop 94 = dktX1_takesAnother_4 := dk_seg dksX1_takesAnother_3 23 rfl rfl
theorem dX1_takesAnother_0 : decode cX1_takesAnother 0 = .ok (.aload_n 0, 1) := dk_42 (dk_at dksX1_takesAnother_0 0 rfl rfl)
theorem dX1_takesAnother_1 : decode cX1_takesAnother 1 = .ok (.getfield 75, 3) := dk_180 0 75 (dk_at dksX1_takesAnother_0 1 rfl rfl)
theorem dX1_takesAnother_4 : decode cX1_takesAnother 4 = .ok (.getfield 435, 3) := dk_180 1 179 (dk_at dksX1_takesAnother_0 4 rfl rfl)
theorem dX1_takesAnother_7 : decode cX1_takesAnother 7 = .ok (.iload_n 1, 1) := dk_27 (dk_at dksX1_takesAnother_0 7 rfl rfl)
theorem dX1_takesAnother_8 : decode cX1_takesAnother 8 = .ok (.iaload, 1) := dk_46 (dk_at dksX1_takesAnother_0 8 rfl rfl)
theorem dX1_takesAnother_9 : decode cX1_takesAnother 9 = .ok (.istore_n 3, 1) := dk_62 (dk_at dksX1_takesAnother_0 9 rfl rfl)
theorem dX1_takesAnother_10 : decode cX1_takesAnother 10 = .ok (.iload_n 3, 1) := dk_29 (dk_at dksX1_takesAnother_0 10 rfl rfl)
theorem dX1_takesAnother_11 : decode cX1_takesAnother 11 = .ok (.istore 4, 2) := dk_54 4 (dk_at dksX1_takesAnother_0 11 rfl rfl)
theorem dX1_takesAnother_13 : decode cX1_takesAnother 13 = .ok (.aload_n 0, 1) := dk_42 (dk_at dksX1_takesAnother_0 13 rfl rfl)
theorem dX1_takesAnother_14 : decode cX1_takesAnother 14 = .ok (.iload_n 1, 1) := dk_27 (dk_at dksX1_takesAnother_0 14 rfl rfl)
theorem dX1_takesAnother_15 : decode cX1_takesAnother 15 = .ok (.iload_n 2, 1) := dk_28 (dk_at dksX1_takesAnother_0 15 rfl rfl)
theorem dX1_takesAnother_16 : decode cX1_takesAnother 16 = .ok (.aload_n 0, 1) := dk_42 (dk_at dksX1_takesAnother_0 16 rfl rfl)
theorem dX1_takesAnother_17 : decode cX1_takesAnother 17 = .ok (.getfield 75, 3) := dk_180 0 75 (dk_at dksX1_takesAnother_0 17 rfl rfl)
theorem dX1_takesAnother_20 : decode cX1_takesAnother 20 = .ok (.invokevirtual 421, 3) := dk_182 1 165 (dk_at dksX1_takesAnother_0 20 rfl rfl)
theorem dX1_takesAnother_23 : decode cX1_takesAnother 23 = .ok (.istore 5, 2) := dk_54 5 (dk_at dksX1_takesAnother_1 0 rfl rfl)
theorem dX1_takesAnother_25 : decode cX1_takesAnother 25 = .ok (.iconst 0, 1) := dk_3 (dk_at dksX1_takesAnother_1 2 rfl rfl)
theorem dX1_takesAnother_26 : decode cX1_takesAnother 26 = .ok (.istore 6, 2) := dk_54 6 (dk_at dksX1_takesAnother_1 3 rfl rfl)
theorem dX1_takesAnother_28 : decode cX1_takesAnother 28 = .ok (.iload 6, 2) := dk_21 6 (dk_at dksX1_takesAnother_1 5 rfl rfl)
theorem dX1_takesAnother_30 : decode cX1_takesAnother 30 = .ok (.iconst 1, 1) := dk_4 (dk_at dksX1_takesAnother_1 7 rfl rfl)
theorem dX1_takesAnother_31 : decode cX1_takesAnother 31 = .ok (.iload_n 2, 1) := dk_28 (dk_at dksX1_takesAnother_1 8 rfl rfl)
theorem dX1_takesAnother_32 : decode cX1_takesAnother 32 = .ok (.ishl, 1) := dk_120 (dk_at dksX1_takesAnother_1 9 rfl rfl)
theorem dX1_takesAnother_33 : decode cX1_takesAnother 33 = .ok (.if_icmp .ge 50, 3) := dk_162 0 50 (dk_at dksX1_takesAnother_1 10 rfl rfl)
theorem dX1_takesAnother_36 : decode cX1_takesAnother 36 = .ok (.aload_n 0, 1) := dk_42 (dk_at dksX1_takesAnother_1 13 rfl rfl)
theorem dX1_takesAnother_37 : decode cX1_takesAnother 37 = .ok (.getfield 75, 3) := dk_180 0 75 (dk_at dksX1_takesAnother_1 14 rfl rfl)
theorem dX1_takesAnother_40 : decode cX1_takesAnother 40 = .ok (.getfield 435, 3) := dk_180 1 179 (dk_at dksX1_takesAnother_1 17 rfl rfl)
theorem dX1_takesAnother_43 : decode cX1_takesAnother 43 = .ok (.iload_n 1, 1) := dk_27 (dk_at dksX1_takesAnother_1 20 rfl rfl)
theorem dX1_takesAnother_44 : decode cX1_takesAnother 44 = .ok (.iload 6, 2) := dk_21 6 (dk_at dksX1_takesAnother_1 21 rfl rfl)
theorem dX1_takesAnother_46 : decode cX1_takesAnother 46 = .ok (.iastore, 1) := dk_79 (dk_at dksX1_takesAnother_1 23 rfl rfl)
theorem dX1_takesAnother_47 : decode cX1_takesAnother 47 = .ok (.aload_n 0, 1) := dk_42 (dk_at dksX1_takesAnother_2 0 rfl rfl)
theorem dX1_takesAnother_48 : decode cX1_takesAnother 48 = .ok (.iload_n 1, 1) := dk_27 (dk_at dksX1_takesAnother_2 1 rfl rfl)
theorem dX1_takesAnother_49 : decode cX1_takesAnother 49 = .ok (.iload_n 2, 1) := dk_28 (dk_at dksX1_takesAnother_2 2 rfl rfl)
theorem dX1_takesAnother_50 : decode cX1_takesAnother 50 = .ok (.aload_n 0, 1) := dk_42 (dk_at dksX1_takesAnother_2 3 rfl rfl)
theorem dX1_takesAnother_51 : decode cX1_takesAnother 51 = .ok (.getfield 75, 3) := dk_180 0 75 (dk_at dksX1_takesAnother_2 4 rfl rfl)
theorem dX1_takesAnother_54 : decode cX1_takesAnother 54 = .ok (.invokevirtual 421, 3) := dk_182 1 165 (dk_at dksX1_takesAnother_2 7 rfl rfl)
theorem dX1_takesAnother_57 : decode cX1_takesAnother 57 = .ok (.istore 7, 2) := dk_54 7 (dk_at dksX1_takesAnother_2 10 rfl rfl)
theorem dX1_takesAnother_59 : decode cX1_takesAnother 59 = .ok (.iload 7, 2) := dk_21 7 (dk_at dksX1_takesAnother_2 12 rfl rfl)
theorem dX1_takesAnother_61 : decode cX1_takesAnother 61 = .ok (.iload 5, 2) := dk_21 5 (dk_at dksX1_takesAnother_2 14 rfl rfl)
theorem dX1_takesAnother_63 : decode cX1_takesAnother 63 = .ok (.if_icmp .gt 6, 3) := dk_163 0 6 (dk_at dksX1_takesAnother_2 16 rfl rfl)
theorem dX1_takesAnother_66 : decode cX1_takesAnother 66 = .ok (.goto 11, 3) := dk_167 0 11 (dk_at dksX1_takesAnother_2 19 rfl rfl)
theorem dX1_takesAnother_69 : decode cX1_takesAnother 69 = .ok (.iload 6, 2) := dk_21 6 (dk_at dksX1_takesAnother_2 22 rfl rfl)
theorem dX1_takesAnother_71 : decode cX1_takesAnother 71 = .ok (.istore 4, 2) := dk_54 4 (dk_at dksX1_takesAnother_3 0 rfl rfl)
theorem dX1_takesAnother_73 : decode cX1_takesAnother 73 = .ok (.iload 7, 2) := dk_21 7 (dk_at dksX1_takesAnother_3 2 rfl rfl)
theorem dX1_takesAnother_75 : decode cX1_takesAnother 75 = .ok (.istore 5, 2) := dk_54 5 (dk_at dksX1_takesAnother_3 4 rfl rfl)
theorem dX1_takesAnother_77 : decode cX1_takesAnother 77 = .ok (.iinc 6 1, 3) := dk_132 6 1 (dk_at dksX1_takesAnother_3 6 rfl rfl)
theorem dX1_takesAnother_80 : decode cX1_takesAnother 80 = .ok (.goto (-52), 3) := dk_167 255 204 (dk_at dksX1_takesAnother_3 9 rfl rfl)
theorem dX1_takesAnother_83 : decode cX1_takesAnother 83 = .ok (.aload_n 0, 1) := dk_42 (dk_at dksX1_takesAnother_3 12 rfl rfl)
theorem dX1_takesAnother_84 : decode cX1_takesAnother 84 = .ok (.getfield 75, 3) := dk_180 0 75 (dk_at dksX1_takesAnother_3 13 rfl rfl)
theorem dX1_takesAnother_87 : decode cX1_takesAnother 87 = .ok (.getfield 435, 3) := dk_180 1 179 (dk_at dksX1_takesAnother_3 16 rfl rfl)
theorem dX1_takesAnother_90 : decode cX1_takesAnother 90 = .ok (.iload_n 1, 1) := dk_27 (dk_at dksX1_takesAnother_3 19 rfl rfl)
theorem dX1_takesAnother_91 : decode cX1_takesAnother 91 = .ok (.iload 4, 2) := dk_21 4 (dk_at dksX1_takesAnother_3 20 rfl rfl)
theorem dX1_takesAnother_93 : decode cX1_takesAnother 93 = .ok (.iastore, 1) := dk_79 (dk_at dksX1_takesAnother_3 22 rfl rfl)
theorem dX1_takesAnother_94 : decode cX1_takesAnother 94 = .ok (.iload 4, 2) := dk_21 4 (dk_at dksX1_takesAnother_4 0 rfl rfl)
theorem dX1_takesAnother_96 : decode cX1_takesAnother 96 = .ok (.iload_n 3, 1) := dk_29 (dk_at dksX1_takesAnother_4 2 rfl rfl)
theorem dX1_takesAnother_97 : decode cX1_takesAnother 97 = .ok (.if_icmp .eq 7, 3) := dk_159 0 7 (dk_at dksX1_takesAnother_4 3 rfl rfl)
theorem dX1_takesAnother_100 : decode cX1_takesAnother 100 = .ok (.iconst 1, 1) := dk_4 (dk_at dksX1_takesAnother_4 6 rfl rfl)
theorem dX1_takesAnother_101 : decode cX1_takesAnother 101 = .ok (.goto 4, 3) := dk_167 0 4 (dk_at dksX1_takesAnother_4 7 rfl rfl)
theorem dX1_takesAnother_104 : decode cX1_takesAnother 104 = .ok (.iconst 0, 1) := dk_3 (dk_at dksX1_takesAnother_4 10 rfl rfl)
theorem dX1_takesAnother_105 : decode cX1_takesAnother 105 = .ok (.ireturn, 1) := dk_172 (dk_at dksX1_takesAnother_4 11 rfl rfl)
def dkwX1_party_7 : List UInt8 := [21, 7, 133, 182, 1, 111, 132, 6, 1, 167, 255, 232, 42, 29, 133, 182, 1, 111, 28, 172]
abbrev dktX1_party_7 : List UInt8 := dkwX1_party_7 ++ []
def dkwX1_party_6 : List UInt8 := [25, 4, 190, 54, 5, 3, 54, 6, 21, 6, 21, 5, 162, 0, 23, 25, 4, 21, 6, 46, 54, 7, 42]
abbrev dktX1_party_6 : List UInt8 := dkwX1_party_6 ++ dktX1_party_7
def dkwX1_party_5 : List UInt8 := [167, 0, 4, 3, 128, 62, 132, 4, 1, 167, 255, 210, 42, 3, 181, 0, 154, 42, 180, 0, 89, 58, 4]
abbrev dktX1_party_5 : List UInt8 := dkwX1_party_5 ++ dktX1_party_6
def dkwX1_party_4 : List UInt8 := [180, 0, 239, 21, 4, 46, 42, 180, 0, 18, 180, 0, 239, 21, 4, 46, 164, 0, 10, 4, 21, 4, 120]
abbrev dktX1_party_4 : List UInt8 := dkwX1_party_4 ++ dktX1_party_5
def dkwX1_party_3 : List UInt8 := [132, 4, 1, 167, 255, 213, 3, 54, 4, 21, 4, 42, 180, 0, 157, 162, 0, 43, 29, 42, 180, 0, 22]
abbrev dktX1_party_3 : List UInt8 := dkwX1_party_3 ++ dktX1_party_4
def dkwX1_party_2 : List UInt8 := [2, 159, 0, 19, 42, 180, 0, 89, 21, 4, 46, 42, 180, 0, 89, 28, 46, 164, 0, 6, 21, 4, 61]
abbrev dktX1_party_2 : List UInt8 := dkwX1_party_2 ++ dktX1_party_3
def dkwX1_party_1 : List UInt8 := [2, 61, 3, 62, 3, 54, 4, 21, 4, 7, 162, 0, 43, 42, 180, 0, 89, 21, 4, 46, 158, 0, 27, 28]
abbrev dktX1_party_1 : List UInt8 := dkwX1_party_1 ++ dktX1_party_2
def dkwX1_party_0 : List UInt8 := [27, 133, 9, 20, 1, 115, 184, 0, 160, 154, 0, 6, 16, 254, 172, 42, 27, 42, 180, 0, 54, 182, 1, 191]
abbrev dktX1_party_0 : List UInt8 := dkwX1_party_0 ++ dktX1_party_1
theorem dksX1_party_0 : cX1_party.data.toList.drop 0 = dktX1_party_0 := by decide +kernel
theorem dksX1_party_1 : cX1_party.data.toList.drop 24 = dktX1_party_1 := dk_seg dksX1_party_0 24 rfl rfl
theorem dksX1_party_2 : cX1_party.data.toList.drop 48 = dktX1_party_2 := dk_seg dksX1_party_1 24 rfl rfl
theorem dksX1_party_3 : cX1_party.data.toList.drop 71 = dktX1_party_3 := dk_seg dksX1_party_2 23 rfl rfl
theorem dksX1_party_4 : cX1_party.data.toList.drop 94 = dktX1_party_4 := dk_seg dksX1_party_3 23 rfl rfl
theorem dksX1_party_5 : cX1_party.data.toList.drop 117 = dktX1_party_5 := dk_seg dksX1_party_4 23 rfl rfl
theorem dksX1_party_6 : cX1_party.data.toList.drop 140 = dktX1_party_6 := dk_seg dksX1_party_5 23 rfl rfl
theorem dksX1_party_7 : cX1_party.data.toList.drop 163 = dktX1_party_7 := dk_seg dksX1_party_6 23 rfl rfl
theorem dX1_party_0 : decode cX1_party 0 = .ok (.iload_n 1, 1) := dk_27 (dk_at dksX1_party_0 0 rfl rfl)
theorem dX1_party_1 : decode cX1_party 1 = .ok (.i2l, 1) := dk_133 (dk_at dksX1_party_0 1 rfl rfl)
theorem dX1_party_2 : decode cX1_party 2 = .ok (.lconst 0, 1) := dk_9 (dk_at dksX1_party_0 2 rfl rfl)
theorem dX1_party_3 : decode cX1_party 3 = .ok (.ldc2_w 371, 3) := dk_20 1 115 (dk_at dksX1_party_0 3 rfl rfl)
theorem dX1_party_6 : decode cX1_party 6 = .ok (.invokestatic 160, 3) := dk_184 0 160 (dk_at dksX1_party_0 6 rfl rfl)
theorem dX1_party_9 : decode cX1_party 9 = .ok (.ifCond .ne 6, 3) := dk_154 0 6 (dk_at dksX1_party_0 9 rfl rfl)
theorem dX1_party_12 : decode cX1_party 12 = .ok (.bipush (-2), 2) := dk_16 254 (dk_at dksX1_party_0 12 rfl rfl)
theorem dX1_party_14 : decode cX1_party 14 = .ok (.ireturn, 1) := dk_172 (dk_at dksX1_party_0 14 rfl rfl)
theorem dX1_party_15 : decode cX1_party 15 = .ok (.aload_n 0, 1) := dk_42 (dk_at dksX1_party_0 15 rfl rfl)
theorem dX1_party_16 : decode cX1_party 16 = .ok (.iload_n 1, 1) := dk_27 (dk_at dksX1_party_0 16 rfl rfl)
theorem dX1_party_17 : decode cX1_party 17 = .ok (.aload_n 0, 1) := dk_42 (dk_at dksX1_party_0 17 rfl rfl)
theorem dX1_party_18 : decode cX1_party 18 = .ok (.getfield 54, 3) := dk_180 0 54 (dk_at dksX1_party_0 18 rfl rfl)
theorem dX1_party_21 : decode cX1_party 21 = .ok (.invokevirtual 447, 3) := dk_182 1 191 (dk_at dksX1_party_0 21 rfl rfl)
theorem dX1_party_24 : decode cX1_party 24 = .ok (.iconst (-1), 1) := dk_2 (dk_at dksX1_party_1 0 rfl rfl)
theorem dX1_party_25 : decode cX1_party 25 = .ok (.istore_n 2, 1) := dk_61 (dk_at dksX1_party_1 1 rfl rfl)
theorem dX1_party_26 : decode cX1_party 26 = .ok (.iconst 0, 1) := dk_3 (dk_at dksX1_party_1 2 rfl rfl)
theorem dX1_party_27 : decode cX1_party 27 = .ok (.istore_n 3, 1) := dk_62 (dk_at dksX1_party_1 3 rfl rfl)
theorem dX1_party_28 : decode cX1_party 28 = .ok (.iconst 0, 1) := dk_3 (dk_at dksX1_party_1 4 rfl rfl)
theorem dX1_party_29 : decode cX1_party 29 = .ok (.istore 4, 2) := dk_54 4 (dk_at dksX1_party_1 5 rfl rfl)
theorem dX1_party_31 : decode cX1_party 31 = .ok (.iload 4, 2) := dk_21 4 (dk_at dksX1_party_1 7 rfl rfl)
theorem dX1_party_33 : decode cX1_party 33 = .ok (.iconst 4, 1) := dk_7 (dk_at dksX1_party_1 9 rfl rfl)
theorem dX1_party_34 : decode cX1_party 34 = .ok (.if_icmp .ge 43, 3) := dk_162 0 43 (dk_at dksX1_party_1 10 rfl rfl)
theorem dX1_party_37 : decode cX1_party 37 = .ok (.aload_n 0, 1) := dk_42 (dk_at dksX1_party_1 13 rfl rfl)
theorem dX1_party_38 : decode cX1_party 38 = .ok (.getfield 89, 3) := dk_180 0 89 (dk_at dksX1_party_1 14 rfl rfl)
theorem dX1_party_41 : decode cX1_party 41 = .ok (.iload 4, 2) := dk_21 4 (dk_at dksX1_party_1 17 rfl rfl)
theorem dX1_party_43 : decode cX1_party 43 = .ok (.iaload, 1) := dk_46 (dk_at dksX1_party_1 19 rfl rfl)
theorem dX1_party_44 : decode cX1_party 44 = .ok (.ifCond .le 27, 3) := dk_158 0 27 (dk_at dksX1_party_1 20 rfl rfl)
theorem dX1_party_47 : decode cX1_party 47 = .ok (.iload_n 2, 1) := dk_28 (dk_at dksX1_party_1 23 rfl rfl)
theorem dX1_party_48 : decode cX1_party 48 = .ok (.iconst (-1), 1) := dk_2 (dk_at dksX1_party_2 0 rfl rfl)
theorem dX1_party_49 : decode cX1_party 49 = .ok (.if_icmp .eq 19, 3) := dk_159 0 19 (dk_at dksX1_party_2 1 rfl rfl)
theorem dX1_party_52 : decode cX1_party 52 = .ok (.aload_n 0, 1) := dk_42 (dk_at dksX1_party_2 4 rfl rfl)
theorem dX1_party_53 : decode cX1_party 53 = .ok (.getfield 89, 3) := dk_180 0 89 (dk_at dksX1_party_2 5 rfl rfl)
theorem dX1_party_56 : decode cX1_party 56 = .ok (.iload 4, 2) := dk_21 4 (dk_at dksX1_party_2 8 rfl rfl)
theorem dX1_party_58 : decode cX1_party 58 = .ok (.iaload, 1) := dk_46 (dk_at dksX1_party_2 10 rfl rfl)
theorem dX1_party_59 : decode cX1_party 59 = .ok (.aload_n 0, 1) := dk_42 (dk_at dksX1_party_2 11 rfl rfl)
theorem dX1_party_60 : decode cX1_party 60 = .ok (.getfield 89, 3) := dk_180 0 89 (dk_at dksX1_party_2 12 rfl rfl)
theorem dX1_party_63 : decode cX1_party 63 = .ok (.iload_n 2, 1) := dk_28 (dk_at dksX1_party_2 15 rfl rfl)
theorem dX1_party_64 : decode cX1_party 64 = .ok (.iaload, 1) := dk_46 (dk_at dksX1_party_2 16 rfl rfl)
theorem dX1_party_65 : decode cX1_party 65 = .ok (.if_icmp .le 6, 3) := dk_164 0 6 (dk_at dksX1_party_2 17 rfl rfl)
theorem dX1_party_68 : decode cX1_party 68 = .ok (.iload 4, 2) := dk_21 4 (dk_at dksX1_party_2 20 rfl rfl)
theorem dX1_party_70 : decode cX1_party 70 = .ok (.istore_n 2, 1) := dk_61 (dk_at dksX1_party_2 22 rfl rfl)
theorem dX1_party_71 : decode cX1_party 71 = .ok (.iinc 4 1, 3) := dk_132 4 1 (dk_at dksX1_party_3 0 rfl rfl)
theorem dX1_party_74 : decode cX1_party 74 = .ok (.goto (-43), 3) := dk_167 255 213 (dk_at dksX1_party_3 3 rfl rfl)
theorem dX1_party_77 : decode cX1_party 77 = .ok (.iconst 0, 1) := dk_3 (dk_at dksX1_party_3 6 rfl rfl)
theorem dX1_party_78 : decode cX1_party 78 = .ok (.istore 4, 2) := dk_54 4 (dk_at dksX1_party_3 7 rfl rfl)
theorem dX1_party_80 : decode cX1_party 80 = .ok (.iload 4, 2) := dk_21 4 (dk_at dksX1_party_3 9 rfl rfl)
theorem dX1_party_82 : decode cX1_party 82 = .ok (.aload_n 0, 1) := dk_42 (dk_at dksX1_party_3 11 rfl rfl)
theorem dX1_party_83 : decode cX1_party 83 = .ok (.getfield 157, 3) := dk_180 0 157 (dk_at dksX1_party_3 12 rfl rfl)
theorem dX1_party_86 : decode cX1_party 86 = .ok (.if_icmp .ge 43, 3) := dk_162 0 43 (dk_at dksX1_party_3 15 rfl rfl)
theorem dX1_party_89 : decode cX1_party 89 = .ok (.iload_n 3, 1) := dk_29 (dk_at dksX1_party_3 18 rfl rfl)
theorem dX1_party_90 : decode cX1_party 90 = .ok (.aload_n 0, 1) := dk_42 (dk_at dksX1_party_3 19 rfl rfl)
theorem dX1_party_91 : decode cX1_party 91 = .ok (.getfield 22, 3) := dk_180 0 22 (dk_at dksX1_party_3 20 rfl rfl)
theorem dX1_party_94 : decode cX1_party 94 = .ok (.getfield 239, 3) := dk_180 0 239 (dk_at dksX1_party_4 0 rfl rfl)
theorem dX1_party_97 : decode cX1_party 97 = .ok (.iload 4, 2) := dk_21 4 (dk_at dksX1_party_4 3 rfl rfl)
theorem dX1_party_99 : decode cX1_party 99 = .ok (.iaload, 1) := dk_46 (dk_at dksX1_party_4 5 rfl rfl)
theorem dX1_party_100 : decode cX1_party 100 = .ok (.aload_n 0, 1) := dk_42 (dk_at dksX1_party_4 6 rfl rfl)
theorem dX1_party_101 : decode cX1_party 101 = .ok (.getfield 18, 3) := dk_180 0 18 (dk_at dksX1_party_4 7 rfl rfl)
theorem dX1_party_104 : decode cX1_party 104 = .ok (.getfield 239, 3) := dk_180 0 239 (dk_at dksX1_party_4 10 rfl rfl)
theorem dX1_party_107 : decode cX1_party 107 = .ok (.iload 4, 2) := dk_21 4 (dk_at dksX1_party_4 13 rfl rfl)
theorem dX1_party_109 : decode cX1_party 109 = .ok (.iaload, 1) := dk_46 (dk_at dksX1_party_4 15 rfl rfl)
theorem dX1_party_110 : decode cX1_party 110 = .ok (.if_icmp .le 10, 3) := dk_164 0 10 (dk_at dksX1_party_4 16 rfl rfl)
theorem dX1_party_113 : decode cX1_party 113 = .ok (.iconst 1, 1) := dk_4 (dk_at dksX1_party_4 19 rfl rfl)
theorem dX1_party_114 : decode cX1_party 114 = .ok (.iload 4, 2) := dk_21 4 (dk_at dksX1_party_4 20 rfl rfl)
theorem dX1_party_116 : decode cX1_party 116 = .ok (.ishl, 1) := dk_120 (dk_at dksX1_party_4 22 rfl rfl)
theorem dX1_party_117 : decode cX1_party 117 = .ok (.goto 4, 3) := dk_167 0 4 (dk_at dksX1_party_5 0 rfl rfl)
theorem dX1_party_120 : decode cX1_party 120 = .ok (.iconst 0, 1) := dk_3 (dk_at dksX1_party_5 3 rfl rfl)
theorem dX1_party_121 : decode cX1_party 121 = .ok (.ior, 1) := dk_128 (dk_at dksX1_party_5 4 rfl rfl)
theorem dX1_party_122 : decode cX1_party 122 = .ok (.istore_n 3, 1) := dk_62 (dk_at dksX1_party_5 5 rfl rfl)
theorem dX1_party_123 : decode cX1_party 123 = .ok (.iinc 4 1, 3) := dk_132 4 1 (dk_at dksX1_party_5 6 rfl rfl)
theorem dX1_party_126 : decode cX1_party 126 = .ok (.goto (-46), 3) := dk_167 255 210 (dk_at dksX1_party_5 9 rfl rfl)
theorem dX1_party_129 : decode cX1_party 129 = .ok (.aload_n 0, 1) := dk_42 (dk_at dksX1_party_5 12 rfl rfl)
theorem dX1_party_130 : decode cX1_party 130 = .ok (.iconst 0, 1) := dk_3 (dk_at dksX1_party_5 13 rfl rfl)
theorem dX1_party_131 : decode cX1_party 131 = .ok (.putfield 154, 3) := dk_181 0 154 (dk_at dksX1_party_5 14 rfl rfl)
theorem dX1_party_134 : decode cX1_party 134 = .ok (.aload_n 0, 1) := dk_42 (dk_at dksX1_party_5 17 rfl rfl)
theorem dX1_party_135 : decode cX1_party 135 = .ok (.getfield 89, 3) := dk_180 0 89 (dk_at dksX1_party_5 18 rfl rfl)
theorem dX1_party_138 : decode cX1_party 138 = .ok (.astore 4, 2) := dk_58 4 (dk_at dksX1_party_5 21 rfl rfl)
theorem dX1_party_140 : decode cX1_party 140 = .ok (.aload 4, 2) := dk_25 4 (dk_at dksX1_party_6 0 rfl rfl)
theorem dX1_party_142 : decode cX1_party 142 = .ok (.arraylength, 1) := dk_190 (dk_at dksX1_party_6 2 rfl rfl)
theorem dX1_party_143 : decode cX1_party 143 = .ok (.istore 5, 2) := dk_54 5 (dk_at dksX1_party_6 3 rfl rfl)
theorem dX1_party_145 : decode cX1_party 145 = .ok (.iconst 0, 1) := dk_3 (dk_at dksX1_party_6 5 rfl rfl)
theorem dX1_party_146 : decode cX1_party 146 = .ok (.istore 6, 2) := dk_54 6 (dk_at dksX1_party_6 6 rfl rfl)
theorem dX1_party_148 : decode cX1_party 148 = .ok (.iload 6, 2) := dk_21 6 (dk_at dksX1_party_6 8 rfl rfl)
theorem dX1_party_150 : decode cX1_party 150 = .ok (.iload 5, 2) := dk_21 5 (dk_at dksX1_party_6 10 rfl rfl)
theorem dX1_party_152 : decode cX1_party 152 = .ok (.if_icmp .ge 23, 3) := dk_162 0 23 (dk_at dksX1_party_6 12 rfl rfl)
theorem dX1_party_155 : decode cX1_party 155 = .ok (.aload 4, 2) := dk_25 4 (dk_at dksX1_party_6 15 rfl rfl)
theorem dX1_party_157 : decode cX1_party 157 = .ok (.iload 6, 2) := dk_21 6 (dk_at dksX1_party_6 17 rfl rfl)
theorem dX1_party_159 : decode cX1_party 159 = .ok (.iaload, 1) := dk_46 (dk_at dksX1_party_6 19 rfl rfl)
theorem dX1_party_160 : decode cX1_party 160 = .ok (.istore 7, 2) := dk_54 7 (dk_at dksX1_party_6 20 rfl rfl)
theorem dX1_party_162 : decode cX1_party 162 = .ok (.aload_n 0, 1) := dk_42 (dk_at dksX1_party_6 22 rfl rfl)
theorem dX1_party_163 : decode cX1_party 163 = .ok (.iload 7, 2) := dk_21 7 (dk_at dksX1_party_7 0 rfl rfl)
theorem dX1_party_165 : decode cX1_party 165 = .ok (.i2l, 1) := dk_133 (dk_at dksX1_party_7 2 rfl rfl)
theorem dX1_party_166 : decode cX1_party 166 = .ok (.invokevirtual 367, 3) := dk_182 1 111 (dk_at dksX1_party_7 3 rfl rfl)
theorem dX1_party_169 : decode cX1_party 169 = .ok (.iinc 6 1, 3) := dk_132 6 1 (dk_at dksX1_party_7 6 rfl rfl)
theorem dX1_party_172 : decode cX1_party 172 = .ok (.goto (-24), 3) := dk_167 255 232 (dk_at dksX1_party_7 9 rfl rfl)
theorem dX1_party_175 : decode cX1_party 175 = .ok (.aload_n 0, 1) := dk_42 (dk_at dksX1_party_7 12 rfl rfl)
theorem dX1_party_176 : decode cX1_party 176 = .ok (.iload_n 3, 1) := dk_29 (dk_at dksX1_party_7 13 rfl rfl)
theorem dX1_party_177 : decode cX1_party 177 = .ok (.i2l, 1) := dk_133 (dk_at dksX1_party_7 14 rfl rfl)
theorem dX1_party_178 : decode cX1_party 178 = .ok (.invokevirtual 367, 3) := dk_182 1 111 (dk_at dksX1_party_7 15 rfl rfl)
theorem dX1_party_181 : decode cX1_party 181 = .ok (.iload_n 2, 1) := dk_28 (dk_at dksX1_party_7 18 rfl rfl)
theorem dX1_party_182 : decode cX1_party 182 = .ok (.ireturn, 1) := dk_172 (dk_at dksX1_party_7 19 rfl rfl)
def dkwX1_partiesBy_3 : List UInt8 := [132, 3, 1, 167, 255, 204, 177]
abbrev dktX1_partiesBy_3 : List UInt8 := dkwX1_partiesBy_3 ++ []
def dkwX1_partiesBy_2 : List UInt8 := [180, 0, 89, 42, 180, 0, 11, 42, 180, 0, 22, 180, 1, 59, 50, 180, 0, 211, 92, 46, 4, 96, 79]
abbrev dktX1_partiesBy_2 : List UInt8 := dkwX1_partiesBy_2 ++ dktX1_partiesBy_3
def dkwX1_partiesBy_1 : List UInt8 := [162, 0, 53, 42, 42, 180, 0, 22, 44, 182, 1, 107, 42, 180, 0, 22, 180, 1, 59, 2, 159, 0, 27, 42]
abbrev dktX1_partiesBy_1 : List UInt8 := dkwX1_partiesBy_1 ++ dktX1_partiesBy_2
def dkwX1_partiesBy_0 : List UInt8 := [42, 180, 0, 89, 3, 184, 1, 182, 42, 180, 0, 22, 42, 180, 0, 18, 182, 1, 98, 3, 62, 29, 27]
abbrev dktX1_partiesBy_0 : List UInt8 := dkwX1_partiesBy_0 ++ dktX1_partiesBy_1
theorem dksX1_partiesBy_0 : cX1_partiesBy.data.toList.drop 0 = dktX1_partiesBy_0 := by decide +kernel
theorem dksX1_partiesBy_1 : cX1_partiesBy.data.toList.drop 23 = dktX1_partiesBy_1 := dk_seg dksX1_partiesBy_0 23 rfl rfl
theorem dksX1_partiesBy_2 : cX1_partiesBy.data.toList.drop 47 = dktX1_partiesBy_2 := dk_seg dksX1_partiesBy_1 24 rfl rfl
theorem dksX1_partiesBy_3 : cX1_partiesBy.data.toList.drop 70 = dktX1_partiesBy_3 := dk_seg dksX1_partiesBy_2 23 rfl rfl
theorem dX1_partiesBy_0 : decode cX1_partiesBy 0 = .ok (.aload_n 0, 1) := dk_42 (dk_at dksX1_partiesBy_0 0 rfl rfl)
theorem dX1_partiesBy_1 : decode cX1_partiesBy 1 = .ok (.getfield 89, 3) := dk_180 0 89 (dk_at dksX1_partiesBy_0 1 rfl rfl)
theorem dX1_partiesBy_4 : decode cX1_partiesBy 4 = .ok (.iconst 0, 1) := dk_3 (dk_at dksX1_partiesBy_0 4 rfl rfl)
theorem dX1_partiesBy_5 : decode cX1_partiesBy 5 = .ok (.invokestatic 438, 3) := dk_184 1 182 (dk_at dksX1_partiesBy_0 5 rfl rfl)
theorem dX1_partiesBy_8 : decode cX1_partiesBy 8 = .ok (.aload_n 0, 1) := dk_42 (dk_at dksX1_partiesBy_0 8 rfl rfl)
theorem dX1_partiesBy_9 : decode cX1_partiesBy 9 = .ok (.getfield 22, 3) := dk_180 0 22 (dk_at dksX1_partiesBy_0 9 rfl rfl)
theorem dX1_partiesBy_12 : decode cX1_partiesBy 12 = .ok (.aload_n 0, 1) := dk_42 (dk_at dksX1_partiesBy_0 12 rfl rfl)
theorem dX1_partiesBy_13 : decode cX1_partiesBy 13 = .ok (.getfield 18, 3) := dk_180 0 18 (dk_at dksX1_partiesBy_0 13 rfl rfl)
theorem dX1_partiesBy_16 : decode cX1_partiesBy 16 = .ok (.invokevirtual 354, 3) := dk_182 1 98 (dk_at dksX1_partiesBy_0 16 rfl rfl)
theorem dX1_partiesBy_19 : decode cX1_partiesBy 19 = .ok (.iconst 0, 1) := dk_3 (dk_at dksX1_partiesBy_0 19 rfl rfl)
theorem dX1_partiesBy_20 : decode cX1_partiesBy 20 = .ok (.istore_n 3, 1) := dk_62 (dk_at dksX1_partiesBy_0 20 rfl rfl)
theorem dX1_partiesBy_21 : decode cX1_partiesBy 21 = .ok (.iload_n 3, 1) := dk_29 (dk_at dksX1_partiesBy_0 21 rfl rfl)
theorem dX1_partiesBy_22 : decode cX1_partiesBy 22 = .ok (.iload_n 1, 1) := dk_27 (dk_at dksX1_partiesBy_0 22 rfl rfl)
theorem dX1_partiesBy_23 : decode cX1_partiesBy 23 = .ok (.if_icmp .ge 53, 3) := dk_162 0 53 (dk_at dksX1_partiesBy_1 0 rfl rfl)
theorem dX1_partiesBy_26 : decode cX1_partiesBy 26 = .ok (.aload_n 0, 1) := dk_42 (dk_at dksX1_partiesBy_1 3 rfl rfl)
theorem dX1_partiesBy_27 : decode cX1_partiesBy 27 = .ok (.aload_n 0, 1) := dk_42 (dk_at dksX1_partiesBy_1 4 rfl rfl)
theorem dX1_partiesBy_28 : decode cX1_partiesBy 28 = .ok (.getfield 22, 3) := dk_180 0 22 (dk_at dksX1_partiesBy_1 5 rfl rfl)
theorem dX1_partiesBy_31 : decode cX1_partiesBy 31 = .ok (.aload_n 2, 1) := dk_44 (dk_at dksX1_partiesBy_1 8 rfl rfl)
theorem dX1_partiesBy_32 : decode cX1_partiesBy 32 = .ok (.invokevirtual 363, 3) := dk_182 1 107 (dk_at dksX1_partiesBy_1 9 rfl rfl)
theorem dX1_partiesBy_35 : decode cX1_partiesBy 35 = .ok (.aload_n 0, 1) := dk_42 (dk_at dksX1_partiesBy_1 12 rfl rfl)
theorem dX1_partiesBy_36 : decode cX1_partiesBy 36 = .ok (.getfield 22, 3) := dk_180 0 22 (dk_at dksX1_partiesBy_1 13 rfl rfl)
theorem dX1_partiesBy_39 : decode cX1_partiesBy 39 = .ok (.getfield 315, 3) := dk_180 1 59 (dk_at dksX1_partiesBy_1 16 rfl rfl)
theorem dX1_partiesBy_42 : decode cX1_partiesBy 42 = .ok (.iconst (-1), 1) := dk_2 (dk_at dksX1_partiesBy_1 19 rfl rfl)
theorem dX1_partiesBy_43 : decode cX1_partiesBy 43 = .ok (.if_icmp .eq 27, 3) := dk_159 0 27 (dk_at dksX1_partiesBy_1 20 rfl rfl)
theorem dX1_partiesBy_46 : decode cX1_partiesBy 46 = .ok (.aload_n 0, 1) := dk_42 (dk_at dksX1_partiesBy_1 23 rfl rfl)
theorem dX1_partiesBy_47 : decode cX1_partiesBy 47 = .ok (.getfield 89, 3) := dk_180 0 89 (dk_at dksX1_partiesBy_2 0 rfl rfl)
theorem dX1_partiesBy_50 : decode cX1_partiesBy 50 = .ok (.aload_n 0, 1) := dk_42 (dk_at dksX1_partiesBy_2 3 rfl rfl)
theorem dX1_partiesBy_51 : decode cX1_partiesBy 51 = .ok (.getfield 11, 3) := dk_180 0 11 (dk_at dksX1_partiesBy_2 4 rfl rfl)
theorem dX1_partiesBy_54 : decode cX1_partiesBy 54 = .ok (.aload_n 0, 1) := dk_42 (dk_at dksX1_partiesBy_2 7 rfl rfl)
theorem dX1_partiesBy_55 : decode cX1_partiesBy 55 = .ok (.getfield 22, 3) := dk_180 0 22 (dk_at dksX1_partiesBy_2 8 rfl rfl)
theorem dX1_partiesBy_58 : decode cX1_partiesBy 58 = .ok (.getfield 315, 3) := dk_180 1 59 (dk_at dksX1_partiesBy_2 11 rfl rfl)
theorem dX1_partiesBy_61 : decode cX1_partiesBy 61 = .ok (.aaload, 1) := dk_50 (dk_at dksX1_partiesBy_2 14 rfl rfl)
theorem dX1_partiesBy_62 : decode cX1_partiesBy 62 = .ok (.getfield 211, 3) := dk_180 0 211 (dk_at dksX1_partiesBy_2 15 rfl rfl)
theorem dX1_partiesBy_65 : decode cX1_partiesBy 65 = .ok (.dup2, 1) := dk_92 (dk_at dksX1_partiesBy_2 18 rfl rfl)
theorem dX1_partiesBy_66 : decode cX1_partiesBy 66 = .ok (.iaload, 1) := dk_46 (dk_at dksX1_partiesBy_2 19 rfl rfl)
theorem dX1_partiesBy_67 : decode cX1_partiesBy 67 = .ok (.iconst 1, 1) := dk_4 (dk_at dksX1_partiesBy_2 20 rfl rfl)
theorem dX1_partiesBy_68 : decode cX1_partiesBy 68 = .ok (.iadd, 1) := dk_96 (dk_at dksX1_partiesBy_2 21 rfl rfl)
theorem dX1_partiesBy_69 : decode cX1_partiesBy 69 = .ok (.iastore, 1) := dk_79 (dk_at dksX1_partiesBy_2 22 rfl rfl)
theorem dX1_partiesBy_70 : decode cX1_partiesBy 70 = .ok (.iinc 3 1, 3) := dk_132 3 1 (dk_at dksX1_partiesBy_3 0 rfl rfl)
theorem dX1_partiesBy_73 : decode cX1_partiesBy 73 = .ok (.goto (-52), 3) := dk_167 255 204 (dk_at dksX1_partiesBy_3 3 rfl rfl)
theorem dX1_partiesBy_76 : decode cX1_partiesBy 76 = .ok (.return_, 1) := dk_177 (dk_at dksX1_partiesBy_3 6 rfl rfl)
def dkwX1_byTurns_3 : List UInt8 := [182, 1, 191, 42, 3, 181, 0, 154, 42, 29, 42, 180, 0, 89, 27, 46, 100, 133, 182, 1, 111, 29, 172]
abbrev dktX1_byTurns_3 : List UInt8 := dkwX1_byTurns_3 ++ []
def dkwX1_byTurns_2 : List UInt8 := [42, 28, 42, 180, 0, 82, 182, 1, 191, 42, 180, 0, 89, 27, 46, 62, 42, 28, 42, 180, 0, 54]
abbrev dktX1_byTurns_2 : List UInt8 := dkwX1_byTurns_2 ++ dktX1_byTurns_3
def dkwX1_byTurns_1 : List UInt8 := [2, 172, 42, 180, 0, 82, 27, 181, 1, 195, 42, 180, 0, 82, 42, 180, 0, 18, 180, 1, 92, 181, 1, 196]
abbrev dktX1_byTurns_1 : List UInt8 := dkwX1_byTurns_1 ++ dktX1_byTurns_2
def dkwX1_byTurns_0 : List UInt8 := [27, 133, 9, 20, 1, 37, 184, 0, 160, 153, 0, 15, 28, 133, 9, 20, 1, 115, 184, 0, 160, 154, 0, 5]
abbrev dktX1_byTurns_0 : List UInt8 := dkwX1_byTurns_0 ++ dktX1_byTurns_1
theorem dksX1_byTurns_0 : cX1_byTurns.data.toList.drop 0 = dktX1_byTurns_0 := by decide +kernel
theorem dksX1_byTurns_1 : cX1_byTurns.data.toList.drop 24 = dktX1_byTurns_1 := dk_seg dksX1_byTurns_0 24 rfl rfl
theorem dksX1_byTurns_2 : cX1_byTurns.data.toList.drop 48 = dktX1_byTurns_2 := dk_seg dksX1_byTurns_1 24 rfl rfl
theorem dksX1_byTurns_3 : cX1_byTurns.data.toList.drop 70 = dktX1_byTurns_3 := dk_seg dksX1_byTurns_2 22 rfl rfl
theorem dX1_byTurns_0 : decode cX1_byTurns 0 = .ok (.iload_n 1, 1) := dk_27 (dk_at dksX1_byTurns_0 0 rfl rfl)
theorem dX1_byTurns_1 : decode cX1_byTurns 1 = .ok (.i2l, 1) := dk_133 (dk_at dksX1_byTurns_0 1 rfl rfl)
theorem dX1_byTurns_2 : decode cX1_byTurns 2 = .ok (.lconst 0, 1) := dk_9 (dk_at dksX1_byTurns_0 2 rfl rfl)
theorem dX1_byTurns_3 : decode cX1_byTurns 3 = .ok (.ldc2_w 293, 3) := dk_20 1 37 (dk_at dksX1_byTurns_0 3 rfl rfl)
theorem dX1_byTurns_6 : decode cX1_byTurns 6 = .ok (.invokestatic 160, 3) := dk_184 0 160 (dk_at dksX1_byTurns_0 6 rfl rfl)
theorem dX1_byTurns_9 : decode cX1_byTurns 9 = .ok (.ifCond .eq 15, 3) := dk_153 0 15 (dk_at dksX1_byTurns_0 9 rfl rfl)
theorem dX1_byTurns_12 : decode cX1_byTurns 12 = .ok (.iload_n 2, 1) := dk_28 (dk_at dksX1_byTurns_0 12 rfl rfl)
theorem dX1_byTurns_13 : decode cX1_byTurns 13 = .ok (.i2l, 1) := dk_133 (dk_at dksX1_byTurns_0 13 rfl rfl)
theorem dX1_byTurns_14 : decode cX1_byTurns 14 = .ok (.lconst 0, 1) := dk_9 (dk_at dksX1_byTurns_0 14 rfl rfl)
theorem dX1_byTurns_15 : decode cX1_byTurns 15 = .ok (.ldc2_w 371, 3) := dk_20 1 115 (dk_at dksX1_byTurns_0 15 rfl rfl)
theorem dX1_byTurns_18 : decode cX1_byTurns 18 = .ok (.invokestatic 160, 3) := dk_184 0 160 (dk_at dksX1_byTurns_0 18 rfl rfl)
theorem dX1_byTurns_21 : decode cX1_byTurns 21 = .ok (.ifCond .ne 5, 3) := dk_154 0 5 (dk_at dksX1_byTurns_0 21 rfl rfl)
theorem dX1_byTurns_24 : decode cX1_byTurns 24 = .ok (.iconst (-1), 1) := dk_2 (dk_at dksX1_byTurns_1 0 rfl rfl)
theorem dX1_byTurns_25 : decode cX1_byTurns 25 = .ok (.ireturn, 1) := dk_172 (dk_at dksX1_byTurns_1 1 rfl rfl)
theorem dX1_byTurns_26 : decode cX1_byTurns 26 = .ok (.aload_n 0, 1) := dk_42 (dk_at dksX1_byTurns_1 2 rfl rfl)
theorem dX1_byTurns_27 : decode cX1_byTurns 27 = .ok (.getfield 82, 3) := dk_180 0 82 (dk_at dksX1_byTurns_1 3 rfl rfl)
theorem dX1_byTurns_30 : decode cX1_byTurns 30 = .ok (.iload_n 1, 1) := dk_27 (dk_at dksX1_byTurns_1 6 rfl rfl)
theorem dX1_byTurns_31 : decode cX1_byTurns 31 = .ok (.putfield 451, 3) := dk_181 1 195 (dk_at dksX1_byTurns_1 7 rfl rfl)
theorem dX1_byTurns_34 : decode cX1_byTurns 34 = .ok (.aload_n 0, 1) := dk_42 (dk_at dksX1_byTurns_1 10 rfl rfl)
theorem dX1_byTurns_35 : decode cX1_byTurns 35 = .ok (.getfield 82, 3) := dk_180 0 82 (dk_at dksX1_byTurns_1 11 rfl rfl)
theorem dX1_byTurns_38 : decode cX1_byTurns 38 = .ok (.aload_n 0, 1) := dk_42 (dk_at dksX1_byTurns_1 14 rfl rfl)
theorem dX1_byTurns_39 : decode cX1_byTurns 39 = .ok (.getfield 18, 3) := dk_180 0 18 (dk_at dksX1_byTurns_1 15 rfl rfl)
theorem dX1_byTurns_42 : decode cX1_byTurns 42 = .ok (.getfield 348, 3) := dk_180 1 92 (dk_at dksX1_byTurns_1 18 rfl rfl)
theorem dX1_byTurns_45 : decode cX1_byTurns 45 = .ok (.putfield 452, 3) := dk_181 1 196 (dk_at dksX1_byTurns_1 21 rfl rfl)
theorem dX1_byTurns_48 : decode cX1_byTurns 48 = .ok (.aload_n 0, 1) := dk_42 (dk_at dksX1_byTurns_2 0 rfl rfl)
theorem dX1_byTurns_49 : decode cX1_byTurns 49 = .ok (.iload_n 2, 1) := dk_28 (dk_at dksX1_byTurns_2 1 rfl rfl)
theorem dX1_byTurns_50 : decode cX1_byTurns 50 = .ok (.aload_n 0, 1) := dk_42 (dk_at dksX1_byTurns_2 2 rfl rfl)
theorem dX1_byTurns_51 : decode cX1_byTurns 51 = .ok (.getfield 82, 3) := dk_180 0 82 (dk_at dksX1_byTurns_2 3 rfl rfl)
theorem dX1_byTurns_54 : decode cX1_byTurns 54 = .ok (.invokevirtual 447, 3) := dk_182 1 191 (dk_at dksX1_byTurns_2 6 rfl rfl)
theorem dX1_byTurns_57 : decode cX1_byTurns 57 = .ok (.aload_n 0, 1) := dk_42 (dk_at dksX1_byTurns_2 9 rfl rfl)
theorem dX1_byTurns_58 : decode cX1_byTurns 58 = .ok (.getfield 89, 3) := dk_180 0 89 (dk_at dksX1_byTurns_2 10 rfl rfl)
theorem dX1_byTurns_61 : decode cX1_byTurns 61 = .ok (.iload_n 1, 1) := dk_27 (dk_at dksX1_byTurns_2 13 rfl rfl)
theorem dX1_byTurns_62 : decode cX1_byTurns 62 = .ok (.iaload, 1) := dk_46 (dk_at dksX1_byTurns_2 14 rfl rfl)
theorem dX1_byTurns_63 : decode cX1_byTurns 63 = .ok (.istore_n 3, 1) := dk_62 (dk_at dksX1_byTurns_2 15 rfl rfl)
theorem dX1_byTurns_64 : decode cX1_byTurns 64 = .ok (.aload_n 0, 1) := dk_42 (dk_at dksX1_byTurns_2 16 rfl rfl)
theorem dX1_byTurns_65 : decode cX1_byTurns 65 = .ok (.iload_n 2, 1) := dk_28 (dk_at dksX1_byTurns_2 17 rfl rfl)
theorem dX1_byTurns_66 : decode cX1_byTurns 66 = .ok (.aload_n 0, 1) := dk_42 (dk_at dksX1_byTurns_2 18 rfl rfl)
theorem dX1_byTurns_67 : decode cX1_byTurns 67 = .ok (.getfield 54, 3) := dk_180 0 54 (dk_at dksX1_byTurns_2 19 rfl rfl)
theorem dX1_byTurns_70 : decode cX1_byTurns 70 = .ok (.invokevirtual 447, 3) := dk_182 1 191 (dk_at dksX1_byTurns_3 0 rfl rfl)
theorem dX1_byTurns_73 : decode cX1_byTurns 73 = .ok (.aload_n 0, 1) := dk_42 (dk_at dksX1_byTurns_3 3 rfl rfl)
theorem dX1_byTurns_74 : decode cX1_byTurns 74 = .ok (.iconst 0, 1) := dk_3 (dk_at dksX1_byTurns_3 4 rfl rfl)
theorem dX1_byTurns_75 : decode cX1_byTurns 75 = .ok (.putfield 154, 3) := dk_181 0 154 (dk_at dksX1_byTurns_3 5 rfl rfl)
theorem dX1_byTurns_78 : decode cX1_byTurns 78 = .ok (.aload_n 0, 1) := dk_42 (dk_at dksX1_byTurns_3 8 rfl rfl)
theorem dX1_byTurns_79 : decode cX1_byTurns 79 = .ok (.iload_n 3, 1) := dk_29 (dk_at dksX1_byTurns_3 9 rfl rfl)
theorem dX1_byTurns_80 : decode cX1_byTurns 80 = .ok (.aload_n 0, 1) := dk_42 (dk_at dksX1_byTurns_3 10 rfl rfl)
theorem dX1_byTurns_81 : decode cX1_byTurns 81 = .ok (.getfield 89, 3) := dk_180 0 89 (dk_at dksX1_byTurns_3 11 rfl rfl)
theorem dX1_byTurns_84 : decode cX1_byTurns 84 = .ok (.iload_n 1, 1) := dk_27 (dk_at dksX1_byTurns_3 14 rfl rfl)
theorem dX1_byTurns_85 : decode cX1_byTurns 85 = .ok (.iaload, 1) := dk_46 (dk_at dksX1_byTurns_3 15 rfl rfl)
theorem dX1_byTurns_86 : decode cX1_byTurns 86 = .ok (.isub, 1) := dk_100 (dk_at dksX1_byTurns_3 16 rfl rfl)
theorem dX1_byTurns_87 : decode cX1_byTurns 87 = .ok (.i2l, 1) := dk_133 (dk_at dksX1_byTurns_3 17 rfl rfl)
theorem dX1_byTurns_88 : decode cX1_byTurns 88 = .ok (.invokevirtual 367, 3) := dk_182 1 111 (dk_at dksX1_byTurns_3 18 rfl rfl)
theorem dX1_byTurns_91 : decode cX1_byTurns 91 = .ok (.iload_n 3, 1) := dk_29 (dk_at dksX1_byTurns_3 21 rfl rfl)
theorem dX1_byTurns_92 : decode cX1_byTurns 92 = .ok (.ireturn, 1) := dk_172 (dk_at dksX1_byTurns_3 22 rfl rfl)
def dkwX1_hold_2 : List UInt8 := [16, 247, 160, 0, 8, 16, 254, 167, 0, 4, 28, 172]
abbrev dktX1_hold_2 : List UInt8 := dkwX1_hold_2 ++ []
def dkwX1_hold_1 : List UInt8 := [160, 0, 6, 16, 253, 172, 42, 180, 0, 102, 27, 181, 1, 205, 42, 180, 0, 102, 184, 1, 208, 61, 28]
abbrev dktX1_hold_1 : List UInt8 := dkwX1_hold_1 ++ dktX1_hold_2
def dkwX1_hold_0 : List UInt8 := [27, 133, 9, 20, 1, 203, 184, 0, 160, 154, 0, 5, 2, 172, 42, 180, 0, 18, 180, 1, 59, 2]
abbrev dktX1_hold_0 : List UInt8 := dkwX1_hold_0 ++ dktX1_hold_1
theorem dksX1_hold_0 : cX1_hold.data.toList.drop 0 = dktX1_hold_0 := by decide +kernel
theorem dksX1_hold_1 : cX1_hold.data.toList.drop 22 = dktX1_hold_1 := dk_seg dksX1_hold_0 22 rfl rfl
theorem dksX1_hold_2 : cX1_hold.data.toList.drop 45 = dktX1_hold_2 := dk_seg dksX1_hold_1 23 rfl rfl
theorem dX1_hold_0 : decode cX1_hold 0 = .ok (.iload_n 1, 1) := dk_27 (dk_at dksX1_hold_0 0 rfl rfl)
theorem dX1_hold_1 : decode cX1_hold 1 = .ok (.i2l, 1) := dk_133 (dk_at dksX1_hold_0 1 rfl rfl)
theorem dX1_hold_2 : decode cX1_hold 2 = .ok (.lconst 0, 1) := dk_9 (dk_at dksX1_hold_0 2 rfl rfl)
theorem dX1_hold_3 : decode cX1_hold 3 = .ok (.ldc2_w 459, 3) := dk_20 1 203 (dk_at dksX1_hold_0 3 rfl rfl)
theorem dX1_hold_6 : decode cX1_hold 6 = .ok (.invokestatic 160, 3) := dk_184 0 160 (dk_at dksX1_hold_0 6 rfl rfl)
theorem dX1_hold_9 : decode cX1_hold 9 = .ok (.ifCond .ne 5, 3) := dk_154 0 5 (dk_at dksX1_hold_0 9 rfl rfl)
theorem dX1_hold_12 : decode cX1_hold 12 = .ok (.iconst (-1), 1) := dk_2 (dk_at dksX1_hold_0 12 rfl rfl)
theorem dX1_hold_13 : decode cX1_hold 13 = .ok (.ireturn, 1) := dk_172 (dk_at dksX1_hold_0 13 rfl rfl)
theorem dX1_hold_14 : decode cX1_hold 14 = .ok (.aload_n 0, 1) := dk_42 (dk_at dksX1_hold_0 14 rfl rfl)
theorem dX1_hold_15 : decode cX1_hold 15 = .ok (.getfield 18, 3) := dk_180 0 18 (dk_at dksX1_hold_0 15 rfl rfl)
theorem dX1_hold_18 : decode cX1_hold 18 = .ok (.getfield 315, 3) := dk_180 1 59 (dk_at dksX1_hold_0 18 rfl rfl)
theorem dX1_hold_21 : decode cX1_hold 21 = .ok (.iconst (-1), 1) := dk_2 (dk_at dksX1_hold_0 21 rfl rfl)
theorem dX1_hold_22 : decode cX1_hold 22 = .ok (.if_icmp .ne 6, 3) := dk_160 0 6 (dk_at dksX1_hold_1 0 rfl rfl)
theorem dX1_hold_25 : decode cX1_hold 25 = .ok (.bipush (-3), 2) := dk_16 253 (dk_at dksX1_hold_1 3 rfl rfl)
theorem dX1_hold_27 : decode cX1_hold 27 = .ok (.ireturn, 1) := dk_172 (dk_at dksX1_hold_1 5 rfl rfl)
theorem dX1_hold_28 : decode cX1_hold 28 = .ok (.aload_n 0, 1) := dk_42 (dk_at dksX1_hold_1 6 rfl rfl)
theorem dX1_hold_29 : decode cX1_hold 29 = .ok (.getfield 102, 3) := dk_180 0 102 (dk_at dksX1_hold_1 7 rfl rfl)
theorem dX1_hold_32 : decode cX1_hold 32 = .ok (.iload_n 1, 1) := dk_27 (dk_at dksX1_hold_1 10 rfl rfl)
theorem dX1_hold_33 : decode cX1_hold 33 = .ok (.putfield 461, 3) := dk_181 1 205 (dk_at dksX1_hold_1 11 rfl rfl)
theorem dX1_hold_36 : decode cX1_hold 36 = .ok (.aload_n 0, 1) := dk_42 (dk_at dksX1_hold_1 14 rfl rfl)
theorem dX1_hold_37 : decode cX1_hold 37 = .ok (.getfield 102, 3) := dk_180 0 102 (dk_at dksX1_hold_1 15 rfl rfl)
theorem dX1_hold_40 : decode cX1_hold 40 = .ok (.invokestatic 464, 3) := dk_184 1 208 (dk_at dksX1_hold_1 18 rfl rfl)
theorem dX1_hold_43 : decode cX1_hold 43 = .ok (.istore_n 2, 1) := dk_61 (dk_at dksX1_hold_1 21 rfl rfl)
theorem dX1_hold_44 : decode cX1_hold 44 = .ok (.iload_n 2, 1) := dk_28 (dk_at dksX1_hold_1 22 rfl rfl)
theorem dX1_hold_45 : decode cX1_hold 45 = .ok (.bipush (-9), 2) := dk_16 247 (dk_at dksX1_hold_2 0 rfl rfl)
theorem dX1_hold_47 : decode cX1_hold 47 = .ok (.if_icmp .ne 8, 3) := dk_160 0 8 (dk_at dksX1_hold_2 2 rfl rfl)
theorem dX1_hold_50 : decode cX1_hold 50 = .ok (.bipush (-2), 2) := dk_16 254 (dk_at dksX1_hold_2 5 rfl rfl)
theorem dX1_hold_52 : decode cX1_hold 52 = .ok (.goto 4, 3) := dk_167 0 4 (dk_at dksX1_hold_2 7 rfl rfl)
theorem dX1_hold_55 : decode cX1_hold 55 = .ok (.iload_n 2, 1) := dk_28 (dk_at dksX1_hold_2 10 rfl rfl)
theorem dX1_hold_56 : decode cX1_hold 56 = .ok (.ireturn, 1) := dk_172 (dk_at dksX1_hold_2 11 rfl rfl)
def dkwX1_fewestBy_1 : List UInt8 := [167, 255, 234, 16, 247, 172]
abbrev dktX1_fewestBy_1 : List UInt8 := dkwX1_fewestBy_1 ++ []
def dkwX1_fewestBy_0 : List UInt8 := [3, 60, 27, 17, 3, 231, 163, 0, 21, 42, 27, 185, 1, 198, 2, 0, 153, 0, 5, 27, 172, 132, 1, 1]
abbrev dktX1_fewestBy_0 : List UInt8 := dkwX1_fewestBy_0 ++ dktX1_fewestBy_1
theorem dksX1_fewestBy_0 : cX1_fewestBy.data.toList.drop 0 = dktX1_fewestBy_0 := by decide +kernel
theorem dksX1_fewestBy_1 : cX1_fewestBy.data.toList.drop 24 = dktX1_fewestBy_1 := dk_seg dksX1_fewestBy_0 24 rfl rfl
theorem dX1_fewestBy_0 : decode cX1_fewestBy 0 = .ok (.iconst 0, 1) := dk_3 (dk_at dksX1_fewestBy_0 0 rfl rfl)
theorem dX1_fewestBy_1 : decode cX1_fewestBy 1 = .ok (.istore_n 1, 1) := dk_60 (dk_at dksX1_fewestBy_0 1 rfl rfl)
theorem dX1_fewestBy_2 : decode cX1_fewestBy 2 = .ok (.iload_n 1, 1) := dk_27 (dk_at dksX1_fewestBy_0 2 rfl rfl)
theorem dX1_fewestBy_3 : decode cX1_fewestBy 3 = .ok (.sipush 999, 3) := dk_17 3 231 (dk_at dksX1_fewestBy_0 3 rfl rfl)
theorem dX1_fewestBy_6 : decode cX1_fewestBy 6 = .ok (.if_icmp .gt 21, 3) := dk_163 0 21 (dk_at dksX1_fewestBy_0 6 rfl rfl)
theorem dX1_fewestBy_9 : decode cX1_fewestBy 9 = .ok (.aload_n 0, 1) := dk_42 (dk_at dksX1_fewestBy_0 9 rfl rfl)
theorem dX1_fewestBy_10 : decode cX1_fewestBy 10 = .ok (.iload_n 1, 1) := dk_27 (dk_at dksX1_fewestBy_0 10 rfl rfl)
theorem dX1_fewestBy_11 : decode cX1_fewestBy 11 = .ok (.invokeinterface 454 2, 5) := by decide +kernel
theorem dX1_fewestBy_16 : decode cX1_fewestBy 16 = .ok (.ifCond .eq 5, 3) := dk_153 0 5 (dk_at dksX1_fewestBy_0 16 rfl rfl)
theorem dX1_fewestBy_19 : decode cX1_fewestBy 19 = .ok (.iload_n 1, 1) := dk_27 (dk_at dksX1_fewestBy_0 19 rfl rfl)
theorem dX1_fewestBy_20 : decode cX1_fewestBy 20 = .ok (.ireturn, 1) := dk_172 (dk_at dksX1_fewestBy_0 20 rfl rfl)
theorem dX1_fewestBy_21 : decode cX1_fewestBy 21 = .ok (.iinc 1 1, 3) := dk_132 1 1 (dk_at dksX1_fewestBy_0 21 rfl rfl)
theorem dX1_fewestBy_24 : decode cX1_fewestBy 24 = .ok (.goto (-22), 3) := dk_167 255 234 (dk_at dksX1_fewestBy_1 0 rfl rfl)
theorem dX1_fewestBy_27 : decode cX1_fewestBy 27 = .ok (.bipush (-9), 2) := dk_16 247 (dk_at dksX1_fewestBy_1 3 rfl rfl)
theorem dX1_fewestBy_29 : decode cX1_fewestBy 29 = .ok (.ireturn, 1) := dk_172 (dk_at dksX1_fewestBy_1 5 rfl rfl)
def dkwX1_begin_1 : List UInt8 := [180, 0, 22, 180, 0, 236, 27, 46, 28, 96, 184, 1, 56, 184, 0, 178, 79, 177]
abbrev dktX1_begin_1 : List UInt8 := dkwX1_begin_1 ++ []
def dkwX1_begin_0 : List UInt8 := [42, 180, 0, 22, 42, 180, 0, 18, 182, 1, 98, 42, 180, 0, 22, 180, 0, 236, 27, 4, 17, 3, 231, 42]
abbrev dktX1_begin_0 : List UInt8 := dkwX1_begin_0 ++ dktX1_begin_1
theorem dksX1_begin_0 : cX1_begin.data.toList.drop 0 = dktX1_begin_0 := by decide +kernel
theorem dksX1_begin_1 : cX1_begin.data.toList.drop 24 = dktX1_begin_1 := dk_seg dksX1_begin_0 24 rfl rfl
theorem dX1_begin_0 : decode cX1_begin 0 = .ok (.aload_n 0, 1) := dk_42 (dk_at dksX1_begin_0 0 rfl rfl)
theorem dX1_begin_1 : decode cX1_begin 1 = .ok (.getfield 22, 3) := dk_180 0 22 (dk_at dksX1_begin_0 1 rfl rfl)
theorem dX1_begin_4 : decode cX1_begin 4 = .ok (.aload_n 0, 1) := dk_42 (dk_at dksX1_begin_0 4 rfl rfl)
theorem dX1_begin_5 : decode cX1_begin 5 = .ok (.getfield 18, 3) := dk_180 0 18 (dk_at dksX1_begin_0 5 rfl rfl)
theorem dX1_begin_8 : decode cX1_begin 8 = .ok (.invokevirtual 354, 3) := dk_182 1 98 (dk_at dksX1_begin_0 8 rfl rfl)
theorem dX1_begin_11 : decode cX1_begin 11 = .ok (.aload_n 0, 1) := dk_42 (dk_at dksX1_begin_0 11 rfl rfl)
theorem dX1_begin_12 : decode cX1_begin 12 = .ok (.getfield 22, 3) := dk_180 0 22 (dk_at dksX1_begin_0 12 rfl rfl)
theorem dX1_begin_15 : decode cX1_begin 15 = .ok (.getfield 236, 3) := dk_180 0 236 (dk_at dksX1_begin_0 15 rfl rfl)
theorem dX1_begin_18 : decode cX1_begin 18 = .ok (.iload_n 1, 1) := dk_27 (dk_at dksX1_begin_0 18 rfl rfl)
theorem dX1_begin_19 : decode cX1_begin 19 = .ok (.iconst 1, 1) := dk_4 (dk_at dksX1_begin_0 19 rfl rfl)
theorem dX1_begin_20 : decode cX1_begin 20 = .ok (.sipush 999, 3) := dk_17 3 231 (dk_at dksX1_begin_0 20 rfl rfl)
theorem dX1_begin_23 : decode cX1_begin 23 = .ok (.aload_n 0, 1) := dk_42 (dk_at dksX1_begin_0 23 rfl rfl)
theorem dX1_begin_24 : decode cX1_begin 24 = .ok (.getfield 22, 3) := dk_180 0 22 (dk_at dksX1_begin_1 0 rfl rfl)
theorem dX1_begin_27 : decode cX1_begin 27 = .ok (.getfield 236, 3) := dk_180 0 236 (dk_at dksX1_begin_1 3 rfl rfl)
theorem dX1_begin_30 : decode cX1_begin 30 = .ok (.iload_n 1, 1) := dk_27 (dk_at dksX1_begin_1 6 rfl rfl)
theorem dX1_begin_31 : decode cX1_begin 31 = .ok (.iaload, 1) := dk_46 (dk_at dksX1_begin_1 7 rfl rfl)
theorem dX1_begin_32 : decode cX1_begin 32 = .ok (.iload_n 2, 1) := dk_28 (dk_at dksX1_begin_1 8 rfl rfl)
theorem dX1_begin_33 : decode cX1_begin 33 = .ok (.iadd, 1) := dk_96 (dk_at dksX1_begin_1 9 rfl rfl)
theorem dX1_begin_34 : decode cX1_begin 34 = .ok (.invokestatic 312, 3) := dk_184 1 56 (dk_at dksX1_begin_1 10 rfl rfl)
theorem dX1_begin_37 : decode cX1_begin 37 = .ok (.invokestatic 178, 3) := dk_184 0 178 (dk_at dksX1_begin_1 13 rfl rfl)
theorem dX1_begin_40 : decode cX1_begin 40 = .ok (.iastore, 1) := dk_79 (dk_at dksX1_begin_1 16 rfl rfl)
theorem dX1_begin_41 : decode cX1_begin 41 = .ok (.return_, 1) := dk_177 (dk_at dksX1_begin_1 17 rfl rfl)
def dkwX1_bribe_3 : List UInt8 := [180, 0, 22, 180, 0, 239, 27, 46, 42, 180, 0, 18, 180, 0, 239, 27, 46, 100, 133, 182, 1, 111, 29, 172]
abbrev dktX1_bribe_3 : List UInt8 := dkwX1_bribe_3 ++ []
def dkwX1_bribe_2 : List UInt8 := [16, 247, 160, 0, 6, 16, 254, 172, 42, 180, 0, 109, 29, 182, 1, 214, 87, 42, 3, 181, 0, 154, 42, 42]
abbrev dktX1_bribe_2 : List UInt8 := dkwX1_bribe_2 ++ dktX1_bribe_3
def dkwX1_bribe_1 : List UInt8 := [180, 0, 109, 27, 181, 1, 212, 42, 180, 0, 109, 28, 181, 1, 213, 42, 180, 0, 109, 184, 1, 208, 62, 29]
abbrev dktX1_bribe_1 : List UInt8 := dkwX1_bribe_1 ++ dktX1_bribe_2
def dkwX1_bribe_0 : List UInt8 := [42, 27, 182, 1, 146, 153, 0, 15, 28, 133, 10, 20, 1, 203, 184, 0, 160, 154, 0, 5, 2, 172, 42]
abbrev dktX1_bribe_0 : List UInt8 := dkwX1_bribe_0 ++ dktX1_bribe_1
theorem dksX1_bribe_0 : cX1_bribe.data.toList.drop 0 = dktX1_bribe_0 := by decide +kernel
theorem dksX1_bribe_1 : cX1_bribe.data.toList.drop 23 = dktX1_bribe_1 := dk_seg dksX1_bribe_0 23 rfl rfl
theorem dksX1_bribe_2 : cX1_bribe.data.toList.drop 47 = dktX1_bribe_2 := dk_seg dksX1_bribe_1 24 rfl rfl
theorem dksX1_bribe_3 : cX1_bribe.data.toList.drop 71 = dktX1_bribe_3 := dk_seg dksX1_bribe_2 24 rfl rfl
theorem dX1_bribe_0 : decode cX1_bribe 0 = .ok (.aload_n 0, 1) := dk_42 (dk_at dksX1_bribe_0 0 rfl rfl)
theorem dX1_bribe_1 : decode cX1_bribe 1 = .ok (.iload_n 1, 1) := dk_27 (dk_at dksX1_bribe_0 1 rfl rfl)
theorem dX1_bribe_2 : decode cX1_bribe 2 = .ok (.invokevirtual 402, 3) := dk_182 1 146 (dk_at dksX1_bribe_0 2 rfl rfl)
theorem dX1_bribe_5 : decode cX1_bribe 5 = .ok (.ifCond .eq 15, 3) := dk_153 0 15 (dk_at dksX1_bribe_0 5 rfl rfl)
theorem dX1_bribe_8 : decode cX1_bribe 8 = .ok (.iload_n 2, 1) := dk_28 (dk_at dksX1_bribe_0 8 rfl rfl)
theorem dX1_bribe_9 : decode cX1_bribe 9 = .ok (.i2l, 1) := dk_133 (dk_at dksX1_bribe_0 9 rfl rfl)
theorem dX1_bribe_10 : decode cX1_bribe 10 = .ok (.lconst 1, 1) := dk_10 (dk_at dksX1_bribe_0 10 rfl rfl)
theorem dX1_bribe_11 : decode cX1_bribe 11 = .ok (.ldc2_w 459, 3) := dk_20 1 203 (dk_at dksX1_bribe_0 11 rfl rfl)
theorem dX1_bribe_14 : decode cX1_bribe 14 = .ok (.invokestatic 160, 3) := dk_184 0 160 (dk_at dksX1_bribe_0 14 rfl rfl)
theorem dX1_bribe_17 : decode cX1_bribe 17 = .ok (.ifCond .ne 5, 3) := dk_154 0 5 (dk_at dksX1_bribe_0 17 rfl rfl)
theorem dX1_bribe_20 : decode cX1_bribe 20 = .ok (.iconst (-1), 1) := dk_2 (dk_at dksX1_bribe_0 20 rfl rfl)
theorem dX1_bribe_21 : decode cX1_bribe 21 = .ok (.ireturn, 1) := dk_172 (dk_at dksX1_bribe_0 21 rfl rfl)
theorem dX1_bribe_22 : decode cX1_bribe 22 = .ok (.aload_n 0, 1) := dk_42 (dk_at dksX1_bribe_0 22 rfl rfl)
theorem dX1_bribe_23 : decode cX1_bribe 23 = .ok (.getfield 109, 3) := dk_180 0 109 (dk_at dksX1_bribe_1 0 rfl rfl)
theorem dX1_bribe_26 : decode cX1_bribe 26 = .ok (.iload_n 1, 1) := dk_27 (dk_at dksX1_bribe_1 3 rfl rfl)
theorem dX1_bribe_27 : decode cX1_bribe 27 = .ok (.putfield 468, 3) := dk_181 1 212 (dk_at dksX1_bribe_1 4 rfl rfl)
theorem dX1_bribe_30 : decode cX1_bribe 30 = .ok (.aload_n 0, 1) := dk_42 (dk_at dksX1_bribe_1 7 rfl rfl)
theorem dX1_bribe_31 : decode cX1_bribe 31 = .ok (.getfield 109, 3) := dk_180 0 109 (dk_at dksX1_bribe_1 8 rfl rfl)
theorem dX1_bribe_34 : decode cX1_bribe 34 = .ok (.iload_n 2, 1) := dk_28 (dk_at dksX1_bribe_1 11 rfl rfl)
theorem dX1_bribe_35 : decode cX1_bribe 35 = .ok (.putfield 469, 3) := dk_181 1 213 (dk_at dksX1_bribe_1 12 rfl rfl)
theorem dX1_bribe_38 : decode cX1_bribe 38 = .ok (.aload_n 0, 1) := dk_42 (dk_at dksX1_bribe_1 15 rfl rfl)
theorem dX1_bribe_39 : decode cX1_bribe 39 = .ok (.getfield 109, 3) := dk_180 0 109 (dk_at dksX1_bribe_1 16 rfl rfl)
theorem dX1_bribe_42 : decode cX1_bribe 42 = .ok (.invokestatic 464, 3) := dk_184 1 208 (dk_at dksX1_bribe_1 19 rfl rfl)
theorem dX1_bribe_45 : decode cX1_bribe 45 = .ok (.istore_n 3, 1) := dk_62 (dk_at dksX1_bribe_1 22 rfl rfl)
theorem dX1_bribe_46 : decode cX1_bribe 46 = .ok (.iload_n 3, 1) := dk_29 (dk_at dksX1_bribe_1 23 rfl rfl)
theorem dX1_bribe_47 : decode cX1_bribe 47 = .ok (.bipush (-9), 2) := dk_16 247 (dk_at dksX1_bribe_2 0 rfl rfl)
theorem dX1_bribe_49 : decode cX1_bribe 49 = .ok (.if_icmp .ne 6, 3) := dk_160 0 6 (dk_at dksX1_bribe_2 2 rfl rfl)
theorem dX1_bribe_52 : decode cX1_bribe 52 = .ok (.bipush (-2), 2) := dk_16 254 (dk_at dksX1_bribe_2 5 rfl rfl)
theorem dX1_bribe_54 : decode cX1_bribe 54 = .ok (.ireturn, 1) := dk_172 (dk_at dksX1_bribe_2 7 rfl rfl)
theorem dX1_bribe_55 : decode cX1_bribe 55 = .ok (.aload_n 0, 1) := dk_42 (dk_at dksX1_bribe_2 8 rfl rfl)
theorem dX1_bribe_56 : decode cX1_bribe 56 = .ok (.getfield 109, 3) := dk_180 0 109 (dk_at dksX1_bribe_2 9 rfl rfl)
theorem dX1_bribe_59 : decode cX1_bribe 59 = .ok (.iload_n 3, 1) := dk_29 (dk_at dksX1_bribe_2 12 rfl rfl)
theorem dX1_bribe_60 : decode cX1_bribe 60 = .ok (.invokevirtual 470, 3) := dk_182 1 214 (dk_at dksX1_bribe_2 13 rfl rfl)
theorem dX1_bribe_63 : decode cX1_bribe 63 = .ok (.pop, 1) := dk_87 (dk_at dksX1_bribe_2 16 rfl rfl)
theorem dX1_bribe_64 : decode cX1_bribe 64 = .ok (.aload_n 0, 1) := dk_42 (dk_at dksX1_bribe_2 17 rfl rfl)
theorem dX1_bribe_65 : decode cX1_bribe 65 = .ok (.iconst 0, 1) := dk_3 (dk_at dksX1_bribe_2 18 rfl rfl)
theorem dX1_bribe_66 : decode cX1_bribe 66 = .ok (.putfield 154, 3) := dk_181 0 154 (dk_at dksX1_bribe_2 19 rfl rfl)
theorem dX1_bribe_69 : decode cX1_bribe 69 = .ok (.aload_n 0, 1) := dk_42 (dk_at dksX1_bribe_2 22 rfl rfl)
theorem dX1_bribe_70 : decode cX1_bribe 70 = .ok (.aload_n 0, 1) := dk_42 (dk_at dksX1_bribe_2 23 rfl rfl)
theorem dX1_bribe_71 : decode cX1_bribe 71 = .ok (.getfield 22, 3) := dk_180 0 22 (dk_at dksX1_bribe_3 0 rfl rfl)
theorem dX1_bribe_74 : decode cX1_bribe 74 = .ok (.getfield 239, 3) := dk_180 0 239 (dk_at dksX1_bribe_3 3 rfl rfl)
theorem dX1_bribe_77 : decode cX1_bribe 77 = .ok (.iload_n 1, 1) := dk_27 (dk_at dksX1_bribe_3 6 rfl rfl)
theorem dX1_bribe_78 : decode cX1_bribe 78 = .ok (.iaload, 1) := dk_46 (dk_at dksX1_bribe_3 7 rfl rfl)
theorem dX1_bribe_79 : decode cX1_bribe 79 = .ok (.aload_n 0, 1) := dk_42 (dk_at dksX1_bribe_3 8 rfl rfl)
theorem dX1_bribe_80 : decode cX1_bribe 80 = .ok (.getfield 18, 3) := dk_180 0 18 (dk_at dksX1_bribe_3 9 rfl rfl)
theorem dX1_bribe_83 : decode cX1_bribe 83 = .ok (.getfield 239, 3) := dk_180 0 239 (dk_at dksX1_bribe_3 12 rfl rfl)
theorem dX1_bribe_86 : decode cX1_bribe 86 = .ok (.iload_n 1, 1) := dk_27 (dk_at dksX1_bribe_3 15 rfl rfl)
theorem dX1_bribe_87 : decode cX1_bribe 87 = .ok (.iaload, 1) := dk_46 (dk_at dksX1_bribe_3 16 rfl rfl)
theorem dX1_bribe_88 : decode cX1_bribe 88 = .ok (.isub, 1) := dk_100 (dk_at dksX1_bribe_3 17 rfl rfl)
theorem dX1_bribe_89 : decode cX1_bribe 89 = .ok (.i2l, 1) := dk_133 (dk_at dksX1_bribe_3 18 rfl rfl)
theorem dX1_bribe_90 : decode cX1_bribe 90 = .ok (.invokevirtual 367, 3) := dk_182 1 111 (dk_at dksX1_bribe_3 19 rfl rfl)
theorem dX1_bribe_93 : decode cX1_bribe 93 = .ok (.iload_n 3, 1) := dk_29 (dk_at dksX1_bribe_3 22 rfl rfl)
theorem dX1_bribe_94 : decode cX1_bribe 94 = .ok (.ireturn, 1) := dk_172 (dk_at dksX1_bribe_3 23 rfl rfl)
def dkwX1_starve_2 : List UInt8 := [16, 247, 160, 0, 8, 16, 254, 167, 0, 4, 29, 172]
abbrev dktX1_starve_2 : List UInt8 := dkwX1_starve_2 ++ []
def dkwX1_starve_1 : List UInt8 := [180, 0, 116, 27, 181, 1, 215, 42, 180, 0, 116, 28, 181, 1, 216, 42, 180, 0, 116, 184, 1, 208, 62, 29]
abbrev dktX1_starve_1 : List UInt8 := dkwX1_starve_1 ++ dktX1_starve_2
def dkwX1_starve_0 : List UInt8 := [42, 27, 182, 1, 146, 153, 0, 15, 28, 133, 9, 20, 1, 203, 184, 0, 160, 154, 0, 5, 2, 172, 42]
abbrev dktX1_starve_0 : List UInt8 := dkwX1_starve_0 ++ dktX1_starve_1
theorem dksX1_starve_0 : cX1_starve.data.toList.drop 0 = dktX1_starve_0 := by decide +kernel
theorem dksX1_starve_1 : cX1_starve.data.toList.drop 23 = dktX1_starve_1 := dk_seg dksX1_starve_0 23 rfl rfl
theorem dksX1_starve_2 : cX1_starve.data.toList.drop 47 = dktX1_starve_2 := dk_seg dksX1_starve_1 24 rfl rfl
theorem dX1_starve_0 : decode cX1_starve 0 = .ok (.aload_n 0, 1) := dk_42 (dk_at dksX1_starve_0 0 rfl rfl)
theorem dX1_starve_1 : decode cX1_starve 1 = .ok (.iload_n 1, 1) := dk_27 (dk_at dksX1_starve_0 1 rfl rfl)
theorem dX1_starve_2 : decode cX1_starve 2 = .ok (.invokevirtual 402, 3) := dk_182 1 146 (dk_at dksX1_starve_0 2 rfl rfl)
theorem dX1_starve_5 : decode cX1_starve 5 = .ok (.ifCond .eq 15, 3) := dk_153 0 15 (dk_at dksX1_starve_0 5 rfl rfl)
theorem dX1_starve_8 : decode cX1_starve 8 = .ok (.iload_n 2, 1) := dk_28 (dk_at dksX1_starve_0 8 rfl rfl)
theorem dX1_starve_9 : decode cX1_starve 9 = .ok (.i2l, 1) := dk_133 (dk_at dksX1_starve_0 9 rfl rfl)
theorem dX1_starve_10 : decode cX1_starve 10 = .ok (.lconst 0, 1) := dk_9 (dk_at dksX1_starve_0 10 rfl rfl)
theorem dX1_starve_11 : decode cX1_starve 11 = .ok (.ldc2_w 459, 3) := dk_20 1 203 (dk_at dksX1_starve_0 11 rfl rfl)
theorem dX1_starve_14 : decode cX1_starve 14 = .ok (.invokestatic 160, 3) := dk_184 0 160 (dk_at dksX1_starve_0 14 rfl rfl)
theorem dX1_starve_17 : decode cX1_starve 17 = .ok (.ifCond .ne 5, 3) := dk_154 0 5 (dk_at dksX1_starve_0 17 rfl rfl)
theorem dX1_starve_20 : decode cX1_starve 20 = .ok (.iconst (-1), 1) := dk_2 (dk_at dksX1_starve_0 20 rfl rfl)
theorem dX1_starve_21 : decode cX1_starve 21 = .ok (.ireturn, 1) := dk_172 (dk_at dksX1_starve_0 21 rfl rfl)
theorem dX1_starve_22 : decode cX1_starve 22 = .ok (.aload_n 0, 1) := dk_42 (dk_at dksX1_starve_0 22 rfl rfl)
theorem dX1_starve_23 : decode cX1_starve 23 = .ok (.getfield 116, 3) := dk_180 0 116 (dk_at dksX1_starve_1 0 rfl rfl)
theorem dX1_starve_26 : decode cX1_starve 26 = .ok (.iload_n 1, 1) := dk_27 (dk_at dksX1_starve_1 3 rfl rfl)
theorem dX1_starve_27 : decode cX1_starve 27 = .ok (.putfield 471, 3) := dk_181 1 215 (dk_at dksX1_starve_1 4 rfl rfl)
theorem dX1_starve_30 : decode cX1_starve 30 = .ok (.aload_n 0, 1) := dk_42 (dk_at dksX1_starve_1 7 rfl rfl)
theorem dX1_starve_31 : decode cX1_starve 31 = .ok (.getfield 116, 3) := dk_180 0 116 (dk_at dksX1_starve_1 8 rfl rfl)
theorem dX1_starve_34 : decode cX1_starve 34 = .ok (.iload_n 2, 1) := dk_28 (dk_at dksX1_starve_1 11 rfl rfl)
theorem dX1_starve_35 : decode cX1_starve 35 = .ok (.putfield 472, 3) := dk_181 1 216 (dk_at dksX1_starve_1 12 rfl rfl)
theorem dX1_starve_38 : decode cX1_starve 38 = .ok (.aload_n 0, 1) := dk_42 (dk_at dksX1_starve_1 15 rfl rfl)
theorem dX1_starve_39 : decode cX1_starve 39 = .ok (.getfield 116, 3) := dk_180 0 116 (dk_at dksX1_starve_1 16 rfl rfl)
theorem dX1_starve_42 : decode cX1_starve 42 = .ok (.invokestatic 464, 3) := dk_184 1 208 (dk_at dksX1_starve_1 19 rfl rfl)
theorem dX1_starve_45 : decode cX1_starve 45 = .ok (.istore_n 3, 1) := dk_62 (dk_at dksX1_starve_1 22 rfl rfl)
theorem dX1_starve_46 : decode cX1_starve 46 = .ok (.iload_n 3, 1) := dk_29 (dk_at dksX1_starve_1 23 rfl rfl)
theorem dX1_starve_47 : decode cX1_starve 47 = .ok (.bipush (-9), 2) := dk_16 247 (dk_at dksX1_starve_2 0 rfl rfl)
theorem dX1_starve_49 : decode cX1_starve 49 = .ok (.if_icmp .ne 8, 3) := dk_160 0 8 (dk_at dksX1_starve_2 2 rfl rfl)
theorem dX1_starve_52 : decode cX1_starve 52 = .ok (.bipush (-2), 2) := dk_16 254 (dk_at dksX1_starve_2 5 rfl rfl)
theorem dX1_starve_54 : decode cX1_starve 54 = .ok (.goto 4, 3) := dk_167 0 4 (dk_at dksX1_starve_2 7 rfl rfl)
theorem dX1_starve_57 : decode cX1_starve 57 = .ok (.iload_n 3, 1) := dk_29 (dk_at dksX1_starve_2 10 rfl rfl)
theorem dX1_starve_58 : decode cX1_starve 58 = .ok (.ireturn, 1) := dk_172 (dk_at dksX1_starve_2 11 rfl rfl)
def dkwX1_cheapest_4 : List UInt8 := [28, 133, 182, 1, 111, 27, 172]
abbrev dktX1_cheapest_4 : List UInt8 := dkwX1_cheapest_4 ++ []
def dkwX1_cheapest_3 : List UInt8 := [60, 21, 4, 61, 132, 3, 1, 167, 255, 185, 27, 2, 160, 0, 6, 16, 254, 172, 42, 3, 181, 0, 154, 42]
abbrev dktX1_cheapest_3 : List UInt8 := dkwX1_cheapest_3 ++ dktX1_cheapest_4
def dkwX1_cheapest_2 : List UInt8 := [54, 4, 21, 4, 16, 247, 159, 0, 22, 27, 2, 159, 0, 12, 21, 4, 28, 161, 0, 6, 167, 0, 8, 29]
abbrev dktX1_cheapest_2 : List UInt8 := dkwX1_cheapest_2 ++ dktX1_cheapest_3
def dkwX1_cheapest_1 : List UInt8 := [184, 0, 171, 154, 0, 6, 167, 0, 46, 42, 180, 0, 123, 29, 181, 1, 217, 42, 180, 0, 123, 184, 1, 208]
abbrev dktX1_cheapest_1 : List UInt8 := dkwX1_cheapest_1 ++ dktX1_cheapest_2
def dkwX1_cheapest_0 : List UInt8 := [2, 60, 3, 61, 3, 62, 29, 42, 180, 0, 157, 162, 0, 69, 42, 180, 0, 18, 180, 0, 168, 29]
abbrev dktX1_cheapest_0 : List UInt8 := dkwX1_cheapest_0 ++ dktX1_cheapest_1
theorem dksX1_cheapest_0 : cX1_cheapest.data.toList.drop 0 = dktX1_cheapest_0 := by decide +kernel
theorem dksX1_cheapest_1 : cX1_cheapest.data.toList.drop 22 = dktX1_cheapest_1 := dk_seg dksX1_cheapest_0 22 rfl rfl
theorem dksX1_cheapest_2 : cX1_cheapest.data.toList.drop 46 = dktX1_cheapest_2 := dk_seg dksX1_cheapest_1 24 rfl rfl
theorem dksX1_cheapest_3 : cX1_cheapest.data.toList.drop 70 = dktX1_cheapest_3 := dk_seg dksX1_cheapest_2 24 rfl rfl
theorem dksX1_cheapest_4 : cX1_cheapest.data.toList.drop 94 = dktX1_cheapest_4 := dk_seg dksX1_cheapest_3 24 rfl rfl
theorem dX1_cheapest_0 : decode cX1_cheapest 0 = .ok (.iconst (-1), 1) := dk_2 (dk_at dksX1_cheapest_0 0 rfl rfl)
theorem dX1_cheapest_1 : decode cX1_cheapest 1 = .ok (.istore_n 1, 1) := dk_60 (dk_at dksX1_cheapest_0 1 rfl rfl)
theorem dX1_cheapest_2 : decode cX1_cheapest 2 = .ok (.iconst 0, 1) := dk_3 (dk_at dksX1_cheapest_0 2 rfl rfl)
theorem dX1_cheapest_3 : decode cX1_cheapest 3 = .ok (.istore_n 2, 1) := dk_61 (dk_at dksX1_cheapest_0 3 rfl rfl)
theorem dX1_cheapest_4 : decode cX1_cheapest 4 = .ok (.iconst 0, 1) := dk_3 (dk_at dksX1_cheapest_0 4 rfl rfl)
theorem dX1_cheapest_5 : decode cX1_cheapest 5 = .ok (.istore_n 3, 1) := dk_62 (dk_at dksX1_cheapest_0 5 rfl rfl)
theorem dX1_cheapest_6 : decode cX1_cheapest 6 = .ok (.iload_n 3, 1) := dk_29 (dk_at dksX1_cheapest_0 6 rfl rfl)
theorem dX1_cheapest_7 : decode cX1_cheapest 7 = .ok (.aload_n 0, 1) := dk_42 (dk_at dksX1_cheapest_0 7 rfl rfl)
theorem dX1_cheapest_8 : decode cX1_cheapest 8 = .ok (.getfield 157, 3) := dk_180 0 157 (dk_at dksX1_cheapest_0 8 rfl rfl)
theorem dX1_cheapest_11 : decode cX1_cheapest 11 = .ok (.if_icmp .ge 69, 3) := dk_162 0 69 (dk_at dksX1_cheapest_0 11 rfl rfl)
theorem dX1_cheapest_14 : decode cX1_cheapest 14 = .ok (.aload_n 0, 1) := dk_42 (dk_at dksX1_cheapest_0 14 rfl rfl)
theorem dX1_cheapest_15 : decode cX1_cheapest 15 = .ok (.getfield 18, 3) := dk_180 0 18 (dk_at dksX1_cheapest_0 15 rfl rfl)
theorem dX1_cheapest_18 : decode cX1_cheapest 18 = .ok (.getfield 168, 3) := dk_180 0 168 (dk_at dksX1_cheapest_0 18 rfl rfl)
theorem dX1_cheapest_21 : decode cX1_cheapest 21 = .ok (.iload_n 3, 1) := dk_29 (dk_at dksX1_cheapest_0 21 rfl rfl)
theorem dX1_cheapest_22 : decode cX1_cheapest 22 = .ok (.invokestatic 171, 3) := dk_184 0 171 (dk_at dksX1_cheapest_1 0 rfl rfl)
theorem dX1_cheapest_25 : decode cX1_cheapest 25 = .ok (.ifCond .ne 6, 3) := dk_154 0 6 (dk_at dksX1_cheapest_1 3 rfl rfl)
theorem dX1_cheapest_28 : decode cX1_cheapest 28 = .ok (.goto 46, 3) := dk_167 0 46 (dk_at dksX1_cheapest_1 6 rfl rfl)
theorem dX1_cheapest_31 : decode cX1_cheapest 31 = .ok (.aload_n 0, 1) := dk_42 (dk_at dksX1_cheapest_1 9 rfl rfl)
theorem dX1_cheapest_32 : decode cX1_cheapest 32 = .ok (.getfield 123, 3) := dk_180 0 123 (dk_at dksX1_cheapest_1 10 rfl rfl)
theorem dX1_cheapest_35 : decode cX1_cheapest 35 = .ok (.iload_n 3, 1) := dk_29 (dk_at dksX1_cheapest_1 13 rfl rfl)
theorem dX1_cheapest_36 : decode cX1_cheapest 36 = .ok (.putfield 473, 3) := dk_181 1 217 (dk_at dksX1_cheapest_1 14 rfl rfl)
theorem dX1_cheapest_39 : decode cX1_cheapest 39 = .ok (.aload_n 0, 1) := dk_42 (dk_at dksX1_cheapest_1 17 rfl rfl)
theorem dX1_cheapest_40 : decode cX1_cheapest 40 = .ok (.getfield 123, 3) := dk_180 0 123 (dk_at dksX1_cheapest_1 18 rfl rfl)
theorem dX1_cheapest_43 : decode cX1_cheapest 43 = .ok (.invokestatic 464, 3) := dk_184 1 208 (dk_at dksX1_cheapest_1 21 rfl rfl)
theorem dX1_cheapest_46 : decode cX1_cheapest 46 = .ok (.istore 4, 2) := dk_54 4 (dk_at dksX1_cheapest_2 0 rfl rfl)
theorem dX1_cheapest_48 : decode cX1_cheapest 48 = .ok (.iload 4, 2) := dk_21 4 (dk_at dksX1_cheapest_2 2 rfl rfl)
theorem dX1_cheapest_50 : decode cX1_cheapest 50 = .ok (.bipush (-9), 2) := dk_16 247 (dk_at dksX1_cheapest_2 4 rfl rfl)
theorem dX1_cheapest_52 : decode cX1_cheapest 52 = .ok (.if_icmp .eq 22, 3) := dk_159 0 22 (dk_at dksX1_cheapest_2 6 rfl rfl)
theorem dX1_cheapest_55 : decode cX1_cheapest 55 = .ok (.iload_n 1, 1) := dk_27 (dk_at dksX1_cheapest_2 9 rfl rfl)
theorem dX1_cheapest_56 : decode cX1_cheapest 56 = .ok (.iconst (-1), 1) := dk_2 (dk_at dksX1_cheapest_2 10 rfl rfl)
theorem dX1_cheapest_57 : decode cX1_cheapest 57 = .ok (.if_icmp .eq 12, 3) := dk_159 0 12 (dk_at dksX1_cheapest_2 11 rfl rfl)
theorem dX1_cheapest_60 : decode cX1_cheapest 60 = .ok (.iload 4, 2) := dk_21 4 (dk_at dksX1_cheapest_2 14 rfl rfl)
theorem dX1_cheapest_62 : decode cX1_cheapest 62 = .ok (.iload_n 2, 1) := dk_28 (dk_at dksX1_cheapest_2 16 rfl rfl)
theorem dX1_cheapest_63 : decode cX1_cheapest 63 = .ok (.if_icmp .lt 6, 3) := dk_161 0 6 (dk_at dksX1_cheapest_2 17 rfl rfl)
theorem dX1_cheapest_66 : decode cX1_cheapest 66 = .ok (.goto 8, 3) := dk_167 0 8 (dk_at dksX1_cheapest_2 20 rfl rfl)
theorem dX1_cheapest_69 : decode cX1_cheapest 69 = .ok (.iload_n 3, 1) := dk_29 (dk_at dksX1_cheapest_2 23 rfl rfl)
theorem dX1_cheapest_70 : decode cX1_cheapest 70 = .ok (.istore_n 1, 1) := dk_60 (dk_at dksX1_cheapest_3 0 rfl rfl)
theorem dX1_cheapest_71 : decode cX1_cheapest 71 = .ok (.iload 4, 2) := dk_21 4 (dk_at dksX1_cheapest_3 1 rfl rfl)
theorem dX1_cheapest_73 : decode cX1_cheapest 73 = .ok (.istore_n 2, 1) := dk_61 (dk_at dksX1_cheapest_3 3 rfl rfl)
theorem dX1_cheapest_74 : decode cX1_cheapest 74 = .ok (.iinc 3 1, 3) := dk_132 3 1 (dk_at dksX1_cheapest_3 4 rfl rfl)
theorem dX1_cheapest_77 : decode cX1_cheapest 77 = .ok (.goto (-71), 3) := dk_167 255 185 (dk_at dksX1_cheapest_3 7 rfl rfl)
theorem dX1_cheapest_80 : decode cX1_cheapest 80 = .ok (.iload_n 1, 1) := dk_27 (dk_at dksX1_cheapest_3 10 rfl rfl)
theorem dX1_cheapest_81 : decode cX1_cheapest 81 = .ok (.iconst (-1), 1) := dk_2 (dk_at dksX1_cheapest_3 11 rfl rfl)
theorem dX1_cheapest_82 : decode cX1_cheapest 82 = .ok (.if_icmp .ne 6, 3) := dk_160 0 6 (dk_at dksX1_cheapest_3 12 rfl rfl)
theorem dX1_cheapest_85 : decode cX1_cheapest 85 = .ok (.bipush (-2), 2) := dk_16 254 (dk_at dksX1_cheapest_3 15 rfl rfl)
theorem dX1_cheapest_87 : decode cX1_cheapest 87 = .ok (.ireturn, 1) := dk_172 (dk_at dksX1_cheapest_3 17 rfl rfl)
theorem dX1_cheapest_88 : decode cX1_cheapest 88 = .ok (.aload_n 0, 1) := dk_42 (dk_at dksX1_cheapest_3 18 rfl rfl)
theorem dX1_cheapest_89 : decode cX1_cheapest 89 = .ok (.iconst 0, 1) := dk_3 (dk_at dksX1_cheapest_3 19 rfl rfl)
theorem dX1_cheapest_90 : decode cX1_cheapest 90 = .ok (.putfield 154, 3) := dk_181 0 154 (dk_at dksX1_cheapest_3 20 rfl rfl)
theorem dX1_cheapest_93 : decode cX1_cheapest 93 = .ok (.aload_n 0, 1) := dk_42 (dk_at dksX1_cheapest_3 23 rfl rfl)
theorem dX1_cheapest_94 : decode cX1_cheapest 94 = .ok (.iload_n 2, 1) := dk_28 (dk_at dksX1_cheapest_4 0 rfl rfl)
theorem dX1_cheapest_95 : decode cX1_cheapest 95 = .ok (.i2l, 1) := dk_133 (dk_at dksX1_cheapest_4 1 rfl rfl)
theorem dX1_cheapest_96 : decode cX1_cheapest 96 = .ok (.invokevirtual 367, 3) := dk_182 1 111 (dk_at dksX1_cheapest_4 2 rfl rfl)
theorem dX1_cheapest_99 : decode cX1_cheapest 99 = .ok (.iload_n 1, 1) := dk_27 (dk_at dksX1_cheapest_4 5 rfl rfl)
theorem dX1_cheapest_100 : decode cX1_cheapest 100 = .ok (.ireturn, 1) := dk_172 (dk_at dksX1_cheapest_4 6 rfl rfl)
def dkwX1_weighed_2 : List UInt8 := [180, 1, 220, 28, 79, 42, 89, 180, 1, 220, 4, 96, 181, 1, 220, 42, 180, 1, 220, 172]
abbrev dktX1_weighed_2 : List UInt8 := dkwX1_weighed_2 ++ []
def dkwX1_weighed_1 : List UInt8 := [16, 12, 160, 0, 5, 2, 172, 42, 180, 0, 127, 42, 180, 1, 220, 27, 79, 42, 180, 0, 130, 42]
abbrev dktX1_weighed_1 : List UInt8 := dkwX1_weighed_1 ++ dktX1_weighed_2
def dkwX1_weighed_0 : List UInt8 := [42, 27, 182, 0, 164, 153, 0, 24, 28, 133, 9, 20, 1, 218, 184, 0, 160, 153, 0, 12, 42, 180, 1, 220]
abbrev dktX1_weighed_0 : List UInt8 := dkwX1_weighed_0 ++ dktX1_weighed_1
theorem dksX1_weighed_0 : cX1_weighed.data.toList.drop 0 = dktX1_weighed_0 := by decide +kernel
theorem dksX1_weighed_1 : cX1_weighed.data.toList.drop 24 = dktX1_weighed_1 := dk_seg dksX1_weighed_0 24 rfl rfl
theorem dksX1_weighed_2 : cX1_weighed.data.toList.drop 46 = dktX1_weighed_2 := dk_seg dksX1_weighed_1 22 rfl rfl
theorem dX1_weighed_0 : decode cX1_weighed 0 = .ok (.aload_n 0, 1) := dk_42 (dk_at dksX1_weighed_0 0 rfl rfl)
theorem dX1_weighed_1 : decode cX1_weighed 1 = .ok (.iload_n 1, 1) := dk_27 (dk_at dksX1_weighed_0 1 rfl rfl)
theorem dX1_weighed_2 : decode cX1_weighed 2 = .ok (.invokevirtual 164, 3) := dk_182 0 164 (dk_at dksX1_weighed_0 2 rfl rfl)
theorem dX1_weighed_5 : decode cX1_weighed 5 = .ok (.ifCond .eq 24, 3) := dk_153 0 24 (dk_at dksX1_weighed_0 5 rfl rfl)
theorem dX1_weighed_8 : decode cX1_weighed 8 = .ok (.iload_n 2, 1) := dk_28 (dk_at dksX1_weighed_0 8 rfl rfl)
theorem dX1_weighed_9 : decode cX1_weighed 9 = .ok (.i2l, 1) := dk_133 (dk_at dksX1_weighed_0 9 rfl rfl)
theorem dX1_weighed_10 : decode cX1_weighed 10 = .ok (.lconst 0, 1) := dk_9 (dk_at dksX1_weighed_0 10 rfl rfl)
theorem dX1_weighed_11 : decode cX1_weighed 11 = .ok (.ldc2_w 474, 3) := dk_20 1 218 (dk_at dksX1_weighed_0 11 rfl rfl)
theorem dX1_weighed_14 : decode cX1_weighed 14 = .ok (.invokestatic 160, 3) := dk_184 0 160 (dk_at dksX1_weighed_0 14 rfl rfl)
theorem dX1_weighed_17 : decode cX1_weighed 17 = .ok (.ifCond .eq 12, 3) := dk_153 0 12 (dk_at dksX1_weighed_0 17 rfl rfl)
theorem dX1_weighed_20 : decode cX1_weighed 20 = .ok (.aload_n 0, 1) := dk_42 (dk_at dksX1_weighed_0 20 rfl rfl)
theorem dX1_weighed_21 : decode cX1_weighed 21 = .ok (.getfield 476, 3) := dk_180 1 220 (dk_at dksX1_weighed_0 21 rfl rfl)
theorem dX1_weighed_24 : decode cX1_weighed 24 = .ok (.bipush 12, 2) := dk_16 12 (dk_at dksX1_weighed_1 0 rfl rfl)
theorem dX1_weighed_26 : decode cX1_weighed 26 = .ok (.if_icmp .ne 5, 3) := dk_160 0 5 (dk_at dksX1_weighed_1 2 rfl rfl)
theorem dX1_weighed_29 : decode cX1_weighed 29 = .ok (.iconst (-1), 1) := dk_2 (dk_at dksX1_weighed_1 5 rfl rfl)
theorem dX1_weighed_30 : decode cX1_weighed 30 = .ok (.ireturn, 1) := dk_172 (dk_at dksX1_weighed_1 6 rfl rfl)
theorem dX1_weighed_31 : decode cX1_weighed 31 = .ok (.aload_n 0, 1) := dk_42 (dk_at dksX1_weighed_1 7 rfl rfl)
theorem dX1_weighed_32 : decode cX1_weighed 32 = .ok (.getfield 127, 3) := dk_180 0 127 (dk_at dksX1_weighed_1 8 rfl rfl)
theorem dX1_weighed_35 : decode cX1_weighed 35 = .ok (.aload_n 0, 1) := dk_42 (dk_at dksX1_weighed_1 11 rfl rfl)
theorem dX1_weighed_36 : decode cX1_weighed 36 = .ok (.getfield 476, 3) := dk_180 1 220 (dk_at dksX1_weighed_1 12 rfl rfl)
theorem dX1_weighed_39 : decode cX1_weighed 39 = .ok (.iload_n 1, 1) := dk_27 (dk_at dksX1_weighed_1 15 rfl rfl)
theorem dX1_weighed_40 : decode cX1_weighed 40 = .ok (.iastore, 1) := dk_79 (dk_at dksX1_weighed_1 16 rfl rfl)
theorem dX1_weighed_41 : decode cX1_weighed 41 = .ok (.aload_n 0, 1) := dk_42 (dk_at dksX1_weighed_1 17 rfl rfl)
theorem dX1_weighed_42 : decode cX1_weighed 42 = .ok (.getfield 130, 3) := dk_180 0 130 (dk_at dksX1_weighed_1 18 rfl rfl)
theorem dX1_weighed_45 : decode cX1_weighed 45 = .ok (.aload_n 0, 1) := dk_42 (dk_at dksX1_weighed_1 21 rfl rfl)
theorem dX1_weighed_46 : decode cX1_weighed 46 = .ok (.getfield 476, 3) := dk_180 1 220 (dk_at dksX1_weighed_2 0 rfl rfl)
theorem dX1_weighed_49 : decode cX1_weighed 49 = .ok (.iload_n 2, 1) := dk_28 (dk_at dksX1_weighed_2 3 rfl rfl)
theorem dX1_weighed_50 : decode cX1_weighed 50 = .ok (.iastore, 1) := dk_79 (dk_at dksX1_weighed_2 4 rfl rfl)
theorem dX1_weighed_51 : decode cX1_weighed 51 = .ok (.aload_n 0, 1) := dk_42 (dk_at dksX1_weighed_2 5 rfl rfl)
theorem dX1_weighed_52 : decode cX1_weighed 52 = .ok (.dup, 1) := dk_89 (dk_at dksX1_weighed_2 6 rfl rfl)
theorem dX1_weighed_53 : decode cX1_weighed 53 = .ok (.getfield 476, 3) := dk_180 1 220 (dk_at dksX1_weighed_2 7 rfl rfl)
theorem dX1_weighed_56 : decode cX1_weighed 56 = .ok (.iconst 1, 1) := dk_4 (dk_at dksX1_weighed_2 10 rfl rfl)
theorem dX1_weighed_57 : decode cX1_weighed 57 = .ok (.iadd, 1) := dk_96 (dk_at dksX1_weighed_2 11 rfl rfl)
theorem dX1_weighed_58 : decode cX1_weighed 58 = .ok (.putfield 476, 3) := dk_181 1 220 (dk_at dksX1_weighed_2 12 rfl rfl)
theorem dX1_weighed_61 : decode cX1_weighed 61 = .ok (.aload_n 0, 1) := dk_42 (dk_at dksX1_weighed_2 15 rfl rfl)
theorem dX1_weighed_62 : decode cX1_weighed 62 = .ok (.getfield 476, 3) := dk_180 1 220 (dk_at dksX1_weighed_2 16 rfl rfl)
theorem dX1_weighed_65 : decode cX1_weighed 65 = .ok (.ireturn, 1) := dk_172 (dk_at dksX1_weighed_2 19 rfl rfl)
def dkwX1_forget_0 : List UInt8 := [42, 180, 1, 220, 154, 0, 5, 2, 172, 42, 89, 180, 1, 220, 4, 100, 181, 1, 220, 42, 180, 1, 220, 172]
abbrev dktX1_forget_0 : List UInt8 := dkwX1_forget_0 ++ []
theorem dksX1_forget_0 : cX1_forget.data.toList.drop 0 = dktX1_forget_0 := by decide +kernel
theorem dX1_forget_0 : decode cX1_forget 0 = .ok (.aload_n 0, 1) := dk_42 (dk_at dksX1_forget_0 0 rfl rfl)
theorem dX1_forget_1 : decode cX1_forget 1 = .ok (.getfield 476, 3) := dk_180 1 220 (dk_at dksX1_forget_0 1 rfl rfl)
theorem dX1_forget_4 : decode cX1_forget 4 = .ok (.ifCond .ne 5, 3) := dk_154 0 5 (dk_at dksX1_forget_0 4 rfl rfl)
theorem dX1_forget_7 : decode cX1_forget 7 = .ok (.iconst (-1), 1) := dk_2 (dk_at dksX1_forget_0 7 rfl rfl)
theorem dX1_forget_8 : decode cX1_forget 8 = .ok (.ireturn, 1) := dk_172 (dk_at dksX1_forget_0 8 rfl rfl)
theorem dX1_forget_9 : decode cX1_forget 9 = .ok (.aload_n 0, 1) := dk_42 (dk_at dksX1_forget_0 9 rfl rfl)
theorem dX1_forget_10 : decode cX1_forget 10 = .ok (.dup, 1) := dk_89 (dk_at dksX1_forget_0 10 rfl rfl)
theorem dX1_forget_11 : decode cX1_forget 11 = .ok (.getfield 476, 3) := dk_180 1 220 (dk_at dksX1_forget_0 11 rfl rfl)
theorem dX1_forget_14 : decode cX1_forget 14 = .ok (.iconst 1, 1) := dk_4 (dk_at dksX1_forget_0 14 rfl rfl)
theorem dX1_forget_15 : decode cX1_forget 15 = .ok (.isub, 1) := dk_100 (dk_at dksX1_forget_0 15 rfl rfl)
theorem dX1_forget_16 : decode cX1_forget 16 = .ok (.putfield 476, 3) := dk_181 1 220 (dk_at dksX1_forget_0 16 rfl rfl)
theorem dX1_forget_19 : decode cX1_forget 19 = .ok (.aload_n 0, 1) := dk_42 (dk_at dksX1_forget_0 19 rfl rfl)
theorem dX1_forget_20 : decode cX1_forget 20 = .ok (.getfield 476, 3) := dk_180 1 220 (dk_at dksX1_forget_0 20 rfl rfl)
theorem dX1_forget_23 : decode cX1_forget 23 = .ok (.ireturn, 1) := dk_172 (dk_at dksX1_forget_0 23 rfl rfl)
def dkwX1_grains_4 : List UInt8 := [181, 0, 29, 25, 5, 191, 28, 172]
abbrev dktX1_grains_4 : List UInt8 := dkwX1_grains_4 ++ []
def dkwX1_grains_3 : List UInt8 := [89, 180, 0, 29, 4, 96, 181, 0, 29, 167, 255, 189, 42, 27, 181, 0, 29, 167, 0, 13, 58, 5, 42, 27]
abbrev dktX1_grains_3 : List UInt8 := dkwX1_grains_3 ++ dktX1_grains_4
def dkwX1_grains_2 : List UInt8 := [132, 4, 1, 167, 255, 233, 28, 29, 153, 0, 12, 4, 42, 180, 0, 29, 120, 167, 0, 4, 3, 128, 61, 42]
abbrev dktX1_grains_2 : List UInt8 := dkwX1_grains_2 ++ dktX1_grains_3
def dkwX1_grains_1 : List UInt8 := [54, 4, 21, 4, 42, 180, 0, 157, 162, 0, 20, 29, 153, 0, 16, 42, 21, 4, 182, 1, 226, 62]
abbrev dktX1_grains_1 : List UInt8 := dkwX1_grains_1 ++ dktX1_grains_2
def dkwX1_grains_0 : List UInt8 := [42, 180, 0, 29, 60, 3, 61, 42, 4, 181, 0, 29, 42, 180, 0, 29, 16, 9, 163, 0, 64, 4, 62, 3]
abbrev dktX1_grains_0 : List UInt8 := dkwX1_grains_0 ++ dktX1_grains_1
theorem dksX1_grains_0 : cX1_grains.data.toList.drop 0 = dktX1_grains_0 := by decide +kernel
theorem dksX1_grains_1 : cX1_grains.data.toList.drop 24 = dktX1_grains_1 := dk_seg dksX1_grains_0 24 rfl rfl
theorem dksX1_grains_2 : cX1_grains.data.toList.drop 46 = dktX1_grains_2 := dk_seg dksX1_grains_1 22 rfl rfl
theorem dksX1_grains_3 : cX1_grains.data.toList.drop 70 = dktX1_grains_3 := dk_seg dksX1_grains_2 24 rfl rfl
theorem dksX1_grains_4 : cX1_grains.data.toList.drop 94 = dktX1_grains_4 := dk_seg dksX1_grains_3 24 rfl rfl
theorem dX1_grains_0 : decode cX1_grains 0 = .ok (.aload_n 0, 1) := dk_42 (dk_at dksX1_grains_0 0 rfl rfl)
theorem dX1_grains_1 : decode cX1_grains 1 = .ok (.getfield 29, 3) := dk_180 0 29 (dk_at dksX1_grains_0 1 rfl rfl)
theorem dX1_grains_4 : decode cX1_grains 4 = .ok (.istore_n 1, 1) := dk_60 (dk_at dksX1_grains_0 4 rfl rfl)
theorem dX1_grains_5 : decode cX1_grains 5 = .ok (.iconst 0, 1) := dk_3 (dk_at dksX1_grains_0 5 rfl rfl)
theorem dX1_grains_6 : decode cX1_grains 6 = .ok (.istore_n 2, 1) := dk_61 (dk_at dksX1_grains_0 6 rfl rfl)
theorem dX1_grains_7 : decode cX1_grains 7 = .ok (.aload_n 0, 1) := dk_42 (dk_at dksX1_grains_0 7 rfl rfl)
theorem dX1_grains_8 : decode cX1_grains 8 = .ok (.iconst 1, 1) := dk_4 (dk_at dksX1_grains_0 8 rfl rfl)
theorem dX1_grains_9 : decode cX1_grains 9 = .ok (.putfield 29, 3) := dk_181 0 29 (dk_at dksX1_grains_0 9 rfl rfl)
theorem dX1_grains_12 : decode cX1_grains 12 = .ok (.aload_n 0, 1) := dk_42 (dk_at dksX1_grains_0 12 rfl rfl)
theorem dX1_grains_13 : decode cX1_grains 13 = .ok (.getfield 29, 3) := dk_180 0 29 (dk_at dksX1_grains_0 13 rfl rfl)
theorem dX1_grains_16 : decode cX1_grains 16 = .ok (.bipush 9, 2) := dk_16 9 (dk_at dksX1_grains_0 16 rfl rfl)
theorem dX1_grains_18 : decode cX1_grains 18 = .ok (.if_icmp .gt 64, 3) := dk_163 0 64 (dk_at dksX1_grains_0 18 rfl rfl)
theorem dX1_grains_21 : decode cX1_grains 21 = .ok (.iconst 1, 1) := dk_4 (dk_at dksX1_grains_0 21 rfl rfl)
theorem dX1_grains_22 : decode cX1_grains 22 = .ok (.istore_n 3, 1) := dk_62 (dk_at dksX1_grains_0 22 rfl rfl)
theorem dX1_grains_23 : decode cX1_grains 23 = .ok (.iconst 0, 1) := dk_3 (dk_at dksX1_grains_0 23 rfl rfl)
theorem dX1_grains_24 : decode cX1_grains 24 = .ok (.istore 4, 2) := dk_54 4 (dk_at dksX1_grains_1 0 rfl rfl)
theorem dX1_grains_26 : decode cX1_grains 26 = .ok (.iload 4, 2) := dk_21 4 (dk_at dksX1_grains_1 2 rfl rfl)
theorem dX1_grains_28 : decode cX1_grains 28 = .ok (.aload_n 0, 1) := dk_42 (dk_at dksX1_grains_1 4 rfl rfl)
theorem dX1_grains_29 : decode cX1_grains 29 = .ok (.getfield 157, 3) := dk_180 0 157 (dk_at dksX1_grains_1 5 rfl rfl)
theorem dX1_grains_32 : decode cX1_grains 32 = .ok (.if_icmp .ge 20, 3) := dk_162 0 20 (dk_at dksX1_grains_1 8 rfl rfl)
theorem dX1_grains_35 : decode cX1_grains 35 = .ok (.iload_n 3, 1) := dk_29 (dk_at dksX1_grains_1 11 rfl rfl)
theorem dX1_grains_36 : decode cX1_grains 36 = .ok (.ifCond .eq 16, 3) := dk_153 0 16 (dk_at dksX1_grains_1 12 rfl rfl)
theorem dX1_grains_39 : decode cX1_grains 39 = .ok (.aload_n 0, 1) := dk_42 (dk_at dksX1_grains_1 15 rfl rfl)
theorem dX1_grains_40 : decode cX1_grains 40 = .ok (.iload 4, 2) := dk_21 4 (dk_at dksX1_grains_1 16 rfl rfl)
theorem dX1_grains_42 : decode cX1_grains 42 = .ok (.invokevirtual 482, 3) := dk_182 1 226 (dk_at dksX1_grains_1 18 rfl rfl)
theorem dX1_grains_45 : decode cX1_grains 45 = .ok (.istore_n 3, 1) := dk_62 (dk_at dksX1_grains_1 21 rfl rfl)
theorem dX1_grains_46 : decode cX1_grains 46 = .ok (.iinc 4 1, 3) := dk_132 4 1 (dk_at dksX1_grains_2 0 rfl rfl)
theorem dX1_grains_49 : decode cX1_grains 49 = .ok (.goto (-23), 3) := dk_167 255 233 (dk_at dksX1_grains_2 3 rfl rfl)
theorem dX1_grains_52 : decode cX1_grains 52 = .ok (.iload_n 2, 1) := dk_28 (dk_at dksX1_grains_2 6 rfl rfl)
theorem dX1_grains_53 : decode cX1_grains 53 = .ok (.iload_n 3, 1) := dk_29 (dk_at dksX1_grains_2 7 rfl rfl)
theorem dX1_grains_54 : decode cX1_grains 54 = .ok (.ifCond .eq 12, 3) := dk_153 0 12 (dk_at dksX1_grains_2 8 rfl rfl)
theorem dX1_grains_57 : decode cX1_grains 57 = .ok (.iconst 1, 1) := dk_4 (dk_at dksX1_grains_2 11 rfl rfl)
theorem dX1_grains_58 : decode cX1_grains 58 = .ok (.aload_n 0, 1) := dk_42 (dk_at dksX1_grains_2 12 rfl rfl)
theorem dX1_grains_59 : decode cX1_grains 59 = .ok (.getfield 29, 3) := dk_180 0 29 (dk_at dksX1_grains_2 13 rfl rfl)
theorem dX1_grains_62 : decode cX1_grains 62 = .ok (.ishl, 1) := dk_120 (dk_at dksX1_grains_2 16 rfl rfl)
theorem dX1_grains_63 : decode cX1_grains 63 = .ok (.goto 4, 3) := dk_167 0 4 (dk_at dksX1_grains_2 17 rfl rfl)
theorem dX1_grains_66 : decode cX1_grains 66 = .ok (.iconst 0, 1) := dk_3 (dk_at dksX1_grains_2 20 rfl rfl)
theorem dX1_grains_67 : decode cX1_grains 67 = .ok (.ior, 1) := dk_128 (dk_at dksX1_grains_2 21 rfl rfl)
theorem dX1_grains_68 : decode cX1_grains 68 = .ok (.istore_n 2, 1) := dk_61 (dk_at dksX1_grains_2 22 rfl rfl)
theorem dX1_grains_69 : decode cX1_grains 69 = .ok (.aload_n 0, 1) := dk_42 (dk_at dksX1_grains_2 23 rfl rfl)
theorem dX1_grains_70 : decode cX1_grains 70 = .ok (.dup, 1) := dk_89 (dk_at dksX1_grains_3 0 rfl rfl)
theorem dX1_grains_71 : decode cX1_grains 71 = .ok (.getfield 29, 3) := dk_180 0 29 (dk_at dksX1_grains_3 1 rfl rfl)
theorem dX1_grains_74 : decode cX1_grains 74 = .ok (.iconst 1, 1) := dk_4 (dk_at dksX1_grains_3 4 rfl rfl)
theorem dX1_grains_75 : decode cX1_grains 75 = .ok (.iadd, 1) := dk_96 (dk_at dksX1_grains_3 5 rfl rfl)
theorem dX1_grains_76 : decode cX1_grains 76 = .ok (.putfield 29, 3) := dk_181 0 29 (dk_at dksX1_grains_3 6 rfl rfl)
theorem dX1_grains_79 : decode cX1_grains 79 = .ok (.goto (-67), 3) := dk_167 255 189 (dk_at dksX1_grains_3 9 rfl rfl)
theorem dX1_grains_82 : decode cX1_grains 82 = .ok (.aload_n 0, 1) := dk_42 (dk_at dksX1_grains_3 12 rfl rfl)
theorem dX1_grains_83 : decode cX1_grains 83 = .ok (.iload_n 1, 1) := dk_27 (dk_at dksX1_grains_3 13 rfl rfl)
theorem dX1_grains_84 : decode cX1_grains 84 = .ok (.putfield 29, 3) := dk_181 0 29 (dk_at dksX1_grains_3 14 rfl rfl)
theorem dX1_grains_87 : decode cX1_grains 87 = .ok (.goto 13, 3) := dk_167 0 13 (dk_at dksX1_grains_3 17 rfl rfl)
theorem dX1_grains_90 : decode cX1_grains 90 = .ok (.astore 5, 2) := dk_58 5 (dk_at dksX1_grains_3 20 rfl rfl)
theorem dX1_grains_92 : decode cX1_grains 92 = .ok (.aload_n 0, 1) := dk_42 (dk_at dksX1_grains_3 22 rfl rfl)
theorem dX1_grains_93 : decode cX1_grains 93 = .ok (.iload_n 1, 1) := dk_27 (dk_at dksX1_grains_3 23 rfl rfl)
theorem dX1_grains_94 : decode cX1_grains 94 = .ok (.putfield 29, 3) := dk_181 0 29 (dk_at dksX1_grains_4 0 rfl rfl)
theorem dX1_grains_97 : decode cX1_grains 97 = .ok (.aload 5, 2) := dk_25 5 (dk_at dksX1_grains_4 3 rfl rfl)
theorem dX1_grains_99 : decode cX1_grains 99 = .ok (.athrow, 1) := dk_191 (dk_at dksX1_grains_4 5 rfl rfl)
theorem dX1_grains_100 : decode cX1_grains 100 = .ok (.iload_n 2, 1) := dk_28 (dk_at dksX1_grains_4 6 rfl rfl)
theorem dX1_grains_101 : decode cX1_grains 101 = .ok (.ireturn, 1) := dk_172 (dk_at dksX1_grains_4 7 rfl rfl)
def dkwX1_canBe_1 : List UInt8 := [167, 255, 235, 3, 172]
abbrev dktX1_canBe_1 : List UInt8 := dkwX1_canBe_1 ++ []
def dkwX1_canBe_0 : List UInt8 := [4, 61, 28, 17, 3, 231, 163, 0, 20, 42, 27, 28, 182, 1, 223, 153, 0, 5, 4, 172, 132, 2, 1]
abbrev dktX1_canBe_0 : List UInt8 := dkwX1_canBe_0 ++ dktX1_canBe_1
theorem dksX1_canBe_0 : cX1_canBe.data.toList.drop 0 = dktX1_canBe_0 := by decide +kernel
theorem dksX1_canBe_1 : cX1_canBe.data.toList.drop 23 = dktX1_canBe_1 := dk_seg dksX1_canBe_0 23 rfl rfl
theorem dX1_canBe_0 : decode cX1_canBe 0 = .ok (.iconst 1, 1) := dk_4 (dk_at dksX1_canBe_0 0 rfl rfl)
theorem dX1_canBe_1 : decode cX1_canBe 1 = .ok (.istore_n 2, 1) := dk_61 (dk_at dksX1_canBe_0 1 rfl rfl)
theorem dX1_canBe_2 : decode cX1_canBe 2 = .ok (.iload_n 2, 1) := dk_28 (dk_at dksX1_canBe_0 2 rfl rfl)
theorem dX1_canBe_3 : decode cX1_canBe 3 = .ok (.sipush 999, 3) := dk_17 3 231 (dk_at dksX1_canBe_0 3 rfl rfl)
theorem dX1_canBe_6 : decode cX1_canBe 6 = .ok (.if_icmp .gt 20, 3) := dk_163 0 20 (dk_at dksX1_canBe_0 6 rfl rfl)
theorem dX1_canBe_9 : decode cX1_canBe 9 = .ok (.aload_n 0, 1) := dk_42 (dk_at dksX1_canBe_0 9 rfl rfl)
theorem dX1_canBe_10 : decode cX1_canBe 10 = .ok (.iload_n 1, 1) := dk_27 (dk_at dksX1_canBe_0 10 rfl rfl)
theorem dX1_canBe_11 : decode cX1_canBe 11 = .ok (.iload_n 2, 1) := dk_28 (dk_at dksX1_canBe_0 11 rfl rfl)
theorem dX1_canBe_12 : decode cX1_canBe 12 = .ok (.invokevirtual 479, 3) := dk_182 1 223 (dk_at dksX1_canBe_0 12 rfl rfl)
theorem dX1_canBe_15 : decode cX1_canBe 15 = .ok (.ifCond .eq 5, 3) := dk_153 0 5 (dk_at dksX1_canBe_0 15 rfl rfl)
theorem dX1_canBe_18 : decode cX1_canBe 18 = .ok (.iconst 1, 1) := dk_4 (dk_at dksX1_canBe_0 18 rfl rfl)
theorem dX1_canBe_19 : decode cX1_canBe 19 = .ok (.ireturn, 1) := dk_172 (dk_at dksX1_canBe_0 19 rfl rfl)
theorem dX1_canBe_20 : decode cX1_canBe 20 = .ok (.iinc 2 1, 3) := dk_132 2 1 (dk_at dksX1_canBe_0 20 rfl rfl)
theorem dX1_canBe_23 : decode cX1_canBe 23 = .ok (.goto (-21), 3) := dk_167 255 235 (dk_at dksX1_canBe_1 0 rfl rfl)
theorem dX1_canBe_26 : decode cX1_canBe 26 = .ok (.iconst 0, 1) := dk_3 (dk_at dksX1_canBe_1 3 rfl rfl)
theorem dX1_canBe_27 : decode cX1_canBe 27 = .ok (.ireturn, 1) := dk_172 (dk_at dksX1_canBe_1 4 rfl rfl)
def dkwX1_isShown_1 : List UInt8 := [29, 46, 42, 28, 182, 1, 28, 159, 0, 5, 3, 172, 132, 3, 1, 167, 255, 219, 4, 172]
abbrev dktX1_isShown_1 : List UInt8 := dkwX1_isShown_1 ++ []
def dkwX1_isShown_0 : List UInt8 := [3, 62, 29, 42, 180, 1, 220, 162, 0, 35, 42, 180, 0, 127, 29, 46, 27, 160, 0, 19, 42, 180, 0, 130]
abbrev dktX1_isShown_0 : List UInt8 := dkwX1_isShown_0 ++ dktX1_isShown_1
theorem dksX1_isShown_0 : cX1_isShown.data.toList.drop 0 = dktX1_isShown_0 := by decide +kernel
theorem dksX1_isShown_1 : cX1_isShown.data.toList.drop 24 = dktX1_isShown_1 := dk_seg dksX1_isShown_0 24 rfl rfl
theorem dX1_isShown_0 : decode cX1_isShown 0 = .ok (.iconst 0, 1) := dk_3 (dk_at dksX1_isShown_0 0 rfl rfl)
theorem dX1_isShown_1 : decode cX1_isShown 1 = .ok (.istore_n 3, 1) := dk_62 (dk_at dksX1_isShown_0 1 rfl rfl)
theorem dX1_isShown_2 : decode cX1_isShown 2 = .ok (.iload_n 3, 1) := dk_29 (dk_at dksX1_isShown_0 2 rfl rfl)
theorem dX1_isShown_3 : decode cX1_isShown 3 = .ok (.aload_n 0, 1) := dk_42 (dk_at dksX1_isShown_0 3 rfl rfl)
theorem dX1_isShown_4 : decode cX1_isShown 4 = .ok (.getfield 476, 3) := dk_180 1 220 (dk_at dksX1_isShown_0 4 rfl rfl)
theorem dX1_isShown_7 : decode cX1_isShown 7 = .ok (.if_icmp .ge 35, 3) := dk_162 0 35 (dk_at dksX1_isShown_0 7 rfl rfl)
theorem dX1_isShown_10 : decode cX1_isShown 10 = .ok (.aload_n 0, 1) := dk_42 (dk_at dksX1_isShown_0 10 rfl rfl)
theorem dX1_isShown_11 : decode cX1_isShown 11 = .ok (.getfield 127, 3) := dk_180 0 127 (dk_at dksX1_isShown_0 11 rfl rfl)
theorem dX1_isShown_14 : decode cX1_isShown 14 = .ok (.iload_n 3, 1) := dk_29 (dk_at dksX1_isShown_0 14 rfl rfl)
theorem dX1_isShown_15 : decode cX1_isShown 15 = .ok (.iaload, 1) := dk_46 (dk_at dksX1_isShown_0 15 rfl rfl)
theorem dX1_isShown_16 : decode cX1_isShown 16 = .ok (.iload_n 1, 1) := dk_27 (dk_at dksX1_isShown_0 16 rfl rfl)
theorem dX1_isShown_17 : decode cX1_isShown 17 = .ok (.if_icmp .ne 19, 3) := dk_160 0 19 (dk_at dksX1_isShown_0 17 rfl rfl)
theorem dX1_isShown_20 : decode cX1_isShown 20 = .ok (.aload_n 0, 1) := dk_42 (dk_at dksX1_isShown_0 20 rfl rfl)
theorem dX1_isShown_21 : decode cX1_isShown 21 = .ok (.getfield 130, 3) := dk_180 0 130 (dk_at dksX1_isShown_0 21 rfl rfl)
theorem dX1_isShown_24 : decode cX1_isShown 24 = .ok (.iload_n 3, 1) := dk_29 (dk_at dksX1_isShown_1 0 rfl rfl)
theorem dX1_isShown_25 : decode cX1_isShown 25 = .ok (.iaload, 1) := dk_46 (dk_at dksX1_isShown_1 1 rfl rfl)
theorem dX1_isShown_26 : decode cX1_isShown 26 = .ok (.aload_n 0, 1) := dk_42 (dk_at dksX1_isShown_1 2 rfl rfl)
theorem dX1_isShown_27 : decode cX1_isShown 27 = .ok (.iload_n 2, 1) := dk_28 (dk_at dksX1_isShown_1 3 rfl rfl)
theorem dX1_isShown_28 : decode cX1_isShown 28 = .ok (.invokevirtual 284, 3) := dk_182 1 28 (dk_at dksX1_isShown_1 4 rfl rfl)
theorem dX1_isShown_31 : decode cX1_isShown 31 = .ok (.if_icmp .eq 5, 3) := dk_159 0 5 (dk_at dksX1_isShown_1 7 rfl rfl)
theorem dX1_isShown_34 : decode cX1_isShown 34 = .ok (.iconst 0, 1) := dk_3 (dk_at dksX1_isShown_1 10 rfl rfl)
theorem dX1_isShown_35 : decode cX1_isShown 35 = .ok (.ireturn, 1) := dk_172 (dk_at dksX1_isShown_1 11 rfl rfl)
theorem dX1_isShown_36 : decode cX1_isShown 36 = .ok (.iinc 3 1, 3) := dk_132 3 1 (dk_at dksX1_isShown_1 12 rfl rfl)
theorem dX1_isShown_39 : decode cX1_isShown 39 = .ok (.goto (-37), 3) := dk_167 255 219 (dk_at dksX1_isShown_1 15 rfl rfl)
theorem dX1_isShown_42 : decode cX1_isShown 42 = .ok (.iconst 1, 1) := dk_4 (dk_at dksX1_isShown_1 18 rfl rfl)
theorem dX1_isShown_43 : decode cX1_isShown 43 = .ok (.ireturn, 1) := dk_172 (dk_at dksX1_isShown_1 19 rfl rfl)
def dkwX1_span_3 : List UInt8 := [181, 0, 154, 28, 158, 0, 16, 42, 29, 133, 182, 1, 111, 42, 21, 4, 133, 182, 1, 111, 28, 172]
abbrev dktX1_span_3 : List UInt8 := dkwX1_span_3 ++ []
def dkwX1_span_2 : List UInt8 := [21, 5, 167, 0, 4, 29, 62, 21, 5, 54, 4, 132, 2, 1, 132, 5, 1, 167, 255, 214, 42, 3]
abbrev dktX1_span_2 : List UInt8 := dkwX1_span_2 ++ dktX1_span_3
def dkwX1_span_1 : List UInt8 := [17, 3, 231, 163, 0, 40, 42, 27, 21, 5, 182, 1, 223, 154, 0, 6, 167, 0, 21, 28, 154, 0, 8]
abbrev dktX1_span_1 : List UInt8 := dkwX1_span_1 ++ dktX1_span_2
def dkwX1_span_0 : List UInt8 := [42, 27, 182, 0, 164, 154, 0, 5, 2, 172, 3, 61, 3, 62, 3, 54, 4, 4, 54, 5, 21, 5]
abbrev dktX1_span_0 : List UInt8 := dkwX1_span_0 ++ dktX1_span_1
theorem dksX1_span_0 : cX1_span.data.toList.drop 0 = dktX1_span_0 := by decide +kernel
theorem dksX1_span_1 : cX1_span.data.toList.drop 22 = dktX1_span_1 := dk_seg dksX1_span_0 22 rfl rfl
theorem dksX1_span_2 : cX1_span.data.toList.drop 45 = dktX1_span_2 := dk_seg dksX1_span_1 23 rfl rfl
theorem dksX1_span_3 : cX1_span.data.toList.drop 67 = dktX1_span_3 := dk_seg dksX1_span_2 22 rfl rfl
theorem dX1_span_0 : decode cX1_span 0 = .ok (.aload_n 0, 1) := dk_42 (dk_at dksX1_span_0 0 rfl rfl)
theorem dX1_span_1 : decode cX1_span 1 = .ok (.iload_n 1, 1) := dk_27 (dk_at dksX1_span_0 1 rfl rfl)
theorem dX1_span_2 : decode cX1_span 2 = .ok (.invokevirtual 164, 3) := dk_182 0 164 (dk_at dksX1_span_0 2 rfl rfl)
theorem dX1_span_5 : decode cX1_span 5 = .ok (.ifCond .ne 5, 3) := dk_154 0 5 (dk_at dksX1_span_0 5 rfl rfl)
theorem dX1_span_8 : decode cX1_span 8 = .ok (.iconst (-1), 1) := dk_2 (dk_at dksX1_span_0 8 rfl rfl)
theorem dX1_span_9 : decode cX1_span 9 = .ok (.ireturn, 1) := dk_172 (dk_at dksX1_span_0 9 rfl rfl)
theorem dX1_span_10 : decode cX1_span 10 = .ok (.iconst 0, 1) := dk_3 (dk_at dksX1_span_0 10 rfl rfl)
theorem dX1_span_11 : decode cX1_span 11 = .ok (.istore_n 2, 1) := dk_61 (dk_at dksX1_span_0 11 rfl rfl)
theorem dX1_span_12 : decode cX1_span 12 = .ok (.iconst 0, 1) := dk_3 (dk_at dksX1_span_0 12 rfl rfl)
theorem dX1_span_13 : decode cX1_span 13 = .ok (.istore_n 3, 1) := dk_62 (dk_at dksX1_span_0 13 rfl rfl)
theorem dX1_span_14 : decode cX1_span 14 = .ok (.iconst 0, 1) := dk_3 (dk_at dksX1_span_0 14 rfl rfl)
theorem dX1_span_15 : decode cX1_span 15 = .ok (.istore 4, 2) := dk_54 4 (dk_at dksX1_span_0 15 rfl rfl)
theorem dX1_span_17 : decode cX1_span 17 = .ok (.iconst 1, 1) := dk_4 (dk_at dksX1_span_0 17 rfl rfl)
theorem dX1_span_18 : decode cX1_span 18 = .ok (.istore 5, 2) := dk_54 5 (dk_at dksX1_span_0 18 rfl rfl)
theorem dX1_span_20 : decode cX1_span 20 = .ok (.iload 5, 2) := dk_21 5 (dk_at dksX1_span_0 20 rfl rfl)
theorem dX1_span_22 : decode cX1_span 22 = .ok (.sipush 999, 3) := dk_17 3 231 (dk_at dksX1_span_1 0 rfl rfl)
theorem dX1_span_25 : decode cX1_span 25 = .ok (.if_icmp .gt 40, 3) := dk_163 0 40 (dk_at dksX1_span_1 3 rfl rfl)
theorem dX1_span_28 : decode cX1_span 28 = .ok (.aload_n 0, 1) := dk_42 (dk_at dksX1_span_1 6 rfl rfl)
theorem dX1_span_29 : decode cX1_span 29 = .ok (.iload_n 1, 1) := dk_27 (dk_at dksX1_span_1 7 rfl rfl)
theorem dX1_span_30 : decode cX1_span 30 = .ok (.iload 5, 2) := dk_21 5 (dk_at dksX1_span_1 8 rfl rfl)
theorem dX1_span_32 : decode cX1_span 32 = .ok (.invokevirtual 479, 3) := dk_182 1 223 (dk_at dksX1_span_1 10 rfl rfl)
theorem dX1_span_35 : decode cX1_span 35 = .ok (.ifCond .ne 6, 3) := dk_154 0 6 (dk_at dksX1_span_1 13 rfl rfl)
theorem dX1_span_38 : decode cX1_span 38 = .ok (.goto 21, 3) := dk_167 0 21 (dk_at dksX1_span_1 16 rfl rfl)
theorem dX1_span_41 : decode cX1_span 41 = .ok (.iload_n 2, 1) := dk_28 (dk_at dksX1_span_1 19 rfl rfl)
theorem dX1_span_42 : decode cX1_span 42 = .ok (.ifCond .ne 8, 3) := dk_154 0 8 (dk_at dksX1_span_1 20 rfl rfl)
theorem dX1_span_45 : decode cX1_span 45 = .ok (.iload 5, 2) := dk_21 5 (dk_at dksX1_span_2 0 rfl rfl)
theorem dX1_span_47 : decode cX1_span 47 = .ok (.goto 4, 3) := dk_167 0 4 (dk_at dksX1_span_2 2 rfl rfl)
theorem dX1_span_50 : decode cX1_span 50 = .ok (.iload_n 3, 1) := dk_29 (dk_at dksX1_span_2 5 rfl rfl)
theorem dX1_span_51 : decode cX1_span 51 = .ok (.istore_n 3, 1) := dk_62 (dk_at dksX1_span_2 6 rfl rfl)
theorem dX1_span_52 : decode cX1_span 52 = .ok (.iload 5, 2) := dk_21 5 (dk_at dksX1_span_2 7 rfl rfl)
theorem dX1_span_54 : decode cX1_span 54 = .ok (.istore 4, 2) := dk_54 4 (dk_at dksX1_span_2 9 rfl rfl)
theorem dX1_span_56 : decode cX1_span 56 = .ok (.iinc 2 1, 3) := dk_132 2 1 (dk_at dksX1_span_2 11 rfl rfl)
theorem dX1_span_59 : decode cX1_span 59 = .ok (.iinc 5 1, 3) := dk_132 5 1 (dk_at dksX1_span_2 14 rfl rfl)
theorem dX1_span_62 : decode cX1_span 62 = .ok (.goto (-42), 3) := dk_167 255 214 (dk_at dksX1_span_2 17 rfl rfl)
theorem dX1_span_65 : decode cX1_span 65 = .ok (.aload_n 0, 1) := dk_42 (dk_at dksX1_span_2 20 rfl rfl)
theorem dX1_span_66 : decode cX1_span 66 = .ok (.iconst 0, 1) := dk_3 (dk_at dksX1_span_2 21 rfl rfl)
theorem dX1_span_67 : decode cX1_span 67 = .ok (.putfield 154, 3) := dk_181 0 154 (dk_at dksX1_span_3 0 rfl rfl)
theorem dX1_span_70 : decode cX1_span 70 = .ok (.iload_n 2, 1) := dk_28 (dk_at dksX1_span_3 3 rfl rfl)
theorem dX1_span_71 : decode cX1_span 71 = .ok (.ifCond .le 16, 3) := dk_158 0 16 (dk_at dksX1_span_3 4 rfl rfl)
theorem dX1_span_74 : decode cX1_span 74 = .ok (.aload_n 0, 1) := dk_42 (dk_at dksX1_span_3 7 rfl rfl)
theorem dX1_span_75 : decode cX1_span 75 = .ok (.iload_n 3, 1) := dk_29 (dk_at dksX1_span_3 8 rfl rfl)
theorem dX1_span_76 : decode cX1_span 76 = .ok (.i2l, 1) := dk_133 (dk_at dksX1_span_3 9 rfl rfl)
theorem dX1_span_77 : decode cX1_span 77 = .ok (.invokevirtual 367, 3) := dk_182 1 111 (dk_at dksX1_span_3 10 rfl rfl)
theorem dX1_span_80 : decode cX1_span 80 = .ok (.aload_n 0, 1) := dk_42 (dk_at dksX1_span_3 13 rfl rfl)
theorem dX1_span_81 : decode cX1_span 81 = .ok (.iload 4, 2) := dk_21 4 (dk_at dksX1_span_3 14 rfl rfl)
theorem dX1_span_83 : decode cX1_span 83 = .ok (.i2l, 1) := dk_133 (dk_at dksX1_span_3 16 rfl rfl)
theorem dX1_span_84 : decode cX1_span 84 = .ok (.invokevirtual 367, 3) := dk_182 1 111 (dk_at dksX1_span_3 17 rfl rfl)
theorem dX1_span_87 : decode cX1_span 87 = .ok (.iload_n 2, 1) := dk_28 (dk_at dksX1_span_3 20 rfl rfl)
theorem dX1_span_88 : decode cX1_span 88 = .ok (.ireturn, 1) := dk_172 (dk_at dksX1_span_3 21 rfl rfl)
def dkwX1_offs_4 : List UInt8 := [158, 0, 16, 42, 29, 133, 182, 1, 111, 42, 21, 4, 133, 182, 1, 111, 28, 172]
abbrev dktX1_offs_4 : List UInt8 := dkwX1_offs_4 ++ []
def dkwX1_offs_3 : List UInt8 := [42, 27, 181, 0, 175, 167, 0, 13, 58, 5, 42, 27, 181, 0, 175, 25, 5, 191, 42, 3, 181, 0, 154, 28]
abbrev dktX1_offs_3 : List UInt8 := dkwX1_offs_3 ++ dktX1_offs_4
def dkwX1_offs_2 : List UInt8 := [29, 62, 42, 180, 0, 175, 54, 4, 132, 2, 1, 42, 89, 180, 0, 175, 4, 96, 181, 0, 175, 167, 255, 205]
abbrev dktX1_offs_2 : List UInt8 := dkwX1_offs_2 ++ dktX1_offs_3
def dkwX1_offs_1 : List UInt8 := [163, 0, 48, 42, 182, 1, 229, 153, 0, 6, 167, 0, 25, 28, 154, 0, 10, 42, 180, 0, 175, 167, 0, 4]
abbrev dktX1_offs_1 : List UInt8 := dkwX1_offs_1 ++ dktX1_offs_2
def dkwX1_offs_0 : List UInt8 := [42, 180, 0, 175, 60, 3, 61, 3, 62, 3, 54, 4, 42, 16, 247, 181, 0, 175, 42, 180, 0, 175, 16, 9]
abbrev dktX1_offs_0 : List UInt8 := dkwX1_offs_0 ++ dktX1_offs_1
theorem dksX1_offs_0 : cX1_offs.data.toList.drop 0 = dktX1_offs_0 := by decide +kernel
theorem dksX1_offs_1 : cX1_offs.data.toList.drop 24 = dktX1_offs_1 := dk_seg dksX1_offs_0 24 rfl rfl
theorem dksX1_offs_2 : cX1_offs.data.toList.drop 48 = dktX1_offs_2 := dk_seg dksX1_offs_1 24 rfl rfl
theorem dksX1_offs_3 : cX1_offs.data.toList.drop 72 = dktX1_offs_3 := dk_seg dksX1_offs_2 24 rfl rfl
theorem dksX1_offs_4 : cX1_offs.data.toList.drop 96 = dktX1_offs_4 := dk_seg dksX1_offs_3 24 rfl rfl
theorem dX1_offs_0 : decode cX1_offs 0 = .ok (.aload_n 0, 1) := dk_42 (dk_at dksX1_offs_0 0 rfl rfl)
theorem dX1_offs_1 : decode cX1_offs 1 = .ok (.getfield 175, 3) := dk_180 0 175 (dk_at dksX1_offs_0 1 rfl rfl)
theorem dX1_offs_4 : decode cX1_offs 4 = .ok (.istore_n 1, 1) := dk_60 (dk_at dksX1_offs_0 4 rfl rfl)
theorem dX1_offs_5 : decode cX1_offs 5 = .ok (.iconst 0, 1) := dk_3 (dk_at dksX1_offs_0 5 rfl rfl)
theorem dX1_offs_6 : decode cX1_offs 6 = .ok (.istore_n 2, 1) := dk_61 (dk_at dksX1_offs_0 6 rfl rfl)
theorem dX1_offs_7 : decode cX1_offs 7 = .ok (.iconst 0, 1) := dk_3 (dk_at dksX1_offs_0 7 rfl rfl)
theorem dX1_offs_8 : decode cX1_offs 8 = .ok (.istore_n 3, 1) := dk_62 (dk_at dksX1_offs_0 8 rfl rfl)
theorem dX1_offs_9 : decode cX1_offs 9 = .ok (.iconst 0, 1) := dk_3 (dk_at dksX1_offs_0 9 rfl rfl)
theorem dX1_offs_10 : decode cX1_offs 10 = .ok (.istore 4, 2) := dk_54 4 (dk_at dksX1_offs_0 10 rfl rfl)
theorem dX1_offs_12 : decode cX1_offs 12 = .ok (.aload_n 0, 1) := dk_42 (dk_at dksX1_offs_0 12 rfl rfl)
theorem dX1_offs_13 : decode cX1_offs 13 = .ok (.bipush (-9), 2) := dk_16 247 (dk_at dksX1_offs_0 13 rfl rfl)
theorem dX1_offs_15 : decode cX1_offs 15 = .ok (.putfield 175, 3) := dk_181 0 175 (dk_at dksX1_offs_0 15 rfl rfl)
theorem dX1_offs_18 : decode cX1_offs 18 = .ok (.aload_n 0, 1) := dk_42 (dk_at dksX1_offs_0 18 rfl rfl)
theorem dX1_offs_19 : decode cX1_offs 19 = .ok (.getfield 175, 3) := dk_180 0 175 (dk_at dksX1_offs_0 19 rfl rfl)
theorem dX1_offs_22 : decode cX1_offs 22 = .ok (.bipush 9, 2) := dk_16 9 (dk_at dksX1_offs_0 22 rfl rfl)
theorem dX1_offs_24 : decode cX1_offs 24 = .ok (.if_icmp .gt 48, 3) := dk_163 0 48 (dk_at dksX1_offs_1 0 rfl rfl)
theorem dX1_offs_27 : decode cX1_offs 27 = .ok (.aload_n 0, 1) := dk_42 (dk_at dksX1_offs_1 3 rfl rfl)
theorem dX1_offs_28 : decode cX1_offs 28 = .ok (.invokevirtual 485, 3) := dk_182 1 229 (dk_at dksX1_offs_1 4 rfl rfl)
theorem dX1_offs_31 : decode cX1_offs 31 = .ok (.ifCond .eq 6, 3) := dk_153 0 6 (dk_at dksX1_offs_1 7 rfl rfl)
theorem dX1_offs_34 : decode cX1_offs 34 = .ok (.goto 25, 3) := dk_167 0 25 (dk_at dksX1_offs_1 10 rfl rfl)
theorem dX1_offs_37 : decode cX1_offs 37 = .ok (.iload_n 2, 1) := dk_28 (dk_at dksX1_offs_1 13 rfl rfl)
theorem dX1_offs_38 : decode cX1_offs 38 = .ok (.ifCond .ne 10, 3) := dk_154 0 10 (dk_at dksX1_offs_1 14 rfl rfl)
theorem dX1_offs_41 : decode cX1_offs 41 = .ok (.aload_n 0, 1) := dk_42 (dk_at dksX1_offs_1 17 rfl rfl)
theorem dX1_offs_42 : decode cX1_offs 42 = .ok (.getfield 175, 3) := dk_180 0 175 (dk_at dksX1_offs_1 18 rfl rfl)
theorem dX1_offs_45 : decode cX1_offs 45 = .ok (.goto 4, 3) := dk_167 0 4 (dk_at dksX1_offs_1 21 rfl rfl)
theorem dX1_offs_48 : decode cX1_offs 48 = .ok (.iload_n 3, 1) := dk_29 (dk_at dksX1_offs_2 0 rfl rfl)
theorem dX1_offs_49 : decode cX1_offs 49 = .ok (.istore_n 3, 1) := dk_62 (dk_at dksX1_offs_2 1 rfl rfl)
theorem dX1_offs_50 : decode cX1_offs 50 = .ok (.aload_n 0, 1) := dk_42 (dk_at dksX1_offs_2 2 rfl rfl)
theorem dX1_offs_51 : decode cX1_offs 51 = .ok (.getfield 175, 3) := dk_180 0 175 (dk_at dksX1_offs_2 3 rfl rfl)
theorem dX1_offs_54 : decode cX1_offs 54 = .ok (.istore 4, 2) := dk_54 4 (dk_at dksX1_offs_2 6 rfl rfl)
theorem dX1_offs_56 : decode cX1_offs 56 = .ok (.iinc 2 1, 3) := dk_132 2 1 (dk_at dksX1_offs_2 8 rfl rfl)
theorem dX1_offs_59 : decode cX1_offs 59 = .ok (.aload_n 0, 1) := dk_42 (dk_at dksX1_offs_2 11 rfl rfl)
theorem dX1_offs_60 : decode cX1_offs 60 = .ok (.dup, 1) := dk_89 (dk_at dksX1_offs_2 12 rfl rfl)
theorem dX1_offs_61 : decode cX1_offs 61 = .ok (.getfield 175, 3) := dk_180 0 175 (dk_at dksX1_offs_2 13 rfl rfl)
theorem dX1_offs_64 : decode cX1_offs 64 = .ok (.iconst 1, 1) := dk_4 (dk_at dksX1_offs_2 16 rfl rfl)
theorem dX1_offs_65 : decode cX1_offs 65 = .ok (.iadd, 1) := dk_96 (dk_at dksX1_offs_2 17 rfl rfl)
theorem dX1_offs_66 : decode cX1_offs 66 = .ok (.putfield 175, 3) := dk_181 0 175 (dk_at dksX1_offs_2 18 rfl rfl)
theorem dX1_offs_69 : decode cX1_offs 69 = .ok (.goto (-51), 3) := dk_167 255 205 (dk_at dksX1_offs_2 21 rfl rfl)
theorem dX1_offs_72 : decode cX1_offs 72 = .ok (.aload_n 0, 1) := dk_42 (dk_at dksX1_offs_3 0 rfl rfl)
theorem dX1_offs_73 : decode cX1_offs 73 = .ok (.iload_n 1, 1) := dk_27 (dk_at dksX1_offs_3 1 rfl rfl)
theorem dX1_offs_74 : decode cX1_offs 74 = .ok (.putfield 175, 3) := dk_181 0 175 (dk_at dksX1_offs_3 2 rfl rfl)
theorem dX1_offs_77 : decode cX1_offs 77 = .ok (.goto 13, 3) := dk_167 0 13 (dk_at dksX1_offs_3 5 rfl rfl)
theorem dX1_offs_80 : decode cX1_offs 80 = .ok (.astore 5, 2) := dk_58 5 (dk_at dksX1_offs_3 8 rfl rfl)
theorem dX1_offs_82 : decode cX1_offs 82 = .ok (.aload_n 0, 1) := dk_42 (dk_at dksX1_offs_3 10 rfl rfl)
theorem dX1_offs_83 : decode cX1_offs 83 = .ok (.iload_n 1, 1) := dk_27 (dk_at dksX1_offs_3 11 rfl rfl)
theorem dX1_offs_84 : decode cX1_offs 84 = .ok (.putfield 175, 3) := dk_181 0 175 (dk_at dksX1_offs_3 12 rfl rfl)
theorem dX1_offs_87 : decode cX1_offs 87 = .ok (.aload 5, 2) := dk_25 5 (dk_at dksX1_offs_3 15 rfl rfl)
theorem dX1_offs_89 : decode cX1_offs 89 = .ok (.athrow, 1) := dk_191 (dk_at dksX1_offs_3 17 rfl rfl)
theorem dX1_offs_90 : decode cX1_offs 90 = .ok (.aload_n 0, 1) := dk_42 (dk_at dksX1_offs_3 18 rfl rfl)
theorem dX1_offs_91 : decode cX1_offs 91 = .ok (.iconst 0, 1) := dk_3 (dk_at dksX1_offs_3 19 rfl rfl)
theorem dX1_offs_92 : decode cX1_offs 92 = .ok (.putfield 154, 3) := dk_181 0 154 (dk_at dksX1_offs_3 20 rfl rfl)
theorem dX1_offs_95 : decode cX1_offs 95 = .ok (.iload_n 2, 1) := dk_28 (dk_at dksX1_offs_3 23 rfl rfl)
theorem dX1_offs_96 : decode cX1_offs 96 = .ok (.ifCond .le 16, 3) := dk_158 0 16 (dk_at dksX1_offs_4 0 rfl rfl)
theorem dX1_offs_99 : decode cX1_offs 99 = .ok (.aload_n 0, 1) := dk_42 (dk_at dksX1_offs_4 3 rfl rfl)
theorem dX1_offs_100 : decode cX1_offs 100 = .ok (.iload_n 3, 1) := dk_29 (dk_at dksX1_offs_4 4 rfl rfl)
theorem dX1_offs_101 : decode cX1_offs 101 = .ok (.i2l, 1) := dk_133 (dk_at dksX1_offs_4 5 rfl rfl)
theorem dX1_offs_102 : decode cX1_offs 102 = .ok (.invokevirtual 367, 3) := dk_182 1 111 (dk_at dksX1_offs_4 6 rfl rfl)
theorem dX1_offs_105 : decode cX1_offs 105 = .ok (.aload_n 0, 1) := dk_42 (dk_at dksX1_offs_4 9 rfl rfl)
theorem dX1_offs_106 : decode cX1_offs 106 = .ok (.iload 4, 2) := dk_21 4 (dk_at dksX1_offs_4 10 rfl rfl)
theorem dX1_offs_108 : decode cX1_offs 108 = .ok (.i2l, 1) := dk_133 (dk_at dksX1_offs_4 12 rfl rfl)
theorem dX1_offs_109 : decode cX1_offs 109 = .ok (.invokevirtual 367, 3) := dk_182 1 111 (dk_at dksX1_offs_4 13 rfl rfl)
theorem dX1_offs_112 : decode cX1_offs 112 = .ok (.iload_n 2, 1) := dk_28 (dk_at dksX1_offs_4 16 rfl rfl)
theorem dX1_offs_113 : decode cX1_offs 113 = .ok (.ireturn, 1) := dk_172 (dk_at dksX1_offs_4 17 rfl rfl)
def dkwX1_liars_1 : List UInt8 := [182, 1, 223, 153, 0, 7, 3, 167, 0, 6, 4, 28, 120, 128, 60, 132, 2, 1, 167, 255, 218, 27, 172]
abbrev dktX1_liars_1 : List UInt8 := dkwX1_liars_1 ++ []
def dkwX1_liars_0 : List UInt8 := [3, 60, 3, 61, 28, 42, 180, 0, 157, 162, 0, 36, 27, 42, 28, 42, 180, 0, 18, 180, 0, 236, 28, 46]
abbrev dktX1_liars_0 : List UInt8 := dkwX1_liars_0 ++ dktX1_liars_1
theorem dksX1_liars_0 : cX1_liars.data.toList.drop 0 = dktX1_liars_0 := by decide +kernel
theorem dksX1_liars_1 : cX1_liars.data.toList.drop 24 = dktX1_liars_1 := dk_seg dksX1_liars_0 24 rfl rfl
theorem dX1_liars_0 : decode cX1_liars 0 = .ok (.iconst 0, 1) := dk_3 (dk_at dksX1_liars_0 0 rfl rfl)
theorem dX1_liars_1 : decode cX1_liars 1 = .ok (.istore_n 1, 1) := dk_60 (dk_at dksX1_liars_0 1 rfl rfl)
theorem dX1_liars_2 : decode cX1_liars 2 = .ok (.iconst 0, 1) := dk_3 (dk_at dksX1_liars_0 2 rfl rfl)
theorem dX1_liars_3 : decode cX1_liars 3 = .ok (.istore_n 2, 1) := dk_61 (dk_at dksX1_liars_0 3 rfl rfl)
theorem dX1_liars_4 : decode cX1_liars 4 = .ok (.iload_n 2, 1) := dk_28 (dk_at dksX1_liars_0 4 rfl rfl)
theorem dX1_liars_5 : decode cX1_liars 5 = .ok (.aload_n 0, 1) := dk_42 (dk_at dksX1_liars_0 5 rfl rfl)
theorem dX1_liars_6 : decode cX1_liars 6 = .ok (.getfield 157, 3) := dk_180 0 157 (dk_at dksX1_liars_0 6 rfl rfl)
theorem dX1_liars_9 : decode cX1_liars 9 = .ok (.if_icmp .ge 36, 3) := dk_162 0 36 (dk_at dksX1_liars_0 9 rfl rfl)
theorem dX1_liars_12 : decode cX1_liars 12 = .ok (.iload_n 1, 1) := dk_27 (dk_at dksX1_liars_0 12 rfl rfl)
theorem dX1_liars_13 : decode cX1_liars 13 = .ok (.aload_n 0, 1) := dk_42 (dk_at dksX1_liars_0 13 rfl rfl)
theorem dX1_liars_14 : decode cX1_liars 14 = .ok (.iload_n 2, 1) := dk_28 (dk_at dksX1_liars_0 14 rfl rfl)
theorem dX1_liars_15 : decode cX1_liars 15 = .ok (.aload_n 0, 1) := dk_42 (dk_at dksX1_liars_0 15 rfl rfl)
theorem dX1_liars_16 : decode cX1_liars 16 = .ok (.getfield 18, 3) := dk_180 0 18 (dk_at dksX1_liars_0 16 rfl rfl)
theorem dX1_liars_19 : decode cX1_liars 19 = .ok (.getfield 236, 3) := dk_180 0 236 (dk_at dksX1_liars_0 19 rfl rfl)
theorem dX1_liars_22 : decode cX1_liars 22 = .ok (.iload_n 2, 1) := dk_28 (dk_at dksX1_liars_0 22 rfl rfl)
theorem dX1_liars_23 : decode cX1_liars 23 = .ok (.iaload, 1) := dk_46 (dk_at dksX1_liars_0 23 rfl rfl)
theorem dX1_liars_24 : decode cX1_liars 24 = .ok (.invokevirtual 479, 3) := dk_182 1 223 (dk_at dksX1_liars_1 0 rfl rfl)
theorem dX1_liars_27 : decode cX1_liars 27 = .ok (.ifCond .eq 7, 3) := dk_153 0 7 (dk_at dksX1_liars_1 3 rfl rfl)
theorem dX1_liars_30 : decode cX1_liars 30 = .ok (.iconst 0, 1) := dk_3 (dk_at dksX1_liars_1 6 rfl rfl)
theorem dX1_liars_31 : decode cX1_liars 31 = .ok (.goto 6, 3) := dk_167 0 6 (dk_at dksX1_liars_1 7 rfl rfl)
theorem dX1_liars_34 : decode cX1_liars 34 = .ok (.iconst 1, 1) := dk_4 (dk_at dksX1_liars_1 10 rfl rfl)
theorem dX1_liars_35 : decode cX1_liars 35 = .ok (.iload_n 2, 1) := dk_28 (dk_at dksX1_liars_1 11 rfl rfl)
theorem dX1_liars_36 : decode cX1_liars 36 = .ok (.ishl, 1) := dk_120 (dk_at dksX1_liars_1 12 rfl rfl)
theorem dX1_liars_37 : decode cX1_liars 37 = .ok (.ior, 1) := dk_128 (dk_at dksX1_liars_1 13 rfl rfl)
theorem dX1_liars_38 : decode cX1_liars 38 = .ok (.istore_n 1, 1) := dk_60 (dk_at dksX1_liars_1 14 rfl rfl)
theorem dX1_liars_39 : decode cX1_liars 39 = .ok (.iinc 2 1, 3) := dk_132 2 1 (dk_at dksX1_liars_1 15 rfl rfl)
theorem dX1_liars_42 : decode cX1_liars 42 = .ok (.goto (-38), 3) := dk_167 255 218 (dk_at dksX1_liars_1 18 rfl rfl)
theorem dX1_liars_45 : decode cX1_liars 45 = .ok (.iload_n 1, 1) := dk_27 (dk_at dksX1_liars_1 21 rfl rfl)
theorem dX1_liars_46 : decode cX1_liars 46 = .ok (.ireturn, 1) := dk_172 (dk_at dksX1_liars_1 22 rfl rfl)
def dkwX1_cheats_5 : List UInt8 := [184, 1, 169, 172]
abbrev dktX1_cheats_5 : List UInt8 := dkwX1_cheats_5 ++ []
def dkwX1_cheats_4 : List UInt8 := [181, 0, 175, 25, 6, 191, 42, 3, 181, 0, 154, 42, 28, 133, 182, 1, 111, 42, 29, 133, 182, 1, 111, 28]
abbrev dktX1_cheats_4 : List UInt8 := dkwX1_cheats_4 ++ dktX1_cheats_5
def dkwX1_cheats_3 : List UInt8 := [180, 0, 175, 4, 96, 181, 0, 175, 167, 255, 200, 42, 27, 181, 0, 175, 167, 0, 13, 58, 6, 42, 27]
abbrev dktX1_cheats_3 : List UInt8 := dkwX1_cheats_3 ++ dktX1_cheats_4
def dkwX1_cheats_2 : List UInt8 := [184, 1, 169, 161, 0, 6, 167, 0, 14, 4, 54, 4, 21, 5, 61, 42, 180, 0, 175, 62, 42, 89]
abbrev dktX1_cheats_2 : List UInt8 := dkwX1_cheats_2 ++ dktX1_cheats_3
def dkwX1_cheats_1 : List UInt8 := [16, 9, 163, 0, 53, 42, 182, 1, 229, 54, 5, 21, 4, 153, 0, 18, 21, 5, 184, 1, 169, 28]
abbrev dktX1_cheats_1 : List UInt8 := dkwX1_cheats_1 ++ dktX1_cheats_2
def dkwX1_cheats_0 : List UInt8 := [42, 180, 0, 175, 60, 17, 0, 255, 61, 3, 62, 3, 54, 4, 42, 16, 247, 181, 0, 175, 42, 180, 0, 175]
abbrev dktX1_cheats_0 : List UInt8 := dkwX1_cheats_0 ++ dktX1_cheats_1
theorem dksX1_cheats_0 : cX1_cheats.data.toList.drop 0 = dktX1_cheats_0 := by decide +kernel
theorem dksX1_cheats_1 : cX1_cheats.data.toList.drop 24 = dktX1_cheats_1 := dk_seg dksX1_cheats_0 24 rfl rfl
theorem dksX1_cheats_2 : cX1_cheats.data.toList.drop 46 = dktX1_cheats_2 := dk_seg dksX1_cheats_1 22 rfl rfl
theorem dksX1_cheats_3 : cX1_cheats.data.toList.drop 68 = dktX1_cheats_3 := dk_seg dksX1_cheats_2 22 rfl rfl
theorem dksX1_cheats_4 : cX1_cheats.data.toList.drop 91 = dktX1_cheats_4 := dk_seg dksX1_cheats_3 23 rfl rfl
theorem dksX1_cheats_5 : cX1_cheats.data.toList.drop 115 = dktX1_cheats_5 := dk_seg dksX1_cheats_4 24 rfl rfl
theorem dX1_cheats_0 : decode cX1_cheats 0 = .ok (.aload_n 0, 1) := dk_42 (dk_at dksX1_cheats_0 0 rfl rfl)
theorem dX1_cheats_1 : decode cX1_cheats 1 = .ok (.getfield 175, 3) := dk_180 0 175 (dk_at dksX1_cheats_0 1 rfl rfl)
theorem dX1_cheats_4 : decode cX1_cheats 4 = .ok (.istore_n 1, 1) := dk_60 (dk_at dksX1_cheats_0 4 rfl rfl)
theorem dX1_cheats_5 : decode cX1_cheats 5 = .ok (.sipush 255, 3) := dk_17 0 255 (dk_at dksX1_cheats_0 5 rfl rfl)
theorem dX1_cheats_8 : decode cX1_cheats 8 = .ok (.istore_n 2, 1) := dk_61 (dk_at dksX1_cheats_0 8 rfl rfl)
theorem dX1_cheats_9 : decode cX1_cheats 9 = .ok (.iconst 0, 1) := dk_3 (dk_at dksX1_cheats_0 9 rfl rfl)
theorem dX1_cheats_10 : decode cX1_cheats 10 = .ok (.istore_n 3, 1) := dk_62 (dk_at dksX1_cheats_0 10 rfl rfl)
theorem dX1_cheats_11 : decode cX1_cheats 11 = .ok (.iconst 0, 1) := dk_3 (dk_at dksX1_cheats_0 11 rfl rfl)
theorem dX1_cheats_12 : decode cX1_cheats 12 = .ok (.istore 4, 2) := dk_54 4 (dk_at dksX1_cheats_0 12 rfl rfl)
theorem dX1_cheats_14 : decode cX1_cheats 14 = .ok (.aload_n 0, 1) := dk_42 (dk_at dksX1_cheats_0 14 rfl rfl)
theorem dX1_cheats_15 : decode cX1_cheats 15 = .ok (.bipush (-9), 2) := dk_16 247 (dk_at dksX1_cheats_0 15 rfl rfl)
theorem dX1_cheats_17 : decode cX1_cheats 17 = .ok (.putfield 175, 3) := dk_181 0 175 (dk_at dksX1_cheats_0 17 rfl rfl)
theorem dX1_cheats_20 : decode cX1_cheats 20 = .ok (.aload_n 0, 1) := dk_42 (dk_at dksX1_cheats_0 20 rfl rfl)
theorem dX1_cheats_21 : decode cX1_cheats 21 = .ok (.getfield 175, 3) := dk_180 0 175 (dk_at dksX1_cheats_0 21 rfl rfl)
theorem dX1_cheats_24 : decode cX1_cheats 24 = .ok (.bipush 9, 2) := dk_16 9 (dk_at dksX1_cheats_1 0 rfl rfl)
theorem dX1_cheats_26 : decode cX1_cheats 26 = .ok (.if_icmp .gt 53, 3) := dk_163 0 53 (dk_at dksX1_cheats_1 2 rfl rfl)
theorem dX1_cheats_29 : decode cX1_cheats 29 = .ok (.aload_n 0, 1) := dk_42 (dk_at dksX1_cheats_1 5 rfl rfl)
theorem dX1_cheats_30 : decode cX1_cheats 30 = .ok (.invokevirtual 485, 3) := dk_182 1 229 (dk_at dksX1_cheats_1 6 rfl rfl)
theorem dX1_cheats_33 : decode cX1_cheats 33 = .ok (.istore 5, 2) := dk_54 5 (dk_at dksX1_cheats_1 9 rfl rfl)
theorem dX1_cheats_35 : decode cX1_cheats 35 = .ok (.iload 4, 2) := dk_21 4 (dk_at dksX1_cheats_1 11 rfl rfl)
theorem dX1_cheats_37 : decode cX1_cheats 37 = .ok (.ifCond .eq 18, 3) := dk_153 0 18 (dk_at dksX1_cheats_1 13 rfl rfl)
theorem dX1_cheats_40 : decode cX1_cheats 40 = .ok (.iload 5, 2) := dk_21 5 (dk_at dksX1_cheats_1 16 rfl rfl)
theorem dX1_cheats_42 : decode cX1_cheats 42 = .ok (.invokestatic 425, 3) := dk_184 1 169 (dk_at dksX1_cheats_1 18 rfl rfl)
theorem dX1_cheats_45 : decode cX1_cheats 45 = .ok (.iload_n 2, 1) := dk_28 (dk_at dksX1_cheats_1 21 rfl rfl)
theorem dX1_cheats_46 : decode cX1_cheats 46 = .ok (.invokestatic 425, 3) := dk_184 1 169 (dk_at dksX1_cheats_2 0 rfl rfl)
theorem dX1_cheats_49 : decode cX1_cheats 49 = .ok (.if_icmp .lt 6, 3) := dk_161 0 6 (dk_at dksX1_cheats_2 3 rfl rfl)
theorem dX1_cheats_52 : decode cX1_cheats 52 = .ok (.goto 14, 3) := dk_167 0 14 (dk_at dksX1_cheats_2 6 rfl rfl)
theorem dX1_cheats_55 : decode cX1_cheats 55 = .ok (.iconst 1, 1) := dk_4 (dk_at dksX1_cheats_2 9 rfl rfl)
theorem dX1_cheats_56 : decode cX1_cheats 56 = .ok (.istore 4, 2) := dk_54 4 (dk_at dksX1_cheats_2 10 rfl rfl)
theorem dX1_cheats_58 : decode cX1_cheats 58 = .ok (.iload 5, 2) := dk_21 5 (dk_at dksX1_cheats_2 12 rfl rfl)
theorem dX1_cheats_60 : decode cX1_cheats 60 = .ok (.istore_n 2, 1) := dk_61 (dk_at dksX1_cheats_2 14 rfl rfl)
theorem dX1_cheats_61 : decode cX1_cheats 61 = .ok (.aload_n 0, 1) := dk_42 (dk_at dksX1_cheats_2 15 rfl rfl)
theorem dX1_cheats_62 : decode cX1_cheats 62 = .ok (.getfield 175, 3) := dk_180 0 175 (dk_at dksX1_cheats_2 16 rfl rfl)
theorem dX1_cheats_65 : decode cX1_cheats 65 = .ok (.istore_n 3, 1) := dk_62 (dk_at dksX1_cheats_2 19 rfl rfl)
theorem dX1_cheats_66 : decode cX1_cheats 66 = .ok (.aload_n 0, 1) := dk_42 (dk_at dksX1_cheats_2 20 rfl rfl)
theorem dX1_cheats_67 : decode cX1_cheats 67 = .ok (.dup, 1) := dk_89 (dk_at dksX1_cheats_2 21 rfl rfl)
theorem dX1_cheats_68 : decode cX1_cheats 68 = .ok (.getfield 175, 3) := dk_180 0 175 (dk_at dksX1_cheats_3 0 rfl rfl)
theorem dX1_cheats_71 : decode cX1_cheats 71 = .ok (.iconst 1, 1) := dk_4 (dk_at dksX1_cheats_3 3 rfl rfl)
theorem dX1_cheats_72 : decode cX1_cheats 72 = .ok (.iadd, 1) := dk_96 (dk_at dksX1_cheats_3 4 rfl rfl)
theorem dX1_cheats_73 : decode cX1_cheats 73 = .ok (.putfield 175, 3) := dk_181 0 175 (dk_at dksX1_cheats_3 5 rfl rfl)
theorem dX1_cheats_76 : decode cX1_cheats 76 = .ok (.goto (-56), 3) := dk_167 255 200 (dk_at dksX1_cheats_3 8 rfl rfl)
theorem dX1_cheats_79 : decode cX1_cheats 79 = .ok (.aload_n 0, 1) := dk_42 (dk_at dksX1_cheats_3 11 rfl rfl)
theorem dX1_cheats_80 : decode cX1_cheats 80 = .ok (.iload_n 1, 1) := dk_27 (dk_at dksX1_cheats_3 12 rfl rfl)
theorem dX1_cheats_81 : decode cX1_cheats 81 = .ok (.putfield 175, 3) := dk_181 0 175 (dk_at dksX1_cheats_3 13 rfl rfl)
theorem dX1_cheats_84 : decode cX1_cheats 84 = .ok (.goto 13, 3) := dk_167 0 13 (dk_at dksX1_cheats_3 16 rfl rfl)
theorem dX1_cheats_87 : decode cX1_cheats 87 = .ok (.astore 6, 2) := dk_58 6 (dk_at dksX1_cheats_3 19 rfl rfl)
theorem dX1_cheats_89 : decode cX1_cheats 89 = .ok (.aload_n 0, 1) := dk_42 (dk_at dksX1_cheats_3 21 rfl rfl)
theorem dX1_cheats_90 : decode cX1_cheats 90 = .ok (.iload_n 1, 1) := dk_27 (dk_at dksX1_cheats_3 22 rfl rfl)
theorem dX1_cheats_91 : decode cX1_cheats 91 = .ok (.putfield 175, 3) := dk_181 0 175 (dk_at dksX1_cheats_4 0 rfl rfl)
theorem dX1_cheats_94 : decode cX1_cheats 94 = .ok (.aload 6, 2) := dk_25 6 (dk_at dksX1_cheats_4 3 rfl rfl)
theorem dX1_cheats_96 : decode cX1_cheats 96 = .ok (.athrow, 1) := dk_191 (dk_at dksX1_cheats_4 5 rfl rfl)
theorem dX1_cheats_97 : decode cX1_cheats 97 = .ok (.aload_n 0, 1) := dk_42 (dk_at dksX1_cheats_4 6 rfl rfl)
theorem dX1_cheats_98 : decode cX1_cheats 98 = .ok (.iconst 0, 1) := dk_3 (dk_at dksX1_cheats_4 7 rfl rfl)
theorem dX1_cheats_99 : decode cX1_cheats 99 = .ok (.putfield 154, 3) := dk_181 0 154 (dk_at dksX1_cheats_4 8 rfl rfl)
theorem dX1_cheats_102 : decode cX1_cheats 102 = .ok (.aload_n 0, 1) := dk_42 (dk_at dksX1_cheats_4 11 rfl rfl)
theorem dX1_cheats_103 : decode cX1_cheats 103 = .ok (.iload_n 2, 1) := dk_28 (dk_at dksX1_cheats_4 12 rfl rfl)
theorem dX1_cheats_104 : decode cX1_cheats 104 = .ok (.i2l, 1) := dk_133 (dk_at dksX1_cheats_4 13 rfl rfl)
theorem dX1_cheats_105 : decode cX1_cheats 105 = .ok (.invokevirtual 367, 3) := dk_182 1 111 (dk_at dksX1_cheats_4 14 rfl rfl)
theorem dX1_cheats_108 : decode cX1_cheats 108 = .ok (.aload_n 0, 1) := dk_42 (dk_at dksX1_cheats_4 17 rfl rfl)
theorem dX1_cheats_109 : decode cX1_cheats 109 = .ok (.iload_n 3, 1) := dk_29 (dk_at dksX1_cheats_4 18 rfl rfl)
theorem dX1_cheats_110 : decode cX1_cheats 110 = .ok (.i2l, 1) := dk_133 (dk_at dksX1_cheats_4 19 rfl rfl)
theorem dX1_cheats_111 : decode cX1_cheats 111 = .ok (.invokevirtual 367, 3) := dk_182 1 111 (dk_at dksX1_cheats_4 20 rfl rfl)
theorem dX1_cheats_114 : decode cX1_cheats 114 = .ok (.iload_n 2, 1) := dk_28 (dk_at dksX1_cheats_4 23 rfl rfl)
theorem dX1_cheats_115 : decode cX1_cheats 115 = .ok (.invokestatic 425, 3) := dk_184 1 169 (dk_at dksX1_cheats_5 0 rfl rfl)
theorem dX1_cheats_118 : decode cX1_cheats 118 = .ok (.ireturn, 1) := dk_172 (dk_at dksX1_cheats_5 3 rfl rfl)
def dkwX1_told_2 : List UInt8 := [180, 1, 232, 28, 79, 42, 89, 180, 1, 232, 4, 96, 181, 1, 232, 42, 180, 1, 232, 172]
abbrev dktX1_told_2 : List UInt8 := dkwX1_told_2 ++ []
def dkwX1_told_1 : List UInt8 := [16, 10, 160, 0, 5, 2, 172, 42, 180, 0, 133, 42, 180, 1, 232, 27, 79, 42, 180, 0, 136, 42]
abbrev dktX1_told_1 : List UInt8 := dkwX1_told_1 ++ dktX1_told_2
def dkwX1_told_0 : List UInt8 := [42, 27, 182, 0, 164, 153, 0, 24, 28, 133, 10, 20, 1, 203, 184, 0, 160, 153, 0, 12, 42, 180, 1, 232]
abbrev dktX1_told_0 : List UInt8 := dkwX1_told_0 ++ dktX1_told_1
theorem dksX1_told_0 : cX1_told.data.toList.drop 0 = dktX1_told_0 := by decide +kernel
theorem dksX1_told_1 : cX1_told.data.toList.drop 24 = dktX1_told_1 := dk_seg dksX1_told_0 24 rfl rfl
theorem dksX1_told_2 : cX1_told.data.toList.drop 46 = dktX1_told_2 := dk_seg dksX1_told_1 22 rfl rfl
theorem dX1_told_0 : decode cX1_told 0 = .ok (.aload_n 0, 1) := dk_42 (dk_at dksX1_told_0 0 rfl rfl)
theorem dX1_told_1 : decode cX1_told 1 = .ok (.iload_n 1, 1) := dk_27 (dk_at dksX1_told_0 1 rfl rfl)
theorem dX1_told_2 : decode cX1_told 2 = .ok (.invokevirtual 164, 3) := dk_182 0 164 (dk_at dksX1_told_0 2 rfl rfl)
theorem dX1_told_5 : decode cX1_told 5 = .ok (.ifCond .eq 24, 3) := dk_153 0 24 (dk_at dksX1_told_0 5 rfl rfl)
theorem dX1_told_8 : decode cX1_told 8 = .ok (.iload_n 2, 1) := dk_28 (dk_at dksX1_told_0 8 rfl rfl)
theorem dX1_told_9 : decode cX1_told 9 = .ok (.i2l, 1) := dk_133 (dk_at dksX1_told_0 9 rfl rfl)
theorem dX1_told_10 : decode cX1_told 10 = .ok (.lconst 1, 1) := dk_10 (dk_at dksX1_told_0 10 rfl rfl)
theorem dX1_told_11 : decode cX1_told 11 = .ok (.ldc2_w 459, 3) := dk_20 1 203 (dk_at dksX1_told_0 11 rfl rfl)
theorem dX1_told_14 : decode cX1_told 14 = .ok (.invokestatic 160, 3) := dk_184 0 160 (dk_at dksX1_told_0 14 rfl rfl)
theorem dX1_told_17 : decode cX1_told 17 = .ok (.ifCond .eq 12, 3) := dk_153 0 12 (dk_at dksX1_told_0 17 rfl rfl)
theorem dX1_told_20 : decode cX1_told 20 = .ok (.aload_n 0, 1) := dk_42 (dk_at dksX1_told_0 20 rfl rfl)
theorem dX1_told_21 : decode cX1_told 21 = .ok (.getfield 488, 3) := dk_180 1 232 (dk_at dksX1_told_0 21 rfl rfl)
theorem dX1_told_24 : decode cX1_told 24 = .ok (.bipush 10, 2) := dk_16 10 (dk_at dksX1_told_1 0 rfl rfl)
theorem dX1_told_26 : decode cX1_told 26 = .ok (.if_icmp .ne 5, 3) := dk_160 0 5 (dk_at dksX1_told_1 2 rfl rfl)
theorem dX1_told_29 : decode cX1_told 29 = .ok (.iconst (-1), 1) := dk_2 (dk_at dksX1_told_1 5 rfl rfl)
theorem dX1_told_30 : decode cX1_told 30 = .ok (.ireturn, 1) := dk_172 (dk_at dksX1_told_1 6 rfl rfl)
theorem dX1_told_31 : decode cX1_told 31 = .ok (.aload_n 0, 1) := dk_42 (dk_at dksX1_told_1 7 rfl rfl)
theorem dX1_told_32 : decode cX1_told 32 = .ok (.getfield 133, 3) := dk_180 0 133 (dk_at dksX1_told_1 8 rfl rfl)
theorem dX1_told_35 : decode cX1_told 35 = .ok (.aload_n 0, 1) := dk_42 (dk_at dksX1_told_1 11 rfl rfl)
theorem dX1_told_36 : decode cX1_told 36 = .ok (.getfield 488, 3) := dk_180 1 232 (dk_at dksX1_told_1 12 rfl rfl)
theorem dX1_told_39 : decode cX1_told 39 = .ok (.iload_n 1, 1) := dk_27 (dk_at dksX1_told_1 15 rfl rfl)
theorem dX1_told_40 : decode cX1_told 40 = .ok (.iastore, 1) := dk_79 (dk_at dksX1_told_1 16 rfl rfl)
theorem dX1_told_41 : decode cX1_told 41 = .ok (.aload_n 0, 1) := dk_42 (dk_at dksX1_told_1 17 rfl rfl)
theorem dX1_told_42 : decode cX1_told 42 = .ok (.getfield 136, 3) := dk_180 0 136 (dk_at dksX1_told_1 18 rfl rfl)
theorem dX1_told_45 : decode cX1_told 45 = .ok (.aload_n 0, 1) := dk_42 (dk_at dksX1_told_1 21 rfl rfl)
theorem dX1_told_46 : decode cX1_told 46 = .ok (.getfield 488, 3) := dk_180 1 232 (dk_at dksX1_told_2 0 rfl rfl)
theorem dX1_told_49 : decode cX1_told 49 = .ok (.iload_n 2, 1) := dk_28 (dk_at dksX1_told_2 3 rfl rfl)
theorem dX1_told_50 : decode cX1_told 50 = .ok (.iastore, 1) := dk_79 (dk_at dksX1_told_2 4 rfl rfl)
theorem dX1_told_51 : decode cX1_told 51 = .ok (.aload_n 0, 1) := dk_42 (dk_at dksX1_told_2 5 rfl rfl)
theorem dX1_told_52 : decode cX1_told 52 = .ok (.dup, 1) := dk_89 (dk_at dksX1_told_2 6 rfl rfl)
theorem dX1_told_53 : decode cX1_told 53 = .ok (.getfield 488, 3) := dk_180 1 232 (dk_at dksX1_told_2 7 rfl rfl)
theorem dX1_told_56 : decode cX1_told 56 = .ok (.iconst 1, 1) := dk_4 (dk_at dksX1_told_2 10 rfl rfl)
theorem dX1_told_57 : decode cX1_told 57 = .ok (.iadd, 1) := dk_96 (dk_at dksX1_told_2 11 rfl rfl)
theorem dX1_told_58 : decode cX1_told 58 = .ok (.putfield 488, 3) := dk_181 1 232 (dk_at dksX1_told_2 12 rfl rfl)
theorem dX1_told_61 : decode cX1_told 61 = .ok (.aload_n 0, 1) := dk_42 (dk_at dksX1_told_2 15 rfl rfl)
theorem dX1_told_62 : decode cX1_told 62 = .ok (.getfield 488, 3) := dk_180 1 232 (dk_at dksX1_told_2 16 rfl rfl)
theorem dX1_told_65 : decode cX1_told 65 = .ok (.ireturn, 1) := dk_172 (dk_at dksX1_told_2 19 rfl rfl)
def dkwX1_wipe_0 : List UInt8 := [42, 180, 1, 232, 60, 42, 3, 181, 1, 232, 27, 172]
abbrev dktX1_wipe_0 : List UInt8 := dkwX1_wipe_0 ++ []
theorem dksX1_wipe_0 : cX1_wipe.data.toList.drop 0 = dktX1_wipe_0 := by decide +kernel
theorem dX1_wipe_0 : decode cX1_wipe 0 = .ok (.aload_n 0, 1) := dk_42 (dk_at dksX1_wipe_0 0 rfl rfl)
theorem dX1_wipe_1 : decode cX1_wipe 1 = .ok (.getfield 488, 3) := dk_180 1 232 (dk_at dksX1_wipe_0 1 rfl rfl)
theorem dX1_wipe_4 : decode cX1_wipe 4 = .ok (.istore_n 1, 1) := dk_60 (dk_at dksX1_wipe_0 4 rfl rfl)
theorem dX1_wipe_5 : decode cX1_wipe 5 = .ok (.aload_n 0, 1) := dk_42 (dk_at dksX1_wipe_0 5 rfl rfl)
theorem dX1_wipe_6 : decode cX1_wipe 6 = .ok (.iconst 0, 1) := dk_3 (dk_at dksX1_wipe_0 6 rfl rfl)
theorem dX1_wipe_7 : decode cX1_wipe 7 = .ok (.putfield 488, 3) := dk_181 1 232 (dk_at dksX1_wipe_0 7 rfl rfl)
theorem dX1_wipe_10 : decode cX1_wipe 10 = .ok (.iload_n 1, 1) := dk_27 (dk_at dksX1_wipe_0 10 rfl rfl)
theorem dX1_wipe_11 : decode cX1_wipe 11 = .ok (.ireturn, 1) := dk_172 (dk_at dksX1_wipe_0 11 rfl rfl)
def dkwX1_explains_4 : List UInt8 := [158, 0, 16, 42, 29, 133, 182, 1, 111, 42, 21, 4, 133, 182, 1, 111, 28, 172]
abbrev dktX1_explains_4 : List UInt8 := dkwX1_explains_4 ++ []
def dkwX1_explains_3 : List UInt8 := [167, 0, 4, 29, 62, 21, 5, 54, 4, 132, 2, 1, 132, 5, 1, 167, 255, 191, 42, 3, 181, 0, 154, 28]
abbrev dktX1_explains_3 : List UInt8 := dkwX1_explains_3 ++ dktX1_explains_4
def dkwX1_explains_2 : List UInt8 := [27, 21, 5, 79, 42, 42, 180, 0, 54, 182, 1, 235, 154, 0, 6, 167, 0, 21, 28, 154, 0, 8, 21, 5]
abbrev dktX1_explains_2 : List UInt8 := dkwX1_explains_2 ++ dktX1_explains_3
def dkwX1_explains_1 : List UInt8 := [17, 3, 231, 163, 0, 63, 42, 180, 0, 22, 42, 180, 0, 18, 182, 1, 98, 42, 180, 0, 22, 180, 0, 236]
abbrev dktX1_explains_1 : List UInt8 := dkwX1_explains_1 ++ dktX1_explains_2
def dkwX1_explains_0 : List UInt8 := [42, 27, 182, 1, 146, 154, 0, 5, 2, 172, 3, 61, 3, 62, 3, 54, 4, 4, 54, 5, 21, 5]
abbrev dktX1_explains_0 : List UInt8 := dkwX1_explains_0 ++ dktX1_explains_1
theorem dksX1_explains_0 : cX1_explains.data.toList.drop 0 = dktX1_explains_0 := by decide +kernel
theorem dksX1_explains_1 : cX1_explains.data.toList.drop 22 = dktX1_explains_1 := dk_seg dksX1_explains_0 22 rfl rfl
theorem dksX1_explains_2 : cX1_explains.data.toList.drop 46 = dktX1_explains_2 := dk_seg dksX1_explains_1 24 rfl rfl
theorem dksX1_explains_3 : cX1_explains.data.toList.drop 70 = dktX1_explains_3 := dk_seg dksX1_explains_2 24 rfl rfl
theorem dksX1_explains_4 : cX1_explains.data.toList.drop 94 = dktX1_explains_4 := dk_seg dksX1_explains_3 24 rfl rfl
theorem dX1_explains_0 : decode cX1_explains 0 = .ok (.aload_n 0, 1) := dk_42 (dk_at dksX1_explains_0 0 rfl rfl)
theorem dX1_explains_1 : decode cX1_explains 1 = .ok (.iload_n 1, 1) := dk_27 (dk_at dksX1_explains_0 1 rfl rfl)
theorem dX1_explains_2 : decode cX1_explains 2 = .ok (.invokevirtual 402, 3) := dk_182 1 146 (dk_at dksX1_explains_0 2 rfl rfl)
theorem dX1_explains_5 : decode cX1_explains 5 = .ok (.ifCond .ne 5, 3) := dk_154 0 5 (dk_at dksX1_explains_0 5 rfl rfl)
theorem dX1_explains_8 : decode cX1_explains 8 = .ok (.iconst (-1), 1) := dk_2 (dk_at dksX1_explains_0 8 rfl rfl)
theorem dX1_explains_9 : decode cX1_explains 9 = .ok (.ireturn, 1) := dk_172 (dk_at dksX1_explains_0 9 rfl rfl)
theorem dX1_explains_10 : decode cX1_explains 10 = .ok (.iconst 0, 1) := dk_3 (dk_at dksX1_explains_0 10 rfl rfl)
theorem dX1_explains_11 : decode cX1_explains 11 = .ok (.istore_n 2, 1) := dk_61 (dk_at dksX1_explains_0 11 rfl rfl)
theorem dX1_explains_12 : decode cX1_explains 12 = .ok (.iconst 0, 1) := dk_3 (dk_at dksX1_explains_0 12 rfl rfl)
theorem dX1_explains_13 : decode cX1_explains 13 = .ok (.istore_n 3, 1) := dk_62 (dk_at dksX1_explains_0 13 rfl rfl)
theorem dX1_explains_14 : decode cX1_explains 14 = .ok (.iconst 0, 1) := dk_3 (dk_at dksX1_explains_0 14 rfl rfl)
theorem dX1_explains_15 : decode cX1_explains 15 = .ok (.istore 4, 2) := dk_54 4 (dk_at dksX1_explains_0 15 rfl rfl)
theorem dX1_explains_17 : decode cX1_explains 17 = .ok (.iconst 1, 1) := dk_4 (dk_at dksX1_explains_0 17 rfl rfl)
theorem dX1_explains_18 : decode cX1_explains 18 = .ok (.istore 5, 2) := dk_54 5 (dk_at dksX1_explains_0 18 rfl rfl)
theorem dX1_explains_20 : decode cX1_explains 20 = .ok (.iload 5, 2) := dk_21 5 (dk_at dksX1_explains_0 20 rfl rfl)
theorem dX1_explains_22 : decode cX1_explains 22 = .ok (.sipush 999, 3) := dk_17 3 231 (dk_at dksX1_explains_1 0 rfl rfl)
theorem dX1_explains_25 : decode cX1_explains 25 = .ok (.if_icmp .gt 63, 3) := dk_163 0 63 (dk_at dksX1_explains_1 3 rfl rfl)
theorem dX1_explains_28 : decode cX1_explains 28 = .ok (.aload_n 0, 1) := dk_42 (dk_at dksX1_explains_1 6 rfl rfl)
theorem dX1_explains_29 : decode cX1_explains 29 = .ok (.getfield 22, 3) := dk_180 0 22 (dk_at dksX1_explains_1 7 rfl rfl)
theorem dX1_explains_32 : decode cX1_explains 32 = .ok (.aload_n 0, 1) := dk_42 (dk_at dksX1_explains_1 10 rfl rfl)
theorem dX1_explains_33 : decode cX1_explains 33 = .ok (.getfield 18, 3) := dk_180 0 18 (dk_at dksX1_explains_1 11 rfl rfl)
theorem dX1_explains_36 : decode cX1_explains 36 = .ok (.invokevirtual 354, 3) := dk_182 1 98 (dk_at dksX1_explains_1 14 rfl rfl)
theorem dX1_explains_39 : decode cX1_explains 39 = .ok (.aload_n 0, 1) := dk_42 (dk_at dksX1_explains_1 17 rfl rfl)
theorem dX1_explains_40 : decode cX1_explains 40 = .ok (.getfield 22, 3) := dk_180 0 22 (dk_at dksX1_explains_1 18 rfl rfl)
theorem dX1_explains_43 : decode cX1_explains 43 = .ok (.getfield 236, 3) := dk_180 0 236 (dk_at dksX1_explains_1 21 rfl rfl)
theorem dX1_explains_46 : decode cX1_explains 46 = .ok (.iload_n 1, 1) := dk_27 (dk_at dksX1_explains_2 0 rfl rfl)
theorem dX1_explains_47 : decode cX1_explains 47 = .ok (.iload 5, 2) := dk_21 5 (dk_at dksX1_explains_2 1 rfl rfl)
theorem dX1_explains_49 : decode cX1_explains 49 = .ok (.iastore, 1) := dk_79 (dk_at dksX1_explains_2 3 rfl rfl)
theorem dX1_explains_50 : decode cX1_explains 50 = .ok (.aload_n 0, 1) := dk_42 (dk_at dksX1_explains_2 4 rfl rfl)
theorem dX1_explains_51 : decode cX1_explains 51 = .ok (.aload_n 0, 1) := dk_42 (dk_at dksX1_explains_2 5 rfl rfl)
theorem dX1_explains_52 : decode cX1_explains 52 = .ok (.getfield 54, 3) := dk_180 0 54 (dk_at dksX1_explains_2 6 rfl rfl)
theorem dX1_explains_55 : decode cX1_explains 55 = .ok (.invokevirtual 491, 3) := dk_182 1 235 (dk_at dksX1_explains_2 9 rfl rfl)
theorem dX1_explains_58 : decode cX1_explains 58 = .ok (.ifCond .ne 6, 3) := dk_154 0 6 (dk_at dksX1_explains_2 12 rfl rfl)
theorem dX1_explains_61 : decode cX1_explains 61 = .ok (.goto 21, 3) := dk_167 0 21 (dk_at dksX1_explains_2 15 rfl rfl)
theorem dX1_explains_64 : decode cX1_explains 64 = .ok (.iload_n 2, 1) := dk_28 (dk_at dksX1_explains_2 18 rfl rfl)
theorem dX1_explains_65 : decode cX1_explains 65 = .ok (.ifCond .ne 8, 3) := dk_154 0 8 (dk_at dksX1_explains_2 19 rfl rfl)
theorem dX1_explains_68 : decode cX1_explains 68 = .ok (.iload 5, 2) := dk_21 5 (dk_at dksX1_explains_2 22 rfl rfl)
theorem dX1_explains_70 : decode cX1_explains 70 = .ok (.goto 4, 3) := dk_167 0 4 (dk_at dksX1_explains_3 0 rfl rfl)
theorem dX1_explains_73 : decode cX1_explains 73 = .ok (.iload_n 3, 1) := dk_29 (dk_at dksX1_explains_3 3 rfl rfl)
theorem dX1_explains_74 : decode cX1_explains 74 = .ok (.istore_n 3, 1) := dk_62 (dk_at dksX1_explains_3 4 rfl rfl)
theorem dX1_explains_75 : decode cX1_explains 75 = .ok (.iload 5, 2) := dk_21 5 (dk_at dksX1_explains_3 5 rfl rfl)
theorem dX1_explains_77 : decode cX1_explains 77 = .ok (.istore 4, 2) := dk_54 4 (dk_at dksX1_explains_3 7 rfl rfl)
theorem dX1_explains_79 : decode cX1_explains 79 = .ok (.iinc 2 1, 3) := dk_132 2 1 (dk_at dksX1_explains_3 9 rfl rfl)
theorem dX1_explains_82 : decode cX1_explains 82 = .ok (.iinc 5 1, 3) := dk_132 5 1 (dk_at dksX1_explains_3 12 rfl rfl)
theorem dX1_explains_85 : decode cX1_explains 85 = .ok (.goto (-65), 3) := dk_167 255 191 (dk_at dksX1_explains_3 15 rfl rfl)
theorem dX1_explains_88 : decode cX1_explains 88 = .ok (.aload_n 0, 1) := dk_42 (dk_at dksX1_explains_3 18 rfl rfl)
theorem dX1_explains_89 : decode cX1_explains 89 = .ok (.iconst 0, 1) := dk_3 (dk_at dksX1_explains_3 19 rfl rfl)
theorem dX1_explains_90 : decode cX1_explains 90 = .ok (.putfield 154, 3) := dk_181 0 154 (dk_at dksX1_explains_3 20 rfl rfl)
theorem dX1_explains_93 : decode cX1_explains 93 = .ok (.iload_n 2, 1) := dk_28 (dk_at dksX1_explains_3 23 rfl rfl)
theorem dX1_explains_94 : decode cX1_explains 94 = .ok (.ifCond .le 16, 3) := dk_158 0 16 (dk_at dksX1_explains_4 0 rfl rfl)
theorem dX1_explains_97 : decode cX1_explains 97 = .ok (.aload_n 0, 1) := dk_42 (dk_at dksX1_explains_4 3 rfl rfl)
theorem dX1_explains_98 : decode cX1_explains 98 = .ok (.iload_n 3, 1) := dk_29 (dk_at dksX1_explains_4 4 rfl rfl)
theorem dX1_explains_99 : decode cX1_explains 99 = .ok (.i2l, 1) := dk_133 (dk_at dksX1_explains_4 5 rfl rfl)
theorem dX1_explains_100 : decode cX1_explains 100 = .ok (.invokevirtual 367, 3) := dk_182 1 111 (dk_at dksX1_explains_4 6 rfl rfl)
theorem dX1_explains_103 : decode cX1_explains 103 = .ok (.aload_n 0, 1) := dk_42 (dk_at dksX1_explains_4 9 rfl rfl)
theorem dX1_explains_104 : decode cX1_explains 104 = .ok (.iload 4, 2) := dk_21 4 (dk_at dksX1_explains_4 10 rfl rfl)
theorem dX1_explains_106 : decode cX1_explains 106 = .ok (.i2l, 1) := dk_133 (dk_at dksX1_explains_4 12 rfl rfl)
theorem dX1_explains_107 : decode cX1_explains 107 = .ok (.invokevirtual 367, 3) := dk_182 1 111 (dk_at dksX1_explains_4 13 rfl rfl)
theorem dX1_explains_110 : decode cX1_explains 110 = .ok (.iload_n 2, 1) := dk_28 (dk_at dksX1_explains_4 16 rfl rfl)
theorem dX1_explains_111 : decode cX1_explains 111 = .ok (.ireturn, 1) := dk_172 (dk_at dksX1_explains_4 17 rfl rfl)
def dkwX1_isSo_4 : List UInt8 := [132, 3, 1, 167, 255, 191, 4, 172]
abbrev dktX1_isSo_4 : List UInt8 := dkwX1_isSo_4 ++ []
def dkwX1_isSo_3 : List UInt8 := [180, 0, 22, 180, 1, 59, 42, 180, 0, 133, 21, 4, 46, 159, 0, 5, 3, 172, 132, 4, 1, 167, 255, 214]
abbrev dktX1_isSo_3 : List UInt8 := dkwX1_isSo_3 ++ dktX1_isSo_4
def dkwX1_isSo_2 : List UInt8 := [54, 4, 21, 4, 42, 180, 1, 232, 162, 0, 39, 42, 180, 0, 136, 21, 4, 46, 29, 160, 0, 22, 42]
abbrev dktX1_isSo_2 : List UInt8 := dkwX1_isSo_2 ++ dktX1_isSo_3
def dkwX1_isSo_1 : List UInt8 := [132, 3, 1, 167, 255, 234, 4, 62, 29, 28, 163, 0, 66, 42, 42, 180, 0, 22, 43, 182, 1, 107, 3]
abbrev dktX1_isSo_1 : List UInt8 := dkwX1_isSo_1 ++ dktX1_isSo_2
def dkwX1_isSo_0 : List UInt8 := [3, 61, 3, 62, 29, 42, 180, 1, 232, 162, 0, 20, 28, 42, 180, 0, 136, 29, 46, 184, 0, 178, 61]
abbrev dktX1_isSo_0 : List UInt8 := dkwX1_isSo_0 ++ dktX1_isSo_1
theorem dksX1_isSo_0 : cX1_isSo.data.toList.drop 0 = dktX1_isSo_0 := by decide +kernel
theorem dksX1_isSo_1 : cX1_isSo.data.toList.drop 23 = dktX1_isSo_1 := dk_seg dksX1_isSo_0 23 rfl rfl
theorem dksX1_isSo_2 : cX1_isSo.data.toList.drop 46 = dktX1_isSo_2 := dk_seg dksX1_isSo_1 23 rfl rfl
theorem dksX1_isSo_3 : cX1_isSo.data.toList.drop 69 = dktX1_isSo_3 := dk_seg dksX1_isSo_2 23 rfl rfl
theorem dksX1_isSo_4 : cX1_isSo.data.toList.drop 93 = dktX1_isSo_4 := dk_seg dksX1_isSo_3 24 rfl rfl
theorem dX1_isSo_0 : decode cX1_isSo 0 = .ok (.iconst 0, 1) := dk_3 (dk_at dksX1_isSo_0 0 rfl rfl)
theorem dX1_isSo_1 : decode cX1_isSo 1 = .ok (.istore_n 2, 1) := dk_61 (dk_at dksX1_isSo_0 1 rfl rfl)
theorem dX1_isSo_2 : decode cX1_isSo 2 = .ok (.iconst 0, 1) := dk_3 (dk_at dksX1_isSo_0 2 rfl rfl)
theorem dX1_isSo_3 : decode cX1_isSo 3 = .ok (.istore_n 3, 1) := dk_62 (dk_at dksX1_isSo_0 3 rfl rfl)
theorem dX1_isSo_4 : decode cX1_isSo 4 = .ok (.iload_n 3, 1) := dk_29 (dk_at dksX1_isSo_0 4 rfl rfl)
theorem dX1_isSo_5 : decode cX1_isSo 5 = .ok (.aload_n 0, 1) := dk_42 (dk_at dksX1_isSo_0 5 rfl rfl)
theorem dX1_isSo_6 : decode cX1_isSo 6 = .ok (.getfield 488, 3) := dk_180 1 232 (dk_at dksX1_isSo_0 6 rfl rfl)
theorem dX1_isSo_9 : decode cX1_isSo 9 = .ok (.if_icmp .ge 20, 3) := dk_162 0 20 (dk_at dksX1_isSo_0 9 rfl rfl)
theorem dX1_isSo_12 : decode cX1_isSo 12 = .ok (.iload_n 2, 1) := dk_28 (dk_at dksX1_isSo_0 12 rfl rfl)
theorem dX1_isSo_13 : decode cX1_isSo 13 = .ok (.aload_n 0, 1) := dk_42 (dk_at dksX1_isSo_0 13 rfl rfl)
theorem dX1_isSo_14 : decode cX1_isSo 14 = .ok (.getfield 136, 3) := dk_180 0 136 (dk_at dksX1_isSo_0 14 rfl rfl)
theorem dX1_isSo_17 : decode cX1_isSo 17 = .ok (.iload_n 3, 1) := dk_29 (dk_at dksX1_isSo_0 17 rfl rfl)
theorem dX1_isSo_18 : decode cX1_isSo 18 = .ok (.iaload, 1) := dk_46 (dk_at dksX1_isSo_0 18 rfl rfl)
theorem dX1_isSo_19 : decode cX1_isSo 19 = .ok (.invokestatic 178, 3) := dk_184 0 178 (dk_at dksX1_isSo_0 19 rfl rfl)
theorem dX1_isSo_22 : decode cX1_isSo 22 = .ok (.istore_n 2, 1) := dk_61 (dk_at dksX1_isSo_0 22 rfl rfl)
theorem dX1_isSo_23 : decode cX1_isSo 23 = .ok (.iinc 3 1, 3) := dk_132 3 1 (dk_at dksX1_isSo_1 0 rfl rfl)
theorem dX1_isSo_26 : decode cX1_isSo 26 = .ok (.goto (-22), 3) := dk_167 255 234 (dk_at dksX1_isSo_1 3 rfl rfl)
theorem dX1_isSo_29 : decode cX1_isSo 29 = .ok (.iconst 1, 1) := dk_4 (dk_at dksX1_isSo_1 6 rfl rfl)
theorem dX1_isSo_30 : decode cX1_isSo 30 = .ok (.istore_n 3, 1) := dk_62 (dk_at dksX1_isSo_1 7 rfl rfl)
theorem dX1_isSo_31 : decode cX1_isSo 31 = .ok (.iload_n 3, 1) := dk_29 (dk_at dksX1_isSo_1 8 rfl rfl)
theorem dX1_isSo_32 : decode cX1_isSo 32 = .ok (.iload_n 2, 1) := dk_28 (dk_at dksX1_isSo_1 9 rfl rfl)
theorem dX1_isSo_33 : decode cX1_isSo 33 = .ok (.if_icmp .gt 66, 3) := dk_163 0 66 (dk_at dksX1_isSo_1 10 rfl rfl)
theorem dX1_isSo_36 : decode cX1_isSo 36 = .ok (.aload_n 0, 1) := dk_42 (dk_at dksX1_isSo_1 13 rfl rfl)
theorem dX1_isSo_37 : decode cX1_isSo 37 = .ok (.aload_n 0, 1) := dk_42 (dk_at dksX1_isSo_1 14 rfl rfl)
theorem dX1_isSo_38 : decode cX1_isSo 38 = .ok (.getfield 22, 3) := dk_180 0 22 (dk_at dksX1_isSo_1 15 rfl rfl)
theorem dX1_isSo_41 : decode cX1_isSo 41 = .ok (.aload_n 1, 1) := dk_43 (dk_at dksX1_isSo_1 18 rfl rfl)
theorem dX1_isSo_42 : decode cX1_isSo 42 = .ok (.invokevirtual 363, 3) := dk_182 1 107 (dk_at dksX1_isSo_1 19 rfl rfl)
theorem dX1_isSo_45 : decode cX1_isSo 45 = .ok (.iconst 0, 1) := dk_3 (dk_at dksX1_isSo_1 22 rfl rfl)
theorem dX1_isSo_46 : decode cX1_isSo 46 = .ok (.istore 4, 2) := dk_54 4 (dk_at dksX1_isSo_2 0 rfl rfl)
theorem dX1_isSo_48 : decode cX1_isSo 48 = .ok (.iload 4, 2) := dk_21 4 (dk_at dksX1_isSo_2 2 rfl rfl)
theorem dX1_isSo_50 : decode cX1_isSo 50 = .ok (.aload_n 0, 1) := dk_42 (dk_at dksX1_isSo_2 4 rfl rfl)
theorem dX1_isSo_51 : decode cX1_isSo 51 = .ok (.getfield 488, 3) := dk_180 1 232 (dk_at dksX1_isSo_2 5 rfl rfl)
theorem dX1_isSo_54 : decode cX1_isSo 54 = .ok (.if_icmp .ge 39, 3) := dk_162 0 39 (dk_at dksX1_isSo_2 8 rfl rfl)
theorem dX1_isSo_57 : decode cX1_isSo 57 = .ok (.aload_n 0, 1) := dk_42 (dk_at dksX1_isSo_2 11 rfl rfl)
theorem dX1_isSo_58 : decode cX1_isSo 58 = .ok (.getfield 136, 3) := dk_180 0 136 (dk_at dksX1_isSo_2 12 rfl rfl)
theorem dX1_isSo_61 : decode cX1_isSo 61 = .ok (.iload 4, 2) := dk_21 4 (dk_at dksX1_isSo_2 15 rfl rfl)
theorem dX1_isSo_63 : decode cX1_isSo 63 = .ok (.iaload, 1) := dk_46 (dk_at dksX1_isSo_2 17 rfl rfl)
theorem dX1_isSo_64 : decode cX1_isSo 64 = .ok (.iload_n 3, 1) := dk_29 (dk_at dksX1_isSo_2 18 rfl rfl)
theorem dX1_isSo_65 : decode cX1_isSo 65 = .ok (.if_icmp .ne 22, 3) := dk_160 0 22 (dk_at dksX1_isSo_2 19 rfl rfl)
theorem dX1_isSo_68 : decode cX1_isSo 68 = .ok (.aload_n 0, 1) := dk_42 (dk_at dksX1_isSo_2 22 rfl rfl)
theorem dX1_isSo_69 : decode cX1_isSo 69 = .ok (.getfield 22, 3) := dk_180 0 22 (dk_at dksX1_isSo_3 0 rfl rfl)
theorem dX1_isSo_72 : decode cX1_isSo 72 = .ok (.getfield 315, 3) := dk_180 1 59 (dk_at dksX1_isSo_3 3 rfl rfl)
theorem dX1_isSo_75 : decode cX1_isSo 75 = .ok (.aload_n 0, 1) := dk_42 (dk_at dksX1_isSo_3 6 rfl rfl)
theorem dX1_isSo_76 : decode cX1_isSo 76 = .ok (.getfield 133, 3) := dk_180 0 133 (dk_at dksX1_isSo_3 7 rfl rfl)
theorem dX1_isSo_79 : decode cX1_isSo 79 = .ok (.iload 4, 2) := dk_21 4 (dk_at dksX1_isSo_3 10 rfl rfl)
theorem dX1_isSo_81 : decode cX1_isSo 81 = .ok (.iaload, 1) := dk_46 (dk_at dksX1_isSo_3 12 rfl rfl)
theorem dX1_isSo_82 : decode cX1_isSo 82 = .ok (.if_icmp .eq 5, 3) := dk_159 0 5 (dk_at dksX1_isSo_3 13 rfl rfl)
theorem dX1_isSo_85 : decode cX1_isSo 85 = .ok (.iconst 0, 1) := dk_3 (dk_at dksX1_isSo_3 16 rfl rfl)
theorem dX1_isSo_86 : decode cX1_isSo 86 = .ok (.ireturn, 1) := dk_172 (dk_at dksX1_isSo_3 17 rfl rfl)
theorem dX1_isSo_87 : decode cX1_isSo 87 = .ok (.iinc 4 1, 3) := dk_132 4 1 (dk_at dksX1_isSo_3 18 rfl rfl)
theorem dX1_isSo_90 : decode cX1_isSo 90 = .ok (.goto (-42), 3) := dk_167 255 214 (dk_at dksX1_isSo_3 21 rfl rfl)
theorem dX1_isSo_93 : decode cX1_isSo 93 = .ok (.iinc 3 1, 3) := dk_132 3 1 (dk_at dksX1_isSo_4 0 rfl rfl)
theorem dX1_isSo_96 : decode cX1_isSo 96 = .ok (.goto (-65), 3) := dk_167 255 191 (dk_at dksX1_isSo_4 3 rfl rfl)
theorem dX1_isSo_99 : decode cX1_isSo 99 = .ok (.iconst 1, 1) := dk_4 (dk_at dksX1_isSo_4 6 rfl rfl)
theorem dX1_isSo_100 : decode cX1_isSo 100 = .ok (.ireturn, 1) := dk_172 (dk_at dksX1_isSo_4 7 rfl rfl)
def dkwX1_absent_4 : List UInt8 := [42, 180, 0, 54, 182, 1, 235, 153, 0, 7, 10, 167, 0, 4, 9, 182, 1, 111, 27, 172]
abbrev dktX1_absent_4 : List UInt8 := dkwX1_absent_4 ++ []
def dkwX1_absent_3 : List UInt8 := [132, 2, 1, 167, 255, 188, 42, 180, 0, 22, 42, 180, 0, 18, 182, 1, 98, 42, 3, 181, 0, 154, 42, 42]
abbrev dktX1_absent_3 : List UInt8 := dkwX1_absent_3 ++ dktX1_absent_4
def dkwX1_absent_2 : List UInt8 := [182, 1, 98, 27, 42, 42, 180, 0, 95, 182, 1, 235, 153, 0, 9, 4, 28, 120, 167, 0, 4, 3, 128, 60]
abbrev dktX1_absent_2 : List UInt8 := dkwX1_absent_2 ++ dktX1_absent_3
def dkwX1_absent_1 : List UInt8 := [154, 0, 6, 167, 0, 43, 42, 180, 0, 95, 28, 181, 1, 197, 42, 180, 0, 22, 42, 180, 0, 18]
abbrev dktX1_absent_1 : List UInt8 := dkwX1_absent_1 ++ dktX1_absent_2
def dkwX1_absent_0 : List UInt8 := [3, 60, 3, 61, 28, 42, 180, 0, 157, 162, 0, 66, 42, 180, 0, 18, 180, 0, 168, 28, 184, 0, 171]
abbrev dktX1_absent_0 : List UInt8 := dkwX1_absent_0 ++ dktX1_absent_1
theorem dksX1_absent_0 : cX1_absent.data.toList.drop 0 = dktX1_absent_0 := by decide +kernel
theorem dksX1_absent_1 : cX1_absent.data.toList.drop 23 = dktX1_absent_1 := dk_seg dksX1_absent_0 23 rfl rfl
theorem dksX1_absent_2 : cX1_absent.data.toList.drop 45 = dktX1_absent_2 := dk_seg dksX1_absent_1 22 rfl rfl
theorem dksX1_absent_3 : cX1_absent.data.toList.drop 69 = dktX1_absent_3 := dk_seg dksX1_absent_2 24 rfl rfl
theorem dksX1_absent_4 : cX1_absent.data.toList.drop 93 = dktX1_absent_4 := dk_seg dksX1_absent_3 24 rfl rfl
theorem dX1_absent_0 : decode cX1_absent 0 = .ok (.iconst 0, 1) := dk_3 (dk_at dksX1_absent_0 0 rfl rfl)
theorem dX1_absent_1 : decode cX1_absent 1 = .ok (.istore_n 1, 1) := dk_60 (dk_at dksX1_absent_0 1 rfl rfl)
theorem dX1_absent_2 : decode cX1_absent 2 = .ok (.iconst 0, 1) := dk_3 (dk_at dksX1_absent_0 2 rfl rfl)
theorem dX1_absent_3 : decode cX1_absent 3 = .ok (.istore_n 2, 1) := dk_61 (dk_at dksX1_absent_0 3 rfl rfl)
theorem dX1_absent_4 : decode cX1_absent 4 = .ok (.iload_n 2, 1) := dk_28 (dk_at dksX1_absent_0 4 rfl rfl)
theorem dX1_absent_5 : decode cX1_absent 5 = .ok (.aload_n 0, 1) := dk_42 (dk_at dksX1_absent_0 5 rfl rfl)
theorem dX1_absent_6 : decode cX1_absent 6 = .ok (.getfield 157, 3) := dk_180 0 157 (dk_at dksX1_absent_0 6 rfl rfl)
theorem dX1_absent_9 : decode cX1_absent 9 = .ok (.if_icmp .ge 66, 3) := dk_162 0 66 (dk_at dksX1_absent_0 9 rfl rfl)
theorem dX1_absent_12 : decode cX1_absent 12 = .ok (.aload_n 0, 1) := dk_42 (dk_at dksX1_absent_0 12 rfl rfl)
theorem dX1_absent_13 : decode cX1_absent 13 = .ok (.getfield 18, 3) := dk_180 0 18 (dk_at dksX1_absent_0 13 rfl rfl)
theorem dX1_absent_16 : decode cX1_absent 16 = .ok (.getfield 168, 3) := dk_180 0 168 (dk_at dksX1_absent_0 16 rfl rfl)
theorem dX1_absent_19 : decode cX1_absent 19 = .ok (.iload_n 2, 1) := dk_28 (dk_at dksX1_absent_0 19 rfl rfl)
theorem dX1_absent_20 : decode cX1_absent 20 = .ok (.invokestatic 171, 3) := dk_184 0 171 (dk_at dksX1_absent_0 20 rfl rfl)
theorem dX1_absent_23 : decode cX1_absent 23 = .ok (.ifCond .ne 6, 3) := dk_154 0 6 (dk_at dksX1_absent_1 0 rfl rfl)
theorem dX1_absent_26 : decode cX1_absent 26 = .ok (.goto 43, 3) := dk_167 0 43 (dk_at dksX1_absent_1 3 rfl rfl)
theorem dX1_absent_29 : decode cX1_absent 29 = .ok (.aload_n 0, 1) := dk_42 (dk_at dksX1_absent_1 6 rfl rfl)
theorem dX1_absent_30 : decode cX1_absent 30 = .ok (.getfield 95, 3) := dk_180 0 95 (dk_at dksX1_absent_1 7 rfl rfl)
theorem dX1_absent_33 : decode cX1_absent 33 = .ok (.iload_n 2, 1) := dk_28 (dk_at dksX1_absent_1 10 rfl rfl)
theorem dX1_absent_34 : decode cX1_absent 34 = .ok (.putfield 453, 3) := dk_181 1 197 (dk_at dksX1_absent_1 11 rfl rfl)
theorem dX1_absent_37 : decode cX1_absent 37 = .ok (.aload_n 0, 1) := dk_42 (dk_at dksX1_absent_1 14 rfl rfl)
theorem dX1_absent_38 : decode cX1_absent 38 = .ok (.getfield 22, 3) := dk_180 0 22 (dk_at dksX1_absent_1 15 rfl rfl)
theorem dX1_absent_41 : decode cX1_absent 41 = .ok (.aload_n 0, 1) := dk_42 (dk_at dksX1_absent_1 18 rfl rfl)
theorem dX1_absent_42 : decode cX1_absent 42 = .ok (.getfield 18, 3) := dk_180 0 18 (dk_at dksX1_absent_1 19 rfl rfl)
theorem dX1_absent_45 : decode cX1_absent 45 = .ok (.invokevirtual 354, 3) := dk_182 1 98 (dk_at dksX1_absent_2 0 rfl rfl)
theorem dX1_absent_48 : decode cX1_absent 48 = .ok (.iload_n 1, 1) := dk_27 (dk_at dksX1_absent_2 3 rfl rfl)
theorem dX1_absent_49 : decode cX1_absent 49 = .ok (.aload_n 0, 1) := dk_42 (dk_at dksX1_absent_2 4 rfl rfl)
theorem dX1_absent_50 : decode cX1_absent 50 = .ok (.aload_n 0, 1) := dk_42 (dk_at dksX1_absent_2 5 rfl rfl)
theorem dX1_absent_51 : decode cX1_absent 51 = .ok (.getfield 95, 3) := dk_180 0 95 (dk_at dksX1_absent_2 6 rfl rfl)
theorem dX1_absent_54 : decode cX1_absent 54 = .ok (.invokevirtual 491, 3) := dk_182 1 235 (dk_at dksX1_absent_2 9 rfl rfl)
theorem dX1_absent_57 : decode cX1_absent 57 = .ok (.ifCond .eq 9, 3) := dk_153 0 9 (dk_at dksX1_absent_2 12 rfl rfl)
theorem dX1_absent_60 : decode cX1_absent 60 = .ok (.iconst 1, 1) := dk_4 (dk_at dksX1_absent_2 15 rfl rfl)
theorem dX1_absent_61 : decode cX1_absent 61 = .ok (.iload_n 2, 1) := dk_28 (dk_at dksX1_absent_2 16 rfl rfl)
theorem dX1_absent_62 : decode cX1_absent 62 = .ok (.ishl, 1) := dk_120 (dk_at dksX1_absent_2 17 rfl rfl)
theorem dX1_absent_63 : decode cX1_absent 63 = .ok (.goto 4, 3) := dk_167 0 4 (dk_at dksX1_absent_2 18 rfl rfl)
theorem dX1_absent_66 : decode cX1_absent 66 = .ok (.iconst 0, 1) := dk_3 (dk_at dksX1_absent_2 21 rfl rfl)
theorem dX1_absent_67 : decode cX1_absent 67 = .ok (.ior, 1) := dk_128 (dk_at dksX1_absent_2 22 rfl rfl)
theorem dX1_absent_68 : decode cX1_absent 68 = .ok (.istore_n 1, 1) := dk_60 (dk_at dksX1_absent_2 23 rfl rfl)
theorem dX1_absent_69 : decode cX1_absent 69 = .ok (.iinc 2 1, 3) := dk_132 2 1 (dk_at dksX1_absent_3 0 rfl rfl)
theorem dX1_absent_72 : decode cX1_absent 72 = .ok (.goto (-68), 3) := dk_167 255 188 (dk_at dksX1_absent_3 3 rfl rfl)
theorem dX1_absent_75 : decode cX1_absent 75 = .ok (.aload_n 0, 1) := dk_42 (dk_at dksX1_absent_3 6 rfl rfl)
theorem dX1_absent_76 : decode cX1_absent 76 = .ok (.getfield 22, 3) := dk_180 0 22 (dk_at dksX1_absent_3 7 rfl rfl)
theorem dX1_absent_79 : decode cX1_absent 79 = .ok (.aload_n 0, 1) := dk_42 (dk_at dksX1_absent_3 10 rfl rfl)
theorem dX1_absent_80 : decode cX1_absent 80 = .ok (.getfield 18, 3) := dk_180 0 18 (dk_at dksX1_absent_3 11 rfl rfl)
theorem dX1_absent_83 : decode cX1_absent 83 = .ok (.invokevirtual 354, 3) := dk_182 1 98 (dk_at dksX1_absent_3 14 rfl rfl)
theorem dX1_absent_86 : decode cX1_absent 86 = .ok (.aload_n 0, 1) := dk_42 (dk_at dksX1_absent_3 17 rfl rfl)
theorem dX1_absent_87 : decode cX1_absent 87 = .ok (.iconst 0, 1) := dk_3 (dk_at dksX1_absent_3 18 rfl rfl)
theorem dX1_absent_88 : decode cX1_absent 88 = .ok (.putfield 154, 3) := dk_181 0 154 (dk_at dksX1_absent_3 19 rfl rfl)
theorem dX1_absent_91 : decode cX1_absent 91 = .ok (.aload_n 0, 1) := dk_42 (dk_at dksX1_absent_3 22 rfl rfl)
theorem dX1_absent_92 : decode cX1_absent 92 = .ok (.aload_n 0, 1) := dk_42 (dk_at dksX1_absent_3 23 rfl rfl)
theorem dX1_absent_93 : decode cX1_absent 93 = .ok (.aload_n 0, 1) := dk_42 (dk_at dksX1_absent_4 0 rfl rfl)
theorem dX1_absent_94 : decode cX1_absent 94 = .ok (.getfield 54, 3) := dk_180 0 54 (dk_at dksX1_absent_4 1 rfl rfl)
theorem dX1_absent_97 : decode cX1_absent 97 = .ok (.invokevirtual 491, 3) := dk_182 1 235 (dk_at dksX1_absent_4 4 rfl rfl)
theorem dX1_absent_100 : decode cX1_absent 100 = .ok (.ifCond .eq 7, 3) := dk_153 0 7 (dk_at dksX1_absent_4 7 rfl rfl)
theorem dX1_absent_103 : decode cX1_absent 103 = .ok (.lconst 1, 1) := dk_10 (dk_at dksX1_absent_4 10 rfl rfl)
theorem dX1_absent_104 : decode cX1_absent 104 = .ok (.goto 4, 3) := dk_167 0 4 (dk_at dksX1_absent_4 11 rfl rfl)
theorem dX1_absent_107 : decode cX1_absent 107 = .ok (.lconst 0, 1) := dk_9 (dk_at dksX1_absent_4 14 rfl rfl)
theorem dX1_absent_108 : decode cX1_absent 108 = .ok (.invokevirtual 367, 3) := dk_182 1 111 (dk_at dksX1_absent_4 15 rfl rfl)
theorem dX1_absent_111 : decode cX1_absent 111 = .ok (.iload_n 1, 1) := dk_27 (dk_at dksX1_absent_4 18 rfl rfl)
theorem dX1_absent_112 : decode cX1_absent 112 = .ok (.ireturn, 1) := dk_172 (dk_at dksX1_absent_4 19 rfl rfl)
def dkwX1_twin_1 : List UInt8 := [27, 50, 42, 180, 0, 18, 180, 0, 236, 27, 46, 182, 0, 224, 42, 180, 0, 157, 4, 100, 172]
abbrev dktX1_twin_1 : List UInt8 := dkwX1_twin_1 ++ []
def dkwX1_twin_0 : List UInt8 := [42, 27, 182, 1, 146, 153, 0, 12, 42, 180, 0, 157, 16, 8, 160, 0, 5, 2, 172, 42, 42, 180, 0, 11]
abbrev dktX1_twin_0 : List UInt8 := dkwX1_twin_0 ++ dktX1_twin_1
theorem dksX1_twin_0 : cX1_twin.data.toList.drop 0 = dktX1_twin_0 := by decide +kernel
theorem dksX1_twin_1 : cX1_twin.data.toList.drop 24 = dktX1_twin_1 := dk_seg dksX1_twin_0 24 rfl rfl
theorem dX1_twin_0 : decode cX1_twin 0 = .ok (.aload_n 0, 1) := dk_42 (dk_at dksX1_twin_0 0 rfl rfl)
theorem dX1_twin_1 : decode cX1_twin 1 = .ok (.iload_n 1, 1) := dk_27 (dk_at dksX1_twin_0 1 rfl rfl)
theorem dX1_twin_2 : decode cX1_twin 2 = .ok (.invokevirtual 402, 3) := dk_182 1 146 (dk_at dksX1_twin_0 2 rfl rfl)
theorem dX1_twin_5 : decode cX1_twin 5 = .ok (.ifCond .eq 12, 3) := dk_153 0 12 (dk_at dksX1_twin_0 5 rfl rfl)
theorem dX1_twin_8 : decode cX1_twin 8 = .ok (.aload_n 0, 1) := dk_42 (dk_at dksX1_twin_0 8 rfl rfl)
theorem dX1_twin_9 : decode cX1_twin 9 = .ok (.getfield 157, 3) := dk_180 0 157 (dk_at dksX1_twin_0 9 rfl rfl)
theorem dX1_twin_12 : decode cX1_twin 12 = .ok (.bipush 8, 2) := dk_16 8 (dk_at dksX1_twin_0 12 rfl rfl)
theorem dX1_twin_14 : decode cX1_twin 14 = .ok (.if_icmp .ne 5, 3) := dk_160 0 5 (dk_at dksX1_twin_0 14 rfl rfl)
theorem dX1_twin_17 : decode cX1_twin 17 = .ok (.iconst (-1), 1) := dk_2 (dk_at dksX1_twin_0 17 rfl rfl)
theorem dX1_twin_18 : decode cX1_twin 18 = .ok (.ireturn, 1) := dk_172 (dk_at dksX1_twin_0 18 rfl rfl)
theorem dX1_twin_19 : decode cX1_twin 19 = .ok (.aload_n 0, 1) := dk_42 (dk_at dksX1_twin_0 19 rfl rfl)
theorem dX1_twin_20 : decode cX1_twin 20 = .ok (.aload_n 0, 1) := dk_42 (dk_at dksX1_twin_0 20 rfl rfl)
theorem dX1_twin_21 : decode cX1_twin 21 = .ok (.getfield 11, 3) := dk_180 0 11 (dk_at dksX1_twin_0 21 rfl rfl)
theorem dX1_twin_24 : decode cX1_twin 24 = .ok (.iload_n 1, 1) := dk_27 (dk_at dksX1_twin_1 0 rfl rfl)
theorem dX1_twin_25 : decode cX1_twin 25 = .ok (.aaload, 1) := dk_50 (dk_at dksX1_twin_1 1 rfl rfl)
theorem dX1_twin_26 : decode cX1_twin 26 = .ok (.aload_n 0, 1) := dk_42 (dk_at dksX1_twin_1 2 rfl rfl)
theorem dX1_twin_27 : decode cX1_twin 27 = .ok (.getfield 18, 3) := dk_180 0 18 (dk_at dksX1_twin_1 3 rfl rfl)
theorem dX1_twin_30 : decode cX1_twin 30 = .ok (.getfield 236, 3) := dk_180 0 236 (dk_at dksX1_twin_1 6 rfl rfl)
theorem dX1_twin_33 : decode cX1_twin 33 = .ok (.iload_n 1, 1) := dk_27 (dk_at dksX1_twin_1 9 rfl rfl)
theorem dX1_twin_34 : decode cX1_twin 34 = .ok (.iaload, 1) := dk_46 (dk_at dksX1_twin_1 10 rfl rfl)
theorem dX1_twin_35 : decode cX1_twin 35 = .ok (.invokevirtual 224, 3) := dk_182 0 224 (dk_at dksX1_twin_1 11 rfl rfl)
theorem dX1_twin_38 : decode cX1_twin 38 = .ok (.aload_n 0, 1) := dk_42 (dk_at dksX1_twin_1 14 rfl rfl)
theorem dX1_twin_39 : decode cX1_twin 39 = .ok (.getfield 157, 3) := dk_180 0 157 (dk_at dksX1_twin_1 15 rfl rfl)
theorem dX1_twin_42 : decode cX1_twin 42 = .ok (.iconst 1, 1) := dk_4 (dk_at dksX1_twin_1 18 rfl rfl)
theorem dX1_twin_43 : decode cX1_twin 43 = .ok (.isub, 1) := dk_100 (dk_at dksX1_twin_1 19 rfl rfl)
theorem dX1_twin_44 : decode cX1_twin 44 = .ok (.ireturn, 1) := dk_172 (dk_at dksX1_twin_1 20 rfl rfl)
def dkwX1_odds_3 : List UInt8 := [20, 2, 1, 182, 2, 3, 3, 172]
abbrev dktX1_odds_3 : List UInt8 := dkwX1_odds_3 ++ []
def dkwX1_odds_2 : List UInt8 := [181, 0, 154, 42, 33, 28, 154, 0, 7, 10, 167, 0, 17, 28, 4, 160, 0, 9, 20, 1, 241, 167, 0, 6]
abbrev dktX1_odds_2 : List UInt8 := dkwX1_odds_2 ++ dktX1_odds_3
def dkwX1_odds_1 : List UInt8 := [180, 0, 139, 3, 50, 42, 180, 0, 18, 182, 1, 98, 42, 27, 3, 28, 182, 1, 247, 66, 42, 3]
abbrev dktX1_odds_1 : List UInt8 := dkwX1_odds_1 ++ dktX1_odds_2
def dkwX1_odds_0 : List UInt8 := [42, 27, 182, 0, 164, 153, 0, 15, 28, 133, 9, 20, 1, 255, 184, 0, 160, 154, 0, 5, 2, 172, 42]
abbrev dktX1_odds_0 : List UInt8 := dkwX1_odds_0 ++ dktX1_odds_1
theorem dksX1_odds_0 : cX1_odds.data.toList.drop 0 = dktX1_odds_0 := by decide +kernel
theorem dksX1_odds_1 : cX1_odds.data.toList.drop 23 = dktX1_odds_1 := dk_seg dksX1_odds_0 23 rfl rfl
theorem dksX1_odds_2 : cX1_odds.data.toList.drop 45 = dktX1_odds_2 := dk_seg dksX1_odds_1 22 rfl rfl
theorem dksX1_odds_3 : cX1_odds.data.toList.drop 69 = dktX1_odds_3 := dk_seg dksX1_odds_2 24 rfl rfl
theorem dX1_odds_0 : decode cX1_odds 0 = .ok (.aload_n 0, 1) := dk_42 (dk_at dksX1_odds_0 0 rfl rfl)
theorem dX1_odds_1 : decode cX1_odds 1 = .ok (.iload_n 1, 1) := dk_27 (dk_at dksX1_odds_0 1 rfl rfl)
theorem dX1_odds_2 : decode cX1_odds 2 = .ok (.invokevirtual 164, 3) := dk_182 0 164 (dk_at dksX1_odds_0 2 rfl rfl)
theorem dX1_odds_5 : decode cX1_odds 5 = .ok (.ifCond .eq 15, 3) := dk_153 0 15 (dk_at dksX1_odds_0 5 rfl rfl)
theorem dX1_odds_8 : decode cX1_odds 8 = .ok (.iload_n 2, 1) := dk_28 (dk_at dksX1_odds_0 8 rfl rfl)
theorem dX1_odds_9 : decode cX1_odds 9 = .ok (.i2l, 1) := dk_133 (dk_at dksX1_odds_0 9 rfl rfl)
theorem dX1_odds_10 : decode cX1_odds 10 = .ok (.lconst 0, 1) := dk_9 (dk_at dksX1_odds_0 10 rfl rfl)
theorem dX1_odds_11 : decode cX1_odds 11 = .ok (.ldc2_w 511, 3) := dk_20 1 255 (dk_at dksX1_odds_0 11 rfl rfl)
theorem dX1_odds_14 : decode cX1_odds 14 = .ok (.invokestatic 160, 3) := dk_184 0 160 (dk_at dksX1_odds_0 14 rfl rfl)
theorem dX1_odds_17 : decode cX1_odds 17 = .ok (.ifCond .ne 5, 3) := dk_154 0 5 (dk_at dksX1_odds_0 17 rfl rfl)
theorem dX1_odds_20 : decode cX1_odds 20 = .ok (.iconst (-1), 1) := dk_2 (dk_at dksX1_odds_0 20 rfl rfl)
theorem dX1_odds_21 : decode cX1_odds 21 = .ok (.ireturn, 1) := dk_172 (dk_at dksX1_odds_0 21 rfl rfl)
theorem dX1_odds_22 : decode cX1_odds 22 = .ok (.aload_n 0, 1) := dk_42 (dk_at dksX1_odds_0 22 rfl rfl)
theorem dX1_odds_23 : decode cX1_odds 23 = .ok (.getfield 139, 3) := dk_180 0 139 (dk_at dksX1_odds_1 0 rfl rfl)
theorem dX1_odds_26 : decode cX1_odds 26 = .ok (.iconst 0, 1) := dk_3 (dk_at dksX1_odds_1 3 rfl rfl)
theorem dX1_odds_27 : decode cX1_odds 27 = .ok (.aaload, 1) := dk_50 (dk_at dksX1_odds_1 4 rfl rfl)
theorem dX1_odds_28 : decode cX1_odds 28 = .ok (.aload_n 0, 1) := dk_42 (dk_at dksX1_odds_1 5 rfl rfl)
theorem dX1_odds_29 : decode cX1_odds 29 = .ok (.getfield 18, 3) := dk_180 0 18 (dk_at dksX1_odds_1 6 rfl rfl)
theorem dX1_odds_32 : decode cX1_odds 32 = .ok (.invokevirtual 354, 3) := dk_182 1 98 (dk_at dksX1_odds_1 9 rfl rfl)
theorem dX1_odds_35 : decode cX1_odds 35 = .ok (.aload_n 0, 1) := dk_42 (dk_at dksX1_odds_1 12 rfl rfl)
theorem dX1_odds_36 : decode cX1_odds 36 = .ok (.iload_n 1, 1) := dk_27 (dk_at dksX1_odds_1 13 rfl rfl)
theorem dX1_odds_37 : decode cX1_odds 37 = .ok (.iconst 0, 1) := dk_3 (dk_at dksX1_odds_1 14 rfl rfl)
theorem dX1_odds_38 : decode cX1_odds 38 = .ok (.iload_n 2, 1) := dk_28 (dk_at dksX1_odds_1 15 rfl rfl)
theorem dX1_odds_39 : decode cX1_odds 39 = .ok (.invokevirtual 503, 3) := dk_182 1 247 (dk_at dksX1_odds_1 16 rfl rfl)
theorem dX1_odds_42 : decode cX1_odds 42 = .ok (.lstore_n 3, 1) := dk_66 (dk_at dksX1_odds_1 19 rfl rfl)
theorem dX1_odds_43 : decode cX1_odds 43 = .ok (.aload_n 0, 1) := dk_42 (dk_at dksX1_odds_1 20 rfl rfl)
theorem dX1_odds_44 : decode cX1_odds 44 = .ok (.iconst 0, 1) := dk_3 (dk_at dksX1_odds_1 21 rfl rfl)
theorem dX1_odds_45 : decode cX1_odds 45 = .ok (.putfield 154, 3) := dk_181 0 154 (dk_at dksX1_odds_2 0 rfl rfl)
theorem dX1_odds_48 : decode cX1_odds 48 = .ok (.aload_n 0, 1) := dk_42 (dk_at dksX1_odds_2 3 rfl rfl)
theorem dX1_odds_49 : decode cX1_odds 49 = .ok (.lload_n 3, 1) := dk_33 (dk_at dksX1_odds_2 4 rfl rfl)
theorem dX1_odds_50 : decode cX1_odds 50 = .ok (.iload_n 2, 1) := dk_28 (dk_at dksX1_odds_2 5 rfl rfl)
theorem dX1_odds_51 : decode cX1_odds 51 = .ok (.ifCond .ne 7, 3) := dk_154 0 7 (dk_at dksX1_odds_2 6 rfl rfl)
theorem dX1_odds_54 : decode cX1_odds 54 = .ok (.lconst 1, 1) := dk_10 (dk_at dksX1_odds_2 9 rfl rfl)
theorem dX1_odds_55 : decode cX1_odds 55 = .ok (.goto 17, 3) := dk_167 0 17 (dk_at dksX1_odds_2 10 rfl rfl)
theorem dX1_odds_58 : decode cX1_odds 58 = .ok (.iload_n 2, 1) := dk_28 (dk_at dksX1_odds_2 13 rfl rfl)
theorem dX1_odds_59 : decode cX1_odds 59 = .ok (.iconst 1, 1) := dk_4 (dk_at dksX1_odds_2 14 rfl rfl)
theorem dX1_odds_60 : decode cX1_odds 60 = .ok (.if_icmp .ne 9, 3) := dk_160 0 9 (dk_at dksX1_odds_2 15 rfl rfl)
theorem dX1_odds_63 : decode cX1_odds 63 = .ok (.ldc2_w 497, 3) := dk_20 1 241 (dk_at dksX1_odds_2 18 rfl rfl)
theorem dX1_odds_66 : decode cX1_odds 66 = .ok (.goto 6, 3) := dk_167 0 6 (dk_at dksX1_odds_2 21 rfl rfl)
theorem dX1_odds_69 : decode cX1_odds 69 = .ok (.ldc2_w 513, 3) := dk_20 2 1 (dk_at dksX1_odds_3 0 rfl rfl)
theorem dX1_odds_72 : decode cX1_odds 72 = .ok (.invokevirtual 515, 3) := dk_182 2 3 (dk_at dksX1_odds_3 3 rfl rfl)
theorem dX1_odds_75 : decode cX1_odds 75 = .ok (.iconst 0, 1) := dk_3 (dk_at dksX1_odds_3 6 rfl rfl)
theorem dX1_odds_76 : decode cX1_odds 76 = .ok (.ireturn, 1) := dk_172 (dk_at dksX1_odds_3 7 rfl rfl)
def dkwX1_oddsOf_6 : List UInt8 := [132, 8, 1, 167, 255, 173, 22, 6, 173]
abbrev dktX1_oddsOf_6 : List UInt8 := dkwX1_oddsOf_6 ++ []
def dkwX1_oddsOf_5 : List UInt8 := [22, 6, 25, 5, 21, 8, 47, 42, 27, 28, 4, 96, 29, 4, 100, 182, 1, 247, 105, 97, 55, 6]
abbrev dktX1_oddsOf_5 : List UInt8 := dkwX1_oddsOf_5 ++ dktX1_oddsOf_6
def dkwX1_oddsOf_4 : List UInt8 := [180, 0, 139, 28, 4, 96, 50, 21, 8, 16, 8, 160, 0, 7, 2, 167, 0, 5, 21, 8, 182, 1, 72]
abbrev dktX1_oddsOf_4 : List UInt8 := dkwX1_oddsOf_4 ++ dktX1_oddsOf_5
def dkwX1_oddsOf_3 : List UInt8 := [47, 9, 148, 154, 0, 6, 167, 0, 63, 42, 180, 0, 139, 28, 4, 96, 50, 25, 4, 182, 1, 98, 42, 42]
abbrev dktX1_oddsOf_3 : List UInt8 := dkwX1_oddsOf_3 ++ dktX1_oddsOf_4
def dkwX1_oddsOf_2 : List UInt8 := [25, 4, 25, 5, 182, 1, 243, 9, 55, 6, 3, 54, 8, 21, 8, 16, 8, 163, 0, 82, 25, 5, 21, 8]
abbrev dktX1_oddsOf_2 : List UInt8 := dkwX1_oddsOf_2 ++ dktX1_oddsOf_3
def dkwX1_oddsOf_1 : List UInt8 := [167, 0, 4, 9, 173, 28, 154, 0, 10, 42, 180, 0, 142, 167, 0, 7, 42, 180, 0, 145, 58, 5, 42]
abbrev dktX1_oddsOf_1 : List UInt8 := dkwX1_oddsOf_1 ++ dktX1_oddsOf_2
def dkwX1_oddsOf_0 : List UInt8 := [42, 180, 0, 139, 28, 50, 58, 4, 29, 154, 0, 18, 25, 4, 180, 1, 59, 27, 160, 0, 7, 10]
abbrev dktX1_oddsOf_0 : List UInt8 := dkwX1_oddsOf_0 ++ dktX1_oddsOf_1
theorem dksX1_oddsOf_0 : cX1_oddsOf.data.toList.drop 0 = dktX1_oddsOf_0 := by decide +kernel
theorem dksX1_oddsOf_1 : cX1_oddsOf.data.toList.drop 22 = dktX1_oddsOf_1 := dk_seg dksX1_oddsOf_0 22 rfl rfl
theorem dksX1_oddsOf_2 : cX1_oddsOf.data.toList.drop 45 = dktX1_oddsOf_2 := dk_seg dksX1_oddsOf_1 23 rfl rfl
theorem dksX1_oddsOf_3 : cX1_oddsOf.data.toList.drop 69 = dktX1_oddsOf_3 := dk_seg dksX1_oddsOf_2 24 rfl rfl
theorem dksX1_oddsOf_4 : cX1_oddsOf.data.toList.drop 93 = dktX1_oddsOf_4 := dk_seg dksX1_oddsOf_3 24 rfl rfl
theorem dksX1_oddsOf_5 : cX1_oddsOf.data.toList.drop 116 = dktX1_oddsOf_5 := dk_seg dksX1_oddsOf_4 23 rfl rfl
theorem dksX1_oddsOf_6 : cX1_oddsOf.data.toList.drop 138 = dktX1_oddsOf_6 := dk_seg dksX1_oddsOf_5 22 rfl rfl
theorem dX1_oddsOf_0 : decode cX1_oddsOf 0 = .ok (.aload_n 0, 1) := dk_42 (dk_at dksX1_oddsOf_0 0 rfl rfl)
theorem dX1_oddsOf_1 : decode cX1_oddsOf 1 = .ok (.getfield 139, 3) := dk_180 0 139 (dk_at dksX1_oddsOf_0 1 rfl rfl)
theorem dX1_oddsOf_4 : decode cX1_oddsOf 4 = .ok (.iload_n 2, 1) := dk_28 (dk_at dksX1_oddsOf_0 4 rfl rfl)
theorem dX1_oddsOf_5 : decode cX1_oddsOf 5 = .ok (.aaload, 1) := dk_50 (dk_at dksX1_oddsOf_0 5 rfl rfl)
theorem dX1_oddsOf_6 : decode cX1_oddsOf 6 = .ok (.astore 4, 2) := dk_58 4 (dk_at dksX1_oddsOf_0 6 rfl rfl)
theorem dX1_oddsOf_8 : decode cX1_oddsOf 8 = .ok (.iload_n 3, 1) := dk_29 (dk_at dksX1_oddsOf_0 8 rfl rfl)
theorem dX1_oddsOf_9 : decode cX1_oddsOf 9 = .ok (.ifCond .ne 18, 3) := dk_154 0 18 (dk_at dksX1_oddsOf_0 9 rfl rfl)
theorem dX1_oddsOf_12 : decode cX1_oddsOf 12 = .ok (.aload 4, 2) := dk_25 4 (dk_at dksX1_oddsOf_0 12 rfl rfl)
theorem dX1_oddsOf_14 : decode cX1_oddsOf 14 = .ok (.getfield 315, 3) := dk_180 1 59 (dk_at dksX1_oddsOf_0 14 rfl rfl)
theorem dX1_oddsOf_17 : decode cX1_oddsOf 17 = .ok (.iload_n 1, 1) := dk_27 (dk_at dksX1_oddsOf_0 17 rfl rfl)
theorem dX1_oddsOf_18 : decode cX1_oddsOf 18 = .ok (.if_icmp .ne 7, 3) := dk_160 0 7 (dk_at dksX1_oddsOf_0 18 rfl rfl)
theorem dX1_oddsOf_21 : decode cX1_oddsOf 21 = .ok (.lconst 1, 1) := dk_10 (dk_at dksX1_oddsOf_0 21 rfl rfl)
theorem dX1_oddsOf_22 : decode cX1_oddsOf 22 = .ok (.goto 4, 3) := dk_167 0 4 (dk_at dksX1_oddsOf_1 0 rfl rfl)
theorem dX1_oddsOf_25 : decode cX1_oddsOf 25 = .ok (.lconst 0, 1) := dk_9 (dk_at dksX1_oddsOf_1 3 rfl rfl)
theorem dX1_oddsOf_26 : decode cX1_oddsOf 26 = .ok (.lreturn, 1) := dk_173 (dk_at dksX1_oddsOf_1 4 rfl rfl)
theorem dX1_oddsOf_27 : decode cX1_oddsOf 27 = .ok (.iload_n 2, 1) := dk_28 (dk_at dksX1_oddsOf_1 5 rfl rfl)
theorem dX1_oddsOf_28 : decode cX1_oddsOf 28 = .ok (.ifCond .ne 10, 3) := dk_154 0 10 (dk_at dksX1_oddsOf_1 6 rfl rfl)
theorem dX1_oddsOf_31 : decode cX1_oddsOf 31 = .ok (.aload_n 0, 1) := dk_42 (dk_at dksX1_oddsOf_1 9 rfl rfl)
theorem dX1_oddsOf_32 : decode cX1_oddsOf 32 = .ok (.getfield 142, 3) := dk_180 0 142 (dk_at dksX1_oddsOf_1 10 rfl rfl)
theorem dX1_oddsOf_35 : decode cX1_oddsOf 35 = .ok (.goto 7, 3) := dk_167 0 7 (dk_at dksX1_oddsOf_1 13 rfl rfl)
theorem dX1_oddsOf_38 : decode cX1_oddsOf 38 = .ok (.aload_n 0, 1) := dk_42 (dk_at dksX1_oddsOf_1 16 rfl rfl)
theorem dX1_oddsOf_39 : decode cX1_oddsOf 39 = .ok (.getfield 145, 3) := dk_180 0 145 (dk_at dksX1_oddsOf_1 17 rfl rfl)
theorem dX1_oddsOf_42 : decode cX1_oddsOf 42 = .ok (.astore 5, 2) := dk_58 5 (dk_at dksX1_oddsOf_1 20 rfl rfl)
theorem dX1_oddsOf_44 : decode cX1_oddsOf 44 = .ok (.aload_n 0, 1) := dk_42 (dk_at dksX1_oddsOf_1 22 rfl rfl)
theorem dX1_oddsOf_45 : decode cX1_oddsOf 45 = .ok (.aload 4, 2) := dk_25 4 (dk_at dksX1_oddsOf_2 0 rfl rfl)
theorem dX1_oddsOf_47 : decode cX1_oddsOf 47 = .ok (.aload 5, 2) := dk_25 5 (dk_at dksX1_oddsOf_2 2 rfl rfl)
theorem dX1_oddsOf_49 : decode cX1_oddsOf 49 = .ok (.invokevirtual 499, 3) := dk_182 1 243 (dk_at dksX1_oddsOf_2 4 rfl rfl)
theorem dX1_oddsOf_52 : decode cX1_oddsOf 52 = .ok (.lconst 0, 1) := dk_9 (dk_at dksX1_oddsOf_2 7 rfl rfl)
theorem dX1_oddsOf_53 : decode cX1_oddsOf 53 = .ok (.lstore 6, 2) := dk_55 6 (dk_at dksX1_oddsOf_2 8 rfl rfl)
theorem dX1_oddsOf_55 : decode cX1_oddsOf 55 = .ok (.iconst 0, 1) := dk_3 (dk_at dksX1_oddsOf_2 10 rfl rfl)
theorem dX1_oddsOf_56 : decode cX1_oddsOf 56 = .ok (.istore 8, 2) := dk_54 8 (dk_at dksX1_oddsOf_2 11 rfl rfl)
theorem dX1_oddsOf_58 : decode cX1_oddsOf 58 = .ok (.iload 8, 2) := dk_21 8 (dk_at dksX1_oddsOf_2 13 rfl rfl)
theorem dX1_oddsOf_60 : decode cX1_oddsOf 60 = .ok (.bipush 8, 2) := dk_16 8 (dk_at dksX1_oddsOf_2 15 rfl rfl)
theorem dX1_oddsOf_62 : decode cX1_oddsOf 62 = .ok (.if_icmp .gt 82, 3) := dk_163 0 82 (dk_at dksX1_oddsOf_2 17 rfl rfl)
theorem dX1_oddsOf_65 : decode cX1_oddsOf 65 = .ok (.aload 5, 2) := dk_25 5 (dk_at dksX1_oddsOf_2 20 rfl rfl)
theorem dX1_oddsOf_67 : decode cX1_oddsOf 67 = .ok (.iload 8, 2) := dk_21 8 (dk_at dksX1_oddsOf_2 22 rfl rfl)
theorem dX1_oddsOf_69 : decode cX1_oddsOf 69 = .ok (.laload, 1) := dk_47 (dk_at dksX1_oddsOf_3 0 rfl rfl)
theorem dX1_oddsOf_70 : decode cX1_oddsOf 70 = .ok (.lconst 0, 1) := dk_9 (dk_at dksX1_oddsOf_3 1 rfl rfl)
theorem dX1_oddsOf_71 : decode cX1_oddsOf 71 = .ok (.lcmp, 1) := dk_148 (dk_at dksX1_oddsOf_3 2 rfl rfl)
theorem dX1_oddsOf_72 : decode cX1_oddsOf 72 = .ok (.ifCond .ne 6, 3) := dk_154 0 6 (dk_at dksX1_oddsOf_3 3 rfl rfl)
theorem dX1_oddsOf_75 : decode cX1_oddsOf 75 = .ok (.goto 63, 3) := dk_167 0 63 (dk_at dksX1_oddsOf_3 6 rfl rfl)
theorem dX1_oddsOf_78 : decode cX1_oddsOf 78 = .ok (.aload_n 0, 1) := dk_42 (dk_at dksX1_oddsOf_3 9 rfl rfl)
theorem dX1_oddsOf_79 : decode cX1_oddsOf 79 = .ok (.getfield 139, 3) := dk_180 0 139 (dk_at dksX1_oddsOf_3 10 rfl rfl)
theorem dX1_oddsOf_82 : decode cX1_oddsOf 82 = .ok (.iload_n 2, 1) := dk_28 (dk_at dksX1_oddsOf_3 13 rfl rfl)
theorem dX1_oddsOf_83 : decode cX1_oddsOf 83 = .ok (.iconst 1, 1) := dk_4 (dk_at dksX1_oddsOf_3 14 rfl rfl)
theorem dX1_oddsOf_84 : decode cX1_oddsOf 84 = .ok (.iadd, 1) := dk_96 (dk_at dksX1_oddsOf_3 15 rfl rfl)
theorem dX1_oddsOf_85 : decode cX1_oddsOf 85 = .ok (.aaload, 1) := dk_50 (dk_at dksX1_oddsOf_3 16 rfl rfl)
theorem dX1_oddsOf_86 : decode cX1_oddsOf 86 = .ok (.aload 4, 2) := dk_25 4 (dk_at dksX1_oddsOf_3 17 rfl rfl)
theorem dX1_oddsOf_88 : decode cX1_oddsOf 88 = .ok (.invokevirtual 354, 3) := dk_182 1 98 (dk_at dksX1_oddsOf_3 19 rfl rfl)
theorem dX1_oddsOf_91 : decode cX1_oddsOf 91 = .ok (.aload_n 0, 1) := dk_42 (dk_at dksX1_oddsOf_3 22 rfl rfl)
theorem dX1_oddsOf_92 : decode cX1_oddsOf 92 = .ok (.aload_n 0, 1) := dk_42 (dk_at dksX1_oddsOf_3 23 rfl rfl)
theorem dX1_oddsOf_93 : decode cX1_oddsOf 93 = .ok (.getfield 139, 3) := dk_180 0 139 (dk_at dksX1_oddsOf_4 0 rfl rfl)
theorem dX1_oddsOf_96 : decode cX1_oddsOf 96 = .ok (.iload_n 2, 1) := dk_28 (dk_at dksX1_oddsOf_4 3 rfl rfl)
theorem dX1_oddsOf_97 : decode cX1_oddsOf 97 = .ok (.iconst 1, 1) := dk_4 (dk_at dksX1_oddsOf_4 4 rfl rfl)
theorem dX1_oddsOf_98 : decode cX1_oddsOf 98 = .ok (.iadd, 1) := dk_96 (dk_at dksX1_oddsOf_4 5 rfl rfl)
theorem dX1_oddsOf_99 : decode cX1_oddsOf 99 = .ok (.aaload, 1) := dk_50 (dk_at dksX1_oddsOf_4 6 rfl rfl)
theorem dX1_oddsOf_100 : decode cX1_oddsOf 100 = .ok (.iload 8, 2) := dk_21 8 (dk_at dksX1_oddsOf_4 7 rfl rfl)
theorem dX1_oddsOf_102 : decode cX1_oddsOf 102 = .ok (.bipush 8, 2) := dk_16 8 (dk_at dksX1_oddsOf_4 9 rfl rfl)
theorem dX1_oddsOf_104 : decode cX1_oddsOf 104 = .ok (.if_icmp .ne 7, 3) := dk_160 0 7 (dk_at dksX1_oddsOf_4 11 rfl rfl)
theorem dX1_oddsOf_107 : decode cX1_oddsOf 107 = .ok (.iconst (-1), 1) := dk_2 (dk_at dksX1_oddsOf_4 14 rfl rfl)
theorem dX1_oddsOf_108 : decode cX1_oddsOf 108 = .ok (.goto 5, 3) := dk_167 0 5 (dk_at dksX1_oddsOf_4 15 rfl rfl)
theorem dX1_oddsOf_111 : decode cX1_oddsOf 111 = .ok (.iload 8, 2) := dk_21 8 (dk_at dksX1_oddsOf_4 18 rfl rfl)
theorem dX1_oddsOf_113 : decode cX1_oddsOf 113 = .ok (.invokevirtual 328, 3) := dk_182 1 72 (dk_at dksX1_oddsOf_4 20 rfl rfl)
theorem dX1_oddsOf_116 : decode cX1_oddsOf 116 = .ok (.lload 6, 2) := dk_22 6 (dk_at dksX1_oddsOf_5 0 rfl rfl)
theorem dX1_oddsOf_118 : decode cX1_oddsOf 118 = .ok (.aload 5, 2) := dk_25 5 (dk_at dksX1_oddsOf_5 2 rfl rfl)
theorem dX1_oddsOf_120 : decode cX1_oddsOf 120 = .ok (.iload 8, 2) := dk_21 8 (dk_at dksX1_oddsOf_5 4 rfl rfl)
theorem dX1_oddsOf_122 : decode cX1_oddsOf 122 = .ok (.laload, 1) := dk_47 (dk_at dksX1_oddsOf_5 6 rfl rfl)
theorem dX1_oddsOf_123 : decode cX1_oddsOf 123 = .ok (.aload_n 0, 1) := dk_42 (dk_at dksX1_oddsOf_5 7 rfl rfl)
theorem dX1_oddsOf_124 : decode cX1_oddsOf 124 = .ok (.iload_n 1, 1) := dk_27 (dk_at dksX1_oddsOf_5 8 rfl rfl)
theorem dX1_oddsOf_125 : decode cX1_oddsOf 125 = .ok (.iload_n 2, 1) := dk_28 (dk_at dksX1_oddsOf_5 9 rfl rfl)
theorem dX1_oddsOf_126 : decode cX1_oddsOf 126 = .ok (.iconst 1, 1) := dk_4 (dk_at dksX1_oddsOf_5 10 rfl rfl)
theorem dX1_oddsOf_127 : decode cX1_oddsOf 127 = .ok (.iadd, 1) := dk_96 (dk_at dksX1_oddsOf_5 11 rfl rfl)
theorem dX1_oddsOf_128 : decode cX1_oddsOf 128 = .ok (.iload_n 3, 1) := dk_29 (dk_at dksX1_oddsOf_5 12 rfl rfl)
theorem dX1_oddsOf_129 : decode cX1_oddsOf 129 = .ok (.iconst 1, 1) := dk_4 (dk_at dksX1_oddsOf_5 13 rfl rfl)
theorem dX1_oddsOf_130 : decode cX1_oddsOf 130 = .ok (.isub, 1) := dk_100 (dk_at dksX1_oddsOf_5 14 rfl rfl)
theorem dX1_oddsOf_131 : decode cX1_oddsOf 131 = .ok (.invokevirtual 503, 3) := dk_182 1 247 (dk_at dksX1_oddsOf_5 15 rfl rfl)
theorem dX1_oddsOf_134 : decode cX1_oddsOf 134 = .ok (.lmul, 1) := dk_105 (dk_at dksX1_oddsOf_5 18 rfl rfl)
theorem dX1_oddsOf_135 : decode cX1_oddsOf 135 = .ok (.ladd, 1) := dk_97 (dk_at dksX1_oddsOf_5 19 rfl rfl)
theorem dX1_oddsOf_136 : decode cX1_oddsOf 136 = .ok (.lstore 6, 2) := dk_55 6 (dk_at dksX1_oddsOf_5 20 rfl rfl)
theorem dX1_oddsOf_138 : decode cX1_oddsOf 138 = .ok (.iinc 8 1, 3) := dk_132 8 1 (dk_at dksX1_oddsOf_6 0 rfl rfl)
theorem dX1_oddsOf_141 : decode cX1_oddsOf 141 = .ok (.goto (-83), 3) := dk_167 255 173 (dk_at dksX1_oddsOf_6 3 rfl rfl)
theorem dX1_oddsOf_144 : decode cX1_oddsOf 144 = .ok (.lload 6, 2) := dk_22 6 (dk_at dksX1_oddsOf_6 6 rfl rfl)
theorem dX1_oddsOf_146 : decode cX1_oddsOf 146 = .ok (.lreturn, 1) := dk_173 (dk_at dksX1_oddsOf_6 8 rfl rfl)
def dkwX1_findLikely_10 : List UInt8 := [16, 8, 22, 4, 22, 6, 105, 80, 177]
abbrev dktX1_findLikely_10 : List UInt8 := dkwX1_findLikely_10 ++ []
def dkwX1_findLikely_9 : List UInt8 := [22, 6, 105, 80, 22, 4, 42, 180, 0, 11, 21, 8, 50, 180, 0, 214, 133, 105, 55, 4, 167, 255, 130, 44]
abbrev dktX1_findLikely_9 : List UInt8 := dkwX1_findLikely_9 ++ dktX1_findLikely_10
def dkwX1_findLikely_8 : List UInt8 := [109, 55, 6, 44, 21, 8, 22, 4, 16, 10, 42, 180, 0, 11, 21, 8, 50, 180, 0, 214, 100, 133, 105]
abbrev dktX1_findLikely_8 : List UInt8 := dkwX1_findLikely_8 ++ dktX1_findLikely_9
def dkwX1_findLikely_7 : List UInt8 := [21, 9, 54, 8, 132, 9, 1, 167, 255, 200, 29, 4, 21, 8, 120, 2, 130, 126, 62, 22, 6, 20, 1, 154]
abbrev dktX1_findLikely_7 : List UInt8 := dkwX1_findLikely_7 ++ dktX1_findLikely_8
def dkwX1_findLikely_6 : List UInt8 := [180, 0, 236, 21, 9, 46, 182, 1, 28, 42, 43, 180, 0, 236, 21, 8, 46, 182, 1, 28, 164, 0, 7]
abbrev dktX1_findLikely_6 : List UInt8 := dkwX1_findLikely_6 ++ dktX1_findLikely_7
def dkwX1_findLikely_5 : List UInt8 := [180, 0, 157, 162, 0, 53, 29, 21, 9, 184, 0, 171, 153, 0, 38, 21, 8, 2, 159, 0, 28, 42, 43]
abbrev dktX1_findLikely_5 : List UInt8 := dkwX1_findLikely_5 ++ dktX1_findLikely_6
def dkwX1_findLikely_4 : List UInt8 := [167, 255, 171, 10, 55, 4, 20, 1, 241, 55, 6, 29, 153, 0, 128, 2, 54, 8, 3, 54, 9, 21, 9, 42]
abbrev dktX1_findLikely_4 : List UInt8 := dkwX1_findLikely_4 ++ dktX1_findLikely_5
def dkwX1_findLikely_3 : List UInt8 := [180, 0, 236, 43, 180, 1, 59, 46, 182, 1, 28, 164, 0, 10, 29, 4, 21, 4, 120, 128, 62, 132, 4, 1]
abbrev dktX1_findLikely_3 : List UInt8 := dkwX1_findLikely_3 ++ dktX1_findLikely_4
def dkwX1_findLikely_2 : List UInt8 := [153, 0, 45, 43, 180, 1, 59, 2, 159, 0, 30, 42, 43, 180, 0, 236, 21, 4, 46, 182, 1, 28, 42, 43]
abbrev dktX1_findLikely_2 : List UInt8 := dkwX1_findLikely_2 ++ dktX1_findLikely_3
def dkwX1_findLikely_1 : List UInt8 := [21, 4, 184, 0, 171, 153, 0, 64, 21, 4, 43, 180, 1, 59, 159, 0, 55, 42, 43, 21, 4, 182, 1, 32]
abbrev dktX1_findLikely_1 : List UInt8 := dkwX1_findLikely_1 ++ dktX1_findLikely_2
def dkwX1_findLikely_0 : List UInt8 := [44, 9, 184, 1, 238, 3, 62, 3, 54, 4, 21, 4, 42, 180, 0, 157, 162, 0, 82, 43, 180, 0, 168]
abbrev dktX1_findLikely_0 : List UInt8 := dkwX1_findLikely_0 ++ dktX1_findLikely_1
theorem dksX1_findLikely_0 : cX1_findLikely.data.toList.drop 0 = dktX1_findLikely_0 := by decide +kernel
theorem dksX1_findLikely_1 : cX1_findLikely.data.toList.drop 23 = dktX1_findLikely_1 := dk_seg dksX1_findLikely_0 23 rfl rfl
theorem dksX1_findLikely_2 : cX1_findLikely.data.toList.drop 47 = dktX1_findLikely_2 := dk_seg dksX1_findLikely_1 24 rfl rfl
theorem dksX1_findLikely_3 : cX1_findLikely.data.toList.drop 71 = dktX1_findLikely_3 := dk_seg dksX1_findLikely_2 24 rfl rfl
theorem dksX1_findLikely_4 : cX1_findLikely.data.toList.drop 95 = dktX1_findLikely_4 := dk_seg dksX1_findLikely_3 24 rfl rfl
theorem dksX1_findLikely_5 : cX1_findLikely.data.toList.drop 119 = dktX1_findLikely_5 := dk_seg dksX1_findLikely_4 24 rfl rfl
theorem dksX1_findLikely_6 : cX1_findLikely.data.toList.drop 142 = dktX1_findLikely_6 := dk_seg dksX1_findLikely_5 23 rfl rfl
theorem dksX1_findLikely_7 : cX1_findLikely.data.toList.drop 165 = dktX1_findLikely_7 := dk_seg dksX1_findLikely_6 23 rfl rfl
theorem dksX1_findLikely_8 : cX1_findLikely.data.toList.drop 189 = dktX1_findLikely_8 := dk_seg dksX1_findLikely_7 24 rfl rfl
theorem dksX1_findLikely_9 : cX1_findLikely.data.toList.drop 212 = dktX1_findLikely_9 := dk_seg dksX1_findLikely_8 23 rfl rfl
theorem dksX1_findLikely_10 : cX1_findLikely.data.toList.drop 236 = dktX1_findLikely_10 := dk_seg dksX1_findLikely_9 24 rfl rfl
theorem dX1_findLikely_0 : decode cX1_findLikely 0 = .ok (.aload_n 2, 1) := dk_44 (dk_at dksX1_findLikely_0 0 rfl rfl)
theorem dX1_findLikely_1 : decode cX1_findLikely 1 = .ok (.lconst 0, 1) := dk_9 (dk_at dksX1_findLikely_0 1 rfl rfl)
theorem dX1_findLikely_2 : decode cX1_findLikely 2 = .ok (.invokestatic 494, 3) := dk_184 1 238 (dk_at dksX1_findLikely_0 2 rfl rfl)
theorem dX1_findLikely_5 : decode cX1_findLikely 5 = .ok (.iconst 0, 1) := dk_3 (dk_at dksX1_findLikely_0 5 rfl rfl)
theorem dX1_findLikely_6 : decode cX1_findLikely 6 = .ok (.istore_n 3, 1) := dk_62 (dk_at dksX1_findLikely_0 6 rfl rfl)
theorem dX1_findLikely_7 : decode cX1_findLikely 7 = .ok (.iconst 0, 1) := dk_3 (dk_at dksX1_findLikely_0 7 rfl rfl)
theorem dX1_findLikely_8 : decode cX1_findLikely 8 = .ok (.istore 4, 2) := dk_54 4 (dk_at dksX1_findLikely_0 8 rfl rfl)
theorem dX1_findLikely_10 : decode cX1_findLikely 10 = .ok (.iload 4, 2) := dk_21 4 (dk_at dksX1_findLikely_0 10 rfl rfl)
theorem dX1_findLikely_12 : decode cX1_findLikely 12 = .ok (.aload_n 0, 1) := dk_42 (dk_at dksX1_findLikely_0 12 rfl rfl)
theorem dX1_findLikely_13 : decode cX1_findLikely 13 = .ok (.getfield 157, 3) := dk_180 0 157 (dk_at dksX1_findLikely_0 13 rfl rfl)
theorem dX1_findLikely_16 : decode cX1_findLikely 16 = .ok (.if_icmp .ge 82, 3) := dk_162 0 82 (dk_at dksX1_findLikely_0 16 rfl rfl)
theorem dX1_findLikely_19 : decode cX1_findLikely 19 = .ok (.aload_n 1, 1) := dk_43 (dk_at dksX1_findLikely_0 19 rfl rfl)
theorem dX1_findLikely_20 : decode cX1_findLikely 20 = .ok (.getfield 168, 3) := dk_180 0 168 (dk_at dksX1_findLikely_0 20 rfl rfl)
theorem dX1_findLikely_23 : decode cX1_findLikely 23 = .ok (.iload 4, 2) := dk_21 4 (dk_at dksX1_findLikely_1 0 rfl rfl)
theorem dX1_findLikely_25 : decode cX1_findLikely 25 = .ok (.invokestatic 171, 3) := dk_184 0 171 (dk_at dksX1_findLikely_1 2 rfl rfl)
theorem dX1_findLikely_28 : decode cX1_findLikely 28 = .ok (.ifCond .eq 64, 3) := dk_153 0 64 (dk_at dksX1_findLikely_1 5 rfl rfl)
theorem dX1_findLikely_31 : decode cX1_findLikely 31 = .ok (.iload 4, 2) := dk_21 4 (dk_at dksX1_findLikely_1 8 rfl rfl)
theorem dX1_findLikely_33 : decode cX1_findLikely 33 = .ok (.aload_n 1, 1) := dk_43 (dk_at dksX1_findLikely_1 10 rfl rfl)
theorem dX1_findLikely_34 : decode cX1_findLikely 34 = .ok (.getfield 315, 3) := dk_180 1 59 (dk_at dksX1_findLikely_1 11 rfl rfl)
theorem dX1_findLikely_37 : decode cX1_findLikely 37 = .ok (.if_icmp .eq 55, 3) := dk_159 0 55 (dk_at dksX1_findLikely_1 14 rfl rfl)
theorem dX1_findLikely_40 : decode cX1_findLikely 40 = .ok (.aload_n 0, 1) := dk_42 (dk_at dksX1_findLikely_1 17 rfl rfl)
theorem dX1_findLikely_41 : decode cX1_findLikely 41 = .ok (.aload_n 1, 1) := dk_43 (dk_at dksX1_findLikely_1 18 rfl rfl)
theorem dX1_findLikely_42 : decode cX1_findLikely 42 = .ok (.iload 4, 2) := dk_21 4 (dk_at dksX1_findLikely_1 19 rfl rfl)
theorem dX1_findLikely_44 : decode cX1_findLikely 44 = .ok (.invokevirtual 288, 3) := dk_182 1 32 (dk_at dksX1_findLikely_1 21 rfl rfl)
theorem dX1_findLikely_47 : decode cX1_findLikely 47 = .ok (.ifCond .eq 45, 3) := dk_153 0 45 (dk_at dksX1_findLikely_2 0 rfl rfl)
theorem dX1_findLikely_50 : decode cX1_findLikely 50 = .ok (.aload_n 1, 1) := dk_43 (dk_at dksX1_findLikely_2 3 rfl rfl)
theorem dX1_findLikely_51 : decode cX1_findLikely 51 = .ok (.getfield 315, 3) := dk_180 1 59 (dk_at dksX1_findLikely_2 4 rfl rfl)
theorem dX1_findLikely_54 : decode cX1_findLikely 54 = .ok (.iconst (-1), 1) := dk_2 (dk_at dksX1_findLikely_2 7 rfl rfl)
theorem dX1_findLikely_55 : decode cX1_findLikely 55 = .ok (.if_icmp .eq 30, 3) := dk_159 0 30 (dk_at dksX1_findLikely_2 8 rfl rfl)
theorem dX1_findLikely_58 : decode cX1_findLikely 58 = .ok (.aload_n 0, 1) := dk_42 (dk_at dksX1_findLikely_2 11 rfl rfl)
theorem dX1_findLikely_59 : decode cX1_findLikely 59 = .ok (.aload_n 1, 1) := dk_43 (dk_at dksX1_findLikely_2 12 rfl rfl)
theorem dX1_findLikely_60 : decode cX1_findLikely 60 = .ok (.getfield 236, 3) := dk_180 0 236 (dk_at dksX1_findLikely_2 13 rfl rfl)
theorem dX1_findLikely_63 : decode cX1_findLikely 63 = .ok (.iload 4, 2) := dk_21 4 (dk_at dksX1_findLikely_2 16 rfl rfl)
theorem dX1_findLikely_65 : decode cX1_findLikely 65 = .ok (.iaload, 1) := dk_46 (dk_at dksX1_findLikely_2 18 rfl rfl)
theorem dX1_findLikely_66 : decode cX1_findLikely 66 = .ok (.invokevirtual 284, 3) := dk_182 1 28 (dk_at dksX1_findLikely_2 19 rfl rfl)
theorem dX1_findLikely_69 : decode cX1_findLikely 69 = .ok (.aload_n 0, 1) := dk_42 (dk_at dksX1_findLikely_2 22 rfl rfl)
theorem dX1_findLikely_70 : decode cX1_findLikely 70 = .ok (.aload_n 1, 1) := dk_43 (dk_at dksX1_findLikely_2 23 rfl rfl)
theorem dX1_findLikely_71 : decode cX1_findLikely 71 = .ok (.getfield 236, 3) := dk_180 0 236 (dk_at dksX1_findLikely_3 0 rfl rfl)
theorem dX1_findLikely_74 : decode cX1_findLikely 74 = .ok (.aload_n 1, 1) := dk_43 (dk_at dksX1_findLikely_3 3 rfl rfl)
theorem dX1_findLikely_75 : decode cX1_findLikely 75 = .ok (.getfield 315, 3) := dk_180 1 59 (dk_at dksX1_findLikely_3 4 rfl rfl)
theorem dX1_findLikely_78 : decode cX1_findLikely 78 = .ok (.iaload, 1) := dk_46 (dk_at dksX1_findLikely_3 7 rfl rfl)
theorem dX1_findLikely_79 : decode cX1_findLikely 79 = .ok (.invokevirtual 284, 3) := dk_182 1 28 (dk_at dksX1_findLikely_3 8 rfl rfl)
theorem dX1_findLikely_82 : decode cX1_findLikely 82 = .ok (.if_icmp .le 10, 3) := dk_164 0 10 (dk_at dksX1_findLikely_3 11 rfl rfl)
theorem dX1_findLikely_85 : decode cX1_findLikely 85 = .ok (.iload_n 3, 1) := dk_29 (dk_at dksX1_findLikely_3 14 rfl rfl)
theorem dX1_findLikely_86 : decode cX1_findLikely 86 = .ok (.iconst 1, 1) := dk_4 (dk_at dksX1_findLikely_3 15 rfl rfl)
theorem dX1_findLikely_87 : decode cX1_findLikely 87 = .ok (.iload 4, 2) := dk_21 4 (dk_at dksX1_findLikely_3 16 rfl rfl)
theorem dX1_findLikely_89 : decode cX1_findLikely 89 = .ok (.ishl, 1) := dk_120 (dk_at dksX1_findLikely_3 18 rfl rfl)
theorem dX1_findLikely_90 : decode cX1_findLikely 90 = .ok (.ior, 1) := dk_128 (dk_at dksX1_findLikely_3 19 rfl rfl)
theorem dX1_findLikely_91 : decode cX1_findLikely 91 = .ok (.istore_n 3, 1) := dk_62 (dk_at dksX1_findLikely_3 20 rfl rfl)
theorem dX1_findLikely_92 : decode cX1_findLikely 92 = .ok (.iinc 4 1, 3) := dk_132 4 1 (dk_at dksX1_findLikely_3 21 rfl rfl)
theorem dX1_findLikely_95 : decode cX1_findLikely 95 = .ok (.goto (-85), 3) := dk_167 255 171 (dk_at dksX1_findLikely_4 0 rfl rfl)
theorem dX1_findLikely_98 : decode cX1_findLikely 98 = .ok (.lconst 1, 1) := dk_10 (dk_at dksX1_findLikely_4 3 rfl rfl)
theorem dX1_findLikely_99 : decode cX1_findLikely 99 = .ok (.lstore 4, 2) := dk_55 4 (dk_at dksX1_findLikely_4 4 rfl rfl)
theorem dX1_findLikely_101 : decode cX1_findLikely 101 = .ok (.ldc2_w 497, 3) := dk_20 1 241 (dk_at dksX1_findLikely_4 6 rfl rfl)
theorem dX1_findLikely_104 : decode cX1_findLikely 104 = .ok (.lstore 6, 2) := dk_55 6 (dk_at dksX1_findLikely_4 9 rfl rfl)
theorem dX1_findLikely_106 : decode cX1_findLikely 106 = .ok (.iload_n 3, 1) := dk_29 (dk_at dksX1_findLikely_4 11 rfl rfl)
theorem dX1_findLikely_107 : decode cX1_findLikely 107 = .ok (.ifCond .eq 128, 3) := dk_153 0 128 (dk_at dksX1_findLikely_4 12 rfl rfl)
theorem dX1_findLikely_110 : decode cX1_findLikely 110 = .ok (.iconst (-1), 1) := dk_2 (dk_at dksX1_findLikely_4 15 rfl rfl)
theorem dX1_findLikely_111 : decode cX1_findLikely 111 = .ok (.istore 8, 2) := dk_54 8 (dk_at dksX1_findLikely_4 16 rfl rfl)
theorem dX1_findLikely_113 : decode cX1_findLikely 113 = .ok (.iconst 0, 1) := dk_3 (dk_at dksX1_findLikely_4 18 rfl rfl)
theorem dX1_findLikely_114 : decode cX1_findLikely 114 = .ok (.istore 9, 2) := dk_54 9 (dk_at dksX1_findLikely_4 19 rfl rfl)
theorem dX1_findLikely_116 : decode cX1_findLikely 116 = .ok (.iload 9, 2) := dk_21 9 (dk_at dksX1_findLikely_4 21 rfl rfl)
theorem dX1_findLikely_118 : decode cX1_findLikely 118 = .ok (.aload_n 0, 1) := dk_42 (dk_at dksX1_findLikely_4 23 rfl rfl)
theorem dX1_findLikely_119 : decode cX1_findLikely 119 = .ok (.getfield 157, 3) := dk_180 0 157 (dk_at dksX1_findLikely_5 0 rfl rfl)
theorem dX1_findLikely_122 : decode cX1_findLikely 122 = .ok (.if_icmp .ge 53, 3) := dk_162 0 53 (dk_at dksX1_findLikely_5 3 rfl rfl)
theorem dX1_findLikely_125 : decode cX1_findLikely 125 = .ok (.iload_n 3, 1) := dk_29 (dk_at dksX1_findLikely_5 6 rfl rfl)
theorem dX1_findLikely_126 : decode cX1_findLikely 126 = .ok (.iload 9, 2) := dk_21 9 (dk_at dksX1_findLikely_5 7 rfl rfl)
theorem dX1_findLikely_128 : decode cX1_findLikely 128 = .ok (.invokestatic 171, 3) := dk_184 0 171 (dk_at dksX1_findLikely_5 9 rfl rfl)
theorem dX1_findLikely_131 : decode cX1_findLikely 131 = .ok (.ifCond .eq 38, 3) := dk_153 0 38 (dk_at dksX1_findLikely_5 12 rfl rfl)
theorem dX1_findLikely_134 : decode cX1_findLikely 134 = .ok (.iload 8, 2) := dk_21 8 (dk_at dksX1_findLikely_5 15 rfl rfl)
theorem dX1_findLikely_136 : decode cX1_findLikely 136 = .ok (.iconst (-1), 1) := dk_2 (dk_at dksX1_findLikely_5 17 rfl rfl)
theorem dX1_findLikely_137 : decode cX1_findLikely 137 = .ok (.if_icmp .eq 28, 3) := dk_159 0 28 (dk_at dksX1_findLikely_5 18 rfl rfl)
theorem dX1_findLikely_140 : decode cX1_findLikely 140 = .ok (.aload_n 0, 1) := dk_42 (dk_at dksX1_findLikely_5 21 rfl rfl)
theorem dX1_findLikely_141 : decode cX1_findLikely 141 = .ok (.aload_n 1, 1) := dk_43 (dk_at dksX1_findLikely_5 22 rfl rfl)
theorem dX1_findLikely_142 : decode cX1_findLikely 142 = .ok (.getfield 236, 3) := dk_180 0 236 (dk_at dksX1_findLikely_6 0 rfl rfl)
theorem dX1_findLikely_145 : decode cX1_findLikely 145 = .ok (.iload 9, 2) := dk_21 9 (dk_at dksX1_findLikely_6 3 rfl rfl)
theorem dX1_findLikely_147 : decode cX1_findLikely 147 = .ok (.iaload, 1) := dk_46 (dk_at dksX1_findLikely_6 5 rfl rfl)
theorem dX1_findLikely_148 : decode cX1_findLikely 148 = .ok (.invokevirtual 284, 3) := dk_182 1 28 (dk_at dksX1_findLikely_6 6 rfl rfl)
theorem dX1_findLikely_151 : decode cX1_findLikely 151 = .ok (.aload_n 0, 1) := dk_42 (dk_at dksX1_findLikely_6 9 rfl rfl)
theorem dX1_findLikely_152 : decode cX1_findLikely 152 = .ok (.aload_n 1, 1) := dk_43 (dk_at dksX1_findLikely_6 10 rfl rfl)
theorem dX1_findLikely_153 : decode cX1_findLikely 153 = .ok (.getfield 236, 3) := dk_180 0 236 (dk_at dksX1_findLikely_6 11 rfl rfl)
theorem dX1_findLikely_156 : decode cX1_findLikely 156 = .ok (.iload 8, 2) := dk_21 8 (dk_at dksX1_findLikely_6 14 rfl rfl)
theorem dX1_findLikely_158 : decode cX1_findLikely 158 = .ok (.iaload, 1) := dk_46 (dk_at dksX1_findLikely_6 16 rfl rfl)
theorem dX1_findLikely_159 : decode cX1_findLikely 159 = .ok (.invokevirtual 284, 3) := dk_182 1 28 (dk_at dksX1_findLikely_6 17 rfl rfl)
theorem dX1_findLikely_162 : decode cX1_findLikely 162 = .ok (.if_icmp .le 7, 3) := dk_164 0 7 (dk_at dksX1_findLikely_6 20 rfl rfl)
theorem dX1_findLikely_165 : decode cX1_findLikely 165 = .ok (.iload 9, 2) := dk_21 9 (dk_at dksX1_findLikely_7 0 rfl rfl)
theorem dX1_findLikely_167 : decode cX1_findLikely 167 = .ok (.istore 8, 2) := dk_54 8 (dk_at dksX1_findLikely_7 2 rfl rfl)
theorem dX1_findLikely_169 : decode cX1_findLikely 169 = .ok (.iinc 9 1, 3) := dk_132 9 1 (dk_at dksX1_findLikely_7 4 rfl rfl)
theorem dX1_findLikely_172 : decode cX1_findLikely 172 = .ok (.goto (-56), 3) := dk_167 255 200 (dk_at dksX1_findLikely_7 7 rfl rfl)
theorem dX1_findLikely_175 : decode cX1_findLikely 175 = .ok (.iload_n 3, 1) := dk_29 (dk_at dksX1_findLikely_7 10 rfl rfl)
theorem dX1_findLikely_176 : decode cX1_findLikely 176 = .ok (.iconst 1, 1) := dk_4 (dk_at dksX1_findLikely_7 11 rfl rfl)
theorem dX1_findLikely_177 : decode cX1_findLikely 177 = .ok (.iload 8, 2) := dk_21 8 (dk_at dksX1_findLikely_7 12 rfl rfl)
theorem dX1_findLikely_179 : decode cX1_findLikely 179 = .ok (.ishl, 1) := dk_120 (dk_at dksX1_findLikely_7 14 rfl rfl)
theorem dX1_findLikely_180 : decode cX1_findLikely 180 = .ok (.iconst (-1), 1) := dk_2 (dk_at dksX1_findLikely_7 15 rfl rfl)
theorem dX1_findLikely_181 : decode cX1_findLikely 181 = .ok (.ixor, 1) := dk_130 (dk_at dksX1_findLikely_7 16 rfl rfl)
theorem dX1_findLikely_182 : decode cX1_findLikely 182 = .ok (.iand, 1) := dk_126 (dk_at dksX1_findLikely_7 17 rfl rfl)
theorem dX1_findLikely_183 : decode cX1_findLikely 183 = .ok (.istore_n 3, 1) := dk_62 (dk_at dksX1_findLikely_7 18 rfl rfl)
theorem dX1_findLikely_184 : decode cX1_findLikely 184 = .ok (.lload 6, 2) := dk_22 6 (dk_at dksX1_findLikely_7 19 rfl rfl)
theorem dX1_findLikely_186 : decode cX1_findLikely 186 = .ok (.ldc2_w 410, 3) := dk_20 1 154 (dk_at dksX1_findLikely_7 21 rfl rfl)
theorem dX1_findLikely_189 : decode cX1_findLikely 189 = .ok (.ldiv, 1) := dk_109 (dk_at dksX1_findLikely_8 0 rfl rfl)
theorem dX1_findLikely_190 : decode cX1_findLikely 190 = .ok (.lstore 6, 2) := dk_55 6 (dk_at dksX1_findLikely_8 1 rfl rfl)
theorem dX1_findLikely_192 : decode cX1_findLikely 192 = .ok (.aload_n 2, 1) := dk_44 (dk_at dksX1_findLikely_8 3 rfl rfl)
theorem dX1_findLikely_193 : decode cX1_findLikely 193 = .ok (.iload 8, 2) := dk_21 8 (dk_at dksX1_findLikely_8 4 rfl rfl)
theorem dX1_findLikely_195 : decode cX1_findLikely 195 = .ok (.lload 4, 2) := dk_22 4 (dk_at dksX1_findLikely_8 6 rfl rfl)
theorem dX1_findLikely_197 : decode cX1_findLikely 197 = .ok (.bipush 10, 2) := dk_16 10 (dk_at dksX1_findLikely_8 8 rfl rfl)
theorem dX1_findLikely_199 : decode cX1_findLikely 199 = .ok (.aload_n 0, 1) := dk_42 (dk_at dksX1_findLikely_8 10 rfl rfl)
theorem dX1_findLikely_200 : decode cX1_findLikely 200 = .ok (.getfield 11, 3) := dk_180 0 11 (dk_at dksX1_findLikely_8 11 rfl rfl)
theorem dX1_findLikely_203 : decode cX1_findLikely 203 = .ok (.iload 8, 2) := dk_21 8 (dk_at dksX1_findLikely_8 14 rfl rfl)
theorem dX1_findLikely_205 : decode cX1_findLikely 205 = .ok (.aaload, 1) := dk_50 (dk_at dksX1_findLikely_8 16 rfl rfl)
theorem dX1_findLikely_206 : decode cX1_findLikely 206 = .ok (.getfield 214, 3) := dk_180 0 214 (dk_at dksX1_findLikely_8 17 rfl rfl)
theorem dX1_findLikely_209 : decode cX1_findLikely 209 = .ok (.isub, 1) := dk_100 (dk_at dksX1_findLikely_8 20 rfl rfl)
theorem dX1_findLikely_210 : decode cX1_findLikely 210 = .ok (.i2l, 1) := dk_133 (dk_at dksX1_findLikely_8 21 rfl rfl)
theorem dX1_findLikely_211 : decode cX1_findLikely 211 = .ok (.lmul, 1) := dk_105 (dk_at dksX1_findLikely_8 22 rfl rfl)
theorem dX1_findLikely_212 : decode cX1_findLikely 212 = .ok (.lload 6, 2) := dk_22 6 (dk_at dksX1_findLikely_9 0 rfl rfl)
theorem dX1_findLikely_214 : decode cX1_findLikely 214 = .ok (.lmul, 1) := dk_105 (dk_at dksX1_findLikely_9 2 rfl rfl)
theorem dX1_findLikely_215 : decode cX1_findLikely 215 = .ok (.lastore, 1) := dk_80 (dk_at dksX1_findLikely_9 3 rfl rfl)
theorem dX1_findLikely_216 : decode cX1_findLikely 216 = .ok (.lload 4, 2) := dk_22 4 (dk_at dksX1_findLikely_9 4 rfl rfl)
theorem dX1_findLikely_218 : decode cX1_findLikely 218 = .ok (.aload_n 0, 1) := dk_42 (dk_at dksX1_findLikely_9 6 rfl rfl)
theorem dX1_findLikely_219 : decode cX1_findLikely 219 = .ok (.getfield 11, 3) := dk_180 0 11 (dk_at dksX1_findLikely_9 7 rfl rfl)
theorem dX1_findLikely_222 : decode cX1_findLikely 222 = .ok (.iload 8, 2) := dk_21 8 (dk_at dksX1_findLikely_9 10 rfl rfl)
theorem dX1_findLikely_224 : decode cX1_findLikely 224 = .ok (.aaload, 1) := dk_50 (dk_at dksX1_findLikely_9 12 rfl rfl)
theorem dX1_findLikely_225 : decode cX1_findLikely 225 = .ok (.getfield 214, 3) := dk_180 0 214 (dk_at dksX1_findLikely_9 13 rfl rfl)
theorem dX1_findLikely_228 : decode cX1_findLikely 228 = .ok (.i2l, 1) := dk_133 (dk_at dksX1_findLikely_9 16 rfl rfl)
theorem dX1_findLikely_229 : decode cX1_findLikely 229 = .ok (.lmul, 1) := dk_105 (dk_at dksX1_findLikely_9 17 rfl rfl)
theorem dX1_findLikely_230 : decode cX1_findLikely 230 = .ok (.lstore 4, 2) := dk_55 4 (dk_at dksX1_findLikely_9 18 rfl rfl)
theorem dX1_findLikely_232 : decode cX1_findLikely 232 = .ok (.goto (-126), 3) := dk_167 255 130 (dk_at dksX1_findLikely_9 20 rfl rfl)
theorem dX1_findLikely_235 : decode cX1_findLikely 235 = .ok (.aload_n 2, 1) := dk_44 (dk_at dksX1_findLikely_9 23 rfl rfl)
theorem dX1_findLikely_236 : decode cX1_findLikely 236 = .ok (.bipush 8, 2) := dk_16 8 (dk_at dksX1_findLikely_10 0 rfl rfl)
theorem dX1_findLikely_238 : decode cX1_findLikely 238 = .ok (.lload 4, 2) := dk_22 4 (dk_at dksX1_findLikely_10 2 rfl rfl)
theorem dX1_findLikely_240 : decode cX1_findLikely 240 = .ok (.lload 6, 2) := dk_22 6 (dk_at dksX1_findLikely_10 4 rfl rfl)
theorem dX1_findLikely_242 : decode cX1_findLikely 242 = .ok (.lmul, 1) := dk_105 (dk_at dksX1_findLikely_10 6 rfl rfl)
theorem dX1_findLikely_243 : decode cX1_findLikely 243 = .ok (.lastore, 1) := dk_80 (dk_at dksX1_findLikely_10 7 rfl rfl)
theorem dX1_findLikely_244 : decode cX1_findLikely 244 = .ok (.return_, 1) := dk_177 (dk_at dksX1_findLikely_10 8 rfl rfl)
def dkwX1_tellPart_0 : List UInt8 := [31, 33, 184, 1, 251, 55, 5, 42, 31, 22, 5, 109, 182, 1, 111, 42, 33, 22, 5, 109, 182, 1, 111, 177]
abbrev dktX1_tellPart_0 : List UInt8 := dkwX1_tellPart_0 ++ []
theorem dksX1_tellPart_0 : cX1_tellPart.data.toList.drop 0 = dktX1_tellPart_0 := by decide +kernel
theorem dX1_tellPart_0 : decode cX1_tellPart 0 = .ok (.lload_n 1, 1) := dk_31 (dk_at dksX1_tellPart_0 0 rfl rfl)
theorem dX1_tellPart_1 : decode cX1_tellPart 1 = .ok (.lload_n 3, 1) := dk_33 (dk_at dksX1_tellPart_0 1 rfl rfl)
theorem dX1_tellPart_2 : decode cX1_tellPart 2 = .ok (.invokestatic 507, 3) := dk_184 1 251 (dk_at dksX1_tellPart_0 2 rfl rfl)
theorem dX1_tellPart_5 : decode cX1_tellPart 5 = .ok (.lstore 5, 2) := dk_55 5 (dk_at dksX1_tellPart_0 5 rfl rfl)
theorem dX1_tellPart_7 : decode cX1_tellPart 7 = .ok (.aload_n 0, 1) := dk_42 (dk_at dksX1_tellPart_0 7 rfl rfl)
theorem dX1_tellPart_8 : decode cX1_tellPart 8 = .ok (.lload_n 1, 1) := dk_31 (dk_at dksX1_tellPart_0 8 rfl rfl)
theorem dX1_tellPart_9 : decode cX1_tellPart 9 = .ok (.lload 5, 2) := dk_22 5 (dk_at dksX1_tellPart_0 9 rfl rfl)
theorem dX1_tellPart_11 : decode cX1_tellPart 11 = .ok (.ldiv, 1) := dk_109 (dk_at dksX1_tellPart_0 11 rfl rfl)
theorem dX1_tellPart_12 : decode cX1_tellPart 12 = .ok (.invokevirtual 367, 3) := dk_182 1 111 (dk_at dksX1_tellPart_0 12 rfl rfl)
theorem dX1_tellPart_15 : decode cX1_tellPart 15 = .ok (.aload_n 0, 1) := dk_42 (dk_at dksX1_tellPart_0 15 rfl rfl)
theorem dX1_tellPart_16 : decode cX1_tellPart 16 = .ok (.lload_n 3, 1) := dk_33 (dk_at dksX1_tellPart_0 16 rfl rfl)
theorem dX1_tellPart_17 : decode cX1_tellPart 17 = .ok (.lload 5, 2) := dk_22 5 (dk_at dksX1_tellPart_0 17 rfl rfl)
theorem dX1_tellPart_19 : decode cX1_tellPart 19 = .ok (.ldiv, 1) := dk_109 (dk_at dksX1_tellPart_0 19 rfl rfl)
theorem dX1_tellPart_20 : decode cX1_tellPart 20 = .ok (.invokevirtual 367, 3) := dk_182 1 111 (dk_at dksX1_tellPart_0 20 rfl rfl)
theorem dX1_tellPart_23 : decode cX1_tellPart 23 = .ok (.return_, 1) := dk_177 (dk_at dksX1_tellPart_0 23 rfl rfl)
def dkwX1_common_0 : List UInt8 := [32, 9, 148, 154, 0, 7, 30, 167, 0, 10, 32, 30, 32, 113, 184, 1, 251, 173]
abbrev dktX1_common_0 : List UInt8 := dkwX1_common_0 ++ []
theorem dksX1_common_0 : cX1_common.data.toList.drop 0 = dktX1_common_0 := by decide +kernel
theorem dX1_common_0 : decode cX1_common 0 = .ok (.lload_n 2, 1) := dk_32 (dk_at dksX1_common_0 0 rfl rfl)
theorem dX1_common_1 : decode cX1_common 1 = .ok (.lconst 0, 1) := dk_9 (dk_at dksX1_common_0 1 rfl rfl)
theorem dX1_common_2 : decode cX1_common 2 = .ok (.lcmp, 1) := dk_148 (dk_at dksX1_common_0 2 rfl rfl)
theorem dX1_common_3 : decode cX1_common 3 = .ok (.ifCond .ne 7, 3) := dk_154 0 7 (dk_at dksX1_common_0 3 rfl rfl)
theorem dX1_common_6 : decode cX1_common 6 = .ok (.lload_n 0, 1) := dk_30 (dk_at dksX1_common_0 6 rfl rfl)
theorem dX1_common_7 : decode cX1_common 7 = .ok (.goto 10, 3) := dk_167 0 10 (dk_at dksX1_common_0 7 rfl rfl)
theorem dX1_common_10 : decode cX1_common 10 = .ok (.lload_n 2, 1) := dk_32 (dk_at dksX1_common_0 10 rfl rfl)
theorem dX1_common_11 : decode cX1_common 11 = .ok (.lload_n 0, 1) := dk_30 (dk_at dksX1_common_0 11 rfl rfl)
theorem dX1_common_12 : decode cX1_common 12 = .ok (.lload_n 2, 1) := dk_32 (dk_at dksX1_common_0 12 rfl rfl)
theorem dX1_common_13 : decode cX1_common 13 = .ok (.lrem, 1) := dk_113 (dk_at dksX1_common_0 13 rfl rfl)
theorem dX1_common_14 : decode cX1_common 14 = .ok (.invokestatic 507, 3) := dk_184 1 251 (dk_at dksX1_common_0 14 rfl rfl)
theorem dX1_common_17 : decode cX1_common 17 = .ok (.lreturn, 1) := dk_173 (dk_at dksX1_common_0 17 rfl rfl)
def dkwX1_likely_5 : List UInt8 := [172]
abbrev dktX1_likely_5 : List UInt8 := dkwX1_likely_5 ++ []
def dkwX1_likely_4 : List UInt8 := [62, 22, 5, 64, 132, 4, 1, 167, 255, 197, 42, 3, 181, 0, 154, 42, 31, 20, 1, 241, 182, 2, 3, 29]
abbrev dktX1_likely_4 : List UInt8 := dkwX1_likely_4 ++ dktX1_likely_5
def dkwX1_likely_3 : List UInt8 := [167, 0, 10, 42, 180, 0, 142, 21, 4, 47, 55, 5, 22, 5, 31, 148, 157, 0, 6, 167, 0, 9, 21, 4]
abbrev dktX1_likely_3 : List UInt8 := dkwX1_likely_3 ++ dktX1_likely_4
def dkwX1_likely_2 : List UInt8 := [162, 0, 56, 21, 4, 42, 180, 0, 18, 180, 1, 59, 160, 0, 13, 42, 180, 0, 142, 16, 8, 47]
abbrev dktX1_likely_2 : List UInt8 := dkwX1_likely_2 ++ dktX1_likely_3
def dkwX1_likely_1 : List UInt8 := [180, 0, 142, 16, 8, 47, 167, 0, 4, 9, 64, 2, 62, 3, 54, 4, 21, 4, 42, 180, 0, 157]
abbrev dktX1_likely_1 : List UInt8 := dkwX1_likely_1 ++ dktX1_likely_2
def dkwX1_likely_0 : List UInt8 := [42, 42, 180, 0, 18, 42, 180, 0, 142, 182, 1, 243, 42, 180, 0, 18, 180, 1, 59, 2, 160, 0, 13, 42]
abbrev dktX1_likely_0 : List UInt8 := dkwX1_likely_0 ++ dktX1_likely_1
theorem dksX1_likely_0 : cX1_likely.data.toList.drop 0 = dktX1_likely_0 := by decide +kernel
theorem dksX1_likely_1 : cX1_likely.data.toList.drop 24 = dktX1_likely_1 := dk_seg dksX1_likely_0 24 rfl rfl
theorem dksX1_likely_2 : cX1_likely.data.toList.drop 46 = dktX1_likely_2 := dk_seg dksX1_likely_1 22 rfl rfl
theorem dksX1_likely_3 : cX1_likely.data.toList.drop 68 = dktX1_likely_3 := dk_seg dksX1_likely_2 22 rfl rfl
theorem dksX1_likely_4 : cX1_likely.data.toList.drop 92 = dktX1_likely_4 := dk_seg dksX1_likely_3 24 rfl rfl
theorem dksX1_likely_5 : cX1_likely.data.toList.drop 116 = dktX1_likely_5 := dk_seg dksX1_likely_4 24 rfl rfl
theorem dX1_likely_0 : decode cX1_likely 0 = .ok (.aload_n 0, 1) := dk_42 (dk_at dksX1_likely_0 0 rfl rfl)
theorem dX1_likely_1 : decode cX1_likely 1 = .ok (.aload_n 0, 1) := dk_42 (dk_at dksX1_likely_0 1 rfl rfl)
theorem dX1_likely_2 : decode cX1_likely 2 = .ok (.getfield 18, 3) := dk_180 0 18 (dk_at dksX1_likely_0 2 rfl rfl)
theorem dX1_likely_5 : decode cX1_likely 5 = .ok (.aload_n 0, 1) := dk_42 (dk_at dksX1_likely_0 5 rfl rfl)
theorem dX1_likely_6 : decode cX1_likely 6 = .ok (.getfield 142, 3) := dk_180 0 142 (dk_at dksX1_likely_0 6 rfl rfl)
theorem dX1_likely_9 : decode cX1_likely 9 = .ok (.invokevirtual 499, 3) := dk_182 1 243 (dk_at dksX1_likely_0 9 rfl rfl)
theorem dX1_likely_12 : decode cX1_likely 12 = .ok (.aload_n 0, 1) := dk_42 (dk_at dksX1_likely_0 12 rfl rfl)
theorem dX1_likely_13 : decode cX1_likely 13 = .ok (.getfield 18, 3) := dk_180 0 18 (dk_at dksX1_likely_0 13 rfl rfl)
theorem dX1_likely_16 : decode cX1_likely 16 = .ok (.getfield 315, 3) := dk_180 1 59 (dk_at dksX1_likely_0 16 rfl rfl)
theorem dX1_likely_19 : decode cX1_likely 19 = .ok (.iconst (-1), 1) := dk_2 (dk_at dksX1_likely_0 19 rfl rfl)
theorem dX1_likely_20 : decode cX1_likely 20 = .ok (.if_icmp .ne 13, 3) := dk_160 0 13 (dk_at dksX1_likely_0 20 rfl rfl)
theorem dX1_likely_23 : decode cX1_likely 23 = .ok (.aload_n 0, 1) := dk_42 (dk_at dksX1_likely_0 23 rfl rfl)
theorem dX1_likely_24 : decode cX1_likely 24 = .ok (.getfield 142, 3) := dk_180 0 142 (dk_at dksX1_likely_1 0 rfl rfl)
theorem dX1_likely_27 : decode cX1_likely 27 = .ok (.bipush 8, 2) := dk_16 8 (dk_at dksX1_likely_1 3 rfl rfl)
theorem dX1_likely_29 : decode cX1_likely 29 = .ok (.laload, 1) := dk_47 (dk_at dksX1_likely_1 5 rfl rfl)
theorem dX1_likely_30 : decode cX1_likely 30 = .ok (.goto 4, 3) := dk_167 0 4 (dk_at dksX1_likely_1 6 rfl rfl)
theorem dX1_likely_33 : decode cX1_likely 33 = .ok (.lconst 0, 1) := dk_9 (dk_at dksX1_likely_1 9 rfl rfl)
theorem dX1_likely_34 : decode cX1_likely 34 = .ok (.lstore_n 1, 1) := dk_64 (dk_at dksX1_likely_1 10 rfl rfl)
theorem dX1_likely_35 : decode cX1_likely 35 = .ok (.iconst (-1), 1) := dk_2 (dk_at dksX1_likely_1 11 rfl rfl)
theorem dX1_likely_36 : decode cX1_likely 36 = .ok (.istore_n 3, 1) := dk_62 (dk_at dksX1_likely_1 12 rfl rfl)
theorem dX1_likely_37 : decode cX1_likely 37 = .ok (.iconst 0, 1) := dk_3 (dk_at dksX1_likely_1 13 rfl rfl)
theorem dX1_likely_38 : decode cX1_likely 38 = .ok (.istore 4, 2) := dk_54 4 (dk_at dksX1_likely_1 14 rfl rfl)
theorem dX1_likely_40 : decode cX1_likely 40 = .ok (.iload 4, 2) := dk_21 4 (dk_at dksX1_likely_1 16 rfl rfl)
theorem dX1_likely_42 : decode cX1_likely 42 = .ok (.aload_n 0, 1) := dk_42 (dk_at dksX1_likely_1 18 rfl rfl)
theorem dX1_likely_43 : decode cX1_likely 43 = .ok (.getfield 157, 3) := dk_180 0 157 (dk_at dksX1_likely_1 19 rfl rfl)
theorem dX1_likely_46 : decode cX1_likely 46 = .ok (.if_icmp .ge 56, 3) := dk_162 0 56 (dk_at dksX1_likely_2 0 rfl rfl)
theorem dX1_likely_49 : decode cX1_likely 49 = .ok (.iload 4, 2) := dk_21 4 (dk_at dksX1_likely_2 3 rfl rfl)
theorem dX1_likely_51 : decode cX1_likely 51 = .ok (.aload_n 0, 1) := dk_42 (dk_at dksX1_likely_2 5 rfl rfl)
theorem dX1_likely_52 : decode cX1_likely 52 = .ok (.getfield 18, 3) := dk_180 0 18 (dk_at dksX1_likely_2 6 rfl rfl)
theorem dX1_likely_55 : decode cX1_likely 55 = .ok (.getfield 315, 3) := dk_180 1 59 (dk_at dksX1_likely_2 9 rfl rfl)
theorem dX1_likely_58 : decode cX1_likely 58 = .ok (.if_icmp .ne 13, 3) := dk_160 0 13 (dk_at dksX1_likely_2 12 rfl rfl)
theorem dX1_likely_61 : decode cX1_likely 61 = .ok (.aload_n 0, 1) := dk_42 (dk_at dksX1_likely_2 15 rfl rfl)
theorem dX1_likely_62 : decode cX1_likely 62 = .ok (.getfield 142, 3) := dk_180 0 142 (dk_at dksX1_likely_2 16 rfl rfl)
theorem dX1_likely_65 : decode cX1_likely 65 = .ok (.bipush 8, 2) := dk_16 8 (dk_at dksX1_likely_2 19 rfl rfl)
theorem dX1_likely_67 : decode cX1_likely 67 = .ok (.laload, 1) := dk_47 (dk_at dksX1_likely_2 21 rfl rfl)
theorem dX1_likely_68 : decode cX1_likely 68 = .ok (.goto 10, 3) := dk_167 0 10 (dk_at dksX1_likely_3 0 rfl rfl)
theorem dX1_likely_71 : decode cX1_likely 71 = .ok (.aload_n 0, 1) := dk_42 (dk_at dksX1_likely_3 3 rfl rfl)
theorem dX1_likely_72 : decode cX1_likely 72 = .ok (.getfield 142, 3) := dk_180 0 142 (dk_at dksX1_likely_3 4 rfl rfl)
theorem dX1_likely_75 : decode cX1_likely 75 = .ok (.iload 4, 2) := dk_21 4 (dk_at dksX1_likely_3 7 rfl rfl)
theorem dX1_likely_77 : decode cX1_likely 77 = .ok (.laload, 1) := dk_47 (dk_at dksX1_likely_3 9 rfl rfl)
theorem dX1_likely_78 : decode cX1_likely 78 = .ok (.lstore 5, 2) := dk_55 5 (dk_at dksX1_likely_3 10 rfl rfl)
theorem dX1_likely_80 : decode cX1_likely 80 = .ok (.lload 5, 2) := dk_22 5 (dk_at dksX1_likely_3 12 rfl rfl)
theorem dX1_likely_82 : decode cX1_likely 82 = .ok (.lload_n 1, 1) := dk_31 (dk_at dksX1_likely_3 14 rfl rfl)
theorem dX1_likely_83 : decode cX1_likely 83 = .ok (.lcmp, 1) := dk_148 (dk_at dksX1_likely_3 15 rfl rfl)
theorem dX1_likely_84 : decode cX1_likely 84 = .ok (.ifCond .gt 6, 3) := dk_157 0 6 (dk_at dksX1_likely_3 16 rfl rfl)
theorem dX1_likely_87 : decode cX1_likely 87 = .ok (.goto 9, 3) := dk_167 0 9 (dk_at dksX1_likely_3 19 rfl rfl)
theorem dX1_likely_90 : decode cX1_likely 90 = .ok (.iload 4, 2) := dk_21 4 (dk_at dksX1_likely_3 22 rfl rfl)
theorem dX1_likely_92 : decode cX1_likely 92 = .ok (.istore_n 3, 1) := dk_62 (dk_at dksX1_likely_4 0 rfl rfl)
theorem dX1_likely_93 : decode cX1_likely 93 = .ok (.lload 5, 2) := dk_22 5 (dk_at dksX1_likely_4 1 rfl rfl)
theorem dX1_likely_95 : decode cX1_likely 95 = .ok (.lstore_n 1, 1) := dk_64 (dk_at dksX1_likely_4 3 rfl rfl)
theorem dX1_likely_96 : decode cX1_likely 96 = .ok (.iinc 4 1, 3) := dk_132 4 1 (dk_at dksX1_likely_4 4 rfl rfl)
theorem dX1_likely_99 : decode cX1_likely 99 = .ok (.goto (-59), 3) := dk_167 255 197 (dk_at dksX1_likely_4 7 rfl rfl)
theorem dX1_likely_102 : decode cX1_likely 102 = .ok (.aload_n 0, 1) := dk_42 (dk_at dksX1_likely_4 10 rfl rfl)
theorem dX1_likely_103 : decode cX1_likely 103 = .ok (.iconst 0, 1) := dk_3 (dk_at dksX1_likely_4 11 rfl rfl)
theorem dX1_likely_104 : decode cX1_likely 104 = .ok (.putfield 154, 3) := dk_181 0 154 (dk_at dksX1_likely_4 12 rfl rfl)
theorem dX1_likely_107 : decode cX1_likely 107 = .ok (.aload_n 0, 1) := dk_42 (dk_at dksX1_likely_4 15 rfl rfl)
theorem dX1_likely_108 : decode cX1_likely 108 = .ok (.lload_n 1, 1) := dk_31 (dk_at dksX1_likely_4 16 rfl rfl)
theorem dX1_likely_109 : decode cX1_likely 109 = .ok (.ldc2_w 497, 3) := dk_20 1 241 (dk_at dksX1_likely_4 17 rfl rfl)
theorem dX1_likely_112 : decode cX1_likely 112 = .ok (.invokevirtual 515, 3) := dk_182 2 3 (dk_at dksX1_likely_4 20 rfl rfl)
theorem dX1_likely_115 : decode cX1_likely 115 = .ok (.iload_n 3, 1) := dk_29 (dk_at dksX1_likely_4 23 rfl rfl)
theorem dX1_likely_116 : decode cX1_likely 116 = .ok (.ireturn, 1) := dk_172 (dk_at dksX1_likely_5 0 rfl rfl)
def dkwX1_keep_1 : List UInt8 := [183, 2, 7, 83, 4, 172]
abbrev dktX1_keep_1 : List UInt8 := dkwX1_keep_1 ++ []
def dkwX1_keep_0 : List UInt8 := [27, 133, 9, 20, 1, 255, 184, 0, 160, 154, 0, 5, 3, 172, 42, 180, 0, 150, 27, 187, 0, 148, 89, 42]
abbrev dktX1_keep_0 : List UInt8 := dkwX1_keep_0 ++ dktX1_keep_1
theorem dksX1_keep_0 : cX1_keep.data.toList.drop 0 = dktX1_keep_0 := by decide +kernel
theorem dksX1_keep_1 : cX1_keep.data.toList.drop 24 = dktX1_keep_1 := dk_seg dksX1_keep_0 24 rfl rfl
theorem dX1_keep_0 : decode cX1_keep 0 = .ok (.iload_n 1, 1) := dk_27 (dk_at dksX1_keep_0 0 rfl rfl)
theorem dX1_keep_1 : decode cX1_keep 1 = .ok (.i2l, 1) := dk_133 (dk_at dksX1_keep_0 1 rfl rfl)
theorem dX1_keep_2 : decode cX1_keep 2 = .ok (.lconst 0, 1) := dk_9 (dk_at dksX1_keep_0 2 rfl rfl)
theorem dX1_keep_3 : decode cX1_keep 3 = .ok (.ldc2_w 511, 3) := dk_20 1 255 (dk_at dksX1_keep_0 3 rfl rfl)
theorem dX1_keep_6 : decode cX1_keep 6 = .ok (.invokestatic 160, 3) := dk_184 0 160 (dk_at dksX1_keep_0 6 rfl rfl)
theorem dX1_keep_9 : decode cX1_keep 9 = .ok (.ifCond .ne 5, 3) := dk_154 0 5 (dk_at dksX1_keep_0 9 rfl rfl)
theorem dX1_keep_12 : decode cX1_keep 12 = .ok (.iconst 0, 1) := dk_3 (dk_at dksX1_keep_0 12 rfl rfl)
theorem dX1_keep_13 : decode cX1_keep 13 = .ok (.ireturn, 1) := dk_172 (dk_at dksX1_keep_0 13 rfl rfl)
theorem dX1_keep_14 : decode cX1_keep 14 = .ok (.aload_n 0, 1) := dk_42 (dk_at dksX1_keep_0 14 rfl rfl)
theorem dX1_keep_15 : decode cX1_keep 15 = .ok (.getfield 150, 3) := dk_180 0 150 (dk_at dksX1_keep_0 15 rfl rfl)
theorem dX1_keep_18 : decode cX1_keep 18 = .ok (.iload_n 1, 1) := dk_27 (dk_at dksX1_keep_0 18 rfl rfl)
theorem dX1_keep_19 : decode cX1_keep 19 = .ok (.new 148, 3) := dk_187 0 148 (dk_at dksX1_keep_0 19 rfl rfl)
theorem dX1_keep_22 : decode cX1_keep 22 = .ok (.dup, 1) := dk_89 (dk_at dksX1_keep_0 22 rfl rfl)
theorem dX1_keep_23 : decode cX1_keep 23 = .ok (.aload_n 0, 1) := dk_42 (dk_at dksX1_keep_0 23 rfl rfl)
theorem dX1_keep_24 : decode cX1_keep 24 = .ok (.invokespecial 519, 3) := dk_183 2 7 (dk_at dksX1_keep_1 0 rfl rfl)
theorem dX1_keep_27 : decode cX1_keep 27 = .ok (.aastore, 1) := dk_83 (dk_at dksX1_keep_1 3 rfl rfl)
theorem dX1_keep_28 : decode cX1_keep 28 = .ok (.iconst 1, 1) := dk_4 (dk_at dksX1_keep_1 4 rfl rfl)
theorem dX1_keep_29 : decode cX1_keep 29 = .ok (.ireturn, 1) := dk_172 (dk_at dksX1_keep_1 5 rfl rfl)
def dkwX1_again_2 : List UInt8 := [180, 0, 150, 27, 50, 180, 2, 11, 182, 1, 98, 42, 3, 181, 0, 245, 4, 172]
abbrev dktX1_again_2 : List UInt8 := dkwX1_again_2 ++ []
def dkwX1_again_1 : List UInt8 := [180, 0, 150, 27, 50, 180, 2, 8, 42, 180, 0, 242, 159, 0, 5, 3, 172, 42, 180, 0, 18, 42]
abbrev dktX1_again_1 : List UInt8 := dkwX1_again_1 ++ dktX1_again_2
def dkwX1_again_0 : List UInt8 := [27, 133, 9, 20, 1, 255, 184, 0, 160, 153, 0, 28, 42, 180, 0, 150, 27, 50, 198, 0, 19, 42]
abbrev dktX1_again_0 : List UInt8 := dkwX1_again_0 ++ dktX1_again_1
theorem dksX1_again_0 : cX1_again.data.toList.drop 0 = dktX1_again_0 := by decide +kernel
theorem dksX1_again_1 : cX1_again.data.toList.drop 22 = dktX1_again_1 := dk_seg dksX1_again_0 22 rfl rfl
theorem dksX1_again_2 : cX1_again.data.toList.drop 44 = dktX1_again_2 := dk_seg dksX1_again_1 22 rfl rfl
theorem dX1_again_0 : decode cX1_again 0 = .ok (.iload_n 1, 1) := dk_27 (dk_at dksX1_again_0 0 rfl rfl)
theorem dX1_again_1 : decode cX1_again 1 = .ok (.i2l, 1) := dk_133 (dk_at dksX1_again_0 1 rfl rfl)
theorem dX1_again_2 : decode cX1_again 2 = .ok (.lconst 0, 1) := dk_9 (dk_at dksX1_again_0 2 rfl rfl)
theorem dX1_again_3 : decode cX1_again 3 = .ok (.ldc2_w 511, 3) := dk_20 1 255 (dk_at dksX1_again_0 3 rfl rfl)
theorem dX1_again_6 : decode cX1_again 6 = .ok (.invokestatic 160, 3) := dk_184 0 160 (dk_at dksX1_again_0 6 rfl rfl)
theorem dX1_again_9 : decode cX1_again 9 = .ok (.ifCond .eq 28, 3) := dk_153 0 28 (dk_at dksX1_again_0 9 rfl rfl)
theorem dX1_again_12 : decode cX1_again 12 = .ok (.aload_n 0, 1) := dk_42 (dk_at dksX1_again_0 12 rfl rfl)
theorem dX1_again_13 : decode cX1_again 13 = .ok (.getfield 150, 3) := dk_180 0 150 (dk_at dksX1_again_0 13 rfl rfl)
theorem dX1_again_16 : decode cX1_again 16 = .ok (.iload_n 1, 1) := dk_27 (dk_at dksX1_again_0 16 rfl rfl)
theorem dX1_again_17 : decode cX1_again 17 = .ok (.aaload, 1) := dk_50 (dk_at dksX1_again_0 17 rfl rfl)
theorem dX1_again_18 : decode cX1_again 18 = .ok (.ifnull 19, 3) := dk_198 0 19 (dk_at dksX1_again_0 18 rfl rfl)
theorem dX1_again_21 : decode cX1_again 21 = .ok (.aload_n 0, 1) := dk_42 (dk_at dksX1_again_0 21 rfl rfl)
theorem dX1_again_22 : decode cX1_again 22 = .ok (.getfield 150, 3) := dk_180 0 150 (dk_at dksX1_again_1 0 rfl rfl)
theorem dX1_again_25 : decode cX1_again 25 = .ok (.iload_n 1, 1) := dk_27 (dk_at dksX1_again_1 3 rfl rfl)
theorem dX1_again_26 : decode cX1_again 26 = .ok (.aaload, 1) := dk_50 (dk_at dksX1_again_1 4 rfl rfl)
theorem dX1_again_27 : decode cX1_again 27 = .ok (.getfield 520, 3) := dk_180 2 8 (dk_at dksX1_again_1 5 rfl rfl)
theorem dX1_again_30 : decode cX1_again 30 = .ok (.aload_n 0, 1) := dk_42 (dk_at dksX1_again_1 8 rfl rfl)
theorem dX1_again_31 : decode cX1_again 31 = .ok (.getfield 242, 3) := dk_180 0 242 (dk_at dksX1_again_1 9 rfl rfl)
theorem dX1_again_34 : decode cX1_again 34 = .ok (.if_icmp .eq 5, 3) := dk_159 0 5 (dk_at dksX1_again_1 12 rfl rfl)
theorem dX1_again_37 : decode cX1_again 37 = .ok (.iconst 0, 1) := dk_3 (dk_at dksX1_again_1 15 rfl rfl)
theorem dX1_again_38 : decode cX1_again 38 = .ok (.ireturn, 1) := dk_172 (dk_at dksX1_again_1 16 rfl rfl)
theorem dX1_again_39 : decode cX1_again 39 = .ok (.aload_n 0, 1) := dk_42 (dk_at dksX1_again_1 17 rfl rfl)
theorem dX1_again_40 : decode cX1_again 40 = .ok (.getfield 18, 3) := dk_180 0 18 (dk_at dksX1_again_1 18 rfl rfl)
theorem dX1_again_43 : decode cX1_again 43 = .ok (.aload_n 0, 1) := dk_42 (dk_at dksX1_again_1 21 rfl rfl)
theorem dX1_again_44 : decode cX1_again 44 = .ok (.getfield 150, 3) := dk_180 0 150 (dk_at dksX1_again_2 0 rfl rfl)
theorem dX1_again_47 : decode cX1_again 47 = .ok (.iload_n 1, 1) := dk_27 (dk_at dksX1_again_2 3 rfl rfl)
theorem dX1_again_48 : decode cX1_again 48 = .ok (.aaload, 1) := dk_50 (dk_at dksX1_again_2 4 rfl rfl)
theorem dX1_again_49 : decode cX1_again 49 = .ok (.getfield 523, 3) := dk_180 2 11 (dk_at dksX1_again_2 5 rfl rfl)
theorem dX1_again_52 : decode cX1_again 52 = .ok (.invokevirtual 354, 3) := dk_182 1 98 (dk_at dksX1_again_2 8 rfl rfl)
theorem dX1_again_55 : decode cX1_again 55 = .ok (.aload_n 0, 1) := dk_42 (dk_at dksX1_again_2 11 rfl rfl)
theorem dX1_again_56 : decode cX1_again 56 = .ok (.iconst 0, 1) := dk_3 (dk_at dksX1_again_2 12 rfl rfl)
theorem dX1_again_57 : decode cX1_again 57 = .ok (.putfield 245, 3) := dk_181 0 245 (dk_at dksX1_again_2 13 rfl rfl)
theorem dX1_again_60 : decode cX1_again 60 = .ok (.iconst 1, 1) := dk_4 (dk_at dksX1_again_2 16 rfl rfl)
theorem dX1_again_61 : decode cX1_again 61 = .ok (.ireturn, 1) := dk_172 (dk_at dksX1_again_2 17 rfl rfl)
def dkwX1_count_5 : List UInt8 := [180, 0, 154, 172, 42, 180, 0, 186, 172, 42, 180, 0, 29, 172, 42, 180, 0, 175, 172, 16, 156, 172]
abbrev dktX1_count_5 : List UInt8 := dkwX1_count_5 ++ []
def dkwX1_count_4 : List UInt8 := [180, 0, 18, 180, 0, 168, 172, 42, 180, 0, 245, 172, 42, 180, 1, 220, 172, 42, 180, 1, 232, 172, 42]
abbrev dktX1_count_4 : List UInt8 := dkwX1_count_4 ++ dktX1_count_5
def dkwX1_count_3 : List UInt8 := [180, 0, 18, 180, 1, 86, 172, 42, 180, 0, 18, 180, 1, 132, 172, 42, 180, 0, 18, 182, 2, 14, 172, 42]
abbrev dktX1_count_3 : List UInt8 := dkwX1_count_3 ++ dktX1_count_4
def dkwX1_count_2 : List UInt8 := [42, 180, 0, 157, 172, 42, 180, 0, 18, 180, 1, 92, 172, 42, 180, 0, 18, 180, 1, 59, 172, 42]
abbrev dktX1_count_2 : List UInt8 := dkwX1_count_2 ++ dktX1_count_3
def dkwX1_count_1 : List UInt8 := [170, 0, 0, 0, 0, 0, 159, 0, 0, 0, 0, 0, 0, 0, 13, 0, 0, 0, 71, 0, 0, 0, 76, 0, 0, 0, 84, 0, 0, 0, 92, 0, 0, 0, 100, 0, 0, 0, 108, 0, 0, 0, 116, 0, 0, 0, 124, 0, 0, 0, 129, 0, 0, 0, 134, 0, 0, 0, 139, 0, 0, 0, 144, 0, 0, 0, 149, 0, 0, 0, 154]
abbrev dktX1_count_1 : List UInt8 := dkwX1_count_1 ++ dktX1_count_2
def dkwX1_count_0 : List UInt8 := [27]
abbrev dktX1_count_0 : List UInt8 := dkwX1_count_0 ++ dktX1_count_1
theorem dksX1_count_0 : cX1_count.data.toList.drop 0 = dktX1_count_0 := by decide +kernel
theorem dksX1_count_1 : cX1_count.data.toList.drop 1 = dktX1_count_1 := dk_seg dksX1_count_0 1 rfl rfl
theorem dksX1_count_2 : cX1_count.data.toList.drop 72 = dktX1_count_2 := dk_seg dksX1_count_1 71 rfl rfl
theorem dksX1_count_3 : cX1_count.data.toList.drop 94 = dktX1_count_3 := dk_seg dksX1_count_2 22 rfl rfl
theorem dksX1_count_4 : cX1_count.data.toList.drop 118 = dktX1_count_4 := dk_seg dksX1_count_3 24 rfl rfl
theorem dksX1_count_5 : cX1_count.data.toList.drop 141 = dktX1_count_5 := dk_seg dksX1_count_4 23 rfl rfl
theorem dX1_count_0 : decode cX1_count 0 = .ok (.iload_n 1, 1) := dk_27 (dk_at dksX1_count_0 0 rfl rfl)
theorem dX1_count_1 : decode cX1_count 1 = .ok (.tableswitch 159 0 13 #[71, 76, 84, 92, 100, 108, 116, 124, 129, 134, 139, 144, 149, 154], 71) := by decide +kernel
theorem dX1_count_72 : decode cX1_count 72 = .ok (.aload_n 0, 1) := dk_42 (dk_at dksX1_count_2 0 rfl rfl)
theorem dX1_count_73 : decode cX1_count 73 = .ok (.getfield 157, 3) := dk_180 0 157 (dk_at dksX1_count_2 1 rfl rfl)
theorem dX1_count_76 : decode cX1_count 76 = .ok (.ireturn, 1) := dk_172 (dk_at dksX1_count_2 4 rfl rfl)
theorem dX1_count_77 : decode cX1_count 77 = .ok (.aload_n 0, 1) := dk_42 (dk_at dksX1_count_2 5 rfl rfl)
theorem dX1_count_78 : decode cX1_count 78 = .ok (.getfield 18, 3) := dk_180 0 18 (dk_at dksX1_count_2 6 rfl rfl)
theorem dX1_count_81 : decode cX1_count 81 = .ok (.getfield 348, 3) := dk_180 1 92 (dk_at dksX1_count_2 9 rfl rfl)
theorem dX1_count_84 : decode cX1_count 84 = .ok (.ireturn, 1) := dk_172 (dk_at dksX1_count_2 12 rfl rfl)
theorem dX1_count_85 : decode cX1_count 85 = .ok (.aload_n 0, 1) := dk_42 (dk_at dksX1_count_2 13 rfl rfl)
theorem dX1_count_86 : decode cX1_count 86 = .ok (.getfield 18, 3) := dk_180 0 18 (dk_at dksX1_count_2 14 rfl rfl)
theorem dX1_count_89 : decode cX1_count 89 = .ok (.getfield 315, 3) := dk_180 1 59 (dk_at dksX1_count_2 17 rfl rfl)
theorem dX1_count_92 : decode cX1_count 92 = .ok (.ireturn, 1) := dk_172 (dk_at dksX1_count_2 20 rfl rfl)
theorem dX1_count_93 : decode cX1_count 93 = .ok (.aload_n 0, 1) := dk_42 (dk_at dksX1_count_2 21 rfl rfl)
theorem dX1_count_94 : decode cX1_count 94 = .ok (.getfield 18, 3) := dk_180 0 18 (dk_at dksX1_count_3 0 rfl rfl)
theorem dX1_count_97 : decode cX1_count 97 = .ok (.getfield 342, 3) := dk_180 1 86 (dk_at dksX1_count_3 3 rfl rfl)
theorem dX1_count_100 : decode cX1_count 100 = .ok (.ireturn, 1) := dk_172 (dk_at dksX1_count_3 6 rfl rfl)
theorem dX1_count_101 : decode cX1_count 101 = .ok (.aload_n 0, 1) := dk_42 (dk_at dksX1_count_3 7 rfl rfl)
theorem dX1_count_102 : decode cX1_count 102 = .ok (.getfield 18, 3) := dk_180 0 18 (dk_at dksX1_count_3 8 rfl rfl)
theorem dX1_count_105 : decode cX1_count 105 = .ok (.getfield 388, 3) := dk_180 1 132 (dk_at dksX1_count_3 11 rfl rfl)
theorem dX1_count_108 : decode cX1_count 108 = .ok (.ireturn, 1) := dk_172 (dk_at dksX1_count_3 14 rfl rfl)
theorem dX1_count_109 : decode cX1_count 109 = .ok (.aload_n 0, 1) := dk_42 (dk_at dksX1_count_3 15 rfl rfl)
theorem dX1_count_110 : decode cX1_count 110 = .ok (.getfield 18, 3) := dk_180 0 18 (dk_at dksX1_count_3 16 rfl rfl)
theorem dX1_count_113 : decode cX1_count 113 = .ok (.invokevirtual 526, 3) := dk_182 2 14 (dk_at dksX1_count_3 19 rfl rfl)
theorem dX1_count_116 : decode cX1_count 116 = .ok (.ireturn, 1) := dk_172 (dk_at dksX1_count_3 22 rfl rfl)
theorem dX1_count_117 : decode cX1_count 117 = .ok (.aload_n 0, 1) := dk_42 (dk_at dksX1_count_3 23 rfl rfl)
theorem dX1_count_118 : decode cX1_count 118 = .ok (.getfield 18, 3) := dk_180 0 18 (dk_at dksX1_count_4 0 rfl rfl)
theorem dX1_count_121 : decode cX1_count 121 = .ok (.getfield 168, 3) := dk_180 0 168 (dk_at dksX1_count_4 3 rfl rfl)
theorem dX1_count_124 : decode cX1_count 124 = .ok (.ireturn, 1) := dk_172 (dk_at dksX1_count_4 6 rfl rfl)
theorem dX1_count_125 : decode cX1_count 125 = .ok (.aload_n 0, 1) := dk_42 (dk_at dksX1_count_4 7 rfl rfl)
theorem dX1_count_126 : decode cX1_count 126 = .ok (.getfield 245, 3) := dk_180 0 245 (dk_at dksX1_count_4 8 rfl rfl)
theorem dX1_count_129 : decode cX1_count 129 = .ok (.ireturn, 1) := dk_172 (dk_at dksX1_count_4 11 rfl rfl)
theorem dX1_count_130 : decode cX1_count 130 = .ok (.aload_n 0, 1) := dk_42 (dk_at dksX1_count_4 12 rfl rfl)
theorem dX1_count_131 : decode cX1_count 131 = .ok (.getfield 476, 3) := dk_180 1 220 (dk_at dksX1_count_4 13 rfl rfl)
theorem dX1_count_134 : decode cX1_count 134 = .ok (.ireturn, 1) := dk_172 (dk_at dksX1_count_4 16 rfl rfl)
theorem dX1_count_135 : decode cX1_count 135 = .ok (.aload_n 0, 1) := dk_42 (dk_at dksX1_count_4 17 rfl rfl)
theorem dX1_count_136 : decode cX1_count 136 = .ok (.getfield 488, 3) := dk_180 1 232 (dk_at dksX1_count_4 18 rfl rfl)
theorem dX1_count_139 : decode cX1_count 139 = .ok (.ireturn, 1) := dk_172 (dk_at dksX1_count_4 21 rfl rfl)
theorem dX1_count_140 : decode cX1_count 140 = .ok (.aload_n 0, 1) := dk_42 (dk_at dksX1_count_4 22 rfl rfl)
theorem dX1_count_141 : decode cX1_count 141 = .ok (.getfield 154, 3) := dk_180 0 154 (dk_at dksX1_count_5 0 rfl rfl)
theorem dX1_count_144 : decode cX1_count 144 = .ok (.ireturn, 1) := dk_172 (dk_at dksX1_count_5 3 rfl rfl)
theorem dX1_count_145 : decode cX1_count 145 = .ok (.aload_n 0, 1) := dk_42 (dk_at dksX1_count_5 4 rfl rfl)
theorem dX1_count_146 : decode cX1_count 146 = .ok (.getfield 186, 3) := dk_180 0 186 (dk_at dksX1_count_5 5 rfl rfl)
theorem dX1_count_149 : decode cX1_count 149 = .ok (.ireturn, 1) := dk_172 (dk_at dksX1_count_5 8 rfl rfl)
theorem dX1_count_150 : decode cX1_count 150 = .ok (.aload_n 0, 1) := dk_42 (dk_at dksX1_count_5 9 rfl rfl)
theorem dX1_count_151 : decode cX1_count 151 = .ok (.getfield 29, 3) := dk_180 0 29 (dk_at dksX1_count_5 10 rfl rfl)
theorem dX1_count_154 : decode cX1_count 154 = .ok (.ireturn, 1) := dk_172 (dk_at dksX1_count_5 13 rfl rfl)
theorem dX1_count_155 : decode cX1_count 155 = .ok (.aload_n 0, 1) := dk_42 (dk_at dksX1_count_5 14 rfl rfl)
theorem dX1_count_156 : decode cX1_count 156 = .ok (.getfield 175, 3) := dk_180 0 175 (dk_at dksX1_count_5 15 rfl rfl)
theorem dX1_count_159 : decode cX1_count 159 = .ok (.ireturn, 1) := dk_172 (dk_at dksX1_count_5 18 rfl rfl)
theorem dX1_count_160 : decode cX1_count 160 = .ok (.bipush (-100), 2) := dk_16 156 (dk_at dksX1_count_5 19 rfl rfl)
theorem dX1_count_162 : decode cX1_count 162 = .ok (.ireturn, 1) := dk_172 (dk_at dksX1_count_5 21 rfl rfl)
def dkwX1_of_6 : List UInt8 := [187, 1, 25, 89, 183, 1, 27, 191]
abbrev dktX1_of_6 : List UInt8 := dkwX1_of_6 ++ []
def dkwX1_of_5 : List UInt8 := [182, 1, 28, 172, 42, 42, 180, 0, 18, 27, 182, 1, 32, 172, 42, 180, 0, 11, 27, 50, 180, 1, 14, 172]
abbrev dktX1_of_5 : List UInt8 := dkwX1_of_5 ++ dktX1_of_6
def dkwX1_of_4 : List UInt8 := [3, 172, 42, 180, 0, 18, 180, 0, 239, 27, 46, 172, 42, 42, 180, 0, 18, 180, 0, 236, 27, 46]
abbrev dktX1_of_4 : List UInt8 := dkwX1_of_4 ++ dktX1_of_5
def dkwX1_of_3 : List UInt8 := [27, 50, 180, 0, 214, 172, 42, 180, 0, 18, 180, 0, 168, 27, 184, 0, 171, 153, 0, 7, 4, 167, 0, 4]
abbrev dktX1_of_3 : List UInt8 := dkwX1_of_3 ++ dktX1_of_4
def dkwX1_of_2 : List UInt8 := [42, 180, 0, 18, 180, 0, 236, 27, 46, 172, 42, 180, 0, 11, 27, 50, 180, 0, 211, 172, 42, 180, 0, 11]
abbrev dktX1_of_2 : List UInt8 := dkwX1_of_2 ++ dktX1_of_3
def dkwX1_of_1 : List UInt8 := [170, 0, 0, 0, 0, 0, 141, 0, 0, 0, 0, 0, 0, 0, 7, 0, 0, 0, 47, 0, 0, 0, 57, 0, 0, 0, 67, 0, 0, 0, 77, 0, 0, 0, 97, 0, 0, 0, 107, 0, 0, 0, 121, 0, 0, 0, 131]
abbrev dktX1_of_1 : List UInt8 := dkwX1_of_1 ++ dktX1_of_2
def dkwX1_of_0 : List UInt8 := [42, 27, 182, 0, 164, 154, 0, 11, 187, 1, 25, 89, 183, 1, 27, 191, 28]
abbrev dktX1_of_0 : List UInt8 := dkwX1_of_0 ++ dktX1_of_1
theorem dksX1_of_0 : cX1_of.data.toList.drop 0 = dktX1_of_0 := by decide +kernel
theorem dksX1_of_1 : cX1_of.data.toList.drop 17 = dktX1_of_1 := dk_seg dksX1_of_0 17 rfl rfl
theorem dksX1_of_2 : cX1_of.data.toList.drop 64 = dktX1_of_2 := dk_seg dksX1_of_1 47 rfl rfl
theorem dksX1_of_3 : cX1_of.data.toList.drop 88 = dktX1_of_3 := dk_seg dksX1_of_2 24 rfl rfl
theorem dksX1_of_4 : cX1_of.data.toList.drop 112 = dktX1_of_4 := dk_seg dksX1_of_3 24 rfl rfl
theorem dksX1_of_5 : cX1_of.data.toList.drop 134 = dktX1_of_5 := dk_seg dksX1_of_4 22 rfl rfl
theorem dksX1_of_6 : cX1_of.data.toList.drop 158 = dktX1_of_6 := dk_seg dksX1_of_5 24 rfl rfl
theorem dX1_of_0 : decode cX1_of 0 = .ok (.aload_n 0, 1) := dk_42 (dk_at dksX1_of_0 0 rfl rfl)
theorem dX1_of_1 : decode cX1_of 1 = .ok (.iload_n 1, 1) := dk_27 (dk_at dksX1_of_0 1 rfl rfl)
theorem dX1_of_2 : decode cX1_of 2 = .ok (.invokevirtual 164, 3) := dk_182 0 164 (dk_at dksX1_of_0 2 rfl rfl)
theorem dX1_of_5 : decode cX1_of 5 = .ok (.ifCond .ne 11, 3) := dk_154 0 11 (dk_at dksX1_of_0 5 rfl rfl)
theorem dX1_of_8 : decode cX1_of 8 = .ok (.new 281, 3) := dk_187 1 25 (dk_at dksX1_of_0 8 rfl rfl)
theorem dX1_of_11 : decode cX1_of 11 = .ok (.dup, 1) := dk_89 (dk_at dksX1_of_0 11 rfl rfl)
theorem dX1_of_12 : decode cX1_of 12 = .ok (.invokespecial 283, 3) := dk_183 1 27 (dk_at dksX1_of_0 12 rfl rfl)
theorem dX1_of_15 : decode cX1_of 15 = .ok (.athrow, 1) := dk_191 (dk_at dksX1_of_0 15 rfl rfl)
theorem dX1_of_16 : decode cX1_of 16 = .ok (.iload_n 2, 1) := dk_28 (dk_at dksX1_of_0 16 rfl rfl)
theorem dX1_of_17 : decode cX1_of 17 = .ok (.tableswitch 141 0 7 #[47, 57, 67, 77, 97, 107, 121, 131], 47) := by decide +kernel
theorem dX1_of_64 : decode cX1_of 64 = .ok (.aload_n 0, 1) := dk_42 (dk_at dksX1_of_2 0 rfl rfl)
theorem dX1_of_65 : decode cX1_of 65 = .ok (.getfield 18, 3) := dk_180 0 18 (dk_at dksX1_of_2 1 rfl rfl)
theorem dX1_of_68 : decode cX1_of 68 = .ok (.getfield 236, 3) := dk_180 0 236 (dk_at dksX1_of_2 4 rfl rfl)
theorem dX1_of_71 : decode cX1_of 71 = .ok (.iload_n 1, 1) := dk_27 (dk_at dksX1_of_2 7 rfl rfl)
theorem dX1_of_72 : decode cX1_of 72 = .ok (.iaload, 1) := dk_46 (dk_at dksX1_of_2 8 rfl rfl)
theorem dX1_of_73 : decode cX1_of 73 = .ok (.ireturn, 1) := dk_172 (dk_at dksX1_of_2 9 rfl rfl)
theorem dX1_of_74 : decode cX1_of 74 = .ok (.aload_n 0, 1) := dk_42 (dk_at dksX1_of_2 10 rfl rfl)
theorem dX1_of_75 : decode cX1_of 75 = .ok (.getfield 11, 3) := dk_180 0 11 (dk_at dksX1_of_2 11 rfl rfl)
theorem dX1_of_78 : decode cX1_of 78 = .ok (.iload_n 1, 1) := dk_27 (dk_at dksX1_of_2 14 rfl rfl)
theorem dX1_of_79 : decode cX1_of 79 = .ok (.aaload, 1) := dk_50 (dk_at dksX1_of_2 15 rfl rfl)
theorem dX1_of_80 : decode cX1_of 80 = .ok (.getfield 211, 3) := dk_180 0 211 (dk_at dksX1_of_2 16 rfl rfl)
theorem dX1_of_83 : decode cX1_of 83 = .ok (.ireturn, 1) := dk_172 (dk_at dksX1_of_2 19 rfl rfl)
theorem dX1_of_84 : decode cX1_of 84 = .ok (.aload_n 0, 1) := dk_42 (dk_at dksX1_of_2 20 rfl rfl)
theorem dX1_of_85 : decode cX1_of 85 = .ok (.getfield 11, 3) := dk_180 0 11 (dk_at dksX1_of_2 21 rfl rfl)
theorem dX1_of_88 : decode cX1_of 88 = .ok (.iload_n 1, 1) := dk_27 (dk_at dksX1_of_3 0 rfl rfl)
theorem dX1_of_89 : decode cX1_of 89 = .ok (.aaload, 1) := dk_50 (dk_at dksX1_of_3 1 rfl rfl)
theorem dX1_of_90 : decode cX1_of 90 = .ok (.getfield 214, 3) := dk_180 0 214 (dk_at dksX1_of_3 2 rfl rfl)
theorem dX1_of_93 : decode cX1_of 93 = .ok (.ireturn, 1) := dk_172 (dk_at dksX1_of_3 5 rfl rfl)
theorem dX1_of_94 : decode cX1_of 94 = .ok (.aload_n 0, 1) := dk_42 (dk_at dksX1_of_3 6 rfl rfl)
theorem dX1_of_95 : decode cX1_of 95 = .ok (.getfield 18, 3) := dk_180 0 18 (dk_at dksX1_of_3 7 rfl rfl)
theorem dX1_of_98 : decode cX1_of 98 = .ok (.getfield 168, 3) := dk_180 0 168 (dk_at dksX1_of_3 10 rfl rfl)
theorem dX1_of_101 : decode cX1_of 101 = .ok (.iload_n 1, 1) := dk_27 (dk_at dksX1_of_3 13 rfl rfl)
theorem dX1_of_102 : decode cX1_of 102 = .ok (.invokestatic 171, 3) := dk_184 0 171 (dk_at dksX1_of_3 14 rfl rfl)
theorem dX1_of_105 : decode cX1_of 105 = .ok (.ifCond .eq 7, 3) := dk_153 0 7 (dk_at dksX1_of_3 17 rfl rfl)
theorem dX1_of_108 : decode cX1_of 108 = .ok (.iconst 1, 1) := dk_4 (dk_at dksX1_of_3 20 rfl rfl)
theorem dX1_of_109 : decode cX1_of 109 = .ok (.goto 4, 3) := dk_167 0 4 (dk_at dksX1_of_3 21 rfl rfl)
theorem dX1_of_112 : decode cX1_of 112 = .ok (.iconst 0, 1) := dk_3 (dk_at dksX1_of_4 0 rfl rfl)
theorem dX1_of_113 : decode cX1_of 113 = .ok (.ireturn, 1) := dk_172 (dk_at dksX1_of_4 1 rfl rfl)
theorem dX1_of_114 : decode cX1_of 114 = .ok (.aload_n 0, 1) := dk_42 (dk_at dksX1_of_4 2 rfl rfl)
theorem dX1_of_115 : decode cX1_of 115 = .ok (.getfield 18, 3) := dk_180 0 18 (dk_at dksX1_of_4 3 rfl rfl)
theorem dX1_of_118 : decode cX1_of 118 = .ok (.getfield 239, 3) := dk_180 0 239 (dk_at dksX1_of_4 6 rfl rfl)
theorem dX1_of_121 : decode cX1_of 121 = .ok (.iload_n 1, 1) := dk_27 (dk_at dksX1_of_4 9 rfl rfl)
theorem dX1_of_122 : decode cX1_of 122 = .ok (.iaload, 1) := dk_46 (dk_at dksX1_of_4 10 rfl rfl)
theorem dX1_of_123 : decode cX1_of 123 = .ok (.ireturn, 1) := dk_172 (dk_at dksX1_of_4 11 rfl rfl)
theorem dX1_of_124 : decode cX1_of 124 = .ok (.aload_n 0, 1) := dk_42 (dk_at dksX1_of_4 12 rfl rfl)
theorem dX1_of_125 : decode cX1_of 125 = .ok (.aload_n 0, 1) := dk_42 (dk_at dksX1_of_4 13 rfl rfl)
theorem dX1_of_126 : decode cX1_of 126 = .ok (.getfield 18, 3) := dk_180 0 18 (dk_at dksX1_of_4 14 rfl rfl)
theorem dX1_of_129 : decode cX1_of 129 = .ok (.getfield 236, 3) := dk_180 0 236 (dk_at dksX1_of_4 17 rfl rfl)
theorem dX1_of_132 : decode cX1_of 132 = .ok (.iload_n 1, 1) := dk_27 (dk_at dksX1_of_4 20 rfl rfl)
theorem dX1_of_133 : decode cX1_of 133 = .ok (.iaload, 1) := dk_46 (dk_at dksX1_of_4 21 rfl rfl)
theorem dX1_of_134 : decode cX1_of 134 = .ok (.invokevirtual 284, 3) := dk_182 1 28 (dk_at dksX1_of_5 0 rfl rfl)
theorem dX1_of_137 : decode cX1_of 137 = .ok (.ireturn, 1) := dk_172 (dk_at dksX1_of_5 3 rfl rfl)
theorem dX1_of_138 : decode cX1_of 138 = .ok (.aload_n 0, 1) := dk_42 (dk_at dksX1_of_5 4 rfl rfl)
theorem dX1_of_139 : decode cX1_of 139 = .ok (.aload_n 0, 1) := dk_42 (dk_at dksX1_of_5 5 rfl rfl)
theorem dX1_of_140 : decode cX1_of 140 = .ok (.getfield 18, 3) := dk_180 0 18 (dk_at dksX1_of_5 6 rfl rfl)
theorem dX1_of_143 : decode cX1_of 143 = .ok (.iload_n 1, 1) := dk_27 (dk_at dksX1_of_5 9 rfl rfl)
theorem dX1_of_144 : decode cX1_of 144 = .ok (.invokevirtual 288, 3) := dk_182 1 32 (dk_at dksX1_of_5 10 rfl rfl)
theorem dX1_of_147 : decode cX1_of 147 = .ok (.ireturn, 1) := dk_172 (dk_at dksX1_of_5 13 rfl rfl)
theorem dX1_of_148 : decode cX1_of 148 = .ok (.aload_n 0, 1) := dk_42 (dk_at dksX1_of_5 14 rfl rfl)
theorem dX1_of_149 : decode cX1_of 149 = .ok (.getfield 11, 3) := dk_180 0 11 (dk_at dksX1_of_5 15 rfl rfl)
theorem dX1_of_152 : decode cX1_of 152 = .ok (.iload_n 1, 1) := dk_27 (dk_at dksX1_of_5 18 rfl rfl)
theorem dX1_of_153 : decode cX1_of 153 = .ok (.aaload, 1) := dk_50 (dk_at dksX1_of_5 19 rfl rfl)
theorem dX1_of_154 : decode cX1_of 154 = .ok (.getfield 270, 3) := dk_180 1 14 (dk_at dksX1_of_5 20 rfl rfl)
theorem dX1_of_157 : decode cX1_of 157 = .ok (.ireturn, 1) := dk_172 (dk_at dksX1_of_5 23 rfl rfl)
theorem dX1_of_158 : decode cX1_of 158 = .ok (.new 281, 3) := dk_187 1 25 (dk_at dksX1_of_6 0 rfl rfl)
theorem dX1_of_161 : decode cX1_of 161 = .ok (.dup, 1) := dk_89 (dk_at dksX1_of_6 3 rfl rfl)
theorem dX1_of_162 : decode cX1_of 162 = .ok (.invokespecial 283, 3) := dk_183 1 27 (dk_at dksX1_of_6 4 rfl rfl)
theorem dX1_of_165 : decode cX1_of 165 = .ok (.athrow, 1) := dk_191 (dk_at dksX1_of_6 7 rfl rfl)
def dkwX1_change_2 : List UInt8 := [46, 172]
abbrev dktX1_change_2 : List UInt8 := dkwX1_change_2 ++ []
def dkwX1_change_1 : List UInt8 := [184, 0, 160, 154, 0, 11, 187, 1, 25, 89, 183, 1, 27, 191, 42, 180, 0, 11, 27, 50, 180, 1, 17, 28]
abbrev dktX1_change_1 : List UInt8 := dkwX1_change_1 ++ dktX1_change_2
def dkwX1_change_0 : List UInt8 := [42, 27, 182, 0, 164, 153, 0, 24, 28, 133, 9, 42, 180, 0, 11, 27, 50, 180, 1, 14, 4, 100, 133]
abbrev dktX1_change_0 : List UInt8 := dkwX1_change_0 ++ dktX1_change_1
theorem dksX1_change_0 : cX1_change.data.toList.drop 0 = dktX1_change_0 := by decide +kernel
theorem dksX1_change_1 : cX1_change.data.toList.drop 23 = dktX1_change_1 := dk_seg dksX1_change_0 23 rfl rfl
theorem dksX1_change_2 : cX1_change.data.toList.drop 47 = dktX1_change_2 := dk_seg dksX1_change_1 24 rfl rfl
theorem dX1_change_0 : decode cX1_change 0 = .ok (.aload_n 0, 1) := dk_42 (dk_at dksX1_change_0 0 rfl rfl)
theorem dX1_change_1 : decode cX1_change 1 = .ok (.iload_n 1, 1) := dk_27 (dk_at dksX1_change_0 1 rfl rfl)
theorem dX1_change_2 : decode cX1_change 2 = .ok (.invokevirtual 164, 3) := dk_182 0 164 (dk_at dksX1_change_0 2 rfl rfl)
theorem dX1_change_5 : decode cX1_change 5 = .ok (.ifCond .eq 24, 3) := dk_153 0 24 (dk_at dksX1_change_0 5 rfl rfl)
theorem dX1_change_8 : decode cX1_change 8 = .ok (.iload_n 2, 1) := dk_28 (dk_at dksX1_change_0 8 rfl rfl)
theorem dX1_change_9 : decode cX1_change 9 = .ok (.i2l, 1) := dk_133 (dk_at dksX1_change_0 9 rfl rfl)
theorem dX1_change_10 : decode cX1_change 10 = .ok (.lconst 0, 1) := dk_9 (dk_at dksX1_change_0 10 rfl rfl)
theorem dX1_change_11 : decode cX1_change 11 = .ok (.aload_n 0, 1) := dk_42 (dk_at dksX1_change_0 11 rfl rfl)
theorem dX1_change_12 : decode cX1_change 12 = .ok (.getfield 11, 3) := dk_180 0 11 (dk_at dksX1_change_0 12 rfl rfl)
theorem dX1_change_15 : decode cX1_change 15 = .ok (.iload_n 1, 1) := dk_27 (dk_at dksX1_change_0 15 rfl rfl)
theorem dX1_change_16 : decode cX1_change 16 = .ok (.aaload, 1) := dk_50 (dk_at dksX1_change_0 16 rfl rfl)
theorem dX1_change_17 : decode cX1_change 17 = .ok (.getfield 270, 3) := dk_180 1 14 (dk_at dksX1_change_0 17 rfl rfl)
theorem dX1_change_20 : decode cX1_change 20 = .ok (.iconst 1, 1) := dk_4 (dk_at dksX1_change_0 20 rfl rfl)
theorem dX1_change_21 : decode cX1_change 21 = .ok (.isub, 1) := dk_100 (dk_at dksX1_change_0 21 rfl rfl)
theorem dX1_change_22 : decode cX1_change 22 = .ok (.i2l, 1) := dk_133 (dk_at dksX1_change_0 22 rfl rfl)
theorem dX1_change_23 : decode cX1_change 23 = .ok (.invokestatic 160, 3) := dk_184 0 160 (dk_at dksX1_change_1 0 rfl rfl)
theorem dX1_change_26 : decode cX1_change 26 = .ok (.ifCond .ne 11, 3) := dk_154 0 11 (dk_at dksX1_change_1 3 rfl rfl)
theorem dX1_change_29 : decode cX1_change 29 = .ok (.new 281, 3) := dk_187 1 25 (dk_at dksX1_change_1 6 rfl rfl)
theorem dX1_change_32 : decode cX1_change 32 = .ok (.dup, 1) := dk_89 (dk_at dksX1_change_1 9 rfl rfl)
theorem dX1_change_33 : decode cX1_change 33 = .ok (.invokespecial 283, 3) := dk_183 1 27 (dk_at dksX1_change_1 10 rfl rfl)
theorem dX1_change_36 : decode cX1_change 36 = .ok (.athrow, 1) := dk_191 (dk_at dksX1_change_1 13 rfl rfl)
theorem dX1_change_37 : decode cX1_change 37 = .ok (.aload_n 0, 1) := dk_42 (dk_at dksX1_change_1 14 rfl rfl)
theorem dX1_change_38 : decode cX1_change 38 = .ok (.getfield 11, 3) := dk_180 0 11 (dk_at dksX1_change_1 15 rfl rfl)
theorem dX1_change_41 : decode cX1_change 41 = .ok (.iload_n 1, 1) := dk_27 (dk_at dksX1_change_1 18 rfl rfl)
theorem dX1_change_42 : decode cX1_change 42 = .ok (.aaload, 1) := dk_50 (dk_at dksX1_change_1 19 rfl rfl)
theorem dX1_change_43 : decode cX1_change 43 = .ok (.getfield 273, 3) := dk_180 1 17 (dk_at dksX1_change_1 20 rfl rfl)
theorem dX1_change_46 : decode cX1_change 46 = .ok (.iload_n 2, 1) := dk_28 (dk_at dksX1_change_1 23 rfl rfl)
theorem dX1_change_47 : decode cX1_change 47 = .ok (.iaload, 1) := dk_46 (dk_at dksX1_change_2 0 rfl rfl)
theorem dX1_change_48 : decode cX1_change 48 = .ok (.ireturn, 1) := dk_172 (dk_at dksX1_change_2 1 rfl rfl)
def dkwX1_laws_5 : List UInt8 := [187, 1, 25, 89, 183, 1, 27, 191]
abbrev dktX1_laws_5 : List UInt8 := dkwX1_laws_5 ++ []
def dkwX1_laws_4 : List UInt8 := [27, 182, 1, 144, 153, 0, 7, 4, 167, 0, 4, 3, 172, 42, 180, 0, 18, 180, 1, 141, 27, 46, 172]
abbrev dktX1_laws_4 : List UInt8 := dkwX1_laws_4 ++ dktX1_laws_5
def dkwX1_laws_3 : List UInt8 := [42, 180, 0, 18, 180, 1, 135, 27, 46, 172, 42, 180, 0, 18, 180, 1, 138, 27, 46, 172, 42, 180, 0, 18]
abbrev dktX1_laws_3 : List UInt8 := dkwX1_laws_3 ++ dktX1_laws_4
def dkwX1_laws_2 : List UInt8 := [170, 0, 0, 0, 0, 0, 0, 79, 0, 0, 0, 0, 0, 0, 0, 3, 0, 0, 0, 32, 0, 0, 0, 42, 0, 0, 0, 52, 0, 0, 0, 69]
abbrev dktX1_laws_2 : List UInt8 := dkwX1_laws_2 ++ dktX1_laws_3
def dkwX1_laws_1 : List UInt8 := [183, 1, 27, 191, 28]
abbrev dktX1_laws_1 : List UInt8 := dkwX1_laws_1 ++ dktX1_laws_2
def dkwX1_laws_0 : List UInt8 := [27, 133, 9, 42, 180, 0, 18, 180, 1, 132, 4, 100, 133, 184, 0, 160, 154, 0, 11, 187, 1, 25, 89]
abbrev dktX1_laws_0 : List UInt8 := dkwX1_laws_0 ++ dktX1_laws_1
theorem dksX1_laws_0 : cX1_laws.data.toList.drop 0 = dktX1_laws_0 := by decide +kernel
theorem dksX1_laws_1 : cX1_laws.data.toList.drop 23 = dktX1_laws_1 := dk_seg dksX1_laws_0 23 rfl rfl
theorem dksX1_laws_2 : cX1_laws.data.toList.drop 28 = dktX1_laws_2 := dk_seg dksX1_laws_1 5 rfl rfl
theorem dksX1_laws_3 : cX1_laws.data.toList.drop 60 = dktX1_laws_3 := dk_seg dksX1_laws_2 32 rfl rfl
theorem dksX1_laws_4 : cX1_laws.data.toList.drop 84 = dktX1_laws_4 := dk_seg dksX1_laws_3 24 rfl rfl
theorem dksX1_laws_5 : cX1_laws.data.toList.drop 107 = dktX1_laws_5 := dk_seg dksX1_laws_4 23 rfl rfl
theorem dX1_laws_0 : decode cX1_laws 0 = .ok (.iload_n 1, 1) := dk_27 (dk_at dksX1_laws_0 0 rfl rfl)
theorem dX1_laws_1 : decode cX1_laws 1 = .ok (.i2l, 1) := dk_133 (dk_at dksX1_laws_0 1 rfl rfl)
theorem dX1_laws_2 : decode cX1_laws 2 = .ok (.lconst 0, 1) := dk_9 (dk_at dksX1_laws_0 2 rfl rfl)
theorem dX1_laws_3 : decode cX1_laws 3 = .ok (.aload_n 0, 1) := dk_42 (dk_at dksX1_laws_0 3 rfl rfl)
theorem dX1_laws_4 : decode cX1_laws 4 = .ok (.getfield 18, 3) := dk_180 0 18 (dk_at dksX1_laws_0 4 rfl rfl)
theorem dX1_laws_7 : decode cX1_laws 7 = .ok (.getfield 388, 3) := dk_180 1 132 (dk_at dksX1_laws_0 7 rfl rfl)
theorem dX1_laws_10 : decode cX1_laws 10 = .ok (.iconst 1, 1) := dk_4 (dk_at dksX1_laws_0 10 rfl rfl)
theorem dX1_laws_11 : decode cX1_laws 11 = .ok (.isub, 1) := dk_100 (dk_at dksX1_laws_0 11 rfl rfl)
theorem dX1_laws_12 : decode cX1_laws 12 = .ok (.i2l, 1) := dk_133 (dk_at dksX1_laws_0 12 rfl rfl)
theorem dX1_laws_13 : decode cX1_laws 13 = .ok (.invokestatic 160, 3) := dk_184 0 160 (dk_at dksX1_laws_0 13 rfl rfl)
theorem dX1_laws_16 : decode cX1_laws 16 = .ok (.ifCond .ne 11, 3) := dk_154 0 11 (dk_at dksX1_laws_0 16 rfl rfl)
theorem dX1_laws_19 : decode cX1_laws 19 = .ok (.new 281, 3) := dk_187 1 25 (dk_at dksX1_laws_0 19 rfl rfl)
theorem dX1_laws_22 : decode cX1_laws 22 = .ok (.dup, 1) := dk_89 (dk_at dksX1_laws_0 22 rfl rfl)
theorem dX1_laws_23 : decode cX1_laws 23 = .ok (.invokespecial 283, 3) := dk_183 1 27 (dk_at dksX1_laws_1 0 rfl rfl)
theorem dX1_laws_26 : decode cX1_laws 26 = .ok (.athrow, 1) := dk_191 (dk_at dksX1_laws_1 3 rfl rfl)
theorem dX1_laws_27 : decode cX1_laws 27 = .ok (.iload_n 2, 1) := dk_28 (dk_at dksX1_laws_1 4 rfl rfl)
theorem dX1_laws_28 : decode cX1_laws 28 = .ok (.tableswitch 79 0 3 #[32, 42, 52, 69], 32) := by decide +kernel
theorem dX1_laws_60 : decode cX1_laws 60 = .ok (.aload_n 0, 1) := dk_42 (dk_at dksX1_laws_3 0 rfl rfl)
theorem dX1_laws_61 : decode cX1_laws 61 = .ok (.getfield 18, 3) := dk_180 0 18 (dk_at dksX1_laws_3 1 rfl rfl)
theorem dX1_laws_64 : decode cX1_laws 64 = .ok (.getfield 391, 3) := dk_180 1 135 (dk_at dksX1_laws_3 4 rfl rfl)
theorem dX1_laws_67 : decode cX1_laws 67 = .ok (.iload_n 1, 1) := dk_27 (dk_at dksX1_laws_3 7 rfl rfl)
theorem dX1_laws_68 : decode cX1_laws 68 = .ok (.iaload, 1) := dk_46 (dk_at dksX1_laws_3 8 rfl rfl)
theorem dX1_laws_69 : decode cX1_laws 69 = .ok (.ireturn, 1) := dk_172 (dk_at dksX1_laws_3 9 rfl rfl)
theorem dX1_laws_70 : decode cX1_laws 70 = .ok (.aload_n 0, 1) := dk_42 (dk_at dksX1_laws_3 10 rfl rfl)
theorem dX1_laws_71 : decode cX1_laws 71 = .ok (.getfield 18, 3) := dk_180 0 18 (dk_at dksX1_laws_3 11 rfl rfl)
theorem dX1_laws_74 : decode cX1_laws 74 = .ok (.getfield 394, 3) := dk_180 1 138 (dk_at dksX1_laws_3 14 rfl rfl)
theorem dX1_laws_77 : decode cX1_laws 77 = .ok (.iload_n 1, 1) := dk_27 (dk_at dksX1_laws_3 17 rfl rfl)
theorem dX1_laws_78 : decode cX1_laws 78 = .ok (.iaload, 1) := dk_46 (dk_at dksX1_laws_3 18 rfl rfl)
theorem dX1_laws_79 : decode cX1_laws 79 = .ok (.ireturn, 1) := dk_172 (dk_at dksX1_laws_3 19 rfl rfl)
theorem dX1_laws_80 : decode cX1_laws 80 = .ok (.aload_n 0, 1) := dk_42 (dk_at dksX1_laws_3 20 rfl rfl)
theorem dX1_laws_81 : decode cX1_laws 81 = .ok (.getfield 18, 3) := dk_180 0 18 (dk_at dksX1_laws_3 21 rfl rfl)
theorem dX1_laws_84 : decode cX1_laws 84 = .ok (.iload_n 1, 1) := dk_27 (dk_at dksX1_laws_4 0 rfl rfl)
theorem dX1_laws_85 : decode cX1_laws 85 = .ok (.invokevirtual 400, 3) := dk_182 1 144 (dk_at dksX1_laws_4 1 rfl rfl)
theorem dX1_laws_88 : decode cX1_laws 88 = .ok (.ifCond .eq 7, 3) := dk_153 0 7 (dk_at dksX1_laws_4 4 rfl rfl)
theorem dX1_laws_91 : decode cX1_laws 91 = .ok (.iconst 1, 1) := dk_4 (dk_at dksX1_laws_4 7 rfl rfl)
theorem dX1_laws_92 : decode cX1_laws 92 = .ok (.goto 4, 3) := dk_167 0 4 (dk_at dksX1_laws_4 8 rfl rfl)
theorem dX1_laws_95 : decode cX1_laws 95 = .ok (.iconst 0, 1) := dk_3 (dk_at dksX1_laws_4 11 rfl rfl)
theorem dX1_laws_96 : decode cX1_laws 96 = .ok (.ireturn, 1) := dk_172 (dk_at dksX1_laws_4 12 rfl rfl)
theorem dX1_laws_97 : decode cX1_laws 97 = .ok (.aload_n 0, 1) := dk_42 (dk_at dksX1_laws_4 13 rfl rfl)
theorem dX1_laws_98 : decode cX1_laws 98 = .ok (.getfield 18, 3) := dk_180 0 18 (dk_at dksX1_laws_4 14 rfl rfl)
theorem dX1_laws_101 : decode cX1_laws 101 = .ok (.getfield 397, 3) := dk_180 1 141 (dk_at dksX1_laws_4 17 rfl rfl)
theorem dX1_laws_104 : decode cX1_laws 104 = .ok (.iload_n 1, 1) := dk_27 (dk_at dksX1_laws_4 20 rfl rfl)
theorem dX1_laws_105 : decode cX1_laws 105 = .ok (.iaload, 1) := dk_46 (dk_at dksX1_laws_4 21 rfl rfl)
theorem dX1_laws_106 : decode cX1_laws 106 = .ok (.ireturn, 1) := dk_172 (dk_at dksX1_laws_4 22 rfl rfl)
theorem dX1_laws_107 : decode cX1_laws 107 = .ok (.new 281, 3) := dk_187 1 25 (dk_at dksX1_laws_5 0 rfl rfl)
theorem dX1_laws_110 : decode cX1_laws 110 = .ok (.dup, 1) := dk_89 (dk_at dksX1_laws_5 3 rfl rfl)
theorem dX1_laws_111 : decode cX1_laws 111 = .ok (.invokespecial 283, 3) := dk_183 1 27 (dk_at dksX1_laws_5 4 rfl rfl)
theorem dX1_laws_114 : decode cX1_laws 114 = .ok (.athrow, 1) := dk_191 (dk_at dksX1_laws_5 7 rfl rfl)
def dkwX1_fool_4 : List UInt8 := [21, 4, 42, 180, 0, 89, 29, 46, 100, 172]
abbrev dktX1_fool_4 : List UInt8 := dkwX1_fool_4 ++ []
def dkwX1_fool_3 : List UInt8 := [42, 3, 181, 0, 154, 42, 21, 4, 133, 182, 1, 111, 42, 42, 180, 0, 89, 29, 46, 133, 182, 1, 111]
abbrev dktX1_fool_3 : List UInt8 := dkwX1_fool_3 ++ dktX1_fool_4
def dkwX1_fool_2 : List UInt8 := [180, 0, 89, 29, 46, 54, 4, 42, 180, 0, 95, 27, 181, 1, 197, 42, 28, 42, 180, 0, 95, 182, 1, 191]
abbrev dktX1_fool_2 : List UInt8 := dkwX1_fool_2 ++ dktX1_fool_3
def dkwX1_fool_1 : List UInt8 := [183, 1, 27, 191, 42, 180, 0, 11, 27, 50, 180, 0, 211, 62, 42, 28, 42, 180, 0, 54, 182, 1, 191, 42]
abbrev dktX1_fool_1 : List UInt8 := dkwX1_fool_1 ++ dktX1_fool_2
def dkwX1_fool_0 : List UInt8 := [42, 27, 182, 0, 164, 153, 0, 15, 28, 133, 9, 20, 1, 115, 184, 0, 160, 154, 0, 11, 187, 1, 25, 89]
abbrev dktX1_fool_0 : List UInt8 := dkwX1_fool_0 ++ dktX1_fool_1
theorem dksX1_fool_0 : cX1_fool.data.toList.drop 0 = dktX1_fool_0 := by decide +kernel
theorem dksX1_fool_1 : cX1_fool.data.toList.drop 24 = dktX1_fool_1 := dk_seg dksX1_fool_0 24 rfl rfl
theorem dksX1_fool_2 : cX1_fool.data.toList.drop 48 = dktX1_fool_2 := dk_seg dksX1_fool_1 24 rfl rfl
theorem dksX1_fool_3 : cX1_fool.data.toList.drop 72 = dktX1_fool_3 := dk_seg dksX1_fool_2 24 rfl rfl
theorem dksX1_fool_4 : cX1_fool.data.toList.drop 95 = dktX1_fool_4 := dk_seg dksX1_fool_3 23 rfl rfl
theorem dX1_fool_0 : decode cX1_fool 0 = .ok (.aload_n 0, 1) := dk_42 (dk_at dksX1_fool_0 0 rfl rfl)
theorem dX1_fool_1 : decode cX1_fool 1 = .ok (.iload_n 1, 1) := dk_27 (dk_at dksX1_fool_0 1 rfl rfl)
theorem dX1_fool_2 : decode cX1_fool 2 = .ok (.invokevirtual 164, 3) := dk_182 0 164 (dk_at dksX1_fool_0 2 rfl rfl)
theorem dX1_fool_5 : decode cX1_fool 5 = .ok (.ifCond .eq 15, 3) := dk_153 0 15 (dk_at dksX1_fool_0 5 rfl rfl)
theorem dX1_fool_8 : decode cX1_fool 8 = .ok (.iload_n 2, 1) := dk_28 (dk_at dksX1_fool_0 8 rfl rfl)
theorem dX1_fool_9 : decode cX1_fool 9 = .ok (.i2l, 1) := dk_133 (dk_at dksX1_fool_0 9 rfl rfl)
theorem dX1_fool_10 : decode cX1_fool 10 = .ok (.lconst 0, 1) := dk_9 (dk_at dksX1_fool_0 10 rfl rfl)
theorem dX1_fool_11 : decode cX1_fool 11 = .ok (.ldc2_w 371, 3) := dk_20 1 115 (dk_at dksX1_fool_0 11 rfl rfl)
theorem dX1_fool_14 : decode cX1_fool 14 = .ok (.invokestatic 160, 3) := dk_184 0 160 (dk_at dksX1_fool_0 14 rfl rfl)
theorem dX1_fool_17 : decode cX1_fool 17 = .ok (.ifCond .ne 11, 3) := dk_154 0 11 (dk_at dksX1_fool_0 17 rfl rfl)
theorem dX1_fool_20 : decode cX1_fool 20 = .ok (.new 281, 3) := dk_187 1 25 (dk_at dksX1_fool_0 20 rfl rfl)
theorem dX1_fool_23 : decode cX1_fool 23 = .ok (.dup, 1) := dk_89 (dk_at dksX1_fool_0 23 rfl rfl)
theorem dX1_fool_24 : decode cX1_fool 24 = .ok (.invokespecial 283, 3) := dk_183 1 27 (dk_at dksX1_fool_1 0 rfl rfl)
theorem dX1_fool_27 : decode cX1_fool 27 = .ok (.athrow, 1) := dk_191 (dk_at dksX1_fool_1 3 rfl rfl)
theorem dX1_fool_28 : decode cX1_fool 28 = .ok (.aload_n 0, 1) := dk_42 (dk_at dksX1_fool_1 4 rfl rfl)
theorem dX1_fool_29 : decode cX1_fool 29 = .ok (.getfield 11, 3) := dk_180 0 11 (dk_at dksX1_fool_1 5 rfl rfl)
theorem dX1_fool_32 : decode cX1_fool 32 = .ok (.iload_n 1, 1) := dk_27 (dk_at dksX1_fool_1 8 rfl rfl)
theorem dX1_fool_33 : decode cX1_fool 33 = .ok (.aaload, 1) := dk_50 (dk_at dksX1_fool_1 9 rfl rfl)
theorem dX1_fool_34 : decode cX1_fool 34 = .ok (.getfield 211, 3) := dk_180 0 211 (dk_at dksX1_fool_1 10 rfl rfl)
theorem dX1_fool_37 : decode cX1_fool 37 = .ok (.istore_n 3, 1) := dk_62 (dk_at dksX1_fool_1 13 rfl rfl)
theorem dX1_fool_38 : decode cX1_fool 38 = .ok (.aload_n 0, 1) := dk_42 (dk_at dksX1_fool_1 14 rfl rfl)
theorem dX1_fool_39 : decode cX1_fool 39 = .ok (.iload_n 2, 1) := dk_28 (dk_at dksX1_fool_1 15 rfl rfl)
theorem dX1_fool_40 : decode cX1_fool 40 = .ok (.aload_n 0, 1) := dk_42 (dk_at dksX1_fool_1 16 rfl rfl)
theorem dX1_fool_41 : decode cX1_fool 41 = .ok (.getfield 54, 3) := dk_180 0 54 (dk_at dksX1_fool_1 17 rfl rfl)
theorem dX1_fool_44 : decode cX1_fool 44 = .ok (.invokevirtual 447, 3) := dk_182 1 191 (dk_at dksX1_fool_1 20 rfl rfl)
theorem dX1_fool_47 : decode cX1_fool 47 = .ok (.aload_n 0, 1) := dk_42 (dk_at dksX1_fool_1 23 rfl rfl)
theorem dX1_fool_48 : decode cX1_fool 48 = .ok (.getfield 89, 3) := dk_180 0 89 (dk_at dksX1_fool_2 0 rfl rfl)
theorem dX1_fool_51 : decode cX1_fool 51 = .ok (.iload_n 3, 1) := dk_29 (dk_at dksX1_fool_2 3 rfl rfl)
theorem dX1_fool_52 : decode cX1_fool 52 = .ok (.iaload, 1) := dk_46 (dk_at dksX1_fool_2 4 rfl rfl)
theorem dX1_fool_53 : decode cX1_fool 53 = .ok (.istore 4, 2) := dk_54 4 (dk_at dksX1_fool_2 5 rfl rfl)
theorem dX1_fool_55 : decode cX1_fool 55 = .ok (.aload_n 0, 1) := dk_42 (dk_at dksX1_fool_2 7 rfl rfl)
theorem dX1_fool_56 : decode cX1_fool 56 = .ok (.getfield 95, 3) := dk_180 0 95 (dk_at dksX1_fool_2 8 rfl rfl)
theorem dX1_fool_59 : decode cX1_fool 59 = .ok (.iload_n 1, 1) := dk_27 (dk_at dksX1_fool_2 11 rfl rfl)
theorem dX1_fool_60 : decode cX1_fool 60 = .ok (.putfield 453, 3) := dk_181 1 197 (dk_at dksX1_fool_2 12 rfl rfl)
theorem dX1_fool_63 : decode cX1_fool 63 = .ok (.aload_n 0, 1) := dk_42 (dk_at dksX1_fool_2 15 rfl rfl)
theorem dX1_fool_64 : decode cX1_fool 64 = .ok (.iload_n 2, 1) := dk_28 (dk_at dksX1_fool_2 16 rfl rfl)
theorem dX1_fool_65 : decode cX1_fool 65 = .ok (.aload_n 0, 1) := dk_42 (dk_at dksX1_fool_2 17 rfl rfl)
theorem dX1_fool_66 : decode cX1_fool 66 = .ok (.getfield 95, 3) := dk_180 0 95 (dk_at dksX1_fool_2 18 rfl rfl)
theorem dX1_fool_69 : decode cX1_fool 69 = .ok (.invokevirtual 447, 3) := dk_182 1 191 (dk_at dksX1_fool_2 21 rfl rfl)
theorem dX1_fool_72 : decode cX1_fool 72 = .ok (.aload_n 0, 1) := dk_42 (dk_at dksX1_fool_3 0 rfl rfl)
theorem dX1_fool_73 : decode cX1_fool 73 = .ok (.iconst 0, 1) := dk_3 (dk_at dksX1_fool_3 1 rfl rfl)
theorem dX1_fool_74 : decode cX1_fool 74 = .ok (.putfield 154, 3) := dk_181 0 154 (dk_at dksX1_fool_3 2 rfl rfl)
theorem dX1_fool_77 : decode cX1_fool 77 = .ok (.aload_n 0, 1) := dk_42 (dk_at dksX1_fool_3 5 rfl rfl)
theorem dX1_fool_78 : decode cX1_fool 78 = .ok (.iload 4, 2) := dk_21 4 (dk_at dksX1_fool_3 6 rfl rfl)
theorem dX1_fool_80 : decode cX1_fool 80 = .ok (.i2l, 1) := dk_133 (dk_at dksX1_fool_3 8 rfl rfl)
theorem dX1_fool_81 : decode cX1_fool 81 = .ok (.invokevirtual 367, 3) := dk_182 1 111 (dk_at dksX1_fool_3 9 rfl rfl)
theorem dX1_fool_84 : decode cX1_fool 84 = .ok (.aload_n 0, 1) := dk_42 (dk_at dksX1_fool_3 12 rfl rfl)
theorem dX1_fool_85 : decode cX1_fool 85 = .ok (.aload_n 0, 1) := dk_42 (dk_at dksX1_fool_3 13 rfl rfl)
theorem dX1_fool_86 : decode cX1_fool 86 = .ok (.getfield 89, 3) := dk_180 0 89 (dk_at dksX1_fool_3 14 rfl rfl)
theorem dX1_fool_89 : decode cX1_fool 89 = .ok (.iload_n 3, 1) := dk_29 (dk_at dksX1_fool_3 17 rfl rfl)
theorem dX1_fool_90 : decode cX1_fool 90 = .ok (.iaload, 1) := dk_46 (dk_at dksX1_fool_3 18 rfl rfl)
theorem dX1_fool_91 : decode cX1_fool 91 = .ok (.i2l, 1) := dk_133 (dk_at dksX1_fool_3 19 rfl rfl)
theorem dX1_fool_92 : decode cX1_fool 92 = .ok (.invokevirtual 367, 3) := dk_182 1 111 (dk_at dksX1_fool_3 20 rfl rfl)
theorem dX1_fool_95 : decode cX1_fool 95 = .ok (.iload 4, 2) := dk_21 4 (dk_at dksX1_fool_4 0 rfl rfl)
theorem dX1_fool_97 : decode cX1_fool 97 = .ok (.aload_n 0, 1) := dk_42 (dk_at dksX1_fool_4 2 rfl rfl)
theorem dX1_fool_98 : decode cX1_fool 98 = .ok (.getfield 89, 3) := dk_180 0 89 (dk_at dksX1_fool_4 3 rfl rfl)
theorem dX1_fool_101 : decode cX1_fool 101 = .ok (.iload_n 3, 1) := dk_29 (dk_at dksX1_fool_4 6 rfl rfl)
theorem dX1_fool_102 : decode cX1_fool 102 = .ok (.iaload, 1) := dk_46 (dk_at dksX1_fool_4 7 rfl rfl)
theorem dX1_fool_103 : decode cX1_fool 103 = .ok (.isub, 1) := dk_100 (dk_at dksX1_fool_4 8 rfl rfl)
theorem dX1_fool_104 : decode cX1_fool 104 = .ok (.ireturn, 1) := dk_172 (dk_at dksX1_fool_4 9 rfl rfl)
def dkwX1_row_1 : List UInt8 := [42, 180, 0, 37, 27, 47, 173]
abbrev dktX1_row_1 : List UInt8 := dkwX1_row_1 ++ []
def dkwX1_row_0 : List UInt8 := [27, 133, 9, 42, 180, 0, 154, 4, 100, 133, 184, 0, 160, 154, 0, 11, 187, 1, 25, 89, 183, 1, 27, 191]
abbrev dktX1_row_0 : List UInt8 := dkwX1_row_0 ++ dktX1_row_1
theorem dksX1_row_0 : cX1_row.data.toList.drop 0 = dktX1_row_0 := by decide +kernel
theorem dksX1_row_1 : cX1_row.data.toList.drop 24 = dktX1_row_1 := dk_seg dksX1_row_0 24 rfl rfl
theorem dX1_row_0 : decode cX1_row 0 = .ok (.iload_n 1, 1) := dk_27 (dk_at dksX1_row_0 0 rfl rfl)
theorem dX1_row_1 : decode cX1_row 1 = .ok (.i2l, 1) := dk_133 (dk_at dksX1_row_0 1 rfl rfl)
theorem dX1_row_2 : decode cX1_row 2 = .ok (.lconst 0, 1) := dk_9 (dk_at dksX1_row_0 2 rfl rfl)
theorem dX1_row_3 : decode cX1_row 3 = .ok (.aload_n 0, 1) := dk_42 (dk_at dksX1_row_0 3 rfl rfl)
theorem dX1_row_4 : decode cX1_row 4 = .ok (.getfield 154, 3) := dk_180 0 154 (dk_at dksX1_row_0 4 rfl rfl)
theorem dX1_row_7 : decode cX1_row 7 = .ok (.iconst 1, 1) := dk_4 (dk_at dksX1_row_0 7 rfl rfl)
theorem dX1_row_8 : decode cX1_row 8 = .ok (.isub, 1) := dk_100 (dk_at dksX1_row_0 8 rfl rfl)
theorem dX1_row_9 : decode cX1_row 9 = .ok (.i2l, 1) := dk_133 (dk_at dksX1_row_0 9 rfl rfl)
theorem dX1_row_10 : decode cX1_row 10 = .ok (.invokestatic 160, 3) := dk_184 0 160 (dk_at dksX1_row_0 10 rfl rfl)
theorem dX1_row_13 : decode cX1_row 13 = .ok (.ifCond .ne 11, 3) := dk_154 0 11 (dk_at dksX1_row_0 13 rfl rfl)
theorem dX1_row_16 : decode cX1_row 16 = .ok (.new 281, 3) := dk_187 1 25 (dk_at dksX1_row_0 16 rfl rfl)
theorem dX1_row_19 : decode cX1_row 19 = .ok (.dup, 1) := dk_89 (dk_at dksX1_row_0 19 rfl rfl)
theorem dX1_row_20 : decode cX1_row 20 = .ok (.invokespecial 283, 3) := dk_183 1 27 (dk_at dksX1_row_0 20 rfl rfl)
theorem dX1_row_23 : decode cX1_row 23 = .ok (.athrow, 1) := dk_191 (dk_at dksX1_row_0 23 rfl rfl)
theorem dX1_row_24 : decode cX1_row 24 = .ok (.aload_n 0, 1) := dk_42 (dk_at dksX1_row_1 0 rfl rfl)
theorem dX1_row_25 : decode cX1_row 25 = .ok (.getfield 37, 3) := dk_180 0 37 (dk_at dksX1_row_1 1 rfl rfl)
theorem dX1_row_28 : decode cX1_row 28 = .ok (.iload_n 1, 1) := dk_27 (dk_at dksX1_row_1 4 rfl rfl)
theorem dX1_row_29 : decode cX1_row 29 = .ok (.laload, 1) := dk_47 (dk_at dksX1_row_1 5 rfl rfl)
theorem dX1_row_30 : decode cX1_row 30 = .ok (.lreturn, 1) := dk_173 (dk_at dksX1_row_1 6 rfl rfl)
