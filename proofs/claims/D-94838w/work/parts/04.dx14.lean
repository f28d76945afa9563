set_option maxRecDepth 100000
theorem dX14_thrown_0 : decode cX14_thrown 0 = .ok (.aload_n 0, 1) := by decide +kernel
theorem dX14_thrown_1 : decode cX14_thrown 1 = .ok (.getfield 3, 3) := by decide +kernel
theorem dX14_thrown_4 : decode cX14_thrown 4 = .ok (.ireturn, 1) := by decide +kernel
def dkwX14_init_10 : List UInt8 := [188, 10, 181, 0, 114, 42, 180, 0, 44, 16, 17, 2, 79, 177]
abbrev dktX14_init_10 : List UInt8 := dkwX14_init_10 ++ []
def dkwX14_init_9 : List UInt8 := [188, 10, 181, 0, 104, 42, 6, 188, 4, 181, 0, 107, 42, 6, 188, 10, 181, 0, 111, 42, 17, 1, 95]
abbrev dktX14_init_9 : List UInt8 := dkwX14_init_9 ++ dktX14_init_10
def dkwX14_init_8 : List UInt8 := [188, 10, 181, 0, 95, 42, 16, 9, 188, 11, 181, 0, 98, 42, 16, 9, 188, 11, 181, 0, 101, 42, 16, 117]
abbrev dktX14_init_8 : List UInt8 := dkwX14_init_8 ++ dktX14_init_9
def dkwX14_init_7 : List UInt8 := [188, 10, 181, 0, 86, 42, 16, 12, 188, 10, 181, 0, 89, 42, 16, 10, 188, 10, 181, 0, 92, 42, 16, 10]
abbrev dktX14_init_7 : List UInt8 := dkwX14_init_7 ++ dktX14_init_8
def dkwX14_init_6 : List UInt8 := [188, 10, 181, 0, 77, 42, 16, 8, 188, 10, 181, 0, 80, 42, 16, 8, 188, 10, 181, 0, 83, 42, 16, 12]
abbrev dktX14_init_6 : List UInt8 := dkwX14_init_6 ++ dktX14_init_7
def dkwX14_init_5 : List UInt8 := [181, 0, 68, 42, 16, 80, 188, 10, 181, 0, 71, 42, 17, 9, 36, 188, 10, 181, 0, 74, 42, 16, 61]
abbrev dktX14_init_5 : List UInt8 := dkwX14_init_5 ++ dktX14_init_6
def dkwX14_init_4 : List UInt8 := [181, 0, 59, 42, 16, 9, 188, 10, 181, 0, 62, 42, 16, 80, 188, 10, 181, 0, 65, 42, 16, 80, 188, 10]
abbrev dktX14_init_4 : List UInt8 := dkwX14_init_4 ++ dktX14_init_5
def dkwX14_init_3 : List UInt8 := [181, 0, 50, 42, 16, 8, 188, 10, 181, 0, 53, 42, 16, 8, 188, 10, 181, 0, 56, 42, 16, 54, 188, 10]
abbrev dktX14_init_3 : List UInt8 := dkwX14_init_3 ++ dktX14_init_4
def dkwX14_init_2 : List UInt8 := [181, 0, 41, 42, 16, 117, 188, 10, 181, 0, 44, 42, 16, 117, 188, 10, 181, 0, 47, 42, 16, 80, 188, 10]
abbrev dktX14_init_2 : List UInt8 := dkwX14_init_2 ++ dktX14_init_3
def dkwX14_init_1 : List UInt8 := [188, 10, 181, 0, 32, 42, 16, 48, 188, 10, 181, 0, 35, 42, 16, 8, 188, 10, 181, 0, 38, 42, 4]
abbrev dktX14_init_1 : List UInt8 := dkwX14_init_1 ++ dktX14_init_2
def dkwX14_init_0 : List UInt8 := [42, 183, 0, 22, 42, 16, 24, 188, 11, 181, 0, 11, 42, 16, 8, 188, 10, 181, 0, 28, 42, 16, 8]
abbrev dktX14_init_0 : List UInt8 := dkwX14_init_0 ++ dktX14_init_1
theorem dksX14_init_0 : cX14_init.data.toList.drop 0 = dktX14_init_0 := by decide +kernel
theorem dksX14_init_1 : cX14_init.data.toList.drop 23 = dktX14_init_1 := dk_seg dksX14_init_0 23 rfl rfl
theorem dksX14_init_2 : cX14_init.data.toList.drop 46 = dktX14_init_2 := dk_seg dksX14_init_1 23 rfl rfl
theorem dksX14_init_3 : cX14_init.data.toList.drop 70 = dktX14_init_3 := dk_seg dksX14_init_2 24 rfl rfl
theorem dksX14_init_4 : cX14_init.data.toList.drop 94 = dktX14_init_4 := dk_seg dksX14_init_3 24 rfl rfl
theorem dksX14_init_5 : cX14_init.data.toList.drop 118 = dktX14_init_5 := dk_seg dksX14_init_4 24 rfl rfl
theorem dksX14_init_6 : cX14_init.data.toList.drop 141 = dktX14_init_6 := dk_seg dksX14_init_5 23 rfl rfl
theorem dksX14_init_7 : cX14_init.data.toList.drop 165 = dktX14_init_7 := dk_seg dksX14_init_6 24 rfl rfl
theorem dksX14_init_8 : cX14_init.data.toList.drop 189 = dktX14_init_8 := dk_seg dksX14_init_7 24 rfl rfl
theorem dksX14_init_9 : cX14_init.data.toList.drop 213 = dktX14_init_9 := dk_seg dksX14_init_8 24 rfl rfl
theorem dksX14_init_10 : cX14_init.data.toList.drop 236 = dktX14_init_10 := dk_seg dksX14_init_9 23 rfl rfl
theorem dX14_init_0 : decode cX14_init 0 = .ok (.aload_n 0, 1) := dk_42 (dk_at dksX14_init_0 0 rfl rfl)
theorem dX14_init_1 : decode cX14_init 1 = .ok (.invokespecial 22, 3) := dk_183 0 22 (dk_at dksX14_init_0 1 rfl rfl)
theorem dX14_init_4 : decode cX14_init 4 = .ok (.aload_n 0, 1) := dk_42 (dk_at dksX14_init_0 4 rfl rfl)
theorem dX14_init_5 : decode cX14_init 5 = .ok (.bipush 24, 2) := dk_16 24 (dk_at dksX14_init_0 5 rfl rfl)
theorem dX14_init_7 : decode cX14_init 7 = .ok (.newarray .long, 2) := dk_188_11 (dk_at dksX14_init_0 7 rfl rfl)
theorem dX14_init_9 : decode cX14_init 9 = .ok (.putfield 11, 3) := dk_181 0 11 (dk_at dksX14_init_0 9 rfl rfl)
theorem dX14_init_12 : decode cX14_init 12 = .ok (.aload_n 0, 1) := dk_42 (dk_at dksX14_init_0 12 rfl rfl)
theorem dX14_init_13 : decode cX14_init 13 = .ok (.bipush 8, 2) := dk_16 8 (dk_at dksX14_init_0 13 rfl rfl)
theorem dX14_init_15 : decode cX14_init 15 = .ok (.newarray .int, 2) := dk_188_10 (dk_at dksX14_init_0 15 rfl rfl)
theorem dX14_init_17 : decode cX14_init 17 = .ok (.putfield 28, 3) := dk_181 0 28 (dk_at dksX14_init_0 17 rfl rfl)
theorem dX14_init_20 : decode cX14_init 20 = .ok (.aload_n 0, 1) := dk_42 (dk_at dksX14_init_0 20 rfl rfl)
theorem dX14_init_21 : decode cX14_init 21 = .ok (.bipush 8, 2) := dk_16 8 (dk_at dksX14_init_0 21 rfl rfl)
theorem dX14_init_23 : decode cX14_init 23 = .ok (.newarray .int, 2) := dk_188_10 (dk_at dksX14_init_1 0 rfl rfl)
theorem dX14_init_25 : decode cX14_init 25 = .ok (.putfield 32, 3) := dk_181 0 32 (dk_at dksX14_init_1 2 rfl rfl)
theorem dX14_init_28 : decode cX14_init 28 = .ok (.aload_n 0, 1) := dk_42 (dk_at dksX14_init_1 5 rfl rfl)
theorem dX14_init_29 : decode cX14_init 29 = .ok (.bipush 48, 2) := dk_16 48 (dk_at dksX14_init_1 6 rfl rfl)
theorem dX14_init_31 : decode cX14_init 31 = .ok (.newarray .int, 2) := dk_188_10 (dk_at dksX14_init_1 8 rfl rfl)
theorem dX14_init_33 : decode cX14_init 33 = .ok (.putfield 35, 3) := dk_181 0 35 (dk_at dksX14_init_1 10 rfl rfl)
theorem dX14_init_36 : decode cX14_init 36 = .ok (.aload_n 0, 1) := dk_42 (dk_at dksX14_init_1 13 rfl rfl)
theorem dX14_init_37 : decode cX14_init 37 = .ok (.bipush 8, 2) := dk_16 8 (dk_at dksX14_init_1 14 rfl rfl)
theorem dX14_init_39 : decode cX14_init 39 = .ok (.newarray .int, 2) := dk_188_10 (dk_at dksX14_init_1 16 rfl rfl)
theorem dX14_init_41 : decode cX14_init 41 = .ok (.putfield 38, 3) := dk_181 0 38 (dk_at dksX14_init_1 18 rfl rfl)
theorem dX14_init_44 : decode cX14_init 44 = .ok (.aload_n 0, 1) := dk_42 (dk_at dksX14_init_1 21 rfl rfl)
theorem dX14_init_45 : decode cX14_init 45 = .ok (.iconst 1, 1) := dk_4 (dk_at dksX14_init_1 22 rfl rfl)
theorem dX14_init_46 : decode cX14_init 46 = .ok (.putfield 41, 3) := dk_181 0 41 (dk_at dksX14_init_2 0 rfl rfl)
theorem dX14_init_49 : decode cX14_init 49 = .ok (.aload_n 0, 1) := dk_42 (dk_at dksX14_init_2 3 rfl rfl)
theorem dX14_init_50 : decode cX14_init 50 = .ok (.bipush 117, 2) := dk_16 117 (dk_at dksX14_init_2 4 rfl rfl)
theorem dX14_init_52 : decode cX14_init 52 = .ok (.newarray .int, 2) := dk_188_10 (dk_at dksX14_init_2 6 rfl rfl)
theorem dX14_init_54 : decode cX14_init 54 = .ok (.putfield 44, 3) := dk_181 0 44 (dk_at dksX14_init_2 8 rfl rfl)
theorem dX14_init_57 : decode cX14_init 57 = .ok (.aload_n 0, 1) := dk_42 (dk_at dksX14_init_2 11 rfl rfl)
theorem dX14_init_58 : decode cX14_init 58 = .ok (.bipush 117, 2) := dk_16 117 (dk_at dksX14_init_2 12 rfl rfl)
theorem dX14_init_60 : decode cX14_init 60 = .ok (.newarray .int, 2) := dk_188_10 (dk_at dksX14_init_2 14 rfl rfl)
theorem dX14_init_62 : decode cX14_init 62 = .ok (.putfield 47, 3) := dk_181 0 47 (dk_at dksX14_init_2 16 rfl rfl)
theorem dX14_init_65 : decode cX14_init 65 = .ok (.aload_n 0, 1) := dk_42 (dk_at dksX14_init_2 19 rfl rfl)
theorem dX14_init_66 : decode cX14_init 66 = .ok (.bipush 80, 2) := dk_16 80 (dk_at dksX14_init_2 20 rfl rfl)
theorem dX14_init_68 : decode cX14_init 68 = .ok (.newarray .int, 2) := dk_188_10 (dk_at dksX14_init_2 22 rfl rfl)
theorem dX14_init_70 : decode cX14_init 70 = .ok (.putfield 50, 3) := dk_181 0 50 (dk_at dksX14_init_3 0 rfl rfl)
theorem dX14_init_73 : decode cX14_init 73 = .ok (.aload_n 0, 1) := dk_42 (dk_at dksX14_init_3 3 rfl rfl)
theorem dX14_init_74 : decode cX14_init 74 = .ok (.bipush 8, 2) := dk_16 8 (dk_at dksX14_init_3 4 rfl rfl)
theorem dX14_init_76 : decode cX14_init 76 = .ok (.newarray .int, 2) := dk_188_10 (dk_at dksX14_init_3 6 rfl rfl)
theorem dX14_init_78 : decode cX14_init 78 = .ok (.putfield 53, 3) := dk_181 0 53 (dk_at dksX14_init_3 8 rfl rfl)
theorem dX14_init_81 : decode cX14_init 81 = .ok (.aload_n 0, 1) := dk_42 (dk_at dksX14_init_3 11 rfl rfl)
theorem dX14_init_82 : decode cX14_init 82 = .ok (.bipush 8, 2) := dk_16 8 (dk_at dksX14_init_3 12 rfl rfl)
theorem dX14_init_84 : decode cX14_init 84 = .ok (.newarray .int, 2) := dk_188_10 (dk_at dksX14_init_3 14 rfl rfl)
theorem dX14_init_86 : decode cX14_init 86 = .ok (.putfield 56, 3) := dk_181 0 56 (dk_at dksX14_init_3 16 rfl rfl)
theorem dX14_init_89 : decode cX14_init 89 = .ok (.aload_n 0, 1) := dk_42 (dk_at dksX14_init_3 19 rfl rfl)
theorem dX14_init_90 : decode cX14_init 90 = .ok (.bipush 54, 2) := dk_16 54 (dk_at dksX14_init_3 20 rfl rfl)
theorem dX14_init_92 : decode cX14_init 92 = .ok (.newarray .int, 2) := dk_188_10 (dk_at dksX14_init_3 22 rfl rfl)
theorem dX14_init_94 : decode cX14_init 94 = .ok (.putfield 59, 3) := dk_181 0 59 (dk_at dksX14_init_4 0 rfl rfl)
theorem dX14_init_97 : decode cX14_init 97 = .ok (.aload_n 0, 1) := dk_42 (dk_at dksX14_init_4 3 rfl rfl)
theorem dX14_init_98 : decode cX14_init 98 = .ok (.bipush 9, 2) := dk_16 9 (dk_at dksX14_init_4 4 rfl rfl)
theorem dX14_init_100 : decode cX14_init 100 = .ok (.newarray .int, 2) := dk_188_10 (dk_at dksX14_init_4 6 rfl rfl)
theorem dX14_init_102 : decode cX14_init 102 = .ok (.putfield 62, 3) := dk_181 0 62 (dk_at dksX14_init_4 8 rfl rfl)
theorem dX14_init_105 : decode cX14_init 105 = .ok (.aload_n 0, 1) := dk_42 (dk_at dksX14_init_4 11 rfl rfl)
theorem dX14_init_106 : decode cX14_init 106 = .ok (.bipush 80, 2) := dk_16 80 (dk_at dksX14_init_4 12 rfl rfl)
theorem dX14_init_108 : decode cX14_init 108 = .ok (.newarray .int, 2) := dk_188_10 (dk_at dksX14_init_4 14 rfl rfl)
theorem dX14_init_110 : decode cX14_init 110 = .ok (.putfield 65, 3) := dk_181 0 65 (dk_at dksX14_init_4 16 rfl rfl)
theorem dX14_init_113 : decode cX14_init 113 = .ok (.aload_n 0, 1) := dk_42 (dk_at dksX14_init_4 19 rfl rfl)
theorem dX14_init_114 : decode cX14_init 114 = .ok (.bipush 80, 2) := dk_16 80 (dk_at dksX14_init_4 20 rfl rfl)
theorem dX14_init_116 : decode cX14_init 116 = .ok (.newarray .int, 2) := dk_188_10 (dk_at dksX14_init_4 22 rfl rfl)
theorem dX14_init_118 : decode cX14_init 118 = .ok (.putfield 68, 3) := dk_181 0 68 (dk_at dksX14_init_5 0 rfl rfl)
theorem dX14_init_121 : decode cX14_init 121 = .ok (.aload_n 0, 1) := dk_42 (dk_at dksX14_init_5 3 rfl rfl)
theorem dX14_init_122 : decode cX14_init 122 = .ok (.bipush 80, 2) := dk_16 80 (dk_at dksX14_init_5 4 rfl rfl)
theorem dX14_init_124 : decode cX14_init 124 = .ok (.newarray .int, 2) := dk_188_10 (dk_at dksX14_init_5 6 rfl rfl)
theorem dX14_init_126 : decode cX14_init 126 = .ok (.putfield 71, 3) := dk_181 0 71 (dk_at dksX14_init_5 8 rfl rfl)
theorem dX14_init_129 : decode cX14_init 129 = .ok (.aload_n 0, 1) := dk_42 (dk_at dksX14_init_5 11 rfl rfl)
theorem dX14_init_130 : decode cX14_init 130 = .ok (.sipush 2340, 3) := dk_17 9 36 (dk_at dksX14_init_5 12 rfl rfl)
theorem dX14_init_133 : decode cX14_init 133 = .ok (.newarray .int, 2) := dk_188_10 (dk_at dksX14_init_5 15 rfl rfl)
theorem dX14_init_135 : decode cX14_init 135 = .ok (.putfield 74, 3) := dk_181 0 74 (dk_at dksX14_init_5 17 rfl rfl)
theorem dX14_init_138 : decode cX14_init 138 = .ok (.aload_n 0, 1) := dk_42 (dk_at dksX14_init_5 20 rfl rfl)
theorem dX14_init_139 : decode cX14_init 139 = .ok (.bipush 61, 2) := dk_16 61 (dk_at dksX14_init_5 21 rfl rfl)
theorem dX14_init_141 : decode cX14_init 141 = .ok (.newarray .int, 2) := dk_188_10 (dk_at dksX14_init_6 0 rfl rfl)
theorem dX14_init_143 : decode cX14_init 143 = .ok (.putfield 77, 3) := dk_181 0 77 (dk_at dksX14_init_6 2 rfl rfl)
theorem dX14_init_146 : decode cX14_init 146 = .ok (.aload_n 0, 1) := dk_42 (dk_at dksX14_init_6 5 rfl rfl)
theorem dX14_init_147 : decode cX14_init 147 = .ok (.bipush 8, 2) := dk_16 8 (dk_at dksX14_init_6 6 rfl rfl)
theorem dX14_init_149 : decode cX14_init 149 = .ok (.newarray .int, 2) := dk_188_10 (dk_at dksX14_init_6 8 rfl rfl)
theorem dX14_init_151 : decode cX14_init 151 = .ok (.putfield 80, 3) := dk_181 0 80 (dk_at dksX14_init_6 10 rfl rfl)
theorem dX14_init_154 : decode cX14_init 154 = .ok (.aload_n 0, 1) := dk_42 (dk_at dksX14_init_6 13 rfl rfl)
theorem dX14_init_155 : decode cX14_init 155 = .ok (.bipush 8, 2) := dk_16 8 (dk_at dksX14_init_6 14 rfl rfl)
theorem dX14_init_157 : decode cX14_init 157 = .ok (.newarray .int, 2) := dk_188_10 (dk_at dksX14_init_6 16 rfl rfl)
theorem dX14_init_159 : decode cX14_init 159 = .ok (.putfield 83, 3) := dk_181 0 83 (dk_at dksX14_init_6 18 rfl rfl)
theorem dX14_init_162 : decode cX14_init 162 = .ok (.aload_n 0, 1) := dk_42 (dk_at dksX14_init_6 21 rfl rfl)
theorem dX14_init_163 : decode cX14_init 163 = .ok (.bipush 12, 2) := dk_16 12 (dk_at dksX14_init_6 22 rfl rfl)
theorem dX14_init_165 : decode cX14_init 165 = .ok (.newarray .int, 2) := dk_188_10 (dk_at dksX14_init_7 0 rfl rfl)
theorem dX14_init_167 : decode cX14_init 167 = .ok (.putfield 86, 3) := dk_181 0 86 (dk_at dksX14_init_7 2 rfl rfl)
theorem dX14_init_170 : decode cX14_init 170 = .ok (.aload_n 0, 1) := dk_42 (dk_at dksX14_init_7 5 rfl rfl)
theorem dX14_init_171 : decode cX14_init 171 = .ok (.bipush 12, 2) := dk_16 12 (dk_at dksX14_init_7 6 rfl rfl)
theorem dX14_init_173 : decode cX14_init 173 = .ok (.newarray .int, 2) := dk_188_10 (dk_at dksX14_init_7 8 rfl rfl)
theorem dX14_init_175 : decode cX14_init 175 = .ok (.putfield 89, 3) := dk_181 0 89 (dk_at dksX14_init_7 10 rfl rfl)
theorem dX14_init_178 : decode cX14_init 178 = .ok (.aload_n 0, 1) := dk_42 (dk_at dksX14_init_7 13 rfl rfl)
theorem dX14_init_179 : decode cX14_init 179 = .ok (.bipush 10, 2) := dk_16 10 (dk_at dksX14_init_7 14 rfl rfl)
theorem dX14_init_181 : decode cX14_init 181 = .ok (.newarray .int, 2) := dk_188_10 (dk_at dksX14_init_7 16 rfl rfl)
theorem dX14_init_183 : decode cX14_init 183 = .ok (.putfield 92, 3) := dk_181 0 92 (dk_at dksX14_init_7 18 rfl rfl)
theorem dX14_init_186 : decode cX14_init 186 = .ok (.aload_n 0, 1) := dk_42 (dk_at dksX14_init_7 21 rfl rfl)
theorem dX14_init_187 : decode cX14_init 187 = .ok (.bipush 10, 2) := dk_16 10 (dk_at dksX14_init_7 22 rfl rfl)
theorem dX14_init_189 : decode cX14_init 189 = .ok (.newarray .int, 2) := dk_188_10 (dk_at dksX14_init_8 0 rfl rfl)
theorem dX14_init_191 : decode cX14_init 191 = .ok (.putfield 95, 3) := dk_181 0 95 (dk_at dksX14_init_8 2 rfl rfl)
theorem dX14_init_194 : decode cX14_init 194 = .ok (.aload_n 0, 1) := dk_42 (dk_at dksX14_init_8 5 rfl rfl)
theorem dX14_init_195 : decode cX14_init 195 = .ok (.bipush 9, 2) := dk_16 9 (dk_at dksX14_init_8 6 rfl rfl)
theorem dX14_init_197 : decode cX14_init 197 = .ok (.newarray .long, 2) := dk_188_11 (dk_at dksX14_init_8 8 rfl rfl)
theorem dX14_init_199 : decode cX14_init 199 = .ok (.putfield 98, 3) := dk_181 0 98 (dk_at dksX14_init_8 10 rfl rfl)
theorem dX14_init_202 : decode cX14_init 202 = .ok (.aload_n 0, 1) := dk_42 (dk_at dksX14_init_8 13 rfl rfl)
theorem dX14_init_203 : decode cX14_init 203 = .ok (.bipush 9, 2) := dk_16 9 (dk_at dksX14_init_8 14 rfl rfl)
theorem dX14_init_205 : decode cX14_init 205 = .ok (.newarray .long, 2) := dk_188_11 (dk_at dksX14_init_8 16 rfl rfl)
theorem dX14_init_207 : decode cX14_init 207 = .ok (.putfield 101, 3) := dk_181 0 101 (dk_at dksX14_init_8 18 rfl rfl)
theorem dX14_init_210 : decode cX14_init 210 = .ok (.aload_n 0, 1) := dk_42 (dk_at dksX14_init_8 21 rfl rfl)
theorem dX14_init_211 : decode cX14_init 211 = .ok (.bipush 117, 2) := dk_16 117 (dk_at dksX14_init_8 22 rfl rfl)
theorem dX14_init_213 : decode cX14_init 213 = .ok (.newarray .int, 2) := dk_188_10 (dk_at dksX14_init_9 0 rfl rfl)
theorem dX14_init_215 : decode cX14_init 215 = .ok (.putfield 104, 3) := dk_181 0 104 (dk_at dksX14_init_9 2 rfl rfl)
theorem dX14_init_218 : decode cX14_init 218 = .ok (.aload_n 0, 1) := dk_42 (dk_at dksX14_init_9 5 rfl rfl)
theorem dX14_init_219 : decode cX14_init 219 = .ok (.iconst 3, 1) := dk_6 (dk_at dksX14_init_9 6 rfl rfl)
theorem dX14_init_220 : decode cX14_init 220 = .ok (.newarray .boolean, 2) := dk_188_4 (dk_at dksX14_init_9 7 rfl rfl)
theorem dX14_init_222 : decode cX14_init 222 = .ok (.putfield 107, 3) := dk_181 0 107 (dk_at dksX14_init_9 9 rfl rfl)
theorem dX14_init_225 : decode cX14_init 225 = .ok (.aload_n 0, 1) := dk_42 (dk_at dksX14_init_9 12 rfl rfl)
theorem dX14_init_226 : decode cX14_init 226 = .ok (.iconst 3, 1) := dk_6 (dk_at dksX14_init_9 13 rfl rfl)
theorem dX14_init_227 : decode cX14_init 227 = .ok (.newarray .int, 2) := dk_188_10 (dk_at dksX14_init_9 14 rfl rfl)
theorem dX14_init_229 : decode cX14_init 229 = .ok (.putfield 111, 3) := dk_181 0 111 (dk_at dksX14_init_9 16 rfl rfl)
theorem dX14_init_232 : decode cX14_init 232 = .ok (.aload_n 0, 1) := dk_42 (dk_at dksX14_init_9 19 rfl rfl)
theorem dX14_init_233 : decode cX14_init 233 = .ok (.sipush 351, 3) := dk_17 1 95 (dk_at dksX14_init_9 20 rfl rfl)
theorem dX14_init_236 : decode cX14_init 236 = .ok (.newarray .int, 2) := dk_188_10 (dk_at dksX14_init_10 0 rfl rfl)
theorem dX14_init_238 : decode cX14_init 238 = .ok (.putfield 114, 3) := dk_181 0 114 (dk_at dksX14_init_10 2 rfl rfl)
theorem dX14_init_241 : decode cX14_init 241 = .ok (.aload_n 0, 1) := dk_42 (dk_at dksX14_init_10 5 rfl rfl)
theorem dX14_init_242 : decode cX14_init 242 = .ok (.getfield 44, 3) := dk_180 0 44 (dk_at dksX14_init_10 6 rfl rfl)
theorem dX14_init_245 : decode cX14_init 245 = .ok (.bipush 17, 2) := dk_16 17 (dk_at dksX14_init_10 9 rfl rfl)
theorem dX14_init_247 : decode cX14_init 247 = .ok (.iconst (-1), 1) := dk_2 (dk_at dksX14_init_10 11 rfl rfl)
theorem dX14_init_248 : decode cX14_init 248 = .ok (.iastore, 1) := dk_79 (dk_at dksX14_init_10 12 rfl rfl)
theorem dX14_init_249 : decode cX14_init 249 = .ok (.return_, 1) := dk_177 (dk_at dksX14_init_10 13 rfl rfl)
def dkwX14_sign_2 : List UInt8 := [132, 2, 1, 167, 255, 224, 42, 89, 180, 0, 132, 7, 96, 181, 0, 132, 42, 180, 0, 132, 172]
abbrev dktX14_sign_2 : List UInt8 := dkwX14_sign_2 ++ []
def dkwX14_sign_1 : List UInt8 := [180, 0, 50, 42, 180, 0, 132, 28, 96, 27, 16, 24, 16, 8, 28, 104, 100, 122, 17, 0, 255, 126, 79]
abbrev dktX14_sign_1 : List UInt8 := dkwX14_sign_1 ++ dktX14_sign_2
def dkwX14_sign_0 : List UInt8 := [42, 3, 181, 0, 3, 42, 180, 0, 132, 16, 76, 164, 0, 5, 2, 172, 3, 61, 28, 7, 162, 0, 33, 42]
abbrev dktX14_sign_0 : List UInt8 := dkwX14_sign_0 ++ dktX14_sign_1
theorem dksX14_sign_0 : cX14_sign.data.toList.drop 0 = dktX14_sign_0 := by decide +kernel
theorem dksX14_sign_1 : cX14_sign.data.toList.drop 24 = dktX14_sign_1 := dk_seg dksX14_sign_0 24 rfl rfl
theorem dksX14_sign_2 : cX14_sign.data.toList.drop 47 = dktX14_sign_2 := dk_seg dksX14_sign_1 23 rfl rfl
theorem dX14_sign_0 : decode cX14_sign 0 = .ok (.aload_n 0, 1) := dk_42 (dk_at dksX14_sign_0 0 rfl rfl)
theorem dX14_sign_1 : decode cX14_sign 1 = .ok (.iconst 0, 1) := dk_3 (dk_at dksX14_sign_0 1 rfl rfl)
theorem dX14_sign_2 : decode cX14_sign 2 = .ok (.putfield 3, 3) := dk_181 0 3 (dk_at dksX14_sign_0 2 rfl rfl)
theorem dX14_sign_5 : decode cX14_sign 5 = .ok (.aload_n 0, 1) := dk_42 (dk_at dksX14_sign_0 5 rfl rfl)
theorem dX14_sign_6 : decode cX14_sign 6 = .ok (.getfield 132, 3) := dk_180 0 132 (dk_at dksX14_sign_0 6 rfl rfl)
theorem dX14_sign_9 : decode cX14_sign 9 = .ok (.bipush 76, 2) := dk_16 76 (dk_at dksX14_sign_0 9 rfl rfl)
theorem dX14_sign_11 : decode cX14_sign 11 = .ok (.if_icmp .le 5, 3) := dk_164 0 5 (dk_at dksX14_sign_0 11 rfl rfl)
theorem dX14_sign_14 : decode cX14_sign 14 = .ok (.iconst (-1), 1) := dk_2 (dk_at dksX14_sign_0 14 rfl rfl)
theorem dX14_sign_15 : decode cX14_sign 15 = .ok (.ireturn, 1) := dk_172 (dk_at dksX14_sign_0 15 rfl rfl)
theorem dX14_sign_16 : decode cX14_sign 16 = .ok (.iconst 0, 1) := dk_3 (dk_at dksX14_sign_0 16 rfl rfl)
theorem dX14_sign_17 : decode cX14_sign 17 = .ok (.istore_n 2, 1) := dk_61 (dk_at dksX14_sign_0 17 rfl rfl)
theorem dX14_sign_18 : decode cX14_sign 18 = .ok (.iload_n 2, 1) := dk_28 (dk_at dksX14_sign_0 18 rfl rfl)
theorem dX14_sign_19 : decode cX14_sign 19 = .ok (.iconst 4, 1) := dk_7 (dk_at dksX14_sign_0 19 rfl rfl)
theorem dX14_sign_20 : decode cX14_sign 20 = .ok (.if_icmp .ge 33, 3) := dk_162 0 33 (dk_at dksX14_sign_0 20 rfl rfl)
theorem dX14_sign_23 : decode cX14_sign 23 = .ok (.aload_n 0, 1) := dk_42 (dk_at dksX14_sign_0 23 rfl rfl)
theorem dX14_sign_24 : decode cX14_sign 24 = .ok (.getfield 50, 3) := dk_180 0 50 (dk_at dksX14_sign_1 0 rfl rfl)
theorem dX14_sign_27 : decode cX14_sign 27 = .ok (.aload_n 0, 1) := dk_42 (dk_at dksX14_sign_1 3 rfl rfl)
theorem dX14_sign_28 : decode cX14_sign 28 = .ok (.getfield 132, 3) := dk_180 0 132 (dk_at dksX14_sign_1 4 rfl rfl)
theorem dX14_sign_31 : decode cX14_sign 31 = .ok (.iload_n 2, 1) := dk_28 (dk_at dksX14_sign_1 7 rfl rfl)
theorem dX14_sign_32 : decode cX14_sign 32 = .ok (.iadd, 1) := dk_96 (dk_at dksX14_sign_1 8 rfl rfl)
theorem dX14_sign_33 : decode cX14_sign 33 = .ok (.iload_n 1, 1) := dk_27 (dk_at dksX14_sign_1 9 rfl rfl)
theorem dX14_sign_34 : decode cX14_sign 34 = .ok (.bipush 24, 2) := dk_16 24 (dk_at dksX14_sign_1 10 rfl rfl)
theorem dX14_sign_36 : decode cX14_sign 36 = .ok (.bipush 8, 2) := dk_16 8 (dk_at dksX14_sign_1 12 rfl rfl)
theorem dX14_sign_38 : decode cX14_sign 38 = .ok (.iload_n 2, 1) := dk_28 (dk_at dksX14_sign_1 14 rfl rfl)
theorem dX14_sign_39 : decode cX14_sign 39 = .ok (.imul, 1) := dk_104 (dk_at dksX14_sign_1 15 rfl rfl)
theorem dX14_sign_40 : decode cX14_sign 40 = .ok (.isub, 1) := dk_100 (dk_at dksX14_sign_1 16 rfl rfl)
theorem dX14_sign_41 : decode cX14_sign 41 = .ok (.ishr, 1) := dk_122 (dk_at dksX14_sign_1 17 rfl rfl)
theorem dX14_sign_42 : decode cX14_sign 42 = .ok (.sipush 255, 3) := dk_17 0 255 (dk_at dksX14_sign_1 18 rfl rfl)
theorem dX14_sign_45 : decode cX14_sign 45 = .ok (.iand, 1) := dk_126 (dk_at dksX14_sign_1 21 rfl rfl)
theorem dX14_sign_46 : decode cX14_sign 46 = .ok (.iastore, 1) := dk_79 (dk_at dksX14_sign_1 22 rfl rfl)
theorem dX14_sign_47 : decode cX14_sign 47 = .ok (.iinc 2 1, 3) := dk_132 2 1 (dk_at dksX14_sign_2 0 rfl rfl)
theorem dX14_sign_50 : decode cX14_sign 50 = .ok (.goto (-32), 3) := dk_167 255 224 (dk_at dksX14_sign_2 3 rfl rfl)
theorem dX14_sign_53 : decode cX14_sign 53 = .ok (.aload_n 0, 1) := dk_42 (dk_at dksX14_sign_2 6 rfl rfl)
theorem dX14_sign_54 : decode cX14_sign 54 = .ok (.dup, 1) := dk_89 (dk_at dksX14_sign_2 7 rfl rfl)
theorem dX14_sign_55 : decode cX14_sign 55 = .ok (.getfield 132, 3) := dk_180 0 132 (dk_at dksX14_sign_2 8 rfl rfl)
theorem dX14_sign_58 : decode cX14_sign 58 = .ok (.iconst 4, 1) := dk_7 (dk_at dksX14_sign_2 11 rfl rfl)
theorem dX14_sign_59 : decode cX14_sign 59 = .ok (.iadd, 1) := dk_96 (dk_at dksX14_sign_2 12 rfl rfl)
theorem dX14_sign_60 : decode cX14_sign 60 = .ok (.putfield 132, 3) := dk_181 0 132 (dk_at dksX14_sign_2 13 rfl rfl)
theorem dX14_sign_63 : decode cX14_sign 63 = .ok (.aload_n 0, 1) := dk_42 (dk_at dksX14_sign_2 16 rfl rfl)
theorem dX14_sign_64 : decode cX14_sign 64 = .ok (.getfield 132, 3) := dk_180 0 132 (dk_at dksX14_sign_2 17 rfl rfl)
theorem dX14_sign_67 : decode cX14_sign 67 = .ok (.ireturn, 1) := dk_172 (dk_at dksX14_sign_2 20 rfl rfl)
def dkwX14_end_1 : List UInt8 := [181, 0, 132, 4, 172]
abbrev dktX14_end_1 : List UInt8 := dkwX14_end_1 ++ []
def dkwX14_end_0 : List UInt8 := [42, 3, 181, 0, 3, 27, 133, 9, 42, 180, 0, 132, 133, 184, 0, 120, 154, 0, 5, 3, 172, 42, 27]
abbrev dktX14_end_0 : List UInt8 := dkwX14_end_0 ++ dktX14_end_1
theorem dksX14_end_0 : cX14_end.data.toList.drop 0 = dktX14_end_0 := by decide +kernel
theorem dksX14_end_1 : cX14_end.data.toList.drop 23 = dktX14_end_1 := dk_seg dksX14_end_0 23 rfl rfl
theorem dX14_end_0 : decode cX14_end 0 = .ok (.aload_n 0, 1) := dk_42 (dk_at dksX14_end_0 0 rfl rfl)
theorem dX14_end_1 : decode cX14_end 1 = .ok (.iconst 0, 1) := dk_3 (dk_at dksX14_end_0 1 rfl rfl)
theorem dX14_end_2 : decode cX14_end 2 = .ok (.putfield 3, 3) := dk_181 0 3 (dk_at dksX14_end_0 2 rfl rfl)
theorem dX14_end_5 : decode cX14_end 5 = .ok (.iload_n 1, 1) := dk_27 (dk_at dksX14_end_0 5 rfl rfl)
theorem dX14_end_6 : decode cX14_end 6 = .ok (.i2l, 1) := dk_133 (dk_at dksX14_end_0 6 rfl rfl)
theorem dX14_end_7 : decode cX14_end 7 = .ok (.lconst 0, 1) := dk_9 (dk_at dksX14_end_0 7 rfl rfl)
theorem dX14_end_8 : decode cX14_end 8 = .ok (.aload_n 0, 1) := dk_42 (dk_at dksX14_end_0 8 rfl rfl)
theorem dX14_end_9 : decode cX14_end 9 = .ok (.getfield 132, 3) := dk_180 0 132 (dk_at dksX14_end_0 9 rfl rfl)
theorem dX14_end_12 : decode cX14_end 12 = .ok (.i2l, 1) := dk_133 (dk_at dksX14_end_0 12 rfl rfl)
theorem dX14_end_13 : decode cX14_end 13 = .ok (.invokestatic 120, 3) := dk_184 0 120 (dk_at dksX14_end_0 13 rfl rfl)
theorem dX14_end_16 : decode cX14_end 16 = .ok (.ifCond .ne 5, 3) := dk_154 0 5 (dk_at dksX14_end_0 16 rfl rfl)
theorem dX14_end_19 : decode cX14_end 19 = .ok (.iconst 0, 1) := dk_3 (dk_at dksX14_end_0 19 rfl rfl)
theorem dX14_end_20 : decode cX14_end 20 = .ok (.ireturn, 1) := dk_172 (dk_at dksX14_end_0 20 rfl rfl)
theorem dX14_end_21 : decode cX14_end 21 = .ok (.aload_n 0, 1) := dk_42 (dk_at dksX14_end_0 21 rfl rfl)
theorem dX14_end_22 : decode cX14_end 22 = .ok (.iload_n 1, 1) := dk_27 (dk_at dksX14_end_0 22 rfl rfl)
theorem dX14_end_23 : decode cX14_end 23 = .ok (.putfield 132, 3) := dk_181 0 132 (dk_at dksX14_end_1 0 rfl rfl)
theorem dX14_end_26 : decode cX14_end 26 = .ok (.iconst 1, 1) := dk_4 (dk_at dksX14_end_1 3 rfl rfl)
theorem dX14_end_27 : decode cX14_end 27 = .ok (.ireturn, 1) := dk_172 (dk_at dksX14_end_1 4 rfl rfl)
def dkwX14_in_0 : List UInt8 := [30, 32, 148, 155, 0, 14, 30, 22, 4, 148, 157, 0, 7, 4, 167, 0, 4, 3, 172]
abbrev dktX14_in_0 : List UInt8 := dkwX14_in_0 ++ []
theorem dksX14_in_0 : cX14_in.data.toList.drop 0 = dktX14_in_0 := by decide +kernel
theorem dX14_in_0 : decode cX14_in 0 = .ok (.lload_n 0, 1) := dk_30 (dk_at dksX14_in_0 0 rfl rfl)
theorem dX14_in_1 : decode cX14_in 1 = .ok (.lload_n 2, 1) := dk_32 (dk_at dksX14_in_0 1 rfl rfl)
theorem dX14_in_2 : decode cX14_in 2 = .ok (.lcmp, 1) := dk_148 (dk_at dksX14_in_0 2 rfl rfl)
theorem dX14_in_3 : decode cX14_in 3 = .ok (.ifCond .lt 14, 3) := dk_155 0 14 (dk_at dksX14_in_0 3 rfl rfl)
theorem dX14_in_6 : decode cX14_in 6 = .ok (.lload_n 0, 1) := dk_30 (dk_at dksX14_in_0 6 rfl rfl)
theorem dX14_in_7 : decode cX14_in 7 = .ok (.lload 4, 2) := dk_22 4 (dk_at dksX14_in_0 7 rfl rfl)
theorem dX14_in_9 : decode cX14_in 9 = .ok (.lcmp, 1) := dk_148 (dk_at dksX14_in_0 9 rfl rfl)
theorem dX14_in_10 : decode cX14_in 10 = .ok (.ifCond .gt 7, 3) := dk_157 0 7 (dk_at dksX14_in_0 10 rfl rfl)
theorem dX14_in_13 : decode cX14_in 13 = .ok (.iconst 1, 1) := dk_4 (dk_at dksX14_in_0 13 rfl rfl)
theorem dX14_in_14 : decode cX14_in 14 = .ok (.goto 4, 3) := dk_167 0 4 (dk_at dksX14_in_0 14 rfl rfl)
theorem dX14_in_17 : decode cX14_in 17 = .ok (.iconst 0, 1) := dk_3 (dk_at dksX14_in_0 17 rfl rfl)
theorem dX14_in_18 : decode cX14_in 18 = .ok (.ireturn, 1) := dk_172 (dk_at dksX14_in_0 18 rfl rfl)
def dkwX14_town_7 : List UInt8 := [181, 0, 207, 42, 180, 0, 185, 172]
abbrev dktX14_town_7 : List UInt8 := dkwX14_town_7 ++ []
def dkwX14_town_6 : List UInt8 := [180, 0, 117, 42, 180, 0, 185, 96, 181, 0, 117, 42, 27, 158, 0, 7, 3, 167, 0, 7, 42, 180, 0, 207]
abbrev dktX14_town_6 : List UInt8 := dkwX14_town_6 ++ dktX14_town_7
def dkwX14_town_5 : List UInt8 := [180, 0, 56, 21, 6, 46, 79, 42, 21, 6, 21, 6, 182, 0, 203, 132, 5, 1, 167, 255, 199, 42, 89]
abbrev dktX14_town_5 : List UInt8 := dkwX14_town_5 ++ dktX14_town_6
def dkwX14_town_4 : List UInt8 := [96, 54, 6, 42, 180, 0, 44, 21, 6, 42, 180, 0, 53, 21, 6, 46, 79, 42, 180, 0, 28, 21, 6, 42]
abbrev dktX14_town_4 : List UInt8 := dkwX14_town_4 ++ dktX14_town_5
def dkwX14_town_3 : List UInt8 := [156, 0, 6, 21, 4, 172, 3, 54, 5, 21, 5, 42, 180, 0, 185, 162, 0, 54, 42, 180, 0, 117, 21, 5]
abbrev dktX14_town_3 : List UInt8 := dkwX14_town_3 ++ dktX14_town_4
def dkwX14_town_2 : List UInt8 := [153, 0, 7, 4, 167, 0, 4, 3, 62, 167, 255, 228, 42, 27, 16, 76, 28, 182, 0, 199, 54, 4, 21, 4]
abbrev dktX14_town_2 : List UInt8 := dkwX14_town_2 ++ dktX14_town_3
def dkwX14_town_1 : List UInt8 := [167, 0, 4, 3, 62, 29, 153, 0, 30, 42, 182, 0, 196, 61, 28, 153, 0, 16, 42, 16, 59, 182, 0, 178]
abbrev dktX14_town_1 : List UInt8 := dkwX14_town_1 ++ dktX14_town_2
def dkwX14_town_0 : List UInt8 := [42, 3, 181, 0, 3, 42, 16, 76, 182, 0, 193, 60, 42, 3, 181, 0, 185, 4, 61, 27, 158, 0, 7, 4]
abbrev dktX14_town_0 : List UInt8 := dkwX14_town_0 ++ dktX14_town_1
theorem dksX14_town_0 : cX14_town.data.toList.drop 0 = dktX14_town_0 := by decide +kernel
theorem dksX14_town_1 : cX14_town.data.toList.drop 24 = dktX14_town_1 := dk_seg dksX14_town_0 24 rfl rfl
theorem dksX14_town_2 : cX14_town.data.toList.drop 48 = dktX14_town_2 := dk_seg dksX14_town_1 24 rfl rfl
theorem dksX14_town_3 : cX14_town.data.toList.drop 72 = dktX14_town_3 := dk_seg dksX14_town_2 24 rfl rfl
theorem dksX14_town_4 : cX14_town.data.toList.drop 96 = dktX14_town_4 := dk_seg dksX14_town_3 24 rfl rfl
theorem dksX14_town_5 : cX14_town.data.toList.drop 120 = dktX14_town_5 := dk_seg dksX14_town_4 24 rfl rfl
theorem dksX14_town_6 : cX14_town.data.toList.drop 143 = dktX14_town_6 := dk_seg dksX14_town_5 23 rfl rfl
theorem dksX14_town_7 : cX14_town.data.toList.drop 167 = dktX14_town_7 := dk_seg dksX14_town_6 24 rfl rfl
theorem dX14_town_0 : decode cX14_town 0 = .ok (.aload_n 0, 1) := dk_42 (dk_at dksX14_town_0 0 rfl rfl)
theorem dX14_town_1 : decode cX14_town 1 = .ok (.iconst 0, 1) := dk_3 (dk_at dksX14_town_0 1 rfl rfl)
theorem dX14_town_2 : decode cX14_town 2 = .ok (.putfield 3, 3) := dk_181 0 3 (dk_at dksX14_town_0 2 rfl rfl)
theorem dX14_town_5 : decode cX14_town 5 = .ok (.aload_n 0, 1) := dk_42 (dk_at dksX14_town_0 5 rfl rfl)
theorem dX14_town_6 : decode cX14_town 6 = .ok (.bipush 76, 2) := dk_16 76 (dk_at dksX14_town_0 6 rfl rfl)
theorem dX14_town_8 : decode cX14_town 8 = .ok (.invokevirtual 193, 3) := dk_182 0 193 (dk_at dksX14_town_0 8 rfl rfl)
theorem dX14_town_11 : decode cX14_town 11 = .ok (.istore_n 1, 1) := dk_60 (dk_at dksX14_town_0 11 rfl rfl)
theorem dX14_town_12 : decode cX14_town 12 = .ok (.aload_n 0, 1) := dk_42 (dk_at dksX14_town_0 12 rfl rfl)
theorem dX14_town_13 : decode cX14_town 13 = .ok (.iconst 0, 1) := dk_3 (dk_at dksX14_town_0 13 rfl rfl)
theorem dX14_town_14 : decode cX14_town 14 = .ok (.putfield 185, 3) := dk_181 0 185 (dk_at dksX14_town_0 14 rfl rfl)
theorem dX14_town_17 : decode cX14_town 17 = .ok (.iconst 1, 1) := dk_4 (dk_at dksX14_town_0 17 rfl rfl)
theorem dX14_town_18 : decode cX14_town 18 = .ok (.istore_n 2, 1) := dk_61 (dk_at dksX14_town_0 18 rfl rfl)
theorem dX14_town_19 : decode cX14_town 19 = .ok (.iload_n 1, 1) := dk_27 (dk_at dksX14_town_0 19 rfl rfl)
theorem dX14_town_20 : decode cX14_town 20 = .ok (.ifCond .le 7, 3) := dk_158 0 7 (dk_at dksX14_town_0 20 rfl rfl)
theorem dX14_town_23 : decode cX14_town 23 = .ok (.iconst 1, 1) := dk_4 (dk_at dksX14_town_0 23 rfl rfl)
theorem dX14_town_24 : decode cX14_town 24 = .ok (.goto 4, 3) := dk_167 0 4 (dk_at dksX14_town_1 0 rfl rfl)
theorem dX14_town_27 : decode cX14_town 27 = .ok (.iconst 0, 1) := dk_3 (dk_at dksX14_town_1 3 rfl rfl)
theorem dX14_town_28 : decode cX14_town 28 = .ok (.istore_n 3, 1) := dk_62 (dk_at dksX14_town_1 4 rfl rfl)
theorem dX14_town_29 : decode cX14_town 29 = .ok (.iload_n 3, 1) := dk_29 (dk_at dksX14_town_1 5 rfl rfl)
theorem dX14_town_30 : decode cX14_town 30 = .ok (.ifCond .eq 30, 3) := dk_153 0 30 (dk_at dksX14_town_1 6 rfl rfl)
theorem dX14_town_33 : decode cX14_town 33 = .ok (.aload_n 0, 1) := dk_42 (dk_at dksX14_town_1 9 rfl rfl)
theorem dX14_town_34 : decode cX14_town 34 = .ok (.invokevirtual 196, 3) := dk_182 0 196 (dk_at dksX14_town_1 10 rfl rfl)
theorem dX14_town_37 : decode cX14_town 37 = .ok (.istore_n 2, 1) := dk_61 (dk_at dksX14_town_1 13 rfl rfl)
theorem dX14_town_38 : decode cX14_town 38 = .ok (.iload_n 2, 1) := dk_28 (dk_at dksX14_town_1 14 rfl rfl)
theorem dX14_town_39 : decode cX14_town 39 = .ok (.ifCond .eq 16, 3) := dk_153 0 16 (dk_at dksX14_town_1 15 rfl rfl)
theorem dX14_town_42 : decode cX14_town 42 = .ok (.aload_n 0, 1) := dk_42 (dk_at dksX14_town_1 18 rfl rfl)
theorem dX14_town_43 : decode cX14_town 43 = .ok (.bipush 59, 2) := dk_16 59 (dk_at dksX14_town_1 19 rfl rfl)
theorem dX14_town_45 : decode cX14_town 45 = .ok (.invokevirtual 178, 3) := dk_182 0 178 (dk_at dksX14_town_1 21 rfl rfl)
theorem dX14_town_48 : decode cX14_town 48 = .ok (.ifCond .eq 7, 3) := dk_153 0 7 (dk_at dksX14_town_2 0 rfl rfl)
theorem dX14_town_51 : decode cX14_town 51 = .ok (.iconst 1, 1) := dk_4 (dk_at dksX14_town_2 3 rfl rfl)
theorem dX14_town_52 : decode cX14_town 52 = .ok (.goto 4, 3) := dk_167 0 4 (dk_at dksX14_town_2 4 rfl rfl)
theorem dX14_town_55 : decode cX14_town 55 = .ok (.iconst 0, 1) := dk_3 (dk_at dksX14_town_2 7 rfl rfl)
theorem dX14_town_56 : decode cX14_town 56 = .ok (.istore_n 3, 1) := dk_62 (dk_at dksX14_town_2 8 rfl rfl)
theorem dX14_town_57 : decode cX14_town 57 = .ok (.goto (-28), 3) := dk_167 255 228 (dk_at dksX14_town_2 9 rfl rfl)
theorem dX14_town_60 : decode cX14_town 60 = .ok (.aload_n 0, 1) := dk_42 (dk_at dksX14_town_2 12 rfl rfl)
theorem dX14_town_61 : decode cX14_town 61 = .ok (.iload_n 1, 1) := dk_27 (dk_at dksX14_town_2 13 rfl rfl)
theorem dX14_town_62 : decode cX14_town 62 = .ok (.bipush 76, 2) := dk_16 76 (dk_at dksX14_town_2 14 rfl rfl)
theorem dX14_town_64 : decode cX14_town 64 = .ok (.iload_n 2, 1) := dk_28 (dk_at dksX14_town_2 16 rfl rfl)
theorem dX14_town_65 : decode cX14_town 65 = .ok (.invokevirtual 199, 3) := dk_182 0 199 (dk_at dksX14_town_2 17 rfl rfl)
theorem dX14_town_68 : decode cX14_town 68 = .ok (.istore 4, 2) := dk_54 4 (dk_at dksX14_town_2 20 rfl rfl)
theorem dX14_town_70 : decode cX14_town 70 = .ok (.iload 4, 2) := dk_21 4 (dk_at dksX14_town_2 22 rfl rfl)
theorem dX14_town_72 : decode cX14_town 72 = .ok (.ifCond .ge 6, 3) := dk_156 0 6 (dk_at dksX14_town_3 0 rfl rfl)
theorem dX14_town_75 : decode cX14_town 75 = .ok (.iload 4, 2) := dk_21 4 (dk_at dksX14_town_3 3 rfl rfl)
theorem dX14_town_77 : decode cX14_town 77 = .ok (.ireturn, 1) := dk_172 (dk_at dksX14_town_3 5 rfl rfl)
theorem dX14_town_78 : decode cX14_town 78 = .ok (.iconst 0, 1) := dk_3 (dk_at dksX14_town_3 6 rfl rfl)
theorem dX14_town_79 : decode cX14_town 79 = .ok (.istore 5, 2) := dk_54 5 (dk_at dksX14_town_3 7 rfl rfl)
theorem dX14_town_81 : decode cX14_town 81 = .ok (.iload 5, 2) := dk_21 5 (dk_at dksX14_town_3 9 rfl rfl)
theorem dX14_town_83 : decode cX14_town 83 = .ok (.aload_n 0, 1) := dk_42 (dk_at dksX14_town_3 11 rfl rfl)
theorem dX14_town_84 : decode cX14_town 84 = .ok (.getfield 185, 3) := dk_180 0 185 (dk_at dksX14_town_3 12 rfl rfl)
theorem dX14_town_87 : decode cX14_town 87 = .ok (.if_icmp .ge 54, 3) := dk_162 0 54 (dk_at dksX14_town_3 15 rfl rfl)
theorem dX14_town_90 : decode cX14_town 90 = .ok (.aload_n 0, 1) := dk_42 (dk_at dksX14_town_3 18 rfl rfl)
theorem dX14_town_91 : decode cX14_town 91 = .ok (.getfield 117, 3) := dk_180 0 117 (dk_at dksX14_town_3 19 rfl rfl)
theorem dX14_town_94 : decode cX14_town 94 = .ok (.iload 5, 2) := dk_21 5 (dk_at dksX14_town_3 22 rfl rfl)
theorem dX14_town_96 : decode cX14_town 96 = .ok (.iadd, 1) := dk_96 (dk_at dksX14_town_4 0 rfl rfl)
theorem dX14_town_97 : decode cX14_town 97 = .ok (.istore 6, 2) := dk_54 6 (dk_at dksX14_town_4 1 rfl rfl)
theorem dX14_town_99 : decode cX14_town 99 = .ok (.aload_n 0, 1) := dk_42 (dk_at dksX14_town_4 3 rfl rfl)
theorem dX14_town_100 : decode cX14_town 100 = .ok (.getfield 44, 3) := dk_180 0 44 (dk_at dksX14_town_4 4 rfl rfl)
theorem dX14_town_103 : decode cX14_town 103 = .ok (.iload 6, 2) := dk_21 6 (dk_at dksX14_town_4 7 rfl rfl)
theorem dX14_town_105 : decode cX14_town 105 = .ok (.aload_n 0, 1) := dk_42 (dk_at dksX14_town_4 9 rfl rfl)
theorem dX14_town_106 : decode cX14_town 106 = .ok (.getfield 53, 3) := dk_180 0 53 (dk_at dksX14_town_4 10 rfl rfl)
theorem dX14_town_109 : decode cX14_town 109 = .ok (.iload 6, 2) := dk_21 6 (dk_at dksX14_town_4 13 rfl rfl)
theorem dX14_town_111 : decode cX14_town 111 = .ok (.iaload, 1) := dk_46 (dk_at dksX14_town_4 15 rfl rfl)
theorem dX14_town_112 : decode cX14_town 112 = .ok (.iastore, 1) := dk_79 (dk_at dksX14_town_4 16 rfl rfl)
theorem dX14_town_113 : decode cX14_town 113 = .ok (.aload_n 0, 1) := dk_42 (dk_at dksX14_town_4 17 rfl rfl)
theorem dX14_town_114 : decode cX14_town 114 = .ok (.getfield 28, 3) := dk_180 0 28 (dk_at dksX14_town_4 18 rfl rfl)
theorem dX14_town_117 : decode cX14_town 117 = .ok (.iload 6, 2) := dk_21 6 (dk_at dksX14_town_4 21 rfl rfl)
theorem dX14_town_119 : decode cX14_town 119 = .ok (.aload_n 0, 1) := dk_42 (dk_at dksX14_town_4 23 rfl rfl)
theorem dX14_town_120 : decode cX14_town 120 = .ok (.getfield 56, 3) := dk_180 0 56 (dk_at dksX14_town_5 0 rfl rfl)
theorem dX14_town_123 : decode cX14_town 123 = .ok (.iload 6, 2) := dk_21 6 (dk_at dksX14_town_5 3 rfl rfl)
theorem dX14_town_125 : decode cX14_town 125 = .ok (.iaload, 1) := dk_46 (dk_at dksX14_town_5 5 rfl rfl)
theorem dX14_town_126 : decode cX14_town 126 = .ok (.iastore, 1) := dk_79 (dk_at dksX14_town_5 6 rfl rfl)
theorem dX14_town_127 : decode cX14_town 127 = .ok (.aload_n 0, 1) := dk_42 (dk_at dksX14_town_5 7 rfl rfl)
theorem dX14_town_128 : decode cX14_town 128 = .ok (.iload 6, 2) := dk_21 6 (dk_at dksX14_town_5 8 rfl rfl)
theorem dX14_town_130 : decode cX14_town 130 = .ok (.iload 6, 2) := dk_21 6 (dk_at dksX14_town_5 10 rfl rfl)
theorem dX14_town_132 : decode cX14_town 132 = .ok (.invokevirtual 203, 3) := dk_182 0 203 (dk_at dksX14_town_5 12 rfl rfl)
theorem dX14_town_135 : decode cX14_town 135 = .ok (.iinc 5 1, 3) := dk_132 5 1 (dk_at dksX14_town_5 15 rfl rfl)
theorem dX14_town_138 : decode cX14_town 138 = .ok (.goto (-57), 3) := dk_167 255 199 (dk_at dksX14_town_5 18 rfl rfl)
theorem dX14_town_141 : decode cX14_town 141 = .ok (.aload_n 0, 1) := dk_42 (dk_at dksX14_town_5 21 rfl rfl)
theorem dX14_town_142 : decode cX14_town 142 = .ok (.dup, 1) := dk_89 (dk_at dksX14_town_5 22 rfl rfl)
theorem dX14_town_143 : decode cX14_town 143 = .ok (.getfield 117, 3) := dk_180 0 117 (dk_at dksX14_town_6 0 rfl rfl)
theorem dX14_town_146 : decode cX14_town 146 = .ok (.aload_n 0, 1) := dk_42 (dk_at dksX14_town_6 3 rfl rfl)
theorem dX14_town_147 : decode cX14_town 147 = .ok (.getfield 185, 3) := dk_180 0 185 (dk_at dksX14_town_6 4 rfl rfl)
theorem dX14_town_150 : decode cX14_town 150 = .ok (.iadd, 1) := dk_96 (dk_at dksX14_town_6 7 rfl rfl)
theorem dX14_town_151 : decode cX14_town 151 = .ok (.putfield 117, 3) := dk_181 0 117 (dk_at dksX14_town_6 8 rfl rfl)
theorem dX14_town_154 : decode cX14_town 154 = .ok (.aload_n 0, 1) := dk_42 (dk_at dksX14_town_6 11 rfl rfl)
theorem dX14_town_155 : decode cX14_town 155 = .ok (.iload_n 1, 1) := dk_27 (dk_at dksX14_town_6 12 rfl rfl)
theorem dX14_town_156 : decode cX14_town 156 = .ok (.ifCond .le 7, 3) := dk_158 0 7 (dk_at dksX14_town_6 13 rfl rfl)
theorem dX14_town_159 : decode cX14_town 159 = .ok (.iconst 0, 1) := dk_3 (dk_at dksX14_town_6 16 rfl rfl)
theorem dX14_town_160 : decode cX14_town 160 = .ok (.goto 7, 3) := dk_167 0 7 (dk_at dksX14_town_6 17 rfl rfl)
theorem dX14_town_163 : decode cX14_town 163 = .ok (.aload_n 0, 1) := dk_42 (dk_at dksX14_town_6 20 rfl rfl)
theorem dX14_town_164 : decode cX14_town 164 = .ok (.getfield 207, 3) := dk_180 0 207 (dk_at dksX14_town_6 21 rfl rfl)
theorem dX14_town_167 : decode cX14_town 167 = .ok (.putfield 207, 3) := dk_181 0 207 (dk_at dksX14_town_7 0 rfl rfl)
theorem dX14_town_170 : decode cX14_town 170 = .ok (.aload_n 0, 1) := dk_42 (dk_at dksX14_town_7 3 rfl rfl)
theorem dX14_town_171 : decode cX14_town 171 = .ok (.getfield 185, 3) := dk_180 0 185 (dk_at dksX14_town_7 4 rfl rfl)
theorem dX14_town_174 : decode cX14_town 174 = .ok (.ireturn, 1) := dk_172 (dk_at dksX14_town_7 7 rfl rfl)
def dkwX14_begins_1 : List UInt8 := [184, 0, 141, 181, 0, 147, 28, 172]
abbrev dktX14_begins_1 : List UInt8 := dkwX14_begins_1 ++ []
def dkwX14_begins_0 : List UInt8 := [42, 180, 0, 132, 61, 42, 3, 181, 0, 132, 42, 3, 181, 0, 135, 42, 3, 181, 0, 138, 42, 28, 27]
abbrev dktX14_begins_0 : List UInt8 := dkwX14_begins_0 ++ dktX14_begins_1
theorem dksX14_begins_0 : cX14_begins.data.toList.drop 0 = dktX14_begins_0 := by decide +kernel
theorem dksX14_begins_1 : cX14_begins.data.toList.drop 23 = dktX14_begins_1 := dk_seg dksX14_begins_0 23 rfl rfl
theorem dX14_begins_0 : decode cX14_begins 0 = .ok (.aload_n 0, 1) := dk_42 (dk_at dksX14_begins_0 0 rfl rfl)
theorem dX14_begins_1 : decode cX14_begins 1 = .ok (.getfield 132, 3) := dk_180 0 132 (dk_at dksX14_begins_0 1 rfl rfl)
theorem dX14_begins_4 : decode cX14_begins 4 = .ok (.istore_n 2, 1) := dk_61 (dk_at dksX14_begins_0 4 rfl rfl)
theorem dX14_begins_5 : decode cX14_begins 5 = .ok (.aload_n 0, 1) := dk_42 (dk_at dksX14_begins_0 5 rfl rfl)
theorem dX14_begins_6 : decode cX14_begins 6 = .ok (.iconst 0, 1) := dk_3 (dk_at dksX14_begins_0 6 rfl rfl)
theorem dX14_begins_7 : decode cX14_begins 7 = .ok (.putfield 132, 3) := dk_181 0 132 (dk_at dksX14_begins_0 7 rfl rfl)
theorem dX14_begins_10 : decode cX14_begins 10 = .ok (.aload_n 0, 1) := dk_42 (dk_at dksX14_begins_0 10 rfl rfl)
theorem dX14_begins_11 : decode cX14_begins 11 = .ok (.iconst 0, 1) := dk_3 (dk_at dksX14_begins_0 11 rfl rfl)
theorem dX14_begins_12 : decode cX14_begins 12 = .ok (.putfield 135, 3) := dk_181 0 135 (dk_at dksX14_begins_0 12 rfl rfl)
theorem dX14_begins_15 : decode cX14_begins 15 = .ok (.aload_n 0, 1) := dk_42 (dk_at dksX14_begins_0 15 rfl rfl)
theorem dX14_begins_16 : decode cX14_begins 16 = .ok (.iconst 0, 1) := dk_3 (dk_at dksX14_begins_0 16 rfl rfl)
theorem dX14_begins_17 : decode cX14_begins 17 = .ok (.putfield 138, 3) := dk_181 0 138 (dk_at dksX14_begins_0 17 rfl rfl)
theorem dX14_begins_20 : decode cX14_begins 20 = .ok (.aload_n 0, 1) := dk_42 (dk_at dksX14_begins_0 20 rfl rfl)
theorem dX14_begins_21 : decode cX14_begins 21 = .ok (.iload_n 2, 1) := dk_28 (dk_at dksX14_begins_0 21 rfl rfl)
theorem dX14_begins_22 : decode cX14_begins 22 = .ok (.iload_n 1, 1) := dk_27 (dk_at dksX14_begins_0 22 rfl rfl)
theorem dX14_begins_23 : decode cX14_begins 23 = .ok (.invokestatic 141, 3) := dk_184 0 141 (dk_at dksX14_begins_1 0 rfl rfl)
theorem dX14_begins_26 : decode cX14_begins 26 = .ok (.putfield 147, 3) := dk_181 0 147 (dk_at dksX14_begins_1 3 rfl rfl)
theorem dX14_begins_29 : decode cX14_begins 29 = .ok (.iload_n 2, 1) := dk_28 (dk_at dksX14_begins_1 6 rfl rfl)
theorem dX14_begins_30 : decode cX14_begins 30 = .ok (.ireturn, 1) := dk_172 (dk_at dksX14_begins_1 7 rfl rfl)
def dkwX14_readsPerson_4 : List UInt8 := [79, 42, 89, 180, 0, 185, 4, 96, 181, 0, 185, 42, 27, 182, 0, 190, 172]
abbrev dktX14_readsPerson_4 : List UInt8 := dkwX14_readsPerson_4 ++ []
def dkwX14_readsPerson_3 : List UInt8 := [153, 0, 25, 42, 18, 188, 182, 0, 174, 156, 0, 5, 3, 172, 42, 180, 0, 56, 27, 42, 4, 182, 0, 181]
abbrev dktX14_readsPerson_3 : List UInt8 := dkwX14_readsPerson_3 ++ dktX14_readsPerson_4
def dkwX14_readsPerson_2 : List UInt8 := [180, 0, 135, 4, 100, 181, 0, 135, 3, 172, 42, 180, 0, 56, 27, 3, 79, 42, 16, 42, 182, 0, 178]
abbrev dktX14_readsPerson_2 : List UInt8 := dkwX14_readsPerson_2 ++ dktX14_readsPerson_3
def dkwX14_readsPerson_1 : List UInt8 := [172, 42, 180, 0, 53, 27, 42, 6, 182, 0, 181, 79, 42, 180, 0, 53, 27, 46, 154, 0, 15, 42, 89]
abbrev dktX14_readsPerson_1 : List UInt8 := dkwX14_readsPerson_1 ++ dktX14_readsPerson_2
def dkwX14_readsPerson_0 : List UInt8 := [42, 180, 0, 117, 42, 180, 0, 185, 96, 60, 42, 182, 0, 158, 153, 0, 9, 27, 16, 8, 160, 0, 5, 3]
abbrev dktX14_readsPerson_0 : List UInt8 := dkwX14_readsPerson_0 ++ dktX14_readsPerson_1
theorem dksX14_readsPerson_0 : cX14_readsPerson.data.toList.drop 0 = dktX14_readsPerson_0 := by decide +kernel
theorem dksX14_readsPerson_1 : cX14_readsPerson.data.toList.drop 24 = dktX14_readsPerson_1 := dk_seg dksX14_readsPerson_0 24 rfl rfl
theorem dksX14_readsPerson_2 : cX14_readsPerson.data.toList.drop 47 = dktX14_readsPerson_2 := dk_seg dksX14_readsPerson_1 23 rfl rfl
theorem dksX14_readsPerson_3 : cX14_readsPerson.data.toList.drop 70 = dktX14_readsPerson_3 := dk_seg dksX14_readsPerson_2 23 rfl rfl
theorem dksX14_readsPerson_4 : cX14_readsPerson.data.toList.drop 94 = dktX14_readsPerson_4 := dk_seg dksX14_readsPerson_3 24 rfl rfl
theorem dX14_readsPerson_0 : decode cX14_readsPerson 0 = .ok (.aload_n 0, 1) := dk_42 (dk_at dksX14_readsPerson_0 0 rfl rfl)
theorem dX14_readsPerson_1 : decode cX14_readsPerson 1 = .ok (.getfield 117, 3) := dk_180 0 117 (dk_at dksX14_readsPerson_0 1 rfl rfl)
theorem dX14_readsPerson_4 : decode cX14_readsPerson 4 = .ok (.aload_n 0, 1) := dk_42 (dk_at dksX14_readsPerson_0 4 rfl rfl)
theorem dX14_readsPerson_5 : decode cX14_readsPerson 5 = .ok (.getfield 185, 3) := dk_180 0 185 (dk_at dksX14_readsPerson_0 5 rfl rfl)
theorem dX14_readsPerson_8 : decode cX14_readsPerson 8 = .ok (.iadd, 1) := dk_96 (dk_at dksX14_readsPerson_0 8 rfl rfl)
theorem dX14_readsPerson_9 : decode cX14_readsPerson 9 = .ok (.istore_n 1, 1) := dk_60 (dk_at dksX14_readsPerson_0 9 rfl rfl)
theorem dX14_readsPerson_10 : decode cX14_readsPerson 10 = .ok (.aload_n 0, 1) := dk_42 (dk_at dksX14_readsPerson_0 10 rfl rfl)
theorem dX14_readsPerson_11 : decode cX14_readsPerson 11 = .ok (.invokevirtual 158, 3) := dk_182 0 158 (dk_at dksX14_readsPerson_0 11 rfl rfl)
theorem dX14_readsPerson_14 : decode cX14_readsPerson 14 = .ok (.ifCond .eq 9, 3) := dk_153 0 9 (dk_at dksX14_readsPerson_0 14 rfl rfl)
theorem dX14_readsPerson_17 : decode cX14_readsPerson 17 = .ok (.iload_n 1, 1) := dk_27 (dk_at dksX14_readsPerson_0 17 rfl rfl)
theorem dX14_readsPerson_18 : decode cX14_readsPerson 18 = .ok (.bipush 8, 2) := dk_16 8 (dk_at dksX14_readsPerson_0 18 rfl rfl)
theorem dX14_readsPerson_20 : decode cX14_readsPerson 20 = .ok (.if_icmp .ne 5, 3) := dk_160 0 5 (dk_at dksX14_readsPerson_0 20 rfl rfl)
theorem dX14_readsPerson_23 : decode cX14_readsPerson 23 = .ok (.iconst 0, 1) := dk_3 (dk_at dksX14_readsPerson_0 23 rfl rfl)
theorem dX14_readsPerson_24 : decode cX14_readsPerson 24 = .ok (.ireturn, 1) := dk_172 (dk_at dksX14_readsPerson_1 0 rfl rfl)
theorem dX14_readsPerson_25 : decode cX14_readsPerson 25 = .ok (.aload_n 0, 1) := dk_42 (dk_at dksX14_readsPerson_1 1 rfl rfl)
theorem dX14_readsPerson_26 : decode cX14_readsPerson 26 = .ok (.getfield 53, 3) := dk_180 0 53 (dk_at dksX14_readsPerson_1 2 rfl rfl)
theorem dX14_readsPerson_29 : decode cX14_readsPerson 29 = .ok (.iload_n 1, 1) := dk_27 (dk_at dksX14_readsPerson_1 5 rfl rfl)
theorem dX14_readsPerson_30 : decode cX14_readsPerson 30 = .ok (.aload_n 0, 1) := dk_42 (dk_at dksX14_readsPerson_1 6 rfl rfl)
theorem dX14_readsPerson_31 : decode cX14_readsPerson 31 = .ok (.iconst 3, 1) := dk_6 (dk_at dksX14_readsPerson_1 7 rfl rfl)
theorem dX14_readsPerson_32 : decode cX14_readsPerson 32 = .ok (.invokevirtual 181, 3) := dk_182 0 181 (dk_at dksX14_readsPerson_1 8 rfl rfl)
theorem dX14_readsPerson_35 : decode cX14_readsPerson 35 = .ok (.iastore, 1) := dk_79 (dk_at dksX14_readsPerson_1 11 rfl rfl)
theorem dX14_readsPerson_36 : decode cX14_readsPerson 36 = .ok (.aload_n 0, 1) := dk_42 (dk_at dksX14_readsPerson_1 12 rfl rfl)
theorem dX14_readsPerson_37 : decode cX14_readsPerson 37 = .ok (.getfield 53, 3) := dk_180 0 53 (dk_at dksX14_readsPerson_1 13 rfl rfl)
theorem dX14_readsPerson_40 : decode cX14_readsPerson 40 = .ok (.iload_n 1, 1) := dk_27 (dk_at dksX14_readsPerson_1 16 rfl rfl)
theorem dX14_readsPerson_41 : decode cX14_readsPerson 41 = .ok (.iaload, 1) := dk_46 (dk_at dksX14_readsPerson_1 17 rfl rfl)
theorem dX14_readsPerson_42 : decode cX14_readsPerson 42 = .ok (.ifCond .ne 15, 3) := dk_154 0 15 (dk_at dksX14_readsPerson_1 18 rfl rfl)
theorem dX14_readsPerson_45 : decode cX14_readsPerson 45 = .ok (.aload_n 0, 1) := dk_42 (dk_at dksX14_readsPerson_1 21 rfl rfl)
theorem dX14_readsPerson_46 : decode cX14_readsPerson 46 = .ok (.dup, 1) := dk_89 (dk_at dksX14_readsPerson_1 22 rfl rfl)
theorem dX14_readsPerson_47 : decode cX14_readsPerson 47 = .ok (.getfield 135, 3) := dk_180 0 135 (dk_at dksX14_readsPerson_2 0 rfl rfl)
theorem dX14_readsPerson_50 : decode cX14_readsPerson 50 = .ok (.iconst 1, 1) := dk_4 (dk_at dksX14_readsPerson_2 3 rfl rfl)
theorem dX14_readsPerson_51 : decode cX14_readsPerson 51 = .ok (.isub, 1) := dk_100 (dk_at dksX14_readsPerson_2 4 rfl rfl)
theorem dX14_readsPerson_52 : decode cX14_readsPerson 52 = .ok (.putfield 135, 3) := dk_181 0 135 (dk_at dksX14_readsPerson_2 5 rfl rfl)
theorem dX14_readsPerson_55 : decode cX14_readsPerson 55 = .ok (.iconst 0, 1) := dk_3 (dk_at dksX14_readsPerson_2 8 rfl rfl)
theorem dX14_readsPerson_56 : decode cX14_readsPerson 56 = .ok (.ireturn, 1) := dk_172 (dk_at dksX14_readsPerson_2 9 rfl rfl)
theorem dX14_readsPerson_57 : decode cX14_readsPerson 57 = .ok (.aload_n 0, 1) := dk_42 (dk_at dksX14_readsPerson_2 10 rfl rfl)
theorem dX14_readsPerson_58 : decode cX14_readsPerson 58 = .ok (.getfield 56, 3) := dk_180 0 56 (dk_at dksX14_readsPerson_2 11 rfl rfl)
theorem dX14_readsPerson_61 : decode cX14_readsPerson 61 = .ok (.iload_n 1, 1) := dk_27 (dk_at dksX14_readsPerson_2 14 rfl rfl)
theorem dX14_readsPerson_62 : decode cX14_readsPerson 62 = .ok (.iconst 0, 1) := dk_3 (dk_at dksX14_readsPerson_2 15 rfl rfl)
theorem dX14_readsPerson_63 : decode cX14_readsPerson 63 = .ok (.iastore, 1) := dk_79 (dk_at dksX14_readsPerson_2 16 rfl rfl)
theorem dX14_readsPerson_64 : decode cX14_readsPerson 64 = .ok (.aload_n 0, 1) := dk_42 (dk_at dksX14_readsPerson_2 17 rfl rfl)
theorem dX14_readsPerson_65 : decode cX14_readsPerson 65 = .ok (.bipush 42, 2) := dk_16 42 (dk_at dksX14_readsPerson_2 18 rfl rfl)
theorem dX14_readsPerson_67 : decode cX14_readsPerson 67 = .ok (.invokevirtual 178, 3) := dk_182 0 178 (dk_at dksX14_readsPerson_2 20 rfl rfl)
theorem dX14_readsPerson_70 : decode cX14_readsPerson 70 = .ok (.ifCond .eq 25, 3) := dk_153 0 25 (dk_at dksX14_readsPerson_3 0 rfl rfl)
theorem dX14_readsPerson_73 : decode cX14_readsPerson 73 = .ok (.aload_n 0, 1) := dk_42 (dk_at dksX14_readsPerson_3 3 rfl rfl)
theorem dX14_readsPerson_74 : decode cX14_readsPerson 74 = .ok (.ldc 188, 2) := dk_18 188 (dk_at dksX14_readsPerson_3 4 rfl rfl)
theorem dX14_readsPerson_76 : decode cX14_readsPerson 76 = .ok (.invokevirtual 174, 3) := dk_182 0 174 (dk_at dksX14_readsPerson_3 6 rfl rfl)
theorem dX14_readsPerson_79 : decode cX14_readsPerson 79 = .ok (.ifCond .ge 5, 3) := dk_156 0 5 (dk_at dksX14_readsPerson_3 9 rfl rfl)
theorem dX14_readsPerson_82 : decode cX14_readsPerson 82 = .ok (.iconst 0, 1) := dk_3 (dk_at dksX14_readsPerson_3 12 rfl rfl)
theorem dX14_readsPerson_83 : decode cX14_readsPerson 83 = .ok (.ireturn, 1) := dk_172 (dk_at dksX14_readsPerson_3 13 rfl rfl)
theorem dX14_readsPerson_84 : decode cX14_readsPerson 84 = .ok (.aload_n 0, 1) := dk_42 (dk_at dksX14_readsPerson_3 14 rfl rfl)
theorem dX14_readsPerson_85 : decode cX14_readsPerson 85 = .ok (.getfield 56, 3) := dk_180 0 56 (dk_at dksX14_readsPerson_3 15 rfl rfl)
theorem dX14_readsPerson_88 : decode cX14_readsPerson 88 = .ok (.iload_n 1, 1) := dk_27 (dk_at dksX14_readsPerson_3 18 rfl rfl)
theorem dX14_readsPerson_89 : decode cX14_readsPerson 89 = .ok (.aload_n 0, 1) := dk_42 (dk_at dksX14_readsPerson_3 19 rfl rfl)
theorem dX14_readsPerson_90 : decode cX14_readsPerson 90 = .ok (.iconst 1, 1) := dk_4 (dk_at dksX14_readsPerson_3 20 rfl rfl)
theorem dX14_readsPerson_91 : decode cX14_readsPerson 91 = .ok (.invokevirtual 181, 3) := dk_182 0 181 (dk_at dksX14_readsPerson_3 21 rfl rfl)
theorem dX14_readsPerson_94 : decode cX14_readsPerson 94 = .ok (.iastore, 1) := dk_79 (dk_at dksX14_readsPerson_4 0 rfl rfl)
theorem dX14_readsPerson_95 : decode cX14_readsPerson 95 = .ok (.aload_n 0, 1) := dk_42 (dk_at dksX14_readsPerson_4 1 rfl rfl)
theorem dX14_readsPerson_96 : decode cX14_readsPerson 96 = .ok (.dup, 1) := dk_89 (dk_at dksX14_readsPerson_4 2 rfl rfl)
theorem dX14_readsPerson_97 : decode cX14_readsPerson 97 = .ok (.getfield 185, 3) := dk_180 0 185 (dk_at dksX14_readsPerson_4 3 rfl rfl)
theorem dX14_readsPerson_100 : decode cX14_readsPerson 100 = .ok (.iconst 1, 1) := dk_4 (dk_at dksX14_readsPerson_4 6 rfl rfl)
theorem dX14_readsPerson_101 : decode cX14_readsPerson 101 = .ok (.iadd, 1) := dk_96 (dk_at dksX14_readsPerson_4 7 rfl rfl)
theorem dX14_readsPerson_102 : decode cX14_readsPerson 102 = .ok (.putfield 185, 3) := dk_181 0 185 (dk_at dksX14_readsPerson_4 8 rfl rfl)
theorem dX14_readsPerson_105 : decode cX14_readsPerson 105 = .ok (.aload_n 0, 1) := dk_42 (dk_at dksX14_readsPerson_4 11 rfl rfl)
theorem dX14_readsPerson_106 : decode cX14_readsPerson 106 = .ok (.iload_n 1, 1) := dk_27 (dk_at dksX14_readsPerson_4 12 rfl rfl)
theorem dX14_readsPerson_107 : decode cX14_readsPerson 107 = .ok (.invokevirtual 190, 3) := dk_182 0 190 (dk_at dksX14_readsPerson_4 13 rfl rfl)
theorem dX14_readsPerson_110 : decode cX14_readsPerson 110 = .ok (.ireturn, 1) := dk_172 (dk_at dksX14_readsPerson_4 16 rfl rfl)
def dkwX14_isDigit_1 : List UInt8 := [20, 0, 156, 184, 0, 120, 153, 0, 7, 4, 167, 0, 4, 3, 172]
abbrev dktX14_isDigit_1 : List UInt8 := dkwX14_isDigit_1 ++ []
def dkwX14_isDigit_0 : List UInt8 := [42, 180, 0, 135, 42, 180, 0, 147, 162, 0, 29, 42, 180, 0, 50, 42, 180, 0, 135, 46, 133, 20, 0, 154]
abbrev dktX14_isDigit_0 : List UInt8 := dkwX14_isDigit_0 ++ dktX14_isDigit_1
theorem dksX14_isDigit_0 : cX14_isDigit.data.toList.drop 0 = dktX14_isDigit_0 := by decide +kernel
theorem dksX14_isDigit_1 : cX14_isDigit.data.toList.drop 24 = dktX14_isDigit_1 := dk_seg dksX14_isDigit_0 24 rfl rfl
theorem dX14_isDigit_0 : decode cX14_isDigit 0 = .ok (.aload_n 0, 1) := dk_42 (dk_at dksX14_isDigit_0 0 rfl rfl)
theorem dX14_isDigit_1 : decode cX14_isDigit 1 = .ok (.getfield 135, 3) := dk_180 0 135 (dk_at dksX14_isDigit_0 1 rfl rfl)
theorem dX14_isDigit_4 : decode cX14_isDigit 4 = .ok (.aload_n 0, 1) := dk_42 (dk_at dksX14_isDigit_0 4 rfl rfl)
theorem dX14_isDigit_5 : decode cX14_isDigit 5 = .ok (.getfield 147, 3) := dk_180 0 147 (dk_at dksX14_isDigit_0 5 rfl rfl)
theorem dX14_isDigit_8 : decode cX14_isDigit 8 = .ok (.if_icmp .ge 29, 3) := dk_162 0 29 (dk_at dksX14_isDigit_0 8 rfl rfl)
theorem dX14_isDigit_11 : decode cX14_isDigit 11 = .ok (.aload_n 0, 1) := dk_42 (dk_at dksX14_isDigit_0 11 rfl rfl)
theorem dX14_isDigit_12 : decode cX14_isDigit 12 = .ok (.getfield 50, 3) := dk_180 0 50 (dk_at dksX14_isDigit_0 12 rfl rfl)
theorem dX14_isDigit_15 : decode cX14_isDigit 15 = .ok (.aload_n 0, 1) := dk_42 (dk_at dksX14_isDigit_0 15 rfl rfl)
theorem dX14_isDigit_16 : decode cX14_isDigit 16 = .ok (.getfield 135, 3) := dk_180 0 135 (dk_at dksX14_isDigit_0 16 rfl rfl)
theorem dX14_isDigit_19 : decode cX14_isDigit 19 = .ok (.iaload, 1) := dk_46 (dk_at dksX14_isDigit_0 19 rfl rfl)
theorem dX14_isDigit_20 : decode cX14_isDigit 20 = .ok (.i2l, 1) := dk_133 (dk_at dksX14_isDigit_0 20 rfl rfl)
theorem dX14_isDigit_21 : decode cX14_isDigit 21 = .ok (.ldc2_w 154, 3) := dk_20 0 154 (dk_at dksX14_isDigit_0 21 rfl rfl)
theorem dX14_isDigit_24 : decode cX14_isDigit 24 = .ok (.ldc2_w 156, 3) := dk_20 0 156 (dk_at dksX14_isDigit_1 0 rfl rfl)
theorem dX14_isDigit_27 : decode cX14_isDigit 27 = .ok (.invokestatic 120, 3) := dk_184 0 120 (dk_at dksX14_isDigit_1 3 rfl rfl)
theorem dX14_isDigit_30 : decode cX14_isDigit 30 = .ok (.ifCond .eq 7, 3) := dk_153 0 7 (dk_at dksX14_isDigit_1 6 rfl rfl)
theorem dX14_isDigit_33 : decode cX14_isDigit 33 = .ok (.iconst 1, 1) := dk_4 (dk_at dksX14_isDigit_1 9 rfl rfl)
theorem dX14_isDigit_34 : decode cX14_isDigit 34 = .ok (.goto 4, 3) := dk_167 0 4 (dk_at dksX14_isDigit_1 10 rfl rfl)
theorem dX14_isDigit_37 : decode cX14_isDigit 37 = .ok (.iconst 0, 1) := dk_3 (dk_at dksX14_isDigit_1 13 rfl rfl)
theorem dX14_isDigit_38 : decode cX14_isDigit 38 = .ok (.ireturn, 1) := dk_172 (dk_at dksX14_isDigit_1 14 rfl rfl)
def dkwX14_number_2 : List UInt8 := [167, 255, 213, 28, 172]
abbrev dktX14_number_2 : List UInt8 := dkwX14_number_2 ++ []
def dkwX14_number_1 : List UInt8 := [42, 180, 0, 135, 46, 96, 16, 48, 100, 61, 42, 89, 180, 0, 135, 4, 96, 181, 0, 135, 132, 3, 1]
abbrev dktX14_number_1 : List UInt8 := dkwX14_number_1 ++ dktX14_number_2
def dkwX14_number_0 : List UInt8 := [3, 61, 3, 62, 29, 27, 162, 0, 44, 42, 182, 0, 158, 153, 0, 37, 16, 10, 28, 104, 42, 180, 0, 50]
abbrev dktX14_number_0 : List UInt8 := dkwX14_number_0 ++ dktX14_number_1
theorem dksX14_number_0 : cX14_number.data.toList.drop 0 = dktX14_number_0 := by decide +kernel
theorem dksX14_number_1 : cX14_number.data.toList.drop 24 = dktX14_number_1 := dk_seg dksX14_number_0 24 rfl rfl
theorem dksX14_number_2 : cX14_number.data.toList.drop 47 = dktX14_number_2 := dk_seg dksX14_number_1 23 rfl rfl
theorem dX14_number_0 : decode cX14_number 0 = .ok (.iconst 0, 1) := dk_3 (dk_at dksX14_number_0 0 rfl rfl)
theorem dX14_number_1 : decode cX14_number 1 = .ok (.istore_n 2, 1) := dk_61 (dk_at dksX14_number_0 1 rfl rfl)
theorem dX14_number_2 : decode cX14_number 2 = .ok (.iconst 0, 1) := dk_3 (dk_at dksX14_number_0 2 rfl rfl)
theorem dX14_number_3 : decode cX14_number 3 = .ok (.istore_n 3, 1) := dk_62 (dk_at dksX14_number_0 3 rfl rfl)
theorem dX14_number_4 : decode cX14_number 4 = .ok (.iload_n 3, 1) := dk_29 (dk_at dksX14_number_0 4 rfl rfl)
theorem dX14_number_5 : decode cX14_number 5 = .ok (.iload_n 1, 1) := dk_27 (dk_at dksX14_number_0 5 rfl rfl)
theorem dX14_number_6 : decode cX14_number 6 = .ok (.if_icmp .ge 44, 3) := dk_162 0 44 (dk_at dksX14_number_0 6 rfl rfl)
theorem dX14_number_9 : decode cX14_number 9 = .ok (.aload_n 0, 1) := dk_42 (dk_at dksX14_number_0 9 rfl rfl)
theorem dX14_number_10 : decode cX14_number 10 = .ok (.invokevirtual 158, 3) := dk_182 0 158 (dk_at dksX14_number_0 10 rfl rfl)
theorem dX14_number_13 : decode cX14_number 13 = .ok (.ifCond .eq 37, 3) := dk_153 0 37 (dk_at dksX14_number_0 13 rfl rfl)
theorem dX14_number_16 : decode cX14_number 16 = .ok (.bipush 10, 2) := dk_16 10 (dk_at dksX14_number_0 16 rfl rfl)
theorem dX14_number_18 : decode cX14_number 18 = .ok (.iload_n 2, 1) := dk_28 (dk_at dksX14_number_0 18 rfl rfl)
theorem dX14_number_19 : decode cX14_number 19 = .ok (.imul, 1) := dk_104 (dk_at dksX14_number_0 19 rfl rfl)
theorem dX14_number_20 : decode cX14_number 20 = .ok (.aload_n 0, 1) := dk_42 (dk_at dksX14_number_0 20 rfl rfl)
theorem dX14_number_21 : decode cX14_number 21 = .ok (.getfield 50, 3) := dk_180 0 50 (dk_at dksX14_number_0 21 rfl rfl)
theorem dX14_number_24 : decode cX14_number 24 = .ok (.aload_n 0, 1) := dk_42 (dk_at dksX14_number_1 0 rfl rfl)
theorem dX14_number_25 : decode cX14_number 25 = .ok (.getfield 135, 3) := dk_180 0 135 (dk_at dksX14_number_1 1 rfl rfl)
theorem dX14_number_28 : decode cX14_number 28 = .ok (.iaload, 1) := dk_46 (dk_at dksX14_number_1 4 rfl rfl)
theorem dX14_number_29 : decode cX14_number 29 = .ok (.iadd, 1) := dk_96 (dk_at dksX14_number_1 5 rfl rfl)
theorem dX14_number_30 : decode cX14_number 30 = .ok (.bipush 48, 2) := dk_16 48 (dk_at dksX14_number_1 6 rfl rfl)
theorem dX14_number_32 : decode cX14_number 32 = .ok (.isub, 1) := dk_100 (dk_at dksX14_number_1 8 rfl rfl)
theorem dX14_number_33 : decode cX14_number 33 = .ok (.istore_n 2, 1) := dk_61 (dk_at dksX14_number_1 9 rfl rfl)
theorem dX14_number_34 : decode cX14_number 34 = .ok (.aload_n 0, 1) := dk_42 (dk_at dksX14_number_1 10 rfl rfl)
theorem dX14_number_35 : decode cX14_number 35 = .ok (.dup, 1) := dk_89 (dk_at dksX14_number_1 11 rfl rfl)
theorem dX14_number_36 : decode cX14_number 36 = .ok (.getfield 135, 3) := dk_180 0 135 (dk_at dksX14_number_1 12 rfl rfl)
theorem dX14_number_39 : decode cX14_number 39 = .ok (.iconst 1, 1) := dk_4 (dk_at dksX14_number_1 15 rfl rfl)
theorem dX14_number_40 : decode cX14_number 40 = .ok (.iadd, 1) := dk_96 (dk_at dksX14_number_1 16 rfl rfl)
theorem dX14_number_41 : decode cX14_number 41 = .ok (.putfield 135, 3) := dk_181 0 135 (dk_at dksX14_number_1 17 rfl rfl)
theorem dX14_number_44 : decode cX14_number 44 = .ok (.iinc 3 1, 3) := dk_132 3 1 (dk_at dksX14_number_1 20 rfl rfl)
theorem dX14_number_47 : decode cX14_number 47 = .ok (.goto (-43), 3) := dk_167 255 213 (dk_at dksX14_number_2 0 rfl rfl)
theorem dX14_number_50 : decode cX14_number 50 = .ok (.iload_n 2, 1) := dk_28 (dk_at dksX14_number_2 3 rfl rfl)
theorem dX14_number_51 : decode cX14_number 51 = .ok (.ireturn, 1) := dk_172 (dk_at dksX14_number_2 4 rfl rfl)
def dkwX14_takes_1 : List UInt8 := [4, 167, 0, 4, 3, 61, 42, 89, 180, 0, 135, 28, 184, 0, 150, 96, 181, 0, 135, 28, 172]
abbrev dktX14_takes_1 : List UInt8 := dkwX14_takes_1 ++ []
def dkwX14_takes_0 : List UInt8 := [42, 180, 0, 135, 42, 180, 0, 147, 162, 0, 20, 42, 180, 0, 50, 42, 180, 0, 135, 46, 27, 160, 0, 7]
abbrev dktX14_takes_0 : List UInt8 := dkwX14_takes_0 ++ dktX14_takes_1
theorem dksX14_takes_0 : cX14_takes.data.toList.drop 0 = dktX14_takes_0 := by decide +kernel
theorem dksX14_takes_1 : cX14_takes.data.toList.drop 24 = dktX14_takes_1 := dk_seg dksX14_takes_0 24 rfl rfl
theorem dX14_takes_0 : decode cX14_takes 0 = .ok (.aload_n 0, 1) := dk_42 (dk_at dksX14_takes_0 0 rfl rfl)
theorem dX14_takes_1 : decode cX14_takes 1 = .ok (.getfield 135, 3) := dk_180 0 135 (dk_at dksX14_takes_0 1 rfl rfl)
theorem dX14_takes_4 : decode cX14_takes 4 = .ok (.aload_n 0, 1) := dk_42 (dk_at dksX14_takes_0 4 rfl rfl)
theorem dX14_takes_5 : decode cX14_takes 5 = .ok (.getfield 147, 3) := dk_180 0 147 (dk_at dksX14_takes_0 5 rfl rfl)
theorem dX14_takes_8 : decode cX14_takes 8 = .ok (.if_icmp .ge 20, 3) := dk_162 0 20 (dk_at dksX14_takes_0 8 rfl rfl)
theorem dX14_takes_11 : decode cX14_takes 11 = .ok (.aload_n 0, 1) := dk_42 (dk_at dksX14_takes_0 11 rfl rfl)
theorem dX14_takes_12 : decode cX14_takes 12 = .ok (.getfield 50, 3) := dk_180 0 50 (dk_at dksX14_takes_0 12 rfl rfl)
theorem dX14_takes_15 : decode cX14_takes 15 = .ok (.aload_n 0, 1) := dk_42 (dk_at dksX14_takes_0 15 rfl rfl)
theorem dX14_takes_16 : decode cX14_takes 16 = .ok (.getfield 135, 3) := dk_180 0 135 (dk_at dksX14_takes_0 16 rfl rfl)
theorem dX14_takes_19 : decode cX14_takes 19 = .ok (.iaload, 1) := dk_46 (dk_at dksX14_takes_0 19 rfl rfl)
theorem dX14_takes_20 : decode cX14_takes 20 = .ok (.iload_n 1, 1) := dk_27 (dk_at dksX14_takes_0 20 rfl rfl)
theorem dX14_takes_21 : decode cX14_takes 21 = .ok (.if_icmp .ne 7, 3) := dk_160 0 7 (dk_at dksX14_takes_0 21 rfl rfl)
theorem dX14_takes_24 : decode cX14_takes 24 = .ok (.iconst 1, 1) := dk_4 (dk_at dksX14_takes_1 0 rfl rfl)
theorem dX14_takes_25 : decode cX14_takes 25 = .ok (.goto 4, 3) := dk_167 0 4 (dk_at dksX14_takes_1 1 rfl rfl)
theorem dX14_takes_28 : decode cX14_takes 28 = .ok (.iconst 0, 1) := dk_3 (dk_at dksX14_takes_1 4 rfl rfl)
theorem dX14_takes_29 : decode cX14_takes 29 = .ok (.istore_n 2, 1) := dk_61 (dk_at dksX14_takes_1 5 rfl rfl)
theorem dX14_takes_30 : decode cX14_takes 30 = .ok (.aload_n 0, 1) := dk_42 (dk_at dksX14_takes_1 6 rfl rfl)
theorem dX14_takes_31 : decode cX14_takes 31 = .ok (.dup, 1) := dk_89 (dk_at dksX14_takes_1 7 rfl rfl)
theorem dX14_takes_32 : decode cX14_takes 32 = .ok (.getfield 135, 3) := dk_180 0 135 (dk_at dksX14_takes_1 8 rfl rfl)
theorem dX14_takes_35 : decode cX14_takes 35 = .ok (.iload_n 2, 1) := dk_28 (dk_at dksX14_takes_1 11 rfl rfl)
theorem dX14_takes_36 : decode cX14_takes 36 = .ok (.invokestatic 150, 3) := dk_184 0 150 (dk_at dksX14_takes_1 12 rfl rfl)
theorem dX14_takes_39 : decode cX14_takes 39 = .ok (.iadd, 1) := dk_96 (dk_at dksX14_takes_1 15 rfl rfl)
theorem dX14_takes_40 : decode cX14_takes 40 = .ok (.putfield 135, 3) := dk_181 0 135 (dk_at dksX14_takes_1 16 rfl rfl)
theorem dX14_takes_43 : decode cX14_takes 43 = .ok (.iload_n 2, 1) := dk_28 (dk_at dksX14_takes_1 19 rfl rfl)
theorem dX14_takes_44 : decode cX14_takes 44 = .ok (.ireturn, 1) := dk_172 (dk_at dksX14_takes_1 20 rfl rfl)
def dkwX14_flag_0 : List UInt8 := [26, 153, 0, 7, 4, 167, 0, 4, 3, 172]
abbrev dktX14_flag_0 : List UInt8 := dkwX14_flag_0 ++ []
theorem dksX14_flag_0 : cX14_flag.data.toList.drop 0 = dktX14_flag_0 := by decide +kernel
theorem dX14_flag_0 : decode cX14_flag 0 = .ok (.iload_n 0, 1) := dk_26 (dk_at dksX14_flag_0 0 rfl rfl)
theorem dX14_flag_1 : decode cX14_flag 1 = .ok (.ifCond .eq 7, 3) := dk_153 0 7 (dk_at dksX14_flag_0 1 rfl rfl)
theorem dX14_flag_4 : decode cX14_flag 4 = .ok (.iconst 1, 1) := dk_4 (dk_at dksX14_flag_0 4 rfl rfl)
theorem dX14_flag_5 : decode cX14_flag 5 = .ok (.goto 4, 3) := dk_167 0 4 (dk_at dksX14_flag_0 5 rfl rfl)
theorem dX14_flag_8 : decode cX14_flag 8 = .ok (.iconst 0, 1) := dk_3 (dk_at dksX14_flag_0 8 rfl rfl)
theorem dX14_flag_9 : decode cX14_flag 9 = .ok (.ireturn, 1) := dk_172 (dk_at dksX14_flag_0 9 rfl rfl)
def dkwX14_among_2 : List UInt8 := [172]
abbrev dktX14_among_2 : List UInt8 := dkwX14_among_2 ++ []
def dkwX14_among_1 : List UInt8 := [182, 0, 168, 42, 180, 0, 50, 42, 180, 0, 135, 46, 160, 0, 5, 28, 172, 132, 2, 1, 167, 255, 215, 2]
abbrev dktX14_among_1 : List UInt8 := dkwX14_among_1 ++ dktX14_among_2
def dkwX14_among_0 : List UInt8 := [3, 61, 28, 43, 182, 0, 162, 162, 0, 39, 42, 180, 0, 135, 42, 180, 0, 147, 162, 0, 28, 43, 28]
abbrev dktX14_among_0 : List UInt8 := dkwX14_among_0 ++ dktX14_among_1
theorem dksX14_among_0 : cX14_among.data.toList.drop 0 = dktX14_among_0 := by decide +kernel
theorem dksX14_among_1 : cX14_among.data.toList.drop 23 = dktX14_among_1 := dk_seg dksX14_among_0 23 rfl rfl
theorem dksX14_among_2 : cX14_among.data.toList.drop 47 = dktX14_among_2 := dk_seg dksX14_among_1 24 rfl rfl
theorem dX14_among_0 : decode cX14_among 0 = .ok (.iconst 0, 1) := dk_3 (dk_at dksX14_among_0 0 rfl rfl)
theorem dX14_among_1 : decode cX14_among 1 = .ok (.istore_n 2, 1) := dk_61 (dk_at dksX14_among_0 1 rfl rfl)
theorem dX14_among_2 : decode cX14_among 2 = .ok (.iload_n 2, 1) := dk_28 (dk_at dksX14_among_0 2 rfl rfl)
theorem dX14_among_3 : decode cX14_among 3 = .ok (.aload_n 1, 1) := dk_43 (dk_at dksX14_among_0 3 rfl rfl)
theorem dX14_among_4 : decode cX14_among 4 = .ok (.invokevirtual 162, 3) := dk_182 0 162 (dk_at dksX14_among_0 4 rfl rfl)
theorem dX14_among_7 : decode cX14_among 7 = .ok (.if_icmp .ge 39, 3) := dk_162 0 39 (dk_at dksX14_among_0 7 rfl rfl)
theorem dX14_among_10 : decode cX14_among 10 = .ok (.aload_n 0, 1) := dk_42 (dk_at dksX14_among_0 10 rfl rfl)
theorem dX14_among_11 : decode cX14_among 11 = .ok (.getfield 135, 3) := dk_180 0 135 (dk_at dksX14_among_0 11 rfl rfl)
theorem dX14_among_14 : decode cX14_among 14 = .ok (.aload_n 0, 1) := dk_42 (dk_at dksX14_among_0 14 rfl rfl)
theorem dX14_among_15 : decode cX14_among 15 = .ok (.getfield 147, 3) := dk_180 0 147 (dk_at dksX14_among_0 15 rfl rfl)
theorem dX14_among_18 : decode cX14_among 18 = .ok (.if_icmp .ge 28, 3) := dk_162 0 28 (dk_at dksX14_among_0 18 rfl rfl)
theorem dX14_among_21 : decode cX14_among 21 = .ok (.aload_n 1, 1) := dk_43 (dk_at dksX14_among_0 21 rfl rfl)
theorem dX14_among_22 : decode cX14_among 22 = .ok (.iload_n 2, 1) := dk_28 (dk_at dksX14_among_0 22 rfl rfl)
theorem dX14_among_23 : decode cX14_among 23 = .ok (.invokevirtual 168, 3) := dk_182 0 168 (dk_at dksX14_among_1 0 rfl rfl)
theorem dX14_among_26 : decode cX14_among 26 = .ok (.aload_n 0, 1) := dk_42 (dk_at dksX14_among_1 3 rfl rfl)
theorem dX14_among_27 : decode cX14_among 27 = .ok (.getfield 50, 3) := dk_180 0 50 (dk_at dksX14_among_1 4 rfl rfl)
theorem dX14_among_30 : decode cX14_among 30 = .ok (.aload_n 0, 1) := dk_42 (dk_at dksX14_among_1 7 rfl rfl)
theorem dX14_among_31 : decode cX14_among 31 = .ok (.getfield 135, 3) := dk_180 0 135 (dk_at dksX14_among_1 8 rfl rfl)
theorem dX14_among_34 : decode cX14_among 34 = .ok (.iaload, 1) := dk_46 (dk_at dksX14_among_1 11 rfl rfl)
theorem dX14_among_35 : decode cX14_among 35 = .ok (.if_icmp .ne 5, 3) := dk_160 0 5 (dk_at dksX14_among_1 12 rfl rfl)
theorem dX14_among_38 : decode cX14_among 38 = .ok (.iload_n 2, 1) := dk_28 (dk_at dksX14_among_1 15 rfl rfl)
theorem dX14_among_39 : decode cX14_among 39 = .ok (.ireturn, 1) := dk_172 (dk_at dksX14_among_1 16 rfl rfl)
theorem dX14_among_40 : decode cX14_among 40 = .ok (.iinc 2 1, 3) := dk_132 2 1 (dk_at dksX14_among_1 17 rfl rfl)
theorem dX14_among_43 : decode cX14_among 43 = .ok (.goto (-41), 3) := dk_167 255 215 (dk_at dksX14_among_1 20 rfl rfl)
theorem dX14_among_46 : decode cX14_among 46 = .ok (.iconst (-1), 1) := dk_2 (dk_at dksX14_among_1 23 rfl rfl)
theorem dX14_among_47 : decode cX14_among 47 = .ok (.ireturn, 1) := dk_172 (dk_at dksX14_among_2 0 rfl rfl)
def dkwX14_readsHabit_4 : List UInt8 := [172]
abbrev dktX14_readsHabit_4 : List UInt8 := dkwX14_readsHabit_4 ++ []
def dkwX14_readsHabit_3 : List UInt8 := [28, 96, 29, 42, 4, 182, 0, 181, 104, 79, 132, 2, 1, 167, 255, 175, 42, 180, 0, 62, 27, 28, 79, 4]
abbrev dktX14_readsHabit_3 : List UInt8 := dkwX14_readsHabit_3 ++ dktX14_readsHabit_4
def dkwX14_readsHabit_2 : List UInt8 := [184, 0, 150, 96, 181, 0, 135, 42, 182, 0, 158, 154, 0, 5, 3, 172, 42, 180, 0, 59, 16, 6, 27, 104]
abbrev dktX14_readsHabit_2 : List UInt8 := dkwX14_readsHabit_2 ++ dktX14_readsHabit_3
def dkwX14_readsHabit_1 : List UInt8 := [153, 0, 7, 4, 167, 0, 4, 2, 62, 42, 89, 180, 0, 135, 29, 156, 0, 7, 4, 167, 0, 4, 3]
abbrev dktX14_readsHabit_1 : List UInt8 := dkwX14_readsHabit_1 ++ dktX14_readsHabit_2
def dkwX14_readsHabit_0 : List UInt8 := [3, 61, 28, 16, 6, 162, 0, 81, 42, 18, 172, 182, 0, 174, 155, 0, 72, 42, 16, 43, 182, 0, 178]
abbrev dktX14_readsHabit_0 : List UInt8 := dkwX14_readsHabit_0 ++ dktX14_readsHabit_1
theorem dksX14_readsHabit_0 : cX14_readsHabit.data.toList.drop 0 = dktX14_readsHabit_0 := by decide +kernel
theorem dksX14_readsHabit_1 : cX14_readsHabit.data.toList.drop 23 = dktX14_readsHabit_1 := dk_seg dksX14_readsHabit_0 23 rfl rfl
theorem dksX14_readsHabit_2 : cX14_readsHabit.data.toList.drop 46 = dktX14_readsHabit_2 := dk_seg dksX14_readsHabit_1 23 rfl rfl
theorem dksX14_readsHabit_3 : cX14_readsHabit.data.toList.drop 70 = dktX14_readsHabit_3 := dk_seg dksX14_readsHabit_2 24 rfl rfl
theorem dksX14_readsHabit_4 : cX14_readsHabit.data.toList.drop 94 = dktX14_readsHabit_4 := dk_seg dksX14_readsHabit_3 24 rfl rfl
theorem dX14_readsHabit_0 : decode cX14_readsHabit 0 = .ok (.iconst 0, 1) := dk_3 (dk_at dksX14_readsHabit_0 0 rfl rfl)
theorem dX14_readsHabit_1 : decode cX14_readsHabit 1 = .ok (.istore_n 2, 1) := dk_61 (dk_at dksX14_readsHabit_0 1 rfl rfl)
theorem dX14_readsHabit_2 : decode cX14_readsHabit 2 = .ok (.iload_n 2, 1) := dk_28 (dk_at dksX14_readsHabit_0 2 rfl rfl)
theorem dX14_readsHabit_3 : decode cX14_readsHabit 3 = .ok (.bipush 6, 2) := dk_16 6 (dk_at dksX14_readsHabit_0 3 rfl rfl)
theorem dX14_readsHabit_5 : decode cX14_readsHabit 5 = .ok (.if_icmp .ge 81, 3) := dk_162 0 81 (dk_at dksX14_readsHabit_0 5 rfl rfl)
theorem dX14_readsHabit_8 : decode cX14_readsHabit 8 = .ok (.aload_n 0, 1) := dk_42 (dk_at dksX14_readsHabit_0 8 rfl rfl)
theorem dX14_readsHabit_9 : decode cX14_readsHabit 9 = .ok (.ldc 172, 2) := dk_18 172 (dk_at dksX14_readsHabit_0 9 rfl rfl)
theorem dX14_readsHabit_11 : decode cX14_readsHabit 11 = .ok (.invokevirtual 174, 3) := dk_182 0 174 (dk_at dksX14_readsHabit_0 11 rfl rfl)
theorem dX14_readsHabit_14 : decode cX14_readsHabit 14 = .ok (.ifCond .lt 72, 3) := dk_155 0 72 (dk_at dksX14_readsHabit_0 14 rfl rfl)
theorem dX14_readsHabit_17 : decode cX14_readsHabit 17 = .ok (.aload_n 0, 1) := dk_42 (dk_at dksX14_readsHabit_0 17 rfl rfl)
theorem dX14_readsHabit_18 : decode cX14_readsHabit 18 = .ok (.bipush 43, 2) := dk_16 43 (dk_at dksX14_readsHabit_0 18 rfl rfl)
theorem dX14_readsHabit_20 : decode cX14_readsHabit 20 = .ok (.invokevirtual 178, 3) := dk_182 0 178 (dk_at dksX14_readsHabit_0 20 rfl rfl)
theorem dX14_readsHabit_23 : decode cX14_readsHabit 23 = .ok (.ifCond .eq 7, 3) := dk_153 0 7 (dk_at dksX14_readsHabit_1 0 rfl rfl)
theorem dX14_readsHabit_26 : decode cX14_readsHabit 26 = .ok (.iconst 1, 1) := dk_4 (dk_at dksX14_readsHabit_1 3 rfl rfl)
theorem dX14_readsHabit_27 : decode cX14_readsHabit 27 = .ok (.goto 4, 3) := dk_167 0 4 (dk_at dksX14_readsHabit_1 4 rfl rfl)
theorem dX14_readsHabit_30 : decode cX14_readsHabit 30 = .ok (.iconst (-1), 1) := dk_2 (dk_at dksX14_readsHabit_1 7 rfl rfl)
theorem dX14_readsHabit_31 : decode cX14_readsHabit 31 = .ok (.istore_n 3, 1) := dk_62 (dk_at dksX14_readsHabit_1 8 rfl rfl)
theorem dX14_readsHabit_32 : decode cX14_readsHabit 32 = .ok (.aload_n 0, 1) := dk_42 (dk_at dksX14_readsHabit_1 9 rfl rfl)
theorem dX14_readsHabit_33 : decode cX14_readsHabit 33 = .ok (.dup, 1) := dk_89 (dk_at dksX14_readsHabit_1 10 rfl rfl)
theorem dX14_readsHabit_34 : decode cX14_readsHabit 34 = .ok (.getfield 135, 3) := dk_180 0 135 (dk_at dksX14_readsHabit_1 11 rfl rfl)
theorem dX14_readsHabit_37 : decode cX14_readsHabit 37 = .ok (.iload_n 3, 1) := dk_29 (dk_at dksX14_readsHabit_1 14 rfl rfl)
theorem dX14_readsHabit_38 : decode cX14_readsHabit 38 = .ok (.ifCond .ge 7, 3) := dk_156 0 7 (dk_at dksX14_readsHabit_1 15 rfl rfl)
theorem dX14_readsHabit_41 : decode cX14_readsHabit 41 = .ok (.iconst 1, 1) := dk_4 (dk_at dksX14_readsHabit_1 18 rfl rfl)
theorem dX14_readsHabit_42 : decode cX14_readsHabit 42 = .ok (.goto 4, 3) := dk_167 0 4 (dk_at dksX14_readsHabit_1 19 rfl rfl)
theorem dX14_readsHabit_45 : decode cX14_readsHabit 45 = .ok (.iconst 0, 1) := dk_3 (dk_at dksX14_readsHabit_1 22 rfl rfl)
theorem dX14_readsHabit_46 : decode cX14_readsHabit 46 = .ok (.invokestatic 150, 3) := dk_184 0 150 (dk_at dksX14_readsHabit_2 0 rfl rfl)
theorem dX14_readsHabit_49 : decode cX14_readsHabit 49 = .ok (.iadd, 1) := dk_96 (dk_at dksX14_readsHabit_2 3 rfl rfl)
theorem dX14_readsHabit_50 : decode cX14_readsHabit 50 = .ok (.putfield 135, 3) := dk_181 0 135 (dk_at dksX14_readsHabit_2 4 rfl rfl)
theorem dX14_readsHabit_53 : decode cX14_readsHabit 53 = .ok (.aload_n 0, 1) := dk_42 (dk_at dksX14_readsHabit_2 7 rfl rfl)
theorem dX14_readsHabit_54 : decode cX14_readsHabit 54 = .ok (.invokevirtual 158, 3) := dk_182 0 158 (dk_at dksX14_readsHabit_2 8 rfl rfl)
theorem dX14_readsHabit_57 : decode cX14_readsHabit 57 = .ok (.ifCond .ne 5, 3) := dk_154 0 5 (dk_at dksX14_readsHabit_2 11 rfl rfl)
theorem dX14_readsHabit_60 : decode cX14_readsHabit 60 = .ok (.iconst 0, 1) := dk_3 (dk_at dksX14_readsHabit_2 14 rfl rfl)
theorem dX14_readsHabit_61 : decode cX14_readsHabit 61 = .ok (.ireturn, 1) := dk_172 (dk_at dksX14_readsHabit_2 15 rfl rfl)
theorem dX14_readsHabit_62 : decode cX14_readsHabit 62 = .ok (.aload_n 0, 1) := dk_42 (dk_at dksX14_readsHabit_2 16 rfl rfl)
theorem dX14_readsHabit_63 : decode cX14_readsHabit 63 = .ok (.getfield 59, 3) := dk_180 0 59 (dk_at dksX14_readsHabit_2 17 rfl rfl)
theorem dX14_readsHabit_66 : decode cX14_readsHabit 66 = .ok (.bipush 6, 2) := dk_16 6 (dk_at dksX14_readsHabit_2 20 rfl rfl)
theorem dX14_readsHabit_68 : decode cX14_readsHabit 68 = .ok (.iload_n 1, 1) := dk_27 (dk_at dksX14_readsHabit_2 22 rfl rfl)
theorem dX14_readsHabit_69 : decode cX14_readsHabit 69 = .ok (.imul, 1) := dk_104 (dk_at dksX14_readsHabit_2 23 rfl rfl)
theorem dX14_readsHabit_70 : decode cX14_readsHabit 70 = .ok (.iload_n 2, 1) := dk_28 (dk_at dksX14_readsHabit_3 0 rfl rfl)
theorem dX14_readsHabit_71 : decode cX14_readsHabit 71 = .ok (.iadd, 1) := dk_96 (dk_at dksX14_readsHabit_3 1 rfl rfl)
theorem dX14_readsHabit_72 : decode cX14_readsHabit 72 = .ok (.iload_n 3, 1) := dk_29 (dk_at dksX14_readsHabit_3 2 rfl rfl)
theorem dX14_readsHabit_73 : decode cX14_readsHabit 73 = .ok (.aload_n 0, 1) := dk_42 (dk_at dksX14_readsHabit_3 3 rfl rfl)
theorem dX14_readsHabit_74 : decode cX14_readsHabit 74 = .ok (.iconst 1, 1) := dk_4 (dk_at dksX14_readsHabit_3 4 rfl rfl)
theorem dX14_readsHabit_75 : decode cX14_readsHabit 75 = .ok (.invokevirtual 181, 3) := dk_182 0 181 (dk_at dksX14_readsHabit_3 5 rfl rfl)
theorem dX14_readsHabit_78 : decode cX14_readsHabit 78 = .ok (.imul, 1) := dk_104 (dk_at dksX14_readsHabit_3 8 rfl rfl)
theorem dX14_readsHabit_79 : decode cX14_readsHabit 79 = .ok (.iastore, 1) := dk_79 (dk_at dksX14_readsHabit_3 9 rfl rfl)
theorem dX14_readsHabit_80 : decode cX14_readsHabit 80 = .ok (.iinc 2 1, 3) := dk_132 2 1 (dk_at dksX14_readsHabit_3 10 rfl rfl)
theorem dX14_readsHabit_83 : decode cX14_readsHabit 83 = .ok (.goto (-81), 3) := dk_167 255 175 (dk_at dksX14_readsHabit_3 13 rfl rfl)
theorem dX14_readsHabit_86 : decode cX14_readsHabit 86 = .ok (.aload_n 0, 1) := dk_42 (dk_at dksX14_readsHabit_3 16 rfl rfl)
theorem dX14_readsHabit_87 : decode cX14_readsHabit 87 = .ok (.getfield 62, 3) := dk_180 0 62 (dk_at dksX14_readsHabit_3 17 rfl rfl)
theorem dX14_readsHabit_90 : decode cX14_readsHabit 90 = .ok (.iload_n 1, 1) := dk_27 (dk_at dksX14_readsHabit_3 20 rfl rfl)
theorem dX14_readsHabit_91 : decode cX14_readsHabit 91 = .ok (.iload_n 2, 1) := dk_28 (dk_at dksX14_readsHabit_3 21 rfl rfl)
theorem dX14_readsHabit_92 : decode cX14_readsHabit 92 = .ok (.iastore, 1) := dk_79 (dk_at dksX14_readsHabit_3 22 rfl rfl)
theorem dX14_readsHabit_93 : decode cX14_readsHabit 93 = .ok (.iconst 1, 1) := dk_4 (dk_at dksX14_readsHabit_3 23 rfl rfl)
theorem dX14_readsHabit_94 : decode cX14_readsHabit 94 = .ok (.ireturn, 1) := dk_172 (dk_at dksX14_readsHabit_4 0 rfl rfl)
def dkwX14_faultOf_2 : List UInt8 := [153, 0, 7, 3, 167, 0, 9, 2, 42, 180, 0, 135, 100, 172]
abbrev dktX14_faultOf_2 : List UInt8 := dkwX14_faultOf_2 ++ []
def dkwX14_faultOf_1 : List UInt8 := [164, 0, 20, 21, 4, 154, 0, 11, 42, 180, 0, 135, 28, 161, 0, 7, 2, 28, 100, 172, 21, 4]
abbrev dktX14_faultOf_1 : List UInt8 := dkwX14_faultOf_1 ++ dktX14_faultOf_2
def dkwX14_faultOf_0 : List UInt8 := [29, 153, 0, 18, 42, 180, 0, 135, 42, 180, 0, 147, 160, 0, 7, 4, 167, 0, 4, 3, 54, 4, 27, 28]
abbrev dktX14_faultOf_0 : List UInt8 := dkwX14_faultOf_0 ++ dktX14_faultOf_1
theorem dksX14_faultOf_0 : cX14_faultOf.data.toList.drop 0 = dktX14_faultOf_0 := by decide +kernel
theorem dksX14_faultOf_1 : cX14_faultOf.data.toList.drop 24 = dktX14_faultOf_1 := dk_seg dksX14_faultOf_0 24 rfl rfl
theorem dksX14_faultOf_2 : cX14_faultOf.data.toList.drop 46 = dktX14_faultOf_2 := dk_seg dksX14_faultOf_1 22 rfl rfl
theorem dX14_faultOf_0 : decode cX14_faultOf 0 = .ok (.iload_n 3, 1) := dk_29 (dk_at dksX14_faultOf_0 0 rfl rfl)
theorem dX14_faultOf_1 : decode cX14_faultOf 1 = .ok (.ifCond .eq 18, 3) := dk_153 0 18 (dk_at dksX14_faultOf_0 1 rfl rfl)
theorem dX14_faultOf_4 : decode cX14_faultOf 4 = .ok (.aload_n 0, 1) := dk_42 (dk_at dksX14_faultOf_0 4 rfl rfl)
theorem dX14_faultOf_5 : decode cX14_faultOf 5 = .ok (.getfield 135, 3) := dk_180 0 135 (dk_at dksX14_faultOf_0 5 rfl rfl)
theorem dX14_faultOf_8 : decode cX14_faultOf 8 = .ok (.aload_n 0, 1) := dk_42 (dk_at dksX14_faultOf_0 8 rfl rfl)
theorem dX14_faultOf_9 : decode cX14_faultOf 9 = .ok (.getfield 147, 3) := dk_180 0 147 (dk_at dksX14_faultOf_0 9 rfl rfl)
theorem dX14_faultOf_12 : decode cX14_faultOf 12 = .ok (.if_icmp .ne 7, 3) := dk_160 0 7 (dk_at dksX14_faultOf_0 12 rfl rfl)
theorem dX14_faultOf_15 : decode cX14_faultOf 15 = .ok (.iconst 1, 1) := dk_4 (dk_at dksX14_faultOf_0 15 rfl rfl)
theorem dX14_faultOf_16 : decode cX14_faultOf 16 = .ok (.goto 4, 3) := dk_167 0 4 (dk_at dksX14_faultOf_0 16 rfl rfl)
theorem dX14_faultOf_19 : decode cX14_faultOf 19 = .ok (.iconst 0, 1) := dk_3 (dk_at dksX14_faultOf_0 19 rfl rfl)
theorem dX14_faultOf_20 : decode cX14_faultOf 20 = .ok (.istore 4, 2) := dk_54 4 (dk_at dksX14_faultOf_0 20 rfl rfl)
theorem dX14_faultOf_22 : decode cX14_faultOf 22 = .ok (.iload_n 1, 1) := dk_27 (dk_at dksX14_faultOf_0 22 rfl rfl)
theorem dX14_faultOf_23 : decode cX14_faultOf 23 = .ok (.iload_n 2, 1) := dk_28 (dk_at dksX14_faultOf_0 23 rfl rfl)
theorem dX14_faultOf_24 : decode cX14_faultOf 24 = .ok (.if_icmp .le 20, 3) := dk_164 0 20 (dk_at dksX14_faultOf_1 0 rfl rfl)
theorem dX14_faultOf_27 : decode cX14_faultOf 27 = .ok (.iload 4, 2) := dk_21 4 (dk_at dksX14_faultOf_1 3 rfl rfl)
theorem dX14_faultOf_29 : decode cX14_faultOf 29 = .ok (.ifCond .ne 11, 3) := dk_154 0 11 (dk_at dksX14_faultOf_1 5 rfl rfl)
theorem dX14_faultOf_32 : decode cX14_faultOf 32 = .ok (.aload_n 0, 1) := dk_42 (dk_at dksX14_faultOf_1 8 rfl rfl)
theorem dX14_faultOf_33 : decode cX14_faultOf 33 = .ok (.getfield 135, 3) := dk_180 0 135 (dk_at dksX14_faultOf_1 9 rfl rfl)
theorem dX14_faultOf_36 : decode cX14_faultOf 36 = .ok (.iload_n 2, 1) := dk_28 (dk_at dksX14_faultOf_1 12 rfl rfl)
theorem dX14_faultOf_37 : decode cX14_faultOf 37 = .ok (.if_icmp .lt 7, 3) := dk_161 0 7 (dk_at dksX14_faultOf_1 13 rfl rfl)
theorem dX14_faultOf_40 : decode cX14_faultOf 40 = .ok (.iconst (-1), 1) := dk_2 (dk_at dksX14_faultOf_1 16 rfl rfl)
theorem dX14_faultOf_41 : decode cX14_faultOf 41 = .ok (.iload_n 2, 1) := dk_28 (dk_at dksX14_faultOf_1 17 rfl rfl)
theorem dX14_faultOf_42 : decode cX14_faultOf 42 = .ok (.isub, 1) := dk_100 (dk_at dksX14_faultOf_1 18 rfl rfl)
theorem dX14_faultOf_43 : decode cX14_faultOf 43 = .ok (.ireturn, 1) := dk_172 (dk_at dksX14_faultOf_1 19 rfl rfl)
theorem dX14_faultOf_44 : decode cX14_faultOf 44 = .ok (.iload 4, 2) := dk_21 4 (dk_at dksX14_faultOf_1 20 rfl rfl)
theorem dX14_faultOf_46 : decode cX14_faultOf 46 = .ok (.ifCond .eq 7, 3) := dk_153 0 7 (dk_at dksX14_faultOf_2 0 rfl rfl)
theorem dX14_faultOf_49 : decode cX14_faultOf 49 = .ok (.iconst 0, 1) := dk_3 (dk_at dksX14_faultOf_2 3 rfl rfl)
theorem dX14_faultOf_50 : decode cX14_faultOf 50 = .ok (.goto 9, 3) := dk_167 0 9 (dk_at dksX14_faultOf_2 4 rfl rfl)
theorem dX14_faultOf_53 : decode cX14_faultOf 53 = .ok (.iconst (-1), 1) := dk_2 (dk_at dksX14_faultOf_2 7 rfl rfl)
theorem dX14_faultOf_54 : decode cX14_faultOf 54 = .ok (.aload_n 0, 1) := dk_42 (dk_at dksX14_faultOf_2 8 rfl rfl)
theorem dX14_faultOf_55 : decode cX14_faultOf 55 = .ok (.getfield 135, 3) := dk_180 0 135 (dk_at dksX14_faultOf_2 9 rfl rfl)
theorem dX14_faultOf_58 : decode cX14_faultOf 58 = .ok (.isub, 1) := dk_100 (dk_at dksX14_faultOf_2 12 rfl rfl)
theorem dX14_faultOf_59 : decode cX14_faultOf 59 = .ok (.ireturn, 1) := dk_172 (dk_at dksX14_faultOf_2 13 rfl rfl)
def dkwX14_comes_1 : List UInt8 := [180, 0, 32, 27, 3, 79, 42, 27, 28, 182, 0, 210, 177]
abbrev dktX14_comes_1 : List UInt8 := dkwX14_comes_1 ++ []
def dkwX14_comes_0 : List UInt8 := [42, 180, 0, 44, 16, 8, 27, 96, 3, 79, 42, 180, 0, 44, 16, 16, 92, 46, 4, 27, 120, 128, 79, 42]
abbrev dktX14_comes_0 : List UInt8 := dkwX14_comes_0 ++ dktX14_comes_1
theorem dksX14_comes_0 : cX14_comes.data.toList.drop 0 = dktX14_comes_0 := by decide +kernel
theorem dksX14_comes_1 : cX14_comes.data.toList.drop 24 = dktX14_comes_1 := dk_seg dksX14_comes_0 24 rfl rfl
theorem dX14_comes_0 : decode cX14_comes 0 = .ok (.aload_n 0, 1) := dk_42 (dk_at dksX14_comes_0 0 rfl rfl)
theorem dX14_comes_1 : decode cX14_comes 1 = .ok (.getfield 44, 3) := dk_180 0 44 (dk_at dksX14_comes_0 1 rfl rfl)
theorem dX14_comes_4 : decode cX14_comes 4 = .ok (.bipush 8, 2) := dk_16 8 (dk_at dksX14_comes_0 4 rfl rfl)
theorem dX14_comes_6 : decode cX14_comes 6 = .ok (.iload_n 1, 1) := dk_27 (dk_at dksX14_comes_0 6 rfl rfl)
theorem dX14_comes_7 : decode cX14_comes 7 = .ok (.iadd, 1) := dk_96 (dk_at dksX14_comes_0 7 rfl rfl)
theorem dX14_comes_8 : decode cX14_comes 8 = .ok (.iconst 0, 1) := dk_3 (dk_at dksX14_comes_0 8 rfl rfl)
theorem dX14_comes_9 : decode cX14_comes 9 = .ok (.iastore, 1) := dk_79 (dk_at dksX14_comes_0 9 rfl rfl)
theorem dX14_comes_10 : decode cX14_comes 10 = .ok (.aload_n 0, 1) := dk_42 (dk_at dksX14_comes_0 10 rfl rfl)
theorem dX14_comes_11 : decode cX14_comes 11 = .ok (.getfield 44, 3) := dk_180 0 44 (dk_at dksX14_comes_0 11 rfl rfl)
theorem dX14_comes_14 : decode cX14_comes 14 = .ok (.bipush 16, 2) := dk_16 16 (dk_at dksX14_comes_0 14 rfl rfl)
theorem dX14_comes_16 : decode cX14_comes 16 = .ok (.dup2, 1) := dk_92 (dk_at dksX14_comes_0 16 rfl rfl)
theorem dX14_comes_17 : decode cX14_comes 17 = .ok (.iaload, 1) := dk_46 (dk_at dksX14_comes_0 17 rfl rfl)
theorem dX14_comes_18 : decode cX14_comes 18 = .ok (.iconst 1, 1) := dk_4 (dk_at dksX14_comes_0 18 rfl rfl)
theorem dX14_comes_19 : decode cX14_comes 19 = .ok (.iload_n 1, 1) := dk_27 (dk_at dksX14_comes_0 19 rfl rfl)
theorem dX14_comes_20 : decode cX14_comes 20 = .ok (.ishl, 1) := dk_120 (dk_at dksX14_comes_0 20 rfl rfl)
theorem dX14_comes_21 : decode cX14_comes 21 = .ok (.ior, 1) := dk_128 (dk_at dksX14_comes_0 21 rfl rfl)
theorem dX14_comes_22 : decode cX14_comes 22 = .ok (.iastore, 1) := dk_79 (dk_at dksX14_comes_0 22 rfl rfl)
theorem dX14_comes_23 : decode cX14_comes 23 = .ok (.aload_n 0, 1) := dk_42 (dk_at dksX14_comes_0 23 rfl rfl)
theorem dX14_comes_24 : decode cX14_comes 24 = .ok (.getfield 32, 3) := dk_180 0 32 (dk_at dksX14_comes_1 0 rfl rfl)
theorem dX14_comes_27 : decode cX14_comes 27 = .ok (.iload_n 1, 1) := dk_27 (dk_at dksX14_comes_1 3 rfl rfl)
theorem dX14_comes_28 : decode cX14_comes 28 = .ok (.iconst 0, 1) := dk_3 (dk_at dksX14_comes_1 4 rfl rfl)
theorem dX14_comes_29 : decode cX14_comes 29 = .ok (.iastore, 1) := dk_79 (dk_at dksX14_comes_1 5 rfl rfl)
theorem dX14_comes_30 : decode cX14_comes 30 = .ok (.aload_n 0, 1) := dk_42 (dk_at dksX14_comes_1 6 rfl rfl)
theorem dX14_comes_31 : decode cX14_comes 31 = .ok (.iload_n 1, 1) := dk_27 (dk_at dksX14_comes_1 7 rfl rfl)
theorem dX14_comes_32 : decode cX14_comes 32 = .ok (.iload_n 2, 1) := dk_28 (dk_at dksX14_comes_1 8 rfl rfl)
theorem dX14_comes_33 : decode cX14_comes 33 = .ok (.invokevirtual 210, 3) := dk_182 0 210 (dk_at dksX14_comes_1 9 rfl rfl)
theorem dX14_comes_36 : decode cX14_comes 36 = .ok (.return_, 1) := dk_177 (dk_at dksX14_comes_1 12 rfl rfl)
def dkwX14_putsHabit_2 : List UInt8 := [177]
abbrev dktX14_putsHabit_2 : List UInt8 := dkwX14_putsHabit_2 ++ []
def dkwX14_putsHabit_1 : List UInt8 := [16, 6, 27, 104, 29, 96, 42, 180, 0, 59, 16, 6, 28, 104, 29, 96, 46, 79, 132, 3, 1, 167, 255, 225]
abbrev dktX14_putsHabit_1 : List UInt8 := dkwX14_putsHabit_1 ++ dktX14_putsHabit_2
def dkwX14_putsHabit_0 : List UInt8 := [42, 180, 0, 38, 27, 42, 180, 0, 62, 28, 46, 79, 3, 62, 29, 16, 6, 162, 0, 31, 42, 180, 0, 35]
abbrev dktX14_putsHabit_0 : List UInt8 := dkwX14_putsHabit_0 ++ dktX14_putsHabit_1
theorem dksX14_putsHabit_0 : cX14_putsHabit.data.toList.drop 0 = dktX14_putsHabit_0 := by decide +kernel
theorem dksX14_putsHabit_1 : cX14_putsHabit.data.toList.drop 24 = dktX14_putsHabit_1 := dk_seg dksX14_putsHabit_0 24 rfl rfl
theorem dksX14_putsHabit_2 : cX14_putsHabit.data.toList.drop 48 = dktX14_putsHabit_2 := dk_seg dksX14_putsHabit_1 24 rfl rfl
theorem dX14_putsHabit_0 : decode cX14_putsHabit 0 = .ok (.aload_n 0, 1) := dk_42 (dk_at dksX14_putsHabit_0 0 rfl rfl)
theorem dX14_putsHabit_1 : decode cX14_putsHabit 1 = .ok (.getfield 38, 3) := dk_180 0 38 (dk_at dksX14_putsHabit_0 1 rfl rfl)
theorem dX14_putsHabit_4 : decode cX14_putsHabit 4 = .ok (.iload_n 1, 1) := dk_27 (dk_at dksX14_putsHabit_0 4 rfl rfl)
theorem dX14_putsHabit_5 : decode cX14_putsHabit 5 = .ok (.aload_n 0, 1) := dk_42 (dk_at dksX14_putsHabit_0 5 rfl rfl)
theorem dX14_putsHabit_6 : decode cX14_putsHabit 6 = .ok (.getfield 62, 3) := dk_180 0 62 (dk_at dksX14_putsHabit_0 6 rfl rfl)
theorem dX14_putsHabit_9 : decode cX14_putsHabit 9 = .ok (.iload_n 2, 1) := dk_28 (dk_at dksX14_putsHabit_0 9 rfl rfl)
theorem dX14_putsHabit_10 : decode cX14_putsHabit 10 = .ok (.iaload, 1) := dk_46 (dk_at dksX14_putsHabit_0 10 rfl rfl)
theorem dX14_putsHabit_11 : decode cX14_putsHabit 11 = .ok (.iastore, 1) := dk_79 (dk_at dksX14_putsHabit_0 11 rfl rfl)
theorem dX14_putsHabit_12 : decode cX14_putsHabit 12 = .ok (.iconst 0, 1) := dk_3 (dk_at dksX14_putsHabit_0 12 rfl rfl)
theorem dX14_putsHabit_13 : decode cX14_putsHabit 13 = .ok (.istore_n 3, 1) := dk_62 (dk_at dksX14_putsHabit_0 13 rfl rfl)
theorem dX14_putsHabit_14 : decode cX14_putsHabit 14 = .ok (.iload_n 3, 1) := dk_29 (dk_at dksX14_putsHabit_0 14 rfl rfl)
theorem dX14_putsHabit_15 : decode cX14_putsHabit 15 = .ok (.bipush 6, 2) := dk_16 6 (dk_at dksX14_putsHabit_0 15 rfl rfl)
theorem dX14_putsHabit_17 : decode cX14_putsHabit 17 = .ok (.if_icmp .ge 31, 3) := dk_162 0 31 (dk_at dksX14_putsHabit_0 17 rfl rfl)
theorem dX14_putsHabit_20 : decode cX14_putsHabit 20 = .ok (.aload_n 0, 1) := dk_42 (dk_at dksX14_putsHabit_0 20 rfl rfl)
theorem dX14_putsHabit_21 : decode cX14_putsHabit 21 = .ok (.getfield 35, 3) := dk_180 0 35 (dk_at dksX14_putsHabit_0 21 rfl rfl)
theorem dX14_putsHabit_24 : decode cX14_putsHabit 24 = .ok (.bipush 6, 2) := dk_16 6 (dk_at dksX14_putsHabit_1 0 rfl rfl)
theorem dX14_putsHabit_26 : decode cX14_putsHabit 26 = .ok (.iload_n 1, 1) := dk_27 (dk_at dksX14_putsHabit_1 2 rfl rfl)
theorem dX14_putsHabit_27 : decode cX14_putsHabit 27 = .ok (.imul, 1) := dk_104 (dk_at dksX14_putsHabit_1 3 rfl rfl)
theorem dX14_putsHabit_28 : decode cX14_putsHabit 28 = .ok (.iload_n 3, 1) := dk_29 (dk_at dksX14_putsHabit_1 4 rfl rfl)
theorem dX14_putsHabit_29 : decode cX14_putsHabit 29 = .ok (.iadd, 1) := dk_96 (dk_at dksX14_putsHabit_1 5 rfl rfl)
theorem dX14_putsHabit_30 : decode cX14_putsHabit 30 = .ok (.aload_n 0, 1) := dk_42 (dk_at dksX14_putsHabit_1 6 rfl rfl)
theorem dX14_putsHabit_31 : decode cX14_putsHabit 31 = .ok (.getfield 59, 3) := dk_180 0 59 (dk_at dksX14_putsHabit_1 7 rfl rfl)
theorem dX14_putsHabit_34 : decode cX14_putsHabit 34 = .ok (.bipush 6, 2) := dk_16 6 (dk_at dksX14_putsHabit_1 10 rfl rfl)
theorem dX14_putsHabit_36 : decode cX14_putsHabit 36 = .ok (.iload_n 2, 1) := dk_28 (dk_at dksX14_putsHabit_1 12 rfl rfl)
theorem dX14_putsHabit_37 : decode cX14_putsHabit 37 = .ok (.imul, 1) := dk_104 (dk_at dksX14_putsHabit_1 13 rfl rfl)
theorem dX14_putsHabit_38 : decode cX14_putsHabit 38 = .ok (.iload_n 3, 1) := dk_29 (dk_at dksX14_putsHabit_1 14 rfl rfl)
theorem dX14_putsHabit_39 : decode cX14_putsHabit 39 = .ok (.iadd, 1) := dk_96 (dk_at dksX14_putsHabit_1 15 rfl rfl)
theorem dX14_putsHabit_40 : decode cX14_putsHabit 40 = .ok (.iaload, 1) := dk_46 (dk_at dksX14_putsHabit_1 16 rfl rfl)
theorem dX14_putsHabit_41 : decode cX14_putsHabit 41 = .ok (.iastore, 1) := dk_79 (dk_at dksX14_putsHabit_1 17 rfl rfl)
theorem dX14_putsHabit_42 : decode cX14_putsHabit 42 = .ok (.iinc 3 1, 3) := dk_132 3 1 (dk_at dksX14_putsHabit_1 18 rfl rfl)
theorem dX14_putsHabit_45 : decode cX14_putsHabit 45 = .ok (.goto (-31), 3) := dk_167 255 225 (dk_at dksX14_putsHabit_1 21 rfl rfl)
theorem dX14_putsHabit_48 : decode cX14_putsHabit 48 = .ok (.return_, 1) := dk_177 (dk_at dksX14_putsHabit_2 0 rfl rfl)
def dkwX14_habit_2 : List UInt8 := [42, 27, 16, 8, 182, 0, 210, 42, 180, 0, 38, 27, 46, 172]
abbrev dktX14_habit_2 : List UInt8 := dkwX14_habit_2 ++ []
def dkwX14_habit_1 : List UInt8 := [16, 8, 182, 0, 190, 62, 42, 28, 16, 12, 29, 182, 0, 199, 54, 4, 21, 4, 156, 0, 6, 21, 4, 172]
abbrev dktX14_habit_1 : List UInt8 := dkwX14_habit_1 ++ dktX14_habit_2
def dkwX14_habit_0 : List UInt8 := [42, 3, 181, 0, 3, 42, 16, 12, 182, 0, 193, 61, 42, 27, 182, 0, 124, 154, 0, 6, 16, 156, 172, 42]
abbrev dktX14_habit_0 : List UInt8 := dkwX14_habit_0 ++ dktX14_habit_1
theorem dksX14_habit_0 : cX14_habit.data.toList.drop 0 = dktX14_habit_0 := by decide +kernel
theorem dksX14_habit_1 : cX14_habit.data.toList.drop 24 = dktX14_habit_1 := dk_seg dksX14_habit_0 24 rfl rfl
theorem dksX14_habit_2 : cX14_habit.data.toList.drop 48 = dktX14_habit_2 := dk_seg dksX14_habit_1 24 rfl rfl
theorem dX14_habit_0 : decode cX14_habit 0 = .ok (.aload_n 0, 1) := dk_42 (dk_at dksX14_habit_0 0 rfl rfl)
theorem dX14_habit_1 : decode cX14_habit 1 = .ok (.iconst 0, 1) := dk_3 (dk_at dksX14_habit_0 1 rfl rfl)
theorem dX14_habit_2 : decode cX14_habit 2 = .ok (.putfield 3, 3) := dk_181 0 3 (dk_at dksX14_habit_0 2 rfl rfl)
theorem dX14_habit_5 : decode cX14_habit 5 = .ok (.aload_n 0, 1) := dk_42 (dk_at dksX14_habit_0 5 rfl rfl)
theorem dX14_habit_6 : decode cX14_habit 6 = .ok (.bipush 12, 2) := dk_16 12 (dk_at dksX14_habit_0 6 rfl rfl)
theorem dX14_habit_8 : decode cX14_habit 8 = .ok (.invokevirtual 193, 3) := dk_182 0 193 (dk_at dksX14_habit_0 8 rfl rfl)
theorem dX14_habit_11 : decode cX14_habit 11 = .ok (.istore_n 2, 1) := dk_61 (dk_at dksX14_habit_0 11 rfl rfl)
theorem dX14_habit_12 : decode cX14_habit 12 = .ok (.aload_n 0, 1) := dk_42 (dk_at dksX14_habit_0 12 rfl rfl)
theorem dX14_habit_13 : decode cX14_habit 13 = .ok (.iload_n 1, 1) := dk_27 (dk_at dksX14_habit_0 13 rfl rfl)
theorem dX14_habit_14 : decode cX14_habit 14 = .ok (.invokevirtual 124, 3) := dk_182 0 124 (dk_at dksX14_habit_0 14 rfl rfl)
theorem dX14_habit_17 : decode cX14_habit 17 = .ok (.ifCond .ne 6, 3) := dk_154 0 6 (dk_at dksX14_habit_0 17 rfl rfl)
theorem dX14_habit_20 : decode cX14_habit 20 = .ok (.bipush (-100), 2) := dk_16 156 (dk_at dksX14_habit_0 20 rfl rfl)
theorem dX14_habit_22 : decode cX14_habit 22 = .ok (.ireturn, 1) := dk_172 (dk_at dksX14_habit_0 22 rfl rfl)
theorem dX14_habit_23 : decode cX14_habit 23 = .ok (.aload_n 0, 1) := dk_42 (dk_at dksX14_habit_0 23 rfl rfl)
theorem dX14_habit_24 : decode cX14_habit 24 = .ok (.bipush 8, 2) := dk_16 8 (dk_at dksX14_habit_1 0 rfl rfl)
theorem dX14_habit_26 : decode cX14_habit 26 = .ok (.invokevirtual 190, 3) := dk_182 0 190 (dk_at dksX14_habit_1 2 rfl rfl)
theorem dX14_habit_29 : decode cX14_habit 29 = .ok (.istore_n 3, 1) := dk_62 (dk_at dksX14_habit_1 5 rfl rfl)
theorem dX14_habit_30 : decode cX14_habit 30 = .ok (.aload_n 0, 1) := dk_42 (dk_at dksX14_habit_1 6 rfl rfl)
theorem dX14_habit_31 : decode cX14_habit 31 = .ok (.iload_n 2, 1) := dk_28 (dk_at dksX14_habit_1 7 rfl rfl)
theorem dX14_habit_32 : decode cX14_habit 32 = .ok (.bipush 12, 2) := dk_16 12 (dk_at dksX14_habit_1 8 rfl rfl)
theorem dX14_habit_34 : decode cX14_habit 34 = .ok (.iload_n 3, 1) := dk_29 (dk_at dksX14_habit_1 10 rfl rfl)
theorem dX14_habit_35 : decode cX14_habit 35 = .ok (.invokevirtual 199, 3) := dk_182 0 199 (dk_at dksX14_habit_1 11 rfl rfl)
theorem dX14_habit_38 : decode cX14_habit 38 = .ok (.istore 4, 2) := dk_54 4 (dk_at dksX14_habit_1 14 rfl rfl)
theorem dX14_habit_40 : decode cX14_habit 40 = .ok (.iload 4, 2) := dk_21 4 (dk_at dksX14_habit_1 16 rfl rfl)
theorem dX14_habit_42 : decode cX14_habit 42 = .ok (.ifCond .ge 6, 3) := dk_156 0 6 (dk_at dksX14_habit_1 18 rfl rfl)
theorem dX14_habit_45 : decode cX14_habit 45 = .ok (.iload 4, 2) := dk_21 4 (dk_at dksX14_habit_1 21 rfl rfl)
theorem dX14_habit_47 : decode cX14_habit 47 = .ok (.ireturn, 1) := dk_172 (dk_at dksX14_habit_1 23 rfl rfl)
theorem dX14_habit_48 : decode cX14_habit 48 = .ok (.aload_n 0, 1) := dk_42 (dk_at dksX14_habit_2 0 rfl rfl)
theorem dX14_habit_49 : decode cX14_habit 49 = .ok (.iload_n 1, 1) := dk_27 (dk_at dksX14_habit_2 1 rfl rfl)
theorem dX14_habit_50 : decode cX14_habit 50 = .ok (.bipush 8, 2) := dk_16 8 (dk_at dksX14_habit_2 2 rfl rfl)
theorem dX14_habit_52 : decode cX14_habit 52 = .ok (.invokevirtual 210, 3) := dk_182 0 210 (dk_at dksX14_habit_2 4 rfl rfl)
theorem dX14_habit_55 : decode cX14_habit 55 = .ok (.aload_n 0, 1) := dk_42 (dk_at dksX14_habit_2 7 rfl rfl)
theorem dX14_habit_56 : decode cX14_habit 56 = .ok (.getfield 38, 3) := dk_180 0 38 (dk_at dksX14_habit_2 8 rfl rfl)
theorem dX14_habit_59 : decode cX14_habit 59 = .ok (.iload_n 1, 1) := dk_27 (dk_at dksX14_habit_2 11 rfl rfl)
theorem dX14_habit_60 : decode cX14_habit 60 = .ok (.iaload, 1) := dk_46 (dk_at dksX14_habit_2 12 rfl rfl)
theorem dX14_habit_61 : decode cX14_habit 61 = .ok (.ireturn, 1) := dk_172 (dk_at dksX14_habit_2 13 rfl rfl)
def dkwX14_isPerson_0 : List UInt8 := [27, 133, 9, 42, 180, 0, 117, 4, 100, 133, 184, 0, 120, 172]
abbrev dktX14_isPerson_0 : List UInt8 := dkwX14_isPerson_0 ++ []
theorem dksX14_isPerson_0 : cX14_isPerson.data.toList.drop 0 = dktX14_isPerson_0 := by decide +kernel
theorem dX14_isPerson_0 : decode cX14_isPerson 0 = .ok (.iload_n 1, 1) := dk_27 (dk_at dksX14_isPerson_0 0 rfl rfl)
theorem dX14_isPerson_1 : decode cX14_isPerson 1 = .ok (.i2l, 1) := dk_133 (dk_at dksX14_isPerson_0 1 rfl rfl)
theorem dX14_isPerson_2 : decode cX14_isPerson 2 = .ok (.lconst 0, 1) := dk_9 (dk_at dksX14_isPerson_0 2 rfl rfl)
theorem dX14_isPerson_3 : decode cX14_isPerson 3 = .ok (.aload_n 0, 1) := dk_42 (dk_at dksX14_isPerson_0 3 rfl rfl)
theorem dX14_isPerson_4 : decode cX14_isPerson 4 = .ok (.getfield 117, 3) := dk_180 0 117 (dk_at dksX14_isPerson_0 4 rfl rfl)
theorem dX14_isPerson_7 : decode cX14_isPerson 7 = .ok (.iconst 1, 1) := dk_4 (dk_at dksX14_isPerson_0 7 rfl rfl)
theorem dX14_isPerson_8 : decode cX14_isPerson 8 = .ok (.isub, 1) := dk_100 (dk_at dksX14_isPerson_0 8 rfl rfl)
theorem dX14_isPerson_9 : decode cX14_isPerson 9 = .ok (.i2l, 1) := dk_133 (dk_at dksX14_isPerson_0 9 rfl rfl)
theorem dX14_isPerson_10 : decode cX14_isPerson 10 = .ok (.invokestatic 120, 3) := dk_184 0 120 (dk_at dksX14_isPerson_0 10 rfl rfl)
theorem dX14_isPerson_13 : decode cX14_isPerson 13 = .ok (.ireturn, 1) := dk_172 (dk_at dksX14_isPerson_0 13 rfl rfl)
def dkwX14_will_4 : List UInt8 := [172]
abbrev dktX14_will_4 : List UInt8 := dkwX14_will_4 ++ []
def dkwX14_will_3 : List UInt8 := [162, 0, 23, 42, 180, 0, 65, 21, 4, 42, 180, 0, 68, 21, 4, 46, 79, 132, 4, 1, 167, 255, 230, 3]
abbrev dktX14_will_3 : List UInt8 := dkwX14_will_3 ++ dktX14_will_4
def dkwX14_will_2 : List UInt8 := [156, 0, 5, 29, 172, 42, 42, 180, 0, 213, 181, 0, 232, 3, 54, 4, 21, 4, 42, 180, 0, 213]
abbrev dktX14_will_2 : List UInt8 := dkwX14_will_2 ++ dktX14_will_3
def dkwX14_will_1 : List UInt8 := [182, 0, 225, 153, 0, 7, 4, 167, 0, 4, 3, 61, 42, 27, 16, 40, 28, 182, 0, 199, 62, 29]
abbrev dktX14_will_1 : List UInt8 := dkwX14_will_1 ++ dktX14_will_2
def dkwX14_will_0 : List UInt8 := [42, 3, 181, 0, 3, 42, 16, 40, 182, 0, 193, 60, 42, 3, 181, 0, 213, 27, 153, 0, 11, 42, 3]
abbrev dktX14_will_0 : List UInt8 := dkwX14_will_0 ++ dktX14_will_1
theorem dksX14_will_0 : cX14_will.data.toList.drop 0 = dktX14_will_0 := by decide +kernel
theorem dksX14_will_1 : cX14_will.data.toList.drop 23 = dktX14_will_1 := dk_seg dksX14_will_0 23 rfl rfl
theorem dksX14_will_2 : cX14_will.data.toList.drop 45 = dktX14_will_2 := dk_seg dksX14_will_1 22 rfl rfl
theorem dksX14_will_3 : cX14_will.data.toList.drop 67 = dktX14_will_3 := dk_seg dksX14_will_2 22 rfl rfl
theorem dksX14_will_4 : cX14_will.data.toList.drop 91 = dktX14_will_4 := dk_seg dksX14_will_3 24 rfl rfl
theorem dX14_will_0 : decode cX14_will 0 = .ok (.aload_n 0, 1) := dk_42 (dk_at dksX14_will_0 0 rfl rfl)
theorem dX14_will_1 : decode cX14_will 1 = .ok (.iconst 0, 1) := dk_3 (dk_at dksX14_will_0 1 rfl rfl)
theorem dX14_will_2 : decode cX14_will 2 = .ok (.putfield 3, 3) := dk_181 0 3 (dk_at dksX14_will_0 2 rfl rfl)
theorem dX14_will_5 : decode cX14_will 5 = .ok (.aload_n 0, 1) := dk_42 (dk_at dksX14_will_0 5 rfl rfl)
theorem dX14_will_6 : decode cX14_will 6 = .ok (.bipush 40, 2) := dk_16 40 (dk_at dksX14_will_0 6 rfl rfl)
theorem dX14_will_8 : decode cX14_will 8 = .ok (.invokevirtual 193, 3) := dk_182 0 193 (dk_at dksX14_will_0 8 rfl rfl)
theorem dX14_will_11 : decode cX14_will 11 = .ok (.istore_n 1, 1) := dk_60 (dk_at dksX14_will_0 11 rfl rfl)
theorem dX14_will_12 : decode cX14_will 12 = .ok (.aload_n 0, 1) := dk_42 (dk_at dksX14_will_0 12 rfl rfl)
theorem dX14_will_13 : decode cX14_will 13 = .ok (.iconst 0, 1) := dk_3 (dk_at dksX14_will_0 13 rfl rfl)
theorem dX14_will_14 : decode cX14_will 14 = .ok (.putfield 213, 3) := dk_181 0 213 (dk_at dksX14_will_0 14 rfl rfl)
theorem dX14_will_17 : decode cX14_will 17 = .ok (.iload_n 1, 1) := dk_27 (dk_at dksX14_will_0 17 rfl rfl)
theorem dX14_will_18 : decode cX14_will 18 = .ok (.ifCond .eq 11, 3) := dk_153 0 11 (dk_at dksX14_will_0 18 rfl rfl)
theorem dX14_will_21 : decode cX14_will 21 = .ok (.aload_n 0, 1) := dk_42 (dk_at dksX14_will_0 21 rfl rfl)
theorem dX14_will_22 : decode cX14_will 22 = .ok (.iconst 0, 1) := dk_3 (dk_at dksX14_will_0 22 rfl rfl)
theorem dX14_will_23 : decode cX14_will 23 = .ok (.invokevirtual 225, 3) := dk_182 0 225 (dk_at dksX14_will_1 0 rfl rfl)
theorem dX14_will_26 : decode cX14_will 26 = .ok (.ifCond .eq 7, 3) := dk_153 0 7 (dk_at dksX14_will_1 3 rfl rfl)
theorem dX14_will_29 : decode cX14_will 29 = .ok (.iconst 1, 1) := dk_4 (dk_at dksX14_will_1 6 rfl rfl)
theorem dX14_will_30 : decode cX14_will 30 = .ok (.goto 4, 3) := dk_167 0 4 (dk_at dksX14_will_1 7 rfl rfl)
theorem dX14_will_33 : decode cX14_will 33 = .ok (.iconst 0, 1) := dk_3 (dk_at dksX14_will_1 10 rfl rfl)
theorem dX14_will_34 : decode cX14_will 34 = .ok (.istore_n 2, 1) := dk_61 (dk_at dksX14_will_1 11 rfl rfl)
theorem dX14_will_35 : decode cX14_will 35 = .ok (.aload_n 0, 1) := dk_42 (dk_at dksX14_will_1 12 rfl rfl)
theorem dX14_will_36 : decode cX14_will 36 = .ok (.iload_n 1, 1) := dk_27 (dk_at dksX14_will_1 13 rfl rfl)
theorem dX14_will_37 : decode cX14_will 37 = .ok (.bipush 40, 2) := dk_16 40 (dk_at dksX14_will_1 14 rfl rfl)
theorem dX14_will_39 : decode cX14_will 39 = .ok (.iload_n 2, 1) := dk_28 (dk_at dksX14_will_1 16 rfl rfl)
theorem dX14_will_40 : decode cX14_will 40 = .ok (.invokevirtual 199, 3) := dk_182 0 199 (dk_at dksX14_will_1 17 rfl rfl)
theorem dX14_will_43 : decode cX14_will 43 = .ok (.istore_n 3, 1) := dk_62 (dk_at dksX14_will_1 20 rfl rfl)
theorem dX14_will_44 : decode cX14_will 44 = .ok (.iload_n 3, 1) := dk_29 (dk_at dksX14_will_1 21 rfl rfl)
theorem dX14_will_45 : decode cX14_will 45 = .ok (.ifCond .ge 5, 3) := dk_156 0 5 (dk_at dksX14_will_2 0 rfl rfl)
theorem dX14_will_48 : decode cX14_will 48 = .ok (.iload_n 3, 1) := dk_29 (dk_at dksX14_will_2 3 rfl rfl)
theorem dX14_will_49 : decode cX14_will 49 = .ok (.ireturn, 1) := dk_172 (dk_at dksX14_will_2 4 rfl rfl)
theorem dX14_will_50 : decode cX14_will 50 = .ok (.aload_n 0, 1) := dk_42 (dk_at dksX14_will_2 5 rfl rfl)
theorem dX14_will_51 : decode cX14_will 51 = .ok (.aload_n 0, 1) := dk_42 (dk_at dksX14_will_2 6 rfl rfl)
theorem dX14_will_52 : decode cX14_will 52 = .ok (.getfield 213, 3) := dk_180 0 213 (dk_at dksX14_will_2 7 rfl rfl)
theorem dX14_will_55 : decode cX14_will 55 = .ok (.putfield 232, 3) := dk_181 0 232 (dk_at dksX14_will_2 10 rfl rfl)
theorem dX14_will_58 : decode cX14_will 58 = .ok (.iconst 0, 1) := dk_3 (dk_at dksX14_will_2 13 rfl rfl)
theorem dX14_will_59 : decode cX14_will 59 = .ok (.istore 4, 2) := dk_54 4 (dk_at dksX14_will_2 14 rfl rfl)
theorem dX14_will_61 : decode cX14_will 61 = .ok (.iload 4, 2) := dk_21 4 (dk_at dksX14_will_2 16 rfl rfl)
theorem dX14_will_63 : decode cX14_will 63 = .ok (.aload_n 0, 1) := dk_42 (dk_at dksX14_will_2 18 rfl rfl)
theorem dX14_will_64 : decode cX14_will 64 = .ok (.getfield 213, 3) := dk_180 0 213 (dk_at dksX14_will_2 19 rfl rfl)
theorem dX14_will_67 : decode cX14_will 67 = .ok (.if_icmp .ge 23, 3) := dk_162 0 23 (dk_at dksX14_will_3 0 rfl rfl)
theorem dX14_will_70 : decode cX14_will 70 = .ok (.aload_n 0, 1) := dk_42 (dk_at dksX14_will_3 3 rfl rfl)
theorem dX14_will_71 : decode cX14_will 71 = .ok (.getfield 65, 3) := dk_180 0 65 (dk_at dksX14_will_3 4 rfl rfl)
theorem dX14_will_74 : decode cX14_will 74 = .ok (.iload 4, 2) := dk_21 4 (dk_at dksX14_will_3 7 rfl rfl)
theorem dX14_will_76 : decode cX14_will 76 = .ok (.aload_n 0, 1) := dk_42 (dk_at dksX14_will_3 9 rfl rfl)
theorem dX14_will_77 : decode cX14_will 77 = .ok (.getfield 68, 3) := dk_180 0 68 (dk_at dksX14_will_3 10 rfl rfl)
theorem dX14_will_80 : decode cX14_will 80 = .ok (.iload 4, 2) := dk_21 4 (dk_at dksX14_will_3 13 rfl rfl)
theorem dX14_will_82 : decode cX14_will 82 = .ok (.iaload, 1) := dk_46 (dk_at dksX14_will_3 15 rfl rfl)
theorem dX14_will_83 : decode cX14_will 83 = .ok (.iastore, 1) := dk_79 (dk_at dksX14_will_3 16 rfl rfl)
theorem dX14_will_84 : decode cX14_will 84 = .ok (.iinc 4 1, 3) := dk_132 4 1 (dk_at dksX14_will_3 17 rfl rfl)
theorem dX14_will_87 : decode cX14_will 87 = .ok (.goto (-26), 3) := dk_167 255 230 (dk_at dksX14_will_3 20 rfl rfl)
theorem dX14_will_90 : decode cX14_will 90 = .ok (.iconst 0, 1) := dk_3 (dk_at dksX14_will_3 23 rfl rfl)
theorem dX14_will_91 : decode cX14_will 91 = .ok (.ireturn, 1) := dk_172 (dk_at dksX14_will_4 0 rfl rfl)
def dkwX14_readsRank_5 : List UInt8 := [167, 255, 160, 4, 172]
abbrev dktX14_readsRank_5 : List UInt8 := dkwX14_readsRank_5 ++ []
def dkwX14_readsRank_4 : List UInt8 := [27, 4, 160, 0, 7, 6, 167, 0, 4, 8, 96, 182, 0, 219, 27, 158, 0, 7, 4, 167, 0, 4, 3, 61]
abbrev dktX14_readsRank_4 : List UInt8 := dkwX14_readsRank_4 ++ dktX14_readsRank_5
def dkwX14_readsRank_3 : List UInt8 := [4, 96, 182, 0, 225, 154, 0, 5, 3, 172, 42, 17, 7, 208, 29, 96, 27, 154, 0, 7, 3, 167, 0, 13]
abbrev dktX14_readsRank_3 : List UInt8 := dkwX14_readsRank_3 ++ dktX14_readsRank_4
def dkwX14_readsRank_2 : List UInt8 := [18, 230, 182, 0, 174, 62, 29, 156, 0, 5, 4, 172, 42, 89, 180, 0, 135, 4, 96, 181, 0, 135, 42, 27]
abbrev dktX14_readsRank_2 : List UInt8 := dkwX14_readsRank_2 ++ dktX14_readsRank_3
def dkwX14_readsRank_1 : List UInt8 := [28, 153, 0, 98, 42, 27, 154, 0, 8, 18, 228, 167, 0, 15, 27, 4, 160, 0, 8, 18, 172, 167, 0, 5]
abbrev dktX14_readsRank_1 : List UInt8 := dkwX14_readsRank_1 ++ dktX14_readsRank_2
def dkwX14_readsRank_0 : List UInt8 := [27, 6, 160, 0, 8, 42, 182, 0, 216, 172, 42, 27, 4, 96, 182, 0, 225, 154, 0, 5, 3, 172, 4, 61]
abbrev dktX14_readsRank_0 : List UInt8 := dkwX14_readsRank_0 ++ dktX14_readsRank_1
theorem dksX14_readsRank_0 : cX14_readsRank.data.toList.drop 0 = dktX14_readsRank_0 := by decide +kernel
theorem dksX14_readsRank_1 : cX14_readsRank.data.toList.drop 24 = dktX14_readsRank_1 := dk_seg dksX14_readsRank_0 24 rfl rfl
theorem dksX14_readsRank_2 : cX14_readsRank.data.toList.drop 48 = dktX14_readsRank_2 := dk_seg dksX14_readsRank_1 24 rfl rfl
theorem dksX14_readsRank_3 : cX14_readsRank.data.toList.drop 72 = dktX14_readsRank_3 := dk_seg dksX14_readsRank_2 24 rfl rfl
theorem dksX14_readsRank_4 : cX14_readsRank.data.toList.drop 96 = dktX14_readsRank_4 := dk_seg dksX14_readsRank_3 24 rfl rfl
theorem dksX14_readsRank_5 : cX14_readsRank.data.toList.drop 120 = dktX14_readsRank_5 := dk_seg dksX14_readsRank_4 24 rfl rfl
theorem dX14_readsRank_0 : decode cX14_readsRank 0 = .ok (.iload_n 1, 1) := dk_27 (dk_at dksX14_readsRank_0 0 rfl rfl)
theorem dX14_readsRank_1 : decode cX14_readsRank 1 = .ok (.iconst 3, 1) := dk_6 (dk_at dksX14_readsRank_0 1 rfl rfl)
theorem dX14_readsRank_2 : decode cX14_readsRank 2 = .ok (.if_icmp .ne 8, 3) := dk_160 0 8 (dk_at dksX14_readsRank_0 2 rfl rfl)
theorem dX14_readsRank_5 : decode cX14_readsRank 5 = .ok (.aload_n 0, 1) := dk_42 (dk_at dksX14_readsRank_0 5 rfl rfl)
theorem dX14_readsRank_6 : decode cX14_readsRank 6 = .ok (.invokevirtual 216, 3) := dk_182 0 216 (dk_at dksX14_readsRank_0 6 rfl rfl)
theorem dX14_readsRank_9 : decode cX14_readsRank 9 = .ok (.ireturn, 1) := dk_172 (dk_at dksX14_readsRank_0 9 rfl rfl)
theorem dX14_readsRank_10 : decode cX14_readsRank 10 = .ok (.aload_n 0, 1) := dk_42 (dk_at dksX14_readsRank_0 10 rfl rfl)
theorem dX14_readsRank_11 : decode cX14_readsRank 11 = .ok (.iload_n 1, 1) := dk_27 (dk_at dksX14_readsRank_0 11 rfl rfl)
theorem dX14_readsRank_12 : decode cX14_readsRank 12 = .ok (.iconst 1, 1) := dk_4 (dk_at dksX14_readsRank_0 12 rfl rfl)
theorem dX14_readsRank_13 : decode cX14_readsRank 13 = .ok (.iadd, 1) := dk_96 (dk_at dksX14_readsRank_0 13 rfl rfl)
theorem dX14_readsRank_14 : decode cX14_readsRank 14 = .ok (.invokevirtual 225, 3) := dk_182 0 225 (dk_at dksX14_readsRank_0 14 rfl rfl)
theorem dX14_readsRank_17 : decode cX14_readsRank 17 = .ok (.ifCond .ne 5, 3) := dk_154 0 5 (dk_at dksX14_readsRank_0 17 rfl rfl)
theorem dX14_readsRank_20 : decode cX14_readsRank 20 = .ok (.iconst 0, 1) := dk_3 (dk_at dksX14_readsRank_0 20 rfl rfl)
theorem dX14_readsRank_21 : decode cX14_readsRank 21 = .ok (.ireturn, 1) := dk_172 (dk_at dksX14_readsRank_0 21 rfl rfl)
theorem dX14_readsRank_22 : decode cX14_readsRank 22 = .ok (.iconst 1, 1) := dk_4 (dk_at dksX14_readsRank_0 22 rfl rfl)
theorem dX14_readsRank_23 : decode cX14_readsRank 23 = .ok (.istore_n 2, 1) := dk_61 (dk_at dksX14_readsRank_0 23 rfl rfl)
theorem dX14_readsRank_24 : decode cX14_readsRank 24 = .ok (.iload_n 2, 1) := dk_28 (dk_at dksX14_readsRank_1 0 rfl rfl)
theorem dX14_readsRank_25 : decode cX14_readsRank 25 = .ok (.ifCond .eq 98, 3) := dk_153 0 98 (dk_at dksX14_readsRank_1 1 rfl rfl)
theorem dX14_readsRank_28 : decode cX14_readsRank 28 = .ok (.aload_n 0, 1) := dk_42 (dk_at dksX14_readsRank_1 4 rfl rfl)
theorem dX14_readsRank_29 : decode cX14_readsRank 29 = .ok (.iload_n 1, 1) := dk_27 (dk_at dksX14_readsRank_1 5 rfl rfl)
theorem dX14_readsRank_30 : decode cX14_readsRank 30 = .ok (.ifCond .ne 8, 3) := dk_154 0 8 (dk_at dksX14_readsRank_1 6 rfl rfl)
theorem dX14_readsRank_33 : decode cX14_readsRank 33 = .ok (.ldc 228, 2) := dk_18 228 (dk_at dksX14_readsRank_1 9 rfl rfl)
theorem dX14_readsRank_35 : decode cX14_readsRank 35 = .ok (.goto 15, 3) := dk_167 0 15 (dk_at dksX14_readsRank_1 11 rfl rfl)
theorem dX14_readsRank_38 : decode cX14_readsRank 38 = .ok (.iload_n 1, 1) := dk_27 (dk_at dksX14_readsRank_1 14 rfl rfl)
theorem dX14_readsRank_39 : decode cX14_readsRank 39 = .ok (.iconst 1, 1) := dk_4 (dk_at dksX14_readsRank_1 15 rfl rfl)
theorem dX14_readsRank_40 : decode cX14_readsRank 40 = .ok (.if_icmp .ne 8, 3) := dk_160 0 8 (dk_at dksX14_readsRank_1 16 rfl rfl)
theorem dX14_readsRank_43 : decode cX14_readsRank 43 = .ok (.ldc 172, 2) := dk_18 172 (dk_at dksX14_readsRank_1 19 rfl rfl)
theorem dX14_readsRank_45 : decode cX14_readsRank 45 = .ok (.goto 5, 3) := dk_167 0 5 (dk_at dksX14_readsRank_1 21 rfl rfl)
theorem dX14_readsRank_48 : decode cX14_readsRank 48 = .ok (.ldc 230, 2) := dk_18 230 (dk_at dksX14_readsRank_2 0 rfl rfl)
theorem dX14_readsRank_50 : decode cX14_readsRank 50 = .ok (.invokevirtual 174, 3) := dk_182 0 174 (dk_at dksX14_readsRank_2 2 rfl rfl)
theorem dX14_readsRank_53 : decode cX14_readsRank 53 = .ok (.istore_n 3, 1) := dk_62 (dk_at dksX14_readsRank_2 5 rfl rfl)
theorem dX14_readsRank_54 : decode cX14_readsRank 54 = .ok (.iload_n 3, 1) := dk_29 (dk_at dksX14_readsRank_2 6 rfl rfl)
theorem dX14_readsRank_55 : decode cX14_readsRank 55 = .ok (.ifCond .ge 5, 3) := dk_156 0 5 (dk_at dksX14_readsRank_2 7 rfl rfl)
theorem dX14_readsRank_58 : decode cX14_readsRank 58 = .ok (.iconst 1, 1) := dk_4 (dk_at dksX14_readsRank_2 10 rfl rfl)
theorem dX14_readsRank_59 : decode cX14_readsRank 59 = .ok (.ireturn, 1) := dk_172 (dk_at dksX14_readsRank_2 11 rfl rfl)
theorem dX14_readsRank_60 : decode cX14_readsRank 60 = .ok (.aload_n 0, 1) := dk_42 (dk_at dksX14_readsRank_2 12 rfl rfl)
theorem dX14_readsRank_61 : decode cX14_readsRank 61 = .ok (.dup, 1) := dk_89 (dk_at dksX14_readsRank_2 13 rfl rfl)
theorem dX14_readsRank_62 : decode cX14_readsRank 62 = .ok (.getfield 135, 3) := dk_180 0 135 (dk_at dksX14_readsRank_2 14 rfl rfl)
theorem dX14_readsRank_65 : decode cX14_readsRank 65 = .ok (.iconst 1, 1) := dk_4 (dk_at dksX14_readsRank_2 17 rfl rfl)
theorem dX14_readsRank_66 : decode cX14_readsRank 66 = .ok (.iadd, 1) := dk_96 (dk_at dksX14_readsRank_2 18 rfl rfl)
theorem dX14_readsRank_67 : decode cX14_readsRank 67 = .ok (.putfield 135, 3) := dk_181 0 135 (dk_at dksX14_readsRank_2 19 rfl rfl)
theorem dX14_readsRank_70 : decode cX14_readsRank 70 = .ok (.aload_n 0, 1) := dk_42 (dk_at dksX14_readsRank_2 22 rfl rfl)
theorem dX14_readsRank_71 : decode cX14_readsRank 71 = .ok (.iload_n 1, 1) := dk_27 (dk_at dksX14_readsRank_2 23 rfl rfl)
theorem dX14_readsRank_72 : decode cX14_readsRank 72 = .ok (.iconst 1, 1) := dk_4 (dk_at dksX14_readsRank_3 0 rfl rfl)
theorem dX14_readsRank_73 : decode cX14_readsRank 73 = .ok (.iadd, 1) := dk_96 (dk_at dksX14_readsRank_3 1 rfl rfl)
theorem dX14_readsRank_74 : decode cX14_readsRank 74 = .ok (.invokevirtual 225, 3) := dk_182 0 225 (dk_at dksX14_readsRank_3 2 rfl rfl)
theorem dX14_readsRank_77 : decode cX14_readsRank 77 = .ok (.ifCond .ne 5, 3) := dk_154 0 5 (dk_at dksX14_readsRank_3 5 rfl rfl)
theorem dX14_readsRank_80 : decode cX14_readsRank 80 = .ok (.iconst 0, 1) := dk_3 (dk_at dksX14_readsRank_3 8 rfl rfl)
theorem dX14_readsRank_81 : decode cX14_readsRank 81 = .ok (.ireturn, 1) := dk_172 (dk_at dksX14_readsRank_3 9 rfl rfl)
theorem dX14_readsRank_82 : decode cX14_readsRank 82 = .ok (.aload_n 0, 1) := dk_42 (dk_at dksX14_readsRank_3 10 rfl rfl)
theorem dX14_readsRank_83 : decode cX14_readsRank 83 = .ok (.sipush 2000, 3) := dk_17 7 208 (dk_at dksX14_readsRank_3 11 rfl rfl)
theorem dX14_readsRank_86 : decode cX14_readsRank 86 = .ok (.iload_n 3, 1) := dk_29 (dk_at dksX14_readsRank_3 14 rfl rfl)
theorem dX14_readsRank_87 : decode cX14_readsRank 87 = .ok (.iadd, 1) := dk_96 (dk_at dksX14_readsRank_3 15 rfl rfl)
theorem dX14_readsRank_88 : decode cX14_readsRank 88 = .ok (.iload_n 1, 1) := dk_27 (dk_at dksX14_readsRank_3 16 rfl rfl)
theorem dX14_readsRank_89 : decode cX14_readsRank 89 = .ok (.ifCond .ne 7, 3) := dk_154 0 7 (dk_at dksX14_readsRank_3 17 rfl rfl)
theorem dX14_readsRank_92 : decode cX14_readsRank 92 = .ok (.iconst 0, 1) := dk_3 (dk_at dksX14_readsRank_3 20 rfl rfl)
theorem dX14_readsRank_93 : decode cX14_readsRank 93 = .ok (.goto 13, 3) := dk_167 0 13 (dk_at dksX14_readsRank_3 21 rfl rfl)
theorem dX14_readsRank_96 : decode cX14_readsRank 96 = .ok (.iload_n 1, 1) := dk_27 (dk_at dksX14_readsRank_4 0 rfl rfl)
theorem dX14_readsRank_97 : decode cX14_readsRank 97 = .ok (.iconst 1, 1) := dk_4 (dk_at dksX14_readsRank_4 1 rfl rfl)
theorem dX14_readsRank_98 : decode cX14_readsRank 98 = .ok (.if_icmp .ne 7, 3) := dk_160 0 7 (dk_at dksX14_readsRank_4 2 rfl rfl)
theorem dX14_readsRank_101 : decode cX14_readsRank 101 = .ok (.iconst 3, 1) := dk_6 (dk_at dksX14_readsRank_4 5 rfl rfl)
theorem dX14_readsRank_102 : decode cX14_readsRank 102 = .ok (.goto 4, 3) := dk_167 0 4 (dk_at dksX14_readsRank_4 6 rfl rfl)
theorem dX14_readsRank_105 : decode cX14_readsRank 105 = .ok (.iconst 5, 1) := dk_8 (dk_at dksX14_readsRank_4 9 rfl rfl)
theorem dX14_readsRank_106 : decode cX14_readsRank 106 = .ok (.iadd, 1) := dk_96 (dk_at dksX14_readsRank_4 10 rfl rfl)
theorem dX14_readsRank_107 : decode cX14_readsRank 107 = .ok (.invokevirtual 219, 3) := dk_182 0 219 (dk_at dksX14_readsRank_4 11 rfl rfl)
theorem dX14_readsRank_110 : decode cX14_readsRank 110 = .ok (.iload_n 1, 1) := dk_27 (dk_at dksX14_readsRank_4 14 rfl rfl)
theorem dX14_readsRank_111 : decode cX14_readsRank 111 = .ok (.ifCond .le 7, 3) := dk_158 0 7 (dk_at dksX14_readsRank_4 15 rfl rfl)
theorem dX14_readsRank_114 : decode cX14_readsRank 114 = .ok (.iconst 1, 1) := dk_4 (dk_at dksX14_readsRank_4 18 rfl rfl)
theorem dX14_readsRank_115 : decode cX14_readsRank 115 = .ok (.goto 4, 3) := dk_167 0 4 (dk_at dksX14_readsRank_4 19 rfl rfl)
theorem dX14_readsRank_118 : decode cX14_readsRank 118 = .ok (.iconst 0, 1) := dk_3 (dk_at dksX14_readsRank_4 22 rfl rfl)
theorem dX14_readsRank_119 : decode cX14_readsRank 119 = .ok (.istore_n 2, 1) := dk_61 (dk_at dksX14_readsRank_4 23 rfl rfl)
theorem dX14_readsRank_120 : decode cX14_readsRank 120 = .ok (.goto (-96), 3) := dk_167 255 160 (dk_at dksX14_readsRank_5 0 rfl rfl)
theorem dX14_readsRank_123 : decode cX14_readsRank 123 = .ok (.iconst 1, 1) := dk_4 (dk_at dksX14_readsRank_5 3 rfl rfl)
theorem dX14_readsRank_124 : decode cX14_readsRank 124 = .ok (.ireturn, 1) := dk_172 (dk_at dksX14_readsRank_5 4 rfl rfl)
def dkwX14_readsThing_5 : List UInt8 := [154, 0, 5, 3, 172, 42, 89, 180, 0, 138, 4, 100, 181, 0, 138, 4, 172]
abbrev dktX14_readsThing_5 : List UInt8 := dkwX14_readsThing_5 ++ []
def dkwX14_readsThing_4 : List UInt8 := [180, 0, 138, 4, 96, 181, 0, 138, 42, 3, 182, 0, 225, 153, 0, 12, 42, 16, 41, 182, 0, 178]
abbrev dktX14_readsThing_4 : List UInt8 := dkwX14_readsThing_4 ++ dktX14_readsThing_5
def dkwX14_readsThing_3 : List UInt8 := [172, 42, 180, 0, 138, 7, 159, 0, 12, 42, 16, 40, 182, 0, 178, 154, 0, 5, 3, 172, 42, 89]
abbrev dktX14_readsThing_3 : List UInt8 := dkwX14_readsThing_3 ++ dktX14_readsThing_4
def dkwX14_readsThing_2 : List UInt8 := [27, 155, 0, 24, 42, 89, 180, 0, 135, 4, 96, 181, 0, 135, 42, 17, 3, 232, 27, 96, 182, 0, 219, 4]
abbrev dktX14_readsThing_2 : List UInt8 := dkwX14_readsThing_2 ++ dktX14_readsThing_3
def dkwX14_readsThing_1 : List UInt8 := [182, 0, 158, 153, 0, 14, 42, 42, 6, 182, 0, 181, 182, 0, 219, 4, 172, 42, 18, 223, 182, 0, 174, 60]
abbrev dktX14_readsThing_1 : List UInt8 := dkwX14_readsThing_1 ++ dktX14_readsThing_2
def dkwX14_readsThing_0 : List UInt8 := [42, 16, 45, 182, 0, 178, 153, 0, 17, 42, 182, 0, 216, 60, 42, 17, 11, 184, 182, 0, 219, 27, 172, 42]
abbrev dktX14_readsThing_0 : List UInt8 := dkwX14_readsThing_0 ++ dktX14_readsThing_1
theorem dksX14_readsThing_0 : cX14_readsThing.data.toList.drop 0 = dktX14_readsThing_0 := by decide +kernel
theorem dksX14_readsThing_1 : cX14_readsThing.data.toList.drop 24 = dktX14_readsThing_1 := dk_seg dksX14_readsThing_0 24 rfl rfl
theorem dksX14_readsThing_2 : cX14_readsThing.data.toList.drop 48 = dktX14_readsThing_2 := dk_seg dksX14_readsThing_1 24 rfl rfl
theorem dksX14_readsThing_3 : cX14_readsThing.data.toList.drop 72 = dktX14_readsThing_3 := dk_seg dksX14_readsThing_2 24 rfl rfl
theorem dksX14_readsThing_4 : cX14_readsThing.data.toList.drop 94 = dktX14_readsThing_4 := dk_seg dksX14_readsThing_3 22 rfl rfl
theorem dksX14_readsThing_5 : cX14_readsThing.data.toList.drop 116 = dktX14_readsThing_5 := dk_seg dksX14_readsThing_4 22 rfl rfl
theorem dX14_readsThing_0 : decode cX14_readsThing 0 = .ok (.aload_n 0, 1) := dk_42 (dk_at dksX14_readsThing_0 0 rfl rfl)
theorem dX14_readsThing_1 : decode cX14_readsThing 1 = .ok (.bipush 45, 2) := dk_16 45 (dk_at dksX14_readsThing_0 1 rfl rfl)
theorem dX14_readsThing_3 : decode cX14_readsThing 3 = .ok (.invokevirtual 178, 3) := dk_182 0 178 (dk_at dksX14_readsThing_0 3 rfl rfl)
theorem dX14_readsThing_6 : decode cX14_readsThing 6 = .ok (.ifCond .eq 17, 3) := dk_153 0 17 (dk_at dksX14_readsThing_0 6 rfl rfl)
theorem dX14_readsThing_9 : decode cX14_readsThing 9 = .ok (.aload_n 0, 1) := dk_42 (dk_at dksX14_readsThing_0 9 rfl rfl)
theorem dX14_readsThing_10 : decode cX14_readsThing 10 = .ok (.invokevirtual 216, 3) := dk_182 0 216 (dk_at dksX14_readsThing_0 10 rfl rfl)
theorem dX14_readsThing_13 : decode cX14_readsThing 13 = .ok (.istore_n 1, 1) := dk_60 (dk_at dksX14_readsThing_0 13 rfl rfl)
theorem dX14_readsThing_14 : decode cX14_readsThing 14 = .ok (.aload_n 0, 1) := dk_42 (dk_at dksX14_readsThing_0 14 rfl rfl)
theorem dX14_readsThing_15 : decode cX14_readsThing 15 = .ok (.sipush 3000, 3) := dk_17 11 184 (dk_at dksX14_readsThing_0 15 rfl rfl)
theorem dX14_readsThing_18 : decode cX14_readsThing 18 = .ok (.invokevirtual 219, 3) := dk_182 0 219 (dk_at dksX14_readsThing_0 18 rfl rfl)
theorem dX14_readsThing_21 : decode cX14_readsThing 21 = .ok (.iload_n 1, 1) := dk_27 (dk_at dksX14_readsThing_0 21 rfl rfl)
theorem dX14_readsThing_22 : decode cX14_readsThing 22 = .ok (.ireturn, 1) := dk_172 (dk_at dksX14_readsThing_0 22 rfl rfl)
theorem dX14_readsThing_23 : decode cX14_readsThing 23 = .ok (.aload_n 0, 1) := dk_42 (dk_at dksX14_readsThing_0 23 rfl rfl)
theorem dX14_readsThing_24 : decode cX14_readsThing 24 = .ok (.invokevirtual 158, 3) := dk_182 0 158 (dk_at dksX14_readsThing_1 0 rfl rfl)
theorem dX14_readsThing_27 : decode cX14_readsThing 27 = .ok (.ifCond .eq 14, 3) := dk_153 0 14 (dk_at dksX14_readsThing_1 3 rfl rfl)
theorem dX14_readsThing_30 : decode cX14_readsThing 30 = .ok (.aload_n 0, 1) := dk_42 (dk_at dksX14_readsThing_1 6 rfl rfl)
theorem dX14_readsThing_31 : decode cX14_readsThing 31 = .ok (.aload_n 0, 1) := dk_42 (dk_at dksX14_readsThing_1 7 rfl rfl)
theorem dX14_readsThing_32 : decode cX14_readsThing 32 = .ok (.iconst 3, 1) := dk_6 (dk_at dksX14_readsThing_1 8 rfl rfl)
theorem dX14_readsThing_33 : decode cX14_readsThing 33 = .ok (.invokevirtual 181, 3) := dk_182 0 181 (dk_at dksX14_readsThing_1 9 rfl rfl)
theorem dX14_readsThing_36 : decode cX14_readsThing 36 = .ok (.invokevirtual 219, 3) := dk_182 0 219 (dk_at dksX14_readsThing_1 12 rfl rfl)
theorem dX14_readsThing_39 : decode cX14_readsThing 39 = .ok (.iconst 1, 1) := dk_4 (dk_at dksX14_readsThing_1 15 rfl rfl)
theorem dX14_readsThing_40 : decode cX14_readsThing 40 = .ok (.ireturn, 1) := dk_172 (dk_at dksX14_readsThing_1 16 rfl rfl)
theorem dX14_readsThing_41 : decode cX14_readsThing 41 = .ok (.aload_n 0, 1) := dk_42 (dk_at dksX14_readsThing_1 17 rfl rfl)
theorem dX14_readsThing_42 : decode cX14_readsThing 42 = .ok (.ldc 223, 2) := dk_18 223 (dk_at dksX14_readsThing_1 18 rfl rfl)
theorem dX14_readsThing_44 : decode cX14_readsThing 44 = .ok (.invokevirtual 174, 3) := dk_182 0 174 (dk_at dksX14_readsThing_1 20 rfl rfl)
theorem dX14_readsThing_47 : decode cX14_readsThing 47 = .ok (.istore_n 1, 1) := dk_60 (dk_at dksX14_readsThing_1 23 rfl rfl)
theorem dX14_readsThing_48 : decode cX14_readsThing 48 = .ok (.iload_n 1, 1) := dk_27 (dk_at dksX14_readsThing_2 0 rfl rfl)
theorem dX14_readsThing_49 : decode cX14_readsThing 49 = .ok (.ifCond .lt 24, 3) := dk_155 0 24 (dk_at dksX14_readsThing_2 1 rfl rfl)
theorem dX14_readsThing_52 : decode cX14_readsThing 52 = .ok (.aload_n 0, 1) := dk_42 (dk_at dksX14_readsThing_2 4 rfl rfl)
theorem dX14_readsThing_53 : decode cX14_readsThing 53 = .ok (.dup, 1) := dk_89 (dk_at dksX14_readsThing_2 5 rfl rfl)
theorem dX14_readsThing_54 : decode cX14_readsThing 54 = .ok (.getfield 135, 3) := dk_180 0 135 (dk_at dksX14_readsThing_2 6 rfl rfl)
theorem dX14_readsThing_57 : decode cX14_readsThing 57 = .ok (.iconst 1, 1) := dk_4 (dk_at dksX14_readsThing_2 9 rfl rfl)
theorem dX14_readsThing_58 : decode cX14_readsThing 58 = .ok (.iadd, 1) := dk_96 (dk_at dksX14_readsThing_2 10 rfl rfl)
theorem dX14_readsThing_59 : decode cX14_readsThing 59 = .ok (.putfield 135, 3) := dk_181 0 135 (dk_at dksX14_readsThing_2 11 rfl rfl)
theorem dX14_readsThing_62 : decode cX14_readsThing 62 = .ok (.aload_n 0, 1) := dk_42 (dk_at dksX14_readsThing_2 14 rfl rfl)
theorem dX14_readsThing_63 : decode cX14_readsThing 63 = .ok (.sipush 1000, 3) := dk_17 3 232 (dk_at dksX14_readsThing_2 15 rfl rfl)
theorem dX14_readsThing_66 : decode cX14_readsThing 66 = .ok (.iload_n 1, 1) := dk_27 (dk_at dksX14_readsThing_2 18 rfl rfl)
theorem dX14_readsThing_67 : decode cX14_readsThing 67 = .ok (.iadd, 1) := dk_96 (dk_at dksX14_readsThing_2 19 rfl rfl)
theorem dX14_readsThing_68 : decode cX14_readsThing 68 = .ok (.invokevirtual 219, 3) := dk_182 0 219 (dk_at dksX14_readsThing_2 20 rfl rfl)
theorem dX14_readsThing_71 : decode cX14_readsThing 71 = .ok (.iconst 1, 1) := dk_4 (dk_at dksX14_readsThing_2 23 rfl rfl)
theorem dX14_readsThing_72 : decode cX14_readsThing 72 = .ok (.ireturn, 1) := dk_172 (dk_at dksX14_readsThing_3 0 rfl rfl)
theorem dX14_readsThing_73 : decode cX14_readsThing 73 = .ok (.aload_n 0, 1) := dk_42 (dk_at dksX14_readsThing_3 1 rfl rfl)
theorem dX14_readsThing_74 : decode cX14_readsThing 74 = .ok (.getfield 138, 3) := dk_180 0 138 (dk_at dksX14_readsThing_3 2 rfl rfl)
theorem dX14_readsThing_77 : decode cX14_readsThing 77 = .ok (.iconst 4, 1) := dk_7 (dk_at dksX14_readsThing_3 5 rfl rfl)
theorem dX14_readsThing_78 : decode cX14_readsThing 78 = .ok (.if_icmp .eq 12, 3) := dk_159 0 12 (dk_at dksX14_readsThing_3 6 rfl rfl)
theorem dX14_readsThing_81 : decode cX14_readsThing 81 = .ok (.aload_n 0, 1) := dk_42 (dk_at dksX14_readsThing_3 9 rfl rfl)
theorem dX14_readsThing_82 : decode cX14_readsThing 82 = .ok (.bipush 40, 2) := dk_16 40 (dk_at dksX14_readsThing_3 10 rfl rfl)
theorem dX14_readsThing_84 : decode cX14_readsThing 84 = .ok (.invokevirtual 178, 3) := dk_182 0 178 (dk_at dksX14_readsThing_3 12 rfl rfl)
theorem dX14_readsThing_87 : decode cX14_readsThing 87 = .ok (.ifCond .ne 5, 3) := dk_154 0 5 (dk_at dksX14_readsThing_3 15 rfl rfl)
theorem dX14_readsThing_90 : decode cX14_readsThing 90 = .ok (.iconst 0, 1) := dk_3 (dk_at dksX14_readsThing_3 18 rfl rfl)
theorem dX14_readsThing_91 : decode cX14_readsThing 91 = .ok (.ireturn, 1) := dk_172 (dk_at dksX14_readsThing_3 19 rfl rfl)
theorem dX14_readsThing_92 : decode cX14_readsThing 92 = .ok (.aload_n 0, 1) := dk_42 (dk_at dksX14_readsThing_3 20 rfl rfl)
theorem dX14_readsThing_93 : decode cX14_readsThing 93 = .ok (.dup, 1) := dk_89 (dk_at dksX14_readsThing_3 21 rfl rfl)
theorem dX14_readsThing_94 : decode cX14_readsThing 94 = .ok (.getfield 138, 3) := dk_180 0 138 (dk_at dksX14_readsThing_4 0 rfl rfl)
theorem dX14_readsThing_97 : decode cX14_readsThing 97 = .ok (.iconst 1, 1) := dk_4 (dk_at dksX14_readsThing_4 3 rfl rfl)
theorem dX14_readsThing_98 : decode cX14_readsThing 98 = .ok (.iadd, 1) := dk_96 (dk_at dksX14_readsThing_4 4 rfl rfl)
theorem dX14_readsThing_99 : decode cX14_readsThing 99 = .ok (.putfield 138, 3) := dk_181 0 138 (dk_at dksX14_readsThing_4 5 rfl rfl)
theorem dX14_readsThing_102 : decode cX14_readsThing 102 = .ok (.aload_n 0, 1) := dk_42 (dk_at dksX14_readsThing_4 8 rfl rfl)
theorem dX14_readsThing_103 : decode cX14_readsThing 103 = .ok (.iconst 0, 1) := dk_3 (dk_at dksX14_readsThing_4 9 rfl rfl)
theorem dX14_readsThing_104 : decode cX14_readsThing 104 = .ok (.invokevirtual 225, 3) := dk_182 0 225 (dk_at dksX14_readsThing_4 10 rfl rfl)
theorem dX14_readsThing_107 : decode cX14_readsThing 107 = .ok (.ifCond .eq 12, 3) := dk_153 0 12 (dk_at dksX14_readsThing_4 13 rfl rfl)
theorem dX14_readsThing_110 : decode cX14_readsThing 110 = .ok (.aload_n 0, 1) := dk_42 (dk_at dksX14_readsThing_4 16 rfl rfl)
theorem dX14_readsThing_111 : decode cX14_readsThing 111 = .ok (.bipush 41, 2) := dk_16 41 (dk_at dksX14_readsThing_4 17 rfl rfl)
theorem dX14_readsThing_113 : decode cX14_readsThing 113 = .ok (.invokevirtual 178, 3) := dk_182 0 178 (dk_at dksX14_readsThing_4 19 rfl rfl)
theorem dX14_readsThing_116 : decode cX14_readsThing 116 = .ok (.ifCond .ne 5, 3) := dk_154 0 5 (dk_at dksX14_readsThing_5 0 rfl rfl)
theorem dX14_readsThing_119 : decode cX14_readsThing 119 = .ok (.iconst 0, 1) := dk_3 (dk_at dksX14_readsThing_5 3 rfl rfl)
theorem dX14_readsThing_120 : decode cX14_readsThing 120 = .ok (.ireturn, 1) := dk_172 (dk_at dksX14_readsThing_5 4 rfl rfl)
theorem dX14_readsThing_121 : decode cX14_readsThing 121 = .ok (.aload_n 0, 1) := dk_42 (dk_at dksX14_readsThing_5 5 rfl rfl)
theorem dX14_readsThing_122 : decode cX14_readsThing 122 = .ok (.dup, 1) := dk_89 (dk_at dksX14_readsThing_5 6 rfl rfl)
theorem dX14_readsThing_123 : decode cX14_readsThing 123 = .ok (.getfield 138, 3) := dk_180 0 138 (dk_at dksX14_readsThing_5 7 rfl rfl)
theorem dX14_readsThing_126 : decode cX14_readsThing 126 = .ok (.iconst 1, 1) := dk_4 (dk_at dksX14_readsThing_5 10 rfl rfl)
theorem dX14_readsThing_127 : decode cX14_readsThing 127 = .ok (.isub, 1) := dk_100 (dk_at dksX14_readsThing_5 11 rfl rfl)
theorem dX14_readsThing_128 : decode cX14_readsThing 128 = .ok (.putfield 138, 3) := dk_181 0 138 (dk_at dksX14_readsThing_5 12 rfl rfl)
theorem dX14_readsThing_131 : decode cX14_readsThing 131 = .ok (.iconst 1, 1) := dk_4 (dk_at dksX14_readsThing_5 15 rfl rfl)
theorem dX14_readsThing_132 : decode cX14_readsThing 132 = .ok (.ireturn, 1) := dk_172 (dk_at dksX14_readsThing_5 16 rfl rfl)
def dkwX14_codes_0 : List UInt8 := [42, 180, 0, 68, 42, 180, 0, 213, 27, 79, 42, 89, 180, 0, 213, 4, 96, 181, 0, 213, 177]
abbrev dktX14_codes_0 : List UInt8 := dkwX14_codes_0 ++ []
theorem dksX14_codes_0 : cX14_codes.data.toList.drop 0 = dktX14_codes_0 := by decide +kernel
theorem dX14_codes_0 : decode cX14_codes 0 = .ok (.aload_n 0, 1) := dk_42 (dk_at dksX14_codes_0 0 rfl rfl)
theorem dX14_codes_1 : decode cX14_codes 1 = .ok (.getfield 68, 3) := dk_180 0 68 (dk_at dksX14_codes_0 1 rfl rfl)
theorem dX14_codes_4 : decode cX14_codes 4 = .ok (.aload_n 0, 1) := dk_42 (dk_at dksX14_codes_0 4 rfl rfl)
theorem dX14_codes_5 : decode cX14_codes 5 = .ok (.getfield 213, 3) := dk_180 0 213 (dk_at dksX14_codes_0 5 rfl rfl)
theorem dX14_codes_8 : decode cX14_codes 8 = .ok (.iload_n 1, 1) := dk_27 (dk_at dksX14_codes_0 8 rfl rfl)
theorem dX14_codes_9 : decode cX14_codes 9 = .ok (.iastore, 1) := dk_79 (dk_at dksX14_codes_0 9 rfl rfl)
theorem dX14_codes_10 : decode cX14_codes 10 = .ok (.aload_n 0, 1) := dk_42 (dk_at dksX14_codes_0 10 rfl rfl)
theorem dX14_codes_11 : decode cX14_codes 11 = .ok (.dup, 1) := dk_89 (dk_at dksX14_codes_0 11 rfl rfl)
theorem dX14_codes_12 : decode cX14_codes 12 = .ok (.getfield 213, 3) := dk_180 0 213 (dk_at dksX14_codes_0 12 rfl rfl)
theorem dX14_codes_15 : decode cX14_codes 15 = .ok (.iconst 1, 1) := dk_4 (dk_at dksX14_codes_0 15 rfl rfl)
theorem dX14_codes_16 : decode cX14_codes 16 = .ok (.iadd, 1) := dk_96 (dk_at dksX14_codes_0 16 rfl rfl)
theorem dX14_codes_17 : decode cX14_codes 17 = .ok (.putfield 213, 3) := dk_181 0 213 (dk_at dksX14_codes_0 17 rfl rfl)
theorem dX14_codes_20 : decode cX14_codes 20 = .ok (.return_, 1) := dk_177 (dk_at dksX14_codes_0 20 rfl rfl)
def dkwX14_of_6 : List UInt8 := [180, 0, 38, 27, 46, 172]
abbrev dktX14_of_6 : List UInt8 := dkwX14_of_6 ++ []
def dkwX14_of_5 : List UInt8 := [42, 42, 180, 0, 44, 27, 46, 182, 1, 6, 172, 42, 42, 180, 0, 44, 27, 182, 0, 247, 172, 42]
abbrev dktX14_of_5 : List UInt8 := dkwX14_of_5 ++ dktX14_of_6
def dkwX14_of_4 : List UInt8 := [180, 0, 44, 16, 16, 46, 27, 184, 0, 128, 184, 0, 150, 172, 42, 180, 0, 44, 16, 8, 27, 96, 46, 172]
abbrev dktX14_of_4 : List UInt8 := dkwX14_of_4 ++ dktX14_of_5
def dkwX14_of_3 : List UInt8 := [42, 180, 0, 44, 27, 46, 172, 42, 180, 0, 28, 27, 46, 172, 42, 180, 0, 32, 27, 46, 172, 42]
abbrev dktX14_of_3 : List UInt8 := dkwX14_of_3 ++ dktX14_of_4
def dkwX14_of_2 : List UInt8 := [170, 0, 0, 0, 108, 0, 0, 0, 0, 0, 0, 0, 6, 0, 0, 0, 41, 0, 0, 0, 48, 0, 0, 0, 55, 0, 0, 0, 62, 0, 0, 0, 77, 0, 0, 0, 87, 0, 0, 0, 98]
abbrev dktX14_of_2 : List UInt8 := dkwX14_of_2 ++ dktX14_of_3
def dkwX14_of_1 : List UInt8 := [154, 0, 8, 42, 182, 1, 3, 172, 28]
abbrev dktX14_of_1 : List UInt8 := dkwX14_of_1 ++ dktX14_of_2
def dkwX14_of_0 : List UInt8 := [42, 3, 181, 0, 3, 42, 27, 182, 0, 124, 153, 0, 15, 28, 133, 9, 20, 1, 1, 184, 0, 120]
abbrev dktX14_of_0 : List UInt8 := dkwX14_of_0 ++ dktX14_of_1
theorem dksX14_of_0 : cX14_of.data.toList.drop 0 = dktX14_of_0 := by decide +kernel
theorem dksX14_of_1 : cX14_of.data.toList.drop 22 = dktX14_of_1 := dk_seg dksX14_of_0 22 rfl rfl
theorem dksX14_of_2 : cX14_of.data.toList.drop 31 = dktX14_of_2 := dk_seg dksX14_of_1 9 rfl rfl
theorem dksX14_of_3 : cX14_of.data.toList.drop 72 = dktX14_of_3 := dk_seg dksX14_of_2 41 rfl rfl
theorem dksX14_of_4 : cX14_of.data.toList.drop 94 = dktX14_of_4 := dk_seg dksX14_of_3 22 rfl rfl
theorem dksX14_of_5 : cX14_of.data.toList.drop 118 = dktX14_of_5 := dk_seg dksX14_of_4 24 rfl rfl
theorem dksX14_of_6 : cX14_of.data.toList.drop 140 = dktX14_of_6 := dk_seg dksX14_of_5 22 rfl rfl
theorem dX14_of_0 : decode cX14_of 0 = .ok (.aload_n 0, 1) := dk_42 (dk_at dksX14_of_0 0 rfl rfl)
theorem dX14_of_1 : decode cX14_of 1 = .ok (.iconst 0, 1) := dk_3 (dk_at dksX14_of_0 1 rfl rfl)
theorem dX14_of_2 : decode cX14_of 2 = .ok (.putfield 3, 3) := dk_181 0 3 (dk_at dksX14_of_0 2 rfl rfl)
theorem dX14_of_5 : decode cX14_of 5 = .ok (.aload_n 0, 1) := dk_42 (dk_at dksX14_of_0 5 rfl rfl)
theorem dX14_of_6 : decode cX14_of 6 = .ok (.iload_n 1, 1) := dk_27 (dk_at dksX14_of_0 6 rfl rfl)
theorem dX14_of_7 : decode cX14_of 7 = .ok (.invokevirtual 124, 3) := dk_182 0 124 (dk_at dksX14_of_0 7 rfl rfl)
theorem dX14_of_10 : decode cX14_of 10 = .ok (.ifCond .eq 15, 3) := dk_153 0 15 (dk_at dksX14_of_0 10 rfl rfl)
theorem dX14_of_13 : decode cX14_of 13 = .ok (.iload_n 2, 1) := dk_28 (dk_at dksX14_of_0 13 rfl rfl)
theorem dX14_of_14 : decode cX14_of 14 = .ok (.i2l, 1) := dk_133 (dk_at dksX14_of_0 14 rfl rfl)
theorem dX14_of_15 : decode cX14_of 15 = .ok (.lconst 0, 1) := dk_9 (dk_at dksX14_of_0 15 rfl rfl)
theorem dX14_of_16 : decode cX14_of 16 = .ok (.ldc2_w 257, 3) := dk_20 1 1 (dk_at dksX14_of_0 16 rfl rfl)
theorem dX14_of_19 : decode cX14_of 19 = .ok (.invokestatic 120, 3) := dk_184 0 120 (dk_at dksX14_of_0 19 rfl rfl)
theorem dX14_of_22 : decode cX14_of 22 = .ok (.ifCond .ne 8, 3) := dk_154 0 8 (dk_at dksX14_of_1 0 rfl rfl)
theorem dX14_of_25 : decode cX14_of 25 = .ok (.aload_n 0, 1) := dk_42 (dk_at dksX14_of_1 3 rfl rfl)
theorem dX14_of_26 : decode cX14_of 26 = .ok (.invokevirtual 259, 3) := dk_182 1 3 (dk_at dksX14_of_1 4 rfl rfl)
theorem dX14_of_29 : decode cX14_of 29 = .ok (.ireturn, 1) := dk_172 (dk_at dksX14_of_1 7 rfl rfl)
theorem dX14_of_30 : decode cX14_of 30 = .ok (.iload_n 2, 1) := dk_28 (dk_at dksX14_of_1 8 rfl rfl)
theorem dX14_of_31 : decode cX14_of 31 = .ok (.tableswitch 108 0 6 #[41, 48, 55, 62, 77, 87, 98], 41) := by decide +kernel
theorem dX14_of_72 : decode cX14_of 72 = .ok (.aload_n 0, 1) := dk_42 (dk_at dksX14_of_3 0 rfl rfl)
theorem dX14_of_73 : decode cX14_of 73 = .ok (.getfield 44, 3) := dk_180 0 44 (dk_at dksX14_of_3 1 rfl rfl)
theorem dX14_of_76 : decode cX14_of 76 = .ok (.iload_n 1, 1) := dk_27 (dk_at dksX14_of_3 4 rfl rfl)
theorem dX14_of_77 : decode cX14_of 77 = .ok (.iaload, 1) := dk_46 (dk_at dksX14_of_3 5 rfl rfl)
theorem dX14_of_78 : decode cX14_of 78 = .ok (.ireturn, 1) := dk_172 (dk_at dksX14_of_3 6 rfl rfl)
theorem dX14_of_79 : decode cX14_of 79 = .ok (.aload_n 0, 1) := dk_42 (dk_at dksX14_of_3 7 rfl rfl)
theorem dX14_of_80 : decode cX14_of 80 = .ok (.getfield 28, 3) := dk_180 0 28 (dk_at dksX14_of_3 8 rfl rfl)
theorem dX14_of_83 : decode cX14_of 83 = .ok (.iload_n 1, 1) := dk_27 (dk_at dksX14_of_3 11 rfl rfl)
theorem dX14_of_84 : decode cX14_of 84 = .ok (.iaload, 1) := dk_46 (dk_at dksX14_of_3 12 rfl rfl)
theorem dX14_of_85 : decode cX14_of 85 = .ok (.ireturn, 1) := dk_172 (dk_at dksX14_of_3 13 rfl rfl)
theorem dX14_of_86 : decode cX14_of 86 = .ok (.aload_n 0, 1) := dk_42 (dk_at dksX14_of_3 14 rfl rfl)
theorem dX14_of_87 : decode cX14_of 87 = .ok (.getfield 32, 3) := dk_180 0 32 (dk_at dksX14_of_3 15 rfl rfl)
theorem dX14_of_90 : decode cX14_of 90 = .ok (.iload_n 1, 1) := dk_27 (dk_at dksX14_of_3 18 rfl rfl)
theorem dX14_of_91 : decode cX14_of 91 = .ok (.iaload, 1) := dk_46 (dk_at dksX14_of_3 19 rfl rfl)
theorem dX14_of_92 : decode cX14_of 92 = .ok (.ireturn, 1) := dk_172 (dk_at dksX14_of_3 20 rfl rfl)
theorem dX14_of_93 : decode cX14_of 93 = .ok (.aload_n 0, 1) := dk_42 (dk_at dksX14_of_3 21 rfl rfl)
theorem dX14_of_94 : decode cX14_of 94 = .ok (.getfield 44, 3) := dk_180 0 44 (dk_at dksX14_of_4 0 rfl rfl)
theorem dX14_of_97 : decode cX14_of 97 = .ok (.bipush 16, 2) := dk_16 16 (dk_at dksX14_of_4 3 rfl rfl)
theorem dX14_of_99 : decode cX14_of 99 = .ok (.iaload, 1) := dk_46 (dk_at dksX14_of_4 5 rfl rfl)
theorem dX14_of_100 : decode cX14_of 100 = .ok (.iload_n 1, 1) := dk_27 (dk_at dksX14_of_4 6 rfl rfl)
theorem dX14_of_101 : decode cX14_of 101 = .ok (.invokestatic 128, 3) := dk_184 0 128 (dk_at dksX14_of_4 7 rfl rfl)
theorem dX14_of_104 : decode cX14_of 104 = .ok (.invokestatic 150, 3) := dk_184 0 150 (dk_at dksX14_of_4 10 rfl rfl)
theorem dX14_of_107 : decode cX14_of 107 = .ok (.ireturn, 1) := dk_172 (dk_at dksX14_of_4 13 rfl rfl)
theorem dX14_of_108 : decode cX14_of 108 = .ok (.aload_n 0, 1) := dk_42 (dk_at dksX14_of_4 14 rfl rfl)
theorem dX14_of_109 : decode cX14_of 109 = .ok (.getfield 44, 3) := dk_180 0 44 (dk_at dksX14_of_4 15 rfl rfl)
theorem dX14_of_112 : decode cX14_of 112 = .ok (.bipush 8, 2) := dk_16 8 (dk_at dksX14_of_4 18 rfl rfl)
theorem dX14_of_114 : decode cX14_of 114 = .ok (.iload_n 1, 1) := dk_27 (dk_at dksX14_of_4 20 rfl rfl)
theorem dX14_of_115 : decode cX14_of 115 = .ok (.iadd, 1) := dk_96 (dk_at dksX14_of_4 21 rfl rfl)
theorem dX14_of_116 : decode cX14_of 116 = .ok (.iaload, 1) := dk_46 (dk_at dksX14_of_4 22 rfl rfl)
theorem dX14_of_117 : decode cX14_of 117 = .ok (.ireturn, 1) := dk_172 (dk_at dksX14_of_4 23 rfl rfl)
theorem dX14_of_118 : decode cX14_of 118 = .ok (.aload_n 0, 1) := dk_42 (dk_at dksX14_of_5 0 rfl rfl)
theorem dX14_of_119 : decode cX14_of 119 = .ok (.aload_n 0, 1) := dk_42 (dk_at dksX14_of_5 1 rfl rfl)
theorem dX14_of_120 : decode cX14_of 120 = .ok (.getfield 44, 3) := dk_180 0 44 (dk_at dksX14_of_5 2 rfl rfl)
theorem dX14_of_123 : decode cX14_of 123 = .ok (.iload_n 1, 1) := dk_27 (dk_at dksX14_of_5 5 rfl rfl)
theorem dX14_of_124 : decode cX14_of 124 = .ok (.iaload, 1) := dk_46 (dk_at dksX14_of_5 6 rfl rfl)
theorem dX14_of_125 : decode cX14_of 125 = .ok (.invokevirtual 262, 3) := dk_182 1 6 (dk_at dksX14_of_5 7 rfl rfl)
theorem dX14_of_128 : decode cX14_of 128 = .ok (.ireturn, 1) := dk_172 (dk_at dksX14_of_5 10 rfl rfl)
theorem dX14_of_129 : decode cX14_of 129 = .ok (.aload_n 0, 1) := dk_42 (dk_at dksX14_of_5 11 rfl rfl)
theorem dX14_of_130 : decode cX14_of 130 = .ok (.aload_n 0, 1) := dk_42 (dk_at dksX14_of_5 12 rfl rfl)
theorem dX14_of_131 : decode cX14_of 131 = .ok (.getfield 44, 3) := dk_180 0 44 (dk_at dksX14_of_5 13 rfl rfl)
theorem dX14_of_134 : decode cX14_of 134 = .ok (.iload_n 1, 1) := dk_27 (dk_at dksX14_of_5 16 rfl rfl)
theorem dX14_of_135 : decode cX14_of 135 = .ok (.invokevirtual 247, 3) := dk_182 0 247 (dk_at dksX14_of_5 17 rfl rfl)
theorem dX14_of_138 : decode cX14_of 138 = .ok (.ireturn, 1) := dk_172 (dk_at dksX14_of_5 20 rfl rfl)
theorem dX14_of_139 : decode cX14_of 139 = .ok (.aload_n 0, 1) := dk_42 (dk_at dksX14_of_5 21 rfl rfl)
theorem dX14_of_140 : decode cX14_of 140 = .ok (.getfield 38, 3) := dk_180 0 38 (dk_at dksX14_of_6 0 rfl rfl)
theorem dX14_of_143 : decode cX14_of 143 = .ok (.iload_n 1, 1) := dk_27 (dk_at dksX14_of_6 3 rfl rfl)
theorem dX14_of_144 : decode cX14_of 144 = .ok (.iaload, 1) := dk_46 (dk_at dksX14_of_6 4 rfl rfl)
theorem dX14_of_145 : decode cX14_of 145 = .ok (.ireturn, 1) := dk_172 (dk_at dksX14_of_6 5 rfl rfl)
def dkwX14_refuse_0 : List UInt8 := [42, 4, 181, 0, 3, 3, 172]
abbrev dktX14_refuse_0 : List UInt8 := dkwX14_refuse_0 ++ []
theorem dksX14_refuse_0 : cX14_refuse.data.toList.drop 0 = dktX14_refuse_0 := by decide +kernel
theorem dX14_refuse_0 : decode cX14_refuse 0 = .ok (.aload_n 0, 1) := dk_42 (dk_at dksX14_refuse_0 0 rfl rfl)
theorem dX14_refuse_1 : decode cX14_refuse 1 = .ok (.iconst 1, 1) := dk_4 (dk_at dksX14_refuse_0 1 rfl rfl)
theorem dX14_refuse_2 : decode cX14_refuse 2 = .ok (.putfield 3, 3) := dk_181 0 3 (dk_at dksX14_refuse_0 2 rfl rfl)
theorem dX14_refuse_5 : decode cX14_refuse 5 = .ok (.iconst 0, 1) := dk_3 (dk_at dksX14_refuse_0 5 rfl rfl)
theorem dX14_refuse_6 : decode cX14_refuse 6 = .ok (.ireturn, 1) := dk_172 (dk_at dksX14_refuse_0 6 rfl rfl)
def dkwX14_has_0 : List UInt8 := [26, 27, 122, 4, 126, 4, 160, 0, 7, 4, 167, 0, 4, 3, 172]
abbrev dktX14_has_0 : List UInt8 := dkwX14_has_0 ++ []
theorem dksX14_has_0 : cX14_has.data.toList.drop 0 = dktX14_has_0 := by decide +kernel
theorem dX14_has_0 : decode cX14_has 0 = .ok (.iload_n 0, 1) := dk_26 (dk_at dksX14_has_0 0 rfl rfl)
theorem dX14_has_1 : decode cX14_has 1 = .ok (.iload_n 1, 1) := dk_27 (dk_at dksX14_has_0 1 rfl rfl)
theorem dX14_has_2 : decode cX14_has 2 = .ok (.ishr, 1) := dk_122 (dk_at dksX14_has_0 2 rfl rfl)
theorem dX14_has_3 : decode cX14_has 3 = .ok (.iconst 1, 1) := dk_4 (dk_at dksX14_has_0 3 rfl rfl)
theorem dX14_has_4 : decode cX14_has 4 = .ok (.iand, 1) := dk_126 (dk_at dksX14_has_0 4 rfl rfl)
theorem dX14_has_5 : decode cX14_has 5 = .ok (.iconst 1, 1) := dk_4 (dk_at dksX14_has_0 5 rfl rfl)
theorem dX14_has_6 : decode cX14_has 6 = .ok (.if_icmp .ne 7, 3) := dk_160 0 7 (dk_at dksX14_has_0 6 rfl rfl)
theorem dX14_has_9 : decode cX14_has 9 = .ok (.iconst 1, 1) := dk_4 (dk_at dksX14_has_0 9 rfl rfl)
theorem dX14_has_10 : decode cX14_has 10 = .ok (.goto 4, 3) := dk_167 0 4 (dk_at dksX14_has_0 10 rfl rfl)
theorem dX14_has_13 : decode cX14_has 13 = .ok (.iconst 0, 1) := dk_3 (dk_at dksX14_has_0 13 rfl rfl)
theorem dX14_has_14 : decode cX14_has 14 = .ok (.ireturn, 1) := dk_172 (dk_at dksX14_has_0 14 rfl rfl)
def dkwX14_shows_0 : List UInt8 := [3, 27, 42, 180, 0, 251, 96, 184, 0, 254, 61, 28, 28, 42, 180, 0, 41, 112, 100, 172]
abbrev dktX14_shows_0 : List UInt8 := dkwX14_shows_0 ++ []
theorem dksX14_shows_0 : cX14_shows.data.toList.drop 0 = dktX14_shows_0 := by decide +kernel
theorem dX14_shows_0 : decode cX14_shows 0 = .ok (.iconst 0, 1) := dk_3 (dk_at dksX14_shows_0 0 rfl rfl)
theorem dX14_shows_1 : decode cX14_shows 1 = .ok (.iload_n 1, 1) := dk_27 (dk_at dksX14_shows_0 1 rfl rfl)
theorem dX14_shows_2 : decode cX14_shows 2 = .ok (.aload_n 0, 1) := dk_42 (dk_at dksX14_shows_0 2 rfl rfl)
theorem dX14_shows_3 : decode cX14_shows 3 = .ok (.getfield 251, 3) := dk_180 0 251 (dk_at dksX14_shows_0 3 rfl rfl)
theorem dX14_shows_6 : decode cX14_shows 6 = .ok (.iadd, 1) := dk_96 (dk_at dksX14_shows_0 6 rfl rfl)
theorem dX14_shows_7 : decode cX14_shows 7 = .ok (.invokestatic 254, 3) := dk_184 0 254 (dk_at dksX14_shows_0 7 rfl rfl)
theorem dX14_shows_10 : decode cX14_shows 10 = .ok (.istore_n 2, 1) := dk_61 (dk_at dksX14_shows_0 10 rfl rfl)
theorem dX14_shows_11 : decode cX14_shows 11 = .ok (.iload_n 2, 1) := dk_28 (dk_at dksX14_shows_0 11 rfl rfl)
theorem dX14_shows_12 : decode cX14_shows 12 = .ok (.iload_n 2, 1) := dk_28 (dk_at dksX14_shows_0 12 rfl rfl)
theorem dX14_shows_13 : decode cX14_shows 13 = .ok (.aload_n 0, 1) := dk_42 (dk_at dksX14_shows_0 13 rfl rfl)
theorem dX14_shows_14 : decode cX14_shows 14 = .ok (.getfield 41, 3) := dk_180 0 41 (dk_at dksX14_shows_0 14 rfl rfl)
theorem dX14_shows_17 : decode cX14_shows 17 = .ok (.irem, 1) := dk_112 (dk_at dksX14_shows_0 17 rfl rfl)
theorem dX14_shows_18 : decode cX14_shows 18 = .ok (.isub, 1) := dk_100 (dk_at dksX14_shows_0 18 rfl rfl)
theorem dX14_shows_19 : decode cX14_shows 19 = .ok (.ireturn, 1) := dk_172 (dk_at dksX14_shows_0 19 rfl rfl)
def dkwX14_willOf_6 : List UInt8 := [167, 255, 128, 42, 180, 0, 71, 3, 46, 172]
abbrev dktX14_willOf_6 : List UInt8 := dkwX14_willOf_6 ++ []
def dkwX14_willOf_5 : List UInt8 := [28, 21, 5, 17, 3, 232, 100, 182, 0, 243, 167, 0, 5, 21, 5, 79, 132, 3, 1, 132, 4, 1]
abbrev dktX14_willOf_5 : List UInt8 := dkwX14_willOf_5 ++ dktX14_willOf_6
def dkwX14_willOf_4 : List UInt8 := [29, 46, 184, 0, 239, 79, 167, 0, 37, 42, 180, 0, 71, 29, 21, 5, 17, 3, 232, 161, 0, 18, 42, 43]
abbrev dktX14_willOf_4 : List UInt8 := dkwX14_willOf_4 ++ dktX14_willOf_5
def dkwX14_willOf_3 : List UInt8 := [180, 0, 71, 29, 4, 100, 21, 5, 17, 7, 208, 100, 42, 180, 0, 71, 29, 4, 100, 46, 42, 180, 0, 71]
abbrev dktX14_willOf_3 : List UInt8 := dkwX14_willOf_3 ++ dktX14_willOf_4
def dkwX14_willOf_2 : List UInt8 := [180, 0, 71, 29, 4, 100, 46, 116, 79, 167, 0, 82, 21, 5, 17, 7, 208, 161, 0, 40, 132, 3, 255, 42]
abbrev dktX14_willOf_2 : List UInt8 := dkwX14_willOf_2 ++ dktX14_willOf_3
def dkwX14_willOf_1 : List UInt8 := [180, 0, 65, 21, 4, 46, 54, 5, 21, 5, 17, 11, 184, 160, 0, 23, 42, 180, 0, 71, 29, 4, 100, 42]
abbrev dktX14_willOf_1 : List UInt8 := dkwX14_willOf_1 ++ dktX14_willOf_2
def dkwX14_willOf_0 : List UInt8 := [42, 180, 0, 232, 154, 0, 5, 4, 172, 3, 62, 3, 54, 4, 21, 4, 42, 180, 0, 232, 162, 0, 125, 42]
abbrev dktX14_willOf_0 : List UInt8 := dkwX14_willOf_0 ++ dktX14_willOf_1
theorem dksX14_willOf_0 : cX14_willOf.data.toList.drop 0 = dktX14_willOf_0 := by decide +kernel
theorem dksX14_willOf_1 : cX14_willOf.data.toList.drop 24 = dktX14_willOf_1 := dk_seg dksX14_willOf_0 24 rfl rfl
theorem dksX14_willOf_2 : cX14_willOf.data.toList.drop 48 = dktX14_willOf_2 := dk_seg dksX14_willOf_1 24 rfl rfl
theorem dksX14_willOf_3 : cX14_willOf.data.toList.drop 72 = dktX14_willOf_3 := dk_seg dksX14_willOf_2 24 rfl rfl
theorem dksX14_willOf_4 : cX14_willOf.data.toList.drop 96 = dktX14_willOf_4 := dk_seg dksX14_willOf_3 24 rfl rfl
theorem dksX14_willOf_5 : cX14_willOf.data.toList.drop 120 = dktX14_willOf_5 := dk_seg dksX14_willOf_4 24 rfl rfl
theorem dksX14_willOf_6 : cX14_willOf.data.toList.drop 142 = dktX14_willOf_6 := dk_seg dksX14_willOf_5 22 rfl rfl
theorem dX14_willOf_0 : decode cX14_willOf 0 = .ok (.aload_n 0, 1) := dk_42 (dk_at dksX14_willOf_0 0 rfl rfl)
theorem dX14_willOf_1 : decode cX14_willOf 1 = .ok (.getfield 232, 3) := dk_180 0 232 (dk_at dksX14_willOf_0 1 rfl rfl)
theorem dX14_willOf_4 : decode cX14_willOf 4 = .ok (.ifCond .ne 5, 3) := dk_154 0 5 (dk_at dksX14_willOf_0 4 rfl rfl)
theorem dX14_willOf_7 : decode cX14_willOf 7 = .ok (.iconst 1, 1) := dk_4 (dk_at dksX14_willOf_0 7 rfl rfl)
theorem dX14_willOf_8 : decode cX14_willOf 8 = .ok (.ireturn, 1) := dk_172 (dk_at dksX14_willOf_0 8 rfl rfl)
theorem dX14_willOf_9 : decode cX14_willOf 9 = .ok (.iconst 0, 1) := dk_3 (dk_at dksX14_willOf_0 9 rfl rfl)
theorem dX14_willOf_10 : decode cX14_willOf 10 = .ok (.istore_n 3, 1) := dk_62 (dk_at dksX14_willOf_0 10 rfl rfl)
theorem dX14_willOf_11 : decode cX14_willOf 11 = .ok (.iconst 0, 1) := dk_3 (dk_at dksX14_willOf_0 11 rfl rfl)
theorem dX14_willOf_12 : decode cX14_willOf 12 = .ok (.istore 4, 2) := dk_54 4 (dk_at dksX14_willOf_0 12 rfl rfl)
theorem dX14_willOf_14 : decode cX14_willOf 14 = .ok (.iload 4, 2) := dk_21 4 (dk_at dksX14_willOf_0 14 rfl rfl)
theorem dX14_willOf_16 : decode cX14_willOf 16 = .ok (.aload_n 0, 1) := dk_42 (dk_at dksX14_willOf_0 16 rfl rfl)
theorem dX14_willOf_17 : decode cX14_willOf 17 = .ok (.getfield 232, 3) := dk_180 0 232 (dk_at dksX14_willOf_0 17 rfl rfl)
theorem dX14_willOf_20 : decode cX14_willOf 20 = .ok (.if_icmp .ge 125, 3) := dk_162 0 125 (dk_at dksX14_willOf_0 20 rfl rfl)
theorem dX14_willOf_23 : decode cX14_willOf 23 = .ok (.aload_n 0, 1) := dk_42 (dk_at dksX14_willOf_0 23 rfl rfl)
theorem dX14_willOf_24 : decode cX14_willOf 24 = .ok (.getfield 65, 3) := dk_180 0 65 (dk_at dksX14_willOf_1 0 rfl rfl)
theorem dX14_willOf_27 : decode cX14_willOf 27 = .ok (.iload 4, 2) := dk_21 4 (dk_at dksX14_willOf_1 3 rfl rfl)
theorem dX14_willOf_29 : decode cX14_willOf 29 = .ok (.iaload, 1) := dk_46 (dk_at dksX14_willOf_1 5 rfl rfl)
theorem dX14_willOf_30 : decode cX14_willOf 30 = .ok (.istore 5, 2) := dk_54 5 (dk_at dksX14_willOf_1 6 rfl rfl)
theorem dX14_willOf_32 : decode cX14_willOf 32 = .ok (.iload 5, 2) := dk_21 5 (dk_at dksX14_willOf_1 8 rfl rfl)
theorem dX14_willOf_34 : decode cX14_willOf 34 = .ok (.sipush 3000, 3) := dk_17 11 184 (dk_at dksX14_willOf_1 10 rfl rfl)
theorem dX14_willOf_37 : decode cX14_willOf 37 = .ok (.if_icmp .ne 23, 3) := dk_160 0 23 (dk_at dksX14_willOf_1 13 rfl rfl)
theorem dX14_willOf_40 : decode cX14_willOf 40 = .ok (.aload_n 0, 1) := dk_42 (dk_at dksX14_willOf_1 16 rfl rfl)
theorem dX14_willOf_41 : decode cX14_willOf 41 = .ok (.getfield 71, 3) := dk_180 0 71 (dk_at dksX14_willOf_1 17 rfl rfl)
theorem dX14_willOf_44 : decode cX14_willOf 44 = .ok (.iload_n 3, 1) := dk_29 (dk_at dksX14_willOf_1 20 rfl rfl)
theorem dX14_willOf_45 : decode cX14_willOf 45 = .ok (.iconst 1, 1) := dk_4 (dk_at dksX14_willOf_1 21 rfl rfl)
theorem dX14_willOf_46 : decode cX14_willOf 46 = .ok (.isub, 1) := dk_100 (dk_at dksX14_willOf_1 22 rfl rfl)
theorem dX14_willOf_47 : decode cX14_willOf 47 = .ok (.aload_n 0, 1) := dk_42 (dk_at dksX14_willOf_1 23 rfl rfl)
theorem dX14_willOf_48 : decode cX14_willOf 48 = .ok (.getfield 71, 3) := dk_180 0 71 (dk_at dksX14_willOf_2 0 rfl rfl)
theorem dX14_willOf_51 : decode cX14_willOf 51 = .ok (.iload_n 3, 1) := dk_29 (dk_at dksX14_willOf_2 3 rfl rfl)
theorem dX14_willOf_52 : decode cX14_willOf 52 = .ok (.iconst 1, 1) := dk_4 (dk_at dksX14_willOf_2 4 rfl rfl)
theorem dX14_willOf_53 : decode cX14_willOf 53 = .ok (.isub, 1) := dk_100 (dk_at dksX14_willOf_2 5 rfl rfl)
theorem dX14_willOf_54 : decode cX14_willOf 54 = .ok (.iaload, 1) := dk_46 (dk_at dksX14_willOf_2 6 rfl rfl)
theorem dX14_willOf_55 : decode cX14_willOf 55 = .ok (.ineg, 1) := dk_116 (dk_at dksX14_willOf_2 7 rfl rfl)
theorem dX14_willOf_56 : decode cX14_willOf 56 = .ok (.iastore, 1) := dk_79 (dk_at dksX14_willOf_2 8 rfl rfl)
theorem dX14_willOf_57 : decode cX14_willOf 57 = .ok (.goto 82, 3) := dk_167 0 82 (dk_at dksX14_willOf_2 9 rfl rfl)
theorem dX14_willOf_60 : decode cX14_willOf 60 = .ok (.iload 5, 2) := dk_21 5 (dk_at dksX14_willOf_2 12 rfl rfl)
theorem dX14_willOf_62 : decode cX14_willOf 62 = .ok (.sipush 2000, 3) := dk_17 7 208 (dk_at dksX14_willOf_2 14 rfl rfl)
theorem dX14_willOf_65 : decode cX14_willOf 65 = .ok (.if_icmp .lt 40, 3) := dk_161 0 40 (dk_at dksX14_willOf_2 17 rfl rfl)
theorem dX14_willOf_68 : decode cX14_willOf 68 = .ok (.iinc 3 (-1), 3) := dk_132 3 255 (dk_at dksX14_willOf_2 20 rfl rfl)
theorem dX14_willOf_71 : decode cX14_willOf 71 = .ok (.aload_n 0, 1) := dk_42 (dk_at dksX14_willOf_2 23 rfl rfl)
theorem dX14_willOf_72 : decode cX14_willOf 72 = .ok (.getfield 71, 3) := dk_180 0 71 (dk_at dksX14_willOf_3 0 rfl rfl)
theorem dX14_willOf_75 : decode cX14_willOf 75 = .ok (.iload_n 3, 1) := dk_29 (dk_at dksX14_willOf_3 3 rfl rfl)
theorem dX14_willOf_76 : decode cX14_willOf 76 = .ok (.iconst 1, 1) := dk_4 (dk_at dksX14_willOf_3 4 rfl rfl)
theorem dX14_willOf_77 : decode cX14_willOf 77 = .ok (.isub, 1) := dk_100 (dk_at dksX14_willOf_3 5 rfl rfl)
theorem dX14_willOf_78 : decode cX14_willOf 78 = .ok (.iload 5, 2) := dk_21 5 (dk_at dksX14_willOf_3 6 rfl rfl)
theorem dX14_willOf_80 : decode cX14_willOf 80 = .ok (.sipush 2000, 3) := dk_17 7 208 (dk_at dksX14_willOf_3 8 rfl rfl)
theorem dX14_willOf_83 : decode cX14_willOf 83 = .ok (.isub, 1) := dk_100 (dk_at dksX14_willOf_3 11 rfl rfl)
theorem dX14_willOf_84 : decode cX14_willOf 84 = .ok (.aload_n 0, 1) := dk_42 (dk_at dksX14_willOf_3 12 rfl rfl)
theorem dX14_willOf_85 : decode cX14_willOf 85 = .ok (.getfield 71, 3) := dk_180 0 71 (dk_at dksX14_willOf_3 13 rfl rfl)
theorem dX14_willOf_88 : decode cX14_willOf 88 = .ok (.iload_n 3, 1) := dk_29 (dk_at dksX14_willOf_3 16 rfl rfl)
theorem dX14_willOf_89 : decode cX14_willOf 89 = .ok (.iconst 1, 1) := dk_4 (dk_at dksX14_willOf_3 17 rfl rfl)
theorem dX14_willOf_90 : decode cX14_willOf 90 = .ok (.isub, 1) := dk_100 (dk_at dksX14_willOf_3 18 rfl rfl)
theorem dX14_willOf_91 : decode cX14_willOf 91 = .ok (.iaload, 1) := dk_46 (dk_at dksX14_willOf_3 19 rfl rfl)
theorem dX14_willOf_92 : decode cX14_willOf 92 = .ok (.aload_n 0, 1) := dk_42 (dk_at dksX14_willOf_3 20 rfl rfl)
theorem dX14_willOf_93 : decode cX14_willOf 93 = .ok (.getfield 71, 3) := dk_180 0 71 (dk_at dksX14_willOf_3 21 rfl rfl)
theorem dX14_willOf_96 : decode cX14_willOf 96 = .ok (.iload_n 3, 1) := dk_29 (dk_at dksX14_willOf_4 0 rfl rfl)
theorem dX14_willOf_97 : decode cX14_willOf 97 = .ok (.iaload, 1) := dk_46 (dk_at dksX14_willOf_4 1 rfl rfl)
theorem dX14_willOf_98 : decode cX14_willOf 98 = .ok (.invokestatic 239, 3) := dk_184 0 239 (dk_at dksX14_willOf_4 2 rfl rfl)
theorem dX14_willOf_101 : decode cX14_willOf 101 = .ok (.iastore, 1) := dk_79 (dk_at dksX14_willOf_4 5 rfl rfl)
theorem dX14_willOf_102 : decode cX14_willOf 102 = .ok (.goto 37, 3) := dk_167 0 37 (dk_at dksX14_willOf_4 6 rfl rfl)
theorem dX14_willOf_105 : decode cX14_willOf 105 = .ok (.aload_n 0, 1) := dk_42 (dk_at dksX14_willOf_4 9 rfl rfl)
theorem dX14_willOf_106 : decode cX14_willOf 106 = .ok (.getfield 71, 3) := dk_180 0 71 (dk_at dksX14_willOf_4 10 rfl rfl)
theorem dX14_willOf_109 : decode cX14_willOf 109 = .ok (.iload_n 3, 1) := dk_29 (dk_at dksX14_willOf_4 13 rfl rfl)
theorem dX14_willOf_110 : decode cX14_willOf 110 = .ok (.iload 5, 2) := dk_21 5 (dk_at dksX14_willOf_4 14 rfl rfl)
theorem dX14_willOf_112 : decode cX14_willOf 112 = .ok (.sipush 1000, 3) := dk_17 3 232 (dk_at dksX14_willOf_4 16 rfl rfl)
theorem dX14_willOf_115 : decode cX14_willOf 115 = .ok (.if_icmp .lt 18, 3) := dk_161 0 18 (dk_at dksX14_willOf_4 19 rfl rfl)
theorem dX14_willOf_118 : decode cX14_willOf 118 = .ok (.aload_n 0, 1) := dk_42 (dk_at dksX14_willOf_4 22 rfl rfl)
theorem dX14_willOf_119 : decode cX14_willOf 119 = .ok (.aload_n 1, 1) := dk_43 (dk_at dksX14_willOf_4 23 rfl rfl)
theorem dX14_willOf_120 : decode cX14_willOf 120 = .ok (.iload_n 2, 1) := dk_28 (dk_at dksX14_willOf_5 0 rfl rfl)
theorem dX14_willOf_121 : decode cX14_willOf 121 = .ok (.iload 5, 2) := dk_21 5 (dk_at dksX14_willOf_5 1 rfl rfl)
theorem dX14_willOf_123 : decode cX14_willOf 123 = .ok (.sipush 1000, 3) := dk_17 3 232 (dk_at dksX14_willOf_5 3 rfl rfl)
theorem dX14_willOf_126 : decode cX14_willOf 126 = .ok (.isub, 1) := dk_100 (dk_at dksX14_willOf_5 6 rfl rfl)
theorem dX14_willOf_127 : decode cX14_willOf 127 = .ok (.invokevirtual 243, 3) := dk_182 0 243 (dk_at dksX14_willOf_5 7 rfl rfl)
theorem dX14_willOf_130 : decode cX14_willOf 130 = .ok (.goto 5, 3) := dk_167 0 5 (dk_at dksX14_willOf_5 10 rfl rfl)
theorem dX14_willOf_133 : decode cX14_willOf 133 = .ok (.iload 5, 2) := dk_21 5 (dk_at dksX14_willOf_5 13 rfl rfl)
theorem dX14_willOf_135 : decode cX14_willOf 135 = .ok (.iastore, 1) := dk_79 (dk_at dksX14_willOf_5 15 rfl rfl)
theorem dX14_willOf_136 : decode cX14_willOf 136 = .ok (.iinc 3 1, 3) := dk_132 3 1 (dk_at dksX14_willOf_5 16 rfl rfl)
theorem dX14_willOf_139 : decode cX14_willOf 139 = .ok (.iinc 4 1, 3) := dk_132 4 1 (dk_at dksX14_willOf_5 19 rfl rfl)
theorem dX14_willOf_142 : decode cX14_willOf 142 = .ok (.goto (-128), 3) := dk_167 255 128 (dk_at dksX14_willOf_6 0 rfl rfl)
theorem dX14_willOf_145 : decode cX14_willOf 145 = .ok (.aload_n 0, 1) := dk_42 (dk_at dksX14_willOf_6 3 rfl rfl)
theorem dX14_willOf_146 : decode cX14_willOf 146 = .ok (.getfield 71, 3) := dk_180 0 71 (dk_at dksX14_willOf_6 4 rfl rfl)
theorem dX14_willOf_149 : decode cX14_willOf 149 = .ok (.iconst 0, 1) := dk_3 (dk_at dksX14_willOf_6 7 rfl rfl)
theorem dX14_willOf_150 : decode cX14_willOf 150 = .ok (.iaload, 1) := dk_46 (dk_at dksX14_willOf_6 8 rfl rfl)
theorem dX14_willOf_151 : decode cX14_willOf 151 = .ok (.ireturn, 1) := dk_172 (dk_at dksX14_willOf_6 9 rfl rfl)
def dkwX14_worked_4 : List UInt8 := [100, 172, 27, 28, 104, 172, 28, 154, 0, 7, 3, 167, 0, 6, 27, 28, 108, 172]
abbrev dktX14_worked_4 : List UInt8 := dkwX14_worked_4 ++ []
def dkwX14_worked_3 : List UInt8 := [184, 0, 150, 172, 27, 28, 160, 0, 7, 4, 167, 0, 4, 3, 184, 0, 150, 172, 27, 28, 96, 172, 27, 28]
abbrev dktX14_worked_3 : List UInt8 := dkwX14_worked_3 ++ dktX14_worked_4
def dkwX14_worked_2 : List UInt8 := [27, 28, 162, 0, 7, 4, 167, 0, 4, 3, 184, 0, 150, 172, 27, 28, 164, 0, 7, 4, 167, 0, 4, 3]
abbrev dktX14_worked_2 : List UInt8 := dkwX14_worked_2 ++ dktX14_worked_3
def dkwX14_worked_1 : List UInt8 := [170, 0, 0, 0, 0, 0, 93, 0, 0, 0, 0, 0, 0, 0, 5, 0, 0, 0, 39, 0, 0, 0, 53, 0, 0, 0, 67, 0, 0, 0, 81, 0, 0, 0, 85, 0, 0, 0, 89]
abbrev dktX14_worked_1 : List UInt8 := dkwX14_worked_1 ++ dktX14_worked_2
def dkwX14_worked_0 : List UInt8 := [26]
abbrev dktX14_worked_0 : List UInt8 := dkwX14_worked_0 ++ dktX14_worked_1
theorem dksX14_worked_0 : cX14_worked.data.toList.drop 0 = dktX14_worked_0 := by decide +kernel
theorem dksX14_worked_1 : cX14_worked.data.toList.drop 1 = dktX14_worked_1 := dk_seg dksX14_worked_0 1 rfl rfl
theorem dksX14_worked_2 : cX14_worked.data.toList.drop 40 = dktX14_worked_2 := dk_seg dksX14_worked_1 39 rfl rfl
theorem dksX14_worked_3 : cX14_worked.data.toList.drop 64 = dktX14_worked_3 := dk_seg dksX14_worked_2 24 rfl rfl
theorem dksX14_worked_4 : cX14_worked.data.toList.drop 88 = dktX14_worked_4 := dk_seg dksX14_worked_3 24 rfl rfl
theorem dX14_worked_0 : decode cX14_worked 0 = .ok (.iload_n 0, 1) := dk_26 (dk_at dksX14_worked_0 0 rfl rfl)
theorem dX14_worked_1 : decode cX14_worked 1 = .ok (.tableswitch 93 0 5 #[39, 53, 67, 81, 85, 89], 39) := by decide +kernel
theorem dX14_worked_40 : decode cX14_worked 40 = .ok (.iload_n 1, 1) := dk_27 (dk_at dksX14_worked_2 0 rfl rfl)
theorem dX14_worked_41 : decode cX14_worked 41 = .ok (.iload_n 2, 1) := dk_28 (dk_at dksX14_worked_2 1 rfl rfl)
theorem dX14_worked_42 : decode cX14_worked 42 = .ok (.if_icmp .ge 7, 3) := dk_162 0 7 (dk_at dksX14_worked_2 2 rfl rfl)
theorem dX14_worked_45 : decode cX14_worked 45 = .ok (.iconst 1, 1) := dk_4 (dk_at dksX14_worked_2 5 rfl rfl)
theorem dX14_worked_46 : decode cX14_worked 46 = .ok (.goto 4, 3) := dk_167 0 4 (dk_at dksX14_worked_2 6 rfl rfl)
theorem dX14_worked_49 : decode cX14_worked 49 = .ok (.iconst 0, 1) := dk_3 (dk_at dksX14_worked_2 9 rfl rfl)
theorem dX14_worked_50 : decode cX14_worked 50 = .ok (.invokestatic 150, 3) := dk_184 0 150 (dk_at dksX14_worked_2 10 rfl rfl)
theorem dX14_worked_53 : decode cX14_worked 53 = .ok (.ireturn, 1) := dk_172 (dk_at dksX14_worked_2 13 rfl rfl)
theorem dX14_worked_54 : decode cX14_worked 54 = .ok (.iload_n 1, 1) := dk_27 (dk_at dksX14_worked_2 14 rfl rfl)
theorem dX14_worked_55 : decode cX14_worked 55 = .ok (.iload_n 2, 1) := dk_28 (dk_at dksX14_worked_2 15 rfl rfl)
theorem dX14_worked_56 : decode cX14_worked 56 = .ok (.if_icmp .le 7, 3) := dk_164 0 7 (dk_at dksX14_worked_2 16 rfl rfl)
theorem dX14_worked_59 : decode cX14_worked 59 = .ok (.iconst 1, 1) := dk_4 (dk_at dksX14_worked_2 19 rfl rfl)
theorem dX14_worked_60 : decode cX14_worked 60 = .ok (.goto 4, 3) := dk_167 0 4 (dk_at dksX14_worked_2 20 rfl rfl)
theorem dX14_worked_63 : decode cX14_worked 63 = .ok (.iconst 0, 1) := dk_3 (dk_at dksX14_worked_2 23 rfl rfl)
theorem dX14_worked_64 : decode cX14_worked 64 = .ok (.invokestatic 150, 3) := dk_184 0 150 (dk_at dksX14_worked_3 0 rfl rfl)
theorem dX14_worked_67 : decode cX14_worked 67 = .ok (.ireturn, 1) := dk_172 (dk_at dksX14_worked_3 3 rfl rfl)
theorem dX14_worked_68 : decode cX14_worked 68 = .ok (.iload_n 1, 1) := dk_27 (dk_at dksX14_worked_3 4 rfl rfl)
theorem dX14_worked_69 : decode cX14_worked 69 = .ok (.iload_n 2, 1) := dk_28 (dk_at dksX14_worked_3 5 rfl rfl)
theorem dX14_worked_70 : decode cX14_worked 70 = .ok (.if_icmp .ne 7, 3) := dk_160 0 7 (dk_at dksX14_worked_3 6 rfl rfl)
theorem dX14_worked_73 : decode cX14_worked 73 = .ok (.iconst 1, 1) := dk_4 (dk_at dksX14_worked_3 9 rfl rfl)
theorem dX14_worked_74 : decode cX14_worked 74 = .ok (.goto 4, 3) := dk_167 0 4 (dk_at dksX14_worked_3 10 rfl rfl)
theorem dX14_worked_77 : decode cX14_worked 77 = .ok (.iconst 0, 1) := dk_3 (dk_at dksX14_worked_3 13 rfl rfl)
theorem dX14_worked_78 : decode cX14_worked 78 = .ok (.invokestatic 150, 3) := dk_184 0 150 (dk_at dksX14_worked_3 14 rfl rfl)
theorem dX14_worked_81 : decode cX14_worked 81 = .ok (.ireturn, 1) := dk_172 (dk_at dksX14_worked_3 17 rfl rfl)
theorem dX14_worked_82 : decode cX14_worked 82 = .ok (.iload_n 1, 1) := dk_27 (dk_at dksX14_worked_3 18 rfl rfl)
theorem dX14_worked_83 : decode cX14_worked 83 = .ok (.iload_n 2, 1) := dk_28 (dk_at dksX14_worked_3 19 rfl rfl)
theorem dX14_worked_84 : decode cX14_worked 84 = .ok (.iadd, 1) := dk_96 (dk_at dksX14_worked_3 20 rfl rfl)
theorem dX14_worked_85 : decode cX14_worked 85 = .ok (.ireturn, 1) := dk_172 (dk_at dksX14_worked_3 21 rfl rfl)
theorem dX14_worked_86 : decode cX14_worked 86 = .ok (.iload_n 1, 1) := dk_27 (dk_at dksX14_worked_3 22 rfl rfl)
theorem dX14_worked_87 : decode cX14_worked 87 = .ok (.iload_n 2, 1) := dk_28 (dk_at dksX14_worked_3 23 rfl rfl)
theorem dX14_worked_88 : decode cX14_worked 88 = .ok (.isub, 1) := dk_100 (dk_at dksX14_worked_4 0 rfl rfl)
theorem dX14_worked_89 : decode cX14_worked 89 = .ok (.ireturn, 1) := dk_172 (dk_at dksX14_worked_4 1 rfl rfl)
theorem dX14_worked_90 : decode cX14_worked 90 = .ok (.iload_n 1, 1) := dk_27 (dk_at dksX14_worked_4 2 rfl rfl)
theorem dX14_worked_91 : decode cX14_worked 91 = .ok (.iload_n 2, 1) := dk_28 (dk_at dksX14_worked_4 3 rfl rfl)
theorem dX14_worked_92 : decode cX14_worked 92 = .ok (.imul, 1) := dk_104 (dk_at dksX14_worked_4 4 rfl rfl)
theorem dX14_worked_93 : decode cX14_worked 93 = .ok (.ireturn, 1) := dk_172 (dk_at dksX14_worked_4 5 rfl rfl)
theorem dX14_worked_94 : decode cX14_worked 94 = .ok (.iload_n 2, 1) := dk_28 (dk_at dksX14_worked_4 6 rfl rfl)
theorem dX14_worked_95 : decode cX14_worked 95 = .ok (.ifCond .ne 7, 3) := dk_154 0 7 (dk_at dksX14_worked_4 7 rfl rfl)
theorem dX14_worked_98 : decode cX14_worked 98 = .ok (.iconst 0, 1) := dk_3 (dk_at dksX14_worked_4 10 rfl rfl)
theorem dX14_worked_99 : decode cX14_worked 99 = .ok (.goto 6, 3) := dk_167 0 6 (dk_at dksX14_worked_4 11 rfl rfl)
theorem dX14_worked_102 : decode cX14_worked 102 = .ok (.iload_n 1, 1) := dk_27 (dk_at dksX14_worked_4 14 rfl rfl)
theorem dX14_worked_103 : decode cX14_worked 103 = .ok (.iload_n 2, 1) := dk_28 (dk_at dksX14_worked_4 15 rfl rfl)
theorem dX14_worked_104 : decode cX14_worked 104 = .ok (.idiv, 1) := dk_108 (dk_at dksX14_worked_4 16 rfl rfl)
theorem dX14_worked_105 : decode cX14_worked 105 = .ok (.ireturn, 1) := dk_172 (dk_at dksX14_worked_4 17 rfl rfl)
def dkwX14_thingOf_5 : List UInt8 := [172, 43, 16, 19, 46, 172]
abbrev dktX14_thingOf_5 : List UInt8 := dkwX14_thingOf_5 ++ []
def dkwX14_thingOf_4 : List UInt8 := [156, 0, 7, 3, 167, 0, 7, 43, 16, 18, 46, 172, 42, 43, 182, 0, 235, 172, 43, 16, 8, 28, 96, 46]
abbrev dktX14_thingOf_4 : List UInt8 := dkwX14_thingOf_4 ++ dktX14_thingOf_5
def dkwX14_thingOf_3 : List UInt8 := [21, 4, 46, 172, 21, 4, 156, 0, 7, 2, 167, 0, 10, 42, 180, 0, 28, 21, 4, 46, 172, 21, 4]
abbrev dktX14_thingOf_3 : List UInt8 := dkwX14_thingOf_3 ++ dktX14_thingOf_4
def dkwX14_thingOf_2 : List UInt8 := [28, 172, 43, 28, 46, 172, 42, 180, 0, 28, 28, 46, 172, 21, 4, 156, 0, 7, 3, 167, 0, 7, 43]
abbrev dktX14_thingOf_2 : List UInt8 := dkwX14_thingOf_2 ++ dktX14_thingOf_3
def dkwX14_thingOf_1 : List UInt8 := [170, 0, 0, 0, 116, 0, 0, 0, 0, 0, 0, 0, 7, 0, 0, 0, 45, 0, 0, 0, 47, 0, 0, 0, 51, 0, 0, 0, 58, 0, 0, 0, 72, 0, 0, 0, 89, 0, 0, 0, 103, 0, 0, 0, 109]
abbrev dktX14_thingOf_1 : List UInt8 := dkwX14_thingOf_1 ++ dktX14_thingOf_2
def dkwX14_thingOf_0 : List UInt8 := [43, 16, 17, 46, 54, 4, 29]
abbrev dktX14_thingOf_0 : List UInt8 := dkwX14_thingOf_0 ++ dktX14_thingOf_1
theorem dksX14_thingOf_0 : cX14_thingOf.data.toList.drop 0 = dktX14_thingOf_0 := by decide +kernel
theorem dksX14_thingOf_1 : cX14_thingOf.data.toList.drop 7 = dktX14_thingOf_1 := dk_seg dksX14_thingOf_0 7 rfl rfl
theorem dksX14_thingOf_2 : cX14_thingOf.data.toList.drop 52 = dktX14_thingOf_2 := dk_seg dksX14_thingOf_1 45 rfl rfl
theorem dksX14_thingOf_3 : cX14_thingOf.data.toList.drop 75 = dktX14_thingOf_3 := dk_seg dksX14_thingOf_2 23 rfl rfl
theorem dksX14_thingOf_4 : cX14_thingOf.data.toList.drop 98 = dktX14_thingOf_4 := dk_seg dksX14_thingOf_3 23 rfl rfl
theorem dksX14_thingOf_5 : cX14_thingOf.data.toList.drop 122 = dktX14_thingOf_5 := dk_seg dksX14_thingOf_4 24 rfl rfl
theorem dX14_thingOf_0 : decode cX14_thingOf 0 = .ok (.aload_n 1, 1) := dk_43 (dk_at dksX14_thingOf_0 0 rfl rfl)
theorem dX14_thingOf_1 : decode cX14_thingOf 1 = .ok (.bipush 17, 2) := dk_16 17 (dk_at dksX14_thingOf_0 1 rfl rfl)
theorem dX14_thingOf_3 : decode cX14_thingOf 3 = .ok (.iaload, 1) := dk_46 (dk_at dksX14_thingOf_0 3 rfl rfl)
theorem dX14_thingOf_4 : decode cX14_thingOf 4 = .ok (.istore 4, 2) := dk_54 4 (dk_at dksX14_thingOf_0 4 rfl rfl)
theorem dX14_thingOf_6 : decode cX14_thingOf 6 = .ok (.iload_n 3, 1) := dk_29 (dk_at dksX14_thingOf_0 6 rfl rfl)
theorem dX14_thingOf_7 : decode cX14_thingOf 7 = .ok (.tableswitch 116 0 7 #[45, 47, 51, 58, 72, 89, 103, 109], 45) := by decide +kernel
theorem dX14_thingOf_52 : decode cX14_thingOf 52 = .ok (.iload_n 2, 1) := dk_28 (dk_at dksX14_thingOf_2 0 rfl rfl)
theorem dX14_thingOf_53 : decode cX14_thingOf 53 = .ok (.ireturn, 1) := dk_172 (dk_at dksX14_thingOf_2 1 rfl rfl)
theorem dX14_thingOf_54 : decode cX14_thingOf 54 = .ok (.aload_n 1, 1) := dk_43 (dk_at dksX14_thingOf_2 2 rfl rfl)
theorem dX14_thingOf_55 : decode cX14_thingOf 55 = .ok (.iload_n 2, 1) := dk_28 (dk_at dksX14_thingOf_2 3 rfl rfl)
theorem dX14_thingOf_56 : decode cX14_thingOf 56 = .ok (.iaload, 1) := dk_46 (dk_at dksX14_thingOf_2 4 rfl rfl)
theorem dX14_thingOf_57 : decode cX14_thingOf 57 = .ok (.ireturn, 1) := dk_172 (dk_at dksX14_thingOf_2 5 rfl rfl)
theorem dX14_thingOf_58 : decode cX14_thingOf 58 = .ok (.aload_n 0, 1) := dk_42 (dk_at dksX14_thingOf_2 6 rfl rfl)
theorem dX14_thingOf_59 : decode cX14_thingOf 59 = .ok (.getfield 28, 3) := dk_180 0 28 (dk_at dksX14_thingOf_2 7 rfl rfl)
theorem dX14_thingOf_62 : decode cX14_thingOf 62 = .ok (.iload_n 2, 1) := dk_28 (dk_at dksX14_thingOf_2 10 rfl rfl)
theorem dX14_thingOf_63 : decode cX14_thingOf 63 = .ok (.iaload, 1) := dk_46 (dk_at dksX14_thingOf_2 11 rfl rfl)
theorem dX14_thingOf_64 : decode cX14_thingOf 64 = .ok (.ireturn, 1) := dk_172 (dk_at dksX14_thingOf_2 12 rfl rfl)
theorem dX14_thingOf_65 : decode cX14_thingOf 65 = .ok (.iload 4, 2) := dk_21 4 (dk_at dksX14_thingOf_2 13 rfl rfl)
theorem dX14_thingOf_67 : decode cX14_thingOf 67 = .ok (.ifCond .ge 7, 3) := dk_156 0 7 (dk_at dksX14_thingOf_2 15 rfl rfl)
theorem dX14_thingOf_70 : decode cX14_thingOf 70 = .ok (.iconst 0, 1) := dk_3 (dk_at dksX14_thingOf_2 18 rfl rfl)
theorem dX14_thingOf_71 : decode cX14_thingOf 71 = .ok (.goto 7, 3) := dk_167 0 7 (dk_at dksX14_thingOf_2 19 rfl rfl)
theorem dX14_thingOf_74 : decode cX14_thingOf 74 = .ok (.aload_n 1, 1) := dk_43 (dk_at dksX14_thingOf_2 22 rfl rfl)
theorem dX14_thingOf_75 : decode cX14_thingOf 75 = .ok (.iload 4, 2) := dk_21 4 (dk_at dksX14_thingOf_3 0 rfl rfl)
theorem dX14_thingOf_77 : decode cX14_thingOf 77 = .ok (.iaload, 1) := dk_46 (dk_at dksX14_thingOf_3 2 rfl rfl)
theorem dX14_thingOf_78 : decode cX14_thingOf 78 = .ok (.ireturn, 1) := dk_172 (dk_at dksX14_thingOf_3 3 rfl rfl)
theorem dX14_thingOf_79 : decode cX14_thingOf 79 = .ok (.iload 4, 2) := dk_21 4 (dk_at dksX14_thingOf_3 4 rfl rfl)
theorem dX14_thingOf_81 : decode cX14_thingOf 81 = .ok (.ifCond .ge 7, 3) := dk_156 0 7 (dk_at dksX14_thingOf_3 6 rfl rfl)
theorem dX14_thingOf_84 : decode cX14_thingOf 84 = .ok (.iconst (-1), 1) := dk_2 (dk_at dksX14_thingOf_3 9 rfl rfl)
theorem dX14_thingOf_85 : decode cX14_thingOf 85 = .ok (.goto 10, 3) := dk_167 0 10 (dk_at dksX14_thingOf_3 10 rfl rfl)
theorem dX14_thingOf_88 : decode cX14_thingOf 88 = .ok (.aload_n 0, 1) := dk_42 (dk_at dksX14_thingOf_3 13 rfl rfl)
theorem dX14_thingOf_89 : decode cX14_thingOf 89 = .ok (.getfield 28, 3) := dk_180 0 28 (dk_at dksX14_thingOf_3 14 rfl rfl)
theorem dX14_thingOf_92 : decode cX14_thingOf 92 = .ok (.iload 4, 2) := dk_21 4 (dk_at dksX14_thingOf_3 17 rfl rfl)
theorem dX14_thingOf_94 : decode cX14_thingOf 94 = .ok (.iaload, 1) := dk_46 (dk_at dksX14_thingOf_3 19 rfl rfl)
theorem dX14_thingOf_95 : decode cX14_thingOf 95 = .ok (.ireturn, 1) := dk_172 (dk_at dksX14_thingOf_3 20 rfl rfl)
theorem dX14_thingOf_96 : decode cX14_thingOf 96 = .ok (.iload 4, 2) := dk_21 4 (dk_at dksX14_thingOf_3 21 rfl rfl)
theorem dX14_thingOf_98 : decode cX14_thingOf 98 = .ok (.ifCond .ge 7, 3) := dk_156 0 7 (dk_at dksX14_thingOf_4 0 rfl rfl)
theorem dX14_thingOf_101 : decode cX14_thingOf 101 = .ok (.iconst 0, 1) := dk_3 (dk_at dksX14_thingOf_4 3 rfl rfl)
theorem dX14_thingOf_102 : decode cX14_thingOf 102 = .ok (.goto 7, 3) := dk_167 0 7 (dk_at dksX14_thingOf_4 4 rfl rfl)
theorem dX14_thingOf_105 : decode cX14_thingOf 105 = .ok (.aload_n 1, 1) := dk_43 (dk_at dksX14_thingOf_4 7 rfl rfl)
theorem dX14_thingOf_106 : decode cX14_thingOf 106 = .ok (.bipush 18, 2) := dk_16 18 (dk_at dksX14_thingOf_4 8 rfl rfl)
theorem dX14_thingOf_108 : decode cX14_thingOf 108 = .ok (.iaload, 1) := dk_46 (dk_at dksX14_thingOf_4 10 rfl rfl)
theorem dX14_thingOf_109 : decode cX14_thingOf 109 = .ok (.ireturn, 1) := dk_172 (dk_at dksX14_thingOf_4 11 rfl rfl)
theorem dX14_thingOf_110 : decode cX14_thingOf 110 = .ok (.aload_n 0, 1) := dk_42 (dk_at dksX14_thingOf_4 12 rfl rfl)
theorem dX14_thingOf_111 : decode cX14_thingOf 111 = .ok (.aload_n 1, 1) := dk_43 (dk_at dksX14_thingOf_4 13 rfl rfl)
theorem dX14_thingOf_112 : decode cX14_thingOf 112 = .ok (.invokevirtual 235, 3) := dk_182 0 235 (dk_at dksX14_thingOf_4 14 rfl rfl)
theorem dX14_thingOf_115 : decode cX14_thingOf 115 = .ok (.ireturn, 1) := dk_172 (dk_at dksX14_thingOf_4 17 rfl rfl)
theorem dX14_thingOf_116 : decode cX14_thingOf 116 = .ok (.aload_n 1, 1) := dk_43 (dk_at dksX14_thingOf_4 18 rfl rfl)
theorem dX14_thingOf_117 : decode cX14_thingOf 117 = .ok (.bipush 8, 2) := dk_16 8 (dk_at dksX14_thingOf_4 19 rfl rfl)
theorem dX14_thingOf_119 : decode cX14_thingOf 119 = .ok (.iload_n 2, 1) := dk_28 (dk_at dksX14_thingOf_4 21 rfl rfl)
theorem dX14_thingOf_120 : decode cX14_thingOf 120 = .ok (.iadd, 1) := dk_96 (dk_at dksX14_thingOf_4 22 rfl rfl)
theorem dX14_thingOf_121 : decode cX14_thingOf 121 = .ok (.iaload, 1) := dk_46 (dk_at dksX14_thingOf_4 23 rfl rfl)
theorem dX14_thingOf_122 : decode cX14_thingOf 122 = .ok (.ireturn, 1) := dk_172 (dk_at dksX14_thingOf_5 0 rfl rfl)
theorem dX14_thingOf_123 : decode cX14_thingOf 123 = .ok (.aload_n 1, 1) := dk_43 (dk_at dksX14_thingOf_5 1 rfl rfl)
theorem dX14_thingOf_124 : decode cX14_thingOf 124 = .ok (.bipush 19, 2) := dk_16 19 (dk_at dksX14_thingOf_5 2 rfl rfl)
theorem dX14_thingOf_126 : decode cX14_thingOf 126 = .ok (.iaload, 1) := dk_46 (dk_at dksX14_thingOf_5 4 rfl rfl)
theorem dX14_thingOf_127 : decode cX14_thingOf 127 = .ok (.ireturn, 1) := dk_172 (dk_at dksX14_thingOf_5 5 rfl rfl)
def dkwX14_holding_1 : List UInt8 := [167, 0, 4, 3, 184, 0, 150, 96, 61, 132, 3, 1, 167, 255, 225, 28, 172]
abbrev dktX14_holding_1 : List UInt8 := dkwX14_holding_1 ++ []
def dkwX14_holding_0 : List UInt8 := [3, 61, 3, 62, 29, 43, 16, 20, 46, 162, 0, 29, 28, 43, 16, 45, 29, 96, 46, 156, 0, 7, 4]
abbrev dktX14_holding_0 : List UInt8 := dkwX14_holding_0 ++ dktX14_holding_1
theorem dksX14_holding_0 : cX14_holding.data.toList.drop 0 = dktX14_holding_0 := by decide +kernel
theorem dksX14_holding_1 : cX14_holding.data.toList.drop 23 = dktX14_holding_1 := dk_seg dksX14_holding_0 23 rfl rfl
theorem dX14_holding_0 : decode cX14_holding 0 = .ok (.iconst 0, 1) := dk_3 (dk_at dksX14_holding_0 0 rfl rfl)
theorem dX14_holding_1 : decode cX14_holding 1 = .ok (.istore_n 2, 1) := dk_61 (dk_at dksX14_holding_0 1 rfl rfl)
theorem dX14_holding_2 : decode cX14_holding 2 = .ok (.iconst 0, 1) := dk_3 (dk_at dksX14_holding_0 2 rfl rfl)
theorem dX14_holding_3 : decode cX14_holding 3 = .ok (.istore_n 3, 1) := dk_62 (dk_at dksX14_holding_0 3 rfl rfl)
theorem dX14_holding_4 : decode cX14_holding 4 = .ok (.iload_n 3, 1) := dk_29 (dk_at dksX14_holding_0 4 rfl rfl)
theorem dX14_holding_5 : decode cX14_holding 5 = .ok (.aload_n 1, 1) := dk_43 (dk_at dksX14_holding_0 5 rfl rfl)
theorem dX14_holding_6 : decode cX14_holding 6 = .ok (.bipush 20, 2) := dk_16 20 (dk_at dksX14_holding_0 6 rfl rfl)
theorem dX14_holding_8 : decode cX14_holding 8 = .ok (.iaload, 1) := dk_46 (dk_at dksX14_holding_0 8 rfl rfl)
theorem dX14_holding_9 : decode cX14_holding 9 = .ok (.if_icmp .ge 29, 3) := dk_162 0 29 (dk_at dksX14_holding_0 9 rfl rfl)
theorem dX14_holding_12 : decode cX14_holding 12 = .ok (.iload_n 2, 1) := dk_28 (dk_at dksX14_holding_0 12 rfl rfl)
theorem dX14_holding_13 : decode cX14_holding 13 = .ok (.aload_n 1, 1) := dk_43 (dk_at dksX14_holding_0 13 rfl rfl)
theorem dX14_holding_14 : decode cX14_holding 14 = .ok (.bipush 45, 2) := dk_16 45 (dk_at dksX14_holding_0 14 rfl rfl)
theorem dX14_holding_16 : decode cX14_holding 16 = .ok (.iload_n 3, 1) := dk_29 (dk_at dksX14_holding_0 16 rfl rfl)
theorem dX14_holding_17 : decode cX14_holding 17 = .ok (.iadd, 1) := dk_96 (dk_at dksX14_holding_0 17 rfl rfl)
theorem dX14_holding_18 : decode cX14_holding 18 = .ok (.iaload, 1) := dk_46 (dk_at dksX14_holding_0 18 rfl rfl)
theorem dX14_holding_19 : decode cX14_holding 19 = .ok (.ifCond .ge 7, 3) := dk_156 0 7 (dk_at dksX14_holding_0 19 rfl rfl)
theorem dX14_holding_22 : decode cX14_holding 22 = .ok (.iconst 1, 1) := dk_4 (dk_at dksX14_holding_0 22 rfl rfl)
theorem dX14_holding_23 : decode cX14_holding 23 = .ok (.goto 4, 3) := dk_167 0 4 (dk_at dksX14_holding_1 0 rfl rfl)
theorem dX14_holding_26 : decode cX14_holding 26 = .ok (.iconst 0, 1) := dk_3 (dk_at dksX14_holding_1 3 rfl rfl)
theorem dX14_holding_27 : decode cX14_holding 27 = .ok (.invokestatic 150, 3) := dk_184 0 150 (dk_at dksX14_holding_1 4 rfl rfl)
theorem dX14_holding_30 : decode cX14_holding 30 = .ok (.iadd, 1) := dk_96 (dk_at dksX14_holding_1 7 rfl rfl)
theorem dX14_holding_31 : decode cX14_holding 31 = .ok (.istore_n 2, 1) := dk_61 (dk_at dksX14_holding_1 8 rfl rfl)
theorem dX14_holding_32 : decode cX14_holding 32 = .ok (.iinc 3 1, 3) := dk_132 3 1 (dk_at dksX14_holding_1 9 rfl rfl)
theorem dX14_holding_35 : decode cX14_holding 35 = .ok (.goto (-31), 3) := dk_167 255 225 (dk_at dksX14_holding_1 12 rfl rfl)
theorem dX14_holding_38 : decode cX14_holding 38 = .ok (.iload_n 2, 1) := dk_28 (dk_at dksX14_holding_1 15 rfl rfl)
theorem dX14_holding_39 : decode cX14_holding 39 = .ok (.ireturn, 1) := dk_172 (dk_at dksX14_holding_1 16 rfl rfl)
def dkwX14_change_1 : List UInt8 := [133, 184, 0, 120, 154, 0, 8, 42, 182, 1, 3, 172, 42, 180, 0, 35, 16, 6, 27, 104, 28, 96, 46, 172]
abbrev dktX14_change_1 : List UInt8 := dkwX14_change_1 ++ []
def dkwX14_change_0 : List UInt8 := [42, 3, 181, 0, 3, 42, 27, 182, 0, 124, 153, 0, 21, 28, 133, 9, 42, 180, 0, 38, 27, 46, 4, 100]
abbrev dktX14_change_0 : List UInt8 := dkwX14_change_0 ++ dktX14_change_1
theorem dksX14_change_0 : cX14_change.data.toList.drop 0 = dktX14_change_0 := by decide +kernel
theorem dksX14_change_1 : cX14_change.data.toList.drop 24 = dktX14_change_1 := dk_seg dksX14_change_0 24 rfl rfl
theorem dX14_change_0 : decode cX14_change 0 = .ok (.aload_n 0, 1) := dk_42 (dk_at dksX14_change_0 0 rfl rfl)
theorem dX14_change_1 : decode cX14_change 1 = .ok (.iconst 0, 1) := dk_3 (dk_at dksX14_change_0 1 rfl rfl)
theorem dX14_change_2 : decode cX14_change 2 = .ok (.putfield 3, 3) := dk_181 0 3 (dk_at dksX14_change_0 2 rfl rfl)
theorem dX14_change_5 : decode cX14_change 5 = .ok (.aload_n 0, 1) := dk_42 (dk_at dksX14_change_0 5 rfl rfl)
theorem dX14_change_6 : decode cX14_change 6 = .ok (.iload_n 1, 1) := dk_27 (dk_at dksX14_change_0 6 rfl rfl)
theorem dX14_change_7 : decode cX14_change 7 = .ok (.invokevirtual 124, 3) := dk_182 0 124 (dk_at dksX14_change_0 7 rfl rfl)
theorem dX14_change_10 : decode cX14_change 10 = .ok (.ifCond .eq 21, 3) := dk_153 0 21 (dk_at dksX14_change_0 10 rfl rfl)
theorem dX14_change_13 : decode cX14_change 13 = .ok (.iload_n 2, 1) := dk_28 (dk_at dksX14_change_0 13 rfl rfl)
theorem dX14_change_14 : decode cX14_change 14 = .ok (.i2l, 1) := dk_133 (dk_at dksX14_change_0 14 rfl rfl)
theorem dX14_change_15 : decode cX14_change 15 = .ok (.lconst 0, 1) := dk_9 (dk_at dksX14_change_0 15 rfl rfl)
theorem dX14_change_16 : decode cX14_change 16 = .ok (.aload_n 0, 1) := dk_42 (dk_at dksX14_change_0 16 rfl rfl)
theorem dX14_change_17 : decode cX14_change 17 = .ok (.getfield 38, 3) := dk_180 0 38 (dk_at dksX14_change_0 17 rfl rfl)
theorem dX14_change_20 : decode cX14_change 20 = .ok (.iload_n 1, 1) := dk_27 (dk_at dksX14_change_0 20 rfl rfl)
theorem dX14_change_21 : decode cX14_change 21 = .ok (.iaload, 1) := dk_46 (dk_at dksX14_change_0 21 rfl rfl)
theorem dX14_change_22 : decode cX14_change 22 = .ok (.iconst 1, 1) := dk_4 (dk_at dksX14_change_0 22 rfl rfl)
theorem dX14_change_23 : decode cX14_change 23 = .ok (.isub, 1) := dk_100 (dk_at dksX14_change_0 23 rfl rfl)
theorem dX14_change_24 : decode cX14_change 24 = .ok (.i2l, 1) := dk_133 (dk_at dksX14_change_1 0 rfl rfl)
theorem dX14_change_25 : decode cX14_change 25 = .ok (.invokestatic 120, 3) := dk_184 0 120 (dk_at dksX14_change_1 1 rfl rfl)
theorem dX14_change_28 : decode cX14_change 28 = .ok (.ifCond .ne 8, 3) := dk_154 0 8 (dk_at dksX14_change_1 4 rfl rfl)
theorem dX14_change_31 : decode cX14_change 31 = .ok (.aload_n 0, 1) := dk_42 (dk_at dksX14_change_1 7 rfl rfl)
theorem dX14_change_32 : decode cX14_change 32 = .ok (.invokevirtual 259, 3) := dk_182 1 3 (dk_at dksX14_change_1 8 rfl rfl)
theorem dX14_change_35 : decode cX14_change 35 = .ok (.ireturn, 1) := dk_172 (dk_at dksX14_change_1 11 rfl rfl)
theorem dX14_change_36 : decode cX14_change 36 = .ok (.aload_n 0, 1) := dk_42 (dk_at dksX14_change_1 12 rfl rfl)
theorem dX14_change_37 : decode cX14_change 37 = .ok (.getfield 35, 3) := dk_180 0 35 (dk_at dksX14_change_1 13 rfl rfl)
theorem dX14_change_40 : decode cX14_change 40 = .ok (.bipush 6, 2) := dk_16 6 (dk_at dksX14_change_1 16 rfl rfl)
theorem dX14_change_42 : decode cX14_change 42 = .ok (.iload_n 1, 1) := dk_27 (dk_at dksX14_change_1 18 rfl rfl)
theorem dX14_change_43 : decode cX14_change 43 = .ok (.imul, 1) := dk_104 (dk_at dksX14_change_1 19 rfl rfl)
theorem dX14_change_44 : decode cX14_change 44 = .ok (.iload_n 2, 1) := dk_28 (dk_at dksX14_change_1 20 rfl rfl)
theorem dX14_change_45 : decode cX14_change 45 = .ok (.iadd, 1) := dk_96 (dk_at dksX14_change_1 21 rfl rfl)
theorem dX14_change_46 : decode cX14_change 46 = .ok (.iaload, 1) := dk_46 (dk_at dksX14_change_1 22 rfl rfl)
theorem dX14_change_47 : decode cX14_change 47 = .ok (.ireturn, 1) := dk_172 (dk_at dksX14_change_1 23 rfl rfl)
def dkwX14_set_5 : List UInt8 := [21, 6, 172]
abbrev dktX14_set_5 : List UInt8 := dkwX14_set_5 ++ []
def dkwX14_set_4 : List UInt8 := [180, 0, 28, 167, 0, 7, 42, 180, 0, 32, 58, 5, 25, 5, 28, 46, 54, 6, 25, 5, 28, 29, 79]
abbrev dktX14_set_4 : List UInt8 := dkwX14_set_4 ++ dktX14_set_5
def dkwX14_set_3 : List UInt8 := [21, 4, 154, 0, 5, 2, 172, 27, 154, 0, 10, 42, 180, 0, 44, 167, 0, 19, 27, 4, 160, 0, 10, 42]
abbrev dktX14_set_3 : List UInt8 := dkwX14_set_3 ++ dktX14_set_4
def dkwX14_set_2 : List UInt8 := [20, 1, 13, 184, 0, 120, 153, 0, 7, 4, 167, 0, 4, 3, 54, 4, 42, 28, 182, 0, 124, 153, 0, 8]
abbrev dktX14_set_2 : List UInt8 := dkwX14_set_2 ++ dktX14_set_3
def dkwX14_set_1 : List UInt8 := [160, 0, 15, 29, 133, 9, 20, 1, 11, 184, 0, 120, 167, 0, 25, 27, 5, 160, 0, 19, 29, 133, 9]
abbrev dktX14_set_1 : List UInt8 := dkwX14_set_1 ++ dktX14_set_2
def dkwX14_set_0 : List UInt8 := [42, 3, 181, 0, 3, 27, 154, 0, 15, 29, 133, 10, 20, 1, 9, 184, 0, 120, 167, 0, 42, 27, 4]
abbrev dktX14_set_0 : List UInt8 := dkwX14_set_0 ++ dktX14_set_1
theorem dksX14_set_0 : cX14_set.data.toList.drop 0 = dktX14_set_0 := by decide +kernel
theorem dksX14_set_1 : cX14_set.data.toList.drop 23 = dktX14_set_1 := dk_seg dksX14_set_0 23 rfl rfl
theorem dksX14_set_2 : cX14_set.data.toList.drop 46 = dktX14_set_2 := dk_seg dksX14_set_1 23 rfl rfl
theorem dksX14_set_3 : cX14_set.data.toList.drop 70 = dktX14_set_3 := dk_seg dksX14_set_2 24 rfl rfl
theorem dksX14_set_4 : cX14_set.data.toList.drop 94 = dktX14_set_4 := dk_seg dksX14_set_3 24 rfl rfl
theorem dksX14_set_5 : cX14_set.data.toList.drop 117 = dktX14_set_5 := dk_seg dksX14_set_4 23 rfl rfl
theorem dX14_set_0 : decode cX14_set 0 = .ok (.aload_n 0, 1) := dk_42 (dk_at dksX14_set_0 0 rfl rfl)
theorem dX14_set_1 : decode cX14_set 1 = .ok (.iconst 0, 1) := dk_3 (dk_at dksX14_set_0 1 rfl rfl)
theorem dX14_set_2 : decode cX14_set 2 = .ok (.putfield 3, 3) := dk_181 0 3 (dk_at dksX14_set_0 2 rfl rfl)
theorem dX14_set_5 : decode cX14_set 5 = .ok (.iload_n 1, 1) := dk_27 (dk_at dksX14_set_0 5 rfl rfl)
theorem dX14_set_6 : decode cX14_set 6 = .ok (.ifCond .ne 15, 3) := dk_154 0 15 (dk_at dksX14_set_0 6 rfl rfl)
theorem dX14_set_9 : decode cX14_set 9 = .ok (.iload_n 3, 1) := dk_29 (dk_at dksX14_set_0 9 rfl rfl)
theorem dX14_set_10 : decode cX14_set 10 = .ok (.i2l, 1) := dk_133 (dk_at dksX14_set_0 10 rfl rfl)
theorem dX14_set_11 : decode cX14_set 11 = .ok (.lconst 1, 1) := dk_10 (dk_at dksX14_set_0 11 rfl rfl)
theorem dX14_set_12 : decode cX14_set 12 = .ok (.ldc2_w 265, 3) := dk_20 1 9 (dk_at dksX14_set_0 12 rfl rfl)
theorem dX14_set_15 : decode cX14_set 15 = .ok (.invokestatic 120, 3) := dk_184 0 120 (dk_at dksX14_set_0 15 rfl rfl)
theorem dX14_set_18 : decode cX14_set 18 = .ok (.goto 42, 3) := dk_167 0 42 (dk_at dksX14_set_0 18 rfl rfl)
theorem dX14_set_21 : decode cX14_set 21 = .ok (.iload_n 1, 1) := dk_27 (dk_at dksX14_set_0 21 rfl rfl)
theorem dX14_set_22 : decode cX14_set 22 = .ok (.iconst 1, 1) := dk_4 (dk_at dksX14_set_0 22 rfl rfl)
theorem dX14_set_23 : decode cX14_set 23 = .ok (.if_icmp .ne 15, 3) := dk_160 0 15 (dk_at dksX14_set_1 0 rfl rfl)
theorem dX14_set_26 : decode cX14_set 26 = .ok (.iload_n 3, 1) := dk_29 (dk_at dksX14_set_1 3 rfl rfl)
theorem dX14_set_27 : decode cX14_set 27 = .ok (.i2l, 1) := dk_133 (dk_at dksX14_set_1 4 rfl rfl)
theorem dX14_set_28 : decode cX14_set 28 = .ok (.lconst 0, 1) := dk_9 (dk_at dksX14_set_1 5 rfl rfl)
theorem dX14_set_29 : decode cX14_set 29 = .ok (.ldc2_w 267, 3) := dk_20 1 11 (dk_at dksX14_set_1 6 rfl rfl)
theorem dX14_set_32 : decode cX14_set 32 = .ok (.invokestatic 120, 3) := dk_184 0 120 (dk_at dksX14_set_1 9 rfl rfl)
theorem dX14_set_35 : decode cX14_set 35 = .ok (.goto 25, 3) := dk_167 0 25 (dk_at dksX14_set_1 12 rfl rfl)
theorem dX14_set_38 : decode cX14_set 38 = .ok (.iload_n 1, 1) := dk_27 (dk_at dksX14_set_1 15 rfl rfl)
theorem dX14_set_39 : decode cX14_set 39 = .ok (.iconst 2, 1) := dk_5 (dk_at dksX14_set_1 16 rfl rfl)
theorem dX14_set_40 : decode cX14_set 40 = .ok (.if_icmp .ne 19, 3) := dk_160 0 19 (dk_at dksX14_set_1 17 rfl rfl)
theorem dX14_set_43 : decode cX14_set 43 = .ok (.iload_n 3, 1) := dk_29 (dk_at dksX14_set_1 20 rfl rfl)
theorem dX14_set_44 : decode cX14_set 44 = .ok (.i2l, 1) := dk_133 (dk_at dksX14_set_1 21 rfl rfl)
theorem dX14_set_45 : decode cX14_set 45 = .ok (.lconst 0, 1) := dk_9 (dk_at dksX14_set_1 22 rfl rfl)
theorem dX14_set_46 : decode cX14_set 46 = .ok (.ldc2_w 269, 3) := dk_20 1 13 (dk_at dksX14_set_2 0 rfl rfl)
theorem dX14_set_49 : decode cX14_set 49 = .ok (.invokestatic 120, 3) := dk_184 0 120 (dk_at dksX14_set_2 3 rfl rfl)
theorem dX14_set_52 : decode cX14_set 52 = .ok (.ifCond .eq 7, 3) := dk_153 0 7 (dk_at dksX14_set_2 6 rfl rfl)
theorem dX14_set_55 : decode cX14_set 55 = .ok (.iconst 1, 1) := dk_4 (dk_at dksX14_set_2 9 rfl rfl)
theorem dX14_set_56 : decode cX14_set 56 = .ok (.goto 4, 3) := dk_167 0 4 (dk_at dksX14_set_2 10 rfl rfl)
theorem dX14_set_59 : decode cX14_set 59 = .ok (.iconst 0, 1) := dk_3 (dk_at dksX14_set_2 13 rfl rfl)
theorem dX14_set_60 : decode cX14_set 60 = .ok (.istore 4, 2) := dk_54 4 (dk_at dksX14_set_2 14 rfl rfl)
theorem dX14_set_62 : decode cX14_set 62 = .ok (.aload_n 0, 1) := dk_42 (dk_at dksX14_set_2 16 rfl rfl)
theorem dX14_set_63 : decode cX14_set 63 = .ok (.iload_n 2, 1) := dk_28 (dk_at dksX14_set_2 17 rfl rfl)
theorem dX14_set_64 : decode cX14_set 64 = .ok (.invokevirtual 124, 3) := dk_182 0 124 (dk_at dksX14_set_2 18 rfl rfl)
theorem dX14_set_67 : decode cX14_set 67 = .ok (.ifCond .eq 8, 3) := dk_153 0 8 (dk_at dksX14_set_2 21 rfl rfl)
theorem dX14_set_70 : decode cX14_set 70 = .ok (.iload 4, 2) := dk_21 4 (dk_at dksX14_set_3 0 rfl rfl)
theorem dX14_set_72 : decode cX14_set 72 = .ok (.ifCond .ne 5, 3) := dk_154 0 5 (dk_at dksX14_set_3 2 rfl rfl)
theorem dX14_set_75 : decode cX14_set 75 = .ok (.iconst (-1), 1) := dk_2 (dk_at dksX14_set_3 5 rfl rfl)
theorem dX14_set_76 : decode cX14_set 76 = .ok (.ireturn, 1) := dk_172 (dk_at dksX14_set_3 6 rfl rfl)
theorem dX14_set_77 : decode cX14_set 77 = .ok (.iload_n 1, 1) := dk_27 (dk_at dksX14_set_3 7 rfl rfl)
theorem dX14_set_78 : decode cX14_set 78 = .ok (.ifCond .ne 10, 3) := dk_154 0 10 (dk_at dksX14_set_3 8 rfl rfl)
theorem dX14_set_81 : decode cX14_set 81 = .ok (.aload_n 0, 1) := dk_42 (dk_at dksX14_set_3 11 rfl rfl)
theorem dX14_set_82 : decode cX14_set 82 = .ok (.getfield 44, 3) := dk_180 0 44 (dk_at dksX14_set_3 12 rfl rfl)
theorem dX14_set_85 : decode cX14_set 85 = .ok (.goto 19, 3) := dk_167 0 19 (dk_at dksX14_set_3 15 rfl rfl)
theorem dX14_set_88 : decode cX14_set 88 = .ok (.iload_n 1, 1) := dk_27 (dk_at dksX14_set_3 18 rfl rfl)
theorem dX14_set_89 : decode cX14_set 89 = .ok (.iconst 1, 1) := dk_4 (dk_at dksX14_set_3 19 rfl rfl)
theorem dX14_set_90 : decode cX14_set 90 = .ok (.if_icmp .ne 10, 3) := dk_160 0 10 (dk_at dksX14_set_3 20 rfl rfl)
theorem dX14_set_93 : decode cX14_set 93 = .ok (.aload_n 0, 1) := dk_42 (dk_at dksX14_set_3 23 rfl rfl)
theorem dX14_set_94 : decode cX14_set 94 = .ok (.getfield 28, 3) := dk_180 0 28 (dk_at dksX14_set_4 0 rfl rfl)
theorem dX14_set_97 : decode cX14_set 97 = .ok (.goto 7, 3) := dk_167 0 7 (dk_at dksX14_set_4 3 rfl rfl)
theorem dX14_set_100 : decode cX14_set 100 = .ok (.aload_n 0, 1) := dk_42 (dk_at dksX14_set_4 6 rfl rfl)
theorem dX14_set_101 : decode cX14_set 101 = .ok (.getfield 32, 3) := dk_180 0 32 (dk_at dksX14_set_4 7 rfl rfl)
theorem dX14_set_104 : decode cX14_set 104 = .ok (.astore 5, 2) := dk_58 5 (dk_at dksX14_set_4 10 rfl rfl)
theorem dX14_set_106 : decode cX14_set 106 = .ok (.aload 5, 2) := dk_25 5 (dk_at dksX14_set_4 12 rfl rfl)
theorem dX14_set_108 : decode cX14_set 108 = .ok (.iload_n 2, 1) := dk_28 (dk_at dksX14_set_4 14 rfl rfl)
theorem dX14_set_109 : decode cX14_set 109 = .ok (.iaload, 1) := dk_46 (dk_at dksX14_set_4 15 rfl rfl)
theorem dX14_set_110 : decode cX14_set 110 = .ok (.istore 6, 2) := dk_54 6 (dk_at dksX14_set_4 16 rfl rfl)
theorem dX14_set_112 : decode cX14_set 112 = .ok (.aload 5, 2) := dk_25 5 (dk_at dksX14_set_4 18 rfl rfl)
theorem dX14_set_114 : decode cX14_set 114 = .ok (.iload_n 2, 1) := dk_28 (dk_at dksX14_set_4 20 rfl rfl)
theorem dX14_set_115 : decode cX14_set 115 = .ok (.iload_n 3, 1) := dk_29 (dk_at dksX14_set_4 21 rfl rfl)
theorem dX14_set_116 : decode cX14_set 116 = .ok (.iastore, 1) := dk_79 (dk_at dksX14_set_4 22 rfl rfl)
theorem dX14_set_117 : decode cX14_set 117 = .ok (.iload 6, 2) := dk_21 6 (dk_at dksX14_set_5 0 rfl rfl)
theorem dX14_set_119 : decode cX14_set 119 = .ok (.ireturn, 1) := dk_172 (dk_at dksX14_set_5 2 rfl rfl)
def dkwX14_scale_2 : List UInt8 := [42, 28, 181, 0, 251, 4, 172, 3, 172]
abbrev dktX14_scale_2 : List UInt8 := dkwX14_scale_2 ++ []
def dkwX14_scale_1 : List UInt8 := [181, 0, 41, 4, 172, 27, 4, 160, 0, 24, 28, 133, 20, 1, 15, 20, 1, 13, 184, 0, 120, 153, 0, 10]
abbrev dktX14_scale_1 : List UInt8 := dkwX14_scale_1 ++ dktX14_scale_2
def dkwX14_scale_0 : List UInt8 := [42, 3, 181, 0, 3, 27, 154, 0, 22, 28, 133, 10, 20, 1, 13, 184, 0, 120, 153, 0, 10, 42, 28]
abbrev dktX14_scale_0 : List UInt8 := dkwX14_scale_0 ++ dktX14_scale_1
theorem dksX14_scale_0 : cX14_scale.data.toList.drop 0 = dktX14_scale_0 := by decide +kernel
theorem dksX14_scale_1 : cX14_scale.data.toList.drop 23 = dktX14_scale_1 := dk_seg dksX14_scale_0 23 rfl rfl
theorem dksX14_scale_2 : cX14_scale.data.toList.drop 47 = dktX14_scale_2 := dk_seg dksX14_scale_1 24 rfl rfl
theorem dX14_scale_0 : decode cX14_scale 0 = .ok (.aload_n 0, 1) := dk_42 (dk_at dksX14_scale_0 0 rfl rfl)
theorem dX14_scale_1 : decode cX14_scale 1 = .ok (.iconst 0, 1) := dk_3 (dk_at dksX14_scale_0 1 rfl rfl)
theorem dX14_scale_2 : decode cX14_scale 2 = .ok (.putfield 3, 3) := dk_181 0 3 (dk_at dksX14_scale_0 2 rfl rfl)
theorem dX14_scale_5 : decode cX14_scale 5 = .ok (.iload_n 1, 1) := dk_27 (dk_at dksX14_scale_0 5 rfl rfl)
theorem dX14_scale_6 : decode cX14_scale 6 = .ok (.ifCond .ne 22, 3) := dk_154 0 22 (dk_at dksX14_scale_0 6 rfl rfl)
theorem dX14_scale_9 : decode cX14_scale 9 = .ok (.iload_n 2, 1) := dk_28 (dk_at dksX14_scale_0 9 rfl rfl)
theorem dX14_scale_10 : decode cX14_scale 10 = .ok (.i2l, 1) := dk_133 (dk_at dksX14_scale_0 10 rfl rfl)
theorem dX14_scale_11 : decode cX14_scale 11 = .ok (.lconst 1, 1) := dk_10 (dk_at dksX14_scale_0 11 rfl rfl)
theorem dX14_scale_12 : decode cX14_scale 12 = .ok (.ldc2_w 269, 3) := dk_20 1 13 (dk_at dksX14_scale_0 12 rfl rfl)
theorem dX14_scale_15 : decode cX14_scale 15 = .ok (.invokestatic 120, 3) := dk_184 0 120 (dk_at dksX14_scale_0 15 rfl rfl)
theorem dX14_scale_18 : decode cX14_scale 18 = .ok (.ifCond .eq 10, 3) := dk_153 0 10 (dk_at dksX14_scale_0 18 rfl rfl)
theorem dX14_scale_21 : decode cX14_scale 21 = .ok (.aload_n 0, 1) := dk_42 (dk_at dksX14_scale_0 21 rfl rfl)
theorem dX14_scale_22 : decode cX14_scale 22 = .ok (.iload_n 2, 1) := dk_28 (dk_at dksX14_scale_0 22 rfl rfl)
theorem dX14_scale_23 : decode cX14_scale 23 = .ok (.putfield 41, 3) := dk_181 0 41 (dk_at dksX14_scale_1 0 rfl rfl)
theorem dX14_scale_26 : decode cX14_scale 26 = .ok (.iconst 1, 1) := dk_4 (dk_at dksX14_scale_1 3 rfl rfl)
theorem dX14_scale_27 : decode cX14_scale 27 = .ok (.ireturn, 1) := dk_172 (dk_at dksX14_scale_1 4 rfl rfl)
theorem dX14_scale_28 : decode cX14_scale 28 = .ok (.iload_n 1, 1) := dk_27 (dk_at dksX14_scale_1 5 rfl rfl)
theorem dX14_scale_29 : decode cX14_scale 29 = .ok (.iconst 1, 1) := dk_4 (dk_at dksX14_scale_1 6 rfl rfl)
theorem dX14_scale_30 : decode cX14_scale 30 = .ok (.if_icmp .ne 24, 3) := dk_160 0 24 (dk_at dksX14_scale_1 7 rfl rfl)
theorem dX14_scale_33 : decode cX14_scale 33 = .ok (.iload_n 2, 1) := dk_28 (dk_at dksX14_scale_1 10 rfl rfl)
theorem dX14_scale_34 : decode cX14_scale 34 = .ok (.i2l, 1) := dk_133 (dk_at dksX14_scale_1 11 rfl rfl)
theorem dX14_scale_35 : decode cX14_scale 35 = .ok (.ldc2_w 271, 3) := dk_20 1 15 (dk_at dksX14_scale_1 12 rfl rfl)
theorem dX14_scale_38 : decode cX14_scale 38 = .ok (.ldc2_w 269, 3) := dk_20 1 13 (dk_at dksX14_scale_1 15 rfl rfl)
theorem dX14_scale_41 : decode cX14_scale 41 = .ok (.invokestatic 120, 3) := dk_184 0 120 (dk_at dksX14_scale_1 18 rfl rfl)
theorem dX14_scale_44 : decode cX14_scale 44 = .ok (.ifCond .eq 10, 3) := dk_153 0 10 (dk_at dksX14_scale_1 21 rfl rfl)
theorem dX14_scale_47 : decode cX14_scale 47 = .ok (.aload_n 0, 1) := dk_42 (dk_at dksX14_scale_2 0 rfl rfl)
theorem dX14_scale_48 : decode cX14_scale 48 = .ok (.iload_n 2, 1) := dk_28 (dk_at dksX14_scale_2 1 rfl rfl)
theorem dX14_scale_49 : decode cX14_scale 49 = .ok (.putfield 251, 3) := dk_181 0 251 (dk_at dksX14_scale_2 2 rfl rfl)
theorem dX14_scale_52 : decode cX14_scale 52 = .ok (.iconst 1, 1) := dk_4 (dk_at dksX14_scale_2 5 rfl rfl)
theorem dX14_scale_53 : decode cX14_scale 53 = .ok (.ireturn, 1) := dk_172 (dk_at dksX14_scale_2 6 rfl rfl)
theorem dX14_scale_54 : decode cX14_scale 54 = .ok (.iconst 0, 1) := dk_3 (dk_at dksX14_scale_2 7 rfl rfl)
theorem dX14_scale_55 : decode cX14_scale 55 = .ok (.ireturn, 1) := dk_172 (dk_at dksX14_scale_2 8 rfl rfl)
def dkwX14_sheet_6 : List UInt8 := [160, 0, 8, 16, 253, 167, 0, 5, 21, 5, 172]
abbrev dktX14_sheet_6 : List UInt8 := dkwX14_sheet_6 ++ []
def dkwX14_sheet_5 : List UInt8 := [180, 0, 44, 21, 7, 46, 96, 54, 5, 21, 6, 21, 4, 96, 54, 6, 132, 7, 1, 167, 255, 166, 27, 6]
abbrev dktX14_sheet_5 : List UInt8 := dkwX14_sheet_5 ++ dktX14_sheet_6
def dkwX14_sheet_4 : List UInt8 := [161, 0, 7, 4, 167, 0, 15, 4, 17, 3, 231, 21, 8, 184, 0, 141, 184, 0, 254, 79, 21, 5, 42]
abbrev dktX14_sheet_4 : List UInt8 := dkwX14_sheet_4 ++ dktX14_sheet_5
def dkwX14_sheet_3 : List UInt8 := [147, 167, 0, 5, 21, 6, 54, 8, 42, 180, 0, 44, 21, 7, 27, 6, 159, 0, 9, 21, 7, 28]
abbrev dktX14_sheet_3 : List UInt8 := dkwX14_sheet_3 ++ dktX14_sheet_4
def dkwX14_sheet_2 : List UInt8 := [42, 180, 0, 117, 162, 0, 87, 27, 154, 0, 9, 21, 6, 145, 167, 0, 16, 27, 4, 160, 0, 9, 21, 6]
abbrev dktX14_sheet_2 : List UInt8 := dkwX14_sheet_2 ++ dktX14_sheet_3
def dkwX14_sheet_1 : List UInt8 := [172, 27, 6, 159, 0, 10, 28, 156, 0, 6, 16, 254, 172, 3, 54, 5, 29, 54, 6, 3, 54, 7, 21, 7]
abbrev dktX14_sheet_1 : List UInt8 := dkwX14_sheet_1 ++ dktX14_sheet_2
def dkwX14_sheet_0 : List UInt8 := [42, 3, 181, 0, 3, 27, 133, 9, 20, 1, 11, 184, 0, 120, 153, 0, 9, 28, 16, 8, 164, 0, 5, 2]
abbrev dktX14_sheet_0 : List UInt8 := dkwX14_sheet_0 ++ dktX14_sheet_1
theorem dksX14_sheet_0 : cX14_sheet.data.toList.drop 0 = dktX14_sheet_0 := by decide +kernel
theorem dksX14_sheet_1 : cX14_sheet.data.toList.drop 24 = dktX14_sheet_1 := dk_seg dksX14_sheet_0 24 rfl rfl
theorem dksX14_sheet_2 : cX14_sheet.data.toList.drop 48 = dktX14_sheet_2 := dk_seg dksX14_sheet_1 24 rfl rfl
theorem dksX14_sheet_3 : cX14_sheet.data.toList.drop 72 = dktX14_sheet_3 := dk_seg dksX14_sheet_2 24 rfl rfl
theorem dksX14_sheet_4 : cX14_sheet.data.toList.drop 94 = dktX14_sheet_4 := dk_seg dksX14_sheet_3 22 rfl rfl
theorem dksX14_sheet_5 : cX14_sheet.data.toList.drop 117 = dktX14_sheet_5 := dk_seg dksX14_sheet_4 23 rfl rfl
theorem dksX14_sheet_6 : cX14_sheet.data.toList.drop 141 = dktX14_sheet_6 := dk_seg dksX14_sheet_5 24 rfl rfl
theorem dX14_sheet_0 : decode cX14_sheet 0 = .ok (.aload_n 0, 1) := dk_42 (dk_at dksX14_sheet_0 0 rfl rfl)
theorem dX14_sheet_1 : decode cX14_sheet 1 = .ok (.iconst 0, 1) := dk_3 (dk_at dksX14_sheet_0 1 rfl rfl)
theorem dX14_sheet_2 : decode cX14_sheet 2 = .ok (.putfield 3, 3) := dk_181 0 3 (dk_at dksX14_sheet_0 2 rfl rfl)
theorem dX14_sheet_5 : decode cX14_sheet 5 = .ok (.iload_n 1, 1) := dk_27 (dk_at dksX14_sheet_0 5 rfl rfl)
theorem dX14_sheet_6 : decode cX14_sheet 6 = .ok (.i2l, 1) := dk_133 (dk_at dksX14_sheet_0 6 rfl rfl)
theorem dX14_sheet_7 : decode cX14_sheet 7 = .ok (.lconst 0, 1) := dk_9 (dk_at dksX14_sheet_0 7 rfl rfl)
theorem dX14_sheet_8 : decode cX14_sheet 8 = .ok (.ldc2_w 267, 3) := dk_20 1 11 (dk_at dksX14_sheet_0 8 rfl rfl)
theorem dX14_sheet_11 : decode cX14_sheet 11 = .ok (.invokestatic 120, 3) := dk_184 0 120 (dk_at dksX14_sheet_0 11 rfl rfl)
theorem dX14_sheet_14 : decode cX14_sheet 14 = .ok (.ifCond .eq 9, 3) := dk_153 0 9 (dk_at dksX14_sheet_0 14 rfl rfl)
theorem dX14_sheet_17 : decode cX14_sheet 17 = .ok (.iload_n 2, 1) := dk_28 (dk_at dksX14_sheet_0 17 rfl rfl)
theorem dX14_sheet_18 : decode cX14_sheet 18 = .ok (.bipush 8, 2) := dk_16 8 (dk_at dksX14_sheet_0 18 rfl rfl)
theorem dX14_sheet_20 : decode cX14_sheet 20 = .ok (.if_icmp .le 5, 3) := dk_164 0 5 (dk_at dksX14_sheet_0 20 rfl rfl)
theorem dX14_sheet_23 : decode cX14_sheet 23 = .ok (.iconst (-1), 1) := dk_2 (dk_at dksX14_sheet_0 23 rfl rfl)
theorem dX14_sheet_24 : decode cX14_sheet 24 = .ok (.ireturn, 1) := dk_172 (dk_at dksX14_sheet_1 0 rfl rfl)
theorem dX14_sheet_25 : decode cX14_sheet 25 = .ok (.iload_n 1, 1) := dk_27 (dk_at dksX14_sheet_1 1 rfl rfl)
theorem dX14_sheet_26 : decode cX14_sheet 26 = .ok (.iconst 3, 1) := dk_6 (dk_at dksX14_sheet_1 2 rfl rfl)
theorem dX14_sheet_27 : decode cX14_sheet 27 = .ok (.if_icmp .eq 10, 3) := dk_159 0 10 (dk_at dksX14_sheet_1 3 rfl rfl)
theorem dX14_sheet_30 : decode cX14_sheet 30 = .ok (.iload_n 2, 1) := dk_28 (dk_at dksX14_sheet_1 6 rfl rfl)
theorem dX14_sheet_31 : decode cX14_sheet 31 = .ok (.ifCond .ge 6, 3) := dk_156 0 6 (dk_at dksX14_sheet_1 7 rfl rfl)
theorem dX14_sheet_34 : decode cX14_sheet 34 = .ok (.bipush (-2), 2) := dk_16 254 (dk_at dksX14_sheet_1 10 rfl rfl)
theorem dX14_sheet_36 : decode cX14_sheet 36 = .ok (.ireturn, 1) := dk_172 (dk_at dksX14_sheet_1 12 rfl rfl)
theorem dX14_sheet_37 : decode cX14_sheet 37 = .ok (.iconst 0, 1) := dk_3 (dk_at dksX14_sheet_1 13 rfl rfl)
theorem dX14_sheet_38 : decode cX14_sheet 38 = .ok (.istore 5, 2) := dk_54 5 (dk_at dksX14_sheet_1 14 rfl rfl)
theorem dX14_sheet_40 : decode cX14_sheet 40 = .ok (.iload_n 3, 1) := dk_29 (dk_at dksX14_sheet_1 16 rfl rfl)
theorem dX14_sheet_41 : decode cX14_sheet 41 = .ok (.istore 6, 2) := dk_54 6 (dk_at dksX14_sheet_1 17 rfl rfl)
theorem dX14_sheet_43 : decode cX14_sheet 43 = .ok (.iconst 0, 1) := dk_3 (dk_at dksX14_sheet_1 19 rfl rfl)
theorem dX14_sheet_44 : decode cX14_sheet 44 = .ok (.istore 7, 2) := dk_54 7 (dk_at dksX14_sheet_1 20 rfl rfl)
theorem dX14_sheet_46 : decode cX14_sheet 46 = .ok (.iload 7, 2) := dk_21 7 (dk_at dksX14_sheet_1 22 rfl rfl)
theorem dX14_sheet_48 : decode cX14_sheet 48 = .ok (.aload_n 0, 1) := dk_42 (dk_at dksX14_sheet_2 0 rfl rfl)
theorem dX14_sheet_49 : decode cX14_sheet 49 = .ok (.getfield 117, 3) := dk_180 0 117 (dk_at dksX14_sheet_2 1 rfl rfl)
theorem dX14_sheet_52 : decode cX14_sheet 52 = .ok (.if_icmp .ge 87, 3) := dk_162 0 87 (dk_at dksX14_sheet_2 4 rfl rfl)
theorem dX14_sheet_55 : decode cX14_sheet 55 = .ok (.iload_n 1, 1) := dk_27 (dk_at dksX14_sheet_2 7 rfl rfl)
theorem dX14_sheet_56 : decode cX14_sheet 56 = .ok (.ifCond .ne 9, 3) := dk_154 0 9 (dk_at dksX14_sheet_2 8 rfl rfl)
theorem dX14_sheet_59 : decode cX14_sheet 59 = .ok (.iload 6, 2) := dk_21 6 (dk_at dksX14_sheet_2 11 rfl rfl)
theorem dX14_sheet_61 : decode cX14_sheet 61 = .ok (.i2b, 1) := dk_145 (dk_at dksX14_sheet_2 13 rfl rfl)
theorem dX14_sheet_62 : decode cX14_sheet 62 = .ok (.goto 16, 3) := dk_167 0 16 (dk_at dksX14_sheet_2 14 rfl rfl)
theorem dX14_sheet_65 : decode cX14_sheet 65 = .ok (.iload_n 1, 1) := dk_27 (dk_at dksX14_sheet_2 17 rfl rfl)
theorem dX14_sheet_66 : decode cX14_sheet 66 = .ok (.iconst 1, 1) := dk_4 (dk_at dksX14_sheet_2 18 rfl rfl)
theorem dX14_sheet_67 : decode cX14_sheet 67 = .ok (.if_icmp .ne 9, 3) := dk_160 0 9 (dk_at dksX14_sheet_2 19 rfl rfl)
theorem dX14_sheet_70 : decode cX14_sheet 70 = .ok (.iload 6, 2) := dk_21 6 (dk_at dksX14_sheet_2 22 rfl rfl)
theorem dX14_sheet_72 : decode cX14_sheet 72 = .ok (.i2s, 1) := dk_147 (dk_at dksX14_sheet_3 0 rfl rfl)
theorem dX14_sheet_73 : decode cX14_sheet 73 = .ok (.goto 5, 3) := dk_167 0 5 (dk_at dksX14_sheet_3 1 rfl rfl)
theorem dX14_sheet_76 : decode cX14_sheet 76 = .ok (.iload 6, 2) := dk_21 6 (dk_at dksX14_sheet_3 4 rfl rfl)
theorem dX14_sheet_78 : decode cX14_sheet 78 = .ok (.istore 8, 2) := dk_54 8 (dk_at dksX14_sheet_3 6 rfl rfl)
theorem dX14_sheet_80 : decode cX14_sheet 80 = .ok (.aload_n 0, 1) := dk_42 (dk_at dksX14_sheet_3 8 rfl rfl)
theorem dX14_sheet_81 : decode cX14_sheet 81 = .ok (.getfield 44, 3) := dk_180 0 44 (dk_at dksX14_sheet_3 9 rfl rfl)
theorem dX14_sheet_84 : decode cX14_sheet 84 = .ok (.iload 7, 2) := dk_21 7 (dk_at dksX14_sheet_3 12 rfl rfl)
theorem dX14_sheet_86 : decode cX14_sheet 86 = .ok (.iload_n 1, 1) := dk_27 (dk_at dksX14_sheet_3 14 rfl rfl)
theorem dX14_sheet_87 : decode cX14_sheet 87 = .ok (.iconst 3, 1) := dk_6 (dk_at dksX14_sheet_3 15 rfl rfl)
theorem dX14_sheet_88 : decode cX14_sheet 88 = .ok (.if_icmp .eq 9, 3) := dk_159 0 9 (dk_at dksX14_sheet_3 16 rfl rfl)
theorem dX14_sheet_91 : decode cX14_sheet 91 = .ok (.iload 7, 2) := dk_21 7 (dk_at dksX14_sheet_3 19 rfl rfl)
theorem dX14_sheet_93 : decode cX14_sheet 93 = .ok (.iload_n 2, 1) := dk_28 (dk_at dksX14_sheet_3 21 rfl rfl)
theorem dX14_sheet_94 : decode cX14_sheet 94 = .ok (.if_icmp .lt 7, 3) := dk_161 0 7 (dk_at dksX14_sheet_4 0 rfl rfl)
theorem dX14_sheet_97 : decode cX14_sheet 97 = .ok (.iconst 1, 1) := dk_4 (dk_at dksX14_sheet_4 3 rfl rfl)
theorem dX14_sheet_98 : decode cX14_sheet 98 = .ok (.goto 15, 3) := dk_167 0 15 (dk_at dksX14_sheet_4 4 rfl rfl)
theorem dX14_sheet_101 : decode cX14_sheet 101 = .ok (.iconst 1, 1) := dk_4 (dk_at dksX14_sheet_4 7 rfl rfl)
theorem dX14_sheet_102 : decode cX14_sheet 102 = .ok (.sipush 999, 3) := dk_17 3 231 (dk_at dksX14_sheet_4 8 rfl rfl)
theorem dX14_sheet_105 : decode cX14_sheet 105 = .ok (.iload 8, 2) := dk_21 8 (dk_at dksX14_sheet_4 11 rfl rfl)
theorem dX14_sheet_107 : decode cX14_sheet 107 = .ok (.invokestatic 141, 3) := dk_184 0 141 (dk_at dksX14_sheet_4 13 rfl rfl)
theorem dX14_sheet_110 : decode cX14_sheet 110 = .ok (.invokestatic 254, 3) := dk_184 0 254 (dk_at dksX14_sheet_4 16 rfl rfl)
theorem dX14_sheet_113 : decode cX14_sheet 113 = .ok (.iastore, 1) := dk_79 (dk_at dksX14_sheet_4 19 rfl rfl)
theorem dX14_sheet_114 : decode cX14_sheet 114 = .ok (.iload 5, 2) := dk_21 5 (dk_at dksX14_sheet_4 20 rfl rfl)
theorem dX14_sheet_116 : decode cX14_sheet 116 = .ok (.aload_n 0, 1) := dk_42 (dk_at dksX14_sheet_4 22 rfl rfl)
theorem dX14_sheet_117 : decode cX14_sheet 117 = .ok (.getfield 44, 3) := dk_180 0 44 (dk_at dksX14_sheet_5 0 rfl rfl)
theorem dX14_sheet_120 : decode cX14_sheet 120 = .ok (.iload 7, 2) := dk_21 7 (dk_at dksX14_sheet_5 3 rfl rfl)
theorem dX14_sheet_122 : decode cX14_sheet 122 = .ok (.iaload, 1) := dk_46 (dk_at dksX14_sheet_5 5 rfl rfl)
theorem dX14_sheet_123 : decode cX14_sheet 123 = .ok (.iadd, 1) := dk_96 (dk_at dksX14_sheet_5 6 rfl rfl)
theorem dX14_sheet_124 : decode cX14_sheet 124 = .ok (.istore 5, 2) := dk_54 5 (dk_at dksX14_sheet_5 7 rfl rfl)
theorem dX14_sheet_126 : decode cX14_sheet 126 = .ok (.iload 6, 2) := dk_21 6 (dk_at dksX14_sheet_5 9 rfl rfl)
theorem dX14_sheet_128 : decode cX14_sheet 128 = .ok (.iload 4, 2) := dk_21 4 (dk_at dksX14_sheet_5 11 rfl rfl)
theorem dX14_sheet_130 : decode cX14_sheet 130 = .ok (.iadd, 1) := dk_96 (dk_at dksX14_sheet_5 13 rfl rfl)
theorem dX14_sheet_131 : decode cX14_sheet 131 = .ok (.istore 6, 2) := dk_54 6 (dk_at dksX14_sheet_5 14 rfl rfl)
theorem dX14_sheet_133 : decode cX14_sheet 133 = .ok (.iinc 7 1, 3) := dk_132 7 1 (dk_at dksX14_sheet_5 16 rfl rfl)
theorem dX14_sheet_136 : decode cX14_sheet 136 = .ok (.goto (-90), 3) := dk_167 255 166 (dk_at dksX14_sheet_5 19 rfl rfl)
theorem dX14_sheet_139 : decode cX14_sheet 139 = .ok (.iload_n 1, 1) := dk_27 (dk_at dksX14_sheet_5 22 rfl rfl)
theorem dX14_sheet_140 : decode cX14_sheet 140 = .ok (.iconst 3, 1) := dk_6 (dk_at dksX14_sheet_5 23 rfl rfl)
theorem dX14_sheet_141 : decode cX14_sheet 141 = .ok (.if_icmp .ne 8, 3) := dk_160 0 8 (dk_at dksX14_sheet_6 0 rfl rfl)
theorem dX14_sheet_144 : decode cX14_sheet 144 = .ok (.bipush (-3), 2) := dk_16 253 (dk_at dksX14_sheet_6 3 rfl rfl)
theorem dX14_sheet_146 : decode cX14_sheet 146 = .ok (.goto 5, 3) := dk_167 0 5 (dk_at dksX14_sheet_6 5 rfl rfl)
theorem dX14_sheet_149 : decode cX14_sheet 149 = .ok (.iload 5, 2) := dk_21 5 (dk_at dksX14_sheet_6 8 rfl rfl)
theorem dX14_sheet_151 : decode cX14_sheet 151 = .ok (.ireturn, 1) := dk_172 (dk_at dksX14_sheet_6 10 rfl rfl)
def dkwX14_undo_2 : List UInt8 := [27, 96, 46, 79, 132, 1, 1, 167, 255, 227, 42, 180, 0, 207, 172]
abbrev dktX14_undo_2 : List UInt8 := dkwX14_undo_2 ++ []
def dkwX14_undo_1 : List UInt8 := [3, 60, 27, 16, 117, 162, 0, 29, 42, 180, 0, 44, 27, 42, 180, 0, 74, 16, 117, 42, 180, 0, 207, 104]
abbrev dktX14_undo_1 : List UInt8 := dkwX14_undo_1 ++ dktX14_undo_2
def dkwX14_undo_0 : List UInt8 := [42, 3, 181, 0, 3, 42, 180, 0, 207, 154, 0, 5, 2, 172, 42, 89, 180, 0, 207, 4, 100, 181, 0, 207]
abbrev dktX14_undo_0 : List UInt8 := dkwX14_undo_0 ++ dktX14_undo_1
theorem dksX14_undo_0 : cX14_undo.data.toList.drop 0 = dktX14_undo_0 := by decide +kernel
theorem dksX14_undo_1 : cX14_undo.data.toList.drop 24 = dktX14_undo_1 := dk_seg dksX14_undo_0 24 rfl rfl
theorem dksX14_undo_2 : cX14_undo.data.toList.drop 48 = dktX14_undo_2 := dk_seg dksX14_undo_1 24 rfl rfl
theorem dX14_undo_0 : decode cX14_undo 0 = .ok (.aload_n 0, 1) := dk_42 (dk_at dksX14_undo_0 0 rfl rfl)
theorem dX14_undo_1 : decode cX14_undo 1 = .ok (.iconst 0, 1) := dk_3 (dk_at dksX14_undo_0 1 rfl rfl)
theorem dX14_undo_2 : decode cX14_undo 2 = .ok (.putfield 3, 3) := dk_181 0 3 (dk_at dksX14_undo_0 2 rfl rfl)
theorem dX14_undo_5 : decode cX14_undo 5 = .ok (.aload_n 0, 1) := dk_42 (dk_at dksX14_undo_0 5 rfl rfl)
theorem dX14_undo_6 : decode cX14_undo 6 = .ok (.getfield 207, 3) := dk_180 0 207 (dk_at dksX14_undo_0 6 rfl rfl)
theorem dX14_undo_9 : decode cX14_undo 9 = .ok (.ifCond .ne 5, 3) := dk_154 0 5 (dk_at dksX14_undo_0 9 rfl rfl)
theorem dX14_undo_12 : decode cX14_undo 12 = .ok (.iconst (-1), 1) := dk_2 (dk_at dksX14_undo_0 12 rfl rfl)
theorem dX14_undo_13 : decode cX14_undo 13 = .ok (.ireturn, 1) := dk_172 (dk_at dksX14_undo_0 13 rfl rfl)
theorem dX14_undo_14 : decode cX14_undo 14 = .ok (.aload_n 0, 1) := dk_42 (dk_at dksX14_undo_0 14 rfl rfl)
theorem dX14_undo_15 : decode cX14_undo 15 = .ok (.dup, 1) := dk_89 (dk_at dksX14_undo_0 15 rfl rfl)
theorem dX14_undo_16 : decode cX14_undo 16 = .ok (.getfield 207, 3) := dk_180 0 207 (dk_at dksX14_undo_0 16 rfl rfl)
theorem dX14_undo_19 : decode cX14_undo 19 = .ok (.iconst 1, 1) := dk_4 (dk_at dksX14_undo_0 19 rfl rfl)
theorem dX14_undo_20 : decode cX14_undo 20 = .ok (.isub, 1) := dk_100 (dk_at dksX14_undo_0 20 rfl rfl)
theorem dX14_undo_21 : decode cX14_undo 21 = .ok (.putfield 207, 3) := dk_181 0 207 (dk_at dksX14_undo_0 21 rfl rfl)
theorem dX14_undo_24 : decode cX14_undo 24 = .ok (.iconst 0, 1) := dk_3 (dk_at dksX14_undo_1 0 rfl rfl)
theorem dX14_undo_25 : decode cX14_undo 25 = .ok (.istore_n 1, 1) := dk_60 (dk_at dksX14_undo_1 1 rfl rfl)
theorem dX14_undo_26 : decode cX14_undo 26 = .ok (.iload_n 1, 1) := dk_27 (dk_at dksX14_undo_1 2 rfl rfl)
theorem dX14_undo_27 : decode cX14_undo 27 = .ok (.bipush 117, 2) := dk_16 117 (dk_at dksX14_undo_1 3 rfl rfl)
theorem dX14_undo_29 : decode cX14_undo 29 = .ok (.if_icmp .ge 29, 3) := dk_162 0 29 (dk_at dksX14_undo_1 5 rfl rfl)
theorem dX14_undo_32 : decode cX14_undo 32 = .ok (.aload_n 0, 1) := dk_42 (dk_at dksX14_undo_1 8 rfl rfl)
theorem dX14_undo_33 : decode cX14_undo 33 = .ok (.getfield 44, 3) := dk_180 0 44 (dk_at dksX14_undo_1 9 rfl rfl)
theorem dX14_undo_36 : decode cX14_undo 36 = .ok (.iload_n 1, 1) := dk_27 (dk_at dksX14_undo_1 12 rfl rfl)
theorem dX14_undo_37 : decode cX14_undo 37 = .ok (.aload_n 0, 1) := dk_42 (dk_at dksX14_undo_1 13 rfl rfl)
theorem dX14_undo_38 : decode cX14_undo 38 = .ok (.getfield 74, 3) := dk_180 0 74 (dk_at dksX14_undo_1 14 rfl rfl)
theorem dX14_undo_41 : decode cX14_undo 41 = .ok (.bipush 117, 2) := dk_16 117 (dk_at dksX14_undo_1 17 rfl rfl)
theorem dX14_undo_43 : decode cX14_undo 43 = .ok (.aload_n 0, 1) := dk_42 (dk_at dksX14_undo_1 19 rfl rfl)
theorem dX14_undo_44 : decode cX14_undo 44 = .ok (.getfield 207, 3) := dk_180 0 207 (dk_at dksX14_undo_1 20 rfl rfl)
theorem dX14_undo_47 : decode cX14_undo 47 = .ok (.imul, 1) := dk_104 (dk_at dksX14_undo_1 23 rfl rfl)
theorem dX14_undo_48 : decode cX14_undo 48 = .ok (.iload_n 1, 1) := dk_27 (dk_at dksX14_undo_2 0 rfl rfl)
theorem dX14_undo_49 : decode cX14_undo 49 = .ok (.iadd, 1) := dk_96 (dk_at dksX14_undo_2 1 rfl rfl)
theorem dX14_undo_50 : decode cX14_undo 50 = .ok (.iaload, 1) := dk_46 (dk_at dksX14_undo_2 2 rfl rfl)
theorem dX14_undo_51 : decode cX14_undo 51 = .ok (.iastore, 1) := dk_79 (dk_at dksX14_undo_2 3 rfl rfl)
theorem dX14_undo_52 : decode cX14_undo 52 = .ok (.iinc 1 1, 3) := dk_132 1 1 (dk_at dksX14_undo_2 4 rfl rfl)
theorem dX14_undo_55 : decode cX14_undo 55 = .ok (.goto (-29), 3) := dk_167 255 227 (dk_at dksX14_undo_2 7 rfl rfl)
theorem dX14_undo_58 : decode cX14_undo 58 = .ok (.aload_n 0, 1) := dk_42 (dk_at dksX14_undo_2 10 rfl rfl)
theorem dX14_undo_59 : decode cX14_undo 59 = .ok (.getfield 207, 3) := dk_180 0 207 (dk_at dksX14_undo_2 11 rfl rfl)
theorem dX14_undo_62 : decode cX14_undo 62 = .ok (.ireturn, 1) := dk_172 (dk_at dksX14_undo_2 14 rfl rfl)
def dkwX14_stand_4 : List UInt8 := [180, 0, 44, 16, 17, 46, 172]
abbrev dktX14_stand_4 : List UInt8 := dkwX14_stand_4 ++ []
def dkwX14_stand_3 : List UInt8 := [4, 167, 0, 4, 3, 184, 0, 150, 133, 182, 0, 18, 42, 42, 180, 1, 17, 133, 182, 0, 18, 42]
abbrev dktX14_stand_3 : List UInt8 := dkwX14_stand_3 ++ dktX14_stand_4
def dkwX14_stand_2 : List UInt8 := [180, 0, 44, 27, 182, 1, 26, 42, 3, 181, 0, 15, 42, 42, 180, 0, 44, 16, 17, 46, 28, 159, 0, 7]
abbrev dktX14_stand_2 : List UInt8 := dkwX14_stand_2 ++ dktX14_stand_3
def dkwX14_stand_1 : List UInt8 := [16, 254, 172, 42, 182, 1, 23, 42, 180, 0, 44, 16, 17, 46, 61, 42, 3, 181, 1, 17, 42, 42]
abbrev dktX14_stand_1 : List UInt8 := dkwX14_stand_1 ++ dktX14_stand_2
def dkwX14_stand_0 : List UInt8 := [42, 3, 181, 0, 3, 27, 133, 9, 4, 42, 180, 0, 117, 120, 4, 100, 133, 184, 0, 120, 154, 0, 6]
abbrev dktX14_stand_0 : List UInt8 := dkwX14_stand_0 ++ dktX14_stand_1
theorem dksX14_stand_0 : cX14_stand.data.toList.drop 0 = dktX14_stand_0 := by decide +kernel
theorem dksX14_stand_1 : cX14_stand.data.toList.drop 23 = dktX14_stand_1 := dk_seg dksX14_stand_0 23 rfl rfl
theorem dksX14_stand_2 : cX14_stand.data.toList.drop 45 = dktX14_stand_2 := dk_seg dksX14_stand_1 22 rfl rfl
theorem dksX14_stand_3 : cX14_stand.data.toList.drop 69 = dktX14_stand_3 := dk_seg dksX14_stand_2 24 rfl rfl
theorem dksX14_stand_4 : cX14_stand.data.toList.drop 91 = dktX14_stand_4 := dk_seg dksX14_stand_3 22 rfl rfl
theorem dX14_stand_0 : decode cX14_stand 0 = .ok (.aload_n 0, 1) := dk_42 (dk_at dksX14_stand_0 0 rfl rfl)
theorem dX14_stand_1 : decode cX14_stand 1 = .ok (.iconst 0, 1) := dk_3 (dk_at dksX14_stand_0 1 rfl rfl)
theorem dX14_stand_2 : decode cX14_stand 2 = .ok (.putfield 3, 3) := dk_181 0 3 (dk_at dksX14_stand_0 2 rfl rfl)
theorem dX14_stand_5 : decode cX14_stand 5 = .ok (.iload_n 1, 1) := dk_27 (dk_at dksX14_stand_0 5 rfl rfl)
theorem dX14_stand_6 : decode cX14_stand 6 = .ok (.i2l, 1) := dk_133 (dk_at dksX14_stand_0 6 rfl rfl)
theorem dX14_stand_7 : decode cX14_stand 7 = .ok (.lconst 0, 1) := dk_9 (dk_at dksX14_stand_0 7 rfl rfl)
theorem dX14_stand_8 : decode cX14_stand 8 = .ok (.iconst 1, 1) := dk_4 (dk_at dksX14_stand_0 8 rfl rfl)
theorem dX14_stand_9 : decode cX14_stand 9 = .ok (.aload_n 0, 1) := dk_42 (dk_at dksX14_stand_0 9 rfl rfl)
theorem dX14_stand_10 : decode cX14_stand 10 = .ok (.getfield 117, 3) := dk_180 0 117 (dk_at dksX14_stand_0 10 rfl rfl)
theorem dX14_stand_13 : decode cX14_stand 13 = .ok (.ishl, 1) := dk_120 (dk_at dksX14_stand_0 13 rfl rfl)
theorem dX14_stand_14 : decode cX14_stand 14 = .ok (.iconst 1, 1) := dk_4 (dk_at dksX14_stand_0 14 rfl rfl)
theorem dX14_stand_15 : decode cX14_stand 15 = .ok (.isub, 1) := dk_100 (dk_at dksX14_stand_0 15 rfl rfl)
theorem dX14_stand_16 : decode cX14_stand 16 = .ok (.i2l, 1) := dk_133 (dk_at dksX14_stand_0 16 rfl rfl)
theorem dX14_stand_17 : decode cX14_stand 17 = .ok (.invokestatic 120, 3) := dk_184 0 120 (dk_at dksX14_stand_0 17 rfl rfl)
theorem dX14_stand_20 : decode cX14_stand 20 = .ok (.ifCond .ne 6, 3) := dk_154 0 6 (dk_at dksX14_stand_0 20 rfl rfl)
theorem dX14_stand_23 : decode cX14_stand 23 = .ok (.bipush (-2), 2) := dk_16 254 (dk_at dksX14_stand_1 0 rfl rfl)
theorem dX14_stand_25 : decode cX14_stand 25 = .ok (.ireturn, 1) := dk_172 (dk_at dksX14_stand_1 2 rfl rfl)
theorem dX14_stand_26 : decode cX14_stand 26 = .ok (.aload_n 0, 1) := dk_42 (dk_at dksX14_stand_1 3 rfl rfl)
theorem dX14_stand_27 : decode cX14_stand 27 = .ok (.invokevirtual 279, 3) := dk_182 1 23 (dk_at dksX14_stand_1 4 rfl rfl)
theorem dX14_stand_30 : decode cX14_stand 30 = .ok (.aload_n 0, 1) := dk_42 (dk_at dksX14_stand_1 7 rfl rfl)
theorem dX14_stand_31 : decode cX14_stand 31 = .ok (.getfield 44, 3) := dk_180 0 44 (dk_at dksX14_stand_1 8 rfl rfl)
theorem dX14_stand_34 : decode cX14_stand 34 = .ok (.bipush 17, 2) := dk_16 17 (dk_at dksX14_stand_1 11 rfl rfl)
theorem dX14_stand_36 : decode cX14_stand 36 = .ok (.iaload, 1) := dk_46 (dk_at dksX14_stand_1 13 rfl rfl)
theorem dX14_stand_37 : decode cX14_stand 37 = .ok (.istore_n 2, 1) := dk_61 (dk_at dksX14_stand_1 14 rfl rfl)
theorem dX14_stand_38 : decode cX14_stand 38 = .ok (.aload_n 0, 1) := dk_42 (dk_at dksX14_stand_1 15 rfl rfl)
theorem dX14_stand_39 : decode cX14_stand 39 = .ok (.iconst 0, 1) := dk_3 (dk_at dksX14_stand_1 16 rfl rfl)
theorem dX14_stand_40 : decode cX14_stand 40 = .ok (.putfield 273, 3) := dk_181 1 17 (dk_at dksX14_stand_1 17 rfl rfl)
theorem dX14_stand_43 : decode cX14_stand 43 = .ok (.aload_n 0, 1) := dk_42 (dk_at dksX14_stand_1 20 rfl rfl)
theorem dX14_stand_44 : decode cX14_stand 44 = .ok (.aload_n 0, 1) := dk_42 (dk_at dksX14_stand_1 21 rfl rfl)
theorem dX14_stand_45 : decode cX14_stand 45 = .ok (.getfield 44, 3) := dk_180 0 44 (dk_at dksX14_stand_2 0 rfl rfl)
theorem dX14_stand_48 : decode cX14_stand 48 = .ok (.iload_n 1, 1) := dk_27 (dk_at dksX14_stand_2 3 rfl rfl)
theorem dX14_stand_49 : decode cX14_stand 49 = .ok (.invokevirtual 282, 3) := dk_182 1 26 (dk_at dksX14_stand_2 4 rfl rfl)
theorem dX14_stand_52 : decode cX14_stand 52 = .ok (.aload_n 0, 1) := dk_42 (dk_at dksX14_stand_2 7 rfl rfl)
theorem dX14_stand_53 : decode cX14_stand 53 = .ok (.iconst 0, 1) := dk_3 (dk_at dksX14_stand_2 8 rfl rfl)
theorem dX14_stand_54 : decode cX14_stand 54 = .ok (.putfield 15, 3) := dk_181 0 15 (dk_at dksX14_stand_2 9 rfl rfl)
theorem dX14_stand_57 : decode cX14_stand 57 = .ok (.aload_n 0, 1) := dk_42 (dk_at dksX14_stand_2 12 rfl rfl)
theorem dX14_stand_58 : decode cX14_stand 58 = .ok (.aload_n 0, 1) := dk_42 (dk_at dksX14_stand_2 13 rfl rfl)
theorem dX14_stand_59 : decode cX14_stand 59 = .ok (.getfield 44, 3) := dk_180 0 44 (dk_at dksX14_stand_2 14 rfl rfl)
theorem dX14_stand_62 : decode cX14_stand 62 = .ok (.bipush 17, 2) := dk_16 17 (dk_at dksX14_stand_2 17 rfl rfl)
theorem dX14_stand_64 : decode cX14_stand 64 = .ok (.iaload, 1) := dk_46 (dk_at dksX14_stand_2 19 rfl rfl)
theorem dX14_stand_65 : decode cX14_stand 65 = .ok (.iload_n 2, 1) := dk_28 (dk_at dksX14_stand_2 20 rfl rfl)
theorem dX14_stand_66 : decode cX14_stand 66 = .ok (.if_icmp .eq 7, 3) := dk_159 0 7 (dk_at dksX14_stand_2 21 rfl rfl)
theorem dX14_stand_69 : decode cX14_stand 69 = .ok (.iconst 1, 1) := dk_4 (dk_at dksX14_stand_3 0 rfl rfl)
theorem dX14_stand_70 : decode cX14_stand 70 = .ok (.goto 4, 3) := dk_167 0 4 (dk_at dksX14_stand_3 1 rfl rfl)
theorem dX14_stand_73 : decode cX14_stand 73 = .ok (.iconst 0, 1) := dk_3 (dk_at dksX14_stand_3 4 rfl rfl)
theorem dX14_stand_74 : decode cX14_stand 74 = .ok (.invokestatic 150, 3) := dk_184 0 150 (dk_at dksX14_stand_3 5 rfl rfl)
theorem dX14_stand_77 : decode cX14_stand 77 = .ok (.i2l, 1) := dk_133 (dk_at dksX14_stand_3 8 rfl rfl)
theorem dX14_stand_78 : decode cX14_stand 78 = .ok (.invokevirtual 18, 3) := dk_182 0 18 (dk_at dksX14_stand_3 9 rfl rfl)
theorem dX14_stand_81 : decode cX14_stand 81 = .ok (.aload_n 0, 1) := dk_42 (dk_at dksX14_stand_3 12 rfl rfl)
theorem dX14_stand_82 : decode cX14_stand 82 = .ok (.aload_n 0, 1) := dk_42 (dk_at dksX14_stand_3 13 rfl rfl)
theorem dX14_stand_83 : decode cX14_stand 83 = .ok (.getfield 273, 3) := dk_180 1 17 (dk_at dksX14_stand_3 14 rfl rfl)
theorem dX14_stand_86 : decode cX14_stand 86 = .ok (.i2l, 1) := dk_133 (dk_at dksX14_stand_3 17 rfl rfl)
theorem dX14_stand_87 : decode cX14_stand 87 = .ok (.invokevirtual 18, 3) := dk_182 0 18 (dk_at dksX14_stand_3 18 rfl rfl)
theorem dX14_stand_90 : decode cX14_stand 90 = .ok (.aload_n 0, 1) := dk_42 (dk_at dksX14_stand_3 21 rfl rfl)
theorem dX14_stand_91 : decode cX14_stand 91 = .ok (.getfield 44, 3) := dk_180 0 44 (dk_at dksX14_stand_4 0 rfl rfl)
theorem dX14_stand_94 : decode cX14_stand 94 = .ok (.bipush 17, 2) := dk_16 17 (dk_at dksX14_stand_4 3 rfl rfl)
theorem dX14_stand_96 : decode cX14_stand 96 = .ok (.iaload, 1) := dk_46 (dk_at dksX14_stand_4 5 rfl rfl)
theorem dX14_stand_97 : decode cX14_stand 97 = .ok (.ireturn, 1) := dk_172 (dk_at dksX14_stand_4 6 rfl rfl)
def dkwX14_putsBy_3 : List UInt8 := [42, 180, 0, 44, 27, 46, 79, 132, 1, 1, 167, 255, 227, 42, 89, 180, 0, 207, 4, 96, 181, 0, 207, 177]
abbrev dktX14_putsBy_3 : List UInt8 := dkwX14_putsBy_3 ++ []
def dkwX14_putsBy_2 : List UInt8 := [181, 0, 207, 3, 60, 27, 16, 117, 162, 0, 29, 42, 180, 0, 74, 16, 117, 42, 180, 0, 207, 104, 27, 96]
abbrev dktX14_putsBy_2 : List UInt8 := dkwX14_putsBy_2 ++ dktX14_putsBy_3
def dkwX14_putsBy_1 : List UInt8 := [180, 0, 74, 27, 16, 117, 96, 46, 79, 132, 1, 1, 167, 255, 231, 42, 89, 180, 0, 207, 4, 100]
abbrev dktX14_putsBy_1 : List UInt8 := dkwX14_putsBy_1 ++ dktX14_putsBy_2
def dkwX14_putsBy_0 : List UInt8 := [42, 180, 0, 207, 16, 20, 160, 0, 43, 3, 60, 27, 17, 8, 175, 162, 0, 24, 42, 180, 0, 74, 27, 42]
abbrev dktX14_putsBy_0 : List UInt8 := dkwX14_putsBy_0 ++ dktX14_putsBy_1
theorem dksX14_putsBy_0 : cX14_putsBy.data.toList.drop 0 = dktX14_putsBy_0 := by decide +kernel
theorem dksX14_putsBy_1 : cX14_putsBy.data.toList.drop 24 = dktX14_putsBy_1 := dk_seg dksX14_putsBy_0 24 rfl rfl
theorem dksX14_putsBy_2 : cX14_putsBy.data.toList.drop 46 = dktX14_putsBy_2 := dk_seg dksX14_putsBy_1 22 rfl rfl
theorem dksX14_putsBy_3 : cX14_putsBy.data.toList.drop 70 = dktX14_putsBy_3 := dk_seg dksX14_putsBy_2 24 rfl rfl
theorem dX14_putsBy_0 : decode cX14_putsBy 0 = .ok (.aload_n 0, 1) := dk_42 (dk_at dksX14_putsBy_0 0 rfl rfl)
theorem dX14_putsBy_1 : decode cX14_putsBy 1 = .ok (.getfield 207, 3) := dk_180 0 207 (dk_at dksX14_putsBy_0 1 rfl rfl)
theorem dX14_putsBy_4 : decode cX14_putsBy 4 = .ok (.bipush 20, 2) := dk_16 20 (dk_at dksX14_putsBy_0 4 rfl rfl)
theorem dX14_putsBy_6 : decode cX14_putsBy 6 = .ok (.if_icmp .ne 43, 3) := dk_160 0 43 (dk_at dksX14_putsBy_0 6 rfl rfl)
theorem dX14_putsBy_9 : decode cX14_putsBy 9 = .ok (.iconst 0, 1) := dk_3 (dk_at dksX14_putsBy_0 9 rfl rfl)
theorem dX14_putsBy_10 : decode cX14_putsBy 10 = .ok (.istore_n 1, 1) := dk_60 (dk_at dksX14_putsBy_0 10 rfl rfl)
theorem dX14_putsBy_11 : decode cX14_putsBy 11 = .ok (.iload_n 1, 1) := dk_27 (dk_at dksX14_putsBy_0 11 rfl rfl)
theorem dX14_putsBy_12 : decode cX14_putsBy 12 = .ok (.sipush 2223, 3) := dk_17 8 175 (dk_at dksX14_putsBy_0 12 rfl rfl)
theorem dX14_putsBy_15 : decode cX14_putsBy 15 = .ok (.if_icmp .ge 24, 3) := dk_162 0 24 (dk_at dksX14_putsBy_0 15 rfl rfl)
theorem dX14_putsBy_18 : decode cX14_putsBy 18 = .ok (.aload_n 0, 1) := dk_42 (dk_at dksX14_putsBy_0 18 rfl rfl)
theorem dX14_putsBy_19 : decode cX14_putsBy 19 = .ok (.getfield 74, 3) := dk_180 0 74 (dk_at dksX14_putsBy_0 19 rfl rfl)
theorem dX14_putsBy_22 : decode cX14_putsBy 22 = .ok (.iload_n 1, 1) := dk_27 (dk_at dksX14_putsBy_0 22 rfl rfl)
theorem dX14_putsBy_23 : decode cX14_putsBy 23 = .ok (.aload_n 0, 1) := dk_42 (dk_at dksX14_putsBy_0 23 rfl rfl)
theorem dX14_putsBy_24 : decode cX14_putsBy 24 = .ok (.getfield 74, 3) := dk_180 0 74 (dk_at dksX14_putsBy_1 0 rfl rfl)
theorem dX14_putsBy_27 : decode cX14_putsBy 27 = .ok (.iload_n 1, 1) := dk_27 (dk_at dksX14_putsBy_1 3 rfl rfl)
theorem dX14_putsBy_28 : decode cX14_putsBy 28 = .ok (.bipush 117, 2) := dk_16 117 (dk_at dksX14_putsBy_1 4 rfl rfl)
theorem dX14_putsBy_30 : decode cX14_putsBy 30 = .ok (.iadd, 1) := dk_96 (dk_at dksX14_putsBy_1 6 rfl rfl)
theorem dX14_putsBy_31 : decode cX14_putsBy 31 = .ok (.iaload, 1) := dk_46 (dk_at dksX14_putsBy_1 7 rfl rfl)
theorem dX14_putsBy_32 : decode cX14_putsBy 32 = .ok (.iastore, 1) := dk_79 (dk_at dksX14_putsBy_1 8 rfl rfl)
theorem dX14_putsBy_33 : decode cX14_putsBy 33 = .ok (.iinc 1 1, 3) := dk_132 1 1 (dk_at dksX14_putsBy_1 9 rfl rfl)
theorem dX14_putsBy_36 : decode cX14_putsBy 36 = .ok (.goto (-25), 3) := dk_167 255 231 (dk_at dksX14_putsBy_1 12 rfl rfl)
theorem dX14_putsBy_39 : decode cX14_putsBy 39 = .ok (.aload_n 0, 1) := dk_42 (dk_at dksX14_putsBy_1 15 rfl rfl)
theorem dX14_putsBy_40 : decode cX14_putsBy 40 = .ok (.dup, 1) := dk_89 (dk_at dksX14_putsBy_1 16 rfl rfl)
theorem dX14_putsBy_41 : decode cX14_putsBy 41 = .ok (.getfield 207, 3) := dk_180 0 207 (dk_at dksX14_putsBy_1 17 rfl rfl)
theorem dX14_putsBy_44 : decode cX14_putsBy 44 = .ok (.iconst 1, 1) := dk_4 (dk_at dksX14_putsBy_1 20 rfl rfl)
theorem dX14_putsBy_45 : decode cX14_putsBy 45 = .ok (.isub, 1) := dk_100 (dk_at dksX14_putsBy_1 21 rfl rfl)
theorem dX14_putsBy_46 : decode cX14_putsBy 46 = .ok (.putfield 207, 3) := dk_181 0 207 (dk_at dksX14_putsBy_2 0 rfl rfl)
theorem dX14_putsBy_49 : decode cX14_putsBy 49 = .ok (.iconst 0, 1) := dk_3 (dk_at dksX14_putsBy_2 3 rfl rfl)
theorem dX14_putsBy_50 : decode cX14_putsBy 50 = .ok (.istore_n 1, 1) := dk_60 (dk_at dksX14_putsBy_2 4 rfl rfl)
theorem dX14_putsBy_51 : decode cX14_putsBy 51 = .ok (.iload_n 1, 1) := dk_27 (dk_at dksX14_putsBy_2 5 rfl rfl)
theorem dX14_putsBy_52 : decode cX14_putsBy 52 = .ok (.bipush 117, 2) := dk_16 117 (dk_at dksX14_putsBy_2 6 rfl rfl)
theorem dX14_putsBy_54 : decode cX14_putsBy 54 = .ok (.if_icmp .ge 29, 3) := dk_162 0 29 (dk_at dksX14_putsBy_2 8 rfl rfl)
theorem dX14_putsBy_57 : decode cX14_putsBy 57 = .ok (.aload_n 0, 1) := dk_42 (dk_at dksX14_putsBy_2 11 rfl rfl)
theorem dX14_putsBy_58 : decode cX14_putsBy 58 = .ok (.getfield 74, 3) := dk_180 0 74 (dk_at dksX14_putsBy_2 12 rfl rfl)
theorem dX14_putsBy_61 : decode cX14_putsBy 61 = .ok (.bipush 117, 2) := dk_16 117 (dk_at dksX14_putsBy_2 15 rfl rfl)
theorem dX14_putsBy_63 : decode cX14_putsBy 63 = .ok (.aload_n 0, 1) := dk_42 (dk_at dksX14_putsBy_2 17 rfl rfl)
theorem dX14_putsBy_64 : decode cX14_putsBy 64 = .ok (.getfield 207, 3) := dk_180 0 207 (dk_at dksX14_putsBy_2 18 rfl rfl)
theorem dX14_putsBy_67 : decode cX14_putsBy 67 = .ok (.imul, 1) := dk_104 (dk_at dksX14_putsBy_2 21 rfl rfl)
theorem dX14_putsBy_68 : decode cX14_putsBy 68 = .ok (.iload_n 1, 1) := dk_27 (dk_at dksX14_putsBy_2 22 rfl rfl)
theorem dX14_putsBy_69 : decode cX14_putsBy 69 = .ok (.iadd, 1) := dk_96 (dk_at dksX14_putsBy_2 23 rfl rfl)
theorem dX14_putsBy_70 : decode cX14_putsBy 70 = .ok (.aload_n 0, 1) := dk_42 (dk_at dksX14_putsBy_3 0 rfl rfl)
theorem dX14_putsBy_71 : decode cX14_putsBy 71 = .ok (.getfield 44, 3) := dk_180 0 44 (dk_at dksX14_putsBy_3 1 rfl rfl)
theorem dX14_putsBy_74 : decode cX14_putsBy 74 = .ok (.iload_n 1, 1) := dk_27 (dk_at dksX14_putsBy_3 4 rfl rfl)
theorem dX14_putsBy_75 : decode cX14_putsBy 75 = .ok (.iaload, 1) := dk_46 (dk_at dksX14_putsBy_3 5 rfl rfl)
theorem dX14_putsBy_76 : decode cX14_putsBy 76 = .ok (.iastore, 1) := dk_79 (dk_at dksX14_putsBy_3 6 rfl rfl)
theorem dX14_putsBy_77 : decode cX14_putsBy 77 = .ok (.iinc 1 1, 3) := dk_132 1 1 (dk_at dksX14_putsBy_3 7 rfl rfl)
theorem dX14_putsBy_80 : decode cX14_putsBy 80 = .ok (.goto (-29), 3) := dk_167 255 227 (dk_at dksX14_putsBy_3 10 rfl rfl)
theorem dX14_putsBy_83 : decode cX14_putsBy 83 = .ok (.aload_n 0, 1) := dk_42 (dk_at dksX14_putsBy_3 13 rfl rfl)
theorem dX14_putsBy_84 : decode cX14_putsBy 84 = .ok (.dup, 1) := dk_89 (dk_at dksX14_putsBy_3 14 rfl rfl)
theorem dX14_putsBy_85 : decode cX14_putsBy 85 = .ok (.getfield 207, 3) := dk_180 0 207 (dk_at dksX14_putsBy_3 15 rfl rfl)
theorem dX14_putsBy_88 : decode cX14_putsBy 88 = .ok (.iconst 1, 1) := dk_4 (dk_at dksX14_putsBy_3 18 rfl rfl)
theorem dX14_putsBy_89 : decode cX14_putsBy 89 = .ok (.iadd, 1) := dk_96 (dk_at dksX14_putsBy_3 19 rfl rfl)
theorem dX14_putsBy_90 : decode cX14_putsBy 90 = .ok (.putfield 207, 3) := dk_181 0 207 (dk_at dksX14_putsBy_3 20 rfl rfl)
theorem dX14_putsBy_93 : decode cX14_putsBy 93 = .ok (.return_, 1) := dk_177 (dk_at dksX14_putsBy_3 23 rfl rfl)
def dkwX14_goes_11 : List UInt8 := [184, 0, 141, 184, 0, 254, 79, 132, 4, 1, 167, 255, 180, 43, 16, 19, 92, 46, 4, 96, 79, 177]
abbrev dktX14_goes_11 : List UInt8 := dkwX14_goes_11 ++ []
def dkwX14_goes_10 : List UInt8 := [180, 0, 35, 16, 6, 21, 4, 104, 43, 16, 19, 46, 42, 180, 0, 38, 21, 4, 46, 112, 96, 46, 96]
abbrev dktX14_goes_10 : List UInt8 := dkwX14_goes_10 ++ dktX14_goes_11
def dkwX14_goes_9 : List UInt8 := [42, 180, 0, 38, 21, 4, 46, 158, 0, 45, 43, 21, 4, 4, 17, 3, 231, 43, 21, 4, 46, 42]
abbrev dktX14_goes_9 : List UInt8 := dkwX14_goes_9 ++ dktX14_goes_10
def dkwX14_goes_8 : List UInt8 := [3, 54, 4, 21, 4, 42, 180, 0, 117, 162, 0, 73, 43, 16, 16, 46, 21, 4, 184, 0, 128, 153, 0, 55]
abbrev dktX14_goes_8 : List UInt8 := dkwX14_goes_8 ++ dktX14_goes_9
def dkwX14_goes_7 : List UInt8 := [43, 16, 18, 92, 46, 4, 96, 79, 43, 16, 57, 43, 16, 19, 46, 16, 60, 112, 96, 43, 16, 17, 46, 79]
abbrev dktX14_goes_7 : List UInt8 := dkwX14_goes_7 ++ dktX14_goes_8
def dkwX14_goes_6 : List UInt8 := [16, 18, 3, 79, 43, 16, 17, 46, 155, 0, 24, 43, 16, 8, 43, 16, 17, 46, 96, 92, 46, 4, 96, 79]
abbrev dktX14_goes_6 : List UInt8 := dkwX14_goes_6 ++ dktX14_goes_7
def dkwX14_goes_5 : List UInt8 := [164, 0, 27, 42, 89, 180, 1, 17, 42, 43, 182, 1, 20, 96, 181, 1, 17, 43, 16, 17, 29, 79, 43]
abbrev dktX14_goes_5 : List UInt8 := dkwX14_goes_5 ++ dktX14_goes_6
def dkwX14_goes_4 : List UInt8 := [16, 17, 46, 155, 0, 23, 42, 43, 29, 46, 182, 1, 6, 42, 43, 43, 16, 17, 46, 46, 182, 1, 6]
abbrev dktX14_goes_4 : List UInt8 := dkwX14_goes_4 ++ dktX14_goes_5
def dkwX14_goes_3 : List UInt8 := [182, 1, 6, 164, 0, 8, 21, 4, 167, 0, 4, 29, 62, 132, 4, 1, 167, 255, 173, 29, 155, 0, 54, 43]
abbrev dktX14_goes_3 : List UInt8 := dkwX14_goes_3 ++ dktX14_goes_4
def dkwX14_goes_2 : List UInt8 := [3, 54, 5, 21, 5, 153, 0, 30, 29, 155, 0, 21, 42, 43, 21, 4, 46, 182, 1, 6, 42, 43, 29, 46]
abbrev dktX14_goes_2 : List UInt8 := dkwX14_goes_2 ++ dktX14_goes_3
def dkwX14_goes_1 : List UInt8 := [16, 16, 46, 21, 4, 184, 0, 128, 153, 0, 16, 21, 4, 43, 16, 17, 46, 159, 0, 7, 4, 167, 0, 4]
abbrev dktX14_goes_1 : List UInt8 := dkwX14_goes_1 ++ dktX14_goes_2
def dkwX14_goes_0 : List UInt8 := [2, 62, 3, 54, 4, 21, 4, 42, 180, 0, 117, 162, 0, 80, 28, 21, 4, 184, 0, 128, 153, 0, 28, 43]
abbrev dktX14_goes_0 : List UInt8 := dkwX14_goes_0 ++ dktX14_goes_1
theorem dksX14_goes_0 : cX14_goes.data.toList.drop 0 = dktX14_goes_0 := by decide +kernel
theorem dksX14_goes_1 : cX14_goes.data.toList.drop 24 = dktX14_goes_1 := dk_seg dksX14_goes_0 24 rfl rfl
theorem dksX14_goes_2 : cX14_goes.data.toList.drop 48 = dktX14_goes_2 := dk_seg dksX14_goes_1 24 rfl rfl
theorem dksX14_goes_3 : cX14_goes.data.toList.drop 72 = dktX14_goes_3 := dk_seg dksX14_goes_2 24 rfl rfl
theorem dksX14_goes_4 : cX14_goes.data.toList.drop 96 = dktX14_goes_4 := dk_seg dksX14_goes_3 24 rfl rfl
theorem dksX14_goes_5 : cX14_goes.data.toList.drop 119 = dktX14_goes_5 := dk_seg dksX14_goes_4 23 rfl rfl
theorem dksX14_goes_6 : cX14_goes.data.toList.drop 142 = dktX14_goes_6 := dk_seg dksX14_goes_5 23 rfl rfl
theorem dksX14_goes_7 : cX14_goes.data.toList.drop 166 = dktX14_goes_7 := dk_seg dksX14_goes_6 24 rfl rfl
theorem dksX14_goes_8 : cX14_goes.data.toList.drop 190 = dktX14_goes_8 := dk_seg dksX14_goes_7 24 rfl rfl
theorem dksX14_goes_9 : cX14_goes.data.toList.drop 214 = dktX14_goes_9 := dk_seg dksX14_goes_8 24 rfl rfl
theorem dksX14_goes_10 : cX14_goes.data.toList.drop 236 = dktX14_goes_10 := dk_seg dksX14_goes_9 22 rfl rfl
theorem dksX14_goes_11 : cX14_goes.data.toList.drop 259 = dktX14_goes_11 := dk_seg dksX14_goes_10 23 rfl rfl
theorem dX14_goes_0 : decode cX14_goes 0 = .ok (.iconst (-1), 1) := dk_2 (dk_at dksX14_goes_0 0 rfl rfl)
theorem dX14_goes_1 : decode cX14_goes 1 = .ok (.istore_n 3, 1) := dk_62 (dk_at dksX14_goes_0 1 rfl rfl)
theorem dX14_goes_2 : decode cX14_goes 2 = .ok (.iconst 0, 1) := dk_3 (dk_at dksX14_goes_0 2 rfl rfl)
theorem dX14_goes_3 : decode cX14_goes 3 = .ok (.istore 4, 2) := dk_54 4 (dk_at dksX14_goes_0 3 rfl rfl)
theorem dX14_goes_5 : decode cX14_goes 5 = .ok (.iload 4, 2) := dk_21 4 (dk_at dksX14_goes_0 5 rfl rfl)
theorem dX14_goes_7 : decode cX14_goes 7 = .ok (.aload_n 0, 1) := dk_42 (dk_at dksX14_goes_0 7 rfl rfl)
theorem dX14_goes_8 : decode cX14_goes 8 = .ok (.getfield 117, 3) := dk_180 0 117 (dk_at dksX14_goes_0 8 rfl rfl)
theorem dX14_goes_11 : decode cX14_goes 11 = .ok (.if_icmp .ge 80, 3) := dk_162 0 80 (dk_at dksX14_goes_0 11 rfl rfl)
theorem dX14_goes_14 : decode cX14_goes 14 = .ok (.iload_n 2, 1) := dk_28 (dk_at dksX14_goes_0 14 rfl rfl)
theorem dX14_goes_15 : decode cX14_goes 15 = .ok (.iload 4, 2) := dk_21 4 (dk_at dksX14_goes_0 15 rfl rfl)
theorem dX14_goes_17 : decode cX14_goes 17 = .ok (.invokestatic 128, 3) := dk_184 0 128 (dk_at dksX14_goes_0 17 rfl rfl)
theorem dX14_goes_20 : decode cX14_goes 20 = .ok (.ifCond .eq 28, 3) := dk_153 0 28 (dk_at dksX14_goes_0 20 rfl rfl)
theorem dX14_goes_23 : decode cX14_goes 23 = .ok (.aload_n 1, 1) := dk_43 (dk_at dksX14_goes_0 23 rfl rfl)
theorem dX14_goes_24 : decode cX14_goes 24 = .ok (.bipush 16, 2) := dk_16 16 (dk_at dksX14_goes_1 0 rfl rfl)
theorem dX14_goes_26 : decode cX14_goes 26 = .ok (.iaload, 1) := dk_46 (dk_at dksX14_goes_1 2 rfl rfl)
theorem dX14_goes_27 : decode cX14_goes 27 = .ok (.iload 4, 2) := dk_21 4 (dk_at dksX14_goes_1 3 rfl rfl)
theorem dX14_goes_29 : decode cX14_goes 29 = .ok (.invokestatic 128, 3) := dk_184 0 128 (dk_at dksX14_goes_1 5 rfl rfl)
theorem dX14_goes_32 : decode cX14_goes 32 = .ok (.ifCond .eq 16, 3) := dk_153 0 16 (dk_at dksX14_goes_1 8 rfl rfl)
theorem dX14_goes_35 : decode cX14_goes 35 = .ok (.iload 4, 2) := dk_21 4 (dk_at dksX14_goes_1 11 rfl rfl)
theorem dX14_goes_37 : decode cX14_goes 37 = .ok (.aload_n 1, 1) := dk_43 (dk_at dksX14_goes_1 13 rfl rfl)
theorem dX14_goes_38 : decode cX14_goes 38 = .ok (.bipush 17, 2) := dk_16 17 (dk_at dksX14_goes_1 14 rfl rfl)
theorem dX14_goes_40 : decode cX14_goes 40 = .ok (.iaload, 1) := dk_46 (dk_at dksX14_goes_1 16 rfl rfl)
theorem dX14_goes_41 : decode cX14_goes 41 = .ok (.if_icmp .eq 7, 3) := dk_159 0 7 (dk_at dksX14_goes_1 17 rfl rfl)
theorem dX14_goes_44 : decode cX14_goes 44 = .ok (.iconst 1, 1) := dk_4 (dk_at dksX14_goes_1 20 rfl rfl)
theorem dX14_goes_45 : decode cX14_goes 45 = .ok (.goto 4, 3) := dk_167 0 4 (dk_at dksX14_goes_1 21 rfl rfl)
theorem dX14_goes_48 : decode cX14_goes 48 = .ok (.iconst 0, 1) := dk_3 (dk_at dksX14_goes_2 0 rfl rfl)
theorem dX14_goes_49 : decode cX14_goes 49 = .ok (.istore 5, 2) := dk_54 5 (dk_at dksX14_goes_2 1 rfl rfl)
theorem dX14_goes_51 : decode cX14_goes 51 = .ok (.iload 5, 2) := dk_21 5 (dk_at dksX14_goes_2 3 rfl rfl)
theorem dX14_goes_53 : decode cX14_goes 53 = .ok (.ifCond .eq 30, 3) := dk_153 0 30 (dk_at dksX14_goes_2 5 rfl rfl)
theorem dX14_goes_56 : decode cX14_goes 56 = .ok (.iload_n 3, 1) := dk_29 (dk_at dksX14_goes_2 8 rfl rfl)
theorem dX14_goes_57 : decode cX14_goes 57 = .ok (.ifCond .lt 21, 3) := dk_155 0 21 (dk_at dksX14_goes_2 9 rfl rfl)
theorem dX14_goes_60 : decode cX14_goes 60 = .ok (.aload_n 0, 1) := dk_42 (dk_at dksX14_goes_2 12 rfl rfl)
theorem dX14_goes_61 : decode cX14_goes 61 = .ok (.aload_n 1, 1) := dk_43 (dk_at dksX14_goes_2 13 rfl rfl)
theorem dX14_goes_62 : decode cX14_goes 62 = .ok (.iload 4, 2) := dk_21 4 (dk_at dksX14_goes_2 14 rfl rfl)
theorem dX14_goes_64 : decode cX14_goes 64 = .ok (.iaload, 1) := dk_46 (dk_at dksX14_goes_2 16 rfl rfl)
theorem dX14_goes_65 : decode cX14_goes 65 = .ok (.invokevirtual 262, 3) := dk_182 1 6 (dk_at dksX14_goes_2 17 rfl rfl)
theorem dX14_goes_68 : decode cX14_goes 68 = .ok (.aload_n 0, 1) := dk_42 (dk_at dksX14_goes_2 20 rfl rfl)
theorem dX14_goes_69 : decode cX14_goes 69 = .ok (.aload_n 1, 1) := dk_43 (dk_at dksX14_goes_2 21 rfl rfl)
theorem dX14_goes_70 : decode cX14_goes 70 = .ok (.iload_n 3, 1) := dk_29 (dk_at dksX14_goes_2 22 rfl rfl)
theorem dX14_goes_71 : decode cX14_goes 71 = .ok (.iaload, 1) := dk_46 (dk_at dksX14_goes_2 23 rfl rfl)
theorem dX14_goes_72 : decode cX14_goes 72 = .ok (.invokevirtual 262, 3) := dk_182 1 6 (dk_at dksX14_goes_3 0 rfl rfl)
theorem dX14_goes_75 : decode cX14_goes 75 = .ok (.if_icmp .le 8, 3) := dk_164 0 8 (dk_at dksX14_goes_3 3 rfl rfl)
theorem dX14_goes_78 : decode cX14_goes 78 = .ok (.iload 4, 2) := dk_21 4 (dk_at dksX14_goes_3 6 rfl rfl)
theorem dX14_goes_80 : decode cX14_goes 80 = .ok (.goto 4, 3) := dk_167 0 4 (dk_at dksX14_goes_3 8 rfl rfl)
theorem dX14_goes_83 : decode cX14_goes 83 = .ok (.iload_n 3, 1) := dk_29 (dk_at dksX14_goes_3 11 rfl rfl)
theorem dX14_goes_84 : decode cX14_goes 84 = .ok (.istore_n 3, 1) := dk_62 (dk_at dksX14_goes_3 12 rfl rfl)
theorem dX14_goes_85 : decode cX14_goes 85 = .ok (.iinc 4 1, 3) := dk_132 4 1 (dk_at dksX14_goes_3 13 rfl rfl)
theorem dX14_goes_88 : decode cX14_goes 88 = .ok (.goto (-83), 3) := dk_167 255 173 (dk_at dksX14_goes_3 16 rfl rfl)
theorem dX14_goes_91 : decode cX14_goes 91 = .ok (.iload_n 3, 1) := dk_29 (dk_at dksX14_goes_3 19 rfl rfl)
theorem dX14_goes_92 : decode cX14_goes 92 = .ok (.ifCond .lt 54, 3) := dk_155 0 54 (dk_at dksX14_goes_3 20 rfl rfl)
theorem dX14_goes_95 : decode cX14_goes 95 = .ok (.aload_n 1, 1) := dk_43 (dk_at dksX14_goes_3 23 rfl rfl)
theorem dX14_goes_96 : decode cX14_goes 96 = .ok (.bipush 17, 2) := dk_16 17 (dk_at dksX14_goes_4 0 rfl rfl)
theorem dX14_goes_98 : decode cX14_goes 98 = .ok (.iaload, 1) := dk_46 (dk_at dksX14_goes_4 2 rfl rfl)
theorem dX14_goes_99 : decode cX14_goes 99 = .ok (.ifCond .lt 23, 3) := dk_155 0 23 (dk_at dksX14_goes_4 3 rfl rfl)
theorem dX14_goes_102 : decode cX14_goes 102 = .ok (.aload_n 0, 1) := dk_42 (dk_at dksX14_goes_4 6 rfl rfl)
theorem dX14_goes_103 : decode cX14_goes 103 = .ok (.aload_n 1, 1) := dk_43 (dk_at dksX14_goes_4 7 rfl rfl)
theorem dX14_goes_104 : decode cX14_goes 104 = .ok (.iload_n 3, 1) := dk_29 (dk_at dksX14_goes_4 8 rfl rfl)
theorem dX14_goes_105 : decode cX14_goes 105 = .ok (.iaload, 1) := dk_46 (dk_at dksX14_goes_4 9 rfl rfl)
theorem dX14_goes_106 : decode cX14_goes 106 = .ok (.invokevirtual 262, 3) := dk_182 1 6 (dk_at dksX14_goes_4 10 rfl rfl)
theorem dX14_goes_109 : decode cX14_goes 109 = .ok (.aload_n 0, 1) := dk_42 (dk_at dksX14_goes_4 13 rfl rfl)
theorem dX14_goes_110 : decode cX14_goes 110 = .ok (.aload_n 1, 1) := dk_43 (dk_at dksX14_goes_4 14 rfl rfl)
theorem dX14_goes_111 : decode cX14_goes 111 = .ok (.aload_n 1, 1) := dk_43 (dk_at dksX14_goes_4 15 rfl rfl)
theorem dX14_goes_112 : decode cX14_goes 112 = .ok (.bipush 17, 2) := dk_16 17 (dk_at dksX14_goes_4 16 rfl rfl)
theorem dX14_goes_114 : decode cX14_goes 114 = .ok (.iaload, 1) := dk_46 (dk_at dksX14_goes_4 18 rfl rfl)
theorem dX14_goes_115 : decode cX14_goes 115 = .ok (.iaload, 1) := dk_46 (dk_at dksX14_goes_4 19 rfl rfl)
theorem dX14_goes_116 : decode cX14_goes 116 = .ok (.invokevirtual 262, 3) := dk_182 1 6 (dk_at dksX14_goes_4 20 rfl rfl)
theorem dX14_goes_119 : decode cX14_goes 119 = .ok (.if_icmp .le 27, 3) := dk_164 0 27 (dk_at dksX14_goes_5 0 rfl rfl)
theorem dX14_goes_122 : decode cX14_goes 122 = .ok (.aload_n 0, 1) := dk_42 (dk_at dksX14_goes_5 3 rfl rfl)
theorem dX14_goes_123 : decode cX14_goes 123 = .ok (.dup, 1) := dk_89 (dk_at dksX14_goes_5 4 rfl rfl)
theorem dX14_goes_124 : decode cX14_goes 124 = .ok (.getfield 273, 3) := dk_180 1 17 (dk_at dksX14_goes_5 5 rfl rfl)
theorem dX14_goes_127 : decode cX14_goes 127 = .ok (.aload_n 0, 1) := dk_42 (dk_at dksX14_goes_5 8 rfl rfl)
theorem dX14_goes_128 : decode cX14_goes 128 = .ok (.aload_n 1, 1) := dk_43 (dk_at dksX14_goes_5 9 rfl rfl)
theorem dX14_goes_129 : decode cX14_goes 129 = .ok (.invokevirtual 276, 3) := dk_182 1 20 (dk_at dksX14_goes_5 10 rfl rfl)
theorem dX14_goes_132 : decode cX14_goes 132 = .ok (.iadd, 1) := dk_96 (dk_at dksX14_goes_5 13 rfl rfl)
theorem dX14_goes_133 : decode cX14_goes 133 = .ok (.putfield 273, 3) := dk_181 1 17 (dk_at dksX14_goes_5 14 rfl rfl)
theorem dX14_goes_136 : decode cX14_goes 136 = .ok (.aload_n 1, 1) := dk_43 (dk_at dksX14_goes_5 17 rfl rfl)
theorem dX14_goes_137 : decode cX14_goes 137 = .ok (.bipush 17, 2) := dk_16 17 (dk_at dksX14_goes_5 18 rfl rfl)
theorem dX14_goes_139 : decode cX14_goes 139 = .ok (.iload_n 3, 1) := dk_29 (dk_at dksX14_goes_5 20 rfl rfl)
theorem dX14_goes_140 : decode cX14_goes 140 = .ok (.iastore, 1) := dk_79 (dk_at dksX14_goes_5 21 rfl rfl)
theorem dX14_goes_141 : decode cX14_goes 141 = .ok (.aload_n 1, 1) := dk_43 (dk_at dksX14_goes_5 22 rfl rfl)
theorem dX14_goes_142 : decode cX14_goes 142 = .ok (.bipush 18, 2) := dk_16 18 (dk_at dksX14_goes_6 0 rfl rfl)
theorem dX14_goes_144 : decode cX14_goes 144 = .ok (.iconst 0, 1) := dk_3 (dk_at dksX14_goes_6 2 rfl rfl)
theorem dX14_goes_145 : decode cX14_goes 145 = .ok (.iastore, 1) := dk_79 (dk_at dksX14_goes_6 3 rfl rfl)
theorem dX14_goes_146 : decode cX14_goes 146 = .ok (.aload_n 1, 1) := dk_43 (dk_at dksX14_goes_6 4 rfl rfl)
theorem dX14_goes_147 : decode cX14_goes 147 = .ok (.bipush 17, 2) := dk_16 17 (dk_at dksX14_goes_6 5 rfl rfl)
theorem dX14_goes_149 : decode cX14_goes 149 = .ok (.iaload, 1) := dk_46 (dk_at dksX14_goes_6 7 rfl rfl)
theorem dX14_goes_150 : decode cX14_goes 150 = .ok (.ifCond .lt 24, 3) := dk_155 0 24 (dk_at dksX14_goes_6 8 rfl rfl)
theorem dX14_goes_153 : decode cX14_goes 153 = .ok (.aload_n 1, 1) := dk_43 (dk_at dksX14_goes_6 11 rfl rfl)
theorem dX14_goes_154 : decode cX14_goes 154 = .ok (.bipush 8, 2) := dk_16 8 (dk_at dksX14_goes_6 12 rfl rfl)
theorem dX14_goes_156 : decode cX14_goes 156 = .ok (.aload_n 1, 1) := dk_43 (dk_at dksX14_goes_6 14 rfl rfl)
theorem dX14_goes_157 : decode cX14_goes 157 = .ok (.bipush 17, 2) := dk_16 17 (dk_at dksX14_goes_6 15 rfl rfl)
theorem dX14_goes_159 : decode cX14_goes 159 = .ok (.iaload, 1) := dk_46 (dk_at dksX14_goes_6 17 rfl rfl)
theorem dX14_goes_160 : decode cX14_goes 160 = .ok (.iadd, 1) := dk_96 (dk_at dksX14_goes_6 18 rfl rfl)
theorem dX14_goes_161 : decode cX14_goes 161 = .ok (.dup2, 1) := dk_92 (dk_at dksX14_goes_6 19 rfl rfl)
theorem dX14_goes_162 : decode cX14_goes 162 = .ok (.iaload, 1) := dk_46 (dk_at dksX14_goes_6 20 rfl rfl)
theorem dX14_goes_163 : decode cX14_goes 163 = .ok (.iconst 1, 1) := dk_4 (dk_at dksX14_goes_6 21 rfl rfl)
theorem dX14_goes_164 : decode cX14_goes 164 = .ok (.iadd, 1) := dk_96 (dk_at dksX14_goes_6 22 rfl rfl)
theorem dX14_goes_165 : decode cX14_goes 165 = .ok (.iastore, 1) := dk_79 (dk_at dksX14_goes_6 23 rfl rfl)
theorem dX14_goes_166 : decode cX14_goes 166 = .ok (.aload_n 1, 1) := dk_43 (dk_at dksX14_goes_7 0 rfl rfl)
theorem dX14_goes_167 : decode cX14_goes 167 = .ok (.bipush 18, 2) := dk_16 18 (dk_at dksX14_goes_7 1 rfl rfl)
theorem dX14_goes_169 : decode cX14_goes 169 = .ok (.dup2, 1) := dk_92 (dk_at dksX14_goes_7 3 rfl rfl)
theorem dX14_goes_170 : decode cX14_goes 170 = .ok (.iaload, 1) := dk_46 (dk_at dksX14_goes_7 4 rfl rfl)
theorem dX14_goes_171 : decode cX14_goes 171 = .ok (.iconst 1, 1) := dk_4 (dk_at dksX14_goes_7 5 rfl rfl)
theorem dX14_goes_172 : decode cX14_goes 172 = .ok (.iadd, 1) := dk_96 (dk_at dksX14_goes_7 6 rfl rfl)
theorem dX14_goes_173 : decode cX14_goes 173 = .ok (.iastore, 1) := dk_79 (dk_at dksX14_goes_7 7 rfl rfl)
theorem dX14_goes_174 : decode cX14_goes 174 = .ok (.aload_n 1, 1) := dk_43 (dk_at dksX14_goes_7 8 rfl rfl)
theorem dX14_goes_175 : decode cX14_goes 175 = .ok (.bipush 57, 2) := dk_16 57 (dk_at dksX14_goes_7 9 rfl rfl)
theorem dX14_goes_177 : decode cX14_goes 177 = .ok (.aload_n 1, 1) := dk_43 (dk_at dksX14_goes_7 11 rfl rfl)
theorem dX14_goes_178 : decode cX14_goes 178 = .ok (.bipush 19, 2) := dk_16 19 (dk_at dksX14_goes_7 12 rfl rfl)
theorem dX14_goes_180 : decode cX14_goes 180 = .ok (.iaload, 1) := dk_46 (dk_at dksX14_goes_7 14 rfl rfl)
theorem dX14_goes_181 : decode cX14_goes 181 = .ok (.bipush 60, 2) := dk_16 60 (dk_at dksX14_goes_7 15 rfl rfl)
theorem dX14_goes_183 : decode cX14_goes 183 = .ok (.irem, 1) := dk_112 (dk_at dksX14_goes_7 17 rfl rfl)
theorem dX14_goes_184 : decode cX14_goes 184 = .ok (.iadd, 1) := dk_96 (dk_at dksX14_goes_7 18 rfl rfl)
theorem dX14_goes_185 : decode cX14_goes 185 = .ok (.aload_n 1, 1) := dk_43 (dk_at dksX14_goes_7 19 rfl rfl)
theorem dX14_goes_186 : decode cX14_goes 186 = .ok (.bipush 17, 2) := dk_16 17 (dk_at dksX14_goes_7 20 rfl rfl)
theorem dX14_goes_188 : decode cX14_goes 188 = .ok (.iaload, 1) := dk_46 (dk_at dksX14_goes_7 22 rfl rfl)
theorem dX14_goes_189 : decode cX14_goes 189 = .ok (.iastore, 1) := dk_79 (dk_at dksX14_goes_7 23 rfl rfl)
theorem dX14_goes_190 : decode cX14_goes 190 = .ok (.iconst 0, 1) := dk_3 (dk_at dksX14_goes_8 0 rfl rfl)
theorem dX14_goes_191 : decode cX14_goes 191 = .ok (.istore 4, 2) := dk_54 4 (dk_at dksX14_goes_8 1 rfl rfl)
theorem dX14_goes_193 : decode cX14_goes 193 = .ok (.iload 4, 2) := dk_21 4 (dk_at dksX14_goes_8 3 rfl rfl)
theorem dX14_goes_195 : decode cX14_goes 195 = .ok (.aload_n 0, 1) := dk_42 (dk_at dksX14_goes_8 5 rfl rfl)
theorem dX14_goes_196 : decode cX14_goes 196 = .ok (.getfield 117, 3) := dk_180 0 117 (dk_at dksX14_goes_8 6 rfl rfl)
theorem dX14_goes_199 : decode cX14_goes 199 = .ok (.if_icmp .ge 73, 3) := dk_162 0 73 (dk_at dksX14_goes_8 9 rfl rfl)
theorem dX14_goes_202 : decode cX14_goes 202 = .ok (.aload_n 1, 1) := dk_43 (dk_at dksX14_goes_8 12 rfl rfl)
theorem dX14_goes_203 : decode cX14_goes 203 = .ok (.bipush 16, 2) := dk_16 16 (dk_at dksX14_goes_8 13 rfl rfl)
theorem dX14_goes_205 : decode cX14_goes 205 = .ok (.iaload, 1) := dk_46 (dk_at dksX14_goes_8 15 rfl rfl)
theorem dX14_goes_206 : decode cX14_goes 206 = .ok (.iload 4, 2) := dk_21 4 (dk_at dksX14_goes_8 16 rfl rfl)
theorem dX14_goes_208 : decode cX14_goes 208 = .ok (.invokestatic 128, 3) := dk_184 0 128 (dk_at dksX14_goes_8 18 rfl rfl)
theorem dX14_goes_211 : decode cX14_goes 211 = .ok (.ifCond .eq 55, 3) := dk_153 0 55 (dk_at dksX14_goes_8 21 rfl rfl)
theorem dX14_goes_214 : decode cX14_goes 214 = .ok (.aload_n 0, 1) := dk_42 (dk_at dksX14_goes_9 0 rfl rfl)
theorem dX14_goes_215 : decode cX14_goes 215 = .ok (.getfield 38, 3) := dk_180 0 38 (dk_at dksX14_goes_9 1 rfl rfl)
theorem dX14_goes_218 : decode cX14_goes 218 = .ok (.iload 4, 2) := dk_21 4 (dk_at dksX14_goes_9 4 rfl rfl)
theorem dX14_goes_220 : decode cX14_goes 220 = .ok (.iaload, 1) := dk_46 (dk_at dksX14_goes_9 6 rfl rfl)
theorem dX14_goes_221 : decode cX14_goes 221 = .ok (.ifCond .le 45, 3) := dk_158 0 45 (dk_at dksX14_goes_9 7 rfl rfl)
theorem dX14_goes_224 : decode cX14_goes 224 = .ok (.aload_n 1, 1) := dk_43 (dk_at dksX14_goes_9 10 rfl rfl)
theorem dX14_goes_225 : decode cX14_goes 225 = .ok (.iload 4, 2) := dk_21 4 (dk_at dksX14_goes_9 11 rfl rfl)
theorem dX14_goes_227 : decode cX14_goes 227 = .ok (.iconst 1, 1) := dk_4 (dk_at dksX14_goes_9 13 rfl rfl)
theorem dX14_goes_228 : decode cX14_goes 228 = .ok (.sipush 999, 3) := dk_17 3 231 (dk_at dksX14_goes_9 14 rfl rfl)
theorem dX14_goes_231 : decode cX14_goes 231 = .ok (.aload_n 1, 1) := dk_43 (dk_at dksX14_goes_9 17 rfl rfl)
theorem dX14_goes_232 : decode cX14_goes 232 = .ok (.iload 4, 2) := dk_21 4 (dk_at dksX14_goes_9 18 rfl rfl)
theorem dX14_goes_234 : decode cX14_goes 234 = .ok (.iaload, 1) := dk_46 (dk_at dksX14_goes_9 20 rfl rfl)
theorem dX14_goes_235 : decode cX14_goes 235 = .ok (.aload_n 0, 1) := dk_42 (dk_at dksX14_goes_9 21 rfl rfl)
theorem dX14_goes_236 : decode cX14_goes 236 = .ok (.getfield 35, 3) := dk_180 0 35 (dk_at dksX14_goes_10 0 rfl rfl)
theorem dX14_goes_239 : decode cX14_goes 239 = .ok (.bipush 6, 2) := dk_16 6 (dk_at dksX14_goes_10 3 rfl rfl)
theorem dX14_goes_241 : decode cX14_goes 241 = .ok (.iload 4, 2) := dk_21 4 (dk_at dksX14_goes_10 5 rfl rfl)
theorem dX14_goes_243 : decode cX14_goes 243 = .ok (.imul, 1) := dk_104 (dk_at dksX14_goes_10 7 rfl rfl)
theorem dX14_goes_244 : decode cX14_goes 244 = .ok (.aload_n 1, 1) := dk_43 (dk_at dksX14_goes_10 8 rfl rfl)
theorem dX14_goes_245 : decode cX14_goes 245 = .ok (.bipush 19, 2) := dk_16 19 (dk_at dksX14_goes_10 9 rfl rfl)
theorem dX14_goes_247 : decode cX14_goes 247 = .ok (.iaload, 1) := dk_46 (dk_at dksX14_goes_10 11 rfl rfl)
theorem dX14_goes_248 : decode cX14_goes 248 = .ok (.aload_n 0, 1) := dk_42 (dk_at dksX14_goes_10 12 rfl rfl)
theorem dX14_goes_249 : decode cX14_goes 249 = .ok (.getfield 38, 3) := dk_180 0 38 (dk_at dksX14_goes_10 13 rfl rfl)
theorem dX14_goes_252 : decode cX14_goes 252 = .ok (.iload 4, 2) := dk_21 4 (dk_at dksX14_goes_10 16 rfl rfl)
theorem dX14_goes_254 : decode cX14_goes 254 = .ok (.iaload, 1) := dk_46 (dk_at dksX14_goes_10 18 rfl rfl)
theorem dX14_goes_255 : decode cX14_goes 255 = .ok (.irem, 1) := dk_112 (dk_at dksX14_goes_10 19 rfl rfl)
theorem dX14_goes_256 : decode cX14_goes 256 = .ok (.iadd, 1) := dk_96 (dk_at dksX14_goes_10 20 rfl rfl)
theorem dX14_goes_257 : decode cX14_goes 257 = .ok (.iaload, 1) := dk_46 (dk_at dksX14_goes_10 21 rfl rfl)
theorem dX14_goes_258 : decode cX14_goes 258 = .ok (.iadd, 1) := dk_96 (dk_at dksX14_goes_10 22 rfl rfl)
theorem dX14_goes_259 : decode cX14_goes 259 = .ok (.invokestatic 141, 3) := dk_184 0 141 (dk_at dksX14_goes_11 0 rfl rfl)
theorem dX14_goes_262 : decode cX14_goes 262 = .ok (.invokestatic 254, 3) := dk_184 0 254 (dk_at dksX14_goes_11 3 rfl rfl)
theorem dX14_goes_265 : decode cX14_goes 265 = .ok (.iastore, 1) := dk_79 (dk_at dksX14_goes_11 6 rfl rfl)
theorem dX14_goes_266 : decode cX14_goes 266 = .ok (.iinc 4 1, 3) := dk_132 4 1 (dk_at dksX14_goes_11 7 rfl rfl)
theorem dX14_goes_269 : decode cX14_goes 269 = .ok (.goto (-76), 3) := dk_167 255 180 (dk_at dksX14_goes_11 10 rfl rfl)
theorem dX14_goes_272 : decode cX14_goes 272 = .ok (.aload_n 1, 1) := dk_43 (dk_at dksX14_goes_11 13 rfl rfl)
theorem dX14_goes_273 : decode cX14_goes 273 = .ok (.bipush 19, 2) := dk_16 19 (dk_at dksX14_goes_11 14 rfl rfl)
theorem dX14_goes_275 : decode cX14_goes 275 = .ok (.dup2, 1) := dk_92 (dk_at dksX14_goes_11 16 rfl rfl)
theorem dX14_goes_276 : decode cX14_goes 276 = .ok (.iaload, 1) := dk_46 (dk_at dksX14_goes_11 17 rfl rfl)
theorem dX14_goes_277 : decode cX14_goes 277 = .ok (.iconst 1, 1) := dk_4 (dk_at dksX14_goes_11 18 rfl rfl)
theorem dX14_goes_278 : decode cX14_goes 278 = .ok (.iadd, 1) := dk_96 (dk_at dksX14_goes_11 19 rfl rfl)
theorem dX14_goes_279 : decode cX14_goes 279 = .ok (.iastore, 1) := dk_79 (dk_at dksX14_goes_11 20 rfl rfl)
theorem dX14_goes_280 : decode cX14_goes 280 = .ok (.return_, 1) := dk_177 (dk_at dksX14_goes_11 21 rfl rfl)
def dkwX14_falls_2 : List UInt8 := [16, 19, 46, 79, 132, 2, 1, 132, 3, 1, 167, 255, 203, 28, 172]
abbrev dktX14_falls_2 : List UInt8 := dkwX14_falls_2 ++ []
def dkwX14_falls_1 : List UInt8 := [46, 43, 16, 17, 46, 160, 0, 25, 43, 16, 45, 29, 96, 46, 156, 0, 16, 43, 16, 45, 29, 96, 43]
abbrev dktX14_falls_1 : List UInt8 := dkwX14_falls_1 ++ dktX14_falls_2
def dkwX14_falls_0 : List UInt8 := [3, 61, 3, 62, 29, 43, 16, 20, 46, 162, 0, 51, 43, 16, 17, 46, 155, 0, 38, 43, 16, 21, 29, 96]
abbrev dktX14_falls_0 : List UInt8 := dkwX14_falls_0 ++ dktX14_falls_1
theorem dksX14_falls_0 : cX14_falls.data.toList.drop 0 = dktX14_falls_0 := by decide +kernel
theorem dksX14_falls_1 : cX14_falls.data.toList.drop 24 = dktX14_falls_1 := dk_seg dksX14_falls_0 24 rfl rfl
theorem dksX14_falls_2 : cX14_falls.data.toList.drop 47 = dktX14_falls_2 := dk_seg dksX14_falls_1 23 rfl rfl
theorem dX14_falls_0 : decode cX14_falls 0 = .ok (.iconst 0, 1) := dk_3 (dk_at dksX14_falls_0 0 rfl rfl)
theorem dX14_falls_1 : decode cX14_falls 1 = .ok (.istore_n 2, 1) := dk_61 (dk_at dksX14_falls_0 1 rfl rfl)
theorem dX14_falls_2 : decode cX14_falls 2 = .ok (.iconst 0, 1) := dk_3 (dk_at dksX14_falls_0 2 rfl rfl)
theorem dX14_falls_3 : decode cX14_falls 3 = .ok (.istore_n 3, 1) := dk_62 (dk_at dksX14_falls_0 3 rfl rfl)
theorem dX14_falls_4 : decode cX14_falls 4 = .ok (.iload_n 3, 1) := dk_29 (dk_at dksX14_falls_0 4 rfl rfl)
theorem dX14_falls_5 : decode cX14_falls 5 = .ok (.aload_n 1, 1) := dk_43 (dk_at dksX14_falls_0 5 rfl rfl)
theorem dX14_falls_6 : decode cX14_falls 6 = .ok (.bipush 20, 2) := dk_16 20 (dk_at dksX14_falls_0 6 rfl rfl)
theorem dX14_falls_8 : decode cX14_falls 8 = .ok (.iaload, 1) := dk_46 (dk_at dksX14_falls_0 8 rfl rfl)
theorem dX14_falls_9 : decode cX14_falls 9 = .ok (.if_icmp .ge 51, 3) := dk_162 0 51 (dk_at dksX14_falls_0 9 rfl rfl)
theorem dX14_falls_12 : decode cX14_falls 12 = .ok (.aload_n 1, 1) := dk_43 (dk_at dksX14_falls_0 12 rfl rfl)
theorem dX14_falls_13 : decode cX14_falls 13 = .ok (.bipush 17, 2) := dk_16 17 (dk_at dksX14_falls_0 13 rfl rfl)
theorem dX14_falls_15 : decode cX14_falls 15 = .ok (.iaload, 1) := dk_46 (dk_at dksX14_falls_0 15 rfl rfl)
theorem dX14_falls_16 : decode cX14_falls 16 = .ok (.ifCond .lt 38, 3) := dk_155 0 38 (dk_at dksX14_falls_0 16 rfl rfl)
theorem dX14_falls_19 : decode cX14_falls 19 = .ok (.aload_n 1, 1) := dk_43 (dk_at dksX14_falls_0 19 rfl rfl)
theorem dX14_falls_20 : decode cX14_falls 20 = .ok (.bipush 21, 2) := dk_16 21 (dk_at dksX14_falls_0 20 rfl rfl)
theorem dX14_falls_22 : decode cX14_falls 22 = .ok (.iload_n 3, 1) := dk_29 (dk_at dksX14_falls_0 22 rfl rfl)
theorem dX14_falls_23 : decode cX14_falls 23 = .ok (.iadd, 1) := dk_96 (dk_at dksX14_falls_0 23 rfl rfl)
theorem dX14_falls_24 : decode cX14_falls 24 = .ok (.iaload, 1) := dk_46 (dk_at dksX14_falls_1 0 rfl rfl)
theorem dX14_falls_25 : decode cX14_falls 25 = .ok (.aload_n 1, 1) := dk_43 (dk_at dksX14_falls_1 1 rfl rfl)
theorem dX14_falls_26 : decode cX14_falls 26 = .ok (.bipush 17, 2) := dk_16 17 (dk_at dksX14_falls_1 2 rfl rfl)
theorem dX14_falls_28 : decode cX14_falls 28 = .ok (.iaload, 1) := dk_46 (dk_at dksX14_falls_1 4 rfl rfl)
theorem dX14_falls_29 : decode cX14_falls 29 = .ok (.if_icmp .ne 25, 3) := dk_160 0 25 (dk_at dksX14_falls_1 5 rfl rfl)
theorem dX14_falls_32 : decode cX14_falls 32 = .ok (.aload_n 1, 1) := dk_43 (dk_at dksX14_falls_1 8 rfl rfl)
theorem dX14_falls_33 : decode cX14_falls 33 = .ok (.bipush 45, 2) := dk_16 45 (dk_at dksX14_falls_1 9 rfl rfl)
theorem dX14_falls_35 : decode cX14_falls 35 = .ok (.iload_n 3, 1) := dk_29 (dk_at dksX14_falls_1 11 rfl rfl)
theorem dX14_falls_36 : decode cX14_falls 36 = .ok (.iadd, 1) := dk_96 (dk_at dksX14_falls_1 12 rfl rfl)
theorem dX14_falls_37 : decode cX14_falls 37 = .ok (.iaload, 1) := dk_46 (dk_at dksX14_falls_1 13 rfl rfl)
theorem dX14_falls_38 : decode cX14_falls 38 = .ok (.ifCond .ge 16, 3) := dk_156 0 16 (dk_at dksX14_falls_1 14 rfl rfl)
theorem dX14_falls_41 : decode cX14_falls 41 = .ok (.aload_n 1, 1) := dk_43 (dk_at dksX14_falls_1 17 rfl rfl)
theorem dX14_falls_42 : decode cX14_falls 42 = .ok (.bipush 45, 2) := dk_16 45 (dk_at dksX14_falls_1 18 rfl rfl)
theorem dX14_falls_44 : decode cX14_falls 44 = .ok (.iload_n 3, 1) := dk_29 (dk_at dksX14_falls_1 20 rfl rfl)
theorem dX14_falls_45 : decode cX14_falls 45 = .ok (.iadd, 1) := dk_96 (dk_at dksX14_falls_1 21 rfl rfl)
theorem dX14_falls_46 : decode cX14_falls 46 = .ok (.aload_n 1, 1) := dk_43 (dk_at dksX14_falls_1 22 rfl rfl)
theorem dX14_falls_47 : decode cX14_falls 47 = .ok (.bipush 19, 2) := dk_16 19 (dk_at dksX14_falls_2 0 rfl rfl)
theorem dX14_falls_49 : decode cX14_falls 49 = .ok (.iaload, 1) := dk_46 (dk_at dksX14_falls_2 2 rfl rfl)
theorem dX14_falls_50 : decode cX14_falls 50 = .ok (.iastore, 1) := dk_79 (dk_at dksX14_falls_2 3 rfl rfl)
theorem dX14_falls_51 : decode cX14_falls 51 = .ok (.iinc 2 1, 3) := dk_132 2 1 (dk_at dksX14_falls_2 4 rfl rfl)
theorem dX14_falls_54 : decode cX14_falls 54 = .ok (.iinc 3 1, 3) := dk_132 3 1 (dk_at dksX14_falls_2 7 rfl rfl)
theorem dX14_falls_57 : decode cX14_falls 57 = .ok (.goto (-53), 3) := dk_167 255 203 (dk_at dksX14_falls_2 10 rfl rfl)
theorem dX14_falls_60 : decode cX14_falls 60 = .ok (.iload_n 2, 1) := dk_28 (dk_at dksX14_falls_2 13 rfl rfl)
theorem dX14_falls_61 : decode cX14_falls 61 = .ok (.ireturn, 1) := dk_172 (dk_at dksX14_falls_2 14 rfl rfl)
def dkwX14_enters_0 : List UInt8 := [42, 180, 0, 11, 42, 180, 0, 15, 31, 80, 42, 89, 180, 0, 15, 4, 96, 181, 0, 15, 177]
abbrev dktX14_enters_0 : List UInt8 := dkwX14_enters_0 ++ []
theorem dksX14_enters_0 : cX14_enters.data.toList.drop 0 = dktX14_enters_0 := by decide +kernel
theorem dX14_enters_0 : decode cX14_enters 0 = .ok (.aload_n 0, 1) := dk_42 (dk_at dksX14_enters_0 0 rfl rfl)
theorem dX14_enters_1 : decode cX14_enters 1 = .ok (.getfield 11, 3) := dk_180 0 11 (dk_at dksX14_enters_0 1 rfl rfl)
theorem dX14_enters_4 : decode cX14_enters 4 = .ok (.aload_n 0, 1) := dk_42 (dk_at dksX14_enters_0 4 rfl rfl)
theorem dX14_enters_5 : decode cX14_enters 5 = .ok (.getfield 15, 3) := dk_180 0 15 (dk_at dksX14_enters_0 5 rfl rfl)
theorem dX14_enters_8 : decode cX14_enters 8 = .ok (.lload_n 1, 1) := dk_31 (dk_at dksX14_enters_0 8 rfl rfl)
theorem dX14_enters_9 : decode cX14_enters 9 = .ok (.lastore, 1) := dk_80 (dk_at dksX14_enters_0 9 rfl rfl)
theorem dX14_enters_10 : decode cX14_enters 10 = .ok (.aload_n 0, 1) := dk_42 (dk_at dksX14_enters_0 10 rfl rfl)
theorem dX14_enters_11 : decode cX14_enters 11 = .ok (.dup, 1) := dk_89 (dk_at dksX14_enters_0 11 rfl rfl)
theorem dX14_enters_12 : decode cX14_enters 12 = .ok (.getfield 15, 3) := dk_180 0 15 (dk_at dksX14_enters_0 12 rfl rfl)
theorem dX14_enters_15 : decode cX14_enters 15 = .ok (.iconst 1, 1) := dk_4 (dk_at dksX14_enters_0 15 rfl rfl)
theorem dX14_enters_16 : decode cX14_enters 16 = .ok (.iadd, 1) := dk_96 (dk_at dksX14_enters_0 16 rfl rfl)
theorem dX14_enters_17 : decode cX14_enters 17 = .ok (.putfield 15, 3) := dk_181 0 15 (dk_at dksX14_enters_0 17 rfl rfl)
theorem dX14_enters_20 : decode cX14_enters 20 = .ok (.return_, 1) := dk_177 (dk_at dksX14_enters_0 20 rfl rfl)
def dkwX14_weeks_5 : List UInt8 := [182, 0, 18, 28, 172]
abbrev dktX14_weeks_5 : List UInt8 := dkwX14_weeks_5 ++ []
def dkwX14_weeks_4 : List UInt8 := [42, 3, 181, 0, 15, 42, 42, 180, 0, 44, 16, 17, 46, 133, 182, 0, 18, 42, 42, 180, 1, 17, 133]
abbrev dktX14_weeks_4 : List UInt8 := dkwX14_weeks_4 ++ dktX14_weeks_5
def dkwX14_weeks_3 : List UInt8 := [16, 17, 46, 21, 4, 159, 0, 7, 4, 167, 0, 4, 3, 184, 0, 150, 96, 61, 132, 3, 1, 167, 255, 200]
abbrev dktX14_weeks_3 : List UInt8 := dkwX14_weeks_3 ++ dktX14_weeks_4
def dkwX14_weeks_2 : List UInt8 := [54, 4, 42, 42, 180, 0, 44, 42, 42, 180, 0, 44, 182, 1, 32, 182, 1, 26, 28, 42, 180, 0, 44]
abbrev dktX14_weeks_2 : List UInt8 := dkwX14_weeks_2 ++ dktX14_weeks_3
def dkwX14_weeks_1 : List UInt8 := [182, 1, 23, 3, 61, 42, 3, 181, 1, 17, 3, 62, 29, 27, 162, 0, 57, 42, 180, 0, 44, 16, 17, 46]
abbrev dktX14_weeks_1 : List UInt8 := dkwX14_weeks_1 ++ dktX14_weeks_2
def dkwX14_weeks_0 : List UInt8 := [42, 3, 181, 0, 3, 27, 133, 9, 20, 1, 30, 184, 0, 120, 154, 0, 5, 2, 172, 27, 158, 0, 7, 42]
abbrev dktX14_weeks_0 : List UInt8 := dkwX14_weeks_0 ++ dktX14_weeks_1
theorem dksX14_weeks_0 : cX14_weeks.data.toList.drop 0 = dktX14_weeks_0 := by decide +kernel
theorem dksX14_weeks_1 : cX14_weeks.data.toList.drop 24 = dktX14_weeks_1 := dk_seg dksX14_weeks_0 24 rfl rfl
theorem dksX14_weeks_2 : cX14_weeks.data.toList.drop 48 = dktX14_weeks_2 := dk_seg dksX14_weeks_1 24 rfl rfl
theorem dksX14_weeks_3 : cX14_weeks.data.toList.drop 71 = dktX14_weeks_3 := dk_seg dksX14_weeks_2 23 rfl rfl
theorem dksX14_weeks_4 : cX14_weeks.data.toList.drop 95 = dktX14_weeks_4 := dk_seg dksX14_weeks_3 24 rfl rfl
theorem dksX14_weeks_5 : cX14_weeks.data.toList.drop 118 = dktX14_weeks_5 := dk_seg dksX14_weeks_4 23 rfl rfl
theorem dX14_weeks_0 : decode cX14_weeks 0 = .ok (.aload_n 0, 1) := dk_42 (dk_at dksX14_weeks_0 0 rfl rfl)
theorem dX14_weeks_1 : decode cX14_weeks 1 = .ok (.iconst 0, 1) := dk_3 (dk_at dksX14_weeks_0 1 rfl rfl)
theorem dX14_weeks_2 : decode cX14_weeks 2 = .ok (.putfield 3, 3) := dk_181 0 3 (dk_at dksX14_weeks_0 2 rfl rfl)
theorem dX14_weeks_5 : decode cX14_weeks 5 = .ok (.iload_n 1, 1) := dk_27 (dk_at dksX14_weeks_0 5 rfl rfl)
theorem dX14_weeks_6 : decode cX14_weeks 6 = .ok (.i2l, 1) := dk_133 (dk_at dksX14_weeks_0 6 rfl rfl)
theorem dX14_weeks_7 : decode cX14_weeks 7 = .ok (.lconst 0, 1) := dk_9 (dk_at dksX14_weeks_0 7 rfl rfl)
theorem dX14_weeks_8 : decode cX14_weeks 8 = .ok (.ldc2_w 286, 3) := dk_20 1 30 (dk_at dksX14_weeks_0 8 rfl rfl)
theorem dX14_weeks_11 : decode cX14_weeks 11 = .ok (.invokestatic 120, 3) := dk_184 0 120 (dk_at dksX14_weeks_0 11 rfl rfl)
theorem dX14_weeks_14 : decode cX14_weeks 14 = .ok (.ifCond .ne 5, 3) := dk_154 0 5 (dk_at dksX14_weeks_0 14 rfl rfl)
theorem dX14_weeks_17 : decode cX14_weeks 17 = .ok (.iconst (-1), 1) := dk_2 (dk_at dksX14_weeks_0 17 rfl rfl)
theorem dX14_weeks_18 : decode cX14_weeks 18 = .ok (.ireturn, 1) := dk_172 (dk_at dksX14_weeks_0 18 rfl rfl)
theorem dX14_weeks_19 : decode cX14_weeks 19 = .ok (.iload_n 1, 1) := dk_27 (dk_at dksX14_weeks_0 19 rfl rfl)
theorem dX14_weeks_20 : decode cX14_weeks 20 = .ok (.ifCond .le 7, 3) := dk_158 0 7 (dk_at dksX14_weeks_0 20 rfl rfl)
theorem dX14_weeks_23 : decode cX14_weeks 23 = .ok (.aload_n 0, 1) := dk_42 (dk_at dksX14_weeks_0 23 rfl rfl)
theorem dX14_weeks_24 : decode cX14_weeks 24 = .ok (.invokevirtual 279, 3) := dk_182 1 23 (dk_at dksX14_weeks_1 0 rfl rfl)
theorem dX14_weeks_27 : decode cX14_weeks 27 = .ok (.iconst 0, 1) := dk_3 (dk_at dksX14_weeks_1 3 rfl rfl)
theorem dX14_weeks_28 : decode cX14_weeks 28 = .ok (.istore_n 2, 1) := dk_61 (dk_at dksX14_weeks_1 4 rfl rfl)
theorem dX14_weeks_29 : decode cX14_weeks 29 = .ok (.aload_n 0, 1) := dk_42 (dk_at dksX14_weeks_1 5 rfl rfl)
theorem dX14_weeks_30 : decode cX14_weeks 30 = .ok (.iconst 0, 1) := dk_3 (dk_at dksX14_weeks_1 6 rfl rfl)
theorem dX14_weeks_31 : decode cX14_weeks 31 = .ok (.putfield 273, 3) := dk_181 1 17 (dk_at dksX14_weeks_1 7 rfl rfl)
theorem dX14_weeks_34 : decode cX14_weeks 34 = .ok (.iconst 0, 1) := dk_3 (dk_at dksX14_weeks_1 10 rfl rfl)
theorem dX14_weeks_35 : decode cX14_weeks 35 = .ok (.istore_n 3, 1) := dk_62 (dk_at dksX14_weeks_1 11 rfl rfl)
theorem dX14_weeks_36 : decode cX14_weeks 36 = .ok (.iload_n 3, 1) := dk_29 (dk_at dksX14_weeks_1 12 rfl rfl)
theorem dX14_weeks_37 : decode cX14_weeks 37 = .ok (.iload_n 1, 1) := dk_27 (dk_at dksX14_weeks_1 13 rfl rfl)
theorem dX14_weeks_38 : decode cX14_weeks 38 = .ok (.if_icmp .ge 57, 3) := dk_162 0 57 (dk_at dksX14_weeks_1 14 rfl rfl)
theorem dX14_weeks_41 : decode cX14_weeks 41 = .ok (.aload_n 0, 1) := dk_42 (dk_at dksX14_weeks_1 17 rfl rfl)
theorem dX14_weeks_42 : decode cX14_weeks 42 = .ok (.getfield 44, 3) := dk_180 0 44 (dk_at dksX14_weeks_1 18 rfl rfl)
theorem dX14_weeks_45 : decode cX14_weeks 45 = .ok (.bipush 17, 2) := dk_16 17 (dk_at dksX14_weeks_1 21 rfl rfl)
theorem dX14_weeks_47 : decode cX14_weeks 47 = .ok (.iaload, 1) := dk_46 (dk_at dksX14_weeks_1 23 rfl rfl)
theorem dX14_weeks_48 : decode cX14_weeks 48 = .ok (.istore 4, 2) := dk_54 4 (dk_at dksX14_weeks_2 0 rfl rfl)
theorem dX14_weeks_50 : decode cX14_weeks 50 = .ok (.aload_n 0, 1) := dk_42 (dk_at dksX14_weeks_2 2 rfl rfl)
theorem dX14_weeks_51 : decode cX14_weeks 51 = .ok (.aload_n 0, 1) := dk_42 (dk_at dksX14_weeks_2 3 rfl rfl)
theorem dX14_weeks_52 : decode cX14_weeks 52 = .ok (.getfield 44, 3) := dk_180 0 44 (dk_at dksX14_weeks_2 4 rfl rfl)
theorem dX14_weeks_55 : decode cX14_weeks 55 = .ok (.aload_n 0, 1) := dk_42 (dk_at dksX14_weeks_2 7 rfl rfl)
theorem dX14_weeks_56 : decode cX14_weeks 56 = .ok (.aload_n 0, 1) := dk_42 (dk_at dksX14_weeks_2 8 rfl rfl)
theorem dX14_weeks_57 : decode cX14_weeks 57 = .ok (.getfield 44, 3) := dk_180 0 44 (dk_at dksX14_weeks_2 9 rfl rfl)
theorem dX14_weeks_60 : decode cX14_weeks 60 = .ok (.invokevirtual 288, 3) := dk_182 1 32 (dk_at dksX14_weeks_2 12 rfl rfl)
theorem dX14_weeks_63 : decode cX14_weeks 63 = .ok (.invokevirtual 282, 3) := dk_182 1 26 (dk_at dksX14_weeks_2 15 rfl rfl)
theorem dX14_weeks_66 : decode cX14_weeks 66 = .ok (.iload_n 2, 1) := dk_28 (dk_at dksX14_weeks_2 18 rfl rfl)
theorem dX14_weeks_67 : decode cX14_weeks 67 = .ok (.aload_n 0, 1) := dk_42 (dk_at dksX14_weeks_2 19 rfl rfl)
theorem dX14_weeks_68 : decode cX14_weeks 68 = .ok (.getfield 44, 3) := dk_180 0 44 (dk_at dksX14_weeks_2 20 rfl rfl)
theorem dX14_weeks_71 : decode cX14_weeks 71 = .ok (.bipush 17, 2) := dk_16 17 (dk_at dksX14_weeks_3 0 rfl rfl)
theorem dX14_weeks_73 : decode cX14_weeks 73 = .ok (.iaload, 1) := dk_46 (dk_at dksX14_weeks_3 2 rfl rfl)
theorem dX14_weeks_74 : decode cX14_weeks 74 = .ok (.iload 4, 2) := dk_21 4 (dk_at dksX14_weeks_3 3 rfl rfl)
theorem dX14_weeks_76 : decode cX14_weeks 76 = .ok (.if_icmp .eq 7, 3) := dk_159 0 7 (dk_at dksX14_weeks_3 5 rfl rfl)
theorem dX14_weeks_79 : decode cX14_weeks 79 = .ok (.iconst 1, 1) := dk_4 (dk_at dksX14_weeks_3 8 rfl rfl)
theorem dX14_weeks_80 : decode cX14_weeks 80 = .ok (.goto 4, 3) := dk_167 0 4 (dk_at dksX14_weeks_3 9 rfl rfl)
theorem dX14_weeks_83 : decode cX14_weeks 83 = .ok (.iconst 0, 1) := dk_3 (dk_at dksX14_weeks_3 12 rfl rfl)
theorem dX14_weeks_84 : decode cX14_weeks 84 = .ok (.invokestatic 150, 3) := dk_184 0 150 (dk_at dksX14_weeks_3 13 rfl rfl)
theorem dX14_weeks_87 : decode cX14_weeks 87 = .ok (.iadd, 1) := dk_96 (dk_at dksX14_weeks_3 16 rfl rfl)
theorem dX14_weeks_88 : decode cX14_weeks 88 = .ok (.istore_n 2, 1) := dk_61 (dk_at dksX14_weeks_3 17 rfl rfl)
theorem dX14_weeks_89 : decode cX14_weeks 89 = .ok (.iinc 3 1, 3) := dk_132 3 1 (dk_at dksX14_weeks_3 18 rfl rfl)
theorem dX14_weeks_92 : decode cX14_weeks 92 = .ok (.goto (-56), 3) := dk_167 255 200 (dk_at dksX14_weeks_3 21 rfl rfl)
theorem dX14_weeks_95 : decode cX14_weeks 95 = .ok (.aload_n 0, 1) := dk_42 (dk_at dksX14_weeks_4 0 rfl rfl)
theorem dX14_weeks_96 : decode cX14_weeks 96 = .ok (.iconst 0, 1) := dk_3 (dk_at dksX14_weeks_4 1 rfl rfl)
theorem dX14_weeks_97 : decode cX14_weeks 97 = .ok (.putfield 15, 3) := dk_181 0 15 (dk_at dksX14_weeks_4 2 rfl rfl)
theorem dX14_weeks_100 : decode cX14_weeks 100 = .ok (.aload_n 0, 1) := dk_42 (dk_at dksX14_weeks_4 5 rfl rfl)
theorem dX14_weeks_101 : decode cX14_weeks 101 = .ok (.aload_n 0, 1) := dk_42 (dk_at dksX14_weeks_4 6 rfl rfl)
theorem dX14_weeks_102 : decode cX14_weeks 102 = .ok (.getfield 44, 3) := dk_180 0 44 (dk_at dksX14_weeks_4 7 rfl rfl)
theorem dX14_weeks_105 : decode cX14_weeks 105 = .ok (.bipush 17, 2) := dk_16 17 (dk_at dksX14_weeks_4 10 rfl rfl)
theorem dX14_weeks_107 : decode cX14_weeks 107 = .ok (.iaload, 1) := dk_46 (dk_at dksX14_weeks_4 12 rfl rfl)
theorem dX14_weeks_108 : decode cX14_weeks 108 = .ok (.i2l, 1) := dk_133 (dk_at dksX14_weeks_4 13 rfl rfl)
theorem dX14_weeks_109 : decode cX14_weeks 109 = .ok (.invokevirtual 18, 3) := dk_182 0 18 (dk_at dksX14_weeks_4 14 rfl rfl)
theorem dX14_weeks_112 : decode cX14_weeks 112 = .ok (.aload_n 0, 1) := dk_42 (dk_at dksX14_weeks_4 17 rfl rfl)
theorem dX14_weeks_113 : decode cX14_weeks 113 = .ok (.aload_n 0, 1) := dk_42 (dk_at dksX14_weeks_4 18 rfl rfl)
theorem dX14_weeks_114 : decode cX14_weeks 114 = .ok (.getfield 273, 3) := dk_180 1 17 (dk_at dksX14_weeks_4 19 rfl rfl)
theorem dX14_weeks_117 : decode cX14_weeks 117 = .ok (.i2l, 1) := dk_133 (dk_at dksX14_weeks_4 22 rfl rfl)
theorem dX14_weeks_118 : decode cX14_weeks 118 = .ok (.invokevirtual 18, 3) := dk_182 0 18 (dk_at dksX14_weeks_5 0 rfl rfl)
theorem dX14_weeks_121 : decode cX14_weeks 121 = .ok (.iload_n 2, 1) := dk_28 (dk_at dksX14_weeks_5 3 rfl rfl)
theorem dX14_weeks_122 : decode cX14_weeks 122 = .ok (.ireturn, 1) := dk_172 (dk_at dksX14_weeks_5 4 rfl rfl)
def dkwX14_willing_2 : List UInt8 := [28, 172]
abbrev dktX14_willing_2 : List UInt8 := dkwX14_willing_2 ++ []
def dkwX14_willing_1 : List UInt8 := [42, 43, 29, 182, 0, 247, 153, 0, 9, 4, 29, 120, 167, 0, 4, 3, 128, 61, 132, 3, 1, 167, 255, 215]
abbrev dktX14_willing_1 : List UInt8 := dkwX14_willing_1 ++ dktX14_willing_2
def dkwX14_willing_0 : List UInt8 := [3, 61, 3, 62, 29, 42, 180, 0, 117, 162, 0, 39, 28, 43, 16, 16, 46, 29, 184, 0, 128, 153, 0, 18]
abbrev dktX14_willing_0 : List UInt8 := dkwX14_willing_0 ++ dktX14_willing_1
theorem dksX14_willing_0 : cX14_willing.data.toList.drop 0 = dktX14_willing_0 := by decide +kernel
theorem dksX14_willing_1 : cX14_willing.data.toList.drop 24 = dktX14_willing_1 := dk_seg dksX14_willing_0 24 rfl rfl
theorem dksX14_willing_2 : cX14_willing.data.toList.drop 48 = dktX14_willing_2 := dk_seg dksX14_willing_1 24 rfl rfl
theorem dX14_willing_0 : decode cX14_willing 0 = .ok (.iconst 0, 1) := dk_3 (dk_at dksX14_willing_0 0 rfl rfl)
theorem dX14_willing_1 : decode cX14_willing 1 = .ok (.istore_n 2, 1) := dk_61 (dk_at dksX14_willing_0 1 rfl rfl)
theorem dX14_willing_2 : decode cX14_willing 2 = .ok (.iconst 0, 1) := dk_3 (dk_at dksX14_willing_0 2 rfl rfl)
theorem dX14_willing_3 : decode cX14_willing 3 = .ok (.istore_n 3, 1) := dk_62 (dk_at dksX14_willing_0 3 rfl rfl)
theorem dX14_willing_4 : decode cX14_willing 4 = .ok (.iload_n 3, 1) := dk_29 (dk_at dksX14_willing_0 4 rfl rfl)
theorem dX14_willing_5 : decode cX14_willing 5 = .ok (.aload_n 0, 1) := dk_42 (dk_at dksX14_willing_0 5 rfl rfl)
theorem dX14_willing_6 : decode cX14_willing 6 = .ok (.getfield 117, 3) := dk_180 0 117 (dk_at dksX14_willing_0 6 rfl rfl)
theorem dX14_willing_9 : decode cX14_willing 9 = .ok (.if_icmp .ge 39, 3) := dk_162 0 39 (dk_at dksX14_willing_0 9 rfl rfl)
theorem dX14_willing_12 : decode cX14_willing 12 = .ok (.iload_n 2, 1) := dk_28 (dk_at dksX14_willing_0 12 rfl rfl)
theorem dX14_willing_13 : decode cX14_willing 13 = .ok (.aload_n 1, 1) := dk_43 (dk_at dksX14_willing_0 13 rfl rfl)
theorem dX14_willing_14 : decode cX14_willing 14 = .ok (.bipush 16, 2) := dk_16 16 (dk_at dksX14_willing_0 14 rfl rfl)
theorem dX14_willing_16 : decode cX14_willing 16 = .ok (.iaload, 1) := dk_46 (dk_at dksX14_willing_0 16 rfl rfl)
theorem dX14_willing_17 : decode cX14_willing 17 = .ok (.iload_n 3, 1) := dk_29 (dk_at dksX14_willing_0 17 rfl rfl)
theorem dX14_willing_18 : decode cX14_willing 18 = .ok (.invokestatic 128, 3) := dk_184 0 128 (dk_at dksX14_willing_0 18 rfl rfl)
theorem dX14_willing_21 : decode cX14_willing 21 = .ok (.ifCond .eq 18, 3) := dk_153 0 18 (dk_at dksX14_willing_0 21 rfl rfl)
theorem dX14_willing_24 : decode cX14_willing 24 = .ok (.aload_n 0, 1) := dk_42 (dk_at dksX14_willing_1 0 rfl rfl)
theorem dX14_willing_25 : decode cX14_willing 25 = .ok (.aload_n 1, 1) := dk_43 (dk_at dksX14_willing_1 1 rfl rfl)
theorem dX14_willing_26 : decode cX14_willing 26 = .ok (.iload_n 3, 1) := dk_29 (dk_at dksX14_willing_1 2 rfl rfl)
theorem dX14_willing_27 : decode cX14_willing 27 = .ok (.invokevirtual 247, 3) := dk_182 0 247 (dk_at dksX14_willing_1 3 rfl rfl)
theorem dX14_willing_30 : decode cX14_willing 30 = .ok (.ifCond .eq 9, 3) := dk_153 0 9 (dk_at dksX14_willing_1 6 rfl rfl)
theorem dX14_willing_33 : decode cX14_willing 33 = .ok (.iconst 1, 1) := dk_4 (dk_at dksX14_willing_1 9 rfl rfl)
theorem dX14_willing_34 : decode cX14_willing 34 = .ok (.iload_n 3, 1) := dk_29 (dk_at dksX14_willing_1 10 rfl rfl)
theorem dX14_willing_35 : decode cX14_willing 35 = .ok (.ishl, 1) := dk_120 (dk_at dksX14_willing_1 11 rfl rfl)
theorem dX14_willing_36 : decode cX14_willing 36 = .ok (.goto 4, 3) := dk_167 0 4 (dk_at dksX14_willing_1 12 rfl rfl)
theorem dX14_willing_39 : decode cX14_willing 39 = .ok (.iconst 0, 1) := dk_3 (dk_at dksX14_willing_1 15 rfl rfl)
theorem dX14_willing_40 : decode cX14_willing 40 = .ok (.ior, 1) := dk_128 (dk_at dksX14_willing_1 16 rfl rfl)
theorem dX14_willing_41 : decode cX14_willing 41 = .ok (.istore_n 2, 1) := dk_61 (dk_at dksX14_willing_1 17 rfl rfl)
theorem dX14_willing_42 : decode cX14_willing 42 = .ok (.iinc 3 1, 3) := dk_132 3 1 (dk_at dksX14_willing_1 18 rfl rfl)
theorem dX14_willing_45 : decode cX14_willing 45 = .ok (.goto (-41), 3) := dk_167 255 215 (dk_at dksX14_willing_1 21 rfl rfl)
theorem dX14_willing_48 : decode cX14_willing 48 = .ok (.iload_n 2, 1) := dk_28 (dk_at dksX14_willing_2 0 rfl rfl)
theorem dX14_willing_49 : decode cX14_willing 49 = .ok (.ireturn, 1) := dk_172 (dk_at dksX14_willing_2 1 rfl rfl)
def dkwX14_year_6 : List UInt8 := [21, 4, 42, 180, 1, 35, 162, 0, 7, 4, 167, 0, 4, 3, 184, 0, 150, 133, 182, 0, 18, 21, 4, 172]
abbrev dktX14_year_6 : List UInt8 := dkwX14_year_6 ++ []
def dkwX14_year_5 : List UInt8 := [132, 4, 1, 167, 255, 204, 42, 3, 181, 0, 15, 42, 42, 180, 0, 44, 16, 17, 46, 133, 182, 0, 18, 42]
abbrev dktX14_year_5 : List UInt8 := dkwX14_year_5 ++ dktX14_year_6
def dkwX14_year_4 : List UInt8 := [21, 4, 154, 0, 7, 42, 182, 1, 23, 42, 42, 180, 0, 44, 42, 180, 0, 77, 21, 4, 46, 182, 1, 26]
abbrev dktX14_year_4 : List UInt8 := dkwX14_year_4 ++ dktX14_year_5
def dkwX14_year_3 : List UInt8 := [42, 180, 1, 35, 162, 0, 49, 42, 180, 0, 77, 21, 4, 46, 4, 42, 180, 0, 117, 120, 162, 0, 33]
abbrev dktX14_year_3 : List UInt8 := dkwX14_year_3 ++ dktX14_year_4
def dkwX14_year_2 : List UInt8 := [27, 16, 60, 4, 182, 0, 199, 62, 29, 156, 0, 5, 29, 172, 3, 54, 4, 42, 3, 181, 1, 17, 21, 4]
abbrev dktX14_year_2 : List UInt8 := dkwX14_year_2 ++ dktX14_year_3
def dkwX14_year_1 : List UInt8 := [167, 0, 4, 3, 61, 28, 153, 0, 17, 42, 182, 1, 38, 42, 16, 59, 182, 0, 178, 61, 167, 255, 241, 42]
abbrev dktX14_year_1 : List UInt8 := dkwX14_year_1 ++ dktX14_year_2
def dkwX14_year_0 : List UInt8 := [42, 3, 181, 0, 3, 42, 16, 60, 182, 0, 193, 60, 42, 3, 181, 1, 35, 27, 158, 0, 7, 4]
abbrev dktX14_year_0 : List UInt8 := dkwX14_year_0 ++ dktX14_year_1
theorem dksX14_year_0 : cX14_year.data.toList.drop 0 = dktX14_year_0 := by decide +kernel
theorem dksX14_year_1 : cX14_year.data.toList.drop 22 = dktX14_year_1 := dk_seg dksX14_year_0 22 rfl rfl
theorem dksX14_year_2 : cX14_year.data.toList.drop 46 = dktX14_year_2 := dk_seg dksX14_year_1 24 rfl rfl
theorem dksX14_year_3 : cX14_year.data.toList.drop 70 = dktX14_year_3 := dk_seg dksX14_year_2 24 rfl rfl
theorem dksX14_year_4 : cX14_year.data.toList.drop 93 = dktX14_year_4 := dk_seg dksX14_year_3 23 rfl rfl
theorem dksX14_year_5 : cX14_year.data.toList.drop 117 = dktX14_year_5 := dk_seg dksX14_year_4 24 rfl rfl
theorem dksX14_year_6 : cX14_year.data.toList.drop 141 = dktX14_year_6 := dk_seg dksX14_year_5 24 rfl rfl
theorem dX14_year_0 : decode cX14_year 0 = .ok (.aload_n 0, 1) := dk_42 (dk_at dksX14_year_0 0 rfl rfl)
theorem dX14_year_1 : decode cX14_year 1 = .ok (.iconst 0, 1) := dk_3 (dk_at dksX14_year_0 1 rfl rfl)
theorem dX14_year_2 : decode cX14_year 2 = .ok (.putfield 3, 3) := dk_181 0 3 (dk_at dksX14_year_0 2 rfl rfl)
theorem dX14_year_5 : decode cX14_year 5 = .ok (.aload_n 0, 1) := dk_42 (dk_at dksX14_year_0 5 rfl rfl)
theorem dX14_year_6 : decode cX14_year 6 = .ok (.bipush 60, 2) := dk_16 60 (dk_at dksX14_year_0 6 rfl rfl)
theorem dX14_year_8 : decode cX14_year 8 = .ok (.invokevirtual 193, 3) := dk_182 0 193 (dk_at dksX14_year_0 8 rfl rfl)
theorem dX14_year_11 : decode cX14_year 11 = .ok (.istore_n 1, 1) := dk_60 (dk_at dksX14_year_0 11 rfl rfl)
theorem dX14_year_12 : decode cX14_year 12 = .ok (.aload_n 0, 1) := dk_42 (dk_at dksX14_year_0 12 rfl rfl)
theorem dX14_year_13 : decode cX14_year 13 = .ok (.iconst 0, 1) := dk_3 (dk_at dksX14_year_0 13 rfl rfl)
theorem dX14_year_14 : decode cX14_year 14 = .ok (.putfield 291, 3) := dk_181 1 35 (dk_at dksX14_year_0 14 rfl rfl)
theorem dX14_year_17 : decode cX14_year 17 = .ok (.iload_n 1, 1) := dk_27 (dk_at dksX14_year_0 17 rfl rfl)
theorem dX14_year_18 : decode cX14_year 18 = .ok (.ifCond .le 7, 3) := dk_158 0 7 (dk_at dksX14_year_0 18 rfl rfl)
theorem dX14_year_21 : decode cX14_year 21 = .ok (.iconst 1, 1) := dk_4 (dk_at dksX14_year_0 21 rfl rfl)
theorem dX14_year_22 : decode cX14_year 22 = .ok (.goto 4, 3) := dk_167 0 4 (dk_at dksX14_year_1 0 rfl rfl)
theorem dX14_year_25 : decode cX14_year 25 = .ok (.iconst 0, 1) := dk_3 (dk_at dksX14_year_1 3 rfl rfl)
theorem dX14_year_26 : decode cX14_year 26 = .ok (.istore_n 2, 1) := dk_61 (dk_at dksX14_year_1 4 rfl rfl)
theorem dX14_year_27 : decode cX14_year 27 = .ok (.iload_n 2, 1) := dk_28 (dk_at dksX14_year_1 5 rfl rfl)
theorem dX14_year_28 : decode cX14_year 28 = .ok (.ifCond .eq 17, 3) := dk_153 0 17 (dk_at dksX14_year_1 6 rfl rfl)
theorem dX14_year_31 : decode cX14_year 31 = .ok (.aload_n 0, 1) := dk_42 (dk_at dksX14_year_1 9 rfl rfl)
theorem dX14_year_32 : decode cX14_year 32 = .ok (.invokevirtual 294, 3) := dk_182 1 38 (dk_at dksX14_year_1 10 rfl rfl)
theorem dX14_year_35 : decode cX14_year 35 = .ok (.aload_n 0, 1) := dk_42 (dk_at dksX14_year_1 13 rfl rfl)
theorem dX14_year_36 : decode cX14_year 36 = .ok (.bipush 59, 2) := dk_16 59 (dk_at dksX14_year_1 14 rfl rfl)
theorem dX14_year_38 : decode cX14_year 38 = .ok (.invokevirtual 178, 3) := dk_182 0 178 (dk_at dksX14_year_1 16 rfl rfl)
theorem dX14_year_41 : decode cX14_year 41 = .ok (.istore_n 2, 1) := dk_61 (dk_at dksX14_year_1 19 rfl rfl)
theorem dX14_year_42 : decode cX14_year 42 = .ok (.goto (-15), 3) := dk_167 255 241 (dk_at dksX14_year_1 20 rfl rfl)
theorem dX14_year_45 : decode cX14_year 45 = .ok (.aload_n 0, 1) := dk_42 (dk_at dksX14_year_1 23 rfl rfl)
theorem dX14_year_46 : decode cX14_year 46 = .ok (.iload_n 1, 1) := dk_27 (dk_at dksX14_year_2 0 rfl rfl)
theorem dX14_year_47 : decode cX14_year 47 = .ok (.bipush 60, 2) := dk_16 60 (dk_at dksX14_year_2 1 rfl rfl)
theorem dX14_year_49 : decode cX14_year 49 = .ok (.iconst 1, 1) := dk_4 (dk_at dksX14_year_2 3 rfl rfl)
theorem dX14_year_50 : decode cX14_year 50 = .ok (.invokevirtual 199, 3) := dk_182 0 199 (dk_at dksX14_year_2 4 rfl rfl)
theorem dX14_year_53 : decode cX14_year 53 = .ok (.istore_n 3, 1) := dk_62 (dk_at dksX14_year_2 7 rfl rfl)
theorem dX14_year_54 : decode cX14_year 54 = .ok (.iload_n 3, 1) := dk_29 (dk_at dksX14_year_2 8 rfl rfl)
theorem dX14_year_55 : decode cX14_year 55 = .ok (.ifCond .ge 5, 3) := dk_156 0 5 (dk_at dksX14_year_2 9 rfl rfl)
theorem dX14_year_58 : decode cX14_year 58 = .ok (.iload_n 3, 1) := dk_29 (dk_at dksX14_year_2 12 rfl rfl)
theorem dX14_year_59 : decode cX14_year 59 = .ok (.ireturn, 1) := dk_172 (dk_at dksX14_year_2 13 rfl rfl)
theorem dX14_year_60 : decode cX14_year 60 = .ok (.iconst 0, 1) := dk_3 (dk_at dksX14_year_2 14 rfl rfl)
theorem dX14_year_61 : decode cX14_year 61 = .ok (.istore 4, 2) := dk_54 4 (dk_at dksX14_year_2 15 rfl rfl)
theorem dX14_year_63 : decode cX14_year 63 = .ok (.aload_n 0, 1) := dk_42 (dk_at dksX14_year_2 17 rfl rfl)
theorem dX14_year_64 : decode cX14_year 64 = .ok (.iconst 0, 1) := dk_3 (dk_at dksX14_year_2 18 rfl rfl)
theorem dX14_year_65 : decode cX14_year 65 = .ok (.putfield 273, 3) := dk_181 1 17 (dk_at dksX14_year_2 19 rfl rfl)
theorem dX14_year_68 : decode cX14_year 68 = .ok (.iload 4, 2) := dk_21 4 (dk_at dksX14_year_2 22 rfl rfl)
theorem dX14_year_70 : decode cX14_year 70 = .ok (.aload_n 0, 1) := dk_42 (dk_at dksX14_year_3 0 rfl rfl)
theorem dX14_year_71 : decode cX14_year 71 = .ok (.getfield 291, 3) := dk_180 1 35 (dk_at dksX14_year_3 1 rfl rfl)
theorem dX14_year_74 : decode cX14_year 74 = .ok (.if_icmp .ge 49, 3) := dk_162 0 49 (dk_at dksX14_year_3 4 rfl rfl)
theorem dX14_year_77 : decode cX14_year 77 = .ok (.aload_n 0, 1) := dk_42 (dk_at dksX14_year_3 7 rfl rfl)
theorem dX14_year_78 : decode cX14_year 78 = .ok (.getfield 77, 3) := dk_180 0 77 (dk_at dksX14_year_3 8 rfl rfl)
theorem dX14_year_81 : decode cX14_year 81 = .ok (.iload 4, 2) := dk_21 4 (dk_at dksX14_year_3 11 rfl rfl)
theorem dX14_year_83 : decode cX14_year 83 = .ok (.iaload, 1) := dk_46 (dk_at dksX14_year_3 13 rfl rfl)
theorem dX14_year_84 : decode cX14_year 84 = .ok (.iconst 1, 1) := dk_4 (dk_at dksX14_year_3 14 rfl rfl)
theorem dX14_year_85 : decode cX14_year 85 = .ok (.aload_n 0, 1) := dk_42 (dk_at dksX14_year_3 15 rfl rfl)
theorem dX14_year_86 : decode cX14_year 86 = .ok (.getfield 117, 3) := dk_180 0 117 (dk_at dksX14_year_3 16 rfl rfl)
theorem dX14_year_89 : decode cX14_year 89 = .ok (.ishl, 1) := dk_120 (dk_at dksX14_year_3 19 rfl rfl)
theorem dX14_year_90 : decode cX14_year 90 = .ok (.if_icmp .ge 33, 3) := dk_162 0 33 (dk_at dksX14_year_3 20 rfl rfl)
theorem dX14_year_93 : decode cX14_year 93 = .ok (.iload 4, 2) := dk_21 4 (dk_at dksX14_year_4 0 rfl rfl)
theorem dX14_year_95 : decode cX14_year 95 = .ok (.ifCond .ne 7, 3) := dk_154 0 7 (dk_at dksX14_year_4 2 rfl rfl)
theorem dX14_year_98 : decode cX14_year 98 = .ok (.aload_n 0, 1) := dk_42 (dk_at dksX14_year_4 5 rfl rfl)
theorem dX14_year_99 : decode cX14_year 99 = .ok (.invokevirtual 279, 3) := dk_182 1 23 (dk_at dksX14_year_4 6 rfl rfl)
theorem dX14_year_102 : decode cX14_year 102 = .ok (.aload_n 0, 1) := dk_42 (dk_at dksX14_year_4 9 rfl rfl)
theorem dX14_year_103 : decode cX14_year 103 = .ok (.aload_n 0, 1) := dk_42 (dk_at dksX14_year_4 10 rfl rfl)
theorem dX14_year_104 : decode cX14_year 104 = .ok (.getfield 44, 3) := dk_180 0 44 (dk_at dksX14_year_4 11 rfl rfl)
theorem dX14_year_107 : decode cX14_year 107 = .ok (.aload_n 0, 1) := dk_42 (dk_at dksX14_year_4 14 rfl rfl)
theorem dX14_year_108 : decode cX14_year 108 = .ok (.getfield 77, 3) := dk_180 0 77 (dk_at dksX14_year_4 15 rfl rfl)
theorem dX14_year_111 : decode cX14_year 111 = .ok (.iload 4, 2) := dk_21 4 (dk_at dksX14_year_4 18 rfl rfl)
theorem dX14_year_113 : decode cX14_year 113 = .ok (.iaload, 1) := dk_46 (dk_at dksX14_year_4 20 rfl rfl)
theorem dX14_year_114 : decode cX14_year 114 = .ok (.invokevirtual 282, 3) := dk_182 1 26 (dk_at dksX14_year_4 21 rfl rfl)
theorem dX14_year_117 : decode cX14_year 117 = .ok (.iinc 4 1, 3) := dk_132 4 1 (dk_at dksX14_year_5 0 rfl rfl)
theorem dX14_year_120 : decode cX14_year 120 = .ok (.goto (-52), 3) := dk_167 255 204 (dk_at dksX14_year_5 3 rfl rfl)
theorem dX14_year_123 : decode cX14_year 123 = .ok (.aload_n 0, 1) := dk_42 (dk_at dksX14_year_5 6 rfl rfl)
theorem dX14_year_124 : decode cX14_year 124 = .ok (.iconst 0, 1) := dk_3 (dk_at dksX14_year_5 7 rfl rfl)
theorem dX14_year_125 : decode cX14_year 125 = .ok (.putfield 15, 3) := dk_181 0 15 (dk_at dksX14_year_5 8 rfl rfl)
theorem dX14_year_128 : decode cX14_year 128 = .ok (.aload_n 0, 1) := dk_42 (dk_at dksX14_year_5 11 rfl rfl)
theorem dX14_year_129 : decode cX14_year 129 = .ok (.aload_n 0, 1) := dk_42 (dk_at dksX14_year_5 12 rfl rfl)
theorem dX14_year_130 : decode cX14_year 130 = .ok (.getfield 44, 3) := dk_180 0 44 (dk_at dksX14_year_5 13 rfl rfl)
theorem dX14_year_133 : decode cX14_year 133 = .ok (.bipush 17, 2) := dk_16 17 (dk_at dksX14_year_5 16 rfl rfl)
theorem dX14_year_135 : decode cX14_year 135 = .ok (.iaload, 1) := dk_46 (dk_at dksX14_year_5 18 rfl rfl)
theorem dX14_year_136 : decode cX14_year 136 = .ok (.i2l, 1) := dk_133 (dk_at dksX14_year_5 19 rfl rfl)
theorem dX14_year_137 : decode cX14_year 137 = .ok (.invokevirtual 18, 3) := dk_182 0 18 (dk_at dksX14_year_5 20 rfl rfl)
theorem dX14_year_140 : decode cX14_year 140 = .ok (.aload_n 0, 1) := dk_42 (dk_at dksX14_year_5 23 rfl rfl)
theorem dX14_year_141 : decode cX14_year 141 = .ok (.iload 4, 2) := dk_21 4 (dk_at dksX14_year_6 0 rfl rfl)
theorem dX14_year_143 : decode cX14_year 143 = .ok (.aload_n 0, 1) := dk_42 (dk_at dksX14_year_6 2 rfl rfl)
theorem dX14_year_144 : decode cX14_year 144 = .ok (.getfield 291, 3) := dk_180 1 35 (dk_at dksX14_year_6 3 rfl rfl)
theorem dX14_year_147 : decode cX14_year 147 = .ok (.if_icmp .ge 7, 3) := dk_162 0 7 (dk_at dksX14_year_6 6 rfl rfl)
theorem dX14_year_150 : decode cX14_year 150 = .ok (.iconst 1, 1) := dk_4 (dk_at dksX14_year_6 9 rfl rfl)
theorem dX14_year_151 : decode cX14_year 151 = .ok (.goto 4, 3) := dk_167 0 4 (dk_at dksX14_year_6 10 rfl rfl)
theorem dX14_year_154 : decode cX14_year 154 = .ok (.iconst 0, 1) := dk_3 (dk_at dksX14_year_6 13 rfl rfl)
theorem dX14_year_155 : decode cX14_year 155 = .ok (.invokestatic 150, 3) := dk_184 0 150 (dk_at dksX14_year_6 14 rfl rfl)
theorem dX14_year_158 : decode cX14_year 158 = .ok (.i2l, 1) := dk_133 (dk_at dksX14_year_6 17 rfl rfl)
theorem dX14_year_159 : decode cX14_year 159 = .ok (.invokevirtual 18, 3) := dk_182 0 18 (dk_at dksX14_year_6 18 rfl rfl)
theorem dX14_year_162 : decode cX14_year 162 = .ok (.iload 4, 2) := dk_21 4 (dk_at dksX14_year_6 21 rfl rfl)
theorem dX14_year_164 : decode cX14_year 164 = .ok (.ireturn, 1) := dk_172 (dk_at dksX14_year_6 23 rfl rfl)
def dkwX14_readsWeek_3 : List UInt8 := [167, 255, 190, 42, 180, 0, 77, 42, 180, 1, 35, 28, 79, 42, 89, 180, 1, 35, 4, 96, 181, 1, 35, 177]
abbrev dktX14_readsWeek_3 : List UInt8 := dkwX14_readsWeek_3 ++ []
def dkwX14_readsWeek_2 : List UInt8 := [180, 0, 135, 46, 16, 97, 100, 60, 28, 4, 27, 120, 128, 61, 42, 89, 180, 0, 135, 4, 96, 181, 0, 135]
abbrev dktX14_readsWeek_2 : List UInt8 := dkwX14_readsWeek_2 ++ dktX14_readsWeek_3
def dkwX14_readsWeek_1 : List UInt8 := [16, 97, 100, 133, 27, 4, 96, 133, 20, 1, 1, 184, 0, 120, 153, 0, 35, 42, 180, 0, 50, 42]
abbrev dktX14_readsWeek_1 : List UInt8 := dkwX14_readsWeek_1 ++ dktX14_readsWeek_2
def dkwX14_readsWeek_0 : List UInt8 := [2, 60, 3, 61, 42, 180, 0, 135, 42, 180, 0, 147, 162, 0, 61, 42, 180, 0, 50, 42, 180, 0, 135, 46]
abbrev dktX14_readsWeek_0 : List UInt8 := dkwX14_readsWeek_0 ++ dktX14_readsWeek_1
theorem dksX14_readsWeek_0 : cX14_readsWeek.data.toList.drop 0 = dktX14_readsWeek_0 := by decide +kernel
theorem dksX14_readsWeek_1 : cX14_readsWeek.data.toList.drop 24 = dktX14_readsWeek_1 := dk_seg dksX14_readsWeek_0 24 rfl rfl
theorem dksX14_readsWeek_2 : cX14_readsWeek.data.toList.drop 46 = dktX14_readsWeek_2 := dk_seg dksX14_readsWeek_1 22 rfl rfl
theorem dksX14_readsWeek_3 : cX14_readsWeek.data.toList.drop 70 = dktX14_readsWeek_3 := dk_seg dksX14_readsWeek_2 24 rfl rfl
theorem dX14_readsWeek_0 : decode cX14_readsWeek 0 = .ok (.iconst (-1), 1) := dk_2 (dk_at dksX14_readsWeek_0 0 rfl rfl)
theorem dX14_readsWeek_1 : decode cX14_readsWeek 1 = .ok (.istore_n 1, 1) := dk_60 (dk_at dksX14_readsWeek_0 1 rfl rfl)
theorem dX14_readsWeek_2 : decode cX14_readsWeek 2 = .ok (.iconst 0, 1) := dk_3 (dk_at dksX14_readsWeek_0 2 rfl rfl)
theorem dX14_readsWeek_3 : decode cX14_readsWeek 3 = .ok (.istore_n 2, 1) := dk_61 (dk_at dksX14_readsWeek_0 3 rfl rfl)
theorem dX14_readsWeek_4 : decode cX14_readsWeek 4 = .ok (.aload_n 0, 1) := dk_42 (dk_at dksX14_readsWeek_0 4 rfl rfl)
theorem dX14_readsWeek_5 : decode cX14_readsWeek 5 = .ok (.getfield 135, 3) := dk_180 0 135 (dk_at dksX14_readsWeek_0 5 rfl rfl)
theorem dX14_readsWeek_8 : decode cX14_readsWeek 8 = .ok (.aload_n 0, 1) := dk_42 (dk_at dksX14_readsWeek_0 8 rfl rfl)
theorem dX14_readsWeek_9 : decode cX14_readsWeek 9 = .ok (.getfield 147, 3) := dk_180 0 147 (dk_at dksX14_readsWeek_0 9 rfl rfl)
theorem dX14_readsWeek_12 : decode cX14_readsWeek 12 = .ok (.if_icmp .ge 61, 3) := dk_162 0 61 (dk_at dksX14_readsWeek_0 12 rfl rfl)
theorem dX14_readsWeek_15 : decode cX14_readsWeek 15 = .ok (.aload_n 0, 1) := dk_42 (dk_at dksX14_readsWeek_0 15 rfl rfl)
theorem dX14_readsWeek_16 : decode cX14_readsWeek 16 = .ok (.getfield 50, 3) := dk_180 0 50 (dk_at dksX14_readsWeek_0 16 rfl rfl)
theorem dX14_readsWeek_19 : decode cX14_readsWeek 19 = .ok (.aload_n 0, 1) := dk_42 (dk_at dksX14_readsWeek_0 19 rfl rfl)
theorem dX14_readsWeek_20 : decode cX14_readsWeek 20 = .ok (.getfield 135, 3) := dk_180 0 135 (dk_at dksX14_readsWeek_0 20 rfl rfl)
theorem dX14_readsWeek_23 : decode cX14_readsWeek 23 = .ok (.iaload, 1) := dk_46 (dk_at dksX14_readsWeek_0 23 rfl rfl)
theorem dX14_readsWeek_24 : decode cX14_readsWeek 24 = .ok (.bipush 97, 2) := dk_16 97 (dk_at dksX14_readsWeek_1 0 rfl rfl)
theorem dX14_readsWeek_26 : decode cX14_readsWeek 26 = .ok (.isub, 1) := dk_100 (dk_at dksX14_readsWeek_1 2 rfl rfl)
theorem dX14_readsWeek_27 : decode cX14_readsWeek 27 = .ok (.i2l, 1) := dk_133 (dk_at dksX14_readsWeek_1 3 rfl rfl)
theorem dX14_readsWeek_28 : decode cX14_readsWeek 28 = .ok (.iload_n 1, 1) := dk_27 (dk_at dksX14_readsWeek_1 4 rfl rfl)
theorem dX14_readsWeek_29 : decode cX14_readsWeek 29 = .ok (.iconst 1, 1) := dk_4 (dk_at dksX14_readsWeek_1 5 rfl rfl)
theorem dX14_readsWeek_30 : decode cX14_readsWeek 30 = .ok (.iadd, 1) := dk_96 (dk_at dksX14_readsWeek_1 6 rfl rfl)
theorem dX14_readsWeek_31 : decode cX14_readsWeek 31 = .ok (.i2l, 1) := dk_133 (dk_at dksX14_readsWeek_1 7 rfl rfl)
theorem dX14_readsWeek_32 : decode cX14_readsWeek 32 = .ok (.ldc2_w 257, 3) := dk_20 1 1 (dk_at dksX14_readsWeek_1 8 rfl rfl)
theorem dX14_readsWeek_35 : decode cX14_readsWeek 35 = .ok (.invokestatic 120, 3) := dk_184 0 120 (dk_at dksX14_readsWeek_1 11 rfl rfl)
theorem dX14_readsWeek_38 : decode cX14_readsWeek 38 = .ok (.ifCond .eq 35, 3) := dk_153 0 35 (dk_at dksX14_readsWeek_1 14 rfl rfl)
theorem dX14_readsWeek_41 : decode cX14_readsWeek 41 = .ok (.aload_n 0, 1) := dk_42 (dk_at dksX14_readsWeek_1 17 rfl rfl)
theorem dX14_readsWeek_42 : decode cX14_readsWeek 42 = .ok (.getfield 50, 3) := dk_180 0 50 (dk_at dksX14_readsWeek_1 18 rfl rfl)
theorem dX14_readsWeek_45 : decode cX14_readsWeek 45 = .ok (.aload_n 0, 1) := dk_42 (dk_at dksX14_readsWeek_1 21 rfl rfl)
theorem dX14_readsWeek_46 : decode cX14_readsWeek 46 = .ok (.getfield 135, 3) := dk_180 0 135 (dk_at dksX14_readsWeek_2 0 rfl rfl)
theorem dX14_readsWeek_49 : decode cX14_readsWeek 49 = .ok (.iaload, 1) := dk_46 (dk_at dksX14_readsWeek_2 3 rfl rfl)
theorem dX14_readsWeek_50 : decode cX14_readsWeek 50 = .ok (.bipush 97, 2) := dk_16 97 (dk_at dksX14_readsWeek_2 4 rfl rfl)
theorem dX14_readsWeek_52 : decode cX14_readsWeek 52 = .ok (.isub, 1) := dk_100 (dk_at dksX14_readsWeek_2 6 rfl rfl)
theorem dX14_readsWeek_53 : decode cX14_readsWeek 53 = .ok (.istore_n 1, 1) := dk_60 (dk_at dksX14_readsWeek_2 7 rfl rfl)
theorem dX14_readsWeek_54 : decode cX14_readsWeek 54 = .ok (.iload_n 2, 1) := dk_28 (dk_at dksX14_readsWeek_2 8 rfl rfl)
theorem dX14_readsWeek_55 : decode cX14_readsWeek 55 = .ok (.iconst 1, 1) := dk_4 (dk_at dksX14_readsWeek_2 9 rfl rfl)
theorem dX14_readsWeek_56 : decode cX14_readsWeek 56 = .ok (.iload_n 1, 1) := dk_27 (dk_at dksX14_readsWeek_2 10 rfl rfl)
theorem dX14_readsWeek_57 : decode cX14_readsWeek 57 = .ok (.ishl, 1) := dk_120 (dk_at dksX14_readsWeek_2 11 rfl rfl)
theorem dX14_readsWeek_58 : decode cX14_readsWeek 58 = .ok (.ior, 1) := dk_128 (dk_at dksX14_readsWeek_2 12 rfl rfl)
theorem dX14_readsWeek_59 : decode cX14_readsWeek 59 = .ok (.istore_n 2, 1) := dk_61 (dk_at dksX14_readsWeek_2 13 rfl rfl)
theorem dX14_readsWeek_60 : decode cX14_readsWeek 60 = .ok (.aload_n 0, 1) := dk_42 (dk_at dksX14_readsWeek_2 14 rfl rfl)
theorem dX14_readsWeek_61 : decode cX14_readsWeek 61 = .ok (.dup, 1) := dk_89 (dk_at dksX14_readsWeek_2 15 rfl rfl)
theorem dX14_readsWeek_62 : decode cX14_readsWeek 62 = .ok (.getfield 135, 3) := dk_180 0 135 (dk_at dksX14_readsWeek_2 16 rfl rfl)
theorem dX14_readsWeek_65 : decode cX14_readsWeek 65 = .ok (.iconst 1, 1) := dk_4 (dk_at dksX14_readsWeek_2 19 rfl rfl)
theorem dX14_readsWeek_66 : decode cX14_readsWeek 66 = .ok (.iadd, 1) := dk_96 (dk_at dksX14_readsWeek_2 20 rfl rfl)
theorem dX14_readsWeek_67 : decode cX14_readsWeek 67 = .ok (.putfield 135, 3) := dk_181 0 135 (dk_at dksX14_readsWeek_2 21 rfl rfl)
theorem dX14_readsWeek_70 : decode cX14_readsWeek 70 = .ok (.goto (-66), 3) := dk_167 255 190 (dk_at dksX14_readsWeek_3 0 rfl rfl)
theorem dX14_readsWeek_73 : decode cX14_readsWeek 73 = .ok (.aload_n 0, 1) := dk_42 (dk_at dksX14_readsWeek_3 3 rfl rfl)
theorem dX14_readsWeek_74 : decode cX14_readsWeek 74 = .ok (.getfield 77, 3) := dk_180 0 77 (dk_at dksX14_readsWeek_3 4 rfl rfl)
theorem dX14_readsWeek_77 : decode cX14_readsWeek 77 = .ok (.aload_n 0, 1) := dk_42 (dk_at dksX14_readsWeek_3 7 rfl rfl)
theorem dX14_readsWeek_78 : decode cX14_readsWeek 78 = .ok (.getfield 291, 3) := dk_180 1 35 (dk_at dksX14_readsWeek_3 8 rfl rfl)
theorem dX14_readsWeek_81 : decode cX14_readsWeek 81 = .ok (.iload_n 2, 1) := dk_28 (dk_at dksX14_readsWeek_3 11 rfl rfl)
theorem dX14_readsWeek_82 : decode cX14_readsWeek 82 = .ok (.iastore, 1) := dk_79 (dk_at dksX14_readsWeek_3 12 rfl rfl)
theorem dX14_readsWeek_83 : decode cX14_readsWeek 83 = .ok (.aload_n 0, 1) := dk_42 (dk_at dksX14_readsWeek_3 13 rfl rfl)
theorem dX14_readsWeek_84 : decode cX14_readsWeek 84 = .ok (.dup, 1) := dk_89 (dk_at dksX14_readsWeek_3 14 rfl rfl)
theorem dX14_readsWeek_85 : decode cX14_readsWeek 85 = .ok (.getfield 291, 3) := dk_180 1 35 (dk_at dksX14_readsWeek_3 15 rfl rfl)
theorem dX14_readsWeek_88 : decode cX14_readsWeek 88 = .ok (.iconst 1, 1) := dk_4 (dk_at dksX14_readsWeek_3 18 rfl rfl)
theorem dX14_readsWeek_89 : decode cX14_readsWeek 89 = .ok (.iadd, 1) := dk_96 (dk_at dksX14_readsWeek_3 19 rfl rfl)
theorem dX14_readsWeek_90 : decode cX14_readsWeek 90 = .ok (.putfield 291, 3) := dk_181 1 35 (dk_at dksX14_readsWeek_3 20 rfl rfl)
theorem dX14_readsWeek_93 : decode cX14_readsWeek 93 = .ok (.return_, 1) := dk_177 (dk_at dksX14_readsWeek_3 23 rfl rfl)
def dkwX14_law_4 : List UInt8 := [46, 4, 96, 79, 27, 172]
abbrev dktX14_law_4 : List UInt8 := dkwX14_law_4 ++ []
def dkwX14_law_3 : List UInt8 := [180, 0, 44, 16, 19, 46, 79, 42, 180, 0, 44, 16, 45, 27, 96, 2, 79, 42, 180, 0, 44, 16, 20, 92]
abbrev dktX14_law_3 : List UInt8 := dkwX14_law_3 ++ dktX14_law_4
def dkwX14_law_2 : List UInt8 := [180, 0, 44, 16, 21, 27, 96, 42, 180, 0, 44, 16, 17, 46, 79, 42, 180, 0, 44, 16, 33, 27, 96, 42]
abbrev dktX14_law_2 : List UInt8 := dkwX14_law_2 ++ dktX14_law_3
def dkwX14_law_1 : List UInt8 := [46, 16, 12, 160, 0, 6, 16, 253, 172, 42, 182, 1, 23, 42, 180, 0, 44, 16, 20, 46, 60, 42]
abbrev dktX14_law_1 : List UInt8 := dkwX14_law_1 ++ dktX14_law_2
def dkwX14_law_0 : List UInt8 := [42, 3, 181, 0, 3, 42, 180, 0, 44, 16, 17, 46, 156, 0, 6, 16, 254, 172, 42, 180, 0, 44, 16, 20]
abbrev dktX14_law_0 : List UInt8 := dkwX14_law_0 ++ dktX14_law_1
theorem dksX14_law_0 : cX14_law.data.toList.drop 0 = dktX14_law_0 := by decide +kernel
theorem dksX14_law_1 : cX14_law.data.toList.drop 24 = dktX14_law_1 := dk_seg dksX14_law_0 24 rfl rfl
theorem dksX14_law_2 : cX14_law.data.toList.drop 46 = dktX14_law_2 := dk_seg dksX14_law_1 22 rfl rfl
theorem dksX14_law_3 : cX14_law.data.toList.drop 70 = dktX14_law_3 := dk_seg dksX14_law_2 24 rfl rfl
theorem dksX14_law_4 : cX14_law.data.toList.drop 94 = dktX14_law_4 := dk_seg dksX14_law_3 24 rfl rfl
theorem dX14_law_0 : decode cX14_law 0 = .ok (.aload_n 0, 1) := dk_42 (dk_at dksX14_law_0 0 rfl rfl)
theorem dX14_law_1 : decode cX14_law 1 = .ok (.iconst 0, 1) := dk_3 (dk_at dksX14_law_0 1 rfl rfl)
theorem dX14_law_2 : decode cX14_law 2 = .ok (.putfield 3, 3) := dk_181 0 3 (dk_at dksX14_law_0 2 rfl rfl)
theorem dX14_law_5 : decode cX14_law 5 = .ok (.aload_n 0, 1) := dk_42 (dk_at dksX14_law_0 5 rfl rfl)
theorem dX14_law_6 : decode cX14_law 6 = .ok (.getfield 44, 3) := dk_180 0 44 (dk_at dksX14_law_0 6 rfl rfl)
theorem dX14_law_9 : decode cX14_law 9 = .ok (.bipush 17, 2) := dk_16 17 (dk_at dksX14_law_0 9 rfl rfl)
theorem dX14_law_11 : decode cX14_law 11 = .ok (.iaload, 1) := dk_46 (dk_at dksX14_law_0 11 rfl rfl)
theorem dX14_law_12 : decode cX14_law 12 = .ok (.ifCond .ge 6, 3) := dk_156 0 6 (dk_at dksX14_law_0 12 rfl rfl)
theorem dX14_law_15 : decode cX14_law 15 = .ok (.bipush (-2), 2) := dk_16 254 (dk_at dksX14_law_0 15 rfl rfl)
theorem dX14_law_17 : decode cX14_law 17 = .ok (.ireturn, 1) := dk_172 (dk_at dksX14_law_0 17 rfl rfl)
theorem dX14_law_18 : decode cX14_law 18 = .ok (.aload_n 0, 1) := dk_42 (dk_at dksX14_law_0 18 rfl rfl)
theorem dX14_law_19 : decode cX14_law 19 = .ok (.getfield 44, 3) := dk_180 0 44 (dk_at dksX14_law_0 19 rfl rfl)
theorem dX14_law_22 : decode cX14_law 22 = .ok (.bipush 20, 2) := dk_16 20 (dk_at dksX14_law_0 22 rfl rfl)
theorem dX14_law_24 : decode cX14_law 24 = .ok (.iaload, 1) := dk_46 (dk_at dksX14_law_1 0 rfl rfl)
theorem dX14_law_25 : decode cX14_law 25 = .ok (.bipush 12, 2) := dk_16 12 (dk_at dksX14_law_1 1 rfl rfl)
theorem dX14_law_27 : decode cX14_law 27 = .ok (.if_icmp .ne 6, 3) := dk_160 0 6 (dk_at dksX14_law_1 3 rfl rfl)
theorem dX14_law_30 : decode cX14_law 30 = .ok (.bipush (-3), 2) := dk_16 253 (dk_at dksX14_law_1 6 rfl rfl)
theorem dX14_law_32 : decode cX14_law 32 = .ok (.ireturn, 1) := dk_172 (dk_at dksX14_law_1 8 rfl rfl)
theorem dX14_law_33 : decode cX14_law 33 = .ok (.aload_n 0, 1) := dk_42 (dk_at dksX14_law_1 9 rfl rfl)
theorem dX14_law_34 : decode cX14_law 34 = .ok (.invokevirtual 279, 3) := dk_182 1 23 (dk_at dksX14_law_1 10 rfl rfl)
theorem dX14_law_37 : decode cX14_law 37 = .ok (.aload_n 0, 1) := dk_42 (dk_at dksX14_law_1 13 rfl rfl)
theorem dX14_law_38 : decode cX14_law 38 = .ok (.getfield 44, 3) := dk_180 0 44 (dk_at dksX14_law_1 14 rfl rfl)
theorem dX14_law_41 : decode cX14_law 41 = .ok (.bipush 20, 2) := dk_16 20 (dk_at dksX14_law_1 17 rfl rfl)
theorem dX14_law_43 : decode cX14_law 43 = .ok (.iaload, 1) := dk_46 (dk_at dksX14_law_1 19 rfl rfl)
theorem dX14_law_44 : decode cX14_law 44 = .ok (.istore_n 1, 1) := dk_60 (dk_at dksX14_law_1 20 rfl rfl)
theorem dX14_law_45 : decode cX14_law 45 = .ok (.aload_n 0, 1) := dk_42 (dk_at dksX14_law_1 21 rfl rfl)
theorem dX14_law_46 : decode cX14_law 46 = .ok (.getfield 44, 3) := dk_180 0 44 (dk_at dksX14_law_2 0 rfl rfl)
theorem dX14_law_49 : decode cX14_law 49 = .ok (.bipush 21, 2) := dk_16 21 (dk_at dksX14_law_2 3 rfl rfl)
theorem dX14_law_51 : decode cX14_law 51 = .ok (.iload_n 1, 1) := dk_27 (dk_at dksX14_law_2 5 rfl rfl)
theorem dX14_law_52 : decode cX14_law 52 = .ok (.iadd, 1) := dk_96 (dk_at dksX14_law_2 6 rfl rfl)
theorem dX14_law_53 : decode cX14_law 53 = .ok (.aload_n 0, 1) := dk_42 (dk_at dksX14_law_2 7 rfl rfl)
theorem dX14_law_54 : decode cX14_law 54 = .ok (.getfield 44, 3) := dk_180 0 44 (dk_at dksX14_law_2 8 rfl rfl)
theorem dX14_law_57 : decode cX14_law 57 = .ok (.bipush 17, 2) := dk_16 17 (dk_at dksX14_law_2 11 rfl rfl)
theorem dX14_law_59 : decode cX14_law 59 = .ok (.iaload, 1) := dk_46 (dk_at dksX14_law_2 13 rfl rfl)
theorem dX14_law_60 : decode cX14_law 60 = .ok (.iastore, 1) := dk_79 (dk_at dksX14_law_2 14 rfl rfl)
theorem dX14_law_61 : decode cX14_law 61 = .ok (.aload_n 0, 1) := dk_42 (dk_at dksX14_law_2 15 rfl rfl)
theorem dX14_law_62 : decode cX14_law 62 = .ok (.getfield 44, 3) := dk_180 0 44 (dk_at dksX14_law_2 16 rfl rfl)
theorem dX14_law_65 : decode cX14_law 65 = .ok (.bipush 33, 2) := dk_16 33 (dk_at dksX14_law_2 19 rfl rfl)
theorem dX14_law_67 : decode cX14_law 67 = .ok (.iload_n 1, 1) := dk_27 (dk_at dksX14_law_2 21 rfl rfl)
theorem dX14_law_68 : decode cX14_law 68 = .ok (.iadd, 1) := dk_96 (dk_at dksX14_law_2 22 rfl rfl)
theorem dX14_law_69 : decode cX14_law 69 = .ok (.aload_n 0, 1) := dk_42 (dk_at dksX14_law_2 23 rfl rfl)
theorem dX14_law_70 : decode cX14_law 70 = .ok (.getfield 44, 3) := dk_180 0 44 (dk_at dksX14_law_3 0 rfl rfl)
theorem dX14_law_73 : decode cX14_law 73 = .ok (.bipush 19, 2) := dk_16 19 (dk_at dksX14_law_3 3 rfl rfl)
theorem dX14_law_75 : decode cX14_law 75 = .ok (.iaload, 1) := dk_46 (dk_at dksX14_law_3 5 rfl rfl)
theorem dX14_law_76 : decode cX14_law 76 = .ok (.iastore, 1) := dk_79 (dk_at dksX14_law_3 6 rfl rfl)
theorem dX14_law_77 : decode cX14_law 77 = .ok (.aload_n 0, 1) := dk_42 (dk_at dksX14_law_3 7 rfl rfl)
theorem dX14_law_78 : decode cX14_law 78 = .ok (.getfield 44, 3) := dk_180 0 44 (dk_at dksX14_law_3 8 rfl rfl)
theorem dX14_law_81 : decode cX14_law 81 = .ok (.bipush 45, 2) := dk_16 45 (dk_at dksX14_law_3 11 rfl rfl)
theorem dX14_law_83 : decode cX14_law 83 = .ok (.iload_n 1, 1) := dk_27 (dk_at dksX14_law_3 13 rfl rfl)
theorem dX14_law_84 : decode cX14_law 84 = .ok (.iadd, 1) := dk_96 (dk_at dksX14_law_3 14 rfl rfl)
theorem dX14_law_85 : decode cX14_law 85 = .ok (.iconst (-1), 1) := dk_2 (dk_at dksX14_law_3 15 rfl rfl)
theorem dX14_law_86 : decode cX14_law 86 = .ok (.iastore, 1) := dk_79 (dk_at dksX14_law_3 16 rfl rfl)
theorem dX14_law_87 : decode cX14_law 87 = .ok (.aload_n 0, 1) := dk_42 (dk_at dksX14_law_3 17 rfl rfl)
theorem dX14_law_88 : decode cX14_law 88 = .ok (.getfield 44, 3) := dk_180 0 44 (dk_at dksX14_law_3 18 rfl rfl)
theorem dX14_law_91 : decode cX14_law 91 = .ok (.bipush 20, 2) := dk_16 20 (dk_at dksX14_law_3 21 rfl rfl)
theorem dX14_law_93 : decode cX14_law 93 = .ok (.dup2, 1) := dk_92 (dk_at dksX14_law_3 23 rfl rfl)
theorem dX14_law_94 : decode cX14_law 94 = .ok (.iaload, 1) := dk_46 (dk_at dksX14_law_4 0 rfl rfl)
theorem dX14_law_95 : decode cX14_law 95 = .ok (.iconst 1, 1) := dk_4 (dk_at dksX14_law_4 1 rfl rfl)
theorem dX14_law_96 : decode cX14_law 96 = .ok (.iadd, 1) := dk_96 (dk_at dksX14_law_4 2 rfl rfl)
theorem dX14_law_97 : decode cX14_law 97 = .ok (.iastore, 1) := dk_79 (dk_at dksX14_law_4 3 rfl rfl)
theorem dX14_law_98 : decode cX14_law 98 = .ok (.iload_n 1, 1) := dk_27 (dk_at dksX14_law_4 4 rfl rfl)
theorem dX14_law_99 : decode cX14_law 99 = .ok (.ireturn, 1) := dk_172 (dk_at dksX14_law_4 5 rfl rfl)
def dkwX14_laws_5 : List UInt8 := [96, 46, 172]
abbrev dktX14_laws_5 : List UInt8 := dkwX14_laws_5 ++ []
def dkwX14_laws_4 : List UInt8 := [16, 45, 27, 96, 46, 156, 0, 7, 4, 167, 0, 4, 3, 184, 0, 150, 172, 42, 180, 0, 44, 16, 45, 27]
abbrev dktX14_laws_4 : List UInt8 := dkwX14_laws_4 ++ dktX14_laws_5
def dkwX14_laws_3 : List UInt8 := [42, 180, 0, 44, 16, 21, 27, 96, 46, 172, 42, 180, 0, 44, 16, 33, 27, 96, 46, 172, 42, 180, 0, 44]
abbrev dktX14_laws_3 : List UInt8 := dkwX14_laws_3 ++ dktX14_laws_4
def dkwX14_laws_2 : List UInt8 := [170, 0, 0, 0, 0, 67, 0, 0, 0, 0, 0, 0, 0, 2, 0, 0, 0, 26, 0, 0, 0, 36, 0, 0, 0, 46]
abbrev dktX14_laws_2 : List UInt8 := dkwX14_laws_2 ++ dktX14_laws_3
def dkwX14_laws_1 : List UInt8 := [28, 133, 9, 20, 1, 11, 184, 0, 120, 154, 0, 8, 42, 182, 1, 3, 172, 28]
abbrev dktX14_laws_1 : List UInt8 := dkwX14_laws_1 ++ dktX14_laws_2
def dkwX14_laws_0 : List UInt8 := [42, 3, 181, 0, 3, 27, 133, 9, 42, 180, 0, 44, 16, 20, 46, 4, 100, 133, 184, 0, 120, 153, 0, 15]
abbrev dktX14_laws_0 : List UInt8 := dkwX14_laws_0 ++ dktX14_laws_1
theorem dksX14_laws_0 : cX14_laws.data.toList.drop 0 = dktX14_laws_0 := by decide +kernel
theorem dksX14_laws_1 : cX14_laws.data.toList.drop 24 = dktX14_laws_1 := dk_seg dksX14_laws_0 24 rfl rfl
theorem dksX14_laws_2 : cX14_laws.data.toList.drop 42 = dktX14_laws_2 := dk_seg dksX14_laws_1 18 rfl rfl
theorem dksX14_laws_3 : cX14_laws.data.toList.drop 68 = dktX14_laws_3 := dk_seg dksX14_laws_2 26 rfl rfl
theorem dksX14_laws_4 : cX14_laws.data.toList.drop 92 = dktX14_laws_4 := dk_seg dksX14_laws_3 24 rfl rfl
theorem dksX14_laws_5 : cX14_laws.data.toList.drop 116 = dktX14_laws_5 := dk_seg dksX14_laws_4 24 rfl rfl
theorem dX14_laws_0 : decode cX14_laws 0 = .ok (.aload_n 0, 1) := dk_42 (dk_at dksX14_laws_0 0 rfl rfl)
theorem dX14_laws_1 : decode cX14_laws 1 = .ok (.iconst 0, 1) := dk_3 (dk_at dksX14_laws_0 1 rfl rfl)
theorem dX14_laws_2 : decode cX14_laws 2 = .ok (.putfield 3, 3) := dk_181 0 3 (dk_at dksX14_laws_0 2 rfl rfl)
theorem dX14_laws_5 : decode cX14_laws 5 = .ok (.iload_n 1, 1) := dk_27 (dk_at dksX14_laws_0 5 rfl rfl)
theorem dX14_laws_6 : decode cX14_laws 6 = .ok (.i2l, 1) := dk_133 (dk_at dksX14_laws_0 6 rfl rfl)
theorem dX14_laws_7 : decode cX14_laws 7 = .ok (.lconst 0, 1) := dk_9 (dk_at dksX14_laws_0 7 rfl rfl)
theorem dX14_laws_8 : decode cX14_laws 8 = .ok (.aload_n 0, 1) := dk_42 (dk_at dksX14_laws_0 8 rfl rfl)
theorem dX14_laws_9 : decode cX14_laws 9 = .ok (.getfield 44, 3) := dk_180 0 44 (dk_at dksX14_laws_0 9 rfl rfl)
theorem dX14_laws_12 : decode cX14_laws 12 = .ok (.bipush 20, 2) := dk_16 20 (dk_at dksX14_laws_0 12 rfl rfl)
theorem dX14_laws_14 : decode cX14_laws 14 = .ok (.iaload, 1) := dk_46 (dk_at dksX14_laws_0 14 rfl rfl)
theorem dX14_laws_15 : decode cX14_laws 15 = .ok (.iconst 1, 1) := dk_4 (dk_at dksX14_laws_0 15 rfl rfl)
theorem dX14_laws_16 : decode cX14_laws 16 = .ok (.isub, 1) := dk_100 (dk_at dksX14_laws_0 16 rfl rfl)
theorem dX14_laws_17 : decode cX14_laws 17 = .ok (.i2l, 1) := dk_133 (dk_at dksX14_laws_0 17 rfl rfl)
theorem dX14_laws_18 : decode cX14_laws 18 = .ok (.invokestatic 120, 3) := dk_184 0 120 (dk_at dksX14_laws_0 18 rfl rfl)
theorem dX14_laws_21 : decode cX14_laws 21 = .ok (.ifCond .eq 15, 3) := dk_153 0 15 (dk_at dksX14_laws_0 21 rfl rfl)
theorem dX14_laws_24 : decode cX14_laws 24 = .ok (.iload_n 2, 1) := dk_28 (dk_at dksX14_laws_1 0 rfl rfl)
theorem dX14_laws_25 : decode cX14_laws 25 = .ok (.i2l, 1) := dk_133 (dk_at dksX14_laws_1 1 rfl rfl)
theorem dX14_laws_26 : decode cX14_laws 26 = .ok (.lconst 0, 1) := dk_9 (dk_at dksX14_laws_1 2 rfl rfl)
theorem dX14_laws_27 : decode cX14_laws 27 = .ok (.ldc2_w 267, 3) := dk_20 1 11 (dk_at dksX14_laws_1 3 rfl rfl)
theorem dX14_laws_30 : decode cX14_laws 30 = .ok (.invokestatic 120, 3) := dk_184 0 120 (dk_at dksX14_laws_1 6 rfl rfl)
theorem dX14_laws_33 : decode cX14_laws 33 = .ok (.ifCond .ne 8, 3) := dk_154 0 8 (dk_at dksX14_laws_1 9 rfl rfl)
theorem dX14_laws_36 : decode cX14_laws 36 = .ok (.aload_n 0, 1) := dk_42 (dk_at dksX14_laws_1 12 rfl rfl)
theorem dX14_laws_37 : decode cX14_laws 37 = .ok (.invokevirtual 259, 3) := dk_182 1 3 (dk_at dksX14_laws_1 13 rfl rfl)
theorem dX14_laws_40 : decode cX14_laws 40 = .ok (.ireturn, 1) := dk_172 (dk_at dksX14_laws_1 16 rfl rfl)
theorem dX14_laws_41 : decode cX14_laws 41 = .ok (.iload_n 2, 1) := dk_28 (dk_at dksX14_laws_1 17 rfl rfl)
theorem dX14_laws_42 : decode cX14_laws 42 = .ok (.tableswitch 67 0 2 #[26, 36, 46], 26) := by decide +kernel
theorem dX14_laws_68 : decode cX14_laws 68 = .ok (.aload_n 0, 1) := dk_42 (dk_at dksX14_laws_3 0 rfl rfl)
theorem dX14_laws_69 : decode cX14_laws 69 = .ok (.getfield 44, 3) := dk_180 0 44 (dk_at dksX14_laws_3 1 rfl rfl)
theorem dX14_laws_72 : decode cX14_laws 72 = .ok (.bipush 21, 2) := dk_16 21 (dk_at dksX14_laws_3 4 rfl rfl)
theorem dX14_laws_74 : decode cX14_laws 74 = .ok (.iload_n 1, 1) := dk_27 (dk_at dksX14_laws_3 6 rfl rfl)
theorem dX14_laws_75 : decode cX14_laws 75 = .ok (.iadd, 1) := dk_96 (dk_at dksX14_laws_3 7 rfl rfl)
theorem dX14_laws_76 : decode cX14_laws 76 = .ok (.iaload, 1) := dk_46 (dk_at dksX14_laws_3 8 rfl rfl)
theorem dX14_laws_77 : decode cX14_laws 77 = .ok (.ireturn, 1) := dk_172 (dk_at dksX14_laws_3 9 rfl rfl)
theorem dX14_laws_78 : decode cX14_laws 78 = .ok (.aload_n 0, 1) := dk_42 (dk_at dksX14_laws_3 10 rfl rfl)
theorem dX14_laws_79 : decode cX14_laws 79 = .ok (.getfield 44, 3) := dk_180 0 44 (dk_at dksX14_laws_3 11 rfl rfl)
theorem dX14_laws_82 : decode cX14_laws 82 = .ok (.bipush 33, 2) := dk_16 33 (dk_at dksX14_laws_3 14 rfl rfl)
theorem dX14_laws_84 : decode cX14_laws 84 = .ok (.iload_n 1, 1) := dk_27 (dk_at dksX14_laws_3 16 rfl rfl)
theorem dX14_laws_85 : decode cX14_laws 85 = .ok (.iadd, 1) := dk_96 (dk_at dksX14_laws_3 17 rfl rfl)
theorem dX14_laws_86 : decode cX14_laws 86 = .ok (.iaload, 1) := dk_46 (dk_at dksX14_laws_3 18 rfl rfl)
theorem dX14_laws_87 : decode cX14_laws 87 = .ok (.ireturn, 1) := dk_172 (dk_at dksX14_laws_3 19 rfl rfl)
theorem dX14_laws_88 : decode cX14_laws 88 = .ok (.aload_n 0, 1) := dk_42 (dk_at dksX14_laws_3 20 rfl rfl)
theorem dX14_laws_89 : decode cX14_laws 89 = .ok (.getfield 44, 3) := dk_180 0 44 (dk_at dksX14_laws_3 21 rfl rfl)
theorem dX14_laws_92 : decode cX14_laws 92 = .ok (.bipush 45, 2) := dk_16 45 (dk_at dksX14_laws_4 0 rfl rfl)
theorem dX14_laws_94 : decode cX14_laws 94 = .ok (.iload_n 1, 1) := dk_27 (dk_at dksX14_laws_4 2 rfl rfl)
theorem dX14_laws_95 : decode cX14_laws 95 = .ok (.iadd, 1) := dk_96 (dk_at dksX14_laws_4 3 rfl rfl)
theorem dX14_laws_96 : decode cX14_laws 96 = .ok (.iaload, 1) := dk_46 (dk_at dksX14_laws_4 4 rfl rfl)
theorem dX14_laws_97 : decode cX14_laws 97 = .ok (.ifCond .ge 7, 3) := dk_156 0 7 (dk_at dksX14_laws_4 5 rfl rfl)
theorem dX14_laws_100 : decode cX14_laws 100 = .ok (.iconst 1, 1) := dk_4 (dk_at dksX14_laws_4 8 rfl rfl)
theorem dX14_laws_101 : decode cX14_laws 101 = .ok (.goto 4, 3) := dk_167 0 4 (dk_at dksX14_laws_4 9 rfl rfl)
theorem dX14_laws_104 : decode cX14_laws 104 = .ok (.iconst 0, 1) := dk_3 (dk_at dksX14_laws_4 12 rfl rfl)
theorem dX14_laws_105 : decode cX14_laws 105 = .ok (.invokestatic 150, 3) := dk_184 0 150 (dk_at dksX14_laws_4 13 rfl rfl)
theorem dX14_laws_108 : decode cX14_laws 108 = .ok (.ireturn, 1) := dk_172 (dk_at dksX14_laws_4 16 rfl rfl)
theorem dX14_laws_109 : decode cX14_laws 109 = .ok (.aload_n 0, 1) := dk_42 (dk_at dksX14_laws_4 17 rfl rfl)
theorem dX14_laws_110 : decode cX14_laws 110 = .ok (.getfield 44, 3) := dk_180 0 44 (dk_at dksX14_laws_4 18 rfl rfl)
theorem dX14_laws_113 : decode cX14_laws 113 = .ok (.bipush 45, 2) := dk_16 45 (dk_at dksX14_laws_4 21 rfl rfl)
theorem dX14_laws_115 : decode cX14_laws 115 = .ok (.iload_n 1, 1) := dk_27 (dk_at dksX14_laws_4 23 rfl rfl)
theorem dX14_laws_116 : decode cX14_laws 116 = .ok (.iadd, 1) := dk_96 (dk_at dksX14_laws_5 0 rfl rfl)
theorem dX14_laws_117 : decode cX14_laws 117 = .ok (.iaload, 1) := dk_46 (dk_at dksX14_laws_5 1 rfl rfl)
theorem dX14_laws_118 : decode cX14_laws 118 = .ok (.ireturn, 1) := dk_172 (dk_at dksX14_laws_5 2 rfl rfl)
def dkwX14_feed_1 : List UInt8 := [153, 0, 12, 42, 27, 28, 182, 1, 44, 167, 0, 4, 2, 172]
abbrev dktX14_feed_1 : List UInt8 := dkwX14_feed_1 ++ []
def dkwX14_feed_0 : List UInt8 := [42, 3, 181, 0, 3, 42, 27, 182, 1, 41, 153, 0, 24, 28, 133, 10, 20, 1, 30, 184, 0, 120]
abbrev dktX14_feed_0 : List UInt8 := dkwX14_feed_0 ++ dktX14_feed_1
theorem dksX14_feed_0 : cX14_feed.data.toList.drop 0 = dktX14_feed_0 := by decide +kernel
theorem dksX14_feed_1 : cX14_feed.data.toList.drop 22 = dktX14_feed_1 := dk_seg dksX14_feed_0 22 rfl rfl
theorem dX14_feed_0 : decode cX14_feed 0 = .ok (.aload_n 0, 1) := dk_42 (dk_at dksX14_feed_0 0 rfl rfl)
theorem dX14_feed_1 : decode cX14_feed 1 = .ok (.iconst 0, 1) := dk_3 (dk_at dksX14_feed_0 1 rfl rfl)
theorem dX14_feed_2 : decode cX14_feed 2 = .ok (.putfield 3, 3) := dk_181 0 3 (dk_at dksX14_feed_0 2 rfl rfl)
theorem dX14_feed_5 : decode cX14_feed 5 = .ok (.aload_n 0, 1) := dk_42 (dk_at dksX14_feed_0 5 rfl rfl)
theorem dX14_feed_6 : decode cX14_feed 6 = .ok (.iload_n 1, 1) := dk_27 (dk_at dksX14_feed_0 6 rfl rfl)
theorem dX14_feed_7 : decode cX14_feed 7 = .ok (.invokevirtual 297, 3) := dk_182 1 41 (dk_at dksX14_feed_0 7 rfl rfl)
theorem dX14_feed_10 : decode cX14_feed 10 = .ok (.ifCond .eq 24, 3) := dk_153 0 24 (dk_at dksX14_feed_0 10 rfl rfl)
theorem dX14_feed_13 : decode cX14_feed 13 = .ok (.iload_n 2, 1) := dk_28 (dk_at dksX14_feed_0 13 rfl rfl)
theorem dX14_feed_14 : decode cX14_feed 14 = .ok (.i2l, 1) := dk_133 (dk_at dksX14_feed_0 14 rfl rfl)
theorem dX14_feed_15 : decode cX14_feed 15 = .ok (.lconst 1, 1) := dk_10 (dk_at dksX14_feed_0 15 rfl rfl)
theorem dX14_feed_16 : decode cX14_feed 16 = .ok (.ldc2_w 286, 3) := dk_20 1 30 (dk_at dksX14_feed_0 16 rfl rfl)
theorem dX14_feed_19 : decode cX14_feed 19 = .ok (.invokestatic 120, 3) := dk_184 0 120 (dk_at dksX14_feed_0 19 rfl rfl)
theorem dX14_feed_22 : decode cX14_feed 22 = .ok (.ifCond .eq 12, 3) := dk_153 0 12 (dk_at dksX14_feed_1 0 rfl rfl)
theorem dX14_feed_25 : decode cX14_feed 25 = .ok (.aload_n 0, 1) := dk_42 (dk_at dksX14_feed_1 3 rfl rfl)
theorem dX14_feed_26 : decode cX14_feed 26 = .ok (.iload_n 1, 1) := dk_27 (dk_at dksX14_feed_1 4 rfl rfl)
theorem dX14_feed_27 : decode cX14_feed 27 = .ok (.iload_n 2, 1) := dk_28 (dk_at dksX14_feed_1 5 rfl rfl)
theorem dX14_feed_28 : decode cX14_feed 28 = .ok (.invokevirtual 300, 3) := dk_182 1 44 (dk_at dksX14_feed_1 6 rfl rfl)
theorem dX14_feed_31 : decode cX14_feed 31 = .ok (.goto 4, 3) := dk_167 0 4 (dk_at dksX14_feed_1 9 rfl rfl)
theorem dX14_feed_34 : decode cX14_feed 34 = .ok (.iconst (-1), 1) := dk_2 (dk_at dksX14_feed_1 12 rfl rfl)
theorem dX14_feed_35 : decode cX14_feed 35 = .ok (.ireturn, 1) := dk_172 (dk_at dksX14_feed_1 13 rfl rfl)
def dkwX14_isAlive_1 : List UInt8 := [167, 0, 4, 3, 172]
abbrev dktX14_isAlive_1 : List UInt8 := dkwX14_isAlive_1 ++ []
def dkwX14_isAlive_0 : List UInt8 := [42, 27, 182, 0, 124, 153, 0, 21, 42, 180, 0, 44, 16, 16, 46, 27, 184, 0, 128, 153, 0, 7, 4]
abbrev dktX14_isAlive_0 : List UInt8 := dkwX14_isAlive_0 ++ dktX14_isAlive_1
theorem dksX14_isAlive_0 : cX14_isAlive.data.toList.drop 0 = dktX14_isAlive_0 := by decide +kernel
theorem dksX14_isAlive_1 : cX14_isAlive.data.toList.drop 23 = dktX14_isAlive_1 := dk_seg dksX14_isAlive_0 23 rfl rfl
theorem dX14_isAlive_0 : decode cX14_isAlive 0 = .ok (.aload_n 0, 1) := dk_42 (dk_at dksX14_isAlive_0 0 rfl rfl)
theorem dX14_isAlive_1 : decode cX14_isAlive 1 = .ok (.iload_n 1, 1) := dk_27 (dk_at dksX14_isAlive_0 1 rfl rfl)
theorem dX14_isAlive_2 : decode cX14_isAlive 2 = .ok (.invokevirtual 124, 3) := dk_182 0 124 (dk_at dksX14_isAlive_0 2 rfl rfl)
theorem dX14_isAlive_5 : decode cX14_isAlive 5 = .ok (.ifCond .eq 21, 3) := dk_153 0 21 (dk_at dksX14_isAlive_0 5 rfl rfl)
theorem dX14_isAlive_8 : decode cX14_isAlive 8 = .ok (.aload_n 0, 1) := dk_42 (dk_at dksX14_isAlive_0 8 rfl rfl)
theorem dX14_isAlive_9 : decode cX14_isAlive 9 = .ok (.getfield 44, 3) := dk_180 0 44 (dk_at dksX14_isAlive_0 9 rfl rfl)
theorem dX14_isAlive_12 : decode cX14_isAlive 12 = .ok (.bipush 16, 2) := dk_16 16 (dk_at dksX14_isAlive_0 12 rfl rfl)
theorem dX14_isAlive_14 : decode cX14_isAlive 14 = .ok (.iaload, 1) := dk_46 (dk_at dksX14_isAlive_0 14 rfl rfl)
theorem dX14_isAlive_15 : decode cX14_isAlive 15 = .ok (.iload_n 1, 1) := dk_27 (dk_at dksX14_isAlive_0 15 rfl rfl)
theorem dX14_isAlive_16 : decode cX14_isAlive 16 = .ok (.invokestatic 128, 3) := dk_184 0 128 (dk_at dksX14_isAlive_0 16 rfl rfl)
theorem dX14_isAlive_19 : decode cX14_isAlive 19 = .ok (.ifCond .eq 7, 3) := dk_153 0 7 (dk_at dksX14_isAlive_0 19 rfl rfl)
theorem dX14_isAlive_22 : decode cX14_isAlive 22 = .ok (.iconst 1, 1) := dk_4 (dk_at dksX14_isAlive_0 22 rfl rfl)
theorem dX14_isAlive_23 : decode cX14_isAlive 23 = .ok (.goto 4, 3) := dk_167 0 4 (dk_at dksX14_isAlive_1 0 rfl rfl)
theorem dX14_isAlive_26 : decode cX14_isAlive 26 = .ok (.iconst 0, 1) := dk_3 (dk_at dksX14_isAlive_1 3 rfl rfl)
theorem dX14_isAlive_27 : decode cX14_isAlive 27 = .ok (.ireturn, 1) := dk_172 (dk_at dksX14_isAlive_1 4 rfl rfl)
def dkwX14_eats_1 : List UInt8 := [184, 0, 254, 79, 42, 180, 0, 44, 27, 46, 172]
abbrev dktX14_eats_1 : List UInt8 := dkwX14_eats_1 ++ []
def dkwX14_eats_0 : List UInt8 := [42, 182, 1, 23, 42, 180, 0, 44, 27, 4, 17, 3, 231, 42, 180, 0, 44, 27, 46, 28, 96, 184, 0, 141]
abbrev dktX14_eats_0 : List UInt8 := dkwX14_eats_0 ++ dktX14_eats_1
theorem dksX14_eats_0 : cX14_eats.data.toList.drop 0 = dktX14_eats_0 := by decide +kernel
theorem dksX14_eats_1 : cX14_eats.data.toList.drop 24 = dktX14_eats_1 := dk_seg dksX14_eats_0 24 rfl rfl
theorem dX14_eats_0 : decode cX14_eats 0 = .ok (.aload_n 0, 1) := dk_42 (dk_at dksX14_eats_0 0 rfl rfl)
theorem dX14_eats_1 : decode cX14_eats 1 = .ok (.invokevirtual 279, 3) := dk_182 1 23 (dk_at dksX14_eats_0 1 rfl rfl)
theorem dX14_eats_4 : decode cX14_eats 4 = .ok (.aload_n 0, 1) := dk_42 (dk_at dksX14_eats_0 4 rfl rfl)
theorem dX14_eats_5 : decode cX14_eats 5 = .ok (.getfield 44, 3) := dk_180 0 44 (dk_at dksX14_eats_0 5 rfl rfl)
theorem dX14_eats_8 : decode cX14_eats 8 = .ok (.iload_n 1, 1) := dk_27 (dk_at dksX14_eats_0 8 rfl rfl)
theorem dX14_eats_9 : decode cX14_eats 9 = .ok (.iconst 1, 1) := dk_4 (dk_at dksX14_eats_0 9 rfl rfl)
theorem dX14_eats_10 : decode cX14_eats 10 = .ok (.sipush 999, 3) := dk_17 3 231 (dk_at dksX14_eats_0 10 rfl rfl)
theorem dX14_eats_13 : decode cX14_eats 13 = .ok (.aload_n 0, 1) := dk_42 (dk_at dksX14_eats_0 13 rfl rfl)
theorem dX14_eats_14 : decode cX14_eats 14 = .ok (.getfield 44, 3) := dk_180 0 44 (dk_at dksX14_eats_0 14 rfl rfl)
theorem dX14_eats_17 : decode cX14_eats 17 = .ok (.iload_n 1, 1) := dk_27 (dk_at dksX14_eats_0 17 rfl rfl)
theorem dX14_eats_18 : decode cX14_eats 18 = .ok (.iaload, 1) := dk_46 (dk_at dksX14_eats_0 18 rfl rfl)
theorem dX14_eats_19 : decode cX14_eats 19 = .ok (.iload_n 2, 1) := dk_28 (dk_at dksX14_eats_0 19 rfl rfl)
theorem dX14_eats_20 : decode cX14_eats 20 = .ok (.iadd, 1) := dk_96 (dk_at dksX14_eats_0 20 rfl rfl)
theorem dX14_eats_21 : decode cX14_eats 21 = .ok (.invokestatic 141, 3) := dk_184 0 141 (dk_at dksX14_eats_0 21 rfl rfl)
theorem dX14_eats_24 : decode cX14_eats 24 = .ok (.invokestatic 254, 3) := dk_184 0 254 (dk_at dksX14_eats_1 0 rfl rfl)
theorem dX14_eats_27 : decode cX14_eats 27 = .ok (.iastore, 1) := dk_79 (dk_at dksX14_eats_1 3 rfl rfl)
theorem dX14_eats_28 : decode cX14_eats 28 = .ok (.aload_n 0, 1) := dk_42 (dk_at dksX14_eats_1 4 rfl rfl)
theorem dX14_eats_29 : decode cX14_eats 29 = .ok (.getfield 44, 3) := dk_180 0 44 (dk_at dksX14_eats_1 5 rfl rfl)
theorem dX14_eats_32 : decode cX14_eats 32 = .ok (.iload_n 1, 1) := dk_27 (dk_at dksX14_eats_1 8 rfl rfl)
theorem dX14_eats_33 : decode cX14_eats 33 = .ok (.iaload, 1) := dk_46 (dk_at dksX14_eats_1 9 rfl rfl)
theorem dX14_eats_34 : decode cX14_eats 34 = .ok (.ireturn, 1) := dk_172 (dk_at dksX14_eats_1 10 rfl rfl)
def dkwX14_fast_1 : List UInt8 := [153, 0, 13, 42, 27, 28, 116, 182, 1, 44, 167, 0, 4, 2, 172]
abbrev dktX14_fast_1 : List UInt8 := dkwX14_fast_1 ++ []
def dkwX14_fast_0 : List UInt8 := [42, 3, 181, 0, 3, 42, 27, 182, 1, 41, 153, 0, 25, 28, 133, 10, 20, 1, 30, 184, 0, 120]
abbrev dktX14_fast_0 : List UInt8 := dkwX14_fast_0 ++ dktX14_fast_1
theorem dksX14_fast_0 : cX14_fast.data.toList.drop 0 = dktX14_fast_0 := by decide +kernel
theorem dksX14_fast_1 : cX14_fast.data.toList.drop 22 = dktX14_fast_1 := dk_seg dksX14_fast_0 22 rfl rfl
theorem dX14_fast_0 : decode cX14_fast 0 = .ok (.aload_n 0, 1) := dk_42 (dk_at dksX14_fast_0 0 rfl rfl)
theorem dX14_fast_1 : decode cX14_fast 1 = .ok (.iconst 0, 1) := dk_3 (dk_at dksX14_fast_0 1 rfl rfl)
theorem dX14_fast_2 : decode cX14_fast 2 = .ok (.putfield 3, 3) := dk_181 0 3 (dk_at dksX14_fast_0 2 rfl rfl)
theorem dX14_fast_5 : decode cX14_fast 5 = .ok (.aload_n 0, 1) := dk_42 (dk_at dksX14_fast_0 5 rfl rfl)
theorem dX14_fast_6 : decode cX14_fast 6 = .ok (.iload_n 1, 1) := dk_27 (dk_at dksX14_fast_0 6 rfl rfl)
theorem dX14_fast_7 : decode cX14_fast 7 = .ok (.invokevirtual 297, 3) := dk_182 1 41 (dk_at dksX14_fast_0 7 rfl rfl)
theorem dX14_fast_10 : decode cX14_fast 10 = .ok (.ifCond .eq 25, 3) := dk_153 0 25 (dk_at dksX14_fast_0 10 rfl rfl)
theorem dX14_fast_13 : decode cX14_fast 13 = .ok (.iload_n 2, 1) := dk_28 (dk_at dksX14_fast_0 13 rfl rfl)
theorem dX14_fast_14 : decode cX14_fast 14 = .ok (.i2l, 1) := dk_133 (dk_at dksX14_fast_0 14 rfl rfl)
theorem dX14_fast_15 : decode cX14_fast 15 = .ok (.lconst 1, 1) := dk_10 (dk_at dksX14_fast_0 15 rfl rfl)
theorem dX14_fast_16 : decode cX14_fast 16 = .ok (.ldc2_w 286, 3) := dk_20 1 30 (dk_at dksX14_fast_0 16 rfl rfl)
theorem dX14_fast_19 : decode cX14_fast 19 = .ok (.invokestatic 120, 3) := dk_184 0 120 (dk_at dksX14_fast_0 19 rfl rfl)
theorem dX14_fast_22 : decode cX14_fast 22 = .ok (.ifCond .eq 13, 3) := dk_153 0 13 (dk_at dksX14_fast_1 0 rfl rfl)
theorem dX14_fast_25 : decode cX14_fast 25 = .ok (.aload_n 0, 1) := dk_42 (dk_at dksX14_fast_1 3 rfl rfl)
theorem dX14_fast_26 : decode cX14_fast 26 = .ok (.iload_n 1, 1) := dk_27 (dk_at dksX14_fast_1 4 rfl rfl)
theorem dX14_fast_27 : decode cX14_fast 27 = .ok (.iload_n 2, 1) := dk_28 (dk_at dksX14_fast_1 5 rfl rfl)
theorem dX14_fast_28 : decode cX14_fast 28 = .ok (.ineg, 1) := dk_116 (dk_at dksX14_fast_1 6 rfl rfl)
theorem dX14_fast_29 : decode cX14_fast 29 = .ok (.invokevirtual 300, 3) := dk_182 1 44 (dk_at dksX14_fast_1 7 rfl rfl)
theorem dX14_fast_32 : decode cX14_fast 32 = .ok (.goto 4, 3) := dk_167 0 4 (dk_at dksX14_fast_1 10 rfl rfl)
theorem dX14_fast_35 : decode cX14_fast 35 = .ok (.iconst (-1), 1) := dk_2 (dk_at dksX14_fast_1 13 rfl rfl)
theorem dX14_fast_36 : decode cX14_fast 36 = .ok (.ireturn, 1) := dk_172 (dk_at dksX14_fast_1 14 rfl rfl)
def dkwX14_dies_3 : List UInt8 := [79, 28, 172]
abbrev dktX14_dies_3 : List UInt8 := dkwX14_dies_3 ++ []
def dkwX14_dies_2 : List UInt8 := [42, 42, 180, 0, 44, 182, 1, 20, 61, 42, 180, 0, 44, 16, 17, 2, 79, 42, 180, 0, 44, 16, 18, 3]
abbrev dktX14_dies_2 : List UInt8 := dkwX14_dies_2 ++ dktX14_dies_3
def dkwX14_dies_1 : List UInt8 := [16, 16, 92, 46, 4, 27, 120, 2, 130, 126, 79, 42, 180, 0, 44, 16, 17, 46, 27, 159, 0, 5, 3, 172]
abbrev dktX14_dies_1 : List UInt8 := dkwX14_dies_1 ++ dktX14_dies_2
def dkwX14_dies_0 : List UInt8 := [42, 3, 181, 0, 3, 42, 27, 182, 1, 41, 154, 0, 5, 2, 172, 42, 182, 1, 23, 42, 180, 0, 44]
abbrev dktX14_dies_0 : List UInt8 := dkwX14_dies_0 ++ dktX14_dies_1
theorem dksX14_dies_0 : cX14_dies.data.toList.drop 0 = dktX14_dies_0 := by decide +kernel
theorem dksX14_dies_1 : cX14_dies.data.toList.drop 23 = dktX14_dies_1 := dk_seg dksX14_dies_0 23 rfl rfl
theorem dksX14_dies_2 : cX14_dies.data.toList.drop 47 = dktX14_dies_2 := dk_seg dksX14_dies_1 24 rfl rfl
theorem dksX14_dies_3 : cX14_dies.data.toList.drop 71 = dktX14_dies_3 := dk_seg dksX14_dies_2 24 rfl rfl
theorem dX14_dies_0 : decode cX14_dies 0 = .ok (.aload_n 0, 1) := dk_42 (dk_at dksX14_dies_0 0 rfl rfl)
theorem dX14_dies_1 : decode cX14_dies 1 = .ok (.iconst 0, 1) := dk_3 (dk_at dksX14_dies_0 1 rfl rfl)
theorem dX14_dies_2 : decode cX14_dies 2 = .ok (.putfield 3, 3) := dk_181 0 3 (dk_at dksX14_dies_0 2 rfl rfl)
theorem dX14_dies_5 : decode cX14_dies 5 = .ok (.aload_n 0, 1) := dk_42 (dk_at dksX14_dies_0 5 rfl rfl)
theorem dX14_dies_6 : decode cX14_dies 6 = .ok (.iload_n 1, 1) := dk_27 (dk_at dksX14_dies_0 6 rfl rfl)
theorem dX14_dies_7 : decode cX14_dies 7 = .ok (.invokevirtual 297, 3) := dk_182 1 41 (dk_at dksX14_dies_0 7 rfl rfl)
theorem dX14_dies_10 : decode cX14_dies 10 = .ok (.ifCond .ne 5, 3) := dk_154 0 5 (dk_at dksX14_dies_0 10 rfl rfl)
theorem dX14_dies_13 : decode cX14_dies 13 = .ok (.iconst (-1), 1) := dk_2 (dk_at dksX14_dies_0 13 rfl rfl)
theorem dX14_dies_14 : decode cX14_dies 14 = .ok (.ireturn, 1) := dk_172 (dk_at dksX14_dies_0 14 rfl rfl)
theorem dX14_dies_15 : decode cX14_dies 15 = .ok (.aload_n 0, 1) := dk_42 (dk_at dksX14_dies_0 15 rfl rfl)
theorem dX14_dies_16 : decode cX14_dies 16 = .ok (.invokevirtual 279, 3) := dk_182 1 23 (dk_at dksX14_dies_0 16 rfl rfl)
theorem dX14_dies_19 : decode cX14_dies 19 = .ok (.aload_n 0, 1) := dk_42 (dk_at dksX14_dies_0 19 rfl rfl)
theorem dX14_dies_20 : decode cX14_dies 20 = .ok (.getfield 44, 3) := dk_180 0 44 (dk_at dksX14_dies_0 20 rfl rfl)
theorem dX14_dies_23 : decode cX14_dies 23 = .ok (.bipush 16, 2) := dk_16 16 (dk_at dksX14_dies_1 0 rfl rfl)
theorem dX14_dies_25 : decode cX14_dies 25 = .ok (.dup2, 1) := dk_92 (dk_at dksX14_dies_1 2 rfl rfl)
theorem dX14_dies_26 : decode cX14_dies 26 = .ok (.iaload, 1) := dk_46 (dk_at dksX14_dies_1 3 rfl rfl)
theorem dX14_dies_27 : decode cX14_dies 27 = .ok (.iconst 1, 1) := dk_4 (dk_at dksX14_dies_1 4 rfl rfl)
theorem dX14_dies_28 : decode cX14_dies 28 = .ok (.iload_n 1, 1) := dk_27 (dk_at dksX14_dies_1 5 rfl rfl)
theorem dX14_dies_29 : decode cX14_dies 29 = .ok (.ishl, 1) := dk_120 (dk_at dksX14_dies_1 6 rfl rfl)
theorem dX14_dies_30 : decode cX14_dies 30 = .ok (.iconst (-1), 1) := dk_2 (dk_at dksX14_dies_1 7 rfl rfl)
theorem dX14_dies_31 : decode cX14_dies 31 = .ok (.ixor, 1) := dk_130 (dk_at dksX14_dies_1 8 rfl rfl)
theorem dX14_dies_32 : decode cX14_dies 32 = .ok (.iand, 1) := dk_126 (dk_at dksX14_dies_1 9 rfl rfl)
theorem dX14_dies_33 : decode cX14_dies 33 = .ok (.iastore, 1) := dk_79 (dk_at dksX14_dies_1 10 rfl rfl)
theorem dX14_dies_34 : decode cX14_dies 34 = .ok (.aload_n 0, 1) := dk_42 (dk_at dksX14_dies_1 11 rfl rfl)
theorem dX14_dies_35 : decode cX14_dies 35 = .ok (.getfield 44, 3) := dk_180 0 44 (dk_at dksX14_dies_1 12 rfl rfl)
theorem dX14_dies_38 : decode cX14_dies 38 = .ok (.bipush 17, 2) := dk_16 17 (dk_at dksX14_dies_1 15 rfl rfl)
theorem dX14_dies_40 : decode cX14_dies 40 = .ok (.iaload, 1) := dk_46 (dk_at dksX14_dies_1 17 rfl rfl)
theorem dX14_dies_41 : decode cX14_dies 41 = .ok (.iload_n 1, 1) := dk_27 (dk_at dksX14_dies_1 18 rfl rfl)
theorem dX14_dies_42 : decode cX14_dies 42 = .ok (.if_icmp .eq 5, 3) := dk_159 0 5 (dk_at dksX14_dies_1 19 rfl rfl)
theorem dX14_dies_45 : decode cX14_dies 45 = .ok (.iconst 0, 1) := dk_3 (dk_at dksX14_dies_1 22 rfl rfl)
theorem dX14_dies_46 : decode cX14_dies 46 = .ok (.ireturn, 1) := dk_172 (dk_at dksX14_dies_1 23 rfl rfl)
theorem dX14_dies_47 : decode cX14_dies 47 = .ok (.aload_n 0, 1) := dk_42 (dk_at dksX14_dies_2 0 rfl rfl)
theorem dX14_dies_48 : decode cX14_dies 48 = .ok (.aload_n 0, 1) := dk_42 (dk_at dksX14_dies_2 1 rfl rfl)
theorem dX14_dies_49 : decode cX14_dies 49 = .ok (.getfield 44, 3) := dk_180 0 44 (dk_at dksX14_dies_2 2 rfl rfl)
theorem dX14_dies_52 : decode cX14_dies 52 = .ok (.invokevirtual 276, 3) := dk_182 1 20 (dk_at dksX14_dies_2 5 rfl rfl)
theorem dX14_dies_55 : decode cX14_dies 55 = .ok (.istore_n 2, 1) := dk_61 (dk_at dksX14_dies_2 8 rfl rfl)
theorem dX14_dies_56 : decode cX14_dies 56 = .ok (.aload_n 0, 1) := dk_42 (dk_at dksX14_dies_2 9 rfl rfl)
theorem dX14_dies_57 : decode cX14_dies 57 = .ok (.getfield 44, 3) := dk_180 0 44 (dk_at dksX14_dies_2 10 rfl rfl)
theorem dX14_dies_60 : decode cX14_dies 60 = .ok (.bipush 17, 2) := dk_16 17 (dk_at dksX14_dies_2 13 rfl rfl)
theorem dX14_dies_62 : decode cX14_dies 62 = .ok (.iconst (-1), 1) := dk_2 (dk_at dksX14_dies_2 15 rfl rfl)
theorem dX14_dies_63 : decode cX14_dies 63 = .ok (.iastore, 1) := dk_79 (dk_at dksX14_dies_2 16 rfl rfl)
theorem dX14_dies_64 : decode cX14_dies 64 = .ok (.aload_n 0, 1) := dk_42 (dk_at dksX14_dies_2 17 rfl rfl)
theorem dX14_dies_65 : decode cX14_dies 65 = .ok (.getfield 44, 3) := dk_180 0 44 (dk_at dksX14_dies_2 18 rfl rfl)
theorem dX14_dies_68 : decode cX14_dies 68 = .ok (.bipush 18, 2) := dk_16 18 (dk_at dksX14_dies_2 21 rfl rfl)
theorem dX14_dies_70 : decode cX14_dies 70 = .ok (.iconst 0, 1) := dk_3 (dk_at dksX14_dies_2 23 rfl rfl)
theorem dX14_dies_71 : decode cX14_dies 71 = .ok (.iastore, 1) := dk_79 (dk_at dksX14_dies_3 0 rfl rfl)
theorem dX14_dies_72 : decode cX14_dies 72 = .ok (.iload_n 2, 1) := dk_28 (dk_at dksX14_dies_3 1 rfl rfl)
theorem dX14_dies_73 : decode cX14_dies 73 = .ok (.ireturn, 1) := dk_172 (dk_at dksX14_dies_3 2 rfl rfl)
def dkwX14_served_2 : List UInt8 := [27, 16, 60, 112, 96, 46, 172]
abbrev dktX14_served_2 : List UInt8 := dkwX14_served_2 ++ []
def dkwX14_served_1 : List UInt8 := [180, 0, 44, 16, 19, 46, 4, 100, 133, 184, 0, 120, 154, 0, 6, 16, 254, 172, 42, 180, 0, 44, 16, 57]
abbrev dktX14_served_1 : List UInt8 := dkwX14_served_1 ++ dktX14_served_2
def dkwX14_served_0 : List UInt8 := [42, 3, 181, 0, 3, 27, 133, 3, 42, 180, 0, 44, 16, 19, 46, 16, 60, 100, 184, 0, 254, 133, 42]
abbrev dktX14_served_0 : List UInt8 := dkwX14_served_0 ++ dktX14_served_1
theorem dksX14_served_0 : cX14_served.data.toList.drop 0 = dktX14_served_0 := by decide +kernel
theorem dksX14_served_1 : cX14_served.data.toList.drop 23 = dktX14_served_1 := dk_seg dksX14_served_0 23 rfl rfl
theorem dksX14_served_2 : cX14_served.data.toList.drop 47 = dktX14_served_2 := dk_seg dksX14_served_1 24 rfl rfl
theorem dX14_served_0 : decode cX14_served 0 = .ok (.aload_n 0, 1) := dk_42 (dk_at dksX14_served_0 0 rfl rfl)
theorem dX14_served_1 : decode cX14_served 1 = .ok (.iconst 0, 1) := dk_3 (dk_at dksX14_served_0 1 rfl rfl)
theorem dX14_served_2 : decode cX14_served 2 = .ok (.putfield 3, 3) := dk_181 0 3 (dk_at dksX14_served_0 2 rfl rfl)
theorem dX14_served_5 : decode cX14_served 5 = .ok (.iload_n 1, 1) := dk_27 (dk_at dksX14_served_0 5 rfl rfl)
theorem dX14_served_6 : decode cX14_served 6 = .ok (.i2l, 1) := dk_133 (dk_at dksX14_served_0 6 rfl rfl)
theorem dX14_served_7 : decode cX14_served 7 = .ok (.iconst 0, 1) := dk_3 (dk_at dksX14_served_0 7 rfl rfl)
theorem dX14_served_8 : decode cX14_served 8 = .ok (.aload_n 0, 1) := dk_42 (dk_at dksX14_served_0 8 rfl rfl)
theorem dX14_served_9 : decode cX14_served 9 = .ok (.getfield 44, 3) := dk_180 0 44 (dk_at dksX14_served_0 9 rfl rfl)
theorem dX14_served_12 : decode cX14_served 12 = .ok (.bipush 19, 2) := dk_16 19 (dk_at dksX14_served_0 12 rfl rfl)
theorem dX14_served_14 : decode cX14_served 14 = .ok (.iaload, 1) := dk_46 (dk_at dksX14_served_0 14 rfl rfl)
theorem dX14_served_15 : decode cX14_served 15 = .ok (.bipush 60, 2) := dk_16 60 (dk_at dksX14_served_0 15 rfl rfl)
theorem dX14_served_17 : decode cX14_served 17 = .ok (.isub, 1) := dk_100 (dk_at dksX14_served_0 17 rfl rfl)
theorem dX14_served_18 : decode cX14_served 18 = .ok (.invokestatic 254, 3) := dk_184 0 254 (dk_at dksX14_served_0 18 rfl rfl)
theorem dX14_served_21 : decode cX14_served 21 = .ok (.i2l, 1) := dk_133 (dk_at dksX14_served_0 21 rfl rfl)
theorem dX14_served_22 : decode cX14_served 22 = .ok (.aload_n 0, 1) := dk_42 (dk_at dksX14_served_0 22 rfl rfl)
theorem dX14_served_23 : decode cX14_served 23 = .ok (.getfield 44, 3) := dk_180 0 44 (dk_at dksX14_served_1 0 rfl rfl)
theorem dX14_served_26 : decode cX14_served 26 = .ok (.bipush 19, 2) := dk_16 19 (dk_at dksX14_served_1 3 rfl rfl)
theorem dX14_served_28 : decode cX14_served 28 = .ok (.iaload, 1) := dk_46 (dk_at dksX14_served_1 5 rfl rfl)
theorem dX14_served_29 : decode cX14_served 29 = .ok (.iconst 1, 1) := dk_4 (dk_at dksX14_served_1 6 rfl rfl)
theorem dX14_served_30 : decode cX14_served 30 = .ok (.isub, 1) := dk_100 (dk_at dksX14_served_1 7 rfl rfl)
theorem dX14_served_31 : decode cX14_served 31 = .ok (.i2l, 1) := dk_133 (dk_at dksX14_served_1 8 rfl rfl)
theorem dX14_served_32 : decode cX14_served 32 = .ok (.invokestatic 120, 3) := dk_184 0 120 (dk_at dksX14_served_1 9 rfl rfl)
theorem dX14_served_35 : decode cX14_served 35 = .ok (.ifCond .ne 6, 3) := dk_154 0 6 (dk_at dksX14_served_1 12 rfl rfl)
theorem dX14_served_38 : decode cX14_served 38 = .ok (.bipush (-2), 2) := dk_16 254 (dk_at dksX14_served_1 15 rfl rfl)
theorem dX14_served_40 : decode cX14_served 40 = .ok (.ireturn, 1) := dk_172 (dk_at dksX14_served_1 17 rfl rfl)
theorem dX14_served_41 : decode cX14_served 41 = .ok (.aload_n 0, 1) := dk_42 (dk_at dksX14_served_1 18 rfl rfl)
theorem dX14_served_42 : decode cX14_served 42 = .ok (.getfield 44, 3) := dk_180 0 44 (dk_at dksX14_served_1 19 rfl rfl)
theorem dX14_served_45 : decode cX14_served 45 = .ok (.bipush 57, 2) := dk_16 57 (dk_at dksX14_served_1 22 rfl rfl)
theorem dX14_served_47 : decode cX14_served 47 = .ok (.iload_n 1, 1) := dk_27 (dk_at dksX14_served_2 0 rfl rfl)
theorem dX14_served_48 : decode cX14_served 48 = .ok (.bipush 60, 2) := dk_16 60 (dk_at dksX14_served_2 1 rfl rfl)
theorem dX14_served_50 : decode cX14_served 50 = .ok (.irem, 1) := dk_112 (dk_at dksX14_served_2 3 rfl rfl)
theorem dX14_served_51 : decode cX14_served 51 = .ok (.iadd, 1) := dk_96 (dk_at dksX14_served_2 4 rfl rfl)
theorem dX14_served_52 : decode cX14_served 52 = .ok (.iaload, 1) := dk_46 (dk_at dksX14_served_2 5 rfl rfl)
theorem dX14_served_53 : decode cX14_served 53 = .ok (.ireturn, 1) := dk_172 (dk_at dksX14_served_2 6 rfl rfl)
def dkwX14_later_1 : List UInt8 := [182, 1, 57, 42, 28, 3, 182, 1, 60, 42, 180, 0, 47, 27, 46, 172]
abbrev dktX14_later_1 : List UInt8 := dkwX14_later_1 ++ []
def dkwX14_later_0 : List UInt8 := [42, 3, 181, 0, 3, 42, 27, 182, 1, 41, 153, 0, 10, 28, 184, 1, 54, 154, 0, 5, 2, 172, 42]
abbrev dktX14_later_0 : List UInt8 := dkwX14_later_0 ++ dktX14_later_1
theorem dksX14_later_0 : cX14_later.data.toList.drop 0 = dktX14_later_0 := by decide +kernel
theorem dksX14_later_1 : cX14_later.data.toList.drop 23 = dktX14_later_1 := dk_seg dksX14_later_0 23 rfl rfl
theorem dX14_later_0 : decode cX14_later 0 = .ok (.aload_n 0, 1) := dk_42 (dk_at dksX14_later_0 0 rfl rfl)
theorem dX14_later_1 : decode cX14_later 1 = .ok (.iconst 0, 1) := dk_3 (dk_at dksX14_later_0 1 rfl rfl)
theorem dX14_later_2 : decode cX14_later 2 = .ok (.putfield 3, 3) := dk_181 0 3 (dk_at dksX14_later_0 2 rfl rfl)
theorem dX14_later_5 : decode cX14_later 5 = .ok (.aload_n 0, 1) := dk_42 (dk_at dksX14_later_0 5 rfl rfl)
theorem dX14_later_6 : decode cX14_later 6 = .ok (.iload_n 1, 1) := dk_27 (dk_at dksX14_later_0 6 rfl rfl)
theorem dX14_later_7 : decode cX14_later 7 = .ok (.invokevirtual 297, 3) := dk_182 1 41 (dk_at dksX14_later_0 7 rfl rfl)
theorem dX14_later_10 : decode cX14_later 10 = .ok (.ifCond .eq 10, 3) := dk_153 0 10 (dk_at dksX14_later_0 10 rfl rfl)
theorem dX14_later_13 : decode cX14_later 13 = .ok (.iload_n 2, 1) := dk_28 (dk_at dksX14_later_0 13 rfl rfl)
theorem dX14_later_14 : decode cX14_later 14 = .ok (.invokestatic 310, 3) := dk_184 1 54 (dk_at dksX14_later_0 14 rfl rfl)
theorem dX14_later_17 : decode cX14_later 17 = .ok (.ifCond .ne 5, 3) := dk_154 0 5 (dk_at dksX14_later_0 17 rfl rfl)
theorem dX14_later_20 : decode cX14_later 20 = .ok (.iconst (-1), 1) := dk_2 (dk_at dksX14_later_0 20 rfl rfl)
theorem dX14_later_21 : decode cX14_later 21 = .ok (.ireturn, 1) := dk_172 (dk_at dksX14_later_0 21 rfl rfl)
theorem dX14_later_22 : decode cX14_later 22 = .ok (.aload_n 0, 1) := dk_42 (dk_at dksX14_later_0 22 rfl rfl)
theorem dX14_later_23 : decode cX14_later 23 = .ok (.invokevirtual 313, 3) := dk_182 1 57 (dk_at dksX14_later_1 0 rfl rfl)
theorem dX14_later_26 : decode cX14_later 26 = .ok (.aload_n 0, 1) := dk_42 (dk_at dksX14_later_1 3 rfl rfl)
theorem dX14_later_27 : decode cX14_later 27 = .ok (.iload_n 2, 1) := dk_28 (dk_at dksX14_later_1 4 rfl rfl)
theorem dX14_later_28 : decode cX14_later 28 = .ok (.iconst 0, 1) := dk_3 (dk_at dksX14_later_1 5 rfl rfl)
theorem dX14_later_29 : decode cX14_later 29 = .ok (.invokevirtual 316, 3) := dk_182 1 60 (dk_at dksX14_later_1 6 rfl rfl)
theorem dX14_later_32 : decode cX14_later 32 = .ok (.aload_n 0, 1) := dk_42 (dk_at dksX14_later_1 9 rfl rfl)
theorem dX14_later_33 : decode cX14_later 33 = .ok (.getfield 47, 3) := dk_180 0 47 (dk_at dksX14_later_1 10 rfl rfl)
theorem dX14_later_36 : decode cX14_later 36 = .ok (.iload_n 1, 1) := dk_27 (dk_at dksX14_later_1 13 rfl rfl)
theorem dX14_later_37 : decode cX14_later 37 = .ok (.iaload, 1) := dk_46 (dk_at dksX14_later_1 14 rfl rfl)
theorem dX14_later_38 : decode cX14_later 38 = .ok (.ireturn, 1) := dk_172 (dk_at dksX14_later_1 15 rfl rfl)
def dkwX14_areWeeks_0 : List UInt8 := [26, 133, 9, 20, 1, 30, 184, 0, 120, 172]
abbrev dktX14_areWeeks_0 : List UInt8 := dkwX14_areWeeks_0 ++ []
theorem dksX14_areWeeks_0 : cX14_areWeeks.data.toList.drop 0 = dktX14_areWeeks_0 := by decide +kernel
theorem dX14_areWeeks_0 : decode cX14_areWeeks 0 = .ok (.iload_n 0, 1) := dk_26 (dk_at dksX14_areWeeks_0 0 rfl rfl)
theorem dX14_areWeeks_1 : decode cX14_areWeeks 1 = .ok (.i2l, 1) := dk_133 (dk_at dksX14_areWeeks_0 1 rfl rfl)
theorem dX14_areWeeks_2 : decode cX14_areWeeks 2 = .ok (.lconst 0, 1) := dk_9 (dk_at dksX14_areWeeks_0 2 rfl rfl)
theorem dX14_areWeeks_3 : decode cX14_areWeeks 3 = .ok (.ldc2_w 286, 3) := dk_20 1 30 (dk_at dksX14_areWeeks_0 3 rfl rfl)
theorem dX14_areWeeks_6 : decode cX14_areWeeks 6 = .ok (.invokestatic 120, 3) := dk_184 0 120 (dk_at dksX14_areWeeks_0 6 rfl rfl)
theorem dX14_areWeeks_9 : decode cX14_areWeeks 9 = .ok (.ireturn, 1) := dk_172 (dk_at dksX14_areWeeks_0 9 rfl rfl)
def dkwX14_starts_1 : List UInt8 := [3, 79, 132, 1, 1, 167, 255, 240, 177]
abbrev dktX14_starts_1 : List UInt8 := dkwX14_starts_1 ++ []
def dkwX14_starts_0 : List UInt8 := [42, 180, 0, 44, 42, 180, 0, 47, 184, 1, 47, 3, 60, 27, 16, 8, 162, 0, 16, 42, 180, 0, 80, 27]
abbrev dktX14_starts_0 : List UInt8 := dkwX14_starts_0 ++ dktX14_starts_1
theorem dksX14_starts_0 : cX14_starts.data.toList.drop 0 = dktX14_starts_0 := by decide +kernel
theorem dksX14_starts_1 : cX14_starts.data.toList.drop 24 = dktX14_starts_1 := dk_seg dksX14_starts_0 24 rfl rfl
theorem dX14_starts_0 : decode cX14_starts 0 = .ok (.aload_n 0, 1) := dk_42 (dk_at dksX14_starts_0 0 rfl rfl)
theorem dX14_starts_1 : decode cX14_starts 1 = .ok (.getfield 44, 3) := dk_180 0 44 (dk_at dksX14_starts_0 1 rfl rfl)
theorem dX14_starts_4 : decode cX14_starts 4 = .ok (.aload_n 0, 1) := dk_42 (dk_at dksX14_starts_0 4 rfl rfl)
theorem dX14_starts_5 : decode cX14_starts 5 = .ok (.getfield 47, 3) := dk_180 0 47 (dk_at dksX14_starts_0 5 rfl rfl)
theorem dX14_starts_8 : decode cX14_starts 8 = .ok (.invokestatic 303, 3) := dk_184 1 47 (dk_at dksX14_starts_0 8 rfl rfl)
theorem dX14_starts_11 : decode cX14_starts 11 = .ok (.iconst 0, 1) := dk_3 (dk_at dksX14_starts_0 11 rfl rfl)
theorem dX14_starts_12 : decode cX14_starts 12 = .ok (.istore_n 1, 1) := dk_60 (dk_at dksX14_starts_0 12 rfl rfl)
theorem dX14_starts_13 : decode cX14_starts 13 = .ok (.iload_n 1, 1) := dk_27 (dk_at dksX14_starts_0 13 rfl rfl)
theorem dX14_starts_14 : decode cX14_starts 14 = .ok (.bipush 8, 2) := dk_16 8 (dk_at dksX14_starts_0 14 rfl rfl)
theorem dX14_starts_16 : decode cX14_starts 16 = .ok (.if_icmp .ge 16, 3) := dk_162 0 16 (dk_at dksX14_starts_0 16 rfl rfl)
theorem dX14_starts_19 : decode cX14_starts 19 = .ok (.aload_n 0, 1) := dk_42 (dk_at dksX14_starts_0 19 rfl rfl)
theorem dX14_starts_20 : decode cX14_starts 20 = .ok (.getfield 80, 3) := dk_180 0 80 (dk_at dksX14_starts_0 20 rfl rfl)
theorem dX14_starts_23 : decode cX14_starts 23 = .ok (.iload_n 1, 1) := dk_27 (dk_at dksX14_starts_0 23 rfl rfl)
theorem dX14_starts_24 : decode cX14_starts 24 = .ok (.iconst 0, 1) := dk_3 (dk_at dksX14_starts_1 0 rfl rfl)
theorem dX14_starts_25 : decode cX14_starts 25 = .ok (.iastore, 1) := dk_79 (dk_at dksX14_starts_1 1 rfl rfl)
theorem dX14_starts_26 : decode cX14_starts 26 = .ok (.iinc 1 1, 3) := dk_132 1 1 (dk_at dksX14_starts_1 2 rfl rfl)
theorem dX14_starts_29 : decode cX14_starts 29 = .ok (.goto (-16), 3) := dk_167 255 240 (dk_at dksX14_starts_1 5 rfl rfl)
theorem dX14_starts_32 : decode cX14_starts 32 = .ok (.return_, 1) := dk_177 (dk_at dksX14_starts_1 8 rfl rfl)
def dkwX14_puts_0 : List UInt8 := [3, 61, 28, 16, 117, 162, 0, 15, 43, 28, 42, 28, 46, 79, 132, 2, 1, 167, 255, 241, 177]
abbrev dktX14_puts_0 : List UInt8 := dkwX14_puts_0 ++ []
theorem dksX14_puts_0 : cX14_puts.data.toList.drop 0 = dktX14_puts_0 := by decide +kernel
theorem dX14_puts_0 : decode cX14_puts 0 = .ok (.iconst 0, 1) := dk_3 (dk_at dksX14_puts_0 0 rfl rfl)
theorem dX14_puts_1 : decode cX14_puts 1 = .ok (.istore_n 2, 1) := dk_61 (dk_at dksX14_puts_0 1 rfl rfl)
theorem dX14_puts_2 : decode cX14_puts 2 = .ok (.iload_n 2, 1) := dk_28 (dk_at dksX14_puts_0 2 rfl rfl)
theorem dX14_puts_3 : decode cX14_puts 3 = .ok (.bipush 117, 2) := dk_16 117 (dk_at dksX14_puts_0 3 rfl rfl)
theorem dX14_puts_5 : decode cX14_puts 5 = .ok (.if_icmp .ge 15, 3) := dk_162 0 15 (dk_at dksX14_puts_0 5 rfl rfl)
theorem dX14_puts_8 : decode cX14_puts 8 = .ok (.aload_n 1, 1) := dk_43 (dk_at dksX14_puts_0 8 rfl rfl)
theorem dX14_puts_9 : decode cX14_puts 9 = .ok (.iload_n 2, 1) := dk_28 (dk_at dksX14_puts_0 9 rfl rfl)
theorem dX14_puts_10 : decode cX14_puts 10 = .ok (.aload_n 0, 1) := dk_42 (dk_at dksX14_puts_0 10 rfl rfl)
theorem dX14_puts_11 : decode cX14_puts 11 = .ok (.iload_n 2, 1) := dk_28 (dk_at dksX14_puts_0 11 rfl rfl)
theorem dX14_puts_12 : decode cX14_puts 12 = .ok (.iaload, 1) := dk_46 (dk_at dksX14_puts_0 12 rfl rfl)
theorem dX14_puts_13 : decode cX14_puts 13 = .ok (.iastore, 1) := dk_79 (dk_at dksX14_puts_0 13 rfl rfl)
theorem dX14_puts_14 : decode cX14_puts 14 = .ok (.iinc 2 1, 3) := dk_132 2 1 (dk_at dksX14_puts_0 14 rfl rfl)
theorem dX14_puts_17 : decode cX14_puts 17 = .ok (.goto (-15), 3) := dk_167 255 241 (dk_at dksX14_puts_0 17 rfl rfl)
theorem dX14_puts_20 : decode cX14_puts 20 = .ok (.return_, 1) := dk_177 (dk_at dksX14_puts_0 20 rfl rfl)
def dkwX14_goesBy_1 : List UInt8 := [132, 3, 1, 167, 255, 232, 177]
abbrev dktX14_goesBy_1 : List UInt8 := dkwX14_goesBy_1 ++ []
def dkwX14_goesBy_0 : List UInt8 := [3, 62, 29, 27, 162, 0, 25, 42, 42, 42, 180, 0, 47, 182, 1, 32, 28, 2, 130, 126, 182, 1, 51]
abbrev dktX14_goesBy_0 : List UInt8 := dkwX14_goesBy_0 ++ dktX14_goesBy_1
theorem dksX14_goesBy_0 : cX14_goesBy.data.toList.drop 0 = dktX14_goesBy_0 := by decide +kernel
theorem dksX14_goesBy_1 : cX14_goesBy.data.toList.drop 23 = dktX14_goesBy_1 := dk_seg dksX14_goesBy_0 23 rfl rfl
theorem dX14_goesBy_0 : decode cX14_goesBy 0 = .ok (.iconst 0, 1) := dk_3 (dk_at dksX14_goesBy_0 0 rfl rfl)
theorem dX14_goesBy_1 : decode cX14_goesBy 1 = .ok (.istore_n 3, 1) := dk_62 (dk_at dksX14_goesBy_0 1 rfl rfl)
theorem dX14_goesBy_2 : decode cX14_goesBy 2 = .ok (.iload_n 3, 1) := dk_29 (dk_at dksX14_goesBy_0 2 rfl rfl)
theorem dX14_goesBy_3 : decode cX14_goesBy 3 = .ok (.iload_n 1, 1) := dk_27 (dk_at dksX14_goesBy_0 3 rfl rfl)
theorem dX14_goesBy_4 : decode cX14_goesBy 4 = .ok (.if_icmp .ge 25, 3) := dk_162 0 25 (dk_at dksX14_goesBy_0 4 rfl rfl)
theorem dX14_goesBy_7 : decode cX14_goesBy 7 = .ok (.aload_n 0, 1) := dk_42 (dk_at dksX14_goesBy_0 7 rfl rfl)
theorem dX14_goesBy_8 : decode cX14_goesBy 8 = .ok (.aload_n 0, 1) := dk_42 (dk_at dksX14_goesBy_0 8 rfl rfl)
theorem dX14_goesBy_9 : decode cX14_goesBy 9 = .ok (.aload_n 0, 1) := dk_42 (dk_at dksX14_goesBy_0 9 rfl rfl)
theorem dX14_goesBy_10 : decode cX14_goesBy 10 = .ok (.getfield 47, 3) := dk_180 0 47 (dk_at dksX14_goesBy_0 10 rfl rfl)
theorem dX14_goesBy_13 : decode cX14_goesBy 13 = .ok (.invokevirtual 288, 3) := dk_182 1 32 (dk_at dksX14_goesBy_0 13 rfl rfl)
theorem dX14_goesBy_16 : decode cX14_goesBy 16 = .ok (.iload_n 2, 1) := dk_28 (dk_at dksX14_goesBy_0 16 rfl rfl)
theorem dX14_goesBy_17 : decode cX14_goesBy 17 = .ok (.iconst (-1), 1) := dk_2 (dk_at dksX14_goesBy_0 17 rfl rfl)
theorem dX14_goesBy_18 : decode cX14_goesBy 18 = .ok (.ixor, 1) := dk_130 (dk_at dksX14_goesBy_0 18 rfl rfl)
theorem dX14_goesBy_19 : decode cX14_goesBy 19 = .ok (.iand, 1) := dk_126 (dk_at dksX14_goesBy_0 19 rfl rfl)
theorem dX14_goesBy_20 : decode cX14_goesBy 20 = .ok (.invokevirtual 307, 3) := dk_182 1 51 (dk_at dksX14_goesBy_0 20 rfl rfl)
theorem dX14_goesBy_23 : decode cX14_goesBy 23 = .ok (.iinc 3 1, 3) := dk_132 3 1 (dk_at dksX14_goesBy_1 0 rfl rfl)
theorem dX14_goesBy_26 : decode cX14_goesBy 26 = .ok (.goto (-24), 3) := dk_167 255 232 (dk_at dksX14_goesBy_1 3 rfl rfl)
theorem dX14_goesBy_29 : decode cX14_goesBy 29 = .ok (.return_, 1) := dk_177 (dk_at dksX14_goesBy_1 6 rfl rfl)
def dkwX14_goesNext_1 : List UInt8 := [180, 0, 47, 16, 17, 46, 92, 46, 4, 96, 79, 177]
abbrev dktX14_goesNext_1 : List UInt8 := dkwX14_goesNext_1 ++ []
def dkwX14_goesNext_0 : List UInt8 := [42, 42, 180, 0, 47, 27, 182, 1, 26, 42, 180, 0, 47, 16, 17, 46, 155, 0, 19, 42, 180, 0, 80, 42]
abbrev dktX14_goesNext_0 : List UInt8 := dkwX14_goesNext_0 ++ dktX14_goesNext_1
theorem dksX14_goesNext_0 : cX14_goesNext.data.toList.drop 0 = dktX14_goesNext_0 := by decide +kernel
theorem dksX14_goesNext_1 : cX14_goesNext.data.toList.drop 24 = dktX14_goesNext_1 := dk_seg dksX14_goesNext_0 24 rfl rfl
theorem dX14_goesNext_0 : decode cX14_goesNext 0 = .ok (.aload_n 0, 1) := dk_42 (dk_at dksX14_goesNext_0 0 rfl rfl)
theorem dX14_goesNext_1 : decode cX14_goesNext 1 = .ok (.aload_n 0, 1) := dk_42 (dk_at dksX14_goesNext_0 1 rfl rfl)
theorem dX14_goesNext_2 : decode cX14_goesNext 2 = .ok (.getfield 47, 3) := dk_180 0 47 (dk_at dksX14_goesNext_0 2 rfl rfl)
theorem dX14_goesNext_5 : decode cX14_goesNext 5 = .ok (.iload_n 1, 1) := dk_27 (dk_at dksX14_goesNext_0 5 rfl rfl)
theorem dX14_goesNext_6 : decode cX14_goesNext 6 = .ok (.invokevirtual 282, 3) := dk_182 1 26 (dk_at dksX14_goesNext_0 6 rfl rfl)
theorem dX14_goesNext_9 : decode cX14_goesNext 9 = .ok (.aload_n 0, 1) := dk_42 (dk_at dksX14_goesNext_0 9 rfl rfl)
theorem dX14_goesNext_10 : decode cX14_goesNext 10 = .ok (.getfield 47, 3) := dk_180 0 47 (dk_at dksX14_goesNext_0 10 rfl rfl)
theorem dX14_goesNext_13 : decode cX14_goesNext 13 = .ok (.bipush 17, 2) := dk_16 17 (dk_at dksX14_goesNext_0 13 rfl rfl)
theorem dX14_goesNext_15 : decode cX14_goesNext 15 = .ok (.iaload, 1) := dk_46 (dk_at dksX14_goesNext_0 15 rfl rfl)
theorem dX14_goesNext_16 : decode cX14_goesNext 16 = .ok (.ifCond .lt 19, 3) := dk_155 0 19 (dk_at dksX14_goesNext_0 16 rfl rfl)
theorem dX14_goesNext_19 : decode cX14_goesNext 19 = .ok (.aload_n 0, 1) := dk_42 (dk_at dksX14_goesNext_0 19 rfl rfl)
theorem dX14_goesNext_20 : decode cX14_goesNext 20 = .ok (.getfield 80, 3) := dk_180 0 80 (dk_at dksX14_goesNext_0 20 rfl rfl)
theorem dX14_goesNext_23 : decode cX14_goesNext 23 = .ok (.aload_n 0, 1) := dk_42 (dk_at dksX14_goesNext_0 23 rfl rfl)
theorem dX14_goesNext_24 : decode cX14_goesNext 24 = .ok (.getfield 47, 3) := dk_180 0 47 (dk_at dksX14_goesNext_1 0 rfl rfl)
theorem dX14_goesNext_27 : decode cX14_goesNext 27 = .ok (.bipush 17, 2) := dk_16 17 (dk_at dksX14_goesNext_1 3 rfl rfl)
theorem dX14_goesNext_29 : decode cX14_goesNext 29 = .ok (.iaload, 1) := dk_46 (dk_at dksX14_goesNext_1 5 rfl rfl)
theorem dX14_goesNext_30 : decode cX14_goesNext 30 = .ok (.dup2, 1) := dk_92 (dk_at dksX14_goesNext_1 6 rfl rfl)
theorem dX14_goesNext_31 : decode cX14_goesNext 31 = .ok (.iaload, 1) := dk_46 (dk_at dksX14_goesNext_1 7 rfl rfl)
theorem dX14_goesNext_32 : decode cX14_goesNext 32 = .ok (.iconst 1, 1) := dk_4 (dk_at dksX14_goesNext_1 8 rfl rfl)
theorem dX14_goesNext_33 : decode cX14_goesNext 33 = .ok (.iadd, 1) := dk_96 (dk_at dksX14_goesNext_1 9 rfl rfl)
theorem dX14_goesNext_34 : decode cX14_goesNext 34 = .ok (.iastore, 1) := dk_79 (dk_at dksX14_goesNext_1 10 rfl rfl)
theorem dX14_goesNext_35 : decode cX14_goesNext 35 = .ok (.return_, 1) := dk_177 (dk_at dksX14_goesNext_1 11 rfl rfl)
def dkwX14_then_2 : List UInt8 := [46, 133, 182, 0, 18, 132, 2, 1, 167, 255, 234, 42, 180, 0, 47, 16, 17, 46, 172]
abbrev dktX14_then_2 : List UInt8 := dkwX14_then_2 ++ []
def dkwX14_then_1 : List UInt8 := [182, 1, 60, 42, 3, 181, 0, 15, 3, 61, 28, 42, 180, 0, 117, 162, 0, 20, 42, 42, 180, 0, 80, 28]
abbrev dktX14_then_1 : List UInt8 := dkwX14_then_1 ++ dktX14_then_2
def dkwX14_then_0 : List UInt8 := [42, 3, 181, 0, 3, 27, 184, 1, 54, 154, 0, 6, 16, 254, 172, 42, 182, 1, 57, 42, 27, 3]
abbrev dktX14_then_0 : List UInt8 := dkwX14_then_0 ++ dktX14_then_1
theorem dksX14_then_0 : cX14_then.data.toList.drop 0 = dktX14_then_0 := by decide +kernel
theorem dksX14_then_1 : cX14_then.data.toList.drop 22 = dktX14_then_1 := dk_seg dksX14_then_0 22 rfl rfl
theorem dksX14_then_2 : cX14_then.data.toList.drop 46 = dktX14_then_2 := dk_seg dksX14_then_1 24 rfl rfl
theorem dX14_then_0 : decode cX14_then 0 = .ok (.aload_n 0, 1) := dk_42 (dk_at dksX14_then_0 0 rfl rfl)
theorem dX14_then_1 : decode cX14_then 1 = .ok (.iconst 0, 1) := dk_3 (dk_at dksX14_then_0 1 rfl rfl)
theorem dX14_then_2 : decode cX14_then 2 = .ok (.putfield 3, 3) := dk_181 0 3 (dk_at dksX14_then_0 2 rfl rfl)
theorem dX14_then_5 : decode cX14_then 5 = .ok (.iload_n 1, 1) := dk_27 (dk_at dksX14_then_0 5 rfl rfl)
theorem dX14_then_6 : decode cX14_then 6 = .ok (.invokestatic 310, 3) := dk_184 1 54 (dk_at dksX14_then_0 6 rfl rfl)
theorem dX14_then_9 : decode cX14_then 9 = .ok (.ifCond .ne 6, 3) := dk_154 0 6 (dk_at dksX14_then_0 9 rfl rfl)
theorem dX14_then_12 : decode cX14_then 12 = .ok (.bipush (-2), 2) := dk_16 254 (dk_at dksX14_then_0 12 rfl rfl)
theorem dX14_then_14 : decode cX14_then 14 = .ok (.ireturn, 1) := dk_172 (dk_at dksX14_then_0 14 rfl rfl)
theorem dX14_then_15 : decode cX14_then 15 = .ok (.aload_n 0, 1) := dk_42 (dk_at dksX14_then_0 15 rfl rfl)
theorem dX14_then_16 : decode cX14_then 16 = .ok (.invokevirtual 313, 3) := dk_182 1 57 (dk_at dksX14_then_0 16 rfl rfl)
theorem dX14_then_19 : decode cX14_then 19 = .ok (.aload_n 0, 1) := dk_42 (dk_at dksX14_then_0 19 rfl rfl)
theorem dX14_then_20 : decode cX14_then 20 = .ok (.iload_n 1, 1) := dk_27 (dk_at dksX14_then_0 20 rfl rfl)
theorem dX14_then_21 : decode cX14_then 21 = .ok (.iconst 0, 1) := dk_3 (dk_at dksX14_then_0 21 rfl rfl)
theorem dX14_then_22 : decode cX14_then 22 = .ok (.invokevirtual 316, 3) := dk_182 1 60 (dk_at dksX14_then_1 0 rfl rfl)
theorem dX14_then_25 : decode cX14_then 25 = .ok (.aload_n 0, 1) := dk_42 (dk_at dksX14_then_1 3 rfl rfl)
theorem dX14_then_26 : decode cX14_then 26 = .ok (.iconst 0, 1) := dk_3 (dk_at dksX14_then_1 4 rfl rfl)
theorem dX14_then_27 : decode cX14_then 27 = .ok (.putfield 15, 3) := dk_181 0 15 (dk_at dksX14_then_1 5 rfl rfl)
theorem dX14_then_30 : decode cX14_then 30 = .ok (.iconst 0, 1) := dk_3 (dk_at dksX14_then_1 8 rfl rfl)
theorem dX14_then_31 : decode cX14_then 31 = .ok (.istore_n 2, 1) := dk_61 (dk_at dksX14_then_1 9 rfl rfl)
theorem dX14_then_32 : decode cX14_then 32 = .ok (.iload_n 2, 1) := dk_28 (dk_at dksX14_then_1 10 rfl rfl)
theorem dX14_then_33 : decode cX14_then 33 = .ok (.aload_n 0, 1) := dk_42 (dk_at dksX14_then_1 11 rfl rfl)
theorem dX14_then_34 : decode cX14_then 34 = .ok (.getfield 117, 3) := dk_180 0 117 (dk_at dksX14_then_1 12 rfl rfl)
theorem dX14_then_37 : decode cX14_then 37 = .ok (.if_icmp .ge 20, 3) := dk_162 0 20 (dk_at dksX14_then_1 15 rfl rfl)
theorem dX14_then_40 : decode cX14_then 40 = .ok (.aload_n 0, 1) := dk_42 (dk_at dksX14_then_1 18 rfl rfl)
theorem dX14_then_41 : decode cX14_then 41 = .ok (.aload_n 0, 1) := dk_42 (dk_at dksX14_then_1 19 rfl rfl)
theorem dX14_then_42 : decode cX14_then 42 = .ok (.getfield 80, 3) := dk_180 0 80 (dk_at dksX14_then_1 20 rfl rfl)
theorem dX14_then_45 : decode cX14_then 45 = .ok (.iload_n 2, 1) := dk_28 (dk_at dksX14_then_1 23 rfl rfl)
theorem dX14_then_46 : decode cX14_then 46 = .ok (.iaload, 1) := dk_46 (dk_at dksX14_then_2 0 rfl rfl)
theorem dX14_then_47 : decode cX14_then 47 = .ok (.i2l, 1) := dk_133 (dk_at dksX14_then_2 1 rfl rfl)
theorem dX14_then_48 : decode cX14_then 48 = .ok (.invokevirtual 18, 3) := dk_182 0 18 (dk_at dksX14_then_2 2 rfl rfl)
theorem dX14_then_51 : decode cX14_then 51 = .ok (.iinc 2 1, 3) := dk_132 2 1 (dk_at dksX14_then_2 5 rfl rfl)
theorem dX14_then_54 : decode cX14_then 54 = .ok (.goto (-22), 3) := dk_167 255 234 (dk_at dksX14_then_2 8 rfl rfl)
theorem dX14_then_57 : decode cX14_then 57 = .ok (.aload_n 0, 1) := dk_42 (dk_at dksX14_then_2 11 rfl rfl)
theorem dX14_then_58 : decode cX14_then 58 = .ok (.getfield 47, 3) := dk_180 0 47 (dk_at dksX14_then_2 12 rfl rfl)
theorem dX14_then_61 : decode cX14_then 61 = .ok (.bipush 17, 2) := dk_16 17 (dk_at dksX14_then_2 15 rfl rfl)
theorem dX14_then_63 : decode cX14_then 63 = .ok (.iaload, 1) := dk_46 (dk_at dksX14_then_2 17 rfl rfl)
theorem dX14_then_64 : decode cX14_then 64 = .ok (.ireturn, 1) := dk_172 (dk_at dksX14_then_2 18 rfl rfl)
def dkwX14_soonest_2 : List UInt8 := [42, 180, 0, 47, 16, 17, 46, 27, 160, 0, 5, 28, 172, 132, 2, 1, 167, 255, 228, 16, 254, 172]
abbrev dktX14_soonest_2 : List UInt8 := dkwX14_soonest_2 ++ []
def dkwX14_soonest_1 : List UInt8 := [160, 0, 6, 16, 253, 172, 42, 182, 1, 57, 4, 61, 28, 16, 99, 163, 0, 28, 42, 4, 3, 182, 1, 60]
abbrev dktX14_soonest_1 : List UInt8 := dkwX14_soonest_1 ++ dktX14_soonest_2
def dkwX14_soonest_0 : List UInt8 := [42, 3, 181, 0, 3, 42, 27, 182, 0, 124, 154, 0, 5, 2, 172, 42, 180, 0, 44, 16, 17, 46, 27]
abbrev dktX14_soonest_0 : List UInt8 := dkwX14_soonest_0 ++ dktX14_soonest_1
theorem dksX14_soonest_0 : cX14_soonest.data.toList.drop 0 = dktX14_soonest_0 := by decide +kernel
theorem dksX14_soonest_1 : cX14_soonest.data.toList.drop 23 = dktX14_soonest_1 := dk_seg dksX14_soonest_0 23 rfl rfl
theorem dksX14_soonest_2 : cX14_soonest.data.toList.drop 47 = dktX14_soonest_2 := dk_seg dksX14_soonest_1 24 rfl rfl
theorem dX14_soonest_0 : decode cX14_soonest 0 = .ok (.aload_n 0, 1) := dk_42 (dk_at dksX14_soonest_0 0 rfl rfl)
theorem dX14_soonest_1 : decode cX14_soonest 1 = .ok (.iconst 0, 1) := dk_3 (dk_at dksX14_soonest_0 1 rfl rfl)
theorem dX14_soonest_2 : decode cX14_soonest 2 = .ok (.putfield 3, 3) := dk_181 0 3 (dk_at dksX14_soonest_0 2 rfl rfl)
theorem dX14_soonest_5 : decode cX14_soonest 5 = .ok (.aload_n 0, 1) := dk_42 (dk_at dksX14_soonest_0 5 rfl rfl)
theorem dX14_soonest_6 : decode cX14_soonest 6 = .ok (.iload_n 1, 1) := dk_27 (dk_at dksX14_soonest_0 6 rfl rfl)
theorem dX14_soonest_7 : decode cX14_soonest 7 = .ok (.invokevirtual 124, 3) := dk_182 0 124 (dk_at dksX14_soonest_0 7 rfl rfl)
theorem dX14_soonest_10 : decode cX14_soonest 10 = .ok (.ifCond .ne 5, 3) := dk_154 0 5 (dk_at dksX14_soonest_0 10 rfl rfl)
theorem dX14_soonest_13 : decode cX14_soonest 13 = .ok (.iconst (-1), 1) := dk_2 (dk_at dksX14_soonest_0 13 rfl rfl)
theorem dX14_soonest_14 : decode cX14_soonest 14 = .ok (.ireturn, 1) := dk_172 (dk_at dksX14_soonest_0 14 rfl rfl)
theorem dX14_soonest_15 : decode cX14_soonest 15 = .ok (.aload_n 0, 1) := dk_42 (dk_at dksX14_soonest_0 15 rfl rfl)
theorem dX14_soonest_16 : decode cX14_soonest 16 = .ok (.getfield 44, 3) := dk_180 0 44 (dk_at dksX14_soonest_0 16 rfl rfl)
theorem dX14_soonest_19 : decode cX14_soonest 19 = .ok (.bipush 17, 2) := dk_16 17 (dk_at dksX14_soonest_0 19 rfl rfl)
theorem dX14_soonest_21 : decode cX14_soonest 21 = .ok (.iaload, 1) := dk_46 (dk_at dksX14_soonest_0 21 rfl rfl)
theorem dX14_soonest_22 : decode cX14_soonest 22 = .ok (.iload_n 1, 1) := dk_27 (dk_at dksX14_soonest_0 22 rfl rfl)
theorem dX14_soonest_23 : decode cX14_soonest 23 = .ok (.if_icmp .ne 6, 3) := dk_160 0 6 (dk_at dksX14_soonest_1 0 rfl rfl)
theorem dX14_soonest_26 : decode cX14_soonest 26 = .ok (.bipush (-3), 2) := dk_16 253 (dk_at dksX14_soonest_1 3 rfl rfl)
theorem dX14_soonest_28 : decode cX14_soonest 28 = .ok (.ireturn, 1) := dk_172 (dk_at dksX14_soonest_1 5 rfl rfl)
theorem dX14_soonest_29 : decode cX14_soonest 29 = .ok (.aload_n 0, 1) := dk_42 (dk_at dksX14_soonest_1 6 rfl rfl)
theorem dX14_soonest_30 : decode cX14_soonest 30 = .ok (.invokevirtual 313, 3) := dk_182 1 57 (dk_at dksX14_soonest_1 7 rfl rfl)
theorem dX14_soonest_33 : decode cX14_soonest 33 = .ok (.iconst 1, 1) := dk_4 (dk_at dksX14_soonest_1 10 rfl rfl)
theorem dX14_soonest_34 : decode cX14_soonest 34 = .ok (.istore_n 2, 1) := dk_61 (dk_at dksX14_soonest_1 11 rfl rfl)
theorem dX14_soonest_35 : decode cX14_soonest 35 = .ok (.iload_n 2, 1) := dk_28 (dk_at dksX14_soonest_1 12 rfl rfl)
theorem dX14_soonest_36 : decode cX14_soonest 36 = .ok (.bipush 99, 2) := dk_16 99 (dk_at dksX14_soonest_1 13 rfl rfl)
theorem dX14_soonest_38 : decode cX14_soonest 38 = .ok (.if_icmp .gt 28, 3) := dk_163 0 28 (dk_at dksX14_soonest_1 15 rfl rfl)
theorem dX14_soonest_41 : decode cX14_soonest 41 = .ok (.aload_n 0, 1) := dk_42 (dk_at dksX14_soonest_1 18 rfl rfl)
theorem dX14_soonest_42 : decode cX14_soonest 42 = .ok (.iconst 1, 1) := dk_4 (dk_at dksX14_soonest_1 19 rfl rfl)
theorem dX14_soonest_43 : decode cX14_soonest 43 = .ok (.iconst 0, 1) := dk_3 (dk_at dksX14_soonest_1 20 rfl rfl)
theorem dX14_soonest_44 : decode cX14_soonest 44 = .ok (.invokevirtual 316, 3) := dk_182 1 60 (dk_at dksX14_soonest_1 21 rfl rfl)
theorem dX14_soonest_47 : decode cX14_soonest 47 = .ok (.aload_n 0, 1) := dk_42 (dk_at dksX14_soonest_2 0 rfl rfl)
theorem dX14_soonest_48 : decode cX14_soonest 48 = .ok (.getfield 47, 3) := dk_180 0 47 (dk_at dksX14_soonest_2 1 rfl rfl)
theorem dX14_soonest_51 : decode cX14_soonest 51 = .ok (.bipush 17, 2) := dk_16 17 (dk_at dksX14_soonest_2 4 rfl rfl)
theorem dX14_soonest_53 : decode cX14_soonest 53 = .ok (.iaload, 1) := dk_46 (dk_at dksX14_soonest_2 6 rfl rfl)
theorem dX14_soonest_54 : decode cX14_soonest 54 = .ok (.iload_n 1, 1) := dk_27 (dk_at dksX14_soonest_2 7 rfl rfl)
theorem dX14_soonest_55 : decode cX14_soonest 55 = .ok (.if_icmp .ne 5, 3) := dk_160 0 5 (dk_at dksX14_soonest_2 8 rfl rfl)
theorem dX14_soonest_58 : decode cX14_soonest 58 = .ok (.iload_n 2, 1) := dk_28 (dk_at dksX14_soonest_2 11 rfl rfl)
theorem dX14_soonest_59 : decode cX14_soonest 59 = .ok (.ireturn, 1) := dk_172 (dk_at dksX14_soonest_2 12 rfl rfl)
theorem dX14_soonest_60 : decode cX14_soonest 60 = .ok (.iinc 2 1, 3) := dk_132 2 1 (dk_at dksX14_soonest_2 13 rfl rfl)
theorem dX14_soonest_63 : decode cX14_soonest 63 = .ok (.goto (-28), 3) := dk_167 255 228 (dk_at dksX14_soonest_2 16 rfl rfl)
theorem dX14_soonest_66 : decode cX14_soonest 66 = .ok (.bipush (-2), 2) := dk_16 254 (dk_at dksX14_soonest_2 19 rfl rfl)
theorem dX14_soonest_68 : decode cX14_soonest 68 = .ok (.ireturn, 1) := dk_172 (dk_at dksX14_soonest_2 21 rfl rfl)
def dkwX14_ever_10 : List UInt8 := [154, 0, 7, 9, 167, 0, 9, 29, 28, 4, 100, 126, 133, 182, 0, 18, 21, 4, 172]
abbrev dktX14_ever_10 : List UInt8 := dkwX14_ever_10 ++ []
def dkwX14_ever_9 : List UInt8 := [62, 21, 4, 29, 28, 4, 100, 126, 128, 54, 4, 132, 5, 1, 167, 255, 92, 42, 3, 181, 0, 15, 42, 27]
abbrev dktX14_ever_9 : List UInt8 := dkwX14_ever_9 ++ dktX14_ever_10
def dkwX14_ever_8 : List UInt8 := [167, 0, 4, 3, 128, 54, 6, 132, 7, 1, 167, 255, 132, 42, 42, 180, 0, 47, 3, 182, 1, 26, 21, 6]
abbrev dktX14_ever_8 : List UInt8 := dkwX14_ever_8 ++ dktX14_ever_9
def dkwX14_ever_7 : List UInt8 := [180, 0, 47, 16, 16, 46, 21, 7, 184, 0, 128, 153, 0, 15, 21, 8, 153, 0, 10, 4, 21, 7, 120]
abbrev dktX14_ever_7 : List UInt8 := dkwX14_ever_7 ++ dktX14_ever_8
def dkwX14_ever_6 : List UInt8 := [182, 1, 6, 164, 0, 7, 4, 167, 0, 4, 3, 54, 8, 132, 9, 1, 167, 255, 191, 21, 6, 42]
abbrev dktX14_ever_6 : List UInt8 := dkwX14_ever_6 ++ dktX14_ever_7
def dkwX14_ever_5 : List UInt8 := [153, 0, 32, 42, 42, 180, 0, 47, 21, 7, 46, 182, 1, 6, 42, 42, 180, 0, 47, 21, 9, 46]
abbrev dktX14_ever_5 : List UInt8 := dkwX14_ever_5 ++ dktX14_ever_6
def dkwX14_ever_4 : List UInt8 := [180, 0, 117, 162, 0, 62, 21, 8, 154, 0, 44, 21, 9, 21, 7, 159, 0, 41, 29, 21, 9, 184, 0, 128]
abbrev dktX14_ever_4 : List UInt8 := dkwX14_ever_4 ++ dktX14_ever_5
def dkwX14_ever_3 : List UInt8 := [21, 7, 42, 180, 0, 117, 162, 0, 121, 29, 16, 8, 184, 0, 128, 54, 8, 3, 54, 9, 21, 9, 42]
abbrev dktX14_ever_3 : List UInt8 := dkwX14_ever_3 ++ dktX14_ever_4
def dkwX14_ever_2 : List UInt8 := [16, 17, 46, 120, 62, 3, 54, 4, 3, 54, 5, 21, 5, 27, 162, 0, 164, 29, 54, 6, 3, 54, 7]
abbrev dktX14_ever_2 : List UInt8 := dkwX14_ever_2 ++ dktX14_ever_3
def dkwX14_ever_1 : List UInt8 := [17, 1, 0, 61, 42, 180, 0, 44, 16, 17, 46, 156, 0, 7, 28, 167, 0, 12, 4, 42, 180, 0, 44]
abbrev dktX14_ever_1 : List UInt8 := dkwX14_ever_1 ++ dktX14_ever_2
def dkwX14_ever_0 : List UInt8 := [42, 3, 181, 0, 3, 27, 133, 9, 20, 1, 63, 184, 0, 120, 154, 0, 5, 2, 172, 42, 182, 1, 57]
abbrev dktX14_ever_0 : List UInt8 := dkwX14_ever_0 ++ dktX14_ever_1
theorem dksX14_ever_0 : cX14_ever.data.toList.drop 0 = dktX14_ever_0 := by decide +kernel
theorem dksX14_ever_1 : cX14_ever.data.toList.drop 23 = dktX14_ever_1 := dk_seg dksX14_ever_0 23 rfl rfl
theorem dksX14_ever_2 : cX14_ever.data.toList.drop 46 = dktX14_ever_2 := dk_seg dksX14_ever_1 23 rfl rfl
theorem dksX14_ever_3 : cX14_ever.data.toList.drop 69 = dktX14_ever_3 := dk_seg dksX14_ever_2 23 rfl rfl
theorem dksX14_ever_4 : cX14_ever.data.toList.drop 92 = dktX14_ever_4 := dk_seg dksX14_ever_3 23 rfl rfl
theorem dksX14_ever_5 : cX14_ever.data.toList.drop 116 = dktX14_ever_5 := dk_seg dksX14_ever_4 24 rfl rfl
theorem dksX14_ever_6 : cX14_ever.data.toList.drop 138 = dktX14_ever_6 := dk_seg dksX14_ever_5 22 rfl rfl
theorem dksX14_ever_7 : cX14_ever.data.toList.drop 160 = dktX14_ever_7 := dk_seg dksX14_ever_6 22 rfl rfl
theorem dksX14_ever_8 : cX14_ever.data.toList.drop 183 = dktX14_ever_8 := dk_seg dksX14_ever_7 23 rfl rfl
theorem dksX14_ever_9 : cX14_ever.data.toList.drop 207 = dktX14_ever_9 := dk_seg dksX14_ever_8 24 rfl rfl
theorem dksX14_ever_10 : cX14_ever.data.toList.drop 231 = dktX14_ever_10 := dk_seg dksX14_ever_9 24 rfl rfl
theorem dX14_ever_0 : decode cX14_ever 0 = .ok (.aload_n 0, 1) := dk_42 (dk_at dksX14_ever_0 0 rfl rfl)
theorem dX14_ever_1 : decode cX14_ever 1 = .ok (.iconst 0, 1) := dk_3 (dk_at dksX14_ever_0 1 rfl rfl)
theorem dX14_ever_2 : decode cX14_ever 2 = .ok (.putfield 3, 3) := dk_181 0 3 (dk_at dksX14_ever_0 2 rfl rfl)
theorem dX14_ever_5 : decode cX14_ever 5 = .ok (.iload_n 1, 1) := dk_27 (dk_at dksX14_ever_0 5 rfl rfl)
theorem dX14_ever_6 : decode cX14_ever 6 = .ok (.i2l, 1) := dk_133 (dk_at dksX14_ever_0 6 rfl rfl)
theorem dX14_ever_7 : decode cX14_ever 7 = .ok (.lconst 0, 1) := dk_9 (dk_at dksX14_ever_0 7 rfl rfl)
theorem dX14_ever_8 : decode cX14_ever 8 = .ok (.ldc2_w 319, 3) := dk_20 1 63 (dk_at dksX14_ever_0 8 rfl rfl)
theorem dX14_ever_11 : decode cX14_ever 11 = .ok (.invokestatic 120, 3) := dk_184 0 120 (dk_at dksX14_ever_0 11 rfl rfl)
theorem dX14_ever_14 : decode cX14_ever 14 = .ok (.ifCond .ne 5, 3) := dk_154 0 5 (dk_at dksX14_ever_0 14 rfl rfl)
theorem dX14_ever_17 : decode cX14_ever 17 = .ok (.iconst (-1), 1) := dk_2 (dk_at dksX14_ever_0 17 rfl rfl)
theorem dX14_ever_18 : decode cX14_ever 18 = .ok (.ireturn, 1) := dk_172 (dk_at dksX14_ever_0 18 rfl rfl)
theorem dX14_ever_19 : decode cX14_ever 19 = .ok (.aload_n 0, 1) := dk_42 (dk_at dksX14_ever_0 19 rfl rfl)
theorem dX14_ever_20 : decode cX14_ever 20 = .ok (.invokevirtual 313, 3) := dk_182 1 57 (dk_at dksX14_ever_0 20 rfl rfl)
theorem dX14_ever_23 : decode cX14_ever 23 = .ok (.sipush 256, 3) := dk_17 1 0 (dk_at dksX14_ever_1 0 rfl rfl)
theorem dX14_ever_26 : decode cX14_ever 26 = .ok (.istore_n 2, 1) := dk_61 (dk_at dksX14_ever_1 3 rfl rfl)
theorem dX14_ever_27 : decode cX14_ever 27 = .ok (.aload_n 0, 1) := dk_42 (dk_at dksX14_ever_1 4 rfl rfl)
theorem dX14_ever_28 : decode cX14_ever 28 = .ok (.getfield 44, 3) := dk_180 0 44 (dk_at dksX14_ever_1 5 rfl rfl)
theorem dX14_ever_31 : decode cX14_ever 31 = .ok (.bipush 17, 2) := dk_16 17 (dk_at dksX14_ever_1 8 rfl rfl)
theorem dX14_ever_33 : decode cX14_ever 33 = .ok (.iaload, 1) := dk_46 (dk_at dksX14_ever_1 10 rfl rfl)
theorem dX14_ever_34 : decode cX14_ever 34 = .ok (.ifCond .ge 7, 3) := dk_156 0 7 (dk_at dksX14_ever_1 11 rfl rfl)
theorem dX14_ever_37 : decode cX14_ever 37 = .ok (.iload_n 2, 1) := dk_28 (dk_at dksX14_ever_1 14 rfl rfl)
theorem dX14_ever_38 : decode cX14_ever 38 = .ok (.goto 12, 3) := dk_167 0 12 (dk_at dksX14_ever_1 15 rfl rfl)
theorem dX14_ever_41 : decode cX14_ever 41 = .ok (.iconst 1, 1) := dk_4 (dk_at dksX14_ever_1 18 rfl rfl)
theorem dX14_ever_42 : decode cX14_ever 42 = .ok (.aload_n 0, 1) := dk_42 (dk_at dksX14_ever_1 19 rfl rfl)
theorem dX14_ever_43 : decode cX14_ever 43 = .ok (.getfield 44, 3) := dk_180 0 44 (dk_at dksX14_ever_1 20 rfl rfl)
theorem dX14_ever_46 : decode cX14_ever 46 = .ok (.bipush 17, 2) := dk_16 17 (dk_at dksX14_ever_2 0 rfl rfl)
theorem dX14_ever_48 : decode cX14_ever 48 = .ok (.iaload, 1) := dk_46 (dk_at dksX14_ever_2 2 rfl rfl)
theorem dX14_ever_49 : decode cX14_ever 49 = .ok (.ishl, 1) := dk_120 (dk_at dksX14_ever_2 3 rfl rfl)
theorem dX14_ever_50 : decode cX14_ever 50 = .ok (.istore_n 3, 1) := dk_62 (dk_at dksX14_ever_2 4 rfl rfl)
theorem dX14_ever_51 : decode cX14_ever 51 = .ok (.iconst 0, 1) := dk_3 (dk_at dksX14_ever_2 5 rfl rfl)
theorem dX14_ever_52 : decode cX14_ever 52 = .ok (.istore 4, 2) := dk_54 4 (dk_at dksX14_ever_2 6 rfl rfl)
theorem dX14_ever_54 : decode cX14_ever 54 = .ok (.iconst 0, 1) := dk_3 (dk_at dksX14_ever_2 8 rfl rfl)
theorem dX14_ever_55 : decode cX14_ever 55 = .ok (.istore 5, 2) := dk_54 5 (dk_at dksX14_ever_2 9 rfl rfl)
theorem dX14_ever_57 : decode cX14_ever 57 = .ok (.iload 5, 2) := dk_21 5 (dk_at dksX14_ever_2 11 rfl rfl)
theorem dX14_ever_59 : decode cX14_ever 59 = .ok (.iload_n 1, 1) := dk_27 (dk_at dksX14_ever_2 13 rfl rfl)
theorem dX14_ever_60 : decode cX14_ever 60 = .ok (.if_icmp .ge 164, 3) := dk_162 0 164 (dk_at dksX14_ever_2 14 rfl rfl)
theorem dX14_ever_63 : decode cX14_ever 63 = .ok (.iload_n 3, 1) := dk_29 (dk_at dksX14_ever_2 17 rfl rfl)
theorem dX14_ever_64 : decode cX14_ever 64 = .ok (.istore 6, 2) := dk_54 6 (dk_at dksX14_ever_2 18 rfl rfl)
theorem dX14_ever_66 : decode cX14_ever 66 = .ok (.iconst 0, 1) := dk_3 (dk_at dksX14_ever_2 20 rfl rfl)
theorem dX14_ever_67 : decode cX14_ever 67 = .ok (.istore 7, 2) := dk_54 7 (dk_at dksX14_ever_2 21 rfl rfl)
theorem dX14_ever_69 : decode cX14_ever 69 = .ok (.iload 7, 2) := dk_21 7 (dk_at dksX14_ever_3 0 rfl rfl)
theorem dX14_ever_71 : decode cX14_ever 71 = .ok (.aload_n 0, 1) := dk_42 (dk_at dksX14_ever_3 2 rfl rfl)
theorem dX14_ever_72 : decode cX14_ever 72 = .ok (.getfield 117, 3) := dk_180 0 117 (dk_at dksX14_ever_3 3 rfl rfl)
theorem dX14_ever_75 : decode cX14_ever 75 = .ok (.if_icmp .ge 121, 3) := dk_162 0 121 (dk_at dksX14_ever_3 6 rfl rfl)
theorem dX14_ever_78 : decode cX14_ever 78 = .ok (.iload_n 3, 1) := dk_29 (dk_at dksX14_ever_3 9 rfl rfl)
theorem dX14_ever_79 : decode cX14_ever 79 = .ok (.bipush 8, 2) := dk_16 8 (dk_at dksX14_ever_3 10 rfl rfl)
theorem dX14_ever_81 : decode cX14_ever 81 = .ok (.invokestatic 128, 3) := dk_184 0 128 (dk_at dksX14_ever_3 12 rfl rfl)
theorem dX14_ever_84 : decode cX14_ever 84 = .ok (.istore 8, 2) := dk_54 8 (dk_at dksX14_ever_3 15 rfl rfl)
theorem dX14_ever_86 : decode cX14_ever 86 = .ok (.iconst 0, 1) := dk_3 (dk_at dksX14_ever_3 17 rfl rfl)
theorem dX14_ever_87 : decode cX14_ever 87 = .ok (.istore 9, 2) := dk_54 9 (dk_at dksX14_ever_3 18 rfl rfl)
theorem dX14_ever_89 : decode cX14_ever 89 = .ok (.iload 9, 2) := dk_21 9 (dk_at dksX14_ever_3 20 rfl rfl)
theorem dX14_ever_91 : decode cX14_ever 91 = .ok (.aload_n 0, 1) := dk_42 (dk_at dksX14_ever_3 22 rfl rfl)
theorem dX14_ever_92 : decode cX14_ever 92 = .ok (.getfield 117, 3) := dk_180 0 117 (dk_at dksX14_ever_4 0 rfl rfl)
theorem dX14_ever_95 : decode cX14_ever 95 = .ok (.if_icmp .ge 62, 3) := dk_162 0 62 (dk_at dksX14_ever_4 3 rfl rfl)
theorem dX14_ever_98 : decode cX14_ever 98 = .ok (.iload 8, 2) := dk_21 8 (dk_at dksX14_ever_4 6 rfl rfl)
theorem dX14_ever_100 : decode cX14_ever 100 = .ok (.ifCond .ne 44, 3) := dk_154 0 44 (dk_at dksX14_ever_4 8 rfl rfl)
theorem dX14_ever_103 : decode cX14_ever 103 = .ok (.iload 9, 2) := dk_21 9 (dk_at dksX14_ever_4 11 rfl rfl)
theorem dX14_ever_105 : decode cX14_ever 105 = .ok (.iload 7, 2) := dk_21 7 (dk_at dksX14_ever_4 13 rfl rfl)
theorem dX14_ever_107 : decode cX14_ever 107 = .ok (.if_icmp .eq 41, 3) := dk_159 0 41 (dk_at dksX14_ever_4 15 rfl rfl)
theorem dX14_ever_110 : decode cX14_ever 110 = .ok (.iload_n 3, 1) := dk_29 (dk_at dksX14_ever_4 18 rfl rfl)
theorem dX14_ever_111 : decode cX14_ever 111 = .ok (.iload 9, 2) := dk_21 9 (dk_at dksX14_ever_4 19 rfl rfl)
theorem dX14_ever_113 : decode cX14_ever 113 = .ok (.invokestatic 128, 3) := dk_184 0 128 (dk_at dksX14_ever_4 21 rfl rfl)
theorem dX14_ever_116 : decode cX14_ever 116 = .ok (.ifCond .eq 32, 3) := dk_153 0 32 (dk_at dksX14_ever_5 0 rfl rfl)
theorem dX14_ever_119 : decode cX14_ever 119 = .ok (.aload_n 0, 1) := dk_42 (dk_at dksX14_ever_5 3 rfl rfl)
theorem dX14_ever_120 : decode cX14_ever 120 = .ok (.aload_n 0, 1) := dk_42 (dk_at dksX14_ever_5 4 rfl rfl)
theorem dX14_ever_121 : decode cX14_ever 121 = .ok (.getfield 47, 3) := dk_180 0 47 (dk_at dksX14_ever_5 5 rfl rfl)
theorem dX14_ever_124 : decode cX14_ever 124 = .ok (.iload 7, 2) := dk_21 7 (dk_at dksX14_ever_5 8 rfl rfl)
theorem dX14_ever_126 : decode cX14_ever 126 = .ok (.iaload, 1) := dk_46 (dk_at dksX14_ever_5 10 rfl rfl)
theorem dX14_ever_127 : decode cX14_ever 127 = .ok (.invokevirtual 262, 3) := dk_182 1 6 (dk_at dksX14_ever_5 11 rfl rfl)
theorem dX14_ever_130 : decode cX14_ever 130 = .ok (.aload_n 0, 1) := dk_42 (dk_at dksX14_ever_5 14 rfl rfl)
theorem dX14_ever_131 : decode cX14_ever 131 = .ok (.aload_n 0, 1) := dk_42 (dk_at dksX14_ever_5 15 rfl rfl)
theorem dX14_ever_132 : decode cX14_ever 132 = .ok (.getfield 47, 3) := dk_180 0 47 (dk_at dksX14_ever_5 16 rfl rfl)
theorem dX14_ever_135 : decode cX14_ever 135 = .ok (.iload 9, 2) := dk_21 9 (dk_at dksX14_ever_5 19 rfl rfl)
theorem dX14_ever_137 : decode cX14_ever 137 = .ok (.iaload, 1) := dk_46 (dk_at dksX14_ever_5 21 rfl rfl)
theorem dX14_ever_138 : decode cX14_ever 138 = .ok (.invokevirtual 262, 3) := dk_182 1 6 (dk_at dksX14_ever_6 0 rfl rfl)
theorem dX14_ever_141 : decode cX14_ever 141 = .ok (.if_icmp .le 7, 3) := dk_164 0 7 (dk_at dksX14_ever_6 3 rfl rfl)
theorem dX14_ever_144 : decode cX14_ever 144 = .ok (.iconst 1, 1) := dk_4 (dk_at dksX14_ever_6 6 rfl rfl)
theorem dX14_ever_145 : decode cX14_ever 145 = .ok (.goto 4, 3) := dk_167 0 4 (dk_at dksX14_ever_6 7 rfl rfl)
theorem dX14_ever_148 : decode cX14_ever 148 = .ok (.iconst 0, 1) := dk_3 (dk_at dksX14_ever_6 10 rfl rfl)
theorem dX14_ever_149 : decode cX14_ever 149 = .ok (.istore 8, 2) := dk_54 8 (dk_at dksX14_ever_6 11 rfl rfl)
theorem dX14_ever_151 : decode cX14_ever 151 = .ok (.iinc 9 1, 3) := dk_132 9 1 (dk_at dksX14_ever_6 13 rfl rfl)
theorem dX14_ever_154 : decode cX14_ever 154 = .ok (.goto (-65), 3) := dk_167 255 191 (dk_at dksX14_ever_6 16 rfl rfl)
theorem dX14_ever_157 : decode cX14_ever 157 = .ok (.iload 6, 2) := dk_21 6 (dk_at dksX14_ever_6 19 rfl rfl)
theorem dX14_ever_159 : decode cX14_ever 159 = .ok (.aload_n 0, 1) := dk_42 (dk_at dksX14_ever_6 21 rfl rfl)
theorem dX14_ever_160 : decode cX14_ever 160 = .ok (.getfield 47, 3) := dk_180 0 47 (dk_at dksX14_ever_7 0 rfl rfl)
theorem dX14_ever_163 : decode cX14_ever 163 = .ok (.bipush 16, 2) := dk_16 16 (dk_at dksX14_ever_7 3 rfl rfl)
theorem dX14_ever_165 : decode cX14_ever 165 = .ok (.iaload, 1) := dk_46 (dk_at dksX14_ever_7 5 rfl rfl)
theorem dX14_ever_166 : decode cX14_ever 166 = .ok (.iload 7, 2) := dk_21 7 (dk_at dksX14_ever_7 6 rfl rfl)
theorem dX14_ever_168 : decode cX14_ever 168 = .ok (.invokestatic 128, 3) := dk_184 0 128 (dk_at dksX14_ever_7 8 rfl rfl)
theorem dX14_ever_171 : decode cX14_ever 171 = .ok (.ifCond .eq 15, 3) := dk_153 0 15 (dk_at dksX14_ever_7 11 rfl rfl)
theorem dX14_ever_174 : decode cX14_ever 174 = .ok (.iload 8, 2) := dk_21 8 (dk_at dksX14_ever_7 14 rfl rfl)
theorem dX14_ever_176 : decode cX14_ever 176 = .ok (.ifCond .eq 10, 3) := dk_153 0 10 (dk_at dksX14_ever_7 16 rfl rfl)
theorem dX14_ever_179 : decode cX14_ever 179 = .ok (.iconst 1, 1) := dk_4 (dk_at dksX14_ever_7 19 rfl rfl)
theorem dX14_ever_180 : decode cX14_ever 180 = .ok (.iload 7, 2) := dk_21 7 (dk_at dksX14_ever_7 20 rfl rfl)
theorem dX14_ever_182 : decode cX14_ever 182 = .ok (.ishl, 1) := dk_120 (dk_at dksX14_ever_7 22 rfl rfl)
theorem dX14_ever_183 : decode cX14_ever 183 = .ok (.goto 4, 3) := dk_167 0 4 (dk_at dksX14_ever_8 0 rfl rfl)
theorem dX14_ever_186 : decode cX14_ever 186 = .ok (.iconst 0, 1) := dk_3 (dk_at dksX14_ever_8 3 rfl rfl)
theorem dX14_ever_187 : decode cX14_ever 187 = .ok (.ior, 1) := dk_128 (dk_at dksX14_ever_8 4 rfl rfl)
theorem dX14_ever_188 : decode cX14_ever 188 = .ok (.istore 6, 2) := dk_54 6 (dk_at dksX14_ever_8 5 rfl rfl)
theorem dX14_ever_190 : decode cX14_ever 190 = .ok (.iinc 7 1, 3) := dk_132 7 1 (dk_at dksX14_ever_8 7 rfl rfl)
theorem dX14_ever_193 : decode cX14_ever 193 = .ok (.goto (-124), 3) := dk_167 255 132 (dk_at dksX14_ever_8 10 rfl rfl)
theorem dX14_ever_196 : decode cX14_ever 196 = .ok (.aload_n 0, 1) := dk_42 (dk_at dksX14_ever_8 13 rfl rfl)
theorem dX14_ever_197 : decode cX14_ever 197 = .ok (.aload_n 0, 1) := dk_42 (dk_at dksX14_ever_8 14 rfl rfl)
theorem dX14_ever_198 : decode cX14_ever 198 = .ok (.getfield 47, 3) := dk_180 0 47 (dk_at dksX14_ever_8 15 rfl rfl)
theorem dX14_ever_201 : decode cX14_ever 201 = .ok (.iconst 0, 1) := dk_3 (dk_at dksX14_ever_8 18 rfl rfl)
theorem dX14_ever_202 : decode cX14_ever 202 = .ok (.invokevirtual 282, 3) := dk_182 1 26 (dk_at dksX14_ever_8 19 rfl rfl)
theorem dX14_ever_205 : decode cX14_ever 205 = .ok (.iload 6, 2) := dk_21 6 (dk_at dksX14_ever_8 22 rfl rfl)
theorem dX14_ever_207 : decode cX14_ever 207 = .ok (.istore_n 3, 1) := dk_62 (dk_at dksX14_ever_9 0 rfl rfl)
theorem dX14_ever_208 : decode cX14_ever 208 = .ok (.iload 4, 2) := dk_21 4 (dk_at dksX14_ever_9 1 rfl rfl)
theorem dX14_ever_210 : decode cX14_ever 210 = .ok (.iload_n 3, 1) := dk_29 (dk_at dksX14_ever_9 3 rfl rfl)
theorem dX14_ever_211 : decode cX14_ever 211 = .ok (.iload_n 2, 1) := dk_28 (dk_at dksX14_ever_9 4 rfl rfl)
theorem dX14_ever_212 : decode cX14_ever 212 = .ok (.iconst 1, 1) := dk_4 (dk_at dksX14_ever_9 5 rfl rfl)
theorem dX14_ever_213 : decode cX14_ever 213 = .ok (.isub, 1) := dk_100 (dk_at dksX14_ever_9 6 rfl rfl)
theorem dX14_ever_214 : decode cX14_ever 214 = .ok (.iand, 1) := dk_126 (dk_at dksX14_ever_9 7 rfl rfl)
theorem dX14_ever_215 : decode cX14_ever 215 = .ok (.ior, 1) := dk_128 (dk_at dksX14_ever_9 8 rfl rfl)
theorem dX14_ever_216 : decode cX14_ever 216 = .ok (.istore 4, 2) := dk_54 4 (dk_at dksX14_ever_9 9 rfl rfl)
theorem dX14_ever_218 : decode cX14_ever 218 = .ok (.iinc 5 1, 3) := dk_132 5 1 (dk_at dksX14_ever_9 11 rfl rfl)
theorem dX14_ever_221 : decode cX14_ever 221 = .ok (.goto (-164), 3) := dk_167 255 92 (dk_at dksX14_ever_9 14 rfl rfl)
theorem dX14_ever_224 : decode cX14_ever 224 = .ok (.aload_n 0, 1) := dk_42 (dk_at dksX14_ever_9 17 rfl rfl)
theorem dX14_ever_225 : decode cX14_ever 225 = .ok (.iconst 0, 1) := dk_3 (dk_at dksX14_ever_9 18 rfl rfl)
theorem dX14_ever_226 : decode cX14_ever 226 = .ok (.putfield 15, 3) := dk_181 0 15 (dk_at dksX14_ever_9 19 rfl rfl)
theorem dX14_ever_229 : decode cX14_ever 229 = .ok (.aload_n 0, 1) := dk_42 (dk_at dksX14_ever_9 22 rfl rfl)
theorem dX14_ever_230 : decode cX14_ever 230 = .ok (.iload_n 1, 1) := dk_27 (dk_at dksX14_ever_9 23 rfl rfl)
theorem dX14_ever_231 : decode cX14_ever 231 = .ok (.ifCond .ne 7, 3) := dk_154 0 7 (dk_at dksX14_ever_10 0 rfl rfl)
theorem dX14_ever_234 : decode cX14_ever 234 = .ok (.lconst 0, 1) := dk_9 (dk_at dksX14_ever_10 3 rfl rfl)
theorem dX14_ever_235 : decode cX14_ever 235 = .ok (.goto 9, 3) := dk_167 0 9 (dk_at dksX14_ever_10 4 rfl rfl)
theorem dX14_ever_238 : decode cX14_ever 238 = .ok (.iload_n 3, 1) := dk_29 (dk_at dksX14_ever_10 7 rfl rfl)
theorem dX14_ever_239 : decode cX14_ever 239 = .ok (.iload_n 2, 1) := dk_28 (dk_at dksX14_ever_10 8 rfl rfl)
theorem dX14_ever_240 : decode cX14_ever 240 = .ok (.iconst 1, 1) := dk_4 (dk_at dksX14_ever_10 9 rfl rfl)
theorem dX14_ever_241 : decode cX14_ever 241 = .ok (.isub, 1) := dk_100 (dk_at dksX14_ever_10 10 rfl rfl)
theorem dX14_ever_242 : decode cX14_ever 242 = .ok (.iand, 1) := dk_126 (dk_at dksX14_ever_10 11 rfl rfl)
theorem dX14_ever_243 : decode cX14_ever 243 = .ok (.i2l, 1) := dk_133 (dk_at dksX14_ever_10 12 rfl rfl)
theorem dX14_ever_244 : decode cX14_ever 244 = .ok (.invokevirtual 18, 3) := dk_182 0 18 (dk_at dksX14_ever_10 13 rfl rfl)
theorem dX14_ever_247 : decode cX14_ever 247 = .ok (.iload 4, 2) := dk_21 4 (dk_at dksX14_ever_10 16 rfl rfl)
theorem dX14_ever_249 : decode cX14_ever 249 = .ok (.ireturn, 1) := dk_172 (dk_at dksX14_ever_10 18 rfl rfl)
def dkwX14_most_7 : List UInt8 := [181, 0, 15, 42, 21, 4, 133, 182, 0, 18, 29, 172]
abbrev dktX14_most_7 : List UInt8 := dkwX14_most_7 ++ []
def dkwX14_most_6 : List UInt8 := [21, 6, 153, 0, 14, 42, 180, 0, 80, 27, 46, 62, 21, 5, 54, 4, 132, 5, 1, 167, 255, 134, 42, 3]
abbrev dktX14_most_6 : List UInt8 := dkwX14_most_6 ++ dktX14_most_7
def dkwX14_most_5 : List UInt8 := [184, 1, 67, 162, 0, 7, 4, 167, 0, 4, 3, 54, 6, 42, 180, 0, 80, 27, 46, 29, 163, 0, 8]
abbrev dktX14_most_5 : List UInt8 := dkwX14_most_5 ++ dktX14_most_6
def dkwX14_most_4 : List UInt8 := [132, 6, 1, 167, 255, 211, 42, 180, 0, 80, 27, 46, 29, 160, 0, 20, 21, 5, 184, 1, 67, 21, 4]
abbrev dktX14_most_4 : List UInt8 := dkwX14_most_4 ++ dktX14_most_5
def dkwX14_most_3 : List UInt8 := [2, 130, 126, 21, 5, 21, 6, 184, 0, 128, 153, 0, 9, 4, 27, 120, 167, 0, 4, 3, 128, 182, 1, 51]
abbrev dktX14_most_3 : List UInt8 := dkwX14_most_3 ++ dktX14_most_4
def dkwX14_most_2 : List UInt8 := [182, 1, 57, 3, 54, 6, 21, 6, 28, 162, 0, 45, 42, 42, 42, 180, 0, 47, 182, 1, 32, 4, 27, 120]
abbrev dktX14_most_2 : List UInt8 := dkwX14_most_2 ++ dktX14_most_3
def dkwX14_most_1 : List UInt8 := [154, 0, 5, 2, 172, 2, 62, 3, 54, 4, 3, 54, 5, 21, 5, 4, 28, 120, 162, 0, 120, 42]
abbrev dktX14_most_1 : List UInt8 := dkwX14_most_1 ++ dktX14_most_2
def dkwX14_most_0 : List UInt8 := [42, 3, 181, 0, 3, 42, 27, 182, 1, 41, 153, 0, 15, 28, 133, 9, 20, 1, 65, 184, 0, 120]
abbrev dktX14_most_0 : List UInt8 := dkwX14_most_0 ++ dktX14_most_1
theorem dksX14_most_0 : cX14_most.data.toList.drop 0 = dktX14_most_0 := by decide +kernel
theorem dksX14_most_1 : cX14_most.data.toList.drop 22 = dktX14_most_1 := dk_seg dksX14_most_0 22 rfl rfl
theorem dksX14_most_2 : cX14_most.data.toList.drop 44 = dktX14_most_2 := dk_seg dksX14_most_1 22 rfl rfl
theorem dksX14_most_3 : cX14_most.data.toList.drop 68 = dktX14_most_3 := dk_seg dksX14_most_2 24 rfl rfl
theorem dksX14_most_4 : cX14_most.data.toList.drop 92 = dktX14_most_4 := dk_seg dksX14_most_3 24 rfl rfl
theorem dksX14_most_5 : cX14_most.data.toList.drop 115 = dktX14_most_5 := dk_seg dksX14_most_4 23 rfl rfl
theorem dksX14_most_6 : cX14_most.data.toList.drop 138 = dktX14_most_6 := dk_seg dksX14_most_5 23 rfl rfl
theorem dksX14_most_7 : cX14_most.data.toList.drop 162 = dktX14_most_7 := dk_seg dksX14_most_6 24 rfl rfl
theorem dX14_most_0 : decode cX14_most 0 = .ok (.aload_n 0, 1) := dk_42 (dk_at dksX14_most_0 0 rfl rfl)
theorem dX14_most_1 : decode cX14_most 1 = .ok (.iconst 0, 1) := dk_3 (dk_at dksX14_most_0 1 rfl rfl)
theorem dX14_most_2 : decode cX14_most 2 = .ok (.putfield 3, 3) := dk_181 0 3 (dk_at dksX14_most_0 2 rfl rfl)
theorem dX14_most_5 : decode cX14_most 5 = .ok (.aload_n 0, 1) := dk_42 (dk_at dksX14_most_0 5 rfl rfl)
theorem dX14_most_6 : decode cX14_most 6 = .ok (.iload_n 1, 1) := dk_27 (dk_at dksX14_most_0 6 rfl rfl)
theorem dX14_most_7 : decode cX14_most 7 = .ok (.invokevirtual 297, 3) := dk_182 1 41 (dk_at dksX14_most_0 7 rfl rfl)
theorem dX14_most_10 : decode cX14_most 10 = .ok (.ifCond .eq 15, 3) := dk_153 0 15 (dk_at dksX14_most_0 10 rfl rfl)
theorem dX14_most_13 : decode cX14_most 13 = .ok (.iload_n 2, 1) := dk_28 (dk_at dksX14_most_0 13 rfl rfl)
theorem dX14_most_14 : decode cX14_most 14 = .ok (.i2l, 1) := dk_133 (dk_at dksX14_most_0 14 rfl rfl)
theorem dX14_most_15 : decode cX14_most 15 = .ok (.lconst 0, 1) := dk_9 (dk_at dksX14_most_0 15 rfl rfl)
theorem dX14_most_16 : decode cX14_most 16 = .ok (.ldc2_w 321, 3) := dk_20 1 65 (dk_at dksX14_most_0 16 rfl rfl)
theorem dX14_most_19 : decode cX14_most 19 = .ok (.invokestatic 120, 3) := dk_184 0 120 (dk_at dksX14_most_0 19 rfl rfl)
theorem dX14_most_22 : decode cX14_most 22 = .ok (.ifCond .ne 5, 3) := dk_154 0 5 (dk_at dksX14_most_1 0 rfl rfl)
theorem dX14_most_25 : decode cX14_most 25 = .ok (.iconst (-1), 1) := dk_2 (dk_at dksX14_most_1 3 rfl rfl)
theorem dX14_most_26 : decode cX14_most 26 = .ok (.ireturn, 1) := dk_172 (dk_at dksX14_most_1 4 rfl rfl)
theorem dX14_most_27 : decode cX14_most 27 = .ok (.iconst (-1), 1) := dk_2 (dk_at dksX14_most_1 5 rfl rfl)
theorem dX14_most_28 : decode cX14_most 28 = .ok (.istore_n 3, 1) := dk_62 (dk_at dksX14_most_1 6 rfl rfl)
theorem dX14_most_29 : decode cX14_most 29 = .ok (.iconst 0, 1) := dk_3 (dk_at dksX14_most_1 7 rfl rfl)
theorem dX14_most_30 : decode cX14_most 30 = .ok (.istore 4, 2) := dk_54 4 (dk_at dksX14_most_1 8 rfl rfl)
theorem dX14_most_32 : decode cX14_most 32 = .ok (.iconst 0, 1) := dk_3 (dk_at dksX14_most_1 10 rfl rfl)
theorem dX14_most_33 : decode cX14_most 33 = .ok (.istore 5, 2) := dk_54 5 (dk_at dksX14_most_1 11 rfl rfl)
theorem dX14_most_35 : decode cX14_most 35 = .ok (.iload 5, 2) := dk_21 5 (dk_at dksX14_most_1 13 rfl rfl)
theorem dX14_most_37 : decode cX14_most 37 = .ok (.iconst 1, 1) := dk_4 (dk_at dksX14_most_1 15 rfl rfl)
theorem dX14_most_38 : decode cX14_most 38 = .ok (.iload_n 2, 1) := dk_28 (dk_at dksX14_most_1 16 rfl rfl)
theorem dX14_most_39 : decode cX14_most 39 = .ok (.ishl, 1) := dk_120 (dk_at dksX14_most_1 17 rfl rfl)
theorem dX14_most_40 : decode cX14_most 40 = .ok (.if_icmp .ge 120, 3) := dk_162 0 120 (dk_at dksX14_most_1 18 rfl rfl)
theorem dX14_most_43 : decode cX14_most 43 = .ok (.aload_n 0, 1) := dk_42 (dk_at dksX14_most_1 21 rfl rfl)
theorem dX14_most_44 : decode cX14_most 44 = .ok (.invokevirtual 313, 3) := dk_182 1 57 (dk_at dksX14_most_2 0 rfl rfl)
theorem dX14_most_47 : decode cX14_most 47 = .ok (.iconst 0, 1) := dk_3 (dk_at dksX14_most_2 3 rfl rfl)
theorem dX14_most_48 : decode cX14_most 48 = .ok (.istore 6, 2) := dk_54 6 (dk_at dksX14_most_2 4 rfl rfl)
theorem dX14_most_50 : decode cX14_most 50 = .ok (.iload 6, 2) := dk_21 6 (dk_at dksX14_most_2 6 rfl rfl)
theorem dX14_most_52 : decode cX14_most 52 = .ok (.iload_n 2, 1) := dk_28 (dk_at dksX14_most_2 8 rfl rfl)
theorem dX14_most_53 : decode cX14_most 53 = .ok (.if_icmp .ge 45, 3) := dk_162 0 45 (dk_at dksX14_most_2 9 rfl rfl)
theorem dX14_most_56 : decode cX14_most 56 = .ok (.aload_n 0, 1) := dk_42 (dk_at dksX14_most_2 12 rfl rfl)
theorem dX14_most_57 : decode cX14_most 57 = .ok (.aload_n 0, 1) := dk_42 (dk_at dksX14_most_2 13 rfl rfl)
theorem dX14_most_58 : decode cX14_most 58 = .ok (.aload_n 0, 1) := dk_42 (dk_at dksX14_most_2 14 rfl rfl)
theorem dX14_most_59 : decode cX14_most 59 = .ok (.getfield 47, 3) := dk_180 0 47 (dk_at dksX14_most_2 15 rfl rfl)
theorem dX14_most_62 : decode cX14_most 62 = .ok (.invokevirtual 288, 3) := dk_182 1 32 (dk_at dksX14_most_2 18 rfl rfl)
theorem dX14_most_65 : decode cX14_most 65 = .ok (.iconst 1, 1) := dk_4 (dk_at dksX14_most_2 21 rfl rfl)
theorem dX14_most_66 : decode cX14_most 66 = .ok (.iload_n 1, 1) := dk_27 (dk_at dksX14_most_2 22 rfl rfl)
theorem dX14_most_67 : decode cX14_most 67 = .ok (.ishl, 1) := dk_120 (dk_at dksX14_most_2 23 rfl rfl)
theorem dX14_most_68 : decode cX14_most 68 = .ok (.iconst (-1), 1) := dk_2 (dk_at dksX14_most_3 0 rfl rfl)
theorem dX14_most_69 : decode cX14_most 69 = .ok (.ixor, 1) := dk_130 (dk_at dksX14_most_3 1 rfl rfl)
theorem dX14_most_70 : decode cX14_most 70 = .ok (.iand, 1) := dk_126 (dk_at dksX14_most_3 2 rfl rfl)
theorem dX14_most_71 : decode cX14_most 71 = .ok (.iload 5, 2) := dk_21 5 (dk_at dksX14_most_3 3 rfl rfl)
theorem dX14_most_73 : decode cX14_most 73 = .ok (.iload 6, 2) := dk_21 6 (dk_at dksX14_most_3 5 rfl rfl)
theorem dX14_most_75 : decode cX14_most 75 = .ok (.invokestatic 128, 3) := dk_184 0 128 (dk_at dksX14_most_3 7 rfl rfl)
theorem dX14_most_78 : decode cX14_most 78 = .ok (.ifCond .eq 9, 3) := dk_153 0 9 (dk_at dksX14_most_3 10 rfl rfl)
theorem dX14_most_81 : decode cX14_most 81 = .ok (.iconst 1, 1) := dk_4 (dk_at dksX14_most_3 13 rfl rfl)
theorem dX14_most_82 : decode cX14_most 82 = .ok (.iload_n 1, 1) := dk_27 (dk_at dksX14_most_3 14 rfl rfl)
theorem dX14_most_83 : decode cX14_most 83 = .ok (.ishl, 1) := dk_120 (dk_at dksX14_most_3 15 rfl rfl)
theorem dX14_most_84 : decode cX14_most 84 = .ok (.goto 4, 3) := dk_167 0 4 (dk_at dksX14_most_3 16 rfl rfl)
theorem dX14_most_87 : decode cX14_most 87 = .ok (.iconst 0, 1) := dk_3 (dk_at dksX14_most_3 19 rfl rfl)
theorem dX14_most_88 : decode cX14_most 88 = .ok (.ior, 1) := dk_128 (dk_at dksX14_most_3 20 rfl rfl)
theorem dX14_most_89 : decode cX14_most 89 = .ok (.invokevirtual 307, 3) := dk_182 1 51 (dk_at dksX14_most_3 21 rfl rfl)
theorem dX14_most_92 : decode cX14_most 92 = .ok (.iinc 6 1, 3) := dk_132 6 1 (dk_at dksX14_most_4 0 rfl rfl)
theorem dX14_most_95 : decode cX14_most 95 = .ok (.goto (-45), 3) := dk_167 255 211 (dk_at dksX14_most_4 3 rfl rfl)
theorem dX14_most_98 : decode cX14_most 98 = .ok (.aload_n 0, 1) := dk_42 (dk_at dksX14_most_4 6 rfl rfl)
theorem dX14_most_99 : decode cX14_most 99 = .ok (.getfield 80, 3) := dk_180 0 80 (dk_at dksX14_most_4 7 rfl rfl)
theorem dX14_most_102 : decode cX14_most 102 = .ok (.iload_n 1, 1) := dk_27 (dk_at dksX14_most_4 10 rfl rfl)
theorem dX14_most_103 : decode cX14_most 103 = .ok (.iaload, 1) := dk_46 (dk_at dksX14_most_4 11 rfl rfl)
theorem dX14_most_104 : decode cX14_most 104 = .ok (.iload_n 3, 1) := dk_29 (dk_at dksX14_most_4 12 rfl rfl)
theorem dX14_most_105 : decode cX14_most 105 = .ok (.if_icmp .ne 20, 3) := dk_160 0 20 (dk_at dksX14_most_4 13 rfl rfl)
theorem dX14_most_108 : decode cX14_most 108 = .ok (.iload 5, 2) := dk_21 5 (dk_at dksX14_most_4 16 rfl rfl)
theorem dX14_most_110 : decode cX14_most 110 = .ok (.invokestatic 323, 3) := dk_184 1 67 (dk_at dksX14_most_4 18 rfl rfl)
theorem dX14_most_113 : decode cX14_most 113 = .ok (.iload 4, 2) := dk_21 4 (dk_at dksX14_most_4 21 rfl rfl)
theorem dX14_most_115 : decode cX14_most 115 = .ok (.invokestatic 323, 3) := dk_184 1 67 (dk_at dksX14_most_5 0 rfl rfl)
theorem dX14_most_118 : decode cX14_most 118 = .ok (.if_icmp .ge 7, 3) := dk_162 0 7 (dk_at dksX14_most_5 3 rfl rfl)
theorem dX14_most_121 : decode cX14_most 121 = .ok (.iconst 1, 1) := dk_4 (dk_at dksX14_most_5 6 rfl rfl)
theorem dX14_most_122 : decode cX14_most 122 = .ok (.goto 4, 3) := dk_167 0 4 (dk_at dksX14_most_5 7 rfl rfl)
theorem dX14_most_125 : decode cX14_most 125 = .ok (.iconst 0, 1) := dk_3 (dk_at dksX14_most_5 10 rfl rfl)
theorem dX14_most_126 : decode cX14_most 126 = .ok (.istore 6, 2) := dk_54 6 (dk_at dksX14_most_5 11 rfl rfl)
theorem dX14_most_128 : decode cX14_most 128 = .ok (.aload_n 0, 1) := dk_42 (dk_at dksX14_most_5 13 rfl rfl)
theorem dX14_most_129 : decode cX14_most 129 = .ok (.getfield 80, 3) := dk_180 0 80 (dk_at dksX14_most_5 14 rfl rfl)
theorem dX14_most_132 : decode cX14_most 132 = .ok (.iload_n 1, 1) := dk_27 (dk_at dksX14_most_5 17 rfl rfl)
theorem dX14_most_133 : decode cX14_most 133 = .ok (.iaload, 1) := dk_46 (dk_at dksX14_most_5 18 rfl rfl)
theorem dX14_most_134 : decode cX14_most 134 = .ok (.iload_n 3, 1) := dk_29 (dk_at dksX14_most_5 19 rfl rfl)
theorem dX14_most_135 : decode cX14_most 135 = .ok (.if_icmp .gt 8, 3) := dk_163 0 8 (dk_at dksX14_most_5 20 rfl rfl)
theorem dX14_most_138 : decode cX14_most 138 = .ok (.iload 6, 2) := dk_21 6 (dk_at dksX14_most_6 0 rfl rfl)
theorem dX14_most_140 : decode cX14_most 140 = .ok (.ifCond .eq 14, 3) := dk_153 0 14 (dk_at dksX14_most_6 2 rfl rfl)
theorem dX14_most_143 : decode cX14_most 143 = .ok (.aload_n 0, 1) := dk_42 (dk_at dksX14_most_6 5 rfl rfl)
theorem dX14_most_144 : decode cX14_most 144 = .ok (.getfield 80, 3) := dk_180 0 80 (dk_at dksX14_most_6 6 rfl rfl)
theorem dX14_most_147 : decode cX14_most 147 = .ok (.iload_n 1, 1) := dk_27 (dk_at dksX14_most_6 9 rfl rfl)
theorem dX14_most_148 : decode cX14_most 148 = .ok (.iaload, 1) := dk_46 (dk_at dksX14_most_6 10 rfl rfl)
theorem dX14_most_149 : decode cX14_most 149 = .ok (.istore_n 3, 1) := dk_62 (dk_at dksX14_most_6 11 rfl rfl)
theorem dX14_most_150 : decode cX14_most 150 = .ok (.iload 5, 2) := dk_21 5 (dk_at dksX14_most_6 12 rfl rfl)
theorem dX14_most_152 : decode cX14_most 152 = .ok (.istore 4, 2) := dk_54 4 (dk_at dksX14_most_6 14 rfl rfl)
theorem dX14_most_154 : decode cX14_most 154 = .ok (.iinc 5 1, 3) := dk_132 5 1 (dk_at dksX14_most_6 16 rfl rfl)
theorem dX14_most_157 : decode cX14_most 157 = .ok (.goto (-122), 3) := dk_167 255 134 (dk_at dksX14_most_6 19 rfl rfl)
theorem dX14_most_160 : decode cX14_most 160 = .ok (.aload_n 0, 1) := dk_42 (dk_at dksX14_most_6 22 rfl rfl)
theorem dX14_most_161 : decode cX14_most 161 = .ok (.iconst 0, 1) := dk_3 (dk_at dksX14_most_6 23 rfl rfl)
theorem dX14_most_162 : decode cX14_most 162 = .ok (.putfield 15, 3) := dk_181 0 15 (dk_at dksX14_most_7 0 rfl rfl)
theorem dX14_most_165 : decode cX14_most 165 = .ok (.aload_n 0, 1) := dk_42 (dk_at dksX14_most_7 3 rfl rfl)
theorem dX14_most_166 : decode cX14_most 166 = .ok (.iload 4, 2) := dk_21 4 (dk_at dksX14_most_7 4 rfl rfl)
theorem dX14_most_168 : decode cX14_most 168 = .ok (.i2l, 1) := dk_133 (dk_at dksX14_most_7 6 rfl rfl)
theorem dX14_most_169 : decode cX14_most 169 = .ok (.invokevirtual 18, 3) := dk_182 0 18 (dk_at dksX14_most_7 7 rfl rfl)
theorem dX14_most_172 : decode cX14_most 172 = .ok (.iload_n 3, 1) := dk_29 (dk_at dksX14_most_7 10 rfl rfl)
theorem dX14_most_173 : decode cX14_most 173 = .ok (.ireturn, 1) := dk_172 (dk_at dksX14_most_7 11 rfl rfl)
def dkwX14_rests_7 : List UInt8 := [182, 0, 18, 132, 5, 1, 167, 255, 232, 29, 172]
abbrev dktX14_rests_7 : List UInt8 := dkwX14_rests_7 ++ []
def dkwX14_rests_6 : List UInt8 := [182, 0, 18, 3, 54, 5, 21, 5, 42, 180, 0, 117, 162, 0, 21, 42, 42, 180, 0, 83, 21, 5, 46, 133]
abbrev dktX14_rests_6 : List UInt8 := dkwX14_rests_6 ++ dktX14_rests_7
def dkwX14_rests_5 : List UInt8 := [132, 5, 1, 167, 255, 213, 132, 3, 1, 167, 255, 191, 42, 3, 181, 0, 15, 42, 21, 4, 184, 0, 150, 133]
abbrev dktX14_rests_5 : List UInt8 := dkwX14_rests_5 ++ dktX14_rests_6
def dkwX14_rests_4 : List UInt8 := [42, 21, 5, 27, 182, 1, 79, 154, 0, 12, 21, 4, 153, 0, 7, 4, 167, 0, 4, 3, 54, 4]
abbrev dktX14_rests_4 : List UInt8 := dkwX14_rests_4 ++ dktX14_rests_5
def dkwX14_rests_3 : List UInt8 := [4, 54, 4, 3, 54, 5, 21, 5, 42, 180, 0, 117, 162, 0, 40, 42, 21, 5, 182, 1, 41, 153, 0, 13]
abbrev dktX14_rests_3 : List UInt8 := dkwX14_rests_3 ++ dktX14_rests_4
def dkwX14_rests_2 : List UInt8 := [4, 100, 79, 132, 3, 1, 167, 255, 236, 3, 62, 3, 54, 4, 29, 28, 162, 0, 66, 21, 4, 154, 0, 61]
abbrev dktX14_rests_2 : List UInt8 := dkwX14_rests_2 ++ dktX14_rests_3
def dkwX14_rests_1 : List UInt8 := [184, 0, 120, 154, 0, 5, 2, 172, 3, 62, 29, 16, 8, 162, 0, 20, 42, 180, 0, 83, 29, 4, 27, 120]
abbrev dktX14_rests_1 : List UInt8 := dkwX14_rests_1 ++ dktX14_rests_2
def dkwX14_rests_0 : List UInt8 := [42, 3, 181, 0, 3, 27, 133, 10, 20, 1, 75, 184, 0, 120, 153, 0, 15, 28, 133, 9, 20, 1, 77]
abbrev dktX14_rests_0 : List UInt8 := dkwX14_rests_0 ++ dktX14_rests_1
theorem dksX14_rests_0 : cX14_rests.data.toList.drop 0 = dktX14_rests_0 := by decide +kernel
theorem dksX14_rests_1 : cX14_rests.data.toList.drop 23 = dktX14_rests_1 := dk_seg dksX14_rests_0 23 rfl rfl
theorem dksX14_rests_2 : cX14_rests.data.toList.drop 47 = dktX14_rests_2 := dk_seg dksX14_rests_1 24 rfl rfl
theorem dksX14_rests_3 : cX14_rests.data.toList.drop 71 = dktX14_rests_3 := dk_seg dksX14_rests_2 24 rfl rfl
theorem dksX14_rests_4 : cX14_rests.data.toList.drop 95 = dktX14_rests_4 := dk_seg dksX14_rests_3 24 rfl rfl
theorem dksX14_rests_5 : cX14_rests.data.toList.drop 117 = dktX14_rests_5 := dk_seg dksX14_rests_4 22 rfl rfl
theorem dksX14_rests_6 : cX14_rests.data.toList.drop 141 = dktX14_rests_6 := dk_seg dksX14_rests_5 24 rfl rfl
theorem dksX14_rests_7 : cX14_rests.data.toList.drop 165 = dktX14_rests_7 := dk_seg dksX14_rests_6 24 rfl rfl
theorem dX14_rests_0 : decode cX14_rests 0 = .ok (.aload_n 0, 1) := dk_42 (dk_at dksX14_rests_0 0 rfl rfl)
theorem dX14_rests_1 : decode cX14_rests 1 = .ok (.iconst 0, 1) := dk_3 (dk_at dksX14_rests_0 1 rfl rfl)
theorem dX14_rests_2 : decode cX14_rests 2 = .ok (.putfield 3, 3) := dk_181 0 3 (dk_at dksX14_rests_0 2 rfl rfl)
theorem dX14_rests_5 : decode cX14_rests 5 = .ok (.iload_n 1, 1) := dk_27 (dk_at dksX14_rests_0 5 rfl rfl)
theorem dX14_rests_6 : decode cX14_rests 6 = .ok (.i2l, 1) := dk_133 (dk_at dksX14_rests_0 6 rfl rfl)
theorem dX14_rests_7 : decode cX14_rests 7 = .ok (.lconst 1, 1) := dk_10 (dk_at dksX14_rests_0 7 rfl rfl)
theorem dX14_rests_8 : decode cX14_rests 8 = .ok (.ldc2_w 331, 3) := dk_20 1 75 (dk_at dksX14_rests_0 8 rfl rfl)
theorem dX14_rests_11 : decode cX14_rests 11 = .ok (.invokestatic 120, 3) := dk_184 0 120 (dk_at dksX14_rests_0 11 rfl rfl)
theorem dX14_rests_14 : decode cX14_rests 14 = .ok (.ifCond .eq 15, 3) := dk_153 0 15 (dk_at dksX14_rests_0 14 rfl rfl)
theorem dX14_rests_17 : decode cX14_rests 17 = .ok (.iload_n 2, 1) := dk_28 (dk_at dksX14_rests_0 17 rfl rfl)
theorem dX14_rests_18 : decode cX14_rests 18 = .ok (.i2l, 1) := dk_133 (dk_at dksX14_rests_0 18 rfl rfl)
theorem dX14_rests_19 : decode cX14_rests 19 = .ok (.lconst 0, 1) := dk_9 (dk_at dksX14_rests_0 19 rfl rfl)
theorem dX14_rests_20 : decode cX14_rests 20 = .ok (.ldc2_w 333, 3) := dk_20 1 77 (dk_at dksX14_rests_0 20 rfl rfl)
theorem dX14_rests_23 : decode cX14_rests 23 = .ok (.invokestatic 120, 3) := dk_184 0 120 (dk_at dksX14_rests_1 0 rfl rfl)
theorem dX14_rests_26 : decode cX14_rests 26 = .ok (.ifCond .ne 5, 3) := dk_154 0 5 (dk_at dksX14_rests_1 3 rfl rfl)
theorem dX14_rests_29 : decode cX14_rests 29 = .ok (.iconst (-1), 1) := dk_2 (dk_at dksX14_rests_1 6 rfl rfl)
theorem dX14_rests_30 : decode cX14_rests 30 = .ok (.ireturn, 1) := dk_172 (dk_at dksX14_rests_1 7 rfl rfl)
theorem dX14_rests_31 : decode cX14_rests 31 = .ok (.iconst 0, 1) := dk_3 (dk_at dksX14_rests_1 8 rfl rfl)
theorem dX14_rests_32 : decode cX14_rests 32 = .ok (.istore_n 3, 1) := dk_62 (dk_at dksX14_rests_1 9 rfl rfl)
theorem dX14_rests_33 : decode cX14_rests 33 = .ok (.iload_n 3, 1) := dk_29 (dk_at dksX14_rests_1 10 rfl rfl)
theorem dX14_rests_34 : decode cX14_rests 34 = .ok (.bipush 8, 2) := dk_16 8 (dk_at dksX14_rests_1 11 rfl rfl)
theorem dX14_rests_36 : decode cX14_rests 36 = .ok (.if_icmp .ge 20, 3) := dk_162 0 20 (dk_at dksX14_rests_1 13 rfl rfl)
theorem dX14_rests_39 : decode cX14_rests 39 = .ok (.aload_n 0, 1) := dk_42 (dk_at dksX14_rests_1 16 rfl rfl)
theorem dX14_rests_40 : decode cX14_rests 40 = .ok (.getfield 83, 3) := dk_180 0 83 (dk_at dksX14_rests_1 17 rfl rfl)
theorem dX14_rests_43 : decode cX14_rests 43 = .ok (.iload_n 3, 1) := dk_29 (dk_at dksX14_rests_1 20 rfl rfl)
theorem dX14_rests_44 : decode cX14_rests 44 = .ok (.iconst 1, 1) := dk_4 (dk_at dksX14_rests_1 21 rfl rfl)
theorem dX14_rests_45 : decode cX14_rests 45 = .ok (.iload_n 1, 1) := dk_27 (dk_at dksX14_rests_1 22 rfl rfl)
theorem dX14_rests_46 : decode cX14_rests 46 = .ok (.ishl, 1) := dk_120 (dk_at dksX14_rests_1 23 rfl rfl)
theorem dX14_rests_47 : decode cX14_rests 47 = .ok (.iconst 1, 1) := dk_4 (dk_at dksX14_rests_2 0 rfl rfl)
theorem dX14_rests_48 : decode cX14_rests 48 = .ok (.isub, 1) := dk_100 (dk_at dksX14_rests_2 1 rfl rfl)
theorem dX14_rests_49 : decode cX14_rests 49 = .ok (.iastore, 1) := dk_79 (dk_at dksX14_rests_2 2 rfl rfl)
theorem dX14_rests_50 : decode cX14_rests 50 = .ok (.iinc 3 1, 3) := dk_132 3 1 (dk_at dksX14_rests_2 3 rfl rfl)
theorem dX14_rests_53 : decode cX14_rests 53 = .ok (.goto (-20), 3) := dk_167 255 236 (dk_at dksX14_rests_2 6 rfl rfl)
theorem dX14_rests_56 : decode cX14_rests 56 = .ok (.iconst 0, 1) := dk_3 (dk_at dksX14_rests_2 9 rfl rfl)
theorem dX14_rests_57 : decode cX14_rests 57 = .ok (.istore_n 3, 1) := dk_62 (dk_at dksX14_rests_2 10 rfl rfl)
theorem dX14_rests_58 : decode cX14_rests 58 = .ok (.iconst 0, 1) := dk_3 (dk_at dksX14_rests_2 11 rfl rfl)
theorem dX14_rests_59 : decode cX14_rests 59 = .ok (.istore 4, 2) := dk_54 4 (dk_at dksX14_rests_2 12 rfl rfl)
theorem dX14_rests_61 : decode cX14_rests 61 = .ok (.iload_n 3, 1) := dk_29 (dk_at dksX14_rests_2 14 rfl rfl)
theorem dX14_rests_62 : decode cX14_rests 62 = .ok (.iload_n 2, 1) := dk_28 (dk_at dksX14_rests_2 15 rfl rfl)
theorem dX14_rests_63 : decode cX14_rests 63 = .ok (.if_icmp .ge 66, 3) := dk_162 0 66 (dk_at dksX14_rests_2 16 rfl rfl)
theorem dX14_rests_66 : decode cX14_rests 66 = .ok (.iload 4, 2) := dk_21 4 (dk_at dksX14_rests_2 19 rfl rfl)
theorem dX14_rests_68 : decode cX14_rests 68 = .ok (.ifCond .ne 61, 3) := dk_154 0 61 (dk_at dksX14_rests_2 21 rfl rfl)
theorem dX14_rests_71 : decode cX14_rests 71 = .ok (.iconst 1, 1) := dk_4 (dk_at dksX14_rests_3 0 rfl rfl)
theorem dX14_rests_72 : decode cX14_rests 72 = .ok (.istore 4, 2) := dk_54 4 (dk_at dksX14_rests_3 1 rfl rfl)
theorem dX14_rests_74 : decode cX14_rests 74 = .ok (.iconst 0, 1) := dk_3 (dk_at dksX14_rests_3 3 rfl rfl)
theorem dX14_rests_75 : decode cX14_rests 75 = .ok (.istore 5, 2) := dk_54 5 (dk_at dksX14_rests_3 4 rfl rfl)
theorem dX14_rests_77 : decode cX14_rests 77 = .ok (.iload 5, 2) := dk_21 5 (dk_at dksX14_rests_3 6 rfl rfl)
theorem dX14_rests_79 : decode cX14_rests 79 = .ok (.aload_n 0, 1) := dk_42 (dk_at dksX14_rests_3 8 rfl rfl)
theorem dX14_rests_80 : decode cX14_rests 80 = .ok (.getfield 117, 3) := dk_180 0 117 (dk_at dksX14_rests_3 9 rfl rfl)
theorem dX14_rests_83 : decode cX14_rests 83 = .ok (.if_icmp .ge 40, 3) := dk_162 0 40 (dk_at dksX14_rests_3 12 rfl rfl)
theorem dX14_rests_86 : decode cX14_rests 86 = .ok (.aload_n 0, 1) := dk_42 (dk_at dksX14_rests_3 15 rfl rfl)
theorem dX14_rests_87 : decode cX14_rests 87 = .ok (.iload 5, 2) := dk_21 5 (dk_at dksX14_rests_3 16 rfl rfl)
theorem dX14_rests_89 : decode cX14_rests 89 = .ok (.invokevirtual 297, 3) := dk_182 1 41 (dk_at dksX14_rests_3 18 rfl rfl)
theorem dX14_rests_92 : decode cX14_rests 92 = .ok (.ifCond .eq 13, 3) := dk_153 0 13 (dk_at dksX14_rests_3 21 rfl rfl)
theorem dX14_rests_95 : decode cX14_rests 95 = .ok (.aload_n 0, 1) := dk_42 (dk_at dksX14_rests_4 0 rfl rfl)
theorem dX14_rests_96 : decode cX14_rests 96 = .ok (.iload 5, 2) := dk_21 5 (dk_at dksX14_rests_4 1 rfl rfl)
theorem dX14_rests_98 : decode cX14_rests 98 = .ok (.iload_n 1, 1) := dk_27 (dk_at dksX14_rests_4 3 rfl rfl)
theorem dX14_rests_99 : decode cX14_rests 99 = .ok (.invokevirtual 335, 3) := dk_182 1 79 (dk_at dksX14_rests_4 4 rfl rfl)
theorem dX14_rests_102 : decode cX14_rests 102 = .ok (.ifCond .ne 12, 3) := dk_154 0 12 (dk_at dksX14_rests_4 7 rfl rfl)
theorem dX14_rests_105 : decode cX14_rests 105 = .ok (.iload 4, 2) := dk_21 4 (dk_at dksX14_rests_4 10 rfl rfl)
theorem dX14_rests_107 : decode cX14_rests 107 = .ok (.ifCond .eq 7, 3) := dk_153 0 7 (dk_at dksX14_rests_4 12 rfl rfl)
theorem dX14_rests_110 : decode cX14_rests 110 = .ok (.iconst 1, 1) := dk_4 (dk_at dksX14_rests_4 15 rfl rfl)
theorem dX14_rests_111 : decode cX14_rests 111 = .ok (.goto 4, 3) := dk_167 0 4 (dk_at dksX14_rests_4 16 rfl rfl)
theorem dX14_rests_114 : decode cX14_rests 114 = .ok (.iconst 0, 1) := dk_3 (dk_at dksX14_rests_4 19 rfl rfl)
theorem dX14_rests_115 : decode cX14_rests 115 = .ok (.istore 4, 2) := dk_54 4 (dk_at dksX14_rests_4 20 rfl rfl)
theorem dX14_rests_117 : decode cX14_rests 117 = .ok (.iinc 5 1, 3) := dk_132 5 1 (dk_at dksX14_rests_5 0 rfl rfl)
theorem dX14_rests_120 : decode cX14_rests 120 = .ok (.goto (-43), 3) := dk_167 255 213 (dk_at dksX14_rests_5 3 rfl rfl)
theorem dX14_rests_123 : decode cX14_rests 123 = .ok (.iinc 3 1, 3) := dk_132 3 1 (dk_at dksX14_rests_5 6 rfl rfl)
theorem dX14_rests_126 : decode cX14_rests 126 = .ok (.goto (-65), 3) := dk_167 255 191 (dk_at dksX14_rests_5 9 rfl rfl)
theorem dX14_rests_129 : decode cX14_rests 129 = .ok (.aload_n 0, 1) := dk_42 (dk_at dksX14_rests_5 12 rfl rfl)
theorem dX14_rests_130 : decode cX14_rests 130 = .ok (.iconst 0, 1) := dk_3 (dk_at dksX14_rests_5 13 rfl rfl)
theorem dX14_rests_131 : decode cX14_rests 131 = .ok (.putfield 15, 3) := dk_181 0 15 (dk_at dksX14_rests_5 14 rfl rfl)
theorem dX14_rests_134 : decode cX14_rests 134 = .ok (.aload_n 0, 1) := dk_42 (dk_at dksX14_rests_5 17 rfl rfl)
theorem dX14_rests_135 : decode cX14_rests 135 = .ok (.iload 4, 2) := dk_21 4 (dk_at dksX14_rests_5 18 rfl rfl)
theorem dX14_rests_137 : decode cX14_rests 137 = .ok (.invokestatic 150, 3) := dk_184 0 150 (dk_at dksX14_rests_5 20 rfl rfl)
theorem dX14_rests_140 : decode cX14_rests 140 = .ok (.i2l, 1) := dk_133 (dk_at dksX14_rests_5 23 rfl rfl)
theorem dX14_rests_141 : decode cX14_rests 141 = .ok (.invokevirtual 18, 3) := dk_182 0 18 (dk_at dksX14_rests_6 0 rfl rfl)
theorem dX14_rests_144 : decode cX14_rests 144 = .ok (.iconst 0, 1) := dk_3 (dk_at dksX14_rests_6 3 rfl rfl)
theorem dX14_rests_145 : decode cX14_rests 145 = .ok (.istore 5, 2) := dk_54 5 (dk_at dksX14_rests_6 4 rfl rfl)
theorem dX14_rests_147 : decode cX14_rests 147 = .ok (.iload 5, 2) := dk_21 5 (dk_at dksX14_rests_6 6 rfl rfl)
theorem dX14_rests_149 : decode cX14_rests 149 = .ok (.aload_n 0, 1) := dk_42 (dk_at dksX14_rests_6 8 rfl rfl)
theorem dX14_rests_150 : decode cX14_rests 150 = .ok (.getfield 117, 3) := dk_180 0 117 (dk_at dksX14_rests_6 9 rfl rfl)
theorem dX14_rests_153 : decode cX14_rests 153 = .ok (.if_icmp .ge 21, 3) := dk_162 0 21 (dk_at dksX14_rests_6 12 rfl rfl)
theorem dX14_rests_156 : decode cX14_rests 156 = .ok (.aload_n 0, 1) := dk_42 (dk_at dksX14_rests_6 15 rfl rfl)
theorem dX14_rests_157 : decode cX14_rests 157 = .ok (.aload_n 0, 1) := dk_42 (dk_at dksX14_rests_6 16 rfl rfl)
theorem dX14_rests_158 : decode cX14_rests 158 = .ok (.getfield 83, 3) := dk_180 0 83 (dk_at dksX14_rests_6 17 rfl rfl)
theorem dX14_rests_161 : decode cX14_rests 161 = .ok (.iload 5, 2) := dk_21 5 (dk_at dksX14_rests_6 20 rfl rfl)
theorem dX14_rests_163 : decode cX14_rests 163 = .ok (.iaload, 1) := dk_46 (dk_at dksX14_rests_6 22 rfl rfl)
theorem dX14_rests_164 : decode cX14_rests 164 = .ok (.i2l, 1) := dk_133 (dk_at dksX14_rests_6 23 rfl rfl)
theorem dX14_rests_165 : decode cX14_rests 165 = .ok (.invokevirtual 18, 3) := dk_182 0 18 (dk_at dksX14_rests_7 0 rfl rfl)
theorem dX14_rests_168 : decode cX14_rests 168 = .ok (.iinc 5 1, 3) := dk_132 5 1 (dk_at dksX14_rests_7 3 rfl rfl)
theorem dX14_rests_171 : decode cX14_rests 171 = .ok (.goto (-24), 3) := dk_167 255 232 (dk_at dksX14_rests_7 6 rfl rfl)
theorem dX14_rests_174 : decode cX14_rests 174 = .ok (.iload_n 3, 1) := dk_29 (dk_at dksX14_rests_7 9 rfl rfl)
theorem dX14_rests_175 : decode cX14_rests 175 = .ok (.ireturn, 1) := dk_172 (dk_at dksX14_rests_7 10 rfl rfl)
def dkwX14_plans_4 : List UInt8 := [3, 172]
abbrev dktX14_plans_4 : List UInt8 := dkwX14_plans_4 ++ []
def dkwX14_plans_3 : List UInt8 := [132, 6, 1, 167, 255, 204, 42, 180, 0, 83, 27, 21, 4, 79, 21, 4, 29, 159, 0, 7, 4, 167, 0, 4]
abbrev dktX14_plans_3 : List UInt8 := dkwX14_plans_3 ++ dktX14_plans_4
def dkwX14_plans_2 : List UInt8 := [21, 5, 164, 0, 8, 21, 6, 167, 0, 5, 21, 4, 54, 4, 21, 5, 21, 7, 184, 0, 254, 54, 5]
abbrev dktX14_plans_2 : List UInt8 := dkwX14_plans_2 ++ dktX14_plans_3
def dkwX14_plans_1 : List UInt8 := [28, 120, 162, 0, 50, 42, 180, 0, 83, 27, 21, 6, 79, 42, 27, 28, 182, 1, 72, 54, 7, 21, 7]
abbrev dktX14_plans_1 : List UInt8 := dkwX14_plans_1 ++ dktX14_plans_2
def dkwX14_plans_0 : List UInt8 := [42, 180, 0, 83, 27, 46, 62, 29, 54, 4, 42, 27, 28, 182, 1, 72, 54, 5, 3, 54, 6, 21, 6, 4]
abbrev dktX14_plans_0 : List UInt8 := dkwX14_plans_0 ++ dktX14_plans_1
theorem dksX14_plans_0 : cX14_plans.data.toList.drop 0 = dktX14_plans_0 := by decide +kernel
theorem dksX14_plans_1 : cX14_plans.data.toList.drop 24 = dktX14_plans_1 := dk_seg dksX14_plans_0 24 rfl rfl
theorem dksX14_plans_2 : cX14_plans.data.toList.drop 47 = dktX14_plans_2 := dk_seg dksX14_plans_1 23 rfl rfl
theorem dksX14_plans_3 : cX14_plans.data.toList.drop 70 = dktX14_plans_3 := dk_seg dksX14_plans_2 23 rfl rfl
theorem dksX14_plans_4 : cX14_plans.data.toList.drop 94 = dktX14_plans_4 := dk_seg dksX14_plans_3 24 rfl rfl
theorem dX14_plans_0 : decode cX14_plans 0 = .ok (.aload_n 0, 1) := dk_42 (dk_at dksX14_plans_0 0 rfl rfl)
theorem dX14_plans_1 : decode cX14_plans 1 = .ok (.getfield 83, 3) := dk_180 0 83 (dk_at dksX14_plans_0 1 rfl rfl)
theorem dX14_plans_4 : decode cX14_plans 4 = .ok (.iload_n 1, 1) := dk_27 (dk_at dksX14_plans_0 4 rfl rfl)
theorem dX14_plans_5 : decode cX14_plans 5 = .ok (.iaload, 1) := dk_46 (dk_at dksX14_plans_0 5 rfl rfl)
theorem dX14_plans_6 : decode cX14_plans 6 = .ok (.istore_n 3, 1) := dk_62 (dk_at dksX14_plans_0 6 rfl rfl)
theorem dX14_plans_7 : decode cX14_plans 7 = .ok (.iload_n 3, 1) := dk_29 (dk_at dksX14_plans_0 7 rfl rfl)
theorem dX14_plans_8 : decode cX14_plans 8 = .ok (.istore 4, 2) := dk_54 4 (dk_at dksX14_plans_0 8 rfl rfl)
theorem dX14_plans_10 : decode cX14_plans 10 = .ok (.aload_n 0, 1) := dk_42 (dk_at dksX14_plans_0 10 rfl rfl)
theorem dX14_plans_11 : decode cX14_plans 11 = .ok (.iload_n 1, 1) := dk_27 (dk_at dksX14_plans_0 11 rfl rfl)
theorem dX14_plans_12 : decode cX14_plans 12 = .ok (.iload_n 2, 1) := dk_28 (dk_at dksX14_plans_0 12 rfl rfl)
theorem dX14_plans_13 : decode cX14_plans 13 = .ok (.invokevirtual 328, 3) := dk_182 1 72 (dk_at dksX14_plans_0 13 rfl rfl)
theorem dX14_plans_16 : decode cX14_plans 16 = .ok (.istore 5, 2) := dk_54 5 (dk_at dksX14_plans_0 16 rfl rfl)
theorem dX14_plans_18 : decode cX14_plans 18 = .ok (.iconst 0, 1) := dk_3 (dk_at dksX14_plans_0 18 rfl rfl)
theorem dX14_plans_19 : decode cX14_plans 19 = .ok (.istore 6, 2) := dk_54 6 (dk_at dksX14_plans_0 19 rfl rfl)
theorem dX14_plans_21 : decode cX14_plans 21 = .ok (.iload 6, 2) := dk_21 6 (dk_at dksX14_plans_0 21 rfl rfl)
theorem dX14_plans_23 : decode cX14_plans 23 = .ok (.iconst 1, 1) := dk_4 (dk_at dksX14_plans_0 23 rfl rfl)
theorem dX14_plans_24 : decode cX14_plans 24 = .ok (.iload_n 2, 1) := dk_28 (dk_at dksX14_plans_1 0 rfl rfl)
theorem dX14_plans_25 : decode cX14_plans 25 = .ok (.ishl, 1) := dk_120 (dk_at dksX14_plans_1 1 rfl rfl)
theorem dX14_plans_26 : decode cX14_plans 26 = .ok (.if_icmp .ge 50, 3) := dk_162 0 50 (dk_at dksX14_plans_1 2 rfl rfl)
theorem dX14_plans_29 : decode cX14_plans 29 = .ok (.aload_n 0, 1) := dk_42 (dk_at dksX14_plans_1 5 rfl rfl)
theorem dX14_plans_30 : decode cX14_plans 30 = .ok (.getfield 83, 3) := dk_180 0 83 (dk_at dksX14_plans_1 6 rfl rfl)
theorem dX14_plans_33 : decode cX14_plans 33 = .ok (.iload_n 1, 1) := dk_27 (dk_at dksX14_plans_1 9 rfl rfl)
theorem dX14_plans_34 : decode cX14_plans 34 = .ok (.iload 6, 2) := dk_21 6 (dk_at dksX14_plans_1 10 rfl rfl)
theorem dX14_plans_36 : decode cX14_plans 36 = .ok (.iastore, 1) := dk_79 (dk_at dksX14_plans_1 12 rfl rfl)
theorem dX14_plans_37 : decode cX14_plans 37 = .ok (.aload_n 0, 1) := dk_42 (dk_at dksX14_plans_1 13 rfl rfl)
theorem dX14_plans_38 : decode cX14_plans 38 = .ok (.iload_n 1, 1) := dk_27 (dk_at dksX14_plans_1 14 rfl rfl)
theorem dX14_plans_39 : decode cX14_plans 39 = .ok (.iload_n 2, 1) := dk_28 (dk_at dksX14_plans_1 15 rfl rfl)
theorem dX14_plans_40 : decode cX14_plans 40 = .ok (.invokevirtual 328, 3) := dk_182 1 72 (dk_at dksX14_plans_1 16 rfl rfl)
theorem dX14_plans_43 : decode cX14_plans 43 = .ok (.istore 7, 2) := dk_54 7 (dk_at dksX14_plans_1 19 rfl rfl)
theorem dX14_plans_45 : decode cX14_plans 45 = .ok (.iload 7, 2) := dk_21 7 (dk_at dksX14_plans_1 21 rfl rfl)
theorem dX14_plans_47 : decode cX14_plans 47 = .ok (.iload 5, 2) := dk_21 5 (dk_at dksX14_plans_2 0 rfl rfl)
theorem dX14_plans_49 : decode cX14_plans 49 = .ok (.if_icmp .le 8, 3) := dk_164 0 8 (dk_at dksX14_plans_2 2 rfl rfl)
theorem dX14_plans_52 : decode cX14_plans 52 = .ok (.iload 6, 2) := dk_21 6 (dk_at dksX14_plans_2 5 rfl rfl)
theorem dX14_plans_54 : decode cX14_plans 54 = .ok (.goto 5, 3) := dk_167 0 5 (dk_at dksX14_plans_2 7 rfl rfl)
theorem dX14_plans_57 : decode cX14_plans 57 = .ok (.iload 4, 2) := dk_21 4 (dk_at dksX14_plans_2 10 rfl rfl)
theorem dX14_plans_59 : decode cX14_plans 59 = .ok (.istore 4, 2) := dk_54 4 (dk_at dksX14_plans_2 12 rfl rfl)
theorem dX14_plans_61 : decode cX14_plans 61 = .ok (.iload 5, 2) := dk_21 5 (dk_at dksX14_plans_2 14 rfl rfl)
theorem dX14_plans_63 : decode cX14_plans 63 = .ok (.iload 7, 2) := dk_21 7 (dk_at dksX14_plans_2 16 rfl rfl)
theorem dX14_plans_65 : decode cX14_plans 65 = .ok (.invokestatic 254, 3) := dk_184 0 254 (dk_at dksX14_plans_2 18 rfl rfl)
theorem dX14_plans_68 : decode cX14_plans 68 = .ok (.istore 5, 2) := dk_54 5 (dk_at dksX14_plans_2 21 rfl rfl)
theorem dX14_plans_70 : decode cX14_plans 70 = .ok (.iinc 6 1, 3) := dk_132 6 1 (dk_at dksX14_plans_3 0 rfl rfl)
theorem dX14_plans_73 : decode cX14_plans 73 = .ok (.goto (-52), 3) := dk_167 255 204 (dk_at dksX14_plans_3 3 rfl rfl)
theorem dX14_plans_76 : decode cX14_plans 76 = .ok (.aload_n 0, 1) := dk_42 (dk_at dksX14_plans_3 6 rfl rfl)
theorem dX14_plans_77 : decode cX14_plans 77 = .ok (.getfield 83, 3) := dk_180 0 83 (dk_at dksX14_plans_3 7 rfl rfl)
theorem dX14_plans_80 : decode cX14_plans 80 = .ok (.iload_n 1, 1) := dk_27 (dk_at dksX14_plans_3 10 rfl rfl)
theorem dX14_plans_81 : decode cX14_plans 81 = .ok (.iload 4, 2) := dk_21 4 (dk_at dksX14_plans_3 11 rfl rfl)
theorem dX14_plans_83 : decode cX14_plans 83 = .ok (.iastore, 1) := dk_79 (dk_at dksX14_plans_3 13 rfl rfl)
theorem dX14_plans_84 : decode cX14_plans 84 = .ok (.iload 4, 2) := dk_21 4 (dk_at dksX14_plans_3 14 rfl rfl)
theorem dX14_plans_86 : decode cX14_plans 86 = .ok (.iload_n 3, 1) := dk_29 (dk_at dksX14_plans_3 16 rfl rfl)
theorem dX14_plans_87 : decode cX14_plans 87 = .ok (.if_icmp .eq 7, 3) := dk_159 0 7 (dk_at dksX14_plans_3 17 rfl rfl)
theorem dX14_plans_90 : decode cX14_plans 90 = .ok (.iconst 1, 1) := dk_4 (dk_at dksX14_plans_3 20 rfl rfl)
theorem dX14_plans_91 : decode cX14_plans 91 = .ok (.goto 4, 3) := dk_167 0 4 (dk_at dksX14_plans_3 21 rfl rfl)
theorem dX14_plans_94 : decode cX14_plans 94 = .ok (.iconst 0, 1) := dk_3 (dk_at dksX14_plans_4 0 rfl rfl)
theorem dX14_plans_95 : decode cX14_plans 95 = .ok (.ireturn, 1) := dk_172 (dk_at dksX14_plans_4 1 rfl rfl)
def dkwX14_byPlans_3 : List UInt8 := [167, 255, 194, 42, 180, 0, 80, 27, 46, 172]
abbrev dktX14_byPlans_3 : List UInt8 := dkwX14_byPlans_3 ++ []
def dkwX14_byPlans_2 : List UInt8 := [167, 0, 4, 3, 128, 54, 4, 132, 5, 1, 167, 255, 217, 42, 21, 4, 182, 1, 51, 132, 3, 1]
abbrev dktX14_byPlans_2 : List UInt8 := dkwX14_byPlans_2 ++ dktX14_byPlans_3
def dkwX14_byPlans_1 : List UInt8 := [162, 0, 36, 21, 4, 42, 180, 0, 83, 21, 5, 46, 29, 184, 0, 128, 153, 0, 10, 4, 21, 5, 120]
abbrev dktX14_byPlans_1 : List UInt8 := dkwX14_byPlans_1 ++ dktX14_byPlans_2
def dkwX14_byPlans_0 : List UInt8 := [42, 182, 1, 57, 3, 62, 29, 28, 162, 0, 63, 3, 54, 4, 3, 54, 5, 21, 5, 42, 180, 0, 117]
abbrev dktX14_byPlans_0 : List UInt8 := dkwX14_byPlans_0 ++ dktX14_byPlans_1
theorem dksX14_byPlans_0 : cX14_byPlans.data.toList.drop 0 = dktX14_byPlans_0 := by decide +kernel
theorem dksX14_byPlans_1 : cX14_byPlans.data.toList.drop 23 = dktX14_byPlans_1 := dk_seg dksX14_byPlans_0 23 rfl rfl
theorem dksX14_byPlans_2 : cX14_byPlans.data.toList.drop 46 = dktX14_byPlans_2 := dk_seg dksX14_byPlans_1 23 rfl rfl
theorem dksX14_byPlans_3 : cX14_byPlans.data.toList.drop 68 = dktX14_byPlans_3 := dk_seg dksX14_byPlans_2 22 rfl rfl
theorem dX14_byPlans_0 : decode cX14_byPlans 0 = .ok (.aload_n 0, 1) := dk_42 (dk_at dksX14_byPlans_0 0 rfl rfl)
theorem dX14_byPlans_1 : decode cX14_byPlans 1 = .ok (.invokevirtual 313, 3) := dk_182 1 57 (dk_at dksX14_byPlans_0 1 rfl rfl)
theorem dX14_byPlans_4 : decode cX14_byPlans 4 = .ok (.iconst 0, 1) := dk_3 (dk_at dksX14_byPlans_0 4 rfl rfl)
theorem dX14_byPlans_5 : decode cX14_byPlans 5 = .ok (.istore_n 3, 1) := dk_62 (dk_at dksX14_byPlans_0 5 rfl rfl)
theorem dX14_byPlans_6 : decode cX14_byPlans 6 = .ok (.iload_n 3, 1) := dk_29 (dk_at dksX14_byPlans_0 6 rfl rfl)
theorem dX14_byPlans_7 : decode cX14_byPlans 7 = .ok (.iload_n 2, 1) := dk_28 (dk_at dksX14_byPlans_0 7 rfl rfl)
theorem dX14_byPlans_8 : decode cX14_byPlans 8 = .ok (.if_icmp .ge 63, 3) := dk_162 0 63 (dk_at dksX14_byPlans_0 8 rfl rfl)
theorem dX14_byPlans_11 : decode cX14_byPlans 11 = .ok (.iconst 0, 1) := dk_3 (dk_at dksX14_byPlans_0 11 rfl rfl)
theorem dX14_byPlans_12 : decode cX14_byPlans 12 = .ok (.istore 4, 2) := dk_54 4 (dk_at dksX14_byPlans_0 12 rfl rfl)
theorem dX14_byPlans_14 : decode cX14_byPlans 14 = .ok (.iconst 0, 1) := dk_3 (dk_at dksX14_byPlans_0 14 rfl rfl)
theorem dX14_byPlans_15 : decode cX14_byPlans 15 = .ok (.istore 5, 2) := dk_54 5 (dk_at dksX14_byPlans_0 15 rfl rfl)
theorem dX14_byPlans_17 : decode cX14_byPlans 17 = .ok (.iload 5, 2) := dk_21 5 (dk_at dksX14_byPlans_0 17 rfl rfl)
theorem dX14_byPlans_19 : decode cX14_byPlans 19 = .ok (.aload_n 0, 1) := dk_42 (dk_at dksX14_byPlans_0 19 rfl rfl)
theorem dX14_byPlans_20 : decode cX14_byPlans 20 = .ok (.getfield 117, 3) := dk_180 0 117 (dk_at dksX14_byPlans_0 20 rfl rfl)
theorem dX14_byPlans_23 : decode cX14_byPlans 23 = .ok (.if_icmp .ge 36, 3) := dk_162 0 36 (dk_at dksX14_byPlans_1 0 rfl rfl)
theorem dX14_byPlans_26 : decode cX14_byPlans 26 = .ok (.iload 4, 2) := dk_21 4 (dk_at dksX14_byPlans_1 3 rfl rfl)
theorem dX14_byPlans_28 : decode cX14_byPlans 28 = .ok (.aload_n 0, 1) := dk_42 (dk_at dksX14_byPlans_1 5 rfl rfl)
theorem dX14_byPlans_29 : decode cX14_byPlans 29 = .ok (.getfield 83, 3) := dk_180 0 83 (dk_at dksX14_byPlans_1 6 rfl rfl)
theorem dX14_byPlans_32 : decode cX14_byPlans 32 = .ok (.iload 5, 2) := dk_21 5 (dk_at dksX14_byPlans_1 9 rfl rfl)
theorem dX14_byPlans_34 : decode cX14_byPlans 34 = .ok (.iaload, 1) := dk_46 (dk_at dksX14_byPlans_1 11 rfl rfl)
theorem dX14_byPlans_35 : decode cX14_byPlans 35 = .ok (.iload_n 3, 1) := dk_29 (dk_at dksX14_byPlans_1 12 rfl rfl)
theorem dX14_byPlans_36 : decode cX14_byPlans 36 = .ok (.invokestatic 128, 3) := dk_184 0 128 (dk_at dksX14_byPlans_1 13 rfl rfl)
theorem dX14_byPlans_39 : decode cX14_byPlans 39 = .ok (.ifCond .eq 10, 3) := dk_153 0 10 (dk_at dksX14_byPlans_1 16 rfl rfl)
theorem dX14_byPlans_42 : decode cX14_byPlans 42 = .ok (.iconst 1, 1) := dk_4 (dk_at dksX14_byPlans_1 19 rfl rfl)
theorem dX14_byPlans_43 : decode cX14_byPlans 43 = .ok (.iload 5, 2) := dk_21 5 (dk_at dksX14_byPlans_1 20 rfl rfl)
theorem dX14_byPlans_45 : decode cX14_byPlans 45 = .ok (.ishl, 1) := dk_120 (dk_at dksX14_byPlans_1 22 rfl rfl)
theorem dX14_byPlans_46 : decode cX14_byPlans 46 = .ok (.goto 4, 3) := dk_167 0 4 (dk_at dksX14_byPlans_2 0 rfl rfl)
theorem dX14_byPlans_49 : decode cX14_byPlans 49 = .ok (.iconst 0, 1) := dk_3 (dk_at dksX14_byPlans_2 3 rfl rfl)
theorem dX14_byPlans_50 : decode cX14_byPlans 50 = .ok (.ior, 1) := dk_128 (dk_at dksX14_byPlans_2 4 rfl rfl)
theorem dX14_byPlans_51 : decode cX14_byPlans 51 = .ok (.istore 4, 2) := dk_54 4 (dk_at dksX14_byPlans_2 5 rfl rfl)
theorem dX14_byPlans_53 : decode cX14_byPlans 53 = .ok (.iinc 5 1, 3) := dk_132 5 1 (dk_at dksX14_byPlans_2 7 rfl rfl)
theorem dX14_byPlans_56 : decode cX14_byPlans 56 = .ok (.goto (-39), 3) := dk_167 255 217 (dk_at dksX14_byPlans_2 10 rfl rfl)
theorem dX14_byPlans_59 : decode cX14_byPlans 59 = .ok (.aload_n 0, 1) := dk_42 (dk_at dksX14_byPlans_2 13 rfl rfl)
theorem dX14_byPlans_60 : decode cX14_byPlans 60 = .ok (.iload 4, 2) := dk_21 4 (dk_at dksX14_byPlans_2 14 rfl rfl)
theorem dX14_byPlans_62 : decode cX14_byPlans 62 = .ok (.invokevirtual 307, 3) := dk_182 1 51 (dk_at dksX14_byPlans_2 16 rfl rfl)
theorem dX14_byPlans_65 : decode cX14_byPlans 65 = .ok (.iinc 3 1, 3) := dk_132 3 1 (dk_at dksX14_byPlans_2 19 rfl rfl)
theorem dX14_byPlans_68 : decode cX14_byPlans 68 = .ok (.goto (-62), 3) := dk_167 255 194 (dk_at dksX14_byPlans_3 0 rfl rfl)
theorem dX14_byPlans_71 : decode cX14_byPlans 71 = .ok (.aload_n 0, 1) := dk_42 (dk_at dksX14_byPlans_3 3 rfl rfl)
theorem dX14_byPlans_72 : decode cX14_byPlans 72 = .ok (.getfield 80, 3) := dk_180 0 80 (dk_at dksX14_byPlans_3 4 rfl rfl)
theorem dX14_byPlans_75 : decode cX14_byPlans 75 = .ok (.iload_n 1, 1) := dk_27 (dk_at dksX14_byPlans_3 7 rfl rfl)
theorem dX14_byPlans_76 : decode cX14_byPlans 76 = .ok (.iaload, 1) := dk_46 (dk_at dksX14_byPlans_3 8 rfl rfl)
theorem dX14_byPlans_77 : decode cX14_byPlans 77 = .ok (.ireturn, 1) := dk_172 (dk_at dksX14_byPlans_3 9 rfl rfl)
def dkwX14_party_5 : List UInt8 := [167, 0, 4, 3, 128, 54, 4, 132, 5, 1, 167, 255, 221, 42, 21, 4, 133, 182, 0, 18, 28, 172]
abbrev dktX14_party_5 : List UInt8 := dkwX14_party_5 ++ []
def dkwX14_party_4 : List UInt8 := [180, 0, 117, 162, 0, 32, 21, 4, 42, 180, 0, 80, 21, 5, 46, 158, 0, 10, 4, 21, 5, 120]
abbrev dktX14_party_4 : List UInt8 := dkwX14_party_4 ++ dktX14_party_5
def dkwX14_party_3 : List UInt8 := [167, 0, 4, 28, 61, 29, 21, 6, 184, 0, 254, 62, 132, 5, 1, 167, 255, 212, 3, 54, 5, 21, 5, 42]
abbrev dktX14_party_3 : List UInt8 := dkwX14_party_3 ++ dktX14_party_4
def dkwX14_party_2 : List UInt8 := [42, 21, 5, 182, 1, 82, 54, 6, 42, 21, 6, 133, 182, 0, 18, 21, 6, 29, 164, 0, 8, 21, 5]
abbrev dktX14_party_2 : List UInt8 := dkwX14_party_2 ++ dktX14_party_3
def dkwX14_party_1 : List UInt8 := [182, 1, 60, 2, 61, 3, 62, 3, 54, 4, 42, 3, 181, 0, 15, 3, 54, 5, 21, 5, 7, 162, 0, 44]
abbrev dktX14_party_1 : List UInt8 := dkwX14_party_1 ++ dktX14_party_2
def dkwX14_party_0 : List UInt8 := [42, 3, 181, 0, 3, 27, 184, 1, 54, 154, 0, 6, 16, 254, 172, 42, 182, 1, 57, 42, 27, 3]
abbrev dktX14_party_0 : List UInt8 := dkwX14_party_0 ++ dktX14_party_1
theorem dksX14_party_0 : cX14_party.data.toList.drop 0 = dktX14_party_0 := by decide +kernel
theorem dksX14_party_1 : cX14_party.data.toList.drop 22 = dktX14_party_1 := dk_seg dksX14_party_0 22 rfl rfl
theorem dksX14_party_2 : cX14_party.data.toList.drop 46 = dktX14_party_2 := dk_seg dksX14_party_1 24 rfl rfl
theorem dksX14_party_3 : cX14_party.data.toList.drop 69 = dktX14_party_3 := dk_seg dksX14_party_2 23 rfl rfl
theorem dksX14_party_4 : cX14_party.data.toList.drop 93 = dktX14_party_4 := dk_seg dksX14_party_3 24 rfl rfl
theorem dksX14_party_5 : cX14_party.data.toList.drop 115 = dktX14_party_5 := dk_seg dksX14_party_4 22 rfl rfl
theorem dX14_party_0 : decode cX14_party 0 = .ok (.aload_n 0, 1) := dk_42 (dk_at dksX14_party_0 0 rfl rfl)
theorem dX14_party_1 : decode cX14_party 1 = .ok (.iconst 0, 1) := dk_3 (dk_at dksX14_party_0 1 rfl rfl)
theorem dX14_party_2 : decode cX14_party 2 = .ok (.putfield 3, 3) := dk_181 0 3 (dk_at dksX14_party_0 2 rfl rfl)
theorem dX14_party_5 : decode cX14_party 5 = .ok (.iload_n 1, 1) := dk_27 (dk_at dksX14_party_0 5 rfl rfl)
theorem dX14_party_6 : decode cX14_party 6 = .ok (.invokestatic 310, 3) := dk_184 1 54 (dk_at dksX14_party_0 6 rfl rfl)
theorem dX14_party_9 : decode cX14_party 9 = .ok (.ifCond .ne 6, 3) := dk_154 0 6 (dk_at dksX14_party_0 9 rfl rfl)
theorem dX14_party_12 : decode cX14_party 12 = .ok (.bipush (-2), 2) := dk_16 254 (dk_at dksX14_party_0 12 rfl rfl)
theorem dX14_party_14 : decode cX14_party 14 = .ok (.ireturn, 1) := dk_172 (dk_at dksX14_party_0 14 rfl rfl)
theorem dX14_party_15 : decode cX14_party 15 = .ok (.aload_n 0, 1) := dk_42 (dk_at dksX14_party_0 15 rfl rfl)
theorem dX14_party_16 : decode cX14_party 16 = .ok (.invokevirtual 313, 3) := dk_182 1 57 (dk_at dksX14_party_0 16 rfl rfl)
theorem dX14_party_19 : decode cX14_party 19 = .ok (.aload_n 0, 1) := dk_42 (dk_at dksX14_party_0 19 rfl rfl)
theorem dX14_party_20 : decode cX14_party 20 = .ok (.iload_n 1, 1) := dk_27 (dk_at dksX14_party_0 20 rfl rfl)
theorem dX14_party_21 : decode cX14_party 21 = .ok (.iconst 0, 1) := dk_3 (dk_at dksX14_party_0 21 rfl rfl)
theorem dX14_party_22 : decode cX14_party 22 = .ok (.invokevirtual 316, 3) := dk_182 1 60 (dk_at dksX14_party_1 0 rfl rfl)
theorem dX14_party_25 : decode cX14_party 25 = .ok (.iconst (-1), 1) := dk_2 (dk_at dksX14_party_1 3 rfl rfl)
theorem dX14_party_26 : decode cX14_party 26 = .ok (.istore_n 2, 1) := dk_61 (dk_at dksX14_party_1 4 rfl rfl)
theorem dX14_party_27 : decode cX14_party 27 = .ok (.iconst 0, 1) := dk_3 (dk_at dksX14_party_1 5 rfl rfl)
theorem dX14_party_28 : decode cX14_party 28 = .ok (.istore_n 3, 1) := dk_62 (dk_at dksX14_party_1 6 rfl rfl)
theorem dX14_party_29 : decode cX14_party 29 = .ok (.iconst 0, 1) := dk_3 (dk_at dksX14_party_1 7 rfl rfl)
theorem dX14_party_30 : decode cX14_party 30 = .ok (.istore 4, 2) := dk_54 4 (dk_at dksX14_party_1 8 rfl rfl)
theorem dX14_party_32 : decode cX14_party 32 = .ok (.aload_n 0, 1) := dk_42 (dk_at dksX14_party_1 10 rfl rfl)
theorem dX14_party_33 : decode cX14_party 33 = .ok (.iconst 0, 1) := dk_3 (dk_at dksX14_party_1 11 rfl rfl)
theorem dX14_party_34 : decode cX14_party 34 = .ok (.putfield 15, 3) := dk_181 0 15 (dk_at dksX14_party_1 12 rfl rfl)
theorem dX14_party_37 : decode cX14_party 37 = .ok (.iconst 0, 1) := dk_3 (dk_at dksX14_party_1 15 rfl rfl)
theorem dX14_party_38 : decode cX14_party 38 = .ok (.istore 5, 2) := dk_54 5 (dk_at dksX14_party_1 16 rfl rfl)
theorem dX14_party_40 : decode cX14_party 40 = .ok (.iload 5, 2) := dk_21 5 (dk_at dksX14_party_1 18 rfl rfl)
theorem dX14_party_42 : decode cX14_party 42 = .ok (.iconst 4, 1) := dk_7 (dk_at dksX14_party_1 20 rfl rfl)
theorem dX14_party_43 : decode cX14_party 43 = .ok (.if_icmp .ge 44, 3) := dk_162 0 44 (dk_at dksX14_party_1 21 rfl rfl)
theorem dX14_party_46 : decode cX14_party 46 = .ok (.aload_n 0, 1) := dk_42 (dk_at dksX14_party_2 0 rfl rfl)
theorem dX14_party_47 : decode cX14_party 47 = .ok (.iload 5, 2) := dk_21 5 (dk_at dksX14_party_2 1 rfl rfl)
theorem dX14_party_49 : decode cX14_party 49 = .ok (.invokevirtual 338, 3) := dk_182 1 82 (dk_at dksX14_party_2 3 rfl rfl)
theorem dX14_party_52 : decode cX14_party 52 = .ok (.istore 6, 2) := dk_54 6 (dk_at dksX14_party_2 6 rfl rfl)
theorem dX14_party_54 : decode cX14_party 54 = .ok (.aload_n 0, 1) := dk_42 (dk_at dksX14_party_2 8 rfl rfl)
theorem dX14_party_55 : decode cX14_party 55 = .ok (.iload 6, 2) := dk_21 6 (dk_at dksX14_party_2 9 rfl rfl)
theorem dX14_party_57 : decode cX14_party 57 = .ok (.i2l, 1) := dk_133 (dk_at dksX14_party_2 11 rfl rfl)
theorem dX14_party_58 : decode cX14_party 58 = .ok (.invokevirtual 18, 3) := dk_182 0 18 (dk_at dksX14_party_2 12 rfl rfl)
theorem dX14_party_61 : decode cX14_party 61 = .ok (.iload 6, 2) := dk_21 6 (dk_at dksX14_party_2 15 rfl rfl)
theorem dX14_party_63 : decode cX14_party 63 = .ok (.iload_n 3, 1) := dk_29 (dk_at dksX14_party_2 17 rfl rfl)
theorem dX14_party_64 : decode cX14_party 64 = .ok (.if_icmp .le 8, 3) := dk_164 0 8 (dk_at dksX14_party_2 18 rfl rfl)
theorem dX14_party_67 : decode cX14_party 67 = .ok (.iload 5, 2) := dk_21 5 (dk_at dksX14_party_2 21 rfl rfl)
theorem dX14_party_69 : decode cX14_party 69 = .ok (.goto 4, 3) := dk_167 0 4 (dk_at dksX14_party_3 0 rfl rfl)
theorem dX14_party_72 : decode cX14_party 72 = .ok (.iload_n 2, 1) := dk_28 (dk_at dksX14_party_3 3 rfl rfl)
theorem dX14_party_73 : decode cX14_party 73 = .ok (.istore_n 2, 1) := dk_61 (dk_at dksX14_party_3 4 rfl rfl)
theorem dX14_party_74 : decode cX14_party 74 = .ok (.iload_n 3, 1) := dk_29 (dk_at dksX14_party_3 5 rfl rfl)
theorem dX14_party_75 : decode cX14_party 75 = .ok (.iload 6, 2) := dk_21 6 (dk_at dksX14_party_3 6 rfl rfl)
theorem dX14_party_77 : decode cX14_party 77 = .ok (.invokestatic 254, 3) := dk_184 0 254 (dk_at dksX14_party_3 8 rfl rfl)
theorem dX14_party_80 : decode cX14_party 80 = .ok (.istore_n 3, 1) := dk_62 (dk_at dksX14_party_3 11 rfl rfl)
theorem dX14_party_81 : decode cX14_party 81 = .ok (.iinc 5 1, 3) := dk_132 5 1 (dk_at dksX14_party_3 12 rfl rfl)
theorem dX14_party_84 : decode cX14_party 84 = .ok (.goto (-44), 3) := dk_167 255 212 (dk_at dksX14_party_3 15 rfl rfl)
theorem dX14_party_87 : decode cX14_party 87 = .ok (.iconst 0, 1) := dk_3 (dk_at dksX14_party_3 18 rfl rfl)
theorem dX14_party_88 : decode cX14_party 88 = .ok (.istore 5, 2) := dk_54 5 (dk_at dksX14_party_3 19 rfl rfl)
theorem dX14_party_90 : decode cX14_party 90 = .ok (.iload 5, 2) := dk_21 5 (dk_at dksX14_party_3 21 rfl rfl)
theorem dX14_party_92 : decode cX14_party 92 = .ok (.aload_n 0, 1) := dk_42 (dk_at dksX14_party_3 23 rfl rfl)
theorem dX14_party_93 : decode cX14_party 93 = .ok (.getfield 117, 3) := dk_180 0 117 (dk_at dksX14_party_4 0 rfl rfl)
theorem dX14_party_96 : decode cX14_party 96 = .ok (.if_icmp .ge 32, 3) := dk_162 0 32 (dk_at dksX14_party_4 3 rfl rfl)
theorem dX14_party_99 : decode cX14_party 99 = .ok (.iload 4, 2) := dk_21 4 (dk_at dksX14_party_4 6 rfl rfl)
theorem dX14_party_101 : decode cX14_party 101 = .ok (.aload_n 0, 1) := dk_42 (dk_at dksX14_party_4 8 rfl rfl)
theorem dX14_party_102 : decode cX14_party 102 = .ok (.getfield 80, 3) := dk_180 0 80 (dk_at dksX14_party_4 9 rfl rfl)
theorem dX14_party_105 : decode cX14_party 105 = .ok (.iload 5, 2) := dk_21 5 (dk_at dksX14_party_4 12 rfl rfl)
theorem dX14_party_107 : decode cX14_party 107 = .ok (.iaload, 1) := dk_46 (dk_at dksX14_party_4 14 rfl rfl)
theorem dX14_party_108 : decode cX14_party 108 = .ok (.ifCond .le 10, 3) := dk_158 0 10 (dk_at dksX14_party_4 15 rfl rfl)
theorem dX14_party_111 : decode cX14_party 111 = .ok (.iconst 1, 1) := dk_4 (dk_at dksX14_party_4 18 rfl rfl)
theorem dX14_party_112 : decode cX14_party 112 = .ok (.iload 5, 2) := dk_21 5 (dk_at dksX14_party_4 19 rfl rfl)
theorem dX14_party_114 : decode cX14_party 114 = .ok (.ishl, 1) := dk_120 (dk_at dksX14_party_4 21 rfl rfl)
theorem dX14_party_115 : decode cX14_party 115 = .ok (.goto 4, 3) := dk_167 0 4 (dk_at dksX14_party_5 0 rfl rfl)
theorem dX14_party_118 : decode cX14_party 118 = .ok (.iconst 0, 1) := dk_3 (dk_at dksX14_party_5 3 rfl rfl)
theorem dX14_party_119 : decode cX14_party 119 = .ok (.ior, 1) := dk_128 (dk_at dksX14_party_5 4 rfl rfl)
theorem dX14_party_120 : decode cX14_party 120 = .ok (.istore 4, 2) := dk_54 4 (dk_at dksX14_party_5 5 rfl rfl)
theorem dX14_party_122 : decode cX14_party 122 = .ok (.iinc 5 1, 3) := dk_132 5 1 (dk_at dksX14_party_5 7 rfl rfl)
theorem dX14_party_125 : decode cX14_party 125 = .ok (.goto (-35), 3) := dk_167 255 221 (dk_at dksX14_party_5 10 rfl rfl)
theorem dX14_party_128 : decode cX14_party 128 = .ok (.aload_n 0, 1) := dk_42 (dk_at dksX14_party_5 13 rfl rfl)
theorem dX14_party_129 : decode cX14_party 129 = .ok (.iload 4, 2) := dk_21 4 (dk_at dksX14_party_5 14 rfl rfl)
theorem dX14_party_131 : decode cX14_party 131 = .ok (.i2l, 1) := dk_133 (dk_at dksX14_party_5 16 rfl rfl)
theorem dX14_party_132 : decode cX14_party 132 = .ok (.invokevirtual 18, 3) := dk_182 0 18 (dk_at dksX14_party_5 17 rfl rfl)
theorem dX14_party_135 : decode cX14_party 135 = .ok (.iload_n 2, 1) := dk_28 (dk_at dksX14_party_5 20 rfl rfl)
theorem dX14_party_136 : decode cX14_party 136 = .ok (.ireturn, 1) := dk_172 (dk_at dksX14_party_5 21 rfl rfl)
def dkwX14_servedBy_1 : List UInt8 := [180, 0, 80, 29, 46, 167, 0, 4, 3, 96, 61, 132, 3, 1, 167, 255, 222, 28, 172]
abbrev dktX14_servedBy_1 : List UInt8 := dkwX14_servedBy_1 ++ []
def dkwX14_servedBy_0 : List UInt8 := [3, 61, 3, 62, 29, 42, 180, 0, 117, 162, 0, 32, 28, 42, 180, 0, 28, 29, 46, 27, 160, 0, 12, 42]
abbrev dktX14_servedBy_0 : List UInt8 := dkwX14_servedBy_0 ++ dktX14_servedBy_1
theorem dksX14_servedBy_0 : cX14_servedBy.data.toList.drop 0 = dktX14_servedBy_0 := by decide +kernel
theorem dksX14_servedBy_1 : cX14_servedBy.data.toList.drop 24 = dktX14_servedBy_1 := dk_seg dksX14_servedBy_0 24 rfl rfl
theorem dX14_servedBy_0 : decode cX14_servedBy 0 = .ok (.iconst 0, 1) := dk_3 (dk_at dksX14_servedBy_0 0 rfl rfl)
theorem dX14_servedBy_1 : decode cX14_servedBy 1 = .ok (.istore_n 2, 1) := dk_61 (dk_at dksX14_servedBy_0 1 rfl rfl)
theorem dX14_servedBy_2 : decode cX14_servedBy 2 = .ok (.iconst 0, 1) := dk_3 (dk_at dksX14_servedBy_0 2 rfl rfl)
theorem dX14_servedBy_3 : decode cX14_servedBy 3 = .ok (.istore_n 3, 1) := dk_62 (dk_at dksX14_servedBy_0 3 rfl rfl)
theorem dX14_servedBy_4 : decode cX14_servedBy 4 = .ok (.iload_n 3, 1) := dk_29 (dk_at dksX14_servedBy_0 4 rfl rfl)
theorem dX14_servedBy_5 : decode cX14_servedBy 5 = .ok (.aload_n 0, 1) := dk_42 (dk_at dksX14_servedBy_0 5 rfl rfl)
theorem dX14_servedBy_6 : decode cX14_servedBy 6 = .ok (.getfield 117, 3) := dk_180 0 117 (dk_at dksX14_servedBy_0 6 rfl rfl)
theorem dX14_servedBy_9 : decode cX14_servedBy 9 = .ok (.if_icmp .ge 32, 3) := dk_162 0 32 (dk_at dksX14_servedBy_0 9 rfl rfl)
theorem dX14_servedBy_12 : decode cX14_servedBy 12 = .ok (.iload_n 2, 1) := dk_28 (dk_at dksX14_servedBy_0 12 rfl rfl)
theorem dX14_servedBy_13 : decode cX14_servedBy 13 = .ok (.aload_n 0, 1) := dk_42 (dk_at dksX14_servedBy_0 13 rfl rfl)
theorem dX14_servedBy_14 : decode cX14_servedBy 14 = .ok (.getfield 28, 3) := dk_180 0 28 (dk_at dksX14_servedBy_0 14 rfl rfl)
theorem dX14_servedBy_17 : decode cX14_servedBy 17 = .ok (.iload_n 3, 1) := dk_29 (dk_at dksX14_servedBy_0 17 rfl rfl)
theorem dX14_servedBy_18 : decode cX14_servedBy 18 = .ok (.iaload, 1) := dk_46 (dk_at dksX14_servedBy_0 18 rfl rfl)
theorem dX14_servedBy_19 : decode cX14_servedBy 19 = .ok (.iload_n 1, 1) := dk_27 (dk_at dksX14_servedBy_0 19 rfl rfl)
theorem dX14_servedBy_20 : decode cX14_servedBy 20 = .ok (.if_icmp .ne 12, 3) := dk_160 0 12 (dk_at dksX14_servedBy_0 20 rfl rfl)
theorem dX14_servedBy_23 : decode cX14_servedBy 23 = .ok (.aload_n 0, 1) := dk_42 (dk_at dksX14_servedBy_0 23 rfl rfl)
theorem dX14_servedBy_24 : decode cX14_servedBy 24 = .ok (.getfield 80, 3) := dk_180 0 80 (dk_at dksX14_servedBy_1 0 rfl rfl)
theorem dX14_servedBy_27 : decode cX14_servedBy 27 = .ok (.iload_n 3, 1) := dk_29 (dk_at dksX14_servedBy_1 3 rfl rfl)
theorem dX14_servedBy_28 : decode cX14_servedBy 28 = .ok (.iaload, 1) := dk_46 (dk_at dksX14_servedBy_1 4 rfl rfl)
theorem dX14_servedBy_29 : decode cX14_servedBy 29 = .ok (.goto 4, 3) := dk_167 0 4 (dk_at dksX14_servedBy_1 5 rfl rfl)
theorem dX14_servedBy_32 : decode cX14_servedBy 32 = .ok (.iconst 0, 1) := dk_3 (dk_at dksX14_servedBy_1 8 rfl rfl)
theorem dX14_servedBy_33 : decode cX14_servedBy 33 = .ok (.iadd, 1) := dk_96 (dk_at dksX14_servedBy_1 9 rfl rfl)
theorem dX14_servedBy_34 : decode cX14_servedBy 34 = .ok (.istore_n 2, 1) := dk_61 (dk_at dksX14_servedBy_1 10 rfl rfl)
theorem dX14_servedBy_35 : decode cX14_servedBy 35 = .ok (.iinc 3 1, 3) := dk_132 3 1 (dk_at dksX14_servedBy_1 11 rfl rfl)
theorem dX14_servedBy_38 : decode cX14_servedBy 38 = .ok (.goto (-34), 3) := dk_167 255 222 (dk_at dksX14_servedBy_1 14 rfl rfl)
theorem dX14_servedBy_41 : decode cX14_servedBy 41 = .ok (.iload_n 2, 1) := dk_28 (dk_at dksX14_servedBy_1 17 rfl rfl)
theorem dX14_servedBy_42 : decode cX14_servedBy 42 = .ok (.ireturn, 1) := dk_172 (dk_at dksX14_servedBy_1 18 rfl rfl)
def dkwX14_byTurns_8 : List UInt8 := [42, 3, 181, 0, 15, 42, 42, 27, 182, 1, 82, 29, 100, 133, 182, 0, 18, 42, 27, 182, 1, 82, 172]
abbrev dktX14_byTurns_8 : List UInt8 := dkwX14_byTurns_8 ++ []
def dkwX14_byTurns_7 : List UInt8 := [167, 255, 237, 21, 7, 4, 21, 5, 120, 128, 54, 7, 42, 21, 7, 182, 1, 51, 132, 6, 1, 167, 255, 181]
abbrev dktX14_byTurns_7 : List UInt8 := dkwX14_byTurns_7 ++ dktX14_byTurns_8
def dkwX14_byTurns_6 : List UInt8 := [16, 8, 112, 54, 5, 21, 4, 21, 5, 184, 0, 128, 154, 0, 15, 21, 5, 4, 96, 16, 8, 112, 54, 5]
abbrev dktX14_byTurns_6 : List UInt8 := dkwX14_byTurns_6 ++ dktX14_byTurns_7
def dkwX14_byTurns_5 : List UInt8 := [42, 42, 180, 0, 47, 182, 1, 32, 21, 4, 2, 130, 126, 54, 7, 21, 4, 153, 0, 43, 21, 5, 4, 96]
abbrev dktX14_byTurns_5 : List UInt8 := dkwX14_byTurns_5 ++ dktX14_byTurns_6
def dkwX14_byTurns_4 : List UInt8 := [54, 4, 132, 5, 1, 167, 255, 205, 42, 182, 1, 57, 2, 54, 5, 3, 54, 6, 21, 6, 28, 162, 0, 75]
abbrev dktX14_byTurns_4 : List UInt8 := dkwX14_byTurns_4 ++ dktX14_byTurns_5
def dkwX14_byTurns_3 : List UInt8 := [180, 0, 44, 16, 16, 46, 21, 5, 184, 0, 128, 153, 0, 10, 4, 21, 5, 120, 167, 0, 4, 3, 128]
abbrev dktX14_byTurns_3 : List UInt8 := dkwX14_byTurns_3 ++ dktX14_byTurns_4
def dkwX14_byTurns_2 : List UInt8 := [21, 5, 42, 180, 0, 117, 162, 0, 48, 21, 4, 42, 180, 0, 28, 21, 5, 46, 27, 160, 0, 25, 42]
abbrev dktX14_byTurns_2 : List UInt8 := dkwX14_byTurns_2 ++ dktX14_byTurns_3
def dkwX14_byTurns_1 : List UInt8 := [2, 172, 42, 182, 1, 57, 42, 28, 3, 182, 1, 60, 42, 27, 182, 1, 82, 62, 3, 54, 4, 3, 54, 5]
abbrev dktX14_byTurns_1 : List UInt8 := dkwX14_byTurns_1 ++ dktX14_byTurns_2
def dkwX14_byTurns_0 : List UInt8 := [42, 3, 181, 0, 3, 27, 133, 9, 20, 1, 11, 184, 0, 120, 153, 0, 10, 28, 184, 1, 54, 154, 0, 5]
abbrev dktX14_byTurns_0 : List UInt8 := dkwX14_byTurns_0 ++ dktX14_byTurns_1
theorem dksX14_byTurns_0 : cX14_byTurns.data.toList.drop 0 = dktX14_byTurns_0 := by decide +kernel
theorem dksX14_byTurns_1 : cX14_byTurns.data.toList.drop 24 = dktX14_byTurns_1 := dk_seg dksX14_byTurns_0 24 rfl rfl
theorem dksX14_byTurns_2 : cX14_byTurns.data.toList.drop 48 = dktX14_byTurns_2 := dk_seg dksX14_byTurns_1 24 rfl rfl
theorem dksX14_byTurns_3 : cX14_byTurns.data.toList.drop 71 = dktX14_byTurns_3 := dk_seg dksX14_byTurns_2 23 rfl rfl
theorem dksX14_byTurns_4 : cX14_byTurns.data.toList.drop 94 = dktX14_byTurns_4 := dk_seg dksX14_byTurns_3 23 rfl rfl
theorem dksX14_byTurns_5 : cX14_byTurns.data.toList.drop 118 = dktX14_byTurns_5 := dk_seg dksX14_byTurns_4 24 rfl rfl
theorem dksX14_byTurns_6 : cX14_byTurns.data.toList.drop 142 = dktX14_byTurns_6 := dk_seg dksX14_byTurns_5 24 rfl rfl
theorem dksX14_byTurns_7 : cX14_byTurns.data.toList.drop 166 = dktX14_byTurns_7 := dk_seg dksX14_byTurns_6 24 rfl rfl
theorem dksX14_byTurns_8 : cX14_byTurns.data.toList.drop 190 = dktX14_byTurns_8 := dk_seg dksX14_byTurns_7 24 rfl rfl
theorem dX14_byTurns_0 : decode cX14_byTurns 0 = .ok (.aload_n 0, 1) := dk_42 (dk_at dksX14_byTurns_0 0 rfl rfl)
theorem dX14_byTurns_1 : decode cX14_byTurns 1 = .ok (.iconst 0, 1) := dk_3 (dk_at dksX14_byTurns_0 1 rfl rfl)
theorem dX14_byTurns_2 : decode cX14_byTurns 2 = .ok (.putfield 3, 3) := dk_181 0 3 (dk_at dksX14_byTurns_0 2 rfl rfl)
theorem dX14_byTurns_5 : decode cX14_byTurns 5 = .ok (.iload_n 1, 1) := dk_27 (dk_at dksX14_byTurns_0 5 rfl rfl)
theorem dX14_byTurns_6 : decode cX14_byTurns 6 = .ok (.i2l, 1) := dk_133 (dk_at dksX14_byTurns_0 6 rfl rfl)
theorem dX14_byTurns_7 : decode cX14_byTurns 7 = .ok (.lconst 0, 1) := dk_9 (dk_at dksX14_byTurns_0 7 rfl rfl)
theorem dX14_byTurns_8 : decode cX14_byTurns 8 = .ok (.ldc2_w 267, 3) := dk_20 1 11 (dk_at dksX14_byTurns_0 8 rfl rfl)
theorem dX14_byTurns_11 : decode cX14_byTurns 11 = .ok (.invokestatic 120, 3) := dk_184 0 120 (dk_at dksX14_byTurns_0 11 rfl rfl)
theorem dX14_byTurns_14 : decode cX14_byTurns 14 = .ok (.ifCond .eq 10, 3) := dk_153 0 10 (dk_at dksX14_byTurns_0 14 rfl rfl)
theorem dX14_byTurns_17 : decode cX14_byTurns 17 = .ok (.iload_n 2, 1) := dk_28 (dk_at dksX14_byTurns_0 17 rfl rfl)
theorem dX14_byTurns_18 : decode cX14_byTurns 18 = .ok (.invokestatic 310, 3) := dk_184 1 54 (dk_at dksX14_byTurns_0 18 rfl rfl)
theorem dX14_byTurns_21 : decode cX14_byTurns 21 = .ok (.ifCond .ne 5, 3) := dk_154 0 5 (dk_at dksX14_byTurns_0 21 rfl rfl)
theorem dX14_byTurns_24 : decode cX14_byTurns 24 = .ok (.iconst (-1), 1) := dk_2 (dk_at dksX14_byTurns_1 0 rfl rfl)
theorem dX14_byTurns_25 : decode cX14_byTurns 25 = .ok (.ireturn, 1) := dk_172 (dk_at dksX14_byTurns_1 1 rfl rfl)
theorem dX14_byTurns_26 : decode cX14_byTurns 26 = .ok (.aload_n 0, 1) := dk_42 (dk_at dksX14_byTurns_1 2 rfl rfl)
theorem dX14_byTurns_27 : decode cX14_byTurns 27 = .ok (.invokevirtual 313, 3) := dk_182 1 57 (dk_at dksX14_byTurns_1 3 rfl rfl)
theorem dX14_byTurns_30 : decode cX14_byTurns 30 = .ok (.aload_n 0, 1) := dk_42 (dk_at dksX14_byTurns_1 6 rfl rfl)
theorem dX14_byTurns_31 : decode cX14_byTurns 31 = .ok (.iload_n 2, 1) := dk_28 (dk_at dksX14_byTurns_1 7 rfl rfl)
theorem dX14_byTurns_32 : decode cX14_byTurns 32 = .ok (.iconst 0, 1) := dk_3 (dk_at dksX14_byTurns_1 8 rfl rfl)
theorem dX14_byTurns_33 : decode cX14_byTurns 33 = .ok (.invokevirtual 316, 3) := dk_182 1 60 (dk_at dksX14_byTurns_1 9 rfl rfl)
theorem dX14_byTurns_36 : decode cX14_byTurns 36 = .ok (.aload_n 0, 1) := dk_42 (dk_at dksX14_byTurns_1 12 rfl rfl)
theorem dX14_byTurns_37 : decode cX14_byTurns 37 = .ok (.iload_n 1, 1) := dk_27 (dk_at dksX14_byTurns_1 13 rfl rfl)
theorem dX14_byTurns_38 : decode cX14_byTurns 38 = .ok (.invokevirtual 338, 3) := dk_182 1 82 (dk_at dksX14_byTurns_1 14 rfl rfl)
theorem dX14_byTurns_41 : decode cX14_byTurns 41 = .ok (.istore_n 3, 1) := dk_62 (dk_at dksX14_byTurns_1 17 rfl rfl)
theorem dX14_byTurns_42 : decode cX14_byTurns 42 = .ok (.iconst 0, 1) := dk_3 (dk_at dksX14_byTurns_1 18 rfl rfl)
theorem dX14_byTurns_43 : decode cX14_byTurns 43 = .ok (.istore 4, 2) := dk_54 4 (dk_at dksX14_byTurns_1 19 rfl rfl)
theorem dX14_byTurns_45 : decode cX14_byTurns 45 = .ok (.iconst 0, 1) := dk_3 (dk_at dksX14_byTurns_1 21 rfl rfl)
theorem dX14_byTurns_46 : decode cX14_byTurns 46 = .ok (.istore 5, 2) := dk_54 5 (dk_at dksX14_byTurns_1 22 rfl rfl)
theorem dX14_byTurns_48 : decode cX14_byTurns 48 = .ok (.iload 5, 2) := dk_21 5 (dk_at dksX14_byTurns_2 0 rfl rfl)
theorem dX14_byTurns_50 : decode cX14_byTurns 50 = .ok (.aload_n 0, 1) := dk_42 (dk_at dksX14_byTurns_2 2 rfl rfl)
theorem dX14_byTurns_51 : decode cX14_byTurns 51 = .ok (.getfield 117, 3) := dk_180 0 117 (dk_at dksX14_byTurns_2 3 rfl rfl)
theorem dX14_byTurns_54 : decode cX14_byTurns 54 = .ok (.if_icmp .ge 48, 3) := dk_162 0 48 (dk_at dksX14_byTurns_2 6 rfl rfl)
theorem dX14_byTurns_57 : decode cX14_byTurns 57 = .ok (.iload 4, 2) := dk_21 4 (dk_at dksX14_byTurns_2 9 rfl rfl)
theorem dX14_byTurns_59 : decode cX14_byTurns 59 = .ok (.aload_n 0, 1) := dk_42 (dk_at dksX14_byTurns_2 11 rfl rfl)
theorem dX14_byTurns_60 : decode cX14_byTurns 60 = .ok (.getfield 28, 3) := dk_180 0 28 (dk_at dksX14_byTurns_2 12 rfl rfl)
theorem dX14_byTurns_63 : decode cX14_byTurns 63 = .ok (.iload 5, 2) := dk_21 5 (dk_at dksX14_byTurns_2 15 rfl rfl)
theorem dX14_byTurns_65 : decode cX14_byTurns 65 = .ok (.iaload, 1) := dk_46 (dk_at dksX14_byTurns_2 17 rfl rfl)
theorem dX14_byTurns_66 : decode cX14_byTurns 66 = .ok (.iload_n 1, 1) := dk_27 (dk_at dksX14_byTurns_2 18 rfl rfl)
theorem dX14_byTurns_67 : decode cX14_byTurns 67 = .ok (.if_icmp .ne 25, 3) := dk_160 0 25 (dk_at dksX14_byTurns_2 19 rfl rfl)
theorem dX14_byTurns_70 : decode cX14_byTurns 70 = .ok (.aload_n 0, 1) := dk_42 (dk_at dksX14_byTurns_2 22 rfl rfl)
theorem dX14_byTurns_71 : decode cX14_byTurns 71 = .ok (.getfield 44, 3) := dk_180 0 44 (dk_at dksX14_byTurns_3 0 rfl rfl)
theorem dX14_byTurns_74 : decode cX14_byTurns 74 = .ok (.bipush 16, 2) := dk_16 16 (dk_at dksX14_byTurns_3 3 rfl rfl)
theorem dX14_byTurns_76 : decode cX14_byTurns 76 = .ok (.iaload, 1) := dk_46 (dk_at dksX14_byTurns_3 5 rfl rfl)
theorem dX14_byTurns_77 : decode cX14_byTurns 77 = .ok (.iload 5, 2) := dk_21 5 (dk_at dksX14_byTurns_3 6 rfl rfl)
theorem dX14_byTurns_79 : decode cX14_byTurns 79 = .ok (.invokestatic 128, 3) := dk_184 0 128 (dk_at dksX14_byTurns_3 8 rfl rfl)
theorem dX14_byTurns_82 : decode cX14_byTurns 82 = .ok (.ifCond .eq 10, 3) := dk_153 0 10 (dk_at dksX14_byTurns_3 11 rfl rfl)
theorem dX14_byTurns_85 : decode cX14_byTurns 85 = .ok (.iconst 1, 1) := dk_4 (dk_at dksX14_byTurns_3 14 rfl rfl)
theorem dX14_byTurns_86 : decode cX14_byTurns 86 = .ok (.iload 5, 2) := dk_21 5 (dk_at dksX14_byTurns_3 15 rfl rfl)
theorem dX14_byTurns_88 : decode cX14_byTurns 88 = .ok (.ishl, 1) := dk_120 (dk_at dksX14_byTurns_3 17 rfl rfl)
theorem dX14_byTurns_89 : decode cX14_byTurns 89 = .ok (.goto 4, 3) := dk_167 0 4 (dk_at dksX14_byTurns_3 18 rfl rfl)
theorem dX14_byTurns_92 : decode cX14_byTurns 92 = .ok (.iconst 0, 1) := dk_3 (dk_at dksX14_byTurns_3 21 rfl rfl)
theorem dX14_byTurns_93 : decode cX14_byTurns 93 = .ok (.ior, 1) := dk_128 (dk_at dksX14_byTurns_3 22 rfl rfl)
theorem dX14_byTurns_94 : decode cX14_byTurns 94 = .ok (.istore 4, 2) := dk_54 4 (dk_at dksX14_byTurns_4 0 rfl rfl)
theorem dX14_byTurns_96 : decode cX14_byTurns 96 = .ok (.iinc 5 1, 3) := dk_132 5 1 (dk_at dksX14_byTurns_4 2 rfl rfl)
theorem dX14_byTurns_99 : decode cX14_byTurns 99 = .ok (.goto (-51), 3) := dk_167 255 205 (dk_at dksX14_byTurns_4 5 rfl rfl)
theorem dX14_byTurns_102 : decode cX14_byTurns 102 = .ok (.aload_n 0, 1) := dk_42 (dk_at dksX14_byTurns_4 8 rfl rfl)
theorem dX14_byTurns_103 : decode cX14_byTurns 103 = .ok (.invokevirtual 313, 3) := dk_182 1 57 (dk_at dksX14_byTurns_4 9 rfl rfl)
theorem dX14_byTurns_106 : decode cX14_byTurns 106 = .ok (.iconst (-1), 1) := dk_2 (dk_at dksX14_byTurns_4 12 rfl rfl)
theorem dX14_byTurns_107 : decode cX14_byTurns 107 = .ok (.istore 5, 2) := dk_54 5 (dk_at dksX14_byTurns_4 13 rfl rfl)
theorem dX14_byTurns_109 : decode cX14_byTurns 109 = .ok (.iconst 0, 1) := dk_3 (dk_at dksX14_byTurns_4 15 rfl rfl)
theorem dX14_byTurns_110 : decode cX14_byTurns 110 = .ok (.istore 6, 2) := dk_54 6 (dk_at dksX14_byTurns_4 16 rfl rfl)
theorem dX14_byTurns_112 : decode cX14_byTurns 112 = .ok (.iload 6, 2) := dk_21 6 (dk_at dksX14_byTurns_4 18 rfl rfl)
theorem dX14_byTurns_114 : decode cX14_byTurns 114 = .ok (.iload_n 2, 1) := dk_28 (dk_at dksX14_byTurns_4 20 rfl rfl)
theorem dX14_byTurns_115 : decode cX14_byTurns 115 = .ok (.if_icmp .ge 75, 3) := dk_162 0 75 (dk_at dksX14_byTurns_4 21 rfl rfl)
theorem dX14_byTurns_118 : decode cX14_byTurns 118 = .ok (.aload_n 0, 1) := dk_42 (dk_at dksX14_byTurns_5 0 rfl rfl)
theorem dX14_byTurns_119 : decode cX14_byTurns 119 = .ok (.aload_n 0, 1) := dk_42 (dk_at dksX14_byTurns_5 1 rfl rfl)
theorem dX14_byTurns_120 : decode cX14_byTurns 120 = .ok (.getfield 47, 3) := dk_180 0 47 (dk_at dksX14_byTurns_5 2 rfl rfl)
theorem dX14_byTurns_123 : decode cX14_byTurns 123 = .ok (.invokevirtual 288, 3) := dk_182 1 32 (dk_at dksX14_byTurns_5 5 rfl rfl)
theorem dX14_byTurns_126 : decode cX14_byTurns 126 = .ok (.iload 4, 2) := dk_21 4 (dk_at dksX14_byTurns_5 8 rfl rfl)
theorem dX14_byTurns_128 : decode cX14_byTurns 128 = .ok (.iconst (-1), 1) := dk_2 (dk_at dksX14_byTurns_5 10 rfl rfl)
theorem dX14_byTurns_129 : decode cX14_byTurns 129 = .ok (.ixor, 1) := dk_130 (dk_at dksX14_byTurns_5 11 rfl rfl)
theorem dX14_byTurns_130 : decode cX14_byTurns 130 = .ok (.iand, 1) := dk_126 (dk_at dksX14_byTurns_5 12 rfl rfl)
theorem dX14_byTurns_131 : decode cX14_byTurns 131 = .ok (.istore 7, 2) := dk_54 7 (dk_at dksX14_byTurns_5 13 rfl rfl)
theorem dX14_byTurns_133 : decode cX14_byTurns 133 = .ok (.iload 4, 2) := dk_21 4 (dk_at dksX14_byTurns_5 15 rfl rfl)
theorem dX14_byTurns_135 : decode cX14_byTurns 135 = .ok (.ifCond .eq 43, 3) := dk_153 0 43 (dk_at dksX14_byTurns_5 17 rfl rfl)
theorem dX14_byTurns_138 : decode cX14_byTurns 138 = .ok (.iload 5, 2) := dk_21 5 (dk_at dksX14_byTurns_5 20 rfl rfl)
theorem dX14_byTurns_140 : decode cX14_byTurns 140 = .ok (.iconst 1, 1) := dk_4 (dk_at dksX14_byTurns_5 22 rfl rfl)
theorem dX14_byTurns_141 : decode cX14_byTurns 141 = .ok (.iadd, 1) := dk_96 (dk_at dksX14_byTurns_5 23 rfl rfl)
theorem dX14_byTurns_142 : decode cX14_byTurns 142 = .ok (.bipush 8, 2) := dk_16 8 (dk_at dksX14_byTurns_6 0 rfl rfl)
theorem dX14_byTurns_144 : decode cX14_byTurns 144 = .ok (.irem, 1) := dk_112 (dk_at dksX14_byTurns_6 2 rfl rfl)
theorem dX14_byTurns_145 : decode cX14_byTurns 145 = .ok (.istore 5, 2) := dk_54 5 (dk_at dksX14_byTurns_6 3 rfl rfl)
theorem dX14_byTurns_147 : decode cX14_byTurns 147 = .ok (.iload 4, 2) := dk_21 4 (dk_at dksX14_byTurns_6 5 rfl rfl)
theorem dX14_byTurns_149 : decode cX14_byTurns 149 = .ok (.iload 5, 2) := dk_21 5 (dk_at dksX14_byTurns_6 7 rfl rfl)
theorem dX14_byTurns_151 : decode cX14_byTurns 151 = .ok (.invokestatic 128, 3) := dk_184 0 128 (dk_at dksX14_byTurns_6 9 rfl rfl)
theorem dX14_byTurns_154 : decode cX14_byTurns 154 = .ok (.ifCond .ne 15, 3) := dk_154 0 15 (dk_at dksX14_byTurns_6 12 rfl rfl)
theorem dX14_byTurns_157 : decode cX14_byTurns 157 = .ok (.iload 5, 2) := dk_21 5 (dk_at dksX14_byTurns_6 15 rfl rfl)
theorem dX14_byTurns_159 : decode cX14_byTurns 159 = .ok (.iconst 1, 1) := dk_4 (dk_at dksX14_byTurns_6 17 rfl rfl)
theorem dX14_byTurns_160 : decode cX14_byTurns 160 = .ok (.iadd, 1) := dk_96 (dk_at dksX14_byTurns_6 18 rfl rfl)
theorem dX14_byTurns_161 : decode cX14_byTurns 161 = .ok (.bipush 8, 2) := dk_16 8 (dk_at dksX14_byTurns_6 19 rfl rfl)
theorem dX14_byTurns_163 : decode cX14_byTurns 163 = .ok (.irem, 1) := dk_112 (dk_at dksX14_byTurns_6 21 rfl rfl)
theorem dX14_byTurns_164 : decode cX14_byTurns 164 = .ok (.istore 5, 2) := dk_54 5 (dk_at dksX14_byTurns_6 22 rfl rfl)
theorem dX14_byTurns_166 : decode cX14_byTurns 166 = .ok (.goto (-19), 3) := dk_167 255 237 (dk_at dksX14_byTurns_7 0 rfl rfl)
theorem dX14_byTurns_169 : decode cX14_byTurns 169 = .ok (.iload 7, 2) := dk_21 7 (dk_at dksX14_byTurns_7 3 rfl rfl)
theorem dX14_byTurns_171 : decode cX14_byTurns 171 = .ok (.iconst 1, 1) := dk_4 (dk_at dksX14_byTurns_7 5 rfl rfl)
theorem dX14_byTurns_172 : decode cX14_byTurns 172 = .ok (.iload 5, 2) := dk_21 5 (dk_at dksX14_byTurns_7 6 rfl rfl)
theorem dX14_byTurns_174 : decode cX14_byTurns 174 = .ok (.ishl, 1) := dk_120 (dk_at dksX14_byTurns_7 8 rfl rfl)
theorem dX14_byTurns_175 : decode cX14_byTurns 175 = .ok (.ior, 1) := dk_128 (dk_at dksX14_byTurns_7 9 rfl rfl)
theorem dX14_byTurns_176 : decode cX14_byTurns 176 = .ok (.istore 7, 2) := dk_54 7 (dk_at dksX14_byTurns_7 10 rfl rfl)
theorem dX14_byTurns_178 : decode cX14_byTurns 178 = .ok (.aload_n 0, 1) := dk_42 (dk_at dksX14_byTurns_7 12 rfl rfl)
theorem dX14_byTurns_179 : decode cX14_byTurns 179 = .ok (.iload 7, 2) := dk_21 7 (dk_at dksX14_byTurns_7 13 rfl rfl)
theorem dX14_byTurns_181 : decode cX14_byTurns 181 = .ok (.invokevirtual 307, 3) := dk_182 1 51 (dk_at dksX14_byTurns_7 15 rfl rfl)
theorem dX14_byTurns_184 : decode cX14_byTurns 184 = .ok (.iinc 6 1, 3) := dk_132 6 1 (dk_at dksX14_byTurns_7 18 rfl rfl)
theorem dX14_byTurns_187 : decode cX14_byTurns 187 = .ok (.goto (-75), 3) := dk_167 255 181 (dk_at dksX14_byTurns_7 21 rfl rfl)
theorem dX14_byTurns_190 : decode cX14_byTurns 190 = .ok (.aload_n 0, 1) := dk_42 (dk_at dksX14_byTurns_8 0 rfl rfl)
theorem dX14_byTurns_191 : decode cX14_byTurns 191 = .ok (.iconst 0, 1) := dk_3 (dk_at dksX14_byTurns_8 1 rfl rfl)
theorem dX14_byTurns_192 : decode cX14_byTurns 192 = .ok (.putfield 15, 3) := dk_181 0 15 (dk_at dksX14_byTurns_8 2 rfl rfl)
theorem dX14_byTurns_195 : decode cX14_byTurns 195 = .ok (.aload_n 0, 1) := dk_42 (dk_at dksX14_byTurns_8 5 rfl rfl)
theorem dX14_byTurns_196 : decode cX14_byTurns 196 = .ok (.aload_n 0, 1) := dk_42 (dk_at dksX14_byTurns_8 6 rfl rfl)
theorem dX14_byTurns_197 : decode cX14_byTurns 197 = .ok (.iload_n 1, 1) := dk_27 (dk_at dksX14_byTurns_8 7 rfl rfl)
theorem dX14_byTurns_198 : decode cX14_byTurns 198 = .ok (.invokevirtual 338, 3) := dk_182 1 82 (dk_at dksX14_byTurns_8 8 rfl rfl)
theorem dX14_byTurns_201 : decode cX14_byTurns 201 = .ok (.iload_n 3, 1) := dk_29 (dk_at dksX14_byTurns_8 11 rfl rfl)
theorem dX14_byTurns_202 : decode cX14_byTurns 202 = .ok (.isub, 1) := dk_100 (dk_at dksX14_byTurns_8 12 rfl rfl)
theorem dX14_byTurns_203 : decode cX14_byTurns 203 = .ok (.i2l, 1) := dk_133 (dk_at dksX14_byTurns_8 13 rfl rfl)
theorem dX14_byTurns_204 : decode cX14_byTurns 204 = .ok (.invokevirtual 18, 3) := dk_182 0 18 (dk_at dksX14_byTurns_8 14 rfl rfl)
theorem dX14_byTurns_207 : decode cX14_byTurns 207 = .ok (.aload_n 0, 1) := dk_42 (dk_at dksX14_byTurns_8 17 rfl rfl)
theorem dX14_byTurns_208 : decode cX14_byTurns 208 = .ok (.iload_n 1, 1) := dk_27 (dk_at dksX14_byTurns_8 18 rfl rfl)
theorem dX14_byTurns_209 : decode cX14_byTurns 209 = .ok (.invokevirtual 338, 3) := dk_182 1 82 (dk_at dksX14_byTurns_8 19 rfl rfl)
theorem dX14_byTurns_212 : decode cX14_byTurns 212 = .ok (.ireturn, 1) := dk_172 (dk_at dksX14_byTurns_8 22 rfl rfl)
def dkwX14_fool_3 : List UInt8 := [3, 181, 0, 15, 42, 29, 133, 182, 0, 18, 42, 21, 4, 133, 182, 0, 18, 29, 21, 4, 100, 172]
abbrev dktX14_fool_3 : List UInt8 := dkwX14_fool_3 ++ []
def dkwX14_fool_2 : List UInt8 := [182, 1, 57, 42, 28, 4, 27, 120, 182, 1, 60, 42, 42, 180, 0, 28, 27, 46, 182, 1, 82, 54, 4, 42]
abbrev dktX14_fool_2 : List UInt8 := dkwX14_fool_2 ++ dktX14_fool_3
def dkwX14_fool_1 : List UInt8 := [172, 42, 182, 1, 57, 42, 28, 3, 182, 1, 60, 42, 42, 180, 0, 28, 27, 46, 182, 1, 82, 62, 42]
abbrev dktX14_fool_1 : List UInt8 := dkwX14_fool_1 ++ dktX14_fool_2
def dkwX14_fool_0 : List UInt8 := [42, 3, 181, 0, 3, 42, 27, 182, 0, 124, 153, 0, 10, 28, 184, 1, 54, 154, 0, 8, 42, 182, 1, 3]
abbrev dktX14_fool_0 : List UInt8 := dkwX14_fool_0 ++ dktX14_fool_1
theorem dksX14_fool_0 : cX14_fool.data.toList.drop 0 = dktX14_fool_0 := by decide +kernel
theorem dksX14_fool_1 : cX14_fool.data.toList.drop 24 = dktX14_fool_1 := dk_seg dksX14_fool_0 24 rfl rfl
theorem dksX14_fool_2 : cX14_fool.data.toList.drop 47 = dktX14_fool_2 := dk_seg dksX14_fool_1 23 rfl rfl
theorem dksX14_fool_3 : cX14_fool.data.toList.drop 71 = dktX14_fool_3 := dk_seg dksX14_fool_2 24 rfl rfl
theorem dX14_fool_0 : decode cX14_fool 0 = .ok (.aload_n 0, 1) := dk_42 (dk_at dksX14_fool_0 0 rfl rfl)
theorem dX14_fool_1 : decode cX14_fool 1 = .ok (.iconst 0, 1) := dk_3 (dk_at dksX14_fool_0 1 rfl rfl)
theorem dX14_fool_2 : decode cX14_fool 2 = .ok (.putfield 3, 3) := dk_181 0 3 (dk_at dksX14_fool_0 2 rfl rfl)
theorem dX14_fool_5 : decode cX14_fool 5 = .ok (.aload_n 0, 1) := dk_42 (dk_at dksX14_fool_0 5 rfl rfl)
theorem dX14_fool_6 : decode cX14_fool 6 = .ok (.iload_n 1, 1) := dk_27 (dk_at dksX14_fool_0 6 rfl rfl)
theorem dX14_fool_7 : decode cX14_fool 7 = .ok (.invokevirtual 124, 3) := dk_182 0 124 (dk_at dksX14_fool_0 7 rfl rfl)
theorem dX14_fool_10 : decode cX14_fool 10 = .ok (.ifCond .eq 10, 3) := dk_153 0 10 (dk_at dksX14_fool_0 10 rfl rfl)
theorem dX14_fool_13 : decode cX14_fool 13 = .ok (.iload_n 2, 1) := dk_28 (dk_at dksX14_fool_0 13 rfl rfl)
theorem dX14_fool_14 : decode cX14_fool 14 = .ok (.invokestatic 310, 3) := dk_184 1 54 (dk_at dksX14_fool_0 14 rfl rfl)
theorem dX14_fool_17 : decode cX14_fool 17 = .ok (.ifCond .ne 8, 3) := dk_154 0 8 (dk_at dksX14_fool_0 17 rfl rfl)
theorem dX14_fool_20 : decode cX14_fool 20 = .ok (.aload_n 0, 1) := dk_42 (dk_at dksX14_fool_0 20 rfl rfl)
theorem dX14_fool_21 : decode cX14_fool 21 = .ok (.invokevirtual 259, 3) := dk_182 1 3 (dk_at dksX14_fool_0 21 rfl rfl)
theorem dX14_fool_24 : decode cX14_fool 24 = .ok (.ireturn, 1) := dk_172 (dk_at dksX14_fool_1 0 rfl rfl)
theorem dX14_fool_25 : decode cX14_fool 25 = .ok (.aload_n 0, 1) := dk_42 (dk_at dksX14_fool_1 1 rfl rfl)
theorem dX14_fool_26 : decode cX14_fool 26 = .ok (.invokevirtual 313, 3) := dk_182 1 57 (dk_at dksX14_fool_1 2 rfl rfl)
theorem dX14_fool_29 : decode cX14_fool 29 = .ok (.aload_n 0, 1) := dk_42 (dk_at dksX14_fool_1 5 rfl rfl)
theorem dX14_fool_30 : decode cX14_fool 30 = .ok (.iload_n 2, 1) := dk_28 (dk_at dksX14_fool_1 6 rfl rfl)
theorem dX14_fool_31 : decode cX14_fool 31 = .ok (.iconst 0, 1) := dk_3 (dk_at dksX14_fool_1 7 rfl rfl)
theorem dX14_fool_32 : decode cX14_fool 32 = .ok (.invokevirtual 316, 3) := dk_182 1 60 (dk_at dksX14_fool_1 8 rfl rfl)
theorem dX14_fool_35 : decode cX14_fool 35 = .ok (.aload_n 0, 1) := dk_42 (dk_at dksX14_fool_1 11 rfl rfl)
theorem dX14_fool_36 : decode cX14_fool 36 = .ok (.aload_n 0, 1) := dk_42 (dk_at dksX14_fool_1 12 rfl rfl)
theorem dX14_fool_37 : decode cX14_fool 37 = .ok (.getfield 28, 3) := dk_180 0 28 (dk_at dksX14_fool_1 13 rfl rfl)
theorem dX14_fool_40 : decode cX14_fool 40 = .ok (.iload_n 1, 1) := dk_27 (dk_at dksX14_fool_1 16 rfl rfl)
theorem dX14_fool_41 : decode cX14_fool 41 = .ok (.iaload, 1) := dk_46 (dk_at dksX14_fool_1 17 rfl rfl)
theorem dX14_fool_42 : decode cX14_fool 42 = .ok (.invokevirtual 338, 3) := dk_182 1 82 (dk_at dksX14_fool_1 18 rfl rfl)
theorem dX14_fool_45 : decode cX14_fool 45 = .ok (.istore_n 3, 1) := dk_62 (dk_at dksX14_fool_1 21 rfl rfl)
theorem dX14_fool_46 : decode cX14_fool 46 = .ok (.aload_n 0, 1) := dk_42 (dk_at dksX14_fool_1 22 rfl rfl)
theorem dX14_fool_47 : decode cX14_fool 47 = .ok (.invokevirtual 313, 3) := dk_182 1 57 (dk_at dksX14_fool_2 0 rfl rfl)
theorem dX14_fool_50 : decode cX14_fool 50 = .ok (.aload_n 0, 1) := dk_42 (dk_at dksX14_fool_2 3 rfl rfl)
theorem dX14_fool_51 : decode cX14_fool 51 = .ok (.iload_n 2, 1) := dk_28 (dk_at dksX14_fool_2 4 rfl rfl)
theorem dX14_fool_52 : decode cX14_fool 52 = .ok (.iconst 1, 1) := dk_4 (dk_at dksX14_fool_2 5 rfl rfl)
theorem dX14_fool_53 : decode cX14_fool 53 = .ok (.iload_n 1, 1) := dk_27 (dk_at dksX14_fool_2 6 rfl rfl)
theorem dX14_fool_54 : decode cX14_fool 54 = .ok (.ishl, 1) := dk_120 (dk_at dksX14_fool_2 7 rfl rfl)
theorem dX14_fool_55 : decode cX14_fool 55 = .ok (.invokevirtual 316, 3) := dk_182 1 60 (dk_at dksX14_fool_2 8 rfl rfl)
theorem dX14_fool_58 : decode cX14_fool 58 = .ok (.aload_n 0, 1) := dk_42 (dk_at dksX14_fool_2 11 rfl rfl)
theorem dX14_fool_59 : decode cX14_fool 59 = .ok (.aload_n 0, 1) := dk_42 (dk_at dksX14_fool_2 12 rfl rfl)
theorem dX14_fool_60 : decode cX14_fool 60 = .ok (.getfield 28, 3) := dk_180 0 28 (dk_at dksX14_fool_2 13 rfl rfl)
theorem dX14_fool_63 : decode cX14_fool 63 = .ok (.iload_n 1, 1) := dk_27 (dk_at dksX14_fool_2 16 rfl rfl)
theorem dX14_fool_64 : decode cX14_fool 64 = .ok (.iaload, 1) := dk_46 (dk_at dksX14_fool_2 17 rfl rfl)
theorem dX14_fool_65 : decode cX14_fool 65 = .ok (.invokevirtual 338, 3) := dk_182 1 82 (dk_at dksX14_fool_2 18 rfl rfl)
theorem dX14_fool_68 : decode cX14_fool 68 = .ok (.istore 4, 2) := dk_54 4 (dk_at dksX14_fool_2 21 rfl rfl)
theorem dX14_fool_70 : decode cX14_fool 70 = .ok (.aload_n 0, 1) := dk_42 (dk_at dksX14_fool_2 23 rfl rfl)
theorem dX14_fool_71 : decode cX14_fool 71 = .ok (.iconst 0, 1) := dk_3 (dk_at dksX14_fool_3 0 rfl rfl)
theorem dX14_fool_72 : decode cX14_fool 72 = .ok (.putfield 15, 3) := dk_181 0 15 (dk_at dksX14_fool_3 1 rfl rfl)
theorem dX14_fool_75 : decode cX14_fool 75 = .ok (.aload_n 0, 1) := dk_42 (dk_at dksX14_fool_3 4 rfl rfl)
theorem dX14_fool_76 : decode cX14_fool 76 = .ok (.iload_n 3, 1) := dk_29 (dk_at dksX14_fool_3 5 rfl rfl)
theorem dX14_fool_77 : decode cX14_fool 77 = .ok (.i2l, 1) := dk_133 (dk_at dksX14_fool_3 6 rfl rfl)
theorem dX14_fool_78 : decode cX14_fool 78 = .ok (.invokevirtual 18, 3) := dk_182 0 18 (dk_at dksX14_fool_3 7 rfl rfl)
theorem dX14_fool_81 : decode cX14_fool 81 = .ok (.aload_n 0, 1) := dk_42 (dk_at dksX14_fool_3 10 rfl rfl)
theorem dX14_fool_82 : decode cX14_fool 82 = .ok (.iload 4, 2) := dk_21 4 (dk_at dksX14_fool_3 11 rfl rfl)
theorem dX14_fool_84 : decode cX14_fool 84 = .ok (.i2l, 1) := dk_133 (dk_at dksX14_fool_3 13 rfl rfl)
theorem dX14_fool_85 : decode cX14_fool 85 = .ok (.invokevirtual 18, 3) := dk_182 0 18 (dk_at dksX14_fool_3 14 rfl rfl)
theorem dX14_fool_88 : decode cX14_fool 88 = .ok (.iload_n 3, 1) := dk_29 (dk_at dksX14_fool_3 17 rfl rfl)
theorem dX14_fool_89 : decode cX14_fool 89 = .ok (.iload 4, 2) := dk_21 4 (dk_at dksX14_fool_3 18 rfl rfl)
theorem dX14_fool_91 : decode cX14_fool 91 = .ok (.isub, 1) := dk_100 (dk_at dksX14_fool_3 20 rfl rfl)
theorem dX14_fool_92 : decode cX14_fool 92 = .ok (.ireturn, 1) := dk_172 (dk_at dksX14_fool_3 21 rfl rfl)
def dkwX14_hold_2 : List UInt8 := [182, 1, 60, 42, 180, 0, 80, 28, 46, 27, 160, 0, 5, 29, 172, 132, 3, 1, 167, 255, 222, 16, 254, 172]
abbrev dktX14_hold_2 : List UInt8 := dkwX14_hold_2 ++ []
def dkwX14_hold_1 : List UInt8 := [156, 0, 6, 16, 253, 172, 3, 62, 29, 17, 3, 231, 163, 0, 33, 42, 28, 29, 182, 1, 90, 42, 27, 3]
abbrev dktX14_hold_1 : List UInt8 := dkwX14_hold_1 ++ dktX14_hold_2
def dkwX14_hold_0 : List UInt8 := [42, 3, 181, 0, 3, 27, 184, 1, 87, 154, 0, 5, 2, 172, 42, 180, 0, 44, 16, 17, 46, 61, 28]
abbrev dktX14_hold_0 : List UInt8 := dkwX14_hold_0 ++ dktX14_hold_1
theorem dksX14_hold_0 : cX14_hold.data.toList.drop 0 = dktX14_hold_0 := by decide +kernel
theorem dksX14_hold_1 : cX14_hold.data.toList.drop 23 = dktX14_hold_1 := dk_seg dksX14_hold_0 23 rfl rfl
theorem dksX14_hold_2 : cX14_hold.data.toList.drop 47 = dktX14_hold_2 := dk_seg dksX14_hold_1 24 rfl rfl
theorem dX14_hold_0 : decode cX14_hold 0 = .ok (.aload_n 0, 1) := dk_42 (dk_at dksX14_hold_0 0 rfl rfl)
theorem dX14_hold_1 : decode cX14_hold 1 = .ok (.iconst 0, 1) := dk_3 (dk_at dksX14_hold_0 1 rfl rfl)
theorem dX14_hold_2 : decode cX14_hold 2 = .ok (.putfield 3, 3) := dk_181 0 3 (dk_at dksX14_hold_0 2 rfl rfl)
theorem dX14_hold_5 : decode cX14_hold 5 = .ok (.iload_n 1, 1) := dk_27 (dk_at dksX14_hold_0 5 rfl rfl)
theorem dX14_hold_6 : decode cX14_hold 6 = .ok (.invokestatic 343, 3) := dk_184 1 87 (dk_at dksX14_hold_0 6 rfl rfl)
theorem dX14_hold_9 : decode cX14_hold 9 = .ok (.ifCond .ne 5, 3) := dk_154 0 5 (dk_at dksX14_hold_0 9 rfl rfl)
theorem dX14_hold_12 : decode cX14_hold 12 = .ok (.iconst (-1), 1) := dk_2 (dk_at dksX14_hold_0 12 rfl rfl)
theorem dX14_hold_13 : decode cX14_hold 13 = .ok (.ireturn, 1) := dk_172 (dk_at dksX14_hold_0 13 rfl rfl)
theorem dX14_hold_14 : decode cX14_hold 14 = .ok (.aload_n 0, 1) := dk_42 (dk_at dksX14_hold_0 14 rfl rfl)
theorem dX14_hold_15 : decode cX14_hold 15 = .ok (.getfield 44, 3) := dk_180 0 44 (dk_at dksX14_hold_0 15 rfl rfl)
theorem dX14_hold_18 : decode cX14_hold 18 = .ok (.bipush 17, 2) := dk_16 17 (dk_at dksX14_hold_0 18 rfl rfl)
theorem dX14_hold_20 : decode cX14_hold 20 = .ok (.iaload, 1) := dk_46 (dk_at dksX14_hold_0 20 rfl rfl)
theorem dX14_hold_21 : decode cX14_hold 21 = .ok (.istore_n 2, 1) := dk_61 (dk_at dksX14_hold_0 21 rfl rfl)
theorem dX14_hold_22 : decode cX14_hold 22 = .ok (.iload_n 2, 1) := dk_28 (dk_at dksX14_hold_0 22 rfl rfl)
theorem dX14_hold_23 : decode cX14_hold 23 = .ok (.ifCond .ge 6, 3) := dk_156 0 6 (dk_at dksX14_hold_1 0 rfl rfl)
theorem dX14_hold_26 : decode cX14_hold 26 = .ok (.bipush (-3), 2) := dk_16 253 (dk_at dksX14_hold_1 3 rfl rfl)
theorem dX14_hold_28 : decode cX14_hold 28 = .ok (.ireturn, 1) := dk_172 (dk_at dksX14_hold_1 5 rfl rfl)
theorem dX14_hold_29 : decode cX14_hold 29 = .ok (.iconst 0, 1) := dk_3 (dk_at dksX14_hold_1 6 rfl rfl)
theorem dX14_hold_30 : decode cX14_hold 30 = .ok (.istore_n 3, 1) := dk_62 (dk_at dksX14_hold_1 7 rfl rfl)
theorem dX14_hold_31 : decode cX14_hold 31 = .ok (.iload_n 3, 1) := dk_29 (dk_at dksX14_hold_1 8 rfl rfl)
theorem dX14_hold_32 : decode cX14_hold 32 = .ok (.sipush 999, 3) := dk_17 3 231 (dk_at dksX14_hold_1 9 rfl rfl)
theorem dX14_hold_35 : decode cX14_hold 35 = .ok (.if_icmp .gt 33, 3) := dk_163 0 33 (dk_at dksX14_hold_1 12 rfl rfl)
theorem dX14_hold_38 : decode cX14_hold 38 = .ok (.aload_n 0, 1) := dk_42 (dk_at dksX14_hold_1 15 rfl rfl)
theorem dX14_hold_39 : decode cX14_hold 39 = .ok (.iload_n 2, 1) := dk_28 (dk_at dksX14_hold_1 16 rfl rfl)
theorem dX14_hold_40 : decode cX14_hold 40 = .ok (.iload_n 3, 1) := dk_29 (dk_at dksX14_hold_1 17 rfl rfl)
theorem dX14_hold_41 : decode cX14_hold 41 = .ok (.invokevirtual 346, 3) := dk_182 1 90 (dk_at dksX14_hold_1 18 rfl rfl)
theorem dX14_hold_44 : decode cX14_hold 44 = .ok (.aload_n 0, 1) := dk_42 (dk_at dksX14_hold_1 21 rfl rfl)
theorem dX14_hold_45 : decode cX14_hold 45 = .ok (.iload_n 1, 1) := dk_27 (dk_at dksX14_hold_1 22 rfl rfl)
theorem dX14_hold_46 : decode cX14_hold 46 = .ok (.iconst 0, 1) := dk_3 (dk_at dksX14_hold_1 23 rfl rfl)
theorem dX14_hold_47 : decode cX14_hold 47 = .ok (.invokevirtual 316, 3) := dk_182 1 60 (dk_at dksX14_hold_2 0 rfl rfl)
theorem dX14_hold_50 : decode cX14_hold 50 = .ok (.aload_n 0, 1) := dk_42 (dk_at dksX14_hold_2 3 rfl rfl)
theorem dX14_hold_51 : decode cX14_hold 51 = .ok (.getfield 80, 3) := dk_180 0 80 (dk_at dksX14_hold_2 4 rfl rfl)
theorem dX14_hold_54 : decode cX14_hold 54 = .ok (.iload_n 2, 1) := dk_28 (dk_at dksX14_hold_2 7 rfl rfl)
theorem dX14_hold_55 : decode cX14_hold 55 = .ok (.iaload, 1) := dk_46 (dk_at dksX14_hold_2 8 rfl rfl)
theorem dX14_hold_56 : decode cX14_hold 56 = .ok (.iload_n 1, 1) := dk_27 (dk_at dksX14_hold_2 9 rfl rfl)
theorem dX14_hold_57 : decode cX14_hold 57 = .ok (.if_icmp .ne 5, 3) := dk_160 0 5 (dk_at dksX14_hold_2 10 rfl rfl)
theorem dX14_hold_60 : decode cX14_hold 60 = .ok (.iload_n 3, 1) := dk_29 (dk_at dksX14_hold_2 13 rfl rfl)
theorem dX14_hold_61 : decode cX14_hold 61 = .ok (.ireturn, 1) := dk_172 (dk_at dksX14_hold_2 14 rfl rfl)
theorem dX14_hold_62 : decode cX14_hold 62 = .ok (.iinc 3 1, 3) := dk_132 3 1 (dk_at dksX14_hold_2 15 rfl rfl)
theorem dX14_hold_65 : decode cX14_hold 65 = .ok (.goto (-34), 3) := dk_167 255 222 (dk_at dksX14_hold_2 18 rfl rfl)
theorem dX14_hold_68 : decode cX14_hold 68 = .ok (.bipush (-2), 2) := dk_16 254 (dk_at dksX14_hold_2 21 rfl rfl)
theorem dX14_hold_70 : decode cX14_hold 70 = .ok (.ireturn, 1) := dk_172 (dk_at dksX14_hold_2 23 rfl rfl)
def dkwX14_areSixty_0 : List UInt8 := [26, 133, 9, 20, 1, 85, 184, 0, 120, 172]
abbrev dktX14_areSixty_0 : List UInt8 := dkwX14_areSixty_0 ++ []
theorem dksX14_areSixty_0 : cX14_areSixty.data.toList.drop 0 = dktX14_areSixty_0 := by decide +kernel
theorem dX14_areSixty_0 : decode cX14_areSixty 0 = .ok (.iload_n 0, 1) := dk_26 (dk_at dksX14_areSixty_0 0 rfl rfl)
theorem dX14_areSixty_1 : decode cX14_areSixty 1 = .ok (.i2l, 1) := dk_133 (dk_at dksX14_areSixty_0 1 rfl rfl)
theorem dX14_areSixty_2 : decode cX14_areSixty 2 = .ok (.lconst 0, 1) := dk_9 (dk_at dksX14_areSixty_0 2 rfl rfl)
theorem dX14_areSixty_3 : decode cX14_areSixty 3 = .ok (.ldc2_w 341, 3) := dk_20 1 85 (dk_at dksX14_areSixty_0 3 rfl rfl)
theorem dX14_areSixty_6 : decode cX14_areSixty 6 = .ok (.invokestatic 120, 3) := dk_184 0 120 (dk_at dksX14_areSixty_0 6 rfl rfl)
theorem dX14_areSixty_9 : decode cX14_areSixty 9 = .ok (.ireturn, 1) := dk_172 (dk_at dksX14_areSixty_0 9 rfl rfl)
def dkwX14_startsWith_1 : List UInt8 := [184, 0, 254, 79, 177]
abbrev dktX14_startsWith_1 : List UInt8 := dkwX14_startsWith_1 ++ []
def dkwX14_startsWith_0 : List UInt8 := [42, 182, 1, 57, 42, 180, 0, 47, 27, 4, 17, 3, 231, 42, 180, 0, 47, 27, 46, 28, 96, 184, 0, 141]
abbrev dktX14_startsWith_0 : List UInt8 := dkwX14_startsWith_0 ++ dktX14_startsWith_1
theorem dksX14_startsWith_0 : cX14_startsWith.data.toList.drop 0 = dktX14_startsWith_0 := by decide +kernel
theorem dksX14_startsWith_1 : cX14_startsWith.data.toList.drop 24 = dktX14_startsWith_1 := dk_seg dksX14_startsWith_0 24 rfl rfl
theorem dX14_startsWith_0 : decode cX14_startsWith 0 = .ok (.aload_n 0, 1) := dk_42 (dk_at dksX14_startsWith_0 0 rfl rfl)
theorem dX14_startsWith_1 : decode cX14_startsWith 1 = .ok (.invokevirtual 313, 3) := dk_182 1 57 (dk_at dksX14_startsWith_0 1 rfl rfl)
theorem dX14_startsWith_4 : decode cX14_startsWith 4 = .ok (.aload_n 0, 1) := dk_42 (dk_at dksX14_startsWith_0 4 rfl rfl)
theorem dX14_startsWith_5 : decode cX14_startsWith 5 = .ok (.getfield 47, 3) := dk_180 0 47 (dk_at dksX14_startsWith_0 5 rfl rfl)
theorem dX14_startsWith_8 : decode cX14_startsWith 8 = .ok (.iload_n 1, 1) := dk_27 (dk_at dksX14_startsWith_0 8 rfl rfl)
theorem dX14_startsWith_9 : decode cX14_startsWith 9 = .ok (.iconst 1, 1) := dk_4 (dk_at dksX14_startsWith_0 9 rfl rfl)
theorem dX14_startsWith_10 : decode cX14_startsWith 10 = .ok (.sipush 999, 3) := dk_17 3 231 (dk_at dksX14_startsWith_0 10 rfl rfl)
theorem dX14_startsWith_13 : decode cX14_startsWith 13 = .ok (.aload_n 0, 1) := dk_42 (dk_at dksX14_startsWith_0 13 rfl rfl)
theorem dX14_startsWith_14 : decode cX14_startsWith 14 = .ok (.getfield 47, 3) := dk_180 0 47 (dk_at dksX14_startsWith_0 14 rfl rfl)
theorem dX14_startsWith_17 : decode cX14_startsWith 17 = .ok (.iload_n 1, 1) := dk_27 (dk_at dksX14_startsWith_0 17 rfl rfl)
theorem dX14_startsWith_18 : decode cX14_startsWith 18 = .ok (.iaload, 1) := dk_46 (dk_at dksX14_startsWith_0 18 rfl rfl)
theorem dX14_startsWith_19 : decode cX14_startsWith 19 = .ok (.iload_n 2, 1) := dk_28 (dk_at dksX14_startsWith_0 19 rfl rfl)
theorem dX14_startsWith_20 : decode cX14_startsWith 20 = .ok (.iadd, 1) := dk_96 (dk_at dksX14_startsWith_0 20 rfl rfl)
theorem dX14_startsWith_21 : decode cX14_startsWith 21 = .ok (.invokestatic 141, 3) := dk_184 0 141 (dk_at dksX14_startsWith_0 21 rfl rfl)
theorem dX14_startsWith_24 : decode cX14_startsWith 24 = .ok (.invokestatic 254, 3) := dk_184 0 254 (dk_at dksX14_startsWith_1 0 rfl rfl)
theorem dX14_startsWith_27 : decode cX14_startsWith 27 = .ok (.iastore, 1) := dk_79 (dk_at dksX14_startsWith_1 3 rfl rfl)
theorem dX14_startsWith_28 : decode cX14_startsWith 28 = .ok (.return_, 1) := dk_177 (dk_at dksX14_startsWith_1 4 rfl rfl)
def dkwX14_bribe_3 : List UInt8 := [27, 46, 133, 182, 0, 18, 29, 172, 132, 3, 1, 167, 255, 205, 16, 254, 172]
abbrev dktX14_bribe_3 : List UInt8 := dkwX14_bribe_3 ++ []
def dkwX14_bribe_2 : List UInt8 := [182, 1, 60, 42, 180, 0, 47, 16, 17, 46, 27, 160, 0, 21, 42, 3, 181, 0, 15, 42, 42, 180, 0, 80]
abbrev dktX14_bribe_2 : List UInt8 := dkwX14_bribe_2 ++ dktX14_bribe_3
def dkwX14_bribe_1 : List UInt8 := [154, 0, 5, 2, 172, 3, 62, 29, 17, 3, 231, 163, 0, 50, 42, 27, 29, 182, 1, 90, 42, 28, 3]
abbrev dktX14_bribe_1 : List UInt8 := dkwX14_bribe_1 ++ dktX14_bribe_2
def dkwX14_bribe_0 : List UInt8 := [42, 3, 181, 0, 3, 42, 27, 182, 1, 41, 153, 0, 15, 28, 133, 10, 20, 1, 85, 184, 0, 120]
abbrev dktX14_bribe_0 : List UInt8 := dkwX14_bribe_0 ++ dktX14_bribe_1
theorem dksX14_bribe_0 : cX14_bribe.data.toList.drop 0 = dktX14_bribe_0 := by decide +kernel
theorem dksX14_bribe_1 : cX14_bribe.data.toList.drop 22 = dktX14_bribe_1 := dk_seg dksX14_bribe_0 22 rfl rfl
theorem dksX14_bribe_2 : cX14_bribe.data.toList.drop 45 = dktX14_bribe_2 := dk_seg dksX14_bribe_1 23 rfl rfl
theorem dksX14_bribe_3 : cX14_bribe.data.toList.drop 69 = dktX14_bribe_3 := dk_seg dksX14_bribe_2 24 rfl rfl
theorem dX14_bribe_0 : decode cX14_bribe 0 = .ok (.aload_n 0, 1) := dk_42 (dk_at dksX14_bribe_0 0 rfl rfl)
theorem dX14_bribe_1 : decode cX14_bribe 1 = .ok (.iconst 0, 1) := dk_3 (dk_at dksX14_bribe_0 1 rfl rfl)
theorem dX14_bribe_2 : decode cX14_bribe 2 = .ok (.putfield 3, 3) := dk_181 0 3 (dk_at dksX14_bribe_0 2 rfl rfl)
theorem dX14_bribe_5 : decode cX14_bribe 5 = .ok (.aload_n 0, 1) := dk_42 (dk_at dksX14_bribe_0 5 rfl rfl)
theorem dX14_bribe_6 : decode cX14_bribe 6 = .ok (.iload_n 1, 1) := dk_27 (dk_at dksX14_bribe_0 6 rfl rfl)
theorem dX14_bribe_7 : decode cX14_bribe 7 = .ok (.invokevirtual 297, 3) := dk_182 1 41 (dk_at dksX14_bribe_0 7 rfl rfl)
theorem dX14_bribe_10 : decode cX14_bribe 10 = .ok (.ifCond .eq 15, 3) := dk_153 0 15 (dk_at dksX14_bribe_0 10 rfl rfl)
theorem dX14_bribe_13 : decode cX14_bribe 13 = .ok (.iload_n 2, 1) := dk_28 (dk_at dksX14_bribe_0 13 rfl rfl)
theorem dX14_bribe_14 : decode cX14_bribe 14 = .ok (.i2l, 1) := dk_133 (dk_at dksX14_bribe_0 14 rfl rfl)
theorem dX14_bribe_15 : decode cX14_bribe 15 = .ok (.lconst 1, 1) := dk_10 (dk_at dksX14_bribe_0 15 rfl rfl)
theorem dX14_bribe_16 : decode cX14_bribe 16 = .ok (.ldc2_w 341, 3) := dk_20 1 85 (dk_at dksX14_bribe_0 16 rfl rfl)
theorem dX14_bribe_19 : decode cX14_bribe 19 = .ok (.invokestatic 120, 3) := dk_184 0 120 (dk_at dksX14_bribe_0 19 rfl rfl)
theorem dX14_bribe_22 : decode cX14_bribe 22 = .ok (.ifCond .ne 5, 3) := dk_154 0 5 (dk_at dksX14_bribe_1 0 rfl rfl)
theorem dX14_bribe_25 : decode cX14_bribe 25 = .ok (.iconst (-1), 1) := dk_2 (dk_at dksX14_bribe_1 3 rfl rfl)
theorem dX14_bribe_26 : decode cX14_bribe 26 = .ok (.ireturn, 1) := dk_172 (dk_at dksX14_bribe_1 4 rfl rfl)
theorem dX14_bribe_27 : decode cX14_bribe 27 = .ok (.iconst 0, 1) := dk_3 (dk_at dksX14_bribe_1 5 rfl rfl)
theorem dX14_bribe_28 : decode cX14_bribe 28 = .ok (.istore_n 3, 1) := dk_62 (dk_at dksX14_bribe_1 6 rfl rfl)
theorem dX14_bribe_29 : decode cX14_bribe 29 = .ok (.iload_n 3, 1) := dk_29 (dk_at dksX14_bribe_1 7 rfl rfl)
theorem dX14_bribe_30 : decode cX14_bribe 30 = .ok (.sipush 999, 3) := dk_17 3 231 (dk_at dksX14_bribe_1 8 rfl rfl)
theorem dX14_bribe_33 : decode cX14_bribe 33 = .ok (.if_icmp .gt 50, 3) := dk_163 0 50 (dk_at dksX14_bribe_1 11 rfl rfl)
theorem dX14_bribe_36 : decode cX14_bribe 36 = .ok (.aload_n 0, 1) := dk_42 (dk_at dksX14_bribe_1 14 rfl rfl)
theorem dX14_bribe_37 : decode cX14_bribe 37 = .ok (.iload_n 1, 1) := dk_27 (dk_at dksX14_bribe_1 15 rfl rfl)
theorem dX14_bribe_38 : decode cX14_bribe 38 = .ok (.iload_n 3, 1) := dk_29 (dk_at dksX14_bribe_1 16 rfl rfl)
theorem dX14_bribe_39 : decode cX14_bribe 39 = .ok (.invokevirtual 346, 3) := dk_182 1 90 (dk_at dksX14_bribe_1 17 rfl rfl)
theorem dX14_bribe_42 : decode cX14_bribe 42 = .ok (.aload_n 0, 1) := dk_42 (dk_at dksX14_bribe_1 20 rfl rfl)
theorem dX14_bribe_43 : decode cX14_bribe 43 = .ok (.iload_n 2, 1) := dk_28 (dk_at dksX14_bribe_1 21 rfl rfl)
theorem dX14_bribe_44 : decode cX14_bribe 44 = .ok (.iconst 0, 1) := dk_3 (dk_at dksX14_bribe_1 22 rfl rfl)
theorem dX14_bribe_45 : decode cX14_bribe 45 = .ok (.invokevirtual 316, 3) := dk_182 1 60 (dk_at dksX14_bribe_2 0 rfl rfl)
theorem dX14_bribe_48 : decode cX14_bribe 48 = .ok (.aload_n 0, 1) := dk_42 (dk_at dksX14_bribe_2 3 rfl rfl)
theorem dX14_bribe_49 : decode cX14_bribe 49 = .ok (.getfield 47, 3) := dk_180 0 47 (dk_at dksX14_bribe_2 4 rfl rfl)
theorem dX14_bribe_52 : decode cX14_bribe 52 = .ok (.bipush 17, 2) := dk_16 17 (dk_at dksX14_bribe_2 7 rfl rfl)
theorem dX14_bribe_54 : decode cX14_bribe 54 = .ok (.iaload, 1) := dk_46 (dk_at dksX14_bribe_2 9 rfl rfl)
theorem dX14_bribe_55 : decode cX14_bribe 55 = .ok (.iload_n 1, 1) := dk_27 (dk_at dksX14_bribe_2 10 rfl rfl)
theorem dX14_bribe_56 : decode cX14_bribe 56 = .ok (.if_icmp .ne 21, 3) := dk_160 0 21 (dk_at dksX14_bribe_2 11 rfl rfl)
theorem dX14_bribe_59 : decode cX14_bribe 59 = .ok (.aload_n 0, 1) := dk_42 (dk_at dksX14_bribe_2 14 rfl rfl)
theorem dX14_bribe_60 : decode cX14_bribe 60 = .ok (.iconst 0, 1) := dk_3 (dk_at dksX14_bribe_2 15 rfl rfl)
theorem dX14_bribe_61 : decode cX14_bribe 61 = .ok (.putfield 15, 3) := dk_181 0 15 (dk_at dksX14_bribe_2 16 rfl rfl)
theorem dX14_bribe_64 : decode cX14_bribe 64 = .ok (.aload_n 0, 1) := dk_42 (dk_at dksX14_bribe_2 19 rfl rfl)
theorem dX14_bribe_65 : decode cX14_bribe 65 = .ok (.aload_n 0, 1) := dk_42 (dk_at dksX14_bribe_2 20 rfl rfl)
theorem dX14_bribe_66 : decode cX14_bribe 66 = .ok (.getfield 80, 3) := dk_180 0 80 (dk_at dksX14_bribe_2 21 rfl rfl)
theorem dX14_bribe_69 : decode cX14_bribe 69 = .ok (.iload_n 1, 1) := dk_27 (dk_at dksX14_bribe_3 0 rfl rfl)
theorem dX14_bribe_70 : decode cX14_bribe 70 = .ok (.iaload, 1) := dk_46 (dk_at dksX14_bribe_3 1 rfl rfl)
theorem dX14_bribe_71 : decode cX14_bribe 71 = .ok (.i2l, 1) := dk_133 (dk_at dksX14_bribe_3 2 rfl rfl)
theorem dX14_bribe_72 : decode cX14_bribe 72 = .ok (.invokevirtual 18, 3) := dk_182 0 18 (dk_at dksX14_bribe_3 3 rfl rfl)
theorem dX14_bribe_75 : decode cX14_bribe 75 = .ok (.iload_n 3, 1) := dk_29 (dk_at dksX14_bribe_3 6 rfl rfl)
theorem dX14_bribe_76 : decode cX14_bribe 76 = .ok (.ireturn, 1) := dk_172 (dk_at dksX14_bribe_3 7 rfl rfl)
theorem dX14_bribe_77 : decode cX14_bribe 77 = .ok (.iinc 3 1, 3) := dk_132 3 1 (dk_at dksX14_bribe_3 8 rfl rfl)
theorem dX14_bribe_80 : decode cX14_bribe 80 = .ok (.goto (-51), 3) := dk_167 255 205 (dk_at dksX14_bribe_3 11 rfl rfl)
theorem dX14_bribe_83 : decode cX14_bribe 83 = .ok (.bipush (-2), 2) := dk_16 254 (dk_at dksX14_bribe_3 14 rfl rfl)
theorem dX14_bribe_85 : decode cX14_bribe 85 = .ok (.ireturn, 1) := dk_172 (dk_at dksX14_bribe_3 16 rfl rfl)
def dkwX14_starve_2 : List UInt8 := [27, 46, 154, 0, 5, 29, 172, 132, 3, 1, 167, 255, 222, 16, 254, 172]
abbrev dktX14_starve_2 : List UInt8 := dkwX14_starve_2 ++ []
def dkwX14_starve_1 : List UInt8 := [29, 17, 3, 231, 163, 0, 33, 42, 27, 29, 116, 182, 1, 90, 42, 28, 3, 182, 1, 60, 42, 180, 0, 80]
abbrev dktX14_starve_1 : List UInt8 := dkwX14_starve_1 ++ dktX14_starve_2
def dkwX14_starve_0 : List UInt8 := [42, 3, 181, 0, 3, 42, 27, 182, 1, 41, 153, 0, 10, 28, 184, 1, 87, 154, 0, 5, 2, 172, 3, 62]
abbrev dktX14_starve_0 : List UInt8 := dkwX14_starve_0 ++ dktX14_starve_1
theorem dksX14_starve_0 : cX14_starve.data.toList.drop 0 = dktX14_starve_0 := by decide +kernel
theorem dksX14_starve_1 : cX14_starve.data.toList.drop 24 = dktX14_starve_1 := dk_seg dksX14_starve_0 24 rfl rfl
theorem dksX14_starve_2 : cX14_starve.data.toList.drop 48 = dktX14_starve_2 := dk_seg dksX14_starve_1 24 rfl rfl
theorem dX14_starve_0 : decode cX14_starve 0 = .ok (.aload_n 0, 1) := dk_42 (dk_at dksX14_starve_0 0 rfl rfl)
theorem dX14_starve_1 : decode cX14_starve 1 = .ok (.iconst 0, 1) := dk_3 (dk_at dksX14_starve_0 1 rfl rfl)
theorem dX14_starve_2 : decode cX14_starve 2 = .ok (.putfield 3, 3) := dk_181 0 3 (dk_at dksX14_starve_0 2 rfl rfl)
theorem dX14_starve_5 : decode cX14_starve 5 = .ok (.aload_n 0, 1) := dk_42 (dk_at dksX14_starve_0 5 rfl rfl)
theorem dX14_starve_6 : decode cX14_starve 6 = .ok (.iload_n 1, 1) := dk_27 (dk_at dksX14_starve_0 6 rfl rfl)
theorem dX14_starve_7 : decode cX14_starve 7 = .ok (.invokevirtual 297, 3) := dk_182 1 41 (dk_at dksX14_starve_0 7 rfl rfl)
theorem dX14_starve_10 : decode cX14_starve 10 = .ok (.ifCond .eq 10, 3) := dk_153 0 10 (dk_at dksX14_starve_0 10 rfl rfl)
theorem dX14_starve_13 : decode cX14_starve 13 = .ok (.iload_n 2, 1) := dk_28 (dk_at dksX14_starve_0 13 rfl rfl)
theorem dX14_starve_14 : decode cX14_starve 14 = .ok (.invokestatic 343, 3) := dk_184 1 87 (dk_at dksX14_starve_0 14 rfl rfl)
theorem dX14_starve_17 : decode cX14_starve 17 = .ok (.ifCond .ne 5, 3) := dk_154 0 5 (dk_at dksX14_starve_0 17 rfl rfl)
theorem dX14_starve_20 : decode cX14_starve 20 = .ok (.iconst (-1), 1) := dk_2 (dk_at dksX14_starve_0 20 rfl rfl)
theorem dX14_starve_21 : decode cX14_starve 21 = .ok (.ireturn, 1) := dk_172 (dk_at dksX14_starve_0 21 rfl rfl)
theorem dX14_starve_22 : decode cX14_starve 22 = .ok (.iconst 0, 1) := dk_3 (dk_at dksX14_starve_0 22 rfl rfl)
theorem dX14_starve_23 : decode cX14_starve 23 = .ok (.istore_n 3, 1) := dk_62 (dk_at dksX14_starve_0 23 rfl rfl)
theorem dX14_starve_24 : decode cX14_starve 24 = .ok (.iload_n 3, 1) := dk_29 (dk_at dksX14_starve_1 0 rfl rfl)
theorem dX14_starve_25 : decode cX14_starve 25 = .ok (.sipush 999, 3) := dk_17 3 231 (dk_at dksX14_starve_1 1 rfl rfl)
theorem dX14_starve_28 : decode cX14_starve 28 = .ok (.if_icmp .gt 33, 3) := dk_163 0 33 (dk_at dksX14_starve_1 4 rfl rfl)
theorem dX14_starve_31 : decode cX14_starve 31 = .ok (.aload_n 0, 1) := dk_42 (dk_at dksX14_starve_1 7 rfl rfl)
theorem dX14_starve_32 : decode cX14_starve 32 = .ok (.iload_n 1, 1) := dk_27 (dk_at dksX14_starve_1 8 rfl rfl)
theorem dX14_starve_33 : decode cX14_starve 33 = .ok (.iload_n 3, 1) := dk_29 (dk_at dksX14_starve_1 9 rfl rfl)
theorem dX14_starve_34 : decode cX14_starve 34 = .ok (.ineg, 1) := dk_116 (dk_at dksX14_starve_1 10 rfl rfl)
theorem dX14_starve_35 : decode cX14_starve 35 = .ok (.invokevirtual 346, 3) := dk_182 1 90 (dk_at dksX14_starve_1 11 rfl rfl)
theorem dX14_starve_38 : decode cX14_starve 38 = .ok (.aload_n 0, 1) := dk_42 (dk_at dksX14_starve_1 14 rfl rfl)
theorem dX14_starve_39 : decode cX14_starve 39 = .ok (.iload_n 2, 1) := dk_28 (dk_at dksX14_starve_1 15 rfl rfl)
theorem dX14_starve_40 : decode cX14_starve 40 = .ok (.iconst 0, 1) := dk_3 (dk_at dksX14_starve_1 16 rfl rfl)
theorem dX14_starve_41 : decode cX14_starve 41 = .ok (.invokevirtual 316, 3) := dk_182 1 60 (dk_at dksX14_starve_1 17 rfl rfl)
theorem dX14_starve_44 : decode cX14_starve 44 = .ok (.aload_n 0, 1) := dk_42 (dk_at dksX14_starve_1 20 rfl rfl)
theorem dX14_starve_45 : decode cX14_starve 45 = .ok (.getfield 80, 3) := dk_180 0 80 (dk_at dksX14_starve_1 21 rfl rfl)
theorem dX14_starve_48 : decode cX14_starve 48 = .ok (.iload_n 1, 1) := dk_27 (dk_at dksX14_starve_2 0 rfl rfl)
theorem dX14_starve_49 : decode cX14_starve 49 = .ok (.iaload, 1) := dk_46 (dk_at dksX14_starve_2 1 rfl rfl)
theorem dX14_starve_50 : decode cX14_starve 50 = .ok (.ifCond .ne 5, 3) := dk_154 0 5 (dk_at dksX14_starve_2 2 rfl rfl)
theorem dX14_starve_53 : decode cX14_starve 53 = .ok (.iload_n 3, 1) := dk_29 (dk_at dksX14_starve_2 5 rfl rfl)
theorem dX14_starve_54 : decode cX14_starve 54 = .ok (.ireturn, 1) := dk_172 (dk_at dksX14_starve_2 6 rfl rfl)
theorem dX14_starve_55 : decode cX14_starve 55 = .ok (.iinc 3 1, 3) := dk_132 3 1 (dk_at dksX14_starve_2 7 rfl rfl)
theorem dX14_starve_58 : decode cX14_starve 58 = .ok (.goto (-34), 3) := dk_167 255 222 (dk_at dksX14_starve_2 10 rfl rfl)
theorem dX14_starve_61 : decode cX14_starve 61 = .ok (.bipush (-2), 2) := dk_16 254 (dk_at dksX14_starve_2 13 rfl rfl)
theorem dX14_starve_63 : decode cX14_starve 63 = .ok (.ireturn, 1) := dk_172 (dk_at dksX14_starve_2 15 rfl rfl)
def dkwX14_cheapest_4 : List UInt8 := [27, 156, 0, 6, 16, 254, 172, 42, 3, 181, 0, 15, 42, 28, 133, 182, 0, 18, 27, 172]
abbrev dktX14_cheapest_4 : List UInt8 := dkwX14_cheapest_4 ++ []
def dkwX14_cheapest_3 : List UInt8 := [16, 17, 46, 29, 160, 0, 8, 29, 60, 21, 4, 61, 132, 4, 1, 167, 255, 208, 132, 3, 1, 167, 255, 180]
abbrev dktX14_cheapest_3 : List UInt8 := dkwX14_cheapest_3 ++ dktX14_cheapest_4
def dkwX14_cheapest_2 : List UInt8 := [182, 1, 90, 42, 42, 42, 180, 0, 47, 182, 1, 32, 4, 29, 120, 128, 182, 1, 51, 42, 180, 0, 47]
abbrev dktX14_cheapest_2 : List UInt8 := dkwX14_cheapest_2 ++ dktX14_cheapest_3
def dkwX14_cheapest_1 : List UInt8 := [182, 1, 41, 154, 0, 6, 167, 0, 57, 3, 54, 4, 21, 4, 28, 162, 0, 48, 42, 29, 21, 4]
abbrev dktX14_cheapest_1 : List UInt8 := dkwX14_cheapest_1 ++ dktX14_cheapest_2
def dkwX14_cheapest_0 : List UInt8 := [42, 3, 181, 0, 3, 16, 254, 60, 17, 3, 232, 61, 3, 62, 29, 42, 180, 0, 117, 162, 0, 74, 42, 29]
abbrev dktX14_cheapest_0 : List UInt8 := dkwX14_cheapest_0 ++ dktX14_cheapest_1
theorem dksX14_cheapest_0 : cX14_cheapest.data.toList.drop 0 = dktX14_cheapest_0 := by decide +kernel
theorem dksX14_cheapest_1 : cX14_cheapest.data.toList.drop 24 = dktX14_cheapest_1 := dk_seg dksX14_cheapest_0 24 rfl rfl
theorem dksX14_cheapest_2 : cX14_cheapest.data.toList.drop 46 = dktX14_cheapest_2 := dk_seg dksX14_cheapest_1 22 rfl rfl
theorem dksX14_cheapest_3 : cX14_cheapest.data.toList.drop 69 = dktX14_cheapest_3 := dk_seg dksX14_cheapest_2 23 rfl rfl
theorem dksX14_cheapest_4 : cX14_cheapest.data.toList.drop 93 = dktX14_cheapest_4 := dk_seg dksX14_cheapest_3 24 rfl rfl
theorem dX14_cheapest_0 : decode cX14_cheapest 0 = .ok (.aload_n 0, 1) := dk_42 (dk_at dksX14_cheapest_0 0 rfl rfl)
theorem dX14_cheapest_1 : decode cX14_cheapest 1 = .ok (.iconst 0, 1) := dk_3 (dk_at dksX14_cheapest_0 1 rfl rfl)
theorem dX14_cheapest_2 : decode cX14_cheapest 2 = .ok (.putfield 3, 3) := dk_181 0 3 (dk_at dksX14_cheapest_0 2 rfl rfl)
theorem dX14_cheapest_5 : decode cX14_cheapest 5 = .ok (.bipush (-2), 2) := dk_16 254 (dk_at dksX14_cheapest_0 5 rfl rfl)
theorem dX14_cheapest_7 : decode cX14_cheapest 7 = .ok (.istore_n 1, 1) := dk_60 (dk_at dksX14_cheapest_0 7 rfl rfl)
theorem dX14_cheapest_8 : decode cX14_cheapest 8 = .ok (.sipush 1000, 3) := dk_17 3 232 (dk_at dksX14_cheapest_0 8 rfl rfl)
theorem dX14_cheapest_11 : decode cX14_cheapest 11 = .ok (.istore_n 2, 1) := dk_61 (dk_at dksX14_cheapest_0 11 rfl rfl)
theorem dX14_cheapest_12 : decode cX14_cheapest 12 = .ok (.iconst 0, 1) := dk_3 (dk_at dksX14_cheapest_0 12 rfl rfl)
theorem dX14_cheapest_13 : decode cX14_cheapest 13 = .ok (.istore_n 3, 1) := dk_62 (dk_at dksX14_cheapest_0 13 rfl rfl)
theorem dX14_cheapest_14 : decode cX14_cheapest 14 = .ok (.iload_n 3, 1) := dk_29 (dk_at dksX14_cheapest_0 14 rfl rfl)
theorem dX14_cheapest_15 : decode cX14_cheapest 15 = .ok (.aload_n 0, 1) := dk_42 (dk_at dksX14_cheapest_0 15 rfl rfl)
theorem dX14_cheapest_16 : decode cX14_cheapest 16 = .ok (.getfield 117, 3) := dk_180 0 117 (dk_at dksX14_cheapest_0 16 rfl rfl)
theorem dX14_cheapest_19 : decode cX14_cheapest 19 = .ok (.if_icmp .ge 74, 3) := dk_162 0 74 (dk_at dksX14_cheapest_0 19 rfl rfl)
theorem dX14_cheapest_22 : decode cX14_cheapest 22 = .ok (.aload_n 0, 1) := dk_42 (dk_at dksX14_cheapest_0 22 rfl rfl)
theorem dX14_cheapest_23 : decode cX14_cheapest 23 = .ok (.iload_n 3, 1) := dk_29 (dk_at dksX14_cheapest_0 23 rfl rfl)
theorem dX14_cheapest_24 : decode cX14_cheapest 24 = .ok (.invokevirtual 297, 3) := dk_182 1 41 (dk_at dksX14_cheapest_1 0 rfl rfl)
theorem dX14_cheapest_27 : decode cX14_cheapest 27 = .ok (.ifCond .ne 6, 3) := dk_154 0 6 (dk_at dksX14_cheapest_1 3 rfl rfl)
theorem dX14_cheapest_30 : decode cX14_cheapest 30 = .ok (.goto 57, 3) := dk_167 0 57 (dk_at dksX14_cheapest_1 6 rfl rfl)
theorem dX14_cheapest_33 : decode cX14_cheapest 33 = .ok (.iconst 0, 1) := dk_3 (dk_at dksX14_cheapest_1 9 rfl rfl)
theorem dX14_cheapest_34 : decode cX14_cheapest 34 = .ok (.istore 4, 2) := dk_54 4 (dk_at dksX14_cheapest_1 10 rfl rfl)
theorem dX14_cheapest_36 : decode cX14_cheapest 36 = .ok (.iload 4, 2) := dk_21 4 (dk_at dksX14_cheapest_1 12 rfl rfl)
theorem dX14_cheapest_38 : decode cX14_cheapest 38 = .ok (.iload_n 2, 1) := dk_28 (dk_at dksX14_cheapest_1 14 rfl rfl)
theorem dX14_cheapest_39 : decode cX14_cheapest 39 = .ok (.if_icmp .ge 48, 3) := dk_162 0 48 (dk_at dksX14_cheapest_1 15 rfl rfl)
theorem dX14_cheapest_42 : decode cX14_cheapest 42 = .ok (.aload_n 0, 1) := dk_42 (dk_at dksX14_cheapest_1 18 rfl rfl)
theorem dX14_cheapest_43 : decode cX14_cheapest 43 = .ok (.iload_n 3, 1) := dk_29 (dk_at dksX14_cheapest_1 19 rfl rfl)
theorem dX14_cheapest_44 : decode cX14_cheapest 44 = .ok (.iload 4, 2) := dk_21 4 (dk_at dksX14_cheapest_1 20 rfl rfl)
theorem dX14_cheapest_46 : decode cX14_cheapest 46 = .ok (.invokevirtual 346, 3) := dk_182 1 90 (dk_at dksX14_cheapest_2 0 rfl rfl)
theorem dX14_cheapest_49 : decode cX14_cheapest 49 = .ok (.aload_n 0, 1) := dk_42 (dk_at dksX14_cheapest_2 3 rfl rfl)
theorem dX14_cheapest_50 : decode cX14_cheapest 50 = .ok (.aload_n 0, 1) := dk_42 (dk_at dksX14_cheapest_2 4 rfl rfl)
theorem dX14_cheapest_51 : decode cX14_cheapest 51 = .ok (.aload_n 0, 1) := dk_42 (dk_at dksX14_cheapest_2 5 rfl rfl)
theorem dX14_cheapest_52 : decode cX14_cheapest 52 = .ok (.getfield 47, 3) := dk_180 0 47 (dk_at dksX14_cheapest_2 6 rfl rfl)
theorem dX14_cheapest_55 : decode cX14_cheapest 55 = .ok (.invokevirtual 288, 3) := dk_182 1 32 (dk_at dksX14_cheapest_2 9 rfl rfl)
theorem dX14_cheapest_58 : decode cX14_cheapest 58 = .ok (.iconst 1, 1) := dk_4 (dk_at dksX14_cheapest_2 12 rfl rfl)
theorem dX14_cheapest_59 : decode cX14_cheapest 59 = .ok (.iload_n 3, 1) := dk_29 (dk_at dksX14_cheapest_2 13 rfl rfl)
theorem dX14_cheapest_60 : decode cX14_cheapest 60 = .ok (.ishl, 1) := dk_120 (dk_at dksX14_cheapest_2 14 rfl rfl)
theorem dX14_cheapest_61 : decode cX14_cheapest 61 = .ok (.ior, 1) := dk_128 (dk_at dksX14_cheapest_2 15 rfl rfl)
theorem dX14_cheapest_62 : decode cX14_cheapest 62 = .ok (.invokevirtual 307, 3) := dk_182 1 51 (dk_at dksX14_cheapest_2 16 rfl rfl)
theorem dX14_cheapest_65 : decode cX14_cheapest 65 = .ok (.aload_n 0, 1) := dk_42 (dk_at dksX14_cheapest_2 19 rfl rfl)
theorem dX14_cheapest_66 : decode cX14_cheapest 66 = .ok (.getfield 47, 3) := dk_180 0 47 (dk_at dksX14_cheapest_2 20 rfl rfl)
theorem dX14_cheapest_69 : decode cX14_cheapest 69 = .ok (.bipush 17, 2) := dk_16 17 (dk_at dksX14_cheapest_3 0 rfl rfl)
theorem dX14_cheapest_71 : decode cX14_cheapest 71 = .ok (.iaload, 1) := dk_46 (dk_at dksX14_cheapest_3 2 rfl rfl)
theorem dX14_cheapest_72 : decode cX14_cheapest 72 = .ok (.iload_n 3, 1) := dk_29 (dk_at dksX14_cheapest_3 3 rfl rfl)
theorem dX14_cheapest_73 : decode cX14_cheapest 73 = .ok (.if_icmp .ne 8, 3) := dk_160 0 8 (dk_at dksX14_cheapest_3 4 rfl rfl)
theorem dX14_cheapest_76 : decode cX14_cheapest 76 = .ok (.iload_n 3, 1) := dk_29 (dk_at dksX14_cheapest_3 7 rfl rfl)
theorem dX14_cheapest_77 : decode cX14_cheapest 77 = .ok (.istore_n 1, 1) := dk_60 (dk_at dksX14_cheapest_3 8 rfl rfl)
theorem dX14_cheapest_78 : decode cX14_cheapest 78 = .ok (.iload 4, 2) := dk_21 4 (dk_at dksX14_cheapest_3 9 rfl rfl)
theorem dX14_cheapest_80 : decode cX14_cheapest 80 = .ok (.istore_n 2, 1) := dk_61 (dk_at dksX14_cheapest_3 11 rfl rfl)
theorem dX14_cheapest_81 : decode cX14_cheapest 81 = .ok (.iinc 4 1, 3) := dk_132 4 1 (dk_at dksX14_cheapest_3 12 rfl rfl)
theorem dX14_cheapest_84 : decode cX14_cheapest 84 = .ok (.goto (-48), 3) := dk_167 255 208 (dk_at dksX14_cheapest_3 15 rfl rfl)
theorem dX14_cheapest_87 : decode cX14_cheapest 87 = .ok (.iinc 3 1, 3) := dk_132 3 1 (dk_at dksX14_cheapest_3 18 rfl rfl)
theorem dX14_cheapest_90 : decode cX14_cheapest 90 = .ok (.goto (-76), 3) := dk_167 255 180 (dk_at dksX14_cheapest_3 21 rfl rfl)
theorem dX14_cheapest_93 : decode cX14_cheapest 93 = .ok (.iload_n 1, 1) := dk_27 (dk_at dksX14_cheapest_4 0 rfl rfl)
theorem dX14_cheapest_94 : decode cX14_cheapest 94 = .ok (.ifCond .ge 6, 3) := dk_156 0 6 (dk_at dksX14_cheapest_4 1 rfl rfl)
theorem dX14_cheapest_97 : decode cX14_cheapest 97 = .ok (.bipush (-2), 2) := dk_16 254 (dk_at dksX14_cheapest_4 4 rfl rfl)
theorem dX14_cheapest_99 : decode cX14_cheapest 99 = .ok (.ireturn, 1) := dk_172 (dk_at dksX14_cheapest_4 6 rfl rfl)
theorem dX14_cheapest_100 : decode cX14_cheapest 100 = .ok (.aload_n 0, 1) := dk_42 (dk_at dksX14_cheapest_4 7 rfl rfl)
theorem dX14_cheapest_101 : decode cX14_cheapest 101 = .ok (.iconst 0, 1) := dk_3 (dk_at dksX14_cheapest_4 8 rfl rfl)
theorem dX14_cheapest_102 : decode cX14_cheapest 102 = .ok (.putfield 15, 3) := dk_181 0 15 (dk_at dksX14_cheapest_4 9 rfl rfl)
theorem dX14_cheapest_105 : decode cX14_cheapest 105 = .ok (.aload_n 0, 1) := dk_42 (dk_at dksX14_cheapest_4 12 rfl rfl)
theorem dX14_cheapest_106 : decode cX14_cheapest 106 = .ok (.iload_n 2, 1) := dk_28 (dk_at dksX14_cheapest_4 13 rfl rfl)
theorem dX14_cheapest_107 : decode cX14_cheapest 107 = .ok (.i2l, 1) := dk_133 (dk_at dksX14_cheapest_4 14 rfl rfl)
theorem dX14_cheapest_108 : decode cX14_cheapest 108 = .ok (.invokevirtual 18, 3) := dk_182 0 18 (dk_at dksX14_cheapest_4 15 rfl rfl)
theorem dX14_cheapest_111 : decode cX14_cheapest 111 = .ok (.iload_n 1, 1) := dk_27 (dk_at dksX14_cheapest_4 18 rfl rfl)
theorem dX14_cheapest_112 : decode cX14_cheapest 112 = .ok (.ireturn, 1) := dk_172 (dk_at dksX14_cheapest_4 19 rfl rfl)
def dkwX14_weighed_3 : List UInt8 := [172]
abbrev dktX14_weighed_3 : List UInt8 := dkwX14_weighed_3 ++ []
def dkwX14_weighed_2 : List UInt8 := [42, 180, 0, 89, 42, 180, 1, 95, 28, 79, 42, 89, 180, 1, 95, 4, 96, 181, 1, 95, 42, 180, 1, 95]
abbrev dktX14_weighed_2 : List UInt8 := dkwX14_weighed_2 ++ dktX14_weighed_3
def dkwX14_weighed_1 : List UInt8 := [153, 0, 12, 42, 180, 1, 95, 16, 12, 160, 0, 5, 2, 172, 42, 180, 0, 86, 42, 180, 1, 95, 27, 79]
abbrev dktX14_weighed_1 : List UInt8 := dkwX14_weighed_1 ++ dktX14_weighed_2
def dkwX14_weighed_0 : List UInt8 := [42, 3, 181, 0, 3, 42, 27, 182, 0, 124, 153, 0, 24, 28, 133, 9, 20, 1, 93, 184, 0, 120]
abbrev dktX14_weighed_0 : List UInt8 := dkwX14_weighed_0 ++ dktX14_weighed_1
theorem dksX14_weighed_0 : cX14_weighed.data.toList.drop 0 = dktX14_weighed_0 := by decide +kernel
theorem dksX14_weighed_1 : cX14_weighed.data.toList.drop 22 = dktX14_weighed_1 := dk_seg dksX14_weighed_0 22 rfl rfl
theorem dksX14_weighed_2 : cX14_weighed.data.toList.drop 46 = dktX14_weighed_2 := dk_seg dksX14_weighed_1 24 rfl rfl
theorem dksX14_weighed_3 : cX14_weighed.data.toList.drop 70 = dktX14_weighed_3 := dk_seg dksX14_weighed_2 24 rfl rfl
theorem dX14_weighed_0 : decode cX14_weighed 0 = .ok (.aload_n 0, 1) := dk_42 (dk_at dksX14_weighed_0 0 rfl rfl)
theorem dX14_weighed_1 : decode cX14_weighed 1 = .ok (.iconst 0, 1) := dk_3 (dk_at dksX14_weighed_0 1 rfl rfl)
theorem dX14_weighed_2 : decode cX14_weighed 2 = .ok (.putfield 3, 3) := dk_181 0 3 (dk_at dksX14_weighed_0 2 rfl rfl)
theorem dX14_weighed_5 : decode cX14_weighed 5 = .ok (.aload_n 0, 1) := dk_42 (dk_at dksX14_weighed_0 5 rfl rfl)
theorem dX14_weighed_6 : decode cX14_weighed 6 = .ok (.iload_n 1, 1) := dk_27 (dk_at dksX14_weighed_0 6 rfl rfl)
theorem dX14_weighed_7 : decode cX14_weighed 7 = .ok (.invokevirtual 124, 3) := dk_182 0 124 (dk_at dksX14_weighed_0 7 rfl rfl)
theorem dX14_weighed_10 : decode cX14_weighed 10 = .ok (.ifCond .eq 24, 3) := dk_153 0 24 (dk_at dksX14_weighed_0 10 rfl rfl)
theorem dX14_weighed_13 : decode cX14_weighed 13 = .ok (.iload_n 2, 1) := dk_28 (dk_at dksX14_weighed_0 13 rfl rfl)
theorem dX14_weighed_14 : decode cX14_weighed 14 = .ok (.i2l, 1) := dk_133 (dk_at dksX14_weighed_0 14 rfl rfl)
theorem dX14_weighed_15 : decode cX14_weighed 15 = .ok (.lconst 0, 1) := dk_9 (dk_at dksX14_weighed_0 15 rfl rfl)
theorem dX14_weighed_16 : decode cX14_weighed 16 = .ok (.ldc2_w 349, 3) := dk_20 1 93 (dk_at dksX14_weighed_0 16 rfl rfl)
theorem dX14_weighed_19 : decode cX14_weighed 19 = .ok (.invokestatic 120, 3) := dk_184 0 120 (dk_at dksX14_weighed_0 19 rfl rfl)
theorem dX14_weighed_22 : decode cX14_weighed 22 = .ok (.ifCond .eq 12, 3) := dk_153 0 12 (dk_at dksX14_weighed_1 0 rfl rfl)
theorem dX14_weighed_25 : decode cX14_weighed 25 = .ok (.aload_n 0, 1) := dk_42 (dk_at dksX14_weighed_1 3 rfl rfl)
theorem dX14_weighed_26 : decode cX14_weighed 26 = .ok (.getfield 351, 3) := dk_180 1 95 (dk_at dksX14_weighed_1 4 rfl rfl)
theorem dX14_weighed_29 : decode cX14_weighed 29 = .ok (.bipush 12, 2) := dk_16 12 (dk_at dksX14_weighed_1 7 rfl rfl)
theorem dX14_weighed_31 : decode cX14_weighed 31 = .ok (.if_icmp .ne 5, 3) := dk_160 0 5 (dk_at dksX14_weighed_1 9 rfl rfl)
theorem dX14_weighed_34 : decode cX14_weighed 34 = .ok (.iconst (-1), 1) := dk_2 (dk_at dksX14_weighed_1 12 rfl rfl)
theorem dX14_weighed_35 : decode cX14_weighed 35 = .ok (.ireturn, 1) := dk_172 (dk_at dksX14_weighed_1 13 rfl rfl)
theorem dX14_weighed_36 : decode cX14_weighed 36 = .ok (.aload_n 0, 1) := dk_42 (dk_at dksX14_weighed_1 14 rfl rfl)
theorem dX14_weighed_37 : decode cX14_weighed 37 = .ok (.getfield 86, 3) := dk_180 0 86 (dk_at dksX14_weighed_1 15 rfl rfl)
theorem dX14_weighed_40 : decode cX14_weighed 40 = .ok (.aload_n 0, 1) := dk_42 (dk_at dksX14_weighed_1 18 rfl rfl)
theorem dX14_weighed_41 : decode cX14_weighed 41 = .ok (.getfield 351, 3) := dk_180 1 95 (dk_at dksX14_weighed_1 19 rfl rfl)
theorem dX14_weighed_44 : decode cX14_weighed 44 = .ok (.iload_n 1, 1) := dk_27 (dk_at dksX14_weighed_1 22 rfl rfl)
theorem dX14_weighed_45 : decode cX14_weighed 45 = .ok (.iastore, 1) := dk_79 (dk_at dksX14_weighed_1 23 rfl rfl)
theorem dX14_weighed_46 : decode cX14_weighed 46 = .ok (.aload_n 0, 1) := dk_42 (dk_at dksX14_weighed_2 0 rfl rfl)
theorem dX14_weighed_47 : decode cX14_weighed 47 = .ok (.getfield 89, 3) := dk_180 0 89 (dk_at dksX14_weighed_2 1 rfl rfl)
theorem dX14_weighed_50 : decode cX14_weighed 50 = .ok (.aload_n 0, 1) := dk_42 (dk_at dksX14_weighed_2 4 rfl rfl)
theorem dX14_weighed_51 : decode cX14_weighed 51 = .ok (.getfield 351, 3) := dk_180 1 95 (dk_at dksX14_weighed_2 5 rfl rfl)
theorem dX14_weighed_54 : decode cX14_weighed 54 = .ok (.iload_n 2, 1) := dk_28 (dk_at dksX14_weighed_2 8 rfl rfl)
theorem dX14_weighed_55 : decode cX14_weighed 55 = .ok (.iastore, 1) := dk_79 (dk_at dksX14_weighed_2 9 rfl rfl)
theorem dX14_weighed_56 : decode cX14_weighed 56 = .ok (.aload_n 0, 1) := dk_42 (dk_at dksX14_weighed_2 10 rfl rfl)
theorem dX14_weighed_57 : decode cX14_weighed 57 = .ok (.dup, 1) := dk_89 (dk_at dksX14_weighed_2 11 rfl rfl)
theorem dX14_weighed_58 : decode cX14_weighed 58 = .ok (.getfield 351, 3) := dk_180 1 95 (dk_at dksX14_weighed_2 12 rfl rfl)
theorem dX14_weighed_61 : decode cX14_weighed 61 = .ok (.iconst 1, 1) := dk_4 (dk_at dksX14_weighed_2 15 rfl rfl)
theorem dX14_weighed_62 : decode cX14_weighed 62 = .ok (.iadd, 1) := dk_96 (dk_at dksX14_weighed_2 16 rfl rfl)
theorem dX14_weighed_63 : decode cX14_weighed 63 = .ok (.putfield 351, 3) := dk_181 1 95 (dk_at dksX14_weighed_2 17 rfl rfl)
theorem dX14_weighed_66 : decode cX14_weighed 66 = .ok (.aload_n 0, 1) := dk_42 (dk_at dksX14_weighed_2 20 rfl rfl)
theorem dX14_weighed_67 : decode cX14_weighed 67 = .ok (.getfield 351, 3) := dk_180 1 95 (dk_at dksX14_weighed_2 21 rfl rfl)
theorem dX14_weighed_70 : decode cX14_weighed 70 = .ok (.ireturn, 1) := dk_172 (dk_at dksX14_weighed_3 0 rfl rfl)
def dkwX14_forget_1 : List UInt8 := [42, 180, 1, 95, 172]
abbrev dktX14_forget_1 : List UInt8 := dkwX14_forget_1 ++ []
def dkwX14_forget_0 : List UInt8 := [42, 3, 181, 0, 3, 42, 180, 1, 95, 154, 0, 5, 2, 172, 42, 89, 180, 1, 95, 4, 100, 181, 1, 95]
abbrev dktX14_forget_0 : List UInt8 := dkwX14_forget_0 ++ dktX14_forget_1
theorem dksX14_forget_0 : cX14_forget.data.toList.drop 0 = dktX14_forget_0 := by decide +kernel
theorem dksX14_forget_1 : cX14_forget.data.toList.drop 24 = dktX14_forget_1 := dk_seg dksX14_forget_0 24 rfl rfl
theorem dX14_forget_0 : decode cX14_forget 0 = .ok (.aload_n 0, 1) := dk_42 (dk_at dksX14_forget_0 0 rfl rfl)
theorem dX14_forget_1 : decode cX14_forget 1 = .ok (.iconst 0, 1) := dk_3 (dk_at dksX14_forget_0 1 rfl rfl)
theorem dX14_forget_2 : decode cX14_forget 2 = .ok (.putfield 3, 3) := dk_181 0 3 (dk_at dksX14_forget_0 2 rfl rfl)
theorem dX14_forget_5 : decode cX14_forget 5 = .ok (.aload_n 0, 1) := dk_42 (dk_at dksX14_forget_0 5 rfl rfl)
theorem dX14_forget_6 : decode cX14_forget 6 = .ok (.getfield 351, 3) := dk_180 1 95 (dk_at dksX14_forget_0 6 rfl rfl)
theorem dX14_forget_9 : decode cX14_forget 9 = .ok (.ifCond .ne 5, 3) := dk_154 0 5 (dk_at dksX14_forget_0 9 rfl rfl)
theorem dX14_forget_12 : decode cX14_forget 12 = .ok (.iconst (-1), 1) := dk_2 (dk_at dksX14_forget_0 12 rfl rfl)
theorem dX14_forget_13 : decode cX14_forget 13 = .ok (.ireturn, 1) := dk_172 (dk_at dksX14_forget_0 13 rfl rfl)
theorem dX14_forget_14 : decode cX14_forget 14 = .ok (.aload_n 0, 1) := dk_42 (dk_at dksX14_forget_0 14 rfl rfl)
theorem dX14_forget_15 : decode cX14_forget 15 = .ok (.dup, 1) := dk_89 (dk_at dksX14_forget_0 15 rfl rfl)
theorem dX14_forget_16 : decode cX14_forget 16 = .ok (.getfield 351, 3) := dk_180 1 95 (dk_at dksX14_forget_0 16 rfl rfl)
theorem dX14_forget_19 : decode cX14_forget 19 = .ok (.iconst 1, 1) := dk_4 (dk_at dksX14_forget_0 19 rfl rfl)
theorem dX14_forget_20 : decode cX14_forget 20 = .ok (.isub, 1) := dk_100 (dk_at dksX14_forget_0 20 rfl rfl)
theorem dX14_forget_21 : decode cX14_forget 21 = .ok (.putfield 351, 3) := dk_181 1 95 (dk_at dksX14_forget_0 21 rfl rfl)
theorem dX14_forget_24 : decode cX14_forget 24 = .ok (.aload_n 0, 1) := dk_42 (dk_at dksX14_forget_1 0 rfl rfl)
theorem dX14_forget_25 : decode cX14_forget 25 = .ok (.getfield 351, 3) := dk_180 1 95 (dk_at dksX14_forget_1 1 rfl rfl)
theorem dX14_forget_28 : decode cX14_forget 28 = .ok (.ireturn, 1) := dk_172 (dk_at dksX14_forget_1 4 rfl rfl)
def dkwX14_grains_4 : List UInt8 := [181, 0, 41, 28, 172]
abbrev dktX14_grains_4 : List UInt8 := dkwX14_grains_4 ++ []
def dkwX14_grains_3 : List UInt8 := [21, 4, 153, 0, 9, 4, 29, 120, 167, 0, 4, 3, 128, 61, 132, 3, 1, 167, 255, 184, 42, 27]
abbrev dktX14_grains_3 : List UInt8 := dkwX14_grains_3 ++ dktX14_grains_4
def dkwX14_grains_2 : List UInt8 := [21, 5, 3, 182, 1, 105, 158, 0, 7, 4, 167, 0, 4, 3, 54, 4, 132, 5, 1, 167, 255, 222, 28]
abbrev dktX14_grains_2 : List UInt8 := dkwX14_grains_2 ++ dktX14_grains_3
def dkwX14_grains_1 : List UInt8 := [181, 0, 41, 4, 54, 4, 3, 54, 5, 21, 5, 42, 180, 0, 117, 162, 0, 31, 21, 4, 153, 0, 17, 42]
abbrev dktX14_grains_1 : List UInt8 := dkwX14_grains_1 ++ dktX14_grains_2
def dkwX14_grains_0 : List UInt8 := [42, 3, 181, 0, 3, 42, 180, 0, 41, 60, 3, 61, 4, 62, 29, 16, 9, 163, 0, 72, 42, 29]
abbrev dktX14_grains_0 : List UInt8 := dkwX14_grains_0 ++ dktX14_grains_1
theorem dksX14_grains_0 : cX14_grains.data.toList.drop 0 = dktX14_grains_0 := by decide +kernel
theorem dksX14_grains_1 : cX14_grains.data.toList.drop 22 = dktX14_grains_1 := dk_seg dksX14_grains_0 22 rfl rfl
theorem dksX14_grains_2 : cX14_grains.data.toList.drop 46 = dktX14_grains_2 := dk_seg dksX14_grains_1 24 rfl rfl
theorem dksX14_grains_3 : cX14_grains.data.toList.drop 69 = dktX14_grains_3 := dk_seg dksX14_grains_2 23 rfl rfl
theorem dksX14_grains_4 : cX14_grains.data.toList.drop 91 = dktX14_grains_4 := dk_seg dksX14_grains_3 22 rfl rfl
theorem dX14_grains_0 : decode cX14_grains 0 = .ok (.aload_n 0, 1) := dk_42 (dk_at dksX14_grains_0 0 rfl rfl)
theorem dX14_grains_1 : decode cX14_grains 1 = .ok (.iconst 0, 1) := dk_3 (dk_at dksX14_grains_0 1 rfl rfl)
theorem dX14_grains_2 : decode cX14_grains 2 = .ok (.putfield 3, 3) := dk_181 0 3 (dk_at dksX14_grains_0 2 rfl rfl)
theorem dX14_grains_5 : decode cX14_grains 5 = .ok (.aload_n 0, 1) := dk_42 (dk_at dksX14_grains_0 5 rfl rfl)
theorem dX14_grains_6 : decode cX14_grains 6 = .ok (.getfield 41, 3) := dk_180 0 41 (dk_at dksX14_grains_0 6 rfl rfl)
theorem dX14_grains_9 : decode cX14_grains 9 = .ok (.istore_n 1, 1) := dk_60 (dk_at dksX14_grains_0 9 rfl rfl)
theorem dX14_grains_10 : decode cX14_grains 10 = .ok (.iconst 0, 1) := dk_3 (dk_at dksX14_grains_0 10 rfl rfl)
theorem dX14_grains_11 : decode cX14_grains 11 = .ok (.istore_n 2, 1) := dk_61 (dk_at dksX14_grains_0 11 rfl rfl)
theorem dX14_grains_12 : decode cX14_grains 12 = .ok (.iconst 1, 1) := dk_4 (dk_at dksX14_grains_0 12 rfl rfl)
theorem dX14_grains_13 : decode cX14_grains 13 = .ok (.istore_n 3, 1) := dk_62 (dk_at dksX14_grains_0 13 rfl rfl)
theorem dX14_grains_14 : decode cX14_grains 14 = .ok (.iload_n 3, 1) := dk_29 (dk_at dksX14_grains_0 14 rfl rfl)
theorem dX14_grains_15 : decode cX14_grains 15 = .ok (.bipush 9, 2) := dk_16 9 (dk_at dksX14_grains_0 15 rfl rfl)
theorem dX14_grains_17 : decode cX14_grains 17 = .ok (.if_icmp .gt 72, 3) := dk_163 0 72 (dk_at dksX14_grains_0 17 rfl rfl)
theorem dX14_grains_20 : decode cX14_grains 20 = .ok (.aload_n 0, 1) := dk_42 (dk_at dksX14_grains_0 20 rfl rfl)
theorem dX14_grains_21 : decode cX14_grains 21 = .ok (.iload_n 3, 1) := dk_29 (dk_at dksX14_grains_0 21 rfl rfl)
theorem dX14_grains_22 : decode cX14_grains 22 = .ok (.putfield 41, 3) := dk_181 0 41 (dk_at dksX14_grains_1 0 rfl rfl)
theorem dX14_grains_25 : decode cX14_grains 25 = .ok (.iconst 1, 1) := dk_4 (dk_at dksX14_grains_1 3 rfl rfl)
theorem dX14_grains_26 : decode cX14_grains 26 = .ok (.istore 4, 2) := dk_54 4 (dk_at dksX14_grains_1 4 rfl rfl)
theorem dX14_grains_28 : decode cX14_grains 28 = .ok (.iconst 0, 1) := dk_3 (dk_at dksX14_grains_1 6 rfl rfl)
theorem dX14_grains_29 : decode cX14_grains 29 = .ok (.istore 5, 2) := dk_54 5 (dk_at dksX14_grains_1 7 rfl rfl)
theorem dX14_grains_31 : decode cX14_grains 31 = .ok (.iload 5, 2) := dk_21 5 (dk_at dksX14_grains_1 9 rfl rfl)
theorem dX14_grains_33 : decode cX14_grains 33 = .ok (.aload_n 0, 1) := dk_42 (dk_at dksX14_grains_1 11 rfl rfl)
theorem dX14_grains_34 : decode cX14_grains 34 = .ok (.getfield 117, 3) := dk_180 0 117 (dk_at dksX14_grains_1 12 rfl rfl)
theorem dX14_grains_37 : decode cX14_grains 37 = .ok (.if_icmp .ge 31, 3) := dk_162 0 31 (dk_at dksX14_grains_1 15 rfl rfl)
theorem dX14_grains_40 : decode cX14_grains 40 = .ok (.iload 4, 2) := dk_21 4 (dk_at dksX14_grains_1 18 rfl rfl)
theorem dX14_grains_42 : decode cX14_grains 42 = .ok (.ifCond .eq 17, 3) := dk_153 0 17 (dk_at dksX14_grains_1 20 rfl rfl)
theorem dX14_grains_45 : decode cX14_grains 45 = .ok (.aload_n 0, 1) := dk_42 (dk_at dksX14_grains_1 23 rfl rfl)
theorem dX14_grains_46 : decode cX14_grains 46 = .ok (.iload 5, 2) := dk_21 5 (dk_at dksX14_grains_2 0 rfl rfl)
theorem dX14_grains_48 : decode cX14_grains 48 = .ok (.iconst 0, 1) := dk_3 (dk_at dksX14_grains_2 2 rfl rfl)
theorem dX14_grains_49 : decode cX14_grains 49 = .ok (.invokevirtual 361, 3) := dk_182 1 105 (dk_at dksX14_grains_2 3 rfl rfl)
theorem dX14_grains_52 : decode cX14_grains 52 = .ok (.ifCond .le 7, 3) := dk_158 0 7 (dk_at dksX14_grains_2 6 rfl rfl)
theorem dX14_grains_55 : decode cX14_grains 55 = .ok (.iconst 1, 1) := dk_4 (dk_at dksX14_grains_2 9 rfl rfl)
theorem dX14_grains_56 : decode cX14_grains 56 = .ok (.goto 4, 3) := dk_167 0 4 (dk_at dksX14_grains_2 10 rfl rfl)
theorem dX14_grains_59 : decode cX14_grains 59 = .ok (.iconst 0, 1) := dk_3 (dk_at dksX14_grains_2 13 rfl rfl)
theorem dX14_grains_60 : decode cX14_grains 60 = .ok (.istore 4, 2) := dk_54 4 (dk_at dksX14_grains_2 14 rfl rfl)
theorem dX14_grains_62 : decode cX14_grains 62 = .ok (.iinc 5 1, 3) := dk_132 5 1 (dk_at dksX14_grains_2 16 rfl rfl)
theorem dX14_grains_65 : decode cX14_grains 65 = .ok (.goto (-34), 3) := dk_167 255 222 (dk_at dksX14_grains_2 19 rfl rfl)
theorem dX14_grains_68 : decode cX14_grains 68 = .ok (.iload_n 2, 1) := dk_28 (dk_at dksX14_grains_2 22 rfl rfl)
theorem dX14_grains_69 : decode cX14_grains 69 = .ok (.iload 4, 2) := dk_21 4 (dk_at dksX14_grains_3 0 rfl rfl)
theorem dX14_grains_71 : decode cX14_grains 71 = .ok (.ifCond .eq 9, 3) := dk_153 0 9 (dk_at dksX14_grains_3 2 rfl rfl)
theorem dX14_grains_74 : decode cX14_grains 74 = .ok (.iconst 1, 1) := dk_4 (dk_at dksX14_grains_3 5 rfl rfl)
theorem dX14_grains_75 : decode cX14_grains 75 = .ok (.iload_n 3, 1) := dk_29 (dk_at dksX14_grains_3 6 rfl rfl)
theorem dX14_grains_76 : decode cX14_grains 76 = .ok (.ishl, 1) := dk_120 (dk_at dksX14_grains_3 7 rfl rfl)
theorem dX14_grains_77 : decode cX14_grains 77 = .ok (.goto 4, 3) := dk_167 0 4 (dk_at dksX14_grains_3 8 rfl rfl)
theorem dX14_grains_80 : decode cX14_grains 80 = .ok (.iconst 0, 1) := dk_3 (dk_at dksX14_grains_3 11 rfl rfl)
theorem dX14_grains_81 : decode cX14_grains 81 = .ok (.ior, 1) := dk_128 (dk_at dksX14_grains_3 12 rfl rfl)
theorem dX14_grains_82 : decode cX14_grains 82 = .ok (.istore_n 2, 1) := dk_61 (dk_at dksX14_grains_3 13 rfl rfl)
theorem dX14_grains_83 : decode cX14_grains 83 = .ok (.iinc 3 1, 3) := dk_132 3 1 (dk_at dksX14_grains_3 14 rfl rfl)
theorem dX14_grains_86 : decode cX14_grains 86 = .ok (.goto (-72), 3) := dk_167 255 184 (dk_at dksX14_grains_3 17 rfl rfl)
theorem dX14_grains_89 : decode cX14_grains 89 = .ok (.aload_n 0, 1) := dk_42 (dk_at dksX14_grains_3 20 rfl rfl)
theorem dX14_grains_90 : decode cX14_grains 90 = .ok (.iload_n 1, 1) := dk_27 (dk_at dksX14_grains_3 21 rfl rfl)
theorem dX14_grains_91 : decode cX14_grains 91 = .ok (.putfield 41, 3) := dk_181 0 41 (dk_at dksX14_grains_4 0 rfl rfl)
theorem dX14_grains_94 : decode cX14_grains 94 = .ok (.iload_n 2, 1) := dk_28 (dk_at dksX14_grains_4 3 rfl rfl)
theorem dX14_grains_95 : decode cX14_grains 95 = .ok (.ireturn, 1) := dk_172 (dk_at dksX14_grains_4 4 rfl rfl)
def dkwX14_weightsOf_2 : List UInt8 := [132, 3, 1, 132, 6, 1, 167, 255, 215, 28, 153, 0, 12, 42, 29, 21, 4, 21, 5, 182, 1, 101, 29, 172]
abbrev dktX14_weightsOf_2 : List UInt8 := dkwX14_weightsOf_2 ++ []
def dkwX14_weightsOf_1 : List UInt8 := [182, 1, 98, 153, 0, 23, 29, 154, 0, 8, 21, 6, 167, 0, 5, 21, 4, 54, 4, 21, 6, 54, 5]
abbrev dktX14_weightsOf_1 : List UInt8 := dkwX14_weightsOf_1 ++ dktX14_weightsOf_2
def dkwX14_weightsOf_0 : List UInt8 := [3, 62, 3, 54, 4, 3, 54, 5, 4, 54, 6, 21, 6, 17, 3, 231, 163, 0, 39, 42, 27, 21, 6]
abbrev dktX14_weightsOf_0 : List UInt8 := dkwX14_weightsOf_0 ++ dktX14_weightsOf_1
theorem dksX14_weightsOf_0 : cX14_weightsOf.data.toList.drop 0 = dktX14_weightsOf_0 := by decide +kernel
theorem dksX14_weightsOf_1 : cX14_weightsOf.data.toList.drop 23 = dktX14_weightsOf_1 := dk_seg dksX14_weightsOf_0 23 rfl rfl
theorem dksX14_weightsOf_2 : cX14_weightsOf.data.toList.drop 46 = dktX14_weightsOf_2 := dk_seg dksX14_weightsOf_1 23 rfl rfl
theorem dX14_weightsOf_0 : decode cX14_weightsOf 0 = .ok (.iconst 0, 1) := dk_3 (dk_at dksX14_weightsOf_0 0 rfl rfl)
theorem dX14_weightsOf_1 : decode cX14_weightsOf 1 = .ok (.istore_n 3, 1) := dk_62 (dk_at dksX14_weightsOf_0 1 rfl rfl)
theorem dX14_weightsOf_2 : decode cX14_weightsOf 2 = .ok (.iconst 0, 1) := dk_3 (dk_at dksX14_weightsOf_0 2 rfl rfl)
theorem dX14_weightsOf_3 : decode cX14_weightsOf 3 = .ok (.istore 4, 2) := dk_54 4 (dk_at dksX14_weightsOf_0 3 rfl rfl)
theorem dX14_weightsOf_5 : decode cX14_weightsOf 5 = .ok (.iconst 0, 1) := dk_3 (dk_at dksX14_weightsOf_0 5 rfl rfl)
theorem dX14_weightsOf_6 : decode cX14_weightsOf 6 = .ok (.istore 5, 2) := dk_54 5 (dk_at dksX14_weightsOf_0 6 rfl rfl)
theorem dX14_weightsOf_8 : decode cX14_weightsOf 8 = .ok (.iconst 1, 1) := dk_4 (dk_at dksX14_weightsOf_0 8 rfl rfl)
theorem dX14_weightsOf_9 : decode cX14_weightsOf 9 = .ok (.istore 6, 2) := dk_54 6 (dk_at dksX14_weightsOf_0 9 rfl rfl)
theorem dX14_weightsOf_11 : decode cX14_weightsOf 11 = .ok (.iload 6, 2) := dk_21 6 (dk_at dksX14_weightsOf_0 11 rfl rfl)
theorem dX14_weightsOf_13 : decode cX14_weightsOf 13 = .ok (.sipush 999, 3) := dk_17 3 231 (dk_at dksX14_weightsOf_0 13 rfl rfl)
theorem dX14_weightsOf_16 : decode cX14_weightsOf 16 = .ok (.if_icmp .gt 39, 3) := dk_163 0 39 (dk_at dksX14_weightsOf_0 16 rfl rfl)
theorem dX14_weightsOf_19 : decode cX14_weightsOf 19 = .ok (.aload_n 0, 1) := dk_42 (dk_at dksX14_weightsOf_0 19 rfl rfl)
theorem dX14_weightsOf_20 : decode cX14_weightsOf 20 = .ok (.iload_n 1, 1) := dk_27 (dk_at dksX14_weightsOf_0 20 rfl rfl)
theorem dX14_weightsOf_21 : decode cX14_weightsOf 21 = .ok (.iload 6, 2) := dk_21 6 (dk_at dksX14_weightsOf_0 21 rfl rfl)
theorem dX14_weightsOf_23 : decode cX14_weightsOf 23 = .ok (.invokevirtual 354, 3) := dk_182 1 98 (dk_at dksX14_weightsOf_1 0 rfl rfl)
theorem dX14_weightsOf_26 : decode cX14_weightsOf 26 = .ok (.ifCond .eq 23, 3) := dk_153 0 23 (dk_at dksX14_weightsOf_1 3 rfl rfl)
theorem dX14_weightsOf_29 : decode cX14_weightsOf 29 = .ok (.iload_n 3, 1) := dk_29 (dk_at dksX14_weightsOf_1 6 rfl rfl)
theorem dX14_weightsOf_30 : decode cX14_weightsOf 30 = .ok (.ifCond .ne 8, 3) := dk_154 0 8 (dk_at dksX14_weightsOf_1 7 rfl rfl)
theorem dX14_weightsOf_33 : decode cX14_weightsOf 33 = .ok (.iload 6, 2) := dk_21 6 (dk_at dksX14_weightsOf_1 10 rfl rfl)
theorem dX14_weightsOf_35 : decode cX14_weightsOf 35 = .ok (.goto 5, 3) := dk_167 0 5 (dk_at dksX14_weightsOf_1 12 rfl rfl)
theorem dX14_weightsOf_38 : decode cX14_weightsOf 38 = .ok (.iload 4, 2) := dk_21 4 (dk_at dksX14_weightsOf_1 15 rfl rfl)
theorem dX14_weightsOf_40 : decode cX14_weightsOf 40 = .ok (.istore 4, 2) := dk_54 4 (dk_at dksX14_weightsOf_1 17 rfl rfl)
theorem dX14_weightsOf_42 : decode cX14_weightsOf 42 = .ok (.iload 6, 2) := dk_21 6 (dk_at dksX14_weightsOf_1 19 rfl rfl)
theorem dX14_weightsOf_44 : decode cX14_weightsOf 44 = .ok (.istore 5, 2) := dk_54 5 (dk_at dksX14_weightsOf_1 21 rfl rfl)
theorem dX14_weightsOf_46 : decode cX14_weightsOf 46 = .ok (.iinc 3 1, 3) := dk_132 3 1 (dk_at dksX14_weightsOf_2 0 rfl rfl)
theorem dX14_weightsOf_49 : decode cX14_weightsOf 49 = .ok (.iinc 6 1, 3) := dk_132 6 1 (dk_at dksX14_weightsOf_2 3 rfl rfl)
theorem dX14_weightsOf_52 : decode cX14_weightsOf 52 = .ok (.goto (-41), 3) := dk_167 255 215 (dk_at dksX14_weightsOf_2 6 rfl rfl)
theorem dX14_weightsOf_55 : decode cX14_weightsOf 55 = .ok (.iload_n 2, 1) := dk_28 (dk_at dksX14_weightsOf_2 9 rfl rfl)
theorem dX14_weightsOf_56 : decode cX14_weightsOf 56 = .ok (.ifCond .eq 12, 3) := dk_153 0 12 (dk_at dksX14_weightsOf_2 10 rfl rfl)
theorem dX14_weightsOf_59 : decode cX14_weightsOf 59 = .ok (.aload_n 0, 1) := dk_42 (dk_at dksX14_weightsOf_2 13 rfl rfl)
theorem dX14_weightsOf_60 : decode cX14_weightsOf 60 = .ok (.iload_n 3, 1) := dk_29 (dk_at dksX14_weightsOf_2 14 rfl rfl)
theorem dX14_weightsOf_61 : decode cX14_weightsOf 61 = .ok (.iload 4, 2) := dk_21 4 (dk_at dksX14_weightsOf_2 15 rfl rfl)
theorem dX14_weightsOf_63 : decode cX14_weightsOf 63 = .ok (.iload 5, 2) := dk_21 5 (dk_at dksX14_weightsOf_2 17 rfl rfl)
theorem dX14_weightsOf_65 : decode cX14_weightsOf 65 = .ok (.invokevirtual 357, 3) := dk_182 1 101 (dk_at dksX14_weightsOf_2 19 rfl rfl)
theorem dX14_weightsOf_68 : decode cX14_weightsOf 68 = .ok (.iload_n 3, 1) := dk_29 (dk_at dksX14_weightsOf_2 22 rfl rfl)
theorem dX14_weightsOf_69 : decode cX14_weightsOf 69 = .ok (.ireturn, 1) := dk_172 (dk_at dksX14_weightsOf_2 23 rfl rfl)
def dkwX14_canBe_2 : List UInt8 := [3, 62, 132, 4, 1, 167, 255, 208, 29, 172]
abbrev dktX14_canBe_2 : List UInt8 := dkwX14_canBe_2 ++ []
def dkwX14_canBe_1 : List UInt8 := [46, 27, 160, 0, 18, 42, 180, 0, 89, 21, 4, 46, 42, 28, 182, 1, 6, 160, 0, 7, 4, 167, 0, 4]
abbrev dktX14_canBe_1 : List UInt8 := dkwX14_canBe_1 ++ dktX14_canBe_2
def dkwX14_canBe_0 : List UInt8 := [4, 62, 3, 54, 4, 21, 4, 42, 180, 1, 95, 162, 0, 45, 29, 153, 0, 33, 42, 180, 0, 86, 21, 4]
abbrev dktX14_canBe_0 : List UInt8 := dkwX14_canBe_0 ++ dktX14_canBe_1
theorem dksX14_canBe_0 : cX14_canBe.data.toList.drop 0 = dktX14_canBe_0 := by decide +kernel
theorem dksX14_canBe_1 : cX14_canBe.data.toList.drop 24 = dktX14_canBe_1 := dk_seg dksX14_canBe_0 24 rfl rfl
theorem dksX14_canBe_2 : cX14_canBe.data.toList.drop 48 = dktX14_canBe_2 := dk_seg dksX14_canBe_1 24 rfl rfl
theorem dX14_canBe_0 : decode cX14_canBe 0 = .ok (.iconst 1, 1) := dk_4 (dk_at dksX14_canBe_0 0 rfl rfl)
theorem dX14_canBe_1 : decode cX14_canBe 1 = .ok (.istore_n 3, 1) := dk_62 (dk_at dksX14_canBe_0 1 rfl rfl)
theorem dX14_canBe_2 : decode cX14_canBe 2 = .ok (.iconst 0, 1) := dk_3 (dk_at dksX14_canBe_0 2 rfl rfl)
theorem dX14_canBe_3 : decode cX14_canBe 3 = .ok (.istore 4, 2) := dk_54 4 (dk_at dksX14_canBe_0 3 rfl rfl)
theorem dX14_canBe_5 : decode cX14_canBe 5 = .ok (.iload 4, 2) := dk_21 4 (dk_at dksX14_canBe_0 5 rfl rfl)
theorem dX14_canBe_7 : decode cX14_canBe 7 = .ok (.aload_n 0, 1) := dk_42 (dk_at dksX14_canBe_0 7 rfl rfl)
theorem dX14_canBe_8 : decode cX14_canBe 8 = .ok (.getfield 351, 3) := dk_180 1 95 (dk_at dksX14_canBe_0 8 rfl rfl)
theorem dX14_canBe_11 : decode cX14_canBe 11 = .ok (.if_icmp .ge 45, 3) := dk_162 0 45 (dk_at dksX14_canBe_0 11 rfl rfl)
theorem dX14_canBe_14 : decode cX14_canBe 14 = .ok (.iload_n 3, 1) := dk_29 (dk_at dksX14_canBe_0 14 rfl rfl)
theorem dX14_canBe_15 : decode cX14_canBe 15 = .ok (.ifCond .eq 33, 3) := dk_153 0 33 (dk_at dksX14_canBe_0 15 rfl rfl)
theorem dX14_canBe_18 : decode cX14_canBe 18 = .ok (.aload_n 0, 1) := dk_42 (dk_at dksX14_canBe_0 18 rfl rfl)
theorem dX14_canBe_19 : decode cX14_canBe 19 = .ok (.getfield 86, 3) := dk_180 0 86 (dk_at dksX14_canBe_0 19 rfl rfl)
theorem dX14_canBe_22 : decode cX14_canBe 22 = .ok (.iload 4, 2) := dk_21 4 (dk_at dksX14_canBe_0 22 rfl rfl)
theorem dX14_canBe_24 : decode cX14_canBe 24 = .ok (.iaload, 1) := dk_46 (dk_at dksX14_canBe_1 0 rfl rfl)
theorem dX14_canBe_25 : decode cX14_canBe 25 = .ok (.iload_n 1, 1) := dk_27 (dk_at dksX14_canBe_1 1 rfl rfl)
theorem dX14_canBe_26 : decode cX14_canBe 26 = .ok (.if_icmp .ne 18, 3) := dk_160 0 18 (dk_at dksX14_canBe_1 2 rfl rfl)
theorem dX14_canBe_29 : decode cX14_canBe 29 = .ok (.aload_n 0, 1) := dk_42 (dk_at dksX14_canBe_1 5 rfl rfl)
theorem dX14_canBe_30 : decode cX14_canBe 30 = .ok (.getfield 89, 3) := dk_180 0 89 (dk_at dksX14_canBe_1 6 rfl rfl)
theorem dX14_canBe_33 : decode cX14_canBe 33 = .ok (.iload 4, 2) := dk_21 4 (dk_at dksX14_canBe_1 9 rfl rfl)
theorem dX14_canBe_35 : decode cX14_canBe 35 = .ok (.iaload, 1) := dk_46 (dk_at dksX14_canBe_1 11 rfl rfl)
theorem dX14_canBe_36 : decode cX14_canBe 36 = .ok (.aload_n 0, 1) := dk_42 (dk_at dksX14_canBe_1 12 rfl rfl)
theorem dX14_canBe_37 : decode cX14_canBe 37 = .ok (.iload_n 2, 1) := dk_28 (dk_at dksX14_canBe_1 13 rfl rfl)
theorem dX14_canBe_38 : decode cX14_canBe 38 = .ok (.invokevirtual 262, 3) := dk_182 1 6 (dk_at dksX14_canBe_1 14 rfl rfl)
theorem dX14_canBe_41 : decode cX14_canBe 41 = .ok (.if_icmp .ne 7, 3) := dk_160 0 7 (dk_at dksX14_canBe_1 17 rfl rfl)
theorem dX14_canBe_44 : decode cX14_canBe 44 = .ok (.iconst 1, 1) := dk_4 (dk_at dksX14_canBe_1 20 rfl rfl)
theorem dX14_canBe_45 : decode cX14_canBe 45 = .ok (.goto 4, 3) := dk_167 0 4 (dk_at dksX14_canBe_1 21 rfl rfl)
theorem dX14_canBe_48 : decode cX14_canBe 48 = .ok (.iconst 0, 1) := dk_3 (dk_at dksX14_canBe_2 0 rfl rfl)
theorem dX14_canBe_49 : decode cX14_canBe 49 = .ok (.istore_n 3, 1) := dk_62 (dk_at dksX14_canBe_2 1 rfl rfl)
theorem dX14_canBe_50 : decode cX14_canBe 50 = .ok (.iinc 4 1, 3) := dk_132 4 1 (dk_at dksX14_canBe_2 2 rfl rfl)
theorem dX14_canBe_53 : decode cX14_canBe 53 = .ok (.goto (-48), 3) := dk_167 255 208 (dk_at dksX14_canBe_2 5 rfl rfl)
theorem dX14_canBe_56 : decode cX14_canBe 56 = .ok (.iload_n 3, 1) := dk_29 (dk_at dksX14_canBe_2 8 rfl rfl)
theorem dX14_canBe_57 : decode cX14_canBe 57 = .ok (.ireturn, 1) := dk_172 (dk_at dksX14_canBe_2 9 rfl rfl)
def dkwX14_tellsSpan_0 : List UInt8 := [42, 3, 181, 0, 15, 27, 158, 0, 15, 42, 28, 133, 182, 0, 18, 42, 29, 133, 182, 0, 18, 177]
abbrev dktX14_tellsSpan_0 : List UInt8 := dkwX14_tellsSpan_0 ++ []
theorem dksX14_tellsSpan_0 : cX14_tellsSpan.data.toList.drop 0 = dktX14_tellsSpan_0 := by decide +kernel
theorem dX14_tellsSpan_0 : decode cX14_tellsSpan 0 = .ok (.aload_n 0, 1) := dk_42 (dk_at dksX14_tellsSpan_0 0 rfl rfl)
theorem dX14_tellsSpan_1 : decode cX14_tellsSpan 1 = .ok (.iconst 0, 1) := dk_3 (dk_at dksX14_tellsSpan_0 1 rfl rfl)
theorem dX14_tellsSpan_2 : decode cX14_tellsSpan 2 = .ok (.putfield 15, 3) := dk_181 0 15 (dk_at dksX14_tellsSpan_0 2 rfl rfl)
theorem dX14_tellsSpan_5 : decode cX14_tellsSpan 5 = .ok (.iload_n 1, 1) := dk_27 (dk_at dksX14_tellsSpan_0 5 rfl rfl)
theorem dX14_tellsSpan_6 : decode cX14_tellsSpan 6 = .ok (.ifCond .le 15, 3) := dk_158 0 15 (dk_at dksX14_tellsSpan_0 6 rfl rfl)
theorem dX14_tellsSpan_9 : decode cX14_tellsSpan 9 = .ok (.aload_n 0, 1) := dk_42 (dk_at dksX14_tellsSpan_0 9 rfl rfl)
theorem dX14_tellsSpan_10 : decode cX14_tellsSpan 10 = .ok (.iload_n 2, 1) := dk_28 (dk_at dksX14_tellsSpan_0 10 rfl rfl)
theorem dX14_tellsSpan_11 : decode cX14_tellsSpan 11 = .ok (.i2l, 1) := dk_133 (dk_at dksX14_tellsSpan_0 11 rfl rfl)
theorem dX14_tellsSpan_12 : decode cX14_tellsSpan 12 = .ok (.invokevirtual 18, 3) := dk_182 0 18 (dk_at dksX14_tellsSpan_0 12 rfl rfl)
theorem dX14_tellsSpan_15 : decode cX14_tellsSpan 15 = .ok (.aload_n 0, 1) := dk_42 (dk_at dksX14_tellsSpan_0 15 rfl rfl)
theorem dX14_tellsSpan_16 : decode cX14_tellsSpan 16 = .ok (.iload_n 3, 1) := dk_29 (dk_at dksX14_tellsSpan_0 16 rfl rfl)
theorem dX14_tellsSpan_17 : decode cX14_tellsSpan 17 = .ok (.i2l, 1) := dk_133 (dk_at dksX14_tellsSpan_0 17 rfl rfl)
theorem dX14_tellsSpan_18 : decode cX14_tellsSpan 18 = .ok (.invokevirtual 18, 3) := dk_182 0 18 (dk_at dksX14_tellsSpan_0 18 rfl rfl)
theorem dX14_tellsSpan_21 : decode cX14_tellsSpan 21 = .ok (.return_, 1) := dk_177 (dk_at dksX14_tellsSpan_0 21 rfl rfl)
def dkwX14_span_0 : List UInt8 := [42, 3, 181, 0, 3, 42, 27, 182, 0, 124, 153, 0, 12, 42, 27, 4, 182, 1, 105, 167, 0, 4, 2, 172]
abbrev dktX14_span_0 : List UInt8 := dkwX14_span_0 ++ []
theorem dksX14_span_0 : cX14_span.data.toList.drop 0 = dktX14_span_0 := by decide +kernel
theorem dX14_span_0 : decode cX14_span 0 = .ok (.aload_n 0, 1) := dk_42 (dk_at dksX14_span_0 0 rfl rfl)
theorem dX14_span_1 : decode cX14_span 1 = .ok (.iconst 0, 1) := dk_3 (dk_at dksX14_span_0 1 rfl rfl)
theorem dX14_span_2 : decode cX14_span 2 = .ok (.putfield 3, 3) := dk_181 0 3 (dk_at dksX14_span_0 2 rfl rfl)
theorem dX14_span_5 : decode cX14_span 5 = .ok (.aload_n 0, 1) := dk_42 (dk_at dksX14_span_0 5 rfl rfl)
theorem dX14_span_6 : decode cX14_span 6 = .ok (.iload_n 1, 1) := dk_27 (dk_at dksX14_span_0 6 rfl rfl)
theorem dX14_span_7 : decode cX14_span 7 = .ok (.invokevirtual 124, 3) := dk_182 0 124 (dk_at dksX14_span_0 7 rfl rfl)
theorem dX14_span_10 : decode cX14_span 10 = .ok (.ifCond .eq 12, 3) := dk_153 0 12 (dk_at dksX14_span_0 10 rfl rfl)
theorem dX14_span_13 : decode cX14_span 13 = .ok (.aload_n 0, 1) := dk_42 (dk_at dksX14_span_0 13 rfl rfl)
theorem dX14_span_14 : decode cX14_span 14 = .ok (.iload_n 1, 1) := dk_27 (dk_at dksX14_span_0 14 rfl rfl)
theorem dX14_span_15 : decode cX14_span 15 = .ok (.iconst 1, 1) := dk_4 (dk_at dksX14_span_0 15 rfl rfl)
theorem dX14_span_16 : decode cX14_span 16 = .ok (.invokevirtual 361, 3) := dk_182 1 105 (dk_at dksX14_span_0 16 rfl rfl)
theorem dX14_span_19 : decode cX14_span 19 = .ok (.goto 4, 3) := dk_167 0 4 (dk_at dksX14_span_0 19 rfl rfl)
theorem dX14_span_22 : decode cX14_span 22 = .ok (.iconst (-1), 1) := dk_2 (dk_at dksX14_span_0 22 rfl rfl)
theorem dX14_span_23 : decode cX14_span 23 = .ok (.ireturn, 1) := dk_172 (dk_at dksX14_span_0 23 rfl rfl)
def dkwX14_offs_3 : List UInt8 := [167, 255, 208, 42, 27, 181, 0, 251, 42, 28, 29, 21, 4, 182, 1, 101, 28, 172]
abbrev dktX14_offs_3 : List UInt8 := dkwX14_offs_3 ++ []
def dkwX14_offs_2 : List UInt8 := [167, 0, 4, 29, 62, 42, 180, 0, 251, 54, 4, 132, 2, 1, 42, 89, 180, 0, 251, 4, 96, 181, 0, 251]
abbrev dktX14_offs_2 : List UInt8 := dkwX14_offs_2 ++ dktX14_offs_3
def dkwX14_offs_1 : List UInt8 := [180, 0, 251, 16, 9, 163, 0, 45, 42, 182, 1, 109, 154, 0, 25, 28, 154, 0, 10, 42, 180, 0, 251]
abbrev dktX14_offs_1 : List UInt8 := dkwX14_offs_1 ++ dktX14_offs_2
def dkwX14_offs_0 : List UInt8 := [42, 3, 181, 0, 3, 42, 180, 0, 251, 60, 3, 61, 3, 62, 3, 54, 4, 42, 16, 247, 181, 0, 251, 42]
abbrev dktX14_offs_0 : List UInt8 := dkwX14_offs_0 ++ dktX14_offs_1
theorem dksX14_offs_0 : cX14_offs.data.toList.drop 0 = dktX14_offs_0 := by decide +kernel
theorem dksX14_offs_1 : cX14_offs.data.toList.drop 24 = dktX14_offs_1 := dk_seg dksX14_offs_0 24 rfl rfl
theorem dksX14_offs_2 : cX14_offs.data.toList.drop 47 = dktX14_offs_2 := dk_seg dksX14_offs_1 23 rfl rfl
theorem dksX14_offs_3 : cX14_offs.data.toList.drop 71 = dktX14_offs_3 := dk_seg dksX14_offs_2 24 rfl rfl
theorem dX14_offs_0 : decode cX14_offs 0 = .ok (.aload_n 0, 1) := dk_42 (dk_at dksX14_offs_0 0 rfl rfl)
theorem dX14_offs_1 : decode cX14_offs 1 = .ok (.iconst 0, 1) := dk_3 (dk_at dksX14_offs_0 1 rfl rfl)
theorem dX14_offs_2 : decode cX14_offs 2 = .ok (.putfield 3, 3) := dk_181 0 3 (dk_at dksX14_offs_0 2 rfl rfl)
theorem dX14_offs_5 : decode cX14_offs 5 = .ok (.aload_n 0, 1) := dk_42 (dk_at dksX14_offs_0 5 rfl rfl)
theorem dX14_offs_6 : decode cX14_offs 6 = .ok (.getfield 251, 3) := dk_180 0 251 (dk_at dksX14_offs_0 6 rfl rfl)
theorem dX14_offs_9 : decode cX14_offs 9 = .ok (.istore_n 1, 1) := dk_60 (dk_at dksX14_offs_0 9 rfl rfl)
theorem dX14_offs_10 : decode cX14_offs 10 = .ok (.iconst 0, 1) := dk_3 (dk_at dksX14_offs_0 10 rfl rfl)
theorem dX14_offs_11 : decode cX14_offs 11 = .ok (.istore_n 2, 1) := dk_61 (dk_at dksX14_offs_0 11 rfl rfl)
theorem dX14_offs_12 : decode cX14_offs 12 = .ok (.iconst 0, 1) := dk_3 (dk_at dksX14_offs_0 12 rfl rfl)
theorem dX14_offs_13 : decode cX14_offs 13 = .ok (.istore_n 3, 1) := dk_62 (dk_at dksX14_offs_0 13 rfl rfl)
theorem dX14_offs_14 : decode cX14_offs 14 = .ok (.iconst 0, 1) := dk_3 (dk_at dksX14_offs_0 14 rfl rfl)
theorem dX14_offs_15 : decode cX14_offs 15 = .ok (.istore 4, 2) := dk_54 4 (dk_at dksX14_offs_0 15 rfl rfl)
theorem dX14_offs_17 : decode cX14_offs 17 = .ok (.aload_n 0, 1) := dk_42 (dk_at dksX14_offs_0 17 rfl rfl)
theorem dX14_offs_18 : decode cX14_offs 18 = .ok (.bipush (-9), 2) := dk_16 247 (dk_at dksX14_offs_0 18 rfl rfl)
theorem dX14_offs_20 : decode cX14_offs 20 = .ok (.putfield 251, 3) := dk_181 0 251 (dk_at dksX14_offs_0 20 rfl rfl)
theorem dX14_offs_23 : decode cX14_offs 23 = .ok (.aload_n 0, 1) := dk_42 (dk_at dksX14_offs_0 23 rfl rfl)
theorem dX14_offs_24 : decode cX14_offs 24 = .ok (.getfield 251, 3) := dk_180 0 251 (dk_at dksX14_offs_1 0 rfl rfl)
theorem dX14_offs_27 : decode cX14_offs 27 = .ok (.bipush 9, 2) := dk_16 9 (dk_at dksX14_offs_1 3 rfl rfl)
theorem dX14_offs_29 : decode cX14_offs 29 = .ok (.if_icmp .gt 45, 3) := dk_163 0 45 (dk_at dksX14_offs_1 5 rfl rfl)
theorem dX14_offs_32 : decode cX14_offs 32 = .ok (.aload_n 0, 1) := dk_42 (dk_at dksX14_offs_1 8 rfl rfl)
theorem dX14_offs_33 : decode cX14_offs 33 = .ok (.invokevirtual 365, 3) := dk_182 1 109 (dk_at dksX14_offs_1 9 rfl rfl)
theorem dX14_offs_36 : decode cX14_offs 36 = .ok (.ifCond .ne 25, 3) := dk_154 0 25 (dk_at dksX14_offs_1 12 rfl rfl)
theorem dX14_offs_39 : decode cX14_offs 39 = .ok (.iload_n 2, 1) := dk_28 (dk_at dksX14_offs_1 15 rfl rfl)
theorem dX14_offs_40 : decode cX14_offs 40 = .ok (.ifCond .ne 10, 3) := dk_154 0 10 (dk_at dksX14_offs_1 16 rfl rfl)
theorem dX14_offs_43 : decode cX14_offs 43 = .ok (.aload_n 0, 1) := dk_42 (dk_at dksX14_offs_1 19 rfl rfl)
theorem dX14_offs_44 : decode cX14_offs 44 = .ok (.getfield 251, 3) := dk_180 0 251 (dk_at dksX14_offs_1 20 rfl rfl)
theorem dX14_offs_47 : decode cX14_offs 47 = .ok (.goto 4, 3) := dk_167 0 4 (dk_at dksX14_offs_2 0 rfl rfl)
theorem dX14_offs_50 : decode cX14_offs 50 = .ok (.iload_n 3, 1) := dk_29 (dk_at dksX14_offs_2 3 rfl rfl)
theorem dX14_offs_51 : decode cX14_offs 51 = .ok (.istore_n 3, 1) := dk_62 (dk_at dksX14_offs_2 4 rfl rfl)
theorem dX14_offs_52 : decode cX14_offs 52 = .ok (.aload_n 0, 1) := dk_42 (dk_at dksX14_offs_2 5 rfl rfl)
theorem dX14_offs_53 : decode cX14_offs 53 = .ok (.getfield 251, 3) := dk_180 0 251 (dk_at dksX14_offs_2 6 rfl rfl)
theorem dX14_offs_56 : decode cX14_offs 56 = .ok (.istore 4, 2) := dk_54 4 (dk_at dksX14_offs_2 9 rfl rfl)
theorem dX14_offs_58 : decode cX14_offs 58 = .ok (.iinc 2 1, 3) := dk_132 2 1 (dk_at dksX14_offs_2 11 rfl rfl)
theorem dX14_offs_61 : decode cX14_offs 61 = .ok (.aload_n 0, 1) := dk_42 (dk_at dksX14_offs_2 14 rfl rfl)
theorem dX14_offs_62 : decode cX14_offs 62 = .ok (.dup, 1) := dk_89 (dk_at dksX14_offs_2 15 rfl rfl)
theorem dX14_offs_63 : decode cX14_offs 63 = .ok (.getfield 251, 3) := dk_180 0 251 (dk_at dksX14_offs_2 16 rfl rfl)
theorem dX14_offs_66 : decode cX14_offs 66 = .ok (.iconst 1, 1) := dk_4 (dk_at dksX14_offs_2 19 rfl rfl)
theorem dX14_offs_67 : decode cX14_offs 67 = .ok (.iadd, 1) := dk_96 (dk_at dksX14_offs_2 20 rfl rfl)
theorem dX14_offs_68 : decode cX14_offs 68 = .ok (.putfield 251, 3) := dk_181 0 251 (dk_at dksX14_offs_2 21 rfl rfl)
theorem dX14_offs_71 : decode cX14_offs 71 = .ok (.goto (-48), 3) := dk_167 255 208 (dk_at dksX14_offs_3 0 rfl rfl)
theorem dX14_offs_74 : decode cX14_offs 74 = .ok (.aload_n 0, 1) := dk_42 (dk_at dksX14_offs_3 3 rfl rfl)
theorem dX14_offs_75 : decode cX14_offs 75 = .ok (.iload_n 1, 1) := dk_27 (dk_at dksX14_offs_3 4 rfl rfl)
theorem dX14_offs_76 : decode cX14_offs 76 = .ok (.putfield 251, 3) := dk_181 0 251 (dk_at dksX14_offs_3 5 rfl rfl)
theorem dX14_offs_79 : decode cX14_offs 79 = .ok (.aload_n 0, 1) := dk_42 (dk_at dksX14_offs_3 8 rfl rfl)
theorem dX14_offs_80 : decode cX14_offs 80 = .ok (.iload_n 2, 1) := dk_28 (dk_at dksX14_offs_3 9 rfl rfl)
theorem dX14_offs_81 : decode cX14_offs 81 = .ok (.iload_n 3, 1) := dk_29 (dk_at dksX14_offs_3 10 rfl rfl)
theorem dX14_offs_82 : decode cX14_offs 82 = .ok (.iload 4, 2) := dk_21 4 (dk_at dksX14_offs_3 11 rfl rfl)
theorem dX14_offs_84 : decode cX14_offs 84 = .ok (.invokevirtual 357, 3) := dk_182 1 101 (dk_at dksX14_offs_3 13 rfl rfl)
theorem dX14_offs_87 : decode cX14_offs 87 = .ok (.iload_n 2, 1) := dk_28 (dk_at dksX14_offs_3 16 rfl rfl)
theorem dX14_offs_88 : decode cX14_offs 88 = .ok (.ireturn, 1) := dk_172 (dk_at dksX14_offs_3 17 rfl rfl)
def dkwX14_wrong_1 : List UInt8 := [153, 0, 7, 3, 167, 0, 6, 4, 28, 120, 128, 60, 132, 2, 1, 167, 255, 221, 27, 172]
abbrev dktX14_wrong_1 : List UInt8 := dkwX14_wrong_1 ++ []
def dkwX14_wrong_0 : List UInt8 := [3, 60, 3, 61, 28, 42, 180, 0, 117, 162, 0, 33, 27, 42, 28, 42, 180, 0, 44, 28, 46, 182, 1, 98]
abbrev dktX14_wrong_0 : List UInt8 := dkwX14_wrong_0 ++ dktX14_wrong_1
theorem dksX14_wrong_0 : cX14_wrong.data.toList.drop 0 = dktX14_wrong_0 := by decide +kernel
theorem dksX14_wrong_1 : cX14_wrong.data.toList.drop 24 = dktX14_wrong_1 := dk_seg dksX14_wrong_0 24 rfl rfl
theorem dX14_wrong_0 : decode cX14_wrong 0 = .ok (.iconst 0, 1) := dk_3 (dk_at dksX14_wrong_0 0 rfl rfl)
theorem dX14_wrong_1 : decode cX14_wrong 1 = .ok (.istore_n 1, 1) := dk_60 (dk_at dksX14_wrong_0 1 rfl rfl)
theorem dX14_wrong_2 : decode cX14_wrong 2 = .ok (.iconst 0, 1) := dk_3 (dk_at dksX14_wrong_0 2 rfl rfl)
theorem dX14_wrong_3 : decode cX14_wrong 3 = .ok (.istore_n 2, 1) := dk_61 (dk_at dksX14_wrong_0 3 rfl rfl)
theorem dX14_wrong_4 : decode cX14_wrong 4 = .ok (.iload_n 2, 1) := dk_28 (dk_at dksX14_wrong_0 4 rfl rfl)
theorem dX14_wrong_5 : decode cX14_wrong 5 = .ok (.aload_n 0, 1) := dk_42 (dk_at dksX14_wrong_0 5 rfl rfl)
theorem dX14_wrong_6 : decode cX14_wrong 6 = .ok (.getfield 117, 3) := dk_180 0 117 (dk_at dksX14_wrong_0 6 rfl rfl)
theorem dX14_wrong_9 : decode cX14_wrong 9 = .ok (.if_icmp .ge 33, 3) := dk_162 0 33 (dk_at dksX14_wrong_0 9 rfl rfl)
theorem dX14_wrong_12 : decode cX14_wrong 12 = .ok (.iload_n 1, 1) := dk_27 (dk_at dksX14_wrong_0 12 rfl rfl)
theorem dX14_wrong_13 : decode cX14_wrong 13 = .ok (.aload_n 0, 1) := dk_42 (dk_at dksX14_wrong_0 13 rfl rfl)
theorem dX14_wrong_14 : decode cX14_wrong 14 = .ok (.iload_n 2, 1) := dk_28 (dk_at dksX14_wrong_0 14 rfl rfl)
theorem dX14_wrong_15 : decode cX14_wrong 15 = .ok (.aload_n 0, 1) := dk_42 (dk_at dksX14_wrong_0 15 rfl rfl)
theorem dX14_wrong_16 : decode cX14_wrong 16 = .ok (.getfield 44, 3) := dk_180 0 44 (dk_at dksX14_wrong_0 16 rfl rfl)
theorem dX14_wrong_19 : decode cX14_wrong 19 = .ok (.iload_n 2, 1) := dk_28 (dk_at dksX14_wrong_0 19 rfl rfl)
theorem dX14_wrong_20 : decode cX14_wrong 20 = .ok (.iaload, 1) := dk_46 (dk_at dksX14_wrong_0 20 rfl rfl)
theorem dX14_wrong_21 : decode cX14_wrong 21 = .ok (.invokevirtual 354, 3) := dk_182 1 98 (dk_at dksX14_wrong_0 21 rfl rfl)
theorem dX14_wrong_24 : decode cX14_wrong 24 = .ok (.ifCond .eq 7, 3) := dk_153 0 7 (dk_at dksX14_wrong_1 0 rfl rfl)
theorem dX14_wrong_27 : decode cX14_wrong 27 = .ok (.iconst 0, 1) := dk_3 (dk_at dksX14_wrong_1 3 rfl rfl)
theorem dX14_wrong_28 : decode cX14_wrong 28 = .ok (.goto 6, 3) := dk_167 0 6 (dk_at dksX14_wrong_1 4 rfl rfl)
theorem dX14_wrong_31 : decode cX14_wrong 31 = .ok (.iconst 1, 1) := dk_4 (dk_at dksX14_wrong_1 7 rfl rfl)
theorem dX14_wrong_32 : decode cX14_wrong 32 = .ok (.iload_n 2, 1) := dk_28 (dk_at dksX14_wrong_1 8 rfl rfl)
theorem dX14_wrong_33 : decode cX14_wrong 33 = .ok (.ishl, 1) := dk_120 (dk_at dksX14_wrong_1 9 rfl rfl)
theorem dX14_wrong_34 : decode cX14_wrong 34 = .ok (.ior, 1) := dk_128 (dk_at dksX14_wrong_1 10 rfl rfl)
theorem dX14_wrong_35 : decode cX14_wrong 35 = .ok (.istore_n 1, 1) := dk_60 (dk_at dksX14_wrong_1 11 rfl rfl)
theorem dX14_wrong_36 : decode cX14_wrong 36 = .ok (.iinc 2 1, 3) := dk_132 2 1 (dk_at dksX14_wrong_1 12 rfl rfl)
theorem dX14_wrong_39 : decode cX14_wrong 39 = .ok (.goto (-35), 3) := dk_167 255 221 (dk_at dksX14_wrong_1 15 rfl rfl)
theorem dX14_wrong_42 : decode cX14_wrong 42 = .ok (.iload_n 1, 1) := dk_27 (dk_at dksX14_wrong_1 18 rfl rfl)
theorem dX14_wrong_43 : decode cX14_wrong 43 = .ok (.ireturn, 1) := dk_172 (dk_at dksX14_wrong_1 19 rfl rfl)
def dkwX14_cheats_4 : List UInt8 := [21, 4, 133, 182, 0, 18, 28, 172]
abbrev dktX14_cheats_4 : List UInt8 := dkwX14_cheats_4 ++ []
def dkwX14_cheats_3 : List UInt8 := [181, 0, 251, 167, 255, 207, 42, 27, 181, 0, 251, 42, 3, 181, 0, 15, 42, 29, 133, 182, 0, 18, 42]
abbrev dktX14_cheats_3 : List UInt8 := dkwX14_cheats_3 ++ dktX14_cheats_4
def dkwX14_cheats_2 : List UInt8 := [21, 5, 184, 1, 67, 61, 21, 5, 62, 42, 180, 0, 251, 54, 4, 42, 89, 180, 0, 251, 4, 96]
abbrev dktX14_cheats_2 : List UInt8 := dkwX14_cheats_2 ++ dktX14_cheats_3
def dkwX14_cheats_1 : List UInt8 := [42, 180, 0, 251, 16, 9, 163, 0, 46, 42, 182, 1, 109, 54, 5, 21, 5, 184, 1, 67, 28, 162, 0, 18]
abbrev dktX14_cheats_1 : List UInt8 := dkwX14_cheats_1 ++ dktX14_cheats_2
def dkwX14_cheats_0 : List UInt8 := [42, 3, 181, 0, 3, 42, 180, 0, 251, 60, 16, 9, 61, 3, 62, 3, 54, 4, 42, 16, 247, 181, 0, 251]
abbrev dktX14_cheats_0 : List UInt8 := dkwX14_cheats_0 ++ dktX14_cheats_1
theorem dksX14_cheats_0 : cX14_cheats.data.toList.drop 0 = dktX14_cheats_0 := by decide +kernel
theorem dksX14_cheats_1 : cX14_cheats.data.toList.drop 24 = dktX14_cheats_1 := dk_seg dksX14_cheats_0 24 rfl rfl
theorem dksX14_cheats_2 : cX14_cheats.data.toList.drop 48 = dktX14_cheats_2 := dk_seg dksX14_cheats_1 24 rfl rfl
theorem dksX14_cheats_3 : cX14_cheats.data.toList.drop 70 = dktX14_cheats_3 := dk_seg dksX14_cheats_2 22 rfl rfl
theorem dksX14_cheats_4 : cX14_cheats.data.toList.drop 93 = dktX14_cheats_4 := dk_seg dksX14_cheats_3 23 rfl rfl
theorem dX14_cheats_0 : decode cX14_cheats 0 = .ok (.aload_n 0, 1) := dk_42 (dk_at dksX14_cheats_0 0 rfl rfl)
theorem dX14_cheats_1 : decode cX14_cheats 1 = .ok (.iconst 0, 1) := dk_3 (dk_at dksX14_cheats_0 1 rfl rfl)
theorem dX14_cheats_2 : decode cX14_cheats 2 = .ok (.putfield 3, 3) := dk_181 0 3 (dk_at dksX14_cheats_0 2 rfl rfl)
theorem dX14_cheats_5 : decode cX14_cheats 5 = .ok (.aload_n 0, 1) := dk_42 (dk_at dksX14_cheats_0 5 rfl rfl)
theorem dX14_cheats_6 : decode cX14_cheats 6 = .ok (.getfield 251, 3) := dk_180 0 251 (dk_at dksX14_cheats_0 6 rfl rfl)
theorem dX14_cheats_9 : decode cX14_cheats 9 = .ok (.istore_n 1, 1) := dk_60 (dk_at dksX14_cheats_0 9 rfl rfl)
theorem dX14_cheats_10 : decode cX14_cheats 10 = .ok (.bipush 9, 2) := dk_16 9 (dk_at dksX14_cheats_0 10 rfl rfl)
theorem dX14_cheats_12 : decode cX14_cheats 12 = .ok (.istore_n 2, 1) := dk_61 (dk_at dksX14_cheats_0 12 rfl rfl)
theorem dX14_cheats_13 : decode cX14_cheats 13 = .ok (.iconst 0, 1) := dk_3 (dk_at dksX14_cheats_0 13 rfl rfl)
theorem dX14_cheats_14 : decode cX14_cheats 14 = .ok (.istore_n 3, 1) := dk_62 (dk_at dksX14_cheats_0 14 rfl rfl)
theorem dX14_cheats_15 : decode cX14_cheats 15 = .ok (.iconst 0, 1) := dk_3 (dk_at dksX14_cheats_0 15 rfl rfl)
theorem dX14_cheats_16 : decode cX14_cheats 16 = .ok (.istore 4, 2) := dk_54 4 (dk_at dksX14_cheats_0 16 rfl rfl)
theorem dX14_cheats_18 : decode cX14_cheats 18 = .ok (.aload_n 0, 1) := dk_42 (dk_at dksX14_cheats_0 18 rfl rfl)
theorem dX14_cheats_19 : decode cX14_cheats 19 = .ok (.bipush (-9), 2) := dk_16 247 (dk_at dksX14_cheats_0 19 rfl rfl)
theorem dX14_cheats_21 : decode cX14_cheats 21 = .ok (.putfield 251, 3) := dk_181 0 251 (dk_at dksX14_cheats_0 21 rfl rfl)
theorem dX14_cheats_24 : decode cX14_cheats 24 = .ok (.aload_n 0, 1) := dk_42 (dk_at dksX14_cheats_1 0 rfl rfl)
theorem dX14_cheats_25 : decode cX14_cheats 25 = .ok (.getfield 251, 3) := dk_180 0 251 (dk_at dksX14_cheats_1 1 rfl rfl)
theorem dX14_cheats_28 : decode cX14_cheats 28 = .ok (.bipush 9, 2) := dk_16 9 (dk_at dksX14_cheats_1 4 rfl rfl)
theorem dX14_cheats_30 : decode cX14_cheats 30 = .ok (.if_icmp .gt 46, 3) := dk_163 0 46 (dk_at dksX14_cheats_1 6 rfl rfl)
theorem dX14_cheats_33 : decode cX14_cheats 33 = .ok (.aload_n 0, 1) := dk_42 (dk_at dksX14_cheats_1 9 rfl rfl)
theorem dX14_cheats_34 : decode cX14_cheats 34 = .ok (.invokevirtual 365, 3) := dk_182 1 109 (dk_at dksX14_cheats_1 10 rfl rfl)
theorem dX14_cheats_37 : decode cX14_cheats 37 = .ok (.istore 5, 2) := dk_54 5 (dk_at dksX14_cheats_1 13 rfl rfl)
theorem dX14_cheats_39 : decode cX14_cheats 39 = .ok (.iload 5, 2) := dk_21 5 (dk_at dksX14_cheats_1 15 rfl rfl)
theorem dX14_cheats_41 : decode cX14_cheats 41 = .ok (.invokestatic 323, 3) := dk_184 1 67 (dk_at dksX14_cheats_1 17 rfl rfl)
theorem dX14_cheats_44 : decode cX14_cheats 44 = .ok (.iload_n 2, 1) := dk_28 (dk_at dksX14_cheats_1 20 rfl rfl)
theorem dX14_cheats_45 : decode cX14_cheats 45 = .ok (.if_icmp .ge 18, 3) := dk_162 0 18 (dk_at dksX14_cheats_1 21 rfl rfl)
theorem dX14_cheats_48 : decode cX14_cheats 48 = .ok (.iload 5, 2) := dk_21 5 (dk_at dksX14_cheats_2 0 rfl rfl)
theorem dX14_cheats_50 : decode cX14_cheats 50 = .ok (.invokestatic 323, 3) := dk_184 1 67 (dk_at dksX14_cheats_2 2 rfl rfl)
theorem dX14_cheats_53 : decode cX14_cheats 53 = .ok (.istore_n 2, 1) := dk_61 (dk_at dksX14_cheats_2 5 rfl rfl)
theorem dX14_cheats_54 : decode cX14_cheats 54 = .ok (.iload 5, 2) := dk_21 5 (dk_at dksX14_cheats_2 6 rfl rfl)
theorem dX14_cheats_56 : decode cX14_cheats 56 = .ok (.istore_n 3, 1) := dk_62 (dk_at dksX14_cheats_2 8 rfl rfl)
theorem dX14_cheats_57 : decode cX14_cheats 57 = .ok (.aload_n 0, 1) := dk_42 (dk_at dksX14_cheats_2 9 rfl rfl)
theorem dX14_cheats_58 : decode cX14_cheats 58 = .ok (.getfield 251, 3) := dk_180 0 251 (dk_at dksX14_cheats_2 10 rfl rfl)
theorem dX14_cheats_61 : decode cX14_cheats 61 = .ok (.istore 4, 2) := dk_54 4 (dk_at dksX14_cheats_2 13 rfl rfl)
theorem dX14_cheats_63 : decode cX14_cheats 63 = .ok (.aload_n 0, 1) := dk_42 (dk_at dksX14_cheats_2 15 rfl rfl)
theorem dX14_cheats_64 : decode cX14_cheats 64 = .ok (.dup, 1) := dk_89 (dk_at dksX14_cheats_2 16 rfl rfl)
theorem dX14_cheats_65 : decode cX14_cheats 65 = .ok (.getfield 251, 3) := dk_180 0 251 (dk_at dksX14_cheats_2 17 rfl rfl)
theorem dX14_cheats_68 : decode cX14_cheats 68 = .ok (.iconst 1, 1) := dk_4 (dk_at dksX14_cheats_2 20 rfl rfl)
theorem dX14_cheats_69 : decode cX14_cheats 69 = .ok (.iadd, 1) := dk_96 (dk_at dksX14_cheats_2 21 rfl rfl)
theorem dX14_cheats_70 : decode cX14_cheats 70 = .ok (.putfield 251, 3) := dk_181 0 251 (dk_at dksX14_cheats_3 0 rfl rfl)
theorem dX14_cheats_73 : decode cX14_cheats 73 = .ok (.goto (-49), 3) := dk_167 255 207 (dk_at dksX14_cheats_3 3 rfl rfl)
theorem dX14_cheats_76 : decode cX14_cheats 76 = .ok (.aload_n 0, 1) := dk_42 (dk_at dksX14_cheats_3 6 rfl rfl)
theorem dX14_cheats_77 : decode cX14_cheats 77 = .ok (.iload_n 1, 1) := dk_27 (dk_at dksX14_cheats_3 7 rfl rfl)
theorem dX14_cheats_78 : decode cX14_cheats 78 = .ok (.putfield 251, 3) := dk_181 0 251 (dk_at dksX14_cheats_3 8 rfl rfl)
theorem dX14_cheats_81 : decode cX14_cheats 81 = .ok (.aload_n 0, 1) := dk_42 (dk_at dksX14_cheats_3 11 rfl rfl)
theorem dX14_cheats_82 : decode cX14_cheats 82 = .ok (.iconst 0, 1) := dk_3 (dk_at dksX14_cheats_3 12 rfl rfl)
theorem dX14_cheats_83 : decode cX14_cheats 83 = .ok (.putfield 15, 3) := dk_181 0 15 (dk_at dksX14_cheats_3 13 rfl rfl)
theorem dX14_cheats_86 : decode cX14_cheats 86 = .ok (.aload_n 0, 1) := dk_42 (dk_at dksX14_cheats_3 16 rfl rfl)
theorem dX14_cheats_87 : decode cX14_cheats 87 = .ok (.iload_n 3, 1) := dk_29 (dk_at dksX14_cheats_3 17 rfl rfl)
theorem dX14_cheats_88 : decode cX14_cheats 88 = .ok (.i2l, 1) := dk_133 (dk_at dksX14_cheats_3 18 rfl rfl)
theorem dX14_cheats_89 : decode cX14_cheats 89 = .ok (.invokevirtual 18, 3) := dk_182 0 18 (dk_at dksX14_cheats_3 19 rfl rfl)
theorem dX14_cheats_92 : decode cX14_cheats 92 = .ok (.aload_n 0, 1) := dk_42 (dk_at dksX14_cheats_3 22 rfl rfl)
theorem dX14_cheats_93 : decode cX14_cheats 93 = .ok (.iload 4, 2) := dk_21 4 (dk_at dksX14_cheats_4 0 rfl rfl)
theorem dX14_cheats_95 : decode cX14_cheats 95 = .ok (.i2l, 1) := dk_133 (dk_at dksX14_cheats_4 2 rfl rfl)
theorem dX14_cheats_96 : decode cX14_cheats 96 = .ok (.invokevirtual 18, 3) := dk_182 0 18 (dk_at dksX14_cheats_4 3 rfl rfl)
theorem dX14_cheats_99 : decode cX14_cheats 99 = .ok (.iload_n 2, 1) := dk_28 (dk_at dksX14_cheats_4 6 rfl rfl)
theorem dX14_cheats_100 : decode cX14_cheats 100 = .ok (.ireturn, 1) := dk_172 (dk_at dksX14_cheats_4 7 rfl rfl)
def dkwX14_told_3 : List UInt8 := [172]
abbrev dktX14_told_3 : List UInt8 := dkwX14_told_3 ++ []
def dkwX14_told_2 : List UInt8 := [42, 180, 0, 95, 42, 180, 1, 112, 28, 79, 42, 89, 180, 1, 112, 4, 96, 181, 1, 112, 42, 180, 1, 112]
abbrev dktX14_told_2 : List UInt8 := dkwX14_told_2 ++ dktX14_told_3
def dkwX14_told_1 : List UInt8 := [153, 0, 12, 42, 180, 1, 112, 16, 10, 160, 0, 5, 2, 172, 42, 180, 0, 92, 42, 180, 1, 112, 27, 79]
abbrev dktX14_told_1 : List UInt8 := dkwX14_told_1 ++ dktX14_told_2
def dkwX14_told_0 : List UInt8 := [42, 3, 181, 0, 3, 42, 27, 182, 0, 124, 153, 0, 24, 28, 133, 10, 20, 1, 85, 184, 0, 120]
abbrev dktX14_told_0 : List UInt8 := dkwX14_told_0 ++ dktX14_told_1
theorem dksX14_told_0 : cX14_told.data.toList.drop 0 = dktX14_told_0 := by decide +kernel
theorem dksX14_told_1 : cX14_told.data.toList.drop 22 = dktX14_told_1 := dk_seg dksX14_told_0 22 rfl rfl
theorem dksX14_told_2 : cX14_told.data.toList.drop 46 = dktX14_told_2 := dk_seg dksX14_told_1 24 rfl rfl
theorem dksX14_told_3 : cX14_told.data.toList.drop 70 = dktX14_told_3 := dk_seg dksX14_told_2 24 rfl rfl
theorem dX14_told_0 : decode cX14_told 0 = .ok (.aload_n 0, 1) := dk_42 (dk_at dksX14_told_0 0 rfl rfl)
theorem dX14_told_1 : decode cX14_told 1 = .ok (.iconst 0, 1) := dk_3 (dk_at dksX14_told_0 1 rfl rfl)
theorem dX14_told_2 : decode cX14_told 2 = .ok (.putfield 3, 3) := dk_181 0 3 (dk_at dksX14_told_0 2 rfl rfl)
theorem dX14_told_5 : decode cX14_told 5 = .ok (.aload_n 0, 1) := dk_42 (dk_at dksX14_told_0 5 rfl rfl)
theorem dX14_told_6 : decode cX14_told 6 = .ok (.iload_n 1, 1) := dk_27 (dk_at dksX14_told_0 6 rfl rfl)
theorem dX14_told_7 : decode cX14_told 7 = .ok (.invokevirtual 124, 3) := dk_182 0 124 (dk_at dksX14_told_0 7 rfl rfl)
theorem dX14_told_10 : decode cX14_told 10 = .ok (.ifCond .eq 24, 3) := dk_153 0 24 (dk_at dksX14_told_0 10 rfl rfl)
theorem dX14_told_13 : decode cX14_told 13 = .ok (.iload_n 2, 1) := dk_28 (dk_at dksX14_told_0 13 rfl rfl)
theorem dX14_told_14 : decode cX14_told 14 = .ok (.i2l, 1) := dk_133 (dk_at dksX14_told_0 14 rfl rfl)
theorem dX14_told_15 : decode cX14_told 15 = .ok (.lconst 1, 1) := dk_10 (dk_at dksX14_told_0 15 rfl rfl)
theorem dX14_told_16 : decode cX14_told 16 = .ok (.ldc2_w 341, 3) := dk_20 1 85 (dk_at dksX14_told_0 16 rfl rfl)
theorem dX14_told_19 : decode cX14_told 19 = .ok (.invokestatic 120, 3) := dk_184 0 120 (dk_at dksX14_told_0 19 rfl rfl)
theorem dX14_told_22 : decode cX14_told 22 = .ok (.ifCond .eq 12, 3) := dk_153 0 12 (dk_at dksX14_told_1 0 rfl rfl)
theorem dX14_told_25 : decode cX14_told 25 = .ok (.aload_n 0, 1) := dk_42 (dk_at dksX14_told_1 3 rfl rfl)
theorem dX14_told_26 : decode cX14_told 26 = .ok (.getfield 368, 3) := dk_180 1 112 (dk_at dksX14_told_1 4 rfl rfl)
theorem dX14_told_29 : decode cX14_told 29 = .ok (.bipush 10, 2) := dk_16 10 (dk_at dksX14_told_1 7 rfl rfl)
theorem dX14_told_31 : decode cX14_told 31 = .ok (.if_icmp .ne 5, 3) := dk_160 0 5 (dk_at dksX14_told_1 9 rfl rfl)
theorem dX14_told_34 : decode cX14_told 34 = .ok (.iconst (-1), 1) := dk_2 (dk_at dksX14_told_1 12 rfl rfl)
theorem dX14_told_35 : decode cX14_told 35 = .ok (.ireturn, 1) := dk_172 (dk_at dksX14_told_1 13 rfl rfl)
theorem dX14_told_36 : decode cX14_told 36 = .ok (.aload_n 0, 1) := dk_42 (dk_at dksX14_told_1 14 rfl rfl)
theorem dX14_told_37 : decode cX14_told 37 = .ok (.getfield 92, 3) := dk_180 0 92 (dk_at dksX14_told_1 15 rfl rfl)
theorem dX14_told_40 : decode cX14_told 40 = .ok (.aload_n 0, 1) := dk_42 (dk_at dksX14_told_1 18 rfl rfl)
theorem dX14_told_41 : decode cX14_told 41 = .ok (.getfield 368, 3) := dk_180 1 112 (dk_at dksX14_told_1 19 rfl rfl)
theorem dX14_told_44 : decode cX14_told 44 = .ok (.iload_n 1, 1) := dk_27 (dk_at dksX14_told_1 22 rfl rfl)
theorem dX14_told_45 : decode cX14_told 45 = .ok (.iastore, 1) := dk_79 (dk_at dksX14_told_1 23 rfl rfl)
theorem dX14_told_46 : decode cX14_told 46 = .ok (.aload_n 0, 1) := dk_42 (dk_at dksX14_told_2 0 rfl rfl)
theorem dX14_told_47 : decode cX14_told 47 = .ok (.getfield 95, 3) := dk_180 0 95 (dk_at dksX14_told_2 1 rfl rfl)
theorem dX14_told_50 : decode cX14_told 50 = .ok (.aload_n 0, 1) := dk_42 (dk_at dksX14_told_2 4 rfl rfl)
theorem dX14_told_51 : decode cX14_told 51 = .ok (.getfield 368, 3) := dk_180 1 112 (dk_at dksX14_told_2 5 rfl rfl)
theorem dX14_told_54 : decode cX14_told 54 = .ok (.iload_n 2, 1) := dk_28 (dk_at dksX14_told_2 8 rfl rfl)
theorem dX14_told_55 : decode cX14_told 55 = .ok (.iastore, 1) := dk_79 (dk_at dksX14_told_2 9 rfl rfl)
theorem dX14_told_56 : decode cX14_told 56 = .ok (.aload_n 0, 1) := dk_42 (dk_at dksX14_told_2 10 rfl rfl)
theorem dX14_told_57 : decode cX14_told 57 = .ok (.dup, 1) := dk_89 (dk_at dksX14_told_2 11 rfl rfl)
theorem dX14_told_58 : decode cX14_told 58 = .ok (.getfield 368, 3) := dk_180 1 112 (dk_at dksX14_told_2 12 rfl rfl)
theorem dX14_told_61 : decode cX14_told 61 = .ok (.iconst 1, 1) := dk_4 (dk_at dksX14_told_2 15 rfl rfl)
theorem dX14_told_62 : decode cX14_told 62 = .ok (.iadd, 1) := dk_96 (dk_at dksX14_told_2 16 rfl rfl)
theorem dX14_told_63 : decode cX14_told 63 = .ok (.putfield 368, 3) := dk_181 1 112 (dk_at dksX14_told_2 17 rfl rfl)
theorem dX14_told_66 : decode cX14_told 66 = .ok (.aload_n 0, 1) := dk_42 (dk_at dksX14_told_2 20 rfl rfl)
theorem dX14_told_67 : decode cX14_told 67 = .ok (.getfield 368, 3) := dk_180 1 112 (dk_at dksX14_told_2 21 rfl rfl)
theorem dX14_told_70 : decode cX14_told 70 = .ok (.ireturn, 1) := dk_172 (dk_at dksX14_told_3 0 rfl rfl)
def dkwX14_wipe_0 : List UInt8 := [42, 3, 181, 0, 3, 42, 180, 1, 112, 60, 42, 3, 181, 1, 112, 27, 172]
abbrev dktX14_wipe_0 : List UInt8 := dkwX14_wipe_0 ++ []
theorem dksX14_wipe_0 : cX14_wipe.data.toList.drop 0 = dktX14_wipe_0 := by decide +kernel
theorem dX14_wipe_0 : decode cX14_wipe 0 = .ok (.aload_n 0, 1) := dk_42 (dk_at dksX14_wipe_0 0 rfl rfl)
theorem dX14_wipe_1 : decode cX14_wipe 1 = .ok (.iconst 0, 1) := dk_3 (dk_at dksX14_wipe_0 1 rfl rfl)
theorem dX14_wipe_2 : decode cX14_wipe 2 = .ok (.putfield 3, 3) := dk_181 0 3 (dk_at dksX14_wipe_0 2 rfl rfl)
theorem dX14_wipe_5 : decode cX14_wipe 5 = .ok (.aload_n 0, 1) := dk_42 (dk_at dksX14_wipe_0 5 rfl rfl)
theorem dX14_wipe_6 : decode cX14_wipe 6 = .ok (.getfield 368, 3) := dk_180 1 112 (dk_at dksX14_wipe_0 6 rfl rfl)
theorem dX14_wipe_9 : decode cX14_wipe 9 = .ok (.istore_n 1, 1) := dk_60 (dk_at dksX14_wipe_0 9 rfl rfl)
theorem dX14_wipe_10 : decode cX14_wipe 10 = .ok (.aload_n 0, 1) := dk_42 (dk_at dksX14_wipe_0 10 rfl rfl)
theorem dX14_wipe_11 : decode cX14_wipe 11 = .ok (.iconst 0, 1) := dk_3 (dk_at dksX14_wipe_0 11 rfl rfl)
theorem dX14_wipe_12 : decode cX14_wipe 12 = .ok (.putfield 368, 3) := dk_181 1 112 (dk_at dksX14_wipe_0 12 rfl rfl)
theorem dX14_wipe_15 : decode cX14_wipe 15 = .ok (.iload_n 1, 1) := dk_27 (dk_at dksX14_wipe_0 15 rfl rfl)
theorem dX14_wipe_16 : decode cX14_wipe 16 = .ok (.ireturn, 1) := dk_172 (dk_at dksX14_wipe_0 16 rfl rfl)
def dkwX14_explains_3 : List UInt8 := [132, 5, 1, 167, 255, 207, 42, 28, 29, 21, 4, 182, 1, 101, 28, 172]
abbrev dktX14_explains_3 : List UInt8 := dkwX14_explains_3 ++ []
def dkwX14_explains_2 : List UInt8 := [182, 1, 115, 153, 0, 21, 28, 154, 0, 8, 21, 5, 167, 0, 4, 29, 62, 21, 5, 54, 4, 132, 2, 1]
abbrev dktX14_explains_2 : List UInt8 := dkwX14_explains_2 ++ dktX14_explains_3
def dkwX14_explains_1 : List UInt8 := [54, 5, 21, 5, 17, 3, 231, 163, 0, 47, 42, 182, 1, 57, 42, 180, 0, 47, 27, 21, 5, 79, 42, 3]
abbrev dktX14_explains_1 : List UInt8 := dkwX14_explains_1 ++ dktX14_explains_2
def dkwX14_explains_0 : List UInt8 := [42, 3, 181, 0, 3, 42, 27, 182, 1, 41, 154, 0, 5, 2, 172, 3, 61, 3, 62, 3, 54, 4, 4]
abbrev dktX14_explains_0 : List UInt8 := dkwX14_explains_0 ++ dktX14_explains_1
theorem dksX14_explains_0 : cX14_explains.data.toList.drop 0 = dktX14_explains_0 := by decide +kernel
theorem dksX14_explains_1 : cX14_explains.data.toList.drop 23 = dktX14_explains_1 := dk_seg dksX14_explains_0 23 rfl rfl
theorem dksX14_explains_2 : cX14_explains.data.toList.drop 47 = dktX14_explains_2 := dk_seg dksX14_explains_1 24 rfl rfl
theorem dksX14_explains_3 : cX14_explains.data.toList.drop 71 = dktX14_explains_3 := dk_seg dksX14_explains_2 24 rfl rfl
theorem dX14_explains_0 : decode cX14_explains 0 = .ok (.aload_n 0, 1) := dk_42 (dk_at dksX14_explains_0 0 rfl rfl)
theorem dX14_explains_1 : decode cX14_explains 1 = .ok (.iconst 0, 1) := dk_3 (dk_at dksX14_explains_0 1 rfl rfl)
theorem dX14_explains_2 : decode cX14_explains 2 = .ok (.putfield 3, 3) := dk_181 0 3 (dk_at dksX14_explains_0 2 rfl rfl)
theorem dX14_explains_5 : decode cX14_explains 5 = .ok (.aload_n 0, 1) := dk_42 (dk_at dksX14_explains_0 5 rfl rfl)
theorem dX14_explains_6 : decode cX14_explains 6 = .ok (.iload_n 1, 1) := dk_27 (dk_at dksX14_explains_0 6 rfl rfl)
theorem dX14_explains_7 : decode cX14_explains 7 = .ok (.invokevirtual 297, 3) := dk_182 1 41 (dk_at dksX14_explains_0 7 rfl rfl)
theorem dX14_explains_10 : decode cX14_explains 10 = .ok (.ifCond .ne 5, 3) := dk_154 0 5 (dk_at dksX14_explains_0 10 rfl rfl)
theorem dX14_explains_13 : decode cX14_explains 13 = .ok (.iconst (-1), 1) := dk_2 (dk_at dksX14_explains_0 13 rfl rfl)
theorem dX14_explains_14 : decode cX14_explains 14 = .ok (.ireturn, 1) := dk_172 (dk_at dksX14_explains_0 14 rfl rfl)
theorem dX14_explains_15 : decode cX14_explains 15 = .ok (.iconst 0, 1) := dk_3 (dk_at dksX14_explains_0 15 rfl rfl)
theorem dX14_explains_16 : decode cX14_explains 16 = .ok (.istore_n 2, 1) := dk_61 (dk_at dksX14_explains_0 16 rfl rfl)
theorem dX14_explains_17 : decode cX14_explains 17 = .ok (.iconst 0, 1) := dk_3 (dk_at dksX14_explains_0 17 rfl rfl)
theorem dX14_explains_18 : decode cX14_explains 18 = .ok (.istore_n 3, 1) := dk_62 (dk_at dksX14_explains_0 18 rfl rfl)
theorem dX14_explains_19 : decode cX14_explains 19 = .ok (.iconst 0, 1) := dk_3 (dk_at dksX14_explains_0 19 rfl rfl)
theorem dX14_explains_20 : decode cX14_explains 20 = .ok (.istore 4, 2) := dk_54 4 (dk_at dksX14_explains_0 20 rfl rfl)
theorem dX14_explains_22 : decode cX14_explains 22 = .ok (.iconst 1, 1) := dk_4 (dk_at dksX14_explains_0 22 rfl rfl)
theorem dX14_explains_23 : decode cX14_explains 23 = .ok (.istore 5, 2) := dk_54 5 (dk_at dksX14_explains_1 0 rfl rfl)
theorem dX14_explains_25 : decode cX14_explains 25 = .ok (.iload 5, 2) := dk_21 5 (dk_at dksX14_explains_1 2 rfl rfl)
theorem dX14_explains_27 : decode cX14_explains 27 = .ok (.sipush 999, 3) := dk_17 3 231 (dk_at dksX14_explains_1 4 rfl rfl)
theorem dX14_explains_30 : decode cX14_explains 30 = .ok (.if_icmp .gt 47, 3) := dk_163 0 47 (dk_at dksX14_explains_1 7 rfl rfl)
theorem dX14_explains_33 : decode cX14_explains 33 = .ok (.aload_n 0, 1) := dk_42 (dk_at dksX14_explains_1 10 rfl rfl)
theorem dX14_explains_34 : decode cX14_explains 34 = .ok (.invokevirtual 313, 3) := dk_182 1 57 (dk_at dksX14_explains_1 11 rfl rfl)
theorem dX14_explains_37 : decode cX14_explains 37 = .ok (.aload_n 0, 1) := dk_42 (dk_at dksX14_explains_1 14 rfl rfl)
theorem dX14_explains_38 : decode cX14_explains 38 = .ok (.getfield 47, 3) := dk_180 0 47 (dk_at dksX14_explains_1 15 rfl rfl)
theorem dX14_explains_41 : decode cX14_explains 41 = .ok (.iload_n 1, 1) := dk_27 (dk_at dksX14_explains_1 18 rfl rfl)
theorem dX14_explains_42 : decode cX14_explains 42 = .ok (.iload 5, 2) := dk_21 5 (dk_at dksX14_explains_1 19 rfl rfl)
theorem dX14_explains_44 : decode cX14_explains 44 = .ok (.iastore, 1) := dk_79 (dk_at dksX14_explains_1 21 rfl rfl)
theorem dX14_explains_45 : decode cX14_explains 45 = .ok (.aload_n 0, 1) := dk_42 (dk_at dksX14_explains_1 22 rfl rfl)
theorem dX14_explains_46 : decode cX14_explains 46 = .ok (.iconst 0, 1) := dk_3 (dk_at dksX14_explains_1 23 rfl rfl)
theorem dX14_explains_47 : decode cX14_explains 47 = .ok (.invokevirtual 371, 3) := dk_182 1 115 (dk_at dksX14_explains_2 0 rfl rfl)
theorem dX14_explains_50 : decode cX14_explains 50 = .ok (.ifCond .eq 21, 3) := dk_153 0 21 (dk_at dksX14_explains_2 3 rfl rfl)
theorem dX14_explains_53 : decode cX14_explains 53 = .ok (.iload_n 2, 1) := dk_28 (dk_at dksX14_explains_2 6 rfl rfl)
theorem dX14_explains_54 : decode cX14_explains 54 = .ok (.ifCond .ne 8, 3) := dk_154 0 8 (dk_at dksX14_explains_2 7 rfl rfl)
theorem dX14_explains_57 : decode cX14_explains 57 = .ok (.iload 5, 2) := dk_21 5 (dk_at dksX14_explains_2 10 rfl rfl)
theorem dX14_explains_59 : decode cX14_explains 59 = .ok (.goto 4, 3) := dk_167 0 4 (dk_at dksX14_explains_2 12 rfl rfl)
theorem dX14_explains_62 : decode cX14_explains 62 = .ok (.iload_n 3, 1) := dk_29 (dk_at dksX14_explains_2 15 rfl rfl)
theorem dX14_explains_63 : decode cX14_explains 63 = .ok (.istore_n 3, 1) := dk_62 (dk_at dksX14_explains_2 16 rfl rfl)
theorem dX14_explains_64 : decode cX14_explains 64 = .ok (.iload 5, 2) := dk_21 5 (dk_at dksX14_explains_2 17 rfl rfl)
theorem dX14_explains_66 : decode cX14_explains 66 = .ok (.istore 4, 2) := dk_54 4 (dk_at dksX14_explains_2 19 rfl rfl)
theorem dX14_explains_68 : decode cX14_explains 68 = .ok (.iinc 2 1, 3) := dk_132 2 1 (dk_at dksX14_explains_2 21 rfl rfl)
theorem dX14_explains_71 : decode cX14_explains 71 = .ok (.iinc 5 1, 3) := dk_132 5 1 (dk_at dksX14_explains_3 0 rfl rfl)
theorem dX14_explains_74 : decode cX14_explains 74 = .ok (.goto (-49), 3) := dk_167 255 207 (dk_at dksX14_explains_3 3 rfl rfl)
theorem dX14_explains_77 : decode cX14_explains 77 = .ok (.aload_n 0, 1) := dk_42 (dk_at dksX14_explains_3 6 rfl rfl)
theorem dX14_explains_78 : decode cX14_explains 78 = .ok (.iload_n 2, 1) := dk_28 (dk_at dksX14_explains_3 7 rfl rfl)
theorem dX14_explains_79 : decode cX14_explains 79 = .ok (.iload_n 3, 1) := dk_29 (dk_at dksX14_explains_3 8 rfl rfl)
theorem dX14_explains_80 : decode cX14_explains 80 = .ok (.iload 4, 2) := dk_21 4 (dk_at dksX14_explains_3 9 rfl rfl)
theorem dX14_explains_82 : decode cX14_explains 82 = .ok (.invokevirtual 357, 3) := dk_182 1 101 (dk_at dksX14_explains_3 11 rfl rfl)
theorem dX14_explains_85 : decode cX14_explains 85 = .ok (.iload_n 2, 1) := dk_28 (dk_at dksX14_explains_3 14 rfl rfl)
theorem dX14_explains_86 : decode cX14_explains 86 = .ok (.ireturn, 1) := dk_172 (dk_at dksX14_explains_3 15 rfl rfl)
def dkwX14_isSo_4 : List UInt8 := [167, 255, 194, 4, 172]
abbrev dktX14_isSo_4 : List UInt8 := dkwX14_isSo_4 ++ []
def dkwX14_isSo_3 : List UInt8 := [46, 42, 180, 0, 92, 21, 4, 46, 159, 0, 5, 3, 172, 132, 4, 1, 167, 255, 214, 132, 3, 1]
abbrev dktX14_isSo_3 : List UInt8 := dkwX14_isSo_3 ++ dktX14_isSo_4
def dkwX14_isSo_2 : List UInt8 := [42, 180, 1, 112, 162, 0, 39, 42, 180, 0, 95, 21, 4, 46, 29, 160, 0, 22, 42, 180, 0, 47, 16, 17]
abbrev dktX14_isSo_2 : List UInt8 := dkwX14_isSo_2 ++ dktX14_isSo_3
def dkwX14_isSo_1 : List UInt8 := [132, 3, 1, 167, 255, 234, 4, 62, 29, 28, 163, 0, 63, 42, 4, 27, 182, 1, 60, 3, 54, 4, 21, 4]
abbrev dktX14_isSo_1 : List UInt8 := dkwX14_isSo_1 ++ dktX14_isSo_2
def dkwX14_isSo_0 : List UInt8 := [3, 61, 3, 62, 29, 42, 180, 1, 112, 162, 0, 20, 28, 42, 180, 0, 95, 29, 46, 184, 0, 254, 61]
abbrev dktX14_isSo_0 : List UInt8 := dkwX14_isSo_0 ++ dktX14_isSo_1
theorem dksX14_isSo_0 : cX14_isSo.data.toList.drop 0 = dktX14_isSo_0 := by decide +kernel
theorem dksX14_isSo_1 : cX14_isSo.data.toList.drop 23 = dktX14_isSo_1 := dk_seg dksX14_isSo_0 23 rfl rfl
theorem dksX14_isSo_2 : cX14_isSo.data.toList.drop 47 = dktX14_isSo_2 := dk_seg dksX14_isSo_1 24 rfl rfl
theorem dksX14_isSo_3 : cX14_isSo.data.toList.drop 71 = dktX14_isSo_3 := dk_seg dksX14_isSo_2 24 rfl rfl
theorem dksX14_isSo_4 : cX14_isSo.data.toList.drop 93 = dktX14_isSo_4 := dk_seg dksX14_isSo_3 22 rfl rfl
theorem dX14_isSo_0 : decode cX14_isSo 0 = .ok (.iconst 0, 1) := dk_3 (dk_at dksX14_isSo_0 0 rfl rfl)
theorem dX14_isSo_1 : decode cX14_isSo 1 = .ok (.istore_n 2, 1) := dk_61 (dk_at dksX14_isSo_0 1 rfl rfl)
theorem dX14_isSo_2 : decode cX14_isSo 2 = .ok (.iconst 0, 1) := dk_3 (dk_at dksX14_isSo_0 2 rfl rfl)
theorem dX14_isSo_3 : decode cX14_isSo 3 = .ok (.istore_n 3, 1) := dk_62 (dk_at dksX14_isSo_0 3 rfl rfl)
theorem dX14_isSo_4 : decode cX14_isSo 4 = .ok (.iload_n 3, 1) := dk_29 (dk_at dksX14_isSo_0 4 rfl rfl)
theorem dX14_isSo_5 : decode cX14_isSo 5 = .ok (.aload_n 0, 1) := dk_42 (dk_at dksX14_isSo_0 5 rfl rfl)
theorem dX14_isSo_6 : decode cX14_isSo 6 = .ok (.getfield 368, 3) := dk_180 1 112 (dk_at dksX14_isSo_0 6 rfl rfl)
theorem dX14_isSo_9 : decode cX14_isSo 9 = .ok (.if_icmp .ge 20, 3) := dk_162 0 20 (dk_at dksX14_isSo_0 9 rfl rfl)
theorem dX14_isSo_12 : decode cX14_isSo 12 = .ok (.iload_n 2, 1) := dk_28 (dk_at dksX14_isSo_0 12 rfl rfl)
theorem dX14_isSo_13 : decode cX14_isSo 13 = .ok (.aload_n 0, 1) := dk_42 (dk_at dksX14_isSo_0 13 rfl rfl)
theorem dX14_isSo_14 : decode cX14_isSo 14 = .ok (.getfield 95, 3) := dk_180 0 95 (dk_at dksX14_isSo_0 14 rfl rfl)
theorem dX14_isSo_17 : decode cX14_isSo 17 = .ok (.iload_n 3, 1) := dk_29 (dk_at dksX14_isSo_0 17 rfl rfl)
theorem dX14_isSo_18 : decode cX14_isSo 18 = .ok (.iaload, 1) := dk_46 (dk_at dksX14_isSo_0 18 rfl rfl)
theorem dX14_isSo_19 : decode cX14_isSo 19 = .ok (.invokestatic 254, 3) := dk_184 0 254 (dk_at dksX14_isSo_0 19 rfl rfl)
theorem dX14_isSo_22 : decode cX14_isSo 22 = .ok (.istore_n 2, 1) := dk_61 (dk_at dksX14_isSo_0 22 rfl rfl)
theorem dX14_isSo_23 : decode cX14_isSo 23 = .ok (.iinc 3 1, 3) := dk_132 3 1 (dk_at dksX14_isSo_1 0 rfl rfl)
theorem dX14_isSo_26 : decode cX14_isSo 26 = .ok (.goto (-22), 3) := dk_167 255 234 (dk_at dksX14_isSo_1 3 rfl rfl)
theorem dX14_isSo_29 : decode cX14_isSo 29 = .ok (.iconst 1, 1) := dk_4 (dk_at dksX14_isSo_1 6 rfl rfl)
theorem dX14_isSo_30 : decode cX14_isSo 30 = .ok (.istore_n 3, 1) := dk_62 (dk_at dksX14_isSo_1 7 rfl rfl)
theorem dX14_isSo_31 : decode cX14_isSo 31 = .ok (.iload_n 3, 1) := dk_29 (dk_at dksX14_isSo_1 8 rfl rfl)
theorem dX14_isSo_32 : decode cX14_isSo 32 = .ok (.iload_n 2, 1) := dk_28 (dk_at dksX14_isSo_1 9 rfl rfl)
theorem dX14_isSo_33 : decode cX14_isSo 33 = .ok (.if_icmp .gt 63, 3) := dk_163 0 63 (dk_at dksX14_isSo_1 10 rfl rfl)
theorem dX14_isSo_36 : decode cX14_isSo 36 = .ok (.aload_n 0, 1) := dk_42 (dk_at dksX14_isSo_1 13 rfl rfl)
theorem dX14_isSo_37 : decode cX14_isSo 37 = .ok (.iconst 1, 1) := dk_4 (dk_at dksX14_isSo_1 14 rfl rfl)
theorem dX14_isSo_38 : decode cX14_isSo 38 = .ok (.iload_n 1, 1) := dk_27 (dk_at dksX14_isSo_1 15 rfl rfl)
theorem dX14_isSo_39 : decode cX14_isSo 39 = .ok (.invokevirtual 316, 3) := dk_182 1 60 (dk_at dksX14_isSo_1 16 rfl rfl)
theorem dX14_isSo_42 : decode cX14_isSo 42 = .ok (.iconst 0, 1) := dk_3 (dk_at dksX14_isSo_1 19 rfl rfl)
theorem dX14_isSo_43 : decode cX14_isSo 43 = .ok (.istore 4, 2) := dk_54 4 (dk_at dksX14_isSo_1 20 rfl rfl)
theorem dX14_isSo_45 : decode cX14_isSo 45 = .ok (.iload 4, 2) := dk_21 4 (dk_at dksX14_isSo_1 22 rfl rfl)
theorem dX14_isSo_47 : decode cX14_isSo 47 = .ok (.aload_n 0, 1) := dk_42 (dk_at dksX14_isSo_2 0 rfl rfl)
theorem dX14_isSo_48 : decode cX14_isSo 48 = .ok (.getfield 368, 3) := dk_180 1 112 (dk_at dksX14_isSo_2 1 rfl rfl)
theorem dX14_isSo_51 : decode cX14_isSo 51 = .ok (.if_icmp .ge 39, 3) := dk_162 0 39 (dk_at dksX14_isSo_2 4 rfl rfl)
theorem dX14_isSo_54 : decode cX14_isSo 54 = .ok (.aload_n 0, 1) := dk_42 (dk_at dksX14_isSo_2 7 rfl rfl)
theorem dX14_isSo_55 : decode cX14_isSo 55 = .ok (.getfield 95, 3) := dk_180 0 95 (dk_at dksX14_isSo_2 8 rfl rfl)
theorem dX14_isSo_58 : decode cX14_isSo 58 = .ok (.iload 4, 2) := dk_21 4 (dk_at dksX14_isSo_2 11 rfl rfl)
theorem dX14_isSo_60 : decode cX14_isSo 60 = .ok (.iaload, 1) := dk_46 (dk_at dksX14_isSo_2 13 rfl rfl)
theorem dX14_isSo_61 : decode cX14_isSo 61 = .ok (.iload_n 3, 1) := dk_29 (dk_at dksX14_isSo_2 14 rfl rfl)
theorem dX14_isSo_62 : decode cX14_isSo 62 = .ok (.if_icmp .ne 22, 3) := dk_160 0 22 (dk_at dksX14_isSo_2 15 rfl rfl)
theorem dX14_isSo_65 : decode cX14_isSo 65 = .ok (.aload_n 0, 1) := dk_42 (dk_at dksX14_isSo_2 18 rfl rfl)
theorem dX14_isSo_66 : decode cX14_isSo 66 = .ok (.getfield 47, 3) := dk_180 0 47 (dk_at dksX14_isSo_2 19 rfl rfl)
theorem dX14_isSo_69 : decode cX14_isSo 69 = .ok (.bipush 17, 2) := dk_16 17 (dk_at dksX14_isSo_2 22 rfl rfl)
theorem dX14_isSo_71 : decode cX14_isSo 71 = .ok (.iaload, 1) := dk_46 (dk_at dksX14_isSo_3 0 rfl rfl)
theorem dX14_isSo_72 : decode cX14_isSo 72 = .ok (.aload_n 0, 1) := dk_42 (dk_at dksX14_isSo_3 1 rfl rfl)
theorem dX14_isSo_73 : decode cX14_isSo 73 = .ok (.getfield 92, 3) := dk_180 0 92 (dk_at dksX14_isSo_3 2 rfl rfl)
theorem dX14_isSo_76 : decode cX14_isSo 76 = .ok (.iload 4, 2) := dk_21 4 (dk_at dksX14_isSo_3 5 rfl rfl)
theorem dX14_isSo_78 : decode cX14_isSo 78 = .ok (.iaload, 1) := dk_46 (dk_at dksX14_isSo_3 7 rfl rfl)
theorem dX14_isSo_79 : decode cX14_isSo 79 = .ok (.if_icmp .eq 5, 3) := dk_159 0 5 (dk_at dksX14_isSo_3 8 rfl rfl)
theorem dX14_isSo_82 : decode cX14_isSo 82 = .ok (.iconst 0, 1) := dk_3 (dk_at dksX14_isSo_3 11 rfl rfl)
theorem dX14_isSo_83 : decode cX14_isSo 83 = .ok (.ireturn, 1) := dk_172 (dk_at dksX14_isSo_3 12 rfl rfl)
theorem dX14_isSo_84 : decode cX14_isSo 84 = .ok (.iinc 4 1, 3) := dk_132 4 1 (dk_at dksX14_isSo_3 13 rfl rfl)
theorem dX14_isSo_87 : decode cX14_isSo 87 = .ok (.goto (-42), 3) := dk_167 255 214 (dk_at dksX14_isSo_3 16 rfl rfl)
theorem dX14_isSo_90 : decode cX14_isSo 90 = .ok (.iinc 3 1, 3) := dk_132 3 1 (dk_at dksX14_isSo_3 19 rfl rfl)
theorem dX14_isSo_93 : decode cX14_isSo 93 = .ok (.goto (-62), 3) := dk_167 255 194 (dk_at dksX14_isSo_4 0 rfl rfl)
theorem dX14_isSo_96 : decode cX14_isSo 96 = .ok (.iconst 1, 1) := dk_4 (dk_at dksX14_isSo_4 3 rfl rfl)
theorem dX14_isSo_97 : decode cX14_isSo 97 = .ok (.ireturn, 1) := dk_172 (dk_at dksX14_isSo_4 4 rfl rfl)
def dkwX14_absent_3 : List UInt8 := [184, 0, 150, 133, 182, 0, 18, 27, 172]
abbrev dktX14_absent_3 : List UInt8 := dkwX14_absent_3 ++ []
def dkwX14_absent_2 : List UInt8 := [60, 132, 2, 1, 167, 255, 213, 42, 182, 1, 57, 42, 3, 181, 0, 15, 42, 42, 3, 182, 1, 115]
abbrev dktX14_absent_2 : List UInt8 := dkwX14_absent_2 ++ dktX14_absent_3
def dkwX14_absent_1 : List UInt8 := [182, 1, 41, 153, 0, 19, 42, 4, 28, 120, 182, 1, 115, 153, 0, 9, 4, 28, 120, 167, 0, 4, 3, 128]
abbrev dktX14_absent_1 : List UInt8 := dkwX14_absent_1 ++ dktX14_absent_2
def dkwX14_absent_0 : List UInt8 := [42, 3, 181, 0, 3, 3, 60, 3, 61, 28, 42, 180, 0, 117, 162, 0, 41, 42, 182, 1, 57, 27, 42, 28]
abbrev dktX14_absent_0 : List UInt8 := dkwX14_absent_0 ++ dktX14_absent_1
theorem dksX14_absent_0 : cX14_absent.data.toList.drop 0 = dktX14_absent_0 := by decide +kernel
theorem dksX14_absent_1 : cX14_absent.data.toList.drop 24 = dktX14_absent_1 := dk_seg dksX14_absent_0 24 rfl rfl
theorem dksX14_absent_2 : cX14_absent.data.toList.drop 48 = dktX14_absent_2 := dk_seg dksX14_absent_1 24 rfl rfl
theorem dksX14_absent_3 : cX14_absent.data.toList.drop 70 = dktX14_absent_3 := dk_seg dksX14_absent_2 22 rfl rfl
theorem dX14_absent_0 : decode cX14_absent 0 = .ok (.aload_n 0, 1) := dk_42 (dk_at dksX14_absent_0 0 rfl rfl)
theorem dX14_absent_1 : decode cX14_absent 1 = .ok (.iconst 0, 1) := dk_3 (dk_at dksX14_absent_0 1 rfl rfl)
theorem dX14_absent_2 : decode cX14_absent 2 = .ok (.putfield 3, 3) := dk_181 0 3 (dk_at dksX14_absent_0 2 rfl rfl)
theorem dX14_absent_5 : decode cX14_absent 5 = .ok (.iconst 0, 1) := dk_3 (dk_at dksX14_absent_0 5 rfl rfl)
theorem dX14_absent_6 : decode cX14_absent 6 = .ok (.istore_n 1, 1) := dk_60 (dk_at dksX14_absent_0 6 rfl rfl)
theorem dX14_absent_7 : decode cX14_absent 7 = .ok (.iconst 0, 1) := dk_3 (dk_at dksX14_absent_0 7 rfl rfl)
theorem dX14_absent_8 : decode cX14_absent 8 = .ok (.istore_n 2, 1) := dk_61 (dk_at dksX14_absent_0 8 rfl rfl)
theorem dX14_absent_9 : decode cX14_absent 9 = .ok (.iload_n 2, 1) := dk_28 (dk_at dksX14_absent_0 9 rfl rfl)
theorem dX14_absent_10 : decode cX14_absent 10 = .ok (.aload_n 0, 1) := dk_42 (dk_at dksX14_absent_0 10 rfl rfl)
theorem dX14_absent_11 : decode cX14_absent 11 = .ok (.getfield 117, 3) := dk_180 0 117 (dk_at dksX14_absent_0 11 rfl rfl)
theorem dX14_absent_14 : decode cX14_absent 14 = .ok (.if_icmp .ge 41, 3) := dk_162 0 41 (dk_at dksX14_absent_0 14 rfl rfl)
theorem dX14_absent_17 : decode cX14_absent 17 = .ok (.aload_n 0, 1) := dk_42 (dk_at dksX14_absent_0 17 rfl rfl)
theorem dX14_absent_18 : decode cX14_absent 18 = .ok (.invokevirtual 313, 3) := dk_182 1 57 (dk_at dksX14_absent_0 18 rfl rfl)
theorem dX14_absent_21 : decode cX14_absent 21 = .ok (.iload_n 1, 1) := dk_27 (dk_at dksX14_absent_0 21 rfl rfl)
theorem dX14_absent_22 : decode cX14_absent 22 = .ok (.aload_n 0, 1) := dk_42 (dk_at dksX14_absent_0 22 rfl rfl)
theorem dX14_absent_23 : decode cX14_absent 23 = .ok (.iload_n 2, 1) := dk_28 (dk_at dksX14_absent_0 23 rfl rfl)
theorem dX14_absent_24 : decode cX14_absent 24 = .ok (.invokevirtual 297, 3) := dk_182 1 41 (dk_at dksX14_absent_1 0 rfl rfl)
theorem dX14_absent_27 : decode cX14_absent 27 = .ok (.ifCond .eq 19, 3) := dk_153 0 19 (dk_at dksX14_absent_1 3 rfl rfl)
theorem dX14_absent_30 : decode cX14_absent 30 = .ok (.aload_n 0, 1) := dk_42 (dk_at dksX14_absent_1 6 rfl rfl)
theorem dX14_absent_31 : decode cX14_absent 31 = .ok (.iconst 1, 1) := dk_4 (dk_at dksX14_absent_1 7 rfl rfl)
theorem dX14_absent_32 : decode cX14_absent 32 = .ok (.iload_n 2, 1) := dk_28 (dk_at dksX14_absent_1 8 rfl rfl)
theorem dX14_absent_33 : decode cX14_absent 33 = .ok (.ishl, 1) := dk_120 (dk_at dksX14_absent_1 9 rfl rfl)
theorem dX14_absent_34 : decode cX14_absent 34 = .ok (.invokevirtual 371, 3) := dk_182 1 115 (dk_at dksX14_absent_1 10 rfl rfl)
theorem dX14_absent_37 : decode cX14_absent 37 = .ok (.ifCond .eq 9, 3) := dk_153 0 9 (dk_at dksX14_absent_1 13 rfl rfl)
theorem dX14_absent_40 : decode cX14_absent 40 = .ok (.iconst 1, 1) := dk_4 (dk_at dksX14_absent_1 16 rfl rfl)
theorem dX14_absent_41 : decode cX14_absent 41 = .ok (.iload_n 2, 1) := dk_28 (dk_at dksX14_absent_1 17 rfl rfl)
theorem dX14_absent_42 : decode cX14_absent 42 = .ok (.ishl, 1) := dk_120 (dk_at dksX14_absent_1 18 rfl rfl)
theorem dX14_absent_43 : decode cX14_absent 43 = .ok (.goto 4, 3) := dk_167 0 4 (dk_at dksX14_absent_1 19 rfl rfl)
theorem dX14_absent_46 : decode cX14_absent 46 = .ok (.iconst 0, 1) := dk_3 (dk_at dksX14_absent_1 22 rfl rfl)
theorem dX14_absent_47 : decode cX14_absent 47 = .ok (.ior, 1) := dk_128 (dk_at dksX14_absent_1 23 rfl rfl)
theorem dX14_absent_48 : decode cX14_absent 48 = .ok (.istore_n 1, 1) := dk_60 (dk_at dksX14_absent_2 0 rfl rfl)
theorem dX14_absent_49 : decode cX14_absent 49 = .ok (.iinc 2 1, 3) := dk_132 2 1 (dk_at dksX14_absent_2 1 rfl rfl)
theorem dX14_absent_52 : decode cX14_absent 52 = .ok (.goto (-43), 3) := dk_167 255 213 (dk_at dksX14_absent_2 4 rfl rfl)
theorem dX14_absent_55 : decode cX14_absent 55 = .ok (.aload_n 0, 1) := dk_42 (dk_at dksX14_absent_2 7 rfl rfl)
theorem dX14_absent_56 : decode cX14_absent 56 = .ok (.invokevirtual 313, 3) := dk_182 1 57 (dk_at dksX14_absent_2 8 rfl rfl)
theorem dX14_absent_59 : decode cX14_absent 59 = .ok (.aload_n 0, 1) := dk_42 (dk_at dksX14_absent_2 11 rfl rfl)
theorem dX14_absent_60 : decode cX14_absent 60 = .ok (.iconst 0, 1) := dk_3 (dk_at dksX14_absent_2 12 rfl rfl)
theorem dX14_absent_61 : decode cX14_absent 61 = .ok (.putfield 15, 3) := dk_181 0 15 (dk_at dksX14_absent_2 13 rfl rfl)
theorem dX14_absent_64 : decode cX14_absent 64 = .ok (.aload_n 0, 1) := dk_42 (dk_at dksX14_absent_2 16 rfl rfl)
theorem dX14_absent_65 : decode cX14_absent 65 = .ok (.aload_n 0, 1) := dk_42 (dk_at dksX14_absent_2 17 rfl rfl)
theorem dX14_absent_66 : decode cX14_absent 66 = .ok (.iconst 0, 1) := dk_3 (dk_at dksX14_absent_2 18 rfl rfl)
theorem dX14_absent_67 : decode cX14_absent 67 = .ok (.invokevirtual 371, 3) := dk_182 1 115 (dk_at dksX14_absent_2 19 rfl rfl)
theorem dX14_absent_70 : decode cX14_absent 70 = .ok (.invokestatic 150, 3) := dk_184 0 150 (dk_at dksX14_absent_3 0 rfl rfl)
theorem dX14_absent_73 : decode cX14_absent 73 = .ok (.i2l, 1) := dk_133 (dk_at dksX14_absent_3 3 rfl rfl)
theorem dX14_absent_74 : decode cX14_absent 74 = .ok (.invokevirtual 18, 3) := dk_182 0 18 (dk_at dksX14_absent_3 4 rfl rfl)
theorem dX14_absent_77 : decode cX14_absent 77 = .ok (.iload_n 1, 1) := dk_27 (dk_at dksX14_absent_3 7 rfl rfl)
theorem dX14_absent_78 : decode cX14_absent 78 = .ok (.ireturn, 1) := dk_172 (dk_at dksX14_absent_3 8 rfl rfl)
def dkwX14_twin_5 : List UInt8 := [180, 0, 32, 28, 42, 180, 0, 32, 27, 46, 79, 42, 3, 181, 0, 207, 28, 172]
abbrev dktX14_twin_5 : List UInt8 := dkwX14_twin_5 ++ []
def dkwX14_twin_4 : List UInt8 := [167, 255, 227, 42, 180, 0, 62, 16, 8, 42, 180, 0, 38, 27, 46, 79, 42, 28, 16, 8, 182, 0, 203, 42]
abbrev dktX14_twin_4 : List UInt8 := dkwX14_twin_4 ++ dktX14_twin_5
def dkwX14_twin_3 : List UInt8 := [180, 0, 59, 16, 48, 29, 96, 42, 180, 0, 35, 16, 6, 27, 104, 29, 96, 46, 79, 132, 3, 1]
abbrev dktX14_twin_3 : List UInt8 := dkwX14_twin_3 ++ dktX14_twin_4
def dkwX14_twin_2 : List UInt8 := [27, 46, 79, 42, 180, 0, 28, 28, 42, 180, 0, 28, 27, 46, 79, 3, 62, 29, 16, 6, 162, 0, 29, 42]
abbrev dktX14_twin_2 : List UInt8 := dkwX14_twin_2 ++ dktX14_twin_3
def dkwX14_twin_1 : List UInt8 := [42, 180, 0, 117, 61, 42, 89, 180, 0, 117, 4, 96, 181, 0, 117, 42, 180, 0, 44, 28, 42, 180, 0, 44]
abbrev dktX14_twin_1 : List UInt8 := dkwX14_twin_1 ++ dktX14_twin_2
def dkwX14_twin_0 : List UInt8 := [42, 3, 181, 0, 3, 42, 27, 182, 1, 41, 153, 0, 12, 42, 180, 0, 117, 16, 8, 160, 0, 5, 2, 172]
abbrev dktX14_twin_0 : List UInt8 := dkwX14_twin_0 ++ dktX14_twin_1
theorem dksX14_twin_0 : cX14_twin.data.toList.drop 0 = dktX14_twin_0 := by decide +kernel
theorem dksX14_twin_1 : cX14_twin.data.toList.drop 24 = dktX14_twin_1 := dk_seg dksX14_twin_0 24 rfl rfl
theorem dksX14_twin_2 : cX14_twin.data.toList.drop 48 = dktX14_twin_2 := dk_seg dksX14_twin_1 24 rfl rfl
theorem dksX14_twin_3 : cX14_twin.data.toList.drop 72 = dktX14_twin_3 := dk_seg dksX14_twin_2 24 rfl rfl
theorem dksX14_twin_4 : cX14_twin.data.toList.drop 94 = dktX14_twin_4 := dk_seg dksX14_twin_3 22 rfl rfl
theorem dksX14_twin_5 : cX14_twin.data.toList.drop 118 = dktX14_twin_5 := dk_seg dksX14_twin_4 24 rfl rfl
theorem dX14_twin_0 : decode cX14_twin 0 = .ok (.aload_n 0, 1) := dk_42 (dk_at dksX14_twin_0 0 rfl rfl)
theorem dX14_twin_1 : decode cX14_twin 1 = .ok (.iconst 0, 1) := dk_3 (dk_at dksX14_twin_0 1 rfl rfl)
theorem dX14_twin_2 : decode cX14_twin 2 = .ok (.putfield 3, 3) := dk_181 0 3 (dk_at dksX14_twin_0 2 rfl rfl)
theorem dX14_twin_5 : decode cX14_twin 5 = .ok (.aload_n 0, 1) := dk_42 (dk_at dksX14_twin_0 5 rfl rfl)
theorem dX14_twin_6 : decode cX14_twin 6 = .ok (.iload_n 1, 1) := dk_27 (dk_at dksX14_twin_0 6 rfl rfl)
theorem dX14_twin_7 : decode cX14_twin 7 = .ok (.invokevirtual 297, 3) := dk_182 1 41 (dk_at dksX14_twin_0 7 rfl rfl)
theorem dX14_twin_10 : decode cX14_twin 10 = .ok (.ifCond .eq 12, 3) := dk_153 0 12 (dk_at dksX14_twin_0 10 rfl rfl)
theorem dX14_twin_13 : decode cX14_twin 13 = .ok (.aload_n 0, 1) := dk_42 (dk_at dksX14_twin_0 13 rfl rfl)
theorem dX14_twin_14 : decode cX14_twin 14 = .ok (.getfield 117, 3) := dk_180 0 117 (dk_at dksX14_twin_0 14 rfl rfl)
theorem dX14_twin_17 : decode cX14_twin 17 = .ok (.bipush 8, 2) := dk_16 8 (dk_at dksX14_twin_0 17 rfl rfl)
theorem dX14_twin_19 : decode cX14_twin 19 = .ok (.if_icmp .ne 5, 3) := dk_160 0 5 (dk_at dksX14_twin_0 19 rfl rfl)
theorem dX14_twin_22 : decode cX14_twin 22 = .ok (.iconst (-1), 1) := dk_2 (dk_at dksX14_twin_0 22 rfl rfl)
theorem dX14_twin_23 : decode cX14_twin 23 = .ok (.ireturn, 1) := dk_172 (dk_at dksX14_twin_0 23 rfl rfl)
theorem dX14_twin_24 : decode cX14_twin 24 = .ok (.aload_n 0, 1) := dk_42 (dk_at dksX14_twin_1 0 rfl rfl)
theorem dX14_twin_25 : decode cX14_twin 25 = .ok (.getfield 117, 3) := dk_180 0 117 (dk_at dksX14_twin_1 1 rfl rfl)
theorem dX14_twin_28 : decode cX14_twin 28 = .ok (.istore_n 2, 1) := dk_61 (dk_at dksX14_twin_1 4 rfl rfl)
theorem dX14_twin_29 : decode cX14_twin 29 = .ok (.aload_n 0, 1) := dk_42 (dk_at dksX14_twin_1 5 rfl rfl)
theorem dX14_twin_30 : decode cX14_twin 30 = .ok (.dup, 1) := dk_89 (dk_at dksX14_twin_1 6 rfl rfl)
theorem dX14_twin_31 : decode cX14_twin 31 = .ok (.getfield 117, 3) := dk_180 0 117 (dk_at dksX14_twin_1 7 rfl rfl)
theorem dX14_twin_34 : decode cX14_twin 34 = .ok (.iconst 1, 1) := dk_4 (dk_at dksX14_twin_1 10 rfl rfl)
theorem dX14_twin_35 : decode cX14_twin 35 = .ok (.iadd, 1) := dk_96 (dk_at dksX14_twin_1 11 rfl rfl)
theorem dX14_twin_36 : decode cX14_twin 36 = .ok (.putfield 117, 3) := dk_181 0 117 (dk_at dksX14_twin_1 12 rfl rfl)
theorem dX14_twin_39 : decode cX14_twin 39 = .ok (.aload_n 0, 1) := dk_42 (dk_at dksX14_twin_1 15 rfl rfl)
theorem dX14_twin_40 : decode cX14_twin 40 = .ok (.getfield 44, 3) := dk_180 0 44 (dk_at dksX14_twin_1 16 rfl rfl)
theorem dX14_twin_43 : decode cX14_twin 43 = .ok (.iload_n 2, 1) := dk_28 (dk_at dksX14_twin_1 19 rfl rfl)
theorem dX14_twin_44 : decode cX14_twin 44 = .ok (.aload_n 0, 1) := dk_42 (dk_at dksX14_twin_1 20 rfl rfl)
theorem dX14_twin_45 : decode cX14_twin 45 = .ok (.getfield 44, 3) := dk_180 0 44 (dk_at dksX14_twin_1 21 rfl rfl)
theorem dX14_twin_48 : decode cX14_twin 48 = .ok (.iload_n 1, 1) := dk_27 (dk_at dksX14_twin_2 0 rfl rfl)
theorem dX14_twin_49 : decode cX14_twin 49 = .ok (.iaload, 1) := dk_46 (dk_at dksX14_twin_2 1 rfl rfl)
theorem dX14_twin_50 : decode cX14_twin 50 = .ok (.iastore, 1) := dk_79 (dk_at dksX14_twin_2 2 rfl rfl)
theorem dX14_twin_51 : decode cX14_twin 51 = .ok (.aload_n 0, 1) := dk_42 (dk_at dksX14_twin_2 3 rfl rfl)
theorem dX14_twin_52 : decode cX14_twin 52 = .ok (.getfield 28, 3) := dk_180 0 28 (dk_at dksX14_twin_2 4 rfl rfl)
theorem dX14_twin_55 : decode cX14_twin 55 = .ok (.iload_n 2, 1) := dk_28 (dk_at dksX14_twin_2 7 rfl rfl)
theorem dX14_twin_56 : decode cX14_twin 56 = .ok (.aload_n 0, 1) := dk_42 (dk_at dksX14_twin_2 8 rfl rfl)
theorem dX14_twin_57 : decode cX14_twin 57 = .ok (.getfield 28, 3) := dk_180 0 28 (dk_at dksX14_twin_2 9 rfl rfl)
theorem dX14_twin_60 : decode cX14_twin 60 = .ok (.iload_n 1, 1) := dk_27 (dk_at dksX14_twin_2 12 rfl rfl)
theorem dX14_twin_61 : decode cX14_twin 61 = .ok (.iaload, 1) := dk_46 (dk_at dksX14_twin_2 13 rfl rfl)
theorem dX14_twin_62 : decode cX14_twin 62 = .ok (.iastore, 1) := dk_79 (dk_at dksX14_twin_2 14 rfl rfl)
theorem dX14_twin_63 : decode cX14_twin 63 = .ok (.iconst 0, 1) := dk_3 (dk_at dksX14_twin_2 15 rfl rfl)
theorem dX14_twin_64 : decode cX14_twin 64 = .ok (.istore_n 3, 1) := dk_62 (dk_at dksX14_twin_2 16 rfl rfl)
theorem dX14_twin_65 : decode cX14_twin 65 = .ok (.iload_n 3, 1) := dk_29 (dk_at dksX14_twin_2 17 rfl rfl)
theorem dX14_twin_66 : decode cX14_twin 66 = .ok (.bipush 6, 2) := dk_16 6 (dk_at dksX14_twin_2 18 rfl rfl)
theorem dX14_twin_68 : decode cX14_twin 68 = .ok (.if_icmp .ge 29, 3) := dk_162 0 29 (dk_at dksX14_twin_2 20 rfl rfl)
theorem dX14_twin_71 : decode cX14_twin 71 = .ok (.aload_n 0, 1) := dk_42 (dk_at dksX14_twin_2 23 rfl rfl)
theorem dX14_twin_72 : decode cX14_twin 72 = .ok (.getfield 59, 3) := dk_180 0 59 (dk_at dksX14_twin_3 0 rfl rfl)
theorem dX14_twin_75 : decode cX14_twin 75 = .ok (.bipush 48, 2) := dk_16 48 (dk_at dksX14_twin_3 3 rfl rfl)
theorem dX14_twin_77 : decode cX14_twin 77 = .ok (.iload_n 3, 1) := dk_29 (dk_at dksX14_twin_3 5 rfl rfl)
theorem dX14_twin_78 : decode cX14_twin 78 = .ok (.iadd, 1) := dk_96 (dk_at dksX14_twin_3 6 rfl rfl)
theorem dX14_twin_79 : decode cX14_twin 79 = .ok (.aload_n 0, 1) := dk_42 (dk_at dksX14_twin_3 7 rfl rfl)
theorem dX14_twin_80 : decode cX14_twin 80 = .ok (.getfield 35, 3) := dk_180 0 35 (dk_at dksX14_twin_3 8 rfl rfl)
theorem dX14_twin_83 : decode cX14_twin 83 = .ok (.bipush 6, 2) := dk_16 6 (dk_at dksX14_twin_3 11 rfl rfl)
theorem dX14_twin_85 : decode cX14_twin 85 = .ok (.iload_n 1, 1) := dk_27 (dk_at dksX14_twin_3 13 rfl rfl)
theorem dX14_twin_86 : decode cX14_twin 86 = .ok (.imul, 1) := dk_104 (dk_at dksX14_twin_3 14 rfl rfl)
theorem dX14_twin_87 : decode cX14_twin 87 = .ok (.iload_n 3, 1) := dk_29 (dk_at dksX14_twin_3 15 rfl rfl)
theorem dX14_twin_88 : decode cX14_twin 88 = .ok (.iadd, 1) := dk_96 (dk_at dksX14_twin_3 16 rfl rfl)
theorem dX14_twin_89 : decode cX14_twin 89 = .ok (.iaload, 1) := dk_46 (dk_at dksX14_twin_3 17 rfl rfl)
theorem dX14_twin_90 : decode cX14_twin 90 = .ok (.iastore, 1) := dk_79 (dk_at dksX14_twin_3 18 rfl rfl)
theorem dX14_twin_91 : decode cX14_twin 91 = .ok (.iinc 3 1, 3) := dk_132 3 1 (dk_at dksX14_twin_3 19 rfl rfl)
theorem dX14_twin_94 : decode cX14_twin 94 = .ok (.goto (-29), 3) := dk_167 255 227 (dk_at dksX14_twin_4 0 rfl rfl)
theorem dX14_twin_97 : decode cX14_twin 97 = .ok (.aload_n 0, 1) := dk_42 (dk_at dksX14_twin_4 3 rfl rfl)
theorem dX14_twin_98 : decode cX14_twin 98 = .ok (.getfield 62, 3) := dk_180 0 62 (dk_at dksX14_twin_4 4 rfl rfl)
theorem dX14_twin_101 : decode cX14_twin 101 = .ok (.bipush 8, 2) := dk_16 8 (dk_at dksX14_twin_4 7 rfl rfl)
theorem dX14_twin_103 : decode cX14_twin 103 = .ok (.aload_n 0, 1) := dk_42 (dk_at dksX14_twin_4 9 rfl rfl)
theorem dX14_twin_104 : decode cX14_twin 104 = .ok (.getfield 38, 3) := dk_180 0 38 (dk_at dksX14_twin_4 10 rfl rfl)
theorem dX14_twin_107 : decode cX14_twin 107 = .ok (.iload_n 1, 1) := dk_27 (dk_at dksX14_twin_4 13 rfl rfl)
theorem dX14_twin_108 : decode cX14_twin 108 = .ok (.iaload, 1) := dk_46 (dk_at dksX14_twin_4 14 rfl rfl)
theorem dX14_twin_109 : decode cX14_twin 109 = .ok (.iastore, 1) := dk_79 (dk_at dksX14_twin_4 15 rfl rfl)
theorem dX14_twin_110 : decode cX14_twin 110 = .ok (.aload_n 0, 1) := dk_42 (dk_at dksX14_twin_4 16 rfl rfl)
theorem dX14_twin_111 : decode cX14_twin 111 = .ok (.iload_n 2, 1) := dk_28 (dk_at dksX14_twin_4 17 rfl rfl)
theorem dX14_twin_112 : decode cX14_twin 112 = .ok (.bipush 8, 2) := dk_16 8 (dk_at dksX14_twin_4 18 rfl rfl)
theorem dX14_twin_114 : decode cX14_twin 114 = .ok (.invokevirtual 203, 3) := dk_182 0 203 (dk_at dksX14_twin_4 20 rfl rfl)
theorem dX14_twin_117 : decode cX14_twin 117 = .ok (.aload_n 0, 1) := dk_42 (dk_at dksX14_twin_4 23 rfl rfl)
theorem dX14_twin_118 : decode cX14_twin 118 = .ok (.getfield 32, 3) := dk_180 0 32 (dk_at dksX14_twin_5 0 rfl rfl)
theorem dX14_twin_121 : decode cX14_twin 121 = .ok (.iload_n 2, 1) := dk_28 (dk_at dksX14_twin_5 3 rfl rfl)
theorem dX14_twin_122 : decode cX14_twin 122 = .ok (.aload_n 0, 1) := dk_42 (dk_at dksX14_twin_5 4 rfl rfl)
theorem dX14_twin_123 : decode cX14_twin 123 = .ok (.getfield 32, 3) := dk_180 0 32 (dk_at dksX14_twin_5 5 rfl rfl)
theorem dX14_twin_126 : decode cX14_twin 126 = .ok (.iload_n 1, 1) := dk_27 (dk_at dksX14_twin_5 8 rfl rfl)
theorem dX14_twin_127 : decode cX14_twin 127 = .ok (.iaload, 1) := dk_46 (dk_at dksX14_twin_5 9 rfl rfl)
theorem dX14_twin_128 : decode cX14_twin 128 = .ok (.iastore, 1) := dk_79 (dk_at dksX14_twin_5 10 rfl rfl)
theorem dX14_twin_129 : decode cX14_twin 129 = .ok (.aload_n 0, 1) := dk_42 (dk_at dksX14_twin_5 11 rfl rfl)
theorem dX14_twin_130 : decode cX14_twin 130 = .ok (.iconst 0, 1) := dk_3 (dk_at dksX14_twin_5 12 rfl rfl)
theorem dX14_twin_131 : decode cX14_twin 131 = .ok (.putfield 207, 3) := dk_181 0 207 (dk_at dksX14_twin_5 13 rfl rfl)
theorem dX14_twin_134 : decode cX14_twin 134 = .ok (.iload_n 2, 1) := dk_28 (dk_at dksX14_twin_5 16 rfl rfl)
theorem dX14_twin_135 : decode cX14_twin 135 = .ok (.ireturn, 1) := dk_172 (dk_at dksX14_twin_5 17 rfl rfl)
def dkwX14_odds_8 : List UInt8 := [167, 255, 171, 42, 33, 20, 1, 130, 182, 1, 122, 3, 172]
abbrev dktX14_odds_8 : List UInt8 := dkwX14_odds_8 ++ []
def dkwX14_odds_7 : List UInt8 := [182, 1, 126, 33, 42, 180, 0, 98, 21, 5, 47, 42, 180, 0, 101, 27, 47, 105, 97, 66, 132, 5, 1]
abbrev dktX14_odds_7 : List UInt8 := dkwX14_odds_7 ++ dktX14_odds_8
def dkwX14_odds_6 : List UInt8 := [160, 0, 7, 3, 167, 0, 7, 4, 21, 5, 120, 182, 1, 26, 42, 42, 180, 0, 104, 42, 180, 0, 101]
abbrev dktX14_odds_6 : List UInt8 := dkwX14_odds_6 ++ dktX14_odds_7
def dkwX14_odds_5 : List UInt8 := [158, 0, 66, 42, 180, 0, 44, 42, 180, 0, 104, 184, 1, 47, 42, 42, 180, 0, 104, 21, 5, 16, 8]
abbrev dktX14_odds_5 : List UInt8 := dkwX14_odds_5 ++ dktX14_odds_6
def dkwX14_odds_4 : List UInt8 := [3, 172, 9, 66, 3, 54, 5, 21, 5, 16, 8, 163, 0, 84, 42, 180, 0, 98, 21, 5, 47, 9, 148]
abbrev dktX14_odds_4 : List UInt8 := dkwX14_odds_4 ++ dktX14_odds_5
def dkwX14_odds_3 : List UInt8 := [180, 0, 98, 182, 1, 126, 28, 4, 160, 0, 18, 42, 42, 180, 0, 98, 27, 47, 20, 1, 118, 182, 1, 122]
abbrev dktX14_odds_3 : List UInt8 := dkwX14_odds_3 ++ dktX14_odds_4
def dkwX14_odds_2 : List UInt8 := [160, 0, 7, 4, 167, 0, 4, 3, 184, 0, 150, 133, 10, 182, 1, 122, 3, 172, 42, 42, 180, 0, 44, 42]
abbrev dktX14_odds_2 : List UInt8 := dkwX14_odds_2 ++ dktX14_odds_3
def dkwX14_odds_1 : List UInt8 := [154, 0, 5, 2, 172, 42, 3, 181, 0, 15, 28, 154, 0, 30, 42, 42, 180, 0, 44, 16, 17, 46, 27]
abbrev dktX14_odds_1 : List UInt8 := dkwX14_odds_1 ++ dktX14_odds_2
def dkwX14_odds_0 : List UInt8 := [42, 3, 181, 0, 3, 42, 27, 182, 0, 124, 153, 0, 15, 28, 133, 9, 20, 1, 120, 184, 0, 120]
abbrev dktX14_odds_0 : List UInt8 := dkwX14_odds_0 ++ dktX14_odds_1
theorem dksX14_odds_0 : cX14_odds.data.toList.drop 0 = dktX14_odds_0 := by decide +kernel
theorem dksX14_odds_1 : cX14_odds.data.toList.drop 22 = dktX14_odds_1 := dk_seg dksX14_odds_0 22 rfl rfl
theorem dksX14_odds_2 : cX14_odds.data.toList.drop 45 = dktX14_odds_2 := dk_seg dksX14_odds_1 23 rfl rfl
theorem dksX14_odds_3 : cX14_odds.data.toList.drop 69 = dktX14_odds_3 := dk_seg dksX14_odds_2 24 rfl rfl
theorem dksX14_odds_4 : cX14_odds.data.toList.drop 93 = dktX14_odds_4 := dk_seg dksX14_odds_3 24 rfl rfl
theorem dksX14_odds_5 : cX14_odds.data.toList.drop 116 = dktX14_odds_5 := dk_seg dksX14_odds_4 23 rfl rfl
theorem dksX14_odds_6 : cX14_odds.data.toList.drop 139 = dktX14_odds_6 := dk_seg dksX14_odds_5 23 rfl rfl
theorem dksX14_odds_7 : cX14_odds.data.toList.drop 162 = dktX14_odds_7 := dk_seg dksX14_odds_6 23 rfl rfl
theorem dksX14_odds_8 : cX14_odds.data.toList.drop 185 = dktX14_odds_8 := dk_seg dksX14_odds_7 23 rfl rfl
theorem dX14_odds_0 : decode cX14_odds 0 = .ok (.aload_n 0, 1) := dk_42 (dk_at dksX14_odds_0 0 rfl rfl)
theorem dX14_odds_1 : decode cX14_odds 1 = .ok (.iconst 0, 1) := dk_3 (dk_at dksX14_odds_0 1 rfl rfl)
theorem dX14_odds_2 : decode cX14_odds 2 = .ok (.putfield 3, 3) := dk_181 0 3 (dk_at dksX14_odds_0 2 rfl rfl)
theorem dX14_odds_5 : decode cX14_odds 5 = .ok (.aload_n 0, 1) := dk_42 (dk_at dksX14_odds_0 5 rfl rfl)
theorem dX14_odds_6 : decode cX14_odds 6 = .ok (.iload_n 1, 1) := dk_27 (dk_at dksX14_odds_0 6 rfl rfl)
theorem dX14_odds_7 : decode cX14_odds 7 = .ok (.invokevirtual 124, 3) := dk_182 0 124 (dk_at dksX14_odds_0 7 rfl rfl)
theorem dX14_odds_10 : decode cX14_odds 10 = .ok (.ifCond .eq 15, 3) := dk_153 0 15 (dk_at dksX14_odds_0 10 rfl rfl)
theorem dX14_odds_13 : decode cX14_odds 13 = .ok (.iload_n 2, 1) := dk_28 (dk_at dksX14_odds_0 13 rfl rfl)
theorem dX14_odds_14 : decode cX14_odds 14 = .ok (.i2l, 1) := dk_133 (dk_at dksX14_odds_0 14 rfl rfl)
theorem dX14_odds_15 : decode cX14_odds 15 = .ok (.lconst 0, 1) := dk_9 (dk_at dksX14_odds_0 15 rfl rfl)
theorem dX14_odds_16 : decode cX14_odds 16 = .ok (.ldc2_w 376, 3) := dk_20 1 120 (dk_at dksX14_odds_0 16 rfl rfl)
theorem dX14_odds_19 : decode cX14_odds 19 = .ok (.invokestatic 120, 3) := dk_184 0 120 (dk_at dksX14_odds_0 19 rfl rfl)
theorem dX14_odds_22 : decode cX14_odds 22 = .ok (.ifCond .ne 5, 3) := dk_154 0 5 (dk_at dksX14_odds_1 0 rfl rfl)
theorem dX14_odds_25 : decode cX14_odds 25 = .ok (.iconst (-1), 1) := dk_2 (dk_at dksX14_odds_1 3 rfl rfl)
theorem dX14_odds_26 : decode cX14_odds 26 = .ok (.ireturn, 1) := dk_172 (dk_at dksX14_odds_1 4 rfl rfl)
theorem dX14_odds_27 : decode cX14_odds 27 = .ok (.aload_n 0, 1) := dk_42 (dk_at dksX14_odds_1 5 rfl rfl)
theorem dX14_odds_28 : decode cX14_odds 28 = .ok (.iconst 0, 1) := dk_3 (dk_at dksX14_odds_1 6 rfl rfl)
theorem dX14_odds_29 : decode cX14_odds 29 = .ok (.putfield 15, 3) := dk_181 0 15 (dk_at dksX14_odds_1 7 rfl rfl)
theorem dX14_odds_32 : decode cX14_odds 32 = .ok (.iload_n 2, 1) := dk_28 (dk_at dksX14_odds_1 10 rfl rfl)
theorem dX14_odds_33 : decode cX14_odds 33 = .ok (.ifCond .ne 30, 3) := dk_154 0 30 (dk_at dksX14_odds_1 11 rfl rfl)
theorem dX14_odds_36 : decode cX14_odds 36 = .ok (.aload_n 0, 1) := dk_42 (dk_at dksX14_odds_1 14 rfl rfl)
theorem dX14_odds_37 : decode cX14_odds 37 = .ok (.aload_n 0, 1) := dk_42 (dk_at dksX14_odds_1 15 rfl rfl)
theorem dX14_odds_38 : decode cX14_odds 38 = .ok (.getfield 44, 3) := dk_180 0 44 (dk_at dksX14_odds_1 16 rfl rfl)
theorem dX14_odds_41 : decode cX14_odds 41 = .ok (.bipush 17, 2) := dk_16 17 (dk_at dksX14_odds_1 19 rfl rfl)
theorem dX14_odds_43 : decode cX14_odds 43 = .ok (.iaload, 1) := dk_46 (dk_at dksX14_odds_1 21 rfl rfl)
theorem dX14_odds_44 : decode cX14_odds 44 = .ok (.iload_n 1, 1) := dk_27 (dk_at dksX14_odds_1 22 rfl rfl)
theorem dX14_odds_45 : decode cX14_odds 45 = .ok (.if_icmp .ne 7, 3) := dk_160 0 7 (dk_at dksX14_odds_2 0 rfl rfl)
theorem dX14_odds_48 : decode cX14_odds 48 = .ok (.iconst 1, 1) := dk_4 (dk_at dksX14_odds_2 3 rfl rfl)
theorem dX14_odds_49 : decode cX14_odds 49 = .ok (.goto 4, 3) := dk_167 0 4 (dk_at dksX14_odds_2 4 rfl rfl)
theorem dX14_odds_52 : decode cX14_odds 52 = .ok (.iconst 0, 1) := dk_3 (dk_at dksX14_odds_2 7 rfl rfl)
theorem dX14_odds_53 : decode cX14_odds 53 = .ok (.invokestatic 150, 3) := dk_184 0 150 (dk_at dksX14_odds_2 8 rfl rfl)
theorem dX14_odds_56 : decode cX14_odds 56 = .ok (.i2l, 1) := dk_133 (dk_at dksX14_odds_2 11 rfl rfl)
theorem dX14_odds_57 : decode cX14_odds 57 = .ok (.lconst 1, 1) := dk_10 (dk_at dksX14_odds_2 12 rfl rfl)
theorem dX14_odds_58 : decode cX14_odds 58 = .ok (.invokevirtual 378, 3) := dk_182 1 122 (dk_at dksX14_odds_2 13 rfl rfl)
theorem dX14_odds_61 : decode cX14_odds 61 = .ok (.iconst 0, 1) := dk_3 (dk_at dksX14_odds_2 16 rfl rfl)
theorem dX14_odds_62 : decode cX14_odds 62 = .ok (.ireturn, 1) := dk_172 (dk_at dksX14_odds_2 17 rfl rfl)
theorem dX14_odds_63 : decode cX14_odds 63 = .ok (.aload_n 0, 1) := dk_42 (dk_at dksX14_odds_2 18 rfl rfl)
theorem dX14_odds_64 : decode cX14_odds 64 = .ok (.aload_n 0, 1) := dk_42 (dk_at dksX14_odds_2 19 rfl rfl)
theorem dX14_odds_65 : decode cX14_odds 65 = .ok (.getfield 44, 3) := dk_180 0 44 (dk_at dksX14_odds_2 20 rfl rfl)
theorem dX14_odds_68 : decode cX14_odds 68 = .ok (.aload_n 0, 1) := dk_42 (dk_at dksX14_odds_2 23 rfl rfl)
theorem dX14_odds_69 : decode cX14_odds 69 = .ok (.getfield 98, 3) := dk_180 0 98 (dk_at dksX14_odds_3 0 rfl rfl)
theorem dX14_odds_72 : decode cX14_odds 72 = .ok (.invokevirtual 382, 3) := dk_182 1 126 (dk_at dksX14_odds_3 3 rfl rfl)
theorem dX14_odds_75 : decode cX14_odds 75 = .ok (.iload_n 2, 1) := dk_28 (dk_at dksX14_odds_3 6 rfl rfl)
theorem dX14_odds_76 : decode cX14_odds 76 = .ok (.iconst 1, 1) := dk_4 (dk_at dksX14_odds_3 7 rfl rfl)
theorem dX14_odds_77 : decode cX14_odds 77 = .ok (.if_icmp .ne 18, 3) := dk_160 0 18 (dk_at dksX14_odds_3 8 rfl rfl)
theorem dX14_odds_80 : decode cX14_odds 80 = .ok (.aload_n 0, 1) := dk_42 (dk_at dksX14_odds_3 11 rfl rfl)
theorem dX14_odds_81 : decode cX14_odds 81 = .ok (.aload_n 0, 1) := dk_42 (dk_at dksX14_odds_3 12 rfl rfl)
theorem dX14_odds_82 : decode cX14_odds 82 = .ok (.getfield 98, 3) := dk_180 0 98 (dk_at dksX14_odds_3 13 rfl rfl)
theorem dX14_odds_85 : decode cX14_odds 85 = .ok (.iload_n 1, 1) := dk_27 (dk_at dksX14_odds_3 16 rfl rfl)
theorem dX14_odds_86 : decode cX14_odds 86 = .ok (.laload, 1) := dk_47 (dk_at dksX14_odds_3 17 rfl rfl)
theorem dX14_odds_87 : decode cX14_odds 87 = .ok (.ldc2_w 374, 3) := dk_20 1 118 (dk_at dksX14_odds_3 18 rfl rfl)
theorem dX14_odds_90 : decode cX14_odds 90 = .ok (.invokevirtual 378, 3) := dk_182 1 122 (dk_at dksX14_odds_3 21 rfl rfl)
theorem dX14_odds_93 : decode cX14_odds 93 = .ok (.iconst 0, 1) := dk_3 (dk_at dksX14_odds_4 0 rfl rfl)
theorem dX14_odds_94 : decode cX14_odds 94 = .ok (.ireturn, 1) := dk_172 (dk_at dksX14_odds_4 1 rfl rfl)
theorem dX14_odds_95 : decode cX14_odds 95 = .ok (.lconst 0, 1) := dk_9 (dk_at dksX14_odds_4 2 rfl rfl)
theorem dX14_odds_96 : decode cX14_odds 96 = .ok (.lstore_n 3, 1) := dk_66 (dk_at dksX14_odds_4 3 rfl rfl)
theorem dX14_odds_97 : decode cX14_odds 97 = .ok (.iconst 0, 1) := dk_3 (dk_at dksX14_odds_4 4 rfl rfl)
theorem dX14_odds_98 : decode cX14_odds 98 = .ok (.istore 5, 2) := dk_54 5 (dk_at dksX14_odds_4 5 rfl rfl)
theorem dX14_odds_100 : decode cX14_odds 100 = .ok (.iload 5, 2) := dk_21 5 (dk_at dksX14_odds_4 7 rfl rfl)
theorem dX14_odds_102 : decode cX14_odds 102 = .ok (.bipush 8, 2) := dk_16 8 (dk_at dksX14_odds_4 9 rfl rfl)
theorem dX14_odds_104 : decode cX14_odds 104 = .ok (.if_icmp .gt 84, 3) := dk_163 0 84 (dk_at dksX14_odds_4 11 rfl rfl)
theorem dX14_odds_107 : decode cX14_odds 107 = .ok (.aload_n 0, 1) := dk_42 (dk_at dksX14_odds_4 14 rfl rfl)
theorem dX14_odds_108 : decode cX14_odds 108 = .ok (.getfield 98, 3) := dk_180 0 98 (dk_at dksX14_odds_4 15 rfl rfl)
theorem dX14_odds_111 : decode cX14_odds 111 = .ok (.iload 5, 2) := dk_21 5 (dk_at dksX14_odds_4 18 rfl rfl)
theorem dX14_odds_113 : decode cX14_odds 113 = .ok (.laload, 1) := dk_47 (dk_at dksX14_odds_4 20 rfl rfl)
theorem dX14_odds_114 : decode cX14_odds 114 = .ok (.lconst 0, 1) := dk_9 (dk_at dksX14_odds_4 21 rfl rfl)
theorem dX14_odds_115 : decode cX14_odds 115 = .ok (.lcmp, 1) := dk_148 (dk_at dksX14_odds_4 22 rfl rfl)
theorem dX14_odds_116 : decode cX14_odds 116 = .ok (.ifCond .le 66, 3) := dk_158 0 66 (dk_at dksX14_odds_5 0 rfl rfl)
theorem dX14_odds_119 : decode cX14_odds 119 = .ok (.aload_n 0, 1) := dk_42 (dk_at dksX14_odds_5 3 rfl rfl)
theorem dX14_odds_120 : decode cX14_odds 120 = .ok (.getfield 44, 3) := dk_180 0 44 (dk_at dksX14_odds_5 4 rfl rfl)
theorem dX14_odds_123 : decode cX14_odds 123 = .ok (.aload_n 0, 1) := dk_42 (dk_at dksX14_odds_5 7 rfl rfl)
theorem dX14_odds_124 : decode cX14_odds 124 = .ok (.getfield 104, 3) := dk_180 0 104 (dk_at dksX14_odds_5 8 rfl rfl)
theorem dX14_odds_127 : decode cX14_odds 127 = .ok (.invokestatic 303, 3) := dk_184 1 47 (dk_at dksX14_odds_5 11 rfl rfl)
theorem dX14_odds_130 : decode cX14_odds 130 = .ok (.aload_n 0, 1) := dk_42 (dk_at dksX14_odds_5 14 rfl rfl)
theorem dX14_odds_131 : decode cX14_odds 131 = .ok (.aload_n 0, 1) := dk_42 (dk_at dksX14_odds_5 15 rfl rfl)
theorem dX14_odds_132 : decode cX14_odds 132 = .ok (.getfield 104, 3) := dk_180 0 104 (dk_at dksX14_odds_5 16 rfl rfl)
theorem dX14_odds_135 : decode cX14_odds 135 = .ok (.iload 5, 2) := dk_21 5 (dk_at dksX14_odds_5 19 rfl rfl)
theorem dX14_odds_137 : decode cX14_odds 137 = .ok (.bipush 8, 2) := dk_16 8 (dk_at dksX14_odds_5 21 rfl rfl)
theorem dX14_odds_139 : decode cX14_odds 139 = .ok (.if_icmp .ne 7, 3) := dk_160 0 7 (dk_at dksX14_odds_6 0 rfl rfl)
theorem dX14_odds_142 : decode cX14_odds 142 = .ok (.iconst 0, 1) := dk_3 (dk_at dksX14_odds_6 3 rfl rfl)
theorem dX14_odds_143 : decode cX14_odds 143 = .ok (.goto 7, 3) := dk_167 0 7 (dk_at dksX14_odds_6 4 rfl rfl)
theorem dX14_odds_146 : decode cX14_odds 146 = .ok (.iconst 1, 1) := dk_4 (dk_at dksX14_odds_6 7 rfl rfl)
theorem dX14_odds_147 : decode cX14_odds 147 = .ok (.iload 5, 2) := dk_21 5 (dk_at dksX14_odds_6 8 rfl rfl)
theorem dX14_odds_149 : decode cX14_odds 149 = .ok (.ishl, 1) := dk_120 (dk_at dksX14_odds_6 10 rfl rfl)
theorem dX14_odds_150 : decode cX14_odds 150 = .ok (.invokevirtual 282, 3) := dk_182 1 26 (dk_at dksX14_odds_6 11 rfl rfl)
theorem dX14_odds_153 : decode cX14_odds 153 = .ok (.aload_n 0, 1) := dk_42 (dk_at dksX14_odds_6 14 rfl rfl)
theorem dX14_odds_154 : decode cX14_odds 154 = .ok (.aload_n 0, 1) := dk_42 (dk_at dksX14_odds_6 15 rfl rfl)
theorem dX14_odds_155 : decode cX14_odds 155 = .ok (.getfield 104, 3) := dk_180 0 104 (dk_at dksX14_odds_6 16 rfl rfl)
theorem dX14_odds_158 : decode cX14_odds 158 = .ok (.aload_n 0, 1) := dk_42 (dk_at dksX14_odds_6 19 rfl rfl)
theorem dX14_odds_159 : decode cX14_odds 159 = .ok (.getfield 101, 3) := dk_180 0 101 (dk_at dksX14_odds_6 20 rfl rfl)
theorem dX14_odds_162 : decode cX14_odds 162 = .ok (.invokevirtual 382, 3) := dk_182 1 126 (dk_at dksX14_odds_7 0 rfl rfl)
theorem dX14_odds_165 : decode cX14_odds 165 = .ok (.lload_n 3, 1) := dk_33 (dk_at dksX14_odds_7 3 rfl rfl)
theorem dX14_odds_166 : decode cX14_odds 166 = .ok (.aload_n 0, 1) := dk_42 (dk_at dksX14_odds_7 4 rfl rfl)
theorem dX14_odds_167 : decode cX14_odds 167 = .ok (.getfield 98, 3) := dk_180 0 98 (dk_at dksX14_odds_7 5 rfl rfl)
theorem dX14_odds_170 : decode cX14_odds 170 = .ok (.iload 5, 2) := dk_21 5 (dk_at dksX14_odds_7 8 rfl rfl)
theorem dX14_odds_172 : decode cX14_odds 172 = .ok (.laload, 1) := dk_47 (dk_at dksX14_odds_7 10 rfl rfl)
theorem dX14_odds_173 : decode cX14_odds 173 = .ok (.aload_n 0, 1) := dk_42 (dk_at dksX14_odds_7 11 rfl rfl)
theorem dX14_odds_174 : decode cX14_odds 174 = .ok (.getfield 101, 3) := dk_180 0 101 (dk_at dksX14_odds_7 12 rfl rfl)
theorem dX14_odds_177 : decode cX14_odds 177 = .ok (.iload_n 1, 1) := dk_27 (dk_at dksX14_odds_7 15 rfl rfl)
theorem dX14_odds_178 : decode cX14_odds 178 = .ok (.laload, 1) := dk_47 (dk_at dksX14_odds_7 16 rfl rfl)
theorem dX14_odds_179 : decode cX14_odds 179 = .ok (.lmul, 1) := dk_105 (dk_at dksX14_odds_7 17 rfl rfl)
theorem dX14_odds_180 : decode cX14_odds 180 = .ok (.ladd, 1) := dk_97 (dk_at dksX14_odds_7 18 rfl rfl)
theorem dX14_odds_181 : decode cX14_odds 181 = .ok (.lstore_n 3, 1) := dk_66 (dk_at dksX14_odds_7 19 rfl rfl)
theorem dX14_odds_182 : decode cX14_odds 182 = .ok (.iinc 5 1, 3) := dk_132 5 1 (dk_at dksX14_odds_7 20 rfl rfl)
theorem dX14_odds_185 : decode cX14_odds 185 = .ok (.goto (-85), 3) := dk_167 255 171 (dk_at dksX14_odds_8 0 rfl rfl)
theorem dX14_odds_188 : decode cX14_odds 188 = .ok (.aload_n 0, 1) := dk_42 (dk_at dksX14_odds_8 3 rfl rfl)
theorem dX14_odds_189 : decode cX14_odds 189 = .ok (.lload_n 3, 1) := dk_33 (dk_at dksX14_odds_8 4 rfl rfl)
theorem dX14_odds_190 : decode cX14_odds 190 = .ok (.ldc2_w 386, 3) := dk_20 1 130 (dk_at dksX14_odds_8 5 rfl rfl)
theorem dX14_odds_193 : decode cX14_odds 193 = .ok (.invokevirtual 378, 3) := dk_182 1 122 (dk_at dksX14_odds_8 8 rfl rfl)
theorem dX14_odds_196 : decode cX14_odds 196 = .ok (.iconst 0, 1) := dk_3 (dk_at dksX14_odds_8 11 rfl rfl)
theorem dX14_odds_197 : decode cX14_odds 197 = .ok (.ireturn, 1) := dk_172 (dk_at dksX14_odds_8 12 rfl rfl)
def dkwX14_entersFraction_0 : List UInt8 := [31, 33, 184, 0, 7, 55, 5, 42, 31, 22, 5, 109, 182, 0, 18, 42, 33, 22, 5, 109, 182, 0, 18, 177]
abbrev dktX14_entersFraction_0 : List UInt8 := dkwX14_entersFraction_0 ++ []
theorem dksX14_entersFraction_0 : cX14_entersFraction.data.toList.drop 0 = dktX14_entersFraction_0 := by decide +kernel
theorem dX14_entersFraction_0 : decode cX14_entersFraction 0 = .ok (.lload_n 1, 1) := dk_31 (dk_at dksX14_entersFraction_0 0 rfl rfl)
theorem dX14_entersFraction_1 : decode cX14_entersFraction 1 = .ok (.lload_n 3, 1) := dk_33 (dk_at dksX14_entersFraction_0 1 rfl rfl)
theorem dX14_entersFraction_2 : decode cX14_entersFraction 2 = .ok (.invokestatic 7, 3) := dk_184 0 7 (dk_at dksX14_entersFraction_0 2 rfl rfl)
theorem dX14_entersFraction_5 : decode cX14_entersFraction 5 = .ok (.lstore 5, 2) := dk_55 5 (dk_at dksX14_entersFraction_0 5 rfl rfl)
theorem dX14_entersFraction_7 : decode cX14_entersFraction 7 = .ok (.aload_n 0, 1) := dk_42 (dk_at dksX14_entersFraction_0 7 rfl rfl)
theorem dX14_entersFraction_8 : decode cX14_entersFraction 8 = .ok (.lload_n 1, 1) := dk_31 (dk_at dksX14_entersFraction_0 8 rfl rfl)
theorem dX14_entersFraction_9 : decode cX14_entersFraction 9 = .ok (.lload 5, 2) := dk_22 5 (dk_at dksX14_entersFraction_0 9 rfl rfl)
theorem dX14_entersFraction_11 : decode cX14_entersFraction 11 = .ok (.ldiv, 1) := dk_109 (dk_at dksX14_entersFraction_0 11 rfl rfl)
theorem dX14_entersFraction_12 : decode cX14_entersFraction 12 = .ok (.invokevirtual 18, 3) := dk_182 0 18 (dk_at dksX14_entersFraction_0 12 rfl rfl)
theorem dX14_entersFraction_15 : decode cX14_entersFraction 15 = .ok (.aload_n 0, 1) := dk_42 (dk_at dksX14_entersFraction_0 15 rfl rfl)
theorem dX14_entersFraction_16 : decode cX14_entersFraction 16 = .ok (.lload_n 3, 1) := dk_33 (dk_at dksX14_entersFraction_0 16 rfl rfl)
theorem dX14_entersFraction_17 : decode cX14_entersFraction 17 = .ok (.lload 5, 2) := dk_22 5 (dk_at dksX14_entersFraction_0 17 rfl rfl)
theorem dX14_entersFraction_19 : decode cX14_entersFraction 19 = .ok (.ldiv, 1) := dk_109 (dk_at dksX14_entersFraction_0 19 rfl rfl)
theorem dX14_entersFraction_20 : decode cX14_entersFraction 20 = .ok (.invokevirtual 18, 3) := dk_182 0 18 (dk_at dksX14_entersFraction_0 20 rfl rfl)
theorem dX14_entersFraction_23 : decode cX14_entersFraction 23 = .ok (.return_, 1) := dk_177 (dk_at dksX14_entersFraction_0 23 rfl rfl)
def dkwX14_common_0 : List UInt8 := [32, 9, 148, 154, 0, 7, 30, 167, 0, 10, 32, 30, 32, 113, 184, 0, 7, 173]
abbrev dktX14_common_0 : List UInt8 := dkwX14_common_0 ++ []
theorem dksX14_common_0 : cX14_common.data.toList.drop 0 = dktX14_common_0 := by decide +kernel
theorem dX14_common_0 : decode cX14_common 0 = .ok (.lload_n 2, 1) := dk_32 (dk_at dksX14_common_0 0 rfl rfl)
theorem dX14_common_1 : decode cX14_common 1 = .ok (.lconst 0, 1) := dk_9 (dk_at dksX14_common_0 1 rfl rfl)
theorem dX14_common_2 : decode cX14_common 2 = .ok (.lcmp, 1) := dk_148 (dk_at dksX14_common_0 2 rfl rfl)
theorem dX14_common_3 : decode cX14_common 3 = .ok (.ifCond .ne 7, 3) := dk_154 0 7 (dk_at dksX14_common_0 3 rfl rfl)
theorem dX14_common_6 : decode cX14_common 6 = .ok (.lload_n 0, 1) := dk_30 (dk_at dksX14_common_0 6 rfl rfl)
theorem dX14_common_7 : decode cX14_common 7 = .ok (.goto 10, 3) := dk_167 0 10 (dk_at dksX14_common_0 7 rfl rfl)
theorem dX14_common_10 : decode cX14_common 10 = .ok (.lload_n 2, 1) := dk_32 (dk_at dksX14_common_0 10 rfl rfl)
theorem dX14_common_11 : decode cX14_common 11 = .ok (.lload_n 0, 1) := dk_30 (dk_at dksX14_common_0 11 rfl rfl)
theorem dX14_common_12 : decode cX14_common 12 = .ok (.lload_n 2, 1) := dk_32 (dk_at dksX14_common_0 12 rfl rfl)
theorem dX14_common_13 : decode cX14_common 13 = .ok (.lrem, 1) := dk_113 (dk_at dksX14_common_0 13 rfl rfl)
theorem dX14_common_14 : decode cX14_common 14 = .ok (.invokestatic 7, 3) := dk_184 0 7 (dk_at dksX14_common_0 14 rfl rfl)
theorem dX14_common_17 : decode cX14_common 17 = .ok (.lreturn, 1) := dk_173 (dk_at dksX14_common_0 17 rfl rfl)
def dkwX14_oddsOf_11 : List UInt8 := [22, 5, 97, 80, 177]
abbrev dktX14_oddsOf_11 : List UInt8 := dkwX14_oddsOf_11 ++ []
def dkwX14_oddsOf_10 : List UInt8 := [2, 130, 126, 54, 7, 167, 255, 137, 44, 21, 4, 156, 0, 8, 16, 8, 167, 0, 5, 21, 4, 92, 47]
abbrev dktX14_oddsOf_10 : List UInt8 := dkwX14_oddsOf_10 ++ dktX14_oddsOf_11
def dkwX14_oddsOf_9 : List UInt8 := [80, 22, 5, 20, 1, 65, 109, 42, 180, 0, 32, 21, 8, 46, 133, 105, 55, 5, 21, 7, 4, 21, 8, 120]
abbrev dktX14_oddsOf_9 : List UInt8 := dkwX14_oddsOf_9 ++ dktX14_oddsOf_10
def dkwX14_oddsOf_8 : List UInt8 := [167, 255, 201, 44, 21, 8, 22, 5, 20, 1, 65, 109, 16, 10, 42, 180, 0, 32, 21, 8, 46, 100, 133, 105]
abbrev dktX14_oddsOf_8 : List UInt8 := dkwX14_oddsOf_8 ++ dktX14_oddsOf_9
def dkwX14_oddsOf_7 : List UInt8 := [43, 21, 8, 46, 182, 1, 6, 164, 0, 8, 21, 9, 167, 0, 5, 21, 8, 54, 8, 132, 9, 1]
abbrev dktX14_oddsOf_7 : List UInt8 := dkwX14_oddsOf_7 ++ dktX14_oddsOf_8
def dkwX14_oddsOf_6 : List UInt8 := [21, 7, 21, 9, 184, 0, 128, 153, 0, 32, 21, 8, 155, 0, 22, 42, 43, 21, 9, 46, 182, 1, 6, 42]
abbrev dktX14_oddsOf_6 : List UInt8 := dkwX14_oddsOf_6 ++ dktX14_oddsOf_7
def dkwX14_oddsOf_5 : List UInt8 := [167, 255, 179, 21, 7, 153, 0, 120, 2, 54, 8, 3, 54, 9, 21, 9, 42, 180, 0, 117, 162, 0, 52]
abbrev dktX14_oddsOf_5 : List UInt8 := dkwX14_oddsOf_5 ++ dktX14_oddsOf_6
def dkwX14_oddsOf_4 : List UInt8 := [21, 4, 159, 0, 15, 21, 9, 153, 0, 10, 4, 21, 8, 120, 167, 0, 4, 3, 128, 54, 7, 132, 8, 1]
abbrev dktX14_oddsOf_4 : List UInt8 := dkwX14_oddsOf_4 ++ dktX14_oddsOf_5
def dkwX14_oddsOf_3 : List UInt8 := [164, 0, 7, 4, 167, 0, 4, 3, 54, 9, 21, 7, 29, 21, 8, 184, 0, 128, 153, 0, 22, 21, 8]
abbrev dktX14_oddsOf_3 : List UInt8 := dkwX14_oddsOf_3 ++ dktX14_oddsOf_4
def dkwX14_oddsOf_2 : List UInt8 := [162, 0, 74, 21, 4, 155, 0, 22, 42, 43, 21, 8, 46, 182, 1, 6, 42, 43, 21, 4, 46, 182, 1, 6]
abbrev dktX14_oddsOf_2 : List UInt8 := dkwX14_oddsOf_2 ++ dktX14_oddsOf_3
def dkwX14_oddsOf_1 : List UInt8 := [43, 16, 17, 46, 54, 4, 20, 1, 118, 55, 5, 3, 54, 7, 3, 54, 8, 21, 8, 42, 180, 0, 117]
abbrev dktX14_oddsOf_1 : List UInt8 := dkwX14_oddsOf_1 ++ dktX14_oddsOf_2
def dkwX14_oddsOf_0 : List UInt8 := [3, 62, 29, 16, 8, 163, 0, 13, 44, 29, 9, 80, 132, 3, 1, 167, 255, 243, 42, 43, 182, 1, 32, 62]
abbrev dktX14_oddsOf_0 : List UInt8 := dkwX14_oddsOf_0 ++ dktX14_oddsOf_1
theorem dksX14_oddsOf_0 : cX14_oddsOf.data.toList.drop 0 = dktX14_oddsOf_0 := by decide +kernel
theorem dksX14_oddsOf_1 : cX14_oddsOf.data.toList.drop 24 = dktX14_oddsOf_1 := dk_seg dksX14_oddsOf_0 24 rfl rfl
theorem dksX14_oddsOf_2 : cX14_oddsOf.data.toList.drop 47 = dktX14_oddsOf_2 := dk_seg dksX14_oddsOf_1 23 rfl rfl
theorem dksX14_oddsOf_3 : cX14_oddsOf.data.toList.drop 71 = dktX14_oddsOf_3 := dk_seg dksX14_oddsOf_2 24 rfl rfl
theorem dksX14_oddsOf_4 : cX14_oddsOf.data.toList.drop 94 = dktX14_oddsOf_4 := dk_seg dksX14_oddsOf_3 23 rfl rfl
theorem dksX14_oddsOf_5 : cX14_oddsOf.data.toList.drop 118 = dktX14_oddsOf_5 := dk_seg dksX14_oddsOf_4 24 rfl rfl
theorem dksX14_oddsOf_6 : cX14_oddsOf.data.toList.drop 141 = dktX14_oddsOf_6 := dk_seg dksX14_oddsOf_5 23 rfl rfl
theorem dksX14_oddsOf_7 : cX14_oddsOf.data.toList.drop 165 = dktX14_oddsOf_7 := dk_seg dksX14_oddsOf_6 24 rfl rfl
theorem dksX14_oddsOf_8 : cX14_oddsOf.data.toList.drop 187 = dktX14_oddsOf_8 := dk_seg dksX14_oddsOf_7 22 rfl rfl
theorem dksX14_oddsOf_9 : cX14_oddsOf.data.toList.drop 211 = dktX14_oddsOf_9 := dk_seg dksX14_oddsOf_8 24 rfl rfl
theorem dksX14_oddsOf_10 : cX14_oddsOf.data.toList.drop 235 = dktX14_oddsOf_10 := dk_seg dksX14_oddsOf_9 24 rfl rfl
theorem dksX14_oddsOf_11 : cX14_oddsOf.data.toList.drop 258 = dktX14_oddsOf_11 := dk_seg dksX14_oddsOf_10 23 rfl rfl
theorem dX14_oddsOf_0 : decode cX14_oddsOf 0 = .ok (.iconst 0, 1) := dk_3 (dk_at dksX14_oddsOf_0 0 rfl rfl)
theorem dX14_oddsOf_1 : decode cX14_oddsOf 1 = .ok (.istore_n 3, 1) := dk_62 (dk_at dksX14_oddsOf_0 1 rfl rfl)
theorem dX14_oddsOf_2 : decode cX14_oddsOf 2 = .ok (.iload_n 3, 1) := dk_29 (dk_at dksX14_oddsOf_0 2 rfl rfl)
theorem dX14_oddsOf_3 : decode cX14_oddsOf 3 = .ok (.bipush 8, 2) := dk_16 8 (dk_at dksX14_oddsOf_0 3 rfl rfl)
theorem dX14_oddsOf_5 : decode cX14_oddsOf 5 = .ok (.if_icmp .gt 13, 3) := dk_163 0 13 (dk_at dksX14_oddsOf_0 5 rfl rfl)
theorem dX14_oddsOf_8 : decode cX14_oddsOf 8 = .ok (.aload_n 2, 1) := dk_44 (dk_at dksX14_oddsOf_0 8 rfl rfl)
theorem dX14_oddsOf_9 : decode cX14_oddsOf 9 = .ok (.iload_n 3, 1) := dk_29 (dk_at dksX14_oddsOf_0 9 rfl rfl)
theorem dX14_oddsOf_10 : decode cX14_oddsOf 10 = .ok (.lconst 0, 1) := dk_9 (dk_at dksX14_oddsOf_0 10 rfl rfl)
theorem dX14_oddsOf_11 : decode cX14_oddsOf 11 = .ok (.lastore, 1) := dk_80 (dk_at dksX14_oddsOf_0 11 rfl rfl)
theorem dX14_oddsOf_12 : decode cX14_oddsOf 12 = .ok (.iinc 3 1, 3) := dk_132 3 1 (dk_at dksX14_oddsOf_0 12 rfl rfl)
theorem dX14_oddsOf_15 : decode cX14_oddsOf 15 = .ok (.goto (-13), 3) := dk_167 255 243 (dk_at dksX14_oddsOf_0 15 rfl rfl)
theorem dX14_oddsOf_18 : decode cX14_oddsOf 18 = .ok (.aload_n 0, 1) := dk_42 (dk_at dksX14_oddsOf_0 18 rfl rfl)
theorem dX14_oddsOf_19 : decode cX14_oddsOf 19 = .ok (.aload_n 1, 1) := dk_43 (dk_at dksX14_oddsOf_0 19 rfl rfl)
theorem dX14_oddsOf_20 : decode cX14_oddsOf 20 = .ok (.invokevirtual 288, 3) := dk_182 1 32 (dk_at dksX14_oddsOf_0 20 rfl rfl)
theorem dX14_oddsOf_23 : decode cX14_oddsOf 23 = .ok (.istore_n 3, 1) := dk_62 (dk_at dksX14_oddsOf_0 23 rfl rfl)
theorem dX14_oddsOf_24 : decode cX14_oddsOf 24 = .ok (.aload_n 1, 1) := dk_43 (dk_at dksX14_oddsOf_1 0 rfl rfl)
theorem dX14_oddsOf_25 : decode cX14_oddsOf 25 = .ok (.bipush 17, 2) := dk_16 17 (dk_at dksX14_oddsOf_1 1 rfl rfl)
theorem dX14_oddsOf_27 : decode cX14_oddsOf 27 = .ok (.iaload, 1) := dk_46 (dk_at dksX14_oddsOf_1 3 rfl rfl)
theorem dX14_oddsOf_28 : decode cX14_oddsOf 28 = .ok (.istore 4, 2) := dk_54 4 (dk_at dksX14_oddsOf_1 4 rfl rfl)
theorem dX14_oddsOf_30 : decode cX14_oddsOf 30 = .ok (.ldc2_w 374, 3) := dk_20 1 118 (dk_at dksX14_oddsOf_1 6 rfl rfl)
theorem dX14_oddsOf_33 : decode cX14_oddsOf 33 = .ok (.lstore 5, 2) := dk_55 5 (dk_at dksX14_oddsOf_1 9 rfl rfl)
theorem dX14_oddsOf_35 : decode cX14_oddsOf 35 = .ok (.iconst 0, 1) := dk_3 (dk_at dksX14_oddsOf_1 11 rfl rfl)
theorem dX14_oddsOf_36 : decode cX14_oddsOf 36 = .ok (.istore 7, 2) := dk_54 7 (dk_at dksX14_oddsOf_1 12 rfl rfl)
theorem dX14_oddsOf_38 : decode cX14_oddsOf 38 = .ok (.iconst 0, 1) := dk_3 (dk_at dksX14_oddsOf_1 14 rfl rfl)
theorem dX14_oddsOf_39 : decode cX14_oddsOf 39 = .ok (.istore 8, 2) := dk_54 8 (dk_at dksX14_oddsOf_1 15 rfl rfl)
theorem dX14_oddsOf_41 : decode cX14_oddsOf 41 = .ok (.iload 8, 2) := dk_21 8 (dk_at dksX14_oddsOf_1 17 rfl rfl)
theorem dX14_oddsOf_43 : decode cX14_oddsOf 43 = .ok (.aload_n 0, 1) := dk_42 (dk_at dksX14_oddsOf_1 19 rfl rfl)
theorem dX14_oddsOf_44 : decode cX14_oddsOf 44 = .ok (.getfield 117, 3) := dk_180 0 117 (dk_at dksX14_oddsOf_1 20 rfl rfl)
theorem dX14_oddsOf_47 : decode cX14_oddsOf 47 = .ok (.if_icmp .ge 74, 3) := dk_162 0 74 (dk_at dksX14_oddsOf_2 0 rfl rfl)
theorem dX14_oddsOf_50 : decode cX14_oddsOf 50 = .ok (.iload 4, 2) := dk_21 4 (dk_at dksX14_oddsOf_2 3 rfl rfl)
theorem dX14_oddsOf_52 : decode cX14_oddsOf 52 = .ok (.ifCond .lt 22, 3) := dk_155 0 22 (dk_at dksX14_oddsOf_2 5 rfl rfl)
theorem dX14_oddsOf_55 : decode cX14_oddsOf 55 = .ok (.aload_n 0, 1) := dk_42 (dk_at dksX14_oddsOf_2 8 rfl rfl)
theorem dX14_oddsOf_56 : decode cX14_oddsOf 56 = .ok (.aload_n 1, 1) := dk_43 (dk_at dksX14_oddsOf_2 9 rfl rfl)
theorem dX14_oddsOf_57 : decode cX14_oddsOf 57 = .ok (.iload 8, 2) := dk_21 8 (dk_at dksX14_oddsOf_2 10 rfl rfl)
theorem dX14_oddsOf_59 : decode cX14_oddsOf 59 = .ok (.iaload, 1) := dk_46 (dk_at dksX14_oddsOf_2 12 rfl rfl)
theorem dX14_oddsOf_60 : decode cX14_oddsOf 60 = .ok (.invokevirtual 262, 3) := dk_182 1 6 (dk_at dksX14_oddsOf_2 13 rfl rfl)
theorem dX14_oddsOf_63 : decode cX14_oddsOf 63 = .ok (.aload_n 0, 1) := dk_42 (dk_at dksX14_oddsOf_2 16 rfl rfl)
theorem dX14_oddsOf_64 : decode cX14_oddsOf 64 = .ok (.aload_n 1, 1) := dk_43 (dk_at dksX14_oddsOf_2 17 rfl rfl)
theorem dX14_oddsOf_65 : decode cX14_oddsOf 65 = .ok (.iload 4, 2) := dk_21 4 (dk_at dksX14_oddsOf_2 18 rfl rfl)
theorem dX14_oddsOf_67 : decode cX14_oddsOf 67 = .ok (.iaload, 1) := dk_46 (dk_at dksX14_oddsOf_2 20 rfl rfl)
theorem dX14_oddsOf_68 : decode cX14_oddsOf 68 = .ok (.invokevirtual 262, 3) := dk_182 1 6 (dk_at dksX14_oddsOf_2 21 rfl rfl)
theorem dX14_oddsOf_71 : decode cX14_oddsOf 71 = .ok (.if_icmp .le 7, 3) := dk_164 0 7 (dk_at dksX14_oddsOf_3 0 rfl rfl)
theorem dX14_oddsOf_74 : decode cX14_oddsOf 74 = .ok (.iconst 1, 1) := dk_4 (dk_at dksX14_oddsOf_3 3 rfl rfl)
theorem dX14_oddsOf_75 : decode cX14_oddsOf 75 = .ok (.goto 4, 3) := dk_167 0 4 (dk_at dksX14_oddsOf_3 4 rfl rfl)
theorem dX14_oddsOf_78 : decode cX14_oddsOf 78 = .ok (.iconst 0, 1) := dk_3 (dk_at dksX14_oddsOf_3 7 rfl rfl)
theorem dX14_oddsOf_79 : decode cX14_oddsOf 79 = .ok (.istore 9, 2) := dk_54 9 (dk_at dksX14_oddsOf_3 8 rfl rfl)
theorem dX14_oddsOf_81 : decode cX14_oddsOf 81 = .ok (.iload 7, 2) := dk_21 7 (dk_at dksX14_oddsOf_3 10 rfl rfl)
theorem dX14_oddsOf_83 : decode cX14_oddsOf 83 = .ok (.iload_n 3, 1) := dk_29 (dk_at dksX14_oddsOf_3 12 rfl rfl)
theorem dX14_oddsOf_84 : decode cX14_oddsOf 84 = .ok (.iload 8, 2) := dk_21 8 (dk_at dksX14_oddsOf_3 13 rfl rfl)
theorem dX14_oddsOf_86 : decode cX14_oddsOf 86 = .ok (.invokestatic 128, 3) := dk_184 0 128 (dk_at dksX14_oddsOf_3 15 rfl rfl)
theorem dX14_oddsOf_89 : decode cX14_oddsOf 89 = .ok (.ifCond .eq 22, 3) := dk_153 0 22 (dk_at dksX14_oddsOf_3 18 rfl rfl)
theorem dX14_oddsOf_92 : decode cX14_oddsOf 92 = .ok (.iload 8, 2) := dk_21 8 (dk_at dksX14_oddsOf_3 21 rfl rfl)
theorem dX14_oddsOf_94 : decode cX14_oddsOf 94 = .ok (.iload 4, 2) := dk_21 4 (dk_at dksX14_oddsOf_4 0 rfl rfl)
theorem dX14_oddsOf_96 : decode cX14_oddsOf 96 = .ok (.if_icmp .eq 15, 3) := dk_159 0 15 (dk_at dksX14_oddsOf_4 2 rfl rfl)
theorem dX14_oddsOf_99 : decode cX14_oddsOf 99 = .ok (.iload 9, 2) := dk_21 9 (dk_at dksX14_oddsOf_4 5 rfl rfl)
theorem dX14_oddsOf_101 : decode cX14_oddsOf 101 = .ok (.ifCond .eq 10, 3) := dk_153 0 10 (dk_at dksX14_oddsOf_4 7 rfl rfl)
theorem dX14_oddsOf_104 : decode cX14_oddsOf 104 = .ok (.iconst 1, 1) := dk_4 (dk_at dksX14_oddsOf_4 10 rfl rfl)
theorem dX14_oddsOf_105 : decode cX14_oddsOf 105 = .ok (.iload 8, 2) := dk_21 8 (dk_at dksX14_oddsOf_4 11 rfl rfl)
theorem dX14_oddsOf_107 : decode cX14_oddsOf 107 = .ok (.ishl, 1) := dk_120 (dk_at dksX14_oddsOf_4 13 rfl rfl)
theorem dX14_oddsOf_108 : decode cX14_oddsOf 108 = .ok (.goto 4, 3) := dk_167 0 4 (dk_at dksX14_oddsOf_4 14 rfl rfl)
theorem dX14_oddsOf_111 : decode cX14_oddsOf 111 = .ok (.iconst 0, 1) := dk_3 (dk_at dksX14_oddsOf_4 17 rfl rfl)
theorem dX14_oddsOf_112 : decode cX14_oddsOf 112 = .ok (.ior, 1) := dk_128 (dk_at dksX14_oddsOf_4 18 rfl rfl)
theorem dX14_oddsOf_113 : decode cX14_oddsOf 113 = .ok (.istore 7, 2) := dk_54 7 (dk_at dksX14_oddsOf_4 19 rfl rfl)
theorem dX14_oddsOf_115 : decode cX14_oddsOf 115 = .ok (.iinc 8 1, 3) := dk_132 8 1 (dk_at dksX14_oddsOf_4 21 rfl rfl)
theorem dX14_oddsOf_118 : decode cX14_oddsOf 118 = .ok (.goto (-77), 3) := dk_167 255 179 (dk_at dksX14_oddsOf_5 0 rfl rfl)
theorem dX14_oddsOf_121 : decode cX14_oddsOf 121 = .ok (.iload 7, 2) := dk_21 7 (dk_at dksX14_oddsOf_5 3 rfl rfl)
theorem dX14_oddsOf_123 : decode cX14_oddsOf 123 = .ok (.ifCond .eq 120, 3) := dk_153 0 120 (dk_at dksX14_oddsOf_5 5 rfl rfl)
theorem dX14_oddsOf_126 : decode cX14_oddsOf 126 = .ok (.iconst (-1), 1) := dk_2 (dk_at dksX14_oddsOf_5 8 rfl rfl)
theorem dX14_oddsOf_127 : decode cX14_oddsOf 127 = .ok (.istore 8, 2) := dk_54 8 (dk_at dksX14_oddsOf_5 9 rfl rfl)
theorem dX14_oddsOf_129 : decode cX14_oddsOf 129 = .ok (.iconst 0, 1) := dk_3 (dk_at dksX14_oddsOf_5 11 rfl rfl)
theorem dX14_oddsOf_130 : decode cX14_oddsOf 130 = .ok (.istore 9, 2) := dk_54 9 (dk_at dksX14_oddsOf_5 12 rfl rfl)
theorem dX14_oddsOf_132 : decode cX14_oddsOf 132 = .ok (.iload 9, 2) := dk_21 9 (dk_at dksX14_oddsOf_5 14 rfl rfl)
theorem dX14_oddsOf_134 : decode cX14_oddsOf 134 = .ok (.aload_n 0, 1) := dk_42 (dk_at dksX14_oddsOf_5 16 rfl rfl)
theorem dX14_oddsOf_135 : decode cX14_oddsOf 135 = .ok (.getfield 117, 3) := dk_180 0 117 (dk_at dksX14_oddsOf_5 17 rfl rfl)
theorem dX14_oddsOf_138 : decode cX14_oddsOf 138 = .ok (.if_icmp .ge 52, 3) := dk_162 0 52 (dk_at dksX14_oddsOf_5 20 rfl rfl)
theorem dX14_oddsOf_141 : decode cX14_oddsOf 141 = .ok (.iload 7, 2) := dk_21 7 (dk_at dksX14_oddsOf_6 0 rfl rfl)
theorem dX14_oddsOf_143 : decode cX14_oddsOf 143 = .ok (.iload 9, 2) := dk_21 9 (dk_at dksX14_oddsOf_6 2 rfl rfl)
theorem dX14_oddsOf_145 : decode cX14_oddsOf 145 = .ok (.invokestatic 128, 3) := dk_184 0 128 (dk_at dksX14_oddsOf_6 4 rfl rfl)
theorem dX14_oddsOf_148 : decode cX14_oddsOf 148 = .ok (.ifCond .eq 32, 3) := dk_153 0 32 (dk_at dksX14_oddsOf_6 7 rfl rfl)
theorem dX14_oddsOf_151 : decode cX14_oddsOf 151 = .ok (.iload 8, 2) := dk_21 8 (dk_at dksX14_oddsOf_6 10 rfl rfl)
theorem dX14_oddsOf_153 : decode cX14_oddsOf 153 = .ok (.ifCond .lt 22, 3) := dk_155 0 22 (dk_at dksX14_oddsOf_6 12 rfl rfl)
theorem dX14_oddsOf_156 : decode cX14_oddsOf 156 = .ok (.aload_n 0, 1) := dk_42 (dk_at dksX14_oddsOf_6 15 rfl rfl)
theorem dX14_oddsOf_157 : decode cX14_oddsOf 157 = .ok (.aload_n 1, 1) := dk_43 (dk_at dksX14_oddsOf_6 16 rfl rfl)
theorem dX14_oddsOf_158 : decode cX14_oddsOf 158 = .ok (.iload 9, 2) := dk_21 9 (dk_at dksX14_oddsOf_6 17 rfl rfl)
theorem dX14_oddsOf_160 : decode cX14_oddsOf 160 = .ok (.iaload, 1) := dk_46 (dk_at dksX14_oddsOf_6 19 rfl rfl)
theorem dX14_oddsOf_161 : decode cX14_oddsOf 161 = .ok (.invokevirtual 262, 3) := dk_182 1 6 (dk_at dksX14_oddsOf_6 20 rfl rfl)
theorem dX14_oddsOf_164 : decode cX14_oddsOf 164 = .ok (.aload_n 0, 1) := dk_42 (dk_at dksX14_oddsOf_6 23 rfl rfl)
theorem dX14_oddsOf_165 : decode cX14_oddsOf 165 = .ok (.aload_n 1, 1) := dk_43 (dk_at dksX14_oddsOf_7 0 rfl rfl)
theorem dX14_oddsOf_166 : decode cX14_oddsOf 166 = .ok (.iload 8, 2) := dk_21 8 (dk_at dksX14_oddsOf_7 1 rfl rfl)
theorem dX14_oddsOf_168 : decode cX14_oddsOf 168 = .ok (.iaload, 1) := dk_46 (dk_at dksX14_oddsOf_7 3 rfl rfl)
theorem dX14_oddsOf_169 : decode cX14_oddsOf 169 = .ok (.invokevirtual 262, 3) := dk_182 1 6 (dk_at dksX14_oddsOf_7 4 rfl rfl)
theorem dX14_oddsOf_172 : decode cX14_oddsOf 172 = .ok (.if_icmp .le 8, 3) := dk_164 0 8 (dk_at dksX14_oddsOf_7 7 rfl rfl)
theorem dX14_oddsOf_175 : decode cX14_oddsOf 175 = .ok (.iload 9, 2) := dk_21 9 (dk_at dksX14_oddsOf_7 10 rfl rfl)
theorem dX14_oddsOf_177 : decode cX14_oddsOf 177 = .ok (.goto 5, 3) := dk_167 0 5 (dk_at dksX14_oddsOf_7 12 rfl rfl)
theorem dX14_oddsOf_180 : decode cX14_oddsOf 180 = .ok (.iload 8, 2) := dk_21 8 (dk_at dksX14_oddsOf_7 15 rfl rfl)
theorem dX14_oddsOf_182 : decode cX14_oddsOf 182 = .ok (.istore 8, 2) := dk_54 8 (dk_at dksX14_oddsOf_7 17 rfl rfl)
theorem dX14_oddsOf_184 : decode cX14_oddsOf 184 = .ok (.iinc 9 1, 3) := dk_132 9 1 (dk_at dksX14_oddsOf_7 19 rfl rfl)
theorem dX14_oddsOf_187 : decode cX14_oddsOf 187 = .ok (.goto (-55), 3) := dk_167 255 201 (dk_at dksX14_oddsOf_8 0 rfl rfl)
theorem dX14_oddsOf_190 : decode cX14_oddsOf 190 = .ok (.aload_n 2, 1) := dk_44 (dk_at dksX14_oddsOf_8 3 rfl rfl)
theorem dX14_oddsOf_191 : decode cX14_oddsOf 191 = .ok (.iload 8, 2) := dk_21 8 (dk_at dksX14_oddsOf_8 4 rfl rfl)
theorem dX14_oddsOf_193 : decode cX14_oddsOf 193 = .ok (.lload 5, 2) := dk_22 5 (dk_at dksX14_oddsOf_8 6 rfl rfl)
theorem dX14_oddsOf_195 : decode cX14_oddsOf 195 = .ok (.ldc2_w 321, 3) := dk_20 1 65 (dk_at dksX14_oddsOf_8 8 rfl rfl)
theorem dX14_oddsOf_198 : decode cX14_oddsOf 198 = .ok (.ldiv, 1) := dk_109 (dk_at dksX14_oddsOf_8 11 rfl rfl)
theorem dX14_oddsOf_199 : decode cX14_oddsOf 199 = .ok (.bipush 10, 2) := dk_16 10 (dk_at dksX14_oddsOf_8 12 rfl rfl)
theorem dX14_oddsOf_201 : decode cX14_oddsOf 201 = .ok (.aload_n 0, 1) := dk_42 (dk_at dksX14_oddsOf_8 14 rfl rfl)
theorem dX14_oddsOf_202 : decode cX14_oddsOf 202 = .ok (.getfield 32, 3) := dk_180 0 32 (dk_at dksX14_oddsOf_8 15 rfl rfl)
theorem dX14_oddsOf_205 : decode cX14_oddsOf 205 = .ok (.iload 8, 2) := dk_21 8 (dk_at dksX14_oddsOf_8 18 rfl rfl)
theorem dX14_oddsOf_207 : decode cX14_oddsOf 207 = .ok (.iaload, 1) := dk_46 (dk_at dksX14_oddsOf_8 20 rfl rfl)
theorem dX14_oddsOf_208 : decode cX14_oddsOf 208 = .ok (.isub, 1) := dk_100 (dk_at dksX14_oddsOf_8 21 rfl rfl)
theorem dX14_oddsOf_209 : decode cX14_oddsOf 209 = .ok (.i2l, 1) := dk_133 (dk_at dksX14_oddsOf_8 22 rfl rfl)
theorem dX14_oddsOf_210 : decode cX14_oddsOf 210 = .ok (.lmul, 1) := dk_105 (dk_at dksX14_oddsOf_8 23 rfl rfl)
theorem dX14_oddsOf_211 : decode cX14_oddsOf 211 = .ok (.lastore, 1) := dk_80 (dk_at dksX14_oddsOf_9 0 rfl rfl)
theorem dX14_oddsOf_212 : decode cX14_oddsOf 212 = .ok (.lload 5, 2) := dk_22 5 (dk_at dksX14_oddsOf_9 1 rfl rfl)
theorem dX14_oddsOf_214 : decode cX14_oddsOf 214 = .ok (.ldc2_w 321, 3) := dk_20 1 65 (dk_at dksX14_oddsOf_9 3 rfl rfl)
theorem dX14_oddsOf_217 : decode cX14_oddsOf 217 = .ok (.ldiv, 1) := dk_109 (dk_at dksX14_oddsOf_9 6 rfl rfl)
theorem dX14_oddsOf_218 : decode cX14_oddsOf 218 = .ok (.aload_n 0, 1) := dk_42 (dk_at dksX14_oddsOf_9 7 rfl rfl)
theorem dX14_oddsOf_219 : decode cX14_oddsOf 219 = .ok (.getfield 32, 3) := dk_180 0 32 (dk_at dksX14_oddsOf_9 8 rfl rfl)
theorem dX14_oddsOf_222 : decode cX14_oddsOf 222 = .ok (.iload 8, 2) := dk_21 8 (dk_at dksX14_oddsOf_9 11 rfl rfl)
theorem dX14_oddsOf_224 : decode cX14_oddsOf 224 = .ok (.iaload, 1) := dk_46 (dk_at dksX14_oddsOf_9 13 rfl rfl)
theorem dX14_oddsOf_225 : decode cX14_oddsOf 225 = .ok (.i2l, 1) := dk_133 (dk_at dksX14_oddsOf_9 14 rfl rfl)
theorem dX14_oddsOf_226 : decode cX14_oddsOf 226 = .ok (.lmul, 1) := dk_105 (dk_at dksX14_oddsOf_9 15 rfl rfl)
theorem dX14_oddsOf_227 : decode cX14_oddsOf 227 = .ok (.lstore 5, 2) := dk_55 5 (dk_at dksX14_oddsOf_9 16 rfl rfl)
theorem dX14_oddsOf_229 : decode cX14_oddsOf 229 = .ok (.iload 7, 2) := dk_21 7 (dk_at dksX14_oddsOf_9 18 rfl rfl)
theorem dX14_oddsOf_231 : decode cX14_oddsOf 231 = .ok (.iconst 1, 1) := dk_4 (dk_at dksX14_oddsOf_9 20 rfl rfl)
theorem dX14_oddsOf_232 : decode cX14_oddsOf 232 = .ok (.iload 8, 2) := dk_21 8 (dk_at dksX14_oddsOf_9 21 rfl rfl)
theorem dX14_oddsOf_234 : decode cX14_oddsOf 234 = .ok (.ishl, 1) := dk_120 (dk_at dksX14_oddsOf_9 23 rfl rfl)
theorem dX14_oddsOf_235 : decode cX14_oddsOf 235 = .ok (.iconst (-1), 1) := dk_2 (dk_at dksX14_oddsOf_10 0 rfl rfl)
theorem dX14_oddsOf_236 : decode cX14_oddsOf 236 = .ok (.ixor, 1) := dk_130 (dk_at dksX14_oddsOf_10 1 rfl rfl)
theorem dX14_oddsOf_237 : decode cX14_oddsOf 237 = .ok (.iand, 1) := dk_126 (dk_at dksX14_oddsOf_10 2 rfl rfl)
theorem dX14_oddsOf_238 : decode cX14_oddsOf 238 = .ok (.istore 7, 2) := dk_54 7 (dk_at dksX14_oddsOf_10 3 rfl rfl)
theorem dX14_oddsOf_240 : decode cX14_oddsOf 240 = .ok (.goto (-119), 3) := dk_167 255 137 (dk_at dksX14_oddsOf_10 5 rfl rfl)
theorem dX14_oddsOf_243 : decode cX14_oddsOf 243 = .ok (.aload_n 2, 1) := dk_44 (dk_at dksX14_oddsOf_10 8 rfl rfl)
theorem dX14_oddsOf_244 : decode cX14_oddsOf 244 = .ok (.iload 4, 2) := dk_21 4 (dk_at dksX14_oddsOf_10 9 rfl rfl)
theorem dX14_oddsOf_246 : decode cX14_oddsOf 246 = .ok (.ifCond .ge 8, 3) := dk_156 0 8 (dk_at dksX14_oddsOf_10 11 rfl rfl)
theorem dX14_oddsOf_249 : decode cX14_oddsOf 249 = .ok (.bipush 8, 2) := dk_16 8 (dk_at dksX14_oddsOf_10 14 rfl rfl)
theorem dX14_oddsOf_251 : decode cX14_oddsOf 251 = .ok (.goto 5, 3) := dk_167 0 5 (dk_at dksX14_oddsOf_10 16 rfl rfl)
theorem dX14_oddsOf_254 : decode cX14_oddsOf 254 = .ok (.iload 4, 2) := dk_21 4 (dk_at dksX14_oddsOf_10 19 rfl rfl)
theorem dX14_oddsOf_256 : decode cX14_oddsOf 256 = .ok (.dup2, 1) := dk_92 (dk_at dksX14_oddsOf_10 21 rfl rfl)
theorem dX14_oddsOf_257 : decode cX14_oddsOf 257 = .ok (.laload, 1) := dk_47 (dk_at dksX14_oddsOf_10 22 rfl rfl)
theorem dX14_oddsOf_258 : decode cX14_oddsOf 258 = .ok (.lload 5, 2) := dk_22 5 (dk_at dksX14_oddsOf_11 0 rfl rfl)
theorem dX14_oddsOf_260 : decode cX14_oddsOf 260 = .ok (.ladd, 1) := dk_97 (dk_at dksX14_oddsOf_11 2 rfl rfl)
theorem dX14_oddsOf_261 : decode cX14_oddsOf 261 = .ok (.lastore, 1) := dk_80 (dk_at dksX14_oddsOf_11 3 rfl rfl)
theorem dX14_oddsOf_262 : decode cX14_oddsOf 262 = .ok (.return_, 1) := dk_177 (dk_at dksX14_oddsOf_11 4 rfl rfl)
def dkwX14_likely_3 : List UInt8 := [20, 1, 118, 182, 1, 122, 27, 16, 8, 160, 0, 7, 2, 167, 0, 4, 27, 172]
abbrev dktX14_likely_3 : List UInt8 := dkwX14_likely_3 ++ []
def dkwX14_likely_2 : List UInt8 := [167, 0, 4, 27, 60, 132, 2, 1, 167, 255, 223, 42, 3, 181, 0, 15, 42, 42, 180, 0, 98, 27, 47]
abbrev dktX14_likely_2 : List UInt8 := dkwX14_likely_2 ++ dktX14_likely_3
def dkwX14_likely_1 : List UInt8 := [180, 0, 117, 162, 0, 31, 42, 180, 0, 98, 28, 47, 42, 180, 0, 98, 27, 47, 148, 158, 0, 7, 28]
abbrev dktX14_likely_1 : List UInt8 := dkwX14_likely_1 ++ dktX14_likely_2
def dkwX14_likely_0 : List UInt8 := [42, 3, 181, 0, 3, 42, 42, 180, 0, 44, 42, 180, 0, 98, 182, 1, 126, 16, 8, 60, 3, 61, 28, 42]
abbrev dktX14_likely_0 : List UInt8 := dkwX14_likely_0 ++ dktX14_likely_1
theorem dksX14_likely_0 : cX14_likely.data.toList.drop 0 = dktX14_likely_0 := by decide +kernel
theorem dksX14_likely_1 : cX14_likely.data.toList.drop 24 = dktX14_likely_1 := dk_seg dksX14_likely_0 24 rfl rfl
theorem dksX14_likely_2 : cX14_likely.data.toList.drop 47 = dktX14_likely_2 := dk_seg dksX14_likely_1 23 rfl rfl
theorem dksX14_likely_3 : cX14_likely.data.toList.drop 70 = dktX14_likely_3 := dk_seg dksX14_likely_2 23 rfl rfl
theorem dX14_likely_0 : decode cX14_likely 0 = .ok (.aload_n 0, 1) := dk_42 (dk_at dksX14_likely_0 0 rfl rfl)
theorem dX14_likely_1 : decode cX14_likely 1 = .ok (.iconst 0, 1) := dk_3 (dk_at dksX14_likely_0 1 rfl rfl)
theorem dX14_likely_2 : decode cX14_likely 2 = .ok (.putfield 3, 3) := dk_181 0 3 (dk_at dksX14_likely_0 2 rfl rfl)
theorem dX14_likely_5 : decode cX14_likely 5 = .ok (.aload_n 0, 1) := dk_42 (dk_at dksX14_likely_0 5 rfl rfl)
theorem dX14_likely_6 : decode cX14_likely 6 = .ok (.aload_n 0, 1) := dk_42 (dk_at dksX14_likely_0 6 rfl rfl)
theorem dX14_likely_7 : decode cX14_likely 7 = .ok (.getfield 44, 3) := dk_180 0 44 (dk_at dksX14_likely_0 7 rfl rfl)
theorem dX14_likely_10 : decode cX14_likely 10 = .ok (.aload_n 0, 1) := dk_42 (dk_at dksX14_likely_0 10 rfl rfl)
theorem dX14_likely_11 : decode cX14_likely 11 = .ok (.getfield 98, 3) := dk_180 0 98 (dk_at dksX14_likely_0 11 rfl rfl)
theorem dX14_likely_14 : decode cX14_likely 14 = .ok (.invokevirtual 382, 3) := dk_182 1 126 (dk_at dksX14_likely_0 14 rfl rfl)
theorem dX14_likely_17 : decode cX14_likely 17 = .ok (.bipush 8, 2) := dk_16 8 (dk_at dksX14_likely_0 17 rfl rfl)
theorem dX14_likely_19 : decode cX14_likely 19 = .ok (.istore_n 1, 1) := dk_60 (dk_at dksX14_likely_0 19 rfl rfl)
theorem dX14_likely_20 : decode cX14_likely 20 = .ok (.iconst 0, 1) := dk_3 (dk_at dksX14_likely_0 20 rfl rfl)
theorem dX14_likely_21 : decode cX14_likely 21 = .ok (.istore_n 2, 1) := dk_61 (dk_at dksX14_likely_0 21 rfl rfl)
theorem dX14_likely_22 : decode cX14_likely 22 = .ok (.iload_n 2, 1) := dk_28 (dk_at dksX14_likely_0 22 rfl rfl)
theorem dX14_likely_23 : decode cX14_likely 23 = .ok (.aload_n 0, 1) := dk_42 (dk_at dksX14_likely_0 23 rfl rfl)
theorem dX14_likely_24 : decode cX14_likely 24 = .ok (.getfield 117, 3) := dk_180 0 117 (dk_at dksX14_likely_1 0 rfl rfl)
theorem dX14_likely_27 : decode cX14_likely 27 = .ok (.if_icmp .ge 31, 3) := dk_162 0 31 (dk_at dksX14_likely_1 3 rfl rfl)
theorem dX14_likely_30 : decode cX14_likely 30 = .ok (.aload_n 0, 1) := dk_42 (dk_at dksX14_likely_1 6 rfl rfl)
theorem dX14_likely_31 : decode cX14_likely 31 = .ok (.getfield 98, 3) := dk_180 0 98 (dk_at dksX14_likely_1 7 rfl rfl)
theorem dX14_likely_34 : decode cX14_likely 34 = .ok (.iload_n 2, 1) := dk_28 (dk_at dksX14_likely_1 10 rfl rfl)
theorem dX14_likely_35 : decode cX14_likely 35 = .ok (.laload, 1) := dk_47 (dk_at dksX14_likely_1 11 rfl rfl)
theorem dX14_likely_36 : decode cX14_likely 36 = .ok (.aload_n 0, 1) := dk_42 (dk_at dksX14_likely_1 12 rfl rfl)
theorem dX14_likely_37 : decode cX14_likely 37 = .ok (.getfield 98, 3) := dk_180 0 98 (dk_at dksX14_likely_1 13 rfl rfl)
theorem dX14_likely_40 : decode cX14_likely 40 = .ok (.iload_n 1, 1) := dk_27 (dk_at dksX14_likely_1 16 rfl rfl)
theorem dX14_likely_41 : decode cX14_likely 41 = .ok (.laload, 1) := dk_47 (dk_at dksX14_likely_1 17 rfl rfl)
theorem dX14_likely_42 : decode cX14_likely 42 = .ok (.lcmp, 1) := dk_148 (dk_at dksX14_likely_1 18 rfl rfl)
theorem dX14_likely_43 : decode cX14_likely 43 = .ok (.ifCond .le 7, 3) := dk_158 0 7 (dk_at dksX14_likely_1 19 rfl rfl)
theorem dX14_likely_46 : decode cX14_likely 46 = .ok (.iload_n 2, 1) := dk_28 (dk_at dksX14_likely_1 22 rfl rfl)
theorem dX14_likely_47 : decode cX14_likely 47 = .ok (.goto 4, 3) := dk_167 0 4 (dk_at dksX14_likely_2 0 rfl rfl)
theorem dX14_likely_50 : decode cX14_likely 50 = .ok (.iload_n 1, 1) := dk_27 (dk_at dksX14_likely_2 3 rfl rfl)
theorem dX14_likely_51 : decode cX14_likely 51 = .ok (.istore_n 1, 1) := dk_60 (dk_at dksX14_likely_2 4 rfl rfl)
theorem dX14_likely_52 : decode cX14_likely 52 = .ok (.iinc 2 1, 3) := dk_132 2 1 (dk_at dksX14_likely_2 5 rfl rfl)
theorem dX14_likely_55 : decode cX14_likely 55 = .ok (.goto (-33), 3) := dk_167 255 223 (dk_at dksX14_likely_2 8 rfl rfl)
theorem dX14_likely_58 : decode cX14_likely 58 = .ok (.aload_n 0, 1) := dk_42 (dk_at dksX14_likely_2 11 rfl rfl)
theorem dX14_likely_59 : decode cX14_likely 59 = .ok (.iconst 0, 1) := dk_3 (dk_at dksX14_likely_2 12 rfl rfl)
theorem dX14_likely_60 : decode cX14_likely 60 = .ok (.putfield 15, 3) := dk_181 0 15 (dk_at dksX14_likely_2 13 rfl rfl)
theorem dX14_likely_63 : decode cX14_likely 63 = .ok (.aload_n 0, 1) := dk_42 (dk_at dksX14_likely_2 16 rfl rfl)
theorem dX14_likely_64 : decode cX14_likely 64 = .ok (.aload_n 0, 1) := dk_42 (dk_at dksX14_likely_2 17 rfl rfl)
theorem dX14_likely_65 : decode cX14_likely 65 = .ok (.getfield 98, 3) := dk_180 0 98 (dk_at dksX14_likely_2 18 rfl rfl)
theorem dX14_likely_68 : decode cX14_likely 68 = .ok (.iload_n 1, 1) := dk_27 (dk_at dksX14_likely_2 21 rfl rfl)
theorem dX14_likely_69 : decode cX14_likely 69 = .ok (.laload, 1) := dk_47 (dk_at dksX14_likely_2 22 rfl rfl)
theorem dX14_likely_70 : decode cX14_likely 70 = .ok (.ldc2_w 374, 3) := dk_20 1 118 (dk_at dksX14_likely_3 0 rfl rfl)
theorem dX14_likely_73 : decode cX14_likely 73 = .ok (.invokevirtual 378, 3) := dk_182 1 122 (dk_at dksX14_likely_3 3 rfl rfl)
theorem dX14_likely_76 : decode cX14_likely 76 = .ok (.iload_n 1, 1) := dk_27 (dk_at dksX14_likely_3 6 rfl rfl)
theorem dX14_likely_77 : decode cX14_likely 77 = .ok (.bipush 8, 2) := dk_16 8 (dk_at dksX14_likely_3 7 rfl rfl)
theorem dX14_likely_79 : decode cX14_likely 79 = .ok (.if_icmp .ne 7, 3) := dk_160 0 7 (dk_at dksX14_likely_3 9 rfl rfl)
theorem dX14_likely_82 : decode cX14_likely 82 = .ok (.iconst (-1), 1) := dk_2 (dk_at dksX14_likely_3 12 rfl rfl)
theorem dX14_likely_83 : decode cX14_likely 83 = .ok (.goto 4, 3) := dk_167 0 4 (dk_at dksX14_likely_3 13 rfl rfl)
theorem dX14_likely_86 : decode cX14_likely 86 = .ok (.iload_n 1, 1) := dk_27 (dk_at dksX14_likely_3 16 rfl rfl)
theorem dX14_likely_87 : decode cX14_likely 87 = .ok (.ireturn, 1) := dk_172 (dk_at dksX14_likely_3 17 rfl rfl)
def dkwX14_keep_2 : List UInt8 := [16, 117, 27, 104, 28, 96, 42, 180, 0, 44, 28, 46, 79, 132, 2, 1, 167, 255, 230, 4, 172]
abbrev dktX14_keep_2 : List UInt8 := dkwX14_keep_2 ++ []
def dkwX14_keep_1 : List UInt8 := [4, 84, 42, 180, 0, 111, 27, 42, 180, 0, 117, 79, 3, 61, 28, 16, 117, 162, 0, 26, 42, 180, 0, 114]
abbrev dktX14_keep_1 : List UInt8 := dkwX14_keep_1 ++ dktX14_keep_2
def dkwX14_keep_0 : List UInt8 := [42, 3, 181, 0, 3, 27, 133, 9, 20, 1, 120, 184, 0, 120, 154, 0, 5, 3, 172, 42, 180, 0, 107, 27]
abbrev dktX14_keep_0 : List UInt8 := dkwX14_keep_0 ++ dktX14_keep_1
theorem dksX14_keep_0 : cX14_keep.data.toList.drop 0 = dktX14_keep_0 := by decide +kernel
theorem dksX14_keep_1 : cX14_keep.data.toList.drop 24 = dktX14_keep_1 := dk_seg dksX14_keep_0 24 rfl rfl
theorem dksX14_keep_2 : cX14_keep.data.toList.drop 48 = dktX14_keep_2 := dk_seg dksX14_keep_1 24 rfl rfl
theorem dX14_keep_0 : decode cX14_keep 0 = .ok (.aload_n 0, 1) := dk_42 (dk_at dksX14_keep_0 0 rfl rfl)
theorem dX14_keep_1 : decode cX14_keep 1 = .ok (.iconst 0, 1) := dk_3 (dk_at dksX14_keep_0 1 rfl rfl)
theorem dX14_keep_2 : decode cX14_keep 2 = .ok (.putfield 3, 3) := dk_181 0 3 (dk_at dksX14_keep_0 2 rfl rfl)
theorem dX14_keep_5 : decode cX14_keep 5 = .ok (.iload_n 1, 1) := dk_27 (dk_at dksX14_keep_0 5 rfl rfl)
theorem dX14_keep_6 : decode cX14_keep 6 = .ok (.i2l, 1) := dk_133 (dk_at dksX14_keep_0 6 rfl rfl)
theorem dX14_keep_7 : decode cX14_keep 7 = .ok (.lconst 0, 1) := dk_9 (dk_at dksX14_keep_0 7 rfl rfl)
theorem dX14_keep_8 : decode cX14_keep 8 = .ok (.ldc2_w 376, 3) := dk_20 1 120 (dk_at dksX14_keep_0 8 rfl rfl)
theorem dX14_keep_11 : decode cX14_keep 11 = .ok (.invokestatic 120, 3) := dk_184 0 120 (dk_at dksX14_keep_0 11 rfl rfl)
theorem dX14_keep_14 : decode cX14_keep 14 = .ok (.ifCond .ne 5, 3) := dk_154 0 5 (dk_at dksX14_keep_0 14 rfl rfl)
theorem dX14_keep_17 : decode cX14_keep 17 = .ok (.iconst 0, 1) := dk_3 (dk_at dksX14_keep_0 17 rfl rfl)
theorem dX14_keep_18 : decode cX14_keep 18 = .ok (.ireturn, 1) := dk_172 (dk_at dksX14_keep_0 18 rfl rfl)
theorem dX14_keep_19 : decode cX14_keep 19 = .ok (.aload_n 0, 1) := dk_42 (dk_at dksX14_keep_0 19 rfl rfl)
theorem dX14_keep_20 : decode cX14_keep 20 = .ok (.getfield 107, 3) := dk_180 0 107 (dk_at dksX14_keep_0 20 rfl rfl)
theorem dX14_keep_23 : decode cX14_keep 23 = .ok (.iload_n 1, 1) := dk_27 (dk_at dksX14_keep_0 23 rfl rfl)
theorem dX14_keep_24 : decode cX14_keep 24 = .ok (.iconst 1, 1) := dk_4 (dk_at dksX14_keep_1 0 rfl rfl)
theorem dX14_keep_25 : decode cX14_keep 25 = .ok (.bastore, 1) := dk_84 (dk_at dksX14_keep_1 1 rfl rfl)
theorem dX14_keep_26 : decode cX14_keep 26 = .ok (.aload_n 0, 1) := dk_42 (dk_at dksX14_keep_1 2 rfl rfl)
theorem dX14_keep_27 : decode cX14_keep 27 = .ok (.getfield 111, 3) := dk_180 0 111 (dk_at dksX14_keep_1 3 rfl rfl)
theorem dX14_keep_30 : decode cX14_keep 30 = .ok (.iload_n 1, 1) := dk_27 (dk_at dksX14_keep_1 6 rfl rfl)
theorem dX14_keep_31 : decode cX14_keep 31 = .ok (.aload_n 0, 1) := dk_42 (dk_at dksX14_keep_1 7 rfl rfl)
theorem dX14_keep_32 : decode cX14_keep 32 = .ok (.getfield 117, 3) := dk_180 0 117 (dk_at dksX14_keep_1 8 rfl rfl)
theorem dX14_keep_35 : decode cX14_keep 35 = .ok (.iastore, 1) := dk_79 (dk_at dksX14_keep_1 11 rfl rfl)
theorem dX14_keep_36 : decode cX14_keep 36 = .ok (.iconst 0, 1) := dk_3 (dk_at dksX14_keep_1 12 rfl rfl)
theorem dX14_keep_37 : decode cX14_keep 37 = .ok (.istore_n 2, 1) := dk_61 (dk_at dksX14_keep_1 13 rfl rfl)
theorem dX14_keep_38 : decode cX14_keep 38 = .ok (.iload_n 2, 1) := dk_28 (dk_at dksX14_keep_1 14 rfl rfl)
theorem dX14_keep_39 : decode cX14_keep 39 = .ok (.bipush 117, 2) := dk_16 117 (dk_at dksX14_keep_1 15 rfl rfl)
theorem dX14_keep_41 : decode cX14_keep 41 = .ok (.if_icmp .ge 26, 3) := dk_162 0 26 (dk_at dksX14_keep_1 17 rfl rfl)
theorem dX14_keep_44 : decode cX14_keep 44 = .ok (.aload_n 0, 1) := dk_42 (dk_at dksX14_keep_1 20 rfl rfl)
theorem dX14_keep_45 : decode cX14_keep 45 = .ok (.getfield 114, 3) := dk_180 0 114 (dk_at dksX14_keep_1 21 rfl rfl)
theorem dX14_keep_48 : decode cX14_keep 48 = .ok (.bipush 117, 2) := dk_16 117 (dk_at dksX14_keep_2 0 rfl rfl)
theorem dX14_keep_50 : decode cX14_keep 50 = .ok (.iload_n 1, 1) := dk_27 (dk_at dksX14_keep_2 2 rfl rfl)
theorem dX14_keep_51 : decode cX14_keep 51 = .ok (.imul, 1) := dk_104 (dk_at dksX14_keep_2 3 rfl rfl)
theorem dX14_keep_52 : decode cX14_keep 52 = .ok (.iload_n 2, 1) := dk_28 (dk_at dksX14_keep_2 4 rfl rfl)
theorem dX14_keep_53 : decode cX14_keep 53 = .ok (.iadd, 1) := dk_96 (dk_at dksX14_keep_2 5 rfl rfl)
theorem dX14_keep_54 : decode cX14_keep 54 = .ok (.aload_n 0, 1) := dk_42 (dk_at dksX14_keep_2 6 rfl rfl)
theorem dX14_keep_55 : decode cX14_keep 55 = .ok (.getfield 44, 3) := dk_180 0 44 (dk_at dksX14_keep_2 7 rfl rfl)
theorem dX14_keep_58 : decode cX14_keep 58 = .ok (.iload_n 2, 1) := dk_28 (dk_at dksX14_keep_2 10 rfl rfl)
theorem dX14_keep_59 : decode cX14_keep 59 = .ok (.iaload, 1) := dk_46 (dk_at dksX14_keep_2 11 rfl rfl)
theorem dX14_keep_60 : decode cX14_keep 60 = .ok (.iastore, 1) := dk_79 (dk_at dksX14_keep_2 12 rfl rfl)
theorem dX14_keep_61 : decode cX14_keep 61 = .ok (.iinc 2 1, 3) := dk_132 2 1 (dk_at dksX14_keep_2 13 rfl rfl)
theorem dX14_keep_64 : decode cX14_keep 64 = .ok (.goto (-26), 3) := dk_167 255 230 (dk_at dksX14_keep_2 16 rfl rfl)
theorem dX14_keep_67 : decode cX14_keep 67 = .ok (.iconst 1, 1) := dk_4 (dk_at dksX14_keep_2 19 rfl rfl)
theorem dX14_keep_68 : decode cX14_keep 68 = .ok (.ireturn, 1) := dk_172 (dk_at dksX14_keep_2 20 rfl rfl)
def dkwX14_again_3 : List UInt8 := [167, 255, 230, 42, 3, 181, 0, 207, 4, 172]
abbrev dktX14_again_3 : List UInt8 := dkwX14_again_3 ++ []
def dkwX14_again_2 : List UInt8 := [162, 0, 26, 42, 180, 0, 44, 28, 42, 180, 0, 114, 16, 117, 27, 104, 28, 96, 46, 79, 132, 2, 1]
abbrev dktX14_again_2 : List UInt8 := dkwX14_again_2 ++ dktX14_again_3
def dkwX14_again_1 : List UInt8 := [153, 0, 16, 42, 180, 0, 111, 27, 46, 42, 180, 0, 117, 159, 0, 5, 3, 172, 3, 61, 28, 16, 117]
abbrev dktX14_again_1 : List UInt8 := dkwX14_again_1 ++ dktX14_again_2
def dkwX14_again_0 : List UInt8 := [42, 3, 181, 0, 3, 27, 133, 9, 20, 1, 120, 184, 0, 120, 153, 0, 25, 42, 180, 0, 107, 27, 51]
abbrev dktX14_again_0 : List UInt8 := dkwX14_again_0 ++ dktX14_again_1
theorem dksX14_again_0 : cX14_again.data.toList.drop 0 = dktX14_again_0 := by decide +kernel
theorem dksX14_again_1 : cX14_again.data.toList.drop 23 = dktX14_again_1 := dk_seg dksX14_again_0 23 rfl rfl
theorem dksX14_again_2 : cX14_again.data.toList.drop 46 = dktX14_again_2 := dk_seg dksX14_again_1 23 rfl rfl
theorem dksX14_again_3 : cX14_again.data.toList.drop 69 = dktX14_again_3 := dk_seg dksX14_again_2 23 rfl rfl
theorem dX14_again_0 : decode cX14_again 0 = .ok (.aload_n 0, 1) := dk_42 (dk_at dksX14_again_0 0 rfl rfl)
theorem dX14_again_1 : decode cX14_again 1 = .ok (.iconst 0, 1) := dk_3 (dk_at dksX14_again_0 1 rfl rfl)
theorem dX14_again_2 : decode cX14_again 2 = .ok (.putfield 3, 3) := dk_181 0 3 (dk_at dksX14_again_0 2 rfl rfl)
theorem dX14_again_5 : decode cX14_again 5 = .ok (.iload_n 1, 1) := dk_27 (dk_at dksX14_again_0 5 rfl rfl)
theorem dX14_again_6 : decode cX14_again 6 = .ok (.i2l, 1) := dk_133 (dk_at dksX14_again_0 6 rfl rfl)
theorem dX14_again_7 : decode cX14_again 7 = .ok (.lconst 0, 1) := dk_9 (dk_at dksX14_again_0 7 rfl rfl)
theorem dX14_again_8 : decode cX14_again 8 = .ok (.ldc2_w 376, 3) := dk_20 1 120 (dk_at dksX14_again_0 8 rfl rfl)
theorem dX14_again_11 : decode cX14_again 11 = .ok (.invokestatic 120, 3) := dk_184 0 120 (dk_at dksX14_again_0 11 rfl rfl)
theorem dX14_again_14 : decode cX14_again 14 = .ok (.ifCond .eq 25, 3) := dk_153 0 25 (dk_at dksX14_again_0 14 rfl rfl)
theorem dX14_again_17 : decode cX14_again 17 = .ok (.aload_n 0, 1) := dk_42 (dk_at dksX14_again_0 17 rfl rfl)
theorem dX14_again_18 : decode cX14_again 18 = .ok (.getfield 107, 3) := dk_180 0 107 (dk_at dksX14_again_0 18 rfl rfl)
theorem dX14_again_21 : decode cX14_again 21 = .ok (.iload_n 1, 1) := dk_27 (dk_at dksX14_again_0 21 rfl rfl)
theorem dX14_again_22 : decode cX14_again 22 = .ok (.baload, 1) := dk_51 (dk_at dksX14_again_0 22 rfl rfl)
theorem dX14_again_23 : decode cX14_again 23 = .ok (.ifCond .eq 16, 3) := dk_153 0 16 (dk_at dksX14_again_1 0 rfl rfl)
theorem dX14_again_26 : decode cX14_again 26 = .ok (.aload_n 0, 1) := dk_42 (dk_at dksX14_again_1 3 rfl rfl)
theorem dX14_again_27 : decode cX14_again 27 = .ok (.getfield 111, 3) := dk_180 0 111 (dk_at dksX14_again_1 4 rfl rfl)
theorem dX14_again_30 : decode cX14_again 30 = .ok (.iload_n 1, 1) := dk_27 (dk_at dksX14_again_1 7 rfl rfl)
theorem dX14_again_31 : decode cX14_again 31 = .ok (.iaload, 1) := dk_46 (dk_at dksX14_again_1 8 rfl rfl)
theorem dX14_again_32 : decode cX14_again 32 = .ok (.aload_n 0, 1) := dk_42 (dk_at dksX14_again_1 9 rfl rfl)
theorem dX14_again_33 : decode cX14_again 33 = .ok (.getfield 117, 3) := dk_180 0 117 (dk_at dksX14_again_1 10 rfl rfl)
theorem dX14_again_36 : decode cX14_again 36 = .ok (.if_icmp .eq 5, 3) := dk_159 0 5 (dk_at dksX14_again_1 13 rfl rfl)
theorem dX14_again_39 : decode cX14_again 39 = .ok (.iconst 0, 1) := dk_3 (dk_at dksX14_again_1 16 rfl rfl)
theorem dX14_again_40 : decode cX14_again 40 = .ok (.ireturn, 1) := dk_172 (dk_at dksX14_again_1 17 rfl rfl)
theorem dX14_again_41 : decode cX14_again 41 = .ok (.iconst 0, 1) := dk_3 (dk_at dksX14_again_1 18 rfl rfl)
theorem dX14_again_42 : decode cX14_again 42 = .ok (.istore_n 2, 1) := dk_61 (dk_at dksX14_again_1 19 rfl rfl)
theorem dX14_again_43 : decode cX14_again 43 = .ok (.iload_n 2, 1) := dk_28 (dk_at dksX14_again_1 20 rfl rfl)
theorem dX14_again_44 : decode cX14_again 44 = .ok (.bipush 117, 2) := dk_16 117 (dk_at dksX14_again_1 21 rfl rfl)
theorem dX14_again_46 : decode cX14_again 46 = .ok (.if_icmp .ge 26, 3) := dk_162 0 26 (dk_at dksX14_again_2 0 rfl rfl)
theorem dX14_again_49 : decode cX14_again 49 = .ok (.aload_n 0, 1) := dk_42 (dk_at dksX14_again_2 3 rfl rfl)
theorem dX14_again_50 : decode cX14_again 50 = .ok (.getfield 44, 3) := dk_180 0 44 (dk_at dksX14_again_2 4 rfl rfl)
theorem dX14_again_53 : decode cX14_again 53 = .ok (.iload_n 2, 1) := dk_28 (dk_at dksX14_again_2 7 rfl rfl)
theorem dX14_again_54 : decode cX14_again 54 = .ok (.aload_n 0, 1) := dk_42 (dk_at dksX14_again_2 8 rfl rfl)
theorem dX14_again_55 : decode cX14_again 55 = .ok (.getfield 114, 3) := dk_180 0 114 (dk_at dksX14_again_2 9 rfl rfl)
theorem dX14_again_58 : decode cX14_again 58 = .ok (.bipush 117, 2) := dk_16 117 (dk_at dksX14_again_2 12 rfl rfl)
theorem dX14_again_60 : decode cX14_again 60 = .ok (.iload_n 1, 1) := dk_27 (dk_at dksX14_again_2 14 rfl rfl)
theorem dX14_again_61 : decode cX14_again 61 = .ok (.imul, 1) := dk_104 (dk_at dksX14_again_2 15 rfl rfl)
theorem dX14_again_62 : decode cX14_again 62 = .ok (.iload_n 2, 1) := dk_28 (dk_at dksX14_again_2 16 rfl rfl)
theorem dX14_again_63 : decode cX14_again 63 = .ok (.iadd, 1) := dk_96 (dk_at dksX14_again_2 17 rfl rfl)
theorem dX14_again_64 : decode cX14_again 64 = .ok (.iaload, 1) := dk_46 (dk_at dksX14_again_2 18 rfl rfl)
theorem dX14_again_65 : decode cX14_again 65 = .ok (.iastore, 1) := dk_79 (dk_at dksX14_again_2 19 rfl rfl)
theorem dX14_again_66 : decode cX14_again 66 = .ok (.iinc 2 1, 3) := dk_132 2 1 (dk_at dksX14_again_2 20 rfl rfl)
theorem dX14_again_69 : decode cX14_again 69 = .ok (.goto (-26), 3) := dk_167 255 230 (dk_at dksX14_again_3 0 rfl rfl)
theorem dX14_again_72 : decode cX14_again 72 = .ok (.aload_n 0, 1) := dk_42 (dk_at dksX14_again_3 3 rfl rfl)
theorem dX14_again_73 : decode cX14_again 73 = .ok (.iconst 0, 1) := dk_3 (dk_at dksX14_again_3 4 rfl rfl)
theorem dX14_again_74 : decode cX14_again 74 = .ok (.putfield 207, 3) := dk_181 0 207 (dk_at dksX14_again_3 5 rfl rfl)
theorem dX14_again_77 : decode cX14_again 77 = .ok (.iconst 1, 1) := dk_4 (dk_at dksX14_again_3 8 rfl rfl)
theorem dX14_again_78 : decode cX14_again 78 = .ok (.ireturn, 1) := dk_172 (dk_at dksX14_again_3 9 rfl rfl)
def dkwX14_count_6 : List UInt8 := [180, 0, 41, 172, 42, 180, 0, 251, 172, 16, 156, 172]
abbrev dktX14_count_6 : List UInt8 := dkwX14_count_6 ++ []
def dkwX14_count_5 : List UInt8 := [172, 42, 180, 1, 95, 172, 42, 180, 1, 112, 172, 42, 180, 0, 15, 172, 42, 180, 0, 132, 172, 42]
abbrev dktX14_count_5 : List UInt8 := dkwX14_count_5 ++ dktX14_count_6
def dkwX14_count_4 : List UInt8 := [180, 0, 44, 16, 20, 46, 172, 42, 182, 1, 132, 172, 42, 180, 0, 44, 16, 16, 46, 172, 42, 180, 0, 207]
abbrev dktX14_count_4 : List UInt8 := dkwX14_count_4 ++ dktX14_count_5
def dkwX14_count_3 : List UInt8 := [180, 0, 44, 16, 17, 46, 156, 0, 7, 3, 167, 0, 10, 42, 180, 0, 44, 16, 18, 46, 172, 42]
abbrev dktX14_count_3 : List UInt8 := dkwX14_count_3 ++ dktX14_count_4
def dkwX14_count_2 : List UInt8 := [42, 180, 0, 117, 172, 42, 180, 0, 44, 16, 19, 46, 172, 42, 180, 0, 44, 16, 17, 46, 172, 42]
abbrev dktX14_count_2 : List UInt8 := dkwX14_count_2 ++ dktX14_count_3
def dkwX14_count_1 : List UInt8 := [170, 0, 0, 0, 0, 169, 0, 0, 0, 0, 0, 0, 0, 13, 0, 0, 0, 70, 0, 0, 0, 75, 0, 0, 0, 83, 0, 0, 0, 91, 0, 0, 0, 113, 0, 0, 0, 121, 0, 0, 0, 126, 0, 0, 0, 134, 0, 0, 0, 139, 0, 0, 0, 144, 0, 0, 0, 149, 0, 0, 0, 154, 0, 0, 0, 159, 0, 0, 0, 164]
abbrev dktX14_count_1 : List UInt8 := dkwX14_count_1 ++ dktX14_count_2
def dkwX14_count_0 : List UInt8 := [42, 3, 181, 0, 3, 27]
abbrev dktX14_count_0 : List UInt8 := dkwX14_count_0 ++ dktX14_count_1
theorem dksX14_count_0 : cX14_count.data.toList.drop 0 = dktX14_count_0 := by decide +kernel
theorem dksX14_count_1 : cX14_count.data.toList.drop 6 = dktX14_count_1 := dk_seg dksX14_count_0 6 rfl rfl
theorem dksX14_count_2 : cX14_count.data.toList.drop 76 = dktX14_count_2 := dk_seg dksX14_count_1 70 rfl rfl
theorem dksX14_count_3 : cX14_count.data.toList.drop 98 = dktX14_count_3 := dk_seg dksX14_count_2 22 rfl rfl
theorem dksX14_count_4 : cX14_count.data.toList.drop 120 = dktX14_count_4 := dk_seg dksX14_count_3 22 rfl rfl
theorem dksX14_count_5 : cX14_count.data.toList.drop 144 = dktX14_count_5 := dk_seg dksX14_count_4 24 rfl rfl
theorem dksX14_count_6 : cX14_count.data.toList.drop 166 = dktX14_count_6 := dk_seg dksX14_count_5 22 rfl rfl
theorem dX14_count_0 : decode cX14_count 0 = .ok (.aload_n 0, 1) := dk_42 (dk_at dksX14_count_0 0 rfl rfl)
theorem dX14_count_1 : decode cX14_count 1 = .ok (.iconst 0, 1) := dk_3 (dk_at dksX14_count_0 1 rfl rfl)
theorem dX14_count_2 : decode cX14_count 2 = .ok (.putfield 3, 3) := dk_181 0 3 (dk_at dksX14_count_0 2 rfl rfl)
theorem dX14_count_5 : decode cX14_count 5 = .ok (.iload_n 1, 1) := dk_27 (dk_at dksX14_count_0 5 rfl rfl)
theorem dX14_count_6 : decode cX14_count 6 = .ok (.tableswitch 169 0 13 #[70, 75, 83, 91, 113, 121, 126, 134, 139, 144, 149, 154, 159, 164], 70) := by decide +kernel
theorem dX14_count_76 : decode cX14_count 76 = .ok (.aload_n 0, 1) := dk_42 (dk_at dksX14_count_2 0 rfl rfl)
theorem dX14_count_77 : decode cX14_count 77 = .ok (.getfield 117, 3) := dk_180 0 117 (dk_at dksX14_count_2 1 rfl rfl)
theorem dX14_count_80 : decode cX14_count 80 = .ok (.ireturn, 1) := dk_172 (dk_at dksX14_count_2 4 rfl rfl)
theorem dX14_count_81 : decode cX14_count 81 = .ok (.aload_n 0, 1) := dk_42 (dk_at dksX14_count_2 5 rfl rfl)
theorem dX14_count_82 : decode cX14_count 82 = .ok (.getfield 44, 3) := dk_180 0 44 (dk_at dksX14_count_2 6 rfl rfl)
theorem dX14_count_85 : decode cX14_count 85 = .ok (.bipush 19, 2) := dk_16 19 (dk_at dksX14_count_2 9 rfl rfl)
theorem dX14_count_87 : decode cX14_count 87 = .ok (.iaload, 1) := dk_46 (dk_at dksX14_count_2 11 rfl rfl)
theorem dX14_count_88 : decode cX14_count 88 = .ok (.ireturn, 1) := dk_172 (dk_at dksX14_count_2 12 rfl rfl)
theorem dX14_count_89 : decode cX14_count 89 = .ok (.aload_n 0, 1) := dk_42 (dk_at dksX14_count_2 13 rfl rfl)
theorem dX14_count_90 : decode cX14_count 90 = .ok (.getfield 44, 3) := dk_180 0 44 (dk_at dksX14_count_2 14 rfl rfl)
theorem dX14_count_93 : decode cX14_count 93 = .ok (.bipush 17, 2) := dk_16 17 (dk_at dksX14_count_2 17 rfl rfl)
theorem dX14_count_95 : decode cX14_count 95 = .ok (.iaload, 1) := dk_46 (dk_at dksX14_count_2 19 rfl rfl)
theorem dX14_count_96 : decode cX14_count 96 = .ok (.ireturn, 1) := dk_172 (dk_at dksX14_count_2 20 rfl rfl)
theorem dX14_count_97 : decode cX14_count 97 = .ok (.aload_n 0, 1) := dk_42 (dk_at dksX14_count_2 21 rfl rfl)
theorem dX14_count_98 : decode cX14_count 98 = .ok (.getfield 44, 3) := dk_180 0 44 (dk_at dksX14_count_3 0 rfl rfl)
theorem dX14_count_101 : decode cX14_count 101 = .ok (.bipush 17, 2) := dk_16 17 (dk_at dksX14_count_3 3 rfl rfl)
theorem dX14_count_103 : decode cX14_count 103 = .ok (.iaload, 1) := dk_46 (dk_at dksX14_count_3 5 rfl rfl)
theorem dX14_count_104 : decode cX14_count 104 = .ok (.ifCond .ge 7, 3) := dk_156 0 7 (dk_at dksX14_count_3 6 rfl rfl)
theorem dX14_count_107 : decode cX14_count 107 = .ok (.iconst 0, 1) := dk_3 (dk_at dksX14_count_3 9 rfl rfl)
theorem dX14_count_108 : decode cX14_count 108 = .ok (.goto 10, 3) := dk_167 0 10 (dk_at dksX14_count_3 10 rfl rfl)
theorem dX14_count_111 : decode cX14_count 111 = .ok (.aload_n 0, 1) := dk_42 (dk_at dksX14_count_3 13 rfl rfl)
theorem dX14_count_112 : decode cX14_count 112 = .ok (.getfield 44, 3) := dk_180 0 44 (dk_at dksX14_count_3 14 rfl rfl)
theorem dX14_count_115 : decode cX14_count 115 = .ok (.bipush 18, 2) := dk_16 18 (dk_at dksX14_count_3 17 rfl rfl)
theorem dX14_count_117 : decode cX14_count 117 = .ok (.iaload, 1) := dk_46 (dk_at dksX14_count_3 19 rfl rfl)
theorem dX14_count_118 : decode cX14_count 118 = .ok (.ireturn, 1) := dk_172 (dk_at dksX14_count_3 20 rfl rfl)
theorem dX14_count_119 : decode cX14_count 119 = .ok (.aload_n 0, 1) := dk_42 (dk_at dksX14_count_3 21 rfl rfl)
theorem dX14_count_120 : decode cX14_count 120 = .ok (.getfield 44, 3) := dk_180 0 44 (dk_at dksX14_count_4 0 rfl rfl)
theorem dX14_count_123 : decode cX14_count 123 = .ok (.bipush 20, 2) := dk_16 20 (dk_at dksX14_count_4 3 rfl rfl)
theorem dX14_count_125 : decode cX14_count 125 = .ok (.iaload, 1) := dk_46 (dk_at dksX14_count_4 5 rfl rfl)
theorem dX14_count_126 : decode cX14_count 126 = .ok (.ireturn, 1) := dk_172 (dk_at dksX14_count_4 6 rfl rfl)
theorem dX14_count_127 : decode cX14_count 127 = .ok (.aload_n 0, 1) := dk_42 (dk_at dksX14_count_4 7 rfl rfl)
theorem dX14_count_128 : decode cX14_count 128 = .ok (.invokevirtual 388, 3) := dk_182 1 132 (dk_at dksX14_count_4 8 rfl rfl)
theorem dX14_count_131 : decode cX14_count 131 = .ok (.ireturn, 1) := dk_172 (dk_at dksX14_count_4 11 rfl rfl)
theorem dX14_count_132 : decode cX14_count 132 = .ok (.aload_n 0, 1) := dk_42 (dk_at dksX14_count_4 12 rfl rfl)
theorem dX14_count_133 : decode cX14_count 133 = .ok (.getfield 44, 3) := dk_180 0 44 (dk_at dksX14_count_4 13 rfl rfl)
theorem dX14_count_136 : decode cX14_count 136 = .ok (.bipush 16, 2) := dk_16 16 (dk_at dksX14_count_4 16 rfl rfl)
theorem dX14_count_138 : decode cX14_count 138 = .ok (.iaload, 1) := dk_46 (dk_at dksX14_count_4 18 rfl rfl)
theorem dX14_count_139 : decode cX14_count 139 = .ok (.ireturn, 1) := dk_172 (dk_at dksX14_count_4 19 rfl rfl)
theorem dX14_count_140 : decode cX14_count 140 = .ok (.aload_n 0, 1) := dk_42 (dk_at dksX14_count_4 20 rfl rfl)
theorem dX14_count_141 : decode cX14_count 141 = .ok (.getfield 207, 3) := dk_180 0 207 (dk_at dksX14_count_4 21 rfl rfl)
theorem dX14_count_144 : decode cX14_count 144 = .ok (.ireturn, 1) := dk_172 (dk_at dksX14_count_5 0 rfl rfl)
theorem dX14_count_145 : decode cX14_count 145 = .ok (.aload_n 0, 1) := dk_42 (dk_at dksX14_count_5 1 rfl rfl)
theorem dX14_count_146 : decode cX14_count 146 = .ok (.getfield 351, 3) := dk_180 1 95 (dk_at dksX14_count_5 2 rfl rfl)
theorem dX14_count_149 : decode cX14_count 149 = .ok (.ireturn, 1) := dk_172 (dk_at dksX14_count_5 5 rfl rfl)
theorem dX14_count_150 : decode cX14_count 150 = .ok (.aload_n 0, 1) := dk_42 (dk_at dksX14_count_5 6 rfl rfl)
theorem dX14_count_151 : decode cX14_count 151 = .ok (.getfield 368, 3) := dk_180 1 112 (dk_at dksX14_count_5 7 rfl rfl)
theorem dX14_count_154 : decode cX14_count 154 = .ok (.ireturn, 1) := dk_172 (dk_at dksX14_count_5 10 rfl rfl)
theorem dX14_count_155 : decode cX14_count 155 = .ok (.aload_n 0, 1) := dk_42 (dk_at dksX14_count_5 11 rfl rfl)
theorem dX14_count_156 : decode cX14_count 156 = .ok (.getfield 15, 3) := dk_180 0 15 (dk_at dksX14_count_5 12 rfl rfl)
theorem dX14_count_159 : decode cX14_count 159 = .ok (.ireturn, 1) := dk_172 (dk_at dksX14_count_5 15 rfl rfl)
theorem dX14_count_160 : decode cX14_count 160 = .ok (.aload_n 0, 1) := dk_42 (dk_at dksX14_count_5 16 rfl rfl)
theorem dX14_count_161 : decode cX14_count 161 = .ok (.getfield 132, 3) := dk_180 0 132 (dk_at dksX14_count_5 17 rfl rfl)
theorem dX14_count_164 : decode cX14_count 164 = .ok (.ireturn, 1) := dk_172 (dk_at dksX14_count_5 20 rfl rfl)
theorem dX14_count_165 : decode cX14_count 165 = .ok (.aload_n 0, 1) := dk_42 (dk_at dksX14_count_5 21 rfl rfl)
theorem dX14_count_166 : decode cX14_count 166 = .ok (.getfield 41, 3) := dk_180 0 41 (dk_at dksX14_count_6 0 rfl rfl)
theorem dX14_count_169 : decode cX14_count 169 = .ok (.ireturn, 1) := dk_172 (dk_at dksX14_count_6 3 rfl rfl)
theorem dX14_count_170 : decode cX14_count 170 = .ok (.aload_n 0, 1) := dk_42 (dk_at dksX14_count_6 4 rfl rfl)
theorem dX14_count_171 : decode cX14_count 171 = .ok (.getfield 251, 3) := dk_180 0 251 (dk_at dksX14_count_6 5 rfl rfl)
theorem dX14_count_174 : decode cX14_count 174 = .ok (.ireturn, 1) := dk_172 (dk_at dksX14_count_6 8 rfl rfl)
theorem dX14_count_175 : decode cX14_count 175 = .ok (.bipush (-100), 2) := dk_16 156 (dk_at dksX14_count_6 9 rfl rfl)
theorem dX14_count_177 : decode cX14_count 177 = .ok (.ireturn, 1) := dk_172 (dk_at dksX14_count_6 11 rfl rfl)
def dkwX14_lawsThatHold_1 : List UInt8 := [46, 156, 0, 9, 4, 28, 120, 167, 0, 4, 3, 128, 60, 132, 2, 1, 167, 255, 220, 27, 172]
abbrev dktX14_lawsThatHold_1 : List UInt8 := dkwX14_lawsThatHold_1 ++ []
def dkwX14_lawsThatHold_0 : List UInt8 := [3, 60, 3, 61, 28, 42, 180, 0, 44, 16, 20, 46, 162, 0, 31, 27, 42, 180, 0, 44, 16, 45, 28, 96]
abbrev dktX14_lawsThatHold_0 : List UInt8 := dkwX14_lawsThatHold_0 ++ dktX14_lawsThatHold_1
theorem dksX14_lawsThatHold_0 : cX14_lawsThatHold.data.toList.drop 0 = dktX14_lawsThatHold_0 := by decide +kernel
theorem dksX14_lawsThatHold_1 : cX14_lawsThatHold.data.toList.drop 24 = dktX14_lawsThatHold_1 := dk_seg dksX14_lawsThatHold_0 24 rfl rfl
theorem dX14_lawsThatHold_0 : decode cX14_lawsThatHold 0 = .ok (.iconst 0, 1) := dk_3 (dk_at dksX14_lawsThatHold_0 0 rfl rfl)
theorem dX14_lawsThatHold_1 : decode cX14_lawsThatHold 1 = .ok (.istore_n 1, 1) := dk_60 (dk_at dksX14_lawsThatHold_0 1 rfl rfl)
theorem dX14_lawsThatHold_2 : decode cX14_lawsThatHold 2 = .ok (.iconst 0, 1) := dk_3 (dk_at dksX14_lawsThatHold_0 2 rfl rfl)
theorem dX14_lawsThatHold_3 : decode cX14_lawsThatHold 3 = .ok (.istore_n 2, 1) := dk_61 (dk_at dksX14_lawsThatHold_0 3 rfl rfl)
theorem dX14_lawsThatHold_4 : decode cX14_lawsThatHold 4 = .ok (.iload_n 2, 1) := dk_28 (dk_at dksX14_lawsThatHold_0 4 rfl rfl)
theorem dX14_lawsThatHold_5 : decode cX14_lawsThatHold 5 = .ok (.aload_n 0, 1) := dk_42 (dk_at dksX14_lawsThatHold_0 5 rfl rfl)
theorem dX14_lawsThatHold_6 : decode cX14_lawsThatHold 6 = .ok (.getfield 44, 3) := dk_180 0 44 (dk_at dksX14_lawsThatHold_0 6 rfl rfl)
theorem dX14_lawsThatHold_9 : decode cX14_lawsThatHold 9 = .ok (.bipush 20, 2) := dk_16 20 (dk_at dksX14_lawsThatHold_0 9 rfl rfl)
theorem dX14_lawsThatHold_11 : decode cX14_lawsThatHold 11 = .ok (.iaload, 1) := dk_46 (dk_at dksX14_lawsThatHold_0 11 rfl rfl)
theorem dX14_lawsThatHold_12 : decode cX14_lawsThatHold 12 = .ok (.if_icmp .ge 31, 3) := dk_162 0 31 (dk_at dksX14_lawsThatHold_0 12 rfl rfl)
theorem dX14_lawsThatHold_15 : decode cX14_lawsThatHold 15 = .ok (.iload_n 1, 1) := dk_27 (dk_at dksX14_lawsThatHold_0 15 rfl rfl)
theorem dX14_lawsThatHold_16 : decode cX14_lawsThatHold 16 = .ok (.aload_n 0, 1) := dk_42 (dk_at dksX14_lawsThatHold_0 16 rfl rfl)
theorem dX14_lawsThatHold_17 : decode cX14_lawsThatHold 17 = .ok (.getfield 44, 3) := dk_180 0 44 (dk_at dksX14_lawsThatHold_0 17 rfl rfl)
theorem dX14_lawsThatHold_20 : decode cX14_lawsThatHold 20 = .ok (.bipush 45, 2) := dk_16 45 (dk_at dksX14_lawsThatHold_0 20 rfl rfl)
theorem dX14_lawsThatHold_22 : decode cX14_lawsThatHold 22 = .ok (.iload_n 2, 1) := dk_28 (dk_at dksX14_lawsThatHold_0 22 rfl rfl)
theorem dX14_lawsThatHold_23 : decode cX14_lawsThatHold 23 = .ok (.iadd, 1) := dk_96 (dk_at dksX14_lawsThatHold_0 23 rfl rfl)
theorem dX14_lawsThatHold_24 : decode cX14_lawsThatHold 24 = .ok (.iaload, 1) := dk_46 (dk_at dksX14_lawsThatHold_1 0 rfl rfl)
theorem dX14_lawsThatHold_25 : decode cX14_lawsThatHold 25 = .ok (.ifCond .ge 9, 3) := dk_156 0 9 (dk_at dksX14_lawsThatHold_1 1 rfl rfl)
theorem dX14_lawsThatHold_28 : decode cX14_lawsThatHold 28 = .ok (.iconst 1, 1) := dk_4 (dk_at dksX14_lawsThatHold_1 4 rfl rfl)
theorem dX14_lawsThatHold_29 : decode cX14_lawsThatHold 29 = .ok (.iload_n 2, 1) := dk_28 (dk_at dksX14_lawsThatHold_1 5 rfl rfl)
theorem dX14_lawsThatHold_30 : decode cX14_lawsThatHold 30 = .ok (.ishl, 1) := dk_120 (dk_at dksX14_lawsThatHold_1 6 rfl rfl)
theorem dX14_lawsThatHold_31 : decode cX14_lawsThatHold 31 = .ok (.goto 4, 3) := dk_167 0 4 (dk_at dksX14_lawsThatHold_1 7 rfl rfl)
theorem dX14_lawsThatHold_34 : decode cX14_lawsThatHold 34 = .ok (.iconst 0, 1) := dk_3 (dk_at dksX14_lawsThatHold_1 10 rfl rfl)
theorem dX14_lawsThatHold_35 : decode cX14_lawsThatHold 35 = .ok (.ior, 1) := dk_128 (dk_at dksX14_lawsThatHold_1 11 rfl rfl)
theorem dX14_lawsThatHold_36 : decode cX14_lawsThatHold 36 = .ok (.istore_n 1, 1) := dk_60 (dk_at dksX14_lawsThatHold_1 12 rfl rfl)
theorem dX14_lawsThatHold_37 : decode cX14_lawsThatHold 37 = .ok (.iinc 2 1, 3) := dk_132 2 1 (dk_at dksX14_lawsThatHold_1 13 rfl rfl)
theorem dX14_lawsThatHold_40 : decode cX14_lawsThatHold 40 = .ok (.goto (-36), 3) := dk_167 255 220 (dk_at dksX14_lawsThatHold_1 16 rfl rfl)
theorem dX14_lawsThatHold_43 : decode cX14_lawsThatHold 43 = .ok (.iload_n 1, 1) := dk_27 (dk_at dksX14_lawsThatHold_1 19 rfl rfl)
theorem dX14_lawsThatHold_44 : decode cX14_lawsThatHold 44 = .ok (.ireturn, 1) := dk_172 (dk_at dksX14_lawsThatHold_1 20 rfl rfl)
def dkwX14_row_1 : List UInt8 := [181, 0, 3, 9, 173, 42, 180, 0, 11, 27, 47, 173]
abbrev dktX14_row_1 : List UInt8 := dkwX14_row_1 ++ []
def dkwX14_row_0 : List UInt8 := [42, 3, 181, 0, 3, 27, 133, 9, 42, 180, 0, 15, 4, 100, 133, 184, 0, 120, 154, 0, 10, 42, 4]
abbrev dktX14_row_0 : List UInt8 := dkwX14_row_0 ++ dktX14_row_1
theorem dksX14_row_0 : cX14_row.data.toList.drop 0 = dktX14_row_0 := by decide +kernel
theorem dksX14_row_1 : cX14_row.data.toList.drop 23 = dktX14_row_1 := dk_seg dksX14_row_0 23 rfl rfl
theorem dX14_row_0 : decode cX14_row 0 = .ok (.aload_n 0, 1) := dk_42 (dk_at dksX14_row_0 0 rfl rfl)
theorem dX14_row_1 : decode cX14_row 1 = .ok (.iconst 0, 1) := dk_3 (dk_at dksX14_row_0 1 rfl rfl)
theorem dX14_row_2 : decode cX14_row 2 = .ok (.putfield 3, 3) := dk_181 0 3 (dk_at dksX14_row_0 2 rfl rfl)
theorem dX14_row_5 : decode cX14_row 5 = .ok (.iload_n 1, 1) := dk_27 (dk_at dksX14_row_0 5 rfl rfl)
theorem dX14_row_6 : decode cX14_row 6 = .ok (.i2l, 1) := dk_133 (dk_at dksX14_row_0 6 rfl rfl)
theorem dX14_row_7 : decode cX14_row 7 = .ok (.lconst 0, 1) := dk_9 (dk_at dksX14_row_0 7 rfl rfl)
theorem dX14_row_8 : decode cX14_row 8 = .ok (.aload_n 0, 1) := dk_42 (dk_at dksX14_row_0 8 rfl rfl)
theorem dX14_row_9 : decode cX14_row 9 = .ok (.getfield 15, 3) := dk_180 0 15 (dk_at dksX14_row_0 9 rfl rfl)
theorem dX14_row_12 : decode cX14_row 12 = .ok (.iconst 1, 1) := dk_4 (dk_at dksX14_row_0 12 rfl rfl)
theorem dX14_row_13 : decode cX14_row 13 = .ok (.isub, 1) := dk_100 (dk_at dksX14_row_0 13 rfl rfl)
theorem dX14_row_14 : decode cX14_row 14 = .ok (.i2l, 1) := dk_133 (dk_at dksX14_row_0 14 rfl rfl)
theorem dX14_row_15 : decode cX14_row 15 = .ok (.invokestatic 120, 3) := dk_184 0 120 (dk_at dksX14_row_0 15 rfl rfl)
theorem dX14_row_18 : decode cX14_row 18 = .ok (.ifCond .ne 10, 3) := dk_154 0 10 (dk_at dksX14_row_0 18 rfl rfl)
theorem dX14_row_21 : decode cX14_row 21 = .ok (.aload_n 0, 1) := dk_42 (dk_at dksX14_row_0 21 rfl rfl)
theorem dX14_row_22 : decode cX14_row 22 = .ok (.iconst 1, 1) := dk_4 (dk_at dksX14_row_0 22 rfl rfl)
theorem dX14_row_23 : decode cX14_row 23 = .ok (.putfield 3, 3) := dk_181 0 3 (dk_at dksX14_row_1 0 rfl rfl)
theorem dX14_row_26 : decode cX14_row 26 = .ok (.lconst 0, 1) := dk_9 (dk_at dksX14_row_1 3 rfl rfl)
theorem dX14_row_27 : decode cX14_row 27 = .ok (.lreturn, 1) := dk_173 (dk_at dksX14_row_1 4 rfl rfl)
theorem dX14_row_28 : decode cX14_row 28 = .ok (.aload_n 0, 1) := dk_42 (dk_at dksX14_row_1 5 rfl rfl)
theorem dX14_row_29 : decode cX14_row 29 = .ok (.getfield 11, 3) := dk_180 0 11 (dk_at dksX14_row_1 6 rfl rfl)
theorem dX14_row_32 : decode cX14_row 32 = .ok (.iload_n 1, 1) := dk_27 (dk_at dksX14_row_1 9 rfl rfl)
theorem dX14_row_33 : decode cX14_row 33 = .ok (.laload, 1) := dk_47 (dk_at dksX14_row_1 10 rfl rfl)
theorem dX14_row_34 : decode cX14_row 34 = .ok (.lreturn, 1) := dk_173 (dk_at dksX14_row_1 11 rfl rfl)
