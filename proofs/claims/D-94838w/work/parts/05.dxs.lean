set_option maxRecDepth 100000
def dkwX0_of_0 : List UInt8 := [45, 3, 42, 27, 28, 182, 0, 7, 133, 80, 167, 0, 7, 58, 4, 4, 172, 3, 172]
abbrev dktX0_of_0 : List UInt8 := dkwX0_of_0 ++ []
theorem dksX0_of_0 : cX0_of.data.toList.drop 0 = dktX0_of_0 := by decide +kernel
theorem dX0_of_0 : decode cX0_of 0 = .ok (.aload_n 3, 1) := dk_45 (dk_at dksX0_of_0 0 rfl rfl)
theorem dX0_of_1 : decode cX0_of 1 = .ok (.iconst 0, 1) := dk_3 (dk_at dksX0_of_0 1 rfl rfl)
theorem dX0_of_2 : decode cX0_of 2 = .ok (.aload_n 0, 1) := dk_42 (dk_at dksX0_of_0 2 rfl rfl)
theorem dX0_of_3 : decode cX0_of 3 = .ok (.iload_n 1, 1) := dk_27 (dk_at dksX0_of_0 3 rfl rfl)
theorem dX0_of_4 : decode cX0_of 4 = .ok (.iload_n 2, 1) := dk_28 (dk_at dksX0_of_0 4 rfl rfl)
theorem dX0_of_5 : decode cX0_of 5 = .ok (.invokevirtual 7, 3) := dk_182 0 7 (dk_at dksX0_of_0 5 rfl rfl)
theorem dX0_of_8 : decode cX0_of 8 = .ok (.i2l, 1) := dk_133 (dk_at dksX0_of_0 8 rfl rfl)
theorem dX0_of_9 : decode cX0_of 9 = .ok (.lastore, 1) := dk_80 (dk_at dksX0_of_0 9 rfl rfl)
theorem dX0_of_10 : decode cX0_of 10 = .ok (.goto 7, 3) := dk_167 0 7 (dk_at dksX0_of_0 10 rfl rfl)
theorem dX0_of_13 : decode cX0_of 13 = .ok (.astore 4, 2) := dk_58 4 (dk_at dksX0_of_0 13 rfl rfl)
theorem dX0_of_15 : decode cX0_of 15 = .ok (.iconst 1, 1) := dk_4 (dk_at dksX0_of_0 15 rfl rfl)
theorem dX0_of_16 : decode cX0_of 16 = .ok (.ireturn, 1) := dk_172 (dk_at dksX0_of_0 16 rfl rfl)
theorem dX0_of_17 : decode cX0_of 17 = .ok (.iconst 0, 1) := dk_3 (dk_at dksX0_of_0 17 rfl rfl)
theorem dX0_of_18 : decode cX0_of 18 = .ok (.ireturn, 1) := dk_172 (dk_at dksX0_of_0 18 rfl rfl)
def dkwX0_change_0 : List UInt8 := [45, 3, 42, 27, 28, 182, 0, 15, 133, 80, 167, 0, 7, 58, 4, 4, 172, 3, 172]
abbrev dktX0_change_0 : List UInt8 := dkwX0_change_0 ++ []
theorem dksX0_change_0 : cX0_change.data.toList.drop 0 = dktX0_change_0 := by decide +kernel
theorem dX0_change_0 : decode cX0_change 0 = .ok (.aload_n 3, 1) := dk_45 (dk_at dksX0_change_0 0 rfl rfl)
theorem dX0_change_1 : decode cX0_change 1 = .ok (.iconst 0, 1) := dk_3 (dk_at dksX0_change_0 1 rfl rfl)
theorem dX0_change_2 : decode cX0_change 2 = .ok (.aload_n 0, 1) := dk_42 (dk_at dksX0_change_0 2 rfl rfl)
theorem dX0_change_3 : decode cX0_change 3 = .ok (.iload_n 1, 1) := dk_27 (dk_at dksX0_change_0 3 rfl rfl)
theorem dX0_change_4 : decode cX0_change 4 = .ok (.iload_n 2, 1) := dk_28 (dk_at dksX0_change_0 4 rfl rfl)
theorem dX0_change_5 : decode cX0_change 5 = .ok (.invokevirtual 15, 3) := dk_182 0 15 (dk_at dksX0_change_0 5 rfl rfl)
theorem dX0_change_8 : decode cX0_change 8 = .ok (.i2l, 1) := dk_133 (dk_at dksX0_change_0 8 rfl rfl)
theorem dX0_change_9 : decode cX0_change 9 = .ok (.lastore, 1) := dk_80 (dk_at dksX0_change_0 9 rfl rfl)
theorem dX0_change_10 : decode cX0_change 10 = .ok (.goto 7, 3) := dk_167 0 7 (dk_at dksX0_change_0 10 rfl rfl)
theorem dX0_change_13 : decode cX0_change 13 = .ok (.astore 4, 2) := dk_58 4 (dk_at dksX0_change_0 13 rfl rfl)
theorem dX0_change_15 : decode cX0_change 15 = .ok (.iconst 1, 1) := dk_4 (dk_at dksX0_change_0 15 rfl rfl)
theorem dX0_change_16 : decode cX0_change 16 = .ok (.ireturn, 1) := dk_172 (dk_at dksX0_change_0 16 rfl rfl)
theorem dX0_change_17 : decode cX0_change 17 = .ok (.iconst 0, 1) := dk_3 (dk_at dksX0_change_0 17 rfl rfl)
theorem dX0_change_18 : decode cX0_change 18 = .ok (.ireturn, 1) := dk_172 (dk_at dksX0_change_0 18 rfl rfl)
def dkwX0_laws_0 : List UInt8 := [45, 3, 42, 27, 28, 182, 0, 18, 133, 80, 167, 0, 7, 58, 4, 4, 172, 3, 172]
abbrev dktX0_laws_0 : List UInt8 := dkwX0_laws_0 ++ []
theorem dksX0_laws_0 : cX0_laws.data.toList.drop 0 = dktX0_laws_0 := by decide +kernel
theorem dX0_laws_0 : decode cX0_laws 0 = .ok (.aload_n 3, 1) := dk_45 (dk_at dksX0_laws_0 0 rfl rfl)
theorem dX0_laws_1 : decode cX0_laws 1 = .ok (.iconst 0, 1) := dk_3 (dk_at dksX0_laws_0 1 rfl rfl)
theorem dX0_laws_2 : decode cX0_laws 2 = .ok (.aload_n 0, 1) := dk_42 (dk_at dksX0_laws_0 2 rfl rfl)
theorem dX0_laws_3 : decode cX0_laws 3 = .ok (.iload_n 1, 1) := dk_27 (dk_at dksX0_laws_0 3 rfl rfl)
theorem dX0_laws_4 : decode cX0_laws 4 = .ok (.iload_n 2, 1) := dk_28 (dk_at dksX0_laws_0 4 rfl rfl)
theorem dX0_laws_5 : decode cX0_laws 5 = .ok (.invokevirtual 18, 3) := dk_182 0 18 (dk_at dksX0_laws_0 5 rfl rfl)
theorem dX0_laws_8 : decode cX0_laws 8 = .ok (.i2l, 1) := dk_133 (dk_at dksX0_laws_0 8 rfl rfl)
theorem dX0_laws_9 : decode cX0_laws 9 = .ok (.lastore, 1) := dk_80 (dk_at dksX0_laws_0 9 rfl rfl)
theorem dX0_laws_10 : decode cX0_laws 10 = .ok (.goto 7, 3) := dk_167 0 7 (dk_at dksX0_laws_0 10 rfl rfl)
theorem dX0_laws_13 : decode cX0_laws 13 = .ok (.astore 4, 2) := dk_58 4 (dk_at dksX0_laws_0 13 rfl rfl)
theorem dX0_laws_15 : decode cX0_laws 15 = .ok (.iconst 1, 1) := dk_4 (dk_at dksX0_laws_0 15 rfl rfl)
theorem dX0_laws_16 : decode cX0_laws 16 = .ok (.ireturn, 1) := dk_172 (dk_at dksX0_laws_0 16 rfl rfl)
theorem dX0_laws_17 : decode cX0_laws 17 = .ok (.iconst 0, 1) := dk_3 (dk_at dksX0_laws_0 17 rfl rfl)
theorem dX0_laws_18 : decode cX0_laws 18 = .ok (.ireturn, 1) := dk_172 (dk_at dksX0_laws_0 18 rfl rfl)
def dkwX0_fool_0 : List UInt8 := [45, 3, 42, 27, 28, 182, 0, 21, 133, 80, 167, 0, 7, 58, 4, 4, 172, 3, 172]
abbrev dktX0_fool_0 : List UInt8 := dkwX0_fool_0 ++ []
theorem dksX0_fool_0 : cX0_fool.data.toList.drop 0 = dktX0_fool_0 := by decide +kernel
theorem dX0_fool_0 : decode cX0_fool 0 = .ok (.aload_n 3, 1) := dk_45 (dk_at dksX0_fool_0 0 rfl rfl)
theorem dX0_fool_1 : decode cX0_fool 1 = .ok (.iconst 0, 1) := dk_3 (dk_at dksX0_fool_0 1 rfl rfl)
theorem dX0_fool_2 : decode cX0_fool 2 = .ok (.aload_n 0, 1) := dk_42 (dk_at dksX0_fool_0 2 rfl rfl)
theorem dX0_fool_3 : decode cX0_fool 3 = .ok (.iload_n 1, 1) := dk_27 (dk_at dksX0_fool_0 3 rfl rfl)
theorem dX0_fool_4 : decode cX0_fool 4 = .ok (.iload_n 2, 1) := dk_28 (dk_at dksX0_fool_0 4 rfl rfl)
theorem dX0_fool_5 : decode cX0_fool 5 = .ok (.invokevirtual 21, 3) := dk_182 0 21 (dk_at dksX0_fool_0 5 rfl rfl)
theorem dX0_fool_8 : decode cX0_fool 8 = .ok (.i2l, 1) := dk_133 (dk_at dksX0_fool_0 8 rfl rfl)
theorem dX0_fool_9 : decode cX0_fool 9 = .ok (.lastore, 1) := dk_80 (dk_at dksX0_fool_0 9 rfl rfl)
theorem dX0_fool_10 : decode cX0_fool 10 = .ok (.goto 7, 3) := dk_167 0 7 (dk_at dksX0_fool_0 10 rfl rfl)
theorem dX0_fool_13 : decode cX0_fool 13 = .ok (.astore 4, 2) := dk_58 4 (dk_at dksX0_fool_0 13 rfl rfl)
theorem dX0_fool_15 : decode cX0_fool 15 = .ok (.iconst 1, 1) := dk_4 (dk_at dksX0_fool_0 15 rfl rfl)
theorem dX0_fool_16 : decode cX0_fool 16 = .ok (.ireturn, 1) := dk_172 (dk_at dksX0_fool_0 16 rfl rfl)
theorem dX0_fool_17 : decode cX0_fool 17 = .ok (.iconst 0, 1) := dk_3 (dk_at dksX0_fool_0 17 rfl rfl)
theorem dX0_fool_18 : decode cX0_fool 18 = .ok (.ireturn, 1) := dk_172 (dk_at dksX0_fool_0 18 rfl rfl)
def dkwX0_row_0 : List UInt8 := [44, 3, 42, 27, 182, 0, 24, 80, 167, 0, 6, 78, 4, 172, 3, 172]
abbrev dktX0_row_0 : List UInt8 := dkwX0_row_0 ++ []
theorem dksX0_row_0 : cX0_row.data.toList.drop 0 = dktX0_row_0 := by decide +kernel
theorem dX0_row_0 : decode cX0_row 0 = .ok (.aload_n 2, 1) := dk_44 (dk_at dksX0_row_0 0 rfl rfl)
theorem dX0_row_1 : decode cX0_row 1 = .ok (.iconst 0, 1) := dk_3 (dk_at dksX0_row_0 1 rfl rfl)
theorem dX0_row_2 : decode cX0_row 2 = .ok (.aload_n 0, 1) := dk_42 (dk_at dksX0_row_0 2 rfl rfl)
theorem dX0_row_3 : decode cX0_row 3 = .ok (.iload_n 1, 1) := dk_27 (dk_at dksX0_row_0 3 rfl rfl)
theorem dX0_row_4 : decode cX0_row 4 = .ok (.invokevirtual 24, 3) := dk_182 0 24 (dk_at dksX0_row_0 4 rfl rfl)
theorem dX0_row_7 : decode cX0_row 7 = .ok (.lastore, 1) := dk_80 (dk_at dksX0_row_0 7 rfl rfl)
theorem dX0_row_8 : decode cX0_row 8 = .ok (.goto 6, 3) := dk_167 0 6 (dk_at dksX0_row_0 8 rfl rfl)
theorem dX0_row_11 : decode cX0_row 11 = .ok (.astore_n 3, 1) := dk_78 (dk_at dksX0_row_0 11 rfl rfl)
theorem dX0_row_12 : decode cX0_row 12 = .ok (.iconst 1, 1) := dk_4 (dk_at dksX0_row_0 12 rfl rfl)
theorem dX0_row_13 : decode cX0_row 13 = .ok (.ireturn, 1) := dk_172 (dk_at dksX0_row_0 13 rfl rfl)
theorem dX0_row_14 : decode cX0_row 14 = .ok (.iconst 0, 1) := dk_3 (dk_at dksX0_row_0 14 rfl rfl)
theorem dX0_row_15 : decode cX0_row 15 = .ok (.ireturn, 1) := dk_172 (dk_at dksX0_row_0 15 rfl rfl)
def dkwX2_init_2 : List UInt8 := [188, 10, 181, 0, 27, 42, 2, 181, 0, 30, 177]
abbrev dktX2_init_2 : List UInt8 := dkwX2_init_2 ++ []
def dkwX2_init_1 : List UInt8 := [188, 10, 181, 0, 18, 42, 16, 12, 188, 10, 181, 0, 21, 42, 16, 12, 188, 10, 181, 0, 24, 42, 16, 60]
abbrev dktX2_init_1 : List UInt8 := dkwX2_init_1 ++ dktX2_init_2
def dkwX2_init_0 : List UInt8 := [42, 183, 0, 3, 42, 16, 8, 188, 10, 181, 0, 9, 42, 16, 8, 188, 10, 181, 0, 15, 42, 16, 12]
abbrev dktX2_init_0 : List UInt8 := dkwX2_init_0 ++ dktX2_init_1
theorem dksX2_init_0 : cX2_init.data.toList.drop 0 = dktX2_init_0 := by decide +kernel
theorem dksX2_init_1 : cX2_init.data.toList.drop 23 = dktX2_init_1 := dk_seg dksX2_init_0 23 rfl rfl
theorem dksX2_init_2 : cX2_init.data.toList.drop 47 = dktX2_init_2 := dk_seg dksX2_init_1 24 rfl rfl
theorem dX2_init_0 : decode cX2_init 0 = .ok (.aload_n 0, 1) := dk_42 (dk_at dksX2_init_0 0 rfl rfl)
theorem dX2_init_1 : decode cX2_init 1 = .ok (.invokespecial 3, 3) := dk_183 0 3 (dk_at dksX2_init_0 1 rfl rfl)
theorem dX2_init_4 : decode cX2_init 4 = .ok (.aload_n 0, 1) := dk_42 (dk_at dksX2_init_0 4 rfl rfl)
theorem dX2_init_5 : decode cX2_init 5 = .ok (.bipush 8, 2) := dk_16 8 (dk_at dksX2_init_0 5 rfl rfl)
theorem dX2_init_7 : decode cX2_init 7 = .ok (.newarray .int, 2) := dk_188_10 (dk_at dksX2_init_0 7 rfl rfl)
theorem dX2_init_9 : decode cX2_init 9 = .ok (.putfield 9, 3) := dk_181 0 9 (dk_at dksX2_init_0 9 rfl rfl)
theorem dX2_init_12 : decode cX2_init 12 = .ok (.aload_n 0, 1) := dk_42 (dk_at dksX2_init_0 12 rfl rfl)
theorem dX2_init_13 : decode cX2_init 13 = .ok (.bipush 8, 2) := dk_16 8 (dk_at dksX2_init_0 13 rfl rfl)
theorem dX2_init_15 : decode cX2_init 15 = .ok (.newarray .int, 2) := dk_188_10 (dk_at dksX2_init_0 15 rfl rfl)
theorem dX2_init_17 : decode cX2_init 17 = .ok (.putfield 15, 3) := dk_181 0 15 (dk_at dksX2_init_0 17 rfl rfl)
theorem dX2_init_20 : decode cX2_init 20 = .ok (.aload_n 0, 1) := dk_42 (dk_at dksX2_init_0 20 rfl rfl)
theorem dX2_init_21 : decode cX2_init 21 = .ok (.bipush 12, 2) := dk_16 12 (dk_at dksX2_init_0 21 rfl rfl)
theorem dX2_init_23 : decode cX2_init 23 = .ok (.newarray .int, 2) := dk_188_10 (dk_at dksX2_init_1 0 rfl rfl)
theorem dX2_init_25 : decode cX2_init 25 = .ok (.putfield 18, 3) := dk_181 0 18 (dk_at dksX2_init_1 2 rfl rfl)
theorem dX2_init_28 : decode cX2_init 28 = .ok (.aload_n 0, 1) := dk_42 (dk_at dksX2_init_1 5 rfl rfl)
theorem dX2_init_29 : decode cX2_init 29 = .ok (.bipush 12, 2) := dk_16 12 (dk_at dksX2_init_1 6 rfl rfl)
theorem dX2_init_31 : decode cX2_init 31 = .ok (.newarray .int, 2) := dk_188_10 (dk_at dksX2_init_1 8 rfl rfl)
theorem dX2_init_33 : decode cX2_init 33 = .ok (.putfield 21, 3) := dk_181 0 21 (dk_at dksX2_init_1 10 rfl rfl)
theorem dX2_init_36 : decode cX2_init 36 = .ok (.aload_n 0, 1) := dk_42 (dk_at dksX2_init_1 13 rfl rfl)
theorem dX2_init_37 : decode cX2_init 37 = .ok (.bipush 12, 2) := dk_16 12 (dk_at dksX2_init_1 14 rfl rfl)
theorem dX2_init_39 : decode cX2_init 39 = .ok (.newarray .int, 2) := dk_188_10 (dk_at dksX2_init_1 16 rfl rfl)
theorem dX2_init_41 : decode cX2_init 41 = .ok (.putfield 24, 3) := dk_181 0 24 (dk_at dksX2_init_1 18 rfl rfl)
theorem dX2_init_44 : decode cX2_init 44 = .ok (.aload_n 0, 1) := dk_42 (dk_at dksX2_init_1 21 rfl rfl)
theorem dX2_init_45 : decode cX2_init 45 = .ok (.bipush 60, 2) := dk_16 60 (dk_at dksX2_init_1 22 rfl rfl)
theorem dX2_init_47 : decode cX2_init 47 = .ok (.newarray .int, 2) := dk_188_10 (dk_at dksX2_init_2 0 rfl rfl)
theorem dX2_init_49 : decode cX2_init 49 = .ok (.putfield 27, 3) := dk_181 0 27 (dk_at dksX2_init_2 2 rfl rfl)
theorem dX2_init_52 : decode cX2_init 52 = .ok (.aload_n 0, 1) := dk_42 (dk_at dksX2_init_2 5 rfl rfl)
theorem dX2_init_53 : decode cX2_init 53 = .ok (.iconst (-1), 1) := dk_2 (dk_at dksX2_init_2 6 rfl rfl)
theorem dX2_init_54 : decode cX2_init 54 = .ok (.putfield 30, 3) := dk_181 0 30 (dk_at dksX2_init_2 7 rfl rfl)
theorem dX2_init_57 : decode cX2_init 57 = .ok (.return_, 1) := dk_177 (dk_at dksX2_init_2 10 rfl rfl)
def dkwX2_holding_1 : List UInt8 := [167, 0, 4, 3, 128, 60, 132, 2, 1, 167, 255, 227, 27, 172]
abbrev dktX2_holding_1 : List UInt8 := dkwX2_holding_1 ++ []
def dkwX2_holding_0 : List UInt8 := [3, 60, 3, 61, 28, 42, 180, 0, 49, 162, 0, 27, 27, 42, 28, 182, 0, 52, 153, 0, 9, 4, 28, 120]
abbrev dktX2_holding_0 : List UInt8 := dkwX2_holding_0 ++ dktX2_holding_1
theorem dksX2_holding_0 : cX2_holding.data.toList.drop 0 = dktX2_holding_0 := by decide +kernel
theorem dksX2_holding_1 : cX2_holding.data.toList.drop 24 = dktX2_holding_1 := dk_seg dksX2_holding_0 24 rfl rfl
theorem dX2_holding_0 : decode cX2_holding 0 = .ok (.iconst 0, 1) := dk_3 (dk_at dksX2_holding_0 0 rfl rfl)
theorem dX2_holding_1 : decode cX2_holding 1 = .ok (.istore_n 1, 1) := dk_60 (dk_at dksX2_holding_0 1 rfl rfl)
theorem dX2_holding_2 : decode cX2_holding 2 = .ok (.iconst 0, 1) := dk_3 (dk_at dksX2_holding_0 2 rfl rfl)
theorem dX2_holding_3 : decode cX2_holding 3 = .ok (.istore_n 2, 1) := dk_61 (dk_at dksX2_holding_0 3 rfl rfl)
theorem dX2_holding_4 : decode cX2_holding 4 = .ok (.iload_n 2, 1) := dk_28 (dk_at dksX2_holding_0 4 rfl rfl)
theorem dX2_holding_5 : decode cX2_holding 5 = .ok (.aload_n 0, 1) := dk_42 (dk_at dksX2_holding_0 5 rfl rfl)
theorem dX2_holding_6 : decode cX2_holding 6 = .ok (.getfield 49, 3) := dk_180 0 49 (dk_at dksX2_holding_0 6 rfl rfl)
theorem dX2_holding_9 : decode cX2_holding 9 = .ok (.if_icmp .ge 27, 3) := dk_162 0 27 (dk_at dksX2_holding_0 9 rfl rfl)
theorem dX2_holding_12 : decode cX2_holding 12 = .ok (.iload_n 1, 1) := dk_27 (dk_at dksX2_holding_0 12 rfl rfl)
theorem dX2_holding_13 : decode cX2_holding 13 = .ok (.aload_n 0, 1) := dk_42 (dk_at dksX2_holding_0 13 rfl rfl)
theorem dX2_holding_14 : decode cX2_holding 14 = .ok (.iload_n 2, 1) := dk_28 (dk_at dksX2_holding_0 14 rfl rfl)
theorem dX2_holding_15 : decode cX2_holding 15 = .ok (.invokevirtual 52, 3) := dk_182 0 52 (dk_at dksX2_holding_0 15 rfl rfl)
theorem dX2_holding_18 : decode cX2_holding 18 = .ok (.ifCond .eq 9, 3) := dk_153 0 9 (dk_at dksX2_holding_0 18 rfl rfl)
theorem dX2_holding_21 : decode cX2_holding 21 = .ok (.iconst 1, 1) := dk_4 (dk_at dksX2_holding_0 21 rfl rfl)
theorem dX2_holding_22 : decode cX2_holding 22 = .ok (.iload_n 2, 1) := dk_28 (dk_at dksX2_holding_0 22 rfl rfl)
theorem dX2_holding_23 : decode cX2_holding 23 = .ok (.ishl, 1) := dk_120 (dk_at dksX2_holding_0 23 rfl rfl)
theorem dX2_holding_24 : decode cX2_holding 24 = .ok (.goto 4, 3) := dk_167 0 4 (dk_at dksX2_holding_1 0 rfl rfl)
theorem dX2_holding_27 : decode cX2_holding 27 = .ok (.iconst 0, 1) := dk_3 (dk_at dksX2_holding_1 3 rfl rfl)
theorem dX2_holding_28 : decode cX2_holding 28 = .ok (.ior, 1) := dk_128 (dk_at dksX2_holding_1 4 rfl rfl)
theorem dX2_holding_29 : decode cX2_holding 29 = .ok (.istore_n 1, 1) := dk_60 (dk_at dksX2_holding_1 5 rfl rfl)
theorem dX2_holding_30 : decode cX2_holding 30 = .ok (.iinc 2 1, 3) := dk_132 2 1 (dk_at dksX2_holding_1 6 rfl rfl)
theorem dX2_holding_33 : decode cX2_holding 33 = .ok (.goto (-29), 3) := dk_167 255 227 (dk_at dksX2_holding_1 9 rfl rfl)
theorem dX2_holding_36 : decode cX2_holding 36 = .ok (.iload_n 1, 1) := dk_27 (dk_at dksX2_holding_1 12 rfl rfl)
theorem dX2_holding_37 : decode cX2_holding 37 = .ok (.ireturn, 1) := dk_172 (dk_at dksX2_holding_1 13 rfl rfl)
def dkwX2_holds_0 : List UInt8 := [42, 180, 0, 24, 27, 46, 2, 160, 0, 7, 4, 167, 0, 4, 3, 172]
abbrev dktX2_holds_0 : List UInt8 := dkwX2_holds_0 ++ []
theorem dksX2_holds_0 : cX2_holds.data.toList.drop 0 = dktX2_holds_0 := by decide +kernel
theorem dX2_holds_0 : decode cX2_holds 0 = .ok (.aload_n 0, 1) := dk_42 (dk_at dksX2_holds_0 0 rfl rfl)
theorem dX2_holds_1 : decode cX2_holds 1 = .ok (.getfield 24, 3) := dk_180 0 24 (dk_at dksX2_holds_0 1 rfl rfl)
theorem dX2_holds_4 : decode cX2_holds 4 = .ok (.iload_n 1, 1) := dk_27 (dk_at dksX2_holds_0 4 rfl rfl)
theorem dX2_holds_5 : decode cX2_holds 5 = .ok (.iaload, 1) := dk_46 (dk_at dksX2_holds_0 5 rfl rfl)
theorem dX2_holds_6 : decode cX2_holds 6 = .ok (.iconst (-1), 1) := dk_2 (dk_at dksX2_holds_0 6 rfl rfl)
theorem dX2_holds_7 : decode cX2_holds 7 = .ok (.if_icmp .ne 7, 3) := dk_160 0 7 (dk_at dksX2_holds_0 7 rfl rfl)
theorem dX2_holds_10 : decode cX2_holds 10 = .ok (.iconst 1, 1) := dk_4 (dk_at dksX2_holds_0 10 rfl rfl)
theorem dX2_holds_11 : decode cX2_holds 11 = .ok (.goto 4, 3) := dk_167 0 4 (dk_at dksX2_holds_0 11 rfl rfl)
theorem dX2_holds_14 : decode cX2_holds 14 = .ok (.iconst 0, 1) := dk_3 (dk_at dksX2_holds_0 14 rfl rfl)
theorem dX2_holds_15 : decode cX2_holds 15 = .ok (.ireturn, 1) := dk_172 (dk_at dksX2_holds_0 15 rfl rfl)
def dkwX2_be_5 : List UInt8 := [180, 0, 46, 181, 0, 46, 42, 43, 180, 0, 49, 181, 0, 49, 177]
abbrev dktX2_be_5 : List UInt8 := dkwX2_be_5 ++ []
def dkwX2_be_4 : List UInt8 := [180, 0, 40, 181, 0, 40, 42, 43, 180, 0, 30, 181, 0, 30, 42, 43, 180, 0, 43, 181, 0, 43, 42, 43]
abbrev dktX2_be_4 : List UInt8 := dkwX2_be_4 ++ dktX2_be_5
def dkwX2_be_3 : List UInt8 := [16, 12, 184, 0, 34, 43, 180, 0, 27, 3, 42, 180, 0, 27, 3, 16, 60, 184, 0, 34, 42, 43]
abbrev dktX2_be_3 : List UInt8 := dkwX2_be_3 ++ dktX2_be_4
def dkwX2_be_2 : List UInt8 := [180, 0, 21, 3, 42, 180, 0, 21, 3, 16, 12, 184, 0, 34, 43, 180, 0, 24, 3, 42, 180, 0, 24, 3]
abbrev dktX2_be_2 : List UInt8 := dkwX2_be_2 ++ dktX2_be_3
def dkwX2_be_1 : List UInt8 := [3, 16, 8, 184, 0, 34, 43, 180, 0, 18, 3, 42, 180, 0, 18, 3, 16, 12, 184, 0, 34, 43]
abbrev dktX2_be_1 : List UInt8 := dkwX2_be_1 ++ dktX2_be_2
def dkwX2_be_0 : List UInt8 := [43, 180, 0, 9, 3, 42, 180, 0, 9, 3, 16, 8, 184, 0, 34, 43, 180, 0, 15, 3, 42, 180, 0, 15]
abbrev dktX2_be_0 : List UInt8 := dkwX2_be_0 ++ dktX2_be_1
theorem dksX2_be_0 : cX2_be.data.toList.drop 0 = dktX2_be_0 := by decide +kernel
theorem dksX2_be_1 : cX2_be.data.toList.drop 24 = dktX2_be_1 := dk_seg dksX2_be_0 24 rfl rfl
theorem dksX2_be_2 : cX2_be.data.toList.drop 46 = dktX2_be_2 := dk_seg dksX2_be_1 22 rfl rfl
theorem dksX2_be_3 : cX2_be.data.toList.drop 70 = dktX2_be_3 := dk_seg dksX2_be_2 24 rfl rfl
theorem dksX2_be_4 : cX2_be.data.toList.drop 92 = dktX2_be_4 := dk_seg dksX2_be_3 22 rfl rfl
theorem dksX2_be_5 : cX2_be.data.toList.drop 116 = dktX2_be_5 := dk_seg dksX2_be_4 24 rfl rfl
theorem dX2_be_0 : decode cX2_be 0 = .ok (.aload_n 1, 1) := dk_43 (dk_at dksX2_be_0 0 rfl rfl)
theorem dX2_be_1 : decode cX2_be 1 = .ok (.getfield 9, 3) := dk_180 0 9 (dk_at dksX2_be_0 1 rfl rfl)
theorem dX2_be_4 : decode cX2_be 4 = .ok (.iconst 0, 1) := dk_3 (dk_at dksX2_be_0 4 rfl rfl)
theorem dX2_be_5 : decode cX2_be 5 = .ok (.aload_n 0, 1) := dk_42 (dk_at dksX2_be_0 5 rfl rfl)
theorem dX2_be_6 : decode cX2_be 6 = .ok (.getfield 9, 3) := dk_180 0 9 (dk_at dksX2_be_0 6 rfl rfl)
theorem dX2_be_9 : decode cX2_be 9 = .ok (.iconst 0, 1) := dk_3 (dk_at dksX2_be_0 9 rfl rfl)
theorem dX2_be_10 : decode cX2_be 10 = .ok (.bipush 8, 2) := dk_16 8 (dk_at dksX2_be_0 10 rfl rfl)
theorem dX2_be_12 : decode cX2_be 12 = .ok (.invokestatic 34, 3) := dk_184 0 34 (dk_at dksX2_be_0 12 rfl rfl)
theorem dX2_be_15 : decode cX2_be 15 = .ok (.aload_n 1, 1) := dk_43 (dk_at dksX2_be_0 15 rfl rfl)
theorem dX2_be_16 : decode cX2_be 16 = .ok (.getfield 15, 3) := dk_180 0 15 (dk_at dksX2_be_0 16 rfl rfl)
theorem dX2_be_19 : decode cX2_be 19 = .ok (.iconst 0, 1) := dk_3 (dk_at dksX2_be_0 19 rfl rfl)
theorem dX2_be_20 : decode cX2_be 20 = .ok (.aload_n 0, 1) := dk_42 (dk_at dksX2_be_0 20 rfl rfl)
theorem dX2_be_21 : decode cX2_be 21 = .ok (.getfield 15, 3) := dk_180 0 15 (dk_at dksX2_be_0 21 rfl rfl)
theorem dX2_be_24 : decode cX2_be 24 = .ok (.iconst 0, 1) := dk_3 (dk_at dksX2_be_1 0 rfl rfl)
theorem dX2_be_25 : decode cX2_be 25 = .ok (.bipush 8, 2) := dk_16 8 (dk_at dksX2_be_1 1 rfl rfl)
theorem dX2_be_27 : decode cX2_be 27 = .ok (.invokestatic 34, 3) := dk_184 0 34 (dk_at dksX2_be_1 3 rfl rfl)
theorem dX2_be_30 : decode cX2_be 30 = .ok (.aload_n 1, 1) := dk_43 (dk_at dksX2_be_1 6 rfl rfl)
theorem dX2_be_31 : decode cX2_be 31 = .ok (.getfield 18, 3) := dk_180 0 18 (dk_at dksX2_be_1 7 rfl rfl)
theorem dX2_be_34 : decode cX2_be 34 = .ok (.iconst 0, 1) := dk_3 (dk_at dksX2_be_1 10 rfl rfl)
theorem dX2_be_35 : decode cX2_be 35 = .ok (.aload_n 0, 1) := dk_42 (dk_at dksX2_be_1 11 rfl rfl)
theorem dX2_be_36 : decode cX2_be 36 = .ok (.getfield 18, 3) := dk_180 0 18 (dk_at dksX2_be_1 12 rfl rfl)
theorem dX2_be_39 : decode cX2_be 39 = .ok (.iconst 0, 1) := dk_3 (dk_at dksX2_be_1 15 rfl rfl)
theorem dX2_be_40 : decode cX2_be 40 = .ok (.bipush 12, 2) := dk_16 12 (dk_at dksX2_be_1 16 rfl rfl)
theorem dX2_be_42 : decode cX2_be 42 = .ok (.invokestatic 34, 3) := dk_184 0 34 (dk_at dksX2_be_1 18 rfl rfl)
theorem dX2_be_45 : decode cX2_be 45 = .ok (.aload_n 1, 1) := dk_43 (dk_at dksX2_be_1 21 rfl rfl)
theorem dX2_be_46 : decode cX2_be 46 = .ok (.getfield 21, 3) := dk_180 0 21 (dk_at dksX2_be_2 0 rfl rfl)
theorem dX2_be_49 : decode cX2_be 49 = .ok (.iconst 0, 1) := dk_3 (dk_at dksX2_be_2 3 rfl rfl)
theorem dX2_be_50 : decode cX2_be 50 = .ok (.aload_n 0, 1) := dk_42 (dk_at dksX2_be_2 4 rfl rfl)
theorem dX2_be_51 : decode cX2_be 51 = .ok (.getfield 21, 3) := dk_180 0 21 (dk_at dksX2_be_2 5 rfl rfl)
theorem dX2_be_54 : decode cX2_be 54 = .ok (.iconst 0, 1) := dk_3 (dk_at dksX2_be_2 8 rfl rfl)
theorem dX2_be_55 : decode cX2_be 55 = .ok (.bipush 12, 2) := dk_16 12 (dk_at dksX2_be_2 9 rfl rfl)
theorem dX2_be_57 : decode cX2_be 57 = .ok (.invokestatic 34, 3) := dk_184 0 34 (dk_at dksX2_be_2 11 rfl rfl)
theorem dX2_be_60 : decode cX2_be 60 = .ok (.aload_n 1, 1) := dk_43 (dk_at dksX2_be_2 14 rfl rfl)
theorem dX2_be_61 : decode cX2_be 61 = .ok (.getfield 24, 3) := dk_180 0 24 (dk_at dksX2_be_2 15 rfl rfl)
theorem dX2_be_64 : decode cX2_be 64 = .ok (.iconst 0, 1) := dk_3 (dk_at dksX2_be_2 18 rfl rfl)
theorem dX2_be_65 : decode cX2_be 65 = .ok (.aload_n 0, 1) := dk_42 (dk_at dksX2_be_2 19 rfl rfl)
theorem dX2_be_66 : decode cX2_be 66 = .ok (.getfield 24, 3) := dk_180 0 24 (dk_at dksX2_be_2 20 rfl rfl)
theorem dX2_be_69 : decode cX2_be 69 = .ok (.iconst 0, 1) := dk_3 (dk_at dksX2_be_2 23 rfl rfl)
theorem dX2_be_70 : decode cX2_be 70 = .ok (.bipush 12, 2) := dk_16 12 (dk_at dksX2_be_3 0 rfl rfl)
theorem dX2_be_72 : decode cX2_be 72 = .ok (.invokestatic 34, 3) := dk_184 0 34 (dk_at dksX2_be_3 2 rfl rfl)
theorem dX2_be_75 : decode cX2_be 75 = .ok (.aload_n 1, 1) := dk_43 (dk_at dksX2_be_3 5 rfl rfl)
theorem dX2_be_76 : decode cX2_be 76 = .ok (.getfield 27, 3) := dk_180 0 27 (dk_at dksX2_be_3 6 rfl rfl)
theorem dX2_be_79 : decode cX2_be 79 = .ok (.iconst 0, 1) := dk_3 (dk_at dksX2_be_3 9 rfl rfl)
theorem dX2_be_80 : decode cX2_be 80 = .ok (.aload_n 0, 1) := dk_42 (dk_at dksX2_be_3 10 rfl rfl)
theorem dX2_be_81 : decode cX2_be 81 = .ok (.getfield 27, 3) := dk_180 0 27 (dk_at dksX2_be_3 11 rfl rfl)
theorem dX2_be_84 : decode cX2_be 84 = .ok (.iconst 0, 1) := dk_3 (dk_at dksX2_be_3 14 rfl rfl)
theorem dX2_be_85 : decode cX2_be 85 = .ok (.bipush 60, 2) := dk_16 60 (dk_at dksX2_be_3 15 rfl rfl)
theorem dX2_be_87 : decode cX2_be 87 = .ok (.invokestatic 34, 3) := dk_184 0 34 (dk_at dksX2_be_3 17 rfl rfl)
theorem dX2_be_90 : decode cX2_be 90 = .ok (.aload_n 0, 1) := dk_42 (dk_at dksX2_be_3 20 rfl rfl)
theorem dX2_be_91 : decode cX2_be 91 = .ok (.aload_n 1, 1) := dk_43 (dk_at dksX2_be_3 21 rfl rfl)
theorem dX2_be_92 : decode cX2_be 92 = .ok (.getfield 40, 3) := dk_180 0 40 (dk_at dksX2_be_4 0 rfl rfl)
theorem dX2_be_95 : decode cX2_be 95 = .ok (.putfield 40, 3) := dk_181 0 40 (dk_at dksX2_be_4 3 rfl rfl)
theorem dX2_be_98 : decode cX2_be 98 = .ok (.aload_n 0, 1) := dk_42 (dk_at dksX2_be_4 6 rfl rfl)
theorem dX2_be_99 : decode cX2_be 99 = .ok (.aload_n 1, 1) := dk_43 (dk_at dksX2_be_4 7 rfl rfl)
theorem dX2_be_100 : decode cX2_be 100 = .ok (.getfield 30, 3) := dk_180 0 30 (dk_at dksX2_be_4 8 rfl rfl)
theorem dX2_be_103 : decode cX2_be 103 = .ok (.putfield 30, 3) := dk_181 0 30 (dk_at dksX2_be_4 11 rfl rfl)
theorem dX2_be_106 : decode cX2_be 106 = .ok (.aload_n 0, 1) := dk_42 (dk_at dksX2_be_4 14 rfl rfl)
theorem dX2_be_107 : decode cX2_be 107 = .ok (.aload_n 1, 1) := dk_43 (dk_at dksX2_be_4 15 rfl rfl)
theorem dX2_be_108 : decode cX2_be 108 = .ok (.getfield 43, 3) := dk_180 0 43 (dk_at dksX2_be_4 16 rfl rfl)
theorem dX2_be_111 : decode cX2_be 111 = .ok (.putfield 43, 3) := dk_181 0 43 (dk_at dksX2_be_4 19 rfl rfl)
theorem dX2_be_114 : decode cX2_be 114 = .ok (.aload_n 0, 1) := dk_42 (dk_at dksX2_be_4 22 rfl rfl)
theorem dX2_be_115 : decode cX2_be 115 = .ok (.aload_n 1, 1) := dk_43 (dk_at dksX2_be_4 23 rfl rfl)
theorem dX2_be_116 : decode cX2_be 116 = .ok (.getfield 46, 3) := dk_180 0 46 (dk_at dksX2_be_5 0 rfl rfl)
theorem dX2_be_119 : decode cX2_be 119 = .ok (.putfield 46, 3) := dk_181 0 46 (dk_at dksX2_be_5 3 rfl rfl)
theorem dX2_be_122 : decode cX2_be 122 = .ok (.aload_n 0, 1) := dk_42 (dk_at dksX2_be_5 6 rfl rfl)
theorem dX2_be_123 : decode cX2_be 123 = .ok (.aload_n 1, 1) := dk_43 (dk_at dksX2_be_5 7 rfl rfl)
theorem dX2_be_124 : decode cX2_be 124 = .ok (.getfield 49, 3) := dk_180 0 49 (dk_at dksX2_be_5 8 rfl rfl)
theorem dX2_be_127 : decode cX2_be 127 = .ok (.putfield 49, 3) := dk_181 0 49 (dk_at dksX2_be_5 11 rfl rfl)
theorem dX2_be_130 : decode cX2_be 130 = .ok (.return_, 1) := dk_177 (dk_at dksX2_be_5 14 rfl rfl)
def dkwX2_fall_2 : List UInt8 := [132, 3, 1, 167, 255, 211, 28, 172]
abbrev dktX2_fall_2 : List UInt8 := dkwX2_fall_2 ++ []
def dkwX2_fall_1 : List UInt8 := [29, 46, 27, 159, 0, 6, 167, 0, 16, 42, 180, 0, 24, 29, 42, 180, 0, 46, 79, 132, 2, 1]
abbrev dktX2_fall_1 : List UInt8 := dkwX2_fall_1 ++ dktX2_fall_2
def dkwX2_fall_0 : List UInt8 := [3, 61, 3, 62, 29, 42, 180, 0, 49, 162, 0, 43, 42, 29, 182, 0, 52, 153, 0, 29, 42, 180, 0, 18]
abbrev dktX2_fall_0 : List UInt8 := dkwX2_fall_0 ++ dktX2_fall_1
theorem dksX2_fall_0 : cX2_fall.data.toList.drop 0 = dktX2_fall_0 := by decide +kernel
theorem dksX2_fall_1 : cX2_fall.data.toList.drop 24 = dktX2_fall_1 := dk_seg dksX2_fall_0 24 rfl rfl
theorem dksX2_fall_2 : cX2_fall.data.toList.drop 46 = dktX2_fall_2 := dk_seg dksX2_fall_1 22 rfl rfl
theorem dX2_fall_0 : decode cX2_fall 0 = .ok (.iconst 0, 1) := dk_3 (dk_at dksX2_fall_0 0 rfl rfl)
theorem dX2_fall_1 : decode cX2_fall 1 = .ok (.istore_n 2, 1) := dk_61 (dk_at dksX2_fall_0 1 rfl rfl)
theorem dX2_fall_2 : decode cX2_fall 2 = .ok (.iconst 0, 1) := dk_3 (dk_at dksX2_fall_0 2 rfl rfl)
theorem dX2_fall_3 : decode cX2_fall 3 = .ok (.istore_n 3, 1) := dk_62 (dk_at dksX2_fall_0 3 rfl rfl)
theorem dX2_fall_4 : decode cX2_fall 4 = .ok (.iload_n 3, 1) := dk_29 (dk_at dksX2_fall_0 4 rfl rfl)
theorem dX2_fall_5 : decode cX2_fall 5 = .ok (.aload_n 0, 1) := dk_42 (dk_at dksX2_fall_0 5 rfl rfl)
theorem dX2_fall_6 : decode cX2_fall 6 = .ok (.getfield 49, 3) := dk_180 0 49 (dk_at dksX2_fall_0 6 rfl rfl)
theorem dX2_fall_9 : decode cX2_fall 9 = .ok (.if_icmp .ge 43, 3) := dk_162 0 43 (dk_at dksX2_fall_0 9 rfl rfl)
theorem dX2_fall_12 : decode cX2_fall 12 = .ok (.aload_n 0, 1) := dk_42 (dk_at dksX2_fall_0 12 rfl rfl)
theorem dX2_fall_13 : decode cX2_fall 13 = .ok (.iload_n 3, 1) := dk_29 (dk_at dksX2_fall_0 13 rfl rfl)
theorem dX2_fall_14 : decode cX2_fall 14 = .ok (.invokevirtual 52, 3) := dk_182 0 52 (dk_at dksX2_fall_0 14 rfl rfl)
theorem dX2_fall_17 : decode cX2_fall 17 = .ok (.ifCond .eq 29, 3) := dk_153 0 29 (dk_at dksX2_fall_0 17 rfl rfl)
theorem dX2_fall_20 : decode cX2_fall 20 = .ok (.aload_n 0, 1) := dk_42 (dk_at dksX2_fall_0 20 rfl rfl)
theorem dX2_fall_21 : decode cX2_fall 21 = .ok (.getfield 18, 3) := dk_180 0 18 (dk_at dksX2_fall_0 21 rfl rfl)
theorem dX2_fall_24 : decode cX2_fall 24 = .ok (.iload_n 3, 1) := dk_29 (dk_at dksX2_fall_1 0 rfl rfl)
theorem dX2_fall_25 : decode cX2_fall 25 = .ok (.iaload, 1) := dk_46 (dk_at dksX2_fall_1 1 rfl rfl)
theorem dX2_fall_26 : decode cX2_fall 26 = .ok (.iload_n 1, 1) := dk_27 (dk_at dksX2_fall_1 2 rfl rfl)
theorem dX2_fall_27 : decode cX2_fall 27 = .ok (.if_icmp .eq 6, 3) := dk_159 0 6 (dk_at dksX2_fall_1 3 rfl rfl)
theorem dX2_fall_30 : decode cX2_fall 30 = .ok (.goto 16, 3) := dk_167 0 16 (dk_at dksX2_fall_1 6 rfl rfl)
theorem dX2_fall_33 : decode cX2_fall 33 = .ok (.aload_n 0, 1) := dk_42 (dk_at dksX2_fall_1 9 rfl rfl)
theorem dX2_fall_34 : decode cX2_fall 34 = .ok (.getfield 24, 3) := dk_180 0 24 (dk_at dksX2_fall_1 10 rfl rfl)
theorem dX2_fall_37 : decode cX2_fall 37 = .ok (.iload_n 3, 1) := dk_29 (dk_at dksX2_fall_1 13 rfl rfl)
theorem dX2_fall_38 : decode cX2_fall 38 = .ok (.aload_n 0, 1) := dk_42 (dk_at dksX2_fall_1 14 rfl rfl)
theorem dX2_fall_39 : decode cX2_fall 39 = .ok (.getfield 46, 3) := dk_180 0 46 (dk_at dksX2_fall_1 15 rfl rfl)
theorem dX2_fall_42 : decode cX2_fall 42 = .ok (.iastore, 1) := dk_79 (dk_at dksX2_fall_1 18 rfl rfl)
theorem dX2_fall_43 : decode cX2_fall 43 = .ok (.iinc 2 1, 3) := dk_132 2 1 (dk_at dksX2_fall_1 19 rfl rfl)
theorem dX2_fall_46 : decode cX2_fall 46 = .ok (.iinc 3 1, 3) := dk_132 3 1 (dk_at dksX2_fall_2 0 rfl rfl)
theorem dX2_fall_49 : decode cX2_fall 49 = .ok (.goto (-45), 3) := dk_167 255 211 (dk_at dksX2_fall_2 3 rfl rfl)
theorem dX2_fall_52 : decode cX2_fall 52 = .ok (.iload_n 2, 1) := dk_28 (dk_at dksX2_fall_2 6 rfl rfl)
theorem dX2_fall_53 : decode cX2_fall 53 = .ok (.ireturn, 1) := dk_172 (dk_at dksX2_fall_2 7 rfl rfl)
def dkwX3_init_0 : List UInt8 := [42, 183, 0, 3, 42, 16, 6, 188, 10, 181, 0, 9, 177]
abbrev dktX3_init_0 : List UInt8 := dkwX3_init_0 ++ []
theorem dksX3_init_0 : cX3_init.data.toList.drop 0 = dktX3_init_0 := by decide +kernel
theorem dX3_init_0 : decode cX3_init 0 = .ok (.aload_n 0, 1) := dk_42 (dk_at dksX3_init_0 0 rfl rfl)
theorem dX3_init_1 : decode cX3_init 1 = .ok (.invokespecial 3, 3) := dk_183 0 3 (dk_at dksX3_init_0 1 rfl rfl)
theorem dX3_init_4 : decode cX3_init 4 = .ok (.aload_n 0, 1) := dk_42 (dk_at dksX3_init_0 4 rfl rfl)
theorem dX3_init_5 : decode cX3_init 5 = .ok (.bipush 6, 2) := dk_16 6 (dk_at dksX3_init_0 5 rfl rfl)
theorem dX3_init_7 : decode cX3_init 7 = .ok (.newarray .int, 2) := dk_188_10 (dk_at dksX3_init_0 7 rfl rfl)
theorem dX3_init_9 : decode cX3_init 9 = .ok (.putfield 9, 3) := dk_181 0 9 (dk_at dksX3_init_0 9 rfl rfl)
theorem dX3_init_12 : decode cX3_init 12 = .ok (.return_, 1) := dk_177 (dk_at dksX3_init_0 12 rfl rfl)
def dkwX3_be_1 : List UInt8 := [43, 180, 0, 9, 3, 42, 180, 0, 9, 3, 16, 6, 184, 0, 25, 177]
abbrev dktX3_be_1 : List UInt8 := dkwX3_be_1 ++ []
def dkwX3_be_0 : List UInt8 := [42, 43, 180, 0, 15, 181, 0, 15, 42, 43, 180, 0, 19, 181, 0, 19, 42, 43, 180, 0, 22, 181, 0, 22]
abbrev dktX3_be_0 : List UInt8 := dkwX3_be_0 ++ dktX3_be_1
theorem dksX3_be_0 : cX3_be.data.toList.drop 0 = dktX3_be_0 := by decide +kernel
theorem dksX3_be_1 : cX3_be.data.toList.drop 24 = dktX3_be_1 := dk_seg dksX3_be_0 24 rfl rfl
theorem dX3_be_0 : decode cX3_be 0 = .ok (.aload_n 0, 1) := dk_42 (dk_at dksX3_be_0 0 rfl rfl)
theorem dX3_be_1 : decode cX3_be 1 = .ok (.aload_n 1, 1) := dk_43 (dk_at dksX3_be_0 1 rfl rfl)
theorem dX3_be_2 : decode cX3_be 2 = .ok (.getfield 15, 3) := dk_180 0 15 (dk_at dksX3_be_0 2 rfl rfl)
theorem dX3_be_5 : decode cX3_be 5 = .ok (.putfield 15, 3) := dk_181 0 15 (dk_at dksX3_be_0 5 rfl rfl)
theorem dX3_be_8 : decode cX3_be 8 = .ok (.aload_n 0, 1) := dk_42 (dk_at dksX3_be_0 8 rfl rfl)
theorem dX3_be_9 : decode cX3_be 9 = .ok (.aload_n 1, 1) := dk_43 (dk_at dksX3_be_0 9 rfl rfl)
theorem dX3_be_10 : decode cX3_be 10 = .ok (.getfield 19, 3) := dk_180 0 19 (dk_at dksX3_be_0 10 rfl rfl)
theorem dX3_be_13 : decode cX3_be 13 = .ok (.putfield 19, 3) := dk_181 0 19 (dk_at dksX3_be_0 13 rfl rfl)
theorem dX3_be_16 : decode cX3_be 16 = .ok (.aload_n 0, 1) := dk_42 (dk_at dksX3_be_0 16 rfl rfl)
theorem dX3_be_17 : decode cX3_be 17 = .ok (.aload_n 1, 1) := dk_43 (dk_at dksX3_be_0 17 rfl rfl)
theorem dX3_be_18 : decode cX3_be 18 = .ok (.getfield 22, 3) := dk_180 0 22 (dk_at dksX3_be_0 18 rfl rfl)
theorem dX3_be_21 : decode cX3_be 21 = .ok (.putfield 22, 3) := dk_181 0 22 (dk_at dksX3_be_0 21 rfl rfl)
theorem dX3_be_24 : decode cX3_be 24 = .ok (.aload_n 1, 1) := dk_43 (dk_at dksX3_be_1 0 rfl rfl)
theorem dX3_be_25 : decode cX3_be 25 = .ok (.getfield 9, 3) := dk_180 0 9 (dk_at dksX3_be_1 1 rfl rfl)
theorem dX3_be_28 : decode cX3_be 28 = .ok (.iconst 0, 1) := dk_3 (dk_at dksX3_be_1 4 rfl rfl)
theorem dX3_be_29 : decode cX3_be 29 = .ok (.aload_n 0, 1) := dk_42 (dk_at dksX3_be_1 5 rfl rfl)
theorem dX3_be_30 : decode cX3_be 30 = .ok (.getfield 9, 3) := dk_180 0 9 (dk_at dksX3_be_1 6 rfl rfl)
theorem dX3_be_33 : decode cX3_be 33 = .ok (.iconst 0, 1) := dk_3 (dk_at dksX3_be_1 9 rfl rfl)
theorem dX3_be_34 : decode cX3_be 34 = .ok (.bipush 6, 2) := dk_16 6 (dk_at dksX3_be_1 10 rfl rfl)
theorem dX3_be_36 : decode cX3_be 36 = .ok (.invokestatic 25, 3) := dk_184 0 25 (dk_at dksX3_be_1 12 rfl rfl)
theorem dX3_be_39 : decode cX3_be 39 = .ok (.return_, 1) := dk_177 (dk_at dksX3_be_1 15 rfl rfl)
def dkwX4_init_0 : List UInt8 := [42, 43, 181, 0, 1, 42, 183, 0, 7, 177]
abbrev dktX4_init_0 : List UInt8 := dkwX4_init_0 ++ []
theorem dksX4_init_0 : cX4_init.data.toList.drop 0 = dktX4_init_0 := by decide +kernel
theorem dX4_init_0 : decode cX4_init 0 = .ok (.aload_n 0, 1) := dk_42 (dk_at dksX4_init_0 0 rfl rfl)
theorem dX4_init_1 : decode cX4_init 1 = .ok (.aload_n 1, 1) := dk_43 (dk_at dksX4_init_0 1 rfl rfl)
theorem dX4_init_2 : decode cX4_init 2 = .ok (.putfield 1, 3) := dk_181 0 1 (dk_at dksX4_init_0 2 rfl rfl)
theorem dX4_init_5 : decode cX4_init 5 = .ok (.aload_n 0, 1) := dk_42 (dk_at dksX4_init_0 5 rfl rfl)
theorem dX4_init_6 : decode cX4_init 6 = .ok (.invokespecial 7, 3) := dk_183 0 7 (dk_at dksX4_init_0 6 rfl rfl)
theorem dX4_init_9 : decode cX4_init 9 = .ok (.return_, 1) := dk_177 (dk_at dksX4_init_0 9 rfl rfl)
def dkwX4_stands_0 : List UInt8 := [42, 180, 0, 1, 43, 28, 182, 0, 13, 153, 0, 7, 4, 167, 0, 4, 3, 172]
abbrev dktX4_stands_0 : List UInt8 := dkwX4_stands_0 ++ []
theorem dksX4_stands_0 : cX4_stands.data.toList.drop 0 = dktX4_stands_0 := by decide +kernel
theorem dX4_stands_0 : decode cX4_stands 0 = .ok (.aload_n 0, 1) := dk_42 (dk_at dksX4_stands_0 0 rfl rfl)
theorem dX4_stands_1 : decode cX4_stands 1 = .ok (.getfield 1, 3) := dk_180 0 1 (dk_at dksX4_stands_0 1 rfl rfl)
theorem dX4_stands_4 : decode cX4_stands 4 = .ok (.aload_n 1, 1) := dk_43 (dk_at dksX4_stands_0 4 rfl rfl)
theorem dX4_stands_5 : decode cX4_stands 5 = .ok (.iload_n 2, 1) := dk_28 (dk_at dksX4_stands_0 5 rfl rfl)
theorem dX4_stands_6 : decode cX4_stands 6 = .ok (.invokevirtual 13, 3) := dk_182 0 13 (dk_at dksX4_stands_0 6 rfl rfl)
theorem dX4_stands_9 : decode cX4_stands 9 = .ok (.ifCond .eq 7, 3) := dk_153 0 7 (dk_at dksX4_stands_0 9 rfl rfl)
theorem dX4_stands_12 : decode cX4_stands 12 = .ok (.iconst 1, 1) := dk_4 (dk_at dksX4_stands_0 12 rfl rfl)
theorem dX4_stands_13 : decode cX4_stands 13 = .ok (.goto 4, 3) := dk_167 0 4 (dk_at dksX4_stands_0 13 rfl rfl)
theorem dX4_stands_16 : decode cX4_stands 16 = .ok (.iconst 0, 1) := dk_3 (dk_at dksX4_stands_0 16 rfl rfl)
theorem dX4_stands_17 : decode cX4_stands 17 = .ok (.ireturn, 1) := dk_172 (dk_at dksX4_stands_0 17 rfl rfl)
theorem dX5_init_0 : decode cX5_init 0 = .ok (.aload_n 0, 1) := by decide +kernel
theorem dX5_init_1 : decode cX5_init 1 = .ok (.invokespecial 1, 3) := by decide +kernel
theorem dX5_init_4 : decode cX5_init 4 = .ok (.return_, 1) := by decide +kernel
def dkwX5_stands_0 : List UInt8 := [42, 180, 0, 7, 28, 184, 0, 13, 172]
abbrev dktX5_stands_0 : List UInt8 := dkwX5_stands_0 ++ []
theorem dksX5_stands_0 : cX5_stands.data.toList.drop 0 = dktX5_stands_0 := by decide +kernel
theorem dX5_stands_0 : decode cX5_stands 0 = .ok (.aload_n 0, 1) := dk_42 (dk_at dksX5_stands_0 0 rfl rfl)
theorem dX5_stands_1 : decode cX5_stands 1 = .ok (.getfield 7, 3) := dk_180 0 7 (dk_at dksX5_stands_0 1 rfl rfl)
theorem dX5_stands_4 : decode cX5_stands 4 = .ok (.iload_n 2, 1) := dk_28 (dk_at dksX5_stands_0 4 rfl rfl)
theorem dX5_stands_5 : decode cX5_stands 5 = .ok (.invokestatic 13, 3) := dk_184 0 13 (dk_at dksX5_stands_0 5 rfl rfl)
theorem dX5_stands_8 : decode cX5_stands 8 = .ok (.ireturn, 1) := dk_172 (dk_at dksX5_stands_0 8 rfl rfl)
def dkwX6_init_0 : List UInt8 := [42, 43, 181, 0, 1, 42, 183, 0, 7, 177]
abbrev dktX6_init_0 : List UInt8 := dkwX6_init_0 ++ []
theorem dksX6_init_0 : cX6_init.data.toList.drop 0 = dktX6_init_0 := by decide +kernel
theorem dX6_init_0 : decode cX6_init 0 = .ok (.aload_n 0, 1) := dk_42 (dk_at dksX6_init_0 0 rfl rfl)
theorem dX6_init_1 : decode cX6_init 1 = .ok (.aload_n 1, 1) := dk_43 (dk_at dksX6_init_0 1 rfl rfl)
theorem dX6_init_2 : decode cX6_init 2 = .ok (.putfield 1, 3) := dk_181 0 1 (dk_at dksX6_init_0 2 rfl rfl)
theorem dX6_init_5 : decode cX6_init 5 = .ok (.aload_n 0, 1) := dk_42 (dk_at dksX6_init_0 5 rfl rfl)
theorem dX6_init_6 : decode cX6_init 6 = .ok (.invokespecial 7, 3) := dk_183 0 7 (dk_at dksX6_init_0 6 rfl rfl)
theorem dX6_init_9 : decode cX6_init 9 = .ok (.return_, 1) := dk_177 (dk_at dksX6_init_0 9 rfl rfl)
def dkwX6_stands_1 : List UInt8 := [167, 0, 20, 42, 180, 0, 1, 43, 28, 182, 0, 34, 153, 0, 7, 4, 167, 0, 4, 3, 172]
abbrev dktX6_stands_1 : List UInt8 := dkwX6_stands_1 ++ []
def dkwX6_stands_0 : List UInt8 := [28, 42, 180, 0, 13, 160, 0, 22, 42, 180, 0, 17, 43, 180, 0, 20, 42, 180, 0, 25, 100, 184, 0, 28]
abbrev dktX6_stands_0 : List UInt8 := dkwX6_stands_0 ++ dktX6_stands_1
theorem dksX6_stands_0 : cX6_stands.data.toList.drop 0 = dktX6_stands_0 := by decide +kernel
theorem dksX6_stands_1 : cX6_stands.data.toList.drop 24 = dktX6_stands_1 := dk_seg dksX6_stands_0 24 rfl rfl
theorem dX6_stands_0 : decode cX6_stands 0 = .ok (.iload_n 2, 1) := dk_28 (dk_at dksX6_stands_0 0 rfl rfl)
theorem dX6_stands_1 : decode cX6_stands 1 = .ok (.aload_n 0, 1) := dk_42 (dk_at dksX6_stands_0 1 rfl rfl)
theorem dX6_stands_2 : decode cX6_stands 2 = .ok (.getfield 13, 3) := dk_180 0 13 (dk_at dksX6_stands_0 2 rfl rfl)
theorem dX6_stands_5 : decode cX6_stands 5 = .ok (.if_icmp .ne 22, 3) := dk_160 0 22 (dk_at dksX6_stands_0 5 rfl rfl)
theorem dX6_stands_8 : decode cX6_stands 8 = .ok (.aload_n 0, 1) := dk_42 (dk_at dksX6_stands_0 8 rfl rfl)
theorem dX6_stands_9 : decode cX6_stands 9 = .ok (.getfield 17, 3) := dk_180 0 17 (dk_at dksX6_stands_0 9 rfl rfl)
theorem dX6_stands_12 : decode cX6_stands 12 = .ok (.aload_n 1, 1) := dk_43 (dk_at dksX6_stands_0 12 rfl rfl)
theorem dX6_stands_13 : decode cX6_stands 13 = .ok (.getfield 20, 3) := dk_180 0 20 (dk_at dksX6_stands_0 13 rfl rfl)
theorem dX6_stands_16 : decode cX6_stands 16 = .ok (.aload_n 0, 1) := dk_42 (dk_at dksX6_stands_0 16 rfl rfl)
theorem dX6_stands_17 : decode cX6_stands 17 = .ok (.getfield 25, 3) := dk_180 0 25 (dk_at dksX6_stands_0 17 rfl rfl)
theorem dX6_stands_20 : decode cX6_stands 20 = .ok (.isub, 1) := dk_100 (dk_at dksX6_stands_0 20 rfl rfl)
theorem dX6_stands_21 : decode cX6_stands 21 = .ok (.invokestatic 28, 3) := dk_184 0 28 (dk_at dksX6_stands_0 21 rfl rfl)
theorem dX6_stands_24 : decode cX6_stands 24 = .ok (.goto 20, 3) := dk_167 0 20 (dk_at dksX6_stands_1 0 rfl rfl)
theorem dX6_stands_27 : decode cX6_stands 27 = .ok (.aload_n 0, 1) := dk_42 (dk_at dksX6_stands_1 3 rfl rfl)
theorem dX6_stands_28 : decode cX6_stands 28 = .ok (.getfield 1, 3) := dk_180 0 1 (dk_at dksX6_stands_1 4 rfl rfl)
theorem dX6_stands_31 : decode cX6_stands 31 = .ok (.aload_n 1, 1) := dk_43 (dk_at dksX6_stands_1 7 rfl rfl)
theorem dX6_stands_32 : decode cX6_stands 32 = .ok (.iload_n 2, 1) := dk_28 (dk_at dksX6_stands_1 8 rfl rfl)
theorem dX6_stands_33 : decode cX6_stands 33 = .ok (.invokevirtual 34, 3) := dk_182 0 34 (dk_at dksX6_stands_1 9 rfl rfl)
theorem dX6_stands_36 : decode cX6_stands 36 = .ok (.ifCond .eq 7, 3) := dk_153 0 7 (dk_at dksX6_stands_1 12 rfl rfl)
theorem dX6_stands_39 : decode cX6_stands 39 = .ok (.iconst 1, 1) := dk_4 (dk_at dksX6_stands_1 15 rfl rfl)
theorem dX6_stands_40 : decode cX6_stands 40 = .ok (.goto 4, 3) := dk_167 0 4 (dk_at dksX6_stands_1 16 rfl rfl)
theorem dX6_stands_43 : decode cX6_stands 43 = .ok (.iconst 0, 1) := dk_3 (dk_at dksX6_stands_1 19 rfl rfl)
theorem dX6_stands_44 : decode cX6_stands 44 = .ok (.ireturn, 1) := dk_172 (dk_at dksX6_stands_1 20 rfl rfl)
def dkwX7_init_0 : List UInt8 := [42, 183, 0, 3, 42, 16, 8, 188, 10, 181, 0, 9, 177]
abbrev dktX7_init_0 : List UInt8 := dkwX7_init_0 ++ []
theorem dksX7_init_0 : cX7_init.data.toList.drop 0 = dktX7_init_0 := by decide +kernel
theorem dX7_init_0 : decode cX7_init 0 = .ok (.aload_n 0, 1) := dk_42 (dk_at dksX7_init_0 0 rfl rfl)
theorem dX7_init_1 : decode cX7_init 1 = .ok (.invokespecial 3, 3) := dk_183 0 3 (dk_at dksX7_init_0 1 rfl rfl)
theorem dX7_init_4 : decode cX7_init 4 = .ok (.aload_n 0, 1) := dk_42 (dk_at dksX7_init_0 4 rfl rfl)
theorem dX7_init_5 : decode cX7_init 5 = .ok (.bipush 8, 2) := dk_16 8 (dk_at dksX7_init_0 5 rfl rfl)
theorem dX7_init_7 : decode cX7_init 7 = .ok (.newarray .int, 2) := dk_188_10 (dk_at dksX7_init_0 7 rfl rfl)
theorem dX7_init_9 : decode cX7_init 9 = .ok (.putfield 9, 3) := dk_181 0 9 (dk_at dksX7_init_0 9 rfl rfl)
theorem dX7_init_12 : decode cX7_init 12 = .ok (.return_, 1) := dk_177 (dk_at dksX7_init_0 12 rfl rfl)
def dkwX7_stands_0 : List UInt8 := [42, 180, 0, 9, 28, 46, 43, 180, 0, 15, 42, 180, 0, 21, 100, 184, 0, 24, 172]
abbrev dktX7_stands_0 : List UInt8 := dkwX7_stands_0 ++ []
theorem dksX7_stands_0 : cX7_stands.data.toList.drop 0 = dktX7_stands_0 := by decide +kernel
theorem dX7_stands_0 : decode cX7_stands 0 = .ok (.aload_n 0, 1) := dk_42 (dk_at dksX7_stands_0 0 rfl rfl)
theorem dX7_stands_1 : decode cX7_stands 1 = .ok (.getfield 9, 3) := dk_180 0 9 (dk_at dksX7_stands_0 1 rfl rfl)
theorem dX7_stands_4 : decode cX7_stands 4 = .ok (.iload_n 2, 1) := dk_28 (dk_at dksX7_stands_0 4 rfl rfl)
theorem dX7_stands_5 : decode cX7_stands 5 = .ok (.iaload, 1) := dk_46 (dk_at dksX7_stands_0 5 rfl rfl)
theorem dX7_stands_6 : decode cX7_stands 6 = .ok (.aload_n 1, 1) := dk_43 (dk_at dksX7_stands_0 6 rfl rfl)
theorem dX7_stands_7 : decode cX7_stands 7 = .ok (.getfield 15, 3) := dk_180 0 15 (dk_at dksX7_stands_0 7 rfl rfl)
theorem dX7_stands_10 : decode cX7_stands 10 = .ok (.aload_n 0, 1) := dk_42 (dk_at dksX7_stands_0 10 rfl rfl)
theorem dX7_stands_11 : decode cX7_stands 11 = .ok (.getfield 21, 3) := dk_180 0 21 (dk_at dksX7_stands_0 11 rfl rfl)
theorem dX7_stands_14 : decode cX7_stands 14 = .ok (.isub, 1) := dk_100 (dk_at dksX7_stands_0 14 rfl rfl)
theorem dX7_stands_15 : decode cX7_stands 15 = .ok (.invokestatic 24, 3) := dk_184 0 24 (dk_at dksX7_stands_0 15 rfl rfl)
theorem dX7_stands_18 : decode cX7_stands 18 = .ok (.ireturn, 1) := dk_172 (dk_at dksX7_stands_0 18 rfl rfl)
def dkwX8_init_0 : List UInt8 := [42, 43, 181, 0, 3, 42, 183, 0, 9, 177]
abbrev dktX8_init_0 : List UInt8 := dkwX8_init_0 ++ []
theorem dksX8_init_0 : cX8_init.data.toList.drop 0 = dktX8_init_0 := by decide +kernel
theorem dX8_init_0 : decode cX8_init 0 = .ok (.aload_n 0, 1) := dk_42 (dk_at dksX8_init_0 0 rfl rfl)
theorem dX8_init_1 : decode cX8_init 1 = .ok (.aload_n 1, 1) := dk_43 (dk_at dksX8_init_0 1 rfl rfl)
theorem dX8_init_2 : decode cX8_init 2 = .ok (.putfield 3, 3) := dk_181 0 3 (dk_at dksX8_init_0 2 rfl rfl)
theorem dX8_init_5 : decode cX8_init 5 = .ok (.aload_n 0, 1) := dk_42 (dk_at dksX8_init_0 5 rfl rfl)
theorem dX8_init_6 : decode cX8_init 6 = .ok (.invokespecial 9, 3) := dk_183 0 9 (dk_at dksX8_init_0 6 rfl rfl)
theorem dX8_init_9 : decode cX8_init 9 = .ok (.return_, 1) := dk_177 (dk_at dksX8_init_0 9 rfl rfl)
def dkwX8_stands_2 : List UInt8 := [153, 0, 7, 4, 167, 0, 4, 3, 172]
abbrev dktX8_stands_2 : List UInt8 := dkwX8_stands_2 ++ []
def dkwX8_stands_1 : List UInt8 := [182, 0, 26, 160, 0, 7, 4, 167, 0, 24, 3, 167, 0, 20, 42, 180, 0, 3, 43, 28, 182, 0, 30]
abbrev dktX8_stands_1 : List UInt8 := dkwX8_stands_1 ++ dktX8_stands_2
def dkwX8_stands_0 : List UInt8 := [42, 180, 0, 3, 180, 0, 15, 28, 50, 180, 0, 19, 42, 180, 0, 25, 160, 0, 20, 28, 42, 43]
abbrev dktX8_stands_0 : List UInt8 := dkwX8_stands_0 ++ dktX8_stands_1
theorem dksX8_stands_0 : cX8_stands.data.toList.drop 0 = dktX8_stands_0 := by decide +kernel
theorem dksX8_stands_1 : cX8_stands.data.toList.drop 22 = dktX8_stands_1 := dk_seg dksX8_stands_0 22 rfl rfl
theorem dksX8_stands_2 : cX8_stands.data.toList.drop 45 = dktX8_stands_2 := dk_seg dksX8_stands_1 23 rfl rfl
theorem dX8_stands_0 : decode cX8_stands 0 = .ok (.aload_n 0, 1) := dk_42 (dk_at dksX8_stands_0 0 rfl rfl)
theorem dX8_stands_1 : decode cX8_stands 1 = .ok (.getfield 3, 3) := dk_180 0 3 (dk_at dksX8_stands_0 1 rfl rfl)
theorem dX8_stands_4 : decode cX8_stands 4 = .ok (.getfield 15, 3) := dk_180 0 15 (dk_at dksX8_stands_0 4 rfl rfl)
theorem dX8_stands_7 : decode cX8_stands 7 = .ok (.iload_n 2, 1) := dk_28 (dk_at dksX8_stands_0 7 rfl rfl)
theorem dX8_stands_8 : decode cX8_stands 8 = .ok (.aaload, 1) := dk_50 (dk_at dksX8_stands_0 8 rfl rfl)
theorem dX8_stands_9 : decode cX8_stands 9 = .ok (.getfield 19, 3) := dk_180 0 19 (dk_at dksX8_stands_0 9 rfl rfl)
theorem dX8_stands_12 : decode cX8_stands 12 = .ok (.aload_n 0, 1) := dk_42 (dk_at dksX8_stands_0 12 rfl rfl)
theorem dX8_stands_13 : decode cX8_stands 13 = .ok (.getfield 25, 3) := dk_180 0 25 (dk_at dksX8_stands_0 13 rfl rfl)
theorem dX8_stands_16 : decode cX8_stands 16 = .ok (.if_icmp .ne 20, 3) := dk_160 0 20 (dk_at dksX8_stands_0 16 rfl rfl)
theorem dX8_stands_19 : decode cX8_stands 19 = .ok (.iload_n 2, 1) := dk_28 (dk_at dksX8_stands_0 19 rfl rfl)
theorem dX8_stands_20 : decode cX8_stands 20 = .ok (.aload_n 0, 1) := dk_42 (dk_at dksX8_stands_0 20 rfl rfl)
theorem dX8_stands_21 : decode cX8_stands 21 = .ok (.aload_n 1, 1) := dk_43 (dk_at dksX8_stands_0 21 rfl rfl)
theorem dX8_stands_22 : decode cX8_stands 22 = .ok (.invokevirtual 26, 3) := dk_182 0 26 (dk_at dksX8_stands_1 0 rfl rfl)
theorem dX8_stands_25 : decode cX8_stands 25 = .ok (.if_icmp .ne 7, 3) := dk_160 0 7 (dk_at dksX8_stands_1 3 rfl rfl)
theorem dX8_stands_28 : decode cX8_stands 28 = .ok (.iconst 1, 1) := dk_4 (dk_at dksX8_stands_1 6 rfl rfl)
theorem dX8_stands_29 : decode cX8_stands 29 = .ok (.goto 24, 3) := dk_167 0 24 (dk_at dksX8_stands_1 7 rfl rfl)
theorem dX8_stands_32 : decode cX8_stands 32 = .ok (.iconst 0, 1) := dk_3 (dk_at dksX8_stands_1 10 rfl rfl)
theorem dX8_stands_33 : decode cX8_stands 33 = .ok (.goto 20, 3) := dk_167 0 20 (dk_at dksX8_stands_1 11 rfl rfl)
theorem dX8_stands_36 : decode cX8_stands 36 = .ok (.aload_n 0, 1) := dk_42 (dk_at dksX8_stands_1 14 rfl rfl)
theorem dX8_stands_37 : decode cX8_stands 37 = .ok (.getfield 3, 3) := dk_180 0 3 (dk_at dksX8_stands_1 15 rfl rfl)
theorem dX8_stands_40 : decode cX8_stands 40 = .ok (.aload_n 1, 1) := dk_43 (dk_at dksX8_stands_1 18 rfl rfl)
theorem dX8_stands_41 : decode cX8_stands 41 = .ok (.iload_n 2, 1) := dk_28 (dk_at dksX8_stands_1 19 rfl rfl)
theorem dX8_stands_42 : decode cX8_stands 42 = .ok (.invokevirtual 30, 3) := dk_182 0 30 (dk_at dksX8_stands_1 20 rfl rfl)
theorem dX8_stands_45 : decode cX8_stands 45 = .ok (.ifCond .eq 7, 3) := dk_153 0 7 (dk_at dksX8_stands_2 0 rfl rfl)
theorem dX8_stands_48 : decode cX8_stands 48 = .ok (.iconst 1, 1) := dk_4 (dk_at dksX8_stands_2 3 rfl rfl)
theorem dX8_stands_49 : decode cX8_stands 49 = .ok (.goto 4, 3) := dk_167 0 4 (dk_at dksX8_stands_2 4 rfl rfl)
theorem dX8_stands_52 : decode cX8_stands 52 = .ok (.iconst 0, 1) := dk_3 (dk_at dksX8_stands_2 7 rfl rfl)
theorem dX8_stands_53 : decode cX8_stands 53 = .ok (.ireturn, 1) := dk_172 (dk_at dksX8_stands_2 8 rfl rfl)
def dkwX8_turn_4 : List UInt8 := [132, 3, 255, 132, 4, 1, 167, 255, 218, 2, 172]
abbrev dktX8_turn_4 : List UInt8 := dkwX8_turn_4 ++ []
def dkwX8_turn_3 : List UInt8 := [162, 0, 32, 42, 43, 21, 4, 182, 0, 37, 154, 0, 6, 167, 0, 13, 29, 154, 0, 6, 21, 4, 172]
abbrev dktX8_turn_3 : List UInt8 := dkwX8_turn_3 ++ dktX8_turn_4
def dkwX8_turn_2 : List UInt8 := [43, 180, 0, 41, 42, 180, 0, 46, 100, 28, 112, 62, 3, 54, 4, 21, 4, 42, 180, 0, 3, 180, 0, 34]
abbrev dktX8_turn_2 : List UInt8 := dkwX8_turn_2 ++ dktX8_turn_3
def dkwX8_turn_1 : List UInt8 := [153, 0, 7, 4, 167, 0, 4, 3, 96, 61, 132, 3, 1, 167, 255, 225, 28, 154, 0, 7, 3, 167, 0, 14]
abbrev dktX8_turn_1 : List UInt8 := dkwX8_turn_1 ++ dktX8_turn_2
def dkwX8_turn_0 : List UInt8 := [3, 61, 3, 62, 29, 42, 180, 0, 3, 180, 0, 34, 162, 0, 26, 28, 42, 43, 29, 182, 0, 37]
abbrev dktX8_turn_0 : List UInt8 := dkwX8_turn_0 ++ dktX8_turn_1
theorem dksX8_turn_0 : cX8_turn.data.toList.drop 0 = dktX8_turn_0 := by decide +kernel
theorem dksX8_turn_1 : cX8_turn.data.toList.drop 22 = dktX8_turn_1 := dk_seg dksX8_turn_0 22 rfl rfl
theorem dksX8_turn_2 : cX8_turn.data.toList.drop 46 = dktX8_turn_2 := dk_seg dksX8_turn_1 24 rfl rfl
theorem dksX8_turn_3 : cX8_turn.data.toList.drop 70 = dktX8_turn_3 := dk_seg dksX8_turn_2 24 rfl rfl
theorem dksX8_turn_4 : cX8_turn.data.toList.drop 93 = dktX8_turn_4 := dk_seg dksX8_turn_3 23 rfl rfl
theorem dX8_turn_0 : decode cX8_turn 0 = .ok (.iconst 0, 1) := dk_3 (dk_at dksX8_turn_0 0 rfl rfl)
theorem dX8_turn_1 : decode cX8_turn 1 = .ok (.istore_n 2, 1) := dk_61 (dk_at dksX8_turn_0 1 rfl rfl)
theorem dX8_turn_2 : decode cX8_turn 2 = .ok (.iconst 0, 1) := dk_3 (dk_at dksX8_turn_0 2 rfl rfl)
theorem dX8_turn_3 : decode cX8_turn 3 = .ok (.istore_n 3, 1) := dk_62 (dk_at dksX8_turn_0 3 rfl rfl)
theorem dX8_turn_4 : decode cX8_turn 4 = .ok (.iload_n 3, 1) := dk_29 (dk_at dksX8_turn_0 4 rfl rfl)
theorem dX8_turn_5 : decode cX8_turn 5 = .ok (.aload_n 0, 1) := dk_42 (dk_at dksX8_turn_0 5 rfl rfl)
theorem dX8_turn_6 : decode cX8_turn 6 = .ok (.getfield 3, 3) := dk_180 0 3 (dk_at dksX8_turn_0 6 rfl rfl)
theorem dX8_turn_9 : decode cX8_turn 9 = .ok (.getfield 34, 3) := dk_180 0 34 (dk_at dksX8_turn_0 9 rfl rfl)
theorem dX8_turn_12 : decode cX8_turn 12 = .ok (.if_icmp .ge 26, 3) := dk_162 0 26 (dk_at dksX8_turn_0 12 rfl rfl)
theorem dX8_turn_15 : decode cX8_turn 15 = .ok (.iload_n 2, 1) := dk_28 (dk_at dksX8_turn_0 15 rfl rfl)
theorem dX8_turn_16 : decode cX8_turn 16 = .ok (.aload_n 0, 1) := dk_42 (dk_at dksX8_turn_0 16 rfl rfl)
theorem dX8_turn_17 : decode cX8_turn 17 = .ok (.aload_n 1, 1) := dk_43 (dk_at dksX8_turn_0 17 rfl rfl)
theorem dX8_turn_18 : decode cX8_turn 18 = .ok (.iload_n 3, 1) := dk_29 (dk_at dksX8_turn_0 18 rfl rfl)
theorem dX8_turn_19 : decode cX8_turn 19 = .ok (.invokevirtual 37, 3) := dk_182 0 37 (dk_at dksX8_turn_0 19 rfl rfl)
theorem dX8_turn_22 : decode cX8_turn 22 = .ok (.ifCond .eq 7, 3) := dk_153 0 7 (dk_at dksX8_turn_1 0 rfl rfl)
theorem dX8_turn_25 : decode cX8_turn 25 = .ok (.iconst 1, 1) := dk_4 (dk_at dksX8_turn_1 3 rfl rfl)
theorem dX8_turn_26 : decode cX8_turn 26 = .ok (.goto 4, 3) := dk_167 0 4 (dk_at dksX8_turn_1 4 rfl rfl)
theorem dX8_turn_29 : decode cX8_turn 29 = .ok (.iconst 0, 1) := dk_3 (dk_at dksX8_turn_1 7 rfl rfl)
theorem dX8_turn_30 : decode cX8_turn 30 = .ok (.iadd, 1) := dk_96 (dk_at dksX8_turn_1 8 rfl rfl)
theorem dX8_turn_31 : decode cX8_turn 31 = .ok (.istore_n 2, 1) := dk_61 (dk_at dksX8_turn_1 9 rfl rfl)
theorem dX8_turn_32 : decode cX8_turn 32 = .ok (.iinc 3 1, 3) := dk_132 3 1 (dk_at dksX8_turn_1 10 rfl rfl)
theorem dX8_turn_35 : decode cX8_turn 35 = .ok (.goto (-31), 3) := dk_167 255 225 (dk_at dksX8_turn_1 13 rfl rfl)
theorem dX8_turn_38 : decode cX8_turn 38 = .ok (.iload_n 2, 1) := dk_28 (dk_at dksX8_turn_1 16 rfl rfl)
theorem dX8_turn_39 : decode cX8_turn 39 = .ok (.ifCond .ne 7, 3) := dk_154 0 7 (dk_at dksX8_turn_1 17 rfl rfl)
theorem dX8_turn_42 : decode cX8_turn 42 = .ok (.iconst 0, 1) := dk_3 (dk_at dksX8_turn_1 20 rfl rfl)
theorem dX8_turn_43 : decode cX8_turn 43 = .ok (.goto 14, 3) := dk_167 0 14 (dk_at dksX8_turn_1 21 rfl rfl)
theorem dX8_turn_46 : decode cX8_turn 46 = .ok (.aload_n 1, 1) := dk_43 (dk_at dksX8_turn_2 0 rfl rfl)
theorem dX8_turn_47 : decode cX8_turn 47 = .ok (.getfield 41, 3) := dk_180 0 41 (dk_at dksX8_turn_2 1 rfl rfl)
theorem dX8_turn_50 : decode cX8_turn 50 = .ok (.aload_n 0, 1) := dk_42 (dk_at dksX8_turn_2 4 rfl rfl)
theorem dX8_turn_51 : decode cX8_turn 51 = .ok (.getfield 46, 3) := dk_180 0 46 (dk_at dksX8_turn_2 5 rfl rfl)
theorem dX8_turn_54 : decode cX8_turn 54 = .ok (.isub, 1) := dk_100 (dk_at dksX8_turn_2 8 rfl rfl)
theorem dX8_turn_55 : decode cX8_turn 55 = .ok (.iload_n 2, 1) := dk_28 (dk_at dksX8_turn_2 9 rfl rfl)
theorem dX8_turn_56 : decode cX8_turn 56 = .ok (.irem, 1) := dk_112 (dk_at dksX8_turn_2 10 rfl rfl)
theorem dX8_turn_57 : decode cX8_turn 57 = .ok (.istore_n 3, 1) := dk_62 (dk_at dksX8_turn_2 11 rfl rfl)
theorem dX8_turn_58 : decode cX8_turn 58 = .ok (.iconst 0, 1) := dk_3 (dk_at dksX8_turn_2 12 rfl rfl)
theorem dX8_turn_59 : decode cX8_turn 59 = .ok (.istore 4, 2) := dk_54 4 (dk_at dksX8_turn_2 13 rfl rfl)
theorem dX8_turn_61 : decode cX8_turn 61 = .ok (.iload 4, 2) := dk_21 4 (dk_at dksX8_turn_2 15 rfl rfl)
theorem dX8_turn_63 : decode cX8_turn 63 = .ok (.aload_n 0, 1) := dk_42 (dk_at dksX8_turn_2 17 rfl rfl)
theorem dX8_turn_64 : decode cX8_turn 64 = .ok (.getfield 3, 3) := dk_180 0 3 (dk_at dksX8_turn_2 18 rfl rfl)
theorem dX8_turn_67 : decode cX8_turn 67 = .ok (.getfield 34, 3) := dk_180 0 34 (dk_at dksX8_turn_2 21 rfl rfl)
theorem dX8_turn_70 : decode cX8_turn 70 = .ok (.if_icmp .ge 32, 3) := dk_162 0 32 (dk_at dksX8_turn_3 0 rfl rfl)
theorem dX8_turn_73 : decode cX8_turn 73 = .ok (.aload_n 0, 1) := dk_42 (dk_at dksX8_turn_3 3 rfl rfl)
theorem dX8_turn_74 : decode cX8_turn 74 = .ok (.aload_n 1, 1) := dk_43 (dk_at dksX8_turn_3 4 rfl rfl)
theorem dX8_turn_75 : decode cX8_turn 75 = .ok (.iload 4, 2) := dk_21 4 (dk_at dksX8_turn_3 5 rfl rfl)
theorem dX8_turn_77 : decode cX8_turn 77 = .ok (.invokevirtual 37, 3) := dk_182 0 37 (dk_at dksX8_turn_3 7 rfl rfl)
theorem dX8_turn_80 : decode cX8_turn 80 = .ok (.ifCond .ne 6, 3) := dk_154 0 6 (dk_at dksX8_turn_3 10 rfl rfl)
theorem dX8_turn_83 : decode cX8_turn 83 = .ok (.goto 13, 3) := dk_167 0 13 (dk_at dksX8_turn_3 13 rfl rfl)
theorem dX8_turn_86 : decode cX8_turn 86 = .ok (.iload_n 3, 1) := dk_29 (dk_at dksX8_turn_3 16 rfl rfl)
theorem dX8_turn_87 : decode cX8_turn 87 = .ok (.ifCond .ne 6, 3) := dk_154 0 6 (dk_at dksX8_turn_3 17 rfl rfl)
theorem dX8_turn_90 : decode cX8_turn 90 = .ok (.iload 4, 2) := dk_21 4 (dk_at dksX8_turn_3 20 rfl rfl)
theorem dX8_turn_92 : decode cX8_turn 92 = .ok (.ireturn, 1) := dk_172 (dk_at dksX8_turn_3 22 rfl rfl)
theorem dX8_turn_93 : decode cX8_turn 93 = .ok (.iinc 3 (-1), 3) := dk_132 3 255 (dk_at dksX8_turn_4 0 rfl rfl)
theorem dX8_turn_96 : decode cX8_turn 96 = .ok (.iinc 4 1, 3) := dk_132 4 1 (dk_at dksX8_turn_4 3 rfl rfl)
theorem dX8_turn_99 : decode cX8_turn 99 = .ok (.goto (-38), 3) := dk_167 255 218 (dk_at dksX8_turn_4 6 rfl rfl)
theorem dX8_turn_102 : decode cX8_turn 102 = .ok (.iconst (-1), 1) := dk_2 (dk_at dksX8_turn_4 9 rfl rfl)
theorem dX8_turn_103 : decode cX8_turn 103 = .ok (.ireturn, 1) := dk_172 (dk_at dksX8_turn_4 10 rfl rfl)
def dkwX8_isOf_1 : List UInt8 := [184, 0, 52, 153, 0, 7, 4, 167, 0, 4, 3, 172]
abbrev dktX8_isOf_1 : List UInt8 := dkwX8_isOf_1 ++ []
def dkwX8_isOf_0 : List UInt8 := [42, 180, 0, 3, 180, 0, 15, 28, 50, 180, 0, 19, 42, 180, 0, 25, 160, 0, 18, 43, 180, 0, 49, 28]
abbrev dktX8_isOf_0 : List UInt8 := dkwX8_isOf_0 ++ dktX8_isOf_1
theorem dksX8_isOf_0 : cX8_isOf.data.toList.drop 0 = dktX8_isOf_0 := by decide +kernel
theorem dksX8_isOf_1 : cX8_isOf.data.toList.drop 24 = dktX8_isOf_1 := dk_seg dksX8_isOf_0 24 rfl rfl
theorem dX8_isOf_0 : decode cX8_isOf 0 = .ok (.aload_n 0, 1) := dk_42 (dk_at dksX8_isOf_0 0 rfl rfl)
theorem dX8_isOf_1 : decode cX8_isOf 1 = .ok (.getfield 3, 3) := dk_180 0 3 (dk_at dksX8_isOf_0 1 rfl rfl)
theorem dX8_isOf_4 : decode cX8_isOf 4 = .ok (.getfield 15, 3) := dk_180 0 15 (dk_at dksX8_isOf_0 4 rfl rfl)
theorem dX8_isOf_7 : decode cX8_isOf 7 = .ok (.iload_n 2, 1) := dk_28 (dk_at dksX8_isOf_0 7 rfl rfl)
theorem dX8_isOf_8 : decode cX8_isOf 8 = .ok (.aaload, 1) := dk_50 (dk_at dksX8_isOf_0 8 rfl rfl)
theorem dX8_isOf_9 : decode cX8_isOf 9 = .ok (.getfield 19, 3) := dk_180 0 19 (dk_at dksX8_isOf_0 9 rfl rfl)
theorem dX8_isOf_12 : decode cX8_isOf 12 = .ok (.aload_n 0, 1) := dk_42 (dk_at dksX8_isOf_0 12 rfl rfl)
theorem dX8_isOf_13 : decode cX8_isOf 13 = .ok (.getfield 25, 3) := dk_180 0 25 (dk_at dksX8_isOf_0 13 rfl rfl)
theorem dX8_isOf_16 : decode cX8_isOf 16 = .ok (.if_icmp .ne 18, 3) := dk_160 0 18 (dk_at dksX8_isOf_0 16 rfl rfl)
theorem dX8_isOf_19 : decode cX8_isOf 19 = .ok (.aload_n 1, 1) := dk_43 (dk_at dksX8_isOf_0 19 rfl rfl)
theorem dX8_isOf_20 : decode cX8_isOf 20 = .ok (.getfield 49, 3) := dk_180 0 49 (dk_at dksX8_isOf_0 20 rfl rfl)
theorem dX8_isOf_23 : decode cX8_isOf 23 = .ok (.iload_n 2, 1) := dk_28 (dk_at dksX8_isOf_0 23 rfl rfl)
theorem dX8_isOf_24 : decode cX8_isOf 24 = .ok (.invokestatic 52, 3) := dk_184 0 52 (dk_at dksX8_isOf_1 0 rfl rfl)
theorem dX8_isOf_27 : decode cX8_isOf 27 = .ok (.ifCond .eq 7, 3) := dk_153 0 7 (dk_at dksX8_isOf_1 3 rfl rfl)
theorem dX8_isOf_30 : decode cX8_isOf 30 = .ok (.iconst 1, 1) := dk_4 (dk_at dksX8_isOf_1 6 rfl rfl)
theorem dX8_isOf_31 : decode cX8_isOf 31 = .ok (.goto 4, 3) := dk_167 0 4 (dk_at dksX8_isOf_1 7 rfl rfl)
theorem dX8_isOf_34 : decode cX8_isOf 34 = .ok (.iconst 0, 1) := dk_3 (dk_at dksX8_isOf_1 10 rfl rfl)
theorem dX8_isOf_35 : decode cX8_isOf 35 = .ok (.ireturn, 1) := dk_172 (dk_at dksX8_isOf_1 11 rfl rfl)
def dkwX9_init_0 : List UInt8 := [42, 43, 181, 0, 1, 42, 183, 0, 7, 177]
abbrev dktX9_init_0 : List UInt8 := dkwX9_init_0 ++ []
theorem dksX9_init_0 : cX9_init.data.toList.drop 0 = dktX9_init_0 := by decide +kernel
theorem dX9_init_0 : decode cX9_init 0 = .ok (.aload_n 0, 1) := dk_42 (dk_at dksX9_init_0 0 rfl rfl)
theorem dX9_init_1 : decode cX9_init 1 = .ok (.aload_n 1, 1) := dk_43 (dk_at dksX9_init_0 1 rfl rfl)
theorem dX9_init_2 : decode cX9_init 2 = .ok (.putfield 1, 3) := dk_181 0 1 (dk_at dksX9_init_0 2 rfl rfl)
theorem dX9_init_5 : decode cX9_init 5 = .ok (.aload_n 0, 1) := dk_42 (dk_at dksX9_init_0 5 rfl rfl)
theorem dX9_init_6 : decode cX9_init 6 = .ok (.invokespecial 7, 3) := dk_183 0 7 (dk_at dksX9_init_0 6 rfl rfl)
theorem dX9_init_9 : decode cX9_init 9 = .ok (.return_, 1) := dk_177 (dk_at dksX9_init_0 9 rfl rfl)
def dkwX9_stands_1 : List UInt8 := [167, 0, 4, 3, 172]
abbrev dktX9_stands_1 : List UInt8 := dkwX9_stands_1 ++ []
def dkwX9_stands_0 : List UInt8 := [28, 42, 180, 0, 13, 159, 0, 22, 42, 180, 0, 1, 180, 0, 17, 43, 28, 182, 0, 23, 153, 0, 7, 4]
abbrev dktX9_stands_0 : List UInt8 := dkwX9_stands_0 ++ dktX9_stands_1
theorem dksX9_stands_0 : cX9_stands.data.toList.drop 0 = dktX9_stands_0 := by decide +kernel
theorem dksX9_stands_1 : cX9_stands.data.toList.drop 24 = dktX9_stands_1 := dk_seg dksX9_stands_0 24 rfl rfl
theorem dX9_stands_0 : decode cX9_stands 0 = .ok (.iload_n 2, 1) := dk_28 (dk_at dksX9_stands_0 0 rfl rfl)
theorem dX9_stands_1 : decode cX9_stands 1 = .ok (.aload_n 0, 1) := dk_42 (dk_at dksX9_stands_0 1 rfl rfl)
theorem dX9_stands_2 : decode cX9_stands 2 = .ok (.getfield 13, 3) := dk_180 0 13 (dk_at dksX9_stands_0 2 rfl rfl)
theorem dX9_stands_5 : decode cX9_stands 5 = .ok (.if_icmp .eq 22, 3) := dk_159 0 22 (dk_at dksX9_stands_0 5 rfl rfl)
theorem dX9_stands_8 : decode cX9_stands 8 = .ok (.aload_n 0, 1) := dk_42 (dk_at dksX9_stands_0 8 rfl rfl)
theorem dX9_stands_9 : decode cX9_stands 9 = .ok (.getfield 1, 3) := dk_180 0 1 (dk_at dksX9_stands_0 9 rfl rfl)
theorem dX9_stands_12 : decode cX9_stands 12 = .ok (.getfield 17, 3) := dk_180 0 17 (dk_at dksX9_stands_0 12 rfl rfl)
theorem dX9_stands_15 : decode cX9_stands 15 = .ok (.aload_n 1, 1) := dk_43 (dk_at dksX9_stands_0 15 rfl rfl)
theorem dX9_stands_16 : decode cX9_stands 16 = .ok (.iload_n 2, 1) := dk_28 (dk_at dksX9_stands_0 16 rfl rfl)
theorem dX9_stands_17 : decode cX9_stands 17 = .ok (.invokevirtual 23, 3) := dk_182 0 23 (dk_at dksX9_stands_0 17 rfl rfl)
theorem dX9_stands_20 : decode cX9_stands 20 = .ok (.ifCond .eq 7, 3) := dk_153 0 7 (dk_at dksX9_stands_0 20 rfl rfl)
theorem dX9_stands_23 : decode cX9_stands 23 = .ok (.iconst 1, 1) := dk_4 (dk_at dksX9_stands_0 23 rfl rfl)
theorem dX9_stands_24 : decode cX9_stands 24 = .ok (.goto 4, 3) := dk_167 0 4 (dk_at dksX9_stands_1 0 rfl rfl)
theorem dX9_stands_27 : decode cX9_stands 27 = .ok (.iconst 0, 1) := dk_3 (dk_at dksX9_stands_1 3 rfl rfl)
theorem dX9_stands_28 : decode cX9_stands 28 = .ok (.ireturn, 1) := dk_172 (dk_at dksX9_stands_1 4 rfl rfl)
def dkwX10_init_0 : List UInt8 := [42, 43, 181, 0, 1, 42, 183, 0, 7, 177]
abbrev dktX10_init_0 : List UInt8 := dkwX10_init_0 ++ []
theorem dksX10_init_0 : cX10_init.data.toList.drop 0 = dktX10_init_0 := by decide +kernel
theorem dX10_init_0 : decode cX10_init 0 = .ok (.aload_n 0, 1) := dk_42 (dk_at dksX10_init_0 0 rfl rfl)
theorem dX10_init_1 : decode cX10_init 1 = .ok (.aload_n 1, 1) := dk_43 (dk_at dksX10_init_0 1 rfl rfl)
theorem dX10_init_2 : decode cX10_init 2 = .ok (.putfield 1, 3) := dk_181 0 1 (dk_at dksX10_init_0 2 rfl rfl)
theorem dX10_init_5 : decode cX10_init 5 = .ok (.aload_n 0, 1) := dk_42 (dk_at dksX10_init_0 5 rfl rfl)
theorem dX10_init_6 : decode cX10_init 6 = .ok (.invokespecial 7, 3) := dk_183 0 7 (dk_at dksX10_init_0 6 rfl rfl)
theorem dX10_init_9 : decode cX10_init 9 = .ok (.return_, 1) := dk_177 (dk_at dksX10_init_0 9 rfl rfl)
def dkwX10_isSo_2 : List UInt8 := [182, 0, 39, 42, 180, 0, 1, 180, 0, 43, 153, 0, 5, 3, 172, 132, 2, 1, 167, 255, 212, 4, 172]
abbrev dktX10_isSo_2 : List UInt8 := dkwX10_isSo_2 ++ []
def dkwX10_isSo_1 : List UInt8 := [180, 0, 29, 162, 0, 42, 42, 180, 0, 1, 42, 180, 0, 1, 180, 0, 32, 42, 180, 0, 1, 180, 0, 35]
abbrev dktX10_isSo_1 : List UInt8 := dkwX10_isSo_1 ++ dktX10_isSo_2
def dkwX10_isSo_0 : List UInt8 := [42, 180, 0, 1, 42, 180, 0, 1, 180, 0, 13, 180, 0, 19, 27, 182, 0, 25, 3, 61, 28, 42]
abbrev dktX10_isSo_0 : List UInt8 := dkwX10_isSo_0 ++ dktX10_isSo_1
theorem dksX10_isSo_0 : cX10_isSo.data.toList.drop 0 = dktX10_isSo_0 := by decide +kernel
theorem dksX10_isSo_1 : cX10_isSo.data.toList.drop 22 = dktX10_isSo_1 := dk_seg dksX10_isSo_0 22 rfl rfl
theorem dksX10_isSo_2 : cX10_isSo.data.toList.drop 46 = dktX10_isSo_2 := dk_seg dksX10_isSo_1 24 rfl rfl
theorem dX10_isSo_0 : decode cX10_isSo 0 = .ok (.aload_n 0, 1) := dk_42 (dk_at dksX10_isSo_0 0 rfl rfl)
theorem dX10_isSo_1 : decode cX10_isSo 1 = .ok (.getfield 1, 3) := dk_180 0 1 (dk_at dksX10_isSo_0 1 rfl rfl)
theorem dX10_isSo_4 : decode cX10_isSo 4 = .ok (.aload_n 0, 1) := dk_42 (dk_at dksX10_isSo_0 4 rfl rfl)
theorem dX10_isSo_5 : decode cX10_isSo 5 = .ok (.getfield 1, 3) := dk_180 0 1 (dk_at dksX10_isSo_0 5 rfl rfl)
theorem dX10_isSo_8 : decode cX10_isSo 8 = .ok (.getfield 13, 3) := dk_180 0 13 (dk_at dksX10_isSo_0 8 rfl rfl)
theorem dX10_isSo_11 : decode cX10_isSo 11 = .ok (.getfield 19, 3) := dk_180 0 19 (dk_at dksX10_isSo_0 11 rfl rfl)
theorem dX10_isSo_14 : decode cX10_isSo 14 = .ok (.iload_n 1, 1) := dk_27 (dk_at dksX10_isSo_0 14 rfl rfl)
theorem dX10_isSo_15 : decode cX10_isSo 15 = .ok (.invokevirtual 25, 3) := dk_182 0 25 (dk_at dksX10_isSo_0 15 rfl rfl)
theorem dX10_isSo_18 : decode cX10_isSo 18 = .ok (.iconst 0, 1) := dk_3 (dk_at dksX10_isSo_0 18 rfl rfl)
theorem dX10_isSo_19 : decode cX10_isSo 19 = .ok (.istore_n 2, 1) := dk_61 (dk_at dksX10_isSo_0 19 rfl rfl)
theorem dX10_isSo_20 : decode cX10_isSo 20 = .ok (.iload_n 2, 1) := dk_28 (dk_at dksX10_isSo_0 20 rfl rfl)
theorem dX10_isSo_21 : decode cX10_isSo 21 = .ok (.aload_n 0, 1) := dk_42 (dk_at dksX10_isSo_0 21 rfl rfl)
theorem dX10_isSo_22 : decode cX10_isSo 22 = .ok (.getfield 29, 3) := dk_180 0 29 (dk_at dksX10_isSo_1 0 rfl rfl)
theorem dX10_isSo_25 : decode cX10_isSo 25 = .ok (.if_icmp .ge 42, 3) := dk_162 0 42 (dk_at dksX10_isSo_1 3 rfl rfl)
theorem dX10_isSo_28 : decode cX10_isSo 28 = .ok (.aload_n 0, 1) := dk_42 (dk_at dksX10_isSo_1 6 rfl rfl)
theorem dX10_isSo_29 : decode cX10_isSo 29 = .ok (.getfield 1, 3) := dk_180 0 1 (dk_at dksX10_isSo_1 7 rfl rfl)
theorem dX10_isSo_32 : decode cX10_isSo 32 = .ok (.aload_n 0, 1) := dk_42 (dk_at dksX10_isSo_1 10 rfl rfl)
theorem dX10_isSo_33 : decode cX10_isSo 33 = .ok (.getfield 1, 3) := dk_180 0 1 (dk_at dksX10_isSo_1 11 rfl rfl)
theorem dX10_isSo_36 : decode cX10_isSo 36 = .ok (.getfield 32, 3) := dk_180 0 32 (dk_at dksX10_isSo_1 14 rfl rfl)
theorem dX10_isSo_39 : decode cX10_isSo 39 = .ok (.aload_n 0, 1) := dk_42 (dk_at dksX10_isSo_1 17 rfl rfl)
theorem dX10_isSo_40 : decode cX10_isSo 40 = .ok (.getfield 1, 3) := dk_180 0 1 (dk_at dksX10_isSo_1 18 rfl rfl)
theorem dX10_isSo_43 : decode cX10_isSo 43 = .ok (.getfield 35, 3) := dk_180 0 35 (dk_at dksX10_isSo_1 21 rfl rfl)
theorem dX10_isSo_46 : decode cX10_isSo 46 = .ok (.invokevirtual 39, 3) := dk_182 0 39 (dk_at dksX10_isSo_2 0 rfl rfl)
theorem dX10_isSo_49 : decode cX10_isSo 49 = .ok (.aload_n 0, 1) := dk_42 (dk_at dksX10_isSo_2 3 rfl rfl)
theorem dX10_isSo_50 : decode cX10_isSo 50 = .ok (.getfield 1, 3) := dk_180 0 1 (dk_at dksX10_isSo_2 4 rfl rfl)
theorem dX10_isSo_53 : decode cX10_isSo 53 = .ok (.getfield 43, 3) := dk_180 0 43 (dk_at dksX10_isSo_2 7 rfl rfl)
theorem dX10_isSo_56 : decode cX10_isSo 56 = .ok (.ifCond .eq 5, 3) := dk_153 0 5 (dk_at dksX10_isSo_2 10 rfl rfl)
theorem dX10_isSo_59 : decode cX10_isSo 59 = .ok (.iconst 0, 1) := dk_3 (dk_at dksX10_isSo_2 13 rfl rfl)
theorem dX10_isSo_60 : decode cX10_isSo 60 = .ok (.ireturn, 1) := dk_172 (dk_at dksX10_isSo_2 14 rfl rfl)
theorem dX10_isSo_61 : decode cX10_isSo 61 = .ok (.iinc 2 1, 3) := dk_132 2 1 (dk_at dksX10_isSo_2 15 rfl rfl)
theorem dX10_isSo_64 : decode cX10_isSo 64 = .ok (.goto (-44), 3) := dk_167 255 212 (dk_at dksX10_isSo_2 18 rfl rfl)
theorem dX10_isSo_67 : decode cX10_isSo 67 = .ok (.iconst 1, 1) := dk_4 (dk_at dksX10_isSo_2 21 rfl rfl)
theorem dX10_isSo_68 : decode cX10_isSo 68 = .ok (.ireturn, 1) := dk_172 (dk_at dksX10_isSo_2 22 rfl rfl)
def dkwX11_init_0 : List UInt8 := [42, 43, 181, 0, 1, 42, 183, 0, 7, 177]
abbrev dktX11_init_0 : List UInt8 := dkwX11_init_0 ++ []
theorem dksX11_init_0 : cX11_init.data.toList.drop 0 = dktX11_init_0 := by decide +kernel
theorem dX11_init_0 : decode cX11_init 0 = .ok (.aload_n 0, 1) := dk_42 (dk_at dksX11_init_0 0 rfl rfl)
theorem dX11_init_1 : decode cX11_init 1 = .ok (.aload_n 1, 1) := dk_43 (dk_at dksX11_init_0 1 rfl rfl)
theorem dX11_init_2 : decode cX11_init 2 = .ok (.putfield 1, 3) := dk_181 0 1 (dk_at dksX11_init_0 2 rfl rfl)
theorem dX11_init_5 : decode cX11_init 5 = .ok (.aload_n 0, 1) := dk_42 (dk_at dksX11_init_0 5 rfl rfl)
theorem dX11_init_6 : decode cX11_init 6 = .ok (.invokespecial 7, 3) := dk_183 0 7 (dk_at dksX11_init_0 6 rfl rfl)
theorem dX11_init_9 : decode cX11_init 9 = .ok (.return_, 1) := dk_177 (dk_at dksX11_init_0 9 rfl rfl)
def dkwX11_isSo_3 : List UInt8 := [3, 172]
abbrev dktX11_isSo_3 : List UInt8 := dkwX11_isSo_3 ++ []
def dkwX11_isSo_2 : List UInt8 := [167, 255, 224, 42, 180, 0, 1, 180, 0, 26, 180, 0, 38, 42, 180, 0, 13, 160, 0, 7, 4, 167, 0, 4]
abbrev dktX11_isSo_2 : List UInt8 := dkwX11_isSo_2 ++ dktX11_isSo_3
def dkwX11_isSo_1 : List UInt8 := [180, 0, 1, 42, 180, 0, 1, 180, 0, 26, 42, 180, 0, 1, 180, 0, 30, 182, 0, 34, 132, 2, 1]
abbrev dktX11_isSo_1 : List UInt8 := dkwX11_isSo_1 ++ dktX11_isSo_2
def dkwX11_isSo_0 : List UInt8 := [42, 180, 0, 1, 42, 180, 0, 13, 27, 182, 0, 17, 3, 61, 28, 42, 180, 0, 23, 162, 0, 30, 42]
abbrev dktX11_isSo_0 : List UInt8 := dkwX11_isSo_0 ++ dktX11_isSo_1
theorem dksX11_isSo_0 : cX11_isSo.data.toList.drop 0 = dktX11_isSo_0 := by decide +kernel
theorem dksX11_isSo_1 : cX11_isSo.data.toList.drop 23 = dktX11_isSo_1 := dk_seg dksX11_isSo_0 23 rfl rfl
theorem dksX11_isSo_2 : cX11_isSo.data.toList.drop 46 = dktX11_isSo_2 := dk_seg dksX11_isSo_1 23 rfl rfl
theorem dksX11_isSo_3 : cX11_isSo.data.toList.drop 70 = dktX11_isSo_3 := dk_seg dksX11_isSo_2 24 rfl rfl
theorem dX11_isSo_0 : decode cX11_isSo 0 = .ok (.aload_n 0, 1) := dk_42 (dk_at dksX11_isSo_0 0 rfl rfl)
theorem dX11_isSo_1 : decode cX11_isSo 1 = .ok (.getfield 1, 3) := dk_180 0 1 (dk_at dksX11_isSo_0 1 rfl rfl)
theorem dX11_isSo_4 : decode cX11_isSo 4 = .ok (.aload_n 0, 1) := dk_42 (dk_at dksX11_isSo_0 4 rfl rfl)
theorem dX11_isSo_5 : decode cX11_isSo 5 = .ok (.getfield 13, 3) := dk_180 0 13 (dk_at dksX11_isSo_0 5 rfl rfl)
theorem dX11_isSo_8 : decode cX11_isSo 8 = .ok (.iload_n 1, 1) := dk_27 (dk_at dksX11_isSo_0 8 rfl rfl)
theorem dX11_isSo_9 : decode cX11_isSo 9 = .ok (.invokevirtual 17, 3) := dk_182 0 17 (dk_at dksX11_isSo_0 9 rfl rfl)
theorem dX11_isSo_12 : decode cX11_isSo 12 = .ok (.iconst 0, 1) := dk_3 (dk_at dksX11_isSo_0 12 rfl rfl)
theorem dX11_isSo_13 : decode cX11_isSo 13 = .ok (.istore_n 2, 1) := dk_61 (dk_at dksX11_isSo_0 13 rfl rfl)
theorem dX11_isSo_14 : decode cX11_isSo 14 = .ok (.iload_n 2, 1) := dk_28 (dk_at dksX11_isSo_0 14 rfl rfl)
theorem dX11_isSo_15 : decode cX11_isSo 15 = .ok (.aload_n 0, 1) := dk_42 (dk_at dksX11_isSo_0 15 rfl rfl)
theorem dX11_isSo_16 : decode cX11_isSo 16 = .ok (.getfield 23, 3) := dk_180 0 23 (dk_at dksX11_isSo_0 16 rfl rfl)
theorem dX11_isSo_19 : decode cX11_isSo 19 = .ok (.if_icmp .ge 30, 3) := dk_162 0 30 (dk_at dksX11_isSo_0 19 rfl rfl)
theorem dX11_isSo_22 : decode cX11_isSo 22 = .ok (.aload_n 0, 1) := dk_42 (dk_at dksX11_isSo_0 22 rfl rfl)
theorem dX11_isSo_23 : decode cX11_isSo 23 = .ok (.getfield 1, 3) := dk_180 0 1 (dk_at dksX11_isSo_1 0 rfl rfl)
theorem dX11_isSo_26 : decode cX11_isSo 26 = .ok (.aload_n 0, 1) := dk_42 (dk_at dksX11_isSo_1 3 rfl rfl)
theorem dX11_isSo_27 : decode cX11_isSo 27 = .ok (.getfield 1, 3) := dk_180 0 1 (dk_at dksX11_isSo_1 4 rfl rfl)
theorem dX11_isSo_30 : decode cX11_isSo 30 = .ok (.getfield 26, 3) := dk_180 0 26 (dk_at dksX11_isSo_1 7 rfl rfl)
theorem dX11_isSo_33 : decode cX11_isSo 33 = .ok (.aload_n 0, 1) := dk_42 (dk_at dksX11_isSo_1 10 rfl rfl)
theorem dX11_isSo_34 : decode cX11_isSo 34 = .ok (.getfield 1, 3) := dk_180 0 1 (dk_at dksX11_isSo_1 11 rfl rfl)
theorem dX11_isSo_37 : decode cX11_isSo 37 = .ok (.getfield 30, 3) := dk_180 0 30 (dk_at dksX11_isSo_1 14 rfl rfl)
theorem dX11_isSo_40 : decode cX11_isSo 40 = .ok (.invokevirtual 34, 3) := dk_182 0 34 (dk_at dksX11_isSo_1 17 rfl rfl)
theorem dX11_isSo_43 : decode cX11_isSo 43 = .ok (.iinc 2 1, 3) := dk_132 2 1 (dk_at dksX11_isSo_1 20 rfl rfl)
theorem dX11_isSo_46 : decode cX11_isSo 46 = .ok (.goto (-32), 3) := dk_167 255 224 (dk_at dksX11_isSo_2 0 rfl rfl)
theorem dX11_isSo_49 : decode cX11_isSo 49 = .ok (.aload_n 0, 1) := dk_42 (dk_at dksX11_isSo_2 3 rfl rfl)
theorem dX11_isSo_50 : decode cX11_isSo 50 = .ok (.getfield 1, 3) := dk_180 0 1 (dk_at dksX11_isSo_2 4 rfl rfl)
theorem dX11_isSo_53 : decode cX11_isSo 53 = .ok (.getfield 26, 3) := dk_180 0 26 (dk_at dksX11_isSo_2 7 rfl rfl)
theorem dX11_isSo_56 : decode cX11_isSo 56 = .ok (.getfield 38, 3) := dk_180 0 38 (dk_at dksX11_isSo_2 10 rfl rfl)
theorem dX11_isSo_59 : decode cX11_isSo 59 = .ok (.aload_n 0, 1) := dk_42 (dk_at dksX11_isSo_2 13 rfl rfl)
theorem dX11_isSo_60 : decode cX11_isSo 60 = .ok (.getfield 13, 3) := dk_180 0 13 (dk_at dksX11_isSo_2 14 rfl rfl)
theorem dX11_isSo_63 : decode cX11_isSo 63 = .ok (.if_icmp .ne 7, 3) := dk_160 0 7 (dk_at dksX11_isSo_2 17 rfl rfl)
theorem dX11_isSo_66 : decode cX11_isSo 66 = .ok (.iconst 1, 1) := dk_4 (dk_at dksX11_isSo_2 20 rfl rfl)
theorem dX11_isSo_67 : decode cX11_isSo 67 = .ok (.goto 4, 3) := dk_167 0 4 (dk_at dksX11_isSo_2 21 rfl rfl)
theorem dX11_isSo_70 : decode cX11_isSo 70 = .ok (.iconst 0, 1) := dk_3 (dk_at dksX11_isSo_3 0 rfl rfl)
theorem dX11_isSo_71 : decode cX11_isSo 71 = .ok (.ireturn, 1) := dk_172 (dk_at dksX11_isSo_3 1 rfl rfl)
def dkwX12_init_0 : List UInt8 := [42, 43, 181, 0, 1, 42, 183, 0, 7, 177]
abbrev dktX12_init_0 : List UInt8 := dkwX12_init_0 ++ []
theorem dksX12_init_0 : cX12_init.data.toList.drop 0 = dktX12_init_0 := by decide +kernel
theorem dX12_init_0 : decode cX12_init 0 = .ok (.aload_n 0, 1) := dk_42 (dk_at dksX12_init_0 0 rfl rfl)
theorem dX12_init_1 : decode cX12_init 1 = .ok (.aload_n 1, 1) := dk_43 (dk_at dksX12_init_0 1 rfl rfl)
theorem dX12_init_2 : decode cX12_init 2 = .ok (.putfield 1, 3) := dk_181 0 1 (dk_at dksX12_init_0 2 rfl rfl)
theorem dX12_init_5 : decode cX12_init 5 = .ok (.aload_n 0, 1) := dk_42 (dk_at dksX12_init_0 5 rfl rfl)
theorem dX12_init_6 : decode cX12_init 6 = .ok (.invokespecial 7, 3) := dk_183 0 7 (dk_at dksX12_init_0 6 rfl rfl)
theorem dX12_init_9 : decode cX12_init 9 = .ok (.return_, 1) := dk_177 (dk_at dksX12_init_0 9 rfl rfl)
def dkwX12_isSo_2 : List UInt8 := [180, 0, 26, 180, 0, 38, 42, 180, 0, 13, 160, 0, 5, 3, 172, 132, 2, 1, 167, 255, 205, 4, 172]
abbrev dktX12_isSo_2 : List UInt8 := dkwX12_isSo_2 ++ []
def dkwX12_isSo_1 : List UInt8 := [180, 0, 1, 42, 180, 0, 1, 180, 0, 26, 42, 180, 0, 1, 180, 0, 30, 182, 0, 34, 42, 180, 0, 1]
abbrev dktX12_isSo_1 : List UInt8 := dkwX12_isSo_1 ++ dktX12_isSo_2
def dkwX12_isSo_0 : List UInt8 := [42, 180, 0, 1, 42, 180, 0, 13, 27, 116, 182, 0, 17, 3, 61, 28, 42, 180, 0, 23, 162, 0, 49, 42]
abbrev dktX12_isSo_0 : List UInt8 := dkwX12_isSo_0 ++ dktX12_isSo_1
theorem dksX12_isSo_0 : cX12_isSo.data.toList.drop 0 = dktX12_isSo_0 := by decide +kernel
theorem dksX12_isSo_1 : cX12_isSo.data.toList.drop 24 = dktX12_isSo_1 := dk_seg dksX12_isSo_0 24 rfl rfl
theorem dksX12_isSo_2 : cX12_isSo.data.toList.drop 48 = dktX12_isSo_2 := dk_seg dksX12_isSo_1 24 rfl rfl
theorem dX12_isSo_0 : decode cX12_isSo 0 = .ok (.aload_n 0, 1) := dk_42 (dk_at dksX12_isSo_0 0 rfl rfl)
theorem dX12_isSo_1 : decode cX12_isSo 1 = .ok (.getfield 1, 3) := dk_180 0 1 (dk_at dksX12_isSo_0 1 rfl rfl)
theorem dX12_isSo_4 : decode cX12_isSo 4 = .ok (.aload_n 0, 1) := dk_42 (dk_at dksX12_isSo_0 4 rfl rfl)
theorem dX12_isSo_5 : decode cX12_isSo 5 = .ok (.getfield 13, 3) := dk_180 0 13 (dk_at dksX12_isSo_0 5 rfl rfl)
theorem dX12_isSo_8 : decode cX12_isSo 8 = .ok (.iload_n 1, 1) := dk_27 (dk_at dksX12_isSo_0 8 rfl rfl)
theorem dX12_isSo_9 : decode cX12_isSo 9 = .ok (.ineg, 1) := dk_116 (dk_at dksX12_isSo_0 9 rfl rfl)
theorem dX12_isSo_10 : decode cX12_isSo 10 = .ok (.invokevirtual 17, 3) := dk_182 0 17 (dk_at dksX12_isSo_0 10 rfl rfl)
theorem dX12_isSo_13 : decode cX12_isSo 13 = .ok (.iconst 0, 1) := dk_3 (dk_at dksX12_isSo_0 13 rfl rfl)
theorem dX12_isSo_14 : decode cX12_isSo 14 = .ok (.istore_n 2, 1) := dk_61 (dk_at dksX12_isSo_0 14 rfl rfl)
theorem dX12_isSo_15 : decode cX12_isSo 15 = .ok (.iload_n 2, 1) := dk_28 (dk_at dksX12_isSo_0 15 rfl rfl)
theorem dX12_isSo_16 : decode cX12_isSo 16 = .ok (.aload_n 0, 1) := dk_42 (dk_at dksX12_isSo_0 16 rfl rfl)
theorem dX12_isSo_17 : decode cX12_isSo 17 = .ok (.getfield 23, 3) := dk_180 0 23 (dk_at dksX12_isSo_0 17 rfl rfl)
theorem dX12_isSo_20 : decode cX12_isSo 20 = .ok (.if_icmp .ge 49, 3) := dk_162 0 49 (dk_at dksX12_isSo_0 20 rfl rfl)
theorem dX12_isSo_23 : decode cX12_isSo 23 = .ok (.aload_n 0, 1) := dk_42 (dk_at dksX12_isSo_0 23 rfl rfl)
theorem dX12_isSo_24 : decode cX12_isSo 24 = .ok (.getfield 1, 3) := dk_180 0 1 (dk_at dksX12_isSo_1 0 rfl rfl)
theorem dX12_isSo_27 : decode cX12_isSo 27 = .ok (.aload_n 0, 1) := dk_42 (dk_at dksX12_isSo_1 3 rfl rfl)
theorem dX12_isSo_28 : decode cX12_isSo 28 = .ok (.getfield 1, 3) := dk_180 0 1 (dk_at dksX12_isSo_1 4 rfl rfl)
theorem dX12_isSo_31 : decode cX12_isSo 31 = .ok (.getfield 26, 3) := dk_180 0 26 (dk_at dksX12_isSo_1 7 rfl rfl)
theorem dX12_isSo_34 : decode cX12_isSo 34 = .ok (.aload_n 0, 1) := dk_42 (dk_at dksX12_isSo_1 10 rfl rfl)
theorem dX12_isSo_35 : decode cX12_isSo 35 = .ok (.getfield 1, 3) := dk_180 0 1 (dk_at dksX12_isSo_1 11 rfl rfl)
theorem dX12_isSo_38 : decode cX12_isSo 38 = .ok (.getfield 30, 3) := dk_180 0 30 (dk_at dksX12_isSo_1 14 rfl rfl)
theorem dX12_isSo_41 : decode cX12_isSo 41 = .ok (.invokevirtual 34, 3) := dk_182 0 34 (dk_at dksX12_isSo_1 17 rfl rfl)
theorem dX12_isSo_44 : decode cX12_isSo 44 = .ok (.aload_n 0, 1) := dk_42 (dk_at dksX12_isSo_1 20 rfl rfl)
theorem dX12_isSo_45 : decode cX12_isSo 45 = .ok (.getfield 1, 3) := dk_180 0 1 (dk_at dksX12_isSo_1 21 rfl rfl)
theorem dX12_isSo_48 : decode cX12_isSo 48 = .ok (.getfield 26, 3) := dk_180 0 26 (dk_at dksX12_isSo_2 0 rfl rfl)
theorem dX12_isSo_51 : decode cX12_isSo 51 = .ok (.getfield 38, 3) := dk_180 0 38 (dk_at dksX12_isSo_2 3 rfl rfl)
theorem dX12_isSo_54 : decode cX12_isSo 54 = .ok (.aload_n 0, 1) := dk_42 (dk_at dksX12_isSo_2 6 rfl rfl)
theorem dX12_isSo_55 : decode cX12_isSo 55 = .ok (.getfield 13, 3) := dk_180 0 13 (dk_at dksX12_isSo_2 7 rfl rfl)
theorem dX12_isSo_58 : decode cX12_isSo 58 = .ok (.if_icmp .ne 5, 3) := dk_160 0 5 (dk_at dksX12_isSo_2 10 rfl rfl)
theorem dX12_isSo_61 : decode cX12_isSo 61 = .ok (.iconst 0, 1) := dk_3 (dk_at dksX12_isSo_2 13 rfl rfl)
theorem dX12_isSo_62 : decode cX12_isSo 62 = .ok (.ireturn, 1) := dk_172 (dk_at dksX12_isSo_2 14 rfl rfl)
theorem dX12_isSo_63 : decode cX12_isSo 63 = .ok (.iinc 2 1, 3) := dk_132 2 1 (dk_at dksX12_isSo_2 15 rfl rfl)
theorem dX12_isSo_66 : decode cX12_isSo 66 = .ok (.goto (-51), 3) := dk_167 255 205 (dk_at dksX12_isSo_2 18 rfl rfl)
theorem dX12_isSo_69 : decode cX12_isSo 69 = .ok (.iconst 1, 1) := dk_4 (dk_at dksX12_isSo_2 21 rfl rfl)
theorem dX12_isSo_70 : decode cX12_isSo 70 = .ok (.ireturn, 1) := dk_172 (dk_at dksX12_isSo_2 22 rfl rfl)
def dkwX13_init_0 : List UInt8 := [42, 43, 181, 0, 1, 42, 183, 0, 7, 177]
abbrev dktX13_init_0 : List UInt8 := dkwX13_init_0 ++ []
theorem dksX13_init_0 : cX13_init.data.toList.drop 0 = dktX13_init_0 := by decide +kernel
theorem dX13_init_0 : decode cX13_init 0 = .ok (.aload_n 0, 1) := dk_42 (dk_at dksX13_init_0 0 rfl rfl)
theorem dX13_init_1 : decode cX13_init 1 = .ok (.aload_n 1, 1) := dk_43 (dk_at dksX13_init_0 1 rfl rfl)
theorem dX13_init_2 : decode cX13_init 2 = .ok (.putfield 1, 3) := dk_181 0 1 (dk_at dksX13_init_0 2 rfl rfl)
theorem dX13_init_5 : decode cX13_init 5 = .ok (.aload_n 0, 1) := dk_42 (dk_at dksX13_init_0 5 rfl rfl)
theorem dX13_init_6 : decode cX13_init 6 = .ok (.invokespecial 7, 3) := dk_183 0 7 (dk_at dksX13_init_0 6 rfl rfl)
theorem dX13_init_9 : decode cX13_init 9 = .ok (.return_, 1) := dk_177 (dk_at dksX13_init_0 9 rfl rfl)
def dkwX13_isSo_5 : List UInt8 := [180, 0, 35, 180, 0, 47, 42, 180, 0, 13, 160, 0, 7, 4, 167, 0, 4, 3, 172]
abbrev dktX13_isSo_5 : List UInt8 := dkwX13_isSo_5 ++ []
def dkwX13_isSo_4 : List UInt8 := [180, 0, 1, 42, 180, 0, 1, 180, 0, 35, 42, 180, 0, 1, 180, 0, 23, 182, 0, 43, 42, 180, 0, 1]
abbrev dktX13_isSo_4 : List UInt8 := dkwX13_isSo_4 ++ dktX13_isSo_5
def dkwX13_isSo_3 : List UInt8 := [180, 0, 1, 180, 0, 23, 89, 180, 0, 27, 4, 28, 120, 128, 181, 0, 27, 132, 2, 1, 167, 255, 198, 42]
abbrev dktX13_isSo_3 : List UInt8 := dkwX13_isSo_3 ++ dktX13_isSo_4
def dkwX13_isSo_2 : List UInt8 := [159, 0, 39, 42, 180, 0, 1, 42, 180, 0, 1, 180, 0, 35, 28, 182, 0, 39, 153, 0, 21, 42]
abbrev dktX13_isSo_2 : List UInt8 := dkwX13_isSo_2 ++ dktX13_isSo_3
def dkwX13_isSo_1 : List UInt8 := [120, 181, 0, 27, 3, 61, 28, 42, 180, 0, 1, 180, 0, 32, 162, 0, 53, 28, 42, 180, 0, 13]
abbrev dktX13_isSo_1 : List UInt8 := dkwX13_isSo_1 ++ dktX13_isSo_2
def dkwX13_isSo_0 : List UInt8 := [42, 180, 0, 1, 42, 180, 0, 13, 27, 182, 0, 17, 42, 180, 0, 1, 180, 0, 23, 4, 42, 180, 0, 13]
abbrev dktX13_isSo_0 : List UInt8 := dkwX13_isSo_0 ++ dktX13_isSo_1
theorem dksX13_isSo_0 : cX13_isSo.data.toList.drop 0 = dktX13_isSo_0 := by decide +kernel
theorem dksX13_isSo_1 : cX13_isSo.data.toList.drop 24 = dktX13_isSo_1 := dk_seg dksX13_isSo_0 24 rfl rfl
theorem dksX13_isSo_2 : cX13_isSo.data.toList.drop 46 = dktX13_isSo_2 := dk_seg dksX13_isSo_1 22 rfl rfl
theorem dksX13_isSo_3 : cX13_isSo.data.toList.drop 68 = dktX13_isSo_3 := dk_seg dksX13_isSo_2 22 rfl rfl
theorem dksX13_isSo_4 : cX13_isSo.data.toList.drop 92 = dktX13_isSo_4 := dk_seg dksX13_isSo_3 24 rfl rfl
theorem dksX13_isSo_5 : cX13_isSo.data.toList.drop 116 = dktX13_isSo_5 := dk_seg dksX13_isSo_4 24 rfl rfl
theorem dX13_isSo_0 : decode cX13_isSo 0 = .ok (.aload_n 0, 1) := dk_42 (dk_at dksX13_isSo_0 0 rfl rfl)
theorem dX13_isSo_1 : decode cX13_isSo 1 = .ok (.getfield 1, 3) := dk_180 0 1 (dk_at dksX13_isSo_0 1 rfl rfl)
theorem dX13_isSo_4 : decode cX13_isSo 4 = .ok (.aload_n 0, 1) := dk_42 (dk_at dksX13_isSo_0 4 rfl rfl)
theorem dX13_isSo_5 : decode cX13_isSo 5 = .ok (.getfield 13, 3) := dk_180 0 13 (dk_at dksX13_isSo_0 5 rfl rfl)
theorem dX13_isSo_8 : decode cX13_isSo 8 = .ok (.iload_n 1, 1) := dk_27 (dk_at dksX13_isSo_0 8 rfl rfl)
theorem dX13_isSo_9 : decode cX13_isSo 9 = .ok (.invokevirtual 17, 3) := dk_182 0 17 (dk_at dksX13_isSo_0 9 rfl rfl)
theorem dX13_isSo_12 : decode cX13_isSo 12 = .ok (.aload_n 0, 1) := dk_42 (dk_at dksX13_isSo_0 12 rfl rfl)
theorem dX13_isSo_13 : decode cX13_isSo 13 = .ok (.getfield 1, 3) := dk_180 0 1 (dk_at dksX13_isSo_0 13 rfl rfl)
theorem dX13_isSo_16 : decode cX13_isSo 16 = .ok (.getfield 23, 3) := dk_180 0 23 (dk_at dksX13_isSo_0 16 rfl rfl)
theorem dX13_isSo_19 : decode cX13_isSo 19 = .ok (.iconst 1, 1) := dk_4 (dk_at dksX13_isSo_0 19 rfl rfl)
theorem dX13_isSo_20 : decode cX13_isSo 20 = .ok (.aload_n 0, 1) := dk_42 (dk_at dksX13_isSo_0 20 rfl rfl)
theorem dX13_isSo_21 : decode cX13_isSo 21 = .ok (.getfield 13, 3) := dk_180 0 13 (dk_at dksX13_isSo_0 21 rfl rfl)
theorem dX13_isSo_24 : decode cX13_isSo 24 = .ok (.ishl, 1) := dk_120 (dk_at dksX13_isSo_1 0 rfl rfl)
theorem dX13_isSo_25 : decode cX13_isSo 25 = .ok (.putfield 27, 3) := dk_181 0 27 (dk_at dksX13_isSo_1 1 rfl rfl)
theorem dX13_isSo_28 : decode cX13_isSo 28 = .ok (.iconst 0, 1) := dk_3 (dk_at dksX13_isSo_1 4 rfl rfl)
theorem dX13_isSo_29 : decode cX13_isSo 29 = .ok (.istore_n 2, 1) := dk_61 (dk_at dksX13_isSo_1 5 rfl rfl)
theorem dX13_isSo_30 : decode cX13_isSo 30 = .ok (.iload_n 2, 1) := dk_28 (dk_at dksX13_isSo_1 6 rfl rfl)
theorem dX13_isSo_31 : decode cX13_isSo 31 = .ok (.aload_n 0, 1) := dk_42 (dk_at dksX13_isSo_1 7 rfl rfl)
theorem dX13_isSo_32 : decode cX13_isSo 32 = .ok (.getfield 1, 3) := dk_180 0 1 (dk_at dksX13_isSo_1 8 rfl rfl)
theorem dX13_isSo_35 : decode cX13_isSo 35 = .ok (.getfield 32, 3) := dk_180 0 32 (dk_at dksX13_isSo_1 11 rfl rfl)
theorem dX13_isSo_38 : decode cX13_isSo 38 = .ok (.if_icmp .ge 53, 3) := dk_162 0 53 (dk_at dksX13_isSo_1 14 rfl rfl)
theorem dX13_isSo_41 : decode cX13_isSo 41 = .ok (.iload_n 2, 1) := dk_28 (dk_at dksX13_isSo_1 17 rfl rfl)
theorem dX13_isSo_42 : decode cX13_isSo 42 = .ok (.aload_n 0, 1) := dk_42 (dk_at dksX13_isSo_1 18 rfl rfl)
theorem dX13_isSo_43 : decode cX13_isSo 43 = .ok (.getfield 13, 3) := dk_180 0 13 (dk_at dksX13_isSo_1 19 rfl rfl)
theorem dX13_isSo_46 : decode cX13_isSo 46 = .ok (.if_icmp .eq 39, 3) := dk_159 0 39 (dk_at dksX13_isSo_2 0 rfl rfl)
theorem dX13_isSo_49 : decode cX13_isSo 49 = .ok (.aload_n 0, 1) := dk_42 (dk_at dksX13_isSo_2 3 rfl rfl)
theorem dX13_isSo_50 : decode cX13_isSo 50 = .ok (.getfield 1, 3) := dk_180 0 1 (dk_at dksX13_isSo_2 4 rfl rfl)
theorem dX13_isSo_53 : decode cX13_isSo 53 = .ok (.aload_n 0, 1) := dk_42 (dk_at dksX13_isSo_2 7 rfl rfl)
theorem dX13_isSo_54 : decode cX13_isSo 54 = .ok (.getfield 1, 3) := dk_180 0 1 (dk_at dksX13_isSo_2 8 rfl rfl)
theorem dX13_isSo_57 : decode cX13_isSo 57 = .ok (.getfield 35, 3) := dk_180 0 35 (dk_at dksX13_isSo_2 11 rfl rfl)
theorem dX13_isSo_60 : decode cX13_isSo 60 = .ok (.iload_n 2, 1) := dk_28 (dk_at dksX13_isSo_2 14 rfl rfl)
theorem dX13_isSo_61 : decode cX13_isSo 61 = .ok (.invokevirtual 39, 3) := dk_182 0 39 (dk_at dksX13_isSo_2 15 rfl rfl)
theorem dX13_isSo_64 : decode cX13_isSo 64 = .ok (.ifCond .eq 21, 3) := dk_153 0 21 (dk_at dksX13_isSo_2 18 rfl rfl)
theorem dX13_isSo_67 : decode cX13_isSo 67 = .ok (.aload_n 0, 1) := dk_42 (dk_at dksX13_isSo_2 21 rfl rfl)
theorem dX13_isSo_68 : decode cX13_isSo 68 = .ok (.getfield 1, 3) := dk_180 0 1 (dk_at dksX13_isSo_3 0 rfl rfl)
theorem dX13_isSo_71 : decode cX13_isSo 71 = .ok (.getfield 23, 3) := dk_180 0 23 (dk_at dksX13_isSo_3 3 rfl rfl)
theorem dX13_isSo_74 : decode cX13_isSo 74 = .ok (.dup, 1) := dk_89 (dk_at dksX13_isSo_3 6 rfl rfl)
theorem dX13_isSo_75 : decode cX13_isSo 75 = .ok (.getfield 27, 3) := dk_180 0 27 (dk_at dksX13_isSo_3 7 rfl rfl)
theorem dX13_isSo_78 : decode cX13_isSo 78 = .ok (.iconst 1, 1) := dk_4 (dk_at dksX13_isSo_3 10 rfl rfl)
theorem dX13_isSo_79 : decode cX13_isSo 79 = .ok (.iload_n 2, 1) := dk_28 (dk_at dksX13_isSo_3 11 rfl rfl)
theorem dX13_isSo_80 : decode cX13_isSo 80 = .ok (.ishl, 1) := dk_120 (dk_at dksX13_isSo_3 12 rfl rfl)
theorem dX13_isSo_81 : decode cX13_isSo 81 = .ok (.ior, 1) := dk_128 (dk_at dksX13_isSo_3 13 rfl rfl)
theorem dX13_isSo_82 : decode cX13_isSo 82 = .ok (.putfield 27, 3) := dk_181 0 27 (dk_at dksX13_isSo_3 14 rfl rfl)
theorem dX13_isSo_85 : decode cX13_isSo 85 = .ok (.iinc 2 1, 3) := dk_132 2 1 (dk_at dksX13_isSo_3 17 rfl rfl)
theorem dX13_isSo_88 : decode cX13_isSo 88 = .ok (.goto (-58), 3) := dk_167 255 198 (dk_at dksX13_isSo_3 20 rfl rfl)
theorem dX13_isSo_91 : decode cX13_isSo 91 = .ok (.aload_n 0, 1) := dk_42 (dk_at dksX13_isSo_3 23 rfl rfl)
theorem dX13_isSo_92 : decode cX13_isSo 92 = .ok (.getfield 1, 3) := dk_180 0 1 (dk_at dksX13_isSo_4 0 rfl rfl)
theorem dX13_isSo_95 : decode cX13_isSo 95 = .ok (.aload_n 0, 1) := dk_42 (dk_at dksX13_isSo_4 3 rfl rfl)
theorem dX13_isSo_96 : decode cX13_isSo 96 = .ok (.getfield 1, 3) := dk_180 0 1 (dk_at dksX13_isSo_4 4 rfl rfl)
theorem dX13_isSo_99 : decode cX13_isSo 99 = .ok (.getfield 35, 3) := dk_180 0 35 (dk_at dksX13_isSo_4 7 rfl rfl)
theorem dX13_isSo_102 : decode cX13_isSo 102 = .ok (.aload_n 0, 1) := dk_42 (dk_at dksX13_isSo_4 10 rfl rfl)
theorem dX13_isSo_103 : decode cX13_isSo 103 = .ok (.getfield 1, 3) := dk_180 0 1 (dk_at dksX13_isSo_4 11 rfl rfl)
theorem dX13_isSo_106 : decode cX13_isSo 106 = .ok (.getfield 23, 3) := dk_180 0 23 (dk_at dksX13_isSo_4 14 rfl rfl)
theorem dX13_isSo_109 : decode cX13_isSo 109 = .ok (.invokevirtual 43, 3) := dk_182 0 43 (dk_at dksX13_isSo_4 17 rfl rfl)
theorem dX13_isSo_112 : decode cX13_isSo 112 = .ok (.aload_n 0, 1) := dk_42 (dk_at dksX13_isSo_4 20 rfl rfl)
theorem dX13_isSo_113 : decode cX13_isSo 113 = .ok (.getfield 1, 3) := dk_180 0 1 (dk_at dksX13_isSo_4 21 rfl rfl)
theorem dX13_isSo_116 : decode cX13_isSo 116 = .ok (.getfield 35, 3) := dk_180 0 35 (dk_at dksX13_isSo_5 0 rfl rfl)
theorem dX13_isSo_119 : decode cX13_isSo 119 = .ok (.getfield 47, 3) := dk_180 0 47 (dk_at dksX13_isSo_5 3 rfl rfl)
theorem dX13_isSo_122 : decode cX13_isSo 122 = .ok (.aload_n 0, 1) := dk_42 (dk_at dksX13_isSo_5 6 rfl rfl)
theorem dX13_isSo_123 : decode cX13_isSo 123 = .ok (.getfield 13, 3) := dk_180 0 13 (dk_at dksX13_isSo_5 7 rfl rfl)
theorem dX13_isSo_126 : decode cX13_isSo 126 = .ok (.if_icmp .ne 7, 3) := dk_160 0 7 (dk_at dksX13_isSo_5 10 rfl rfl)
theorem dX13_isSo_129 : decode cX13_isSo 129 = .ok (.iconst 1, 1) := dk_4 (dk_at dksX13_isSo_5 13 rfl rfl)
theorem dX13_isSo_130 : decode cX13_isSo 130 = .ok (.goto 4, 3) := dk_167 0 4 (dk_at dksX13_isSo_5 14 rfl rfl)
theorem dX13_isSo_133 : decode cX13_isSo 133 = .ok (.iconst 0, 1) := dk_3 (dk_at dksX13_isSo_5 17 rfl rfl)
theorem dX13_isSo_134 : decode cX13_isSo 134 = .ok (.ireturn, 1) := dk_172 (dk_at dksX13_isSo_5 18 rfl rfl)
def dkwX15_init_0 : List UInt8 := [42, 183, 0, 3, 42, 43, 181, 0, 9, 42, 28, 181, 0, 15, 42, 28, 29, 184, 0, 19, 181, 0, 25, 177]
abbrev dktX15_init_0 : List UInt8 := dkwX15_init_0 ++ []
theorem dksX15_init_0 : cX15_init.data.toList.drop 0 = dktX15_init_0 := by decide +kernel
theorem dX15_init_0 : decode cX15_init 0 = .ok (.aload_n 0, 1) := dk_42 (dk_at dksX15_init_0 0 rfl rfl)
theorem dX15_init_1 : decode cX15_init 1 = .ok (.invokespecial 3, 3) := dk_183 0 3 (dk_at dksX15_init_0 1 rfl rfl)
theorem dX15_init_4 : decode cX15_init 4 = .ok (.aload_n 0, 1) := dk_42 (dk_at dksX15_init_0 4 rfl rfl)
theorem dX15_init_5 : decode cX15_init 5 = .ok (.aload_n 1, 1) := dk_43 (dk_at dksX15_init_0 5 rfl rfl)
theorem dX15_init_6 : decode cX15_init 6 = .ok (.putfield 9, 3) := dk_181 0 9 (dk_at dksX15_init_0 6 rfl rfl)
theorem dX15_init_9 : decode cX15_init 9 = .ok (.aload_n 0, 1) := dk_42 (dk_at dksX15_init_0 9 rfl rfl)
theorem dX15_init_10 : decode cX15_init 10 = .ok (.iload_n 2, 1) := dk_28 (dk_at dksX15_init_0 10 rfl rfl)
theorem dX15_init_11 : decode cX15_init 11 = .ok (.putfield 15, 3) := dk_181 0 15 (dk_at dksX15_init_0 11 rfl rfl)
theorem dX15_init_14 : decode cX15_init 14 = .ok (.aload_n 0, 1) := dk_42 (dk_at dksX15_init_0 14 rfl rfl)
theorem dX15_init_15 : decode cX15_init 15 = .ok (.iload_n 2, 1) := dk_28 (dk_at dksX15_init_0 15 rfl rfl)
theorem dX15_init_16 : decode cX15_init 16 = .ok (.iload_n 3, 1) := dk_29 (dk_at dksX15_init_0 16 rfl rfl)
theorem dX15_init_17 : decode cX15_init 17 = .ok (.invokestatic 19, 3) := dk_184 0 19 (dk_at dksX15_init_0 17 rfl rfl)
theorem dX15_init_20 : decode cX15_init 20 = .ok (.putfield 25, 3) := dk_181 0 25 (dk_at dksX15_init_0 20 rfl rfl)
theorem dX15_init_23 : decode cX15_init 23 = .ok (.return_, 1) := dk_177 (dk_at dksX15_init_0 23 rfl rfl)
def dkwX15_need_0 : List UInt8 := [27, 154, 0, 15, 187, 0, 31, 89, 42, 180, 0, 28, 183, 0, 33, 191, 177]
abbrev dktX15_need_0 : List UInt8 := dkwX15_need_0 ++ []
theorem dksX15_need_0 : cX15_need.data.toList.drop 0 = dktX15_need_0 := by decide +kernel
theorem dX15_need_0 : decode cX15_need 0 = .ok (.iload_n 1, 1) := dk_27 (dk_at dksX15_need_0 0 rfl rfl)
theorem dX15_need_1 : decode cX15_need 1 = .ok (.ifCond .ne 15, 3) := dk_154 0 15 (dk_at dksX15_need_0 1 rfl rfl)
theorem dX15_need_4 : decode cX15_need 4 = .ok (.new 31, 3) := dk_187 0 31 (dk_at dksX15_need_0 4 rfl rfl)
theorem dX15_need_7 : decode cX15_need 7 = .ok (.dup, 1) := dk_89 (dk_at dksX15_need_0 7 rfl rfl)
theorem dX15_need_8 : decode cX15_need 8 = .ok (.aload_n 0, 1) := dk_42 (dk_at dksX15_need_0 8 rfl rfl)
theorem dX15_need_9 : decode cX15_need 9 = .ok (.getfield 28, 3) := dk_180 0 28 (dk_at dksX15_need_0 9 rfl rfl)
theorem dX15_need_12 : decode cX15_need 12 = .ok (.invokespecial 33, 3) := dk_183 0 33 (dk_at dksX15_need_0 12 rfl rfl)
theorem dX15_need_15 : decode cX15_need 15 = .ok (.athrow, 1) := dk_191 (dk_at dksX15_need_0 15 rfl rfl)
theorem dX15_need_16 : decode cX15_need 16 = .ok (.return_, 1) := dk_177 (dk_at dksX15_need_0 16 rfl rfl)
def dkwX15_number_4 : List UInt8 := [187, 0, 31, 89, 42, 180, 0, 28, 4, 100, 183, 0, 33, 191, 21, 4, 172]
abbrev dktX15_number_4 : List UInt8 := dkwX15_number_4 ++ []
def dkwX15_number_3 : List UInt8 := [181, 0, 28, 132, 5, 1, 167, 255, 205, 21, 4, 133, 28, 133, 29, 133, 184, 0, 48, 154, 0, 17]
abbrev dktX15_number_3 : List UInt8 := dkwX15_number_3 ++ dktX15_number_4
def dkwX15_number_2 : List UInt8 := [16, 10, 21, 4, 104, 42, 182, 0, 40, 96, 16, 48, 100, 54, 4, 42, 89, 180, 0, 28, 4, 96]
abbrev dktX15_number_2 : List UInt8 := dkwX15_number_2 ++ dktX15_number_3
def dkwX15_number_1 : List UInt8 := [21, 5, 27, 162, 0, 51, 42, 182, 0, 40, 133, 20, 0, 44, 20, 0, 46, 184, 0, 48, 153, 0, 34]
abbrev dktX15_number_1 : List UInt8 := dkwX15_number_1 ++ dktX15_number_2
def dkwX15_number_0 : List UInt8 := [42, 42, 182, 0, 40, 133, 20, 0, 44, 20, 0, 46, 184, 0, 48, 182, 0, 36, 3, 54, 4, 3, 54, 5]
abbrev dktX15_number_0 : List UInt8 := dkwX15_number_0 ++ dktX15_number_1
theorem dksX15_number_0 : cX15_number.data.toList.drop 0 = dktX15_number_0 := by decide +kernel
theorem dksX15_number_1 : cX15_number.data.toList.drop 24 = dktX15_number_1 := dk_seg dksX15_number_0 24 rfl rfl
theorem dksX15_number_2 : cX15_number.data.toList.drop 47 = dktX15_number_2 := dk_seg dksX15_number_1 23 rfl rfl
theorem dksX15_number_3 : cX15_number.data.toList.drop 69 = dktX15_number_3 := dk_seg dksX15_number_2 22 rfl rfl
theorem dksX15_number_4 : cX15_number.data.toList.drop 91 = dktX15_number_4 := dk_seg dksX15_number_3 22 rfl rfl
theorem dX15_number_0 : decode cX15_number 0 = .ok (.aload_n 0, 1) := dk_42 (dk_at dksX15_number_0 0 rfl rfl)
theorem dX15_number_1 : decode cX15_number 1 = .ok (.aload_n 0, 1) := dk_42 (dk_at dksX15_number_0 1 rfl rfl)
theorem dX15_number_2 : decode cX15_number 2 = .ok (.invokevirtual 40, 3) := dk_182 0 40 (dk_at dksX15_number_0 2 rfl rfl)
theorem dX15_number_5 : decode cX15_number 5 = .ok (.i2l, 1) := dk_133 (dk_at dksX15_number_0 5 rfl rfl)
theorem dX15_number_6 : decode cX15_number 6 = .ok (.ldc2_w 44, 3) := dk_20 0 44 (dk_at dksX15_number_0 6 rfl rfl)
theorem dX15_number_9 : decode cX15_number 9 = .ok (.ldc2_w 46, 3) := dk_20 0 46 (dk_at dksX15_number_0 9 rfl rfl)
theorem dX15_number_12 : decode cX15_number 12 = .ok (.invokestatic 48, 3) := dk_184 0 48 (dk_at dksX15_number_0 12 rfl rfl)
theorem dX15_number_15 : decode cX15_number 15 = .ok (.invokevirtual 36, 3) := dk_182 0 36 (dk_at dksX15_number_0 15 rfl rfl)
theorem dX15_number_18 : decode cX15_number 18 = .ok (.iconst 0, 1) := dk_3 (dk_at dksX15_number_0 18 rfl rfl)
theorem dX15_number_19 : decode cX15_number 19 = .ok (.istore 4, 2) := dk_54 4 (dk_at dksX15_number_0 19 rfl rfl)
theorem dX15_number_21 : decode cX15_number 21 = .ok (.iconst 0, 1) := dk_3 (dk_at dksX15_number_0 21 rfl rfl)
theorem dX15_number_22 : decode cX15_number 22 = .ok (.istore 5, 2) := dk_54 5 (dk_at dksX15_number_0 22 rfl rfl)
theorem dX15_number_24 : decode cX15_number 24 = .ok (.iload 5, 2) := dk_21 5 (dk_at dksX15_number_1 0 rfl rfl)
theorem dX15_number_26 : decode cX15_number 26 = .ok (.iload_n 1, 1) := dk_27 (dk_at dksX15_number_1 2 rfl rfl)
theorem dX15_number_27 : decode cX15_number 27 = .ok (.if_icmp .ge 51, 3) := dk_162 0 51 (dk_at dksX15_number_1 3 rfl rfl)
theorem dX15_number_30 : decode cX15_number 30 = .ok (.aload_n 0, 1) := dk_42 (dk_at dksX15_number_1 6 rfl rfl)
theorem dX15_number_31 : decode cX15_number 31 = .ok (.invokevirtual 40, 3) := dk_182 0 40 (dk_at dksX15_number_1 7 rfl rfl)
theorem dX15_number_34 : decode cX15_number 34 = .ok (.i2l, 1) := dk_133 (dk_at dksX15_number_1 10 rfl rfl)
theorem dX15_number_35 : decode cX15_number 35 = .ok (.ldc2_w 44, 3) := dk_20 0 44 (dk_at dksX15_number_1 11 rfl rfl)
theorem dX15_number_38 : decode cX15_number 38 = .ok (.ldc2_w 46, 3) := dk_20 0 46 (dk_at dksX15_number_1 14 rfl rfl)
theorem dX15_number_41 : decode cX15_number 41 = .ok (.invokestatic 48, 3) := dk_184 0 48 (dk_at dksX15_number_1 17 rfl rfl)
theorem dX15_number_44 : decode cX15_number 44 = .ok (.ifCond .eq 34, 3) := dk_153 0 34 (dk_at dksX15_number_1 20 rfl rfl)
theorem dX15_number_47 : decode cX15_number 47 = .ok (.bipush 10, 2) := dk_16 10 (dk_at dksX15_number_2 0 rfl rfl)
theorem dX15_number_49 : decode cX15_number 49 = .ok (.iload 4, 2) := dk_21 4 (dk_at dksX15_number_2 2 rfl rfl)
theorem dX15_number_51 : decode cX15_number 51 = .ok (.imul, 1) := dk_104 (dk_at dksX15_number_2 4 rfl rfl)
theorem dX15_number_52 : decode cX15_number 52 = .ok (.aload_n 0, 1) := dk_42 (dk_at dksX15_number_2 5 rfl rfl)
theorem dX15_number_53 : decode cX15_number 53 = .ok (.invokevirtual 40, 3) := dk_182 0 40 (dk_at dksX15_number_2 6 rfl rfl)
theorem dX15_number_56 : decode cX15_number 56 = .ok (.iadd, 1) := dk_96 (dk_at dksX15_number_2 9 rfl rfl)
theorem dX15_number_57 : decode cX15_number 57 = .ok (.bipush 48, 2) := dk_16 48 (dk_at dksX15_number_2 10 rfl rfl)
theorem dX15_number_59 : decode cX15_number 59 = .ok (.isub, 1) := dk_100 (dk_at dksX15_number_2 12 rfl rfl)
theorem dX15_number_60 : decode cX15_number 60 = .ok (.istore 4, 2) := dk_54 4 (dk_at dksX15_number_2 13 rfl rfl)
theorem dX15_number_62 : decode cX15_number 62 = .ok (.aload_n 0, 1) := dk_42 (dk_at dksX15_number_2 15 rfl rfl)
theorem dX15_number_63 : decode cX15_number 63 = .ok (.dup, 1) := dk_89 (dk_at dksX15_number_2 16 rfl rfl)
theorem dX15_number_64 : decode cX15_number 64 = .ok (.getfield 28, 3) := dk_180 0 28 (dk_at dksX15_number_2 17 rfl rfl)
theorem dX15_number_67 : decode cX15_number 67 = .ok (.iconst 1, 1) := dk_4 (dk_at dksX15_number_2 20 rfl rfl)
theorem dX15_number_68 : decode cX15_number 68 = .ok (.iadd, 1) := dk_96 (dk_at dksX15_number_2 21 rfl rfl)
theorem dX15_number_69 : decode cX15_number 69 = .ok (.putfield 28, 3) := dk_181 0 28 (dk_at dksX15_number_3 0 rfl rfl)
theorem dX15_number_72 : decode cX15_number 72 = .ok (.iinc 5 1, 3) := dk_132 5 1 (dk_at dksX15_number_3 3 rfl rfl)
theorem dX15_number_75 : decode cX15_number 75 = .ok (.goto (-51), 3) := dk_167 255 205 (dk_at dksX15_number_3 6 rfl rfl)
theorem dX15_number_78 : decode cX15_number 78 = .ok (.iload 4, 2) := dk_21 4 (dk_at dksX15_number_3 9 rfl rfl)
theorem dX15_number_80 : decode cX15_number 80 = .ok (.i2l, 1) := dk_133 (dk_at dksX15_number_3 11 rfl rfl)
theorem dX15_number_81 : decode cX15_number 81 = .ok (.iload_n 2, 1) := dk_28 (dk_at dksX15_number_3 12 rfl rfl)
theorem dX15_number_82 : decode cX15_number 82 = .ok (.i2l, 1) := dk_133 (dk_at dksX15_number_3 13 rfl rfl)
theorem dX15_number_83 : decode cX15_number 83 = .ok (.iload_n 3, 1) := dk_29 (dk_at dksX15_number_3 14 rfl rfl)
theorem dX15_number_84 : decode cX15_number 84 = .ok (.i2l, 1) := dk_133 (dk_at dksX15_number_3 15 rfl rfl)
theorem dX15_number_85 : decode cX15_number 85 = .ok (.invokestatic 48, 3) := dk_184 0 48 (dk_at dksX15_number_3 16 rfl rfl)
theorem dX15_number_88 : decode cX15_number 88 = .ok (.ifCond .ne 17, 3) := dk_154 0 17 (dk_at dksX15_number_3 19 rfl rfl)
theorem dX15_number_91 : decode cX15_number 91 = .ok (.new 31, 3) := dk_187 0 31 (dk_at dksX15_number_4 0 rfl rfl)
theorem dX15_number_94 : decode cX15_number 94 = .ok (.dup, 1) := dk_89 (dk_at dksX15_number_4 3 rfl rfl)
theorem dX15_number_95 : decode cX15_number 95 = .ok (.aload_n 0, 1) := dk_42 (dk_at dksX15_number_4 4 rfl rfl)
theorem dX15_number_96 : decode cX15_number 96 = .ok (.getfield 28, 3) := dk_180 0 28 (dk_at dksX15_number_4 5 rfl rfl)
theorem dX15_number_99 : decode cX15_number 99 = .ok (.iconst 1, 1) := dk_4 (dk_at dksX15_number_4 8 rfl rfl)
theorem dX15_number_100 : decode cX15_number 100 = .ok (.isub, 1) := dk_100 (dk_at dksX15_number_4 9 rfl rfl)
theorem dX15_number_101 : decode cX15_number 101 = .ok (.invokespecial 33, 3) := dk_183 0 33 (dk_at dksX15_number_4 10 rfl rfl)
theorem dX15_number_104 : decode cX15_number 104 = .ok (.athrow, 1) := dk_191 (dk_at dksX15_number_4 13 rfl rfl)
theorem dX15_number_105 : decode cX15_number 105 = .ok (.iload 4, 2) := dk_21 4 (dk_at dksX15_number_4 14 rfl rfl)
theorem dX15_number_107 : decode cX15_number 107 = .ok (.ireturn, 1) := dk_172 (dk_at dksX15_number_4 16 rfl rfl)
def dkwX15_here_1 : List UInt8 := [172]
abbrev dktX15_here_1 : List UInt8 := dkwX15_here_1 ++ []
def dkwX15_here_0 : List UInt8 := [42, 180, 0, 28, 42, 180, 0, 25, 162, 0, 15, 42, 180, 0, 9, 42, 180, 0, 28, 51, 167, 0, 4, 2]
abbrev dktX15_here_0 : List UInt8 := dkwX15_here_0 ++ dktX15_here_1
theorem dksX15_here_0 : cX15_here.data.toList.drop 0 = dktX15_here_0 := by decide +kernel
theorem dksX15_here_1 : cX15_here.data.toList.drop 24 = dktX15_here_1 := dk_seg dksX15_here_0 24 rfl rfl
theorem dX15_here_0 : decode cX15_here 0 = .ok (.aload_n 0, 1) := dk_42 (dk_at dksX15_here_0 0 rfl rfl)
theorem dX15_here_1 : decode cX15_here 1 = .ok (.getfield 28, 3) := dk_180 0 28 (dk_at dksX15_here_0 1 rfl rfl)
theorem dX15_here_4 : decode cX15_here 4 = .ok (.aload_n 0, 1) := dk_42 (dk_at dksX15_here_0 4 rfl rfl)
theorem dX15_here_5 : decode cX15_here 5 = .ok (.getfield 25, 3) := dk_180 0 25 (dk_at dksX15_here_0 5 rfl rfl)
theorem dX15_here_8 : decode cX15_here 8 = .ok (.if_icmp .ge 15, 3) := dk_162 0 15 (dk_at dksX15_here_0 8 rfl rfl)
theorem dX15_here_11 : decode cX15_here 11 = .ok (.aload_n 0, 1) := dk_42 (dk_at dksX15_here_0 11 rfl rfl)
theorem dX15_here_12 : decode cX15_here 12 = .ok (.getfield 9, 3) := dk_180 0 9 (dk_at dksX15_here_0 12 rfl rfl)
theorem dX15_here_15 : decode cX15_here 15 = .ok (.aload_n 0, 1) := dk_42 (dk_at dksX15_here_0 15 rfl rfl)
theorem dX15_here_16 : decode cX15_here 16 = .ok (.getfield 28, 3) := dk_180 0 28 (dk_at dksX15_here_0 16 rfl rfl)
theorem dX15_here_19 : decode cX15_here 19 = .ok (.baload, 1) := dk_51 (dk_at dksX15_here_0 19 rfl rfl)
theorem dX15_here_20 : decode cX15_here 20 = .ok (.goto 4, 3) := dk_167 0 4 (dk_at dksX15_here_0 20 rfl rfl)
theorem dX15_here_23 : decode cX15_here 23 = .ok (.iconst (-1), 1) := dk_2 (dk_at dksX15_here_0 23 rfl rfl)
theorem dX15_here_24 : decode cX15_here 24 = .ok (.ireturn, 1) := dk_172 (dk_at dksX15_here_1 0 rfl rfl)
def dkwX15_passes_0 : List UInt8 := [42, 182, 0, 40, 27, 159, 0, 5, 3, 172, 42, 89, 180, 0, 28, 4, 96, 181, 0, 28, 4, 172]
abbrev dktX15_passes_0 : List UInt8 := dkwX15_passes_0 ++ []
theorem dksX15_passes_0 : cX15_passes.data.toList.drop 0 = dktX15_passes_0 := by decide +kernel
theorem dX15_passes_0 : decode cX15_passes 0 = .ok (.aload_n 0, 1) := dk_42 (dk_at dksX15_passes_0 0 rfl rfl)
theorem dX15_passes_1 : decode cX15_passes 1 = .ok (.invokevirtual 40, 3) := dk_182 0 40 (dk_at dksX15_passes_0 1 rfl rfl)
theorem dX15_passes_4 : decode cX15_passes 4 = .ok (.iload_n 1, 1) := dk_27 (dk_at dksX15_passes_0 4 rfl rfl)
theorem dX15_passes_5 : decode cX15_passes 5 = .ok (.if_icmp .eq 5, 3) := dk_159 0 5 (dk_at dksX15_passes_0 5 rfl rfl)
theorem dX15_passes_8 : decode cX15_passes 8 = .ok (.iconst 0, 1) := dk_3 (dk_at dksX15_passes_0 8 rfl rfl)
theorem dX15_passes_9 : decode cX15_passes 9 = .ok (.ireturn, 1) := dk_172 (dk_at dksX15_passes_0 9 rfl rfl)
theorem dX15_passes_10 : decode cX15_passes 10 = .ok (.aload_n 0, 1) := dk_42 (dk_at dksX15_passes_0 10 rfl rfl)
theorem dX15_passes_11 : decode cX15_passes 11 = .ok (.dup, 1) := dk_89 (dk_at dksX15_passes_0 11 rfl rfl)
theorem dX15_passes_12 : decode cX15_passes 12 = .ok (.getfield 28, 3) := dk_180 0 28 (dk_at dksX15_passes_0 12 rfl rfl)
theorem dX15_passes_15 : decode cX15_passes 15 = .ok (.iconst 1, 1) := dk_4 (dk_at dksX15_passes_0 15 rfl rfl)
theorem dX15_passes_16 : decode cX15_passes 16 = .ok (.iadd, 1) := dk_96 (dk_at dksX15_passes_0 16 rfl rfl)
theorem dX15_passes_17 : decode cX15_passes 17 = .ok (.putfield 28, 3) := dk_181 0 28 (dk_at dksX15_passes_0 17 rfl rfl)
theorem dX15_passes_20 : decode cX15_passes 20 = .ok (.iconst 1, 1) := dk_4 (dk_at dksX15_passes_0 20 rfl rfl)
theorem dX15_passes_21 : decode cX15_passes 21 = .ok (.ireturn, 1) := dk_172 (dk_at dksX15_passes_0 21 rfl rfl)
def dkwX15_habit_4 : List UInt8 := [167, 255, 166, 177]
abbrev dktX15_habit_4 : List UInt8 := dkwX15_habit_4 ++ []
def dkwX15_habit_3 : List UInt8 := [180, 0, 52, 28, 42, 4, 3, 16, 9, 182, 0, 61, 104, 79, 43, 89, 180, 0, 52, 4, 96, 181, 0, 52]
abbrev dktX15_habit_3 : List UInt8 := dkwX15_habit_3 ++ dktX15_habit_4
def dkwX15_habit_2 : List UInt8 := [160, 0, 7, 4, 167, 0, 4, 2, 61, 42, 89, 180, 0, 28, 4, 96, 181, 0, 28, 43, 180, 0, 57, 43]
abbrev dktX15_habit_2 : List UInt8 := dkwX15_habit_2 ++ dktX15_habit_3
def dkwX15_habit_1 : List UInt8 := [43, 180, 0, 52, 16, 6, 162, 0, 7, 4, 167, 0, 4, 3, 182, 0, 36, 42, 182, 0, 40, 16, 43]
abbrev dktX15_habit_1 : List UInt8 := dkwX15_habit_1 ++ dktX15_habit_2
def dkwX15_habit_0 : List UInt8 := [43, 3, 181, 0, 52, 42, 182, 0, 40, 16, 43, 159, 0, 12, 42, 182, 0, 40, 16, 45, 160, 0, 78, 42]
abbrev dktX15_habit_0 : List UInt8 := dkwX15_habit_0 ++ dktX15_habit_1
theorem dksX15_habit_0 : cX15_habit.data.toList.drop 0 = dktX15_habit_0 := by decide +kernel
theorem dksX15_habit_1 : cX15_habit.data.toList.drop 24 = dktX15_habit_1 := dk_seg dksX15_habit_0 24 rfl rfl
theorem dksX15_habit_2 : cX15_habit.data.toList.drop 47 = dktX15_habit_2 := dk_seg dksX15_habit_1 23 rfl rfl
theorem dksX15_habit_3 : cX15_habit.data.toList.drop 71 = dktX15_habit_3 := dk_seg dksX15_habit_2 24 rfl rfl
theorem dksX15_habit_4 : cX15_habit.data.toList.drop 95 = dktX15_habit_4 := dk_seg dksX15_habit_3 24 rfl rfl
theorem dX15_habit_0 : decode cX15_habit 0 = .ok (.aload_n 1, 1) := dk_43 (dk_at dksX15_habit_0 0 rfl rfl)
theorem dX15_habit_1 : decode cX15_habit 1 = .ok (.iconst 0, 1) := dk_3 (dk_at dksX15_habit_0 1 rfl rfl)
theorem dX15_habit_2 : decode cX15_habit 2 = .ok (.putfield 52, 3) := dk_181 0 52 (dk_at dksX15_habit_0 2 rfl rfl)
theorem dX15_habit_5 : decode cX15_habit 5 = .ok (.aload_n 0, 1) := dk_42 (dk_at dksX15_habit_0 5 rfl rfl)
theorem dX15_habit_6 : decode cX15_habit 6 = .ok (.invokevirtual 40, 3) := dk_182 0 40 (dk_at dksX15_habit_0 6 rfl rfl)
theorem dX15_habit_9 : decode cX15_habit 9 = .ok (.bipush 43, 2) := dk_16 43 (dk_at dksX15_habit_0 9 rfl rfl)
theorem dX15_habit_11 : decode cX15_habit 11 = .ok (.if_icmp .eq 12, 3) := dk_159 0 12 (dk_at dksX15_habit_0 11 rfl rfl)
theorem dX15_habit_14 : decode cX15_habit 14 = .ok (.aload_n 0, 1) := dk_42 (dk_at dksX15_habit_0 14 rfl rfl)
theorem dX15_habit_15 : decode cX15_habit 15 = .ok (.invokevirtual 40, 3) := dk_182 0 40 (dk_at dksX15_habit_0 15 rfl rfl)
theorem dX15_habit_18 : decode cX15_habit 18 = .ok (.bipush 45, 2) := dk_16 45 (dk_at dksX15_habit_0 18 rfl rfl)
theorem dX15_habit_20 : decode cX15_habit 20 = .ok (.if_icmp .ne 78, 3) := dk_160 0 78 (dk_at dksX15_habit_0 20 rfl rfl)
theorem dX15_habit_23 : decode cX15_habit 23 = .ok (.aload_n 0, 1) := dk_42 (dk_at dksX15_habit_0 23 rfl rfl)
theorem dX15_habit_24 : decode cX15_habit 24 = .ok (.aload_n 1, 1) := dk_43 (dk_at dksX15_habit_1 0 rfl rfl)
theorem dX15_habit_25 : decode cX15_habit 25 = .ok (.getfield 52, 3) := dk_180 0 52 (dk_at dksX15_habit_1 1 rfl rfl)
theorem dX15_habit_28 : decode cX15_habit 28 = .ok (.bipush 6, 2) := dk_16 6 (dk_at dksX15_habit_1 4 rfl rfl)
theorem dX15_habit_30 : decode cX15_habit 30 = .ok (.if_icmp .ge 7, 3) := dk_162 0 7 (dk_at dksX15_habit_1 6 rfl rfl)
theorem dX15_habit_33 : decode cX15_habit 33 = .ok (.iconst 1, 1) := dk_4 (dk_at dksX15_habit_1 9 rfl rfl)
theorem dX15_habit_34 : decode cX15_habit 34 = .ok (.goto 4, 3) := dk_167 0 4 (dk_at dksX15_habit_1 10 rfl rfl)
theorem dX15_habit_37 : decode cX15_habit 37 = .ok (.iconst 0, 1) := dk_3 (dk_at dksX15_habit_1 13 rfl rfl)
theorem dX15_habit_38 : decode cX15_habit 38 = .ok (.invokevirtual 36, 3) := dk_182 0 36 (dk_at dksX15_habit_1 14 rfl rfl)
theorem dX15_habit_41 : decode cX15_habit 41 = .ok (.aload_n 0, 1) := dk_42 (dk_at dksX15_habit_1 17 rfl rfl)
theorem dX15_habit_42 : decode cX15_habit 42 = .ok (.invokevirtual 40, 3) := dk_182 0 40 (dk_at dksX15_habit_1 18 rfl rfl)
theorem dX15_habit_45 : decode cX15_habit 45 = .ok (.bipush 43, 2) := dk_16 43 (dk_at dksX15_habit_1 21 rfl rfl)
theorem dX15_habit_47 : decode cX15_habit 47 = .ok (.if_icmp .ne 7, 3) := dk_160 0 7 (dk_at dksX15_habit_2 0 rfl rfl)
theorem dX15_habit_50 : decode cX15_habit 50 = .ok (.iconst 1, 1) := dk_4 (dk_at dksX15_habit_2 3 rfl rfl)
theorem dX15_habit_51 : decode cX15_habit 51 = .ok (.goto 4, 3) := dk_167 0 4 (dk_at dksX15_habit_2 4 rfl rfl)
theorem dX15_habit_54 : decode cX15_habit 54 = .ok (.iconst (-1), 1) := dk_2 (dk_at dksX15_habit_2 7 rfl rfl)
theorem dX15_habit_55 : decode cX15_habit 55 = .ok (.istore_n 2, 1) := dk_61 (dk_at dksX15_habit_2 8 rfl rfl)
theorem dX15_habit_56 : decode cX15_habit 56 = .ok (.aload_n 0, 1) := dk_42 (dk_at dksX15_habit_2 9 rfl rfl)
theorem dX15_habit_57 : decode cX15_habit 57 = .ok (.dup, 1) := dk_89 (dk_at dksX15_habit_2 10 rfl rfl)
theorem dX15_habit_58 : decode cX15_habit 58 = .ok (.getfield 28, 3) := dk_180 0 28 (dk_at dksX15_habit_2 11 rfl rfl)
theorem dX15_habit_61 : decode cX15_habit 61 = .ok (.iconst 1, 1) := dk_4 (dk_at dksX15_habit_2 14 rfl rfl)
theorem dX15_habit_62 : decode cX15_habit 62 = .ok (.iadd, 1) := dk_96 (dk_at dksX15_habit_2 15 rfl rfl)
theorem dX15_habit_63 : decode cX15_habit 63 = .ok (.putfield 28, 3) := dk_181 0 28 (dk_at dksX15_habit_2 16 rfl rfl)
theorem dX15_habit_66 : decode cX15_habit 66 = .ok (.aload_n 1, 1) := dk_43 (dk_at dksX15_habit_2 19 rfl rfl)
theorem dX15_habit_67 : decode cX15_habit 67 = .ok (.getfield 57, 3) := dk_180 0 57 (dk_at dksX15_habit_2 20 rfl rfl)
theorem dX15_habit_70 : decode cX15_habit 70 = .ok (.aload_n 1, 1) := dk_43 (dk_at dksX15_habit_2 23 rfl rfl)
theorem dX15_habit_71 : decode cX15_habit 71 = .ok (.getfield 52, 3) := dk_180 0 52 (dk_at dksX15_habit_3 0 rfl rfl)
theorem dX15_habit_74 : decode cX15_habit 74 = .ok (.iload_n 2, 1) := dk_28 (dk_at dksX15_habit_3 3 rfl rfl)
theorem dX15_habit_75 : decode cX15_habit 75 = .ok (.aload_n 0, 1) := dk_42 (dk_at dksX15_habit_3 4 rfl rfl)
theorem dX15_habit_76 : decode cX15_habit 76 = .ok (.iconst 1, 1) := dk_4 (dk_at dksX15_habit_3 5 rfl rfl)
theorem dX15_habit_77 : decode cX15_habit 77 = .ok (.iconst 0, 1) := dk_3 (dk_at dksX15_habit_3 6 rfl rfl)
theorem dX15_habit_78 : decode cX15_habit 78 = .ok (.bipush 9, 2) := dk_16 9 (dk_at dksX15_habit_3 7 rfl rfl)
theorem dX15_habit_80 : decode cX15_habit 80 = .ok (.invokevirtual 61, 3) := dk_182 0 61 (dk_at dksX15_habit_3 9 rfl rfl)
theorem dX15_habit_83 : decode cX15_habit 83 = .ok (.imul, 1) := dk_104 (dk_at dksX15_habit_3 12 rfl rfl)
theorem dX15_habit_84 : decode cX15_habit 84 = .ok (.iastore, 1) := dk_79 (dk_at dksX15_habit_3 13 rfl rfl)
theorem dX15_habit_85 : decode cX15_habit 85 = .ok (.aload_n 1, 1) := dk_43 (dk_at dksX15_habit_3 14 rfl rfl)
theorem dX15_habit_86 : decode cX15_habit 86 = .ok (.dup, 1) := dk_89 (dk_at dksX15_habit_3 15 rfl rfl)
theorem dX15_habit_87 : decode cX15_habit 87 = .ok (.getfield 52, 3) := dk_180 0 52 (dk_at dksX15_habit_3 16 rfl rfl)
theorem dX15_habit_90 : decode cX15_habit 90 = .ok (.iconst 1, 1) := dk_4 (dk_at dksX15_habit_3 19 rfl rfl)
theorem dX15_habit_91 : decode cX15_habit 91 = .ok (.iadd, 1) := dk_96 (dk_at dksX15_habit_3 20 rfl rfl)
theorem dX15_habit_92 : decode cX15_habit 92 = .ok (.putfield 52, 3) := dk_181 0 52 (dk_at dksX15_habit_3 21 rfl rfl)
theorem dX15_habit_95 : decode cX15_habit 95 = .ok (.goto (-90), 3) := dk_167 255 166 (dk_at dksX15_habit_4 0 rfl rfl)
theorem dX15_habit_98 : decode cX15_habit 98 = .ok (.return_, 1) := dk_177 (dk_at dksX15_habit_4 3 rfl rfl)
def dkwX15_needEnd_0 : List UInt8 := [42, 42, 180, 0, 28, 42, 180, 0, 15, 160, 0, 7, 4, 167, 0, 4, 3, 182, 0, 36, 177]
abbrev dktX15_needEnd_0 : List UInt8 := dkwX15_needEnd_0 ++ []
theorem dksX15_needEnd_0 : cX15_needEnd.data.toList.drop 0 = dktX15_needEnd_0 := by decide +kernel
theorem dX15_needEnd_0 : decode cX15_needEnd 0 = .ok (.aload_n 0, 1) := dk_42 (dk_at dksX15_needEnd_0 0 rfl rfl)
theorem dX15_needEnd_1 : decode cX15_needEnd 1 = .ok (.aload_n 0, 1) := dk_42 (dk_at dksX15_needEnd_0 1 rfl rfl)
theorem dX15_needEnd_2 : decode cX15_needEnd 2 = .ok (.getfield 28, 3) := dk_180 0 28 (dk_at dksX15_needEnd_0 2 rfl rfl)
theorem dX15_needEnd_5 : decode cX15_needEnd 5 = .ok (.aload_n 0, 1) := dk_42 (dk_at dksX15_needEnd_0 5 rfl rfl)
theorem dX15_needEnd_6 : decode cX15_needEnd 6 = .ok (.getfield 15, 3) := dk_180 0 15 (dk_at dksX15_needEnd_0 6 rfl rfl)
theorem dX15_needEnd_9 : decode cX15_needEnd 9 = .ok (.if_icmp .ne 7, 3) := dk_160 0 7 (dk_at dksX15_needEnd_0 9 rfl rfl)
theorem dX15_needEnd_12 : decode cX15_needEnd 12 = .ok (.iconst 1, 1) := dk_4 (dk_at dksX15_needEnd_0 12 rfl rfl)
theorem dX15_needEnd_13 : decode cX15_needEnd 13 = .ok (.goto 4, 3) := dk_167 0 4 (dk_at dksX15_needEnd_0 13 rfl rfl)
theorem dX15_needEnd_16 : decode cX15_needEnd 16 = .ok (.iconst 0, 1) := dk_3 (dk_at dksX15_needEnd_0 16 rfl rfl)
theorem dX15_needEnd_17 : decode cX15_needEnd 17 = .ok (.invokevirtual 36, 3) := dk_182 0 36 (dk_at dksX15_needEnd_0 17 rfl rfl)
theorem dX15_needEnd_20 : decode cX15_needEnd 20 = .ok (.return_, 1) := dk_177 (dk_at dksX15_needEnd_0 20 rfl rfl)
def dkwX16_init_0 : List UInt8 := [42, 183, 0, 1, 42, 27, 181, 0, 7, 177]
abbrev dktX16_init_0 : List UInt8 := dkwX16_init_0 ++ []
theorem dksX16_init_0 : cX16_init.data.toList.drop 0 = dktX16_init_0 := by decide +kernel
theorem dX16_init_0 : decode cX16_init 0 = .ok (.aload_n 0, 1) := dk_42 (dk_at dksX16_init_0 0 rfl rfl)
theorem dX16_init_1 : decode cX16_init 1 = .ok (.invokespecial 1, 3) := dk_183 0 1 (dk_at dksX16_init_0 1 rfl rfl)
theorem dX16_init_4 : decode cX16_init 4 = .ok (.aload_n 0, 1) := dk_42 (dk_at dksX16_init_0 4 rfl rfl)
theorem dX16_init_5 : decode cX16_init 5 = .ok (.iload_n 1, 1) := dk_27 (dk_at dksX16_init_0 5 rfl rfl)
theorem dX16_init_6 : decode cX16_init 6 = .ok (.putfield 7, 3) := dk_181 0 7 (dk_at dksX16_init_0 6 rfl rfl)
theorem dX16_init_9 : decode cX16_init 9 = .ok (.return_, 1) := dk_177 (dk_at dksX16_init_0 9 rfl rfl)
def dkwX17_init_0 : List UInt8 := [42, 43, 181, 0, 3, 42, 44, 29, 16, 40, 183, 0, 9, 177]
abbrev dktX17_init_0 : List UInt8 := dkwX17_init_0 ++ []
theorem dksX17_init_0 : cX17_init.data.toList.drop 0 = dktX17_init_0 := by decide +kernel
theorem dX17_init_0 : decode cX17_init 0 = .ok (.aload_n 0, 1) := dk_42 (dk_at dksX17_init_0 0 rfl rfl)
theorem dX17_init_1 : decode cX17_init 1 = .ok (.aload_n 1, 1) := dk_43 (dk_at dksX17_init_0 1 rfl rfl)
theorem dX17_init_2 : decode cX17_init 2 = .ok (.putfield 3, 3) := dk_181 0 3 (dk_at dksX17_init_0 2 rfl rfl)
theorem dX17_init_5 : decode cX17_init 5 = .ok (.aload_n 0, 1) := dk_42 (dk_at dksX17_init_0 5 rfl rfl)
theorem dX17_init_6 : decode cX17_init 6 = .ok (.aload_n 2, 1) := dk_44 (dk_at dksX17_init_0 6 rfl rfl)
theorem dX17_init_7 : decode cX17_init 7 = .ok (.iload_n 3, 1) := dk_29 (dk_at dksX17_init_0 7 rfl rfl)
theorem dX17_init_8 : decode cX17_init 8 = .ok (.bipush 40, 2) := dk_16 40 (dk_at dksX17_init_0 8 rfl rfl)
theorem dX17_init_10 : decode cX17_init 10 = .ok (.invokespecial 9, 3) := dk_183 0 9 (dk_at dksX17_init_0 10 rfl rfl)
theorem dX17_init_13 : decode cX17_init 13 = .ok (.return_, 1) := dk_177 (dk_at dksX17_init_0 13 rfl rfl)
def dkwX17_read_0 : List UInt8 := [42, 3, 182, 0, 15, 87, 42, 182, 0, 19, 42, 176]
abbrev dktX17_read_0 : List UInt8 := dkwX17_read_0 ++ []
theorem dksX17_read_0 : cX17_read.data.toList.drop 0 = dktX17_read_0 := by decide +kernel
theorem dX17_read_0 : decode cX17_read 0 = .ok (.aload_n 0, 1) := dk_42 (dk_at dksX17_read_0 0 rfl rfl)
theorem dX17_read_1 : decode cX17_read 1 = .ok (.iconst 0, 1) := dk_3 (dk_at dksX17_read_0 1 rfl rfl)
theorem dX17_read_2 : decode cX17_read 2 = .ok (.invokevirtual 15, 3) := dk_182 0 15 (dk_at dksX17_read_0 2 rfl rfl)
theorem dX17_read_5 : decode cX17_read 5 = .ok (.pop, 1) := dk_87 (dk_at dksX17_read_0 5 rfl rfl)
theorem dX17_read_6 : decode cX17_read 6 = .ok (.aload_n 0, 1) := dk_42 (dk_at dksX17_read_0 6 rfl rfl)
theorem dX17_read_7 : decode cX17_read 7 = .ok (.invokevirtual 19, 3) := dk_182 0 19 (dk_at dksX17_read_0 7 rfl rfl)
theorem dX17_read_10 : decode cX17_read 10 = .ok (.aload_n 0, 1) := dk_42 (dk_at dksX17_read_0 10 rfl rfl)
theorem dX17_read_11 : decode cX17_read 11 = .ok (.areturn, 1) := dk_176 (dk_at dksX17_read_0 11 rfl rfl)
def dkwX17_held_3 : List UInt8 := [4, 167, 0, 4, 3, 172, 28, 172]
abbrev dktX17_held_3 : List UInt8 := dkwX17_held_3 ++ []
def dkwX17_held_2 : List UInt8 := [4, 167, 0, 4, 3, 172, 42, 16, 61, 182, 0, 39, 153, 0, 18, 28, 42, 27, 182, 0, 36, 160, 0, 7]
abbrev dktX17_held_2 : List UInt8 := dkwX17_held_2 ++ dktX17_held_3
def dkwX17_held_1 : List UInt8 := [4, 167, 0, 4, 3, 172, 42, 16, 62, 182, 0, 39, 153, 0, 18, 28, 42, 27, 182, 0, 36, 164, 0, 7]
abbrev dktX17_held_1 : List UInt8 := dkwX17_held_1 ++ dktX17_held_2
def dkwX17_held_0 : List UInt8 := [42, 27, 182, 0, 36, 61, 42, 16, 60, 182, 0, 39, 153, 0, 18, 28, 42, 27, 182, 0, 36, 162, 0, 7]
abbrev dktX17_held_0 : List UInt8 := dkwX17_held_0 ++ dktX17_held_1
theorem dksX17_held_0 : cX17_held.data.toList.drop 0 = dktX17_held_0 := by decide +kernel
theorem dksX17_held_1 : cX17_held.data.toList.drop 24 = dktX17_held_1 := dk_seg dksX17_held_0 24 rfl rfl
theorem dksX17_held_2 : cX17_held.data.toList.drop 48 = dktX17_held_2 := dk_seg dksX17_held_1 24 rfl rfl
theorem dksX17_held_3 : cX17_held.data.toList.drop 72 = dktX17_held_3 := dk_seg dksX17_held_2 24 rfl rfl
theorem dX17_held_0 : decode cX17_held 0 = .ok (.aload_n 0, 1) := dk_42 (dk_at dksX17_held_0 0 rfl rfl)
theorem dX17_held_1 : decode cX17_held 1 = .ok (.iload_n 1, 1) := dk_27 (dk_at dksX17_held_0 1 rfl rfl)
theorem dX17_held_2 : decode cX17_held 2 = .ok (.invokevirtual 36, 3) := dk_182 0 36 (dk_at dksX17_held_0 2 rfl rfl)
theorem dX17_held_5 : decode cX17_held 5 = .ok (.istore_n 2, 1) := dk_61 (dk_at dksX17_held_0 5 rfl rfl)
theorem dX17_held_6 : decode cX17_held 6 = .ok (.aload_n 0, 1) := dk_42 (dk_at dksX17_held_0 6 rfl rfl)
theorem dX17_held_7 : decode cX17_held 7 = .ok (.bipush 60, 2) := dk_16 60 (dk_at dksX17_held_0 7 rfl rfl)
theorem dX17_held_9 : decode cX17_held 9 = .ok (.invokevirtual 39, 3) := dk_182 0 39 (dk_at dksX17_held_0 9 rfl rfl)
theorem dX17_held_12 : decode cX17_held 12 = .ok (.ifCond .eq 18, 3) := dk_153 0 18 (dk_at dksX17_held_0 12 rfl rfl)
theorem dX17_held_15 : decode cX17_held 15 = .ok (.iload_n 2, 1) := dk_28 (dk_at dksX17_held_0 15 rfl rfl)
theorem dX17_held_16 : decode cX17_held 16 = .ok (.aload_n 0, 1) := dk_42 (dk_at dksX17_held_0 16 rfl rfl)
theorem dX17_held_17 : decode cX17_held 17 = .ok (.iload_n 1, 1) := dk_27 (dk_at dksX17_held_0 17 rfl rfl)
theorem dX17_held_18 : decode cX17_held 18 = .ok (.invokevirtual 36, 3) := dk_182 0 36 (dk_at dksX17_held_0 18 rfl rfl)
theorem dX17_held_21 : decode cX17_held 21 = .ok (.if_icmp .ge 7, 3) := dk_162 0 7 (dk_at dksX17_held_0 21 rfl rfl)
theorem dX17_held_24 : decode cX17_held 24 = .ok (.iconst 1, 1) := dk_4 (dk_at dksX17_held_1 0 rfl rfl)
theorem dX17_held_25 : decode cX17_held 25 = .ok (.goto 4, 3) := dk_167 0 4 (dk_at dksX17_held_1 1 rfl rfl)
theorem dX17_held_28 : decode cX17_held 28 = .ok (.iconst 0, 1) := dk_3 (dk_at dksX17_held_1 4 rfl rfl)
theorem dX17_held_29 : decode cX17_held 29 = .ok (.ireturn, 1) := dk_172 (dk_at dksX17_held_1 5 rfl rfl)
theorem dX17_held_30 : decode cX17_held 30 = .ok (.aload_n 0, 1) := dk_42 (dk_at dksX17_held_1 6 rfl rfl)
theorem dX17_held_31 : decode cX17_held 31 = .ok (.bipush 62, 2) := dk_16 62 (dk_at dksX17_held_1 7 rfl rfl)
theorem dX17_held_33 : decode cX17_held 33 = .ok (.invokevirtual 39, 3) := dk_182 0 39 (dk_at dksX17_held_1 9 rfl rfl)
theorem dX17_held_36 : decode cX17_held 36 = .ok (.ifCond .eq 18, 3) := dk_153 0 18 (dk_at dksX17_held_1 12 rfl rfl)
theorem dX17_held_39 : decode cX17_held 39 = .ok (.iload_n 2, 1) := dk_28 (dk_at dksX17_held_1 15 rfl rfl)
theorem dX17_held_40 : decode cX17_held 40 = .ok (.aload_n 0, 1) := dk_42 (dk_at dksX17_held_1 16 rfl rfl)
theorem dX17_held_41 : decode cX17_held 41 = .ok (.iload_n 1, 1) := dk_27 (dk_at dksX17_held_1 17 rfl rfl)
theorem dX17_held_42 : decode cX17_held 42 = .ok (.invokevirtual 36, 3) := dk_182 0 36 (dk_at dksX17_held_1 18 rfl rfl)
theorem dX17_held_45 : decode cX17_held 45 = .ok (.if_icmp .le 7, 3) := dk_164 0 7 (dk_at dksX17_held_1 21 rfl rfl)
theorem dX17_held_48 : decode cX17_held 48 = .ok (.iconst 1, 1) := dk_4 (dk_at dksX17_held_2 0 rfl rfl)
theorem dX17_held_49 : decode cX17_held 49 = .ok (.goto 4, 3) := dk_167 0 4 (dk_at dksX17_held_2 1 rfl rfl)
theorem dX17_held_52 : decode cX17_held 52 = .ok (.iconst 0, 1) := dk_3 (dk_at dksX17_held_2 4 rfl rfl)
theorem dX17_held_53 : decode cX17_held 53 = .ok (.ireturn, 1) := dk_172 (dk_at dksX17_held_2 5 rfl rfl)
theorem dX17_held_54 : decode cX17_held 54 = .ok (.aload_n 0, 1) := dk_42 (dk_at dksX17_held_2 6 rfl rfl)
theorem dX17_held_55 : decode cX17_held 55 = .ok (.bipush 61, 2) := dk_16 61 (dk_at dksX17_held_2 7 rfl rfl)
theorem dX17_held_57 : decode cX17_held 57 = .ok (.invokevirtual 39, 3) := dk_182 0 39 (dk_at dksX17_held_2 9 rfl rfl)
theorem dX17_held_60 : decode cX17_held 60 = .ok (.ifCond .eq 18, 3) := dk_153 0 18 (dk_at dksX17_held_2 12 rfl rfl)
theorem dX17_held_63 : decode cX17_held 63 = .ok (.iload_n 2, 1) := dk_28 (dk_at dksX17_held_2 15 rfl rfl)
theorem dX17_held_64 : decode cX17_held 64 = .ok (.aload_n 0, 1) := dk_42 (dk_at dksX17_held_2 16 rfl rfl)
theorem dX17_held_65 : decode cX17_held 65 = .ok (.iload_n 1, 1) := dk_27 (dk_at dksX17_held_2 17 rfl rfl)
theorem dX17_held_66 : decode cX17_held 66 = .ok (.invokevirtual 36, 3) := dk_182 0 36 (dk_at dksX17_held_2 18 rfl rfl)
theorem dX17_held_69 : decode cX17_held 69 = .ok (.if_icmp .ne 7, 3) := dk_160 0 7 (dk_at dksX17_held_2 21 rfl rfl)
theorem dX17_held_72 : decode cX17_held 72 = .ok (.iconst 1, 1) := dk_4 (dk_at dksX17_held_3 0 rfl rfl)
theorem dX17_held_73 : decode cX17_held 73 = .ok (.goto 4, 3) := dk_167 0 4 (dk_at dksX17_held_3 1 rfl rfl)
theorem dX17_held_76 : decode cX17_held 76 = .ok (.iconst 0, 1) := dk_3 (dk_at dksX17_held_3 4 rfl rfl)
theorem dX17_held_77 : decode cX17_held 77 = .ok (.ireturn, 1) := dk_172 (dk_at dksX17_held_3 5 rfl rfl)
theorem dX17_held_78 : decode cX17_held 78 = .ok (.iload_n 2, 1) := dk_28 (dk_at dksX17_held_3 6 rfl rfl)
theorem dX17_held_79 : decode cX17_held 79 = .ok (.ireturn, 1) := dk_172 (dk_at dksX17_held_3 7 rfl rfl)
def dkwX17_sum_3 : List UInt8 := [100, 61, 167, 255, 190, 28, 172]
abbrev dktX17_sum_3 : List UInt8 := dkwX17_sum_3 ++ []
def dkwX17_sum_2 : List UInt8 := [181, 0, 31, 42, 27, 182, 0, 43, 54, 4, 29, 153, 0, 10, 28, 21, 4, 96, 167, 0, 7, 28, 21, 4]
abbrev dktX17_sum_2 : List UInt8 := dkwX17_sum_2 ++ dktX17_sum_3
def dkwX17_sum_1 : List UInt8 := [42, 182, 0, 46, 16, 43, 160, 0, 7, 4, 167, 0, 4, 3, 62, 42, 89, 180, 0, 31, 4, 96]
abbrev dktX17_sum_1 : List UInt8 := dkwX17_sum_1 ++ dktX17_sum_2
def dkwX17_sum_0 : List UInt8 := [42, 27, 182, 0, 43, 61, 42, 182, 0, 46, 16, 43, 159, 0, 12, 42, 182, 0, 46, 16, 45, 160, 0, 54]
abbrev dktX17_sum_0 : List UInt8 := dkwX17_sum_0 ++ dktX17_sum_1
theorem dksX17_sum_0 : cX17_sum.data.toList.drop 0 = dktX17_sum_0 := by decide +kernel
theorem dksX17_sum_1 : cX17_sum.data.toList.drop 24 = dktX17_sum_1 := dk_seg dksX17_sum_0 24 rfl rfl
theorem dksX17_sum_2 : cX17_sum.data.toList.drop 46 = dktX17_sum_2 := dk_seg dksX17_sum_1 22 rfl rfl
theorem dksX17_sum_3 : cX17_sum.data.toList.drop 70 = dktX17_sum_3 := dk_seg dksX17_sum_2 24 rfl rfl
theorem dX17_sum_0 : decode cX17_sum 0 = .ok (.aload_n 0, 1) := dk_42 (dk_at dksX17_sum_0 0 rfl rfl)
theorem dX17_sum_1 : decode cX17_sum 1 = .ok (.iload_n 1, 1) := dk_27 (dk_at dksX17_sum_0 1 rfl rfl)
theorem dX17_sum_2 : decode cX17_sum 2 = .ok (.invokevirtual 43, 3) := dk_182 0 43 (dk_at dksX17_sum_0 2 rfl rfl)
theorem dX17_sum_5 : decode cX17_sum 5 = .ok (.istore_n 2, 1) := dk_61 (dk_at dksX17_sum_0 5 rfl rfl)
theorem dX17_sum_6 : decode cX17_sum 6 = .ok (.aload_n 0, 1) := dk_42 (dk_at dksX17_sum_0 6 rfl rfl)
theorem dX17_sum_7 : decode cX17_sum 7 = .ok (.invokevirtual 46, 3) := dk_182 0 46 (dk_at dksX17_sum_0 7 rfl rfl)
theorem dX17_sum_10 : decode cX17_sum 10 = .ok (.bipush 43, 2) := dk_16 43 (dk_at dksX17_sum_0 10 rfl rfl)
theorem dX17_sum_12 : decode cX17_sum 12 = .ok (.if_icmp .eq 12, 3) := dk_159 0 12 (dk_at dksX17_sum_0 12 rfl rfl)
theorem dX17_sum_15 : decode cX17_sum 15 = .ok (.aload_n 0, 1) := dk_42 (dk_at dksX17_sum_0 15 rfl rfl)
theorem dX17_sum_16 : decode cX17_sum 16 = .ok (.invokevirtual 46, 3) := dk_182 0 46 (dk_at dksX17_sum_0 16 rfl rfl)
theorem dX17_sum_19 : decode cX17_sum 19 = .ok (.bipush 45, 2) := dk_16 45 (dk_at dksX17_sum_0 19 rfl rfl)
theorem dX17_sum_21 : decode cX17_sum 21 = .ok (.if_icmp .ne 54, 3) := dk_160 0 54 (dk_at dksX17_sum_0 21 rfl rfl)
theorem dX17_sum_24 : decode cX17_sum 24 = .ok (.aload_n 0, 1) := dk_42 (dk_at dksX17_sum_1 0 rfl rfl)
theorem dX17_sum_25 : decode cX17_sum 25 = .ok (.invokevirtual 46, 3) := dk_182 0 46 (dk_at dksX17_sum_1 1 rfl rfl)
theorem dX17_sum_28 : decode cX17_sum 28 = .ok (.bipush 43, 2) := dk_16 43 (dk_at dksX17_sum_1 4 rfl rfl)
theorem dX17_sum_30 : decode cX17_sum 30 = .ok (.if_icmp .ne 7, 3) := dk_160 0 7 (dk_at dksX17_sum_1 6 rfl rfl)
theorem dX17_sum_33 : decode cX17_sum 33 = .ok (.iconst 1, 1) := dk_4 (dk_at dksX17_sum_1 9 rfl rfl)
theorem dX17_sum_34 : decode cX17_sum 34 = .ok (.goto 4, 3) := dk_167 0 4 (dk_at dksX17_sum_1 10 rfl rfl)
theorem dX17_sum_37 : decode cX17_sum 37 = .ok (.iconst 0, 1) := dk_3 (dk_at dksX17_sum_1 13 rfl rfl)
theorem dX17_sum_38 : decode cX17_sum 38 = .ok (.istore_n 3, 1) := dk_62 (dk_at dksX17_sum_1 14 rfl rfl)
theorem dX17_sum_39 : decode cX17_sum 39 = .ok (.aload_n 0, 1) := dk_42 (dk_at dksX17_sum_1 15 rfl rfl)
theorem dX17_sum_40 : decode cX17_sum 40 = .ok (.dup, 1) := dk_89 (dk_at dksX17_sum_1 16 rfl rfl)
theorem dX17_sum_41 : decode cX17_sum 41 = .ok (.getfield 31, 3) := dk_180 0 31 (dk_at dksX17_sum_1 17 rfl rfl)
theorem dX17_sum_44 : decode cX17_sum 44 = .ok (.iconst 1, 1) := dk_4 (dk_at dksX17_sum_1 20 rfl rfl)
theorem dX17_sum_45 : decode cX17_sum 45 = .ok (.iadd, 1) := dk_96 (dk_at dksX17_sum_1 21 rfl rfl)
theorem dX17_sum_46 : decode cX17_sum 46 = .ok (.putfield 31, 3) := dk_181 0 31 (dk_at dksX17_sum_2 0 rfl rfl)
theorem dX17_sum_49 : decode cX17_sum 49 = .ok (.aload_n 0, 1) := dk_42 (dk_at dksX17_sum_2 3 rfl rfl)
theorem dX17_sum_50 : decode cX17_sum 50 = .ok (.iload_n 1, 1) := dk_27 (dk_at dksX17_sum_2 4 rfl rfl)
theorem dX17_sum_51 : decode cX17_sum 51 = .ok (.invokevirtual 43, 3) := dk_182 0 43 (dk_at dksX17_sum_2 5 rfl rfl)
theorem dX17_sum_54 : decode cX17_sum 54 = .ok (.istore 4, 2) := dk_54 4 (dk_at dksX17_sum_2 8 rfl rfl)
theorem dX17_sum_56 : decode cX17_sum 56 = .ok (.iload_n 3, 1) := dk_29 (dk_at dksX17_sum_2 10 rfl rfl)
theorem dX17_sum_57 : decode cX17_sum 57 = .ok (.ifCond .eq 10, 3) := dk_153 0 10 (dk_at dksX17_sum_2 11 rfl rfl)
theorem dX17_sum_60 : decode cX17_sum 60 = .ok (.iload_n 2, 1) := dk_28 (dk_at dksX17_sum_2 14 rfl rfl)
theorem dX17_sum_61 : decode cX17_sum 61 = .ok (.iload 4, 2) := dk_21 4 (dk_at dksX17_sum_2 15 rfl rfl)
theorem dX17_sum_63 : decode cX17_sum 63 = .ok (.iadd, 1) := dk_96 (dk_at dksX17_sum_2 17 rfl rfl)
theorem dX17_sum_64 : decode cX17_sum 64 = .ok (.goto 7, 3) := dk_167 0 7 (dk_at dksX17_sum_2 18 rfl rfl)
theorem dX17_sum_67 : decode cX17_sum 67 = .ok (.iload_n 2, 1) := dk_28 (dk_at dksX17_sum_2 21 rfl rfl)
theorem dX17_sum_68 : decode cX17_sum 68 = .ok (.iload 4, 2) := dk_21 4 (dk_at dksX17_sum_2 22 rfl rfl)
theorem dX17_sum_70 : decode cX17_sum 70 = .ok (.isub, 1) := dk_100 (dk_at dksX17_sum_3 0 rfl rfl)
theorem dX17_sum_71 : decode cX17_sum 71 = .ok (.istore_n 2, 1) := dk_61 (dk_at dksX17_sum_3 1 rfl rfl)
theorem dX17_sum_72 : decode cX17_sum 72 = .ok (.goto (-66), 3) := dk_167 255 190 (dk_at dksX17_sum_3 2 rfl rfl)
theorem dX17_sum_75 : decode cX17_sum 75 = .ok (.iload_n 2, 1) := dk_28 (dk_at dksX17_sum_3 5 rfl rfl)
theorem dX17_sum_76 : decode cX17_sum 76 = .ok (.ireturn, 1) := dk_172 (dk_at dksX17_sum_3 6 rfl rfl)
def dkwX17_product_3 : List UInt8 := [154, 0, 7, 3, 167, 0, 7, 28, 21, 4, 108, 61, 167, 255, 181, 28, 172]
abbrev dktX17_product_3 : List UInt8 := dkwX17_product_3 ++ []
def dkwX17_product_2 : List UInt8 := [181, 0, 31, 42, 27, 182, 0, 50, 54, 4, 29, 153, 0, 10, 28, 21, 4, 104, 167, 0, 16, 21, 4]
abbrev dktX17_product_2 : List UInt8 := dkwX17_product_2 ++ dktX17_product_3
def dkwX17_product_1 : List UInt8 := [42, 182, 0, 46, 16, 42, 160, 0, 7, 4, 167, 0, 4, 3, 62, 42, 89, 180, 0, 31, 4, 96]
abbrev dktX17_product_1 : List UInt8 := dkwX17_product_1 ++ dktX17_product_2
def dkwX17_product_0 : List UInt8 := [42, 27, 182, 0, 50, 61, 42, 182, 0, 46, 16, 42, 159, 0, 12, 42, 182, 0, 46, 16, 47, 160, 0, 63]
abbrev dktX17_product_0 : List UInt8 := dkwX17_product_0 ++ dktX17_product_1
theorem dksX17_product_0 : cX17_product.data.toList.drop 0 = dktX17_product_0 := by decide +kernel
theorem dksX17_product_1 : cX17_product.data.toList.drop 24 = dktX17_product_1 := dk_seg dksX17_product_0 24 rfl rfl
theorem dksX17_product_2 : cX17_product.data.toList.drop 46 = dktX17_product_2 := dk_seg dksX17_product_1 22 rfl rfl
theorem dksX17_product_3 : cX17_product.data.toList.drop 69 = dktX17_product_3 := dk_seg dksX17_product_2 23 rfl rfl
theorem dX17_product_0 : decode cX17_product 0 = .ok (.aload_n 0, 1) := dk_42 (dk_at dksX17_product_0 0 rfl rfl)
theorem dX17_product_1 : decode cX17_product 1 = .ok (.iload_n 1, 1) := dk_27 (dk_at dksX17_product_0 1 rfl rfl)
theorem dX17_product_2 : decode cX17_product 2 = .ok (.invokevirtual 50, 3) := dk_182 0 50 (dk_at dksX17_product_0 2 rfl rfl)
theorem dX17_product_5 : decode cX17_product 5 = .ok (.istore_n 2, 1) := dk_61 (dk_at dksX17_product_0 5 rfl rfl)
theorem dX17_product_6 : decode cX17_product 6 = .ok (.aload_n 0, 1) := dk_42 (dk_at dksX17_product_0 6 rfl rfl)
theorem dX17_product_7 : decode cX17_product 7 = .ok (.invokevirtual 46, 3) := dk_182 0 46 (dk_at dksX17_product_0 7 rfl rfl)
theorem dX17_product_10 : decode cX17_product 10 = .ok (.bipush 42, 2) := dk_16 42 (dk_at dksX17_product_0 10 rfl rfl)
theorem dX17_product_12 : decode cX17_product 12 = .ok (.if_icmp .eq 12, 3) := dk_159 0 12 (dk_at dksX17_product_0 12 rfl rfl)
theorem dX17_product_15 : decode cX17_product 15 = .ok (.aload_n 0, 1) := dk_42 (dk_at dksX17_product_0 15 rfl rfl)
theorem dX17_product_16 : decode cX17_product 16 = .ok (.invokevirtual 46, 3) := dk_182 0 46 (dk_at dksX17_product_0 16 rfl rfl)
theorem dX17_product_19 : decode cX17_product 19 = .ok (.bipush 47, 2) := dk_16 47 (dk_at dksX17_product_0 19 rfl rfl)
theorem dX17_product_21 : decode cX17_product 21 = .ok (.if_icmp .ne 63, 3) := dk_160 0 63 (dk_at dksX17_product_0 21 rfl rfl)
theorem dX17_product_24 : decode cX17_product 24 = .ok (.aload_n 0, 1) := dk_42 (dk_at dksX17_product_1 0 rfl rfl)
theorem dX17_product_25 : decode cX17_product 25 = .ok (.invokevirtual 46, 3) := dk_182 0 46 (dk_at dksX17_product_1 1 rfl rfl)
theorem dX17_product_28 : decode cX17_product 28 = .ok (.bipush 42, 2) := dk_16 42 (dk_at dksX17_product_1 4 rfl rfl)
theorem dX17_product_30 : decode cX17_product 30 = .ok (.if_icmp .ne 7, 3) := dk_160 0 7 (dk_at dksX17_product_1 6 rfl rfl)
theorem dX17_product_33 : decode cX17_product 33 = .ok (.iconst 1, 1) := dk_4 (dk_at dksX17_product_1 9 rfl rfl)
theorem dX17_product_34 : decode cX17_product 34 = .ok (.goto 4, 3) := dk_167 0 4 (dk_at dksX17_product_1 10 rfl rfl)
theorem dX17_product_37 : decode cX17_product 37 = .ok (.iconst 0, 1) := dk_3 (dk_at dksX17_product_1 13 rfl rfl)
theorem dX17_product_38 : decode cX17_product 38 = .ok (.istore_n 3, 1) := dk_62 (dk_at dksX17_product_1 14 rfl rfl)
theorem dX17_product_39 : decode cX17_product 39 = .ok (.aload_n 0, 1) := dk_42 (dk_at dksX17_product_1 15 rfl rfl)
theorem dX17_product_40 : decode cX17_product 40 = .ok (.dup, 1) := dk_89 (dk_at dksX17_product_1 16 rfl rfl)
theorem dX17_product_41 : decode cX17_product 41 = .ok (.getfield 31, 3) := dk_180 0 31 (dk_at dksX17_product_1 17 rfl rfl)
theorem dX17_product_44 : decode cX17_product 44 = .ok (.iconst 1, 1) := dk_4 (dk_at dksX17_product_1 20 rfl rfl)
theorem dX17_product_45 : decode cX17_product 45 = .ok (.iadd, 1) := dk_96 (dk_at dksX17_product_1 21 rfl rfl)
theorem dX17_product_46 : decode cX17_product 46 = .ok (.putfield 31, 3) := dk_181 0 31 (dk_at dksX17_product_2 0 rfl rfl)
theorem dX17_product_49 : decode cX17_product 49 = .ok (.aload_n 0, 1) := dk_42 (dk_at dksX17_product_2 3 rfl rfl)
theorem dX17_product_50 : decode cX17_product 50 = .ok (.iload_n 1, 1) := dk_27 (dk_at dksX17_product_2 4 rfl rfl)
theorem dX17_product_51 : decode cX17_product 51 = .ok (.invokevirtual 50, 3) := dk_182 0 50 (dk_at dksX17_product_2 5 rfl rfl)
theorem dX17_product_54 : decode cX17_product 54 = .ok (.istore 4, 2) := dk_54 4 (dk_at dksX17_product_2 8 rfl rfl)
theorem dX17_product_56 : decode cX17_product 56 = .ok (.iload_n 3, 1) := dk_29 (dk_at dksX17_product_2 10 rfl rfl)
theorem dX17_product_57 : decode cX17_product 57 = .ok (.ifCond .eq 10, 3) := dk_153 0 10 (dk_at dksX17_product_2 11 rfl rfl)
theorem dX17_product_60 : decode cX17_product 60 = .ok (.iload_n 2, 1) := dk_28 (dk_at dksX17_product_2 14 rfl rfl)
theorem dX17_product_61 : decode cX17_product 61 = .ok (.iload 4, 2) := dk_21 4 (dk_at dksX17_product_2 15 rfl rfl)
theorem dX17_product_63 : decode cX17_product 63 = .ok (.imul, 1) := dk_104 (dk_at dksX17_product_2 17 rfl rfl)
theorem dX17_product_64 : decode cX17_product 64 = .ok (.goto 16, 3) := dk_167 0 16 (dk_at dksX17_product_2 18 rfl rfl)
theorem dX17_product_67 : decode cX17_product 67 = .ok (.iload 4, 2) := dk_21 4 (dk_at dksX17_product_2 21 rfl rfl)
theorem dX17_product_69 : decode cX17_product 69 = .ok (.ifCond .ne 7, 3) := dk_154 0 7 (dk_at dksX17_product_3 0 rfl rfl)
theorem dX17_product_72 : decode cX17_product 72 = .ok (.iconst 0, 1) := dk_3 (dk_at dksX17_product_3 3 rfl rfl)
theorem dX17_product_73 : decode cX17_product 73 = .ok (.goto 7, 3) := dk_167 0 7 (dk_at dksX17_product_3 4 rfl rfl)
theorem dX17_product_76 : decode cX17_product 76 = .ok (.iload_n 2, 1) := dk_28 (dk_at dksX17_product_3 7 rfl rfl)
theorem dX17_product_77 : decode cX17_product 77 = .ok (.iload 4, 2) := dk_21 4 (dk_at dksX17_product_3 8 rfl rfl)
theorem dX17_product_79 : decode cX17_product 79 = .ok (.idiv, 1) := dk_108 (dk_at dksX17_product_3 10 rfl rfl)
theorem dX17_product_80 : decode cX17_product 80 = .ok (.istore_n 2, 1) := dk_61 (dk_at dksX17_product_3 11 rfl rfl)
theorem dX17_product_81 : decode cX17_product 81 = .ok (.goto (-75), 3) := dk_167 255 181 (dk_at dksX17_product_3 12 rfl rfl)
theorem dX17_product_84 : decode cX17_product 84 = .ok (.iload_n 2, 1) := dk_28 (dk_at dksX17_product_3 15 rfl rfl)
theorem dX17_product_85 : decode cX17_product 85 = .ok (.ireturn, 1) := dk_172 (dk_at dksX17_product_3 16 rfl rfl)
def dkwX17_thing_6 : List UInt8 := [199, 0, 7, 3, 167, 0, 8, 42, 28, 182, 0, 76, 172]
abbrev dktX17_thing_6 : List UInt8 := dkwX17_thing_6 ++ []
def dkwX17_thing_5 : List UInt8 := [4, 167, 0, 4, 3, 182, 0, 53, 42, 89, 180, 0, 31, 4, 96, 181, 0, 31, 42, 180, 0, 23]
abbrev dktX17_thing_5 : List UInt8 := dkwX17_thing_5 ++ dktX17_thing_6
def dkwX17_thing_4 : List UInt8 := [182, 0, 65, 172, 42, 182, 0, 46, 61, 42, 28, 2, 159, 0, 16, 18, 69, 28, 182, 0, 71, 155, 0, 7]
abbrev dktX17_thing_4 : List UInt8 := dkwX17_thing_4 ++ dktX17_thing_5
def dkwX17_thing_3 : List UInt8 := [182, 0, 46, 133, 20, 0, 57, 20, 0, 59, 184, 0, 61, 153, 0, 13, 42, 6, 3, 17, 3, 231]
abbrev dktX17_thing_3 : List UInt8 := dkwX17_thing_3 ++ dktX17_thing_4
def dkwX17_thing_2 : List UInt8 := [181, 0, 31, 42, 27, 4, 96, 182, 0, 15, 61, 42, 42, 16, 41, 182, 0, 39, 182, 0, 53, 28, 172, 42]
abbrev dktX17_thing_2 : List UInt8 := dkwX17_thing_2 ++ dktX17_thing_3
def dkwX17_thing_1 : List UInt8 := [160, 0, 47, 42, 27, 7, 162, 0, 7, 4, 167, 0, 4, 3, 182, 0, 53, 42, 89, 180, 0, 31, 4, 96]
abbrev dktX17_thing_1 : List UInt8 := dkwX17_thing_1 ++ dktX17_thing_2
def dkwX17_thing_0 : List UInt8 := [42, 16, 45, 182, 0, 39, 153, 0, 10, 42, 27, 182, 0, 50, 116, 172, 42, 182, 0, 46, 16, 40]
abbrev dktX17_thing_0 : List UInt8 := dkwX17_thing_0 ++ dktX17_thing_1
theorem dksX17_thing_0 : cX17_thing.data.toList.drop 0 = dktX17_thing_0 := by decide +kernel
theorem dksX17_thing_1 : cX17_thing.data.toList.drop 22 = dktX17_thing_1 := dk_seg dksX17_thing_0 22 rfl rfl
theorem dksX17_thing_2 : cX17_thing.data.toList.drop 46 = dktX17_thing_2 := dk_seg dksX17_thing_1 24 rfl rfl
theorem dksX17_thing_3 : cX17_thing.data.toList.drop 70 = dktX17_thing_3 := dk_seg dksX17_thing_2 24 rfl rfl
theorem dksX17_thing_4 : cX17_thing.data.toList.drop 92 = dktX17_thing_4 := dk_seg dksX17_thing_3 22 rfl rfl
theorem dksX17_thing_5 : cX17_thing.data.toList.drop 116 = dktX17_thing_5 := dk_seg dksX17_thing_4 24 rfl rfl
theorem dksX17_thing_6 : cX17_thing.data.toList.drop 138 = dktX17_thing_6 := dk_seg dksX17_thing_5 22 rfl rfl
theorem dX17_thing_0 : decode cX17_thing 0 = .ok (.aload_n 0, 1) := dk_42 (dk_at dksX17_thing_0 0 rfl rfl)
theorem dX17_thing_1 : decode cX17_thing 1 = .ok (.bipush 45, 2) := dk_16 45 (dk_at dksX17_thing_0 1 rfl rfl)
theorem dX17_thing_3 : decode cX17_thing 3 = .ok (.invokevirtual 39, 3) := dk_182 0 39 (dk_at dksX17_thing_0 3 rfl rfl)
theorem dX17_thing_6 : decode cX17_thing 6 = .ok (.ifCond .eq 10, 3) := dk_153 0 10 (dk_at dksX17_thing_0 6 rfl rfl)
theorem dX17_thing_9 : decode cX17_thing 9 = .ok (.aload_n 0, 1) := dk_42 (dk_at dksX17_thing_0 9 rfl rfl)
theorem dX17_thing_10 : decode cX17_thing 10 = .ok (.iload_n 1, 1) := dk_27 (dk_at dksX17_thing_0 10 rfl rfl)
theorem dX17_thing_11 : decode cX17_thing 11 = .ok (.invokevirtual 50, 3) := dk_182 0 50 (dk_at dksX17_thing_0 11 rfl rfl)
theorem dX17_thing_14 : decode cX17_thing 14 = .ok (.ineg, 1) := dk_116 (dk_at dksX17_thing_0 14 rfl rfl)
theorem dX17_thing_15 : decode cX17_thing 15 = .ok (.ireturn, 1) := dk_172 (dk_at dksX17_thing_0 15 rfl rfl)
theorem dX17_thing_16 : decode cX17_thing 16 = .ok (.aload_n 0, 1) := dk_42 (dk_at dksX17_thing_0 16 rfl rfl)
theorem dX17_thing_17 : decode cX17_thing 17 = .ok (.invokevirtual 46, 3) := dk_182 0 46 (dk_at dksX17_thing_0 17 rfl rfl)
theorem dX17_thing_20 : decode cX17_thing 20 = .ok (.bipush 40, 2) := dk_16 40 (dk_at dksX17_thing_0 20 rfl rfl)
theorem dX17_thing_22 : decode cX17_thing 22 = .ok (.if_icmp .ne 47, 3) := dk_160 0 47 (dk_at dksX17_thing_1 0 rfl rfl)
theorem dX17_thing_25 : decode cX17_thing 25 = .ok (.aload_n 0, 1) := dk_42 (dk_at dksX17_thing_1 3 rfl rfl)
theorem dX17_thing_26 : decode cX17_thing 26 = .ok (.iload_n 1, 1) := dk_27 (dk_at dksX17_thing_1 4 rfl rfl)
theorem dX17_thing_27 : decode cX17_thing 27 = .ok (.iconst 4, 1) := dk_7 (dk_at dksX17_thing_1 5 rfl rfl)
theorem dX17_thing_28 : decode cX17_thing 28 = .ok (.if_icmp .ge 7, 3) := dk_162 0 7 (dk_at dksX17_thing_1 6 rfl rfl)
theorem dX17_thing_31 : decode cX17_thing 31 = .ok (.iconst 1, 1) := dk_4 (dk_at dksX17_thing_1 9 rfl rfl)
theorem dX17_thing_32 : decode cX17_thing 32 = .ok (.goto 4, 3) := dk_167 0 4 (dk_at dksX17_thing_1 10 rfl rfl)
theorem dX17_thing_35 : decode cX17_thing 35 = .ok (.iconst 0, 1) := dk_3 (dk_at dksX17_thing_1 13 rfl rfl)
theorem dX17_thing_36 : decode cX17_thing 36 = .ok (.invokevirtual 53, 3) := dk_182 0 53 (dk_at dksX17_thing_1 14 rfl rfl)
theorem dX17_thing_39 : decode cX17_thing 39 = .ok (.aload_n 0, 1) := dk_42 (dk_at dksX17_thing_1 17 rfl rfl)
theorem dX17_thing_40 : decode cX17_thing 40 = .ok (.dup, 1) := dk_89 (dk_at dksX17_thing_1 18 rfl rfl)
theorem dX17_thing_41 : decode cX17_thing 41 = .ok (.getfield 31, 3) := dk_180 0 31 (dk_at dksX17_thing_1 19 rfl rfl)
theorem dX17_thing_44 : decode cX17_thing 44 = .ok (.iconst 1, 1) := dk_4 (dk_at dksX17_thing_1 22 rfl rfl)
theorem dX17_thing_45 : decode cX17_thing 45 = .ok (.iadd, 1) := dk_96 (dk_at dksX17_thing_1 23 rfl rfl)
theorem dX17_thing_46 : decode cX17_thing 46 = .ok (.putfield 31, 3) := dk_181 0 31 (dk_at dksX17_thing_2 0 rfl rfl)
theorem dX17_thing_49 : decode cX17_thing 49 = .ok (.aload_n 0, 1) := dk_42 (dk_at dksX17_thing_2 3 rfl rfl)
theorem dX17_thing_50 : decode cX17_thing 50 = .ok (.iload_n 1, 1) := dk_27 (dk_at dksX17_thing_2 4 rfl rfl)
theorem dX17_thing_51 : decode cX17_thing 51 = .ok (.iconst 1, 1) := dk_4 (dk_at dksX17_thing_2 5 rfl rfl)
theorem dX17_thing_52 : decode cX17_thing 52 = .ok (.iadd, 1) := dk_96 (dk_at dksX17_thing_2 6 rfl rfl)
theorem dX17_thing_53 : decode cX17_thing 53 = .ok (.invokevirtual 15, 3) := dk_182 0 15 (dk_at dksX17_thing_2 7 rfl rfl)
theorem dX17_thing_56 : decode cX17_thing 56 = .ok (.istore_n 2, 1) := dk_61 (dk_at dksX17_thing_2 10 rfl rfl)
theorem dX17_thing_57 : decode cX17_thing 57 = .ok (.aload_n 0, 1) := dk_42 (dk_at dksX17_thing_2 11 rfl rfl)
theorem dX17_thing_58 : decode cX17_thing 58 = .ok (.aload_n 0, 1) := dk_42 (dk_at dksX17_thing_2 12 rfl rfl)
theorem dX17_thing_59 : decode cX17_thing 59 = .ok (.bipush 41, 2) := dk_16 41 (dk_at dksX17_thing_2 13 rfl rfl)
theorem dX17_thing_61 : decode cX17_thing 61 = .ok (.invokevirtual 39, 3) := dk_182 0 39 (dk_at dksX17_thing_2 15 rfl rfl)
theorem dX17_thing_64 : decode cX17_thing 64 = .ok (.invokevirtual 53, 3) := dk_182 0 53 (dk_at dksX17_thing_2 18 rfl rfl)
theorem dX17_thing_67 : decode cX17_thing 67 = .ok (.iload_n 2, 1) := dk_28 (dk_at dksX17_thing_2 21 rfl rfl)
theorem dX17_thing_68 : decode cX17_thing 68 = .ok (.ireturn, 1) := dk_172 (dk_at dksX17_thing_2 22 rfl rfl)
theorem dX17_thing_69 : decode cX17_thing 69 = .ok (.aload_n 0, 1) := dk_42 (dk_at dksX17_thing_2 23 rfl rfl)
theorem dX17_thing_70 : decode cX17_thing 70 = .ok (.invokevirtual 46, 3) := dk_182 0 46 (dk_at dksX17_thing_3 0 rfl rfl)
theorem dX17_thing_73 : decode cX17_thing 73 = .ok (.i2l, 1) := dk_133 (dk_at dksX17_thing_3 3 rfl rfl)
theorem dX17_thing_74 : decode cX17_thing 74 = .ok (.ldc2_w 57, 3) := dk_20 0 57 (dk_at dksX17_thing_3 4 rfl rfl)
theorem dX17_thing_77 : decode cX17_thing 77 = .ok (.ldc2_w 59, 3) := dk_20 0 59 (dk_at dksX17_thing_3 7 rfl rfl)
theorem dX17_thing_80 : decode cX17_thing 80 = .ok (.invokestatic 61, 3) := dk_184 0 61 (dk_at dksX17_thing_3 10 rfl rfl)
theorem dX17_thing_83 : decode cX17_thing 83 = .ok (.ifCond .eq 13, 3) := dk_153 0 13 (dk_at dksX17_thing_3 13 rfl rfl)
theorem dX17_thing_86 : decode cX17_thing 86 = .ok (.aload_n 0, 1) := dk_42 (dk_at dksX17_thing_3 16 rfl rfl)
theorem dX17_thing_87 : decode cX17_thing 87 = .ok (.iconst 3, 1) := dk_6 (dk_at dksX17_thing_3 17 rfl rfl)
theorem dX17_thing_88 : decode cX17_thing 88 = .ok (.iconst 0, 1) := dk_3 (dk_at dksX17_thing_3 18 rfl rfl)
theorem dX17_thing_89 : decode cX17_thing 89 = .ok (.sipush 999, 3) := dk_17 3 231 (dk_at dksX17_thing_3 19 rfl rfl)
theorem dX17_thing_92 : decode cX17_thing 92 = .ok (.invokevirtual 65, 3) := dk_182 0 65 (dk_at dksX17_thing_4 0 rfl rfl)
theorem dX17_thing_95 : decode cX17_thing 95 = .ok (.ireturn, 1) := dk_172 (dk_at dksX17_thing_4 3 rfl rfl)
theorem dX17_thing_96 : decode cX17_thing 96 = .ok (.aload_n 0, 1) := dk_42 (dk_at dksX17_thing_4 4 rfl rfl)
theorem dX17_thing_97 : decode cX17_thing 97 = .ok (.invokevirtual 46, 3) := dk_182 0 46 (dk_at dksX17_thing_4 5 rfl rfl)
theorem dX17_thing_100 : decode cX17_thing 100 = .ok (.istore_n 2, 1) := dk_61 (dk_at dksX17_thing_4 8 rfl rfl)
theorem dX17_thing_101 : decode cX17_thing 101 = .ok (.aload_n 0, 1) := dk_42 (dk_at dksX17_thing_4 9 rfl rfl)
theorem dX17_thing_102 : decode cX17_thing 102 = .ok (.iload_n 2, 1) := dk_28 (dk_at dksX17_thing_4 10 rfl rfl)
theorem dX17_thing_103 : decode cX17_thing 103 = .ok (.iconst (-1), 1) := dk_2 (dk_at dksX17_thing_4 11 rfl rfl)
theorem dX17_thing_104 : decode cX17_thing 104 = .ok (.if_icmp .eq 16, 3) := dk_159 0 16 (dk_at dksX17_thing_4 12 rfl rfl)
theorem dX17_thing_107 : decode cX17_thing 107 = .ok (.ldc 69, 2) := dk_18 69 (dk_at dksX17_thing_4 15 rfl rfl)
theorem dX17_thing_109 : decode cX17_thing 109 = .ok (.iload_n 2, 1) := dk_28 (dk_at dksX17_thing_4 17 rfl rfl)
theorem dX17_thing_110 : decode cX17_thing 110 = .ok (.invokevirtual 71, 3) := dk_182 0 71 (dk_at dksX17_thing_4 18 rfl rfl)
theorem dX17_thing_113 : decode cX17_thing 113 = .ok (.ifCond .lt 7, 3) := dk_155 0 7 (dk_at dksX17_thing_4 21 rfl rfl)
theorem dX17_thing_116 : decode cX17_thing 116 = .ok (.iconst 1, 1) := dk_4 (dk_at dksX17_thing_5 0 rfl rfl)
theorem dX17_thing_117 : decode cX17_thing 117 = .ok (.goto 4, 3) := dk_167 0 4 (dk_at dksX17_thing_5 1 rfl rfl)
theorem dX17_thing_120 : decode cX17_thing 120 = .ok (.iconst 0, 1) := dk_3 (dk_at dksX17_thing_5 4 rfl rfl)
theorem dX17_thing_121 : decode cX17_thing 121 = .ok (.invokevirtual 53, 3) := dk_182 0 53 (dk_at dksX17_thing_5 5 rfl rfl)
theorem dX17_thing_124 : decode cX17_thing 124 = .ok (.aload_n 0, 1) := dk_42 (dk_at dksX17_thing_5 8 rfl rfl)
theorem dX17_thing_125 : decode cX17_thing 125 = .ok (.dup, 1) := dk_89 (dk_at dksX17_thing_5 9 rfl rfl)
theorem dX17_thing_126 : decode cX17_thing 126 = .ok (.getfield 31, 3) := dk_180 0 31 (dk_at dksX17_thing_5 10 rfl rfl)
theorem dX17_thing_129 : decode cX17_thing 129 = .ok (.iconst 1, 1) := dk_4 (dk_at dksX17_thing_5 13 rfl rfl)
theorem dX17_thing_130 : decode cX17_thing 130 = .ok (.iadd, 1) := dk_96 (dk_at dksX17_thing_5 14 rfl rfl)
theorem dX17_thing_131 : decode cX17_thing 131 = .ok (.putfield 31, 3) := dk_181 0 31 (dk_at dksX17_thing_5 15 rfl rfl)
theorem dX17_thing_134 : decode cX17_thing 134 = .ok (.aload_n 0, 1) := dk_42 (dk_at dksX17_thing_5 18 rfl rfl)
theorem dX17_thing_135 : decode cX17_thing 135 = .ok (.getfield 23, 3) := dk_180 0 23 (dk_at dksX17_thing_5 19 rfl rfl)
theorem dX17_thing_138 : decode cX17_thing 138 = .ok (.ifnonnull 7, 3) := dk_199 0 7 (dk_at dksX17_thing_6 0 rfl rfl)
theorem dX17_thing_141 : decode cX17_thing 141 = .ok (.iconst 0, 1) := dk_3 (dk_at dksX17_thing_6 3 rfl rfl)
theorem dX17_thing_142 : decode cX17_thing 142 = .ok (.goto 8, 3) := dk_167 0 8 (dk_at dksX17_thing_6 4 rfl rfl)
theorem dX17_thing_145 : decode cX17_thing 145 = .ok (.aload_n 0, 1) := dk_42 (dk_at dksX17_thing_6 7 rfl rfl)
theorem dX17_thing_146 : decode cX17_thing 146 = .ok (.iload_n 2, 1) := dk_28 (dk_at dksX17_thing_6 8 rfl rfl)
theorem dX17_thing_147 : decode cX17_thing 147 = .ok (.invokevirtual 76, 3) := dk_182 0 76 (dk_at dksX17_thing_6 9 rfl rfl)
theorem dX17_thing_150 : decode cX17_thing 150 = .ok (.ireturn, 1) := dk_172 (dk_at dksX17_thing_6 12 rfl rfl)
def dkwX17_letter_7 : List UInt8 := [180, 0, 111, 42, 180, 0, 27, 46, 172]
abbrev dktX17_letter_7 : List UInt8 := dkwX17_letter_7 ++ []
def dkwX17_letter_6 : List UInt8 := [180, 0, 23, 182, 0, 100, 184, 0, 103, 172, 42, 180, 0, 23, 180, 0, 108, 172, 42, 180, 0, 23]
abbrev dktX17_letter_6 : List UInt8 := dkwX17_letter_6 ++ dktX17_letter_7
def dkwX17_letter_5 : List UInt8 := [180, 0, 23, 180, 0, 79, 50, 180, 0, 92, 167, 0, 4, 2, 172, 42, 180, 0, 23, 180, 0, 97, 172, 42]
abbrev dktX17_letter_5 : List UInt8 := dkwX17_letter_5 ++ dktX17_letter_6
def dkwX17_letter_4 : List UInt8 := [180, 0, 23, 180, 0, 79, 46, 167, 0, 4, 3, 172, 28, 153, 0, 24, 42, 180, 0, 3, 180, 0, 88, 42]
abbrev dktX17_letter_4 : List UInt8 := dkwX17_letter_4 ++ dktX17_letter_5
def dkwX17_letter_3 : List UInt8 := [180, 0, 88, 42, 180, 0, 27, 50, 180, 0, 92, 172, 28, 153, 0, 21, 42, 180, 0, 23, 180, 0, 84, 42]
abbrev dktX17_letter_3 : List UInt8 := dkwX17_letter_3 ++ dktX17_letter_4
def dkwX17_letter_2 : List UInt8 := [42, 180, 0, 27, 172, 42, 180, 0, 23, 180, 0, 84, 42, 180, 0, 27, 46, 172, 42, 180, 0, 3]
abbrev dktX17_letter_2 : List UInt8 := dkwX17_letter_2 ++ dktX17_letter_3
def dkwX17_letter_1 : List UInt8 := [170, 0, 0, 0, 0, 186, 0, 0, 0, 105, 0, 0, 0, 119, 0, 0, 0, 74, 0, 0, 0, 186, 0, 0, 0, 186, 0, 0, 0, 186, 0, 0, 0, 186, 0, 0, 0, 178, 0, 0, 0, 186, 0, 0, 0, 92, 0, 0, 0, 132, 0, 0, 0, 186, 0, 0, 0, 159, 0, 0, 0, 167, 0, 0, 0, 186, 0, 0, 0, 108, 0, 0, 0, 79]
abbrev dktX17_letter_1 : List UInt8 := dkwX17_letter_1 ++ dktX17_letter_2
def dkwX17_letter_0 : List UInt8 := [42, 180, 0, 23, 180, 0, 79, 2, 159, 0, 7, 4, 167, 0, 4, 3, 61, 27]
abbrev dktX17_letter_0 : List UInt8 := dkwX17_letter_0 ++ dktX17_letter_1
theorem dksX17_letter_0 : cX17_letter.data.toList.drop 0 = dktX17_letter_0 := by decide +kernel
theorem dksX17_letter_1 : cX17_letter.data.toList.drop 18 = dktX17_letter_1 := dk_seg dksX17_letter_0 18 rfl rfl
theorem dksX17_letter_2 : cX17_letter.data.toList.drop 92 = dktX17_letter_2 := dk_seg dksX17_letter_1 74 rfl rfl
theorem dksX17_letter_3 : cX17_letter.data.toList.drop 114 = dktX17_letter_3 := dk_seg dksX17_letter_2 22 rfl rfl
theorem dksX17_letter_4 : cX17_letter.data.toList.drop 138 = dktX17_letter_4 := dk_seg dksX17_letter_3 24 rfl rfl
theorem dksX17_letter_5 : cX17_letter.data.toList.drop 162 = dktX17_letter_5 := dk_seg dksX17_letter_4 24 rfl rfl
theorem dksX17_letter_6 : cX17_letter.data.toList.drop 186 = dktX17_letter_6 := dk_seg dksX17_letter_5 24 rfl rfl
theorem dksX17_letter_7 : cX17_letter.data.toList.drop 208 = dktX17_letter_7 := dk_seg dksX17_letter_6 22 rfl rfl
theorem dX17_letter_0 : decode cX17_letter 0 = .ok (.aload_n 0, 1) := dk_42 (dk_at dksX17_letter_0 0 rfl rfl)
theorem dX17_letter_1 : decode cX17_letter 1 = .ok (.getfield 23, 3) := dk_180 0 23 (dk_at dksX17_letter_0 1 rfl rfl)
theorem dX17_letter_4 : decode cX17_letter 4 = .ok (.getfield 79, 3) := dk_180 0 79 (dk_at dksX17_letter_0 4 rfl rfl)
theorem dX17_letter_7 : decode cX17_letter 7 = .ok (.iconst (-1), 1) := dk_2 (dk_at dksX17_letter_0 7 rfl rfl)
theorem dX17_letter_8 : decode cX17_letter 8 = .ok (.if_icmp .eq 7, 3) := dk_159 0 7 (dk_at dksX17_letter_0 8 rfl rfl)
theorem dX17_letter_11 : decode cX17_letter 11 = .ok (.iconst 1, 1) := dk_4 (dk_at dksX17_letter_0 11 rfl rfl)
theorem dX17_letter_12 : decode cX17_letter 12 = .ok (.goto 4, 3) := dk_167 0 4 (dk_at dksX17_letter_0 12 rfl rfl)
theorem dX17_letter_15 : decode cX17_letter 15 = .ok (.iconst 0, 1) := dk_3 (dk_at dksX17_letter_0 15 rfl rfl)
theorem dX17_letter_16 : decode cX17_letter 16 = .ok (.istore_n 2, 1) := dk_61 (dk_at dksX17_letter_0 16 rfl rfl)
theorem dX17_letter_17 : decode cX17_letter 17 = .ok (.iload_n 1, 1) := dk_27 (dk_at dksX17_letter_0 17 rfl rfl)
theorem dX17_letter_18 : decode cX17_letter 18 = .ok (.tableswitch 186 105 119 #[74, 186, 186, 186, 186, 178, 186, 92, 132, 186, 159, 167, 186, 108, 79], 74) := by decide +kernel
theorem dX17_letter_92 : decode cX17_letter 92 = .ok (.aload_n 0, 1) := dk_42 (dk_at dksX17_letter_2 0 rfl rfl)
theorem dX17_letter_93 : decode cX17_letter 93 = .ok (.getfield 27, 3) := dk_180 0 27 (dk_at dksX17_letter_2 1 rfl rfl)
theorem dX17_letter_96 : decode cX17_letter 96 = .ok (.ireturn, 1) := dk_172 (dk_at dksX17_letter_2 4 rfl rfl)
theorem dX17_letter_97 : decode cX17_letter 97 = .ok (.aload_n 0, 1) := dk_42 (dk_at dksX17_letter_2 5 rfl rfl)
theorem dX17_letter_98 : decode cX17_letter 98 = .ok (.getfield 23, 3) := dk_180 0 23 (dk_at dksX17_letter_2 6 rfl rfl)
theorem dX17_letter_101 : decode cX17_letter 101 = .ok (.getfield 84, 3) := dk_180 0 84 (dk_at dksX17_letter_2 9 rfl rfl)
theorem dX17_letter_104 : decode cX17_letter 104 = .ok (.aload_n 0, 1) := dk_42 (dk_at dksX17_letter_2 12 rfl rfl)
theorem dX17_letter_105 : decode cX17_letter 105 = .ok (.getfield 27, 3) := dk_180 0 27 (dk_at dksX17_letter_2 13 rfl rfl)
theorem dX17_letter_108 : decode cX17_letter 108 = .ok (.iaload, 1) := dk_46 (dk_at dksX17_letter_2 16 rfl rfl)
theorem dX17_letter_109 : decode cX17_letter 109 = .ok (.ireturn, 1) := dk_172 (dk_at dksX17_letter_2 17 rfl rfl)
theorem dX17_letter_110 : decode cX17_letter 110 = .ok (.aload_n 0, 1) := dk_42 (dk_at dksX17_letter_2 18 rfl rfl)
theorem dX17_letter_111 : decode cX17_letter 111 = .ok (.getfield 3, 3) := dk_180 0 3 (dk_at dksX17_letter_2 19 rfl rfl)
theorem dX17_letter_114 : decode cX17_letter 114 = .ok (.getfield 88, 3) := dk_180 0 88 (dk_at dksX17_letter_3 0 rfl rfl)
theorem dX17_letter_117 : decode cX17_letter 117 = .ok (.aload_n 0, 1) := dk_42 (dk_at dksX17_letter_3 3 rfl rfl)
theorem dX17_letter_118 : decode cX17_letter 118 = .ok (.getfield 27, 3) := dk_180 0 27 (dk_at dksX17_letter_3 4 rfl rfl)
theorem dX17_letter_121 : decode cX17_letter 121 = .ok (.aaload, 1) := dk_50 (dk_at dksX17_letter_3 7 rfl rfl)
theorem dX17_letter_122 : decode cX17_letter 122 = .ok (.getfield 92, 3) := dk_180 0 92 (dk_at dksX17_letter_3 8 rfl rfl)
theorem dX17_letter_125 : decode cX17_letter 125 = .ok (.ireturn, 1) := dk_172 (dk_at dksX17_letter_3 11 rfl rfl)
theorem dX17_letter_126 : decode cX17_letter 126 = .ok (.iload_n 2, 1) := dk_28 (dk_at dksX17_letter_3 12 rfl rfl)
theorem dX17_letter_127 : decode cX17_letter 127 = .ok (.ifCond .eq 21, 3) := dk_153 0 21 (dk_at dksX17_letter_3 13 rfl rfl)
theorem dX17_letter_130 : decode cX17_letter 130 = .ok (.aload_n 0, 1) := dk_42 (dk_at dksX17_letter_3 16 rfl rfl)
theorem dX17_letter_131 : decode cX17_letter 131 = .ok (.getfield 23, 3) := dk_180 0 23 (dk_at dksX17_letter_3 17 rfl rfl)
theorem dX17_letter_134 : decode cX17_letter 134 = .ok (.getfield 84, 3) := dk_180 0 84 (dk_at dksX17_letter_3 20 rfl rfl)
theorem dX17_letter_137 : decode cX17_letter 137 = .ok (.aload_n 0, 1) := dk_42 (dk_at dksX17_letter_3 23 rfl rfl)
theorem dX17_letter_138 : decode cX17_letter 138 = .ok (.getfield 23, 3) := dk_180 0 23 (dk_at dksX17_letter_4 0 rfl rfl)
theorem dX17_letter_141 : decode cX17_letter 141 = .ok (.getfield 79, 3) := dk_180 0 79 (dk_at dksX17_letter_4 3 rfl rfl)
theorem dX17_letter_144 : decode cX17_letter 144 = .ok (.iaload, 1) := dk_46 (dk_at dksX17_letter_4 6 rfl rfl)
theorem dX17_letter_145 : decode cX17_letter 145 = .ok (.goto 4, 3) := dk_167 0 4 (dk_at dksX17_letter_4 7 rfl rfl)
theorem dX17_letter_148 : decode cX17_letter 148 = .ok (.iconst 0, 1) := dk_3 (dk_at dksX17_letter_4 10 rfl rfl)
theorem dX17_letter_149 : decode cX17_letter 149 = .ok (.ireturn, 1) := dk_172 (dk_at dksX17_letter_4 11 rfl rfl)
theorem dX17_letter_150 : decode cX17_letter 150 = .ok (.iload_n 2, 1) := dk_28 (dk_at dksX17_letter_4 12 rfl rfl)
theorem dX17_letter_151 : decode cX17_letter 151 = .ok (.ifCond .eq 24, 3) := dk_153 0 24 (dk_at dksX17_letter_4 13 rfl rfl)
theorem dX17_letter_154 : decode cX17_letter 154 = .ok (.aload_n 0, 1) := dk_42 (dk_at dksX17_letter_4 16 rfl rfl)
theorem dX17_letter_155 : decode cX17_letter 155 = .ok (.getfield 3, 3) := dk_180 0 3 (dk_at dksX17_letter_4 17 rfl rfl)
theorem dX17_letter_158 : decode cX17_letter 158 = .ok (.getfield 88, 3) := dk_180 0 88 (dk_at dksX17_letter_4 20 rfl rfl)
theorem dX17_letter_161 : decode cX17_letter 161 = .ok (.aload_n 0, 1) := dk_42 (dk_at dksX17_letter_4 23 rfl rfl)
theorem dX17_letter_162 : decode cX17_letter 162 = .ok (.getfield 23, 3) := dk_180 0 23 (dk_at dksX17_letter_5 0 rfl rfl)
theorem dX17_letter_165 : decode cX17_letter 165 = .ok (.getfield 79, 3) := dk_180 0 79 (dk_at dksX17_letter_5 3 rfl rfl)
theorem dX17_letter_168 : decode cX17_letter 168 = .ok (.aaload, 1) := dk_50 (dk_at dksX17_letter_5 6 rfl rfl)
theorem dX17_letter_169 : decode cX17_letter 169 = .ok (.getfield 92, 3) := dk_180 0 92 (dk_at dksX17_letter_5 7 rfl rfl)
theorem dX17_letter_172 : decode cX17_letter 172 = .ok (.goto 4, 3) := dk_167 0 4 (dk_at dksX17_letter_5 10 rfl rfl)
theorem dX17_letter_175 : decode cX17_letter 175 = .ok (.iconst (-1), 1) := dk_2 (dk_at dksX17_letter_5 13 rfl rfl)
theorem dX17_letter_176 : decode cX17_letter 176 = .ok (.ireturn, 1) := dk_172 (dk_at dksX17_letter_5 14 rfl rfl)
theorem dX17_letter_177 : decode cX17_letter 177 = .ok (.aload_n 0, 1) := dk_42 (dk_at dksX17_letter_5 15 rfl rfl)
theorem dX17_letter_178 : decode cX17_letter 178 = .ok (.getfield 23, 3) := dk_180 0 23 (dk_at dksX17_letter_5 16 rfl rfl)
theorem dX17_letter_181 : decode cX17_letter 181 = .ok (.getfield 97, 3) := dk_180 0 97 (dk_at dksX17_letter_5 19 rfl rfl)
theorem dX17_letter_184 : decode cX17_letter 184 = .ok (.ireturn, 1) := dk_172 (dk_at dksX17_letter_5 22 rfl rfl)
theorem dX17_letter_185 : decode cX17_letter 185 = .ok (.aload_n 0, 1) := dk_42 (dk_at dksX17_letter_5 23 rfl rfl)
theorem dX17_letter_186 : decode cX17_letter 186 = .ok (.getfield 23, 3) := dk_180 0 23 (dk_at dksX17_letter_6 0 rfl rfl)
theorem dX17_letter_189 : decode cX17_letter 189 = .ok (.invokevirtual 100, 3) := dk_182 0 100 (dk_at dksX17_letter_6 3 rfl rfl)
theorem dX17_letter_192 : decode cX17_letter 192 = .ok (.invokestatic 103, 3) := dk_184 0 103 (dk_at dksX17_letter_6 6 rfl rfl)
theorem dX17_letter_195 : decode cX17_letter 195 = .ok (.ireturn, 1) := dk_172 (dk_at dksX17_letter_6 9 rfl rfl)
theorem dX17_letter_196 : decode cX17_letter 196 = .ok (.aload_n 0, 1) := dk_42 (dk_at dksX17_letter_6 10 rfl rfl)
theorem dX17_letter_197 : decode cX17_letter 197 = .ok (.getfield 23, 3) := dk_180 0 23 (dk_at dksX17_letter_6 11 rfl rfl)
theorem dX17_letter_200 : decode cX17_letter 200 = .ok (.getfield 108, 3) := dk_180 0 108 (dk_at dksX17_letter_6 14 rfl rfl)
theorem dX17_letter_203 : decode cX17_letter 203 = .ok (.ireturn, 1) := dk_172 (dk_at dksX17_letter_6 17 rfl rfl)
theorem dX17_letter_204 : decode cX17_letter 204 = .ok (.aload_n 0, 1) := dk_42 (dk_at dksX17_letter_6 18 rfl rfl)
theorem dX17_letter_205 : decode cX17_letter 205 = .ok (.getfield 23, 3) := dk_180 0 23 (dk_at dksX17_letter_6 19 rfl rfl)
theorem dX17_letter_208 : decode cX17_letter 208 = .ok (.getfield 111, 3) := dk_180 0 111 (dk_at dksX17_letter_7 0 rfl rfl)
theorem dX17_letter_211 : decode cX17_letter 211 = .ok (.aload_n 0, 1) := dk_42 (dk_at dksX17_letter_7 3 rfl rfl)
theorem dX17_letter_212 : decode cX17_letter 212 = .ok (.getfield 27, 3) := dk_180 0 27 (dk_at dksX17_letter_7 4 rfl rfl)
theorem dX17_letter_215 : decode cX17_letter 215 = .ok (.iaload, 1) := dk_46 (dk_at dksX17_letter_7 7 rfl rfl)
theorem dX17_letter_216 : decode cX17_letter 216 = .ok (.ireturn, 1) := dk_172 (dk_at dksX17_letter_7 8 rfl rfl)
def dkwX17_of_2 : List UInt8 := [25, 5, 191]
abbrev dktX17_of_2 : List UInt8 := dkwX17_of_2 ++ []
def dkwX17_of_1 : List UInt8 := [181, 0, 23, 29, 172, 78, 3, 54, 4, 42, 1, 181, 0, 23, 21, 4, 172, 58, 5, 42, 1, 181, 0, 23]
abbrev dktX17_of_1 : List UInt8 := dkwX17_of_1 ++ dktX17_of_2
def dkwX17_of_0 : List UInt8 := [42, 43, 181, 0, 23, 42, 28, 181, 0, 27, 42, 3, 181, 0, 31, 42, 3, 182, 0, 15, 62, 42, 1]
abbrev dktX17_of_0 : List UInt8 := dkwX17_of_0 ++ dktX17_of_1
theorem dksX17_of_0 : cX17_of.data.toList.drop 0 = dktX17_of_0 := by decide +kernel
theorem dksX17_of_1 : cX17_of.data.toList.drop 23 = dktX17_of_1 := dk_seg dksX17_of_0 23 rfl rfl
theorem dksX17_of_2 : cX17_of.data.toList.drop 47 = dktX17_of_2 := dk_seg dksX17_of_1 24 rfl rfl
theorem dX17_of_0 : decode cX17_of 0 = .ok (.aload_n 0, 1) := dk_42 (dk_at dksX17_of_0 0 rfl rfl)
theorem dX17_of_1 : decode cX17_of 1 = .ok (.aload_n 1, 1) := dk_43 (dk_at dksX17_of_0 1 rfl rfl)
theorem dX17_of_2 : decode cX17_of 2 = .ok (.putfield 23, 3) := dk_181 0 23 (dk_at dksX17_of_0 2 rfl rfl)
theorem dX17_of_5 : decode cX17_of 5 = .ok (.aload_n 0, 1) := dk_42 (dk_at dksX17_of_0 5 rfl rfl)
theorem dX17_of_6 : decode cX17_of 6 = .ok (.iload_n 2, 1) := dk_28 (dk_at dksX17_of_0 6 rfl rfl)
theorem dX17_of_7 : decode cX17_of 7 = .ok (.putfield 27, 3) := dk_181 0 27 (dk_at dksX17_of_0 7 rfl rfl)
theorem dX17_of_10 : decode cX17_of 10 = .ok (.aload_n 0, 1) := dk_42 (dk_at dksX17_of_0 10 rfl rfl)
theorem dX17_of_11 : decode cX17_of 11 = .ok (.iconst 0, 1) := dk_3 (dk_at dksX17_of_0 11 rfl rfl)
theorem dX17_of_12 : decode cX17_of 12 = .ok (.putfield 31, 3) := dk_181 0 31 (dk_at dksX17_of_0 12 rfl rfl)
theorem dX17_of_15 : decode cX17_of 15 = .ok (.aload_n 0, 1) := dk_42 (dk_at dksX17_of_0 15 rfl rfl)
theorem dX17_of_16 : decode cX17_of 16 = .ok (.iconst 0, 1) := dk_3 (dk_at dksX17_of_0 16 rfl rfl)
theorem dX17_of_17 : decode cX17_of 17 = .ok (.invokevirtual 15, 3) := dk_182 0 15 (dk_at dksX17_of_0 17 rfl rfl)
theorem dX17_of_20 : decode cX17_of 20 = .ok (.istore_n 3, 1) := dk_62 (dk_at dksX17_of_0 20 rfl rfl)
theorem dX17_of_21 : decode cX17_of 21 = .ok (.aload_n 0, 1) := dk_42 (dk_at dksX17_of_0 21 rfl rfl)
theorem dX17_of_22 : decode cX17_of 22 = .ok (.aconst_null, 1) := dk_1 (dk_at dksX17_of_0 22 rfl rfl)
theorem dX17_of_23 : decode cX17_of 23 = .ok (.putfield 23, 3) := dk_181 0 23 (dk_at dksX17_of_1 0 rfl rfl)
theorem dX17_of_26 : decode cX17_of 26 = .ok (.iload_n 3, 1) := dk_29 (dk_at dksX17_of_1 3 rfl rfl)
theorem dX17_of_27 : decode cX17_of 27 = .ok (.ireturn, 1) := dk_172 (dk_at dksX17_of_1 4 rfl rfl)
theorem dX17_of_28 : decode cX17_of 28 = .ok (.astore_n 3, 1) := dk_78 (dk_at dksX17_of_1 5 rfl rfl)
theorem dX17_of_29 : decode cX17_of 29 = .ok (.iconst 0, 1) := dk_3 (dk_at dksX17_of_1 6 rfl rfl)
theorem dX17_of_30 : decode cX17_of 30 = .ok (.istore 4, 2) := dk_54 4 (dk_at dksX17_of_1 7 rfl rfl)
theorem dX17_of_32 : decode cX17_of 32 = .ok (.aload_n 0, 1) := dk_42 (dk_at dksX17_of_1 9 rfl rfl)
theorem dX17_of_33 : decode cX17_of 33 = .ok (.aconst_null, 1) := dk_1 (dk_at dksX17_of_1 10 rfl rfl)
theorem dX17_of_34 : decode cX17_of 34 = .ok (.putfield 23, 3) := dk_181 0 23 (dk_at dksX17_of_1 11 rfl rfl)
theorem dX17_of_37 : decode cX17_of 37 = .ok (.iload 4, 2) := dk_21 4 (dk_at dksX17_of_1 14 rfl rfl)
theorem dX17_of_39 : decode cX17_of 39 = .ok (.ireturn, 1) := dk_172 (dk_at dksX17_of_1 16 rfl rfl)
theorem dX17_of_40 : decode cX17_of 40 = .ok (.astore 5, 2) := dk_58 5 (dk_at dksX17_of_1 17 rfl rfl)
theorem dX17_of_42 : decode cX17_of 42 = .ok (.aload_n 0, 1) := dk_42 (dk_at dksX17_of_1 19 rfl rfl)
theorem dX17_of_43 : decode cX17_of 43 = .ok (.aconst_null, 1) := dk_1 (dk_at dksX17_of_1 20 rfl rfl)
theorem dX17_of_44 : decode cX17_of 44 = .ok (.putfield 23, 3) := dk_181 0 23 (dk_at dksX17_of_1 21 rfl rfl)
theorem dX17_of_47 : decode cX17_of 47 = .ok (.aload 5, 2) := dk_25 5 (dk_at dksX17_of_2 0 rfl rfl)
theorem dX17_of_49 : decode cX17_of 49 = .ok (.athrow, 1) := dk_191 (dk_at dksX17_of_2 2 rfl rfl)
def dkwX18_init_1 : List UInt8 := [180, 0, 1, 180, 0, 20, 181, 0, 26, 42, 180, 0, 16, 43, 180, 0, 29, 182, 0, 32, 177]
abbrev dktX18_init_1 : List UInt8 := dkwX18_init_1 ++ []
def dkwX18_init_0 : List UInt8 := [42, 43, 181, 0, 1, 42, 183, 0, 7, 42, 187, 0, 13, 89, 183, 0, 15, 181, 0, 16, 42, 42]
abbrev dktX18_init_0 : List UInt8 := dkwX18_init_0 ++ dktX18_init_1
theorem dksX18_init_0 : cX18_init.data.toList.drop 0 = dktX18_init_0 := by decide +kernel
theorem dksX18_init_1 : cX18_init.data.toList.drop 22 = dktX18_init_1 := dk_seg dksX18_init_0 22 rfl rfl
theorem dX18_init_0 : decode cX18_init 0 = .ok (.aload_n 0, 1) := dk_42 (dk_at dksX18_init_0 0 rfl rfl)
theorem dX18_init_1 : decode cX18_init 1 = .ok (.aload_n 1, 1) := dk_43 (dk_at dksX18_init_0 1 rfl rfl)
theorem dX18_init_2 : decode cX18_init 2 = .ok (.putfield 1, 3) := dk_181 0 1 (dk_at dksX18_init_0 2 rfl rfl)
theorem dX18_init_5 : decode cX18_init 5 = .ok (.aload_n 0, 1) := dk_42 (dk_at dksX18_init_0 5 rfl rfl)
theorem dX18_init_6 : decode cX18_init 6 = .ok (.invokespecial 7, 3) := dk_183 0 7 (dk_at dksX18_init_0 6 rfl rfl)
theorem dX18_init_9 : decode cX18_init 9 = .ok (.aload_n 0, 1) := dk_42 (dk_at dksX18_init_0 9 rfl rfl)
theorem dX18_init_10 : decode cX18_init 10 = .ok (.new 13, 3) := dk_187 0 13 (dk_at dksX18_init_0 10 rfl rfl)
theorem dX18_init_13 : decode cX18_init 13 = .ok (.dup, 1) := dk_89 (dk_at dksX18_init_0 13 rfl rfl)
theorem dX18_init_14 : decode cX18_init 14 = .ok (.invokespecial 15, 3) := dk_183 0 15 (dk_at dksX18_init_0 14 rfl rfl)
theorem dX18_init_17 : decode cX18_init 17 = .ok (.putfield 16, 3) := dk_181 0 16 (dk_at dksX18_init_0 17 rfl rfl)
theorem dX18_init_20 : decode cX18_init 20 = .ok (.aload_n 0, 1) := dk_42 (dk_at dksX18_init_0 20 rfl rfl)
theorem dX18_init_21 : decode cX18_init 21 = .ok (.aload_n 0, 1) := dk_42 (dk_at dksX18_init_0 21 rfl rfl)
theorem dX18_init_22 : decode cX18_init 22 = .ok (.getfield 1, 3) := dk_180 0 1 (dk_at dksX18_init_1 0 rfl rfl)
theorem dX18_init_25 : decode cX18_init 25 = .ok (.getfield 20, 3) := dk_180 0 20 (dk_at dksX18_init_1 3 rfl rfl)
theorem dX18_init_28 : decode cX18_init 28 = .ok (.putfield 26, 3) := dk_181 0 26 (dk_at dksX18_init_1 6 rfl rfl)
theorem dX18_init_31 : decode cX18_init 31 = .ok (.aload_n 0, 1) := dk_42 (dk_at dksX18_init_1 9 rfl rfl)
theorem dX18_init_32 : decode cX18_init 32 = .ok (.getfield 16, 3) := dk_180 0 16 (dk_at dksX18_init_1 10 rfl rfl)
theorem dX18_init_35 : decode cX18_init 35 = .ok (.aload_n 1, 1) := dk_43 (dk_at dksX18_init_1 13 rfl rfl)
theorem dX18_init_36 : decode cX18_init 36 = .ok (.getfield 29, 3) := dk_180 0 29 (dk_at dksX18_init_1 14 rfl rfl)
theorem dX18_init_39 : decode cX18_init 39 = .ok (.invokevirtual 32, 3) := dk_182 0 32 (dk_at dksX18_init_1 17 rfl rfl)
theorem dX18_init_42 : decode cX18_init 42 = .ok (.return_, 1) := dk_177 (dk_at dksX18_init_1 20 rfl rfl)
def dkwJ0_min_0 : List UInt8 := [26, 27, 163, 0, 7, 26, 167, 0, 4, 27, 172]
abbrev dktJ0_min_0 : List UInt8 := dkwJ0_min_0 ++ []
theorem dksJ0_min_0 : cJ0_min.data.toList.drop 0 = dktJ0_min_0 := by decide +kernel
theorem dJ0_min_0 : decode cJ0_min 0 = .ok (.iload_n 0, 1) := dk_26 (dk_at dksJ0_min_0 0 rfl rfl)
theorem dJ0_min_1 : decode cJ0_min 1 = .ok (.iload_n 1, 1) := dk_27 (dk_at dksJ0_min_0 1 rfl rfl)
theorem dJ0_min_2 : decode cJ0_min 2 = .ok (.if_icmp .gt 7, 3) := dk_163 0 7 (dk_at dksJ0_min_0 2 rfl rfl)
theorem dJ0_min_5 : decode cJ0_min 5 = .ok (.iload_n 0, 1) := dk_26 (dk_at dksJ0_min_0 5 rfl rfl)
theorem dJ0_min_6 : decode cJ0_min 6 = .ok (.goto 4, 3) := dk_167 0 4 (dk_at dksJ0_min_0 6 rfl rfl)
theorem dJ0_min_9 : decode cJ0_min 9 = .ok (.iload_n 1, 1) := dk_27 (dk_at dksJ0_min_0 9 rfl rfl)
theorem dJ0_min_10 : decode cJ0_min 10 = .ok (.ireturn, 1) := dk_172 (dk_at dksJ0_min_0 10 rfl rfl)
def dkwJ0_max_0 : List UInt8 := [26, 27, 161, 0, 7, 26, 167, 0, 4, 27, 172]
abbrev dktJ0_max_0 : List UInt8 := dkwJ0_max_0 ++ []
theorem dksJ0_max_0 : cJ0_max.data.toList.drop 0 = dktJ0_max_0 := by decide +kernel
theorem dJ0_max_0 : decode cJ0_max 0 = .ok (.iload_n 0, 1) := dk_26 (dk_at dksJ0_max_0 0 rfl rfl)
theorem dJ0_max_1 : decode cJ0_max 1 = .ok (.iload_n 1, 1) := dk_27 (dk_at dksJ0_max_0 1 rfl rfl)
theorem dJ0_max_2 : decode cJ0_max 2 = .ok (.if_icmp .lt 7, 3) := dk_161 0 7 (dk_at dksJ0_max_0 2 rfl rfl)
theorem dJ0_max_5 : decode cJ0_max 5 = .ok (.iload_n 0, 1) := dk_26 (dk_at dksJ0_max_0 5 rfl rfl)
theorem dJ0_max_6 : decode cJ0_max 6 = .ok (.goto 4, 3) := dk_167 0 4 (dk_at dksJ0_max_0 6 rfl rfl)
theorem dJ0_max_9 : decode cJ0_max 9 = .ok (.iload_n 1, 1) := dk_27 (dk_at dksJ0_max_0 9 rfl rfl)
theorem dJ0_max_10 : decode cJ0_max 10 = .ok (.ireturn, 1) := dk_172 (dk_at dksJ0_max_0 10 rfl rfl)
def dkwJ1_init_1 : List UInt8 := [182, 0, 27, 87, 177]
abbrev dktJ1_init_1 : List UInt8 := dkwJ1_init_1 ++ []
def dkwJ1_init_0 : List UInt8 := [42, 183, 0, 1, 42, 42, 181, 0, 7, 42, 178, 0, 13, 181, 0, 17, 42, 178, 0, 20, 181, 0, 24, 42]
abbrev dktJ1_init_0 : List UInt8 := dkwJ1_init_0 ++ dktJ1_init_1
theorem dksJ1_init_0 : cJ1_init.data.toList.drop 0 = dktJ1_init_0 := by decide +kernel
theorem dksJ1_init_1 : cJ1_init.data.toList.drop 24 = dktJ1_init_1 := dk_seg dksJ1_init_0 24 rfl rfl
theorem dJ1_init_0 : decode cJ1_init 0 = .ok (.aload_n 0, 1) := dk_42 (dk_at dksJ1_init_0 0 rfl rfl)
theorem dJ1_init_1 : decode cJ1_init 1 = .ok (.invokespecial 1, 3) := dk_183 0 1 (dk_at dksJ1_init_0 1 rfl rfl)
theorem dJ1_init_4 : decode cJ1_init 4 = .ok (.aload_n 0, 1) := dk_42 (dk_at dksJ1_init_0 4 rfl rfl)
theorem dJ1_init_5 : decode cJ1_init 5 = .ok (.aload_n 0, 1) := dk_42 (dk_at dksJ1_init_0 5 rfl rfl)
theorem dJ1_init_6 : decode cJ1_init 6 = .ok (.putfield 7, 3) := dk_181 0 7 (dk_at dksJ1_init_0 6 rfl rfl)
theorem dJ1_init_9 : decode cJ1_init 9 = .ok (.aload_n 0, 1) := dk_42 (dk_at dksJ1_init_0 9 rfl rfl)
theorem dJ1_init_10 : decode cJ1_init 10 = .ok (.getstatic 13, 3) := dk_178 0 13 (dk_at dksJ1_init_0 10 rfl rfl)
theorem dJ1_init_13 : decode cJ1_init 13 = .ok (.putfield 17, 3) := dk_181 0 17 (dk_at dksJ1_init_0 13 rfl rfl)
theorem dJ1_init_16 : decode cJ1_init 16 = .ok (.aload_n 0, 1) := dk_42 (dk_at dksJ1_init_0 16 rfl rfl)
theorem dJ1_init_17 : decode cJ1_init 17 = .ok (.getstatic 20, 3) := dk_178 0 20 (dk_at dksJ1_init_0 17 rfl rfl)
theorem dJ1_init_20 : decode cJ1_init 20 = .ok (.putfield 24, 3) := dk_181 0 24 (dk_at dksJ1_init_0 20 rfl rfl)
theorem dJ1_init_23 : decode cJ1_init 23 = .ok (.aload_n 0, 1) := dk_42 (dk_at dksJ1_init_0 23 rfl rfl)
theorem dJ1_init_24 : decode cJ1_init 24 = .ok (.invokevirtual 27, 3) := dk_182 0 27 (dk_at dksJ1_init_1 0 rfl rfl)
theorem dJ1_init_27 : decode cJ1_init 27 = .ok (.pop, 1) := dk_87 (dk_at dksJ1_init_1 3 rfl rfl)
theorem dJ1_init_28 : decode cJ1_init 28 = .ok (.return_, 1) := dk_177 (dk_at dksJ1_init_1 4 rfl rfl)
def dkwJ1_init_2_1 : List UInt8 := [182, 0, 27, 87, 42, 43, 181, 0, 31, 177]
abbrev dktJ1_init_2_1 : List UInt8 := dkwJ1_init_2_1 ++ []
def dkwJ1_init_2_0 : List UInt8 := [42, 183, 0, 1, 42, 42, 181, 0, 7, 42, 178, 0, 13, 181, 0, 17, 42, 178, 0, 20, 181, 0, 24, 42]
abbrev dktJ1_init_2_0 : List UInt8 := dkwJ1_init_2_0 ++ dktJ1_init_2_1
theorem dksJ1_init_2_0 : cJ1_init_2.data.toList.drop 0 = dktJ1_init_2_0 := by decide +kernel
theorem dksJ1_init_2_1 : cJ1_init_2.data.toList.drop 24 = dktJ1_init_2_1 := dk_seg dksJ1_init_2_0 24 rfl rfl
theorem dJ1_init_2_0 : decode cJ1_init_2 0 = .ok (.aload_n 0, 1) := dk_42 (dk_at dksJ1_init_2_0 0 rfl rfl)
theorem dJ1_init_2_1 : decode cJ1_init_2 1 = .ok (.invokespecial 1, 3) := dk_183 0 1 (dk_at dksJ1_init_2_0 1 rfl rfl)
theorem dJ1_init_2_4 : decode cJ1_init_2 4 = .ok (.aload_n 0, 1) := dk_42 (dk_at dksJ1_init_2_0 4 rfl rfl)
theorem dJ1_init_2_5 : decode cJ1_init_2 5 = .ok (.aload_n 0, 1) := dk_42 (dk_at dksJ1_init_2_0 5 rfl rfl)
theorem dJ1_init_2_6 : decode cJ1_init_2 6 = .ok (.putfield 7, 3) := dk_181 0 7 (dk_at dksJ1_init_2_0 6 rfl rfl)
theorem dJ1_init_2_9 : decode cJ1_init_2 9 = .ok (.aload_n 0, 1) := dk_42 (dk_at dksJ1_init_2_0 9 rfl rfl)
theorem dJ1_init_2_10 : decode cJ1_init_2 10 = .ok (.getstatic 13, 3) := dk_178 0 13 (dk_at dksJ1_init_2_0 10 rfl rfl)
theorem dJ1_init_2_13 : decode cJ1_init_2 13 = .ok (.putfield 17, 3) := dk_181 0 17 (dk_at dksJ1_init_2_0 13 rfl rfl)
theorem dJ1_init_2_16 : decode cJ1_init_2 16 = .ok (.aload_n 0, 1) := dk_42 (dk_at dksJ1_init_2_0 16 rfl rfl)
theorem dJ1_init_2_17 : decode cJ1_init_2 17 = .ok (.getstatic 20, 3) := dk_178 0 20 (dk_at dksJ1_init_2_0 17 rfl rfl)
theorem dJ1_init_2_20 : decode cJ1_init_2 20 = .ok (.putfield 24, 3) := dk_181 0 24 (dk_at dksJ1_init_2_0 20 rfl rfl)
theorem dJ1_init_2_23 : decode cJ1_init_2 23 = .ok (.aload_n 0, 1) := dk_42 (dk_at dksJ1_init_2_0 23 rfl rfl)
theorem dJ1_init_2_24 : decode cJ1_init_2 24 = .ok (.invokevirtual 27, 3) := dk_182 0 27 (dk_at dksJ1_init_2_1 0 rfl rfl)
theorem dJ1_init_2_27 : decode cJ1_init_2 27 = .ok (.pop, 1) := dk_87 (dk_at dksJ1_init_2_1 3 rfl rfl)
theorem dJ1_init_2_28 : decode cJ1_init_2 28 = .ok (.aload_n 0, 1) := dk_42 (dk_at dksJ1_init_2_1 4 rfl rfl)
theorem dJ1_init_2_29 : decode cJ1_init_2 29 = .ok (.aload_n 1, 1) := dk_43 (dk_at dksJ1_init_2_1 5 rfl rfl)
theorem dJ1_init_2_30 : decode cJ1_init_2 30 = .ok (.putfield 31, 3) := dk_181 0 31 (dk_at dksJ1_init_2_1 6 rfl rfl)
theorem dJ1_init_2_33 : decode cJ1_init_2 33 = .ok (.return_, 1) := dk_177 (dk_at dksJ1_init_2_1 9 rfl rfl)
theorem dJ2_init_0 : decode cJ2_init 0 = .ok (.aload_n 0, 1) := by decide +kernel
theorem dJ2_init_1 : decode cJ2_init 1 = .ok (.invokespecial 1, 3) := by decide +kernel
theorem dJ2_init_4 : decode cJ2_init 4 = .ok (.return_, 1) := by decide +kernel
def dkwJ2_init_2_0 : List UInt8 := [42, 43, 183, 0, 7, 177]
abbrev dktJ2_init_2_0 : List UInt8 := dkwJ2_init_2_0 ++ []
theorem dksJ2_init_2_0 : cJ2_init_2.data.toList.drop 0 = dktJ2_init_2_0 := by decide +kernel
theorem dJ2_init_2_0 : decode cJ2_init_2 0 = .ok (.aload_n 0, 1) := dk_42 (dk_at dksJ2_init_2_0 0 rfl rfl)
theorem dJ2_init_2_1 : decode cJ2_init_2 1 = .ok (.aload_n 1, 1) := dk_43 (dk_at dksJ2_init_2_0 1 rfl rfl)
theorem dJ2_init_2_2 : decode cJ2_init_2 2 = .ok (.invokespecial 7, 3) := dk_183 0 7 (dk_at dksJ2_init_2_0 2 rfl rfl)
theorem dJ2_init_2_5 : decode cJ2_init_2 5 = .ok (.return_, 1) := dk_177 (dk_at dksJ2_init_2_0 5 rfl rfl)
def dkwJ3_indexOf_0 : List UInt8 := [42, 27, 3, 182, 2, 121, 172]
abbrev dktJ3_indexOf_0 : List UInt8 := dkwJ3_indexOf_0 ++ []
theorem dksJ3_indexOf_0 : cJ3_indexOf.data.toList.drop 0 = dktJ3_indexOf_0 := by decide +kernel
theorem dJ3_indexOf_0 : decode cJ3_indexOf 0 = .ok (.aload_n 0, 1) := dk_42 (dk_at dksJ3_indexOf_0 0 rfl rfl)
theorem dJ3_indexOf_1 : decode cJ3_indexOf 1 = .ok (.iload_n 1, 1) := dk_27 (dk_at dksJ3_indexOf_0 1 rfl rfl)
theorem dJ3_indexOf_2 : decode cJ3_indexOf 2 = .ok (.iconst 0, 1) := dk_3 (dk_at dksJ3_indexOf_0 2 rfl rfl)
theorem dJ3_indexOf_3 : decode cJ3_indexOf 3 = .ok (.invokevirtual 633, 3) := dk_182 2 121 (dk_at dksJ3_indexOf_0 3 rfl rfl)
theorem dJ3_indexOf_6 : decode cJ3_indexOf 6 = .ok (.ireturn, 1) := dk_172 (dk_at dksJ3_indexOf_0 6 rfl rfl)
def dkwJ3_indexOf_2_1 : List UInt8 := [180, 0, 9, 27, 28, 42, 182, 1, 249, 184, 2, 128, 172]
abbrev dktJ3_indexOf_2_1 : List UInt8 := dkwJ3_indexOf_2_1 ++ []
def dkwJ3_indexOf_2_0 : List UInt8 := [42, 182, 1, 236, 153, 0, 19, 42, 180, 0, 9, 27, 28, 42, 182, 1, 249, 184, 2, 125, 167, 0, 16, 42]
abbrev dktJ3_indexOf_2_0 : List UInt8 := dkwJ3_indexOf_2_0 ++ dktJ3_indexOf_2_1
theorem dksJ3_indexOf_2_0 : cJ3_indexOf_2.data.toList.drop 0 = dktJ3_indexOf_2_0 := by decide +kernel
theorem dksJ3_indexOf_2_1 : cJ3_indexOf_2.data.toList.drop 24 = dktJ3_indexOf_2_1 := dk_seg dksJ3_indexOf_2_0 24 rfl rfl
theorem dJ3_indexOf_2_0 : decode cJ3_indexOf_2 0 = .ok (.aload_n 0, 1) := dk_42 (dk_at dksJ3_indexOf_2_0 0 rfl rfl)
theorem dJ3_indexOf_2_1 : decode cJ3_indexOf_2 1 = .ok (.invokevirtual 492, 3) := dk_182 1 236 (dk_at dksJ3_indexOf_2_0 1 rfl rfl)
theorem dJ3_indexOf_2_4 : decode cJ3_indexOf_2 4 = .ok (.ifCond .eq 19, 3) := dk_153 0 19 (dk_at dksJ3_indexOf_2_0 4 rfl rfl)
theorem dJ3_indexOf_2_7 : decode cJ3_indexOf_2 7 = .ok (.aload_n 0, 1) := dk_42 (dk_at dksJ3_indexOf_2_0 7 rfl rfl)
theorem dJ3_indexOf_2_8 : decode cJ3_indexOf_2 8 = .ok (.getfield 9, 3) := dk_180 0 9 (dk_at dksJ3_indexOf_2_0 8 rfl rfl)
theorem dJ3_indexOf_2_11 : decode cJ3_indexOf_2 11 = .ok (.iload_n 1, 1) := dk_27 (dk_at dksJ3_indexOf_2_0 11 rfl rfl)
theorem dJ3_indexOf_2_12 : decode cJ3_indexOf_2 12 = .ok (.iload_n 2, 1) := dk_28 (dk_at dksJ3_indexOf_2_0 12 rfl rfl)
theorem dJ3_indexOf_2_13 : decode cJ3_indexOf_2 13 = .ok (.aload_n 0, 1) := dk_42 (dk_at dksJ3_indexOf_2_0 13 rfl rfl)
theorem dJ3_indexOf_2_14 : decode cJ3_indexOf_2 14 = .ok (.invokevirtual 505, 3) := dk_182 1 249 (dk_at dksJ3_indexOf_2_0 14 rfl rfl)
theorem dJ3_indexOf_2_17 : decode cJ3_indexOf_2 17 = .ok (.invokestatic 637, 3) := dk_184 2 125 (dk_at dksJ3_indexOf_2_0 17 rfl rfl)
theorem dJ3_indexOf_2_20 : decode cJ3_indexOf_2 20 = .ok (.goto 16, 3) := dk_167 0 16 (dk_at dksJ3_indexOf_2_0 20 rfl rfl)
theorem dJ3_indexOf_2_23 : decode cJ3_indexOf_2 23 = .ok (.aload_n 0, 1) := dk_42 (dk_at dksJ3_indexOf_2_0 23 rfl rfl)
theorem dJ3_indexOf_2_24 : decode cJ3_indexOf_2 24 = .ok (.getfield 9, 3) := dk_180 0 9 (dk_at dksJ3_indexOf_2_1 0 rfl rfl)
theorem dJ3_indexOf_2_27 : decode cJ3_indexOf_2 27 = .ok (.iload_n 1, 1) := dk_27 (dk_at dksJ3_indexOf_2_1 3 rfl rfl)
theorem dJ3_indexOf_2_28 : decode cJ3_indexOf_2 28 = .ok (.iload_n 2, 1) := dk_28 (dk_at dksJ3_indexOf_2_1 4 rfl rfl)
theorem dJ3_indexOf_2_29 : decode cJ3_indexOf_2 29 = .ok (.aload_n 0, 1) := dk_42 (dk_at dksJ3_indexOf_2_1 5 rfl rfl)
theorem dJ3_indexOf_2_30 : decode cJ3_indexOf_2 30 = .ok (.invokevirtual 505, 3) := dk_182 1 249 (dk_at dksJ3_indexOf_2_1 6 rfl rfl)
theorem dJ3_indexOf_2_33 : decode cJ3_indexOf_2 33 = .ok (.invokestatic 640, 3) := dk_184 2 128 (dk_at dksJ3_indexOf_2_1 9 rfl rfl)
theorem dJ3_indexOf_2_36 : decode cJ3_indexOf_2 36 = .ok (.ireturn, 1) := dk_172 (dk_at dksJ3_indexOf_2_1 12 rfl rfl)
def dkwJ3_isLatin1_0 : List UInt8 := [178, 0, 38, 153, 0, 14, 42, 180, 0, 15, 154, 0, 7, 4, 167, 0, 4, 3, 172]
abbrev dktJ3_isLatin1_0 : List UInt8 := dkwJ3_isLatin1_0 ++ []
theorem dksJ3_isLatin1_0 : cJ3_isLatin1.data.toList.drop 0 = dktJ3_isLatin1_0 := by decide +kernel
theorem dJ3_isLatin1_0 : decode cJ3_isLatin1 0 = .ok (.getstatic 38, 3) := dk_178 0 38 (dk_at dksJ3_isLatin1_0 0 rfl rfl)
theorem dJ3_isLatin1_3 : decode cJ3_isLatin1 3 = .ok (.ifCond .eq 14, 3) := dk_153 0 14 (dk_at dksJ3_isLatin1_0 3 rfl rfl)
theorem dJ3_isLatin1_6 : decode cJ3_isLatin1 6 = .ok (.aload_n 0, 1) := dk_42 (dk_at dksJ3_isLatin1_0 6 rfl rfl)
theorem dJ3_isLatin1_7 : decode cJ3_isLatin1 7 = .ok (.getfield 15, 3) := dk_180 0 15 (dk_at dksJ3_isLatin1_0 7 rfl rfl)
theorem dJ3_isLatin1_10 : decode cJ3_isLatin1 10 = .ok (.ifCond .ne 7, 3) := dk_154 0 7 (dk_at dksJ3_isLatin1_0 10 rfl rfl)
theorem dJ3_isLatin1_13 : decode cJ3_isLatin1 13 = .ok (.iconst 1, 1) := dk_4 (dk_at dksJ3_isLatin1_0 13 rfl rfl)
theorem dJ3_isLatin1_14 : decode cJ3_isLatin1 14 = .ok (.goto 4, 3) := dk_167 0 4 (dk_at dksJ3_isLatin1_0 14 rfl rfl)
theorem dJ3_isLatin1_17 : decode cJ3_isLatin1 17 = .ok (.iconst 0, 1) := dk_3 (dk_at dksJ3_isLatin1_0 17 rfl rfl)
theorem dJ3_isLatin1_18 : decode cJ3_isLatin1 18 = .ok (.ireturn, 1) := dk_172 (dk_at dksJ3_isLatin1_0 18 rfl rfl)
def dkwJ3_length_0 : List UInt8 := [42, 180, 0, 9, 190, 42, 182, 1, 79, 122, 172]
abbrev dktJ3_length_0 : List UInt8 := dkwJ3_length_0 ++ []
theorem dksJ3_length_0 : cJ3_length.data.toList.drop 0 = dktJ3_length_0 := by decide +kernel
theorem dJ3_length_0 : decode cJ3_length 0 = .ok (.aload_n 0, 1) := dk_42 (dk_at dksJ3_length_0 0 rfl rfl)
theorem dJ3_length_1 : decode cJ3_length 1 = .ok (.getfield 9, 3) := dk_180 0 9 (dk_at dksJ3_length_0 1 rfl rfl)
theorem dJ3_length_4 : decode cJ3_length 4 = .ok (.arraylength, 1) := dk_190 (dk_at dksJ3_length_0 4 rfl rfl)
theorem dJ3_length_5 : decode cJ3_length 5 = .ok (.aload_n 0, 1) := dk_42 (dk_at dksJ3_length_0 5 rfl rfl)
theorem dJ3_length_6 : decode cJ3_length 6 = .ok (.invokevirtual 335, 3) := dk_182 1 79 (dk_at dksJ3_length_0 6 rfl rfl)
theorem dJ3_length_9 : decode cJ3_length 9 = .ok (.ishr, 1) := dk_122 (dk_at dksJ3_length_0 9 rfl rfl)
theorem dJ3_length_10 : decode cJ3_length 10 = .ok (.ireturn, 1) := dk_172 (dk_at dksJ3_length_0 10 rfl rfl)
def dkwJ3_coder_0 : List UInt8 := [178, 0, 38, 153, 0, 10, 42, 180, 0, 15, 167, 0, 4, 4, 172]
abbrev dktJ3_coder_0 : List UInt8 := dkwJ3_coder_0 ++ []
theorem dksJ3_coder_0 : cJ3_coder.data.toList.drop 0 = dktJ3_coder_0 := by decide +kernel
theorem dJ3_coder_0 : decode cJ3_coder 0 = .ok (.getstatic 38, 3) := dk_178 0 38 (dk_at dksJ3_coder_0 0 rfl rfl)
theorem dJ3_coder_3 : decode cJ3_coder 3 = .ok (.ifCond .eq 10, 3) := dk_153 0 10 (dk_at dksJ3_coder_0 3 rfl rfl)
theorem dJ3_coder_6 : decode cJ3_coder 6 = .ok (.aload_n 0, 1) := dk_42 (dk_at dksJ3_coder_0 6 rfl rfl)
theorem dJ3_coder_7 : decode cJ3_coder 7 = .ok (.getfield 15, 3) := dk_180 0 15 (dk_at dksJ3_coder_0 7 rfl rfl)
theorem dJ3_coder_10 : decode cJ3_coder 10 = .ok (.goto 4, 3) := dk_167 0 4 (dk_at dksJ3_coder_0 10 rfl rfl)
theorem dJ3_coder_13 : decode cJ3_coder 13 = .ok (.iconst 1, 1) := dk_4 (dk_at dksJ3_coder_0 13 rfl rfl)
theorem dJ3_coder_14 : decode cJ3_coder 14 = .ok (.ireturn, 1) := dk_172 (dk_at dksJ3_coder_0 14 rfl rfl)
def dkwJ3_checkBoundsBeginEnd_0 : List UInt8 := [26, 27, 28, 178, 4, 29, 184, 4, 38, 87, 177]
abbrev dktJ3_checkBoundsBeginEnd_0 : List UInt8 := dkwJ3_checkBoundsBeginEnd_0 ++ []
theorem dksJ3_checkBoundsBeginEnd_0 : cJ3_checkBoundsBeginEnd.data.toList.drop 0 = dktJ3_checkBoundsBeginEnd_0 := by decide +kernel
theorem dJ3_checkBoundsBeginEnd_0 : decode cJ3_checkBoundsBeginEnd 0 = .ok (.iload_n 0, 1) := dk_26 (dk_at dksJ3_checkBoundsBeginEnd_0 0 rfl rfl)
theorem dJ3_checkBoundsBeginEnd_1 : decode cJ3_checkBoundsBeginEnd 1 = .ok (.iload_n 1, 1) := dk_27 (dk_at dksJ3_checkBoundsBeginEnd_0 1 rfl rfl)
theorem dJ3_checkBoundsBeginEnd_2 : decode cJ3_checkBoundsBeginEnd 2 = .ok (.iload_n 2, 1) := dk_28 (dk_at dksJ3_checkBoundsBeginEnd_0 2 rfl rfl)
theorem dJ3_checkBoundsBeginEnd_3 : decode cJ3_checkBoundsBeginEnd 3 = .ok (.getstatic 1053, 3) := dk_178 4 29 (dk_at dksJ3_checkBoundsBeginEnd_0 3 rfl rfl)
theorem dJ3_checkBoundsBeginEnd_6 : decode cJ3_checkBoundsBeginEnd 6 = .ok (.invokestatic 1062, 3) := dk_184 4 38 (dk_at dksJ3_checkBoundsBeginEnd_0 6 rfl rfl)
theorem dJ3_checkBoundsBeginEnd_9 : decode cJ3_checkBoundsBeginEnd 9 = .ok (.pop, 1) := dk_87 (dk_at dksJ3_checkBoundsBeginEnd_0 9 rfl rfl)
theorem dJ3_checkBoundsBeginEnd_10 : decode cJ3_checkBoundsBeginEnd 10 = .ok (.return_, 1) := dk_177 (dk_at dksJ3_checkBoundsBeginEnd_0 10 rfl rfl)
def dkwJ3_charAt_1 : List UInt8 := [172]
abbrev dktJ3_charAt_1 : List UInt8 := dkwJ3_charAt_1 ++ []
def dkwJ3_charAt_0 : List UInt8 := [42, 182, 1, 236, 153, 0, 12, 42, 180, 0, 9, 27, 184, 1, 239, 172, 42, 180, 0, 9, 27, 184, 1, 242]
abbrev dktJ3_charAt_0 : List UInt8 := dkwJ3_charAt_0 ++ dktJ3_charAt_1
theorem dksJ3_charAt_0 : cJ3_charAt.data.toList.drop 0 = dktJ3_charAt_0 := by decide +kernel
theorem dksJ3_charAt_1 : cJ3_charAt.data.toList.drop 24 = dktJ3_charAt_1 := dk_seg dksJ3_charAt_0 24 rfl rfl
theorem dJ3_charAt_0 : decode cJ3_charAt 0 = .ok (.aload_n 0, 1) := dk_42 (dk_at dksJ3_charAt_0 0 rfl rfl)
theorem dJ3_charAt_1 : decode cJ3_charAt 1 = .ok (.invokevirtual 492, 3) := dk_182 1 236 (dk_at dksJ3_charAt_0 1 rfl rfl)
theorem dJ3_charAt_4 : decode cJ3_charAt 4 = .ok (.ifCond .eq 12, 3) := dk_153 0 12 (dk_at dksJ3_charAt_0 4 rfl rfl)
theorem dJ3_charAt_7 : decode cJ3_charAt 7 = .ok (.aload_n 0, 1) := dk_42 (dk_at dksJ3_charAt_0 7 rfl rfl)
theorem dJ3_charAt_8 : decode cJ3_charAt 8 = .ok (.getfield 9, 3) := dk_180 0 9 (dk_at dksJ3_charAt_0 8 rfl rfl)
theorem dJ3_charAt_11 : decode cJ3_charAt 11 = .ok (.iload_n 1, 1) := dk_27 (dk_at dksJ3_charAt_0 11 rfl rfl)
theorem dJ3_charAt_12 : decode cJ3_charAt 12 = .ok (.invokestatic 495, 3) := dk_184 1 239 (dk_at dksJ3_charAt_0 12 rfl rfl)
theorem dJ3_charAt_15 : decode cJ3_charAt 15 = .ok (.ireturn, 1) := dk_172 (dk_at dksJ3_charAt_0 15 rfl rfl)
theorem dJ3_charAt_16 : decode cJ3_charAt 16 = .ok (.aload_n 0, 1) := dk_42 (dk_at dksJ3_charAt_0 16 rfl rfl)
theorem dJ3_charAt_17 : decode cJ3_charAt 17 = .ok (.getfield 9, 3) := dk_180 0 9 (dk_at dksJ3_charAt_0 17 rfl rfl)
theorem dJ3_charAt_20 : decode cJ3_charAt 20 = .ok (.iload_n 1, 1) := dk_27 (dk_at dksJ3_charAt_0 20 rfl rfl)
theorem dJ3_charAt_21 : decode cJ3_charAt 21 = .ok (.invokestatic 498, 3) := dk_184 1 242 (dk_at dksJ3_charAt_0 21 rfl rfl)
theorem dJ3_charAt_24 : decode cJ3_charAt 24 = .ok (.ireturn, 1) := dk_172 (dk_at dksJ3_charAt_1 0 rfl rfl)
def dkwJ3_checkIndex_0 : List UInt8 := [26, 27, 178, 4, 29, 184, 4, 35, 87, 177]
abbrev dktJ3_checkIndex_0 : List UInt8 := dkwJ3_checkIndex_0 ++ []
theorem dksJ3_checkIndex_0 : cJ3_checkIndex.data.toList.drop 0 = dktJ3_checkIndex_0 := by decide +kernel
theorem dJ3_checkIndex_0 : decode cJ3_checkIndex 0 = .ok (.iload_n 0, 1) := dk_26 (dk_at dksJ3_checkIndex_0 0 rfl rfl)
theorem dJ3_checkIndex_1 : decode cJ3_checkIndex 1 = .ok (.iload_n 1, 1) := dk_27 (dk_at dksJ3_checkIndex_0 1 rfl rfl)
theorem dJ3_checkIndex_2 : decode cJ3_checkIndex 2 = .ok (.getstatic 1053, 3) := dk_178 4 29 (dk_at dksJ3_checkIndex_0 2 rfl rfl)
theorem dJ3_checkIndex_5 : decode cJ3_checkIndex 5 = .ok (.invokestatic 1059, 3) := dk_184 4 35 (dk_at dksJ3_checkIndex_0 5 rfl rfl)
theorem dJ3_checkIndex_8 : decode cJ3_checkIndex 8 = .ok (.pop, 1) := dk_87 (dk_at dksJ3_checkIndex_0 8 rfl rfl)
theorem dJ3_checkIndex_9 : decode cJ3_checkIndex 9 = .ok (.return_, 1) := dk_177 (dk_at dksJ3_checkIndex_0 9 rfl rfl)
def dkwJ4_indexOf_1 : List UInt8 := [161, 0, 5, 2, 172, 42, 27, 28, 29, 184, 0, 95, 172]
abbrev dktJ4_indexOf_1 : List UInt8 := dkwJ4_indexOf_1 ++ []
def dkwJ4_indexOf_0 : List UInt8 := [27, 184, 0, 88, 154, 0, 5, 2, 172, 28, 3, 184, 0, 92, 61, 29, 42, 190, 184, 0, 38, 62, 28, 29]
abbrev dktJ4_indexOf_0 : List UInt8 := dkwJ4_indexOf_0 ++ dktJ4_indexOf_1
theorem dksJ4_indexOf_0 : cJ4_indexOf.data.toList.drop 0 = dktJ4_indexOf_0 := by decide +kernel
theorem dksJ4_indexOf_1 : cJ4_indexOf.data.toList.drop 24 = dktJ4_indexOf_1 := dk_seg dksJ4_indexOf_0 24 rfl rfl
theorem dJ4_indexOf_0 : decode cJ4_indexOf 0 = .ok (.iload_n 1, 1) := dk_27 (dk_at dksJ4_indexOf_0 0 rfl rfl)
theorem dJ4_indexOf_1 : decode cJ4_indexOf 1 = .ok (.invokestatic 88, 3) := dk_184 0 88 (dk_at dksJ4_indexOf_0 1 rfl rfl)
theorem dJ4_indexOf_4 : decode cJ4_indexOf 4 = .ok (.ifCond .ne 5, 3) := dk_154 0 5 (dk_at dksJ4_indexOf_0 4 rfl rfl)
theorem dJ4_indexOf_7 : decode cJ4_indexOf 7 = .ok (.iconst (-1), 1) := dk_2 (dk_at dksJ4_indexOf_0 7 rfl rfl)
theorem dJ4_indexOf_8 : decode cJ4_indexOf 8 = .ok (.ireturn, 1) := dk_172 (dk_at dksJ4_indexOf_0 8 rfl rfl)
theorem dJ4_indexOf_9 : decode cJ4_indexOf 9 = .ok (.iload_n 2, 1) := dk_28 (dk_at dksJ4_indexOf_0 9 rfl rfl)
theorem dJ4_indexOf_10 : decode cJ4_indexOf 10 = .ok (.iconst 0, 1) := dk_3 (dk_at dksJ4_indexOf_0 10 rfl rfl)
theorem dJ4_indexOf_11 : decode cJ4_indexOf 11 = .ok (.invokestatic 92, 3) := dk_184 0 92 (dk_at dksJ4_indexOf_0 11 rfl rfl)
theorem dJ4_indexOf_14 : decode cJ4_indexOf 14 = .ok (.istore_n 2, 1) := dk_61 (dk_at dksJ4_indexOf_0 14 rfl rfl)
theorem dJ4_indexOf_15 : decode cJ4_indexOf 15 = .ok (.iload_n 3, 1) := dk_29 (dk_at dksJ4_indexOf_0 15 rfl rfl)
theorem dJ4_indexOf_16 : decode cJ4_indexOf 16 = .ok (.aload_n 0, 1) := dk_42 (dk_at dksJ4_indexOf_0 16 rfl rfl)
theorem dJ4_indexOf_17 : decode cJ4_indexOf 17 = .ok (.arraylength, 1) := dk_190 (dk_at dksJ4_indexOf_0 17 rfl rfl)
theorem dJ4_indexOf_18 : decode cJ4_indexOf 18 = .ok (.invokestatic 38, 3) := dk_184 0 38 (dk_at dksJ4_indexOf_0 18 rfl rfl)
theorem dJ4_indexOf_21 : decode cJ4_indexOf 21 = .ok (.istore_n 3, 1) := dk_62 (dk_at dksJ4_indexOf_0 21 rfl rfl)
theorem dJ4_indexOf_22 : decode cJ4_indexOf 22 = .ok (.iload_n 2, 1) := dk_28 (dk_at dksJ4_indexOf_0 22 rfl rfl)
theorem dJ4_indexOf_23 : decode cJ4_indexOf 23 = .ok (.iload_n 3, 1) := dk_29 (dk_at dksJ4_indexOf_0 23 rfl rfl)
theorem dJ4_indexOf_24 : decode cJ4_indexOf 24 = .ok (.if_icmp .lt 5, 3) := dk_161 0 5 (dk_at dksJ4_indexOf_1 0 rfl rfl)
theorem dJ4_indexOf_27 : decode cJ4_indexOf 27 = .ok (.iconst (-1), 1) := dk_2 (dk_at dksJ4_indexOf_1 3 rfl rfl)
theorem dJ4_indexOf_28 : decode cJ4_indexOf 28 = .ok (.ireturn, 1) := dk_172 (dk_at dksJ4_indexOf_1 4 rfl rfl)
theorem dJ4_indexOf_29 : decode cJ4_indexOf 29 = .ok (.aload_n 0, 1) := dk_42 (dk_at dksJ4_indexOf_1 5 rfl rfl)
theorem dJ4_indexOf_30 : decode cJ4_indexOf 30 = .ok (.iload_n 1, 1) := dk_27 (dk_at dksJ4_indexOf_1 6 rfl rfl)
theorem dJ4_indexOf_31 : decode cJ4_indexOf 31 = .ok (.iload_n 2, 1) := dk_28 (dk_at dksJ4_indexOf_1 7 rfl rfl)
theorem dJ4_indexOf_32 : decode cJ4_indexOf 32 = .ok (.iload_n 3, 1) := dk_29 (dk_at dksJ4_indexOf_1 8 rfl rfl)
theorem dJ4_indexOf_33 : decode cJ4_indexOf 33 = .ok (.invokestatic 95, 3) := dk_184 0 95 (dk_at dksJ4_indexOf_1 9 rfl rfl)
theorem dJ4_indexOf_36 : decode cJ4_indexOf 36 = .ok (.ireturn, 1) := dk_172 (dk_at dksJ4_indexOf_1 12 rfl rfl)
def dkwJ4_canEncode_0 : List UInt8 := [26, 155, 0, 14, 26, 17, 0, 255, 163, 0, 7, 4, 167, 0, 4, 3, 172]
abbrev dktJ4_canEncode_0 : List UInt8 := dkwJ4_canEncode_0 ++ []
theorem dksJ4_canEncode_0 : cJ4_canEncode.data.toList.drop 0 = dktJ4_canEncode_0 := by decide +kernel
theorem dJ4_canEncode_0 : decode cJ4_canEncode 0 = .ok (.iload_n 0, 1) := dk_26 (dk_at dksJ4_canEncode_0 0 rfl rfl)
theorem dJ4_canEncode_1 : decode cJ4_canEncode 1 = .ok (.ifCond .lt 14, 3) := dk_155 0 14 (dk_at dksJ4_canEncode_0 1 rfl rfl)
theorem dJ4_canEncode_4 : decode cJ4_canEncode 4 = .ok (.iload_n 0, 1) := dk_26 (dk_at dksJ4_canEncode_0 4 rfl rfl)
theorem dJ4_canEncode_5 : decode cJ4_canEncode 5 = .ok (.sipush 255, 3) := dk_17 0 255 (dk_at dksJ4_canEncode_0 5 rfl rfl)
theorem dJ4_canEncode_8 : decode cJ4_canEncode 8 = .ok (.if_icmp .gt 7, 3) := dk_163 0 7 (dk_at dksJ4_canEncode_0 8 rfl rfl)
theorem dJ4_canEncode_11 : decode cJ4_canEncode 11 = .ok (.iconst 1, 1) := dk_4 (dk_at dksJ4_canEncode_0 11 rfl rfl)
theorem dJ4_canEncode_12 : decode cJ4_canEncode 12 = .ok (.goto 4, 3) := dk_167 0 4 (dk_at dksJ4_canEncode_0 12 rfl rfl)
theorem dJ4_canEncode_15 : decode cJ4_canEncode 15 = .ok (.iconst 0, 1) := dk_3 (dk_at dksJ4_canEncode_0 15 rfl rfl)
theorem dJ4_canEncode_16 : decode cJ4_canEncode 16 = .ok (.ireturn, 1) := dk_172 (dk_at dksJ4_canEncode_0 16 rfl rfl)
def dkwJ4_indexOfChar_1 : List UInt8 := [172, 132, 5, 1, 167, 255, 235, 2, 172]
abbrev dktJ4_indexOfChar_1 : List UInt8 := dkwJ4_indexOfChar_1 ++ []
def dkwJ4_indexOfChar_0 : List UInt8 := [27, 145, 54, 4, 28, 54, 5, 21, 5, 29, 162, 0, 21, 42, 21, 5, 51, 21, 4, 160, 0, 6, 21, 5]
abbrev dktJ4_indexOfChar_0 : List UInt8 := dkwJ4_indexOfChar_0 ++ dktJ4_indexOfChar_1
theorem dksJ4_indexOfChar_0 : cJ4_indexOfChar.data.toList.drop 0 = dktJ4_indexOfChar_0 := by decide +kernel
theorem dksJ4_indexOfChar_1 : cJ4_indexOfChar.data.toList.drop 24 = dktJ4_indexOfChar_1 := dk_seg dksJ4_indexOfChar_0 24 rfl rfl
theorem dJ4_indexOfChar_0 : decode cJ4_indexOfChar 0 = .ok (.iload_n 1, 1) := dk_27 (dk_at dksJ4_indexOfChar_0 0 rfl rfl)
theorem dJ4_indexOfChar_1 : decode cJ4_indexOfChar 1 = .ok (.i2b, 1) := dk_145 (dk_at dksJ4_indexOfChar_0 1 rfl rfl)
theorem dJ4_indexOfChar_2 : decode cJ4_indexOfChar 2 = .ok (.istore 4, 2) := dk_54 4 (dk_at dksJ4_indexOfChar_0 2 rfl rfl)
theorem dJ4_indexOfChar_4 : decode cJ4_indexOfChar 4 = .ok (.iload_n 2, 1) := dk_28 (dk_at dksJ4_indexOfChar_0 4 rfl rfl)
theorem dJ4_indexOfChar_5 : decode cJ4_indexOfChar 5 = .ok (.istore 5, 2) := dk_54 5 (dk_at dksJ4_indexOfChar_0 5 rfl rfl)
theorem dJ4_indexOfChar_7 : decode cJ4_indexOfChar 7 = .ok (.iload 5, 2) := dk_21 5 (dk_at dksJ4_indexOfChar_0 7 rfl rfl)
theorem dJ4_indexOfChar_9 : decode cJ4_indexOfChar 9 = .ok (.iload_n 3, 1) := dk_29 (dk_at dksJ4_indexOfChar_0 9 rfl rfl)
theorem dJ4_indexOfChar_10 : decode cJ4_indexOfChar 10 = .ok (.if_icmp .ge 21, 3) := dk_162 0 21 (dk_at dksJ4_indexOfChar_0 10 rfl rfl)
theorem dJ4_indexOfChar_13 : decode cJ4_indexOfChar 13 = .ok (.aload_n 0, 1) := dk_42 (dk_at dksJ4_indexOfChar_0 13 rfl rfl)
theorem dJ4_indexOfChar_14 : decode cJ4_indexOfChar 14 = .ok (.iload 5, 2) := dk_21 5 (dk_at dksJ4_indexOfChar_0 14 rfl rfl)
theorem dJ4_indexOfChar_16 : decode cJ4_indexOfChar 16 = .ok (.baload, 1) := dk_51 (dk_at dksJ4_indexOfChar_0 16 rfl rfl)
theorem dJ4_indexOfChar_17 : decode cJ4_indexOfChar 17 = .ok (.iload 4, 2) := dk_21 4 (dk_at dksJ4_indexOfChar_0 17 rfl rfl)
theorem dJ4_indexOfChar_19 : decode cJ4_indexOfChar 19 = .ok (.if_icmp .ne 6, 3) := dk_160 0 6 (dk_at dksJ4_indexOfChar_0 19 rfl rfl)
theorem dJ4_indexOfChar_22 : decode cJ4_indexOfChar 22 = .ok (.iload 5, 2) := dk_21 5 (dk_at dksJ4_indexOfChar_0 22 rfl rfl)
theorem dJ4_indexOfChar_24 : decode cJ4_indexOfChar 24 = .ok (.ireturn, 1) := dk_172 (dk_at dksJ4_indexOfChar_1 0 rfl rfl)
theorem dJ4_indexOfChar_25 : decode cJ4_indexOfChar 25 = .ok (.iinc 5 1, 3) := dk_132 5 1 (dk_at dksJ4_indexOfChar_1 1 rfl rfl)
theorem dJ4_indexOfChar_28 : decode cJ4_indexOfChar 28 = .ok (.goto (-21), 3) := dk_167 255 235 (dk_at dksJ4_indexOfChar_1 4 rfl rfl)
theorem dJ4_indexOfChar_31 : decode cJ4_indexOfChar 31 = .ok (.iconst (-1), 1) := dk_2 (dk_at dksJ4_indexOfChar_1 7 rfl rfl)
theorem dJ4_indexOfChar_32 : decode cJ4_indexOfChar 32 = .ok (.ireturn, 1) := dk_172 (dk_at dksJ4_indexOfChar_1 8 rfl rfl)
def dkwJ4_charAt_0 : List UInt8 := [27, 42, 190, 184, 0, 9, 42, 27, 51, 17, 0, 255, 126, 146, 172]
abbrev dktJ4_charAt_0 : List UInt8 := dkwJ4_charAt_0 ++ []
theorem dksJ4_charAt_0 : cJ4_charAt.data.toList.drop 0 = dktJ4_charAt_0 := by decide +kernel
theorem dJ4_charAt_0 : decode cJ4_charAt 0 = .ok (.iload_n 1, 1) := dk_27 (dk_at dksJ4_charAt_0 0 rfl rfl)
theorem dJ4_charAt_1 : decode cJ4_charAt 1 = .ok (.aload_n 0, 1) := dk_42 (dk_at dksJ4_charAt_0 1 rfl rfl)
theorem dJ4_charAt_2 : decode cJ4_charAt 2 = .ok (.arraylength, 1) := dk_190 (dk_at dksJ4_charAt_0 2 rfl rfl)
theorem dJ4_charAt_3 : decode cJ4_charAt 3 = .ok (.invokestatic 9, 3) := dk_184 0 9 (dk_at dksJ4_charAt_0 3 rfl rfl)
theorem dJ4_charAt_6 : decode cJ4_charAt 6 = .ok (.aload_n 0, 1) := dk_42 (dk_at dksJ4_charAt_0 6 rfl rfl)
theorem dJ4_charAt_7 : decode cJ4_charAt 7 = .ok (.iload_n 1, 1) := dk_27 (dk_at dksJ4_charAt_0 7 rfl rfl)
theorem dJ4_charAt_8 : decode cJ4_charAt 8 = .ok (.baload, 1) := dk_51 (dk_at dksJ4_charAt_0 8 rfl rfl)
theorem dJ4_charAt_9 : decode cJ4_charAt 9 = .ok (.sipush 255, 3) := dk_17 0 255 (dk_at dksJ4_charAt_0 9 rfl rfl)
theorem dJ4_charAt_12 : decode cJ4_charAt 12 = .ok (.iand, 1) := dk_126 (dk_at dksJ4_charAt_0 12 rfl rfl)
theorem dJ4_charAt_13 : decode cJ4_charAt 13 = .ok (.i2c, 1) := dk_146 (dk_at dksJ4_charAt_0 13 rfl rfl)
theorem dJ4_charAt_14 : decode cJ4_charAt 14 = .ok (.ireturn, 1) := dk_172 (dk_at dksJ4_charAt_0 14 rfl rfl)
def dkwJ5_checkFromToIndex_0 : List UInt8 := [26, 155, 0, 13, 26, 27, 163, 0, 8, 27, 28, 164, 0, 11, 45, 26, 27, 28, 184, 0, 99, 191, 26, 172]
abbrev dktJ5_checkFromToIndex_0 : List UInt8 := dkwJ5_checkFromToIndex_0 ++ []
theorem dksJ5_checkFromToIndex_0 : cJ5_checkFromToIndex.data.toList.drop 0 = dktJ5_checkFromToIndex_0 := by decide +kernel
theorem dJ5_checkFromToIndex_0 : decode cJ5_checkFromToIndex 0 = .ok (.iload_n 0, 1) := dk_26 (dk_at dksJ5_checkFromToIndex_0 0 rfl rfl)
theorem dJ5_checkFromToIndex_1 : decode cJ5_checkFromToIndex 1 = .ok (.ifCond .lt 13, 3) := dk_155 0 13 (dk_at dksJ5_checkFromToIndex_0 1 rfl rfl)
theorem dJ5_checkFromToIndex_4 : decode cJ5_checkFromToIndex 4 = .ok (.iload_n 0, 1) := dk_26 (dk_at dksJ5_checkFromToIndex_0 4 rfl rfl)
theorem dJ5_checkFromToIndex_5 : decode cJ5_checkFromToIndex 5 = .ok (.iload_n 1, 1) := dk_27 (dk_at dksJ5_checkFromToIndex_0 5 rfl rfl)
theorem dJ5_checkFromToIndex_6 : decode cJ5_checkFromToIndex 6 = .ok (.if_icmp .gt 8, 3) := dk_163 0 8 (dk_at dksJ5_checkFromToIndex_0 6 rfl rfl)
theorem dJ5_checkFromToIndex_9 : decode cJ5_checkFromToIndex 9 = .ok (.iload_n 1, 1) := dk_27 (dk_at dksJ5_checkFromToIndex_0 9 rfl rfl)
theorem dJ5_checkFromToIndex_10 : decode cJ5_checkFromToIndex 10 = .ok (.iload_n 2, 1) := dk_28 (dk_at dksJ5_checkFromToIndex_0 10 rfl rfl)
theorem dJ5_checkFromToIndex_11 : decode cJ5_checkFromToIndex 11 = .ok (.if_icmp .le 11, 3) := dk_164 0 11 (dk_at dksJ5_checkFromToIndex_0 11 rfl rfl)
theorem dJ5_checkFromToIndex_14 : decode cJ5_checkFromToIndex 14 = .ok (.aload_n 3, 1) := dk_45 (dk_at dksJ5_checkFromToIndex_0 14 rfl rfl)
theorem dJ5_checkFromToIndex_15 : decode cJ5_checkFromToIndex 15 = .ok (.iload_n 0, 1) := dk_26 (dk_at dksJ5_checkFromToIndex_0 15 rfl rfl)
theorem dJ5_checkFromToIndex_16 : decode cJ5_checkFromToIndex 16 = .ok (.iload_n 1, 1) := dk_27 (dk_at dksJ5_checkFromToIndex_0 16 rfl rfl)
theorem dJ5_checkFromToIndex_17 : decode cJ5_checkFromToIndex 17 = .ok (.iload_n 2, 1) := dk_28 (dk_at dksJ5_checkFromToIndex_0 17 rfl rfl)
theorem dJ5_checkFromToIndex_18 : decode cJ5_checkFromToIndex 18 = .ok (.invokestatic 99, 3) := dk_184 0 99 (dk_at dksJ5_checkFromToIndex_0 18 rfl rfl)
theorem dJ5_checkFromToIndex_21 : decode cJ5_checkFromToIndex 21 = .ok (.athrow, 1) := dk_191 (dk_at dksJ5_checkFromToIndex_0 21 rfl rfl)
theorem dJ5_checkFromToIndex_22 : decode cJ5_checkFromToIndex 22 = .ok (.iload_n 0, 1) := dk_26 (dk_at dksJ5_checkFromToIndex_0 22 rfl rfl)
theorem dJ5_checkFromToIndex_23 : decode cJ5_checkFromToIndex 23 = .ok (.ireturn, 1) := dk_172 (dk_at dksJ5_checkFromToIndex_0 23 rfl rfl)
def dkwJ5_checkIndex_0 : List UInt8 := [26, 155, 0, 8, 26, 27, 161, 0, 10, 44, 26, 27, 184, 0, 95, 191, 26, 172]
abbrev dktJ5_checkIndex_0 : List UInt8 := dkwJ5_checkIndex_0 ++ []
theorem dksJ5_checkIndex_0 : cJ5_checkIndex.data.toList.drop 0 = dktJ5_checkIndex_0 := by decide +kernel
theorem dJ5_checkIndex_0 : decode cJ5_checkIndex 0 = .ok (.iload_n 0, 1) := dk_26 (dk_at dksJ5_checkIndex_0 0 rfl rfl)
theorem dJ5_checkIndex_1 : decode cJ5_checkIndex 1 = .ok (.ifCond .lt 8, 3) := dk_155 0 8 (dk_at dksJ5_checkIndex_0 1 rfl rfl)
theorem dJ5_checkIndex_4 : decode cJ5_checkIndex 4 = .ok (.iload_n 0, 1) := dk_26 (dk_at dksJ5_checkIndex_0 4 rfl rfl)
theorem dJ5_checkIndex_5 : decode cJ5_checkIndex 5 = .ok (.iload_n 1, 1) := dk_27 (dk_at dksJ5_checkIndex_0 5 rfl rfl)
theorem dJ5_checkIndex_6 : decode cJ5_checkIndex 6 = .ok (.if_icmp .lt 10, 3) := dk_161 0 10 (dk_at dksJ5_checkIndex_0 6 rfl rfl)
theorem dJ5_checkIndex_9 : decode cJ5_checkIndex 9 = .ok (.aload_n 2, 1) := dk_44 (dk_at dksJ5_checkIndex_0 9 rfl rfl)
theorem dJ5_checkIndex_10 : decode cJ5_checkIndex 10 = .ok (.iload_n 0, 1) := dk_26 (dk_at dksJ5_checkIndex_0 10 rfl rfl)
theorem dJ5_checkIndex_11 : decode cJ5_checkIndex 11 = .ok (.iload_n 1, 1) := dk_27 (dk_at dksJ5_checkIndex_0 11 rfl rfl)
theorem dJ5_checkIndex_12 : decode cJ5_checkIndex 12 = .ok (.invokestatic 95, 3) := dk_184 0 95 (dk_at dksJ5_checkIndex_0 12 rfl rfl)
theorem dJ5_checkIndex_15 : decode cJ5_checkIndex 15 = .ok (.athrow, 1) := dk_191 (dk_at dksJ5_checkIndex_0 15 rfl rfl)
theorem dJ5_checkIndex_16 : decode cJ5_checkIndex 16 = .ok (.iload_n 0, 1) := dk_26 (dk_at dksJ5_checkIndex_0 16 rfl rfl)
theorem dJ5_checkIndex_17 : decode cJ5_checkIndex 17 = .ok (.ireturn, 1) := dk_172 (dk_at dksJ5_checkIndex_0 17 rfl rfl)
def dkwJ6_indexOf_1 : List UInt8 := [18, 227, 162, 0, 11, 42, 27, 28, 29, 184, 0, 228, 172, 42, 27, 28, 29, 184, 0, 232, 172]
abbrev dktJ6_indexOf_1 : List UInt8 := dkwJ6_indexOf_1 ++ []
def dkwJ6_indexOf_0 : List UInt8 := [28, 3, 184, 0, 224, 61, 29, 42, 190, 4, 122, 184, 0, 183, 62, 28, 29, 161, 0, 5, 2, 172, 27]
abbrev dktJ6_indexOf_0 : List UInt8 := dkwJ6_indexOf_0 ++ dktJ6_indexOf_1
theorem dksJ6_indexOf_0 : cJ6_indexOf.data.toList.drop 0 = dktJ6_indexOf_0 := by decide +kernel
theorem dksJ6_indexOf_1 : cJ6_indexOf.data.toList.drop 23 = dktJ6_indexOf_1 := dk_seg dksJ6_indexOf_0 23 rfl rfl
theorem dJ6_indexOf_0 : decode cJ6_indexOf 0 = .ok (.iload_n 2, 1) := dk_28 (dk_at dksJ6_indexOf_0 0 rfl rfl)
theorem dJ6_indexOf_1 : decode cJ6_indexOf 1 = .ok (.iconst 0, 1) := dk_3 (dk_at dksJ6_indexOf_0 1 rfl rfl)
theorem dJ6_indexOf_2 : decode cJ6_indexOf 2 = .ok (.invokestatic 224, 3) := dk_184 0 224 (dk_at dksJ6_indexOf_0 2 rfl rfl)
theorem dJ6_indexOf_5 : decode cJ6_indexOf 5 = .ok (.istore_n 2, 1) := dk_61 (dk_at dksJ6_indexOf_0 5 rfl rfl)
theorem dJ6_indexOf_6 : decode cJ6_indexOf 6 = .ok (.iload_n 3, 1) := dk_29 (dk_at dksJ6_indexOf_0 6 rfl rfl)
theorem dJ6_indexOf_7 : decode cJ6_indexOf 7 = .ok (.aload_n 0, 1) := dk_42 (dk_at dksJ6_indexOf_0 7 rfl rfl)
theorem dJ6_indexOf_8 : decode cJ6_indexOf 8 = .ok (.arraylength, 1) := dk_190 (dk_at dksJ6_indexOf_0 8 rfl rfl)
theorem dJ6_indexOf_9 : decode cJ6_indexOf 9 = .ok (.iconst 1, 1) := dk_4 (dk_at dksJ6_indexOf_0 9 rfl rfl)
theorem dJ6_indexOf_10 : decode cJ6_indexOf 10 = .ok (.ishr, 1) := dk_122 (dk_at dksJ6_indexOf_0 10 rfl rfl)
theorem dJ6_indexOf_11 : decode cJ6_indexOf 11 = .ok (.invokestatic 183, 3) := dk_184 0 183 (dk_at dksJ6_indexOf_0 11 rfl rfl)
theorem dJ6_indexOf_14 : decode cJ6_indexOf 14 = .ok (.istore_n 3, 1) := dk_62 (dk_at dksJ6_indexOf_0 14 rfl rfl)
theorem dJ6_indexOf_15 : decode cJ6_indexOf 15 = .ok (.iload_n 2, 1) := dk_28 (dk_at dksJ6_indexOf_0 15 rfl rfl)
theorem dJ6_indexOf_16 : decode cJ6_indexOf 16 = .ok (.iload_n 3, 1) := dk_29 (dk_at dksJ6_indexOf_0 16 rfl rfl)
theorem dJ6_indexOf_17 : decode cJ6_indexOf 17 = .ok (.if_icmp .lt 5, 3) := dk_161 0 5 (dk_at dksJ6_indexOf_0 17 rfl rfl)
theorem dJ6_indexOf_20 : decode cJ6_indexOf 20 = .ok (.iconst (-1), 1) := dk_2 (dk_at dksJ6_indexOf_0 20 rfl rfl)
theorem dJ6_indexOf_21 : decode cJ6_indexOf 21 = .ok (.ireturn, 1) := dk_172 (dk_at dksJ6_indexOf_0 21 rfl rfl)
theorem dJ6_indexOf_22 : decode cJ6_indexOf 22 = .ok (.iload_n 1, 1) := dk_27 (dk_at dksJ6_indexOf_0 22 rfl rfl)
theorem dJ6_indexOf_23 : decode cJ6_indexOf 23 = .ok (.ldc 227, 2) := dk_18 227 (dk_at dksJ6_indexOf_1 0 rfl rfl)
theorem dJ6_indexOf_25 : decode cJ6_indexOf 25 = .ok (.if_icmp .ge 11, 3) := dk_162 0 11 (dk_at dksJ6_indexOf_1 2 rfl rfl)
theorem dJ6_indexOf_28 : decode cJ6_indexOf 28 = .ok (.aload_n 0, 1) := dk_42 (dk_at dksJ6_indexOf_1 5 rfl rfl)
theorem dJ6_indexOf_29 : decode cJ6_indexOf 29 = .ok (.iload_n 1, 1) := dk_27 (dk_at dksJ6_indexOf_1 6 rfl rfl)
theorem dJ6_indexOf_30 : decode cJ6_indexOf 30 = .ok (.iload_n 2, 1) := dk_28 (dk_at dksJ6_indexOf_1 7 rfl rfl)
theorem dJ6_indexOf_31 : decode cJ6_indexOf 31 = .ok (.iload_n 3, 1) := dk_29 (dk_at dksJ6_indexOf_1 8 rfl rfl)
theorem dJ6_indexOf_32 : decode cJ6_indexOf 32 = .ok (.invokestatic 228, 3) := dk_184 0 228 (dk_at dksJ6_indexOf_1 9 rfl rfl)
theorem dJ6_indexOf_35 : decode cJ6_indexOf 35 = .ok (.ireturn, 1) := dk_172 (dk_at dksJ6_indexOf_1 12 rfl rfl)
theorem dJ6_indexOf_36 : decode cJ6_indexOf 36 = .ok (.aload_n 0, 1) := dk_42 (dk_at dksJ6_indexOf_1 13 rfl rfl)
theorem dJ6_indexOf_37 : decode cJ6_indexOf 37 = .ok (.iload_n 1, 1) := dk_27 (dk_at dksJ6_indexOf_1 14 rfl rfl)
theorem dJ6_indexOf_38 : decode cJ6_indexOf 38 = .ok (.iload_n 2, 1) := dk_28 (dk_at dksJ6_indexOf_1 15 rfl rfl)
theorem dJ6_indexOf_39 : decode cJ6_indexOf 39 = .ok (.iload_n 3, 1) := dk_29 (dk_at dksJ6_indexOf_1 16 rfl rfl)
theorem dJ6_indexOf_40 : decode cJ6_indexOf 40 = .ok (.invokestatic 232, 3) := dk_184 0 232 (dk_at dksJ6_indexOf_1 17 rfl rfl)
theorem dJ6_indexOf_43 : decode cJ6_indexOf 43 = .ok (.ireturn, 1) := dk_172 (dk_at dksJ6_indexOf_1 20 rfl rfl)
def dkwJ6_indexOfChar_0 : List UInt8 := [28, 29, 42, 184, 0, 96, 42, 27, 28, 29, 184, 0, 244, 172]
abbrev dktJ6_indexOfChar_0 : List UInt8 := dkwJ6_indexOfChar_0 ++ []
theorem dksJ6_indexOfChar_0 : cJ6_indexOfChar.data.toList.drop 0 = dktJ6_indexOfChar_0 := by decide +kernel
theorem dJ6_indexOfChar_0 : decode cJ6_indexOfChar 0 = .ok (.iload_n 2, 1) := dk_28 (dk_at dksJ6_indexOfChar_0 0 rfl rfl)
theorem dJ6_indexOfChar_1 : decode cJ6_indexOfChar 1 = .ok (.iload_n 3, 1) := dk_29 (dk_at dksJ6_indexOfChar_0 1 rfl rfl)
theorem dJ6_indexOfChar_2 : decode cJ6_indexOfChar 2 = .ok (.aload_n 0, 1) := dk_42 (dk_at dksJ6_indexOfChar_0 2 rfl rfl)
theorem dJ6_indexOfChar_3 : decode cJ6_indexOfChar 3 = .ok (.invokestatic 96, 3) := dk_184 0 96 (dk_at dksJ6_indexOfChar_0 3 rfl rfl)
theorem dJ6_indexOfChar_6 : decode cJ6_indexOfChar 6 = .ok (.aload_n 0, 1) := dk_42 (dk_at dksJ6_indexOfChar_0 6 rfl rfl)
theorem dJ6_indexOfChar_7 : decode cJ6_indexOfChar 7 = .ok (.iload_n 1, 1) := dk_27 (dk_at dksJ6_indexOfChar_0 7 rfl rfl)
theorem dJ6_indexOfChar_8 : decode cJ6_indexOfChar 8 = .ok (.iload_n 2, 1) := dk_28 (dk_at dksJ6_indexOfChar_0 8 rfl rfl)
theorem dJ6_indexOfChar_9 : decode cJ6_indexOfChar 9 = .ok (.iload_n 3, 1) := dk_29 (dk_at dksJ6_indexOfChar_0 9 rfl rfl)
theorem dJ6_indexOfChar_10 : decode cJ6_indexOfChar 10 = .ok (.invokestatic 244, 3) := dk_184 0 244 (dk_at dksJ6_indexOfChar_0 10 rfl rfl)
theorem dJ6_indexOfChar_13 : decode cJ6_indexOfChar 13 = .ok (.ireturn, 1) := dk_172 (dk_at dksJ6_indexOfChar_0 13 rfl rfl)
def dkwJ6_checkBoundsBeginEnd_0 : List UInt8 := [26, 27, 44, 184, 0, 48, 184, 0, 241, 177]
abbrev dktJ6_checkBoundsBeginEnd_0 : List UInt8 := dkwJ6_checkBoundsBeginEnd_0 ++ []
theorem dksJ6_checkBoundsBeginEnd_0 : cJ6_checkBoundsBeginEnd.data.toList.drop 0 = dktJ6_checkBoundsBeginEnd_0 := by decide +kernel
theorem dJ6_checkBoundsBeginEnd_0 : decode cJ6_checkBoundsBeginEnd 0 = .ok (.iload_n 0, 1) := dk_26 (dk_at dksJ6_checkBoundsBeginEnd_0 0 rfl rfl)
theorem dJ6_checkBoundsBeginEnd_1 : decode cJ6_checkBoundsBeginEnd 1 = .ok (.iload_n 1, 1) := dk_27 (dk_at dksJ6_checkBoundsBeginEnd_0 1 rfl rfl)
theorem dJ6_checkBoundsBeginEnd_2 : decode cJ6_checkBoundsBeginEnd 2 = .ok (.aload_n 2, 1) := dk_44 (dk_at dksJ6_checkBoundsBeginEnd_0 2 rfl rfl)
theorem dJ6_checkBoundsBeginEnd_3 : decode cJ6_checkBoundsBeginEnd 3 = .ok (.invokestatic 48, 3) := dk_184 0 48 (dk_at dksJ6_checkBoundsBeginEnd_0 3 rfl rfl)
theorem dJ6_checkBoundsBeginEnd_6 : decode cJ6_checkBoundsBeginEnd 6 = .ok (.invokestatic 241, 3) := dk_184 0 241 (dk_at dksJ6_checkBoundsBeginEnd_0 6 rfl rfl)
theorem dJ6_checkBoundsBeginEnd_9 : decode cJ6_checkBoundsBeginEnd 9 = .ok (.return_, 1) := dk_177 (dk_at dksJ6_checkBoundsBeginEnd_0 9 rfl rfl)
def dkwJ6_length_0 : List UInt8 := [42, 190, 4, 122, 172]
abbrev dktJ6_length_0 : List UInt8 := dkwJ6_length_0 ++ []
theorem dksJ6_length_0 : cJ6_length.data.toList.drop 0 = dktJ6_length_0 := by decide +kernel
theorem dJ6_length_0 : decode cJ6_length 0 = .ok (.aload_n 0, 1) := dk_42 (dk_at dksJ6_length_0 0 rfl rfl)
theorem dJ6_length_1 : decode cJ6_length 1 = .ok (.arraylength, 1) := dk_190 (dk_at dksJ6_length_0 1 rfl rfl)
theorem dJ6_length_2 : decode cJ6_length 2 = .ok (.iconst 1, 1) := dk_4 (dk_at dksJ6_length_0 2 rfl rfl)
theorem dJ6_length_3 : decode cJ6_length 3 = .ok (.ishr, 1) := dk_122 (dk_at dksJ6_length_0 3 rfl rfl)
theorem dJ6_length_4 : decode cJ6_length 4 = .ok (.ireturn, 1) := dk_172 (dk_at dksJ6_length_0 4 rfl rfl)
def dkwJ6_indexOfCharUnsafe_1 : List UInt8 := [132, 4, 1, 167, 255, 234, 2, 172]
abbrev dktJ6_indexOfCharUnsafe_1 : List UInt8 := dkwJ6_indexOfCharUnsafe_1 ++ []
def dkwJ6_indexOfCharUnsafe_0 : List UInt8 := [28, 54, 4, 21, 4, 29, 162, 0, 22, 42, 21, 4, 184, 0, 71, 27, 160, 0, 6, 21, 4, 172]
abbrev dktJ6_indexOfCharUnsafe_0 : List UInt8 := dkwJ6_indexOfCharUnsafe_0 ++ dktJ6_indexOfCharUnsafe_1
theorem dksJ6_indexOfCharUnsafe_0 : cJ6_indexOfCharUnsafe.data.toList.drop 0 = dktJ6_indexOfCharUnsafe_0 := by decide +kernel
theorem dksJ6_indexOfCharUnsafe_1 : cJ6_indexOfCharUnsafe.data.toList.drop 22 = dktJ6_indexOfCharUnsafe_1 := dk_seg dksJ6_indexOfCharUnsafe_0 22 rfl rfl
theorem dJ6_indexOfCharUnsafe_0 : decode cJ6_indexOfCharUnsafe 0 = .ok (.iload_n 2, 1) := dk_28 (dk_at dksJ6_indexOfCharUnsafe_0 0 rfl rfl)
theorem dJ6_indexOfCharUnsafe_1 : decode cJ6_indexOfCharUnsafe 1 = .ok (.istore 4, 2) := dk_54 4 (dk_at dksJ6_indexOfCharUnsafe_0 1 rfl rfl)
theorem dJ6_indexOfCharUnsafe_3 : decode cJ6_indexOfCharUnsafe 3 = .ok (.iload 4, 2) := dk_21 4 (dk_at dksJ6_indexOfCharUnsafe_0 3 rfl rfl)
theorem dJ6_indexOfCharUnsafe_5 : decode cJ6_indexOfCharUnsafe 5 = .ok (.iload_n 3, 1) := dk_29 (dk_at dksJ6_indexOfCharUnsafe_0 5 rfl rfl)
theorem dJ6_indexOfCharUnsafe_6 : decode cJ6_indexOfCharUnsafe 6 = .ok (.if_icmp .ge 22, 3) := dk_162 0 22 (dk_at dksJ6_indexOfCharUnsafe_0 6 rfl rfl)
theorem dJ6_indexOfCharUnsafe_9 : decode cJ6_indexOfCharUnsafe 9 = .ok (.aload_n 0, 1) := dk_42 (dk_at dksJ6_indexOfCharUnsafe_0 9 rfl rfl)
theorem dJ6_indexOfCharUnsafe_10 : decode cJ6_indexOfCharUnsafe 10 = .ok (.iload 4, 2) := dk_21 4 (dk_at dksJ6_indexOfCharUnsafe_0 10 rfl rfl)
theorem dJ6_indexOfCharUnsafe_12 : decode cJ6_indexOfCharUnsafe 12 = .ok (.invokestatic 71, 3) := dk_184 0 71 (dk_at dksJ6_indexOfCharUnsafe_0 12 rfl rfl)
theorem dJ6_indexOfCharUnsafe_15 : decode cJ6_indexOfCharUnsafe 15 = .ok (.iload_n 1, 1) := dk_27 (dk_at dksJ6_indexOfCharUnsafe_0 15 rfl rfl)
theorem dJ6_indexOfCharUnsafe_16 : decode cJ6_indexOfCharUnsafe 16 = .ok (.if_icmp .ne 6, 3) := dk_160 0 6 (dk_at dksJ6_indexOfCharUnsafe_0 16 rfl rfl)
theorem dJ6_indexOfCharUnsafe_19 : decode cJ6_indexOfCharUnsafe 19 = .ok (.iload 4, 2) := dk_21 4 (dk_at dksJ6_indexOfCharUnsafe_0 19 rfl rfl)
theorem dJ6_indexOfCharUnsafe_21 : decode cJ6_indexOfCharUnsafe 21 = .ok (.ireturn, 1) := dk_172 (dk_at dksJ6_indexOfCharUnsafe_0 21 rfl rfl)
theorem dJ6_indexOfCharUnsafe_22 : decode cJ6_indexOfCharUnsafe 22 = .ok (.iinc 4 1, 3) := dk_132 4 1 (dk_at dksJ6_indexOfCharUnsafe_1 0 rfl rfl)
theorem dJ6_indexOfCharUnsafe_25 : decode cJ6_indexOfCharUnsafe 25 = .ok (.goto (-22), 3) := dk_167 255 234 (dk_at dksJ6_indexOfCharUnsafe_1 3 rfl rfl)
theorem dJ6_indexOfCharUnsafe_28 : decode cJ6_indexOfCharUnsafe 28 = .ok (.iconst (-1), 1) := dk_2 (dk_at dksJ6_indexOfCharUnsafe_1 6 rfl rfl)
theorem dJ6_indexOfCharUnsafe_29 : decode cJ6_indexOfCharUnsafe 29 = .ok (.ireturn, 1) := dk_172 (dk_at dksJ6_indexOfCharUnsafe_1 7 rfl rfl)
def dkwJ6_getChar_2 : List UInt8 := [51, 17, 0, 255, 126, 178, 0, 63, 120, 128, 146, 172]
abbrev dktJ6_getChar_2 : List UInt8 := dkwJ6_getChar_2 ++ []
def dkwJ6_getChar_1 : List UInt8 := [183, 0, 56, 191, 27, 4, 120, 60, 42, 27, 132, 1, 1, 51, 17, 0, 255, 126, 178, 0, 59, 120, 42, 27]
abbrev dktJ6_getChar_1 : List UInt8 := dkwJ6_getChar_1 ++ dktJ6_getChar_2
def dkwJ6_getChar_0 : List UInt8 := [178, 0, 44, 154, 0, 25, 27, 155, 0, 11, 27, 42, 184, 0, 48, 161, 0, 13, 187, 0, 52, 89, 18, 54]
abbrev dktJ6_getChar_0 : List UInt8 := dkwJ6_getChar_0 ++ dktJ6_getChar_1
theorem dksJ6_getChar_0 : cJ6_getChar.data.toList.drop 0 = dktJ6_getChar_0 := by decide +kernel
theorem dksJ6_getChar_1 : cJ6_getChar.data.toList.drop 24 = dktJ6_getChar_1 := dk_seg dksJ6_getChar_0 24 rfl rfl
theorem dksJ6_getChar_2 : cJ6_getChar.data.toList.drop 48 = dktJ6_getChar_2 := dk_seg dksJ6_getChar_1 24 rfl rfl
theorem dJ6_getChar_0 : decode cJ6_getChar 0 = .ok (.getstatic 44, 3) := dk_178 0 44 (dk_at dksJ6_getChar_0 0 rfl rfl)
theorem dJ6_getChar_3 : decode cJ6_getChar 3 = .ok (.ifCond .ne 25, 3) := dk_154 0 25 (dk_at dksJ6_getChar_0 3 rfl rfl)
theorem dJ6_getChar_6 : decode cJ6_getChar 6 = .ok (.iload_n 1, 1) := dk_27 (dk_at dksJ6_getChar_0 6 rfl rfl)
theorem dJ6_getChar_7 : decode cJ6_getChar 7 = .ok (.ifCond .lt 11, 3) := dk_155 0 11 (dk_at dksJ6_getChar_0 7 rfl rfl)
theorem dJ6_getChar_10 : decode cJ6_getChar 10 = .ok (.iload_n 1, 1) := dk_27 (dk_at dksJ6_getChar_0 10 rfl rfl)
theorem dJ6_getChar_11 : decode cJ6_getChar 11 = .ok (.aload_n 0, 1) := dk_42 (dk_at dksJ6_getChar_0 11 rfl rfl)
theorem dJ6_getChar_12 : decode cJ6_getChar 12 = .ok (.invokestatic 48, 3) := dk_184 0 48 (dk_at dksJ6_getChar_0 12 rfl rfl)
theorem dJ6_getChar_15 : decode cJ6_getChar 15 = .ok (.if_icmp .lt 13, 3) := dk_161 0 13 (dk_at dksJ6_getChar_0 15 rfl rfl)
theorem dJ6_getChar_18 : decode cJ6_getChar 18 = .ok (.new 52, 3) := dk_187 0 52 (dk_at dksJ6_getChar_0 18 rfl rfl)
theorem dJ6_getChar_21 : decode cJ6_getChar 21 = .ok (.dup, 1) := dk_89 (dk_at dksJ6_getChar_0 21 rfl rfl)
theorem dJ6_getChar_22 : decode cJ6_getChar 22 = .ok (.ldc 54, 2) := dk_18 54 (dk_at dksJ6_getChar_0 22 rfl rfl)
theorem dJ6_getChar_24 : decode cJ6_getChar 24 = .ok (.invokespecial 56, 3) := dk_183 0 56 (dk_at dksJ6_getChar_1 0 rfl rfl)
theorem dJ6_getChar_27 : decode cJ6_getChar 27 = .ok (.athrow, 1) := dk_191 (dk_at dksJ6_getChar_1 3 rfl rfl)
theorem dJ6_getChar_28 : decode cJ6_getChar 28 = .ok (.iload_n 1, 1) := dk_27 (dk_at dksJ6_getChar_1 4 rfl rfl)
theorem dJ6_getChar_29 : decode cJ6_getChar 29 = .ok (.iconst 1, 1) := dk_4 (dk_at dksJ6_getChar_1 5 rfl rfl)
theorem dJ6_getChar_30 : decode cJ6_getChar 30 = .ok (.ishl, 1) := dk_120 (dk_at dksJ6_getChar_1 6 rfl rfl)
theorem dJ6_getChar_31 : decode cJ6_getChar 31 = .ok (.istore_n 1, 1) := dk_60 (dk_at dksJ6_getChar_1 7 rfl rfl)
theorem dJ6_getChar_32 : decode cJ6_getChar 32 = .ok (.aload_n 0, 1) := dk_42 (dk_at dksJ6_getChar_1 8 rfl rfl)
theorem dJ6_getChar_33 : decode cJ6_getChar 33 = .ok (.iload_n 1, 1) := dk_27 (dk_at dksJ6_getChar_1 9 rfl rfl)
theorem dJ6_getChar_34 : decode cJ6_getChar 34 = .ok (.iinc 1 1, 3) := dk_132 1 1 (dk_at dksJ6_getChar_1 10 rfl rfl)
theorem dJ6_getChar_37 : decode cJ6_getChar 37 = .ok (.baload, 1) := dk_51 (dk_at dksJ6_getChar_1 13 rfl rfl)
theorem dJ6_getChar_38 : decode cJ6_getChar 38 = .ok (.sipush 255, 3) := dk_17 0 255 (dk_at dksJ6_getChar_1 14 rfl rfl)
theorem dJ6_getChar_41 : decode cJ6_getChar 41 = .ok (.iand, 1) := dk_126 (dk_at dksJ6_getChar_1 17 rfl rfl)
theorem dJ6_getChar_42 : decode cJ6_getChar 42 = .ok (.getstatic 59, 3) := dk_178 0 59 (dk_at dksJ6_getChar_1 18 rfl rfl)
theorem dJ6_getChar_45 : decode cJ6_getChar 45 = .ok (.ishl, 1) := dk_120 (dk_at dksJ6_getChar_1 21 rfl rfl)
theorem dJ6_getChar_46 : decode cJ6_getChar 46 = .ok (.aload_n 0, 1) := dk_42 (dk_at dksJ6_getChar_1 22 rfl rfl)
theorem dJ6_getChar_47 : decode cJ6_getChar 47 = .ok (.iload_n 1, 1) := dk_27 (dk_at dksJ6_getChar_1 23 rfl rfl)
theorem dJ6_getChar_48 : decode cJ6_getChar 48 = .ok (.baload, 1) := dk_51 (dk_at dksJ6_getChar_2 0 rfl rfl)
theorem dJ6_getChar_49 : decode cJ6_getChar 49 = .ok (.sipush 255, 3) := dk_17 0 255 (dk_at dksJ6_getChar_2 1 rfl rfl)
theorem dJ6_getChar_52 : decode cJ6_getChar 52 = .ok (.iand, 1) := dk_126 (dk_at dksJ6_getChar_2 4 rfl rfl)
theorem dJ6_getChar_53 : decode cJ6_getChar 53 = .ok (.getstatic 63, 3) := dk_178 0 63 (dk_at dksJ6_getChar_2 5 rfl rfl)
theorem dJ6_getChar_56 : decode cJ6_getChar 56 = .ok (.ishl, 1) := dk_120 (dk_at dksJ6_getChar_2 8 rfl rfl)
theorem dJ6_getChar_57 : decode cJ6_getChar 57 = .ok (.ior, 1) := dk_128 (dk_at dksJ6_getChar_2 9 rfl rfl)
theorem dJ6_getChar_58 : decode cJ6_getChar 58 = .ok (.i2c, 1) := dk_146 (dk_at dksJ6_getChar_2 10 rfl rfl)
theorem dJ6_getChar_59 : decode cJ6_getChar 59 = .ok (.ireturn, 1) := dk_172 (dk_at dksJ6_getChar_2 11 rfl rfl)
def dkwJ6_indexOfSupplementary_3 : List UInt8 := [167, 255, 218, 2, 172]
abbrev dktJ6_indexOfSupplementary_3 : List UInt8 := dkwJ6_indexOfSupplementary_3 ++ []
def dkwJ6_indexOfSupplementary_2 : List UInt8 := [160, 0, 19, 42, 21, 6, 4, 96, 184, 0, 71, 21, 5, 160, 0, 6, 21, 6, 172, 132, 6, 1]
abbrev dktJ6_indexOfSupplementary_2 : List UInt8 := dkwJ6_indexOfSupplementary_2 ++ dktJ6_indexOfSupplementary_3
def dkwJ6_indexOfSupplementary_1 : List UInt8 := [184, 0, 96, 28, 54, 6, 21, 6, 29, 4, 100, 162, 0, 36, 42, 21, 6, 184, 0, 71, 21, 4]
abbrev dktJ6_indexOfSupplementary_1 : List UInt8 := dkwJ6_indexOfSupplementary_1 ++ dktJ6_indexOfSupplementary_2
def dkwJ6_indexOfSupplementary_0 : List UInt8 := [27, 184, 0, 164, 153, 0, 65, 27, 184, 0, 157, 54, 4, 27, 184, 0, 161, 54, 5, 28, 29, 42]
abbrev dktJ6_indexOfSupplementary_0 : List UInt8 := dkwJ6_indexOfSupplementary_0 ++ dktJ6_indexOfSupplementary_1
theorem dksJ6_indexOfSupplementary_0 : cJ6_indexOfSupplementary.data.toList.drop 0 = dktJ6_indexOfSupplementary_0 := by decide +kernel
theorem dksJ6_indexOfSupplementary_1 : cJ6_indexOfSupplementary.data.toList.drop 22 = dktJ6_indexOfSupplementary_1 := dk_seg dksJ6_indexOfSupplementary_0 22 rfl rfl
theorem dksJ6_indexOfSupplementary_2 : cJ6_indexOfSupplementary.data.toList.drop 44 = dktJ6_indexOfSupplementary_2 := dk_seg dksJ6_indexOfSupplementary_1 22 rfl rfl
theorem dksJ6_indexOfSupplementary_3 : cJ6_indexOfSupplementary.data.toList.drop 66 = dktJ6_indexOfSupplementary_3 := dk_seg dksJ6_indexOfSupplementary_2 22 rfl rfl
theorem dJ6_indexOfSupplementary_0 : decode cJ6_indexOfSupplementary 0 = .ok (.iload_n 1, 1) := dk_27 (dk_at dksJ6_indexOfSupplementary_0 0 rfl rfl)
theorem dJ6_indexOfSupplementary_1 : decode cJ6_indexOfSupplementary 1 = .ok (.invokestatic 164, 3) := dk_184 0 164 (dk_at dksJ6_indexOfSupplementary_0 1 rfl rfl)
theorem dJ6_indexOfSupplementary_4 : decode cJ6_indexOfSupplementary 4 = .ok (.ifCond .eq 65, 3) := dk_153 0 65 (dk_at dksJ6_indexOfSupplementary_0 4 rfl rfl)
theorem dJ6_indexOfSupplementary_7 : decode cJ6_indexOfSupplementary 7 = .ok (.iload_n 1, 1) := dk_27 (dk_at dksJ6_indexOfSupplementary_0 7 rfl rfl)
theorem dJ6_indexOfSupplementary_8 : decode cJ6_indexOfSupplementary 8 = .ok (.invokestatic 157, 3) := dk_184 0 157 (dk_at dksJ6_indexOfSupplementary_0 8 rfl rfl)
theorem dJ6_indexOfSupplementary_11 : decode cJ6_indexOfSupplementary 11 = .ok (.istore 4, 2) := dk_54 4 (dk_at dksJ6_indexOfSupplementary_0 11 rfl rfl)
theorem dJ6_indexOfSupplementary_13 : decode cJ6_indexOfSupplementary 13 = .ok (.iload_n 1, 1) := dk_27 (dk_at dksJ6_indexOfSupplementary_0 13 rfl rfl)
theorem dJ6_indexOfSupplementary_14 : decode cJ6_indexOfSupplementary 14 = .ok (.invokestatic 161, 3) := dk_184 0 161 (dk_at dksJ6_indexOfSupplementary_0 14 rfl rfl)
theorem dJ6_indexOfSupplementary_17 : decode cJ6_indexOfSupplementary 17 = .ok (.istore 5, 2) := dk_54 5 (dk_at dksJ6_indexOfSupplementary_0 17 rfl rfl)
theorem dJ6_indexOfSupplementary_19 : decode cJ6_indexOfSupplementary 19 = .ok (.iload_n 2, 1) := dk_28 (dk_at dksJ6_indexOfSupplementary_0 19 rfl rfl)
theorem dJ6_indexOfSupplementary_20 : decode cJ6_indexOfSupplementary 20 = .ok (.iload_n 3, 1) := dk_29 (dk_at dksJ6_indexOfSupplementary_0 20 rfl rfl)
theorem dJ6_indexOfSupplementary_21 : decode cJ6_indexOfSupplementary 21 = .ok (.aload_n 0, 1) := dk_42 (dk_at dksJ6_indexOfSupplementary_0 21 rfl rfl)
theorem dJ6_indexOfSupplementary_22 : decode cJ6_indexOfSupplementary 22 = .ok (.invokestatic 96, 3) := dk_184 0 96 (dk_at dksJ6_indexOfSupplementary_1 0 rfl rfl)
theorem dJ6_indexOfSupplementary_25 : decode cJ6_indexOfSupplementary 25 = .ok (.iload_n 2, 1) := dk_28 (dk_at dksJ6_indexOfSupplementary_1 3 rfl rfl)
theorem dJ6_indexOfSupplementary_26 : decode cJ6_indexOfSupplementary 26 = .ok (.istore 6, 2) := dk_54 6 (dk_at dksJ6_indexOfSupplementary_1 4 rfl rfl)
theorem dJ6_indexOfSupplementary_28 : decode cJ6_indexOfSupplementary 28 = .ok (.iload 6, 2) := dk_21 6 (dk_at dksJ6_indexOfSupplementary_1 6 rfl rfl)
theorem dJ6_indexOfSupplementary_30 : decode cJ6_indexOfSupplementary 30 = .ok (.iload_n 3, 1) := dk_29 (dk_at dksJ6_indexOfSupplementary_1 8 rfl rfl)
theorem dJ6_indexOfSupplementary_31 : decode cJ6_indexOfSupplementary 31 = .ok (.iconst 1, 1) := dk_4 (dk_at dksJ6_indexOfSupplementary_1 9 rfl rfl)
theorem dJ6_indexOfSupplementary_32 : decode cJ6_indexOfSupplementary 32 = .ok (.isub, 1) := dk_100 (dk_at dksJ6_indexOfSupplementary_1 10 rfl rfl)
theorem dJ6_indexOfSupplementary_33 : decode cJ6_indexOfSupplementary 33 = .ok (.if_icmp .ge 36, 3) := dk_162 0 36 (dk_at dksJ6_indexOfSupplementary_1 11 rfl rfl)
theorem dJ6_indexOfSupplementary_36 : decode cJ6_indexOfSupplementary 36 = .ok (.aload_n 0, 1) := dk_42 (dk_at dksJ6_indexOfSupplementary_1 14 rfl rfl)
theorem dJ6_indexOfSupplementary_37 : decode cJ6_indexOfSupplementary 37 = .ok (.iload 6, 2) := dk_21 6 (dk_at dksJ6_indexOfSupplementary_1 15 rfl rfl)
theorem dJ6_indexOfSupplementary_39 : decode cJ6_indexOfSupplementary 39 = .ok (.invokestatic 71, 3) := dk_184 0 71 (dk_at dksJ6_indexOfSupplementary_1 17 rfl rfl)
theorem dJ6_indexOfSupplementary_42 : decode cJ6_indexOfSupplementary 42 = .ok (.iload 4, 2) := dk_21 4 (dk_at dksJ6_indexOfSupplementary_1 20 rfl rfl)
theorem dJ6_indexOfSupplementary_44 : decode cJ6_indexOfSupplementary 44 = .ok (.if_icmp .ne 19, 3) := dk_160 0 19 (dk_at dksJ6_indexOfSupplementary_2 0 rfl rfl)
theorem dJ6_indexOfSupplementary_47 : decode cJ6_indexOfSupplementary 47 = .ok (.aload_n 0, 1) := dk_42 (dk_at dksJ6_indexOfSupplementary_2 3 rfl rfl)
theorem dJ6_indexOfSupplementary_48 : decode cJ6_indexOfSupplementary 48 = .ok (.iload 6, 2) := dk_21 6 (dk_at dksJ6_indexOfSupplementary_2 4 rfl rfl)
theorem dJ6_indexOfSupplementary_50 : decode cJ6_indexOfSupplementary 50 = .ok (.iconst 1, 1) := dk_4 (dk_at dksJ6_indexOfSupplementary_2 6 rfl rfl)
theorem dJ6_indexOfSupplementary_51 : decode cJ6_indexOfSupplementary 51 = .ok (.iadd, 1) := dk_96 (dk_at dksJ6_indexOfSupplementary_2 7 rfl rfl)
theorem dJ6_indexOfSupplementary_52 : decode cJ6_indexOfSupplementary 52 = .ok (.invokestatic 71, 3) := dk_184 0 71 (dk_at dksJ6_indexOfSupplementary_2 8 rfl rfl)
theorem dJ6_indexOfSupplementary_55 : decode cJ6_indexOfSupplementary 55 = .ok (.iload 5, 2) := dk_21 5 (dk_at dksJ6_indexOfSupplementary_2 11 rfl rfl)
theorem dJ6_indexOfSupplementary_57 : decode cJ6_indexOfSupplementary 57 = .ok (.if_icmp .ne 6, 3) := dk_160 0 6 (dk_at dksJ6_indexOfSupplementary_2 13 rfl rfl)
theorem dJ6_indexOfSupplementary_60 : decode cJ6_indexOfSupplementary 60 = .ok (.iload 6, 2) := dk_21 6 (dk_at dksJ6_indexOfSupplementary_2 16 rfl rfl)
theorem dJ6_indexOfSupplementary_62 : decode cJ6_indexOfSupplementary 62 = .ok (.ireturn, 1) := dk_172 (dk_at dksJ6_indexOfSupplementary_2 18 rfl rfl)
theorem dJ6_indexOfSupplementary_63 : decode cJ6_indexOfSupplementary 63 = .ok (.iinc 6 1, 3) := dk_132 6 1 (dk_at dksJ6_indexOfSupplementary_2 19 rfl rfl)
theorem dJ6_indexOfSupplementary_66 : decode cJ6_indexOfSupplementary 66 = .ok (.goto (-38), 3) := dk_167 255 218 (dk_at dksJ6_indexOfSupplementary_3 0 rfl rfl)
theorem dJ6_indexOfSupplementary_69 : decode cJ6_indexOfSupplementary 69 = .ok (.iconst (-1), 1) := dk_2 (dk_at dksJ6_indexOfSupplementary_3 3 rfl rfl)
theorem dJ6_indexOfSupplementary_70 : decode cJ6_indexOfSupplementary 70 = .ok (.ireturn, 1) := dk_172 (dk_at dksJ6_indexOfSupplementary_3 4 rfl rfl)
def dkwJ6_charAt_0 : List UInt8 := [27, 42, 184, 0, 67, 42, 27, 184, 0, 71, 172]
abbrev dktJ6_charAt_0 : List UInt8 := dkwJ6_charAt_0 ++ []
theorem dksJ6_charAt_0 : cJ6_charAt.data.toList.drop 0 = dktJ6_charAt_0 := by decide +kernel
theorem dJ6_charAt_0 : decode cJ6_charAt 0 = .ok (.iload_n 1, 1) := dk_27 (dk_at dksJ6_charAt_0 0 rfl rfl)
theorem dJ6_charAt_1 : decode cJ6_charAt 1 = .ok (.aload_n 0, 1) := dk_42 (dk_at dksJ6_charAt_0 1 rfl rfl)
theorem dJ6_charAt_2 : decode cJ6_charAt 2 = .ok (.invokestatic 67, 3) := dk_184 0 67 (dk_at dksJ6_charAt_0 2 rfl rfl)
theorem dJ6_charAt_5 : decode cJ6_charAt 5 = .ok (.aload_n 0, 1) := dk_42 (dk_at dksJ6_charAt_0 5 rfl rfl)
theorem dJ6_charAt_6 : decode cJ6_charAt 6 = .ok (.iload_n 1, 1) := dk_27 (dk_at dksJ6_charAt_0 6 rfl rfl)
theorem dJ6_charAt_7 : decode cJ6_charAt 7 = .ok (.invokestatic 71, 3) := dk_184 0 71 (dk_at dksJ6_charAt_0 7 rfl rfl)
theorem dJ6_charAt_10 : decode cJ6_charAt 10 = .ok (.ireturn, 1) := dk_172 (dk_at dksJ6_charAt_0 10 rfl rfl)
def dkwJ6_checkIndex_0 : List UInt8 := [26, 43, 184, 0, 48, 184, 1, 158, 177]
abbrev dktJ6_checkIndex_0 : List UInt8 := dkwJ6_checkIndex_0 ++ []
theorem dksJ6_checkIndex_0 : cJ6_checkIndex.data.toList.drop 0 = dktJ6_checkIndex_0 := by decide +kernel
theorem dJ6_checkIndex_0 : decode cJ6_checkIndex 0 = .ok (.iload_n 0, 1) := dk_26 (dk_at dksJ6_checkIndex_0 0 rfl rfl)
theorem dJ6_checkIndex_1 : decode cJ6_checkIndex 1 = .ok (.aload_n 1, 1) := dk_43 (dk_at dksJ6_checkIndex_0 1 rfl rfl)
theorem dJ6_checkIndex_2 : decode cJ6_checkIndex 2 = .ok (.invokestatic 48, 3) := dk_184 0 48 (dk_at dksJ6_checkIndex_0 2 rfl rfl)
theorem dJ6_checkIndex_5 : decode cJ6_checkIndex 5 = .ok (.invokestatic 414, 3) := dk_184 1 158 (dk_at dksJ6_checkIndex_0 5 rfl rfl)
theorem dJ6_checkIndex_8 : decode cJ6_checkIndex 8 = .ok (.return_, 1) := dk_177 (dk_at dksJ6_checkIndex_0 8 rfl rfl)
def dkwJ7_isValidCodePoint_0 : List UInt8 := [26, 16, 16, 124, 60, 27, 16, 17, 162, 0, 7, 4, 167, 0, 4, 3, 172]
abbrev dktJ7_isValidCodePoint_0 : List UInt8 := dkwJ7_isValidCodePoint_0 ++ []
theorem dksJ7_isValidCodePoint_0 : cJ7_isValidCodePoint.data.toList.drop 0 = dktJ7_isValidCodePoint_0 := by decide +kernel
theorem dJ7_isValidCodePoint_0 : decode cJ7_isValidCodePoint 0 = .ok (.iload_n 0, 1) := dk_26 (dk_at dksJ7_isValidCodePoint_0 0 rfl rfl)
theorem dJ7_isValidCodePoint_1 : decode cJ7_isValidCodePoint 1 = .ok (.bipush 16, 2) := dk_16 16 (dk_at dksJ7_isValidCodePoint_0 1 rfl rfl)
theorem dJ7_isValidCodePoint_3 : decode cJ7_isValidCodePoint 3 = .ok (.iushr, 1) := dk_124 (dk_at dksJ7_isValidCodePoint_0 3 rfl rfl)
theorem dJ7_isValidCodePoint_4 : decode cJ7_isValidCodePoint 4 = .ok (.istore_n 1, 1) := dk_60 (dk_at dksJ7_isValidCodePoint_0 4 rfl rfl)
theorem dJ7_isValidCodePoint_5 : decode cJ7_isValidCodePoint 5 = .ok (.iload_n 1, 1) := dk_27 (dk_at dksJ7_isValidCodePoint_0 5 rfl rfl)
theorem dJ7_isValidCodePoint_6 : decode cJ7_isValidCodePoint 6 = .ok (.bipush 17, 2) := dk_16 17 (dk_at dksJ7_isValidCodePoint_0 6 rfl rfl)
theorem dJ7_isValidCodePoint_8 : decode cJ7_isValidCodePoint 8 = .ok (.if_icmp .ge 7, 3) := dk_162 0 7 (dk_at dksJ7_isValidCodePoint_0 8 rfl rfl)
theorem dJ7_isValidCodePoint_11 : decode cJ7_isValidCodePoint 11 = .ok (.iconst 1, 1) := dk_4 (dk_at dksJ7_isValidCodePoint_0 11 rfl rfl)
theorem dJ7_isValidCodePoint_12 : decode cJ7_isValidCodePoint 12 = .ok (.goto 4, 3) := dk_167 0 4 (dk_at dksJ7_isValidCodePoint_0 12 rfl rfl)
theorem dJ7_isValidCodePoint_15 : decode cJ7_isValidCodePoint 15 = .ok (.iconst 0, 1) := dk_3 (dk_at dksJ7_isValidCodePoint_0 15 rfl rfl)
theorem dJ7_isValidCodePoint_16 : decode cJ7_isValidCodePoint 16 = .ok (.ireturn, 1) := dk_172 (dk_at dksJ7_isValidCodePoint_0 16 rfl rfl)
def dkwJ7_highSurrogate_0 : List UInt8 := [26, 16, 10, 124, 18, 110, 96, 146, 172]
abbrev dktJ7_highSurrogate_0 : List UInt8 := dkwJ7_highSurrogate_0 ++ []
theorem dksJ7_highSurrogate_0 : cJ7_highSurrogate.data.toList.drop 0 = dktJ7_highSurrogate_0 := by decide +kernel
theorem dJ7_highSurrogate_0 : decode cJ7_highSurrogate 0 = .ok (.iload_n 0, 1) := dk_26 (dk_at dksJ7_highSurrogate_0 0 rfl rfl)
theorem dJ7_highSurrogate_1 : decode cJ7_highSurrogate 1 = .ok (.bipush 10, 2) := dk_16 10 (dk_at dksJ7_highSurrogate_0 1 rfl rfl)
theorem dJ7_highSurrogate_3 : decode cJ7_highSurrogate 3 = .ok (.iushr, 1) := dk_124 (dk_at dksJ7_highSurrogate_0 3 rfl rfl)
theorem dJ7_highSurrogate_4 : decode cJ7_highSurrogate 4 = .ok (.ldc 110, 2) := dk_18 110 (dk_at dksJ7_highSurrogate_0 4 rfl rfl)
theorem dJ7_highSurrogate_6 : decode cJ7_highSurrogate 6 = .ok (.iadd, 1) := dk_96 (dk_at dksJ7_highSurrogate_0 6 rfl rfl)
theorem dJ7_highSurrogate_7 : decode cJ7_highSurrogate 7 = .ok (.i2c, 1) := dk_146 (dk_at dksJ7_highSurrogate_0 7 rfl rfl)
theorem dJ7_highSurrogate_8 : decode cJ7_highSurrogate 8 = .ok (.ireturn, 1) := dk_172 (dk_at dksJ7_highSurrogate_0 8 rfl rfl)
def dkwJ7_lowSurrogate_0 : List UInt8 := [26, 17, 3, 255, 126, 18, 76, 96, 146, 172]
abbrev dktJ7_lowSurrogate_0 : List UInt8 := dkwJ7_lowSurrogate_0 ++ []
theorem dksJ7_lowSurrogate_0 : cJ7_lowSurrogate.data.toList.drop 0 = dktJ7_lowSurrogate_0 := by decide +kernel
theorem dJ7_lowSurrogate_0 : decode cJ7_lowSurrogate 0 = .ok (.iload_n 0, 1) := dk_26 (dk_at dksJ7_lowSurrogate_0 0 rfl rfl)
theorem dJ7_lowSurrogate_1 : decode cJ7_lowSurrogate 1 = .ok (.sipush 1023, 3) := dk_17 3 255 (dk_at dksJ7_lowSurrogate_0 1 rfl rfl)
theorem dJ7_lowSurrogate_4 : decode cJ7_lowSurrogate 4 = .ok (.iand, 1) := dk_126 (dk_at dksJ7_lowSurrogate_0 4 rfl rfl)
theorem dJ7_lowSurrogate_5 : decode cJ7_lowSurrogate 5 = .ok (.ldc 76, 2) := dk_18 76 (dk_at dksJ7_lowSurrogate_0 5 rfl rfl)
theorem dJ7_lowSurrogate_7 : decode cJ7_lowSurrogate 7 = .ok (.iadd, 1) := dk_96 (dk_at dksJ7_lowSurrogate_0 7 rfl rfl)
theorem dJ7_lowSurrogate_8 : decode cJ7_lowSurrogate 8 = .ok (.i2c, 1) := dk_146 (dk_at dksJ7_lowSurrogate_0 8 rfl rfl)
theorem dJ7_lowSurrogate_9 : decode cJ7_lowSurrogate 9 = .ok (.ireturn, 1) := dk_172 (dk_at dksJ7_lowSurrogate_0 9 rfl rfl)
def dkwJ8_bitCount_2 : List UInt8 := [26, 16, 63, 126, 172]
abbrev dktJ8_bitCount_2 : List UInt8 := dkwJ8_bitCount_2 ++ []
def dkwJ8_bitCount_1 : List UInt8 := [26, 26, 7, 124, 96, 19, 1, 11, 126, 59, 26, 26, 16, 8, 124, 96, 59, 26, 26, 16, 16, 124, 96, 59]
abbrev dktJ8_bitCount_1 : List UInt8 := dkwJ8_bitCount_1 ++ dktJ8_bitCount_2
def dkwJ8_bitCount_0 : List UInt8 := [26, 26, 4, 124, 19, 1, 9, 126, 100, 59, 26, 19, 1, 10, 126, 26, 5, 124, 19, 1, 10, 126, 96, 59]
abbrev dktJ8_bitCount_0 : List UInt8 := dkwJ8_bitCount_0 ++ dktJ8_bitCount_1
theorem dksJ8_bitCount_0 : cJ8_bitCount.data.toList.drop 0 = dktJ8_bitCount_0 := by decide +kernel
theorem dksJ8_bitCount_1 : cJ8_bitCount.data.toList.drop 24 = dktJ8_bitCount_1 := dk_seg dksJ8_bitCount_0 24 rfl rfl
theorem dksJ8_bitCount_2 : cJ8_bitCount.data.toList.drop 48 = dktJ8_bitCount_2 := dk_seg dksJ8_bitCount_1 24 rfl rfl
theorem dJ8_bitCount_0 : decode cJ8_bitCount 0 = .ok (.iload_n 0, 1) := dk_26 (dk_at dksJ8_bitCount_0 0 rfl rfl)
theorem dJ8_bitCount_1 : decode cJ8_bitCount 1 = .ok (.iload_n 0, 1) := dk_26 (dk_at dksJ8_bitCount_0 1 rfl rfl)
theorem dJ8_bitCount_2 : decode cJ8_bitCount 2 = .ok (.iconst 1, 1) := dk_4 (dk_at dksJ8_bitCount_0 2 rfl rfl)
theorem dJ8_bitCount_3 : decode cJ8_bitCount 3 = .ok (.iushr, 1) := dk_124 (dk_at dksJ8_bitCount_0 3 rfl rfl)
theorem dJ8_bitCount_4 : decode cJ8_bitCount 4 = .ok (.ldc_w 265, 3) := dk_19 1 9 (dk_at dksJ8_bitCount_0 4 rfl rfl)
theorem dJ8_bitCount_7 : decode cJ8_bitCount 7 = .ok (.iand, 1) := dk_126 (dk_at dksJ8_bitCount_0 7 rfl rfl)
theorem dJ8_bitCount_8 : decode cJ8_bitCount 8 = .ok (.isub, 1) := dk_100 (dk_at dksJ8_bitCount_0 8 rfl rfl)
theorem dJ8_bitCount_9 : decode cJ8_bitCount 9 = .ok (.istore_n 0, 1) := dk_59 (dk_at dksJ8_bitCount_0 9 rfl rfl)
theorem dJ8_bitCount_10 : decode cJ8_bitCount 10 = .ok (.iload_n 0, 1) := dk_26 (dk_at dksJ8_bitCount_0 10 rfl rfl)
theorem dJ8_bitCount_11 : decode cJ8_bitCount 11 = .ok (.ldc_w 266, 3) := dk_19 1 10 (dk_at dksJ8_bitCount_0 11 rfl rfl)
theorem dJ8_bitCount_14 : decode cJ8_bitCount 14 = .ok (.iand, 1) := dk_126 (dk_at dksJ8_bitCount_0 14 rfl rfl)
theorem dJ8_bitCount_15 : decode cJ8_bitCount 15 = .ok (.iload_n 0, 1) := dk_26 (dk_at dksJ8_bitCount_0 15 rfl rfl)
theorem dJ8_bitCount_16 : decode cJ8_bitCount 16 = .ok (.iconst 2, 1) := dk_5 (dk_at dksJ8_bitCount_0 16 rfl rfl)
theorem dJ8_bitCount_17 : decode cJ8_bitCount 17 = .ok (.iushr, 1) := dk_124 (dk_at dksJ8_bitCount_0 17 rfl rfl)
theorem dJ8_bitCount_18 : decode cJ8_bitCount 18 = .ok (.ldc_w 266, 3) := dk_19 1 10 (dk_at dksJ8_bitCount_0 18 rfl rfl)
theorem dJ8_bitCount_21 : decode cJ8_bitCount 21 = .ok (.iand, 1) := dk_126 (dk_at dksJ8_bitCount_0 21 rfl rfl)
theorem dJ8_bitCount_22 : decode cJ8_bitCount 22 = .ok (.iadd, 1) := dk_96 (dk_at dksJ8_bitCount_0 22 rfl rfl)
theorem dJ8_bitCount_23 : decode cJ8_bitCount 23 = .ok (.istore_n 0, 1) := dk_59 (dk_at dksJ8_bitCount_0 23 rfl rfl)
theorem dJ8_bitCount_24 : decode cJ8_bitCount 24 = .ok (.iload_n 0, 1) := dk_26 (dk_at dksJ8_bitCount_1 0 rfl rfl)
theorem dJ8_bitCount_25 : decode cJ8_bitCount 25 = .ok (.iload_n 0, 1) := dk_26 (dk_at dksJ8_bitCount_1 1 rfl rfl)
theorem dJ8_bitCount_26 : decode cJ8_bitCount 26 = .ok (.iconst 4, 1) := dk_7 (dk_at dksJ8_bitCount_1 2 rfl rfl)
theorem dJ8_bitCount_27 : decode cJ8_bitCount 27 = .ok (.iushr, 1) := dk_124 (dk_at dksJ8_bitCount_1 3 rfl rfl)
theorem dJ8_bitCount_28 : decode cJ8_bitCount 28 = .ok (.iadd, 1) := dk_96 (dk_at dksJ8_bitCount_1 4 rfl rfl)
theorem dJ8_bitCount_29 : decode cJ8_bitCount 29 = .ok (.ldc_w 267, 3) := dk_19 1 11 (dk_at dksJ8_bitCount_1 5 rfl rfl)
theorem dJ8_bitCount_32 : decode cJ8_bitCount 32 = .ok (.iand, 1) := dk_126 (dk_at dksJ8_bitCount_1 8 rfl rfl)
theorem dJ8_bitCount_33 : decode cJ8_bitCount 33 = .ok (.istore_n 0, 1) := dk_59 (dk_at dksJ8_bitCount_1 9 rfl rfl)
theorem dJ8_bitCount_34 : decode cJ8_bitCount 34 = .ok (.iload_n 0, 1) := dk_26 (dk_at dksJ8_bitCount_1 10 rfl rfl)
theorem dJ8_bitCount_35 : decode cJ8_bitCount 35 = .ok (.iload_n 0, 1) := dk_26 (dk_at dksJ8_bitCount_1 11 rfl rfl)
theorem dJ8_bitCount_36 : decode cJ8_bitCount 36 = .ok (.bipush 8, 2) := dk_16 8 (dk_at dksJ8_bitCount_1 12 rfl rfl)
theorem dJ8_bitCount_38 : decode cJ8_bitCount 38 = .ok (.iushr, 1) := dk_124 (dk_at dksJ8_bitCount_1 14 rfl rfl)
theorem dJ8_bitCount_39 : decode cJ8_bitCount 39 = .ok (.iadd, 1) := dk_96 (dk_at dksJ8_bitCount_1 15 rfl rfl)
theorem dJ8_bitCount_40 : decode cJ8_bitCount 40 = .ok (.istore_n 0, 1) := dk_59 (dk_at dksJ8_bitCount_1 16 rfl rfl)
theorem dJ8_bitCount_41 : decode cJ8_bitCount 41 = .ok (.iload_n 0, 1) := dk_26 (dk_at dksJ8_bitCount_1 17 rfl rfl)
theorem dJ8_bitCount_42 : decode cJ8_bitCount 42 = .ok (.iload_n 0, 1) := dk_26 (dk_at dksJ8_bitCount_1 18 rfl rfl)
theorem dJ8_bitCount_43 : decode cJ8_bitCount 43 = .ok (.bipush 16, 2) := dk_16 16 (dk_at dksJ8_bitCount_1 19 rfl rfl)
theorem dJ8_bitCount_45 : decode cJ8_bitCount 45 = .ok (.iushr, 1) := dk_124 (dk_at dksJ8_bitCount_1 21 rfl rfl)
theorem dJ8_bitCount_46 : decode cJ8_bitCount 46 = .ok (.iadd, 1) := dk_96 (dk_at dksJ8_bitCount_1 22 rfl rfl)
theorem dJ8_bitCount_47 : decode cJ8_bitCount 47 = .ok (.istore_n 0, 1) := dk_59 (dk_at dksJ8_bitCount_1 23 rfl rfl)
theorem dJ8_bitCount_48 : decode cJ8_bitCount 48 = .ok (.iload_n 0, 1) := dk_26 (dk_at dksJ8_bitCount_2 0 rfl rfl)
theorem dJ8_bitCount_49 : decode cJ8_bitCount 49 = .ok (.bipush 63, 2) := dk_16 63 (dk_at dksJ8_bitCount_2 1 rfl rfl)
theorem dJ8_bitCount_51 : decode cJ8_bitCount 51 = .ok (.iand, 1) := dk_126 (dk_at dksJ8_bitCount_2 3 rfl rfl)
theorem dJ8_bitCount_52 : decode cJ8_bitCount 52 = .ok (.ireturn, 1) := dk_172 (dk_at dksJ8_bitCount_2 4 rfl rfl)
def dkwJ9_init_0 : List UInt8 := [42, 43, 183, 0, 7, 177]
abbrev dktJ9_init_0 : List UInt8 := dkwJ9_init_0 ++ []
theorem dksJ9_init_0 : cJ9_init.data.toList.drop 0 = dktJ9_init_0 := by decide +kernel
theorem dJ9_init_0 : decode cJ9_init 0 = .ok (.aload_n 0, 1) := dk_42 (dk_at dksJ9_init_0 0 rfl rfl)
theorem dJ9_init_1 : decode cJ9_init 1 = .ok (.aload_n 1, 1) := dk_43 (dk_at dksJ9_init_0 1 rfl rfl)
theorem dJ9_init_2 : decode cJ9_init 2 = .ok (.invokespecial 7, 3) := dk_183 0 7 (dk_at dksJ9_init_0 2 rfl rfl)
theorem dJ9_init_5 : decode cJ9_init 5 = .ok (.return_, 1) := dk_177 (dk_at dksJ9_init_0 5 rfl rfl)
theorem dJ9_init_2_0 : decode cJ9_init_2 0 = .ok (.aload_n 0, 1) := by decide +kernel
theorem dJ9_init_2_1 : decode cJ9_init_2 1 = .ok (.invokespecial 1, 3) := by decide +kernel
theorem dJ9_init_2_4 : decode cJ9_init_2 4 = .ok (.return_, 1) := by decide +kernel
theorem dJ10_init_0 : decode cJ10_init 0 = .ok (.aload_n 0, 1) := by decide +kernel
theorem dJ10_init_1 : decode cJ10_init 1 = .ok (.invokespecial 1, 3) := by decide +kernel
theorem dJ10_init_4 : decode cJ10_init 4 = .ok (.return_, 1) := by decide +kernel
def dkwJ11_init_0 : List UInt8 := [42, 43, 183, 0, 7, 177]
abbrev dktJ11_init_0 : List UInt8 := dkwJ11_init_0 ++ []
theorem dksJ11_init_0 : cJ11_init.data.toList.drop 0 = dktJ11_init_0 := by decide +kernel
theorem dJ11_init_0 : decode cJ11_init 0 = .ok (.aload_n 0, 1) := dk_42 (dk_at dksJ11_init_0 0 rfl rfl)
theorem dJ11_init_1 : decode cJ11_init 1 = .ok (.aload_n 1, 1) := dk_43 (dk_at dksJ11_init_0 1 rfl rfl)
theorem dJ11_init_2 : decode cJ11_init 2 = .ok (.invokespecial 7, 3) := dk_183 0 7 (dk_at dksJ11_init_0 2 rfl rfl)
theorem dJ11_init_5 : decode cJ11_init 5 = .ok (.return_, 1) := dk_177 (dk_at dksJ11_init_0 5 rfl rfl)
def dkwJ12_fill_0 : List UInt8 := [3, 61, 42, 190, 62, 28, 29, 162, 0, 13, 42, 28, 27, 79, 132, 2, 1, 167, 255, 244, 177]
abbrev dktJ12_fill_0 : List UInt8 := dkwJ12_fill_0 ++ []
theorem dksJ12_fill_0 : cJ12_fill.data.toList.drop 0 = dktJ12_fill_0 := by decide +kernel
theorem dJ12_fill_0 : decode cJ12_fill 0 = .ok (.iconst 0, 1) := dk_3 (dk_at dksJ12_fill_0 0 rfl rfl)
theorem dJ12_fill_1 : decode cJ12_fill 1 = .ok (.istore_n 2, 1) := dk_61 (dk_at dksJ12_fill_0 1 rfl rfl)
theorem dJ12_fill_2 : decode cJ12_fill 2 = .ok (.aload_n 0, 1) := dk_42 (dk_at dksJ12_fill_0 2 rfl rfl)
theorem dJ12_fill_3 : decode cJ12_fill 3 = .ok (.arraylength, 1) := dk_190 (dk_at dksJ12_fill_0 3 rfl rfl)
theorem dJ12_fill_4 : decode cJ12_fill 4 = .ok (.istore_n 3, 1) := dk_62 (dk_at dksJ12_fill_0 4 rfl rfl)
theorem dJ12_fill_5 : decode cJ12_fill 5 = .ok (.iload_n 2, 1) := dk_28 (dk_at dksJ12_fill_0 5 rfl rfl)
theorem dJ12_fill_6 : decode cJ12_fill 6 = .ok (.iload_n 3, 1) := dk_29 (dk_at dksJ12_fill_0 6 rfl rfl)
theorem dJ12_fill_7 : decode cJ12_fill 7 = .ok (.if_icmp .ge 13, 3) := dk_162 0 13 (dk_at dksJ12_fill_0 7 rfl rfl)
theorem dJ12_fill_10 : decode cJ12_fill 10 = .ok (.aload_n 0, 1) := dk_42 (dk_at dksJ12_fill_0 10 rfl rfl)
theorem dJ12_fill_11 : decode cJ12_fill 11 = .ok (.iload_n 2, 1) := dk_28 (dk_at dksJ12_fill_0 11 rfl rfl)
theorem dJ12_fill_12 : decode cJ12_fill 12 = .ok (.iload_n 1, 1) := dk_27 (dk_at dksJ12_fill_0 12 rfl rfl)
theorem dJ12_fill_13 : decode cJ12_fill 13 = .ok (.iastore, 1) := dk_79 (dk_at dksJ12_fill_0 13 rfl rfl)
theorem dJ12_fill_14 : decode cJ12_fill 14 = .ok (.iinc 2 1, 3) := dk_132 2 1 (dk_at dksJ12_fill_0 14 rfl rfl)
theorem dJ12_fill_17 : decode cJ12_fill 17 = .ok (.goto (-12), 3) := dk_167 255 244 (dk_at dksJ12_fill_0 17 rfl rfl)
theorem dJ12_fill_20 : decode cJ12_fill 20 = .ok (.return_, 1) := dk_177 (dk_at dksJ12_fill_0 20 rfl rfl)
def dkwJ12_fill_2_0 : List UInt8 := [3, 62, 42, 190, 54, 4, 29, 21, 4, 162, 0, 13, 42, 29, 31, 80, 132, 3, 1, 167, 255, 243, 177]
abbrev dktJ12_fill_2_0 : List UInt8 := dkwJ12_fill_2_0 ++ []
theorem dksJ12_fill_2_0 : cJ12_fill_2.data.toList.drop 0 = dktJ12_fill_2_0 := by decide +kernel
theorem dJ12_fill_2_0 : decode cJ12_fill_2 0 = .ok (.iconst 0, 1) := dk_3 (dk_at dksJ12_fill_2_0 0 rfl rfl)
theorem dJ12_fill_2_1 : decode cJ12_fill_2 1 = .ok (.istore_n 3, 1) := dk_62 (dk_at dksJ12_fill_2_0 1 rfl rfl)
theorem dJ12_fill_2_2 : decode cJ12_fill_2 2 = .ok (.aload_n 0, 1) := dk_42 (dk_at dksJ12_fill_2_0 2 rfl rfl)
theorem dJ12_fill_2_3 : decode cJ12_fill_2 3 = .ok (.arraylength, 1) := dk_190 (dk_at dksJ12_fill_2_0 3 rfl rfl)
theorem dJ12_fill_2_4 : decode cJ12_fill_2 4 = .ok (.istore 4, 2) := dk_54 4 (dk_at dksJ12_fill_2_0 4 rfl rfl)
theorem dJ12_fill_2_6 : decode cJ12_fill_2 6 = .ok (.iload_n 3, 1) := dk_29 (dk_at dksJ12_fill_2_0 6 rfl rfl)
theorem dJ12_fill_2_7 : decode cJ12_fill_2 7 = .ok (.iload 4, 2) := dk_21 4 (dk_at dksJ12_fill_2_0 7 rfl rfl)
theorem dJ12_fill_2_9 : decode cJ12_fill_2 9 = .ok (.if_icmp .ge 13, 3) := dk_162 0 13 (dk_at dksJ12_fill_2_0 9 rfl rfl)
theorem dJ12_fill_2_12 : decode cJ12_fill_2 12 = .ok (.aload_n 0, 1) := dk_42 (dk_at dksJ12_fill_2_0 12 rfl rfl)
theorem dJ12_fill_2_13 : decode cJ12_fill_2 13 = .ok (.iload_n 3, 1) := dk_29 (dk_at dksJ12_fill_2_0 13 rfl rfl)
theorem dJ12_fill_2_14 : decode cJ12_fill_2 14 = .ok (.lload_n 1, 1) := dk_31 (dk_at dksJ12_fill_2_0 14 rfl rfl)
theorem dJ12_fill_2_15 : decode cJ12_fill_2 15 = .ok (.lastore, 1) := dk_80 (dk_at dksJ12_fill_2_0 15 rfl rfl)
theorem dJ12_fill_2_16 : decode cJ12_fill_2 16 = .ok (.iinc 3 1, 3) := dk_132 3 1 (dk_at dksJ12_fill_2_0 16 rfl rfl)
theorem dJ12_fill_2_19 : decode cJ12_fill_2 19 = .ok (.goto (-13), 3) := dk_167 255 243 (dk_at dksJ12_fill_2_0 19 rfl rfl)
theorem dJ12_fill_2_22 : decode cJ12_fill_2 22 = .ok (.return_, 1) := dk_177 (dk_at dksJ12_fill_2_0 22 rfl rfl)
theorem dJ13_init_0 : decode cJ13_init 0 = .ok (.return_, 1) := by decide +kernel
def dkwL_law_67 : List UInt8 := [132, 4, 5, 167, 249, 60, 4, 172]
abbrev dktL_law_67 : List UInt8 := dkwL_law_67 ++ []
def dkwL_law_66 : List UInt8 := [159, 0, 5, 3, 172, 21, 5, 154, 0, 14, 45, 3, 47, 22, 6, 148, 153, 0, 5, 3, 172, 167, 0, 3]
abbrev dktL_law_66 : List UInt8 := dkwL_law_66 ++ dktL_law_67
def dkwL_law_65 : List UInt8 := [184, 0, 236, 54, 5, 44, 42, 21, 4, 4, 96, 46, 182, 0, 239, 55, 6, 44, 182, 0, 61, 21, 5]
abbrev dktL_law_65 : List UInt8 := dkwL_law_65 ++ dktL_law_66
def dkwL_law_64 : List UInt8 := [44, 42, 21, 4, 4, 96, 46, 182, 0, 235, 159, 0, 60, 3, 172, 43, 42, 21, 4, 4, 96, 46, 45]
abbrev dktL_law_64 : List UInt8 := dkwL_law_64 ++ dktL_law_65
def dkwL_law_63 : List UInt8 := [42, 21, 4, 4, 96, 46, 182, 0, 231, 159, 0, 85, 3, 172, 43, 42, 21, 4, 4, 96, 46, 182, 0, 232]
abbrev dktL_law_63 : List UInt8 := dkwL_law_63 ++ dktL_law_64
def dkwL_law_62 : List UInt8 := [21, 4, 4, 96, 46, 182, 0, 227, 159, 0, 110, 3, 172, 43, 42, 21, 4, 4, 96, 46, 182, 0, 228, 44]
abbrev dktL_law_62 : List UInt8 := dkwL_law_62 ++ dktL_law_63
def dkwL_law_61 : List UInt8 := [182, 0, 220, 44, 182, 0, 223, 159, 0, 135, 3, 172, 43, 42, 21, 4, 4, 96, 46, 182, 0, 224, 44, 42]
abbrev dktL_law_61 : List UInt8 := dkwL_law_61 ++ dktL_law_62
def dkwL_law_60 : List UInt8 := [44, 42, 21, 4, 4, 96, 46, 42, 21, 4, 5, 96, 46, 182, 0, 219, 159, 0, 148, 3, 172, 43]
abbrev dktL_law_60 : List UInt8 := dkwL_law_60 ++ dktL_law_61
def dkwL_law_59 : List UInt8 := [182, 0, 215, 159, 0, 185, 3, 172, 43, 42, 21, 4, 4, 96, 46, 42, 21, 4, 5, 96, 46, 182, 0, 216]
abbrev dktL_law_59 : List UInt8 := dkwL_law_59 ++ dktL_law_60
def dkwL_law_58 : List UInt8 := [159, 0, 210, 3, 172, 43, 42, 21, 4, 4, 96, 46, 182, 0, 212, 44, 42, 21, 4, 4, 96, 46]
abbrev dktL_law_58 : List UInt8 := dkwL_law_58 ++ dktL_law_59
def dkwL_law_57 : List UInt8 := [44, 42, 21, 4, 4, 96, 46, 182, 0, 207, 159, 0, 223, 3, 172, 43, 182, 0, 208, 44, 182, 0, 211]
abbrev dktL_law_57 : List UInt8 := dkwL_law_57 ++ dktL_law_58
def dkwL_law_56 : List UInt8 := [172, 43, 182, 0, 200, 44, 182, 0, 203, 159, 0, 248, 3, 172, 43, 42, 21, 4, 4, 96, 46, 182, 0, 204]
abbrev dktL_law_56 : List UInt8 := dkwL_law_56 ++ dktL_law_57
def dkwL_law_55 : List UInt8 := [46, 182, 0, 196, 44, 42, 21, 4, 4, 96, 46, 42, 21, 4, 5, 96, 46, 182, 0, 199, 159, 1, 5, 3]
abbrev dktL_law_55 : List UInt8 := dkwL_law_55 ++ dktL_law_56
def dkwL_law_54 : List UInt8 := [182, 0, 192, 44, 182, 0, 195, 159, 1, 42, 3, 172, 43, 42, 21, 4, 4, 96, 46, 42, 21, 4, 5, 96]
abbrev dktL_law_54 : List UInt8 := dkwL_law_54 ++ dktL_law_55
def dkwL_law_53 : List UInt8 := [182, 0, 187, 159, 1, 68, 3, 172, 43, 182, 0, 188, 44, 182, 0, 191, 159, 1, 55, 3, 172, 43]
abbrev dktL_law_53 : List UInt8 := dkwL_law_53 ++ dktL_law_54
def dkwL_law_52 : List UInt8 := [159, 1, 93, 3, 172, 43, 42, 21, 4, 4, 96, 46, 182, 0, 184, 44, 42, 21, 4, 4, 96, 46]
abbrev dktL_law_52 : List UInt8 := dkwL_law_52 ++ dktL_law_53
def dkwL_law_51 : List UInt8 := [3, 172, 43, 182, 0, 176, 44, 182, 0, 179, 159, 1, 106, 3, 172, 43, 182, 0, 180, 44, 182, 0, 183]
abbrev dktL_law_51 : List UInt8 := dkwL_law_51 ++ dktL_law_52
def dkwL_law_50 : List UInt8 := [96, 46, 182, 0, 172, 44, 42, 21, 4, 4, 96, 46, 42, 21, 4, 5, 96, 46, 182, 0, 175, 159, 1, 119]
abbrev dktL_law_50 : List UInt8 := dkwL_law_50 ++ dktL_law_51
def dkwL_law_49 : List UInt8 := [43, 182, 0, 168, 44, 182, 0, 171, 159, 1, 156, 3, 172, 43, 42, 21, 4, 4, 96, 46, 42, 21, 4, 5]
abbrev dktL_law_49 : List UInt8 := dkwL_law_49 ++ dktL_law_50
def dkwL_law_48 : List UInt8 := [182, 0, 164, 44, 42, 21, 4, 4, 96, 46, 42, 21, 4, 5, 96, 46, 182, 0, 167, 159, 1, 169, 3, 172]
abbrev dktL_law_48 : List UInt8 := dkwL_law_48 ++ dktL_law_49
def dkwL_law_47 : List UInt8 := [5, 96, 46, 182, 0, 163, 159, 1, 206, 3, 172, 43, 42, 21, 4, 4, 96, 46, 42, 21, 4, 5, 96, 46]
abbrev dktL_law_47 : List UInt8 := dkwL_law_47 ++ dktL_law_48
def dkwL_law_46 : List UInt8 := [21, 4, 4, 96, 46, 42, 21, 4, 5, 96, 46, 182, 0, 160, 44, 42, 21, 4, 4, 96, 46, 42, 21, 4]
abbrev dktL_law_46 : List UInt8 := dkwL_law_46 ++ dktL_law_47
def dkwL_law_45 : List UInt8 := [4, 96, 46, 182, 0, 156, 44, 42, 21, 4, 4, 96, 46, 182, 0, 159, 159, 1, 243, 3, 172, 43, 42]
abbrev dktL_law_45 : List UInt8 := dkwL_law_45 ++ dktL_law_46
def dkwL_law_44 : List UInt8 := [21, 5, 154, 0, 15, 45, 3, 47, 21, 6, 133, 148, 153, 0, 5, 3, 172, 167, 2, 10, 43, 42, 21, 4]
abbrev dktL_law_44 : List UInt8 := dkwL_law_44 ++ dktL_law_45
def dkwL_law_43 : List UInt8 := [96, 46, 42, 21, 4, 5, 96, 46, 182, 0, 155, 54, 6, 44, 182, 0, 61, 21, 5, 159, 0, 5, 3, 172]
abbrev dktL_law_43 : List UInt8 := dkwL_law_43 ++ dktL_law_44
def dkwL_law_42 : List UInt8 := [43, 42, 21, 4, 4, 96, 46, 42, 21, 4, 5, 96, 46, 45, 184, 0, 153, 54, 5, 44, 42, 21, 4, 4]
abbrev dktL_law_42 : List UInt8 := dkwL_law_42 ++ dktL_law_43
def dkwL_law_41 : List UInt8 := [182, 0, 149, 44, 42, 21, 4, 4, 96, 46, 42, 21, 4, 5, 96, 46, 182, 0, 152, 159, 2, 80, 3, 172]
abbrev dktL_law_41 : List UInt8 := dkwL_law_41 ++ dktL_law_42
def dkwL_law_40 : List UInt8 := [46, 182, 0, 148, 159, 2, 117, 3, 172, 43, 42, 21, 4, 4, 96, 46, 42, 21, 4, 5, 96, 46]
abbrev dktL_law_40 : List UInt8 := dkwL_law_40 ++ dktL_law_41
def dkwL_law_39 : List UInt8 := [182, 0, 144, 159, 2, 142, 3, 172, 43, 42, 21, 4, 4, 96, 46, 182, 0, 145, 44, 42, 21, 4, 4, 96]
abbrev dktL_law_39 : List UInt8 := dkwL_law_39 ++ dktL_law_40
def dkwL_law_38 : List UInt8 := [96, 46, 42, 21, 4, 5, 96, 46, 182, 0, 141, 44, 42, 21, 4, 4, 96, 46, 42, 21, 4, 5, 96, 46]
abbrev dktL_law_38 : List UInt8 := dkwL_law_38 ++ dktL_law_39
def dkwL_law_37 : List UInt8 := [21, 4, 4, 96, 46, 42, 21, 4, 5, 96, 46, 182, 0, 140, 159, 2, 179, 3, 172, 43, 42, 21, 4, 4]
abbrev dktL_law_37 : List UInt8 := dkwL_law_37 ++ dktL_law_38
def dkwL_law_36 : List UInt8 := [159, 2, 216, 3, 172, 43, 42, 21, 4, 4, 96, 46, 42, 21, 4, 5, 96, 46, 182, 0, 137, 44, 42]
abbrev dktL_law_36 : List UInt8 := dkwL_law_36 ++ dktL_law_37
def dkwL_law_35 : List UInt8 := [3, 172, 43, 42, 21, 4, 4, 96, 46, 182, 0, 133, 44, 42, 21, 4, 4, 96, 46, 182, 0, 136]
abbrev dktL_law_35 : List UInt8 := dkwL_law_35 ++ dktL_law_36
def dkwL_law_34 : List UInt8 := [172, 43, 42, 21, 4, 4, 96, 46, 182, 0, 129, 44, 42, 21, 4, 4, 96, 46, 182, 0, 132, 159, 2, 241]
abbrev dktL_law_34 : List UInt8 := dkwL_law_34 ++ dktL_law_35
def dkwL_law_33 : List UInt8 := [43, 42, 21, 4, 4, 96, 46, 182, 0, 125, 44, 42, 21, 4, 4, 96, 46, 182, 0, 128, 159, 3, 10, 3]
abbrev dktL_law_33 : List UInt8 := dkwL_law_33 ++ dktL_law_34
def dkwL_law_32 : List UInt8 := [182, 0, 121, 44, 42, 21, 4, 4, 96, 46, 42, 21, 4, 5, 96, 46, 182, 0, 124, 159, 3, 35, 3, 172]
abbrev dktL_law_32 : List UInt8 := dkwL_law_32 ++ dktL_law_33
def dkwL_law_31 : List UInt8 := [96, 46, 182, 0, 120, 159, 3, 72, 3, 172, 43, 42, 21, 4, 4, 96, 46, 42, 21, 4, 5, 96, 46]
abbrev dktL_law_31 : List UInt8 := dkwL_law_31 ++ dktL_law_32
def dkwL_law_30 : List UInt8 := [44, 182, 0, 116, 159, 3, 97, 3, 172, 43, 42, 21, 4, 4, 96, 46, 182, 0, 117, 44, 42, 21, 4, 4]
abbrev dktL_law_30 : List UInt8 := dkwL_law_30 ++ dktL_law_31
def dkwL_law_29 : List UInt8 := [96, 46, 182, 0, 109, 44, 42, 21, 4, 4, 96, 46, 182, 0, 112, 159, 3, 110, 3, 172, 43, 182, 0, 113]
abbrev dktL_law_29 : List UInt8 := dkwL_law_29 ++ dktL_law_30
def dkwL_law_28 : List UInt8 := [21, 4, 4, 96, 46, 42, 21, 4, 5, 96, 46, 182, 0, 108, 159, 3, 135, 3, 172, 43, 42, 21, 4, 4]
abbrev dktL_law_28 : List UInt8 := dkwL_law_28 ++ dktL_law_29
def dkwL_law_27 : List UInt8 := [159, 3, 172, 3, 172, 43, 42, 21, 4, 4, 96, 46, 42, 21, 4, 5, 96, 46, 182, 0, 105, 44, 42]
abbrev dktL_law_27 : List UInt8 := dkwL_law_27 ++ dktL_law_28
def dkwL_law_26 : List UInt8 := [5, 96, 46, 182, 0, 101, 44, 42, 21, 4, 4, 96, 46, 42, 21, 4, 5, 96, 46, 182, 0, 104]
abbrev dktL_law_26 : List UInt8 := dkwL_law_26 ++ dktL_law_27
def dkwL_law_25 : List UInt8 := [3, 47, 21, 6, 133, 148, 153, 0, 5, 3, 172, 167, 3, 207, 43, 42, 21, 4, 4, 96, 46, 42, 21, 4]
abbrev dktL_law_25 : List UInt8 := dkwL_law_25 ++ dktL_law_26
def dkwL_law_24 : List UInt8 := [96, 46, 182, 0, 100, 54, 6, 44, 182, 0, 61, 21, 5, 159, 0, 5, 3, 172, 21, 5, 154, 0, 15, 45]
abbrev dktL_law_24 : List UInt8 := dkwL_law_24 ++ dktL_law_25
def dkwL_law_23 : List UInt8 := [46, 42, 21, 4, 5, 96, 46, 45, 184, 0, 98, 54, 5, 44, 42, 21, 4, 4, 96, 46, 42, 21, 4, 5]
abbrev dktL_law_23 : List UInt8 := dkwL_law_23 ++ dktL_law_24
def dkwL_law_22 : List UInt8 := [159, 4, 34, 3, 172, 43, 182, 0, 94, 44, 182, 0, 97, 159, 4, 21, 3, 172, 43, 42, 21, 4, 4, 96]
abbrev dktL_law_22 : List UInt8 := dkwL_law_22 ++ dktL_law_23
def dkwL_law_21 : List UInt8 := [44, 42, 21, 4, 4, 96, 46, 182, 0, 89, 159, 4, 47, 3, 172, 43, 182, 0, 90, 44, 182, 0, 93]
abbrev dktL_law_21 : List UInt8 := dkwL_law_21 ++ dktL_law_22
def dkwL_law_20 : List UInt8 := [42, 21, 4, 4, 96, 46, 182, 0, 85, 159, 4, 72, 3, 172, 43, 42, 21, 4, 4, 96, 46, 182, 0, 86]
abbrev dktL_law_20 : List UInt8 := dkwL_law_20 ++ dktL_law_21
def dkwL_law_19 : List UInt8 := [21, 4, 7, 96, 46, 182, 0, 81, 159, 4, 97, 3, 172, 43, 42, 21, 4, 4, 96, 46, 182, 0, 82, 44]
abbrev dktL_law_19 : List UInt8 := dkwL_law_19 ++ dktL_law_20
def dkwL_law_18 : List UInt8 := [46, 182, 0, 77, 44, 42, 21, 4, 4, 96, 46, 42, 21, 4, 5, 96, 46, 42, 21, 4, 6, 96, 46, 42]
abbrev dktL_law_18 : List UInt8 := dkwL_law_18 ++ dktL_law_19
def dkwL_law_17 : List UInt8 := [43, 42, 21, 4, 4, 96, 46, 42, 21, 4, 5, 96, 46, 42, 21, 4, 6, 96, 46, 42, 21, 4, 7, 96]
abbrev dktL_law_17 : List UInt8 := dkwL_law_17 ++ dktL_law_18
def dkwL_law_16 : List UInt8 := [182, 0, 72, 44, 42, 21, 4, 4, 96, 46, 42, 21, 4, 5, 96, 46, 182, 0, 76, 159, 4, 158, 3, 172]
abbrev dktL_law_16 : List UInt8 := dkwL_law_16 ++ dktL_law_17
def dkwL_law_15 : List UInt8 := [46, 182, 0, 71, 159, 4, 195, 3, 172, 43, 42, 21, 4, 4, 96, 46, 42, 21, 4, 5, 96, 46]
abbrev dktL_law_15 : List UInt8 := dkwL_law_15 ++ dktL_law_16
def dkwL_law_14 : List UInt8 := [6, 96, 46, 182, 0, 67, 44, 42, 21, 4, 4, 96, 46, 42, 21, 4, 5, 96, 46, 42, 21, 4, 6, 96]
abbrev dktL_law_14 : List UInt8 := dkwL_law_14 ++ dktL_law_15
def dkwL_law_13 : List UInt8 := [153, 0, 5, 3, 172, 167, 4, 242, 43, 42, 21, 4, 4, 96, 46, 42, 21, 4, 5, 96, 46, 42, 21, 4]
abbrev dktL_law_13 : List UInt8 := dkwL_law_13 ++ dktL_law_14
def dkwL_law_12 : List UInt8 := [182, 0, 61, 21, 5, 159, 0, 5, 3, 172, 21, 5, 154, 0, 15, 45, 3, 47, 21, 6, 133, 148]
abbrev dktL_law_12 : List UInt8 := dkwL_law_12 ++ dktL_law_13
def dkwL_law_11 : List UInt8 := [184, 0, 64, 54, 5, 44, 42, 21, 4, 4, 96, 46, 42, 21, 4, 5, 96, 46, 182, 0, 66, 54, 6, 44]
abbrev dktL_law_11 : List UInt8 := dkwL_law_11 ++ dktL_law_12
def dkwL_law_10 : List UInt8 := [153, 0, 5, 3, 172, 167, 5, 54, 43, 42, 21, 4, 4, 96, 46, 42, 21, 4, 5, 96, 46, 45]
abbrev dktL_law_10 : List UInt8 := dkwL_law_10 ++ dktL_law_11
def dkwL_law_9 : List UInt8 := [182, 0, 61, 21, 5, 159, 0, 5, 3, 172, 21, 5, 154, 0, 15, 45, 3, 47, 21, 6, 133, 148]
abbrev dktL_law_9 : List UInt8 := dkwL_law_9 ++ dktL_law_10
def dkwL_law_8 : List UInt8 := [184, 0, 55, 54, 5, 44, 42, 21, 4, 4, 96, 46, 42, 21, 4, 5, 96, 46, 182, 0, 60, 54, 6, 44]
abbrev dktL_law_8 : List UInt8 := dkwL_law_8 ++ dktL_law_9
def dkwL_law_7 : List UInt8 := [182, 0, 54, 159, 5, 124, 3, 172, 43, 42, 21, 4, 4, 96, 46, 42, 21, 4, 5, 96, 46, 45]
abbrev dktL_law_7 : List UInt8 := dkwL_law_7 ++ dktL_law_8
def dkwL_law_6 : List UInt8 := [159, 5, 149, 3, 172, 43, 42, 21, 4, 4, 96, 46, 182, 0, 51, 44, 42, 21, 4, 4, 96, 46]
abbrev dktL_law_6 : List UInt8 := dkwL_law_6 ++ dktL_law_7
def dkwL_law_5 : List UInt8 := [3, 172, 43, 182, 0, 42, 44, 182, 0, 46, 159, 5, 162, 3, 172, 43, 182, 0, 47, 44, 182, 0, 50]
abbrev dktL_law_5 : List UInt8 := dkwL_law_5 ++ dktL_law_6
def dkwL_law_4 : List UInt8 := [172, 43, 42, 21, 4, 4, 96, 46, 182, 0, 37, 44, 42, 21, 4, 4, 96, 46, 182, 0, 41, 159, 5, 175]
abbrev dktL_law_4 : List UInt8 := dkwL_law_4 ++ dktL_law_5
def dkwL_law_3 : List UInt8 := [43, 42, 21, 4, 4, 96, 46, 182, 0, 32, 44, 42, 21, 4, 4, 96, 46, 182, 0, 36, 159, 5, 200, 3]
abbrev dktL_law_3 : List UInt8 := dkwL_law_3 ++ dktL_law_4
def dkwL_law_2 : List UInt8 := [170, 0, 0, 6, 177, 0, 0, 0, 0, 0, 0, 0, 49, 0, 0, 0, 213, 0, 0, 0, 238, 0, 0, 1, 7, 0, 0, 1, 20, 0, 0, 1, 33, 0, 0, 1, 58, 0, 0, 1, 126, 0, 0, 1, 194, 0, 0, 1, 243, 0, 0, 2, 24, 0, 0, 2, 85, 0, 0, 2, 110, 0, 0, 2, 135, 0, 0, 2, 148, 0, 0, 2, 161, 0, 0, 2, 229, 0, 0, 3, 10, 0, 0, 3, 47, 0, 0, 3, 72, 0, 0, 3, 85, 0, 0, 3, 110, 0, 0, 3, 147, 0, 0, 3, 172, 0, 0, 3, 197, 0, 0, 3, 222, 0, 0, 4, 3, 0, 0, 4, 40, 0, 0, 4, 65, 0, 0, 4, 102, 0, 0, 4, 170, 0, 0, 4, 195, 0, 0, 4, 232, 0, 0, 5, 13, 0, 0, 5, 26, 0, 0, 5, 63, 0, 0, 5, 76, 0, 0, 5, 89, 0, 0, 5, 114, 0, 0, 5, 127, 0, 0, 5, 140, 0, 0, 5, 177, 0, 0, 5, 190, 0, 0, 5, 215, 0, 0, 5, 228, 0, 0, 5, 253, 0, 0, 6, 34, 0, 0, 6, 47, 0, 0, 6, 72, 0, 0, 6, 97, 0, 0, 6, 122]
abbrev dktL_law_2 : List UInt8 := dkwL_law_2 ++ dktL_law_3
def dkwL_law_1 : List UInt8 := [21, 4, 42, 190, 8, 100, 163, 6, 193, 42, 21, 4, 46, 16, 63, 126]
abbrev dktL_law_1 : List UInt8 := dkwL_law_1 ++ dktL_law_2
def dkwL_law_0 : List UInt8 := [187, 0, 8, 89, 183, 0, 28, 76, 187, 0, 29, 89, 183, 0, 31, 77, 4, 188, 11, 78, 3, 54, 4]
abbrev dktL_law_0 : List UInt8 := dkwL_law_0 ++ dktL_law_1
theorem dksL_law_0 : cL_law.data.toList.drop 0 = dktL_law_0 := by decide +kernel
theorem dksL_law_1 : cL_law.data.toList.drop 23 = dktL_law_1 := dk_seg dksL_law_0 23 rfl rfl
theorem dksL_law_2 : cL_law.data.toList.drop 39 = dktL_law_2 := dk_seg dksL_law_1 16 rfl rfl
theorem dksL_law_3 : cL_law.data.toList.drop 252 = dktL_law_3 := dk_seg dksL_law_2 213 rfl rfl
theorem dksL_law_4 : cL_law.data.toList.drop 276 = dktL_law_4 := dk_seg dksL_law_3 24 rfl rfl
theorem dksL_law_5 : cL_law.data.toList.drop 300 = dktL_law_5 := dk_seg dksL_law_4 24 rfl rfl
theorem dksL_law_6 : cL_law.data.toList.drop 323 = dktL_law_6 := dk_seg dksL_law_5 23 rfl rfl
theorem dksL_law_7 : cL_law.data.toList.drop 345 = dktL_law_7 := dk_seg dksL_law_6 22 rfl rfl
theorem dksL_law_8 : cL_law.data.toList.drop 367 = dktL_law_8 := dk_seg dksL_law_7 22 rfl rfl
theorem dksL_law_9 : cL_law.data.toList.drop 391 = dktL_law_9 := dk_seg dksL_law_8 24 rfl rfl
theorem dksL_law_10 : cL_law.data.toList.drop 413 = dktL_law_10 := dk_seg dksL_law_9 22 rfl rfl
theorem dksL_law_11 : cL_law.data.toList.drop 435 = dktL_law_11 := dk_seg dksL_law_10 22 rfl rfl
theorem dksL_law_12 : cL_law.data.toList.drop 459 = dktL_law_12 := dk_seg dksL_law_11 24 rfl rfl
theorem dksL_law_13 : cL_law.data.toList.drop 481 = dktL_law_13 := dk_seg dksL_law_12 22 rfl rfl
theorem dksL_law_14 : cL_law.data.toList.drop 505 = dktL_law_14 := dk_seg dksL_law_13 24 rfl rfl
theorem dksL_law_15 : cL_law.data.toList.drop 529 = dktL_law_15 := dk_seg dksL_law_14 24 rfl rfl
theorem dksL_law_16 : cL_law.data.toList.drop 551 = dktL_law_16 := dk_seg dksL_law_15 22 rfl rfl
theorem dksL_law_17 : cL_law.data.toList.drop 575 = dktL_law_17 := dk_seg dksL_law_16 24 rfl rfl
theorem dksL_law_18 : cL_law.data.toList.drop 599 = dktL_law_18 := dk_seg dksL_law_17 24 rfl rfl
theorem dksL_law_19 : cL_law.data.toList.drop 623 = dktL_law_19 := dk_seg dksL_law_18 24 rfl rfl
theorem dksL_law_20 : cL_law.data.toList.drop 647 = dktL_law_20 := dk_seg dksL_law_19 24 rfl rfl
theorem dksL_law_21 : cL_law.data.toList.drop 671 = dktL_law_21 := dk_seg dksL_law_20 24 rfl rfl
theorem dksL_law_22 : cL_law.data.toList.drop 694 = dktL_law_22 := dk_seg dksL_law_21 23 rfl rfl
theorem dksL_law_23 : cL_law.data.toList.drop 718 = dktL_law_23 := dk_seg dksL_law_22 24 rfl rfl
theorem dksL_law_24 : cL_law.data.toList.drop 742 = dktL_law_24 := dk_seg dksL_law_23 24 rfl rfl
theorem dksL_law_25 : cL_law.data.toList.drop 766 = dktL_law_25 := dk_seg dksL_law_24 24 rfl rfl
theorem dksL_law_26 : cL_law.data.toList.drop 790 = dktL_law_26 := dk_seg dksL_law_25 24 rfl rfl
theorem dksL_law_27 : cL_law.data.toList.drop 812 = dktL_law_27 := dk_seg dksL_law_26 22 rfl rfl
theorem dksL_law_28 : cL_law.data.toList.drop 835 = dktL_law_28 := dk_seg dksL_law_27 23 rfl rfl
theorem dksL_law_29 : cL_law.data.toList.drop 859 = dktL_law_29 := dk_seg dksL_law_28 24 rfl rfl
theorem dksL_law_30 : cL_law.data.toList.drop 883 = dktL_law_30 := dk_seg dksL_law_29 24 rfl rfl
theorem dksL_law_31 : cL_law.data.toList.drop 907 = dktL_law_31 := dk_seg dksL_law_30 24 rfl rfl
theorem dksL_law_32 : cL_law.data.toList.drop 930 = dktL_law_32 := dk_seg dksL_law_31 23 rfl rfl
theorem dksL_law_33 : cL_law.data.toList.drop 954 = dktL_law_33 := dk_seg dksL_law_32 24 rfl rfl
theorem dksL_law_34 : cL_law.data.toList.drop 978 = dktL_law_34 := dk_seg dksL_law_33 24 rfl rfl
theorem dksL_law_35 : cL_law.data.toList.drop 1002 = dktL_law_35 := dk_seg dksL_law_34 24 rfl rfl
theorem dksL_law_36 : cL_law.data.toList.drop 1024 = dktL_law_36 := dk_seg dksL_law_35 22 rfl rfl
theorem dksL_law_37 : cL_law.data.toList.drop 1047 = dktL_law_37 := dk_seg dksL_law_36 23 rfl rfl
theorem dksL_law_38 : cL_law.data.toList.drop 1071 = dktL_law_38 := dk_seg dksL_law_37 24 rfl rfl
theorem dksL_law_39 : cL_law.data.toList.drop 1095 = dktL_law_39 := dk_seg dksL_law_38 24 rfl rfl
theorem dksL_law_40 : cL_law.data.toList.drop 1119 = dktL_law_40 := dk_seg dksL_law_39 24 rfl rfl
theorem dksL_law_41 : cL_law.data.toList.drop 1141 = dktL_law_41 := dk_seg dksL_law_40 22 rfl rfl
theorem dksL_law_42 : cL_law.data.toList.drop 1165 = dktL_law_42 := dk_seg dksL_law_41 24 rfl rfl
theorem dksL_law_43 : cL_law.data.toList.drop 1189 = dktL_law_43 := dk_seg dksL_law_42 24 rfl rfl
theorem dksL_law_44 : cL_law.data.toList.drop 1213 = dktL_law_44 := dk_seg dksL_law_43 24 rfl rfl
theorem dksL_law_45 : cL_law.data.toList.drop 1237 = dktL_law_45 := dk_seg dksL_law_44 24 rfl rfl
theorem dksL_law_46 : cL_law.data.toList.drop 1260 = dktL_law_46 := dk_seg dksL_law_45 23 rfl rfl
theorem dksL_law_47 : cL_law.data.toList.drop 1284 = dktL_law_47 := dk_seg dksL_law_46 24 rfl rfl
theorem dksL_law_48 : cL_law.data.toList.drop 1308 = dktL_law_48 := dk_seg dksL_law_47 24 rfl rfl
theorem dksL_law_49 : cL_law.data.toList.drop 1332 = dktL_law_49 := dk_seg dksL_law_48 24 rfl rfl
theorem dksL_law_50 : cL_law.data.toList.drop 1356 = dktL_law_50 := dk_seg dksL_law_49 24 rfl rfl
theorem dksL_law_51 : cL_law.data.toList.drop 1380 = dktL_law_51 := dk_seg dksL_law_50 24 rfl rfl
theorem dksL_law_52 : cL_law.data.toList.drop 1403 = dktL_law_52 := dk_seg dksL_law_51 23 rfl rfl
theorem dksL_law_53 : cL_law.data.toList.drop 1425 = dktL_law_53 := dk_seg dksL_law_52 22 rfl rfl
theorem dksL_law_54 : cL_law.data.toList.drop 1447 = dktL_law_54 := dk_seg dksL_law_53 22 rfl rfl
theorem dksL_law_55 : cL_law.data.toList.drop 1471 = dktL_law_55 := dk_seg dksL_law_54 24 rfl rfl
theorem dksL_law_56 : cL_law.data.toList.drop 1495 = dktL_law_56 := dk_seg dksL_law_55 24 rfl rfl
theorem dksL_law_57 : cL_law.data.toList.drop 1519 = dktL_law_57 := dk_seg dksL_law_56 24 rfl rfl
theorem dksL_law_58 : cL_law.data.toList.drop 1542 = dktL_law_58 := dk_seg dksL_law_57 23 rfl rfl
theorem dksL_law_59 : cL_law.data.toList.drop 1564 = dktL_law_59 := dk_seg dksL_law_58 22 rfl rfl
theorem dksL_law_60 : cL_law.data.toList.drop 1588 = dktL_law_60 := dk_seg dksL_law_59 24 rfl rfl
theorem dksL_law_61 : cL_law.data.toList.drop 1610 = dktL_law_61 := dk_seg dksL_law_60 22 rfl rfl
theorem dksL_law_62 : cL_law.data.toList.drop 1634 = dktL_law_62 := dk_seg dksL_law_61 24 rfl rfl
theorem dksL_law_63 : cL_law.data.toList.drop 1658 = dktL_law_63 := dk_seg dksL_law_62 24 rfl rfl
theorem dksL_law_64 : cL_law.data.toList.drop 1682 = dktL_law_64 := dk_seg dksL_law_63 24 rfl rfl
theorem dksL_law_65 : cL_law.data.toList.drop 1705 = dktL_law_65 := dk_seg dksL_law_64 23 rfl rfl
theorem dksL_law_66 : cL_law.data.toList.drop 1728 = dktL_law_66 := dk_seg dksL_law_65 23 rfl rfl
theorem dksL_law_67 : cL_law.data.toList.drop 1752 = dktL_law_67 := dk_seg dksL_law_66 24 rfl rfl
theorem dL_law_0 : decode cL_law 0 = .ok (.new 8, 3) := dk_187 0 8 (dk_at dksL_law_0 0 rfl rfl)
theorem dL_law_3 : decode cL_law 3 = .ok (.dup, 1) := dk_89 (dk_at dksL_law_0 3 rfl rfl)
theorem dL_law_4 : decode cL_law 4 = .ok (.invokespecial 28, 3) := dk_183 0 28 (dk_at dksL_law_0 4 rfl rfl)
theorem dL_law_7 : decode cL_law 7 = .ok (.astore_n 1, 1) := dk_76 (dk_at dksL_law_0 7 rfl rfl)
theorem dL_law_8 : decode cL_law 8 = .ok (.new 29, 3) := dk_187 0 29 (dk_at dksL_law_0 8 rfl rfl)
theorem dL_law_11 : decode cL_law 11 = .ok (.dup, 1) := dk_89 (dk_at dksL_law_0 11 rfl rfl)
theorem dL_law_12 : decode cL_law 12 = .ok (.invokespecial 31, 3) := dk_183 0 31 (dk_at dksL_law_0 12 rfl rfl)
theorem dL_law_15 : decode cL_law 15 = .ok (.astore_n 2, 1) := dk_77 (dk_at dksL_law_0 15 rfl rfl)
theorem dL_law_16 : decode cL_law 16 = .ok (.iconst 1, 1) := dk_4 (dk_at dksL_law_0 16 rfl rfl)
theorem dL_law_17 : decode cL_law 17 = .ok (.newarray .long, 2) := dk_188_11 (dk_at dksL_law_0 17 rfl rfl)
theorem dL_law_19 : decode cL_law 19 = .ok (.astore_n 3, 1) := dk_78 (dk_at dksL_law_0 19 rfl rfl)
theorem dL_law_20 : decode cL_law 20 = .ok (.iconst 0, 1) := dk_3 (dk_at dksL_law_0 20 rfl rfl)
theorem dL_law_21 : decode cL_law 21 = .ok (.istore 4, 2) := dk_54 4 (dk_at dksL_law_0 21 rfl rfl)
theorem dL_law_23 : decode cL_law 23 = .ok (.iload 4, 2) := dk_21 4 (dk_at dksL_law_1 0 rfl rfl)
theorem dL_law_25 : decode cL_law 25 = .ok (.aload_n 0, 1) := dk_42 (dk_at dksL_law_1 2 rfl rfl)
theorem dL_law_26 : decode cL_law 26 = .ok (.arraylength, 1) := dk_190 (dk_at dksL_law_1 3 rfl rfl)
theorem dL_law_27 : decode cL_law 27 = .ok (.iconst 5, 1) := dk_8 (dk_at dksL_law_1 4 rfl rfl)
theorem dL_law_28 : decode cL_law 28 = .ok (.isub, 1) := dk_100 (dk_at dksL_law_1 5 rfl rfl)
theorem dL_law_29 : decode cL_law 29 = .ok (.if_icmp .gt 1729, 3) := dk_163 6 193 (dk_at dksL_law_1 6 rfl rfl)
theorem dL_law_32 : decode cL_law 32 = .ok (.aload_n 0, 1) := dk_42 (dk_at dksL_law_1 9 rfl rfl)
theorem dL_law_33 : decode cL_law 33 = .ok (.iload 4, 2) := dk_21 4 (dk_at dksL_law_1 10 rfl rfl)
theorem dL_law_35 : decode cL_law 35 = .ok (.iaload, 1) := dk_46 (dk_at dksL_law_1 12 rfl rfl)
theorem dL_law_36 : decode cL_law 36 = .ok (.bipush 63, 2) := dk_16 63 (dk_at dksL_law_1 13 rfl rfl)
theorem dL_law_38 : decode cL_law 38 = .ok (.iand, 1) := dk_126 (dk_at dksL_law_1 15 rfl rfl)
theorem dL_law_39 : decode cL_law 39 = .ok (.tableswitch 1713 0 49 #[213, 238, 263, 276, 289, 314, 382, 450, 499, 536, 597, 622, 647, 660, 673, 741, 778, 815, 840, 853, 878, 915, 940, 965, 990, 1027, 1064, 1089, 1126, 1194, 1219, 1256, 1293, 1306, 1343, 1356, 1369, 1394, 1407, 1420, 1457, 1470, 1495, 1508, 1533, 1570, 1583, 1608, 1633, 1658], 213) := by decide +kernel
theorem dL_law_252 : decode cL_law 252 = .ok (.aload_n 1, 1) := dk_43 (dk_at dksL_law_3 0 rfl rfl)
theorem dL_law_253 : decode cL_law 253 = .ok (.aload_n 0, 1) := dk_42 (dk_at dksL_law_3 1 rfl rfl)
theorem dL_law_254 : decode cL_law 254 = .ok (.iload 4, 2) := dk_21 4 (dk_at dksL_law_3 2 rfl rfl)
theorem dL_law_256 : decode cL_law 256 = .ok (.iconst 1, 1) := dk_4 (dk_at dksL_law_3 4 rfl rfl)
theorem dL_law_257 : decode cL_law 257 = .ok (.iadd, 1) := dk_96 (dk_at dksL_law_3 5 rfl rfl)
theorem dL_law_258 : decode cL_law 258 = .ok (.iaload, 1) := dk_46 (dk_at dksL_law_3 6 rfl rfl)
theorem dL_law_259 : decode cL_law 259 = .ok (.invokevirtual 32, 3) := dk_182 0 32 (dk_at dksL_law_3 7 rfl rfl)
theorem dL_law_262 : decode cL_law 262 = .ok (.aload_n 2, 1) := dk_44 (dk_at dksL_law_3 10 rfl rfl)
theorem dL_law_263 : decode cL_law 263 = .ok (.aload_n 0, 1) := dk_42 (dk_at dksL_law_3 11 rfl rfl)
theorem dL_law_264 : decode cL_law 264 = .ok (.iload 4, 2) := dk_21 4 (dk_at dksL_law_3 12 rfl rfl)
theorem dL_law_266 : decode cL_law 266 = .ok (.iconst 1, 1) := dk_4 (dk_at dksL_law_3 14 rfl rfl)
theorem dL_law_267 : decode cL_law 267 = .ok (.iadd, 1) := dk_96 (dk_at dksL_law_3 15 rfl rfl)
theorem dL_law_268 : decode cL_law 268 = .ok (.iaload, 1) := dk_46 (dk_at dksL_law_3 16 rfl rfl)
theorem dL_law_269 : decode cL_law 269 = .ok (.invokevirtual 36, 3) := dk_182 0 36 (dk_at dksL_law_3 17 rfl rfl)
theorem dL_law_272 : decode cL_law 272 = .ok (.if_icmp .eq 1480, 3) := dk_159 5 200 (dk_at dksL_law_3 20 rfl rfl)
theorem dL_law_275 : decode cL_law 275 = .ok (.iconst 0, 1) := dk_3 (dk_at dksL_law_3 23 rfl rfl)
theorem dL_law_276 : decode cL_law 276 = .ok (.ireturn, 1) := dk_172 (dk_at dksL_law_4 0 rfl rfl)
theorem dL_law_277 : decode cL_law 277 = .ok (.aload_n 1, 1) := dk_43 (dk_at dksL_law_4 1 rfl rfl)
theorem dL_law_278 : decode cL_law 278 = .ok (.aload_n 0, 1) := dk_42 (dk_at dksL_law_4 2 rfl rfl)
theorem dL_law_279 : decode cL_law 279 = .ok (.iload 4, 2) := dk_21 4 (dk_at dksL_law_4 3 rfl rfl)
theorem dL_law_281 : decode cL_law 281 = .ok (.iconst 1, 1) := dk_4 (dk_at dksL_law_4 5 rfl rfl)
theorem dL_law_282 : decode cL_law 282 = .ok (.iadd, 1) := dk_96 (dk_at dksL_law_4 6 rfl rfl)
theorem dL_law_283 : decode cL_law 283 = .ok (.iaload, 1) := dk_46 (dk_at dksL_law_4 7 rfl rfl)
theorem dL_law_284 : decode cL_law 284 = .ok (.invokevirtual 37, 3) := dk_182 0 37 (dk_at dksL_law_4 8 rfl rfl)
theorem dL_law_287 : decode cL_law 287 = .ok (.aload_n 2, 1) := dk_44 (dk_at dksL_law_4 11 rfl rfl)
theorem dL_law_288 : decode cL_law 288 = .ok (.aload_n 0, 1) := dk_42 (dk_at dksL_law_4 12 rfl rfl)
theorem dL_law_289 : decode cL_law 289 = .ok (.iload 4, 2) := dk_21 4 (dk_at dksL_law_4 13 rfl rfl)
theorem dL_law_291 : decode cL_law 291 = .ok (.iconst 1, 1) := dk_4 (dk_at dksL_law_4 15 rfl rfl)
theorem dL_law_292 : decode cL_law 292 = .ok (.iadd, 1) := dk_96 (dk_at dksL_law_4 16 rfl rfl)
theorem dL_law_293 : decode cL_law 293 = .ok (.iaload, 1) := dk_46 (dk_at dksL_law_4 17 rfl rfl)
theorem dL_law_294 : decode cL_law 294 = .ok (.invokevirtual 41, 3) := dk_182 0 41 (dk_at dksL_law_4 18 rfl rfl)
theorem dL_law_297 : decode cL_law 297 = .ok (.if_icmp .eq 1455, 3) := dk_159 5 175 (dk_at dksL_law_4 21 rfl rfl)
theorem dL_law_300 : decode cL_law 300 = .ok (.iconst 0, 1) := dk_3 (dk_at dksL_law_5 0 rfl rfl)
theorem dL_law_301 : decode cL_law 301 = .ok (.ireturn, 1) := dk_172 (dk_at dksL_law_5 1 rfl rfl)
theorem dL_law_302 : decode cL_law 302 = .ok (.aload_n 1, 1) := dk_43 (dk_at dksL_law_5 2 rfl rfl)
theorem dL_law_303 : decode cL_law 303 = .ok (.invokevirtual 42, 3) := dk_182 0 42 (dk_at dksL_law_5 3 rfl rfl)
theorem dL_law_306 : decode cL_law 306 = .ok (.aload_n 2, 1) := dk_44 (dk_at dksL_law_5 6 rfl rfl)
theorem dL_law_307 : decode cL_law 307 = .ok (.invokevirtual 46, 3) := dk_182 0 46 (dk_at dksL_law_5 7 rfl rfl)
theorem dL_law_310 : decode cL_law 310 = .ok (.if_icmp .eq 1442, 3) := dk_159 5 162 (dk_at dksL_law_5 10 rfl rfl)
theorem dL_law_313 : decode cL_law 313 = .ok (.iconst 0, 1) := dk_3 (dk_at dksL_law_5 13 rfl rfl)
theorem dL_law_314 : decode cL_law 314 = .ok (.ireturn, 1) := dk_172 (dk_at dksL_law_5 14 rfl rfl)
theorem dL_law_315 : decode cL_law 315 = .ok (.aload_n 1, 1) := dk_43 (dk_at dksL_law_5 15 rfl rfl)
theorem dL_law_316 : decode cL_law 316 = .ok (.invokevirtual 47, 3) := dk_182 0 47 (dk_at dksL_law_5 16 rfl rfl)
theorem dL_law_319 : decode cL_law 319 = .ok (.aload_n 2, 1) := dk_44 (dk_at dksL_law_5 19 rfl rfl)
theorem dL_law_320 : decode cL_law 320 = .ok (.invokevirtual 50, 3) := dk_182 0 50 (dk_at dksL_law_5 20 rfl rfl)
theorem dL_law_323 : decode cL_law 323 = .ok (.if_icmp .eq 1429, 3) := dk_159 5 149 (dk_at dksL_law_6 0 rfl rfl)
theorem dL_law_326 : decode cL_law 326 = .ok (.iconst 0, 1) := dk_3 (dk_at dksL_law_6 3 rfl rfl)
theorem dL_law_327 : decode cL_law 327 = .ok (.ireturn, 1) := dk_172 (dk_at dksL_law_6 4 rfl rfl)
theorem dL_law_328 : decode cL_law 328 = .ok (.aload_n 1, 1) := dk_43 (dk_at dksL_law_6 5 rfl rfl)
theorem dL_law_329 : decode cL_law 329 = .ok (.aload_n 0, 1) := dk_42 (dk_at dksL_law_6 6 rfl rfl)
theorem dL_law_330 : decode cL_law 330 = .ok (.iload 4, 2) := dk_21 4 (dk_at dksL_law_6 7 rfl rfl)
theorem dL_law_332 : decode cL_law 332 = .ok (.iconst 1, 1) := dk_4 (dk_at dksL_law_6 9 rfl rfl)
theorem dL_law_333 : decode cL_law 333 = .ok (.iadd, 1) := dk_96 (dk_at dksL_law_6 10 rfl rfl)
theorem dL_law_334 : decode cL_law 334 = .ok (.iaload, 1) := dk_46 (dk_at dksL_law_6 11 rfl rfl)
theorem dL_law_335 : decode cL_law 335 = .ok (.invokevirtual 51, 3) := dk_182 0 51 (dk_at dksL_law_6 12 rfl rfl)
theorem dL_law_338 : decode cL_law 338 = .ok (.aload_n 2, 1) := dk_44 (dk_at dksL_law_6 15 rfl rfl)
theorem dL_law_339 : decode cL_law 339 = .ok (.aload_n 0, 1) := dk_42 (dk_at dksL_law_6 16 rfl rfl)
theorem dL_law_340 : decode cL_law 340 = .ok (.iload 4, 2) := dk_21 4 (dk_at dksL_law_6 17 rfl rfl)
theorem dL_law_342 : decode cL_law 342 = .ok (.iconst 1, 1) := dk_4 (dk_at dksL_law_6 19 rfl rfl)
theorem dL_law_343 : decode cL_law 343 = .ok (.iadd, 1) := dk_96 (dk_at dksL_law_6 20 rfl rfl)
theorem dL_law_344 : decode cL_law 344 = .ok (.iaload, 1) := dk_46 (dk_at dksL_law_6 21 rfl rfl)
theorem dL_law_345 : decode cL_law 345 = .ok (.invokevirtual 54, 3) := dk_182 0 54 (dk_at dksL_law_7 0 rfl rfl)
theorem dL_law_348 : decode cL_law 348 = .ok (.if_icmp .eq 1404, 3) := dk_159 5 124 (dk_at dksL_law_7 3 rfl rfl)
theorem dL_law_351 : decode cL_law 351 = .ok (.iconst 0, 1) := dk_3 (dk_at dksL_law_7 6 rfl rfl)
theorem dL_law_352 : decode cL_law 352 = .ok (.ireturn, 1) := dk_172 (dk_at dksL_law_7 7 rfl rfl)
theorem dL_law_353 : decode cL_law 353 = .ok (.aload_n 1, 1) := dk_43 (dk_at dksL_law_7 8 rfl rfl)
theorem dL_law_354 : decode cL_law 354 = .ok (.aload_n 0, 1) := dk_42 (dk_at dksL_law_7 9 rfl rfl)
theorem dL_law_355 : decode cL_law 355 = .ok (.iload 4, 2) := dk_21 4 (dk_at dksL_law_7 10 rfl rfl)
theorem dL_law_357 : decode cL_law 357 = .ok (.iconst 1, 1) := dk_4 (dk_at dksL_law_7 12 rfl rfl)
theorem dL_law_358 : decode cL_law 358 = .ok (.iadd, 1) := dk_96 (dk_at dksL_law_7 13 rfl rfl)
theorem dL_law_359 : decode cL_law 359 = .ok (.iaload, 1) := dk_46 (dk_at dksL_law_7 14 rfl rfl)
theorem dL_law_360 : decode cL_law 360 = .ok (.aload_n 0, 1) := dk_42 (dk_at dksL_law_7 15 rfl rfl)
theorem dL_law_361 : decode cL_law 361 = .ok (.iload 4, 2) := dk_21 4 (dk_at dksL_law_7 16 rfl rfl)
theorem dL_law_363 : decode cL_law 363 = .ok (.iconst 2, 1) := dk_5 (dk_at dksL_law_7 18 rfl rfl)
theorem dL_law_364 : decode cL_law 364 = .ok (.iadd, 1) := dk_96 (dk_at dksL_law_7 19 rfl rfl)
theorem dL_law_365 : decode cL_law 365 = .ok (.iaload, 1) := dk_46 (dk_at dksL_law_7 20 rfl rfl)
theorem dL_law_366 : decode cL_law 366 = .ok (.aload_n 3, 1) := dk_45 (dk_at dksL_law_7 21 rfl rfl)
theorem dL_law_367 : decode cL_law 367 = .ok (.invokestatic 55, 3) := dk_184 0 55 (dk_at dksL_law_8 0 rfl rfl)
theorem dL_law_370 : decode cL_law 370 = .ok (.istore 5, 2) := dk_54 5 (dk_at dksL_law_8 3 rfl rfl)
theorem dL_law_372 : decode cL_law 372 = .ok (.aload_n 2, 1) := dk_44 (dk_at dksL_law_8 5 rfl rfl)
theorem dL_law_373 : decode cL_law 373 = .ok (.aload_n 0, 1) := dk_42 (dk_at dksL_law_8 6 rfl rfl)
theorem dL_law_374 : decode cL_law 374 = .ok (.iload 4, 2) := dk_21 4 (dk_at dksL_law_8 7 rfl rfl)
theorem dL_law_376 : decode cL_law 376 = .ok (.iconst 1, 1) := dk_4 (dk_at dksL_law_8 9 rfl rfl)
theorem dL_law_377 : decode cL_law 377 = .ok (.iadd, 1) := dk_96 (dk_at dksL_law_8 10 rfl rfl)
theorem dL_law_378 : decode cL_law 378 = .ok (.iaload, 1) := dk_46 (dk_at dksL_law_8 11 rfl rfl)
theorem dL_law_379 : decode cL_law 379 = .ok (.aload_n 0, 1) := dk_42 (dk_at dksL_law_8 12 rfl rfl)
theorem dL_law_380 : decode cL_law 380 = .ok (.iload 4, 2) := dk_21 4 (dk_at dksL_law_8 13 rfl rfl)
theorem dL_law_382 : decode cL_law 382 = .ok (.iconst 2, 1) := dk_5 (dk_at dksL_law_8 15 rfl rfl)
theorem dL_law_383 : decode cL_law 383 = .ok (.iadd, 1) := dk_96 (dk_at dksL_law_8 16 rfl rfl)
theorem dL_law_384 : decode cL_law 384 = .ok (.iaload, 1) := dk_46 (dk_at dksL_law_8 17 rfl rfl)
theorem dL_law_385 : decode cL_law 385 = .ok (.invokevirtual 60, 3) := dk_182 0 60 (dk_at dksL_law_8 18 rfl rfl)
theorem dL_law_388 : decode cL_law 388 = .ok (.istore 6, 2) := dk_54 6 (dk_at dksL_law_8 21 rfl rfl)
theorem dL_law_390 : decode cL_law 390 = .ok (.aload_n 2, 1) := dk_44 (dk_at dksL_law_8 23 rfl rfl)
theorem dL_law_391 : decode cL_law 391 = .ok (.invokevirtual 61, 3) := dk_182 0 61 (dk_at dksL_law_9 0 rfl rfl)
theorem dL_law_394 : decode cL_law 394 = .ok (.iload 5, 2) := dk_21 5 (dk_at dksL_law_9 3 rfl rfl)
theorem dL_law_396 : decode cL_law 396 = .ok (.if_icmp .eq 5, 3) := dk_159 0 5 (dk_at dksL_law_9 5 rfl rfl)
theorem dL_law_399 : decode cL_law 399 = .ok (.iconst 0, 1) := dk_3 (dk_at dksL_law_9 8 rfl rfl)
theorem dL_law_400 : decode cL_law 400 = .ok (.ireturn, 1) := dk_172 (dk_at dksL_law_9 9 rfl rfl)
theorem dL_law_401 : decode cL_law 401 = .ok (.iload 5, 2) := dk_21 5 (dk_at dksL_law_9 10 rfl rfl)
theorem dL_law_403 : decode cL_law 403 = .ok (.ifCond .ne 15, 3) := dk_154 0 15 (dk_at dksL_law_9 12 rfl rfl)
theorem dL_law_406 : decode cL_law 406 = .ok (.aload_n 3, 1) := dk_45 (dk_at dksL_law_9 15 rfl rfl)
theorem dL_law_407 : decode cL_law 407 = .ok (.iconst 0, 1) := dk_3 (dk_at dksL_law_9 16 rfl rfl)
theorem dL_law_408 : decode cL_law 408 = .ok (.laload, 1) := dk_47 (dk_at dksL_law_9 17 rfl rfl)
theorem dL_law_409 : decode cL_law 409 = .ok (.iload 6, 2) := dk_21 6 (dk_at dksL_law_9 18 rfl rfl)
theorem dL_law_411 : decode cL_law 411 = .ok (.i2l, 1) := dk_133 (dk_at dksL_law_9 20 rfl rfl)
theorem dL_law_412 : decode cL_law 412 = .ok (.lcmp, 1) := dk_148 (dk_at dksL_law_9 21 rfl rfl)
theorem dL_law_413 : decode cL_law 413 = .ok (.ifCond .eq 5, 3) := dk_153 0 5 (dk_at dksL_law_10 0 rfl rfl)
theorem dL_law_416 : decode cL_law 416 = .ok (.iconst 0, 1) := dk_3 (dk_at dksL_law_10 3 rfl rfl)
theorem dL_law_417 : decode cL_law 417 = .ok (.ireturn, 1) := dk_172 (dk_at dksL_law_10 4 rfl rfl)
theorem dL_law_418 : decode cL_law 418 = .ok (.goto 1334, 3) := dk_167 5 54 (dk_at dksL_law_10 5 rfl rfl)
theorem dL_law_421 : decode cL_law 421 = .ok (.aload_n 1, 1) := dk_43 (dk_at dksL_law_10 8 rfl rfl)
theorem dL_law_422 : decode cL_law 422 = .ok (.aload_n 0, 1) := dk_42 (dk_at dksL_law_10 9 rfl rfl)
theorem dL_law_423 : decode cL_law 423 = .ok (.iload 4, 2) := dk_21 4 (dk_at dksL_law_10 10 rfl rfl)
theorem dL_law_425 : decode cL_law 425 = .ok (.iconst 1, 1) := dk_4 (dk_at dksL_law_10 12 rfl rfl)
theorem dL_law_426 : decode cL_law 426 = .ok (.iadd, 1) := dk_96 (dk_at dksL_law_10 13 rfl rfl)
theorem dL_law_427 : decode cL_law 427 = .ok (.iaload, 1) := dk_46 (dk_at dksL_law_10 14 rfl rfl)
theorem dL_law_428 : decode cL_law 428 = .ok (.aload_n 0, 1) := dk_42 (dk_at dksL_law_10 15 rfl rfl)
theorem dL_law_429 : decode cL_law 429 = .ok (.iload 4, 2) := dk_21 4 (dk_at dksL_law_10 16 rfl rfl)
theorem dL_law_431 : decode cL_law 431 = .ok (.iconst 2, 1) := dk_5 (dk_at dksL_law_10 18 rfl rfl)
theorem dL_law_432 : decode cL_law 432 = .ok (.iadd, 1) := dk_96 (dk_at dksL_law_10 19 rfl rfl)
theorem dL_law_433 : decode cL_law 433 = .ok (.iaload, 1) := dk_46 (dk_at dksL_law_10 20 rfl rfl)
theorem dL_law_434 : decode cL_law 434 = .ok (.aload_n 3, 1) := dk_45 (dk_at dksL_law_10 21 rfl rfl)
theorem dL_law_435 : decode cL_law 435 = .ok (.invokestatic 64, 3) := dk_184 0 64 (dk_at dksL_law_11 0 rfl rfl)
theorem dL_law_438 : decode cL_law 438 = .ok (.istore 5, 2) := dk_54 5 (dk_at dksL_law_11 3 rfl rfl)
theorem dL_law_440 : decode cL_law 440 = .ok (.aload_n 2, 1) := dk_44 (dk_at dksL_law_11 5 rfl rfl)
theorem dL_law_441 : decode cL_law 441 = .ok (.aload_n 0, 1) := dk_42 (dk_at dksL_law_11 6 rfl rfl)
theorem dL_law_442 : decode cL_law 442 = .ok (.iload 4, 2) := dk_21 4 (dk_at dksL_law_11 7 rfl rfl)
theorem dL_law_444 : decode cL_law 444 = .ok (.iconst 1, 1) := dk_4 (dk_at dksL_law_11 9 rfl rfl)
theorem dL_law_445 : decode cL_law 445 = .ok (.iadd, 1) := dk_96 (dk_at dksL_law_11 10 rfl rfl)
theorem dL_law_446 : decode cL_law 446 = .ok (.iaload, 1) := dk_46 (dk_at dksL_law_11 11 rfl rfl)
theorem dL_law_447 : decode cL_law 447 = .ok (.aload_n 0, 1) := dk_42 (dk_at dksL_law_11 12 rfl rfl)
theorem dL_law_448 : decode cL_law 448 = .ok (.iload 4, 2) := dk_21 4 (dk_at dksL_law_11 13 rfl rfl)
theorem dL_law_450 : decode cL_law 450 = .ok (.iconst 2, 1) := dk_5 (dk_at dksL_law_11 15 rfl rfl)
theorem dL_law_451 : decode cL_law 451 = .ok (.iadd, 1) := dk_96 (dk_at dksL_law_11 16 rfl rfl)
theorem dL_law_452 : decode cL_law 452 = .ok (.iaload, 1) := dk_46 (dk_at dksL_law_11 17 rfl rfl)
theorem dL_law_453 : decode cL_law 453 = .ok (.invokevirtual 66, 3) := dk_182 0 66 (dk_at dksL_law_11 18 rfl rfl)
theorem dL_law_456 : decode cL_law 456 = .ok (.istore 6, 2) := dk_54 6 (dk_at dksL_law_11 21 rfl rfl)
theorem dL_law_458 : decode cL_law 458 = .ok (.aload_n 2, 1) := dk_44 (dk_at dksL_law_11 23 rfl rfl)
theorem dL_law_459 : decode cL_law 459 = .ok (.invokevirtual 61, 3) := dk_182 0 61 (dk_at dksL_law_12 0 rfl rfl)
theorem dL_law_462 : decode cL_law 462 = .ok (.iload 5, 2) := dk_21 5 (dk_at dksL_law_12 3 rfl rfl)
theorem dL_law_464 : decode cL_law 464 = .ok (.if_icmp .eq 5, 3) := dk_159 0 5 (dk_at dksL_law_12 5 rfl rfl)
theorem dL_law_467 : decode cL_law 467 = .ok (.iconst 0, 1) := dk_3 (dk_at dksL_law_12 8 rfl rfl)
theorem dL_law_468 : decode cL_law 468 = .ok (.ireturn, 1) := dk_172 (dk_at dksL_law_12 9 rfl rfl)
theorem dL_law_469 : decode cL_law 469 = .ok (.iload 5, 2) := dk_21 5 (dk_at dksL_law_12 10 rfl rfl)
theorem dL_law_471 : decode cL_law 471 = .ok (.ifCond .ne 15, 3) := dk_154 0 15 (dk_at dksL_law_12 12 rfl rfl)
theorem dL_law_474 : decode cL_law 474 = .ok (.aload_n 3, 1) := dk_45 (dk_at dksL_law_12 15 rfl rfl)
theorem dL_law_475 : decode cL_law 475 = .ok (.iconst 0, 1) := dk_3 (dk_at dksL_law_12 16 rfl rfl)
theorem dL_law_476 : decode cL_law 476 = .ok (.laload, 1) := dk_47 (dk_at dksL_law_12 17 rfl rfl)
theorem dL_law_477 : decode cL_law 477 = .ok (.iload 6, 2) := dk_21 6 (dk_at dksL_law_12 18 rfl rfl)
theorem dL_law_479 : decode cL_law 479 = .ok (.i2l, 1) := dk_133 (dk_at dksL_law_12 20 rfl rfl)
theorem dL_law_480 : decode cL_law 480 = .ok (.lcmp, 1) := dk_148 (dk_at dksL_law_12 21 rfl rfl)
theorem dL_law_481 : decode cL_law 481 = .ok (.ifCond .eq 5, 3) := dk_153 0 5 (dk_at dksL_law_13 0 rfl rfl)
theorem dL_law_484 : decode cL_law 484 = .ok (.iconst 0, 1) := dk_3 (dk_at dksL_law_13 3 rfl rfl)
theorem dL_law_485 : decode cL_law 485 = .ok (.ireturn, 1) := dk_172 (dk_at dksL_law_13 4 rfl rfl)
theorem dL_law_486 : decode cL_law 486 = .ok (.goto 1266, 3) := dk_167 4 242 (dk_at dksL_law_13 5 rfl rfl)
theorem dL_law_489 : decode cL_law 489 = .ok (.aload_n 1, 1) := dk_43 (dk_at dksL_law_13 8 rfl rfl)
theorem dL_law_490 : decode cL_law 490 = .ok (.aload_n 0, 1) := dk_42 (dk_at dksL_law_13 9 rfl rfl)
theorem dL_law_491 : decode cL_law 491 = .ok (.iload 4, 2) := dk_21 4 (dk_at dksL_law_13 10 rfl rfl)
theorem dL_law_493 : decode cL_law 493 = .ok (.iconst 1, 1) := dk_4 (dk_at dksL_law_13 12 rfl rfl)
theorem dL_law_494 : decode cL_law 494 = .ok (.iadd, 1) := dk_96 (dk_at dksL_law_13 13 rfl rfl)
theorem dL_law_495 : decode cL_law 495 = .ok (.iaload, 1) := dk_46 (dk_at dksL_law_13 14 rfl rfl)
theorem dL_law_496 : decode cL_law 496 = .ok (.aload_n 0, 1) := dk_42 (dk_at dksL_law_13 15 rfl rfl)
theorem dL_law_497 : decode cL_law 497 = .ok (.iload 4, 2) := dk_21 4 (dk_at dksL_law_13 16 rfl rfl)
theorem dL_law_499 : decode cL_law 499 = .ok (.iconst 2, 1) := dk_5 (dk_at dksL_law_13 18 rfl rfl)
theorem dL_law_500 : decode cL_law 500 = .ok (.iadd, 1) := dk_96 (dk_at dksL_law_13 19 rfl rfl)
theorem dL_law_501 : decode cL_law 501 = .ok (.iaload, 1) := dk_46 (dk_at dksL_law_13 20 rfl rfl)
theorem dL_law_502 : decode cL_law 502 = .ok (.aload_n 0, 1) := dk_42 (dk_at dksL_law_13 21 rfl rfl)
theorem dL_law_503 : decode cL_law 503 = .ok (.iload 4, 2) := dk_21 4 (dk_at dksL_law_13 22 rfl rfl)
theorem dL_law_505 : decode cL_law 505 = .ok (.iconst 3, 1) := dk_6 (dk_at dksL_law_14 0 rfl rfl)
theorem dL_law_506 : decode cL_law 506 = .ok (.iadd, 1) := dk_96 (dk_at dksL_law_14 1 rfl rfl)
theorem dL_law_507 : decode cL_law 507 = .ok (.iaload, 1) := dk_46 (dk_at dksL_law_14 2 rfl rfl)
theorem dL_law_508 : decode cL_law 508 = .ok (.invokevirtual 67, 3) := dk_182 0 67 (dk_at dksL_law_14 3 rfl rfl)
theorem dL_law_511 : decode cL_law 511 = .ok (.aload_n 2, 1) := dk_44 (dk_at dksL_law_14 6 rfl rfl)
theorem dL_law_512 : decode cL_law 512 = .ok (.aload_n 0, 1) := dk_42 (dk_at dksL_law_14 7 rfl rfl)
theorem dL_law_513 : decode cL_law 513 = .ok (.iload 4, 2) := dk_21 4 (dk_at dksL_law_14 8 rfl rfl)
theorem dL_law_515 : decode cL_law 515 = .ok (.iconst 1, 1) := dk_4 (dk_at dksL_law_14 10 rfl rfl)
theorem dL_law_516 : decode cL_law 516 = .ok (.iadd, 1) := dk_96 (dk_at dksL_law_14 11 rfl rfl)
theorem dL_law_517 : decode cL_law 517 = .ok (.iaload, 1) := dk_46 (dk_at dksL_law_14 12 rfl rfl)
theorem dL_law_518 : decode cL_law 518 = .ok (.aload_n 0, 1) := dk_42 (dk_at dksL_law_14 13 rfl rfl)
theorem dL_law_519 : decode cL_law 519 = .ok (.iload 4, 2) := dk_21 4 (dk_at dksL_law_14 14 rfl rfl)
theorem dL_law_521 : decode cL_law 521 = .ok (.iconst 2, 1) := dk_5 (dk_at dksL_law_14 16 rfl rfl)
theorem dL_law_522 : decode cL_law 522 = .ok (.iadd, 1) := dk_96 (dk_at dksL_law_14 17 rfl rfl)
theorem dL_law_523 : decode cL_law 523 = .ok (.iaload, 1) := dk_46 (dk_at dksL_law_14 18 rfl rfl)
theorem dL_law_524 : decode cL_law 524 = .ok (.aload_n 0, 1) := dk_42 (dk_at dksL_law_14 19 rfl rfl)
theorem dL_law_525 : decode cL_law 525 = .ok (.iload 4, 2) := dk_21 4 (dk_at dksL_law_14 20 rfl rfl)
theorem dL_law_527 : decode cL_law 527 = .ok (.iconst 3, 1) := dk_6 (dk_at dksL_law_14 22 rfl rfl)
theorem dL_law_528 : decode cL_law 528 = .ok (.iadd, 1) := dk_96 (dk_at dksL_law_14 23 rfl rfl)
theorem dL_law_529 : decode cL_law 529 = .ok (.iaload, 1) := dk_46 (dk_at dksL_law_15 0 rfl rfl)
theorem dL_law_530 : decode cL_law 530 = .ok (.invokevirtual 71, 3) := dk_182 0 71 (dk_at dksL_law_15 1 rfl rfl)
theorem dL_law_533 : decode cL_law 533 = .ok (.if_icmp .eq 1219, 3) := dk_159 4 195 (dk_at dksL_law_15 4 rfl rfl)
theorem dL_law_536 : decode cL_law 536 = .ok (.iconst 0, 1) := dk_3 (dk_at dksL_law_15 7 rfl rfl)
theorem dL_law_537 : decode cL_law 537 = .ok (.ireturn, 1) := dk_172 (dk_at dksL_law_15 8 rfl rfl)
theorem dL_law_538 : decode cL_law 538 = .ok (.aload_n 1, 1) := dk_43 (dk_at dksL_law_15 9 rfl rfl)
theorem dL_law_539 : decode cL_law 539 = .ok (.aload_n 0, 1) := dk_42 (dk_at dksL_law_15 10 rfl rfl)
theorem dL_law_540 : decode cL_law 540 = .ok (.iload 4, 2) := dk_21 4 (dk_at dksL_law_15 11 rfl rfl)
theorem dL_law_542 : decode cL_law 542 = .ok (.iconst 1, 1) := dk_4 (dk_at dksL_law_15 13 rfl rfl)
theorem dL_law_543 : decode cL_law 543 = .ok (.iadd, 1) := dk_96 (dk_at dksL_law_15 14 rfl rfl)
theorem dL_law_544 : decode cL_law 544 = .ok (.iaload, 1) := dk_46 (dk_at dksL_law_15 15 rfl rfl)
theorem dL_law_545 : decode cL_law 545 = .ok (.aload_n 0, 1) := dk_42 (dk_at dksL_law_15 16 rfl rfl)
theorem dL_law_546 : decode cL_law 546 = .ok (.iload 4, 2) := dk_21 4 (dk_at dksL_law_15 17 rfl rfl)
theorem dL_law_548 : decode cL_law 548 = .ok (.iconst 2, 1) := dk_5 (dk_at dksL_law_15 19 rfl rfl)
theorem dL_law_549 : decode cL_law 549 = .ok (.iadd, 1) := dk_96 (dk_at dksL_law_15 20 rfl rfl)
theorem dL_law_550 : decode cL_law 550 = .ok (.iaload, 1) := dk_46 (dk_at dksL_law_15 21 rfl rfl)
theorem dL_law_551 : decode cL_law 551 = .ok (.invokevirtual 72, 3) := dk_182 0 72 (dk_at dksL_law_16 0 rfl rfl)
theorem dL_law_554 : decode cL_law 554 = .ok (.aload_n 2, 1) := dk_44 (dk_at dksL_law_16 3 rfl rfl)
theorem dL_law_555 : decode cL_law 555 = .ok (.aload_n 0, 1) := dk_42 (dk_at dksL_law_16 4 rfl rfl)
theorem dL_law_556 : decode cL_law 556 = .ok (.iload 4, 2) := dk_21 4 (dk_at dksL_law_16 5 rfl rfl)
theorem dL_law_558 : decode cL_law 558 = .ok (.iconst 1, 1) := dk_4 (dk_at dksL_law_16 7 rfl rfl)
theorem dL_law_559 : decode cL_law 559 = .ok (.iadd, 1) := dk_96 (dk_at dksL_law_16 8 rfl rfl)
theorem dL_law_560 : decode cL_law 560 = .ok (.iaload, 1) := dk_46 (dk_at dksL_law_16 9 rfl rfl)
theorem dL_law_561 : decode cL_law 561 = .ok (.aload_n 0, 1) := dk_42 (dk_at dksL_law_16 10 rfl rfl)
theorem dL_law_562 : decode cL_law 562 = .ok (.iload 4, 2) := dk_21 4 (dk_at dksL_law_16 11 rfl rfl)
theorem dL_law_564 : decode cL_law 564 = .ok (.iconst 2, 1) := dk_5 (dk_at dksL_law_16 13 rfl rfl)
theorem dL_law_565 : decode cL_law 565 = .ok (.iadd, 1) := dk_96 (dk_at dksL_law_16 14 rfl rfl)
theorem dL_law_566 : decode cL_law 566 = .ok (.iaload, 1) := dk_46 (dk_at dksL_law_16 15 rfl rfl)
theorem dL_law_567 : decode cL_law 567 = .ok (.invokevirtual 76, 3) := dk_182 0 76 (dk_at dksL_law_16 16 rfl rfl)
theorem dL_law_570 : decode cL_law 570 = .ok (.if_icmp .eq 1182, 3) := dk_159 4 158 (dk_at dksL_law_16 19 rfl rfl)
theorem dL_law_573 : decode cL_law 573 = .ok (.iconst 0, 1) := dk_3 (dk_at dksL_law_16 22 rfl rfl)
theorem dL_law_574 : decode cL_law 574 = .ok (.ireturn, 1) := dk_172 (dk_at dksL_law_16 23 rfl rfl)
theorem dL_law_575 : decode cL_law 575 = .ok (.aload_n 1, 1) := dk_43 (dk_at dksL_law_17 0 rfl rfl)
theorem dL_law_576 : decode cL_law 576 = .ok (.aload_n 0, 1) := dk_42 (dk_at dksL_law_17 1 rfl rfl)
theorem dL_law_577 : decode cL_law 577 = .ok (.iload 4, 2) := dk_21 4 (dk_at dksL_law_17 2 rfl rfl)
theorem dL_law_579 : decode cL_law 579 = .ok (.iconst 1, 1) := dk_4 (dk_at dksL_law_17 4 rfl rfl)
theorem dL_law_580 : decode cL_law 580 = .ok (.iadd, 1) := dk_96 (dk_at dksL_law_17 5 rfl rfl)
theorem dL_law_581 : decode cL_law 581 = .ok (.iaload, 1) := dk_46 (dk_at dksL_law_17 6 rfl rfl)
theorem dL_law_582 : decode cL_law 582 = .ok (.aload_n 0, 1) := dk_42 (dk_at dksL_law_17 7 rfl rfl)
theorem dL_law_583 : decode cL_law 583 = .ok (.iload 4, 2) := dk_21 4 (dk_at dksL_law_17 8 rfl rfl)
theorem dL_law_585 : decode cL_law 585 = .ok (.iconst 2, 1) := dk_5 (dk_at dksL_law_17 10 rfl rfl)
theorem dL_law_586 : decode cL_law 586 = .ok (.iadd, 1) := dk_96 (dk_at dksL_law_17 11 rfl rfl)
theorem dL_law_587 : decode cL_law 587 = .ok (.iaload, 1) := dk_46 (dk_at dksL_law_17 12 rfl rfl)
theorem dL_law_588 : decode cL_law 588 = .ok (.aload_n 0, 1) := dk_42 (dk_at dksL_law_17 13 rfl rfl)
theorem dL_law_589 : decode cL_law 589 = .ok (.iload 4, 2) := dk_21 4 (dk_at dksL_law_17 14 rfl rfl)
theorem dL_law_591 : decode cL_law 591 = .ok (.iconst 3, 1) := dk_6 (dk_at dksL_law_17 16 rfl rfl)
theorem dL_law_592 : decode cL_law 592 = .ok (.iadd, 1) := dk_96 (dk_at dksL_law_17 17 rfl rfl)
theorem dL_law_593 : decode cL_law 593 = .ok (.iaload, 1) := dk_46 (dk_at dksL_law_17 18 rfl rfl)
theorem dL_law_594 : decode cL_law 594 = .ok (.aload_n 0, 1) := dk_42 (dk_at dksL_law_17 19 rfl rfl)
theorem dL_law_595 : decode cL_law 595 = .ok (.iload 4, 2) := dk_21 4 (dk_at dksL_law_17 20 rfl rfl)
theorem dL_law_597 : decode cL_law 597 = .ok (.iconst 4, 1) := dk_7 (dk_at dksL_law_17 22 rfl rfl)
theorem dL_law_598 : decode cL_law 598 = .ok (.iadd, 1) := dk_96 (dk_at dksL_law_17 23 rfl rfl)
theorem dL_law_599 : decode cL_law 599 = .ok (.iaload, 1) := dk_46 (dk_at dksL_law_18 0 rfl rfl)
theorem dL_law_600 : decode cL_law 600 = .ok (.invokevirtual 77, 3) := dk_182 0 77 (dk_at dksL_law_18 1 rfl rfl)
theorem dL_law_603 : decode cL_law 603 = .ok (.aload_n 2, 1) := dk_44 (dk_at dksL_law_18 4 rfl rfl)
theorem dL_law_604 : decode cL_law 604 = .ok (.aload_n 0, 1) := dk_42 (dk_at dksL_law_18 5 rfl rfl)
theorem dL_law_605 : decode cL_law 605 = .ok (.iload 4, 2) := dk_21 4 (dk_at dksL_law_18 6 rfl rfl)
theorem dL_law_607 : decode cL_law 607 = .ok (.iconst 1, 1) := dk_4 (dk_at dksL_law_18 8 rfl rfl)
theorem dL_law_608 : decode cL_law 608 = .ok (.iadd, 1) := dk_96 (dk_at dksL_law_18 9 rfl rfl)
theorem dL_law_609 : decode cL_law 609 = .ok (.iaload, 1) := dk_46 (dk_at dksL_law_18 10 rfl rfl)
theorem dL_law_610 : decode cL_law 610 = .ok (.aload_n 0, 1) := dk_42 (dk_at dksL_law_18 11 rfl rfl)
theorem dL_law_611 : decode cL_law 611 = .ok (.iload 4, 2) := dk_21 4 (dk_at dksL_law_18 12 rfl rfl)
theorem dL_law_613 : decode cL_law 613 = .ok (.iconst 2, 1) := dk_5 (dk_at dksL_law_18 14 rfl rfl)
theorem dL_law_614 : decode cL_law 614 = .ok (.iadd, 1) := dk_96 (dk_at dksL_law_18 15 rfl rfl)
theorem dL_law_615 : decode cL_law 615 = .ok (.iaload, 1) := dk_46 (dk_at dksL_law_18 16 rfl rfl)
theorem dL_law_616 : decode cL_law 616 = .ok (.aload_n 0, 1) := dk_42 (dk_at dksL_law_18 17 rfl rfl)
theorem dL_law_617 : decode cL_law 617 = .ok (.iload 4, 2) := dk_21 4 (dk_at dksL_law_18 18 rfl rfl)
theorem dL_law_619 : decode cL_law 619 = .ok (.iconst 3, 1) := dk_6 (dk_at dksL_law_18 20 rfl rfl)
theorem dL_law_620 : decode cL_law 620 = .ok (.iadd, 1) := dk_96 (dk_at dksL_law_18 21 rfl rfl)
theorem dL_law_621 : decode cL_law 621 = .ok (.iaload, 1) := dk_46 (dk_at dksL_law_18 22 rfl rfl)
theorem dL_law_622 : decode cL_law 622 = .ok (.aload_n 0, 1) := dk_42 (dk_at dksL_law_18 23 rfl rfl)
theorem dL_law_623 : decode cL_law 623 = .ok (.iload 4, 2) := dk_21 4 (dk_at dksL_law_19 0 rfl rfl)
theorem dL_law_625 : decode cL_law 625 = .ok (.iconst 4, 1) := dk_7 (dk_at dksL_law_19 2 rfl rfl)
theorem dL_law_626 : decode cL_law 626 = .ok (.iadd, 1) := dk_96 (dk_at dksL_law_19 3 rfl rfl)
theorem dL_law_627 : decode cL_law 627 = .ok (.iaload, 1) := dk_46 (dk_at dksL_law_19 4 rfl rfl)
theorem dL_law_628 : decode cL_law 628 = .ok (.invokevirtual 81, 3) := dk_182 0 81 (dk_at dksL_law_19 5 rfl rfl)
theorem dL_law_631 : decode cL_law 631 = .ok (.if_icmp .eq 1121, 3) := dk_159 4 97 (dk_at dksL_law_19 8 rfl rfl)
theorem dL_law_634 : decode cL_law 634 = .ok (.iconst 0, 1) := dk_3 (dk_at dksL_law_19 11 rfl rfl)
theorem dL_law_635 : decode cL_law 635 = .ok (.ireturn, 1) := dk_172 (dk_at dksL_law_19 12 rfl rfl)
theorem dL_law_636 : decode cL_law 636 = .ok (.aload_n 1, 1) := dk_43 (dk_at dksL_law_19 13 rfl rfl)
theorem dL_law_637 : decode cL_law 637 = .ok (.aload_n 0, 1) := dk_42 (dk_at dksL_law_19 14 rfl rfl)
theorem dL_law_638 : decode cL_law 638 = .ok (.iload 4, 2) := dk_21 4 (dk_at dksL_law_19 15 rfl rfl)
theorem dL_law_640 : decode cL_law 640 = .ok (.iconst 1, 1) := dk_4 (dk_at dksL_law_19 17 rfl rfl)
theorem dL_law_641 : decode cL_law 641 = .ok (.iadd, 1) := dk_96 (dk_at dksL_law_19 18 rfl rfl)
theorem dL_law_642 : decode cL_law 642 = .ok (.iaload, 1) := dk_46 (dk_at dksL_law_19 19 rfl rfl)
theorem dL_law_643 : decode cL_law 643 = .ok (.invokevirtual 82, 3) := dk_182 0 82 (dk_at dksL_law_19 20 rfl rfl)
theorem dL_law_646 : decode cL_law 646 = .ok (.aload_n 2, 1) := dk_44 (dk_at dksL_law_19 23 rfl rfl)
theorem dL_law_647 : decode cL_law 647 = .ok (.aload_n 0, 1) := dk_42 (dk_at dksL_law_20 0 rfl rfl)
theorem dL_law_648 : decode cL_law 648 = .ok (.iload 4, 2) := dk_21 4 (dk_at dksL_law_20 1 rfl rfl)
theorem dL_law_650 : decode cL_law 650 = .ok (.iconst 1, 1) := dk_4 (dk_at dksL_law_20 3 rfl rfl)
theorem dL_law_651 : decode cL_law 651 = .ok (.iadd, 1) := dk_96 (dk_at dksL_law_20 4 rfl rfl)
theorem dL_law_652 : decode cL_law 652 = .ok (.iaload, 1) := dk_46 (dk_at dksL_law_20 5 rfl rfl)
theorem dL_law_653 : decode cL_law 653 = .ok (.invokevirtual 85, 3) := dk_182 0 85 (dk_at dksL_law_20 6 rfl rfl)
theorem dL_law_656 : decode cL_law 656 = .ok (.if_icmp .eq 1096, 3) := dk_159 4 72 (dk_at dksL_law_20 9 rfl rfl)
theorem dL_law_659 : decode cL_law 659 = .ok (.iconst 0, 1) := dk_3 (dk_at dksL_law_20 12 rfl rfl)
theorem dL_law_660 : decode cL_law 660 = .ok (.ireturn, 1) := dk_172 (dk_at dksL_law_20 13 rfl rfl)
theorem dL_law_661 : decode cL_law 661 = .ok (.aload_n 1, 1) := dk_43 (dk_at dksL_law_20 14 rfl rfl)
theorem dL_law_662 : decode cL_law 662 = .ok (.aload_n 0, 1) := dk_42 (dk_at dksL_law_20 15 rfl rfl)
theorem dL_law_663 : decode cL_law 663 = .ok (.iload 4, 2) := dk_21 4 (dk_at dksL_law_20 16 rfl rfl)
theorem dL_law_665 : decode cL_law 665 = .ok (.iconst 1, 1) := dk_4 (dk_at dksL_law_20 18 rfl rfl)
theorem dL_law_666 : decode cL_law 666 = .ok (.iadd, 1) := dk_96 (dk_at dksL_law_20 19 rfl rfl)
theorem dL_law_667 : decode cL_law 667 = .ok (.iaload, 1) := dk_46 (dk_at dksL_law_20 20 rfl rfl)
theorem dL_law_668 : decode cL_law 668 = .ok (.invokevirtual 86, 3) := dk_182 0 86 (dk_at dksL_law_20 21 rfl rfl)
theorem dL_law_671 : decode cL_law 671 = .ok (.aload_n 2, 1) := dk_44 (dk_at dksL_law_21 0 rfl rfl)
theorem dL_law_672 : decode cL_law 672 = .ok (.aload_n 0, 1) := dk_42 (dk_at dksL_law_21 1 rfl rfl)
theorem dL_law_673 : decode cL_law 673 = .ok (.iload 4, 2) := dk_21 4 (dk_at dksL_law_21 2 rfl rfl)
theorem dL_law_675 : decode cL_law 675 = .ok (.iconst 1, 1) := dk_4 (dk_at dksL_law_21 4 rfl rfl)
theorem dL_law_676 : decode cL_law 676 = .ok (.iadd, 1) := dk_96 (dk_at dksL_law_21 5 rfl rfl)
theorem dL_law_677 : decode cL_law 677 = .ok (.iaload, 1) := dk_46 (dk_at dksL_law_21 6 rfl rfl)
theorem dL_law_678 : decode cL_law 678 = .ok (.invokevirtual 89, 3) := dk_182 0 89 (dk_at dksL_law_21 7 rfl rfl)
theorem dL_law_681 : decode cL_law 681 = .ok (.if_icmp .eq 1071, 3) := dk_159 4 47 (dk_at dksL_law_21 10 rfl rfl)
theorem dL_law_684 : decode cL_law 684 = .ok (.iconst 0, 1) := dk_3 (dk_at dksL_law_21 13 rfl rfl)
theorem dL_law_685 : decode cL_law 685 = .ok (.ireturn, 1) := dk_172 (dk_at dksL_law_21 14 rfl rfl)
theorem dL_law_686 : decode cL_law 686 = .ok (.aload_n 1, 1) := dk_43 (dk_at dksL_law_21 15 rfl rfl)
theorem dL_law_687 : decode cL_law 687 = .ok (.invokevirtual 90, 3) := dk_182 0 90 (dk_at dksL_law_21 16 rfl rfl)
theorem dL_law_690 : decode cL_law 690 = .ok (.aload_n 2, 1) := dk_44 (dk_at dksL_law_21 19 rfl rfl)
theorem dL_law_691 : decode cL_law 691 = .ok (.invokevirtual 93, 3) := dk_182 0 93 (dk_at dksL_law_21 20 rfl rfl)
theorem dL_law_694 : decode cL_law 694 = .ok (.if_icmp .eq 1058, 3) := dk_159 4 34 (dk_at dksL_law_22 0 rfl rfl)
theorem dL_law_697 : decode cL_law 697 = .ok (.iconst 0, 1) := dk_3 (dk_at dksL_law_22 3 rfl rfl)
theorem dL_law_698 : decode cL_law 698 = .ok (.ireturn, 1) := dk_172 (dk_at dksL_law_22 4 rfl rfl)
theorem dL_law_699 : decode cL_law 699 = .ok (.aload_n 1, 1) := dk_43 (dk_at dksL_law_22 5 rfl rfl)
theorem dL_law_700 : decode cL_law 700 = .ok (.invokevirtual 94, 3) := dk_182 0 94 (dk_at dksL_law_22 6 rfl rfl)
theorem dL_law_703 : decode cL_law 703 = .ok (.aload_n 2, 1) := dk_44 (dk_at dksL_law_22 9 rfl rfl)
theorem dL_law_704 : decode cL_law 704 = .ok (.invokevirtual 97, 3) := dk_182 0 97 (dk_at dksL_law_22 10 rfl rfl)
theorem dL_law_707 : decode cL_law 707 = .ok (.if_icmp .eq 1045, 3) := dk_159 4 21 (dk_at dksL_law_22 13 rfl rfl)
theorem dL_law_710 : decode cL_law 710 = .ok (.iconst 0, 1) := dk_3 (dk_at dksL_law_22 16 rfl rfl)
theorem dL_law_711 : decode cL_law 711 = .ok (.ireturn, 1) := dk_172 (dk_at dksL_law_22 17 rfl rfl)
theorem dL_law_712 : decode cL_law 712 = .ok (.aload_n 1, 1) := dk_43 (dk_at dksL_law_22 18 rfl rfl)
theorem dL_law_713 : decode cL_law 713 = .ok (.aload_n 0, 1) := dk_42 (dk_at dksL_law_22 19 rfl rfl)
theorem dL_law_714 : decode cL_law 714 = .ok (.iload 4, 2) := dk_21 4 (dk_at dksL_law_22 20 rfl rfl)
theorem dL_law_716 : decode cL_law 716 = .ok (.iconst 1, 1) := dk_4 (dk_at dksL_law_22 22 rfl rfl)
theorem dL_law_717 : decode cL_law 717 = .ok (.iadd, 1) := dk_96 (dk_at dksL_law_22 23 rfl rfl)
theorem dL_law_718 : decode cL_law 718 = .ok (.iaload, 1) := dk_46 (dk_at dksL_law_23 0 rfl rfl)
theorem dL_law_719 : decode cL_law 719 = .ok (.aload_n 0, 1) := dk_42 (dk_at dksL_law_23 1 rfl rfl)
theorem dL_law_720 : decode cL_law 720 = .ok (.iload 4, 2) := dk_21 4 (dk_at dksL_law_23 2 rfl rfl)
theorem dL_law_722 : decode cL_law 722 = .ok (.iconst 2, 1) := dk_5 (dk_at dksL_law_23 4 rfl rfl)
theorem dL_law_723 : decode cL_law 723 = .ok (.iadd, 1) := dk_96 (dk_at dksL_law_23 5 rfl rfl)
theorem dL_law_724 : decode cL_law 724 = .ok (.iaload, 1) := dk_46 (dk_at dksL_law_23 6 rfl rfl)
theorem dL_law_725 : decode cL_law 725 = .ok (.aload_n 3, 1) := dk_45 (dk_at dksL_law_23 7 rfl rfl)
theorem dL_law_726 : decode cL_law 726 = .ok (.invokestatic 98, 3) := dk_184 0 98 (dk_at dksL_law_23 8 rfl rfl)
theorem dL_law_729 : decode cL_law 729 = .ok (.istore 5, 2) := dk_54 5 (dk_at dksL_law_23 11 rfl rfl)
theorem dL_law_731 : decode cL_law 731 = .ok (.aload_n 2, 1) := dk_44 (dk_at dksL_law_23 13 rfl rfl)
theorem dL_law_732 : decode cL_law 732 = .ok (.aload_n 0, 1) := dk_42 (dk_at dksL_law_23 14 rfl rfl)
theorem dL_law_733 : decode cL_law 733 = .ok (.iload 4, 2) := dk_21 4 (dk_at dksL_law_23 15 rfl rfl)
theorem dL_law_735 : decode cL_law 735 = .ok (.iconst 1, 1) := dk_4 (dk_at dksL_law_23 17 rfl rfl)
theorem dL_law_736 : decode cL_law 736 = .ok (.iadd, 1) := dk_96 (dk_at dksL_law_23 18 rfl rfl)
theorem dL_law_737 : decode cL_law 737 = .ok (.iaload, 1) := dk_46 (dk_at dksL_law_23 19 rfl rfl)
theorem dL_law_738 : decode cL_law 738 = .ok (.aload_n 0, 1) := dk_42 (dk_at dksL_law_23 20 rfl rfl)
theorem dL_law_739 : decode cL_law 739 = .ok (.iload 4, 2) := dk_21 4 (dk_at dksL_law_23 21 rfl rfl)
theorem dL_law_741 : decode cL_law 741 = .ok (.iconst 2, 1) := dk_5 (dk_at dksL_law_23 23 rfl rfl)
theorem dL_law_742 : decode cL_law 742 = .ok (.iadd, 1) := dk_96 (dk_at dksL_law_24 0 rfl rfl)
theorem dL_law_743 : decode cL_law 743 = .ok (.iaload, 1) := dk_46 (dk_at dksL_law_24 1 rfl rfl)
theorem dL_law_744 : decode cL_law 744 = .ok (.invokevirtual 100, 3) := dk_182 0 100 (dk_at dksL_law_24 2 rfl rfl)
theorem dL_law_747 : decode cL_law 747 = .ok (.istore 6, 2) := dk_54 6 (dk_at dksL_law_24 5 rfl rfl)
theorem dL_law_749 : decode cL_law 749 = .ok (.aload_n 2, 1) := dk_44 (dk_at dksL_law_24 7 rfl rfl)
theorem dL_law_750 : decode cL_law 750 = .ok (.invokevirtual 61, 3) := dk_182 0 61 (dk_at dksL_law_24 8 rfl rfl)
theorem dL_law_753 : decode cL_law 753 = .ok (.iload 5, 2) := dk_21 5 (dk_at dksL_law_24 11 rfl rfl)
theorem dL_law_755 : decode cL_law 755 = .ok (.if_icmp .eq 5, 3) := dk_159 0 5 (dk_at dksL_law_24 13 rfl rfl)
theorem dL_law_758 : decode cL_law 758 = .ok (.iconst 0, 1) := dk_3 (dk_at dksL_law_24 16 rfl rfl)
theorem dL_law_759 : decode cL_law 759 = .ok (.ireturn, 1) := dk_172 (dk_at dksL_law_24 17 rfl rfl)
theorem dL_law_760 : decode cL_law 760 = .ok (.iload 5, 2) := dk_21 5 (dk_at dksL_law_24 18 rfl rfl)
theorem dL_law_762 : decode cL_law 762 = .ok (.ifCond .ne 15, 3) := dk_154 0 15 (dk_at dksL_law_24 20 rfl rfl)
theorem dL_law_765 : decode cL_law 765 = .ok (.aload_n 3, 1) := dk_45 (dk_at dksL_law_24 23 rfl rfl)
theorem dL_law_766 : decode cL_law 766 = .ok (.iconst 0, 1) := dk_3 (dk_at dksL_law_25 0 rfl rfl)
theorem dL_law_767 : decode cL_law 767 = .ok (.laload, 1) := dk_47 (dk_at dksL_law_25 1 rfl rfl)
theorem dL_law_768 : decode cL_law 768 = .ok (.iload 6, 2) := dk_21 6 (dk_at dksL_law_25 2 rfl rfl)
theorem dL_law_770 : decode cL_law 770 = .ok (.i2l, 1) := dk_133 (dk_at dksL_law_25 4 rfl rfl)
theorem dL_law_771 : decode cL_law 771 = .ok (.lcmp, 1) := dk_148 (dk_at dksL_law_25 5 rfl rfl)
theorem dL_law_772 : decode cL_law 772 = .ok (.ifCond .eq 5, 3) := dk_153 0 5 (dk_at dksL_law_25 6 rfl rfl)
theorem dL_law_775 : decode cL_law 775 = .ok (.iconst 0, 1) := dk_3 (dk_at dksL_law_25 9 rfl rfl)
theorem dL_law_776 : decode cL_law 776 = .ok (.ireturn, 1) := dk_172 (dk_at dksL_law_25 10 rfl rfl)
theorem dL_law_777 : decode cL_law 777 = .ok (.goto 975, 3) := dk_167 3 207 (dk_at dksL_law_25 11 rfl rfl)
theorem dL_law_780 : decode cL_law 780 = .ok (.aload_n 1, 1) := dk_43 (dk_at dksL_law_25 14 rfl rfl)
theorem dL_law_781 : decode cL_law 781 = .ok (.aload_n 0, 1) := dk_42 (dk_at dksL_law_25 15 rfl rfl)
theorem dL_law_782 : decode cL_law 782 = .ok (.iload 4, 2) := dk_21 4 (dk_at dksL_law_25 16 rfl rfl)
theorem dL_law_784 : decode cL_law 784 = .ok (.iconst 1, 1) := dk_4 (dk_at dksL_law_25 18 rfl rfl)
theorem dL_law_785 : decode cL_law 785 = .ok (.iadd, 1) := dk_96 (dk_at dksL_law_25 19 rfl rfl)
theorem dL_law_786 : decode cL_law 786 = .ok (.iaload, 1) := dk_46 (dk_at dksL_law_25 20 rfl rfl)
theorem dL_law_787 : decode cL_law 787 = .ok (.aload_n 0, 1) := dk_42 (dk_at dksL_law_25 21 rfl rfl)
theorem dL_law_788 : decode cL_law 788 = .ok (.iload 4, 2) := dk_21 4 (dk_at dksL_law_25 22 rfl rfl)
theorem dL_law_790 : decode cL_law 790 = .ok (.iconst 2, 1) := dk_5 (dk_at dksL_law_26 0 rfl rfl)
theorem dL_law_791 : decode cL_law 791 = .ok (.iadd, 1) := dk_96 (dk_at dksL_law_26 1 rfl rfl)
theorem dL_law_792 : decode cL_law 792 = .ok (.iaload, 1) := dk_46 (dk_at dksL_law_26 2 rfl rfl)
theorem dL_law_793 : decode cL_law 793 = .ok (.invokevirtual 101, 3) := dk_182 0 101 (dk_at dksL_law_26 3 rfl rfl)
theorem dL_law_796 : decode cL_law 796 = .ok (.aload_n 2, 1) := dk_44 (dk_at dksL_law_26 6 rfl rfl)
theorem dL_law_797 : decode cL_law 797 = .ok (.aload_n 0, 1) := dk_42 (dk_at dksL_law_26 7 rfl rfl)
theorem dL_law_798 : decode cL_law 798 = .ok (.iload 4, 2) := dk_21 4 (dk_at dksL_law_26 8 rfl rfl)
theorem dL_law_800 : decode cL_law 800 = .ok (.iconst 1, 1) := dk_4 (dk_at dksL_law_26 10 rfl rfl)
theorem dL_law_801 : decode cL_law 801 = .ok (.iadd, 1) := dk_96 (dk_at dksL_law_26 11 rfl rfl)
theorem dL_law_802 : decode cL_law 802 = .ok (.iaload, 1) := dk_46 (dk_at dksL_law_26 12 rfl rfl)
theorem dL_law_803 : decode cL_law 803 = .ok (.aload_n 0, 1) := dk_42 (dk_at dksL_law_26 13 rfl rfl)
theorem dL_law_804 : decode cL_law 804 = .ok (.iload 4, 2) := dk_21 4 (dk_at dksL_law_26 14 rfl rfl)
theorem dL_law_806 : decode cL_law 806 = .ok (.iconst 2, 1) := dk_5 (dk_at dksL_law_26 16 rfl rfl)
theorem dL_law_807 : decode cL_law 807 = .ok (.iadd, 1) := dk_96 (dk_at dksL_law_26 17 rfl rfl)
theorem dL_law_808 : decode cL_law 808 = .ok (.iaload, 1) := dk_46 (dk_at dksL_law_26 18 rfl rfl)
theorem dL_law_809 : decode cL_law 809 = .ok (.invokevirtual 104, 3) := dk_182 0 104 (dk_at dksL_law_26 19 rfl rfl)
theorem dL_law_812 : decode cL_law 812 = .ok (.if_icmp .eq 940, 3) := dk_159 3 172 (dk_at dksL_law_27 0 rfl rfl)
theorem dL_law_815 : decode cL_law 815 = .ok (.iconst 0, 1) := dk_3 (dk_at dksL_law_27 3 rfl rfl)
theorem dL_law_816 : decode cL_law 816 = .ok (.ireturn, 1) := dk_172 (dk_at dksL_law_27 4 rfl rfl)
theorem dL_law_817 : decode cL_law 817 = .ok (.aload_n 1, 1) := dk_43 (dk_at dksL_law_27 5 rfl rfl)
theorem dL_law_818 : decode cL_law 818 = .ok (.aload_n 0, 1) := dk_42 (dk_at dksL_law_27 6 rfl rfl)
theorem dL_law_819 : decode cL_law 819 = .ok (.iload 4, 2) := dk_21 4 (dk_at dksL_law_27 7 rfl rfl)
theorem dL_law_821 : decode cL_law 821 = .ok (.iconst 1, 1) := dk_4 (dk_at dksL_law_27 9 rfl rfl)
theorem dL_law_822 : decode cL_law 822 = .ok (.iadd, 1) := dk_96 (dk_at dksL_law_27 10 rfl rfl)
theorem dL_law_823 : decode cL_law 823 = .ok (.iaload, 1) := dk_46 (dk_at dksL_law_27 11 rfl rfl)
theorem dL_law_824 : decode cL_law 824 = .ok (.aload_n 0, 1) := dk_42 (dk_at dksL_law_27 12 rfl rfl)
theorem dL_law_825 : decode cL_law 825 = .ok (.iload 4, 2) := dk_21 4 (dk_at dksL_law_27 13 rfl rfl)
theorem dL_law_827 : decode cL_law 827 = .ok (.iconst 2, 1) := dk_5 (dk_at dksL_law_27 15 rfl rfl)
theorem dL_law_828 : decode cL_law 828 = .ok (.iadd, 1) := dk_96 (dk_at dksL_law_27 16 rfl rfl)
theorem dL_law_829 : decode cL_law 829 = .ok (.iaload, 1) := dk_46 (dk_at dksL_law_27 17 rfl rfl)
theorem dL_law_830 : decode cL_law 830 = .ok (.invokevirtual 105, 3) := dk_182 0 105 (dk_at dksL_law_27 18 rfl rfl)
theorem dL_law_833 : decode cL_law 833 = .ok (.aload_n 2, 1) := dk_44 (dk_at dksL_law_27 21 rfl rfl)
theorem dL_law_834 : decode cL_law 834 = .ok (.aload_n 0, 1) := dk_42 (dk_at dksL_law_27 22 rfl rfl)
theorem dL_law_835 : decode cL_law 835 = .ok (.iload 4, 2) := dk_21 4 (dk_at dksL_law_28 0 rfl rfl)
theorem dL_law_837 : decode cL_law 837 = .ok (.iconst 1, 1) := dk_4 (dk_at dksL_law_28 2 rfl rfl)
theorem dL_law_838 : decode cL_law 838 = .ok (.iadd, 1) := dk_96 (dk_at dksL_law_28 3 rfl rfl)
theorem dL_law_839 : decode cL_law 839 = .ok (.iaload, 1) := dk_46 (dk_at dksL_law_28 4 rfl rfl)
theorem dL_law_840 : decode cL_law 840 = .ok (.aload_n 0, 1) := dk_42 (dk_at dksL_law_28 5 rfl rfl)
theorem dL_law_841 : decode cL_law 841 = .ok (.iload 4, 2) := dk_21 4 (dk_at dksL_law_28 6 rfl rfl)
theorem dL_law_843 : decode cL_law 843 = .ok (.iconst 2, 1) := dk_5 (dk_at dksL_law_28 8 rfl rfl)
theorem dL_law_844 : decode cL_law 844 = .ok (.iadd, 1) := dk_96 (dk_at dksL_law_28 9 rfl rfl)
theorem dL_law_845 : decode cL_law 845 = .ok (.iaload, 1) := dk_46 (dk_at dksL_law_28 10 rfl rfl)
theorem dL_law_846 : decode cL_law 846 = .ok (.invokevirtual 108, 3) := dk_182 0 108 (dk_at dksL_law_28 11 rfl rfl)
theorem dL_law_849 : decode cL_law 849 = .ok (.if_icmp .eq 903, 3) := dk_159 3 135 (dk_at dksL_law_28 14 rfl rfl)
theorem dL_law_852 : decode cL_law 852 = .ok (.iconst 0, 1) := dk_3 (dk_at dksL_law_28 17 rfl rfl)
theorem dL_law_853 : decode cL_law 853 = .ok (.ireturn, 1) := dk_172 (dk_at dksL_law_28 18 rfl rfl)
theorem dL_law_854 : decode cL_law 854 = .ok (.aload_n 1, 1) := dk_43 (dk_at dksL_law_28 19 rfl rfl)
theorem dL_law_855 : decode cL_law 855 = .ok (.aload_n 0, 1) := dk_42 (dk_at dksL_law_28 20 rfl rfl)
theorem dL_law_856 : decode cL_law 856 = .ok (.iload 4, 2) := dk_21 4 (dk_at dksL_law_28 21 rfl rfl)
theorem dL_law_858 : decode cL_law 858 = .ok (.iconst 1, 1) := dk_4 (dk_at dksL_law_28 23 rfl rfl)
theorem dL_law_859 : decode cL_law 859 = .ok (.iadd, 1) := dk_96 (dk_at dksL_law_29 0 rfl rfl)
theorem dL_law_860 : decode cL_law 860 = .ok (.iaload, 1) := dk_46 (dk_at dksL_law_29 1 rfl rfl)
theorem dL_law_861 : decode cL_law 861 = .ok (.invokevirtual 109, 3) := dk_182 0 109 (dk_at dksL_law_29 2 rfl rfl)
theorem dL_law_864 : decode cL_law 864 = .ok (.aload_n 2, 1) := dk_44 (dk_at dksL_law_29 5 rfl rfl)
theorem dL_law_865 : decode cL_law 865 = .ok (.aload_n 0, 1) := dk_42 (dk_at dksL_law_29 6 rfl rfl)
theorem dL_law_866 : decode cL_law 866 = .ok (.iload 4, 2) := dk_21 4 (dk_at dksL_law_29 7 rfl rfl)
theorem dL_law_868 : decode cL_law 868 = .ok (.iconst 1, 1) := dk_4 (dk_at dksL_law_29 9 rfl rfl)
theorem dL_law_869 : decode cL_law 869 = .ok (.iadd, 1) := dk_96 (dk_at dksL_law_29 10 rfl rfl)
theorem dL_law_870 : decode cL_law 870 = .ok (.iaload, 1) := dk_46 (dk_at dksL_law_29 11 rfl rfl)
theorem dL_law_871 : decode cL_law 871 = .ok (.invokevirtual 112, 3) := dk_182 0 112 (dk_at dksL_law_29 12 rfl rfl)
theorem dL_law_874 : decode cL_law 874 = .ok (.if_icmp .eq 878, 3) := dk_159 3 110 (dk_at dksL_law_29 15 rfl rfl)
theorem dL_law_877 : decode cL_law 877 = .ok (.iconst 0, 1) := dk_3 (dk_at dksL_law_29 18 rfl rfl)
theorem dL_law_878 : decode cL_law 878 = .ok (.ireturn, 1) := dk_172 (dk_at dksL_law_29 19 rfl rfl)
theorem dL_law_879 : decode cL_law 879 = .ok (.aload_n 1, 1) := dk_43 (dk_at dksL_law_29 20 rfl rfl)
theorem dL_law_880 : decode cL_law 880 = .ok (.invokevirtual 113, 3) := dk_182 0 113 (dk_at dksL_law_29 21 rfl rfl)
theorem dL_law_883 : decode cL_law 883 = .ok (.aload_n 2, 1) := dk_44 (dk_at dksL_law_30 0 rfl rfl)
theorem dL_law_884 : decode cL_law 884 = .ok (.invokevirtual 116, 3) := dk_182 0 116 (dk_at dksL_law_30 1 rfl rfl)
theorem dL_law_887 : decode cL_law 887 = .ok (.if_icmp .eq 865, 3) := dk_159 3 97 (dk_at dksL_law_30 4 rfl rfl)
theorem dL_law_890 : decode cL_law 890 = .ok (.iconst 0, 1) := dk_3 (dk_at dksL_law_30 7 rfl rfl)
theorem dL_law_891 : decode cL_law 891 = .ok (.ireturn, 1) := dk_172 (dk_at dksL_law_30 8 rfl rfl)
theorem dL_law_892 : decode cL_law 892 = .ok (.aload_n 1, 1) := dk_43 (dk_at dksL_law_30 9 rfl rfl)
theorem dL_law_893 : decode cL_law 893 = .ok (.aload_n 0, 1) := dk_42 (dk_at dksL_law_30 10 rfl rfl)
theorem dL_law_894 : decode cL_law 894 = .ok (.iload 4, 2) := dk_21 4 (dk_at dksL_law_30 11 rfl rfl)
theorem dL_law_896 : decode cL_law 896 = .ok (.iconst 1, 1) := dk_4 (dk_at dksL_law_30 13 rfl rfl)
theorem dL_law_897 : decode cL_law 897 = .ok (.iadd, 1) := dk_96 (dk_at dksL_law_30 14 rfl rfl)
theorem dL_law_898 : decode cL_law 898 = .ok (.iaload, 1) := dk_46 (dk_at dksL_law_30 15 rfl rfl)
theorem dL_law_899 : decode cL_law 899 = .ok (.invokevirtual 117, 3) := dk_182 0 117 (dk_at dksL_law_30 16 rfl rfl)
theorem dL_law_902 : decode cL_law 902 = .ok (.aload_n 2, 1) := dk_44 (dk_at dksL_law_30 19 rfl rfl)
theorem dL_law_903 : decode cL_law 903 = .ok (.aload_n 0, 1) := dk_42 (dk_at dksL_law_30 20 rfl rfl)
theorem dL_law_904 : decode cL_law 904 = .ok (.iload 4, 2) := dk_21 4 (dk_at dksL_law_30 21 rfl rfl)
theorem dL_law_906 : decode cL_law 906 = .ok (.iconst 1, 1) := dk_4 (dk_at dksL_law_30 23 rfl rfl)
theorem dL_law_907 : decode cL_law 907 = .ok (.iadd, 1) := dk_96 (dk_at dksL_law_31 0 rfl rfl)
theorem dL_law_908 : decode cL_law 908 = .ok (.iaload, 1) := dk_46 (dk_at dksL_law_31 1 rfl rfl)
theorem dL_law_909 : decode cL_law 909 = .ok (.invokevirtual 120, 3) := dk_182 0 120 (dk_at dksL_law_31 2 rfl rfl)
theorem dL_law_912 : decode cL_law 912 = .ok (.if_icmp .eq 840, 3) := dk_159 3 72 (dk_at dksL_law_31 5 rfl rfl)
theorem dL_law_915 : decode cL_law 915 = .ok (.iconst 0, 1) := dk_3 (dk_at dksL_law_31 8 rfl rfl)
theorem dL_law_916 : decode cL_law 916 = .ok (.ireturn, 1) := dk_172 (dk_at dksL_law_31 9 rfl rfl)
theorem dL_law_917 : decode cL_law 917 = .ok (.aload_n 1, 1) := dk_43 (dk_at dksL_law_31 10 rfl rfl)
theorem dL_law_918 : decode cL_law 918 = .ok (.aload_n 0, 1) := dk_42 (dk_at dksL_law_31 11 rfl rfl)
theorem dL_law_919 : decode cL_law 919 = .ok (.iload 4, 2) := dk_21 4 (dk_at dksL_law_31 12 rfl rfl)
theorem dL_law_921 : decode cL_law 921 = .ok (.iconst 1, 1) := dk_4 (dk_at dksL_law_31 14 rfl rfl)
theorem dL_law_922 : decode cL_law 922 = .ok (.iadd, 1) := dk_96 (dk_at dksL_law_31 15 rfl rfl)
theorem dL_law_923 : decode cL_law 923 = .ok (.iaload, 1) := dk_46 (dk_at dksL_law_31 16 rfl rfl)
theorem dL_law_924 : decode cL_law 924 = .ok (.aload_n 0, 1) := dk_42 (dk_at dksL_law_31 17 rfl rfl)
theorem dL_law_925 : decode cL_law 925 = .ok (.iload 4, 2) := dk_21 4 (dk_at dksL_law_31 18 rfl rfl)
theorem dL_law_927 : decode cL_law 927 = .ok (.iconst 2, 1) := dk_5 (dk_at dksL_law_31 20 rfl rfl)
theorem dL_law_928 : decode cL_law 928 = .ok (.iadd, 1) := dk_96 (dk_at dksL_law_31 21 rfl rfl)
theorem dL_law_929 : decode cL_law 929 = .ok (.iaload, 1) := dk_46 (dk_at dksL_law_31 22 rfl rfl)
theorem dL_law_930 : decode cL_law 930 = .ok (.invokevirtual 121, 3) := dk_182 0 121 (dk_at dksL_law_32 0 rfl rfl)
theorem dL_law_933 : decode cL_law 933 = .ok (.aload_n 2, 1) := dk_44 (dk_at dksL_law_32 3 rfl rfl)
theorem dL_law_934 : decode cL_law 934 = .ok (.aload_n 0, 1) := dk_42 (dk_at dksL_law_32 4 rfl rfl)
theorem dL_law_935 : decode cL_law 935 = .ok (.iload 4, 2) := dk_21 4 (dk_at dksL_law_32 5 rfl rfl)
theorem dL_law_937 : decode cL_law 937 = .ok (.iconst 1, 1) := dk_4 (dk_at dksL_law_32 7 rfl rfl)
theorem dL_law_938 : decode cL_law 938 = .ok (.iadd, 1) := dk_96 (dk_at dksL_law_32 8 rfl rfl)
theorem dL_law_939 : decode cL_law 939 = .ok (.iaload, 1) := dk_46 (dk_at dksL_law_32 9 rfl rfl)
theorem dL_law_940 : decode cL_law 940 = .ok (.aload_n 0, 1) := dk_42 (dk_at dksL_law_32 10 rfl rfl)
theorem dL_law_941 : decode cL_law 941 = .ok (.iload 4, 2) := dk_21 4 (dk_at dksL_law_32 11 rfl rfl)
theorem dL_law_943 : decode cL_law 943 = .ok (.iconst 2, 1) := dk_5 (dk_at dksL_law_32 13 rfl rfl)
theorem dL_law_944 : decode cL_law 944 = .ok (.iadd, 1) := dk_96 (dk_at dksL_law_32 14 rfl rfl)
theorem dL_law_945 : decode cL_law 945 = .ok (.iaload, 1) := dk_46 (dk_at dksL_law_32 15 rfl rfl)
theorem dL_law_946 : decode cL_law 946 = .ok (.invokevirtual 124, 3) := dk_182 0 124 (dk_at dksL_law_32 16 rfl rfl)
theorem dL_law_949 : decode cL_law 949 = .ok (.if_icmp .eq 803, 3) := dk_159 3 35 (dk_at dksL_law_32 19 rfl rfl)
theorem dL_law_952 : decode cL_law 952 = .ok (.iconst 0, 1) := dk_3 (dk_at dksL_law_32 22 rfl rfl)
theorem dL_law_953 : decode cL_law 953 = .ok (.ireturn, 1) := dk_172 (dk_at dksL_law_32 23 rfl rfl)
theorem dL_law_954 : decode cL_law 954 = .ok (.aload_n 1, 1) := dk_43 (dk_at dksL_law_33 0 rfl rfl)
theorem dL_law_955 : decode cL_law 955 = .ok (.aload_n 0, 1) := dk_42 (dk_at dksL_law_33 1 rfl rfl)
theorem dL_law_956 : decode cL_law 956 = .ok (.iload 4, 2) := dk_21 4 (dk_at dksL_law_33 2 rfl rfl)
theorem dL_law_958 : decode cL_law 958 = .ok (.iconst 1, 1) := dk_4 (dk_at dksL_law_33 4 rfl rfl)
theorem dL_law_959 : decode cL_law 959 = .ok (.iadd, 1) := dk_96 (dk_at dksL_law_33 5 rfl rfl)
theorem dL_law_960 : decode cL_law 960 = .ok (.iaload, 1) := dk_46 (dk_at dksL_law_33 6 rfl rfl)
theorem dL_law_961 : decode cL_law 961 = .ok (.invokevirtual 125, 3) := dk_182 0 125 (dk_at dksL_law_33 7 rfl rfl)
theorem dL_law_964 : decode cL_law 964 = .ok (.aload_n 2, 1) := dk_44 (dk_at dksL_law_33 10 rfl rfl)
theorem dL_law_965 : decode cL_law 965 = .ok (.aload_n 0, 1) := dk_42 (dk_at dksL_law_33 11 rfl rfl)
theorem dL_law_966 : decode cL_law 966 = .ok (.iload 4, 2) := dk_21 4 (dk_at dksL_law_33 12 rfl rfl)
theorem dL_law_968 : decode cL_law 968 = .ok (.iconst 1, 1) := dk_4 (dk_at dksL_law_33 14 rfl rfl)
theorem dL_law_969 : decode cL_law 969 = .ok (.iadd, 1) := dk_96 (dk_at dksL_law_33 15 rfl rfl)
theorem dL_law_970 : decode cL_law 970 = .ok (.iaload, 1) := dk_46 (dk_at dksL_law_33 16 rfl rfl)
theorem dL_law_971 : decode cL_law 971 = .ok (.invokevirtual 128, 3) := dk_182 0 128 (dk_at dksL_law_33 17 rfl rfl)
theorem dL_law_974 : decode cL_law 974 = .ok (.if_icmp .eq 778, 3) := dk_159 3 10 (dk_at dksL_law_33 20 rfl rfl)
theorem dL_law_977 : decode cL_law 977 = .ok (.iconst 0, 1) := dk_3 (dk_at dksL_law_33 23 rfl rfl)
theorem dL_law_978 : decode cL_law 978 = .ok (.ireturn, 1) := dk_172 (dk_at dksL_law_34 0 rfl rfl)
theorem dL_law_979 : decode cL_law 979 = .ok (.aload_n 1, 1) := dk_43 (dk_at dksL_law_34 1 rfl rfl)
theorem dL_law_980 : decode cL_law 980 = .ok (.aload_n 0, 1) := dk_42 (dk_at dksL_law_34 2 rfl rfl)
theorem dL_law_981 : decode cL_law 981 = .ok (.iload 4, 2) := dk_21 4 (dk_at dksL_law_34 3 rfl rfl)
theorem dL_law_983 : decode cL_law 983 = .ok (.iconst 1, 1) := dk_4 (dk_at dksL_law_34 5 rfl rfl)
theorem dL_law_984 : decode cL_law 984 = .ok (.iadd, 1) := dk_96 (dk_at dksL_law_34 6 rfl rfl)
theorem dL_law_985 : decode cL_law 985 = .ok (.iaload, 1) := dk_46 (dk_at dksL_law_34 7 rfl rfl)
theorem dL_law_986 : decode cL_law 986 = .ok (.invokevirtual 129, 3) := dk_182 0 129 (dk_at dksL_law_34 8 rfl rfl)
theorem dL_law_989 : decode cL_law 989 = .ok (.aload_n 2, 1) := dk_44 (dk_at dksL_law_34 11 rfl rfl)
theorem dL_law_990 : decode cL_law 990 = .ok (.aload_n 0, 1) := dk_42 (dk_at dksL_law_34 12 rfl rfl)
theorem dL_law_991 : decode cL_law 991 = .ok (.iload 4, 2) := dk_21 4 (dk_at dksL_law_34 13 rfl rfl)
theorem dL_law_993 : decode cL_law 993 = .ok (.iconst 1, 1) := dk_4 (dk_at dksL_law_34 15 rfl rfl)
theorem dL_law_994 : decode cL_law 994 = .ok (.iadd, 1) := dk_96 (dk_at dksL_law_34 16 rfl rfl)
theorem dL_law_995 : decode cL_law 995 = .ok (.iaload, 1) := dk_46 (dk_at dksL_law_34 17 rfl rfl)
theorem dL_law_996 : decode cL_law 996 = .ok (.invokevirtual 132, 3) := dk_182 0 132 (dk_at dksL_law_34 18 rfl rfl)
theorem dL_law_999 : decode cL_law 999 = .ok (.if_icmp .eq 753, 3) := dk_159 2 241 (dk_at dksL_law_34 21 rfl rfl)
theorem dL_law_1002 : decode cL_law 1002 = .ok (.iconst 0, 1) := dk_3 (dk_at dksL_law_35 0 rfl rfl)
theorem dL_law_1003 : decode cL_law 1003 = .ok (.ireturn, 1) := dk_172 (dk_at dksL_law_35 1 rfl rfl)
theorem dL_law_1004 : decode cL_law 1004 = .ok (.aload_n 1, 1) := dk_43 (dk_at dksL_law_35 2 rfl rfl)
theorem dL_law_1005 : decode cL_law 1005 = .ok (.aload_n 0, 1) := dk_42 (dk_at dksL_law_35 3 rfl rfl)
theorem dL_law_1006 : decode cL_law 1006 = .ok (.iload 4, 2) := dk_21 4 (dk_at dksL_law_35 4 rfl rfl)
theorem dL_law_1008 : decode cL_law 1008 = .ok (.iconst 1, 1) := dk_4 (dk_at dksL_law_35 6 rfl rfl)
theorem dL_law_1009 : decode cL_law 1009 = .ok (.iadd, 1) := dk_96 (dk_at dksL_law_35 7 rfl rfl)
theorem dL_law_1010 : decode cL_law 1010 = .ok (.iaload, 1) := dk_46 (dk_at dksL_law_35 8 rfl rfl)
theorem dL_law_1011 : decode cL_law 1011 = .ok (.invokevirtual 133, 3) := dk_182 0 133 (dk_at dksL_law_35 9 rfl rfl)
theorem dL_law_1014 : decode cL_law 1014 = .ok (.aload_n 2, 1) := dk_44 (dk_at dksL_law_35 12 rfl rfl)
theorem dL_law_1015 : decode cL_law 1015 = .ok (.aload_n 0, 1) := dk_42 (dk_at dksL_law_35 13 rfl rfl)
theorem dL_law_1016 : decode cL_law 1016 = .ok (.iload 4, 2) := dk_21 4 (dk_at dksL_law_35 14 rfl rfl)
theorem dL_law_1018 : decode cL_law 1018 = .ok (.iconst 1, 1) := dk_4 (dk_at dksL_law_35 16 rfl rfl)
theorem dL_law_1019 : decode cL_law 1019 = .ok (.iadd, 1) := dk_96 (dk_at dksL_law_35 17 rfl rfl)
theorem dL_law_1020 : decode cL_law 1020 = .ok (.iaload, 1) := dk_46 (dk_at dksL_law_35 18 rfl rfl)
theorem dL_law_1021 : decode cL_law 1021 = .ok (.invokevirtual 136, 3) := dk_182 0 136 (dk_at dksL_law_35 19 rfl rfl)
theorem dL_law_1024 : decode cL_law 1024 = .ok (.if_icmp .eq 728, 3) := dk_159 2 216 (dk_at dksL_law_36 0 rfl rfl)
theorem dL_law_1027 : decode cL_law 1027 = .ok (.iconst 0, 1) := dk_3 (dk_at dksL_law_36 3 rfl rfl)
theorem dL_law_1028 : decode cL_law 1028 = .ok (.ireturn, 1) := dk_172 (dk_at dksL_law_36 4 rfl rfl)
theorem dL_law_1029 : decode cL_law 1029 = .ok (.aload_n 1, 1) := dk_43 (dk_at dksL_law_36 5 rfl rfl)
theorem dL_law_1030 : decode cL_law 1030 = .ok (.aload_n 0, 1) := dk_42 (dk_at dksL_law_36 6 rfl rfl)
theorem dL_law_1031 : decode cL_law 1031 = .ok (.iload 4, 2) := dk_21 4 (dk_at dksL_law_36 7 rfl rfl)
theorem dL_law_1033 : decode cL_law 1033 = .ok (.iconst 1, 1) := dk_4 (dk_at dksL_law_36 9 rfl rfl)
theorem dL_law_1034 : decode cL_law 1034 = .ok (.iadd, 1) := dk_96 (dk_at dksL_law_36 10 rfl rfl)
theorem dL_law_1035 : decode cL_law 1035 = .ok (.iaload, 1) := dk_46 (dk_at dksL_law_36 11 rfl rfl)
theorem dL_law_1036 : decode cL_law 1036 = .ok (.aload_n 0, 1) := dk_42 (dk_at dksL_law_36 12 rfl rfl)
theorem dL_law_1037 : decode cL_law 1037 = .ok (.iload 4, 2) := dk_21 4 (dk_at dksL_law_36 13 rfl rfl)
theorem dL_law_1039 : decode cL_law 1039 = .ok (.iconst 2, 1) := dk_5 (dk_at dksL_law_36 15 rfl rfl)
theorem dL_law_1040 : decode cL_law 1040 = .ok (.iadd, 1) := dk_96 (dk_at dksL_law_36 16 rfl rfl)
theorem dL_law_1041 : decode cL_law 1041 = .ok (.iaload, 1) := dk_46 (dk_at dksL_law_36 17 rfl rfl)
theorem dL_law_1042 : decode cL_law 1042 = .ok (.invokevirtual 137, 3) := dk_182 0 137 (dk_at dksL_law_36 18 rfl rfl)
theorem dL_law_1045 : decode cL_law 1045 = .ok (.aload_n 2, 1) := dk_44 (dk_at dksL_law_36 21 rfl rfl)
theorem dL_law_1046 : decode cL_law 1046 = .ok (.aload_n 0, 1) := dk_42 (dk_at dksL_law_36 22 rfl rfl)
theorem dL_law_1047 : decode cL_law 1047 = .ok (.iload 4, 2) := dk_21 4 (dk_at dksL_law_37 0 rfl rfl)
theorem dL_law_1049 : decode cL_law 1049 = .ok (.iconst 1, 1) := dk_4 (dk_at dksL_law_37 2 rfl rfl)
theorem dL_law_1050 : decode cL_law 1050 = .ok (.iadd, 1) := dk_96 (dk_at dksL_law_37 3 rfl rfl)
theorem dL_law_1051 : decode cL_law 1051 = .ok (.iaload, 1) := dk_46 (dk_at dksL_law_37 4 rfl rfl)
theorem dL_law_1052 : decode cL_law 1052 = .ok (.aload_n 0, 1) := dk_42 (dk_at dksL_law_37 5 rfl rfl)
theorem dL_law_1053 : decode cL_law 1053 = .ok (.iload 4, 2) := dk_21 4 (dk_at dksL_law_37 6 rfl rfl)
theorem dL_law_1055 : decode cL_law 1055 = .ok (.iconst 2, 1) := dk_5 (dk_at dksL_law_37 8 rfl rfl)
theorem dL_law_1056 : decode cL_law 1056 = .ok (.iadd, 1) := dk_96 (dk_at dksL_law_37 9 rfl rfl)
theorem dL_law_1057 : decode cL_law 1057 = .ok (.iaload, 1) := dk_46 (dk_at dksL_law_37 10 rfl rfl)
theorem dL_law_1058 : decode cL_law 1058 = .ok (.invokevirtual 140, 3) := dk_182 0 140 (dk_at dksL_law_37 11 rfl rfl)
theorem dL_law_1061 : decode cL_law 1061 = .ok (.if_icmp .eq 691, 3) := dk_159 2 179 (dk_at dksL_law_37 14 rfl rfl)
theorem dL_law_1064 : decode cL_law 1064 = .ok (.iconst 0, 1) := dk_3 (dk_at dksL_law_37 17 rfl rfl)
theorem dL_law_1065 : decode cL_law 1065 = .ok (.ireturn, 1) := dk_172 (dk_at dksL_law_37 18 rfl rfl)
theorem dL_law_1066 : decode cL_law 1066 = .ok (.aload_n 1, 1) := dk_43 (dk_at dksL_law_37 19 rfl rfl)
theorem dL_law_1067 : decode cL_law 1067 = .ok (.aload_n 0, 1) := dk_42 (dk_at dksL_law_37 20 rfl rfl)
theorem dL_law_1068 : decode cL_law 1068 = .ok (.iload 4, 2) := dk_21 4 (dk_at dksL_law_37 21 rfl rfl)
theorem dL_law_1070 : decode cL_law 1070 = .ok (.iconst 1, 1) := dk_4 (dk_at dksL_law_37 23 rfl rfl)
theorem dL_law_1071 : decode cL_law 1071 = .ok (.iadd, 1) := dk_96 (dk_at dksL_law_38 0 rfl rfl)
theorem dL_law_1072 : decode cL_law 1072 = .ok (.iaload, 1) := dk_46 (dk_at dksL_law_38 1 rfl rfl)
theorem dL_law_1073 : decode cL_law 1073 = .ok (.aload_n 0, 1) := dk_42 (dk_at dksL_law_38 2 rfl rfl)
theorem dL_law_1074 : decode cL_law 1074 = .ok (.iload 4, 2) := dk_21 4 (dk_at dksL_law_38 3 rfl rfl)
theorem dL_law_1076 : decode cL_law 1076 = .ok (.iconst 2, 1) := dk_5 (dk_at dksL_law_38 5 rfl rfl)
theorem dL_law_1077 : decode cL_law 1077 = .ok (.iadd, 1) := dk_96 (dk_at dksL_law_38 6 rfl rfl)
theorem dL_law_1078 : decode cL_law 1078 = .ok (.iaload, 1) := dk_46 (dk_at dksL_law_38 7 rfl rfl)
theorem dL_law_1079 : decode cL_law 1079 = .ok (.invokevirtual 141, 3) := dk_182 0 141 (dk_at dksL_law_38 8 rfl rfl)
theorem dL_law_1082 : decode cL_law 1082 = .ok (.aload_n 2, 1) := dk_44 (dk_at dksL_law_38 11 rfl rfl)
theorem dL_law_1083 : decode cL_law 1083 = .ok (.aload_n 0, 1) := dk_42 (dk_at dksL_law_38 12 rfl rfl)
theorem dL_law_1084 : decode cL_law 1084 = .ok (.iload 4, 2) := dk_21 4 (dk_at dksL_law_38 13 rfl rfl)
theorem dL_law_1086 : decode cL_law 1086 = .ok (.iconst 1, 1) := dk_4 (dk_at dksL_law_38 15 rfl rfl)
theorem dL_law_1087 : decode cL_law 1087 = .ok (.iadd, 1) := dk_96 (dk_at dksL_law_38 16 rfl rfl)
theorem dL_law_1088 : decode cL_law 1088 = .ok (.iaload, 1) := dk_46 (dk_at dksL_law_38 17 rfl rfl)
theorem dL_law_1089 : decode cL_law 1089 = .ok (.aload_n 0, 1) := dk_42 (dk_at dksL_law_38 18 rfl rfl)
theorem dL_law_1090 : decode cL_law 1090 = .ok (.iload 4, 2) := dk_21 4 (dk_at dksL_law_38 19 rfl rfl)
theorem dL_law_1092 : decode cL_law 1092 = .ok (.iconst 2, 1) := dk_5 (dk_at dksL_law_38 21 rfl rfl)
theorem dL_law_1093 : decode cL_law 1093 = .ok (.iadd, 1) := dk_96 (dk_at dksL_law_38 22 rfl rfl)
theorem dL_law_1094 : decode cL_law 1094 = .ok (.iaload, 1) := dk_46 (dk_at dksL_law_38 23 rfl rfl)
theorem dL_law_1095 : decode cL_law 1095 = .ok (.invokevirtual 144, 3) := dk_182 0 144 (dk_at dksL_law_39 0 rfl rfl)
theorem dL_law_1098 : decode cL_law 1098 = .ok (.if_icmp .eq 654, 3) := dk_159 2 142 (dk_at dksL_law_39 3 rfl rfl)
theorem dL_law_1101 : decode cL_law 1101 = .ok (.iconst 0, 1) := dk_3 (dk_at dksL_law_39 6 rfl rfl)
theorem dL_law_1102 : decode cL_law 1102 = .ok (.ireturn, 1) := dk_172 (dk_at dksL_law_39 7 rfl rfl)
theorem dL_law_1103 : decode cL_law 1103 = .ok (.aload_n 1, 1) := dk_43 (dk_at dksL_law_39 8 rfl rfl)
theorem dL_law_1104 : decode cL_law 1104 = .ok (.aload_n 0, 1) := dk_42 (dk_at dksL_law_39 9 rfl rfl)
theorem dL_law_1105 : decode cL_law 1105 = .ok (.iload 4, 2) := dk_21 4 (dk_at dksL_law_39 10 rfl rfl)
theorem dL_law_1107 : decode cL_law 1107 = .ok (.iconst 1, 1) := dk_4 (dk_at dksL_law_39 12 rfl rfl)
theorem dL_law_1108 : decode cL_law 1108 = .ok (.iadd, 1) := dk_96 (dk_at dksL_law_39 13 rfl rfl)
theorem dL_law_1109 : decode cL_law 1109 = .ok (.iaload, 1) := dk_46 (dk_at dksL_law_39 14 rfl rfl)
theorem dL_law_1110 : decode cL_law 1110 = .ok (.invokevirtual 145, 3) := dk_182 0 145 (dk_at dksL_law_39 15 rfl rfl)
theorem dL_law_1113 : decode cL_law 1113 = .ok (.aload_n 2, 1) := dk_44 (dk_at dksL_law_39 18 rfl rfl)
theorem dL_law_1114 : decode cL_law 1114 = .ok (.aload_n 0, 1) := dk_42 (dk_at dksL_law_39 19 rfl rfl)
theorem dL_law_1115 : decode cL_law 1115 = .ok (.iload 4, 2) := dk_21 4 (dk_at dksL_law_39 20 rfl rfl)
theorem dL_law_1117 : decode cL_law 1117 = .ok (.iconst 1, 1) := dk_4 (dk_at dksL_law_39 22 rfl rfl)
theorem dL_law_1118 : decode cL_law 1118 = .ok (.iadd, 1) := dk_96 (dk_at dksL_law_39 23 rfl rfl)
theorem dL_law_1119 : decode cL_law 1119 = .ok (.iaload, 1) := dk_46 (dk_at dksL_law_40 0 rfl rfl)
theorem dL_law_1120 : decode cL_law 1120 = .ok (.invokevirtual 148, 3) := dk_182 0 148 (dk_at dksL_law_40 1 rfl rfl)
theorem dL_law_1123 : decode cL_law 1123 = .ok (.if_icmp .eq 629, 3) := dk_159 2 117 (dk_at dksL_law_40 4 rfl rfl)
theorem dL_law_1126 : decode cL_law 1126 = .ok (.iconst 0, 1) := dk_3 (dk_at dksL_law_40 7 rfl rfl)
theorem dL_law_1127 : decode cL_law 1127 = .ok (.ireturn, 1) := dk_172 (dk_at dksL_law_40 8 rfl rfl)
theorem dL_law_1128 : decode cL_law 1128 = .ok (.aload_n 1, 1) := dk_43 (dk_at dksL_law_40 9 rfl rfl)
theorem dL_law_1129 : decode cL_law 1129 = .ok (.aload_n 0, 1) := dk_42 (dk_at dksL_law_40 10 rfl rfl)
theorem dL_law_1130 : decode cL_law 1130 = .ok (.iload 4, 2) := dk_21 4 (dk_at dksL_law_40 11 rfl rfl)
theorem dL_law_1132 : decode cL_law 1132 = .ok (.iconst 1, 1) := dk_4 (dk_at dksL_law_40 13 rfl rfl)
theorem dL_law_1133 : decode cL_law 1133 = .ok (.iadd, 1) := dk_96 (dk_at dksL_law_40 14 rfl rfl)
theorem dL_law_1134 : decode cL_law 1134 = .ok (.iaload, 1) := dk_46 (dk_at dksL_law_40 15 rfl rfl)
theorem dL_law_1135 : decode cL_law 1135 = .ok (.aload_n 0, 1) := dk_42 (dk_at dksL_law_40 16 rfl rfl)
theorem dL_law_1136 : decode cL_law 1136 = .ok (.iload 4, 2) := dk_21 4 (dk_at dksL_law_40 17 rfl rfl)
theorem dL_law_1138 : decode cL_law 1138 = .ok (.iconst 2, 1) := dk_5 (dk_at dksL_law_40 19 rfl rfl)
theorem dL_law_1139 : decode cL_law 1139 = .ok (.iadd, 1) := dk_96 (dk_at dksL_law_40 20 rfl rfl)
theorem dL_law_1140 : decode cL_law 1140 = .ok (.iaload, 1) := dk_46 (dk_at dksL_law_40 21 rfl rfl)
theorem dL_law_1141 : decode cL_law 1141 = .ok (.invokevirtual 149, 3) := dk_182 0 149 (dk_at dksL_law_41 0 rfl rfl)
theorem dL_law_1144 : decode cL_law 1144 = .ok (.aload_n 2, 1) := dk_44 (dk_at dksL_law_41 3 rfl rfl)
theorem dL_law_1145 : decode cL_law 1145 = .ok (.aload_n 0, 1) := dk_42 (dk_at dksL_law_41 4 rfl rfl)
theorem dL_law_1146 : decode cL_law 1146 = .ok (.iload 4, 2) := dk_21 4 (dk_at dksL_law_41 5 rfl rfl)
theorem dL_law_1148 : decode cL_law 1148 = .ok (.iconst 1, 1) := dk_4 (dk_at dksL_law_41 7 rfl rfl)
theorem dL_law_1149 : decode cL_law 1149 = .ok (.iadd, 1) := dk_96 (dk_at dksL_law_41 8 rfl rfl)
theorem dL_law_1150 : decode cL_law 1150 = .ok (.iaload, 1) := dk_46 (dk_at dksL_law_41 9 rfl rfl)
theorem dL_law_1151 : decode cL_law 1151 = .ok (.aload_n 0, 1) := dk_42 (dk_at dksL_law_41 10 rfl rfl)
theorem dL_law_1152 : decode cL_law 1152 = .ok (.iload 4, 2) := dk_21 4 (dk_at dksL_law_41 11 rfl rfl)
theorem dL_law_1154 : decode cL_law 1154 = .ok (.iconst 2, 1) := dk_5 (dk_at dksL_law_41 13 rfl rfl)
theorem dL_law_1155 : decode cL_law 1155 = .ok (.iadd, 1) := dk_96 (dk_at dksL_law_41 14 rfl rfl)
theorem dL_law_1156 : decode cL_law 1156 = .ok (.iaload, 1) := dk_46 (dk_at dksL_law_41 15 rfl rfl)
theorem dL_law_1157 : decode cL_law 1157 = .ok (.invokevirtual 152, 3) := dk_182 0 152 (dk_at dksL_law_41 16 rfl rfl)
theorem dL_law_1160 : decode cL_law 1160 = .ok (.if_icmp .eq 592, 3) := dk_159 2 80 (dk_at dksL_law_41 19 rfl rfl)
theorem dL_law_1163 : decode cL_law 1163 = .ok (.iconst 0, 1) := dk_3 (dk_at dksL_law_41 22 rfl rfl)
theorem dL_law_1164 : decode cL_law 1164 = .ok (.ireturn, 1) := dk_172 (dk_at dksL_law_41 23 rfl rfl)
theorem dL_law_1165 : decode cL_law 1165 = .ok (.aload_n 1, 1) := dk_43 (dk_at dksL_law_42 0 rfl rfl)
theorem dL_law_1166 : decode cL_law 1166 = .ok (.aload_n 0, 1) := dk_42 (dk_at dksL_law_42 1 rfl rfl)
theorem dL_law_1167 : decode cL_law 1167 = .ok (.iload 4, 2) := dk_21 4 (dk_at dksL_law_42 2 rfl rfl)
theorem dL_law_1169 : decode cL_law 1169 = .ok (.iconst 1, 1) := dk_4 (dk_at dksL_law_42 4 rfl rfl)
theorem dL_law_1170 : decode cL_law 1170 = .ok (.iadd, 1) := dk_96 (dk_at dksL_law_42 5 rfl rfl)
theorem dL_law_1171 : decode cL_law 1171 = .ok (.iaload, 1) := dk_46 (dk_at dksL_law_42 6 rfl rfl)
theorem dL_law_1172 : decode cL_law 1172 = .ok (.aload_n 0, 1) := dk_42 (dk_at dksL_law_42 7 rfl rfl)
theorem dL_law_1173 : decode cL_law 1173 = .ok (.iload 4, 2) := dk_21 4 (dk_at dksL_law_42 8 rfl rfl)
theorem dL_law_1175 : decode cL_law 1175 = .ok (.iconst 2, 1) := dk_5 (dk_at dksL_law_42 10 rfl rfl)
theorem dL_law_1176 : decode cL_law 1176 = .ok (.iadd, 1) := dk_96 (dk_at dksL_law_42 11 rfl rfl)
theorem dL_law_1177 : decode cL_law 1177 = .ok (.iaload, 1) := dk_46 (dk_at dksL_law_42 12 rfl rfl)
theorem dL_law_1178 : decode cL_law 1178 = .ok (.aload_n 3, 1) := dk_45 (dk_at dksL_law_42 13 rfl rfl)
theorem dL_law_1179 : decode cL_law 1179 = .ok (.invokestatic 153, 3) := dk_184 0 153 (dk_at dksL_law_42 14 rfl rfl)
theorem dL_law_1182 : decode cL_law 1182 = .ok (.istore 5, 2) := dk_54 5 (dk_at dksL_law_42 17 rfl rfl)
theorem dL_law_1184 : decode cL_law 1184 = .ok (.aload_n 2, 1) := dk_44 (dk_at dksL_law_42 19 rfl rfl)
theorem dL_law_1185 : decode cL_law 1185 = .ok (.aload_n 0, 1) := dk_42 (dk_at dksL_law_42 20 rfl rfl)
theorem dL_law_1186 : decode cL_law 1186 = .ok (.iload 4, 2) := dk_21 4 (dk_at dksL_law_42 21 rfl rfl)
theorem dL_law_1188 : decode cL_law 1188 = .ok (.iconst 1, 1) := dk_4 (dk_at dksL_law_42 23 rfl rfl)
theorem dL_law_1189 : decode cL_law 1189 = .ok (.iadd, 1) := dk_96 (dk_at dksL_law_43 0 rfl rfl)
theorem dL_law_1190 : decode cL_law 1190 = .ok (.iaload, 1) := dk_46 (dk_at dksL_law_43 1 rfl rfl)
theorem dL_law_1191 : decode cL_law 1191 = .ok (.aload_n 0, 1) := dk_42 (dk_at dksL_law_43 2 rfl rfl)
theorem dL_law_1192 : decode cL_law 1192 = .ok (.iload 4, 2) := dk_21 4 (dk_at dksL_law_43 3 rfl rfl)
theorem dL_law_1194 : decode cL_law 1194 = .ok (.iconst 2, 1) := dk_5 (dk_at dksL_law_43 5 rfl rfl)
theorem dL_law_1195 : decode cL_law 1195 = .ok (.iadd, 1) := dk_96 (dk_at dksL_law_43 6 rfl rfl)
theorem dL_law_1196 : decode cL_law 1196 = .ok (.iaload, 1) := dk_46 (dk_at dksL_law_43 7 rfl rfl)
theorem dL_law_1197 : decode cL_law 1197 = .ok (.invokevirtual 155, 3) := dk_182 0 155 (dk_at dksL_law_43 8 rfl rfl)
theorem dL_law_1200 : decode cL_law 1200 = .ok (.istore 6, 2) := dk_54 6 (dk_at dksL_law_43 11 rfl rfl)
theorem dL_law_1202 : decode cL_law 1202 = .ok (.aload_n 2, 1) := dk_44 (dk_at dksL_law_43 13 rfl rfl)
theorem dL_law_1203 : decode cL_law 1203 = .ok (.invokevirtual 61, 3) := dk_182 0 61 (dk_at dksL_law_43 14 rfl rfl)
theorem dL_law_1206 : decode cL_law 1206 = .ok (.iload 5, 2) := dk_21 5 (dk_at dksL_law_43 17 rfl rfl)
theorem dL_law_1208 : decode cL_law 1208 = .ok (.if_icmp .eq 5, 3) := dk_159 0 5 (dk_at dksL_law_43 19 rfl rfl)
theorem dL_law_1211 : decode cL_law 1211 = .ok (.iconst 0, 1) := dk_3 (dk_at dksL_law_43 22 rfl rfl)
theorem dL_law_1212 : decode cL_law 1212 = .ok (.ireturn, 1) := dk_172 (dk_at dksL_law_43 23 rfl rfl)
theorem dL_law_1213 : decode cL_law 1213 = .ok (.iload 5, 2) := dk_21 5 (dk_at dksL_law_44 0 rfl rfl)
theorem dL_law_1215 : decode cL_law 1215 = .ok (.ifCond .ne 15, 3) := dk_154 0 15 (dk_at dksL_law_44 2 rfl rfl)
theorem dL_law_1218 : decode cL_law 1218 = .ok (.aload_n 3, 1) := dk_45 (dk_at dksL_law_44 5 rfl rfl)
theorem dL_law_1219 : decode cL_law 1219 = .ok (.iconst 0, 1) := dk_3 (dk_at dksL_law_44 6 rfl rfl)
theorem dL_law_1220 : decode cL_law 1220 = .ok (.laload, 1) := dk_47 (dk_at dksL_law_44 7 rfl rfl)
theorem dL_law_1221 : decode cL_law 1221 = .ok (.iload 6, 2) := dk_21 6 (dk_at dksL_law_44 8 rfl rfl)
theorem dL_law_1223 : decode cL_law 1223 = .ok (.i2l, 1) := dk_133 (dk_at dksL_law_44 10 rfl rfl)
theorem dL_law_1224 : decode cL_law 1224 = .ok (.lcmp, 1) := dk_148 (dk_at dksL_law_44 11 rfl rfl)
theorem dL_law_1225 : decode cL_law 1225 = .ok (.ifCond .eq 5, 3) := dk_153 0 5 (dk_at dksL_law_44 12 rfl rfl)
theorem dL_law_1228 : decode cL_law 1228 = .ok (.iconst 0, 1) := dk_3 (dk_at dksL_law_44 15 rfl rfl)
theorem dL_law_1229 : decode cL_law 1229 = .ok (.ireturn, 1) := dk_172 (dk_at dksL_law_44 16 rfl rfl)
theorem dL_law_1230 : decode cL_law 1230 = .ok (.goto 522, 3) := dk_167 2 10 (dk_at dksL_law_44 17 rfl rfl)
theorem dL_law_1233 : decode cL_law 1233 = .ok (.aload_n 1, 1) := dk_43 (dk_at dksL_law_44 20 rfl rfl)
theorem dL_law_1234 : decode cL_law 1234 = .ok (.aload_n 0, 1) := dk_42 (dk_at dksL_law_44 21 rfl rfl)
theorem dL_law_1235 : decode cL_law 1235 = .ok (.iload 4, 2) := dk_21 4 (dk_at dksL_law_44 22 rfl rfl)
theorem dL_law_1237 : decode cL_law 1237 = .ok (.iconst 1, 1) := dk_4 (dk_at dksL_law_45 0 rfl rfl)
theorem dL_law_1238 : decode cL_law 1238 = .ok (.iadd, 1) := dk_96 (dk_at dksL_law_45 1 rfl rfl)
theorem dL_law_1239 : decode cL_law 1239 = .ok (.iaload, 1) := dk_46 (dk_at dksL_law_45 2 rfl rfl)
theorem dL_law_1240 : decode cL_law 1240 = .ok (.invokevirtual 156, 3) := dk_182 0 156 (dk_at dksL_law_45 3 rfl rfl)
theorem dL_law_1243 : decode cL_law 1243 = .ok (.aload_n 2, 1) := dk_44 (dk_at dksL_law_45 6 rfl rfl)
theorem dL_law_1244 : decode cL_law 1244 = .ok (.aload_n 0, 1) := dk_42 (dk_at dksL_law_45 7 rfl rfl)
theorem dL_law_1245 : decode cL_law 1245 = .ok (.iload 4, 2) := dk_21 4 (dk_at dksL_law_45 8 rfl rfl)
theorem dL_law_1247 : decode cL_law 1247 = .ok (.iconst 1, 1) := dk_4 (dk_at dksL_law_45 10 rfl rfl)
theorem dL_law_1248 : decode cL_law 1248 = .ok (.iadd, 1) := dk_96 (dk_at dksL_law_45 11 rfl rfl)
theorem dL_law_1249 : decode cL_law 1249 = .ok (.iaload, 1) := dk_46 (dk_at dksL_law_45 12 rfl rfl)
theorem dL_law_1250 : decode cL_law 1250 = .ok (.invokevirtual 159, 3) := dk_182 0 159 (dk_at dksL_law_45 13 rfl rfl)
theorem dL_law_1253 : decode cL_law 1253 = .ok (.if_icmp .eq 499, 3) := dk_159 1 243 (dk_at dksL_law_45 16 rfl rfl)
theorem dL_law_1256 : decode cL_law 1256 = .ok (.iconst 0, 1) := dk_3 (dk_at dksL_law_45 19 rfl rfl)
theorem dL_law_1257 : decode cL_law 1257 = .ok (.ireturn, 1) := dk_172 (dk_at dksL_law_45 20 rfl rfl)
theorem dL_law_1258 : decode cL_law 1258 = .ok (.aload_n 1, 1) := dk_43 (dk_at dksL_law_45 21 rfl rfl)
theorem dL_law_1259 : decode cL_law 1259 = .ok (.aload_n 0, 1) := dk_42 (dk_at dksL_law_45 22 rfl rfl)
theorem dL_law_1260 : decode cL_law 1260 = .ok (.iload 4, 2) := dk_21 4 (dk_at dksL_law_46 0 rfl rfl)
theorem dL_law_1262 : decode cL_law 1262 = .ok (.iconst 1, 1) := dk_4 (dk_at dksL_law_46 2 rfl rfl)
theorem dL_law_1263 : decode cL_law 1263 = .ok (.iadd, 1) := dk_96 (dk_at dksL_law_46 3 rfl rfl)
theorem dL_law_1264 : decode cL_law 1264 = .ok (.iaload, 1) := dk_46 (dk_at dksL_law_46 4 rfl rfl)
theorem dL_law_1265 : decode cL_law 1265 = .ok (.aload_n 0, 1) := dk_42 (dk_at dksL_law_46 5 rfl rfl)
theorem dL_law_1266 : decode cL_law 1266 = .ok (.iload 4, 2) := dk_21 4 (dk_at dksL_law_46 6 rfl rfl)
theorem dL_law_1268 : decode cL_law 1268 = .ok (.iconst 2, 1) := dk_5 (dk_at dksL_law_46 8 rfl rfl)
theorem dL_law_1269 : decode cL_law 1269 = .ok (.iadd, 1) := dk_96 (dk_at dksL_law_46 9 rfl rfl)
theorem dL_law_1270 : decode cL_law 1270 = .ok (.iaload, 1) := dk_46 (dk_at dksL_law_46 10 rfl rfl)
theorem dL_law_1271 : decode cL_law 1271 = .ok (.invokevirtual 160, 3) := dk_182 0 160 (dk_at dksL_law_46 11 rfl rfl)
theorem dL_law_1274 : decode cL_law 1274 = .ok (.aload_n 2, 1) := dk_44 (dk_at dksL_law_46 14 rfl rfl)
theorem dL_law_1275 : decode cL_law 1275 = .ok (.aload_n 0, 1) := dk_42 (dk_at dksL_law_46 15 rfl rfl)
theorem dL_law_1276 : decode cL_law 1276 = .ok (.iload 4, 2) := dk_21 4 (dk_at dksL_law_46 16 rfl rfl)
theorem dL_law_1278 : decode cL_law 1278 = .ok (.iconst 1, 1) := dk_4 (dk_at dksL_law_46 18 rfl rfl)
theorem dL_law_1279 : decode cL_law 1279 = .ok (.iadd, 1) := dk_96 (dk_at dksL_law_46 19 rfl rfl)
theorem dL_law_1280 : decode cL_law 1280 = .ok (.iaload, 1) := dk_46 (dk_at dksL_law_46 20 rfl rfl)
theorem dL_law_1281 : decode cL_law 1281 = .ok (.aload_n 0, 1) := dk_42 (dk_at dksL_law_46 21 rfl rfl)
theorem dL_law_1282 : decode cL_law 1282 = .ok (.iload 4, 2) := dk_21 4 (dk_at dksL_law_46 22 rfl rfl)
theorem dL_law_1284 : decode cL_law 1284 = .ok (.iconst 2, 1) := dk_5 (dk_at dksL_law_47 0 rfl rfl)
theorem dL_law_1285 : decode cL_law 1285 = .ok (.iadd, 1) := dk_96 (dk_at dksL_law_47 1 rfl rfl)
theorem dL_law_1286 : decode cL_law 1286 = .ok (.iaload, 1) := dk_46 (dk_at dksL_law_47 2 rfl rfl)
theorem dL_law_1287 : decode cL_law 1287 = .ok (.invokevirtual 163, 3) := dk_182 0 163 (dk_at dksL_law_47 3 rfl rfl)
theorem dL_law_1290 : decode cL_law 1290 = .ok (.if_icmp .eq 462, 3) := dk_159 1 206 (dk_at dksL_law_47 6 rfl rfl)
theorem dL_law_1293 : decode cL_law 1293 = .ok (.iconst 0, 1) := dk_3 (dk_at dksL_law_47 9 rfl rfl)
theorem dL_law_1294 : decode cL_law 1294 = .ok (.ireturn, 1) := dk_172 (dk_at dksL_law_47 10 rfl rfl)
theorem dL_law_1295 : decode cL_law 1295 = .ok (.aload_n 1, 1) := dk_43 (dk_at dksL_law_47 11 rfl rfl)
theorem dL_law_1296 : decode cL_law 1296 = .ok (.aload_n 0, 1) := dk_42 (dk_at dksL_law_47 12 rfl rfl)
theorem dL_law_1297 : decode cL_law 1297 = .ok (.iload 4, 2) := dk_21 4 (dk_at dksL_law_47 13 rfl rfl)
theorem dL_law_1299 : decode cL_law 1299 = .ok (.iconst 1, 1) := dk_4 (dk_at dksL_law_47 15 rfl rfl)
theorem dL_law_1300 : decode cL_law 1300 = .ok (.iadd, 1) := dk_96 (dk_at dksL_law_47 16 rfl rfl)
theorem dL_law_1301 : decode cL_law 1301 = .ok (.iaload, 1) := dk_46 (dk_at dksL_law_47 17 rfl rfl)
theorem dL_law_1302 : decode cL_law 1302 = .ok (.aload_n 0, 1) := dk_42 (dk_at dksL_law_47 18 rfl rfl)
theorem dL_law_1303 : decode cL_law 1303 = .ok (.iload 4, 2) := dk_21 4 (dk_at dksL_law_47 19 rfl rfl)
theorem dL_law_1305 : decode cL_law 1305 = .ok (.iconst 2, 1) := dk_5 (dk_at dksL_law_47 21 rfl rfl)
theorem dL_law_1306 : decode cL_law 1306 = .ok (.iadd, 1) := dk_96 (dk_at dksL_law_47 22 rfl rfl)
theorem dL_law_1307 : decode cL_law 1307 = .ok (.iaload, 1) := dk_46 (dk_at dksL_law_47 23 rfl rfl)
theorem dL_law_1308 : decode cL_law 1308 = .ok (.invokevirtual 164, 3) := dk_182 0 164 (dk_at dksL_law_48 0 rfl rfl)
theorem dL_law_1311 : decode cL_law 1311 = .ok (.aload_n 2, 1) := dk_44 (dk_at dksL_law_48 3 rfl rfl)
theorem dL_law_1312 : decode cL_law 1312 = .ok (.aload_n 0, 1) := dk_42 (dk_at dksL_law_48 4 rfl rfl)
theorem dL_law_1313 : decode cL_law 1313 = .ok (.iload 4, 2) := dk_21 4 (dk_at dksL_law_48 5 rfl rfl)
theorem dL_law_1315 : decode cL_law 1315 = .ok (.iconst 1, 1) := dk_4 (dk_at dksL_law_48 7 rfl rfl)
theorem dL_law_1316 : decode cL_law 1316 = .ok (.iadd, 1) := dk_96 (dk_at dksL_law_48 8 rfl rfl)
theorem dL_law_1317 : decode cL_law 1317 = .ok (.iaload, 1) := dk_46 (dk_at dksL_law_48 9 rfl rfl)
theorem dL_law_1318 : decode cL_law 1318 = .ok (.aload_n 0, 1) := dk_42 (dk_at dksL_law_48 10 rfl rfl)
theorem dL_law_1319 : decode cL_law 1319 = .ok (.iload 4, 2) := dk_21 4 (dk_at dksL_law_48 11 rfl rfl)
theorem dL_law_1321 : decode cL_law 1321 = .ok (.iconst 2, 1) := dk_5 (dk_at dksL_law_48 13 rfl rfl)
theorem dL_law_1322 : decode cL_law 1322 = .ok (.iadd, 1) := dk_96 (dk_at dksL_law_48 14 rfl rfl)
theorem dL_law_1323 : decode cL_law 1323 = .ok (.iaload, 1) := dk_46 (dk_at dksL_law_48 15 rfl rfl)
theorem dL_law_1324 : decode cL_law 1324 = .ok (.invokevirtual 167, 3) := dk_182 0 167 (dk_at dksL_law_48 16 rfl rfl)
theorem dL_law_1327 : decode cL_law 1327 = .ok (.if_icmp .eq 425, 3) := dk_159 1 169 (dk_at dksL_law_48 19 rfl rfl)
theorem dL_law_1330 : decode cL_law 1330 = .ok (.iconst 0, 1) := dk_3 (dk_at dksL_law_48 22 rfl rfl)
theorem dL_law_1331 : decode cL_law 1331 = .ok (.ireturn, 1) := dk_172 (dk_at dksL_law_48 23 rfl rfl)
theorem dL_law_1332 : decode cL_law 1332 = .ok (.aload_n 1, 1) := dk_43 (dk_at dksL_law_49 0 rfl rfl)
theorem dL_law_1333 : decode cL_law 1333 = .ok (.invokevirtual 168, 3) := dk_182 0 168 (dk_at dksL_law_49 1 rfl rfl)
theorem dL_law_1336 : decode cL_law 1336 = .ok (.aload_n 2, 1) := dk_44 (dk_at dksL_law_49 4 rfl rfl)
theorem dL_law_1337 : decode cL_law 1337 = .ok (.invokevirtual 171, 3) := dk_182 0 171 (dk_at dksL_law_49 5 rfl rfl)
theorem dL_law_1340 : decode cL_law 1340 = .ok (.if_icmp .eq 412, 3) := dk_159 1 156 (dk_at dksL_law_49 8 rfl rfl)
theorem dL_law_1343 : decode cL_law 1343 = .ok (.iconst 0, 1) := dk_3 (dk_at dksL_law_49 11 rfl rfl)
theorem dL_law_1344 : decode cL_law 1344 = .ok (.ireturn, 1) := dk_172 (dk_at dksL_law_49 12 rfl rfl)
theorem dL_law_1345 : decode cL_law 1345 = .ok (.aload_n 1, 1) := dk_43 (dk_at dksL_law_49 13 rfl rfl)
theorem dL_law_1346 : decode cL_law 1346 = .ok (.aload_n 0, 1) := dk_42 (dk_at dksL_law_49 14 rfl rfl)
theorem dL_law_1347 : decode cL_law 1347 = .ok (.iload 4, 2) := dk_21 4 (dk_at dksL_law_49 15 rfl rfl)
theorem dL_law_1349 : decode cL_law 1349 = .ok (.iconst 1, 1) := dk_4 (dk_at dksL_law_49 17 rfl rfl)
theorem dL_law_1350 : decode cL_law 1350 = .ok (.iadd, 1) := dk_96 (dk_at dksL_law_49 18 rfl rfl)
theorem dL_law_1351 : decode cL_law 1351 = .ok (.iaload, 1) := dk_46 (dk_at dksL_law_49 19 rfl rfl)
theorem dL_law_1352 : decode cL_law 1352 = .ok (.aload_n 0, 1) := dk_42 (dk_at dksL_law_49 20 rfl rfl)
theorem dL_law_1353 : decode cL_law 1353 = .ok (.iload 4, 2) := dk_21 4 (dk_at dksL_law_49 21 rfl rfl)
theorem dL_law_1355 : decode cL_law 1355 = .ok (.iconst 2, 1) := dk_5 (dk_at dksL_law_49 23 rfl rfl)
theorem dL_law_1356 : decode cL_law 1356 = .ok (.iadd, 1) := dk_96 (dk_at dksL_law_50 0 rfl rfl)
theorem dL_law_1357 : decode cL_law 1357 = .ok (.iaload, 1) := dk_46 (dk_at dksL_law_50 1 rfl rfl)
theorem dL_law_1358 : decode cL_law 1358 = .ok (.invokevirtual 172, 3) := dk_182 0 172 (dk_at dksL_law_50 2 rfl rfl)
theorem dL_law_1361 : decode cL_law 1361 = .ok (.aload_n 2, 1) := dk_44 (dk_at dksL_law_50 5 rfl rfl)
theorem dL_law_1362 : decode cL_law 1362 = .ok (.aload_n 0, 1) := dk_42 (dk_at dksL_law_50 6 rfl rfl)
theorem dL_law_1363 : decode cL_law 1363 = .ok (.iload 4, 2) := dk_21 4 (dk_at dksL_law_50 7 rfl rfl)
theorem dL_law_1365 : decode cL_law 1365 = .ok (.iconst 1, 1) := dk_4 (dk_at dksL_law_50 9 rfl rfl)
theorem dL_law_1366 : decode cL_law 1366 = .ok (.iadd, 1) := dk_96 (dk_at dksL_law_50 10 rfl rfl)
theorem dL_law_1367 : decode cL_law 1367 = .ok (.iaload, 1) := dk_46 (dk_at dksL_law_50 11 rfl rfl)
theorem dL_law_1368 : decode cL_law 1368 = .ok (.aload_n 0, 1) := dk_42 (dk_at dksL_law_50 12 rfl rfl)
theorem dL_law_1369 : decode cL_law 1369 = .ok (.iload 4, 2) := dk_21 4 (dk_at dksL_law_50 13 rfl rfl)
theorem dL_law_1371 : decode cL_law 1371 = .ok (.iconst 2, 1) := dk_5 (dk_at dksL_law_50 15 rfl rfl)
theorem dL_law_1372 : decode cL_law 1372 = .ok (.iadd, 1) := dk_96 (dk_at dksL_law_50 16 rfl rfl)
theorem dL_law_1373 : decode cL_law 1373 = .ok (.iaload, 1) := dk_46 (dk_at dksL_law_50 17 rfl rfl)
theorem dL_law_1374 : decode cL_law 1374 = .ok (.invokevirtual 175, 3) := dk_182 0 175 (dk_at dksL_law_50 18 rfl rfl)
theorem dL_law_1377 : decode cL_law 1377 = .ok (.if_icmp .eq 375, 3) := dk_159 1 119 (dk_at dksL_law_50 21 rfl rfl)
theorem dL_law_1380 : decode cL_law 1380 = .ok (.iconst 0, 1) := dk_3 (dk_at dksL_law_51 0 rfl rfl)
theorem dL_law_1381 : decode cL_law 1381 = .ok (.ireturn, 1) := dk_172 (dk_at dksL_law_51 1 rfl rfl)
theorem dL_law_1382 : decode cL_law 1382 = .ok (.aload_n 1, 1) := dk_43 (dk_at dksL_law_51 2 rfl rfl)
theorem dL_law_1383 : decode cL_law 1383 = .ok (.invokevirtual 176, 3) := dk_182 0 176 (dk_at dksL_law_51 3 rfl rfl)
theorem dL_law_1386 : decode cL_law 1386 = .ok (.aload_n 2, 1) := dk_44 (dk_at dksL_law_51 6 rfl rfl)
theorem dL_law_1387 : decode cL_law 1387 = .ok (.invokevirtual 179, 3) := dk_182 0 179 (dk_at dksL_law_51 7 rfl rfl)
theorem dL_law_1390 : decode cL_law 1390 = .ok (.if_icmp .eq 362, 3) := dk_159 1 106 (dk_at dksL_law_51 10 rfl rfl)
theorem dL_law_1393 : decode cL_law 1393 = .ok (.iconst 0, 1) := dk_3 (dk_at dksL_law_51 13 rfl rfl)
theorem dL_law_1394 : decode cL_law 1394 = .ok (.ireturn, 1) := dk_172 (dk_at dksL_law_51 14 rfl rfl)
theorem dL_law_1395 : decode cL_law 1395 = .ok (.aload_n 1, 1) := dk_43 (dk_at dksL_law_51 15 rfl rfl)
theorem dL_law_1396 : decode cL_law 1396 = .ok (.invokevirtual 180, 3) := dk_182 0 180 (dk_at dksL_law_51 16 rfl rfl)
theorem dL_law_1399 : decode cL_law 1399 = .ok (.aload_n 2, 1) := dk_44 (dk_at dksL_law_51 19 rfl rfl)
theorem dL_law_1400 : decode cL_law 1400 = .ok (.invokevirtual 183, 3) := dk_182 0 183 (dk_at dksL_law_51 20 rfl rfl)
theorem dL_law_1403 : decode cL_law 1403 = .ok (.if_icmp .eq 349, 3) := dk_159 1 93 (dk_at dksL_law_52 0 rfl rfl)
theorem dL_law_1406 : decode cL_law 1406 = .ok (.iconst 0, 1) := dk_3 (dk_at dksL_law_52 3 rfl rfl)
theorem dL_law_1407 : decode cL_law 1407 = .ok (.ireturn, 1) := dk_172 (dk_at dksL_law_52 4 rfl rfl)
theorem dL_law_1408 : decode cL_law 1408 = .ok (.aload_n 1, 1) := dk_43 (dk_at dksL_law_52 5 rfl rfl)
theorem dL_law_1409 : decode cL_law 1409 = .ok (.aload_n 0, 1) := dk_42 (dk_at dksL_law_52 6 rfl rfl)
theorem dL_law_1410 : decode cL_law 1410 = .ok (.iload 4, 2) := dk_21 4 (dk_at dksL_law_52 7 rfl rfl)
theorem dL_law_1412 : decode cL_law 1412 = .ok (.iconst 1, 1) := dk_4 (dk_at dksL_law_52 9 rfl rfl)
theorem dL_law_1413 : decode cL_law 1413 = .ok (.iadd, 1) := dk_96 (dk_at dksL_law_52 10 rfl rfl)
theorem dL_law_1414 : decode cL_law 1414 = .ok (.iaload, 1) := dk_46 (dk_at dksL_law_52 11 rfl rfl)
theorem dL_law_1415 : decode cL_law 1415 = .ok (.invokevirtual 184, 3) := dk_182 0 184 (dk_at dksL_law_52 12 rfl rfl)
theorem dL_law_1418 : decode cL_law 1418 = .ok (.aload_n 2, 1) := dk_44 (dk_at dksL_law_52 15 rfl rfl)
theorem dL_law_1419 : decode cL_law 1419 = .ok (.aload_n 0, 1) := dk_42 (dk_at dksL_law_52 16 rfl rfl)
theorem dL_law_1420 : decode cL_law 1420 = .ok (.iload 4, 2) := dk_21 4 (dk_at dksL_law_52 17 rfl rfl)
theorem dL_law_1422 : decode cL_law 1422 = .ok (.iconst 1, 1) := dk_4 (dk_at dksL_law_52 19 rfl rfl)
theorem dL_law_1423 : decode cL_law 1423 = .ok (.iadd, 1) := dk_96 (dk_at dksL_law_52 20 rfl rfl)
theorem dL_law_1424 : decode cL_law 1424 = .ok (.iaload, 1) := dk_46 (dk_at dksL_law_52 21 rfl rfl)
theorem dL_law_1425 : decode cL_law 1425 = .ok (.invokevirtual 187, 3) := dk_182 0 187 (dk_at dksL_law_53 0 rfl rfl)
theorem dL_law_1428 : decode cL_law 1428 = .ok (.if_icmp .eq 324, 3) := dk_159 1 68 (dk_at dksL_law_53 3 rfl rfl)
theorem dL_law_1431 : decode cL_law 1431 = .ok (.iconst 0, 1) := dk_3 (dk_at dksL_law_53 6 rfl rfl)
theorem dL_law_1432 : decode cL_law 1432 = .ok (.ireturn, 1) := dk_172 (dk_at dksL_law_53 7 rfl rfl)
theorem dL_law_1433 : decode cL_law 1433 = .ok (.aload_n 1, 1) := dk_43 (dk_at dksL_law_53 8 rfl rfl)
theorem dL_law_1434 : decode cL_law 1434 = .ok (.invokevirtual 188, 3) := dk_182 0 188 (dk_at dksL_law_53 9 rfl rfl)
theorem dL_law_1437 : decode cL_law 1437 = .ok (.aload_n 2, 1) := dk_44 (dk_at dksL_law_53 12 rfl rfl)
theorem dL_law_1438 : decode cL_law 1438 = .ok (.invokevirtual 191, 3) := dk_182 0 191 (dk_at dksL_law_53 13 rfl rfl)
theorem dL_law_1441 : decode cL_law 1441 = .ok (.if_icmp .eq 311, 3) := dk_159 1 55 (dk_at dksL_law_53 16 rfl rfl)
theorem dL_law_1444 : decode cL_law 1444 = .ok (.iconst 0, 1) := dk_3 (dk_at dksL_law_53 19 rfl rfl)
theorem dL_law_1445 : decode cL_law 1445 = .ok (.ireturn, 1) := dk_172 (dk_at dksL_law_53 20 rfl rfl)
theorem dL_law_1446 : decode cL_law 1446 = .ok (.aload_n 1, 1) := dk_43 (dk_at dksL_law_53 21 rfl rfl)
theorem dL_law_1447 : decode cL_law 1447 = .ok (.invokevirtual 192, 3) := dk_182 0 192 (dk_at dksL_law_54 0 rfl rfl)
theorem dL_law_1450 : decode cL_law 1450 = .ok (.aload_n 2, 1) := dk_44 (dk_at dksL_law_54 3 rfl rfl)
theorem dL_law_1451 : decode cL_law 1451 = .ok (.invokevirtual 195, 3) := dk_182 0 195 (dk_at dksL_law_54 4 rfl rfl)
theorem dL_law_1454 : decode cL_law 1454 = .ok (.if_icmp .eq 298, 3) := dk_159 1 42 (dk_at dksL_law_54 7 rfl rfl)
theorem dL_law_1457 : decode cL_law 1457 = .ok (.iconst 0, 1) := dk_3 (dk_at dksL_law_54 10 rfl rfl)
theorem dL_law_1458 : decode cL_law 1458 = .ok (.ireturn, 1) := dk_172 (dk_at dksL_law_54 11 rfl rfl)
theorem dL_law_1459 : decode cL_law 1459 = .ok (.aload_n 1, 1) := dk_43 (dk_at dksL_law_54 12 rfl rfl)
theorem dL_law_1460 : decode cL_law 1460 = .ok (.aload_n 0, 1) := dk_42 (dk_at dksL_law_54 13 rfl rfl)
theorem dL_law_1461 : decode cL_law 1461 = .ok (.iload 4, 2) := dk_21 4 (dk_at dksL_law_54 14 rfl rfl)
theorem dL_law_1463 : decode cL_law 1463 = .ok (.iconst 1, 1) := dk_4 (dk_at dksL_law_54 16 rfl rfl)
theorem dL_law_1464 : decode cL_law 1464 = .ok (.iadd, 1) := dk_96 (dk_at dksL_law_54 17 rfl rfl)
theorem dL_law_1465 : decode cL_law 1465 = .ok (.iaload, 1) := dk_46 (dk_at dksL_law_54 18 rfl rfl)
theorem dL_law_1466 : decode cL_law 1466 = .ok (.aload_n 0, 1) := dk_42 (dk_at dksL_law_54 19 rfl rfl)
theorem dL_law_1467 : decode cL_law 1467 = .ok (.iload 4, 2) := dk_21 4 (dk_at dksL_law_54 20 rfl rfl)
theorem dL_law_1469 : decode cL_law 1469 = .ok (.iconst 2, 1) := dk_5 (dk_at dksL_law_54 22 rfl rfl)
theorem dL_law_1470 : decode cL_law 1470 = .ok (.iadd, 1) := dk_96 (dk_at dksL_law_54 23 rfl rfl)
theorem dL_law_1471 : decode cL_law 1471 = .ok (.iaload, 1) := dk_46 (dk_at dksL_law_55 0 rfl rfl)
theorem dL_law_1472 : decode cL_law 1472 = .ok (.invokevirtual 196, 3) := dk_182 0 196 (dk_at dksL_law_55 1 rfl rfl)
theorem dL_law_1475 : decode cL_law 1475 = .ok (.aload_n 2, 1) := dk_44 (dk_at dksL_law_55 4 rfl rfl)
theorem dL_law_1476 : decode cL_law 1476 = .ok (.aload_n 0, 1) := dk_42 (dk_at dksL_law_55 5 rfl rfl)
theorem dL_law_1477 : decode cL_law 1477 = .ok (.iload 4, 2) := dk_21 4 (dk_at dksL_law_55 6 rfl rfl)
theorem dL_law_1479 : decode cL_law 1479 = .ok (.iconst 1, 1) := dk_4 (dk_at dksL_law_55 8 rfl rfl)
theorem dL_law_1480 : decode cL_law 1480 = .ok (.iadd, 1) := dk_96 (dk_at dksL_law_55 9 rfl rfl)
theorem dL_law_1481 : decode cL_law 1481 = .ok (.iaload, 1) := dk_46 (dk_at dksL_law_55 10 rfl rfl)
theorem dL_law_1482 : decode cL_law 1482 = .ok (.aload_n 0, 1) := dk_42 (dk_at dksL_law_55 11 rfl rfl)
theorem dL_law_1483 : decode cL_law 1483 = .ok (.iload 4, 2) := dk_21 4 (dk_at dksL_law_55 12 rfl rfl)
theorem dL_law_1485 : decode cL_law 1485 = .ok (.iconst 2, 1) := dk_5 (dk_at dksL_law_55 14 rfl rfl)
theorem dL_law_1486 : decode cL_law 1486 = .ok (.iadd, 1) := dk_96 (dk_at dksL_law_55 15 rfl rfl)
theorem dL_law_1487 : decode cL_law 1487 = .ok (.iaload, 1) := dk_46 (dk_at dksL_law_55 16 rfl rfl)
theorem dL_law_1488 : decode cL_law 1488 = .ok (.invokevirtual 199, 3) := dk_182 0 199 (dk_at dksL_law_55 17 rfl rfl)
theorem dL_law_1491 : decode cL_law 1491 = .ok (.if_icmp .eq 261, 3) := dk_159 1 5 (dk_at dksL_law_55 20 rfl rfl)
theorem dL_law_1494 : decode cL_law 1494 = .ok (.iconst 0, 1) := dk_3 (dk_at dksL_law_55 23 rfl rfl)
theorem dL_law_1495 : decode cL_law 1495 = .ok (.ireturn, 1) := dk_172 (dk_at dksL_law_56 0 rfl rfl)
theorem dL_law_1496 : decode cL_law 1496 = .ok (.aload_n 1, 1) := dk_43 (dk_at dksL_law_56 1 rfl rfl)
theorem dL_law_1497 : decode cL_law 1497 = .ok (.invokevirtual 200, 3) := dk_182 0 200 (dk_at dksL_law_56 2 rfl rfl)
theorem dL_law_1500 : decode cL_law 1500 = .ok (.aload_n 2, 1) := dk_44 (dk_at dksL_law_56 5 rfl rfl)
theorem dL_law_1501 : decode cL_law 1501 = .ok (.invokevirtual 203, 3) := dk_182 0 203 (dk_at dksL_law_56 6 rfl rfl)
theorem dL_law_1504 : decode cL_law 1504 = .ok (.if_icmp .eq 248, 3) := dk_159 0 248 (dk_at dksL_law_56 9 rfl rfl)
theorem dL_law_1507 : decode cL_law 1507 = .ok (.iconst 0, 1) := dk_3 (dk_at dksL_law_56 12 rfl rfl)
theorem dL_law_1508 : decode cL_law 1508 = .ok (.ireturn, 1) := dk_172 (dk_at dksL_law_56 13 rfl rfl)
theorem dL_law_1509 : decode cL_law 1509 = .ok (.aload_n 1, 1) := dk_43 (dk_at dksL_law_56 14 rfl rfl)
theorem dL_law_1510 : decode cL_law 1510 = .ok (.aload_n 0, 1) := dk_42 (dk_at dksL_law_56 15 rfl rfl)
theorem dL_law_1511 : decode cL_law 1511 = .ok (.iload 4, 2) := dk_21 4 (dk_at dksL_law_56 16 rfl rfl)
theorem dL_law_1513 : decode cL_law 1513 = .ok (.iconst 1, 1) := dk_4 (dk_at dksL_law_56 18 rfl rfl)
theorem dL_law_1514 : decode cL_law 1514 = .ok (.iadd, 1) := dk_96 (dk_at dksL_law_56 19 rfl rfl)
theorem dL_law_1515 : decode cL_law 1515 = .ok (.iaload, 1) := dk_46 (dk_at dksL_law_56 20 rfl rfl)
theorem dL_law_1516 : decode cL_law 1516 = .ok (.invokevirtual 204, 3) := dk_182 0 204 (dk_at dksL_law_56 21 rfl rfl)
theorem dL_law_1519 : decode cL_law 1519 = .ok (.aload_n 2, 1) := dk_44 (dk_at dksL_law_57 0 rfl rfl)
theorem dL_law_1520 : decode cL_law 1520 = .ok (.aload_n 0, 1) := dk_42 (dk_at dksL_law_57 1 rfl rfl)
theorem dL_law_1521 : decode cL_law 1521 = .ok (.iload 4, 2) := dk_21 4 (dk_at dksL_law_57 2 rfl rfl)
theorem dL_law_1523 : decode cL_law 1523 = .ok (.iconst 1, 1) := dk_4 (dk_at dksL_law_57 4 rfl rfl)
theorem dL_law_1524 : decode cL_law 1524 = .ok (.iadd, 1) := dk_96 (dk_at dksL_law_57 5 rfl rfl)
theorem dL_law_1525 : decode cL_law 1525 = .ok (.iaload, 1) := dk_46 (dk_at dksL_law_57 6 rfl rfl)
theorem dL_law_1526 : decode cL_law 1526 = .ok (.invokevirtual 207, 3) := dk_182 0 207 (dk_at dksL_law_57 7 rfl rfl)
theorem dL_law_1529 : decode cL_law 1529 = .ok (.if_icmp .eq 223, 3) := dk_159 0 223 (dk_at dksL_law_57 10 rfl rfl)
theorem dL_law_1532 : decode cL_law 1532 = .ok (.iconst 0, 1) := dk_3 (dk_at dksL_law_57 13 rfl rfl)
theorem dL_law_1533 : decode cL_law 1533 = .ok (.ireturn, 1) := dk_172 (dk_at dksL_law_57 14 rfl rfl)
theorem dL_law_1534 : decode cL_law 1534 = .ok (.aload_n 1, 1) := dk_43 (dk_at dksL_law_57 15 rfl rfl)
theorem dL_law_1535 : decode cL_law 1535 = .ok (.invokevirtual 208, 3) := dk_182 0 208 (dk_at dksL_law_57 16 rfl rfl)
theorem dL_law_1538 : decode cL_law 1538 = .ok (.aload_n 2, 1) := dk_44 (dk_at dksL_law_57 19 rfl rfl)
theorem dL_law_1539 : decode cL_law 1539 = .ok (.invokevirtual 211, 3) := dk_182 0 211 (dk_at dksL_law_57 20 rfl rfl)
theorem dL_law_1542 : decode cL_law 1542 = .ok (.if_icmp .eq 210, 3) := dk_159 0 210 (dk_at dksL_law_58 0 rfl rfl)
theorem dL_law_1545 : decode cL_law 1545 = .ok (.iconst 0, 1) := dk_3 (dk_at dksL_law_58 3 rfl rfl)
theorem dL_law_1546 : decode cL_law 1546 = .ok (.ireturn, 1) := dk_172 (dk_at dksL_law_58 4 rfl rfl)
theorem dL_law_1547 : decode cL_law 1547 = .ok (.aload_n 1, 1) := dk_43 (dk_at dksL_law_58 5 rfl rfl)
theorem dL_law_1548 : decode cL_law 1548 = .ok (.aload_n 0, 1) := dk_42 (dk_at dksL_law_58 6 rfl rfl)
theorem dL_law_1549 : decode cL_law 1549 = .ok (.iload 4, 2) := dk_21 4 (dk_at dksL_law_58 7 rfl rfl)
theorem dL_law_1551 : decode cL_law 1551 = .ok (.iconst 1, 1) := dk_4 (dk_at dksL_law_58 9 rfl rfl)
theorem dL_law_1552 : decode cL_law 1552 = .ok (.iadd, 1) := dk_96 (dk_at dksL_law_58 10 rfl rfl)
theorem dL_law_1553 : decode cL_law 1553 = .ok (.iaload, 1) := dk_46 (dk_at dksL_law_58 11 rfl rfl)
theorem dL_law_1554 : decode cL_law 1554 = .ok (.invokevirtual 212, 3) := dk_182 0 212 (dk_at dksL_law_58 12 rfl rfl)
theorem dL_law_1557 : decode cL_law 1557 = .ok (.aload_n 2, 1) := dk_44 (dk_at dksL_law_58 15 rfl rfl)
theorem dL_law_1558 : decode cL_law 1558 = .ok (.aload_n 0, 1) := dk_42 (dk_at dksL_law_58 16 rfl rfl)
theorem dL_law_1559 : decode cL_law 1559 = .ok (.iload 4, 2) := dk_21 4 (dk_at dksL_law_58 17 rfl rfl)
theorem dL_law_1561 : decode cL_law 1561 = .ok (.iconst 1, 1) := dk_4 (dk_at dksL_law_58 19 rfl rfl)
theorem dL_law_1562 : decode cL_law 1562 = .ok (.iadd, 1) := dk_96 (dk_at dksL_law_58 20 rfl rfl)
theorem dL_law_1563 : decode cL_law 1563 = .ok (.iaload, 1) := dk_46 (dk_at dksL_law_58 21 rfl rfl)
theorem dL_law_1564 : decode cL_law 1564 = .ok (.invokevirtual 215, 3) := dk_182 0 215 (dk_at dksL_law_59 0 rfl rfl)
theorem dL_law_1567 : decode cL_law 1567 = .ok (.if_icmp .eq 185, 3) := dk_159 0 185 (dk_at dksL_law_59 3 rfl rfl)
theorem dL_law_1570 : decode cL_law 1570 = .ok (.iconst 0, 1) := dk_3 (dk_at dksL_law_59 6 rfl rfl)
theorem dL_law_1571 : decode cL_law 1571 = .ok (.ireturn, 1) := dk_172 (dk_at dksL_law_59 7 rfl rfl)
theorem dL_law_1572 : decode cL_law 1572 = .ok (.aload_n 1, 1) := dk_43 (dk_at dksL_law_59 8 rfl rfl)
theorem dL_law_1573 : decode cL_law 1573 = .ok (.aload_n 0, 1) := dk_42 (dk_at dksL_law_59 9 rfl rfl)
theorem dL_law_1574 : decode cL_law 1574 = .ok (.iload 4, 2) := dk_21 4 (dk_at dksL_law_59 10 rfl rfl)
theorem dL_law_1576 : decode cL_law 1576 = .ok (.iconst 1, 1) := dk_4 (dk_at dksL_law_59 12 rfl rfl)
theorem dL_law_1577 : decode cL_law 1577 = .ok (.iadd, 1) := dk_96 (dk_at dksL_law_59 13 rfl rfl)
theorem dL_law_1578 : decode cL_law 1578 = .ok (.iaload, 1) := dk_46 (dk_at dksL_law_59 14 rfl rfl)
theorem dL_law_1579 : decode cL_law 1579 = .ok (.aload_n 0, 1) := dk_42 (dk_at dksL_law_59 15 rfl rfl)
theorem dL_law_1580 : decode cL_law 1580 = .ok (.iload 4, 2) := dk_21 4 (dk_at dksL_law_59 16 rfl rfl)
theorem dL_law_1582 : decode cL_law 1582 = .ok (.iconst 2, 1) := dk_5 (dk_at dksL_law_59 18 rfl rfl)
theorem dL_law_1583 : decode cL_law 1583 = .ok (.iadd, 1) := dk_96 (dk_at dksL_law_59 19 rfl rfl)
theorem dL_law_1584 : decode cL_law 1584 = .ok (.iaload, 1) := dk_46 (dk_at dksL_law_59 20 rfl rfl)
theorem dL_law_1585 : decode cL_law 1585 = .ok (.invokevirtual 216, 3) := dk_182 0 216 (dk_at dksL_law_59 21 rfl rfl)
theorem dL_law_1588 : decode cL_law 1588 = .ok (.aload_n 2, 1) := dk_44 (dk_at dksL_law_60 0 rfl rfl)
theorem dL_law_1589 : decode cL_law 1589 = .ok (.aload_n 0, 1) := dk_42 (dk_at dksL_law_60 1 rfl rfl)
theorem dL_law_1590 : decode cL_law 1590 = .ok (.iload 4, 2) := dk_21 4 (dk_at dksL_law_60 2 rfl rfl)
theorem dL_law_1592 : decode cL_law 1592 = .ok (.iconst 1, 1) := dk_4 (dk_at dksL_law_60 4 rfl rfl)
theorem dL_law_1593 : decode cL_law 1593 = .ok (.iadd, 1) := dk_96 (dk_at dksL_law_60 5 rfl rfl)
theorem dL_law_1594 : decode cL_law 1594 = .ok (.iaload, 1) := dk_46 (dk_at dksL_law_60 6 rfl rfl)
theorem dL_law_1595 : decode cL_law 1595 = .ok (.aload_n 0, 1) := dk_42 (dk_at dksL_law_60 7 rfl rfl)
theorem dL_law_1596 : decode cL_law 1596 = .ok (.iload 4, 2) := dk_21 4 (dk_at dksL_law_60 8 rfl rfl)
theorem dL_law_1598 : decode cL_law 1598 = .ok (.iconst 2, 1) := dk_5 (dk_at dksL_law_60 10 rfl rfl)
theorem dL_law_1599 : decode cL_law 1599 = .ok (.iadd, 1) := dk_96 (dk_at dksL_law_60 11 rfl rfl)
theorem dL_law_1600 : decode cL_law 1600 = .ok (.iaload, 1) := dk_46 (dk_at dksL_law_60 12 rfl rfl)
theorem dL_law_1601 : decode cL_law 1601 = .ok (.invokevirtual 219, 3) := dk_182 0 219 (dk_at dksL_law_60 13 rfl rfl)
theorem dL_law_1604 : decode cL_law 1604 = .ok (.if_icmp .eq 148, 3) := dk_159 0 148 (dk_at dksL_law_60 16 rfl rfl)
theorem dL_law_1607 : decode cL_law 1607 = .ok (.iconst 0, 1) := dk_3 (dk_at dksL_law_60 19 rfl rfl)
theorem dL_law_1608 : decode cL_law 1608 = .ok (.ireturn, 1) := dk_172 (dk_at dksL_law_60 20 rfl rfl)
theorem dL_law_1609 : decode cL_law 1609 = .ok (.aload_n 1, 1) := dk_43 (dk_at dksL_law_60 21 rfl rfl)
theorem dL_law_1610 : decode cL_law 1610 = .ok (.invokevirtual 220, 3) := dk_182 0 220 (dk_at dksL_law_61 0 rfl rfl)
theorem dL_law_1613 : decode cL_law 1613 = .ok (.aload_n 2, 1) := dk_44 (dk_at dksL_law_61 3 rfl rfl)
theorem dL_law_1614 : decode cL_law 1614 = .ok (.invokevirtual 223, 3) := dk_182 0 223 (dk_at dksL_law_61 4 rfl rfl)
theorem dL_law_1617 : decode cL_law 1617 = .ok (.if_icmp .eq 135, 3) := dk_159 0 135 (dk_at dksL_law_61 7 rfl rfl)
theorem dL_law_1620 : decode cL_law 1620 = .ok (.iconst 0, 1) := dk_3 (dk_at dksL_law_61 10 rfl rfl)
theorem dL_law_1621 : decode cL_law 1621 = .ok (.ireturn, 1) := dk_172 (dk_at dksL_law_61 11 rfl rfl)
theorem dL_law_1622 : decode cL_law 1622 = .ok (.aload_n 1, 1) := dk_43 (dk_at dksL_law_61 12 rfl rfl)
theorem dL_law_1623 : decode cL_law 1623 = .ok (.aload_n 0, 1) := dk_42 (dk_at dksL_law_61 13 rfl rfl)
theorem dL_law_1624 : decode cL_law 1624 = .ok (.iload 4, 2) := dk_21 4 (dk_at dksL_law_61 14 rfl rfl)
theorem dL_law_1626 : decode cL_law 1626 = .ok (.iconst 1, 1) := dk_4 (dk_at dksL_law_61 16 rfl rfl)
theorem dL_law_1627 : decode cL_law 1627 = .ok (.iadd, 1) := dk_96 (dk_at dksL_law_61 17 rfl rfl)
theorem dL_law_1628 : decode cL_law 1628 = .ok (.iaload, 1) := dk_46 (dk_at dksL_law_61 18 rfl rfl)
theorem dL_law_1629 : decode cL_law 1629 = .ok (.invokevirtual 224, 3) := dk_182 0 224 (dk_at dksL_law_61 19 rfl rfl)
theorem dL_law_1632 : decode cL_law 1632 = .ok (.aload_n 2, 1) := dk_44 (dk_at dksL_law_61 22 rfl rfl)
theorem dL_law_1633 : decode cL_law 1633 = .ok (.aload_n 0, 1) := dk_42 (dk_at dksL_law_61 23 rfl rfl)
theorem dL_law_1634 : decode cL_law 1634 = .ok (.iload 4, 2) := dk_21 4 (dk_at dksL_law_62 0 rfl rfl)
theorem dL_law_1636 : decode cL_law 1636 = .ok (.iconst 1, 1) := dk_4 (dk_at dksL_law_62 2 rfl rfl)
theorem dL_law_1637 : decode cL_law 1637 = .ok (.iadd, 1) := dk_96 (dk_at dksL_law_62 3 rfl rfl)
theorem dL_law_1638 : decode cL_law 1638 = .ok (.iaload, 1) := dk_46 (dk_at dksL_law_62 4 rfl rfl)
theorem dL_law_1639 : decode cL_law 1639 = .ok (.invokevirtual 227, 3) := dk_182 0 227 (dk_at dksL_law_62 5 rfl rfl)
theorem dL_law_1642 : decode cL_law 1642 = .ok (.if_icmp .eq 110, 3) := dk_159 0 110 (dk_at dksL_law_62 8 rfl rfl)
theorem dL_law_1645 : decode cL_law 1645 = .ok (.iconst 0, 1) := dk_3 (dk_at dksL_law_62 11 rfl rfl)
theorem dL_law_1646 : decode cL_law 1646 = .ok (.ireturn, 1) := dk_172 (dk_at dksL_law_62 12 rfl rfl)
theorem dL_law_1647 : decode cL_law 1647 = .ok (.aload_n 1, 1) := dk_43 (dk_at dksL_law_62 13 rfl rfl)
theorem dL_law_1648 : decode cL_law 1648 = .ok (.aload_n 0, 1) := dk_42 (dk_at dksL_law_62 14 rfl rfl)
theorem dL_law_1649 : decode cL_law 1649 = .ok (.iload 4, 2) := dk_21 4 (dk_at dksL_law_62 15 rfl rfl)
theorem dL_law_1651 : decode cL_law 1651 = .ok (.iconst 1, 1) := dk_4 (dk_at dksL_law_62 17 rfl rfl)
theorem dL_law_1652 : decode cL_law 1652 = .ok (.iadd, 1) := dk_96 (dk_at dksL_law_62 18 rfl rfl)
theorem dL_law_1653 : decode cL_law 1653 = .ok (.iaload, 1) := dk_46 (dk_at dksL_law_62 19 rfl rfl)
theorem dL_law_1654 : decode cL_law 1654 = .ok (.invokevirtual 228, 3) := dk_182 0 228 (dk_at dksL_law_62 20 rfl rfl)
theorem dL_law_1657 : decode cL_law 1657 = .ok (.aload_n 2, 1) := dk_44 (dk_at dksL_law_62 23 rfl rfl)
theorem dL_law_1658 : decode cL_law 1658 = .ok (.aload_n 0, 1) := dk_42 (dk_at dksL_law_63 0 rfl rfl)
theorem dL_law_1659 : decode cL_law 1659 = .ok (.iload 4, 2) := dk_21 4 (dk_at dksL_law_63 1 rfl rfl)
theorem dL_law_1661 : decode cL_law 1661 = .ok (.iconst 1, 1) := dk_4 (dk_at dksL_law_63 3 rfl rfl)
theorem dL_law_1662 : decode cL_law 1662 = .ok (.iadd, 1) := dk_96 (dk_at dksL_law_63 4 rfl rfl)
theorem dL_law_1663 : decode cL_law 1663 = .ok (.iaload, 1) := dk_46 (dk_at dksL_law_63 5 rfl rfl)
theorem dL_law_1664 : decode cL_law 1664 = .ok (.invokevirtual 231, 3) := dk_182 0 231 (dk_at dksL_law_63 6 rfl rfl)
theorem dL_law_1667 : decode cL_law 1667 = .ok (.if_icmp .eq 85, 3) := dk_159 0 85 (dk_at dksL_law_63 9 rfl rfl)
theorem dL_law_1670 : decode cL_law 1670 = .ok (.iconst 0, 1) := dk_3 (dk_at dksL_law_63 12 rfl rfl)
theorem dL_law_1671 : decode cL_law 1671 = .ok (.ireturn, 1) := dk_172 (dk_at dksL_law_63 13 rfl rfl)
theorem dL_law_1672 : decode cL_law 1672 = .ok (.aload_n 1, 1) := dk_43 (dk_at dksL_law_63 14 rfl rfl)
theorem dL_law_1673 : decode cL_law 1673 = .ok (.aload_n 0, 1) := dk_42 (dk_at dksL_law_63 15 rfl rfl)
theorem dL_law_1674 : decode cL_law 1674 = .ok (.iload 4, 2) := dk_21 4 (dk_at dksL_law_63 16 rfl rfl)
theorem dL_law_1676 : decode cL_law 1676 = .ok (.iconst 1, 1) := dk_4 (dk_at dksL_law_63 18 rfl rfl)
theorem dL_law_1677 : decode cL_law 1677 = .ok (.iadd, 1) := dk_96 (dk_at dksL_law_63 19 rfl rfl)
theorem dL_law_1678 : decode cL_law 1678 = .ok (.iaload, 1) := dk_46 (dk_at dksL_law_63 20 rfl rfl)
theorem dL_law_1679 : decode cL_law 1679 = .ok (.invokevirtual 232, 3) := dk_182 0 232 (dk_at dksL_law_63 21 rfl rfl)
theorem dL_law_1682 : decode cL_law 1682 = .ok (.aload_n 2, 1) := dk_44 (dk_at dksL_law_64 0 rfl rfl)
theorem dL_law_1683 : decode cL_law 1683 = .ok (.aload_n 0, 1) := dk_42 (dk_at dksL_law_64 1 rfl rfl)
theorem dL_law_1684 : decode cL_law 1684 = .ok (.iload 4, 2) := dk_21 4 (dk_at dksL_law_64 2 rfl rfl)
theorem dL_law_1686 : decode cL_law 1686 = .ok (.iconst 1, 1) := dk_4 (dk_at dksL_law_64 4 rfl rfl)
theorem dL_law_1687 : decode cL_law 1687 = .ok (.iadd, 1) := dk_96 (dk_at dksL_law_64 5 rfl rfl)
theorem dL_law_1688 : decode cL_law 1688 = .ok (.iaload, 1) := dk_46 (dk_at dksL_law_64 6 rfl rfl)
theorem dL_law_1689 : decode cL_law 1689 = .ok (.invokevirtual 235, 3) := dk_182 0 235 (dk_at dksL_law_64 7 rfl rfl)
theorem dL_law_1692 : decode cL_law 1692 = .ok (.if_icmp .eq 60, 3) := dk_159 0 60 (dk_at dksL_law_64 10 rfl rfl)
theorem dL_law_1695 : decode cL_law 1695 = .ok (.iconst 0, 1) := dk_3 (dk_at dksL_law_64 13 rfl rfl)
theorem dL_law_1696 : decode cL_law 1696 = .ok (.ireturn, 1) := dk_172 (dk_at dksL_law_64 14 rfl rfl)
theorem dL_law_1697 : decode cL_law 1697 = .ok (.aload_n 1, 1) := dk_43 (dk_at dksL_law_64 15 rfl rfl)
theorem dL_law_1698 : decode cL_law 1698 = .ok (.aload_n 0, 1) := dk_42 (dk_at dksL_law_64 16 rfl rfl)
theorem dL_law_1699 : decode cL_law 1699 = .ok (.iload 4, 2) := dk_21 4 (dk_at dksL_law_64 17 rfl rfl)
theorem dL_law_1701 : decode cL_law 1701 = .ok (.iconst 1, 1) := dk_4 (dk_at dksL_law_64 19 rfl rfl)
theorem dL_law_1702 : decode cL_law 1702 = .ok (.iadd, 1) := dk_96 (dk_at dksL_law_64 20 rfl rfl)
theorem dL_law_1703 : decode cL_law 1703 = .ok (.iaload, 1) := dk_46 (dk_at dksL_law_64 21 rfl rfl)
theorem dL_law_1704 : decode cL_law 1704 = .ok (.aload_n 3, 1) := dk_45 (dk_at dksL_law_64 22 rfl rfl)
theorem dL_law_1705 : decode cL_law 1705 = .ok (.invokestatic 236, 3) := dk_184 0 236 (dk_at dksL_law_65 0 rfl rfl)
theorem dL_law_1708 : decode cL_law 1708 = .ok (.istore 5, 2) := dk_54 5 (dk_at dksL_law_65 3 rfl rfl)
theorem dL_law_1710 : decode cL_law 1710 = .ok (.aload_n 2, 1) := dk_44 (dk_at dksL_law_65 5 rfl rfl)
theorem dL_law_1711 : decode cL_law 1711 = .ok (.aload_n 0, 1) := dk_42 (dk_at dksL_law_65 6 rfl rfl)
theorem dL_law_1712 : decode cL_law 1712 = .ok (.iload 4, 2) := dk_21 4 (dk_at dksL_law_65 7 rfl rfl)
theorem dL_law_1714 : decode cL_law 1714 = .ok (.iconst 1, 1) := dk_4 (dk_at dksL_law_65 9 rfl rfl)
theorem dL_law_1715 : decode cL_law 1715 = .ok (.iadd, 1) := dk_96 (dk_at dksL_law_65 10 rfl rfl)
theorem dL_law_1716 : decode cL_law 1716 = .ok (.iaload, 1) := dk_46 (dk_at dksL_law_65 11 rfl rfl)
theorem dL_law_1717 : decode cL_law 1717 = .ok (.invokevirtual 239, 3) := dk_182 0 239 (dk_at dksL_law_65 12 rfl rfl)
theorem dL_law_1720 : decode cL_law 1720 = .ok (.lstore 6, 2) := dk_55 6 (dk_at dksL_law_65 15 rfl rfl)
theorem dL_law_1722 : decode cL_law 1722 = .ok (.aload_n 2, 1) := dk_44 (dk_at dksL_law_65 17 rfl rfl)
theorem dL_law_1723 : decode cL_law 1723 = .ok (.invokevirtual 61, 3) := dk_182 0 61 (dk_at dksL_law_65 18 rfl rfl)
theorem dL_law_1726 : decode cL_law 1726 = .ok (.iload 5, 2) := dk_21 5 (dk_at dksL_law_65 21 rfl rfl)
theorem dL_law_1728 : decode cL_law 1728 = .ok (.if_icmp .eq 5, 3) := dk_159 0 5 (dk_at dksL_law_66 0 rfl rfl)
theorem dL_law_1731 : decode cL_law 1731 = .ok (.iconst 0, 1) := dk_3 (dk_at dksL_law_66 3 rfl rfl)
theorem dL_law_1732 : decode cL_law 1732 = .ok (.ireturn, 1) := dk_172 (dk_at dksL_law_66 4 rfl rfl)
theorem dL_law_1733 : decode cL_law 1733 = .ok (.iload 5, 2) := dk_21 5 (dk_at dksL_law_66 5 rfl rfl)
theorem dL_law_1735 : decode cL_law 1735 = .ok (.ifCond .ne 14, 3) := dk_154 0 14 (dk_at dksL_law_66 7 rfl rfl)
theorem dL_law_1738 : decode cL_law 1738 = .ok (.aload_n 3, 1) := dk_45 (dk_at dksL_law_66 10 rfl rfl)
theorem dL_law_1739 : decode cL_law 1739 = .ok (.iconst 0, 1) := dk_3 (dk_at dksL_law_66 11 rfl rfl)
theorem dL_law_1740 : decode cL_law 1740 = .ok (.laload, 1) := dk_47 (dk_at dksL_law_66 12 rfl rfl)
theorem dL_law_1741 : decode cL_law 1741 = .ok (.lload 6, 2) := dk_22 6 (dk_at dksL_law_66 13 rfl rfl)
theorem dL_law_1743 : decode cL_law 1743 = .ok (.lcmp, 1) := dk_148 (dk_at dksL_law_66 15 rfl rfl)
theorem dL_law_1744 : decode cL_law 1744 = .ok (.ifCond .eq 5, 3) := dk_153 0 5 (dk_at dksL_law_66 16 rfl rfl)
theorem dL_law_1747 : decode cL_law 1747 = .ok (.iconst 0, 1) := dk_3 (dk_at dksL_law_66 19 rfl rfl)
theorem dL_law_1748 : decode cL_law 1748 = .ok (.ireturn, 1) := dk_172 (dk_at dksL_law_66 20 rfl rfl)
theorem dL_law_1749 : decode cL_law 1749 = .ok (.goto 3, 3) := dk_167 0 3 (dk_at dksL_law_66 21 rfl rfl)
theorem dL_law_1752 : decode cL_law 1752 = .ok (.iinc 4 5, 3) := dk_132 4 5 (dk_at dksL_law_67 0 rfl rfl)
theorem dL_law_1755 : decode cL_law 1755 = .ok (.goto (-1732), 3) := dk_167 249 60 (dk_at dksL_law_67 3 rfl rfl)
theorem dL_law_1758 : decode cL_law 1758 = .ok (.iconst 1, 1) := dk_4 (dk_at dksL_law_67 6 rfl rfl)
theorem dL_law_1759 : decode cL_law 1759 = .ok (.ireturn, 1) := dk_172 (dk_at dksL_law_67 7 rfl rfl)
