/-! the walks of J0_init_2 J1_init J2_init X3_init X2_init X4_init X5_init X6_init X1_init X7_init X1_bytes X1_feed X7_feed X1_anew X1_in X1_no X8_init X2_see X2_isSmall J4_checkFromIndexSize J3_checkBoundsOffCount J3_rangeCheck J5_compress_2 J5_compress J5_coderFromArrayLen J3_init_2 J3_init X2_isDigit X2_next X3_at X2_fail J3_isLatin1 J7_signedHashCode -/
set_option maxRecDepth 100000
def dkwJ0_init_2_2 : List UInt8 := [44, 181, 0, 7, 29, 154, 0, 8, 42, 1, 181, 0, 24, 177]
abbrev dktJ0_init_2_2 : List UInt8 := dkwJ0_init_2_2 ++ []
def dkwJ0_init_2_1 : List UInt8 := [21, 4, 153, 0, 11, 42, 182, 0, 27, 87, 167, 0, 8, 42, 1, 181, 0, 17, 42, 43, 181, 0, 31, 42]
abbrev dktJ0_init_2_1 : List UInt8 := dkwJ0_init_2_1 ++ dktJ0_init_2_2
def dkwJ0_init_2_0 : List UInt8 := [42, 183, 0, 1, 42, 42, 181, 0, 7, 42, 178, 0, 13, 181, 0, 17, 42, 178, 0, 20, 181, 0, 24]
abbrev dktJ0_init_2_0 : List UInt8 := dkwJ0_init_2_0 ++ dktJ0_init_2_1
theorem dksJ0_init_2_0 : cJ0_init_2.data.toList.drop 0 = dktJ0_init_2_0 := by decide +kernel
theorem dksJ0_init_2_1 : cJ0_init_2.data.toList.drop 23 = dktJ0_init_2_1 := dk_seg dksJ0_init_2_0 23 rfl rfl
theorem dksJ0_init_2_2 : cJ0_init_2.data.toList.drop 47 = dktJ0_init_2_2 := dk_seg dksJ0_init_2_1 24 rfl rfl
theorem dJ0_init_2_0 : decode cJ0_init_2 0 = .ok (.aload_n 0, 1) := dk_42 (dk_at dksJ0_init_2_0 0 rfl rfl)
theorem dJ0_init_2_1 : decode cJ0_init_2 1 = .ok (.invokespecial 1, 3) := dk_183 0 1 (dk_at dksJ0_init_2_0 1 rfl rfl)
theorem dJ0_init_2_4 : decode cJ0_init_2 4 = .ok (.aload_n 0, 1) := dk_42 (dk_at dksJ0_init_2_0 4 rfl rfl)
theorem dJ0_init_2_5 : decode cJ0_init_2 5 = .ok (.aload_n 0, 1) := dk_42 (dk_at dksJ0_init_2_0 5 rfl rfl)
theorem dJ0_init_2_6 : decode cJ0_init_2 6 = .ok (.putfield 7, 3) := dk_181 0 7 (dk_at dksJ0_init_2_0 6 rfl rfl)
theorem dJ0_init_2_9 : decode cJ0_init_2 9 = .ok (.aload_n 0, 1) := dk_42 (dk_at dksJ0_init_2_0 9 rfl rfl)
theorem dJ0_init_2_10 : decode cJ0_init_2 10 = .ok (.getstatic 13, 3) := dk_178 0 13 (dk_at dksJ0_init_2_0 10 rfl rfl)
theorem dJ0_init_2_13 : decode cJ0_init_2 13 = .ok (.putfield 17, 3) := dk_181 0 17 (dk_at dksJ0_init_2_0 13 rfl rfl)
theorem dJ0_init_2_16 : decode cJ0_init_2 16 = .ok (.aload_n 0, 1) := dk_42 (dk_at dksJ0_init_2_0 16 rfl rfl)
theorem dJ0_init_2_17 : decode cJ0_init_2 17 = .ok (.getstatic 20, 3) := dk_178 0 20 (dk_at dksJ0_init_2_0 17 rfl rfl)
theorem dJ0_init_2_20 : decode cJ0_init_2 20 = .ok (.putfield 24, 3) := dk_181 0 24 (dk_at dksJ0_init_2_0 20 rfl rfl)
theorem dJ0_init_2_23 : decode cJ0_init_2 23 = .ok (.iload 4, 2) := dk_21 4 (dk_at dksJ0_init_2_1 0 rfl rfl)
theorem dJ0_init_2_25 : decode cJ0_init_2 25 = .ok (.ifCond .eq 11, 3) := dk_153 0 11 (dk_at dksJ0_init_2_1 2 rfl rfl)
theorem dJ0_init_2_28 : decode cJ0_init_2 28 = .ok (.aload_n 0, 1) := dk_42 (dk_at dksJ0_init_2_1 5 rfl rfl)
theorem dJ0_init_2_29 : decode cJ0_init_2 29 = .ok (.invokevirtual 27, 3) := dk_182 0 27 (dk_at dksJ0_init_2_1 6 rfl rfl)
theorem dJ0_init_2_32 : decode cJ0_init_2 32 = .ok (.pop, 1) := dk_87 (dk_at dksJ0_init_2_1 9 rfl rfl)
theorem dJ0_init_2_33 : decode cJ0_init_2 33 = .ok (.goto 8, 3) := dk_167 0 8 (dk_at dksJ0_init_2_1 10 rfl rfl)
theorem dJ0_init_2_36 : decode cJ0_init_2 36 = .ok (.aload_n 0, 1) := dk_42 (dk_at dksJ0_init_2_1 13 rfl rfl)
theorem dJ0_init_2_37 : decode cJ0_init_2 37 = .ok (.aconst_null, 1) := dk_1 (dk_at dksJ0_init_2_1 14 rfl rfl)
theorem dJ0_init_2_38 : decode cJ0_init_2 38 = .ok (.putfield 17, 3) := dk_181 0 17 (dk_at dksJ0_init_2_1 15 rfl rfl)
theorem dJ0_init_2_41 : decode cJ0_init_2 41 = .ok (.aload_n 0, 1) := dk_42 (dk_at dksJ0_init_2_1 18 rfl rfl)
theorem dJ0_init_2_42 : decode cJ0_init_2 42 = .ok (.aload_n 1, 1) := dk_43 (dk_at dksJ0_init_2_1 19 rfl rfl)
theorem dJ0_init_2_43 : decode cJ0_init_2 43 = .ok (.putfield 31, 3) := dk_181 0 31 (dk_at dksJ0_init_2_1 20 rfl rfl)
theorem dJ0_init_2_46 : decode cJ0_init_2 46 = .ok (.aload_n 0, 1) := dk_42 (dk_at dksJ0_init_2_1 23 rfl rfl)
theorem dJ0_init_2_47 : decode cJ0_init_2 47 = .ok (.aload_n 2, 1) := dk_44 (dk_at dksJ0_init_2_2 0 rfl rfl)
theorem dJ0_init_2_48 : decode cJ0_init_2 48 = .ok (.putfield 7, 3) := dk_181 0 7 (dk_at dksJ0_init_2_2 1 rfl rfl)
theorem dJ0_init_2_51 : decode cJ0_init_2 51 = .ok (.iload_n 3, 1) := dk_29 (dk_at dksJ0_init_2_2 4 rfl rfl)
theorem dJ0_init_2_52 : decode cJ0_init_2 52 = .ok (.ifCond .ne 8, 3) := dk_154 0 8 (dk_at dksJ0_init_2_2 5 rfl rfl)
theorem dJ0_init_2_55 : decode cJ0_init_2 55 = .ok (.aload_n 0, 1) := dk_42 (dk_at dksJ0_init_2_2 8 rfl rfl)
theorem dJ0_init_2_56 : decode cJ0_init_2 56 = .ok (.aconst_null, 1) := dk_1 (dk_at dksJ0_init_2_2 9 rfl rfl)
theorem dJ0_init_2_57 : decode cJ0_init_2 57 = .ok (.putfield 24, 3) := dk_181 0 24 (dk_at dksJ0_init_2_2 10 rfl rfl)
theorem dJ0_init_2_60 : decode cJ0_init_2 60 = .ok (.return_, 1) := dk_177 (dk_at dksJ0_init_2_2 13 rfl rfl)
def dkwJ1_init_0 : List UInt8 := [42, 43, 44, 29, 21, 4, 183, 0, 16, 177]
abbrev dktJ1_init_0 : List UInt8 := dkwJ1_init_0 ++ []
theorem dksJ1_init_0 : cJ1_init.data.toList.drop 0 = dktJ1_init_0 := by decide +kernel
theorem dJ1_init_0 : decode cJ1_init 0 = .ok (.aload_n 0, 1) := dk_42 (dk_at dksJ1_init_0 0 rfl rfl)
theorem dJ1_init_1 : decode cJ1_init 1 = .ok (.aload_n 1, 1) := dk_43 (dk_at dksJ1_init_0 1 rfl rfl)
theorem dJ1_init_2 : decode cJ1_init 2 = .ok (.aload_n 2, 1) := dk_44 (dk_at dksJ1_init_0 2 rfl rfl)
theorem dJ1_init_3 : decode cJ1_init 3 = .ok (.iload_n 3, 1) := dk_29 (dk_at dksJ1_init_0 3 rfl rfl)
theorem dJ1_init_4 : decode cJ1_init 4 = .ok (.iload 4, 2) := dk_21 4 (dk_at dksJ1_init_0 4 rfl rfl)
theorem dJ1_init_6 : decode cJ1_init 6 = .ok (.invokespecial 16, 3) := dk_183 0 16 (dk_at dksJ1_init_0 6 rfl rfl)
theorem dJ1_init_9 : decode cJ1_init 9 = .ok (.return_, 1) := dk_177 (dk_at dksJ1_init_0 9 rfl rfl)
def dkwJ2_init_0 : List UInt8 := [42, 43, 44, 29, 21, 4, 183, 0, 16, 177]
abbrev dktJ2_init_0 : List UInt8 := dkwJ2_init_0 ++ []
theorem dksJ2_init_0 : cJ2_init.data.toList.drop 0 = dktJ2_init_0 := by decide +kernel
theorem dJ2_init_0 : decode cJ2_init 0 = .ok (.aload_n 0, 1) := dk_42 (dk_at dksJ2_init_0 0 rfl rfl)
theorem dJ2_init_1 : decode cJ2_init 1 = .ok (.aload_n 1, 1) := dk_43 (dk_at dksJ2_init_0 1 rfl rfl)
theorem dJ2_init_2 : decode cJ2_init 2 = .ok (.aload_n 2, 1) := dk_44 (dk_at dksJ2_init_0 2 rfl rfl)
theorem dJ2_init_3 : decode cJ2_init 3 = .ok (.iload_n 3, 1) := dk_29 (dk_at dksJ2_init_0 3 rfl rfl)
theorem dJ2_init_4 : decode cJ2_init 4 = .ok (.iload 4, 2) := dk_21 4 (dk_at dksJ2_init_0 4 rfl rfl)
theorem dJ2_init_6 : decode cJ2_init 6 = .ok (.invokespecial 16, 3) := dk_183 0 16 (dk_at dksJ2_init_0 6 rfl rfl)
theorem dJ2_init_9 : decode cJ2_init 9 = .ok (.return_, 1) := dk_177 (dk_at dksJ2_init_0 9 rfl rfl)
def dkwX3_init_0 : List UInt8 := [42, 1, 1, 3, 3, 183, 0, 3, 42, 2, 181, 0, 9, 177]
abbrev dktX3_init_0 : List UInt8 := dkwX3_init_0 ++ []
theorem dksX3_init_0 : cX3_init.data.toList.drop 0 = dktX3_init_0 := by decide +kernel
theorem dX3_init_0 : decode cX3_init 0 = .ok (.aload_n 0, 1) := dk_42 (dk_at dksX3_init_0 0 rfl rfl)
theorem dX3_init_1 : decode cX3_init 1 = .ok (.aconst_null, 1) := dk_1 (dk_at dksX3_init_0 1 rfl rfl)
theorem dX3_init_2 : decode cX3_init 2 = .ok (.aconst_null, 1) := dk_1 (dk_at dksX3_init_0 2 rfl rfl)
theorem dX3_init_3 : decode cX3_init 3 = .ok (.iconst 0, 1) := dk_3 (dk_at dksX3_init_0 3 rfl rfl)
theorem dX3_init_4 : decode cX3_init 4 = .ok (.iconst 0, 1) := dk_3 (dk_at dksX3_init_0 4 rfl rfl)
theorem dX3_init_5 : decode cX3_init 5 = .ok (.invokespecial 3, 3) := dk_183 0 3 (dk_at dksX3_init_0 5 rfl rfl)
theorem dX3_init_8 : decode cX3_init 8 = .ok (.aload_n 0, 1) := dk_42 (dk_at dksX3_init_0 8 rfl rfl)
theorem dX3_init_9 : decode cX3_init 9 = .ok (.iconst (-1), 1) := dk_2 (dk_at dksX3_init_0 9 rfl rfl)
theorem dX3_init_10 : decode cX3_init 10 = .ok (.putfield 9, 3) := dk_181 0 9 (dk_at dksX3_init_0 10 rfl rfl)
theorem dX3_init_13 : decode cX3_init 13 = .ok (.return_, 1) := dk_177 (dk_at dksX3_init_0 13 rfl rfl)
def dkwX2_init_1 : List UInt8 := [43, 181, 0, 22, 177]
abbrev dktX2_init_1 : List UInt8 := dkwX2_init_1 ++ []
def dkwX2_init_0 : List UInt8 := [42, 183, 0, 3, 42, 187, 0, 9, 89, 183, 0, 11, 181, 0, 12, 42, 16, 8, 188, 5, 181, 0, 18, 42]
abbrev dktX2_init_0 : List UInt8 := dkwX2_init_0 ++ dktX2_init_1
theorem dksX2_init_0 : cX2_init.data.toList.drop 0 = dktX2_init_0 := by decide +kernel
theorem dksX2_init_1 : cX2_init.data.toList.drop 24 = dktX2_init_1 := dk_seg dksX2_init_0 24 rfl rfl
theorem dX2_init_0 : decode cX2_init 0 = .ok (.aload_n 0, 1) := dk_42 (dk_at dksX2_init_0 0 rfl rfl)
theorem dX2_init_1 : decode cX2_init 1 = .ok (.invokespecial 3, 3) := dk_183 0 3 (dk_at dksX2_init_0 1 rfl rfl)
theorem dX2_init_4 : decode cX2_init 4 = .ok (.aload_n 0, 1) := dk_42 (dk_at dksX2_init_0 4 rfl rfl)
theorem dX2_init_5 : decode cX2_init 5 = .ok (.new 9, 3) := dk_187 0 9 (dk_at dksX2_init_0 5 rfl rfl)
theorem dX2_init_8 : decode cX2_init 8 = .ok (.dup, 1) := dk_89 (dk_at dksX2_init_0 8 rfl rfl)
theorem dX2_init_9 : decode cX2_init 9 = .ok (.invokespecial 11, 3) := dk_183 0 11 (dk_at dksX2_init_0 9 rfl rfl)
theorem dX2_init_12 : decode cX2_init 12 = .ok (.putfield 12, 3) := dk_181 0 12 (dk_at dksX2_init_0 12 rfl rfl)
theorem dX2_init_15 : decode cX2_init 15 = .ok (.aload_n 0, 1) := dk_42 (dk_at dksX2_init_0 15 rfl rfl)
theorem dX2_init_16 : decode cX2_init 16 = .ok (.bipush 8, 2) := dk_16 8 (dk_at dksX2_init_0 16 rfl rfl)
theorem dX2_init_18 : decode cX2_init 18 = .ok (.newarray .char, 2) := dk_188_5 (dk_at dksX2_init_0 18 rfl rfl)
theorem dX2_init_20 : decode cX2_init 20 = .ok (.putfield 18, 3) := dk_181 0 18 (dk_at dksX2_init_0 20 rfl rfl)
theorem dX2_init_23 : decode cX2_init 23 = .ok (.aload_n 0, 1) := dk_42 (dk_at dksX2_init_0 23 rfl rfl)
theorem dX2_init_24 : decode cX2_init 24 = .ok (.aload_n 1, 1) := dk_43 (dk_at dksX2_init_1 0 rfl rfl)
theorem dX2_init_25 : decode cX2_init 25 = .ok (.putfield 22, 3) := dk_181 0 22 (dk_at dksX2_init_1 1 rfl rfl)
theorem dX2_init_28 : decode cX2_init 28 = .ok (.return_, 1) := dk_177 (dk_at dksX2_init_1 4 rfl rfl)
def dkwX4_init_0 : List UInt8 := [42, 183, 0, 3, 42, 16, 12, 188, 10, 181, 0, 9, 42, 16, 12, 188, 10, 181, 0, 15, 177]
abbrev dktX4_init_0 : List UInt8 := dkwX4_init_0 ++ []
theorem dksX4_init_0 : cX4_init.data.toList.drop 0 = dktX4_init_0 := by decide +kernel
theorem dX4_init_0 : decode cX4_init 0 = .ok (.aload_n 0, 1) := dk_42 (dk_at dksX4_init_0 0 rfl rfl)
theorem dX4_init_1 : decode cX4_init 1 = .ok (.invokespecial 3, 3) := dk_183 0 3 (dk_at dksX4_init_0 1 rfl rfl)
theorem dX4_init_4 : decode cX4_init 4 = .ok (.aload_n 0, 1) := dk_42 (dk_at dksX4_init_0 4 rfl rfl)
theorem dX4_init_5 : decode cX4_init 5 = .ok (.bipush 12, 2) := dk_16 12 (dk_at dksX4_init_0 5 rfl rfl)
theorem dX4_init_7 : decode cX4_init 7 = .ok (.newarray .int, 2) := dk_188_10 (dk_at dksX4_init_0 7 rfl rfl)
theorem dX4_init_9 : decode cX4_init 9 = .ok (.putfield 9, 3) := dk_181 0 9 (dk_at dksX4_init_0 9 rfl rfl)
theorem dX4_init_12 : decode cX4_init 12 = .ok (.aload_n 0, 1) := dk_42 (dk_at dksX4_init_0 12 rfl rfl)
theorem dX4_init_13 : decode cX4_init 13 = .ok (.bipush 12, 2) := dk_16 12 (dk_at dksX4_init_0 13 rfl rfl)
theorem dX4_init_15 : decode cX4_init 15 = .ok (.newarray .int, 2) := dk_188_10 (dk_at dksX4_init_0 15 rfl rfl)
theorem dX4_init_17 : decode cX4_init 17 = .ok (.putfield 15, 3) := dk_181 0 15 (dk_at dksX4_init_0 17 rfl rfl)
theorem dX4_init_20 : decode cX4_init 20 = .ok (.return_, 1) := dk_177 (dk_at dksX4_init_0 20 rfl rfl)
def dkwX5_init_2 : List UInt8 := [188, 10, 181, 0, 27, 42, 16, 8, 188, 10, 181, 0, 30, 177]
abbrev dktX5_init_2 : List UInt8 := dkwX5_init_2 ++ []
def dkwX5_init_1 : List UInt8 := [188, 10, 181, 0, 18, 42, 16, 72, 188, 10, 181, 0, 21, 42, 16, 72, 188, 10, 181, 0, 24, 42, 16, 6]
abbrev dktX5_init_1 : List UInt8 := dkwX5_init_1 ++ dktX5_init_2
def dkwX5_init_0 : List UInt8 := [42, 183, 0, 3, 42, 16, 32, 188, 10, 181, 0, 9, 42, 16, 6, 188, 10, 181, 0, 15, 42, 16, 72]
abbrev dktX5_init_0 : List UInt8 := dkwX5_init_0 ++ dktX5_init_1
theorem dksX5_init_0 : cX5_init.data.toList.drop 0 = dktX5_init_0 := by decide +kernel
theorem dksX5_init_1 : cX5_init.data.toList.drop 23 = dktX5_init_1 := dk_seg dksX5_init_0 23 rfl rfl
theorem dksX5_init_2 : cX5_init.data.toList.drop 47 = dktX5_init_2 := dk_seg dksX5_init_1 24 rfl rfl
theorem dX5_init_0 : decode cX5_init 0 = .ok (.aload_n 0, 1) := dk_42 (dk_at dksX5_init_0 0 rfl rfl)
theorem dX5_init_1 : decode cX5_init 1 = .ok (.invokespecial 3, 3) := dk_183 0 3 (dk_at dksX5_init_0 1 rfl rfl)
theorem dX5_init_4 : decode cX5_init 4 = .ok (.aload_n 0, 1) := dk_42 (dk_at dksX5_init_0 4 rfl rfl)
theorem dX5_init_5 : decode cX5_init 5 = .ok (.bipush 32, 2) := dk_16 32 (dk_at dksX5_init_0 5 rfl rfl)
theorem dX5_init_7 : decode cX5_init 7 = .ok (.newarray .int, 2) := dk_188_10 (dk_at dksX5_init_0 7 rfl rfl)
theorem dX5_init_9 : decode cX5_init 9 = .ok (.putfield 9, 3) := dk_181 0 9 (dk_at dksX5_init_0 9 rfl rfl)
theorem dX5_init_12 : decode cX5_init 12 = .ok (.aload_n 0, 1) := dk_42 (dk_at dksX5_init_0 12 rfl rfl)
theorem dX5_init_13 : decode cX5_init 13 = .ok (.bipush 6, 2) := dk_16 6 (dk_at dksX5_init_0 13 rfl rfl)
theorem dX5_init_15 : decode cX5_init 15 = .ok (.newarray .int, 2) := dk_188_10 (dk_at dksX5_init_0 15 rfl rfl)
theorem dX5_init_17 : decode cX5_init 17 = .ok (.putfield 15, 3) := dk_181 0 15 (dk_at dksX5_init_0 17 rfl rfl)
theorem dX5_init_20 : decode cX5_init 20 = .ok (.aload_n 0, 1) := dk_42 (dk_at dksX5_init_0 20 rfl rfl)
theorem dX5_init_21 : decode cX5_init 21 = .ok (.bipush 72, 2) := dk_16 72 (dk_at dksX5_init_0 21 rfl rfl)
theorem dX5_init_23 : decode cX5_init 23 = .ok (.newarray .int, 2) := dk_188_10 (dk_at dksX5_init_1 0 rfl rfl)
theorem dX5_init_25 : decode cX5_init 25 = .ok (.putfield 18, 3) := dk_181 0 18 (dk_at dksX5_init_1 2 rfl rfl)
theorem dX5_init_28 : decode cX5_init 28 = .ok (.aload_n 0, 1) := dk_42 (dk_at dksX5_init_1 5 rfl rfl)
theorem dX5_init_29 : decode cX5_init 29 = .ok (.bipush 72, 2) := dk_16 72 (dk_at dksX5_init_1 6 rfl rfl)
theorem dX5_init_31 : decode cX5_init 31 = .ok (.newarray .int, 2) := dk_188_10 (dk_at dksX5_init_1 8 rfl rfl)
theorem dX5_init_33 : decode cX5_init 33 = .ok (.putfield 21, 3) := dk_181 0 21 (dk_at dksX5_init_1 10 rfl rfl)
theorem dX5_init_36 : decode cX5_init 36 = .ok (.aload_n 0, 1) := dk_42 (dk_at dksX5_init_1 13 rfl rfl)
theorem dX5_init_37 : decode cX5_init 37 = .ok (.bipush 72, 2) := dk_16 72 (dk_at dksX5_init_1 14 rfl rfl)
theorem dX5_init_39 : decode cX5_init 39 = .ok (.newarray .int, 2) := dk_188_10 (dk_at dksX5_init_1 16 rfl rfl)
theorem dX5_init_41 : decode cX5_init 41 = .ok (.putfield 24, 3) := dk_181 0 24 (dk_at dksX5_init_1 18 rfl rfl)
theorem dX5_init_44 : decode cX5_init 44 = .ok (.aload_n 0, 1) := dk_42 (dk_at dksX5_init_1 21 rfl rfl)
theorem dX5_init_45 : decode cX5_init 45 = .ok (.bipush 6, 2) := dk_16 6 (dk_at dksX5_init_1 22 rfl rfl)
theorem dX5_init_47 : decode cX5_init 47 = .ok (.newarray .int, 2) := dk_188_10 (dk_at dksX5_init_2 0 rfl rfl)
theorem dX5_init_49 : decode cX5_init 49 = .ok (.putfield 27, 3) := dk_181 0 27 (dk_at dksX5_init_2 2 rfl rfl)
theorem dX5_init_52 : decode cX5_init 52 = .ok (.aload_n 0, 1) := dk_42 (dk_at dksX5_init_2 5 rfl rfl)
theorem dX5_init_53 : decode cX5_init 53 = .ok (.bipush 8, 2) := dk_16 8 (dk_at dksX5_init_2 6 rfl rfl)
theorem dX5_init_55 : decode cX5_init 55 = .ok (.newarray .int, 2) := dk_188_10 (dk_at dksX5_init_2 8 rfl rfl)
theorem dX5_init_57 : decode cX5_init 57 = .ok (.putfield 30, 3) := dk_181 0 30 (dk_at dksX5_init_2 10 rfl rfl)
theorem dX5_init_60 : decode cX5_init 60 = .ok (.return_, 1) := dk_177 (dk_at dksX5_init_2 13 rfl rfl)
def dkwX6_init_0 : List UInt8 := [42, 183, 0, 3, 42, 16, 6, 188, 10, 181, 0, 9, 42, 16, 6, 188, 10, 181, 0, 15, 177]
abbrev dktX6_init_0 : List UInt8 := dkwX6_init_0 ++ []
theorem dksX6_init_0 : cX6_init.data.toList.drop 0 = dktX6_init_0 := by decide +kernel
theorem dX6_init_0 : decode cX6_init 0 = .ok (.aload_n 0, 1) := dk_42 (dk_at dksX6_init_0 0 rfl rfl)
theorem dX6_init_1 : decode cX6_init 1 = .ok (.invokespecial 3, 3) := dk_183 0 3 (dk_at dksX6_init_0 1 rfl rfl)
theorem dX6_init_4 : decode cX6_init 4 = .ok (.aload_n 0, 1) := dk_42 (dk_at dksX6_init_0 4 rfl rfl)
theorem dX6_init_5 : decode cX6_init 5 = .ok (.bipush 6, 2) := dk_16 6 (dk_at dksX6_init_0 5 rfl rfl)
theorem dX6_init_7 : decode cX6_init 7 = .ok (.newarray .int, 2) := dk_188_10 (dk_at dksX6_init_0 7 rfl rfl)
theorem dX6_init_9 : decode cX6_init 9 = .ok (.putfield 9, 3) := dk_181 0 9 (dk_at dksX6_init_0 9 rfl rfl)
theorem dX6_init_12 : decode cX6_init 12 = .ok (.aload_n 0, 1) := dk_42 (dk_at dksX6_init_0 12 rfl rfl)
theorem dX6_init_13 : decode cX6_init 13 = .ok (.bipush 6, 2) := dk_16 6 (dk_at dksX6_init_0 13 rfl rfl)
theorem dX6_init_15 : decode cX6_init 15 = .ok (.newarray .int, 2) := dk_188_10 (dk_at dksX6_init_0 15 rfl rfl)
theorem dX6_init_17 : decode cX6_init 17 = .ok (.putfield 15, 3) := dk_181 0 15 (dk_at dksX6_init_0 17 rfl rfl)
theorem dX6_init_20 : decode cX6_init 20 = .ok (.return_, 1) := dk_177 (dk_at dksX6_init_0 20 rfl rfl)
def dkwX1_init_8 : List UInt8 := [132, 1, 1, 167, 255, 235, 177]
abbrev dktX1_init_8 : List UInt8 := dkwX1_init_8 ++ []
def dkwX1_init_7 : List UInt8 := [167, 255, 234, 3, 60, 27, 6, 162, 0, 22, 42, 180, 0, 61, 27, 187, 0, 30, 89, 183, 0, 32, 83]
abbrev dktX1_init_7 : List UInt8 := dkwX1_init_7 ++ dktX1_init_8
def dkwX1_init_6 : List UInt8 := [27, 16, 16, 162, 0, 22, 42, 180, 0, 57, 27, 187, 0, 30, 89, 183, 0, 32, 83, 132, 1, 1]
abbrev dktX1_init_6 : List UInt8 := dkwX1_init_6 ++ dktX1_init_7
def dkwX1_init_5 : List UInt8 := [16, 81, 188, 10, 181, 0, 68, 42, 16, 8, 188, 10, 181, 0, 71, 42, 5, 188, 10, 181, 0, 74, 3, 60]
abbrev dktX1_init_5 : List UInt8 := dkwX1_init_5 ++ dktX1_init_6
def dkwX1_init_4 : List UInt8 := [189, 0, 30, 181, 0, 57, 42, 6, 189, 0, 30, 181, 0, 61, 42, 16, 81, 188, 10, 181, 0, 64, 42]
abbrev dktX1_init_4 : List UInt8 := dkwX1_init_4 ++ dktX1_init_5
def dkwX1_init_3 : List UInt8 := [187, 0, 43, 89, 183, 0, 45, 181, 0, 46, 42, 187, 0, 50, 89, 183, 0, 52, 181, 0, 53, 42, 16, 16]
abbrev dktX1_init_3 : List UInt8 := dkwX1_init_3 ++ dktX1_init_4
def dkwX1_init_2 : List UInt8 := [187, 0, 30, 89, 183, 0, 32, 181, 0, 37, 42, 187, 0, 30, 89, 183, 0, 32, 181, 0, 40, 42]
abbrev dktX1_init_2 : List UInt8 := dkwX1_init_2 ++ dktX1_init_3
def dkwX1_init_1 : List UInt8 := [183, 0, 19, 181, 0, 22, 42, 2, 181, 0, 26, 42, 187, 0, 30, 89, 183, 0, 32, 181, 0, 33, 42]
abbrev dktX1_init_1 : List UInt8 := dkwX1_init_1 ++ dktX1_init_2
def dkwX1_init_0 : List UInt8 := [42, 183, 0, 7, 42, 17, 4, 176, 188, 8, 181, 0, 13, 42, 187, 0, 17, 89, 42, 180, 0, 13]
abbrev dktX1_init_0 : List UInt8 := dkwX1_init_0 ++ dktX1_init_1
theorem dksX1_init_0 : cX1_init.data.toList.drop 0 = dktX1_init_0 := by decide +kernel
theorem dksX1_init_1 : cX1_init.data.toList.drop 22 = dktX1_init_1 := dk_seg dksX1_init_0 22 rfl rfl
theorem dksX1_init_2 : cX1_init.data.toList.drop 45 = dktX1_init_2 := dk_seg dksX1_init_1 23 rfl rfl
theorem dksX1_init_3 : cX1_init.data.toList.drop 67 = dktX1_init_3 := dk_seg dksX1_init_2 22 rfl rfl
theorem dksX1_init_4 : cX1_init.data.toList.drop 91 = dktX1_init_4 := dk_seg dksX1_init_3 24 rfl rfl
theorem dksX1_init_5 : cX1_init.data.toList.drop 114 = dktX1_init_5 := dk_seg dksX1_init_4 23 rfl rfl
theorem dksX1_init_6 : cX1_init.data.toList.drop 138 = dktX1_init_6 := dk_seg dksX1_init_5 24 rfl rfl
theorem dksX1_init_7 : cX1_init.data.toList.drop 160 = dktX1_init_7 := dk_seg dksX1_init_6 22 rfl rfl
theorem dksX1_init_8 : cX1_init.data.toList.drop 183 = dktX1_init_8 := dk_seg dksX1_init_7 23 rfl rfl
theorem dX1_init_0 : decode cX1_init 0 = .ok (.aload_n 0, 1) := dk_42 (dk_at dksX1_init_0 0 rfl rfl)
theorem dX1_init_1 : decode cX1_init 1 = .ok (.invokespecial 7, 3) := dk_183 0 7 (dk_at dksX1_init_0 1 rfl rfl)
theorem dX1_init_4 : decode cX1_init 4 = .ok (.aload_n 0, 1) := dk_42 (dk_at dksX1_init_0 4 rfl rfl)
theorem dX1_init_5 : decode cX1_init 5 = .ok (.sipush 1200, 3) := dk_17 4 176 (dk_at dksX1_init_0 5 rfl rfl)
theorem dX1_init_8 : decode cX1_init 8 = .ok (.newarray .byte, 2) := dk_188_8 (dk_at dksX1_init_0 8 rfl rfl)
theorem dX1_init_10 : decode cX1_init 10 = .ok (.putfield 13, 3) := dk_181 0 13 (dk_at dksX1_init_0 10 rfl rfl)
theorem dX1_init_13 : decode cX1_init 13 = .ok (.aload_n 0, 1) := dk_42 (dk_at dksX1_init_0 13 rfl rfl)
theorem dX1_init_14 : decode cX1_init 14 = .ok (.new 17, 3) := dk_187 0 17 (dk_at dksX1_init_0 14 rfl rfl)
theorem dX1_init_17 : decode cX1_init 17 = .ok (.dup, 1) := dk_89 (dk_at dksX1_init_0 17 rfl rfl)
theorem dX1_init_18 : decode cX1_init 18 = .ok (.aload_n 0, 1) := dk_42 (dk_at dksX1_init_0 18 rfl rfl)
theorem dX1_init_19 : decode cX1_init 19 = .ok (.getfield 13, 3) := dk_180 0 13 (dk_at dksX1_init_0 19 rfl rfl)
theorem dX1_init_22 : decode cX1_init 22 = .ok (.invokespecial 19, 3) := dk_183 0 19 (dk_at dksX1_init_1 0 rfl rfl)
theorem dX1_init_25 : decode cX1_init 25 = .ok (.putfield 22, 3) := dk_181 0 22 (dk_at dksX1_init_1 3 rfl rfl)
theorem dX1_init_28 : decode cX1_init 28 = .ok (.aload_n 0, 1) := dk_42 (dk_at dksX1_init_1 6 rfl rfl)
theorem dX1_init_29 : decode cX1_init 29 = .ok (.iconst (-1), 1) := dk_2 (dk_at dksX1_init_1 7 rfl rfl)
theorem dX1_init_30 : decode cX1_init 30 = .ok (.putfield 26, 3) := dk_181 0 26 (dk_at dksX1_init_1 8 rfl rfl)
theorem dX1_init_33 : decode cX1_init 33 = .ok (.aload_n 0, 1) := dk_42 (dk_at dksX1_init_1 11 rfl rfl)
theorem dX1_init_34 : decode cX1_init 34 = .ok (.new 30, 3) := dk_187 0 30 (dk_at dksX1_init_1 12 rfl rfl)
theorem dX1_init_37 : decode cX1_init 37 = .ok (.dup, 1) := dk_89 (dk_at dksX1_init_1 15 rfl rfl)
theorem dX1_init_38 : decode cX1_init 38 = .ok (.invokespecial 32, 3) := dk_183 0 32 (dk_at dksX1_init_1 16 rfl rfl)
theorem dX1_init_41 : decode cX1_init 41 = .ok (.putfield 33, 3) := dk_181 0 33 (dk_at dksX1_init_1 19 rfl rfl)
theorem dX1_init_44 : decode cX1_init 44 = .ok (.aload_n 0, 1) := dk_42 (dk_at dksX1_init_1 22 rfl rfl)
theorem dX1_init_45 : decode cX1_init 45 = .ok (.new 30, 3) := dk_187 0 30 (dk_at dksX1_init_2 0 rfl rfl)
theorem dX1_init_48 : decode cX1_init 48 = .ok (.dup, 1) := dk_89 (dk_at dksX1_init_2 3 rfl rfl)
theorem dX1_init_49 : decode cX1_init 49 = .ok (.invokespecial 32, 3) := dk_183 0 32 (dk_at dksX1_init_2 4 rfl rfl)
theorem dX1_init_52 : decode cX1_init 52 = .ok (.putfield 37, 3) := dk_181 0 37 (dk_at dksX1_init_2 7 rfl rfl)
theorem dX1_init_55 : decode cX1_init 55 = .ok (.aload_n 0, 1) := dk_42 (dk_at dksX1_init_2 10 rfl rfl)
theorem dX1_init_56 : decode cX1_init 56 = .ok (.new 30, 3) := dk_187 0 30 (dk_at dksX1_init_2 11 rfl rfl)
theorem dX1_init_59 : decode cX1_init 59 = .ok (.dup, 1) := dk_89 (dk_at dksX1_init_2 14 rfl rfl)
theorem dX1_init_60 : decode cX1_init 60 = .ok (.invokespecial 32, 3) := dk_183 0 32 (dk_at dksX1_init_2 15 rfl rfl)
theorem dX1_init_63 : decode cX1_init 63 = .ok (.putfield 40, 3) := dk_181 0 40 (dk_at dksX1_init_2 18 rfl rfl)
theorem dX1_init_66 : decode cX1_init 66 = .ok (.aload_n 0, 1) := dk_42 (dk_at dksX1_init_2 21 rfl rfl)
theorem dX1_init_67 : decode cX1_init 67 = .ok (.new 43, 3) := dk_187 0 43 (dk_at dksX1_init_3 0 rfl rfl)
theorem dX1_init_70 : decode cX1_init 70 = .ok (.dup, 1) := dk_89 (dk_at dksX1_init_3 3 rfl rfl)
theorem dX1_init_71 : decode cX1_init 71 = .ok (.invokespecial 45, 3) := dk_183 0 45 (dk_at dksX1_init_3 4 rfl rfl)
theorem dX1_init_74 : decode cX1_init 74 = .ok (.putfield 46, 3) := dk_181 0 46 (dk_at dksX1_init_3 7 rfl rfl)
theorem dX1_init_77 : decode cX1_init 77 = .ok (.aload_n 0, 1) := dk_42 (dk_at dksX1_init_3 10 rfl rfl)
theorem dX1_init_78 : decode cX1_init 78 = .ok (.new 50, 3) := dk_187 0 50 (dk_at dksX1_init_3 11 rfl rfl)
theorem dX1_init_81 : decode cX1_init 81 = .ok (.dup, 1) := dk_89 (dk_at dksX1_init_3 14 rfl rfl)
theorem dX1_init_82 : decode cX1_init 82 = .ok (.invokespecial 52, 3) := dk_183 0 52 (dk_at dksX1_init_3 15 rfl rfl)
theorem dX1_init_85 : decode cX1_init 85 = .ok (.putfield 53, 3) := dk_181 0 53 (dk_at dksX1_init_3 18 rfl rfl)
theorem dX1_init_88 : decode cX1_init 88 = .ok (.aload_n 0, 1) := dk_42 (dk_at dksX1_init_3 21 rfl rfl)
theorem dX1_init_89 : decode cX1_init 89 = .ok (.bipush 16, 2) := dk_16 16 (dk_at dksX1_init_3 22 rfl rfl)
theorem dX1_init_91 : decode cX1_init 91 = .ok (.anewarray 30, 3) := dk_189 0 30 (dk_at dksX1_init_4 0 rfl rfl)
theorem dX1_init_94 : decode cX1_init 94 = .ok (.putfield 57, 3) := dk_181 0 57 (dk_at dksX1_init_4 3 rfl rfl)
theorem dX1_init_97 : decode cX1_init 97 = .ok (.aload_n 0, 1) := dk_42 (dk_at dksX1_init_4 6 rfl rfl)
theorem dX1_init_98 : decode cX1_init 98 = .ok (.iconst 3, 1) := dk_6 (dk_at dksX1_init_4 7 rfl rfl)
theorem dX1_init_99 : decode cX1_init 99 = .ok (.anewarray 30, 3) := dk_189 0 30 (dk_at dksX1_init_4 8 rfl rfl)
theorem dX1_init_102 : decode cX1_init 102 = .ok (.putfield 61, 3) := dk_181 0 61 (dk_at dksX1_init_4 11 rfl rfl)
theorem dX1_init_105 : decode cX1_init 105 = .ok (.aload_n 0, 1) := dk_42 (dk_at dksX1_init_4 14 rfl rfl)
theorem dX1_init_106 : decode cX1_init 106 = .ok (.bipush 81, 2) := dk_16 81 (dk_at dksX1_init_4 15 rfl rfl)
theorem dX1_init_108 : decode cX1_init 108 = .ok (.newarray .int, 2) := dk_188_10 (dk_at dksX1_init_4 17 rfl rfl)
theorem dX1_init_110 : decode cX1_init 110 = .ok (.putfield 64, 3) := dk_181 0 64 (dk_at dksX1_init_4 19 rfl rfl)
theorem dX1_init_113 : decode cX1_init 113 = .ok (.aload_n 0, 1) := dk_42 (dk_at dksX1_init_4 22 rfl rfl)
theorem dX1_init_114 : decode cX1_init 114 = .ok (.bipush 81, 2) := dk_16 81 (dk_at dksX1_init_5 0 rfl rfl)
theorem dX1_init_116 : decode cX1_init 116 = .ok (.newarray .int, 2) := dk_188_10 (dk_at dksX1_init_5 2 rfl rfl)
theorem dX1_init_118 : decode cX1_init 118 = .ok (.putfield 68, 3) := dk_181 0 68 (dk_at dksX1_init_5 4 rfl rfl)
theorem dX1_init_121 : decode cX1_init 121 = .ok (.aload_n 0, 1) := dk_42 (dk_at dksX1_init_5 7 rfl rfl)
theorem dX1_init_122 : decode cX1_init 122 = .ok (.bipush 8, 2) := dk_16 8 (dk_at dksX1_init_5 8 rfl rfl)
theorem dX1_init_124 : decode cX1_init 124 = .ok (.newarray .int, 2) := dk_188_10 (dk_at dksX1_init_5 10 rfl rfl)
theorem dX1_init_126 : decode cX1_init 126 = .ok (.putfield 71, 3) := dk_181 0 71 (dk_at dksX1_init_5 12 rfl rfl)
theorem dX1_init_129 : decode cX1_init 129 = .ok (.aload_n 0, 1) := dk_42 (dk_at dksX1_init_5 15 rfl rfl)
theorem dX1_init_130 : decode cX1_init 130 = .ok (.iconst 2, 1) := dk_5 (dk_at dksX1_init_5 16 rfl rfl)
theorem dX1_init_131 : decode cX1_init 131 = .ok (.newarray .int, 2) := dk_188_10 (dk_at dksX1_init_5 17 rfl rfl)
theorem dX1_init_133 : decode cX1_init 133 = .ok (.putfield 74, 3) := dk_181 0 74 (dk_at dksX1_init_5 19 rfl rfl)
theorem dX1_init_136 : decode cX1_init 136 = .ok (.iconst 0, 1) := dk_3 (dk_at dksX1_init_5 22 rfl rfl)
theorem dX1_init_137 : decode cX1_init 137 = .ok (.istore_n 1, 1) := dk_60 (dk_at dksX1_init_5 23 rfl rfl)
theorem dX1_init_138 : decode cX1_init 138 = .ok (.iload_n 1, 1) := dk_27 (dk_at dksX1_init_6 0 rfl rfl)
theorem dX1_init_139 : decode cX1_init 139 = .ok (.bipush 16, 2) := dk_16 16 (dk_at dksX1_init_6 1 rfl rfl)
theorem dX1_init_141 : decode cX1_init 141 = .ok (.if_icmp .ge 22, 3) := dk_162 0 22 (dk_at dksX1_init_6 3 rfl rfl)
theorem dX1_init_144 : decode cX1_init 144 = .ok (.aload_n 0, 1) := dk_42 (dk_at dksX1_init_6 6 rfl rfl)
theorem dX1_init_145 : decode cX1_init 145 = .ok (.getfield 57, 3) := dk_180 0 57 (dk_at dksX1_init_6 7 rfl rfl)
theorem dX1_init_148 : decode cX1_init 148 = .ok (.iload_n 1, 1) := dk_27 (dk_at dksX1_init_6 10 rfl rfl)
theorem dX1_init_149 : decode cX1_init 149 = .ok (.new 30, 3) := dk_187 0 30 (dk_at dksX1_init_6 11 rfl rfl)
theorem dX1_init_152 : decode cX1_init 152 = .ok (.dup, 1) := dk_89 (dk_at dksX1_init_6 14 rfl rfl)
theorem dX1_init_153 : decode cX1_init 153 = .ok (.invokespecial 32, 3) := dk_183 0 32 (dk_at dksX1_init_6 15 rfl rfl)
theorem dX1_init_156 : decode cX1_init 156 = .ok (.aastore, 1) := dk_83 (dk_at dksX1_init_6 18 rfl rfl)
theorem dX1_init_157 : decode cX1_init 157 = .ok (.iinc 1 1, 3) := dk_132 1 1 (dk_at dksX1_init_6 19 rfl rfl)
theorem dX1_init_160 : decode cX1_init 160 = .ok (.goto (-22), 3) := dk_167 255 234 (dk_at dksX1_init_7 0 rfl rfl)
theorem dX1_init_163 : decode cX1_init 163 = .ok (.iconst 0, 1) := dk_3 (dk_at dksX1_init_7 3 rfl rfl)
theorem dX1_init_164 : decode cX1_init 164 = .ok (.istore_n 1, 1) := dk_60 (dk_at dksX1_init_7 4 rfl rfl)
theorem dX1_init_165 : decode cX1_init 165 = .ok (.iload_n 1, 1) := dk_27 (dk_at dksX1_init_7 5 rfl rfl)
theorem dX1_init_166 : decode cX1_init 166 = .ok (.iconst 3, 1) := dk_6 (dk_at dksX1_init_7 6 rfl rfl)
theorem dX1_init_167 : decode cX1_init 167 = .ok (.if_icmp .ge 22, 3) := dk_162 0 22 (dk_at dksX1_init_7 7 rfl rfl)
theorem dX1_init_170 : decode cX1_init 170 = .ok (.aload_n 0, 1) := dk_42 (dk_at dksX1_init_7 10 rfl rfl)
theorem dX1_init_171 : decode cX1_init 171 = .ok (.getfield 61, 3) := dk_180 0 61 (dk_at dksX1_init_7 11 rfl rfl)
theorem dX1_init_174 : decode cX1_init 174 = .ok (.iload_n 1, 1) := dk_27 (dk_at dksX1_init_7 14 rfl rfl)
theorem dX1_init_175 : decode cX1_init 175 = .ok (.new 30, 3) := dk_187 0 30 (dk_at dksX1_init_7 15 rfl rfl)
theorem dX1_init_178 : decode cX1_init 178 = .ok (.dup, 1) := dk_89 (dk_at dksX1_init_7 18 rfl rfl)
theorem dX1_init_179 : decode cX1_init 179 = .ok (.invokespecial 32, 3) := dk_183 0 32 (dk_at dksX1_init_7 19 rfl rfl)
theorem dX1_init_182 : decode cX1_init 182 = .ok (.aastore, 1) := dk_83 (dk_at dksX1_init_7 22 rfl rfl)
theorem dX1_init_183 : decode cX1_init 183 = .ok (.iinc 1 1, 3) := dk_132 1 1 (dk_at dksX1_init_8 0 rfl rfl)
theorem dX1_init_186 : decode cX1_init 186 = .ok (.goto (-21), 3) := dk_167 255 235 (dk_at dksX1_init_8 3 rfl rfl)
theorem dX1_init_189 : decode cX1_init 189 = .ok (.return_, 1) := dk_177 (dk_at dksX1_init_8 6 rfl rfl)
def dkwX7_init_6 : List UInt8 := [42, 16, 6, 188, 10, 181, 0, 63, 177]
abbrev dktX7_init_6 : List UInt8 := dkwX7_init_6 ++ []
def dkwX7_init_5 : List UInt8 := [17, 22, 200, 188, 10, 181, 0, 54, 42, 16, 8, 188, 10, 181, 0, 57, 42, 16, 6, 188, 10, 181, 0, 60]
abbrev dktX7_init_5 : List UInt8 := dkwX7_init_5 ++ dktX7_init_6
def dkwX7_init_4 : List UInt8 := [188, 10, 181, 0, 45, 42, 16, 81, 188, 10, 181, 0, 48, 42, 16, 81, 188, 10, 181, 0, 51, 42]
abbrev dktX7_init_4 : List UInt8 := dkwX7_init_4 ++ dktX7_init_5
def dkwX7_init_3 : List UInt8 := [188, 10, 181, 0, 36, 42, 16, 32, 188, 10, 181, 0, 39, 42, 16, 6, 188, 10, 181, 0, 42, 42, 16, 6]
abbrev dktX7_init_3 : List UInt8 := dkwX7_init_3 ++ dktX7_init_4
def dkwX7_init_2 : List UInt8 := [188, 10, 181, 0, 27, 42, 16, 72, 188, 10, 181, 0, 30, 42, 16, 72, 188, 10, 181, 0, 33, 42, 16, 72]
abbrev dktX7_init_2 : List UInt8 := dkwX7_init_2 ++ dktX7_init_3
def dkwX7_init_1 : List UInt8 := [181, 0, 17, 42, 16, 18, 188, 10, 181, 0, 21, 42, 17, 1, 32, 188, 10, 181, 0, 24, 42, 16, 54]
abbrev dktX7_init_1 : List UInt8 := dkwX7_init_1 ++ dktX7_init_2
def dkwX7_init_0 : List UInt8 := [42, 183, 0, 3, 42, 2, 181, 0, 9, 42, 17, 4, 176, 188, 8, 181, 0, 13, 42, 16, 8, 188, 10]
abbrev dktX7_init_0 : List UInt8 := dkwX7_init_0 ++ dktX7_init_1
theorem dksX7_init_0 : cX7_init.data.toList.drop 0 = dktX7_init_0 := by decide +kernel
theorem dksX7_init_1 : cX7_init.data.toList.drop 23 = dktX7_init_1 := dk_seg dksX7_init_0 23 rfl rfl
theorem dksX7_init_2 : cX7_init.data.toList.drop 46 = dktX7_init_2 := dk_seg dksX7_init_1 23 rfl rfl
theorem dksX7_init_3 : cX7_init.data.toList.drop 70 = dktX7_init_3 := dk_seg dksX7_init_2 24 rfl rfl
theorem dksX7_init_4 : cX7_init.data.toList.drop 94 = dktX7_init_4 := dk_seg dksX7_init_3 24 rfl rfl
theorem dksX7_init_5 : cX7_init.data.toList.drop 116 = dktX7_init_5 := dk_seg dksX7_init_4 22 rfl rfl
theorem dksX7_init_6 : cX7_init.data.toList.drop 140 = dktX7_init_6 := dk_seg dksX7_init_5 24 rfl rfl
theorem dX7_init_0 : decode cX7_init 0 = .ok (.aload_n 0, 1) := dk_42 (dk_at dksX7_init_0 0 rfl rfl)
theorem dX7_init_1 : decode cX7_init 1 = .ok (.invokespecial 3, 3) := dk_183 0 3 (dk_at dksX7_init_0 1 rfl rfl)
theorem dX7_init_4 : decode cX7_init 4 = .ok (.aload_n 0, 1) := dk_42 (dk_at dksX7_init_0 4 rfl rfl)
theorem dX7_init_5 : decode cX7_init 5 = .ok (.iconst (-1), 1) := dk_2 (dk_at dksX7_init_0 5 rfl rfl)
theorem dX7_init_6 : decode cX7_init 6 = .ok (.putfield 9, 3) := dk_181 0 9 (dk_at dksX7_init_0 6 rfl rfl)
theorem dX7_init_9 : decode cX7_init 9 = .ok (.aload_n 0, 1) := dk_42 (dk_at dksX7_init_0 9 rfl rfl)
theorem dX7_init_10 : decode cX7_init 10 = .ok (.sipush 1200, 3) := dk_17 4 176 (dk_at dksX7_init_0 10 rfl rfl)
theorem dX7_init_13 : decode cX7_init 13 = .ok (.newarray .byte, 2) := dk_188_8 (dk_at dksX7_init_0 13 rfl rfl)
theorem dX7_init_15 : decode cX7_init 15 = .ok (.putfield 13, 3) := dk_181 0 13 (dk_at dksX7_init_0 15 rfl rfl)
theorem dX7_init_18 : decode cX7_init 18 = .ok (.aload_n 0, 1) := dk_42 (dk_at dksX7_init_0 18 rfl rfl)
theorem dX7_init_19 : decode cX7_init 19 = .ok (.bipush 8, 2) := dk_16 8 (dk_at dksX7_init_0 19 rfl rfl)
theorem dX7_init_21 : decode cX7_init 21 = .ok (.newarray .int, 2) := dk_188_10 (dk_at dksX7_init_0 21 rfl rfl)
theorem dX7_init_23 : decode cX7_init 23 = .ok (.putfield 17, 3) := dk_181 0 17 (dk_at dksX7_init_1 0 rfl rfl)
theorem dX7_init_26 : decode cX7_init 26 = .ok (.aload_n 0, 1) := dk_42 (dk_at dksX7_init_1 3 rfl rfl)
theorem dX7_init_27 : decode cX7_init 27 = .ok (.bipush 18, 2) := dk_16 18 (dk_at dksX7_init_1 4 rfl rfl)
theorem dX7_init_29 : decode cX7_init 29 = .ok (.newarray .int, 2) := dk_188_10 (dk_at dksX7_init_1 6 rfl rfl)
theorem dX7_init_31 : decode cX7_init 31 = .ok (.putfield 21, 3) := dk_181 0 21 (dk_at dksX7_init_1 8 rfl rfl)
theorem dX7_init_34 : decode cX7_init 34 = .ok (.aload_n 0, 1) := dk_42 (dk_at dksX7_init_1 11 rfl rfl)
theorem dX7_init_35 : decode cX7_init 35 = .ok (.sipush 288, 3) := dk_17 1 32 (dk_at dksX7_init_1 12 rfl rfl)
theorem dX7_init_38 : decode cX7_init 38 = .ok (.newarray .int, 2) := dk_188_10 (dk_at dksX7_init_1 15 rfl rfl)
theorem dX7_init_40 : decode cX7_init 40 = .ok (.putfield 24, 3) := dk_181 0 24 (dk_at dksX7_init_1 17 rfl rfl)
theorem dX7_init_43 : decode cX7_init 43 = .ok (.aload_n 0, 1) := dk_42 (dk_at dksX7_init_1 20 rfl rfl)
theorem dX7_init_44 : decode cX7_init 44 = .ok (.bipush 54, 2) := dk_16 54 (dk_at dksX7_init_1 21 rfl rfl)
theorem dX7_init_46 : decode cX7_init 46 = .ok (.newarray .int, 2) := dk_188_10 (dk_at dksX7_init_2 0 rfl rfl)
theorem dX7_init_48 : decode cX7_init 48 = .ok (.putfield 27, 3) := dk_181 0 27 (dk_at dksX7_init_2 2 rfl rfl)
theorem dX7_init_51 : decode cX7_init 51 = .ok (.aload_n 0, 1) := dk_42 (dk_at dksX7_init_2 5 rfl rfl)
theorem dX7_init_52 : decode cX7_init 52 = .ok (.bipush 72, 2) := dk_16 72 (dk_at dksX7_init_2 6 rfl rfl)
theorem dX7_init_54 : decode cX7_init 54 = .ok (.newarray .int, 2) := dk_188_10 (dk_at dksX7_init_2 8 rfl rfl)
theorem dX7_init_56 : decode cX7_init 56 = .ok (.putfield 30, 3) := dk_181 0 30 (dk_at dksX7_init_2 10 rfl rfl)
theorem dX7_init_59 : decode cX7_init 59 = .ok (.aload_n 0, 1) := dk_42 (dk_at dksX7_init_2 13 rfl rfl)
theorem dX7_init_60 : decode cX7_init 60 = .ok (.bipush 72, 2) := dk_16 72 (dk_at dksX7_init_2 14 rfl rfl)
theorem dX7_init_62 : decode cX7_init 62 = .ok (.newarray .int, 2) := dk_188_10 (dk_at dksX7_init_2 16 rfl rfl)
theorem dX7_init_64 : decode cX7_init 64 = .ok (.putfield 33, 3) := dk_181 0 33 (dk_at dksX7_init_2 18 rfl rfl)
theorem dX7_init_67 : decode cX7_init 67 = .ok (.aload_n 0, 1) := dk_42 (dk_at dksX7_init_2 21 rfl rfl)
theorem dX7_init_68 : decode cX7_init 68 = .ok (.bipush 72, 2) := dk_16 72 (dk_at dksX7_init_2 22 rfl rfl)
theorem dX7_init_70 : decode cX7_init 70 = .ok (.newarray .int, 2) := dk_188_10 (dk_at dksX7_init_3 0 rfl rfl)
theorem dX7_init_72 : decode cX7_init 72 = .ok (.putfield 36, 3) := dk_181 0 36 (dk_at dksX7_init_3 2 rfl rfl)
theorem dX7_init_75 : decode cX7_init 75 = .ok (.aload_n 0, 1) := dk_42 (dk_at dksX7_init_3 5 rfl rfl)
theorem dX7_init_76 : decode cX7_init 76 = .ok (.bipush 32, 2) := dk_16 32 (dk_at dksX7_init_3 6 rfl rfl)
theorem dX7_init_78 : decode cX7_init 78 = .ok (.newarray .int, 2) := dk_188_10 (dk_at dksX7_init_3 8 rfl rfl)
theorem dX7_init_80 : decode cX7_init 80 = .ok (.putfield 39, 3) := dk_181 0 39 (dk_at dksX7_init_3 10 rfl rfl)
theorem dX7_init_83 : decode cX7_init 83 = .ok (.aload_n 0, 1) := dk_42 (dk_at dksX7_init_3 13 rfl rfl)
theorem dX7_init_84 : decode cX7_init 84 = .ok (.bipush 6, 2) := dk_16 6 (dk_at dksX7_init_3 14 rfl rfl)
theorem dX7_init_86 : decode cX7_init 86 = .ok (.newarray .int, 2) := dk_188_10 (dk_at dksX7_init_3 16 rfl rfl)
theorem dX7_init_88 : decode cX7_init 88 = .ok (.putfield 42, 3) := dk_181 0 42 (dk_at dksX7_init_3 18 rfl rfl)
theorem dX7_init_91 : decode cX7_init 91 = .ok (.aload_n 0, 1) := dk_42 (dk_at dksX7_init_3 21 rfl rfl)
theorem dX7_init_92 : decode cX7_init 92 = .ok (.bipush 6, 2) := dk_16 6 (dk_at dksX7_init_3 22 rfl rfl)
theorem dX7_init_94 : decode cX7_init 94 = .ok (.newarray .int, 2) := dk_188_10 (dk_at dksX7_init_4 0 rfl rfl)
theorem dX7_init_96 : decode cX7_init 96 = .ok (.putfield 45, 3) := dk_181 0 45 (dk_at dksX7_init_4 2 rfl rfl)
theorem dX7_init_99 : decode cX7_init 99 = .ok (.aload_n 0, 1) := dk_42 (dk_at dksX7_init_4 5 rfl rfl)
theorem dX7_init_100 : decode cX7_init 100 = .ok (.bipush 81, 2) := dk_16 81 (dk_at dksX7_init_4 6 rfl rfl)
theorem dX7_init_102 : decode cX7_init 102 = .ok (.newarray .int, 2) := dk_188_10 (dk_at dksX7_init_4 8 rfl rfl)
theorem dX7_init_104 : decode cX7_init 104 = .ok (.putfield 48, 3) := dk_181 0 48 (dk_at dksX7_init_4 10 rfl rfl)
theorem dX7_init_107 : decode cX7_init 107 = .ok (.aload_n 0, 1) := dk_42 (dk_at dksX7_init_4 13 rfl rfl)
theorem dX7_init_108 : decode cX7_init 108 = .ok (.bipush 81, 2) := dk_16 81 (dk_at dksX7_init_4 14 rfl rfl)
theorem dX7_init_110 : decode cX7_init 110 = .ok (.newarray .int, 2) := dk_188_10 (dk_at dksX7_init_4 16 rfl rfl)
theorem dX7_init_112 : decode cX7_init 112 = .ok (.putfield 51, 3) := dk_181 0 51 (dk_at dksX7_init_4 18 rfl rfl)
theorem dX7_init_115 : decode cX7_init 115 = .ok (.aload_n 0, 1) := dk_42 (dk_at dksX7_init_4 21 rfl rfl)
theorem dX7_init_116 : decode cX7_init 116 = .ok (.sipush 5832, 3) := dk_17 22 200 (dk_at dksX7_init_5 0 rfl rfl)
theorem dX7_init_119 : decode cX7_init 119 = .ok (.newarray .int, 2) := dk_188_10 (dk_at dksX7_init_5 3 rfl rfl)
theorem dX7_init_121 : decode cX7_init 121 = .ok (.putfield 54, 3) := dk_181 0 54 (dk_at dksX7_init_5 5 rfl rfl)
theorem dX7_init_124 : decode cX7_init 124 = .ok (.aload_n 0, 1) := dk_42 (dk_at dksX7_init_5 8 rfl rfl)
theorem dX7_init_125 : decode cX7_init 125 = .ok (.bipush 8, 2) := dk_16 8 (dk_at dksX7_init_5 9 rfl rfl)
theorem dX7_init_127 : decode cX7_init 127 = .ok (.newarray .int, 2) := dk_188_10 (dk_at dksX7_init_5 11 rfl rfl)
theorem dX7_init_129 : decode cX7_init 129 = .ok (.putfield 57, 3) := dk_181 0 57 (dk_at dksX7_init_5 13 rfl rfl)
theorem dX7_init_132 : decode cX7_init 132 = .ok (.aload_n 0, 1) := dk_42 (dk_at dksX7_init_5 16 rfl rfl)
theorem dX7_init_133 : decode cX7_init 133 = .ok (.bipush 6, 2) := dk_16 6 (dk_at dksX7_init_5 17 rfl rfl)
theorem dX7_init_135 : decode cX7_init 135 = .ok (.newarray .int, 2) := dk_188_10 (dk_at dksX7_init_5 19 rfl rfl)
theorem dX7_init_137 : decode cX7_init 137 = .ok (.putfield 60, 3) := dk_181 0 60 (dk_at dksX7_init_5 21 rfl rfl)
theorem dX7_init_140 : decode cX7_init 140 = .ok (.aload_n 0, 1) := dk_42 (dk_at dksX7_init_6 0 rfl rfl)
theorem dX7_init_141 : decode cX7_init 141 = .ok (.bipush 6, 2) := dk_16 6 (dk_at dksX7_init_6 1 rfl rfl)
theorem dX7_init_143 : decode cX7_init 143 = .ok (.newarray .int, 2) := dk_188_10 (dk_at dksX7_init_6 3 rfl rfl)
theorem dX7_init_145 : decode cX7_init 145 = .ok (.putfield 63, 3) := dk_181 0 63 (dk_at dksX7_init_6 5 rfl rfl)
theorem dX7_init_148 : decode cX7_init 148 = .ok (.return_, 1) := dk_177 (dk_at dksX7_init_6 8 rfl rfl)
def dkwX1_bytes_1 : List UInt8 := [180, 0, 83, 4, 96, 181, 0, 83, 132, 2, 248, 167, 255, 226, 177]
abbrev dktX1_bytes_1 : List UInt8 := dkwX1_bytes_1 ++ []
def dkwX1_bytes_0 : List UInt8 := [16, 24, 61, 28, 155, 0, 32, 42, 180, 0, 13, 42, 180, 0, 83, 27, 28, 122, 145, 84, 42, 89]
abbrev dktX1_bytes_0 : List UInt8 := dkwX1_bytes_0 ++ dktX1_bytes_1
theorem dksX1_bytes_0 : cX1_bytes.data.toList.drop 0 = dktX1_bytes_0 := by decide +kernel
theorem dksX1_bytes_1 : cX1_bytes.data.toList.drop 22 = dktX1_bytes_1 := dk_seg dksX1_bytes_0 22 rfl rfl
theorem dX1_bytes_0 : decode cX1_bytes 0 = .ok (.bipush 24, 2) := dk_16 24 (dk_at dksX1_bytes_0 0 rfl rfl)
theorem dX1_bytes_2 : decode cX1_bytes 2 = .ok (.istore_n 2, 1) := dk_61 (dk_at dksX1_bytes_0 2 rfl rfl)
theorem dX1_bytes_3 : decode cX1_bytes 3 = .ok (.iload_n 2, 1) := dk_28 (dk_at dksX1_bytes_0 3 rfl rfl)
theorem dX1_bytes_4 : decode cX1_bytes 4 = .ok (.ifCond .lt 32, 3) := dk_155 0 32 (dk_at dksX1_bytes_0 4 rfl rfl)
theorem dX1_bytes_7 : decode cX1_bytes 7 = .ok (.aload_n 0, 1) := dk_42 (dk_at dksX1_bytes_0 7 rfl rfl)
theorem dX1_bytes_8 : decode cX1_bytes 8 = .ok (.getfield 13, 3) := dk_180 0 13 (dk_at dksX1_bytes_0 8 rfl rfl)
theorem dX1_bytes_11 : decode cX1_bytes 11 = .ok (.aload_n 0, 1) := dk_42 (dk_at dksX1_bytes_0 11 rfl rfl)
theorem dX1_bytes_12 : decode cX1_bytes 12 = .ok (.getfield 83, 3) := dk_180 0 83 (dk_at dksX1_bytes_0 12 rfl rfl)
theorem dX1_bytes_15 : decode cX1_bytes 15 = .ok (.iload_n 1, 1) := dk_27 (dk_at dksX1_bytes_0 15 rfl rfl)
theorem dX1_bytes_16 : decode cX1_bytes 16 = .ok (.iload_n 2, 1) := dk_28 (dk_at dksX1_bytes_0 16 rfl rfl)
theorem dX1_bytes_17 : decode cX1_bytes 17 = .ok (.ishr, 1) := dk_122 (dk_at dksX1_bytes_0 17 rfl rfl)
theorem dX1_bytes_18 : decode cX1_bytes 18 = .ok (.i2b, 1) := dk_145 (dk_at dksX1_bytes_0 18 rfl rfl)
theorem dX1_bytes_19 : decode cX1_bytes 19 = .ok (.bastore, 1) := dk_84 (dk_at dksX1_bytes_0 19 rfl rfl)
theorem dX1_bytes_20 : decode cX1_bytes 20 = .ok (.aload_n 0, 1) := dk_42 (dk_at dksX1_bytes_0 20 rfl rfl)
theorem dX1_bytes_21 : decode cX1_bytes 21 = .ok (.dup, 1) := dk_89 (dk_at dksX1_bytes_0 21 rfl rfl)
theorem dX1_bytes_22 : decode cX1_bytes 22 = .ok (.getfield 83, 3) := dk_180 0 83 (dk_at dksX1_bytes_1 0 rfl rfl)
theorem dX1_bytes_25 : decode cX1_bytes 25 = .ok (.iconst 1, 1) := dk_4 (dk_at dksX1_bytes_1 3 rfl rfl)
theorem dX1_bytes_26 : decode cX1_bytes 26 = .ok (.iadd, 1) := dk_96 (dk_at dksX1_bytes_1 4 rfl rfl)
theorem dX1_bytes_27 : decode cX1_bytes 27 = .ok (.putfield 83, 3) := dk_181 0 83 (dk_at dksX1_bytes_1 5 rfl rfl)
theorem dX1_bytes_30 : decode cX1_bytes 30 = .ok (.iinc 2 (-8), 3) := dk_132 2 248 (dk_at dksX1_bytes_1 8 rfl rfl)
theorem dX1_bytes_33 : decode cX1_bytes 33 = .ok (.goto (-30), 3) := dk_167 255 226 (dk_at dksX1_bytes_1 11 rfl rfl)
theorem dX1_bytes_36 : decode cX1_bytes 36 = .ok (.return_, 1) := dk_177 (dk_at dksX1_bytes_1 14 rfl rfl)
def dkwX1_feed_2 : List UInt8 := [172]
abbrev dktX1_feed_2 : List UInt8 := dkwX1_feed_2 ++ []
def dkwX1_feed_1 : List UInt8 := [182, 0, 86, 42, 29, 182, 0, 86, 42, 21, 4, 182, 0, 86, 42, 21, 5, 182, 0, 86, 42, 180, 0, 83]
abbrev dktX1_feed_1 : List UInt8 := dkwX1_feed_1 ++ dktX1_feed_2
def dkwX1_feed_0 : List UInt8 := [42, 180, 0, 83, 16, 20, 96, 17, 4, 176, 164, 0, 5, 2, 172, 42, 27, 182, 0, 86, 42, 28]
abbrev dktX1_feed_0 : List UInt8 := dkwX1_feed_0 ++ dktX1_feed_1
theorem dksX1_feed_0 : cX1_feed.data.toList.drop 0 = dktX1_feed_0 := by decide +kernel
theorem dksX1_feed_1 : cX1_feed.data.toList.drop 22 = dktX1_feed_1 := dk_seg dksX1_feed_0 22 rfl rfl
theorem dksX1_feed_2 : cX1_feed.data.toList.drop 46 = dktX1_feed_2 := dk_seg dksX1_feed_1 24 rfl rfl
theorem dX1_feed_0 : decode cX1_feed 0 = .ok (.aload_n 0, 1) := dk_42 (dk_at dksX1_feed_0 0 rfl rfl)
theorem dX1_feed_1 : decode cX1_feed 1 = .ok (.getfield 83, 3) := dk_180 0 83 (dk_at dksX1_feed_0 1 rfl rfl)
theorem dX1_feed_4 : decode cX1_feed 4 = .ok (.bipush 20, 2) := dk_16 20 (dk_at dksX1_feed_0 4 rfl rfl)
theorem dX1_feed_6 : decode cX1_feed 6 = .ok (.iadd, 1) := dk_96 (dk_at dksX1_feed_0 6 rfl rfl)
theorem dX1_feed_7 : decode cX1_feed 7 = .ok (.sipush 1200, 3) := dk_17 4 176 (dk_at dksX1_feed_0 7 rfl rfl)
theorem dX1_feed_10 : decode cX1_feed 10 = .ok (.if_icmp .le 5, 3) := dk_164 0 5 (dk_at dksX1_feed_0 10 rfl rfl)
theorem dX1_feed_13 : decode cX1_feed 13 = .ok (.iconst (-1), 1) := dk_2 (dk_at dksX1_feed_0 13 rfl rfl)
theorem dX1_feed_14 : decode cX1_feed 14 = .ok (.ireturn, 1) := dk_172 (dk_at dksX1_feed_0 14 rfl rfl)
theorem dX1_feed_15 : decode cX1_feed 15 = .ok (.aload_n 0, 1) := dk_42 (dk_at dksX1_feed_0 15 rfl rfl)
theorem dX1_feed_16 : decode cX1_feed 16 = .ok (.iload_n 1, 1) := dk_27 (dk_at dksX1_feed_0 16 rfl rfl)
theorem dX1_feed_17 : decode cX1_feed 17 = .ok (.invokevirtual 86, 3) := dk_182 0 86 (dk_at dksX1_feed_0 17 rfl rfl)
theorem dX1_feed_20 : decode cX1_feed 20 = .ok (.aload_n 0, 1) := dk_42 (dk_at dksX1_feed_0 20 rfl rfl)
theorem dX1_feed_21 : decode cX1_feed 21 = .ok (.iload_n 2, 1) := dk_28 (dk_at dksX1_feed_0 21 rfl rfl)
theorem dX1_feed_22 : decode cX1_feed 22 = .ok (.invokevirtual 86, 3) := dk_182 0 86 (dk_at dksX1_feed_1 0 rfl rfl)
theorem dX1_feed_25 : decode cX1_feed 25 = .ok (.aload_n 0, 1) := dk_42 (dk_at dksX1_feed_1 3 rfl rfl)
theorem dX1_feed_26 : decode cX1_feed 26 = .ok (.iload_n 3, 1) := dk_29 (dk_at dksX1_feed_1 4 rfl rfl)
theorem dX1_feed_27 : decode cX1_feed 27 = .ok (.invokevirtual 86, 3) := dk_182 0 86 (dk_at dksX1_feed_1 5 rfl rfl)
theorem dX1_feed_30 : decode cX1_feed 30 = .ok (.aload_n 0, 1) := dk_42 (dk_at dksX1_feed_1 8 rfl rfl)
theorem dX1_feed_31 : decode cX1_feed 31 = .ok (.iload 4, 2) := dk_21 4 (dk_at dksX1_feed_1 9 rfl rfl)
theorem dX1_feed_33 : decode cX1_feed 33 = .ok (.invokevirtual 86, 3) := dk_182 0 86 (dk_at dksX1_feed_1 11 rfl rfl)
theorem dX1_feed_36 : decode cX1_feed 36 = .ok (.aload_n 0, 1) := dk_42 (dk_at dksX1_feed_1 14 rfl rfl)
theorem dX1_feed_37 : decode cX1_feed 37 = .ok (.iload 5, 2) := dk_21 5 (dk_at dksX1_feed_1 15 rfl rfl)
theorem dX1_feed_39 : decode cX1_feed 39 = .ok (.invokevirtual 86, 3) := dk_182 0 86 (dk_at dksX1_feed_1 17 rfl rfl)
theorem dX1_feed_42 : decode cX1_feed 42 = .ok (.aload_n 0, 1) := dk_42 (dk_at dksX1_feed_1 20 rfl rfl)
theorem dX1_feed_43 : decode cX1_feed 43 = .ok (.getfield 83, 3) := dk_180 0 83 (dk_at dksX1_feed_1 21 rfl rfl)
theorem dX1_feed_46 : decode cX1_feed 46 = .ok (.ireturn, 1) := dk_172 (dk_at dksX1_feed_2 0 rfl rfl)
def dkwX7_feed_5 : List UInt8 := [180, 1, 179, 172]
abbrev dktX7_feed_5 : List UInt8 := dkwX7_feed_5 ++ []
def dkwX7_feed_4 : List UInt8 := [112, 104, 100, 122, 145, 84, 42, 89, 180, 1, 179, 4, 96, 181, 1, 179, 132, 6, 1, 167, 255, 165, 42]
abbrev dktX7_feed_4 : List UInt8 := dkwX7_feed_4 ++ dktX7_feed_5
def dkwX7_feed_3 : List UInt8 := [167, 0, 5, 21, 5, 54, 7, 42, 180, 0, 13, 42, 180, 1, 179, 21, 7, 16, 24, 16, 8, 21, 6, 7]
abbrev dktX7_feed_3 : List UInt8 := dkwX7_feed_3 ++ dktX7_feed_4
def dkwX7_feed_2 : List UInt8 := [28, 167, 0, 28, 21, 6, 16, 12, 162, 0, 7, 29, 167, 0, 17, 21, 6, 16, 16, 162, 0, 8, 21, 4]
abbrev dktX7_feed_2 : List UInt8 := dkwX7_feed_2 ++ dktX7_feed_3
def dkwX7_feed_1 : List UInt8 := [21, 6, 16, 20, 162, 0, 90, 21, 6, 7, 162, 0, 7, 27, 167, 0, 39, 21, 6, 16, 8, 162, 0, 7]
abbrev dktX7_feed_1 : List UInt8 := dkwX7_feed_1 ++ dktX7_feed_2
def dkwX7_feed_0 : List UInt8 := [42, 3, 181, 0, 66, 42, 180, 1, 179, 16, 20, 96, 17, 4, 176, 164, 0, 5, 2, 172, 3, 54, 6]
abbrev dktX7_feed_0 : List UInt8 := dkwX7_feed_0 ++ dktX7_feed_1
theorem dksX7_feed_0 : cX7_feed.data.toList.drop 0 = dktX7_feed_0 := by decide +kernel
theorem dksX7_feed_1 : cX7_feed.data.toList.drop 23 = dktX7_feed_1 := dk_seg dksX7_feed_0 23 rfl rfl
theorem dksX7_feed_2 : cX7_feed.data.toList.drop 47 = dktX7_feed_2 := dk_seg dksX7_feed_1 24 rfl rfl
theorem dksX7_feed_3 : cX7_feed.data.toList.drop 71 = dktX7_feed_3 := dk_seg dksX7_feed_2 24 rfl rfl
theorem dksX7_feed_4 : cX7_feed.data.toList.drop 95 = dktX7_feed_4 := dk_seg dksX7_feed_3 24 rfl rfl
theorem dksX7_feed_5 : cX7_feed.data.toList.drop 118 = dktX7_feed_5 := dk_seg dksX7_feed_4 23 rfl rfl
theorem dX7_feed_0 : decode cX7_feed 0 = .ok (.aload_n 0, 1) := dk_42 (dk_at dksX7_feed_0 0 rfl rfl)
theorem dX7_feed_1 : decode cX7_feed 1 = .ok (.iconst 0, 1) := dk_3 (dk_at dksX7_feed_0 1 rfl rfl)
theorem dX7_feed_2 : decode cX7_feed 2 = .ok (.putfield 66, 3) := dk_181 0 66 (dk_at dksX7_feed_0 2 rfl rfl)
theorem dX7_feed_5 : decode cX7_feed 5 = .ok (.aload_n 0, 1) := dk_42 (dk_at dksX7_feed_0 5 rfl rfl)
theorem dX7_feed_6 : decode cX7_feed 6 = .ok (.getfield 435, 3) := dk_180 1 179 (dk_at dksX7_feed_0 6 rfl rfl)
theorem dX7_feed_9 : decode cX7_feed 9 = .ok (.bipush 20, 2) := dk_16 20 (dk_at dksX7_feed_0 9 rfl rfl)
theorem dX7_feed_11 : decode cX7_feed 11 = .ok (.iadd, 1) := dk_96 (dk_at dksX7_feed_0 11 rfl rfl)
theorem dX7_feed_12 : decode cX7_feed 12 = .ok (.sipush 1200, 3) := dk_17 4 176 (dk_at dksX7_feed_0 12 rfl rfl)
theorem dX7_feed_15 : decode cX7_feed 15 = .ok (.if_icmp .le 5, 3) := dk_164 0 5 (dk_at dksX7_feed_0 15 rfl rfl)
theorem dX7_feed_18 : decode cX7_feed 18 = .ok (.iconst (-1), 1) := dk_2 (dk_at dksX7_feed_0 18 rfl rfl)
theorem dX7_feed_19 : decode cX7_feed 19 = .ok (.ireturn, 1) := dk_172 (dk_at dksX7_feed_0 19 rfl rfl)
theorem dX7_feed_20 : decode cX7_feed 20 = .ok (.iconst 0, 1) := dk_3 (dk_at dksX7_feed_0 20 rfl rfl)
theorem dX7_feed_21 : decode cX7_feed 21 = .ok (.istore 6, 2) := dk_54 6 (dk_at dksX7_feed_0 21 rfl rfl)
theorem dX7_feed_23 : decode cX7_feed 23 = .ok (.iload 6, 2) := dk_21 6 (dk_at dksX7_feed_1 0 rfl rfl)
theorem dX7_feed_25 : decode cX7_feed 25 = .ok (.bipush 20, 2) := dk_16 20 (dk_at dksX7_feed_1 2 rfl rfl)
theorem dX7_feed_27 : decode cX7_feed 27 = .ok (.if_icmp .ge 90, 3) := dk_162 0 90 (dk_at dksX7_feed_1 4 rfl rfl)
theorem dX7_feed_30 : decode cX7_feed 30 = .ok (.iload 6, 2) := dk_21 6 (dk_at dksX7_feed_1 7 rfl rfl)
theorem dX7_feed_32 : decode cX7_feed 32 = .ok (.iconst 4, 1) := dk_7 (dk_at dksX7_feed_1 9 rfl rfl)
theorem dX7_feed_33 : decode cX7_feed 33 = .ok (.if_icmp .ge 7, 3) := dk_162 0 7 (dk_at dksX7_feed_1 10 rfl rfl)
theorem dX7_feed_36 : decode cX7_feed 36 = .ok (.iload_n 1, 1) := dk_27 (dk_at dksX7_feed_1 13 rfl rfl)
theorem dX7_feed_37 : decode cX7_feed 37 = .ok (.goto 39, 3) := dk_167 0 39 (dk_at dksX7_feed_1 14 rfl rfl)
theorem dX7_feed_40 : decode cX7_feed 40 = .ok (.iload 6, 2) := dk_21 6 (dk_at dksX7_feed_1 17 rfl rfl)
theorem dX7_feed_42 : decode cX7_feed 42 = .ok (.bipush 8, 2) := dk_16 8 (dk_at dksX7_feed_1 19 rfl rfl)
theorem dX7_feed_44 : decode cX7_feed 44 = .ok (.if_icmp .ge 7, 3) := dk_162 0 7 (dk_at dksX7_feed_1 21 rfl rfl)
theorem dX7_feed_47 : decode cX7_feed 47 = .ok (.iload_n 2, 1) := dk_28 (dk_at dksX7_feed_2 0 rfl rfl)
theorem dX7_feed_48 : decode cX7_feed 48 = .ok (.goto 28, 3) := dk_167 0 28 (dk_at dksX7_feed_2 1 rfl rfl)
theorem dX7_feed_51 : decode cX7_feed 51 = .ok (.iload 6, 2) := dk_21 6 (dk_at dksX7_feed_2 4 rfl rfl)
theorem dX7_feed_53 : decode cX7_feed 53 = .ok (.bipush 12, 2) := dk_16 12 (dk_at dksX7_feed_2 6 rfl rfl)
theorem dX7_feed_55 : decode cX7_feed 55 = .ok (.if_icmp .ge 7, 3) := dk_162 0 7 (dk_at dksX7_feed_2 8 rfl rfl)
theorem dX7_feed_58 : decode cX7_feed 58 = .ok (.iload_n 3, 1) := dk_29 (dk_at dksX7_feed_2 11 rfl rfl)
theorem dX7_feed_59 : decode cX7_feed 59 = .ok (.goto 17, 3) := dk_167 0 17 (dk_at dksX7_feed_2 12 rfl rfl)
theorem dX7_feed_62 : decode cX7_feed 62 = .ok (.iload 6, 2) := dk_21 6 (dk_at dksX7_feed_2 15 rfl rfl)
theorem dX7_feed_64 : decode cX7_feed 64 = .ok (.bipush 16, 2) := dk_16 16 (dk_at dksX7_feed_2 17 rfl rfl)
theorem dX7_feed_66 : decode cX7_feed 66 = .ok (.if_icmp .ge 8, 3) := dk_162 0 8 (dk_at dksX7_feed_2 19 rfl rfl)
theorem dX7_feed_69 : decode cX7_feed 69 = .ok (.iload 4, 2) := dk_21 4 (dk_at dksX7_feed_2 22 rfl rfl)
theorem dX7_feed_71 : decode cX7_feed 71 = .ok (.goto 5, 3) := dk_167 0 5 (dk_at dksX7_feed_3 0 rfl rfl)
theorem dX7_feed_74 : decode cX7_feed 74 = .ok (.iload 5, 2) := dk_21 5 (dk_at dksX7_feed_3 3 rfl rfl)
theorem dX7_feed_76 : decode cX7_feed 76 = .ok (.istore 7, 2) := dk_54 7 (dk_at dksX7_feed_3 5 rfl rfl)
theorem dX7_feed_78 : decode cX7_feed 78 = .ok (.aload_n 0, 1) := dk_42 (dk_at dksX7_feed_3 7 rfl rfl)
theorem dX7_feed_79 : decode cX7_feed 79 = .ok (.getfield 13, 3) := dk_180 0 13 (dk_at dksX7_feed_3 8 rfl rfl)
theorem dX7_feed_82 : decode cX7_feed 82 = .ok (.aload_n 0, 1) := dk_42 (dk_at dksX7_feed_3 11 rfl rfl)
theorem dX7_feed_83 : decode cX7_feed 83 = .ok (.getfield 435, 3) := dk_180 1 179 (dk_at dksX7_feed_3 12 rfl rfl)
theorem dX7_feed_86 : decode cX7_feed 86 = .ok (.iload 7, 2) := dk_21 7 (dk_at dksX7_feed_3 15 rfl rfl)
theorem dX7_feed_88 : decode cX7_feed 88 = .ok (.bipush 24, 2) := dk_16 24 (dk_at dksX7_feed_3 17 rfl rfl)
theorem dX7_feed_90 : decode cX7_feed 90 = .ok (.bipush 8, 2) := dk_16 8 (dk_at dksX7_feed_3 19 rfl rfl)
theorem dX7_feed_92 : decode cX7_feed 92 = .ok (.iload 6, 2) := dk_21 6 (dk_at dksX7_feed_3 21 rfl rfl)
theorem dX7_feed_94 : decode cX7_feed 94 = .ok (.iconst 4, 1) := dk_7 (dk_at dksX7_feed_3 23 rfl rfl)
theorem dX7_feed_95 : decode cX7_feed 95 = .ok (.irem, 1) := dk_112 (dk_at dksX7_feed_4 0 rfl rfl)
theorem dX7_feed_96 : decode cX7_feed 96 = .ok (.imul, 1) := dk_104 (dk_at dksX7_feed_4 1 rfl rfl)
theorem dX7_feed_97 : decode cX7_feed 97 = .ok (.isub, 1) := dk_100 (dk_at dksX7_feed_4 2 rfl rfl)
theorem dX7_feed_98 : decode cX7_feed 98 = .ok (.ishr, 1) := dk_122 (dk_at dksX7_feed_4 3 rfl rfl)
theorem dX7_feed_99 : decode cX7_feed 99 = .ok (.i2b, 1) := dk_145 (dk_at dksX7_feed_4 4 rfl rfl)
theorem dX7_feed_100 : decode cX7_feed 100 = .ok (.bastore, 1) := dk_84 (dk_at dksX7_feed_4 5 rfl rfl)
theorem dX7_feed_101 : decode cX7_feed 101 = .ok (.aload_n 0, 1) := dk_42 (dk_at dksX7_feed_4 6 rfl rfl)
theorem dX7_feed_102 : decode cX7_feed 102 = .ok (.dup, 1) := dk_89 (dk_at dksX7_feed_4 7 rfl rfl)
theorem dX7_feed_103 : decode cX7_feed 103 = .ok (.getfield 435, 3) := dk_180 1 179 (dk_at dksX7_feed_4 8 rfl rfl)
theorem dX7_feed_106 : decode cX7_feed 106 = .ok (.iconst 1, 1) := dk_4 (dk_at dksX7_feed_4 11 rfl rfl)
theorem dX7_feed_107 : decode cX7_feed 107 = .ok (.iadd, 1) := dk_96 (dk_at dksX7_feed_4 12 rfl rfl)
theorem dX7_feed_108 : decode cX7_feed 108 = .ok (.putfield 435, 3) := dk_181 1 179 (dk_at dksX7_feed_4 13 rfl rfl)
theorem dX7_feed_111 : decode cX7_feed 111 = .ok (.iinc 6 1, 3) := dk_132 6 1 (dk_at dksX7_feed_4 16 rfl rfl)
theorem dX7_feed_114 : decode cX7_feed 114 = .ok (.goto (-91), 3) := dk_167 255 165 (dk_at dksX7_feed_4 19 rfl rfl)
theorem dX7_feed_117 : decode cX7_feed 117 = .ok (.aload_n 0, 1) := dk_42 (dk_at dksX7_feed_4 22 rfl rfl)
theorem dX7_feed_118 : decode cX7_feed 118 = .ok (.getfield 435, 3) := dk_180 1 179 (dk_at dksX7_feed_5 0 rfl rfl)
theorem dX7_feed_121 : decode cX7_feed 121 = .ok (.ireturn, 1) := dk_172 (dk_at dksX7_feed_5 3 rfl rfl)
def dkwX1_anew_0 : List UInt8 := [42, 3, 181, 0, 77, 42, 2, 181, 0, 26, 177]
abbrev dktX1_anew_0 : List UInt8 := dkwX1_anew_0 ++ []
theorem dksX1_anew_0 : cX1_anew.data.toList.drop 0 = dktX1_anew_0 := by decide +kernel
theorem dX1_anew_0 : decode cX1_anew 0 = .ok (.aload_n 0, 1) := dk_42 (dk_at dksX1_anew_0 0 rfl rfl)
theorem dX1_anew_1 : decode cX1_anew 1 = .ok (.iconst 0, 1) := dk_3 (dk_at dksX1_anew_0 1 rfl rfl)
theorem dX1_anew_2 : decode cX1_anew 2 = .ok (.putfield 77, 3) := dk_181 0 77 (dk_at dksX1_anew_0 2 rfl rfl)
theorem dX1_anew_5 : decode cX1_anew 5 = .ok (.aload_n 0, 1) := dk_42 (dk_at dksX1_anew_0 5 rfl rfl)
theorem dX1_anew_6 : decode cX1_anew 6 = .ok (.iconst (-1), 1) := dk_2 (dk_at dksX1_anew_0 6 rfl rfl)
theorem dX1_anew_7 : decode cX1_anew 7 = .ok (.putfield 26, 3) := dk_181 0 26 (dk_at dksX1_anew_0 7 rfl rfl)
theorem dX1_anew_10 : decode cX1_anew 10 = .ok (.return_, 1) := dk_177 (dk_at dksX1_anew_0 10 rfl rfl)
def dkwX1_in_0 : List UInt8 := [26, 27, 161, 0, 12, 26, 28, 163, 0, 7, 4, 167, 0, 4, 3, 172]
abbrev dktX1_in_0 : List UInt8 := dkwX1_in_0 ++ []
theorem dksX1_in_0 : cX1_in.data.toList.drop 0 = dktX1_in_0 := by decide +kernel
theorem dX1_in_0 : decode cX1_in 0 = .ok (.iload_n 0, 1) := dk_26 (dk_at dksX1_in_0 0 rfl rfl)
theorem dX1_in_1 : decode cX1_in 1 = .ok (.iload_n 1, 1) := dk_27 (dk_at dksX1_in_0 1 rfl rfl)
theorem dX1_in_2 : decode cX1_in 2 = .ok (.if_icmp .lt 12, 3) := dk_161 0 12 (dk_at dksX1_in_0 2 rfl rfl)
theorem dX1_in_5 : decode cX1_in 5 = .ok (.iload_n 0, 1) := dk_26 (dk_at dksX1_in_0 5 rfl rfl)
theorem dX1_in_6 : decode cX1_in 6 = .ok (.iload_n 2, 1) := dk_28 (dk_at dksX1_in_0 6 rfl rfl)
theorem dX1_in_7 : decode cX1_in 7 = .ok (.if_icmp .gt 7, 3) := dk_163 0 7 (dk_at dksX1_in_0 7 rfl rfl)
theorem dX1_in_10 : decode cX1_in 10 = .ok (.iconst 1, 1) := dk_4 (dk_at dksX1_in_0 10 rfl rfl)
theorem dX1_in_11 : decode cX1_in 11 = .ok (.goto 4, 3) := dk_167 0 4 (dk_at dksX1_in_0 11 rfl rfl)
theorem dX1_in_14 : decode cX1_in 14 = .ok (.iconst 0, 1) := dk_3 (dk_at dksX1_in_0 14 rfl rfl)
theorem dX1_in_15 : decode cX1_in 15 = .ok (.ireturn, 1) := dk_172 (dk_at dksX1_in_0 15 rfl rfl)
def dkwX1_no_0 : List UInt8 := [42, 27, 181, 0, 77, 2, 172]
abbrev dktX1_no_0 : List UInt8 := dkwX1_no_0 ++ []
theorem dksX1_no_0 : cX1_no.data.toList.drop 0 = dktX1_no_0 := by decide +kernel
theorem dX1_no_0 : decode cX1_no 0 = .ok (.aload_n 0, 1) := dk_42 (dk_at dksX1_no_0 0 rfl rfl)
theorem dX1_no_1 : decode cX1_no 1 = .ok (.iload_n 1, 1) := dk_27 (dk_at dksX1_no_0 1 rfl rfl)
theorem dX1_no_2 : decode cX1_no 2 = .ok (.putfield 77, 3) := dk_181 0 77 (dk_at dksX1_no_0 2 rfl rfl)
theorem dX1_no_5 : decode cX1_no 5 = .ok (.iconst (-1), 1) := dk_2 (dk_at dksX1_no_0 5 rfl rfl)
theorem dX1_no_6 : decode cX1_no 6 = .ok (.ireturn, 1) := dk_172 (dk_at dksX1_no_0 6 rfl rfl)
def dkwX8_init_4 : List UInt8 := [181, 0, 62, 177]
abbrev dktX8_init_4 : List UInt8 := dkwX8_init_4 ++ []
def dkwX8_init_3 : List UInt8 := [42, 16, 8, 189, 0, 48, 181, 0, 50, 42, 16, 8, 189, 0, 54, 181, 0, 56, 42, 16, 6, 189, 0, 60]
abbrev dktX8_init_3 : List UInt8 := dkwX8_init_3 ++ dktX8_init_4
def dkwX8_init_2 : List UInt8 := [189, 0, 30, 181, 0, 32, 42, 16, 6, 189, 0, 36, 181, 0, 38, 42, 16, 10, 189, 0, 42, 181, 0, 44]
abbrev dktX8_init_2 : List UInt8 := dkwX8_init_2 ++ dktX8_init_3
def dkwX8_init_1 : List UInt8 := [188, 10, 181, 0, 21, 42, 16, 8, 188, 10, 181, 0, 24, 42, 7, 188, 10, 181, 0, 27, 42, 7]
abbrev dktX8_init_1 : List UInt8 := dkwX8_init_1 ++ dktX8_init_2
def dkwX8_init_0 : List UInt8 := [42, 183, 0, 3, 42, 16, 8, 189, 0, 9, 181, 0, 11, 42, 16, 14, 188, 10, 181, 0, 17, 42, 16, 14]
abbrev dktX8_init_0 : List UInt8 := dkwX8_init_0 ++ dktX8_init_1
theorem dksX8_init_0 : cX8_init.data.toList.drop 0 = dktX8_init_0 := by decide +kernel
theorem dksX8_init_1 : cX8_init.data.toList.drop 24 = dktX8_init_1 := dk_seg dksX8_init_0 24 rfl rfl
theorem dksX8_init_2 : cX8_init.data.toList.drop 46 = dktX8_init_2 := dk_seg dksX8_init_1 22 rfl rfl
theorem dksX8_init_3 : cX8_init.data.toList.drop 70 = dktX8_init_3 := dk_seg dksX8_init_2 24 rfl rfl
theorem dksX8_init_4 : cX8_init.data.toList.drop 94 = dktX8_init_4 := dk_seg dksX8_init_3 24 rfl rfl
theorem dX8_init_0 : decode cX8_init 0 = .ok (.aload_n 0, 1) := dk_42 (dk_at dksX8_init_0 0 rfl rfl)
theorem dX8_init_1 : decode cX8_init 1 = .ok (.invokespecial 3, 3) := dk_183 0 3 (dk_at dksX8_init_0 1 rfl rfl)
theorem dX8_init_4 : decode cX8_init 4 = .ok (.aload_n 0, 1) := dk_42 (dk_at dksX8_init_0 4 rfl rfl)
theorem dX8_init_5 : decode cX8_init 5 = .ok (.bipush 8, 2) := dk_16 8 (dk_at dksX8_init_0 5 rfl rfl)
theorem dX8_init_7 : decode cX8_init 7 = .ok (.anewarray 9, 3) := dk_189 0 9 (dk_at dksX8_init_0 7 rfl rfl)
theorem dX8_init_10 : decode cX8_init 10 = .ok (.putfield 11, 3) := dk_181 0 11 (dk_at dksX8_init_0 10 rfl rfl)
theorem dX8_init_13 : decode cX8_init 13 = .ok (.aload_n 0, 1) := dk_42 (dk_at dksX8_init_0 13 rfl rfl)
theorem dX8_init_14 : decode cX8_init 14 = .ok (.bipush 14, 2) := dk_16 14 (dk_at dksX8_init_0 14 rfl rfl)
theorem dX8_init_16 : decode cX8_init 16 = .ok (.newarray .int, 2) := dk_188_10 (dk_at dksX8_init_0 16 rfl rfl)
theorem dX8_init_18 : decode cX8_init 18 = .ok (.putfield 17, 3) := dk_181 0 17 (dk_at dksX8_init_0 18 rfl rfl)
theorem dX8_init_21 : decode cX8_init 21 = .ok (.aload_n 0, 1) := dk_42 (dk_at dksX8_init_0 21 rfl rfl)
theorem dX8_init_22 : decode cX8_init 22 = .ok (.bipush 14, 2) := dk_16 14 (dk_at dksX8_init_0 22 rfl rfl)
theorem dX8_init_24 : decode cX8_init 24 = .ok (.newarray .int, 2) := dk_188_10 (dk_at dksX8_init_1 0 rfl rfl)
theorem dX8_init_26 : decode cX8_init 26 = .ok (.putfield 21, 3) := dk_181 0 21 (dk_at dksX8_init_1 2 rfl rfl)
theorem dX8_init_29 : decode cX8_init 29 = .ok (.aload_n 0, 1) := dk_42 (dk_at dksX8_init_1 5 rfl rfl)
theorem dX8_init_30 : decode cX8_init 30 = .ok (.bipush 8, 2) := dk_16 8 (dk_at dksX8_init_1 6 rfl rfl)
theorem dX8_init_32 : decode cX8_init 32 = .ok (.newarray .int, 2) := dk_188_10 (dk_at dksX8_init_1 8 rfl rfl)
theorem dX8_init_34 : decode cX8_init 34 = .ok (.putfield 24, 3) := dk_181 0 24 (dk_at dksX8_init_1 10 rfl rfl)
theorem dX8_init_37 : decode cX8_init 37 = .ok (.aload_n 0, 1) := dk_42 (dk_at dksX8_init_1 13 rfl rfl)
theorem dX8_init_38 : decode cX8_init 38 = .ok (.iconst 4, 1) := dk_7 (dk_at dksX8_init_1 14 rfl rfl)
theorem dX8_init_39 : decode cX8_init 39 = .ok (.newarray .int, 2) := dk_188_10 (dk_at dksX8_init_1 15 rfl rfl)
theorem dX8_init_41 : decode cX8_init 41 = .ok (.putfield 27, 3) := dk_181 0 27 (dk_at dksX8_init_1 17 rfl rfl)
theorem dX8_init_44 : decode cX8_init 44 = .ok (.aload_n 0, 1) := dk_42 (dk_at dksX8_init_1 20 rfl rfl)
theorem dX8_init_45 : decode cX8_init 45 = .ok (.iconst 4, 1) := dk_7 (dk_at dksX8_init_1 21 rfl rfl)
theorem dX8_init_46 : decode cX8_init 46 = .ok (.anewarray 30, 3) := dk_189 0 30 (dk_at dksX8_init_2 0 rfl rfl)
theorem dX8_init_49 : decode cX8_init 49 = .ok (.putfield 32, 3) := dk_181 0 32 (dk_at dksX8_init_2 3 rfl rfl)
theorem dX8_init_52 : decode cX8_init 52 = .ok (.aload_n 0, 1) := dk_42 (dk_at dksX8_init_2 6 rfl rfl)
theorem dX8_init_53 : decode cX8_init 53 = .ok (.bipush 6, 2) := dk_16 6 (dk_at dksX8_init_2 7 rfl rfl)
theorem dX8_init_55 : decode cX8_init 55 = .ok (.anewarray 36, 3) := dk_189 0 36 (dk_at dksX8_init_2 9 rfl rfl)
theorem dX8_init_58 : decode cX8_init 58 = .ok (.putfield 38, 3) := dk_181 0 38 (dk_at dksX8_init_2 12 rfl rfl)
theorem dX8_init_61 : decode cX8_init 61 = .ok (.aload_n 0, 1) := dk_42 (dk_at dksX8_init_2 15 rfl rfl)
theorem dX8_init_62 : decode cX8_init 62 = .ok (.bipush 10, 2) := dk_16 10 (dk_at dksX8_init_2 16 rfl rfl)
theorem dX8_init_64 : decode cX8_init 64 = .ok (.anewarray 42, 3) := dk_189 0 42 (dk_at dksX8_init_2 18 rfl rfl)
theorem dX8_init_67 : decode cX8_init 67 = .ok (.putfield 44, 3) := dk_181 0 44 (dk_at dksX8_init_2 21 rfl rfl)
theorem dX8_init_70 : decode cX8_init 70 = .ok (.aload_n 0, 1) := dk_42 (dk_at dksX8_init_3 0 rfl rfl)
theorem dX8_init_71 : decode cX8_init 71 = .ok (.bipush 8, 2) := dk_16 8 (dk_at dksX8_init_3 1 rfl rfl)
theorem dX8_init_73 : decode cX8_init 73 = .ok (.anewarray 48, 3) := dk_189 0 48 (dk_at dksX8_init_3 3 rfl rfl)
theorem dX8_init_76 : decode cX8_init 76 = .ok (.putfield 50, 3) := dk_181 0 50 (dk_at dksX8_init_3 6 rfl rfl)
theorem dX8_init_79 : decode cX8_init 79 = .ok (.aload_n 0, 1) := dk_42 (dk_at dksX8_init_3 9 rfl rfl)
theorem dX8_init_80 : decode cX8_init 80 = .ok (.bipush 8, 2) := dk_16 8 (dk_at dksX8_init_3 10 rfl rfl)
theorem dX8_init_82 : decode cX8_init 82 = .ok (.anewarray 54, 3) := dk_189 0 54 (dk_at dksX8_init_3 12 rfl rfl)
theorem dX8_init_85 : decode cX8_init 85 = .ok (.putfield 56, 3) := dk_181 0 56 (dk_at dksX8_init_3 15 rfl rfl)
theorem dX8_init_88 : decode cX8_init 88 = .ok (.aload_n 0, 1) := dk_42 (dk_at dksX8_init_3 18 rfl rfl)
theorem dX8_init_89 : decode cX8_init 89 = .ok (.bipush 6, 2) := dk_16 6 (dk_at dksX8_init_3 19 rfl rfl)
theorem dX8_init_91 : decode cX8_init 91 = .ok (.anewarray 60, 3) := dk_189 0 60 (dk_at dksX8_init_3 21 rfl rfl)
theorem dX8_init_94 : decode cX8_init 94 = .ok (.putfield 62, 3) := dk_181 0 62 (dk_at dksX8_init_4 0 rfl rfl)
theorem dX8_init_97 : decode cX8_init 97 = .ok (.return_, 1) := dk_177 (dk_at dksX8_init_4 3 rfl rfl)
def dkwX2_see_0 : List UInt8 := [27, 42, 180, 0, 33, 162, 0, 16, 42, 180, 0, 22, 27, 51, 17, 0, 255, 126, 167, 0, 4, 2, 172]
abbrev dktX2_see_0 : List UInt8 := dkwX2_see_0 ++ []
theorem dksX2_see_0 : cX2_see.data.toList.drop 0 = dktX2_see_0 := by decide +kernel
theorem dX2_see_0 : decode cX2_see 0 = .ok (.iload_n 1, 1) := dk_27 (dk_at dksX2_see_0 0 rfl rfl)
theorem dX2_see_1 : decode cX2_see 1 = .ok (.aload_n 0, 1) := dk_42 (dk_at dksX2_see_0 1 rfl rfl)
theorem dX2_see_2 : decode cX2_see 2 = .ok (.getfield 33, 3) := dk_180 0 33 (dk_at dksX2_see_0 2 rfl rfl)
theorem dX2_see_5 : decode cX2_see 5 = .ok (.if_icmp .ge 16, 3) := dk_162 0 16 (dk_at dksX2_see_0 5 rfl rfl)
theorem dX2_see_8 : decode cX2_see 8 = .ok (.aload_n 0, 1) := dk_42 (dk_at dksX2_see_0 8 rfl rfl)
theorem dX2_see_9 : decode cX2_see 9 = .ok (.getfield 22, 3) := dk_180 0 22 (dk_at dksX2_see_0 9 rfl rfl)
theorem dX2_see_12 : decode cX2_see 12 = .ok (.iload_n 1, 1) := dk_27 (dk_at dksX2_see_0 12 rfl rfl)
theorem dX2_see_13 : decode cX2_see 13 = .ok (.baload, 1) := dk_51 (dk_at dksX2_see_0 13 rfl rfl)
theorem dX2_see_14 : decode cX2_see 14 = .ok (.sipush 255, 3) := dk_17 0 255 (dk_at dksX2_see_0 14 rfl rfl)
theorem dX2_see_17 : decode cX2_see 17 = .ok (.iand, 1) := dk_126 (dk_at dksX2_see_0 17 rfl rfl)
theorem dX2_see_18 : decode cX2_see 18 = .ok (.goto 4, 3) := dk_167 0 4 (dk_at dksX2_see_0 18 rfl rfl)
theorem dX2_see_21 : decode cX2_see 21 = .ok (.iconst (-1), 1) := dk_2 (dk_at dksX2_see_0 21 rfl rfl)
theorem dX2_see_22 : decode cX2_see 22 = .ok (.ireturn, 1) := dk_172 (dk_at dksX2_see_0 22 rfl rfl)
def dkwX2_isSmall_0 : List UInt8 := [26, 16, 97, 16, 122, 184, 0, 36, 172]
abbrev dktX2_isSmall_0 : List UInt8 := dkwX2_isSmall_0 ++ []
theorem dksX2_isSmall_0 : cX2_isSmall.data.toList.drop 0 = dktX2_isSmall_0 := by decide +kernel
theorem dX2_isSmall_0 : decode cX2_isSmall 0 = .ok (.iload_n 0, 1) := dk_26 (dk_at dksX2_isSmall_0 0 rfl rfl)
theorem dX2_isSmall_1 : decode cX2_isSmall 1 = .ok (.bipush 97, 2) := dk_16 97 (dk_at dksX2_isSmall_0 1 rfl rfl)
theorem dX2_isSmall_3 : decode cX2_isSmall 3 = .ok (.bipush 122, 2) := dk_16 122 (dk_at dksX2_isSmall_0 3 rfl rfl)
theorem dX2_isSmall_5 : decode cX2_isSmall 5 = .ok (.invokestatic 36, 3) := dk_184 0 36 (dk_at dksX2_isSmall_0 5 rfl rfl)
theorem dX2_isSmall_8 : decode cX2_isSmall 8 = .ok (.ireturn, 1) := dk_172 (dk_at dksX2_isSmall_0 8 rfl rfl)
def dkwJ4_checkFromIndexSize_1 : List UInt8 := [172]
abbrev dktJ4_checkFromIndexSize_1 : List UInt8 := dkwJ4_checkFromIndexSize_1 ++ []
def dkwJ4_checkFromIndexSize_0 : List UInt8 := [28, 26, 128, 27, 128, 155, 0, 10, 27, 28, 26, 100, 164, 0, 11, 45, 26, 27, 28, 184, 0, 103, 191, 26]
abbrev dktJ4_checkFromIndexSize_0 : List UInt8 := dkwJ4_checkFromIndexSize_0 ++ dktJ4_checkFromIndexSize_1
theorem dksJ4_checkFromIndexSize_0 : cJ4_checkFromIndexSize.data.toList.drop 0 = dktJ4_checkFromIndexSize_0 := by decide +kernel
theorem dksJ4_checkFromIndexSize_1 : cJ4_checkFromIndexSize.data.toList.drop 24 = dktJ4_checkFromIndexSize_1 := dk_seg dksJ4_checkFromIndexSize_0 24 rfl rfl
theorem dJ4_checkFromIndexSize_0 : decode cJ4_checkFromIndexSize 0 = .ok (.iload_n 2, 1) := dk_28 (dk_at dksJ4_checkFromIndexSize_0 0 rfl rfl)
theorem dJ4_checkFromIndexSize_1 : decode cJ4_checkFromIndexSize 1 = .ok (.iload_n 0, 1) := dk_26 (dk_at dksJ4_checkFromIndexSize_0 1 rfl rfl)
theorem dJ4_checkFromIndexSize_2 : decode cJ4_checkFromIndexSize 2 = .ok (.ior, 1) := dk_128 (dk_at dksJ4_checkFromIndexSize_0 2 rfl rfl)
theorem dJ4_checkFromIndexSize_3 : decode cJ4_checkFromIndexSize 3 = .ok (.iload_n 1, 1) := dk_27 (dk_at dksJ4_checkFromIndexSize_0 3 rfl rfl)
theorem dJ4_checkFromIndexSize_4 : decode cJ4_checkFromIndexSize 4 = .ok (.ior, 1) := dk_128 (dk_at dksJ4_checkFromIndexSize_0 4 rfl rfl)
theorem dJ4_checkFromIndexSize_5 : decode cJ4_checkFromIndexSize 5 = .ok (.ifCond .lt 10, 3) := dk_155 0 10 (dk_at dksJ4_checkFromIndexSize_0 5 rfl rfl)
theorem dJ4_checkFromIndexSize_8 : decode cJ4_checkFromIndexSize 8 = .ok (.iload_n 1, 1) := dk_27 (dk_at dksJ4_checkFromIndexSize_0 8 rfl rfl)
theorem dJ4_checkFromIndexSize_9 : decode cJ4_checkFromIndexSize 9 = .ok (.iload_n 2, 1) := dk_28 (dk_at dksJ4_checkFromIndexSize_0 9 rfl rfl)
theorem dJ4_checkFromIndexSize_10 : decode cJ4_checkFromIndexSize 10 = .ok (.iload_n 0, 1) := dk_26 (dk_at dksJ4_checkFromIndexSize_0 10 rfl rfl)
theorem dJ4_checkFromIndexSize_11 : decode cJ4_checkFromIndexSize 11 = .ok (.isub, 1) := dk_100 (dk_at dksJ4_checkFromIndexSize_0 11 rfl rfl)
theorem dJ4_checkFromIndexSize_12 : decode cJ4_checkFromIndexSize 12 = .ok (.if_icmp .le 11, 3) := dk_164 0 11 (dk_at dksJ4_checkFromIndexSize_0 12 rfl rfl)
theorem dJ4_checkFromIndexSize_15 : decode cJ4_checkFromIndexSize 15 = .ok (.aload_n 3, 1) := dk_45 (dk_at dksJ4_checkFromIndexSize_0 15 rfl rfl)
theorem dJ4_checkFromIndexSize_16 : decode cJ4_checkFromIndexSize 16 = .ok (.iload_n 0, 1) := dk_26 (dk_at dksJ4_checkFromIndexSize_0 16 rfl rfl)
theorem dJ4_checkFromIndexSize_17 : decode cJ4_checkFromIndexSize 17 = .ok (.iload_n 1, 1) := dk_27 (dk_at dksJ4_checkFromIndexSize_0 17 rfl rfl)
theorem dJ4_checkFromIndexSize_18 : decode cJ4_checkFromIndexSize 18 = .ok (.iload_n 2, 1) := dk_28 (dk_at dksJ4_checkFromIndexSize_0 18 rfl rfl)
theorem dJ4_checkFromIndexSize_19 : decode cJ4_checkFromIndexSize 19 = .ok (.invokestatic 103, 3) := dk_184 0 103 (dk_at dksJ4_checkFromIndexSize_0 19 rfl rfl)
theorem dJ4_checkFromIndexSize_22 : decode cJ4_checkFromIndexSize 22 = .ok (.athrow, 1) := dk_191 (dk_at dksJ4_checkFromIndexSize_0 22 rfl rfl)
theorem dJ4_checkFromIndexSize_23 : decode cJ4_checkFromIndexSize 23 = .ok (.iload_n 0, 1) := dk_26 (dk_at dksJ4_checkFromIndexSize_0 23 rfl rfl)
theorem dJ4_checkFromIndexSize_24 : decode cJ4_checkFromIndexSize 24 = .ok (.ireturn, 1) := dk_172 (dk_at dksJ4_checkFromIndexSize_1 0 rfl rfl)
def dkwJ3_checkBoundsOffCount_0 : List UInt8 := [26, 27, 28, 178, 4, 29, 184, 4, 41, 172]
abbrev dktJ3_checkBoundsOffCount_0 : List UInt8 := dkwJ3_checkBoundsOffCount_0 ++ []
theorem dksJ3_checkBoundsOffCount_0 : cJ3_checkBoundsOffCount.data.toList.drop 0 = dktJ3_checkBoundsOffCount_0 := by decide +kernel
theorem dJ3_checkBoundsOffCount_0 : decode cJ3_checkBoundsOffCount 0 = .ok (.iload_n 0, 1) := dk_26 (dk_at dksJ3_checkBoundsOffCount_0 0 rfl rfl)
theorem dJ3_checkBoundsOffCount_1 : decode cJ3_checkBoundsOffCount 1 = .ok (.iload_n 1, 1) := dk_27 (dk_at dksJ3_checkBoundsOffCount_0 1 rfl rfl)
theorem dJ3_checkBoundsOffCount_2 : decode cJ3_checkBoundsOffCount 2 = .ok (.iload_n 2, 1) := dk_28 (dk_at dksJ3_checkBoundsOffCount_0 2 rfl rfl)
theorem dJ3_checkBoundsOffCount_3 : decode cJ3_checkBoundsOffCount 3 = .ok (.getstatic 1053, 3) := dk_178 4 29 (dk_at dksJ3_checkBoundsOffCount_0 3 rfl rfl)
theorem dJ3_checkBoundsOffCount_6 : decode cJ3_checkBoundsOffCount 6 = .ok (.invokestatic 1065, 3) := dk_184 4 41 (dk_at dksJ3_checkBoundsOffCount_0 6 rfl rfl)
theorem dJ3_checkBoundsOffCount_9 : decode cJ3_checkBoundsOffCount 9 = .ok (.ireturn, 1) := dk_172 (dk_at dksJ3_checkBoundsOffCount_0 9 rfl rfl)
def dkwJ3_rangeCheck_0 : List UInt8 := [27, 28, 42, 190, 184, 0, 34, 87, 1, 176]
abbrev dktJ3_rangeCheck_0 : List UInt8 := dkwJ3_rangeCheck_0 ++ []
theorem dksJ3_rangeCheck_0 : cJ3_rangeCheck.data.toList.drop 0 = dktJ3_rangeCheck_0 := by decide +kernel
theorem dJ3_rangeCheck_0 : decode cJ3_rangeCheck 0 = .ok (.iload_n 1, 1) := dk_27 (dk_at dksJ3_rangeCheck_0 0 rfl rfl)
theorem dJ3_rangeCheck_1 : decode cJ3_rangeCheck 1 = .ok (.iload_n 2, 1) := dk_28 (dk_at dksJ3_rangeCheck_0 1 rfl rfl)
theorem dJ3_rangeCheck_2 : decode cJ3_rangeCheck 2 = .ok (.aload_n 0, 1) := dk_42 (dk_at dksJ3_rangeCheck_0 2 rfl rfl)
theorem dJ3_rangeCheck_3 : decode cJ3_rangeCheck 3 = .ok (.arraylength, 1) := dk_190 (dk_at dksJ3_rangeCheck_0 3 rfl rfl)
theorem dJ3_rangeCheck_4 : decode cJ3_rangeCheck 4 = .ok (.invokestatic 34, 3) := dk_184 0 34 (dk_at dksJ3_rangeCheck_0 4 rfl rfl)
theorem dJ3_rangeCheck_7 : decode cJ3_rangeCheck 7 = .ok (.pop, 1) := dk_87 (dk_at dksJ3_rangeCheck_0 7 rfl rfl)
theorem dJ3_rangeCheck_8 : decode cJ3_rangeCheck 8 = .ok (.aconst_null, 1) := dk_1 (dk_at dksJ3_rangeCheck_0 8 rfl rfl)
theorem dJ3_rangeCheck_9 : decode cJ3_rangeCheck 9 = .ok (.areturn, 1) := dk_176 (dk_at dksJ3_rangeCheck_0 9 rfl rfl)
def dkwJ5_compress_2_1 : List UInt8 := [21, 5, 172, 44, 29, 21, 6, 145, 84, 132, 1, 1, 132, 3, 1, 132, 5, 1, 167, 255, 218, 21, 4, 172]
abbrev dktJ5_compress_2_1 : List UInt8 := dkwJ5_compress_2_1 ++ []
def dkwJ5_compress_2_0 : List UInt8 := [3, 54, 5, 21, 5, 21, 4, 162, 0, 37, 42, 27, 52, 54, 6, 21, 6, 17, 0, 255, 164, 0, 6]
abbrev dktJ5_compress_2_0 : List UInt8 := dkwJ5_compress_2_0 ++ dktJ5_compress_2_1
theorem dksJ5_compress_2_0 : cJ5_compress_2.data.toList.drop 0 = dktJ5_compress_2_0 := by decide +kernel
theorem dksJ5_compress_2_1 : cJ5_compress_2.data.toList.drop 23 = dktJ5_compress_2_1 := dk_seg dksJ5_compress_2_0 23 rfl rfl
theorem dJ5_compress_2_0 : decode cJ5_compress_2 0 = .ok (.iconst 0, 1) := dk_3 (dk_at dksJ5_compress_2_0 0 rfl rfl)
theorem dJ5_compress_2_1 : decode cJ5_compress_2 1 = .ok (.istore 5, 2) := dk_54 5 (dk_at dksJ5_compress_2_0 1 rfl rfl)
theorem dJ5_compress_2_3 : decode cJ5_compress_2 3 = .ok (.iload 5, 2) := dk_21 5 (dk_at dksJ5_compress_2_0 3 rfl rfl)
theorem dJ5_compress_2_5 : decode cJ5_compress_2 5 = .ok (.iload 4, 2) := dk_21 4 (dk_at dksJ5_compress_2_0 5 rfl rfl)
theorem dJ5_compress_2_7 : decode cJ5_compress_2 7 = .ok (.if_icmp .ge 37, 3) := dk_162 0 37 (dk_at dksJ5_compress_2_0 7 rfl rfl)
theorem dJ5_compress_2_10 : decode cJ5_compress_2 10 = .ok (.aload_n 0, 1) := dk_42 (dk_at dksJ5_compress_2_0 10 rfl rfl)
theorem dJ5_compress_2_11 : decode cJ5_compress_2 11 = .ok (.iload_n 1, 1) := dk_27 (dk_at dksJ5_compress_2_0 11 rfl rfl)
theorem dJ5_compress_2_12 : decode cJ5_compress_2 12 = .ok (.caload, 1) := dk_52 (dk_at dksJ5_compress_2_0 12 rfl rfl)
theorem dJ5_compress_2_13 : decode cJ5_compress_2 13 = .ok (.istore 6, 2) := dk_54 6 (dk_at dksJ5_compress_2_0 13 rfl rfl)
theorem dJ5_compress_2_15 : decode cJ5_compress_2 15 = .ok (.iload 6, 2) := dk_21 6 (dk_at dksJ5_compress_2_0 15 rfl rfl)
theorem dJ5_compress_2_17 : decode cJ5_compress_2 17 = .ok (.sipush 255, 3) := dk_17 0 255 (dk_at dksJ5_compress_2_0 17 rfl rfl)
theorem dJ5_compress_2_20 : decode cJ5_compress_2 20 = .ok (.if_icmp .le 6, 3) := dk_164 0 6 (dk_at dksJ5_compress_2_0 20 rfl rfl)
theorem dJ5_compress_2_23 : decode cJ5_compress_2 23 = .ok (.iload 5, 2) := dk_21 5 (dk_at dksJ5_compress_2_1 0 rfl rfl)
theorem dJ5_compress_2_25 : decode cJ5_compress_2 25 = .ok (.ireturn, 1) := dk_172 (dk_at dksJ5_compress_2_1 2 rfl rfl)
theorem dJ5_compress_2_26 : decode cJ5_compress_2 26 = .ok (.aload_n 2, 1) := dk_44 (dk_at dksJ5_compress_2_1 3 rfl rfl)
theorem dJ5_compress_2_27 : decode cJ5_compress_2 27 = .ok (.iload_n 3, 1) := dk_29 (dk_at dksJ5_compress_2_1 4 rfl rfl)
theorem dJ5_compress_2_28 : decode cJ5_compress_2 28 = .ok (.iload 6, 2) := dk_21 6 (dk_at dksJ5_compress_2_1 5 rfl rfl)
theorem dJ5_compress_2_30 : decode cJ5_compress_2 30 = .ok (.i2b, 1) := dk_145 (dk_at dksJ5_compress_2_1 7 rfl rfl)
theorem dJ5_compress_2_31 : decode cJ5_compress_2 31 = .ok (.bastore, 1) := dk_84 (dk_at dksJ5_compress_2_1 8 rfl rfl)
theorem dJ5_compress_2_32 : decode cJ5_compress_2 32 = .ok (.iinc 1 1, 3) := dk_132 1 1 (dk_at dksJ5_compress_2_1 9 rfl rfl)
theorem dJ5_compress_2_35 : decode cJ5_compress_2 35 = .ok (.iinc 3 1, 3) := dk_132 3 1 (dk_at dksJ5_compress_2_1 12 rfl rfl)
theorem dJ5_compress_2_38 : decode cJ5_compress_2 38 = .ok (.iinc 5 1, 3) := dk_132 5 1 (dk_at dksJ5_compress_2_1 15 rfl rfl)
theorem dJ5_compress_2_41 : decode cJ5_compress_2 41 = .ok (.goto (-38), 3) := dk_167 255 218 (dk_at dksJ5_compress_2_1 18 rfl rfl)
theorem dJ5_compress_2_44 : decode cJ5_compress_2 44 = .ok (.iload 4, 2) := dk_21 4 (dk_at dksJ5_compress_2_1 21 rfl rfl)
theorem dJ5_compress_2_46 : decode cJ5_compress_2 46 = .ok (.ireturn, 1) := dk_172 (dk_at dksJ5_compress_2_1 23 rfl rfl)
def dkwJ5_compress_2 : List UInt8 := [184, 0, 123, 28, 159, 0, 6, 25, 5, 176, 45, 176]
abbrev dktJ5_compress_2 : List UInt8 := dkwJ5_compress_2 ++ []
def dkwJ5_compress_1 : List UInt8 := [184, 0, 119, 58, 5, 25, 5, 21, 4, 184, 0, 71, 17, 0, 255, 163, 0, 16, 25, 5, 3, 45, 3, 28]
abbrev dktJ5_compress_1 : List UInt8 := dkwJ5_compress_1 ++ dktJ5_compress_2
def dkwJ5_compress_0 : List UInt8 := [28, 188, 8, 78, 42, 27, 45, 3, 28, 184, 0, 115, 54, 4, 21, 4, 28, 159, 0, 40, 42, 27, 28]
abbrev dktJ5_compress_0 : List UInt8 := dkwJ5_compress_0 ++ dktJ5_compress_1
theorem dksJ5_compress_0 : cJ5_compress.data.toList.drop 0 = dktJ5_compress_0 := by decide +kernel
theorem dksJ5_compress_1 : cJ5_compress.data.toList.drop 23 = dktJ5_compress_1 := dk_seg dksJ5_compress_0 23 rfl rfl
theorem dksJ5_compress_2 : cJ5_compress.data.toList.drop 47 = dktJ5_compress_2 := dk_seg dksJ5_compress_1 24 rfl rfl
theorem dJ5_compress_0 : decode cJ5_compress 0 = .ok (.iload_n 2, 1) := dk_28 (dk_at dksJ5_compress_0 0 rfl rfl)
theorem dJ5_compress_1 : decode cJ5_compress 1 = .ok (.newarray .byte, 2) := dk_188_8 (dk_at dksJ5_compress_0 1 rfl rfl)
theorem dJ5_compress_3 : decode cJ5_compress 3 = .ok (.astore_n 3, 1) := dk_78 (dk_at dksJ5_compress_0 3 rfl rfl)
theorem dJ5_compress_4 : decode cJ5_compress 4 = .ok (.aload_n 0, 1) := dk_42 (dk_at dksJ5_compress_0 4 rfl rfl)
theorem dJ5_compress_5 : decode cJ5_compress 5 = .ok (.iload_n 1, 1) := dk_27 (dk_at dksJ5_compress_0 5 rfl rfl)
theorem dJ5_compress_6 : decode cJ5_compress 6 = .ok (.aload_n 3, 1) := dk_45 (dk_at dksJ5_compress_0 6 rfl rfl)
theorem dJ5_compress_7 : decode cJ5_compress 7 = .ok (.iconst 0, 1) := dk_3 (dk_at dksJ5_compress_0 7 rfl rfl)
theorem dJ5_compress_8 : decode cJ5_compress 8 = .ok (.iload_n 2, 1) := dk_28 (dk_at dksJ5_compress_0 8 rfl rfl)
theorem dJ5_compress_9 : decode cJ5_compress 9 = .ok (.invokestatic 115, 3) := dk_184 0 115 (dk_at dksJ5_compress_0 9 rfl rfl)
theorem dJ5_compress_12 : decode cJ5_compress 12 = .ok (.istore 4, 2) := dk_54 4 (dk_at dksJ5_compress_0 12 rfl rfl)
theorem dJ5_compress_14 : decode cJ5_compress 14 = .ok (.iload 4, 2) := dk_21 4 (dk_at dksJ5_compress_0 14 rfl rfl)
theorem dJ5_compress_16 : decode cJ5_compress 16 = .ok (.iload_n 2, 1) := dk_28 (dk_at dksJ5_compress_0 16 rfl rfl)
theorem dJ5_compress_17 : decode cJ5_compress 17 = .ok (.if_icmp .eq 40, 3) := dk_159 0 40 (dk_at dksJ5_compress_0 17 rfl rfl)
theorem dJ5_compress_20 : decode cJ5_compress 20 = .ok (.aload_n 0, 1) := dk_42 (dk_at dksJ5_compress_0 20 rfl rfl)
theorem dJ5_compress_21 : decode cJ5_compress 21 = .ok (.iload_n 1, 1) := dk_27 (dk_at dksJ5_compress_0 21 rfl rfl)
theorem dJ5_compress_22 : decode cJ5_compress 22 = .ok (.iload_n 2, 1) := dk_28 (dk_at dksJ5_compress_0 22 rfl rfl)
theorem dJ5_compress_23 : decode cJ5_compress 23 = .ok (.invokestatic 119, 3) := dk_184 0 119 (dk_at dksJ5_compress_1 0 rfl rfl)
theorem dJ5_compress_26 : decode cJ5_compress 26 = .ok (.astore 5, 2) := dk_58 5 (dk_at dksJ5_compress_1 3 rfl rfl)
theorem dJ5_compress_28 : decode cJ5_compress 28 = .ok (.aload 5, 2) := dk_25 5 (dk_at dksJ5_compress_1 5 rfl rfl)
theorem dJ5_compress_30 : decode cJ5_compress 30 = .ok (.iload 4, 2) := dk_21 4 (dk_at dksJ5_compress_1 7 rfl rfl)
theorem dJ5_compress_32 : decode cJ5_compress 32 = .ok (.invokestatic 71, 3) := dk_184 0 71 (dk_at dksJ5_compress_1 9 rfl rfl)
theorem dJ5_compress_35 : decode cJ5_compress 35 = .ok (.sipush 255, 3) := dk_17 0 255 (dk_at dksJ5_compress_1 12 rfl rfl)
theorem dJ5_compress_38 : decode cJ5_compress 38 = .ok (.if_icmp .gt 16, 3) := dk_163 0 16 (dk_at dksJ5_compress_1 15 rfl rfl)
theorem dJ5_compress_41 : decode cJ5_compress 41 = .ok (.aload 5, 2) := dk_25 5 (dk_at dksJ5_compress_1 18 rfl rfl)
theorem dJ5_compress_43 : decode cJ5_compress 43 = .ok (.iconst 0, 1) := dk_3 (dk_at dksJ5_compress_1 20 rfl rfl)
theorem dJ5_compress_44 : decode cJ5_compress 44 = .ok (.aload_n 3, 1) := dk_45 (dk_at dksJ5_compress_1 21 rfl rfl)
theorem dJ5_compress_45 : decode cJ5_compress 45 = .ok (.iconst 0, 1) := dk_3 (dk_at dksJ5_compress_1 22 rfl rfl)
theorem dJ5_compress_46 : decode cJ5_compress 46 = .ok (.iload_n 2, 1) := dk_28 (dk_at dksJ5_compress_1 23 rfl rfl)
theorem dJ5_compress_47 : decode cJ5_compress 47 = .ok (.invokestatic 123, 3) := dk_184 0 123 (dk_at dksJ5_compress_2 0 rfl rfl)
theorem dJ5_compress_50 : decode cJ5_compress 50 = .ok (.iload_n 2, 1) := dk_28 (dk_at dksJ5_compress_2 3 rfl rfl)
theorem dJ5_compress_51 : decode cJ5_compress 51 = .ok (.if_icmp .eq 6, 3) := dk_159 0 6 (dk_at dksJ5_compress_2 4 rfl rfl)
theorem dJ5_compress_54 : decode cJ5_compress 54 = .ok (.aload 5, 2) := dk_25 5 (dk_at dksJ5_compress_2 7 rfl rfl)
theorem dJ5_compress_56 : decode cJ5_compress 56 = .ok (.areturn, 1) := dk_176 (dk_at dksJ5_compress_2 9 rfl rfl)
theorem dJ5_compress_57 : decode cJ5_compress 57 = .ok (.aload_n 3, 1) := dk_45 (dk_at dksJ5_compress_2 10 rfl rfl)
theorem dJ5_compress_58 : decode cJ5_compress 58 = .ok (.areturn, 1) := dk_176 (dk_at dksJ5_compress_2 11 rfl rfl)
def dkwJ5_coderFromArrayLen_0 : List UInt8 := [27, 42, 190, 100, 16, 31, 124, 145, 172]
abbrev dktJ5_coderFromArrayLen_0 : List UInt8 := dkwJ5_coderFromArrayLen_0 ++ []
theorem dksJ5_coderFromArrayLen_0 : cJ5_coderFromArrayLen.data.toList.drop 0 = dktJ5_coderFromArrayLen_0 := by decide +kernel
theorem dJ5_coderFromArrayLen_0 : decode cJ5_coderFromArrayLen 0 = .ok (.iload_n 1, 1) := dk_27 (dk_at dksJ5_coderFromArrayLen_0 0 rfl rfl)
theorem dJ5_coderFromArrayLen_1 : decode cJ5_coderFromArrayLen 1 = .ok (.aload_n 0, 1) := dk_42 (dk_at dksJ5_coderFromArrayLen_0 1 rfl rfl)
theorem dJ5_coderFromArrayLen_2 : decode cJ5_coderFromArrayLen 2 = .ok (.arraylength, 1) := dk_190 (dk_at dksJ5_coderFromArrayLen_0 2 rfl rfl)
theorem dJ5_coderFromArrayLen_3 : decode cJ5_coderFromArrayLen 3 = .ok (.isub, 1) := dk_100 (dk_at dksJ5_coderFromArrayLen_0 3 rfl rfl)
theorem dJ5_coderFromArrayLen_4 : decode cJ5_coderFromArrayLen 4 = .ok (.bipush 31, 2) := dk_16 31 (dk_at dksJ5_coderFromArrayLen_0 4 rfl rfl)
theorem dJ5_coderFromArrayLen_6 : decode cJ5_coderFromArrayLen 6 = .ok (.iushr, 1) := dk_124 (dk_at dksJ5_coderFromArrayLen_0 6 rfl rfl)
theorem dJ5_coderFromArrayLen_7 : decode cJ5_coderFromArrayLen 7 = .ok (.i2b, 1) := dk_145 (dk_at dksJ5_coderFromArrayLen_0 7 rfl rfl)
theorem dJ5_coderFromArrayLen_8 : decode cJ5_coderFromArrayLen 8 = .ok (.ireturn, 1) := dk_172 (dk_at dksJ5_coderFromArrayLen_0 8 rfl rfl)
def dkwJ3_init_2_3 : List UInt8 := [184, 0, 180, 181, 0, 9, 177]
abbrev dktJ3_init_2_3 : List UInt8 := dkwJ3_init_2_3 ++ []
def dkwJ3_init_2_2 : List UInt8 := [184, 0, 47, 181, 0, 15, 42, 25, 5, 181, 0, 9, 177, 42, 4, 181, 0, 15, 42, 43, 28, 29]
abbrev dktJ3_init_2_2 : List UInt8 := dkwJ3_init_2_2 ++ dktJ3_init_2_3
def dkwJ3_init_2_1 : List UInt8 := [181, 0, 15, 177, 178, 0, 38, 153, 0, 28, 43, 28, 29, 184, 0, 177, 58, 5, 42, 25, 5, 29]
abbrev dktJ3_init_2_1 : List UInt8 := dkwJ3_init_2_1 ++ dktJ3_init_2_2
def dkwJ3_init_2_0 : List UInt8 := [42, 183, 0, 1, 29, 154, 0, 22, 42, 18, 7, 180, 0, 9, 181, 0, 9, 42, 18, 7, 180, 0, 15]
abbrev dktJ3_init_2_0 : List UInt8 := dkwJ3_init_2_0 ++ dktJ3_init_2_1
theorem dksJ3_init_2_0 : cJ3_init_2.data.toList.drop 0 = dktJ3_init_2_0 := by decide +kernel
theorem dksJ3_init_2_1 : cJ3_init_2.data.toList.drop 23 = dktJ3_init_2_1 := dk_seg dksJ3_init_2_0 23 rfl rfl
theorem dksJ3_init_2_2 : cJ3_init_2.data.toList.drop 45 = dktJ3_init_2_2 := dk_seg dksJ3_init_2_1 22 rfl rfl
theorem dksJ3_init_2_3 : cJ3_init_2.data.toList.drop 67 = dktJ3_init_2_3 := dk_seg dksJ3_init_2_2 22 rfl rfl
theorem dJ3_init_2_0 : decode cJ3_init_2 0 = .ok (.aload_n 0, 1) := dk_42 (dk_at dksJ3_init_2_0 0 rfl rfl)
theorem dJ3_init_2_1 : decode cJ3_init_2 1 = .ok (.invokespecial 1, 3) := dk_183 0 1 (dk_at dksJ3_init_2_0 1 rfl rfl)
theorem dJ3_init_2_4 : decode cJ3_init_2 4 = .ok (.iload_n 3, 1) := dk_29 (dk_at dksJ3_init_2_0 4 rfl rfl)
theorem dJ3_init_2_5 : decode cJ3_init_2 5 = .ok (.ifCond .ne 22, 3) := dk_154 0 22 (dk_at dksJ3_init_2_0 5 rfl rfl)
theorem dJ3_init_2_8 : decode cJ3_init_2 8 = .ok (.aload_n 0, 1) := dk_42 (dk_at dksJ3_init_2_0 8 rfl rfl)
theorem dJ3_init_2_9 : decode cJ3_init_2 9 = .ok (.ldc 7, 2) := dk_18 7 (dk_at dksJ3_init_2_0 9 rfl rfl)
theorem dJ3_init_2_11 : decode cJ3_init_2 11 = .ok (.getfield 9, 3) := dk_180 0 9 (dk_at dksJ3_init_2_0 11 rfl rfl)
theorem dJ3_init_2_14 : decode cJ3_init_2 14 = .ok (.putfield 9, 3) := dk_181 0 9 (dk_at dksJ3_init_2_0 14 rfl rfl)
theorem dJ3_init_2_17 : decode cJ3_init_2 17 = .ok (.aload_n 0, 1) := dk_42 (dk_at dksJ3_init_2_0 17 rfl rfl)
theorem dJ3_init_2_18 : decode cJ3_init_2 18 = .ok (.ldc 7, 2) := dk_18 7 (dk_at dksJ3_init_2_0 18 rfl rfl)
theorem dJ3_init_2_20 : decode cJ3_init_2 20 = .ok (.getfield 15, 3) := dk_180 0 15 (dk_at dksJ3_init_2_0 20 rfl rfl)
theorem dJ3_init_2_23 : decode cJ3_init_2 23 = .ok (.putfield 15, 3) := dk_181 0 15 (dk_at dksJ3_init_2_1 0 rfl rfl)
theorem dJ3_init_2_26 : decode cJ3_init_2 26 = .ok (.return_, 1) := dk_177 (dk_at dksJ3_init_2_1 3 rfl rfl)
theorem dJ3_init_2_27 : decode cJ3_init_2 27 = .ok (.getstatic 38, 3) := dk_178 0 38 (dk_at dksJ3_init_2_1 4 rfl rfl)
theorem dJ3_init_2_30 : decode cJ3_init_2 30 = .ok (.ifCond .eq 28, 3) := dk_153 0 28 (dk_at dksJ3_init_2_1 7 rfl rfl)
theorem dJ3_init_2_33 : decode cJ3_init_2 33 = .ok (.aload_n 1, 1) := dk_43 (dk_at dksJ3_init_2_1 10 rfl rfl)
theorem dJ3_init_2_34 : decode cJ3_init_2 34 = .ok (.iload_n 2, 1) := dk_28 (dk_at dksJ3_init_2_1 11 rfl rfl)
theorem dJ3_init_2_35 : decode cJ3_init_2 35 = .ok (.iload_n 3, 1) := dk_29 (dk_at dksJ3_init_2_1 12 rfl rfl)
theorem dJ3_init_2_36 : decode cJ3_init_2 36 = .ok (.invokestatic 177, 3) := dk_184 0 177 (dk_at dksJ3_init_2_1 13 rfl rfl)
theorem dJ3_init_2_39 : decode cJ3_init_2 39 = .ok (.astore 5, 2) := dk_58 5 (dk_at dksJ3_init_2_1 16 rfl rfl)
theorem dJ3_init_2_41 : decode cJ3_init_2 41 = .ok (.aload_n 0, 1) := dk_42 (dk_at dksJ3_init_2_1 18 rfl rfl)
theorem dJ3_init_2_42 : decode cJ3_init_2 42 = .ok (.aload 5, 2) := dk_25 5 (dk_at dksJ3_init_2_1 19 rfl rfl)
theorem dJ3_init_2_44 : decode cJ3_init_2 44 = .ok (.iload_n 3, 1) := dk_29 (dk_at dksJ3_init_2_1 21 rfl rfl)
theorem dJ3_init_2_45 : decode cJ3_init_2 45 = .ok (.invokestatic 47, 3) := dk_184 0 47 (dk_at dksJ3_init_2_2 0 rfl rfl)
theorem dJ3_init_2_48 : decode cJ3_init_2 48 = .ok (.putfield 15, 3) := dk_181 0 15 (dk_at dksJ3_init_2_2 3 rfl rfl)
theorem dJ3_init_2_51 : decode cJ3_init_2 51 = .ok (.aload_n 0, 1) := dk_42 (dk_at dksJ3_init_2_2 6 rfl rfl)
theorem dJ3_init_2_52 : decode cJ3_init_2 52 = .ok (.aload 5, 2) := dk_25 5 (dk_at dksJ3_init_2_2 7 rfl rfl)
theorem dJ3_init_2_54 : decode cJ3_init_2 54 = .ok (.putfield 9, 3) := dk_181 0 9 (dk_at dksJ3_init_2_2 9 rfl rfl)
theorem dJ3_init_2_57 : decode cJ3_init_2 57 = .ok (.return_, 1) := dk_177 (dk_at dksJ3_init_2_2 12 rfl rfl)
theorem dJ3_init_2_58 : decode cJ3_init_2 58 = .ok (.aload_n 0, 1) := dk_42 (dk_at dksJ3_init_2_2 13 rfl rfl)
theorem dJ3_init_2_59 : decode cJ3_init_2 59 = .ok (.iconst 1, 1) := dk_4 (dk_at dksJ3_init_2_2 14 rfl rfl)
theorem dJ3_init_2_60 : decode cJ3_init_2 60 = .ok (.putfield 15, 3) := dk_181 0 15 (dk_at dksJ3_init_2_2 15 rfl rfl)
theorem dJ3_init_2_63 : decode cJ3_init_2 63 = .ok (.aload_n 0, 1) := dk_42 (dk_at dksJ3_init_2_2 18 rfl rfl)
theorem dJ3_init_2_64 : decode cJ3_init_2 64 = .ok (.aload_n 1, 1) := dk_43 (dk_at dksJ3_init_2_2 19 rfl rfl)
theorem dJ3_init_2_65 : decode cJ3_init_2 65 = .ok (.iload_n 2, 1) := dk_28 (dk_at dksJ3_init_2_2 20 rfl rfl)
theorem dJ3_init_2_66 : decode cJ3_init_2 66 = .ok (.iload_n 3, 1) := dk_29 (dk_at dksJ3_init_2_2 21 rfl rfl)
theorem dJ3_init_2_67 : decode cJ3_init_2 67 = .ok (.invokestatic 180, 3) := dk_184 0 180 (dk_at dksJ3_init_2_3 0 rfl rfl)
theorem dJ3_init_2_70 : decode cJ3_init_2 70 = .ok (.putfield 9, 3) := dk_181 0 9 (dk_at dksJ3_init_2_3 3 rfl rfl)
theorem dJ3_init_2_73 : decode cJ3_init_2 73 = .ok (.return_, 1) := dk_177 (dk_at dksJ3_init_2_3 6 rfl rfl)
def dkwJ3_init_0 : List UInt8 := [42, 43, 28, 29, 43, 28, 29, 184, 0, 30, 183, 0, 27, 177]
abbrev dktJ3_init_0 : List UInt8 := dkwJ3_init_0 ++ []
theorem dksJ3_init_0 : cJ3_init.data.toList.drop 0 = dktJ3_init_0 := by decide +kernel
theorem dJ3_init_0 : decode cJ3_init 0 = .ok (.aload_n 0, 1) := dk_42 (dk_at dksJ3_init_0 0 rfl rfl)
theorem dJ3_init_1 : decode cJ3_init 1 = .ok (.aload_n 1, 1) := dk_43 (dk_at dksJ3_init_0 1 rfl rfl)
theorem dJ3_init_2 : decode cJ3_init 2 = .ok (.iload_n 2, 1) := dk_28 (dk_at dksJ3_init_0 2 rfl rfl)
theorem dJ3_init_3 : decode cJ3_init 3 = .ok (.iload_n 3, 1) := dk_29 (dk_at dksJ3_init_0 3 rfl rfl)
theorem dJ3_init_4 : decode cJ3_init 4 = .ok (.aload_n 1, 1) := dk_43 (dk_at dksJ3_init_0 4 rfl rfl)
theorem dJ3_init_5 : decode cJ3_init 5 = .ok (.iload_n 2, 1) := dk_28 (dk_at dksJ3_init_0 5 rfl rfl)
theorem dJ3_init_6 : decode cJ3_init 6 = .ok (.iload_n 3, 1) := dk_29 (dk_at dksJ3_init_0 6 rfl rfl)
theorem dJ3_init_7 : decode cJ3_init 7 = .ok (.invokestatic 30, 3) := dk_184 0 30 (dk_at dksJ3_init_0 7 rfl rfl)
theorem dJ3_init_10 : decode cJ3_init 10 = .ok (.invokespecial 27, 3) := dk_183 0 27 (dk_at dksJ3_init_0 10 rfl rfl)
theorem dJ3_init_13 : decode cJ3_init 13 = .ok (.return_, 1) := dk_177 (dk_at dksJ3_init_0 13 rfl rfl)
def dkwX2_isDigit_0 : List UInt8 := [26, 16, 48, 16, 57, 184, 0, 36, 172]
abbrev dktX2_isDigit_0 : List UInt8 := dkwX2_isDigit_0 ++ []
theorem dksX2_isDigit_0 : cX2_isDigit.data.toList.drop 0 = dktX2_isDigit_0 := by decide +kernel
theorem dX2_isDigit_0 : decode cX2_isDigit 0 = .ok (.iload_n 0, 1) := dk_26 (dk_at dksX2_isDigit_0 0 rfl rfl)
theorem dX2_isDigit_1 : decode cX2_isDigit 1 = .ok (.bipush 48, 2) := dk_16 48 (dk_at dksX2_isDigit_0 1 rfl rfl)
theorem dX2_isDigit_3 : decode cX2_isDigit 3 = .ok (.bipush 57, 2) := dk_16 57 (dk_at dksX2_isDigit_0 3 rfl rfl)
theorem dX2_isDigit_5 : decode cX2_isDigit 5 = .ok (.invokestatic 36, 3) := dk_184 0 36 (dk_at dksX2_isDigit_0 5 rfl rfl)
theorem dX2_isDigit_8 : decode cX2_isDigit 8 = .ok (.ireturn, 1) := dk_172 (dk_at dksX2_isDigit_0 8 rfl rfl)
def dkwX2_next_13 : List UInt8 := [181, 0, 47, 177]
abbrev dktX2_next_13 : List UInt8 := dkwX2_next_13 ++ []
def dkwX2_next_12 : List UInt8 := [181, 0, 47, 167, 0, 24, 42, 28, 16, 59, 159, 0, 9, 28, 16, 44, 160, 0, 7, 28, 167, 0, 4, 4]
abbrev dktX2_next_12 : List UInt8 := dkwX2_next_12 ++ dktX2_next_13
def dkwX2_next_11 : List UInt8 := [181, 0, 40, 167, 255, 199, 42, 42, 180, 0, 40, 27, 100, 6, 164, 0, 7, 4, 167, 0, 4, 6]
abbrev dktX2_next_11 : List UInt8 := dkwX2_next_11 ++ dktX2_next_12
def dkwX2_next_10 : List UInt8 := [42, 42, 180, 0, 40, 182, 0, 43, 96, 16, 48, 100, 181, 0, 68, 42, 89, 180, 0, 40, 4, 96]
abbrev dktX2_next_10 : List UInt8 := dkwX2_next_10 ++ dktX2_next_11
def dkwX2_next_9 : List UInt8 := [184, 0, 65, 153, 0, 49, 42, 180, 0, 40, 27, 100, 6, 162, 0, 26, 42, 16, 10, 42, 180, 0, 68, 104]
abbrev dktX2_next_9 : List UInt8 := dkwX2_next_9 ++ dktX2_next_10
def dkwX2_next_8 : List UInt8 := [184, 0, 65, 153, 0, 95, 42, 3, 181, 0, 68, 42, 27, 181, 0, 40, 42, 42, 180, 0, 40, 182, 0, 43]
abbrev dktX2_next_8 : List UInt8 := dkwX2_next_8 ++ dktX2_next_9
def dkwX2_next_7 : List UInt8 := [3, 42, 180, 0, 40, 27, 100, 183, 0, 56, 167, 0, 5, 18, 59, 181, 0, 61, 167, 0, 123, 28]
abbrev dktX2_next_7 : List UInt8 := dkwX2_next_7 ++ dktX2_next_8
def dkwX2_next_6 : List UInt8 := [167, 0, 4, 5, 181, 0, 47, 42, 42, 180, 0, 47, 5, 160, 0, 24, 187, 0, 54, 89, 42, 180, 0, 18]
abbrev dktX2_next_6 : List UInt8 := dkwX2_next_6 ++ dktX2_next_7
def dkwX2_next_5 : List UInt8 := [180, 0, 40, 4, 96, 181, 0, 40, 167, 255, 201, 42, 42, 180, 0, 40, 27, 100, 16, 8, 164, 0, 7, 4]
abbrev dktX2_next_5 : List UInt8 := dkwX2_next_5 ++ dktX2_next_6
def dkwX2_next_4 : List UInt8 := [42, 180, 0, 18, 42, 180, 0, 40, 27, 100, 42, 42, 180, 0, 40, 182, 0, 43, 146, 85, 42, 89]
abbrev dktX2_next_4 : List UInt8 := dkwX2_next_4 ++ dktX2_next_5
def dkwX2_next_3 : List UInt8 := [42, 180, 0, 40, 182, 0, 43, 184, 0, 50, 153, 0, 47, 42, 180, 0, 40, 27, 100, 16, 8, 162, 0, 23]
abbrev dktX2_next_3 : List UInt8 := dkwX2_next_3 ++ dktX2_next_4
def dkwX2_next_2 : List UInt8 := [181, 0, 47, 42, 27, 181, 0, 40, 167, 0, 251, 28, 184, 0, 50, 153, 0, 124, 42, 27, 181, 0, 40, 42]
abbrev dktX2_next_2 : List UInt8 := dkwX2_next_2 ++ dktX2_next_3
def dkwX2_next_1 : List UInt8 := [181, 0, 26, 42, 27, 4, 96, 181, 0, 40, 42, 27, 182, 0, 43, 61, 28, 2, 160, 0, 16, 42, 3]
abbrev dktX2_next_1 : List UInt8 := dkwX2_next_1 ++ dktX2_next_2
def dkwX2_next_0 : List UInt8 := [42, 180, 0, 40, 60, 42, 27, 182, 0, 43, 16, 32, 160, 0, 9, 132, 1, 1, 167, 255, 243, 42, 27]
abbrev dktX2_next_0 : List UInt8 := dkwX2_next_0 ++ dktX2_next_1
theorem dksX2_next_0 : cX2_next.data.toList.drop 0 = dktX2_next_0 := by decide +kernel
theorem dksX2_next_1 : cX2_next.data.toList.drop 23 = dktX2_next_1 := dk_seg dksX2_next_0 23 rfl rfl
theorem dksX2_next_2 : cX2_next.data.toList.drop 46 = dktX2_next_2 := dk_seg dksX2_next_1 23 rfl rfl
theorem dksX2_next_3 : cX2_next.data.toList.drop 70 = dktX2_next_3 := dk_seg dksX2_next_2 24 rfl rfl
theorem dksX2_next_4 : cX2_next.data.toList.drop 94 = dktX2_next_4 := dk_seg dksX2_next_3 24 rfl rfl
theorem dksX2_next_5 : cX2_next.data.toList.drop 116 = dktX2_next_5 := dk_seg dksX2_next_4 22 rfl rfl
theorem dksX2_next_6 : cX2_next.data.toList.drop 140 = dktX2_next_6 := dk_seg dksX2_next_5 24 rfl rfl
theorem dksX2_next_7 : cX2_next.data.toList.drop 164 = dktX2_next_7 := dk_seg dksX2_next_6 24 rfl rfl
theorem dksX2_next_8 : cX2_next.data.toList.drop 186 = dktX2_next_8 := dk_seg dksX2_next_7 22 rfl rfl
theorem dksX2_next_9 : cX2_next.data.toList.drop 210 = dktX2_next_9 := dk_seg dksX2_next_8 24 rfl rfl
theorem dksX2_next_10 : cX2_next.data.toList.drop 234 = dktX2_next_10 := dk_seg dksX2_next_9 24 rfl rfl
theorem dksX2_next_11 : cX2_next.data.toList.drop 256 = dktX2_next_11 := dk_seg dksX2_next_10 22 rfl rfl
theorem dksX2_next_12 : cX2_next.data.toList.drop 278 = dktX2_next_12 := dk_seg dksX2_next_11 22 rfl rfl
theorem dksX2_next_13 : cX2_next.data.toList.drop 302 = dktX2_next_13 := dk_seg dksX2_next_12 24 rfl rfl
theorem dX2_next_0 : decode cX2_next 0 = .ok (.aload_n 0, 1) := dk_42 (dk_at dksX2_next_0 0 rfl rfl)
theorem dX2_next_1 : decode cX2_next 1 = .ok (.getfield 40, 3) := dk_180 0 40 (dk_at dksX2_next_0 1 rfl rfl)
theorem dX2_next_4 : decode cX2_next 4 = .ok (.istore_n 1, 1) := dk_60 (dk_at dksX2_next_0 4 rfl rfl)
theorem dX2_next_5 : decode cX2_next 5 = .ok (.aload_n 0, 1) := dk_42 (dk_at dksX2_next_0 5 rfl rfl)
theorem dX2_next_6 : decode cX2_next 6 = .ok (.iload_n 1, 1) := dk_27 (dk_at dksX2_next_0 6 rfl rfl)
theorem dX2_next_7 : decode cX2_next 7 = .ok (.invokevirtual 43, 3) := dk_182 0 43 (dk_at dksX2_next_0 7 rfl rfl)
theorem dX2_next_10 : decode cX2_next 10 = .ok (.bipush 32, 2) := dk_16 32 (dk_at dksX2_next_0 10 rfl rfl)
theorem dX2_next_12 : decode cX2_next 12 = .ok (.if_icmp .ne 9, 3) := dk_160 0 9 (dk_at dksX2_next_0 12 rfl rfl)
theorem dX2_next_15 : decode cX2_next 15 = .ok (.iinc 1 1, 3) := dk_132 1 1 (dk_at dksX2_next_0 15 rfl rfl)
theorem dX2_next_18 : decode cX2_next 18 = .ok (.goto (-13), 3) := dk_167 255 243 (dk_at dksX2_next_0 18 rfl rfl)
theorem dX2_next_21 : decode cX2_next 21 = .ok (.aload_n 0, 1) := dk_42 (dk_at dksX2_next_0 21 rfl rfl)
theorem dX2_next_22 : decode cX2_next 22 = .ok (.iload_n 1, 1) := dk_27 (dk_at dksX2_next_0 22 rfl rfl)
theorem dX2_next_23 : decode cX2_next 23 = .ok (.putfield 26, 3) := dk_181 0 26 (dk_at dksX2_next_1 0 rfl rfl)
theorem dX2_next_26 : decode cX2_next 26 = .ok (.aload_n 0, 1) := dk_42 (dk_at dksX2_next_1 3 rfl rfl)
theorem dX2_next_27 : decode cX2_next 27 = .ok (.iload_n 1, 1) := dk_27 (dk_at dksX2_next_1 4 rfl rfl)
theorem dX2_next_28 : decode cX2_next 28 = .ok (.iconst 1, 1) := dk_4 (dk_at dksX2_next_1 5 rfl rfl)
theorem dX2_next_29 : decode cX2_next 29 = .ok (.iadd, 1) := dk_96 (dk_at dksX2_next_1 6 rfl rfl)
theorem dX2_next_30 : decode cX2_next 30 = .ok (.putfield 40, 3) := dk_181 0 40 (dk_at dksX2_next_1 7 rfl rfl)
theorem dX2_next_33 : decode cX2_next 33 = .ok (.aload_n 0, 1) := dk_42 (dk_at dksX2_next_1 10 rfl rfl)
theorem dX2_next_34 : decode cX2_next 34 = .ok (.iload_n 1, 1) := dk_27 (dk_at dksX2_next_1 11 rfl rfl)
theorem dX2_next_35 : decode cX2_next 35 = .ok (.invokevirtual 43, 3) := dk_182 0 43 (dk_at dksX2_next_1 12 rfl rfl)
theorem dX2_next_38 : decode cX2_next 38 = .ok (.istore_n 2, 1) := dk_61 (dk_at dksX2_next_1 15 rfl rfl)
theorem dX2_next_39 : decode cX2_next 39 = .ok (.iload_n 2, 1) := dk_28 (dk_at dksX2_next_1 16 rfl rfl)
theorem dX2_next_40 : decode cX2_next 40 = .ok (.iconst (-1), 1) := dk_2 (dk_at dksX2_next_1 17 rfl rfl)
theorem dX2_next_41 : decode cX2_next 41 = .ok (.if_icmp .ne 16, 3) := dk_160 0 16 (dk_at dksX2_next_1 18 rfl rfl)
theorem dX2_next_44 : decode cX2_next 44 = .ok (.aload_n 0, 1) := dk_42 (dk_at dksX2_next_1 21 rfl rfl)
theorem dX2_next_45 : decode cX2_next 45 = .ok (.iconst 0, 1) := dk_3 (dk_at dksX2_next_1 22 rfl rfl)
theorem dX2_next_46 : decode cX2_next 46 = .ok (.putfield 47, 3) := dk_181 0 47 (dk_at dksX2_next_2 0 rfl rfl)
theorem dX2_next_49 : decode cX2_next 49 = .ok (.aload_n 0, 1) := dk_42 (dk_at dksX2_next_2 3 rfl rfl)
theorem dX2_next_50 : decode cX2_next 50 = .ok (.iload_n 1, 1) := dk_27 (dk_at dksX2_next_2 4 rfl rfl)
theorem dX2_next_51 : decode cX2_next 51 = .ok (.putfield 40, 3) := dk_181 0 40 (dk_at dksX2_next_2 5 rfl rfl)
theorem dX2_next_54 : decode cX2_next 54 = .ok (.goto 251, 3) := dk_167 0 251 (dk_at dksX2_next_2 8 rfl rfl)
theorem dX2_next_57 : decode cX2_next 57 = .ok (.iload_n 2, 1) := dk_28 (dk_at dksX2_next_2 11 rfl rfl)
theorem dX2_next_58 : decode cX2_next 58 = .ok (.invokestatic 50, 3) := dk_184 0 50 (dk_at dksX2_next_2 12 rfl rfl)
theorem dX2_next_61 : decode cX2_next 61 = .ok (.ifCond .eq 124, 3) := dk_153 0 124 (dk_at dksX2_next_2 15 rfl rfl)
theorem dX2_next_64 : decode cX2_next 64 = .ok (.aload_n 0, 1) := dk_42 (dk_at dksX2_next_2 18 rfl rfl)
theorem dX2_next_65 : decode cX2_next 65 = .ok (.iload_n 1, 1) := dk_27 (dk_at dksX2_next_2 19 rfl rfl)
theorem dX2_next_66 : decode cX2_next 66 = .ok (.putfield 40, 3) := dk_181 0 40 (dk_at dksX2_next_2 20 rfl rfl)
theorem dX2_next_69 : decode cX2_next 69 = .ok (.aload_n 0, 1) := dk_42 (dk_at dksX2_next_2 23 rfl rfl)
theorem dX2_next_70 : decode cX2_next 70 = .ok (.aload_n 0, 1) := dk_42 (dk_at dksX2_next_3 0 rfl rfl)
theorem dX2_next_71 : decode cX2_next 71 = .ok (.getfield 40, 3) := dk_180 0 40 (dk_at dksX2_next_3 1 rfl rfl)
theorem dX2_next_74 : decode cX2_next 74 = .ok (.invokevirtual 43, 3) := dk_182 0 43 (dk_at dksX2_next_3 4 rfl rfl)
theorem dX2_next_77 : decode cX2_next 77 = .ok (.invokestatic 50, 3) := dk_184 0 50 (dk_at dksX2_next_3 7 rfl rfl)
theorem dX2_next_80 : decode cX2_next 80 = .ok (.ifCond .eq 47, 3) := dk_153 0 47 (dk_at dksX2_next_3 10 rfl rfl)
theorem dX2_next_83 : decode cX2_next 83 = .ok (.aload_n 0, 1) := dk_42 (dk_at dksX2_next_3 13 rfl rfl)
theorem dX2_next_84 : decode cX2_next 84 = .ok (.getfield 40, 3) := dk_180 0 40 (dk_at dksX2_next_3 14 rfl rfl)
theorem dX2_next_87 : decode cX2_next 87 = .ok (.iload_n 1, 1) := dk_27 (dk_at dksX2_next_3 17 rfl rfl)
theorem dX2_next_88 : decode cX2_next 88 = .ok (.isub, 1) := dk_100 (dk_at dksX2_next_3 18 rfl rfl)
theorem dX2_next_89 : decode cX2_next 89 = .ok (.bipush 8, 2) := dk_16 8 (dk_at dksX2_next_3 19 rfl rfl)
theorem dX2_next_91 : decode cX2_next 91 = .ok (.if_icmp .ge 23, 3) := dk_162 0 23 (dk_at dksX2_next_3 21 rfl rfl)
theorem dX2_next_94 : decode cX2_next 94 = .ok (.aload_n 0, 1) := dk_42 (dk_at dksX2_next_4 0 rfl rfl)
theorem dX2_next_95 : decode cX2_next 95 = .ok (.getfield 18, 3) := dk_180 0 18 (dk_at dksX2_next_4 1 rfl rfl)
theorem dX2_next_98 : decode cX2_next 98 = .ok (.aload_n 0, 1) := dk_42 (dk_at dksX2_next_4 4 rfl rfl)
theorem dX2_next_99 : decode cX2_next 99 = .ok (.getfield 40, 3) := dk_180 0 40 (dk_at dksX2_next_4 5 rfl rfl)
theorem dX2_next_102 : decode cX2_next 102 = .ok (.iload_n 1, 1) := dk_27 (dk_at dksX2_next_4 8 rfl rfl)
theorem dX2_next_103 : decode cX2_next 103 = .ok (.isub, 1) := dk_100 (dk_at dksX2_next_4 9 rfl rfl)
theorem dX2_next_104 : decode cX2_next 104 = .ok (.aload_n 0, 1) := dk_42 (dk_at dksX2_next_4 10 rfl rfl)
theorem dX2_next_105 : decode cX2_next 105 = .ok (.aload_n 0, 1) := dk_42 (dk_at dksX2_next_4 11 rfl rfl)
theorem dX2_next_106 : decode cX2_next 106 = .ok (.getfield 40, 3) := dk_180 0 40 (dk_at dksX2_next_4 12 rfl rfl)
theorem dX2_next_109 : decode cX2_next 109 = .ok (.invokevirtual 43, 3) := dk_182 0 43 (dk_at dksX2_next_4 15 rfl rfl)
theorem dX2_next_112 : decode cX2_next 112 = .ok (.i2c, 1) := dk_146 (dk_at dksX2_next_4 18 rfl rfl)
theorem dX2_next_113 : decode cX2_next 113 = .ok (.castore, 1) := dk_85 (dk_at dksX2_next_4 19 rfl rfl)
theorem dX2_next_114 : decode cX2_next 114 = .ok (.aload_n 0, 1) := dk_42 (dk_at dksX2_next_4 20 rfl rfl)
theorem dX2_next_115 : decode cX2_next 115 = .ok (.dup, 1) := dk_89 (dk_at dksX2_next_4 21 rfl rfl)
theorem dX2_next_116 : decode cX2_next 116 = .ok (.getfield 40, 3) := dk_180 0 40 (dk_at dksX2_next_5 0 rfl rfl)
theorem dX2_next_119 : decode cX2_next 119 = .ok (.iconst 1, 1) := dk_4 (dk_at dksX2_next_5 3 rfl rfl)
theorem dX2_next_120 : decode cX2_next 120 = .ok (.iadd, 1) := dk_96 (dk_at dksX2_next_5 4 rfl rfl)
theorem dX2_next_121 : decode cX2_next 121 = .ok (.putfield 40, 3) := dk_181 0 40 (dk_at dksX2_next_5 5 rfl rfl)
theorem dX2_next_124 : decode cX2_next 124 = .ok (.goto (-55), 3) := dk_167 255 201 (dk_at dksX2_next_5 8 rfl rfl)
theorem dX2_next_127 : decode cX2_next 127 = .ok (.aload_n 0, 1) := dk_42 (dk_at dksX2_next_5 11 rfl rfl)
theorem dX2_next_128 : decode cX2_next 128 = .ok (.aload_n 0, 1) := dk_42 (dk_at dksX2_next_5 12 rfl rfl)
theorem dX2_next_129 : decode cX2_next 129 = .ok (.getfield 40, 3) := dk_180 0 40 (dk_at dksX2_next_5 13 rfl rfl)
theorem dX2_next_132 : decode cX2_next 132 = .ok (.iload_n 1, 1) := dk_27 (dk_at dksX2_next_5 16 rfl rfl)
theorem dX2_next_133 : decode cX2_next 133 = .ok (.isub, 1) := dk_100 (dk_at dksX2_next_5 17 rfl rfl)
theorem dX2_next_134 : decode cX2_next 134 = .ok (.bipush 8, 2) := dk_16 8 (dk_at dksX2_next_5 18 rfl rfl)
theorem dX2_next_136 : decode cX2_next 136 = .ok (.if_icmp .le 7, 3) := dk_164 0 7 (dk_at dksX2_next_5 20 rfl rfl)
theorem dX2_next_139 : decode cX2_next 139 = .ok (.iconst 1, 1) := dk_4 (dk_at dksX2_next_5 23 rfl rfl)
theorem dX2_next_140 : decode cX2_next 140 = .ok (.goto 4, 3) := dk_167 0 4 (dk_at dksX2_next_6 0 rfl rfl)
theorem dX2_next_143 : decode cX2_next 143 = .ok (.iconst 2, 1) := dk_5 (dk_at dksX2_next_6 3 rfl rfl)
theorem dX2_next_144 : decode cX2_next 144 = .ok (.putfield 47, 3) := dk_181 0 47 (dk_at dksX2_next_6 4 rfl rfl)
theorem dX2_next_147 : decode cX2_next 147 = .ok (.aload_n 0, 1) := dk_42 (dk_at dksX2_next_6 7 rfl rfl)
theorem dX2_next_148 : decode cX2_next 148 = .ok (.aload_n 0, 1) := dk_42 (dk_at dksX2_next_6 8 rfl rfl)
theorem dX2_next_149 : decode cX2_next 149 = .ok (.getfield 47, 3) := dk_180 0 47 (dk_at dksX2_next_6 9 rfl rfl)
theorem dX2_next_152 : decode cX2_next 152 = .ok (.iconst 2, 1) := dk_5 (dk_at dksX2_next_6 12 rfl rfl)
theorem dX2_next_153 : decode cX2_next 153 = .ok (.if_icmp .ne 24, 3) := dk_160 0 24 (dk_at dksX2_next_6 13 rfl rfl)
theorem dX2_next_156 : decode cX2_next 156 = .ok (.new 54, 3) := dk_187 0 54 (dk_at dksX2_next_6 16 rfl rfl)
theorem dX2_next_159 : decode cX2_next 159 = .ok (.dup, 1) := dk_89 (dk_at dksX2_next_6 19 rfl rfl)
theorem dX2_next_160 : decode cX2_next 160 = .ok (.aload_n 0, 1) := dk_42 (dk_at dksX2_next_6 20 rfl rfl)
theorem dX2_next_161 : decode cX2_next 161 = .ok (.getfield 18, 3) := dk_180 0 18 (dk_at dksX2_next_6 21 rfl rfl)
theorem dX2_next_164 : decode cX2_next 164 = .ok (.iconst 0, 1) := dk_3 (dk_at dksX2_next_7 0 rfl rfl)
theorem dX2_next_165 : decode cX2_next 165 = .ok (.aload_n 0, 1) := dk_42 (dk_at dksX2_next_7 1 rfl rfl)
theorem dX2_next_166 : decode cX2_next 166 = .ok (.getfield 40, 3) := dk_180 0 40 (dk_at dksX2_next_7 2 rfl rfl)
theorem dX2_next_169 : decode cX2_next 169 = .ok (.iload_n 1, 1) := dk_27 (dk_at dksX2_next_7 5 rfl rfl)
theorem dX2_next_170 : decode cX2_next 170 = .ok (.isub, 1) := dk_100 (dk_at dksX2_next_7 6 rfl rfl)
theorem dX2_next_171 : decode cX2_next 171 = .ok (.invokespecial 56, 3) := dk_183 0 56 (dk_at dksX2_next_7 7 rfl rfl)
theorem dX2_next_174 : decode cX2_next 174 = .ok (.goto 5, 3) := dk_167 0 5 (dk_at dksX2_next_7 10 rfl rfl)
theorem dX2_next_177 : decode cX2_next 177 = .ok (.ldc 59, 2) := dk_18 59 (dk_at dksX2_next_7 13 rfl rfl)
theorem dX2_next_179 : decode cX2_next 179 = .ok (.putfield 61, 3) := dk_181 0 61 (dk_at dksX2_next_7 15 rfl rfl)
theorem dX2_next_182 : decode cX2_next 182 = .ok (.goto 123, 3) := dk_167 0 123 (dk_at dksX2_next_7 18 rfl rfl)
theorem dX2_next_185 : decode cX2_next 185 = .ok (.iload_n 2, 1) := dk_28 (dk_at dksX2_next_7 21 rfl rfl)
theorem dX2_next_186 : decode cX2_next 186 = .ok (.invokestatic 65, 3) := dk_184 0 65 (dk_at dksX2_next_8 0 rfl rfl)
theorem dX2_next_189 : decode cX2_next 189 = .ok (.ifCond .eq 95, 3) := dk_153 0 95 (dk_at dksX2_next_8 3 rfl rfl)
theorem dX2_next_192 : decode cX2_next 192 = .ok (.aload_n 0, 1) := dk_42 (dk_at dksX2_next_8 6 rfl rfl)
theorem dX2_next_193 : decode cX2_next 193 = .ok (.iconst 0, 1) := dk_3 (dk_at dksX2_next_8 7 rfl rfl)
theorem dX2_next_194 : decode cX2_next 194 = .ok (.putfield 68, 3) := dk_181 0 68 (dk_at dksX2_next_8 8 rfl rfl)
theorem dX2_next_197 : decode cX2_next 197 = .ok (.aload_n 0, 1) := dk_42 (dk_at dksX2_next_8 11 rfl rfl)
theorem dX2_next_198 : decode cX2_next 198 = .ok (.iload_n 1, 1) := dk_27 (dk_at dksX2_next_8 12 rfl rfl)
theorem dX2_next_199 : decode cX2_next 199 = .ok (.putfield 40, 3) := dk_181 0 40 (dk_at dksX2_next_8 13 rfl rfl)
theorem dX2_next_202 : decode cX2_next 202 = .ok (.aload_n 0, 1) := dk_42 (dk_at dksX2_next_8 16 rfl rfl)
theorem dX2_next_203 : decode cX2_next 203 = .ok (.aload_n 0, 1) := dk_42 (dk_at dksX2_next_8 17 rfl rfl)
theorem dX2_next_204 : decode cX2_next 204 = .ok (.getfield 40, 3) := dk_180 0 40 (dk_at dksX2_next_8 18 rfl rfl)
theorem dX2_next_207 : decode cX2_next 207 = .ok (.invokevirtual 43, 3) := dk_182 0 43 (dk_at dksX2_next_8 21 rfl rfl)
theorem dX2_next_210 : decode cX2_next 210 = .ok (.invokestatic 65, 3) := dk_184 0 65 (dk_at dksX2_next_9 0 rfl rfl)
theorem dX2_next_213 : decode cX2_next 213 = .ok (.ifCond .eq 49, 3) := dk_153 0 49 (dk_at dksX2_next_9 3 rfl rfl)
theorem dX2_next_216 : decode cX2_next 216 = .ok (.aload_n 0, 1) := dk_42 (dk_at dksX2_next_9 6 rfl rfl)
theorem dX2_next_217 : decode cX2_next 217 = .ok (.getfield 40, 3) := dk_180 0 40 (dk_at dksX2_next_9 7 rfl rfl)
theorem dX2_next_220 : decode cX2_next 220 = .ok (.iload_n 1, 1) := dk_27 (dk_at dksX2_next_9 10 rfl rfl)
theorem dX2_next_221 : decode cX2_next 221 = .ok (.isub, 1) := dk_100 (dk_at dksX2_next_9 11 rfl rfl)
theorem dX2_next_222 : decode cX2_next 222 = .ok (.iconst 3, 1) := dk_6 (dk_at dksX2_next_9 12 rfl rfl)
theorem dX2_next_223 : decode cX2_next 223 = .ok (.if_icmp .ge 26, 3) := dk_162 0 26 (dk_at dksX2_next_9 13 rfl rfl)
theorem dX2_next_226 : decode cX2_next 226 = .ok (.aload_n 0, 1) := dk_42 (dk_at dksX2_next_9 16 rfl rfl)
theorem dX2_next_227 : decode cX2_next 227 = .ok (.bipush 10, 2) := dk_16 10 (dk_at dksX2_next_9 17 rfl rfl)
theorem dX2_next_229 : decode cX2_next 229 = .ok (.aload_n 0, 1) := dk_42 (dk_at dksX2_next_9 19 rfl rfl)
theorem dX2_next_230 : decode cX2_next 230 = .ok (.getfield 68, 3) := dk_180 0 68 (dk_at dksX2_next_9 20 rfl rfl)
theorem dX2_next_233 : decode cX2_next 233 = .ok (.imul, 1) := dk_104 (dk_at dksX2_next_9 23 rfl rfl)
theorem dX2_next_234 : decode cX2_next 234 = .ok (.aload_n 0, 1) := dk_42 (dk_at dksX2_next_10 0 rfl rfl)
theorem dX2_next_235 : decode cX2_next 235 = .ok (.aload_n 0, 1) := dk_42 (dk_at dksX2_next_10 1 rfl rfl)
theorem dX2_next_236 : decode cX2_next 236 = .ok (.getfield 40, 3) := dk_180 0 40 (dk_at dksX2_next_10 2 rfl rfl)
theorem dX2_next_239 : decode cX2_next 239 = .ok (.invokevirtual 43, 3) := dk_182 0 43 (dk_at dksX2_next_10 5 rfl rfl)
theorem dX2_next_242 : decode cX2_next 242 = .ok (.iadd, 1) := dk_96 (dk_at dksX2_next_10 8 rfl rfl)
theorem dX2_next_243 : decode cX2_next 243 = .ok (.bipush 48, 2) := dk_16 48 (dk_at dksX2_next_10 9 rfl rfl)
theorem dX2_next_245 : decode cX2_next 245 = .ok (.isub, 1) := dk_100 (dk_at dksX2_next_10 11 rfl rfl)
theorem dX2_next_246 : decode cX2_next 246 = .ok (.putfield 68, 3) := dk_181 0 68 (dk_at dksX2_next_10 12 rfl rfl)
theorem dX2_next_249 : decode cX2_next 249 = .ok (.aload_n 0, 1) := dk_42 (dk_at dksX2_next_10 15 rfl rfl)
theorem dX2_next_250 : decode cX2_next 250 = .ok (.dup, 1) := dk_89 (dk_at dksX2_next_10 16 rfl rfl)
theorem dX2_next_251 : decode cX2_next 251 = .ok (.getfield 40, 3) := dk_180 0 40 (dk_at dksX2_next_10 17 rfl rfl)
theorem dX2_next_254 : decode cX2_next 254 = .ok (.iconst 1, 1) := dk_4 (dk_at dksX2_next_10 20 rfl rfl)
theorem dX2_next_255 : decode cX2_next 255 = .ok (.iadd, 1) := dk_96 (dk_at dksX2_next_10 21 rfl rfl)
theorem dX2_next_256 : decode cX2_next 256 = .ok (.putfield 40, 3) := dk_181 0 40 (dk_at dksX2_next_11 0 rfl rfl)
theorem dX2_next_259 : decode cX2_next 259 = .ok (.goto (-57), 3) := dk_167 255 199 (dk_at dksX2_next_11 3 rfl rfl)
theorem dX2_next_262 : decode cX2_next 262 = .ok (.aload_n 0, 1) := dk_42 (dk_at dksX2_next_11 6 rfl rfl)
theorem dX2_next_263 : decode cX2_next 263 = .ok (.aload_n 0, 1) := dk_42 (dk_at dksX2_next_11 7 rfl rfl)
theorem dX2_next_264 : decode cX2_next 264 = .ok (.getfield 40, 3) := dk_180 0 40 (dk_at dksX2_next_11 8 rfl rfl)
theorem dX2_next_267 : decode cX2_next 267 = .ok (.iload_n 1, 1) := dk_27 (dk_at dksX2_next_11 11 rfl rfl)
theorem dX2_next_268 : decode cX2_next 268 = .ok (.isub, 1) := dk_100 (dk_at dksX2_next_11 12 rfl rfl)
theorem dX2_next_269 : decode cX2_next 269 = .ok (.iconst 3, 1) := dk_6 (dk_at dksX2_next_11 13 rfl rfl)
theorem dX2_next_270 : decode cX2_next 270 = .ok (.if_icmp .le 7, 3) := dk_164 0 7 (dk_at dksX2_next_11 14 rfl rfl)
theorem dX2_next_273 : decode cX2_next 273 = .ok (.iconst 1, 1) := dk_4 (dk_at dksX2_next_11 17 rfl rfl)
theorem dX2_next_274 : decode cX2_next 274 = .ok (.goto 4, 3) := dk_167 0 4 (dk_at dksX2_next_11 18 rfl rfl)
theorem dX2_next_277 : decode cX2_next 277 = .ok (.iconst 3, 1) := dk_6 (dk_at dksX2_next_11 21 rfl rfl)
theorem dX2_next_278 : decode cX2_next 278 = .ok (.putfield 47, 3) := dk_181 0 47 (dk_at dksX2_next_12 0 rfl rfl)
theorem dX2_next_281 : decode cX2_next 281 = .ok (.goto 24, 3) := dk_167 0 24 (dk_at dksX2_next_12 3 rfl rfl)
theorem dX2_next_284 : decode cX2_next 284 = .ok (.aload_n 0, 1) := dk_42 (dk_at dksX2_next_12 6 rfl rfl)
theorem dX2_next_285 : decode cX2_next 285 = .ok (.iload_n 2, 1) := dk_28 (dk_at dksX2_next_12 7 rfl rfl)
theorem dX2_next_286 : decode cX2_next 286 = .ok (.bipush 59, 2) := dk_16 59 (dk_at dksX2_next_12 8 rfl rfl)
theorem dX2_next_288 : decode cX2_next 288 = .ok (.if_icmp .eq 9, 3) := dk_159 0 9 (dk_at dksX2_next_12 10 rfl rfl)
theorem dX2_next_291 : decode cX2_next 291 = .ok (.iload_n 2, 1) := dk_28 (dk_at dksX2_next_12 13 rfl rfl)
theorem dX2_next_292 : decode cX2_next 292 = .ok (.bipush 44, 2) := dk_16 44 (dk_at dksX2_next_12 14 rfl rfl)
theorem dX2_next_294 : decode cX2_next 294 = .ok (.if_icmp .ne 7, 3) := dk_160 0 7 (dk_at dksX2_next_12 16 rfl rfl)
theorem dX2_next_297 : decode cX2_next 297 = .ok (.iload_n 2, 1) := dk_28 (dk_at dksX2_next_12 19 rfl rfl)
theorem dX2_next_298 : decode cX2_next 298 = .ok (.goto 4, 3) := dk_167 0 4 (dk_at dksX2_next_12 20 rfl rfl)
theorem dX2_next_301 : decode cX2_next 301 = .ok (.iconst 1, 1) := dk_4 (dk_at dksX2_next_12 23 rfl rfl)
theorem dX2_next_302 : decode cX2_next 302 = .ok (.putfield 47, 3) := dk_181 0 47 (dk_at dksX2_next_13 0 rfl rfl)
theorem dX2_next_305 : decode cX2_next 305 = .ok (.return_, 1) := dk_177 (dk_at dksX2_next_13 3 rfl rfl)
def dkwX3_at_0 : List UInt8 := [42, 27, 181, 0, 15, 42, 28, 181, 0, 9, 42, 176]
abbrev dktX3_at_0 : List UInt8 := dkwX3_at_0 ++ []
theorem dksX3_at_0 : cX3_at.data.toList.drop 0 = dktX3_at_0 := by decide +kernel
theorem dX3_at_0 : decode cX3_at 0 = .ok (.aload_n 0, 1) := dk_42 (dk_at dksX3_at_0 0 rfl rfl)
theorem dX3_at_1 : decode cX3_at 1 = .ok (.iload_n 1, 1) := dk_27 (dk_at dksX3_at_0 1 rfl rfl)
theorem dX3_at_2 : decode cX3_at 2 = .ok (.putfield 15, 3) := dk_181 0 15 (dk_at dksX3_at_0 2 rfl rfl)
theorem dX3_at_5 : decode cX3_at 5 = .ok (.aload_n 0, 1) := dk_42 (dk_at dksX3_at_0 5 rfl rfl)
theorem dX3_at_6 : decode cX3_at 6 = .ok (.iload_n 2, 1) := dk_28 (dk_at dksX3_at_0 6 rfl rfl)
theorem dX3_at_7 : decode cX3_at 7 = .ok (.putfield 9, 3) := dk_181 0 9 (dk_at dksX3_at_0 7 rfl rfl)
theorem dX3_at_10 : decode cX3_at 10 = .ok (.aload_n 0, 1) := dk_42 (dk_at dksX3_at_0 10 rfl rfl)
theorem dX3_at_11 : decode cX3_at 11 = .ok (.areturn, 1) := dk_176 (dk_at dksX3_at_0 11 rfl rfl)
def dkwX2_fail_0 : List UInt8 := [42, 180, 0, 12, 27, 42, 180, 0, 26, 182, 0, 30, 176]
abbrev dktX2_fail_0 : List UInt8 := dkwX2_fail_0 ++ []
theorem dksX2_fail_0 : cX2_fail.data.toList.drop 0 = dktX2_fail_0 := by decide +kernel
theorem dX2_fail_0 : decode cX2_fail 0 = .ok (.aload_n 0, 1) := dk_42 (dk_at dksX2_fail_0 0 rfl rfl)
theorem dX2_fail_1 : decode cX2_fail 1 = .ok (.getfield 12, 3) := dk_180 0 12 (dk_at dksX2_fail_0 1 rfl rfl)
theorem dX2_fail_4 : decode cX2_fail 4 = .ok (.iload_n 1, 1) := dk_27 (dk_at dksX2_fail_0 4 rfl rfl)
theorem dX2_fail_5 : decode cX2_fail 5 = .ok (.aload_n 0, 1) := dk_42 (dk_at dksX2_fail_0 5 rfl rfl)
theorem dX2_fail_6 : decode cX2_fail 6 = .ok (.getfield 26, 3) := dk_180 0 26 (dk_at dksX2_fail_0 6 rfl rfl)
theorem dX2_fail_9 : decode cX2_fail 9 = .ok (.invokevirtual 30, 3) := dk_182 0 30 (dk_at dksX2_fail_0 9 rfl rfl)
theorem dX2_fail_12 : decode cX2_fail 12 = .ok (.areturn, 1) := dk_176 (dk_at dksX2_fail_0 12 rfl rfl)
def dkwJ3_isLatin1_0 : List UInt8 := [178, 0, 38, 153, 0, 14, 42, 180, 0, 15, 154, 0, 7, 4, 167, 0, 4, 3, 172]
abbrev dktJ3_isLatin1_0 : List UInt8 := dkwJ3_isLatin1_0 ++ []
theorem dksJ3_isLatin1_0 : cJ3_isLatin1.data.toList.drop 0 = dktJ3_isLatin1_0 := by decide +kernel
theorem dJ3_isLatin1_0 : decode cJ3_isLatin1 0 = .ok (.getstatic 38, 3) := dk_178 0 38 (dk_at dksJ3_isLatin1_0 0 rfl rfl)
theorem dJ3_isLatin1_3 : decode cJ3_isLatin1 3 = .ok (.ifCond .eq 14, 3) := dk_153 0 14 (dk_at dksJ3_isLatin1_0 3 rfl rfl)
theorem dJ3_isLatin1_6 : decode cJ3_isLatin1 6 = .ok (.aload_n 0, 1) := dk_42 (dk_at dksJ3_isLatin1_0 6 rfl rfl)
theorem dJ3_isLatin1_7 : decode cJ3_isLatin1 7 = .ok (.getfield 15, 3) := dk_180 0 15 (dk_at dksJ3_isLatin1_0 7 rfl rfl)
theorem dJ3_isLatin1_10 : decode cJ3_isLatin1 10 = .ok (.ifCond .ne 7, 3) := dk_154 0 7 (dk_at dksJ3_isLatin1_0 10 rfl rfl)
theorem dJ3_isLatin1_13 : decode cJ3_isLatin1 13 = .ok (.iconst 1, 1) := dk_4 (dk_at dksJ3_isLatin1_0 13 rfl rfl)
theorem dJ3_isLatin1_14 : decode cJ3_isLatin1 14 = .ok (.goto 4, 3) := dk_167 0 4 (dk_at dksJ3_isLatin1_0 14 rfl rfl)
theorem dJ3_isLatin1_17 : decode cJ3_isLatin1 17 = .ok (.iconst 0, 1) := dk_3 (dk_at dksJ3_isLatin1_0 17 rfl rfl)
theorem dJ3_isLatin1_18 : decode cJ3_isLatin1 18 = .ok (.ireturn, 1) := dk_172 (dk_at dksJ3_isLatin1_0 18 rfl rfl)
def dkwJ7_signedHashCode_1 : List UInt8 := [17, 0, 255, 126, 96, 59, 132, 5, 1, 167, 255, 232, 26, 172]
abbrev dktJ7_signedHashCode_1 : List UInt8 := dkwJ7_signedHashCode_1 ++ []
def dkwJ7_signedHashCode_0 : List UInt8 := [28, 29, 96, 54, 4, 28, 54, 5, 21, 5, 21, 4, 162, 0, 23, 16, 31, 26, 104, 43, 21, 5, 51]
abbrev dktJ7_signedHashCode_0 : List UInt8 := dkwJ7_signedHashCode_0 ++ dktJ7_signedHashCode_1
theorem dksJ7_signedHashCode_0 : cJ7_signedHashCode.data.toList.drop 0 = dktJ7_signedHashCode_0 := by decide +kernel
theorem dksJ7_signedHashCode_1 : cJ7_signedHashCode.data.toList.drop 23 = dktJ7_signedHashCode_1 := dk_seg dksJ7_signedHashCode_0 23 rfl rfl
theorem dJ7_signedHashCode_0 : decode cJ7_signedHashCode 0 = .ok (.iload_n 2, 1) := dk_28 (dk_at dksJ7_signedHashCode_0 0 rfl rfl)
theorem dJ7_signedHashCode_1 : decode cJ7_signedHashCode 1 = .ok (.iload_n 3, 1) := dk_29 (dk_at dksJ7_signedHashCode_0 1 rfl rfl)
theorem dJ7_signedHashCode_2 : decode cJ7_signedHashCode 2 = .ok (.iadd, 1) := dk_96 (dk_at dksJ7_signedHashCode_0 2 rfl rfl)
theorem dJ7_signedHashCode_3 : decode cJ7_signedHashCode 3 = .ok (.istore 4, 2) := dk_54 4 (dk_at dksJ7_signedHashCode_0 3 rfl rfl)
theorem dJ7_signedHashCode_5 : decode cJ7_signedHashCode 5 = .ok (.iload_n 2, 1) := dk_28 (dk_at dksJ7_signedHashCode_0 5 rfl rfl)
theorem dJ7_signedHashCode_6 : decode cJ7_signedHashCode 6 = .ok (.istore 5, 2) := dk_54 5 (dk_at dksJ7_signedHashCode_0 6 rfl rfl)
theorem dJ7_signedHashCode_8 : decode cJ7_signedHashCode 8 = .ok (.iload 5, 2) := dk_21 5 (dk_at dksJ7_signedHashCode_0 8 rfl rfl)
theorem dJ7_signedHashCode_10 : decode cJ7_signedHashCode 10 = .ok (.iload 4, 2) := dk_21 4 (dk_at dksJ7_signedHashCode_0 10 rfl rfl)
theorem dJ7_signedHashCode_12 : decode cJ7_signedHashCode 12 = .ok (.if_icmp .ge 23, 3) := dk_162 0 23 (dk_at dksJ7_signedHashCode_0 12 rfl rfl)
theorem dJ7_signedHashCode_15 : decode cJ7_signedHashCode 15 = .ok (.bipush 31, 2) := dk_16 31 (dk_at dksJ7_signedHashCode_0 15 rfl rfl)
theorem dJ7_signedHashCode_17 : decode cJ7_signedHashCode 17 = .ok (.iload_n 0, 1) := dk_26 (dk_at dksJ7_signedHashCode_0 17 rfl rfl)
theorem dJ7_signedHashCode_18 : decode cJ7_signedHashCode 18 = .ok (.imul, 1) := dk_104 (dk_at dksJ7_signedHashCode_0 18 rfl rfl)
theorem dJ7_signedHashCode_19 : decode cJ7_signedHashCode 19 = .ok (.aload_n 1, 1) := dk_43 (dk_at dksJ7_signedHashCode_0 19 rfl rfl)
theorem dJ7_signedHashCode_20 : decode cJ7_signedHashCode 20 = .ok (.iload 5, 2) := dk_21 5 (dk_at dksJ7_signedHashCode_0 20 rfl rfl)
theorem dJ7_signedHashCode_22 : decode cJ7_signedHashCode 22 = .ok (.baload, 1) := dk_51 (dk_at dksJ7_signedHashCode_0 22 rfl rfl)
theorem dJ7_signedHashCode_23 : decode cJ7_signedHashCode 23 = .ok (.sipush 255, 3) := dk_17 0 255 (dk_at dksJ7_signedHashCode_1 0 rfl rfl)
theorem dJ7_signedHashCode_26 : decode cJ7_signedHashCode 26 = .ok (.iand, 1) := dk_126 (dk_at dksJ7_signedHashCode_1 3 rfl rfl)
theorem dJ7_signedHashCode_27 : decode cJ7_signedHashCode 27 = .ok (.iadd, 1) := dk_96 (dk_at dksJ7_signedHashCode_1 4 rfl rfl)
theorem dJ7_signedHashCode_28 : decode cJ7_signedHashCode 28 = .ok (.istore_n 0, 1) := dk_59 (dk_at dksJ7_signedHashCode_1 5 rfl rfl)
theorem dJ7_signedHashCode_29 : decode cJ7_signedHashCode 29 = .ok (.iinc 5 1, 3) := dk_132 5 1 (dk_at dksJ7_signedHashCode_1 6 rfl rfl)
theorem dJ7_signedHashCode_32 : decode cJ7_signedHashCode 32 = .ok (.goto (-24), 3) := dk_167 255 232 (dk_at dksJ7_signedHashCode_1 9 rfl rfl)
theorem dJ7_signedHashCode_35 : decode cJ7_signedHashCode 35 = .ok (.iload_n 0, 1) := dk_26 (dk_at dksJ7_signedHashCode_1 12 rfl rfl)
theorem dJ7_signedHashCode_36 : decode cJ7_signedHashCode 36 = .ok (.ireturn, 1) := dk_172 (dk_at dksJ7_signedHashCode_1 13 rfl rfl)
theorem fp_J0_init_2_31 : FP mJ0_init_2 31 [22] 113 (.object "java/lang/String") := fun kd h => (by cases List.mem_singleton.mp h; exact ⟨2, _, 3, "java/lang/Throwable", rfl, rfl, by decide, rfl, rfl, Or.inl rfl, Or.inl ⟨rfl, Or.inl q273⟩⟩)
theorem fp_J0_init_2_7 : FP mJ0_init_2 7 [22] 110 (.object "java/lang/Throwable") := fun kd h => (by cases List.mem_singleton.mp h; exact ⟨2, _, 0, "java/lang/Throwable", rfl, rfl, by decide, rfl, rfl, Or.inl rfl, Or.inl ⟨rfl, Or.inl q274⟩⟩)
theorem fp_J0_init_2_24 : FP mJ0_init_2 24 [22] 112 (.object "java/util/List") := fun kd h => (by cases List.mem_singleton.mp h; exact ⟨2, _, 2, "java/lang/Throwable", rfl, rfl, by decide, rfl, rfl, Or.inl rfl, Or.inl ⟨rfl, Or.inl q276⟩⟩)
theorem fp_J0_init_2_17 : FP mJ0_init_2 17 [22] 111 (.array (.object "java/lang/StackTraceElement")) := fun kd h => (by cases List.mem_singleton.mp h; exact ⟨2, _, 1, "java/lang/Throwable", rfl, rfl, by decide, rfl, rfl, Or.inl rfl, Or.inl ⟨rfl, Or.inl q275⟩⟩)
theorem fp_X3_init_9 : FP mX3_init 9 [22] 1 (tyOf 0) := fun kd h => (by cases List.mem_singleton.mp h; exact ⟨2, _, 7, "GoatCourt$Refused", rfl, rfl, by decide, rfl, rfl, Or.inl rfl, Or.inl ⟨rfl, Or.inl q270⟩⟩)
theorem fp_X2_init_12 : FP mX2_init 12 [21] 0 (.object "GoatCourt$Refused") := fun kd h => (by cases List.mem_singleton.mp h; exact ⟨1, _, 0, "GoatCourt$Reader", rfl, rfl, by decide, rfl, rfl, Or.inl rfl, Or.inr ⟨rfl, q290, rfl, rfl⟩⟩)
theorem fp_X2_init_18 : FP mX2_init 18 [21] 2 (.array (.char)) := fun kd h => (by cases List.mem_singleton.mp h; exact ⟨1, _, 2, "GoatCourt$Reader", rfl, rfl, by decide, rfl, rfl, Or.inl rfl, Or.inr ⟨rfl, q292, rfl, rfl⟩⟩)
theorem fp_X2_init_22 : FP mX2_init 22 [21] 1 (.array (.byte)) := fun kd h => (by cases List.mem_singleton.mp h; exact ⟨1, _, 1, "GoatCourt$Reader", rfl, rfl, by decide, rfl, rfl, Or.inl rfl, Or.inr ⟨rfl, q291, rfl, rfl⟩⟩)
theorem fp_X4_init_9 : FP mX4_init 9 [23] 0 (.array (.int)) := fun kd h => (by cases List.mem_singleton.mp h; exact ⟨3, _, 0, "GoatCourt$Ground", rfl, rfl, by decide, rfl, rfl, Or.inl rfl, Or.inr ⟨rfl, q328, rfl, rfl⟩⟩)
theorem fp_X4_init_15 : FP mX4_init 15 [23] 1 (.array (.int)) := fun kd h => (by cases List.mem_singleton.mp h; exact ⟨3, _, 1, "GoatCourt$Ground", rfl, rfl, by decide, rfl, rfl, Or.inl rfl, Or.inr ⟨rfl, q329, rfl, rfl⟩⟩)
theorem fp_X5_init_9 : FP mX5_init 9 [24] 0 (.array (.int)) := fun kd h => (by cases List.mem_singleton.mp h; exact ⟨4, _, 0, "GoatCourt$Day", rfl, rfl, by decide, rfl, rfl, Or.inl rfl, Or.inr ⟨rfl, q351, rfl, rfl⟩⟩)
theorem fp_X5_init_15 : FP mX5_init 15 [24] 1 (.array (.int)) := fun kd h => (by cases List.mem_singleton.mp h; exact ⟨4, _, 1, "GoatCourt$Day", rfl, rfl, by decide, rfl, rfl, Or.inl rfl, Or.inr ⟨rfl, q352, rfl, rfl⟩⟩)
theorem fp_X5_init_18 : FP mX5_init 18 [24] 2 (.array (.int)) := fun kd h => (by cases List.mem_singleton.mp h; exact ⟨4, _, 2, "GoatCourt$Day", rfl, rfl, by decide, rfl, rfl, Or.inl rfl, Or.inr ⟨rfl, q353, rfl, rfl⟩⟩)
theorem fp_X5_init_21 : FP mX5_init 21 [24] 3 (.array (.int)) := fun kd h => (by cases List.mem_singleton.mp h; exact ⟨4, _, 3, "GoatCourt$Day", rfl, rfl, by decide, rfl, rfl, Or.inl rfl, Or.inr ⟨rfl, q354, rfl, rfl⟩⟩)
theorem fp_X5_init_24 : FP mX5_init 24 [24] 4 (.array (.int)) := fun kd h => (by cases List.mem_singleton.mp h; exact ⟨4, _, 4, "GoatCourt$Day", rfl, rfl, by decide, rfl, rfl, Or.inl rfl, Or.inr ⟨rfl, q355, rfl, rfl⟩⟩)
theorem fp_X5_init_27 : FP mX5_init 27 [24] 5 (.array (.int)) := fun kd h => (by cases List.mem_singleton.mp h; exact ⟨4, _, 5, "GoatCourt$Day", rfl, rfl, by decide, rfl, rfl, Or.inl rfl, Or.inr ⟨rfl, q356, rfl, rfl⟩⟩)
theorem fp_X5_init_30 : FP mX5_init 30 [24] 6 (.array (.int)) := fun kd h => (by cases List.mem_singleton.mp h; exact ⟨4, _, 6, "GoatCourt$Day", rfl, rfl, by decide, rfl, rfl, Or.inl rfl, Or.inr ⟨rfl, q357, rfl, rfl⟩⟩)
theorem fp_X6_init_9 : FP mX6_init 9 [25] 0 (.array (.int)) := fun kd h => (by cases List.mem_singleton.mp h; exact ⟨5, _, 0, "GoatCourt$Orders", rfl, rfl, by decide, rfl, rfl, Or.inl rfl, Or.inr ⟨rfl, q388, rfl, rfl⟩⟩)
theorem fp_X6_init_15 : FP mX6_init 15 [25] 1 (.array (.int)) := fun kd h => (by cases List.mem_singleton.mp h; exact ⟨5, _, 1, "GoatCourt$Orders", rfl, rfl, by decide, rfl, rfl, Or.inl rfl, Or.inr ⟨rfl, q389, rfl, rfl⟩⟩)
theorem fl_X1_61 : FL "GoatCourt" 61 [20] 15 (.array (.object "GoatCourt$Ground")) := fun kd h => (by cases List.mem_singleton.mp h; exact ⟨0, _, 15, "GoatCourt", rfl, rfl, by decide, rfl, rfl, Or.inl q417, Or.inl rfl⟩)
theorem fl_X1_57 : FL "GoatCourt" 57 [20] 14 (.array (.object "GoatCourt$Ground")) := fun kd h => (by cases List.mem_singleton.mp h; exact ⟨0, _, 14, "GoatCourt", rfl, rfl, by decide, rfl, rfl, Or.inl q416, Or.inl rfl⟩)
theorem fl_X1_13 : FL "GoatCourt" 13 [20] 0 (.array (.byte)) := fun kd h => (by cases List.mem_singleton.mp h; exact ⟨0, _, 0, "GoatCourt", rfl, rfl, by decide, rfl, rfl, Or.inl q402, Or.inl rfl⟩)
theorem fp_X1_init_13 : FP mX1_init 13 [20] 0 (.array (.byte)) := fun kd h => (by cases List.mem_singleton.mp h; exact ⟨0, _, 0, "GoatCourt", rfl, rfl, by decide, rfl, rfl, Or.inl rfl, Or.inr ⟨rfl, q402, rfl, rfl⟩⟩)
theorem fp_X1_init_22 : FP mX1_init 22 [20] 2 (.object "GoatCourt$Reader") := fun kd h => (by cases List.mem_singleton.mp h; exact ⟨0, _, 2, "GoatCourt", rfl, rfl, by decide, rfl, rfl, Or.inl rfl, Or.inr ⟨rfl, q404, rfl, rfl⟩⟩)
theorem fp_X1_init_26 : FP mX1_init 26 [20] 6 (tyOf 0) := fun kd h => (by cases List.mem_singleton.mp h; exact ⟨0, _, 6, "GoatCourt", rfl, rfl, by decide, rfl, rfl, Or.inl rfl, Or.inl ⟨rfl, Or.inl q408⟩⟩)
theorem fp_X1_init_33 : FP mX1_init 33 [20] 9 (.object "GoatCourt$Ground") := fun kd h => (by cases List.mem_singleton.mp h; exact ⟨0, _, 9, "GoatCourt", rfl, rfl, by decide, rfl, rfl, Or.inl rfl, Or.inr ⟨rfl, q411, rfl, rfl⟩⟩)
theorem fp_X1_init_37 : FP mX1_init 37 [20] 10 (.object "GoatCourt$Ground") := fun kd h => (by cases List.mem_singleton.mp h; exact ⟨0, _, 10, "GoatCourt", rfl, rfl, by decide, rfl, rfl, Or.inl rfl, Or.inr ⟨rfl, q412, rfl, rfl⟩⟩)
theorem fp_X1_init_40 : FP mX1_init 40 [20] 11 (.object "GoatCourt$Ground") := fun kd h => (by cases List.mem_singleton.mp h; exact ⟨0, _, 11, "GoatCourt", rfl, rfl, by decide, rfl, rfl, Or.inl rfl, Or.inr ⟨rfl, q413, rfl, rfl⟩⟩)
theorem fp_X1_init_46 : FP mX1_init 46 [20] 12 (.object "GoatCourt$Day") := fun kd h => (by cases List.mem_singleton.mp h; exact ⟨0, _, 12, "GoatCourt", rfl, rfl, by decide, rfl, rfl, Or.inl rfl, Or.inr ⟨rfl, q414, rfl, rfl⟩⟩)
theorem fp_X1_init_53 : FP mX1_init 53 [20] 13 (.object "GoatCourt$Orders") := fun kd h => (by cases List.mem_singleton.mp h; exact ⟨0, _, 13, "GoatCourt", rfl, rfl, by decide, rfl, rfl, Or.inl rfl, Or.inr ⟨rfl, q415, rfl, rfl⟩⟩)
theorem fp_X1_init_57 : FP mX1_init 57 [20] 14 (.array (.object "GoatCourt$Ground")) := fun kd h => (by cases List.mem_singleton.mp h; exact ⟨0, _, 14, "GoatCourt", rfl, rfl, by decide, rfl, rfl, Or.inl rfl, Or.inr ⟨rfl, q416, rfl, rfl⟩⟩)
theorem fp_X1_init_61 : FP mX1_init 61 [20] 15 (.array (.object "GoatCourt$Ground")) := fun kd h => (by cases List.mem_singleton.mp h; exact ⟨0, _, 15, "GoatCourt", rfl, rfl, by decide, rfl, rfl, Or.inl rfl, Or.inr ⟨rfl, q417, rfl, rfl⟩⟩)
theorem fp_X1_init_64 : FP mX1_init 64 [20] 16 (.array (.int)) := fun kd h => (by cases List.mem_singleton.mp h; exact ⟨0, _, 16, "GoatCourt", rfl, rfl, by decide, rfl, rfl, Or.inl rfl, Or.inr ⟨rfl, q418, rfl, rfl⟩⟩)
theorem fp_X1_init_68 : FP mX1_init 68 [20] 17 (.array (.int)) := fun kd h => (by cases List.mem_singleton.mp h; exact ⟨0, _, 17, "GoatCourt", rfl, rfl, by decide, rfl, rfl, Or.inl rfl, Or.inr ⟨rfl, q419, rfl, rfl⟩⟩)
theorem fp_X1_init_71 : FP mX1_init 71 [20] 21 (.array (.int)) := fun kd h => (by cases List.mem_singleton.mp h; exact ⟨0, _, 21, "GoatCourt", rfl, rfl, by decide, rfl, rfl, Or.inl rfl, Or.inr ⟨rfl, q423, rfl, rfl⟩⟩)
theorem fp_X1_init_74 : FP mX1_init 74 [20] 22 (.array (.int)) := fun kd h => (by cases List.mem_singleton.mp h; exact ⟨0, _, 22, "GoatCourt", rfl, rfl, by decide, rfl, rfl, Or.inl rfl, Or.inr ⟨rfl, q424, rfl, rfl⟩⟩)
theorem ia_GoatCourt_Ground : AaOK 5 [23] := fun kd h => (by cases List.mem_singleton.mp h; exact ⟨3, _, "GoatCourt$Ground", rfl, rfl, rfl, Or.inl rfl⟩)
theorem fp_X7_init_9 : FP mX7_init 9 [26] 2 (tyOf 0) := fun kd h => (by cases List.mem_singleton.mp h; exact ⟨6, _, 2, "GoatCourtModel", rfl, rfl, by decide, rfl, rfl, Or.inl rfl, Or.inl ⟨rfl, Or.inl q1891⟩⟩)
theorem fp_X7_init_13 : FP mX7_init 13 [26] 5 (.array (.byte)) := fun kd h => (by cases List.mem_singleton.mp h; exact ⟨6, _, 5, "GoatCourtModel", rfl, rfl, by decide, rfl, rfl, Or.inl rfl, Or.inr ⟨rfl, q1894, rfl, rfl⟩⟩)
theorem fp_X7_init_17 : FP mX7_init 17 [26] 16 (.array (.int)) := fun kd h => (by cases List.mem_singleton.mp h; exact ⟨6, _, 16, "GoatCourtModel", rfl, rfl, by decide, rfl, rfl, Or.inl rfl, Or.inr ⟨rfl, q1905, rfl, rfl⟩⟩)
theorem fp_X7_init_21 : FP mX7_init 21 [26] 18 (.array (.int)) := fun kd h => (by cases List.mem_singleton.mp h; exact ⟨6, _, 18, "GoatCourtModel", rfl, rfl, by decide, rfl, rfl, Or.inl rfl, Or.inr ⟨rfl, q1907, rfl, rfl⟩⟩)
theorem fp_X7_init_24 : FP mX7_init 24 [26] 19 (.array (.int)) := fun kd h => (by cases List.mem_singleton.mp h; exact ⟨6, _, 19, "GoatCourtModel", rfl, rfl, by decide, rfl, rfl, Or.inl rfl, Or.inr ⟨rfl, q1908, rfl, rfl⟩⟩)
theorem fp_X7_init_27 : FP mX7_init 27 [26] 20 (.array (.int)) := fun kd h => (by cases List.mem_singleton.mp h; exact ⟨6, _, 20, "GoatCourtModel", rfl, rfl, by decide, rfl, rfl, Or.inl rfl, Or.inr ⟨rfl, q1909, rfl, rfl⟩⟩)
theorem fp_X7_init_30 : FP mX7_init 30 [26] 23 (.array (.int)) := fun kd h => (by cases List.mem_singleton.mp h; exact ⟨6, _, 23, "GoatCourtModel", rfl, rfl, by decide, rfl, rfl, Or.inl rfl, Or.inr ⟨rfl, q1912, rfl, rfl⟩⟩)
theorem fp_X7_init_33 : FP mX7_init 33 [26] 24 (.array (.int)) := fun kd h => (by cases List.mem_singleton.mp h; exact ⟨6, _, 24, "GoatCourtModel", rfl, rfl, by decide, rfl, rfl, Or.inl rfl, Or.inr ⟨rfl, q1913, rfl, rfl⟩⟩)
theorem fp_X7_init_36 : FP mX7_init 36 [26] 25 (.array (.int)) := fun kd h => (by cases List.mem_singleton.mp h; exact ⟨6, _, 25, "GoatCourtModel", rfl, rfl, by decide, rfl, rfl, Or.inl rfl, Or.inr ⟨rfl, q1914, rfl, rfl⟩⟩)
theorem fp_X7_init_39 : FP mX7_init 39 [26] 26 (.array (.int)) := fun kd h => (by cases List.mem_singleton.mp h; exact ⟨6, _, 26, "GoatCourtModel", rfl, rfl, by decide, rfl, rfl, Or.inl rfl, Or.inr ⟨rfl, q1915, rfl, rfl⟩⟩)
theorem fp_X7_init_42 : FP mX7_init 42 [26] 27 (.array (.int)) := fun kd h => (by cases List.mem_singleton.mp h; exact ⟨6, _, 27, "GoatCourtModel", rfl, rfl, by decide, rfl, rfl, Or.inl rfl, Or.inr ⟨rfl, q1916, rfl, rfl⟩⟩)
theorem fp_X7_init_45 : FP mX7_init 45 [26] 28 (.array (.int)) := fun kd h => (by cases List.mem_singleton.mp h; exact ⟨6, _, 28, "GoatCourtModel", rfl, rfl, by decide, rfl, rfl, Or.inl rfl, Or.inr ⟨rfl, q1917, rfl, rfl⟩⟩)
theorem fp_X7_init_48 : FP mX7_init 48 [26] 29 (.array (.int)) := fun kd h => (by cases List.mem_singleton.mp h; exact ⟨6, _, 29, "GoatCourtModel", rfl, rfl, by decide, rfl, rfl, Or.inl rfl, Or.inr ⟨rfl, q1918, rfl, rfl⟩⟩)
theorem fp_X7_init_51 : FP mX7_init 51 [26] 32 (.array (.int)) := fun kd h => (by cases List.mem_singleton.mp h; exact ⟨6, _, 32, "GoatCourtModel", rfl, rfl, by decide, rfl, rfl, Or.inl rfl, Or.inr ⟨rfl, q1921, rfl, rfl⟩⟩)
theorem fp_X7_init_54 : FP mX7_init 54 [26] 33 (.array (.int)) := fun kd h => (by cases List.mem_singleton.mp h; exact ⟨6, _, 33, "GoatCourtModel", rfl, rfl, by decide, rfl, rfl, Or.inl rfl, Or.inr ⟨rfl, q1922, rfl, rfl⟩⟩)
theorem fp_X7_init_57 : FP mX7_init 57 [26] 34 (.array (.int)) := fun kd h => (by cases List.mem_singleton.mp h; exact ⟨6, _, 34, "GoatCourtModel", rfl, rfl, by decide, rfl, rfl, Or.inl rfl, Or.inr ⟨rfl, q1923, rfl, rfl⟩⟩)
theorem fp_X7_init_60 : FP mX7_init 60 [26] 37 (.array (.int)) := fun kd h => (by cases List.mem_singleton.mp h; exact ⟨6, _, 37, "GoatCourtModel", rfl, rfl, by decide, rfl, rfl, Or.inl rfl, Or.inr ⟨rfl, q1926, rfl, rfl⟩⟩)
theorem fp_X7_init_63 : FP mX7_init 63 [26] 38 (.array (.int)) := fun kd h => (by cases List.mem_singleton.mp h; exact ⟨6, _, 38, "GoatCourtModel", rfl, rfl, by decide, rfl, rfl, Or.inl rfl, Or.inr ⟨rfl, q1927, rfl, rfl⟩⟩)
theorem fl_X1_83 : FL "GoatCourt" 83 [20] 1 (tyOf 0) := fun kd h => (by cases List.mem_singleton.mp h; exact ⟨0, _, 1, "GoatCourt", rfl, rfl, by decide, rfl, rfl, Or.inl q403, Or.inl rfl⟩)
theorem fp_X1_bytes_83 : FP mX1_bytes 83 [20] 1 (tyOf 0) := fun kd h => (by cases List.mem_singleton.mp h; exact ⟨0, _, 1, "GoatCourt", rfl, rfl, by decide, rfl, rfl, Or.inl rfl, Or.inl ⟨rfl, Or.inl q403⟩⟩)
theorem fl_X7_13 : FL "GoatCourtModel" 13 [26] 5 (.array (.byte)) := fun kd h => (by cases List.mem_singleton.mp h; exact ⟨6, _, 5, "GoatCourtModel", rfl, rfl, by decide, rfl, rfl, Or.inl q1894, Or.inl rfl⟩)
theorem fl_X7_435 : FL "GoatCourtModel" 435 [26] 6 (tyOf 0) := fun kd h => (by cases List.mem_singleton.mp h; exact ⟨6, _, 6, "GoatCourtModel", rfl, rfl, by decide, rfl, rfl, Or.inl q1895, Or.inl rfl⟩)
theorem fp_X7_feed_435 : FP mX7_feed 435 [26] 6 (tyOf 0) := fun kd h => (by cases List.mem_singleton.mp h; exact ⟨6, _, 6, "GoatCourtModel", rfl, rfl, by decide, rfl, rfl, Or.inl rfl, Or.inl ⟨rfl, Or.inl q1895⟩⟩)
theorem fp_X7_feed_66 : FP mX7_feed 66 [26] 0 (tyOf 0) := fun kd h => (by cases List.mem_singleton.mp h; exact ⟨6, _, 0, "GoatCourtModel", rfl, rfl, by decide, rfl, rfl, Or.inl rfl, Or.inl ⟨rfl, Or.inl q1889⟩⟩)
theorem fp_X1_anew_77 : FP mX1_anew 77 [20] 4 (tyOf 0) := fun kd h => (by cases List.mem_singleton.mp h; exact ⟨0, _, 4, "GoatCourt", rfl, rfl, by decide, rfl, rfl, Or.inl rfl, Or.inl ⟨rfl, Or.inl q406⟩⟩)
theorem fp_X1_anew_26 : FP mX1_anew 26 [20] 6 (tyOf 0) := fun kd h => (by cases List.mem_singleton.mp h; exact ⟨0, _, 6, "GoatCourt", rfl, rfl, by decide, rfl, rfl, Or.inl rfl, Or.inl ⟨rfl, Or.inl q408⟩⟩)
theorem fp_X1_no_77 : FP mX1_no 77 [20] 4 (tyOf 0) := fun kd h => (by cases List.mem_singleton.mp h; exact ⟨0, _, 4, "GoatCourt", rfl, rfl, by decide, rfl, rfl, Or.inl rfl, Or.inl ⟨rfl, Or.inl q406⟩⟩)
theorem fp_X8_init_11 : FP mX8_init 11 [27] 0 (.array (.object "GoatCourt$Place")) := fun kd h => (by cases List.mem_singleton.mp h; exact ⟨7, _, 0, "GoatCourt$Hill", rfl, rfl, by decide, rfl, rfl, Or.inl rfl, Or.inr ⟨rfl, q520, rfl, rfl⟩⟩)
theorem fp_X8_init_17 : FP mX8_init 17 [27] 1 (.array (.int)) := fun kd h => (by cases List.mem_singleton.mp h; exact ⟨7, _, 1, "GoatCourt$Hill", rfl, rfl, by decide, rfl, rfl, Or.inl rfl, Or.inr ⟨rfl, q524, rfl, rfl⟩⟩)
theorem fp_X8_init_21 : FP mX8_init 21 [27] 2 (.array (.int)) := fun kd h => (by cases List.mem_singleton.mp h; exact ⟨7, _, 2, "GoatCourt$Hill", rfl, rfl, by decide, rfl, rfl, Or.inl rfl, Or.inr ⟨rfl, q526, rfl, rfl⟩⟩)
theorem fp_X8_init_24 : FP mX8_init 24 [27] 3 (.array (.int)) := fun kd h => (by cases List.mem_singleton.mp h; exact ⟨7, _, 3, "GoatCourt$Hill", rfl, rfl, by decide, rfl, rfl, Or.inl rfl, Or.inr ⟨rfl, q528, rfl, rfl⟩⟩)
theorem fp_X8_init_27 : FP mX8_init 27 [27] 4 (.array (.int)) := fun kd h => (by cases List.mem_singleton.mp h; exact ⟨7, _, 4, "GoatCourt$Hill", rfl, rfl, by decide, rfl, rfl, Or.inl rfl, Or.inr ⟨rfl, q531, rfl, rfl⟩⟩)
theorem fp_X8_init_32 : FP mX8_init 32 [27] 5 (.array (.object "GoatCourt$Person")) := fun kd h => (by cases List.mem_singleton.mp h; exact ⟨7, _, 5, "GoatCourt$Hill", rfl, rfl, by decide, rfl, rfl, Or.inl rfl, Or.inr ⟨rfl, q534, rfl, rfl⟩⟩)
theorem fp_X8_init_38 : FP mX8_init 38 [27] 6 (.array (.object "GoatCourt$Goat")) := fun kd h => (by cases List.mem_singleton.mp h; exact ⟨7, _, 6, "GoatCourt$Hill", rfl, rfl, by decide, rfl, rfl, Or.inl rfl, Or.inr ⟨rfl, q538, rfl, rfl⟩⟩)
theorem fp_X8_init_44 : FP mX8_init 44 [27] 7 (.array (.object "GoatCourt$Clue")) := fun kd h => (by cases List.mem_singleton.mp h; exact ⟨7, _, 7, "GoatCourt$Hill", rfl, rfl, by decide, rfl, rfl, Or.inl rfl, Or.inr ⟨rfl, q542, rfl, rfl⟩⟩)
theorem fp_X8_init_50 : FP mX8_init 50 [27] 8 (.array (.object "GoatCourt$Fact")) := fun kd h => (by cases List.mem_singleton.mp h; exact ⟨7, _, 8, "GoatCourt$Hill", rfl, rfl, by decide, rfl, rfl, Or.inl rfl, Or.inr ⟨rfl, q546, rfl, rfl⟩⟩)
theorem fp_X8_init_56 : FP mX8_init 56 [27] 9 (.array (.object "GoatCourt$Rule")) := fun kd h => (by cases List.mem_singleton.mp h; exact ⟨7, _, 9, "GoatCourt$Hill", rfl, rfl, by decide, rfl, rfl, Or.inl rfl, Or.inr ⟨rfl, q549, rfl, rfl⟩⟩)
theorem fp_X8_init_62 : FP mX8_init 62 [27] 10 (.array (.object "GoatCourt$Court")) := fun kd h => (by cases List.mem_singleton.mp h; exact ⟨7, _, 10, "GoatCourt$Hill", rfl, rfl, by decide, rfl, rfl, Or.inl rfl, Or.inr ⟨rfl, q552, rfl, rfl⟩⟩)
theorem fl_X2_33 : FL "GoatCourt$Reader" 33 [21] 3 (tyOf 0) := fun kd h => (by cases List.mem_singleton.mp h; exact ⟨1, _, 3, "GoatCourt$Reader", rfl, rfl, by decide, rfl, rfl, Or.inl q293, Or.inl rfl⟩)
theorem fl_X2_22 : FL "GoatCourt$Reader" 22 [21] 1 (.array (.byte)) := fun kd h => (by cases List.mem_singleton.mp h; exact ⟨1, _, 1, "GoatCourt$Reader", rfl, rfl, by decide, rfl, rfl, Or.inl q291, Or.inl rfl⟩)
theorem fl_J3_9 : FL "java/lang/String" 9 [41] 0 (.array (.byte)) := fun kd h => (by cases List.mem_singleton.mp h; exact ⟨21, _, 0, "java/lang/String", rfl, rfl, by decide, rfl, rfl, Or.inl q721, Or.inl rfl⟩)
theorem fl_J3_15 : FL "java/lang/String" 15 [41] 1 (tyOf 2) := fun kd h => (by cases List.mem_singleton.mp h; exact ⟨21, _, 1, "java/lang/String", rfl, rfl, by decide, rfl, rfl, Or.inl q722, Or.inl rfl⟩)
theorem fp_J3_init_2_15 : FP mJ3_init_2 15 [41] 1 (tyOf 2) := fun kd h => (by cases List.mem_singleton.mp h; exact ⟨21, _, 1, "java/lang/String", rfl, rfl, by decide, rfl, rfl, Or.inl rfl, Or.inr ⟨rfl, q722, rfl, rfl⟩⟩)
theorem fp_J3_init_2_9 : FP mJ3_init_2 9 [41] 0 (.array (.byte)) := fun kd h => (by cases List.mem_singleton.mp h; exact ⟨21, _, 0, "java/lang/String", rfl, rfl, by decide, rfl, rfl, Or.inl rfl, Or.inr ⟨rfl, q721, rfl, rfl⟩⟩)
theorem fl_X2_40 : FL "GoatCourt$Reader" 40 [21] 4 (tyOf 0) := fun kd h => (by cases List.mem_singleton.mp h; exact ⟨1, _, 4, "GoatCourt$Reader", rfl, rfl, by decide, rfl, rfl, Or.inl q294, Or.inl rfl⟩)
theorem fl_X2_68 : FL "GoatCourt$Reader" 68 [21] 7 (tyOf 0) := fun kd h => (by cases List.mem_singleton.mp h; exact ⟨1, _, 7, "GoatCourt$Reader", rfl, rfl, by decide, rfl, rfl, Or.inl q297, Or.inl rfl⟩)
theorem fl_X2_47 : FL "GoatCourt$Reader" 47 [21] 5 (tyOf 0) := fun kd h => (by cases List.mem_singleton.mp h; exact ⟨1, _, 5, "GoatCourt$Reader", rfl, rfl, by decide, rfl, rfl, Or.inl q295, Or.inl rfl⟩)
theorem fl_X2_18 : FL "GoatCourt$Reader" 18 [21] 2 (.array (.char)) := fun kd h => (by cases List.mem_singleton.mp h; exact ⟨1, _, 2, "GoatCourt$Reader", rfl, rfl, by decide, rfl, rfl, Or.inl q292, Or.inl rfl⟩)
theorem fp_X2_next_47 : FP mX2_next 47 [21] 5 (tyOf 0) := fun kd h => (by cases List.mem_singleton.mp h; exact ⟨1, _, 5, "GoatCourt$Reader", rfl, rfl, by decide, rfl, rfl, Or.inl rfl, Or.inl ⟨rfl, Or.inl q295⟩⟩)
theorem fp_X2_next_40 : FP mX2_next 40 [21] 4 (tyOf 0) := fun kd h => (by cases List.mem_singleton.mp h; exact ⟨1, _, 4, "GoatCourt$Reader", rfl, rfl, by decide, rfl, rfl, Or.inl rfl, Or.inl ⟨rfl, Or.inl q294⟩⟩)
theorem fp_X2_next_68 : FP mX2_next 68 [21] 7 (tyOf 0) := fun kd h => (by cases List.mem_singleton.mp h; exact ⟨1, _, 7, "GoatCourt$Reader", rfl, rfl, by decide, rfl, rfl, Or.inl rfl, Or.inl ⟨rfl, Or.inl q297⟩⟩)
theorem fp_X2_next_61 : FP mX2_next 61 [21] 8 (.object "java/lang/String") := fun kd h => (by cases List.mem_singleton.mp h; exact ⟨1, _, 8, "GoatCourt$Reader", rfl, rfl, by decide, rfl, rfl, Or.inl rfl, Or.inl ⟨rfl, Or.inl q298⟩⟩)
theorem fp_X2_next_26 : FP mX2_next 26 [21] 6 (tyOf 0) := fun kd h => (by cases List.mem_singleton.mp h; exact ⟨1, _, 6, "GoatCourt$Reader", rfl, rfl, by decide, rfl, rfl, Or.inl rfl, Or.inl ⟨rfl, Or.inl q296⟩⟩)
theorem fp_X3_at_15 : FP mX3_at 15 [22] 0 (tyOf 0) := fun kd h => (by cases List.mem_singleton.mp h; exact ⟨2, _, 6, "GoatCourt$Refused", rfl, rfl, by decide, rfl, rfl, Or.inl rfl, Or.inl ⟨rfl, Or.inl q268⟩⟩)
theorem fp_X3_at_9 : FP mX3_at 9 [22] 1 (tyOf 0) := fun kd h => (by cases List.mem_singleton.mp h; exact ⟨2, _, 7, "GoatCourt$Refused", rfl, rfl, by decide, rfl, rfl, Or.inl rfl, Or.inl ⟨rfl, Or.inl q270⟩⟩)
theorem fl_X2_12 : FL "GoatCourt$Reader" 12 [21] 0 (.object "GoatCourt$Refused") := fun kd h => (by cases List.mem_singleton.mp h; exact ⟨1, _, 0, "GoatCourt$Reader", rfl, rfl, by decide, rfl, rfl, Or.inl q290, Or.inl rfl⟩)
theorem fl_X2_26 : FL "GoatCourt$Reader" 26 [21] 6 (tyOf 0) := fun kd h => (by cases List.mem_singleton.mp h; exact ⟨1, _, 6, "GoatCourt$Reader", rfl, rfl, by decide, rfl, rfl, Or.inl q296, Or.inl rfl⟩)
theorem w_J0_init_2_b41 (G : Gx) (h0 : G0 G) (N : Nat)   (a0 : Nat) (l1 : Option Nat) (l2 : Option Nat) (l3 : Int32) (σ : Mem) : Runs G mJ0_init_2 rhoV σ 41 [some (vR (some a0)), some (vR l1), some (vR l2), some (vI l3), none] [] (f_J0_init_2_b41 N  a0 l1 l2 l3 σ) := by
  unfold f_J0_init_2_b41
  refine r_aload_n (q := 42) dJ0_init_2_41 rfl rfl rfl ?_
  refine r_aload_n (q := 43) dJ0_init_2_42 rfl rfl rfl ?_
  refine r_pR (q := 46) fp_J0_init_2_31 rfl dJ0_init_2_43 rfl (fun σ1 => ?_)
  refine r_aload_n (q := 47) dJ0_init_2_46 rfl rfl rfl ?_
  refine r_aload_n (q := 48) dJ0_init_2_47 rfl rfl rfl ?_
  refine r_pR (q := 51) fp_J0_init_2_7 rfl dJ0_init_2_48 rfl (fun σ2 => ?_)
  refine r_iload_n (q := 52) dJ0_init_2_51 rfl rfl rfl ?_
  refine r_if_ne (q := 55) (t := 60) dJ0_init_2_52 rfl (by decide) (fun _ => ?_) (fun _ => ?_)
  · refine r_aload_n (q := 56) dJ0_init_2_55 rfl rfl rfl ?_
    refine r_null (q := 57) dJ0_init_2_56 rfl ?_
    refine r_pR (q := 60) fp_J0_init_2_24 rfl dJ0_init_2_57 rfl (fun σ3 => ?_)
    exact r_return rfl dJ0_init_2_60
  · exact r_return rfl dJ0_init_2_60
theorem c_J0_init_2 (G : Gx) (h0 : G0 G) (N : Nat) (a0 : Nat) (o1 : Option Nat) (o2 : Option Nat) (i3 : Int32) (i4 : Int32) (σ : Mem) : Ct G mJ0_init_2 rhoV [vR (some a0), vR o1, vR o2, vI i3, vI i4] σ (f_J0_init_2 N a0 o1 o2 i3 i4 σ) := by
  refine Ct_of h0 (by decide) rfl (Nat.le_of_ble_eq_true rfl) (L0 := [some (vR (some a0)), some (vR o1), some (vR o2), some (vI i3), some (vI i4)]) rfl ?_
  unfold f_J0_init_2
  refine r_aload_n (q := 1) dJ0_init_2_0 rfl rfl rfl ?_
  refine r_objInit (q := 4) q241 q208 q209 (by decide) (by decide) dJ0_init_2_1 rfl ?_
  refine r_aload_n (q := 5) dJ0_init_2_4 rfl rfl rfl ?_
  refine r_aload_n (q := 6) dJ0_init_2_5 rfl rfl rfl ?_
  refine r_pR (q := 9) fp_J0_init_2_7 rfl dJ0_init_2_6 rfl (fun σ1 => ?_)
  refine r_aload_n (q := 10) dJ0_init_2_9 rfl rfl rfl ?_
  refine r_gsR (q := 13) (j := 0) (cn := "java/lang/Throwable") rfl q242 (Or.inl rfl) dJ0_init_2_10 rfl ?_
  refine r_pR (q := 16) fp_J0_init_2_17 rfl dJ0_init_2_13 rfl (fun σ2 => ?_)
  refine r_aload_n (q := 17) dJ0_init_2_16 rfl rfl rfl ?_
  refine r_gsR (q := 20) (j := 1) (cn := "java/lang/Throwable") rfl q244 (Or.inl rfl) dJ0_init_2_17 rfl ?_
  refine r_pR (q := 23) fp_J0_init_2_24 rfl dJ0_init_2_20 rfl (fun σ3 => ?_)
  refine r_iload (q := 25) dJ0_init_2_23 rfl rfl ?_
  refine r_if_eq (q := 28) (t := 36) dJ0_init_2_25 rfl (by decide) (fun _ => ?_) (fun _ => ?_)
  · refine r_aload_n (q := 37) dJ0_init_2_36 rfl rfl rfl ?_
    refine r_null (q := 38) dJ0_init_2_37 rfl ?_
    refine r_pR (q := 41) fp_J0_init_2_17 rfl dJ0_init_2_38 rfl (fun σ4 => ?_)
    exact r_le (w_J0_init_2_b41 G h0 N _ _ _ _ _) (Nat.le_refl _) (And.intro rfl (And.intro rfl (And.intro rfl (And.intro rfl trivial))))
  · refine r_aload_n (q := 29) dJ0_init_2_28 rfl rfl rfl ?_
    exact r_none
theorem c_J1_init (G : Gx) (h0 : G0 G) (N : Nat) (a0 : Nat) (o1 : Option Nat) (o2 : Option Nat) (i3 : Int32) (i4 : Int32) (σ : Mem) : Ct G mJ1_init rhoV [vR (some a0), vR o1, vR o2, vI i3, vI i4] σ (f_J1_init N a0 o1 o2 i3 i4 σ) := by
  refine Ct_of h0 (by decide) rfl (Nat.le_of_ble_eq_true rfl) (L0 := [some (vR (some a0)), some (vR o1), some (vR o2), some (vI i3), some (vI i4)]) rfl ?_
  unfold f_J1_init
  refine r_aload_n (q := 1) dJ1_init_0 rfl rfl rfl ?_
  refine r_aload_n (q := 2) dJ1_init_1 rfl rfl rfl ?_
  refine r_aload_n (q := 3) dJ1_init_2 rfl rfl rfl ?_
  refine r_iload_n (q := 4) dJ1_init_3 rfl rfl rfl ?_
  refine r_iload (q := 6) dJ1_init_4 rfl rfl ?_
  refine r_callV (q := 9) (c_J0_init_2 G h0 N _ _ _ _ _ _) (cl_I rfl rfl rfl rfl q265 q266 q169 q267 (hd_J0_init_2) ⟨Nat.le_of_ble_eq_true rfl, Nat.le_of_ble_eq_true rfl⟩ rfl (Nat.le_of_ble_eq_true rfl) dJ1_init_6) rfl (fun u1 σ2 => ?_)
  exact r_return rfl dJ1_init_9
theorem c_J2_init (G : Gx) (h0 : G0 G) (N : Nat) (a0 : Nat) (o1 : Option Nat) (o2 : Option Nat) (i3 : Int32) (i4 : Int32) (σ : Mem) : Ct G mJ2_init rhoV [vR (some a0), vR o1, vR o2, vI i3, vI i4] σ (f_J2_init N a0 o1 o2 i3 i4 σ) := by
  refine Ct_of h0 (by decide) rfl (Nat.le_of_ble_eq_true rfl) (L0 := [some (vR (some a0)), some (vR o1), some (vR o2), some (vI i3), some (vI i4)]) rfl ?_
  unfold f_J2_init
  refine r_aload_n (q := 1) dJ2_init_0 rfl rfl rfl ?_
  refine r_aload_n (q := 2) dJ2_init_1 rfl rfl rfl ?_
  refine r_aload_n (q := 3) dJ2_init_2 rfl rfl rfl ?_
  refine r_iload_n (q := 4) dJ2_init_3 rfl rfl rfl ?_
  refine r_iload (q := 6) dJ2_init_4 rfl rfl ?_
  refine r_callV (q := 9) (c_J1_init G h0 N _ _ _ _ _ _) (cl_I rfl rfl rfl rfl q262 q263 q170 q264 (hd_J1_init) ⟨Nat.le_of_ble_eq_true rfl, Nat.le_of_ble_eq_true rfl⟩ rfl (Nat.le_of_ble_eq_true rfl) dJ2_init_6) rfl (fun u1 σ2 => ?_)
  exact r_return rfl dJ2_init_9
theorem c_X3_init (G : Gx) (h0 : G0 G) (N : Nat) (a0 : Nat) (σ : Mem) : Ct G mX3_init rhoV [vR (some a0)] σ (f_X3_init N a0 σ) := by
  refine Ct_of h0 (by decide) rfl (Nat.le_of_ble_eq_true rfl) (L0 := [some (vR (some a0))]) rfl ?_
  unfold f_X3_init
  refine r_aload_n (q := 1) dX3_init_0 rfl rfl rfl ?_
  refine r_null (q := 2) dX3_init_1 rfl ?_
  refine r_null (q := 3) dX3_init_2 rfl ?_
  refine r_iconst (q := 4) (v := (0 : Int32)) dX3_init_3 rfl (by decide) ?_
  refine r_iconst (q := 5) (v := (0 : Int32)) dX3_init_4 rfl (by decide) ?_
  refine r_callV (q := 8) (c_J2_init G h0 N _ _ _ _ _ _) (cl_I rfl rfl rfl rfl q259 q260 q171 q261 (hd_J2_init) ⟨Nat.le_of_ble_eq_true rfl, Nat.le_of_ble_eq_true rfl⟩ rfl (Nat.le_of_ble_eq_true rfl) dX3_init_5) rfl (fun u1 σ2 => ?_)
  refine r_aload_n (q := 9) dX3_init_8 rfl rfl rfl ?_
  refine r_iconst (q := 10) (v := (-1 : Int32)) dX3_init_9 rfl (by decide) ?_
  refine r_pI (q := 13) fp_X3_init_9 dX3_init_10 rfl (fun σ3 => ?_)
  exact r_return rfl dX3_init_13
theorem c_X2_init (G : Gx) (h0 : G0 G) (N : Nat) (a0 : Nat) (o1 : Option Nat) (σ : Mem) : Ct G mX2_init rhoV [vR (some a0), vR o1] σ (f_X2_init N a0 o1 σ) := by
  refine Ct_of h0 (by decide) rfl (Nat.le_of_ble_eq_true rfl) (L0 := [some (vR (some a0)), some (vR o1)]) rfl ?_
  unfold f_X2_init
  refine r_aload_n (q := 1) dX2_init_0 rfl rfl rfl ?_
  refine r_objInit (q := 4) q215 q208 q209 (by decide) (by decide) dX2_init_1 rfl ?_
  refine r_aload_n (q := 5) dX2_init_4 rfl rfl rfl ?_
  refine r_new (q := 8) (ci := 2) rfl rfl q216 q217 q172 dX2_init_5 rfl (fun a1 σ2 => ?_)
  refine r_dup (q := 9) dX2_init_8 rfl rfl ?_
  refine r_callV (q := 12) (c_X3_init G h0 N _ _) (cl_I rfl rfl rfl rfl q256 q257 q172 q258 (hd_X3_init) ⟨Nat.le_of_ble_eq_true rfl, Nat.le_of_ble_eq_true rfl⟩ rfl (Nat.le_of_ble_eq_true rfl) dX2_init_9) rfl (fun u3 σ4 => ?_)
  refine r_pR (q := 15) fp_X2_init_12 rfl dX2_init_12 rfl (fun σ5 => ?_)
  refine r_aload_n (q := 16) dX2_init_15 rfl rfl rfl ?_
  refine r_bipush (q := 18) (v := (8 : Int32)) dX2_init_16 rfl (by decide) ?_
  refine r_newarray (q := 20) (k0 := 3) (by decide) rfl q321 dX2_init_18 rfl (fun a6 σ7 => ?_)
  refine r_pR (q := 23) fp_X2_init_18 rfl dX2_init_20 rfl (fun σ8 => ?_)
  refine r_aload_n (q := 24) dX2_init_23 rfl rfl rfl ?_
  refine r_aload_n (q := 25) dX2_init_24 rfl rfl rfl ?_
  refine r_pR (q := 28) fp_X2_init_22 rfl dX2_init_25 rfl (fun σ9 => ?_)
  exact r_return rfl dX2_init_28
theorem c_X4_init (G : Gx) (h0 : G0 G) (N : Nat) (a0 : Nat) (σ : Mem) : Ct G mX4_init rhoV [vR (some a0)] σ (f_X4_init N a0 σ) := by
  refine Ct_of h0 (by decide) rfl (Nat.le_of_ble_eq_true rfl) (L0 := [some (vR (some a0))]) rfl ?_
  unfold f_X4_init
  refine r_aload_n (q := 1) dX4_init_0 rfl rfl rfl ?_
  refine r_objInit (q := 4) q327 q208 q209 (by decide) (by decide) dX4_init_1 rfl ?_
  refine r_aload_n (q := 5) dX4_init_4 rfl rfl rfl ?_
  refine r_bipush (q := 7) (v := (12 : Int32)) dX4_init_5 rfl (by decide) ?_
  refine r_newarray (q := 9) (k0 := 1) (by decide) rfl q344 dX4_init_7 rfl (fun a1 σ2 => ?_)
  refine r_pR (q := 12) fp_X4_init_9 rfl dX4_init_9 rfl (fun σ3 => ?_)
  refine r_aload_n (q := 13) dX4_init_12 rfl rfl rfl ?_
  refine r_bipush (q := 15) (v := (12 : Int32)) dX4_init_13 rfl (by decide) ?_
  refine r_newarray (q := 17) (k0 := 1) (by decide) rfl q344 dX4_init_15 rfl (fun a4 σ5 => ?_)
  refine r_pR (q := 20) fp_X4_init_15 rfl dX4_init_17 rfl (fun σ6 => ?_)
  exact r_return rfl dX4_init_20
theorem c_X5_init (G : Gx) (h0 : G0 G) (N : Nat) (a0 : Nat) (σ : Mem) : Ct G mX5_init rhoV [vR (some a0)] σ (f_X5_init N a0 σ) := by
  refine Ct_of h0 (by decide) rfl (Nat.le_of_ble_eq_true rfl) (L0 := [some (vR (some a0))]) rfl ?_
  unfold f_X5_init
  refine r_aload_n (q := 1) dX5_init_0 rfl rfl rfl ?_
  refine r_objInit (q := 4) q350 q208 q209 (by decide) (by decide) dX5_init_1 rfl ?_
  refine r_aload_n (q := 5) dX5_init_4 rfl rfl rfl ?_
  refine r_bipush (q := 7) (v := (32 : Int32)) dX5_init_5 rfl (by decide) ?_
  refine r_newarray (q := 9) (k0 := 1) (by decide) rfl q344 dX5_init_7 rfl (fun a1 σ2 => ?_)
  refine r_pR (q := 12) fp_X5_init_9 rfl dX5_init_9 rfl (fun σ3 => ?_)
  refine r_aload_n (q := 13) dX5_init_12 rfl rfl rfl ?_
  refine r_bipush (q := 15) (v := (6 : Int32)) dX5_init_13 rfl (by decide) ?_
  refine r_newarray (q := 17) (k0 := 1) (by decide) rfl q344 dX5_init_15 rfl (fun a4 σ5 => ?_)
  refine r_pR (q := 20) fp_X5_init_15 rfl dX5_init_17 rfl (fun σ6 => ?_)
  refine r_aload_n (q := 21) dX5_init_20 rfl rfl rfl ?_
  refine r_bipush (q := 23) (v := (72 : Int32)) dX5_init_21 rfl (by decide) ?_
  refine r_newarray (q := 25) (k0 := 1) (by decide) rfl q344 dX5_init_23 rfl (fun a7 σ8 => ?_)
  refine r_pR (q := 28) fp_X5_init_18 rfl dX5_init_25 rfl (fun σ9 => ?_)
  refine r_aload_n (q := 29) dX5_init_28 rfl rfl rfl ?_
  refine r_bipush (q := 31) (v := (72 : Int32)) dX5_init_29 rfl (by decide) ?_
  refine r_newarray (q := 33) (k0 := 1) (by decide) rfl q344 dX5_init_31 rfl (fun a10 σ11 => ?_)
  refine r_pR (q := 36) fp_X5_init_21 rfl dX5_init_33 rfl (fun σ12 => ?_)
  refine r_aload_n (q := 37) dX5_init_36 rfl rfl rfl ?_
  refine r_bipush (q := 39) (v := (72 : Int32)) dX5_init_37 rfl (by decide) ?_
  refine r_newarray (q := 41) (k0 := 1) (by decide) rfl q344 dX5_init_39 rfl (fun a13 σ14 => ?_)
  refine r_pR (q := 44) fp_X5_init_24 rfl dX5_init_41 rfl (fun σ15 => ?_)
  refine r_aload_n (q := 45) dX5_init_44 rfl rfl rfl ?_
  refine r_bipush (q := 47) (v := (6 : Int32)) dX5_init_45 rfl (by decide) ?_
  refine r_newarray (q := 49) (k0 := 1) (by decide) rfl q344 dX5_init_47 rfl (fun a16 σ17 => ?_)
  refine r_pR (q := 52) fp_X5_init_27 rfl dX5_init_49 rfl (fun σ18 => ?_)
  refine r_aload_n (q := 53) dX5_init_52 rfl rfl rfl ?_
  refine r_bipush (q := 55) (v := (8 : Int32)) dX5_init_53 rfl (by decide) ?_
  refine r_newarray (q := 57) (k0 := 1) (by decide) rfl q344 dX5_init_55 rfl (fun a19 σ20 => ?_)
  refine r_pR (q := 60) fp_X5_init_30 rfl dX5_init_57 rfl (fun σ21 => ?_)
  exact r_return rfl dX5_init_60
theorem c_X6_init (G : Gx) (h0 : G0 G) (N : Nat) (a0 : Nat) (σ : Mem) : Ct G mX6_init rhoV [vR (some a0)] σ (f_X6_init N a0 σ) := by
  refine Ct_of h0 (by decide) rfl (Nat.le_of_ble_eq_true rfl) (L0 := [some (vR (some a0))]) rfl ?_
  unfold f_X6_init
  refine r_aload_n (q := 1) dX6_init_0 rfl rfl rfl ?_
  refine r_objInit (q := 4) q387 q208 q209 (by decide) (by decide) dX6_init_1 rfl ?_
  refine r_aload_n (q := 5) dX6_init_4 rfl rfl rfl ?_
  refine r_bipush (q := 7) (v := (6 : Int32)) dX6_init_5 rfl (by decide) ?_
  refine r_newarray (q := 9) (k0 := 1) (by decide) rfl q344 dX6_init_7 rfl (fun a1 σ2 => ?_)
  refine r_pR (q := 12) fp_X6_init_9 rfl dX6_init_9 rfl (fun σ3 => ?_)
  refine r_aload_n (q := 13) dX6_init_12 rfl rfl rfl ?_
  refine r_bipush (q := 15) (v := (6 : Int32)) dX6_init_13 rfl (by decide) ?_
  refine r_newarray (q := 17) (k0 := 1) (by decide) rfl q344 dX6_init_15 rfl (fun a4 σ5 => ?_)
  refine r_pR (q := 20) fp_X6_init_15 rfl dX6_init_17 rfl (fun σ6 => ?_)
  exact r_return rfl dX6_init_20
theorem w_X1_init_b165B (G : Gx) (h0 : G0 G) (N : Nat)   (K165 : Nat → Int32 → Mem → Option (Unit × Mem)) (hK165 : ∀ (a0 : Nat) (l1 : Int32) (σ : Mem), Runs G mX1_init rhoV σ 165 [some (vR (some a0)), some (vI l1)] [] (K165 a0 l1 σ)) (a0 : Nat) (l1 : Int32) (σ : Mem) : Runs G mX1_init rhoV σ 165 [some (vR (some a0)), some (vI l1)] [] (f_X1_init_b165B N  K165 a0 l1 σ) := by
  unfold f_X1_init_b165B
  refine r_iload_n (q := 166) dX1_init_165 rfl rfl rfl ?_
  refine r_iconst (q := 167) (v := (3 : Int32)) dX1_init_166 rfl (by decide) ?_
  refine r_icmp_ge (q := 170) (t := 189) dX1_init_167 rfl (by decide) (fun _ => ?_) (fun _ => ?_)
  · exact r_return rfl dX1_init_189
  · refine r_aload_n (q := 171) dX1_init_170 rfl rfl rfl ?_
    refine r_gR (q := 174) fl_X1_61 rfl dX1_init_171 rfl (fun x1 => ?_)
    refine r_iload_n (q := 175) dX1_init_174 rfl rfl rfl ?_
    refine r_new (q := 178) (ci := 3) rfl rfl q322 q323 q173 dX1_init_175 rfl (fun a2 σ3 => ?_)
    refine r_dup (q := 179) dX1_init_178 rfl rfl ?_
    refine r_callV (q := 182) (c_X4_init G h0 N _ _) (cl_IN rfl rfl rfl rfl q324 q325 q173 q326 (hd_X4_init) ⟨Nat.le_of_ble_eq_true rfl, Nat.le_of_ble_eq_true rfl⟩ rfl (Nat.le_of_ble_eq_true rfl) dX1_init_179) rfl (fun u4 σ5 => ?_)
    refine r_aastore (q := 183) (k0 := 5) (by decide) ia_GoatCourt_Ground dX1_init_182 rfl (fun σ6 => ?_)
    refine r_iinc (q := 186) (v := (1 : Int32)) dX1_init_183 rfl rfl (by decide) (Nat.le_of_ble_eq_true rfl) rfl ?_
    refine r_goto (q := 165) dX1_init_186 (by decide) ?_
    exact r_le (hK165 _ _ _) (Nat.le_refl _) (And.intro rfl (And.intro rfl trivial))
theorem w_X1_init_b165 (G : Gx) (h0 : G0 G) (N : Nat)   : ∀ (z : Nat) (a0 : Nat) (l1 : Int32) (σ : Mem), Runs G mX1_init rhoV σ 165 [some (vR (some a0)), some (vI l1)] [] (f_X1_init_b165 N  z a0 l1 σ) := by
  intro z
  induction z with
  | zero => exact fun _ _ _ => r_none
  | succ z ih => exact fun a0 l1 σ => w_X1_init_b165B G h0 N   _ ih a0 l1 σ
theorem w_X1_init_b138B (G : Gx) (h0 : G0 G) (N : Nat)   (K138 : Nat → Int32 → Mem → Option (Unit × Mem)) (hK138 : ∀ (a0 : Nat) (l1 : Int32) (σ : Mem), Runs G mX1_init rhoV σ 138 [some (vR (some a0)), some (vI l1)] [] (K138 a0 l1 σ)) (a0 : Nat) (l1 : Int32) (σ : Mem) : Runs G mX1_init rhoV σ 138 [some (vR (some a0)), some (vI l1)] [] (f_X1_init_b138B N  K138 a0 l1 σ) := by
  unfold f_X1_init_b138B
  refine r_iload_n (q := 139) dX1_init_138 rfl rfl rfl ?_
  refine r_bipush (q := 141) (v := (16 : Int32)) dX1_init_139 rfl (by decide) ?_
  refine r_icmp_ge (q := 144) (t := 163) dX1_init_141 rfl (by decide) (fun _ => ?_) (fun _ => ?_)
  · refine r_iconst (q := 164) (v := (0 : Int32)) dX1_init_163 rfl (by decide) ?_
    refine r_istore_n (q := 165) dX1_init_164 rfl rfl (Nat.le_of_ble_eq_true rfl) rfl ?_
    exact r_le (w_X1_init_b165 G h0 N N _ _ _) (Nat.le_refl _) (And.intro rfl (And.intro rfl trivial))
  · refine r_aload_n (q := 145) dX1_init_144 rfl rfl rfl ?_
    refine r_gR (q := 148) fl_X1_57 rfl dX1_init_145 rfl (fun x1 => ?_)
    refine r_iload_n (q := 149) dX1_init_148 rfl rfl rfl ?_
    refine r_new (q := 152) (ci := 3) rfl rfl q322 q323 q173 dX1_init_149 rfl (fun a2 σ3 => ?_)
    refine r_dup (q := 153) dX1_init_152 rfl rfl ?_
    refine r_callV (q := 156) (c_X4_init G h0 N _ _) (cl_IN rfl rfl rfl rfl q324 q325 q173 q326 (hd_X4_init) ⟨Nat.le_of_ble_eq_true rfl, Nat.le_of_ble_eq_true rfl⟩ rfl (Nat.le_of_ble_eq_true rfl) dX1_init_153) rfl (fun u4 σ5 => ?_)
    refine r_aastore (q := 157) (k0 := 5) (by decide) ia_GoatCourt_Ground dX1_init_156 rfl (fun σ6 => ?_)
    refine r_iinc (q := 160) (v := (1 : Int32)) dX1_init_157 rfl rfl (by decide) (Nat.le_of_ble_eq_true rfl) rfl ?_
    refine r_goto (q := 138) dX1_init_160 (by decide) ?_
    exact r_le (hK138 _ _ _) (Nat.le_refl _) (And.intro rfl (And.intro rfl trivial))
theorem w_X1_init_b138 (G : Gx) (h0 : G0 G) (N : Nat)   : ∀ (z : Nat) (a0 : Nat) (l1 : Int32) (σ : Mem), Runs G mX1_init rhoV σ 138 [some (vR (some a0)), some (vI l1)] [] (f_X1_init_b138 N  z a0 l1 σ) := by
  intro z
  induction z with
  | zero => exact fun _ _ _ => r_none
  | succ z ih => exact fun a0 l1 σ => w_X1_init_b138B G h0 N   _ ih a0 l1 σ
theorem c_X1_init (G : Gx) (h0 : G0 G) (N : Nat) (a0 : Nat) (σ : Mem) : Ct G mX1_init rhoV [vR (some a0)] σ (f_X1_init N a0 σ) := by
  refine Ct_of h0 (by decide) rfl (Nat.le_of_ble_eq_true rfl) (L0 := [some (vR (some a0)), none]) rfl ?_
  unfold f_X1_init
  refine r_aload_n (q := 1) dX1_init_0 rfl rfl rfl ?_
  refine r_objInit (q := 4) q207 q208 q209 (by decide) (by decide) dX1_init_1 rfl ?_
  refine r_aload_n (q := 5) dX1_init_4 rfl rfl rfl ?_
  refine r_sipush (q := 8) (v := (1200 : Int32)) dX1_init_5 rfl (by decide) ?_
  refine r_newarray (q := 10) (k0 := 2) (by decide) rfl q289 dX1_init_8 rfl (fun a1 σ2 => ?_)
  refine r_pR (q := 13) fp_X1_init_13 rfl dX1_init_10 rfl (fun σ3 => ?_)
  refine r_aload_n (q := 14) dX1_init_13 rfl rfl rfl ?_
  refine r_new (q := 17) (ci := 1) rfl rfl q210 q211 q168 dX1_init_14 rfl (fun a4 σ5 => ?_)
  refine r_dup (q := 18) dX1_init_17 rfl rfl ?_
  refine r_aload_n (q := 19) dX1_init_18 rfl rfl rfl ?_
  refine r_gR (q := 22) fl_X1_13 rfl dX1_init_19 rfl (fun x6 => ?_)
  refine r_callV (q := 25) (c_X2_init G h0 N _ _ _) (cl_I rfl rfl rfl rfl q212 q213 q168 q214 (hd_X2_init) ⟨Nat.le_of_ble_eq_true rfl, Nat.le_of_ble_eq_true rfl⟩ rfl (Nat.le_of_ble_eq_true rfl) dX1_init_22) rfl (fun u7 σ8 => ?_)
  refine r_pR (q := 28) fp_X1_init_22 rfl dX1_init_25 rfl (fun σ9 => ?_)
  refine r_aload_n (q := 29) dX1_init_28 rfl rfl rfl ?_
  refine r_iconst (q := 30) (v := (-1 : Int32)) dX1_init_29 rfl (by decide) ?_
  refine r_pI (q := 33) fp_X1_init_26 dX1_init_30 rfl (fun σ10 => ?_)
  refine r_aload_n (q := 34) dX1_init_33 rfl rfl rfl ?_
  refine r_new (q := 37) (ci := 3) rfl rfl q322 q323 q173 dX1_init_34 rfl (fun a11 σ12 => ?_)
  refine r_dup (q := 38) dX1_init_37 rfl rfl ?_
  refine r_callV (q := 41) (c_X4_init G h0 N _ _) (cl_IN rfl rfl rfl rfl q324 q325 q173 q326 (hd_X4_init) ⟨Nat.le_of_ble_eq_true rfl, Nat.le_of_ble_eq_true rfl⟩ rfl (Nat.le_of_ble_eq_true rfl) dX1_init_38) rfl (fun u13 σ14 => ?_)
  refine r_pR (q := 44) fp_X1_init_33 rfl dX1_init_41 rfl (fun σ15 => ?_)
  refine r_aload_n (q := 45) dX1_init_44 rfl rfl rfl ?_
  refine r_new (q := 48) (ci := 3) rfl rfl q322 q323 q173 dX1_init_45 rfl (fun a16 σ17 => ?_)
  refine r_dup (q := 49) dX1_init_48 rfl rfl ?_
  refine r_callV (q := 52) (c_X4_init G h0 N _ _) (cl_IN rfl rfl rfl rfl q324 q325 q173 q326 (hd_X4_init) ⟨Nat.le_of_ble_eq_true rfl, Nat.le_of_ble_eq_true rfl⟩ rfl (Nat.le_of_ble_eq_true rfl) dX1_init_49) rfl (fun u18 σ19 => ?_)
  refine r_pR (q := 55) fp_X1_init_37 rfl dX1_init_52 rfl (fun σ20 => ?_)
  refine r_aload_n (q := 56) dX1_init_55 rfl rfl rfl ?_
  refine r_new (q := 59) (ci := 3) rfl rfl q322 q323 q173 dX1_init_56 rfl (fun a21 σ22 => ?_)
  refine r_dup (q := 60) dX1_init_59 rfl rfl ?_
  refine r_callV (q := 63) (c_X4_init G h0 N _ _) (cl_IN rfl rfl rfl rfl q324 q325 q173 q326 (hd_X4_init) ⟨Nat.le_of_ble_eq_true rfl, Nat.le_of_ble_eq_true rfl⟩ rfl (Nat.le_of_ble_eq_true rfl) dX1_init_60) rfl (fun u23 σ24 => ?_)
  refine r_pR (q := 66) fp_X1_init_40 rfl dX1_init_63 rfl (fun σ25 => ?_)
  refine r_aload_n (q := 67) dX1_init_66 rfl rfl rfl ?_
  refine r_new (q := 70) (ci := 4) rfl rfl q345 q346 q174 dX1_init_67 rfl (fun a26 σ27 => ?_)
  refine r_dup (q := 71) dX1_init_70 rfl rfl ?_
  refine r_callV (q := 74) (c_X5_init G h0 N _ _) (cl_IN rfl rfl rfl rfl q347 q348 q174 q349 (hd_X5_init) ⟨Nat.le_of_ble_eq_true rfl, Nat.le_of_ble_eq_true rfl⟩ rfl (Nat.le_of_ble_eq_true rfl) dX1_init_71) rfl (fun u28 σ29 => ?_)
  refine r_pR (q := 77) fp_X1_init_46 rfl dX1_init_74 rfl (fun σ30 => ?_)
  refine r_aload_n (q := 78) dX1_init_77 rfl rfl rfl ?_
  refine r_new (q := 81) (ci := 5) rfl rfl q382 q383 q175 dX1_init_78 rfl (fun a31 σ32 => ?_)
  refine r_dup (q := 82) dX1_init_81 rfl rfl ?_
  refine r_callV (q := 85) (c_X6_init G h0 N _ _) (cl_IN rfl rfl rfl rfl q384 q385 q175 q386 (hd_X6_init) ⟨Nat.le_of_ble_eq_true rfl, Nat.le_of_ble_eq_true rfl⟩ rfl (Nat.le_of_ble_eq_true rfl) dX1_init_82) rfl (fun u33 σ34 => ?_)
  refine r_pR (q := 88) fp_X1_init_53 rfl dX1_init_85 rfl (fun σ35 => ?_)
  refine r_aload_n (q := 89) dX1_init_88 rfl rfl rfl ?_
  refine r_bipush (q := 91) (v := (16 : Int32)) dX1_init_89 rfl (by decide) ?_
  refine r_anewarray (q := 94) (k0 := 5) (by decide) rfl q322 (by decide) dX1_init_91 rfl (fun a36 σ37 => ?_)
  refine r_pR (q := 97) fp_X1_init_57 rfl dX1_init_94 rfl (fun σ38 => ?_)
  refine r_aload_n (q := 98) dX1_init_97 rfl rfl rfl ?_
  refine r_iconst (q := 99) (v := (3 : Int32)) dX1_init_98 rfl (by decide) ?_
  refine r_anewarray (q := 102) (k0 := 5) (by decide) rfl q322 (by decide) dX1_init_99 rfl (fun a39 σ40 => ?_)
  refine r_pR (q := 105) fp_X1_init_61 rfl dX1_init_102 rfl (fun σ41 => ?_)
  refine r_aload_n (q := 106) dX1_init_105 rfl rfl rfl ?_
  refine r_bipush (q := 108) (v := (81 : Int32)) dX1_init_106 rfl (by decide) ?_
  refine r_newarray (q := 110) (k0 := 1) (by decide) rfl q344 dX1_init_108 rfl (fun a42 σ43 => ?_)
  refine r_pR (q := 113) fp_X1_init_64 rfl dX1_init_110 rfl (fun σ44 => ?_)
  refine r_aload_n (q := 114) dX1_init_113 rfl rfl rfl ?_
  refine r_bipush (q := 116) (v := (81 : Int32)) dX1_init_114 rfl (by decide) ?_
  refine r_newarray (q := 118) (k0 := 1) (by decide) rfl q344 dX1_init_116 rfl (fun a45 σ46 => ?_)
  refine r_pR (q := 121) fp_X1_init_68 rfl dX1_init_118 rfl (fun σ47 => ?_)
  refine r_aload_n (q := 122) dX1_init_121 rfl rfl rfl ?_
  refine r_bipush (q := 124) (v := (8 : Int32)) dX1_init_122 rfl (by decide) ?_
  refine r_newarray (q := 126) (k0 := 1) (by decide) rfl q344 dX1_init_124 rfl (fun a48 σ49 => ?_)
  refine r_pR (q := 129) fp_X1_init_71 rfl dX1_init_126 rfl (fun σ50 => ?_)
  refine r_aload_n (q := 130) dX1_init_129 rfl rfl rfl ?_
  refine r_iconst (q := 131) (v := (2 : Int32)) dX1_init_130 rfl (by decide) ?_
  refine r_newarray (q := 133) (k0 := 1) (by decide) rfl q344 dX1_init_131 rfl (fun a51 σ52 => ?_)
  refine r_pR (q := 136) fp_X1_init_74 rfl dX1_init_133 rfl (fun σ53 => ?_)
  refine r_iconst (q := 137) (v := (0 : Int32)) dX1_init_136 rfl (by decide) ?_
  refine r_istore_n (q := 138) dX1_init_137 rfl rfl (Nat.le_of_ble_eq_true rfl) rfl ?_
  exact r_le (w_X1_init_b138 G h0 N N _ _ _) (Nat.le_refl _) (And.intro rfl (And.intro rfl trivial))
theorem c_X7_init (G : Gx) (h0 : G0 G) (N : Nat) (a0 : Nat) (σ : Mem) : Ct G mX7_init rhoV [vR (some a0)] σ (f_X7_init N a0 σ) := by
  refine Ct_of h0 (by decide) rfl (Nat.le_of_ble_eq_true rfl) (L0 := [some (vR (some a0))]) rfl ?_
  unfold f_X7_init
  refine r_aload_n (q := 1) dX7_init_0 rfl rfl rfl ?_
  refine r_objInit (q := 4) q1888 q208 q209 (by decide) (by decide) dX7_init_1 rfl ?_
  refine r_aload_n (q := 5) dX7_init_4 rfl rfl rfl ?_
  refine r_iconst (q := 6) (v := (-1 : Int32)) dX7_init_5 rfl (by decide) ?_
  refine r_pI (q := 9) fp_X7_init_9 dX7_init_6 rfl (fun σ1 => ?_)
  refine r_aload_n (q := 10) dX7_init_9 rfl rfl rfl ?_
  refine r_sipush (q := 13) (v := (1200 : Int32)) dX7_init_10 rfl (by decide) ?_
  refine r_newarray (q := 15) (k0 := 2) (by decide) rfl q289 dX7_init_13 rfl (fun a2 σ3 => ?_)
  refine r_pR (q := 18) fp_X7_init_13 rfl dX7_init_15 rfl (fun σ4 => ?_)
  refine r_aload_n (q := 19) dX7_init_18 rfl rfl rfl ?_
  refine r_bipush (q := 21) (v := (8 : Int32)) dX7_init_19 rfl (by decide) ?_
  refine r_newarray (q := 23) (k0 := 1) (by decide) rfl q344 dX7_init_21 rfl (fun a5 σ6 => ?_)
  refine r_pR (q := 26) fp_X7_init_17 rfl dX7_init_23 rfl (fun σ7 => ?_)
  refine r_aload_n (q := 27) dX7_init_26 rfl rfl rfl ?_
  refine r_bipush (q := 29) (v := (18 : Int32)) dX7_init_27 rfl (by decide) ?_
  refine r_newarray (q := 31) (k0 := 1) (by decide) rfl q344 dX7_init_29 rfl (fun a8 σ9 => ?_)
  refine r_pR (q := 34) fp_X7_init_21 rfl dX7_init_31 rfl (fun σ10 => ?_)
  refine r_aload_n (q := 35) dX7_init_34 rfl rfl rfl ?_
  refine r_sipush (q := 38) (v := (288 : Int32)) dX7_init_35 rfl (by decide) ?_
  refine r_newarray (q := 40) (k0 := 1) (by decide) rfl q344 dX7_init_38 rfl (fun a11 σ12 => ?_)
  refine r_pR (q := 43) fp_X7_init_24 rfl dX7_init_40 rfl (fun σ13 => ?_)
  refine r_aload_n (q := 44) dX7_init_43 rfl rfl rfl ?_
  refine r_bipush (q := 46) (v := (54 : Int32)) dX7_init_44 rfl (by decide) ?_
  refine r_newarray (q := 48) (k0 := 1) (by decide) rfl q344 dX7_init_46 rfl (fun a14 σ15 => ?_)
  refine r_pR (q := 51) fp_X7_init_27 rfl dX7_init_48 rfl (fun σ16 => ?_)
  refine r_aload_n (q := 52) dX7_init_51 rfl rfl rfl ?_
  refine r_bipush (q := 54) (v := (72 : Int32)) dX7_init_52 rfl (by decide) ?_
  refine r_newarray (q := 56) (k0 := 1) (by decide) rfl q344 dX7_init_54 rfl (fun a17 σ18 => ?_)
  refine r_pR (q := 59) fp_X7_init_30 rfl dX7_init_56 rfl (fun σ19 => ?_)
  refine r_aload_n (q := 60) dX7_init_59 rfl rfl rfl ?_
  refine r_bipush (q := 62) (v := (72 : Int32)) dX7_init_60 rfl (by decide) ?_
  refine r_newarray (q := 64) (k0 := 1) (by decide) rfl q344 dX7_init_62 rfl (fun a20 σ21 => ?_)
  refine r_pR (q := 67) fp_X7_init_33 rfl dX7_init_64 rfl (fun σ22 => ?_)
  refine r_aload_n (q := 68) dX7_init_67 rfl rfl rfl ?_
  refine r_bipush (q := 70) (v := (72 : Int32)) dX7_init_68 rfl (by decide) ?_
  refine r_newarray (q := 72) (k0 := 1) (by decide) rfl q344 dX7_init_70 rfl (fun a23 σ24 => ?_)
  refine r_pR (q := 75) fp_X7_init_36 rfl dX7_init_72 rfl (fun σ25 => ?_)
  refine r_aload_n (q := 76) dX7_init_75 rfl rfl rfl ?_
  refine r_bipush (q := 78) (v := (32 : Int32)) dX7_init_76 rfl (by decide) ?_
  refine r_newarray (q := 80) (k0 := 1) (by decide) rfl q344 dX7_init_78 rfl (fun a26 σ27 => ?_)
  refine r_pR (q := 83) fp_X7_init_39 rfl dX7_init_80 rfl (fun σ28 => ?_)
  refine r_aload_n (q := 84) dX7_init_83 rfl rfl rfl ?_
  refine r_bipush (q := 86) (v := (6 : Int32)) dX7_init_84 rfl (by decide) ?_
  refine r_newarray (q := 88) (k0 := 1) (by decide) rfl q344 dX7_init_86 rfl (fun a29 σ30 => ?_)
  refine r_pR (q := 91) fp_X7_init_42 rfl dX7_init_88 rfl (fun σ31 => ?_)
  refine r_aload_n (q := 92) dX7_init_91 rfl rfl rfl ?_
  refine r_bipush (q := 94) (v := (6 : Int32)) dX7_init_92 rfl (by decide) ?_
  refine r_newarray (q := 96) (k0 := 1) (by decide) rfl q344 dX7_init_94 rfl (fun a32 σ33 => ?_)
  refine r_pR (q := 99) fp_X7_init_45 rfl dX7_init_96 rfl (fun σ34 => ?_)
  refine r_aload_n (q := 100) dX7_init_99 rfl rfl rfl ?_
  refine r_bipush (q := 102) (v := (81 : Int32)) dX7_init_100 rfl (by decide) ?_
  refine r_newarray (q := 104) (k0 := 1) (by decide) rfl q344 dX7_init_102 rfl (fun a35 σ36 => ?_)
  refine r_pR (q := 107) fp_X7_init_48 rfl dX7_init_104 rfl (fun σ37 => ?_)
  refine r_aload_n (q := 108) dX7_init_107 rfl rfl rfl ?_
  refine r_bipush (q := 110) (v := (81 : Int32)) dX7_init_108 rfl (by decide) ?_
  refine r_newarray (q := 112) (k0 := 1) (by decide) rfl q344 dX7_init_110 rfl (fun a38 σ39 => ?_)
  refine r_pR (q := 115) fp_X7_init_51 rfl dX7_init_112 rfl (fun σ40 => ?_)
  refine r_aload_n (q := 116) dX7_init_115 rfl rfl rfl ?_
  refine r_sipush (q := 119) (v := (5832 : Int32)) dX7_init_116 rfl (by decide) ?_
  refine r_newarray (q := 121) (k0 := 1) (by decide) rfl q344 dX7_init_119 rfl (fun a41 σ42 => ?_)
  refine r_pR (q := 124) fp_X7_init_54 rfl dX7_init_121 rfl (fun σ43 => ?_)
  refine r_aload_n (q := 125) dX7_init_124 rfl rfl rfl ?_
  refine r_bipush (q := 127) (v := (8 : Int32)) dX7_init_125 rfl (by decide) ?_
  refine r_newarray (q := 129) (k0 := 1) (by decide) rfl q344 dX7_init_127 rfl (fun a44 σ45 => ?_)
  refine r_pR (q := 132) fp_X7_init_57 rfl dX7_init_129 rfl (fun σ46 => ?_)
  refine r_aload_n (q := 133) dX7_init_132 rfl rfl rfl ?_
  refine r_bipush (q := 135) (v := (6 : Int32)) dX7_init_133 rfl (by decide) ?_
  refine r_newarray (q := 137) (k0 := 1) (by decide) rfl q344 dX7_init_135 rfl (fun a47 σ48 => ?_)
  refine r_pR (q := 140) fp_X7_init_60 rfl dX7_init_137 rfl (fun σ49 => ?_)
  refine r_aload_n (q := 141) dX7_init_140 rfl rfl rfl ?_
  refine r_bipush (q := 143) (v := (6 : Int32)) dX7_init_141 rfl (by decide) ?_
  refine r_newarray (q := 145) (k0 := 1) (by decide) rfl q344 dX7_init_143 rfl (fun a50 σ51 => ?_)
  refine r_pR (q := 148) fp_X7_init_63 rfl dX7_init_145 rfl (fun σ52 => ?_)
  exact r_return rfl dX7_init_148
theorem w_X1_bytes_b3B (G : Gx) (h0 : G0 G) (N : Nat)   (K3 : Nat → Int32 → Int32 → Mem → Option (Unit × Mem)) (hK3 : ∀ (a0 : Nat) (l1 : Int32) (l2 : Int32) (σ : Mem), Runs G mX1_bytes rhoV σ 3 [some (vR (some a0)), some (vI l1), some (vI l2)] [] (K3 a0 l1 l2 σ)) (a0 : Nat) (l1 : Int32) (l2 : Int32) (σ : Mem) : Runs G mX1_bytes rhoV σ 3 [some (vR (some a0)), some (vI l1), some (vI l2)] [] (f_X1_bytes_b3B N  K3 a0 l1 l2 σ) := by
  unfold f_X1_bytes_b3B
  refine r_iload_n (q := 4) dX1_bytes_3 rfl rfl rfl ?_
  refine r_if_lt (q := 7) (t := 36) dX1_bytes_4 rfl (by decide) (fun _ => ?_) (fun _ => ?_)
  · exact r_return rfl dX1_bytes_36
  · refine r_aload_n (q := 8) dX1_bytes_7 rfl rfl rfl ?_
    refine r_gR (q := 11) fl_X1_13 rfl dX1_bytes_8 rfl (fun x1 => ?_)
    refine r_aload_n (q := 12) dX1_bytes_11 rfl rfl rfl ?_
    refine r_gI (q := 15) fl_X1_83 dX1_bytes_12 rfl (fun x2 => ?_)
    refine r_iload_n (q := 16) dX1_bytes_15 rfl rfl rfl ?_
    refine r_iload_n (q := 17) dX1_bytes_16 rfl rfl rfl ?_
    refine r_ishr (q := 18) dX1_bytes_17 rfl ?_
    refine r_i2b (q := 19) dX1_bytes_18 rfl ?_
    refine r_bastore (q := 20) dX1_bytes_19 rfl (fun σ3 => ?_)
    refine r_aload_n (q := 21) dX1_bytes_20 rfl rfl rfl ?_
    refine r_dup (q := 22) dX1_bytes_21 rfl rfl ?_
    refine r_gI (q := 25) fl_X1_83 dX1_bytes_22 rfl (fun x4 => ?_)
    refine r_iconst (q := 26) (v := (1 : Int32)) dX1_bytes_25 rfl (by decide) ?_
    refine r_iadd (q := 27) dX1_bytes_26 rfl ?_
    refine r_pI (q := 30) fp_X1_bytes_83 dX1_bytes_27 rfl (fun σ5 => ?_)
    refine r_iinc (q := 33) (v := (-8 : Int32)) dX1_bytes_30 rfl rfl (by decide) (Nat.le_of_ble_eq_true rfl) rfl ?_
    refine r_goto (q := 3) dX1_bytes_33 (by decide) ?_
    exact r_le (hK3 _ _ _ _) (Nat.le_refl _) (And.intro rfl (And.intro rfl (And.intro rfl trivial)))
theorem w_X1_bytes_b3 (G : Gx) (h0 : G0 G) (N : Nat)   : ∀ (z : Nat) (a0 : Nat) (l1 : Int32) (l2 : Int32) (σ : Mem), Runs G mX1_bytes rhoV σ 3 [some (vR (some a0)), some (vI l1), some (vI l2)] [] (f_X1_bytes_b3 N  z a0 l1 l2 σ) := by
  intro z
  induction z with
  | zero => exact fun _ _ _ _ => r_none
  | succ z ih => exact fun a0 l1 l2 σ => w_X1_bytes_b3B G h0 N   _ ih a0 l1 l2 σ
theorem c_X1_bytes (G : Gx) (h0 : G0 G) (N : Nat) (a0 : Nat) (i1 : Int32) (σ : Mem) : Ct G mX1_bytes rhoV [vR (some a0), vI i1] σ (f_X1_bytes N a0 i1 σ) := by
  refine Ct_of h0 (by decide) rfl (Nat.le_of_ble_eq_true rfl) (L0 := [some (vR (some a0)), some (vI i1), none]) rfl ?_
  unfold f_X1_bytes
  refine r_bipush (q := 2) (v := (24 : Int32)) dX1_bytes_0 rfl (by decide) ?_
  refine r_istore_n (q := 3) dX1_bytes_2 rfl rfl (Nat.le_of_ble_eq_true rfl) rfl ?_
  exact r_le (w_X1_bytes_b3 G h0 N N _ _ _ _) (Nat.le_refl _) (And.intro rfl (And.intro rfl (And.intro rfl trivial)))
theorem c_X1_feed (G : Gx) (h0 : G0 G) (N : Nat) (a0 : Nat) (i1 : Int32) (i2 : Int32) (i3 : Int32) (i4 : Int32) (i5 : Int32) (σ : Mem) : Ct G mX1_feed rhoI [vR (some a0), vI i1, vI i2, vI i3, vI i4, vI i5] σ (f_X1_feed N a0 i1 i2 i3 i4 i5 σ) := by
  refine Ct_of h0 (by decide) rfl (Nat.le_of_ble_eq_true rfl) (L0 := [some (vR (some a0)), some (vI i1), some (vI i2), some (vI i3), some (vI i4), some (vI i5)]) rfl ?_
  unfold f_X1_feed
  refine r_aload_n (q := 1) dX1_feed_0 rfl rfl rfl ?_
  refine r_gI (q := 4) fl_X1_83 dX1_feed_1 rfl (fun x1 => ?_)
  refine r_bipush (q := 6) (v := (20 : Int32)) dX1_feed_4 rfl (by decide) ?_
  refine r_iadd (q := 7) dX1_feed_6 rfl ?_
  refine r_sipush (q := 10) (v := (1200 : Int32)) dX1_feed_7 rfl (by decide) ?_
  refine r_icmp_le (q := 13) (t := 15) dX1_feed_10 rfl (by decide) (fun _ => ?_) (fun _ => ?_)
  · refine r_aload_n (q := 16) dX1_feed_15 rfl rfl rfl ?_
    refine r_iload_n (q := 17) dX1_feed_16 rfl rfl rfl ?_
    refine r_ob (fun a4 ha4 => ?_)
    obtain ⟨hea4, hka4⟩ := o_at_eq ha4
    cases hea4
    refine r_callV (q := 20) (c_X1_bytes G h0 N _ _ _) (cl_V (ci := 0) rfl rfl (lw_V q476 q478 qs1 q167 q479) (hd_X1_bytes) ⟨Nat.le_of_ble_eq_true rfl, Nat.le_of_ble_eq_true rfl⟩ (List.mem_singleton.mp hka4) rfl rfl rfl (Nat.le_of_ble_eq_true rfl) dX1_feed_17) rfl (fun u2 σ3 => ?_)
    refine r_aload_n (q := 21) dX1_feed_20 rfl rfl rfl ?_
    refine r_iload_n (q := 22) dX1_feed_21 rfl rfl rfl ?_
    refine r_ob (fun a7 ha7 => ?_)
    obtain ⟨hea7, hka7⟩ := o_at_eq ha7
    cases hea7
    refine r_callV (q := 25) (c_X1_bytes G h0 N _ _ _) (cl_V (ci := 0) rfl rfl (lw_V q476 q478 qs1 q167 q479) (hd_X1_bytes) ⟨Nat.le_of_ble_eq_true rfl, Nat.le_of_ble_eq_true rfl⟩ (List.mem_singleton.mp hka7) rfl rfl rfl (Nat.le_of_ble_eq_true rfl) dX1_feed_22) rfl (fun u5 σ6 => ?_)
    refine r_aload_n (q := 26) dX1_feed_25 rfl rfl rfl ?_
    refine r_iload_n (q := 27) dX1_feed_26 rfl rfl rfl ?_
    refine r_ob (fun a10 ha10 => ?_)
    obtain ⟨hea10, hka10⟩ := o_at_eq ha10
    cases hea10
    refine r_callV (q := 30) (c_X1_bytes G h0 N _ _ _) (cl_V (ci := 0) rfl rfl (lw_V q476 q478 qs1 q167 q479) (hd_X1_bytes) ⟨Nat.le_of_ble_eq_true rfl, Nat.le_of_ble_eq_true rfl⟩ (List.mem_singleton.mp hka10) rfl rfl rfl (Nat.le_of_ble_eq_true rfl) dX1_feed_27) rfl (fun u8 σ9 => ?_)
    refine r_aload_n (q := 31) dX1_feed_30 rfl rfl rfl ?_
    refine r_iload (q := 33) dX1_feed_31 rfl rfl ?_
    refine r_ob (fun a13 ha13 => ?_)
    obtain ⟨hea13, hka13⟩ := o_at_eq ha13
    cases hea13
    refine r_callV (q := 36) (c_X1_bytes G h0 N _ _ _) (cl_V (ci := 0) rfl rfl (lw_V q476 q478 qs1 q167 q479) (hd_X1_bytes) ⟨Nat.le_of_ble_eq_true rfl, Nat.le_of_ble_eq_true rfl⟩ (List.mem_singleton.mp hka13) rfl rfl rfl (Nat.le_of_ble_eq_true rfl) dX1_feed_33) rfl (fun u11 σ12 => ?_)
    refine r_aload_n (q := 37) dX1_feed_36 rfl rfl rfl ?_
    refine r_iload (q := 39) dX1_feed_37 rfl rfl ?_
    refine r_ob (fun a16 ha16 => ?_)
    obtain ⟨hea16, hka16⟩ := o_at_eq ha16
    cases hea16
    refine r_callV (q := 42) (c_X1_bytes G h0 N _ _ _) (cl_V (ci := 0) rfl rfl (lw_V q476 q478 qs1 q167 q479) (hd_X1_bytes) ⟨Nat.le_of_ble_eq_true rfl, Nat.le_of_ble_eq_true rfl⟩ (List.mem_singleton.mp hka16) rfl rfl rfl (Nat.le_of_ble_eq_true rfl) dX1_feed_39) rfl (fun u14 σ15 => ?_)
    refine r_aload_n (q := 43) dX1_feed_42 rfl rfl rfl ?_
    refine r_gI (q := 46) fl_X1_83 dX1_feed_43 rfl (fun x17 => ?_)
    exact r_ireturn rfl rfl dX1_feed_46
  · refine r_iconst (q := 14) (v := (-1 : Int32)) dX1_feed_13 rfl (by decide) ?_
    exact r_ireturn rfl rfl dX1_feed_14
theorem w_X7_feed_b76 (G : Gx) (h0 : G0 G) (N : Nat) (K23 : Nat → Int32 → Int32 → Int32 → Int32 → Int32 → Int32 → Mem → Option (Int32 × Mem)) (hK23 : ∀ (a0 : Nat) (l1 : Int32) (l2 : Int32) (l3 : Int32) (l4 : Int32) (l5 : Int32) (l6 : Int32) (σ : Mem), Runs G mX7_feed rhoI σ 23 [some (vR (some a0)), some (vI l1), some (vI l2), some (vI l3), some (vI l4), some (vI l5), some (vI l6), none] [] (K23 a0 l1 l2 l3 l4 l5 l6 σ)) (a0 : Nat) (l1 : Int32) (l2 : Int32) (l3 : Int32) (l4 : Int32) (l5 : Int32) (l6 : Int32) (t0 : Int32) (σ : Mem) : Runs G mX7_feed rhoI σ 76 [some (vR (some a0)), some (vI l1), some (vI l2), some (vI l3), some (vI l4), some (vI l5), some (vI l6), none] [vI t0] (f_X7_feed_b76 N K23 a0 l1 l2 l3 l4 l5 l6 t0 σ) := by
  unfold f_X7_feed_b76
  refine r_istore (q := 78) dX7_feed_76 rfl (Nat.le_of_ble_eq_true rfl) rfl ?_
  refine r_aload_n (q := 79) dX7_feed_78 rfl rfl rfl ?_
  refine r_gR (q := 82) fl_X7_13 rfl dX7_feed_79 rfl (fun x1 => ?_)
  refine r_aload_n (q := 83) dX7_feed_82 rfl rfl rfl ?_
  refine r_gI (q := 86) fl_X7_435 dX7_feed_83 rfl (fun x2 => ?_)
  refine r_iload (q := 88) dX7_feed_86 rfl rfl ?_
  refine r_bipush (q := 90) (v := (24 : Int32)) dX7_feed_88 rfl (by decide) ?_
  refine r_bipush (q := 92) (v := (8 : Int32)) dX7_feed_90 rfl (by decide) ?_
  refine r_iload (q := 94) dX7_feed_92 rfl rfl ?_
  refine r_iconst (q := 95) (v := (4 : Int32)) dX7_feed_94 rfl (by decide) ?_
  refine r_irem (q := 96) dX7_feed_95 rfl (fun x3 _ => ?_)
  refine r_imul (q := 97) dX7_feed_96 rfl ?_
  refine r_isub (q := 98) dX7_feed_97 rfl ?_
  refine r_ishr (q := 99) dX7_feed_98 rfl ?_
  refine r_i2b (q := 100) dX7_feed_99 rfl ?_
  refine r_bastore (q := 101) dX7_feed_100 rfl (fun σ4 => ?_)
  refine r_aload_n (q := 102) dX7_feed_101 rfl rfl rfl ?_
  refine r_dup (q := 103) dX7_feed_102 rfl rfl ?_
  refine r_gI (q := 106) fl_X7_435 dX7_feed_103 rfl (fun x5 => ?_)
  refine r_iconst (q := 107) (v := (1 : Int32)) dX7_feed_106 rfl (by decide) ?_
  refine r_iadd (q := 108) dX7_feed_107 rfl ?_
  refine r_pI (q := 111) fp_X7_feed_435 dX7_feed_108 rfl (fun σ6 => ?_)
  refine r_iinc (q := 114) (v := (1 : Int32)) dX7_feed_111 rfl rfl (by decide) (Nat.le_of_ble_eq_true rfl) rfl ?_
  refine r_goto (q := 23) dX7_feed_114 (by decide) ?_
  exact r_le (hK23 _ _ _ _ _ _ _ _) (Nat.le_refl _) (And.intro rfl (And.intro rfl (And.intro rfl (And.intro rfl (And.intro rfl (And.intro rfl (And.intro rfl trivial)))))))
theorem w_X7_feed_b23B (G : Gx) (h0 : G0 G) (N : Nat)   (K23 : Nat → Int32 → Int32 → Int32 → Int32 → Int32 → Int32 → Mem → Option (Int32 × Mem)) (hK23 : ∀ (a0 : Nat) (l1 : Int32) (l2 : Int32) (l3 : Int32) (l4 : Int32) (l5 : Int32) (l6 : Int32) (σ : Mem), Runs G mX7_feed rhoI σ 23 [some (vR (some a0)), some (vI l1), some (vI l2), some (vI l3), some (vI l4), some (vI l5), some (vI l6), none] [] (K23 a0 l1 l2 l3 l4 l5 l6 σ)) (a0 : Nat) (l1 : Int32) (l2 : Int32) (l3 : Int32) (l4 : Int32) (l5 : Int32) (l6 : Int32) (σ : Mem) : Runs G mX7_feed rhoI σ 23 [some (vR (some a0)), some (vI l1), some (vI l2), some (vI l3), some (vI l4), some (vI l5), some (vI l6), none] [] (f_X7_feed_b23B N  K23 a0 l1 l2 l3 l4 l5 l6 σ) := by
  unfold f_X7_feed_b23B
  refine r_iload (q := 25) dX7_feed_23 rfl rfl ?_
  refine r_bipush (q := 27) (v := (20 : Int32)) dX7_feed_25 rfl (by decide) ?_
  refine r_icmp_ge (q := 30) (t := 117) dX7_feed_27 rfl (by decide) (fun _ => ?_) (fun _ => ?_)
  · refine r_aload_n (q := 118) dX7_feed_117 rfl rfl rfl ?_
    refine r_gI (q := 121) fl_X7_435 dX7_feed_118 rfl (fun x1 => ?_)
    exact r_ireturn rfl rfl dX7_feed_121
  · refine r_iload (q := 32) dX7_feed_30 rfl rfl ?_
    refine r_iconst (q := 33) (v := (4 : Int32)) dX7_feed_32 rfl (by decide) ?_
    refine r_icmp_ge (q := 36) (t := 40) dX7_feed_33 rfl (by decide) (fun _ => ?_) (fun _ => ?_)
    · refine r_iload (q := 42) dX7_feed_40 rfl rfl ?_
      refine r_bipush (q := 44) (v := (8 : Int32)) dX7_feed_42 rfl (by decide) ?_
      refine r_icmp_ge (q := 47) (t := 51) dX7_feed_44 rfl (by decide) (fun _ => ?_) (fun _ => ?_)
      · refine r_iload (q := 53) dX7_feed_51 rfl rfl ?_
        refine r_bipush (q := 55) (v := (12 : Int32)) dX7_feed_53 rfl (by decide) ?_
        refine r_icmp_ge (q := 58) (t := 62) dX7_feed_55 rfl (by decide) (fun _ => ?_) (fun _ => ?_)
        · refine r_iload (q := 64) dX7_feed_62 rfl rfl ?_
          refine r_bipush (q := 66) (v := (16 : Int32)) dX7_feed_64 rfl (by decide) ?_
          refine r_icmp_ge (q := 69) (t := 74) dX7_feed_66 rfl (by decide) (fun _ => ?_) (fun _ => ?_)
          · refine r_iload (q := 76) dX7_feed_74 rfl rfl ?_
            exact r_le (w_X7_feed_b76 G h0 N K23 hK23 _ _ _ _ _ _ _ _ _) (Nat.le_refl _) (And.intro rfl (And.intro rfl (And.intro rfl (And.intro rfl (And.intro rfl (And.intro rfl (And.intro rfl trivial)))))))
          · refine r_iload (q := 71) dX7_feed_69 rfl rfl ?_
            refine r_goto (q := 76) dX7_feed_71 (by decide) ?_
            exact r_le (w_X7_feed_b76 G h0 N K23 hK23 _ _ _ _ _ _ _ _ _) (Nat.le_refl _) (And.intro rfl (And.intro rfl (And.intro rfl (And.intro rfl (And.intro rfl (And.intro rfl (And.intro rfl trivial)))))))
        · refine r_iload_n (q := 59) dX7_feed_58 rfl rfl rfl ?_
          refine r_goto (q := 76) dX7_feed_59 (by decide) ?_
          exact r_le (w_X7_feed_b76 G h0 N K23 hK23 _ _ _ _ _ _ _ _ _) (Nat.le_refl _) (And.intro rfl (And.intro rfl (And.intro rfl (And.intro rfl (And.intro rfl (And.intro rfl (And.intro rfl trivial)))))))
      · refine r_iload_n (q := 48) dX7_feed_47 rfl rfl rfl ?_
        refine r_goto (q := 76) dX7_feed_48 (by decide) ?_
        exact r_le (w_X7_feed_b76 G h0 N K23 hK23 _ _ _ _ _ _ _ _ _) (Nat.le_refl _) (And.intro rfl (And.intro rfl (And.intro rfl (And.intro rfl (And.intro rfl (And.intro rfl (And.intro rfl trivial)))))))
    · refine r_iload_n (q := 37) dX7_feed_36 rfl rfl rfl ?_
      refine r_goto (q := 76) dX7_feed_37 (by decide) ?_
      exact r_le (w_X7_feed_b76 G h0 N K23 hK23 _ _ _ _ _ _ _ _ _) (Nat.le_refl _) (And.intro rfl (And.intro rfl (And.intro rfl (And.intro rfl (And.intro rfl (And.intro rfl (And.intro rfl trivial)))))))
theorem w_X7_feed_b23 (G : Gx) (h0 : G0 G) (N : Nat)   : ∀ (z : Nat) (a0 : Nat) (l1 : Int32) (l2 : Int32) (l3 : Int32) (l4 : Int32) (l5 : Int32) (l6 : Int32) (σ : Mem), Runs G mX7_feed rhoI σ 23 [some (vR (some a0)), some (vI l1), some (vI l2), some (vI l3), some (vI l4), some (vI l5), some (vI l6), none] [] (f_X7_feed_b23 N  z a0 l1 l2 l3 l4 l5 l6 σ) := by
  intro z
  induction z with
  | zero => exact fun _ _ _ _ _ _ _ _ => r_none
  | succ z ih => exact fun a0 l1 l2 l3 l4 l5 l6 σ => w_X7_feed_b23B G h0 N   _ ih a0 l1 l2 l3 l4 l5 l6 σ
theorem c_X7_feed (G : Gx) (h0 : G0 G) (N : Nat) (a0 : Nat) (i1 : Int32) (i2 : Int32) (i3 : Int32) (i4 : Int32) (i5 : Int32) (σ : Mem) : Ct G mX7_feed rhoI [vR (some a0), vI i1, vI i2, vI i3, vI i4, vI i5] σ (f_X7_feed N a0 i1 i2 i3 i4 i5 σ) := by
  refine Ct_of h0 (by decide) rfl (Nat.le_of_ble_eq_true rfl) (L0 := [some (vR (some a0)), some (vI i1), some (vI i2), some (vI i3), some (vI i4), some (vI i5), none, none]) rfl ?_
  unfold f_X7_feed
  refine r_aload_n (q := 1) dX7_feed_0 rfl rfl rfl ?_
  refine r_iconst (q := 2) (v := (0 : Int32)) dX7_feed_1 rfl (by decide) ?_
  refine r_pI (q := 5) fp_X7_feed_66 dX7_feed_2 rfl (fun σ1 => ?_)
  refine r_aload_n (q := 6) dX7_feed_5 rfl rfl rfl ?_
  refine r_gI (q := 9) fl_X7_435 dX7_feed_6 rfl (fun x2 => ?_)
  refine r_bipush (q := 11) (v := (20 : Int32)) dX7_feed_9 rfl (by decide) ?_
  refine r_iadd (q := 12) dX7_feed_11 rfl ?_
  refine r_sipush (q := 15) (v := (1200 : Int32)) dX7_feed_12 rfl (by decide) ?_
  refine r_icmp_le (q := 18) (t := 20) dX7_feed_15 rfl (by decide) (fun _ => ?_) (fun _ => ?_)
  · refine r_iconst (q := 21) (v := (0 : Int32)) dX7_feed_20 rfl (by decide) ?_
    refine r_istore (q := 23) dX7_feed_21 rfl (Nat.le_of_ble_eq_true rfl) rfl ?_
    exact r_le (w_X7_feed_b23 G h0 N N _ _ _ _ _ _ _ _) (Nat.le_refl _) (And.intro rfl (And.intro rfl (And.intro rfl (And.intro rfl (And.intro rfl (And.intro rfl (And.intro rfl trivial)))))))
  · refine r_iconst (q := 19) (v := (-1 : Int32)) dX7_feed_18 rfl (by decide) ?_
    exact r_ireturn rfl rfl dX7_feed_19
theorem c_X1_anew (G : Gx) (h0 : G0 G) (N : Nat) (a0 : Nat) (σ : Mem) : Ct G mX1_anew rhoV [vR (some a0)] σ (f_X1_anew N a0 σ) := by
  refine Ct_of h0 (by decide) rfl (Nat.le_of_ble_eq_true rfl) (L0 := [some (vR (some a0))]) rfl ?_
  unfold f_X1_anew
  refine r_aload_n (q := 1) dX1_anew_0 rfl rfl rfl ?_
  refine r_iconst (q := 2) (v := (0 : Int32)) dX1_anew_1 rfl (by decide) ?_
  refine r_pI (q := 5) fp_X1_anew_77 dX1_anew_2 rfl (fun σ1 => ?_)
  refine r_aload_n (q := 6) dX1_anew_5 rfl rfl rfl ?_
  refine r_iconst (q := 7) (v := (-1 : Int32)) dX1_anew_6 rfl (by decide) ?_
  refine r_pI (q := 10) fp_X1_anew_26 dX1_anew_7 rfl (fun σ2 => ?_)
  exact r_return rfl dX1_anew_10
theorem w_X1_in_b14 (G : Gx) (h0 : G0 G) (N : Nat)    (σ : Mem) : Runs G mX1_in rhoI σ 14 [none, none, none] [] (f_X1_in_b14 N   σ) := by
  unfold f_X1_in_b14
  refine r_iconst (q := 15) (v := (0 : Int32)) dX1_in_14 rfl (by decide) ?_
  exact r_ireturnN rfl dX1_in_15
theorem c_X1_in (G : Gx) (h0 : G0 G) (N : Nat) (i0 : Int32) (i1 : Int32) (i2 : Int32) (σ : Mem) : Ct G mX1_in rhoI [vI i0, vI i1, vI i2] σ (f_X1_in N i0 i1 i2 σ) := by
  refine Ct_of h0 (by decide) rfl (Nat.le_of_ble_eq_true rfl) (L0 := [some (vI i0), some (vI i1), some (vI i2)]) rfl ?_
  unfold f_X1_in
  refine r_iload_n (q := 1) dX1_in_0 rfl rfl rfl ?_
  refine r_iload_n (q := 2) dX1_in_1 rfl rfl rfl ?_
  refine r_icmp_lt (q := 5) (t := 14) dX1_in_2 rfl (by decide) (fun _ => ?_) (fun _ => ?_)
  · exact r_le (w_X1_in_b14 G h0 N  _) (Nat.le_refl _) trivial
  · refine r_iload_n (q := 6) dX1_in_5 rfl rfl rfl ?_
    refine r_iload_n (q := 7) dX1_in_6 rfl rfl rfl ?_
    refine r_icmp_gt (q := 10) (t := 14) dX1_in_7 rfl (by decide) (fun _ => ?_) (fun _ => ?_)
    · exact r_le (w_X1_in_b14 G h0 N  _) (Nat.le_refl _) trivial
    · refine r_iconst (q := 11) (v := (1 : Int32)) dX1_in_10 rfl (by decide) ?_
      refine r_goto (q := 15) dX1_in_11 (by decide) ?_
      exact r_ireturnN rfl dX1_in_15
theorem c_X1_no (G : Gx) (h0 : G0 G) (N : Nat) (a0 : Nat) (i1 : Int32) (σ : Mem) : Ct G mX1_no rhoI [vR (some a0), vI i1] σ (f_X1_no N a0 i1 σ) := by
  refine Ct_of h0 (by decide) rfl (Nat.le_of_ble_eq_true rfl) (L0 := [some (vR (some a0)), some (vI i1)]) rfl ?_
  unfold f_X1_no
  refine r_aload_n (q := 1) dX1_no_0 rfl rfl rfl ?_
  refine r_iload_n (q := 2) dX1_no_1 rfl rfl rfl ?_
  refine r_pI (q := 5) fp_X1_no_77 dX1_no_2 rfl (fun σ1 => ?_)
  refine r_iconst (q := 6) (v := (-1 : Int32)) dX1_no_5 rfl (by decide) ?_
  exact r_ireturn rfl rfl dX1_no_6
theorem c_X8_init (G : Gx) (h0 : G0 G) (N : Nat) (a0 : Nat) (σ : Mem) : Ct G mX8_init rhoV [vR (some a0)] σ (f_X8_init N a0 σ) := by
  refine Ct_of h0 (by decide) rfl (Nat.le_of_ble_eq_true rfl) (L0 := [some (vR (some a0))]) rfl ?_
  unfold f_X8_init
  refine r_aload_n (q := 1) dX8_init_0 rfl rfl rfl ?_
  refine r_objInit (q := 4) q505 q208 q209 (by decide) (by decide) dX8_init_1 rfl ?_
  refine r_aload_n (q := 5) dX8_init_4 rfl rfl rfl ?_
  refine r_bipush (q := 7) (v := (8 : Int32)) dX8_init_5 rfl (by decide) ?_
  refine r_anewarray (q := 10) (k0 := 6) (by decide) rfl q506 (by decide) dX8_init_7 rfl (fun a1 σ2 => ?_)
  refine r_pR (q := 13) fp_X8_init_11 rfl dX8_init_10 rfl (fun σ3 => ?_)
  refine r_aload_n (q := 14) dX8_init_13 rfl rfl rfl ?_
  refine r_bipush (q := 16) (v := (14 : Int32)) dX8_init_14 rfl (by decide) ?_
  refine r_newarray (q := 18) (k0 := 1) (by decide) rfl q344 dX8_init_16 rfl (fun a4 σ5 => ?_)
  refine r_pR (q := 21) fp_X8_init_17 rfl dX8_init_18 rfl (fun σ6 => ?_)
  refine r_aload_n (q := 22) dX8_init_21 rfl rfl rfl ?_
  refine r_bipush (q := 24) (v := (14 : Int32)) dX8_init_22 rfl (by decide) ?_
  refine r_newarray (q := 26) (k0 := 1) (by decide) rfl q344 dX8_init_24 rfl (fun a7 σ8 => ?_)
  refine r_pR (q := 29) fp_X8_init_21 rfl dX8_init_26 rfl (fun σ9 => ?_)
  refine r_aload_n (q := 30) dX8_init_29 rfl rfl rfl ?_
  refine r_bipush (q := 32) (v := (8 : Int32)) dX8_init_30 rfl (by decide) ?_
  refine r_newarray (q := 34) (k0 := 1) (by decide) rfl q344 dX8_init_32 rfl (fun a10 σ11 => ?_)
  refine r_pR (q := 37) fp_X8_init_24 rfl dX8_init_34 rfl (fun σ12 => ?_)
  refine r_aload_n (q := 38) dX8_init_37 rfl rfl rfl ?_
  refine r_iconst (q := 39) (v := (4 : Int32)) dX8_init_38 rfl (by decide) ?_
  refine r_newarray (q := 41) (k0 := 1) (by decide) rfl q344 dX8_init_39 rfl (fun a13 σ14 => ?_)
  refine r_pR (q := 44) fp_X8_init_27 rfl dX8_init_41 rfl (fun σ15 => ?_)
  refine r_aload_n (q := 45) dX8_init_44 rfl rfl rfl ?_
  refine r_iconst (q := 46) (v := (4 : Int32)) dX8_init_45 rfl (by decide) ?_
  refine r_anewarray (q := 49) (k0 := 7) (by decide) rfl q508 (by decide) dX8_init_46 rfl (fun a16 σ17 => ?_)
  refine r_pR (q := 52) fp_X8_init_32 rfl dX8_init_49 rfl (fun σ18 => ?_)
  refine r_aload_n (q := 53) dX8_init_52 rfl rfl rfl ?_
  refine r_bipush (q := 55) (v := (6 : Int32)) dX8_init_53 rfl (by decide) ?_
  refine r_anewarray (q := 58) (k0 := 8) (by decide) rfl q510 (by decide) dX8_init_55 rfl (fun a19 σ20 => ?_)
  refine r_pR (q := 61) fp_X8_init_38 rfl dX8_init_58 rfl (fun σ21 => ?_)
  refine r_aload_n (q := 62) dX8_init_61 rfl rfl rfl ?_
  refine r_bipush (q := 64) (v := (10 : Int32)) dX8_init_62 rfl (by decide) ?_
  refine r_anewarray (q := 67) (k0 := 9) (by decide) rfl q512 (by decide) dX8_init_64 rfl (fun a22 σ23 => ?_)
  refine r_pR (q := 70) fp_X8_init_44 rfl dX8_init_67 rfl (fun σ24 => ?_)
  refine r_aload_n (q := 71) dX8_init_70 rfl rfl rfl ?_
  refine r_bipush (q := 73) (v := (8 : Int32)) dX8_init_71 rfl (by decide) ?_
  refine r_anewarray (q := 76) (k0 := 10) (by decide) rfl q514 (by decide) dX8_init_73 rfl (fun a25 σ26 => ?_)
  refine r_pR (q := 79) fp_X8_init_50 rfl dX8_init_76 rfl (fun σ27 => ?_)
  refine r_aload_n (q := 80) dX8_init_79 rfl rfl rfl ?_
  refine r_bipush (q := 82) (v := (8 : Int32)) dX8_init_80 rfl (by decide) ?_
  refine r_anewarray (q := 85) (k0 := 11) (by decide) rfl q516 (by decide) dX8_init_82 rfl (fun a28 σ29 => ?_)
  refine r_pR (q := 88) fp_X8_init_56 rfl dX8_init_85 rfl (fun σ30 => ?_)
  refine r_aload_n (q := 89) dX8_init_88 rfl rfl rfl ?_
  refine r_bipush (q := 91) (v := (6 : Int32)) dX8_init_89 rfl (by decide) ?_
  refine r_anewarray (q := 94) (k0 := 12) (by decide) rfl q518 (by decide) dX8_init_91 rfl (fun a31 σ32 => ?_)
  refine r_pR (q := 97) fp_X8_init_62 rfl dX8_init_94 rfl (fun σ33 => ?_)
  exact r_return rfl dX8_init_97
theorem c_X2_see (G : Gx) (h0 : G0 G) (N : Nat) (a0 : Nat) (i1 : Int32) (σ : Mem) : Ct G mX2_see rhoI [vR (some a0), vI i1] σ (f_X2_see N a0 i1 σ) := by
  refine Ct_of h0 (by decide) rfl (Nat.le_of_ble_eq_true rfl) (L0 := [some (vR (some a0)), some (vI i1)]) rfl ?_
  unfold f_X2_see
  refine r_iload_n (q := 1) dX2_see_0 rfl rfl rfl ?_
  refine r_aload_n (q := 2) dX2_see_1 rfl rfl rfl ?_
  refine r_gI (q := 5) fl_X2_33 dX2_see_2 rfl (fun x1 => ?_)
  refine r_icmp_ge (q := 8) (t := 21) dX2_see_5 rfl (by decide) (fun _ => ?_) (fun _ => ?_)
  · refine r_iconst (q := 22) (v := (-1 : Int32)) dX2_see_21 rfl (by decide) ?_
    exact r_ireturn rfl rfl dX2_see_22
  · refine r_aload_n (q := 9) dX2_see_8 rfl rfl rfl ?_
    refine r_gR (q := 12) fl_X2_22 rfl dX2_see_9 rfl (fun x2 => ?_)
    refine r_iload_n (q := 13) dX2_see_12 rfl rfl rfl ?_
    refine r_baload (q := 14) dX2_see_13 rfl (fun x3 => ?_)
    refine r_sipush (q := 17) (v := (255 : Int32)) dX2_see_14 rfl (by decide) ?_
    refine r_iand (q := 18) dX2_see_17 rfl ?_
    refine r_goto (q := 22) dX2_see_18 (by decide) ?_
    exact r_ireturn rfl rfl dX2_see_22
theorem c_X2_isSmall (G : Gx) (h0 : G0 G) (N : Nat) (i0 : Int32) (σ : Mem) : Ct G mX2_isSmall rhoI [vI i0] σ (f_X2_isSmall N i0 σ) := by
  refine Ct_of h0 (by decide) rfl (Nat.le_of_ble_eq_true rfl) (L0 := [some (vI i0)]) rfl ?_
  unfold f_X2_isSmall
  refine r_iload_n (q := 1) dX2_isSmall_0 rfl rfl rfl ?_
  refine r_bipush (q := 3) (v := (97 : Int32)) dX2_isSmall_1 rfl (by decide) ?_
  refine r_bipush (q := 5) (v := (122 : Int32)) dX2_isSmall_3 rfl (by decide) ?_
  refine r_callI (q := 8) (c_X1_in G h0 N _ _ _ _) (cl_SN rfl rfl q655 q490 q167 q491 (hd_X1_in) ⟨Nat.le_of_ble_eq_true rfl, Nat.le_of_ble_eq_true rfl⟩ rfl (Nat.le_of_ble_eq_true rfl) dX2_isSmall_5) rfl (fun x1 σ2 => ?_)
  exact r_ireturnN rfl dX2_isSmall_8
theorem w_J4_checkFromIndexSize_b15 (G : Gx) (h0 : G0 G) (N : Nat)   (l0 : Int32) (l1 : Int32) (l2 : Int32) (l3 : Option Nat) (σ : Mem) : Runs G mJ4_checkFromIndexSize rhoI σ 15 [some (vI l0), some (vI l1), some (vI l2), some (vR l3)] [] (f_J4_checkFromIndexSize_b15 N  l0 l1 l2 l3 σ) := by
  unfold f_J4_checkFromIndexSize_b15
  refine r_aload_n (q := 16) dJ4_checkFromIndexSize_15 rfl rfl rfl ?_
  refine r_iload_n (q := 17) dJ4_checkFromIndexSize_16 rfl rfl rfl ?_
  refine r_iload_n (q := 18) dJ4_checkFromIndexSize_17 rfl rfl rfl ?_
  refine r_iload_n (q := 19) dJ4_checkFromIndexSize_18 rfl rfl rfl ?_
  exact r_none
theorem c_J4_checkFromIndexSize (G : Gx) (h0 : G0 G) (N : Nat) (i0 : Int32) (i1 : Int32) (i2 : Int32) (o3 : Option Nat) (σ : Mem) : Ct G mJ4_checkFromIndexSize rhoI [vI i0, vI i1, vI i2, vR o3] σ (f_J4_checkFromIndexSize N i0 i1 i2 o3 σ) := by
  refine Ct_of h0 (by decide) rfl (Nat.le_of_ble_eq_true rfl) (L0 := [some (vI i0), some (vI i1), some (vI i2), some (vR o3)]) rfl ?_
  unfold f_J4_checkFromIndexSize
  refine r_iload_n (q := 1) dJ4_checkFromIndexSize_0 rfl rfl rfl ?_
  refine r_iload_n (q := 2) dJ4_checkFromIndexSize_1 rfl rfl rfl ?_
  refine r_ior (q := 3) dJ4_checkFromIndexSize_2 rfl ?_
  refine r_iload_n (q := 4) dJ4_checkFromIndexSize_3 rfl rfl rfl ?_
  refine r_ior (q := 5) dJ4_checkFromIndexSize_4 rfl ?_
  refine r_if_lt (q := 8) (t := 15) dJ4_checkFromIndexSize_5 rfl (by decide) (fun _ => ?_) (fun _ => ?_)
  · exact r_le (w_J4_checkFromIndexSize_b15 G h0 N _ _ _ _ _) (Nat.le_refl _) (And.intro rfl (And.intro rfl (And.intro rfl (And.intro rfl trivial))))
  · refine r_iload_n (q := 9) dJ4_checkFromIndexSize_8 rfl rfl rfl ?_
    refine r_iload_n (q := 10) dJ4_checkFromIndexSize_9 rfl rfl rfl ?_
    refine r_iload_n (q := 11) dJ4_checkFromIndexSize_10 rfl rfl rfl ?_
    refine r_isub (q := 12) dJ4_checkFromIndexSize_11 rfl ?_
    refine r_icmp_le (q := 15) (t := 23) dJ4_checkFromIndexSize_12 rfl (by decide) (fun _ => ?_) (fun _ => ?_)
    · refine r_iload_n (q := 24) dJ4_checkFromIndexSize_23 rfl rfl rfl ?_
      exact r_ireturn rfl rfl dJ4_checkFromIndexSize_24
    · exact r_le (w_J4_checkFromIndexSize_b15 G h0 N _ _ _ _ _) (Nat.le_refl _) (And.intro rfl (And.intro rfl (And.intro rfl (And.intro rfl trivial))))
theorem c_J3_checkBoundsOffCount (G : Gx) (h0 : G0 G) (N : Nat) (i0 : Int32) (i1 : Int32) (i2 : Int32) (σ : Mem) : Ct G mJ3_checkBoundsOffCount rhoI [vI i0, vI i1, vI i2] σ (f_J3_checkBoundsOffCount N i0 i1 i2 σ) := by
  refine Ct_of h0 (by decide) rfl (Nat.le_of_ble_eq_true rfl) (L0 := [some (vI i0), some (vI i1), some (vI i2)]) rfl ?_
  unfold f_J3_checkBoundsOffCount
  refine r_iload_n (q := 1) dJ3_checkBoundsOffCount_0 rfl rfl rfl ?_
  refine r_iload_n (q := 2) dJ3_checkBoundsOffCount_1 rfl rfl rfl ?_
  refine r_iload_n (q := 3) dJ3_checkBoundsOffCount_2 rfl rfl rfl ?_
  refine r_gsR (q := 6) (j := 2) (cn := "jdk/internal/util/Preconditions") rfl q667 (Or.inl rfl) dJ3_checkBoundsOffCount_3 rfl ?_
  refine r_callI (q := 9) (c_J4_checkFromIndexSize G h0 N _ _ _ _ _) (cl_S rfl rfl (lw_S q669 q670 q179 q671) (hd_J4_checkFromIndexSize) ⟨Nat.le_of_ble_eq_true rfl, Nat.le_of_ble_eq_true rfl⟩ rfl (Nat.le_of_ble_eq_true rfl) dJ3_checkBoundsOffCount_6) rfl (fun x1 σ2 => ?_)
  exact r_ireturn rfl rfl dJ3_checkBoundsOffCount_9
theorem c_J3_rangeCheck (G : Gx) (h0 : G0 G) (N : Nat) (o0 : Option Nat) (i1 : Int32) (i2 : Int32) (σ : Mem) : Ct G mJ3_rangeCheck rhoR [vR o0, vI i1, vI i2] σ (f_J3_rangeCheck N o0 i1 i2 σ) := by
  refine Ct_of h0 (by decide) rfl (Nat.le_of_ble_eq_true rfl) (L0 := [some (vR o0), some (vI i1), some (vI i2)]) rfl ?_
  unfold f_J3_rangeCheck
  refine r_iload_n (q := 1) dJ3_rangeCheck_0 rfl rfl rfl ?_
  refine r_iload_n (q := 2) dJ3_rangeCheck_1 rfl rfl rfl ?_
  refine r_aload_n (q := 3) dJ3_rangeCheck_2 rfl rfl rfl ?_
  refine r_len (q := 4) dJ3_rangeCheck_3 rfl (fun x1 => ?_)
  refine r_callI (q := 7) (c_J3_checkBoundsOffCount G h0 N _ _ _ _) (cl_S rfl rfl (lw_S q664 q665 q178 q666) (hd_J3_checkBoundsOffCount) ⟨Nat.le_of_ble_eq_true rfl, Nat.le_of_ble_eq_true rfl⟩ rfl (Nat.le_of_ble_eq_true rfl) dJ3_rangeCheck_4) rfl (fun x2 σ3 => ?_)
  refine r_pop (q := 8) dJ3_rangeCheck_7 rfl rfl ?_
  refine r_null (q := 9) dJ3_rangeCheck_8 rfl ?_
  exact r_areturn rfl (Or.inl ⟨_, rfl⟩) dJ3_rangeCheck_9
theorem w_J5_compress_2_b3B (G : Gx) (h0 : G0 G) (N : Nat)   (K3 : Option Nat → Int32 → Option Nat → Int32 → Int32 → Int32 → Mem → Option (Int32 × Mem)) (hK3 : ∀ (l0 : Option Nat) (l1 : Int32) (l2 : Option Nat) (l3 : Int32) (l4 : Int32) (l5 : Int32) (σ : Mem), Runs G mJ5_compress_2 rhoI σ 3 [some (vR l0), some (vI l1), some (vR l2), some (vI l3), some (vI l4), some (vI l5), none] [] (K3 l0 l1 l2 l3 l4 l5 σ)) (l0 : Option Nat) (l1 : Int32) (l2 : Option Nat) (l3 : Int32) (l4 : Int32) (l5 : Int32) (σ : Mem) : Runs G mJ5_compress_2 rhoI σ 3 [some (vR l0), some (vI l1), some (vR l2), some (vI l3), some (vI l4), some (vI l5), none] [] (f_J5_compress_2_b3B N  K3 l0 l1 l2 l3 l4 l5 σ) := by
  unfold f_J5_compress_2_b3B
  refine r_iload (q := 5) dJ5_compress_2_3 rfl rfl ?_
  refine r_iload (q := 7) dJ5_compress_2_5 rfl rfl ?_
  refine r_icmp_ge (q := 10) (t := 44) dJ5_compress_2_7 rfl (by decide) (fun _ => ?_) (fun _ => ?_)
  · refine r_iload (q := 46) dJ5_compress_2_44 rfl rfl ?_
    exact r_ireturn rfl rfl dJ5_compress_2_46
  · refine r_aload_n (q := 11) dJ5_compress_2_10 rfl rfl rfl ?_
    refine r_iload_n (q := 12) dJ5_compress_2_11 rfl rfl rfl ?_
    refine r_caload (q := 13) dJ5_compress_2_12 rfl (fun x1 => ?_)
    refine r_istore (q := 15) dJ5_compress_2_13 rfl (Nat.le_of_ble_eq_true rfl) rfl ?_
    refine r_iload (q := 17) dJ5_compress_2_15 rfl rfl ?_
    refine r_sipush (q := 20) (v := (255 : Int32)) dJ5_compress_2_17 rfl (by decide) ?_
    refine r_icmp_le (q := 23) (t := 26) dJ5_compress_2_20 rfl (by decide) (fun _ => ?_) (fun _ => ?_)
    · refine r_aload_n (q := 27) dJ5_compress_2_26 rfl rfl rfl ?_
      refine r_iload_n (q := 28) dJ5_compress_2_27 rfl rfl rfl ?_
      refine r_iload (q := 30) dJ5_compress_2_28 rfl rfl ?_
      refine r_i2b (q := 31) dJ5_compress_2_30 rfl ?_
      refine r_bastore (q := 32) dJ5_compress_2_31 rfl (fun σ2 => ?_)
      refine r_iinc (q := 35) (v := (1 : Int32)) dJ5_compress_2_32 rfl rfl (by decide) (Nat.le_of_ble_eq_true rfl) rfl ?_
      refine r_iinc (q := 38) (v := (1 : Int32)) dJ5_compress_2_35 rfl rfl (by decide) (Nat.le_of_ble_eq_true rfl) rfl ?_
      refine r_iinc (q := 41) (v := (1 : Int32)) dJ5_compress_2_38 rfl rfl (by decide) (Nat.le_of_ble_eq_true rfl) rfl ?_
      refine r_goto (q := 3) dJ5_compress_2_41 (by decide) ?_
      exact r_le (hK3 _ _ _ _ _ _ _) (Nat.le_refl _) (And.intro rfl (And.intro rfl (And.intro rfl (And.intro rfl (And.intro rfl (And.intro rfl trivial))))))
    · refine r_iload (q := 25) dJ5_compress_2_23 rfl rfl ?_
      exact r_ireturn rfl rfl dJ5_compress_2_25
theorem w_J5_compress_2_b3 (G : Gx) (h0 : G0 G) (N : Nat)   : ∀ (z : Nat) (l0 : Option Nat) (l1 : Int32) (l2 : Option Nat) (l3 : Int32) (l4 : Int32) (l5 : Int32) (σ : Mem), Runs G mJ5_compress_2 rhoI σ 3 [some (vR l0), some (vI l1), some (vR l2), some (vI l3), some (vI l4), some (vI l5), none] [] (f_J5_compress_2_b3 N  z l0 l1 l2 l3 l4 l5 σ) := by
  intro z
  induction z with
  | zero => exact fun _ _ _ _ _ _ _ => r_none
  | succ z ih => exact fun l0 l1 l2 l3 l4 l5 σ => w_J5_compress_2_b3B G h0 N   _ ih l0 l1 l2 l3 l4 l5 σ
theorem c_J5_compress_2 (G : Gx) (h0 : G0 G) (N : Nat) (o0 : Option Nat) (i1 : Int32) (o2 : Option Nat) (i3 : Int32) (i4 : Int32) (σ : Mem) : Ct G mJ5_compress_2 rhoI [vR o0, vI i1, vR o2, vI i3, vI i4] σ (f_J5_compress_2 N o0 i1 o2 i3 i4 σ) := by
  refine Ct_of h0 (by decide) rfl (Nat.le_of_ble_eq_true rfl) (L0 := [some (vR o0), some (vI i1), some (vR o2), some (vI i3), some (vI i4), none, none]) rfl ?_
  unfold f_J5_compress_2
  refine r_iconst (q := 1) (v := (0 : Int32)) dJ5_compress_2_0 rfl (by decide) ?_
  refine r_istore (q := 3) dJ5_compress_2_1 rfl (Nat.le_of_ble_eq_true rfl) rfl ?_
  exact r_le (w_J5_compress_2_b3 G h0 N N _ _ _ _ _ _ _) (Nat.le_refl _) (And.intro rfl (And.intro rfl (And.intro rfl (And.intro rfl (And.intro rfl (And.intro rfl trivial))))))
theorem c_J5_compress (G : Gx) (h0 : G0 G) (N : Nat) (o0 : Option Nat) (i1 : Int32) (i2 : Int32) (σ : Mem) : Ct G mJ5_compress rhoR [vR o0, vI i1, vI i2] σ (f_J5_compress N o0 i1 i2 σ) := by
  refine Ct_of h0 (by decide) rfl (Nat.le_of_ble_eq_true rfl) (L0 := [some (vR o0), some (vI i1), some (vI i2), none, none, none]) rfl ?_
  unfold f_J5_compress
  refine r_iload_n (q := 1) dJ5_compress_0 rfl rfl rfl ?_
  refine r_newarray (q := 3) (k0 := 2) (by decide) rfl q289 dJ5_compress_1 rfl (fun a1 σ2 => ?_)
  refine r_astore_n (q := 4) dJ5_compress_3 rfl rfl (Nat.le_of_ble_eq_true rfl) rfl ?_
  refine r_aload_n (q := 5) dJ5_compress_4 rfl rfl rfl ?_
  refine r_iload_n (q := 6) dJ5_compress_5 rfl rfl rfl ?_
  refine r_aload_n (q := 7) dJ5_compress_6 rfl rfl rfl ?_
  refine r_iconst (q := 8) (v := (0 : Int32)) dJ5_compress_7 rfl (by decide) ?_
  refine r_iload_n (q := 9) dJ5_compress_8 rfl rfl rfl ?_
  refine r_callI (q := 12) (c_J5_compress_2 G h0 N _ _ _ _ _ _) (cl_S rfl rfl (lw_S q682 q683 q180 q684) (hd_J5_compress_2) ⟨Nat.le_of_ble_eq_true rfl, Nat.le_of_ble_eq_true rfl⟩ rfl (Nat.le_of_ble_eq_true rfl) dJ5_compress_9) rfl (fun x3 σ4 => ?_)
  refine r_istore (q := 14) dJ5_compress_12 rfl (Nat.le_of_ble_eq_true rfl) rfl ?_
  refine r_iload (q := 16) dJ5_compress_14 rfl rfl ?_
  refine r_iload_n (q := 17) dJ5_compress_16 rfl rfl rfl ?_
  refine r_icmp_eq (q := 20) (t := 57) dJ5_compress_17 rfl (by decide) (fun _ => ?_) (fun _ => ?_)
  · refine r_aload_n (q := 58) dJ5_compress_57 rfl rfl rfl ?_
    exact r_areturn rfl (Or.inr ⟨_, rfl⟩) dJ5_compress_58
  · refine r_aload_n (q := 21) dJ5_compress_20 rfl rfl rfl ?_
    refine r_iload_n (q := 22) dJ5_compress_21 rfl rfl rfl ?_
    refine r_iload_n (q := 23) dJ5_compress_22 rfl rfl rfl ?_
    exact r_none
theorem c_J5_coderFromArrayLen (G : Gx) (h0 : G0 G) (N : Nat) (o0 : Option Nat) (i1 : Int32) (σ : Mem) : Ct G mJ5_coderFromArrayLen rhoI [vR o0, vI i1] σ (f_J5_coderFromArrayLen N o0 i1 σ) := by
  refine Ct_of h0 (by decide) rfl (Nat.le_of_ble_eq_true rfl) (L0 := [some (vR o0), some (vI i1)]) rfl ?_
  unfold f_J5_coderFromArrayLen
  refine r_iload_n (q := 1) dJ5_coderFromArrayLen_0 rfl rfl rfl ?_
  refine r_aload_n (q := 2) dJ5_coderFromArrayLen_1 rfl rfl rfl ?_
  refine r_len (q := 3) dJ5_coderFromArrayLen_2 rfl (fun x1 => ?_)
  refine r_isub (q := 4) dJ5_coderFromArrayLen_3 rfl ?_
  refine r_bipush (q := 6) (v := (31 : Int32)) dJ5_coderFromArrayLen_4 rfl (by decide) ?_
  refine r_iushr (q := 7) dJ5_coderFromArrayLen_6 rfl ?_
  refine r_i2b (q := 8) dJ5_coderFromArrayLen_7 rfl ?_
  exact r_ireturnN rfl dJ5_coderFromArrayLen_8
theorem c_J3_init_2 (G : Gx) (h0 : G0 G) (N : Nat) (a0 : Nat) (o1 : Option Nat) (i2 : Int32) (i3 : Int32) (o4 : Option Nat) (σ : Mem) : Ct G mJ3_init_2 rhoV [vR (some a0), vR o1, vI i2, vI i3, vR o4] σ (f_J3_init_2 N a0 o1 i2 i3 o4 σ) := by
  refine Ct_of h0 (by decide) rfl (Nat.le_of_ble_eq_true rfl) (L0 := [some (vR (some a0)), some (vR o1), some (vI i2), some (vI i3), some (vR o4), none]) rfl ?_
  unfold f_J3_init_2
  refine r_aload_n (q := 1) dJ3_init_2_0 rfl rfl rfl ?_
  refine r_objInit (q := 4) q675 q208 q209 (by decide) (by decide) dJ3_init_2_1 rfl ?_
  refine r_iload_n (q := 5) dJ3_init_2_4 rfl rfl rfl ?_
  refine r_if_ne (q := 8) (t := 27) dJ3_init_2_5 rfl (by decide) (fun _ => ?_) (fun _ => ?_)
  · refine r_aload_n (q := 9) dJ3_init_2_8 rfl rfl rfl ?_
    refine r_ldcS (q := 11) (tx := "") (cd := 0) (List.mem_of_getElem? (i := 0) rfl) (by decide) dJ3_init_2_9 rfl ?_
    refine r_gR (q := 14) fl_J3_9 rfl dJ3_init_2_11 rfl (fun x8 => ?_)
    refine r_pR (q := 17) fp_J3_init_2_9 rfl dJ3_init_2_14 rfl (fun σ9 => ?_)
    refine r_aload_n (q := 18) dJ3_init_2_17 rfl rfl rfl ?_
    refine r_ldcS (q := 20) (tx := "") (cd := 0) (List.mem_of_getElem? (i := 0) rfl) (by decide) dJ3_init_2_18 rfl ?_
    refine r_gI (q := 23) fl_J3_15 dJ3_init_2_20 rfl (fun x10 => ?_)
    refine r_pI (q := 26) fp_J3_init_2_15 dJ3_init_2_23 rfl (fun σ11 => ?_)
    exact r_return rfl dJ3_init_2_26
  · refine r_gsI (q := 30) (cn := "java/lang/String") (v := (1 : Int32)) (List.mem_of_getElem? (i := 0) rfl) q677 (Or.inl rfl) dJ3_init_2_27 rfl ?_
    refine r_if_eq (q := 33) (t := 58) dJ3_init_2_30 rfl (by decide) (fun _ => ?_) (fun _ => ?_)
    · refine r_aload_n (q := 59) dJ3_init_2_58 rfl rfl rfl ?_
      refine r_iconst (q := 60) (v := (1 : Int32)) dJ3_init_2_59 rfl (by decide) ?_
      refine r_pI (q := 63) fp_J3_init_2_15 dJ3_init_2_60 rfl (fun σ1 => ?_)
      refine r_aload_n (q := 64) dJ3_init_2_63 rfl rfl rfl ?_
      refine r_aload_n (q := 65) dJ3_init_2_64 rfl rfl rfl ?_
      refine r_iload_n (q := 66) dJ3_init_2_65 rfl rfl rfl ?_
      refine r_iload_n (q := 67) dJ3_init_2_66 rfl rfl rfl ?_
      exact r_none
    · refine r_aload_n (q := 34) dJ3_init_2_33 rfl rfl rfl ?_
      refine r_iload_n (q := 35) dJ3_init_2_34 rfl rfl rfl ?_
      refine r_iload_n (q := 36) dJ3_init_2_35 rfl rfl rfl ?_
      refine r_callR (q := 39) (c_J5_compress G h0 N _ _ _ _) (cl_S rfl rfl (lw_S q679 q680 q180 q681) (hd_J5_compress) ⟨Nat.le_of_ble_eq_true rfl, Nat.le_of_ble_eq_true rfl⟩ rfl (Nat.le_of_ble_eq_true rfl) dJ3_init_2_36) rfl (fun x2 σ3 => ?_)
      refine r_astore (q := 41) dJ3_init_2_39 rfl (Nat.le_of_ble_eq_true rfl) rfl ?_
      refine r_aload_n (q := 42) dJ3_init_2_41 rfl rfl rfl ?_
      refine r_aload (q := 44) dJ3_init_2_42 rfl rfl ?_
      refine r_iload_n (q := 45) dJ3_init_2_44 rfl rfl rfl ?_
      refine r_callI (q := 48) (c_J5_coderFromArrayLen G h0 N _ _ _) (cl_S rfl rfl (lw_S q717 q718 q180 q719) (hd_J5_coderFromArrayLen) ⟨Nat.le_of_ble_eq_true rfl, Nat.le_of_ble_eq_true rfl⟩ rfl (Nat.le_of_ble_eq_true rfl) dJ3_init_2_45) rfl (fun x4 σ5 => ?_)
      refine r_pI (q := 51) fp_J3_init_2_15 dJ3_init_2_48 rfl (fun σ6 => ?_)
      refine r_aload_n (q := 52) dJ3_init_2_51 rfl rfl rfl ?_
      refine r_aload (q := 54) dJ3_init_2_52 rfl rfl ?_
      refine r_pR (q := 57) fp_J3_init_2_9 rfl dJ3_init_2_54 rfl (fun σ7 => ?_)
      exact r_return rfl dJ3_init_2_57
theorem c_J3_init (G : Gx) (h0 : G0 G) (N : Nat) (a0 : Nat) (o1 : Option Nat) (i2 : Int32) (i3 : Int32) (σ : Mem) : Ct G mJ3_init rhoV [vR (some a0), vR o1, vI i2, vI i3] σ (f_J3_init N a0 o1 i2 i3 σ) := by
  refine Ct_of h0 (by decide) rfl (Nat.le_of_ble_eq_true rfl) (L0 := [some (vR (some a0)), some (vR o1), some (vI i2), some (vI i3)]) rfl ?_
  unfold f_J3_init
  refine r_aload_n (q := 1) dJ3_init_0 rfl rfl rfl ?_
  refine r_aload_n (q := 2) dJ3_init_1 rfl rfl rfl ?_
  refine r_iload_n (q := 3) dJ3_init_2 rfl rfl rfl ?_
  refine r_iload_n (q := 4) dJ3_init_3 rfl rfl rfl ?_
  refine r_aload_n (q := 5) dJ3_init_4 rfl rfl rfl ?_
  refine r_iload_n (q := 6) dJ3_init_5 rfl rfl rfl ?_
  refine r_iload_n (q := 7) dJ3_init_6 rfl rfl rfl ?_
  refine r_callR (q := 10) (c_J3_rangeCheck G h0 N _ _ _ _) (cl_S rfl rfl (lw_S q661 q662 q178 q663) (hd_J3_rangeCheck) ⟨Nat.le_of_ble_eq_true rfl, Nat.le_of_ble_eq_true rfl⟩ rfl (Nat.le_of_ble_eq_true rfl) dJ3_init_7) rfl (fun x1 σ2 => ?_)
  refine r_callV (q := 13) (c_J3_init_2 G h0 N _ _ _ _ _ _) (cl_I rfl rfl rfl rfl q672 q673 q178 q674 (hd_J3_init_2) ⟨Nat.le_of_ble_eq_true rfl, Nat.le_of_ble_eq_true rfl⟩ rfl (Nat.le_of_ble_eq_true rfl) dJ3_init_10) rfl (fun u3 σ4 => ?_)
  exact r_return rfl dJ3_init_13
theorem c_X2_isDigit (G : Gx) (h0 : G0 G) (N : Nat) (i0 : Int32) (σ : Mem) : Ct G mX2_isDigit rhoI [vI i0] σ (f_X2_isDigit N i0 σ) := by
  refine Ct_of h0 (by decide) rfl (Nat.le_of_ble_eq_true rfl) (L0 := [some (vI i0)]) rfl ?_
  unfold f_X2_isDigit
  refine r_iload_n (q := 1) dX2_isDigit_0 rfl rfl rfl ?_
  refine r_bipush (q := 3) (v := (48 : Int32)) dX2_isDigit_1 rfl (by decide) ?_
  refine r_bipush (q := 5) (v := (57 : Int32)) dX2_isDigit_3 rfl (by decide) ?_
  refine r_callI (q := 8) (c_X1_in G h0 N _ _ _ _) (cl_SN rfl rfl q655 q490 q167 q491 (hd_X1_in) ⟨Nat.le_of_ble_eq_true rfl, Nat.le_of_ble_eq_true rfl⟩ rfl (Nat.le_of_ble_eq_true rfl) dX2_isDigit_5) rfl (fun x1 σ2 => ?_)
  exact r_ireturnN rfl dX2_isDigit_8
theorem w_X2_next_b302 (G : Gx) (h0 : G0 G) (N : Nat)   (t0 : Option Nat) (t1 : Int32) (σ : Mem) : Runs G mX2_next rhoV σ 302 [none, none, none] [vI t1, vR t0] (f_X2_next_b302 N  t0 t1 σ) := by
  unfold f_X2_next_b302
  refine r_pI (q := 305) fp_X2_next_47 dX2_next_302 rfl (fun σ1 => ?_)
  exact r_return rfl dX2_next_305
theorem w_X2_next_b297 (G : Gx) (h0 : G0 G) (N : Nat)   (l2 : Int32) (t0 : Option Nat) (σ : Mem) : Runs G mX2_next rhoV σ 297 [none, none, some (vI l2)] [vR t0] (f_X2_next_b297 N  l2 t0 σ) := by
  unfold f_X2_next_b297
  refine r_iload_n (q := 298) dX2_next_297 rfl rfl rfl ?_
  refine r_goto (q := 302) dX2_next_298 (by decide) ?_
  exact r_le (w_X2_next_b302 G h0 N _ _ _) (Nat.le_refl _) trivial
theorem w_X2_next_b278 (G : Gx) (h0 : G0 G) (N : Nat)   (t0 : Option Nat) (t1 : Int32) (σ : Mem) : Runs G mX2_next rhoV σ 278 [none, none, none] [vI t1, vR t0] (f_X2_next_b278 N  t0 t1 σ) := by
  unfold f_X2_next_b278
  refine r_pI (q := 281) fp_X2_next_47 dX2_next_278 rfl (fun σ1 => ?_)
  refine r_goto (q := 305) dX2_next_281 (by decide) ?_
  exact r_return rfl dX2_next_305
theorem w_X2_next_b249 (G : Gx) (h0 : G0 G) (N : Nat) (K202 : Nat → Int32 → Mem → Option (Unit × Mem)) (hK202 : ∀ (a0 : Nat) (l1 : Int32) (σ : Mem), Runs G mX2_next rhoV σ 202 [some (vR (some a0)), some (vI l1), none] [] (K202 a0 l1 σ)) (a0 : Nat) (l1 : Int32) (σ : Mem) : Runs G mX2_next rhoV σ 249 [some (vR (some a0)), some (vI l1), none] [] (f_X2_next_b249 N K202 a0 l1 σ) := by
  unfold f_X2_next_b249
  refine r_aload_n (q := 250) dX2_next_249 rfl rfl rfl ?_
  refine r_dup (q := 251) dX2_next_250 rfl rfl ?_
  refine r_gI (q := 254) fl_X2_40 dX2_next_251 rfl (fun x1 => ?_)
  refine r_iconst (q := 255) (v := (1 : Int32)) dX2_next_254 rfl (by decide) ?_
  refine r_iadd (q := 256) dX2_next_255 rfl ?_
  refine r_pI (q := 259) fp_X2_next_40 dX2_next_256 rfl (fun σ2 => ?_)
  refine r_goto (q := 202) dX2_next_259 (by decide) ?_
  exact r_le (hK202 _ _ _) (Nat.le_refl _) (And.intro rfl (And.intro rfl trivial))
theorem w_X2_next_b202B (G : Gx) (h0 : G0 G) (N : Nat)   (K202 : Nat → Int32 → Mem → Option (Unit × Mem)) (hK202 : ∀ (a0 : Nat) (l1 : Int32) (σ : Mem), Runs G mX2_next rhoV σ 202 [some (vR (some a0)), some (vI l1), none] [] (K202 a0 l1 σ)) (a0 : Nat) (l1 : Int32) (σ : Mem) : Runs G mX2_next rhoV σ 202 [some (vR (some a0)), some (vI l1), none] [] (f_X2_next_b202B N  K202 a0 l1 σ) := by
  unfold f_X2_next_b202B
  refine r_aload_n (q := 203) dX2_next_202 rfl rfl rfl ?_
  refine r_aload_n (q := 204) dX2_next_203 rfl rfl rfl ?_
  refine r_gI (q := 207) fl_X2_40 dX2_next_204 rfl (fun x1 => ?_)
  refine r_ob (fun a4 ha4 => ?_)
  obtain ⟨hea4, hka4⟩ := o_at_eq ha4
  cases hea4
  refine r_callI (q := 210) (c_X2_see G h0 N _ _ _) (cl_V (ci := 1) rfl rfl (lw_V q648 q650 qs5 q168 q651) (hd_X2_see) ⟨Nat.le_of_ble_eq_true rfl, Nat.le_of_ble_eq_true rfl⟩ (List.mem_singleton.mp hka4) rfl rfl rfl (Nat.le_of_ble_eq_true rfl) dX2_next_207) rfl (fun x2 σ3 => ?_)
  refine r_callI (q := 213) (c_X2_isDigit G h0 N _ _) (cl_S rfl rfl (lw_S q735 q736 q168 q737) (hd_X2_isDigit) ⟨Nat.le_of_ble_eq_true rfl, Nat.le_of_ble_eq_true rfl⟩ rfl (Nat.le_of_ble_eq_true rfl) dX2_next_210) rfl (fun x5 σ6 => ?_)
  refine r_if_eq (q := 216) (t := 262) dX2_next_213 rfl (by decide) (fun _ => ?_) (fun _ => ?_)
  · refine r_aload_n (q := 263) dX2_next_262 rfl rfl rfl ?_
    refine r_aload_n (q := 264) dX2_next_263 rfl rfl rfl ?_
    refine r_gI (q := 267) fl_X2_40 dX2_next_264 rfl (fun x7 => ?_)
    refine r_iload_n (q := 268) dX2_next_267 rfl rfl rfl ?_
    refine r_isub (q := 269) dX2_next_268 rfl ?_
    refine r_iconst (q := 270) (v := (3 : Int32)) dX2_next_269 rfl (by decide) ?_
    refine r_icmp_le (q := 273) (t := 277) dX2_next_270 rfl (by decide) (fun _ => ?_) (fun _ => ?_)
    · refine r_iconst (q := 278) (v := (3 : Int32)) dX2_next_277 rfl (by decide) ?_
      exact r_le (w_X2_next_b278 G h0 N _ _ _) (Nat.le_refl _) trivial
    · refine r_iconst (q := 274) (v := (1 : Int32)) dX2_next_273 rfl (by decide) ?_
      refine r_goto (q := 278) dX2_next_274 (by decide) ?_
      exact r_le (w_X2_next_b278 G h0 N _ _ _) (Nat.le_refl _) trivial
  · refine r_aload_n (q := 217) dX2_next_216 rfl rfl rfl ?_
    refine r_gI (q := 220) fl_X2_40 dX2_next_217 rfl (fun x8 => ?_)
    refine r_iload_n (q := 221) dX2_next_220 rfl rfl rfl ?_
    refine r_isub (q := 222) dX2_next_221 rfl ?_
    refine r_iconst (q := 223) (v := (3 : Int32)) dX2_next_222 rfl (by decide) ?_
    refine r_icmp_ge (q := 226) (t := 249) dX2_next_223 rfl (by decide) (fun _ => ?_) (fun _ => ?_)
    · exact r_le (w_X2_next_b249 G h0 N K202 hK202 _ _ _) (Nat.le_refl _) (And.intro rfl (And.intro rfl trivial))
    · refine r_aload_n (q := 227) dX2_next_226 rfl rfl rfl ?_
      refine r_bipush (q := 229) (v := (10 : Int32)) dX2_next_227 rfl (by decide) ?_
      refine r_aload_n (q := 230) dX2_next_229 rfl rfl rfl ?_
      refine r_gI (q := 233) fl_X2_68 dX2_next_230 rfl (fun x9 => ?_)
      refine r_imul (q := 234) dX2_next_233 rfl ?_
      refine r_aload_n (q := 235) dX2_next_234 rfl rfl rfl ?_
      refine r_aload_n (q := 236) dX2_next_235 rfl rfl rfl ?_
      refine r_gI (q := 239) fl_X2_40 dX2_next_236 rfl (fun x10 => ?_)
      refine r_ob (fun a13 ha13 => ?_)
      obtain ⟨hea13, hka13⟩ := o_at_eq ha13
      cases hea13
      refine r_callI (q := 242) (c_X2_see G h0 N _ _ _) (cl_V (ci := 1) rfl rfl (lw_V q648 q650 qs5 q168 q651) (hd_X2_see) ⟨Nat.le_of_ble_eq_true rfl, Nat.le_of_ble_eq_true rfl⟩ (List.mem_singleton.mp hka13) rfl rfl rfl (Nat.le_of_ble_eq_true rfl) dX2_next_239) rfl (fun x11 σ12 => ?_)
      refine r_iadd (q := 243) dX2_next_242 rfl ?_
      refine r_bipush (q := 245) (v := (48 : Int32)) dX2_next_243 rfl (by decide) ?_
      refine r_isub (q := 246) dX2_next_245 rfl ?_
      refine r_pI (q := 249) fp_X2_next_68 dX2_next_246 rfl (fun σ14 => ?_)
      exact r_le (w_X2_next_b249 G h0 N K202 hK202 _ _ _) (Nat.le_refl _) (And.intro rfl (And.intro rfl trivial))
theorem w_X2_next_b202 (G : Gx) (h0 : G0 G) (N : Nat)   : ∀ (z : Nat) (a0 : Nat) (l1 : Int32) (σ : Mem), Runs G mX2_next rhoV σ 202 [some (vR (some a0)), some (vI l1), none] [] (f_X2_next_b202 N  z a0 l1 σ) := by
  intro z
  induction z with
  | zero => exact fun _ _ _ => r_none
  | succ z ih => exact fun a0 l1 σ => w_X2_next_b202B G h0 N   _ ih a0 l1 σ
theorem w_X2_next_b179 (G : Gx) (h0 : G0 G) (N : Nat)   (t0 : Option Nat) (t1 : Option Nat) (σ : Mem) : Runs G mX2_next rhoV σ 179 [none, none, none] [vR t1, vR t0] (f_X2_next_b179 N  t0 t1 σ) := by
  unfold f_X2_next_b179
  refine r_pR (q := 182) fp_X2_next_61 rfl dX2_next_179 rfl (fun σ1 => ?_)
  refine r_goto (q := 305) dX2_next_182 (by decide) ?_
  exact r_return rfl dX2_next_305
theorem w_X2_next_b144 (G : Gx) (h0 : G0 G) (N : Nat)   (a0 : Nat) (l1 : Int32) (t0 : Option Nat) (t1 : Int32) (σ : Mem) : Runs G mX2_next rhoV σ 144 [some (vR (some a0)), some (vI l1), none] [vI t1, vR t0] (f_X2_next_b144 N  a0 l1 t0 t1 σ) := by
  unfold f_X2_next_b144
  refine r_pI (q := 147) fp_X2_next_47 dX2_next_144 rfl (fun σ1 => ?_)
  refine r_aload_n (q := 148) dX2_next_147 rfl rfl rfl ?_
  refine r_aload_n (q := 149) dX2_next_148 rfl rfl rfl ?_
  refine r_gI (q := 152) fl_X2_47 dX2_next_149 rfl (fun x2 => ?_)
  refine r_iconst (q := 153) (v := (2 : Int32)) dX2_next_152 rfl (by decide) ?_
  refine r_icmp_ne (q := 156) (t := 177) dX2_next_153 rfl (by decide) (fun _ => ?_) (fun _ => ?_)
  · refine r_new (q := 159) (ci := 21) rfl rfl q656 q657 q178 dX2_next_156 rfl (fun a3 σ4 => ?_)
    refine r_dup (q := 160) dX2_next_159 rfl rfl ?_
    refine r_aload_n (q := 161) dX2_next_160 rfl rfl rfl ?_
    refine r_gR (q := 164) fl_X2_18 rfl dX2_next_161 rfl (fun x5 => ?_)
    refine r_iconst (q := 165) (v := (0 : Int32)) dX2_next_164 rfl (by decide) ?_
    refine r_aload_n (q := 166) dX2_next_165 rfl rfl rfl ?_
    refine r_gI (q := 169) fl_X2_40 dX2_next_166 rfl (fun x6 => ?_)
    refine r_iload_n (q := 170) dX2_next_169 rfl rfl rfl ?_
    refine r_isub (q := 171) dX2_next_170 rfl ?_
    refine r_callV (q := 174) (c_J3_init G h0 N _ _ _ _ _) (cl_I rfl rfl rfl rfl q658 q659 q178 q660 (hd_J3_init) ⟨Nat.le_of_ble_eq_true rfl, Nat.le_of_ble_eq_true rfl⟩ rfl (Nat.le_of_ble_eq_true rfl) dX2_next_171) rfl (fun u7 σ8 => ?_)
    refine r_goto (q := 179) dX2_next_174 (by decide) ?_
    exact r_le (w_X2_next_b179 G h0 N _ _ _) (Nat.le_refl _) trivial
  · refine r_ldcS (q := 179) (tx := "") (cd := 0) (List.mem_of_getElem? (i := 1) rfl) (by decide) dX2_next_177 rfl ?_
    exact r_le (w_X2_next_b179 G h0 N _ _ _) (Nat.le_refl _) trivial
theorem w_X2_next_b114 (G : Gx) (h0 : G0 G) (N : Nat) (K69 : Nat → Int32 → Mem → Option (Unit × Mem)) (hK69 : ∀ (a0 : Nat) (l1 : Int32) (σ : Mem), Runs G mX2_next rhoV σ 69 [some (vR (some a0)), some (vI l1), none] [] (K69 a0 l1 σ)) (a0 : Nat) (l1 : Int32) (σ : Mem) : Runs G mX2_next rhoV σ 114 [some (vR (some a0)), some (vI l1), none] [] (f_X2_next_b114 N K69 a0 l1 σ) := by
  unfold f_X2_next_b114
  refine r_aload_n (q := 115) dX2_next_114 rfl rfl rfl ?_
  refine r_dup (q := 116) dX2_next_115 rfl rfl ?_
  refine r_gI (q := 119) fl_X2_40 dX2_next_116 rfl (fun x1 => ?_)
  refine r_iconst (q := 120) (v := (1 : Int32)) dX2_next_119 rfl (by decide) ?_
  refine r_iadd (q := 121) dX2_next_120 rfl ?_
  refine r_pI (q := 124) fp_X2_next_40 dX2_next_121 rfl (fun σ2 => ?_)
  refine r_goto (q := 69) dX2_next_124 (by decide) ?_
  exact r_le (hK69 _ _ _) (Nat.le_refl _) (And.intro rfl (And.intro rfl trivial))
theorem w_X2_next_b69B (G : Gx) (h0 : G0 G) (N : Nat)   (K69 : Nat → Int32 → Mem → Option (Unit × Mem)) (hK69 : ∀ (a0 : Nat) (l1 : Int32) (σ : Mem), Runs G mX2_next rhoV σ 69 [some (vR (some a0)), some (vI l1), none] [] (K69 a0 l1 σ)) (a0 : Nat) (l1 : Int32) (σ : Mem) : Runs G mX2_next rhoV σ 69 [some (vR (some a0)), some (vI l1), none] [] (f_X2_next_b69B N  K69 a0 l1 σ) := by
  unfold f_X2_next_b69B
  refine r_aload_n (q := 70) dX2_next_69 rfl rfl rfl ?_
  refine r_aload_n (q := 71) dX2_next_70 rfl rfl rfl ?_
  refine r_gI (q := 74) fl_X2_40 dX2_next_71 rfl (fun x1 => ?_)
  refine r_ob (fun a4 ha4 => ?_)
  obtain ⟨hea4, hka4⟩ := o_at_eq ha4
  cases hea4
  refine r_callI (q := 77) (c_X2_see G h0 N _ _ _) (cl_V (ci := 1) rfl rfl (lw_V q648 q650 qs5 q168 q651) (hd_X2_see) ⟨Nat.le_of_ble_eq_true rfl, Nat.le_of_ble_eq_true rfl⟩ (List.mem_singleton.mp hka4) rfl rfl rfl (Nat.le_of_ble_eq_true rfl) dX2_next_74) rfl (fun x2 σ3 => ?_)
  refine r_callI (q := 80) (c_X2_isSmall G h0 N _ _) (cl_S rfl rfl (lw_S q652 q653 q168 q654) (hd_X2_isSmall) ⟨Nat.le_of_ble_eq_true rfl, Nat.le_of_ble_eq_true rfl⟩ rfl (Nat.le_of_ble_eq_true rfl) dX2_next_77) rfl (fun x5 σ6 => ?_)
  refine r_if_eq (q := 83) (t := 127) dX2_next_80 rfl (by decide) (fun _ => ?_) (fun _ => ?_)
  · refine r_aload_n (q := 128) dX2_next_127 rfl rfl rfl ?_
    refine r_aload_n (q := 129) dX2_next_128 rfl rfl rfl ?_
    refine r_gI (q := 132) fl_X2_40 dX2_next_129 rfl (fun x7 => ?_)
    refine r_iload_n (q := 133) dX2_next_132 rfl rfl rfl ?_
    refine r_isub (q := 134) dX2_next_133 rfl ?_
    refine r_bipush (q := 136) (v := (8 : Int32)) dX2_next_134 rfl (by decide) ?_
    refine r_icmp_le (q := 139) (t := 143) dX2_next_136 rfl (by decide) (fun _ => ?_) (fun _ => ?_)
    · refine r_iconst (q := 144) (v := (2 : Int32)) dX2_next_143 rfl (by decide) ?_
      exact r_le (w_X2_next_b144 G h0 N _ _ _ _ _) (Nat.le_refl _) (And.intro rfl (And.intro rfl trivial))
    · refine r_iconst (q := 140) (v := (1 : Int32)) dX2_next_139 rfl (by decide) ?_
      refine r_goto (q := 144) dX2_next_140 (by decide) ?_
      exact r_le (w_X2_next_b144 G h0 N _ _ _ _ _) (Nat.le_refl _) (And.intro rfl (And.intro rfl trivial))
  · refine r_aload_n (q := 84) dX2_next_83 rfl rfl rfl ?_
    refine r_gI (q := 87) fl_X2_40 dX2_next_84 rfl (fun x8 => ?_)
    refine r_iload_n (q := 88) dX2_next_87 rfl rfl rfl ?_
    refine r_isub (q := 89) dX2_next_88 rfl ?_
    refine r_bipush (q := 91) (v := (8 : Int32)) dX2_next_89 rfl (by decide) ?_
    refine r_icmp_ge (q := 94) (t := 114) dX2_next_91 rfl (by decide) (fun _ => ?_) (fun _ => ?_)
    · exact r_le (w_X2_next_b114 G h0 N K69 hK69 _ _ _) (Nat.le_refl _) (And.intro rfl (And.intro rfl trivial))
    · refine r_aload_n (q := 95) dX2_next_94 rfl rfl rfl ?_
      refine r_gR (q := 98) fl_X2_18 rfl dX2_next_95 rfl (fun x9 => ?_)
      refine r_aload_n (q := 99) dX2_next_98 rfl rfl rfl ?_
      refine r_gI (q := 102) fl_X2_40 dX2_next_99 rfl (fun x10 => ?_)
      refine r_iload_n (q := 103) dX2_next_102 rfl rfl rfl ?_
      refine r_isub (q := 104) dX2_next_103 rfl ?_
      refine r_aload_n (q := 105) dX2_next_104 rfl rfl rfl ?_
      refine r_aload_n (q := 106) dX2_next_105 rfl rfl rfl ?_
      refine r_gI (q := 109) fl_X2_40 dX2_next_106 rfl (fun x11 => ?_)
      refine r_ob (fun a14 ha14 => ?_)
      obtain ⟨hea14, hka14⟩ := o_at_eq ha14
      cases hea14
      refine r_callI (q := 112) (c_X2_see G h0 N _ _ _) (cl_V (ci := 1) rfl rfl (lw_V q648 q650 qs5 q168 q651) (hd_X2_see) ⟨Nat.le_of_ble_eq_true rfl, Nat.le_of_ble_eq_true rfl⟩ (List.mem_singleton.mp hka14) rfl rfl rfl (Nat.le_of_ble_eq_true rfl) dX2_next_109) rfl (fun x12 σ13 => ?_)
      refine r_i2c (q := 113) dX2_next_112 rfl ?_
      refine r_castore (q := 114) dX2_next_113 rfl (fun σ15 => ?_)
      exact r_le (w_X2_next_b114 G h0 N K69 hK69 _ _ _) (Nat.le_refl _) (And.intro rfl (And.intro rfl trivial))
theorem w_X2_next_b69 (G : Gx) (h0 : G0 G) (N : Nat)   : ∀ (z : Nat) (a0 : Nat) (l1 : Int32) (σ : Mem), Runs G mX2_next rhoV σ 69 [some (vR (some a0)), some (vI l1), none] [] (f_X2_next_b69 N  z a0 l1 σ) := by
  intro z
  induction z with
  | zero => exact fun _ _ _ => r_none
  | succ z ih => exact fun a0 l1 σ => w_X2_next_b69B G h0 N   _ ih a0 l1 σ
theorem w_X2_next_b5B (G : Gx) (h0 : G0 G) (N : Nat)   (K5 : Nat → Int32 → Mem → Option (Unit × Mem)) (hK5 : ∀ (a0 : Nat) (l1 : Int32) (σ : Mem), Runs G mX2_next rhoV σ 5 [some (vR (some a0)), some (vI l1), none] [] (K5 a0 l1 σ)) (a0 : Nat) (l1 : Int32) (σ : Mem) : Runs G mX2_next rhoV σ 5 [some (vR (some a0)), some (vI l1), none] [] (f_X2_next_b5B N  K5 a0 l1 σ) := by
  unfold f_X2_next_b5B
  refine r_aload_n (q := 6) dX2_next_5 rfl rfl rfl ?_
  refine r_iload_n (q := 7) dX2_next_6 rfl rfl rfl ?_
  refine r_ob (fun a3 ha3 => ?_)
  obtain ⟨hea3, hka3⟩ := o_at_eq ha3
  cases hea3
  refine r_callI (q := 10) (c_X2_see G h0 N _ _ _) (cl_V (ci := 1) rfl rfl (lw_V q648 q650 qs5 q168 q651) (hd_X2_see) ⟨Nat.le_of_ble_eq_true rfl, Nat.le_of_ble_eq_true rfl⟩ (List.mem_singleton.mp hka3) rfl rfl rfl (Nat.le_of_ble_eq_true rfl) dX2_next_7) rfl (fun x1 σ2 => ?_)
  refine r_bipush (q := 12) (v := (32 : Int32)) dX2_next_10 rfl (by decide) ?_
  refine r_icmp_ne (q := 15) (t := 21) dX2_next_12 rfl (by decide) (fun _ => ?_) (fun _ => ?_)
  · refine r_iinc (q := 18) (v := (1 : Int32)) dX2_next_15 rfl rfl (by decide) (Nat.le_of_ble_eq_true rfl) rfl ?_
    refine r_goto (q := 5) dX2_next_18 (by decide) ?_
    exact r_le (hK5 _ _ _) (Nat.le_refl _) (And.intro rfl (And.intro rfl trivial))
  · refine r_aload_n (q := 22) dX2_next_21 rfl rfl rfl ?_
    refine r_iload_n (q := 23) dX2_next_22 rfl rfl rfl ?_
    refine r_pI (q := 26) fp_X2_next_26 dX2_next_23 rfl (fun σ4 => ?_)
    refine r_aload_n (q := 27) dX2_next_26 rfl rfl rfl ?_
    refine r_iload_n (q := 28) dX2_next_27 rfl rfl rfl ?_
    refine r_iconst (q := 29) (v := (1 : Int32)) dX2_next_28 rfl (by decide) ?_
    refine r_iadd (q := 30) dX2_next_29 rfl ?_
    refine r_pI (q := 33) fp_X2_next_40 dX2_next_30 rfl (fun σ5 => ?_)
    refine r_aload_n (q := 34) dX2_next_33 rfl rfl rfl ?_
    refine r_iload_n (q := 35) dX2_next_34 rfl rfl rfl ?_
    refine r_ob (fun a8 ha8 => ?_)
    obtain ⟨hea8, hka8⟩ := o_at_eq ha8
    cases hea8
    refine r_callI (q := 38) (c_X2_see G h0 N _ _ _) (cl_V (ci := 1) rfl rfl (lw_V q648 q650 qs5 q168 q651) (hd_X2_see) ⟨Nat.le_of_ble_eq_true rfl, Nat.le_of_ble_eq_true rfl⟩ (List.mem_singleton.mp hka8) rfl rfl rfl (Nat.le_of_ble_eq_true rfl) dX2_next_35) rfl (fun x6 σ7 => ?_)
    refine r_istore_n (q := 39) dX2_next_38 rfl rfl (Nat.le_of_ble_eq_true rfl) rfl ?_
    refine r_iload_n (q := 40) dX2_next_39 rfl rfl rfl ?_
    refine r_iconst (q := 41) (v := (-1 : Int32)) dX2_next_40 rfl (by decide) ?_
    refine r_icmp_ne (q := 44) (t := 57) dX2_next_41 rfl (by decide) (fun _ => ?_) (fun _ => ?_)
    · refine r_aload_n (q := 45) dX2_next_44 rfl rfl rfl ?_
      refine r_iconst (q := 46) (v := (0 : Int32)) dX2_next_45 rfl (by decide) ?_
      refine r_pI (q := 49) fp_X2_next_47 dX2_next_46 rfl (fun σ16 => ?_)
      refine r_aload_n (q := 50) dX2_next_49 rfl rfl rfl ?_
      refine r_iload_n (q := 51) dX2_next_50 rfl rfl rfl ?_
      refine r_pI (q := 54) fp_X2_next_40 dX2_next_51 rfl (fun σ17 => ?_)
      refine r_goto (q := 305) dX2_next_54 (by decide) ?_
      exact r_return rfl dX2_next_305
    · refine r_iload_n (q := 58) dX2_next_57 rfl rfl rfl ?_
      refine r_callI (q := 61) (c_X2_isSmall G h0 N _ _) (cl_S rfl rfl (lw_S q652 q653 q168 q654) (hd_X2_isSmall) ⟨Nat.le_of_ble_eq_true rfl, Nat.le_of_ble_eq_true rfl⟩ rfl (Nat.le_of_ble_eq_true rfl) dX2_next_58) rfl (fun x9 σ10 => ?_)
      refine r_if_eq (q := 64) (t := 185) dX2_next_61 rfl (by decide) (fun _ => ?_) (fun _ => ?_)
      · refine r_iload_n (q := 186) dX2_next_185 rfl rfl rfl ?_
        refine r_callI (q := 189) (c_X2_isDigit G h0 N _ _) (cl_S rfl rfl (lw_S q735 q736 q168 q737) (hd_X2_isDigit) ⟨Nat.le_of_ble_eq_true rfl, Nat.le_of_ble_eq_true rfl⟩ rfl (Nat.le_of_ble_eq_true rfl) dX2_next_186) rfl (fun x11 σ12 => ?_)
        refine r_if_eq (q := 192) (t := 284) dX2_next_189 rfl (by decide) (fun _ => ?_) (fun _ => ?_)
        · refine r_aload_n (q := 285) dX2_next_284 rfl rfl rfl ?_
          refine r_iload_n (q := 286) dX2_next_285 rfl rfl rfl ?_
          refine r_bipush (q := 288) (v := (59 : Int32)) dX2_next_286 rfl (by decide) ?_
          refine r_icmp_eq (q := 291) (t := 297) dX2_next_288 rfl (by decide) (fun _ => ?_) (fun _ => ?_)
          · exact r_le (w_X2_next_b297 G h0 N _ _ _) (Nat.le_refl _) (And.intro rfl trivial)
          · refine r_iload_n (q := 292) dX2_next_291 rfl rfl rfl ?_
            refine r_bipush (q := 294) (v := (44 : Int32)) dX2_next_292 rfl (by decide) ?_
            refine r_icmp_ne (q := 297) (t := 301) dX2_next_294 rfl (by decide) (fun _ => ?_) (fun _ => ?_)
            · exact r_le (w_X2_next_b297 G h0 N _ _ _) (Nat.le_refl _) (And.intro rfl trivial)
            · refine r_iconst (q := 302) (v := (1 : Int32)) dX2_next_301 rfl (by decide) ?_
              exact r_le (w_X2_next_b302 G h0 N _ _ _) (Nat.le_refl _) trivial
        · refine r_aload_n (q := 193) dX2_next_192 rfl rfl rfl ?_
          refine r_iconst (q := 194) (v := (0 : Int32)) dX2_next_193 rfl (by decide) ?_
          refine r_pI (q := 197) fp_X2_next_68 dX2_next_194 rfl (fun σ13 => ?_)
          refine r_aload_n (q := 198) dX2_next_197 rfl rfl rfl ?_
          refine r_iload_n (q := 199) dX2_next_198 rfl rfl rfl ?_
          refine r_pI (q := 202) fp_X2_next_40 dX2_next_199 rfl (fun σ14 => ?_)
          exact r_le (w_X2_next_b202 G h0 N N _ _ _) (Nat.le_refl _) (And.intro rfl (And.intro rfl trivial))
      · refine r_aload_n (q := 65) dX2_next_64 rfl rfl rfl ?_
        refine r_iload_n (q := 66) dX2_next_65 rfl rfl rfl ?_
        refine r_pI (q := 69) fp_X2_next_40 dX2_next_66 rfl (fun σ15 => ?_)
        exact r_le (w_X2_next_b69 G h0 N N _ _ _) (Nat.le_refl _) (And.intro rfl (And.intro rfl trivial))
theorem w_X2_next_b5 (G : Gx) (h0 : G0 G) (N : Nat)   : ∀ (z : Nat) (a0 : Nat) (l1 : Int32) (σ : Mem), Runs G mX2_next rhoV σ 5 [some (vR (some a0)), some (vI l1), none] [] (f_X2_next_b5 N  z a0 l1 σ) := by
  intro z
  induction z with
  | zero => exact fun _ _ _ => r_none
  | succ z ih => exact fun a0 l1 σ => w_X2_next_b5B G h0 N   _ ih a0 l1 σ
theorem c_X2_next (G : Gx) (h0 : G0 G) (N : Nat) (a0 : Nat) (σ : Mem) : Ct G mX2_next rhoV [vR (some a0)] σ (f_X2_next N a0 σ) := by
  refine Ct_of h0 (by decide) rfl (Nat.le_of_ble_eq_true rfl) (L0 := [some (vR (some a0)), none, none]) rfl ?_
  unfold f_X2_next
  refine r_aload_n (q := 1) dX2_next_0 rfl rfl rfl ?_
  refine r_gI (q := 4) fl_X2_40 dX2_next_1 rfl (fun x1 => ?_)
  refine r_istore_n (q := 5) dX2_next_4 rfl rfl (Nat.le_of_ble_eq_true rfl) rfl ?_
  exact r_le (w_X2_next_b5 G h0 N N _ _ _) (Nat.le_refl _) (And.intro rfl (And.intro rfl trivial))
theorem c_X3_at (G : Gx) (h0 : G0 G) (N : Nat) (a0 : Nat) (i1 : Int32) (i2 : Int32) (σ : Mem) : Ct G mX3_at rhoR [vR (some a0), vI i1, vI i2] σ (f_X3_at N a0 i1 i2 σ) := by
  refine Ct_of h0 (by decide) rfl (Nat.le_of_ble_eq_true rfl) (L0 := [some (vR (some a0)), some (vI i1), some (vI i2)]) rfl ?_
  unfold f_X3_at
  refine r_aload_n (q := 1) dX3_at_0 rfl rfl rfl ?_
  refine r_iload_n (q := 2) dX3_at_1 rfl rfl rfl ?_
  refine r_pI (q := 5) fp_X3_at_15 dX3_at_2 rfl (fun σ1 => ?_)
  refine r_aload_n (q := 6) dX3_at_5 rfl rfl rfl ?_
  refine r_iload_n (q := 7) dX3_at_6 rfl rfl rfl ?_
  refine r_pI (q := 10) fp_X3_at_9 dX3_at_7 rfl (fun σ2 => ?_)
  refine r_aload_n (q := 11) dX3_at_10 rfl rfl rfl ?_
  exact r_areturn rfl (Or.inl ⟨_, rfl⟩) dX3_at_11
theorem c_X2_fail (G : Gx) (h0 : G0 G) (N : Nat) (a0 : Nat) (i1 : Int32) (σ : Mem) : Ct G mX2_fail rhoR [vR (some a0), vI i1] σ (f_X2_fail N a0 i1 σ) := by
  refine Ct_of h0 (by decide) rfl (Nat.le_of_ble_eq_true rfl) (L0 := [some (vR (some a0)), some (vI i1)]) rfl ?_
  unfold f_X2_fail
  refine r_aload_n (q := 1) dX2_fail_0 rfl rfl rfl ?_
  refine r_gR (q := 4) fl_X2_12 rfl dX2_fail_1 rfl (fun x1 => ?_)
  refine r_iload_n (q := 5) dX2_fail_4 rfl rfl rfl ?_
  refine r_aload_n (q := 6) dX2_fail_5 rfl rfl rfl ?_
  refine r_gI (q := 9) fl_X2_26 dX2_fail_6 rfl (fun x2 => ?_)
  refine r_ob (fun a5 ha5 => ?_)
  obtain ⟨hea5, hka5⟩ := o_at_eq ha5
  cases hea5
  refine r_callR (q := 12) (c_X3_at G h0 N _ _ _ _) (cl_V (ci := 2) rfl rfl (lw_V q746 q747 q748 q172 q749) (hd_X3_at) ⟨Nat.le_of_ble_eq_true rfl, Nat.le_of_ble_eq_true rfl⟩ (List.mem_singleton.mp hka5) rfl rfl rfl (Nat.le_of_ble_eq_true rfl) dX2_fail_9) rfl (fun x3 σ4 => ?_)
  exact r_areturn rfl (Or.inl ⟨_, rfl⟩) dX2_fail_12
theorem w_J3_isLatin1_b17 (G : Gx) (h0 : G0 G) (N : Nat)    (σ : Mem) : Runs G mJ3_isLatin1 rhoI σ 17 [none] [] (f_J3_isLatin1_b17 N   σ) := by
  unfold f_J3_isLatin1_b17
  refine r_iconst (q := 18) (v := (0 : Int32)) dJ3_isLatin1_17 rfl (by decide) ?_
  exact r_ireturnN rfl dJ3_isLatin1_18
theorem c_J3_isLatin1 (G : Gx) (h0 : G0 G) (N : Nat) (a0 : Nat) (σ : Mem) : Ct G mJ3_isLatin1 rhoI [vR (some a0)] σ (f_J3_isLatin1 N a0 σ) := by
  refine Ct_of h0 (by decide) rfl (Nat.le_of_ble_eq_true rfl) (L0 := [some (vR (some a0))]) rfl ?_
  unfold f_J3_isLatin1
  refine r_gsI (q := 3) (cn := "java/lang/String") (v := (1 : Int32)) (List.mem_of_getElem? (i := 0) rfl) q677 (Or.inl rfl) dJ3_isLatin1_0 rfl ?_
  refine r_if_eq (q := 6) (t := 17) dJ3_isLatin1_3 rfl (by decide) (fun _ => ?_) (fun _ => ?_)
  · exact r_le (w_J3_isLatin1_b17 G h0 N  _) (Nat.le_refl _) trivial
  · refine r_aload_n (q := 7) dJ3_isLatin1_6 rfl rfl rfl ?_
    refine r_gI (q := 10) fl_J3_15 dJ3_isLatin1_7 rfl (fun x1 => ?_)
    refine r_if_ne (q := 13) (t := 17) dJ3_isLatin1_10 rfl (by decide) (fun _ => ?_) (fun _ => ?_)
    · refine r_iconst (q := 14) (v := (1 : Int32)) dJ3_isLatin1_13 rfl (by decide) ?_
      refine r_goto (q := 18) dJ3_isLatin1_14 (by decide) ?_
      exact r_ireturnN rfl dJ3_isLatin1_18
    · exact r_le (w_J3_isLatin1_b17 G h0 N  _) (Nat.le_refl _) trivial
theorem w_J7_signedHashCode_b8B (G : Gx) (h0 : G0 G) (N : Nat)   (K8 : Int32 → Option Nat → Int32 → Int32 → Mem → Option (Int32 × Mem)) (hK8 : ∀ (l0 : Int32) (l1 : Option Nat) (l4 : Int32) (l5 : Int32) (σ : Mem), Runs G mJ7_signedHashCode rhoI σ 8 [some (vI l0), some (vR l1), none, none, some (vI l4), some (vI l5)] [] (K8 l0 l1 l4 l5 σ)) (l0 : Int32) (l1 : Option Nat) (l4 : Int32) (l5 : Int32) (σ : Mem) : Runs G mJ7_signedHashCode rhoI σ 8 [some (vI l0), some (vR l1), none, none, some (vI l4), some (vI l5)] [] (f_J7_signedHashCode_b8B N  K8 l0 l1 l4 l5 σ) := by
  unfold f_J7_signedHashCode_b8B
  refine r_iload (q := 10) dJ7_signedHashCode_8 rfl rfl ?_
  refine r_iload (q := 12) dJ7_signedHashCode_10 rfl rfl ?_
  refine r_icmp_ge (q := 15) (t := 35) dJ7_signedHashCode_12 rfl (by decide) (fun _ => ?_) (fun _ => ?_)
  · refine r_iload_n (q := 36) dJ7_signedHashCode_35 rfl rfl rfl ?_
    exact r_ireturn rfl rfl dJ7_signedHashCode_36
  · refine r_bipush (q := 17) (v := (31 : Int32)) dJ7_signedHashCode_15 rfl (by decide) ?_
    refine r_iload_n (q := 18) dJ7_signedHashCode_17 rfl rfl rfl ?_
    refine r_imul (q := 19) dJ7_signedHashCode_18 rfl ?_
    refine r_aload_n (q := 20) dJ7_signedHashCode_19 rfl rfl rfl ?_
    refine r_iload (q := 22) dJ7_signedHashCode_20 rfl rfl ?_
    refine r_baload (q := 23) dJ7_signedHashCode_22 rfl (fun x1 => ?_)
    refine r_sipush (q := 26) (v := (255 : Int32)) dJ7_signedHashCode_23 rfl (by decide) ?_
    refine r_iand (q := 27) dJ7_signedHashCode_26 rfl ?_
    refine r_iadd (q := 28) dJ7_signedHashCode_27 rfl ?_
    refine r_istore_n (q := 29) dJ7_signedHashCode_28 rfl rfl (Nat.le_of_ble_eq_true rfl) rfl ?_
    refine r_iinc (q := 32) (v := (1 : Int32)) dJ7_signedHashCode_29 rfl rfl (by decide) (Nat.le_of_ble_eq_true rfl) rfl ?_
    refine r_goto (q := 8) dJ7_signedHashCode_32 (by decide) ?_
    exact r_le (hK8 _ _ _ _ _) (Nat.le_refl _) (And.intro rfl (And.intro rfl (And.intro rfl (And.intro rfl trivial))))
theorem w_J7_signedHashCode_b8 (G : Gx) (h0 : G0 G) (N : Nat)   : ∀ (z : Nat) (l0 : Int32) (l1 : Option Nat) (l4 : Int32) (l5 : Int32) (σ : Mem), Runs G mJ7_signedHashCode rhoI σ 8 [some (vI l0), some (vR l1), none, none, some (vI l4), some (vI l5)] [] (f_J7_signedHashCode_b8 N  z l0 l1 l4 l5 σ) := by
  intro z
  induction z with
  | zero => exact fun _ _ _ _ _ => r_none
  | succ z ih => exact fun l0 l1 l4 l5 σ => w_J7_signedHashCode_b8B G h0 N   _ ih l0 l1 l4 l5 σ
theorem c_J7_signedHashCode (G : Gx) (h0 : G0 G) (N : Nat) (i0 : Int32) (o1 : Option Nat) (i2 : Int32) (i3 : Int32) (σ : Mem) : Ct G mJ7_signedHashCode rhoI [vI i0, vR o1, vI i2, vI i3] σ (f_J7_signedHashCode N i0 o1 i2 i3 σ) := by
  refine Ct_of h0 (by decide) rfl (Nat.le_of_ble_eq_true rfl) (L0 := [some (vI i0), some (vR o1), some (vI i2), some (vI i3), none, none]) rfl ?_
  unfold f_J7_signedHashCode
  refine r_iload_n (q := 1) dJ7_signedHashCode_0 rfl rfl rfl ?_
  refine r_iload_n (q := 2) dJ7_signedHashCode_1 rfl rfl rfl ?_
  refine r_iadd (q := 3) dJ7_signedHashCode_2 rfl ?_
  refine r_istore (q := 5) dJ7_signedHashCode_3 rfl (Nat.le_of_ble_eq_true rfl) rfl ?_
  refine r_iload_n (q := 6) dJ7_signedHashCode_5 rfl rfl rfl ?_
  refine r_istore (q := 8) dJ7_signedHashCode_6 rfl (Nat.le_of_ble_eq_true rfl) rfl ?_
  exact r_le (w_J7_signedHashCode_b8 G h0 N N _ _ _ _ _) (Nat.le_refl _) (And.intro rfl (And.intro rfl (And.intro rfl (And.intro rfl trivial))))
