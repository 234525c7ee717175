/-! the walks of X7_fits X1_fit X7_fit X1_hourWhy X1_couldBe X1_could X7_refusesPerson X7_couldBe X7_could X1_surely X7_surely X1_lies X7_lies X1_ones X1_isFewer X1_falseOnes X7_anyFits X7_falseOnes X1_oddsOf X1_odds X7_oddsOf X7_odds X1_likeliest X7_likeliest X1_proved -/
set_option maxRecDepth 100000
def dkwX7_fits_2 : List UInt8 := [153, 0, 7, 4, 167, 0, 4, 3, 96, 60, 132, 2, 1, 167, 255, 222, 42, 27, 182, 0, 76, 172]
abbrev dktX7_fits_2 : List UInt8 := dkwX7_fits_2 ++ []
def dkwX7_fits_1 : List UInt8 := [3, 61, 28, 42, 180, 1, 186, 182, 1, 194, 162, 0, 29, 27, 42, 28, 42, 182, 2, 14, 182, 2, 17]
abbrev dktX7_fits_1 : List UInt8 := dkwX7_fits_1 ++ dktX7_fits_2
def dkwX7_fits_0 : List UInt8 := [42, 3, 181, 0, 66, 42, 180, 1, 186, 199, 0, 9, 42, 4, 182, 0, 72, 172, 42, 182, 2, 11, 3, 60]
abbrev dktX7_fits_0 : List UInt8 := dkwX7_fits_0 ++ dktX7_fits_1
theorem dksX7_fits_0 : cX7_fits.data.toList.drop 0 = dktX7_fits_0 := by decide +kernel
theorem dksX7_fits_1 : cX7_fits.data.toList.drop 24 = dktX7_fits_1 := dk_seg dksX7_fits_0 24 rfl rfl
theorem dksX7_fits_2 : cX7_fits.data.toList.drop 47 = dktX7_fits_2 := dk_seg dksX7_fits_1 23 rfl rfl
theorem dX7_fits_0 : decode cX7_fits 0 = .ok (.aload_n 0, 1) := dk_42 (dk_at dksX7_fits_0 0 rfl rfl)
theorem dX7_fits_1 : decode cX7_fits 1 = .ok (.iconst 0, 1) := dk_3 (dk_at dksX7_fits_0 1 rfl rfl)
theorem dX7_fits_2 : decode cX7_fits 2 = .ok (.putfield 66, 3) := dk_181 0 66 (dk_at dksX7_fits_0 2 rfl rfl)
theorem dX7_fits_5 : decode cX7_fits 5 = .ok (.aload_n 0, 1) := dk_42 (dk_at dksX7_fits_0 5 rfl rfl)
theorem dX7_fits_6 : decode cX7_fits 6 = .ok (.getfield 442, 3) := dk_180 1 186 (dk_at dksX7_fits_0 6 rfl rfl)
theorem dX7_fits_9 : decode cX7_fits 9 = .ok (.ifnonnull 9, 3) := dk_199 0 9 (dk_at dksX7_fits_0 9 rfl rfl)
theorem dX7_fits_12 : decode cX7_fits 12 = .ok (.aload_n 0, 1) := dk_42 (dk_at dksX7_fits_0 12 rfl rfl)
theorem dX7_fits_13 : decode cX7_fits 13 = .ok (.iconst 1, 1) := dk_4 (dk_at dksX7_fits_0 13 rfl rfl)
theorem dX7_fits_14 : decode cX7_fits 14 = .ok (.invokevirtual 72, 3) := dk_182 0 72 (dk_at dksX7_fits_0 14 rfl rfl)
theorem dX7_fits_17 : decode cX7_fits 17 = .ok (.ireturn, 1) := dk_172 (dk_at dksX7_fits_0 17 rfl rfl)
theorem dX7_fits_18 : decode cX7_fits 18 = .ok (.aload_n 0, 1) := dk_42 (dk_at dksX7_fits_0 18 rfl rfl)
theorem dX7_fits_19 : decode cX7_fits 19 = .ok (.invokevirtual 523, 3) := dk_182 2 11 (dk_at dksX7_fits_0 19 rfl rfl)
theorem dX7_fits_22 : decode cX7_fits 22 = .ok (.iconst 0, 1) := dk_3 (dk_at dksX7_fits_0 22 rfl rfl)
theorem dX7_fits_23 : decode cX7_fits 23 = .ok (.istore_n 1, 1) := dk_60 (dk_at dksX7_fits_0 23 rfl rfl)
theorem dX7_fits_24 : decode cX7_fits 24 = .ok (.iconst 0, 1) := dk_3 (dk_at dksX7_fits_1 0 rfl rfl)
theorem dX7_fits_25 : decode cX7_fits 25 = .ok (.istore_n 2, 1) := dk_61 (dk_at dksX7_fits_1 1 rfl rfl)
theorem dX7_fits_26 : decode cX7_fits 26 = .ok (.iload_n 2, 1) := dk_28 (dk_at dksX7_fits_1 2 rfl rfl)
theorem dX7_fits_27 : decode cX7_fits 27 = .ok (.aload_n 0, 1) := dk_42 (dk_at dksX7_fits_1 3 rfl rfl)
theorem dX7_fits_28 : decode cX7_fits 28 = .ok (.getfield 442, 3) := dk_180 1 186 (dk_at dksX7_fits_1 4 rfl rfl)
theorem dX7_fits_31 : decode cX7_fits 31 = .ok (.invokevirtual 450, 3) := dk_182 1 194 (dk_at dksX7_fits_1 7 rfl rfl)
theorem dX7_fits_34 : decode cX7_fits 34 = .ok (.if_icmp .ge 29, 3) := dk_162 0 29 (dk_at dksX7_fits_1 10 rfl rfl)
theorem dX7_fits_37 : decode cX7_fits 37 = .ok (.iload_n 1, 1) := dk_27 (dk_at dksX7_fits_1 13 rfl rfl)
theorem dX7_fits_38 : decode cX7_fits 38 = .ok (.aload_n 0, 1) := dk_42 (dk_at dksX7_fits_1 14 rfl rfl)
theorem dX7_fits_39 : decode cX7_fits 39 = .ok (.iload_n 2, 1) := dk_28 (dk_at dksX7_fits_1 15 rfl rfl)
theorem dX7_fits_40 : decode cX7_fits 40 = .ok (.aload_n 0, 1) := dk_42 (dk_at dksX7_fits_1 16 rfl rfl)
theorem dX7_fits_41 : decode cX7_fits 41 = .ok (.invokevirtual 526, 3) := dk_182 2 14 (dk_at dksX7_fits_1 17 rfl rfl)
theorem dX7_fits_44 : decode cX7_fits 44 = .ok (.invokevirtual 529, 3) := dk_182 2 17 (dk_at dksX7_fits_1 20 rfl rfl)
theorem dX7_fits_47 : decode cX7_fits 47 = .ok (.ifCond .eq 7, 3) := dk_153 0 7 (dk_at dksX7_fits_2 0 rfl rfl)
theorem dX7_fits_50 : decode cX7_fits 50 = .ok (.iconst 1, 1) := dk_4 (dk_at dksX7_fits_2 3 rfl rfl)
theorem dX7_fits_51 : decode cX7_fits 51 = .ok (.goto 4, 3) := dk_167 0 4 (dk_at dksX7_fits_2 4 rfl rfl)
theorem dX7_fits_54 : decode cX7_fits 54 = .ok (.iconst 0, 1) := dk_3 (dk_at dksX7_fits_2 7 rfl rfl)
theorem dX7_fits_55 : decode cX7_fits 55 = .ok (.iadd, 1) := dk_96 (dk_at dksX7_fits_2 8 rfl rfl)
theorem dX7_fits_56 : decode cX7_fits 56 = .ok (.istore_n 1, 1) := dk_60 (dk_at dksX7_fits_2 9 rfl rfl)
theorem dX7_fits_57 : decode cX7_fits 57 = .ok (.iinc 2 1, 3) := dk_132 2 1 (dk_at dksX7_fits_2 10 rfl rfl)
theorem dX7_fits_60 : decode cX7_fits 60 = .ok (.goto (-34), 3) := dk_167 255 222 (dk_at dksX7_fits_2 13 rfl rfl)
theorem dX7_fits_63 : decode cX7_fits 63 = .ok (.aload_n 0, 1) := dk_42 (dk_at dksX7_fits_2 16 rfl rfl)
theorem dX7_fits_64 : decode cX7_fits 64 = .ok (.iload_n 1, 1) := dk_27 (dk_at dksX7_fits_2 17 rfl rfl)
theorem dX7_fits_65 : decode cX7_fits 65 = .ok (.invokevirtual 76, 3) := dk_182 0 76 (dk_at dksX7_fits_2 18 rfl rfl)
theorem dX7_fits_68 : decode cX7_fits 68 = .ok (.ireturn, 1) := dk_172 (dk_at dksX7_fits_2 21 rfl rfl)
def dkwX1_fit_2 : List UInt8 := [182, 0, 94, 172]
abbrev dktX1_fit_2 : List UInt8 := dkwX1_fit_2 ++ []
def dkwX1_fit_1 : List UInt8 := [182, 1, 40, 27, 42, 180, 1, 31, 162, 0, 12, 42, 180, 0, 68, 27, 46, 167, 0, 8, 42, 4]
abbrev dktX1_fit_1 : List UInt8 := dkwX1_fit_1 ++ dktX1_fit_2
def dkwX1_fit_0 : List UInt8 := [42, 182, 0, 80, 42, 180, 0, 104, 198, 0, 7, 27, 156, 0, 9, 42, 4, 182, 0, 94, 172, 42]
abbrev dktX1_fit_0 : List UInt8 := dkwX1_fit_0 ++ dktX1_fit_1
theorem dksX1_fit_0 : cX1_fit.data.toList.drop 0 = dktX1_fit_0 := by decide +kernel
theorem dksX1_fit_1 : cX1_fit.data.toList.drop 22 = dktX1_fit_1 := dk_seg dksX1_fit_0 22 rfl rfl
theorem dksX1_fit_2 : cX1_fit.data.toList.drop 44 = dktX1_fit_2 := dk_seg dksX1_fit_1 22 rfl rfl
theorem dX1_fit_0 : decode cX1_fit 0 = .ok (.aload_n 0, 1) := dk_42 (dk_at dksX1_fit_0 0 rfl rfl)
theorem dX1_fit_1 : decode cX1_fit 1 = .ok (.invokevirtual 80, 3) := dk_182 0 80 (dk_at dksX1_fit_0 1 rfl rfl)
theorem dX1_fit_4 : decode cX1_fit 4 = .ok (.aload_n 0, 1) := dk_42 (dk_at dksX1_fit_0 4 rfl rfl)
theorem dX1_fit_5 : decode cX1_fit 5 = .ok (.getfield 104, 3) := dk_180 0 104 (dk_at dksX1_fit_0 5 rfl rfl)
theorem dX1_fit_8 : decode cX1_fit 8 = .ok (.ifnull 7, 3) := dk_198 0 7 (dk_at dksX1_fit_0 8 rfl rfl)
theorem dX1_fit_11 : decode cX1_fit 11 = .ok (.iload_n 1, 1) := dk_27 (dk_at dksX1_fit_0 11 rfl rfl)
theorem dX1_fit_12 : decode cX1_fit 12 = .ok (.ifCond .ge 9, 3) := dk_156 0 9 (dk_at dksX1_fit_0 12 rfl rfl)
theorem dX1_fit_15 : decode cX1_fit 15 = .ok (.aload_n 0, 1) := dk_42 (dk_at dksX1_fit_0 15 rfl rfl)
theorem dX1_fit_16 : decode cX1_fit 16 = .ok (.iconst 1, 1) := dk_4 (dk_at dksX1_fit_0 16 rfl rfl)
theorem dX1_fit_17 : decode cX1_fit 17 = .ok (.invokevirtual 94, 3) := dk_182 0 94 (dk_at dksX1_fit_0 17 rfl rfl)
theorem dX1_fit_20 : decode cX1_fit 20 = .ok (.ireturn, 1) := dk_172 (dk_at dksX1_fit_0 20 rfl rfl)
theorem dX1_fit_21 : decode cX1_fit 21 = .ok (.aload_n 0, 1) := dk_42 (dk_at dksX1_fit_0 21 rfl rfl)
theorem dX1_fit_22 : decode cX1_fit 22 = .ok (.invokevirtual 296, 3) := dk_182 1 40 (dk_at dksX1_fit_1 0 rfl rfl)
theorem dX1_fit_25 : decode cX1_fit 25 = .ok (.iload_n 1, 1) := dk_27 (dk_at dksX1_fit_1 3 rfl rfl)
theorem dX1_fit_26 : decode cX1_fit 26 = .ok (.aload_n 0, 1) := dk_42 (dk_at dksX1_fit_1 4 rfl rfl)
theorem dX1_fit_27 : decode cX1_fit 27 = .ok (.getfield 287, 3) := dk_180 1 31 (dk_at dksX1_fit_1 5 rfl rfl)
theorem dX1_fit_30 : decode cX1_fit 30 = .ok (.if_icmp .ge 12, 3) := dk_162 0 12 (dk_at dksX1_fit_1 8 rfl rfl)
theorem dX1_fit_33 : decode cX1_fit 33 = .ok (.aload_n 0, 1) := dk_42 (dk_at dksX1_fit_1 11 rfl rfl)
theorem dX1_fit_34 : decode cX1_fit 34 = .ok (.getfield 68, 3) := dk_180 0 68 (dk_at dksX1_fit_1 12 rfl rfl)
theorem dX1_fit_37 : decode cX1_fit 37 = .ok (.iload_n 1, 1) := dk_27 (dk_at dksX1_fit_1 15 rfl rfl)
theorem dX1_fit_38 : decode cX1_fit 38 = .ok (.iaload, 1) := dk_46 (dk_at dksX1_fit_1 16 rfl rfl)
theorem dX1_fit_39 : decode cX1_fit 39 = .ok (.goto 8, 3) := dk_167 0 8 (dk_at dksX1_fit_1 17 rfl rfl)
theorem dX1_fit_42 : decode cX1_fit 42 = .ok (.aload_n 0, 1) := dk_42 (dk_at dksX1_fit_1 20 rfl rfl)
theorem dX1_fit_43 : decode cX1_fit 43 = .ok (.iconst 1, 1) := dk_4 (dk_at dksX1_fit_1 21 rfl rfl)
theorem dX1_fit_44 : decode cX1_fit 44 = .ok (.invokevirtual 94, 3) := dk_182 0 94 (dk_at dksX1_fit_2 0 rfl rfl)
theorem dX1_fit_47 : decode cX1_fit 47 = .ok (.ireturn, 1) := dk_172 (dk_at dksX1_fit_2 3 rfl rfl)
def dkwX7_fit_3 : List UInt8 := [167, 255, 213, 42, 4, 182, 0, 72, 172]
abbrev dktX7_fit_3 : List UInt8 := dkwX7_fit_3 ++ []
def dkwX7_fit_2 : List UInt8 := [154, 0, 6, 167, 0, 17, 28, 27, 160, 0, 9, 42, 29, 182, 0, 76, 172, 132, 2, 1, 132, 3, 1]
abbrev dktX7_fit_2 : List UInt8 := dkwX7_fit_2 ++ dktX7_fit_3
def dkwX7_fit_1 : List UInt8 := [3, 62, 29, 42, 180, 1, 186, 182, 1, 194, 162, 0, 38, 42, 29, 42, 182, 2, 14, 182, 2, 17]
abbrev dktX7_fit_1 : List UInt8 := dkwX7_fit_1 ++ dktX7_fit_2
def dkwX7_fit_0 : List UInt8 := [42, 3, 181, 0, 66, 42, 180, 1, 186, 199, 0, 9, 42, 4, 182, 0, 72, 172, 42, 182, 2, 11, 3, 61]
abbrev dktX7_fit_0 : List UInt8 := dkwX7_fit_0 ++ dktX7_fit_1
theorem dksX7_fit_0 : cX7_fit.data.toList.drop 0 = dktX7_fit_0 := by decide +kernel
theorem dksX7_fit_1 : cX7_fit.data.toList.drop 24 = dktX7_fit_1 := dk_seg dksX7_fit_0 24 rfl rfl
theorem dksX7_fit_2 : cX7_fit.data.toList.drop 46 = dktX7_fit_2 := dk_seg dksX7_fit_1 22 rfl rfl
theorem dksX7_fit_3 : cX7_fit.data.toList.drop 69 = dktX7_fit_3 := dk_seg dksX7_fit_2 23 rfl rfl
theorem dX7_fit_0 : decode cX7_fit 0 = .ok (.aload_n 0, 1) := dk_42 (dk_at dksX7_fit_0 0 rfl rfl)
theorem dX7_fit_1 : decode cX7_fit 1 = .ok (.iconst 0, 1) := dk_3 (dk_at dksX7_fit_0 1 rfl rfl)
theorem dX7_fit_2 : decode cX7_fit 2 = .ok (.putfield 66, 3) := dk_181 0 66 (dk_at dksX7_fit_0 2 rfl rfl)
theorem dX7_fit_5 : decode cX7_fit 5 = .ok (.aload_n 0, 1) := dk_42 (dk_at dksX7_fit_0 5 rfl rfl)
theorem dX7_fit_6 : decode cX7_fit 6 = .ok (.getfield 442, 3) := dk_180 1 186 (dk_at dksX7_fit_0 6 rfl rfl)
theorem dX7_fit_9 : decode cX7_fit 9 = .ok (.ifnonnull 9, 3) := dk_199 0 9 (dk_at dksX7_fit_0 9 rfl rfl)
theorem dX7_fit_12 : decode cX7_fit 12 = .ok (.aload_n 0, 1) := dk_42 (dk_at dksX7_fit_0 12 rfl rfl)
theorem dX7_fit_13 : decode cX7_fit 13 = .ok (.iconst 1, 1) := dk_4 (dk_at dksX7_fit_0 13 rfl rfl)
theorem dX7_fit_14 : decode cX7_fit 14 = .ok (.invokevirtual 72, 3) := dk_182 0 72 (dk_at dksX7_fit_0 14 rfl rfl)
theorem dX7_fit_17 : decode cX7_fit 17 = .ok (.ireturn, 1) := dk_172 (dk_at dksX7_fit_0 17 rfl rfl)
theorem dX7_fit_18 : decode cX7_fit 18 = .ok (.aload_n 0, 1) := dk_42 (dk_at dksX7_fit_0 18 rfl rfl)
theorem dX7_fit_19 : decode cX7_fit 19 = .ok (.invokevirtual 523, 3) := dk_182 2 11 (dk_at dksX7_fit_0 19 rfl rfl)
theorem dX7_fit_22 : decode cX7_fit 22 = .ok (.iconst 0, 1) := dk_3 (dk_at dksX7_fit_0 22 rfl rfl)
theorem dX7_fit_23 : decode cX7_fit 23 = .ok (.istore_n 2, 1) := dk_61 (dk_at dksX7_fit_0 23 rfl rfl)
theorem dX7_fit_24 : decode cX7_fit 24 = .ok (.iconst 0, 1) := dk_3 (dk_at dksX7_fit_1 0 rfl rfl)
theorem dX7_fit_25 : decode cX7_fit 25 = .ok (.istore_n 3, 1) := dk_62 (dk_at dksX7_fit_1 1 rfl rfl)
theorem dX7_fit_26 : decode cX7_fit 26 = .ok (.iload_n 3, 1) := dk_29 (dk_at dksX7_fit_1 2 rfl rfl)
theorem dX7_fit_27 : decode cX7_fit 27 = .ok (.aload_n 0, 1) := dk_42 (dk_at dksX7_fit_1 3 rfl rfl)
theorem dX7_fit_28 : decode cX7_fit 28 = .ok (.getfield 442, 3) := dk_180 1 186 (dk_at dksX7_fit_1 4 rfl rfl)
theorem dX7_fit_31 : decode cX7_fit 31 = .ok (.invokevirtual 450, 3) := dk_182 1 194 (dk_at dksX7_fit_1 7 rfl rfl)
theorem dX7_fit_34 : decode cX7_fit 34 = .ok (.if_icmp .ge 38, 3) := dk_162 0 38 (dk_at dksX7_fit_1 10 rfl rfl)
theorem dX7_fit_37 : decode cX7_fit 37 = .ok (.aload_n 0, 1) := dk_42 (dk_at dksX7_fit_1 13 rfl rfl)
theorem dX7_fit_38 : decode cX7_fit 38 = .ok (.iload_n 3, 1) := dk_29 (dk_at dksX7_fit_1 14 rfl rfl)
theorem dX7_fit_39 : decode cX7_fit 39 = .ok (.aload_n 0, 1) := dk_42 (dk_at dksX7_fit_1 15 rfl rfl)
theorem dX7_fit_40 : decode cX7_fit 40 = .ok (.invokevirtual 526, 3) := dk_182 2 14 (dk_at dksX7_fit_1 16 rfl rfl)
theorem dX7_fit_43 : decode cX7_fit 43 = .ok (.invokevirtual 529, 3) := dk_182 2 17 (dk_at dksX7_fit_1 19 rfl rfl)
theorem dX7_fit_46 : decode cX7_fit 46 = .ok (.ifCond .ne 6, 3) := dk_154 0 6 (dk_at dksX7_fit_2 0 rfl rfl)
theorem dX7_fit_49 : decode cX7_fit 49 = .ok (.goto 17, 3) := dk_167 0 17 (dk_at dksX7_fit_2 3 rfl rfl)
theorem dX7_fit_52 : decode cX7_fit 52 = .ok (.iload_n 2, 1) := dk_28 (dk_at dksX7_fit_2 6 rfl rfl)
theorem dX7_fit_53 : decode cX7_fit 53 = .ok (.iload_n 1, 1) := dk_27 (dk_at dksX7_fit_2 7 rfl rfl)
theorem dX7_fit_54 : decode cX7_fit 54 = .ok (.if_icmp .ne 9, 3) := dk_160 0 9 (dk_at dksX7_fit_2 8 rfl rfl)
theorem dX7_fit_57 : decode cX7_fit 57 = .ok (.aload_n 0, 1) := dk_42 (dk_at dksX7_fit_2 11 rfl rfl)
theorem dX7_fit_58 : decode cX7_fit 58 = .ok (.iload_n 3, 1) := dk_29 (dk_at dksX7_fit_2 12 rfl rfl)
theorem dX7_fit_59 : decode cX7_fit 59 = .ok (.invokevirtual 76, 3) := dk_182 0 76 (dk_at dksX7_fit_2 13 rfl rfl)
theorem dX7_fit_62 : decode cX7_fit 62 = .ok (.ireturn, 1) := dk_172 (dk_at dksX7_fit_2 16 rfl rfl)
theorem dX7_fit_63 : decode cX7_fit 63 = .ok (.iinc 2 1, 3) := dk_132 2 1 (dk_at dksX7_fit_2 17 rfl rfl)
theorem dX7_fit_66 : decode cX7_fit 66 = .ok (.iinc 3 1, 3) := dk_132 3 1 (dk_at dksX7_fit_2 20 rfl rfl)
theorem dX7_fit_69 : decode cX7_fit 69 = .ok (.goto (-43), 3) := dk_167 255 213 (dk_at dksX7_fit_3 0 rfl rfl)
theorem dX7_fit_72 : decode cX7_fit 72 = .ok (.aload_n 0, 1) := dk_42 (dk_at dksX7_fit_3 3 rfl rfl)
theorem dX7_fit_73 : decode cX7_fit 73 = .ok (.iconst 1, 1) := dk_4 (dk_at dksX7_fit_3 4 rfl rfl)
theorem dX7_fit_74 : decode cX7_fit 74 = .ok (.invokevirtual 72, 3) := dk_182 0 72 (dk_at dksX7_fit_3 5 rfl rfl)
theorem dX7_fit_77 : decode cX7_fit 77 = .ok (.ireturn, 1) := dk_172 (dk_at dksX7_fit_3 8 rfl rfl)
def dkwX1_hourWhy_1 : List UInt8 := [5, 172]
abbrev dktX1_hourWhy_1 : List UInt8 := dkwX1_hourWhy_1 ++ []
def dkwX1_hourWhy_0 : List UInt8 := [42, 27, 182, 0, 232, 154, 0, 7, 4, 167, 0, 16, 42, 28, 182, 0, 244, 153, 0, 7, 3, 167, 0, 4]
abbrev dktX1_hourWhy_0 : List UInt8 := dkwX1_hourWhy_0 ++ dktX1_hourWhy_1
theorem dksX1_hourWhy_0 : cX1_hourWhy.data.toList.drop 0 = dktX1_hourWhy_0 := by decide +kernel
theorem dksX1_hourWhy_1 : cX1_hourWhy.data.toList.drop 24 = dktX1_hourWhy_1 := dk_seg dksX1_hourWhy_0 24 rfl rfl
theorem dX1_hourWhy_0 : decode cX1_hourWhy 0 = .ok (.aload_n 0, 1) := dk_42 (dk_at dksX1_hourWhy_0 0 rfl rfl)
theorem dX1_hourWhy_1 : decode cX1_hourWhy 1 = .ok (.iload_n 1, 1) := dk_27 (dk_at dksX1_hourWhy_0 1 rfl rfl)
theorem dX1_hourWhy_2 : decode cX1_hourWhy 2 = .ok (.invokevirtual 232, 3) := dk_182 0 232 (dk_at dksX1_hourWhy_0 2 rfl rfl)
theorem dX1_hourWhy_5 : decode cX1_hourWhy 5 = .ok (.ifCond .ne 7, 3) := dk_154 0 7 (dk_at dksX1_hourWhy_0 5 rfl rfl)
theorem dX1_hourWhy_8 : decode cX1_hourWhy 8 = .ok (.iconst 1, 1) := dk_4 (dk_at dksX1_hourWhy_0 8 rfl rfl)
theorem dX1_hourWhy_9 : decode cX1_hourWhy 9 = .ok (.goto 16, 3) := dk_167 0 16 (dk_at dksX1_hourWhy_0 9 rfl rfl)
theorem dX1_hourWhy_12 : decode cX1_hourWhy 12 = .ok (.aload_n 0, 1) := dk_42 (dk_at dksX1_hourWhy_0 12 rfl rfl)
theorem dX1_hourWhy_13 : decode cX1_hourWhy 13 = .ok (.iload_n 2, 1) := dk_28 (dk_at dksX1_hourWhy_0 13 rfl rfl)
theorem dX1_hourWhy_14 : decode cX1_hourWhy 14 = .ok (.invokevirtual 244, 3) := dk_182 0 244 (dk_at dksX1_hourWhy_0 14 rfl rfl)
theorem dX1_hourWhy_17 : decode cX1_hourWhy 17 = .ok (.ifCond .eq 7, 3) := dk_153 0 7 (dk_at dksX1_hourWhy_0 17 rfl rfl)
theorem dX1_hourWhy_20 : decode cX1_hourWhy 20 = .ok (.iconst 0, 1) := dk_3 (dk_at dksX1_hourWhy_0 20 rfl rfl)
theorem dX1_hourWhy_21 : decode cX1_hourWhy 21 = .ok (.goto 4, 3) := dk_167 0 4 (dk_at dksX1_hourWhy_0 21 rfl rfl)
theorem dX1_hourWhy_24 : decode cX1_hourWhy 24 = .ok (.iconst 2, 1) := dk_5 (dk_at dksX1_hourWhy_1 0 rfl rfl)
theorem dX1_hourWhy_25 : decode cX1_hourWhy 25 = .ok (.ireturn, 1) := dk_172 (dk_at dksX1_hourWhy_1 1 rfl rfl)
def dkwX1_couldBe_2 : List UInt8 := [50, 21, 5, 28, 182, 0, 247, 120, 128, 62, 132, 4, 1, 167, 255, 200, 29, 172]
abbrev dktX1_couldBe_2 : List UInt8 := dkwX1_couldBe_2 ++ []
def dkwX1_couldBe_1 : List UInt8 := [46, 27, 182, 1, 2, 54, 5, 21, 5, 16, 254, 159, 0, 23, 29, 4, 42, 180, 0, 104, 180, 0, 235, 27]
abbrev dktX1_couldBe_1 : List UInt8 := dkwX1_couldBe_1 ++ dktX1_couldBe_2
def dkwX1_couldBe_0 : List UInt8 := [3, 62, 3, 54, 4, 21, 4, 42, 180, 1, 31, 162, 0, 53, 42, 180, 0, 104, 42, 180, 0, 68, 21, 4]
abbrev dktX1_couldBe_0 : List UInt8 := dkwX1_couldBe_0 ++ dktX1_couldBe_1
theorem dksX1_couldBe_0 : cX1_couldBe.data.toList.drop 0 = dktX1_couldBe_0 := by decide +kernel
theorem dksX1_couldBe_1 : cX1_couldBe.data.toList.drop 24 = dktX1_couldBe_1 := dk_seg dksX1_couldBe_0 24 rfl rfl
theorem dksX1_couldBe_2 : cX1_couldBe.data.toList.drop 48 = dktX1_couldBe_2 := dk_seg dksX1_couldBe_1 24 rfl rfl
theorem dX1_couldBe_0 : decode cX1_couldBe 0 = .ok (.iconst 0, 1) := dk_3 (dk_at dksX1_couldBe_0 0 rfl rfl)
theorem dX1_couldBe_1 : decode cX1_couldBe 1 = .ok (.istore_n 3, 1) := dk_62 (dk_at dksX1_couldBe_0 1 rfl rfl)
theorem dX1_couldBe_2 : decode cX1_couldBe 2 = .ok (.iconst 0, 1) := dk_3 (dk_at dksX1_couldBe_0 2 rfl rfl)
theorem dX1_couldBe_3 : decode cX1_couldBe 3 = .ok (.istore 4, 2) := dk_54 4 (dk_at dksX1_couldBe_0 3 rfl rfl)
theorem dX1_couldBe_5 : decode cX1_couldBe 5 = .ok (.iload 4, 2) := dk_21 4 (dk_at dksX1_couldBe_0 5 rfl rfl)
theorem dX1_couldBe_7 : decode cX1_couldBe 7 = .ok (.aload_n 0, 1) := dk_42 (dk_at dksX1_couldBe_0 7 rfl rfl)
theorem dX1_couldBe_8 : decode cX1_couldBe 8 = .ok (.getfield 287, 3) := dk_180 1 31 (dk_at dksX1_couldBe_0 8 rfl rfl)
theorem dX1_couldBe_11 : decode cX1_couldBe 11 = .ok (.if_icmp .ge 53, 3) := dk_162 0 53 (dk_at dksX1_couldBe_0 11 rfl rfl)
theorem dX1_couldBe_14 : decode cX1_couldBe 14 = .ok (.aload_n 0, 1) := dk_42 (dk_at dksX1_couldBe_0 14 rfl rfl)
theorem dX1_couldBe_15 : decode cX1_couldBe 15 = .ok (.getfield 104, 3) := dk_180 0 104 (dk_at dksX1_couldBe_0 15 rfl rfl)
theorem dX1_couldBe_18 : decode cX1_couldBe 18 = .ok (.aload_n 0, 1) := dk_42 (dk_at dksX1_couldBe_0 18 rfl rfl)
theorem dX1_couldBe_19 : decode cX1_couldBe 19 = .ok (.getfield 68, 3) := dk_180 0 68 (dk_at dksX1_couldBe_0 19 rfl rfl)
theorem dX1_couldBe_22 : decode cX1_couldBe 22 = .ok (.iload 4, 2) := dk_21 4 (dk_at dksX1_couldBe_0 22 rfl rfl)
theorem dX1_couldBe_24 : decode cX1_couldBe 24 = .ok (.iaload, 1) := dk_46 (dk_at dksX1_couldBe_1 0 rfl rfl)
theorem dX1_couldBe_25 : decode cX1_couldBe 25 = .ok (.iload_n 1, 1) := dk_27 (dk_at dksX1_couldBe_1 1 rfl rfl)
theorem dX1_couldBe_26 : decode cX1_couldBe 26 = .ok (.invokevirtual 258, 3) := dk_182 1 2 (dk_at dksX1_couldBe_1 2 rfl rfl)
theorem dX1_couldBe_29 : decode cX1_couldBe 29 = .ok (.istore 5, 2) := dk_54 5 (dk_at dksX1_couldBe_1 5 rfl rfl)
theorem dX1_couldBe_31 : decode cX1_couldBe 31 = .ok (.iload 5, 2) := dk_21 5 (dk_at dksX1_couldBe_1 7 rfl rfl)
theorem dX1_couldBe_33 : decode cX1_couldBe 33 = .ok (.bipush (-2), 2) := dk_16 254 (dk_at dksX1_couldBe_1 9 rfl rfl)
theorem dX1_couldBe_35 : decode cX1_couldBe 35 = .ok (.if_icmp .eq 23, 3) := dk_159 0 23 (dk_at dksX1_couldBe_1 11 rfl rfl)
theorem dX1_couldBe_38 : decode cX1_couldBe 38 = .ok (.iload_n 3, 1) := dk_29 (dk_at dksX1_couldBe_1 14 rfl rfl)
theorem dX1_couldBe_39 : decode cX1_couldBe 39 = .ok (.iconst 1, 1) := dk_4 (dk_at dksX1_couldBe_1 15 rfl rfl)
theorem dX1_couldBe_40 : decode cX1_couldBe 40 = .ok (.aload_n 0, 1) := dk_42 (dk_at dksX1_couldBe_1 16 rfl rfl)
theorem dX1_couldBe_41 : decode cX1_couldBe 41 = .ok (.getfield 104, 3) := dk_180 0 104 (dk_at dksX1_couldBe_1 17 rfl rfl)
theorem dX1_couldBe_44 : decode cX1_couldBe 44 = .ok (.getfield 235, 3) := dk_180 0 235 (dk_at dksX1_couldBe_1 20 rfl rfl)
theorem dX1_couldBe_47 : decode cX1_couldBe 47 = .ok (.iload_n 1, 1) := dk_27 (dk_at dksX1_couldBe_1 23 rfl rfl)
theorem dX1_couldBe_48 : decode cX1_couldBe 48 = .ok (.aaload, 1) := dk_50 (dk_at dksX1_couldBe_2 0 rfl rfl)
theorem dX1_couldBe_49 : decode cX1_couldBe 49 = .ok (.iload 5, 2) := dk_21 5 (dk_at dksX1_couldBe_2 1 rfl rfl)
theorem dX1_couldBe_51 : decode cX1_couldBe 51 = .ok (.iload_n 2, 1) := dk_28 (dk_at dksX1_couldBe_2 3 rfl rfl)
theorem dX1_couldBe_52 : decode cX1_couldBe 52 = .ok (.invokevirtual 247, 3) := dk_182 0 247 (dk_at dksX1_couldBe_2 4 rfl rfl)
theorem dX1_couldBe_55 : decode cX1_couldBe 55 = .ok (.ishl, 1) := dk_120 (dk_at dksX1_couldBe_2 7 rfl rfl)
theorem dX1_couldBe_56 : decode cX1_couldBe 56 = .ok (.ior, 1) := dk_128 (dk_at dksX1_couldBe_2 8 rfl rfl)
theorem dX1_couldBe_57 : decode cX1_couldBe 57 = .ok (.istore_n 3, 1) := dk_62 (dk_at dksX1_couldBe_2 9 rfl rfl)
theorem dX1_couldBe_58 : decode cX1_couldBe 58 = .ok (.iinc 4 1, 3) := dk_132 4 1 (dk_at dksX1_couldBe_2 10 rfl rfl)
theorem dX1_couldBe_61 : decode cX1_couldBe 61 = .ok (.goto (-56), 3) := dk_167 255 200 (dk_at dksX1_couldBe_2 13 rfl rfl)
theorem dX1_couldBe_64 : decode cX1_couldBe 64 = .ok (.iload_n 3, 1) := dk_29 (dk_at dksX1_couldBe_2 16 rfl rfl)
theorem dX1_couldBe_65 : decode cX1_couldBe 65 = .ok (.ireturn, 1) := dk_172 (dk_at dksX1_couldBe_2 17 rfl rfl)
def dkwX1_could_1 : List UInt8 := [182, 1, 40, 42, 27, 28, 182, 1, 46, 172]
abbrev dktX1_could_1 : List UInt8 := dkwX1_could_1 ++ []
def dkwX1_could_0 : List UInt8 := [42, 182, 0, 80, 42, 27, 28, 182, 1, 43, 62, 29, 153, 0, 9, 42, 29, 182, 0, 94, 172, 42]
abbrev dktX1_could_0 : List UInt8 := dkwX1_could_0 ++ dktX1_could_1
theorem dksX1_could_0 : cX1_could.data.toList.drop 0 = dktX1_could_0 := by decide +kernel
theorem dksX1_could_1 : cX1_could.data.toList.drop 22 = dktX1_could_1 := dk_seg dksX1_could_0 22 rfl rfl
theorem dX1_could_0 : decode cX1_could 0 = .ok (.aload_n 0, 1) := dk_42 (dk_at dksX1_could_0 0 rfl rfl)
theorem dX1_could_1 : decode cX1_could 1 = .ok (.invokevirtual 80, 3) := dk_182 0 80 (dk_at dksX1_could_0 1 rfl rfl)
theorem dX1_could_4 : decode cX1_could 4 = .ok (.aload_n 0, 1) := dk_42 (dk_at dksX1_could_0 4 rfl rfl)
theorem dX1_could_5 : decode cX1_could 5 = .ok (.iload_n 1, 1) := dk_27 (dk_at dksX1_could_0 5 rfl rfl)
theorem dX1_could_6 : decode cX1_could 6 = .ok (.iload_n 2, 1) := dk_28 (dk_at dksX1_could_0 6 rfl rfl)
theorem dX1_could_7 : decode cX1_could 7 = .ok (.invokevirtual 299, 3) := dk_182 1 43 (dk_at dksX1_could_0 7 rfl rfl)
theorem dX1_could_10 : decode cX1_could 10 = .ok (.istore_n 3, 1) := dk_62 (dk_at dksX1_could_0 10 rfl rfl)
theorem dX1_could_11 : decode cX1_could 11 = .ok (.iload_n 3, 1) := dk_29 (dk_at dksX1_could_0 11 rfl rfl)
theorem dX1_could_12 : decode cX1_could 12 = .ok (.ifCond .eq 9, 3) := dk_153 0 9 (dk_at dksX1_could_0 12 rfl rfl)
theorem dX1_could_15 : decode cX1_could 15 = .ok (.aload_n 0, 1) := dk_42 (dk_at dksX1_could_0 15 rfl rfl)
theorem dX1_could_16 : decode cX1_could 16 = .ok (.iload_n 3, 1) := dk_29 (dk_at dksX1_could_0 16 rfl rfl)
theorem dX1_could_17 : decode cX1_could 17 = .ok (.invokevirtual 94, 3) := dk_182 0 94 (dk_at dksX1_could_0 17 rfl rfl)
theorem dX1_could_20 : decode cX1_could 20 = .ok (.ireturn, 1) := dk_172 (dk_at dksX1_could_0 20 rfl rfl)
theorem dX1_could_21 : decode cX1_could 21 = .ok (.aload_n 0, 1) := dk_42 (dk_at dksX1_could_0 21 rfl rfl)
theorem dX1_could_22 : decode cX1_could 22 = .ok (.invokevirtual 296, 3) := dk_182 1 40 (dk_at dksX1_could_1 0 rfl rfl)
theorem dX1_could_25 : decode cX1_could 25 = .ok (.aload_n 0, 1) := dk_42 (dk_at dksX1_could_1 3 rfl rfl)
theorem dX1_could_26 : decode cX1_could 26 = .ok (.iload_n 1, 1) := dk_27 (dk_at dksX1_could_1 4 rfl rfl)
theorem dX1_could_27 : decode cX1_could 27 = .ok (.iload_n 2, 1) := dk_28 (dk_at dksX1_could_1 5 rfl rfl)
theorem dX1_could_28 : decode cX1_could 28 = .ok (.invokevirtual 302, 3) := dk_182 1 46 (dk_at dksX1_could_1 6 rfl rfl)
theorem dX1_could_31 : decode cX1_could 31 = .ok (.ireturn, 1) := dk_172 (dk_at dksX1_could_1 9 rfl rfl)
def dkwX7_refusesPerson_1 : List UInt8 := [5, 172]
abbrev dktX7_refusesPerson_1 : List UInt8 := dkwX7_refusesPerson_1 ++ []
def dkwX7_refusesPerson_0 : List UInt8 := [42, 27, 182, 1, 250, 154, 0, 7, 4, 167, 0, 16, 42, 28, 182, 1, 253, 153, 0, 7, 3, 167, 0, 4]
abbrev dktX7_refusesPerson_0 : List UInt8 := dkwX7_refusesPerson_0 ++ dktX7_refusesPerson_1
theorem dksX7_refusesPerson_0 : cX7_refusesPerson.data.toList.drop 0 = dktX7_refusesPerson_0 := by decide +kernel
theorem dksX7_refusesPerson_1 : cX7_refusesPerson.data.toList.drop 24 = dktX7_refusesPerson_1 := dk_seg dksX7_refusesPerson_0 24 rfl rfl
theorem dX7_refusesPerson_0 : decode cX7_refusesPerson 0 = .ok (.aload_n 0, 1) := dk_42 (dk_at dksX7_refusesPerson_0 0 rfl rfl)
theorem dX7_refusesPerson_1 : decode cX7_refusesPerson 1 = .ok (.iload_n 1, 1) := dk_27 (dk_at dksX7_refusesPerson_0 1 rfl rfl)
theorem dX7_refusesPerson_2 : decode cX7_refusesPerson 2 = .ok (.invokevirtual 506, 3) := dk_182 1 250 (dk_at dksX7_refusesPerson_0 2 rfl rfl)
theorem dX7_refusesPerson_5 : decode cX7_refusesPerson 5 = .ok (.ifCond .ne 7, 3) := dk_154 0 7 (dk_at dksX7_refusesPerson_0 5 rfl rfl)
theorem dX7_refusesPerson_8 : decode cX7_refusesPerson 8 = .ok (.iconst 1, 1) := dk_4 (dk_at dksX7_refusesPerson_0 8 rfl rfl)
theorem dX7_refusesPerson_9 : decode cX7_refusesPerson 9 = .ok (.goto 16, 3) := dk_167 0 16 (dk_at dksX7_refusesPerson_0 9 rfl rfl)
theorem dX7_refusesPerson_12 : decode cX7_refusesPerson 12 = .ok (.aload_n 0, 1) := dk_42 (dk_at dksX7_refusesPerson_0 12 rfl rfl)
theorem dX7_refusesPerson_13 : decode cX7_refusesPerson 13 = .ok (.iload_n 2, 1) := dk_28 (dk_at dksX7_refusesPerson_0 13 rfl rfl)
theorem dX7_refusesPerson_14 : decode cX7_refusesPerson 14 = .ok (.invokevirtual 509, 3) := dk_182 1 253 (dk_at dksX7_refusesPerson_0 14 rfl rfl)
theorem dX7_refusesPerson_17 : decode cX7_refusesPerson 17 = .ok (.ifCond .eq 7, 3) := dk_153 0 7 (dk_at dksX7_refusesPerson_0 17 rfl rfl)
theorem dX7_refusesPerson_20 : decode cX7_refusesPerson 20 = .ok (.iconst 0, 1) := dk_3 (dk_at dksX7_refusesPerson_0 20 rfl rfl)
theorem dX7_refusesPerson_21 : decode cX7_refusesPerson 21 = .ok (.goto 4, 3) := dk_167 0 4 (dk_at dksX7_refusesPerson_0 21 rfl rfl)
theorem dX7_refusesPerson_24 : decode cX7_refusesPerson 24 = .ok (.iconst 2, 1) := dk_5 (dk_at dksX7_refusesPerson_1 0 rfl rfl)
theorem dX7_refusesPerson_25 : decode cX7_refusesPerson 25 = .ok (.ireturn, 1) := dk_172 (dk_at dksX7_refusesPerson_1 1 rfl rfl)
def dkwX7_couldBe_2 : List UInt8 := [180, 1, 186, 21, 5, 27, 28, 182, 1, 197, 120, 128, 54, 4, 132, 5, 1, 167, 255, 201, 21, 4, 172]
abbrev dktX7_couldBe_2 : List UInt8 := dkwX7_couldBe_2 ++ []
def dkwX7_couldBe_1 : List UInt8 := [180, 1, 67, 27, 46, 158, 0, 31, 42, 21, 5, 29, 182, 2, 17, 153, 0, 21, 21, 4, 4, 42]
abbrev dktX7_couldBe_1 : List UInt8 := dkwX7_couldBe_1 ++ dktX7_couldBe_2
def dkwX7_couldBe_0 : List UInt8 := [3, 54, 4, 3, 54, 5, 21, 5, 42, 180, 1, 186, 182, 1, 194, 162, 0, 49, 42, 180, 1, 186]
abbrev dktX7_couldBe_0 : List UInt8 := dkwX7_couldBe_0 ++ dktX7_couldBe_1
theorem dksX7_couldBe_0 : cX7_couldBe.data.toList.drop 0 = dktX7_couldBe_0 := by decide +kernel
theorem dksX7_couldBe_1 : cX7_couldBe.data.toList.drop 22 = dktX7_couldBe_1 := dk_seg dksX7_couldBe_0 22 rfl rfl
theorem dksX7_couldBe_2 : cX7_couldBe.data.toList.drop 44 = dktX7_couldBe_2 := dk_seg dksX7_couldBe_1 22 rfl rfl
theorem dX7_couldBe_0 : decode cX7_couldBe 0 = .ok (.iconst 0, 1) := dk_3 (dk_at dksX7_couldBe_0 0 rfl rfl)
theorem dX7_couldBe_1 : decode cX7_couldBe 1 = .ok (.istore 4, 2) := dk_54 4 (dk_at dksX7_couldBe_0 1 rfl rfl)
theorem dX7_couldBe_3 : decode cX7_couldBe 3 = .ok (.iconst 0, 1) := dk_3 (dk_at dksX7_couldBe_0 3 rfl rfl)
theorem dX7_couldBe_4 : decode cX7_couldBe 4 = .ok (.istore 5, 2) := dk_54 5 (dk_at dksX7_couldBe_0 4 rfl rfl)
theorem dX7_couldBe_6 : decode cX7_couldBe 6 = .ok (.iload 5, 2) := dk_21 5 (dk_at dksX7_couldBe_0 6 rfl rfl)
theorem dX7_couldBe_8 : decode cX7_couldBe 8 = .ok (.aload_n 0, 1) := dk_42 (dk_at dksX7_couldBe_0 8 rfl rfl)
theorem dX7_couldBe_9 : decode cX7_couldBe 9 = .ok (.getfield 442, 3) := dk_180 1 186 (dk_at dksX7_couldBe_0 9 rfl rfl)
theorem dX7_couldBe_12 : decode cX7_couldBe 12 = .ok (.invokevirtual 450, 3) := dk_182 1 194 (dk_at dksX7_couldBe_0 12 rfl rfl)
theorem dX7_couldBe_15 : decode cX7_couldBe 15 = .ok (.if_icmp .ge 49, 3) := dk_162 0 49 (dk_at dksX7_couldBe_0 15 rfl rfl)
theorem dX7_couldBe_18 : decode cX7_couldBe 18 = .ok (.aload_n 0, 1) := dk_42 (dk_at dksX7_couldBe_0 18 rfl rfl)
theorem dX7_couldBe_19 : decode cX7_couldBe 19 = .ok (.getfield 442, 3) := dk_180 1 186 (dk_at dksX7_couldBe_0 19 rfl rfl)
theorem dX7_couldBe_22 : decode cX7_couldBe 22 = .ok (.getfield 323, 3) := dk_180 1 67 (dk_at dksX7_couldBe_1 0 rfl rfl)
theorem dX7_couldBe_25 : decode cX7_couldBe 25 = .ok (.iload_n 1, 1) := dk_27 (dk_at dksX7_couldBe_1 3 rfl rfl)
theorem dX7_couldBe_26 : decode cX7_couldBe 26 = .ok (.iaload, 1) := dk_46 (dk_at dksX7_couldBe_1 4 rfl rfl)
theorem dX7_couldBe_27 : decode cX7_couldBe 27 = .ok (.ifCond .le 31, 3) := dk_158 0 31 (dk_at dksX7_couldBe_1 5 rfl rfl)
theorem dX7_couldBe_30 : decode cX7_couldBe 30 = .ok (.aload_n 0, 1) := dk_42 (dk_at dksX7_couldBe_1 8 rfl rfl)
theorem dX7_couldBe_31 : decode cX7_couldBe 31 = .ok (.iload 5, 2) := dk_21 5 (dk_at dksX7_couldBe_1 9 rfl rfl)
theorem dX7_couldBe_33 : decode cX7_couldBe 33 = .ok (.iload_n 3, 1) := dk_29 (dk_at dksX7_couldBe_1 11 rfl rfl)
theorem dX7_couldBe_34 : decode cX7_couldBe 34 = .ok (.invokevirtual 529, 3) := dk_182 2 17 (dk_at dksX7_couldBe_1 12 rfl rfl)
theorem dX7_couldBe_37 : decode cX7_couldBe 37 = .ok (.ifCond .eq 21, 3) := dk_153 0 21 (dk_at dksX7_couldBe_1 15 rfl rfl)
theorem dX7_couldBe_40 : decode cX7_couldBe 40 = .ok (.iload 4, 2) := dk_21 4 (dk_at dksX7_couldBe_1 18 rfl rfl)
theorem dX7_couldBe_42 : decode cX7_couldBe 42 = .ok (.iconst 1, 1) := dk_4 (dk_at dksX7_couldBe_1 20 rfl rfl)
theorem dX7_couldBe_43 : decode cX7_couldBe 43 = .ok (.aload_n 0, 1) := dk_42 (dk_at dksX7_couldBe_1 21 rfl rfl)
theorem dX7_couldBe_44 : decode cX7_couldBe 44 = .ok (.getfield 442, 3) := dk_180 1 186 (dk_at dksX7_couldBe_2 0 rfl rfl)
theorem dX7_couldBe_47 : decode cX7_couldBe 47 = .ok (.iload 5, 2) := dk_21 5 (dk_at dksX7_couldBe_2 3 rfl rfl)
theorem dX7_couldBe_49 : decode cX7_couldBe 49 = .ok (.iload_n 1, 1) := dk_27 (dk_at dksX7_couldBe_2 5 rfl rfl)
theorem dX7_couldBe_50 : decode cX7_couldBe 50 = .ok (.iload_n 2, 1) := dk_28 (dk_at dksX7_couldBe_2 6 rfl rfl)
theorem dX7_couldBe_51 : decode cX7_couldBe 51 = .ok (.invokevirtual 453, 3) := dk_182 1 197 (dk_at dksX7_couldBe_2 7 rfl rfl)
theorem dX7_couldBe_54 : decode cX7_couldBe 54 = .ok (.ishl, 1) := dk_120 (dk_at dksX7_couldBe_2 10 rfl rfl)
theorem dX7_couldBe_55 : decode cX7_couldBe 55 = .ok (.ior, 1) := dk_128 (dk_at dksX7_couldBe_2 11 rfl rfl)
theorem dX7_couldBe_56 : decode cX7_couldBe 56 = .ok (.istore 4, 2) := dk_54 4 (dk_at dksX7_couldBe_2 12 rfl rfl)
theorem dX7_couldBe_58 : decode cX7_couldBe 58 = .ok (.iinc 5 1, 3) := dk_132 5 1 (dk_at dksX7_couldBe_2 14 rfl rfl)
theorem dX7_couldBe_61 : decode cX7_couldBe 61 = .ok (.goto (-55), 3) := dk_167 255 201 (dk_at dksX7_couldBe_2 17 rfl rfl)
theorem dX7_couldBe_64 : decode cX7_couldBe 64 = .ok (.iload 4, 2) := dk_21 4 (dk_at dksX7_couldBe_2 20 rfl rfl)
theorem dX7_couldBe_66 : decode cX7_couldBe 66 = .ok (.ireturn, 1) := dk_172 (dk_at dksX7_couldBe_2 22 rfl rfl)
def dkwX7_could_1 : List UInt8 := [182, 2, 11, 42, 42, 27, 28, 42, 182, 2, 14, 182, 2, 23, 182, 0, 76, 172]
abbrev dktX7_could_1 : List UInt8 := dkwX7_could_1 ++ []
def dkwX7_could_0 : List UInt8 := [42, 3, 181, 0, 66, 42, 27, 28, 182, 2, 20, 62, 29, 158, 0, 9, 42, 29, 182, 0, 72, 172, 42]
abbrev dktX7_could_0 : List UInt8 := dkwX7_could_0 ++ dktX7_could_1
theorem dksX7_could_0 : cX7_could.data.toList.drop 0 = dktX7_could_0 := by decide +kernel
theorem dksX7_could_1 : cX7_could.data.toList.drop 23 = dktX7_could_1 := dk_seg dksX7_could_0 23 rfl rfl
theorem dX7_could_0 : decode cX7_could 0 = .ok (.aload_n 0, 1) := dk_42 (dk_at dksX7_could_0 0 rfl rfl)
theorem dX7_could_1 : decode cX7_could 1 = .ok (.iconst 0, 1) := dk_3 (dk_at dksX7_could_0 1 rfl rfl)
theorem dX7_could_2 : decode cX7_could 2 = .ok (.putfield 66, 3) := dk_181 0 66 (dk_at dksX7_could_0 2 rfl rfl)
theorem dX7_could_5 : decode cX7_could 5 = .ok (.aload_n 0, 1) := dk_42 (dk_at dksX7_could_0 5 rfl rfl)
theorem dX7_could_6 : decode cX7_could 6 = .ok (.iload_n 1, 1) := dk_27 (dk_at dksX7_could_0 6 rfl rfl)
theorem dX7_could_7 : decode cX7_could 7 = .ok (.iload_n 2, 1) := dk_28 (dk_at dksX7_could_0 7 rfl rfl)
theorem dX7_could_8 : decode cX7_could 8 = .ok (.invokevirtual 532, 3) := dk_182 2 20 (dk_at dksX7_could_0 8 rfl rfl)
theorem dX7_could_11 : decode cX7_could 11 = .ok (.istore_n 3, 1) := dk_62 (dk_at dksX7_could_0 11 rfl rfl)
theorem dX7_could_12 : decode cX7_could 12 = .ok (.iload_n 3, 1) := dk_29 (dk_at dksX7_could_0 12 rfl rfl)
theorem dX7_could_13 : decode cX7_could 13 = .ok (.ifCond .le 9, 3) := dk_158 0 9 (dk_at dksX7_could_0 13 rfl rfl)
theorem dX7_could_16 : decode cX7_could 16 = .ok (.aload_n 0, 1) := dk_42 (dk_at dksX7_could_0 16 rfl rfl)
theorem dX7_could_17 : decode cX7_could 17 = .ok (.iload_n 3, 1) := dk_29 (dk_at dksX7_could_0 17 rfl rfl)
theorem dX7_could_18 : decode cX7_could 18 = .ok (.invokevirtual 72, 3) := dk_182 0 72 (dk_at dksX7_could_0 18 rfl rfl)
theorem dX7_could_21 : decode cX7_could 21 = .ok (.ireturn, 1) := dk_172 (dk_at dksX7_could_0 21 rfl rfl)
theorem dX7_could_22 : decode cX7_could 22 = .ok (.aload_n 0, 1) := dk_42 (dk_at dksX7_could_0 22 rfl rfl)
theorem dX7_could_23 : decode cX7_could 23 = .ok (.invokevirtual 523, 3) := dk_182 2 11 (dk_at dksX7_could_1 0 rfl rfl)
theorem dX7_could_26 : decode cX7_could 26 = .ok (.aload_n 0, 1) := dk_42 (dk_at dksX7_could_1 3 rfl rfl)
theorem dX7_could_27 : decode cX7_could 27 = .ok (.aload_n 0, 1) := dk_42 (dk_at dksX7_could_1 4 rfl rfl)
theorem dX7_could_28 : decode cX7_could 28 = .ok (.iload_n 1, 1) := dk_27 (dk_at dksX7_could_1 5 rfl rfl)
theorem dX7_could_29 : decode cX7_could 29 = .ok (.iload_n 2, 1) := dk_28 (dk_at dksX7_could_1 6 rfl rfl)
theorem dX7_could_30 : decode cX7_could 30 = .ok (.aload_n 0, 1) := dk_42 (dk_at dksX7_could_1 7 rfl rfl)
theorem dX7_could_31 : decode cX7_could 31 = .ok (.invokevirtual 526, 3) := dk_182 2 14 (dk_at dksX7_could_1 8 rfl rfl)
theorem dX7_could_34 : decode cX7_could 34 = .ok (.invokevirtual 535, 3) := dk_182 2 23 (dk_at dksX7_could_1 11 rfl rfl)
theorem dX7_could_37 : decode cX7_could 37 = .ok (.invokevirtual 76, 3) := dk_182 0 76 (dk_at dksX7_could_1 14 rfl rfl)
theorem dX7_could_40 : decode cX7_could 40 = .ok (.ireturn, 1) := dk_172 (dk_at dksX7_could_1 17 rfl rfl)
def dkwX1_surely_2 : List UInt8 := [162, 0, 21, 21, 4, 4, 21, 5, 120, 160, 0, 6, 21, 5, 172, 132, 5, 1, 167, 255, 229, 16, 254, 172]
abbrev dktX1_surely_2 : List UInt8 := dkwX1_surely_2 ++ []
def dkwX1_surely_1 : List UInt8 := [182, 1, 40, 42, 27, 28, 182, 1, 46, 54, 4, 3, 54, 5, 21, 5, 42, 180, 0, 104, 180, 0, 130]
abbrev dktX1_surely_1 : List UInt8 := dkwX1_surely_1 ++ dktX1_surely_2
def dkwX1_surely_0 : List UInt8 := [42, 182, 0, 80, 42, 27, 28, 182, 1, 43, 62, 29, 153, 0, 9, 42, 29, 182, 0, 94, 172, 42]
abbrev dktX1_surely_0 : List UInt8 := dkwX1_surely_0 ++ dktX1_surely_1
theorem dksX1_surely_0 : cX1_surely.data.toList.drop 0 = dktX1_surely_0 := by decide +kernel
theorem dksX1_surely_1 : cX1_surely.data.toList.drop 22 = dktX1_surely_1 := dk_seg dksX1_surely_0 22 rfl rfl
theorem dksX1_surely_2 : cX1_surely.data.toList.drop 45 = dktX1_surely_2 := dk_seg dksX1_surely_1 23 rfl rfl
theorem dX1_surely_0 : decode cX1_surely 0 = .ok (.aload_n 0, 1) := dk_42 (dk_at dksX1_surely_0 0 rfl rfl)
theorem dX1_surely_1 : decode cX1_surely 1 = .ok (.invokevirtual 80, 3) := dk_182 0 80 (dk_at dksX1_surely_0 1 rfl rfl)
theorem dX1_surely_4 : decode cX1_surely 4 = .ok (.aload_n 0, 1) := dk_42 (dk_at dksX1_surely_0 4 rfl rfl)
theorem dX1_surely_5 : decode cX1_surely 5 = .ok (.iload_n 1, 1) := dk_27 (dk_at dksX1_surely_0 5 rfl rfl)
theorem dX1_surely_6 : decode cX1_surely 6 = .ok (.iload_n 2, 1) := dk_28 (dk_at dksX1_surely_0 6 rfl rfl)
theorem dX1_surely_7 : decode cX1_surely 7 = .ok (.invokevirtual 299, 3) := dk_182 1 43 (dk_at dksX1_surely_0 7 rfl rfl)
theorem dX1_surely_10 : decode cX1_surely 10 = .ok (.istore_n 3, 1) := dk_62 (dk_at dksX1_surely_0 10 rfl rfl)
theorem dX1_surely_11 : decode cX1_surely 11 = .ok (.iload_n 3, 1) := dk_29 (dk_at dksX1_surely_0 11 rfl rfl)
theorem dX1_surely_12 : decode cX1_surely 12 = .ok (.ifCond .eq 9, 3) := dk_153 0 9 (dk_at dksX1_surely_0 12 rfl rfl)
theorem dX1_surely_15 : decode cX1_surely 15 = .ok (.aload_n 0, 1) := dk_42 (dk_at dksX1_surely_0 15 rfl rfl)
theorem dX1_surely_16 : decode cX1_surely 16 = .ok (.iload_n 3, 1) := dk_29 (dk_at dksX1_surely_0 16 rfl rfl)
theorem dX1_surely_17 : decode cX1_surely 17 = .ok (.invokevirtual 94, 3) := dk_182 0 94 (dk_at dksX1_surely_0 17 rfl rfl)
theorem dX1_surely_20 : decode cX1_surely 20 = .ok (.ireturn, 1) := dk_172 (dk_at dksX1_surely_0 20 rfl rfl)
theorem dX1_surely_21 : decode cX1_surely 21 = .ok (.aload_n 0, 1) := dk_42 (dk_at dksX1_surely_0 21 rfl rfl)
theorem dX1_surely_22 : decode cX1_surely 22 = .ok (.invokevirtual 296, 3) := dk_182 1 40 (dk_at dksX1_surely_1 0 rfl rfl)
theorem dX1_surely_25 : decode cX1_surely 25 = .ok (.aload_n 0, 1) := dk_42 (dk_at dksX1_surely_1 3 rfl rfl)
theorem dX1_surely_26 : decode cX1_surely 26 = .ok (.iload_n 1, 1) := dk_27 (dk_at dksX1_surely_1 4 rfl rfl)
theorem dX1_surely_27 : decode cX1_surely 27 = .ok (.iload_n 2, 1) := dk_28 (dk_at dksX1_surely_1 5 rfl rfl)
theorem dX1_surely_28 : decode cX1_surely 28 = .ok (.invokevirtual 302, 3) := dk_182 1 46 (dk_at dksX1_surely_1 6 rfl rfl)
theorem dX1_surely_31 : decode cX1_surely 31 = .ok (.istore 4, 2) := dk_54 4 (dk_at dksX1_surely_1 9 rfl rfl)
theorem dX1_surely_33 : decode cX1_surely 33 = .ok (.iconst 0, 1) := dk_3 (dk_at dksX1_surely_1 11 rfl rfl)
theorem dX1_surely_34 : decode cX1_surely 34 = .ok (.istore 5, 2) := dk_54 5 (dk_at dksX1_surely_1 12 rfl rfl)
theorem dX1_surely_36 : decode cX1_surely 36 = .ok (.iload 5, 2) := dk_21 5 (dk_at dksX1_surely_1 14 rfl rfl)
theorem dX1_surely_38 : decode cX1_surely 38 = .ok (.aload_n 0, 1) := dk_42 (dk_at dksX1_surely_1 16 rfl rfl)
theorem dX1_surely_39 : decode cX1_surely 39 = .ok (.getfield 104, 3) := dk_180 0 104 (dk_at dksX1_surely_1 17 rfl rfl)
theorem dX1_surely_42 : decode cX1_surely 42 = .ok (.getfield 130, 3) := dk_180 0 130 (dk_at dksX1_surely_1 20 rfl rfl)
theorem dX1_surely_45 : decode cX1_surely 45 = .ok (.if_icmp .ge 21, 3) := dk_162 0 21 (dk_at dksX1_surely_2 0 rfl rfl)
theorem dX1_surely_48 : decode cX1_surely 48 = .ok (.iload 4, 2) := dk_21 4 (dk_at dksX1_surely_2 3 rfl rfl)
theorem dX1_surely_50 : decode cX1_surely 50 = .ok (.iconst 1, 1) := dk_4 (dk_at dksX1_surely_2 5 rfl rfl)
theorem dX1_surely_51 : decode cX1_surely 51 = .ok (.iload 5, 2) := dk_21 5 (dk_at dksX1_surely_2 6 rfl rfl)
theorem dX1_surely_53 : decode cX1_surely 53 = .ok (.ishl, 1) := dk_120 (dk_at dksX1_surely_2 8 rfl rfl)
theorem dX1_surely_54 : decode cX1_surely 54 = .ok (.if_icmp .ne 6, 3) := dk_160 0 6 (dk_at dksX1_surely_2 9 rfl rfl)
theorem dX1_surely_57 : decode cX1_surely 57 = .ok (.iload 5, 2) := dk_21 5 (dk_at dksX1_surely_2 12 rfl rfl)
theorem dX1_surely_59 : decode cX1_surely 59 = .ok (.ireturn, 1) := dk_172 (dk_at dksX1_surely_2 14 rfl rfl)
theorem dX1_surely_60 : decode cX1_surely 60 = .ok (.iinc 5 1, 3) := dk_132 5 1 (dk_at dksX1_surely_2 15 rfl rfl)
theorem dX1_surely_63 : decode cX1_surely 63 = .ok (.goto (-27), 3) := dk_167 255 229 (dk_at dksX1_surely_2 18 rfl rfl)
theorem dX1_surely_66 : decode cX1_surely 66 = .ok (.bipush (-2), 2) := dk_16 254 (dk_at dksX1_surely_2 21 rfl rfl)
theorem dX1_surely_68 : decode cX1_surely 68 = .ok (.ireturn, 1) := dk_172 (dk_at dksX1_surely_2 23 rfl rfl)
def dkwX7_surely_3 : List UInt8 := [132, 5, 1, 167, 255, 225, 42, 16, 254, 182, 0, 76, 172]
abbrev dktX7_surely_3 : List UInt8 := dkwX7_surely_3 ++ []
def dkwX7_surely_2 : List UInt8 := [180, 0, 241, 162, 0, 25, 21, 4, 4, 21, 5, 120, 160, 0, 10, 42, 21, 5, 182, 0, 76, 172]
abbrev dktX7_surely_2 : List UInt8 := dkwX7_surely_2 ++ dktX7_surely_3
def dkwX7_surely_1 : List UInt8 := [182, 2, 11, 42, 27, 28, 42, 182, 2, 14, 182, 2, 23, 54, 4, 3, 54, 5, 21, 5, 42, 180, 1, 186]
abbrev dktX7_surely_1 : List UInt8 := dkwX7_surely_1 ++ dktX7_surely_2
def dkwX7_surely_0 : List UInt8 := [42, 3, 181, 0, 66, 42, 27, 28, 182, 2, 20, 62, 29, 158, 0, 9, 42, 29, 182, 0, 72, 172, 42]
abbrev dktX7_surely_0 : List UInt8 := dkwX7_surely_0 ++ dktX7_surely_1
theorem dksX7_surely_0 : cX7_surely.data.toList.drop 0 = dktX7_surely_0 := by decide +kernel
theorem dksX7_surely_1 : cX7_surely.data.toList.drop 23 = dktX7_surely_1 := dk_seg dksX7_surely_0 23 rfl rfl
theorem dksX7_surely_2 : cX7_surely.data.toList.drop 47 = dktX7_surely_2 := dk_seg dksX7_surely_1 24 rfl rfl
theorem dksX7_surely_3 : cX7_surely.data.toList.drop 69 = dktX7_surely_3 := dk_seg dksX7_surely_2 22 rfl rfl
theorem dX7_surely_0 : decode cX7_surely 0 = .ok (.aload_n 0, 1) := dk_42 (dk_at dksX7_surely_0 0 rfl rfl)
theorem dX7_surely_1 : decode cX7_surely 1 = .ok (.iconst 0, 1) := dk_3 (dk_at dksX7_surely_0 1 rfl rfl)
theorem dX7_surely_2 : decode cX7_surely 2 = .ok (.putfield 66, 3) := dk_181 0 66 (dk_at dksX7_surely_0 2 rfl rfl)
theorem dX7_surely_5 : decode cX7_surely 5 = .ok (.aload_n 0, 1) := dk_42 (dk_at dksX7_surely_0 5 rfl rfl)
theorem dX7_surely_6 : decode cX7_surely 6 = .ok (.iload_n 1, 1) := dk_27 (dk_at dksX7_surely_0 6 rfl rfl)
theorem dX7_surely_7 : decode cX7_surely 7 = .ok (.iload_n 2, 1) := dk_28 (dk_at dksX7_surely_0 7 rfl rfl)
theorem dX7_surely_8 : decode cX7_surely 8 = .ok (.invokevirtual 532, 3) := dk_182 2 20 (dk_at dksX7_surely_0 8 rfl rfl)
theorem dX7_surely_11 : decode cX7_surely 11 = .ok (.istore_n 3, 1) := dk_62 (dk_at dksX7_surely_0 11 rfl rfl)
theorem dX7_surely_12 : decode cX7_surely 12 = .ok (.iload_n 3, 1) := dk_29 (dk_at dksX7_surely_0 12 rfl rfl)
theorem dX7_surely_13 : decode cX7_surely 13 = .ok (.ifCond .le 9, 3) := dk_158 0 9 (dk_at dksX7_surely_0 13 rfl rfl)
theorem dX7_surely_16 : decode cX7_surely 16 = .ok (.aload_n 0, 1) := dk_42 (dk_at dksX7_surely_0 16 rfl rfl)
theorem dX7_surely_17 : decode cX7_surely 17 = .ok (.iload_n 3, 1) := dk_29 (dk_at dksX7_surely_0 17 rfl rfl)
theorem dX7_surely_18 : decode cX7_surely 18 = .ok (.invokevirtual 72, 3) := dk_182 0 72 (dk_at dksX7_surely_0 18 rfl rfl)
theorem dX7_surely_21 : decode cX7_surely 21 = .ok (.ireturn, 1) := dk_172 (dk_at dksX7_surely_0 21 rfl rfl)
theorem dX7_surely_22 : decode cX7_surely 22 = .ok (.aload_n 0, 1) := dk_42 (dk_at dksX7_surely_0 22 rfl rfl)
theorem dX7_surely_23 : decode cX7_surely 23 = .ok (.invokevirtual 523, 3) := dk_182 2 11 (dk_at dksX7_surely_1 0 rfl rfl)
theorem dX7_surely_26 : decode cX7_surely 26 = .ok (.aload_n 0, 1) := dk_42 (dk_at dksX7_surely_1 3 rfl rfl)
theorem dX7_surely_27 : decode cX7_surely 27 = .ok (.iload_n 1, 1) := dk_27 (dk_at dksX7_surely_1 4 rfl rfl)
theorem dX7_surely_28 : decode cX7_surely 28 = .ok (.iload_n 2, 1) := dk_28 (dk_at dksX7_surely_1 5 rfl rfl)
theorem dX7_surely_29 : decode cX7_surely 29 = .ok (.aload_n 0, 1) := dk_42 (dk_at dksX7_surely_1 6 rfl rfl)
theorem dX7_surely_30 : decode cX7_surely 30 = .ok (.invokevirtual 526, 3) := dk_182 2 14 (dk_at dksX7_surely_1 7 rfl rfl)
theorem dX7_surely_33 : decode cX7_surely 33 = .ok (.invokevirtual 535, 3) := dk_182 2 23 (dk_at dksX7_surely_1 10 rfl rfl)
theorem dX7_surely_36 : decode cX7_surely 36 = .ok (.istore 4, 2) := dk_54 4 (dk_at dksX7_surely_1 13 rfl rfl)
theorem dX7_surely_38 : decode cX7_surely 38 = .ok (.iconst 0, 1) := dk_3 (dk_at dksX7_surely_1 15 rfl rfl)
theorem dX7_surely_39 : decode cX7_surely 39 = .ok (.istore 5, 2) := dk_54 5 (dk_at dksX7_surely_1 16 rfl rfl)
theorem dX7_surely_41 : decode cX7_surely 41 = .ok (.iload 5, 2) := dk_21 5 (dk_at dksX7_surely_1 18 rfl rfl)
theorem dX7_surely_43 : decode cX7_surely 43 = .ok (.aload_n 0, 1) := dk_42 (dk_at dksX7_surely_1 20 rfl rfl)
theorem dX7_surely_44 : decode cX7_surely 44 = .ok (.getfield 442, 3) := dk_180 1 186 (dk_at dksX7_surely_1 21 rfl rfl)
theorem dX7_surely_47 : decode cX7_surely 47 = .ok (.getfield 241, 3) := dk_180 0 241 (dk_at dksX7_surely_2 0 rfl rfl)
theorem dX7_surely_50 : decode cX7_surely 50 = .ok (.if_icmp .ge 25, 3) := dk_162 0 25 (dk_at dksX7_surely_2 3 rfl rfl)
theorem dX7_surely_53 : decode cX7_surely 53 = .ok (.iload 4, 2) := dk_21 4 (dk_at dksX7_surely_2 6 rfl rfl)
theorem dX7_surely_55 : decode cX7_surely 55 = .ok (.iconst 1, 1) := dk_4 (dk_at dksX7_surely_2 8 rfl rfl)
theorem dX7_surely_56 : decode cX7_surely 56 = .ok (.iload 5, 2) := dk_21 5 (dk_at dksX7_surely_2 9 rfl rfl)
theorem dX7_surely_58 : decode cX7_surely 58 = .ok (.ishl, 1) := dk_120 (dk_at dksX7_surely_2 11 rfl rfl)
theorem dX7_surely_59 : decode cX7_surely 59 = .ok (.if_icmp .ne 10, 3) := dk_160 0 10 (dk_at dksX7_surely_2 12 rfl rfl)
theorem dX7_surely_62 : decode cX7_surely 62 = .ok (.aload_n 0, 1) := dk_42 (dk_at dksX7_surely_2 15 rfl rfl)
theorem dX7_surely_63 : decode cX7_surely 63 = .ok (.iload 5, 2) := dk_21 5 (dk_at dksX7_surely_2 16 rfl rfl)
theorem dX7_surely_65 : decode cX7_surely 65 = .ok (.invokevirtual 76, 3) := dk_182 0 76 (dk_at dksX7_surely_2 18 rfl rfl)
theorem dX7_surely_68 : decode cX7_surely 68 = .ok (.ireturn, 1) := dk_172 (dk_at dksX7_surely_2 21 rfl rfl)
theorem dX7_surely_69 : decode cX7_surely 69 = .ok (.iinc 5 1, 3) := dk_132 5 1 (dk_at dksX7_surely_3 0 rfl rfl)
theorem dX7_surely_72 : decode cX7_surely 72 = .ok (.goto (-31), 3) := dk_167 255 225 (dk_at dksX7_surely_3 3 rfl rfl)
theorem dX7_surely_75 : decode cX7_surely 75 = .ok (.aload_n 0, 1) := dk_42 (dk_at dksX7_surely_3 6 rfl rfl)
theorem dX7_surely_76 : decode cX7_surely 76 = .ok (.bipush (-2), 2) := dk_16 254 (dk_at dksX7_surely_3 7 rfl rfl)
theorem dX7_surely_78 : decode cX7_surely 78 = .ok (.invokevirtual 76, 3) := dk_182 0 76 (dk_at dksX7_surely_3 9 rfl rfl)
theorem dX7_surely_81 : decode cX7_surely 81 = .ok (.ireturn, 1) := dk_172 (dk_at dksX7_surely_3 12 rfl rfl)
def dkwX1_lies_4 : List UInt8 := [167, 255, 205, 28, 172]
abbrev dktX1_lies_4 : List UInt8 := dkwX1_lies_4 ++ []
def dkwX1_lies_3 : List UInt8 := [42, 180, 0, 104, 42, 180, 0, 68, 29, 46, 27, 182, 1, 2, 120, 2, 130, 126, 61, 132, 3, 1]
abbrev dktX1_lies_3 : List UInt8 := dkwX1_lies_3 ++ dktX1_lies_4
def dkwX1_lies_2 : List UInt8 := [162, 0, 49, 42, 180, 0, 104, 42, 180, 0, 68, 29, 46, 27, 182, 1, 2, 16, 254, 159, 0, 24, 28, 4]
abbrev dktX1_lies_2 : List UInt8 := dkwX1_lies_2 ++ dktX1_lies_3
def dkwX1_lies_1 : List UInt8 := [180, 0, 104, 180, 0, 235, 27, 50, 180, 0, 239, 120, 4, 100, 61, 3, 62, 29, 42, 180, 1, 31]
abbrev dktX1_lies_1 : List UInt8 := dkwX1_lies_1 ++ dktX1_lies_2
def dkwX1_lies_0 : List UInt8 := [42, 182, 0, 80, 42, 27, 182, 0, 232, 154, 0, 9, 42, 4, 182, 0, 94, 172, 42, 182, 1, 40, 4, 42]
abbrev dktX1_lies_0 : List UInt8 := dkwX1_lies_0 ++ dktX1_lies_1
theorem dksX1_lies_0 : cX1_lies.data.toList.drop 0 = dktX1_lies_0 := by decide +kernel
theorem dksX1_lies_1 : cX1_lies.data.toList.drop 24 = dktX1_lies_1 := dk_seg dksX1_lies_0 24 rfl rfl
theorem dksX1_lies_2 : cX1_lies.data.toList.drop 46 = dktX1_lies_2 := dk_seg dksX1_lies_1 22 rfl rfl
theorem dksX1_lies_3 : cX1_lies.data.toList.drop 70 = dktX1_lies_3 := dk_seg dksX1_lies_2 24 rfl rfl
theorem dksX1_lies_4 : cX1_lies.data.toList.drop 92 = dktX1_lies_4 := dk_seg dksX1_lies_3 22 rfl rfl
theorem dX1_lies_0 : decode cX1_lies 0 = .ok (.aload_n 0, 1) := dk_42 (dk_at dksX1_lies_0 0 rfl rfl)
theorem dX1_lies_1 : decode cX1_lies 1 = .ok (.invokevirtual 80, 3) := dk_182 0 80 (dk_at dksX1_lies_0 1 rfl rfl)
theorem dX1_lies_4 : decode cX1_lies 4 = .ok (.aload_n 0, 1) := dk_42 (dk_at dksX1_lies_0 4 rfl rfl)
theorem dX1_lies_5 : decode cX1_lies 5 = .ok (.iload_n 1, 1) := dk_27 (dk_at dksX1_lies_0 5 rfl rfl)
theorem dX1_lies_6 : decode cX1_lies 6 = .ok (.invokevirtual 232, 3) := dk_182 0 232 (dk_at dksX1_lies_0 6 rfl rfl)
theorem dX1_lies_9 : decode cX1_lies 9 = .ok (.ifCond .ne 9, 3) := dk_154 0 9 (dk_at dksX1_lies_0 9 rfl rfl)
theorem dX1_lies_12 : decode cX1_lies 12 = .ok (.aload_n 0, 1) := dk_42 (dk_at dksX1_lies_0 12 rfl rfl)
theorem dX1_lies_13 : decode cX1_lies 13 = .ok (.iconst 1, 1) := dk_4 (dk_at dksX1_lies_0 13 rfl rfl)
theorem dX1_lies_14 : decode cX1_lies 14 = .ok (.invokevirtual 94, 3) := dk_182 0 94 (dk_at dksX1_lies_0 14 rfl rfl)
theorem dX1_lies_17 : decode cX1_lies 17 = .ok (.ireturn, 1) := dk_172 (dk_at dksX1_lies_0 17 rfl rfl)
theorem dX1_lies_18 : decode cX1_lies 18 = .ok (.aload_n 0, 1) := dk_42 (dk_at dksX1_lies_0 18 rfl rfl)
theorem dX1_lies_19 : decode cX1_lies 19 = .ok (.invokevirtual 296, 3) := dk_182 1 40 (dk_at dksX1_lies_0 19 rfl rfl)
theorem dX1_lies_22 : decode cX1_lies 22 = .ok (.iconst 1, 1) := dk_4 (dk_at dksX1_lies_0 22 rfl rfl)
theorem dX1_lies_23 : decode cX1_lies 23 = .ok (.aload_n 0, 1) := dk_42 (dk_at dksX1_lies_0 23 rfl rfl)
theorem dX1_lies_24 : decode cX1_lies 24 = .ok (.getfield 104, 3) := dk_180 0 104 (dk_at dksX1_lies_1 0 rfl rfl)
theorem dX1_lies_27 : decode cX1_lies 27 = .ok (.getfield 235, 3) := dk_180 0 235 (dk_at dksX1_lies_1 3 rfl rfl)
theorem dX1_lies_30 : decode cX1_lies 30 = .ok (.iload_n 1, 1) := dk_27 (dk_at dksX1_lies_1 6 rfl rfl)
theorem dX1_lies_31 : decode cX1_lies 31 = .ok (.aaload, 1) := dk_50 (dk_at dksX1_lies_1 7 rfl rfl)
theorem dX1_lies_32 : decode cX1_lies 32 = .ok (.getfield 239, 3) := dk_180 0 239 (dk_at dksX1_lies_1 8 rfl rfl)
theorem dX1_lies_35 : decode cX1_lies 35 = .ok (.ishl, 1) := dk_120 (dk_at dksX1_lies_1 11 rfl rfl)
theorem dX1_lies_36 : decode cX1_lies 36 = .ok (.iconst 1, 1) := dk_4 (dk_at dksX1_lies_1 12 rfl rfl)
theorem dX1_lies_37 : decode cX1_lies 37 = .ok (.isub, 1) := dk_100 (dk_at dksX1_lies_1 13 rfl rfl)
theorem dX1_lies_38 : decode cX1_lies 38 = .ok (.istore_n 2, 1) := dk_61 (dk_at dksX1_lies_1 14 rfl rfl)
theorem dX1_lies_39 : decode cX1_lies 39 = .ok (.iconst 0, 1) := dk_3 (dk_at dksX1_lies_1 15 rfl rfl)
theorem dX1_lies_40 : decode cX1_lies 40 = .ok (.istore_n 3, 1) := dk_62 (dk_at dksX1_lies_1 16 rfl rfl)
theorem dX1_lies_41 : decode cX1_lies 41 = .ok (.iload_n 3, 1) := dk_29 (dk_at dksX1_lies_1 17 rfl rfl)
theorem dX1_lies_42 : decode cX1_lies 42 = .ok (.aload_n 0, 1) := dk_42 (dk_at dksX1_lies_1 18 rfl rfl)
theorem dX1_lies_43 : decode cX1_lies 43 = .ok (.getfield 287, 3) := dk_180 1 31 (dk_at dksX1_lies_1 19 rfl rfl)
theorem dX1_lies_46 : decode cX1_lies 46 = .ok (.if_icmp .ge 49, 3) := dk_162 0 49 (dk_at dksX1_lies_2 0 rfl rfl)
theorem dX1_lies_49 : decode cX1_lies 49 = .ok (.aload_n 0, 1) := dk_42 (dk_at dksX1_lies_2 3 rfl rfl)
theorem dX1_lies_50 : decode cX1_lies 50 = .ok (.getfield 104, 3) := dk_180 0 104 (dk_at dksX1_lies_2 4 rfl rfl)
theorem dX1_lies_53 : decode cX1_lies 53 = .ok (.aload_n 0, 1) := dk_42 (dk_at dksX1_lies_2 7 rfl rfl)
theorem dX1_lies_54 : decode cX1_lies 54 = .ok (.getfield 68, 3) := dk_180 0 68 (dk_at dksX1_lies_2 8 rfl rfl)
theorem dX1_lies_57 : decode cX1_lies 57 = .ok (.iload_n 3, 1) := dk_29 (dk_at dksX1_lies_2 11 rfl rfl)
theorem dX1_lies_58 : decode cX1_lies 58 = .ok (.iaload, 1) := dk_46 (dk_at dksX1_lies_2 12 rfl rfl)
theorem dX1_lies_59 : decode cX1_lies 59 = .ok (.iload_n 1, 1) := dk_27 (dk_at dksX1_lies_2 13 rfl rfl)
theorem dX1_lies_60 : decode cX1_lies 60 = .ok (.invokevirtual 258, 3) := dk_182 1 2 (dk_at dksX1_lies_2 14 rfl rfl)
theorem dX1_lies_63 : decode cX1_lies 63 = .ok (.bipush (-2), 2) := dk_16 254 (dk_at dksX1_lies_2 17 rfl rfl)
theorem dX1_lies_65 : decode cX1_lies 65 = .ok (.if_icmp .eq 24, 3) := dk_159 0 24 (dk_at dksX1_lies_2 19 rfl rfl)
theorem dX1_lies_68 : decode cX1_lies 68 = .ok (.iload_n 2, 1) := dk_28 (dk_at dksX1_lies_2 22 rfl rfl)
theorem dX1_lies_69 : decode cX1_lies 69 = .ok (.iconst 1, 1) := dk_4 (dk_at dksX1_lies_2 23 rfl rfl)
theorem dX1_lies_70 : decode cX1_lies 70 = .ok (.aload_n 0, 1) := dk_42 (dk_at dksX1_lies_3 0 rfl rfl)
theorem dX1_lies_71 : decode cX1_lies 71 = .ok (.getfield 104, 3) := dk_180 0 104 (dk_at dksX1_lies_3 1 rfl rfl)
theorem dX1_lies_74 : decode cX1_lies 74 = .ok (.aload_n 0, 1) := dk_42 (dk_at dksX1_lies_3 4 rfl rfl)
theorem dX1_lies_75 : decode cX1_lies 75 = .ok (.getfield 68, 3) := dk_180 0 68 (dk_at dksX1_lies_3 5 rfl rfl)
theorem dX1_lies_78 : decode cX1_lies 78 = .ok (.iload_n 3, 1) := dk_29 (dk_at dksX1_lies_3 8 rfl rfl)
theorem dX1_lies_79 : decode cX1_lies 79 = .ok (.iaload, 1) := dk_46 (dk_at dksX1_lies_3 9 rfl rfl)
theorem dX1_lies_80 : decode cX1_lies 80 = .ok (.iload_n 1, 1) := dk_27 (dk_at dksX1_lies_3 10 rfl rfl)
theorem dX1_lies_81 : decode cX1_lies 81 = .ok (.invokevirtual 258, 3) := dk_182 1 2 (dk_at dksX1_lies_3 11 rfl rfl)
theorem dX1_lies_84 : decode cX1_lies 84 = .ok (.ishl, 1) := dk_120 (dk_at dksX1_lies_3 14 rfl rfl)
theorem dX1_lies_85 : decode cX1_lies 85 = .ok (.iconst (-1), 1) := dk_2 (dk_at dksX1_lies_3 15 rfl rfl)
theorem dX1_lies_86 : decode cX1_lies 86 = .ok (.ixor, 1) := dk_130 (dk_at dksX1_lies_3 16 rfl rfl)
theorem dX1_lies_87 : decode cX1_lies 87 = .ok (.iand, 1) := dk_126 (dk_at dksX1_lies_3 17 rfl rfl)
theorem dX1_lies_88 : decode cX1_lies 88 = .ok (.istore_n 2, 1) := dk_61 (dk_at dksX1_lies_3 18 rfl rfl)
theorem dX1_lies_89 : decode cX1_lies 89 = .ok (.iinc 3 1, 3) := dk_132 3 1 (dk_at dksX1_lies_3 19 rfl rfl)
theorem dX1_lies_92 : decode cX1_lies 92 = .ok (.goto (-51), 3) := dk_167 255 205 (dk_at dksX1_lies_4 0 rfl rfl)
theorem dX1_lies_95 : decode cX1_lies 95 = .ok (.iload_n 2, 1) := dk_28 (dk_at dksX1_lies_4 3 rfl rfl)
theorem dX1_lies_96 : decode cX1_lies 96 = .ok (.ireturn, 1) := dk_172 (dk_at dksX1_lies_4 4 rfl rfl)
def dkwX7_lies_4 : List UInt8 := [167, 255, 202, 42, 28, 182, 0, 76, 172]
abbrev dktX7_lies_4 : List UInt8 := dkwX7_lies_4 ++ []
def dkwX7_lies_3 : List UInt8 := [153, 0, 19, 28, 4, 42, 180, 1, 186, 29, 27, 182, 2, 5, 120, 2, 130, 126, 61, 132, 3, 1]
abbrev dktX7_lies_3 : List UInt8 := dkwX7_lies_3 ++ dktX7_lies_4
def dkwX7_lies_2 : List UInt8 := [162, 0, 49, 42, 180, 1, 186, 180, 1, 67, 27, 46, 158, 0, 31, 42, 29, 42, 182, 2, 14, 182, 2, 17]
abbrev dktX7_lies_2 : List UInt8 := dkwX7_lies_2 ++ dktX7_lies_3
def dkwX7_lies_1 : List UInt8 := [42, 180, 1, 186, 180, 1, 67, 27, 46, 120, 4, 100, 61, 3, 62, 29, 42, 180, 1, 186, 182, 1, 194]
abbrev dktX7_lies_1 : List UInt8 := dkwX7_lies_1 ++ dktX7_lies_2
def dkwX7_lies_0 : List UInt8 := [42, 3, 181, 0, 66, 42, 27, 182, 1, 250, 154, 0, 9, 42, 4, 182, 0, 72, 172, 42, 182, 2, 11, 4]
abbrev dktX7_lies_0 : List UInt8 := dkwX7_lies_0 ++ dktX7_lies_1
theorem dksX7_lies_0 : cX7_lies.data.toList.drop 0 = dktX7_lies_0 := by decide +kernel
theorem dksX7_lies_1 : cX7_lies.data.toList.drop 24 = dktX7_lies_1 := dk_seg dksX7_lies_0 24 rfl rfl
theorem dksX7_lies_2 : cX7_lies.data.toList.drop 47 = dktX7_lies_2 := dk_seg dksX7_lies_1 23 rfl rfl
theorem dksX7_lies_3 : cX7_lies.data.toList.drop 71 = dktX7_lies_3 := dk_seg dksX7_lies_2 24 rfl rfl
theorem dksX7_lies_4 : cX7_lies.data.toList.drop 93 = dktX7_lies_4 := dk_seg dksX7_lies_3 22 rfl rfl
theorem dX7_lies_0 : decode cX7_lies 0 = .ok (.aload_n 0, 1) := dk_42 (dk_at dksX7_lies_0 0 rfl rfl)
theorem dX7_lies_1 : decode cX7_lies 1 = .ok (.iconst 0, 1) := dk_3 (dk_at dksX7_lies_0 1 rfl rfl)
theorem dX7_lies_2 : decode cX7_lies 2 = .ok (.putfield 66, 3) := dk_181 0 66 (dk_at dksX7_lies_0 2 rfl rfl)
theorem dX7_lies_5 : decode cX7_lies 5 = .ok (.aload_n 0, 1) := dk_42 (dk_at dksX7_lies_0 5 rfl rfl)
theorem dX7_lies_6 : decode cX7_lies 6 = .ok (.iload_n 1, 1) := dk_27 (dk_at dksX7_lies_0 6 rfl rfl)
theorem dX7_lies_7 : decode cX7_lies 7 = .ok (.invokevirtual 506, 3) := dk_182 1 250 (dk_at dksX7_lies_0 7 rfl rfl)
theorem dX7_lies_10 : decode cX7_lies 10 = .ok (.ifCond .ne 9, 3) := dk_154 0 9 (dk_at dksX7_lies_0 10 rfl rfl)
theorem dX7_lies_13 : decode cX7_lies 13 = .ok (.aload_n 0, 1) := dk_42 (dk_at dksX7_lies_0 13 rfl rfl)
theorem dX7_lies_14 : decode cX7_lies 14 = .ok (.iconst 1, 1) := dk_4 (dk_at dksX7_lies_0 14 rfl rfl)
theorem dX7_lies_15 : decode cX7_lies 15 = .ok (.invokevirtual 72, 3) := dk_182 0 72 (dk_at dksX7_lies_0 15 rfl rfl)
theorem dX7_lies_18 : decode cX7_lies 18 = .ok (.ireturn, 1) := dk_172 (dk_at dksX7_lies_0 18 rfl rfl)
theorem dX7_lies_19 : decode cX7_lies 19 = .ok (.aload_n 0, 1) := dk_42 (dk_at dksX7_lies_0 19 rfl rfl)
theorem dX7_lies_20 : decode cX7_lies 20 = .ok (.invokevirtual 523, 3) := dk_182 2 11 (dk_at dksX7_lies_0 20 rfl rfl)
theorem dX7_lies_23 : decode cX7_lies 23 = .ok (.iconst 1, 1) := dk_4 (dk_at dksX7_lies_0 23 rfl rfl)
theorem dX7_lies_24 : decode cX7_lies 24 = .ok (.aload_n 0, 1) := dk_42 (dk_at dksX7_lies_1 0 rfl rfl)
theorem dX7_lies_25 : decode cX7_lies 25 = .ok (.getfield 442, 3) := dk_180 1 186 (dk_at dksX7_lies_1 1 rfl rfl)
theorem dX7_lies_28 : decode cX7_lies 28 = .ok (.getfield 323, 3) := dk_180 1 67 (dk_at dksX7_lies_1 4 rfl rfl)
theorem dX7_lies_31 : decode cX7_lies 31 = .ok (.iload_n 1, 1) := dk_27 (dk_at dksX7_lies_1 7 rfl rfl)
theorem dX7_lies_32 : decode cX7_lies 32 = .ok (.iaload, 1) := dk_46 (dk_at dksX7_lies_1 8 rfl rfl)
theorem dX7_lies_33 : decode cX7_lies 33 = .ok (.ishl, 1) := dk_120 (dk_at dksX7_lies_1 9 rfl rfl)
theorem dX7_lies_34 : decode cX7_lies 34 = .ok (.iconst 1, 1) := dk_4 (dk_at dksX7_lies_1 10 rfl rfl)
theorem dX7_lies_35 : decode cX7_lies 35 = .ok (.isub, 1) := dk_100 (dk_at dksX7_lies_1 11 rfl rfl)
theorem dX7_lies_36 : decode cX7_lies 36 = .ok (.istore_n 2, 1) := dk_61 (dk_at dksX7_lies_1 12 rfl rfl)
theorem dX7_lies_37 : decode cX7_lies 37 = .ok (.iconst 0, 1) := dk_3 (dk_at dksX7_lies_1 13 rfl rfl)
theorem dX7_lies_38 : decode cX7_lies 38 = .ok (.istore_n 3, 1) := dk_62 (dk_at dksX7_lies_1 14 rfl rfl)
theorem dX7_lies_39 : decode cX7_lies 39 = .ok (.iload_n 3, 1) := dk_29 (dk_at dksX7_lies_1 15 rfl rfl)
theorem dX7_lies_40 : decode cX7_lies 40 = .ok (.aload_n 0, 1) := dk_42 (dk_at dksX7_lies_1 16 rfl rfl)
theorem dX7_lies_41 : decode cX7_lies 41 = .ok (.getfield 442, 3) := dk_180 1 186 (dk_at dksX7_lies_1 17 rfl rfl)
theorem dX7_lies_44 : decode cX7_lies 44 = .ok (.invokevirtual 450, 3) := dk_182 1 194 (dk_at dksX7_lies_1 20 rfl rfl)
theorem dX7_lies_47 : decode cX7_lies 47 = .ok (.if_icmp .ge 49, 3) := dk_162 0 49 (dk_at dksX7_lies_2 0 rfl rfl)
theorem dX7_lies_50 : decode cX7_lies 50 = .ok (.aload_n 0, 1) := dk_42 (dk_at dksX7_lies_2 3 rfl rfl)
theorem dX7_lies_51 : decode cX7_lies 51 = .ok (.getfield 442, 3) := dk_180 1 186 (dk_at dksX7_lies_2 4 rfl rfl)
theorem dX7_lies_54 : decode cX7_lies 54 = .ok (.getfield 323, 3) := dk_180 1 67 (dk_at dksX7_lies_2 7 rfl rfl)
theorem dX7_lies_57 : decode cX7_lies 57 = .ok (.iload_n 1, 1) := dk_27 (dk_at dksX7_lies_2 10 rfl rfl)
theorem dX7_lies_58 : decode cX7_lies 58 = .ok (.iaload, 1) := dk_46 (dk_at dksX7_lies_2 11 rfl rfl)
theorem dX7_lies_59 : decode cX7_lies 59 = .ok (.ifCond .le 31, 3) := dk_158 0 31 (dk_at dksX7_lies_2 12 rfl rfl)
theorem dX7_lies_62 : decode cX7_lies 62 = .ok (.aload_n 0, 1) := dk_42 (dk_at dksX7_lies_2 15 rfl rfl)
theorem dX7_lies_63 : decode cX7_lies 63 = .ok (.iload_n 3, 1) := dk_29 (dk_at dksX7_lies_2 16 rfl rfl)
theorem dX7_lies_64 : decode cX7_lies 64 = .ok (.aload_n 0, 1) := dk_42 (dk_at dksX7_lies_2 17 rfl rfl)
theorem dX7_lies_65 : decode cX7_lies 65 = .ok (.invokevirtual 526, 3) := dk_182 2 14 (dk_at dksX7_lies_2 18 rfl rfl)
theorem dX7_lies_68 : decode cX7_lies 68 = .ok (.invokevirtual 529, 3) := dk_182 2 17 (dk_at dksX7_lies_2 21 rfl rfl)
theorem dX7_lies_71 : decode cX7_lies 71 = .ok (.ifCond .eq 19, 3) := dk_153 0 19 (dk_at dksX7_lies_3 0 rfl rfl)
theorem dX7_lies_74 : decode cX7_lies 74 = .ok (.iload_n 2, 1) := dk_28 (dk_at dksX7_lies_3 3 rfl rfl)
theorem dX7_lies_75 : decode cX7_lies 75 = .ok (.iconst 1, 1) := dk_4 (dk_at dksX7_lies_3 4 rfl rfl)
theorem dX7_lies_76 : decode cX7_lies 76 = .ok (.aload_n 0, 1) := dk_42 (dk_at dksX7_lies_3 5 rfl rfl)
theorem dX7_lies_77 : decode cX7_lies 77 = .ok (.getfield 442, 3) := dk_180 1 186 (dk_at dksX7_lies_3 6 rfl rfl)
theorem dX7_lies_80 : decode cX7_lies 80 = .ok (.iload_n 3, 1) := dk_29 (dk_at dksX7_lies_3 9 rfl rfl)
theorem dX7_lies_81 : decode cX7_lies 81 = .ok (.iload_n 1, 1) := dk_27 (dk_at dksX7_lies_3 10 rfl rfl)
theorem dX7_lies_82 : decode cX7_lies 82 = .ok (.invokevirtual 517, 3) := dk_182 2 5 (dk_at dksX7_lies_3 11 rfl rfl)
theorem dX7_lies_85 : decode cX7_lies 85 = .ok (.ishl, 1) := dk_120 (dk_at dksX7_lies_3 14 rfl rfl)
theorem dX7_lies_86 : decode cX7_lies 86 = .ok (.iconst (-1), 1) := dk_2 (dk_at dksX7_lies_3 15 rfl rfl)
theorem dX7_lies_87 : decode cX7_lies 87 = .ok (.ixor, 1) := dk_130 (dk_at dksX7_lies_3 16 rfl rfl)
theorem dX7_lies_88 : decode cX7_lies 88 = .ok (.iand, 1) := dk_126 (dk_at dksX7_lies_3 17 rfl rfl)
theorem dX7_lies_89 : decode cX7_lies 89 = .ok (.istore_n 2, 1) := dk_61 (dk_at dksX7_lies_3 18 rfl rfl)
theorem dX7_lies_90 : decode cX7_lies 90 = .ok (.iinc 3 1, 3) := dk_132 3 1 (dk_at dksX7_lies_3 19 rfl rfl)
theorem dX7_lies_93 : decode cX7_lies 93 = .ok (.goto (-54), 3) := dk_167 255 202 (dk_at dksX7_lies_4 0 rfl rfl)
theorem dX7_lies_96 : decode cX7_lies 96 = .ok (.aload_n 0, 1) := dk_42 (dk_at dksX7_lies_4 3 rfl rfl)
theorem dX7_lies_97 : decode cX7_lies 97 = .ok (.iload_n 2, 1) := dk_28 (dk_at dksX7_lies_4 4 rfl rfl)
theorem dX7_lies_98 : decode cX7_lies 98 = .ok (.invokevirtual 76, 3) := dk_182 0 76 (dk_at dksX7_lies_4 5 rfl rfl)
theorem dX7_lies_101 : decode cX7_lies 101 = .ok (.ireturn, 1) := dk_172 (dk_at dksX7_lies_4 8 rfl rfl)
def dkwX1_ones_0 : List UInt8 := [3, 60, 26, 61, 28, 153, 0, 15, 132, 1, 1, 28, 28, 4, 100, 126, 61, 167, 255, 243, 27, 172]
abbrev dktX1_ones_0 : List UInt8 := dkwX1_ones_0 ++ []
theorem dksX1_ones_0 : cX1_ones.data.toList.drop 0 = dktX1_ones_0 := by decide +kernel
theorem dX1_ones_0 : decode cX1_ones 0 = .ok (.iconst 0, 1) := dk_3 (dk_at dksX1_ones_0 0 rfl rfl)
theorem dX1_ones_1 : decode cX1_ones 1 = .ok (.istore_n 1, 1) := dk_60 (dk_at dksX1_ones_0 1 rfl rfl)
theorem dX1_ones_2 : decode cX1_ones 2 = .ok (.iload_n 0, 1) := dk_26 (dk_at dksX1_ones_0 2 rfl rfl)
theorem dX1_ones_3 : decode cX1_ones 3 = .ok (.istore_n 2, 1) := dk_61 (dk_at dksX1_ones_0 3 rfl rfl)
theorem dX1_ones_4 : decode cX1_ones 4 = .ok (.iload_n 2, 1) := dk_28 (dk_at dksX1_ones_0 4 rfl rfl)
theorem dX1_ones_5 : decode cX1_ones 5 = .ok (.ifCond .eq 15, 3) := dk_153 0 15 (dk_at dksX1_ones_0 5 rfl rfl)
theorem dX1_ones_8 : decode cX1_ones 8 = .ok (.iinc 1 1, 3) := dk_132 1 1 (dk_at dksX1_ones_0 8 rfl rfl)
theorem dX1_ones_11 : decode cX1_ones 11 = .ok (.iload_n 2, 1) := dk_28 (dk_at dksX1_ones_0 11 rfl rfl)
theorem dX1_ones_12 : decode cX1_ones 12 = .ok (.iload_n 2, 1) := dk_28 (dk_at dksX1_ones_0 12 rfl rfl)
theorem dX1_ones_13 : decode cX1_ones 13 = .ok (.iconst 1, 1) := dk_4 (dk_at dksX1_ones_0 13 rfl rfl)
theorem dX1_ones_14 : decode cX1_ones 14 = .ok (.isub, 1) := dk_100 (dk_at dksX1_ones_0 14 rfl rfl)
theorem dX1_ones_15 : decode cX1_ones 15 = .ok (.iand, 1) := dk_126 (dk_at dksX1_ones_0 15 rfl rfl)
theorem dX1_ones_16 : decode cX1_ones 16 = .ok (.istore_n 2, 1) := dk_61 (dk_at dksX1_ones_0 16 rfl rfl)
theorem dX1_ones_17 : decode cX1_ones 17 = .ok (.goto (-13), 3) := dk_167 255 243 (dk_at dksX1_ones_0 17 rfl rfl)
theorem dX1_ones_20 : decode cX1_ones 20 = .ok (.iload_n 1, 1) := dk_27 (dk_at dksX1_ones_0 20 rfl rfl)
theorem dX1_ones_21 : decode cX1_ones 21 = .ok (.ireturn, 1) := dk_172 (dk_at dksX1_ones_0 21 rfl rfl)
def dkwX1_isFewer_1 : List UInt8 := [162, 0, 7, 4, 167, 0, 4, 3, 172]
abbrev dktX1_isFewer_1 : List UInt8 := dkwX1_isFewer_1 ++ []
def dkwX1_isFewer_0 : List UInt8 := [26, 184, 0, 1, 27, 184, 0, 1, 161, 0, 19, 26, 184, 0, 1, 27, 184, 0, 1, 160, 0, 12, 26, 27]
abbrev dktX1_isFewer_0 : List UInt8 := dkwX1_isFewer_0 ++ dktX1_isFewer_1
theorem dksX1_isFewer_0 : cX1_isFewer.data.toList.drop 0 = dktX1_isFewer_0 := by decide +kernel
theorem dksX1_isFewer_1 : cX1_isFewer.data.toList.drop 24 = dktX1_isFewer_1 := dk_seg dksX1_isFewer_0 24 rfl rfl
theorem dX1_isFewer_0 : decode cX1_isFewer 0 = .ok (.iload_n 0, 1) := dk_26 (dk_at dksX1_isFewer_0 0 rfl rfl)
theorem dX1_isFewer_1 : decode cX1_isFewer 1 = .ok (.invokestatic 1, 3) := dk_184 0 1 (dk_at dksX1_isFewer_0 1 rfl rfl)
theorem dX1_isFewer_4 : decode cX1_isFewer 4 = .ok (.iload_n 1, 1) := dk_27 (dk_at dksX1_isFewer_0 4 rfl rfl)
theorem dX1_isFewer_5 : decode cX1_isFewer 5 = .ok (.invokestatic 1, 3) := dk_184 0 1 (dk_at dksX1_isFewer_0 5 rfl rfl)
theorem dX1_isFewer_8 : decode cX1_isFewer 8 = .ok (.if_icmp .lt 19, 3) := dk_161 0 19 (dk_at dksX1_isFewer_0 8 rfl rfl)
theorem dX1_isFewer_11 : decode cX1_isFewer 11 = .ok (.iload_n 0, 1) := dk_26 (dk_at dksX1_isFewer_0 11 rfl rfl)
theorem dX1_isFewer_12 : decode cX1_isFewer 12 = .ok (.invokestatic 1, 3) := dk_184 0 1 (dk_at dksX1_isFewer_0 12 rfl rfl)
theorem dX1_isFewer_15 : decode cX1_isFewer 15 = .ok (.iload_n 1, 1) := dk_27 (dk_at dksX1_isFewer_0 15 rfl rfl)
theorem dX1_isFewer_16 : decode cX1_isFewer 16 = .ok (.invokestatic 1, 3) := dk_184 0 1 (dk_at dksX1_isFewer_0 16 rfl rfl)
theorem dX1_isFewer_19 : decode cX1_isFewer 19 = .ok (.if_icmp .ne 12, 3) := dk_160 0 12 (dk_at dksX1_isFewer_0 19 rfl rfl)
theorem dX1_isFewer_22 : decode cX1_isFewer 22 = .ok (.iload_n 0, 1) := dk_26 (dk_at dksX1_isFewer_0 22 rfl rfl)
theorem dX1_isFewer_23 : decode cX1_isFewer 23 = .ok (.iload_n 1, 1) := dk_27 (dk_at dksX1_isFewer_0 23 rfl rfl)
theorem dX1_isFewer_24 : decode cX1_isFewer 24 = .ok (.if_icmp .ge 7, 3) := dk_162 0 7 (dk_at dksX1_isFewer_1 0 rfl rfl)
theorem dX1_isFewer_27 : decode cX1_isFewer 27 = .ok (.iconst 1, 1) := dk_4 (dk_at dksX1_isFewer_1 3 rfl rfl)
theorem dX1_isFewer_28 : decode cX1_isFewer 28 = .ok (.goto 4, 3) := dk_167 0 4 (dk_at dksX1_isFewer_1 4 rfl rfl)
theorem dX1_isFewer_31 : decode cX1_isFewer 31 = .ok (.iconst 0, 1) := dk_3 (dk_at dksX1_isFewer_1 7 rfl rfl)
theorem dX1_isFewer_32 : decode cX1_isFewer 32 = .ok (.ireturn, 1) := dk_172 (dk_at dksX1_isFewer_1 8 rfl rfl)
def dkwX1_falseOnes_3 : List UInt8 := [42, 180, 0, 64, 29, 46, 2, 130, 126, 61, 132, 3, 1, 167, 255, 214, 28, 172]
abbrev dktX1_falseOnes_3 : List UInt8 := dkwX1_falseOnes_3 ++ []
def dkwX1_falseOnes_2 : List UInt8 := [182, 0, 124, 162, 0, 37, 27, 42, 180, 0, 64, 29, 46, 2, 130, 126, 28, 184, 1, 49, 153, 0, 14, 27]
abbrev dktX1_falseOnes_2 : List UInt8 := dkwX1_falseOnes_2 ++ dktX1_falseOnes_3
def dkwX1_falseOnes_1 : List UInt8 := [180, 0, 33, 180, 0, 200, 42, 180, 0, 104, 182, 1, 28, 126, 60, 27, 61, 3, 62, 29, 42, 180, 0, 104]
abbrev dktX1_falseOnes_1 : List UInt8 := dkwX1_falseOnes_1 ++ dktX1_falseOnes_2
def dkwX1_falseOnes_0 : List UInt8 := [42, 182, 0, 80, 42, 180, 0, 104, 199, 0, 9, 42, 4, 182, 0, 94, 172, 42, 182, 1, 34, 42]
abbrev dktX1_falseOnes_0 : List UInt8 := dkwX1_falseOnes_0 ++ dktX1_falseOnes_1
theorem dksX1_falseOnes_0 : cX1_falseOnes.data.toList.drop 0 = dktX1_falseOnes_0 := by decide +kernel
theorem dksX1_falseOnes_1 : cX1_falseOnes.data.toList.drop 22 = dktX1_falseOnes_1 := dk_seg dksX1_falseOnes_0 22 rfl rfl
theorem dksX1_falseOnes_2 : cX1_falseOnes.data.toList.drop 46 = dktX1_falseOnes_2 := dk_seg dksX1_falseOnes_1 24 rfl rfl
theorem dksX1_falseOnes_3 : cX1_falseOnes.data.toList.drop 70 = dktX1_falseOnes_3 := dk_seg dksX1_falseOnes_2 24 rfl rfl
theorem dX1_falseOnes_0 : decode cX1_falseOnes 0 = .ok (.aload_n 0, 1) := dk_42 (dk_at dksX1_falseOnes_0 0 rfl rfl)
theorem dX1_falseOnes_1 : decode cX1_falseOnes 1 = .ok (.invokevirtual 80, 3) := dk_182 0 80 (dk_at dksX1_falseOnes_0 1 rfl rfl)
theorem dX1_falseOnes_4 : decode cX1_falseOnes 4 = .ok (.aload_n 0, 1) := dk_42 (dk_at dksX1_falseOnes_0 4 rfl rfl)
theorem dX1_falseOnes_5 : decode cX1_falseOnes 5 = .ok (.getfield 104, 3) := dk_180 0 104 (dk_at dksX1_falseOnes_0 5 rfl rfl)
theorem dX1_falseOnes_8 : decode cX1_falseOnes 8 = .ok (.ifnonnull 9, 3) := dk_199 0 9 (dk_at dksX1_falseOnes_0 8 rfl rfl)
theorem dX1_falseOnes_11 : decode cX1_falseOnes 11 = .ok (.aload_n 0, 1) := dk_42 (dk_at dksX1_falseOnes_0 11 rfl rfl)
theorem dX1_falseOnes_12 : decode cX1_falseOnes 12 = .ok (.iconst 1, 1) := dk_4 (dk_at dksX1_falseOnes_0 12 rfl rfl)
theorem dX1_falseOnes_13 : decode cX1_falseOnes 13 = .ok (.invokevirtual 94, 3) := dk_182 0 94 (dk_at dksX1_falseOnes_0 13 rfl rfl)
theorem dX1_falseOnes_16 : decode cX1_falseOnes 16 = .ok (.ireturn, 1) := dk_172 (dk_at dksX1_falseOnes_0 16 rfl rfl)
theorem dX1_falseOnes_17 : decode cX1_falseOnes 17 = .ok (.aload_n 0, 1) := dk_42 (dk_at dksX1_falseOnes_0 17 rfl rfl)
theorem dX1_falseOnes_18 : decode cX1_falseOnes 18 = .ok (.invokevirtual 290, 3) := dk_182 1 34 (dk_at dksX1_falseOnes_0 18 rfl rfl)
theorem dX1_falseOnes_21 : decode cX1_falseOnes 21 = .ok (.aload_n 0, 1) := dk_42 (dk_at dksX1_falseOnes_0 21 rfl rfl)
theorem dX1_falseOnes_22 : decode cX1_falseOnes 22 = .ok (.getfield 33, 3) := dk_180 0 33 (dk_at dksX1_falseOnes_1 0 rfl rfl)
theorem dX1_falseOnes_25 : decode cX1_falseOnes 25 = .ok (.getfield 200, 3) := dk_180 0 200 (dk_at dksX1_falseOnes_1 3 rfl rfl)
theorem dX1_falseOnes_28 : decode cX1_falseOnes 28 = .ok (.aload_n 0, 1) := dk_42 (dk_at dksX1_falseOnes_1 6 rfl rfl)
theorem dX1_falseOnes_29 : decode cX1_falseOnes 29 = .ok (.getfield 104, 3) := dk_180 0 104 (dk_at dksX1_falseOnes_1 7 rfl rfl)
theorem dX1_falseOnes_32 : decode cX1_falseOnes 32 = .ok (.invokevirtual 284, 3) := dk_182 1 28 (dk_at dksX1_falseOnes_1 10 rfl rfl)
theorem dX1_falseOnes_35 : decode cX1_falseOnes 35 = .ok (.iand, 1) := dk_126 (dk_at dksX1_falseOnes_1 13 rfl rfl)
theorem dX1_falseOnes_36 : decode cX1_falseOnes 36 = .ok (.istore_n 1, 1) := dk_60 (dk_at dksX1_falseOnes_1 14 rfl rfl)
theorem dX1_falseOnes_37 : decode cX1_falseOnes 37 = .ok (.iload_n 1, 1) := dk_27 (dk_at dksX1_falseOnes_1 15 rfl rfl)
theorem dX1_falseOnes_38 : decode cX1_falseOnes 38 = .ok (.istore_n 2, 1) := dk_61 (dk_at dksX1_falseOnes_1 16 rfl rfl)
theorem dX1_falseOnes_39 : decode cX1_falseOnes 39 = .ok (.iconst 0, 1) := dk_3 (dk_at dksX1_falseOnes_1 17 rfl rfl)
theorem dX1_falseOnes_40 : decode cX1_falseOnes 40 = .ok (.istore_n 3, 1) := dk_62 (dk_at dksX1_falseOnes_1 18 rfl rfl)
theorem dX1_falseOnes_41 : decode cX1_falseOnes 41 = .ok (.iload_n 3, 1) := dk_29 (dk_at dksX1_falseOnes_1 19 rfl rfl)
theorem dX1_falseOnes_42 : decode cX1_falseOnes 42 = .ok (.aload_n 0, 1) := dk_42 (dk_at dksX1_falseOnes_1 20 rfl rfl)
theorem dX1_falseOnes_43 : decode cX1_falseOnes 43 = .ok (.getfield 104, 3) := dk_180 0 104 (dk_at dksX1_falseOnes_1 21 rfl rfl)
theorem dX1_falseOnes_46 : decode cX1_falseOnes 46 = .ok (.invokevirtual 124, 3) := dk_182 0 124 (dk_at dksX1_falseOnes_2 0 rfl rfl)
theorem dX1_falseOnes_49 : decode cX1_falseOnes 49 = .ok (.if_icmp .ge 37, 3) := dk_162 0 37 (dk_at dksX1_falseOnes_2 3 rfl rfl)
theorem dX1_falseOnes_52 : decode cX1_falseOnes 52 = .ok (.iload_n 1, 1) := dk_27 (dk_at dksX1_falseOnes_2 6 rfl rfl)
theorem dX1_falseOnes_53 : decode cX1_falseOnes 53 = .ok (.aload_n 0, 1) := dk_42 (dk_at dksX1_falseOnes_2 7 rfl rfl)
theorem dX1_falseOnes_54 : decode cX1_falseOnes 54 = .ok (.getfield 64, 3) := dk_180 0 64 (dk_at dksX1_falseOnes_2 8 rfl rfl)
theorem dX1_falseOnes_57 : decode cX1_falseOnes 57 = .ok (.iload_n 3, 1) := dk_29 (dk_at dksX1_falseOnes_2 11 rfl rfl)
theorem dX1_falseOnes_58 : decode cX1_falseOnes 58 = .ok (.iaload, 1) := dk_46 (dk_at dksX1_falseOnes_2 12 rfl rfl)
theorem dX1_falseOnes_59 : decode cX1_falseOnes 59 = .ok (.iconst (-1), 1) := dk_2 (dk_at dksX1_falseOnes_2 13 rfl rfl)
theorem dX1_falseOnes_60 : decode cX1_falseOnes 60 = .ok (.ixor, 1) := dk_130 (dk_at dksX1_falseOnes_2 14 rfl rfl)
theorem dX1_falseOnes_61 : decode cX1_falseOnes 61 = .ok (.iand, 1) := dk_126 (dk_at dksX1_falseOnes_2 15 rfl rfl)
theorem dX1_falseOnes_62 : decode cX1_falseOnes 62 = .ok (.iload_n 2, 1) := dk_28 (dk_at dksX1_falseOnes_2 16 rfl rfl)
theorem dX1_falseOnes_63 : decode cX1_falseOnes 63 = .ok (.invokestatic 305, 3) := dk_184 1 49 (dk_at dksX1_falseOnes_2 17 rfl rfl)
theorem dX1_falseOnes_66 : decode cX1_falseOnes 66 = .ok (.ifCond .eq 14, 3) := dk_153 0 14 (dk_at dksX1_falseOnes_2 20 rfl rfl)
theorem dX1_falseOnes_69 : decode cX1_falseOnes 69 = .ok (.iload_n 1, 1) := dk_27 (dk_at dksX1_falseOnes_2 23 rfl rfl)
theorem dX1_falseOnes_70 : decode cX1_falseOnes 70 = .ok (.aload_n 0, 1) := dk_42 (dk_at dksX1_falseOnes_3 0 rfl rfl)
theorem dX1_falseOnes_71 : decode cX1_falseOnes 71 = .ok (.getfield 64, 3) := dk_180 0 64 (dk_at dksX1_falseOnes_3 1 rfl rfl)
theorem dX1_falseOnes_74 : decode cX1_falseOnes 74 = .ok (.iload_n 3, 1) := dk_29 (dk_at dksX1_falseOnes_3 4 rfl rfl)
theorem dX1_falseOnes_75 : decode cX1_falseOnes 75 = .ok (.iaload, 1) := dk_46 (dk_at dksX1_falseOnes_3 5 rfl rfl)
theorem dX1_falseOnes_76 : decode cX1_falseOnes 76 = .ok (.iconst (-1), 1) := dk_2 (dk_at dksX1_falseOnes_3 6 rfl rfl)
theorem dX1_falseOnes_77 : decode cX1_falseOnes 77 = .ok (.ixor, 1) := dk_130 (dk_at dksX1_falseOnes_3 7 rfl rfl)
theorem dX1_falseOnes_78 : decode cX1_falseOnes 78 = .ok (.iand, 1) := dk_126 (dk_at dksX1_falseOnes_3 8 rfl rfl)
theorem dX1_falseOnes_79 : decode cX1_falseOnes 79 = .ok (.istore_n 2, 1) := dk_61 (dk_at dksX1_falseOnes_3 9 rfl rfl)
theorem dX1_falseOnes_80 : decode cX1_falseOnes 80 = .ok (.iinc 3 1, 3) := dk_132 3 1 (dk_at dksX1_falseOnes_3 10 rfl rfl)
theorem dX1_falseOnes_83 : decode cX1_falseOnes 83 = .ok (.goto (-42), 3) := dk_167 255 214 (dk_at dksX1_falseOnes_3 13 rfl rfl)
theorem dX1_falseOnes_86 : decode cX1_falseOnes 86 = .ok (.iload_n 2, 1) := dk_28 (dk_at dksX1_falseOnes_3 16 rfl rfl)
theorem dX1_falseOnes_87 : decode cX1_falseOnes 87 = .ok (.ireturn, 1) := dk_172 (dk_at dksX1_falseOnes_3 17 rfl rfl)
def dkwX7_anyFits_1 : List UInt8 := [132, 2, 1, 167, 255, 231, 3, 172]
abbrev dktX7_anyFits_1 : List UInt8 := dkwX7_anyFits_1 ++ []
def dkwX7_anyFits_0 : List UInt8 := [3, 61, 28, 42, 180, 1, 186, 182, 1, 194, 162, 0, 20, 42, 28, 27, 182, 2, 17, 153, 0, 5, 4, 172]
abbrev dktX7_anyFits_0 : List UInt8 := dkwX7_anyFits_0 ++ dktX7_anyFits_1
theorem dksX7_anyFits_0 : cX7_anyFits.data.toList.drop 0 = dktX7_anyFits_0 := by decide +kernel
theorem dksX7_anyFits_1 : cX7_anyFits.data.toList.drop 24 = dktX7_anyFits_1 := dk_seg dksX7_anyFits_0 24 rfl rfl
theorem dX7_anyFits_0 : decode cX7_anyFits 0 = .ok (.iconst 0, 1) := dk_3 (dk_at dksX7_anyFits_0 0 rfl rfl)
theorem dX7_anyFits_1 : decode cX7_anyFits 1 = .ok (.istore_n 2, 1) := dk_61 (dk_at dksX7_anyFits_0 1 rfl rfl)
theorem dX7_anyFits_2 : decode cX7_anyFits 2 = .ok (.iload_n 2, 1) := dk_28 (dk_at dksX7_anyFits_0 2 rfl rfl)
theorem dX7_anyFits_3 : decode cX7_anyFits 3 = .ok (.aload_n 0, 1) := dk_42 (dk_at dksX7_anyFits_0 3 rfl rfl)
theorem dX7_anyFits_4 : decode cX7_anyFits 4 = .ok (.getfield 442, 3) := dk_180 1 186 (dk_at dksX7_anyFits_0 4 rfl rfl)
theorem dX7_anyFits_7 : decode cX7_anyFits 7 = .ok (.invokevirtual 450, 3) := dk_182 1 194 (dk_at dksX7_anyFits_0 7 rfl rfl)
theorem dX7_anyFits_10 : decode cX7_anyFits 10 = .ok (.if_icmp .ge 20, 3) := dk_162 0 20 (dk_at dksX7_anyFits_0 10 rfl rfl)
theorem dX7_anyFits_13 : decode cX7_anyFits 13 = .ok (.aload_n 0, 1) := dk_42 (dk_at dksX7_anyFits_0 13 rfl rfl)
theorem dX7_anyFits_14 : decode cX7_anyFits 14 = .ok (.iload_n 2, 1) := dk_28 (dk_at dksX7_anyFits_0 14 rfl rfl)
theorem dX7_anyFits_15 : decode cX7_anyFits 15 = .ok (.iload_n 1, 1) := dk_27 (dk_at dksX7_anyFits_0 15 rfl rfl)
theorem dX7_anyFits_16 : decode cX7_anyFits 16 = .ok (.invokevirtual 529, 3) := dk_182 2 17 (dk_at dksX7_anyFits_0 16 rfl rfl)
theorem dX7_anyFits_19 : decode cX7_anyFits 19 = .ok (.ifCond .eq 5, 3) := dk_153 0 5 (dk_at dksX7_anyFits_0 19 rfl rfl)
theorem dX7_anyFits_22 : decode cX7_anyFits 22 = .ok (.iconst 1, 1) := dk_4 (dk_at dksX7_anyFits_0 22 rfl rfl)
theorem dX7_anyFits_23 : decode cX7_anyFits 23 = .ok (.ireturn, 1) := dk_172 (dk_at dksX7_anyFits_0 23 rfl rfl)
theorem dX7_anyFits_24 : decode cX7_anyFits 24 = .ok (.iinc 2 1, 3) := dk_132 2 1 (dk_at dksX7_anyFits_1 0 rfl rfl)
theorem dX7_anyFits_27 : decode cX7_anyFits 27 = .ok (.goto (-25), 3) := dk_167 255 231 (dk_at dksX7_anyFits_1 3 rfl rfl)
theorem dX7_anyFits_30 : decode cX7_anyFits 30 = .ok (.iconst 0, 1) := dk_3 (dk_at dksX7_anyFits_1 6 rfl rfl)
theorem dX7_anyFits_31 : decode cX7_anyFits 31 = .ok (.ireturn, 1) := dk_172 (dk_at dksX7_anyFits_1 7 rfl rfl)
def dkwX7_falseOnes_3 : List UInt8 := [126, 182, 2, 26, 153, 0, 5, 28, 60, 132, 2, 1, 167, 255, 200, 42, 27, 182, 0, 76, 172]
abbrev dktX7_falseOnes_3 : List UInt8 := dkwX7_falseOnes_3 ++ []
def dkwX7_falseOnes_2 : List UInt8 := [16, 254, 159, 0, 14, 28, 184, 1, 140, 27, 184, 1, 140, 162, 0, 20, 42, 42, 182, 2, 14, 28, 2, 130]
abbrev dktX7_falseOnes_2 : List UInt8 := dkwX7_falseOnes_2 ++ dktX7_falseOnes_3
def dkwX7_falseOnes_1 : List UInt8 := [60, 3, 61, 28, 42, 182, 1, 232, 163, 0, 54, 28, 42, 182, 2, 14, 2, 130, 126, 154, 0, 37, 27]
abbrev dktX7_falseOnes_1 : List UInt8 := dkwX7_falseOnes_1 ++ dktX7_falseOnes_2
def dkwX7_falseOnes_0 : List UInt8 := [42, 3, 181, 0, 66, 42, 180, 1, 186, 199, 0, 9, 42, 4, 182, 0, 72, 172, 42, 182, 2, 11, 16, 254]
abbrev dktX7_falseOnes_0 : List UInt8 := dkwX7_falseOnes_0 ++ dktX7_falseOnes_1
theorem dksX7_falseOnes_0 : cX7_falseOnes.data.toList.drop 0 = dktX7_falseOnes_0 := by decide +kernel
theorem dksX7_falseOnes_1 : cX7_falseOnes.data.toList.drop 24 = dktX7_falseOnes_1 := dk_seg dksX7_falseOnes_0 24 rfl rfl
theorem dksX7_falseOnes_2 : cX7_falseOnes.data.toList.drop 47 = dktX7_falseOnes_2 := dk_seg dksX7_falseOnes_1 23 rfl rfl
theorem dksX7_falseOnes_3 : cX7_falseOnes.data.toList.drop 71 = dktX7_falseOnes_3 := dk_seg dksX7_falseOnes_2 24 rfl rfl
theorem dX7_falseOnes_0 : decode cX7_falseOnes 0 = .ok (.aload_n 0, 1) := dk_42 (dk_at dksX7_falseOnes_0 0 rfl rfl)
theorem dX7_falseOnes_1 : decode cX7_falseOnes 1 = .ok (.iconst 0, 1) := dk_3 (dk_at dksX7_falseOnes_0 1 rfl rfl)
theorem dX7_falseOnes_2 : decode cX7_falseOnes 2 = .ok (.putfield 66, 3) := dk_181 0 66 (dk_at dksX7_falseOnes_0 2 rfl rfl)
theorem dX7_falseOnes_5 : decode cX7_falseOnes 5 = .ok (.aload_n 0, 1) := dk_42 (dk_at dksX7_falseOnes_0 5 rfl rfl)
theorem dX7_falseOnes_6 : decode cX7_falseOnes 6 = .ok (.getfield 442, 3) := dk_180 1 186 (dk_at dksX7_falseOnes_0 6 rfl rfl)
theorem dX7_falseOnes_9 : decode cX7_falseOnes 9 = .ok (.ifnonnull 9, 3) := dk_199 0 9 (dk_at dksX7_falseOnes_0 9 rfl rfl)
theorem dX7_falseOnes_12 : decode cX7_falseOnes 12 = .ok (.aload_n 0, 1) := dk_42 (dk_at dksX7_falseOnes_0 12 rfl rfl)
theorem dX7_falseOnes_13 : decode cX7_falseOnes 13 = .ok (.iconst 1, 1) := dk_4 (dk_at dksX7_falseOnes_0 13 rfl rfl)
theorem dX7_falseOnes_14 : decode cX7_falseOnes 14 = .ok (.invokevirtual 72, 3) := dk_182 0 72 (dk_at dksX7_falseOnes_0 14 rfl rfl)
theorem dX7_falseOnes_17 : decode cX7_falseOnes 17 = .ok (.ireturn, 1) := dk_172 (dk_at dksX7_falseOnes_0 17 rfl rfl)
theorem dX7_falseOnes_18 : decode cX7_falseOnes 18 = .ok (.aload_n 0, 1) := dk_42 (dk_at dksX7_falseOnes_0 18 rfl rfl)
theorem dX7_falseOnes_19 : decode cX7_falseOnes 19 = .ok (.invokevirtual 523, 3) := dk_182 2 11 (dk_at dksX7_falseOnes_0 19 rfl rfl)
theorem dX7_falseOnes_22 : decode cX7_falseOnes 22 = .ok (.bipush (-2), 2) := dk_16 254 (dk_at dksX7_falseOnes_0 22 rfl rfl)
theorem dX7_falseOnes_24 : decode cX7_falseOnes 24 = .ok (.istore_n 1, 1) := dk_60 (dk_at dksX7_falseOnes_1 0 rfl rfl)
theorem dX7_falseOnes_25 : decode cX7_falseOnes 25 = .ok (.iconst 0, 1) := dk_3 (dk_at dksX7_falseOnes_1 1 rfl rfl)
theorem dX7_falseOnes_26 : decode cX7_falseOnes 26 = .ok (.istore_n 2, 1) := dk_61 (dk_at dksX7_falseOnes_1 2 rfl rfl)
theorem dX7_falseOnes_27 : decode cX7_falseOnes 27 = .ok (.iload_n 2, 1) := dk_28 (dk_at dksX7_falseOnes_1 3 rfl rfl)
theorem dX7_falseOnes_28 : decode cX7_falseOnes 28 = .ok (.aload_n 0, 1) := dk_42 (dk_at dksX7_falseOnes_1 4 rfl rfl)
theorem dX7_falseOnes_29 : decode cX7_falseOnes 29 = .ok (.invokevirtual 488, 3) := dk_182 1 232 (dk_at dksX7_falseOnes_1 5 rfl rfl)
theorem dX7_falseOnes_32 : decode cX7_falseOnes 32 = .ok (.if_icmp .gt 54, 3) := dk_163 0 54 (dk_at dksX7_falseOnes_1 8 rfl rfl)
theorem dX7_falseOnes_35 : decode cX7_falseOnes 35 = .ok (.iload_n 2, 1) := dk_28 (dk_at dksX7_falseOnes_1 11 rfl rfl)
theorem dX7_falseOnes_36 : decode cX7_falseOnes 36 = .ok (.aload_n 0, 1) := dk_42 (dk_at dksX7_falseOnes_1 12 rfl rfl)
theorem dX7_falseOnes_37 : decode cX7_falseOnes 37 = .ok (.invokevirtual 526, 3) := dk_182 2 14 (dk_at dksX7_falseOnes_1 13 rfl rfl)
theorem dX7_falseOnes_40 : decode cX7_falseOnes 40 = .ok (.iconst (-1), 1) := dk_2 (dk_at dksX7_falseOnes_1 16 rfl rfl)
theorem dX7_falseOnes_41 : decode cX7_falseOnes 41 = .ok (.ixor, 1) := dk_130 (dk_at dksX7_falseOnes_1 17 rfl rfl)
theorem dX7_falseOnes_42 : decode cX7_falseOnes 42 = .ok (.iand, 1) := dk_126 (dk_at dksX7_falseOnes_1 18 rfl rfl)
theorem dX7_falseOnes_43 : decode cX7_falseOnes 43 = .ok (.ifCond .ne 37, 3) := dk_154 0 37 (dk_at dksX7_falseOnes_1 19 rfl rfl)
theorem dX7_falseOnes_46 : decode cX7_falseOnes 46 = .ok (.iload_n 1, 1) := dk_27 (dk_at dksX7_falseOnes_1 22 rfl rfl)
theorem dX7_falseOnes_47 : decode cX7_falseOnes 47 = .ok (.bipush (-2), 2) := dk_16 254 (dk_at dksX7_falseOnes_2 0 rfl rfl)
theorem dX7_falseOnes_49 : decode cX7_falseOnes 49 = .ok (.if_icmp .eq 14, 3) := dk_159 0 14 (dk_at dksX7_falseOnes_2 2 rfl rfl)
theorem dX7_falseOnes_52 : decode cX7_falseOnes 52 = .ok (.iload_n 2, 1) := dk_28 (dk_at dksX7_falseOnes_2 5 rfl rfl)
theorem dX7_falseOnes_53 : decode cX7_falseOnes 53 = .ok (.invokestatic 396, 3) := dk_184 1 140 (dk_at dksX7_falseOnes_2 6 rfl rfl)
theorem dX7_falseOnes_56 : decode cX7_falseOnes 56 = .ok (.iload_n 1, 1) := dk_27 (dk_at dksX7_falseOnes_2 9 rfl rfl)
theorem dX7_falseOnes_57 : decode cX7_falseOnes 57 = .ok (.invokestatic 396, 3) := dk_184 1 140 (dk_at dksX7_falseOnes_2 10 rfl rfl)
theorem dX7_falseOnes_60 : decode cX7_falseOnes 60 = .ok (.if_icmp .ge 20, 3) := dk_162 0 20 (dk_at dksX7_falseOnes_2 13 rfl rfl)
theorem dX7_falseOnes_63 : decode cX7_falseOnes 63 = .ok (.aload_n 0, 1) := dk_42 (dk_at dksX7_falseOnes_2 16 rfl rfl)
theorem dX7_falseOnes_64 : decode cX7_falseOnes 64 = .ok (.aload_n 0, 1) := dk_42 (dk_at dksX7_falseOnes_2 17 rfl rfl)
theorem dX7_falseOnes_65 : decode cX7_falseOnes 65 = .ok (.invokevirtual 526, 3) := dk_182 2 14 (dk_at dksX7_falseOnes_2 18 rfl rfl)
theorem dX7_falseOnes_68 : decode cX7_falseOnes 68 = .ok (.iload_n 2, 1) := dk_28 (dk_at dksX7_falseOnes_2 21 rfl rfl)
theorem dX7_falseOnes_69 : decode cX7_falseOnes 69 = .ok (.iconst (-1), 1) := dk_2 (dk_at dksX7_falseOnes_2 22 rfl rfl)
theorem dX7_falseOnes_70 : decode cX7_falseOnes 70 = .ok (.ixor, 1) := dk_130 (dk_at dksX7_falseOnes_2 23 rfl rfl)
theorem dX7_falseOnes_71 : decode cX7_falseOnes 71 = .ok (.iand, 1) := dk_126 (dk_at dksX7_falseOnes_3 0 rfl rfl)
theorem dX7_falseOnes_72 : decode cX7_falseOnes 72 = .ok (.invokevirtual 538, 3) := dk_182 2 26 (dk_at dksX7_falseOnes_3 1 rfl rfl)
theorem dX7_falseOnes_75 : decode cX7_falseOnes 75 = .ok (.ifCond .eq 5, 3) := dk_153 0 5 (dk_at dksX7_falseOnes_3 4 rfl rfl)
theorem dX7_falseOnes_78 : decode cX7_falseOnes 78 = .ok (.iload_n 2, 1) := dk_28 (dk_at dksX7_falseOnes_3 7 rfl rfl)
theorem dX7_falseOnes_79 : decode cX7_falseOnes 79 = .ok (.istore_n 1, 1) := dk_60 (dk_at dksX7_falseOnes_3 8 rfl rfl)
theorem dX7_falseOnes_80 : decode cX7_falseOnes 80 = .ok (.iinc 2 1, 3) := dk_132 2 1 (dk_at dksX7_falseOnes_3 9 rfl rfl)
theorem dX7_falseOnes_83 : decode cX7_falseOnes 83 = .ok (.goto (-56), 3) := dk_167 255 200 (dk_at dksX7_falseOnes_3 12 rfl rfl)
theorem dX7_falseOnes_86 : decode cX7_falseOnes 86 = .ok (.aload_n 0, 1) := dk_42 (dk_at dksX7_falseOnes_3 15 rfl rfl)
theorem dX7_falseOnes_87 : decode cX7_falseOnes 87 = .ok (.iload_n 1, 1) := dk_27 (dk_at dksX7_falseOnes_3 16 rfl rfl)
theorem dX7_falseOnes_88 : decode cX7_falseOnes 88 = .ok (.invokevirtual 76, 3) := dk_182 0 76 (dk_at dksX7_falseOnes_3 17 rfl rfl)
theorem dX7_falseOnes_91 : decode cX7_falseOnes 91 = .ok (.ireturn, 1) := dk_172 (dk_at dksX7_falseOnes_3 20 rfl rfl)
def dkwX1_oddsOf_4 : List UInt8 := [167, 255, 183, 29, 172]
abbrev dktX1_oddsOf_4 : List UInt8 := dkwX1_oddsOf_4 ++ []
def dkwX1_oddsOf_3 : List UInt8 := [167, 0, 19, 16, 10, 42, 180, 0, 104, 180, 0, 172, 21, 4, 50, 180, 0, 191, 100, 104, 62, 132, 4, 1]
abbrev dktX1_oddsOf_3 : List UInt8 := dkwX1_oddsOf_3 ++ dktX1_oddsOf_4
def dkwX1_oddsOf_2 : List UInt8 := [46, 21, 4, 184, 0, 203, 153, 0, 19, 42, 180, 0, 104, 180, 0, 172, 21, 4, 50, 180, 0, 191]
abbrev dktX1_oddsOf_2 : List UInt8 := dkwX1_oddsOf_2 ++ dktX1_oddsOf_3
def dkwX1_oddsOf_1 : List UInt8 := [180, 0, 104, 180, 0, 139, 162, 0, 67, 28, 21, 4, 184, 0, 203, 153, 0, 52, 29, 42, 180, 0, 64, 27]
abbrev dktX1_oddsOf_1 : List UInt8 := dkwX1_oddsOf_1 ++ dktX1_oddsOf_2
def dkwX1_oddsOf_0 : List UInt8 := [42, 180, 0, 33, 180, 0, 200, 42, 180, 0, 104, 182, 1, 28, 126, 61, 4, 62, 3, 54, 4, 21, 4, 42]
abbrev dktX1_oddsOf_0 : List UInt8 := dkwX1_oddsOf_0 ++ dktX1_oddsOf_1
theorem dksX1_oddsOf_0 : cX1_oddsOf.data.toList.drop 0 = dktX1_oddsOf_0 := by decide +kernel
theorem dksX1_oddsOf_1 : cX1_oddsOf.data.toList.drop 24 = dktX1_oddsOf_1 := dk_seg dksX1_oddsOf_0 24 rfl rfl
theorem dksX1_oddsOf_2 : cX1_oddsOf.data.toList.drop 48 = dktX1_oddsOf_2 := dk_seg dksX1_oddsOf_1 24 rfl rfl
theorem dksX1_oddsOf_3 : cX1_oddsOf.data.toList.drop 70 = dktX1_oddsOf_3 := dk_seg dksX1_oddsOf_2 22 rfl rfl
theorem dksX1_oddsOf_4 : cX1_oddsOf.data.toList.drop 94 = dktX1_oddsOf_4 := dk_seg dksX1_oddsOf_3 24 rfl rfl
theorem dX1_oddsOf_0 : decode cX1_oddsOf 0 = .ok (.aload_n 0, 1) := dk_42 (dk_at dksX1_oddsOf_0 0 rfl rfl)
theorem dX1_oddsOf_1 : decode cX1_oddsOf 1 = .ok (.getfield 33, 3) := dk_180 0 33 (dk_at dksX1_oddsOf_0 1 rfl rfl)
theorem dX1_oddsOf_4 : decode cX1_oddsOf 4 = .ok (.getfield 200, 3) := dk_180 0 200 (dk_at dksX1_oddsOf_0 4 rfl rfl)
theorem dX1_oddsOf_7 : decode cX1_oddsOf 7 = .ok (.aload_n 0, 1) := dk_42 (dk_at dksX1_oddsOf_0 7 rfl rfl)
theorem dX1_oddsOf_8 : decode cX1_oddsOf 8 = .ok (.getfield 104, 3) := dk_180 0 104 (dk_at dksX1_oddsOf_0 8 rfl rfl)
theorem dX1_oddsOf_11 : decode cX1_oddsOf 11 = .ok (.invokevirtual 284, 3) := dk_182 1 28 (dk_at dksX1_oddsOf_0 11 rfl rfl)
theorem dX1_oddsOf_14 : decode cX1_oddsOf 14 = .ok (.iand, 1) := dk_126 (dk_at dksX1_oddsOf_0 14 rfl rfl)
theorem dX1_oddsOf_15 : decode cX1_oddsOf 15 = .ok (.istore_n 2, 1) := dk_61 (dk_at dksX1_oddsOf_0 15 rfl rfl)
theorem dX1_oddsOf_16 : decode cX1_oddsOf 16 = .ok (.iconst 1, 1) := dk_4 (dk_at dksX1_oddsOf_0 16 rfl rfl)
theorem dX1_oddsOf_17 : decode cX1_oddsOf 17 = .ok (.istore_n 3, 1) := dk_62 (dk_at dksX1_oddsOf_0 17 rfl rfl)
theorem dX1_oddsOf_18 : decode cX1_oddsOf 18 = .ok (.iconst 0, 1) := dk_3 (dk_at dksX1_oddsOf_0 18 rfl rfl)
theorem dX1_oddsOf_19 : decode cX1_oddsOf 19 = .ok (.istore 4, 2) := dk_54 4 (dk_at dksX1_oddsOf_0 19 rfl rfl)
theorem dX1_oddsOf_21 : decode cX1_oddsOf 21 = .ok (.iload 4, 2) := dk_21 4 (dk_at dksX1_oddsOf_0 21 rfl rfl)
theorem dX1_oddsOf_23 : decode cX1_oddsOf 23 = .ok (.aload_n 0, 1) := dk_42 (dk_at dksX1_oddsOf_0 23 rfl rfl)
theorem dX1_oddsOf_24 : decode cX1_oddsOf 24 = .ok (.getfield 104, 3) := dk_180 0 104 (dk_at dksX1_oddsOf_1 0 rfl rfl)
theorem dX1_oddsOf_27 : decode cX1_oddsOf 27 = .ok (.getfield 139, 3) := dk_180 0 139 (dk_at dksX1_oddsOf_1 3 rfl rfl)
theorem dX1_oddsOf_30 : decode cX1_oddsOf 30 = .ok (.if_icmp .ge 67, 3) := dk_162 0 67 (dk_at dksX1_oddsOf_1 6 rfl rfl)
theorem dX1_oddsOf_33 : decode cX1_oddsOf 33 = .ok (.iload_n 2, 1) := dk_28 (dk_at dksX1_oddsOf_1 9 rfl rfl)
theorem dX1_oddsOf_34 : decode cX1_oddsOf 34 = .ok (.iload 4, 2) := dk_21 4 (dk_at dksX1_oddsOf_1 10 rfl rfl)
theorem dX1_oddsOf_36 : decode cX1_oddsOf 36 = .ok (.invokestatic 203, 3) := dk_184 0 203 (dk_at dksX1_oddsOf_1 12 rfl rfl)
theorem dX1_oddsOf_39 : decode cX1_oddsOf 39 = .ok (.ifCond .eq 52, 3) := dk_153 0 52 (dk_at dksX1_oddsOf_1 15 rfl rfl)
theorem dX1_oddsOf_42 : decode cX1_oddsOf 42 = .ok (.iload_n 3, 1) := dk_29 (dk_at dksX1_oddsOf_1 18 rfl rfl)
theorem dX1_oddsOf_43 : decode cX1_oddsOf 43 = .ok (.aload_n 0, 1) := dk_42 (dk_at dksX1_oddsOf_1 19 rfl rfl)
theorem dX1_oddsOf_44 : decode cX1_oddsOf 44 = .ok (.getfield 64, 3) := dk_180 0 64 (dk_at dksX1_oddsOf_1 20 rfl rfl)
theorem dX1_oddsOf_47 : decode cX1_oddsOf 47 = .ok (.iload_n 1, 1) := dk_27 (dk_at dksX1_oddsOf_1 23 rfl rfl)
theorem dX1_oddsOf_48 : decode cX1_oddsOf 48 = .ok (.iaload, 1) := dk_46 (dk_at dksX1_oddsOf_2 0 rfl rfl)
theorem dX1_oddsOf_49 : decode cX1_oddsOf 49 = .ok (.iload 4, 2) := dk_21 4 (dk_at dksX1_oddsOf_2 1 rfl rfl)
theorem dX1_oddsOf_51 : decode cX1_oddsOf 51 = .ok (.invokestatic 203, 3) := dk_184 0 203 (dk_at dksX1_oddsOf_2 3 rfl rfl)
theorem dX1_oddsOf_54 : decode cX1_oddsOf 54 = .ok (.ifCond .eq 19, 3) := dk_153 0 19 (dk_at dksX1_oddsOf_2 6 rfl rfl)
theorem dX1_oddsOf_57 : decode cX1_oddsOf 57 = .ok (.aload_n 0, 1) := dk_42 (dk_at dksX1_oddsOf_2 9 rfl rfl)
theorem dX1_oddsOf_58 : decode cX1_oddsOf 58 = .ok (.getfield 104, 3) := dk_180 0 104 (dk_at dksX1_oddsOf_2 10 rfl rfl)
theorem dX1_oddsOf_61 : decode cX1_oddsOf 61 = .ok (.getfield 172, 3) := dk_180 0 172 (dk_at dksX1_oddsOf_2 13 rfl rfl)
theorem dX1_oddsOf_64 : decode cX1_oddsOf 64 = .ok (.iload 4, 2) := dk_21 4 (dk_at dksX1_oddsOf_2 16 rfl rfl)
theorem dX1_oddsOf_66 : decode cX1_oddsOf 66 = .ok (.aaload, 1) := dk_50 (dk_at dksX1_oddsOf_2 18 rfl rfl)
theorem dX1_oddsOf_67 : decode cX1_oddsOf 67 = .ok (.getfield 191, 3) := dk_180 0 191 (dk_at dksX1_oddsOf_2 19 rfl rfl)
theorem dX1_oddsOf_70 : decode cX1_oddsOf 70 = .ok (.goto 19, 3) := dk_167 0 19 (dk_at dksX1_oddsOf_3 0 rfl rfl)
theorem dX1_oddsOf_73 : decode cX1_oddsOf 73 = .ok (.bipush 10, 2) := dk_16 10 (dk_at dksX1_oddsOf_3 3 rfl rfl)
theorem dX1_oddsOf_75 : decode cX1_oddsOf 75 = .ok (.aload_n 0, 1) := dk_42 (dk_at dksX1_oddsOf_3 5 rfl rfl)
theorem dX1_oddsOf_76 : decode cX1_oddsOf 76 = .ok (.getfield 104, 3) := dk_180 0 104 (dk_at dksX1_oddsOf_3 6 rfl rfl)
theorem dX1_oddsOf_79 : decode cX1_oddsOf 79 = .ok (.getfield 172, 3) := dk_180 0 172 (dk_at dksX1_oddsOf_3 9 rfl rfl)
theorem dX1_oddsOf_82 : decode cX1_oddsOf 82 = .ok (.iload 4, 2) := dk_21 4 (dk_at dksX1_oddsOf_3 12 rfl rfl)
theorem dX1_oddsOf_84 : decode cX1_oddsOf 84 = .ok (.aaload, 1) := dk_50 (dk_at dksX1_oddsOf_3 14 rfl rfl)
theorem dX1_oddsOf_85 : decode cX1_oddsOf 85 = .ok (.getfield 191, 3) := dk_180 0 191 (dk_at dksX1_oddsOf_3 15 rfl rfl)
theorem dX1_oddsOf_88 : decode cX1_oddsOf 88 = .ok (.isub, 1) := dk_100 (dk_at dksX1_oddsOf_3 18 rfl rfl)
theorem dX1_oddsOf_89 : decode cX1_oddsOf 89 = .ok (.imul, 1) := dk_104 (dk_at dksX1_oddsOf_3 19 rfl rfl)
theorem dX1_oddsOf_90 : decode cX1_oddsOf 90 = .ok (.istore_n 3, 1) := dk_62 (dk_at dksX1_oddsOf_3 20 rfl rfl)
theorem dX1_oddsOf_91 : decode cX1_oddsOf 91 = .ok (.iinc 4 1, 3) := dk_132 4 1 (dk_at dksX1_oddsOf_3 21 rfl rfl)
theorem dX1_oddsOf_94 : decode cX1_oddsOf 94 = .ok (.goto (-73), 3) := dk_167 255 183 (dk_at dksX1_oddsOf_4 0 rfl rfl)
theorem dX1_oddsOf_97 : decode cX1_oddsOf 97 = .ok (.iload_n 3, 1) := dk_29 (dk_at dksX1_oddsOf_4 3 rfl rfl)
theorem dX1_oddsOf_98 : decode cX1_oddsOf 98 = .ok (.ireturn, 1) := dk_172 (dk_at dksX1_oddsOf_4 4 rfl rfl)
def dkwX1_odds_1 : List UInt8 := [182, 1, 52, 172]
abbrev dktX1_odds_1 : List UInt8 := dkwX1_odds_1 ++ []
def dkwX1_odds_0 : List UInt8 := [42, 182, 0, 80, 42, 27, 182, 0, 255, 154, 0, 9, 42, 4, 182, 0, 94, 172, 42, 182, 1, 34, 42, 27]
abbrev dktX1_odds_0 : List UInt8 := dkwX1_odds_0 ++ dktX1_odds_1
theorem dksX1_odds_0 : cX1_odds.data.toList.drop 0 = dktX1_odds_0 := by decide +kernel
theorem dksX1_odds_1 : cX1_odds.data.toList.drop 24 = dktX1_odds_1 := dk_seg dksX1_odds_0 24 rfl rfl
theorem dX1_odds_0 : decode cX1_odds 0 = .ok (.aload_n 0, 1) := dk_42 (dk_at dksX1_odds_0 0 rfl rfl)
theorem dX1_odds_1 : decode cX1_odds 1 = .ok (.invokevirtual 80, 3) := dk_182 0 80 (dk_at dksX1_odds_0 1 rfl rfl)
theorem dX1_odds_4 : decode cX1_odds 4 = .ok (.aload_n 0, 1) := dk_42 (dk_at dksX1_odds_0 4 rfl rfl)
theorem dX1_odds_5 : decode cX1_odds 5 = .ok (.iload_n 1, 1) := dk_27 (dk_at dksX1_odds_0 5 rfl rfl)
theorem dX1_odds_6 : decode cX1_odds 6 = .ok (.invokevirtual 255, 3) := dk_182 0 255 (dk_at dksX1_odds_0 6 rfl rfl)
theorem dX1_odds_9 : decode cX1_odds 9 = .ok (.ifCond .ne 9, 3) := dk_154 0 9 (dk_at dksX1_odds_0 9 rfl rfl)
theorem dX1_odds_12 : decode cX1_odds 12 = .ok (.aload_n 0, 1) := dk_42 (dk_at dksX1_odds_0 12 rfl rfl)
theorem dX1_odds_13 : decode cX1_odds 13 = .ok (.iconst 1, 1) := dk_4 (dk_at dksX1_odds_0 13 rfl rfl)
theorem dX1_odds_14 : decode cX1_odds 14 = .ok (.invokevirtual 94, 3) := dk_182 0 94 (dk_at dksX1_odds_0 14 rfl rfl)
theorem dX1_odds_17 : decode cX1_odds 17 = .ok (.ireturn, 1) := dk_172 (dk_at dksX1_odds_0 17 rfl rfl)
theorem dX1_odds_18 : decode cX1_odds 18 = .ok (.aload_n 0, 1) := dk_42 (dk_at dksX1_odds_0 18 rfl rfl)
theorem dX1_odds_19 : decode cX1_odds 19 = .ok (.invokevirtual 290, 3) := dk_182 1 34 (dk_at dksX1_odds_0 19 rfl rfl)
theorem dX1_odds_22 : decode cX1_odds 22 = .ok (.aload_n 0, 1) := dk_42 (dk_at dksX1_odds_0 22 rfl rfl)
theorem dX1_odds_23 : decode cX1_odds 23 = .ok (.iload_n 1, 1) := dk_27 (dk_at dksX1_odds_0 23 rfl rfl)
theorem dX1_odds_24 : decode cX1_odds 24 = .ok (.invokevirtual 308, 3) := dk_182 1 52 (dk_at dksX1_odds_1 0 rfl rfl)
theorem dX1_odds_27 : decode cX1_odds 27 = .ok (.ireturn, 1) := dk_172 (dk_at dksX1_odds_1 3 rfl rfl)
def dkwX7_oddsOf_5 : List UInt8 := [132, 3, 1, 167, 255, 139, 28, 172]
abbrev dktX7_oddsOf_5 : List UInt8 := dkwX7_oddsOf_5 ++ []
def dkwX7_oddsOf_4 : List UInt8 := [180, 1, 103, 29, 46, 167, 0, 15, 16, 10, 42, 180, 1, 186, 180, 1, 103, 29, 46, 100, 104, 61]
abbrev dktX7_oddsOf_4 : List UInt8 := dkwX7_oddsOf_4 ++ dktX7_oddsOf_5
def dkwX7_oddsOf_3 : List UInt8 := [182, 1, 244, 153, 0, 43, 28, 42, 180, 0, 48, 27, 46, 29, 184, 1, 110, 153, 0, 15, 42, 180, 1, 186]
abbrev dktX7_oddsOf_3 : List UInt8 := dkwX7_oddsOf_3 ++ dktX7_oddsOf_4
def dkwX7_oddsOf_2 : List UInt8 := [29, 160, 0, 7, 4, 167, 0, 4, 3, 54, 4, 132, 5, 1, 167, 255, 215, 21, 4, 153, 0, 51, 42, 29]
abbrev dktX7_oddsOf_2 : List UInt8 := dkwX7_oddsOf_2 ++ dktX7_oddsOf_3
def dkwX7_oddsOf_1 : List UInt8 := [180, 1, 186, 180, 1, 114, 162, 0, 35, 21, 4, 154, 0, 17, 42, 180, 1, 186, 180, 1, 123, 21, 5, 46]
abbrev dktX7_oddsOf_1 : List UInt8 := dkwX7_oddsOf_1 ++ dktX7_oddsOf_2
def dkwX7_oddsOf_0 : List UInt8 := [4, 61, 3, 62, 29, 42, 180, 1, 186, 180, 1, 72, 162, 0, 112, 3, 54, 4, 3, 54, 5, 21, 5, 42]
abbrev dktX7_oddsOf_0 : List UInt8 := dkwX7_oddsOf_0 ++ dktX7_oddsOf_1
theorem dksX7_oddsOf_0 : cX7_oddsOf.data.toList.drop 0 = dktX7_oddsOf_0 := by decide +kernel
theorem dksX7_oddsOf_1 : cX7_oddsOf.data.toList.drop 24 = dktX7_oddsOf_1 := dk_seg dksX7_oddsOf_0 24 rfl rfl
theorem dksX7_oddsOf_2 : cX7_oddsOf.data.toList.drop 48 = dktX7_oddsOf_2 := dk_seg dksX7_oddsOf_1 24 rfl rfl
theorem dksX7_oddsOf_3 : cX7_oddsOf.data.toList.drop 72 = dktX7_oddsOf_3 := dk_seg dksX7_oddsOf_2 24 rfl rfl
theorem dksX7_oddsOf_4 : cX7_oddsOf.data.toList.drop 96 = dktX7_oddsOf_4 := dk_seg dksX7_oddsOf_3 24 rfl rfl
theorem dksX7_oddsOf_5 : cX7_oddsOf.data.toList.drop 118 = dktX7_oddsOf_5 := dk_seg dksX7_oddsOf_4 22 rfl rfl
theorem dX7_oddsOf_0 : decode cX7_oddsOf 0 = .ok (.iconst 1, 1) := dk_4 (dk_at dksX7_oddsOf_0 0 rfl rfl)
theorem dX7_oddsOf_1 : decode cX7_oddsOf 1 = .ok (.istore_n 2, 1) := dk_61 (dk_at dksX7_oddsOf_0 1 rfl rfl)
theorem dX7_oddsOf_2 : decode cX7_oddsOf 2 = .ok (.iconst 0, 1) := dk_3 (dk_at dksX7_oddsOf_0 2 rfl rfl)
theorem dX7_oddsOf_3 : decode cX7_oddsOf 3 = .ok (.istore_n 3, 1) := dk_62 (dk_at dksX7_oddsOf_0 3 rfl rfl)
theorem dX7_oddsOf_4 : decode cX7_oddsOf 4 = .ok (.iload_n 3, 1) := dk_29 (dk_at dksX7_oddsOf_0 4 rfl rfl)
theorem dX7_oddsOf_5 : decode cX7_oddsOf 5 = .ok (.aload_n 0, 1) := dk_42 (dk_at dksX7_oddsOf_0 5 rfl rfl)
theorem dX7_oddsOf_6 : decode cX7_oddsOf 6 = .ok (.getfield 442, 3) := dk_180 1 186 (dk_at dksX7_oddsOf_0 6 rfl rfl)
theorem dX7_oddsOf_9 : decode cX7_oddsOf 9 = .ok (.getfield 328, 3) := dk_180 1 72 (dk_at dksX7_oddsOf_0 9 rfl rfl)
theorem dX7_oddsOf_12 : decode cX7_oddsOf 12 = .ok (.if_icmp .ge 112, 3) := dk_162 0 112 (dk_at dksX7_oddsOf_0 12 rfl rfl)
theorem dX7_oddsOf_15 : decode cX7_oddsOf 15 = .ok (.iconst 0, 1) := dk_3 (dk_at dksX7_oddsOf_0 15 rfl rfl)
theorem dX7_oddsOf_16 : decode cX7_oddsOf 16 = .ok (.istore 4, 2) := dk_54 4 (dk_at dksX7_oddsOf_0 16 rfl rfl)
theorem dX7_oddsOf_18 : decode cX7_oddsOf 18 = .ok (.iconst 0, 1) := dk_3 (dk_at dksX7_oddsOf_0 18 rfl rfl)
theorem dX7_oddsOf_19 : decode cX7_oddsOf 19 = .ok (.istore 5, 2) := dk_54 5 (dk_at dksX7_oddsOf_0 19 rfl rfl)
theorem dX7_oddsOf_21 : decode cX7_oddsOf 21 = .ok (.iload 5, 2) := dk_21 5 (dk_at dksX7_oddsOf_0 21 rfl rfl)
theorem dX7_oddsOf_23 : decode cX7_oddsOf 23 = .ok (.aload_n 0, 1) := dk_42 (dk_at dksX7_oddsOf_0 23 rfl rfl)
theorem dX7_oddsOf_24 : decode cX7_oddsOf 24 = .ok (.getfield 442, 3) := dk_180 1 186 (dk_at dksX7_oddsOf_1 0 rfl rfl)
theorem dX7_oddsOf_27 : decode cX7_oddsOf 27 = .ok (.getfield 370, 3) := dk_180 1 114 (dk_at dksX7_oddsOf_1 3 rfl rfl)
theorem dX7_oddsOf_30 : decode cX7_oddsOf 30 = .ok (.if_icmp .ge 35, 3) := dk_162 0 35 (dk_at dksX7_oddsOf_1 6 rfl rfl)
theorem dX7_oddsOf_33 : decode cX7_oddsOf 33 = .ok (.iload 4, 2) := dk_21 4 (dk_at dksX7_oddsOf_1 9 rfl rfl)
theorem dX7_oddsOf_35 : decode cX7_oddsOf 35 = .ok (.ifCond .ne 17, 3) := dk_154 0 17 (dk_at dksX7_oddsOf_1 11 rfl rfl)
theorem dX7_oddsOf_38 : decode cX7_oddsOf 38 = .ok (.aload_n 0, 1) := dk_42 (dk_at dksX7_oddsOf_1 14 rfl rfl)
theorem dX7_oddsOf_39 : decode cX7_oddsOf 39 = .ok (.getfield 442, 3) := dk_180 1 186 (dk_at dksX7_oddsOf_1 15 rfl rfl)
theorem dX7_oddsOf_42 : decode cX7_oddsOf 42 = .ok (.getfield 379, 3) := dk_180 1 123 (dk_at dksX7_oddsOf_1 18 rfl rfl)
theorem dX7_oddsOf_45 : decode cX7_oddsOf 45 = .ok (.iload 5, 2) := dk_21 5 (dk_at dksX7_oddsOf_1 21 rfl rfl)
theorem dX7_oddsOf_47 : decode cX7_oddsOf 47 = .ok (.iaload, 1) := dk_46 (dk_at dksX7_oddsOf_1 23 rfl rfl)
theorem dX7_oddsOf_48 : decode cX7_oddsOf 48 = .ok (.iload_n 3, 1) := dk_29 (dk_at dksX7_oddsOf_2 0 rfl rfl)
theorem dX7_oddsOf_49 : decode cX7_oddsOf 49 = .ok (.if_icmp .ne 7, 3) := dk_160 0 7 (dk_at dksX7_oddsOf_2 1 rfl rfl)
theorem dX7_oddsOf_52 : decode cX7_oddsOf 52 = .ok (.iconst 1, 1) := dk_4 (dk_at dksX7_oddsOf_2 4 rfl rfl)
theorem dX7_oddsOf_53 : decode cX7_oddsOf 53 = .ok (.goto 4, 3) := dk_167 0 4 (dk_at dksX7_oddsOf_2 5 rfl rfl)
theorem dX7_oddsOf_56 : decode cX7_oddsOf 56 = .ok (.iconst 0, 1) := dk_3 (dk_at dksX7_oddsOf_2 8 rfl rfl)
theorem dX7_oddsOf_57 : decode cX7_oddsOf 57 = .ok (.istore 4, 2) := dk_54 4 (dk_at dksX7_oddsOf_2 9 rfl rfl)
theorem dX7_oddsOf_59 : decode cX7_oddsOf 59 = .ok (.iinc 5 1, 3) := dk_132 5 1 (dk_at dksX7_oddsOf_2 11 rfl rfl)
theorem dX7_oddsOf_62 : decode cX7_oddsOf 62 = .ok (.goto (-41), 3) := dk_167 255 215 (dk_at dksX7_oddsOf_2 14 rfl rfl)
theorem dX7_oddsOf_65 : decode cX7_oddsOf 65 = .ok (.iload 4, 2) := dk_21 4 (dk_at dksX7_oddsOf_2 17 rfl rfl)
theorem dX7_oddsOf_67 : decode cX7_oddsOf 67 = .ok (.ifCond .eq 51, 3) := dk_153 0 51 (dk_at dksX7_oddsOf_2 19 rfl rfl)
theorem dX7_oddsOf_70 : decode cX7_oddsOf 70 = .ok (.aload_n 0, 1) := dk_42 (dk_at dksX7_oddsOf_2 22 rfl rfl)
theorem dX7_oddsOf_71 : decode cX7_oddsOf 71 = .ok (.iload_n 3, 1) := dk_29 (dk_at dksX7_oddsOf_2 23 rfl rfl)
theorem dX7_oddsOf_72 : decode cX7_oddsOf 72 = .ok (.invokevirtual 500, 3) := dk_182 1 244 (dk_at dksX7_oddsOf_3 0 rfl rfl)
theorem dX7_oddsOf_75 : decode cX7_oddsOf 75 = .ok (.ifCond .eq 43, 3) := dk_153 0 43 (dk_at dksX7_oddsOf_3 3 rfl rfl)
theorem dX7_oddsOf_78 : decode cX7_oddsOf 78 = .ok (.iload_n 2, 1) := dk_28 (dk_at dksX7_oddsOf_3 6 rfl rfl)
theorem dX7_oddsOf_79 : decode cX7_oddsOf 79 = .ok (.aload_n 0, 1) := dk_42 (dk_at dksX7_oddsOf_3 7 rfl rfl)
theorem dX7_oddsOf_80 : decode cX7_oddsOf 80 = .ok (.getfield 48, 3) := dk_180 0 48 (dk_at dksX7_oddsOf_3 8 rfl rfl)
theorem dX7_oddsOf_83 : decode cX7_oddsOf 83 = .ok (.iload_n 1, 1) := dk_27 (dk_at dksX7_oddsOf_3 11 rfl rfl)
theorem dX7_oddsOf_84 : decode cX7_oddsOf 84 = .ok (.iaload, 1) := dk_46 (dk_at dksX7_oddsOf_3 12 rfl rfl)
theorem dX7_oddsOf_85 : decode cX7_oddsOf 85 = .ok (.iload_n 3, 1) := dk_29 (dk_at dksX7_oddsOf_3 13 rfl rfl)
theorem dX7_oddsOf_86 : decode cX7_oddsOf 86 = .ok (.invokestatic 366, 3) := dk_184 1 110 (dk_at dksX7_oddsOf_3 14 rfl rfl)
theorem dX7_oddsOf_89 : decode cX7_oddsOf 89 = .ok (.ifCond .eq 15, 3) := dk_153 0 15 (dk_at dksX7_oddsOf_3 17 rfl rfl)
theorem dX7_oddsOf_92 : decode cX7_oddsOf 92 = .ok (.aload_n 0, 1) := dk_42 (dk_at dksX7_oddsOf_3 20 rfl rfl)
theorem dX7_oddsOf_93 : decode cX7_oddsOf 93 = .ok (.getfield 442, 3) := dk_180 1 186 (dk_at dksX7_oddsOf_3 21 rfl rfl)
theorem dX7_oddsOf_96 : decode cX7_oddsOf 96 = .ok (.getfield 359, 3) := dk_180 1 103 (dk_at dksX7_oddsOf_4 0 rfl rfl)
theorem dX7_oddsOf_99 : decode cX7_oddsOf 99 = .ok (.iload_n 3, 1) := dk_29 (dk_at dksX7_oddsOf_4 3 rfl rfl)
theorem dX7_oddsOf_100 : decode cX7_oddsOf 100 = .ok (.iaload, 1) := dk_46 (dk_at dksX7_oddsOf_4 4 rfl rfl)
theorem dX7_oddsOf_101 : decode cX7_oddsOf 101 = .ok (.goto 15, 3) := dk_167 0 15 (dk_at dksX7_oddsOf_4 5 rfl rfl)
theorem dX7_oddsOf_104 : decode cX7_oddsOf 104 = .ok (.bipush 10, 2) := dk_16 10 (dk_at dksX7_oddsOf_4 8 rfl rfl)
theorem dX7_oddsOf_106 : decode cX7_oddsOf 106 = .ok (.aload_n 0, 1) := dk_42 (dk_at dksX7_oddsOf_4 10 rfl rfl)
theorem dX7_oddsOf_107 : decode cX7_oddsOf 107 = .ok (.getfield 442, 3) := dk_180 1 186 (dk_at dksX7_oddsOf_4 11 rfl rfl)
theorem dX7_oddsOf_110 : decode cX7_oddsOf 110 = .ok (.getfield 359, 3) := dk_180 1 103 (dk_at dksX7_oddsOf_4 14 rfl rfl)
theorem dX7_oddsOf_113 : decode cX7_oddsOf 113 = .ok (.iload_n 3, 1) := dk_29 (dk_at dksX7_oddsOf_4 17 rfl rfl)
theorem dX7_oddsOf_114 : decode cX7_oddsOf 114 = .ok (.iaload, 1) := dk_46 (dk_at dksX7_oddsOf_4 18 rfl rfl)
theorem dX7_oddsOf_115 : decode cX7_oddsOf 115 = .ok (.isub, 1) := dk_100 (dk_at dksX7_oddsOf_4 19 rfl rfl)
theorem dX7_oddsOf_116 : decode cX7_oddsOf 116 = .ok (.imul, 1) := dk_104 (dk_at dksX7_oddsOf_4 20 rfl rfl)
theorem dX7_oddsOf_117 : decode cX7_oddsOf 117 = .ok (.istore_n 2, 1) := dk_61 (dk_at dksX7_oddsOf_4 21 rfl rfl)
theorem dX7_oddsOf_118 : decode cX7_oddsOf 118 = .ok (.iinc 3 1, 3) := dk_132 3 1 (dk_at dksX7_oddsOf_5 0 rfl rfl)
theorem dX7_oddsOf_121 : decode cX7_oddsOf 121 = .ok (.goto (-117), 3) := dk_167 255 139 (dk_at dksX7_oddsOf_5 3 rfl rfl)
theorem dX7_oddsOf_124 : decode cX7_oddsOf 124 = .ok (.iload_n 2, 1) := dk_28 (dk_at dksX7_oddsOf_5 6 rfl rfl)
theorem dX7_oddsOf_125 : decode cX7_oddsOf 125 = .ok (.ireturn, 1) := dk_172 (dk_at dksX7_oddsOf_5 7 rfl rfl)
def dkwX7_odds_1 : List UInt8 := [42, 27, 182, 2, 29, 182, 0, 76, 172]
abbrev dktX7_odds_1 : List UInt8 := dkwX7_odds_1 ++ []
def dkwX7_odds_0 : List UInt8 := [42, 3, 181, 0, 66, 42, 27, 182, 2, 2, 154, 0, 9, 42, 4, 182, 0, 72, 172, 42, 182, 2, 11, 42]
abbrev dktX7_odds_0 : List UInt8 := dkwX7_odds_0 ++ dktX7_odds_1
theorem dksX7_odds_0 : cX7_odds.data.toList.drop 0 = dktX7_odds_0 := by decide +kernel
theorem dksX7_odds_1 : cX7_odds.data.toList.drop 24 = dktX7_odds_1 := dk_seg dksX7_odds_0 24 rfl rfl
theorem dX7_odds_0 : decode cX7_odds 0 = .ok (.aload_n 0, 1) := dk_42 (dk_at dksX7_odds_0 0 rfl rfl)
theorem dX7_odds_1 : decode cX7_odds 1 = .ok (.iconst 0, 1) := dk_3 (dk_at dksX7_odds_0 1 rfl rfl)
theorem dX7_odds_2 : decode cX7_odds 2 = .ok (.putfield 66, 3) := dk_181 0 66 (dk_at dksX7_odds_0 2 rfl rfl)
theorem dX7_odds_5 : decode cX7_odds 5 = .ok (.aload_n 0, 1) := dk_42 (dk_at dksX7_odds_0 5 rfl rfl)
theorem dX7_odds_6 : decode cX7_odds 6 = .ok (.iload_n 1, 1) := dk_27 (dk_at dksX7_odds_0 6 rfl rfl)
theorem dX7_odds_7 : decode cX7_odds 7 = .ok (.invokevirtual 514, 3) := dk_182 2 2 (dk_at dksX7_odds_0 7 rfl rfl)
theorem dX7_odds_10 : decode cX7_odds 10 = .ok (.ifCond .ne 9, 3) := dk_154 0 9 (dk_at dksX7_odds_0 10 rfl rfl)
theorem dX7_odds_13 : decode cX7_odds 13 = .ok (.aload_n 0, 1) := dk_42 (dk_at dksX7_odds_0 13 rfl rfl)
theorem dX7_odds_14 : decode cX7_odds 14 = .ok (.iconst 1, 1) := dk_4 (dk_at dksX7_odds_0 14 rfl rfl)
theorem dX7_odds_15 : decode cX7_odds 15 = .ok (.invokevirtual 72, 3) := dk_182 0 72 (dk_at dksX7_odds_0 15 rfl rfl)
theorem dX7_odds_18 : decode cX7_odds 18 = .ok (.ireturn, 1) := dk_172 (dk_at dksX7_odds_0 18 rfl rfl)
theorem dX7_odds_19 : decode cX7_odds 19 = .ok (.aload_n 0, 1) := dk_42 (dk_at dksX7_odds_0 19 rfl rfl)
theorem dX7_odds_20 : decode cX7_odds 20 = .ok (.invokevirtual 523, 3) := dk_182 2 11 (dk_at dksX7_odds_0 20 rfl rfl)
theorem dX7_odds_23 : decode cX7_odds 23 = .ok (.aload_n 0, 1) := dk_42 (dk_at dksX7_odds_0 23 rfl rfl)
theorem dX7_odds_24 : decode cX7_odds 24 = .ok (.aload_n 0, 1) := dk_42 (dk_at dksX7_odds_1 0 rfl rfl)
theorem dX7_odds_25 : decode cX7_odds 25 = .ok (.iload_n 1, 1) := dk_27 (dk_at dksX7_odds_1 1 rfl rfl)
theorem dX7_odds_26 : decode cX7_odds 26 = .ok (.invokevirtual 541, 3) := dk_182 2 29 (dk_at dksX7_odds_1 2 rfl rfl)
theorem dX7_odds_29 : decode cX7_odds 29 = .ok (.invokevirtual 76, 3) := dk_182 0 76 (dk_at dksX7_odds_1 5 rfl rfl)
theorem dX7_odds_32 : decode cX7_odds 32 = .ok (.ireturn, 1) := dk_172 (dk_at dksX7_odds_1 8 rfl rfl)
def dkwX1_likeliest_2 : List UInt8 := [164, 0, 5, 28, 60, 132, 2, 1, 167, 255, 227, 27, 172]
abbrev dktX1_likeliest_2 : List UInt8 := dkwX1_likeliest_2 ++ []
def dkwX1_likeliest_1 : List UInt8 := [61, 28, 42, 180, 0, 104, 182, 0, 124, 162, 0, 24, 42, 28, 182, 1, 52, 42, 27, 182, 1, 52]
abbrev dktX1_likeliest_1 : List UInt8 := dkwX1_likeliest_1 ++ dktX1_likeliest_2
def dkwX1_likeliest_0 : List UInt8 := [42, 182, 0, 80, 42, 180, 0, 104, 199, 0, 9, 42, 4, 182, 0, 94, 172, 42, 182, 1, 34, 3, 60, 4]
abbrev dktX1_likeliest_0 : List UInt8 := dkwX1_likeliest_0 ++ dktX1_likeliest_1
theorem dksX1_likeliest_0 : cX1_likeliest.data.toList.drop 0 = dktX1_likeliest_0 := by decide +kernel
theorem dksX1_likeliest_1 : cX1_likeliest.data.toList.drop 24 = dktX1_likeliest_1 := dk_seg dksX1_likeliest_0 24 rfl rfl
theorem dksX1_likeliest_2 : cX1_likeliest.data.toList.drop 46 = dktX1_likeliest_2 := dk_seg dksX1_likeliest_1 22 rfl rfl
theorem dX1_likeliest_0 : decode cX1_likeliest 0 = .ok (.aload_n 0, 1) := dk_42 (dk_at dksX1_likeliest_0 0 rfl rfl)
theorem dX1_likeliest_1 : decode cX1_likeliest 1 = .ok (.invokevirtual 80, 3) := dk_182 0 80 (dk_at dksX1_likeliest_0 1 rfl rfl)
theorem dX1_likeliest_4 : decode cX1_likeliest 4 = .ok (.aload_n 0, 1) := dk_42 (dk_at dksX1_likeliest_0 4 rfl rfl)
theorem dX1_likeliest_5 : decode cX1_likeliest 5 = .ok (.getfield 104, 3) := dk_180 0 104 (dk_at dksX1_likeliest_0 5 rfl rfl)
theorem dX1_likeliest_8 : decode cX1_likeliest 8 = .ok (.ifnonnull 9, 3) := dk_199 0 9 (dk_at dksX1_likeliest_0 8 rfl rfl)
theorem dX1_likeliest_11 : decode cX1_likeliest 11 = .ok (.aload_n 0, 1) := dk_42 (dk_at dksX1_likeliest_0 11 rfl rfl)
theorem dX1_likeliest_12 : decode cX1_likeliest 12 = .ok (.iconst 1, 1) := dk_4 (dk_at dksX1_likeliest_0 12 rfl rfl)
theorem dX1_likeliest_13 : decode cX1_likeliest 13 = .ok (.invokevirtual 94, 3) := dk_182 0 94 (dk_at dksX1_likeliest_0 13 rfl rfl)
theorem dX1_likeliest_16 : decode cX1_likeliest 16 = .ok (.ireturn, 1) := dk_172 (dk_at dksX1_likeliest_0 16 rfl rfl)
theorem dX1_likeliest_17 : decode cX1_likeliest 17 = .ok (.aload_n 0, 1) := dk_42 (dk_at dksX1_likeliest_0 17 rfl rfl)
theorem dX1_likeliest_18 : decode cX1_likeliest 18 = .ok (.invokevirtual 290, 3) := dk_182 1 34 (dk_at dksX1_likeliest_0 18 rfl rfl)
theorem dX1_likeliest_21 : decode cX1_likeliest 21 = .ok (.iconst 0, 1) := dk_3 (dk_at dksX1_likeliest_0 21 rfl rfl)
theorem dX1_likeliest_22 : decode cX1_likeliest 22 = .ok (.istore_n 1, 1) := dk_60 (dk_at dksX1_likeliest_0 22 rfl rfl)
theorem dX1_likeliest_23 : decode cX1_likeliest 23 = .ok (.iconst 1, 1) := dk_4 (dk_at dksX1_likeliest_0 23 rfl rfl)
theorem dX1_likeliest_24 : decode cX1_likeliest 24 = .ok (.istore_n 2, 1) := dk_61 (dk_at dksX1_likeliest_1 0 rfl rfl)
theorem dX1_likeliest_25 : decode cX1_likeliest 25 = .ok (.iload_n 2, 1) := dk_28 (dk_at dksX1_likeliest_1 1 rfl rfl)
theorem dX1_likeliest_26 : decode cX1_likeliest 26 = .ok (.aload_n 0, 1) := dk_42 (dk_at dksX1_likeliest_1 2 rfl rfl)
theorem dX1_likeliest_27 : decode cX1_likeliest 27 = .ok (.getfield 104, 3) := dk_180 0 104 (dk_at dksX1_likeliest_1 3 rfl rfl)
theorem dX1_likeliest_30 : decode cX1_likeliest 30 = .ok (.invokevirtual 124, 3) := dk_182 0 124 (dk_at dksX1_likeliest_1 6 rfl rfl)
theorem dX1_likeliest_33 : decode cX1_likeliest 33 = .ok (.if_icmp .ge 24, 3) := dk_162 0 24 (dk_at dksX1_likeliest_1 9 rfl rfl)
theorem dX1_likeliest_36 : decode cX1_likeliest 36 = .ok (.aload_n 0, 1) := dk_42 (dk_at dksX1_likeliest_1 12 rfl rfl)
theorem dX1_likeliest_37 : decode cX1_likeliest 37 = .ok (.iload_n 2, 1) := dk_28 (dk_at dksX1_likeliest_1 13 rfl rfl)
theorem dX1_likeliest_38 : decode cX1_likeliest 38 = .ok (.invokevirtual 308, 3) := dk_182 1 52 (dk_at dksX1_likeliest_1 14 rfl rfl)
theorem dX1_likeliest_41 : decode cX1_likeliest 41 = .ok (.aload_n 0, 1) := dk_42 (dk_at dksX1_likeliest_1 17 rfl rfl)
theorem dX1_likeliest_42 : decode cX1_likeliest 42 = .ok (.iload_n 1, 1) := dk_27 (dk_at dksX1_likeliest_1 18 rfl rfl)
theorem dX1_likeliest_43 : decode cX1_likeliest 43 = .ok (.invokevirtual 308, 3) := dk_182 1 52 (dk_at dksX1_likeliest_1 19 rfl rfl)
theorem dX1_likeliest_46 : decode cX1_likeliest 46 = .ok (.if_icmp .le 5, 3) := dk_164 0 5 (dk_at dksX1_likeliest_2 0 rfl rfl)
theorem dX1_likeliest_49 : decode cX1_likeliest 49 = .ok (.iload_n 2, 1) := dk_28 (dk_at dksX1_likeliest_2 3 rfl rfl)
theorem dX1_likeliest_50 : decode cX1_likeliest 50 = .ok (.istore_n 1, 1) := dk_60 (dk_at dksX1_likeliest_2 4 rfl rfl)
theorem dX1_likeliest_51 : decode cX1_likeliest 51 = .ok (.iinc 2 1, 3) := dk_132 2 1 (dk_at dksX1_likeliest_2 5 rfl rfl)
theorem dX1_likeliest_54 : decode cX1_likeliest 54 = .ok (.goto (-29), 3) := dk_167 255 227 (dk_at dksX1_likeliest_2 8 rfl rfl)
theorem dX1_likeliest_57 : decode cX1_likeliest 57 = .ok (.iload_n 1, 1) := dk_27 (dk_at dksX1_likeliest_2 11 rfl rfl)
theorem dX1_likeliest_58 : decode cX1_likeliest 58 = .ok (.ireturn, 1) := dk_172 (dk_at dksX1_likeliest_2 12 rfl rfl)
def dkwX7_likeliest_2 : List UInt8 := [164, 0, 5, 28, 60, 132, 2, 1, 167, 255, 227, 42, 27, 182, 0, 76, 172]
abbrev dktX7_likeliest_2 : List UInt8 := dkwX7_likeliest_2 ++ []
def dkwX7_likeliest_1 : List UInt8 := [4, 61, 28, 42, 180, 1, 186, 182, 1, 194, 162, 0, 24, 42, 28, 182, 2, 29, 42, 27, 182, 2, 29]
abbrev dktX7_likeliest_1 : List UInt8 := dkwX7_likeliest_1 ++ dktX7_likeliest_2
def dkwX7_likeliest_0 : List UInt8 := [42, 3, 181, 0, 66, 42, 180, 1, 186, 199, 0, 9, 42, 4, 182, 0, 72, 172, 42, 182, 2, 11, 3, 60]
abbrev dktX7_likeliest_0 : List UInt8 := dkwX7_likeliest_0 ++ dktX7_likeliest_1
theorem dksX7_likeliest_0 : cX7_likeliest.data.toList.drop 0 = dktX7_likeliest_0 := by decide +kernel
theorem dksX7_likeliest_1 : cX7_likeliest.data.toList.drop 24 = dktX7_likeliest_1 := dk_seg dksX7_likeliest_0 24 rfl rfl
theorem dksX7_likeliest_2 : cX7_likeliest.data.toList.drop 47 = dktX7_likeliest_2 := dk_seg dksX7_likeliest_1 23 rfl rfl
theorem dX7_likeliest_0 : decode cX7_likeliest 0 = .ok (.aload_n 0, 1) := dk_42 (dk_at dksX7_likeliest_0 0 rfl rfl)
theorem dX7_likeliest_1 : decode cX7_likeliest 1 = .ok (.iconst 0, 1) := dk_3 (dk_at dksX7_likeliest_0 1 rfl rfl)
theorem dX7_likeliest_2 : decode cX7_likeliest 2 = .ok (.putfield 66, 3) := dk_181 0 66 (dk_at dksX7_likeliest_0 2 rfl rfl)
theorem dX7_likeliest_5 : decode cX7_likeliest 5 = .ok (.aload_n 0, 1) := dk_42 (dk_at dksX7_likeliest_0 5 rfl rfl)
theorem dX7_likeliest_6 : decode cX7_likeliest 6 = .ok (.getfield 442, 3) := dk_180 1 186 (dk_at dksX7_likeliest_0 6 rfl rfl)
theorem dX7_likeliest_9 : decode cX7_likeliest 9 = .ok (.ifnonnull 9, 3) := dk_199 0 9 (dk_at dksX7_likeliest_0 9 rfl rfl)
theorem dX7_likeliest_12 : decode cX7_likeliest 12 = .ok (.aload_n 0, 1) := dk_42 (dk_at dksX7_likeliest_0 12 rfl rfl)
theorem dX7_likeliest_13 : decode cX7_likeliest 13 = .ok (.iconst 1, 1) := dk_4 (dk_at dksX7_likeliest_0 13 rfl rfl)
theorem dX7_likeliest_14 : decode cX7_likeliest 14 = .ok (.invokevirtual 72, 3) := dk_182 0 72 (dk_at dksX7_likeliest_0 14 rfl rfl)
theorem dX7_likeliest_17 : decode cX7_likeliest 17 = .ok (.ireturn, 1) := dk_172 (dk_at dksX7_likeliest_0 17 rfl rfl)
theorem dX7_likeliest_18 : decode cX7_likeliest 18 = .ok (.aload_n 0, 1) := dk_42 (dk_at dksX7_likeliest_0 18 rfl rfl)
theorem dX7_likeliest_19 : decode cX7_likeliest 19 = .ok (.invokevirtual 523, 3) := dk_182 2 11 (dk_at dksX7_likeliest_0 19 rfl rfl)
theorem dX7_likeliest_22 : decode cX7_likeliest 22 = .ok (.iconst 0, 1) := dk_3 (dk_at dksX7_likeliest_0 22 rfl rfl)
theorem dX7_likeliest_23 : decode cX7_likeliest 23 = .ok (.istore_n 1, 1) := dk_60 (dk_at dksX7_likeliest_0 23 rfl rfl)
theorem dX7_likeliest_24 : decode cX7_likeliest 24 = .ok (.iconst 1, 1) := dk_4 (dk_at dksX7_likeliest_1 0 rfl rfl)
theorem dX7_likeliest_25 : decode cX7_likeliest 25 = .ok (.istore_n 2, 1) := dk_61 (dk_at dksX7_likeliest_1 1 rfl rfl)
theorem dX7_likeliest_26 : decode cX7_likeliest 26 = .ok (.iload_n 2, 1) := dk_28 (dk_at dksX7_likeliest_1 2 rfl rfl)
theorem dX7_likeliest_27 : decode cX7_likeliest 27 = .ok (.aload_n 0, 1) := dk_42 (dk_at dksX7_likeliest_1 3 rfl rfl)
theorem dX7_likeliest_28 : decode cX7_likeliest 28 = .ok (.getfield 442, 3) := dk_180 1 186 (dk_at dksX7_likeliest_1 4 rfl rfl)
theorem dX7_likeliest_31 : decode cX7_likeliest 31 = .ok (.invokevirtual 450, 3) := dk_182 1 194 (dk_at dksX7_likeliest_1 7 rfl rfl)
theorem dX7_likeliest_34 : decode cX7_likeliest 34 = .ok (.if_icmp .ge 24, 3) := dk_162 0 24 (dk_at dksX7_likeliest_1 10 rfl rfl)
theorem dX7_likeliest_37 : decode cX7_likeliest 37 = .ok (.aload_n 0, 1) := dk_42 (dk_at dksX7_likeliest_1 13 rfl rfl)
theorem dX7_likeliest_38 : decode cX7_likeliest 38 = .ok (.iload_n 2, 1) := dk_28 (dk_at dksX7_likeliest_1 14 rfl rfl)
theorem dX7_likeliest_39 : decode cX7_likeliest 39 = .ok (.invokevirtual 541, 3) := dk_182 2 29 (dk_at dksX7_likeliest_1 15 rfl rfl)
theorem dX7_likeliest_42 : decode cX7_likeliest 42 = .ok (.aload_n 0, 1) := dk_42 (dk_at dksX7_likeliest_1 18 rfl rfl)
theorem dX7_likeliest_43 : decode cX7_likeliest 43 = .ok (.iload_n 1, 1) := dk_27 (dk_at dksX7_likeliest_1 19 rfl rfl)
theorem dX7_likeliest_44 : decode cX7_likeliest 44 = .ok (.invokevirtual 541, 3) := dk_182 2 29 (dk_at dksX7_likeliest_1 20 rfl rfl)
theorem dX7_likeliest_47 : decode cX7_likeliest 47 = .ok (.if_icmp .le 5, 3) := dk_164 0 5 (dk_at dksX7_likeliest_2 0 rfl rfl)
theorem dX7_likeliest_50 : decode cX7_likeliest 50 = .ok (.iload_n 2, 1) := dk_28 (dk_at dksX7_likeliest_2 3 rfl rfl)
theorem dX7_likeliest_51 : decode cX7_likeliest 51 = .ok (.istore_n 1, 1) := dk_60 (dk_at dksX7_likeliest_2 4 rfl rfl)
theorem dX7_likeliest_52 : decode cX7_likeliest 52 = .ok (.iinc 2 1, 3) := dk_132 2 1 (dk_at dksX7_likeliest_2 5 rfl rfl)
theorem dX7_likeliest_55 : decode cX7_likeliest 55 = .ok (.goto (-29), 3) := dk_167 255 227 (dk_at dksX7_likeliest_2 8 rfl rfl)
theorem dX7_likeliest_58 : decode cX7_likeliest 58 = .ok (.aload_n 0, 1) := dk_42 (dk_at dksX7_likeliest_2 11 rfl rfl)
theorem dX7_likeliest_59 : decode cX7_likeliest 59 = .ok (.iload_n 1, 1) := dk_27 (dk_at dksX7_likeliest_2 12 rfl rfl)
theorem dX7_likeliest_60 : decode cX7_likeliest 60 = .ok (.invokevirtual 76, 3) := dk_182 0 76 (dk_at dksX7_likeliest_2 13 rfl rfl)
theorem dX7_likeliest_63 : decode cX7_likeliest 63 = .ok (.ireturn, 1) := dk_172 (dk_at dksX7_likeliest_2 16 rfl rfl)
def dkwX1_proved_4 : List UInt8 := [29, 182, 1, 46, 4, 28, 120, 160, 0, 7, 21, 5, 54, 4, 132, 5, 1, 167, 255, 197, 21, 4, 172]
abbrev dktX1_proved_4 : List UInt8 := dkwX1_proved_4 ++ []
def dkwX1_proved_3 : List UInt8 := [159, 0, 16, 21, 5, 21, 4, 184, 1, 49, 154, 0, 6, 167, 0, 25, 42, 21, 5, 182, 1, 37, 42, 27]
abbrev dktX1_proved_3 : List UInt8 := dkwX1_proved_3 ++ dktX1_proved_4
def dkwX1_proved_2 : List UInt8 := [54, 4, 3, 54, 5, 21, 5, 4, 42, 180, 0, 104, 180, 0, 139, 120, 162, 0, 51, 21, 4, 16, 254]
abbrev dktX1_proved_2 : List UInt8 := dkwX1_proved_2 ++ dktX1_proved_3
def dkwX1_proved_1 : List UInt8 := [182, 0, 94, 172, 42, 29, 182, 0, 244, 154, 0, 9, 42, 5, 182, 0, 94, 172, 42, 182, 1, 34, 16, 254]
abbrev dktX1_proved_1 : List UInt8 := dkwX1_proved_1 ++ dktX1_proved_2
def dkwX1_proved_0 : List UInt8 := [42, 182, 0, 80, 42, 27, 182, 0, 232, 153, 0, 11, 42, 28, 182, 0, 151, 154, 0, 9, 42, 4]
abbrev dktX1_proved_0 : List UInt8 := dkwX1_proved_0 ++ dktX1_proved_1
theorem dksX1_proved_0 : cX1_proved.data.toList.drop 0 = dktX1_proved_0 := by decide +kernel
theorem dksX1_proved_1 : cX1_proved.data.toList.drop 22 = dktX1_proved_1 := dk_seg dksX1_proved_0 22 rfl rfl
theorem dksX1_proved_2 : cX1_proved.data.toList.drop 46 = dktX1_proved_2 := dk_seg dksX1_proved_1 24 rfl rfl
theorem dksX1_proved_3 : cX1_proved.data.toList.drop 69 = dktX1_proved_3 := dk_seg dksX1_proved_2 23 rfl rfl
theorem dksX1_proved_4 : cX1_proved.data.toList.drop 93 = dktX1_proved_4 := dk_seg dksX1_proved_3 24 rfl rfl
theorem dX1_proved_0 : decode cX1_proved 0 = .ok (.aload_n 0, 1) := dk_42 (dk_at dksX1_proved_0 0 rfl rfl)
theorem dX1_proved_1 : decode cX1_proved 1 = .ok (.invokevirtual 80, 3) := dk_182 0 80 (dk_at dksX1_proved_0 1 rfl rfl)
theorem dX1_proved_4 : decode cX1_proved 4 = .ok (.aload_n 0, 1) := dk_42 (dk_at dksX1_proved_0 4 rfl rfl)
theorem dX1_proved_5 : decode cX1_proved 5 = .ok (.iload_n 1, 1) := dk_27 (dk_at dksX1_proved_0 5 rfl rfl)
theorem dX1_proved_6 : decode cX1_proved 6 = .ok (.invokevirtual 232, 3) := dk_182 0 232 (dk_at dksX1_proved_0 6 rfl rfl)
theorem dX1_proved_9 : decode cX1_proved 9 = .ok (.ifCond .eq 11, 3) := dk_153 0 11 (dk_at dksX1_proved_0 9 rfl rfl)
theorem dX1_proved_12 : decode cX1_proved 12 = .ok (.aload_n 0, 1) := dk_42 (dk_at dksX1_proved_0 12 rfl rfl)
theorem dX1_proved_13 : decode cX1_proved 13 = .ok (.iload_n 2, 1) := dk_28 (dk_at dksX1_proved_0 13 rfl rfl)
theorem dX1_proved_14 : decode cX1_proved 14 = .ok (.invokevirtual 151, 3) := dk_182 0 151 (dk_at dksX1_proved_0 14 rfl rfl)
theorem dX1_proved_17 : decode cX1_proved 17 = .ok (.ifCond .ne 9, 3) := dk_154 0 9 (dk_at dksX1_proved_0 17 rfl rfl)
theorem dX1_proved_20 : decode cX1_proved 20 = .ok (.aload_n 0, 1) := dk_42 (dk_at dksX1_proved_0 20 rfl rfl)
theorem dX1_proved_21 : decode cX1_proved 21 = .ok (.iconst 1, 1) := dk_4 (dk_at dksX1_proved_0 21 rfl rfl)
theorem dX1_proved_22 : decode cX1_proved 22 = .ok (.invokevirtual 94, 3) := dk_182 0 94 (dk_at dksX1_proved_1 0 rfl rfl)
theorem dX1_proved_25 : decode cX1_proved 25 = .ok (.ireturn, 1) := dk_172 (dk_at dksX1_proved_1 3 rfl rfl)
theorem dX1_proved_26 : decode cX1_proved 26 = .ok (.aload_n 0, 1) := dk_42 (dk_at dksX1_proved_1 4 rfl rfl)
theorem dX1_proved_27 : decode cX1_proved 27 = .ok (.iload_n 3, 1) := dk_29 (dk_at dksX1_proved_1 5 rfl rfl)
theorem dX1_proved_28 : decode cX1_proved 28 = .ok (.invokevirtual 244, 3) := dk_182 0 244 (dk_at dksX1_proved_1 6 rfl rfl)
theorem dX1_proved_31 : decode cX1_proved 31 = .ok (.ifCond .ne 9, 3) := dk_154 0 9 (dk_at dksX1_proved_1 9 rfl rfl)
theorem dX1_proved_34 : decode cX1_proved 34 = .ok (.aload_n 0, 1) := dk_42 (dk_at dksX1_proved_1 12 rfl rfl)
theorem dX1_proved_35 : decode cX1_proved 35 = .ok (.iconst 2, 1) := dk_5 (dk_at dksX1_proved_1 13 rfl rfl)
theorem dX1_proved_36 : decode cX1_proved 36 = .ok (.invokevirtual 94, 3) := dk_182 0 94 (dk_at dksX1_proved_1 14 rfl rfl)
theorem dX1_proved_39 : decode cX1_proved 39 = .ok (.ireturn, 1) := dk_172 (dk_at dksX1_proved_1 17 rfl rfl)
theorem dX1_proved_40 : decode cX1_proved 40 = .ok (.aload_n 0, 1) := dk_42 (dk_at dksX1_proved_1 18 rfl rfl)
theorem dX1_proved_41 : decode cX1_proved 41 = .ok (.invokevirtual 290, 3) := dk_182 1 34 (dk_at dksX1_proved_1 19 rfl rfl)
theorem dX1_proved_44 : decode cX1_proved 44 = .ok (.bipush (-2), 2) := dk_16 254 (dk_at dksX1_proved_1 22 rfl rfl)
theorem dX1_proved_46 : decode cX1_proved 46 = .ok (.istore 4, 2) := dk_54 4 (dk_at dksX1_proved_2 0 rfl rfl)
theorem dX1_proved_48 : decode cX1_proved 48 = .ok (.iconst 0, 1) := dk_3 (dk_at dksX1_proved_2 2 rfl rfl)
theorem dX1_proved_49 : decode cX1_proved 49 = .ok (.istore 5, 2) := dk_54 5 (dk_at dksX1_proved_2 3 rfl rfl)
theorem dX1_proved_51 : decode cX1_proved 51 = .ok (.iload 5, 2) := dk_21 5 (dk_at dksX1_proved_2 5 rfl rfl)
theorem dX1_proved_53 : decode cX1_proved 53 = .ok (.iconst 1, 1) := dk_4 (dk_at dksX1_proved_2 7 rfl rfl)
theorem dX1_proved_54 : decode cX1_proved 54 = .ok (.aload_n 0, 1) := dk_42 (dk_at dksX1_proved_2 8 rfl rfl)
theorem dX1_proved_55 : decode cX1_proved 55 = .ok (.getfield 104, 3) := dk_180 0 104 (dk_at dksX1_proved_2 9 rfl rfl)
theorem dX1_proved_58 : decode cX1_proved 58 = .ok (.getfield 139, 3) := dk_180 0 139 (dk_at dksX1_proved_2 12 rfl rfl)
theorem dX1_proved_61 : decode cX1_proved 61 = .ok (.ishl, 1) := dk_120 (dk_at dksX1_proved_2 15 rfl rfl)
theorem dX1_proved_62 : decode cX1_proved 62 = .ok (.if_icmp .ge 51, 3) := dk_162 0 51 (dk_at dksX1_proved_2 16 rfl rfl)
theorem dX1_proved_65 : decode cX1_proved 65 = .ok (.iload 4, 2) := dk_21 4 (dk_at dksX1_proved_2 19 rfl rfl)
theorem dX1_proved_67 : decode cX1_proved 67 = .ok (.bipush (-2), 2) := dk_16 254 (dk_at dksX1_proved_2 21 rfl rfl)
theorem dX1_proved_69 : decode cX1_proved 69 = .ok (.if_icmp .eq 16, 3) := dk_159 0 16 (dk_at dksX1_proved_3 0 rfl rfl)
theorem dX1_proved_72 : decode cX1_proved 72 = .ok (.iload 5, 2) := dk_21 5 (dk_at dksX1_proved_3 3 rfl rfl)
theorem dX1_proved_74 : decode cX1_proved 74 = .ok (.iload 4, 2) := dk_21 4 (dk_at dksX1_proved_3 5 rfl rfl)
theorem dX1_proved_76 : decode cX1_proved 76 = .ok (.invokestatic 305, 3) := dk_184 1 49 (dk_at dksX1_proved_3 7 rfl rfl)
theorem dX1_proved_79 : decode cX1_proved 79 = .ok (.ifCond .ne 6, 3) := dk_154 0 6 (dk_at dksX1_proved_3 10 rfl rfl)
theorem dX1_proved_82 : decode cX1_proved 82 = .ok (.goto 25, 3) := dk_167 0 25 (dk_at dksX1_proved_3 13 rfl rfl)
theorem dX1_proved_85 : decode cX1_proved 85 = .ok (.aload_n 0, 1) := dk_42 (dk_at dksX1_proved_3 16 rfl rfl)
theorem dX1_proved_86 : decode cX1_proved 86 = .ok (.iload 5, 2) := dk_21 5 (dk_at dksX1_proved_3 17 rfl rfl)
theorem dX1_proved_88 : decode cX1_proved 88 = .ok (.invokevirtual 293, 3) := dk_182 1 37 (dk_at dksX1_proved_3 19 rfl rfl)
theorem dX1_proved_91 : decode cX1_proved 91 = .ok (.aload_n 0, 1) := dk_42 (dk_at dksX1_proved_3 22 rfl rfl)
theorem dX1_proved_92 : decode cX1_proved 92 = .ok (.iload_n 1, 1) := dk_27 (dk_at dksX1_proved_3 23 rfl rfl)
theorem dX1_proved_93 : decode cX1_proved 93 = .ok (.iload_n 3, 1) := dk_29 (dk_at dksX1_proved_4 0 rfl rfl)
theorem dX1_proved_94 : decode cX1_proved 94 = .ok (.invokevirtual 302, 3) := dk_182 1 46 (dk_at dksX1_proved_4 1 rfl rfl)
theorem dX1_proved_97 : decode cX1_proved 97 = .ok (.iconst 1, 1) := dk_4 (dk_at dksX1_proved_4 4 rfl rfl)
theorem dX1_proved_98 : decode cX1_proved 98 = .ok (.iload_n 2, 1) := dk_28 (dk_at dksX1_proved_4 5 rfl rfl)
theorem dX1_proved_99 : decode cX1_proved 99 = .ok (.ishl, 1) := dk_120 (dk_at dksX1_proved_4 6 rfl rfl)
theorem dX1_proved_100 : decode cX1_proved 100 = .ok (.if_icmp .ne 7, 3) := dk_160 0 7 (dk_at dksX1_proved_4 7 rfl rfl)
theorem dX1_proved_103 : decode cX1_proved 103 = .ok (.iload 5, 2) := dk_21 5 (dk_at dksX1_proved_4 10 rfl rfl)
theorem dX1_proved_105 : decode cX1_proved 105 = .ok (.istore 4, 2) := dk_54 4 (dk_at dksX1_proved_4 12 rfl rfl)
theorem dX1_proved_107 : decode cX1_proved 107 = .ok (.iinc 5 1, 3) := dk_132 5 1 (dk_at dksX1_proved_4 14 rfl rfl)
theorem dX1_proved_110 : decode cX1_proved 110 = .ok (.goto (-59), 3) := dk_167 255 197 (dk_at dksX1_proved_4 17 rfl rfl)
theorem dX1_proved_113 : decode cX1_proved 113 = .ok (.iload 4, 2) := dk_21 4 (dk_at dksX1_proved_4 20 rfl rfl)
theorem dX1_proved_115 : decode cX1_proved 115 = .ok (.ireturn, 1) := dk_172 (dk_at dksX1_proved_4 22 rfl rfl)
theorem fp_X7_fits_66 : FP mX7_fits 66 [26] 0 (tyOf 0) := fun kd h => (by cases List.mem_singleton.mp h; exact ⟨6, _, 0, "GoatCourtModel", rfl, rfl, by decide, rfl, rfl, Or.inl rfl, Or.inl ⟨rfl, Or.inl q1889⟩⟩)
theorem fp_X7_fit_66 : FP mX7_fit 66 [26] 0 (tyOf 0) := fun kd h => (by cases List.mem_singleton.mp h; exact ⟨6, _, 0, "GoatCourtModel", rfl, rfl, by decide, rfl, rfl, Or.inl rfl, Or.inl ⟨rfl, Or.inl q1889⟩⟩)
theorem fp_X7_could_66 : FP mX7_could 66 [26] 0 (tyOf 0) := fun kd h => (by cases List.mem_singleton.mp h; exact ⟨6, _, 0, "GoatCourtModel", rfl, rfl, by decide, rfl, rfl, Or.inl rfl, Or.inl ⟨rfl, Or.inl q1889⟩⟩)
theorem fp_X7_surely_66 : FP mX7_surely 66 [26] 0 (tyOf 0) := fun kd h => (by cases List.mem_singleton.mp h; exact ⟨6, _, 0, "GoatCourtModel", rfl, rfl, by decide, rfl, rfl, Or.inl rfl, Or.inl ⟨rfl, Or.inl q1889⟩⟩)
theorem fp_X7_lies_66 : FP mX7_lies 66 [26] 0 (tyOf 0) := fun kd h => (by cases List.mem_singleton.mp h; exact ⟨6, _, 0, "GoatCourtModel", rfl, rfl, by decide, rfl, rfl, Or.inl rfl, Or.inl ⟨rfl, Or.inl q1889⟩⟩)
theorem fp_X7_falseOnes_66 : FP mX7_falseOnes 66 [26] 0 (tyOf 0) := fun kd h => (by cases List.mem_singleton.mp h; exact ⟨6, _, 0, "GoatCourtModel", rfl, rfl, by decide, rfl, rfl, Or.inl rfl, Or.inl ⟨rfl, Or.inl q1889⟩⟩)
theorem fp_X7_odds_66 : FP mX7_odds 66 [26] 0 (tyOf 0) := fun kd h => (by cases List.mem_singleton.mp h; exact ⟨6, _, 0, "GoatCourtModel", rfl, rfl, by decide, rfl, rfl, Or.inl rfl, Or.inl ⟨rfl, Or.inl q1889⟩⟩)
theorem fp_X7_likeliest_66 : FP mX7_likeliest 66 [26] 0 (tyOf 0) := fun kd h => (by cases List.mem_singleton.mp h; exact ⟨6, _, 0, "GoatCourtModel", rfl, rfl, by decide, rfl, rfl, Or.inl rfl, Or.inl ⟨rfl, Or.inl q1889⟩⟩)
theorem w_X7_fits_b55 (G : Gx) (h0 : G0 G) (N : Nat) (K26 : Nat → Int32 → Int32 → Mem → Option (Int32 × Mem)) (hK26 : ∀ (a0 : Nat) (l1 : Int32) (l2 : Int32) (σ : Mem), Runs G mX7_fits rhoI σ 26 [some (vR (some a0)), some (vI l1), some (vI l2)] [] (K26 a0 l1 l2 σ)) (a0 : Nat) (l2 : Int32) (t0 : Int32) (t1 : Int32) (σ : Mem) : Runs G mX7_fits rhoI σ 55 [some (vR (some a0)), none, some (vI l2)] [vI t1, vI t0] (f_X7_fits_b55 N K26 a0 l2 t0 t1 σ) := by
  unfold f_X7_fits_b55
  refine r_iadd (q := 56) dX7_fits_55 rfl ?_
  refine r_istore_n (q := 57) dX7_fits_56 rfl rfl (Nat.le_of_ble_eq_true rfl) rfl ?_
  refine r_iinc (q := 60) (v := (1 : Int32)) dX7_fits_57 rfl rfl (by decide) (Nat.le_of_ble_eq_true rfl) rfl ?_
  refine r_goto (q := 26) dX7_fits_60 (by decide) ?_
  exact r_le (hK26 _ _ _ _) (Nat.le_refl _) (And.intro rfl (And.intro rfl (And.intro rfl trivial)))
theorem w_X7_fits_b26B (G : Gx) (h0 : G0 G) (N : Nat)   (K26 : Nat → Int32 → Int32 → Mem → Option (Int32 × Mem)) (hK26 : ∀ (a0 : Nat) (l1 : Int32) (l2 : Int32) (σ : Mem), Runs G mX7_fits rhoI σ 26 [some (vR (some a0)), some (vI l1), some (vI l2)] [] (K26 a0 l1 l2 σ)) (a0 : Nat) (l1 : Int32) (l2 : Int32) (σ : Mem) : Runs G mX7_fits rhoI σ 26 [some (vR (some a0)), some (vI l1), some (vI l2)] [] (f_X7_fits_b26B N  K26 a0 l1 l2 σ) := by
  unfold f_X7_fits_b26B
  refine r_iload_n (q := 27) dX7_fits_26 rfl rfl rfl ?_
  refine r_aload_n (q := 28) dX7_fits_27 rfl rfl rfl ?_
  refine r_gR (q := 31) fl_X7_442 rfl dX7_fits_28 rfl (fun x1 => ?_)
  refine r_ob (fun a4 ha4 => ?_)
  obtain ⟨hea4, hka4⟩ := o_at_eq ha4
  cases hea4
  refine r_callI (q := 34) (c_X24_cases G h0 N _ _) (cl_V (ci := 20) rfl rfl (lw_V q2375 q2376 q2377 q199 q2378) (hd_X24_cases) ⟨Nat.le_of_ble_eq_true rfl, Nat.le_of_ble_eq_true rfl⟩ (List.mem_singleton.mp hka4) rfl rfl rfl (Nat.le_of_ble_eq_true rfl) dX7_fits_31) rfl (fun x2 σ3 => ?_)
  refine r_icmp_ge (q := 37) (t := 63) dX7_fits_34 rfl (by decide) (fun _ => ?_) (fun _ => ?_)
  · refine r_aload_n (q := 64) dX7_fits_63 rfl rfl rfl ?_
    refine r_iload_n (q := 65) dX7_fits_64 rfl rfl rfl ?_
    refine r_ob (fun a7 ha7 => ?_)
    obtain ⟨hea7, hka7⟩ := o_at_eq ha7
    cases hea7
    refine r_callI (q := 68) (c_X7_good G h0 N _ _ _) (cl_V (ci := 6) rfl rfl (lw_V q2379 q2381 qs118 q176 q2382) (hd_X7_good) ⟨Nat.le_of_ble_eq_true rfl, Nat.le_of_ble_eq_true rfl⟩ (List.mem_singleton.mp hka7) rfl rfl rfl (Nat.le_of_ble_eq_true rfl) dX7_fits_65) rfl (fun x5 σ6 => ?_)
    exact r_ireturn rfl rfl dX7_fits_68
  · refine r_iload_n (q := 38) dX7_fits_37 rfl rfl rfl ?_
    refine r_aload_n (q := 39) dX7_fits_38 rfl rfl rfl ?_
    refine r_iload_n (q := 40) dX7_fits_39 rfl rfl rfl ?_
    refine r_aload_n (q := 41) dX7_fits_40 rfl rfl rfl ?_
    refine r_ob (fun a10 ha10 => ?_)
    obtain ⟨hea10, hka10⟩ := o_at_eq ha10
    cases hea10
    refine r_callI (q := 44) (c_X7_heard G h0 N _ _) (cl_V (ci := 6) rfl rfl (lw_V q2549 q2551 qs139 q176 q2552) (hd_X7_heard) ⟨Nat.le_of_ble_eq_true rfl, Nat.le_of_ble_eq_true rfl⟩ (List.mem_singleton.mp hka10) rfl rfl rfl (Nat.le_of_ble_eq_true rfl) dX7_fits_41) rfl (fun x8 σ9 => ?_)
    refine r_ob (fun a13 ha13 => ?_)
    obtain ⟨hea13, hka13⟩ := o_at_eq ha13
    cases hea13
    refine r_callI (q := 47) (c_X7_areTrue G h0 N _ _ _ _) (cl_V (ci := 6) rfl rfl (lw_V q2557 q2559 qs141 q176 q2560) (hd_X7_areTrue) ⟨Nat.le_of_ble_eq_true rfl, Nat.le_of_ble_eq_true rfl⟩ (List.mem_singleton.mp hka13) rfl rfl rfl (Nat.le_of_ble_eq_true rfl) dX7_fits_44) rfl (fun x11 σ12 => ?_)
    refine r_if_eq (q := 50) (t := 54) dX7_fits_47 rfl (by decide) (fun _ => ?_) (fun _ => ?_)
    · refine r_iconst (q := 55) (v := (0 : Int32)) dX7_fits_54 rfl (by decide) ?_
      exact r_le (w_X7_fits_b55 G h0 N K26 hK26 _ _ _ _ _) (Nat.le_refl _) (And.intro rfl (And.intro rfl trivial))
    · refine r_iconst (q := 51) (v := (1 : Int32)) dX7_fits_50 rfl (by decide) ?_
      refine r_goto (q := 55) dX7_fits_51 (by decide) ?_
      exact r_le (w_X7_fits_b55 G h0 N K26 hK26 _ _ _ _ _) (Nat.le_refl _) (And.intro rfl (And.intro rfl trivial))
theorem w_X7_fits_b26 (G : Gx) (h0 : G0 G) (N : Nat)   : ∀ (z : Nat) (a0 : Nat) (l1 : Int32) (l2 : Int32) (σ : Mem), Runs G mX7_fits rhoI σ 26 [some (vR (some a0)), some (vI l1), some (vI l2)] [] (f_X7_fits_b26 N  z a0 l1 l2 σ) := by
  intro z
  induction z with
  | zero => exact fun _ _ _ _ => r_none
  | succ z ih => exact fun a0 l1 l2 σ => w_X7_fits_b26B G h0 N   _ ih a0 l1 l2 σ
theorem c_X7_fits (G : Gx) (h0 : G0 G) (N : Nat) (a0 : Nat) (σ : Mem) : Ct G mX7_fits rhoI [vR (some a0)] σ (f_X7_fits N a0 σ) := by
  refine Ct_of h0 (by decide) rfl (Nat.le_of_ble_eq_true rfl) (L0 := [some (vR (some a0)), none, none]) rfl ?_
  unfold f_X7_fits
  refine r_aload_n (q := 1) dX7_fits_0 rfl rfl rfl ?_
  refine r_iconst (q := 2) (v := (0 : Int32)) dX7_fits_1 rfl (by decide) ?_
  refine r_pI (q := 5) fp_X7_fits_66 dX7_fits_2 rfl (fun σ1 => ?_)
  refine r_aload_n (q := 6) dX7_fits_5 rfl rfl rfl ?_
  refine r_gR (q := 9) fl_X7_442 rfl dX7_fits_6 rfl (fun x2 => ?_)
  refine r_ifnonnull (q := 12) (t := 18) dX7_fits_9 rfl (by decide) (fun _ => ?_) (fun _ => ?_)
  · refine r_aload_n (q := 13) dX7_fits_12 rfl rfl rfl ?_
    refine r_iconst (q := 14) (v := (1 : Int32)) dX7_fits_13 rfl (by decide) ?_
    refine r_ob (fun a8 ha8 => ?_)
    obtain ⟨hea8, hka8⟩ := o_at_eq ha8
    cases hea8
    refine r_callI (q := 17) (c_X7_refused G h0 N _ _ _) (cl_V (ci := 6) rfl rfl (lw_V q2019 q2021 qs83 q176 q2022) (hd_X7_refused) ⟨Nat.le_of_ble_eq_true rfl, Nat.le_of_ble_eq_true rfl⟩ (List.mem_singleton.mp hka8) rfl rfl rfl (Nat.le_of_ble_eq_true rfl) dX7_fits_14) rfl (fun x6 σ7 => ?_)
    exact r_ireturn rfl rfl dX7_fits_17
  · refine r_aload_n (q := 19) dX7_fits_18 rfl rfl rfl ?_
    refine r_ob (fun a5 ha5 => ?_)
    obtain ⟨hea5, hka5⟩ := o_at_eq ha5
    cases hea5
    refine r_callV (q := 22) (c_X7_laysHonest G h0 N _ _) (cl_V (ci := 6) rfl rfl (lw_V q2545 q2547 qs138 q176 q2548) (hd_X7_laysHonest) ⟨Nat.le_of_ble_eq_true rfl, Nat.le_of_ble_eq_true rfl⟩ (List.mem_singleton.mp hka5) rfl rfl rfl (Nat.le_of_ble_eq_true rfl) dX7_fits_19) rfl (fun u3 σ4 => ?_)
    refine r_iconst (q := 23) (v := (0 : Int32)) dX7_fits_22 rfl (by decide) ?_
    refine r_istore_n (q := 24) dX7_fits_23 rfl rfl (Nat.le_of_ble_eq_true rfl) rfl ?_
    refine r_iconst (q := 25) (v := (0 : Int32)) dX7_fits_24 rfl (by decide) ?_
    refine r_istore_n (q := 26) dX7_fits_25 rfl rfl (Nat.le_of_ble_eq_true rfl) rfl ?_
    exact r_le (w_X7_fits_b26 G h0 N N _ _ _ _) (Nat.le_refl _) (And.intro rfl (And.intro rfl (And.intro rfl trivial)))
theorem w_X1_fit_b15 (G : Gx) (h0 : G0 G) (N : Nat)   (a0 : Nat) (σ : Mem) : Runs G mX1_fit rhoI σ 15 [some (vR (some a0)), none] [] (f_X1_fit_b15 N  a0 σ) := by
  unfold f_X1_fit_b15
  refine r_aload_n (q := 16) dX1_fit_15 rfl rfl rfl ?_
  refine r_iconst (q := 17) (v := (1 : Int32)) dX1_fit_16 rfl (by decide) ?_
  refine r_ob (fun a3 ha3 => ?_)
  obtain ⟨hea3, hka3⟩ := o_at_eq ha3
  cases hea3
  refine r_callI (q := 20) (c_X1_no G h0 N _ _ _) (cl_V (ci := 0) rfl rfl (lw_V q492 q494 qs3 q167 q495) (hd_X1_no) ⟨Nat.le_of_ble_eq_true rfl, Nat.le_of_ble_eq_true rfl⟩ (List.mem_singleton.mp hka3) rfl rfl rfl (Nat.le_of_ble_eq_true rfl) dX1_fit_17) rfl (fun x1 σ2 => ?_)
  exact r_ireturn rfl rfl dX1_fit_20
theorem c_X1_fit (G : Gx) (h0 : G0 G) (N : Nat) (a0 : Nat) (i1 : Int32) (σ : Mem) : Ct G mX1_fit rhoI [vR (some a0), vI i1] σ (f_X1_fit N a0 i1 σ) := by
  refine Ct_of h0 (by decide) rfl (Nat.le_of_ble_eq_true rfl) (L0 := [some (vR (some a0)), some (vI i1)]) rfl ?_
  unfold f_X1_fit
  refine r_aload_n (q := 1) dX1_fit_0 rfl rfl rfl ?_
  refine r_ob (fun a3 ha3 => ?_)
  obtain ⟨hea3, hka3⟩ := o_at_eq ha3
  cases hea3
  refine r_callV (q := 4) (c_X1_anew G h0 N _ _) (cl_V (ci := 0) rfl rfl (lw_V q485 q487 qs2 q167 q488) (hd_X1_anew) ⟨Nat.le_of_ble_eq_true rfl, Nat.le_of_ble_eq_true rfl⟩ (List.mem_singleton.mp hka3) rfl rfl rfl (Nat.le_of_ble_eq_true rfl) dX1_fit_1) rfl (fun u1 σ2 => ?_)
  refine r_aload_n (q := 5) dX1_fit_4 rfl rfl rfl ?_
  refine r_gR (q := 8) fl_X1_104 rfl dX1_fit_5 rfl (fun x4 => ?_)
  refine r_ifnull (q := 11) (t := 15) dX1_fit_8 rfl (by decide) (fun _ => ?_) (fun _ => ?_)
  · exact r_le (w_X1_fit_b15 G h0 N _ _) (Nat.le_refl _) (And.intro rfl trivial)
  · refine r_iload_n (q := 12) dX1_fit_11 rfl rfl rfl ?_
    refine r_if_ge (q := 15) (t := 21) dX1_fit_12 rfl (by decide) (fun _ => ?_) (fun _ => ?_)
    · refine r_aload_n (q := 22) dX1_fit_21 rfl rfl rfl ?_
      refine r_ob (fun a7 ha7 => ?_)
      obtain ⟨hea7, hka7⟩ := o_at_eq ha7
      cases hea7
      refine r_callV (q := 25) (c_X1_layHeard G h0 N _ _) (cl_V (ci := 0) rfl rfl (lw_V q1576 q1578 qs60 q167 q1579) (hd_X1_layHeard) ⟨Nat.le_of_ble_eq_true rfl, Nat.le_of_ble_eq_true rfl⟩ (List.mem_singleton.mp hka7) rfl rfl rfl (Nat.le_of_ble_eq_true rfl) dX1_fit_22) rfl (fun u5 σ6 => ?_)
      refine r_iload_n (q := 26) dX1_fit_25 rfl rfl rfl ?_
      refine r_aload_n (q := 27) dX1_fit_26 rfl rfl rfl ?_
      refine r_gI (q := 30) fl_X1_287 dX1_fit_27 rfl (fun x8 => ?_)
      refine r_icmp_ge (q := 33) (t := 42) dX1_fit_30 rfl (by decide) (fun _ => ?_) (fun _ => ?_)
      · refine r_aload_n (q := 43) dX1_fit_42 rfl rfl rfl ?_
        refine r_iconst (q := 44) (v := (1 : Int32)) dX1_fit_43 rfl (by decide) ?_
        refine r_ob (fun a11 ha11 => ?_)
        obtain ⟨hea11, hka11⟩ := o_at_eq ha11
        cases hea11
        refine r_callI (q := 47) (c_X1_no G h0 N _ _ _) (cl_V (ci := 0) rfl rfl (lw_V q492 q494 qs3 q167 q495) (hd_X1_no) ⟨Nat.le_of_ble_eq_true rfl, Nat.le_of_ble_eq_true rfl⟩ (List.mem_singleton.mp hka11) rfl rfl rfl (Nat.le_of_ble_eq_true rfl) dX1_fit_44) rfl (fun x9 σ10 => ?_)
        exact r_ireturn rfl rfl dX1_fit_47
      · refine r_aload_n (q := 34) dX1_fit_33 rfl rfl rfl ?_
        refine r_gR (q := 37) fl_X1_68 rfl dX1_fit_34 rfl (fun x12 => ?_)
        refine r_iload_n (q := 38) dX1_fit_37 rfl rfl rfl ?_
        refine r_iaload (q := 39) dX1_fit_38 rfl (fun x13 => ?_)
        refine r_goto (q := 47) dX1_fit_39 (by decide) ?_
        exact r_ireturn rfl rfl dX1_fit_47
    · exact r_le (w_X1_fit_b15 G h0 N _ _) (Nat.le_refl _) (And.intro rfl trivial)
theorem w_X7_fit_b66 (G : Gx) (h0 : G0 G) (N : Nat) (K26 : Nat → Int32 → Int32 → Int32 → Mem → Option (Int32 × Mem)) (hK26 : ∀ (a0 : Nat) (l1 : Int32) (l2 : Int32) (l3 : Int32) (σ : Mem), Runs G mX7_fit rhoI σ 26 [some (vR (some a0)), some (vI l1), some (vI l2), some (vI l3)] [] (K26 a0 l1 l2 l3 σ)) (a0 : Nat) (l1 : Int32) (l2 : Int32) (l3 : Int32) (σ : Mem) : Runs G mX7_fit rhoI σ 66 [some (vR (some a0)), some (vI l1), some (vI l2), some (vI l3)] [] (f_X7_fit_b66 N K26 a0 l1 l2 l3 σ) := by
  unfold f_X7_fit_b66
  refine r_iinc (q := 69) (v := (1 : Int32)) dX7_fit_66 rfl rfl (by decide) (Nat.le_of_ble_eq_true rfl) rfl ?_
  refine r_goto (q := 26) dX7_fit_69 (by decide) ?_
  exact r_le (hK26 _ _ _ _ _) (Nat.le_refl _) (And.intro rfl (And.intro rfl (And.intro rfl (And.intro rfl trivial))))
theorem w_X7_fit_b26B (G : Gx) (h0 : G0 G) (N : Nat)   (K26 : Nat → Int32 → Int32 → Int32 → Mem → Option (Int32 × Mem)) (hK26 : ∀ (a0 : Nat) (l1 : Int32) (l2 : Int32) (l3 : Int32) (σ : Mem), Runs G mX7_fit rhoI σ 26 [some (vR (some a0)), some (vI l1), some (vI l2), some (vI l3)] [] (K26 a0 l1 l2 l3 σ)) (a0 : Nat) (l1 : Int32) (l2 : Int32) (l3 : Int32) (σ : Mem) : Runs G mX7_fit rhoI σ 26 [some (vR (some a0)), some (vI l1), some (vI l2), some (vI l3)] [] (f_X7_fit_b26B N  K26 a0 l1 l2 l3 σ) := by
  unfold f_X7_fit_b26B
  refine r_iload_n (q := 27) dX7_fit_26 rfl rfl rfl ?_
  refine r_aload_n (q := 28) dX7_fit_27 rfl rfl rfl ?_
  refine r_gR (q := 31) fl_X7_442 rfl dX7_fit_28 rfl (fun x1 => ?_)
  refine r_ob (fun a4 ha4 => ?_)
  obtain ⟨hea4, hka4⟩ := o_at_eq ha4
  cases hea4
  refine r_callI (q := 34) (c_X24_cases G h0 N _ _) (cl_V (ci := 20) rfl rfl (lw_V q2375 q2376 q2377 q199 q2378) (hd_X24_cases) ⟨Nat.le_of_ble_eq_true rfl, Nat.le_of_ble_eq_true rfl⟩ (List.mem_singleton.mp hka4) rfl rfl rfl (Nat.le_of_ble_eq_true rfl) dX7_fit_31) rfl (fun x2 σ3 => ?_)
  refine r_icmp_ge (q := 37) (t := 72) dX7_fit_34 rfl (by decide) (fun _ => ?_) (fun _ => ?_)
  · refine r_aload_n (q := 73) dX7_fit_72 rfl rfl rfl ?_
    refine r_iconst (q := 74) (v := (1 : Int32)) dX7_fit_73 rfl (by decide) ?_
    refine r_ob (fun a7 ha7 => ?_)
    obtain ⟨hea7, hka7⟩ := o_at_eq ha7
    cases hea7
    refine r_callI (q := 77) (c_X7_refused G h0 N _ _ _) (cl_V (ci := 6) rfl rfl (lw_V q2019 q2021 qs83 q176 q2022) (hd_X7_refused) ⟨Nat.le_of_ble_eq_true rfl, Nat.le_of_ble_eq_true rfl⟩ (List.mem_singleton.mp hka7) rfl rfl rfl (Nat.le_of_ble_eq_true rfl) dX7_fit_74) rfl (fun x5 σ6 => ?_)
    exact r_ireturn rfl rfl dX7_fit_77
  · refine r_aload_n (q := 38) dX7_fit_37 rfl rfl rfl ?_
    refine r_iload_n (q := 39) dX7_fit_38 rfl rfl rfl ?_
    refine r_aload_n (q := 40) dX7_fit_39 rfl rfl rfl ?_
    refine r_ob (fun a10 ha10 => ?_)
    obtain ⟨hea10, hka10⟩ := o_at_eq ha10
    cases hea10
    refine r_callI (q := 43) (c_X7_heard G h0 N _ _) (cl_V (ci := 6) rfl rfl (lw_V q2549 q2551 qs139 q176 q2552) (hd_X7_heard) ⟨Nat.le_of_ble_eq_true rfl, Nat.le_of_ble_eq_true rfl⟩ (List.mem_singleton.mp hka10) rfl rfl rfl (Nat.le_of_ble_eq_true rfl) dX7_fit_40) rfl (fun x8 σ9 => ?_)
    refine r_ob (fun a13 ha13 => ?_)
    obtain ⟨hea13, hka13⟩ := o_at_eq ha13
    cases hea13
    refine r_callI (q := 46) (c_X7_areTrue G h0 N _ _ _ _) (cl_V (ci := 6) rfl rfl (lw_V q2557 q2559 qs141 q176 q2560) (hd_X7_areTrue) ⟨Nat.le_of_ble_eq_true rfl, Nat.le_of_ble_eq_true rfl⟩ (List.mem_singleton.mp hka13) rfl rfl rfl (Nat.le_of_ble_eq_true rfl) dX7_fit_43) rfl (fun x11 σ12 => ?_)
    refine r_if_ne (q := 49) (t := 52) dX7_fit_46 rfl (by decide) (fun _ => ?_) (fun _ => ?_)
    · refine r_goto (q := 66) dX7_fit_49 (by decide) ?_
      exact r_le (w_X7_fit_b66 G h0 N K26 hK26 _ _ _ _ _) (Nat.le_refl _) (And.intro rfl (And.intro rfl (And.intro rfl (And.intro rfl trivial))))
    · refine r_iload_n (q := 53) dX7_fit_52 rfl rfl rfl ?_
      refine r_iload_n (q := 54) dX7_fit_53 rfl rfl rfl ?_
      refine r_icmp_ne (q := 57) (t := 63) dX7_fit_54 rfl (by decide) (fun _ => ?_) (fun _ => ?_)
      · refine r_aload_n (q := 58) dX7_fit_57 rfl rfl rfl ?_
        refine r_iload_n (q := 59) dX7_fit_58 rfl rfl rfl ?_
        refine r_ob (fun a16 ha16 => ?_)
        obtain ⟨hea16, hka16⟩ := o_at_eq ha16
        cases hea16
        refine r_callI (q := 62) (c_X7_good G h0 N _ _ _) (cl_V (ci := 6) rfl rfl (lw_V q2379 q2381 qs118 q176 q2382) (hd_X7_good) ⟨Nat.le_of_ble_eq_true rfl, Nat.le_of_ble_eq_true rfl⟩ (List.mem_singleton.mp hka16) rfl rfl rfl (Nat.le_of_ble_eq_true rfl) dX7_fit_59) rfl (fun x14 σ15 => ?_)
        exact r_ireturn rfl rfl dX7_fit_62
      · refine r_iinc (q := 66) (v := (1 : Int32)) dX7_fit_63 rfl rfl (by decide) (Nat.le_of_ble_eq_true rfl) rfl ?_
        exact r_le (w_X7_fit_b66 G h0 N K26 hK26 _ _ _ _ _) (Nat.le_refl _) (And.intro rfl (And.intro rfl (And.intro rfl (And.intro rfl trivial))))
theorem w_X7_fit_b26 (G : Gx) (h0 : G0 G) (N : Nat)   : ∀ (z : Nat) (a0 : Nat) (l1 : Int32) (l2 : Int32) (l3 : Int32) (σ : Mem), Runs G mX7_fit rhoI σ 26 [some (vR (some a0)), some (vI l1), some (vI l2), some (vI l3)] [] (f_X7_fit_b26 N  z a0 l1 l2 l3 σ) := by
  intro z
  induction z with
  | zero => exact fun _ _ _ _ _ => r_none
  | succ z ih => exact fun a0 l1 l2 l3 σ => w_X7_fit_b26B G h0 N   _ ih a0 l1 l2 l3 σ
theorem c_X7_fit (G : Gx) (h0 : G0 G) (N : Nat) (a0 : Nat) (i1 : Int32) (σ : Mem) : Ct G mX7_fit rhoI [vR (some a0), vI i1] σ (f_X7_fit N a0 i1 σ) := by
  refine Ct_of h0 (by decide) rfl (Nat.le_of_ble_eq_true rfl) (L0 := [some (vR (some a0)), some (vI i1), none, none]) rfl ?_
  unfold f_X7_fit
  refine r_aload_n (q := 1) dX7_fit_0 rfl rfl rfl ?_
  refine r_iconst (q := 2) (v := (0 : Int32)) dX7_fit_1 rfl (by decide) ?_
  refine r_pI (q := 5) fp_X7_fit_66 dX7_fit_2 rfl (fun σ1 => ?_)
  refine r_aload_n (q := 6) dX7_fit_5 rfl rfl rfl ?_
  refine r_gR (q := 9) fl_X7_442 rfl dX7_fit_6 rfl (fun x2 => ?_)
  refine r_ifnonnull (q := 12) (t := 18) dX7_fit_9 rfl (by decide) (fun _ => ?_) (fun _ => ?_)
  · refine r_aload_n (q := 13) dX7_fit_12 rfl rfl rfl ?_
    refine r_iconst (q := 14) (v := (1 : Int32)) dX7_fit_13 rfl (by decide) ?_
    refine r_ob (fun a8 ha8 => ?_)
    obtain ⟨hea8, hka8⟩ := o_at_eq ha8
    cases hea8
    refine r_callI (q := 17) (c_X7_refused G h0 N _ _ _) (cl_V (ci := 6) rfl rfl (lw_V q2019 q2021 qs83 q176 q2022) (hd_X7_refused) ⟨Nat.le_of_ble_eq_true rfl, Nat.le_of_ble_eq_true rfl⟩ (List.mem_singleton.mp hka8) rfl rfl rfl (Nat.le_of_ble_eq_true rfl) dX7_fit_14) rfl (fun x6 σ7 => ?_)
    exact r_ireturn rfl rfl dX7_fit_17
  · refine r_aload_n (q := 19) dX7_fit_18 rfl rfl rfl ?_
    refine r_ob (fun a5 ha5 => ?_)
    obtain ⟨hea5, hka5⟩ := o_at_eq ha5
    cases hea5
    refine r_callV (q := 22) (c_X7_laysHonest G h0 N _ _) (cl_V (ci := 6) rfl rfl (lw_V q2545 q2547 qs138 q176 q2548) (hd_X7_laysHonest) ⟨Nat.le_of_ble_eq_true rfl, Nat.le_of_ble_eq_true rfl⟩ (List.mem_singleton.mp hka5) rfl rfl rfl (Nat.le_of_ble_eq_true rfl) dX7_fit_19) rfl (fun u3 σ4 => ?_)
    refine r_iconst (q := 23) (v := (0 : Int32)) dX7_fit_22 rfl (by decide) ?_
    refine r_istore_n (q := 24) dX7_fit_23 rfl rfl (Nat.le_of_ble_eq_true rfl) rfl ?_
    refine r_iconst (q := 25) (v := (0 : Int32)) dX7_fit_24 rfl (by decide) ?_
    refine r_istore_n (q := 26) dX7_fit_25 rfl rfl (Nat.le_of_ble_eq_true rfl) rfl ?_
    exact r_le (w_X7_fit_b26 G h0 N N _ _ _ _ _) (Nat.le_refl _) (And.intro rfl (And.intro rfl (And.intro rfl (And.intro rfl trivial))))
theorem c_X1_hourWhy (G : Gx) (h0 : G0 G) (N : Nat) (a0 : Nat) (i1 : Int32) (i2 : Int32) (σ : Mem) : Ct G mX1_hourWhy rhoI [vR (some a0), vI i1, vI i2] σ (f_X1_hourWhy N a0 i1 i2 σ) := by
  refine Ct_of h0 (by decide) rfl (Nat.le_of_ble_eq_true rfl) (L0 := [some (vR (some a0)), some (vI i1), some (vI i2)]) rfl ?_
  unfold f_X1_hourWhy
  refine r_aload_n (q := 1) dX1_hourWhy_0 rfl rfl rfl ?_
  refine r_iload_n (q := 2) dX1_hourWhy_1 rfl rfl rfl ?_
  refine r_ob (fun a3 ha3 => ?_)
  obtain ⟨hea3, hka3⟩ := o_at_eq ha3
  cases hea3
  refine r_callI (q := 5) (c_X1_isPerson G h0 N _ _ _) (cl_V (ci := 0) rfl rfl (lw_V q1393 q1395 qs48 q167 q1396) (hd_X1_isPerson) ⟨Nat.le_of_ble_eq_true rfl, Nat.le_of_ble_eq_true rfl⟩ (List.mem_singleton.mp hka3) rfl rfl rfl (Nat.le_of_ble_eq_true rfl) dX1_hourWhy_2) rfl (fun x1 σ2 => ?_)
  refine r_if_ne (q := 8) (t := 12) dX1_hourWhy_5 rfl (by decide) (fun _ => ?_) (fun _ => ?_)
  · refine r_iconst (q := 9) (v := (1 : Int32)) dX1_hourWhy_8 rfl (by decide) ?_
    refine r_goto (q := 25) dX1_hourWhy_9 (by decide) ?_
    exact r_ireturn rfl rfl dX1_hourWhy_25
  · refine r_aload_n (q := 13) dX1_hourWhy_12 rfl rfl rfl ?_
    refine r_iload_n (q := 14) dX1_hourWhy_13 rfl rfl rfl ?_
    refine r_ob (fun a6 ha6 => ?_)
    obtain ⟨hea6, hka6⟩ := o_at_eq ha6
    cases hea6
    refine r_callI (q := 17) (c_X1_isHour G h0 N _ _ _) (cl_V (ci := 0) rfl rfl (lw_V q1397 q1399 qs49 q167 q1400) (hd_X1_isHour) ⟨Nat.le_of_ble_eq_true rfl, Nat.le_of_ble_eq_true rfl⟩ (List.mem_singleton.mp hka6) rfl rfl rfl (Nat.le_of_ble_eq_true rfl) dX1_hourWhy_14) rfl (fun x4 σ5 => ?_)
    refine r_if_eq (q := 20) (t := 24) dX1_hourWhy_17 rfl (by decide) (fun _ => ?_) (fun _ => ?_)
    · refine r_iconst (q := 25) (v := (2 : Int32)) dX1_hourWhy_24 rfl (by decide) ?_
      exact r_ireturn rfl rfl dX1_hourWhy_25
    · refine r_iconst (q := 21) (v := (0 : Int32)) dX1_hourWhy_20 rfl (by decide) ?_
      refine r_goto (q := 25) dX1_hourWhy_21 (by decide) ?_
      exact r_ireturn rfl rfl dX1_hourWhy_25
theorem w_X1_couldBe_b58 (G : Gx) (h0 : G0 G) (N : Nat) (K5 : Nat → Int32 → Int32 → Int32 → Int32 → Mem → Option (Int32 × Mem)) (hK5 : ∀ (a0 : Nat) (l1 : Int32) (l2 : Int32) (l3 : Int32) (l4 : Int32) (σ : Mem), Runs G mX1_couldBe rhoI σ 5 [some (vR (some a0)), some (vI l1), some (vI l2), some (vI l3), some (vI l4), none] [] (K5 a0 l1 l2 l3 l4 σ)) (a0 : Nat) (l1 : Int32) (l2 : Int32) (l3 : Int32) (l4 : Int32) (σ : Mem) : Runs G mX1_couldBe rhoI σ 58 [some (vR (some a0)), some (vI l1), some (vI l2), some (vI l3), some (vI l4), none] [] (f_X1_couldBe_b58 N K5 a0 l1 l2 l3 l4 σ) := by
  unfold f_X1_couldBe_b58
  refine r_iinc (q := 61) (v := (1 : Int32)) dX1_couldBe_58 rfl rfl (by decide) (Nat.le_of_ble_eq_true rfl) rfl ?_
  refine r_goto (q := 5) dX1_couldBe_61 (by decide) ?_
  exact r_le (hK5 _ _ _ _ _ _) (Nat.le_refl _) (And.intro rfl (And.intro rfl (And.intro rfl (And.intro rfl (And.intro rfl trivial)))))
theorem w_X1_couldBe_b5B (G : Gx) (h0 : G0 G) (N : Nat)   (K5 : Nat → Int32 → Int32 → Int32 → Int32 → Mem → Option (Int32 × Mem)) (hK5 : ∀ (a0 : Nat) (l1 : Int32) (l2 : Int32) (l3 : Int32) (l4 : Int32) (σ : Mem), Runs G mX1_couldBe rhoI σ 5 [some (vR (some a0)), some (vI l1), some (vI l2), some (vI l3), some (vI l4), none] [] (K5 a0 l1 l2 l3 l4 σ)) (a0 : Nat) (l1 : Int32) (l2 : Int32) (l3 : Int32) (l4 : Int32) (σ : Mem) : Runs G mX1_couldBe rhoI σ 5 [some (vR (some a0)), some (vI l1), some (vI l2), some (vI l3), some (vI l4), none] [] (f_X1_couldBe_b5B N  K5 a0 l1 l2 l3 l4 σ) := by
  unfold f_X1_couldBe_b5B
  refine r_iload (q := 7) dX1_couldBe_5 rfl rfl ?_
  refine r_aload_n (q := 8) dX1_couldBe_7 rfl rfl rfl ?_
  refine r_gI (q := 11) fl_X1_287 dX1_couldBe_8 rfl (fun x1 => ?_)
  refine r_icmp_ge (q := 14) (t := 64) dX1_couldBe_11 rfl (by decide) (fun _ => ?_) (fun _ => ?_)
  · refine r_iload_n (q := 65) dX1_couldBe_64 rfl rfl rfl ?_
    exact r_ireturn rfl rfl dX1_couldBe_65
  · refine r_aload_n (q := 15) dX1_couldBe_14 rfl rfl rfl ?_
    refine r_gR (q := 18) fl_X1_104 rfl dX1_couldBe_15 rfl (fun x2 => ?_)
    refine r_aload_n (q := 19) dX1_couldBe_18 rfl rfl rfl ?_
    refine r_gR (q := 22) fl_X1_68 rfl dX1_couldBe_19 rfl (fun x3 => ?_)
    refine r_iload (q := 24) dX1_couldBe_22 rfl rfl ?_
    refine r_iaload (q := 25) dX1_couldBe_24 rfl (fun x4 => ?_)
    refine r_iload_n (q := 26) dX1_couldBe_25 rfl rfl rfl ?_
    refine r_ob (fun a7 ha7 => ?_)
    obtain ⟨hea7, hka7⟩ := o_at_eq ha7
    cases hea7
    refine r_callI (q := 29) (c_X8_storyOf G h0 N _ _ _ _) (cl_V (ci := 7) rfl rfl (lw_V q1420 q1421 q1422 q177 q1423) (hd_X8_storyOf) ⟨Nat.le_of_ble_eq_true rfl, Nat.le_of_ble_eq_true rfl⟩ (List.mem_singleton.mp hka7) rfl rfl rfl (Nat.le_of_ble_eq_true rfl) dX1_couldBe_26) rfl (fun x5 σ6 => ?_)
    refine r_istore (q := 31) dX1_couldBe_29 rfl (Nat.le_of_ble_eq_true rfl) rfl ?_
    refine r_iload (q := 33) dX1_couldBe_31 rfl rfl ?_
    refine r_bipush (q := 35) (v := (-2 : Int32)) dX1_couldBe_33 rfl (by decide) ?_
    refine r_icmp_eq (q := 38) (t := 58) dX1_couldBe_35 rfl (by decide) (fun _ => ?_) (fun _ => ?_)
    · exact r_le (w_X1_couldBe_b58 G h0 N K5 hK5 _ _ _ _ _ _) (Nat.le_refl _) (And.intro rfl (And.intro rfl (And.intro rfl (And.intro rfl (And.intro rfl trivial)))))
    · refine r_iload_n (q := 39) dX1_couldBe_38 rfl rfl rfl ?_
      refine r_iconst (q := 40) (v := (1 : Int32)) dX1_couldBe_39 rfl (by decide) ?_
      refine r_aload_n (q := 41) dX1_couldBe_40 rfl rfl rfl ?_
      refine r_gR (q := 44) fl_X1_104 rfl dX1_couldBe_41 rfl (fun x8 => ?_)
      refine r_gR (q := 47) fl_X1_235 rfl dX1_couldBe_44 rfl (fun x9 => ?_)
      refine r_iload_n (q := 48) dX1_couldBe_47 rfl rfl rfl ?_
      refine r_aaload (q := 49) (k0 := 7) (by decide) dX1_couldBe_48 rfl (fun x10 => ?_)
      refine r_iload (q := 51) dX1_couldBe_49 rfl rfl ?_
      refine r_iload_n (q := 52) dX1_couldBe_51 rfl rfl rfl ?_
      refine r_ob (fun a13 ha13 => ?_)
      obtain ⟨hea13, hka13⟩ := o_at_eq ha13
      cases hea13
      refine r_callI (q := 55) (c_X11_at G h0 N _ _ _ _) (cl_V (ci := 9) rfl rfl (lw_V q1401 q1402 q1403 q185 q1404) (hd_X11_at) ⟨Nat.le_of_ble_eq_true rfl, Nat.le_of_ble_eq_true rfl⟩ (List.mem_singleton.mp hka13) rfl rfl rfl (Nat.le_of_ble_eq_true rfl) dX1_couldBe_52) rfl (fun x11 σ12 => ?_)
      refine r_ishl (q := 56) dX1_couldBe_55 rfl ?_
      refine r_ior (q := 57) dX1_couldBe_56 rfl ?_
      refine r_istore_n (q := 58) dX1_couldBe_57 rfl rfl (Nat.le_of_ble_eq_true rfl) rfl ?_
      exact r_le (w_X1_couldBe_b58 G h0 N K5 hK5 _ _ _ _ _ _) (Nat.le_refl _) (And.intro rfl (And.intro rfl (And.intro rfl (And.intro rfl (And.intro rfl trivial)))))
theorem w_X1_couldBe_b5 (G : Gx) (h0 : G0 G) (N : Nat)   : ∀ (z : Nat) (a0 : Nat) (l1 : Int32) (l2 : Int32) (l3 : Int32) (l4 : Int32) (σ : Mem), Runs G mX1_couldBe rhoI σ 5 [some (vR (some a0)), some (vI l1), some (vI l2), some (vI l3), some (vI l4), none] [] (f_X1_couldBe_b5 N  z a0 l1 l2 l3 l4 σ) := by
  intro z
  induction z with
  | zero => exact fun _ _ _ _ _ _ => r_none
  | succ z ih => exact fun a0 l1 l2 l3 l4 σ => w_X1_couldBe_b5B G h0 N   _ ih a0 l1 l2 l3 l4 σ
theorem c_X1_couldBe (G : Gx) (h0 : G0 G) (N : Nat) (a0 : Nat) (i1 : Int32) (i2 : Int32) (σ : Mem) : Ct G mX1_couldBe rhoI [vR (some a0), vI i1, vI i2] σ (f_X1_couldBe N a0 i1 i2 σ) := by
  refine Ct_of h0 (by decide) rfl (Nat.le_of_ble_eq_true rfl) (L0 := [some (vR (some a0)), some (vI i1), some (vI i2), none, none, none]) rfl ?_
  unfold f_X1_couldBe
  refine r_iconst (q := 1) (v := (0 : Int32)) dX1_couldBe_0 rfl (by decide) ?_
  refine r_istore_n (q := 2) dX1_couldBe_1 rfl rfl (Nat.le_of_ble_eq_true rfl) rfl ?_
  refine r_iconst (q := 3) (v := (0 : Int32)) dX1_couldBe_2 rfl (by decide) ?_
  refine r_istore (q := 5) dX1_couldBe_3 rfl (Nat.le_of_ble_eq_true rfl) rfl ?_
  exact r_le (w_X1_couldBe_b5 G h0 N N _ _ _ _ _ _) (Nat.le_refl _) (And.intro rfl (And.intro rfl (And.intro rfl (And.intro rfl (And.intro rfl trivial)))))
theorem c_X1_could (G : Gx) (h0 : G0 G) (N : Nat) (a0 : Nat) (i1 : Int32) (i2 : Int32) (σ : Mem) : Ct G mX1_could rhoI [vR (some a0), vI i1, vI i2] σ (f_X1_could N a0 i1 i2 σ) := by
  refine Ct_of h0 (by decide) rfl (Nat.le_of_ble_eq_true rfl) (L0 := [some (vR (some a0)), some (vI i1), some (vI i2), none]) rfl ?_
  unfold f_X1_could
  refine r_aload_n (q := 1) dX1_could_0 rfl rfl rfl ?_
  refine r_ob (fun a3 ha3 => ?_)
  obtain ⟨hea3, hka3⟩ := o_at_eq ha3
  cases hea3
  refine r_callV (q := 4) (c_X1_anew G h0 N _ _) (cl_V (ci := 0) rfl rfl (lw_V q485 q487 qs2 q167 q488) (hd_X1_anew) ⟨Nat.le_of_ble_eq_true rfl, Nat.le_of_ble_eq_true rfl⟩ (List.mem_singleton.mp hka3) rfl rfl rfl (Nat.le_of_ble_eq_true rfl) dX1_could_1) rfl (fun u1 σ2 => ?_)
  refine r_aload_n (q := 5) dX1_could_4 rfl rfl rfl ?_
  refine r_iload_n (q := 6) dX1_could_5 rfl rfl rfl ?_
  refine r_iload_n (q := 7) dX1_could_6 rfl rfl rfl ?_
  refine r_ob (fun a6 ha6 => ?_)
  obtain ⟨hea6, hka6⟩ := o_at_eq ha6
  cases hea6
  refine r_callI (q := 10) (c_X1_hourWhy G h0 N _ _ _ _) (cl_V (ci := 0) rfl rfl (lw_V q1606 q1608 qs63 q167 q1609) (hd_X1_hourWhy) ⟨Nat.le_of_ble_eq_true rfl, Nat.le_of_ble_eq_true rfl⟩ (List.mem_singleton.mp hka6) rfl rfl rfl (Nat.le_of_ble_eq_true rfl) dX1_could_7) rfl (fun x4 σ5 => ?_)
  refine r_istore_n (q := 11) dX1_could_10 rfl rfl (Nat.le_of_ble_eq_true rfl) rfl ?_
  refine r_iload_n (q := 12) dX1_could_11 rfl rfl rfl ?_
  refine r_if_eq (q := 15) (t := 21) dX1_could_12 rfl (by decide) (fun _ => ?_) (fun _ => ?_)
  · refine r_aload_n (q := 22) dX1_could_21 rfl rfl rfl ?_
    refine r_ob (fun a9 ha9 => ?_)
    obtain ⟨hea9, hka9⟩ := o_at_eq ha9
    cases hea9
    refine r_callV (q := 25) (c_X1_layHeard G h0 N _ _) (cl_V (ci := 0) rfl rfl (lw_V q1576 q1578 qs60 q167 q1579) (hd_X1_layHeard) ⟨Nat.le_of_ble_eq_true rfl, Nat.le_of_ble_eq_true rfl⟩ (List.mem_singleton.mp hka9) rfl rfl rfl (Nat.le_of_ble_eq_true rfl) dX1_could_22) rfl (fun u7 σ8 => ?_)
    refine r_aload_n (q := 26) dX1_could_25 rfl rfl rfl ?_
    refine r_iload_n (q := 27) dX1_could_26 rfl rfl rfl ?_
    refine r_iload_n (q := 28) dX1_could_27 rfl rfl rfl ?_
    refine r_ob (fun a12 ha12 => ?_)
    obtain ⟨hea12, hka12⟩ := o_at_eq ha12
    cases hea12
    refine r_callI (q := 31) (c_X1_couldBe G h0 N _ _ _ _) (cl_V (ci := 0) rfl rfl (lw_V q1610 q1612 qs64 q167 q1613) (hd_X1_couldBe) ⟨Nat.le_of_ble_eq_true rfl, Nat.le_of_ble_eq_true rfl⟩ (List.mem_singleton.mp hka12) rfl rfl rfl (Nat.le_of_ble_eq_true rfl) dX1_could_28) rfl (fun x10 σ11 => ?_)
    exact r_ireturn rfl rfl dX1_could_31
  · refine r_aload_n (q := 16) dX1_could_15 rfl rfl rfl ?_
    refine r_iload_n (q := 17) dX1_could_16 rfl rfl rfl ?_
    refine r_ob (fun a15 ha15 => ?_)
    obtain ⟨hea15, hka15⟩ := o_at_eq ha15
    cases hea15
    refine r_callI (q := 20) (c_X1_no G h0 N _ _ _) (cl_V (ci := 0) rfl rfl (lw_V q492 q494 qs3 q167 q495) (hd_X1_no) ⟨Nat.le_of_ble_eq_true rfl, Nat.le_of_ble_eq_true rfl⟩ (List.mem_singleton.mp hka15) rfl rfl rfl (Nat.le_of_ble_eq_true rfl) dX1_could_17) rfl (fun x13 σ14 => ?_)
    exact r_ireturn rfl rfl dX1_could_20
theorem c_X7_refusesPerson (G : Gx) (h0 : G0 G) (N : Nat) (a0 : Nat) (i1 : Int32) (i2 : Int32) (σ : Mem) : Ct G mX7_refusesPerson rhoI [vR (some a0), vI i1, vI i2] σ (f_X7_refusesPerson N a0 i1 i2 σ) := by
  refine Ct_of h0 (by decide) rfl (Nat.le_of_ble_eq_true rfl) (L0 := [some (vR (some a0)), some (vI i1), some (vI i2)]) rfl ?_
  unfold f_X7_refusesPerson
  refine r_aload_n (q := 1) dX7_refusesPerson_0 rfl rfl rfl ?_
  refine r_iload_n (q := 2) dX7_refusesPerson_1 rfl rfl rfl ?_
  refine r_ob (fun a3 ha3 => ?_)
  obtain ⟨hea3, hka3⟩ := o_at_eq ha3
  cases hea3
  refine r_callI (q := 5) (c_X7_isPerson G h0 N _ _ _) (cl_V (ci := 6) rfl rfl (lw_V q2435 q2437 qs124 q176 q2438) (hd_X7_isPerson) ⟨Nat.le_of_ble_eq_true rfl, Nat.le_of_ble_eq_true rfl⟩ (List.mem_singleton.mp hka3) rfl rfl rfl (Nat.le_of_ble_eq_true rfl) dX7_refusesPerson_2) rfl (fun x1 σ2 => ?_)
  refine r_if_ne (q := 8) (t := 12) dX7_refusesPerson_5 rfl (by decide) (fun _ => ?_) (fun _ => ?_)
  · refine r_iconst (q := 9) (v := (1 : Int32)) dX7_refusesPerson_8 rfl (by decide) ?_
    refine r_goto (q := 25) dX7_refusesPerson_9 (by decide) ?_
    exact r_ireturn rfl rfl dX7_refusesPerson_25
  · refine r_aload_n (q := 13) dX7_refusesPerson_12 rfl rfl rfl ?_
    refine r_iload_n (q := 14) dX7_refusesPerson_13 rfl rfl rfl ?_
    refine r_ob (fun a6 ha6 => ?_)
    obtain ⟨hea6, hka6⟩ := o_at_eq ha6
    cases hea6
    refine r_callI (q := 17) (c_X7_isHour G h0 N _ _ _) (cl_V (ci := 6) rfl rfl (lw_V q2439 q2441 qs125 q176 q2442) (hd_X7_isHour) ⟨Nat.le_of_ble_eq_true rfl, Nat.le_of_ble_eq_true rfl⟩ (List.mem_singleton.mp hka6) rfl rfl rfl (Nat.le_of_ble_eq_true rfl) dX7_refusesPerson_14) rfl (fun x4 σ5 => ?_)
    refine r_if_eq (q := 20) (t := 24) dX7_refusesPerson_17 rfl (by decide) (fun _ => ?_) (fun _ => ?_)
    · refine r_iconst (q := 25) (v := (2 : Int32)) dX7_refusesPerson_24 rfl (by decide) ?_
      exact r_ireturn rfl rfl dX7_refusesPerson_25
    · refine r_iconst (q := 21) (v := (0 : Int32)) dX7_refusesPerson_20 rfl (by decide) ?_
      refine r_goto (q := 25) dX7_refusesPerson_21 (by decide) ?_
      exact r_ireturn rfl rfl dX7_refusesPerson_25
theorem w_X7_couldBe_b58 (G : Gx) (h0 : G0 G) (N : Nat) (K6 : Nat → Int32 → Int32 → Int32 → Int32 → Int32 → Mem → Option (Int32 × Mem)) (hK6 : ∀ (a0 : Nat) (l1 : Int32) (l2 : Int32) (l3 : Int32) (l4 : Int32) (l5 : Int32) (σ : Mem), Runs G mX7_couldBe rhoI σ 6 [some (vR (some a0)), some (vI l1), some (vI l2), some (vI l3), some (vI l4), some (vI l5)] [] (K6 a0 l1 l2 l3 l4 l5 σ)) (a0 : Nat) (l1 : Int32) (l2 : Int32) (l3 : Int32) (l4 : Int32) (l5 : Int32) (σ : Mem) : Runs G mX7_couldBe rhoI σ 58 [some (vR (some a0)), some (vI l1), some (vI l2), some (vI l3), some (vI l4), some (vI l5)] [] (f_X7_couldBe_b58 N K6 a0 l1 l2 l3 l4 l5 σ) := by
  unfold f_X7_couldBe_b58
  refine r_iinc (q := 61) (v := (1 : Int32)) dX7_couldBe_58 rfl rfl (by decide) (Nat.le_of_ble_eq_true rfl) rfl ?_
  refine r_goto (q := 6) dX7_couldBe_61 (by decide) ?_
  exact r_le (hK6 _ _ _ _ _ _ _) (Nat.le_refl _) (And.intro rfl (And.intro rfl (And.intro rfl (And.intro rfl (And.intro rfl (And.intro rfl trivial))))))
theorem w_X7_couldBe_b6B (G : Gx) (h0 : G0 G) (N : Nat)   (K6 : Nat → Int32 → Int32 → Int32 → Int32 → Int32 → Mem → Option (Int32 × Mem)) (hK6 : ∀ (a0 : Nat) (l1 : Int32) (l2 : Int32) (l3 : Int32) (l4 : Int32) (l5 : Int32) (σ : Mem), Runs G mX7_couldBe rhoI σ 6 [some (vR (some a0)), some (vI l1), some (vI l2), some (vI l3), some (vI l4), some (vI l5)] [] (K6 a0 l1 l2 l3 l4 l5 σ)) (a0 : Nat) (l1 : Int32) (l2 : Int32) (l3 : Int32) (l4 : Int32) (l5 : Int32) (σ : Mem) : Runs G mX7_couldBe rhoI σ 6 [some (vR (some a0)), some (vI l1), some (vI l2), some (vI l3), some (vI l4), some (vI l5)] [] (f_X7_couldBe_b6B N  K6 a0 l1 l2 l3 l4 l5 σ) := by
  unfold f_X7_couldBe_b6B
  refine r_iload (q := 8) dX7_couldBe_6 rfl rfl ?_
  refine r_aload_n (q := 9) dX7_couldBe_8 rfl rfl rfl ?_
  refine r_gR (q := 12) fl_X7_442 rfl dX7_couldBe_9 rfl (fun x1 => ?_)
  refine r_ob (fun a4 ha4 => ?_)
  obtain ⟨hea4, hka4⟩ := o_at_eq ha4
  cases hea4
  refine r_callI (q := 15) (c_X24_cases G h0 N _ _) (cl_V (ci := 20) rfl rfl (lw_V q2375 q2376 q2377 q199 q2378) (hd_X24_cases) ⟨Nat.le_of_ble_eq_true rfl, Nat.le_of_ble_eq_true rfl⟩ (List.mem_singleton.mp hka4) rfl rfl rfl (Nat.le_of_ble_eq_true rfl) dX7_couldBe_12) rfl (fun x2 σ3 => ?_)
  refine r_icmp_ge (q := 18) (t := 64) dX7_couldBe_15 rfl (by decide) (fun _ => ?_) (fun _ => ?_)
  · refine r_iload (q := 66) dX7_couldBe_64 rfl rfl ?_
    exact r_ireturn rfl rfl dX7_couldBe_66
  · refine r_aload_n (q := 19) dX7_couldBe_18 rfl rfl rfl ?_
    refine r_gR (q := 22) fl_X7_442 rfl dX7_couldBe_19 rfl (fun x5 => ?_)
    refine r_gR (q := 25) fl_X7_323 rfl dX7_couldBe_22 rfl (fun x6 => ?_)
    refine r_iload_n (q := 26) dX7_couldBe_25 rfl rfl rfl ?_
    refine r_iaload (q := 27) dX7_couldBe_26 rfl (fun x7 => ?_)
    refine r_if_le (q := 30) (t := 58) dX7_couldBe_27 rfl (by decide) (fun _ => ?_) (fun _ => ?_)
    · exact r_le (w_X7_couldBe_b58 G h0 N K6 hK6 _ _ _ _ _ _ _) (Nat.le_refl _) (And.intro rfl (And.intro rfl (And.intro rfl (And.intro rfl (And.intro rfl (And.intro rfl trivial))))))
    · refine r_aload_n (q := 31) dX7_couldBe_30 rfl rfl rfl ?_
      refine r_iload (q := 33) dX7_couldBe_31 rfl rfl ?_
      refine r_iload_n (q := 34) dX7_couldBe_33 rfl rfl rfl ?_
      refine r_ob (fun a10 ha10 => ?_)
      obtain ⟨hea10, hka10⟩ := o_at_eq ha10
      cases hea10
      refine r_callI (q := 37) (c_X7_areTrue G h0 N _ _ _ _) (cl_V (ci := 6) rfl rfl (lw_V q2557 q2559 qs141 q176 q2560) (hd_X7_areTrue) ⟨Nat.le_of_ble_eq_true rfl, Nat.le_of_ble_eq_true rfl⟩ (List.mem_singleton.mp hka10) rfl rfl rfl (Nat.le_of_ble_eq_true rfl) dX7_couldBe_34) rfl (fun x8 σ9 => ?_)
      refine r_if_eq (q := 40) (t := 58) dX7_couldBe_37 rfl (by decide) (fun _ => ?_) (fun _ => ?_)
      · exact r_le (w_X7_couldBe_b58 G h0 N K6 hK6 _ _ _ _ _ _ _) (Nat.le_refl _) (And.intro rfl (And.intro rfl (And.intro rfl (And.intro rfl (And.intro rfl (And.intro rfl trivial))))))
      · refine r_iload (q := 42) dX7_couldBe_40 rfl rfl ?_
        refine r_iconst (q := 43) (v := (1 : Int32)) dX7_couldBe_42 rfl (by decide) ?_
        refine r_aload_n (q := 44) dX7_couldBe_43 rfl rfl rfl ?_
        refine r_gR (q := 47) fl_X7_442 rfl dX7_couldBe_44 rfl (fun x11 => ?_)
        refine r_iload (q := 49) dX7_couldBe_47 rfl rfl ?_
        refine r_iload_n (q := 50) dX7_couldBe_49 rfl rfl rfl ?_
        refine r_iload_n (q := 51) dX7_couldBe_50 rfl rfl rfl ?_
        refine r_ob (fun a14 ha14 => ?_)
        obtain ⟨hea14, hka14⟩ := o_at_eq ha14
        cases hea14
        refine r_callI (q := 54) (c_X24_placeIn G h0 N _ _ _ _ _) (cl_V (ci := 20) rfl rfl (lw_V q2487 q2488 q2489 q199 q2490) (hd_X24_placeIn) ⟨Nat.le_of_ble_eq_true rfl, Nat.le_of_ble_eq_true rfl⟩ (List.mem_singleton.mp hka14) rfl rfl rfl (Nat.le_of_ble_eq_true rfl) dX7_couldBe_51) rfl (fun x12 σ13 => ?_)
        refine r_ishl (q := 55) dX7_couldBe_54 rfl ?_
        refine r_ior (q := 56) dX7_couldBe_55 rfl ?_
        refine r_istore (q := 58) dX7_couldBe_56 rfl (Nat.le_of_ble_eq_true rfl) rfl ?_
        exact r_le (w_X7_couldBe_b58 G h0 N K6 hK6 _ _ _ _ _ _ _) (Nat.le_refl _) (And.intro rfl (And.intro rfl (And.intro rfl (And.intro rfl (And.intro rfl (And.intro rfl trivial))))))
theorem w_X7_couldBe_b6 (G : Gx) (h0 : G0 G) (N : Nat)   : ∀ (z : Nat) (a0 : Nat) (l1 : Int32) (l2 : Int32) (l3 : Int32) (l4 : Int32) (l5 : Int32) (σ : Mem), Runs G mX7_couldBe rhoI σ 6 [some (vR (some a0)), some (vI l1), some (vI l2), some (vI l3), some (vI l4), some (vI l5)] [] (f_X7_couldBe_b6 N  z a0 l1 l2 l3 l4 l5 σ) := by
  intro z
  induction z with
  | zero => exact fun _ _ _ _ _ _ _ => r_none
  | succ z ih => exact fun a0 l1 l2 l3 l4 l5 σ => w_X7_couldBe_b6B G h0 N   _ ih a0 l1 l2 l3 l4 l5 σ
theorem c_X7_couldBe (G : Gx) (h0 : G0 G) (N : Nat) (a0 : Nat) (i1 : Int32) (i2 : Int32) (i3 : Int32) (σ : Mem) : Ct G mX7_couldBe rhoI [vR (some a0), vI i1, vI i2, vI i3] σ (f_X7_couldBe N a0 i1 i2 i3 σ) := by
  refine Ct_of h0 (by decide) rfl (Nat.le_of_ble_eq_true rfl) (L0 := [some (vR (some a0)), some (vI i1), some (vI i2), some (vI i3), none, none]) rfl ?_
  unfold f_X7_couldBe
  refine r_iconst (q := 1) (v := (0 : Int32)) dX7_couldBe_0 rfl (by decide) ?_
  refine r_istore (q := 3) dX7_couldBe_1 rfl (Nat.le_of_ble_eq_true rfl) rfl ?_
  refine r_iconst (q := 4) (v := (0 : Int32)) dX7_couldBe_3 rfl (by decide) ?_
  refine r_istore (q := 6) dX7_couldBe_4 rfl (Nat.le_of_ble_eq_true rfl) rfl ?_
  exact r_le (w_X7_couldBe_b6 G h0 N N _ _ _ _ _ _ _) (Nat.le_refl _) (And.intro rfl (And.intro rfl (And.intro rfl (And.intro rfl (And.intro rfl (And.intro rfl trivial))))))
theorem c_X7_could (G : Gx) (h0 : G0 G) (N : Nat) (a0 : Nat) (i1 : Int32) (i2 : Int32) (σ : Mem) : Ct G mX7_could rhoI [vR (some a0), vI i1, vI i2] σ (f_X7_could N a0 i1 i2 σ) := by
  refine Ct_of h0 (by decide) rfl (Nat.le_of_ble_eq_true rfl) (L0 := [some (vR (some a0)), some (vI i1), some (vI i2), none]) rfl ?_
  unfold f_X7_could
  refine r_aload_n (q := 1) dX7_could_0 rfl rfl rfl ?_
  refine r_iconst (q := 2) (v := (0 : Int32)) dX7_could_1 rfl (by decide) ?_
  refine r_pI (q := 5) fp_X7_could_66 dX7_could_2 rfl (fun σ1 => ?_)
  refine r_aload_n (q := 6) dX7_could_5 rfl rfl rfl ?_
  refine r_iload_n (q := 7) dX7_could_6 rfl rfl rfl ?_
  refine r_iload_n (q := 8) dX7_could_7 rfl rfl rfl ?_
  refine r_ob (fun a4 ha4 => ?_)
  obtain ⟨hea4, hka4⟩ := o_at_eq ha4
  cases hea4
  refine r_callI (q := 11) (c_X7_refusesPerson G h0 N _ _ _ _) (cl_V (ci := 6) rfl rfl (lw_V q2569 q2571 qs142 q176 q2572) (hd_X7_refusesPerson) ⟨Nat.le_of_ble_eq_true rfl, Nat.le_of_ble_eq_true rfl⟩ (List.mem_singleton.mp hka4) rfl rfl rfl (Nat.le_of_ble_eq_true rfl) dX7_could_8) rfl (fun x2 σ3 => ?_)
  refine r_istore_n (q := 12) dX7_could_11 rfl rfl (Nat.le_of_ble_eq_true rfl) rfl ?_
  refine r_iload_n (q := 13) dX7_could_12 rfl rfl rfl ?_
  refine r_if_le (q := 16) (t := 22) dX7_could_13 rfl (by decide) (fun _ => ?_) (fun _ => ?_)
  · refine r_aload_n (q := 23) dX7_could_22 rfl rfl rfl ?_
    refine r_ob (fun a7 ha7 => ?_)
    obtain ⟨hea7, hka7⟩ := o_at_eq ha7
    cases hea7
    refine r_callV (q := 26) (c_X7_laysHonest G h0 N _ _) (cl_V (ci := 6) rfl rfl (lw_V q2545 q2547 qs138 q176 q2548) (hd_X7_laysHonest) ⟨Nat.le_of_ble_eq_true rfl, Nat.le_of_ble_eq_true rfl⟩ (List.mem_singleton.mp hka7) rfl rfl rfl (Nat.le_of_ble_eq_true rfl) dX7_could_23) rfl (fun u5 σ6 => ?_)
    refine r_aload_n (q := 27) dX7_could_26 rfl rfl rfl ?_
    refine r_aload_n (q := 28) dX7_could_27 rfl rfl rfl ?_
    refine r_iload_n (q := 29) dX7_could_28 rfl rfl rfl ?_
    refine r_iload_n (q := 30) dX7_could_29 rfl rfl rfl ?_
    refine r_aload_n (q := 31) dX7_could_30 rfl rfl rfl ?_
    refine r_ob (fun a10 ha10 => ?_)
    obtain ⟨hea10, hka10⟩ := o_at_eq ha10
    cases hea10
    refine r_callI (q := 34) (c_X7_heard G h0 N _ _) (cl_V (ci := 6) rfl rfl (lw_V q2549 q2551 qs139 q176 q2552) (hd_X7_heard) ⟨Nat.le_of_ble_eq_true rfl, Nat.le_of_ble_eq_true rfl⟩ (List.mem_singleton.mp hka10) rfl rfl rfl (Nat.le_of_ble_eq_true rfl) dX7_could_31) rfl (fun x8 σ9 => ?_)
    refine r_ob (fun a13 ha13 => ?_)
    obtain ⟨hea13, hka13⟩ := o_at_eq ha13
    cases hea13
    refine r_callI (q := 37) (c_X7_couldBe G h0 N _ _ _ _ _) (cl_V (ci := 6) rfl rfl (lw_V q2573 q2575 qs143 q176 q2576) (hd_X7_couldBe) ⟨Nat.le_of_ble_eq_true rfl, Nat.le_of_ble_eq_true rfl⟩ (List.mem_singleton.mp hka13) rfl rfl rfl (Nat.le_of_ble_eq_true rfl) dX7_could_34) rfl (fun x11 σ12 => ?_)
    refine r_ob (fun a16 ha16 => ?_)
    obtain ⟨hea16, hka16⟩ := o_at_eq ha16
    cases hea16
    refine r_callI (q := 40) (c_X7_good G h0 N _ _ _) (cl_V (ci := 6) rfl rfl (lw_V q2379 q2381 qs118 q176 q2382) (hd_X7_good) ⟨Nat.le_of_ble_eq_true rfl, Nat.le_of_ble_eq_true rfl⟩ (List.mem_singleton.mp hka16) rfl rfl rfl (Nat.le_of_ble_eq_true rfl) dX7_could_37) rfl (fun x14 σ15 => ?_)
    exact r_ireturn rfl rfl dX7_could_40
  · refine r_aload_n (q := 17) dX7_could_16 rfl rfl rfl ?_
    refine r_iload_n (q := 18) dX7_could_17 rfl rfl rfl ?_
    refine r_ob (fun a19 ha19 => ?_)
    obtain ⟨hea19, hka19⟩ := o_at_eq ha19
    cases hea19
    refine r_callI (q := 21) (c_X7_refused G h0 N _ _ _) (cl_V (ci := 6) rfl rfl (lw_V q2019 q2021 qs83 q176 q2022) (hd_X7_refused) ⟨Nat.le_of_ble_eq_true rfl, Nat.le_of_ble_eq_true rfl⟩ (List.mem_singleton.mp hka19) rfl rfl rfl (Nat.le_of_ble_eq_true rfl) dX7_could_18) rfl (fun x17 σ18 => ?_)
    exact r_ireturn rfl rfl dX7_could_21
theorem w_X1_surely_b36B (G : Gx) (h0 : G0 G) (N : Nat)   (K36 : Nat → Int32 → Int32 → Mem → Option (Int32 × Mem)) (hK36 : ∀ (a0 : Nat) (l4 : Int32) (l5 : Int32) (σ : Mem), Runs G mX1_surely rhoI σ 36 [some (vR (some a0)), none, none, none, some (vI l4), some (vI l5)] [] (K36 a0 l4 l5 σ)) (a0 : Nat) (l4 : Int32) (l5 : Int32) (σ : Mem) : Runs G mX1_surely rhoI σ 36 [some (vR (some a0)), none, none, none, some (vI l4), some (vI l5)] [] (f_X1_surely_b36B N  K36 a0 l4 l5 σ) := by
  unfold f_X1_surely_b36B
  refine r_iload (q := 38) dX1_surely_36 rfl rfl ?_
  refine r_aload_n (q := 39) dX1_surely_38 rfl rfl rfl ?_
  refine r_gR (q := 42) fl_X1_104 rfl dX1_surely_39 rfl (fun x1 => ?_)
  refine r_gI (q := 45) fl_X1_130 dX1_surely_42 rfl (fun x2 => ?_)
  refine r_icmp_ge (q := 48) (t := 66) dX1_surely_45 rfl (by decide) (fun _ => ?_) (fun _ => ?_)
  · refine r_bipush (q := 68) (v := (-2 : Int32)) dX1_surely_66 rfl (by decide) ?_
    exact r_ireturn rfl rfl dX1_surely_68
  · refine r_iload (q := 50) dX1_surely_48 rfl rfl ?_
    refine r_iconst (q := 51) (v := (1 : Int32)) dX1_surely_50 rfl (by decide) ?_
    refine r_iload (q := 53) dX1_surely_51 rfl rfl ?_
    refine r_ishl (q := 54) dX1_surely_53 rfl ?_
    refine r_icmp_ne (q := 57) (t := 60) dX1_surely_54 rfl (by decide) (fun _ => ?_) (fun _ => ?_)
    · refine r_iload (q := 59) dX1_surely_57 rfl rfl ?_
      exact r_ireturn rfl rfl dX1_surely_59
    · refine r_iinc (q := 63) (v := (1 : Int32)) dX1_surely_60 rfl rfl (by decide) (Nat.le_of_ble_eq_true rfl) rfl ?_
      refine r_goto (q := 36) dX1_surely_63 (by decide) ?_
      exact r_le (hK36 _ _ _ _) (Nat.le_refl _) (And.intro rfl (And.intro rfl (And.intro rfl trivial)))
theorem w_X1_surely_b36 (G : Gx) (h0 : G0 G) (N : Nat)   : ∀ (z : Nat) (a0 : Nat) (l4 : Int32) (l5 : Int32) (σ : Mem), Runs G mX1_surely rhoI σ 36 [some (vR (some a0)), none, none, none, some (vI l4), some (vI l5)] [] (f_X1_surely_b36 N  z a0 l4 l5 σ) := by
  intro z
  induction z with
  | zero => exact fun _ _ _ _ => r_none
  | succ z ih => exact fun a0 l4 l5 σ => w_X1_surely_b36B G h0 N   _ ih a0 l4 l5 σ
theorem c_X1_surely (G : Gx) (h0 : G0 G) (N : Nat) (a0 : Nat) (i1 : Int32) (i2 : Int32) (σ : Mem) : Ct G mX1_surely rhoI [vR (some a0), vI i1, vI i2] σ (f_X1_surely N a0 i1 i2 σ) := by
  refine Ct_of h0 (by decide) rfl (Nat.le_of_ble_eq_true rfl) (L0 := [some (vR (some a0)), some (vI i1), some (vI i2), none, none, none]) rfl ?_
  unfold f_X1_surely
  refine r_aload_n (q := 1) dX1_surely_0 rfl rfl rfl ?_
  refine r_ob (fun a3 ha3 => ?_)
  obtain ⟨hea3, hka3⟩ := o_at_eq ha3
  cases hea3
  refine r_callV (q := 4) (c_X1_anew G h0 N _ _) (cl_V (ci := 0) rfl rfl (lw_V q485 q487 qs2 q167 q488) (hd_X1_anew) ⟨Nat.le_of_ble_eq_true rfl, Nat.le_of_ble_eq_true rfl⟩ (List.mem_singleton.mp hka3) rfl rfl rfl (Nat.le_of_ble_eq_true rfl) dX1_surely_1) rfl (fun u1 σ2 => ?_)
  refine r_aload_n (q := 5) dX1_surely_4 rfl rfl rfl ?_
  refine r_iload_n (q := 6) dX1_surely_5 rfl rfl rfl ?_
  refine r_iload_n (q := 7) dX1_surely_6 rfl rfl rfl ?_
  refine r_ob (fun a6 ha6 => ?_)
  obtain ⟨hea6, hka6⟩ := o_at_eq ha6
  cases hea6
  refine r_callI (q := 10) (c_X1_hourWhy G h0 N _ _ _ _) (cl_V (ci := 0) rfl rfl (lw_V q1606 q1608 qs63 q167 q1609) (hd_X1_hourWhy) ⟨Nat.le_of_ble_eq_true rfl, Nat.le_of_ble_eq_true rfl⟩ (List.mem_singleton.mp hka6) rfl rfl rfl (Nat.le_of_ble_eq_true rfl) dX1_surely_7) rfl (fun x4 σ5 => ?_)
  refine r_istore_n (q := 11) dX1_surely_10 rfl rfl (Nat.le_of_ble_eq_true rfl) rfl ?_
  refine r_iload_n (q := 12) dX1_surely_11 rfl rfl rfl ?_
  refine r_if_eq (q := 15) (t := 21) dX1_surely_12 rfl (by decide) (fun _ => ?_) (fun _ => ?_)
  · refine r_aload_n (q := 22) dX1_surely_21 rfl rfl rfl ?_
    refine r_ob (fun a9 ha9 => ?_)
    obtain ⟨hea9, hka9⟩ := o_at_eq ha9
    cases hea9
    refine r_callV (q := 25) (c_X1_layHeard G h0 N _ _) (cl_V (ci := 0) rfl rfl (lw_V q1576 q1578 qs60 q167 q1579) (hd_X1_layHeard) ⟨Nat.le_of_ble_eq_true rfl, Nat.le_of_ble_eq_true rfl⟩ (List.mem_singleton.mp hka9) rfl rfl rfl (Nat.le_of_ble_eq_true rfl) dX1_surely_22) rfl (fun u7 σ8 => ?_)
    refine r_aload_n (q := 26) dX1_surely_25 rfl rfl rfl ?_
    refine r_iload_n (q := 27) dX1_surely_26 rfl rfl rfl ?_
    refine r_iload_n (q := 28) dX1_surely_27 rfl rfl rfl ?_
    refine r_ob (fun a12 ha12 => ?_)
    obtain ⟨hea12, hka12⟩ := o_at_eq ha12
    cases hea12
    refine r_callI (q := 31) (c_X1_couldBe G h0 N _ _ _ _) (cl_V (ci := 0) rfl rfl (lw_V q1610 q1612 qs64 q167 q1613) (hd_X1_couldBe) ⟨Nat.le_of_ble_eq_true rfl, Nat.le_of_ble_eq_true rfl⟩ (List.mem_singleton.mp hka12) rfl rfl rfl (Nat.le_of_ble_eq_true rfl) dX1_surely_28) rfl (fun x10 σ11 => ?_)
    refine r_istore (q := 33) dX1_surely_31 rfl (Nat.le_of_ble_eq_true rfl) rfl ?_
    refine r_iconst (q := 34) (v := (0 : Int32)) dX1_surely_33 rfl (by decide) ?_
    refine r_istore (q := 36) dX1_surely_34 rfl (Nat.le_of_ble_eq_true rfl) rfl ?_
    exact r_le (w_X1_surely_b36 G h0 N N _ _ _ _) (Nat.le_refl _) (And.intro rfl (And.intro rfl (And.intro rfl trivial)))
  · refine r_aload_n (q := 16) dX1_surely_15 rfl rfl rfl ?_
    refine r_iload_n (q := 17) dX1_surely_16 rfl rfl rfl ?_
    refine r_ob (fun a15 ha15 => ?_)
    obtain ⟨hea15, hka15⟩ := o_at_eq ha15
    cases hea15
    refine r_callI (q := 20) (c_X1_no G h0 N _ _ _) (cl_V (ci := 0) rfl rfl (lw_V q492 q494 qs3 q167 q495) (hd_X1_no) ⟨Nat.le_of_ble_eq_true rfl, Nat.le_of_ble_eq_true rfl⟩ (List.mem_singleton.mp hka15) rfl rfl rfl (Nat.le_of_ble_eq_true rfl) dX1_surely_17) rfl (fun x13 σ14 => ?_)
    exact r_ireturn rfl rfl dX1_surely_20
theorem w_X7_surely_b41B (G : Gx) (h0 : G0 G) (N : Nat)   (K41 : Nat → Int32 → Int32 → Mem → Option (Int32 × Mem)) (hK41 : ∀ (a0 : Nat) (l4 : Int32) (l5 : Int32) (σ : Mem), Runs G mX7_surely rhoI σ 41 [some (vR (some a0)), none, none, none, some (vI l4), some (vI l5)] [] (K41 a0 l4 l5 σ)) (a0 : Nat) (l4 : Int32) (l5 : Int32) (σ : Mem) : Runs G mX7_surely rhoI σ 41 [some (vR (some a0)), none, none, none, some (vI l4), some (vI l5)] [] (f_X7_surely_b41B N  K41 a0 l4 l5 σ) := by
  unfold f_X7_surely_b41B
  refine r_iload (q := 43) dX7_surely_41 rfl rfl ?_
  refine r_aload_n (q := 44) dX7_surely_43 rfl rfl rfl ?_
  refine r_gR (q := 47) fl_X7_442 rfl dX7_surely_44 rfl (fun x1 => ?_)
  refine r_gI (q := 50) fl_X7_241 dX7_surely_47 rfl (fun x2 => ?_)
  refine r_icmp_ge (q := 53) (t := 75) dX7_surely_50 rfl (by decide) (fun _ => ?_) (fun _ => ?_)
  · refine r_aload_n (q := 76) dX7_surely_75 rfl rfl rfl ?_
    refine r_bipush (q := 78) (v := (-2 : Int32)) dX7_surely_76 rfl (by decide) ?_
    refine r_ob (fun a5 ha5 => ?_)
    obtain ⟨hea5, hka5⟩ := o_at_eq ha5
    cases hea5
    refine r_callI (q := 81) (c_X7_good G h0 N _ _ _) (cl_V (ci := 6) rfl rfl (lw_V q2379 q2381 qs118 q176 q2382) (hd_X7_good) ⟨Nat.le_of_ble_eq_true rfl, Nat.le_of_ble_eq_true rfl⟩ (List.mem_singleton.mp hka5) rfl rfl rfl (Nat.le_of_ble_eq_true rfl) dX7_surely_78) rfl (fun x3 σ4 => ?_)
    exact r_ireturn rfl rfl dX7_surely_81
  · refine r_iload (q := 55) dX7_surely_53 rfl rfl ?_
    refine r_iconst (q := 56) (v := (1 : Int32)) dX7_surely_55 rfl (by decide) ?_
    refine r_iload (q := 58) dX7_surely_56 rfl rfl ?_
    refine r_ishl (q := 59) dX7_surely_58 rfl ?_
    refine r_icmp_ne (q := 62) (t := 69) dX7_surely_59 rfl (by decide) (fun _ => ?_) (fun _ => ?_)
    · refine r_aload_n (q := 63) dX7_surely_62 rfl rfl rfl ?_
      refine r_iload (q := 65) dX7_surely_63 rfl rfl ?_
      refine r_ob (fun a8 ha8 => ?_)
      obtain ⟨hea8, hka8⟩ := o_at_eq ha8
      cases hea8
      refine r_callI (q := 68) (c_X7_good G h0 N _ _ _) (cl_V (ci := 6) rfl rfl (lw_V q2379 q2381 qs118 q176 q2382) (hd_X7_good) ⟨Nat.le_of_ble_eq_true rfl, Nat.le_of_ble_eq_true rfl⟩ (List.mem_singleton.mp hka8) rfl rfl rfl (Nat.le_of_ble_eq_true rfl) dX7_surely_65) rfl (fun x6 σ7 => ?_)
      exact r_ireturn rfl rfl dX7_surely_68
    · refine r_iinc (q := 72) (v := (1 : Int32)) dX7_surely_69 rfl rfl (by decide) (Nat.le_of_ble_eq_true rfl) rfl ?_
      refine r_goto (q := 41) dX7_surely_72 (by decide) ?_
      exact r_le (hK41 _ _ _ _) (Nat.le_refl _) (And.intro rfl (And.intro rfl (And.intro rfl trivial)))
theorem w_X7_surely_b41 (G : Gx) (h0 : G0 G) (N : Nat)   : ∀ (z : Nat) (a0 : Nat) (l4 : Int32) (l5 : Int32) (σ : Mem), Runs G mX7_surely rhoI σ 41 [some (vR (some a0)), none, none, none, some (vI l4), some (vI l5)] [] (f_X7_surely_b41 N  z a0 l4 l5 σ) := by
  intro z
  induction z with
  | zero => exact fun _ _ _ _ => r_none
  | succ z ih => exact fun a0 l4 l5 σ => w_X7_surely_b41B G h0 N   _ ih a0 l4 l5 σ
theorem c_X7_surely (G : Gx) (h0 : G0 G) (N : Nat) (a0 : Nat) (i1 : Int32) (i2 : Int32) (σ : Mem) : Ct G mX7_surely rhoI [vR (some a0), vI i1, vI i2] σ (f_X7_surely N a0 i1 i2 σ) := by
  refine Ct_of h0 (by decide) rfl (Nat.le_of_ble_eq_true rfl) (L0 := [some (vR (some a0)), some (vI i1), some (vI i2), none, none, none]) rfl ?_
  unfold f_X7_surely
  refine r_aload_n (q := 1) dX7_surely_0 rfl rfl rfl ?_
  refine r_iconst (q := 2) (v := (0 : Int32)) dX7_surely_1 rfl (by decide) ?_
  refine r_pI (q := 5) fp_X7_surely_66 dX7_surely_2 rfl (fun σ1 => ?_)
  refine r_aload_n (q := 6) dX7_surely_5 rfl rfl rfl ?_
  refine r_iload_n (q := 7) dX7_surely_6 rfl rfl rfl ?_
  refine r_iload_n (q := 8) dX7_surely_7 rfl rfl rfl ?_
  refine r_ob (fun a4 ha4 => ?_)
  obtain ⟨hea4, hka4⟩ := o_at_eq ha4
  cases hea4
  refine r_callI (q := 11) (c_X7_refusesPerson G h0 N _ _ _ _) (cl_V (ci := 6) rfl rfl (lw_V q2569 q2571 qs142 q176 q2572) (hd_X7_refusesPerson) ⟨Nat.le_of_ble_eq_true rfl, Nat.le_of_ble_eq_true rfl⟩ (List.mem_singleton.mp hka4) rfl rfl rfl (Nat.le_of_ble_eq_true rfl) dX7_surely_8) rfl (fun x2 σ3 => ?_)
  refine r_istore_n (q := 12) dX7_surely_11 rfl rfl (Nat.le_of_ble_eq_true rfl) rfl ?_
  refine r_iload_n (q := 13) dX7_surely_12 rfl rfl rfl ?_
  refine r_if_le (q := 16) (t := 22) dX7_surely_13 rfl (by decide) (fun _ => ?_) (fun _ => ?_)
  · refine r_aload_n (q := 23) dX7_surely_22 rfl rfl rfl ?_
    refine r_ob (fun a7 ha7 => ?_)
    obtain ⟨hea7, hka7⟩ := o_at_eq ha7
    cases hea7
    refine r_callV (q := 26) (c_X7_laysHonest G h0 N _ _) (cl_V (ci := 6) rfl rfl (lw_V q2545 q2547 qs138 q176 q2548) (hd_X7_laysHonest) ⟨Nat.le_of_ble_eq_true rfl, Nat.le_of_ble_eq_true rfl⟩ (List.mem_singleton.mp hka7) rfl rfl rfl (Nat.le_of_ble_eq_true rfl) dX7_surely_23) rfl (fun u5 σ6 => ?_)
    refine r_aload_n (q := 27) dX7_surely_26 rfl rfl rfl ?_
    refine r_iload_n (q := 28) dX7_surely_27 rfl rfl rfl ?_
    refine r_iload_n (q := 29) dX7_surely_28 rfl rfl rfl ?_
    refine r_aload_n (q := 30) dX7_surely_29 rfl rfl rfl ?_
    refine r_ob (fun a10 ha10 => ?_)
    obtain ⟨hea10, hka10⟩ := o_at_eq ha10
    cases hea10
    refine r_callI (q := 33) (c_X7_heard G h0 N _ _) (cl_V (ci := 6) rfl rfl (lw_V q2549 q2551 qs139 q176 q2552) (hd_X7_heard) ⟨Nat.le_of_ble_eq_true rfl, Nat.le_of_ble_eq_true rfl⟩ (List.mem_singleton.mp hka10) rfl rfl rfl (Nat.le_of_ble_eq_true rfl) dX7_surely_30) rfl (fun x8 σ9 => ?_)
    refine r_ob (fun a13 ha13 => ?_)
    obtain ⟨hea13, hka13⟩ := o_at_eq ha13
    cases hea13
    refine r_callI (q := 36) (c_X7_couldBe G h0 N _ _ _ _ _) (cl_V (ci := 6) rfl rfl (lw_V q2573 q2575 qs143 q176 q2576) (hd_X7_couldBe) ⟨Nat.le_of_ble_eq_true rfl, Nat.le_of_ble_eq_true rfl⟩ (List.mem_singleton.mp hka13) rfl rfl rfl (Nat.le_of_ble_eq_true rfl) dX7_surely_33) rfl (fun x11 σ12 => ?_)
    refine r_istore (q := 38) dX7_surely_36 rfl (Nat.le_of_ble_eq_true rfl) rfl ?_
    refine r_iconst (q := 39) (v := (0 : Int32)) dX7_surely_38 rfl (by decide) ?_
    refine r_istore (q := 41) dX7_surely_39 rfl (Nat.le_of_ble_eq_true rfl) rfl ?_
    exact r_le (w_X7_surely_b41 G h0 N N _ _ _ _) (Nat.le_refl _) (And.intro rfl (And.intro rfl (And.intro rfl trivial)))
  · refine r_aload_n (q := 17) dX7_surely_16 rfl rfl rfl ?_
    refine r_iload_n (q := 18) dX7_surely_17 rfl rfl rfl ?_
    refine r_ob (fun a16 ha16 => ?_)
    obtain ⟨hea16, hka16⟩ := o_at_eq ha16
    cases hea16
    refine r_callI (q := 21) (c_X7_refused G h0 N _ _ _) (cl_V (ci := 6) rfl rfl (lw_V q2019 q2021 qs83 q176 q2022) (hd_X7_refused) ⟨Nat.le_of_ble_eq_true rfl, Nat.le_of_ble_eq_true rfl⟩ (List.mem_singleton.mp hka16) rfl rfl rfl (Nat.le_of_ble_eq_true rfl) dX7_surely_18) rfl (fun x14 σ15 => ?_)
    exact r_ireturn rfl rfl dX7_surely_21
theorem w_X1_lies_b89 (G : Gx) (h0 : G0 G) (N : Nat) (K41 : Nat → Int32 → Int32 → Int32 → Mem → Option (Int32 × Mem)) (hK41 : ∀ (a0 : Nat) (l1 : Int32) (l2 : Int32) (l3 : Int32) (σ : Mem), Runs G mX1_lies rhoI σ 41 [some (vR (some a0)), some (vI l1), some (vI l2), some (vI l3)] [] (K41 a0 l1 l2 l3 σ)) (a0 : Nat) (l1 : Int32) (l2 : Int32) (l3 : Int32) (σ : Mem) : Runs G mX1_lies rhoI σ 89 [some (vR (some a0)), some (vI l1), some (vI l2), some (vI l3)] [] (f_X1_lies_b89 N K41 a0 l1 l2 l3 σ) := by
  unfold f_X1_lies_b89
  refine r_iinc (q := 92) (v := (1 : Int32)) dX1_lies_89 rfl rfl (by decide) (Nat.le_of_ble_eq_true rfl) rfl ?_
  refine r_goto (q := 41) dX1_lies_92 (by decide) ?_
  exact r_le (hK41 _ _ _ _ _) (Nat.le_refl _) (And.intro rfl (And.intro rfl (And.intro rfl (And.intro rfl trivial))))
theorem w_X1_lies_b41B (G : Gx) (h0 : G0 G) (N : Nat)   (K41 : Nat → Int32 → Int32 → Int32 → Mem → Option (Int32 × Mem)) (hK41 : ∀ (a0 : Nat) (l1 : Int32) (l2 : Int32) (l3 : Int32) (σ : Mem), Runs G mX1_lies rhoI σ 41 [some (vR (some a0)), some (vI l1), some (vI l2), some (vI l3)] [] (K41 a0 l1 l2 l3 σ)) (a0 : Nat) (l1 : Int32) (l2 : Int32) (l3 : Int32) (σ : Mem) : Runs G mX1_lies rhoI σ 41 [some (vR (some a0)), some (vI l1), some (vI l2), some (vI l3)] [] (f_X1_lies_b41B N  K41 a0 l1 l2 l3 σ) := by
  unfold f_X1_lies_b41B
  refine r_iload_n (q := 42) dX1_lies_41 rfl rfl rfl ?_
  refine r_aload_n (q := 43) dX1_lies_42 rfl rfl rfl ?_
  refine r_gI (q := 46) fl_X1_287 dX1_lies_43 rfl (fun x1 => ?_)
  refine r_icmp_ge (q := 49) (t := 95) dX1_lies_46 rfl (by decide) (fun _ => ?_) (fun _ => ?_)
  · refine r_iload_n (q := 96) dX1_lies_95 rfl rfl rfl ?_
    exact r_ireturn rfl rfl dX1_lies_96
  · refine r_aload_n (q := 50) dX1_lies_49 rfl rfl rfl ?_
    refine r_gR (q := 53) fl_X1_104 rfl dX1_lies_50 rfl (fun x2 => ?_)
    refine r_aload_n (q := 54) dX1_lies_53 rfl rfl rfl ?_
    refine r_gR (q := 57) fl_X1_68 rfl dX1_lies_54 rfl (fun x3 => ?_)
    refine r_iload_n (q := 58) dX1_lies_57 rfl rfl rfl ?_
    refine r_iaload (q := 59) dX1_lies_58 rfl (fun x4 => ?_)
    refine r_iload_n (q := 60) dX1_lies_59 rfl rfl rfl ?_
    refine r_ob (fun a7 ha7 => ?_)
    obtain ⟨hea7, hka7⟩ := o_at_eq ha7
    cases hea7
    refine r_callI (q := 63) (c_X8_storyOf G h0 N _ _ _ _) (cl_V (ci := 7) rfl rfl (lw_V q1420 q1421 q1422 q177 q1423) (hd_X8_storyOf) ⟨Nat.le_of_ble_eq_true rfl, Nat.le_of_ble_eq_true rfl⟩ (List.mem_singleton.mp hka7) rfl rfl rfl (Nat.le_of_ble_eq_true rfl) dX1_lies_60) rfl (fun x5 σ6 => ?_)
    refine r_bipush (q := 65) (v := (-2 : Int32)) dX1_lies_63 rfl (by decide) ?_
    refine r_icmp_eq (q := 68) (t := 89) dX1_lies_65 rfl (by decide) (fun _ => ?_) (fun _ => ?_)
    · exact r_le (w_X1_lies_b89 G h0 N K41 hK41 _ _ _ _ _) (Nat.le_refl _) (And.intro rfl (And.intro rfl (And.intro rfl (And.intro rfl trivial))))
    · refine r_iload_n (q := 69) dX1_lies_68 rfl rfl rfl ?_
      refine r_iconst (q := 70) (v := (1 : Int32)) dX1_lies_69 rfl (by decide) ?_
      refine r_aload_n (q := 71) dX1_lies_70 rfl rfl rfl ?_
      refine r_gR (q := 74) fl_X1_104 rfl dX1_lies_71 rfl (fun x8 => ?_)
      refine r_aload_n (q := 75) dX1_lies_74 rfl rfl rfl ?_
      refine r_gR (q := 78) fl_X1_68 rfl dX1_lies_75 rfl (fun x9 => ?_)
      refine r_iload_n (q := 79) dX1_lies_78 rfl rfl rfl ?_
      refine r_iaload (q := 80) dX1_lies_79 rfl (fun x10 => ?_)
      refine r_iload_n (q := 81) dX1_lies_80 rfl rfl rfl ?_
      refine r_ob (fun a13 ha13 => ?_)
      obtain ⟨hea13, hka13⟩ := o_at_eq ha13
      cases hea13
      refine r_callI (q := 84) (c_X8_storyOf G h0 N _ _ _ _) (cl_V (ci := 7) rfl rfl (lw_V q1420 q1421 q1422 q177 q1423) (hd_X8_storyOf) ⟨Nat.le_of_ble_eq_true rfl, Nat.le_of_ble_eq_true rfl⟩ (List.mem_singleton.mp hka13) rfl rfl rfl (Nat.le_of_ble_eq_true rfl) dX1_lies_81) rfl (fun x11 σ12 => ?_)
      refine r_ishl (q := 85) dX1_lies_84 rfl ?_
      refine r_iconst (q := 86) (v := (-1 : Int32)) dX1_lies_85 rfl (by decide) ?_
      refine r_ixor (q := 87) dX1_lies_86 rfl ?_
      refine r_iand (q := 88) dX1_lies_87 rfl ?_
      refine r_istore_n (q := 89) dX1_lies_88 rfl rfl (Nat.le_of_ble_eq_true rfl) rfl ?_
      exact r_le (w_X1_lies_b89 G h0 N K41 hK41 _ _ _ _ _) (Nat.le_refl _) (And.intro rfl (And.intro rfl (And.intro rfl (And.intro rfl trivial))))
theorem w_X1_lies_b41 (G : Gx) (h0 : G0 G) (N : Nat)   : ∀ (z : Nat) (a0 : Nat) (l1 : Int32) (l2 : Int32) (l3 : Int32) (σ : Mem), Runs G mX1_lies rhoI σ 41 [some (vR (some a0)), some (vI l1), some (vI l2), some (vI l3)] [] (f_X1_lies_b41 N  z a0 l1 l2 l3 σ) := by
  intro z
  induction z with
  | zero => exact fun _ _ _ _ _ => r_none
  | succ z ih => exact fun a0 l1 l2 l3 σ => w_X1_lies_b41B G h0 N   _ ih a0 l1 l2 l3 σ
theorem c_X1_lies (G : Gx) (h0 : G0 G) (N : Nat) (a0 : Nat) (i1 : Int32) (σ : Mem) : Ct G mX1_lies rhoI [vR (some a0), vI i1] σ (f_X1_lies N a0 i1 σ) := by
  refine Ct_of h0 (by decide) rfl (Nat.le_of_ble_eq_true rfl) (L0 := [some (vR (some a0)), some (vI i1), none, none]) rfl ?_
  unfold f_X1_lies
  refine r_aload_n (q := 1) dX1_lies_0 rfl rfl rfl ?_
  refine r_ob (fun a3 ha3 => ?_)
  obtain ⟨hea3, hka3⟩ := o_at_eq ha3
  cases hea3
  refine r_callV (q := 4) (c_X1_anew G h0 N _ _) (cl_V (ci := 0) rfl rfl (lw_V q485 q487 qs2 q167 q488) (hd_X1_anew) ⟨Nat.le_of_ble_eq_true rfl, Nat.le_of_ble_eq_true rfl⟩ (List.mem_singleton.mp hka3) rfl rfl rfl (Nat.le_of_ble_eq_true rfl) dX1_lies_1) rfl (fun u1 σ2 => ?_)
  refine r_aload_n (q := 5) dX1_lies_4 rfl rfl rfl ?_
  refine r_iload_n (q := 6) dX1_lies_5 rfl rfl rfl ?_
  refine r_ob (fun a6 ha6 => ?_)
  obtain ⟨hea6, hka6⟩ := o_at_eq ha6
  cases hea6
  refine r_callI (q := 9) (c_X1_isPerson G h0 N _ _ _) (cl_V (ci := 0) rfl rfl (lw_V q1393 q1395 qs48 q167 q1396) (hd_X1_isPerson) ⟨Nat.le_of_ble_eq_true rfl, Nat.le_of_ble_eq_true rfl⟩ (List.mem_singleton.mp hka6) rfl rfl rfl (Nat.le_of_ble_eq_true rfl) dX1_lies_6) rfl (fun x4 σ5 => ?_)
  refine r_if_ne (q := 12) (t := 18) dX1_lies_9 rfl (by decide) (fun _ => ?_) (fun _ => ?_)
  · refine r_aload_n (q := 13) dX1_lies_12 rfl rfl rfl ?_
    refine r_iconst (q := 14) (v := (1 : Int32)) dX1_lies_13 rfl (by decide) ?_
    refine r_ob (fun a16 ha16 => ?_)
    obtain ⟨hea16, hka16⟩ := o_at_eq ha16
    cases hea16
    refine r_callI (q := 17) (c_X1_no G h0 N _ _ _) (cl_V (ci := 0) rfl rfl (lw_V q492 q494 qs3 q167 q495) (hd_X1_no) ⟨Nat.le_of_ble_eq_true rfl, Nat.le_of_ble_eq_true rfl⟩ (List.mem_singleton.mp hka16) rfl rfl rfl (Nat.le_of_ble_eq_true rfl) dX1_lies_14) rfl (fun x14 σ15 => ?_)
    exact r_ireturn rfl rfl dX1_lies_17
  · refine r_aload_n (q := 19) dX1_lies_18 rfl rfl rfl ?_
    refine r_ob (fun a9 ha9 => ?_)
    obtain ⟨hea9, hka9⟩ := o_at_eq ha9
    cases hea9
    refine r_callV (q := 22) (c_X1_layHeard G h0 N _ _) (cl_V (ci := 0) rfl rfl (lw_V q1576 q1578 qs60 q167 q1579) (hd_X1_layHeard) ⟨Nat.le_of_ble_eq_true rfl, Nat.le_of_ble_eq_true rfl⟩ (List.mem_singleton.mp hka9) rfl rfl rfl (Nat.le_of_ble_eq_true rfl) dX1_lies_19) rfl (fun u7 σ8 => ?_)
    refine r_iconst (q := 23) (v := (1 : Int32)) dX1_lies_22 rfl (by decide) ?_
    refine r_aload_n (q := 24) dX1_lies_23 rfl rfl rfl ?_
    refine r_gR (q := 27) fl_X1_104 rfl dX1_lies_24 rfl (fun x10 => ?_)
    refine r_gR (q := 30) fl_X1_235 rfl dX1_lies_27 rfl (fun x11 => ?_)
    refine r_iload_n (q := 31) dX1_lies_30 rfl rfl rfl ?_
    refine r_aaload (q := 32) (k0 := 7) (by decide) dX1_lies_31 rfl (fun x12 => ?_)
    refine r_gI (q := 35) fl_X1_239 dX1_lies_32 rfl (fun x13 => ?_)
    refine r_ishl (q := 36) dX1_lies_35 rfl ?_
    refine r_iconst (q := 37) (v := (1 : Int32)) dX1_lies_36 rfl (by decide) ?_
    refine r_isub (q := 38) dX1_lies_37 rfl ?_
    refine r_istore_n (q := 39) dX1_lies_38 rfl rfl (Nat.le_of_ble_eq_true rfl) rfl ?_
    refine r_iconst (q := 40) (v := (0 : Int32)) dX1_lies_39 rfl (by decide) ?_
    refine r_istore_n (q := 41) dX1_lies_40 rfl rfl (Nat.le_of_ble_eq_true rfl) rfl ?_
    exact r_le (w_X1_lies_b41 G h0 N N _ _ _ _ _) (Nat.le_refl _) (And.intro rfl (And.intro rfl (And.intro rfl (And.intro rfl trivial))))
theorem w_X7_lies_b90 (G : Gx) (h0 : G0 G) (N : Nat) (K39 : Nat → Int32 → Int32 → Int32 → Mem → Option (Int32 × Mem)) (hK39 : ∀ (a0 : Nat) (l1 : Int32) (l2 : Int32) (l3 : Int32) (σ : Mem), Runs G mX7_lies rhoI σ 39 [some (vR (some a0)), some (vI l1), some (vI l2), some (vI l3)] [] (K39 a0 l1 l2 l3 σ)) (a0 : Nat) (l1 : Int32) (l2 : Int32) (l3 : Int32) (σ : Mem) : Runs G mX7_lies rhoI σ 90 [some (vR (some a0)), some (vI l1), some (vI l2), some (vI l3)] [] (f_X7_lies_b90 N K39 a0 l1 l2 l3 σ) := by
  unfold f_X7_lies_b90
  refine r_iinc (q := 93) (v := (1 : Int32)) dX7_lies_90 rfl rfl (by decide) (Nat.le_of_ble_eq_true rfl) rfl ?_
  refine r_goto (q := 39) dX7_lies_93 (by decide) ?_
  exact r_le (hK39 _ _ _ _ _) (Nat.le_refl _) (And.intro rfl (And.intro rfl (And.intro rfl (And.intro rfl trivial))))
theorem w_X7_lies_b39B (G : Gx) (h0 : G0 G) (N : Nat)   (K39 : Nat → Int32 → Int32 → Int32 → Mem → Option (Int32 × Mem)) (hK39 : ∀ (a0 : Nat) (l1 : Int32) (l2 : Int32) (l3 : Int32) (σ : Mem), Runs G mX7_lies rhoI σ 39 [some (vR (some a0)), some (vI l1), some (vI l2), some (vI l3)] [] (K39 a0 l1 l2 l3 σ)) (a0 : Nat) (l1 : Int32) (l2 : Int32) (l3 : Int32) (σ : Mem) : Runs G mX7_lies rhoI σ 39 [some (vR (some a0)), some (vI l1), some (vI l2), some (vI l3)] [] (f_X7_lies_b39B N  K39 a0 l1 l2 l3 σ) := by
  unfold f_X7_lies_b39B
  refine r_iload_n (q := 40) dX7_lies_39 rfl rfl rfl ?_
  refine r_aload_n (q := 41) dX7_lies_40 rfl rfl rfl ?_
  refine r_gR (q := 44) fl_X7_442 rfl dX7_lies_41 rfl (fun x1 => ?_)
  refine r_ob (fun a4 ha4 => ?_)
  obtain ⟨hea4, hka4⟩ := o_at_eq ha4
  cases hea4
  refine r_callI (q := 47) (c_X24_cases G h0 N _ _) (cl_V (ci := 20) rfl rfl (lw_V q2375 q2376 q2377 q199 q2378) (hd_X24_cases) ⟨Nat.le_of_ble_eq_true rfl, Nat.le_of_ble_eq_true rfl⟩ (List.mem_singleton.mp hka4) rfl rfl rfl (Nat.le_of_ble_eq_true rfl) dX7_lies_44) rfl (fun x2 σ3 => ?_)
  refine r_icmp_ge (q := 50) (t := 96) dX7_lies_47 rfl (by decide) (fun _ => ?_) (fun _ => ?_)
  · refine r_aload_n (q := 97) dX7_lies_96 rfl rfl rfl ?_
    refine r_iload_n (q := 98) dX7_lies_97 rfl rfl rfl ?_
    refine r_ob (fun a7 ha7 => ?_)
    obtain ⟨hea7, hka7⟩ := o_at_eq ha7
    cases hea7
    refine r_callI (q := 101) (c_X7_good G h0 N _ _ _) (cl_V (ci := 6) rfl rfl (lw_V q2379 q2381 qs118 q176 q2382) (hd_X7_good) ⟨Nat.le_of_ble_eq_true rfl, Nat.le_of_ble_eq_true rfl⟩ (List.mem_singleton.mp hka7) rfl rfl rfl (Nat.le_of_ble_eq_true rfl) dX7_lies_98) rfl (fun x5 σ6 => ?_)
    exact r_ireturn rfl rfl dX7_lies_101
  · refine r_aload_n (q := 51) dX7_lies_50 rfl rfl rfl ?_
    refine r_gR (q := 54) fl_X7_442 rfl dX7_lies_51 rfl (fun x8 => ?_)
    refine r_gR (q := 57) fl_X7_323 rfl dX7_lies_54 rfl (fun x9 => ?_)
    refine r_iload_n (q := 58) dX7_lies_57 rfl rfl rfl ?_
    refine r_iaload (q := 59) dX7_lies_58 rfl (fun x10 => ?_)
    refine r_if_le (q := 62) (t := 90) dX7_lies_59 rfl (by decide) (fun _ => ?_) (fun _ => ?_)
    · exact r_le (w_X7_lies_b90 G h0 N K39 hK39 _ _ _ _ _) (Nat.le_refl _) (And.intro rfl (And.intro rfl (And.intro rfl (And.intro rfl trivial))))
    · refine r_aload_n (q := 63) dX7_lies_62 rfl rfl rfl ?_
      refine r_iload_n (q := 64) dX7_lies_63 rfl rfl rfl ?_
      refine r_aload_n (q := 65) dX7_lies_64 rfl rfl rfl ?_
      refine r_ob (fun a13 ha13 => ?_)
      obtain ⟨hea13, hka13⟩ := o_at_eq ha13
      cases hea13
      refine r_callI (q := 68) (c_X7_heard G h0 N _ _) (cl_V (ci := 6) rfl rfl (lw_V q2549 q2551 qs139 q176 q2552) (hd_X7_heard) ⟨Nat.le_of_ble_eq_true rfl, Nat.le_of_ble_eq_true rfl⟩ (List.mem_singleton.mp hka13) rfl rfl rfl (Nat.le_of_ble_eq_true rfl) dX7_lies_65) rfl (fun x11 σ12 => ?_)
      refine r_ob (fun a16 ha16 => ?_)
      obtain ⟨hea16, hka16⟩ := o_at_eq ha16
      cases hea16
      refine r_callI (q := 71) (c_X7_areTrue G h0 N _ _ _ _) (cl_V (ci := 6) rfl rfl (lw_V q2557 q2559 qs141 q176 q2560) (hd_X7_areTrue) ⟨Nat.le_of_ble_eq_true rfl, Nat.le_of_ble_eq_true rfl⟩ (List.mem_singleton.mp hka16) rfl rfl rfl (Nat.le_of_ble_eq_true rfl) dX7_lies_68) rfl (fun x14 σ15 => ?_)
      refine r_if_eq (q := 74) (t := 90) dX7_lies_71 rfl (by decide) (fun _ => ?_) (fun _ => ?_)
      · exact r_le (w_X7_lies_b90 G h0 N K39 hK39 _ _ _ _ _) (Nat.le_refl _) (And.intro rfl (And.intro rfl (And.intro rfl (And.intro rfl trivial))))
      · refine r_iload_n (q := 75) dX7_lies_74 rfl rfl rfl ?_
        refine r_iconst (q := 76) (v := (1 : Int32)) dX7_lies_75 rfl (by decide) ?_
        refine r_aload_n (q := 77) dX7_lies_76 rfl rfl rfl ?_
        refine r_gR (q := 80) fl_X7_442 rfl dX7_lies_77 rfl (fun x17 => ?_)
        refine r_iload_n (q := 81) dX7_lies_80 rfl rfl rfl ?_
        refine r_iload_n (q := 82) dX7_lies_81 rfl rfl rfl ?_
        refine r_ob (fun a20 ha20 => ?_)
        obtain ⟨hea20, hka20⟩ := o_at_eq ha20
        cases hea20
        refine r_callI (q := 85) (c_X24_storyOf G h0 N _ _ _ _) (cl_V (ci := 20) rfl rfl (lw_V q2459 q2460 q2461 q199 q2462) (hd_X24_storyOf) ⟨Nat.le_of_ble_eq_true rfl, Nat.le_of_ble_eq_true rfl⟩ (List.mem_singleton.mp hka20) rfl rfl rfl (Nat.le_of_ble_eq_true rfl) dX7_lies_82) rfl (fun x18 σ19 => ?_)
        refine r_ishl (q := 86) dX7_lies_85 rfl ?_
        refine r_iconst (q := 87) (v := (-1 : Int32)) dX7_lies_86 rfl (by decide) ?_
        refine r_ixor (q := 88) dX7_lies_87 rfl ?_
        refine r_iand (q := 89) dX7_lies_88 rfl ?_
        refine r_istore_n (q := 90) dX7_lies_89 rfl rfl (Nat.le_of_ble_eq_true rfl) rfl ?_
        exact r_le (w_X7_lies_b90 G h0 N K39 hK39 _ _ _ _ _) (Nat.le_refl _) (And.intro rfl (And.intro rfl (And.intro rfl (And.intro rfl trivial))))
theorem w_X7_lies_b39 (G : Gx) (h0 : G0 G) (N : Nat)   : ∀ (z : Nat) (a0 : Nat) (l1 : Int32) (l2 : Int32) (l3 : Int32) (σ : Mem), Runs G mX7_lies rhoI σ 39 [some (vR (some a0)), some (vI l1), some (vI l2), some (vI l3)] [] (f_X7_lies_b39 N  z a0 l1 l2 l3 σ) := by
  intro z
  induction z with
  | zero => exact fun _ _ _ _ _ => r_none
  | succ z ih => exact fun a0 l1 l2 l3 σ => w_X7_lies_b39B G h0 N   _ ih a0 l1 l2 l3 σ
theorem c_X7_lies (G : Gx) (h0 : G0 G) (N : Nat) (a0 : Nat) (i1 : Int32) (σ : Mem) : Ct G mX7_lies rhoI [vR (some a0), vI i1] σ (f_X7_lies N a0 i1 σ) := by
  refine Ct_of h0 (by decide) rfl (Nat.le_of_ble_eq_true rfl) (L0 := [some (vR (some a0)), some (vI i1), none, none]) rfl ?_
  unfold f_X7_lies
  refine r_aload_n (q := 1) dX7_lies_0 rfl rfl rfl ?_
  refine r_iconst (q := 2) (v := (0 : Int32)) dX7_lies_1 rfl (by decide) ?_
  refine r_pI (q := 5) fp_X7_lies_66 dX7_lies_2 rfl (fun σ1 => ?_)
  refine r_aload_n (q := 6) dX7_lies_5 rfl rfl rfl ?_
  refine r_iload_n (q := 7) dX7_lies_6 rfl rfl rfl ?_
  refine r_ob (fun a4 ha4 => ?_)
  obtain ⟨hea4, hka4⟩ := o_at_eq ha4
  cases hea4
  refine r_callI (q := 10) (c_X7_isPerson G h0 N _ _ _) (cl_V (ci := 6) rfl rfl (lw_V q2435 q2437 qs124 q176 q2438) (hd_X7_isPerson) ⟨Nat.le_of_ble_eq_true rfl, Nat.le_of_ble_eq_true rfl⟩ (List.mem_singleton.mp hka4) rfl rfl rfl (Nat.le_of_ble_eq_true rfl) dX7_lies_7) rfl (fun x2 σ3 => ?_)
  refine r_if_ne (q := 13) (t := 19) dX7_lies_10 rfl (by decide) (fun _ => ?_) (fun _ => ?_)
  · refine r_aload_n (q := 14) dX7_lies_13 rfl rfl rfl ?_
    refine r_iconst (q := 15) (v := (1 : Int32)) dX7_lies_14 rfl (by decide) ?_
    refine r_ob (fun a13 ha13 => ?_)
    obtain ⟨hea13, hka13⟩ := o_at_eq ha13
    cases hea13
    refine r_callI (q := 18) (c_X7_refused G h0 N _ _ _) (cl_V (ci := 6) rfl rfl (lw_V q2019 q2021 qs83 q176 q2022) (hd_X7_refused) ⟨Nat.le_of_ble_eq_true rfl, Nat.le_of_ble_eq_true rfl⟩ (List.mem_singleton.mp hka13) rfl rfl rfl (Nat.le_of_ble_eq_true rfl) dX7_lies_15) rfl (fun x11 σ12 => ?_)
    exact r_ireturn rfl rfl dX7_lies_18
  · refine r_aload_n (q := 20) dX7_lies_19 rfl rfl rfl ?_
    refine r_ob (fun a7 ha7 => ?_)
    obtain ⟨hea7, hka7⟩ := o_at_eq ha7
    cases hea7
    refine r_callV (q := 23) (c_X7_laysHonest G h0 N _ _) (cl_V (ci := 6) rfl rfl (lw_V q2545 q2547 qs138 q176 q2548) (hd_X7_laysHonest) ⟨Nat.le_of_ble_eq_true rfl, Nat.le_of_ble_eq_true rfl⟩ (List.mem_singleton.mp hka7) rfl rfl rfl (Nat.le_of_ble_eq_true rfl) dX7_lies_20) rfl (fun u5 σ6 => ?_)
    refine r_iconst (q := 24) (v := (1 : Int32)) dX7_lies_23 rfl (by decide) ?_
    refine r_aload_n (q := 25) dX7_lies_24 rfl rfl rfl ?_
    refine r_gR (q := 28) fl_X7_442 rfl dX7_lies_25 rfl (fun x8 => ?_)
    refine r_gR (q := 31) fl_X7_323 rfl dX7_lies_28 rfl (fun x9 => ?_)
    refine r_iload_n (q := 32) dX7_lies_31 rfl rfl rfl ?_
    refine r_iaload (q := 33) dX7_lies_32 rfl (fun x10 => ?_)
    refine r_ishl (q := 34) dX7_lies_33 rfl ?_
    refine r_iconst (q := 35) (v := (1 : Int32)) dX7_lies_34 rfl (by decide) ?_
    refine r_isub (q := 36) dX7_lies_35 rfl ?_
    refine r_istore_n (q := 37) dX7_lies_36 rfl rfl (Nat.le_of_ble_eq_true rfl) rfl ?_
    refine r_iconst (q := 38) (v := (0 : Int32)) dX7_lies_37 rfl (by decide) ?_
    refine r_istore_n (q := 39) dX7_lies_38 rfl rfl (Nat.le_of_ble_eq_true rfl) rfl ?_
    exact r_le (w_X7_lies_b39 G h0 N N _ _ _ _ _) (Nat.le_refl _) (And.intro rfl (And.intro rfl (And.intro rfl (And.intro rfl trivial))))
theorem w_X1_ones_b4B (G : Gx) (h0 : G0 G) (N : Nat)   (K4 : Int32 → Int32 → Mem → Option (Int32 × Mem)) (hK4 : ∀ (l1 : Int32) (l2 : Int32) (σ : Mem), Runs G mX1_ones rhoI σ 4 [none, some (vI l1), some (vI l2)] [] (K4 l1 l2 σ)) (l1 : Int32) (l2 : Int32) (σ : Mem) : Runs G mX1_ones rhoI σ 4 [none, some (vI l1), some (vI l2)] [] (f_X1_ones_b4B N  K4 l1 l2 σ) := by
  unfold f_X1_ones_b4B
  refine r_iload_n (q := 5) dX1_ones_4 rfl rfl rfl ?_
  refine r_if_eq (q := 8) (t := 20) dX1_ones_5 rfl (by decide) (fun _ => ?_) (fun _ => ?_)
  · refine r_iload_n (q := 21) dX1_ones_20 rfl rfl rfl ?_
    exact r_ireturn rfl rfl dX1_ones_21
  · refine r_iinc (q := 11) (v := (1 : Int32)) dX1_ones_8 rfl rfl (by decide) (Nat.le_of_ble_eq_true rfl) rfl ?_
    refine r_iload_n (q := 12) dX1_ones_11 rfl rfl rfl ?_
    refine r_iload_n (q := 13) dX1_ones_12 rfl rfl rfl ?_
    refine r_iconst (q := 14) (v := (1 : Int32)) dX1_ones_13 rfl (by decide) ?_
    refine r_isub (q := 15) dX1_ones_14 rfl ?_
    refine r_iand (q := 16) dX1_ones_15 rfl ?_
    refine r_istore_n (q := 17) dX1_ones_16 rfl rfl (Nat.le_of_ble_eq_true rfl) rfl ?_
    refine r_goto (q := 4) dX1_ones_17 (by decide) ?_
    exact r_le (hK4 _ _ _) (Nat.le_refl _) (And.intro rfl (And.intro rfl trivial))
theorem w_X1_ones_b4 (G : Gx) (h0 : G0 G) (N : Nat)   : ∀ (z : Nat) (l1 : Int32) (l2 : Int32) (σ : Mem), Runs G mX1_ones rhoI σ 4 [none, some (vI l1), some (vI l2)] [] (f_X1_ones_b4 N  z l1 l2 σ) := by
  intro z
  induction z with
  | zero => exact fun _ _ _ => r_none
  | succ z ih => exact fun l1 l2 σ => w_X1_ones_b4B G h0 N   _ ih l1 l2 σ
theorem c_X1_ones (G : Gx) (h0 : G0 G) (N : Nat) (i0 : Int32) (σ : Mem) : Ct G mX1_ones rhoI [vI i0] σ (f_X1_ones N i0 σ) := by
  refine Ct_of h0 (by decide) rfl (Nat.le_of_ble_eq_true rfl) (L0 := [some (vI i0), none, none]) rfl ?_
  unfold f_X1_ones
  refine r_iconst (q := 1) (v := (0 : Int32)) dX1_ones_0 rfl (by decide) ?_
  refine r_istore_n (q := 2) dX1_ones_1 rfl rfl (Nat.le_of_ble_eq_true rfl) rfl ?_
  refine r_iload_n (q := 3) dX1_ones_2 rfl rfl rfl ?_
  refine r_istore_n (q := 4) dX1_ones_3 rfl rfl (Nat.le_of_ble_eq_true rfl) rfl ?_
  exact r_le (w_X1_ones_b4 G h0 N N _ _ _) (Nat.le_refl _) (And.intro rfl (And.intro rfl trivial))
theorem w_X1_isFewer_b27 (G : Gx) (h0 : G0 G) (N : Nat)    (σ : Mem) : Runs G mX1_isFewer rhoI σ 27 [none, none] [] (f_X1_isFewer_b27 N   σ) := by
  unfold f_X1_isFewer_b27
  refine r_iconst (q := 28) (v := (1 : Int32)) dX1_isFewer_27 rfl (by decide) ?_
  refine r_goto (q := 32) dX1_isFewer_28 (by decide) ?_
  exact r_ireturnN rfl dX1_isFewer_32
theorem w_X1_isFewer_b31 (G : Gx) (h0 : G0 G) (N : Nat)    (σ : Mem) : Runs G mX1_isFewer rhoI σ 31 [none, none] [] (f_X1_isFewer_b31 N   σ) := by
  unfold f_X1_isFewer_b31
  refine r_iconst (q := 32) (v := (0 : Int32)) dX1_isFewer_31 rfl (by decide) ?_
  exact r_ireturnN rfl dX1_isFewer_32
theorem c_X1_isFewer (G : Gx) (h0 : G0 G) (N : Nat) (i0 : Int32) (i1 : Int32) (σ : Mem) : Ct G mX1_isFewer rhoI [vI i0, vI i1] σ (f_X1_isFewer N i0 i1 σ) := by
  refine Ct_of h0 (by decide) rfl (Nat.le_of_ble_eq_true rfl) (L0 := [some (vI i0), some (vI i1)]) rfl ?_
  unfold f_X1_isFewer
  refine r_iload_n (q := 1) dX1_isFewer_0 rfl rfl rfl ?_
  refine r_callI (q := 4) (c_X1_ones G h0 N _ _) (cl_S rfl rfl (lw_S q1629 q1630 q167 q1631) (hd_X1_ones) ⟨Nat.le_of_ble_eq_true rfl, Nat.le_of_ble_eq_true rfl⟩ rfl (Nat.le_of_ble_eq_true rfl) dX1_isFewer_1) rfl (fun x1 σ2 => ?_)
  refine r_iload_n (q := 5) dX1_isFewer_4 rfl rfl rfl ?_
  refine r_callI (q := 8) (c_X1_ones G h0 N _ _) (cl_S rfl rfl (lw_S q1629 q1630 q167 q1631) (hd_X1_ones) ⟨Nat.le_of_ble_eq_true rfl, Nat.le_of_ble_eq_true rfl⟩ rfl (Nat.le_of_ble_eq_true rfl) dX1_isFewer_5) rfl (fun x3 σ4 => ?_)
  refine r_icmp_lt (q := 11) (t := 27) dX1_isFewer_8 rfl (by decide) (fun _ => ?_) (fun _ => ?_)
  · exact r_le (w_X1_isFewer_b27 G h0 N  _) (Nat.le_refl _) trivial
  · refine r_iload_n (q := 12) dX1_isFewer_11 rfl rfl rfl ?_
    refine r_callI (q := 15) (c_X1_ones G h0 N _ _) (cl_S rfl rfl (lw_S q1629 q1630 q167 q1631) (hd_X1_ones) ⟨Nat.le_of_ble_eq_true rfl, Nat.le_of_ble_eq_true rfl⟩ rfl (Nat.le_of_ble_eq_true rfl) dX1_isFewer_12) rfl (fun x5 σ6 => ?_)
    refine r_iload_n (q := 16) dX1_isFewer_15 rfl rfl rfl ?_
    refine r_callI (q := 19) (c_X1_ones G h0 N _ _) (cl_S rfl rfl (lw_S q1629 q1630 q167 q1631) (hd_X1_ones) ⟨Nat.le_of_ble_eq_true rfl, Nat.le_of_ble_eq_true rfl⟩ rfl (Nat.le_of_ble_eq_true rfl) dX1_isFewer_16) rfl (fun x7 σ8 => ?_)
    refine r_icmp_ne (q := 22) (t := 31) dX1_isFewer_19 rfl (by decide) (fun _ => ?_) (fun _ => ?_)
    · refine r_iload_n (q := 23) dX1_isFewer_22 rfl rfl rfl ?_
      refine r_iload_n (q := 24) dX1_isFewer_23 rfl rfl rfl ?_
      refine r_icmp_ge (q := 27) (t := 31) dX1_isFewer_24 rfl (by decide) (fun _ => ?_) (fun _ => ?_)
      · exact r_le (w_X1_isFewer_b31 G h0 N  _) (Nat.le_refl _) trivial
      · exact r_le (w_X1_isFewer_b27 G h0 N  _) (Nat.le_refl _) trivial
    · exact r_le (w_X1_isFewer_b31 G h0 N  _) (Nat.le_refl _) trivial
theorem w_X1_falseOnes_b80 (G : Gx) (h0 : G0 G) (N : Nat) (K41 : Nat → Int32 → Int32 → Int32 → Mem → Option (Int32 × Mem)) (hK41 : ∀ (a0 : Nat) (l1 : Int32) (l2 : Int32) (l3 : Int32) (σ : Mem), Runs G mX1_falseOnes rhoI σ 41 [some (vR (some a0)), some (vI l1), some (vI l2), some (vI l3)] [] (K41 a0 l1 l2 l3 σ)) (a0 : Nat) (l1 : Int32) (l2 : Int32) (l3 : Int32) (σ : Mem) : Runs G mX1_falseOnes rhoI σ 80 [some (vR (some a0)), some (vI l1), some (vI l2), some (vI l3)] [] (f_X1_falseOnes_b80 N K41 a0 l1 l2 l3 σ) := by
  unfold f_X1_falseOnes_b80
  refine r_iinc (q := 83) (v := (1 : Int32)) dX1_falseOnes_80 rfl rfl (by decide) (Nat.le_of_ble_eq_true rfl) rfl ?_
  refine r_goto (q := 41) dX1_falseOnes_83 (by decide) ?_
  exact r_le (hK41 _ _ _ _ _) (Nat.le_refl _) (And.intro rfl (And.intro rfl (And.intro rfl (And.intro rfl trivial))))
theorem w_X1_falseOnes_b41B (G : Gx) (h0 : G0 G) (N : Nat)   (K41 : Nat → Int32 → Int32 → Int32 → Mem → Option (Int32 × Mem)) (hK41 : ∀ (a0 : Nat) (l1 : Int32) (l2 : Int32) (l3 : Int32) (σ : Mem), Runs G mX1_falseOnes rhoI σ 41 [some (vR (some a0)), some (vI l1), some (vI l2), some (vI l3)] [] (K41 a0 l1 l2 l3 σ)) (a0 : Nat) (l1 : Int32) (l2 : Int32) (l3 : Int32) (σ : Mem) : Runs G mX1_falseOnes rhoI σ 41 [some (vR (some a0)), some (vI l1), some (vI l2), some (vI l3)] [] (f_X1_falseOnes_b41B N  K41 a0 l1 l2 l3 σ) := by
  unfold f_X1_falseOnes_b41B
  refine r_iload_n (q := 42) dX1_falseOnes_41 rfl rfl rfl ?_
  refine r_aload_n (q := 43) dX1_falseOnes_42 rfl rfl rfl ?_
  refine r_gR (q := 46) fl_X1_104 rfl dX1_falseOnes_43 rfl (fun x1 => ?_)
  refine r_ob (fun a4 ha4 => ?_)
  obtain ⟨hea4, hka4⟩ := o_at_eq ha4
  cases hea4
  refine r_callI (q := 49) (c_X8_cases G h0 N _ _) (cl_V (ci := 7) rfl rfl (lw_V q1296 q1297 q1298 q177 q1299) (hd_X8_cases) ⟨Nat.le_of_ble_eq_true rfl, Nat.le_of_ble_eq_true rfl⟩ (List.mem_singleton.mp hka4) rfl rfl rfl (Nat.le_of_ble_eq_true rfl) dX1_falseOnes_46) rfl (fun x2 σ3 => ?_)
  refine r_icmp_ge (q := 52) (t := 86) dX1_falseOnes_49 rfl (by decide) (fun _ => ?_) (fun _ => ?_)
  · refine r_iload_n (q := 87) dX1_falseOnes_86 rfl rfl rfl ?_
    exact r_ireturn rfl rfl dX1_falseOnes_87
  · refine r_iload_n (q := 53) dX1_falseOnes_52 rfl rfl rfl ?_
    refine r_aload_n (q := 54) dX1_falseOnes_53 rfl rfl rfl ?_
    refine r_gR (q := 57) fl_X1_64 rfl dX1_falseOnes_54 rfl (fun x5 => ?_)
    refine r_iload_n (q := 58) dX1_falseOnes_57 rfl rfl rfl ?_
    refine r_iaload (q := 59) dX1_falseOnes_58 rfl (fun x6 => ?_)
    refine r_iconst (q := 60) (v := (-1 : Int32)) dX1_falseOnes_59 rfl (by decide) ?_
    refine r_ixor (q := 61) dX1_falseOnes_60 rfl ?_
    refine r_iand (q := 62) dX1_falseOnes_61 rfl ?_
    refine r_iload_n (q := 63) dX1_falseOnes_62 rfl rfl rfl ?_
    refine r_callI (q := 66) (c_X1_isFewer G h0 N _ _ _) (cl_S rfl rfl (lw_S q1626 q1627 q167 q1628) (hd_X1_isFewer) ⟨Nat.le_of_ble_eq_true rfl, Nat.le_of_ble_eq_true rfl⟩ rfl (Nat.le_of_ble_eq_true rfl) dX1_falseOnes_63) rfl (fun x7 σ8 => ?_)
    refine r_if_eq (q := 69) (t := 80) dX1_falseOnes_66 rfl (by decide) (fun _ => ?_) (fun _ => ?_)
    · exact r_le (w_X1_falseOnes_b80 G h0 N K41 hK41 _ _ _ _ _) (Nat.le_refl _) (And.intro rfl (And.intro rfl (And.intro rfl (And.intro rfl trivial))))
    · refine r_iload_n (q := 70) dX1_falseOnes_69 rfl rfl rfl ?_
      refine r_aload_n (q := 71) dX1_falseOnes_70 rfl rfl rfl ?_
      refine r_gR (q := 74) fl_X1_64 rfl dX1_falseOnes_71 rfl (fun x9 => ?_)
      refine r_iload_n (q := 75) dX1_falseOnes_74 rfl rfl rfl ?_
      refine r_iaload (q := 76) dX1_falseOnes_75 rfl (fun x10 => ?_)
      refine r_iconst (q := 77) (v := (-1 : Int32)) dX1_falseOnes_76 rfl (by decide) ?_
      refine r_ixor (q := 78) dX1_falseOnes_77 rfl ?_
      refine r_iand (q := 79) dX1_falseOnes_78 rfl ?_
      refine r_istore_n (q := 80) dX1_falseOnes_79 rfl rfl (Nat.le_of_ble_eq_true rfl) rfl ?_
      exact r_le (w_X1_falseOnes_b80 G h0 N K41 hK41 _ _ _ _ _) (Nat.le_refl _) (And.intro rfl (And.intro rfl (And.intro rfl (And.intro rfl trivial))))
theorem w_X1_falseOnes_b41 (G : Gx) (h0 : G0 G) (N : Nat)   : ∀ (z : Nat) (a0 : Nat) (l1 : Int32) (l2 : Int32) (l3 : Int32) (σ : Mem), Runs G mX1_falseOnes rhoI σ 41 [some (vR (some a0)), some (vI l1), some (vI l2), some (vI l3)] [] (f_X1_falseOnes_b41 N  z a0 l1 l2 l3 σ) := by
  intro z
  induction z with
  | zero => exact fun _ _ _ _ _ => r_none
  | succ z ih => exact fun a0 l1 l2 l3 σ => w_X1_falseOnes_b41B G h0 N   _ ih a0 l1 l2 l3 σ
theorem c_X1_falseOnes (G : Gx) (h0 : G0 G) (N : Nat) (a0 : Nat) (σ : Mem) : Ct G mX1_falseOnes rhoI [vR (some a0)] σ (f_X1_falseOnes N a0 σ) := by
  refine Ct_of h0 (by decide) rfl (Nat.le_of_ble_eq_true rfl) (L0 := [some (vR (some a0)), none, none, none]) rfl ?_
  unfold f_X1_falseOnes
  refine r_aload_n (q := 1) dX1_falseOnes_0 rfl rfl rfl ?_
  refine r_ob (fun a3 ha3 => ?_)
  obtain ⟨hea3, hka3⟩ := o_at_eq ha3
  cases hea3
  refine r_callV (q := 4) (c_X1_anew G h0 N _ _) (cl_V (ci := 0) rfl rfl (lw_V q485 q487 qs2 q167 q488) (hd_X1_anew) ⟨Nat.le_of_ble_eq_true rfl, Nat.le_of_ble_eq_true rfl⟩ (List.mem_singleton.mp hka3) rfl rfl rfl (Nat.le_of_ble_eq_true rfl) dX1_falseOnes_1) rfl (fun u1 σ2 => ?_)
  refine r_aload_n (q := 5) dX1_falseOnes_4 rfl rfl rfl ?_
  refine r_gR (q := 8) fl_X1_104 rfl dX1_falseOnes_5 rfl (fun x4 => ?_)
  refine r_ifnonnull (q := 11) (t := 17) dX1_falseOnes_8 rfl (by decide) (fun _ => ?_) (fun _ => ?_)
  · refine r_aload_n (q := 12) dX1_falseOnes_11 rfl rfl rfl ?_
    refine r_iconst (q := 13) (v := (1 : Int32)) dX1_falseOnes_12 rfl (by decide) ?_
    refine r_ob (fun a16 ha16 => ?_)
    obtain ⟨hea16, hka16⟩ := o_at_eq ha16
    cases hea16
    refine r_callI (q := 16) (c_X1_no G h0 N _ _ _) (cl_V (ci := 0) rfl rfl (lw_V q492 q494 qs3 q167 q495) (hd_X1_no) ⟨Nat.le_of_ble_eq_true rfl, Nat.le_of_ble_eq_true rfl⟩ (List.mem_singleton.mp hka16) rfl rfl rfl (Nat.le_of_ble_eq_true rfl) dX1_falseOnes_13) rfl (fun x14 σ15 => ?_)
    exact r_ireturn rfl rfl dX1_falseOnes_16
  · refine r_aload_n (q := 18) dX1_falseOnes_17 rfl rfl rfl ?_
    refine r_ob (fun a7 ha7 => ?_)
    obtain ⟨hea7, hka7⟩ := o_at_eq ha7
    cases hea7
    refine r_callV (q := 21) (c_X1_layTruth G h0 N _ _) (cl_V (ci := 0) rfl rfl (lw_V q1580 q1582 qs61 q167 q1583) (hd_X1_layTruth) ⟨Nat.le_of_ble_eq_true rfl, Nat.le_of_ble_eq_true rfl⟩ (List.mem_singleton.mp hka7) rfl rfl rfl (Nat.le_of_ble_eq_true rfl) dX1_falseOnes_18) rfl (fun u5 σ6 => ?_)
    refine r_aload_n (q := 22) dX1_falseOnes_21 rfl rfl rfl ?_
    refine r_gR (q := 25) fl_X1_33 rfl dX1_falseOnes_22 rfl (fun x8 => ?_)
    refine r_gI (q := 28) fl_X1_200 dX1_falseOnes_25 rfl (fun x9 => ?_)
    refine r_aload_n (q := 29) dX1_falseOnes_28 rfl rfl rfl ?_
    refine r_gR (q := 32) fl_X1_104 rfl dX1_falseOnes_29 rfl (fun x10 => ?_)
    refine r_ob (fun a13 ha13 => ?_)
    obtain ⟨hea13, hka13⟩ := o_at_eq ha13
    cases hea13
    refine r_callI (q := 35) (c_X8_clueGoats G h0 N _ _) (cl_V (ci := 7) rfl rfl (lw_V q1597 q1589 q1590 q177 q1591) (hd_X8_clueGoats) ⟨Nat.le_of_ble_eq_true rfl, Nat.le_of_ble_eq_true rfl⟩ (List.mem_singleton.mp hka13) rfl rfl rfl (Nat.le_of_ble_eq_true rfl) dX1_falseOnes_32) rfl (fun x11 σ12 => ?_)
    refine r_iand (q := 36) dX1_falseOnes_35 rfl ?_
    refine r_istore_n (q := 37) dX1_falseOnes_36 rfl rfl (Nat.le_of_ble_eq_true rfl) rfl ?_
    refine r_iload_n (q := 38) dX1_falseOnes_37 rfl rfl rfl ?_
    refine r_istore_n (q := 39) dX1_falseOnes_38 rfl rfl (Nat.le_of_ble_eq_true rfl) rfl ?_
    refine r_iconst (q := 40) (v := (0 : Int32)) dX1_falseOnes_39 rfl (by decide) ?_
    refine r_istore_n (q := 41) dX1_falseOnes_40 rfl rfl (Nat.le_of_ble_eq_true rfl) rfl ?_
    exact r_le (w_X1_falseOnes_b41 G h0 N N _ _ _ _ _) (Nat.le_refl _) (And.intro rfl (And.intro rfl (And.intro rfl (And.intro rfl trivial))))
theorem w_X7_anyFits_b2B (G : Gx) (h0 : G0 G) (N : Nat)   (K2 : Nat → Int32 → Int32 → Mem → Option (Int32 × Mem)) (hK2 : ∀ (a0 : Nat) (l1 : Int32) (l2 : Int32) (σ : Mem), Runs G mX7_anyFits rhoI σ 2 [some (vR (some a0)), some (vI l1), some (vI l2)] [] (K2 a0 l1 l2 σ)) (a0 : Nat) (l1 : Int32) (l2 : Int32) (σ : Mem) : Runs G mX7_anyFits rhoI σ 2 [some (vR (some a0)), some (vI l1), some (vI l2)] [] (f_X7_anyFits_b2B N  K2 a0 l1 l2 σ) := by
  unfold f_X7_anyFits_b2B
  refine r_iload_n (q := 3) dX7_anyFits_2 rfl rfl rfl ?_
  refine r_aload_n (q := 4) dX7_anyFits_3 rfl rfl rfl ?_
  refine r_gR (q := 7) fl_X7_442 rfl dX7_anyFits_4 rfl (fun x1 => ?_)
  refine r_ob (fun a4 ha4 => ?_)
  obtain ⟨hea4, hka4⟩ := o_at_eq ha4
  cases hea4
  refine r_callI (q := 10) (c_X24_cases G h0 N _ _) (cl_V (ci := 20) rfl rfl (lw_V q2375 q2376 q2377 q199 q2378) (hd_X24_cases) ⟨Nat.le_of_ble_eq_true rfl, Nat.le_of_ble_eq_true rfl⟩ (List.mem_singleton.mp hka4) rfl rfl rfl (Nat.le_of_ble_eq_true rfl) dX7_anyFits_7) rfl (fun x2 σ3 => ?_)
  refine r_icmp_ge (q := 13) (t := 30) dX7_anyFits_10 rfl (by decide) (fun _ => ?_) (fun _ => ?_)
  · refine r_iconst (q := 31) (v := (0 : Int32)) dX7_anyFits_30 rfl (by decide) ?_
    exact r_ireturnN rfl dX7_anyFits_31
  · refine r_aload_n (q := 14) dX7_anyFits_13 rfl rfl rfl ?_
    refine r_iload_n (q := 15) dX7_anyFits_14 rfl rfl rfl ?_
    refine r_iload_n (q := 16) dX7_anyFits_15 rfl rfl rfl ?_
    refine r_ob (fun a7 ha7 => ?_)
    obtain ⟨hea7, hka7⟩ := o_at_eq ha7
    cases hea7
    refine r_callI (q := 19) (c_X7_areTrue G h0 N _ _ _ _) (cl_V (ci := 6) rfl rfl (lw_V q2557 q2559 qs141 q176 q2560) (hd_X7_areTrue) ⟨Nat.le_of_ble_eq_true rfl, Nat.le_of_ble_eq_true rfl⟩ (List.mem_singleton.mp hka7) rfl rfl rfl (Nat.le_of_ble_eq_true rfl) dX7_anyFits_16) rfl (fun x5 σ6 => ?_)
    refine r_if_eq (q := 22) (t := 24) dX7_anyFits_19 rfl (by decide) (fun _ => ?_) (fun _ => ?_)
    · refine r_iinc (q := 27) (v := (1 : Int32)) dX7_anyFits_24 rfl rfl (by decide) (Nat.le_of_ble_eq_true rfl) rfl ?_
      refine r_goto (q := 2) dX7_anyFits_27 (by decide) ?_
      exact r_le (hK2 _ _ _ _) (Nat.le_refl _) (And.intro rfl (And.intro rfl (And.intro rfl trivial)))
    · refine r_iconst (q := 23) (v := (1 : Int32)) dX7_anyFits_22 rfl (by decide) ?_
      exact r_ireturnN rfl dX7_anyFits_23
theorem w_X7_anyFits_b2 (G : Gx) (h0 : G0 G) (N : Nat)   : ∀ (z : Nat) (a0 : Nat) (l1 : Int32) (l2 : Int32) (σ : Mem), Runs G mX7_anyFits rhoI σ 2 [some (vR (some a0)), some (vI l1), some (vI l2)] [] (f_X7_anyFits_b2 N  z a0 l1 l2 σ) := by
  intro z
  induction z with
  | zero => exact fun _ _ _ _ => r_none
  | succ z ih => exact fun a0 l1 l2 σ => w_X7_anyFits_b2B G h0 N   _ ih a0 l1 l2 σ
theorem c_X7_anyFits (G : Gx) (h0 : G0 G) (N : Nat) (a0 : Nat) (i1 : Int32) (σ : Mem) : Ct G mX7_anyFits rhoI [vR (some a0), vI i1] σ (f_X7_anyFits N a0 i1 σ) := by
  refine Ct_of h0 (by decide) rfl (Nat.le_of_ble_eq_true rfl) (L0 := [some (vR (some a0)), some (vI i1), none]) rfl ?_
  unfold f_X7_anyFits
  refine r_iconst (q := 1) (v := (0 : Int32)) dX7_anyFits_0 rfl (by decide) ?_
  refine r_istore_n (q := 2) dX7_anyFits_1 rfl rfl (Nat.le_of_ble_eq_true rfl) rfl ?_
  exact r_le (w_X7_anyFits_b2 G h0 N N _ _ _ _) (Nat.le_refl _) (And.intro rfl (And.intro rfl (And.intro rfl trivial)))
theorem w_X7_falseOnes_b80 (G : Gx) (h0 : G0 G) (N : Nat) (K27 : Nat → Int32 → Int32 → Mem → Option (Int32 × Mem)) (hK27 : ∀ (a0 : Nat) (l1 : Int32) (l2 : Int32) (σ : Mem), Runs G mX7_falseOnes rhoI σ 27 [some (vR (some a0)), some (vI l1), some (vI l2)] [] (K27 a0 l1 l2 σ)) (a0 : Nat) (l1 : Int32) (l2 : Int32) (σ : Mem) : Runs G mX7_falseOnes rhoI σ 80 [some (vR (some a0)), some (vI l1), some (vI l2)] [] (f_X7_falseOnes_b80 N K27 a0 l1 l2 σ) := by
  unfold f_X7_falseOnes_b80
  refine r_iinc (q := 83) (v := (1 : Int32)) dX7_falseOnes_80 rfl rfl (by decide) (Nat.le_of_ble_eq_true rfl) rfl ?_
  refine r_goto (q := 27) dX7_falseOnes_83 (by decide) ?_
  exact r_le (hK27 _ _ _ _) (Nat.le_refl _) (And.intro rfl (And.intro rfl (And.intro rfl trivial)))
theorem w_X7_falseOnes_b63 (G : Gx) (h0 : G0 G) (N : Nat) (K27 : Nat → Int32 → Int32 → Mem → Option (Int32 × Mem)) (hK27 : ∀ (a0 : Nat) (l1 : Int32) (l2 : Int32) (σ : Mem), Runs G mX7_falseOnes rhoI σ 27 [some (vR (some a0)), some (vI l1), some (vI l2)] [] (K27 a0 l1 l2 σ)) (a0 : Nat) (l1 : Int32) (l2 : Int32) (σ : Mem) : Runs G mX7_falseOnes rhoI σ 63 [some (vR (some a0)), some (vI l1), some (vI l2)] [] (f_X7_falseOnes_b63 N K27 a0 l1 l2 σ) := by
  unfold f_X7_falseOnes_b63
  refine r_aload_n (q := 64) dX7_falseOnes_63 rfl rfl rfl ?_
  refine r_aload_n (q := 65) dX7_falseOnes_64 rfl rfl rfl ?_
  refine r_ob (fun a3 ha3 => ?_)
  obtain ⟨hea3, hka3⟩ := o_at_eq ha3
  cases hea3
  refine r_callI (q := 68) (c_X7_heard G h0 N _ _) (cl_V (ci := 6) rfl rfl (lw_V q2549 q2551 qs139 q176 q2552) (hd_X7_heard) ⟨Nat.le_of_ble_eq_true rfl, Nat.le_of_ble_eq_true rfl⟩ (List.mem_singleton.mp hka3) rfl rfl rfl (Nat.le_of_ble_eq_true rfl) dX7_falseOnes_65) rfl (fun x1 σ2 => ?_)
  refine r_iload_n (q := 69) dX7_falseOnes_68 rfl rfl rfl ?_
  refine r_iconst (q := 70) (v := (-1 : Int32)) dX7_falseOnes_69 rfl (by decide) ?_
  refine r_ixor (q := 71) dX7_falseOnes_70 rfl ?_
  refine r_iand (q := 72) dX7_falseOnes_71 rfl ?_
  refine r_ob (fun a6 ha6 => ?_)
  obtain ⟨hea6, hka6⟩ := o_at_eq ha6
  cases hea6
  refine r_callI (q := 75) (c_X7_anyFits G h0 N _ _ _) (cl_V (ci := 6) rfl rfl (lw_V q2589 q2591 qs144 q176 q2592) (hd_X7_anyFits) ⟨Nat.le_of_ble_eq_true rfl, Nat.le_of_ble_eq_true rfl⟩ (List.mem_singleton.mp hka6) rfl rfl rfl (Nat.le_of_ble_eq_true rfl) dX7_falseOnes_72) rfl (fun x4 σ5 => ?_)
  refine r_if_eq (q := 78) (t := 80) dX7_falseOnes_75 rfl (by decide) (fun _ => ?_) (fun _ => ?_)
  · exact r_le (w_X7_falseOnes_b80 G h0 N K27 hK27 _ _ _ _) (Nat.le_refl _) (And.intro rfl (And.intro rfl (And.intro rfl trivial)))
  · refine r_iload_n (q := 79) dX7_falseOnes_78 rfl rfl rfl ?_
    refine r_istore_n (q := 80) dX7_falseOnes_79 rfl rfl (Nat.le_of_ble_eq_true rfl) rfl ?_
    exact r_le (w_X7_falseOnes_b80 G h0 N K27 hK27 _ _ _ _) (Nat.le_refl _) (And.intro rfl (And.intro rfl (And.intro rfl trivial)))
theorem w_X7_falseOnes_b27B (G : Gx) (h0 : G0 G) (N : Nat)   (K27 : Nat → Int32 → Int32 → Mem → Option (Int32 × Mem)) (hK27 : ∀ (a0 : Nat) (l1 : Int32) (l2 : Int32) (σ : Mem), Runs G mX7_falseOnes rhoI σ 27 [some (vR (some a0)), some (vI l1), some (vI l2)] [] (K27 a0 l1 l2 σ)) (a0 : Nat) (l1 : Int32) (l2 : Int32) (σ : Mem) : Runs G mX7_falseOnes rhoI σ 27 [some (vR (some a0)), some (vI l1), some (vI l2)] [] (f_X7_falseOnes_b27B N  K27 a0 l1 l2 σ) := by
  unfold f_X7_falseOnes_b27B
  refine r_iload_n (q := 28) dX7_falseOnes_27 rfl rfl rfl ?_
  refine r_aload_n (q := 29) dX7_falseOnes_28 rfl rfl rfl ?_
  refine r_ob (fun a3 ha3 => ?_)
  obtain ⟨hea3, hka3⟩ := o_at_eq ha3
  cases hea3
  refine r_callI (q := 32) (c_X7_allGoats G h0 N _ _) (cl_V (ci := 6) rfl rfl (lw_V q2553 q2555 qs140 q176 q2556) (hd_X7_allGoats) ⟨Nat.le_of_ble_eq_true rfl, Nat.le_of_ble_eq_true rfl⟩ (List.mem_singleton.mp hka3) rfl rfl rfl (Nat.le_of_ble_eq_true rfl) dX7_falseOnes_29) rfl (fun x1 σ2 => ?_)
  refine r_icmp_gt (q := 35) (t := 86) dX7_falseOnes_32 rfl (by decide) (fun _ => ?_) (fun _ => ?_)
  · refine r_aload_n (q := 87) dX7_falseOnes_86 rfl rfl rfl ?_
    refine r_iload_n (q := 88) dX7_falseOnes_87 rfl rfl rfl ?_
    refine r_ob (fun a6 ha6 => ?_)
    obtain ⟨hea6, hka6⟩ := o_at_eq ha6
    cases hea6
    refine r_callI (q := 91) (c_X7_good G h0 N _ _ _) (cl_V (ci := 6) rfl rfl (lw_V q2379 q2381 qs118 q176 q2382) (hd_X7_good) ⟨Nat.le_of_ble_eq_true rfl, Nat.le_of_ble_eq_true rfl⟩ (List.mem_singleton.mp hka6) rfl rfl rfl (Nat.le_of_ble_eq_true rfl) dX7_falseOnes_88) rfl (fun x4 σ5 => ?_)
    exact r_ireturn rfl rfl dX7_falseOnes_91
  · refine r_iload_n (q := 36) dX7_falseOnes_35 rfl rfl rfl ?_
    refine r_aload_n (q := 37) dX7_falseOnes_36 rfl rfl rfl ?_
    refine r_ob (fun a9 ha9 => ?_)
    obtain ⟨hea9, hka9⟩ := o_at_eq ha9
    cases hea9
    refine r_callI (q := 40) (c_X7_heard G h0 N _ _) (cl_V (ci := 6) rfl rfl (lw_V q2549 q2551 qs139 q176 q2552) (hd_X7_heard) ⟨Nat.le_of_ble_eq_true rfl, Nat.le_of_ble_eq_true rfl⟩ (List.mem_singleton.mp hka9) rfl rfl rfl (Nat.le_of_ble_eq_true rfl) dX7_falseOnes_37) rfl (fun x7 σ8 => ?_)
    refine r_iconst (q := 41) (v := (-1 : Int32)) dX7_falseOnes_40 rfl (by decide) ?_
    refine r_ixor (q := 42) dX7_falseOnes_41 rfl ?_
    refine r_iand (q := 43) dX7_falseOnes_42 rfl ?_
    refine r_if_ne (q := 46) (t := 80) dX7_falseOnes_43 rfl (by decide) (fun _ => ?_) (fun _ => ?_)
    · refine r_iload_n (q := 47) dX7_falseOnes_46 rfl rfl rfl ?_
      refine r_bipush (q := 49) (v := (-2 : Int32)) dX7_falseOnes_47 rfl (by decide) ?_
      refine r_icmp_eq (q := 52) (t := 63) dX7_falseOnes_49 rfl (by decide) (fun _ => ?_) (fun _ => ?_)
      · exact r_le (w_X7_falseOnes_b63 G h0 N K27 hK27 _ _ _ _) (Nat.le_refl _) (And.intro rfl (And.intro rfl (And.intro rfl trivial)))
      · refine r_iload_n (q := 53) dX7_falseOnes_52 rfl rfl rfl ?_
        refine r_callI (q := 56) (c_X7_bits G h0 N _ _) (cl_S rfl rfl (lw_S q2354 q2355 q176 q2356) (hd_X7_bits) ⟨Nat.le_of_ble_eq_true rfl, Nat.le_of_ble_eq_true rfl⟩ rfl (Nat.le_of_ble_eq_true rfl) dX7_falseOnes_53) rfl (fun x10 σ11 => ?_)
        refine r_iload_n (q := 57) dX7_falseOnes_56 rfl rfl rfl ?_
        refine r_callI (q := 60) (c_X7_bits G h0 N _ _) (cl_S rfl rfl (lw_S q2354 q2355 q176 q2356) (hd_X7_bits) ⟨Nat.le_of_ble_eq_true rfl, Nat.le_of_ble_eq_true rfl⟩ rfl (Nat.le_of_ble_eq_true rfl) dX7_falseOnes_57) rfl (fun x12 σ13 => ?_)
        refine r_icmp_ge (q := 63) (t := 80) dX7_falseOnes_60 rfl (by decide) (fun _ => ?_) (fun _ => ?_)
        · exact r_le (w_X7_falseOnes_b80 G h0 N K27 hK27 _ _ _ _) (Nat.le_refl _) (And.intro rfl (And.intro rfl (And.intro rfl trivial)))
        · exact r_le (w_X7_falseOnes_b63 G h0 N K27 hK27 _ _ _ _) (Nat.le_refl _) (And.intro rfl (And.intro rfl (And.intro rfl trivial)))
    · exact r_le (w_X7_falseOnes_b80 G h0 N K27 hK27 _ _ _ _) (Nat.le_refl _) (And.intro rfl (And.intro rfl (And.intro rfl trivial)))
theorem w_X7_falseOnes_b27 (G : Gx) (h0 : G0 G) (N : Nat)   : ∀ (z : Nat) (a0 : Nat) (l1 : Int32) (l2 : Int32) (σ : Mem), Runs G mX7_falseOnes rhoI σ 27 [some (vR (some a0)), some (vI l1), some (vI l2)] [] (f_X7_falseOnes_b27 N  z a0 l1 l2 σ) := by
  intro z
  induction z with
  | zero => exact fun _ _ _ _ => r_none
  | succ z ih => exact fun a0 l1 l2 σ => w_X7_falseOnes_b27B G h0 N   _ ih a0 l1 l2 σ
theorem c_X7_falseOnes (G : Gx) (h0 : G0 G) (N : Nat) (a0 : Nat) (σ : Mem) : Ct G mX7_falseOnes rhoI [vR (some a0)] σ (f_X7_falseOnes N a0 σ) := by
  refine Ct_of h0 (by decide) rfl (Nat.le_of_ble_eq_true rfl) (L0 := [some (vR (some a0)), none, none]) rfl ?_
  unfold f_X7_falseOnes
  refine r_aload_n (q := 1) dX7_falseOnes_0 rfl rfl rfl ?_
  refine r_iconst (q := 2) (v := (0 : Int32)) dX7_falseOnes_1 rfl (by decide) ?_
  refine r_pI (q := 5) fp_X7_falseOnes_66 dX7_falseOnes_2 rfl (fun σ1 => ?_)
  refine r_aload_n (q := 6) dX7_falseOnes_5 rfl rfl rfl ?_
  refine r_gR (q := 9) fl_X7_442 rfl dX7_falseOnes_6 rfl (fun x2 => ?_)
  refine r_ifnonnull (q := 12) (t := 18) dX7_falseOnes_9 rfl (by decide) (fun _ => ?_) (fun _ => ?_)
  · refine r_aload_n (q := 13) dX7_falseOnes_12 rfl rfl rfl ?_
    refine r_iconst (q := 14) (v := (1 : Int32)) dX7_falseOnes_13 rfl (by decide) ?_
    refine r_ob (fun a8 ha8 => ?_)
    obtain ⟨hea8, hka8⟩ := o_at_eq ha8
    cases hea8
    refine r_callI (q := 17) (c_X7_refused G h0 N _ _ _) (cl_V (ci := 6) rfl rfl (lw_V q2019 q2021 qs83 q176 q2022) (hd_X7_refused) ⟨Nat.le_of_ble_eq_true rfl, Nat.le_of_ble_eq_true rfl⟩ (List.mem_singleton.mp hka8) rfl rfl rfl (Nat.le_of_ble_eq_true rfl) dX7_falseOnes_14) rfl (fun x6 σ7 => ?_)
    exact r_ireturn rfl rfl dX7_falseOnes_17
  · refine r_aload_n (q := 19) dX7_falseOnes_18 rfl rfl rfl ?_
    refine r_ob (fun a5 ha5 => ?_)
    obtain ⟨hea5, hka5⟩ := o_at_eq ha5
    cases hea5
    refine r_callV (q := 22) (c_X7_laysHonest G h0 N _ _) (cl_V (ci := 6) rfl rfl (lw_V q2545 q2547 qs138 q176 q2548) (hd_X7_laysHonest) ⟨Nat.le_of_ble_eq_true rfl, Nat.le_of_ble_eq_true rfl⟩ (List.mem_singleton.mp hka5) rfl rfl rfl (Nat.le_of_ble_eq_true rfl) dX7_falseOnes_19) rfl (fun u3 σ4 => ?_)
    refine r_bipush (q := 24) (v := (-2 : Int32)) dX7_falseOnes_22 rfl (by decide) ?_
    refine r_istore_n (q := 25) dX7_falseOnes_24 rfl rfl (Nat.le_of_ble_eq_true rfl) rfl ?_
    refine r_iconst (q := 26) (v := (0 : Int32)) dX7_falseOnes_25 rfl (by decide) ?_
    refine r_istore_n (q := 27) dX7_falseOnes_26 rfl rfl (Nat.le_of_ble_eq_true rfl) rfl ?_
    exact r_le (w_X7_falseOnes_b27 G h0 N N _ _ _ _) (Nat.le_refl _) (And.intro rfl (And.intro rfl (And.intro rfl trivial)))
theorem w_X1_oddsOf_b91 (G : Gx) (h0 : G0 G) (N : Nat) (K21 : Nat → Int32 → Int32 → Int32 → Int32 → Mem → Option (Int32 × Mem)) (hK21 : ∀ (a0 : Nat) (l1 : Int32) (l2 : Int32) (l3 : Int32) (l4 : Int32) (σ : Mem), Runs G mX1_oddsOf rhoI σ 21 [some (vR (some a0)), some (vI l1), some (vI l2), some (vI l3), some (vI l4)] [] (K21 a0 l1 l2 l3 l4 σ)) (a0 : Nat) (l1 : Int32) (l2 : Int32) (l3 : Int32) (l4 : Int32) (σ : Mem) : Runs G mX1_oddsOf rhoI σ 91 [some (vR (some a0)), some (vI l1), some (vI l2), some (vI l3), some (vI l4)] [] (f_X1_oddsOf_b91 N K21 a0 l1 l2 l3 l4 σ) := by
  unfold f_X1_oddsOf_b91
  refine r_iinc (q := 94) (v := (1 : Int32)) dX1_oddsOf_91 rfl rfl (by decide) (Nat.le_of_ble_eq_true rfl) rfl ?_
  refine r_goto (q := 21) dX1_oddsOf_94 (by decide) ?_
  exact r_le (hK21 _ _ _ _ _ _) (Nat.le_refl _) (And.intro rfl (And.intro rfl (And.intro rfl (And.intro rfl (And.intro rfl trivial)))))
theorem w_X1_oddsOf_b89 (G : Gx) (h0 : G0 G) (N : Nat) (K21 : Nat → Int32 → Int32 → Int32 → Int32 → Mem → Option (Int32 × Mem)) (hK21 : ∀ (a0 : Nat) (l1 : Int32) (l2 : Int32) (l3 : Int32) (l4 : Int32) (σ : Mem), Runs G mX1_oddsOf rhoI σ 21 [some (vR (some a0)), some (vI l1), some (vI l2), some (vI l3), some (vI l4)] [] (K21 a0 l1 l2 l3 l4 σ)) (a0 : Nat) (l1 : Int32) (l2 : Int32) (l4 : Int32) (t0 : Int32) (t1 : Int32) (σ : Mem) : Runs G mX1_oddsOf rhoI σ 89 [some (vR (some a0)), some (vI l1), some (vI l2), none, some (vI l4)] [vI t1, vI t0] (f_X1_oddsOf_b89 N K21 a0 l1 l2 l4 t0 t1 σ) := by
  unfold f_X1_oddsOf_b89
  refine r_imul (q := 90) dX1_oddsOf_89 rfl ?_
  refine r_istore_n (q := 91) dX1_oddsOf_90 rfl rfl (Nat.le_of_ble_eq_true rfl) rfl ?_
  exact r_le (w_X1_oddsOf_b91 G h0 N K21 hK21 _ _ _ _ _ _) (Nat.le_refl _) (And.intro rfl (And.intro rfl (And.intro rfl (And.intro rfl (And.intro rfl trivial)))))
theorem w_X1_oddsOf_b21B (G : Gx) (h0 : G0 G) (N : Nat)   (K21 : Nat → Int32 → Int32 → Int32 → Int32 → Mem → Option (Int32 × Mem)) (hK21 : ∀ (a0 : Nat) (l1 : Int32) (l2 : Int32) (l3 : Int32) (l4 : Int32) (σ : Mem), Runs G mX1_oddsOf rhoI σ 21 [some (vR (some a0)), some (vI l1), some (vI l2), some (vI l3), some (vI l4)] [] (K21 a0 l1 l2 l3 l4 σ)) (a0 : Nat) (l1 : Int32) (l2 : Int32) (l3 : Int32) (l4 : Int32) (σ : Mem) : Runs G mX1_oddsOf rhoI σ 21 [some (vR (some a0)), some (vI l1), some (vI l2), some (vI l3), some (vI l4)] [] (f_X1_oddsOf_b21B N  K21 a0 l1 l2 l3 l4 σ) := by
  unfold f_X1_oddsOf_b21B
  refine r_iload (q := 23) dX1_oddsOf_21 rfl rfl ?_
  refine r_aload_n (q := 24) dX1_oddsOf_23 rfl rfl rfl ?_
  refine r_gR (q := 27) fl_X1_104 rfl dX1_oddsOf_24 rfl (fun x1 => ?_)
  refine r_gI (q := 30) fl_X1_139 dX1_oddsOf_27 rfl (fun x2 => ?_)
  refine r_icmp_ge (q := 33) (t := 97) dX1_oddsOf_30 rfl (by decide) (fun _ => ?_) (fun _ => ?_)
  · refine r_iload_n (q := 98) dX1_oddsOf_97 rfl rfl rfl ?_
    exact r_ireturn rfl rfl dX1_oddsOf_98
  · refine r_iload_n (q := 34) dX1_oddsOf_33 rfl rfl rfl ?_
    refine r_iload (q := 36) dX1_oddsOf_34 rfl rfl ?_
    refine r_callI (q := 39) (c_X1_has G h0 N _ _ _) (cl_S rfl rfl (lw_S q1364 q1117 q167 q1118) (hd_X1_has) ⟨Nat.le_of_ble_eq_true rfl, Nat.le_of_ble_eq_true rfl⟩ rfl (Nat.le_of_ble_eq_true rfl) dX1_oddsOf_36) rfl (fun x3 σ4 => ?_)
    refine r_if_eq (q := 42) (t := 91) dX1_oddsOf_39 rfl (by decide) (fun _ => ?_) (fun _ => ?_)
    · exact r_le (w_X1_oddsOf_b91 G h0 N K21 hK21 _ _ _ _ _ _) (Nat.le_refl _) (And.intro rfl (And.intro rfl (And.intro rfl (And.intro rfl (And.intro rfl trivial)))))
    · refine r_iload_n (q := 43) dX1_oddsOf_42 rfl rfl rfl ?_
      refine r_aload_n (q := 44) dX1_oddsOf_43 rfl rfl rfl ?_
      refine r_gR (q := 47) fl_X1_64 rfl dX1_oddsOf_44 rfl (fun x5 => ?_)
      refine r_iload_n (q := 48) dX1_oddsOf_47 rfl rfl rfl ?_
      refine r_iaload (q := 49) dX1_oddsOf_48 rfl (fun x6 => ?_)
      refine r_iload (q := 51) dX1_oddsOf_49 rfl rfl ?_
      refine r_callI (q := 54) (c_X1_has G h0 N _ _ _) (cl_S rfl rfl (lw_S q1364 q1117 q167 q1118) (hd_X1_has) ⟨Nat.le_of_ble_eq_true rfl, Nat.le_of_ble_eq_true rfl⟩ rfl (Nat.le_of_ble_eq_true rfl) dX1_oddsOf_51) rfl (fun x7 σ8 => ?_)
      refine r_if_eq (q := 57) (t := 73) dX1_oddsOf_54 rfl (by decide) (fun _ => ?_) (fun _ => ?_)
      · refine r_bipush (q := 75) (v := (10 : Int32)) dX1_oddsOf_73 rfl (by decide) ?_
        refine r_aload_n (q := 76) dX1_oddsOf_75 rfl rfl rfl ?_
        refine r_gR (q := 79) fl_X1_104 rfl dX1_oddsOf_76 rfl (fun x9 => ?_)
        refine r_gR (q := 82) fl_X1_172 rfl dX1_oddsOf_79 rfl (fun x10 => ?_)
        refine r_iload (q := 84) dX1_oddsOf_82 rfl rfl ?_
        refine r_aaload (q := 85) (k0 := 8) (by decide) dX1_oddsOf_84 rfl (fun x11 => ?_)
        refine r_gI (q := 88) fl_X1_191 dX1_oddsOf_85 rfl (fun x12 => ?_)
        refine r_isub (q := 89) dX1_oddsOf_88 rfl ?_
        exact r_le (w_X1_oddsOf_b89 G h0 N K21 hK21 _ _ _ _ _ _ _) (Nat.le_refl _) (And.intro rfl (And.intro rfl (And.intro rfl (And.intro rfl trivial))))
      · refine r_aload_n (q := 58) dX1_oddsOf_57 rfl rfl rfl ?_
        refine r_gR (q := 61) fl_X1_104 rfl dX1_oddsOf_58 rfl (fun x13 => ?_)
        refine r_gR (q := 64) fl_X1_172 rfl dX1_oddsOf_61 rfl (fun x14 => ?_)
        refine r_iload (q := 66) dX1_oddsOf_64 rfl rfl ?_
        refine r_aaload (q := 67) (k0 := 8) (by decide) dX1_oddsOf_66 rfl (fun x15 => ?_)
        refine r_gI (q := 70) fl_X1_191 dX1_oddsOf_67 rfl (fun x16 => ?_)
        refine r_goto (q := 89) dX1_oddsOf_70 (by decide) ?_
        exact r_le (w_X1_oddsOf_b89 G h0 N K21 hK21 _ _ _ _ _ _ _) (Nat.le_refl _) (And.intro rfl (And.intro rfl (And.intro rfl (And.intro rfl trivial))))
theorem w_X1_oddsOf_b21 (G : Gx) (h0 : G0 G) (N : Nat)   : ∀ (z : Nat) (a0 : Nat) (l1 : Int32) (l2 : Int32) (l3 : Int32) (l4 : Int32) (σ : Mem), Runs G mX1_oddsOf rhoI σ 21 [some (vR (some a0)), some (vI l1), some (vI l2), some (vI l3), some (vI l4)] [] (f_X1_oddsOf_b21 N  z a0 l1 l2 l3 l4 σ) := by
  intro z
  induction z with
  | zero => exact fun _ _ _ _ _ _ => r_none
  | succ z ih => exact fun a0 l1 l2 l3 l4 σ => w_X1_oddsOf_b21B G h0 N   _ ih a0 l1 l2 l3 l4 σ
theorem c_X1_oddsOf (G : Gx) (h0 : G0 G) (N : Nat) (a0 : Nat) (i1 : Int32) (σ : Mem) : Ct G mX1_oddsOf rhoI [vR (some a0), vI i1] σ (f_X1_oddsOf N a0 i1 σ) := by
  refine Ct_of h0 (by decide) rfl (Nat.le_of_ble_eq_true rfl) (L0 := [some (vR (some a0)), some (vI i1), none, none, none]) rfl ?_
  unfold f_X1_oddsOf
  refine r_aload_n (q := 1) dX1_oddsOf_0 rfl rfl rfl ?_
  refine r_gR (q := 4) fl_X1_33 rfl dX1_oddsOf_1 rfl (fun x1 => ?_)
  refine r_gI (q := 7) fl_X1_200 dX1_oddsOf_4 rfl (fun x2 => ?_)
  refine r_aload_n (q := 8) dX1_oddsOf_7 rfl rfl rfl ?_
  refine r_gR (q := 11) fl_X1_104 rfl dX1_oddsOf_8 rfl (fun x3 => ?_)
  refine r_ob (fun a6 ha6 => ?_)
  obtain ⟨hea6, hka6⟩ := o_at_eq ha6
  cases hea6
  refine r_callI (q := 14) (c_X8_clueGoats G h0 N _ _) (cl_V (ci := 7) rfl rfl (lw_V q1597 q1589 q1590 q177 q1591) (hd_X8_clueGoats) ⟨Nat.le_of_ble_eq_true rfl, Nat.le_of_ble_eq_true rfl⟩ (List.mem_singleton.mp hka6) rfl rfl rfl (Nat.le_of_ble_eq_true rfl) dX1_oddsOf_11) rfl (fun x4 σ5 => ?_)
  refine r_iand (q := 15) dX1_oddsOf_14 rfl ?_
  refine r_istore_n (q := 16) dX1_oddsOf_15 rfl rfl (Nat.le_of_ble_eq_true rfl) rfl ?_
  refine r_iconst (q := 17) (v := (1 : Int32)) dX1_oddsOf_16 rfl (by decide) ?_
  refine r_istore_n (q := 18) dX1_oddsOf_17 rfl rfl (Nat.le_of_ble_eq_true rfl) rfl ?_
  refine r_iconst (q := 19) (v := (0 : Int32)) dX1_oddsOf_18 rfl (by decide) ?_
  refine r_istore (q := 21) dX1_oddsOf_19 rfl (Nat.le_of_ble_eq_true rfl) rfl ?_
  exact r_le (w_X1_oddsOf_b21 G h0 N N _ _ _ _ _ _) (Nat.le_refl _) (And.intro rfl (And.intro rfl (And.intro rfl (And.intro rfl (And.intro rfl trivial)))))
theorem c_X1_odds (G : Gx) (h0 : G0 G) (N : Nat) (a0 : Nat) (i1 : Int32) (σ : Mem) : Ct G mX1_odds rhoI [vR (some a0), vI i1] σ (f_X1_odds N a0 i1 σ) := by
  refine Ct_of h0 (by decide) rfl (Nat.le_of_ble_eq_true rfl) (L0 := [some (vR (some a0)), some (vI i1)]) rfl ?_
  unfold f_X1_odds
  refine r_aload_n (q := 1) dX1_odds_0 rfl rfl rfl ?_
  refine r_ob (fun a3 ha3 => ?_)
  obtain ⟨hea3, hka3⟩ := o_at_eq ha3
  cases hea3
  refine r_callV (q := 4) (c_X1_anew G h0 N _ _) (cl_V (ci := 0) rfl rfl (lw_V q485 q487 qs2 q167 q488) (hd_X1_anew) ⟨Nat.le_of_ble_eq_true rfl, Nat.le_of_ble_eq_true rfl⟩ (List.mem_singleton.mp hka3) rfl rfl rfl (Nat.le_of_ble_eq_true rfl) dX1_odds_1) rfl (fun u1 σ2 => ?_)
  refine r_aload_n (q := 5) dX1_odds_4 rfl rfl rfl ?_
  refine r_iload_n (q := 6) dX1_odds_5 rfl rfl rfl ?_
  refine r_ob (fun a6 ha6 => ?_)
  obtain ⟨hea6, hka6⟩ := o_at_eq ha6
  cases hea6
  refine r_callI (q := 9) (c_X1_isCase G h0 N _ _ _) (cl_V (ci := 0) rfl rfl (lw_V q1416 q1418 qs50 q167 q1419) (hd_X1_isCase) ⟨Nat.le_of_ble_eq_true rfl, Nat.le_of_ble_eq_true rfl⟩ (List.mem_singleton.mp hka6) rfl rfl rfl (Nat.le_of_ble_eq_true rfl) dX1_odds_6) rfl (fun x4 σ5 => ?_)
  refine r_if_ne (q := 12) (t := 18) dX1_odds_9 rfl (by decide) (fun _ => ?_) (fun _ => ?_)
  · refine r_aload_n (q := 13) dX1_odds_12 rfl rfl rfl ?_
    refine r_iconst (q := 14) (v := (1 : Int32)) dX1_odds_13 rfl (by decide) ?_
    refine r_ob (fun a15 ha15 => ?_)
    obtain ⟨hea15, hka15⟩ := o_at_eq ha15
    cases hea15
    refine r_callI (q := 17) (c_X1_no G h0 N _ _ _) (cl_V (ci := 0) rfl rfl (lw_V q492 q494 qs3 q167 q495) (hd_X1_no) ⟨Nat.le_of_ble_eq_true rfl, Nat.le_of_ble_eq_true rfl⟩ (List.mem_singleton.mp hka15) rfl rfl rfl (Nat.le_of_ble_eq_true rfl) dX1_odds_14) rfl (fun x13 σ14 => ?_)
    exact r_ireturn rfl rfl dX1_odds_17
  · refine r_aload_n (q := 19) dX1_odds_18 rfl rfl rfl ?_
    refine r_ob (fun a9 ha9 => ?_)
    obtain ⟨hea9, hka9⟩ := o_at_eq ha9
    cases hea9
    refine r_callV (q := 22) (c_X1_layTruth G h0 N _ _) (cl_V (ci := 0) rfl rfl (lw_V q1580 q1582 qs61 q167 q1583) (hd_X1_layTruth) ⟨Nat.le_of_ble_eq_true rfl, Nat.le_of_ble_eq_true rfl⟩ (List.mem_singleton.mp hka9) rfl rfl rfl (Nat.le_of_ble_eq_true rfl) dX1_odds_19) rfl (fun u7 σ8 => ?_)
    refine r_aload_n (q := 23) dX1_odds_22 rfl rfl rfl ?_
    refine r_iload_n (q := 24) dX1_odds_23 rfl rfl rfl ?_
    refine r_ob (fun a12 ha12 => ?_)
    obtain ⟨hea12, hka12⟩ := o_at_eq ha12
    cases hea12
    refine r_callI (q := 27) (c_X1_oddsOf G h0 N _ _ _) (cl_V (ci := 0) rfl rfl (lw_V q1636 q1638 qs65 q167 q1639) (hd_X1_oddsOf) ⟨Nat.le_of_ble_eq_true rfl, Nat.le_of_ble_eq_true rfl⟩ (List.mem_singleton.mp hka12) rfl rfl rfl (Nat.le_of_ble_eq_true rfl) dX1_odds_24) rfl (fun x10 σ11 => ?_)
    exact r_ireturn rfl rfl dX1_odds_27
theorem w_X7_oddsOf_b118 (G : Gx) (h0 : G0 G) (N : Nat) (K4 : Nat → Int32 → Int32 → Int32 → Mem → Option (Int32 × Mem)) (hK4 : ∀ (a0 : Nat) (l1 : Int32) (l2 : Int32) (l3 : Int32) (σ : Mem), Runs G mX7_oddsOf rhoI σ 4 [some (vR (some a0)), some (vI l1), some (vI l2), some (vI l3), none, none] [] (K4 a0 l1 l2 l3 σ)) (a0 : Nat) (l1 : Int32) (l2 : Int32) (l3 : Int32) (σ : Mem) : Runs G mX7_oddsOf rhoI σ 118 [some (vR (some a0)), some (vI l1), some (vI l2), some (vI l3), none, none] [] (f_X7_oddsOf_b118 N K4 a0 l1 l2 l3 σ) := by
  unfold f_X7_oddsOf_b118
  refine r_iinc (q := 121) (v := (1 : Int32)) dX7_oddsOf_118 rfl rfl (by decide) (Nat.le_of_ble_eq_true rfl) rfl ?_
  refine r_goto (q := 4) dX7_oddsOf_121 (by decide) ?_
  exact r_le (hK4 _ _ _ _ _) (Nat.le_refl _) (And.intro rfl (And.intro rfl (And.intro rfl (And.intro rfl trivial))))
theorem w_X7_oddsOf_b116 (G : Gx) (h0 : G0 G) (N : Nat) (K4 : Nat → Int32 → Int32 → Int32 → Mem → Option (Int32 × Mem)) (hK4 : ∀ (a0 : Nat) (l1 : Int32) (l2 : Int32) (l3 : Int32) (σ : Mem), Runs G mX7_oddsOf rhoI σ 4 [some (vR (some a0)), some (vI l1), some (vI l2), some (vI l3), none, none] [] (K4 a0 l1 l2 l3 σ)) (a0 : Nat) (l1 : Int32) (l3 : Int32) (t0 : Int32) (t1 : Int32) (σ : Mem) : Runs G mX7_oddsOf rhoI σ 116 [some (vR (some a0)), some (vI l1), none, some (vI l3), none, none] [vI t1, vI t0] (f_X7_oddsOf_b116 N K4 a0 l1 l3 t0 t1 σ) := by
  unfold f_X7_oddsOf_b116
  refine r_imul (q := 117) dX7_oddsOf_116 rfl ?_
  refine r_istore_n (q := 118) dX7_oddsOf_117 rfl rfl (Nat.le_of_ble_eq_true rfl) rfl ?_
  exact r_le (w_X7_oddsOf_b118 G h0 N K4 hK4 _ _ _ _ _) (Nat.le_refl _) (And.intro rfl (And.intro rfl (And.intro rfl (And.intro rfl trivial))))
theorem w_X7_oddsOf_b57 (G : Gx) (h0 : G0 G) (N : Nat) (K4 : Nat → Int32 → Int32 → Int32 → Mem → Option (Int32 × Mem)) (K21 : Nat → Int32 → Int32 → Int32 → Int32 → Int32 → Mem → Option (Int32 × Mem)) (hK4 : ∀ (a0 : Nat) (l1 : Int32) (l2 : Int32) (l3 : Int32) (σ : Mem), Runs G mX7_oddsOf rhoI σ 4 [some (vR (some a0)), some (vI l1), some (vI l2), some (vI l3), none, none] [] (K4 a0 l1 l2 l3 σ)) (hK21 : ∀ (a0 : Nat) (l1 : Int32) (l2 : Int32) (l3 : Int32) (l4 : Int32) (l5 : Int32) (σ : Mem), Runs G mX7_oddsOf rhoI σ 21 [some (vR (some a0)), some (vI l1), some (vI l2), some (vI l3), some (vI l4), some (vI l5)] [] (K21 a0 l1 l2 l3 l4 l5 σ)) (a0 : Nat) (l1 : Int32) (l2 : Int32) (l3 : Int32) (l5 : Int32) (t0 : Int32) (σ : Mem) : Runs G mX7_oddsOf rhoI σ 57 [some (vR (some a0)), some (vI l1), some (vI l2), some (vI l3), none, some (vI l5)] [vI t0] (f_X7_oddsOf_b57 N K4 K21 a0 l1 l2 l3 l5 t0 σ) := by
  unfold f_X7_oddsOf_b57
  refine r_istore (q := 59) dX7_oddsOf_57 rfl (Nat.le_of_ble_eq_true rfl) rfl ?_
  refine r_iinc (q := 62) (v := (1 : Int32)) dX7_oddsOf_59 rfl rfl (by decide) (Nat.le_of_ble_eq_true rfl) rfl ?_
  refine r_goto (q := 21) dX7_oddsOf_62 (by decide) ?_
  exact r_le (hK21 _ _ _ _ _ _ _) (Nat.le_refl _) (And.intro rfl (And.intro rfl (And.intro rfl (And.intro rfl (And.intro rfl (And.intro rfl trivial))))))
theorem w_X7_oddsOf_b52 (G : Gx) (h0 : G0 G) (N : Nat) (K4 : Nat → Int32 → Int32 → Int32 → Mem → Option (Int32 × Mem)) (K21 : Nat → Int32 → Int32 → Int32 → Int32 → Int32 → Mem → Option (Int32 × Mem)) (hK4 : ∀ (a0 : Nat) (l1 : Int32) (l2 : Int32) (l3 : Int32) (σ : Mem), Runs G mX7_oddsOf rhoI σ 4 [some (vR (some a0)), some (vI l1), some (vI l2), some (vI l3), none, none] [] (K4 a0 l1 l2 l3 σ)) (hK21 : ∀ (a0 : Nat) (l1 : Int32) (l2 : Int32) (l3 : Int32) (l4 : Int32) (l5 : Int32) (σ : Mem), Runs G mX7_oddsOf rhoI σ 21 [some (vR (some a0)), some (vI l1), some (vI l2), some (vI l3), some (vI l4), some (vI l5)] [] (K21 a0 l1 l2 l3 l4 l5 σ)) (a0 : Nat) (l1 : Int32) (l2 : Int32) (l3 : Int32) (l5 : Int32) (σ : Mem) : Runs G mX7_oddsOf rhoI σ 52 [some (vR (some a0)), some (vI l1), some (vI l2), some (vI l3), none, some (vI l5)] [] (f_X7_oddsOf_b52 N K4 K21 a0 l1 l2 l3 l5 σ) := by
  unfold f_X7_oddsOf_b52
  refine r_iconst (q := 53) (v := (1 : Int32)) dX7_oddsOf_52 rfl (by decide) ?_
  refine r_goto (q := 57) dX7_oddsOf_53 (by decide) ?_
  exact r_le (w_X7_oddsOf_b57 G h0 N K4 K21 hK4 hK21 _ _ _ _ _ _ _) (Nat.le_refl _) (And.intro rfl (And.intro rfl (And.intro rfl (And.intro rfl (And.intro rfl trivial)))))
theorem w_X7_oddsOf_b21B (G : Gx) (h0 : G0 G) (N : Nat) (K4 : Nat → Int32 → Int32 → Int32 → Mem → Option (Int32 × Mem)) (hK4 : ∀ (a0 : Nat) (l1 : Int32) (l2 : Int32) (l3 : Int32) (σ : Mem), Runs G mX7_oddsOf rhoI σ 4 [some (vR (some a0)), some (vI l1), some (vI l2), some (vI l3), none, none] [] (K4 a0 l1 l2 l3 σ)) (K21 : Nat → Int32 → Int32 → Int32 → Int32 → Int32 → Mem → Option (Int32 × Mem)) (hK21 : ∀ (a0 : Nat) (l1 : Int32) (l2 : Int32) (l3 : Int32) (l4 : Int32) (l5 : Int32) (σ : Mem), Runs G mX7_oddsOf rhoI σ 21 [some (vR (some a0)), some (vI l1), some (vI l2), some (vI l3), some (vI l4), some (vI l5)] [] (K21 a0 l1 l2 l3 l4 l5 σ)) (a0 : Nat) (l1 : Int32) (l2 : Int32) (l3 : Int32) (l4 : Int32) (l5 : Int32) (σ : Mem) : Runs G mX7_oddsOf rhoI σ 21 [some (vR (some a0)), some (vI l1), some (vI l2), some (vI l3), some (vI l4), some (vI l5)] [] (f_X7_oddsOf_b21B N K4 K21 a0 l1 l2 l3 l4 l5 σ) := by
  unfold f_X7_oddsOf_b21B
  refine r_iload (q := 23) dX7_oddsOf_21 rfl rfl ?_
  refine r_aload_n (q := 24) dX7_oddsOf_23 rfl rfl rfl ?_
  refine r_gR (q := 27) fl_X7_442 rfl dX7_oddsOf_24 rfl (fun x1 => ?_)
  refine r_gI (q := 30) fl_X7_370 dX7_oddsOf_27 rfl (fun x2 => ?_)
  refine r_icmp_ge (q := 33) (t := 65) dX7_oddsOf_30 rfl (by decide) (fun _ => ?_) (fun _ => ?_)
  · refine r_iload (q := 67) dX7_oddsOf_65 rfl rfl ?_
    refine r_if_eq (q := 70) (t := 118) dX7_oddsOf_67 rfl (by decide) (fun _ => ?_) (fun _ => ?_)
    · exact r_le (w_X7_oddsOf_b118 G h0 N K4 hK4 _ _ _ _ _) (Nat.le_refl _) (And.intro rfl (And.intro rfl (And.intro rfl (And.intro rfl trivial))))
    · refine r_aload_n (q := 71) dX7_oddsOf_70 rfl rfl rfl ?_
      refine r_iload_n (q := 72) dX7_oddsOf_71 rfl rfl rfl ?_
      refine r_ob (fun a5 ha5 => ?_)
      obtain ⟨hea5, hka5⟩ := o_at_eq ha5
      cases hea5
      refine r_callI (q := 75) (c_X7_isHeard G h0 N _ _ _) (cl_V (ci := 6) rfl rfl (lw_V q2415 q2417 qs122 q176 q2418) (hd_X7_isHeard) ⟨Nat.le_of_ble_eq_true rfl, Nat.le_of_ble_eq_true rfl⟩ (List.mem_singleton.mp hka5) rfl rfl rfl (Nat.le_of_ble_eq_true rfl) dX7_oddsOf_72) rfl (fun x3 σ4 => ?_)
      refine r_if_eq (q := 78) (t := 118) dX7_oddsOf_75 rfl (by decide) (fun _ => ?_) (fun _ => ?_)
      · exact r_le (w_X7_oddsOf_b118 G h0 N K4 hK4 _ _ _ _ _) (Nat.le_refl _) (And.intro rfl (And.intro rfl (And.intro rfl (And.intro rfl trivial))))
      · refine r_iload_n (q := 79) dX7_oddsOf_78 rfl rfl rfl ?_
        refine r_aload_n (q := 80) dX7_oddsOf_79 rfl rfl rfl ?_
        refine r_gR (q := 83) fl_X7_48 rfl dX7_oddsOf_80 rfl (fun x6 => ?_)
        refine r_iload_n (q := 84) dX7_oddsOf_83 rfl rfl rfl ?_
        refine r_iaload (q := 85) dX7_oddsOf_84 rfl (fun x7 => ?_)
        refine r_iload_n (q := 86) dX7_oddsOf_85 rfl rfl rfl ?_
        refine r_callI (q := 89) (c_X7_bit G h0 N _ _ _) (cl_S rfl rfl (lw_S q2331 q2332 q176 q2333) (hd_X7_bit) ⟨Nat.le_of_ble_eq_true rfl, Nat.le_of_ble_eq_true rfl⟩ rfl (Nat.le_of_ble_eq_true rfl) dX7_oddsOf_86) rfl (fun x8 σ9 => ?_)
        refine r_if_eq (q := 92) (t := 104) dX7_oddsOf_89 rfl (by decide) (fun _ => ?_) (fun _ => ?_)
        · refine r_bipush (q := 106) (v := (10 : Int32)) dX7_oddsOf_104 rfl (by decide) ?_
          refine r_aload_n (q := 107) dX7_oddsOf_106 rfl rfl rfl ?_
          refine r_gR (q := 110) fl_X7_442 rfl dX7_oddsOf_107 rfl (fun x10 => ?_)
          refine r_gR (q := 113) fl_X7_359 rfl dX7_oddsOf_110 rfl (fun x11 => ?_)
          refine r_iload_n (q := 114) dX7_oddsOf_113 rfl rfl rfl ?_
          refine r_iaload (q := 115) dX7_oddsOf_114 rfl (fun x12 => ?_)
          refine r_isub (q := 116) dX7_oddsOf_115 rfl ?_
          exact r_le (w_X7_oddsOf_b116 G h0 N K4 hK4 _ _ _ _ _ _) (Nat.le_refl _) (And.intro rfl (And.intro rfl (And.intro rfl trivial)))
        · refine r_aload_n (q := 93) dX7_oddsOf_92 rfl rfl rfl ?_
          refine r_gR (q := 96) fl_X7_442 rfl dX7_oddsOf_93 rfl (fun x13 => ?_)
          refine r_gR (q := 99) fl_X7_359 rfl dX7_oddsOf_96 rfl (fun x14 => ?_)
          refine r_iload_n (q := 100) dX7_oddsOf_99 rfl rfl rfl ?_
          refine r_iaload (q := 101) dX7_oddsOf_100 rfl (fun x15 => ?_)
          refine r_goto (q := 116) dX7_oddsOf_101 (by decide) ?_
          exact r_le (w_X7_oddsOf_b116 G h0 N K4 hK4 _ _ _ _ _ _) (Nat.le_refl _) (And.intro rfl (And.intro rfl (And.intro rfl trivial)))
  · refine r_iload (q := 35) dX7_oddsOf_33 rfl rfl ?_
    refine r_if_ne (q := 38) (t := 52) dX7_oddsOf_35 rfl (by decide) (fun _ => ?_) (fun _ => ?_)
    · refine r_aload_n (q := 39) dX7_oddsOf_38 rfl rfl rfl ?_
      refine r_gR (q := 42) fl_X7_442 rfl dX7_oddsOf_39 rfl (fun x16 => ?_)
      refine r_gR (q := 45) fl_X7_379 rfl dX7_oddsOf_42 rfl (fun x17 => ?_)
      refine r_iload (q := 47) dX7_oddsOf_45 rfl rfl ?_
      refine r_iaload (q := 48) dX7_oddsOf_47 rfl (fun x18 => ?_)
      refine r_iload_n (q := 49) dX7_oddsOf_48 rfl rfl rfl ?_
      refine r_icmp_ne (q := 52) (t := 56) dX7_oddsOf_49 rfl (by decide) (fun _ => ?_) (fun _ => ?_)
      · exact r_le (w_X7_oddsOf_b52 G h0 N K4 K21 hK4 hK21 _ _ _ _ _ _) (Nat.le_refl _) (And.intro rfl (And.intro rfl (And.intro rfl (And.intro rfl (And.intro rfl trivial)))))
      · refine r_iconst (q := 57) (v := (0 : Int32)) dX7_oddsOf_56 rfl (by decide) ?_
        exact r_le (w_X7_oddsOf_b57 G h0 N K4 K21 hK4 hK21 _ _ _ _ _ _ _) (Nat.le_refl _) (And.intro rfl (And.intro rfl (And.intro rfl (And.intro rfl (And.intro rfl trivial)))))
    · exact r_le (w_X7_oddsOf_b52 G h0 N K4 K21 hK4 hK21 _ _ _ _ _ _) (Nat.le_refl _) (And.intro rfl (And.intro rfl (And.intro rfl (And.intro rfl (And.intro rfl trivial)))))
theorem w_X7_oddsOf_b21 (G : Gx) (h0 : G0 G) (N : Nat) (K4 : Nat → Int32 → Int32 → Int32 → Mem → Option (Int32 × Mem)) (hK4 : ∀ (a0 : Nat) (l1 : Int32) (l2 : Int32) (l3 : Int32) (σ : Mem), Runs G mX7_oddsOf rhoI σ 4 [some (vR (some a0)), some (vI l1), some (vI l2), some (vI l3), none, none] [] (K4 a0 l1 l2 l3 σ)) : ∀ (z : Nat) (a0 : Nat) (l1 : Int32) (l2 : Int32) (l3 : Int32) (l4 : Int32) (l5 : Int32) (σ : Mem), Runs G mX7_oddsOf rhoI σ 21 [some (vR (some a0)), some (vI l1), some (vI l2), some (vI l3), some (vI l4), some (vI l5)] [] (f_X7_oddsOf_b21 N K4 z a0 l1 l2 l3 l4 l5 σ) := by
  intro z
  induction z with
  | zero => exact fun _ _ _ _ _ _ _ => r_none
  | succ z ih => exact fun a0 l1 l2 l3 l4 l5 σ => w_X7_oddsOf_b21B G h0 N K4 hK4 _ ih a0 l1 l2 l3 l4 l5 σ
theorem w_X7_oddsOf_b4B (G : Gx) (h0 : G0 G) (N : Nat)   (K4 : Nat → Int32 → Int32 → Int32 → Mem → Option (Int32 × Mem)) (hK4 : ∀ (a0 : Nat) (l1 : Int32) (l2 : Int32) (l3 : Int32) (σ : Mem), Runs G mX7_oddsOf rhoI σ 4 [some (vR (some a0)), some (vI l1), some (vI l2), some (vI l3), none, none] [] (K4 a0 l1 l2 l3 σ)) (a0 : Nat) (l1 : Int32) (l2 : Int32) (l3 : Int32) (σ : Mem) : Runs G mX7_oddsOf rhoI σ 4 [some (vR (some a0)), some (vI l1), some (vI l2), some (vI l3), none, none] [] (f_X7_oddsOf_b4B N  K4 a0 l1 l2 l3 σ) := by
  unfold f_X7_oddsOf_b4B
  refine r_iload_n (q := 5) dX7_oddsOf_4 rfl rfl rfl ?_
  refine r_aload_n (q := 6) dX7_oddsOf_5 rfl rfl rfl ?_
  refine r_gR (q := 9) fl_X7_442 rfl dX7_oddsOf_6 rfl (fun x1 => ?_)
  refine r_gI (q := 12) fl_X7_328 dX7_oddsOf_9 rfl (fun x2 => ?_)
  refine r_icmp_ge (q := 15) (t := 124) dX7_oddsOf_12 rfl (by decide) (fun _ => ?_) (fun _ => ?_)
  · refine r_iload_n (q := 125) dX7_oddsOf_124 rfl rfl rfl ?_
    exact r_ireturn rfl rfl dX7_oddsOf_125
  · refine r_iconst (q := 16) (v := (0 : Int32)) dX7_oddsOf_15 rfl (by decide) ?_
    refine r_istore (q := 18) dX7_oddsOf_16 rfl (Nat.le_of_ble_eq_true rfl) rfl ?_
    refine r_iconst (q := 19) (v := (0 : Int32)) dX7_oddsOf_18 rfl (by decide) ?_
    refine r_istore (q := 21) dX7_oddsOf_19 rfl (Nat.le_of_ble_eq_true rfl) rfl ?_
    exact r_le (w_X7_oddsOf_b21 G h0 N K4 hK4 N _ _ _ _ _ _ _) (Nat.le_refl _) (And.intro rfl (And.intro rfl (And.intro rfl (And.intro rfl (And.intro rfl (And.intro rfl trivial))))))
theorem w_X7_oddsOf_b4 (G : Gx) (h0 : G0 G) (N : Nat)   : ∀ (z : Nat) (a0 : Nat) (l1 : Int32) (l2 : Int32) (l3 : Int32) (σ : Mem), Runs G mX7_oddsOf rhoI σ 4 [some (vR (some a0)), some (vI l1), some (vI l2), some (vI l3), none, none] [] (f_X7_oddsOf_b4 N  z a0 l1 l2 l3 σ) := by
  intro z
  induction z with
  | zero => exact fun _ _ _ _ _ => r_none
  | succ z ih => exact fun a0 l1 l2 l3 σ => w_X7_oddsOf_b4B G h0 N   _ ih a0 l1 l2 l3 σ
theorem c_X7_oddsOf (G : Gx) (h0 : G0 G) (N : Nat) (a0 : Nat) (i1 : Int32) (σ : Mem) : Ct G mX7_oddsOf rhoI [vR (some a0), vI i1] σ (f_X7_oddsOf N a0 i1 σ) := by
  refine Ct_of h0 (by decide) rfl (Nat.le_of_ble_eq_true rfl) (L0 := [some (vR (some a0)), some (vI i1), none, none, none, none]) rfl ?_
  unfold f_X7_oddsOf
  refine r_iconst (q := 1) (v := (1 : Int32)) dX7_oddsOf_0 rfl (by decide) ?_
  refine r_istore_n (q := 2) dX7_oddsOf_1 rfl rfl (Nat.le_of_ble_eq_true rfl) rfl ?_
  refine r_iconst (q := 3) (v := (0 : Int32)) dX7_oddsOf_2 rfl (by decide) ?_
  refine r_istore_n (q := 4) dX7_oddsOf_3 rfl rfl (Nat.le_of_ble_eq_true rfl) rfl ?_
  exact r_le (w_X7_oddsOf_b4 G h0 N N _ _ _ _ _) (Nat.le_refl _) (And.intro rfl (And.intro rfl (And.intro rfl (And.intro rfl trivial))))
theorem c_X7_odds (G : Gx) (h0 : G0 G) (N : Nat) (a0 : Nat) (i1 : Int32) (σ : Mem) : Ct G mX7_odds rhoI [vR (some a0), vI i1] σ (f_X7_odds N a0 i1 σ) := by
  refine Ct_of h0 (by decide) rfl (Nat.le_of_ble_eq_true rfl) (L0 := [some (vR (some a0)), some (vI i1)]) rfl ?_
  unfold f_X7_odds
  refine r_aload_n (q := 1) dX7_odds_0 rfl rfl rfl ?_
  refine r_iconst (q := 2) (v := (0 : Int32)) dX7_odds_1 rfl (by decide) ?_
  refine r_pI (q := 5) fp_X7_odds_66 dX7_odds_2 rfl (fun σ1 => ?_)
  refine r_aload_n (q := 6) dX7_odds_5 rfl rfl rfl ?_
  refine r_iload_n (q := 7) dX7_odds_6 rfl rfl rfl ?_
  refine r_ob (fun a4 ha4 => ?_)
  obtain ⟨hea4, hka4⟩ := o_at_eq ha4
  cases hea4
  refine r_callI (q := 10) (c_X7_isCase G h0 N _ _ _) (cl_V (ci := 6) rfl rfl (lw_V q2455 q2457 qs126 q176 q2458) (hd_X7_isCase) ⟨Nat.le_of_ble_eq_true rfl, Nat.le_of_ble_eq_true rfl⟩ (List.mem_singleton.mp hka4) rfl rfl rfl (Nat.le_of_ble_eq_true rfl) dX7_odds_7) rfl (fun x2 σ3 => ?_)
  refine r_if_ne (q := 13) (t := 19) dX7_odds_10 rfl (by decide) (fun _ => ?_) (fun _ => ?_)
  · refine r_aload_n (q := 14) dX7_odds_13 rfl rfl rfl ?_
    refine r_iconst (q := 15) (v := (1 : Int32)) dX7_odds_14 rfl (by decide) ?_
    refine r_ob (fun a16 ha16 => ?_)
    obtain ⟨hea16, hka16⟩ := o_at_eq ha16
    cases hea16
    refine r_callI (q := 18) (c_X7_refused G h0 N _ _ _) (cl_V (ci := 6) rfl rfl (lw_V q2019 q2021 qs83 q176 q2022) (hd_X7_refused) ⟨Nat.le_of_ble_eq_true rfl, Nat.le_of_ble_eq_true rfl⟩ (List.mem_singleton.mp hka16) rfl rfl rfl (Nat.le_of_ble_eq_true rfl) dX7_odds_15) rfl (fun x14 σ15 => ?_)
    exact r_ireturn rfl rfl dX7_odds_18
  · refine r_aload_n (q := 20) dX7_odds_19 rfl rfl rfl ?_
    refine r_ob (fun a7 ha7 => ?_)
    obtain ⟨hea7, hka7⟩ := o_at_eq ha7
    cases hea7
    refine r_callV (q := 23) (c_X7_laysHonest G h0 N _ _) (cl_V (ci := 6) rfl rfl (lw_V q2545 q2547 qs138 q176 q2548) (hd_X7_laysHonest) ⟨Nat.le_of_ble_eq_true rfl, Nat.le_of_ble_eq_true rfl⟩ (List.mem_singleton.mp hka7) rfl rfl rfl (Nat.le_of_ble_eq_true rfl) dX7_odds_20) rfl (fun u5 σ6 => ?_)
    refine r_aload_n (q := 24) dX7_odds_23 rfl rfl rfl ?_
    refine r_aload_n (q := 25) dX7_odds_24 rfl rfl rfl ?_
    refine r_iload_n (q := 26) dX7_odds_25 rfl rfl rfl ?_
    refine r_ob (fun a10 ha10 => ?_)
    obtain ⟨hea10, hka10⟩ := o_at_eq ha10
    cases hea10
    refine r_callI (q := 29) (c_X7_oddsOf G h0 N _ _ _) (cl_V (ci := 6) rfl rfl (lw_V q2597 q2599 qs145 q176 q2600) (hd_X7_oddsOf) ⟨Nat.le_of_ble_eq_true rfl, Nat.le_of_ble_eq_true rfl⟩ (List.mem_singleton.mp hka10) rfl rfl rfl (Nat.le_of_ble_eq_true rfl) dX7_odds_26) rfl (fun x8 σ9 => ?_)
    refine r_ob (fun a13 ha13 => ?_)
    obtain ⟨hea13, hka13⟩ := o_at_eq ha13
    cases hea13
    refine r_callI (q := 32) (c_X7_good G h0 N _ _ _) (cl_V (ci := 6) rfl rfl (lw_V q2379 q2381 qs118 q176 q2382) (hd_X7_good) ⟨Nat.le_of_ble_eq_true rfl, Nat.le_of_ble_eq_true rfl⟩ (List.mem_singleton.mp hka13) rfl rfl rfl (Nat.le_of_ble_eq_true rfl) dX7_odds_29) rfl (fun x11 σ12 => ?_)
    exact r_ireturn rfl rfl dX7_odds_32
theorem w_X1_likeliest_b51 (G : Gx) (h0 : G0 G) (N : Nat) (K25 : Nat → Int32 → Int32 → Mem → Option (Int32 × Mem)) (hK25 : ∀ (a0 : Nat) (l1 : Int32) (l2 : Int32) (σ : Mem), Runs G mX1_likeliest rhoI σ 25 [some (vR (some a0)), some (vI l1), some (vI l2)] [] (K25 a0 l1 l2 σ)) (a0 : Nat) (l1 : Int32) (l2 : Int32) (σ : Mem) : Runs G mX1_likeliest rhoI σ 51 [some (vR (some a0)), some (vI l1), some (vI l2)] [] (f_X1_likeliest_b51 N K25 a0 l1 l2 σ) := by
  unfold f_X1_likeliest_b51
  refine r_iinc (q := 54) (v := (1 : Int32)) dX1_likeliest_51 rfl rfl (by decide) (Nat.le_of_ble_eq_true rfl) rfl ?_
  refine r_goto (q := 25) dX1_likeliest_54 (by decide) ?_
  exact r_le (hK25 _ _ _ _) (Nat.le_refl _) (And.intro rfl (And.intro rfl (And.intro rfl trivial)))
theorem w_X1_likeliest_b25B (G : Gx) (h0 : G0 G) (N : Nat)   (K25 : Nat → Int32 → Int32 → Mem → Option (Int32 × Mem)) (hK25 : ∀ (a0 : Nat) (l1 : Int32) (l2 : Int32) (σ : Mem), Runs G mX1_likeliest rhoI σ 25 [some (vR (some a0)), some (vI l1), some (vI l2)] [] (K25 a0 l1 l2 σ)) (a0 : Nat) (l1 : Int32) (l2 : Int32) (σ : Mem) : Runs G mX1_likeliest rhoI σ 25 [some (vR (some a0)), some (vI l1), some (vI l2)] [] (f_X1_likeliest_b25B N  K25 a0 l1 l2 σ) := by
  unfold f_X1_likeliest_b25B
  refine r_iload_n (q := 26) dX1_likeliest_25 rfl rfl rfl ?_
  refine r_aload_n (q := 27) dX1_likeliest_26 rfl rfl rfl ?_
  refine r_gR (q := 30) fl_X1_104 rfl dX1_likeliest_27 rfl (fun x1 => ?_)
  refine r_ob (fun a4 ha4 => ?_)
  obtain ⟨hea4, hka4⟩ := o_at_eq ha4
  cases hea4
  refine r_callI (q := 33) (c_X8_cases G h0 N _ _) (cl_V (ci := 7) rfl rfl (lw_V q1296 q1297 q1298 q177 q1299) (hd_X8_cases) ⟨Nat.le_of_ble_eq_true rfl, Nat.le_of_ble_eq_true rfl⟩ (List.mem_singleton.mp hka4) rfl rfl rfl (Nat.le_of_ble_eq_true rfl) dX1_likeliest_30) rfl (fun x2 σ3 => ?_)
  refine r_icmp_ge (q := 36) (t := 57) dX1_likeliest_33 rfl (by decide) (fun _ => ?_) (fun _ => ?_)
  · refine r_iload_n (q := 58) dX1_likeliest_57 rfl rfl rfl ?_
    exact r_ireturn rfl rfl dX1_likeliest_58
  · refine r_aload_n (q := 37) dX1_likeliest_36 rfl rfl rfl ?_
    refine r_iload_n (q := 38) dX1_likeliest_37 rfl rfl rfl ?_
    refine r_ob (fun a7 ha7 => ?_)
    obtain ⟨hea7, hka7⟩ := o_at_eq ha7
    cases hea7
    refine r_callI (q := 41) (c_X1_oddsOf G h0 N _ _ _) (cl_V (ci := 0) rfl rfl (lw_V q1636 q1638 qs65 q167 q1639) (hd_X1_oddsOf) ⟨Nat.le_of_ble_eq_true rfl, Nat.le_of_ble_eq_true rfl⟩ (List.mem_singleton.mp hka7) rfl rfl rfl (Nat.le_of_ble_eq_true rfl) dX1_likeliest_38) rfl (fun x5 σ6 => ?_)
    refine r_aload_n (q := 42) dX1_likeliest_41 rfl rfl rfl ?_
    refine r_iload_n (q := 43) dX1_likeliest_42 rfl rfl rfl ?_
    refine r_ob (fun a10 ha10 => ?_)
    obtain ⟨hea10, hka10⟩ := o_at_eq ha10
    cases hea10
    refine r_callI (q := 46) (c_X1_oddsOf G h0 N _ _ _) (cl_V (ci := 0) rfl rfl (lw_V q1636 q1638 qs65 q167 q1639) (hd_X1_oddsOf) ⟨Nat.le_of_ble_eq_true rfl, Nat.le_of_ble_eq_true rfl⟩ (List.mem_singleton.mp hka10) rfl rfl rfl (Nat.le_of_ble_eq_true rfl) dX1_likeliest_43) rfl (fun x8 σ9 => ?_)
    refine r_icmp_le (q := 49) (t := 51) dX1_likeliest_46 rfl (by decide) (fun _ => ?_) (fun _ => ?_)
    · exact r_le (w_X1_likeliest_b51 G h0 N K25 hK25 _ _ _ _) (Nat.le_refl _) (And.intro rfl (And.intro rfl (And.intro rfl trivial)))
    · refine r_iload_n (q := 50) dX1_likeliest_49 rfl rfl rfl ?_
      refine r_istore_n (q := 51) dX1_likeliest_50 rfl rfl (Nat.le_of_ble_eq_true rfl) rfl ?_
      exact r_le (w_X1_likeliest_b51 G h0 N K25 hK25 _ _ _ _) (Nat.le_refl _) (And.intro rfl (And.intro rfl (And.intro rfl trivial)))
theorem w_X1_likeliest_b25 (G : Gx) (h0 : G0 G) (N : Nat)   : ∀ (z : Nat) (a0 : Nat) (l1 : Int32) (l2 : Int32) (σ : Mem), Runs G mX1_likeliest rhoI σ 25 [some (vR (some a0)), some (vI l1), some (vI l2)] [] (f_X1_likeliest_b25 N  z a0 l1 l2 σ) := by
  intro z
  induction z with
  | zero => exact fun _ _ _ _ => r_none
  | succ z ih => exact fun a0 l1 l2 σ => w_X1_likeliest_b25B G h0 N   _ ih a0 l1 l2 σ
theorem c_X1_likeliest (G : Gx) (h0 : G0 G) (N : Nat) (a0 : Nat) (σ : Mem) : Ct G mX1_likeliest rhoI [vR (some a0)] σ (f_X1_likeliest N a0 σ) := by
  refine Ct_of h0 (by decide) rfl (Nat.le_of_ble_eq_true rfl) (L0 := [some (vR (some a0)), none, none]) rfl ?_
  unfold f_X1_likeliest
  refine r_aload_n (q := 1) dX1_likeliest_0 rfl rfl rfl ?_
  refine r_ob (fun a3 ha3 => ?_)
  obtain ⟨hea3, hka3⟩ := o_at_eq ha3
  cases hea3
  refine r_callV (q := 4) (c_X1_anew G h0 N _ _) (cl_V (ci := 0) rfl rfl (lw_V q485 q487 qs2 q167 q488) (hd_X1_anew) ⟨Nat.le_of_ble_eq_true rfl, Nat.le_of_ble_eq_true rfl⟩ (List.mem_singleton.mp hka3) rfl rfl rfl (Nat.le_of_ble_eq_true rfl) dX1_likeliest_1) rfl (fun u1 σ2 => ?_)
  refine r_aload_n (q := 5) dX1_likeliest_4 rfl rfl rfl ?_
  refine r_gR (q := 8) fl_X1_104 rfl dX1_likeliest_5 rfl (fun x4 => ?_)
  refine r_ifnonnull (q := 11) (t := 17) dX1_likeliest_8 rfl (by decide) (fun _ => ?_) (fun _ => ?_)
  · refine r_aload_n (q := 12) dX1_likeliest_11 rfl rfl rfl ?_
    refine r_iconst (q := 13) (v := (1 : Int32)) dX1_likeliest_12 rfl (by decide) ?_
    refine r_ob (fun a10 ha10 => ?_)
    obtain ⟨hea10, hka10⟩ := o_at_eq ha10
    cases hea10
    refine r_callI (q := 16) (c_X1_no G h0 N _ _ _) (cl_V (ci := 0) rfl rfl (lw_V q492 q494 qs3 q167 q495) (hd_X1_no) ⟨Nat.le_of_ble_eq_true rfl, Nat.le_of_ble_eq_true rfl⟩ (List.mem_singleton.mp hka10) rfl rfl rfl (Nat.le_of_ble_eq_true rfl) dX1_likeliest_13) rfl (fun x8 σ9 => ?_)
    exact r_ireturn rfl rfl dX1_likeliest_16
  · refine r_aload_n (q := 18) dX1_likeliest_17 rfl rfl rfl ?_
    refine r_ob (fun a7 ha7 => ?_)
    obtain ⟨hea7, hka7⟩ := o_at_eq ha7
    cases hea7
    refine r_callV (q := 21) (c_X1_layTruth G h0 N _ _) (cl_V (ci := 0) rfl rfl (lw_V q1580 q1582 qs61 q167 q1583) (hd_X1_layTruth) ⟨Nat.le_of_ble_eq_true rfl, Nat.le_of_ble_eq_true rfl⟩ (List.mem_singleton.mp hka7) rfl rfl rfl (Nat.le_of_ble_eq_true rfl) dX1_likeliest_18) rfl (fun u5 σ6 => ?_)
    refine r_iconst (q := 22) (v := (0 : Int32)) dX1_likeliest_21 rfl (by decide) ?_
    refine r_istore_n (q := 23) dX1_likeliest_22 rfl rfl (Nat.le_of_ble_eq_true rfl) rfl ?_
    refine r_iconst (q := 24) (v := (1 : Int32)) dX1_likeliest_23 rfl (by decide) ?_
    refine r_istore_n (q := 25) dX1_likeliest_24 rfl rfl (Nat.le_of_ble_eq_true rfl) rfl ?_
    exact r_le (w_X1_likeliest_b25 G h0 N N _ _ _ _) (Nat.le_refl _) (And.intro rfl (And.intro rfl (And.intro rfl trivial)))
theorem w_X7_likeliest_b52 (G : Gx) (h0 : G0 G) (N : Nat) (K26 : Nat → Int32 → Int32 → Mem → Option (Int32 × Mem)) (hK26 : ∀ (a0 : Nat) (l1 : Int32) (l2 : Int32) (σ : Mem), Runs G mX7_likeliest rhoI σ 26 [some (vR (some a0)), some (vI l1), some (vI l2)] [] (K26 a0 l1 l2 σ)) (a0 : Nat) (l1 : Int32) (l2 : Int32) (σ : Mem) : Runs G mX7_likeliest rhoI σ 52 [some (vR (some a0)), some (vI l1), some (vI l2)] [] (f_X7_likeliest_b52 N K26 a0 l1 l2 σ) := by
  unfold f_X7_likeliest_b52
  refine r_iinc (q := 55) (v := (1 : Int32)) dX7_likeliest_52 rfl rfl (by decide) (Nat.le_of_ble_eq_true rfl) rfl ?_
  refine r_goto (q := 26) dX7_likeliest_55 (by decide) ?_
  exact r_le (hK26 _ _ _ _) (Nat.le_refl _) (And.intro rfl (And.intro rfl (And.intro rfl trivial)))
theorem w_X7_likeliest_b26B (G : Gx) (h0 : G0 G) (N : Nat)   (K26 : Nat → Int32 → Int32 → Mem → Option (Int32 × Mem)) (hK26 : ∀ (a0 : Nat) (l1 : Int32) (l2 : Int32) (σ : Mem), Runs G mX7_likeliest rhoI σ 26 [some (vR (some a0)), some (vI l1), some (vI l2)] [] (K26 a0 l1 l2 σ)) (a0 : Nat) (l1 : Int32) (l2 : Int32) (σ : Mem) : Runs G mX7_likeliest rhoI σ 26 [some (vR (some a0)), some (vI l1), some (vI l2)] [] (f_X7_likeliest_b26B N  K26 a0 l1 l2 σ) := by
  unfold f_X7_likeliest_b26B
  refine r_iload_n (q := 27) dX7_likeliest_26 rfl rfl rfl ?_
  refine r_aload_n (q := 28) dX7_likeliest_27 rfl rfl rfl ?_
  refine r_gR (q := 31) fl_X7_442 rfl dX7_likeliest_28 rfl (fun x1 => ?_)
  refine r_ob (fun a4 ha4 => ?_)
  obtain ⟨hea4, hka4⟩ := o_at_eq ha4
  cases hea4
  refine r_callI (q := 34) (c_X24_cases G h0 N _ _) (cl_V (ci := 20) rfl rfl (lw_V q2375 q2376 q2377 q199 q2378) (hd_X24_cases) ⟨Nat.le_of_ble_eq_true rfl, Nat.le_of_ble_eq_true rfl⟩ (List.mem_singleton.mp hka4) rfl rfl rfl (Nat.le_of_ble_eq_true rfl) dX7_likeliest_31) rfl (fun x2 σ3 => ?_)
  refine r_icmp_ge (q := 37) (t := 58) dX7_likeliest_34 rfl (by decide) (fun _ => ?_) (fun _ => ?_)
  · refine r_aload_n (q := 59) dX7_likeliest_58 rfl rfl rfl ?_
    refine r_iload_n (q := 60) dX7_likeliest_59 rfl rfl rfl ?_
    refine r_ob (fun a7 ha7 => ?_)
    obtain ⟨hea7, hka7⟩ := o_at_eq ha7
    cases hea7
    refine r_callI (q := 63) (c_X7_good G h0 N _ _ _) (cl_V (ci := 6) rfl rfl (lw_V q2379 q2381 qs118 q176 q2382) (hd_X7_good) ⟨Nat.le_of_ble_eq_true rfl, Nat.le_of_ble_eq_true rfl⟩ (List.mem_singleton.mp hka7) rfl rfl rfl (Nat.le_of_ble_eq_true rfl) dX7_likeliest_60) rfl (fun x5 σ6 => ?_)
    exact r_ireturn rfl rfl dX7_likeliest_63
  · refine r_aload_n (q := 38) dX7_likeliest_37 rfl rfl rfl ?_
    refine r_iload_n (q := 39) dX7_likeliest_38 rfl rfl rfl ?_
    refine r_ob (fun a10 ha10 => ?_)
    obtain ⟨hea10, hka10⟩ := o_at_eq ha10
    cases hea10
    refine r_callI (q := 42) (c_X7_oddsOf G h0 N _ _ _) (cl_V (ci := 6) rfl rfl (lw_V q2597 q2599 qs145 q176 q2600) (hd_X7_oddsOf) ⟨Nat.le_of_ble_eq_true rfl, Nat.le_of_ble_eq_true rfl⟩ (List.mem_singleton.mp hka10) rfl rfl rfl (Nat.le_of_ble_eq_true rfl) dX7_likeliest_39) rfl (fun x8 σ9 => ?_)
    refine r_aload_n (q := 43) dX7_likeliest_42 rfl rfl rfl ?_
    refine r_iload_n (q := 44) dX7_likeliest_43 rfl rfl rfl ?_
    refine r_ob (fun a13 ha13 => ?_)
    obtain ⟨hea13, hka13⟩ := o_at_eq ha13
    cases hea13
    refine r_callI (q := 47) (c_X7_oddsOf G h0 N _ _ _) (cl_V (ci := 6) rfl rfl (lw_V q2597 q2599 qs145 q176 q2600) (hd_X7_oddsOf) ⟨Nat.le_of_ble_eq_true rfl, Nat.le_of_ble_eq_true rfl⟩ (List.mem_singleton.mp hka13) rfl rfl rfl (Nat.le_of_ble_eq_true rfl) dX7_likeliest_44) rfl (fun x11 σ12 => ?_)
    refine r_icmp_le (q := 50) (t := 52) dX7_likeliest_47 rfl (by decide) (fun _ => ?_) (fun _ => ?_)
    · exact r_le (w_X7_likeliest_b52 G h0 N K26 hK26 _ _ _ _) (Nat.le_refl _) (And.intro rfl (And.intro rfl (And.intro rfl trivial)))
    · refine r_iload_n (q := 51) dX7_likeliest_50 rfl rfl rfl ?_
      refine r_istore_n (q := 52) dX7_likeliest_51 rfl rfl (Nat.le_of_ble_eq_true rfl) rfl ?_
      exact r_le (w_X7_likeliest_b52 G h0 N K26 hK26 _ _ _ _) (Nat.le_refl _) (And.intro rfl (And.intro rfl (And.intro rfl trivial)))
theorem w_X7_likeliest_b26 (G : Gx) (h0 : G0 G) (N : Nat)   : ∀ (z : Nat) (a0 : Nat) (l1 : Int32) (l2 : Int32) (σ : Mem), Runs G mX7_likeliest rhoI σ 26 [some (vR (some a0)), some (vI l1), some (vI l2)] [] (f_X7_likeliest_b26 N  z a0 l1 l2 σ) := by
  intro z
  induction z with
  | zero => exact fun _ _ _ _ => r_none
  | succ z ih => exact fun a0 l1 l2 σ => w_X7_likeliest_b26B G h0 N   _ ih a0 l1 l2 σ
theorem c_X7_likeliest (G : Gx) (h0 : G0 G) (N : Nat) (a0 : Nat) (σ : Mem) : Ct G mX7_likeliest rhoI [vR (some a0)] σ (f_X7_likeliest N a0 σ) := by
  refine Ct_of h0 (by decide) rfl (Nat.le_of_ble_eq_true rfl) (L0 := [some (vR (some a0)), none, none]) rfl ?_
  unfold f_X7_likeliest
  refine r_aload_n (q := 1) dX7_likeliest_0 rfl rfl rfl ?_
  refine r_iconst (q := 2) (v := (0 : Int32)) dX7_likeliest_1 rfl (by decide) ?_
  refine r_pI (q := 5) fp_X7_likeliest_66 dX7_likeliest_2 rfl (fun σ1 => ?_)
  refine r_aload_n (q := 6) dX7_likeliest_5 rfl rfl rfl ?_
  refine r_gR (q := 9) fl_X7_442 rfl dX7_likeliest_6 rfl (fun x2 => ?_)
  refine r_ifnonnull (q := 12) (t := 18) dX7_likeliest_9 rfl (by decide) (fun _ => ?_) (fun _ => ?_)
  · refine r_aload_n (q := 13) dX7_likeliest_12 rfl rfl rfl ?_
    refine r_iconst (q := 14) (v := (1 : Int32)) dX7_likeliest_13 rfl (by decide) ?_
    refine r_ob (fun a8 ha8 => ?_)
    obtain ⟨hea8, hka8⟩ := o_at_eq ha8
    cases hea8
    refine r_callI (q := 17) (c_X7_refused G h0 N _ _ _) (cl_V (ci := 6) rfl rfl (lw_V q2019 q2021 qs83 q176 q2022) (hd_X7_refused) ⟨Nat.le_of_ble_eq_true rfl, Nat.le_of_ble_eq_true rfl⟩ (List.mem_singleton.mp hka8) rfl rfl rfl (Nat.le_of_ble_eq_true rfl) dX7_likeliest_14) rfl (fun x6 σ7 => ?_)
    exact r_ireturn rfl rfl dX7_likeliest_17
  · refine r_aload_n (q := 19) dX7_likeliest_18 rfl rfl rfl ?_
    refine r_ob (fun a5 ha5 => ?_)
    obtain ⟨hea5, hka5⟩ := o_at_eq ha5
    cases hea5
    refine r_callV (q := 22) (c_X7_laysHonest G h0 N _ _) (cl_V (ci := 6) rfl rfl (lw_V q2545 q2547 qs138 q176 q2548) (hd_X7_laysHonest) ⟨Nat.le_of_ble_eq_true rfl, Nat.le_of_ble_eq_true rfl⟩ (List.mem_singleton.mp hka5) rfl rfl rfl (Nat.le_of_ble_eq_true rfl) dX7_likeliest_19) rfl (fun u3 σ4 => ?_)
    refine r_iconst (q := 23) (v := (0 : Int32)) dX7_likeliest_22 rfl (by decide) ?_
    refine r_istore_n (q := 24) dX7_likeliest_23 rfl rfl (Nat.le_of_ble_eq_true rfl) rfl ?_
    refine r_iconst (q := 25) (v := (1 : Int32)) dX7_likeliest_24 rfl (by decide) ?_
    refine r_istore_n (q := 26) dX7_likeliest_25 rfl rfl (Nat.le_of_ble_eq_true rfl) rfl ?_
    exact r_le (w_X7_likeliest_b26 G h0 N N _ _ _ _) (Nat.le_refl _) (And.intro rfl (And.intro rfl (And.intro rfl trivial)))
theorem w_X1_proved_b20 (G : Gx) (h0 : G0 G) (N : Nat)   (a0 : Nat) (σ : Mem) : Runs G mX1_proved rhoI σ 20 [some (vR (some a0)), none, none, none, none, none] [] (f_X1_proved_b20 N  a0 σ) := by
  unfold f_X1_proved_b20
  refine r_aload_n (q := 21) dX1_proved_20 rfl rfl rfl ?_
  refine r_iconst (q := 22) (v := (1 : Int32)) dX1_proved_21 rfl (by decide) ?_
  refine r_ob (fun a3 ha3 => ?_)
  obtain ⟨hea3, hka3⟩ := o_at_eq ha3
  cases hea3
  refine r_callI (q := 25) (c_X1_no G h0 N _ _ _) (cl_V (ci := 0) rfl rfl (lw_V q492 q494 qs3 q167 q495) (hd_X1_no) ⟨Nat.le_of_ble_eq_true rfl, Nat.le_of_ble_eq_true rfl⟩ (List.mem_singleton.mp hka3) rfl rfl rfl (Nat.le_of_ble_eq_true rfl) dX1_proved_22) rfl (fun x1 σ2 => ?_)
  exact r_ireturn rfl rfl dX1_proved_25
theorem w_X1_proved_b107 (G : Gx) (h0 : G0 G) (N : Nat) (K51 : Nat → Int32 → Int32 → Int32 → Int32 → Int32 → Mem → Option (Int32 × Mem)) (hK51 : ∀ (a0 : Nat) (l1 : Int32) (l2 : Int32) (l3 : Int32) (l4 : Int32) (l5 : Int32) (σ : Mem), Runs G mX1_proved rhoI σ 51 [some (vR (some a0)), some (vI l1), some (vI l2), some (vI l3), some (vI l4), some (vI l5)] [] (K51 a0 l1 l2 l3 l4 l5 σ)) (a0 : Nat) (l1 : Int32) (l2 : Int32) (l3 : Int32) (l4 : Int32) (l5 : Int32) (σ : Mem) : Runs G mX1_proved rhoI σ 107 [some (vR (some a0)), some (vI l1), some (vI l2), some (vI l3), some (vI l4), some (vI l5)] [] (f_X1_proved_b107 N K51 a0 l1 l2 l3 l4 l5 σ) := by
  unfold f_X1_proved_b107
  refine r_iinc (q := 110) (v := (1 : Int32)) dX1_proved_107 rfl rfl (by decide) (Nat.le_of_ble_eq_true rfl) rfl ?_
  refine r_goto (q := 51) dX1_proved_110 (by decide) ?_
  exact r_le (hK51 _ _ _ _ _ _ _) (Nat.le_refl _) (And.intro rfl (And.intro rfl (And.intro rfl (And.intro rfl (And.intro rfl (And.intro rfl trivial))))))
theorem w_X1_proved_b85 (G : Gx) (h0 : G0 G) (N : Nat) (K51 : Nat → Int32 → Int32 → Int32 → Int32 → Int32 → Mem → Option (Int32 × Mem)) (hK51 : ∀ (a0 : Nat) (l1 : Int32) (l2 : Int32) (l3 : Int32) (l4 : Int32) (l5 : Int32) (σ : Mem), Runs G mX1_proved rhoI σ 51 [some (vR (some a0)), some (vI l1), some (vI l2), some (vI l3), some (vI l4), some (vI l5)] [] (K51 a0 l1 l2 l3 l4 l5 σ)) (a0 : Nat) (l1 : Int32) (l2 : Int32) (l3 : Int32) (l4 : Int32) (l5 : Int32) (σ : Mem) : Runs G mX1_proved rhoI σ 85 [some (vR (some a0)), some (vI l1), some (vI l2), some (vI l3), some (vI l4), some (vI l5)] [] (f_X1_proved_b85 N K51 a0 l1 l2 l3 l4 l5 σ) := by
  unfold f_X1_proved_b85
  refine r_aload_n (q := 86) dX1_proved_85 rfl rfl rfl ?_
  refine r_iload (q := 88) dX1_proved_86 rfl rfl ?_
  refine r_ob (fun a3 ha3 => ?_)
  obtain ⟨hea3, hka3⟩ := o_at_eq ha3
  cases hea3
  refine r_callV (q := 91) (c_X1_layFits G h0 N _ _ _) (cl_V (ci := 0) rfl rfl (lw_V q1593 q1595 qs62 q167 q1596) (hd_X1_layFits) ⟨Nat.le_of_ble_eq_true rfl, Nat.le_of_ble_eq_true rfl⟩ (List.mem_singleton.mp hka3) rfl rfl rfl (Nat.le_of_ble_eq_true rfl) dX1_proved_88) rfl (fun u1 σ2 => ?_)
  refine r_aload_n (q := 92) dX1_proved_91 rfl rfl rfl ?_
  refine r_iload_n (q := 93) dX1_proved_92 rfl rfl rfl ?_
  refine r_iload_n (q := 94) dX1_proved_93 rfl rfl rfl ?_
  refine r_ob (fun a6 ha6 => ?_)
  obtain ⟨hea6, hka6⟩ := o_at_eq ha6
  cases hea6
  refine r_callI (q := 97) (c_X1_couldBe G h0 N _ _ _ _) (cl_V (ci := 0) rfl rfl (lw_V q1610 q1612 qs64 q167 q1613) (hd_X1_couldBe) ⟨Nat.le_of_ble_eq_true rfl, Nat.le_of_ble_eq_true rfl⟩ (List.mem_singleton.mp hka6) rfl rfl rfl (Nat.le_of_ble_eq_true rfl) dX1_proved_94) rfl (fun x4 σ5 => ?_)
  refine r_iconst (q := 98) (v := (1 : Int32)) dX1_proved_97 rfl (by decide) ?_
  refine r_iload_n (q := 99) dX1_proved_98 rfl rfl rfl ?_
  refine r_ishl (q := 100) dX1_proved_99 rfl ?_
  refine r_icmp_ne (q := 103) (t := 107) dX1_proved_100 rfl (by decide) (fun _ => ?_) (fun _ => ?_)
  · refine r_iload (q := 105) dX1_proved_103 rfl rfl ?_
    refine r_istore (q := 107) dX1_proved_105 rfl (Nat.le_of_ble_eq_true rfl) rfl ?_
    exact r_le (w_X1_proved_b107 G h0 N K51 hK51 _ _ _ _ _ _ _) (Nat.le_refl _) (And.intro rfl (And.intro rfl (And.intro rfl (And.intro rfl (And.intro rfl (And.intro rfl trivial))))))
  · exact r_le (w_X1_proved_b107 G h0 N K51 hK51 _ _ _ _ _ _ _) (Nat.le_refl _) (And.intro rfl (And.intro rfl (And.intro rfl (And.intro rfl (And.intro rfl (And.intro rfl trivial))))))
theorem w_X1_proved_b51B (G : Gx) (h0 : G0 G) (N : Nat)   (K51 : Nat → Int32 → Int32 → Int32 → Int32 → Int32 → Mem → Option (Int32 × Mem)) (hK51 : ∀ (a0 : Nat) (l1 : Int32) (l2 : Int32) (l3 : Int32) (l4 : Int32) (l5 : Int32) (σ : Mem), Runs G mX1_proved rhoI σ 51 [some (vR (some a0)), some (vI l1), some (vI l2), some (vI l3), some (vI l4), some (vI l5)] [] (K51 a0 l1 l2 l3 l4 l5 σ)) (a0 : Nat) (l1 : Int32) (l2 : Int32) (l3 : Int32) (l4 : Int32) (l5 : Int32) (σ : Mem) : Runs G mX1_proved rhoI σ 51 [some (vR (some a0)), some (vI l1), some (vI l2), some (vI l3), some (vI l4), some (vI l5)] [] (f_X1_proved_b51B N  K51 a0 l1 l2 l3 l4 l5 σ) := by
  unfold f_X1_proved_b51B
  refine r_iload (q := 53) dX1_proved_51 rfl rfl ?_
  refine r_iconst (q := 54) (v := (1 : Int32)) dX1_proved_53 rfl (by decide) ?_
  refine r_aload_n (q := 55) dX1_proved_54 rfl rfl rfl ?_
  refine r_gR (q := 58) fl_X1_104 rfl dX1_proved_55 rfl (fun x1 => ?_)
  refine r_gI (q := 61) fl_X1_139 dX1_proved_58 rfl (fun x2 => ?_)
  refine r_ishl (q := 62) dX1_proved_61 rfl ?_
  refine r_icmp_ge (q := 65) (t := 113) dX1_proved_62 rfl (by decide) (fun _ => ?_) (fun _ => ?_)
  · refine r_iload (q := 115) dX1_proved_113 rfl rfl ?_
    exact r_ireturn rfl rfl dX1_proved_115
  · refine r_iload (q := 67) dX1_proved_65 rfl rfl ?_
    refine r_bipush (q := 69) (v := (-2 : Int32)) dX1_proved_67 rfl (by decide) ?_
    refine r_icmp_eq (q := 72) (t := 85) dX1_proved_69 rfl (by decide) (fun _ => ?_) (fun _ => ?_)
    · exact r_le (w_X1_proved_b85 G h0 N K51 hK51 _ _ _ _ _ _ _) (Nat.le_refl _) (And.intro rfl (And.intro rfl (And.intro rfl (And.intro rfl (And.intro rfl (And.intro rfl trivial))))))
    · refine r_iload (q := 74) dX1_proved_72 rfl rfl ?_
      refine r_iload (q := 76) dX1_proved_74 rfl rfl ?_
      refine r_callI (q := 79) (c_X1_isFewer G h0 N _ _ _) (cl_S rfl rfl (lw_S q1626 q1627 q167 q1628) (hd_X1_isFewer) ⟨Nat.le_of_ble_eq_true rfl, Nat.le_of_ble_eq_true rfl⟩ rfl (Nat.le_of_ble_eq_true rfl) dX1_proved_76) rfl (fun x3 σ4 => ?_)
      refine r_if_ne (q := 82) (t := 85) dX1_proved_79 rfl (by decide) (fun _ => ?_) (fun _ => ?_)
      · refine r_goto (q := 107) dX1_proved_82 (by decide) ?_
        exact r_le (w_X1_proved_b107 G h0 N K51 hK51 _ _ _ _ _ _ _) (Nat.le_refl _) (And.intro rfl (And.intro rfl (And.intro rfl (And.intro rfl (And.intro rfl (And.intro rfl trivial))))))
      · exact r_le (w_X1_proved_b85 G h0 N K51 hK51 _ _ _ _ _ _ _) (Nat.le_refl _) (And.intro rfl (And.intro rfl (And.intro rfl (And.intro rfl (And.intro rfl (And.intro rfl trivial))))))
theorem w_X1_proved_b51 (G : Gx) (h0 : G0 G) (N : Nat)   : ∀ (z : Nat) (a0 : Nat) (l1 : Int32) (l2 : Int32) (l3 : Int32) (l4 : Int32) (l5 : Int32) (σ : Mem), Runs G mX1_proved rhoI σ 51 [some (vR (some a0)), some (vI l1), some (vI l2), some (vI l3), some (vI l4), some (vI l5)] [] (f_X1_proved_b51 N  z a0 l1 l2 l3 l4 l5 σ) := by
  intro z
  induction z with
  | zero => exact fun _ _ _ _ _ _ _ => r_none
  | succ z ih => exact fun a0 l1 l2 l3 l4 l5 σ => w_X1_proved_b51B G h0 N   _ ih a0 l1 l2 l3 l4 l5 σ
theorem c_X1_proved (G : Gx) (h0 : G0 G) (N : Nat) (a0 : Nat) (i1 : Int32) (i2 : Int32) (i3 : Int32) (σ : Mem) : Ct G mX1_proved rhoI [vR (some a0), vI i1, vI i2, vI i3] σ (f_X1_proved N a0 i1 i2 i3 σ) := by
  refine Ct_of h0 (by decide) rfl (Nat.le_of_ble_eq_true rfl) (L0 := [some (vR (some a0)), some (vI i1), some (vI i2), some (vI i3), none, none]) rfl ?_
  unfold f_X1_proved
  refine r_aload_n (q := 1) dX1_proved_0 rfl rfl rfl ?_
  refine r_ob (fun a3 ha3 => ?_)
  obtain ⟨hea3, hka3⟩ := o_at_eq ha3
  cases hea3
  refine r_callV (q := 4) (c_X1_anew G h0 N _ _) (cl_V (ci := 0) rfl rfl (lw_V q485 q487 qs2 q167 q488) (hd_X1_anew) ⟨Nat.le_of_ble_eq_true rfl, Nat.le_of_ble_eq_true rfl⟩ (List.mem_singleton.mp hka3) rfl rfl rfl (Nat.le_of_ble_eq_true rfl) dX1_proved_1) rfl (fun u1 σ2 => ?_)
  refine r_aload_n (q := 5) dX1_proved_4 rfl rfl rfl ?_
  refine r_iload_n (q := 6) dX1_proved_5 rfl rfl rfl ?_
  refine r_ob (fun a6 ha6 => ?_)
  obtain ⟨hea6, hka6⟩ := o_at_eq ha6
  cases hea6
  refine r_callI (q := 9) (c_X1_isPerson G h0 N _ _ _) (cl_V (ci := 0) rfl rfl (lw_V q1393 q1395 qs48 q167 q1396) (hd_X1_isPerson) ⟨Nat.le_of_ble_eq_true rfl, Nat.le_of_ble_eq_true rfl⟩ (List.mem_singleton.mp hka6) rfl rfl rfl (Nat.le_of_ble_eq_true rfl) dX1_proved_6) rfl (fun x4 σ5 => ?_)
  refine r_if_eq (q := 12) (t := 20) dX1_proved_9 rfl (by decide) (fun _ => ?_) (fun _ => ?_)
  · exact r_le (w_X1_proved_b20 G h0 N _ _) (Nat.le_refl _) (And.intro rfl trivial)
  · refine r_aload_n (q := 13) dX1_proved_12 rfl rfl rfl ?_
    refine r_iload_n (q := 14) dX1_proved_13 rfl rfl rfl ?_
    refine r_ob (fun a9 ha9 => ?_)
    obtain ⟨hea9, hka9⟩ := o_at_eq ha9
    cases hea9
    refine r_callI (q := 17) (c_X1_isPlace G h0 N _ _ _) (cl_V (ci := 0) rfl rfl (lw_V q1315 q1317 qs43 q167 q1318) (hd_X1_isPlace) ⟨Nat.le_of_ble_eq_true rfl, Nat.le_of_ble_eq_true rfl⟩ (List.mem_singleton.mp hka9) rfl rfl rfl (Nat.le_of_ble_eq_true rfl) dX1_proved_14) rfl (fun x7 σ8 => ?_)
    refine r_if_ne (q := 20) (t := 26) dX1_proved_17 rfl (by decide) (fun _ => ?_) (fun _ => ?_)
    · exact r_le (w_X1_proved_b20 G h0 N _ _) (Nat.le_refl _) (And.intro rfl trivial)
    · refine r_aload_n (q := 27) dX1_proved_26 rfl rfl rfl ?_
      refine r_iload_n (q := 28) dX1_proved_27 rfl rfl rfl ?_
      refine r_ob (fun a12 ha12 => ?_)
      obtain ⟨hea12, hka12⟩ := o_at_eq ha12
      cases hea12
      refine r_callI (q := 31) (c_X1_isHour G h0 N _ _ _) (cl_V (ci := 0) rfl rfl (lw_V q1397 q1399 qs49 q167 q1400) (hd_X1_isHour) ⟨Nat.le_of_ble_eq_true rfl, Nat.le_of_ble_eq_true rfl⟩ (List.mem_singleton.mp hka12) rfl rfl rfl (Nat.le_of_ble_eq_true rfl) dX1_proved_28) rfl (fun x10 σ11 => ?_)
      refine r_if_ne (q := 34) (t := 40) dX1_proved_31 rfl (by decide) (fun _ => ?_) (fun _ => ?_)
      · refine r_aload_n (q := 35) dX1_proved_34 rfl rfl rfl ?_
        refine r_iconst (q := 36) (v := (2 : Int32)) dX1_proved_35 rfl (by decide) ?_
        refine r_ob (fun a18 ha18 => ?_)
        obtain ⟨hea18, hka18⟩ := o_at_eq ha18
        cases hea18
        refine r_callI (q := 39) (c_X1_no G h0 N _ _ _) (cl_V (ci := 0) rfl rfl (lw_V q492 q494 qs3 q167 q495) (hd_X1_no) ⟨Nat.le_of_ble_eq_true rfl, Nat.le_of_ble_eq_true rfl⟩ (List.mem_singleton.mp hka18) rfl rfl rfl (Nat.le_of_ble_eq_true rfl) dX1_proved_36) rfl (fun x16 σ17 => ?_)
        exact r_ireturn rfl rfl dX1_proved_39
      · refine r_aload_n (q := 41) dX1_proved_40 rfl rfl rfl ?_
        refine r_ob (fun a15 ha15 => ?_)
        obtain ⟨hea15, hka15⟩ := o_at_eq ha15
        cases hea15
        refine r_callV (q := 44) (c_X1_layTruth G h0 N _ _) (cl_V (ci := 0) rfl rfl (lw_V q1580 q1582 qs61 q167 q1583) (hd_X1_layTruth) ⟨Nat.le_of_ble_eq_true rfl, Nat.le_of_ble_eq_true rfl⟩ (List.mem_singleton.mp hka15) rfl rfl rfl (Nat.le_of_ble_eq_true rfl) dX1_proved_41) rfl (fun u13 σ14 => ?_)
        refine r_bipush (q := 46) (v := (-2 : Int32)) dX1_proved_44 rfl (by decide) ?_
        refine r_istore (q := 48) dX1_proved_46 rfl (Nat.le_of_ble_eq_true rfl) rfl ?_
        refine r_iconst (q := 49) (v := (0 : Int32)) dX1_proved_48 rfl (by decide) ?_
        refine r_istore (q := 51) dX1_proved_49 rfl (Nat.le_of_ble_eq_true rfl) rfl ?_
        exact r_le (w_X1_proved_b51 G h0 N N _ _ _ _ _ _ _) (Nat.le_refl _) (And.intro rfl (And.intro rfl (And.intro rfl (And.intro rfl (And.intro rfl (And.intro rfl trivial))))))
