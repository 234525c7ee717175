/-! the walks of X7_ateOf X7_ate X5_drops X1_drops X7_dropped X7_drops X5_flees X1_flees X7_flees X5_left X1_left X7_left X1_met X7_met X18_isTrue X19_isTrue X20_isTrue X1_isTrue X7_holdsNow X7_isTrue X8_clueGoats X5_trueGoats X1_layTruth X1_layFits X1_layHeard X1_fits X7_laysHonest X7_allGoats X7_heard X7_areTrue -/
set_option maxRecDepth 100000
def dkwX7_ateOf_3 : List UInt8 := [167, 255, 191, 29, 172]
abbrev dktX7_ateOf_3 : List UInt8 := dkwX7_ateOf_3 ++ []
def dkwX7_ateOf_2 : List UInt8 := [160, 0, 18, 42, 180, 0, 36, 16, 12, 27, 104, 21, 4, 96, 46, 167, 0, 4, 3, 96, 62, 132, 4, 1]
abbrev dktX7_ateOf_2 : List UInt8 := dkwX7_ateOf_2 ++ dktX7_ateOf_3
def dkwX7_ateOf_1 : List UInt8 := [27, 104, 21, 4, 96, 46, 158, 0, 34, 42, 180, 0, 33, 16, 12, 27, 104, 21, 4, 96, 46, 28]
abbrev dktX7_ateOf_1 : List UInt8 := dkwX7_ateOf_1 ++ dktX7_ateOf_2
def dkwX7_ateOf_0 : List UInt8 := [3, 62, 3, 54, 4, 21, 4, 42, 180, 1, 186, 180, 0, 196, 162, 0, 59, 29, 42, 180, 0, 36, 16, 12]
abbrev dktX7_ateOf_0 : List UInt8 := dkwX7_ateOf_0 ++ dktX7_ateOf_1
theorem dksX7_ateOf_0 : cX7_ateOf.data.toList.drop 0 = dktX7_ateOf_0 := by decide +kernel
theorem dksX7_ateOf_1 : cX7_ateOf.data.toList.drop 24 = dktX7_ateOf_1 := dk_seg dksX7_ateOf_0 24 rfl rfl
theorem dksX7_ateOf_2 : cX7_ateOf.data.toList.drop 46 = dktX7_ateOf_2 := dk_seg dksX7_ateOf_1 22 rfl rfl
theorem dksX7_ateOf_3 : cX7_ateOf.data.toList.drop 70 = dktX7_ateOf_3 := dk_seg dksX7_ateOf_2 24 rfl rfl
theorem dX7_ateOf_0 : decode cX7_ateOf 0 = .ok (.iconst 0, 1) := dk_3 (dk_at dksX7_ateOf_0 0 rfl rfl)
theorem dX7_ateOf_1 : decode cX7_ateOf 1 = .ok (.istore_n 3, 1) := dk_62 (dk_at dksX7_ateOf_0 1 rfl rfl)
theorem dX7_ateOf_2 : decode cX7_ateOf 2 = .ok (.iconst 0, 1) := dk_3 (dk_at dksX7_ateOf_0 2 rfl rfl)
theorem dX7_ateOf_3 : decode cX7_ateOf 3 = .ok (.istore 4, 2) := dk_54 4 (dk_at dksX7_ateOf_0 3 rfl rfl)
theorem dX7_ateOf_5 : decode cX7_ateOf 5 = .ok (.iload 4, 2) := dk_21 4 (dk_at dksX7_ateOf_0 5 rfl rfl)
theorem dX7_ateOf_7 : decode cX7_ateOf 7 = .ok (.aload_n 0, 1) := dk_42 (dk_at dksX7_ateOf_0 7 rfl rfl)
theorem dX7_ateOf_8 : decode cX7_ateOf 8 = .ok (.getfield 442, 3) := dk_180 1 186 (dk_at dksX7_ateOf_0 8 rfl rfl)
theorem dX7_ateOf_11 : decode cX7_ateOf 11 = .ok (.getfield 196, 3) := dk_180 0 196 (dk_at dksX7_ateOf_0 11 rfl rfl)
theorem dX7_ateOf_14 : decode cX7_ateOf 14 = .ok (.if_icmp .ge 59, 3) := dk_162 0 59 (dk_at dksX7_ateOf_0 14 rfl rfl)
theorem dX7_ateOf_17 : decode cX7_ateOf 17 = .ok (.iload_n 3, 1) := dk_29 (dk_at dksX7_ateOf_0 17 rfl rfl)
theorem dX7_ateOf_18 : decode cX7_ateOf 18 = .ok (.aload_n 0, 1) := dk_42 (dk_at dksX7_ateOf_0 18 rfl rfl)
theorem dX7_ateOf_19 : decode cX7_ateOf 19 = .ok (.getfield 36, 3) := dk_180 0 36 (dk_at dksX7_ateOf_0 19 rfl rfl)
theorem dX7_ateOf_22 : decode cX7_ateOf 22 = .ok (.bipush 12, 2) := dk_16 12 (dk_at dksX7_ateOf_0 22 rfl rfl)
theorem dX7_ateOf_24 : decode cX7_ateOf 24 = .ok (.iload_n 1, 1) := dk_27 (dk_at dksX7_ateOf_1 0 rfl rfl)
theorem dX7_ateOf_25 : decode cX7_ateOf 25 = .ok (.imul, 1) := dk_104 (dk_at dksX7_ateOf_1 1 rfl rfl)
theorem dX7_ateOf_26 : decode cX7_ateOf 26 = .ok (.iload 4, 2) := dk_21 4 (dk_at dksX7_ateOf_1 2 rfl rfl)
theorem dX7_ateOf_28 : decode cX7_ateOf 28 = .ok (.iadd, 1) := dk_96 (dk_at dksX7_ateOf_1 4 rfl rfl)
theorem dX7_ateOf_29 : decode cX7_ateOf 29 = .ok (.iaload, 1) := dk_46 (dk_at dksX7_ateOf_1 5 rfl rfl)
theorem dX7_ateOf_30 : decode cX7_ateOf 30 = .ok (.ifCond .le 34, 3) := dk_158 0 34 (dk_at dksX7_ateOf_1 6 rfl rfl)
theorem dX7_ateOf_33 : decode cX7_ateOf 33 = .ok (.aload_n 0, 1) := dk_42 (dk_at dksX7_ateOf_1 9 rfl rfl)
theorem dX7_ateOf_34 : decode cX7_ateOf 34 = .ok (.getfield 33, 3) := dk_180 0 33 (dk_at dksX7_ateOf_1 10 rfl rfl)
theorem dX7_ateOf_37 : decode cX7_ateOf 37 = .ok (.bipush 12, 2) := dk_16 12 (dk_at dksX7_ateOf_1 13 rfl rfl)
theorem dX7_ateOf_39 : decode cX7_ateOf 39 = .ok (.iload_n 1, 1) := dk_27 (dk_at dksX7_ateOf_1 15 rfl rfl)
theorem dX7_ateOf_40 : decode cX7_ateOf 40 = .ok (.imul, 1) := dk_104 (dk_at dksX7_ateOf_1 16 rfl rfl)
theorem dX7_ateOf_41 : decode cX7_ateOf 41 = .ok (.iload 4, 2) := dk_21 4 (dk_at dksX7_ateOf_1 17 rfl rfl)
theorem dX7_ateOf_43 : decode cX7_ateOf 43 = .ok (.iadd, 1) := dk_96 (dk_at dksX7_ateOf_1 19 rfl rfl)
theorem dX7_ateOf_44 : decode cX7_ateOf 44 = .ok (.iaload, 1) := dk_46 (dk_at dksX7_ateOf_1 20 rfl rfl)
theorem dX7_ateOf_45 : decode cX7_ateOf 45 = .ok (.iload_n 2, 1) := dk_28 (dk_at dksX7_ateOf_1 21 rfl rfl)
theorem dX7_ateOf_46 : decode cX7_ateOf 46 = .ok (.if_icmp .ne 18, 3) := dk_160 0 18 (dk_at dksX7_ateOf_2 0 rfl rfl)
theorem dX7_ateOf_49 : decode cX7_ateOf 49 = .ok (.aload_n 0, 1) := dk_42 (dk_at dksX7_ateOf_2 3 rfl rfl)
theorem dX7_ateOf_50 : decode cX7_ateOf 50 = .ok (.getfield 36, 3) := dk_180 0 36 (dk_at dksX7_ateOf_2 4 rfl rfl)
theorem dX7_ateOf_53 : decode cX7_ateOf 53 = .ok (.bipush 12, 2) := dk_16 12 (dk_at dksX7_ateOf_2 7 rfl rfl)
theorem dX7_ateOf_55 : decode cX7_ateOf 55 = .ok (.iload_n 1, 1) := dk_27 (dk_at dksX7_ateOf_2 9 rfl rfl)
theorem dX7_ateOf_56 : decode cX7_ateOf 56 = .ok (.imul, 1) := dk_104 (dk_at dksX7_ateOf_2 10 rfl rfl)
theorem dX7_ateOf_57 : decode cX7_ateOf 57 = .ok (.iload 4, 2) := dk_21 4 (dk_at dksX7_ateOf_2 11 rfl rfl)
theorem dX7_ateOf_59 : decode cX7_ateOf 59 = .ok (.iadd, 1) := dk_96 (dk_at dksX7_ateOf_2 13 rfl rfl)
theorem dX7_ateOf_60 : decode cX7_ateOf 60 = .ok (.iaload, 1) := dk_46 (dk_at dksX7_ateOf_2 14 rfl rfl)
theorem dX7_ateOf_61 : decode cX7_ateOf 61 = .ok (.goto 4, 3) := dk_167 0 4 (dk_at dksX7_ateOf_2 15 rfl rfl)
theorem dX7_ateOf_64 : decode cX7_ateOf 64 = .ok (.iconst 0, 1) := dk_3 (dk_at dksX7_ateOf_2 18 rfl rfl)
theorem dX7_ateOf_65 : decode cX7_ateOf 65 = .ok (.iadd, 1) := dk_96 (dk_at dksX7_ateOf_2 19 rfl rfl)
theorem dX7_ateOf_66 : decode cX7_ateOf 66 = .ok (.istore_n 3, 1) := dk_62 (dk_at dksX7_ateOf_2 20 rfl rfl)
theorem dX7_ateOf_67 : decode cX7_ateOf 67 = .ok (.iinc 4 1, 3) := dk_132 4 1 (dk_at dksX7_ateOf_2 21 rfl rfl)
theorem dX7_ateOf_70 : decode cX7_ateOf 70 = .ok (.goto (-65), 3) := dk_167 255 191 (dk_at dksX7_ateOf_3 0 rfl rfl)
theorem dX7_ateOf_73 : decode cX7_ateOf 73 = .ok (.iload_n 3, 1) := dk_29 (dk_at dksX7_ateOf_3 3 rfl rfl)
theorem dX7_ateOf_74 : decode cX7_ateOf 74 = .ok (.ireturn, 1) := dk_172 (dk_at dksX7_ateOf_3 4 rfl rfl)
def dkwX7_ate_2 : List UInt8 := [182, 0, 76, 172]
abbrev dktX7_ate_2 : List UInt8 := dkwX7_ate_2 ++ []
def dkwX7_ate_1 : List UInt8 := [182, 1, 238, 154, 0, 9, 42, 4, 182, 0, 72, 172, 42, 27, 182, 1, 226, 42, 42, 28, 29, 182, 2, 8]
abbrev dktX7_ate_1 : List UInt8 := dkwX7_ate_1 ++ dktX7_ate_2
def dkwX7_ate_0 : List UInt8 := [42, 3, 181, 0, 66, 42, 27, 182, 2, 2, 153, 0, 19, 42, 28, 182, 1, 241, 153, 0, 11, 42, 29]
abbrev dktX7_ate_0 : List UInt8 := dkwX7_ate_0 ++ dktX7_ate_1
theorem dksX7_ate_0 : cX7_ate.data.toList.drop 0 = dktX7_ate_0 := by decide +kernel
theorem dksX7_ate_1 : cX7_ate.data.toList.drop 23 = dktX7_ate_1 := dk_seg dksX7_ate_0 23 rfl rfl
theorem dksX7_ate_2 : cX7_ate.data.toList.drop 47 = dktX7_ate_2 := dk_seg dksX7_ate_1 24 rfl rfl
theorem dX7_ate_0 : decode cX7_ate 0 = .ok (.aload_n 0, 1) := dk_42 (dk_at dksX7_ate_0 0 rfl rfl)
theorem dX7_ate_1 : decode cX7_ate 1 = .ok (.iconst 0, 1) := dk_3 (dk_at dksX7_ate_0 1 rfl rfl)
theorem dX7_ate_2 : decode cX7_ate 2 = .ok (.putfield 66, 3) := dk_181 0 66 (dk_at dksX7_ate_0 2 rfl rfl)
theorem dX7_ate_5 : decode cX7_ate 5 = .ok (.aload_n 0, 1) := dk_42 (dk_at dksX7_ate_0 5 rfl rfl)
theorem dX7_ate_6 : decode cX7_ate 6 = .ok (.iload_n 1, 1) := dk_27 (dk_at dksX7_ate_0 6 rfl rfl)
theorem dX7_ate_7 : decode cX7_ate 7 = .ok (.invokevirtual 514, 3) := dk_182 2 2 (dk_at dksX7_ate_0 7 rfl rfl)
theorem dX7_ate_10 : decode cX7_ate 10 = .ok (.ifCond .eq 19, 3) := dk_153 0 19 (dk_at dksX7_ate_0 10 rfl rfl)
theorem dX7_ate_13 : decode cX7_ate 13 = .ok (.aload_n 0, 1) := dk_42 (dk_at dksX7_ate_0 13 rfl rfl)
theorem dX7_ate_14 : decode cX7_ate 14 = .ok (.iload_n 2, 1) := dk_28 (dk_at dksX7_ate_0 14 rfl rfl)
theorem dX7_ate_15 : decode cX7_ate 15 = .ok (.invokevirtual 497, 3) := dk_182 1 241 (dk_at dksX7_ate_0 15 rfl rfl)
theorem dX7_ate_18 : decode cX7_ate 18 = .ok (.ifCond .eq 11, 3) := dk_153 0 11 (dk_at dksX7_ate_0 18 rfl rfl)
theorem dX7_ate_21 : decode cX7_ate 21 = .ok (.aload_n 0, 1) := dk_42 (dk_at dksX7_ate_0 21 rfl rfl)
theorem dX7_ate_22 : decode cX7_ate 22 = .ok (.iload_n 3, 1) := dk_29 (dk_at dksX7_ate_0 22 rfl rfl)
theorem dX7_ate_23 : decode cX7_ate 23 = .ok (.invokevirtual 494, 3) := dk_182 1 238 (dk_at dksX7_ate_1 0 rfl rfl)
theorem dX7_ate_26 : decode cX7_ate 26 = .ok (.ifCond .ne 9, 3) := dk_154 0 9 (dk_at dksX7_ate_1 3 rfl rfl)
theorem dX7_ate_29 : decode cX7_ate 29 = .ok (.aload_n 0, 1) := dk_42 (dk_at dksX7_ate_1 6 rfl rfl)
theorem dX7_ate_30 : decode cX7_ate 30 = .ok (.iconst 1, 1) := dk_4 (dk_at dksX7_ate_1 7 rfl rfl)
theorem dX7_ate_31 : decode cX7_ate 31 = .ok (.invokevirtual 72, 3) := dk_182 0 72 (dk_at dksX7_ate_1 8 rfl rfl)
theorem dX7_ate_34 : decode cX7_ate 34 = .ok (.ireturn, 1) := dk_172 (dk_at dksX7_ate_1 11 rfl rfl)
theorem dX7_ate_35 : decode cX7_ate 35 = .ok (.aload_n 0, 1) := dk_42 (dk_at dksX7_ate_1 12 rfl rfl)
theorem dX7_ate_36 : decode cX7_ate 36 = .ok (.iload_n 1, 1) := dk_27 (dk_at dksX7_ate_1 13 rfl rfl)
theorem dX7_ate_37 : decode cX7_ate 37 = .ok (.invokevirtual 482, 3) := dk_182 1 226 (dk_at dksX7_ate_1 14 rfl rfl)
theorem dX7_ate_40 : decode cX7_ate 40 = .ok (.aload_n 0, 1) := dk_42 (dk_at dksX7_ate_1 17 rfl rfl)
theorem dX7_ate_41 : decode cX7_ate 41 = .ok (.aload_n 0, 1) := dk_42 (dk_at dksX7_ate_1 18 rfl rfl)
theorem dX7_ate_42 : decode cX7_ate 42 = .ok (.iload_n 2, 1) := dk_28 (dk_at dksX7_ate_1 19 rfl rfl)
theorem dX7_ate_43 : decode cX7_ate 43 = .ok (.iload_n 3, 1) := dk_29 (dk_at dksX7_ate_1 20 rfl rfl)
theorem dX7_ate_44 : decode cX7_ate 44 = .ok (.invokevirtual 520, 3) := dk_182 2 8 (dk_at dksX7_ate_1 21 rfl rfl)
theorem dX7_ate_47 : decode cX7_ate 47 = .ok (.invokevirtual 76, 3) := dk_182 0 76 (dk_at dksX7_ate_2 0 rfl rfl)
theorem dX7_ate_50 : decode cX7_ate 50 = .ok (.ireturn, 1) := dk_172 (dk_at dksX7_ate_2 3 rfl rfl)
def dkwX5_drops_3 : List UInt8 := [132, 5, 1, 167, 255, 189, 21, 4, 172]
abbrev dktX5_drops_3 : List UInt8 := dkwX5_drops_3 ++ []
def dkwX5_drops_2 : List UInt8 := [29, 160, 0, 18, 42, 180, 0, 24, 16, 12, 27, 104, 21, 5, 96, 46, 167, 0, 4, 3, 96, 54, 4]
abbrev dktX5_drops_2 : List UInt8 := dkwX5_drops_2 ++ dktX5_drops_3
def dkwX5_drops_1 : List UInt8 := [180, 0, 21, 16, 12, 27, 104, 21, 5, 96, 46, 28, 160, 0, 31, 42, 27, 21, 5, 5, 96, 182, 0, 167]
abbrev dktX5_drops_1 : List UInt8 := dkwX5_drops_1 ++ dktX5_drops_2
def dkwX5_drops_0 : List UInt8 := [3, 54, 4, 3, 54, 5, 21, 5, 5, 96, 42, 180, 0, 33, 180, 0, 77, 162, 0, 59, 21, 4, 42]
abbrev dktX5_drops_0 : List UInt8 := dkwX5_drops_0 ++ dktX5_drops_1
theorem dksX5_drops_0 : cX5_drops.data.toList.drop 0 = dktX5_drops_0 := by decide +kernel
theorem dksX5_drops_1 : cX5_drops.data.toList.drop 23 = dktX5_drops_1 := dk_seg dksX5_drops_0 23 rfl rfl
theorem dksX5_drops_2 : cX5_drops.data.toList.drop 47 = dktX5_drops_2 := dk_seg dksX5_drops_1 24 rfl rfl
theorem dksX5_drops_3 : cX5_drops.data.toList.drop 70 = dktX5_drops_3 := dk_seg dksX5_drops_2 23 rfl rfl
theorem dX5_drops_0 : decode cX5_drops 0 = .ok (.iconst 0, 1) := dk_3 (dk_at dksX5_drops_0 0 rfl rfl)
theorem dX5_drops_1 : decode cX5_drops 1 = .ok (.istore 4, 2) := dk_54 4 (dk_at dksX5_drops_0 1 rfl rfl)
theorem dX5_drops_3 : decode cX5_drops 3 = .ok (.iconst 0, 1) := dk_3 (dk_at dksX5_drops_0 3 rfl rfl)
theorem dX5_drops_4 : decode cX5_drops 4 = .ok (.istore 5, 2) := dk_54 5 (dk_at dksX5_drops_0 4 rfl rfl)
theorem dX5_drops_6 : decode cX5_drops 6 = .ok (.iload 5, 2) := dk_21 5 (dk_at dksX5_drops_0 6 rfl rfl)
theorem dX5_drops_8 : decode cX5_drops 8 = .ok (.iconst 2, 1) := dk_5 (dk_at dksX5_drops_0 8 rfl rfl)
theorem dX5_drops_9 : decode cX5_drops 9 = .ok (.iadd, 1) := dk_96 (dk_at dksX5_drops_0 9 rfl rfl)
theorem dX5_drops_10 : decode cX5_drops 10 = .ok (.aload_n 0, 1) := dk_42 (dk_at dksX5_drops_0 10 rfl rfl)
theorem dX5_drops_11 : decode cX5_drops 11 = .ok (.getfield 33, 3) := dk_180 0 33 (dk_at dksX5_drops_0 11 rfl rfl)
theorem dX5_drops_14 : decode cX5_drops 14 = .ok (.getfield 77, 3) := dk_180 0 77 (dk_at dksX5_drops_0 14 rfl rfl)
theorem dX5_drops_17 : decode cX5_drops 17 = .ok (.if_icmp .ge 59, 3) := dk_162 0 59 (dk_at dksX5_drops_0 17 rfl rfl)
theorem dX5_drops_20 : decode cX5_drops 20 = .ok (.iload 4, 2) := dk_21 4 (dk_at dksX5_drops_0 20 rfl rfl)
theorem dX5_drops_22 : decode cX5_drops 22 = .ok (.aload_n 0, 1) := dk_42 (dk_at dksX5_drops_0 22 rfl rfl)
theorem dX5_drops_23 : decode cX5_drops 23 = .ok (.getfield 21, 3) := dk_180 0 21 (dk_at dksX5_drops_1 0 rfl rfl)
theorem dX5_drops_26 : decode cX5_drops 26 = .ok (.bipush 12, 2) := dk_16 12 (dk_at dksX5_drops_1 3 rfl rfl)
theorem dX5_drops_28 : decode cX5_drops 28 = .ok (.iload_n 1, 1) := dk_27 (dk_at dksX5_drops_1 5 rfl rfl)
theorem dX5_drops_29 : decode cX5_drops 29 = .ok (.imul, 1) := dk_104 (dk_at dksX5_drops_1 6 rfl rfl)
theorem dX5_drops_30 : decode cX5_drops 30 = .ok (.iload 5, 2) := dk_21 5 (dk_at dksX5_drops_1 7 rfl rfl)
theorem dX5_drops_32 : decode cX5_drops 32 = .ok (.iadd, 1) := dk_96 (dk_at dksX5_drops_1 9 rfl rfl)
theorem dX5_drops_33 : decode cX5_drops 33 = .ok (.iaload, 1) := dk_46 (dk_at dksX5_drops_1 10 rfl rfl)
theorem dX5_drops_34 : decode cX5_drops 34 = .ok (.iload_n 2, 1) := dk_28 (dk_at dksX5_drops_1 11 rfl rfl)
theorem dX5_drops_35 : decode cX5_drops 35 = .ok (.if_icmp .ne 31, 3) := dk_160 0 31 (dk_at dksX5_drops_1 12 rfl rfl)
theorem dX5_drops_38 : decode cX5_drops 38 = .ok (.aload_n 0, 1) := dk_42 (dk_at dksX5_drops_1 15 rfl rfl)
theorem dX5_drops_39 : decode cX5_drops 39 = .ok (.iload_n 1, 1) := dk_27 (dk_at dksX5_drops_1 16 rfl rfl)
theorem dX5_drops_40 : decode cX5_drops 40 = .ok (.iload 5, 2) := dk_21 5 (dk_at dksX5_drops_1 17 rfl rfl)
theorem dX5_drops_42 : decode cX5_drops 42 = .ok (.iconst 2, 1) := dk_5 (dk_at dksX5_drops_1 19 rfl rfl)
theorem dX5_drops_43 : decode cX5_drops 43 = .ok (.iadd, 1) := dk_96 (dk_at dksX5_drops_1 20 rfl rfl)
theorem dX5_drops_44 : decode cX5_drops 44 = .ok (.invokevirtual 167, 3) := dk_182 0 167 (dk_at dksX5_drops_1 21 rfl rfl)
theorem dX5_drops_47 : decode cX5_drops 47 = .ok (.iload_n 3, 1) := dk_29 (dk_at dksX5_drops_2 0 rfl rfl)
theorem dX5_drops_48 : decode cX5_drops 48 = .ok (.if_icmp .ne 18, 3) := dk_160 0 18 (dk_at dksX5_drops_2 1 rfl rfl)
theorem dX5_drops_51 : decode cX5_drops 51 = .ok (.aload_n 0, 1) := dk_42 (dk_at dksX5_drops_2 4 rfl rfl)
theorem dX5_drops_52 : decode cX5_drops 52 = .ok (.getfield 24, 3) := dk_180 0 24 (dk_at dksX5_drops_2 5 rfl rfl)
theorem dX5_drops_55 : decode cX5_drops 55 = .ok (.bipush 12, 2) := dk_16 12 (dk_at dksX5_drops_2 8 rfl rfl)
theorem dX5_drops_57 : decode cX5_drops 57 = .ok (.iload_n 1, 1) := dk_27 (dk_at dksX5_drops_2 10 rfl rfl)
theorem dX5_drops_58 : decode cX5_drops 58 = .ok (.imul, 1) := dk_104 (dk_at dksX5_drops_2 11 rfl rfl)
theorem dX5_drops_59 : decode cX5_drops 59 = .ok (.iload 5, 2) := dk_21 5 (dk_at dksX5_drops_2 12 rfl rfl)
theorem dX5_drops_61 : decode cX5_drops 61 = .ok (.iadd, 1) := dk_96 (dk_at dksX5_drops_2 14 rfl rfl)
theorem dX5_drops_62 : decode cX5_drops 62 = .ok (.iaload, 1) := dk_46 (dk_at dksX5_drops_2 15 rfl rfl)
theorem dX5_drops_63 : decode cX5_drops 63 = .ok (.goto 4, 3) := dk_167 0 4 (dk_at dksX5_drops_2 16 rfl rfl)
theorem dX5_drops_66 : decode cX5_drops 66 = .ok (.iconst 0, 1) := dk_3 (dk_at dksX5_drops_2 19 rfl rfl)
theorem dX5_drops_67 : decode cX5_drops 67 = .ok (.iadd, 1) := dk_96 (dk_at dksX5_drops_2 20 rfl rfl)
theorem dX5_drops_68 : decode cX5_drops 68 = .ok (.istore 4, 2) := dk_54 4 (dk_at dksX5_drops_2 21 rfl rfl)
theorem dX5_drops_70 : decode cX5_drops 70 = .ok (.iinc 5 1, 3) := dk_132 5 1 (dk_at dksX5_drops_3 0 rfl rfl)
theorem dX5_drops_73 : decode cX5_drops 73 = .ok (.goto (-67), 3) := dk_167 255 189 (dk_at dksX5_drops_3 3 rfl rfl)
theorem dX5_drops_76 : decode cX5_drops 76 = .ok (.iload 4, 2) := dk_21 4 (dk_at dksX5_drops_3 6 rfl rfl)
theorem dX5_drops_78 : decode cX5_drops 78 = .ok (.ireturn, 1) := dk_172 (dk_at dksX5_drops_3 8 rfl rfl)
def dkwX1_drops_2 : List UInt8 := [182, 1, 5, 42, 180, 0, 46, 28, 29, 21, 4, 182, 1, 11, 172]
abbrev dktX1_drops_2 : List UInt8 := dkwX1_drops_2 ++ []
def dkwX1_drops_1 : List UInt8 := [182, 0, 155, 153, 0, 12, 42, 21, 4, 182, 0, 151, 154, 0, 9, 42, 4, 182, 0, 94, 172, 42, 27]
abbrev dktX1_drops_1 : List UInt8 := dkwX1_drops_1 ++ dktX1_drops_2
def dkwX1_drops_0 : List UInt8 := [42, 182, 0, 80, 42, 27, 182, 0, 255, 153, 0, 28, 42, 28, 182, 0, 169, 153, 0, 20, 42, 29]
abbrev dktX1_drops_0 : List UInt8 := dkwX1_drops_0 ++ dktX1_drops_1
theorem dksX1_drops_0 : cX1_drops.data.toList.drop 0 = dktX1_drops_0 := by decide +kernel
theorem dksX1_drops_1 : cX1_drops.data.toList.drop 22 = dktX1_drops_1 := dk_seg dksX1_drops_0 22 rfl rfl
theorem dksX1_drops_2 : cX1_drops.data.toList.drop 45 = dktX1_drops_2 := dk_seg dksX1_drops_1 23 rfl rfl
theorem dX1_drops_0 : decode cX1_drops 0 = .ok (.aload_n 0, 1) := dk_42 (dk_at dksX1_drops_0 0 rfl rfl)
theorem dX1_drops_1 : decode cX1_drops 1 = .ok (.invokevirtual 80, 3) := dk_182 0 80 (dk_at dksX1_drops_0 1 rfl rfl)
theorem dX1_drops_4 : decode cX1_drops 4 = .ok (.aload_n 0, 1) := dk_42 (dk_at dksX1_drops_0 4 rfl rfl)
theorem dX1_drops_5 : decode cX1_drops 5 = .ok (.iload_n 1, 1) := dk_27 (dk_at dksX1_drops_0 5 rfl rfl)
theorem dX1_drops_6 : decode cX1_drops 6 = .ok (.invokevirtual 255, 3) := dk_182 0 255 (dk_at dksX1_drops_0 6 rfl rfl)
theorem dX1_drops_9 : decode cX1_drops 9 = .ok (.ifCond .eq 28, 3) := dk_153 0 28 (dk_at dksX1_drops_0 9 rfl rfl)
theorem dX1_drops_12 : decode cX1_drops 12 = .ok (.aload_n 0, 1) := dk_42 (dk_at dksX1_drops_0 12 rfl rfl)
theorem dX1_drops_13 : decode cX1_drops 13 = .ok (.iload_n 2, 1) := dk_28 (dk_at dksX1_drops_0 13 rfl rfl)
theorem dX1_drops_14 : decode cX1_drops 14 = .ok (.invokevirtual 169, 3) := dk_182 0 169 (dk_at dksX1_drops_0 14 rfl rfl)
theorem dX1_drops_17 : decode cX1_drops 17 = .ok (.ifCond .eq 20, 3) := dk_153 0 20 (dk_at dksX1_drops_0 17 rfl rfl)
theorem dX1_drops_20 : decode cX1_drops 20 = .ok (.aload_n 0, 1) := dk_42 (dk_at dksX1_drops_0 20 rfl rfl)
theorem dX1_drops_21 : decode cX1_drops 21 = .ok (.iload_n 3, 1) := dk_29 (dk_at dksX1_drops_0 21 rfl rfl)
theorem dX1_drops_22 : decode cX1_drops 22 = .ok (.invokevirtual 155, 3) := dk_182 0 155 (dk_at dksX1_drops_1 0 rfl rfl)
theorem dX1_drops_25 : decode cX1_drops 25 = .ok (.ifCond .eq 12, 3) := dk_153 0 12 (dk_at dksX1_drops_1 3 rfl rfl)
theorem dX1_drops_28 : decode cX1_drops 28 = .ok (.aload_n 0, 1) := dk_42 (dk_at dksX1_drops_1 6 rfl rfl)
theorem dX1_drops_29 : decode cX1_drops 29 = .ok (.iload 4, 2) := dk_21 4 (dk_at dksX1_drops_1 7 rfl rfl)
theorem dX1_drops_31 : decode cX1_drops 31 = .ok (.invokevirtual 151, 3) := dk_182 0 151 (dk_at dksX1_drops_1 9 rfl rfl)
theorem dX1_drops_34 : decode cX1_drops 34 = .ok (.ifCond .ne 9, 3) := dk_154 0 9 (dk_at dksX1_drops_1 12 rfl rfl)
theorem dX1_drops_37 : decode cX1_drops 37 = .ok (.aload_n 0, 1) := dk_42 (dk_at dksX1_drops_1 15 rfl rfl)
theorem dX1_drops_38 : decode cX1_drops 38 = .ok (.iconst 1, 1) := dk_4 (dk_at dksX1_drops_1 16 rfl rfl)
theorem dX1_drops_39 : decode cX1_drops 39 = .ok (.invokevirtual 94, 3) := dk_182 0 94 (dk_at dksX1_drops_1 17 rfl rfl)
theorem dX1_drops_42 : decode cX1_drops 42 = .ok (.ireturn, 1) := dk_172 (dk_at dksX1_drops_1 20 rfl rfl)
theorem dX1_drops_43 : decode cX1_drops 43 = .ok (.aload_n 0, 1) := dk_42 (dk_at dksX1_drops_1 21 rfl rfl)
theorem dX1_drops_44 : decode cX1_drops 44 = .ok (.iload_n 1, 1) := dk_27 (dk_at dksX1_drops_1 22 rfl rfl)
theorem dX1_drops_45 : decode cX1_drops 45 = .ok (.invokevirtual 261, 3) := dk_182 1 5 (dk_at dksX1_drops_2 0 rfl rfl)
theorem dX1_drops_48 : decode cX1_drops 48 = .ok (.aload_n 0, 1) := dk_42 (dk_at dksX1_drops_2 3 rfl rfl)
theorem dX1_drops_49 : decode cX1_drops 49 = .ok (.getfield 46, 3) := dk_180 0 46 (dk_at dksX1_drops_2 4 rfl rfl)
theorem dX1_drops_52 : decode cX1_drops 52 = .ok (.iload_n 2, 1) := dk_28 (dk_at dksX1_drops_2 7 rfl rfl)
theorem dX1_drops_53 : decode cX1_drops 53 = .ok (.iload_n 3, 1) := dk_29 (dk_at dksX1_drops_2 8 rfl rfl)
theorem dX1_drops_54 : decode cX1_drops 54 = .ok (.iload 4, 2) := dk_21 4 (dk_at dksX1_drops_2 9 rfl rfl)
theorem dX1_drops_56 : decode cX1_drops 56 = .ok (.invokevirtual 267, 3) := dk_182 1 11 (dk_at dksX1_drops_2 11 rfl rfl)
theorem dX1_drops_59 : decode cX1_drops 59 = .ok (.ireturn, 1) := dk_172 (dk_at dksX1_drops_2 14 rfl rfl)
def dkwX7_dropped_4 : List UInt8 := [167, 255, 169, 21, 4, 172]
abbrev dktX7_dropped_4 : List UInt8 := dkwX7_dropped_4 ++ []
def dkwX7_dropped_3 : List UInt8 := [42, 180, 0, 36, 16, 12, 27, 104, 21, 5, 96, 46, 167, 0, 4, 3, 96, 54, 4, 132, 5, 1]
abbrev dktX7_dropped_3 : List UInt8 := dkwX7_dropped_3 ++ dktX7_dropped_4
def dkwX7_dropped_2 : List UInt8 := [96, 46, 28, 160, 0, 36, 42, 180, 0, 30, 16, 12, 27, 104, 21, 5, 96, 5, 96, 46, 29, 160, 0, 18]
abbrev dktX7_dropped_2 : List UInt8 := dkwX7_dropped_2 ++ dktX7_dropped_3
def dkwX7_dropped_1 : List UInt8 := [180, 0, 36, 16, 12, 27, 104, 21, 5, 96, 46, 158, 0, 52, 42, 180, 0, 33, 16, 12, 27, 104, 21, 5]
abbrev dktX7_dropped_1 : List UInt8 := dkwX7_dropped_1 ++ dktX7_dropped_2
def dkwX7_dropped_0 : List UInt8 := [3, 54, 4, 3, 54, 5, 21, 5, 5, 96, 42, 180, 1, 186, 180, 0, 196, 162, 0, 79, 21, 4, 42]
abbrev dktX7_dropped_0 : List UInt8 := dkwX7_dropped_0 ++ dktX7_dropped_1
theorem dksX7_dropped_0 : cX7_dropped.data.toList.drop 0 = dktX7_dropped_0 := by decide +kernel
theorem dksX7_dropped_1 : cX7_dropped.data.toList.drop 23 = dktX7_dropped_1 := dk_seg dksX7_dropped_0 23 rfl rfl
theorem dksX7_dropped_2 : cX7_dropped.data.toList.drop 47 = dktX7_dropped_2 := dk_seg dksX7_dropped_1 24 rfl rfl
theorem dksX7_dropped_3 : cX7_dropped.data.toList.drop 71 = dktX7_dropped_3 := dk_seg dksX7_dropped_2 24 rfl rfl
theorem dksX7_dropped_4 : cX7_dropped.data.toList.drop 93 = dktX7_dropped_4 := dk_seg dksX7_dropped_3 22 rfl rfl
theorem dX7_dropped_0 : decode cX7_dropped 0 = .ok (.iconst 0, 1) := dk_3 (dk_at dksX7_dropped_0 0 rfl rfl)
theorem dX7_dropped_1 : decode cX7_dropped 1 = .ok (.istore 4, 2) := dk_54 4 (dk_at dksX7_dropped_0 1 rfl rfl)
theorem dX7_dropped_3 : decode cX7_dropped 3 = .ok (.iconst 0, 1) := dk_3 (dk_at dksX7_dropped_0 3 rfl rfl)
theorem dX7_dropped_4 : decode cX7_dropped 4 = .ok (.istore 5, 2) := dk_54 5 (dk_at dksX7_dropped_0 4 rfl rfl)
theorem dX7_dropped_6 : decode cX7_dropped 6 = .ok (.iload 5, 2) := dk_21 5 (dk_at dksX7_dropped_0 6 rfl rfl)
theorem dX7_dropped_8 : decode cX7_dropped 8 = .ok (.iconst 2, 1) := dk_5 (dk_at dksX7_dropped_0 8 rfl rfl)
theorem dX7_dropped_9 : decode cX7_dropped 9 = .ok (.iadd, 1) := dk_96 (dk_at dksX7_dropped_0 9 rfl rfl)
theorem dX7_dropped_10 : decode cX7_dropped 10 = .ok (.aload_n 0, 1) := dk_42 (dk_at dksX7_dropped_0 10 rfl rfl)
theorem dX7_dropped_11 : decode cX7_dropped 11 = .ok (.getfield 442, 3) := dk_180 1 186 (dk_at dksX7_dropped_0 11 rfl rfl)
theorem dX7_dropped_14 : decode cX7_dropped 14 = .ok (.getfield 196, 3) := dk_180 0 196 (dk_at dksX7_dropped_0 14 rfl rfl)
theorem dX7_dropped_17 : decode cX7_dropped 17 = .ok (.if_icmp .ge 79, 3) := dk_162 0 79 (dk_at dksX7_dropped_0 17 rfl rfl)
theorem dX7_dropped_20 : decode cX7_dropped 20 = .ok (.iload 4, 2) := dk_21 4 (dk_at dksX7_dropped_0 20 rfl rfl)
theorem dX7_dropped_22 : decode cX7_dropped 22 = .ok (.aload_n 0, 1) := dk_42 (dk_at dksX7_dropped_0 22 rfl rfl)
theorem dX7_dropped_23 : decode cX7_dropped 23 = .ok (.getfield 36, 3) := dk_180 0 36 (dk_at dksX7_dropped_1 0 rfl rfl)
theorem dX7_dropped_26 : decode cX7_dropped 26 = .ok (.bipush 12, 2) := dk_16 12 (dk_at dksX7_dropped_1 3 rfl rfl)
theorem dX7_dropped_28 : decode cX7_dropped 28 = .ok (.iload_n 1, 1) := dk_27 (dk_at dksX7_dropped_1 5 rfl rfl)
theorem dX7_dropped_29 : decode cX7_dropped 29 = .ok (.imul, 1) := dk_104 (dk_at dksX7_dropped_1 6 rfl rfl)
theorem dX7_dropped_30 : decode cX7_dropped 30 = .ok (.iload 5, 2) := dk_21 5 (dk_at dksX7_dropped_1 7 rfl rfl)
theorem dX7_dropped_32 : decode cX7_dropped 32 = .ok (.iadd, 1) := dk_96 (dk_at dksX7_dropped_1 9 rfl rfl)
theorem dX7_dropped_33 : decode cX7_dropped 33 = .ok (.iaload, 1) := dk_46 (dk_at dksX7_dropped_1 10 rfl rfl)
theorem dX7_dropped_34 : decode cX7_dropped 34 = .ok (.ifCond .le 52, 3) := dk_158 0 52 (dk_at dksX7_dropped_1 11 rfl rfl)
theorem dX7_dropped_37 : decode cX7_dropped 37 = .ok (.aload_n 0, 1) := dk_42 (dk_at dksX7_dropped_1 14 rfl rfl)
theorem dX7_dropped_38 : decode cX7_dropped 38 = .ok (.getfield 33, 3) := dk_180 0 33 (dk_at dksX7_dropped_1 15 rfl rfl)
theorem dX7_dropped_41 : decode cX7_dropped 41 = .ok (.bipush 12, 2) := dk_16 12 (dk_at dksX7_dropped_1 18 rfl rfl)
theorem dX7_dropped_43 : decode cX7_dropped 43 = .ok (.iload_n 1, 1) := dk_27 (dk_at dksX7_dropped_1 20 rfl rfl)
theorem dX7_dropped_44 : decode cX7_dropped 44 = .ok (.imul, 1) := dk_104 (dk_at dksX7_dropped_1 21 rfl rfl)
theorem dX7_dropped_45 : decode cX7_dropped 45 = .ok (.iload 5, 2) := dk_21 5 (dk_at dksX7_dropped_1 22 rfl rfl)
theorem dX7_dropped_47 : decode cX7_dropped 47 = .ok (.iadd, 1) := dk_96 (dk_at dksX7_dropped_2 0 rfl rfl)
theorem dX7_dropped_48 : decode cX7_dropped 48 = .ok (.iaload, 1) := dk_46 (dk_at dksX7_dropped_2 1 rfl rfl)
theorem dX7_dropped_49 : decode cX7_dropped 49 = .ok (.iload_n 2, 1) := dk_28 (dk_at dksX7_dropped_2 2 rfl rfl)
theorem dX7_dropped_50 : decode cX7_dropped 50 = .ok (.if_icmp .ne 36, 3) := dk_160 0 36 (dk_at dksX7_dropped_2 3 rfl rfl)
theorem dX7_dropped_53 : decode cX7_dropped 53 = .ok (.aload_n 0, 1) := dk_42 (dk_at dksX7_dropped_2 6 rfl rfl)
theorem dX7_dropped_54 : decode cX7_dropped 54 = .ok (.getfield 30, 3) := dk_180 0 30 (dk_at dksX7_dropped_2 7 rfl rfl)
theorem dX7_dropped_57 : decode cX7_dropped 57 = .ok (.bipush 12, 2) := dk_16 12 (dk_at dksX7_dropped_2 10 rfl rfl)
theorem dX7_dropped_59 : decode cX7_dropped 59 = .ok (.iload_n 1, 1) := dk_27 (dk_at dksX7_dropped_2 12 rfl rfl)
theorem dX7_dropped_60 : decode cX7_dropped 60 = .ok (.imul, 1) := dk_104 (dk_at dksX7_dropped_2 13 rfl rfl)
theorem dX7_dropped_61 : decode cX7_dropped 61 = .ok (.iload 5, 2) := dk_21 5 (dk_at dksX7_dropped_2 14 rfl rfl)
theorem dX7_dropped_63 : decode cX7_dropped 63 = .ok (.iadd, 1) := dk_96 (dk_at dksX7_dropped_2 16 rfl rfl)
theorem dX7_dropped_64 : decode cX7_dropped 64 = .ok (.iconst 2, 1) := dk_5 (dk_at dksX7_dropped_2 17 rfl rfl)
theorem dX7_dropped_65 : decode cX7_dropped 65 = .ok (.iadd, 1) := dk_96 (dk_at dksX7_dropped_2 18 rfl rfl)
theorem dX7_dropped_66 : decode cX7_dropped 66 = .ok (.iaload, 1) := dk_46 (dk_at dksX7_dropped_2 19 rfl rfl)
theorem dX7_dropped_67 : decode cX7_dropped 67 = .ok (.iload_n 3, 1) := dk_29 (dk_at dksX7_dropped_2 20 rfl rfl)
theorem dX7_dropped_68 : decode cX7_dropped 68 = .ok (.if_icmp .ne 18, 3) := dk_160 0 18 (dk_at dksX7_dropped_2 21 rfl rfl)
theorem dX7_dropped_71 : decode cX7_dropped 71 = .ok (.aload_n 0, 1) := dk_42 (dk_at dksX7_dropped_3 0 rfl rfl)
theorem dX7_dropped_72 : decode cX7_dropped 72 = .ok (.getfield 36, 3) := dk_180 0 36 (dk_at dksX7_dropped_3 1 rfl rfl)
theorem dX7_dropped_75 : decode cX7_dropped 75 = .ok (.bipush 12, 2) := dk_16 12 (dk_at dksX7_dropped_3 4 rfl rfl)
theorem dX7_dropped_77 : decode cX7_dropped 77 = .ok (.iload_n 1, 1) := dk_27 (dk_at dksX7_dropped_3 6 rfl rfl)
theorem dX7_dropped_78 : decode cX7_dropped 78 = .ok (.imul, 1) := dk_104 (dk_at dksX7_dropped_3 7 rfl rfl)
theorem dX7_dropped_79 : decode cX7_dropped 79 = .ok (.iload 5, 2) := dk_21 5 (dk_at dksX7_dropped_3 8 rfl rfl)
theorem dX7_dropped_81 : decode cX7_dropped 81 = .ok (.iadd, 1) := dk_96 (dk_at dksX7_dropped_3 10 rfl rfl)
theorem dX7_dropped_82 : decode cX7_dropped 82 = .ok (.iaload, 1) := dk_46 (dk_at dksX7_dropped_3 11 rfl rfl)
theorem dX7_dropped_83 : decode cX7_dropped 83 = .ok (.goto 4, 3) := dk_167 0 4 (dk_at dksX7_dropped_3 12 rfl rfl)
theorem dX7_dropped_86 : decode cX7_dropped 86 = .ok (.iconst 0, 1) := dk_3 (dk_at dksX7_dropped_3 15 rfl rfl)
theorem dX7_dropped_87 : decode cX7_dropped 87 = .ok (.iadd, 1) := dk_96 (dk_at dksX7_dropped_3 16 rfl rfl)
theorem dX7_dropped_88 : decode cX7_dropped 88 = .ok (.istore 4, 2) := dk_54 4 (dk_at dksX7_dropped_3 17 rfl rfl)
theorem dX7_dropped_90 : decode cX7_dropped 90 = .ok (.iinc 5 1, 3) := dk_132 5 1 (dk_at dksX7_dropped_3 19 rfl rfl)
theorem dX7_dropped_93 : decode cX7_dropped 93 = .ok (.goto (-87), 3) := dk_167 255 169 (dk_at dksX7_dropped_4 0 rfl rfl)
theorem dX7_dropped_96 : decode cX7_dropped 96 = .ok (.iload 4, 2) := dk_21 4 (dk_at dksX7_dropped_4 3 rfl rfl)
theorem dX7_dropped_98 : decode cX7_dropped 98 = .ok (.ireturn, 1) := dk_172 (dk_at dksX7_dropped_4 5 rfl rfl)
def dkwX7_drops_2 : List UInt8 := [182, 1, 226, 42, 42, 28, 29, 21, 4, 182, 1, 223, 182, 0, 76, 172]
abbrev dktX7_drops_2 : List UInt8 := dkwX7_drops_2 ++ []
def dkwX7_drops_1 : List UInt8 := [182, 1, 238, 153, 0, 12, 42, 21, 4, 182, 1, 235, 154, 0, 9, 42, 4, 182, 0, 72, 172, 42, 27]
abbrev dktX7_drops_1 : List UInt8 := dkwX7_drops_1 ++ dktX7_drops_2
def dkwX7_drops_0 : List UInt8 := [42, 3, 181, 0, 66, 42, 27, 182, 2, 2, 153, 0, 28, 42, 28, 182, 1, 241, 153, 0, 20, 42, 29]
abbrev dktX7_drops_0 : List UInt8 := dkwX7_drops_0 ++ dktX7_drops_1
theorem dksX7_drops_0 : cX7_drops.data.toList.drop 0 = dktX7_drops_0 := by decide +kernel
theorem dksX7_drops_1 : cX7_drops.data.toList.drop 23 = dktX7_drops_1 := dk_seg dksX7_drops_0 23 rfl rfl
theorem dksX7_drops_2 : cX7_drops.data.toList.drop 46 = dktX7_drops_2 := dk_seg dksX7_drops_1 23 rfl rfl
theorem dX7_drops_0 : decode cX7_drops 0 = .ok (.aload_n 0, 1) := dk_42 (dk_at dksX7_drops_0 0 rfl rfl)
theorem dX7_drops_1 : decode cX7_drops 1 = .ok (.iconst 0, 1) := dk_3 (dk_at dksX7_drops_0 1 rfl rfl)
theorem dX7_drops_2 : decode cX7_drops 2 = .ok (.putfield 66, 3) := dk_181 0 66 (dk_at dksX7_drops_0 2 rfl rfl)
theorem dX7_drops_5 : decode cX7_drops 5 = .ok (.aload_n 0, 1) := dk_42 (dk_at dksX7_drops_0 5 rfl rfl)
theorem dX7_drops_6 : decode cX7_drops 6 = .ok (.iload_n 1, 1) := dk_27 (dk_at dksX7_drops_0 6 rfl rfl)
theorem dX7_drops_7 : decode cX7_drops 7 = .ok (.invokevirtual 514, 3) := dk_182 2 2 (dk_at dksX7_drops_0 7 rfl rfl)
theorem dX7_drops_10 : decode cX7_drops 10 = .ok (.ifCond .eq 28, 3) := dk_153 0 28 (dk_at dksX7_drops_0 10 rfl rfl)
theorem dX7_drops_13 : decode cX7_drops 13 = .ok (.aload_n 0, 1) := dk_42 (dk_at dksX7_drops_0 13 rfl rfl)
theorem dX7_drops_14 : decode cX7_drops 14 = .ok (.iload_n 2, 1) := dk_28 (dk_at dksX7_drops_0 14 rfl rfl)
theorem dX7_drops_15 : decode cX7_drops 15 = .ok (.invokevirtual 497, 3) := dk_182 1 241 (dk_at dksX7_drops_0 15 rfl rfl)
theorem dX7_drops_18 : decode cX7_drops 18 = .ok (.ifCond .eq 20, 3) := dk_153 0 20 (dk_at dksX7_drops_0 18 rfl rfl)
theorem dX7_drops_21 : decode cX7_drops 21 = .ok (.aload_n 0, 1) := dk_42 (dk_at dksX7_drops_0 21 rfl rfl)
theorem dX7_drops_22 : decode cX7_drops 22 = .ok (.iload_n 3, 1) := dk_29 (dk_at dksX7_drops_0 22 rfl rfl)
theorem dX7_drops_23 : decode cX7_drops 23 = .ok (.invokevirtual 494, 3) := dk_182 1 238 (dk_at dksX7_drops_1 0 rfl rfl)
theorem dX7_drops_26 : decode cX7_drops 26 = .ok (.ifCond .eq 12, 3) := dk_153 0 12 (dk_at dksX7_drops_1 3 rfl rfl)
theorem dX7_drops_29 : decode cX7_drops 29 = .ok (.aload_n 0, 1) := dk_42 (dk_at dksX7_drops_1 6 rfl rfl)
theorem dX7_drops_30 : decode cX7_drops 30 = .ok (.iload 4, 2) := dk_21 4 (dk_at dksX7_drops_1 7 rfl rfl)
theorem dX7_drops_32 : decode cX7_drops 32 = .ok (.invokevirtual 491, 3) := dk_182 1 235 (dk_at dksX7_drops_1 9 rfl rfl)
theorem dX7_drops_35 : decode cX7_drops 35 = .ok (.ifCond .ne 9, 3) := dk_154 0 9 (dk_at dksX7_drops_1 12 rfl rfl)
theorem dX7_drops_38 : decode cX7_drops 38 = .ok (.aload_n 0, 1) := dk_42 (dk_at dksX7_drops_1 15 rfl rfl)
theorem dX7_drops_39 : decode cX7_drops 39 = .ok (.iconst 1, 1) := dk_4 (dk_at dksX7_drops_1 16 rfl rfl)
theorem dX7_drops_40 : decode cX7_drops 40 = .ok (.invokevirtual 72, 3) := dk_182 0 72 (dk_at dksX7_drops_1 17 rfl rfl)
theorem dX7_drops_43 : decode cX7_drops 43 = .ok (.ireturn, 1) := dk_172 (dk_at dksX7_drops_1 20 rfl rfl)
theorem dX7_drops_44 : decode cX7_drops 44 = .ok (.aload_n 0, 1) := dk_42 (dk_at dksX7_drops_1 21 rfl rfl)
theorem dX7_drops_45 : decode cX7_drops 45 = .ok (.iload_n 1, 1) := dk_27 (dk_at dksX7_drops_1 22 rfl rfl)
theorem dX7_drops_46 : decode cX7_drops 46 = .ok (.invokevirtual 482, 3) := dk_182 1 226 (dk_at dksX7_drops_2 0 rfl rfl)
theorem dX7_drops_49 : decode cX7_drops 49 = .ok (.aload_n 0, 1) := dk_42 (dk_at dksX7_drops_2 3 rfl rfl)
theorem dX7_drops_50 : decode cX7_drops 50 = .ok (.aload_n 0, 1) := dk_42 (dk_at dksX7_drops_2 4 rfl rfl)
theorem dX7_drops_51 : decode cX7_drops 51 = .ok (.iload_n 2, 1) := dk_28 (dk_at dksX7_drops_2 5 rfl rfl)
theorem dX7_drops_52 : decode cX7_drops 52 = .ok (.iload_n 3, 1) := dk_29 (dk_at dksX7_drops_2 6 rfl rfl)
theorem dX7_drops_53 : decode cX7_drops 53 = .ok (.iload 4, 2) := dk_21 4 (dk_at dksX7_drops_2 7 rfl rfl)
theorem dX7_drops_55 : decode cX7_drops 55 = .ok (.invokevirtual 479, 3) := dk_182 1 223 (dk_at dksX7_drops_2 9 rfl rfl)
theorem dX7_drops_58 : decode cX7_drops 58 = .ok (.invokevirtual 76, 3) := dk_182 0 76 (dk_at dksX7_drops_2 12 rfl rfl)
theorem dX7_drops_61 : decode cX7_drops 61 = .ok (.ireturn, 1) := dk_172 (dk_at dksX7_drops_2 15 rfl rfl)
def dkwX5_flees_0 : List UInt8 := [42, 180, 0, 27, 27, 46, 172]
abbrev dktX5_flees_0 : List UInt8 := dkwX5_flees_0 ++ []
theorem dksX5_flees_0 : cX5_flees.data.toList.drop 0 = dktX5_flees_0 := by decide +kernel
theorem dX5_flees_0 : decode cX5_flees 0 = .ok (.aload_n 0, 1) := dk_42 (dk_at dksX5_flees_0 0 rfl rfl)
theorem dX5_flees_1 : decode cX5_flees 1 = .ok (.getfield 27, 3) := dk_180 0 27 (dk_at dksX5_flees_0 1 rfl rfl)
theorem dX5_flees_4 : decode cX5_flees 4 = .ok (.iload_n 1, 1) := dk_27 (dk_at dksX5_flees_0 4 rfl rfl)
theorem dX5_flees_5 : decode cX5_flees 5 = .ok (.iaload, 1) := dk_46 (dk_at dksX5_flees_0 5 rfl rfl)
theorem dX5_flees_6 : decode cX5_flees 6 = .ok (.ireturn, 1) := dk_172 (dk_at dksX5_flees_0 6 rfl rfl)
def dkwX1_flees_1 : List UInt8 := [182, 0, 94, 172, 42, 27, 182, 1, 5, 42, 180, 0, 46, 28, 182, 1, 15, 172]
abbrev dktX1_flees_1 : List UInt8 := dkwX1_flees_1 ++ []
def dkwX1_flees_0 : List UInt8 := [42, 182, 0, 80, 42, 27, 182, 0, 255, 153, 0, 11, 42, 28, 182, 0, 169, 154, 0, 9, 42, 4]
abbrev dktX1_flees_0 : List UInt8 := dkwX1_flees_0 ++ dktX1_flees_1
theorem dksX1_flees_0 : cX1_flees.data.toList.drop 0 = dktX1_flees_0 := by decide +kernel
theorem dksX1_flees_1 : cX1_flees.data.toList.drop 22 = dktX1_flees_1 := dk_seg dksX1_flees_0 22 rfl rfl
theorem dX1_flees_0 : decode cX1_flees 0 = .ok (.aload_n 0, 1) := dk_42 (dk_at dksX1_flees_0 0 rfl rfl)
theorem dX1_flees_1 : decode cX1_flees 1 = .ok (.invokevirtual 80, 3) := dk_182 0 80 (dk_at dksX1_flees_0 1 rfl rfl)
theorem dX1_flees_4 : decode cX1_flees 4 = .ok (.aload_n 0, 1) := dk_42 (dk_at dksX1_flees_0 4 rfl rfl)
theorem dX1_flees_5 : decode cX1_flees 5 = .ok (.iload_n 1, 1) := dk_27 (dk_at dksX1_flees_0 5 rfl rfl)
theorem dX1_flees_6 : decode cX1_flees 6 = .ok (.invokevirtual 255, 3) := dk_182 0 255 (dk_at dksX1_flees_0 6 rfl rfl)
theorem dX1_flees_9 : decode cX1_flees 9 = .ok (.ifCond .eq 11, 3) := dk_153 0 11 (dk_at dksX1_flees_0 9 rfl rfl)
theorem dX1_flees_12 : decode cX1_flees 12 = .ok (.aload_n 0, 1) := dk_42 (dk_at dksX1_flees_0 12 rfl rfl)
theorem dX1_flees_13 : decode cX1_flees 13 = .ok (.iload_n 2, 1) := dk_28 (dk_at dksX1_flees_0 13 rfl rfl)
theorem dX1_flees_14 : decode cX1_flees 14 = .ok (.invokevirtual 169, 3) := dk_182 0 169 (dk_at dksX1_flees_0 14 rfl rfl)
theorem dX1_flees_17 : decode cX1_flees 17 = .ok (.ifCond .ne 9, 3) := dk_154 0 9 (dk_at dksX1_flees_0 17 rfl rfl)
theorem dX1_flees_20 : decode cX1_flees 20 = .ok (.aload_n 0, 1) := dk_42 (dk_at dksX1_flees_0 20 rfl rfl)
theorem dX1_flees_21 : decode cX1_flees 21 = .ok (.iconst 1, 1) := dk_4 (dk_at dksX1_flees_0 21 rfl rfl)
theorem dX1_flees_22 : decode cX1_flees 22 = .ok (.invokevirtual 94, 3) := dk_182 0 94 (dk_at dksX1_flees_1 0 rfl rfl)
theorem dX1_flees_25 : decode cX1_flees 25 = .ok (.ireturn, 1) := dk_172 (dk_at dksX1_flees_1 3 rfl rfl)
theorem dX1_flees_26 : decode cX1_flees 26 = .ok (.aload_n 0, 1) := dk_42 (dk_at dksX1_flees_1 4 rfl rfl)
theorem dX1_flees_27 : decode cX1_flees 27 = .ok (.iload_n 1, 1) := dk_27 (dk_at dksX1_flees_1 5 rfl rfl)
theorem dX1_flees_28 : decode cX1_flees 28 = .ok (.invokevirtual 261, 3) := dk_182 1 5 (dk_at dksX1_flees_1 6 rfl rfl)
theorem dX1_flees_31 : decode cX1_flees 31 = .ok (.aload_n 0, 1) := dk_42 (dk_at dksX1_flees_1 9 rfl rfl)
theorem dX1_flees_32 : decode cX1_flees 32 = .ok (.getfield 46, 3) := dk_180 0 46 (dk_at dksX1_flees_1 10 rfl rfl)
theorem dX1_flees_35 : decode cX1_flees 35 = .ok (.iload_n 2, 1) := dk_28 (dk_at dksX1_flees_1 13 rfl rfl)
theorem dX1_flees_36 : decode cX1_flees 36 = .ok (.invokevirtual 271, 3) := dk_182 1 15 (dk_at dksX1_flees_1 14 rfl rfl)
theorem dX1_flees_39 : decode cX1_flees 39 = .ok (.ireturn, 1) := dk_172 (dk_at dksX1_flees_1 17 rfl rfl)
def dkwX7_flees_1 : List UInt8 := [182, 0, 72, 172, 42, 27, 182, 1, 226, 42, 42, 180, 0, 42, 28, 46, 182, 0, 76, 172]
abbrev dktX7_flees_1 : List UInt8 := dkwX7_flees_1 ++ []
def dkwX7_flees_0 : List UInt8 := [42, 3, 181, 0, 66, 42, 27, 182, 2, 2, 153, 0, 11, 42, 28, 182, 1, 241, 154, 0, 9, 42, 4]
abbrev dktX7_flees_0 : List UInt8 := dkwX7_flees_0 ++ dktX7_flees_1
theorem dksX7_flees_0 : cX7_flees.data.toList.drop 0 = dktX7_flees_0 := by decide +kernel
theorem dksX7_flees_1 : cX7_flees.data.toList.drop 23 = dktX7_flees_1 := dk_seg dksX7_flees_0 23 rfl rfl
theorem dX7_flees_0 : decode cX7_flees 0 = .ok (.aload_n 0, 1) := dk_42 (dk_at dksX7_flees_0 0 rfl rfl)
theorem dX7_flees_1 : decode cX7_flees 1 = .ok (.iconst 0, 1) := dk_3 (dk_at dksX7_flees_0 1 rfl rfl)
theorem dX7_flees_2 : decode cX7_flees 2 = .ok (.putfield 66, 3) := dk_181 0 66 (dk_at dksX7_flees_0 2 rfl rfl)
theorem dX7_flees_5 : decode cX7_flees 5 = .ok (.aload_n 0, 1) := dk_42 (dk_at dksX7_flees_0 5 rfl rfl)
theorem dX7_flees_6 : decode cX7_flees 6 = .ok (.iload_n 1, 1) := dk_27 (dk_at dksX7_flees_0 6 rfl rfl)
theorem dX7_flees_7 : decode cX7_flees 7 = .ok (.invokevirtual 514, 3) := dk_182 2 2 (dk_at dksX7_flees_0 7 rfl rfl)
theorem dX7_flees_10 : decode cX7_flees 10 = .ok (.ifCond .eq 11, 3) := dk_153 0 11 (dk_at dksX7_flees_0 10 rfl rfl)
theorem dX7_flees_13 : decode cX7_flees 13 = .ok (.aload_n 0, 1) := dk_42 (dk_at dksX7_flees_0 13 rfl rfl)
theorem dX7_flees_14 : decode cX7_flees 14 = .ok (.iload_n 2, 1) := dk_28 (dk_at dksX7_flees_0 14 rfl rfl)
theorem dX7_flees_15 : decode cX7_flees 15 = .ok (.invokevirtual 497, 3) := dk_182 1 241 (dk_at dksX7_flees_0 15 rfl rfl)
theorem dX7_flees_18 : decode cX7_flees 18 = .ok (.ifCond .ne 9, 3) := dk_154 0 9 (dk_at dksX7_flees_0 18 rfl rfl)
theorem dX7_flees_21 : decode cX7_flees 21 = .ok (.aload_n 0, 1) := dk_42 (dk_at dksX7_flees_0 21 rfl rfl)
theorem dX7_flees_22 : decode cX7_flees 22 = .ok (.iconst 1, 1) := dk_4 (dk_at dksX7_flees_0 22 rfl rfl)
theorem dX7_flees_23 : decode cX7_flees 23 = .ok (.invokevirtual 72, 3) := dk_182 0 72 (dk_at dksX7_flees_1 0 rfl rfl)
theorem dX7_flees_26 : decode cX7_flees 26 = .ok (.ireturn, 1) := dk_172 (dk_at dksX7_flees_1 3 rfl rfl)
theorem dX7_flees_27 : decode cX7_flees 27 = .ok (.aload_n 0, 1) := dk_42 (dk_at dksX7_flees_1 4 rfl rfl)
theorem dX7_flees_28 : decode cX7_flees 28 = .ok (.iload_n 1, 1) := dk_27 (dk_at dksX7_flees_1 5 rfl rfl)
theorem dX7_flees_29 : decode cX7_flees 29 = .ok (.invokevirtual 482, 3) := dk_182 1 226 (dk_at dksX7_flees_1 6 rfl rfl)
theorem dX7_flees_32 : decode cX7_flees 32 = .ok (.aload_n 0, 1) := dk_42 (dk_at dksX7_flees_1 9 rfl rfl)
theorem dX7_flees_33 : decode cX7_flees 33 = .ok (.aload_n 0, 1) := dk_42 (dk_at dksX7_flees_1 10 rfl rfl)
theorem dX7_flees_34 : decode cX7_flees 34 = .ok (.getfield 42, 3) := dk_180 0 42 (dk_at dksX7_flees_1 11 rfl rfl)
theorem dX7_flees_37 : decode cX7_flees 37 = .ok (.iload_n 2, 1) := dk_28 (dk_at dksX7_flees_1 14 rfl rfl)
theorem dX7_flees_38 : decode cX7_flees 38 = .ok (.iaload, 1) := dk_46 (dk_at dksX7_flees_1 15 rfl rfl)
theorem dX7_flees_39 : decode cX7_flees 39 = .ok (.invokevirtual 76, 3) := dk_182 0 76 (dk_at dksX7_flees_1 16 rfl rfl)
theorem dX7_flees_42 : decode cX7_flees 42 = .ok (.ireturn, 1) := dk_172 (dk_at dksX7_flees_1 19 rfl rfl)
def dkwX5_left_0 : List UInt8 := [42, 180, 0, 9, 7, 27, 104, 28, 96, 46, 172]
abbrev dktX5_left_0 : List UInt8 := dkwX5_left_0 ++ []
theorem dksX5_left_0 : cX5_left.data.toList.drop 0 = dktX5_left_0 := by decide +kernel
theorem dX5_left_0 : decode cX5_left 0 = .ok (.aload_n 0, 1) := dk_42 (dk_at dksX5_left_0 0 rfl rfl)
theorem dX5_left_1 : decode cX5_left 1 = .ok (.getfield 9, 3) := dk_180 0 9 (dk_at dksX5_left_0 1 rfl rfl)
theorem dX5_left_4 : decode cX5_left 4 = .ok (.iconst 4, 1) := dk_7 (dk_at dksX5_left_0 4 rfl rfl)
theorem dX5_left_5 : decode cX5_left 5 = .ok (.iload_n 1, 1) := dk_27 (dk_at dksX5_left_0 5 rfl rfl)
theorem dX5_left_6 : decode cX5_left 6 = .ok (.imul, 1) := dk_104 (dk_at dksX5_left_0 6 rfl rfl)
theorem dX5_left_7 : decode cX5_left 7 = .ok (.iload_n 2, 1) := dk_28 (dk_at dksX5_left_0 7 rfl rfl)
theorem dX5_left_8 : decode cX5_left 8 = .ok (.iadd, 1) := dk_96 (dk_at dksX5_left_0 8 rfl rfl)
theorem dX5_left_9 : decode cX5_left 9 = .ok (.iaload, 1) := dk_46 (dk_at dksX5_left_0 9 rfl rfl)
theorem dX5_left_10 : decode cX5_left 10 = .ok (.ireturn, 1) := dk_172 (dk_at dksX5_left_0 10 rfl rfl)
def dkwX1_left_2 : List UInt8 := [182, 1, 18, 172]
abbrev dktX1_left_2 : List UInt8 := dkwX1_left_2 ++ []
def dkwX1_left_1 : List UInt8 := [182, 0, 155, 154, 0, 9, 42, 4, 182, 0, 94, 172, 42, 27, 182, 1, 5, 42, 180, 0, 46, 28, 29]
abbrev dktX1_left_1 : List UInt8 := dkwX1_left_1 ++ dktX1_left_2
def dkwX1_left_0 : List UInt8 := [42, 182, 0, 80, 42, 27, 182, 0, 255, 153, 0, 19, 42, 28, 182, 0, 151, 153, 0, 11, 42, 29]
abbrev dktX1_left_0 : List UInt8 := dkwX1_left_0 ++ dktX1_left_1
theorem dksX1_left_0 : cX1_left.data.toList.drop 0 = dktX1_left_0 := by decide +kernel
theorem dksX1_left_1 : cX1_left.data.toList.drop 22 = dktX1_left_1 := dk_seg dksX1_left_0 22 rfl rfl
theorem dksX1_left_2 : cX1_left.data.toList.drop 45 = dktX1_left_2 := dk_seg dksX1_left_1 23 rfl rfl
theorem dX1_left_0 : decode cX1_left 0 = .ok (.aload_n 0, 1) := dk_42 (dk_at dksX1_left_0 0 rfl rfl)
theorem dX1_left_1 : decode cX1_left 1 = .ok (.invokevirtual 80, 3) := dk_182 0 80 (dk_at dksX1_left_0 1 rfl rfl)
theorem dX1_left_4 : decode cX1_left 4 = .ok (.aload_n 0, 1) := dk_42 (dk_at dksX1_left_0 4 rfl rfl)
theorem dX1_left_5 : decode cX1_left 5 = .ok (.iload_n 1, 1) := dk_27 (dk_at dksX1_left_0 5 rfl rfl)
theorem dX1_left_6 : decode cX1_left 6 = .ok (.invokevirtual 255, 3) := dk_182 0 255 (dk_at dksX1_left_0 6 rfl rfl)
theorem dX1_left_9 : decode cX1_left 9 = .ok (.ifCond .eq 19, 3) := dk_153 0 19 (dk_at dksX1_left_0 9 rfl rfl)
theorem dX1_left_12 : decode cX1_left 12 = .ok (.aload_n 0, 1) := dk_42 (dk_at dksX1_left_0 12 rfl rfl)
theorem dX1_left_13 : decode cX1_left 13 = .ok (.iload_n 2, 1) := dk_28 (dk_at dksX1_left_0 13 rfl rfl)
theorem dX1_left_14 : decode cX1_left 14 = .ok (.invokevirtual 151, 3) := dk_182 0 151 (dk_at dksX1_left_0 14 rfl rfl)
theorem dX1_left_17 : decode cX1_left 17 = .ok (.ifCond .eq 11, 3) := dk_153 0 11 (dk_at dksX1_left_0 17 rfl rfl)
theorem dX1_left_20 : decode cX1_left 20 = .ok (.aload_n 0, 1) := dk_42 (dk_at dksX1_left_0 20 rfl rfl)
theorem dX1_left_21 : decode cX1_left 21 = .ok (.iload_n 3, 1) := dk_29 (dk_at dksX1_left_0 21 rfl rfl)
theorem dX1_left_22 : decode cX1_left 22 = .ok (.invokevirtual 155, 3) := dk_182 0 155 (dk_at dksX1_left_1 0 rfl rfl)
theorem dX1_left_25 : decode cX1_left 25 = .ok (.ifCond .ne 9, 3) := dk_154 0 9 (dk_at dksX1_left_1 3 rfl rfl)
theorem dX1_left_28 : decode cX1_left 28 = .ok (.aload_n 0, 1) := dk_42 (dk_at dksX1_left_1 6 rfl rfl)
theorem dX1_left_29 : decode cX1_left 29 = .ok (.iconst 1, 1) := dk_4 (dk_at dksX1_left_1 7 rfl rfl)
theorem dX1_left_30 : decode cX1_left 30 = .ok (.invokevirtual 94, 3) := dk_182 0 94 (dk_at dksX1_left_1 8 rfl rfl)
theorem dX1_left_33 : decode cX1_left 33 = .ok (.ireturn, 1) := dk_172 (dk_at dksX1_left_1 11 rfl rfl)
theorem dX1_left_34 : decode cX1_left 34 = .ok (.aload_n 0, 1) := dk_42 (dk_at dksX1_left_1 12 rfl rfl)
theorem dX1_left_35 : decode cX1_left 35 = .ok (.iload_n 1, 1) := dk_27 (dk_at dksX1_left_1 13 rfl rfl)
theorem dX1_left_36 : decode cX1_left 36 = .ok (.invokevirtual 261, 3) := dk_182 1 5 (dk_at dksX1_left_1 14 rfl rfl)
theorem dX1_left_39 : decode cX1_left 39 = .ok (.aload_n 0, 1) := dk_42 (dk_at dksX1_left_1 17 rfl rfl)
theorem dX1_left_40 : decode cX1_left 40 = .ok (.getfield 46, 3) := dk_180 0 46 (dk_at dksX1_left_1 18 rfl rfl)
theorem dX1_left_43 : decode cX1_left 43 = .ok (.iload_n 2, 1) := dk_28 (dk_at dksX1_left_1 21 rfl rfl)
theorem dX1_left_44 : decode cX1_left 44 = .ok (.iload_n 3, 1) := dk_29 (dk_at dksX1_left_1 22 rfl rfl)
theorem dX1_left_45 : decode cX1_left 45 = .ok (.invokevirtual 274, 3) := dk_182 1 18 (dk_at dksX1_left_2 0 rfl rfl)
theorem dX1_left_48 : decode cX1_left 48 = .ok (.ireturn, 1) := dk_172 (dk_at dksX1_left_2 3 rfl rfl)
def dkwX7_left_2 : List UInt8 := [104, 29, 96, 46, 182, 0, 76, 172]
abbrev dktX7_left_2 : List UInt8 := dkwX7_left_2 ++ []
def dkwX7_left_1 : List UInt8 := [182, 1, 238, 154, 0, 9, 42, 4, 182, 0, 72, 172, 42, 27, 182, 1, 226, 42, 42, 180, 0, 39, 7, 28]
abbrev dktX7_left_1 : List UInt8 := dkwX7_left_1 ++ dktX7_left_2
def dkwX7_left_0 : List UInt8 := [42, 3, 181, 0, 66, 42, 27, 182, 2, 2, 153, 0, 19, 42, 28, 182, 1, 235, 153, 0, 11, 42, 29]
abbrev dktX7_left_0 : List UInt8 := dkwX7_left_0 ++ dktX7_left_1
theorem dksX7_left_0 : cX7_left.data.toList.drop 0 = dktX7_left_0 := by decide +kernel
theorem dksX7_left_1 : cX7_left.data.toList.drop 23 = dktX7_left_1 := dk_seg dksX7_left_0 23 rfl rfl
theorem dksX7_left_2 : cX7_left.data.toList.drop 47 = dktX7_left_2 := dk_seg dksX7_left_1 24 rfl rfl
theorem dX7_left_0 : decode cX7_left 0 = .ok (.aload_n 0, 1) := dk_42 (dk_at dksX7_left_0 0 rfl rfl)
theorem dX7_left_1 : decode cX7_left 1 = .ok (.iconst 0, 1) := dk_3 (dk_at dksX7_left_0 1 rfl rfl)
theorem dX7_left_2 : decode cX7_left 2 = .ok (.putfield 66, 3) := dk_181 0 66 (dk_at dksX7_left_0 2 rfl rfl)
theorem dX7_left_5 : decode cX7_left 5 = .ok (.aload_n 0, 1) := dk_42 (dk_at dksX7_left_0 5 rfl rfl)
theorem dX7_left_6 : decode cX7_left 6 = .ok (.iload_n 1, 1) := dk_27 (dk_at dksX7_left_0 6 rfl rfl)
theorem dX7_left_7 : decode cX7_left 7 = .ok (.invokevirtual 514, 3) := dk_182 2 2 (dk_at dksX7_left_0 7 rfl rfl)
theorem dX7_left_10 : decode cX7_left 10 = .ok (.ifCond .eq 19, 3) := dk_153 0 19 (dk_at dksX7_left_0 10 rfl rfl)
theorem dX7_left_13 : decode cX7_left 13 = .ok (.aload_n 0, 1) := dk_42 (dk_at dksX7_left_0 13 rfl rfl)
theorem dX7_left_14 : decode cX7_left 14 = .ok (.iload_n 2, 1) := dk_28 (dk_at dksX7_left_0 14 rfl rfl)
theorem dX7_left_15 : decode cX7_left 15 = .ok (.invokevirtual 491, 3) := dk_182 1 235 (dk_at dksX7_left_0 15 rfl rfl)
theorem dX7_left_18 : decode cX7_left 18 = .ok (.ifCond .eq 11, 3) := dk_153 0 11 (dk_at dksX7_left_0 18 rfl rfl)
theorem dX7_left_21 : decode cX7_left 21 = .ok (.aload_n 0, 1) := dk_42 (dk_at dksX7_left_0 21 rfl rfl)
theorem dX7_left_22 : decode cX7_left 22 = .ok (.iload_n 3, 1) := dk_29 (dk_at dksX7_left_0 22 rfl rfl)
theorem dX7_left_23 : decode cX7_left 23 = .ok (.invokevirtual 494, 3) := dk_182 1 238 (dk_at dksX7_left_1 0 rfl rfl)
theorem dX7_left_26 : decode cX7_left 26 = .ok (.ifCond .ne 9, 3) := dk_154 0 9 (dk_at dksX7_left_1 3 rfl rfl)
theorem dX7_left_29 : decode cX7_left 29 = .ok (.aload_n 0, 1) := dk_42 (dk_at dksX7_left_1 6 rfl rfl)
theorem dX7_left_30 : decode cX7_left 30 = .ok (.iconst 1, 1) := dk_4 (dk_at dksX7_left_1 7 rfl rfl)
theorem dX7_left_31 : decode cX7_left 31 = .ok (.invokevirtual 72, 3) := dk_182 0 72 (dk_at dksX7_left_1 8 rfl rfl)
theorem dX7_left_34 : decode cX7_left 34 = .ok (.ireturn, 1) := dk_172 (dk_at dksX7_left_1 11 rfl rfl)
theorem dX7_left_35 : decode cX7_left 35 = .ok (.aload_n 0, 1) := dk_42 (dk_at dksX7_left_1 12 rfl rfl)
theorem dX7_left_36 : decode cX7_left 36 = .ok (.iload_n 1, 1) := dk_27 (dk_at dksX7_left_1 13 rfl rfl)
theorem dX7_left_37 : decode cX7_left 37 = .ok (.invokevirtual 482, 3) := dk_182 1 226 (dk_at dksX7_left_1 14 rfl rfl)
theorem dX7_left_40 : decode cX7_left 40 = .ok (.aload_n 0, 1) := dk_42 (dk_at dksX7_left_1 17 rfl rfl)
theorem dX7_left_41 : decode cX7_left 41 = .ok (.aload_n 0, 1) := dk_42 (dk_at dksX7_left_1 18 rfl rfl)
theorem dX7_left_42 : decode cX7_left 42 = .ok (.getfield 39, 3) := dk_180 0 39 (dk_at dksX7_left_1 19 rfl rfl)
theorem dX7_left_45 : decode cX7_left 45 = .ok (.iconst 4, 1) := dk_7 (dk_at dksX7_left_1 22 rfl rfl)
theorem dX7_left_46 : decode cX7_left 46 = .ok (.iload_n 2, 1) := dk_28 (dk_at dksX7_left_1 23 rfl rfl)
theorem dX7_left_47 : decode cX7_left 47 = .ok (.imul, 1) := dk_104 (dk_at dksX7_left_2 0 rfl rfl)
theorem dX7_left_48 : decode cX7_left 48 = .ok (.iload_n 3, 1) := dk_29 (dk_at dksX7_left_2 1 rfl rfl)
theorem dX7_left_49 : decode cX7_left 49 = .ok (.iadd, 1) := dk_96 (dk_at dksX7_left_2 2 rfl rfl)
theorem dX7_left_50 : decode cX7_left 50 = .ok (.iaload, 1) := dk_46 (dk_at dksX7_left_2 3 rfl rfl)
theorem dX7_left_51 : decode cX7_left 51 = .ok (.invokevirtual 76, 3) := dk_182 0 76 (dk_at dksX7_left_2 4 rfl rfl)
theorem dX7_left_54 : decode cX7_left 54 = .ok (.ireturn, 1) := dk_172 (dk_at dksX7_left_2 7 rfl rfl)
def dkwX1_met_5 : List UInt8 := [132, 6, 1, 167, 255, 195, 21, 5, 172]
abbrev dktX1_met_5 : List UInt8 := dkwX1_met_5 ++ []
def dkwX1_met_4 : List UInt8 := [180, 0, 235, 29, 50, 21, 4, 21, 6, 182, 0, 247, 160, 0, 7, 4, 167, 0, 4, 3, 96, 54, 5]
abbrev dktX1_met_4 : List UInt8 := dkwX1_met_4 ++ dktX1_met_5
def dkwX1_met_3 : List UInt8 := [21, 4, 16, 254, 159, 0, 48, 21, 5, 42, 180, 0, 46, 28, 21, 6, 182, 1, 7, 42, 180, 0, 104]
abbrev dktX1_met_3 : List UInt8 := dkwX1_met_3 ++ dktX1_met_4
def dkwX1_met_2 : List UInt8 := [182, 1, 2, 54, 4, 3, 54, 5, 3, 54, 6, 21, 6, 42, 180, 0, 104, 180, 0, 148, 162, 0, 55]
abbrev dktX1_met_2 : List UInt8 := dkwX1_met_2 ++ dktX1_met_3
def dkwX1_met_1 : List UInt8 := [182, 0, 232, 154, 0, 9, 42, 4, 182, 0, 94, 172, 42, 27, 182, 1, 5, 42, 180, 0, 104, 27, 29]
abbrev dktX1_met_1 : List UInt8 := dkwX1_met_1 ++ dktX1_met_2
def dkwX1_met_0 : List UInt8 := [42, 182, 0, 80, 42, 27, 182, 0, 255, 153, 0, 19, 42, 28, 182, 0, 169, 153, 0, 11, 42, 29]
abbrev dktX1_met_0 : List UInt8 := dkwX1_met_0 ++ dktX1_met_1
theorem dksX1_met_0 : cX1_met.data.toList.drop 0 = dktX1_met_0 := by decide +kernel
theorem dksX1_met_1 : cX1_met.data.toList.drop 22 = dktX1_met_1 := dk_seg dksX1_met_0 22 rfl rfl
theorem dksX1_met_2 : cX1_met.data.toList.drop 45 = dktX1_met_2 := dk_seg dksX1_met_1 23 rfl rfl
theorem dksX1_met_3 : cX1_met.data.toList.drop 68 = dktX1_met_3 := dk_seg dksX1_met_2 23 rfl rfl
theorem dksX1_met_4 : cX1_met.data.toList.drop 91 = dktX1_met_4 := dk_seg dksX1_met_3 23 rfl rfl
theorem dksX1_met_5 : cX1_met.data.toList.drop 114 = dktX1_met_5 := dk_seg dksX1_met_4 23 rfl rfl
theorem dX1_met_0 : decode cX1_met 0 = .ok (.aload_n 0, 1) := dk_42 (dk_at dksX1_met_0 0 rfl rfl)
theorem dX1_met_1 : decode cX1_met 1 = .ok (.invokevirtual 80, 3) := dk_182 0 80 (dk_at dksX1_met_0 1 rfl rfl)
theorem dX1_met_4 : decode cX1_met 4 = .ok (.aload_n 0, 1) := dk_42 (dk_at dksX1_met_0 4 rfl rfl)
theorem dX1_met_5 : decode cX1_met 5 = .ok (.iload_n 1, 1) := dk_27 (dk_at dksX1_met_0 5 rfl rfl)
theorem dX1_met_6 : decode cX1_met 6 = .ok (.invokevirtual 255, 3) := dk_182 0 255 (dk_at dksX1_met_0 6 rfl rfl)
theorem dX1_met_9 : decode cX1_met 9 = .ok (.ifCond .eq 19, 3) := dk_153 0 19 (dk_at dksX1_met_0 9 rfl rfl)
theorem dX1_met_12 : decode cX1_met 12 = .ok (.aload_n 0, 1) := dk_42 (dk_at dksX1_met_0 12 rfl rfl)
theorem dX1_met_13 : decode cX1_met 13 = .ok (.iload_n 2, 1) := dk_28 (dk_at dksX1_met_0 13 rfl rfl)
theorem dX1_met_14 : decode cX1_met 14 = .ok (.invokevirtual 169, 3) := dk_182 0 169 (dk_at dksX1_met_0 14 rfl rfl)
theorem dX1_met_17 : decode cX1_met 17 = .ok (.ifCond .eq 11, 3) := dk_153 0 11 (dk_at dksX1_met_0 17 rfl rfl)
theorem dX1_met_20 : decode cX1_met 20 = .ok (.aload_n 0, 1) := dk_42 (dk_at dksX1_met_0 20 rfl rfl)
theorem dX1_met_21 : decode cX1_met 21 = .ok (.iload_n 3, 1) := dk_29 (dk_at dksX1_met_0 21 rfl rfl)
theorem dX1_met_22 : decode cX1_met 22 = .ok (.invokevirtual 232, 3) := dk_182 0 232 (dk_at dksX1_met_1 0 rfl rfl)
theorem dX1_met_25 : decode cX1_met 25 = .ok (.ifCond .ne 9, 3) := dk_154 0 9 (dk_at dksX1_met_1 3 rfl rfl)
theorem dX1_met_28 : decode cX1_met 28 = .ok (.aload_n 0, 1) := dk_42 (dk_at dksX1_met_1 6 rfl rfl)
theorem dX1_met_29 : decode cX1_met 29 = .ok (.iconst 1, 1) := dk_4 (dk_at dksX1_met_1 7 rfl rfl)
theorem dX1_met_30 : decode cX1_met 30 = .ok (.invokevirtual 94, 3) := dk_182 0 94 (dk_at dksX1_met_1 8 rfl rfl)
theorem dX1_met_33 : decode cX1_met 33 = .ok (.ireturn, 1) := dk_172 (dk_at dksX1_met_1 11 rfl rfl)
theorem dX1_met_34 : decode cX1_met 34 = .ok (.aload_n 0, 1) := dk_42 (dk_at dksX1_met_1 12 rfl rfl)
theorem dX1_met_35 : decode cX1_met 35 = .ok (.iload_n 1, 1) := dk_27 (dk_at dksX1_met_1 13 rfl rfl)
theorem dX1_met_36 : decode cX1_met 36 = .ok (.invokevirtual 261, 3) := dk_182 1 5 (dk_at dksX1_met_1 14 rfl rfl)
theorem dX1_met_39 : decode cX1_met 39 = .ok (.aload_n 0, 1) := dk_42 (dk_at dksX1_met_1 17 rfl rfl)
theorem dX1_met_40 : decode cX1_met 40 = .ok (.getfield 104, 3) := dk_180 0 104 (dk_at dksX1_met_1 18 rfl rfl)
theorem dX1_met_43 : decode cX1_met 43 = .ok (.iload_n 1, 1) := dk_27 (dk_at dksX1_met_1 21 rfl rfl)
theorem dX1_met_44 : decode cX1_met 44 = .ok (.iload_n 3, 1) := dk_29 (dk_at dksX1_met_1 22 rfl rfl)
theorem dX1_met_45 : decode cX1_met 45 = .ok (.invokevirtual 258, 3) := dk_182 1 2 (dk_at dksX1_met_2 0 rfl rfl)
theorem dX1_met_48 : decode cX1_met 48 = .ok (.istore 4, 2) := dk_54 4 (dk_at dksX1_met_2 3 rfl rfl)
theorem dX1_met_50 : decode cX1_met 50 = .ok (.iconst 0, 1) := dk_3 (dk_at dksX1_met_2 5 rfl rfl)
theorem dX1_met_51 : decode cX1_met 51 = .ok (.istore 5, 2) := dk_54 5 (dk_at dksX1_met_2 6 rfl rfl)
theorem dX1_met_53 : decode cX1_met 53 = .ok (.iconst 0, 1) := dk_3 (dk_at dksX1_met_2 8 rfl rfl)
theorem dX1_met_54 : decode cX1_met 54 = .ok (.istore 6, 2) := dk_54 6 (dk_at dksX1_met_2 9 rfl rfl)
theorem dX1_met_56 : decode cX1_met 56 = .ok (.iload 6, 2) := dk_21 6 (dk_at dksX1_met_2 11 rfl rfl)
theorem dX1_met_58 : decode cX1_met 58 = .ok (.aload_n 0, 1) := dk_42 (dk_at dksX1_met_2 13 rfl rfl)
theorem dX1_met_59 : decode cX1_met 59 = .ok (.getfield 104, 3) := dk_180 0 104 (dk_at dksX1_met_2 14 rfl rfl)
theorem dX1_met_62 : decode cX1_met 62 = .ok (.getfield 148, 3) := dk_180 0 148 (dk_at dksX1_met_2 17 rfl rfl)
theorem dX1_met_65 : decode cX1_met 65 = .ok (.if_icmp .ge 55, 3) := dk_162 0 55 (dk_at dksX1_met_2 20 rfl rfl)
theorem dX1_met_68 : decode cX1_met 68 = .ok (.iload 4, 2) := dk_21 4 (dk_at dksX1_met_3 0 rfl rfl)
theorem dX1_met_70 : decode cX1_met 70 = .ok (.bipush (-2), 2) := dk_16 254 (dk_at dksX1_met_3 2 rfl rfl)
theorem dX1_met_72 : decode cX1_met 72 = .ok (.if_icmp .eq 48, 3) := dk_159 0 48 (dk_at dksX1_met_3 4 rfl rfl)
theorem dX1_met_75 : decode cX1_met 75 = .ok (.iload 5, 2) := dk_21 5 (dk_at dksX1_met_3 7 rfl rfl)
theorem dX1_met_77 : decode cX1_met 77 = .ok (.aload_n 0, 1) := dk_42 (dk_at dksX1_met_3 9 rfl rfl)
theorem dX1_met_78 : decode cX1_met 78 = .ok (.getfield 46, 3) := dk_180 0 46 (dk_at dksX1_met_3 10 rfl rfl)
theorem dX1_met_81 : decode cX1_met 81 = .ok (.iload_n 2, 1) := dk_28 (dk_at dksX1_met_3 13 rfl rfl)
theorem dX1_met_82 : decode cX1_met 82 = .ok (.iload 6, 2) := dk_21 6 (dk_at dksX1_met_3 14 rfl rfl)
theorem dX1_met_84 : decode cX1_met 84 = .ok (.invokevirtual 263, 3) := dk_182 1 7 (dk_at dksX1_met_3 16 rfl rfl)
theorem dX1_met_87 : decode cX1_met 87 = .ok (.aload_n 0, 1) := dk_42 (dk_at dksX1_met_3 19 rfl rfl)
theorem dX1_met_88 : decode cX1_met 88 = .ok (.getfield 104, 3) := dk_180 0 104 (dk_at dksX1_met_3 20 rfl rfl)
theorem dX1_met_91 : decode cX1_met 91 = .ok (.getfield 235, 3) := dk_180 0 235 (dk_at dksX1_met_4 0 rfl rfl)
theorem dX1_met_94 : decode cX1_met 94 = .ok (.iload_n 3, 1) := dk_29 (dk_at dksX1_met_4 3 rfl rfl)
theorem dX1_met_95 : decode cX1_met 95 = .ok (.aaload, 1) := dk_50 (dk_at dksX1_met_4 4 rfl rfl)
theorem dX1_met_96 : decode cX1_met 96 = .ok (.iload 4, 2) := dk_21 4 (dk_at dksX1_met_4 5 rfl rfl)
theorem dX1_met_98 : decode cX1_met 98 = .ok (.iload 6, 2) := dk_21 6 (dk_at dksX1_met_4 7 rfl rfl)
theorem dX1_met_100 : decode cX1_met 100 = .ok (.invokevirtual 247, 3) := dk_182 0 247 (dk_at dksX1_met_4 9 rfl rfl)
theorem dX1_met_103 : decode cX1_met 103 = .ok (.if_icmp .ne 7, 3) := dk_160 0 7 (dk_at dksX1_met_4 12 rfl rfl)
theorem dX1_met_106 : decode cX1_met 106 = .ok (.iconst 1, 1) := dk_4 (dk_at dksX1_met_4 15 rfl rfl)
theorem dX1_met_107 : decode cX1_met 107 = .ok (.goto 4, 3) := dk_167 0 4 (dk_at dksX1_met_4 16 rfl rfl)
theorem dX1_met_110 : decode cX1_met 110 = .ok (.iconst 0, 1) := dk_3 (dk_at dksX1_met_4 19 rfl rfl)
theorem dX1_met_111 : decode cX1_met 111 = .ok (.iadd, 1) := dk_96 (dk_at dksX1_met_4 20 rfl rfl)
theorem dX1_met_112 : decode cX1_met 112 = .ok (.istore 5, 2) := dk_54 5 (dk_at dksX1_met_4 21 rfl rfl)
theorem dX1_met_114 : decode cX1_met 114 = .ok (.iinc 6 1, 3) := dk_132 6 1 (dk_at dksX1_met_5 0 rfl rfl)
theorem dX1_met_117 : decode cX1_met 117 = .ok (.goto (-61), 3) := dk_167 255 195 (dk_at dksX1_met_5 3 rfl rfl)
theorem dX1_met_120 : decode cX1_met 120 = .ok (.iload 5, 2) := dk_21 5 (dk_at dksX1_met_5 6 rfl rfl)
theorem dX1_met_122 : decode cX1_met 122 = .ok (.ireturn, 1) := dk_172 (dk_at dksX1_met_5 8 rfl rfl)
def dkwX7_met_4 : List UInt8 := [54, 4, 132, 5, 1, 167, 255, 205, 42, 21, 4, 182, 0, 76, 172]
abbrev dktX7_met_4 : List UInt8 := dkwX7_met_4 ++ []
def dkwX7_met_3 : List UInt8 := [182, 1, 197, 42, 180, 0, 30, 16, 12, 28, 104, 21, 5, 96, 46, 160, 0, 7, 4, 167, 0, 4, 3, 96]
abbrev dktX7_met_3 : List UInt8 := dkwX7_met_3 ++ dktX7_met_4
def dkwX7_met_2 : List UInt8 := [21, 5, 42, 180, 1, 186, 180, 0, 196, 162, 0, 45, 21, 4, 42, 180, 1, 186, 27, 29, 21, 5]
abbrev dktX7_met_2 : List UInt8 := dkwX7_met_2 ++ dktX7_met_3
def dkwX7_met_1 : List UInt8 := [182, 1, 250, 154, 0, 9, 42, 4, 182, 0, 72, 172, 42, 27, 182, 1, 226, 3, 54, 4, 3, 54, 5]
abbrev dktX7_met_1 : List UInt8 := dkwX7_met_1 ++ dktX7_met_2
def dkwX7_met_0 : List UInt8 := [42, 3, 181, 0, 66, 42, 27, 182, 2, 2, 153, 0, 19, 42, 28, 182, 1, 241, 153, 0, 11, 42, 29]
abbrev dktX7_met_0 : List UInt8 := dkwX7_met_0 ++ dktX7_met_1
theorem dksX7_met_0 : cX7_met.data.toList.drop 0 = dktX7_met_0 := by decide +kernel
theorem dksX7_met_1 : cX7_met.data.toList.drop 23 = dktX7_met_1 := dk_seg dksX7_met_0 23 rfl rfl
theorem dksX7_met_2 : cX7_met.data.toList.drop 46 = dktX7_met_2 := dk_seg dksX7_met_1 23 rfl rfl
theorem dksX7_met_3 : cX7_met.data.toList.drop 68 = dktX7_met_3 := dk_seg dksX7_met_2 22 rfl rfl
theorem dksX7_met_4 : cX7_met.data.toList.drop 92 = dktX7_met_4 := dk_seg dksX7_met_3 24 rfl rfl
theorem dX7_met_0 : decode cX7_met 0 = .ok (.aload_n 0, 1) := dk_42 (dk_at dksX7_met_0 0 rfl rfl)
theorem dX7_met_1 : decode cX7_met 1 = .ok (.iconst 0, 1) := dk_3 (dk_at dksX7_met_0 1 rfl rfl)
theorem dX7_met_2 : decode cX7_met 2 = .ok (.putfield 66, 3) := dk_181 0 66 (dk_at dksX7_met_0 2 rfl rfl)
theorem dX7_met_5 : decode cX7_met 5 = .ok (.aload_n 0, 1) := dk_42 (dk_at dksX7_met_0 5 rfl rfl)
theorem dX7_met_6 : decode cX7_met 6 = .ok (.iload_n 1, 1) := dk_27 (dk_at dksX7_met_0 6 rfl rfl)
theorem dX7_met_7 : decode cX7_met 7 = .ok (.invokevirtual 514, 3) := dk_182 2 2 (dk_at dksX7_met_0 7 rfl rfl)
theorem dX7_met_10 : decode cX7_met 10 = .ok (.ifCond .eq 19, 3) := dk_153 0 19 (dk_at dksX7_met_0 10 rfl rfl)
theorem dX7_met_13 : decode cX7_met 13 = .ok (.aload_n 0, 1) := dk_42 (dk_at dksX7_met_0 13 rfl rfl)
theorem dX7_met_14 : decode cX7_met 14 = .ok (.iload_n 2, 1) := dk_28 (dk_at dksX7_met_0 14 rfl rfl)
theorem dX7_met_15 : decode cX7_met 15 = .ok (.invokevirtual 497, 3) := dk_182 1 241 (dk_at dksX7_met_0 15 rfl rfl)
theorem dX7_met_18 : decode cX7_met 18 = .ok (.ifCond .eq 11, 3) := dk_153 0 11 (dk_at dksX7_met_0 18 rfl rfl)
theorem dX7_met_21 : decode cX7_met 21 = .ok (.aload_n 0, 1) := dk_42 (dk_at dksX7_met_0 21 rfl rfl)
theorem dX7_met_22 : decode cX7_met 22 = .ok (.iload_n 3, 1) := dk_29 (dk_at dksX7_met_0 22 rfl rfl)
theorem dX7_met_23 : decode cX7_met 23 = .ok (.invokevirtual 506, 3) := dk_182 1 250 (dk_at dksX7_met_1 0 rfl rfl)
theorem dX7_met_26 : decode cX7_met 26 = .ok (.ifCond .ne 9, 3) := dk_154 0 9 (dk_at dksX7_met_1 3 rfl rfl)
theorem dX7_met_29 : decode cX7_met 29 = .ok (.aload_n 0, 1) := dk_42 (dk_at dksX7_met_1 6 rfl rfl)
theorem dX7_met_30 : decode cX7_met 30 = .ok (.iconst 1, 1) := dk_4 (dk_at dksX7_met_1 7 rfl rfl)
theorem dX7_met_31 : decode cX7_met 31 = .ok (.invokevirtual 72, 3) := dk_182 0 72 (dk_at dksX7_met_1 8 rfl rfl)
theorem dX7_met_34 : decode cX7_met 34 = .ok (.ireturn, 1) := dk_172 (dk_at dksX7_met_1 11 rfl rfl)
theorem dX7_met_35 : decode cX7_met 35 = .ok (.aload_n 0, 1) := dk_42 (dk_at dksX7_met_1 12 rfl rfl)
theorem dX7_met_36 : decode cX7_met 36 = .ok (.iload_n 1, 1) := dk_27 (dk_at dksX7_met_1 13 rfl rfl)
theorem dX7_met_37 : decode cX7_met 37 = .ok (.invokevirtual 482, 3) := dk_182 1 226 (dk_at dksX7_met_1 14 rfl rfl)
theorem dX7_met_40 : decode cX7_met 40 = .ok (.iconst 0, 1) := dk_3 (dk_at dksX7_met_1 17 rfl rfl)
theorem dX7_met_41 : decode cX7_met 41 = .ok (.istore 4, 2) := dk_54 4 (dk_at dksX7_met_1 18 rfl rfl)
theorem dX7_met_43 : decode cX7_met 43 = .ok (.iconst 0, 1) := dk_3 (dk_at dksX7_met_1 20 rfl rfl)
theorem dX7_met_44 : decode cX7_met 44 = .ok (.istore 5, 2) := dk_54 5 (dk_at dksX7_met_1 21 rfl rfl)
theorem dX7_met_46 : decode cX7_met 46 = .ok (.iload 5, 2) := dk_21 5 (dk_at dksX7_met_2 0 rfl rfl)
theorem dX7_met_48 : decode cX7_met 48 = .ok (.aload_n 0, 1) := dk_42 (dk_at dksX7_met_2 2 rfl rfl)
theorem dX7_met_49 : decode cX7_met 49 = .ok (.getfield 442, 3) := dk_180 1 186 (dk_at dksX7_met_2 3 rfl rfl)
theorem dX7_met_52 : decode cX7_met 52 = .ok (.getfield 196, 3) := dk_180 0 196 (dk_at dksX7_met_2 6 rfl rfl)
theorem dX7_met_55 : decode cX7_met 55 = .ok (.if_icmp .ge 45, 3) := dk_162 0 45 (dk_at dksX7_met_2 9 rfl rfl)
theorem dX7_met_58 : decode cX7_met 58 = .ok (.iload 4, 2) := dk_21 4 (dk_at dksX7_met_2 12 rfl rfl)
theorem dX7_met_60 : decode cX7_met 60 = .ok (.aload_n 0, 1) := dk_42 (dk_at dksX7_met_2 14 rfl rfl)
theorem dX7_met_61 : decode cX7_met 61 = .ok (.getfield 442, 3) := dk_180 1 186 (dk_at dksX7_met_2 15 rfl rfl)
theorem dX7_met_64 : decode cX7_met 64 = .ok (.iload_n 1, 1) := dk_27 (dk_at dksX7_met_2 18 rfl rfl)
theorem dX7_met_65 : decode cX7_met 65 = .ok (.iload_n 3, 1) := dk_29 (dk_at dksX7_met_2 19 rfl rfl)
theorem dX7_met_66 : decode cX7_met 66 = .ok (.iload 5, 2) := dk_21 5 (dk_at dksX7_met_2 20 rfl rfl)
theorem dX7_met_68 : decode cX7_met 68 = .ok (.invokevirtual 453, 3) := dk_182 1 197 (dk_at dksX7_met_3 0 rfl rfl)
theorem dX7_met_71 : decode cX7_met 71 = .ok (.aload_n 0, 1) := dk_42 (dk_at dksX7_met_3 3 rfl rfl)
theorem dX7_met_72 : decode cX7_met 72 = .ok (.getfield 30, 3) := dk_180 0 30 (dk_at dksX7_met_3 4 rfl rfl)
theorem dX7_met_75 : decode cX7_met 75 = .ok (.bipush 12, 2) := dk_16 12 (dk_at dksX7_met_3 7 rfl rfl)
theorem dX7_met_77 : decode cX7_met 77 = .ok (.iload_n 2, 1) := dk_28 (dk_at dksX7_met_3 9 rfl rfl)
theorem dX7_met_78 : decode cX7_met 78 = .ok (.imul, 1) := dk_104 (dk_at dksX7_met_3 10 rfl rfl)
theorem dX7_met_79 : decode cX7_met 79 = .ok (.iload 5, 2) := dk_21 5 (dk_at dksX7_met_3 11 rfl rfl)
theorem dX7_met_81 : decode cX7_met 81 = .ok (.iadd, 1) := dk_96 (dk_at dksX7_met_3 13 rfl rfl)
theorem dX7_met_82 : decode cX7_met 82 = .ok (.iaload, 1) := dk_46 (dk_at dksX7_met_3 14 rfl rfl)
theorem dX7_met_83 : decode cX7_met 83 = .ok (.if_icmp .ne 7, 3) := dk_160 0 7 (dk_at dksX7_met_3 15 rfl rfl)
theorem dX7_met_86 : decode cX7_met 86 = .ok (.iconst 1, 1) := dk_4 (dk_at dksX7_met_3 18 rfl rfl)
theorem dX7_met_87 : decode cX7_met 87 = .ok (.goto 4, 3) := dk_167 0 4 (dk_at dksX7_met_3 19 rfl rfl)
theorem dX7_met_90 : decode cX7_met 90 = .ok (.iconst 0, 1) := dk_3 (dk_at dksX7_met_3 22 rfl rfl)
theorem dX7_met_91 : decode cX7_met 91 = .ok (.iadd, 1) := dk_96 (dk_at dksX7_met_3 23 rfl rfl)
theorem dX7_met_92 : decode cX7_met 92 = .ok (.istore 4, 2) := dk_54 4 (dk_at dksX7_met_4 0 rfl rfl)
theorem dX7_met_94 : decode cX7_met 94 = .ok (.iinc 5 1, 3) := dk_132 5 1 (dk_at dksX7_met_4 2 rfl rfl)
theorem dX7_met_97 : decode cX7_met 97 = .ok (.goto (-51), 3) := dk_167 255 205 (dk_at dksX7_met_4 5 rfl rfl)
theorem dX7_met_100 : decode cX7_met 100 = .ok (.aload_n 0, 1) := dk_42 (dk_at dksX7_met_4 8 rfl rfl)
theorem dX7_met_101 : decode cX7_met 101 = .ok (.iload 4, 2) := dk_21 4 (dk_at dksX7_met_4 9 rfl rfl)
theorem dX7_met_103 : decode cX7_met 103 = .ok (.invokevirtual 76, 3) := dk_182 0 76 (dk_at dksX7_met_4 11 rfl rfl)
theorem dX7_met_106 : decode cX7_met 106 = .ok (.ireturn, 1) := dk_172 (dk_at dksX7_met_4 14 rfl rfl)
def dkwX18_isTrue_1 : List UInt8 := [172]
abbrev dktX18_isTrue_1 : List UInt8 := dkwX18_isTrue_1 ++ []
def dkwX18_isTrue_0 : List UInt8 := [43, 42, 180, 0, 7, 42, 180, 0, 13, 42, 180, 0, 16, 182, 0, 19, 158, 0, 7, 4, 167, 0, 4, 3]
abbrev dktX18_isTrue_0 : List UInt8 := dkwX18_isTrue_0 ++ dktX18_isTrue_1
theorem dksX18_isTrue_0 : cX18_isTrue.data.toList.drop 0 = dktX18_isTrue_0 := by decide +kernel
theorem dksX18_isTrue_1 : cX18_isTrue.data.toList.drop 24 = dktX18_isTrue_1 := dk_seg dksX18_isTrue_0 24 rfl rfl
theorem dX18_isTrue_0 : decode cX18_isTrue 0 = .ok (.aload_n 1, 1) := dk_43 (dk_at dksX18_isTrue_0 0 rfl rfl)
theorem dX18_isTrue_1 : decode cX18_isTrue 1 = .ok (.aload_n 0, 1) := dk_42 (dk_at dksX18_isTrue_0 1 rfl rfl)
theorem dX18_isTrue_2 : decode cX18_isTrue 2 = .ok (.getfield 7, 3) := dk_180 0 7 (dk_at dksX18_isTrue_0 2 rfl rfl)
theorem dX18_isTrue_5 : decode cX18_isTrue 5 = .ok (.aload_n 0, 1) := dk_42 (dk_at dksX18_isTrue_0 5 rfl rfl)
theorem dX18_isTrue_6 : decode cX18_isTrue 6 = .ok (.getfield 13, 3) := dk_180 0 13 (dk_at dksX18_isTrue_0 6 rfl rfl)
theorem dX18_isTrue_9 : decode cX18_isTrue 9 = .ok (.aload_n 0, 1) := dk_42 (dk_at dksX18_isTrue_0 9 rfl rfl)
theorem dX18_isTrue_10 : decode cX18_isTrue 10 = .ok (.getfield 16, 3) := dk_180 0 16 (dk_at dksX18_isTrue_0 10 rfl rfl)
theorem dX18_isTrue_13 : decode cX18_isTrue 13 = .ok (.invokevirtual 19, 3) := dk_182 0 19 (dk_at dksX18_isTrue_0 13 rfl rfl)
theorem dX18_isTrue_16 : decode cX18_isTrue 16 = .ok (.ifCond .le 7, 3) := dk_158 0 7 (dk_at dksX18_isTrue_0 16 rfl rfl)
theorem dX18_isTrue_19 : decode cX18_isTrue 19 = .ok (.iconst 1, 1) := dk_4 (dk_at dksX18_isTrue_0 19 rfl rfl)
theorem dX18_isTrue_20 : decode cX18_isTrue 20 = .ok (.goto 4, 3) := dk_167 0 4 (dk_at dksX18_isTrue_0 20 rfl rfl)
theorem dX18_isTrue_23 : decode cX18_isTrue 23 = .ok (.iconst 0, 1) := dk_3 (dk_at dksX18_isTrue_0 23 rfl rfl)
theorem dX18_isTrue_24 : decode cX18_isTrue 24 = .ok (.ireturn, 1) := dk_172 (dk_at dksX18_isTrue_1 0 rfl rfl)
def dkwX19_isTrue_1 : List UInt8 := [172]
abbrev dktX19_isTrue_1 : List UInt8 := dkwX19_isTrue_1 ++ []
def dkwX19_isTrue_0 : List UInt8 := [43, 42, 180, 0, 7, 42, 180, 0, 13, 182, 0, 16, 42, 180, 0, 22, 160, 0, 7, 4, 167, 0, 4, 3]
abbrev dktX19_isTrue_0 : List UInt8 := dkwX19_isTrue_0 ++ dktX19_isTrue_1
theorem dksX19_isTrue_0 : cX19_isTrue.data.toList.drop 0 = dktX19_isTrue_0 := by decide +kernel
theorem dksX19_isTrue_1 : cX19_isTrue.data.toList.drop 24 = dktX19_isTrue_1 := dk_seg dksX19_isTrue_0 24 rfl rfl
theorem dX19_isTrue_0 : decode cX19_isTrue 0 = .ok (.aload_n 1, 1) := dk_43 (dk_at dksX19_isTrue_0 0 rfl rfl)
theorem dX19_isTrue_1 : decode cX19_isTrue 1 = .ok (.aload_n 0, 1) := dk_42 (dk_at dksX19_isTrue_0 1 rfl rfl)
theorem dX19_isTrue_2 : decode cX19_isTrue 2 = .ok (.getfield 7, 3) := dk_180 0 7 (dk_at dksX19_isTrue_0 2 rfl rfl)
theorem dX19_isTrue_5 : decode cX19_isTrue 5 = .ok (.aload_n 0, 1) := dk_42 (dk_at dksX19_isTrue_0 5 rfl rfl)
theorem dX19_isTrue_6 : decode cX19_isTrue 6 = .ok (.getfield 13, 3) := dk_180 0 13 (dk_at dksX19_isTrue_0 6 rfl rfl)
theorem dX19_isTrue_9 : decode cX19_isTrue 9 = .ok (.invokevirtual 16, 3) := dk_182 0 16 (dk_at dksX19_isTrue_0 9 rfl rfl)
theorem dX19_isTrue_12 : decode cX19_isTrue 12 = .ok (.aload_n 0, 1) := dk_42 (dk_at dksX19_isTrue_0 12 rfl rfl)
theorem dX19_isTrue_13 : decode cX19_isTrue 13 = .ok (.getfield 22, 3) := dk_180 0 22 (dk_at dksX19_isTrue_0 13 rfl rfl)
theorem dX19_isTrue_16 : decode cX19_isTrue 16 = .ok (.if_icmp .ne 7, 3) := dk_160 0 7 (dk_at dksX19_isTrue_0 16 rfl rfl)
theorem dX19_isTrue_19 : decode cX19_isTrue 19 = .ok (.iconst 1, 1) := dk_4 (dk_at dksX19_isTrue_0 19 rfl rfl)
theorem dX19_isTrue_20 : decode cX19_isTrue 20 = .ok (.goto 4, 3) := dk_167 0 4 (dk_at dksX19_isTrue_0 20 rfl rfl)
theorem dX19_isTrue_23 : decode cX19_isTrue 23 = .ok (.iconst 0, 1) := dk_3 (dk_at dksX19_isTrue_0 23 rfl rfl)
theorem dX19_isTrue_24 : decode cX19_isTrue 24 = .ok (.ireturn, 1) := dk_172 (dk_at dksX19_isTrue_1 0 rfl rfl)
def dkwX20_isTrue_1 : List UInt8 := [172]
abbrev dktX20_isTrue_1 : List UInt8 := dkwX20_isTrue_1 ++ []
def dkwX20_isTrue_0 : List UInt8 := [43, 42, 180, 0, 7, 42, 180, 0, 13, 182, 0, 16, 42, 180, 0, 22, 159, 0, 7, 4, 167, 0, 4, 3]
abbrev dktX20_isTrue_0 : List UInt8 := dkwX20_isTrue_0 ++ dktX20_isTrue_1
theorem dksX20_isTrue_0 : cX20_isTrue.data.toList.drop 0 = dktX20_isTrue_0 := by decide +kernel
theorem dksX20_isTrue_1 : cX20_isTrue.data.toList.drop 24 = dktX20_isTrue_1 := dk_seg dksX20_isTrue_0 24 rfl rfl
theorem dX20_isTrue_0 : decode cX20_isTrue 0 = .ok (.aload_n 1, 1) := dk_43 (dk_at dksX20_isTrue_0 0 rfl rfl)
theorem dX20_isTrue_1 : decode cX20_isTrue 1 = .ok (.aload_n 0, 1) := dk_42 (dk_at dksX20_isTrue_0 1 rfl rfl)
theorem dX20_isTrue_2 : decode cX20_isTrue 2 = .ok (.getfield 7, 3) := dk_180 0 7 (dk_at dksX20_isTrue_0 2 rfl rfl)
theorem dX20_isTrue_5 : decode cX20_isTrue 5 = .ok (.aload_n 0, 1) := dk_42 (dk_at dksX20_isTrue_0 5 rfl rfl)
theorem dX20_isTrue_6 : decode cX20_isTrue 6 = .ok (.getfield 13, 3) := dk_180 0 13 (dk_at dksX20_isTrue_0 6 rfl rfl)
theorem dX20_isTrue_9 : decode cX20_isTrue 9 = .ok (.invokevirtual 16, 3) := dk_182 0 16 (dk_at dksX20_isTrue_0 9 rfl rfl)
theorem dX20_isTrue_12 : decode cX20_isTrue 12 = .ok (.aload_n 0, 1) := dk_42 (dk_at dksX20_isTrue_0 12 rfl rfl)
theorem dX20_isTrue_13 : decode cX20_isTrue 13 = .ok (.getfield 22, 3) := dk_180 0 22 (dk_at dksX20_isTrue_0 13 rfl rfl)
theorem dX20_isTrue_16 : decode cX20_isTrue 16 = .ok (.if_icmp .eq 7, 3) := dk_159 0 7 (dk_at dksX20_isTrue_0 16 rfl rfl)
theorem dX20_isTrue_19 : decode cX20_isTrue 19 = .ok (.iconst 1, 1) := dk_4 (dk_at dksX20_isTrue_0 19 rfl rfl)
theorem dX20_isTrue_20 : decode cX20_isTrue 20 = .ok (.goto 4, 3) := dk_167 0 4 (dk_at dksX20_isTrue_0 20 rfl rfl)
theorem dX20_isTrue_23 : decode cX20_isTrue 23 = .ok (.iconst 0, 1) := dk_3 (dk_at dksX20_isTrue_0 23 rfl rfl)
theorem dX20_isTrue_24 : decode cX20_isTrue 24 = .ok (.ireturn, 1) := dk_172 (dk_at dksX20_isTrue_1 0 rfl rfl)
def dkwX1_isTrue_2 : List UInt8 := [182, 1, 21, 153, 0, 7, 4, 167, 0, 4, 3, 172]
abbrev dktX1_isTrue_2 : List UInt8 := dkwX1_isTrue_2 ++ []
def dkwX1_isTrue_1 : List UInt8 := [182, 0, 94, 172, 42, 27, 182, 1, 5, 42, 180, 0, 104, 180, 0, 207, 28, 50, 42, 180, 0, 46]
abbrev dktX1_isTrue_1 : List UInt8 := dkwX1_isTrue_1 ++ dktX1_isTrue_2
def dkwX1_isTrue_0 : List UInt8 := [42, 182, 0, 80, 42, 27, 182, 0, 255, 153, 0, 11, 42, 28, 182, 0, 222, 154, 0, 9, 42, 4]
abbrev dktX1_isTrue_0 : List UInt8 := dkwX1_isTrue_0 ++ dktX1_isTrue_1
theorem dksX1_isTrue_0 : cX1_isTrue.data.toList.drop 0 = dktX1_isTrue_0 := by decide +kernel
theorem dksX1_isTrue_1 : cX1_isTrue.data.toList.drop 22 = dktX1_isTrue_1 := dk_seg dksX1_isTrue_0 22 rfl rfl
theorem dksX1_isTrue_2 : cX1_isTrue.data.toList.drop 44 = dktX1_isTrue_2 := dk_seg dksX1_isTrue_1 22 rfl rfl
theorem dX1_isTrue_0 : decode cX1_isTrue 0 = .ok (.aload_n 0, 1) := dk_42 (dk_at dksX1_isTrue_0 0 rfl rfl)
theorem dX1_isTrue_1 : decode cX1_isTrue 1 = .ok (.invokevirtual 80, 3) := dk_182 0 80 (dk_at dksX1_isTrue_0 1 rfl rfl)
theorem dX1_isTrue_4 : decode cX1_isTrue 4 = .ok (.aload_n 0, 1) := dk_42 (dk_at dksX1_isTrue_0 4 rfl rfl)
theorem dX1_isTrue_5 : decode cX1_isTrue 5 = .ok (.iload_n 1, 1) := dk_27 (dk_at dksX1_isTrue_0 5 rfl rfl)
theorem dX1_isTrue_6 : decode cX1_isTrue 6 = .ok (.invokevirtual 255, 3) := dk_182 0 255 (dk_at dksX1_isTrue_0 6 rfl rfl)
theorem dX1_isTrue_9 : decode cX1_isTrue 9 = .ok (.ifCond .eq 11, 3) := dk_153 0 11 (dk_at dksX1_isTrue_0 9 rfl rfl)
theorem dX1_isTrue_12 : decode cX1_isTrue 12 = .ok (.aload_n 0, 1) := dk_42 (dk_at dksX1_isTrue_0 12 rfl rfl)
theorem dX1_isTrue_13 : decode cX1_isTrue 13 = .ok (.iload_n 2, 1) := dk_28 (dk_at dksX1_isTrue_0 13 rfl rfl)
theorem dX1_isTrue_14 : decode cX1_isTrue 14 = .ok (.invokevirtual 222, 3) := dk_182 0 222 (dk_at dksX1_isTrue_0 14 rfl rfl)
theorem dX1_isTrue_17 : decode cX1_isTrue 17 = .ok (.ifCond .ne 9, 3) := dk_154 0 9 (dk_at dksX1_isTrue_0 17 rfl rfl)
theorem dX1_isTrue_20 : decode cX1_isTrue 20 = .ok (.aload_n 0, 1) := dk_42 (dk_at dksX1_isTrue_0 20 rfl rfl)
theorem dX1_isTrue_21 : decode cX1_isTrue 21 = .ok (.iconst 1, 1) := dk_4 (dk_at dksX1_isTrue_0 21 rfl rfl)
theorem dX1_isTrue_22 : decode cX1_isTrue 22 = .ok (.invokevirtual 94, 3) := dk_182 0 94 (dk_at dksX1_isTrue_1 0 rfl rfl)
theorem dX1_isTrue_25 : decode cX1_isTrue 25 = .ok (.ireturn, 1) := dk_172 (dk_at dksX1_isTrue_1 3 rfl rfl)
theorem dX1_isTrue_26 : decode cX1_isTrue 26 = .ok (.aload_n 0, 1) := dk_42 (dk_at dksX1_isTrue_1 4 rfl rfl)
theorem dX1_isTrue_27 : decode cX1_isTrue 27 = .ok (.iload_n 1, 1) := dk_27 (dk_at dksX1_isTrue_1 5 rfl rfl)
theorem dX1_isTrue_28 : decode cX1_isTrue 28 = .ok (.invokevirtual 261, 3) := dk_182 1 5 (dk_at dksX1_isTrue_1 6 rfl rfl)
theorem dX1_isTrue_31 : decode cX1_isTrue 31 = .ok (.aload_n 0, 1) := dk_42 (dk_at dksX1_isTrue_1 9 rfl rfl)
theorem dX1_isTrue_32 : decode cX1_isTrue 32 = .ok (.getfield 104, 3) := dk_180 0 104 (dk_at dksX1_isTrue_1 10 rfl rfl)
theorem dX1_isTrue_35 : decode cX1_isTrue 35 = .ok (.getfield 207, 3) := dk_180 0 207 (dk_at dksX1_isTrue_1 13 rfl rfl)
theorem dX1_isTrue_38 : decode cX1_isTrue 38 = .ok (.iload_n 2, 1) := dk_28 (dk_at dksX1_isTrue_1 16 rfl rfl)
theorem dX1_isTrue_39 : decode cX1_isTrue 39 = .ok (.aaload, 1) := dk_50 (dk_at dksX1_isTrue_1 17 rfl rfl)
theorem dX1_isTrue_40 : decode cX1_isTrue 40 = .ok (.aload_n 0, 1) := dk_42 (dk_at dksX1_isTrue_1 18 rfl rfl)
theorem dX1_isTrue_41 : decode cX1_isTrue 41 = .ok (.getfield 46, 3) := dk_180 0 46 (dk_at dksX1_isTrue_1 19 rfl rfl)
theorem dX1_isTrue_44 : decode cX1_isTrue 44 = .ok (.invokevirtual 277, 3) := dk_182 1 21 (dk_at dksX1_isTrue_2 0 rfl rfl)
theorem dX1_isTrue_47 : decode cX1_isTrue 47 = .ok (.ifCond .eq 7, 3) := dk_153 0 7 (dk_at dksX1_isTrue_2 3 rfl rfl)
theorem dX1_isTrue_50 : decode cX1_isTrue 50 = .ok (.iconst 1, 1) := dk_4 (dk_at dksX1_isTrue_2 6 rfl rfl)
theorem dX1_isTrue_51 : decode cX1_isTrue 51 = .ok (.goto 4, 3) := dk_167 0 4 (dk_at dksX1_isTrue_2 7 rfl rfl)
theorem dX1_isTrue_54 : decode cX1_isTrue 54 = .ok (.iconst 0, 1) := dk_3 (dk_at dksX1_isTrue_2 10 rfl rfl)
theorem dX1_isTrue_55 : decode cX1_isTrue 55 = .ok (.ireturn, 1) := dk_172 (dk_at dksX1_isTrue_2 11 rfl rfl)
def dkwX7_holdsNow_4 : List UInt8 := [180, 1, 120, 27, 46, 4, 160, 0, 7, 4, 167, 0, 4, 3, 160, 0, 7, 4, 167, 0, 4, 3, 172]
abbrev dktX7_holdsNow_4 : List UInt8 := dkwX7_holdsNow_4 ++ []
def dkwX7_holdsNow_3 : List UInt8 := [46, 42, 180, 1, 186, 180, 1, 126, 27, 46, 160, 0, 7, 4, 167, 0, 4, 3, 42, 180, 1, 186]
abbrev dktX7_holdsNow_3 : List UInt8 := dkwX7_holdsNow_3 ++ dktX7_holdsNow_4
def dkwX7_holdsNow_2 : List UInt8 := [4, 167, 0, 4, 3, 172, 42, 180, 0, 30, 16, 12, 28, 104, 42, 180, 1, 186, 180, 1, 129, 27, 46, 96]
abbrev dktX7_holdsNow_2 : List UInt8 := dkwX7_holdsNow_2 ++ dktX7_holdsNow_3
def dkwX7_holdsNow_1 : List UInt8 := [42, 180, 1, 186, 180, 1, 129, 27, 46, 42, 180, 1, 186, 180, 1, 126, 27, 46, 182, 1, 223, 158, 0, 7]
abbrev dktX7_holdsNow_1 : List UInt8 := dkwX7_holdsNow_1 ++ dktX7_holdsNow_2
def dkwX7_holdsNow_0 : List UInt8 := [42, 180, 1, 186, 180, 1, 123, 27, 46, 61, 42, 180, 1, 186, 180, 1, 120, 27, 46, 154, 0, 35, 42, 28]
abbrev dktX7_holdsNow_0 : List UInt8 := dkwX7_holdsNow_0 ++ dktX7_holdsNow_1
theorem dksX7_holdsNow_0 : cX7_holdsNow.data.toList.drop 0 = dktX7_holdsNow_0 := by decide +kernel
theorem dksX7_holdsNow_1 : cX7_holdsNow.data.toList.drop 24 = dktX7_holdsNow_1 := dk_seg dksX7_holdsNow_0 24 rfl rfl
theorem dksX7_holdsNow_2 : cX7_holdsNow.data.toList.drop 48 = dktX7_holdsNow_2 := dk_seg dksX7_holdsNow_1 24 rfl rfl
theorem dksX7_holdsNow_3 : cX7_holdsNow.data.toList.drop 72 = dktX7_holdsNow_3 := dk_seg dksX7_holdsNow_2 24 rfl rfl
theorem dksX7_holdsNow_4 : cX7_holdsNow.data.toList.drop 94 = dktX7_holdsNow_4 := dk_seg dksX7_holdsNow_3 22 rfl rfl
theorem dX7_holdsNow_0 : decode cX7_holdsNow 0 = .ok (.aload_n 0, 1) := dk_42 (dk_at dksX7_holdsNow_0 0 rfl rfl)
theorem dX7_holdsNow_1 : decode cX7_holdsNow 1 = .ok (.getfield 442, 3) := dk_180 1 186 (dk_at dksX7_holdsNow_0 1 rfl rfl)
theorem dX7_holdsNow_4 : decode cX7_holdsNow 4 = .ok (.getfield 379, 3) := dk_180 1 123 (dk_at dksX7_holdsNow_0 4 rfl rfl)
theorem dX7_holdsNow_7 : decode cX7_holdsNow 7 = .ok (.iload_n 1, 1) := dk_27 (dk_at dksX7_holdsNow_0 7 rfl rfl)
theorem dX7_holdsNow_8 : decode cX7_holdsNow 8 = .ok (.iaload, 1) := dk_46 (dk_at dksX7_holdsNow_0 8 rfl rfl)
theorem dX7_holdsNow_9 : decode cX7_holdsNow 9 = .ok (.istore_n 2, 1) := dk_61 (dk_at dksX7_holdsNow_0 9 rfl rfl)
theorem dX7_holdsNow_10 : decode cX7_holdsNow 10 = .ok (.aload_n 0, 1) := dk_42 (dk_at dksX7_holdsNow_0 10 rfl rfl)
theorem dX7_holdsNow_11 : decode cX7_holdsNow 11 = .ok (.getfield 442, 3) := dk_180 1 186 (dk_at dksX7_holdsNow_0 11 rfl rfl)
theorem dX7_holdsNow_14 : decode cX7_holdsNow 14 = .ok (.getfield 376, 3) := dk_180 1 120 (dk_at dksX7_holdsNow_0 14 rfl rfl)
theorem dX7_holdsNow_17 : decode cX7_holdsNow 17 = .ok (.iload_n 1, 1) := dk_27 (dk_at dksX7_holdsNow_0 17 rfl rfl)
theorem dX7_holdsNow_18 : decode cX7_holdsNow 18 = .ok (.iaload, 1) := dk_46 (dk_at dksX7_holdsNow_0 18 rfl rfl)
theorem dX7_holdsNow_19 : decode cX7_holdsNow 19 = .ok (.ifCond .ne 35, 3) := dk_154 0 35 (dk_at dksX7_holdsNow_0 19 rfl rfl)
theorem dX7_holdsNow_22 : decode cX7_holdsNow 22 = .ok (.aload_n 0, 1) := dk_42 (dk_at dksX7_holdsNow_0 22 rfl rfl)
theorem dX7_holdsNow_23 : decode cX7_holdsNow 23 = .ok (.iload_n 2, 1) := dk_28 (dk_at dksX7_holdsNow_0 23 rfl rfl)
theorem dX7_holdsNow_24 : decode cX7_holdsNow 24 = .ok (.aload_n 0, 1) := dk_42 (dk_at dksX7_holdsNow_1 0 rfl rfl)
theorem dX7_holdsNow_25 : decode cX7_holdsNow 25 = .ok (.getfield 442, 3) := dk_180 1 186 (dk_at dksX7_holdsNow_1 1 rfl rfl)
theorem dX7_holdsNow_28 : decode cX7_holdsNow 28 = .ok (.getfield 385, 3) := dk_180 1 129 (dk_at dksX7_holdsNow_1 4 rfl rfl)
theorem dX7_holdsNow_31 : decode cX7_holdsNow 31 = .ok (.iload_n 1, 1) := dk_27 (dk_at dksX7_holdsNow_1 7 rfl rfl)
theorem dX7_holdsNow_32 : decode cX7_holdsNow 32 = .ok (.iaload, 1) := dk_46 (dk_at dksX7_holdsNow_1 8 rfl rfl)
theorem dX7_holdsNow_33 : decode cX7_holdsNow 33 = .ok (.aload_n 0, 1) := dk_42 (dk_at dksX7_holdsNow_1 9 rfl rfl)
theorem dX7_holdsNow_34 : decode cX7_holdsNow 34 = .ok (.getfield 442, 3) := dk_180 1 186 (dk_at dksX7_holdsNow_1 10 rfl rfl)
theorem dX7_holdsNow_37 : decode cX7_holdsNow 37 = .ok (.getfield 382, 3) := dk_180 1 126 (dk_at dksX7_holdsNow_1 13 rfl rfl)
theorem dX7_holdsNow_40 : decode cX7_holdsNow 40 = .ok (.iload_n 1, 1) := dk_27 (dk_at dksX7_holdsNow_1 16 rfl rfl)
theorem dX7_holdsNow_41 : decode cX7_holdsNow 41 = .ok (.iaload, 1) := dk_46 (dk_at dksX7_holdsNow_1 17 rfl rfl)
theorem dX7_holdsNow_42 : decode cX7_holdsNow 42 = .ok (.invokevirtual 479, 3) := dk_182 1 223 (dk_at dksX7_holdsNow_1 18 rfl rfl)
theorem dX7_holdsNow_45 : decode cX7_holdsNow 45 = .ok (.ifCond .le 7, 3) := dk_158 0 7 (dk_at dksX7_holdsNow_1 21 rfl rfl)
theorem dX7_holdsNow_48 : decode cX7_holdsNow 48 = .ok (.iconst 1, 1) := dk_4 (dk_at dksX7_holdsNow_2 0 rfl rfl)
theorem dX7_holdsNow_49 : decode cX7_holdsNow 49 = .ok (.goto 4, 3) := dk_167 0 4 (dk_at dksX7_holdsNow_2 1 rfl rfl)
theorem dX7_holdsNow_52 : decode cX7_holdsNow 52 = .ok (.iconst 0, 1) := dk_3 (dk_at dksX7_holdsNow_2 4 rfl rfl)
theorem dX7_holdsNow_53 : decode cX7_holdsNow 53 = .ok (.ireturn, 1) := dk_172 (dk_at dksX7_holdsNow_2 5 rfl rfl)
theorem dX7_holdsNow_54 : decode cX7_holdsNow 54 = .ok (.aload_n 0, 1) := dk_42 (dk_at dksX7_holdsNow_2 6 rfl rfl)
theorem dX7_holdsNow_55 : decode cX7_holdsNow 55 = .ok (.getfield 30, 3) := dk_180 0 30 (dk_at dksX7_holdsNow_2 7 rfl rfl)
theorem dX7_holdsNow_58 : decode cX7_holdsNow 58 = .ok (.bipush 12, 2) := dk_16 12 (dk_at dksX7_holdsNow_2 10 rfl rfl)
theorem dX7_holdsNow_60 : decode cX7_holdsNow 60 = .ok (.iload_n 2, 1) := dk_28 (dk_at dksX7_holdsNow_2 12 rfl rfl)
theorem dX7_holdsNow_61 : decode cX7_holdsNow 61 = .ok (.imul, 1) := dk_104 (dk_at dksX7_holdsNow_2 13 rfl rfl)
theorem dX7_holdsNow_62 : decode cX7_holdsNow 62 = .ok (.aload_n 0, 1) := dk_42 (dk_at dksX7_holdsNow_2 14 rfl rfl)
theorem dX7_holdsNow_63 : decode cX7_holdsNow 63 = .ok (.getfield 442, 3) := dk_180 1 186 (dk_at dksX7_holdsNow_2 15 rfl rfl)
theorem dX7_holdsNow_66 : decode cX7_holdsNow 66 = .ok (.getfield 385, 3) := dk_180 1 129 (dk_at dksX7_holdsNow_2 18 rfl rfl)
theorem dX7_holdsNow_69 : decode cX7_holdsNow 69 = .ok (.iload_n 1, 1) := dk_27 (dk_at dksX7_holdsNow_2 21 rfl rfl)
theorem dX7_holdsNow_70 : decode cX7_holdsNow 70 = .ok (.iaload, 1) := dk_46 (dk_at dksX7_holdsNow_2 22 rfl rfl)
theorem dX7_holdsNow_71 : decode cX7_holdsNow 71 = .ok (.iadd, 1) := dk_96 (dk_at dksX7_holdsNow_2 23 rfl rfl)
theorem dX7_holdsNow_72 : decode cX7_holdsNow 72 = .ok (.iaload, 1) := dk_46 (dk_at dksX7_holdsNow_3 0 rfl rfl)
theorem dX7_holdsNow_73 : decode cX7_holdsNow 73 = .ok (.aload_n 0, 1) := dk_42 (dk_at dksX7_holdsNow_3 1 rfl rfl)
theorem dX7_holdsNow_74 : decode cX7_holdsNow 74 = .ok (.getfield 442, 3) := dk_180 1 186 (dk_at dksX7_holdsNow_3 2 rfl rfl)
theorem dX7_holdsNow_77 : decode cX7_holdsNow 77 = .ok (.getfield 382, 3) := dk_180 1 126 (dk_at dksX7_holdsNow_3 5 rfl rfl)
theorem dX7_holdsNow_80 : decode cX7_holdsNow 80 = .ok (.iload_n 1, 1) := dk_27 (dk_at dksX7_holdsNow_3 8 rfl rfl)
theorem dX7_holdsNow_81 : decode cX7_holdsNow 81 = .ok (.iaload, 1) := dk_46 (dk_at dksX7_holdsNow_3 9 rfl rfl)
theorem dX7_holdsNow_82 : decode cX7_holdsNow 82 = .ok (.if_icmp .ne 7, 3) := dk_160 0 7 (dk_at dksX7_holdsNow_3 10 rfl rfl)
theorem dX7_holdsNow_85 : decode cX7_holdsNow 85 = .ok (.iconst 1, 1) := dk_4 (dk_at dksX7_holdsNow_3 13 rfl rfl)
theorem dX7_holdsNow_86 : decode cX7_holdsNow 86 = .ok (.goto 4, 3) := dk_167 0 4 (dk_at dksX7_holdsNow_3 14 rfl rfl)
theorem dX7_holdsNow_89 : decode cX7_holdsNow 89 = .ok (.iconst 0, 1) := dk_3 (dk_at dksX7_holdsNow_3 17 rfl rfl)
theorem dX7_holdsNow_90 : decode cX7_holdsNow 90 = .ok (.aload_n 0, 1) := dk_42 (dk_at dksX7_holdsNow_3 18 rfl rfl)
theorem dX7_holdsNow_91 : decode cX7_holdsNow 91 = .ok (.getfield 442, 3) := dk_180 1 186 (dk_at dksX7_holdsNow_3 19 rfl rfl)
theorem dX7_holdsNow_94 : decode cX7_holdsNow 94 = .ok (.getfield 376, 3) := dk_180 1 120 (dk_at dksX7_holdsNow_4 0 rfl rfl)
theorem dX7_holdsNow_97 : decode cX7_holdsNow 97 = .ok (.iload_n 1, 1) := dk_27 (dk_at dksX7_holdsNow_4 3 rfl rfl)
theorem dX7_holdsNow_98 : decode cX7_holdsNow 98 = .ok (.iaload, 1) := dk_46 (dk_at dksX7_holdsNow_4 4 rfl rfl)
theorem dX7_holdsNow_99 : decode cX7_holdsNow 99 = .ok (.iconst 1, 1) := dk_4 (dk_at dksX7_holdsNow_4 5 rfl rfl)
theorem dX7_holdsNow_100 : decode cX7_holdsNow 100 = .ok (.if_icmp .ne 7, 3) := dk_160 0 7 (dk_at dksX7_holdsNow_4 6 rfl rfl)
theorem dX7_holdsNow_103 : decode cX7_holdsNow 103 = .ok (.iconst 1, 1) := dk_4 (dk_at dksX7_holdsNow_4 9 rfl rfl)
theorem dX7_holdsNow_104 : decode cX7_holdsNow 104 = .ok (.goto 4, 3) := dk_167 0 4 (dk_at dksX7_holdsNow_4 10 rfl rfl)
theorem dX7_holdsNow_107 : decode cX7_holdsNow 107 = .ok (.iconst 0, 1) := dk_3 (dk_at dksX7_holdsNow_4 13 rfl rfl)
theorem dX7_holdsNow_108 : decode cX7_holdsNow 108 = .ok (.if_icmp .ne 7, 3) := dk_160 0 7 (dk_at dksX7_holdsNow_4 14 rfl rfl)
theorem dX7_holdsNow_111 : decode cX7_holdsNow 111 = .ok (.iconst 1, 1) := dk_4 (dk_at dksX7_holdsNow_4 17 rfl rfl)
theorem dX7_holdsNow_112 : decode cX7_holdsNow 112 = .ok (.goto 4, 3) := dk_167 0 4 (dk_at dksX7_holdsNow_4 18 rfl rfl)
theorem dX7_holdsNow_115 : decode cX7_holdsNow 115 = .ok (.iconst 0, 1) := dk_3 (dk_at dksX7_holdsNow_4 21 rfl rfl)
theorem dX7_holdsNow_116 : decode cX7_holdsNow 116 = .ok (.ireturn, 1) := dk_172 (dk_at dksX7_holdsNow_4 22 rfl rfl)
def dkwX7_isTrue_2 : List UInt8 := [182, 0, 76, 172]
abbrev dktX7_isTrue_2 : List UInt8 := dkwX7_isTrue_2 ++ []
def dkwX7_isTrue_1 : List UInt8 := [182, 0, 72, 172, 42, 27, 182, 1, 226, 42, 42, 28, 182, 1, 229, 153, 0, 7, 4, 167, 0, 4, 3]
abbrev dktX7_isTrue_1 : List UInt8 := dkwX7_isTrue_1 ++ dktX7_isTrue_2
def dkwX7_isTrue_0 : List UInt8 := [42, 3, 181, 0, 66, 42, 27, 182, 2, 2, 153, 0, 11, 42, 28, 182, 1, 247, 154, 0, 9, 42, 4]
abbrev dktX7_isTrue_0 : List UInt8 := dkwX7_isTrue_0 ++ dktX7_isTrue_1
theorem dksX7_isTrue_0 : cX7_isTrue.data.toList.drop 0 = dktX7_isTrue_0 := by decide +kernel
theorem dksX7_isTrue_1 : cX7_isTrue.data.toList.drop 23 = dktX7_isTrue_1 := dk_seg dksX7_isTrue_0 23 rfl rfl
theorem dksX7_isTrue_2 : cX7_isTrue.data.toList.drop 46 = dktX7_isTrue_2 := dk_seg dksX7_isTrue_1 23 rfl rfl
theorem dX7_isTrue_0 : decode cX7_isTrue 0 = .ok (.aload_n 0, 1) := dk_42 (dk_at dksX7_isTrue_0 0 rfl rfl)
theorem dX7_isTrue_1 : decode cX7_isTrue 1 = .ok (.iconst 0, 1) := dk_3 (dk_at dksX7_isTrue_0 1 rfl rfl)
theorem dX7_isTrue_2 : decode cX7_isTrue 2 = .ok (.putfield 66, 3) := dk_181 0 66 (dk_at dksX7_isTrue_0 2 rfl rfl)
theorem dX7_isTrue_5 : decode cX7_isTrue 5 = .ok (.aload_n 0, 1) := dk_42 (dk_at dksX7_isTrue_0 5 rfl rfl)
theorem dX7_isTrue_6 : decode cX7_isTrue 6 = .ok (.iload_n 1, 1) := dk_27 (dk_at dksX7_isTrue_0 6 rfl rfl)
theorem dX7_isTrue_7 : decode cX7_isTrue 7 = .ok (.invokevirtual 514, 3) := dk_182 2 2 (dk_at dksX7_isTrue_0 7 rfl rfl)
theorem dX7_isTrue_10 : decode cX7_isTrue 10 = .ok (.ifCond .eq 11, 3) := dk_153 0 11 (dk_at dksX7_isTrue_0 10 rfl rfl)
theorem dX7_isTrue_13 : decode cX7_isTrue 13 = .ok (.aload_n 0, 1) := dk_42 (dk_at dksX7_isTrue_0 13 rfl rfl)
theorem dX7_isTrue_14 : decode cX7_isTrue 14 = .ok (.iload_n 2, 1) := dk_28 (dk_at dksX7_isTrue_0 14 rfl rfl)
theorem dX7_isTrue_15 : decode cX7_isTrue 15 = .ok (.invokevirtual 503, 3) := dk_182 1 247 (dk_at dksX7_isTrue_0 15 rfl rfl)
theorem dX7_isTrue_18 : decode cX7_isTrue 18 = .ok (.ifCond .ne 9, 3) := dk_154 0 9 (dk_at dksX7_isTrue_0 18 rfl rfl)
theorem dX7_isTrue_21 : decode cX7_isTrue 21 = .ok (.aload_n 0, 1) := dk_42 (dk_at dksX7_isTrue_0 21 rfl rfl)
theorem dX7_isTrue_22 : decode cX7_isTrue 22 = .ok (.iconst 1, 1) := dk_4 (dk_at dksX7_isTrue_0 22 rfl rfl)
theorem dX7_isTrue_23 : decode cX7_isTrue 23 = .ok (.invokevirtual 72, 3) := dk_182 0 72 (dk_at dksX7_isTrue_1 0 rfl rfl)
theorem dX7_isTrue_26 : decode cX7_isTrue 26 = .ok (.ireturn, 1) := dk_172 (dk_at dksX7_isTrue_1 3 rfl rfl)
theorem dX7_isTrue_27 : decode cX7_isTrue 27 = .ok (.aload_n 0, 1) := dk_42 (dk_at dksX7_isTrue_1 4 rfl rfl)
theorem dX7_isTrue_28 : decode cX7_isTrue 28 = .ok (.iload_n 1, 1) := dk_27 (dk_at dksX7_isTrue_1 5 rfl rfl)
theorem dX7_isTrue_29 : decode cX7_isTrue 29 = .ok (.invokevirtual 482, 3) := dk_182 1 226 (dk_at dksX7_isTrue_1 6 rfl rfl)
theorem dX7_isTrue_32 : decode cX7_isTrue 32 = .ok (.aload_n 0, 1) := dk_42 (dk_at dksX7_isTrue_1 9 rfl rfl)
theorem dX7_isTrue_33 : decode cX7_isTrue 33 = .ok (.aload_n 0, 1) := dk_42 (dk_at dksX7_isTrue_1 10 rfl rfl)
theorem dX7_isTrue_34 : decode cX7_isTrue 34 = .ok (.iload_n 2, 1) := dk_28 (dk_at dksX7_isTrue_1 11 rfl rfl)
theorem dX7_isTrue_35 : decode cX7_isTrue 35 = .ok (.invokevirtual 485, 3) := dk_182 1 229 (dk_at dksX7_isTrue_1 12 rfl rfl)
theorem dX7_isTrue_38 : decode cX7_isTrue 38 = .ok (.ifCond .eq 7, 3) := dk_153 0 7 (dk_at dksX7_isTrue_1 15 rfl rfl)
theorem dX7_isTrue_41 : decode cX7_isTrue 41 = .ok (.iconst 1, 1) := dk_4 (dk_at dksX7_isTrue_1 18 rfl rfl)
theorem dX7_isTrue_42 : decode cX7_isTrue 42 = .ok (.goto 4, 3) := dk_167 0 4 (dk_at dksX7_isTrue_1 19 rfl rfl)
theorem dX7_isTrue_45 : decode cX7_isTrue 45 = .ok (.iconst 0, 1) := dk_3 (dk_at dksX7_isTrue_1 22 rfl rfl)
theorem dX7_isTrue_46 : decode cX7_isTrue 46 = .ok (.invokevirtual 76, 3) := dk_182 0 76 (dk_at dksX7_isTrue_2 0 rfl rfl)
theorem dX7_isTrue_49 : decode cX7_isTrue 49 = .ok (.ireturn, 1) := dk_172 (dk_at dksX7_isTrue_2 3 rfl rfl)
def dkwX8_clueGoats_1 : List UInt8 := [128, 60, 132, 2, 1, 167, 255, 231, 27, 172]
abbrev dktX8_clueGoats_1 : List UInt8 := dkwX8_clueGoats_1 ++ []
def dkwX8_clueGoats_0 : List UInt8 := [3, 60, 3, 61, 28, 42, 180, 0, 110, 162, 0, 23, 27, 4, 42, 180, 0, 44, 28, 50, 180, 0, 113, 120]
abbrev dktX8_clueGoats_0 : List UInt8 := dkwX8_clueGoats_0 ++ dktX8_clueGoats_1
theorem dksX8_clueGoats_0 : cX8_clueGoats.data.toList.drop 0 = dktX8_clueGoats_0 := by decide +kernel
theorem dksX8_clueGoats_1 : cX8_clueGoats.data.toList.drop 24 = dktX8_clueGoats_1 := dk_seg dksX8_clueGoats_0 24 rfl rfl
theorem dX8_clueGoats_0 : decode cX8_clueGoats 0 = .ok (.iconst 0, 1) := dk_3 (dk_at dksX8_clueGoats_0 0 rfl rfl)
theorem dX8_clueGoats_1 : decode cX8_clueGoats 1 = .ok (.istore_n 1, 1) := dk_60 (dk_at dksX8_clueGoats_0 1 rfl rfl)
theorem dX8_clueGoats_2 : decode cX8_clueGoats 2 = .ok (.iconst 0, 1) := dk_3 (dk_at dksX8_clueGoats_0 2 rfl rfl)
theorem dX8_clueGoats_3 : decode cX8_clueGoats 3 = .ok (.istore_n 2, 1) := dk_61 (dk_at dksX8_clueGoats_0 3 rfl rfl)
theorem dX8_clueGoats_4 : decode cX8_clueGoats 4 = .ok (.iload_n 2, 1) := dk_28 (dk_at dksX8_clueGoats_0 4 rfl rfl)
theorem dX8_clueGoats_5 : decode cX8_clueGoats 5 = .ok (.aload_n 0, 1) := dk_42 (dk_at dksX8_clueGoats_0 5 rfl rfl)
theorem dX8_clueGoats_6 : decode cX8_clueGoats 6 = .ok (.getfield 110, 3) := dk_180 0 110 (dk_at dksX8_clueGoats_0 6 rfl rfl)
theorem dX8_clueGoats_9 : decode cX8_clueGoats 9 = .ok (.if_icmp .ge 23, 3) := dk_162 0 23 (dk_at dksX8_clueGoats_0 9 rfl rfl)
theorem dX8_clueGoats_12 : decode cX8_clueGoats 12 = .ok (.iload_n 1, 1) := dk_27 (dk_at dksX8_clueGoats_0 12 rfl rfl)
theorem dX8_clueGoats_13 : decode cX8_clueGoats 13 = .ok (.iconst 1, 1) := dk_4 (dk_at dksX8_clueGoats_0 13 rfl rfl)
theorem dX8_clueGoats_14 : decode cX8_clueGoats 14 = .ok (.aload_n 0, 1) := dk_42 (dk_at dksX8_clueGoats_0 14 rfl rfl)
theorem dX8_clueGoats_15 : decode cX8_clueGoats 15 = .ok (.getfield 44, 3) := dk_180 0 44 (dk_at dksX8_clueGoats_0 15 rfl rfl)
theorem dX8_clueGoats_18 : decode cX8_clueGoats 18 = .ok (.iload_n 2, 1) := dk_28 (dk_at dksX8_clueGoats_0 18 rfl rfl)
theorem dX8_clueGoats_19 : decode cX8_clueGoats 19 = .ok (.aaload, 1) := dk_50 (dk_at dksX8_clueGoats_0 19 rfl rfl)
theorem dX8_clueGoats_20 : decode cX8_clueGoats 20 = .ok (.getfield 113, 3) := dk_180 0 113 (dk_at dksX8_clueGoats_0 20 rfl rfl)
theorem dX8_clueGoats_23 : decode cX8_clueGoats 23 = .ok (.ishl, 1) := dk_120 (dk_at dksX8_clueGoats_0 23 rfl rfl)
theorem dX8_clueGoats_24 : decode cX8_clueGoats 24 = .ok (.ior, 1) := dk_128 (dk_at dksX8_clueGoats_1 0 rfl rfl)
theorem dX8_clueGoats_25 : decode cX8_clueGoats 25 = .ok (.istore_n 1, 1) := dk_60 (dk_at dksX8_clueGoats_1 1 rfl rfl)
theorem dX8_clueGoats_26 : decode cX8_clueGoats 26 = .ok (.iinc 2 1, 3) := dk_132 2 1 (dk_at dksX8_clueGoats_1 2 rfl rfl)
theorem dX8_clueGoats_29 : decode cX8_clueGoats 29 = .ok (.goto (-25), 3) := dk_167 255 231 (dk_at dksX8_clueGoats_1 5 rfl rfl)
theorem dX8_clueGoats_32 : decode cX8_clueGoats 32 = .ok (.iload_n 1, 1) := dk_27 (dk_at dksX8_clueGoats_1 8 rfl rfl)
theorem dX8_clueGoats_33 : decode cX8_clueGoats 33 = .ok (.ireturn, 1) := dk_172 (dk_at dksX8_clueGoats_1 9 rfl rfl)
def dkwX5_trueGoats_2 : List UInt8 := [28, 50, 180, 0, 184, 120, 2, 130, 126, 60, 132, 2, 1, 167, 255, 207, 27, 172]
abbrev dktX5_trueGoats_2 : List UInt8 := dkwX5_trueGoats_2 ++ []
def dkwX5_trueGoats_1 : List UInt8 := [180, 0, 33, 180, 0, 174, 28, 50, 42, 182, 0, 178, 154, 0, 22, 27, 4, 42, 180, 0, 33, 180, 0, 174]
abbrev dktX5_trueGoats_1 : List UInt8 := dkwX5_trueGoats_1 ++ dktX5_trueGoats_2
def dkwX5_trueGoats_0 : List UInt8 := [42, 180, 0, 33, 182, 0, 168, 60, 3, 61, 28, 42, 180, 0, 33, 180, 0, 171, 162, 0, 44, 42]
abbrev dktX5_trueGoats_0 : List UInt8 := dkwX5_trueGoats_0 ++ dktX5_trueGoats_1
theorem dksX5_trueGoats_0 : cX5_trueGoats.data.toList.drop 0 = dktX5_trueGoats_0 := by decide +kernel
theorem dksX5_trueGoats_1 : cX5_trueGoats.data.toList.drop 22 = dktX5_trueGoats_1 := dk_seg dksX5_trueGoats_0 22 rfl rfl
theorem dksX5_trueGoats_2 : cX5_trueGoats.data.toList.drop 46 = dktX5_trueGoats_2 := dk_seg dksX5_trueGoats_1 24 rfl rfl
theorem dX5_trueGoats_0 : decode cX5_trueGoats 0 = .ok (.aload_n 0, 1) := dk_42 (dk_at dksX5_trueGoats_0 0 rfl rfl)
theorem dX5_trueGoats_1 : decode cX5_trueGoats 1 = .ok (.getfield 33, 3) := dk_180 0 33 (dk_at dksX5_trueGoats_0 1 rfl rfl)
theorem dX5_trueGoats_4 : decode cX5_trueGoats 4 = .ok (.invokevirtual 168, 3) := dk_182 0 168 (dk_at dksX5_trueGoats_0 4 rfl rfl)
theorem dX5_trueGoats_7 : decode cX5_trueGoats 7 = .ok (.istore_n 1, 1) := dk_60 (dk_at dksX5_trueGoats_0 7 rfl rfl)
theorem dX5_trueGoats_8 : decode cX5_trueGoats 8 = .ok (.iconst 0, 1) := dk_3 (dk_at dksX5_trueGoats_0 8 rfl rfl)
theorem dX5_trueGoats_9 : decode cX5_trueGoats 9 = .ok (.istore_n 2, 1) := dk_61 (dk_at dksX5_trueGoats_0 9 rfl rfl)
theorem dX5_trueGoats_10 : decode cX5_trueGoats 10 = .ok (.iload_n 2, 1) := dk_28 (dk_at dksX5_trueGoats_0 10 rfl rfl)
theorem dX5_trueGoats_11 : decode cX5_trueGoats 11 = .ok (.aload_n 0, 1) := dk_42 (dk_at dksX5_trueGoats_0 11 rfl rfl)
theorem dX5_trueGoats_12 : decode cX5_trueGoats 12 = .ok (.getfield 33, 3) := dk_180 0 33 (dk_at dksX5_trueGoats_0 12 rfl rfl)
theorem dX5_trueGoats_15 : decode cX5_trueGoats 15 = .ok (.getfield 171, 3) := dk_180 0 171 (dk_at dksX5_trueGoats_0 15 rfl rfl)
theorem dX5_trueGoats_18 : decode cX5_trueGoats 18 = .ok (.if_icmp .ge 44, 3) := dk_162 0 44 (dk_at dksX5_trueGoats_0 18 rfl rfl)
theorem dX5_trueGoats_21 : decode cX5_trueGoats 21 = .ok (.aload_n 0, 1) := dk_42 (dk_at dksX5_trueGoats_0 21 rfl rfl)
theorem dX5_trueGoats_22 : decode cX5_trueGoats 22 = .ok (.getfield 33, 3) := dk_180 0 33 (dk_at dksX5_trueGoats_1 0 rfl rfl)
theorem dX5_trueGoats_25 : decode cX5_trueGoats 25 = .ok (.getfield 174, 3) := dk_180 0 174 (dk_at dksX5_trueGoats_1 3 rfl rfl)
theorem dX5_trueGoats_28 : decode cX5_trueGoats 28 = .ok (.iload_n 2, 1) := dk_28 (dk_at dksX5_trueGoats_1 6 rfl rfl)
theorem dX5_trueGoats_29 : decode cX5_trueGoats 29 = .ok (.aaload, 1) := dk_50 (dk_at dksX5_trueGoats_1 7 rfl rfl)
theorem dX5_trueGoats_30 : decode cX5_trueGoats 30 = .ok (.aload_n 0, 1) := dk_42 (dk_at dksX5_trueGoats_1 8 rfl rfl)
theorem dX5_trueGoats_31 : decode cX5_trueGoats 31 = .ok (.invokevirtual 178, 3) := dk_182 0 178 (dk_at dksX5_trueGoats_1 9 rfl rfl)
theorem dX5_trueGoats_34 : decode cX5_trueGoats 34 = .ok (.ifCond .ne 22, 3) := dk_154 0 22 (dk_at dksX5_trueGoats_1 12 rfl rfl)
theorem dX5_trueGoats_37 : decode cX5_trueGoats 37 = .ok (.iload_n 1, 1) := dk_27 (dk_at dksX5_trueGoats_1 15 rfl rfl)
theorem dX5_trueGoats_38 : decode cX5_trueGoats 38 = .ok (.iconst 1, 1) := dk_4 (dk_at dksX5_trueGoats_1 16 rfl rfl)
theorem dX5_trueGoats_39 : decode cX5_trueGoats 39 = .ok (.aload_n 0, 1) := dk_42 (dk_at dksX5_trueGoats_1 17 rfl rfl)
theorem dX5_trueGoats_40 : decode cX5_trueGoats 40 = .ok (.getfield 33, 3) := dk_180 0 33 (dk_at dksX5_trueGoats_1 18 rfl rfl)
theorem dX5_trueGoats_43 : decode cX5_trueGoats 43 = .ok (.getfield 174, 3) := dk_180 0 174 (dk_at dksX5_trueGoats_1 21 rfl rfl)
theorem dX5_trueGoats_46 : decode cX5_trueGoats 46 = .ok (.iload_n 2, 1) := dk_28 (dk_at dksX5_trueGoats_2 0 rfl rfl)
theorem dX5_trueGoats_47 : decode cX5_trueGoats 47 = .ok (.aaload, 1) := dk_50 (dk_at dksX5_trueGoats_2 1 rfl rfl)
theorem dX5_trueGoats_48 : decode cX5_trueGoats 48 = .ok (.getfield 184, 3) := dk_180 0 184 (dk_at dksX5_trueGoats_2 2 rfl rfl)
theorem dX5_trueGoats_51 : decode cX5_trueGoats 51 = .ok (.ishl, 1) := dk_120 (dk_at dksX5_trueGoats_2 5 rfl rfl)
theorem dX5_trueGoats_52 : decode cX5_trueGoats 52 = .ok (.iconst (-1), 1) := dk_2 (dk_at dksX5_trueGoats_2 6 rfl rfl)
theorem dX5_trueGoats_53 : decode cX5_trueGoats 53 = .ok (.ixor, 1) := dk_130 (dk_at dksX5_trueGoats_2 7 rfl rfl)
theorem dX5_trueGoats_54 : decode cX5_trueGoats 54 = .ok (.iand, 1) := dk_126 (dk_at dksX5_trueGoats_2 8 rfl rfl)
theorem dX5_trueGoats_55 : decode cX5_trueGoats 55 = .ok (.istore_n 1, 1) := dk_60 (dk_at dksX5_trueGoats_2 9 rfl rfl)
theorem dX5_trueGoats_56 : decode cX5_trueGoats 56 = .ok (.iinc 2 1, 3) := dk_132 2 1 (dk_at dksX5_trueGoats_2 10 rfl rfl)
theorem dX5_trueGoats_59 : decode cX5_trueGoats 59 = .ok (.goto (-49), 3) := dk_167 255 207 (dk_at dksX5_trueGoats_2 13 rfl rfl)
theorem dX5_trueGoats_62 : decode cX5_trueGoats 62 = .ok (.iload_n 1, 1) := dk_27 (dk_at dksX5_trueGoats_2 16 rfl rfl)
theorem dX5_trueGoats_63 : decode cX5_trueGoats 63 = .ok (.ireturn, 1) := dk_172 (dk_at dksX5_trueGoats_2 17 rfl rfl)
def dkwX1_layTruth_1 : List UInt8 := [180, 0, 46, 182, 1, 25, 79, 132, 1, 1, 167, 255, 224, 177]
abbrev dktX1_layTruth_1 : List UInt8 := dkwX1_layTruth_1 ++ []
def dkwX1_layTruth_0 : List UInt8 := [3, 60, 27, 42, 180, 0, 104, 182, 0, 124, 162, 0, 27, 42, 27, 182, 1, 5, 42, 180, 0, 64, 27, 42]
abbrev dktX1_layTruth_0 : List UInt8 := dkwX1_layTruth_0 ++ dktX1_layTruth_1
theorem dksX1_layTruth_0 : cX1_layTruth.data.toList.drop 0 = dktX1_layTruth_0 := by decide +kernel
theorem dksX1_layTruth_1 : cX1_layTruth.data.toList.drop 24 = dktX1_layTruth_1 := dk_seg dksX1_layTruth_0 24 rfl rfl
theorem dX1_layTruth_0 : decode cX1_layTruth 0 = .ok (.iconst 0, 1) := dk_3 (dk_at dksX1_layTruth_0 0 rfl rfl)
theorem dX1_layTruth_1 : decode cX1_layTruth 1 = .ok (.istore_n 1, 1) := dk_60 (dk_at dksX1_layTruth_0 1 rfl rfl)
theorem dX1_layTruth_2 : decode cX1_layTruth 2 = .ok (.iload_n 1, 1) := dk_27 (dk_at dksX1_layTruth_0 2 rfl rfl)
theorem dX1_layTruth_3 : decode cX1_layTruth 3 = .ok (.aload_n 0, 1) := dk_42 (dk_at dksX1_layTruth_0 3 rfl rfl)
theorem dX1_layTruth_4 : decode cX1_layTruth 4 = .ok (.getfield 104, 3) := dk_180 0 104 (dk_at dksX1_layTruth_0 4 rfl rfl)
theorem dX1_layTruth_7 : decode cX1_layTruth 7 = .ok (.invokevirtual 124, 3) := dk_182 0 124 (dk_at dksX1_layTruth_0 7 rfl rfl)
theorem dX1_layTruth_10 : decode cX1_layTruth 10 = .ok (.if_icmp .ge 27, 3) := dk_162 0 27 (dk_at dksX1_layTruth_0 10 rfl rfl)
theorem dX1_layTruth_13 : decode cX1_layTruth 13 = .ok (.aload_n 0, 1) := dk_42 (dk_at dksX1_layTruth_0 13 rfl rfl)
theorem dX1_layTruth_14 : decode cX1_layTruth 14 = .ok (.iload_n 1, 1) := dk_27 (dk_at dksX1_layTruth_0 14 rfl rfl)
theorem dX1_layTruth_15 : decode cX1_layTruth 15 = .ok (.invokevirtual 261, 3) := dk_182 1 5 (dk_at dksX1_layTruth_0 15 rfl rfl)
theorem dX1_layTruth_18 : decode cX1_layTruth 18 = .ok (.aload_n 0, 1) := dk_42 (dk_at dksX1_layTruth_0 18 rfl rfl)
theorem dX1_layTruth_19 : decode cX1_layTruth 19 = .ok (.getfield 64, 3) := dk_180 0 64 (dk_at dksX1_layTruth_0 19 rfl rfl)
theorem dX1_layTruth_22 : decode cX1_layTruth 22 = .ok (.iload_n 1, 1) := dk_27 (dk_at dksX1_layTruth_0 22 rfl rfl)
theorem dX1_layTruth_23 : decode cX1_layTruth 23 = .ok (.aload_n 0, 1) := dk_42 (dk_at dksX1_layTruth_0 23 rfl rfl)
theorem dX1_layTruth_24 : decode cX1_layTruth 24 = .ok (.getfield 46, 3) := dk_180 0 46 (dk_at dksX1_layTruth_1 0 rfl rfl)
theorem dX1_layTruth_27 : decode cX1_layTruth 27 = .ok (.invokevirtual 281, 3) := dk_182 1 25 (dk_at dksX1_layTruth_1 3 rfl rfl)
theorem dX1_layTruth_30 : decode cX1_layTruth 30 = .ok (.iastore, 1) := dk_79 (dk_at dksX1_layTruth_1 6 rfl rfl)
theorem dX1_layTruth_31 : decode cX1_layTruth 31 = .ok (.iinc 1 1, 3) := dk_132 1 1 (dk_at dksX1_layTruth_1 7 rfl rfl)
theorem dX1_layTruth_34 : decode cX1_layTruth 34 = .ok (.goto (-32), 3) := dk_167 255 224 (dk_at dksX1_layTruth_1 10 rfl rfl)
theorem dX1_layTruth_37 : decode cX1_layTruth 37 = .ok (.return_, 1) := dk_177 (dk_at dksX1_layTruth_1 13 rfl rfl)
def dkwX1_layFits_3 : List UInt8 := [167, 255, 206, 177]
abbrev dktX1_layFits_3 : List UInt8 := dkwX1_layFits_3 ++ []
def dkwX1_layFits_2 : List UInt8 := [180, 0, 68, 42, 180, 1, 31, 29, 79, 42, 89, 180, 1, 31, 4, 96, 181, 1, 31, 132, 3, 1]
abbrev dktX1_layFits_2 : List UInt8 := dkwX1_layFits_2 ++ dktX1_layFits_3
def dkwX1_layFits_1 : List UInt8 := [182, 0, 124, 162, 0, 45, 28, 42, 180, 0, 64, 29, 46, 2, 130, 126, 153, 0, 6, 167, 0, 23, 42]
abbrev dktX1_layFits_1 : List UInt8 := dkwX1_layFits_1 ++ dktX1_layFits_2
def dkwX1_layFits_0 : List UInt8 := [27, 42, 180, 0, 104, 182, 1, 28, 126, 61, 42, 3, 181, 1, 31, 3, 62, 29, 42, 180, 0, 104]
abbrev dktX1_layFits_0 : List UInt8 := dkwX1_layFits_0 ++ dktX1_layFits_1
theorem dksX1_layFits_0 : cX1_layFits.data.toList.drop 0 = dktX1_layFits_0 := by decide +kernel
theorem dksX1_layFits_1 : cX1_layFits.data.toList.drop 22 = dktX1_layFits_1 := dk_seg dksX1_layFits_0 22 rfl rfl
theorem dksX1_layFits_2 : cX1_layFits.data.toList.drop 45 = dktX1_layFits_2 := dk_seg dksX1_layFits_1 23 rfl rfl
theorem dksX1_layFits_3 : cX1_layFits.data.toList.drop 67 = dktX1_layFits_3 := dk_seg dksX1_layFits_2 22 rfl rfl
theorem dX1_layFits_0 : decode cX1_layFits 0 = .ok (.iload_n 1, 1) := dk_27 (dk_at dksX1_layFits_0 0 rfl rfl)
theorem dX1_layFits_1 : decode cX1_layFits 1 = .ok (.aload_n 0, 1) := dk_42 (dk_at dksX1_layFits_0 1 rfl rfl)
theorem dX1_layFits_2 : decode cX1_layFits 2 = .ok (.getfield 104, 3) := dk_180 0 104 (dk_at dksX1_layFits_0 2 rfl rfl)
theorem dX1_layFits_5 : decode cX1_layFits 5 = .ok (.invokevirtual 284, 3) := dk_182 1 28 (dk_at dksX1_layFits_0 5 rfl rfl)
theorem dX1_layFits_8 : decode cX1_layFits 8 = .ok (.iand, 1) := dk_126 (dk_at dksX1_layFits_0 8 rfl rfl)
theorem dX1_layFits_9 : decode cX1_layFits 9 = .ok (.istore_n 2, 1) := dk_61 (dk_at dksX1_layFits_0 9 rfl rfl)
theorem dX1_layFits_10 : decode cX1_layFits 10 = .ok (.aload_n 0, 1) := dk_42 (dk_at dksX1_layFits_0 10 rfl rfl)
theorem dX1_layFits_11 : decode cX1_layFits 11 = .ok (.iconst 0, 1) := dk_3 (dk_at dksX1_layFits_0 11 rfl rfl)
theorem dX1_layFits_12 : decode cX1_layFits 12 = .ok (.putfield 287, 3) := dk_181 1 31 (dk_at dksX1_layFits_0 12 rfl rfl)
theorem dX1_layFits_15 : decode cX1_layFits 15 = .ok (.iconst 0, 1) := dk_3 (dk_at dksX1_layFits_0 15 rfl rfl)
theorem dX1_layFits_16 : decode cX1_layFits 16 = .ok (.istore_n 3, 1) := dk_62 (dk_at dksX1_layFits_0 16 rfl rfl)
theorem dX1_layFits_17 : decode cX1_layFits 17 = .ok (.iload_n 3, 1) := dk_29 (dk_at dksX1_layFits_0 17 rfl rfl)
theorem dX1_layFits_18 : decode cX1_layFits 18 = .ok (.aload_n 0, 1) := dk_42 (dk_at dksX1_layFits_0 18 rfl rfl)
theorem dX1_layFits_19 : decode cX1_layFits 19 = .ok (.getfield 104, 3) := dk_180 0 104 (dk_at dksX1_layFits_0 19 rfl rfl)
theorem dX1_layFits_22 : decode cX1_layFits 22 = .ok (.invokevirtual 124, 3) := dk_182 0 124 (dk_at dksX1_layFits_1 0 rfl rfl)
theorem dX1_layFits_25 : decode cX1_layFits 25 = .ok (.if_icmp .ge 45, 3) := dk_162 0 45 (dk_at dksX1_layFits_1 3 rfl rfl)
theorem dX1_layFits_28 : decode cX1_layFits 28 = .ok (.iload_n 2, 1) := dk_28 (dk_at dksX1_layFits_1 6 rfl rfl)
theorem dX1_layFits_29 : decode cX1_layFits 29 = .ok (.aload_n 0, 1) := dk_42 (dk_at dksX1_layFits_1 7 rfl rfl)
theorem dX1_layFits_30 : decode cX1_layFits 30 = .ok (.getfield 64, 3) := dk_180 0 64 (dk_at dksX1_layFits_1 8 rfl rfl)
theorem dX1_layFits_33 : decode cX1_layFits 33 = .ok (.iload_n 3, 1) := dk_29 (dk_at dksX1_layFits_1 11 rfl rfl)
theorem dX1_layFits_34 : decode cX1_layFits 34 = .ok (.iaload, 1) := dk_46 (dk_at dksX1_layFits_1 12 rfl rfl)
theorem dX1_layFits_35 : decode cX1_layFits 35 = .ok (.iconst (-1), 1) := dk_2 (dk_at dksX1_layFits_1 13 rfl rfl)
theorem dX1_layFits_36 : decode cX1_layFits 36 = .ok (.ixor, 1) := dk_130 (dk_at dksX1_layFits_1 14 rfl rfl)
theorem dX1_layFits_37 : decode cX1_layFits 37 = .ok (.iand, 1) := dk_126 (dk_at dksX1_layFits_1 15 rfl rfl)
theorem dX1_layFits_38 : decode cX1_layFits 38 = .ok (.ifCond .eq 6, 3) := dk_153 0 6 (dk_at dksX1_layFits_1 16 rfl rfl)
theorem dX1_layFits_41 : decode cX1_layFits 41 = .ok (.goto 23, 3) := dk_167 0 23 (dk_at dksX1_layFits_1 19 rfl rfl)
theorem dX1_layFits_44 : decode cX1_layFits 44 = .ok (.aload_n 0, 1) := dk_42 (dk_at dksX1_layFits_1 22 rfl rfl)
theorem dX1_layFits_45 : decode cX1_layFits 45 = .ok (.getfield 68, 3) := dk_180 0 68 (dk_at dksX1_layFits_2 0 rfl rfl)
theorem dX1_layFits_48 : decode cX1_layFits 48 = .ok (.aload_n 0, 1) := dk_42 (dk_at dksX1_layFits_2 3 rfl rfl)
theorem dX1_layFits_49 : decode cX1_layFits 49 = .ok (.getfield 287, 3) := dk_180 1 31 (dk_at dksX1_layFits_2 4 rfl rfl)
theorem dX1_layFits_52 : decode cX1_layFits 52 = .ok (.iload_n 3, 1) := dk_29 (dk_at dksX1_layFits_2 7 rfl rfl)
theorem dX1_layFits_53 : decode cX1_layFits 53 = .ok (.iastore, 1) := dk_79 (dk_at dksX1_layFits_2 8 rfl rfl)
theorem dX1_layFits_54 : decode cX1_layFits 54 = .ok (.aload_n 0, 1) := dk_42 (dk_at dksX1_layFits_2 9 rfl rfl)
theorem dX1_layFits_55 : decode cX1_layFits 55 = .ok (.dup, 1) := dk_89 (dk_at dksX1_layFits_2 10 rfl rfl)
theorem dX1_layFits_56 : decode cX1_layFits 56 = .ok (.getfield 287, 3) := dk_180 1 31 (dk_at dksX1_layFits_2 11 rfl rfl)
theorem dX1_layFits_59 : decode cX1_layFits 59 = .ok (.iconst 1, 1) := dk_4 (dk_at dksX1_layFits_2 14 rfl rfl)
theorem dX1_layFits_60 : decode cX1_layFits 60 = .ok (.iadd, 1) := dk_96 (dk_at dksX1_layFits_2 15 rfl rfl)
theorem dX1_layFits_61 : decode cX1_layFits 61 = .ok (.putfield 287, 3) := dk_181 1 31 (dk_at dksX1_layFits_2 16 rfl rfl)
theorem dX1_layFits_64 : decode cX1_layFits 64 = .ok (.iinc 3 1, 3) := dk_132 3 1 (dk_at dksX1_layFits_2 19 rfl rfl)
theorem dX1_layFits_67 : decode cX1_layFits 67 = .ok (.goto (-50), 3) := dk_167 255 206 (dk_at dksX1_layFits_3 0 rfl rfl)
theorem dX1_layFits_70 : decode cX1_layFits 70 = .ok (.return_, 1) := dk_177 (dk_at dksX1_layFits_3 3 rfl rfl)
def dkwX1_layHeard_0 : List UInt8 := [42, 182, 1, 34, 42, 42, 180, 0, 33, 180, 0, 200, 182, 1, 37, 177]
abbrev dktX1_layHeard_0 : List UInt8 := dkwX1_layHeard_0 ++ []
theorem dksX1_layHeard_0 : cX1_layHeard.data.toList.drop 0 = dktX1_layHeard_0 := by decide +kernel
theorem dX1_layHeard_0 : decode cX1_layHeard 0 = .ok (.aload_n 0, 1) := dk_42 (dk_at dksX1_layHeard_0 0 rfl rfl)
theorem dX1_layHeard_1 : decode cX1_layHeard 1 = .ok (.invokevirtual 290, 3) := dk_182 1 34 (dk_at dksX1_layHeard_0 1 rfl rfl)
theorem dX1_layHeard_4 : decode cX1_layHeard 4 = .ok (.aload_n 0, 1) := dk_42 (dk_at dksX1_layHeard_0 4 rfl rfl)
theorem dX1_layHeard_5 : decode cX1_layHeard 5 = .ok (.aload_n 0, 1) := dk_42 (dk_at dksX1_layHeard_0 5 rfl rfl)
theorem dX1_layHeard_6 : decode cX1_layHeard 6 = .ok (.getfield 33, 3) := dk_180 0 33 (dk_at dksX1_layHeard_0 6 rfl rfl)
theorem dX1_layHeard_9 : decode cX1_layHeard 9 = .ok (.getfield 200, 3) := dk_180 0 200 (dk_at dksX1_layHeard_0 9 rfl rfl)
theorem dX1_layHeard_12 : decode cX1_layHeard 12 = .ok (.invokevirtual 293, 3) := dk_182 1 37 (dk_at dksX1_layHeard_0 12 rfl rfl)
theorem dX1_layHeard_15 : decode cX1_layHeard 15 = .ok (.return_, 1) := dk_177 (dk_at dksX1_layHeard_0 15 rfl rfl)
def dkwX1_fits_1 : List UInt8 := [180, 1, 31, 172]
abbrev dktX1_fits_1 : List UInt8 := dkwX1_fits_1 ++ []
def dkwX1_fits_0 : List UInt8 := [42, 182, 0, 80, 42, 180, 0, 104, 199, 0, 9, 42, 4, 182, 0, 94, 172, 42, 182, 1, 40, 42]
abbrev dktX1_fits_0 : List UInt8 := dkwX1_fits_0 ++ dktX1_fits_1
theorem dksX1_fits_0 : cX1_fits.data.toList.drop 0 = dktX1_fits_0 := by decide +kernel
theorem dksX1_fits_1 : cX1_fits.data.toList.drop 22 = dktX1_fits_1 := dk_seg dksX1_fits_0 22 rfl rfl
theorem dX1_fits_0 : decode cX1_fits 0 = .ok (.aload_n 0, 1) := dk_42 (dk_at dksX1_fits_0 0 rfl rfl)
theorem dX1_fits_1 : decode cX1_fits 1 = .ok (.invokevirtual 80, 3) := dk_182 0 80 (dk_at dksX1_fits_0 1 rfl rfl)
theorem dX1_fits_4 : decode cX1_fits 4 = .ok (.aload_n 0, 1) := dk_42 (dk_at dksX1_fits_0 4 rfl rfl)
theorem dX1_fits_5 : decode cX1_fits 5 = .ok (.getfield 104, 3) := dk_180 0 104 (dk_at dksX1_fits_0 5 rfl rfl)
theorem dX1_fits_8 : decode cX1_fits 8 = .ok (.ifnonnull 9, 3) := dk_199 0 9 (dk_at dksX1_fits_0 8 rfl rfl)
theorem dX1_fits_11 : decode cX1_fits 11 = .ok (.aload_n 0, 1) := dk_42 (dk_at dksX1_fits_0 11 rfl rfl)
theorem dX1_fits_12 : decode cX1_fits 12 = .ok (.iconst 1, 1) := dk_4 (dk_at dksX1_fits_0 12 rfl rfl)
theorem dX1_fits_13 : decode cX1_fits 13 = .ok (.invokevirtual 94, 3) := dk_182 0 94 (dk_at dksX1_fits_0 13 rfl rfl)
theorem dX1_fits_16 : decode cX1_fits 16 = .ok (.ireturn, 1) := dk_172 (dk_at dksX1_fits_0 16 rfl rfl)
theorem dX1_fits_17 : decode cX1_fits 17 = .ok (.aload_n 0, 1) := dk_42 (dk_at dksX1_fits_0 17 rfl rfl)
theorem dX1_fits_18 : decode cX1_fits 18 = .ok (.invokevirtual 296, 3) := dk_182 1 40 (dk_at dksX1_fits_0 18 rfl rfl)
theorem dX1_fits_21 : decode cX1_fits 21 = .ok (.aload_n 0, 1) := dk_42 (dk_at dksX1_fits_0 21 rfl rfl)
theorem dX1_fits_22 : decode cX1_fits 22 = .ok (.getfield 287, 3) := dk_180 1 31 (dk_at dksX1_fits_1 0 rfl rfl)
theorem dX1_fits_25 : decode cX1_fits 25 = .ok (.ireturn, 1) := dk_172 (dk_at dksX1_fits_1 3 rfl rfl)
def dkwX7_laysHonest_3 : List UInt8 := [132, 2, 1, 167, 255, 212, 132, 1, 1, 167, 255, 180, 177]
abbrev dktX7_laysHonest_3 : List UInt8 := dkwX7_laysHonest_3 ++ []
def dkwX7_laysHonest_2 : List UInt8 := [42, 180, 0, 48, 27, 92, 46, 4, 42, 180, 1, 186, 180, 1, 123, 28, 46, 120, 2, 130, 126, 79]
abbrev dktX7_laysHonest_2 : List UInt8 := dkwX7_laysHonest_2 ++ dktX7_laysHonest_3
def dkwX7_laysHonest_1 : List UInt8 := [16, 63, 79, 3, 61, 28, 42, 180, 1, 186, 180, 1, 114, 162, 0, 39, 42, 28, 182, 1, 229, 154, 0, 25]
abbrev dktX7_laysHonest_1 : List UInt8 := dkwX7_laysHonest_1 ++ dktX7_laysHonest_2
def dkwX7_laysHonest_0 : List UInt8 := [3, 60, 27, 42, 180, 1, 186, 182, 1, 194, 162, 0, 71, 42, 27, 182, 1, 226, 42, 180, 0, 48, 27]
abbrev dktX7_laysHonest_0 : List UInt8 := dkwX7_laysHonest_0 ++ dktX7_laysHonest_1
theorem dksX7_laysHonest_0 : cX7_laysHonest.data.toList.drop 0 = dktX7_laysHonest_0 := by decide +kernel
theorem dksX7_laysHonest_1 : cX7_laysHonest.data.toList.drop 23 = dktX7_laysHonest_1 := dk_seg dksX7_laysHonest_0 23 rfl rfl
theorem dksX7_laysHonest_2 : cX7_laysHonest.data.toList.drop 47 = dktX7_laysHonest_2 := dk_seg dksX7_laysHonest_1 24 rfl rfl
theorem dksX7_laysHonest_3 : cX7_laysHonest.data.toList.drop 69 = dktX7_laysHonest_3 := dk_seg dksX7_laysHonest_2 22 rfl rfl
theorem dX7_laysHonest_0 : decode cX7_laysHonest 0 = .ok (.iconst 0, 1) := dk_3 (dk_at dksX7_laysHonest_0 0 rfl rfl)
theorem dX7_laysHonest_1 : decode cX7_laysHonest 1 = .ok (.istore_n 1, 1) := dk_60 (dk_at dksX7_laysHonest_0 1 rfl rfl)
theorem dX7_laysHonest_2 : decode cX7_laysHonest 2 = .ok (.iload_n 1, 1) := dk_27 (dk_at dksX7_laysHonest_0 2 rfl rfl)
theorem dX7_laysHonest_3 : decode cX7_laysHonest 3 = .ok (.aload_n 0, 1) := dk_42 (dk_at dksX7_laysHonest_0 3 rfl rfl)
theorem dX7_laysHonest_4 : decode cX7_laysHonest 4 = .ok (.getfield 442, 3) := dk_180 1 186 (dk_at dksX7_laysHonest_0 4 rfl rfl)
theorem dX7_laysHonest_7 : decode cX7_laysHonest 7 = .ok (.invokevirtual 450, 3) := dk_182 1 194 (dk_at dksX7_laysHonest_0 7 rfl rfl)
theorem dX7_laysHonest_10 : decode cX7_laysHonest 10 = .ok (.if_icmp .ge 71, 3) := dk_162 0 71 (dk_at dksX7_laysHonest_0 10 rfl rfl)
theorem dX7_laysHonest_13 : decode cX7_laysHonest 13 = .ok (.aload_n 0, 1) := dk_42 (dk_at dksX7_laysHonest_0 13 rfl rfl)
theorem dX7_laysHonest_14 : decode cX7_laysHonest 14 = .ok (.iload_n 1, 1) := dk_27 (dk_at dksX7_laysHonest_0 14 rfl rfl)
theorem dX7_laysHonest_15 : decode cX7_laysHonest 15 = .ok (.invokevirtual 482, 3) := dk_182 1 226 (dk_at dksX7_laysHonest_0 15 rfl rfl)
theorem dX7_laysHonest_18 : decode cX7_laysHonest 18 = .ok (.aload_n 0, 1) := dk_42 (dk_at dksX7_laysHonest_0 18 rfl rfl)
theorem dX7_laysHonest_19 : decode cX7_laysHonest 19 = .ok (.getfield 48, 3) := dk_180 0 48 (dk_at dksX7_laysHonest_0 19 rfl rfl)
theorem dX7_laysHonest_22 : decode cX7_laysHonest 22 = .ok (.iload_n 1, 1) := dk_27 (dk_at dksX7_laysHonest_0 22 rfl rfl)
theorem dX7_laysHonest_23 : decode cX7_laysHonest 23 = .ok (.bipush 63, 2) := dk_16 63 (dk_at dksX7_laysHonest_1 0 rfl rfl)
theorem dX7_laysHonest_25 : decode cX7_laysHonest 25 = .ok (.iastore, 1) := dk_79 (dk_at dksX7_laysHonest_1 2 rfl rfl)
theorem dX7_laysHonest_26 : decode cX7_laysHonest 26 = .ok (.iconst 0, 1) := dk_3 (dk_at dksX7_laysHonest_1 3 rfl rfl)
theorem dX7_laysHonest_27 : decode cX7_laysHonest 27 = .ok (.istore_n 2, 1) := dk_61 (dk_at dksX7_laysHonest_1 4 rfl rfl)
theorem dX7_laysHonest_28 : decode cX7_laysHonest 28 = .ok (.iload_n 2, 1) := dk_28 (dk_at dksX7_laysHonest_1 5 rfl rfl)
theorem dX7_laysHonest_29 : decode cX7_laysHonest 29 = .ok (.aload_n 0, 1) := dk_42 (dk_at dksX7_laysHonest_1 6 rfl rfl)
theorem dX7_laysHonest_30 : decode cX7_laysHonest 30 = .ok (.getfield 442, 3) := dk_180 1 186 (dk_at dksX7_laysHonest_1 7 rfl rfl)
theorem dX7_laysHonest_33 : decode cX7_laysHonest 33 = .ok (.getfield 370, 3) := dk_180 1 114 (dk_at dksX7_laysHonest_1 10 rfl rfl)
theorem dX7_laysHonest_36 : decode cX7_laysHonest 36 = .ok (.if_icmp .ge 39, 3) := dk_162 0 39 (dk_at dksX7_laysHonest_1 13 rfl rfl)
theorem dX7_laysHonest_39 : decode cX7_laysHonest 39 = .ok (.aload_n 0, 1) := dk_42 (dk_at dksX7_laysHonest_1 16 rfl rfl)
theorem dX7_laysHonest_40 : decode cX7_laysHonest 40 = .ok (.iload_n 2, 1) := dk_28 (dk_at dksX7_laysHonest_1 17 rfl rfl)
theorem dX7_laysHonest_41 : decode cX7_laysHonest 41 = .ok (.invokevirtual 485, 3) := dk_182 1 229 (dk_at dksX7_laysHonest_1 18 rfl rfl)
theorem dX7_laysHonest_44 : decode cX7_laysHonest 44 = .ok (.ifCond .ne 25, 3) := dk_154 0 25 (dk_at dksX7_laysHonest_1 21 rfl rfl)
theorem dX7_laysHonest_47 : decode cX7_laysHonest 47 = .ok (.aload_n 0, 1) := dk_42 (dk_at dksX7_laysHonest_2 0 rfl rfl)
theorem dX7_laysHonest_48 : decode cX7_laysHonest 48 = .ok (.getfield 48, 3) := dk_180 0 48 (dk_at dksX7_laysHonest_2 1 rfl rfl)
theorem dX7_laysHonest_51 : decode cX7_laysHonest 51 = .ok (.iload_n 1, 1) := dk_27 (dk_at dksX7_laysHonest_2 4 rfl rfl)
theorem dX7_laysHonest_52 : decode cX7_laysHonest 52 = .ok (.dup2, 1) := dk_92 (dk_at dksX7_laysHonest_2 5 rfl rfl)
theorem dX7_laysHonest_53 : decode cX7_laysHonest 53 = .ok (.iaload, 1) := dk_46 (dk_at dksX7_laysHonest_2 6 rfl rfl)
theorem dX7_laysHonest_54 : decode cX7_laysHonest 54 = .ok (.iconst 1, 1) := dk_4 (dk_at dksX7_laysHonest_2 7 rfl rfl)
theorem dX7_laysHonest_55 : decode cX7_laysHonest 55 = .ok (.aload_n 0, 1) := dk_42 (dk_at dksX7_laysHonest_2 8 rfl rfl)
theorem dX7_laysHonest_56 : decode cX7_laysHonest 56 = .ok (.getfield 442, 3) := dk_180 1 186 (dk_at dksX7_laysHonest_2 9 rfl rfl)
theorem dX7_laysHonest_59 : decode cX7_laysHonest 59 = .ok (.getfield 379, 3) := dk_180 1 123 (dk_at dksX7_laysHonest_2 12 rfl rfl)
theorem dX7_laysHonest_62 : decode cX7_laysHonest 62 = .ok (.iload_n 2, 1) := dk_28 (dk_at dksX7_laysHonest_2 15 rfl rfl)
theorem dX7_laysHonest_63 : decode cX7_laysHonest 63 = .ok (.iaload, 1) := dk_46 (dk_at dksX7_laysHonest_2 16 rfl rfl)
theorem dX7_laysHonest_64 : decode cX7_laysHonest 64 = .ok (.ishl, 1) := dk_120 (dk_at dksX7_laysHonest_2 17 rfl rfl)
theorem dX7_laysHonest_65 : decode cX7_laysHonest 65 = .ok (.iconst (-1), 1) := dk_2 (dk_at dksX7_laysHonest_2 18 rfl rfl)
theorem dX7_laysHonest_66 : decode cX7_laysHonest 66 = .ok (.ixor, 1) := dk_130 (dk_at dksX7_laysHonest_2 19 rfl rfl)
theorem dX7_laysHonest_67 : decode cX7_laysHonest 67 = .ok (.iand, 1) := dk_126 (dk_at dksX7_laysHonest_2 20 rfl rfl)
theorem dX7_laysHonest_68 : decode cX7_laysHonest 68 = .ok (.iastore, 1) := dk_79 (dk_at dksX7_laysHonest_2 21 rfl rfl)
theorem dX7_laysHonest_69 : decode cX7_laysHonest 69 = .ok (.iinc 2 1, 3) := dk_132 2 1 (dk_at dksX7_laysHonest_3 0 rfl rfl)
theorem dX7_laysHonest_72 : decode cX7_laysHonest 72 = .ok (.goto (-44), 3) := dk_167 255 212 (dk_at dksX7_laysHonest_3 3 rfl rfl)
theorem dX7_laysHonest_75 : decode cX7_laysHonest 75 = .ok (.iinc 1 1, 3) := dk_132 1 1 (dk_at dksX7_laysHonest_3 6 rfl rfl)
theorem dX7_laysHonest_78 : decode cX7_laysHonest 78 = .ok (.goto (-76), 3) := dk_167 255 180 (dk_at dksX7_laysHonest_3 9 rfl rfl)
theorem dX7_laysHonest_81 : decode cX7_laysHonest 81 = .ok (.return_, 1) := dk_177 (dk_at dksX7_laysHonest_3 12 rfl rfl)
def dkwX7_allGoats_0 : List UInt8 := [4, 42, 180, 1, 186, 180, 1, 72, 120, 4, 100, 172]
abbrev dktX7_allGoats_0 : List UInt8 := dkwX7_allGoats_0 ++ []
theorem dksX7_allGoats_0 : cX7_allGoats.data.toList.drop 0 = dktX7_allGoats_0 := by decide +kernel
theorem dX7_allGoats_0 : decode cX7_allGoats 0 = .ok (.iconst 1, 1) := dk_4 (dk_at dksX7_allGoats_0 0 rfl rfl)
theorem dX7_allGoats_1 : decode cX7_allGoats 1 = .ok (.aload_n 0, 1) := dk_42 (dk_at dksX7_allGoats_0 1 rfl rfl)
theorem dX7_allGoats_2 : decode cX7_allGoats 2 = .ok (.getfield 442, 3) := dk_180 1 186 (dk_at dksX7_allGoats_0 2 rfl rfl)
theorem dX7_allGoats_5 : decode cX7_allGoats 5 = .ok (.getfield 328, 3) := dk_180 1 72 (dk_at dksX7_allGoats_0 5 rfl rfl)
theorem dX7_allGoats_8 : decode cX7_allGoats 8 = .ok (.ishl, 1) := dk_120 (dk_at dksX7_allGoats_0 8 rfl rfl)
theorem dX7_allGoats_9 : decode cX7_allGoats 9 = .ok (.iconst 1, 1) := dk_4 (dk_at dksX7_allGoats_0 9 rfl rfl)
theorem dX7_allGoats_10 : decode cX7_allGoats 10 = .ok (.isub, 1) := dk_100 (dk_at dksX7_allGoats_0 10 rfl rfl)
theorem dX7_allGoats_11 : decode cX7_allGoats 11 = .ok (.ireturn, 1) := dk_172 (dk_at dksX7_allGoats_0 11 rfl rfl)
def dkwX7_heard_0 : List UInt8 := [42, 180, 0, 21, 16, 17, 46, 42, 182, 1, 232, 126, 172]
abbrev dktX7_heard_0 : List UInt8 := dkwX7_heard_0 ++ []
theorem dksX7_heard_0 : cX7_heard.data.toList.drop 0 = dktX7_heard_0 := by decide +kernel
theorem dX7_heard_0 : decode cX7_heard 0 = .ok (.aload_n 0, 1) := dk_42 (dk_at dksX7_heard_0 0 rfl rfl)
theorem dX7_heard_1 : decode cX7_heard 1 = .ok (.getfield 21, 3) := dk_180 0 21 (dk_at dksX7_heard_0 1 rfl rfl)
theorem dX7_heard_4 : decode cX7_heard 4 = .ok (.bipush 17, 2) := dk_16 17 (dk_at dksX7_heard_0 4 rfl rfl)
theorem dX7_heard_6 : decode cX7_heard 6 = .ok (.iaload, 1) := dk_46 (dk_at dksX7_heard_0 6 rfl rfl)
theorem dX7_heard_7 : decode cX7_heard 7 = .ok (.aload_n 0, 1) := dk_42 (dk_at dksX7_heard_0 7 rfl rfl)
theorem dX7_heard_8 : decode cX7_heard 8 = .ok (.invokevirtual 488, 3) := dk_182 1 232 (dk_at dksX7_heard_0 8 rfl rfl)
theorem dX7_heard_11 : decode cX7_heard 11 = .ok (.iand, 1) := dk_126 (dk_at dksX7_heard_0 11 rfl rfl)
theorem dX7_heard_12 : decode cX7_heard 12 = .ok (.ireturn, 1) := dk_172 (dk_at dksX7_heard_0 12 rfl rfl)
def dkwX7_areTrue_0 : List UInt8 := [28, 42, 180, 0, 48, 27, 46, 2, 130, 126, 154, 0, 7, 4, 167, 0, 4, 3, 172]
abbrev dktX7_areTrue_0 : List UInt8 := dkwX7_areTrue_0 ++ []
theorem dksX7_areTrue_0 : cX7_areTrue.data.toList.drop 0 = dktX7_areTrue_0 := by decide +kernel
theorem dX7_areTrue_0 : decode cX7_areTrue 0 = .ok (.iload_n 2, 1) := dk_28 (dk_at dksX7_areTrue_0 0 rfl rfl)
theorem dX7_areTrue_1 : decode cX7_areTrue 1 = .ok (.aload_n 0, 1) := dk_42 (dk_at dksX7_areTrue_0 1 rfl rfl)
theorem dX7_areTrue_2 : decode cX7_areTrue 2 = .ok (.getfield 48, 3) := dk_180 0 48 (dk_at dksX7_areTrue_0 2 rfl rfl)
theorem dX7_areTrue_5 : decode cX7_areTrue 5 = .ok (.iload_n 1, 1) := dk_27 (dk_at dksX7_areTrue_0 5 rfl rfl)
theorem dX7_areTrue_6 : decode cX7_areTrue 6 = .ok (.iaload, 1) := dk_46 (dk_at dksX7_areTrue_0 6 rfl rfl)
theorem dX7_areTrue_7 : decode cX7_areTrue 7 = .ok (.iconst (-1), 1) := dk_2 (dk_at dksX7_areTrue_0 7 rfl rfl)
theorem dX7_areTrue_8 : decode cX7_areTrue 8 = .ok (.ixor, 1) := dk_130 (dk_at dksX7_areTrue_0 8 rfl rfl)
theorem dX7_areTrue_9 : decode cX7_areTrue 9 = .ok (.iand, 1) := dk_126 (dk_at dksX7_areTrue_0 9 rfl rfl)
theorem dX7_areTrue_10 : decode cX7_areTrue 10 = .ok (.ifCond .ne 7, 3) := dk_154 0 7 (dk_at dksX7_areTrue_0 10 rfl rfl)
theorem dX7_areTrue_13 : decode cX7_areTrue 13 = .ok (.iconst 1, 1) := dk_4 (dk_at dksX7_areTrue_0 13 rfl rfl)
theorem dX7_areTrue_14 : decode cX7_areTrue 14 = .ok (.goto 4, 3) := dk_167 0 4 (dk_at dksX7_areTrue_0 14 rfl rfl)
theorem dX7_areTrue_17 : decode cX7_areTrue 17 = .ok (.iconst 0, 1) := dk_3 (dk_at dksX7_areTrue_0 17 rfl rfl)
theorem dX7_areTrue_18 : decode cX7_areTrue 18 = .ok (.ireturn, 1) := dk_172 (dk_at dksX7_areTrue_0 18 rfl rfl)
theorem fp_X7_ate_66 : FP mX7_ate 66 [26] 0 (tyOf 0) := fun kd h => (by cases List.mem_singleton.mp h; exact ⟨6, _, 0, "GoatCourtModel", rfl, rfl, by decide, rfl, rfl, Or.inl rfl, Or.inl ⟨rfl, Or.inl q1889⟩⟩)
theorem fp_X7_drops_66 : FP mX7_drops 66 [26] 0 (tyOf 0) := fun kd h => (by cases List.mem_singleton.mp h; exact ⟨6, _, 0, "GoatCourtModel", rfl, rfl, by decide, rfl, rfl, Or.inl rfl, Or.inl ⟨rfl, Or.inl q1889⟩⟩)
theorem fp_X7_flees_66 : FP mX7_flees 66 [26] 0 (tyOf 0) := fun kd h => (by cases List.mem_singleton.mp h; exact ⟨6, _, 0, "GoatCourtModel", rfl, rfl, by decide, rfl, rfl, Or.inl rfl, Or.inl ⟨rfl, Or.inl q1889⟩⟩)
theorem fp_X7_left_66 : FP mX7_left 66 [26] 0 (tyOf 0) := fun kd h => (by cases List.mem_singleton.mp h; exact ⟨6, _, 0, "GoatCourtModel", rfl, rfl, by decide, rfl, rfl, Or.inl rfl, Or.inl ⟨rfl, Or.inl q1889⟩⟩)
theorem fp_X7_met_66 : FP mX7_met 66 [26] 0 (tyOf 0) := fun kd h => (by cases List.mem_singleton.mp h; exact ⟨6, _, 0, "GoatCourtModel", rfl, rfl, by decide, rfl, rfl, Or.inl rfl, Or.inl ⟨rfl, Or.inl q1889⟩⟩)
theorem fl_X18_7 : FL "GoatCourt$Found" 7 [34] 107 (tyOf 0) := fun kd h => (by cases List.mem_singleton.mp h; exact ⟨14, _, 0, "GoatCourt$Found", rfl, rfl, by decide, rfl, rfl, Or.inl q1143, Or.inr q1144⟩)
theorem fl_X18_13 : FL "GoatCourt$Found" 13 [34] 109 (tyOf 0) := fun kd h => (by cases List.mem_singleton.mp h; exact ⟨14, _, 2, "GoatCourt$Found", rfl, rfl, by decide, rfl, rfl, Or.inl q1161, Or.inr q1162⟩)
theorem fl_X18_16 : FL "GoatCourt$Found" 16 [34] 108 (tyOf 0) := fun kd h => (by cases List.mem_singleton.mp h; exact ⟨14, _, 1, "GoatCourt$Found", rfl, rfl, by decide, rfl, rfl, Or.inl q1153, Or.inr q1154⟩)
theorem fl_X19_7 : FL "GoatCourt$SeenThere" 7 [35] 107 (tyOf 0) := fun kd h => (by cases List.mem_singleton.mp h; exact ⟨15, _, 0, "GoatCourt$SeenThere", rfl, rfl, by decide, rfl, rfl, Or.inl q1145, Or.inr q1146⟩)
theorem fl_X19_13 : FL "GoatCourt$SeenThere" 13 [35] 109 (tyOf 0) := fun kd h => (by cases List.mem_singleton.mp h; exact ⟨15, _, 2, "GoatCourt$SeenThere", rfl, rfl, by decide, rfl, rfl, Or.inl q1163, Or.inr q1164⟩)
theorem fl_X19_22 : FL "GoatCourt$SeenThere" 22 [35] 108 (tyOf 0) := fun kd h => (by cases List.mem_singleton.mp h; exact ⟨15, _, 1, "GoatCourt$SeenThere", rfl, rfl, by decide, rfl, rfl, Or.inl q1155, Or.inr q1156⟩)
theorem fl_X20_7 : FL "GoatCourt$Shied" 7 [36] 107 (tyOf 0) := fun kd h => (by cases List.mem_singleton.mp h; exact ⟨16, _, 0, "GoatCourt$Shied", rfl, rfl, by decide, rfl, rfl, Or.inl q1147, Or.inr q1148⟩)
theorem fl_X20_13 : FL "GoatCourt$Shied" 13 [36] 109 (tyOf 0) := fun kd h => (by cases List.mem_singleton.mp h; exact ⟨16, _, 2, "GoatCourt$Shied", rfl, rfl, by decide, rfl, rfl, Or.inl q1165, Or.inr q1166⟩)
theorem fl_X20_22 : FL "GoatCourt$Shied" 22 [36] 108 (tyOf 0) := fun kd h => (by cases List.mem_singleton.mp h; exact ⟨16, _, 1, "GoatCourt$Shied", rfl, rfl, by decide, rfl, rfl, Or.inl q1157, Or.inr q1158⟩)
theorem fp_X7_isTrue_66 : FP mX7_isTrue 66 [26] 0 (tyOf 0) := fun kd h => (by cases List.mem_singleton.mp h; exact ⟨6, _, 0, "GoatCourtModel", rfl, rfl, by decide, rfl, rfl, Or.inl rfl, Or.inl ⟨rfl, Or.inl q1889⟩⟩)
theorem fl_X8_110 : FL "GoatCourt$Hill" 110 [27] 18 (tyOf 0) := fun kd h => (by cases List.mem_singleton.mp h; exact ⟨7, _, 18, "GoatCourt$Hill", rfl, rfl, by decide, rfl, rfl, Or.inl q577, Or.inl rfl⟩)
theorem fl_X8_44 : FL "GoatCourt$Hill" 44 [27] 7 (.array (.object "GoatCourt$Clue")) := fun kd h => (by cases List.mem_singleton.mp h; exact ⟨7, _, 7, "GoatCourt$Hill", rfl, rfl, by decide, rfl, rfl, Or.inl q542, Or.inl rfl⟩)
theorem fl_X8_113 : FL "GoatCourt$Hill" 113 [34, 35, 36] 107 (tyOf 0) := fun kd h => ((List.mem_cons.mp h).elim (fun e => by cases e; exact ⟨14, _, 0, "GoatCourt$Clue", rfl, rfl, by decide, rfl, rfl, Or.inl q1149, Or.inl rfl⟩) (fun h => ((List.mem_cons.mp h).elim (fun e => by cases e; exact ⟨15, _, 0, "GoatCourt$Clue", rfl, rfl, by decide, rfl, rfl, Or.inl q1149, Or.inl rfl⟩) (fun h => (by cases List.mem_singleton.mp h; exact ⟨16, _, 0, "GoatCourt$Clue", rfl, rfl, by decide, rfl, rfl, Or.inl q1149, Or.inl rfl⟩)))))
theorem fl_X5_171 : FL "GoatCourt$Day" 171 [27] 18 (tyOf 0) := fun kd h => (by cases List.mem_singleton.mp h; exact ⟨7, _, 18, "GoatCourt$Hill", rfl, rfl, by decide, rfl, rfl, Or.inl q578, Or.inl rfl⟩)
theorem fl_X5_174 : FL "GoatCourt$Day" 174 [27] 7 (.array (.object "GoatCourt$Clue")) := fun kd h => (by cases List.mem_singleton.mp h; exact ⟨7, _, 7, "GoatCourt$Hill", rfl, rfl, by decide, rfl, rfl, Or.inl q543, Or.inl rfl⟩)
theorem fl_X5_184 : FL "GoatCourt$Day" 184 [34, 35, 36] 107 (tyOf 0) := fun kd h => ((List.mem_cons.mp h).elim (fun e => by cases e; exact ⟨14, _, 0, "GoatCourt$Clue", rfl, rfl, by decide, rfl, rfl, Or.inl q1150, Or.inl rfl⟩) (fun h => ((List.mem_cons.mp h).elim (fun e => by cases e; exact ⟨15, _, 0, "GoatCourt$Clue", rfl, rfl, by decide, rfl, rfl, Or.inl q1150, Or.inl rfl⟩) (fun h => (by cases List.mem_singleton.mp h; exact ⟨16, _, 0, "GoatCourt$Clue", rfl, rfl, by decide, rfl, rfl, Or.inl q1150, Or.inl rfl⟩)))))
theorem fl_X1_64 : FL "GoatCourt" 64 [20] 16 (.array (.int)) := fun kd h => (by cases List.mem_singleton.mp h; exact ⟨0, _, 16, "GoatCourt", rfl, rfl, by decide, rfl, rfl, Or.inl q418, Or.inl rfl⟩)
theorem fl_X1_68 : FL "GoatCourt" 68 [20] 17 (.array (.int)) := fun kd h => (by cases List.mem_singleton.mp h; exact ⟨0, _, 17, "GoatCourt", rfl, rfl, by decide, rfl, rfl, Or.inl q419, Or.inl rfl⟩)
theorem fl_X1_287 : FL "GoatCourt" 287 [20] 18 (tyOf 0) := fun kd h => (by cases List.mem_singleton.mp h; exact ⟨0, _, 18, "GoatCourt", rfl, rfl, by decide, rfl, rfl, Or.inl q420, Or.inl rfl⟩)
theorem fp_X1_layFits_287 : FP mX1_layFits 287 [20] 18 (tyOf 0) := fun kd h => (by cases List.mem_singleton.mp h; exact ⟨0, _, 18, "GoatCourt", rfl, rfl, by decide, rfl, rfl, Or.inl rfl, Or.inl ⟨rfl, Or.inl q420⟩⟩)
theorem fl_X7_48 : FL "GoatCourtModel" 48 [26] 29 (.array (.int)) := fun kd h => (by cases List.mem_singleton.mp h; exact ⟨6, _, 29, "GoatCourtModel", rfl, rfl, by decide, rfl, rfl, Or.inl q1918, Or.inl rfl⟩)
theorem w_X7_ateOf_b65 (G : Gx) (h0 : G0 G) (N : Nat) (K5 : Nat → Int32 → Int32 → Int32 → Int32 → Mem → Option (Int32 × Mem)) (hK5 : ∀ (a0 : Nat) (l1 : Int32) (l2 : Int32) (l3 : Int32) (l4 : Int32) (σ : Mem), Runs G mX7_ateOf rhoI σ 5 [some (vR (some a0)), some (vI l1), some (vI l2), some (vI l3), some (vI l4)] [] (K5 a0 l1 l2 l3 l4 σ)) (a0 : Nat) (l1 : Int32) (l2 : Int32) (l4 : Int32) (t0 : Int32) (t1 : Int32) (σ : Mem) : Runs G mX7_ateOf rhoI σ 65 [some (vR (some a0)), some (vI l1), some (vI l2), none, some (vI l4)] [vI t1, vI t0] (f_X7_ateOf_b65 N K5 a0 l1 l2 l4 t0 t1 σ) := by
  unfold f_X7_ateOf_b65
  refine r_iadd (q := 66) dX7_ateOf_65 rfl ?_
  refine r_istore_n (q := 67) dX7_ateOf_66 rfl rfl (Nat.le_of_ble_eq_true rfl) rfl ?_
  refine r_iinc (q := 70) (v := (1 : Int32)) dX7_ateOf_67 rfl rfl (by decide) (Nat.le_of_ble_eq_true rfl) rfl ?_
  refine r_goto (q := 5) dX7_ateOf_70 (by decide) ?_
  exact r_le (hK5 _ _ _ _ _ _) (Nat.le_refl _) (And.intro rfl (And.intro rfl (And.intro rfl (And.intro rfl (And.intro rfl trivial)))))
theorem w_X7_ateOf_b64 (G : Gx) (h0 : G0 G) (N : Nat) (K5 : Nat → Int32 → Int32 → Int32 → Int32 → Mem → Option (Int32 × Mem)) (hK5 : ∀ (a0 : Nat) (l1 : Int32) (l2 : Int32) (l3 : Int32) (l4 : Int32) (σ : Mem), Runs G mX7_ateOf rhoI σ 5 [some (vR (some a0)), some (vI l1), some (vI l2), some (vI l3), some (vI l4)] [] (K5 a0 l1 l2 l3 l4 σ)) (a0 : Nat) (l1 : Int32) (l2 : Int32) (l4 : Int32) (t0 : Int32) (σ : Mem) : Runs G mX7_ateOf rhoI σ 64 [some (vR (some a0)), some (vI l1), some (vI l2), none, some (vI l4)] [vI t0] (f_X7_ateOf_b64 N K5 a0 l1 l2 l4 t0 σ) := by
  unfold f_X7_ateOf_b64
  refine r_iconst (q := 65) (v := (0 : Int32)) dX7_ateOf_64 rfl (by decide) ?_
  exact r_le (w_X7_ateOf_b65 G h0 N K5 hK5 _ _ _ _ _ _ _) (Nat.le_refl _) (And.intro rfl (And.intro rfl (And.intro rfl (And.intro rfl trivial))))
theorem w_X7_ateOf_b5B (G : Gx) (h0 : G0 G) (N : Nat)   (K5 : Nat → Int32 → Int32 → Int32 → Int32 → Mem → Option (Int32 × Mem)) (hK5 : ∀ (a0 : Nat) (l1 : Int32) (l2 : Int32) (l3 : Int32) (l4 : Int32) (σ : Mem), Runs G mX7_ateOf rhoI σ 5 [some (vR (some a0)), some (vI l1), some (vI l2), some (vI l3), some (vI l4)] [] (K5 a0 l1 l2 l3 l4 σ)) (a0 : Nat) (l1 : Int32) (l2 : Int32) (l3 : Int32) (l4 : Int32) (σ : Mem) : Runs G mX7_ateOf rhoI σ 5 [some (vR (some a0)), some (vI l1), some (vI l2), some (vI l3), some (vI l4)] [] (f_X7_ateOf_b5B N  K5 a0 l1 l2 l3 l4 σ) := by
  unfold f_X7_ateOf_b5B
  refine r_iload (q := 7) dX7_ateOf_5 rfl rfl ?_
  refine r_aload_n (q := 8) dX7_ateOf_7 rfl rfl rfl ?_
  refine r_gR (q := 11) fl_X7_442 rfl dX7_ateOf_8 rfl (fun x1 => ?_)
  refine r_gI (q := 14) fl_X7_196 dX7_ateOf_11 rfl (fun x2 => ?_)
  refine r_icmp_ge (q := 17) (t := 73) dX7_ateOf_14 rfl (by decide) (fun _ => ?_) (fun _ => ?_)
  · refine r_iload_n (q := 74) dX7_ateOf_73 rfl rfl rfl ?_
    exact r_ireturn rfl rfl dX7_ateOf_74
  · refine r_iload_n (q := 18) dX7_ateOf_17 rfl rfl rfl ?_
    refine r_aload_n (q := 19) dX7_ateOf_18 rfl rfl rfl ?_
    refine r_gR (q := 22) fl_X7_36 rfl dX7_ateOf_19 rfl (fun x3 => ?_)
    refine r_bipush (q := 24) (v := (12 : Int32)) dX7_ateOf_22 rfl (by decide) ?_
    refine r_iload_n (q := 25) dX7_ateOf_24 rfl rfl rfl ?_
    refine r_imul (q := 26) dX7_ateOf_25 rfl ?_
    refine r_iload (q := 28) dX7_ateOf_26 rfl rfl ?_
    refine r_iadd (q := 29) dX7_ateOf_28 rfl ?_
    refine r_iaload (q := 30) dX7_ateOf_29 rfl (fun x4 => ?_)
    refine r_if_le (q := 33) (t := 64) dX7_ateOf_30 rfl (by decide) (fun _ => ?_) (fun _ => ?_)
    · exact r_le (w_X7_ateOf_b64 G h0 N K5 hK5 _ _ _ _ _ _) (Nat.le_refl _) (And.intro rfl (And.intro rfl (And.intro rfl (And.intro rfl trivial))))
    · refine r_aload_n (q := 34) dX7_ateOf_33 rfl rfl rfl ?_
      refine r_gR (q := 37) fl_X7_33 rfl dX7_ateOf_34 rfl (fun x5 => ?_)
      refine r_bipush (q := 39) (v := (12 : Int32)) dX7_ateOf_37 rfl (by decide) ?_
      refine r_iload_n (q := 40) dX7_ateOf_39 rfl rfl rfl ?_
      refine r_imul (q := 41) dX7_ateOf_40 rfl ?_
      refine r_iload (q := 43) dX7_ateOf_41 rfl rfl ?_
      refine r_iadd (q := 44) dX7_ateOf_43 rfl ?_
      refine r_iaload (q := 45) dX7_ateOf_44 rfl (fun x6 => ?_)
      refine r_iload_n (q := 46) dX7_ateOf_45 rfl rfl rfl ?_
      refine r_icmp_ne (q := 49) (t := 64) dX7_ateOf_46 rfl (by decide) (fun _ => ?_) (fun _ => ?_)
      · refine r_aload_n (q := 50) dX7_ateOf_49 rfl rfl rfl ?_
        refine r_gR (q := 53) fl_X7_36 rfl dX7_ateOf_50 rfl (fun x7 => ?_)
        refine r_bipush (q := 55) (v := (12 : Int32)) dX7_ateOf_53 rfl (by decide) ?_
        refine r_iload_n (q := 56) dX7_ateOf_55 rfl rfl rfl ?_
        refine r_imul (q := 57) dX7_ateOf_56 rfl ?_
        refine r_iload (q := 59) dX7_ateOf_57 rfl rfl ?_
        refine r_iadd (q := 60) dX7_ateOf_59 rfl ?_
        refine r_iaload (q := 61) dX7_ateOf_60 rfl (fun x8 => ?_)
        refine r_goto (q := 65) dX7_ateOf_61 (by decide) ?_
        exact r_le (w_X7_ateOf_b65 G h0 N K5 hK5 _ _ _ _ _ _ _) (Nat.le_refl _) (And.intro rfl (And.intro rfl (And.intro rfl (And.intro rfl trivial))))
      · exact r_le (w_X7_ateOf_b64 G h0 N K5 hK5 _ _ _ _ _ _) (Nat.le_refl _) (And.intro rfl (And.intro rfl (And.intro rfl (And.intro rfl trivial))))
theorem w_X7_ateOf_b5 (G : Gx) (h0 : G0 G) (N : Nat)   : ∀ (z : Nat) (a0 : Nat) (l1 : Int32) (l2 : Int32) (l3 : Int32) (l4 : Int32) (σ : Mem), Runs G mX7_ateOf rhoI σ 5 [some (vR (some a0)), some (vI l1), some (vI l2), some (vI l3), some (vI l4)] [] (f_X7_ateOf_b5 N  z a0 l1 l2 l3 l4 σ) := by
  intro z
  induction z with
  | zero => exact fun _ _ _ _ _ _ => r_none
  | succ z ih => exact fun a0 l1 l2 l3 l4 σ => w_X7_ateOf_b5B G h0 N   _ ih a0 l1 l2 l3 l4 σ
theorem c_X7_ateOf (G : Gx) (h0 : G0 G) (N : Nat) (a0 : Nat) (i1 : Int32) (i2 : Int32) (σ : Mem) : Ct G mX7_ateOf rhoI [vR (some a0), vI i1, vI i2] σ (f_X7_ateOf N a0 i1 i2 σ) := by
  refine Ct_of h0 (by decide) rfl (Nat.le_of_ble_eq_true rfl) (L0 := [some (vR (some a0)), some (vI i1), some (vI i2), none, none]) rfl ?_
  unfold f_X7_ateOf
  refine r_iconst (q := 1) (v := (0 : Int32)) dX7_ateOf_0 rfl (by decide) ?_
  refine r_istore_n (q := 2) dX7_ateOf_1 rfl rfl (Nat.le_of_ble_eq_true rfl) rfl ?_
  refine r_iconst (q := 3) (v := (0 : Int32)) dX7_ateOf_2 rfl (by decide) ?_
  refine r_istore (q := 5) dX7_ateOf_3 rfl (Nat.le_of_ble_eq_true rfl) rfl ?_
  exact r_le (w_X7_ateOf_b5 G h0 N N _ _ _ _ _ _) (Nat.le_refl _) (And.intro rfl (And.intro rfl (And.intro rfl (And.intro rfl (And.intro rfl trivial)))))
theorem w_X7_ate_b29 (G : Gx) (h0 : G0 G) (N : Nat)   (a0 : Nat) (σ : Mem) : Runs G mX7_ate rhoI σ 29 [some (vR (some a0)), none, none, none] [] (f_X7_ate_b29 N  a0 σ) := by
  unfold f_X7_ate_b29
  refine r_aload_n (q := 30) dX7_ate_29 rfl rfl rfl ?_
  refine r_iconst (q := 31) (v := (1 : Int32)) dX7_ate_30 rfl (by decide) ?_
  refine r_ob (fun a3 ha3 => ?_)
  obtain ⟨hea3, hka3⟩ := o_at_eq ha3
  cases hea3
  refine r_callI (q := 34) (c_X7_refused G h0 N _ _ _) (cl_V (ci := 6) rfl rfl (lw_V q2019 q2021 qs83 q176 q2022) (hd_X7_refused) ⟨Nat.le_of_ble_eq_true rfl, Nat.le_of_ble_eq_true rfl⟩ (List.mem_singleton.mp hka3) rfl rfl rfl (Nat.le_of_ble_eq_true rfl) dX7_ate_31) rfl (fun x1 σ2 => ?_)
  exact r_ireturn rfl rfl dX7_ate_34
theorem c_X7_ate (G : Gx) (h0 : G0 G) (N : Nat) (a0 : Nat) (i1 : Int32) (i2 : Int32) (i3 : Int32) (σ : Mem) : Ct G mX7_ate rhoI [vR (some a0), vI i1, vI i2, vI i3] σ (f_X7_ate N a0 i1 i2 i3 σ) := by
  refine Ct_of h0 (by decide) rfl (Nat.le_of_ble_eq_true rfl) (L0 := [some (vR (some a0)), some (vI i1), some (vI i2), some (vI i3)]) rfl ?_
  unfold f_X7_ate
  refine r_aload_n (q := 1) dX7_ate_0 rfl rfl rfl ?_
  refine r_iconst (q := 2) (v := (0 : Int32)) dX7_ate_1 rfl (by decide) ?_
  refine r_pI (q := 5) fp_X7_ate_66 dX7_ate_2 rfl (fun σ1 => ?_)
  refine r_aload_n (q := 6) dX7_ate_5 rfl rfl rfl ?_
  refine r_iload_n (q := 7) dX7_ate_6 rfl rfl rfl ?_
  refine r_ob (fun a4 ha4 => ?_)
  obtain ⟨hea4, hka4⟩ := o_at_eq ha4
  cases hea4
  refine r_callI (q := 10) (c_X7_isCase G h0 N _ _ _) (cl_V (ci := 6) rfl rfl (lw_V q2455 q2457 qs126 q176 q2458) (hd_X7_isCase) ⟨Nat.le_of_ble_eq_true rfl, Nat.le_of_ble_eq_true rfl⟩ (List.mem_singleton.mp hka4) rfl rfl rfl (Nat.le_of_ble_eq_true rfl) dX7_ate_7) rfl (fun x2 σ3 => ?_)
  refine r_if_eq (q := 13) (t := 29) dX7_ate_10 rfl (by decide) (fun _ => ?_) (fun _ => ?_)
  · exact r_le (w_X7_ate_b29 G h0 N _ _) (Nat.le_refl _) (And.intro rfl trivial)
  · refine r_aload_n (q := 14) dX7_ate_13 rfl rfl rfl ?_
    refine r_iload_n (q := 15) dX7_ate_14 rfl rfl rfl ?_
    refine r_ob (fun a7 ha7 => ?_)
    obtain ⟨hea7, hka7⟩ := o_at_eq ha7
    cases hea7
    refine r_callI (q := 18) (c_X7_isGoat G h0 N _ _ _) (cl_V (ci := 6) rfl rfl (lw_V q2411 q2413 qs121 q176 q2414) (hd_X7_isGoat) ⟨Nat.le_of_ble_eq_true rfl, Nat.le_of_ble_eq_true rfl⟩ (List.mem_singleton.mp hka7) rfl rfl rfl (Nat.le_of_ble_eq_true rfl) dX7_ate_15) rfl (fun x5 σ6 => ?_)
    refine r_if_eq (q := 21) (t := 29) dX7_ate_18 rfl (by decide) (fun _ => ?_) (fun _ => ?_)
    · exact r_le (w_X7_ate_b29 G h0 N _ _) (Nat.le_refl _) (And.intro rfl trivial)
    · refine r_aload_n (q := 22) dX7_ate_21 rfl rfl rfl ?_
      refine r_iload_n (q := 23) dX7_ate_22 rfl rfl rfl ?_
      refine r_ob (fun a10 ha10 => ?_)
      obtain ⟨hea10, hka10⟩ := o_at_eq ha10
      cases hea10
      refine r_callI (q := 26) (c_X7_isPlant G h0 N _ _ _) (cl_V (ci := 6) rfl rfl (lw_V q2399 q2401 qs120 q176 q2402) (hd_X7_isPlant) ⟨Nat.le_of_ble_eq_true rfl, Nat.le_of_ble_eq_true rfl⟩ (List.mem_singleton.mp hka10) rfl rfl rfl (Nat.le_of_ble_eq_true rfl) dX7_ate_23) rfl (fun x8 σ9 => ?_)
      refine r_if_ne (q := 29) (t := 35) dX7_ate_26 rfl (by decide) (fun _ => ?_) (fun _ => ?_)
      · exact r_le (w_X7_ate_b29 G h0 N _ _) (Nat.le_refl _) (And.intro rfl trivial)
      · refine r_aload_n (q := 36) dX7_ate_35 rfl rfl rfl ?_
        refine r_iload_n (q := 37) dX7_ate_36 rfl rfl rfl ?_
        refine r_ob (fun a13 ha13 => ?_)
        obtain ⟨hea13, hka13⟩ := o_at_eq ha13
        cases hea13
        refine r_callV (q := 40) (c_X7_day G h0 N _ _ _) (cl_V (ci := 6) rfl rfl (lw_V q2467 q2469 qs127 q176 q2470) (hd_X7_day) ⟨Nat.le_of_ble_eq_true rfl, Nat.le_of_ble_eq_true rfl⟩ (List.mem_singleton.mp hka13) rfl rfl rfl (Nat.le_of_ble_eq_true rfl) dX7_ate_37) rfl (fun u11 σ12 => ?_)
        refine r_aload_n (q := 41) dX7_ate_40 rfl rfl rfl ?_
        refine r_aload_n (q := 42) dX7_ate_41 rfl rfl rfl ?_
        refine r_iload_n (q := 43) dX7_ate_42 rfl rfl rfl ?_
        refine r_iload_n (q := 44) dX7_ate_43 rfl rfl rfl ?_
        refine r_ob (fun a16 ha16 => ?_)
        obtain ⟨hea16, hka16⟩ := o_at_eq ha16
        cases hea16
        refine r_callI (q := 47) (c_X7_ateOf G h0 N _ _ _ _) (cl_V (ci := 6) rfl rfl (lw_V q2509 q2511 qs135 q176 q2512) (hd_X7_ateOf) ⟨Nat.le_of_ble_eq_true rfl, Nat.le_of_ble_eq_true rfl⟩ (List.mem_singleton.mp hka16) rfl rfl rfl (Nat.le_of_ble_eq_true rfl) dX7_ate_44) rfl (fun x14 σ15 => ?_)
        refine r_ob (fun a19 ha19 => ?_)
        obtain ⟨hea19, hka19⟩ := o_at_eq ha19
        cases hea19
        refine r_callI (q := 50) (c_X7_good G h0 N _ _ _) (cl_V (ci := 6) rfl rfl (lw_V q2379 q2381 qs118 q176 q2382) (hd_X7_good) ⟨Nat.le_of_ble_eq_true rfl, Nat.le_of_ble_eq_true rfl⟩ (List.mem_singleton.mp hka19) rfl rfl rfl (Nat.le_of_ble_eq_true rfl) dX7_ate_47) rfl (fun x17 σ18 => ?_)
        exact r_ireturn rfl rfl dX7_ate_50
theorem w_X5_drops_b67 (G : Gx) (h0 : G0 G) (N : Nat) (K6 : Nat → Int32 → Int32 → Int32 → Int32 → Int32 → Mem → Option (Int32 × Mem)) (hK6 : ∀ (a0 : Nat) (l1 : Int32) (l2 : Int32) (l3 : Int32) (l4 : Int32) (l5 : Int32) (σ : Mem), Runs G mX5_drops rhoI σ 6 [some (vR (some a0)), some (vI l1), some (vI l2), some (vI l3), some (vI l4), some (vI l5)] [] (K6 a0 l1 l2 l3 l4 l5 σ)) (a0 : Nat) (l1 : Int32) (l2 : Int32) (l3 : Int32) (l5 : Int32) (t0 : Int32) (t1 : Int32) (σ : Mem) : Runs G mX5_drops rhoI σ 67 [some (vR (some a0)), some (vI l1), some (vI l2), some (vI l3), none, some (vI l5)] [vI t1, vI t0] (f_X5_drops_b67 N K6 a0 l1 l2 l3 l5 t0 t1 σ) := by
  unfold f_X5_drops_b67
  refine r_iadd (q := 68) dX5_drops_67 rfl ?_
  refine r_istore (q := 70) dX5_drops_68 rfl (Nat.le_of_ble_eq_true rfl) rfl ?_
  refine r_iinc (q := 73) (v := (1 : Int32)) dX5_drops_70 rfl rfl (by decide) (Nat.le_of_ble_eq_true rfl) rfl ?_
  refine r_goto (q := 6) dX5_drops_73 (by decide) ?_
  exact r_le (hK6 _ _ _ _ _ _ _) (Nat.le_refl _) (And.intro rfl (And.intro rfl (And.intro rfl (And.intro rfl (And.intro rfl (And.intro rfl trivial))))))
theorem w_X5_drops_b66 (G : Gx) (h0 : G0 G) (N : Nat) (K6 : Nat → Int32 → Int32 → Int32 → Int32 → Int32 → Mem → Option (Int32 × Mem)) (hK6 : ∀ (a0 : Nat) (l1 : Int32) (l2 : Int32) (l3 : Int32) (l4 : Int32) (l5 : Int32) (σ : Mem), Runs G mX5_drops rhoI σ 6 [some (vR (some a0)), some (vI l1), some (vI l2), some (vI l3), some (vI l4), some (vI l5)] [] (K6 a0 l1 l2 l3 l4 l5 σ)) (a0 : Nat) (l1 : Int32) (l2 : Int32) (l3 : Int32) (l5 : Int32) (t0 : Int32) (σ : Mem) : Runs G mX5_drops rhoI σ 66 [some (vR (some a0)), some (vI l1), some (vI l2), some (vI l3), none, some (vI l5)] [vI t0] (f_X5_drops_b66 N K6 a0 l1 l2 l3 l5 t0 σ) := by
  unfold f_X5_drops_b66
  refine r_iconst (q := 67) (v := (0 : Int32)) dX5_drops_66 rfl (by decide) ?_
  exact r_le (w_X5_drops_b67 G h0 N K6 hK6 _ _ _ _ _ _ _ _) (Nat.le_refl _) (And.intro rfl (And.intro rfl (And.intro rfl (And.intro rfl (And.intro rfl trivial)))))
theorem w_X5_drops_b6B (G : Gx) (h0 : G0 G) (N : Nat)   (K6 : Nat → Int32 → Int32 → Int32 → Int32 → Int32 → Mem → Option (Int32 × Mem)) (hK6 : ∀ (a0 : Nat) (l1 : Int32) (l2 : Int32) (l3 : Int32) (l4 : Int32) (l5 : Int32) (σ : Mem), Runs G mX5_drops rhoI σ 6 [some (vR (some a0)), some (vI l1), some (vI l2), some (vI l3), some (vI l4), some (vI l5)] [] (K6 a0 l1 l2 l3 l4 l5 σ)) (a0 : Nat) (l1 : Int32) (l2 : Int32) (l3 : Int32) (l4 : Int32) (l5 : Int32) (σ : Mem) : Runs G mX5_drops rhoI σ 6 [some (vR (some a0)), some (vI l1), some (vI l2), some (vI l3), some (vI l4), some (vI l5)] [] (f_X5_drops_b6B N  K6 a0 l1 l2 l3 l4 l5 σ) := by
  unfold f_X5_drops_b6B
  refine r_iload (q := 8) dX5_drops_6 rfl rfl ?_
  refine r_iconst (q := 9) (v := (2 : Int32)) dX5_drops_8 rfl (by decide) ?_
  refine r_iadd (q := 10) dX5_drops_9 rfl ?_
  refine r_aload_n (q := 11) dX5_drops_10 rfl rfl rfl ?_
  refine r_gR (q := 14) fl_X5_33 rfl dX5_drops_11 rfl (fun x1 => ?_)
  refine r_gI (q := 17) fl_X5_77 dX5_drops_14 rfl (fun x2 => ?_)
  refine r_icmp_ge (q := 20) (t := 76) dX5_drops_17 rfl (by decide) (fun _ => ?_) (fun _ => ?_)
  · refine r_iload (q := 78) dX5_drops_76 rfl rfl ?_
    exact r_ireturn rfl rfl dX5_drops_78
  · refine r_iload (q := 22) dX5_drops_20 rfl rfl ?_
    refine r_aload_n (q := 23) dX5_drops_22 rfl rfl rfl ?_
    refine r_gR (q := 26) fl_X5_21 rfl dX5_drops_23 rfl (fun x3 => ?_)
    refine r_bipush (q := 28) (v := (12 : Int32)) dX5_drops_26 rfl (by decide) ?_
    refine r_iload_n (q := 29) dX5_drops_28 rfl rfl rfl ?_
    refine r_imul (q := 30) dX5_drops_29 rfl ?_
    refine r_iload (q := 32) dX5_drops_30 rfl rfl ?_
    refine r_iadd (q := 33) dX5_drops_32 rfl ?_
    refine r_iaload (q := 34) dX5_drops_33 rfl (fun x4 => ?_)
    refine r_iload_n (q := 35) dX5_drops_34 rfl rfl rfl ?_
    refine r_icmp_ne (q := 38) (t := 66) dX5_drops_35 rfl (by decide) (fun _ => ?_) (fun _ => ?_)
    · refine r_aload_n (q := 39) dX5_drops_38 rfl rfl rfl ?_
      refine r_iload_n (q := 40) dX5_drops_39 rfl rfl rfl ?_
      refine r_iload (q := 42) dX5_drops_40 rfl rfl ?_
      refine r_iconst (q := 43) (v := (2 : Int32)) dX5_drops_42 rfl (by decide) ?_
      refine r_iadd (q := 44) dX5_drops_43 rfl ?_
      refine r_ob (fun a7 ha7 => ?_)
      obtain ⟨hea7, hka7⟩ := o_at_eq ha7
      cases hea7
      refine r_callI (q := 47) (c_X5_at G h0 N _ _ _ _) (cl_V (ci := 4) rfl rfl (lw_V q1532 q1513 q1514 q174 q1515) (hd_X5_at) ⟨Nat.le_of_ble_eq_true rfl, Nat.le_of_ble_eq_true rfl⟩ (List.mem_singleton.mp hka7) rfl rfl rfl (Nat.le_of_ble_eq_true rfl) dX5_drops_44) rfl (fun x5 σ6 => ?_)
      refine r_iload_n (q := 48) dX5_drops_47 rfl rfl rfl ?_
      refine r_icmp_ne (q := 51) (t := 66) dX5_drops_48 rfl (by decide) (fun _ => ?_) (fun _ => ?_)
      · refine r_aload_n (q := 52) dX5_drops_51 rfl rfl rfl ?_
        refine r_gR (q := 55) fl_X5_24 rfl dX5_drops_52 rfl (fun x8 => ?_)
        refine r_bipush (q := 57) (v := (12 : Int32)) dX5_drops_55 rfl (by decide) ?_
        refine r_iload_n (q := 58) dX5_drops_57 rfl rfl rfl ?_
        refine r_imul (q := 59) dX5_drops_58 rfl ?_
        refine r_iload (q := 61) dX5_drops_59 rfl rfl ?_
        refine r_iadd (q := 62) dX5_drops_61 rfl ?_
        refine r_iaload (q := 63) dX5_drops_62 rfl (fun x9 => ?_)
        refine r_goto (q := 67) dX5_drops_63 (by decide) ?_
        exact r_le (w_X5_drops_b67 G h0 N K6 hK6 _ _ _ _ _ _ _ _) (Nat.le_refl _) (And.intro rfl (And.intro rfl (And.intro rfl (And.intro rfl (And.intro rfl trivial)))))
      · exact r_le (w_X5_drops_b66 G h0 N K6 hK6 _ _ _ _ _ _ _) (Nat.le_refl _) (And.intro rfl (And.intro rfl (And.intro rfl (And.intro rfl (And.intro rfl trivial)))))
    · exact r_le (w_X5_drops_b66 G h0 N K6 hK6 _ _ _ _ _ _ _) (Nat.le_refl _) (And.intro rfl (And.intro rfl (And.intro rfl (And.intro rfl (And.intro rfl trivial)))))
theorem w_X5_drops_b6 (G : Gx) (h0 : G0 G) (N : Nat)   : ∀ (z : Nat) (a0 : Nat) (l1 : Int32) (l2 : Int32) (l3 : Int32) (l4 : Int32) (l5 : Int32) (σ : Mem), Runs G mX5_drops rhoI σ 6 [some (vR (some a0)), some (vI l1), some (vI l2), some (vI l3), some (vI l4), some (vI l5)] [] (f_X5_drops_b6 N  z a0 l1 l2 l3 l4 l5 σ) := by
  intro z
  induction z with
  | zero => exact fun _ _ _ _ _ _ _ => r_none
  | succ z ih => exact fun a0 l1 l2 l3 l4 l5 σ => w_X5_drops_b6B G h0 N   _ ih a0 l1 l2 l3 l4 l5 σ
theorem c_X5_drops (G : Gx) (h0 : G0 G) (N : Nat) (a0 : Nat) (i1 : Int32) (i2 : Int32) (i3 : Int32) (σ : Mem) : Ct G mX5_drops rhoI [vR (some a0), vI i1, vI i2, vI i3] σ (f_X5_drops N a0 i1 i2 i3 σ) := by
  refine Ct_of h0 (by decide) rfl (Nat.le_of_ble_eq_true rfl) (L0 := [some (vR (some a0)), some (vI i1), some (vI i2), some (vI i3), none, none]) rfl ?_
  unfold f_X5_drops
  refine r_iconst (q := 1) (v := (0 : Int32)) dX5_drops_0 rfl (by decide) ?_
  refine r_istore (q := 3) dX5_drops_1 rfl (Nat.le_of_ble_eq_true rfl) rfl ?_
  refine r_iconst (q := 4) (v := (0 : Int32)) dX5_drops_3 rfl (by decide) ?_
  refine r_istore (q := 6) dX5_drops_4 rfl (Nat.le_of_ble_eq_true rfl) rfl ?_
  exact r_le (w_X5_drops_b6 G h0 N N _ _ _ _ _ _ _) (Nat.le_refl _) (And.intro rfl (And.intro rfl (And.intro rfl (And.intro rfl (And.intro rfl (And.intro rfl trivial))))))
theorem w_X1_drops_b37 (G : Gx) (h0 : G0 G) (N : Nat)   (a0 : Nat) (σ : Mem) : Runs G mX1_drops rhoI σ 37 [some (vR (some a0)), none, none, none, none] [] (f_X1_drops_b37 N  a0 σ) := by
  unfold f_X1_drops_b37
  refine r_aload_n (q := 38) dX1_drops_37 rfl rfl rfl ?_
  refine r_iconst (q := 39) (v := (1 : Int32)) dX1_drops_38 rfl (by decide) ?_
  refine r_ob (fun a3 ha3 => ?_)
  obtain ⟨hea3, hka3⟩ := o_at_eq ha3
  cases hea3
  refine r_callI (q := 42) (c_X1_no G h0 N _ _ _) (cl_V (ci := 0) rfl rfl (lw_V q492 q494 qs3 q167 q495) (hd_X1_no) ⟨Nat.le_of_ble_eq_true rfl, Nat.le_of_ble_eq_true rfl⟩ (List.mem_singleton.mp hka3) rfl rfl rfl (Nat.le_of_ble_eq_true rfl) dX1_drops_39) rfl (fun x1 σ2 => ?_)
  exact r_ireturn rfl rfl dX1_drops_42
theorem c_X1_drops (G : Gx) (h0 : G0 G) (N : Nat) (a0 : Nat) (i1 : Int32) (i2 : Int32) (i3 : Int32) (i4 : Int32) (σ : Mem) : Ct G mX1_drops rhoI [vR (some a0), vI i1, vI i2, vI i3, vI i4] σ (f_X1_drops N a0 i1 i2 i3 i4 σ) := by
  refine Ct_of h0 (by decide) rfl (Nat.le_of_ble_eq_true rfl) (L0 := [some (vR (some a0)), some (vI i1), some (vI i2), some (vI i3), some (vI i4)]) rfl ?_
  unfold f_X1_drops
  refine r_aload_n (q := 1) dX1_drops_0 rfl rfl rfl ?_
  refine r_ob (fun a3 ha3 => ?_)
  obtain ⟨hea3, hka3⟩ := o_at_eq ha3
  cases hea3
  refine r_callV (q := 4) (c_X1_anew G h0 N _ _) (cl_V (ci := 0) rfl rfl (lw_V q485 q487 qs2 q167 q488) (hd_X1_anew) ⟨Nat.le_of_ble_eq_true rfl, Nat.le_of_ble_eq_true rfl⟩ (List.mem_singleton.mp hka3) rfl rfl rfl (Nat.le_of_ble_eq_true rfl) dX1_drops_1) rfl (fun u1 σ2 => ?_)
  refine r_aload_n (q := 5) dX1_drops_4 rfl rfl rfl ?_
  refine r_iload_n (q := 6) dX1_drops_5 rfl rfl rfl ?_
  refine r_ob (fun a6 ha6 => ?_)
  obtain ⟨hea6, hka6⟩ := o_at_eq ha6
  cases hea6
  refine r_callI (q := 9) (c_X1_isCase G h0 N _ _ _) (cl_V (ci := 0) rfl rfl (lw_V q1416 q1418 qs50 q167 q1419) (hd_X1_isCase) ⟨Nat.le_of_ble_eq_true rfl, Nat.le_of_ble_eq_true rfl⟩ (List.mem_singleton.mp hka6) rfl rfl rfl (Nat.le_of_ble_eq_true rfl) dX1_drops_6) rfl (fun x4 σ5 => ?_)
  refine r_if_eq (q := 12) (t := 37) dX1_drops_9 rfl (by decide) (fun _ => ?_) (fun _ => ?_)
  · exact r_le (w_X1_drops_b37 G h0 N _ _) (Nat.le_refl _) (And.intro rfl trivial)
  · refine r_aload_n (q := 13) dX1_drops_12 rfl rfl rfl ?_
    refine r_iload_n (q := 14) dX1_drops_13 rfl rfl rfl ?_
    refine r_ob (fun a9 ha9 => ?_)
    obtain ⟨hea9, hka9⟩ := o_at_eq ha9
    cases hea9
    refine r_callI (q := 17) (c_X1_isGoat G h0 N _ _ _) (cl_V (ci := 0) rfl rfl (lw_V q1331 q1333 qs45 q167 q1334) (hd_X1_isGoat) ⟨Nat.le_of_ble_eq_true rfl, Nat.le_of_ble_eq_true rfl⟩ (List.mem_singleton.mp hka9) rfl rfl rfl (Nat.le_of_ble_eq_true rfl) dX1_drops_14) rfl (fun x7 σ8 => ?_)
    refine r_if_eq (q := 20) (t := 37) dX1_drops_17 rfl (by decide) (fun _ => ?_) (fun _ => ?_)
    · exact r_le (w_X1_drops_b37 G h0 N _ _) (Nat.le_refl _) (And.intro rfl trivial)
    · refine r_aload_n (q := 21) dX1_drops_20 rfl rfl rfl ?_
      refine r_iload_n (q := 22) dX1_drops_21 rfl rfl rfl ?_
      refine r_ob (fun a12 ha12 => ?_)
      obtain ⟨hea12, hka12⟩ := o_at_eq ha12
      cases hea12
      refine r_callI (q := 25) (c_X1_isPlant G h0 N _ _ _) (cl_V (ci := 0) rfl rfl (lw_V q1319 q1321 qs44 q167 q1322) (hd_X1_isPlant) ⟨Nat.le_of_ble_eq_true rfl, Nat.le_of_ble_eq_true rfl⟩ (List.mem_singleton.mp hka12) rfl rfl rfl (Nat.le_of_ble_eq_true rfl) dX1_drops_22) rfl (fun x10 σ11 => ?_)
      refine r_if_eq (q := 28) (t := 37) dX1_drops_25 rfl (by decide) (fun _ => ?_) (fun _ => ?_)
      · exact r_le (w_X1_drops_b37 G h0 N _ _) (Nat.le_refl _) (And.intro rfl trivial)
      · refine r_aload_n (q := 29) dX1_drops_28 rfl rfl rfl ?_
        refine r_iload (q := 31) dX1_drops_29 rfl rfl ?_
        refine r_ob (fun a15 ha15 => ?_)
        obtain ⟨hea15, hka15⟩ := o_at_eq ha15
        cases hea15
        refine r_callI (q := 34) (c_X1_isPlace G h0 N _ _ _) (cl_V (ci := 0) rfl rfl (lw_V q1315 q1317 qs43 q167 q1318) (hd_X1_isPlace) ⟨Nat.le_of_ble_eq_true rfl, Nat.le_of_ble_eq_true rfl⟩ (List.mem_singleton.mp hka15) rfl rfl rfl (Nat.le_of_ble_eq_true rfl) dX1_drops_31) rfl (fun x13 σ14 => ?_)
        refine r_if_ne (q := 37) (t := 43) dX1_drops_34 rfl (by decide) (fun _ => ?_) (fun _ => ?_)
        · exact r_le (w_X1_drops_b37 G h0 N _ _) (Nat.le_refl _) (And.intro rfl trivial)
        · refine r_aload_n (q := 44) dX1_drops_43 rfl rfl rfl ?_
          refine r_iload_n (q := 45) dX1_drops_44 rfl rfl rfl ?_
          refine r_ob (fun a18 ha18 => ?_)
          obtain ⟨hea18, hka18⟩ := o_at_eq ha18
          cases hea18
          refine r_callV (q := 48) (c_X1_run G h0 N _ _ _) (cl_V (ci := 0) rfl rfl (lw_V q1428 q1430 qs51 q167 q1431) (hd_X1_run) ⟨Nat.le_of_ble_eq_true rfl, Nat.le_of_ble_eq_true rfl⟩ (List.mem_singleton.mp hka18) rfl rfl rfl (Nat.le_of_ble_eq_true rfl) dX1_drops_45) rfl (fun u16 σ17 => ?_)
          refine r_aload_n (q := 49) dX1_drops_48 rfl rfl rfl ?_
          refine r_gR (q := 52) fl_X1_46 rfl dX1_drops_49 rfl (fun x19 => ?_)
          refine r_iload_n (q := 53) dX1_drops_52 rfl rfl rfl ?_
          refine r_iload_n (q := 54) dX1_drops_53 rfl rfl rfl ?_
          refine r_iload (q := 56) dX1_drops_54 rfl rfl ?_
          refine r_ob (fun a22 ha22 => ?_)
          obtain ⟨hea22, hka22⟩ := o_at_eq ha22
          cases hea22
          refine r_callI (q := 59) (c_X5_drops G h0 N _ _ _ _ _) (cl_V (ci := 4) rfl rfl (lw_V q1528 q1529 q1530 q174 q1531) (hd_X5_drops) ⟨Nat.le_of_ble_eq_true rfl, Nat.le_of_ble_eq_true rfl⟩ (List.mem_singleton.mp hka22) rfl rfl rfl (Nat.le_of_ble_eq_true rfl) dX1_drops_56) rfl (fun x20 σ21 => ?_)
          exact r_ireturn rfl rfl dX1_drops_59
theorem w_X7_dropped_b87 (G : Gx) (h0 : G0 G) (N : Nat) (K6 : Nat → Int32 → Int32 → Int32 → Int32 → Int32 → Mem → Option (Int32 × Mem)) (hK6 : ∀ (a0 : Nat) (l1 : Int32) (l2 : Int32) (l3 : Int32) (l4 : Int32) (l5 : Int32) (σ : Mem), Runs G mX7_dropped rhoI σ 6 [some (vR (some a0)), some (vI l1), some (vI l2), some (vI l3), some (vI l4), some (vI l5)] [] (K6 a0 l1 l2 l3 l4 l5 σ)) (a0 : Nat) (l1 : Int32) (l2 : Int32) (l3 : Int32) (l5 : Int32) (t0 : Int32) (t1 : Int32) (σ : Mem) : Runs G mX7_dropped rhoI σ 87 [some (vR (some a0)), some (vI l1), some (vI l2), some (vI l3), none, some (vI l5)] [vI t1, vI t0] (f_X7_dropped_b87 N K6 a0 l1 l2 l3 l5 t0 t1 σ) := by
  unfold f_X7_dropped_b87
  refine r_iadd (q := 88) dX7_dropped_87 rfl ?_
  refine r_istore (q := 90) dX7_dropped_88 rfl (Nat.le_of_ble_eq_true rfl) rfl ?_
  refine r_iinc (q := 93) (v := (1 : Int32)) dX7_dropped_90 rfl rfl (by decide) (Nat.le_of_ble_eq_true rfl) rfl ?_
  refine r_goto (q := 6) dX7_dropped_93 (by decide) ?_
  exact r_le (hK6 _ _ _ _ _ _ _) (Nat.le_refl _) (And.intro rfl (And.intro rfl (And.intro rfl (And.intro rfl (And.intro rfl (And.intro rfl trivial))))))
theorem w_X7_dropped_b86 (G : Gx) (h0 : G0 G) (N : Nat) (K6 : Nat → Int32 → Int32 → Int32 → Int32 → Int32 → Mem → Option (Int32 × Mem)) (hK6 : ∀ (a0 : Nat) (l1 : Int32) (l2 : Int32) (l3 : Int32) (l4 : Int32) (l5 : Int32) (σ : Mem), Runs G mX7_dropped rhoI σ 6 [some (vR (some a0)), some (vI l1), some (vI l2), some (vI l3), some (vI l4), some (vI l5)] [] (K6 a0 l1 l2 l3 l4 l5 σ)) (a0 : Nat) (l1 : Int32) (l2 : Int32) (l3 : Int32) (l5 : Int32) (t0 : Int32) (σ : Mem) : Runs G mX7_dropped rhoI σ 86 [some (vR (some a0)), some (vI l1), some (vI l2), some (vI l3), none, some (vI l5)] [vI t0] (f_X7_dropped_b86 N K6 a0 l1 l2 l3 l5 t0 σ) := by
  unfold f_X7_dropped_b86
  refine r_iconst (q := 87) (v := (0 : Int32)) dX7_dropped_86 rfl (by decide) ?_
  exact r_le (w_X7_dropped_b87 G h0 N K6 hK6 _ _ _ _ _ _ _ _) (Nat.le_refl _) (And.intro rfl (And.intro rfl (And.intro rfl (And.intro rfl (And.intro rfl trivial)))))
theorem w_X7_dropped_b6B (G : Gx) (h0 : G0 G) (N : Nat)   (K6 : Nat → Int32 → Int32 → Int32 → Int32 → Int32 → Mem → Option (Int32 × Mem)) (hK6 : ∀ (a0 : Nat) (l1 : Int32) (l2 : Int32) (l3 : Int32) (l4 : Int32) (l5 : Int32) (σ : Mem), Runs G mX7_dropped rhoI σ 6 [some (vR (some a0)), some (vI l1), some (vI l2), some (vI l3), some (vI l4), some (vI l5)] [] (K6 a0 l1 l2 l3 l4 l5 σ)) (a0 : Nat) (l1 : Int32) (l2 : Int32) (l3 : Int32) (l4 : Int32) (l5 : Int32) (σ : Mem) : Runs G mX7_dropped rhoI σ 6 [some (vR (some a0)), some (vI l1), some (vI l2), some (vI l3), some (vI l4), some (vI l5)] [] (f_X7_dropped_b6B N  K6 a0 l1 l2 l3 l4 l5 σ) := by
  unfold f_X7_dropped_b6B
  refine r_iload (q := 8) dX7_dropped_6 rfl rfl ?_
  refine r_iconst (q := 9) (v := (2 : Int32)) dX7_dropped_8 rfl (by decide) ?_
  refine r_iadd (q := 10) dX7_dropped_9 rfl ?_
  refine r_aload_n (q := 11) dX7_dropped_10 rfl rfl rfl ?_
  refine r_gR (q := 14) fl_X7_442 rfl dX7_dropped_11 rfl (fun x1 => ?_)
  refine r_gI (q := 17) fl_X7_196 dX7_dropped_14 rfl (fun x2 => ?_)
  refine r_icmp_ge (q := 20) (t := 96) dX7_dropped_17 rfl (by decide) (fun _ => ?_) (fun _ => ?_)
  · refine r_iload (q := 98) dX7_dropped_96 rfl rfl ?_
    exact r_ireturn rfl rfl dX7_dropped_98
  · refine r_iload (q := 22) dX7_dropped_20 rfl rfl ?_
    refine r_aload_n (q := 23) dX7_dropped_22 rfl rfl rfl ?_
    refine r_gR (q := 26) fl_X7_36 rfl dX7_dropped_23 rfl (fun x3 => ?_)
    refine r_bipush (q := 28) (v := (12 : Int32)) dX7_dropped_26 rfl (by decide) ?_
    refine r_iload_n (q := 29) dX7_dropped_28 rfl rfl rfl ?_
    refine r_imul (q := 30) dX7_dropped_29 rfl ?_
    refine r_iload (q := 32) dX7_dropped_30 rfl rfl ?_
    refine r_iadd (q := 33) dX7_dropped_32 rfl ?_
    refine r_iaload (q := 34) dX7_dropped_33 rfl (fun x4 => ?_)
    refine r_if_le (q := 37) (t := 86) dX7_dropped_34 rfl (by decide) (fun _ => ?_) (fun _ => ?_)
    · exact r_le (w_X7_dropped_b86 G h0 N K6 hK6 _ _ _ _ _ _ _) (Nat.le_refl _) (And.intro rfl (And.intro rfl (And.intro rfl (And.intro rfl (And.intro rfl trivial)))))
    · refine r_aload_n (q := 38) dX7_dropped_37 rfl rfl rfl ?_
      refine r_gR (q := 41) fl_X7_33 rfl dX7_dropped_38 rfl (fun x5 => ?_)
      refine r_bipush (q := 43) (v := (12 : Int32)) dX7_dropped_41 rfl (by decide) ?_
      refine r_iload_n (q := 44) dX7_dropped_43 rfl rfl rfl ?_
      refine r_imul (q := 45) dX7_dropped_44 rfl ?_
      refine r_iload (q := 47) dX7_dropped_45 rfl rfl ?_
      refine r_iadd (q := 48) dX7_dropped_47 rfl ?_
      refine r_iaload (q := 49) dX7_dropped_48 rfl (fun x6 => ?_)
      refine r_iload_n (q := 50) dX7_dropped_49 rfl rfl rfl ?_
      refine r_icmp_ne (q := 53) (t := 86) dX7_dropped_50 rfl (by decide) (fun _ => ?_) (fun _ => ?_)
      · refine r_aload_n (q := 54) dX7_dropped_53 rfl rfl rfl ?_
        refine r_gR (q := 57) fl_X7_30 rfl dX7_dropped_54 rfl (fun x7 => ?_)
        refine r_bipush (q := 59) (v := (12 : Int32)) dX7_dropped_57 rfl (by decide) ?_
        refine r_iload_n (q := 60) dX7_dropped_59 rfl rfl rfl ?_
        refine r_imul (q := 61) dX7_dropped_60 rfl ?_
        refine r_iload (q := 63) dX7_dropped_61 rfl rfl ?_
        refine r_iadd (q := 64) dX7_dropped_63 rfl ?_
        refine r_iconst (q := 65) (v := (2 : Int32)) dX7_dropped_64 rfl (by decide) ?_
        refine r_iadd (q := 66) dX7_dropped_65 rfl ?_
        refine r_iaload (q := 67) dX7_dropped_66 rfl (fun x8 => ?_)
        refine r_iload_n (q := 68) dX7_dropped_67 rfl rfl rfl ?_
        refine r_icmp_ne (q := 71) (t := 86) dX7_dropped_68 rfl (by decide) (fun _ => ?_) (fun _ => ?_)
        · refine r_aload_n (q := 72) dX7_dropped_71 rfl rfl rfl ?_
          refine r_gR (q := 75) fl_X7_36 rfl dX7_dropped_72 rfl (fun x9 => ?_)
          refine r_bipush (q := 77) (v := (12 : Int32)) dX7_dropped_75 rfl (by decide) ?_
          refine r_iload_n (q := 78) dX7_dropped_77 rfl rfl rfl ?_
          refine r_imul (q := 79) dX7_dropped_78 rfl ?_
          refine r_iload (q := 81) dX7_dropped_79 rfl rfl ?_
          refine r_iadd (q := 82) dX7_dropped_81 rfl ?_
          refine r_iaload (q := 83) dX7_dropped_82 rfl (fun x10 => ?_)
          refine r_goto (q := 87) dX7_dropped_83 (by decide) ?_
          exact r_le (w_X7_dropped_b87 G h0 N K6 hK6 _ _ _ _ _ _ _ _) (Nat.le_refl _) (And.intro rfl (And.intro rfl (And.intro rfl (And.intro rfl (And.intro rfl trivial)))))
        · exact r_le (w_X7_dropped_b86 G h0 N K6 hK6 _ _ _ _ _ _ _) (Nat.le_refl _) (And.intro rfl (And.intro rfl (And.intro rfl (And.intro rfl (And.intro rfl trivial)))))
      · exact r_le (w_X7_dropped_b86 G h0 N K6 hK6 _ _ _ _ _ _ _) (Nat.le_refl _) (And.intro rfl (And.intro rfl (And.intro rfl (And.intro rfl (And.intro rfl trivial)))))
theorem w_X7_dropped_b6 (G : Gx) (h0 : G0 G) (N : Nat)   : ∀ (z : Nat) (a0 : Nat) (l1 : Int32) (l2 : Int32) (l3 : Int32) (l4 : Int32) (l5 : Int32) (σ : Mem), Runs G mX7_dropped rhoI σ 6 [some (vR (some a0)), some (vI l1), some (vI l2), some (vI l3), some (vI l4), some (vI l5)] [] (f_X7_dropped_b6 N  z a0 l1 l2 l3 l4 l5 σ) := by
  intro z
  induction z with
  | zero => exact fun _ _ _ _ _ _ _ => r_none
  | succ z ih => exact fun a0 l1 l2 l3 l4 l5 σ => w_X7_dropped_b6B G h0 N   _ ih a0 l1 l2 l3 l4 l5 σ
theorem c_X7_dropped (G : Gx) (h0 : G0 G) (N : Nat) (a0 : Nat) (i1 : Int32) (i2 : Int32) (i3 : Int32) (σ : Mem) : Ct G mX7_dropped rhoI [vR (some a0), vI i1, vI i2, vI i3] σ (f_X7_dropped N a0 i1 i2 i3 σ) := by
  refine Ct_of h0 (by decide) rfl (Nat.le_of_ble_eq_true rfl) (L0 := [some (vR (some a0)), some (vI i1), some (vI i2), some (vI i3), none, none]) rfl ?_
  unfold f_X7_dropped
  refine r_iconst (q := 1) (v := (0 : Int32)) dX7_dropped_0 rfl (by decide) ?_
  refine r_istore (q := 3) dX7_dropped_1 rfl (Nat.le_of_ble_eq_true rfl) rfl ?_
  refine r_iconst (q := 4) (v := (0 : Int32)) dX7_dropped_3 rfl (by decide) ?_
  refine r_istore (q := 6) dX7_dropped_4 rfl (Nat.le_of_ble_eq_true rfl) rfl ?_
  exact r_le (w_X7_dropped_b6 G h0 N N _ _ _ _ _ _ _) (Nat.le_refl _) (And.intro rfl (And.intro rfl (And.intro rfl (And.intro rfl (And.intro rfl (And.intro rfl trivial))))))
theorem w_X7_drops_b38 (G : Gx) (h0 : G0 G) (N : Nat)   (a0 : Nat) (σ : Mem) : Runs G mX7_drops rhoI σ 38 [some (vR (some a0)), none, none, none, none] [] (f_X7_drops_b38 N  a0 σ) := by
  unfold f_X7_drops_b38
  refine r_aload_n (q := 39) dX7_drops_38 rfl rfl rfl ?_
  refine r_iconst (q := 40) (v := (1 : Int32)) dX7_drops_39 rfl (by decide) ?_
  refine r_ob (fun a3 ha3 => ?_)
  obtain ⟨hea3, hka3⟩ := o_at_eq ha3
  cases hea3
  refine r_callI (q := 43) (c_X7_refused G h0 N _ _ _) (cl_V (ci := 6) rfl rfl (lw_V q2019 q2021 qs83 q176 q2022) (hd_X7_refused) ⟨Nat.le_of_ble_eq_true rfl, Nat.le_of_ble_eq_true rfl⟩ (List.mem_singleton.mp hka3) rfl rfl rfl (Nat.le_of_ble_eq_true rfl) dX7_drops_40) rfl (fun x1 σ2 => ?_)
  exact r_ireturn rfl rfl dX7_drops_43
theorem c_X7_drops (G : Gx) (h0 : G0 G) (N : Nat) (a0 : Nat) (i1 : Int32) (i2 : Int32) (i3 : Int32) (i4 : Int32) (σ : Mem) : Ct G mX7_drops rhoI [vR (some a0), vI i1, vI i2, vI i3, vI i4] σ (f_X7_drops N a0 i1 i2 i3 i4 σ) := by
  refine Ct_of h0 (by decide) rfl (Nat.le_of_ble_eq_true rfl) (L0 := [some (vR (some a0)), some (vI i1), some (vI i2), some (vI i3), some (vI i4)]) rfl ?_
  unfold f_X7_drops
  refine r_aload_n (q := 1) dX7_drops_0 rfl rfl rfl ?_
  refine r_iconst (q := 2) (v := (0 : Int32)) dX7_drops_1 rfl (by decide) ?_
  refine r_pI (q := 5) fp_X7_drops_66 dX7_drops_2 rfl (fun σ1 => ?_)
  refine r_aload_n (q := 6) dX7_drops_5 rfl rfl rfl ?_
  refine r_iload_n (q := 7) dX7_drops_6 rfl rfl rfl ?_
  refine r_ob (fun a4 ha4 => ?_)
  obtain ⟨hea4, hka4⟩ := o_at_eq ha4
  cases hea4
  refine r_callI (q := 10) (c_X7_isCase G h0 N _ _ _) (cl_V (ci := 6) rfl rfl (lw_V q2455 q2457 qs126 q176 q2458) (hd_X7_isCase) ⟨Nat.le_of_ble_eq_true rfl, Nat.le_of_ble_eq_true rfl⟩ (List.mem_singleton.mp hka4) rfl rfl rfl (Nat.le_of_ble_eq_true rfl) dX7_drops_7) rfl (fun x2 σ3 => ?_)
  refine r_if_eq (q := 13) (t := 38) dX7_drops_10 rfl (by decide) (fun _ => ?_) (fun _ => ?_)
  · exact r_le (w_X7_drops_b38 G h0 N _ _) (Nat.le_refl _) (And.intro rfl trivial)
  · refine r_aload_n (q := 14) dX7_drops_13 rfl rfl rfl ?_
    refine r_iload_n (q := 15) dX7_drops_14 rfl rfl rfl ?_
    refine r_ob (fun a7 ha7 => ?_)
    obtain ⟨hea7, hka7⟩ := o_at_eq ha7
    cases hea7
    refine r_callI (q := 18) (c_X7_isGoat G h0 N _ _ _) (cl_V (ci := 6) rfl rfl (lw_V q2411 q2413 qs121 q176 q2414) (hd_X7_isGoat) ⟨Nat.le_of_ble_eq_true rfl, Nat.le_of_ble_eq_true rfl⟩ (List.mem_singleton.mp hka7) rfl rfl rfl (Nat.le_of_ble_eq_true rfl) dX7_drops_15) rfl (fun x5 σ6 => ?_)
    refine r_if_eq (q := 21) (t := 38) dX7_drops_18 rfl (by decide) (fun _ => ?_) (fun _ => ?_)
    · exact r_le (w_X7_drops_b38 G h0 N _ _) (Nat.le_refl _) (And.intro rfl trivial)
    · refine r_aload_n (q := 22) dX7_drops_21 rfl rfl rfl ?_
      refine r_iload_n (q := 23) dX7_drops_22 rfl rfl rfl ?_
      refine r_ob (fun a10 ha10 => ?_)
      obtain ⟨hea10, hka10⟩ := o_at_eq ha10
      cases hea10
      refine r_callI (q := 26) (c_X7_isPlant G h0 N _ _ _) (cl_V (ci := 6) rfl rfl (lw_V q2399 q2401 qs120 q176 q2402) (hd_X7_isPlant) ⟨Nat.le_of_ble_eq_true rfl, Nat.le_of_ble_eq_true rfl⟩ (List.mem_singleton.mp hka10) rfl rfl rfl (Nat.le_of_ble_eq_true rfl) dX7_drops_23) rfl (fun x8 σ9 => ?_)
      refine r_if_eq (q := 29) (t := 38) dX7_drops_26 rfl (by decide) (fun _ => ?_) (fun _ => ?_)
      · exact r_le (w_X7_drops_b38 G h0 N _ _) (Nat.le_refl _) (And.intro rfl trivial)
      · refine r_aload_n (q := 30) dX7_drops_29 rfl rfl rfl ?_
        refine r_iload (q := 32) dX7_drops_30 rfl rfl ?_
        refine r_ob (fun a13 ha13 => ?_)
        obtain ⟨hea13, hka13⟩ := o_at_eq ha13
        cases hea13
        refine r_callI (q := 35) (c_X7_isPlace G h0 N _ _ _) (cl_V (ci := 6) rfl rfl (lw_V q2395 q2397 qs119 q176 q2398) (hd_X7_isPlace) ⟨Nat.le_of_ble_eq_true rfl, Nat.le_of_ble_eq_true rfl⟩ (List.mem_singleton.mp hka13) rfl rfl rfl (Nat.le_of_ble_eq_true rfl) dX7_drops_32) rfl (fun x11 σ12 => ?_)
        refine r_if_ne (q := 38) (t := 44) dX7_drops_35 rfl (by decide) (fun _ => ?_) (fun _ => ?_)
        · exact r_le (w_X7_drops_b38 G h0 N _ _) (Nat.le_refl _) (And.intro rfl trivial)
        · refine r_aload_n (q := 45) dX7_drops_44 rfl rfl rfl ?_
          refine r_iload_n (q := 46) dX7_drops_45 rfl rfl rfl ?_
          refine r_ob (fun a16 ha16 => ?_)
          obtain ⟨hea16, hka16⟩ := o_at_eq ha16
          cases hea16
          refine r_callV (q := 49) (c_X7_day G h0 N _ _ _) (cl_V (ci := 6) rfl rfl (lw_V q2467 q2469 qs127 q176 q2470) (hd_X7_day) ⟨Nat.le_of_ble_eq_true rfl, Nat.le_of_ble_eq_true rfl⟩ (List.mem_singleton.mp hka16) rfl rfl rfl (Nat.le_of_ble_eq_true rfl) dX7_drops_46) rfl (fun u14 σ15 => ?_)
          refine r_aload_n (q := 50) dX7_drops_49 rfl rfl rfl ?_
          refine r_aload_n (q := 51) dX7_drops_50 rfl rfl rfl ?_
          refine r_iload_n (q := 52) dX7_drops_51 rfl rfl rfl ?_
          refine r_iload_n (q := 53) dX7_drops_52 rfl rfl rfl ?_
          refine r_iload (q := 55) dX7_drops_53 rfl rfl ?_
          refine r_ob (fun a19 ha19 => ?_)
          obtain ⟨hea19, hka19⟩ := o_at_eq ha19
          cases hea19
          refine r_callI (q := 58) (c_X7_dropped G h0 N _ _ _ _ _) (cl_V (ci := 6) rfl rfl (lw_V q2517 q2519 qs136 q176 q2520) (hd_X7_dropped) ⟨Nat.le_of_ble_eq_true rfl, Nat.le_of_ble_eq_true rfl⟩ (List.mem_singleton.mp hka19) rfl rfl rfl (Nat.le_of_ble_eq_true rfl) dX7_drops_55) rfl (fun x17 σ18 => ?_)
          refine r_ob (fun a22 ha22 => ?_)
          obtain ⟨hea22, hka22⟩ := o_at_eq ha22
          cases hea22
          refine r_callI (q := 61) (c_X7_good G h0 N _ _ _) (cl_V (ci := 6) rfl rfl (lw_V q2379 q2381 qs118 q176 q2382) (hd_X7_good) ⟨Nat.le_of_ble_eq_true rfl, Nat.le_of_ble_eq_true rfl⟩ (List.mem_singleton.mp hka22) rfl rfl rfl (Nat.le_of_ble_eq_true rfl) dX7_drops_58) rfl (fun x20 σ21 => ?_)
          exact r_ireturn rfl rfl dX7_drops_61
theorem c_X5_flees (G : Gx) (h0 : G0 G) (N : Nat) (a0 : Nat) (i1 : Int32) (σ : Mem) : Ct G mX5_flees rhoI [vR (some a0), vI i1] σ (f_X5_flees N a0 i1 σ) := by
  refine Ct_of h0 (by decide) rfl (Nat.le_of_ble_eq_true rfl) (L0 := [some (vR (some a0)), some (vI i1)]) rfl ?_
  unfold f_X5_flees
  refine r_aload_n (q := 1) dX5_flees_0 rfl rfl rfl ?_
  refine r_gR (q := 4) fl_X5_27 rfl dX5_flees_1 rfl (fun x1 => ?_)
  refine r_iload_n (q := 5) dX5_flees_4 rfl rfl rfl ?_
  refine r_iaload (q := 6) dX5_flees_5 rfl (fun x2 => ?_)
  exact r_ireturn rfl rfl dX5_flees_6
theorem w_X1_flees_b20 (G : Gx) (h0 : G0 G) (N : Nat)   (a0 : Nat) (σ : Mem) : Runs G mX1_flees rhoI σ 20 [some (vR (some a0)), none, none] [] (f_X1_flees_b20 N  a0 σ) := by
  unfold f_X1_flees_b20
  refine r_aload_n (q := 21) dX1_flees_20 rfl rfl rfl ?_
  refine r_iconst (q := 22) (v := (1 : Int32)) dX1_flees_21 rfl (by decide) ?_
  refine r_ob (fun a3 ha3 => ?_)
  obtain ⟨hea3, hka3⟩ := o_at_eq ha3
  cases hea3
  refine r_callI (q := 25) (c_X1_no G h0 N _ _ _) (cl_V (ci := 0) rfl rfl (lw_V q492 q494 qs3 q167 q495) (hd_X1_no) ⟨Nat.le_of_ble_eq_true rfl, Nat.le_of_ble_eq_true rfl⟩ (List.mem_singleton.mp hka3) rfl rfl rfl (Nat.le_of_ble_eq_true rfl) dX1_flees_22) rfl (fun x1 σ2 => ?_)
  exact r_ireturn rfl rfl dX1_flees_25
theorem c_X1_flees (G : Gx) (h0 : G0 G) (N : Nat) (a0 : Nat) (i1 : Int32) (i2 : Int32) (σ : Mem) : Ct G mX1_flees rhoI [vR (some a0), vI i1, vI i2] σ (f_X1_flees N a0 i1 i2 σ) := by
  refine Ct_of h0 (by decide) rfl (Nat.le_of_ble_eq_true rfl) (L0 := [some (vR (some a0)), some (vI i1), some (vI i2)]) rfl ?_
  unfold f_X1_flees
  refine r_aload_n (q := 1) dX1_flees_0 rfl rfl rfl ?_
  refine r_ob (fun a3 ha3 => ?_)
  obtain ⟨hea3, hka3⟩ := o_at_eq ha3
  cases hea3
  refine r_callV (q := 4) (c_X1_anew G h0 N _ _) (cl_V (ci := 0) rfl rfl (lw_V q485 q487 qs2 q167 q488) (hd_X1_anew) ⟨Nat.le_of_ble_eq_true rfl, Nat.le_of_ble_eq_true rfl⟩ (List.mem_singleton.mp hka3) rfl rfl rfl (Nat.le_of_ble_eq_true rfl) dX1_flees_1) rfl (fun u1 σ2 => ?_)
  refine r_aload_n (q := 5) dX1_flees_4 rfl rfl rfl ?_
  refine r_iload_n (q := 6) dX1_flees_5 rfl rfl rfl ?_
  refine r_ob (fun a6 ha6 => ?_)
  obtain ⟨hea6, hka6⟩ := o_at_eq ha6
  cases hea6
  refine r_callI (q := 9) (c_X1_isCase G h0 N _ _ _) (cl_V (ci := 0) rfl rfl (lw_V q1416 q1418 qs50 q167 q1419) (hd_X1_isCase) ⟨Nat.le_of_ble_eq_true rfl, Nat.le_of_ble_eq_true rfl⟩ (List.mem_singleton.mp hka6) rfl rfl rfl (Nat.le_of_ble_eq_true rfl) dX1_flees_6) rfl (fun x4 σ5 => ?_)
  refine r_if_eq (q := 12) (t := 20) dX1_flees_9 rfl (by decide) (fun _ => ?_) (fun _ => ?_)
  · exact r_le (w_X1_flees_b20 G h0 N _ _) (Nat.le_refl _) (And.intro rfl trivial)
  · refine r_aload_n (q := 13) dX1_flees_12 rfl rfl rfl ?_
    refine r_iload_n (q := 14) dX1_flees_13 rfl rfl rfl ?_
    refine r_ob (fun a9 ha9 => ?_)
    obtain ⟨hea9, hka9⟩ := o_at_eq ha9
    cases hea9
    refine r_callI (q := 17) (c_X1_isGoat G h0 N _ _ _) (cl_V (ci := 0) rfl rfl (lw_V q1331 q1333 qs45 q167 q1334) (hd_X1_isGoat) ⟨Nat.le_of_ble_eq_true rfl, Nat.le_of_ble_eq_true rfl⟩ (List.mem_singleton.mp hka9) rfl rfl rfl (Nat.le_of_ble_eq_true rfl) dX1_flees_14) rfl (fun x7 σ8 => ?_)
    refine r_if_ne (q := 20) (t := 26) dX1_flees_17 rfl (by decide) (fun _ => ?_) (fun _ => ?_)
    · exact r_le (w_X1_flees_b20 G h0 N _ _) (Nat.le_refl _) (And.intro rfl trivial)
    · refine r_aload_n (q := 27) dX1_flees_26 rfl rfl rfl ?_
      refine r_iload_n (q := 28) dX1_flees_27 rfl rfl rfl ?_
      refine r_ob (fun a12 ha12 => ?_)
      obtain ⟨hea12, hka12⟩ := o_at_eq ha12
      cases hea12
      refine r_callV (q := 31) (c_X1_run G h0 N _ _ _) (cl_V (ci := 0) rfl rfl (lw_V q1428 q1430 qs51 q167 q1431) (hd_X1_run) ⟨Nat.le_of_ble_eq_true rfl, Nat.le_of_ble_eq_true rfl⟩ (List.mem_singleton.mp hka12) rfl rfl rfl (Nat.le_of_ble_eq_true rfl) dX1_flees_28) rfl (fun u10 σ11 => ?_)
      refine r_aload_n (q := 32) dX1_flees_31 rfl rfl rfl ?_
      refine r_gR (q := 35) fl_X1_46 rfl dX1_flees_32 rfl (fun x13 => ?_)
      refine r_iload_n (q := 36) dX1_flees_35 rfl rfl rfl ?_
      refine r_ob (fun a16 ha16 => ?_)
      obtain ⟨hea16, hka16⟩ := o_at_eq ha16
      cases hea16
      refine r_callI (q := 39) (c_X5_flees G h0 N _ _ _) (cl_V (ci := 4) rfl rfl (lw_V q1537 q1538 q1539 q174 q1540) (hd_X5_flees) ⟨Nat.le_of_ble_eq_true rfl, Nat.le_of_ble_eq_true rfl⟩ (List.mem_singleton.mp hka16) rfl rfl rfl (Nat.le_of_ble_eq_true rfl) dX1_flees_36) rfl (fun x14 σ15 => ?_)
      exact r_ireturn rfl rfl dX1_flees_39
theorem w_X7_flees_b21 (G : Gx) (h0 : G0 G) (N : Nat)   (a0 : Nat) (σ : Mem) : Runs G mX7_flees rhoI σ 21 [some (vR (some a0)), none, none] [] (f_X7_flees_b21 N  a0 σ) := by
  unfold f_X7_flees_b21
  refine r_aload_n (q := 22) dX7_flees_21 rfl rfl rfl ?_
  refine r_iconst (q := 23) (v := (1 : Int32)) dX7_flees_22 rfl (by decide) ?_
  refine r_ob (fun a3 ha3 => ?_)
  obtain ⟨hea3, hka3⟩ := o_at_eq ha3
  cases hea3
  refine r_callI (q := 26) (c_X7_refused G h0 N _ _ _) (cl_V (ci := 6) rfl rfl (lw_V q2019 q2021 qs83 q176 q2022) (hd_X7_refused) ⟨Nat.le_of_ble_eq_true rfl, Nat.le_of_ble_eq_true rfl⟩ (List.mem_singleton.mp hka3) rfl rfl rfl (Nat.le_of_ble_eq_true rfl) dX7_flees_23) rfl (fun x1 σ2 => ?_)
  exact r_ireturn rfl rfl dX7_flees_26
theorem c_X7_flees (G : Gx) (h0 : G0 G) (N : Nat) (a0 : Nat) (i1 : Int32) (i2 : Int32) (σ : Mem) : Ct G mX7_flees rhoI [vR (some a0), vI i1, vI i2] σ (f_X7_flees N a0 i1 i2 σ) := by
  refine Ct_of h0 (by decide) rfl (Nat.le_of_ble_eq_true rfl) (L0 := [some (vR (some a0)), some (vI i1), some (vI i2)]) rfl ?_
  unfold f_X7_flees
  refine r_aload_n (q := 1) dX7_flees_0 rfl rfl rfl ?_
  refine r_iconst (q := 2) (v := (0 : Int32)) dX7_flees_1 rfl (by decide) ?_
  refine r_pI (q := 5) fp_X7_flees_66 dX7_flees_2 rfl (fun σ1 => ?_)
  refine r_aload_n (q := 6) dX7_flees_5 rfl rfl rfl ?_
  refine r_iload_n (q := 7) dX7_flees_6 rfl rfl rfl ?_
  refine r_ob (fun a4 ha4 => ?_)
  obtain ⟨hea4, hka4⟩ := o_at_eq ha4
  cases hea4
  refine r_callI (q := 10) (c_X7_isCase G h0 N _ _ _) (cl_V (ci := 6) rfl rfl (lw_V q2455 q2457 qs126 q176 q2458) (hd_X7_isCase) ⟨Nat.le_of_ble_eq_true rfl, Nat.le_of_ble_eq_true rfl⟩ (List.mem_singleton.mp hka4) rfl rfl rfl (Nat.le_of_ble_eq_true rfl) dX7_flees_7) rfl (fun x2 σ3 => ?_)
  refine r_if_eq (q := 13) (t := 21) dX7_flees_10 rfl (by decide) (fun _ => ?_) (fun _ => ?_)
  · exact r_le (w_X7_flees_b21 G h0 N _ _) (Nat.le_refl _) (And.intro rfl trivial)
  · refine r_aload_n (q := 14) dX7_flees_13 rfl rfl rfl ?_
    refine r_iload_n (q := 15) dX7_flees_14 rfl rfl rfl ?_
    refine r_ob (fun a7 ha7 => ?_)
    obtain ⟨hea7, hka7⟩ := o_at_eq ha7
    cases hea7
    refine r_callI (q := 18) (c_X7_isGoat G h0 N _ _ _) (cl_V (ci := 6) rfl rfl (lw_V q2411 q2413 qs121 q176 q2414) (hd_X7_isGoat) ⟨Nat.le_of_ble_eq_true rfl, Nat.le_of_ble_eq_true rfl⟩ (List.mem_singleton.mp hka7) rfl rfl rfl (Nat.le_of_ble_eq_true rfl) dX7_flees_15) rfl (fun x5 σ6 => ?_)
    refine r_if_ne (q := 21) (t := 27) dX7_flees_18 rfl (by decide) (fun _ => ?_) (fun _ => ?_)
    · exact r_le (w_X7_flees_b21 G h0 N _ _) (Nat.le_refl _) (And.intro rfl trivial)
    · refine r_aload_n (q := 28) dX7_flees_27 rfl rfl rfl ?_
      refine r_iload_n (q := 29) dX7_flees_28 rfl rfl rfl ?_
      refine r_ob (fun a10 ha10 => ?_)
      obtain ⟨hea10, hka10⟩ := o_at_eq ha10
      cases hea10
      refine r_callV (q := 32) (c_X7_day G h0 N _ _ _) (cl_V (ci := 6) rfl rfl (lw_V q2467 q2469 qs127 q176 q2470) (hd_X7_day) ⟨Nat.le_of_ble_eq_true rfl, Nat.le_of_ble_eq_true rfl⟩ (List.mem_singleton.mp hka10) rfl rfl rfl (Nat.le_of_ble_eq_true rfl) dX7_flees_29) rfl (fun u8 σ9 => ?_)
      refine r_aload_n (q := 33) dX7_flees_32 rfl rfl rfl ?_
      refine r_aload_n (q := 34) dX7_flees_33 rfl rfl rfl ?_
      refine r_gR (q := 37) fl_X7_42 rfl dX7_flees_34 rfl (fun x11 => ?_)
      refine r_iload_n (q := 38) dX7_flees_37 rfl rfl rfl ?_
      refine r_iaload (q := 39) dX7_flees_38 rfl (fun x12 => ?_)
      refine r_ob (fun a15 ha15 => ?_)
      obtain ⟨hea15, hka15⟩ := o_at_eq ha15
      cases hea15
      refine r_callI (q := 42) (c_X7_good G h0 N _ _ _) (cl_V (ci := 6) rfl rfl (lw_V q2379 q2381 qs118 q176 q2382) (hd_X7_good) ⟨Nat.le_of_ble_eq_true rfl, Nat.le_of_ble_eq_true rfl⟩ (List.mem_singleton.mp hka15) rfl rfl rfl (Nat.le_of_ble_eq_true rfl) dX7_flees_39) rfl (fun x13 σ14 => ?_)
      exact r_ireturn rfl rfl dX7_flees_42
theorem c_X5_left (G : Gx) (h0 : G0 G) (N : Nat) (a0 : Nat) (i1 : Int32) (i2 : Int32) (σ : Mem) : Ct G mX5_left rhoI [vR (some a0), vI i1, vI i2] σ (f_X5_left N a0 i1 i2 σ) := by
  refine Ct_of h0 (by decide) rfl (Nat.le_of_ble_eq_true rfl) (L0 := [some (vR (some a0)), some (vI i1), some (vI i2)]) rfl ?_
  unfold f_X5_left
  refine r_aload_n (q := 1) dX5_left_0 rfl rfl rfl ?_
  refine r_gR (q := 4) fl_X5_9 rfl dX5_left_1 rfl (fun x1 => ?_)
  refine r_iconst (q := 5) (v := (4 : Int32)) dX5_left_4 rfl (by decide) ?_
  refine r_iload_n (q := 6) dX5_left_5 rfl rfl rfl ?_
  refine r_imul (q := 7) dX5_left_6 rfl ?_
  refine r_iload_n (q := 8) dX5_left_7 rfl rfl rfl ?_
  refine r_iadd (q := 9) dX5_left_8 rfl ?_
  refine r_iaload (q := 10) dX5_left_9 rfl (fun x2 => ?_)
  exact r_ireturn rfl rfl dX5_left_10
theorem w_X1_left_b28 (G : Gx) (h0 : G0 G) (N : Nat)   (a0 : Nat) (σ : Mem) : Runs G mX1_left rhoI σ 28 [some (vR (some a0)), none, none, none] [] (f_X1_left_b28 N  a0 σ) := by
  unfold f_X1_left_b28
  refine r_aload_n (q := 29) dX1_left_28 rfl rfl rfl ?_
  refine r_iconst (q := 30) (v := (1 : Int32)) dX1_left_29 rfl (by decide) ?_
  refine r_ob (fun a3 ha3 => ?_)
  obtain ⟨hea3, hka3⟩ := o_at_eq ha3
  cases hea3
  refine r_callI (q := 33) (c_X1_no G h0 N _ _ _) (cl_V (ci := 0) rfl rfl (lw_V q492 q494 qs3 q167 q495) (hd_X1_no) ⟨Nat.le_of_ble_eq_true rfl, Nat.le_of_ble_eq_true rfl⟩ (List.mem_singleton.mp hka3) rfl rfl rfl (Nat.le_of_ble_eq_true rfl) dX1_left_30) rfl (fun x1 σ2 => ?_)
  exact r_ireturn rfl rfl dX1_left_33
theorem c_X1_left (G : Gx) (h0 : G0 G) (N : Nat) (a0 : Nat) (i1 : Int32) (i2 : Int32) (i3 : Int32) (σ : Mem) : Ct G mX1_left rhoI [vR (some a0), vI i1, vI i2, vI i3] σ (f_X1_left N a0 i1 i2 i3 σ) := by
  refine Ct_of h0 (by decide) rfl (Nat.le_of_ble_eq_true rfl) (L0 := [some (vR (some a0)), some (vI i1), some (vI i2), some (vI i3)]) rfl ?_
  unfold f_X1_left
  refine r_aload_n (q := 1) dX1_left_0 rfl rfl rfl ?_
  refine r_ob (fun a3 ha3 => ?_)
  obtain ⟨hea3, hka3⟩ := o_at_eq ha3
  cases hea3
  refine r_callV (q := 4) (c_X1_anew G h0 N _ _) (cl_V (ci := 0) rfl rfl (lw_V q485 q487 qs2 q167 q488) (hd_X1_anew) ⟨Nat.le_of_ble_eq_true rfl, Nat.le_of_ble_eq_true rfl⟩ (List.mem_singleton.mp hka3) rfl rfl rfl (Nat.le_of_ble_eq_true rfl) dX1_left_1) rfl (fun u1 σ2 => ?_)
  refine r_aload_n (q := 5) dX1_left_4 rfl rfl rfl ?_
  refine r_iload_n (q := 6) dX1_left_5 rfl rfl rfl ?_
  refine r_ob (fun a6 ha6 => ?_)
  obtain ⟨hea6, hka6⟩ := o_at_eq ha6
  cases hea6
  refine r_callI (q := 9) (c_X1_isCase G h0 N _ _ _) (cl_V (ci := 0) rfl rfl (lw_V q1416 q1418 qs50 q167 q1419) (hd_X1_isCase) ⟨Nat.le_of_ble_eq_true rfl, Nat.le_of_ble_eq_true rfl⟩ (List.mem_singleton.mp hka6) rfl rfl rfl (Nat.le_of_ble_eq_true rfl) dX1_left_6) rfl (fun x4 σ5 => ?_)
  refine r_if_eq (q := 12) (t := 28) dX1_left_9 rfl (by decide) (fun _ => ?_) (fun _ => ?_)
  · exact r_le (w_X1_left_b28 G h0 N _ _) (Nat.le_refl _) (And.intro rfl trivial)
  · refine r_aload_n (q := 13) dX1_left_12 rfl rfl rfl ?_
    refine r_iload_n (q := 14) dX1_left_13 rfl rfl rfl ?_
    refine r_ob (fun a9 ha9 => ?_)
    obtain ⟨hea9, hka9⟩ := o_at_eq ha9
    cases hea9
    refine r_callI (q := 17) (c_X1_isPlace G h0 N _ _ _) (cl_V (ci := 0) rfl rfl (lw_V q1315 q1317 qs43 q167 q1318) (hd_X1_isPlace) ⟨Nat.le_of_ble_eq_true rfl, Nat.le_of_ble_eq_true rfl⟩ (List.mem_singleton.mp hka9) rfl rfl rfl (Nat.le_of_ble_eq_true rfl) dX1_left_14) rfl (fun x7 σ8 => ?_)
    refine r_if_eq (q := 20) (t := 28) dX1_left_17 rfl (by decide) (fun _ => ?_) (fun _ => ?_)
    · exact r_le (w_X1_left_b28 G h0 N _ _) (Nat.le_refl _) (And.intro rfl trivial)
    · refine r_aload_n (q := 21) dX1_left_20 rfl rfl rfl ?_
      refine r_iload_n (q := 22) dX1_left_21 rfl rfl rfl ?_
      refine r_ob (fun a12 ha12 => ?_)
      obtain ⟨hea12, hka12⟩ := o_at_eq ha12
      cases hea12
      refine r_callI (q := 25) (c_X1_isPlant G h0 N _ _ _) (cl_V (ci := 0) rfl rfl (lw_V q1319 q1321 qs44 q167 q1322) (hd_X1_isPlant) ⟨Nat.le_of_ble_eq_true rfl, Nat.le_of_ble_eq_true rfl⟩ (List.mem_singleton.mp hka12) rfl rfl rfl (Nat.le_of_ble_eq_true rfl) dX1_left_22) rfl (fun x10 σ11 => ?_)
      refine r_if_ne (q := 28) (t := 34) dX1_left_25 rfl (by decide) (fun _ => ?_) (fun _ => ?_)
      · exact r_le (w_X1_left_b28 G h0 N _ _) (Nat.le_refl _) (And.intro rfl trivial)
      · refine r_aload_n (q := 35) dX1_left_34 rfl rfl rfl ?_
        refine r_iload_n (q := 36) dX1_left_35 rfl rfl rfl ?_
        refine r_ob (fun a15 ha15 => ?_)
        obtain ⟨hea15, hka15⟩ := o_at_eq ha15
        cases hea15
        refine r_callV (q := 39) (c_X1_run G h0 N _ _ _) (cl_V (ci := 0) rfl rfl (lw_V q1428 q1430 qs51 q167 q1431) (hd_X1_run) ⟨Nat.le_of_ble_eq_true rfl, Nat.le_of_ble_eq_true rfl⟩ (List.mem_singleton.mp hka15) rfl rfl rfl (Nat.le_of_ble_eq_true rfl) dX1_left_36) rfl (fun u13 σ14 => ?_)
        refine r_aload_n (q := 40) dX1_left_39 rfl rfl rfl ?_
        refine r_gR (q := 43) fl_X1_46 rfl dX1_left_40 rfl (fun x16 => ?_)
        refine r_iload_n (q := 44) dX1_left_43 rfl rfl rfl ?_
        refine r_iload_n (q := 45) dX1_left_44 rfl rfl rfl ?_
        refine r_ob (fun a19 ha19 => ?_)
        obtain ⟨hea19, hka19⟩ := o_at_eq ha19
        cases hea19
        refine r_callI (q := 48) (c_X5_left G h0 N _ _ _ _) (cl_V (ci := 4) rfl rfl (lw_V q1545 q1546 q1547 q174 q1548) (hd_X5_left) ⟨Nat.le_of_ble_eq_true rfl, Nat.le_of_ble_eq_true rfl⟩ (List.mem_singleton.mp hka19) rfl rfl rfl (Nat.le_of_ble_eq_true rfl) dX1_left_45) rfl (fun x17 σ18 => ?_)
        exact r_ireturn rfl rfl dX1_left_48
theorem w_X7_left_b29 (G : Gx) (h0 : G0 G) (N : Nat)   (a0 : Nat) (σ : Mem) : Runs G mX7_left rhoI σ 29 [some (vR (some a0)), none, none, none] [] (f_X7_left_b29 N  a0 σ) := by
  unfold f_X7_left_b29
  refine r_aload_n (q := 30) dX7_left_29 rfl rfl rfl ?_
  refine r_iconst (q := 31) (v := (1 : Int32)) dX7_left_30 rfl (by decide) ?_
  refine r_ob (fun a3 ha3 => ?_)
  obtain ⟨hea3, hka3⟩ := o_at_eq ha3
  cases hea3
  refine r_callI (q := 34) (c_X7_refused G h0 N _ _ _) (cl_V (ci := 6) rfl rfl (lw_V q2019 q2021 qs83 q176 q2022) (hd_X7_refused) ⟨Nat.le_of_ble_eq_true rfl, Nat.le_of_ble_eq_true rfl⟩ (List.mem_singleton.mp hka3) rfl rfl rfl (Nat.le_of_ble_eq_true rfl) dX7_left_31) rfl (fun x1 σ2 => ?_)
  exact r_ireturn rfl rfl dX7_left_34
theorem c_X7_left (G : Gx) (h0 : G0 G) (N : Nat) (a0 : Nat) (i1 : Int32) (i2 : Int32) (i3 : Int32) (σ : Mem) : Ct G mX7_left rhoI [vR (some a0), vI i1, vI i2, vI i3] σ (f_X7_left N a0 i1 i2 i3 σ) := by
  refine Ct_of h0 (by decide) rfl (Nat.le_of_ble_eq_true rfl) (L0 := [some (vR (some a0)), some (vI i1), some (vI i2), some (vI i3)]) rfl ?_
  unfold f_X7_left
  refine r_aload_n (q := 1) dX7_left_0 rfl rfl rfl ?_
  refine r_iconst (q := 2) (v := (0 : Int32)) dX7_left_1 rfl (by decide) ?_
  refine r_pI (q := 5) fp_X7_left_66 dX7_left_2 rfl (fun σ1 => ?_)
  refine r_aload_n (q := 6) dX7_left_5 rfl rfl rfl ?_
  refine r_iload_n (q := 7) dX7_left_6 rfl rfl rfl ?_
  refine r_ob (fun a4 ha4 => ?_)
  obtain ⟨hea4, hka4⟩ := o_at_eq ha4
  cases hea4
  refine r_callI (q := 10) (c_X7_isCase G h0 N _ _ _) (cl_V (ci := 6) rfl rfl (lw_V q2455 q2457 qs126 q176 q2458) (hd_X7_isCase) ⟨Nat.le_of_ble_eq_true rfl, Nat.le_of_ble_eq_true rfl⟩ (List.mem_singleton.mp hka4) rfl rfl rfl (Nat.le_of_ble_eq_true rfl) dX7_left_7) rfl (fun x2 σ3 => ?_)
  refine r_if_eq (q := 13) (t := 29) dX7_left_10 rfl (by decide) (fun _ => ?_) (fun _ => ?_)
  · exact r_le (w_X7_left_b29 G h0 N _ _) (Nat.le_refl _) (And.intro rfl trivial)
  · refine r_aload_n (q := 14) dX7_left_13 rfl rfl rfl ?_
    refine r_iload_n (q := 15) dX7_left_14 rfl rfl rfl ?_
    refine r_ob (fun a7 ha7 => ?_)
    obtain ⟨hea7, hka7⟩ := o_at_eq ha7
    cases hea7
    refine r_callI (q := 18) (c_X7_isPlace G h0 N _ _ _) (cl_V (ci := 6) rfl rfl (lw_V q2395 q2397 qs119 q176 q2398) (hd_X7_isPlace) ⟨Nat.le_of_ble_eq_true rfl, Nat.le_of_ble_eq_true rfl⟩ (List.mem_singleton.mp hka7) rfl rfl rfl (Nat.le_of_ble_eq_true rfl) dX7_left_15) rfl (fun x5 σ6 => ?_)
    refine r_if_eq (q := 21) (t := 29) dX7_left_18 rfl (by decide) (fun _ => ?_) (fun _ => ?_)
    · exact r_le (w_X7_left_b29 G h0 N _ _) (Nat.le_refl _) (And.intro rfl trivial)
    · refine r_aload_n (q := 22) dX7_left_21 rfl rfl rfl ?_
      refine r_iload_n (q := 23) dX7_left_22 rfl rfl rfl ?_
      refine r_ob (fun a10 ha10 => ?_)
      obtain ⟨hea10, hka10⟩ := o_at_eq ha10
      cases hea10
      refine r_callI (q := 26) (c_X7_isPlant G h0 N _ _ _) (cl_V (ci := 6) rfl rfl (lw_V q2399 q2401 qs120 q176 q2402) (hd_X7_isPlant) ⟨Nat.le_of_ble_eq_true rfl, Nat.le_of_ble_eq_true rfl⟩ (List.mem_singleton.mp hka10) rfl rfl rfl (Nat.le_of_ble_eq_true rfl) dX7_left_23) rfl (fun x8 σ9 => ?_)
      refine r_if_ne (q := 29) (t := 35) dX7_left_26 rfl (by decide) (fun _ => ?_) (fun _ => ?_)
      · exact r_le (w_X7_left_b29 G h0 N _ _) (Nat.le_refl _) (And.intro rfl trivial)
      · refine r_aload_n (q := 36) dX7_left_35 rfl rfl rfl ?_
        refine r_iload_n (q := 37) dX7_left_36 rfl rfl rfl ?_
        refine r_ob (fun a13 ha13 => ?_)
        obtain ⟨hea13, hka13⟩ := o_at_eq ha13
        cases hea13
        refine r_callV (q := 40) (c_X7_day G h0 N _ _ _) (cl_V (ci := 6) rfl rfl (lw_V q2467 q2469 qs127 q176 q2470) (hd_X7_day) ⟨Nat.le_of_ble_eq_true rfl, Nat.le_of_ble_eq_true rfl⟩ (List.mem_singleton.mp hka13) rfl rfl rfl (Nat.le_of_ble_eq_true rfl) dX7_left_37) rfl (fun u11 σ12 => ?_)
        refine r_aload_n (q := 41) dX7_left_40 rfl rfl rfl ?_
        refine r_aload_n (q := 42) dX7_left_41 rfl rfl rfl ?_
        refine r_gR (q := 45) fl_X7_39 rfl dX7_left_42 rfl (fun x14 => ?_)
        refine r_iconst (q := 46) (v := (4 : Int32)) dX7_left_45 rfl (by decide) ?_
        refine r_iload_n (q := 47) dX7_left_46 rfl rfl rfl ?_
        refine r_imul (q := 48) dX7_left_47 rfl ?_
        refine r_iload_n (q := 49) dX7_left_48 rfl rfl rfl ?_
        refine r_iadd (q := 50) dX7_left_49 rfl ?_
        refine r_iaload (q := 51) dX7_left_50 rfl (fun x15 => ?_)
        refine r_ob (fun a18 ha18 => ?_)
        obtain ⟨hea18, hka18⟩ := o_at_eq ha18
        cases hea18
        refine r_callI (q := 54) (c_X7_good G h0 N _ _ _) (cl_V (ci := 6) rfl rfl (lw_V q2379 q2381 qs118 q176 q2382) (hd_X7_good) ⟨Nat.le_of_ble_eq_true rfl, Nat.le_of_ble_eq_true rfl⟩ (List.mem_singleton.mp hka18) rfl rfl rfl (Nat.le_of_ble_eq_true rfl) dX7_left_51) rfl (fun x16 σ17 => ?_)
        exact r_ireturn rfl rfl dX7_left_54
theorem w_X1_met_b28 (G : Gx) (h0 : G0 G) (N : Nat)   (a0 : Nat) (σ : Mem) : Runs G mX1_met rhoI σ 28 [some (vR (some a0)), none, none, none, none, none, none] [] (f_X1_met_b28 N  a0 σ) := by
  unfold f_X1_met_b28
  refine r_aload_n (q := 29) dX1_met_28 rfl rfl rfl ?_
  refine r_iconst (q := 30) (v := (1 : Int32)) dX1_met_29 rfl (by decide) ?_
  refine r_ob (fun a3 ha3 => ?_)
  obtain ⟨hea3, hka3⟩ := o_at_eq ha3
  cases hea3
  refine r_callI (q := 33) (c_X1_no G h0 N _ _ _) (cl_V (ci := 0) rfl rfl (lw_V q492 q494 qs3 q167 q495) (hd_X1_no) ⟨Nat.le_of_ble_eq_true rfl, Nat.le_of_ble_eq_true rfl⟩ (List.mem_singleton.mp hka3) rfl rfl rfl (Nat.le_of_ble_eq_true rfl) dX1_met_30) rfl (fun x1 σ2 => ?_)
  exact r_ireturn rfl rfl dX1_met_33
theorem w_X1_met_b111 (G : Gx) (h0 : G0 G) (N : Nat) (K56 : Nat → Int32 → Int32 → Int32 → Int32 → Int32 → Mem → Option (Int32 × Mem)) (hK56 : ∀ (a0 : Nat) (l2 : Int32) (l3 : Int32) (l4 : Int32) (l5 : Int32) (l6 : Int32) (σ : Mem), Runs G mX1_met rhoI σ 56 [some (vR (some a0)), none, some (vI l2), some (vI l3), some (vI l4), some (vI l5), some (vI l6)] [] (K56 a0 l2 l3 l4 l5 l6 σ)) (a0 : Nat) (l2 : Int32) (l3 : Int32) (l4 : Int32) (l6 : Int32) (t0 : Int32) (t1 : Int32) (σ : Mem) : Runs G mX1_met rhoI σ 111 [some (vR (some a0)), none, some (vI l2), some (vI l3), some (vI l4), none, some (vI l6)] [vI t1, vI t0] (f_X1_met_b111 N K56 a0 l2 l3 l4 l6 t0 t1 σ) := by
  unfold f_X1_met_b111
  refine r_iadd (q := 112) dX1_met_111 rfl ?_
  refine r_istore (q := 114) dX1_met_112 rfl (Nat.le_of_ble_eq_true rfl) rfl ?_
  refine r_iinc (q := 117) (v := (1 : Int32)) dX1_met_114 rfl rfl (by decide) (Nat.le_of_ble_eq_true rfl) rfl ?_
  refine r_goto (q := 56) dX1_met_117 (by decide) ?_
  exact r_le (hK56 _ _ _ _ _ _ _) (Nat.le_refl _) (And.intro rfl (And.intro rfl (And.intro rfl (And.intro rfl (And.intro rfl (And.intro rfl trivial))))))
theorem w_X1_met_b56B (G : Gx) (h0 : G0 G) (N : Nat)   (K56 : Nat → Int32 → Int32 → Int32 → Int32 → Int32 → Mem → Option (Int32 × Mem)) (hK56 : ∀ (a0 : Nat) (l2 : Int32) (l3 : Int32) (l4 : Int32) (l5 : Int32) (l6 : Int32) (σ : Mem), Runs G mX1_met rhoI σ 56 [some (vR (some a0)), none, some (vI l2), some (vI l3), some (vI l4), some (vI l5), some (vI l6)] [] (K56 a0 l2 l3 l4 l5 l6 σ)) (a0 : Nat) (l2 : Int32) (l3 : Int32) (l4 : Int32) (l5 : Int32) (l6 : Int32) (σ : Mem) : Runs G mX1_met rhoI σ 56 [some (vR (some a0)), none, some (vI l2), some (vI l3), some (vI l4), some (vI l5), some (vI l6)] [] (f_X1_met_b56B N  K56 a0 l2 l3 l4 l5 l6 σ) := by
  unfold f_X1_met_b56B
  refine r_iload (q := 58) dX1_met_56 rfl rfl ?_
  refine r_aload_n (q := 59) dX1_met_58 rfl rfl rfl ?_
  refine r_gR (q := 62) fl_X1_104 rfl dX1_met_59 rfl (fun x1 => ?_)
  refine r_gI (q := 65) fl_X1_148 dX1_met_62 rfl (fun x2 => ?_)
  refine r_icmp_ge (q := 68) (t := 120) dX1_met_65 rfl (by decide) (fun _ => ?_) (fun _ => ?_)
  · refine r_iload (q := 122) dX1_met_120 rfl rfl ?_
    exact r_ireturn rfl rfl dX1_met_122
  · refine r_iload (q := 70) dX1_met_68 rfl rfl ?_
    refine r_bipush (q := 72) (v := (-2 : Int32)) dX1_met_70 rfl (by decide) ?_
    refine r_icmp_eq (q := 75) (t := 120) dX1_met_72 rfl (by decide) (fun _ => ?_) (fun _ => ?_)
    · refine r_iload (q := 122) dX1_met_120 rfl rfl ?_
      exact r_ireturn rfl rfl dX1_met_122
    · refine r_iload (q := 77) dX1_met_75 rfl rfl ?_
      refine r_aload_n (q := 78) dX1_met_77 rfl rfl rfl ?_
      refine r_gR (q := 81) fl_X1_46 rfl dX1_met_78 rfl (fun x3 => ?_)
      refine r_iload_n (q := 82) dX1_met_81 rfl rfl rfl ?_
      refine r_iload (q := 84) dX1_met_82 rfl rfl ?_
      refine r_ob (fun a6 ha6 => ?_)
      obtain ⟨hea6, hka6⟩ := o_at_eq ha6
      cases hea6
      refine r_callI (q := 87) (c_X5_at G h0 N _ _ _ _) (cl_V (ci := 4) rfl rfl (lw_V q1512 q1513 q1514 q174 q1515) (hd_X5_at) ⟨Nat.le_of_ble_eq_true rfl, Nat.le_of_ble_eq_true rfl⟩ (List.mem_singleton.mp hka6) rfl rfl rfl (Nat.le_of_ble_eq_true rfl) dX1_met_84) rfl (fun x4 σ5 => ?_)
      refine r_aload_n (q := 88) dX1_met_87 rfl rfl rfl ?_
      refine r_gR (q := 91) fl_X1_104 rfl dX1_met_88 rfl (fun x7 => ?_)
      refine r_gR (q := 94) fl_X1_235 rfl dX1_met_91 rfl (fun x8 => ?_)
      refine r_iload_n (q := 95) dX1_met_94 rfl rfl rfl ?_
      refine r_aaload (q := 96) (k0 := 7) (by decide) dX1_met_95 rfl (fun x9 => ?_)
      refine r_iload (q := 98) dX1_met_96 rfl rfl ?_
      refine r_iload (q := 100) dX1_met_98 rfl rfl ?_
      refine r_ob (fun a12 ha12 => ?_)
      obtain ⟨hea12, hka12⟩ := o_at_eq ha12
      cases hea12
      refine r_callI (q := 103) (c_X11_at G h0 N _ _ _ _) (cl_V (ci := 9) rfl rfl (lw_V q1401 q1402 q1403 q185 q1404) (hd_X11_at) ⟨Nat.le_of_ble_eq_true rfl, Nat.le_of_ble_eq_true rfl⟩ (List.mem_singleton.mp hka12) rfl rfl rfl (Nat.le_of_ble_eq_true rfl) dX1_met_100) rfl (fun x10 σ11 => ?_)
      refine r_icmp_ne (q := 106) (t := 110) dX1_met_103 rfl (by decide) (fun _ => ?_) (fun _ => ?_)
      · refine r_iconst (q := 107) (v := (1 : Int32)) dX1_met_106 rfl (by decide) ?_
        refine r_goto (q := 111) dX1_met_107 (by decide) ?_
        exact r_le (w_X1_met_b111 G h0 N K56 hK56 _ _ _ _ _ _ _ _) (Nat.le_refl _) (And.intro rfl (And.intro rfl (And.intro rfl (And.intro rfl (And.intro rfl trivial)))))
      · refine r_iconst (q := 111) (v := (0 : Int32)) dX1_met_110 rfl (by decide) ?_
        exact r_le (w_X1_met_b111 G h0 N K56 hK56 _ _ _ _ _ _ _ _) (Nat.le_refl _) (And.intro rfl (And.intro rfl (And.intro rfl (And.intro rfl (And.intro rfl trivial)))))
theorem w_X1_met_b56 (G : Gx) (h0 : G0 G) (N : Nat)   : ∀ (z : Nat) (a0 : Nat) (l2 : Int32) (l3 : Int32) (l4 : Int32) (l5 : Int32) (l6 : Int32) (σ : Mem), Runs G mX1_met rhoI σ 56 [some (vR (some a0)), none, some (vI l2), some (vI l3), some (vI l4), some (vI l5), some (vI l6)] [] (f_X1_met_b56 N  z a0 l2 l3 l4 l5 l6 σ) := by
  intro z
  induction z with
  | zero => exact fun _ _ _ _ _ _ _ => r_none
  | succ z ih => exact fun a0 l2 l3 l4 l5 l6 σ => w_X1_met_b56B G h0 N   _ ih a0 l2 l3 l4 l5 l6 σ
theorem c_X1_met (G : Gx) (h0 : G0 G) (N : Nat) (a0 : Nat) (i1 : Int32) (i2 : Int32) (i3 : Int32) (σ : Mem) : Ct G mX1_met rhoI [vR (some a0), vI i1, vI i2, vI i3] σ (f_X1_met N a0 i1 i2 i3 σ) := by
  refine Ct_of h0 (by decide) rfl (Nat.le_of_ble_eq_true rfl) (L0 := [some (vR (some a0)), some (vI i1), some (vI i2), some (vI i3), none, none, none]) rfl ?_
  unfold f_X1_met
  refine r_aload_n (q := 1) dX1_met_0 rfl rfl rfl ?_
  refine r_ob (fun a3 ha3 => ?_)
  obtain ⟨hea3, hka3⟩ := o_at_eq ha3
  cases hea3
  refine r_callV (q := 4) (c_X1_anew G h0 N _ _) (cl_V (ci := 0) rfl rfl (lw_V q485 q487 qs2 q167 q488) (hd_X1_anew) ⟨Nat.le_of_ble_eq_true rfl, Nat.le_of_ble_eq_true rfl⟩ (List.mem_singleton.mp hka3) rfl rfl rfl (Nat.le_of_ble_eq_true rfl) dX1_met_1) rfl (fun u1 σ2 => ?_)
  refine r_aload_n (q := 5) dX1_met_4 rfl rfl rfl ?_
  refine r_iload_n (q := 6) dX1_met_5 rfl rfl rfl ?_
  refine r_ob (fun a6 ha6 => ?_)
  obtain ⟨hea6, hka6⟩ := o_at_eq ha6
  cases hea6
  refine r_callI (q := 9) (c_X1_isCase G h0 N _ _ _) (cl_V (ci := 0) rfl rfl (lw_V q1416 q1418 qs50 q167 q1419) (hd_X1_isCase) ⟨Nat.le_of_ble_eq_true rfl, Nat.le_of_ble_eq_true rfl⟩ (List.mem_singleton.mp hka6) rfl rfl rfl (Nat.le_of_ble_eq_true rfl) dX1_met_6) rfl (fun x4 σ5 => ?_)
  refine r_if_eq (q := 12) (t := 28) dX1_met_9 rfl (by decide) (fun _ => ?_) (fun _ => ?_)
  · exact r_le (w_X1_met_b28 G h0 N _ _) (Nat.le_refl _) (And.intro rfl trivial)
  · refine r_aload_n (q := 13) dX1_met_12 rfl rfl rfl ?_
    refine r_iload_n (q := 14) dX1_met_13 rfl rfl rfl ?_
    refine r_ob (fun a9 ha9 => ?_)
    obtain ⟨hea9, hka9⟩ := o_at_eq ha9
    cases hea9
    refine r_callI (q := 17) (c_X1_isGoat G h0 N _ _ _) (cl_V (ci := 0) rfl rfl (lw_V q1331 q1333 qs45 q167 q1334) (hd_X1_isGoat) ⟨Nat.le_of_ble_eq_true rfl, Nat.le_of_ble_eq_true rfl⟩ (List.mem_singleton.mp hka9) rfl rfl rfl (Nat.le_of_ble_eq_true rfl) dX1_met_14) rfl (fun x7 σ8 => ?_)
    refine r_if_eq (q := 20) (t := 28) dX1_met_17 rfl (by decide) (fun _ => ?_) (fun _ => ?_)
    · exact r_le (w_X1_met_b28 G h0 N _ _) (Nat.le_refl _) (And.intro rfl trivial)
    · refine r_aload_n (q := 21) dX1_met_20 rfl rfl rfl ?_
      refine r_iload_n (q := 22) dX1_met_21 rfl rfl rfl ?_
      refine r_ob (fun a12 ha12 => ?_)
      obtain ⟨hea12, hka12⟩ := o_at_eq ha12
      cases hea12
      refine r_callI (q := 25) (c_X1_isPerson G h0 N _ _ _) (cl_V (ci := 0) rfl rfl (lw_V q1393 q1395 qs48 q167 q1396) (hd_X1_isPerson) ⟨Nat.le_of_ble_eq_true rfl, Nat.le_of_ble_eq_true rfl⟩ (List.mem_singleton.mp hka12) rfl rfl rfl (Nat.le_of_ble_eq_true rfl) dX1_met_22) rfl (fun x10 σ11 => ?_)
      refine r_if_ne (q := 28) (t := 34) dX1_met_25 rfl (by decide) (fun _ => ?_) (fun _ => ?_)
      · exact r_le (w_X1_met_b28 G h0 N _ _) (Nat.le_refl _) (And.intro rfl trivial)
      · refine r_aload_n (q := 35) dX1_met_34 rfl rfl rfl ?_
        refine r_iload_n (q := 36) dX1_met_35 rfl rfl rfl ?_
        refine r_ob (fun a15 ha15 => ?_)
        obtain ⟨hea15, hka15⟩ := o_at_eq ha15
        cases hea15
        refine r_callV (q := 39) (c_X1_run G h0 N _ _ _) (cl_V (ci := 0) rfl rfl (lw_V q1428 q1430 qs51 q167 q1431) (hd_X1_run) ⟨Nat.le_of_ble_eq_true rfl, Nat.le_of_ble_eq_true rfl⟩ (List.mem_singleton.mp hka15) rfl rfl rfl (Nat.le_of_ble_eq_true rfl) dX1_met_36) rfl (fun u13 σ14 => ?_)
        refine r_aload_n (q := 40) dX1_met_39 rfl rfl rfl ?_
        refine r_gR (q := 43) fl_X1_104 rfl dX1_met_40 rfl (fun x16 => ?_)
        refine r_iload_n (q := 44) dX1_met_43 rfl rfl rfl ?_
        refine r_iload_n (q := 45) dX1_met_44 rfl rfl rfl ?_
        refine r_ob (fun a19 ha19 => ?_)
        obtain ⟨hea19, hka19⟩ := o_at_eq ha19
        cases hea19
        refine r_callI (q := 48) (c_X8_storyOf G h0 N _ _ _ _) (cl_V (ci := 7) rfl rfl (lw_V q1420 q1421 q1422 q177 q1423) (hd_X8_storyOf) ⟨Nat.le_of_ble_eq_true rfl, Nat.le_of_ble_eq_true rfl⟩ (List.mem_singleton.mp hka19) rfl rfl rfl (Nat.le_of_ble_eq_true rfl) dX1_met_45) rfl (fun x17 σ18 => ?_)
        refine r_istore (q := 50) dX1_met_48 rfl (Nat.le_of_ble_eq_true rfl) rfl ?_
        refine r_iconst (q := 51) (v := (0 : Int32)) dX1_met_50 rfl (by decide) ?_
        refine r_istore (q := 53) dX1_met_51 rfl (Nat.le_of_ble_eq_true rfl) rfl ?_
        refine r_iconst (q := 54) (v := (0 : Int32)) dX1_met_53 rfl (by decide) ?_
        refine r_istore (q := 56) dX1_met_54 rfl (Nat.le_of_ble_eq_true rfl) rfl ?_
        exact r_le (w_X1_met_b56 G h0 N N _ _ _ _ _ _ _) (Nat.le_refl _) (And.intro rfl (And.intro rfl (And.intro rfl (And.intro rfl (And.intro rfl (And.intro rfl trivial))))))
theorem w_X7_met_b29 (G : Gx) (h0 : G0 G) (N : Nat)   (a0 : Nat) (σ : Mem) : Runs G mX7_met rhoI σ 29 [some (vR (some a0)), none, none, none, none, none] [] (f_X7_met_b29 N  a0 σ) := by
  unfold f_X7_met_b29
  refine r_aload_n (q := 30) dX7_met_29 rfl rfl rfl ?_
  refine r_iconst (q := 31) (v := (1 : Int32)) dX7_met_30 rfl (by decide) ?_
  refine r_ob (fun a3 ha3 => ?_)
  obtain ⟨hea3, hka3⟩ := o_at_eq ha3
  cases hea3
  refine r_callI (q := 34) (c_X7_refused G h0 N _ _ _) (cl_V (ci := 6) rfl rfl (lw_V q2019 q2021 qs83 q176 q2022) (hd_X7_refused) ⟨Nat.le_of_ble_eq_true rfl, Nat.le_of_ble_eq_true rfl⟩ (List.mem_singleton.mp hka3) rfl rfl rfl (Nat.le_of_ble_eq_true rfl) dX7_met_31) rfl (fun x1 σ2 => ?_)
  exact r_ireturn rfl rfl dX7_met_34
theorem w_X7_met_b91 (G : Gx) (h0 : G0 G) (N : Nat) (K46 : Nat → Int32 → Int32 → Int32 → Int32 → Int32 → Mem → Option (Int32 × Mem)) (hK46 : ∀ (a0 : Nat) (l1 : Int32) (l2 : Int32) (l3 : Int32) (l4 : Int32) (l5 : Int32) (σ : Mem), Runs G mX7_met rhoI σ 46 [some (vR (some a0)), some (vI l1), some (vI l2), some (vI l3), some (vI l4), some (vI l5)] [] (K46 a0 l1 l2 l3 l4 l5 σ)) (a0 : Nat) (l1 : Int32) (l2 : Int32) (l3 : Int32) (l5 : Int32) (t0 : Int32) (t1 : Int32) (σ : Mem) : Runs G mX7_met rhoI σ 91 [some (vR (some a0)), some (vI l1), some (vI l2), some (vI l3), none, some (vI l5)] [vI t1, vI t0] (f_X7_met_b91 N K46 a0 l1 l2 l3 l5 t0 t1 σ) := by
  unfold f_X7_met_b91
  refine r_iadd (q := 92) dX7_met_91 rfl ?_
  refine r_istore (q := 94) dX7_met_92 rfl (Nat.le_of_ble_eq_true rfl) rfl ?_
  refine r_iinc (q := 97) (v := (1 : Int32)) dX7_met_94 rfl rfl (by decide) (Nat.le_of_ble_eq_true rfl) rfl ?_
  refine r_goto (q := 46) dX7_met_97 (by decide) ?_
  exact r_le (hK46 _ _ _ _ _ _ _) (Nat.le_refl _) (And.intro rfl (And.intro rfl (And.intro rfl (And.intro rfl (And.intro rfl (And.intro rfl trivial))))))
theorem w_X7_met_b46B (G : Gx) (h0 : G0 G) (N : Nat)   (K46 : Nat → Int32 → Int32 → Int32 → Int32 → Int32 → Mem → Option (Int32 × Mem)) (hK46 : ∀ (a0 : Nat) (l1 : Int32) (l2 : Int32) (l3 : Int32) (l4 : Int32) (l5 : Int32) (σ : Mem), Runs G mX7_met rhoI σ 46 [some (vR (some a0)), some (vI l1), some (vI l2), some (vI l3), some (vI l4), some (vI l5)] [] (K46 a0 l1 l2 l3 l4 l5 σ)) (a0 : Nat) (l1 : Int32) (l2 : Int32) (l3 : Int32) (l4 : Int32) (l5 : Int32) (σ : Mem) : Runs G mX7_met rhoI σ 46 [some (vR (some a0)), some (vI l1), some (vI l2), some (vI l3), some (vI l4), some (vI l5)] [] (f_X7_met_b46B N  K46 a0 l1 l2 l3 l4 l5 σ) := by
  unfold f_X7_met_b46B
  refine r_iload (q := 48) dX7_met_46 rfl rfl ?_
  refine r_aload_n (q := 49) dX7_met_48 rfl rfl rfl ?_
  refine r_gR (q := 52) fl_X7_442 rfl dX7_met_49 rfl (fun x1 => ?_)
  refine r_gI (q := 55) fl_X7_196 dX7_met_52 rfl (fun x2 => ?_)
  refine r_icmp_ge (q := 58) (t := 100) dX7_met_55 rfl (by decide) (fun _ => ?_) (fun _ => ?_)
  · refine r_aload_n (q := 101) dX7_met_100 rfl rfl rfl ?_
    refine r_iload (q := 103) dX7_met_101 rfl rfl ?_
    refine r_ob (fun a5 ha5 => ?_)
    obtain ⟨hea5, hka5⟩ := o_at_eq ha5
    cases hea5
    refine r_callI (q := 106) (c_X7_good G h0 N _ _ _) (cl_V (ci := 6) rfl rfl (lw_V q2379 q2381 qs118 q176 q2382) (hd_X7_good) ⟨Nat.le_of_ble_eq_true rfl, Nat.le_of_ble_eq_true rfl⟩ (List.mem_singleton.mp hka5) rfl rfl rfl (Nat.le_of_ble_eq_true rfl) dX7_met_103) rfl (fun x3 σ4 => ?_)
    exact r_ireturn rfl rfl dX7_met_106
  · refine r_iload (q := 60) dX7_met_58 rfl rfl ?_
    refine r_aload_n (q := 61) dX7_met_60 rfl rfl rfl ?_
    refine r_gR (q := 64) fl_X7_442 rfl dX7_met_61 rfl (fun x6 => ?_)
    refine r_iload_n (q := 65) dX7_met_64 rfl rfl rfl ?_
    refine r_iload_n (q := 66) dX7_met_65 rfl rfl rfl ?_
    refine r_iload (q := 68) dX7_met_66 rfl rfl ?_
    refine r_ob (fun a9 ha9 => ?_)
    obtain ⟨hea9, hka9⟩ := o_at_eq ha9
    cases hea9
    refine r_callI (q := 71) (c_X24_placeIn G h0 N _ _ _ _ _) (cl_V (ci := 20) rfl rfl (lw_V q2487 q2488 q2489 q199 q2490) (hd_X24_placeIn) ⟨Nat.le_of_ble_eq_true rfl, Nat.le_of_ble_eq_true rfl⟩ (List.mem_singleton.mp hka9) rfl rfl rfl (Nat.le_of_ble_eq_true rfl) dX7_met_68) rfl (fun x7 σ8 => ?_)
    refine r_aload_n (q := 72) dX7_met_71 rfl rfl rfl ?_
    refine r_gR (q := 75) fl_X7_30 rfl dX7_met_72 rfl (fun x10 => ?_)
    refine r_bipush (q := 77) (v := (12 : Int32)) dX7_met_75 rfl (by decide) ?_
    refine r_iload_n (q := 78) dX7_met_77 rfl rfl rfl ?_
    refine r_imul (q := 79) dX7_met_78 rfl ?_
    refine r_iload (q := 81) dX7_met_79 rfl rfl ?_
    refine r_iadd (q := 82) dX7_met_81 rfl ?_
    refine r_iaload (q := 83) dX7_met_82 rfl (fun x11 => ?_)
    refine r_icmp_ne (q := 86) (t := 90) dX7_met_83 rfl (by decide) (fun _ => ?_) (fun _ => ?_)
    · refine r_iconst (q := 87) (v := (1 : Int32)) dX7_met_86 rfl (by decide) ?_
      refine r_goto (q := 91) dX7_met_87 (by decide) ?_
      exact r_le (w_X7_met_b91 G h0 N K46 hK46 _ _ _ _ _ _ _ _) (Nat.le_refl _) (And.intro rfl (And.intro rfl (And.intro rfl (And.intro rfl (And.intro rfl trivial)))))
    · refine r_iconst (q := 91) (v := (0 : Int32)) dX7_met_90 rfl (by decide) ?_
      exact r_le (w_X7_met_b91 G h0 N K46 hK46 _ _ _ _ _ _ _ _) (Nat.le_refl _) (And.intro rfl (And.intro rfl (And.intro rfl (And.intro rfl (And.intro rfl trivial)))))
theorem w_X7_met_b46 (G : Gx) (h0 : G0 G) (N : Nat)   : ∀ (z : Nat) (a0 : Nat) (l1 : Int32) (l2 : Int32) (l3 : Int32) (l4 : Int32) (l5 : Int32) (σ : Mem), Runs G mX7_met rhoI σ 46 [some (vR (some a0)), some (vI l1), some (vI l2), some (vI l3), some (vI l4), some (vI l5)] [] (f_X7_met_b46 N  z a0 l1 l2 l3 l4 l5 σ) := by
  intro z
  induction z with
  | zero => exact fun _ _ _ _ _ _ _ => r_none
  | succ z ih => exact fun a0 l1 l2 l3 l4 l5 σ => w_X7_met_b46B G h0 N   _ ih a0 l1 l2 l3 l4 l5 σ
theorem c_X7_met (G : Gx) (h0 : G0 G) (N : Nat) (a0 : Nat) (i1 : Int32) (i2 : Int32) (i3 : Int32) (σ : Mem) : Ct G mX7_met rhoI [vR (some a0), vI i1, vI i2, vI i3] σ (f_X7_met N a0 i1 i2 i3 σ) := by
  refine Ct_of h0 (by decide) rfl (Nat.le_of_ble_eq_true rfl) (L0 := [some (vR (some a0)), some (vI i1), some (vI i2), some (vI i3), none, none]) rfl ?_
  unfold f_X7_met
  refine r_aload_n (q := 1) dX7_met_0 rfl rfl rfl ?_
  refine r_iconst (q := 2) (v := (0 : Int32)) dX7_met_1 rfl (by decide) ?_
  refine r_pI (q := 5) fp_X7_met_66 dX7_met_2 rfl (fun σ1 => ?_)
  refine r_aload_n (q := 6) dX7_met_5 rfl rfl rfl ?_
  refine r_iload_n (q := 7) dX7_met_6 rfl rfl rfl ?_
  refine r_ob (fun a4 ha4 => ?_)
  obtain ⟨hea4, hka4⟩ := o_at_eq ha4
  cases hea4
  refine r_callI (q := 10) (c_X7_isCase G h0 N _ _ _) (cl_V (ci := 6) rfl rfl (lw_V q2455 q2457 qs126 q176 q2458) (hd_X7_isCase) ⟨Nat.le_of_ble_eq_true rfl, Nat.le_of_ble_eq_true rfl⟩ (List.mem_singleton.mp hka4) rfl rfl rfl (Nat.le_of_ble_eq_true rfl) dX7_met_7) rfl (fun x2 σ3 => ?_)
  refine r_if_eq (q := 13) (t := 29) dX7_met_10 rfl (by decide) (fun _ => ?_) (fun _ => ?_)
  · exact r_le (w_X7_met_b29 G h0 N _ _) (Nat.le_refl _) (And.intro rfl trivial)
  · refine r_aload_n (q := 14) dX7_met_13 rfl rfl rfl ?_
    refine r_iload_n (q := 15) dX7_met_14 rfl rfl rfl ?_
    refine r_ob (fun a7 ha7 => ?_)
    obtain ⟨hea7, hka7⟩ := o_at_eq ha7
    cases hea7
    refine r_callI (q := 18) (c_X7_isGoat G h0 N _ _ _) (cl_V (ci := 6) rfl rfl (lw_V q2411 q2413 qs121 q176 q2414) (hd_X7_isGoat) ⟨Nat.le_of_ble_eq_true rfl, Nat.le_of_ble_eq_true rfl⟩ (List.mem_singleton.mp hka7) rfl rfl rfl (Nat.le_of_ble_eq_true rfl) dX7_met_15) rfl (fun x5 σ6 => ?_)
    refine r_if_eq (q := 21) (t := 29) dX7_met_18 rfl (by decide) (fun _ => ?_) (fun _ => ?_)
    · exact r_le (w_X7_met_b29 G h0 N _ _) (Nat.le_refl _) (And.intro rfl trivial)
    · refine r_aload_n (q := 22) dX7_met_21 rfl rfl rfl ?_
      refine r_iload_n (q := 23) dX7_met_22 rfl rfl rfl ?_
      refine r_ob (fun a10 ha10 => ?_)
      obtain ⟨hea10, hka10⟩ := o_at_eq ha10
      cases hea10
      refine r_callI (q := 26) (c_X7_isPerson G h0 N _ _ _) (cl_V (ci := 6) rfl rfl (lw_V q2435 q2437 qs124 q176 q2438) (hd_X7_isPerson) ⟨Nat.le_of_ble_eq_true rfl, Nat.le_of_ble_eq_true rfl⟩ (List.mem_singleton.mp hka10) rfl rfl rfl (Nat.le_of_ble_eq_true rfl) dX7_met_23) rfl (fun x8 σ9 => ?_)
      refine r_if_ne (q := 29) (t := 35) dX7_met_26 rfl (by decide) (fun _ => ?_) (fun _ => ?_)
      · exact r_le (w_X7_met_b29 G h0 N _ _) (Nat.le_refl _) (And.intro rfl trivial)
      · refine r_aload_n (q := 36) dX7_met_35 rfl rfl rfl ?_
        refine r_iload_n (q := 37) dX7_met_36 rfl rfl rfl ?_
        refine r_ob (fun a13 ha13 => ?_)
        obtain ⟨hea13, hka13⟩ := o_at_eq ha13
        cases hea13
        refine r_callV (q := 40) (c_X7_day G h0 N _ _ _) (cl_V (ci := 6) rfl rfl (lw_V q2467 q2469 qs127 q176 q2470) (hd_X7_day) ⟨Nat.le_of_ble_eq_true rfl, Nat.le_of_ble_eq_true rfl⟩ (List.mem_singleton.mp hka13) rfl rfl rfl (Nat.le_of_ble_eq_true rfl) dX7_met_37) rfl (fun u11 σ12 => ?_)
        refine r_iconst (q := 41) (v := (0 : Int32)) dX7_met_40 rfl (by decide) ?_
        refine r_istore (q := 43) dX7_met_41 rfl (Nat.le_of_ble_eq_true rfl) rfl ?_
        refine r_iconst (q := 44) (v := (0 : Int32)) dX7_met_43 rfl (by decide) ?_
        refine r_istore (q := 46) dX7_met_44 rfl (Nat.le_of_ble_eq_true rfl) rfl ?_
        exact r_le (w_X7_met_b46 G h0 N N _ _ _ _ _ _ _) (Nat.le_refl _) (And.intro rfl (And.intro rfl (And.intro rfl (And.intro rfl (And.intro rfl (And.intro rfl trivial))))))
theorem c_X18_isTrue (G : Gx) (h0 : G0 G) (N : Nat) (a0 : Nat) (o1 : Option Nat) (σ : Mem) : Ct G mX18_isTrue rhoI [vR (some a0), vR o1] σ (f_X18_isTrue N a0 o1 σ) := by
  refine Ct_of h0 (by decide) rfl (Nat.le_of_ble_eq_true rfl) (L0 := [some (vR (some a0)), some (vR o1)]) rfl ?_
  unfold f_X18_isTrue
  refine r_aload_n (q := 1) dX18_isTrue_0 rfl rfl rfl ?_
  refine r_aload_n (q := 2) dX18_isTrue_1 rfl rfl rfl ?_
  refine r_gI (q := 5) fl_X18_7 dX18_isTrue_2 rfl (fun x1 => ?_)
  refine r_aload_n (q := 6) dX18_isTrue_5 rfl rfl rfl ?_
  refine r_gI (q := 9) fl_X18_13 dX18_isTrue_6 rfl (fun x2 => ?_)
  refine r_aload_n (q := 10) dX18_isTrue_9 rfl rfl rfl ?_
  refine r_gI (q := 13) fl_X18_16 dX18_isTrue_10 rfl (fun x3 => ?_)
  refine r_ob (fun a6 ha6 => ?_)
  obtain ⟨hea6, hka6⟩ := o_at_eq ha6
  cases hea6
  refine r_callI (q := 16) (c_X5_drops G h0 N _ _ _ _ _) (cl_V (ci := 4) rfl rfl (lw_V q1563 q1529 q1530 q174 q1531) (hd_X5_drops) ⟨Nat.le_of_ble_eq_true rfl, Nat.le_of_ble_eq_true rfl⟩ (List.mem_singleton.mp hka6) rfl rfl rfl (Nat.le_of_ble_eq_true rfl) dX18_isTrue_13) rfl (fun x4 σ5 => ?_)
  refine r_if_le (q := 19) (t := 23) dX18_isTrue_16 rfl (by decide) (fun _ => ?_) (fun _ => ?_)
  · refine r_iconst (q := 24) (v := (0 : Int32)) dX18_isTrue_23 rfl (by decide) ?_
    exact r_ireturnN rfl dX18_isTrue_24
  · refine r_iconst (q := 20) (v := (1 : Int32)) dX18_isTrue_19 rfl (by decide) ?_
    refine r_goto (q := 24) dX18_isTrue_20 (by decide) ?_
    exact r_ireturnN rfl dX18_isTrue_24
theorem c_X19_isTrue (G : Gx) (h0 : G0 G) (N : Nat) (a0 : Nat) (o1 : Option Nat) (σ : Mem) : Ct G mX19_isTrue rhoI [vR (some a0), vR o1] σ (f_X19_isTrue N a0 o1 σ) := by
  refine Ct_of h0 (by decide) rfl (Nat.le_of_ble_eq_true rfl) (L0 := [some (vR (some a0)), some (vR o1)]) rfl ?_
  unfold f_X19_isTrue
  refine r_aload_n (q := 1) dX19_isTrue_0 rfl rfl rfl ?_
  refine r_aload_n (q := 2) dX19_isTrue_1 rfl rfl rfl ?_
  refine r_gI (q := 5) fl_X19_7 dX19_isTrue_2 rfl (fun x1 => ?_)
  refine r_aload_n (q := 6) dX19_isTrue_5 rfl rfl rfl ?_
  refine r_gI (q := 9) fl_X19_13 dX19_isTrue_6 rfl (fun x2 => ?_)
  refine r_ob (fun a5 ha5 => ?_)
  obtain ⟨hea5, hka5⟩ := o_at_eq ha5
  cases hea5
  refine r_callI (q := 12) (c_X5_at G h0 N _ _ _ _) (cl_V (ci := 4) rfl rfl (lw_V q1567 q1513 q1514 q174 q1515) (hd_X5_at) ⟨Nat.le_of_ble_eq_true rfl, Nat.le_of_ble_eq_true rfl⟩ (List.mem_singleton.mp hka5) rfl rfl rfl (Nat.le_of_ble_eq_true rfl) dX19_isTrue_9) rfl (fun x3 σ4 => ?_)
  refine r_aload_n (q := 13) dX19_isTrue_12 rfl rfl rfl ?_
  refine r_gI (q := 16) fl_X19_22 dX19_isTrue_13 rfl (fun x6 => ?_)
  refine r_icmp_ne (q := 19) (t := 23) dX19_isTrue_16 rfl (by decide) (fun _ => ?_) (fun _ => ?_)
  · refine r_iconst (q := 20) (v := (1 : Int32)) dX19_isTrue_19 rfl (by decide) ?_
    refine r_goto (q := 24) dX19_isTrue_20 (by decide) ?_
    exact r_ireturnN rfl dX19_isTrue_24
  · refine r_iconst (q := 24) (v := (0 : Int32)) dX19_isTrue_23 rfl (by decide) ?_
    exact r_ireturnN rfl dX19_isTrue_24
theorem c_X20_isTrue (G : Gx) (h0 : G0 G) (N : Nat) (a0 : Nat) (o1 : Option Nat) (σ : Mem) : Ct G mX20_isTrue rhoI [vR (some a0), vR o1] σ (f_X20_isTrue N a0 o1 σ) := by
  refine Ct_of h0 (by decide) rfl (Nat.le_of_ble_eq_true rfl) (L0 := [some (vR (some a0)), some (vR o1)]) rfl ?_
  unfold f_X20_isTrue
  refine r_aload_n (q := 1) dX20_isTrue_0 rfl rfl rfl ?_
  refine r_aload_n (q := 2) dX20_isTrue_1 rfl rfl rfl ?_
  refine r_gI (q := 5) fl_X20_7 dX20_isTrue_2 rfl (fun x1 => ?_)
  refine r_aload_n (q := 6) dX20_isTrue_5 rfl rfl rfl ?_
  refine r_gI (q := 9) fl_X20_13 dX20_isTrue_6 rfl (fun x2 => ?_)
  refine r_ob (fun a5 ha5 => ?_)
  obtain ⟨hea5, hka5⟩ := o_at_eq ha5
  cases hea5
  refine r_callI (q := 12) (c_X5_at G h0 N _ _ _ _) (cl_V (ci := 4) rfl rfl (lw_V q1571 q1513 q1514 q174 q1515) (hd_X5_at) ⟨Nat.le_of_ble_eq_true rfl, Nat.le_of_ble_eq_true rfl⟩ (List.mem_singleton.mp hka5) rfl rfl rfl (Nat.le_of_ble_eq_true rfl) dX20_isTrue_9) rfl (fun x3 σ4 => ?_)
  refine r_aload_n (q := 13) dX20_isTrue_12 rfl rfl rfl ?_
  refine r_gI (q := 16) fl_X20_22 dX20_isTrue_13 rfl (fun x6 => ?_)
  refine r_icmp_eq (q := 19) (t := 23) dX20_isTrue_16 rfl (by decide) (fun _ => ?_) (fun _ => ?_)
  · refine r_iconst (q := 24) (v := (0 : Int32)) dX20_isTrue_23 rfl (by decide) ?_
    exact r_ireturnN rfl dX20_isTrue_24
  · refine r_iconst (q := 20) (v := (1 : Int32)) dX20_isTrue_19 rfl (by decide) ?_
    refine r_goto (q := 24) dX20_isTrue_20 (by decide) ?_
    exact r_ireturnN rfl dX20_isTrue_24
theorem w_X1_isTrue_b20 (G : Gx) (h0 : G0 G) (N : Nat)   (a0 : Nat) (σ : Mem) : Runs G mX1_isTrue rhoI σ 20 [some (vR (some a0)), none, none] [] (f_X1_isTrue_b20 N  a0 σ) := by
  unfold f_X1_isTrue_b20
  refine r_aload_n (q := 21) dX1_isTrue_20 rfl rfl rfl ?_
  refine r_iconst (q := 22) (v := (1 : Int32)) dX1_isTrue_21 rfl (by decide) ?_
  refine r_ob (fun a3 ha3 => ?_)
  obtain ⟨hea3, hka3⟩ := o_at_eq ha3
  cases hea3
  refine r_callI (q := 25) (c_X1_no G h0 N _ _ _) (cl_V (ci := 0) rfl rfl (lw_V q492 q494 qs3 q167 q495) (hd_X1_no) ⟨Nat.le_of_ble_eq_true rfl, Nat.le_of_ble_eq_true rfl⟩ (List.mem_singleton.mp hka3) rfl rfl rfl (Nat.le_of_ble_eq_true rfl) dX1_isTrue_22) rfl (fun x1 σ2 => ?_)
  exact r_ireturn rfl rfl dX1_isTrue_25
theorem c_X1_isTrue (G : Gx) (h0 : G0 G) (N : Nat) (a0 : Nat) (i1 : Int32) (i2 : Int32) (σ : Mem) : Ct G mX1_isTrue rhoI [vR (some a0), vI i1, vI i2] σ (f_X1_isTrue N a0 i1 i2 σ) := by
  refine Ct_of h0 (by decide) rfl (Nat.le_of_ble_eq_true rfl) (L0 := [some (vR (some a0)), some (vI i1), some (vI i2)]) rfl ?_
  unfold f_X1_isTrue
  refine r_aload_n (q := 1) dX1_isTrue_0 rfl rfl rfl ?_
  refine r_ob (fun a3 ha3 => ?_)
  obtain ⟨hea3, hka3⟩ := o_at_eq ha3
  cases hea3
  refine r_callV (q := 4) (c_X1_anew G h0 N _ _) (cl_V (ci := 0) rfl rfl (lw_V q485 q487 qs2 q167 q488) (hd_X1_anew) ⟨Nat.le_of_ble_eq_true rfl, Nat.le_of_ble_eq_true rfl⟩ (List.mem_singleton.mp hka3) rfl rfl rfl (Nat.le_of_ble_eq_true rfl) dX1_isTrue_1) rfl (fun u1 σ2 => ?_)
  refine r_aload_n (q := 5) dX1_isTrue_4 rfl rfl rfl ?_
  refine r_iload_n (q := 6) dX1_isTrue_5 rfl rfl rfl ?_
  refine r_ob (fun a6 ha6 => ?_)
  obtain ⟨hea6, hka6⟩ := o_at_eq ha6
  cases hea6
  refine r_callI (q := 9) (c_X1_isCase G h0 N _ _ _) (cl_V (ci := 0) rfl rfl (lw_V q1416 q1418 qs50 q167 q1419) (hd_X1_isCase) ⟨Nat.le_of_ble_eq_true rfl, Nat.le_of_ble_eq_true rfl⟩ (List.mem_singleton.mp hka6) rfl rfl rfl (Nat.le_of_ble_eq_true rfl) dX1_isTrue_6) rfl (fun x4 σ5 => ?_)
  refine r_if_eq (q := 12) (t := 20) dX1_isTrue_9 rfl (by decide) (fun _ => ?_) (fun _ => ?_)
  · exact r_le (w_X1_isTrue_b20 G h0 N _ _) (Nat.le_refl _) (And.intro rfl trivial)
  · refine r_aload_n (q := 13) dX1_isTrue_12 rfl rfl rfl ?_
    refine r_iload_n (q := 14) dX1_isTrue_13 rfl rfl rfl ?_
    refine r_ob (fun a9 ha9 => ?_)
    obtain ⟨hea9, hka9⟩ := o_at_eq ha9
    cases hea9
    refine r_callI (q := 17) (c_X1_isClue G h0 N _ _ _) (cl_V (ci := 0) rfl rfl (lw_V q1373 q1375 qs47 q167 q1376) (hd_X1_isClue) ⟨Nat.le_of_ble_eq_true rfl, Nat.le_of_ble_eq_true rfl⟩ (List.mem_singleton.mp hka9) rfl rfl rfl (Nat.le_of_ble_eq_true rfl) dX1_isTrue_14) rfl (fun x7 σ8 => ?_)
    refine r_if_ne (q := 20) (t := 26) dX1_isTrue_17 rfl (by decide) (fun _ => ?_) (fun _ => ?_)
    · exact r_le (w_X1_isTrue_b20 G h0 N _ _) (Nat.le_refl _) (And.intro rfl trivial)
    · refine r_aload_n (q := 27) dX1_isTrue_26 rfl rfl rfl ?_
      refine r_iload_n (q := 28) dX1_isTrue_27 rfl rfl rfl ?_
      refine r_ob (fun a12 ha12 => ?_)
      obtain ⟨hea12, hka12⟩ := o_at_eq ha12
      cases hea12
      refine r_callV (q := 31) (c_X1_run G h0 N _ _ _) (cl_V (ci := 0) rfl rfl (lw_V q1428 q1430 qs51 q167 q1431) (hd_X1_run) ⟨Nat.le_of_ble_eq_true rfl, Nat.le_of_ble_eq_true rfl⟩ (List.mem_singleton.mp hka12) rfl rfl rfl (Nat.le_of_ble_eq_true rfl) dX1_isTrue_28) rfl (fun u10 σ11 => ?_)
      refine r_aload_n (q := 32) dX1_isTrue_31 rfl rfl rfl ?_
      refine r_gR (q := 35) fl_X1_104 rfl dX1_isTrue_32 rfl (fun x13 => ?_)
      refine r_gR (q := 38) fl_X1_207 rfl dX1_isTrue_35 rfl (fun x14 => ?_)
      refine r_iload_n (q := 39) dX1_isTrue_38 rfl rfl rfl ?_
      refine r_aaload (q := 40) (k0 := 9) (by decide) dX1_isTrue_39 rfl (fun x15 => ?_)
      refine r_aload_n (q := 41) dX1_isTrue_40 rfl rfl rfl ?_
      refine r_gR (q := 44) fl_X1_46 rfl dX1_isTrue_41 rfl (fun x16 => ?_)
      refine r_ob (fun a19 ha19 => ?_)
      obtain ⟨hea19, hka19⟩ := o_at_eq ha19
      cases hea19
      refine r_callKI (q := 47) (Cb_ite (fun hq0 => ⟨_, _, (c_X18_isTrue G h0 N _ _ _), (cl_U (n := 1) (ci := 14) (x := ⟨"GoatCourt$Clue", "isTrue", "(LGoatCourt$Day;)Z"⟩) (owner := "GoatCourt$Clue") rfl rfl q1557 q1559 (Or.inl q1558) q1560 q1561 q192 q1562 ⟨by decide, by decide, by decide +kernel⟩ ⟨Nat.le_of_ble_eq_true rfl, Nat.le_of_ble_eq_true rfl⟩ hq0 rfl rfl (Nat.le_of_ble_eq_true rfl) dX1_isTrue_44)⟩) (fun hq0 => Cb_ite (fun hq1 => ⟨_, _, (c_X19_isTrue G h0 N _ _ _), (cl_U (n := 1) (ci := 15) (x := ⟨"GoatCourt$Clue", "isTrue", "(LGoatCourt$Day;)Z"⟩) (owner := "GoatCourt$Clue") rfl rfl q1557 q1559 (Or.inl q1558) q1564 q1565 q193 q1566 ⟨by decide, by decide, by decide +kernel⟩ ⟨Nat.le_of_ble_eq_true rfl, Nat.le_of_ble_eq_true rfl⟩ hq1 rfl rfl (Nat.le_of_ble_eq_true rfl) dX1_isTrue_44)⟩) (fun hq1 => ⟨_, _, (c_X20_isTrue G h0 N _ _ _), (cl_U (n := 1) (ci := 16) (x := ⟨"GoatCourt$Clue", "isTrue", "(LGoatCourt$Day;)Z"⟩) (owner := "GoatCourt$Clue") rfl rfl q1557 q1559 (Or.inl q1558) q1568 q1569 q194 q1570 ⟨by decide, by decide, by decide +kernel⟩ ⟨Nat.le_of_ble_eq_true rfl, Nat.le_of_ble_eq_true rfl⟩ (by simp only [List.mem_cons, List.not_mem_nil, or_false] at hka19; omega) rfl rfl (Nat.le_of_ble_eq_true rfl) dX1_isTrue_44)⟩))) rfl (fun x17 σ18 => ?_)
      refine r_if_eq (q := 50) (t := 54) dX1_isTrue_47 rfl (by decide) (fun _ => ?_) (fun _ => ?_)
      · refine r_iconst (q := 55) (v := (0 : Int32)) dX1_isTrue_54 rfl (by decide) ?_
        exact r_ireturn rfl rfl dX1_isTrue_55
      · refine r_iconst (q := 51) (v := (1 : Int32)) dX1_isTrue_50 rfl (by decide) ?_
        refine r_goto (q := 55) dX1_isTrue_51 (by decide) ?_
        exact r_ireturn rfl rfl dX1_isTrue_55
theorem w_X7_holdsNow_b108 (G : Gx) (h0 : G0 G) (N : Nat)   (t0 : Int32) (t1 : Int32) (σ : Mem) : Runs G mX7_holdsNow rhoI σ 108 [none, none, none] [vI t1, vI t0] (f_X7_holdsNow_b108 N  t0 t1 σ) := by
  unfold f_X7_holdsNow_b108
  refine r_icmp_ne (q := 111) (t := 115) dX7_holdsNow_108 rfl (by decide) (fun _ => ?_) (fun _ => ?_)
  · refine r_iconst (q := 112) (v := (1 : Int32)) dX7_holdsNow_111 rfl (by decide) ?_
    refine r_goto (q := 116) dX7_holdsNow_112 (by decide) ?_
    exact r_ireturnN rfl dX7_holdsNow_116
  · refine r_iconst (q := 116) (v := (0 : Int32)) dX7_holdsNow_115 rfl (by decide) ?_
    exact r_ireturnN rfl dX7_holdsNow_116
theorem w_X7_holdsNow_b90 (G : Gx) (h0 : G0 G) (N : Nat)   (a0 : Nat) (l1 : Int32) (t0 : Int32) (σ : Mem) : Runs G mX7_holdsNow rhoI σ 90 [some (vR (some a0)), some (vI l1), none] [vI t0] (f_X7_holdsNow_b90 N  a0 l1 t0 σ) := by
  unfold f_X7_holdsNow_b90
  refine r_aload_n (q := 91) dX7_holdsNow_90 rfl rfl rfl ?_
  refine r_gR (q := 94) fl_X7_442 rfl dX7_holdsNow_91 rfl (fun x1 => ?_)
  refine r_gR (q := 97) fl_X7_376 rfl dX7_holdsNow_94 rfl (fun x2 => ?_)
  refine r_iload_n (q := 98) dX7_holdsNow_97 rfl rfl rfl ?_
  refine r_iaload (q := 99) dX7_holdsNow_98 rfl (fun x3 => ?_)
  refine r_iconst (q := 100) (v := (1 : Int32)) dX7_holdsNow_99 rfl (by decide) ?_
  refine r_icmp_ne (q := 103) (t := 107) dX7_holdsNow_100 rfl (by decide) (fun _ => ?_) (fun _ => ?_)
  · refine r_iconst (q := 104) (v := (1 : Int32)) dX7_holdsNow_103 rfl (by decide) ?_
    refine r_goto (q := 108) dX7_holdsNow_104 (by decide) ?_
    exact r_le (w_X7_holdsNow_b108 G h0 N _ _ _) (Nat.le_refl _) trivial
  · refine r_iconst (q := 108) (v := (0 : Int32)) dX7_holdsNow_107 rfl (by decide) ?_
    exact r_le (w_X7_holdsNow_b108 G h0 N _ _ _) (Nat.le_refl _) trivial
theorem c_X7_holdsNow (G : Gx) (h0 : G0 G) (N : Nat) (a0 : Nat) (i1 : Int32) (σ : Mem) : Ct G mX7_holdsNow rhoI [vR (some a0), vI i1] σ (f_X7_holdsNow N a0 i1 σ) := by
  refine Ct_of h0 (by decide) rfl (Nat.le_of_ble_eq_true rfl) (L0 := [some (vR (some a0)), some (vI i1), none]) rfl ?_
  unfold f_X7_holdsNow
  refine r_aload_n (q := 1) dX7_holdsNow_0 rfl rfl rfl ?_
  refine r_gR (q := 4) fl_X7_442 rfl dX7_holdsNow_1 rfl (fun x1 => ?_)
  refine r_gR (q := 7) fl_X7_379 rfl dX7_holdsNow_4 rfl (fun x2 => ?_)
  refine r_iload_n (q := 8) dX7_holdsNow_7 rfl rfl rfl ?_
  refine r_iaload (q := 9) dX7_holdsNow_8 rfl (fun x3 => ?_)
  refine r_istore_n (q := 10) dX7_holdsNow_9 rfl rfl (Nat.le_of_ble_eq_true rfl) rfl ?_
  refine r_aload_n (q := 11) dX7_holdsNow_10 rfl rfl rfl ?_
  refine r_gR (q := 14) fl_X7_442 rfl dX7_holdsNow_11 rfl (fun x4 => ?_)
  refine r_gR (q := 17) fl_X7_376 rfl dX7_holdsNow_14 rfl (fun x5 => ?_)
  refine r_iload_n (q := 18) dX7_holdsNow_17 rfl rfl rfl ?_
  refine r_iaload (q := 19) dX7_holdsNow_18 rfl (fun x6 => ?_)
  refine r_if_ne (q := 22) (t := 54) dX7_holdsNow_19 rfl (by decide) (fun _ => ?_) (fun _ => ?_)
  · refine r_aload_n (q := 23) dX7_holdsNow_22 rfl rfl rfl ?_
    refine r_iload_n (q := 24) dX7_holdsNow_23 rfl rfl rfl ?_
    refine r_aload_n (q := 25) dX7_holdsNow_24 rfl rfl rfl ?_
    refine r_gR (q := 28) fl_X7_442 rfl dX7_holdsNow_25 rfl (fun x15 => ?_)
    refine r_gR (q := 31) fl_X7_385 rfl dX7_holdsNow_28 rfl (fun x16 => ?_)
    refine r_iload_n (q := 32) dX7_holdsNow_31 rfl rfl rfl ?_
    refine r_iaload (q := 33) dX7_holdsNow_32 rfl (fun x17 => ?_)
    refine r_aload_n (q := 34) dX7_holdsNow_33 rfl rfl rfl ?_
    refine r_gR (q := 37) fl_X7_442 rfl dX7_holdsNow_34 rfl (fun x18 => ?_)
    refine r_gR (q := 40) fl_X7_382 rfl dX7_holdsNow_37 rfl (fun x19 => ?_)
    refine r_iload_n (q := 41) dX7_holdsNow_40 rfl rfl rfl ?_
    refine r_iaload (q := 42) dX7_holdsNow_41 rfl (fun x20 => ?_)
    refine r_ob (fun a23 ha23 => ?_)
    obtain ⟨hea23, hka23⟩ := o_at_eq ha23
    cases hea23
    refine r_callI (q := 45) (c_X7_dropped G h0 N _ _ _ _ _) (cl_V (ci := 6) rfl rfl (lw_V q2517 q2519 qs136 q176 q2520) (hd_X7_dropped) ⟨Nat.le_of_ble_eq_true rfl, Nat.le_of_ble_eq_true rfl⟩ (List.mem_singleton.mp hka23) rfl rfl rfl (Nat.le_of_ble_eq_true rfl) dX7_holdsNow_42) rfl (fun x21 σ22 => ?_)
    refine r_if_le (q := 48) (t := 52) dX7_holdsNow_45 rfl (by decide) (fun _ => ?_) (fun _ => ?_)
    · refine r_iconst (q := 53) (v := (0 : Int32)) dX7_holdsNow_52 rfl (by decide) ?_
      exact r_ireturnN rfl dX7_holdsNow_53
    · refine r_iconst (q := 49) (v := (1 : Int32)) dX7_holdsNow_48 rfl (by decide) ?_
      refine r_goto (q := 53) dX7_holdsNow_49 (by decide) ?_
      exact r_ireturnN rfl dX7_holdsNow_53
  · refine r_aload_n (q := 55) dX7_holdsNow_54 rfl rfl rfl ?_
    refine r_gR (q := 58) fl_X7_30 rfl dX7_holdsNow_55 rfl (fun x7 => ?_)
    refine r_bipush (q := 60) (v := (12 : Int32)) dX7_holdsNow_58 rfl (by decide) ?_
    refine r_iload_n (q := 61) dX7_holdsNow_60 rfl rfl rfl ?_
    refine r_imul (q := 62) dX7_holdsNow_61 rfl ?_
    refine r_aload_n (q := 63) dX7_holdsNow_62 rfl rfl rfl ?_
    refine r_gR (q := 66) fl_X7_442 rfl dX7_holdsNow_63 rfl (fun x8 => ?_)
    refine r_gR (q := 69) fl_X7_385 rfl dX7_holdsNow_66 rfl (fun x9 => ?_)
    refine r_iload_n (q := 70) dX7_holdsNow_69 rfl rfl rfl ?_
    refine r_iaload (q := 71) dX7_holdsNow_70 rfl (fun x10 => ?_)
    refine r_iadd (q := 72) dX7_holdsNow_71 rfl ?_
    refine r_iaload (q := 73) dX7_holdsNow_72 rfl (fun x11 => ?_)
    refine r_aload_n (q := 74) dX7_holdsNow_73 rfl rfl rfl ?_
    refine r_gR (q := 77) fl_X7_442 rfl dX7_holdsNow_74 rfl (fun x12 => ?_)
    refine r_gR (q := 80) fl_X7_382 rfl dX7_holdsNow_77 rfl (fun x13 => ?_)
    refine r_iload_n (q := 81) dX7_holdsNow_80 rfl rfl rfl ?_
    refine r_iaload (q := 82) dX7_holdsNow_81 rfl (fun x14 => ?_)
    refine r_icmp_ne (q := 85) (t := 89) dX7_holdsNow_82 rfl (by decide) (fun _ => ?_) (fun _ => ?_)
    · refine r_iconst (q := 86) (v := (1 : Int32)) dX7_holdsNow_85 rfl (by decide) ?_
      refine r_goto (q := 90) dX7_holdsNow_86 (by decide) ?_
      exact r_le (w_X7_holdsNow_b90 G h0 N _ _ _ _) (Nat.le_refl _) (And.intro rfl (And.intro rfl trivial))
    · refine r_iconst (q := 90) (v := (0 : Int32)) dX7_holdsNow_89 rfl (by decide) ?_
      exact r_le (w_X7_holdsNow_b90 G h0 N _ _ _ _) (Nat.le_refl _) (And.intro rfl (And.intro rfl trivial))
theorem w_X7_isTrue_b21 (G : Gx) (h0 : G0 G) (N : Nat)   (a0 : Nat) (σ : Mem) : Runs G mX7_isTrue rhoI σ 21 [some (vR (some a0)), none, none] [] (f_X7_isTrue_b21 N  a0 σ) := by
  unfold f_X7_isTrue_b21
  refine r_aload_n (q := 22) dX7_isTrue_21 rfl rfl rfl ?_
  refine r_iconst (q := 23) (v := (1 : Int32)) dX7_isTrue_22 rfl (by decide) ?_
  refine r_ob (fun a3 ha3 => ?_)
  obtain ⟨hea3, hka3⟩ := o_at_eq ha3
  cases hea3
  refine r_callI (q := 26) (c_X7_refused G h0 N _ _ _) (cl_V (ci := 6) rfl rfl (lw_V q2019 q2021 qs83 q176 q2022) (hd_X7_refused) ⟨Nat.le_of_ble_eq_true rfl, Nat.le_of_ble_eq_true rfl⟩ (List.mem_singleton.mp hka3) rfl rfl rfl (Nat.le_of_ble_eq_true rfl) dX7_isTrue_23) rfl (fun x1 σ2 => ?_)
  exact r_ireturn rfl rfl dX7_isTrue_26
theorem c_X7_isTrue (G : Gx) (h0 : G0 G) (N : Nat) (a0 : Nat) (i1 : Int32) (i2 : Int32) (σ : Mem) : Ct G mX7_isTrue rhoI [vR (some a0), vI i1, vI i2] σ (f_X7_isTrue N a0 i1 i2 σ) := by
  refine Ct_of h0 (by decide) rfl (Nat.le_of_ble_eq_true rfl) (L0 := [some (vR (some a0)), some (vI i1), some (vI i2)]) rfl ?_
  unfold f_X7_isTrue
  refine r_aload_n (q := 1) dX7_isTrue_0 rfl rfl rfl ?_
  refine r_iconst (q := 2) (v := (0 : Int32)) dX7_isTrue_1 rfl (by decide) ?_
  refine r_pI (q := 5) fp_X7_isTrue_66 dX7_isTrue_2 rfl (fun σ1 => ?_)
  refine r_aload_n (q := 6) dX7_isTrue_5 rfl rfl rfl ?_
  refine r_iload_n (q := 7) dX7_isTrue_6 rfl rfl rfl ?_
  refine r_ob (fun a4 ha4 => ?_)
  obtain ⟨hea4, hka4⟩ := o_at_eq ha4
  cases hea4
  refine r_callI (q := 10) (c_X7_isCase G h0 N _ _ _) (cl_V (ci := 6) rfl rfl (lw_V q2455 q2457 qs126 q176 q2458) (hd_X7_isCase) ⟨Nat.le_of_ble_eq_true rfl, Nat.le_of_ble_eq_true rfl⟩ (List.mem_singleton.mp hka4) rfl rfl rfl (Nat.le_of_ble_eq_true rfl) dX7_isTrue_7) rfl (fun x2 σ3 => ?_)
  refine r_if_eq (q := 13) (t := 21) dX7_isTrue_10 rfl (by decide) (fun _ => ?_) (fun _ => ?_)
  · exact r_le (w_X7_isTrue_b21 G h0 N _ _) (Nat.le_refl _) (And.intro rfl trivial)
  · refine r_aload_n (q := 14) dX7_isTrue_13 rfl rfl rfl ?_
    refine r_iload_n (q := 15) dX7_isTrue_14 rfl rfl rfl ?_
    refine r_ob (fun a7 ha7 => ?_)
    obtain ⟨hea7, hka7⟩ := o_at_eq ha7
    cases hea7
    refine r_callI (q := 18) (c_X7_isClue G h0 N _ _ _) (cl_V (ci := 6) rfl rfl (lw_V q2427 q2429 qs123 q176 q2430) (hd_X7_isClue) ⟨Nat.le_of_ble_eq_true rfl, Nat.le_of_ble_eq_true rfl⟩ (List.mem_singleton.mp hka7) rfl rfl rfl (Nat.le_of_ble_eq_true rfl) dX7_isTrue_15) rfl (fun x5 σ6 => ?_)
    refine r_if_ne (q := 21) (t := 27) dX7_isTrue_18 rfl (by decide) (fun _ => ?_) (fun _ => ?_)
    · exact r_le (w_X7_isTrue_b21 G h0 N _ _) (Nat.le_refl _) (And.intro rfl trivial)
    · refine r_aload_n (q := 28) dX7_isTrue_27 rfl rfl rfl ?_
      refine r_iload_n (q := 29) dX7_isTrue_28 rfl rfl rfl ?_
      refine r_ob (fun a10 ha10 => ?_)
      obtain ⟨hea10, hka10⟩ := o_at_eq ha10
      cases hea10
      refine r_callV (q := 32) (c_X7_day G h0 N _ _ _) (cl_V (ci := 6) rfl rfl (lw_V q2467 q2469 qs127 q176 q2470) (hd_X7_day) ⟨Nat.le_of_ble_eq_true rfl, Nat.le_of_ble_eq_true rfl⟩ (List.mem_singleton.mp hka10) rfl rfl rfl (Nat.le_of_ble_eq_true rfl) dX7_isTrue_29) rfl (fun u8 σ9 => ?_)
      refine r_aload_n (q := 33) dX7_isTrue_32 rfl rfl rfl ?_
      refine r_aload_n (q := 34) dX7_isTrue_33 rfl rfl rfl ?_
      refine r_iload_n (q := 35) dX7_isTrue_34 rfl rfl rfl ?_
      refine r_ob (fun a13 ha13 => ?_)
      obtain ⟨hea13, hka13⟩ := o_at_eq ha13
      cases hea13
      refine r_callI (q := 38) (c_X7_holdsNow G h0 N _ _ _) (cl_V (ci := 6) rfl rfl (lw_V q2537 q2539 qs137 q176 q2540) (hd_X7_holdsNow) ⟨Nat.le_of_ble_eq_true rfl, Nat.le_of_ble_eq_true rfl⟩ (List.mem_singleton.mp hka13) rfl rfl rfl (Nat.le_of_ble_eq_true rfl) dX7_isTrue_35) rfl (fun x11 σ12 => ?_)
      refine r_if_eq (q := 41) (t := 45) dX7_isTrue_38 rfl (by decide) (fun _ => ?_) (fun _ => ?_)
      · refine r_iconst (q := 46) (v := (0 : Int32)) dX7_isTrue_45 rfl (by decide) ?_
        refine r_ob (fun a16 ha16 => ?_)
        obtain ⟨hea16, hka16⟩ := o_at_eq ha16
        cases hea16
        refine r_callI (q := 49) (c_X7_good G h0 N _ _ _) (cl_V (ci := 6) rfl rfl (lw_V q2379 q2381 qs118 q176 q2382) (hd_X7_good) ⟨Nat.le_of_ble_eq_true rfl, Nat.le_of_ble_eq_true rfl⟩ (List.mem_singleton.mp hka16) rfl rfl rfl (Nat.le_of_ble_eq_true rfl) dX7_isTrue_46) rfl (fun x14 σ15 => ?_)
        exact r_ireturn rfl rfl dX7_isTrue_49
      · refine r_iconst (q := 42) (v := (1 : Int32)) dX7_isTrue_41 rfl (by decide) ?_
        refine r_goto (q := 46) dX7_isTrue_42 (by decide) ?_
        refine r_ob (fun a19 ha19 => ?_)
        obtain ⟨hea19, hka19⟩ := o_at_eq ha19
        cases hea19
        refine r_callI (q := 49) (c_X7_good G h0 N _ _ _) (cl_V (ci := 6) rfl rfl (lw_V q2379 q2381 qs118 q176 q2382) (hd_X7_good) ⟨Nat.le_of_ble_eq_true rfl, Nat.le_of_ble_eq_true rfl⟩ (List.mem_singleton.mp hka19) rfl rfl rfl (Nat.le_of_ble_eq_true rfl) dX7_isTrue_46) rfl (fun x17 σ18 => ?_)
        exact r_ireturn rfl rfl dX7_isTrue_49
theorem w_X8_clueGoats_b4B (G : Gx) (h0 : G0 G) (N : Nat)   (K4 : Nat → Int32 → Int32 → Mem → Option (Int32 × Mem)) (hK4 : ∀ (a0 : Nat) (l1 : Int32) (l2 : Int32) (σ : Mem), Runs G mX8_clueGoats rhoI σ 4 [some (vR (some a0)), some (vI l1), some (vI l2)] [] (K4 a0 l1 l2 σ)) (a0 : Nat) (l1 : Int32) (l2 : Int32) (σ : Mem) : Runs G mX8_clueGoats rhoI σ 4 [some (vR (some a0)), some (vI l1), some (vI l2)] [] (f_X8_clueGoats_b4B N  K4 a0 l1 l2 σ) := by
  unfold f_X8_clueGoats_b4B
  refine r_iload_n (q := 5) dX8_clueGoats_4 rfl rfl rfl ?_
  refine r_aload_n (q := 6) dX8_clueGoats_5 rfl rfl rfl ?_
  refine r_gI (q := 9) fl_X8_110 dX8_clueGoats_6 rfl (fun x1 => ?_)
  refine r_icmp_ge (q := 12) (t := 32) dX8_clueGoats_9 rfl (by decide) (fun _ => ?_) (fun _ => ?_)
  · refine r_iload_n (q := 33) dX8_clueGoats_32 rfl rfl rfl ?_
    exact r_ireturn rfl rfl dX8_clueGoats_33
  · refine r_iload_n (q := 13) dX8_clueGoats_12 rfl rfl rfl ?_
    refine r_iconst (q := 14) (v := (1 : Int32)) dX8_clueGoats_13 rfl (by decide) ?_
    refine r_aload_n (q := 15) dX8_clueGoats_14 rfl rfl rfl ?_
    refine r_gR (q := 18) fl_X8_44 rfl dX8_clueGoats_15 rfl (fun x2 => ?_)
    refine r_iload_n (q := 19) dX8_clueGoats_18 rfl rfl rfl ?_
    refine r_aaload (q := 20) (k0 := 9) (by decide) dX8_clueGoats_19 rfl (fun x3 => ?_)
    refine r_gI (q := 23) fl_X8_113 dX8_clueGoats_20 rfl (fun x4 => ?_)
    refine r_ishl (q := 24) dX8_clueGoats_23 rfl ?_
    refine r_ior (q := 25) dX8_clueGoats_24 rfl ?_
    refine r_istore_n (q := 26) dX8_clueGoats_25 rfl rfl (Nat.le_of_ble_eq_true rfl) rfl ?_
    refine r_iinc (q := 29) (v := (1 : Int32)) dX8_clueGoats_26 rfl rfl (by decide) (Nat.le_of_ble_eq_true rfl) rfl ?_
    refine r_goto (q := 4) dX8_clueGoats_29 (by decide) ?_
    exact r_le (hK4 _ _ _ _) (Nat.le_refl _) (And.intro rfl (And.intro rfl (And.intro rfl trivial)))
theorem w_X8_clueGoats_b4 (G : Gx) (h0 : G0 G) (N : Nat)   : ∀ (z : Nat) (a0 : Nat) (l1 : Int32) (l2 : Int32) (σ : Mem), Runs G mX8_clueGoats rhoI σ 4 [some (vR (some a0)), some (vI l1), some (vI l2)] [] (f_X8_clueGoats_b4 N  z a0 l1 l2 σ) := by
  intro z
  induction z with
  | zero => exact fun _ _ _ _ => r_none
  | succ z ih => exact fun a0 l1 l2 σ => w_X8_clueGoats_b4B G h0 N   _ ih a0 l1 l2 σ
theorem c_X8_clueGoats (G : Gx) (h0 : G0 G) (N : Nat) (a0 : Nat) (σ : Mem) : Ct G mX8_clueGoats rhoI [vR (some a0)] σ (f_X8_clueGoats N a0 σ) := by
  refine Ct_of h0 (by decide) rfl (Nat.le_of_ble_eq_true rfl) (L0 := [some (vR (some a0)), none, none]) rfl ?_
  unfold f_X8_clueGoats
  refine r_iconst (q := 1) (v := (0 : Int32)) dX8_clueGoats_0 rfl (by decide) ?_
  refine r_istore_n (q := 2) dX8_clueGoats_1 rfl rfl (Nat.le_of_ble_eq_true rfl) rfl ?_
  refine r_iconst (q := 3) (v := (0 : Int32)) dX8_clueGoats_2 rfl (by decide) ?_
  refine r_istore_n (q := 4) dX8_clueGoats_3 rfl rfl (Nat.le_of_ble_eq_true rfl) rfl ?_
  exact r_le (w_X8_clueGoats_b4 G h0 N N _ _ _ _) (Nat.le_refl _) (And.intro rfl (And.intro rfl (And.intro rfl trivial)))
theorem w_X5_trueGoats_b56 (G : Gx) (h0 : G0 G) (N : Nat) (K10 : Nat → Int32 → Int32 → Mem → Option (Int32 × Mem)) (hK10 : ∀ (a0 : Nat) (l1 : Int32) (l2 : Int32) (σ : Mem), Runs G mX5_trueGoats rhoI σ 10 [some (vR (some a0)), some (vI l1), some (vI l2)] [] (K10 a0 l1 l2 σ)) (a0 : Nat) (l1 : Int32) (l2 : Int32) (σ : Mem) : Runs G mX5_trueGoats rhoI σ 56 [some (vR (some a0)), some (vI l1), some (vI l2)] [] (f_X5_trueGoats_b56 N K10 a0 l1 l2 σ) := by
  unfold f_X5_trueGoats_b56
  refine r_iinc (q := 59) (v := (1 : Int32)) dX5_trueGoats_56 rfl rfl (by decide) (Nat.le_of_ble_eq_true rfl) rfl ?_
  refine r_goto (q := 10) dX5_trueGoats_59 (by decide) ?_
  exact r_le (hK10 _ _ _ _) (Nat.le_refl _) (And.intro rfl (And.intro rfl (And.intro rfl trivial)))
theorem w_X5_trueGoats_b10B (G : Gx) (h0 : G0 G) (N : Nat)   (K10 : Nat → Int32 → Int32 → Mem → Option (Int32 × Mem)) (hK10 : ∀ (a0 : Nat) (l1 : Int32) (l2 : Int32) (σ : Mem), Runs G mX5_trueGoats rhoI σ 10 [some (vR (some a0)), some (vI l1), some (vI l2)] [] (K10 a0 l1 l2 σ)) (a0 : Nat) (l1 : Int32) (l2 : Int32) (σ : Mem) : Runs G mX5_trueGoats rhoI σ 10 [some (vR (some a0)), some (vI l1), some (vI l2)] [] (f_X5_trueGoats_b10B N  K10 a0 l1 l2 σ) := by
  unfold f_X5_trueGoats_b10B
  refine r_iload_n (q := 11) dX5_trueGoats_10 rfl rfl rfl ?_
  refine r_aload_n (q := 12) dX5_trueGoats_11 rfl rfl rfl ?_
  refine r_gR (q := 15) fl_X5_33 rfl dX5_trueGoats_12 rfl (fun x1 => ?_)
  refine r_gI (q := 18) fl_X5_171 dX5_trueGoats_15 rfl (fun x2 => ?_)
  refine r_icmp_ge (q := 21) (t := 62) dX5_trueGoats_18 rfl (by decide) (fun _ => ?_) (fun _ => ?_)
  · refine r_iload_n (q := 63) dX5_trueGoats_62 rfl rfl rfl ?_
    exact r_ireturn rfl rfl dX5_trueGoats_63
  · refine r_aload_n (q := 22) dX5_trueGoats_21 rfl rfl rfl ?_
    refine r_gR (q := 25) fl_X5_33 rfl dX5_trueGoats_22 rfl (fun x3 => ?_)
    refine r_gR (q := 28) fl_X5_174 rfl dX5_trueGoats_25 rfl (fun x4 => ?_)
    refine r_iload_n (q := 29) dX5_trueGoats_28 rfl rfl rfl ?_
    refine r_aaload (q := 30) (k0 := 9) (by decide) dX5_trueGoats_29 rfl (fun x5 => ?_)
    refine r_aload_n (q := 31) dX5_trueGoats_30 rfl rfl rfl ?_
    refine r_ob (fun a8 ha8 => ?_)
    obtain ⟨hea8, hka8⟩ := o_at_eq ha8
    cases hea8
    refine r_callKI (q := 34) (Cb_ite (fun hq0 => ⟨_, _, (c_X18_isTrue G h0 N _ _ _), (cl_U (n := 1) (ci := 14) (x := ⟨"GoatCourt$Clue", "isTrue", "(LGoatCourt$Day;)Z"⟩) (owner := "GoatCourt$Clue") rfl rfl q1592 q1559 (Or.inl q1558) q1560 q1561 q192 q1562 ⟨by decide, by decide, by decide +kernel⟩ ⟨Nat.le_of_ble_eq_true rfl, Nat.le_of_ble_eq_true rfl⟩ hq0 rfl rfl (Nat.le_of_ble_eq_true rfl) dX5_trueGoats_31)⟩) (fun hq0 => Cb_ite (fun hq1 => ⟨_, _, (c_X19_isTrue G h0 N _ _ _), (cl_U (n := 1) (ci := 15) (x := ⟨"GoatCourt$Clue", "isTrue", "(LGoatCourt$Day;)Z"⟩) (owner := "GoatCourt$Clue") rfl rfl q1592 q1559 (Or.inl q1558) q1564 q1565 q193 q1566 ⟨by decide, by decide, by decide +kernel⟩ ⟨Nat.le_of_ble_eq_true rfl, Nat.le_of_ble_eq_true rfl⟩ hq1 rfl rfl (Nat.le_of_ble_eq_true rfl) dX5_trueGoats_31)⟩) (fun hq1 => ⟨_, _, (c_X20_isTrue G h0 N _ _ _), (cl_U (n := 1) (ci := 16) (x := ⟨"GoatCourt$Clue", "isTrue", "(LGoatCourt$Day;)Z"⟩) (owner := "GoatCourt$Clue") rfl rfl q1592 q1559 (Or.inl q1558) q1568 q1569 q194 q1570 ⟨by decide, by decide, by decide +kernel⟩ ⟨Nat.le_of_ble_eq_true rfl, Nat.le_of_ble_eq_true rfl⟩ (by simp only [List.mem_cons, List.not_mem_nil, or_false] at hka8; omega) rfl rfl (Nat.le_of_ble_eq_true rfl) dX5_trueGoats_31)⟩))) rfl (fun x6 σ7 => ?_)
    refine r_if_ne (q := 37) (t := 56) dX5_trueGoats_34 rfl (by decide) (fun _ => ?_) (fun _ => ?_)
    · refine r_iload_n (q := 38) dX5_trueGoats_37 rfl rfl rfl ?_
      refine r_iconst (q := 39) (v := (1 : Int32)) dX5_trueGoats_38 rfl (by decide) ?_
      refine r_aload_n (q := 40) dX5_trueGoats_39 rfl rfl rfl ?_
      refine r_gR (q := 43) fl_X5_33 rfl dX5_trueGoats_40 rfl (fun x9 => ?_)
      refine r_gR (q := 46) fl_X5_174 rfl dX5_trueGoats_43 rfl (fun x10 => ?_)
      refine r_iload_n (q := 47) dX5_trueGoats_46 rfl rfl rfl ?_
      refine r_aaload (q := 48) (k0 := 9) (by decide) dX5_trueGoats_47 rfl (fun x11 => ?_)
      refine r_gI (q := 51) fl_X5_184 dX5_trueGoats_48 rfl (fun x12 => ?_)
      refine r_ishl (q := 52) dX5_trueGoats_51 rfl ?_
      refine r_iconst (q := 53) (v := (-1 : Int32)) dX5_trueGoats_52 rfl (by decide) ?_
      refine r_ixor (q := 54) dX5_trueGoats_53 rfl ?_
      refine r_iand (q := 55) dX5_trueGoats_54 rfl ?_
      refine r_istore_n (q := 56) dX5_trueGoats_55 rfl rfl (Nat.le_of_ble_eq_true rfl) rfl ?_
      exact r_le (w_X5_trueGoats_b56 G h0 N K10 hK10 _ _ _ _) (Nat.le_refl _) (And.intro rfl (And.intro rfl (And.intro rfl trivial)))
    · exact r_le (w_X5_trueGoats_b56 G h0 N K10 hK10 _ _ _ _) (Nat.le_refl _) (And.intro rfl (And.intro rfl (And.intro rfl trivial)))
theorem w_X5_trueGoats_b10 (G : Gx) (h0 : G0 G) (N : Nat)   : ∀ (z : Nat) (a0 : Nat) (l1 : Int32) (l2 : Int32) (σ : Mem), Runs G mX5_trueGoats rhoI σ 10 [some (vR (some a0)), some (vI l1), some (vI l2)] [] (f_X5_trueGoats_b10 N  z a0 l1 l2 σ) := by
  intro z
  induction z with
  | zero => exact fun _ _ _ _ => r_none
  | succ z ih => exact fun a0 l1 l2 σ => w_X5_trueGoats_b10B G h0 N   _ ih a0 l1 l2 σ
theorem c_X5_trueGoats (G : Gx) (h0 : G0 G) (N : Nat) (a0 : Nat) (σ : Mem) : Ct G mX5_trueGoats rhoI [vR (some a0)] σ (f_X5_trueGoats N a0 σ) := by
  refine Ct_of h0 (by decide) rfl (Nat.le_of_ble_eq_true rfl) (L0 := [some (vR (some a0)), none, none]) rfl ?_
  unfold f_X5_trueGoats
  refine r_aload_n (q := 1) dX5_trueGoats_0 rfl rfl rfl ?_
  refine r_gR (q := 4) fl_X5_33 rfl dX5_trueGoats_1 rfl (fun x1 => ?_)
  refine r_ob (fun a4 ha4 => ?_)
  obtain ⟨hea4, hka4⟩ := o_at_eq ha4
  cases hea4
  refine r_callI (q := 7) (c_X8_clueGoats G h0 N _ _) (cl_V (ci := 7) rfl rfl (lw_V q1588 q1589 q1590 q177 q1591) (hd_X8_clueGoats) ⟨Nat.le_of_ble_eq_true rfl, Nat.le_of_ble_eq_true rfl⟩ (List.mem_singleton.mp hka4) rfl rfl rfl (Nat.le_of_ble_eq_true rfl) dX5_trueGoats_4) rfl (fun x2 σ3 => ?_)
  refine r_istore_n (q := 8) dX5_trueGoats_7 rfl rfl (Nat.le_of_ble_eq_true rfl) rfl ?_
  refine r_iconst (q := 9) (v := (0 : Int32)) dX5_trueGoats_8 rfl (by decide) ?_
  refine r_istore_n (q := 10) dX5_trueGoats_9 rfl rfl (Nat.le_of_ble_eq_true rfl) rfl ?_
  exact r_le (w_X5_trueGoats_b10 G h0 N N _ _ _ _) (Nat.le_refl _) (And.intro rfl (And.intro rfl (And.intro rfl trivial)))
theorem w_X1_layTruth_b2B (G : Gx) (h0 : G0 G) (N : Nat)   (K2 : Nat → Int32 → Mem → Option (Unit × Mem)) (hK2 : ∀ (a0 : Nat) (l1 : Int32) (σ : Mem), Runs G mX1_layTruth rhoV σ 2 [some (vR (some a0)), some (vI l1)] [] (K2 a0 l1 σ)) (a0 : Nat) (l1 : Int32) (σ : Mem) : Runs G mX1_layTruth rhoV σ 2 [some (vR (some a0)), some (vI l1)] [] (f_X1_layTruth_b2B N  K2 a0 l1 σ) := by
  unfold f_X1_layTruth_b2B
  refine r_iload_n (q := 3) dX1_layTruth_2 rfl rfl rfl ?_
  refine r_aload_n (q := 4) dX1_layTruth_3 rfl rfl rfl ?_
  refine r_gR (q := 7) fl_X1_104 rfl dX1_layTruth_4 rfl (fun x1 => ?_)
  refine r_ob (fun a4 ha4 => ?_)
  obtain ⟨hea4, hka4⟩ := o_at_eq ha4
  cases hea4
  refine r_callI (q := 10) (c_X8_cases G h0 N _ _) (cl_V (ci := 7) rfl rfl (lw_V q1296 q1297 q1298 q177 q1299) (hd_X8_cases) ⟨Nat.le_of_ble_eq_true rfl, Nat.le_of_ble_eq_true rfl⟩ (List.mem_singleton.mp hka4) rfl rfl rfl (Nat.le_of_ble_eq_true rfl) dX1_layTruth_7) rfl (fun x2 σ3 => ?_)
  refine r_icmp_ge (q := 13) (t := 37) dX1_layTruth_10 rfl (by decide) (fun _ => ?_) (fun _ => ?_)
  · exact r_return rfl dX1_layTruth_37
  · refine r_aload_n (q := 14) dX1_layTruth_13 rfl rfl rfl ?_
    refine r_iload_n (q := 15) dX1_layTruth_14 rfl rfl rfl ?_
    refine r_ob (fun a7 ha7 => ?_)
    obtain ⟨hea7, hka7⟩ := o_at_eq ha7
    cases hea7
    refine r_callV (q := 18) (c_X1_run G h0 N _ _ _) (cl_V (ci := 0) rfl rfl (lw_V q1428 q1430 qs51 q167 q1431) (hd_X1_run) ⟨Nat.le_of_ble_eq_true rfl, Nat.le_of_ble_eq_true rfl⟩ (List.mem_singleton.mp hka7) rfl rfl rfl (Nat.le_of_ble_eq_true rfl) dX1_layTruth_15) rfl (fun u5 σ6 => ?_)
    refine r_aload_n (q := 19) dX1_layTruth_18 rfl rfl rfl ?_
    refine r_gR (q := 22) fl_X1_64 rfl dX1_layTruth_19 rfl (fun x8 => ?_)
    refine r_iload_n (q := 23) dX1_layTruth_22 rfl rfl rfl ?_
    refine r_aload_n (q := 24) dX1_layTruth_23 rfl rfl rfl ?_
    refine r_gR (q := 27) fl_X1_46 rfl dX1_layTruth_24 rfl (fun x9 => ?_)
    refine r_ob (fun a12 ha12 => ?_)
    obtain ⟨hea12, hka12⟩ := o_at_eq ha12
    cases hea12
    refine r_callI (q := 30) (c_X5_trueGoats G h0 N _ _) (cl_V (ci := 4) rfl rfl (lw_V q1584 q1585 q1586 q174 q1587) (hd_X5_trueGoats) ⟨Nat.le_of_ble_eq_true rfl, Nat.le_of_ble_eq_true rfl⟩ (List.mem_singleton.mp hka12) rfl rfl rfl (Nat.le_of_ble_eq_true rfl) dX1_layTruth_27) rfl (fun x10 σ11 => ?_)
    refine r_iastore (q := 31) dX1_layTruth_30 rfl (fun σ13 => ?_)
    refine r_iinc (q := 34) (v := (1 : Int32)) dX1_layTruth_31 rfl rfl (by decide) (Nat.le_of_ble_eq_true rfl) rfl ?_
    refine r_goto (q := 2) dX1_layTruth_34 (by decide) ?_
    exact r_le (hK2 _ _ _) (Nat.le_refl _) (And.intro rfl (And.intro rfl trivial))
theorem w_X1_layTruth_b2 (G : Gx) (h0 : G0 G) (N : Nat)   : ∀ (z : Nat) (a0 : Nat) (l1 : Int32) (σ : Mem), Runs G mX1_layTruth rhoV σ 2 [some (vR (some a0)), some (vI l1)] [] (f_X1_layTruth_b2 N  z a0 l1 σ) := by
  intro z
  induction z with
  | zero => exact fun _ _ _ => r_none
  | succ z ih => exact fun a0 l1 σ => w_X1_layTruth_b2B G h0 N   _ ih a0 l1 σ
theorem c_X1_layTruth (G : Gx) (h0 : G0 G) (N : Nat) (a0 : Nat) (σ : Mem) : Ct G mX1_layTruth rhoV [vR (some a0)] σ (f_X1_layTruth N a0 σ) := by
  refine Ct_of h0 (by decide) rfl (Nat.le_of_ble_eq_true rfl) (L0 := [some (vR (some a0)), none]) rfl ?_
  unfold f_X1_layTruth
  refine r_iconst (q := 1) (v := (0 : Int32)) dX1_layTruth_0 rfl (by decide) ?_
  refine r_istore_n (q := 2) dX1_layTruth_1 rfl rfl (Nat.le_of_ble_eq_true rfl) rfl ?_
  exact r_le (w_X1_layTruth_b2 G h0 N N _ _ _) (Nat.le_refl _) (And.intro rfl (And.intro rfl trivial))
theorem w_X1_layFits_b64 (G : Gx) (h0 : G0 G) (N : Nat) (K17 : Nat → Int32 → Int32 → Mem → Option (Unit × Mem)) (hK17 : ∀ (a0 : Nat) (l2 : Int32) (l3 : Int32) (σ : Mem), Runs G mX1_layFits rhoV σ 17 [some (vR (some a0)), none, some (vI l2), some (vI l3)] [] (K17 a0 l2 l3 σ)) (a0 : Nat) (l2 : Int32) (l3 : Int32) (σ : Mem) : Runs G mX1_layFits rhoV σ 64 [some (vR (some a0)), none, some (vI l2), some (vI l3)] [] (f_X1_layFits_b64 N K17 a0 l2 l3 σ) := by
  unfold f_X1_layFits_b64
  refine r_iinc (q := 67) (v := (1 : Int32)) dX1_layFits_64 rfl rfl (by decide) (Nat.le_of_ble_eq_true rfl) rfl ?_
  refine r_goto (q := 17) dX1_layFits_67 (by decide) ?_
  exact r_le (hK17 _ _ _ _) (Nat.le_refl _) (And.intro rfl (And.intro rfl (And.intro rfl trivial)))
theorem w_X1_layFits_b17B (G : Gx) (h0 : G0 G) (N : Nat)   (K17 : Nat → Int32 → Int32 → Mem → Option (Unit × Mem)) (hK17 : ∀ (a0 : Nat) (l2 : Int32) (l3 : Int32) (σ : Mem), Runs G mX1_layFits rhoV σ 17 [some (vR (some a0)), none, some (vI l2), some (vI l3)] [] (K17 a0 l2 l3 σ)) (a0 : Nat) (l2 : Int32) (l3 : Int32) (σ : Mem) : Runs G mX1_layFits rhoV σ 17 [some (vR (some a0)), none, some (vI l2), some (vI l3)] [] (f_X1_layFits_b17B N  K17 a0 l2 l3 σ) := by
  unfold f_X1_layFits_b17B
  refine r_iload_n (q := 18) dX1_layFits_17 rfl rfl rfl ?_
  refine r_aload_n (q := 19) dX1_layFits_18 rfl rfl rfl ?_
  refine r_gR (q := 22) fl_X1_104 rfl dX1_layFits_19 rfl (fun x1 => ?_)
  refine r_ob (fun a4 ha4 => ?_)
  obtain ⟨hea4, hka4⟩ := o_at_eq ha4
  cases hea4
  refine r_callI (q := 25) (c_X8_cases G h0 N _ _) (cl_V (ci := 7) rfl rfl (lw_V q1296 q1297 q1298 q177 q1299) (hd_X8_cases) ⟨Nat.le_of_ble_eq_true rfl, Nat.le_of_ble_eq_true rfl⟩ (List.mem_singleton.mp hka4) rfl rfl rfl (Nat.le_of_ble_eq_true rfl) dX1_layFits_22) rfl (fun x2 σ3 => ?_)
  refine r_icmp_ge (q := 28) (t := 70) dX1_layFits_25 rfl (by decide) (fun _ => ?_) (fun _ => ?_)
  · exact r_return rfl dX1_layFits_70
  · refine r_iload_n (q := 29) dX1_layFits_28 rfl rfl rfl ?_
    refine r_aload_n (q := 30) dX1_layFits_29 rfl rfl rfl ?_
    refine r_gR (q := 33) fl_X1_64 rfl dX1_layFits_30 rfl (fun x5 => ?_)
    refine r_iload_n (q := 34) dX1_layFits_33 rfl rfl rfl ?_
    refine r_iaload (q := 35) dX1_layFits_34 rfl (fun x6 => ?_)
    refine r_iconst (q := 36) (v := (-1 : Int32)) dX1_layFits_35 rfl (by decide) ?_
    refine r_ixor (q := 37) dX1_layFits_36 rfl ?_
    refine r_iand (q := 38) dX1_layFits_37 rfl ?_
    refine r_if_eq (q := 41) (t := 44) dX1_layFits_38 rfl (by decide) (fun _ => ?_) (fun _ => ?_)
    · refine r_aload_n (q := 45) dX1_layFits_44 rfl rfl rfl ?_
      refine r_gR (q := 48) fl_X1_68 rfl dX1_layFits_45 rfl (fun x7 => ?_)
      refine r_aload_n (q := 49) dX1_layFits_48 rfl rfl rfl ?_
      refine r_gI (q := 52) fl_X1_287 dX1_layFits_49 rfl (fun x8 => ?_)
      refine r_iload_n (q := 53) dX1_layFits_52 rfl rfl rfl ?_
      refine r_iastore (q := 54) dX1_layFits_53 rfl (fun σ9 => ?_)
      refine r_aload_n (q := 55) dX1_layFits_54 rfl rfl rfl ?_
      refine r_dup (q := 56) dX1_layFits_55 rfl rfl ?_
      refine r_gI (q := 59) fl_X1_287 dX1_layFits_56 rfl (fun x10 => ?_)
      refine r_iconst (q := 60) (v := (1 : Int32)) dX1_layFits_59 rfl (by decide) ?_
      refine r_iadd (q := 61) dX1_layFits_60 rfl ?_
      refine r_pI (q := 64) fp_X1_layFits_287 dX1_layFits_61 rfl (fun σ11 => ?_)
      exact r_le (w_X1_layFits_b64 G h0 N K17 hK17 _ _ _ _) (Nat.le_refl _) (And.intro rfl (And.intro rfl (And.intro rfl trivial)))
    · refine r_goto (q := 64) dX1_layFits_41 (by decide) ?_
      exact r_le (w_X1_layFits_b64 G h0 N K17 hK17 _ _ _ _) (Nat.le_refl _) (And.intro rfl (And.intro rfl (And.intro rfl trivial)))
theorem w_X1_layFits_b17 (G : Gx) (h0 : G0 G) (N : Nat)   : ∀ (z : Nat) (a0 : Nat) (l2 : Int32) (l3 : Int32) (σ : Mem), Runs G mX1_layFits rhoV σ 17 [some (vR (some a0)), none, some (vI l2), some (vI l3)] [] (f_X1_layFits_b17 N  z a0 l2 l3 σ) := by
  intro z
  induction z with
  | zero => exact fun _ _ _ _ => r_none
  | succ z ih => exact fun a0 l2 l3 σ => w_X1_layFits_b17B G h0 N   _ ih a0 l2 l3 σ
theorem c_X1_layFits (G : Gx) (h0 : G0 G) (N : Nat) (a0 : Nat) (i1 : Int32) (σ : Mem) : Ct G mX1_layFits rhoV [vR (some a0), vI i1] σ (f_X1_layFits N a0 i1 σ) := by
  refine Ct_of h0 (by decide) rfl (Nat.le_of_ble_eq_true rfl) (L0 := [some (vR (some a0)), some (vI i1), none, none]) rfl ?_
  unfold f_X1_layFits
  refine r_iload_n (q := 1) dX1_layFits_0 rfl rfl rfl ?_
  refine r_aload_n (q := 2) dX1_layFits_1 rfl rfl rfl ?_
  refine r_gR (q := 5) fl_X1_104 rfl dX1_layFits_2 rfl (fun x1 => ?_)
  refine r_ob (fun a4 ha4 => ?_)
  obtain ⟨hea4, hka4⟩ := o_at_eq ha4
  cases hea4
  refine r_callI (q := 8) (c_X8_clueGoats G h0 N _ _) (cl_V (ci := 7) rfl rfl (lw_V q1597 q1589 q1590 q177 q1591) (hd_X8_clueGoats) ⟨Nat.le_of_ble_eq_true rfl, Nat.le_of_ble_eq_true rfl⟩ (List.mem_singleton.mp hka4) rfl rfl rfl (Nat.le_of_ble_eq_true rfl) dX1_layFits_5) rfl (fun x2 σ3 => ?_)
  refine r_iand (q := 9) dX1_layFits_8 rfl ?_
  refine r_istore_n (q := 10) dX1_layFits_9 rfl rfl (Nat.le_of_ble_eq_true rfl) rfl ?_
  refine r_aload_n (q := 11) dX1_layFits_10 rfl rfl rfl ?_
  refine r_iconst (q := 12) (v := (0 : Int32)) dX1_layFits_11 rfl (by decide) ?_
  refine r_pI (q := 15) fp_X1_layFits_287 dX1_layFits_12 rfl (fun σ5 => ?_)
  refine r_iconst (q := 16) (v := (0 : Int32)) dX1_layFits_15 rfl (by decide) ?_
  refine r_istore_n (q := 17) dX1_layFits_16 rfl rfl (Nat.le_of_ble_eq_true rfl) rfl ?_
  exact r_le (w_X1_layFits_b17 G h0 N N _ _ _ _) (Nat.le_refl _) (And.intro rfl (And.intro rfl (And.intro rfl trivial)))
theorem c_X1_layHeard (G : Gx) (h0 : G0 G) (N : Nat) (a0 : Nat) (σ : Mem) : Ct G mX1_layHeard rhoV [vR (some a0)] σ (f_X1_layHeard N a0 σ) := by
  refine Ct_of h0 (by decide) rfl (Nat.le_of_ble_eq_true rfl) (L0 := [some (vR (some a0))]) rfl ?_
  unfold f_X1_layHeard
  refine r_aload_n (q := 1) dX1_layHeard_0 rfl rfl rfl ?_
  refine r_ob (fun a3 ha3 => ?_)
  obtain ⟨hea3, hka3⟩ := o_at_eq ha3
  cases hea3
  refine r_callV (q := 4) (c_X1_layTruth G h0 N _ _) (cl_V (ci := 0) rfl rfl (lw_V q1580 q1582 qs61 q167 q1583) (hd_X1_layTruth) ⟨Nat.le_of_ble_eq_true rfl, Nat.le_of_ble_eq_true rfl⟩ (List.mem_singleton.mp hka3) rfl rfl rfl (Nat.le_of_ble_eq_true rfl) dX1_layHeard_1) rfl (fun u1 σ2 => ?_)
  refine r_aload_n (q := 5) dX1_layHeard_4 rfl rfl rfl ?_
  refine r_aload_n (q := 6) dX1_layHeard_5 rfl rfl rfl ?_
  refine r_gR (q := 9) fl_X1_33 rfl dX1_layHeard_6 rfl (fun x4 => ?_)
  refine r_gI (q := 12) fl_X1_200 dX1_layHeard_9 rfl (fun x5 => ?_)
  refine r_ob (fun a8 ha8 => ?_)
  obtain ⟨hea8, hka8⟩ := o_at_eq ha8
  cases hea8
  refine r_callV (q := 15) (c_X1_layFits G h0 N _ _ _) (cl_V (ci := 0) rfl rfl (lw_V q1593 q1595 qs62 q167 q1596) (hd_X1_layFits) ⟨Nat.le_of_ble_eq_true rfl, Nat.le_of_ble_eq_true rfl⟩ (List.mem_singleton.mp hka8) rfl rfl rfl (Nat.le_of_ble_eq_true rfl) dX1_layHeard_12) rfl (fun u6 σ7 => ?_)
  exact r_return rfl dX1_layHeard_15
theorem c_X1_fits (G : Gx) (h0 : G0 G) (N : Nat) (a0 : Nat) (σ : Mem) : Ct G mX1_fits rhoI [vR (some a0)] σ (f_X1_fits N a0 σ) := by
  refine Ct_of h0 (by decide) rfl (Nat.le_of_ble_eq_true rfl) (L0 := [some (vR (some a0))]) rfl ?_
  unfold f_X1_fits
  refine r_aload_n (q := 1) dX1_fits_0 rfl rfl rfl ?_
  refine r_ob (fun a3 ha3 => ?_)
  obtain ⟨hea3, hka3⟩ := o_at_eq ha3
  cases hea3
  refine r_callV (q := 4) (c_X1_anew G h0 N _ _) (cl_V (ci := 0) rfl rfl (lw_V q485 q487 qs2 q167 q488) (hd_X1_anew) ⟨Nat.le_of_ble_eq_true rfl, Nat.le_of_ble_eq_true rfl⟩ (List.mem_singleton.mp hka3) rfl rfl rfl (Nat.le_of_ble_eq_true rfl) dX1_fits_1) rfl (fun u1 σ2 => ?_)
  refine r_aload_n (q := 5) dX1_fits_4 rfl rfl rfl ?_
  refine r_gR (q := 8) fl_X1_104 rfl dX1_fits_5 rfl (fun x4 => ?_)
  refine r_ifnonnull (q := 11) (t := 17) dX1_fits_8 rfl (by decide) (fun _ => ?_) (fun _ => ?_)
  · refine r_aload_n (q := 12) dX1_fits_11 rfl rfl rfl ?_
    refine r_iconst (q := 13) (v := (1 : Int32)) dX1_fits_12 rfl (by decide) ?_
    refine r_ob (fun a11 ha11 => ?_)
    obtain ⟨hea11, hka11⟩ := o_at_eq ha11
    cases hea11
    refine r_callI (q := 16) (c_X1_no G h0 N _ _ _) (cl_V (ci := 0) rfl rfl (lw_V q492 q494 qs3 q167 q495) (hd_X1_no) ⟨Nat.le_of_ble_eq_true rfl, Nat.le_of_ble_eq_true rfl⟩ (List.mem_singleton.mp hka11) rfl rfl rfl (Nat.le_of_ble_eq_true rfl) dX1_fits_13) rfl (fun x9 σ10 => ?_)
    exact r_ireturn rfl rfl dX1_fits_16
  · refine r_aload_n (q := 18) dX1_fits_17 rfl rfl rfl ?_
    refine r_ob (fun a7 ha7 => ?_)
    obtain ⟨hea7, hka7⟩ := o_at_eq ha7
    cases hea7
    refine r_callV (q := 21) (c_X1_layHeard G h0 N _ _) (cl_V (ci := 0) rfl rfl (lw_V q1576 q1578 qs60 q167 q1579) (hd_X1_layHeard) ⟨Nat.le_of_ble_eq_true rfl, Nat.le_of_ble_eq_true rfl⟩ (List.mem_singleton.mp hka7) rfl rfl rfl (Nat.le_of_ble_eq_true rfl) dX1_fits_18) rfl (fun u5 σ6 => ?_)
    refine r_aload_n (q := 22) dX1_fits_21 rfl rfl rfl ?_
    refine r_gI (q := 25) fl_X1_287 dX1_fits_22 rfl (fun x8 => ?_)
    exact r_ireturn rfl rfl dX1_fits_25
theorem w_X7_laysHonest_b69 (G : Gx) (h0 : G0 G) (N : Nat) (K2 : Nat → Int32 → Mem → Option (Unit × Mem)) (K28 : Nat → Int32 → Int32 → Mem → Option (Unit × Mem)) (hK2 : ∀ (a0 : Nat) (l1 : Int32) (σ : Mem), Runs G mX7_laysHonest rhoV σ 2 [some (vR (some a0)), some (vI l1), none] [] (K2 a0 l1 σ)) (hK28 : ∀ (a0 : Nat) (l1 : Int32) (l2 : Int32) (σ : Mem), Runs G mX7_laysHonest rhoV σ 28 [some (vR (some a0)), some (vI l1), some (vI l2)] [] (K28 a0 l1 l2 σ)) (a0 : Nat) (l1 : Int32) (l2 : Int32) (σ : Mem) : Runs G mX7_laysHonest rhoV σ 69 [some (vR (some a0)), some (vI l1), some (vI l2)] [] (f_X7_laysHonest_b69 N K2 K28 a0 l1 l2 σ) := by
  unfold f_X7_laysHonest_b69
  refine r_iinc (q := 72) (v := (1 : Int32)) dX7_laysHonest_69 rfl rfl (by decide) (Nat.le_of_ble_eq_true rfl) rfl ?_
  refine r_goto (q := 28) dX7_laysHonest_72 (by decide) ?_
  exact r_le (hK28 _ _ _ _) (Nat.le_refl _) (And.intro rfl (And.intro rfl (And.intro rfl trivial)))
theorem w_X7_laysHonest_b28B (G : Gx) (h0 : G0 G) (N : Nat) (K2 : Nat → Int32 → Mem → Option (Unit × Mem)) (hK2 : ∀ (a0 : Nat) (l1 : Int32) (σ : Mem), Runs G mX7_laysHonest rhoV σ 2 [some (vR (some a0)), some (vI l1), none] [] (K2 a0 l1 σ)) (K28 : Nat → Int32 → Int32 → Mem → Option (Unit × Mem)) (hK28 : ∀ (a0 : Nat) (l1 : Int32) (l2 : Int32) (σ : Mem), Runs G mX7_laysHonest rhoV σ 28 [some (vR (some a0)), some (vI l1), some (vI l2)] [] (K28 a0 l1 l2 σ)) (a0 : Nat) (l1 : Int32) (l2 : Int32) (σ : Mem) : Runs G mX7_laysHonest rhoV σ 28 [some (vR (some a0)), some (vI l1), some (vI l2)] [] (f_X7_laysHonest_b28B N K2 K28 a0 l1 l2 σ) := by
  unfold f_X7_laysHonest_b28B
  refine r_iload_n (q := 29) dX7_laysHonest_28 rfl rfl rfl ?_
  refine r_aload_n (q := 30) dX7_laysHonest_29 rfl rfl rfl ?_
  refine r_gR (q := 33) fl_X7_442 rfl dX7_laysHonest_30 rfl (fun x1 => ?_)
  refine r_gI (q := 36) fl_X7_370 dX7_laysHonest_33 rfl (fun x2 => ?_)
  refine r_icmp_ge (q := 39) (t := 75) dX7_laysHonest_36 rfl (by decide) (fun _ => ?_) (fun _ => ?_)
  · refine r_iinc (q := 78) (v := (1 : Int32)) dX7_laysHonest_75 rfl rfl (by decide) (Nat.le_of_ble_eq_true rfl) rfl ?_
    refine r_goto (q := 2) dX7_laysHonest_78 (by decide) ?_
    exact r_le (hK2 _ _ _) (Nat.le_refl _) (And.intro rfl (And.intro rfl trivial))
  · refine r_aload_n (q := 40) dX7_laysHonest_39 rfl rfl rfl ?_
    refine r_iload_n (q := 41) dX7_laysHonest_40 rfl rfl rfl ?_
    refine r_ob (fun a5 ha5 => ?_)
    obtain ⟨hea5, hka5⟩ := o_at_eq ha5
    cases hea5
    refine r_callI (q := 44) (c_X7_holdsNow G h0 N _ _ _) (cl_V (ci := 6) rfl rfl (lw_V q2537 q2539 qs137 q176 q2540) (hd_X7_holdsNow) ⟨Nat.le_of_ble_eq_true rfl, Nat.le_of_ble_eq_true rfl⟩ (List.mem_singleton.mp hka5) rfl rfl rfl (Nat.le_of_ble_eq_true rfl) dX7_laysHonest_41) rfl (fun x3 σ4 => ?_)
    refine r_if_ne (q := 47) (t := 69) dX7_laysHonest_44 rfl (by decide) (fun _ => ?_) (fun _ => ?_)
    · refine r_aload_n (q := 48) dX7_laysHonest_47 rfl rfl rfl ?_
      refine r_gR (q := 51) fl_X7_48 rfl dX7_laysHonest_48 rfl (fun x6 => ?_)
      refine r_iload_n (q := 52) dX7_laysHonest_51 rfl rfl rfl ?_
      refine r_dup2 (q := 53) dX7_laysHonest_52 rfl rfl rfl ?_
      refine r_iaload (q := 54) dX7_laysHonest_53 rfl (fun x7 => ?_)
      refine r_iconst (q := 55) (v := (1 : Int32)) dX7_laysHonest_54 rfl (by decide) ?_
      refine r_aload_n (q := 56) dX7_laysHonest_55 rfl rfl rfl ?_
      refine r_gR (q := 59) fl_X7_442 rfl dX7_laysHonest_56 rfl (fun x8 => ?_)
      refine r_gR (q := 62) fl_X7_379 rfl dX7_laysHonest_59 rfl (fun x9 => ?_)
      refine r_iload_n (q := 63) dX7_laysHonest_62 rfl rfl rfl ?_
      refine r_iaload (q := 64) dX7_laysHonest_63 rfl (fun x10 => ?_)
      refine r_ishl (q := 65) dX7_laysHonest_64 rfl ?_
      refine r_iconst (q := 66) (v := (-1 : Int32)) dX7_laysHonest_65 rfl (by decide) ?_
      refine r_ixor (q := 67) dX7_laysHonest_66 rfl ?_
      refine r_iand (q := 68) dX7_laysHonest_67 rfl ?_
      refine r_iastore (q := 69) dX7_laysHonest_68 rfl (fun σ11 => ?_)
      exact r_le (w_X7_laysHonest_b69 G h0 N K2 K28 hK2 hK28 _ _ _ _) (Nat.le_refl _) (And.intro rfl (And.intro rfl (And.intro rfl trivial)))
    · exact r_le (w_X7_laysHonest_b69 G h0 N K2 K28 hK2 hK28 _ _ _ _) (Nat.le_refl _) (And.intro rfl (And.intro rfl (And.intro rfl trivial)))
theorem w_X7_laysHonest_b28 (G : Gx) (h0 : G0 G) (N : Nat) (K2 : Nat → Int32 → Mem → Option (Unit × Mem)) (hK2 : ∀ (a0 : Nat) (l1 : Int32) (σ : Mem), Runs G mX7_laysHonest rhoV σ 2 [some (vR (some a0)), some (vI l1), none] [] (K2 a0 l1 σ)) : ∀ (z : Nat) (a0 : Nat) (l1 : Int32) (l2 : Int32) (σ : Mem), Runs G mX7_laysHonest rhoV σ 28 [some (vR (some a0)), some (vI l1), some (vI l2)] [] (f_X7_laysHonest_b28 N K2 z a0 l1 l2 σ) := by
  intro z
  induction z with
  | zero => exact fun _ _ _ _ => r_none
  | succ z ih => exact fun a0 l1 l2 σ => w_X7_laysHonest_b28B G h0 N K2 hK2 _ ih a0 l1 l2 σ
theorem w_X7_laysHonest_b2B (G : Gx) (h0 : G0 G) (N : Nat)   (K2 : Nat → Int32 → Mem → Option (Unit × Mem)) (hK2 : ∀ (a0 : Nat) (l1 : Int32) (σ : Mem), Runs G mX7_laysHonest rhoV σ 2 [some (vR (some a0)), some (vI l1), none] [] (K2 a0 l1 σ)) (a0 : Nat) (l1 : Int32) (σ : Mem) : Runs G mX7_laysHonest rhoV σ 2 [some (vR (some a0)), some (vI l1), none] [] (f_X7_laysHonest_b2B N  K2 a0 l1 σ) := by
  unfold f_X7_laysHonest_b2B
  refine r_iload_n (q := 3) dX7_laysHonest_2 rfl rfl rfl ?_
  refine r_aload_n (q := 4) dX7_laysHonest_3 rfl rfl rfl ?_
  refine r_gR (q := 7) fl_X7_442 rfl dX7_laysHonest_4 rfl (fun x1 => ?_)
  refine r_ob (fun a4 ha4 => ?_)
  obtain ⟨hea4, hka4⟩ := o_at_eq ha4
  cases hea4
  refine r_callI (q := 10) (c_X24_cases G h0 N _ _) (cl_V (ci := 20) rfl rfl (lw_V q2375 q2376 q2377 q199 q2378) (hd_X24_cases) ⟨Nat.le_of_ble_eq_true rfl, Nat.le_of_ble_eq_true rfl⟩ (List.mem_singleton.mp hka4) rfl rfl rfl (Nat.le_of_ble_eq_true rfl) dX7_laysHonest_7) rfl (fun x2 σ3 => ?_)
  refine r_icmp_ge (q := 13) (t := 81) dX7_laysHonest_10 rfl (by decide) (fun _ => ?_) (fun _ => ?_)
  · exact r_return rfl dX7_laysHonest_81
  · refine r_aload_n (q := 14) dX7_laysHonest_13 rfl rfl rfl ?_
    refine r_iload_n (q := 15) dX7_laysHonest_14 rfl rfl rfl ?_
    refine r_ob (fun a7 ha7 => ?_)
    obtain ⟨hea7, hka7⟩ := o_at_eq ha7
    cases hea7
    refine r_callV (q := 18) (c_X7_day G h0 N _ _ _) (cl_V (ci := 6) rfl rfl (lw_V q2467 q2469 qs127 q176 q2470) (hd_X7_day) ⟨Nat.le_of_ble_eq_true rfl, Nat.le_of_ble_eq_true rfl⟩ (List.mem_singleton.mp hka7) rfl rfl rfl (Nat.le_of_ble_eq_true rfl) dX7_laysHonest_15) rfl (fun u5 σ6 => ?_)
    refine r_aload_n (q := 19) dX7_laysHonest_18 rfl rfl rfl ?_
    refine r_gR (q := 22) fl_X7_48 rfl dX7_laysHonest_19 rfl (fun x8 => ?_)
    refine r_iload_n (q := 23) dX7_laysHonest_22 rfl rfl rfl ?_
    refine r_bipush (q := 25) (v := (63 : Int32)) dX7_laysHonest_23 rfl (by decide) ?_
    refine r_iastore (q := 26) dX7_laysHonest_25 rfl (fun σ9 => ?_)
    refine r_iconst (q := 27) (v := (0 : Int32)) dX7_laysHonest_26 rfl (by decide) ?_
    refine r_istore_n (q := 28) dX7_laysHonest_27 rfl rfl (Nat.le_of_ble_eq_true rfl) rfl ?_
    exact r_le (w_X7_laysHonest_b28 G h0 N K2 hK2 N _ _ _ _) (Nat.le_refl _) (And.intro rfl (And.intro rfl (And.intro rfl trivial)))
theorem w_X7_laysHonest_b2 (G : Gx) (h0 : G0 G) (N : Nat)   : ∀ (z : Nat) (a0 : Nat) (l1 : Int32) (σ : Mem), Runs G mX7_laysHonest rhoV σ 2 [some (vR (some a0)), some (vI l1), none] [] (f_X7_laysHonest_b2 N  z a0 l1 σ) := by
  intro z
  induction z with
  | zero => exact fun _ _ _ => r_none
  | succ z ih => exact fun a0 l1 σ => w_X7_laysHonest_b2B G h0 N   _ ih a0 l1 σ
theorem c_X7_laysHonest (G : Gx) (h0 : G0 G) (N : Nat) (a0 : Nat) (σ : Mem) : Ct G mX7_laysHonest rhoV [vR (some a0)] σ (f_X7_laysHonest N a0 σ) := by
  refine Ct_of h0 (by decide) rfl (Nat.le_of_ble_eq_true rfl) (L0 := [some (vR (some a0)), none, none]) rfl ?_
  unfold f_X7_laysHonest
  refine r_iconst (q := 1) (v := (0 : Int32)) dX7_laysHonest_0 rfl (by decide) ?_
  refine r_istore_n (q := 2) dX7_laysHonest_1 rfl rfl (Nat.le_of_ble_eq_true rfl) rfl ?_
  exact r_le (w_X7_laysHonest_b2 G h0 N N _ _ _) (Nat.le_refl _) (And.intro rfl (And.intro rfl trivial))
theorem c_X7_allGoats (G : Gx) (h0 : G0 G) (N : Nat) (a0 : Nat) (σ : Mem) : Ct G mX7_allGoats rhoI [vR (some a0)] σ (f_X7_allGoats N a0 σ) := by
  refine Ct_of h0 (by decide) rfl (Nat.le_of_ble_eq_true rfl) (L0 := [some (vR (some a0))]) rfl ?_
  unfold f_X7_allGoats
  refine r_iconst (q := 1) (v := (1 : Int32)) dX7_allGoats_0 rfl (by decide) ?_
  refine r_aload_n (q := 2) dX7_allGoats_1 rfl rfl rfl ?_
  refine r_gR (q := 5) fl_X7_442 rfl dX7_allGoats_2 rfl (fun x1 => ?_)
  refine r_gI (q := 8) fl_X7_328 dX7_allGoats_5 rfl (fun x2 => ?_)
  refine r_ishl (q := 9) dX7_allGoats_8 rfl ?_
  refine r_iconst (q := 10) (v := (1 : Int32)) dX7_allGoats_9 rfl (by decide) ?_
  refine r_isub (q := 11) dX7_allGoats_10 rfl ?_
  exact r_ireturn rfl rfl dX7_allGoats_11
theorem c_X7_heard (G : Gx) (h0 : G0 G) (N : Nat) (a0 : Nat) (σ : Mem) : Ct G mX7_heard rhoI [vR (some a0)] σ (f_X7_heard N a0 σ) := by
  refine Ct_of h0 (by decide) rfl (Nat.le_of_ble_eq_true rfl) (L0 := [some (vR (some a0))]) rfl ?_
  unfold f_X7_heard
  refine r_aload_n (q := 1) dX7_heard_0 rfl rfl rfl ?_
  refine r_gR (q := 4) fl_X7_21 rfl dX7_heard_1 rfl (fun x1 => ?_)
  refine r_bipush (q := 6) (v := (17 : Int32)) dX7_heard_4 rfl (by decide) ?_
  refine r_iaload (q := 7) dX7_heard_6 rfl (fun x2 => ?_)
  refine r_aload_n (q := 8) dX7_heard_7 rfl rfl rfl ?_
  refine r_ob (fun a5 ha5 => ?_)
  obtain ⟨hea5, hka5⟩ := o_at_eq ha5
  cases hea5
  refine r_callI (q := 11) (c_X7_allGoats G h0 N _ _) (cl_V (ci := 6) rfl rfl (lw_V q2553 q2555 qs140 q176 q2556) (hd_X7_allGoats) ⟨Nat.le_of_ble_eq_true rfl, Nat.le_of_ble_eq_true rfl⟩ (List.mem_singleton.mp hka5) rfl rfl rfl (Nat.le_of_ble_eq_true rfl) dX7_heard_8) rfl (fun x3 σ4 => ?_)
  refine r_iand (q := 12) dX7_heard_11 rfl ?_
  exact r_ireturn rfl rfl dX7_heard_12
theorem c_X7_areTrue (G : Gx) (h0 : G0 G) (N : Nat) (a0 : Nat) (i1 : Int32) (i2 : Int32) (σ : Mem) : Ct G mX7_areTrue rhoI [vR (some a0), vI i1, vI i2] σ (f_X7_areTrue N a0 i1 i2 σ) := by
  refine Ct_of h0 (by decide) rfl (Nat.le_of_ble_eq_true rfl) (L0 := [some (vR (some a0)), some (vI i1), some (vI i2)]) rfl ?_
  unfold f_X7_areTrue
  refine r_iload_n (q := 1) dX7_areTrue_0 rfl rfl rfl ?_
  refine r_aload_n (q := 2) dX7_areTrue_1 rfl rfl rfl ?_
  refine r_gR (q := 5) fl_X7_48 rfl dX7_areTrue_2 rfl (fun x1 => ?_)
  refine r_iload_n (q := 6) dX7_areTrue_5 rfl rfl rfl ?_
  refine r_iaload (q := 7) dX7_areTrue_6 rfl (fun x2 => ?_)
  refine r_iconst (q := 8) (v := (-1 : Int32)) dX7_areTrue_7 rfl (by decide) ?_
  refine r_ixor (q := 9) dX7_areTrue_8 rfl ?_
  refine r_iand (q := 10) dX7_areTrue_9 rfl ?_
  refine r_if_ne (q := 13) (t := 17) dX7_areTrue_10 rfl (by decide) (fun _ => ?_) (fun _ => ?_)
  · refine r_iconst (q := 14) (v := (1 : Int32)) dX7_areTrue_13 rfl (by decide) ?_
    refine r_goto (q := 18) dX7_areTrue_14 (by decide) ?_
    exact r_ireturnN rfl dX7_areTrue_18
  · refine r_iconst (q := 18) (v := (0 : Int32)) dX7_areTrue_17 rfl (by decide) ?_
    exact r_ireturnN rfl dX7_areTrue_18
