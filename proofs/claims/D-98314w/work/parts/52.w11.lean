/-! the walks of X1_ledAt X7_ledAt X1_scared X7_scared X1_isFact X8_holding X1_allRules X22_follows X8_closure X1_doesFollow X1_follows X7_isFact X7_following X7_followsNow X7_follows X1_isRight X1_step X7_step X1_needs X7_needs X1_enough X7_enough X1_cheeseWhy X1_isCheese -/
set_option maxRecDepth 100000
def dkwX1_ledAt_4 : List UInt8 := [172]
abbrev dktX1_ledAt_4 : List UInt8 := dkwX1_ledAt_4 ++ []
def dkwX1_ledAt_3 : List UInt8 := [42, 180, 0, 74, 21, 5, 46, 42, 180, 0, 104, 180, 0, 148, 112, 96, 167, 0, 8, 42, 4, 182, 0, 94]
abbrev dktX1_ledAt_3 : List UInt8 := dkwX1_ledAt_3 ++ dktX1_ledAt_4
def dkwX1_ledAt_2 : List UInt8 := [184, 0, 90, 153, 0, 40, 16, 100, 42, 180, 0, 74, 21, 5, 46, 42, 180, 0, 104, 180, 0, 148, 108, 104]
abbrev dktX1_ledAt_2 : List UInt8 := dkwX1_ledAt_2 ++ dktX1_ledAt_3
def dkwX1_ledAt_1 : List UInt8 := [182, 0, 94, 172, 42, 27, 28, 29, 21, 4, 3, 182, 1, 93, 54, 7, 21, 5, 3, 21, 7, 4, 100]
abbrev dktX1_ledAt_1 : List UInt8 := dkwX1_ledAt_1 ++ dktX1_ledAt_2
def dkwX1_ledAt_0 : List UInt8 := [42, 182, 0, 80, 42, 27, 28, 29, 21, 4, 182, 1, 89, 54, 6, 21, 6, 153, 0, 10, 42, 21, 6]
abbrev dktX1_ledAt_0 : List UInt8 := dkwX1_ledAt_0 ++ dktX1_ledAt_1
theorem dksX1_ledAt_0 : cX1_ledAt.data.toList.drop 0 = dktX1_ledAt_0 := by decide +kernel
theorem dksX1_ledAt_1 : cX1_ledAt.data.toList.drop 23 = dktX1_ledAt_1 := dk_seg dksX1_ledAt_0 23 rfl rfl
theorem dksX1_ledAt_2 : cX1_ledAt.data.toList.drop 46 = dktX1_ledAt_2 := dk_seg dksX1_ledAt_1 23 rfl rfl
theorem dksX1_ledAt_3 : cX1_ledAt.data.toList.drop 70 = dktX1_ledAt_3 := dk_seg dksX1_ledAt_2 24 rfl rfl
theorem dksX1_ledAt_4 : cX1_ledAt.data.toList.drop 94 = dktX1_ledAt_4 := dk_seg dksX1_ledAt_3 24 rfl rfl
theorem dX1_ledAt_0 : decode cX1_ledAt 0 = .ok (.aload_n 0, 1) := dk_42 (dk_at dksX1_ledAt_0 0 rfl rfl)
theorem dX1_ledAt_1 : decode cX1_ledAt 1 = .ok (.invokevirtual 80, 3) := dk_182 0 80 (dk_at dksX1_ledAt_0 1 rfl rfl)
theorem dX1_ledAt_4 : decode cX1_ledAt 4 = .ok (.aload_n 0, 1) := dk_42 (dk_at dksX1_ledAt_0 4 rfl rfl)
theorem dX1_ledAt_5 : decode cX1_ledAt 5 = .ok (.iload_n 1, 1) := dk_27 (dk_at dksX1_ledAt_0 5 rfl rfl)
theorem dX1_ledAt_6 : decode cX1_ledAt 6 = .ok (.iload_n 2, 1) := dk_28 (dk_at dksX1_ledAt_0 6 rfl rfl)
theorem dX1_ledAt_7 : decode cX1_ledAt 7 = .ok (.iload_n 3, 1) := dk_29 (dk_at dksX1_ledAt_0 7 rfl rfl)
theorem dX1_ledAt_8 : decode cX1_ledAt 8 = .ok (.iload 4, 2) := dk_21 4 (dk_at dksX1_ledAt_0 8 rfl rfl)
theorem dX1_ledAt_10 : decode cX1_ledAt 10 = .ok (.invokevirtual 345, 3) := dk_182 1 89 (dk_at dksX1_ledAt_0 10 rfl rfl)
theorem dX1_ledAt_13 : decode cX1_ledAt 13 = .ok (.istore 6, 2) := dk_54 6 (dk_at dksX1_ledAt_0 13 rfl rfl)
theorem dX1_ledAt_15 : decode cX1_ledAt 15 = .ok (.iload 6, 2) := dk_21 6 (dk_at dksX1_ledAt_0 15 rfl rfl)
theorem dX1_ledAt_17 : decode cX1_ledAt 17 = .ok (.ifCond .eq 10, 3) := dk_153 0 10 (dk_at dksX1_ledAt_0 17 rfl rfl)
theorem dX1_ledAt_20 : decode cX1_ledAt 20 = .ok (.aload_n 0, 1) := dk_42 (dk_at dksX1_ledAt_0 20 rfl rfl)
theorem dX1_ledAt_21 : decode cX1_ledAt 21 = .ok (.iload 6, 2) := dk_21 6 (dk_at dksX1_ledAt_0 21 rfl rfl)
theorem dX1_ledAt_23 : decode cX1_ledAt 23 = .ok (.invokevirtual 94, 3) := dk_182 0 94 (dk_at dksX1_ledAt_1 0 rfl rfl)
theorem dX1_ledAt_26 : decode cX1_ledAt 26 = .ok (.ireturn, 1) := dk_172 (dk_at dksX1_ledAt_1 3 rfl rfl)
theorem dX1_ledAt_27 : decode cX1_ledAt 27 = .ok (.aload_n 0, 1) := dk_42 (dk_at dksX1_ledAt_1 4 rfl rfl)
theorem dX1_ledAt_28 : decode cX1_ledAt 28 = .ok (.iload_n 1, 1) := dk_27 (dk_at dksX1_ledAt_1 5 rfl rfl)
theorem dX1_ledAt_29 : decode cX1_ledAt 29 = .ok (.iload_n 2, 1) := dk_28 (dk_at dksX1_ledAt_1 6 rfl rfl)
theorem dX1_ledAt_30 : decode cX1_ledAt 30 = .ok (.iload_n 3, 1) := dk_29 (dk_at dksX1_ledAt_1 7 rfl rfl)
theorem dX1_ledAt_31 : decode cX1_ledAt 31 = .ok (.iload 4, 2) := dk_21 4 (dk_at dksX1_ledAt_1 8 rfl rfl)
theorem dX1_ledAt_33 : decode cX1_ledAt 33 = .ok (.iconst 0, 1) := dk_3 (dk_at dksX1_ledAt_1 10 rfl rfl)
theorem dX1_ledAt_34 : decode cX1_ledAt 34 = .ok (.invokevirtual 349, 3) := dk_182 1 93 (dk_at dksX1_ledAt_1 11 rfl rfl)
theorem dX1_ledAt_37 : decode cX1_ledAt 37 = .ok (.istore 7, 2) := dk_54 7 (dk_at dksX1_ledAt_1 14 rfl rfl)
theorem dX1_ledAt_39 : decode cX1_ledAt 39 = .ok (.iload 5, 2) := dk_21 5 (dk_at dksX1_ledAt_1 16 rfl rfl)
theorem dX1_ledAt_41 : decode cX1_ledAt 41 = .ok (.iconst 0, 1) := dk_3 (dk_at dksX1_ledAt_1 18 rfl rfl)
theorem dX1_ledAt_42 : decode cX1_ledAt 42 = .ok (.iload 7, 2) := dk_21 7 (dk_at dksX1_ledAt_1 19 rfl rfl)
theorem dX1_ledAt_44 : decode cX1_ledAt 44 = .ok (.iconst 1, 1) := dk_4 (dk_at dksX1_ledAt_1 21 rfl rfl)
theorem dX1_ledAt_45 : decode cX1_ledAt 45 = .ok (.isub, 1) := dk_100 (dk_at dksX1_ledAt_1 22 rfl rfl)
theorem dX1_ledAt_46 : decode cX1_ledAt 46 = .ok (.invokestatic 90, 3) := dk_184 0 90 (dk_at dksX1_ledAt_2 0 rfl rfl)
theorem dX1_ledAt_49 : decode cX1_ledAt 49 = .ok (.ifCond .eq 40, 3) := dk_153 0 40 (dk_at dksX1_ledAt_2 3 rfl rfl)
theorem dX1_ledAt_52 : decode cX1_ledAt 52 = .ok (.bipush 100, 2) := dk_16 100 (dk_at dksX1_ledAt_2 6 rfl rfl)
theorem dX1_ledAt_54 : decode cX1_ledAt 54 = .ok (.aload_n 0, 1) := dk_42 (dk_at dksX1_ledAt_2 8 rfl rfl)
theorem dX1_ledAt_55 : decode cX1_ledAt 55 = .ok (.getfield 74, 3) := dk_180 0 74 (dk_at dksX1_ledAt_2 9 rfl rfl)
theorem dX1_ledAt_58 : decode cX1_ledAt 58 = .ok (.iload 5, 2) := dk_21 5 (dk_at dksX1_ledAt_2 12 rfl rfl)
theorem dX1_ledAt_60 : decode cX1_ledAt 60 = .ok (.iaload, 1) := dk_46 (dk_at dksX1_ledAt_2 14 rfl rfl)
theorem dX1_ledAt_61 : decode cX1_ledAt 61 = .ok (.aload_n 0, 1) := dk_42 (dk_at dksX1_ledAt_2 15 rfl rfl)
theorem dX1_ledAt_62 : decode cX1_ledAt 62 = .ok (.getfield 104, 3) := dk_180 0 104 (dk_at dksX1_ledAt_2 16 rfl rfl)
theorem dX1_ledAt_65 : decode cX1_ledAt 65 = .ok (.getfield 148, 3) := dk_180 0 148 (dk_at dksX1_ledAt_2 19 rfl rfl)
theorem dX1_ledAt_68 : decode cX1_ledAt 68 = .ok (.idiv, 1) := dk_108 (dk_at dksX1_ledAt_2 22 rfl rfl)
theorem dX1_ledAt_69 : decode cX1_ledAt 69 = .ok (.imul, 1) := dk_104 (dk_at dksX1_ledAt_2 23 rfl rfl)
theorem dX1_ledAt_70 : decode cX1_ledAt 70 = .ok (.aload_n 0, 1) := dk_42 (dk_at dksX1_ledAt_3 0 rfl rfl)
theorem dX1_ledAt_71 : decode cX1_ledAt 71 = .ok (.getfield 74, 3) := dk_180 0 74 (dk_at dksX1_ledAt_3 1 rfl rfl)
theorem dX1_ledAt_74 : decode cX1_ledAt 74 = .ok (.iload 5, 2) := dk_21 5 (dk_at dksX1_ledAt_3 4 rfl rfl)
theorem dX1_ledAt_76 : decode cX1_ledAt 76 = .ok (.iaload, 1) := dk_46 (dk_at dksX1_ledAt_3 6 rfl rfl)
theorem dX1_ledAt_77 : decode cX1_ledAt 77 = .ok (.aload_n 0, 1) := dk_42 (dk_at dksX1_ledAt_3 7 rfl rfl)
theorem dX1_ledAt_78 : decode cX1_ledAt 78 = .ok (.getfield 104, 3) := dk_180 0 104 (dk_at dksX1_ledAt_3 8 rfl rfl)
theorem dX1_ledAt_81 : decode cX1_ledAt 81 = .ok (.getfield 148, 3) := dk_180 0 148 (dk_at dksX1_ledAt_3 11 rfl rfl)
theorem dX1_ledAt_84 : decode cX1_ledAt 84 = .ok (.irem, 1) := dk_112 (dk_at dksX1_ledAt_3 14 rfl rfl)
theorem dX1_ledAt_85 : decode cX1_ledAt 85 = .ok (.iadd, 1) := dk_96 (dk_at dksX1_ledAt_3 15 rfl rfl)
theorem dX1_ledAt_86 : decode cX1_ledAt 86 = .ok (.goto 8, 3) := dk_167 0 8 (dk_at dksX1_ledAt_3 16 rfl rfl)
theorem dX1_ledAt_89 : decode cX1_ledAt 89 = .ok (.aload_n 0, 1) := dk_42 (dk_at dksX1_ledAt_3 19 rfl rfl)
theorem dX1_ledAt_90 : decode cX1_ledAt 90 = .ok (.iconst 1, 1) := dk_4 (dk_at dksX1_ledAt_3 20 rfl rfl)
theorem dX1_ledAt_91 : decode cX1_ledAt 91 = .ok (.invokevirtual 94, 3) := dk_182 0 94 (dk_at dksX1_ledAt_3 21 rfl rfl)
theorem dX1_ledAt_94 : decode cX1_ledAt 94 = .ok (.ireturn, 1) := dk_172 (dk_at dksX1_ledAt_4 0 rfl rfl)
def dkwX7_ledAt_3 : List UInt8 := [180, 2, 53, 54, 8, 42, 16, 100, 21, 8, 16, 12, 108, 104, 21, 8, 16, 12, 112, 96, 182, 0, 76, 172]
abbrev dktX7_ledAt_3 : List UInt8 := dkwX7_ledAt_3 ++ []
def dkwX7_ledAt_2 : List UInt8 := [21, 7, 161, 0, 9, 42, 4, 182, 0, 72, 172, 21, 5, 154, 0, 10, 42, 180, 2, 50, 167, 0, 7, 42]
abbrev dktX7_ledAt_2 : List UInt8 := dkwX7_ledAt_2 ++ dktX7_ledAt_3
def dkwX7_ledAt_1 : List UInt8 := [182, 0, 72, 172, 42, 3, 27, 28, 29, 21, 4, 182, 2, 60, 54, 7, 21, 5, 155, 0, 10, 21, 5]
abbrev dktX7_ledAt_1 : List UInt8 := dkwX7_ledAt_1 ++ dktX7_ledAt_2
def dkwX7_ledAt_0 : List UInt8 := [42, 3, 181, 0, 66, 42, 27, 28, 29, 21, 4, 182, 2, 56, 54, 6, 21, 6, 158, 0, 10, 42, 21, 6]
abbrev dktX7_ledAt_0 : List UInt8 := dkwX7_ledAt_0 ++ dktX7_ledAt_1
theorem dksX7_ledAt_0 : cX7_ledAt.data.toList.drop 0 = dktX7_ledAt_0 := by decide +kernel
theorem dksX7_ledAt_1 : cX7_ledAt.data.toList.drop 24 = dktX7_ledAt_1 := dk_seg dksX7_ledAt_0 24 rfl rfl
theorem dksX7_ledAt_2 : cX7_ledAt.data.toList.drop 47 = dktX7_ledAt_2 := dk_seg dksX7_ledAt_1 23 rfl rfl
theorem dksX7_ledAt_3 : cX7_ledAt.data.toList.drop 71 = dktX7_ledAt_3 := dk_seg dksX7_ledAt_2 24 rfl rfl
theorem dX7_ledAt_0 : decode cX7_ledAt 0 = .ok (.aload_n 0, 1) := dk_42 (dk_at dksX7_ledAt_0 0 rfl rfl)
theorem dX7_ledAt_1 : decode cX7_ledAt 1 = .ok (.iconst 0, 1) := dk_3 (dk_at dksX7_ledAt_0 1 rfl rfl)
theorem dX7_ledAt_2 : decode cX7_ledAt 2 = .ok (.putfield 66, 3) := dk_181 0 66 (dk_at dksX7_ledAt_0 2 rfl rfl)
theorem dX7_ledAt_5 : decode cX7_ledAt 5 = .ok (.aload_n 0, 1) := dk_42 (dk_at dksX7_ledAt_0 5 rfl rfl)
theorem dX7_ledAt_6 : decode cX7_ledAt 6 = .ok (.iload_n 1, 1) := dk_27 (dk_at dksX7_ledAt_0 6 rfl rfl)
theorem dX7_ledAt_7 : decode cX7_ledAt 7 = .ok (.iload_n 2, 1) := dk_28 (dk_at dksX7_ledAt_0 7 rfl rfl)
theorem dX7_ledAt_8 : decode cX7_ledAt 8 = .ok (.iload_n 3, 1) := dk_29 (dk_at dksX7_ledAt_0 8 rfl rfl)
theorem dX7_ledAt_9 : decode cX7_ledAt 9 = .ok (.iload 4, 2) := dk_21 4 (dk_at dksX7_ledAt_0 9 rfl rfl)
theorem dX7_ledAt_11 : decode cX7_ledAt 11 = .ok (.invokevirtual 568, 3) := dk_182 2 56 (dk_at dksX7_ledAt_0 11 rfl rfl)
theorem dX7_ledAt_14 : decode cX7_ledAt 14 = .ok (.istore 6, 2) := dk_54 6 (dk_at dksX7_ledAt_0 14 rfl rfl)
theorem dX7_ledAt_16 : decode cX7_ledAt 16 = .ok (.iload 6, 2) := dk_21 6 (dk_at dksX7_ledAt_0 16 rfl rfl)
theorem dX7_ledAt_18 : decode cX7_ledAt 18 = .ok (.ifCond .le 10, 3) := dk_158 0 10 (dk_at dksX7_ledAt_0 18 rfl rfl)
theorem dX7_ledAt_21 : decode cX7_ledAt 21 = .ok (.aload_n 0, 1) := dk_42 (dk_at dksX7_ledAt_0 21 rfl rfl)
theorem dX7_ledAt_22 : decode cX7_ledAt 22 = .ok (.iload 6, 2) := dk_21 6 (dk_at dksX7_ledAt_0 22 rfl rfl)
theorem dX7_ledAt_24 : decode cX7_ledAt 24 = .ok (.invokevirtual 72, 3) := dk_182 0 72 (dk_at dksX7_ledAt_1 0 rfl rfl)
theorem dX7_ledAt_27 : decode cX7_ledAt 27 = .ok (.ireturn, 1) := dk_172 (dk_at dksX7_ledAt_1 3 rfl rfl)
theorem dX7_ledAt_28 : decode cX7_ledAt 28 = .ok (.aload_n 0, 1) := dk_42 (dk_at dksX7_ledAt_1 4 rfl rfl)
theorem dX7_ledAt_29 : decode cX7_ledAt 29 = .ok (.iconst 0, 1) := dk_3 (dk_at dksX7_ledAt_1 5 rfl rfl)
theorem dX7_ledAt_30 : decode cX7_ledAt 30 = .ok (.iload_n 1, 1) := dk_27 (dk_at dksX7_ledAt_1 6 rfl rfl)
theorem dX7_ledAt_31 : decode cX7_ledAt 31 = .ok (.iload_n 2, 1) := dk_28 (dk_at dksX7_ledAt_1 7 rfl rfl)
theorem dX7_ledAt_32 : decode cX7_ledAt 32 = .ok (.iload_n 3, 1) := dk_29 (dk_at dksX7_ledAt_1 8 rfl rfl)
theorem dX7_ledAt_33 : decode cX7_ledAt 33 = .ok (.iload 4, 2) := dk_21 4 (dk_at dksX7_ledAt_1 9 rfl rfl)
theorem dX7_ledAt_35 : decode cX7_ledAt 35 = .ok (.invokevirtual 572, 3) := dk_182 2 60 (dk_at dksX7_ledAt_1 11 rfl rfl)
theorem dX7_ledAt_38 : decode cX7_ledAt 38 = .ok (.istore 7, 2) := dk_54 7 (dk_at dksX7_ledAt_1 14 rfl rfl)
theorem dX7_ledAt_40 : decode cX7_ledAt 40 = .ok (.iload 5, 2) := dk_21 5 (dk_at dksX7_ledAt_1 16 rfl rfl)
theorem dX7_ledAt_42 : decode cX7_ledAt 42 = .ok (.ifCond .lt 10, 3) := dk_155 0 10 (dk_at dksX7_ledAt_1 18 rfl rfl)
theorem dX7_ledAt_45 : decode cX7_ledAt 45 = .ok (.iload 5, 2) := dk_21 5 (dk_at dksX7_ledAt_1 21 rfl rfl)
theorem dX7_ledAt_47 : decode cX7_ledAt 47 = .ok (.iload 7, 2) := dk_21 7 (dk_at dksX7_ledAt_2 0 rfl rfl)
theorem dX7_ledAt_49 : decode cX7_ledAt 49 = .ok (.if_icmp .lt 9, 3) := dk_161 0 9 (dk_at dksX7_ledAt_2 2 rfl rfl)
theorem dX7_ledAt_52 : decode cX7_ledAt 52 = .ok (.aload_n 0, 1) := dk_42 (dk_at dksX7_ledAt_2 5 rfl rfl)
theorem dX7_ledAt_53 : decode cX7_ledAt 53 = .ok (.iconst 1, 1) := dk_4 (dk_at dksX7_ledAt_2 6 rfl rfl)
theorem dX7_ledAt_54 : decode cX7_ledAt 54 = .ok (.invokevirtual 72, 3) := dk_182 0 72 (dk_at dksX7_ledAt_2 7 rfl rfl)
theorem dX7_ledAt_57 : decode cX7_ledAt 57 = .ok (.ireturn, 1) := dk_172 (dk_at dksX7_ledAt_2 10 rfl rfl)
theorem dX7_ledAt_58 : decode cX7_ledAt 58 = .ok (.iload 5, 2) := dk_21 5 (dk_at dksX7_ledAt_2 11 rfl rfl)
theorem dX7_ledAt_60 : decode cX7_ledAt 60 = .ok (.ifCond .ne 10, 3) := dk_154 0 10 (dk_at dksX7_ledAt_2 13 rfl rfl)
theorem dX7_ledAt_63 : decode cX7_ledAt 63 = .ok (.aload_n 0, 1) := dk_42 (dk_at dksX7_ledAt_2 16 rfl rfl)
theorem dX7_ledAt_64 : decode cX7_ledAt 64 = .ok (.getfield 562, 3) := dk_180 2 50 (dk_at dksX7_ledAt_2 17 rfl rfl)
theorem dX7_ledAt_67 : decode cX7_ledAt 67 = .ok (.goto 7, 3) := dk_167 0 7 (dk_at dksX7_ledAt_2 20 rfl rfl)
theorem dX7_ledAt_70 : decode cX7_ledAt 70 = .ok (.aload_n 0, 1) := dk_42 (dk_at dksX7_ledAt_2 23 rfl rfl)
theorem dX7_ledAt_71 : decode cX7_ledAt 71 = .ok (.getfield 565, 3) := dk_180 2 53 (dk_at dksX7_ledAt_3 0 rfl rfl)
theorem dX7_ledAt_74 : decode cX7_ledAt 74 = .ok (.istore 8, 2) := dk_54 8 (dk_at dksX7_ledAt_3 3 rfl rfl)
theorem dX7_ledAt_76 : decode cX7_ledAt 76 = .ok (.aload_n 0, 1) := dk_42 (dk_at dksX7_ledAt_3 5 rfl rfl)
theorem dX7_ledAt_77 : decode cX7_ledAt 77 = .ok (.bipush 100, 2) := dk_16 100 (dk_at dksX7_ledAt_3 6 rfl rfl)
theorem dX7_ledAt_79 : decode cX7_ledAt 79 = .ok (.iload 8, 2) := dk_21 8 (dk_at dksX7_ledAt_3 8 rfl rfl)
theorem dX7_ledAt_81 : decode cX7_ledAt 81 = .ok (.bipush 12, 2) := dk_16 12 (dk_at dksX7_ledAt_3 10 rfl rfl)
theorem dX7_ledAt_83 : decode cX7_ledAt 83 = .ok (.idiv, 1) := dk_108 (dk_at dksX7_ledAt_3 12 rfl rfl)
theorem dX7_ledAt_84 : decode cX7_ledAt 84 = .ok (.imul, 1) := dk_104 (dk_at dksX7_ledAt_3 13 rfl rfl)
theorem dX7_ledAt_85 : decode cX7_ledAt 85 = .ok (.iload 8, 2) := dk_21 8 (dk_at dksX7_ledAt_3 14 rfl rfl)
theorem dX7_ledAt_87 : decode cX7_ledAt 87 = .ok (.bipush 12, 2) := dk_16 12 (dk_at dksX7_ledAt_3 16 rfl rfl)
theorem dX7_ledAt_89 : decode cX7_ledAt 89 = .ok (.irem, 1) := dk_112 (dk_at dksX7_ledAt_3 18 rfl rfl)
theorem dX7_ledAt_90 : decode cX7_ledAt 90 = .ok (.iadd, 1) := dk_96 (dk_at dksX7_ledAt_3 19 rfl rfl)
theorem dX7_ledAt_91 : decode cX7_ledAt 91 = .ok (.invokevirtual 76, 3) := dk_182 0 76 (dk_at dksX7_ledAt_3 20 rfl rfl)
theorem dX7_ledAt_94 : decode cX7_ledAt 94 = .ok (.ireturn, 1) := dk_172 (dk_at dksX7_ledAt_3 23 rfl rfl)
def dkwX1_scared_1 : List UInt8 := [182, 0, 94, 167, 0, 13, 42, 27, 28, 29, 21, 4, 4, 182, 1, 93, 172]
abbrev dktX1_scared_1 : List UInt8 := dkwX1_scared_1 ++ []
def dkwX1_scared_0 : List UInt8 := [42, 182, 0, 80, 42, 27, 28, 29, 21, 4, 182, 1, 89, 54, 5, 21, 5, 153, 0, 12, 42, 21, 5]
abbrev dktX1_scared_0 : List UInt8 := dkwX1_scared_0 ++ dktX1_scared_1
theorem dksX1_scared_0 : cX1_scared.data.toList.drop 0 = dktX1_scared_0 := by decide +kernel
theorem dksX1_scared_1 : cX1_scared.data.toList.drop 23 = dktX1_scared_1 := dk_seg dksX1_scared_0 23 rfl rfl
theorem dX1_scared_0 : decode cX1_scared 0 = .ok (.aload_n 0, 1) := dk_42 (dk_at dksX1_scared_0 0 rfl rfl)
theorem dX1_scared_1 : decode cX1_scared 1 = .ok (.invokevirtual 80, 3) := dk_182 0 80 (dk_at dksX1_scared_0 1 rfl rfl)
theorem dX1_scared_4 : decode cX1_scared 4 = .ok (.aload_n 0, 1) := dk_42 (dk_at dksX1_scared_0 4 rfl rfl)
theorem dX1_scared_5 : decode cX1_scared 5 = .ok (.iload_n 1, 1) := dk_27 (dk_at dksX1_scared_0 5 rfl rfl)
theorem dX1_scared_6 : decode cX1_scared 6 = .ok (.iload_n 2, 1) := dk_28 (dk_at dksX1_scared_0 6 rfl rfl)
theorem dX1_scared_7 : decode cX1_scared 7 = .ok (.iload_n 3, 1) := dk_29 (dk_at dksX1_scared_0 7 rfl rfl)
theorem dX1_scared_8 : decode cX1_scared 8 = .ok (.iload 4, 2) := dk_21 4 (dk_at dksX1_scared_0 8 rfl rfl)
theorem dX1_scared_10 : decode cX1_scared 10 = .ok (.invokevirtual 345, 3) := dk_182 1 89 (dk_at dksX1_scared_0 10 rfl rfl)
theorem dX1_scared_13 : decode cX1_scared 13 = .ok (.istore 5, 2) := dk_54 5 (dk_at dksX1_scared_0 13 rfl rfl)
theorem dX1_scared_15 : decode cX1_scared 15 = .ok (.iload 5, 2) := dk_21 5 (dk_at dksX1_scared_0 15 rfl rfl)
theorem dX1_scared_17 : decode cX1_scared 17 = .ok (.ifCond .eq 12, 3) := dk_153 0 12 (dk_at dksX1_scared_0 17 rfl rfl)
theorem dX1_scared_20 : decode cX1_scared 20 = .ok (.aload_n 0, 1) := dk_42 (dk_at dksX1_scared_0 20 rfl rfl)
theorem dX1_scared_21 : decode cX1_scared 21 = .ok (.iload 5, 2) := dk_21 5 (dk_at dksX1_scared_0 21 rfl rfl)
theorem dX1_scared_23 : decode cX1_scared 23 = .ok (.invokevirtual 94, 3) := dk_182 0 94 (dk_at dksX1_scared_1 0 rfl rfl)
theorem dX1_scared_26 : decode cX1_scared 26 = .ok (.goto 13, 3) := dk_167 0 13 (dk_at dksX1_scared_1 3 rfl rfl)
theorem dX1_scared_29 : decode cX1_scared 29 = .ok (.aload_n 0, 1) := dk_42 (dk_at dksX1_scared_1 6 rfl rfl)
theorem dX1_scared_30 : decode cX1_scared 30 = .ok (.iload_n 1, 1) := dk_27 (dk_at dksX1_scared_1 7 rfl rfl)
theorem dX1_scared_31 : decode cX1_scared 31 = .ok (.iload_n 2, 1) := dk_28 (dk_at dksX1_scared_1 8 rfl rfl)
theorem dX1_scared_32 : decode cX1_scared 32 = .ok (.iload_n 3, 1) := dk_29 (dk_at dksX1_scared_1 9 rfl rfl)
theorem dX1_scared_33 : decode cX1_scared 33 = .ok (.iload 4, 2) := dk_21 4 (dk_at dksX1_scared_1 10 rfl rfl)
theorem dX1_scared_35 : decode cX1_scared 35 = .ok (.iconst 1, 1) := dk_4 (dk_at dksX1_scared_1 12 rfl rfl)
theorem dX1_scared_36 : decode cX1_scared 36 = .ok (.invokevirtual 349, 3) := dk_182 1 93 (dk_at dksX1_scared_1 13 rfl rfl)
theorem dX1_scared_39 : decode cX1_scared 39 = .ok (.ireturn, 1) := dk_172 (dk_at dksX1_scared_1 16 rfl rfl)
def dkwX7_scared_1 : List UInt8 := [182, 0, 72, 167, 0, 18, 42, 42, 16, 8, 27, 28, 29, 21, 4, 182, 2, 60, 182, 0, 76, 172]
abbrev dktX7_scared_1 : List UInt8 := dkwX7_scared_1 ++ []
def dkwX7_scared_0 : List UInt8 := [42, 3, 181, 0, 66, 42, 27, 28, 29, 21, 4, 182, 2, 56, 54, 5, 21, 5, 158, 0, 12, 42, 21, 5]
abbrev dktX7_scared_0 : List UInt8 := dkwX7_scared_0 ++ dktX7_scared_1
theorem dksX7_scared_0 : cX7_scared.data.toList.drop 0 = dktX7_scared_0 := by decide +kernel
theorem dksX7_scared_1 : cX7_scared.data.toList.drop 24 = dktX7_scared_1 := dk_seg dksX7_scared_0 24 rfl rfl
theorem dX7_scared_0 : decode cX7_scared 0 = .ok (.aload_n 0, 1) := dk_42 (dk_at dksX7_scared_0 0 rfl rfl)
theorem dX7_scared_1 : decode cX7_scared 1 = .ok (.iconst 0, 1) := dk_3 (dk_at dksX7_scared_0 1 rfl rfl)
theorem dX7_scared_2 : decode cX7_scared 2 = .ok (.putfield 66, 3) := dk_181 0 66 (dk_at dksX7_scared_0 2 rfl rfl)
theorem dX7_scared_5 : decode cX7_scared 5 = .ok (.aload_n 0, 1) := dk_42 (dk_at dksX7_scared_0 5 rfl rfl)
theorem dX7_scared_6 : decode cX7_scared 6 = .ok (.iload_n 1, 1) := dk_27 (dk_at dksX7_scared_0 6 rfl rfl)
theorem dX7_scared_7 : decode cX7_scared 7 = .ok (.iload_n 2, 1) := dk_28 (dk_at dksX7_scared_0 7 rfl rfl)
theorem dX7_scared_8 : decode cX7_scared 8 = .ok (.iload_n 3, 1) := dk_29 (dk_at dksX7_scared_0 8 rfl rfl)
theorem dX7_scared_9 : decode cX7_scared 9 = .ok (.iload 4, 2) := dk_21 4 (dk_at dksX7_scared_0 9 rfl rfl)
theorem dX7_scared_11 : decode cX7_scared 11 = .ok (.invokevirtual 568, 3) := dk_182 2 56 (dk_at dksX7_scared_0 11 rfl rfl)
theorem dX7_scared_14 : decode cX7_scared 14 = .ok (.istore 5, 2) := dk_54 5 (dk_at dksX7_scared_0 14 rfl rfl)
theorem dX7_scared_16 : decode cX7_scared 16 = .ok (.iload 5, 2) := dk_21 5 (dk_at dksX7_scared_0 16 rfl rfl)
theorem dX7_scared_18 : decode cX7_scared 18 = .ok (.ifCond .le 12, 3) := dk_158 0 12 (dk_at dksX7_scared_0 18 rfl rfl)
theorem dX7_scared_21 : decode cX7_scared 21 = .ok (.aload_n 0, 1) := dk_42 (dk_at dksX7_scared_0 21 rfl rfl)
theorem dX7_scared_22 : decode cX7_scared 22 = .ok (.iload 5, 2) := dk_21 5 (dk_at dksX7_scared_0 22 rfl rfl)
theorem dX7_scared_24 : decode cX7_scared 24 = .ok (.invokevirtual 72, 3) := dk_182 0 72 (dk_at dksX7_scared_1 0 rfl rfl)
theorem dX7_scared_27 : decode cX7_scared 27 = .ok (.goto 18, 3) := dk_167 0 18 (dk_at dksX7_scared_1 3 rfl rfl)
theorem dX7_scared_30 : decode cX7_scared 30 = .ok (.aload_n 0, 1) := dk_42 (dk_at dksX7_scared_1 6 rfl rfl)
theorem dX7_scared_31 : decode cX7_scared 31 = .ok (.aload_n 0, 1) := dk_42 (dk_at dksX7_scared_1 7 rfl rfl)
theorem dX7_scared_32 : decode cX7_scared 32 = .ok (.bipush 8, 2) := dk_16 8 (dk_at dksX7_scared_1 8 rfl rfl)
theorem dX7_scared_34 : decode cX7_scared 34 = .ok (.iload_n 1, 1) := dk_27 (dk_at dksX7_scared_1 10 rfl rfl)
theorem dX7_scared_35 : decode cX7_scared 35 = .ok (.iload_n 2, 1) := dk_28 (dk_at dksX7_scared_1 11 rfl rfl)
theorem dX7_scared_36 : decode cX7_scared 36 = .ok (.iload_n 3, 1) := dk_29 (dk_at dksX7_scared_1 12 rfl rfl)
theorem dX7_scared_37 : decode cX7_scared 37 = .ok (.iload 4, 2) := dk_21 4 (dk_at dksX7_scared_1 13 rfl rfl)
theorem dX7_scared_39 : decode cX7_scared 39 = .ok (.invokevirtual 572, 3) := dk_182 2 60 (dk_at dksX7_scared_1 15 rfl rfl)
theorem dX7_scared_42 : decode cX7_scared 42 = .ok (.invokevirtual 76, 3) := dk_182 0 76 (dk_at dksX7_scared_1 18 rfl rfl)
theorem dX7_scared_45 : decode cX7_scared 45 = .ok (.ireturn, 1) := dk_172 (dk_at dksX7_scared_1 21 rfl rfl)
def dkwX1_isFact_1 : List UInt8 := [4, 167, 0, 4, 3, 172]
abbrev dktX1_isFact_1 : List UInt8 := dkwX1_isFact_1 ++ []
def dkwX1_isFact_0 : List UInt8 := [42, 180, 0, 104, 198, 0, 24, 27, 3, 42, 180, 0, 104, 180, 0, 145, 4, 100, 184, 0, 90, 153, 0, 7]
abbrev dktX1_isFact_0 : List UInt8 := dkwX1_isFact_0 ++ dktX1_isFact_1
theorem dksX1_isFact_0 : cX1_isFact.data.toList.drop 0 = dktX1_isFact_0 := by decide +kernel
theorem dksX1_isFact_1 : cX1_isFact.data.toList.drop 24 = dktX1_isFact_1 := dk_seg dksX1_isFact_0 24 rfl rfl
theorem dX1_isFact_0 : decode cX1_isFact 0 = .ok (.aload_n 0, 1) := dk_42 (dk_at dksX1_isFact_0 0 rfl rfl)
theorem dX1_isFact_1 : decode cX1_isFact 1 = .ok (.getfield 104, 3) := dk_180 0 104 (dk_at dksX1_isFact_0 1 rfl rfl)
theorem dX1_isFact_4 : decode cX1_isFact 4 = .ok (.ifnull 24, 3) := dk_198 0 24 (dk_at dksX1_isFact_0 4 rfl rfl)
theorem dX1_isFact_7 : decode cX1_isFact 7 = .ok (.iload_n 1, 1) := dk_27 (dk_at dksX1_isFact_0 7 rfl rfl)
theorem dX1_isFact_8 : decode cX1_isFact 8 = .ok (.iconst 0, 1) := dk_3 (dk_at dksX1_isFact_0 8 rfl rfl)
theorem dX1_isFact_9 : decode cX1_isFact 9 = .ok (.aload_n 0, 1) := dk_42 (dk_at dksX1_isFact_0 9 rfl rfl)
theorem dX1_isFact_10 : decode cX1_isFact 10 = .ok (.getfield 104, 3) := dk_180 0 104 (dk_at dksX1_isFact_0 10 rfl rfl)
theorem dX1_isFact_13 : decode cX1_isFact 13 = .ok (.getfield 145, 3) := dk_180 0 145 (dk_at dksX1_isFact_0 13 rfl rfl)
theorem dX1_isFact_16 : decode cX1_isFact 16 = .ok (.iconst 1, 1) := dk_4 (dk_at dksX1_isFact_0 16 rfl rfl)
theorem dX1_isFact_17 : decode cX1_isFact 17 = .ok (.isub, 1) := dk_100 (dk_at dksX1_isFact_0 17 rfl rfl)
theorem dX1_isFact_18 : decode cX1_isFact 18 = .ok (.invokestatic 90, 3) := dk_184 0 90 (dk_at dksX1_isFact_0 18 rfl rfl)
theorem dX1_isFact_21 : decode cX1_isFact 21 = .ok (.ifCond .eq 7, 3) := dk_153 0 7 (dk_at dksX1_isFact_0 21 rfl rfl)
theorem dX1_isFact_24 : decode cX1_isFact 24 = .ok (.iconst 1, 1) := dk_4 (dk_at dksX1_isFact_1 0 rfl rfl)
theorem dX1_isFact_25 : decode cX1_isFact 25 = .ok (.goto 4, 3) := dk_167 0 4 (dk_at dksX1_isFact_1 1 rfl rfl)
theorem dX1_isFact_28 : decode cX1_isFact 28 = .ok (.iconst 0, 1) := dk_3 (dk_at dksX1_isFact_1 4 rfl rfl)
theorem dX1_isFact_29 : decode cX1_isFact 29 = .ok (.ireturn, 1) := dk_172 (dk_at dksX1_isFact_1 5 rfl rfl)
def dkwX8_holding_1 : List UInt8 := [153, 0, 9, 4, 28, 120, 167, 0, 4, 3, 128, 60, 132, 2, 1, 167, 255, 223, 27, 172]
abbrev dktX8_holding_1 : List UInt8 := dkwX8_holding_1 ++ []
def dkwX8_holding_0 : List UInt8 := [3, 60, 3, 61, 28, 42, 180, 0, 92, 162, 0, 31, 27, 42, 180, 0, 50, 28, 50, 180, 0, 130]
abbrev dktX8_holding_0 : List UInt8 := dkwX8_holding_0 ++ dktX8_holding_1
theorem dksX8_holding_0 : cX8_holding.data.toList.drop 0 = dktX8_holding_0 := by decide +kernel
theorem dksX8_holding_1 : cX8_holding.data.toList.drop 22 = dktX8_holding_1 := dk_seg dksX8_holding_0 22 rfl rfl
theorem dX8_holding_0 : decode cX8_holding 0 = .ok (.iconst 0, 1) := dk_3 (dk_at dksX8_holding_0 0 rfl rfl)
theorem dX8_holding_1 : decode cX8_holding 1 = .ok (.istore_n 1, 1) := dk_60 (dk_at dksX8_holding_0 1 rfl rfl)
theorem dX8_holding_2 : decode cX8_holding 2 = .ok (.iconst 0, 1) := dk_3 (dk_at dksX8_holding_0 2 rfl rfl)
theorem dX8_holding_3 : decode cX8_holding 3 = .ok (.istore_n 2, 1) := dk_61 (dk_at dksX8_holding_0 3 rfl rfl)
theorem dX8_holding_4 : decode cX8_holding 4 = .ok (.iload_n 2, 1) := dk_28 (dk_at dksX8_holding_0 4 rfl rfl)
theorem dX8_holding_5 : decode cX8_holding 5 = .ok (.aload_n 0, 1) := dk_42 (dk_at dksX8_holding_0 5 rfl rfl)
theorem dX8_holding_6 : decode cX8_holding 6 = .ok (.getfield 92, 3) := dk_180 0 92 (dk_at dksX8_holding_0 6 rfl rfl)
theorem dX8_holding_9 : decode cX8_holding 9 = .ok (.if_icmp .ge 31, 3) := dk_162 0 31 (dk_at dksX8_holding_0 9 rfl rfl)
theorem dX8_holding_12 : decode cX8_holding 12 = .ok (.iload_n 1, 1) := dk_27 (dk_at dksX8_holding_0 12 rfl rfl)
theorem dX8_holding_13 : decode cX8_holding 13 = .ok (.aload_n 0, 1) := dk_42 (dk_at dksX8_holding_0 13 rfl rfl)
theorem dX8_holding_14 : decode cX8_holding 14 = .ok (.getfield 50, 3) := dk_180 0 50 (dk_at dksX8_holding_0 14 rfl rfl)
theorem dX8_holding_17 : decode cX8_holding 17 = .ok (.iload_n 2, 1) := dk_28 (dk_at dksX8_holding_0 17 rfl rfl)
theorem dX8_holding_18 : decode cX8_holding 18 = .ok (.aaload, 1) := dk_50 (dk_at dksX8_holding_0 18 rfl rfl)
theorem dX8_holding_19 : decode cX8_holding 19 = .ok (.getfield 130, 3) := dk_180 0 130 (dk_at dksX8_holding_0 19 rfl rfl)
theorem dX8_holding_22 : decode cX8_holding 22 = .ok (.ifCond .eq 9, 3) := dk_153 0 9 (dk_at dksX8_holding_1 0 rfl rfl)
theorem dX8_holding_25 : decode cX8_holding 25 = .ok (.iconst 1, 1) := dk_4 (dk_at dksX8_holding_1 3 rfl rfl)
theorem dX8_holding_26 : decode cX8_holding 26 = .ok (.iload_n 2, 1) := dk_28 (dk_at dksX8_holding_1 4 rfl rfl)
theorem dX8_holding_27 : decode cX8_holding 27 = .ok (.ishl, 1) := dk_120 (dk_at dksX8_holding_1 5 rfl rfl)
theorem dX8_holding_28 : decode cX8_holding 28 = .ok (.goto 4, 3) := dk_167 0 4 (dk_at dksX8_holding_1 6 rfl rfl)
theorem dX8_holding_31 : decode cX8_holding 31 = .ok (.iconst 0, 1) := dk_3 (dk_at dksX8_holding_1 9 rfl rfl)
theorem dX8_holding_32 : decode cX8_holding 32 = .ok (.ior, 1) := dk_128 (dk_at dksX8_holding_1 10 rfl rfl)
theorem dX8_holding_33 : decode cX8_holding 33 = .ok (.istore_n 1, 1) := dk_60 (dk_at dksX8_holding_1 11 rfl rfl)
theorem dX8_holding_34 : decode cX8_holding 34 = .ok (.iinc 2 1, 3) := dk_132 2 1 (dk_at dksX8_holding_1 12 rfl rfl)
theorem dX8_holding_37 : decode cX8_holding 37 = .ok (.goto (-33), 3) := dk_167 255 223 (dk_at dksX8_holding_1 15 rfl rfl)
theorem dX8_holding_40 : decode cX8_holding 40 = .ok (.iload_n 1, 1) := dk_27 (dk_at dksX8_holding_1 18 rfl rfl)
theorem dX8_holding_41 : decode cX8_holding 41 = .ok (.ireturn, 1) := dk_172 (dk_at dksX8_holding_1 19 rfl rfl)
def dkwX1_allRules_0 : List UInt8 := [4, 42, 180, 0, 104, 180, 1, 97, 120, 4, 100, 172]
abbrev dktX1_allRules_0 : List UInt8 := dkwX1_allRules_0 ++ []
theorem dksX1_allRules_0 : cX1_allRules.data.toList.drop 0 = dktX1_allRules_0 := by decide +kernel
theorem dX1_allRules_0 : decode cX1_allRules 0 = .ok (.iconst 1, 1) := dk_4 (dk_at dksX1_allRules_0 0 rfl rfl)
theorem dX1_allRules_1 : decode cX1_allRules 1 = .ok (.aload_n 0, 1) := dk_42 (dk_at dksX1_allRules_0 1 rfl rfl)
theorem dX1_allRules_2 : decode cX1_allRules 2 = .ok (.getfield 104, 3) := dk_180 0 104 (dk_at dksX1_allRules_0 2 rfl rfl)
theorem dX1_allRules_5 : decode cX1_allRules 5 = .ok (.getfield 353, 3) := dk_180 1 97 (dk_at dksX1_allRules_0 5 rfl rfl)
theorem dX1_allRules_8 : decode cX1_allRules 8 = .ok (.ishl, 1) := dk_120 (dk_at dksX1_allRules_0 8 rfl rfl)
theorem dX1_allRules_9 : decode cX1_allRules 9 = .ok (.iconst 1, 1) := dk_4 (dk_at dksX1_allRules_0 9 rfl rfl)
theorem dX1_allRules_10 : decode cX1_allRules 10 = .ok (.isub, 1) := dk_100 (dk_at dksX1_allRules_0 10 rfl rfl)
theorem dX1_allRules_11 : decode cX1_allRules 11 = .ok (.ireturn, 1) := dk_172 (dk_at dksX1_allRules_0 11 rfl rfl)
def dkwX22_follows_1 : List UInt8 := [4, 126, 4, 160, 0, 7, 4, 167, 0, 4, 3, 61, 132, 3, 1, 167, 255, 221, 28, 172]
abbrev dktX22_follows_1 : List UInt8 := dkwX22_follows_1 ++ []
def dkwX22_follows_0 : List UInt8 := [4, 61, 3, 62, 29, 42, 180, 0, 15, 162, 0, 33, 28, 153, 0, 21, 27, 42, 180, 0, 9, 29, 46, 122]
abbrev dktX22_follows_0 : List UInt8 := dkwX22_follows_0 ++ dktX22_follows_1
theorem dksX22_follows_0 : cX22_follows.data.toList.drop 0 = dktX22_follows_0 := by decide +kernel
theorem dksX22_follows_1 : cX22_follows.data.toList.drop 24 = dktX22_follows_1 := dk_seg dksX22_follows_0 24 rfl rfl
theorem dX22_follows_0 : decode cX22_follows 0 = .ok (.iconst 1, 1) := dk_4 (dk_at dksX22_follows_0 0 rfl rfl)
theorem dX22_follows_1 : decode cX22_follows 1 = .ok (.istore_n 2, 1) := dk_61 (dk_at dksX22_follows_0 1 rfl rfl)
theorem dX22_follows_2 : decode cX22_follows 2 = .ok (.iconst 0, 1) := dk_3 (dk_at dksX22_follows_0 2 rfl rfl)
theorem dX22_follows_3 : decode cX22_follows 3 = .ok (.istore_n 3, 1) := dk_62 (dk_at dksX22_follows_0 3 rfl rfl)
theorem dX22_follows_4 : decode cX22_follows 4 = .ok (.iload_n 3, 1) := dk_29 (dk_at dksX22_follows_0 4 rfl rfl)
theorem dX22_follows_5 : decode cX22_follows 5 = .ok (.aload_n 0, 1) := dk_42 (dk_at dksX22_follows_0 5 rfl rfl)
theorem dX22_follows_6 : decode cX22_follows 6 = .ok (.getfield 15, 3) := dk_180 0 15 (dk_at dksX22_follows_0 6 rfl rfl)
theorem dX22_follows_9 : decode cX22_follows 9 = .ok (.if_icmp .ge 33, 3) := dk_162 0 33 (dk_at dksX22_follows_0 9 rfl rfl)
theorem dX22_follows_12 : decode cX22_follows 12 = .ok (.iload_n 2, 1) := dk_28 (dk_at dksX22_follows_0 12 rfl rfl)
theorem dX22_follows_13 : decode cX22_follows 13 = .ok (.ifCond .eq 21, 3) := dk_153 0 21 (dk_at dksX22_follows_0 13 rfl rfl)
theorem dX22_follows_16 : decode cX22_follows 16 = .ok (.iload_n 1, 1) := dk_27 (dk_at dksX22_follows_0 16 rfl rfl)
theorem dX22_follows_17 : decode cX22_follows 17 = .ok (.aload_n 0, 1) := dk_42 (dk_at dksX22_follows_0 17 rfl rfl)
theorem dX22_follows_18 : decode cX22_follows 18 = .ok (.getfield 9, 3) := dk_180 0 9 (dk_at dksX22_follows_0 18 rfl rfl)
theorem dX22_follows_21 : decode cX22_follows 21 = .ok (.iload_n 3, 1) := dk_29 (dk_at dksX22_follows_0 21 rfl rfl)
theorem dX22_follows_22 : decode cX22_follows 22 = .ok (.iaload, 1) := dk_46 (dk_at dksX22_follows_0 22 rfl rfl)
theorem dX22_follows_23 : decode cX22_follows 23 = .ok (.ishr, 1) := dk_122 (dk_at dksX22_follows_0 23 rfl rfl)
theorem dX22_follows_24 : decode cX22_follows 24 = .ok (.iconst 1, 1) := dk_4 (dk_at dksX22_follows_1 0 rfl rfl)
theorem dX22_follows_25 : decode cX22_follows 25 = .ok (.iand, 1) := dk_126 (dk_at dksX22_follows_1 1 rfl rfl)
theorem dX22_follows_26 : decode cX22_follows 26 = .ok (.iconst 1, 1) := dk_4 (dk_at dksX22_follows_1 2 rfl rfl)
theorem dX22_follows_27 : decode cX22_follows 27 = .ok (.if_icmp .ne 7, 3) := dk_160 0 7 (dk_at dksX22_follows_1 3 rfl rfl)
theorem dX22_follows_30 : decode cX22_follows 30 = .ok (.iconst 1, 1) := dk_4 (dk_at dksX22_follows_1 6 rfl rfl)
theorem dX22_follows_31 : decode cX22_follows 31 = .ok (.goto 4, 3) := dk_167 0 4 (dk_at dksX22_follows_1 7 rfl rfl)
theorem dX22_follows_34 : decode cX22_follows 34 = .ok (.iconst 0, 1) := dk_3 (dk_at dksX22_follows_1 10 rfl rfl)
theorem dX22_follows_35 : decode cX22_follows 35 = .ok (.istore_n 2, 1) := dk_61 (dk_at dksX22_follows_1 11 rfl rfl)
theorem dX22_follows_36 : decode cX22_follows 36 = .ok (.iinc 3 1, 3) := dk_132 3 1 (dk_at dksX22_follows_1 12 rfl rfl)
theorem dX22_follows_39 : decode cX22_follows 39 = .ok (.goto (-35), 3) := dk_167 255 221 (dk_at dksX22_follows_1 15 rfl rfl)
theorem dX22_follows_42 : decode cX22_follows 42 = .ok (.iload_n 2, 1) := dk_28 (dk_at dksX22_follows_1 18 rfl rfl)
theorem dX22_follows_43 : decode cX22_follows 43 = .ok (.ireturn, 1) := dk_172 (dk_at dksX22_follows_1 19 rfl rfl)
def dkwX8_closure_4 : List UInt8 := [167, 255, 169, 29, 172]
abbrev dktX8_closure_4 : List UInt8 := dkwX8_closure_4 ++ []
def dkwX8_closure_3 : List UInt8 := [4, 42, 180, 0, 56, 21, 5, 50, 180, 0, 123, 120, 128, 62, 4, 54, 4, 132, 5, 1, 167, 255, 183]
abbrev dktX8_closure_3 : List UInt8 := dkwX8_closure_3 ++ dktX8_closure_4
def dkwX8_closure_2 : List UInt8 := [184, 0, 119, 154, 0, 38, 42, 180, 0, 56, 21, 5, 50, 29, 182, 0, 126, 154, 0, 6, 167, 0, 21, 29]
abbrev dktX8_closure_2 : List UInt8 := dkwX8_closure_2 ++ dktX8_closure_3
def dkwX8_closure_1 : List UInt8 := [162, 0, 70, 28, 21, 5, 184, 0, 119, 153, 0, 55, 29, 42, 180, 0, 56, 21, 5, 50, 180, 0, 123]
abbrev dktX8_closure_1 : List UInt8 := dkwX8_closure_1 ++ dktX8_closure_2
def dkwX8_closure_0 : List UInt8 := [27, 62, 4, 54, 4, 21, 4, 153, 0, 88, 3, 54, 4, 3, 54, 5, 21, 5, 42, 180, 0, 116]
abbrev dktX8_closure_0 : List UInt8 := dkwX8_closure_0 ++ dktX8_closure_1
theorem dksX8_closure_0 : cX8_closure.data.toList.drop 0 = dktX8_closure_0 := by decide +kernel
theorem dksX8_closure_1 : cX8_closure.data.toList.drop 22 = dktX8_closure_1 := dk_seg dksX8_closure_0 22 rfl rfl
theorem dksX8_closure_2 : cX8_closure.data.toList.drop 45 = dktX8_closure_2 := dk_seg dksX8_closure_1 23 rfl rfl
theorem dksX8_closure_3 : cX8_closure.data.toList.drop 69 = dktX8_closure_3 := dk_seg dksX8_closure_2 24 rfl rfl
theorem dksX8_closure_4 : cX8_closure.data.toList.drop 92 = dktX8_closure_4 := dk_seg dksX8_closure_3 23 rfl rfl
theorem dX8_closure_0 : decode cX8_closure 0 = .ok (.iload_n 1, 1) := dk_27 (dk_at dksX8_closure_0 0 rfl rfl)
theorem dX8_closure_1 : decode cX8_closure 1 = .ok (.istore_n 3, 1) := dk_62 (dk_at dksX8_closure_0 1 rfl rfl)
theorem dX8_closure_2 : decode cX8_closure 2 = .ok (.iconst 1, 1) := dk_4 (dk_at dksX8_closure_0 2 rfl rfl)
theorem dX8_closure_3 : decode cX8_closure 3 = .ok (.istore 4, 2) := dk_54 4 (dk_at dksX8_closure_0 3 rfl rfl)
theorem dX8_closure_5 : decode cX8_closure 5 = .ok (.iload 4, 2) := dk_21 4 (dk_at dksX8_closure_0 5 rfl rfl)
theorem dX8_closure_7 : decode cX8_closure 7 = .ok (.ifCond .eq 88, 3) := dk_153 0 88 (dk_at dksX8_closure_0 7 rfl rfl)
theorem dX8_closure_10 : decode cX8_closure 10 = .ok (.iconst 0, 1) := dk_3 (dk_at dksX8_closure_0 10 rfl rfl)
theorem dX8_closure_11 : decode cX8_closure 11 = .ok (.istore 4, 2) := dk_54 4 (dk_at dksX8_closure_0 11 rfl rfl)
theorem dX8_closure_13 : decode cX8_closure 13 = .ok (.iconst 0, 1) := dk_3 (dk_at dksX8_closure_0 13 rfl rfl)
theorem dX8_closure_14 : decode cX8_closure 14 = .ok (.istore 5, 2) := dk_54 5 (dk_at dksX8_closure_0 14 rfl rfl)
theorem dX8_closure_16 : decode cX8_closure 16 = .ok (.iload 5, 2) := dk_21 5 (dk_at dksX8_closure_0 16 rfl rfl)
theorem dX8_closure_18 : decode cX8_closure 18 = .ok (.aload_n 0, 1) := dk_42 (dk_at dksX8_closure_0 18 rfl rfl)
theorem dX8_closure_19 : decode cX8_closure 19 = .ok (.getfield 116, 3) := dk_180 0 116 (dk_at dksX8_closure_0 19 rfl rfl)
theorem dX8_closure_22 : decode cX8_closure 22 = .ok (.if_icmp .ge 70, 3) := dk_162 0 70 (dk_at dksX8_closure_1 0 rfl rfl)
theorem dX8_closure_25 : decode cX8_closure 25 = .ok (.iload_n 2, 1) := dk_28 (dk_at dksX8_closure_1 3 rfl rfl)
theorem dX8_closure_26 : decode cX8_closure 26 = .ok (.iload 5, 2) := dk_21 5 (dk_at dksX8_closure_1 4 rfl rfl)
theorem dX8_closure_28 : decode cX8_closure 28 = .ok (.invokestatic 119, 3) := dk_184 0 119 (dk_at dksX8_closure_1 6 rfl rfl)
theorem dX8_closure_31 : decode cX8_closure 31 = .ok (.ifCond .eq 55, 3) := dk_153 0 55 (dk_at dksX8_closure_1 9 rfl rfl)
theorem dX8_closure_34 : decode cX8_closure 34 = .ok (.iload_n 3, 1) := dk_29 (dk_at dksX8_closure_1 12 rfl rfl)
theorem dX8_closure_35 : decode cX8_closure 35 = .ok (.aload_n 0, 1) := dk_42 (dk_at dksX8_closure_1 13 rfl rfl)
theorem dX8_closure_36 : decode cX8_closure 36 = .ok (.getfield 56, 3) := dk_180 0 56 (dk_at dksX8_closure_1 14 rfl rfl)
theorem dX8_closure_39 : decode cX8_closure 39 = .ok (.iload 5, 2) := dk_21 5 (dk_at dksX8_closure_1 17 rfl rfl)
theorem dX8_closure_41 : decode cX8_closure 41 = .ok (.aaload, 1) := dk_50 (dk_at dksX8_closure_1 19 rfl rfl)
theorem dX8_closure_42 : decode cX8_closure 42 = .ok (.getfield 123, 3) := dk_180 0 123 (dk_at dksX8_closure_1 20 rfl rfl)
theorem dX8_closure_45 : decode cX8_closure 45 = .ok (.invokestatic 119, 3) := dk_184 0 119 (dk_at dksX8_closure_2 0 rfl rfl)
theorem dX8_closure_48 : decode cX8_closure 48 = .ok (.ifCond .ne 38, 3) := dk_154 0 38 (dk_at dksX8_closure_2 3 rfl rfl)
theorem dX8_closure_51 : decode cX8_closure 51 = .ok (.aload_n 0, 1) := dk_42 (dk_at dksX8_closure_2 6 rfl rfl)
theorem dX8_closure_52 : decode cX8_closure 52 = .ok (.getfield 56, 3) := dk_180 0 56 (dk_at dksX8_closure_2 7 rfl rfl)
theorem dX8_closure_55 : decode cX8_closure 55 = .ok (.iload 5, 2) := dk_21 5 (dk_at dksX8_closure_2 10 rfl rfl)
theorem dX8_closure_57 : decode cX8_closure 57 = .ok (.aaload, 1) := dk_50 (dk_at dksX8_closure_2 12 rfl rfl)
theorem dX8_closure_58 : decode cX8_closure 58 = .ok (.iload_n 3, 1) := dk_29 (dk_at dksX8_closure_2 13 rfl rfl)
theorem dX8_closure_59 : decode cX8_closure 59 = .ok (.invokevirtual 126, 3) := dk_182 0 126 (dk_at dksX8_closure_2 14 rfl rfl)
theorem dX8_closure_62 : decode cX8_closure 62 = .ok (.ifCond .ne 6, 3) := dk_154 0 6 (dk_at dksX8_closure_2 17 rfl rfl)
theorem dX8_closure_65 : decode cX8_closure 65 = .ok (.goto 21, 3) := dk_167 0 21 (dk_at dksX8_closure_2 20 rfl rfl)
theorem dX8_closure_68 : decode cX8_closure 68 = .ok (.iload_n 3, 1) := dk_29 (dk_at dksX8_closure_2 23 rfl rfl)
theorem dX8_closure_69 : decode cX8_closure 69 = .ok (.iconst 1, 1) := dk_4 (dk_at dksX8_closure_3 0 rfl rfl)
theorem dX8_closure_70 : decode cX8_closure 70 = .ok (.aload_n 0, 1) := dk_42 (dk_at dksX8_closure_3 1 rfl rfl)
theorem dX8_closure_71 : decode cX8_closure 71 = .ok (.getfield 56, 3) := dk_180 0 56 (dk_at dksX8_closure_3 2 rfl rfl)
theorem dX8_closure_74 : decode cX8_closure 74 = .ok (.iload 5, 2) := dk_21 5 (dk_at dksX8_closure_3 5 rfl rfl)
theorem dX8_closure_76 : decode cX8_closure 76 = .ok (.aaload, 1) := dk_50 (dk_at dksX8_closure_3 7 rfl rfl)
theorem dX8_closure_77 : decode cX8_closure 77 = .ok (.getfield 123, 3) := dk_180 0 123 (dk_at dksX8_closure_3 8 rfl rfl)
theorem dX8_closure_80 : decode cX8_closure 80 = .ok (.ishl, 1) := dk_120 (dk_at dksX8_closure_3 11 rfl rfl)
theorem dX8_closure_81 : decode cX8_closure 81 = .ok (.ior, 1) := dk_128 (dk_at dksX8_closure_3 12 rfl rfl)
theorem dX8_closure_82 : decode cX8_closure 82 = .ok (.istore_n 3, 1) := dk_62 (dk_at dksX8_closure_3 13 rfl rfl)
theorem dX8_closure_83 : decode cX8_closure 83 = .ok (.iconst 1, 1) := dk_4 (dk_at dksX8_closure_3 14 rfl rfl)
theorem dX8_closure_84 : decode cX8_closure 84 = .ok (.istore 4, 2) := dk_54 4 (dk_at dksX8_closure_3 15 rfl rfl)
theorem dX8_closure_86 : decode cX8_closure 86 = .ok (.iinc 5 1, 3) := dk_132 5 1 (dk_at dksX8_closure_3 17 rfl rfl)
theorem dX8_closure_89 : decode cX8_closure 89 = .ok (.goto (-73), 3) := dk_167 255 183 (dk_at dksX8_closure_3 20 rfl rfl)
theorem dX8_closure_92 : decode cX8_closure 92 = .ok (.goto (-87), 3) := dk_167 255 169 (dk_at dksX8_closure_4 0 rfl rfl)
theorem dX8_closure_95 : decode cX8_closure 95 = .ok (.iload_n 3, 1) := dk_29 (dk_at dksX8_closure_4 3 rfl rfl)
theorem dX8_closure_96 : decode cX8_closure 96 = .ok (.ireturn, 1) := dk_172 (dk_at dksX8_closure_4 4 rfl rfl)
def dkwX1_doesFollow_0 : List UInt8 := [42, 180, 0, 104, 28, 29, 182, 1, 100, 27, 184, 0, 203, 172]
abbrev dktX1_doesFollow_0 : List UInt8 := dkwX1_doesFollow_0 ++ []
theorem dksX1_doesFollow_0 : cX1_doesFollow.data.toList.drop 0 = dktX1_doesFollow_0 := by decide +kernel
theorem dX1_doesFollow_0 : decode cX1_doesFollow 0 = .ok (.aload_n 0, 1) := dk_42 (dk_at dksX1_doesFollow_0 0 rfl rfl)
theorem dX1_doesFollow_1 : decode cX1_doesFollow 1 = .ok (.getfield 104, 3) := dk_180 0 104 (dk_at dksX1_doesFollow_0 1 rfl rfl)
theorem dX1_doesFollow_4 : decode cX1_doesFollow 4 = .ok (.iload_n 2, 1) := dk_28 (dk_at dksX1_doesFollow_0 4 rfl rfl)
theorem dX1_doesFollow_5 : decode cX1_doesFollow 5 = .ok (.iload_n 3, 1) := dk_29 (dk_at dksX1_doesFollow_0 5 rfl rfl)
theorem dX1_doesFollow_6 : decode cX1_doesFollow 6 = .ok (.invokevirtual 356, 3) := dk_182 1 100 (dk_at dksX1_doesFollow_0 6 rfl rfl)
theorem dX1_doesFollow_9 : decode cX1_doesFollow 9 = .ok (.iload_n 1, 1) := dk_27 (dk_at dksX1_doesFollow_0 9 rfl rfl)
theorem dX1_doesFollow_10 : decode cX1_doesFollow 10 = .ok (.invokestatic 203, 3) := dk_184 0 203 (dk_at dksX1_doesFollow_0 10 rfl rfl)
theorem dX1_doesFollow_13 : decode cX1_doesFollow 13 = .ok (.ireturn, 1) := dk_172 (dk_at dksX1_doesFollow_0 13 rfl rfl)
def dkwX1_follows_1 : List UInt8 := [182, 1, 109, 182, 1, 112, 153, 0, 7, 4, 167, 0, 12, 3, 167, 0, 8, 42, 4, 182, 0, 94, 172]
abbrev dktX1_follows_1 : List UInt8 := dkwX1_follows_1 ++ []
def dkwX1_follows_0 : List UInt8 := [42, 182, 0, 80, 42, 27, 182, 1, 103, 153, 0, 30, 42, 27, 42, 180, 0, 104, 182, 1, 106, 42]
abbrev dktX1_follows_0 : List UInt8 := dkwX1_follows_0 ++ dktX1_follows_1
theorem dksX1_follows_0 : cX1_follows.data.toList.drop 0 = dktX1_follows_0 := by decide +kernel
theorem dksX1_follows_1 : cX1_follows.data.toList.drop 22 = dktX1_follows_1 := dk_seg dksX1_follows_0 22 rfl rfl
theorem dX1_follows_0 : decode cX1_follows 0 = .ok (.aload_n 0, 1) := dk_42 (dk_at dksX1_follows_0 0 rfl rfl)
theorem dX1_follows_1 : decode cX1_follows 1 = .ok (.invokevirtual 80, 3) := dk_182 0 80 (dk_at dksX1_follows_0 1 rfl rfl)
theorem dX1_follows_4 : decode cX1_follows 4 = .ok (.aload_n 0, 1) := dk_42 (dk_at dksX1_follows_0 4 rfl rfl)
theorem dX1_follows_5 : decode cX1_follows 5 = .ok (.iload_n 1, 1) := dk_27 (dk_at dksX1_follows_0 5 rfl rfl)
theorem dX1_follows_6 : decode cX1_follows 6 = .ok (.invokevirtual 359, 3) := dk_182 1 103 (dk_at dksX1_follows_0 6 rfl rfl)
theorem dX1_follows_9 : decode cX1_follows 9 = .ok (.ifCond .eq 30, 3) := dk_153 0 30 (dk_at dksX1_follows_0 9 rfl rfl)
theorem dX1_follows_12 : decode cX1_follows 12 = .ok (.aload_n 0, 1) := dk_42 (dk_at dksX1_follows_0 12 rfl rfl)
theorem dX1_follows_13 : decode cX1_follows 13 = .ok (.iload_n 1, 1) := dk_27 (dk_at dksX1_follows_0 13 rfl rfl)
theorem dX1_follows_14 : decode cX1_follows 14 = .ok (.aload_n 0, 1) := dk_42 (dk_at dksX1_follows_0 14 rfl rfl)
theorem dX1_follows_15 : decode cX1_follows 15 = .ok (.getfield 104, 3) := dk_180 0 104 (dk_at dksX1_follows_0 15 rfl rfl)
theorem dX1_follows_18 : decode cX1_follows 18 = .ok (.invokevirtual 362, 3) := dk_182 1 106 (dk_at dksX1_follows_0 18 rfl rfl)
theorem dX1_follows_21 : decode cX1_follows 21 = .ok (.aload_n 0, 1) := dk_42 (dk_at dksX1_follows_0 21 rfl rfl)
theorem dX1_follows_22 : decode cX1_follows 22 = .ok (.invokevirtual 365, 3) := dk_182 1 109 (dk_at dksX1_follows_1 0 rfl rfl)
theorem dX1_follows_25 : decode cX1_follows 25 = .ok (.invokevirtual 368, 3) := dk_182 1 112 (dk_at dksX1_follows_1 3 rfl rfl)
theorem dX1_follows_28 : decode cX1_follows 28 = .ok (.ifCond .eq 7, 3) := dk_153 0 7 (dk_at dksX1_follows_1 6 rfl rfl)
theorem dX1_follows_31 : decode cX1_follows 31 = .ok (.iconst 1, 1) := dk_4 (dk_at dksX1_follows_1 9 rfl rfl)
theorem dX1_follows_32 : decode cX1_follows 32 = .ok (.goto 12, 3) := dk_167 0 12 (dk_at dksX1_follows_1 10 rfl rfl)
theorem dX1_follows_35 : decode cX1_follows 35 = .ok (.iconst 0, 1) := dk_3 (dk_at dksX1_follows_1 13 rfl rfl)
theorem dX1_follows_36 : decode cX1_follows 36 = .ok (.goto 8, 3) := dk_167 0 8 (dk_at dksX1_follows_1 14 rfl rfl)
theorem dX1_follows_39 : decode cX1_follows 39 = .ok (.aload_n 0, 1) := dk_42 (dk_at dksX1_follows_1 17 rfl rfl)
theorem dX1_follows_40 : decode cX1_follows 40 = .ok (.iconst 1, 1) := dk_4 (dk_at dksX1_follows_1 18 rfl rfl)
theorem dX1_follows_41 : decode cX1_follows 41 = .ok (.invokevirtual 94, 3) := dk_182 0 94 (dk_at dksX1_follows_1 19 rfl rfl)
theorem dX1_follows_44 : decode cX1_follows 44 = .ok (.ireturn, 1) := dk_172 (dk_at dksX1_follows_1 22 rfl rfl)
def dkwX7_isFact_1 : List UInt8 := [167, 0, 4, 3, 172]
abbrev dktX7_isFact_1 : List UInt8 := dkwX7_isFact_1 ++ []
def dkwX7_isFact_0 : List UInt8 := [42, 180, 1, 186, 198, 0, 22, 27, 155, 0, 18, 27, 42, 180, 1, 186, 180, 1, 132, 162, 0, 7, 4]
abbrev dktX7_isFact_0 : List UInt8 := dkwX7_isFact_0 ++ dktX7_isFact_1
theorem dksX7_isFact_0 : cX7_isFact.data.toList.drop 0 = dktX7_isFact_0 := by decide +kernel
theorem dksX7_isFact_1 : cX7_isFact.data.toList.drop 23 = dktX7_isFact_1 := dk_seg dksX7_isFact_0 23 rfl rfl
theorem dX7_isFact_0 : decode cX7_isFact 0 = .ok (.aload_n 0, 1) := dk_42 (dk_at dksX7_isFact_0 0 rfl rfl)
theorem dX7_isFact_1 : decode cX7_isFact 1 = .ok (.getfield 442, 3) := dk_180 1 186 (dk_at dksX7_isFact_0 1 rfl rfl)
theorem dX7_isFact_4 : decode cX7_isFact 4 = .ok (.ifnull 22, 3) := dk_198 0 22 (dk_at dksX7_isFact_0 4 rfl rfl)
theorem dX7_isFact_7 : decode cX7_isFact 7 = .ok (.iload_n 1, 1) := dk_27 (dk_at dksX7_isFact_0 7 rfl rfl)
theorem dX7_isFact_8 : decode cX7_isFact 8 = .ok (.ifCond .lt 18, 3) := dk_155 0 18 (dk_at dksX7_isFact_0 8 rfl rfl)
theorem dX7_isFact_11 : decode cX7_isFact 11 = .ok (.iload_n 1, 1) := dk_27 (dk_at dksX7_isFact_0 11 rfl rfl)
theorem dX7_isFact_12 : decode cX7_isFact 12 = .ok (.aload_n 0, 1) := dk_42 (dk_at dksX7_isFact_0 12 rfl rfl)
theorem dX7_isFact_13 : decode cX7_isFact 13 = .ok (.getfield 442, 3) := dk_180 1 186 (dk_at dksX7_isFact_0 13 rfl rfl)
theorem dX7_isFact_16 : decode cX7_isFact 16 = .ok (.getfield 388, 3) := dk_180 1 132 (dk_at dksX7_isFact_0 16 rfl rfl)
theorem dX7_isFact_19 : decode cX7_isFact 19 = .ok (.if_icmp .ge 7, 3) := dk_162 0 7 (dk_at dksX7_isFact_0 19 rfl rfl)
theorem dX7_isFact_22 : decode cX7_isFact 22 = .ok (.iconst 1, 1) := dk_4 (dk_at dksX7_isFact_0 22 rfl rfl)
theorem dX7_isFact_23 : decode cX7_isFact 23 = .ok (.goto 4, 3) := dk_167 0 4 (dk_at dksX7_isFact_1 0 rfl rfl)
theorem dX7_isFact_26 : decode cX7_isFact 26 = .ok (.iconst 0, 1) := dk_3 (dk_at dksX7_isFact_1 3 rfl rfl)
theorem dX7_isFact_27 : decode cX7_isFact 27 = .ok (.ireturn, 1) := dk_172 (dk_at dksX7_isFact_1 4 rfl rfl)
def dkwX7_following_3 : List UInt8 := [167, 255, 203, 29, 21, 5, 159, 0, 7, 4, 167, 0, 4, 3, 54, 4, 167, 255, 176, 29, 172]
abbrev dktX7_following_3 : List UInt8 := dkwX7_following_3 ++ []
def dkwX7_following_2 : List UInt8 := [130, 126, 154, 0, 18, 29, 4, 42, 180, 1, 186, 180, 1, 143, 21, 6, 46, 120, 128, 62, 132, 6, 1]
abbrev dktX7_following_2 : List UInt8 := dkwX7_following_2 ++ dktX7_following_3
def dkwX7_following_1 : List UInt8 := [180, 1, 137, 162, 0, 47, 21, 6, 28, 159, 0, 35, 42, 180, 1, 186, 180, 1, 146, 21, 6, 46, 29, 2]
abbrev dktX7_following_1 : List UInt8 := dkwX7_following_1 ++ dktX7_following_2
def dkwX7_following_0 : List UInt8 := [27, 62, 4, 54, 4, 21, 4, 153, 0, 81, 29, 54, 5, 3, 54, 6, 21, 6, 42, 180, 1, 186]
abbrev dktX7_following_0 : List UInt8 := dkwX7_following_0 ++ dktX7_following_1
theorem dksX7_following_0 : cX7_following.data.toList.drop 0 = dktX7_following_0 := by decide +kernel
theorem dksX7_following_1 : cX7_following.data.toList.drop 22 = dktX7_following_1 := dk_seg dksX7_following_0 22 rfl rfl
theorem dksX7_following_2 : cX7_following.data.toList.drop 46 = dktX7_following_2 := dk_seg dksX7_following_1 24 rfl rfl
theorem dksX7_following_3 : cX7_following.data.toList.drop 69 = dktX7_following_3 := dk_seg dksX7_following_2 23 rfl rfl
theorem dX7_following_0 : decode cX7_following 0 = .ok (.iload_n 1, 1) := dk_27 (dk_at dksX7_following_0 0 rfl rfl)
theorem dX7_following_1 : decode cX7_following 1 = .ok (.istore_n 3, 1) := dk_62 (dk_at dksX7_following_0 1 rfl rfl)
theorem dX7_following_2 : decode cX7_following 2 = .ok (.iconst 1, 1) := dk_4 (dk_at dksX7_following_0 2 rfl rfl)
theorem dX7_following_3 : decode cX7_following 3 = .ok (.istore 4, 2) := dk_54 4 (dk_at dksX7_following_0 3 rfl rfl)
theorem dX7_following_5 : decode cX7_following 5 = .ok (.iload 4, 2) := dk_21 4 (dk_at dksX7_following_0 5 rfl rfl)
theorem dX7_following_7 : decode cX7_following 7 = .ok (.ifCond .eq 81, 3) := dk_153 0 81 (dk_at dksX7_following_0 7 rfl rfl)
theorem dX7_following_10 : decode cX7_following 10 = .ok (.iload_n 3, 1) := dk_29 (dk_at dksX7_following_0 10 rfl rfl)
theorem dX7_following_11 : decode cX7_following 11 = .ok (.istore 5, 2) := dk_54 5 (dk_at dksX7_following_0 11 rfl rfl)
theorem dX7_following_13 : decode cX7_following 13 = .ok (.iconst 0, 1) := dk_3 (dk_at dksX7_following_0 13 rfl rfl)
theorem dX7_following_14 : decode cX7_following 14 = .ok (.istore 6, 2) := dk_54 6 (dk_at dksX7_following_0 14 rfl rfl)
theorem dX7_following_16 : decode cX7_following 16 = .ok (.iload 6, 2) := dk_21 6 (dk_at dksX7_following_0 16 rfl rfl)
theorem dX7_following_18 : decode cX7_following 18 = .ok (.aload_n 0, 1) := dk_42 (dk_at dksX7_following_0 18 rfl rfl)
theorem dX7_following_19 : decode cX7_following 19 = .ok (.getfield 442, 3) := dk_180 1 186 (dk_at dksX7_following_0 19 rfl rfl)
theorem dX7_following_22 : decode cX7_following 22 = .ok (.getfield 393, 3) := dk_180 1 137 (dk_at dksX7_following_1 0 rfl rfl)
theorem dX7_following_25 : decode cX7_following 25 = .ok (.if_icmp .ge 47, 3) := dk_162 0 47 (dk_at dksX7_following_1 3 rfl rfl)
theorem dX7_following_28 : decode cX7_following 28 = .ok (.iload 6, 2) := dk_21 6 (dk_at dksX7_following_1 6 rfl rfl)
theorem dX7_following_30 : decode cX7_following 30 = .ok (.iload_n 2, 1) := dk_28 (dk_at dksX7_following_1 8 rfl rfl)
theorem dX7_following_31 : decode cX7_following 31 = .ok (.if_icmp .eq 35, 3) := dk_159 0 35 (dk_at dksX7_following_1 9 rfl rfl)
theorem dX7_following_34 : decode cX7_following 34 = .ok (.aload_n 0, 1) := dk_42 (dk_at dksX7_following_1 12 rfl rfl)
theorem dX7_following_35 : decode cX7_following 35 = .ok (.getfield 442, 3) := dk_180 1 186 (dk_at dksX7_following_1 13 rfl rfl)
theorem dX7_following_38 : decode cX7_following 38 = .ok (.getfield 402, 3) := dk_180 1 146 (dk_at dksX7_following_1 16 rfl rfl)
theorem dX7_following_41 : decode cX7_following 41 = .ok (.iload 6, 2) := dk_21 6 (dk_at dksX7_following_1 19 rfl rfl)
theorem dX7_following_43 : decode cX7_following 43 = .ok (.iaload, 1) := dk_46 (dk_at dksX7_following_1 21 rfl rfl)
theorem dX7_following_44 : decode cX7_following 44 = .ok (.iload_n 3, 1) := dk_29 (dk_at dksX7_following_1 22 rfl rfl)
theorem dX7_following_45 : decode cX7_following 45 = .ok (.iconst (-1), 1) := dk_2 (dk_at dksX7_following_1 23 rfl rfl)
theorem dX7_following_46 : decode cX7_following 46 = .ok (.ixor, 1) := dk_130 (dk_at dksX7_following_2 0 rfl rfl)
theorem dX7_following_47 : decode cX7_following 47 = .ok (.iand, 1) := dk_126 (dk_at dksX7_following_2 1 rfl rfl)
theorem dX7_following_48 : decode cX7_following 48 = .ok (.ifCond .ne 18, 3) := dk_154 0 18 (dk_at dksX7_following_2 2 rfl rfl)
theorem dX7_following_51 : decode cX7_following 51 = .ok (.iload_n 3, 1) := dk_29 (dk_at dksX7_following_2 5 rfl rfl)
theorem dX7_following_52 : decode cX7_following 52 = .ok (.iconst 1, 1) := dk_4 (dk_at dksX7_following_2 6 rfl rfl)
theorem dX7_following_53 : decode cX7_following 53 = .ok (.aload_n 0, 1) := dk_42 (dk_at dksX7_following_2 7 rfl rfl)
theorem dX7_following_54 : decode cX7_following 54 = .ok (.getfield 442, 3) := dk_180 1 186 (dk_at dksX7_following_2 8 rfl rfl)
theorem dX7_following_57 : decode cX7_following 57 = .ok (.getfield 399, 3) := dk_180 1 143 (dk_at dksX7_following_2 11 rfl rfl)
theorem dX7_following_60 : decode cX7_following 60 = .ok (.iload 6, 2) := dk_21 6 (dk_at dksX7_following_2 14 rfl rfl)
theorem dX7_following_62 : decode cX7_following 62 = .ok (.iaload, 1) := dk_46 (dk_at dksX7_following_2 16 rfl rfl)
theorem dX7_following_63 : decode cX7_following 63 = .ok (.ishl, 1) := dk_120 (dk_at dksX7_following_2 17 rfl rfl)
theorem dX7_following_64 : decode cX7_following 64 = .ok (.ior, 1) := dk_128 (dk_at dksX7_following_2 18 rfl rfl)
theorem dX7_following_65 : decode cX7_following 65 = .ok (.istore_n 3, 1) := dk_62 (dk_at dksX7_following_2 19 rfl rfl)
theorem dX7_following_66 : decode cX7_following 66 = .ok (.iinc 6 1, 3) := dk_132 6 1 (dk_at dksX7_following_2 20 rfl rfl)
theorem dX7_following_69 : decode cX7_following 69 = .ok (.goto (-53), 3) := dk_167 255 203 (dk_at dksX7_following_3 0 rfl rfl)
theorem dX7_following_72 : decode cX7_following 72 = .ok (.iload_n 3, 1) := dk_29 (dk_at dksX7_following_3 3 rfl rfl)
theorem dX7_following_73 : decode cX7_following 73 = .ok (.iload 5, 2) := dk_21 5 (dk_at dksX7_following_3 4 rfl rfl)
theorem dX7_following_75 : decode cX7_following 75 = .ok (.if_icmp .eq 7, 3) := dk_159 0 7 (dk_at dksX7_following_3 6 rfl rfl)
theorem dX7_following_78 : decode cX7_following 78 = .ok (.iconst 1, 1) := dk_4 (dk_at dksX7_following_3 9 rfl rfl)
theorem dX7_following_79 : decode cX7_following 79 = .ok (.goto 4, 3) := dk_167 0 4 (dk_at dksX7_following_3 10 rfl rfl)
theorem dX7_following_82 : decode cX7_following 82 = .ok (.iconst 0, 1) := dk_3 (dk_at dksX7_following_3 13 rfl rfl)
theorem dX7_following_83 : decode cX7_following 83 = .ok (.istore 4, 2) := dk_54 4 (dk_at dksX7_following_3 14 rfl rfl)
theorem dX7_following_85 : decode cX7_following 85 = .ok (.goto (-80), 3) := dk_167 255 176 (dk_at dksX7_following_3 16 rfl rfl)
theorem dX7_following_88 : decode cX7_following 88 = .ok (.iload_n 3, 1) := dk_29 (dk_at dksX7_following_3 19 rfl rfl)
theorem dX7_following_89 : decode cX7_following 89 = .ok (.ireturn, 1) := dk_172 (dk_at dksX7_following_3 20 rfl rfl)
def dkwX7_followsNow_0 : List UInt8 := [42, 42, 180, 1, 186, 180, 1, 135, 2, 182, 2, 64, 27, 184, 1, 110, 172]
abbrev dktX7_followsNow_0 : List UInt8 := dkwX7_followsNow_0 ++ []
theorem dksX7_followsNow_0 : cX7_followsNow.data.toList.drop 0 = dktX7_followsNow_0 := by decide +kernel
theorem dX7_followsNow_0 : decode cX7_followsNow 0 = .ok (.aload_n 0, 1) := dk_42 (dk_at dksX7_followsNow_0 0 rfl rfl)
theorem dX7_followsNow_1 : decode cX7_followsNow 1 = .ok (.aload_n 0, 1) := dk_42 (dk_at dksX7_followsNow_0 1 rfl rfl)
theorem dX7_followsNow_2 : decode cX7_followsNow 2 = .ok (.getfield 442, 3) := dk_180 1 186 (dk_at dksX7_followsNow_0 2 rfl rfl)
theorem dX7_followsNow_5 : decode cX7_followsNow 5 = .ok (.getfield 391, 3) := dk_180 1 135 (dk_at dksX7_followsNow_0 5 rfl rfl)
theorem dX7_followsNow_8 : decode cX7_followsNow 8 = .ok (.iconst (-1), 1) := dk_2 (dk_at dksX7_followsNow_0 8 rfl rfl)
theorem dX7_followsNow_9 : decode cX7_followsNow 9 = .ok (.invokevirtual 576, 3) := dk_182 2 64 (dk_at dksX7_followsNow_0 9 rfl rfl)
theorem dX7_followsNow_12 : decode cX7_followsNow 12 = .ok (.iload_n 1, 1) := dk_27 (dk_at dksX7_followsNow_0 12 rfl rfl)
theorem dX7_followsNow_13 : decode cX7_followsNow 13 = .ok (.invokestatic 366, 3) := dk_184 1 110 (dk_at dksX7_followsNow_0 13 rfl rfl)
theorem dX7_followsNow_16 : decode cX7_followsNow 16 = .ok (.ireturn, 1) := dk_172 (dk_at dksX7_followsNow_0 16 rfl rfl)
def dkwX7_follows_1 : List UInt8 := [167, 0, 4, 3, 182, 0, 76, 167, 0, 8, 42, 4, 182, 0, 72, 172]
abbrev dktX7_follows_1 : List UInt8 := dkwX7_follows_1 ++ []
def dkwX7_follows_0 : List UInt8 := [42, 3, 181, 0, 66, 42, 27, 182, 2, 67, 153, 0, 23, 42, 42, 27, 182, 2, 70, 153, 0, 7, 4]
abbrev dktX7_follows_0 : List UInt8 := dkwX7_follows_0 ++ dktX7_follows_1
theorem dksX7_follows_0 : cX7_follows.data.toList.drop 0 = dktX7_follows_0 := by decide +kernel
theorem dksX7_follows_1 : cX7_follows.data.toList.drop 23 = dktX7_follows_1 := dk_seg dksX7_follows_0 23 rfl rfl
theorem dX7_follows_0 : decode cX7_follows 0 = .ok (.aload_n 0, 1) := dk_42 (dk_at dksX7_follows_0 0 rfl rfl)
theorem dX7_follows_1 : decode cX7_follows 1 = .ok (.iconst 0, 1) := dk_3 (dk_at dksX7_follows_0 1 rfl rfl)
theorem dX7_follows_2 : decode cX7_follows 2 = .ok (.putfield 66, 3) := dk_181 0 66 (dk_at dksX7_follows_0 2 rfl rfl)
theorem dX7_follows_5 : decode cX7_follows 5 = .ok (.aload_n 0, 1) := dk_42 (dk_at dksX7_follows_0 5 rfl rfl)
theorem dX7_follows_6 : decode cX7_follows 6 = .ok (.iload_n 1, 1) := dk_27 (dk_at dksX7_follows_0 6 rfl rfl)
theorem dX7_follows_7 : decode cX7_follows 7 = .ok (.invokevirtual 579, 3) := dk_182 2 67 (dk_at dksX7_follows_0 7 rfl rfl)
theorem dX7_follows_10 : decode cX7_follows 10 = .ok (.ifCond .eq 23, 3) := dk_153 0 23 (dk_at dksX7_follows_0 10 rfl rfl)
theorem dX7_follows_13 : decode cX7_follows 13 = .ok (.aload_n 0, 1) := dk_42 (dk_at dksX7_follows_0 13 rfl rfl)
theorem dX7_follows_14 : decode cX7_follows 14 = .ok (.aload_n 0, 1) := dk_42 (dk_at dksX7_follows_0 14 rfl rfl)
theorem dX7_follows_15 : decode cX7_follows 15 = .ok (.iload_n 1, 1) := dk_27 (dk_at dksX7_follows_0 15 rfl rfl)
theorem dX7_follows_16 : decode cX7_follows 16 = .ok (.invokevirtual 582, 3) := dk_182 2 70 (dk_at dksX7_follows_0 16 rfl rfl)
theorem dX7_follows_19 : decode cX7_follows 19 = .ok (.ifCond .eq 7, 3) := dk_153 0 7 (dk_at dksX7_follows_0 19 rfl rfl)
theorem dX7_follows_22 : decode cX7_follows 22 = .ok (.iconst 1, 1) := dk_4 (dk_at dksX7_follows_0 22 rfl rfl)
theorem dX7_follows_23 : decode cX7_follows 23 = .ok (.goto 4, 3) := dk_167 0 4 (dk_at dksX7_follows_1 0 rfl rfl)
theorem dX7_follows_26 : decode cX7_follows 26 = .ok (.iconst 0, 1) := dk_3 (dk_at dksX7_follows_1 3 rfl rfl)
theorem dX7_follows_27 : decode cX7_follows 27 = .ok (.invokevirtual 76, 3) := dk_182 0 76 (dk_at dksX7_follows_1 4 rfl rfl)
theorem dX7_follows_30 : decode cX7_follows 30 = .ok (.goto 8, 3) := dk_167 0 8 (dk_at dksX7_follows_1 7 rfl rfl)
theorem dX7_follows_33 : decode cX7_follows 33 = .ok (.aload_n 0, 1) := dk_42 (dk_at dksX7_follows_1 10 rfl rfl)
theorem dX7_follows_34 : decode cX7_follows 34 = .ok (.iconst 1, 1) := dk_4 (dk_at dksX7_follows_1 11 rfl rfl)
theorem dX7_follows_35 : decode cX7_follows 35 = .ok (.invokevirtual 72, 3) := dk_182 0 72 (dk_at dksX7_follows_1 12 rfl rfl)
theorem dX7_follows_38 : decode cX7_follows 38 = .ok (.ireturn, 1) := dk_172 (dk_at dksX7_follows_1 15 rfl rfl)
def dkwX1_isRight_3 : List UInt8 := [3, 62, 132, 4, 1, 167, 255, 197, 29, 172]
abbrev dktX1_isRight_3 : List UInt8 := dkwX1_isRight_3 ++ []
def dkwX1_isRight_2 : List UInt8 := [160, 0, 24, 42, 180, 0, 104, 180, 1, 125, 21, 4, 50, 28, 182, 1, 134, 153, 0, 7, 4, 167, 0, 4]
abbrev dktX1_isRight_2 : List UInt8 := dkwX1_isRight_2 ++ dktX1_isRight_3
def dkwX1_isRight_1 : List UInt8 := [180, 1, 97, 162, 0, 53, 29, 154, 0, 37, 42, 180, 0, 104, 180, 1, 125, 21, 4, 50, 180, 1, 129, 27]
abbrev dktX1_isRight_1 : List UInt8 := dkwX1_isRight_1 ++ dktX1_isRight_2
def dkwX1_isRight_0 : List UInt8 := [42, 180, 0, 104, 180, 1, 115, 27, 50, 180, 1, 119, 62, 3, 54, 4, 21, 4, 42, 180, 0, 104]
abbrev dktX1_isRight_0 : List UInt8 := dkwX1_isRight_0 ++ dktX1_isRight_1
theorem dksX1_isRight_0 : cX1_isRight.data.toList.drop 0 = dktX1_isRight_0 := by decide +kernel
theorem dksX1_isRight_1 : cX1_isRight.data.toList.drop 22 = dktX1_isRight_1 := dk_seg dksX1_isRight_0 22 rfl rfl
theorem dksX1_isRight_2 : cX1_isRight.data.toList.drop 46 = dktX1_isRight_2 := dk_seg dksX1_isRight_1 24 rfl rfl
theorem dksX1_isRight_3 : cX1_isRight.data.toList.drop 70 = dktX1_isRight_3 := dk_seg dksX1_isRight_2 24 rfl rfl
theorem dX1_isRight_0 : decode cX1_isRight 0 = .ok (.aload_n 0, 1) := dk_42 (dk_at dksX1_isRight_0 0 rfl rfl)
theorem dX1_isRight_1 : decode cX1_isRight 1 = .ok (.getfield 104, 3) := dk_180 0 104 (dk_at dksX1_isRight_0 1 rfl rfl)
theorem dX1_isRight_4 : decode cX1_isRight 4 = .ok (.getfield 371, 3) := dk_180 1 115 (dk_at dksX1_isRight_0 4 rfl rfl)
theorem dX1_isRight_7 : decode cX1_isRight 7 = .ok (.iload_n 1, 1) := dk_27 (dk_at dksX1_isRight_0 7 rfl rfl)
theorem dX1_isRight_8 : decode cX1_isRight 8 = .ok (.aaload, 1) := dk_50 (dk_at dksX1_isRight_0 8 rfl rfl)
theorem dX1_isRight_9 : decode cX1_isRight 9 = .ok (.getfield 375, 3) := dk_180 1 119 (dk_at dksX1_isRight_0 9 rfl rfl)
theorem dX1_isRight_12 : decode cX1_isRight 12 = .ok (.istore_n 3, 1) := dk_62 (dk_at dksX1_isRight_0 12 rfl rfl)
theorem dX1_isRight_13 : decode cX1_isRight 13 = .ok (.iconst 0, 1) := dk_3 (dk_at dksX1_isRight_0 13 rfl rfl)
theorem dX1_isRight_14 : decode cX1_isRight 14 = .ok (.istore 4, 2) := dk_54 4 (dk_at dksX1_isRight_0 14 rfl rfl)
theorem dX1_isRight_16 : decode cX1_isRight 16 = .ok (.iload 4, 2) := dk_21 4 (dk_at dksX1_isRight_0 16 rfl rfl)
theorem dX1_isRight_18 : decode cX1_isRight 18 = .ok (.aload_n 0, 1) := dk_42 (dk_at dksX1_isRight_0 18 rfl rfl)
theorem dX1_isRight_19 : decode cX1_isRight 19 = .ok (.getfield 104, 3) := dk_180 0 104 (dk_at dksX1_isRight_0 19 rfl rfl)
theorem dX1_isRight_22 : decode cX1_isRight 22 = .ok (.getfield 353, 3) := dk_180 1 97 (dk_at dksX1_isRight_1 0 rfl rfl)
theorem dX1_isRight_25 : decode cX1_isRight 25 = .ok (.if_icmp .ge 53, 3) := dk_162 0 53 (dk_at dksX1_isRight_1 3 rfl rfl)
theorem dX1_isRight_28 : decode cX1_isRight 28 = .ok (.iload_n 3, 1) := dk_29 (dk_at dksX1_isRight_1 6 rfl rfl)
theorem dX1_isRight_29 : decode cX1_isRight 29 = .ok (.ifCond .ne 37, 3) := dk_154 0 37 (dk_at dksX1_isRight_1 7 rfl rfl)
theorem dX1_isRight_32 : decode cX1_isRight 32 = .ok (.aload_n 0, 1) := dk_42 (dk_at dksX1_isRight_1 10 rfl rfl)
theorem dX1_isRight_33 : decode cX1_isRight 33 = .ok (.getfield 104, 3) := dk_180 0 104 (dk_at dksX1_isRight_1 11 rfl rfl)
theorem dX1_isRight_36 : decode cX1_isRight 36 = .ok (.getfield 381, 3) := dk_180 1 125 (dk_at dksX1_isRight_1 14 rfl rfl)
theorem dX1_isRight_39 : decode cX1_isRight 39 = .ok (.iload 4, 2) := dk_21 4 (dk_at dksX1_isRight_1 17 rfl rfl)
theorem dX1_isRight_41 : decode cX1_isRight 41 = .ok (.aaload, 1) := dk_50 (dk_at dksX1_isRight_1 19 rfl rfl)
theorem dX1_isRight_42 : decode cX1_isRight 42 = .ok (.getfield 385, 3) := dk_180 1 129 (dk_at dksX1_isRight_1 20 rfl rfl)
theorem dX1_isRight_45 : decode cX1_isRight 45 = .ok (.iload_n 1, 1) := dk_27 (dk_at dksX1_isRight_1 23 rfl rfl)
theorem dX1_isRight_46 : decode cX1_isRight 46 = .ok (.if_icmp .ne 24, 3) := dk_160 0 24 (dk_at dksX1_isRight_2 0 rfl rfl)
theorem dX1_isRight_49 : decode cX1_isRight 49 = .ok (.aload_n 0, 1) := dk_42 (dk_at dksX1_isRight_2 3 rfl rfl)
theorem dX1_isRight_50 : decode cX1_isRight 50 = .ok (.getfield 104, 3) := dk_180 0 104 (dk_at dksX1_isRight_2 4 rfl rfl)
theorem dX1_isRight_53 : decode cX1_isRight 53 = .ok (.getfield 381, 3) := dk_180 1 125 (dk_at dksX1_isRight_2 7 rfl rfl)
theorem dX1_isRight_56 : decode cX1_isRight 56 = .ok (.iload 4, 2) := dk_21 4 (dk_at dksX1_isRight_2 10 rfl rfl)
theorem dX1_isRight_58 : decode cX1_isRight 58 = .ok (.aaload, 1) := dk_50 (dk_at dksX1_isRight_2 12 rfl rfl)
theorem dX1_isRight_59 : decode cX1_isRight 59 = .ok (.iload_n 2, 1) := dk_28 (dk_at dksX1_isRight_2 13 rfl rfl)
theorem dX1_isRight_60 : decode cX1_isRight 60 = .ok (.invokevirtual 390, 3) := dk_182 1 134 (dk_at dksX1_isRight_2 14 rfl rfl)
theorem dX1_isRight_63 : decode cX1_isRight 63 = .ok (.ifCond .eq 7, 3) := dk_153 0 7 (dk_at dksX1_isRight_2 17 rfl rfl)
theorem dX1_isRight_66 : decode cX1_isRight 66 = .ok (.iconst 1, 1) := dk_4 (dk_at dksX1_isRight_2 20 rfl rfl)
theorem dX1_isRight_67 : decode cX1_isRight 67 = .ok (.goto 4, 3) := dk_167 0 4 (dk_at dksX1_isRight_2 21 rfl rfl)
theorem dX1_isRight_70 : decode cX1_isRight 70 = .ok (.iconst 0, 1) := dk_3 (dk_at dksX1_isRight_3 0 rfl rfl)
theorem dX1_isRight_71 : decode cX1_isRight 71 = .ok (.istore_n 3, 1) := dk_62 (dk_at dksX1_isRight_3 1 rfl rfl)
theorem dX1_isRight_72 : decode cX1_isRight 72 = .ok (.iinc 4 1, 3) := dk_132 4 1 (dk_at dksX1_isRight_3 2 rfl rfl)
theorem dX1_isRight_75 : decode cX1_isRight 75 = .ok (.goto (-59), 3) := dk_167 255 197 (dk_at dksX1_isRight_3 5 rfl rfl)
theorem dX1_isRight_78 : decode cX1_isRight 78 = .ok (.iload_n 3, 1) := dk_29 (dk_at dksX1_isRight_3 8 rfl rfl)
theorem dX1_isRight_79 : decode cX1_isRight 79 = .ok (.ireturn, 1) := dk_172 (dk_at dksX1_isRight_3 9 rfl rfl)
def dkwX1_step_3 : List UInt8 := [42, 180, 0, 104, 180, 1, 140, 28, 46, 120, 128, 60, 132, 2, 1, 167, 255, 209, 16, 254, 172]
abbrev dktX1_step_3 : List UInt8 := dkwX1_step_3 ++ []
def dkwX1_step_2 : List UInt8 := [162, 0, 42, 42, 42, 180, 0, 104, 180, 1, 140, 28, 46, 27, 182, 1, 143, 154, 0, 5, 28, 172, 27, 4]
abbrev dktX1_step_2 : List UInt8 := dkwX1_step_2 ++ dktX1_step_3
def dkwX1_step_1 : List UInt8 := [154, 0, 10, 42, 16, 6, 182, 0, 94, 172, 3, 60, 3, 61, 28, 42, 180, 0, 104, 180, 1, 137]
abbrev dktX1_step_1 : List UInt8 := dkwX1_step_1 ++ dktX1_step_2
def dkwX1_step_0 : List UInt8 := [42, 182, 0, 80, 42, 180, 0, 104, 199, 0, 9, 42, 4, 182, 0, 94, 172, 42, 180, 0, 104, 180, 1, 137]
abbrev dktX1_step_0 : List UInt8 := dkwX1_step_0 ++ dktX1_step_1
theorem dksX1_step_0 : cX1_step.data.toList.drop 0 = dktX1_step_0 := by decide +kernel
theorem dksX1_step_1 : cX1_step.data.toList.drop 24 = dktX1_step_1 := dk_seg dksX1_step_0 24 rfl rfl
theorem dksX1_step_2 : cX1_step.data.toList.drop 46 = dktX1_step_2 := dk_seg dksX1_step_1 22 rfl rfl
theorem dksX1_step_3 : cX1_step.data.toList.drop 70 = dktX1_step_3 := dk_seg dksX1_step_2 24 rfl rfl
theorem dX1_step_0 : decode cX1_step 0 = .ok (.aload_n 0, 1) := dk_42 (dk_at dksX1_step_0 0 rfl rfl)
theorem dX1_step_1 : decode cX1_step 1 = .ok (.invokevirtual 80, 3) := dk_182 0 80 (dk_at dksX1_step_0 1 rfl rfl)
theorem dX1_step_4 : decode cX1_step 4 = .ok (.aload_n 0, 1) := dk_42 (dk_at dksX1_step_0 4 rfl rfl)
theorem dX1_step_5 : decode cX1_step 5 = .ok (.getfield 104, 3) := dk_180 0 104 (dk_at dksX1_step_0 5 rfl rfl)
theorem dX1_step_8 : decode cX1_step 8 = .ok (.ifnonnull 9, 3) := dk_199 0 9 (dk_at dksX1_step_0 8 rfl rfl)
theorem dX1_step_11 : decode cX1_step 11 = .ok (.aload_n 0, 1) := dk_42 (dk_at dksX1_step_0 11 rfl rfl)
theorem dX1_step_12 : decode cX1_step 12 = .ok (.iconst 1, 1) := dk_4 (dk_at dksX1_step_0 12 rfl rfl)
theorem dX1_step_13 : decode cX1_step 13 = .ok (.invokevirtual 94, 3) := dk_182 0 94 (dk_at dksX1_step_0 13 rfl rfl)
theorem dX1_step_16 : decode cX1_step 16 = .ok (.ireturn, 1) := dk_172 (dk_at dksX1_step_0 16 rfl rfl)
theorem dX1_step_17 : decode cX1_step 17 = .ok (.aload_n 0, 1) := dk_42 (dk_at dksX1_step_0 17 rfl rfl)
theorem dX1_step_18 : decode cX1_step 18 = .ok (.getfield 104, 3) := dk_180 0 104 (dk_at dksX1_step_0 18 rfl rfl)
theorem dX1_step_21 : decode cX1_step 21 = .ok (.getfield 393, 3) := dk_180 1 137 (dk_at dksX1_step_0 21 rfl rfl)
theorem dX1_step_24 : decode cX1_step 24 = .ok (.ifCond .ne 10, 3) := dk_154 0 10 (dk_at dksX1_step_1 0 rfl rfl)
theorem dX1_step_27 : decode cX1_step 27 = .ok (.aload_n 0, 1) := dk_42 (dk_at dksX1_step_1 3 rfl rfl)
theorem dX1_step_28 : decode cX1_step 28 = .ok (.bipush 6, 2) := dk_16 6 (dk_at dksX1_step_1 4 rfl rfl)
theorem dX1_step_30 : decode cX1_step 30 = .ok (.invokevirtual 94, 3) := dk_182 0 94 (dk_at dksX1_step_1 6 rfl rfl)
theorem dX1_step_33 : decode cX1_step 33 = .ok (.ireturn, 1) := dk_172 (dk_at dksX1_step_1 9 rfl rfl)
theorem dX1_step_34 : decode cX1_step 34 = .ok (.iconst 0, 1) := dk_3 (dk_at dksX1_step_1 10 rfl rfl)
theorem dX1_step_35 : decode cX1_step 35 = .ok (.istore_n 1, 1) := dk_60 (dk_at dksX1_step_1 11 rfl rfl)
theorem dX1_step_36 : decode cX1_step 36 = .ok (.iconst 0, 1) := dk_3 (dk_at dksX1_step_1 12 rfl rfl)
theorem dX1_step_37 : decode cX1_step 37 = .ok (.istore_n 2, 1) := dk_61 (dk_at dksX1_step_1 13 rfl rfl)
theorem dX1_step_38 : decode cX1_step 38 = .ok (.iload_n 2, 1) := dk_28 (dk_at dksX1_step_1 14 rfl rfl)
theorem dX1_step_39 : decode cX1_step 39 = .ok (.aload_n 0, 1) := dk_42 (dk_at dksX1_step_1 15 rfl rfl)
theorem dX1_step_40 : decode cX1_step 40 = .ok (.getfield 104, 3) := dk_180 0 104 (dk_at dksX1_step_1 16 rfl rfl)
theorem dX1_step_43 : decode cX1_step 43 = .ok (.getfield 393, 3) := dk_180 1 137 (dk_at dksX1_step_1 19 rfl rfl)
theorem dX1_step_46 : decode cX1_step 46 = .ok (.if_icmp .ge 42, 3) := dk_162 0 42 (dk_at dksX1_step_2 0 rfl rfl)
theorem dX1_step_49 : decode cX1_step 49 = .ok (.aload_n 0, 1) := dk_42 (dk_at dksX1_step_2 3 rfl rfl)
theorem dX1_step_50 : decode cX1_step 50 = .ok (.aload_n 0, 1) := dk_42 (dk_at dksX1_step_2 4 rfl rfl)
theorem dX1_step_51 : decode cX1_step 51 = .ok (.getfield 104, 3) := dk_180 0 104 (dk_at dksX1_step_2 5 rfl rfl)
theorem dX1_step_54 : decode cX1_step 54 = .ok (.getfield 396, 3) := dk_180 1 140 (dk_at dksX1_step_2 8 rfl rfl)
theorem dX1_step_57 : decode cX1_step 57 = .ok (.iload_n 2, 1) := dk_28 (dk_at dksX1_step_2 11 rfl rfl)
theorem dX1_step_58 : decode cX1_step 58 = .ok (.iaload, 1) := dk_46 (dk_at dksX1_step_2 12 rfl rfl)
theorem dX1_step_59 : decode cX1_step 59 = .ok (.iload_n 1, 1) := dk_27 (dk_at dksX1_step_2 13 rfl rfl)
theorem dX1_step_60 : decode cX1_step 60 = .ok (.invokevirtual 399, 3) := dk_182 1 143 (dk_at dksX1_step_2 14 rfl rfl)
theorem dX1_step_63 : decode cX1_step 63 = .ok (.ifCond .ne 5, 3) := dk_154 0 5 (dk_at dksX1_step_2 17 rfl rfl)
theorem dX1_step_66 : decode cX1_step 66 = .ok (.iload_n 2, 1) := dk_28 (dk_at dksX1_step_2 20 rfl rfl)
theorem dX1_step_67 : decode cX1_step 67 = .ok (.ireturn, 1) := dk_172 (dk_at dksX1_step_2 21 rfl rfl)
theorem dX1_step_68 : decode cX1_step 68 = .ok (.iload_n 1, 1) := dk_27 (dk_at dksX1_step_2 22 rfl rfl)
theorem dX1_step_69 : decode cX1_step 69 = .ok (.iconst 1, 1) := dk_4 (dk_at dksX1_step_2 23 rfl rfl)
theorem dX1_step_70 : decode cX1_step 70 = .ok (.aload_n 0, 1) := dk_42 (dk_at dksX1_step_3 0 rfl rfl)
theorem dX1_step_71 : decode cX1_step 71 = .ok (.getfield 104, 3) := dk_180 0 104 (dk_at dksX1_step_3 1 rfl rfl)
theorem dX1_step_74 : decode cX1_step 74 = .ok (.getfield 396, 3) := dk_180 1 140 (dk_at dksX1_step_3 4 rfl rfl)
theorem dX1_step_77 : decode cX1_step 77 = .ok (.iload_n 2, 1) := dk_28 (dk_at dksX1_step_3 7 rfl rfl)
theorem dX1_step_78 : decode cX1_step 78 = .ok (.iaload, 1) := dk_46 (dk_at dksX1_step_3 8 rfl rfl)
theorem dX1_step_79 : decode cX1_step 79 = .ok (.ishl, 1) := dk_120 (dk_at dksX1_step_3 9 rfl rfl)
theorem dX1_step_80 : decode cX1_step 80 = .ok (.ior, 1) := dk_128 (dk_at dksX1_step_3 10 rfl rfl)
theorem dX1_step_81 : decode cX1_step 81 = .ok (.istore_n 1, 1) := dk_60 (dk_at dksX1_step_3 11 rfl rfl)
theorem dX1_step_82 : decode cX1_step 82 = .ok (.iinc 2 1, 3) := dk_132 2 1 (dk_at dksX1_step_3 12 rfl rfl)
theorem dX1_step_85 : decode cX1_step 85 = .ok (.goto (-47), 3) := dk_167 255 209 (dk_at dksX1_step_3 15 rfl rfl)
theorem dX1_step_88 : decode cX1_step 88 = .ok (.bipush (-2), 2) := dk_16 254 (dk_at dksX1_step_3 18 rfl rfl)
theorem dX1_step_90 : decode cX1_step 90 = .ok (.ireturn, 1) := dk_172 (dk_at dksX1_step_3 20 rfl rfl)
def dkwX7_step_7 : List UInt8 := [180, 1, 160, 28, 46, 120, 128, 60, 132, 2, 1, 167, 255, 128, 42, 16, 254, 182, 0, 76, 172]
abbrev dktX7_step_7 : List UInt8 := dkwX7_step_7 ++ []
def dkwX7_step_6 : List UInt8 := [132, 4, 1, 167, 255, 192, 29, 154, 0, 9, 42, 28, 182, 0, 76, 172, 27, 4, 42, 180, 1, 186]
abbrev dktX7_step_6 : List UInt8 := dkwX7_step_6 ++ dktX7_step_7
def dkwX7_step_5 : List UInt8 := [180, 1, 186, 180, 1, 146, 21, 4, 46, 27, 2, 130, 126, 154, 0, 7, 4, 167, 0, 4, 3, 62]
abbrev dktX7_step_5 : List UInt8 := dkwX7_step_5 ++ dktX7_step_6
def dkwX7_step_4 : List UInt8 := [180, 1, 186, 180, 1, 143, 21, 4, 46, 42, 180, 1, 186, 180, 1, 160, 28, 46, 160, 0, 24, 42]
abbrev dktX7_step_4 : List UInt8 := dkwX7_step_4 ++ dktX7_step_5
def dkwX7_step_3 : List UInt8 := [184, 1, 110, 62, 3, 54, 4, 21, 4, 42, 180, 1, 186, 180, 1, 137, 162, 0, 58, 29, 154, 0, 42, 42]
abbrev dktX7_step_3 : List UInt8 := dkwX7_step_3 ++ dktX7_step_4
def dkwX7_step_2 : List UInt8 := [180, 1, 157, 162, 0, 123, 42, 180, 1, 186, 180, 1, 135, 42, 180, 1, 186, 180, 1, 160, 28, 46]
abbrev dktX7_step_2 : List UInt8 := dkwX7_step_2 ++ dktX7_step_3
def dkwX7_step_1 : List UInt8 := [180, 1, 149, 154, 0, 10, 42, 16, 6, 182, 0, 72, 172, 3, 60, 3, 61, 28, 42, 180, 1, 186]
abbrev dktX7_step_1 : List UInt8 := dkwX7_step_1 ++ dktX7_step_2
def dkwX7_step_0 : List UInt8 := [42, 3, 181, 0, 66, 42, 180, 1, 186, 199, 0, 9, 42, 4, 182, 0, 72, 172, 42, 180, 1, 186]
abbrev dktX7_step_0 : List UInt8 := dkwX7_step_0 ++ dktX7_step_1
theorem dksX7_step_0 : cX7_step.data.toList.drop 0 = dktX7_step_0 := by decide +kernel
theorem dksX7_step_1 : cX7_step.data.toList.drop 22 = dktX7_step_1 := dk_seg dksX7_step_0 22 rfl rfl
theorem dksX7_step_2 : cX7_step.data.toList.drop 44 = dktX7_step_2 := dk_seg dksX7_step_1 22 rfl rfl
theorem dksX7_step_3 : cX7_step.data.toList.drop 66 = dktX7_step_3 := dk_seg dksX7_step_2 22 rfl rfl
theorem dksX7_step_4 : cX7_step.data.toList.drop 90 = dktX7_step_4 := dk_seg dksX7_step_3 24 rfl rfl
theorem dksX7_step_5 : cX7_step.data.toList.drop 112 = dktX7_step_5 := dk_seg dksX7_step_4 22 rfl rfl
theorem dksX7_step_6 : cX7_step.data.toList.drop 134 = dktX7_step_6 := dk_seg dksX7_step_5 22 rfl rfl
theorem dksX7_step_7 : cX7_step.data.toList.drop 156 = dktX7_step_7 := dk_seg dksX7_step_6 22 rfl rfl
theorem dX7_step_0 : decode cX7_step 0 = .ok (.aload_n 0, 1) := dk_42 (dk_at dksX7_step_0 0 rfl rfl)
theorem dX7_step_1 : decode cX7_step 1 = .ok (.iconst 0, 1) := dk_3 (dk_at dksX7_step_0 1 rfl rfl)
theorem dX7_step_2 : decode cX7_step 2 = .ok (.putfield 66, 3) := dk_181 0 66 (dk_at dksX7_step_0 2 rfl rfl)
theorem dX7_step_5 : decode cX7_step 5 = .ok (.aload_n 0, 1) := dk_42 (dk_at dksX7_step_0 5 rfl rfl)
theorem dX7_step_6 : decode cX7_step 6 = .ok (.getfield 442, 3) := dk_180 1 186 (dk_at dksX7_step_0 6 rfl rfl)
theorem dX7_step_9 : decode cX7_step 9 = .ok (.ifnonnull 9, 3) := dk_199 0 9 (dk_at dksX7_step_0 9 rfl rfl)
theorem dX7_step_12 : decode cX7_step 12 = .ok (.aload_n 0, 1) := dk_42 (dk_at dksX7_step_0 12 rfl rfl)
theorem dX7_step_13 : decode cX7_step 13 = .ok (.iconst 1, 1) := dk_4 (dk_at dksX7_step_0 13 rfl rfl)
theorem dX7_step_14 : decode cX7_step 14 = .ok (.invokevirtual 72, 3) := dk_182 0 72 (dk_at dksX7_step_0 14 rfl rfl)
theorem dX7_step_17 : decode cX7_step 17 = .ok (.ireturn, 1) := dk_172 (dk_at dksX7_step_0 17 rfl rfl)
theorem dX7_step_18 : decode cX7_step 18 = .ok (.aload_n 0, 1) := dk_42 (dk_at dksX7_step_0 18 rfl rfl)
theorem dX7_step_19 : decode cX7_step 19 = .ok (.getfield 442, 3) := dk_180 1 186 (dk_at dksX7_step_0 19 rfl rfl)
theorem dX7_step_22 : decode cX7_step 22 = .ok (.getfield 405, 3) := dk_180 1 149 (dk_at dksX7_step_1 0 rfl rfl)
theorem dX7_step_25 : decode cX7_step 25 = .ok (.ifCond .ne 10, 3) := dk_154 0 10 (dk_at dksX7_step_1 3 rfl rfl)
theorem dX7_step_28 : decode cX7_step 28 = .ok (.aload_n 0, 1) := dk_42 (dk_at dksX7_step_1 6 rfl rfl)
theorem dX7_step_29 : decode cX7_step 29 = .ok (.bipush 6, 2) := dk_16 6 (dk_at dksX7_step_1 7 rfl rfl)
theorem dX7_step_31 : decode cX7_step 31 = .ok (.invokevirtual 72, 3) := dk_182 0 72 (dk_at dksX7_step_1 9 rfl rfl)
theorem dX7_step_34 : decode cX7_step 34 = .ok (.ireturn, 1) := dk_172 (dk_at dksX7_step_1 12 rfl rfl)
theorem dX7_step_35 : decode cX7_step 35 = .ok (.iconst 0, 1) := dk_3 (dk_at dksX7_step_1 13 rfl rfl)
theorem dX7_step_36 : decode cX7_step 36 = .ok (.istore_n 1, 1) := dk_60 (dk_at dksX7_step_1 14 rfl rfl)
theorem dX7_step_37 : decode cX7_step 37 = .ok (.iconst 0, 1) := dk_3 (dk_at dksX7_step_1 15 rfl rfl)
theorem dX7_step_38 : decode cX7_step 38 = .ok (.istore_n 2, 1) := dk_61 (dk_at dksX7_step_1 16 rfl rfl)
theorem dX7_step_39 : decode cX7_step 39 = .ok (.iload_n 2, 1) := dk_28 (dk_at dksX7_step_1 17 rfl rfl)
theorem dX7_step_40 : decode cX7_step 40 = .ok (.aload_n 0, 1) := dk_42 (dk_at dksX7_step_1 18 rfl rfl)
theorem dX7_step_41 : decode cX7_step 41 = .ok (.getfield 442, 3) := dk_180 1 186 (dk_at dksX7_step_1 19 rfl rfl)
theorem dX7_step_44 : decode cX7_step 44 = .ok (.getfield 413, 3) := dk_180 1 157 (dk_at dksX7_step_2 0 rfl rfl)
theorem dX7_step_47 : decode cX7_step 47 = .ok (.if_icmp .ge 123, 3) := dk_162 0 123 (dk_at dksX7_step_2 3 rfl rfl)
theorem dX7_step_50 : decode cX7_step 50 = .ok (.aload_n 0, 1) := dk_42 (dk_at dksX7_step_2 6 rfl rfl)
theorem dX7_step_51 : decode cX7_step 51 = .ok (.getfield 442, 3) := dk_180 1 186 (dk_at dksX7_step_2 7 rfl rfl)
theorem dX7_step_54 : decode cX7_step 54 = .ok (.getfield 391, 3) := dk_180 1 135 (dk_at dksX7_step_2 10 rfl rfl)
theorem dX7_step_57 : decode cX7_step 57 = .ok (.aload_n 0, 1) := dk_42 (dk_at dksX7_step_2 13 rfl rfl)
theorem dX7_step_58 : decode cX7_step 58 = .ok (.getfield 442, 3) := dk_180 1 186 (dk_at dksX7_step_2 14 rfl rfl)
theorem dX7_step_61 : decode cX7_step 61 = .ok (.getfield 416, 3) := dk_180 1 160 (dk_at dksX7_step_2 17 rfl rfl)
theorem dX7_step_64 : decode cX7_step 64 = .ok (.iload_n 2, 1) := dk_28 (dk_at dksX7_step_2 20 rfl rfl)
theorem dX7_step_65 : decode cX7_step 65 = .ok (.iaload, 1) := dk_46 (dk_at dksX7_step_2 21 rfl rfl)
theorem dX7_step_66 : decode cX7_step 66 = .ok (.invokestatic 366, 3) := dk_184 1 110 (dk_at dksX7_step_3 0 rfl rfl)
theorem dX7_step_69 : decode cX7_step 69 = .ok (.istore_n 3, 1) := dk_62 (dk_at dksX7_step_3 3 rfl rfl)
theorem dX7_step_70 : decode cX7_step 70 = .ok (.iconst 0, 1) := dk_3 (dk_at dksX7_step_3 4 rfl rfl)
theorem dX7_step_71 : decode cX7_step 71 = .ok (.istore 4, 2) := dk_54 4 (dk_at dksX7_step_3 5 rfl rfl)
theorem dX7_step_73 : decode cX7_step 73 = .ok (.iload 4, 2) := dk_21 4 (dk_at dksX7_step_3 7 rfl rfl)
theorem dX7_step_75 : decode cX7_step 75 = .ok (.aload_n 0, 1) := dk_42 (dk_at dksX7_step_3 9 rfl rfl)
theorem dX7_step_76 : decode cX7_step 76 = .ok (.getfield 442, 3) := dk_180 1 186 (dk_at dksX7_step_3 10 rfl rfl)
theorem dX7_step_79 : decode cX7_step 79 = .ok (.getfield 393, 3) := dk_180 1 137 (dk_at dksX7_step_3 13 rfl rfl)
theorem dX7_step_82 : decode cX7_step 82 = .ok (.if_icmp .ge 58, 3) := dk_162 0 58 (dk_at dksX7_step_3 16 rfl rfl)
theorem dX7_step_85 : decode cX7_step 85 = .ok (.iload_n 3, 1) := dk_29 (dk_at dksX7_step_3 19 rfl rfl)
theorem dX7_step_86 : decode cX7_step 86 = .ok (.ifCond .ne 42, 3) := dk_154 0 42 (dk_at dksX7_step_3 20 rfl rfl)
theorem dX7_step_89 : decode cX7_step 89 = .ok (.aload_n 0, 1) := dk_42 (dk_at dksX7_step_3 23 rfl rfl)
theorem dX7_step_90 : decode cX7_step 90 = .ok (.getfield 442, 3) := dk_180 1 186 (dk_at dksX7_step_4 0 rfl rfl)
theorem dX7_step_93 : decode cX7_step 93 = .ok (.getfield 399, 3) := dk_180 1 143 (dk_at dksX7_step_4 3 rfl rfl)
theorem dX7_step_96 : decode cX7_step 96 = .ok (.iload 4, 2) := dk_21 4 (dk_at dksX7_step_4 6 rfl rfl)
theorem dX7_step_98 : decode cX7_step 98 = .ok (.iaload, 1) := dk_46 (dk_at dksX7_step_4 8 rfl rfl)
theorem dX7_step_99 : decode cX7_step 99 = .ok (.aload_n 0, 1) := dk_42 (dk_at dksX7_step_4 9 rfl rfl)
theorem dX7_step_100 : decode cX7_step 100 = .ok (.getfield 442, 3) := dk_180 1 186 (dk_at dksX7_step_4 10 rfl rfl)
theorem dX7_step_103 : decode cX7_step 103 = .ok (.getfield 416, 3) := dk_180 1 160 (dk_at dksX7_step_4 13 rfl rfl)
theorem dX7_step_106 : decode cX7_step 106 = .ok (.iload_n 2, 1) := dk_28 (dk_at dksX7_step_4 16 rfl rfl)
theorem dX7_step_107 : decode cX7_step 107 = .ok (.iaload, 1) := dk_46 (dk_at dksX7_step_4 17 rfl rfl)
theorem dX7_step_108 : decode cX7_step 108 = .ok (.if_icmp .ne 24, 3) := dk_160 0 24 (dk_at dksX7_step_4 18 rfl rfl)
theorem dX7_step_111 : decode cX7_step 111 = .ok (.aload_n 0, 1) := dk_42 (dk_at dksX7_step_4 21 rfl rfl)
theorem dX7_step_112 : decode cX7_step 112 = .ok (.getfield 442, 3) := dk_180 1 186 (dk_at dksX7_step_5 0 rfl rfl)
theorem dX7_step_115 : decode cX7_step 115 = .ok (.getfield 402, 3) := dk_180 1 146 (dk_at dksX7_step_5 3 rfl rfl)
theorem dX7_step_118 : decode cX7_step 118 = .ok (.iload 4, 2) := dk_21 4 (dk_at dksX7_step_5 6 rfl rfl)
theorem dX7_step_120 : decode cX7_step 120 = .ok (.iaload, 1) := dk_46 (dk_at dksX7_step_5 8 rfl rfl)
theorem dX7_step_121 : decode cX7_step 121 = .ok (.iload_n 1, 1) := dk_27 (dk_at dksX7_step_5 9 rfl rfl)
theorem dX7_step_122 : decode cX7_step 122 = .ok (.iconst (-1), 1) := dk_2 (dk_at dksX7_step_5 10 rfl rfl)
theorem dX7_step_123 : decode cX7_step 123 = .ok (.ixor, 1) := dk_130 (dk_at dksX7_step_5 11 rfl rfl)
theorem dX7_step_124 : decode cX7_step 124 = .ok (.iand, 1) := dk_126 (dk_at dksX7_step_5 12 rfl rfl)
theorem dX7_step_125 : decode cX7_step 125 = .ok (.ifCond .ne 7, 3) := dk_154 0 7 (dk_at dksX7_step_5 13 rfl rfl)
theorem dX7_step_128 : decode cX7_step 128 = .ok (.iconst 1, 1) := dk_4 (dk_at dksX7_step_5 16 rfl rfl)
theorem dX7_step_129 : decode cX7_step 129 = .ok (.goto 4, 3) := dk_167 0 4 (dk_at dksX7_step_5 17 rfl rfl)
theorem dX7_step_132 : decode cX7_step 132 = .ok (.iconst 0, 1) := dk_3 (dk_at dksX7_step_5 20 rfl rfl)
theorem dX7_step_133 : decode cX7_step 133 = .ok (.istore_n 3, 1) := dk_62 (dk_at dksX7_step_5 21 rfl rfl)
theorem dX7_step_134 : decode cX7_step 134 = .ok (.iinc 4 1, 3) := dk_132 4 1 (dk_at dksX7_step_6 0 rfl rfl)
theorem dX7_step_137 : decode cX7_step 137 = .ok (.goto (-64), 3) := dk_167 255 192 (dk_at dksX7_step_6 3 rfl rfl)
theorem dX7_step_140 : decode cX7_step 140 = .ok (.iload_n 3, 1) := dk_29 (dk_at dksX7_step_6 6 rfl rfl)
theorem dX7_step_141 : decode cX7_step 141 = .ok (.ifCond .ne 9, 3) := dk_154 0 9 (dk_at dksX7_step_6 7 rfl rfl)
theorem dX7_step_144 : decode cX7_step 144 = .ok (.aload_n 0, 1) := dk_42 (dk_at dksX7_step_6 10 rfl rfl)
theorem dX7_step_145 : decode cX7_step 145 = .ok (.iload_n 2, 1) := dk_28 (dk_at dksX7_step_6 11 rfl rfl)
theorem dX7_step_146 : decode cX7_step 146 = .ok (.invokevirtual 76, 3) := dk_182 0 76 (dk_at dksX7_step_6 12 rfl rfl)
theorem dX7_step_149 : decode cX7_step 149 = .ok (.ireturn, 1) := dk_172 (dk_at dksX7_step_6 15 rfl rfl)
theorem dX7_step_150 : decode cX7_step 150 = .ok (.iload_n 1, 1) := dk_27 (dk_at dksX7_step_6 16 rfl rfl)
theorem dX7_step_151 : decode cX7_step 151 = .ok (.iconst 1, 1) := dk_4 (dk_at dksX7_step_6 17 rfl rfl)
theorem dX7_step_152 : decode cX7_step 152 = .ok (.aload_n 0, 1) := dk_42 (dk_at dksX7_step_6 18 rfl rfl)
theorem dX7_step_153 : decode cX7_step 153 = .ok (.getfield 442, 3) := dk_180 1 186 (dk_at dksX7_step_6 19 rfl rfl)
theorem dX7_step_156 : decode cX7_step 156 = .ok (.getfield 416, 3) := dk_180 1 160 (dk_at dksX7_step_7 0 rfl rfl)
theorem dX7_step_159 : decode cX7_step 159 = .ok (.iload_n 2, 1) := dk_28 (dk_at dksX7_step_7 3 rfl rfl)
theorem dX7_step_160 : decode cX7_step 160 = .ok (.iaload, 1) := dk_46 (dk_at dksX7_step_7 4 rfl rfl)
theorem dX7_step_161 : decode cX7_step 161 = .ok (.ishl, 1) := dk_120 (dk_at dksX7_step_7 5 rfl rfl)
theorem dX7_step_162 : decode cX7_step 162 = .ok (.ior, 1) := dk_128 (dk_at dksX7_step_7 6 rfl rfl)
theorem dX7_step_163 : decode cX7_step 163 = .ok (.istore_n 1, 1) := dk_60 (dk_at dksX7_step_7 7 rfl rfl)
theorem dX7_step_164 : decode cX7_step 164 = .ok (.iinc 2 1, 3) := dk_132 2 1 (dk_at dksX7_step_7 8 rfl rfl)
theorem dX7_step_167 : decode cX7_step 167 = .ok (.goto (-128), 3) := dk_167 255 128 (dk_at dksX7_step_7 11 rfl rfl)
theorem dX7_step_170 : decode cX7_step 170 = .ok (.aload_n 0, 1) := dk_42 (dk_at dksX7_step_7 14 rfl rfl)
theorem dX7_step_171 : decode cX7_step 171 = .ok (.bipush (-2), 2) := dk_16 254 (dk_at dksX7_step_7 15 rfl rfl)
theorem dX7_step_173 : decode cX7_step 173 = .ok (.invokevirtual 76, 3) := dk_182 0 76 (dk_at dksX7_step_7 17 rfl rfl)
theorem dX7_step_176 : decode cX7_step 176 = .ok (.ireturn, 1) := dk_172 (dk_at dksX7_step_7 20 rfl rfl)
def dkwX1_needs_4 : List UInt8 := [167, 255, 207, 28, 172]
abbrev dktX1_needs_4 : List UInt8 := dkwX1_needs_4 ++ []
def dkwX1_needs_3 : List UInt8 := [29, 120, 2, 130, 126, 182, 1, 112, 153, 0, 7, 3, 167, 0, 6, 4, 29, 120, 128, 61, 132, 3, 1]
abbrev dktX1_needs_3 : List UInt8 := dkwX1_needs_3 ++ dktX1_needs_4
def dkwX1_needs_2 : List UInt8 := [180, 0, 104, 180, 1, 97, 162, 0, 44, 28, 42, 27, 42, 180, 0, 104, 182, 1, 106, 42, 182, 1, 109, 4]
abbrev dktX1_needs_2 : List UInt8 := dkwX1_needs_2 ++ dktX1_needs_3
def dkwX1_needs_1 : List UInt8 := [182, 1, 106, 42, 182, 1, 109, 182, 1, 112, 154, 0, 6, 16, 254, 172, 3, 61, 3, 62, 29, 42]
abbrev dktX1_needs_1 : List UInt8 := dkwX1_needs_1 ++ dktX1_needs_2
def dkwX1_needs_0 : List UInt8 := [42, 182, 0, 80, 42, 27, 182, 1, 103, 154, 0, 9, 42, 4, 182, 0, 94, 172, 42, 27, 42, 180, 0, 104]
abbrev dktX1_needs_0 : List UInt8 := dkwX1_needs_0 ++ dktX1_needs_1
theorem dksX1_needs_0 : cX1_needs.data.toList.drop 0 = dktX1_needs_0 := by decide +kernel
theorem dksX1_needs_1 : cX1_needs.data.toList.drop 24 = dktX1_needs_1 := dk_seg dksX1_needs_0 24 rfl rfl
theorem dksX1_needs_2 : cX1_needs.data.toList.drop 46 = dktX1_needs_2 := dk_seg dksX1_needs_1 22 rfl rfl
theorem dksX1_needs_3 : cX1_needs.data.toList.drop 70 = dktX1_needs_3 := dk_seg dksX1_needs_2 24 rfl rfl
theorem dksX1_needs_4 : cX1_needs.data.toList.drop 93 = dktX1_needs_4 := dk_seg dksX1_needs_3 23 rfl rfl
theorem dX1_needs_0 : decode cX1_needs 0 = .ok (.aload_n 0, 1) := dk_42 (dk_at dksX1_needs_0 0 rfl rfl)
theorem dX1_needs_1 : decode cX1_needs 1 = .ok (.invokevirtual 80, 3) := dk_182 0 80 (dk_at dksX1_needs_0 1 rfl rfl)
theorem dX1_needs_4 : decode cX1_needs 4 = .ok (.aload_n 0, 1) := dk_42 (dk_at dksX1_needs_0 4 rfl rfl)
theorem dX1_needs_5 : decode cX1_needs 5 = .ok (.iload_n 1, 1) := dk_27 (dk_at dksX1_needs_0 5 rfl rfl)
theorem dX1_needs_6 : decode cX1_needs 6 = .ok (.invokevirtual 359, 3) := dk_182 1 103 (dk_at dksX1_needs_0 6 rfl rfl)
theorem dX1_needs_9 : decode cX1_needs 9 = .ok (.ifCond .ne 9, 3) := dk_154 0 9 (dk_at dksX1_needs_0 9 rfl rfl)
theorem dX1_needs_12 : decode cX1_needs 12 = .ok (.aload_n 0, 1) := dk_42 (dk_at dksX1_needs_0 12 rfl rfl)
theorem dX1_needs_13 : decode cX1_needs 13 = .ok (.iconst 1, 1) := dk_4 (dk_at dksX1_needs_0 13 rfl rfl)
theorem dX1_needs_14 : decode cX1_needs 14 = .ok (.invokevirtual 94, 3) := dk_182 0 94 (dk_at dksX1_needs_0 14 rfl rfl)
theorem dX1_needs_17 : decode cX1_needs 17 = .ok (.ireturn, 1) := dk_172 (dk_at dksX1_needs_0 17 rfl rfl)
theorem dX1_needs_18 : decode cX1_needs 18 = .ok (.aload_n 0, 1) := dk_42 (dk_at dksX1_needs_0 18 rfl rfl)
theorem dX1_needs_19 : decode cX1_needs 19 = .ok (.iload_n 1, 1) := dk_27 (dk_at dksX1_needs_0 19 rfl rfl)
theorem dX1_needs_20 : decode cX1_needs 20 = .ok (.aload_n 0, 1) := dk_42 (dk_at dksX1_needs_0 20 rfl rfl)
theorem dX1_needs_21 : decode cX1_needs 21 = .ok (.getfield 104, 3) := dk_180 0 104 (dk_at dksX1_needs_0 21 rfl rfl)
theorem dX1_needs_24 : decode cX1_needs 24 = .ok (.invokevirtual 362, 3) := dk_182 1 106 (dk_at dksX1_needs_1 0 rfl rfl)
theorem dX1_needs_27 : decode cX1_needs 27 = .ok (.aload_n 0, 1) := dk_42 (dk_at dksX1_needs_1 3 rfl rfl)
theorem dX1_needs_28 : decode cX1_needs 28 = .ok (.invokevirtual 365, 3) := dk_182 1 109 (dk_at dksX1_needs_1 4 rfl rfl)
theorem dX1_needs_31 : decode cX1_needs 31 = .ok (.invokevirtual 368, 3) := dk_182 1 112 (dk_at dksX1_needs_1 7 rfl rfl)
theorem dX1_needs_34 : decode cX1_needs 34 = .ok (.ifCond .ne 6, 3) := dk_154 0 6 (dk_at dksX1_needs_1 10 rfl rfl)
theorem dX1_needs_37 : decode cX1_needs 37 = .ok (.bipush (-2), 2) := dk_16 254 (dk_at dksX1_needs_1 13 rfl rfl)
theorem dX1_needs_39 : decode cX1_needs 39 = .ok (.ireturn, 1) := dk_172 (dk_at dksX1_needs_1 15 rfl rfl)
theorem dX1_needs_40 : decode cX1_needs 40 = .ok (.iconst 0, 1) := dk_3 (dk_at dksX1_needs_1 16 rfl rfl)
theorem dX1_needs_41 : decode cX1_needs 41 = .ok (.istore_n 2, 1) := dk_61 (dk_at dksX1_needs_1 17 rfl rfl)
theorem dX1_needs_42 : decode cX1_needs 42 = .ok (.iconst 0, 1) := dk_3 (dk_at dksX1_needs_1 18 rfl rfl)
theorem dX1_needs_43 : decode cX1_needs 43 = .ok (.istore_n 3, 1) := dk_62 (dk_at dksX1_needs_1 19 rfl rfl)
theorem dX1_needs_44 : decode cX1_needs 44 = .ok (.iload_n 3, 1) := dk_29 (dk_at dksX1_needs_1 20 rfl rfl)
theorem dX1_needs_45 : decode cX1_needs 45 = .ok (.aload_n 0, 1) := dk_42 (dk_at dksX1_needs_1 21 rfl rfl)
theorem dX1_needs_46 : decode cX1_needs 46 = .ok (.getfield 104, 3) := dk_180 0 104 (dk_at dksX1_needs_2 0 rfl rfl)
theorem dX1_needs_49 : decode cX1_needs 49 = .ok (.getfield 353, 3) := dk_180 1 97 (dk_at dksX1_needs_2 3 rfl rfl)
theorem dX1_needs_52 : decode cX1_needs 52 = .ok (.if_icmp .ge 44, 3) := dk_162 0 44 (dk_at dksX1_needs_2 6 rfl rfl)
theorem dX1_needs_55 : decode cX1_needs 55 = .ok (.iload_n 2, 1) := dk_28 (dk_at dksX1_needs_2 9 rfl rfl)
theorem dX1_needs_56 : decode cX1_needs 56 = .ok (.aload_n 0, 1) := dk_42 (dk_at dksX1_needs_2 10 rfl rfl)
theorem dX1_needs_57 : decode cX1_needs 57 = .ok (.iload_n 1, 1) := dk_27 (dk_at dksX1_needs_2 11 rfl rfl)
theorem dX1_needs_58 : decode cX1_needs 58 = .ok (.aload_n 0, 1) := dk_42 (dk_at dksX1_needs_2 12 rfl rfl)
theorem dX1_needs_59 : decode cX1_needs 59 = .ok (.getfield 104, 3) := dk_180 0 104 (dk_at dksX1_needs_2 13 rfl rfl)
theorem dX1_needs_62 : decode cX1_needs 62 = .ok (.invokevirtual 362, 3) := dk_182 1 106 (dk_at dksX1_needs_2 16 rfl rfl)
theorem dX1_needs_65 : decode cX1_needs 65 = .ok (.aload_n 0, 1) := dk_42 (dk_at dksX1_needs_2 19 rfl rfl)
theorem dX1_needs_66 : decode cX1_needs 66 = .ok (.invokevirtual 365, 3) := dk_182 1 109 (dk_at dksX1_needs_2 20 rfl rfl)
theorem dX1_needs_69 : decode cX1_needs 69 = .ok (.iconst 1, 1) := dk_4 (dk_at dksX1_needs_2 23 rfl rfl)
theorem dX1_needs_70 : decode cX1_needs 70 = .ok (.iload_n 3, 1) := dk_29 (dk_at dksX1_needs_3 0 rfl rfl)
theorem dX1_needs_71 : decode cX1_needs 71 = .ok (.ishl, 1) := dk_120 (dk_at dksX1_needs_3 1 rfl rfl)
theorem dX1_needs_72 : decode cX1_needs 72 = .ok (.iconst (-1), 1) := dk_2 (dk_at dksX1_needs_3 2 rfl rfl)
theorem dX1_needs_73 : decode cX1_needs 73 = .ok (.ixor, 1) := dk_130 (dk_at dksX1_needs_3 3 rfl rfl)
theorem dX1_needs_74 : decode cX1_needs 74 = .ok (.iand, 1) := dk_126 (dk_at dksX1_needs_3 4 rfl rfl)
theorem dX1_needs_75 : decode cX1_needs 75 = .ok (.invokevirtual 368, 3) := dk_182 1 112 (dk_at dksX1_needs_3 5 rfl rfl)
theorem dX1_needs_78 : decode cX1_needs 78 = .ok (.ifCond .eq 7, 3) := dk_153 0 7 (dk_at dksX1_needs_3 8 rfl rfl)
theorem dX1_needs_81 : decode cX1_needs 81 = .ok (.iconst 0, 1) := dk_3 (dk_at dksX1_needs_3 11 rfl rfl)
theorem dX1_needs_82 : decode cX1_needs 82 = .ok (.goto 6, 3) := dk_167 0 6 (dk_at dksX1_needs_3 12 rfl rfl)
theorem dX1_needs_85 : decode cX1_needs 85 = .ok (.iconst 1, 1) := dk_4 (dk_at dksX1_needs_3 15 rfl rfl)
theorem dX1_needs_86 : decode cX1_needs 86 = .ok (.iload_n 3, 1) := dk_29 (dk_at dksX1_needs_3 16 rfl rfl)
theorem dX1_needs_87 : decode cX1_needs 87 = .ok (.ishl, 1) := dk_120 (dk_at dksX1_needs_3 17 rfl rfl)
theorem dX1_needs_88 : decode cX1_needs 88 = .ok (.ior, 1) := dk_128 (dk_at dksX1_needs_3 18 rfl rfl)
theorem dX1_needs_89 : decode cX1_needs 89 = .ok (.istore_n 2, 1) := dk_61 (dk_at dksX1_needs_3 19 rfl rfl)
theorem dX1_needs_90 : decode cX1_needs 90 = .ok (.iinc 3 1, 3) := dk_132 3 1 (dk_at dksX1_needs_3 20 rfl rfl)
theorem dX1_needs_93 : decode cX1_needs 93 = .ok (.goto (-49), 3) := dk_167 255 207 (dk_at dksX1_needs_4 0 rfl rfl)
theorem dX1_needs_96 : decode cX1_needs 96 = .ok (.iload_n 2, 1) := dk_28 (dk_at dksX1_needs_4 3 rfl rfl)
theorem dX1_needs_97 : decode cX1_needs 97 = .ok (.ireturn, 1) := dk_172 (dk_at dksX1_needs_4 4 rfl rfl)
def dkwX7_needs_3 : List UInt8 := [167, 0, 6, 4, 29, 120, 128, 61, 132, 3, 1, 167, 255, 213, 42, 28, 182, 0, 76, 172]
abbrev dktX7_needs_3 : List UInt8 := dkwX7_needs_3 ++ []
def dkwX7_needs_2 : List UInt8 := [162, 0, 38, 28, 42, 42, 180, 1, 186, 180, 1, 135, 29, 182, 2, 64, 27, 184, 1, 110, 153, 0, 7, 3]
abbrev dktX7_needs_2 : List UInt8 := dkwX7_needs_2 ++ dktX7_needs_3
def dkwX7_needs_1 : List UInt8 := [154, 0, 10, 42, 16, 254, 182, 0, 76, 172, 3, 61, 3, 62, 29, 42, 180, 1, 186, 180, 1, 137]
abbrev dktX7_needs_1 : List UInt8 := dkwX7_needs_1 ++ dktX7_needs_2
def dkwX7_needs_0 : List UInt8 := [42, 3, 181, 0, 66, 42, 27, 182, 2, 67, 154, 0, 9, 42, 4, 182, 0, 72, 172, 42, 27, 182, 2, 70]
abbrev dktX7_needs_0 : List UInt8 := dkwX7_needs_0 ++ dktX7_needs_1
theorem dksX7_needs_0 : cX7_needs.data.toList.drop 0 = dktX7_needs_0 := by decide +kernel
theorem dksX7_needs_1 : cX7_needs.data.toList.drop 24 = dktX7_needs_1 := dk_seg dksX7_needs_0 24 rfl rfl
theorem dksX7_needs_2 : cX7_needs.data.toList.drop 46 = dktX7_needs_2 := dk_seg dksX7_needs_1 22 rfl rfl
theorem dksX7_needs_3 : cX7_needs.data.toList.drop 70 = dktX7_needs_3 := dk_seg dksX7_needs_2 24 rfl rfl
theorem dX7_needs_0 : decode cX7_needs 0 = .ok (.aload_n 0, 1) := dk_42 (dk_at dksX7_needs_0 0 rfl rfl)
theorem dX7_needs_1 : decode cX7_needs 1 = .ok (.iconst 0, 1) := dk_3 (dk_at dksX7_needs_0 1 rfl rfl)
theorem dX7_needs_2 : decode cX7_needs 2 = .ok (.putfield 66, 3) := dk_181 0 66 (dk_at dksX7_needs_0 2 rfl rfl)
theorem dX7_needs_5 : decode cX7_needs 5 = .ok (.aload_n 0, 1) := dk_42 (dk_at dksX7_needs_0 5 rfl rfl)
theorem dX7_needs_6 : decode cX7_needs 6 = .ok (.iload_n 1, 1) := dk_27 (dk_at dksX7_needs_0 6 rfl rfl)
theorem dX7_needs_7 : decode cX7_needs 7 = .ok (.invokevirtual 579, 3) := dk_182 2 67 (dk_at dksX7_needs_0 7 rfl rfl)
theorem dX7_needs_10 : decode cX7_needs 10 = .ok (.ifCond .ne 9, 3) := dk_154 0 9 (dk_at dksX7_needs_0 10 rfl rfl)
theorem dX7_needs_13 : decode cX7_needs 13 = .ok (.aload_n 0, 1) := dk_42 (dk_at dksX7_needs_0 13 rfl rfl)
theorem dX7_needs_14 : decode cX7_needs 14 = .ok (.iconst 1, 1) := dk_4 (dk_at dksX7_needs_0 14 rfl rfl)
theorem dX7_needs_15 : decode cX7_needs 15 = .ok (.invokevirtual 72, 3) := dk_182 0 72 (dk_at dksX7_needs_0 15 rfl rfl)
theorem dX7_needs_18 : decode cX7_needs 18 = .ok (.ireturn, 1) := dk_172 (dk_at dksX7_needs_0 18 rfl rfl)
theorem dX7_needs_19 : decode cX7_needs 19 = .ok (.aload_n 0, 1) := dk_42 (dk_at dksX7_needs_0 19 rfl rfl)
theorem dX7_needs_20 : decode cX7_needs 20 = .ok (.iload_n 1, 1) := dk_27 (dk_at dksX7_needs_0 20 rfl rfl)
theorem dX7_needs_21 : decode cX7_needs 21 = .ok (.invokevirtual 582, 3) := dk_182 2 70 (dk_at dksX7_needs_0 21 rfl rfl)
theorem dX7_needs_24 : decode cX7_needs 24 = .ok (.ifCond .ne 10, 3) := dk_154 0 10 (dk_at dksX7_needs_1 0 rfl rfl)
theorem dX7_needs_27 : decode cX7_needs 27 = .ok (.aload_n 0, 1) := dk_42 (dk_at dksX7_needs_1 3 rfl rfl)
theorem dX7_needs_28 : decode cX7_needs 28 = .ok (.bipush (-2), 2) := dk_16 254 (dk_at dksX7_needs_1 4 rfl rfl)
theorem dX7_needs_30 : decode cX7_needs 30 = .ok (.invokevirtual 76, 3) := dk_182 0 76 (dk_at dksX7_needs_1 6 rfl rfl)
theorem dX7_needs_33 : decode cX7_needs 33 = .ok (.ireturn, 1) := dk_172 (dk_at dksX7_needs_1 9 rfl rfl)
theorem dX7_needs_34 : decode cX7_needs 34 = .ok (.iconst 0, 1) := dk_3 (dk_at dksX7_needs_1 10 rfl rfl)
theorem dX7_needs_35 : decode cX7_needs 35 = .ok (.istore_n 2, 1) := dk_61 (dk_at dksX7_needs_1 11 rfl rfl)
theorem dX7_needs_36 : decode cX7_needs 36 = .ok (.iconst 0, 1) := dk_3 (dk_at dksX7_needs_1 12 rfl rfl)
theorem dX7_needs_37 : decode cX7_needs 37 = .ok (.istore_n 3, 1) := dk_62 (dk_at dksX7_needs_1 13 rfl rfl)
theorem dX7_needs_38 : decode cX7_needs 38 = .ok (.iload_n 3, 1) := dk_29 (dk_at dksX7_needs_1 14 rfl rfl)
theorem dX7_needs_39 : decode cX7_needs 39 = .ok (.aload_n 0, 1) := dk_42 (dk_at dksX7_needs_1 15 rfl rfl)
theorem dX7_needs_40 : decode cX7_needs 40 = .ok (.getfield 442, 3) := dk_180 1 186 (dk_at dksX7_needs_1 16 rfl rfl)
theorem dX7_needs_43 : decode cX7_needs 43 = .ok (.getfield 393, 3) := dk_180 1 137 (dk_at dksX7_needs_1 19 rfl rfl)
theorem dX7_needs_46 : decode cX7_needs 46 = .ok (.if_icmp .ge 38, 3) := dk_162 0 38 (dk_at dksX7_needs_2 0 rfl rfl)
theorem dX7_needs_49 : decode cX7_needs 49 = .ok (.iload_n 2, 1) := dk_28 (dk_at dksX7_needs_2 3 rfl rfl)
theorem dX7_needs_50 : decode cX7_needs 50 = .ok (.aload_n 0, 1) := dk_42 (dk_at dksX7_needs_2 4 rfl rfl)
theorem dX7_needs_51 : decode cX7_needs 51 = .ok (.aload_n 0, 1) := dk_42 (dk_at dksX7_needs_2 5 rfl rfl)
theorem dX7_needs_52 : decode cX7_needs 52 = .ok (.getfield 442, 3) := dk_180 1 186 (dk_at dksX7_needs_2 6 rfl rfl)
theorem dX7_needs_55 : decode cX7_needs 55 = .ok (.getfield 391, 3) := dk_180 1 135 (dk_at dksX7_needs_2 9 rfl rfl)
theorem dX7_needs_58 : decode cX7_needs 58 = .ok (.iload_n 3, 1) := dk_29 (dk_at dksX7_needs_2 12 rfl rfl)
theorem dX7_needs_59 : decode cX7_needs 59 = .ok (.invokevirtual 576, 3) := dk_182 2 64 (dk_at dksX7_needs_2 13 rfl rfl)
theorem dX7_needs_62 : decode cX7_needs 62 = .ok (.iload_n 1, 1) := dk_27 (dk_at dksX7_needs_2 16 rfl rfl)
theorem dX7_needs_63 : decode cX7_needs 63 = .ok (.invokestatic 366, 3) := dk_184 1 110 (dk_at dksX7_needs_2 17 rfl rfl)
theorem dX7_needs_66 : decode cX7_needs 66 = .ok (.ifCond .eq 7, 3) := dk_153 0 7 (dk_at dksX7_needs_2 20 rfl rfl)
theorem dX7_needs_69 : decode cX7_needs 69 = .ok (.iconst 0, 1) := dk_3 (dk_at dksX7_needs_2 23 rfl rfl)
theorem dX7_needs_70 : decode cX7_needs 70 = .ok (.goto 6, 3) := dk_167 0 6 (dk_at dksX7_needs_3 0 rfl rfl)
theorem dX7_needs_73 : decode cX7_needs 73 = .ok (.iconst 1, 1) := dk_4 (dk_at dksX7_needs_3 3 rfl rfl)
theorem dX7_needs_74 : decode cX7_needs 74 = .ok (.iload_n 3, 1) := dk_29 (dk_at dksX7_needs_3 4 rfl rfl)
theorem dX7_needs_75 : decode cX7_needs 75 = .ok (.ishl, 1) := dk_120 (dk_at dksX7_needs_3 5 rfl rfl)
theorem dX7_needs_76 : decode cX7_needs 76 = .ok (.ior, 1) := dk_128 (dk_at dksX7_needs_3 6 rfl rfl)
theorem dX7_needs_77 : decode cX7_needs 77 = .ok (.istore_n 2, 1) := dk_61 (dk_at dksX7_needs_3 7 rfl rfl)
theorem dX7_needs_78 : decode cX7_needs 78 = .ok (.iinc 3 1, 3) := dk_132 3 1 (dk_at dksX7_needs_3 8 rfl rfl)
theorem dX7_needs_81 : decode cX7_needs 81 = .ok (.goto (-43), 3) := dk_167 255 213 (dk_at dksX7_needs_3 11 rfl rfl)
theorem dX7_needs_84 : decode cX7_needs 84 = .ok (.aload_n 0, 1) := dk_42 (dk_at dksX7_needs_3 14 rfl rfl)
theorem dX7_needs_85 : decode cX7_needs 85 = .ok (.iload_n 2, 1) := dk_28 (dk_at dksX7_needs_3 15 rfl rfl)
theorem dX7_needs_86 : decode cX7_needs 86 = .ok (.invokevirtual 76, 3) := dk_182 0 76 (dk_at dksX7_needs_3 16 rfl rfl)
theorem dX7_needs_89 : decode cX7_needs 89 = .ok (.ireturn, 1) := dk_172 (dk_at dksX7_needs_3 19 rfl rfl)
def dkwX1_enough_4 : List UInt8 := [167, 255, 195, 29, 172]
abbrev dktX1_enough_4 : List UInt8 := dkwX1_enough_4 ++ []
def dkwX1_enough_3 : List UInt8 := [167, 0, 20, 42, 27, 21, 4, 42, 182, 1, 109, 182, 1, 112, 153, 0, 6, 21, 4, 62, 132, 4, 1]
abbrev dktX1_enough_3 : List UInt8 := dkwX1_enough_3 ++ dktX1_enough_4
def dkwX1_enough_2 : List UInt8 := [21, 4, 28, 2, 130, 126, 154, 0, 38, 29, 16, 254, 159, 0, 15, 21, 4, 29, 184, 1, 49, 154, 0, 6]
abbrev dktX1_enough_2 : List UInt8 := dkwX1_enough_2 ++ dktX1_enough_3
def dkwX1_enough_1 : List UInt8 := [182, 1, 106, 61, 16, 254, 62, 3, 54, 4, 21, 4, 4, 42, 180, 0, 104, 180, 0, 145, 120, 162, 0, 53]
abbrev dktX1_enough_1 : List UInt8 := dkwX1_enough_1 ++ dktX1_enough_2
def dkwX1_enough_0 : List UInt8 := [42, 182, 0, 80, 42, 27, 182, 1, 103, 154, 0, 9, 42, 4, 182, 0, 94, 172, 42, 180, 0, 104]
abbrev dktX1_enough_0 : List UInt8 := dkwX1_enough_0 ++ dktX1_enough_1
theorem dksX1_enough_0 : cX1_enough.data.toList.drop 0 = dktX1_enough_0 := by decide +kernel
theorem dksX1_enough_1 : cX1_enough.data.toList.drop 22 = dktX1_enough_1 := dk_seg dksX1_enough_0 22 rfl rfl
theorem dksX1_enough_2 : cX1_enough.data.toList.drop 46 = dktX1_enough_2 := dk_seg dksX1_enough_1 24 rfl rfl
theorem dksX1_enough_3 : cX1_enough.data.toList.drop 70 = dktX1_enough_3 := dk_seg dksX1_enough_2 24 rfl rfl
theorem dksX1_enough_4 : cX1_enough.data.toList.drop 93 = dktX1_enough_4 := dk_seg dksX1_enough_3 23 rfl rfl
theorem dX1_enough_0 : decode cX1_enough 0 = .ok (.aload_n 0, 1) := dk_42 (dk_at dksX1_enough_0 0 rfl rfl)
theorem dX1_enough_1 : decode cX1_enough 1 = .ok (.invokevirtual 80, 3) := dk_182 0 80 (dk_at dksX1_enough_0 1 rfl rfl)
theorem dX1_enough_4 : decode cX1_enough 4 = .ok (.aload_n 0, 1) := dk_42 (dk_at dksX1_enough_0 4 rfl rfl)
theorem dX1_enough_5 : decode cX1_enough 5 = .ok (.iload_n 1, 1) := dk_27 (dk_at dksX1_enough_0 5 rfl rfl)
theorem dX1_enough_6 : decode cX1_enough 6 = .ok (.invokevirtual 359, 3) := dk_182 1 103 (dk_at dksX1_enough_0 6 rfl rfl)
theorem dX1_enough_9 : decode cX1_enough 9 = .ok (.ifCond .ne 9, 3) := dk_154 0 9 (dk_at dksX1_enough_0 9 rfl rfl)
theorem dX1_enough_12 : decode cX1_enough 12 = .ok (.aload_n 0, 1) := dk_42 (dk_at dksX1_enough_0 12 rfl rfl)
theorem dX1_enough_13 : decode cX1_enough 13 = .ok (.iconst 1, 1) := dk_4 (dk_at dksX1_enough_0 13 rfl rfl)
theorem dX1_enough_14 : decode cX1_enough 14 = .ok (.invokevirtual 94, 3) := dk_182 0 94 (dk_at dksX1_enough_0 14 rfl rfl)
theorem dX1_enough_17 : decode cX1_enough 17 = .ok (.ireturn, 1) := dk_172 (dk_at dksX1_enough_0 17 rfl rfl)
theorem dX1_enough_18 : decode cX1_enough 18 = .ok (.aload_n 0, 1) := dk_42 (dk_at dksX1_enough_0 18 rfl rfl)
theorem dX1_enough_19 : decode cX1_enough 19 = .ok (.getfield 104, 3) := dk_180 0 104 (dk_at dksX1_enough_0 19 rfl rfl)
theorem dX1_enough_22 : decode cX1_enough 22 = .ok (.invokevirtual 362, 3) := dk_182 1 106 (dk_at dksX1_enough_1 0 rfl rfl)
theorem dX1_enough_25 : decode cX1_enough 25 = .ok (.istore_n 2, 1) := dk_61 (dk_at dksX1_enough_1 3 rfl rfl)
theorem dX1_enough_26 : decode cX1_enough 26 = .ok (.bipush (-2), 2) := dk_16 254 (dk_at dksX1_enough_1 4 rfl rfl)
theorem dX1_enough_28 : decode cX1_enough 28 = .ok (.istore_n 3, 1) := dk_62 (dk_at dksX1_enough_1 6 rfl rfl)
theorem dX1_enough_29 : decode cX1_enough 29 = .ok (.iconst 0, 1) := dk_3 (dk_at dksX1_enough_1 7 rfl rfl)
theorem dX1_enough_30 : decode cX1_enough 30 = .ok (.istore 4, 2) := dk_54 4 (dk_at dksX1_enough_1 8 rfl rfl)
theorem dX1_enough_32 : decode cX1_enough 32 = .ok (.iload 4, 2) := dk_21 4 (dk_at dksX1_enough_1 10 rfl rfl)
theorem dX1_enough_34 : decode cX1_enough 34 = .ok (.iconst 1, 1) := dk_4 (dk_at dksX1_enough_1 12 rfl rfl)
theorem dX1_enough_35 : decode cX1_enough 35 = .ok (.aload_n 0, 1) := dk_42 (dk_at dksX1_enough_1 13 rfl rfl)
theorem dX1_enough_36 : decode cX1_enough 36 = .ok (.getfield 104, 3) := dk_180 0 104 (dk_at dksX1_enough_1 14 rfl rfl)
theorem dX1_enough_39 : decode cX1_enough 39 = .ok (.getfield 145, 3) := dk_180 0 145 (dk_at dksX1_enough_1 17 rfl rfl)
theorem dX1_enough_42 : decode cX1_enough 42 = .ok (.ishl, 1) := dk_120 (dk_at dksX1_enough_1 20 rfl rfl)
theorem dX1_enough_43 : decode cX1_enough 43 = .ok (.if_icmp .ge 53, 3) := dk_162 0 53 (dk_at dksX1_enough_1 21 rfl rfl)
theorem dX1_enough_46 : decode cX1_enough 46 = .ok (.iload 4, 2) := dk_21 4 (dk_at dksX1_enough_2 0 rfl rfl)
theorem dX1_enough_48 : decode cX1_enough 48 = .ok (.iload_n 2, 1) := dk_28 (dk_at dksX1_enough_2 2 rfl rfl)
theorem dX1_enough_49 : decode cX1_enough 49 = .ok (.iconst (-1), 1) := dk_2 (dk_at dksX1_enough_2 3 rfl rfl)
theorem dX1_enough_50 : decode cX1_enough 50 = .ok (.ixor, 1) := dk_130 (dk_at dksX1_enough_2 4 rfl rfl)
theorem dX1_enough_51 : decode cX1_enough 51 = .ok (.iand, 1) := dk_126 (dk_at dksX1_enough_2 5 rfl rfl)
theorem dX1_enough_52 : decode cX1_enough 52 = .ok (.ifCond .ne 38, 3) := dk_154 0 38 (dk_at dksX1_enough_2 6 rfl rfl)
theorem dX1_enough_55 : decode cX1_enough 55 = .ok (.iload_n 3, 1) := dk_29 (dk_at dksX1_enough_2 9 rfl rfl)
theorem dX1_enough_56 : decode cX1_enough 56 = .ok (.bipush (-2), 2) := dk_16 254 (dk_at dksX1_enough_2 10 rfl rfl)
theorem dX1_enough_58 : decode cX1_enough 58 = .ok (.if_icmp .eq 15, 3) := dk_159 0 15 (dk_at dksX1_enough_2 12 rfl rfl)
theorem dX1_enough_61 : decode cX1_enough 61 = .ok (.iload 4, 2) := dk_21 4 (dk_at dksX1_enough_2 15 rfl rfl)
theorem dX1_enough_63 : decode cX1_enough 63 = .ok (.iload_n 3, 1) := dk_29 (dk_at dksX1_enough_2 17 rfl rfl)
theorem dX1_enough_64 : decode cX1_enough 64 = .ok (.invokestatic 305, 3) := dk_184 1 49 (dk_at dksX1_enough_2 18 rfl rfl)
theorem dX1_enough_67 : decode cX1_enough 67 = .ok (.ifCond .ne 6, 3) := dk_154 0 6 (dk_at dksX1_enough_2 21 rfl rfl)
theorem dX1_enough_70 : decode cX1_enough 70 = .ok (.goto 20, 3) := dk_167 0 20 (dk_at dksX1_enough_3 0 rfl rfl)
theorem dX1_enough_73 : decode cX1_enough 73 = .ok (.aload_n 0, 1) := dk_42 (dk_at dksX1_enough_3 3 rfl rfl)
theorem dX1_enough_74 : decode cX1_enough 74 = .ok (.iload_n 1, 1) := dk_27 (dk_at dksX1_enough_3 4 rfl rfl)
theorem dX1_enough_75 : decode cX1_enough 75 = .ok (.iload 4, 2) := dk_21 4 (dk_at dksX1_enough_3 5 rfl rfl)
theorem dX1_enough_77 : decode cX1_enough 77 = .ok (.aload_n 0, 1) := dk_42 (dk_at dksX1_enough_3 7 rfl rfl)
theorem dX1_enough_78 : decode cX1_enough 78 = .ok (.invokevirtual 365, 3) := dk_182 1 109 (dk_at dksX1_enough_3 8 rfl rfl)
theorem dX1_enough_81 : decode cX1_enough 81 = .ok (.invokevirtual 368, 3) := dk_182 1 112 (dk_at dksX1_enough_3 11 rfl rfl)
theorem dX1_enough_84 : decode cX1_enough 84 = .ok (.ifCond .eq 6, 3) := dk_153 0 6 (dk_at dksX1_enough_3 14 rfl rfl)
theorem dX1_enough_87 : decode cX1_enough 87 = .ok (.iload 4, 2) := dk_21 4 (dk_at dksX1_enough_3 17 rfl rfl)
theorem dX1_enough_89 : decode cX1_enough 89 = .ok (.istore_n 3, 1) := dk_62 (dk_at dksX1_enough_3 19 rfl rfl)
theorem dX1_enough_90 : decode cX1_enough 90 = .ok (.iinc 4 1, 3) := dk_132 4 1 (dk_at dksX1_enough_3 20 rfl rfl)
theorem dX1_enough_93 : decode cX1_enough 93 = .ok (.goto (-61), 3) := dk_167 255 195 (dk_at dksX1_enough_4 0 rfl rfl)
theorem dX1_enough_96 : decode cX1_enough 96 = .ok (.iload_n 3, 1) := dk_29 (dk_at dksX1_enough_4 3 rfl rfl)
theorem dX1_enough_97 : decode cX1_enough 97 = .ok (.ireturn, 1) := dk_172 (dk_at dksX1_enough_4 4 rfl rfl)
def dkwX7_enough_3 : List UInt8 := [182, 2, 64, 27, 184, 1, 110, 153, 0, 5, 29, 61, 132, 3, 1, 167, 255, 194, 42, 28, 182, 0, 76, 172]
abbrev dktX7_enough_3 : List UInt8 := dkwX7_enough_3 ++ []
def dkwX7_enough_2 : List UInt8 := [154, 0, 35, 28, 16, 254, 159, 0, 14, 29, 184, 1, 140, 28, 184, 1, 140, 162, 0, 18, 42, 29, 2]
abbrev dktX7_enough_2 : List UInt8 := dkwX7_enough_2 ++ dktX7_enough_3
def dkwX7_enough_1 : List UInt8 := [29, 4, 42, 180, 1, 186, 180, 1, 132, 120, 162, 0, 55, 29, 42, 180, 1, 186, 180, 1, 135, 2, 130, 126]
abbrev dktX7_enough_1 : List UInt8 := dkwX7_enough_1 ++ dktX7_enough_2
def dkwX7_enough_0 : List UInt8 := [42, 3, 181, 0, 66, 42, 27, 182, 2, 67, 154, 0, 9, 42, 4, 182, 0, 72, 172, 16, 254, 61, 3, 62]
abbrev dktX7_enough_0 : List UInt8 := dkwX7_enough_0 ++ dktX7_enough_1
theorem dksX7_enough_0 : cX7_enough.data.toList.drop 0 = dktX7_enough_0 := by decide +kernel
theorem dksX7_enough_1 : cX7_enough.data.toList.drop 24 = dktX7_enough_1 := dk_seg dksX7_enough_0 24 rfl rfl
theorem dksX7_enough_2 : cX7_enough.data.toList.drop 48 = dktX7_enough_2 := dk_seg dksX7_enough_1 24 rfl rfl
theorem dksX7_enough_3 : cX7_enough.data.toList.drop 71 = dktX7_enough_3 := dk_seg dksX7_enough_2 23 rfl rfl
theorem dX7_enough_0 : decode cX7_enough 0 = .ok (.aload_n 0, 1) := dk_42 (dk_at dksX7_enough_0 0 rfl rfl)
theorem dX7_enough_1 : decode cX7_enough 1 = .ok (.iconst 0, 1) := dk_3 (dk_at dksX7_enough_0 1 rfl rfl)
theorem dX7_enough_2 : decode cX7_enough 2 = .ok (.putfield 66, 3) := dk_181 0 66 (dk_at dksX7_enough_0 2 rfl rfl)
theorem dX7_enough_5 : decode cX7_enough 5 = .ok (.aload_n 0, 1) := dk_42 (dk_at dksX7_enough_0 5 rfl rfl)
theorem dX7_enough_6 : decode cX7_enough 6 = .ok (.iload_n 1, 1) := dk_27 (dk_at dksX7_enough_0 6 rfl rfl)
theorem dX7_enough_7 : decode cX7_enough 7 = .ok (.invokevirtual 579, 3) := dk_182 2 67 (dk_at dksX7_enough_0 7 rfl rfl)
theorem dX7_enough_10 : decode cX7_enough 10 = .ok (.ifCond .ne 9, 3) := dk_154 0 9 (dk_at dksX7_enough_0 10 rfl rfl)
theorem dX7_enough_13 : decode cX7_enough 13 = .ok (.aload_n 0, 1) := dk_42 (dk_at dksX7_enough_0 13 rfl rfl)
theorem dX7_enough_14 : decode cX7_enough 14 = .ok (.iconst 1, 1) := dk_4 (dk_at dksX7_enough_0 14 rfl rfl)
theorem dX7_enough_15 : decode cX7_enough 15 = .ok (.invokevirtual 72, 3) := dk_182 0 72 (dk_at dksX7_enough_0 15 rfl rfl)
theorem dX7_enough_18 : decode cX7_enough 18 = .ok (.ireturn, 1) := dk_172 (dk_at dksX7_enough_0 18 rfl rfl)
theorem dX7_enough_19 : decode cX7_enough 19 = .ok (.bipush (-2), 2) := dk_16 254 (dk_at dksX7_enough_0 19 rfl rfl)
theorem dX7_enough_21 : decode cX7_enough 21 = .ok (.istore_n 2, 1) := dk_61 (dk_at dksX7_enough_0 21 rfl rfl)
theorem dX7_enough_22 : decode cX7_enough 22 = .ok (.iconst 0, 1) := dk_3 (dk_at dksX7_enough_0 22 rfl rfl)
theorem dX7_enough_23 : decode cX7_enough 23 = .ok (.istore_n 3, 1) := dk_62 (dk_at dksX7_enough_0 23 rfl rfl)
theorem dX7_enough_24 : decode cX7_enough 24 = .ok (.iload_n 3, 1) := dk_29 (dk_at dksX7_enough_1 0 rfl rfl)
theorem dX7_enough_25 : decode cX7_enough 25 = .ok (.iconst 1, 1) := dk_4 (dk_at dksX7_enough_1 1 rfl rfl)
theorem dX7_enough_26 : decode cX7_enough 26 = .ok (.aload_n 0, 1) := dk_42 (dk_at dksX7_enough_1 2 rfl rfl)
theorem dX7_enough_27 : decode cX7_enough 27 = .ok (.getfield 442, 3) := dk_180 1 186 (dk_at dksX7_enough_1 3 rfl rfl)
theorem dX7_enough_30 : decode cX7_enough 30 = .ok (.getfield 388, 3) := dk_180 1 132 (dk_at dksX7_enough_1 6 rfl rfl)
theorem dX7_enough_33 : decode cX7_enough 33 = .ok (.ishl, 1) := dk_120 (dk_at dksX7_enough_1 9 rfl rfl)
theorem dX7_enough_34 : decode cX7_enough 34 = .ok (.if_icmp .ge 55, 3) := dk_162 0 55 (dk_at dksX7_enough_1 10 rfl rfl)
theorem dX7_enough_37 : decode cX7_enough 37 = .ok (.iload_n 3, 1) := dk_29 (dk_at dksX7_enough_1 13 rfl rfl)
theorem dX7_enough_38 : decode cX7_enough 38 = .ok (.aload_n 0, 1) := dk_42 (dk_at dksX7_enough_1 14 rfl rfl)
theorem dX7_enough_39 : decode cX7_enough 39 = .ok (.getfield 442, 3) := dk_180 1 186 (dk_at dksX7_enough_1 15 rfl rfl)
theorem dX7_enough_42 : decode cX7_enough 42 = .ok (.getfield 391, 3) := dk_180 1 135 (dk_at dksX7_enough_1 18 rfl rfl)
theorem dX7_enough_45 : decode cX7_enough 45 = .ok (.iconst (-1), 1) := dk_2 (dk_at dksX7_enough_1 21 rfl rfl)
theorem dX7_enough_46 : decode cX7_enough 46 = .ok (.ixor, 1) := dk_130 (dk_at dksX7_enough_1 22 rfl rfl)
theorem dX7_enough_47 : decode cX7_enough 47 = .ok (.iand, 1) := dk_126 (dk_at dksX7_enough_1 23 rfl rfl)
theorem dX7_enough_48 : decode cX7_enough 48 = .ok (.ifCond .ne 35, 3) := dk_154 0 35 (dk_at dksX7_enough_2 0 rfl rfl)
theorem dX7_enough_51 : decode cX7_enough 51 = .ok (.iload_n 2, 1) := dk_28 (dk_at dksX7_enough_2 3 rfl rfl)
theorem dX7_enough_52 : decode cX7_enough 52 = .ok (.bipush (-2), 2) := dk_16 254 (dk_at dksX7_enough_2 4 rfl rfl)
theorem dX7_enough_54 : decode cX7_enough 54 = .ok (.if_icmp .eq 14, 3) := dk_159 0 14 (dk_at dksX7_enough_2 6 rfl rfl)
theorem dX7_enough_57 : decode cX7_enough 57 = .ok (.iload_n 3, 1) := dk_29 (dk_at dksX7_enough_2 9 rfl rfl)
theorem dX7_enough_58 : decode cX7_enough 58 = .ok (.invokestatic 396, 3) := dk_184 1 140 (dk_at dksX7_enough_2 10 rfl rfl)
theorem dX7_enough_61 : decode cX7_enough 61 = .ok (.iload_n 2, 1) := dk_28 (dk_at dksX7_enough_2 13 rfl rfl)
theorem dX7_enough_62 : decode cX7_enough 62 = .ok (.invokestatic 396, 3) := dk_184 1 140 (dk_at dksX7_enough_2 14 rfl rfl)
theorem dX7_enough_65 : decode cX7_enough 65 = .ok (.if_icmp .ge 18, 3) := dk_162 0 18 (dk_at dksX7_enough_2 17 rfl rfl)
theorem dX7_enough_68 : decode cX7_enough 68 = .ok (.aload_n 0, 1) := dk_42 (dk_at dksX7_enough_2 20 rfl rfl)
theorem dX7_enough_69 : decode cX7_enough 69 = .ok (.iload_n 3, 1) := dk_29 (dk_at dksX7_enough_2 21 rfl rfl)
theorem dX7_enough_70 : decode cX7_enough 70 = .ok (.iconst (-1), 1) := dk_2 (dk_at dksX7_enough_2 22 rfl rfl)
theorem dX7_enough_71 : decode cX7_enough 71 = .ok (.invokevirtual 576, 3) := dk_182 2 64 (dk_at dksX7_enough_3 0 rfl rfl)
theorem dX7_enough_74 : decode cX7_enough 74 = .ok (.iload_n 1, 1) := dk_27 (dk_at dksX7_enough_3 3 rfl rfl)
theorem dX7_enough_75 : decode cX7_enough 75 = .ok (.invokestatic 366, 3) := dk_184 1 110 (dk_at dksX7_enough_3 4 rfl rfl)
theorem dX7_enough_78 : decode cX7_enough 78 = .ok (.ifCond .eq 5, 3) := dk_153 0 5 (dk_at dksX7_enough_3 7 rfl rfl)
theorem dX7_enough_81 : decode cX7_enough 81 = .ok (.iload_n 3, 1) := dk_29 (dk_at dksX7_enough_3 10 rfl rfl)
theorem dX7_enough_82 : decode cX7_enough 82 = .ok (.istore_n 2, 1) := dk_61 (dk_at dksX7_enough_3 11 rfl rfl)
theorem dX7_enough_83 : decode cX7_enough 83 = .ok (.iinc 3 1, 3) := dk_132 3 1 (dk_at dksX7_enough_3 12 rfl rfl)
theorem dX7_enough_86 : decode cX7_enough 86 = .ok (.goto (-62), 3) := dk_167 255 194 (dk_at dksX7_enough_3 15 rfl rfl)
theorem dX7_enough_89 : decode cX7_enough 89 = .ok (.aload_n 0, 1) := dk_42 (dk_at dksX7_enough_3 18 rfl rfl)
theorem dX7_enough_90 : decode cX7_enough 90 = .ok (.iload_n 2, 1) := dk_28 (dk_at dksX7_enough_3 19 rfl rfl)
theorem dX7_enough_91 : decode cX7_enough 91 = .ok (.invokevirtual 76, 3) := dk_182 0 76 (dk_at dksX7_enough_3 20 rfl rfl)
theorem dX7_enough_94 : decode cX7_enough 94 = .ok (.ireturn, 1) := dk_172 (dk_at dksX7_enough_3 23 rfl rfl)
def dkwX1_cheeseWhy_1 : List UInt8 := [167, 0, 5, 16, 6, 172]
abbrev dktX1_cheeseWhy_1 : List UInt8 := dkwX1_cheeseWhy_1 ++ []
def dkwX1_cheeseWhy_0 : List UInt8 := [42, 27, 182, 0, 255, 154, 0, 7, 4, 167, 0, 19, 42, 180, 0, 104, 180, 1, 146, 153, 0, 7, 3]
abbrev dktX1_cheeseWhy_0 : List UInt8 := dkwX1_cheeseWhy_0 ++ dktX1_cheeseWhy_1
theorem dksX1_cheeseWhy_0 : cX1_cheeseWhy.data.toList.drop 0 = dktX1_cheeseWhy_0 := by decide +kernel
theorem dksX1_cheeseWhy_1 : cX1_cheeseWhy.data.toList.drop 23 = dktX1_cheeseWhy_1 := dk_seg dksX1_cheeseWhy_0 23 rfl rfl
theorem dX1_cheeseWhy_0 : decode cX1_cheeseWhy 0 = .ok (.aload_n 0, 1) := dk_42 (dk_at dksX1_cheeseWhy_0 0 rfl rfl)
theorem dX1_cheeseWhy_1 : decode cX1_cheeseWhy 1 = .ok (.iload_n 1, 1) := dk_27 (dk_at dksX1_cheeseWhy_0 1 rfl rfl)
theorem dX1_cheeseWhy_2 : decode cX1_cheeseWhy 2 = .ok (.invokevirtual 255, 3) := dk_182 0 255 (dk_at dksX1_cheeseWhy_0 2 rfl rfl)
theorem dX1_cheeseWhy_5 : decode cX1_cheeseWhy 5 = .ok (.ifCond .ne 7, 3) := dk_154 0 7 (dk_at dksX1_cheeseWhy_0 5 rfl rfl)
theorem dX1_cheeseWhy_8 : decode cX1_cheeseWhy 8 = .ok (.iconst 1, 1) := dk_4 (dk_at dksX1_cheeseWhy_0 8 rfl rfl)
theorem dX1_cheeseWhy_9 : decode cX1_cheeseWhy 9 = .ok (.goto 19, 3) := dk_167 0 19 (dk_at dksX1_cheeseWhy_0 9 rfl rfl)
theorem dX1_cheeseWhy_12 : decode cX1_cheeseWhy 12 = .ok (.aload_n 0, 1) := dk_42 (dk_at dksX1_cheeseWhy_0 12 rfl rfl)
theorem dX1_cheeseWhy_13 : decode cX1_cheeseWhy 13 = .ok (.getfield 104, 3) := dk_180 0 104 (dk_at dksX1_cheeseWhy_0 13 rfl rfl)
theorem dX1_cheeseWhy_16 : decode cX1_cheeseWhy 16 = .ok (.getfield 402, 3) := dk_180 1 146 (dk_at dksX1_cheeseWhy_0 16 rfl rfl)
theorem dX1_cheeseWhy_19 : decode cX1_cheeseWhy 19 = .ok (.ifCond .eq 7, 3) := dk_153 0 7 (dk_at dksX1_cheeseWhy_0 19 rfl rfl)
theorem dX1_cheeseWhy_22 : decode cX1_cheeseWhy 22 = .ok (.iconst 0, 1) := dk_3 (dk_at dksX1_cheeseWhy_0 22 rfl rfl)
theorem dX1_cheeseWhy_23 : decode cX1_cheeseWhy 23 = .ok (.goto 5, 3) := dk_167 0 5 (dk_at dksX1_cheeseWhy_1 0 rfl rfl)
theorem dX1_cheeseWhy_26 : decode cX1_cheeseWhy 26 = .ok (.bipush 6, 2) := dk_16 6 (dk_at dksX1_cheeseWhy_1 3 rfl rfl)
theorem dX1_cheeseWhy_28 : decode cX1_cheeseWhy 28 = .ok (.ireturn, 1) := dk_172 (dk_at dksX1_cheeseWhy_1 5 rfl rfl)
def dkwX1_isCheese_4 : List UInt8 := [167, 255, 166, 28, 172]
abbrev dktX1_isCheese_4 : List UInt8 := dkwX1_isCheese_4 ++ []
def dkwX1_isCheese_3 : List UInt8 := [21, 4, 42, 180, 0, 104, 180, 1, 149, 29, 46, 160, 0, 7, 4, 167, 0, 4, 3, 61, 132, 3, 1]
abbrev dktX1_isCheese_3 : List UInt8 := dkwX1_isCheese_3 ++ dktX1_isCheese_4
def dkwX1_isCheese_2 : List UInt8 := [21, 5, 29, 182, 1, 8, 167, 0, 4, 3, 96, 54, 4, 132, 5, 1, 167, 255, 213, 28, 153, 0, 21]
abbrev dktX1_isCheese_2 : List UInt8 := dkwX1_isCheese_2 ++ dktX1_isCheese_3
def dkwX1_isCheese_1 : List UInt8 := [180, 0, 104, 180, 0, 139, 162, 0, 37, 21, 4, 27, 21, 5, 184, 0, 203, 153, 0, 16, 42, 180, 0, 46]
abbrev dktX1_isCheese_1 : List UInt8 := dkwX1_isCheese_1 ++ dktX1_isCheese_2
def dkwX1_isCheese_0 : List UInt8 := [4, 61, 3, 62, 29, 42, 180, 0, 104, 180, 0, 133, 162, 0, 85, 3, 54, 4, 3, 54, 5, 21, 5, 42]
abbrev dktX1_isCheese_0 : List UInt8 := dkwX1_isCheese_0 ++ dktX1_isCheese_1
theorem dksX1_isCheese_0 : cX1_isCheese.data.toList.drop 0 = dktX1_isCheese_0 := by decide +kernel
theorem dksX1_isCheese_1 : cX1_isCheese.data.toList.drop 24 = dktX1_isCheese_1 := dk_seg dksX1_isCheese_0 24 rfl rfl
theorem dksX1_isCheese_2 : cX1_isCheese.data.toList.drop 48 = dktX1_isCheese_2 := dk_seg dksX1_isCheese_1 24 rfl rfl
theorem dksX1_isCheese_3 : cX1_isCheese.data.toList.drop 71 = dktX1_isCheese_3 := dk_seg dksX1_isCheese_2 23 rfl rfl
theorem dksX1_isCheese_4 : cX1_isCheese.data.toList.drop 94 = dktX1_isCheese_4 := dk_seg dksX1_isCheese_3 23 rfl rfl
theorem dX1_isCheese_0 : decode cX1_isCheese 0 = .ok (.iconst 1, 1) := dk_4 (dk_at dksX1_isCheese_0 0 rfl rfl)
theorem dX1_isCheese_1 : decode cX1_isCheese 1 = .ok (.istore_n 2, 1) := dk_61 (dk_at dksX1_isCheese_0 1 rfl rfl)
theorem dX1_isCheese_2 : decode cX1_isCheese 2 = .ok (.iconst 0, 1) := dk_3 (dk_at dksX1_isCheese_0 2 rfl rfl)
theorem dX1_isCheese_3 : decode cX1_isCheese 3 = .ok (.istore_n 3, 1) := dk_62 (dk_at dksX1_isCheese_0 3 rfl rfl)
theorem dX1_isCheese_4 : decode cX1_isCheese 4 = .ok (.iload_n 3, 1) := dk_29 (dk_at dksX1_isCheese_0 4 rfl rfl)
theorem dX1_isCheese_5 : decode cX1_isCheese 5 = .ok (.aload_n 0, 1) := dk_42 (dk_at dksX1_isCheese_0 5 rfl rfl)
theorem dX1_isCheese_6 : decode cX1_isCheese 6 = .ok (.getfield 104, 3) := dk_180 0 104 (dk_at dksX1_isCheese_0 6 rfl rfl)
theorem dX1_isCheese_9 : decode cX1_isCheese 9 = .ok (.getfield 133, 3) := dk_180 0 133 (dk_at dksX1_isCheese_0 9 rfl rfl)
theorem dX1_isCheese_12 : decode cX1_isCheese 12 = .ok (.if_icmp .ge 85, 3) := dk_162 0 85 (dk_at dksX1_isCheese_0 12 rfl rfl)
theorem dX1_isCheese_15 : decode cX1_isCheese 15 = .ok (.iconst 0, 1) := dk_3 (dk_at dksX1_isCheese_0 15 rfl rfl)
theorem dX1_isCheese_16 : decode cX1_isCheese 16 = .ok (.istore 4, 2) := dk_54 4 (dk_at dksX1_isCheese_0 16 rfl rfl)
theorem dX1_isCheese_18 : decode cX1_isCheese 18 = .ok (.iconst 0, 1) := dk_3 (dk_at dksX1_isCheese_0 18 rfl rfl)
theorem dX1_isCheese_19 : decode cX1_isCheese 19 = .ok (.istore 5, 2) := dk_54 5 (dk_at dksX1_isCheese_0 19 rfl rfl)
theorem dX1_isCheese_21 : decode cX1_isCheese 21 = .ok (.iload 5, 2) := dk_21 5 (dk_at dksX1_isCheese_0 21 rfl rfl)
theorem dX1_isCheese_23 : decode cX1_isCheese 23 = .ok (.aload_n 0, 1) := dk_42 (dk_at dksX1_isCheese_0 23 rfl rfl)
theorem dX1_isCheese_24 : decode cX1_isCheese 24 = .ok (.getfield 104, 3) := dk_180 0 104 (dk_at dksX1_isCheese_1 0 rfl rfl)
theorem dX1_isCheese_27 : decode cX1_isCheese 27 = .ok (.getfield 139, 3) := dk_180 0 139 (dk_at dksX1_isCheese_1 3 rfl rfl)
theorem dX1_isCheese_30 : decode cX1_isCheese 30 = .ok (.if_icmp .ge 37, 3) := dk_162 0 37 (dk_at dksX1_isCheese_1 6 rfl rfl)
theorem dX1_isCheese_33 : decode cX1_isCheese 33 = .ok (.iload 4, 2) := dk_21 4 (dk_at dksX1_isCheese_1 9 rfl rfl)
theorem dX1_isCheese_35 : decode cX1_isCheese 35 = .ok (.iload_n 1, 1) := dk_27 (dk_at dksX1_isCheese_1 11 rfl rfl)
theorem dX1_isCheese_36 : decode cX1_isCheese 36 = .ok (.iload 5, 2) := dk_21 5 (dk_at dksX1_isCheese_1 12 rfl rfl)
theorem dX1_isCheese_38 : decode cX1_isCheese 38 = .ok (.invokestatic 203, 3) := dk_184 0 203 (dk_at dksX1_isCheese_1 14 rfl rfl)
theorem dX1_isCheese_41 : decode cX1_isCheese 41 = .ok (.ifCond .eq 16, 3) := dk_153 0 16 (dk_at dksX1_isCheese_1 17 rfl rfl)
theorem dX1_isCheese_44 : decode cX1_isCheese 44 = .ok (.aload_n 0, 1) := dk_42 (dk_at dksX1_isCheese_1 20 rfl rfl)
theorem dX1_isCheese_45 : decode cX1_isCheese 45 = .ok (.getfield 46, 3) := dk_180 0 46 (dk_at dksX1_isCheese_1 21 rfl rfl)
theorem dX1_isCheese_48 : decode cX1_isCheese 48 = .ok (.iload 5, 2) := dk_21 5 (dk_at dksX1_isCheese_2 0 rfl rfl)
theorem dX1_isCheese_50 : decode cX1_isCheese 50 = .ok (.iload_n 3, 1) := dk_29 (dk_at dksX1_isCheese_2 2 rfl rfl)
theorem dX1_isCheese_51 : decode cX1_isCheese 51 = .ok (.invokevirtual 264, 3) := dk_182 1 8 (dk_at dksX1_isCheese_2 3 rfl rfl)
theorem dX1_isCheese_54 : decode cX1_isCheese 54 = .ok (.goto 4, 3) := dk_167 0 4 (dk_at dksX1_isCheese_2 6 rfl rfl)
theorem dX1_isCheese_57 : decode cX1_isCheese 57 = .ok (.iconst 0, 1) := dk_3 (dk_at dksX1_isCheese_2 9 rfl rfl)
theorem dX1_isCheese_58 : decode cX1_isCheese 58 = .ok (.iadd, 1) := dk_96 (dk_at dksX1_isCheese_2 10 rfl rfl)
theorem dX1_isCheese_59 : decode cX1_isCheese 59 = .ok (.istore 4, 2) := dk_54 4 (dk_at dksX1_isCheese_2 11 rfl rfl)
theorem dX1_isCheese_61 : decode cX1_isCheese 61 = .ok (.iinc 5 1, 3) := dk_132 5 1 (dk_at dksX1_isCheese_2 13 rfl rfl)
theorem dX1_isCheese_64 : decode cX1_isCheese 64 = .ok (.goto (-43), 3) := dk_167 255 213 (dk_at dksX1_isCheese_2 16 rfl rfl)
theorem dX1_isCheese_67 : decode cX1_isCheese 67 = .ok (.iload_n 2, 1) := dk_28 (dk_at dksX1_isCheese_2 19 rfl rfl)
theorem dX1_isCheese_68 : decode cX1_isCheese 68 = .ok (.ifCond .eq 21, 3) := dk_153 0 21 (dk_at dksX1_isCheese_2 20 rfl rfl)
theorem dX1_isCheese_71 : decode cX1_isCheese 71 = .ok (.iload 4, 2) := dk_21 4 (dk_at dksX1_isCheese_3 0 rfl rfl)
theorem dX1_isCheese_73 : decode cX1_isCheese 73 = .ok (.aload_n 0, 1) := dk_42 (dk_at dksX1_isCheese_3 2 rfl rfl)
theorem dX1_isCheese_74 : decode cX1_isCheese 74 = .ok (.getfield 104, 3) := dk_180 0 104 (dk_at dksX1_isCheese_3 3 rfl rfl)
theorem dX1_isCheese_77 : decode cX1_isCheese 77 = .ok (.getfield 405, 3) := dk_180 1 149 (dk_at dksX1_isCheese_3 6 rfl rfl)
theorem dX1_isCheese_80 : decode cX1_isCheese 80 = .ok (.iload_n 3, 1) := dk_29 (dk_at dksX1_isCheese_3 9 rfl rfl)
theorem dX1_isCheese_81 : decode cX1_isCheese 81 = .ok (.iaload, 1) := dk_46 (dk_at dksX1_isCheese_3 10 rfl rfl)
theorem dX1_isCheese_82 : decode cX1_isCheese 82 = .ok (.if_icmp .ne 7, 3) := dk_160 0 7 (dk_at dksX1_isCheese_3 11 rfl rfl)
theorem dX1_isCheese_85 : decode cX1_isCheese 85 = .ok (.iconst 1, 1) := dk_4 (dk_at dksX1_isCheese_3 14 rfl rfl)
theorem dX1_isCheese_86 : decode cX1_isCheese 86 = .ok (.goto 4, 3) := dk_167 0 4 (dk_at dksX1_isCheese_3 15 rfl rfl)
theorem dX1_isCheese_89 : decode cX1_isCheese 89 = .ok (.iconst 0, 1) := dk_3 (dk_at dksX1_isCheese_3 18 rfl rfl)
theorem dX1_isCheese_90 : decode cX1_isCheese 90 = .ok (.istore_n 2, 1) := dk_61 (dk_at dksX1_isCheese_3 19 rfl rfl)
theorem dX1_isCheese_91 : decode cX1_isCheese 91 = .ok (.iinc 3 1, 3) := dk_132 3 1 (dk_at dksX1_isCheese_3 20 rfl rfl)
theorem dX1_isCheese_94 : decode cX1_isCheese 94 = .ok (.goto (-90), 3) := dk_167 255 166 (dk_at dksX1_isCheese_4 0 rfl rfl)
theorem dX1_isCheese_97 : decode cX1_isCheese 97 = .ok (.iload_n 2, 1) := dk_28 (dk_at dksX1_isCheese_4 3 rfl rfl)
theorem dX1_isCheese_98 : decode cX1_isCheese 98 = .ok (.ireturn, 1) := dk_172 (dk_at dksX1_isCheese_4 4 rfl rfl)
theorem fl_X7_565 : FL "GoatCourtModel" 565 [26] 36 (tyOf 0) := fun kd h => (by cases List.mem_singleton.mp h; exact ⟨6, _, 36, "GoatCourtModel", rfl, rfl, by decide, rfl, rfl, Or.inl q1925, Or.inl rfl⟩)
theorem fl_X7_562 : FL "GoatCourtModel" 562 [26] 35 (tyOf 0) := fun kd h => (by cases List.mem_singleton.mp h; exact ⟨6, _, 35, "GoatCourtModel", rfl, rfl, by decide, rfl, rfl, Or.inl q1924, Or.inl rfl⟩)
theorem fp_X7_ledAt_66 : FP mX7_ledAt 66 [26] 0 (tyOf 0) := fun kd h => (by cases List.mem_singleton.mp h; exact ⟨6, _, 0, "GoatCourtModel", rfl, rfl, by decide, rfl, rfl, Or.inl rfl, Or.inl ⟨rfl, Or.inl q1889⟩⟩)
theorem fp_X7_scared_66 : FP mX7_scared 66 [26] 0 (tyOf 0) := fun kd h => (by cases List.mem_singleton.mp h; exact ⟨6, _, 0, "GoatCourtModel", rfl, rfl, by decide, rfl, rfl, Or.inl rfl, Or.inl ⟨rfl, Or.inl q1889⟩⟩)
theorem fl_X1_145 : FL "GoatCourt" 145 [27] 19 (tyOf 0) := fun kd h => (by cases List.mem_singleton.mp h; exact ⟨7, _, 19, "GoatCourt$Hill", rfl, rfl, by decide, rfl, rfl, Or.inl q582, Or.inl rfl⟩)
theorem fl_X8_130 : FL "GoatCourt$Hill" 130 [37] 0 (tyOf 1) := fun kd h => (by cases List.mem_singleton.mp h; exact ⟨17, _, 2, "GoatCourt$Fact", rfl, rfl, by decide, rfl, rfl, Or.inl q1209, Or.inl rfl⟩)
theorem fl_X1_353 : FL "GoatCourt" 353 [27] 20 (tyOf 0) := fun kd h => (by cases List.mem_singleton.mp h; exact ⟨7, _, 20, "GoatCourt$Hill", rfl, rfl, by decide, rfl, rfl, Or.inl q586, Or.inl rfl⟩)
theorem fl_X8_116 : FL "GoatCourt$Hill" 116 [27] 20 (tyOf 0) := fun kd h => (by cases List.mem_singleton.mp h; exact ⟨7, _, 20, "GoatCourt$Hill", rfl, rfl, by decide, rfl, rfl, Or.inl q584, Or.inl rfl⟩)
theorem fl_X8_56 : FL "GoatCourt$Hill" 56 [27] 9 (.array (.object "GoatCourt$Rule")) := fun kd h => (by cases List.mem_singleton.mp h; exact ⟨7, _, 9, "GoatCourt$Hill", rfl, rfl, by decide, rfl, rfl, Or.inl q549, Or.inl rfl⟩)
theorem fl_X8_123 : FL "GoatCourt$Hill" 123 [38] 1 (tyOf 0) := fun kd h => (by cases List.mem_singleton.mp h; exact ⟨18, _, 1, "GoatCourt$Rule", rfl, rfl, by decide, rfl, rfl, Or.inl q1237, Or.inl rfl⟩)
theorem fp_X7_follows_66 : FP mX7_follows 66 [26] 0 (tyOf 0) := fun kd h => (by cases List.mem_singleton.mp h; exact ⟨6, _, 0, "GoatCourtModel", rfl, rfl, by decide, rfl, rfl, Or.inl rfl, Or.inl ⟨rfl, Or.inl q1889⟩⟩)
theorem fl_X1_381 : FL "GoatCourt" 381 [27] 9 (.array (.object "GoatCourt$Rule")) := fun kd h => (by cases List.mem_singleton.mp h; exact ⟨7, _, 9, "GoatCourt$Hill", rfl, rfl, by decide, rfl, rfl, Or.inl q551, Or.inl rfl⟩)
theorem fl_X1_385 : FL "GoatCourt" 385 [38] 1 (tyOf 0) := fun kd h => (by cases List.mem_singleton.mp h; exact ⟨18, _, 1, "GoatCourt$Rule", rfl, rfl, by decide, rfl, rfl, Or.inl q1239, Or.inl rfl⟩)
theorem fl_X1_371 : FL "GoatCourt" 371 [27] 8 (.array (.object "GoatCourt$Fact")) := fun kd h => (by cases List.mem_singleton.mp h; exact ⟨7, _, 8, "GoatCourt$Hill", rfl, rfl, by decide, rfl, rfl, Or.inl q548, Or.inl rfl⟩)
theorem fl_X1_375 : FL "GoatCourt" 375 [37] 0 (tyOf 1) := fun kd h => (by cases List.mem_singleton.mp h; exact ⟨17, _, 2, "GoatCourt$Fact", rfl, rfl, by decide, rfl, rfl, Or.inl q1211, Or.inl rfl⟩)
theorem fl_X1_393 : FL "GoatCourt" 393 [27] 21 (tyOf 0) := fun kd h => (by cases List.mem_singleton.mp h; exact ⟨7, _, 21, "GoatCourt$Hill", rfl, rfl, by decide, rfl, rfl, Or.inl q588, Or.inl rfl⟩)
theorem fl_X1_396 : FL "GoatCourt" 396 [27] 3 (.array (.int)) := fun kd h => (by cases List.mem_singleton.mp h; exact ⟨7, _, 3, "GoatCourt$Hill", rfl, rfl, by decide, rfl, rfl, Or.inl q530, Or.inl rfl⟩)
theorem fp_X7_step_66 : FP mX7_step 66 [26] 0 (tyOf 0) := fun kd h => (by cases List.mem_singleton.mp h; exact ⟨6, _, 0, "GoatCourtModel", rfl, rfl, by decide, rfl, rfl, Or.inl rfl, Or.inl ⟨rfl, Or.inl q1889⟩⟩)
theorem fp_X7_needs_66 : FP mX7_needs 66 [26] 0 (tyOf 0) := fun kd h => (by cases List.mem_singleton.mp h; exact ⟨6, _, 0, "GoatCourtModel", rfl, rfl, by decide, rfl, rfl, Or.inl rfl, Or.inl ⟨rfl, Or.inl q1889⟩⟩)
theorem fp_X7_enough_66 : FP mX7_enough 66 [26] 0 (tyOf 0) := fun kd h => (by cases List.mem_singleton.mp h; exact ⟨6, _, 0, "GoatCourtModel", rfl, rfl, by decide, rfl, rfl, Or.inl rfl, Or.inl ⟨rfl, Or.inl q1889⟩⟩)
theorem fl_X1_402 : FL "GoatCourt" 402 [27] 23 (tyOf 1) := fun kd h => (by cases List.mem_singleton.mp h; exact ⟨7, _, 23, "GoatCourt$Hill", rfl, rfl, by decide, rfl, rfl, Or.inl q594, Or.inl rfl⟩)
theorem fl_X1_405 : FL "GoatCourt" 405 [27] 4 (.array (.int)) := fun kd h => (by cases List.mem_singleton.mp h; exact ⟨7, _, 4, "GoatCourt$Hill", rfl, rfl, by decide, rfl, rfl, Or.inl q533, Or.inl rfl⟩)
theorem c_X1_ledAt (G : Gx) (h0 : G0 G) (N : Nat) (a0 : Nat) (i1 : Int32) (i2 : Int32) (i3 : Int32) (i4 : Int32) (i5 : Int32) (σ : Mem) : Ct G mX1_ledAt rhoI [vR (some a0), vI i1, vI i2, vI i3, vI i4, vI i5] σ (f_X1_ledAt N a0 i1 i2 i3 i4 i5 σ) := by
  refine Ct_of h0 (by decide) rfl (Nat.le_of_ble_eq_true rfl) (L0 := [some (vR (some a0)), some (vI i1), some (vI i2), some (vI i3), some (vI i4), some (vI i5), none, none]) rfl ?_
  unfold f_X1_ledAt
  refine r_aload_n (q := 1) dX1_ledAt_0 rfl rfl rfl ?_
  refine r_ob (fun a3 ha3 => ?_)
  obtain ⟨hea3, hka3⟩ := o_at_eq ha3
  cases hea3
  refine r_callV (q := 4) (c_X1_anew G h0 N _ _) (cl_V (ci := 0) rfl rfl (lw_V q485 q487 qs2 q167 q488) (hd_X1_anew) ⟨Nat.le_of_ble_eq_true rfl, Nat.le_of_ble_eq_true rfl⟩ (List.mem_singleton.mp hka3) rfl rfl rfl (Nat.le_of_ble_eq_true rfl) dX1_ledAt_1) rfl (fun u1 σ2 => ?_)
  refine r_aload_n (q := 5) dX1_ledAt_4 rfl rfl rfl ?_
  refine r_iload_n (q := 6) dX1_ledAt_5 rfl rfl rfl ?_
  refine r_iload_n (q := 7) dX1_ledAt_6 rfl rfl rfl ?_
  refine r_iload_n (q := 8) dX1_ledAt_7 rfl rfl rfl ?_
  refine r_iload (q := 10) dX1_ledAt_8 rfl rfl ?_
  refine r_ob (fun a6 ha6 => ?_)
  obtain ⟨hea6, hka6⟩ := o_at_eq ha6
  cases hea6
  refine r_callI (q := 13) (c_X1_luredWhy G h0 N _ _ _ _ _ _) (cl_V (ci := 0) rfl rfl (lw_V q1669 q1671 qs68 q167 q1672) (hd_X1_luredWhy) ⟨Nat.le_of_ble_eq_true rfl, Nat.le_of_ble_eq_true rfl⟩ (List.mem_singleton.mp hka6) rfl rfl rfl (Nat.le_of_ble_eq_true rfl) dX1_ledAt_10) rfl (fun x4 σ5 => ?_)
  refine r_istore (q := 15) dX1_ledAt_13 rfl (Nat.le_of_ble_eq_true rfl) rfl ?_
  refine r_iload (q := 17) dX1_ledAt_15 rfl rfl ?_
  refine r_if_eq (q := 20) (t := 27) dX1_ledAt_17 rfl (by decide) (fun _ => ?_) (fun _ => ?_)
  · refine r_aload_n (q := 28) dX1_ledAt_27 rfl rfl rfl ?_
    refine r_iload_n (q := 29) dX1_ledAt_28 rfl rfl rfl ?_
    refine r_iload_n (q := 30) dX1_ledAt_29 rfl rfl rfl ?_
    refine r_iload_n (q := 31) dX1_ledAt_30 rfl rfl rfl ?_
    refine r_iload (q := 33) dX1_ledAt_31 rfl rfl ?_
    refine r_iconst (q := 34) (v := (0 : Int32)) dX1_ledAt_33 rfl (by decide) ?_
    refine r_ob (fun a9 ha9 => ?_)
    obtain ⟨hea9, hka9⟩ := o_at_eq ha9
    cases hea9
    refine r_callI (q := 37) (c_X1_lured G h0 N _ _ _ _ _ _ _) (cl_V (ci := 0) rfl rfl (lw_V q1673 q1675 qs69 q167 q1676) (hd_X1_lured) ⟨Nat.le_of_ble_eq_true rfl, Nat.le_of_ble_eq_true rfl⟩ (List.mem_singleton.mp hka9) rfl rfl rfl (Nat.le_of_ble_eq_true rfl) dX1_ledAt_34) rfl (fun x7 σ8 => ?_)
    refine r_istore (q := 39) dX1_ledAt_37 rfl (Nat.le_of_ble_eq_true rfl) rfl ?_
    refine r_iload (q := 41) dX1_ledAt_39 rfl rfl ?_
    refine r_iconst (q := 42) (v := (0 : Int32)) dX1_ledAt_41 rfl (by decide) ?_
    refine r_iload (q := 44) dX1_ledAt_42 rfl rfl ?_
    refine r_iconst (q := 45) (v := (1 : Int32)) dX1_ledAt_44 rfl (by decide) ?_
    refine r_isub (q := 46) dX1_ledAt_45 rfl ?_
    refine r_callI (q := 49) (c_X1_in G h0 N _ _ _ _) (cl_S rfl rfl (lw_S q489 q490 q167 q491) (hd_X1_in) ⟨Nat.le_of_ble_eq_true rfl, Nat.le_of_ble_eq_true rfl⟩ rfl (Nat.le_of_ble_eq_true rfl) dX1_ledAt_46) rfl (fun x10 σ11 => ?_)
    refine r_if_eq (q := 52) (t := 89) dX1_ledAt_49 rfl (by decide) (fun _ => ?_) (fun _ => ?_)
    · refine r_aload_n (q := 90) dX1_ledAt_89 rfl rfl rfl ?_
      refine r_iconst (q := 91) (v := (1 : Int32)) dX1_ledAt_90 rfl (by decide) ?_
      refine r_ob (fun a14 ha14 => ?_)
      obtain ⟨hea14, hka14⟩ := o_at_eq ha14
      cases hea14
      refine r_callI (q := 94) (c_X1_no G h0 N _ _ _) (cl_V (ci := 0) rfl rfl (lw_V q492 q494 qs3 q167 q495) (hd_X1_no) ⟨Nat.le_of_ble_eq_true rfl, Nat.le_of_ble_eq_true rfl⟩ (List.mem_singleton.mp hka14) rfl rfl rfl (Nat.le_of_ble_eq_true rfl) dX1_ledAt_91) rfl (fun x12 σ13 => ?_)
      exact r_ireturn rfl rfl dX1_ledAt_94
    · refine r_bipush (q := 54) (v := (100 : Int32)) dX1_ledAt_52 rfl (by decide) ?_
      refine r_aload_n (q := 55) dX1_ledAt_54 rfl rfl rfl ?_
      refine r_gR (q := 58) fl_X1_74 rfl dX1_ledAt_55 rfl (fun x15 => ?_)
      refine r_iload (q := 60) dX1_ledAt_58 rfl rfl ?_
      refine r_iaload (q := 61) dX1_ledAt_60 rfl (fun x16 => ?_)
      refine r_aload_n (q := 62) dX1_ledAt_61 rfl rfl rfl ?_
      refine r_gR (q := 65) fl_X1_104 rfl dX1_ledAt_62 rfl (fun x17 => ?_)
      refine r_gI (q := 68) fl_X1_148 dX1_ledAt_65 rfl (fun x18 => ?_)
      refine r_idiv (q := 69) dX1_ledAt_68 rfl (fun x19 _ => ?_)
      refine r_imul (q := 70) dX1_ledAt_69 rfl ?_
      refine r_aload_n (q := 71) dX1_ledAt_70 rfl rfl rfl ?_
      refine r_gR (q := 74) fl_X1_74 rfl dX1_ledAt_71 rfl (fun x20 => ?_)
      refine r_iload (q := 76) dX1_ledAt_74 rfl rfl ?_
      refine r_iaload (q := 77) dX1_ledAt_76 rfl (fun x21 => ?_)
      refine r_aload_n (q := 78) dX1_ledAt_77 rfl rfl rfl ?_
      refine r_gR (q := 81) fl_X1_104 rfl dX1_ledAt_78 rfl (fun x22 => ?_)
      refine r_gI (q := 84) fl_X1_148 dX1_ledAt_81 rfl (fun x23 => ?_)
      refine r_irem (q := 85) dX1_ledAt_84 rfl (fun x24 _ => ?_)
      refine r_iadd (q := 86) dX1_ledAt_85 rfl ?_
      refine r_goto (q := 94) dX1_ledAt_86 (by decide) ?_
      exact r_ireturn rfl rfl dX1_ledAt_94
  · refine r_aload_n (q := 21) dX1_ledAt_20 rfl rfl rfl ?_
    refine r_iload (q := 23) dX1_ledAt_21 rfl rfl ?_
    refine r_ob (fun a27 ha27 => ?_)
    obtain ⟨hea27, hka27⟩ := o_at_eq ha27
    cases hea27
    refine r_callI (q := 26) (c_X1_no G h0 N _ _ _) (cl_V (ci := 0) rfl rfl (lw_V q492 q494 qs3 q167 q495) (hd_X1_no) ⟨Nat.le_of_ble_eq_true rfl, Nat.le_of_ble_eq_true rfl⟩ (List.mem_singleton.mp hka27) rfl rfl rfl (Nat.le_of_ble_eq_true rfl) dX1_ledAt_23) rfl (fun x25 σ26 => ?_)
    exact r_ireturn rfl rfl dX1_ledAt_26
theorem w_X7_ledAt_b52 (G : Gx) (h0 : G0 G) (N : Nat)   (a0 : Nat) (σ : Mem) : Runs G mX7_ledAt rhoI σ 52 [some (vR (some a0)), none, none, none, none, none, none, none, none] [] (f_X7_ledAt_b52 N  a0 σ) := by
  unfold f_X7_ledAt_b52
  refine r_aload_n (q := 53) dX7_ledAt_52 rfl rfl rfl ?_
  refine r_iconst (q := 54) (v := (1 : Int32)) dX7_ledAt_53 rfl (by decide) ?_
  refine r_ob (fun a3 ha3 => ?_)
  obtain ⟨hea3, hka3⟩ := o_at_eq ha3
  cases hea3
  refine r_callI (q := 57) (c_X7_refused G h0 N _ _ _) (cl_V (ci := 6) rfl rfl (lw_V q2019 q2021 qs83 q176 q2022) (hd_X7_refused) ⟨Nat.le_of_ble_eq_true rfl, Nat.le_of_ble_eq_true rfl⟩ (List.mem_singleton.mp hka3) rfl rfl rfl (Nat.le_of_ble_eq_true rfl) dX7_ledAt_54) rfl (fun x1 σ2 => ?_)
  exact r_ireturn rfl rfl dX7_ledAt_57
theorem w_X7_ledAt_b74 (G : Gx) (h0 : G0 G) (N : Nat)   (a0 : Nat) (t0 : Int32) (σ : Mem) : Runs G mX7_ledAt rhoI σ 74 [some (vR (some a0)), none, none, none, none, none, none, none, none] [vI t0] (f_X7_ledAt_b74 N  a0 t0 σ) := by
  unfold f_X7_ledAt_b74
  refine r_istore (q := 76) dX7_ledAt_74 rfl (Nat.le_of_ble_eq_true rfl) rfl ?_
  refine r_aload_n (q := 77) dX7_ledAt_76 rfl rfl rfl ?_
  refine r_bipush (q := 79) (v := (100 : Int32)) dX7_ledAt_77 rfl (by decide) ?_
  refine r_iload (q := 81) dX7_ledAt_79 rfl rfl ?_
  refine r_bipush (q := 83) (v := (12 : Int32)) dX7_ledAt_81 rfl (by decide) ?_
  refine r_idiv (q := 84) dX7_ledAt_83 rfl (fun x1 _ => ?_)
  refine r_imul (q := 85) dX7_ledAt_84 rfl ?_
  refine r_iload (q := 87) dX7_ledAt_85 rfl rfl ?_
  refine r_bipush (q := 89) (v := (12 : Int32)) dX7_ledAt_87 rfl (by decide) ?_
  refine r_irem (q := 90) dX7_ledAt_89 rfl (fun x2 _ => ?_)
  refine r_iadd (q := 91) dX7_ledAt_90 rfl ?_
  refine r_ob (fun a5 ha5 => ?_)
  obtain ⟨hea5, hka5⟩ := o_at_eq ha5
  cases hea5
  refine r_callI (q := 94) (c_X7_good G h0 N _ _ _) (cl_V (ci := 6) rfl rfl (lw_V q2379 q2381 qs118 q176 q2382) (hd_X7_good) ⟨Nat.le_of_ble_eq_true rfl, Nat.le_of_ble_eq_true rfl⟩ (List.mem_singleton.mp hka5) rfl rfl rfl (Nat.le_of_ble_eq_true rfl) dX7_ledAt_91) rfl (fun x3 σ4 => ?_)
  exact r_ireturn rfl rfl dX7_ledAt_94
theorem c_X7_ledAt (G : Gx) (h0 : G0 G) (N : Nat) (a0 : Nat) (i1 : Int32) (i2 : Int32) (i3 : Int32) (i4 : Int32) (i5 : Int32) (σ : Mem) : Ct G mX7_ledAt rhoI [vR (some a0), vI i1, vI i2, vI i3, vI i4, vI i5] σ (f_X7_ledAt N a0 i1 i2 i3 i4 i5 σ) := by
  refine Ct_of h0 (by decide) rfl (Nat.le_of_ble_eq_true rfl) (L0 := [some (vR (some a0)), some (vI i1), some (vI i2), some (vI i3), some (vI i4), some (vI i5), none, none, none]) rfl ?_
  unfold f_X7_ledAt
  refine r_aload_n (q := 1) dX7_ledAt_0 rfl rfl rfl ?_
  refine r_iconst (q := 2) (v := (0 : Int32)) dX7_ledAt_1 rfl (by decide) ?_
  refine r_pI (q := 5) fp_X7_ledAt_66 dX7_ledAt_2 rfl (fun σ1 => ?_)
  refine r_aload_n (q := 6) dX7_ledAt_5 rfl rfl rfl ?_
  refine r_iload_n (q := 7) dX7_ledAt_6 rfl rfl rfl ?_
  refine r_iload_n (q := 8) dX7_ledAt_7 rfl rfl rfl ?_
  refine r_iload_n (q := 9) dX7_ledAt_8 rfl rfl rfl ?_
  refine r_iload (q := 11) dX7_ledAt_9 rfl rfl ?_
  refine r_ob (fun a4 ha4 => ?_)
  obtain ⟨hea4, hka4⟩ := o_at_eq ha4
  cases hea4
  refine r_callI (q := 14) (c_X7_refusesLed G h0 N _ _ _ _ _ _) (cl_V (ci := 6) rfl rfl (lw_V q2625 q2627 qs147 q176 q2628) (hd_X7_refusesLed) ⟨Nat.le_of_ble_eq_true rfl, Nat.le_of_ble_eq_true rfl⟩ (List.mem_singleton.mp hka4) rfl rfl rfl (Nat.le_of_ble_eq_true rfl) dX7_ledAt_11) rfl (fun x2 σ3 => ?_)
  refine r_istore (q := 16) dX7_ledAt_14 rfl (Nat.le_of_ble_eq_true rfl) rfl ?_
  refine r_iload (q := 18) dX7_ledAt_16 rfl rfl ?_
  refine r_if_le (q := 21) (t := 28) dX7_ledAt_18 rfl (by decide) (fun _ => ?_) (fun _ => ?_)
  · refine r_aload_n (q := 29) dX7_ledAt_28 rfl rfl rfl ?_
    refine r_iconst (q := 30) (v := (0 : Int32)) dX7_ledAt_29 rfl (by decide) ?_
    refine r_iload_n (q := 31) dX7_ledAt_30 rfl rfl rfl ?_
    refine r_iload_n (q := 32) dX7_ledAt_31 rfl rfl rfl ?_
    refine r_iload_n (q := 33) dX7_ledAt_32 rfl rfl rfl ?_
    refine r_iload (q := 35) dX7_ledAt_33 rfl rfl ?_
    refine r_ob (fun a7 ha7 => ?_)
    obtain ⟨hea7, hka7⟩ := o_at_eq ha7
    cases hea7
    refine r_callI (q := 38) (c_X7_fewest G h0 N _ _ _ _ _ _ _) (cl_V (ci := 6) rfl rfl (lw_V q2629 q2631 qs148 q176 q2632) (hd_X7_fewest) ⟨Nat.le_of_ble_eq_true rfl, Nat.le_of_ble_eq_true rfl⟩ (List.mem_singleton.mp hka7) rfl rfl rfl (Nat.le_of_ble_eq_true rfl) dX7_ledAt_35) rfl (fun x5 σ6 => ?_)
    refine r_istore (q := 40) dX7_ledAt_38 rfl (Nat.le_of_ble_eq_true rfl) rfl ?_
    refine r_iload (q := 42) dX7_ledAt_40 rfl rfl ?_
    refine r_if_lt (q := 45) (t := 52) dX7_ledAt_42 rfl (by decide) (fun _ => ?_) (fun _ => ?_)
    · exact r_le (w_X7_ledAt_b52 G h0 N _ _) (Nat.le_refl _) (And.intro rfl trivial)
    · refine r_iload (q := 47) dX7_ledAt_45 rfl rfl ?_
      refine r_iload (q := 49) dX7_ledAt_47 rfl rfl ?_
      refine r_icmp_lt (q := 52) (t := 58) dX7_ledAt_49 rfl (by decide) (fun _ => ?_) (fun _ => ?_)
      · refine r_iload (q := 60) dX7_ledAt_58 rfl rfl ?_
        refine r_if_ne (q := 63) (t := 70) dX7_ledAt_60 rfl (by decide) (fun _ => ?_) (fun _ => ?_)
        · refine r_aload_n (q := 64) dX7_ledAt_63 rfl rfl rfl ?_
          refine r_gI (q := 67) fl_X7_562 dX7_ledAt_64 rfl (fun x9 => ?_)
          refine r_goto (q := 74) dX7_ledAt_67 (by decide) ?_
          exact r_le (w_X7_ledAt_b74 G h0 N _ _ _) (Nat.le_refl _) (And.intro rfl trivial)
        · refine r_aload_n (q := 71) dX7_ledAt_70 rfl rfl rfl ?_
          refine r_gI (q := 74) fl_X7_565 dX7_ledAt_71 rfl (fun x8 => ?_)
          exact r_le (w_X7_ledAt_b74 G h0 N _ _ _) (Nat.le_refl _) (And.intro rfl trivial)
      · exact r_le (w_X7_ledAt_b52 G h0 N _ _) (Nat.le_refl _) (And.intro rfl trivial)
  · refine r_aload_n (q := 22) dX7_ledAt_21 rfl rfl rfl ?_
    refine r_iload (q := 24) dX7_ledAt_22 rfl rfl ?_
    refine r_ob (fun a12 ha12 => ?_)
    obtain ⟨hea12, hka12⟩ := o_at_eq ha12
    cases hea12
    refine r_callI (q := 27) (c_X7_refused G h0 N _ _ _) (cl_V (ci := 6) rfl rfl (lw_V q2019 q2021 qs83 q176 q2022) (hd_X7_refused) ⟨Nat.le_of_ble_eq_true rfl, Nat.le_of_ble_eq_true rfl⟩ (List.mem_singleton.mp hka12) rfl rfl rfl (Nat.le_of_ble_eq_true rfl) dX7_ledAt_24) rfl (fun x10 σ11 => ?_)
    exact r_ireturn rfl rfl dX7_ledAt_27
theorem c_X1_scared (G : Gx) (h0 : G0 G) (N : Nat) (a0 : Nat) (i1 : Int32) (i2 : Int32) (i3 : Int32) (i4 : Int32) (σ : Mem) : Ct G mX1_scared rhoI [vR (some a0), vI i1, vI i2, vI i3, vI i4] σ (f_X1_scared N a0 i1 i2 i3 i4 σ) := by
  refine Ct_of h0 (by decide) rfl (Nat.le_of_ble_eq_true rfl) (L0 := [some (vR (some a0)), some (vI i1), some (vI i2), some (vI i3), some (vI i4), none]) rfl ?_
  unfold f_X1_scared
  refine r_aload_n (q := 1) dX1_scared_0 rfl rfl rfl ?_
  refine r_ob (fun a3 ha3 => ?_)
  obtain ⟨hea3, hka3⟩ := o_at_eq ha3
  cases hea3
  refine r_callV (q := 4) (c_X1_anew G h0 N _ _) (cl_V (ci := 0) rfl rfl (lw_V q485 q487 qs2 q167 q488) (hd_X1_anew) ⟨Nat.le_of_ble_eq_true rfl, Nat.le_of_ble_eq_true rfl⟩ (List.mem_singleton.mp hka3) rfl rfl rfl (Nat.le_of_ble_eq_true rfl) dX1_scared_1) rfl (fun u1 σ2 => ?_)
  refine r_aload_n (q := 5) dX1_scared_4 rfl rfl rfl ?_
  refine r_iload_n (q := 6) dX1_scared_5 rfl rfl rfl ?_
  refine r_iload_n (q := 7) dX1_scared_6 rfl rfl rfl ?_
  refine r_iload_n (q := 8) dX1_scared_7 rfl rfl rfl ?_
  refine r_iload (q := 10) dX1_scared_8 rfl rfl ?_
  refine r_ob (fun a6 ha6 => ?_)
  obtain ⟨hea6, hka6⟩ := o_at_eq ha6
  cases hea6
  refine r_callI (q := 13) (c_X1_luredWhy G h0 N _ _ _ _ _ _) (cl_V (ci := 0) rfl rfl (lw_V q1669 q1671 qs68 q167 q1672) (hd_X1_luredWhy) ⟨Nat.le_of_ble_eq_true rfl, Nat.le_of_ble_eq_true rfl⟩ (List.mem_singleton.mp hka6) rfl rfl rfl (Nat.le_of_ble_eq_true rfl) dX1_scared_10) rfl (fun x4 σ5 => ?_)
  refine r_istore (q := 15) dX1_scared_13 rfl (Nat.le_of_ble_eq_true rfl) rfl ?_
  refine r_iload (q := 17) dX1_scared_15 rfl rfl ?_
  refine r_if_eq (q := 20) (t := 29) dX1_scared_17 rfl (by decide) (fun _ => ?_) (fun _ => ?_)
  · refine r_aload_n (q := 30) dX1_scared_29 rfl rfl rfl ?_
    refine r_iload_n (q := 31) dX1_scared_30 rfl rfl rfl ?_
    refine r_iload_n (q := 32) dX1_scared_31 rfl rfl rfl ?_
    refine r_iload_n (q := 33) dX1_scared_32 rfl rfl rfl ?_
    refine r_iload (q := 35) dX1_scared_33 rfl rfl ?_
    refine r_iconst (q := 36) (v := (1 : Int32)) dX1_scared_35 rfl (by decide) ?_
    refine r_ob (fun a9 ha9 => ?_)
    obtain ⟨hea9, hka9⟩ := o_at_eq ha9
    cases hea9
    refine r_callI (q := 39) (c_X1_lured G h0 N _ _ _ _ _ _ _) (cl_V (ci := 0) rfl rfl (lw_V q1673 q1675 qs69 q167 q1676) (hd_X1_lured) ⟨Nat.le_of_ble_eq_true rfl, Nat.le_of_ble_eq_true rfl⟩ (List.mem_singleton.mp hka9) rfl rfl rfl (Nat.le_of_ble_eq_true rfl) dX1_scared_36) rfl (fun x7 σ8 => ?_)
    exact r_ireturn rfl rfl dX1_scared_39
  · refine r_aload_n (q := 21) dX1_scared_20 rfl rfl rfl ?_
    refine r_iload (q := 23) dX1_scared_21 rfl rfl ?_
    refine r_ob (fun a12 ha12 => ?_)
    obtain ⟨hea12, hka12⟩ := o_at_eq ha12
    cases hea12
    refine r_callI (q := 26) (c_X1_no G h0 N _ _ _) (cl_V (ci := 0) rfl rfl (lw_V q492 q494 qs3 q167 q495) (hd_X1_no) ⟨Nat.le_of_ble_eq_true rfl, Nat.le_of_ble_eq_true rfl⟩ (List.mem_singleton.mp hka12) rfl rfl rfl (Nat.le_of_ble_eq_true rfl) dX1_scared_23) rfl (fun x10 σ11 => ?_)
    refine r_goto (q := 39) dX1_scared_26 (by decide) ?_
    exact r_ireturn rfl rfl dX1_scared_39
theorem c_X7_scared (G : Gx) (h0 : G0 G) (N : Nat) (a0 : Nat) (i1 : Int32) (i2 : Int32) (i3 : Int32) (i4 : Int32) (σ : Mem) : Ct G mX7_scared rhoI [vR (some a0), vI i1, vI i2, vI i3, vI i4] σ (f_X7_scared N a0 i1 i2 i3 i4 σ) := by
  refine Ct_of h0 (by decide) rfl (Nat.le_of_ble_eq_true rfl) (L0 := [some (vR (some a0)), some (vI i1), some (vI i2), some (vI i3), some (vI i4), none]) rfl ?_
  unfold f_X7_scared
  refine r_aload_n (q := 1) dX7_scared_0 rfl rfl rfl ?_
  refine r_iconst (q := 2) (v := (0 : Int32)) dX7_scared_1 rfl (by decide) ?_
  refine r_pI (q := 5) fp_X7_scared_66 dX7_scared_2 rfl (fun σ1 => ?_)
  refine r_aload_n (q := 6) dX7_scared_5 rfl rfl rfl ?_
  refine r_iload_n (q := 7) dX7_scared_6 rfl rfl rfl ?_
  refine r_iload_n (q := 8) dX7_scared_7 rfl rfl rfl ?_
  refine r_iload_n (q := 9) dX7_scared_8 rfl rfl rfl ?_
  refine r_iload (q := 11) dX7_scared_9 rfl rfl ?_
  refine r_ob (fun a4 ha4 => ?_)
  obtain ⟨hea4, hka4⟩ := o_at_eq ha4
  cases hea4
  refine r_callI (q := 14) (c_X7_refusesLed G h0 N _ _ _ _ _ _) (cl_V (ci := 6) rfl rfl (lw_V q2625 q2627 qs147 q176 q2628) (hd_X7_refusesLed) ⟨Nat.le_of_ble_eq_true rfl, Nat.le_of_ble_eq_true rfl⟩ (List.mem_singleton.mp hka4) rfl rfl rfl (Nat.le_of_ble_eq_true rfl) dX7_scared_11) rfl (fun x2 σ3 => ?_)
  refine r_istore (q := 16) dX7_scared_14 rfl (Nat.le_of_ble_eq_true rfl) rfl ?_
  refine r_iload (q := 18) dX7_scared_16 rfl rfl ?_
  refine r_if_le (q := 21) (t := 30) dX7_scared_18 rfl (by decide) (fun _ => ?_) (fun _ => ?_)
  · refine r_aload_n (q := 31) dX7_scared_30 rfl rfl rfl ?_
    refine r_aload_n (q := 32) dX7_scared_31 rfl rfl rfl ?_
    refine r_bipush (q := 34) (v := (8 : Int32)) dX7_scared_32 rfl (by decide) ?_
    refine r_iload_n (q := 35) dX7_scared_34 rfl rfl rfl ?_
    refine r_iload_n (q := 36) dX7_scared_35 rfl rfl rfl ?_
    refine r_iload_n (q := 37) dX7_scared_36 rfl rfl rfl ?_
    refine r_iload (q := 39) dX7_scared_37 rfl rfl ?_
    refine r_ob (fun a7 ha7 => ?_)
    obtain ⟨hea7, hka7⟩ := o_at_eq ha7
    cases hea7
    refine r_callI (q := 42) (c_X7_fewest G h0 N _ _ _ _ _ _ _) (cl_V (ci := 6) rfl rfl (lw_V q2629 q2631 qs148 q176 q2632) (hd_X7_fewest) ⟨Nat.le_of_ble_eq_true rfl, Nat.le_of_ble_eq_true rfl⟩ (List.mem_singleton.mp hka7) rfl rfl rfl (Nat.le_of_ble_eq_true rfl) dX7_scared_39) rfl (fun x5 σ6 => ?_)
    refine r_ob (fun a10 ha10 => ?_)
    obtain ⟨hea10, hka10⟩ := o_at_eq ha10
    cases hea10
    refine r_callI (q := 45) (c_X7_good G h0 N _ _ _) (cl_V (ci := 6) rfl rfl (lw_V q2379 q2381 qs118 q176 q2382) (hd_X7_good) ⟨Nat.le_of_ble_eq_true rfl, Nat.le_of_ble_eq_true rfl⟩ (List.mem_singleton.mp hka10) rfl rfl rfl (Nat.le_of_ble_eq_true rfl) dX7_scared_42) rfl (fun x8 σ9 => ?_)
    exact r_ireturn rfl rfl dX7_scared_45
  · refine r_aload_n (q := 22) dX7_scared_21 rfl rfl rfl ?_
    refine r_iload (q := 24) dX7_scared_22 rfl rfl ?_
    refine r_ob (fun a13 ha13 => ?_)
    obtain ⟨hea13, hka13⟩ := o_at_eq ha13
    cases hea13
    refine r_callI (q := 27) (c_X7_refused G h0 N _ _ _) (cl_V (ci := 6) rfl rfl (lw_V q2019 q2021 qs83 q176 q2022) (hd_X7_refused) ⟨Nat.le_of_ble_eq_true rfl, Nat.le_of_ble_eq_true rfl⟩ (List.mem_singleton.mp hka13) rfl rfl rfl (Nat.le_of_ble_eq_true rfl) dX7_scared_24) rfl (fun x11 σ12 => ?_)
    refine r_goto (q := 45) dX7_scared_27 (by decide) ?_
    exact r_ireturn rfl rfl dX7_scared_45
theorem w_X1_isFact_b28 (G : Gx) (h0 : G0 G) (N : Nat)    (σ : Mem) : Runs G mX1_isFact rhoI σ 28 [none, none] [] (f_X1_isFact_b28 N   σ) := by
  unfold f_X1_isFact_b28
  refine r_iconst (q := 29) (v := (0 : Int32)) dX1_isFact_28 rfl (by decide) ?_
  exact r_ireturnN rfl dX1_isFact_29
theorem c_X1_isFact (G : Gx) (h0 : G0 G) (N : Nat) (a0 : Nat) (i1 : Int32) (σ : Mem) : Ct G mX1_isFact rhoI [vR (some a0), vI i1] σ (f_X1_isFact N a0 i1 σ) := by
  refine Ct_of h0 (by decide) rfl (Nat.le_of_ble_eq_true rfl) (L0 := [some (vR (some a0)), some (vI i1)]) rfl ?_
  unfold f_X1_isFact
  refine r_aload_n (q := 1) dX1_isFact_0 rfl rfl rfl ?_
  refine r_gR (q := 4) fl_X1_104 rfl dX1_isFact_1 rfl (fun x1 => ?_)
  refine r_ifnull (q := 7) (t := 28) dX1_isFact_4 rfl (by decide) (fun _ => ?_) (fun _ => ?_)
  · exact r_le (w_X1_isFact_b28 G h0 N  _) (Nat.le_refl _) trivial
  · refine r_iload_n (q := 8) dX1_isFact_7 rfl rfl rfl ?_
    refine r_iconst (q := 9) (v := (0 : Int32)) dX1_isFact_8 rfl (by decide) ?_
    refine r_aload_n (q := 10) dX1_isFact_9 rfl rfl rfl ?_
    refine r_gR (q := 13) fl_X1_104 rfl dX1_isFact_10 rfl (fun x2 => ?_)
    refine r_gI (q := 16) fl_X1_145 dX1_isFact_13 rfl (fun x3 => ?_)
    refine r_iconst (q := 17) (v := (1 : Int32)) dX1_isFact_16 rfl (by decide) ?_
    refine r_isub (q := 18) dX1_isFact_17 rfl ?_
    refine r_callI (q := 21) (c_X1_in G h0 N _ _ _ _) (cl_S rfl rfl (lw_S q489 q490 q167 q491) (hd_X1_in) ⟨Nat.le_of_ble_eq_true rfl, Nat.le_of_ble_eq_true rfl⟩ rfl (Nat.le_of_ble_eq_true rfl) dX1_isFact_18) rfl (fun x4 σ5 => ?_)
    refine r_if_eq (q := 24) (t := 28) dX1_isFact_21 rfl (by decide) (fun _ => ?_) (fun _ => ?_)
    · exact r_le (w_X1_isFact_b28 G h0 N  _) (Nat.le_refl _) trivial
    · refine r_iconst (q := 25) (v := (1 : Int32)) dX1_isFact_24 rfl (by decide) ?_
      refine r_goto (q := 29) dX1_isFact_25 (by decide) ?_
      exact r_ireturnN rfl dX1_isFact_29
theorem w_X8_holding_b32 (G : Gx) (h0 : G0 G) (N : Nat) (K4 : Nat → Int32 → Int32 → Mem → Option (Int32 × Mem)) (hK4 : ∀ (a0 : Nat) (l1 : Int32) (l2 : Int32) (σ : Mem), Runs G mX8_holding rhoI σ 4 [some (vR (some a0)), some (vI l1), some (vI l2)] [] (K4 a0 l1 l2 σ)) (a0 : Nat) (l2 : Int32) (t0 : Int32) (t1 : Int32) (σ : Mem) : Runs G mX8_holding rhoI σ 32 [some (vR (some a0)), none, some (vI l2)] [vI t1, vI t0] (f_X8_holding_b32 N K4 a0 l2 t0 t1 σ) := by
  unfold f_X8_holding_b32
  refine r_ior (q := 33) dX8_holding_32 rfl ?_
  refine r_istore_n (q := 34) dX8_holding_33 rfl rfl (Nat.le_of_ble_eq_true rfl) rfl ?_
  refine r_iinc (q := 37) (v := (1 : Int32)) dX8_holding_34 rfl rfl (by decide) (Nat.le_of_ble_eq_true rfl) rfl ?_
  refine r_goto (q := 4) dX8_holding_37 (by decide) ?_
  exact r_le (hK4 _ _ _ _) (Nat.le_refl _) (And.intro rfl (And.intro rfl (And.intro rfl trivial)))
theorem w_X8_holding_b4B (G : Gx) (h0 : G0 G) (N : Nat)   (K4 : Nat → Int32 → Int32 → Mem → Option (Int32 × Mem)) (hK4 : ∀ (a0 : Nat) (l1 : Int32) (l2 : Int32) (σ : Mem), Runs G mX8_holding rhoI σ 4 [some (vR (some a0)), some (vI l1), some (vI l2)] [] (K4 a0 l1 l2 σ)) (a0 : Nat) (l1 : Int32) (l2 : Int32) (σ : Mem) : Runs G mX8_holding rhoI σ 4 [some (vR (some a0)), some (vI l1), some (vI l2)] [] (f_X8_holding_b4B N  K4 a0 l1 l2 σ) := by
  unfold f_X8_holding_b4B
  refine r_iload_n (q := 5) dX8_holding_4 rfl rfl rfl ?_
  refine r_aload_n (q := 6) dX8_holding_5 rfl rfl rfl ?_
  refine r_gI (q := 9) fl_X8_92 dX8_holding_6 rfl (fun x1 => ?_)
  refine r_icmp_ge (q := 12) (t := 40) dX8_holding_9 rfl (by decide) (fun _ => ?_) (fun _ => ?_)
  · refine r_iload_n (q := 41) dX8_holding_40 rfl rfl rfl ?_
    exact r_ireturn rfl rfl dX8_holding_41
  · refine r_iload_n (q := 13) dX8_holding_12 rfl rfl rfl ?_
    refine r_aload_n (q := 14) dX8_holding_13 rfl rfl rfl ?_
    refine r_gR (q := 17) fl_X8_50 rfl dX8_holding_14 rfl (fun x2 => ?_)
    refine r_iload_n (q := 18) dX8_holding_17 rfl rfl rfl ?_
    refine r_aaload (q := 19) (k0 := 10) (by decide) dX8_holding_18 rfl (fun x3 => ?_)
    refine r_gI (q := 22) fl_X8_130 dX8_holding_19 rfl (fun x4 => ?_)
    refine r_if_eq (q := 25) (t := 31) dX8_holding_22 rfl (by decide) (fun _ => ?_) (fun _ => ?_)
    · refine r_iconst (q := 32) (v := (0 : Int32)) dX8_holding_31 rfl (by decide) ?_
      exact r_le (w_X8_holding_b32 G h0 N K4 hK4 _ _ _ _ _) (Nat.le_refl _) (And.intro rfl (And.intro rfl trivial))
    · refine r_iconst (q := 26) (v := (1 : Int32)) dX8_holding_25 rfl (by decide) ?_
      refine r_iload_n (q := 27) dX8_holding_26 rfl rfl rfl ?_
      refine r_ishl (q := 28) dX8_holding_27 rfl ?_
      refine r_goto (q := 32) dX8_holding_28 (by decide) ?_
      exact r_le (w_X8_holding_b32 G h0 N K4 hK4 _ _ _ _ _) (Nat.le_refl _) (And.intro rfl (And.intro rfl trivial))
theorem w_X8_holding_b4 (G : Gx) (h0 : G0 G) (N : Nat)   : ∀ (z : Nat) (a0 : Nat) (l1 : Int32) (l2 : Int32) (σ : Mem), Runs G mX8_holding rhoI σ 4 [some (vR (some a0)), some (vI l1), some (vI l2)] [] (f_X8_holding_b4 N  z a0 l1 l2 σ) := by
  intro z
  induction z with
  | zero => exact fun _ _ _ _ => r_none
  | succ z ih => exact fun a0 l1 l2 σ => w_X8_holding_b4B G h0 N   _ ih a0 l1 l2 σ
theorem c_X8_holding (G : Gx) (h0 : G0 G) (N : Nat) (a0 : Nat) (σ : Mem) : Ct G mX8_holding rhoI [vR (some a0)] σ (f_X8_holding N a0 σ) := by
  refine Ct_of h0 (by decide) rfl (Nat.le_of_ble_eq_true rfl) (L0 := [some (vR (some a0)), none, none]) rfl ?_
  unfold f_X8_holding
  refine r_iconst (q := 1) (v := (0 : Int32)) dX8_holding_0 rfl (by decide) ?_
  refine r_istore_n (q := 2) dX8_holding_1 rfl rfl (Nat.le_of_ble_eq_true rfl) rfl ?_
  refine r_iconst (q := 3) (v := (0 : Int32)) dX8_holding_2 rfl (by decide) ?_
  refine r_istore_n (q := 4) dX8_holding_3 rfl rfl (Nat.le_of_ble_eq_true rfl) rfl ?_
  exact r_le (w_X8_holding_b4 G h0 N N _ _ _ _) (Nat.le_refl _) (And.intro rfl (And.intro rfl (And.intro rfl trivial)))
theorem c_X1_allRules (G : Gx) (h0 : G0 G) (N : Nat) (a0 : Nat) (σ : Mem) : Ct G mX1_allRules rhoI [vR (some a0)] σ (f_X1_allRules N a0 σ) := by
  refine Ct_of h0 (by decide) rfl (Nat.le_of_ble_eq_true rfl) (L0 := [some (vR (some a0))]) rfl ?_
  unfold f_X1_allRules
  refine r_iconst (q := 1) (v := (1 : Int32)) dX1_allRules_0 rfl (by decide) ?_
  refine r_aload_n (q := 2) dX1_allRules_1 rfl rfl rfl ?_
  refine r_gR (q := 5) fl_X1_104 rfl dX1_allRules_2 rfl (fun x1 => ?_)
  refine r_gI (q := 8) fl_X1_353 dX1_allRules_5 rfl (fun x2 => ?_)
  refine r_ishl (q := 9) dX1_allRules_8 rfl ?_
  refine r_iconst (q := 10) (v := (1 : Int32)) dX1_allRules_9 rfl (by decide) ?_
  refine r_isub (q := 11) dX1_allRules_10 rfl ?_
  exact r_ireturn rfl rfl dX1_allRules_11
theorem w_X22_follows_b35 (G : Gx) (h0 : G0 G) (N : Nat) (K4 : Nat → Int32 → Int32 → Int32 → Mem → Option (Int32 × Mem)) (hK4 : ∀ (a0 : Nat) (l1 : Int32) (l2 : Int32) (l3 : Int32) (σ : Mem), Runs G mX22_follows rhoI σ 4 [some (vR (some a0)), some (vI l1), some (vI l2), some (vI l3)] [] (K4 a0 l1 l2 l3 σ)) (a0 : Nat) (l1 : Int32) (l3 : Int32) (t0 : Int32) (σ : Mem) : Runs G mX22_follows rhoI σ 35 [some (vR (some a0)), some (vI l1), none, some (vI l3)] [vI t0] (f_X22_follows_b35 N K4 a0 l1 l3 t0 σ) := by
  unfold f_X22_follows_b35
  refine r_istore_n (q := 36) dX22_follows_35 rfl rfl (Nat.le_of_ble_eq_true rfl) rfl ?_
  refine r_iinc (q := 39) (v := (1 : Int32)) dX22_follows_36 rfl rfl (by decide) (Nat.le_of_ble_eq_true rfl) rfl ?_
  refine r_goto (q := 4) dX22_follows_39 (by decide) ?_
  exact r_le (hK4 _ _ _ _ _) (Nat.le_refl _) (And.intro rfl (And.intro rfl (And.intro rfl (And.intro rfl trivial))))
theorem w_X22_follows_b34 (G : Gx) (h0 : G0 G) (N : Nat) (K4 : Nat → Int32 → Int32 → Int32 → Mem → Option (Int32 × Mem)) (hK4 : ∀ (a0 : Nat) (l1 : Int32) (l2 : Int32) (l3 : Int32) (σ : Mem), Runs G mX22_follows rhoI σ 4 [some (vR (some a0)), some (vI l1), some (vI l2), some (vI l3)] [] (K4 a0 l1 l2 l3 σ)) (a0 : Nat) (l1 : Int32) (l3 : Int32) (σ : Mem) : Runs G mX22_follows rhoI σ 34 [some (vR (some a0)), some (vI l1), none, some (vI l3)] [] (f_X22_follows_b34 N K4 a0 l1 l3 σ) := by
  unfold f_X22_follows_b34
  refine r_iconst (q := 35) (v := (0 : Int32)) dX22_follows_34 rfl (by decide) ?_
  exact r_le (w_X22_follows_b35 G h0 N K4 hK4 _ _ _ _ _) (Nat.le_refl _) (And.intro rfl (And.intro rfl (And.intro rfl trivial)))
theorem w_X22_follows_b4B (G : Gx) (h0 : G0 G) (N : Nat)   (K4 : Nat → Int32 → Int32 → Int32 → Mem → Option (Int32 × Mem)) (hK4 : ∀ (a0 : Nat) (l1 : Int32) (l2 : Int32) (l3 : Int32) (σ : Mem), Runs G mX22_follows rhoI σ 4 [some (vR (some a0)), some (vI l1), some (vI l2), some (vI l3)] [] (K4 a0 l1 l2 l3 σ)) (a0 : Nat) (l1 : Int32) (l2 : Int32) (l3 : Int32) (σ : Mem) : Runs G mX22_follows rhoI σ 4 [some (vR (some a0)), some (vI l1), some (vI l2), some (vI l3)] [] (f_X22_follows_b4B N  K4 a0 l1 l2 l3 σ) := by
  unfold f_X22_follows_b4B
  refine r_iload_n (q := 5) dX22_follows_4 rfl rfl rfl ?_
  refine r_aload_n (q := 6) dX22_follows_5 rfl rfl rfl ?_
  refine r_gI (q := 9) fl_X22_15 dX22_follows_6 rfl (fun x1 => ?_)
  refine r_icmp_ge (q := 12) (t := 42) dX22_follows_9 rfl (by decide) (fun _ => ?_) (fun _ => ?_)
  · refine r_iload_n (q := 43) dX22_follows_42 rfl rfl rfl ?_
    exact r_ireturnN rfl dX22_follows_43
  · refine r_iload_n (q := 13) dX22_follows_12 rfl rfl rfl ?_
    refine r_if_eq (q := 16) (t := 34) dX22_follows_13 rfl (by decide) (fun _ => ?_) (fun _ => ?_)
    · exact r_le (w_X22_follows_b34 G h0 N K4 hK4 _ _ _ _) (Nat.le_refl _) (And.intro rfl (And.intro rfl (And.intro rfl trivial)))
    · refine r_iload_n (q := 17) dX22_follows_16 rfl rfl rfl ?_
      refine r_aload_n (q := 18) dX22_follows_17 rfl rfl rfl ?_
      refine r_gR (q := 21) fl_X22_9 rfl dX22_follows_18 rfl (fun x2 => ?_)
      refine r_iload_n (q := 22) dX22_follows_21 rfl rfl rfl ?_
      refine r_iaload (q := 23) dX22_follows_22 rfl (fun x3 => ?_)
      refine r_ishr (q := 24) dX22_follows_23 rfl ?_
      refine r_iconst (q := 25) (v := (1 : Int32)) dX22_follows_24 rfl (by decide) ?_
      refine r_iand (q := 26) dX22_follows_25 rfl ?_
      refine r_iconst (q := 27) (v := (1 : Int32)) dX22_follows_26 rfl (by decide) ?_
      refine r_icmp_ne (q := 30) (t := 34) dX22_follows_27 rfl (by decide) (fun _ => ?_) (fun _ => ?_)
      · refine r_iconst (q := 31) (v := (1 : Int32)) dX22_follows_30 rfl (by decide) ?_
        refine r_goto (q := 35) dX22_follows_31 (by decide) ?_
        exact r_le (w_X22_follows_b35 G h0 N K4 hK4 _ _ _ _ _) (Nat.le_refl _) (And.intro rfl (And.intro rfl (And.intro rfl trivial)))
      · exact r_le (w_X22_follows_b34 G h0 N K4 hK4 _ _ _ _) (Nat.le_refl _) (And.intro rfl (And.intro rfl (And.intro rfl trivial)))
theorem w_X22_follows_b4 (G : Gx) (h0 : G0 G) (N : Nat)   : ∀ (z : Nat) (a0 : Nat) (l1 : Int32) (l2 : Int32) (l3 : Int32) (σ : Mem), Runs G mX22_follows rhoI σ 4 [some (vR (some a0)), some (vI l1), some (vI l2), some (vI l3)] [] (f_X22_follows_b4 N  z a0 l1 l2 l3 σ) := by
  intro z
  induction z with
  | zero => exact fun _ _ _ _ _ => r_none
  | succ z ih => exact fun a0 l1 l2 l3 σ => w_X22_follows_b4B G h0 N   _ ih a0 l1 l2 l3 σ
theorem c_X22_follows (G : Gx) (h0 : G0 G) (N : Nat) (a0 : Nat) (i1 : Int32) (σ : Mem) : Ct G mX22_follows rhoI [vR (some a0), vI i1] σ (f_X22_follows N a0 i1 σ) := by
  refine Ct_of h0 (by decide) rfl (Nat.le_of_ble_eq_true rfl) (L0 := [some (vR (some a0)), some (vI i1), none, none]) rfl ?_
  unfold f_X22_follows
  refine r_iconst (q := 1) (v := (1 : Int32)) dX22_follows_0 rfl (by decide) ?_
  refine r_istore_n (q := 2) dX22_follows_1 rfl rfl (Nat.le_of_ble_eq_true rfl) rfl ?_
  refine r_iconst (q := 3) (v := (0 : Int32)) dX22_follows_2 rfl (by decide) ?_
  refine r_istore_n (q := 4) dX22_follows_3 rfl rfl (Nat.le_of_ble_eq_true rfl) rfl ?_
  exact r_le (w_X22_follows_b4 G h0 N N _ _ _ _ _) (Nat.le_refl _) (And.intro rfl (And.intro rfl (And.intro rfl (And.intro rfl trivial))))
theorem w_X8_closure_b86 (G : Gx) (h0 : G0 G) (N : Nat) (K5 : Nat → Int32 → Int32 → Int32 → Mem → Option (Int32 × Mem)) (K16 : Nat → Int32 → Int32 → Int32 → Int32 → Mem → Option (Int32 × Mem)) (hK5 : ∀ (a0 : Nat) (l2 : Int32) (l3 : Int32) (l4 : Int32) (σ : Mem), Runs G mX8_closure rhoI σ 5 [some (vR (some a0)), none, some (vI l2), some (vI l3), some (vI l4), none] [] (K5 a0 l2 l3 l4 σ)) (hK16 : ∀ (a0 : Nat) (l2 : Int32) (l3 : Int32) (l4 : Int32) (l5 : Int32) (σ : Mem), Runs G mX8_closure rhoI σ 16 [some (vR (some a0)), none, some (vI l2), some (vI l3), some (vI l4), some (vI l5)] [] (K16 a0 l2 l3 l4 l5 σ)) (a0 : Nat) (l2 : Int32) (l3 : Int32) (l4 : Int32) (l5 : Int32) (σ : Mem) : Runs G mX8_closure rhoI σ 86 [some (vR (some a0)), none, some (vI l2), some (vI l3), some (vI l4), some (vI l5)] [] (f_X8_closure_b86 N K5 K16 a0 l2 l3 l4 l5 σ) := by
  unfold f_X8_closure_b86
  refine r_iinc (q := 89) (v := (1 : Int32)) dX8_closure_86 rfl rfl (by decide) (Nat.le_of_ble_eq_true rfl) rfl ?_
  refine r_goto (q := 16) dX8_closure_89 (by decide) ?_
  exact r_le (hK16 _ _ _ _ _ _) (Nat.le_refl _) (And.intro rfl (And.intro rfl (And.intro rfl (And.intro rfl (And.intro rfl trivial)))))
theorem w_X8_closure_b16B (G : Gx) (h0 : G0 G) (N : Nat) (K5 : Nat → Int32 → Int32 → Int32 → Mem → Option (Int32 × Mem)) (hK5 : ∀ (a0 : Nat) (l2 : Int32) (l3 : Int32) (l4 : Int32) (σ : Mem), Runs G mX8_closure rhoI σ 5 [some (vR (some a0)), none, some (vI l2), some (vI l3), some (vI l4), none] [] (K5 a0 l2 l3 l4 σ)) (K16 : Nat → Int32 → Int32 → Int32 → Int32 → Mem → Option (Int32 × Mem)) (hK16 : ∀ (a0 : Nat) (l2 : Int32) (l3 : Int32) (l4 : Int32) (l5 : Int32) (σ : Mem), Runs G mX8_closure rhoI σ 16 [some (vR (some a0)), none, some (vI l2), some (vI l3), some (vI l4), some (vI l5)] [] (K16 a0 l2 l3 l4 l5 σ)) (a0 : Nat) (l2 : Int32) (l3 : Int32) (l4 : Int32) (l5 : Int32) (σ : Mem) : Runs G mX8_closure rhoI σ 16 [some (vR (some a0)), none, some (vI l2), some (vI l3), some (vI l4), some (vI l5)] [] (f_X8_closure_b16B N K5 K16 a0 l2 l3 l4 l5 σ) := by
  unfold f_X8_closure_b16B
  refine r_iload (q := 18) dX8_closure_16 rfl rfl ?_
  refine r_aload_n (q := 19) dX8_closure_18 rfl rfl rfl ?_
  refine r_gI (q := 22) fl_X8_116 dX8_closure_19 rfl (fun x1 => ?_)
  refine r_icmp_ge (q := 25) (t := 92) dX8_closure_22 rfl (by decide) (fun _ => ?_) (fun _ => ?_)
  · refine r_goto (q := 5) dX8_closure_92 (by decide) ?_
    exact r_le (hK5 _ _ _ _ _) (Nat.le_refl _) (And.intro rfl (And.intro rfl (And.intro rfl (And.intro rfl trivial))))
  · refine r_iload_n (q := 26) dX8_closure_25 rfl rfl rfl ?_
    refine r_iload (q := 28) dX8_closure_26 rfl rfl ?_
    refine r_callI (q := 31) (c_X1_has G h0 N _ _ _) (cl_SN rfl rfl q1726 q1117 q167 q1118 (hd_X1_has) ⟨Nat.le_of_ble_eq_true rfl, Nat.le_of_ble_eq_true rfl⟩ rfl (Nat.le_of_ble_eq_true rfl) dX8_closure_28) rfl (fun x2 σ3 => ?_)
    refine r_if_eq (q := 34) (t := 86) dX8_closure_31 rfl (by decide) (fun _ => ?_) (fun _ => ?_)
    · exact r_le (w_X8_closure_b86 G h0 N K5 K16 hK5 hK16 _ _ _ _ _ _) (Nat.le_refl _) (And.intro rfl (And.intro rfl (And.intro rfl (And.intro rfl (And.intro rfl trivial)))))
    · refine r_iload_n (q := 35) dX8_closure_34 rfl rfl rfl ?_
      refine r_aload_n (q := 36) dX8_closure_35 rfl rfl rfl ?_
      refine r_gR (q := 39) fl_X8_56 rfl dX8_closure_36 rfl (fun x4 => ?_)
      refine r_iload (q := 41) dX8_closure_39 rfl rfl ?_
      refine r_aaload (q := 42) (k0 := 11) (by decide) dX8_closure_41 rfl (fun x5 => ?_)
      refine r_gI (q := 45) fl_X8_123 dX8_closure_42 rfl (fun x6 => ?_)
      refine r_callI (q := 48) (c_X1_has G h0 N _ _ _) (cl_SN rfl rfl q1726 q1117 q167 q1118 (hd_X1_has) ⟨Nat.le_of_ble_eq_true rfl, Nat.le_of_ble_eq_true rfl⟩ rfl (Nat.le_of_ble_eq_true rfl) dX8_closure_45) rfl (fun x7 σ8 => ?_)
      refine r_if_ne (q := 51) (t := 86) dX8_closure_48 rfl (by decide) (fun _ => ?_) (fun _ => ?_)
      · refine r_aload_n (q := 52) dX8_closure_51 rfl rfl rfl ?_
        refine r_gR (q := 55) fl_X8_56 rfl dX8_closure_52 rfl (fun x9 => ?_)
        refine r_iload (q := 57) dX8_closure_55 rfl rfl ?_
        refine r_aaload (q := 58) (k0 := 11) (by decide) dX8_closure_57 rfl (fun x10 => ?_)
        refine r_iload_n (q := 59) dX8_closure_58 rfl rfl rfl ?_
        refine r_ob (fun a13 ha13 => ?_)
        obtain ⟨hea13, hka13⟩ := o_at_eq ha13
        cases hea13
        refine r_callI (q := 62) (c_X22_follows G h0 N _ _ _) (cl_V (ci := 18) rfl rfl (lw_V q1727 q1728 q1729 q196 q1730) (hd_X22_follows) ⟨Nat.le_of_ble_eq_true rfl, Nat.le_of_ble_eq_true rfl⟩ (List.mem_singleton.mp hka13) rfl rfl rfl (Nat.le_of_ble_eq_true rfl) dX8_closure_59) rfl (fun x11 σ12 => ?_)
        refine r_if_ne (q := 65) (t := 68) dX8_closure_62 rfl (by decide) (fun _ => ?_) (fun _ => ?_)
        · refine r_goto (q := 86) dX8_closure_65 (by decide) ?_
          exact r_le (w_X8_closure_b86 G h0 N K5 K16 hK5 hK16 _ _ _ _ _ _) (Nat.le_refl _) (And.intro rfl (And.intro rfl (And.intro rfl (And.intro rfl (And.intro rfl trivial)))))
        · refine r_iload_n (q := 69) dX8_closure_68 rfl rfl rfl ?_
          refine r_iconst (q := 70) (v := (1 : Int32)) dX8_closure_69 rfl (by decide) ?_
          refine r_aload_n (q := 71) dX8_closure_70 rfl rfl rfl ?_
          refine r_gR (q := 74) fl_X8_56 rfl dX8_closure_71 rfl (fun x14 => ?_)
          refine r_iload (q := 76) dX8_closure_74 rfl rfl ?_
          refine r_aaload (q := 77) (k0 := 11) (by decide) dX8_closure_76 rfl (fun x15 => ?_)
          refine r_gI (q := 80) fl_X8_123 dX8_closure_77 rfl (fun x16 => ?_)
          refine r_ishl (q := 81) dX8_closure_80 rfl ?_
          refine r_ior (q := 82) dX8_closure_81 rfl ?_
          refine r_istore_n (q := 83) dX8_closure_82 rfl rfl (Nat.le_of_ble_eq_true rfl) rfl ?_
          refine r_iconst (q := 84) (v := (1 : Int32)) dX8_closure_83 rfl (by decide) ?_
          refine r_istore (q := 86) dX8_closure_84 rfl (Nat.le_of_ble_eq_true rfl) rfl ?_
          exact r_le (w_X8_closure_b86 G h0 N K5 K16 hK5 hK16 _ _ _ _ _ _) (Nat.le_refl _) (And.intro rfl (And.intro rfl (And.intro rfl (And.intro rfl (And.intro rfl trivial)))))
      · exact r_le (w_X8_closure_b86 G h0 N K5 K16 hK5 hK16 _ _ _ _ _ _) (Nat.le_refl _) (And.intro rfl (And.intro rfl (And.intro rfl (And.intro rfl (And.intro rfl trivial)))))
theorem w_X8_closure_b16 (G : Gx) (h0 : G0 G) (N : Nat) (K5 : Nat → Int32 → Int32 → Int32 → Mem → Option (Int32 × Mem)) (hK5 : ∀ (a0 : Nat) (l2 : Int32) (l3 : Int32) (l4 : Int32) (σ : Mem), Runs G mX8_closure rhoI σ 5 [some (vR (some a0)), none, some (vI l2), some (vI l3), some (vI l4), none] [] (K5 a0 l2 l3 l4 σ)) : ∀ (z : Nat) (a0 : Nat) (l2 : Int32) (l3 : Int32) (l4 : Int32) (l5 : Int32) (σ : Mem), Runs G mX8_closure rhoI σ 16 [some (vR (some a0)), none, some (vI l2), some (vI l3), some (vI l4), some (vI l5)] [] (f_X8_closure_b16 N K5 z a0 l2 l3 l4 l5 σ) := by
  intro z
  induction z with
  | zero => exact fun _ _ _ _ _ _ => r_none
  | succ z ih => exact fun a0 l2 l3 l4 l5 σ => w_X8_closure_b16B G h0 N K5 hK5 _ ih a0 l2 l3 l4 l5 σ
theorem w_X8_closure_b5B (G : Gx) (h0 : G0 G) (N : Nat)   (K5 : Nat → Int32 → Int32 → Int32 → Mem → Option (Int32 × Mem)) (hK5 : ∀ (a0 : Nat) (l2 : Int32) (l3 : Int32) (l4 : Int32) (σ : Mem), Runs G mX8_closure rhoI σ 5 [some (vR (some a0)), none, some (vI l2), some (vI l3), some (vI l4), none] [] (K5 a0 l2 l3 l4 σ)) (a0 : Nat) (l2 : Int32) (l3 : Int32) (l4 : Int32) (σ : Mem) : Runs G mX8_closure rhoI σ 5 [some (vR (some a0)), none, some (vI l2), some (vI l3), some (vI l4), none] [] (f_X8_closure_b5B N  K5 a0 l2 l3 l4 σ) := by
  unfold f_X8_closure_b5B
  refine r_iload (q := 7) dX8_closure_5 rfl rfl ?_
  refine r_if_eq (q := 10) (t := 95) dX8_closure_7 rfl (by decide) (fun _ => ?_) (fun _ => ?_)
  · refine r_iload_n (q := 96) dX8_closure_95 rfl rfl rfl ?_
    exact r_ireturn rfl rfl dX8_closure_96
  · refine r_iconst (q := 11) (v := (0 : Int32)) dX8_closure_10 rfl (by decide) ?_
    refine r_istore (q := 13) dX8_closure_11 rfl (Nat.le_of_ble_eq_true rfl) rfl ?_
    refine r_iconst (q := 14) (v := (0 : Int32)) dX8_closure_13 rfl (by decide) ?_
    refine r_istore (q := 16) dX8_closure_14 rfl (Nat.le_of_ble_eq_true rfl) rfl ?_
    exact r_le (w_X8_closure_b16 G h0 N K5 hK5 N _ _ _ _ _ _) (Nat.le_refl _) (And.intro rfl (And.intro rfl (And.intro rfl (And.intro rfl (And.intro rfl trivial)))))
theorem w_X8_closure_b5 (G : Gx) (h0 : G0 G) (N : Nat)   : ∀ (z : Nat) (a0 : Nat) (l2 : Int32) (l3 : Int32) (l4 : Int32) (σ : Mem), Runs G mX8_closure rhoI σ 5 [some (vR (some a0)), none, some (vI l2), some (vI l3), some (vI l4), none] [] (f_X8_closure_b5 N  z a0 l2 l3 l4 σ) := by
  intro z
  induction z with
  | zero => exact fun _ _ _ _ _ => r_none
  | succ z ih => exact fun a0 l2 l3 l4 σ => w_X8_closure_b5B G h0 N   _ ih a0 l2 l3 l4 σ
theorem c_X8_closure (G : Gx) (h0 : G0 G) (N : Nat) (a0 : Nat) (i1 : Int32) (i2 : Int32) (σ : Mem) : Ct G mX8_closure rhoI [vR (some a0), vI i1, vI i2] σ (f_X8_closure N a0 i1 i2 σ) := by
  refine Ct_of h0 (by decide) rfl (Nat.le_of_ble_eq_true rfl) (L0 := [some (vR (some a0)), some (vI i1), some (vI i2), none, none, none]) rfl ?_
  unfold f_X8_closure
  refine r_iload_n (q := 1) dX8_closure_0 rfl rfl rfl ?_
  refine r_istore_n (q := 2) dX8_closure_1 rfl rfl (Nat.le_of_ble_eq_true rfl) rfl ?_
  refine r_iconst (q := 3) (v := (1 : Int32)) dX8_closure_2 rfl (by decide) ?_
  refine r_istore (q := 5) dX8_closure_3 rfl (Nat.le_of_ble_eq_true rfl) rfl ?_
  exact r_le (w_X8_closure_b5 G h0 N N _ _ _ _ _) (Nat.le_refl _) (And.intro rfl (And.intro rfl (And.intro rfl (And.intro rfl trivial))))
theorem c_X1_doesFollow (G : Gx) (h0 : G0 G) (N : Nat) (a0 : Nat) (i1 : Int32) (i2 : Int32) (i3 : Int32) (σ : Mem) : Ct G mX1_doesFollow rhoI [vR (some a0), vI i1, vI i2, vI i3] σ (f_X1_doesFollow N a0 i1 i2 i3 σ) := by
  refine Ct_of h0 (by decide) rfl (Nat.le_of_ble_eq_true rfl) (L0 := [some (vR (some a0)), some (vI i1), some (vI i2), some (vI i3)]) rfl ?_
  unfold f_X1_doesFollow
  refine r_aload_n (q := 1) dX1_doesFollow_0 rfl rfl rfl ?_
  refine r_gR (q := 4) fl_X1_104 rfl dX1_doesFollow_1 rfl (fun x1 => ?_)
  refine r_iload_n (q := 5) dX1_doesFollow_4 rfl rfl rfl ?_
  refine r_iload_n (q := 6) dX1_doesFollow_5 rfl rfl rfl ?_
  refine r_ob (fun a4 ha4 => ?_)
  obtain ⟨hea4, hka4⟩ := o_at_eq ha4
  cases hea4
  refine r_callI (q := 9) (c_X8_closure G h0 N _ _ _ _) (cl_V (ci := 7) rfl rfl (lw_V q1722 q1723 q1724 q177 q1725) (hd_X8_closure) ⟨Nat.le_of_ble_eq_true rfl, Nat.le_of_ble_eq_true rfl⟩ (List.mem_singleton.mp hka4) rfl rfl rfl (Nat.le_of_ble_eq_true rfl) dX1_doesFollow_6) rfl (fun x2 σ3 => ?_)
  refine r_iload_n (q := 10) dX1_doesFollow_9 rfl rfl rfl ?_
  refine r_callI (q := 13) (c_X1_has G h0 N _ _ _) (cl_S rfl rfl (lw_S q1364 q1117 q167 q1118) (hd_X1_has) ⟨Nat.le_of_ble_eq_true rfl, Nat.le_of_ble_eq_true rfl⟩ rfl (Nat.le_of_ble_eq_true rfl) dX1_doesFollow_10) rfl (fun x5 σ6 => ?_)
  exact r_ireturnN rfl dX1_doesFollow_13
theorem c_X1_follows (G : Gx) (h0 : G0 G) (N : Nat) (a0 : Nat) (i1 : Int32) (σ : Mem) : Ct G mX1_follows rhoI [vR (some a0), vI i1] σ (f_X1_follows N a0 i1 σ) := by
  refine Ct_of h0 (by decide) rfl (Nat.le_of_ble_eq_true rfl) (L0 := [some (vR (some a0)), some (vI i1)]) rfl ?_
  unfold f_X1_follows
  refine r_aload_n (q := 1) dX1_follows_0 rfl rfl rfl ?_
  refine r_ob (fun a3 ha3 => ?_)
  obtain ⟨hea3, hka3⟩ := o_at_eq ha3
  cases hea3
  refine r_callV (q := 4) (c_X1_anew G h0 N _ _) (cl_V (ci := 0) rfl rfl (lw_V q485 q487 qs2 q167 q488) (hd_X1_anew) ⟨Nat.le_of_ble_eq_true rfl, Nat.le_of_ble_eq_true rfl⟩ (List.mem_singleton.mp hka3) rfl rfl rfl (Nat.le_of_ble_eq_true rfl) dX1_follows_1) rfl (fun u1 σ2 => ?_)
  refine r_aload_n (q := 5) dX1_follows_4 rfl rfl rfl ?_
  refine r_iload_n (q := 6) dX1_follows_5 rfl rfl rfl ?_
  refine r_ob (fun a6 ha6 => ?_)
  obtain ⟨hea6, hka6⟩ := o_at_eq ha6
  cases hea6
  refine r_callI (q := 9) (c_X1_isFact G h0 N _ _ _) (cl_V (ci := 0) rfl rfl (lw_V q1706 q1708 qs72 q167 q1709) (hd_X1_isFact) ⟨Nat.le_of_ble_eq_true rfl, Nat.le_of_ble_eq_true rfl⟩ (List.mem_singleton.mp hka6) rfl rfl rfl (Nat.le_of_ble_eq_true rfl) dX1_follows_6) rfl (fun x4 σ5 => ?_)
  refine r_if_eq (q := 12) (t := 39) dX1_follows_9 rfl (by decide) (fun _ => ?_) (fun _ => ?_)
  · refine r_aload_n (q := 40) dX1_follows_39 rfl rfl rfl ?_
    refine r_iconst (q := 41) (v := (1 : Int32)) dX1_follows_40 rfl (by decide) ?_
    refine r_ob (fun a9 ha9 => ?_)
    obtain ⟨hea9, hka9⟩ := o_at_eq ha9
    cases hea9
    refine r_callI (q := 44) (c_X1_no G h0 N _ _ _) (cl_V (ci := 0) rfl rfl (lw_V q492 q494 qs3 q167 q495) (hd_X1_no) ⟨Nat.le_of_ble_eq_true rfl, Nat.le_of_ble_eq_true rfl⟩ (List.mem_singleton.mp hka9) rfl rfl rfl (Nat.le_of_ble_eq_true rfl) dX1_follows_41) rfl (fun x7 σ8 => ?_)
    exact r_ireturn rfl rfl dX1_follows_44
  · refine r_aload_n (q := 13) dX1_follows_12 rfl rfl rfl ?_
    refine r_iload_n (q := 14) dX1_follows_13 rfl rfl rfl ?_
    refine r_aload_n (q := 15) dX1_follows_14 rfl rfl rfl ?_
    refine r_gR (q := 18) fl_X1_104 rfl dX1_follows_15 rfl (fun x10 => ?_)
    refine r_ob (fun a13 ha13 => ?_)
    obtain ⟨hea13, hka13⟩ := o_at_eq ha13
    cases hea13
    refine r_callI (q := 21) (c_X8_holding G h0 N _ _) (cl_V (ci := 7) rfl rfl (lw_V q1710 q1711 q1712 q177 q1713) (hd_X8_holding) ⟨Nat.le_of_ble_eq_true rfl, Nat.le_of_ble_eq_true rfl⟩ (List.mem_singleton.mp hka13) rfl rfl rfl (Nat.le_of_ble_eq_true rfl) dX1_follows_18) rfl (fun x11 σ12 => ?_)
    refine r_aload_n (q := 22) dX1_follows_21 rfl rfl rfl ?_
    refine r_ob (fun a16 ha16 => ?_)
    obtain ⟨hea16, hka16⟩ := o_at_eq ha16
    cases hea16
    refine r_callI (q := 25) (c_X1_allRules G h0 N _ _) (cl_V (ci := 0) rfl rfl (lw_V q1714 q1716 qs73 q167 q1717) (hd_X1_allRules) ⟨Nat.le_of_ble_eq_true rfl, Nat.le_of_ble_eq_true rfl⟩ (List.mem_singleton.mp hka16) rfl rfl rfl (Nat.le_of_ble_eq_true rfl) dX1_follows_22) rfl (fun x14 σ15 => ?_)
    refine r_ob (fun a19 ha19 => ?_)
    obtain ⟨hea19, hka19⟩ := o_at_eq ha19
    cases hea19
    refine r_callI (q := 28) (c_X1_doesFollow G h0 N _ _ _ _ _) (cl_V (ci := 0) rfl rfl (lw_V q1718 q1720 qs74 q167 q1721) (hd_X1_doesFollow) ⟨Nat.le_of_ble_eq_true rfl, Nat.le_of_ble_eq_true rfl⟩ (List.mem_singleton.mp hka19) rfl rfl rfl (Nat.le_of_ble_eq_true rfl) dX1_follows_25) rfl (fun x17 σ18 => ?_)
    refine r_if_eq (q := 31) (t := 35) dX1_follows_28 rfl (by decide) (fun _ => ?_) (fun _ => ?_)
    · refine r_iconst (q := 36) (v := (0 : Int32)) dX1_follows_35 rfl (by decide) ?_
      refine r_goto (q := 44) dX1_follows_36 (by decide) ?_
      exact r_ireturn rfl rfl dX1_follows_44
    · refine r_iconst (q := 32) (v := (1 : Int32)) dX1_follows_31 rfl (by decide) ?_
      refine r_goto (q := 44) dX1_follows_32 (by decide) ?_
      exact r_ireturn rfl rfl dX1_follows_44
theorem w_X7_isFact_b26 (G : Gx) (h0 : G0 G) (N : Nat)    (σ : Mem) : Runs G mX7_isFact rhoI σ 26 [none, none] [] (f_X7_isFact_b26 N   σ) := by
  unfold f_X7_isFact_b26
  refine r_iconst (q := 27) (v := (0 : Int32)) dX7_isFact_26 rfl (by decide) ?_
  exact r_ireturnN rfl dX7_isFact_27
theorem c_X7_isFact (G : Gx) (h0 : G0 G) (N : Nat) (a0 : Nat) (i1 : Int32) (σ : Mem) : Ct G mX7_isFact rhoI [vR (some a0), vI i1] σ (f_X7_isFact N a0 i1 σ) := by
  refine Ct_of h0 (by decide) rfl (Nat.le_of_ble_eq_true rfl) (L0 := [some (vR (some a0)), some (vI i1)]) rfl ?_
  unfold f_X7_isFact
  refine r_aload_n (q := 1) dX7_isFact_0 rfl rfl rfl ?_
  refine r_gR (q := 4) fl_X7_442 rfl dX7_isFact_1 rfl (fun x1 => ?_)
  refine r_ifnull (q := 7) (t := 26) dX7_isFact_4 rfl (by decide) (fun _ => ?_) (fun _ => ?_)
  · exact r_le (w_X7_isFact_b26 G h0 N  _) (Nat.le_refl _) trivial
  · refine r_iload_n (q := 8) dX7_isFact_7 rfl rfl rfl ?_
    refine r_if_lt (q := 11) (t := 26) dX7_isFact_8 rfl (by decide) (fun _ => ?_) (fun _ => ?_)
    · exact r_le (w_X7_isFact_b26 G h0 N  _) (Nat.le_refl _) trivial
    · refine r_iload_n (q := 12) dX7_isFact_11 rfl rfl rfl ?_
      refine r_aload_n (q := 13) dX7_isFact_12 rfl rfl rfl ?_
      refine r_gR (q := 16) fl_X7_442 rfl dX7_isFact_13 rfl (fun x2 => ?_)
      refine r_gI (q := 19) fl_X7_388 dX7_isFact_16 rfl (fun x3 => ?_)
      refine r_icmp_ge (q := 22) (t := 26) dX7_isFact_19 rfl (by decide) (fun _ => ?_) (fun _ => ?_)
      · exact r_le (w_X7_isFact_b26 G h0 N  _) (Nat.le_refl _) trivial
      · refine r_iconst (q := 23) (v := (1 : Int32)) dX7_isFact_22 rfl (by decide) ?_
        refine r_goto (q := 27) dX7_isFact_23 (by decide) ?_
        exact r_ireturnN rfl dX7_isFact_27
theorem w_X7_following_b83 (G : Gx) (h0 : G0 G) (N : Nat) (K5 : Nat → Int32 → Int32 → Int32 → Mem → Option (Int32 × Mem)) (hK5 : ∀ (a0 : Nat) (l2 : Int32) (l3 : Int32) (l4 : Int32) (σ : Mem), Runs G mX7_following rhoI σ 5 [some (vR (some a0)), none, some (vI l2), some (vI l3), some (vI l4), none, none] [] (K5 a0 l2 l3 l4 σ)) (a0 : Nat) (l2 : Int32) (l3 : Int32) (t0 : Int32) (σ : Mem) : Runs G mX7_following rhoI σ 83 [some (vR (some a0)), none, some (vI l2), some (vI l3), none, none, none] [vI t0] (f_X7_following_b83 N K5 a0 l2 l3 t0 σ) := by
  unfold f_X7_following_b83
  refine r_istore (q := 85) dX7_following_83 rfl (Nat.le_of_ble_eq_true rfl) rfl ?_
  refine r_goto (q := 5) dX7_following_85 (by decide) ?_
  exact r_le (hK5 _ _ _ _ _) (Nat.le_refl _) (And.intro rfl (And.intro rfl (And.intro rfl (And.intro rfl trivial))))
theorem w_X7_following_b66 (G : Gx) (h0 : G0 G) (N : Nat) (K5 : Nat → Int32 → Int32 → Int32 → Mem → Option (Int32 × Mem)) (K16 : Nat → Int32 → Int32 → Int32 → Int32 → Mem → Option (Int32 × Mem)) (hK5 : ∀ (a0 : Nat) (l2 : Int32) (l3 : Int32) (l4 : Int32) (σ : Mem), Runs G mX7_following rhoI σ 5 [some (vR (some a0)), none, some (vI l2), some (vI l3), some (vI l4), none, none] [] (K5 a0 l2 l3 l4 σ)) (hK16 : ∀ (a0 : Nat) (l2 : Int32) (l3 : Int32) (l5 : Int32) (l6 : Int32) (σ : Mem), Runs G mX7_following rhoI σ 16 [some (vR (some a0)), none, some (vI l2), some (vI l3), none, some (vI l5), some (vI l6)] [] (K16 a0 l2 l3 l5 l6 σ)) (a0 : Nat) (l2 : Int32) (l3 : Int32) (l5 : Int32) (l6 : Int32) (σ : Mem) : Runs G mX7_following rhoI σ 66 [some (vR (some a0)), none, some (vI l2), some (vI l3), none, some (vI l5), some (vI l6)] [] (f_X7_following_b66 N K5 K16 a0 l2 l3 l5 l6 σ) := by
  unfold f_X7_following_b66
  refine r_iinc (q := 69) (v := (1 : Int32)) dX7_following_66 rfl rfl (by decide) (Nat.le_of_ble_eq_true rfl) rfl ?_
  refine r_goto (q := 16) dX7_following_69 (by decide) ?_
  exact r_le (hK16 _ _ _ _ _ _) (Nat.le_refl _) (And.intro rfl (And.intro rfl (And.intro rfl (And.intro rfl (And.intro rfl trivial)))))
theorem w_X7_following_b16B (G : Gx) (h0 : G0 G) (N : Nat) (K5 : Nat → Int32 → Int32 → Int32 → Mem → Option (Int32 × Mem)) (hK5 : ∀ (a0 : Nat) (l2 : Int32) (l3 : Int32) (l4 : Int32) (σ : Mem), Runs G mX7_following rhoI σ 5 [some (vR (some a0)), none, some (vI l2), some (vI l3), some (vI l4), none, none] [] (K5 a0 l2 l3 l4 σ)) (K16 : Nat → Int32 → Int32 → Int32 → Int32 → Mem → Option (Int32 × Mem)) (hK16 : ∀ (a0 : Nat) (l2 : Int32) (l3 : Int32) (l5 : Int32) (l6 : Int32) (σ : Mem), Runs G mX7_following rhoI σ 16 [some (vR (some a0)), none, some (vI l2), some (vI l3), none, some (vI l5), some (vI l6)] [] (K16 a0 l2 l3 l5 l6 σ)) (a0 : Nat) (l2 : Int32) (l3 : Int32) (l5 : Int32) (l6 : Int32) (σ : Mem) : Runs G mX7_following rhoI σ 16 [some (vR (some a0)), none, some (vI l2), some (vI l3), none, some (vI l5), some (vI l6)] [] (f_X7_following_b16B N K5 K16 a0 l2 l3 l5 l6 σ) := by
  unfold f_X7_following_b16B
  refine r_iload (q := 18) dX7_following_16 rfl rfl ?_
  refine r_aload_n (q := 19) dX7_following_18 rfl rfl rfl ?_
  refine r_gR (q := 22) fl_X7_442 rfl dX7_following_19 rfl (fun x1 => ?_)
  refine r_gI (q := 25) fl_X7_393 dX7_following_22 rfl (fun x2 => ?_)
  refine r_icmp_ge (q := 28) (t := 72) dX7_following_25 rfl (by decide) (fun _ => ?_) (fun _ => ?_)
  · refine r_iload_n (q := 73) dX7_following_72 rfl rfl rfl ?_
    refine r_iload (q := 75) dX7_following_73 rfl rfl ?_
    refine r_icmp_eq (q := 78) (t := 82) dX7_following_75 rfl (by decide) (fun _ => ?_) (fun _ => ?_)
    · refine r_iconst (q := 83) (v := (0 : Int32)) dX7_following_82 rfl (by decide) ?_
      exact r_le (w_X7_following_b83 G h0 N K5 hK5 _ _ _ _ _) (Nat.le_refl _) (And.intro rfl (And.intro rfl (And.intro rfl trivial)))
    · refine r_iconst (q := 79) (v := (1 : Int32)) dX7_following_78 rfl (by decide) ?_
      refine r_goto (q := 83) dX7_following_79 (by decide) ?_
      exact r_le (w_X7_following_b83 G h0 N K5 hK5 _ _ _ _ _) (Nat.le_refl _) (And.intro rfl (And.intro rfl (And.intro rfl trivial)))
  · refine r_iload (q := 30) dX7_following_28 rfl rfl ?_
    refine r_iload_n (q := 31) dX7_following_30 rfl rfl rfl ?_
    refine r_icmp_eq (q := 34) (t := 66) dX7_following_31 rfl (by decide) (fun _ => ?_) (fun _ => ?_)
    · exact r_le (w_X7_following_b66 G h0 N K5 K16 hK5 hK16 _ _ _ _ _ _) (Nat.le_refl _) (And.intro rfl (And.intro rfl (And.intro rfl (And.intro rfl (And.intro rfl trivial)))))
    · refine r_aload_n (q := 35) dX7_following_34 rfl rfl rfl ?_
      refine r_gR (q := 38) fl_X7_442 rfl dX7_following_35 rfl (fun x3 => ?_)
      refine r_gR (q := 41) fl_X7_402 rfl dX7_following_38 rfl (fun x4 => ?_)
      refine r_iload (q := 43) dX7_following_41 rfl rfl ?_
      refine r_iaload (q := 44) dX7_following_43 rfl (fun x5 => ?_)
      refine r_iload_n (q := 45) dX7_following_44 rfl rfl rfl ?_
      refine r_iconst (q := 46) (v := (-1 : Int32)) dX7_following_45 rfl (by decide) ?_
      refine r_ixor (q := 47) dX7_following_46 rfl ?_
      refine r_iand (q := 48) dX7_following_47 rfl ?_
      refine r_if_ne (q := 51) (t := 66) dX7_following_48 rfl (by decide) (fun _ => ?_) (fun _ => ?_)
      · refine r_iload_n (q := 52) dX7_following_51 rfl rfl rfl ?_
        refine r_iconst (q := 53) (v := (1 : Int32)) dX7_following_52 rfl (by decide) ?_
        refine r_aload_n (q := 54) dX7_following_53 rfl rfl rfl ?_
        refine r_gR (q := 57) fl_X7_442 rfl dX7_following_54 rfl (fun x6 => ?_)
        refine r_gR (q := 60) fl_X7_399 rfl dX7_following_57 rfl (fun x7 => ?_)
        refine r_iload (q := 62) dX7_following_60 rfl rfl ?_
        refine r_iaload (q := 63) dX7_following_62 rfl (fun x8 => ?_)
        refine r_ishl (q := 64) dX7_following_63 rfl ?_
        refine r_ior (q := 65) dX7_following_64 rfl ?_
        refine r_istore_n (q := 66) dX7_following_65 rfl rfl (Nat.le_of_ble_eq_true rfl) rfl ?_
        exact r_le (w_X7_following_b66 G h0 N K5 K16 hK5 hK16 _ _ _ _ _ _) (Nat.le_refl _) (And.intro rfl (And.intro rfl (And.intro rfl (And.intro rfl (And.intro rfl trivial)))))
      · exact r_le (w_X7_following_b66 G h0 N K5 K16 hK5 hK16 _ _ _ _ _ _) (Nat.le_refl _) (And.intro rfl (And.intro rfl (And.intro rfl (And.intro rfl (And.intro rfl trivial)))))
theorem w_X7_following_b16 (G : Gx) (h0 : G0 G) (N : Nat) (K5 : Nat → Int32 → Int32 → Int32 → Mem → Option (Int32 × Mem)) (hK5 : ∀ (a0 : Nat) (l2 : Int32) (l3 : Int32) (l4 : Int32) (σ : Mem), Runs G mX7_following rhoI σ 5 [some (vR (some a0)), none, some (vI l2), some (vI l3), some (vI l4), none, none] [] (K5 a0 l2 l3 l4 σ)) : ∀ (z : Nat) (a0 : Nat) (l2 : Int32) (l3 : Int32) (l5 : Int32) (l6 : Int32) (σ : Mem), Runs G mX7_following rhoI σ 16 [some (vR (some a0)), none, some (vI l2), some (vI l3), none, some (vI l5), some (vI l6)] [] (f_X7_following_b16 N K5 z a0 l2 l3 l5 l6 σ) := by
  intro z
  induction z with
  | zero => exact fun _ _ _ _ _ _ => r_none
  | succ z ih => exact fun a0 l2 l3 l5 l6 σ => w_X7_following_b16B G h0 N K5 hK5 _ ih a0 l2 l3 l5 l6 σ
theorem w_X7_following_b5B (G : Gx) (h0 : G0 G) (N : Nat)   (K5 : Nat → Int32 → Int32 → Int32 → Mem → Option (Int32 × Mem)) (hK5 : ∀ (a0 : Nat) (l2 : Int32) (l3 : Int32) (l4 : Int32) (σ : Mem), Runs G mX7_following rhoI σ 5 [some (vR (some a0)), none, some (vI l2), some (vI l3), some (vI l4), none, none] [] (K5 a0 l2 l3 l4 σ)) (a0 : Nat) (l2 : Int32) (l3 : Int32) (l4 : Int32) (σ : Mem) : Runs G mX7_following rhoI σ 5 [some (vR (some a0)), none, some (vI l2), some (vI l3), some (vI l4), none, none] [] (f_X7_following_b5B N  K5 a0 l2 l3 l4 σ) := by
  unfold f_X7_following_b5B
  refine r_iload (q := 7) dX7_following_5 rfl rfl ?_
  refine r_if_eq (q := 10) (t := 88) dX7_following_7 rfl (by decide) (fun _ => ?_) (fun _ => ?_)
  · refine r_iload_n (q := 89) dX7_following_88 rfl rfl rfl ?_
    exact r_ireturn rfl rfl dX7_following_89
  · refine r_iload_n (q := 11) dX7_following_10 rfl rfl rfl ?_
    refine r_istore (q := 13) dX7_following_11 rfl (Nat.le_of_ble_eq_true rfl) rfl ?_
    refine r_iconst (q := 14) (v := (0 : Int32)) dX7_following_13 rfl (by decide) ?_
    refine r_istore (q := 16) dX7_following_14 rfl (Nat.le_of_ble_eq_true rfl) rfl ?_
    exact r_le (w_X7_following_b16 G h0 N K5 hK5 N _ _ _ _ _ _) (Nat.le_refl _) (And.intro rfl (And.intro rfl (And.intro rfl (And.intro rfl (And.intro rfl trivial)))))
theorem w_X7_following_b5 (G : Gx) (h0 : G0 G) (N : Nat)   : ∀ (z : Nat) (a0 : Nat) (l2 : Int32) (l3 : Int32) (l4 : Int32) (σ : Mem), Runs G mX7_following rhoI σ 5 [some (vR (some a0)), none, some (vI l2), some (vI l3), some (vI l4), none, none] [] (f_X7_following_b5 N  z a0 l2 l3 l4 σ) := by
  intro z
  induction z with
  | zero => exact fun _ _ _ _ _ => r_none
  | succ z ih => exact fun a0 l2 l3 l4 σ => w_X7_following_b5B G h0 N   _ ih a0 l2 l3 l4 σ
theorem c_X7_following (G : Gx) (h0 : G0 G) (N : Nat) (a0 : Nat) (i1 : Int32) (i2 : Int32) (σ : Mem) : Ct G mX7_following rhoI [vR (some a0), vI i1, vI i2] σ (f_X7_following N a0 i1 i2 σ) := by
  refine Ct_of h0 (by decide) rfl (Nat.le_of_ble_eq_true rfl) (L0 := [some (vR (some a0)), some (vI i1), some (vI i2), none, none, none, none]) rfl ?_
  unfold f_X7_following
  refine r_iload_n (q := 1) dX7_following_0 rfl rfl rfl ?_
  refine r_istore_n (q := 2) dX7_following_1 rfl rfl (Nat.le_of_ble_eq_true rfl) rfl ?_
  refine r_iconst (q := 3) (v := (1 : Int32)) dX7_following_2 rfl (by decide) ?_
  refine r_istore (q := 5) dX7_following_3 rfl (Nat.le_of_ble_eq_true rfl) rfl ?_
  exact r_le (w_X7_following_b5 G h0 N N _ _ _ _ _) (Nat.le_refl _) (And.intro rfl (And.intro rfl (And.intro rfl (And.intro rfl trivial))))
theorem c_X7_followsNow (G : Gx) (h0 : G0 G) (N : Nat) (a0 : Nat) (i1 : Int32) (σ : Mem) : Ct G mX7_followsNow rhoI [vR (some a0), vI i1] σ (f_X7_followsNow N a0 i1 σ) := by
  refine Ct_of h0 (by decide) rfl (Nat.le_of_ble_eq_true rfl) (L0 := [some (vR (some a0)), some (vI i1)]) rfl ?_
  unfold f_X7_followsNow
  refine r_aload_n (q := 1) dX7_followsNow_0 rfl rfl rfl ?_
  refine r_aload_n (q := 2) dX7_followsNow_1 rfl rfl rfl ?_
  refine r_gR (q := 5) fl_X7_442 rfl dX7_followsNow_2 rfl (fun x1 => ?_)
  refine r_gI (q := 8) fl_X7_391 dX7_followsNow_5 rfl (fun x2 => ?_)
  refine r_iconst (q := 9) (v := (-1 : Int32)) dX7_followsNow_8 rfl (by decide) ?_
  refine r_ob (fun a5 ha5 => ?_)
  obtain ⟨hea5, hka5⟩ := o_at_eq ha5
  cases hea5
  refine r_callI (q := 12) (c_X7_following G h0 N _ _ _ _) (cl_V (ci := 6) rfl rfl (lw_V q2665 q2667 qs154 q176 q2668) (hd_X7_following) ⟨Nat.le_of_ble_eq_true rfl, Nat.le_of_ble_eq_true rfl⟩ (List.mem_singleton.mp hka5) rfl rfl rfl (Nat.le_of_ble_eq_true rfl) dX7_followsNow_9) rfl (fun x3 σ4 => ?_)
  refine r_iload_n (q := 13) dX7_followsNow_12 rfl rfl rfl ?_
  refine r_callI (q := 16) (c_X7_bit G h0 N _ _ _) (cl_S rfl rfl (lw_S q2331 q2332 q176 q2333) (hd_X7_bit) ⟨Nat.le_of_ble_eq_true rfl, Nat.le_of_ble_eq_true rfl⟩ rfl (Nat.le_of_ble_eq_true rfl) dX7_followsNow_13) rfl (fun x6 σ7 => ?_)
  exact r_ireturnN rfl dX7_followsNow_16
theorem w_X7_follows_b27 (G : Gx) (h0 : G0 G) (N : Nat)   (t0 : Option Nat) (t1 : Int32) (σ : Mem) : Runs G mX7_follows rhoI σ 27 [none, none] [vI t1, vR t0] (f_X7_follows_b27 N  t0 t1 σ) := by
  unfold f_X7_follows_b27
  refine r_ob (fun a3 ha3 => ?_)
  obtain ⟨hea3, hka3⟩ := o_at_eq ha3
  cases hea3
  refine r_callI (q := 30) (c_X7_good G h0 N _ _ _) (cl_V (ci := 6) rfl rfl (lw_V q2379 q2381 qs118 q176 q2382) (hd_X7_good) ⟨Nat.le_of_ble_eq_true rfl, Nat.le_of_ble_eq_true rfl⟩ (List.mem_singleton.mp hka3) rfl rfl rfl (Nat.le_of_ble_eq_true rfl) dX7_follows_27) rfl (fun x1 σ2 => ?_)
  refine r_goto (q := 38) dX7_follows_30 (by decide) ?_
  exact r_ireturn rfl rfl dX7_follows_38
theorem c_X7_follows (G : Gx) (h0 : G0 G) (N : Nat) (a0 : Nat) (i1 : Int32) (σ : Mem) : Ct G mX7_follows rhoI [vR (some a0), vI i1] σ (f_X7_follows N a0 i1 σ) := by
  refine Ct_of h0 (by decide) rfl (Nat.le_of_ble_eq_true rfl) (L0 := [some (vR (some a0)), some (vI i1)]) rfl ?_
  unfold f_X7_follows
  refine r_aload_n (q := 1) dX7_follows_0 rfl rfl rfl ?_
  refine r_iconst (q := 2) (v := (0 : Int32)) dX7_follows_1 rfl (by decide) ?_
  refine r_pI (q := 5) fp_X7_follows_66 dX7_follows_2 rfl (fun σ1 => ?_)
  refine r_aload_n (q := 6) dX7_follows_5 rfl rfl rfl ?_
  refine r_iload_n (q := 7) dX7_follows_6 rfl rfl rfl ?_
  refine r_ob (fun a4 ha4 => ?_)
  obtain ⟨hea4, hka4⟩ := o_at_eq ha4
  cases hea4
  refine r_callI (q := 10) (c_X7_isFact G h0 N _ _ _) (cl_V (ci := 6) rfl rfl (lw_V q2657 q2659 qs152 q176 q2660) (hd_X7_isFact) ⟨Nat.le_of_ble_eq_true rfl, Nat.le_of_ble_eq_true rfl⟩ (List.mem_singleton.mp hka4) rfl rfl rfl (Nat.le_of_ble_eq_true rfl) dX7_follows_7) rfl (fun x2 σ3 => ?_)
  refine r_if_eq (q := 13) (t := 33) dX7_follows_10 rfl (by decide) (fun _ => ?_) (fun _ => ?_)
  · refine r_aload_n (q := 34) dX7_follows_33 rfl rfl rfl ?_
    refine r_iconst (q := 35) (v := (1 : Int32)) dX7_follows_34 rfl (by decide) ?_
    refine r_ob (fun a7 ha7 => ?_)
    obtain ⟨hea7, hka7⟩ := o_at_eq ha7
    cases hea7
    refine r_callI (q := 38) (c_X7_refused G h0 N _ _ _) (cl_V (ci := 6) rfl rfl (lw_V q2019 q2021 qs83 q176 q2022) (hd_X7_refused) ⟨Nat.le_of_ble_eq_true rfl, Nat.le_of_ble_eq_true rfl⟩ (List.mem_singleton.mp hka7) rfl rfl rfl (Nat.le_of_ble_eq_true rfl) dX7_follows_35) rfl (fun x5 σ6 => ?_)
    exact r_ireturn rfl rfl dX7_follows_38
  · refine r_aload_n (q := 14) dX7_follows_13 rfl rfl rfl ?_
    refine r_aload_n (q := 15) dX7_follows_14 rfl rfl rfl ?_
    refine r_iload_n (q := 16) dX7_follows_15 rfl rfl rfl ?_
    refine r_ob (fun a10 ha10 => ?_)
    obtain ⟨hea10, hka10⟩ := o_at_eq ha10
    cases hea10
    refine r_callI (q := 19) (c_X7_followsNow G h0 N _ _ _) (cl_V (ci := 6) rfl rfl (lw_V q2661 q2663 qs153 q176 q2664) (hd_X7_followsNow) ⟨Nat.le_of_ble_eq_true rfl, Nat.le_of_ble_eq_true rfl⟩ (List.mem_singleton.mp hka10) rfl rfl rfl (Nat.le_of_ble_eq_true rfl) dX7_follows_16) rfl (fun x8 σ9 => ?_)
    refine r_if_eq (q := 22) (t := 26) dX7_follows_19 rfl (by decide) (fun _ => ?_) (fun _ => ?_)
    · refine r_iconst (q := 27) (v := (0 : Int32)) dX7_follows_26 rfl (by decide) ?_
      exact r_le (w_X7_follows_b27 G h0 N _ _ _) (Nat.le_refl _) trivial
    · refine r_iconst (q := 23) (v := (1 : Int32)) dX7_follows_22 rfl (by decide) ?_
      refine r_goto (q := 27) dX7_follows_23 (by decide) ?_
      exact r_le (w_X7_follows_b27 G h0 N _ _ _) (Nat.le_refl _) trivial
theorem w_X1_isRight_b71 (G : Gx) (h0 : G0 G) (N : Nat) (K16 : Nat → Int32 → Int32 → Int32 → Int32 → Mem → Option (Int32 × Mem)) (hK16 : ∀ (a0 : Nat) (l1 : Int32) (l2 : Int32) (l3 : Int32) (l4 : Int32) (σ : Mem), Runs G mX1_isRight rhoI σ 16 [some (vR (some a0)), some (vI l1), some (vI l2), some (vI l3), some (vI l4)] [] (K16 a0 l1 l2 l3 l4 σ)) (a0 : Nat) (l1 : Int32) (l2 : Int32) (l4 : Int32) (t0 : Int32) (σ : Mem) : Runs G mX1_isRight rhoI σ 71 [some (vR (some a0)), some (vI l1), some (vI l2), none, some (vI l4)] [vI t0] (f_X1_isRight_b71 N K16 a0 l1 l2 l4 t0 σ) := by
  unfold f_X1_isRight_b71
  refine r_istore_n (q := 72) dX1_isRight_71 rfl rfl (Nat.le_of_ble_eq_true rfl) rfl ?_
  refine r_iinc (q := 75) (v := (1 : Int32)) dX1_isRight_72 rfl rfl (by decide) (Nat.le_of_ble_eq_true rfl) rfl ?_
  refine r_goto (q := 16) dX1_isRight_75 (by decide) ?_
  exact r_le (hK16 _ _ _ _ _ _) (Nat.le_refl _) (And.intro rfl (And.intro rfl (And.intro rfl (And.intro rfl (And.intro rfl trivial)))))
theorem w_X1_isRight_b66 (G : Gx) (h0 : G0 G) (N : Nat) (K16 : Nat → Int32 → Int32 → Int32 → Int32 → Mem → Option (Int32 × Mem)) (hK16 : ∀ (a0 : Nat) (l1 : Int32) (l2 : Int32) (l3 : Int32) (l4 : Int32) (σ : Mem), Runs G mX1_isRight rhoI σ 16 [some (vR (some a0)), some (vI l1), some (vI l2), some (vI l3), some (vI l4)] [] (K16 a0 l1 l2 l3 l4 σ)) (a0 : Nat) (l1 : Int32) (l2 : Int32) (l4 : Int32) (σ : Mem) : Runs G mX1_isRight rhoI σ 66 [some (vR (some a0)), some (vI l1), some (vI l2), none, some (vI l4)] [] (f_X1_isRight_b66 N K16 a0 l1 l2 l4 σ) := by
  unfold f_X1_isRight_b66
  refine r_iconst (q := 67) (v := (1 : Int32)) dX1_isRight_66 rfl (by decide) ?_
  refine r_goto (q := 71) dX1_isRight_67 (by decide) ?_
  exact r_le (w_X1_isRight_b71 G h0 N K16 hK16 _ _ _ _ _ _) (Nat.le_refl _) (And.intro rfl (And.intro rfl (And.intro rfl (And.intro rfl trivial))))
theorem w_X1_isRight_b70 (G : Gx) (h0 : G0 G) (N : Nat) (K16 : Nat → Int32 → Int32 → Int32 → Int32 → Mem → Option (Int32 × Mem)) (hK16 : ∀ (a0 : Nat) (l1 : Int32) (l2 : Int32) (l3 : Int32) (l4 : Int32) (σ : Mem), Runs G mX1_isRight rhoI σ 16 [some (vR (some a0)), some (vI l1), some (vI l2), some (vI l3), some (vI l4)] [] (K16 a0 l1 l2 l3 l4 σ)) (a0 : Nat) (l1 : Int32) (l2 : Int32) (l4 : Int32) (σ : Mem) : Runs G mX1_isRight rhoI σ 70 [some (vR (some a0)), some (vI l1), some (vI l2), none, some (vI l4)] [] (f_X1_isRight_b70 N K16 a0 l1 l2 l4 σ) := by
  unfold f_X1_isRight_b70
  refine r_iconst (q := 71) (v := (0 : Int32)) dX1_isRight_70 rfl (by decide) ?_
  exact r_le (w_X1_isRight_b71 G h0 N K16 hK16 _ _ _ _ _ _) (Nat.le_refl _) (And.intro rfl (And.intro rfl (And.intro rfl (And.intro rfl trivial))))
theorem w_X1_isRight_b16B (G : Gx) (h0 : G0 G) (N : Nat)   (K16 : Nat → Int32 → Int32 → Int32 → Int32 → Mem → Option (Int32 × Mem)) (hK16 : ∀ (a0 : Nat) (l1 : Int32) (l2 : Int32) (l3 : Int32) (l4 : Int32) (σ : Mem), Runs G mX1_isRight rhoI σ 16 [some (vR (some a0)), some (vI l1), some (vI l2), some (vI l3), some (vI l4)] [] (K16 a0 l1 l2 l3 l4 σ)) (a0 : Nat) (l1 : Int32) (l2 : Int32) (l3 : Int32) (l4 : Int32) (σ : Mem) : Runs G mX1_isRight rhoI σ 16 [some (vR (some a0)), some (vI l1), some (vI l2), some (vI l3), some (vI l4)] [] (f_X1_isRight_b16B N  K16 a0 l1 l2 l3 l4 σ) := by
  unfold f_X1_isRight_b16B
  refine r_iload (q := 18) dX1_isRight_16 rfl rfl ?_
  refine r_aload_n (q := 19) dX1_isRight_18 rfl rfl rfl ?_
  refine r_gR (q := 22) fl_X1_104 rfl dX1_isRight_19 rfl (fun x1 => ?_)
  refine r_gI (q := 25) fl_X1_353 dX1_isRight_22 rfl (fun x2 => ?_)
  refine r_icmp_ge (q := 28) (t := 78) dX1_isRight_25 rfl (by decide) (fun _ => ?_) (fun _ => ?_)
  · refine r_iload_n (q := 79) dX1_isRight_78 rfl rfl rfl ?_
    exact r_ireturnN rfl dX1_isRight_79
  · refine r_iload_n (q := 29) dX1_isRight_28 rfl rfl rfl ?_
    refine r_if_ne (q := 32) (t := 66) dX1_isRight_29 rfl (by decide) (fun _ => ?_) (fun _ => ?_)
    · refine r_aload_n (q := 33) dX1_isRight_32 rfl rfl rfl ?_
      refine r_gR (q := 36) fl_X1_104 rfl dX1_isRight_33 rfl (fun x3 => ?_)
      refine r_gR (q := 39) fl_X1_381 rfl dX1_isRight_36 rfl (fun x4 => ?_)
      refine r_iload (q := 41) dX1_isRight_39 rfl rfl ?_
      refine r_aaload (q := 42) (k0 := 11) (by decide) dX1_isRight_41 rfl (fun x5 => ?_)
      refine r_gI (q := 45) fl_X1_385 dX1_isRight_42 rfl (fun x6 => ?_)
      refine r_iload_n (q := 46) dX1_isRight_45 rfl rfl rfl ?_
      refine r_icmp_ne (q := 49) (t := 70) dX1_isRight_46 rfl (by decide) (fun _ => ?_) (fun _ => ?_)
      · refine r_aload_n (q := 50) dX1_isRight_49 rfl rfl rfl ?_
        refine r_gR (q := 53) fl_X1_104 rfl dX1_isRight_50 rfl (fun x7 => ?_)
        refine r_gR (q := 56) fl_X1_381 rfl dX1_isRight_53 rfl (fun x8 => ?_)
        refine r_iload (q := 58) dX1_isRight_56 rfl rfl ?_
        refine r_aaload (q := 59) (k0 := 11) (by decide) dX1_isRight_58 rfl (fun x9 => ?_)
        refine r_iload_n (q := 60) dX1_isRight_59 rfl rfl rfl ?_
        refine r_ob (fun a12 ha12 => ?_)
        obtain ⟨hea12, hka12⟩ := o_at_eq ha12
        cases hea12
        refine r_callI (q := 63) (c_X22_follows G h0 N _ _ _) (cl_V (ci := 18) rfl rfl (lw_V q1739 q1728 q1729 q196 q1730) (hd_X22_follows) ⟨Nat.le_of_ble_eq_true rfl, Nat.le_of_ble_eq_true rfl⟩ (List.mem_singleton.mp hka12) rfl rfl rfl (Nat.le_of_ble_eq_true rfl) dX1_isRight_60) rfl (fun x10 σ11 => ?_)
        refine r_if_eq (q := 66) (t := 70) dX1_isRight_63 rfl (by decide) (fun _ => ?_) (fun _ => ?_)
        · exact r_le (w_X1_isRight_b70 G h0 N K16 hK16 _ _ _ _ _) (Nat.le_refl _) (And.intro rfl (And.intro rfl (And.intro rfl (And.intro rfl trivial))))
        · exact r_le (w_X1_isRight_b66 G h0 N K16 hK16 _ _ _ _ _) (Nat.le_refl _) (And.intro rfl (And.intro rfl (And.intro rfl (And.intro rfl trivial))))
      · exact r_le (w_X1_isRight_b70 G h0 N K16 hK16 _ _ _ _ _) (Nat.le_refl _) (And.intro rfl (And.intro rfl (And.intro rfl (And.intro rfl trivial))))
    · exact r_le (w_X1_isRight_b66 G h0 N K16 hK16 _ _ _ _ _) (Nat.le_refl _) (And.intro rfl (And.intro rfl (And.intro rfl (And.intro rfl trivial))))
theorem w_X1_isRight_b16 (G : Gx) (h0 : G0 G) (N : Nat)   : ∀ (z : Nat) (a0 : Nat) (l1 : Int32) (l2 : Int32) (l3 : Int32) (l4 : Int32) (σ : Mem), Runs G mX1_isRight rhoI σ 16 [some (vR (some a0)), some (vI l1), some (vI l2), some (vI l3), some (vI l4)] [] (f_X1_isRight_b16 N  z a0 l1 l2 l3 l4 σ) := by
  intro z
  induction z with
  | zero => exact fun _ _ _ _ _ _ => r_none
  | succ z ih => exact fun a0 l1 l2 l3 l4 σ => w_X1_isRight_b16B G h0 N   _ ih a0 l1 l2 l3 l4 σ
theorem c_X1_isRight (G : Gx) (h0 : G0 G) (N : Nat) (a0 : Nat) (i1 : Int32) (i2 : Int32) (σ : Mem) : Ct G mX1_isRight rhoI [vR (some a0), vI i1, vI i2] σ (f_X1_isRight N a0 i1 i2 σ) := by
  refine Ct_of h0 (by decide) rfl (Nat.le_of_ble_eq_true rfl) (L0 := [some (vR (some a0)), some (vI i1), some (vI i2), none, none]) rfl ?_
  unfold f_X1_isRight
  refine r_aload_n (q := 1) dX1_isRight_0 rfl rfl rfl ?_
  refine r_gR (q := 4) fl_X1_104 rfl dX1_isRight_1 rfl (fun x1 => ?_)
  refine r_gR (q := 7) fl_X1_371 rfl dX1_isRight_4 rfl (fun x2 => ?_)
  refine r_iload_n (q := 8) dX1_isRight_7 rfl rfl rfl ?_
  refine r_aaload (q := 9) (k0 := 10) (by decide) dX1_isRight_8 rfl (fun x3 => ?_)
  refine r_gI (q := 12) fl_X1_375 dX1_isRight_9 rfl (fun x4 => ?_)
  refine r_istore_n (q := 13) dX1_isRight_12 rfl rfl (Nat.le_of_ble_eq_true rfl) rfl ?_
  refine r_iconst (q := 14) (v := (0 : Int32)) dX1_isRight_13 rfl (by decide) ?_
  refine r_istore (q := 16) dX1_isRight_14 rfl (Nat.le_of_ble_eq_true rfl) rfl ?_
  exact r_le (w_X1_isRight_b16 G h0 N N _ _ _ _ _ _) (Nat.le_refl _) (And.intro rfl (And.intro rfl (And.intro rfl (And.intro rfl (And.intro rfl trivial)))))
theorem w_X1_step_b38B (G : Gx) (h0 : G0 G) (N : Nat)   (K38 : Nat → Int32 → Int32 → Mem → Option (Int32 × Mem)) (hK38 : ∀ (a0 : Nat) (l1 : Int32) (l2 : Int32) (σ : Mem), Runs G mX1_step rhoI σ 38 [some (vR (some a0)), some (vI l1), some (vI l2)] [] (K38 a0 l1 l2 σ)) (a0 : Nat) (l1 : Int32) (l2 : Int32) (σ : Mem) : Runs G mX1_step rhoI σ 38 [some (vR (some a0)), some (vI l1), some (vI l2)] [] (f_X1_step_b38B N  K38 a0 l1 l2 σ) := by
  unfold f_X1_step_b38B
  refine r_iload_n (q := 39) dX1_step_38 rfl rfl rfl ?_
  refine r_aload_n (q := 40) dX1_step_39 rfl rfl rfl ?_
  refine r_gR (q := 43) fl_X1_104 rfl dX1_step_40 rfl (fun x1 => ?_)
  refine r_gI (q := 46) fl_X1_393 dX1_step_43 rfl (fun x2 => ?_)
  refine r_icmp_ge (q := 49) (t := 88) dX1_step_46 rfl (by decide) (fun _ => ?_) (fun _ => ?_)
  · refine r_bipush (q := 90) (v := (-2 : Int32)) dX1_step_88 rfl (by decide) ?_
    exact r_ireturn rfl rfl dX1_step_90
  · refine r_aload_n (q := 50) dX1_step_49 rfl rfl rfl ?_
    refine r_aload_n (q := 51) dX1_step_50 rfl rfl rfl ?_
    refine r_gR (q := 54) fl_X1_104 rfl dX1_step_51 rfl (fun x3 => ?_)
    refine r_gR (q := 57) fl_X1_396 rfl dX1_step_54 rfl (fun x4 => ?_)
    refine r_iload_n (q := 58) dX1_step_57 rfl rfl rfl ?_
    refine r_iaload (q := 59) dX1_step_58 rfl (fun x5 => ?_)
    refine r_iload_n (q := 60) dX1_step_59 rfl rfl rfl ?_
    refine r_ob (fun a8 ha8 => ?_)
    obtain ⟨hea8, hka8⟩ := o_at_eq ha8
    cases hea8
    refine r_callI (q := 63) (c_X1_isRight G h0 N _ _ _ _) (cl_V (ci := 0) rfl rfl (lw_V q1735 q1737 qs75 q167 q1738) (hd_X1_isRight) ⟨Nat.le_of_ble_eq_true rfl, Nat.le_of_ble_eq_true rfl⟩ (List.mem_singleton.mp hka8) rfl rfl rfl (Nat.le_of_ble_eq_true rfl) dX1_step_60) rfl (fun x6 σ7 => ?_)
    refine r_if_ne (q := 66) (t := 68) dX1_step_63 rfl (by decide) (fun _ => ?_) (fun _ => ?_)
    · refine r_iload_n (q := 67) dX1_step_66 rfl rfl rfl ?_
      exact r_ireturn rfl rfl dX1_step_67
    · refine r_iload_n (q := 69) dX1_step_68 rfl rfl rfl ?_
      refine r_iconst (q := 70) (v := (1 : Int32)) dX1_step_69 rfl (by decide) ?_
      refine r_aload_n (q := 71) dX1_step_70 rfl rfl rfl ?_
      refine r_gR (q := 74) fl_X1_104 rfl dX1_step_71 rfl (fun x9 => ?_)
      refine r_gR (q := 77) fl_X1_396 rfl dX1_step_74 rfl (fun x10 => ?_)
      refine r_iload_n (q := 78) dX1_step_77 rfl rfl rfl ?_
      refine r_iaload (q := 79) dX1_step_78 rfl (fun x11 => ?_)
      refine r_ishl (q := 80) dX1_step_79 rfl ?_
      refine r_ior (q := 81) dX1_step_80 rfl ?_
      refine r_istore_n (q := 82) dX1_step_81 rfl rfl (Nat.le_of_ble_eq_true rfl) rfl ?_
      refine r_iinc (q := 85) (v := (1 : Int32)) dX1_step_82 rfl rfl (by decide) (Nat.le_of_ble_eq_true rfl) rfl ?_
      refine r_goto (q := 38) dX1_step_85 (by decide) ?_
      exact r_le (hK38 _ _ _ _) (Nat.le_refl _) (And.intro rfl (And.intro rfl (And.intro rfl trivial)))
theorem w_X1_step_b38 (G : Gx) (h0 : G0 G) (N : Nat)   : ∀ (z : Nat) (a0 : Nat) (l1 : Int32) (l2 : Int32) (σ : Mem), Runs G mX1_step rhoI σ 38 [some (vR (some a0)), some (vI l1), some (vI l2)] [] (f_X1_step_b38 N  z a0 l1 l2 σ) := by
  intro z
  induction z with
  | zero => exact fun _ _ _ _ => r_none
  | succ z ih => exact fun a0 l1 l2 σ => w_X1_step_b38B G h0 N   _ ih a0 l1 l2 σ
theorem c_X1_step (G : Gx) (h0 : G0 G) (N : Nat) (a0 : Nat) (σ : Mem) : Ct G mX1_step rhoI [vR (some a0)] σ (f_X1_step N a0 σ) := by
  refine Ct_of h0 (by decide) rfl (Nat.le_of_ble_eq_true rfl) (L0 := [some (vR (some a0)), none, none]) rfl ?_
  unfold f_X1_step
  refine r_aload_n (q := 1) dX1_step_0 rfl rfl rfl ?_
  refine r_ob (fun a3 ha3 => ?_)
  obtain ⟨hea3, hka3⟩ := o_at_eq ha3
  cases hea3
  refine r_callV (q := 4) (c_X1_anew G h0 N _ _) (cl_V (ci := 0) rfl rfl (lw_V q485 q487 qs2 q167 q488) (hd_X1_anew) ⟨Nat.le_of_ble_eq_true rfl, Nat.le_of_ble_eq_true rfl⟩ (List.mem_singleton.mp hka3) rfl rfl rfl (Nat.le_of_ble_eq_true rfl) dX1_step_1) rfl (fun u1 σ2 => ?_)
  refine r_aload_n (q := 5) dX1_step_4 rfl rfl rfl ?_
  refine r_gR (q := 8) fl_X1_104 rfl dX1_step_5 rfl (fun x4 => ?_)
  refine r_ifnonnull (q := 11) (t := 17) dX1_step_8 rfl (by decide) (fun _ => ?_) (fun _ => ?_)
  · refine r_aload_n (q := 12) dX1_step_11 rfl rfl rfl ?_
    refine r_iconst (q := 13) (v := (1 : Int32)) dX1_step_12 rfl (by decide) ?_
    refine r_ob (fun a12 ha12 => ?_)
    obtain ⟨hea12, hka12⟩ := o_at_eq ha12
    cases hea12
    refine r_callI (q := 16) (c_X1_no G h0 N _ _ _) (cl_V (ci := 0) rfl rfl (lw_V q492 q494 qs3 q167 q495) (hd_X1_no) ⟨Nat.le_of_ble_eq_true rfl, Nat.le_of_ble_eq_true rfl⟩ (List.mem_singleton.mp hka12) rfl rfl rfl (Nat.le_of_ble_eq_true rfl) dX1_step_13) rfl (fun x10 σ11 => ?_)
    exact r_ireturn rfl rfl dX1_step_16
  · refine r_aload_n (q := 18) dX1_step_17 rfl rfl rfl ?_
    refine r_gR (q := 21) fl_X1_104 rfl dX1_step_18 rfl (fun x5 => ?_)
    refine r_gI (q := 24) fl_X1_393 dX1_step_21 rfl (fun x6 => ?_)
    refine r_if_ne (q := 27) (t := 34) dX1_step_24 rfl (by decide) (fun _ => ?_) (fun _ => ?_)
    · refine r_aload_n (q := 28) dX1_step_27 rfl rfl rfl ?_
      refine r_bipush (q := 30) (v := (6 : Int32)) dX1_step_28 rfl (by decide) ?_
      refine r_ob (fun a9 ha9 => ?_)
      obtain ⟨hea9, hka9⟩ := o_at_eq ha9
      cases hea9
      refine r_callI (q := 33) (c_X1_no G h0 N _ _ _) (cl_V (ci := 0) rfl rfl (lw_V q492 q494 qs3 q167 q495) (hd_X1_no) ⟨Nat.le_of_ble_eq_true rfl, Nat.le_of_ble_eq_true rfl⟩ (List.mem_singleton.mp hka9) rfl rfl rfl (Nat.le_of_ble_eq_true rfl) dX1_step_30) rfl (fun x7 σ8 => ?_)
      exact r_ireturn rfl rfl dX1_step_33
    · refine r_iconst (q := 35) (v := (0 : Int32)) dX1_step_34 rfl (by decide) ?_
      refine r_istore_n (q := 36) dX1_step_35 rfl rfl (Nat.le_of_ble_eq_true rfl) rfl ?_
      refine r_iconst (q := 37) (v := (0 : Int32)) dX1_step_36 rfl (by decide) ?_
      refine r_istore_n (q := 38) dX1_step_37 rfl rfl (Nat.le_of_ble_eq_true rfl) rfl ?_
      exact r_le (w_X1_step_b38 G h0 N N _ _ _ _) (Nat.le_refl _) (And.intro rfl (And.intro rfl (And.intro rfl trivial)))
theorem w_X7_step_b133 (G : Gx) (h0 : G0 G) (N : Nat) (K39 : Nat → Int32 → Int32 → Mem → Option (Int32 × Mem)) (K73 : Nat → Int32 → Int32 → Int32 → Int32 → Mem → Option (Int32 × Mem)) (hK39 : ∀ (a0 : Nat) (l1 : Int32) (l2 : Int32) (σ : Mem), Runs G mX7_step rhoI σ 39 [some (vR (some a0)), some (vI l1), some (vI l2), none, none] [] (K39 a0 l1 l2 σ)) (hK73 : ∀ (a0 : Nat) (l1 : Int32) (l2 : Int32) (l3 : Int32) (l4 : Int32) (σ : Mem), Runs G mX7_step rhoI σ 73 [some (vR (some a0)), some (vI l1), some (vI l2), some (vI l3), some (vI l4)] [] (K73 a0 l1 l2 l3 l4 σ)) (a0 : Nat) (l1 : Int32) (l2 : Int32) (l4 : Int32) (t0 : Int32) (σ : Mem) : Runs G mX7_step rhoI σ 133 [some (vR (some a0)), some (vI l1), some (vI l2), none, some (vI l4)] [vI t0] (f_X7_step_b133 N K39 K73 a0 l1 l2 l4 t0 σ) := by
  unfold f_X7_step_b133
  refine r_istore_n (q := 134) dX7_step_133 rfl rfl (Nat.le_of_ble_eq_true rfl) rfl ?_
  refine r_iinc (q := 137) (v := (1 : Int32)) dX7_step_134 rfl rfl (by decide) (Nat.le_of_ble_eq_true rfl) rfl ?_
  refine r_goto (q := 73) dX7_step_137 (by decide) ?_
  exact r_le (hK73 _ _ _ _ _ _) (Nat.le_refl _) (And.intro rfl (And.intro rfl (And.intro rfl (And.intro rfl (And.intro rfl trivial)))))
theorem w_X7_step_b128 (G : Gx) (h0 : G0 G) (N : Nat) (K39 : Nat → Int32 → Int32 → Mem → Option (Int32 × Mem)) (K73 : Nat → Int32 → Int32 → Int32 → Int32 → Mem → Option (Int32 × Mem)) (hK39 : ∀ (a0 : Nat) (l1 : Int32) (l2 : Int32) (σ : Mem), Runs G mX7_step rhoI σ 39 [some (vR (some a0)), some (vI l1), some (vI l2), none, none] [] (K39 a0 l1 l2 σ)) (hK73 : ∀ (a0 : Nat) (l1 : Int32) (l2 : Int32) (l3 : Int32) (l4 : Int32) (σ : Mem), Runs G mX7_step rhoI σ 73 [some (vR (some a0)), some (vI l1), some (vI l2), some (vI l3), some (vI l4)] [] (K73 a0 l1 l2 l3 l4 σ)) (a0 : Nat) (l1 : Int32) (l2 : Int32) (l4 : Int32) (σ : Mem) : Runs G mX7_step rhoI σ 128 [some (vR (some a0)), some (vI l1), some (vI l2), none, some (vI l4)] [] (f_X7_step_b128 N K39 K73 a0 l1 l2 l4 σ) := by
  unfold f_X7_step_b128
  refine r_iconst (q := 129) (v := (1 : Int32)) dX7_step_128 rfl (by decide) ?_
  refine r_goto (q := 133) dX7_step_129 (by decide) ?_
  exact r_le (w_X7_step_b133 G h0 N K39 K73 hK39 hK73 _ _ _ _ _ _) (Nat.le_refl _) (And.intro rfl (And.intro rfl (And.intro rfl (And.intro rfl trivial))))
theorem w_X7_step_b132 (G : Gx) (h0 : G0 G) (N : Nat) (K39 : Nat → Int32 → Int32 → Mem → Option (Int32 × Mem)) (K73 : Nat → Int32 → Int32 → Int32 → Int32 → Mem → Option (Int32 × Mem)) (hK39 : ∀ (a0 : Nat) (l1 : Int32) (l2 : Int32) (σ : Mem), Runs G mX7_step rhoI σ 39 [some (vR (some a0)), some (vI l1), some (vI l2), none, none] [] (K39 a0 l1 l2 σ)) (hK73 : ∀ (a0 : Nat) (l1 : Int32) (l2 : Int32) (l3 : Int32) (l4 : Int32) (σ : Mem), Runs G mX7_step rhoI σ 73 [some (vR (some a0)), some (vI l1), some (vI l2), some (vI l3), some (vI l4)] [] (K73 a0 l1 l2 l3 l4 σ)) (a0 : Nat) (l1 : Int32) (l2 : Int32) (l4 : Int32) (σ : Mem) : Runs G mX7_step rhoI σ 132 [some (vR (some a0)), some (vI l1), some (vI l2), none, some (vI l4)] [] (f_X7_step_b132 N K39 K73 a0 l1 l2 l4 σ) := by
  unfold f_X7_step_b132
  refine r_iconst (q := 133) (v := (0 : Int32)) dX7_step_132 rfl (by decide) ?_
  exact r_le (w_X7_step_b133 G h0 N K39 K73 hK39 hK73 _ _ _ _ _ _) (Nat.le_refl _) (And.intro rfl (And.intro rfl (And.intro rfl (And.intro rfl trivial))))
theorem w_X7_step_b73B (G : Gx) (h0 : G0 G) (N : Nat) (K39 : Nat → Int32 → Int32 → Mem → Option (Int32 × Mem)) (hK39 : ∀ (a0 : Nat) (l1 : Int32) (l2 : Int32) (σ : Mem), Runs G mX7_step rhoI σ 39 [some (vR (some a0)), some (vI l1), some (vI l2), none, none] [] (K39 a0 l1 l2 σ)) (K73 : Nat → Int32 → Int32 → Int32 → Int32 → Mem → Option (Int32 × Mem)) (hK73 : ∀ (a0 : Nat) (l1 : Int32) (l2 : Int32) (l3 : Int32) (l4 : Int32) (σ : Mem), Runs G mX7_step rhoI σ 73 [some (vR (some a0)), some (vI l1), some (vI l2), some (vI l3), some (vI l4)] [] (K73 a0 l1 l2 l3 l4 σ)) (a0 : Nat) (l1 : Int32) (l2 : Int32) (l3 : Int32) (l4 : Int32) (σ : Mem) : Runs G mX7_step rhoI σ 73 [some (vR (some a0)), some (vI l1), some (vI l2), some (vI l3), some (vI l4)] [] (f_X7_step_b73B N K39 K73 a0 l1 l2 l3 l4 σ) := by
  unfold f_X7_step_b73B
  refine r_iload (q := 75) dX7_step_73 rfl rfl ?_
  refine r_aload_n (q := 76) dX7_step_75 rfl rfl rfl ?_
  refine r_gR (q := 79) fl_X7_442 rfl dX7_step_76 rfl (fun x1 => ?_)
  refine r_gI (q := 82) fl_X7_393 dX7_step_79 rfl (fun x2 => ?_)
  refine r_icmp_ge (q := 85) (t := 140) dX7_step_82 rfl (by decide) (fun _ => ?_) (fun _ => ?_)
  · refine r_iload_n (q := 141) dX7_step_140 rfl rfl rfl ?_
    refine r_if_ne (q := 144) (t := 150) dX7_step_141 rfl (by decide) (fun _ => ?_) (fun _ => ?_)
    · refine r_aload_n (q := 145) dX7_step_144 rfl rfl rfl ?_
      refine r_iload_n (q := 146) dX7_step_145 rfl rfl rfl ?_
      refine r_ob (fun a8 ha8 => ?_)
      obtain ⟨hea8, hka8⟩ := o_at_eq ha8
      cases hea8
      refine r_callI (q := 149) (c_X7_good G h0 N _ _ _) (cl_V (ci := 6) rfl rfl (lw_V q2379 q2381 qs118 q176 q2382) (hd_X7_good) ⟨Nat.le_of_ble_eq_true rfl, Nat.le_of_ble_eq_true rfl⟩ (List.mem_singleton.mp hka8) rfl rfl rfl (Nat.le_of_ble_eq_true rfl) dX7_step_146) rfl (fun x6 σ7 => ?_)
      exact r_ireturn rfl rfl dX7_step_149
    · refine r_iload_n (q := 151) dX7_step_150 rfl rfl rfl ?_
      refine r_iconst (q := 152) (v := (1 : Int32)) dX7_step_151 rfl (by decide) ?_
      refine r_aload_n (q := 153) dX7_step_152 rfl rfl rfl ?_
      refine r_gR (q := 156) fl_X7_442 rfl dX7_step_153 rfl (fun x3 => ?_)
      refine r_gR (q := 159) fl_X7_416 rfl dX7_step_156 rfl (fun x4 => ?_)
      refine r_iload_n (q := 160) dX7_step_159 rfl rfl rfl ?_
      refine r_iaload (q := 161) dX7_step_160 rfl (fun x5 => ?_)
      refine r_ishl (q := 162) dX7_step_161 rfl ?_
      refine r_ior (q := 163) dX7_step_162 rfl ?_
      refine r_istore_n (q := 164) dX7_step_163 rfl rfl (Nat.le_of_ble_eq_true rfl) rfl ?_
      refine r_iinc (q := 167) (v := (1 : Int32)) dX7_step_164 rfl rfl (by decide) (Nat.le_of_ble_eq_true rfl) rfl ?_
      refine r_goto (q := 39) dX7_step_167 (by decide) ?_
      exact r_le (hK39 _ _ _ _) (Nat.le_refl _) (And.intro rfl (And.intro rfl (And.intro rfl trivial)))
  · refine r_iload_n (q := 86) dX7_step_85 rfl rfl rfl ?_
    refine r_if_ne (q := 89) (t := 128) dX7_step_86 rfl (by decide) (fun _ => ?_) (fun _ => ?_)
    · refine r_aload_n (q := 90) dX7_step_89 rfl rfl rfl ?_
      refine r_gR (q := 93) fl_X7_442 rfl dX7_step_90 rfl (fun x9 => ?_)
      refine r_gR (q := 96) fl_X7_399 rfl dX7_step_93 rfl (fun x10 => ?_)
      refine r_iload (q := 98) dX7_step_96 rfl rfl ?_
      refine r_iaload (q := 99) dX7_step_98 rfl (fun x11 => ?_)
      refine r_aload_n (q := 100) dX7_step_99 rfl rfl rfl ?_
      refine r_gR (q := 103) fl_X7_442 rfl dX7_step_100 rfl (fun x12 => ?_)
      refine r_gR (q := 106) fl_X7_416 rfl dX7_step_103 rfl (fun x13 => ?_)
      refine r_iload_n (q := 107) dX7_step_106 rfl rfl rfl ?_
      refine r_iaload (q := 108) dX7_step_107 rfl (fun x14 => ?_)
      refine r_icmp_ne (q := 111) (t := 132) dX7_step_108 rfl (by decide) (fun _ => ?_) (fun _ => ?_)
      · refine r_aload_n (q := 112) dX7_step_111 rfl rfl rfl ?_
        refine r_gR (q := 115) fl_X7_442 rfl dX7_step_112 rfl (fun x15 => ?_)
        refine r_gR (q := 118) fl_X7_402 rfl dX7_step_115 rfl (fun x16 => ?_)
        refine r_iload (q := 120) dX7_step_118 rfl rfl ?_
        refine r_iaload (q := 121) dX7_step_120 rfl (fun x17 => ?_)
        refine r_iload_n (q := 122) dX7_step_121 rfl rfl rfl ?_
        refine r_iconst (q := 123) (v := (-1 : Int32)) dX7_step_122 rfl (by decide) ?_
        refine r_ixor (q := 124) dX7_step_123 rfl ?_
        refine r_iand (q := 125) dX7_step_124 rfl ?_
        refine r_if_ne (q := 128) (t := 132) dX7_step_125 rfl (by decide) (fun _ => ?_) (fun _ => ?_)
        · exact r_le (w_X7_step_b128 G h0 N K39 K73 hK39 hK73 _ _ _ _ _) (Nat.le_refl _) (And.intro rfl (And.intro rfl (And.intro rfl (And.intro rfl trivial))))
        · exact r_le (w_X7_step_b132 G h0 N K39 K73 hK39 hK73 _ _ _ _ _) (Nat.le_refl _) (And.intro rfl (And.intro rfl (And.intro rfl (And.intro rfl trivial))))
      · exact r_le (w_X7_step_b132 G h0 N K39 K73 hK39 hK73 _ _ _ _ _) (Nat.le_refl _) (And.intro rfl (And.intro rfl (And.intro rfl (And.intro rfl trivial))))
    · exact r_le (w_X7_step_b128 G h0 N K39 K73 hK39 hK73 _ _ _ _ _) (Nat.le_refl _) (And.intro rfl (And.intro rfl (And.intro rfl (And.intro rfl trivial))))
theorem w_X7_step_b73 (G : Gx) (h0 : G0 G) (N : Nat) (K39 : Nat → Int32 → Int32 → Mem → Option (Int32 × Mem)) (hK39 : ∀ (a0 : Nat) (l1 : Int32) (l2 : Int32) (σ : Mem), Runs G mX7_step rhoI σ 39 [some (vR (some a0)), some (vI l1), some (vI l2), none, none] [] (K39 a0 l1 l2 σ)) : ∀ (z : Nat) (a0 : Nat) (l1 : Int32) (l2 : Int32) (l3 : Int32) (l4 : Int32) (σ : Mem), Runs G mX7_step rhoI σ 73 [some (vR (some a0)), some (vI l1), some (vI l2), some (vI l3), some (vI l4)] [] (f_X7_step_b73 N K39 z a0 l1 l2 l3 l4 σ) := by
  intro z
  induction z with
  | zero => exact fun _ _ _ _ _ _ => r_none
  | succ z ih => exact fun a0 l1 l2 l3 l4 σ => w_X7_step_b73B G h0 N K39 hK39 _ ih a0 l1 l2 l3 l4 σ
theorem w_X7_step_b39B (G : Gx) (h0 : G0 G) (N : Nat)   (K39 : Nat → Int32 → Int32 → Mem → Option (Int32 × Mem)) (hK39 : ∀ (a0 : Nat) (l1 : Int32) (l2 : Int32) (σ : Mem), Runs G mX7_step rhoI σ 39 [some (vR (some a0)), some (vI l1), some (vI l2), none, none] [] (K39 a0 l1 l2 σ)) (a0 : Nat) (l1 : Int32) (l2 : Int32) (σ : Mem) : Runs G mX7_step rhoI σ 39 [some (vR (some a0)), some (vI l1), some (vI l2), none, none] [] (f_X7_step_b39B N  K39 a0 l1 l2 σ) := by
  unfold f_X7_step_b39B
  refine r_iload_n (q := 40) dX7_step_39 rfl rfl rfl ?_
  refine r_aload_n (q := 41) dX7_step_40 rfl rfl rfl ?_
  refine r_gR (q := 44) fl_X7_442 rfl dX7_step_41 rfl (fun x1 => ?_)
  refine r_gI (q := 47) fl_X7_413 dX7_step_44 rfl (fun x2 => ?_)
  refine r_icmp_ge (q := 50) (t := 170) dX7_step_47 rfl (by decide) (fun _ => ?_) (fun _ => ?_)
  · refine r_aload_n (q := 171) dX7_step_170 rfl rfl rfl ?_
    refine r_bipush (q := 173) (v := (-2 : Int32)) dX7_step_171 rfl (by decide) ?_
    refine r_ob (fun a5 ha5 => ?_)
    obtain ⟨hea5, hka5⟩ := o_at_eq ha5
    cases hea5
    refine r_callI (q := 176) (c_X7_good G h0 N _ _ _) (cl_V (ci := 6) rfl rfl (lw_V q2379 q2381 qs118 q176 q2382) (hd_X7_good) ⟨Nat.le_of_ble_eq_true rfl, Nat.le_of_ble_eq_true rfl⟩ (List.mem_singleton.mp hka5) rfl rfl rfl (Nat.le_of_ble_eq_true rfl) dX7_step_173) rfl (fun x3 σ4 => ?_)
    exact r_ireturn rfl rfl dX7_step_176
  · refine r_aload_n (q := 51) dX7_step_50 rfl rfl rfl ?_
    refine r_gR (q := 54) fl_X7_442 rfl dX7_step_51 rfl (fun x6 => ?_)
    refine r_gI (q := 57) fl_X7_391 dX7_step_54 rfl (fun x7 => ?_)
    refine r_aload_n (q := 58) dX7_step_57 rfl rfl rfl ?_
    refine r_gR (q := 61) fl_X7_442 rfl dX7_step_58 rfl (fun x8 => ?_)
    refine r_gR (q := 64) fl_X7_416 rfl dX7_step_61 rfl (fun x9 => ?_)
    refine r_iload_n (q := 65) dX7_step_64 rfl rfl rfl ?_
    refine r_iaload (q := 66) dX7_step_65 rfl (fun x10 => ?_)
    refine r_callI (q := 69) (c_X7_bit G h0 N _ _ _) (cl_S rfl rfl (lw_S q2331 q2332 q176 q2333) (hd_X7_bit) ⟨Nat.le_of_ble_eq_true rfl, Nat.le_of_ble_eq_true rfl⟩ rfl (Nat.le_of_ble_eq_true rfl) dX7_step_66) rfl (fun x11 σ12 => ?_)
    refine r_istore_n (q := 70) dX7_step_69 rfl rfl (Nat.le_of_ble_eq_true rfl) rfl ?_
    refine r_iconst (q := 71) (v := (0 : Int32)) dX7_step_70 rfl (by decide) ?_
    refine r_istore (q := 73) dX7_step_71 rfl (Nat.le_of_ble_eq_true rfl) rfl ?_
    exact r_le (w_X7_step_b73 G h0 N K39 hK39 N _ _ _ _ _ _) (Nat.le_refl _) (And.intro rfl (And.intro rfl (And.intro rfl (And.intro rfl (And.intro rfl trivial)))))
theorem w_X7_step_b39 (G : Gx) (h0 : G0 G) (N : Nat)   : ∀ (z : Nat) (a0 : Nat) (l1 : Int32) (l2 : Int32) (σ : Mem), Runs G mX7_step rhoI σ 39 [some (vR (some a0)), some (vI l1), some (vI l2), none, none] [] (f_X7_step_b39 N  z a0 l1 l2 σ) := by
  intro z
  induction z with
  | zero => exact fun _ _ _ _ => r_none
  | succ z ih => exact fun a0 l1 l2 σ => w_X7_step_b39B G h0 N   _ ih a0 l1 l2 σ
theorem c_X7_step (G : Gx) (h0 : G0 G) (N : Nat) (a0 : Nat) (σ : Mem) : Ct G mX7_step rhoI [vR (some a0)] σ (f_X7_step N a0 σ) := by
  refine Ct_of h0 (by decide) rfl (Nat.le_of_ble_eq_true rfl) (L0 := [some (vR (some a0)), none, none, none, none]) rfl ?_
  unfold f_X7_step
  refine r_aload_n (q := 1) dX7_step_0 rfl rfl rfl ?_
  refine r_iconst (q := 2) (v := (0 : Int32)) dX7_step_1 rfl (by decide) ?_
  refine r_pI (q := 5) fp_X7_step_66 dX7_step_2 rfl (fun σ1 => ?_)
  refine r_aload_n (q := 6) dX7_step_5 rfl rfl rfl ?_
  refine r_gR (q := 9) fl_X7_442 rfl dX7_step_6 rfl (fun x2 => ?_)
  refine r_ifnonnull (q := 12) (t := 18) dX7_step_9 rfl (by decide) (fun _ => ?_) (fun _ => ?_)
  · refine r_aload_n (q := 13) dX7_step_12 rfl rfl rfl ?_
    refine r_iconst (q := 14) (v := (1 : Int32)) dX7_step_13 rfl (by decide) ?_
    refine r_ob (fun a10 ha10 => ?_)
    obtain ⟨hea10, hka10⟩ := o_at_eq ha10
    cases hea10
    refine r_callI (q := 17) (c_X7_refused G h0 N _ _ _) (cl_V (ci := 6) rfl rfl (lw_V q2019 q2021 qs83 q176 q2022) (hd_X7_refused) ⟨Nat.le_of_ble_eq_true rfl, Nat.le_of_ble_eq_true rfl⟩ (List.mem_singleton.mp hka10) rfl rfl rfl (Nat.le_of_ble_eq_true rfl) dX7_step_14) rfl (fun x8 σ9 => ?_)
    exact r_ireturn rfl rfl dX7_step_17
  · refine r_aload_n (q := 19) dX7_step_18 rfl rfl rfl ?_
    refine r_gR (q := 22) fl_X7_442 rfl dX7_step_19 rfl (fun x3 => ?_)
    refine r_gI (q := 25) fl_X7_405 dX7_step_22 rfl (fun x4 => ?_)
    refine r_if_ne (q := 28) (t := 35) dX7_step_25 rfl (by decide) (fun _ => ?_) (fun _ => ?_)
    · refine r_aload_n (q := 29) dX7_step_28 rfl rfl rfl ?_
      refine r_bipush (q := 31) (v := (6 : Int32)) dX7_step_29 rfl (by decide) ?_
      refine r_ob (fun a7 ha7 => ?_)
      obtain ⟨hea7, hka7⟩ := o_at_eq ha7
      cases hea7
      refine r_callI (q := 34) (c_X7_refused G h0 N _ _ _) (cl_V (ci := 6) rfl rfl (lw_V q2019 q2021 qs83 q176 q2022) (hd_X7_refused) ⟨Nat.le_of_ble_eq_true rfl, Nat.le_of_ble_eq_true rfl⟩ (List.mem_singleton.mp hka7) rfl rfl rfl (Nat.le_of_ble_eq_true rfl) dX7_step_31) rfl (fun x5 σ6 => ?_)
      exact r_ireturn rfl rfl dX7_step_34
    · refine r_iconst (q := 36) (v := (0 : Int32)) dX7_step_35 rfl (by decide) ?_
      refine r_istore_n (q := 37) dX7_step_36 rfl rfl (Nat.le_of_ble_eq_true rfl) rfl ?_
      refine r_iconst (q := 38) (v := (0 : Int32)) dX7_step_37 rfl (by decide) ?_
      refine r_istore_n (q := 39) dX7_step_38 rfl rfl (Nat.le_of_ble_eq_true rfl) rfl ?_
      exact r_le (w_X7_step_b39 G h0 N N _ _ _ _) (Nat.le_refl _) (And.intro rfl (And.intro rfl (And.intro rfl trivial)))
theorem w_X1_needs_b88 (G : Gx) (h0 : G0 G) (N : Nat) (K44 : Nat → Int32 → Int32 → Int32 → Mem → Option (Int32 × Mem)) (hK44 : ∀ (a0 : Nat) (l1 : Int32) (l2 : Int32) (l3 : Int32) (σ : Mem), Runs G mX1_needs rhoI σ 44 [some (vR (some a0)), some (vI l1), some (vI l2), some (vI l3)] [] (K44 a0 l1 l2 l3 σ)) (a0 : Nat) (l1 : Int32) (l3 : Int32) (t0 : Int32) (t1 : Int32) (σ : Mem) : Runs G mX1_needs rhoI σ 88 [some (vR (some a0)), some (vI l1), none, some (vI l3)] [vI t1, vI t0] (f_X1_needs_b88 N K44 a0 l1 l3 t0 t1 σ) := by
  unfold f_X1_needs_b88
  refine r_ior (q := 89) dX1_needs_88 rfl ?_
  refine r_istore_n (q := 90) dX1_needs_89 rfl rfl (Nat.le_of_ble_eq_true rfl) rfl ?_
  refine r_iinc (q := 93) (v := (1 : Int32)) dX1_needs_90 rfl rfl (by decide) (Nat.le_of_ble_eq_true rfl) rfl ?_
  refine r_goto (q := 44) dX1_needs_93 (by decide) ?_
  exact r_le (hK44 _ _ _ _ _) (Nat.le_refl _) (And.intro rfl (And.intro rfl (And.intro rfl (And.intro rfl trivial))))
theorem w_X1_needs_b44B (G : Gx) (h0 : G0 G) (N : Nat)   (K44 : Nat → Int32 → Int32 → Int32 → Mem → Option (Int32 × Mem)) (hK44 : ∀ (a0 : Nat) (l1 : Int32) (l2 : Int32) (l3 : Int32) (σ : Mem), Runs G mX1_needs rhoI σ 44 [some (vR (some a0)), some (vI l1), some (vI l2), some (vI l3)] [] (K44 a0 l1 l2 l3 σ)) (a0 : Nat) (l1 : Int32) (l2 : Int32) (l3 : Int32) (σ : Mem) : Runs G mX1_needs rhoI σ 44 [some (vR (some a0)), some (vI l1), some (vI l2), some (vI l3)] [] (f_X1_needs_b44B N  K44 a0 l1 l2 l3 σ) := by
  unfold f_X1_needs_b44B
  refine r_iload_n (q := 45) dX1_needs_44 rfl rfl rfl ?_
  refine r_aload_n (q := 46) dX1_needs_45 rfl rfl rfl ?_
  refine r_gR (q := 49) fl_X1_104 rfl dX1_needs_46 rfl (fun x1 => ?_)
  refine r_gI (q := 52) fl_X1_353 dX1_needs_49 rfl (fun x2 => ?_)
  refine r_icmp_ge (q := 55) (t := 96) dX1_needs_52 rfl (by decide) (fun _ => ?_) (fun _ => ?_)
  · refine r_iload_n (q := 97) dX1_needs_96 rfl rfl rfl ?_
    exact r_ireturn rfl rfl dX1_needs_97
  · refine r_iload_n (q := 56) dX1_needs_55 rfl rfl rfl ?_
    refine r_aload_n (q := 57) dX1_needs_56 rfl rfl rfl ?_
    refine r_iload_n (q := 58) dX1_needs_57 rfl rfl rfl ?_
    refine r_aload_n (q := 59) dX1_needs_58 rfl rfl rfl ?_
    refine r_gR (q := 62) fl_X1_104 rfl dX1_needs_59 rfl (fun x3 => ?_)
    refine r_ob (fun a6 ha6 => ?_)
    obtain ⟨hea6, hka6⟩ := o_at_eq ha6
    cases hea6
    refine r_callI (q := 65) (c_X8_holding G h0 N _ _) (cl_V (ci := 7) rfl rfl (lw_V q1710 q1711 q1712 q177 q1713) (hd_X8_holding) ⟨Nat.le_of_ble_eq_true rfl, Nat.le_of_ble_eq_true rfl⟩ (List.mem_singleton.mp hka6) rfl rfl rfl (Nat.le_of_ble_eq_true rfl) dX1_needs_62) rfl (fun x4 σ5 => ?_)
    refine r_aload_n (q := 66) dX1_needs_65 rfl rfl rfl ?_
    refine r_ob (fun a9 ha9 => ?_)
    obtain ⟨hea9, hka9⟩ := o_at_eq ha9
    cases hea9
    refine r_callI (q := 69) (c_X1_allRules G h0 N _ _) (cl_V (ci := 0) rfl rfl (lw_V q1714 q1716 qs73 q167 q1717) (hd_X1_allRules) ⟨Nat.le_of_ble_eq_true rfl, Nat.le_of_ble_eq_true rfl⟩ (List.mem_singleton.mp hka9) rfl rfl rfl (Nat.le_of_ble_eq_true rfl) dX1_needs_66) rfl (fun x7 σ8 => ?_)
    refine r_iconst (q := 70) (v := (1 : Int32)) dX1_needs_69 rfl (by decide) ?_
    refine r_iload_n (q := 71) dX1_needs_70 rfl rfl rfl ?_
    refine r_ishl (q := 72) dX1_needs_71 rfl ?_
    refine r_iconst (q := 73) (v := (-1 : Int32)) dX1_needs_72 rfl (by decide) ?_
    refine r_ixor (q := 74) dX1_needs_73 rfl ?_
    refine r_iand (q := 75) dX1_needs_74 rfl ?_
    refine r_ob (fun a12 ha12 => ?_)
    obtain ⟨hea12, hka12⟩ := o_at_eq ha12
    cases hea12
    refine r_callI (q := 78) (c_X1_doesFollow G h0 N _ _ _ _ _) (cl_V (ci := 0) rfl rfl (lw_V q1718 q1720 qs74 q167 q1721) (hd_X1_doesFollow) ⟨Nat.le_of_ble_eq_true rfl, Nat.le_of_ble_eq_true rfl⟩ (List.mem_singleton.mp hka12) rfl rfl rfl (Nat.le_of_ble_eq_true rfl) dX1_needs_75) rfl (fun x10 σ11 => ?_)
    refine r_if_eq (q := 81) (t := 85) dX1_needs_78 rfl (by decide) (fun _ => ?_) (fun _ => ?_)
    · refine r_iconst (q := 86) (v := (1 : Int32)) dX1_needs_85 rfl (by decide) ?_
      refine r_iload_n (q := 87) dX1_needs_86 rfl rfl rfl ?_
      refine r_ishl (q := 88) dX1_needs_87 rfl ?_
      exact r_le (w_X1_needs_b88 G h0 N K44 hK44 _ _ _ _ _ _) (Nat.le_refl _) (And.intro rfl (And.intro rfl (And.intro rfl trivial)))
    · refine r_iconst (q := 82) (v := (0 : Int32)) dX1_needs_81 rfl (by decide) ?_
      refine r_goto (q := 88) dX1_needs_82 (by decide) ?_
      exact r_le (w_X1_needs_b88 G h0 N K44 hK44 _ _ _ _ _ _) (Nat.le_refl _) (And.intro rfl (And.intro rfl (And.intro rfl trivial)))
theorem w_X1_needs_b44 (G : Gx) (h0 : G0 G) (N : Nat)   : ∀ (z : Nat) (a0 : Nat) (l1 : Int32) (l2 : Int32) (l3 : Int32) (σ : Mem), Runs G mX1_needs rhoI σ 44 [some (vR (some a0)), some (vI l1), some (vI l2), some (vI l3)] [] (f_X1_needs_b44 N  z a0 l1 l2 l3 σ) := by
  intro z
  induction z with
  | zero => exact fun _ _ _ _ _ => r_none
  | succ z ih => exact fun a0 l1 l2 l3 σ => w_X1_needs_b44B G h0 N   _ ih a0 l1 l2 l3 σ
theorem c_X1_needs (G : Gx) (h0 : G0 G) (N : Nat) (a0 : Nat) (i1 : Int32) (σ : Mem) : Ct G mX1_needs rhoI [vR (some a0), vI i1] σ (f_X1_needs N a0 i1 σ) := by
  refine Ct_of h0 (by decide) rfl (Nat.le_of_ble_eq_true rfl) (L0 := [some (vR (some a0)), some (vI i1), none, none]) rfl ?_
  unfold f_X1_needs
  refine r_aload_n (q := 1) dX1_needs_0 rfl rfl rfl ?_
  refine r_ob (fun a3 ha3 => ?_)
  obtain ⟨hea3, hka3⟩ := o_at_eq ha3
  cases hea3
  refine r_callV (q := 4) (c_X1_anew G h0 N _ _) (cl_V (ci := 0) rfl rfl (lw_V q485 q487 qs2 q167 q488) (hd_X1_anew) ⟨Nat.le_of_ble_eq_true rfl, Nat.le_of_ble_eq_true rfl⟩ (List.mem_singleton.mp hka3) rfl rfl rfl (Nat.le_of_ble_eq_true rfl) dX1_needs_1) rfl (fun u1 σ2 => ?_)
  refine r_aload_n (q := 5) dX1_needs_4 rfl rfl rfl ?_
  refine r_iload_n (q := 6) dX1_needs_5 rfl rfl rfl ?_
  refine r_ob (fun a6 ha6 => ?_)
  obtain ⟨hea6, hka6⟩ := o_at_eq ha6
  cases hea6
  refine r_callI (q := 9) (c_X1_isFact G h0 N _ _ _) (cl_V (ci := 0) rfl rfl (lw_V q1706 q1708 qs72 q167 q1709) (hd_X1_isFact) ⟨Nat.le_of_ble_eq_true rfl, Nat.le_of_ble_eq_true rfl⟩ (List.mem_singleton.mp hka6) rfl rfl rfl (Nat.le_of_ble_eq_true rfl) dX1_needs_6) rfl (fun x4 σ5 => ?_)
  refine r_if_ne (q := 12) (t := 18) dX1_needs_9 rfl (by decide) (fun _ => ?_) (fun _ => ?_)
  · refine r_aload_n (q := 13) dX1_needs_12 rfl rfl rfl ?_
    refine r_iconst (q := 14) (v := (1 : Int32)) dX1_needs_13 rfl (by decide) ?_
    refine r_ob (fun a19 ha19 => ?_)
    obtain ⟨hea19, hka19⟩ := o_at_eq ha19
    cases hea19
    refine r_callI (q := 17) (c_X1_no G h0 N _ _ _) (cl_V (ci := 0) rfl rfl (lw_V q492 q494 qs3 q167 q495) (hd_X1_no) ⟨Nat.le_of_ble_eq_true rfl, Nat.le_of_ble_eq_true rfl⟩ (List.mem_singleton.mp hka19) rfl rfl rfl (Nat.le_of_ble_eq_true rfl) dX1_needs_14) rfl (fun x17 σ18 => ?_)
    exact r_ireturn rfl rfl dX1_needs_17
  · refine r_aload_n (q := 19) dX1_needs_18 rfl rfl rfl ?_
    refine r_iload_n (q := 20) dX1_needs_19 rfl rfl rfl ?_
    refine r_aload_n (q := 21) dX1_needs_20 rfl rfl rfl ?_
    refine r_gR (q := 24) fl_X1_104 rfl dX1_needs_21 rfl (fun x7 => ?_)
    refine r_ob (fun a10 ha10 => ?_)
    obtain ⟨hea10, hka10⟩ := o_at_eq ha10
    cases hea10
    refine r_callI (q := 27) (c_X8_holding G h0 N _ _) (cl_V (ci := 7) rfl rfl (lw_V q1710 q1711 q1712 q177 q1713) (hd_X8_holding) ⟨Nat.le_of_ble_eq_true rfl, Nat.le_of_ble_eq_true rfl⟩ (List.mem_singleton.mp hka10) rfl rfl rfl (Nat.le_of_ble_eq_true rfl) dX1_needs_24) rfl (fun x8 σ9 => ?_)
    refine r_aload_n (q := 28) dX1_needs_27 rfl rfl rfl ?_
    refine r_ob (fun a13 ha13 => ?_)
    obtain ⟨hea13, hka13⟩ := o_at_eq ha13
    cases hea13
    refine r_callI (q := 31) (c_X1_allRules G h0 N _ _) (cl_V (ci := 0) rfl rfl (lw_V q1714 q1716 qs73 q167 q1717) (hd_X1_allRules) ⟨Nat.le_of_ble_eq_true rfl, Nat.le_of_ble_eq_true rfl⟩ (List.mem_singleton.mp hka13) rfl rfl rfl (Nat.le_of_ble_eq_true rfl) dX1_needs_28) rfl (fun x11 σ12 => ?_)
    refine r_ob (fun a16 ha16 => ?_)
    obtain ⟨hea16, hka16⟩ := o_at_eq ha16
    cases hea16
    refine r_callI (q := 34) (c_X1_doesFollow G h0 N _ _ _ _ _) (cl_V (ci := 0) rfl rfl (lw_V q1718 q1720 qs74 q167 q1721) (hd_X1_doesFollow) ⟨Nat.le_of_ble_eq_true rfl, Nat.le_of_ble_eq_true rfl⟩ (List.mem_singleton.mp hka16) rfl rfl rfl (Nat.le_of_ble_eq_true rfl) dX1_needs_31) rfl (fun x14 σ15 => ?_)
    refine r_if_ne (q := 37) (t := 40) dX1_needs_34 rfl (by decide) (fun _ => ?_) (fun _ => ?_)
    · refine r_bipush (q := 39) (v := (-2 : Int32)) dX1_needs_37 rfl (by decide) ?_
      exact r_ireturn rfl rfl dX1_needs_39
    · refine r_iconst (q := 41) (v := (0 : Int32)) dX1_needs_40 rfl (by decide) ?_
      refine r_istore_n (q := 42) dX1_needs_41 rfl rfl (Nat.le_of_ble_eq_true rfl) rfl ?_
      refine r_iconst (q := 43) (v := (0 : Int32)) dX1_needs_42 rfl (by decide) ?_
      refine r_istore_n (q := 44) dX1_needs_43 rfl rfl (Nat.le_of_ble_eq_true rfl) rfl ?_
      exact r_le (w_X1_needs_b44 G h0 N N _ _ _ _ _) (Nat.le_refl _) (And.intro rfl (And.intro rfl (And.intro rfl (And.intro rfl trivial))))
theorem w_X7_needs_b76 (G : Gx) (h0 : G0 G) (N : Nat) (K38 : Nat → Int32 → Int32 → Int32 → Mem → Option (Int32 × Mem)) (hK38 : ∀ (a0 : Nat) (l1 : Int32) (l2 : Int32) (l3 : Int32) (σ : Mem), Runs G mX7_needs rhoI σ 38 [some (vR (some a0)), some (vI l1), some (vI l2), some (vI l3)] [] (K38 a0 l1 l2 l3 σ)) (a0 : Nat) (l1 : Int32) (l3 : Int32) (t0 : Int32) (t1 : Int32) (σ : Mem) : Runs G mX7_needs rhoI σ 76 [some (vR (some a0)), some (vI l1), none, some (vI l3)] [vI t1, vI t0] (f_X7_needs_b76 N K38 a0 l1 l3 t0 t1 σ) := by
  unfold f_X7_needs_b76
  refine r_ior (q := 77) dX7_needs_76 rfl ?_
  refine r_istore_n (q := 78) dX7_needs_77 rfl rfl (Nat.le_of_ble_eq_true rfl) rfl ?_
  refine r_iinc (q := 81) (v := (1 : Int32)) dX7_needs_78 rfl rfl (by decide) (Nat.le_of_ble_eq_true rfl) rfl ?_
  refine r_goto (q := 38) dX7_needs_81 (by decide) ?_
  exact r_le (hK38 _ _ _ _ _) (Nat.le_refl _) (And.intro rfl (And.intro rfl (And.intro rfl (And.intro rfl trivial))))
theorem w_X7_needs_b38B (G : Gx) (h0 : G0 G) (N : Nat)   (K38 : Nat → Int32 → Int32 → Int32 → Mem → Option (Int32 × Mem)) (hK38 : ∀ (a0 : Nat) (l1 : Int32) (l2 : Int32) (l3 : Int32) (σ : Mem), Runs G mX7_needs rhoI σ 38 [some (vR (some a0)), some (vI l1), some (vI l2), some (vI l3)] [] (K38 a0 l1 l2 l3 σ)) (a0 : Nat) (l1 : Int32) (l2 : Int32) (l3 : Int32) (σ : Mem) : Runs G mX7_needs rhoI σ 38 [some (vR (some a0)), some (vI l1), some (vI l2), some (vI l3)] [] (f_X7_needs_b38B N  K38 a0 l1 l2 l3 σ) := by
  unfold f_X7_needs_b38B
  refine r_iload_n (q := 39) dX7_needs_38 rfl rfl rfl ?_
  refine r_aload_n (q := 40) dX7_needs_39 rfl rfl rfl ?_
  refine r_gR (q := 43) fl_X7_442 rfl dX7_needs_40 rfl (fun x1 => ?_)
  refine r_gI (q := 46) fl_X7_393 dX7_needs_43 rfl (fun x2 => ?_)
  refine r_icmp_ge (q := 49) (t := 84) dX7_needs_46 rfl (by decide) (fun _ => ?_) (fun _ => ?_)
  · refine r_aload_n (q := 85) dX7_needs_84 rfl rfl rfl ?_
    refine r_iload_n (q := 86) dX7_needs_85 rfl rfl rfl ?_
    refine r_ob (fun a5 ha5 => ?_)
    obtain ⟨hea5, hka5⟩ := o_at_eq ha5
    cases hea5
    refine r_callI (q := 89) (c_X7_good G h0 N _ _ _) (cl_V (ci := 6) rfl rfl (lw_V q2379 q2381 qs118 q176 q2382) (hd_X7_good) ⟨Nat.le_of_ble_eq_true rfl, Nat.le_of_ble_eq_true rfl⟩ (List.mem_singleton.mp hka5) rfl rfl rfl (Nat.le_of_ble_eq_true rfl) dX7_needs_86) rfl (fun x3 σ4 => ?_)
    exact r_ireturn rfl rfl dX7_needs_89
  · refine r_iload_n (q := 50) dX7_needs_49 rfl rfl rfl ?_
    refine r_aload_n (q := 51) dX7_needs_50 rfl rfl rfl ?_
    refine r_aload_n (q := 52) dX7_needs_51 rfl rfl rfl ?_
    refine r_gR (q := 55) fl_X7_442 rfl dX7_needs_52 rfl (fun x6 => ?_)
    refine r_gI (q := 58) fl_X7_391 dX7_needs_55 rfl (fun x7 => ?_)
    refine r_iload_n (q := 59) dX7_needs_58 rfl rfl rfl ?_
    refine r_ob (fun a10 ha10 => ?_)
    obtain ⟨hea10, hka10⟩ := o_at_eq ha10
    cases hea10
    refine r_callI (q := 62) (c_X7_following G h0 N _ _ _ _) (cl_V (ci := 6) rfl rfl (lw_V q2665 q2667 qs154 q176 q2668) (hd_X7_following) ⟨Nat.le_of_ble_eq_true rfl, Nat.le_of_ble_eq_true rfl⟩ (List.mem_singleton.mp hka10) rfl rfl rfl (Nat.le_of_ble_eq_true rfl) dX7_needs_59) rfl (fun x8 σ9 => ?_)
    refine r_iload_n (q := 63) dX7_needs_62 rfl rfl rfl ?_
    refine r_callI (q := 66) (c_X7_bit G h0 N _ _ _) (cl_S rfl rfl (lw_S q2331 q2332 q176 q2333) (hd_X7_bit) ⟨Nat.le_of_ble_eq_true rfl, Nat.le_of_ble_eq_true rfl⟩ rfl (Nat.le_of_ble_eq_true rfl) dX7_needs_63) rfl (fun x11 σ12 => ?_)
    refine r_if_eq (q := 69) (t := 73) dX7_needs_66 rfl (by decide) (fun _ => ?_) (fun _ => ?_)
    · refine r_iconst (q := 74) (v := (1 : Int32)) dX7_needs_73 rfl (by decide) ?_
      refine r_iload_n (q := 75) dX7_needs_74 rfl rfl rfl ?_
      refine r_ishl (q := 76) dX7_needs_75 rfl ?_
      exact r_le (w_X7_needs_b76 G h0 N K38 hK38 _ _ _ _ _ _) (Nat.le_refl _) (And.intro rfl (And.intro rfl (And.intro rfl trivial)))
    · refine r_iconst (q := 70) (v := (0 : Int32)) dX7_needs_69 rfl (by decide) ?_
      refine r_goto (q := 76) dX7_needs_70 (by decide) ?_
      exact r_le (w_X7_needs_b76 G h0 N K38 hK38 _ _ _ _ _ _) (Nat.le_refl _) (And.intro rfl (And.intro rfl (And.intro rfl trivial)))
theorem w_X7_needs_b38 (G : Gx) (h0 : G0 G) (N : Nat)   : ∀ (z : Nat) (a0 : Nat) (l1 : Int32) (l2 : Int32) (l3 : Int32) (σ : Mem), Runs G mX7_needs rhoI σ 38 [some (vR (some a0)), some (vI l1), some (vI l2), some (vI l3)] [] (f_X7_needs_b38 N  z a0 l1 l2 l3 σ) := by
  intro z
  induction z with
  | zero => exact fun _ _ _ _ _ => r_none
  | succ z ih => exact fun a0 l1 l2 l3 σ => w_X7_needs_b38B G h0 N   _ ih a0 l1 l2 l3 σ
theorem c_X7_needs (G : Gx) (h0 : G0 G) (N : Nat) (a0 : Nat) (i1 : Int32) (σ : Mem) : Ct G mX7_needs rhoI [vR (some a0), vI i1] σ (f_X7_needs N a0 i1 σ) := by
  refine Ct_of h0 (by decide) rfl (Nat.le_of_ble_eq_true rfl) (L0 := [some (vR (some a0)), some (vI i1), none, none]) rfl ?_
  unfold f_X7_needs
  refine r_aload_n (q := 1) dX7_needs_0 rfl rfl rfl ?_
  refine r_iconst (q := 2) (v := (0 : Int32)) dX7_needs_1 rfl (by decide) ?_
  refine r_pI (q := 5) fp_X7_needs_66 dX7_needs_2 rfl (fun σ1 => ?_)
  refine r_aload_n (q := 6) dX7_needs_5 rfl rfl rfl ?_
  refine r_iload_n (q := 7) dX7_needs_6 rfl rfl rfl ?_
  refine r_ob (fun a4 ha4 => ?_)
  obtain ⟨hea4, hka4⟩ := o_at_eq ha4
  cases hea4
  refine r_callI (q := 10) (c_X7_isFact G h0 N _ _ _) (cl_V (ci := 6) rfl rfl (lw_V q2657 q2659 qs152 q176 q2660) (hd_X7_isFact) ⟨Nat.le_of_ble_eq_true rfl, Nat.le_of_ble_eq_true rfl⟩ (List.mem_singleton.mp hka4) rfl rfl rfl (Nat.le_of_ble_eq_true rfl) dX7_needs_7) rfl (fun x2 σ3 => ?_)
  refine r_if_ne (q := 13) (t := 19) dX7_needs_10 rfl (by decide) (fun _ => ?_) (fun _ => ?_)
  · refine r_aload_n (q := 14) dX7_needs_13 rfl rfl rfl ?_
    refine r_iconst (q := 15) (v := (1 : Int32)) dX7_needs_14 rfl (by decide) ?_
    refine r_ob (fun a13 ha13 => ?_)
    obtain ⟨hea13, hka13⟩ := o_at_eq ha13
    cases hea13
    refine r_callI (q := 18) (c_X7_refused G h0 N _ _ _) (cl_V (ci := 6) rfl rfl (lw_V q2019 q2021 qs83 q176 q2022) (hd_X7_refused) ⟨Nat.le_of_ble_eq_true rfl, Nat.le_of_ble_eq_true rfl⟩ (List.mem_singleton.mp hka13) rfl rfl rfl (Nat.le_of_ble_eq_true rfl) dX7_needs_15) rfl (fun x11 σ12 => ?_)
    exact r_ireturn rfl rfl dX7_needs_18
  · refine r_aload_n (q := 20) dX7_needs_19 rfl rfl rfl ?_
    refine r_iload_n (q := 21) dX7_needs_20 rfl rfl rfl ?_
    refine r_ob (fun a7 ha7 => ?_)
    obtain ⟨hea7, hka7⟩ := o_at_eq ha7
    cases hea7
    refine r_callI (q := 24) (c_X7_followsNow G h0 N _ _ _) (cl_V (ci := 6) rfl rfl (lw_V q2661 q2663 qs153 q176 q2664) (hd_X7_followsNow) ⟨Nat.le_of_ble_eq_true rfl, Nat.le_of_ble_eq_true rfl⟩ (List.mem_singleton.mp hka7) rfl rfl rfl (Nat.le_of_ble_eq_true rfl) dX7_needs_21) rfl (fun x5 σ6 => ?_)
    refine r_if_ne (q := 27) (t := 34) dX7_needs_24 rfl (by decide) (fun _ => ?_) (fun _ => ?_)
    · refine r_aload_n (q := 28) dX7_needs_27 rfl rfl rfl ?_
      refine r_bipush (q := 30) (v := (-2 : Int32)) dX7_needs_28 rfl (by decide) ?_
      refine r_ob (fun a10 ha10 => ?_)
      obtain ⟨hea10, hka10⟩ := o_at_eq ha10
      cases hea10
      refine r_callI (q := 33) (c_X7_good G h0 N _ _ _) (cl_V (ci := 6) rfl rfl (lw_V q2379 q2381 qs118 q176 q2382) (hd_X7_good) ⟨Nat.le_of_ble_eq_true rfl, Nat.le_of_ble_eq_true rfl⟩ (List.mem_singleton.mp hka10) rfl rfl rfl (Nat.le_of_ble_eq_true rfl) dX7_needs_30) rfl (fun x8 σ9 => ?_)
      exact r_ireturn rfl rfl dX7_needs_33
    · refine r_iconst (q := 35) (v := (0 : Int32)) dX7_needs_34 rfl (by decide) ?_
      refine r_istore_n (q := 36) dX7_needs_35 rfl rfl (Nat.le_of_ble_eq_true rfl) rfl ?_
      refine r_iconst (q := 37) (v := (0 : Int32)) dX7_needs_36 rfl (by decide) ?_
      refine r_istore_n (q := 38) dX7_needs_37 rfl rfl (Nat.le_of_ble_eq_true rfl) rfl ?_
      exact r_le (w_X7_needs_b38 G h0 N N _ _ _ _ _) (Nat.le_refl _) (And.intro rfl (And.intro rfl (And.intro rfl (And.intro rfl trivial))))
theorem w_X1_enough_b90 (G : Gx) (h0 : G0 G) (N : Nat) (K32 : Nat → Int32 → Int32 → Int32 → Int32 → Mem → Option (Int32 × Mem)) (hK32 : ∀ (a0 : Nat) (l1 : Int32) (l2 : Int32) (l3 : Int32) (l4 : Int32) (σ : Mem), Runs G mX1_enough rhoI σ 32 [some (vR (some a0)), some (vI l1), some (vI l2), some (vI l3), some (vI l4)] [] (K32 a0 l1 l2 l3 l4 σ)) (a0 : Nat) (l1 : Int32) (l2 : Int32) (l3 : Int32) (l4 : Int32) (σ : Mem) : Runs G mX1_enough rhoI σ 90 [some (vR (some a0)), some (vI l1), some (vI l2), some (vI l3), some (vI l4)] [] (f_X1_enough_b90 N K32 a0 l1 l2 l3 l4 σ) := by
  unfold f_X1_enough_b90
  refine r_iinc (q := 93) (v := (1 : Int32)) dX1_enough_90 rfl rfl (by decide) (Nat.le_of_ble_eq_true rfl) rfl ?_
  refine r_goto (q := 32) dX1_enough_93 (by decide) ?_
  exact r_le (hK32 _ _ _ _ _ _) (Nat.le_refl _) (And.intro rfl (And.intro rfl (And.intro rfl (And.intro rfl (And.intro rfl trivial)))))
theorem w_X1_enough_b73 (G : Gx) (h0 : G0 G) (N : Nat) (K32 : Nat → Int32 → Int32 → Int32 → Int32 → Mem → Option (Int32 × Mem)) (hK32 : ∀ (a0 : Nat) (l1 : Int32) (l2 : Int32) (l3 : Int32) (l4 : Int32) (σ : Mem), Runs G mX1_enough rhoI σ 32 [some (vR (some a0)), some (vI l1), some (vI l2), some (vI l3), some (vI l4)] [] (K32 a0 l1 l2 l3 l4 σ)) (a0 : Nat) (l1 : Int32) (l2 : Int32) (l3 : Int32) (l4 : Int32) (σ : Mem) : Runs G mX1_enough rhoI σ 73 [some (vR (some a0)), some (vI l1), some (vI l2), some (vI l3), some (vI l4)] [] (f_X1_enough_b73 N K32 a0 l1 l2 l3 l4 σ) := by
  unfold f_X1_enough_b73
  refine r_aload_n (q := 74) dX1_enough_73 rfl rfl rfl ?_
  refine r_iload_n (q := 75) dX1_enough_74 rfl rfl rfl ?_
  refine r_iload (q := 77) dX1_enough_75 rfl rfl ?_
  refine r_aload_n (q := 78) dX1_enough_77 rfl rfl rfl ?_
  refine r_ob (fun a3 ha3 => ?_)
  obtain ⟨hea3, hka3⟩ := o_at_eq ha3
  cases hea3
  refine r_callI (q := 81) (c_X1_allRules G h0 N _ _) (cl_V (ci := 0) rfl rfl (lw_V q1714 q1716 qs73 q167 q1717) (hd_X1_allRules) ⟨Nat.le_of_ble_eq_true rfl, Nat.le_of_ble_eq_true rfl⟩ (List.mem_singleton.mp hka3) rfl rfl rfl (Nat.le_of_ble_eq_true rfl) dX1_enough_78) rfl (fun x1 σ2 => ?_)
  refine r_ob (fun a6 ha6 => ?_)
  obtain ⟨hea6, hka6⟩ := o_at_eq ha6
  cases hea6
  refine r_callI (q := 84) (c_X1_doesFollow G h0 N _ _ _ _ _) (cl_V (ci := 0) rfl rfl (lw_V q1718 q1720 qs74 q167 q1721) (hd_X1_doesFollow) ⟨Nat.le_of_ble_eq_true rfl, Nat.le_of_ble_eq_true rfl⟩ (List.mem_singleton.mp hka6) rfl rfl rfl (Nat.le_of_ble_eq_true rfl) dX1_enough_81) rfl (fun x4 σ5 => ?_)
  refine r_if_eq (q := 87) (t := 90) dX1_enough_84 rfl (by decide) (fun _ => ?_) (fun _ => ?_)
  · exact r_le (w_X1_enough_b90 G h0 N K32 hK32 _ _ _ _ _ _) (Nat.le_refl _) (And.intro rfl (And.intro rfl (And.intro rfl (And.intro rfl (And.intro rfl trivial)))))
  · refine r_iload (q := 89) dX1_enough_87 rfl rfl ?_
    refine r_istore_n (q := 90) dX1_enough_89 rfl rfl (Nat.le_of_ble_eq_true rfl) rfl ?_
    exact r_le (w_X1_enough_b90 G h0 N K32 hK32 _ _ _ _ _ _) (Nat.le_refl _) (And.intro rfl (And.intro rfl (And.intro rfl (And.intro rfl (And.intro rfl trivial)))))
theorem w_X1_enough_b32B (G : Gx) (h0 : G0 G) (N : Nat)   (K32 : Nat → Int32 → Int32 → Int32 → Int32 → Mem → Option (Int32 × Mem)) (hK32 : ∀ (a0 : Nat) (l1 : Int32) (l2 : Int32) (l3 : Int32) (l4 : Int32) (σ : Mem), Runs G mX1_enough rhoI σ 32 [some (vR (some a0)), some (vI l1), some (vI l2), some (vI l3), some (vI l4)] [] (K32 a0 l1 l2 l3 l4 σ)) (a0 : Nat) (l1 : Int32) (l2 : Int32) (l3 : Int32) (l4 : Int32) (σ : Mem) : Runs G mX1_enough rhoI σ 32 [some (vR (some a0)), some (vI l1), some (vI l2), some (vI l3), some (vI l4)] [] (f_X1_enough_b32B N  K32 a0 l1 l2 l3 l4 σ) := by
  unfold f_X1_enough_b32B
  refine r_iload (q := 34) dX1_enough_32 rfl rfl ?_
  refine r_iconst (q := 35) (v := (1 : Int32)) dX1_enough_34 rfl (by decide) ?_
  refine r_aload_n (q := 36) dX1_enough_35 rfl rfl rfl ?_
  refine r_gR (q := 39) fl_X1_104 rfl dX1_enough_36 rfl (fun x1 => ?_)
  refine r_gI (q := 42) fl_X1_145 dX1_enough_39 rfl (fun x2 => ?_)
  refine r_ishl (q := 43) dX1_enough_42 rfl ?_
  refine r_icmp_ge (q := 46) (t := 96) dX1_enough_43 rfl (by decide) (fun _ => ?_) (fun _ => ?_)
  · refine r_iload_n (q := 97) dX1_enough_96 rfl rfl rfl ?_
    exact r_ireturn rfl rfl dX1_enough_97
  · refine r_iload (q := 48) dX1_enough_46 rfl rfl ?_
    refine r_iload_n (q := 49) dX1_enough_48 rfl rfl rfl ?_
    refine r_iconst (q := 50) (v := (-1 : Int32)) dX1_enough_49 rfl (by decide) ?_
    refine r_ixor (q := 51) dX1_enough_50 rfl ?_
    refine r_iand (q := 52) dX1_enough_51 rfl ?_
    refine r_if_ne (q := 55) (t := 90) dX1_enough_52 rfl (by decide) (fun _ => ?_) (fun _ => ?_)
    · refine r_iload_n (q := 56) dX1_enough_55 rfl rfl rfl ?_
      refine r_bipush (q := 58) (v := (-2 : Int32)) dX1_enough_56 rfl (by decide) ?_
      refine r_icmp_eq (q := 61) (t := 73) dX1_enough_58 rfl (by decide) (fun _ => ?_) (fun _ => ?_)
      · exact r_le (w_X1_enough_b73 G h0 N K32 hK32 _ _ _ _ _ _) (Nat.le_refl _) (And.intro rfl (And.intro rfl (And.intro rfl (And.intro rfl (And.intro rfl trivial)))))
      · refine r_iload (q := 63) dX1_enough_61 rfl rfl ?_
        refine r_iload_n (q := 64) dX1_enough_63 rfl rfl rfl ?_
        refine r_callI (q := 67) (c_X1_isFewer G h0 N _ _ _) (cl_S rfl rfl (lw_S q1626 q1627 q167 q1628) (hd_X1_isFewer) ⟨Nat.le_of_ble_eq_true rfl, Nat.le_of_ble_eq_true rfl⟩ rfl (Nat.le_of_ble_eq_true rfl) dX1_enough_64) rfl (fun x3 σ4 => ?_)
        refine r_if_ne (q := 70) (t := 73) dX1_enough_67 rfl (by decide) (fun _ => ?_) (fun _ => ?_)
        · refine r_goto (q := 90) dX1_enough_70 (by decide) ?_
          exact r_le (w_X1_enough_b90 G h0 N K32 hK32 _ _ _ _ _ _) (Nat.le_refl _) (And.intro rfl (And.intro rfl (And.intro rfl (And.intro rfl (And.intro rfl trivial)))))
        · exact r_le (w_X1_enough_b73 G h0 N K32 hK32 _ _ _ _ _ _) (Nat.le_refl _) (And.intro rfl (And.intro rfl (And.intro rfl (And.intro rfl (And.intro rfl trivial)))))
    · exact r_le (w_X1_enough_b90 G h0 N K32 hK32 _ _ _ _ _ _) (Nat.le_refl _) (And.intro rfl (And.intro rfl (And.intro rfl (And.intro rfl (And.intro rfl trivial)))))
theorem w_X1_enough_b32 (G : Gx) (h0 : G0 G) (N : Nat)   : ∀ (z : Nat) (a0 : Nat) (l1 : Int32) (l2 : Int32) (l3 : Int32) (l4 : Int32) (σ : Mem), Runs G mX1_enough rhoI σ 32 [some (vR (some a0)), some (vI l1), some (vI l2), some (vI l3), some (vI l4)] [] (f_X1_enough_b32 N  z a0 l1 l2 l3 l4 σ) := by
  intro z
  induction z with
  | zero => exact fun _ _ _ _ _ _ => r_none
  | succ z ih => exact fun a0 l1 l2 l3 l4 σ => w_X1_enough_b32B G h0 N   _ ih a0 l1 l2 l3 l4 σ
theorem c_X1_enough (G : Gx) (h0 : G0 G) (N : Nat) (a0 : Nat) (i1 : Int32) (σ : Mem) : Ct G mX1_enough rhoI [vR (some a0), vI i1] σ (f_X1_enough N a0 i1 σ) := by
  refine Ct_of h0 (by decide) rfl (Nat.le_of_ble_eq_true rfl) (L0 := [some (vR (some a0)), some (vI i1), none, none, none]) rfl ?_
  unfold f_X1_enough
  refine r_aload_n (q := 1) dX1_enough_0 rfl rfl rfl ?_
  refine r_ob (fun a3 ha3 => ?_)
  obtain ⟨hea3, hka3⟩ := o_at_eq ha3
  cases hea3
  refine r_callV (q := 4) (c_X1_anew G h0 N _ _) (cl_V (ci := 0) rfl rfl (lw_V q485 q487 qs2 q167 q488) (hd_X1_anew) ⟨Nat.le_of_ble_eq_true rfl, Nat.le_of_ble_eq_true rfl⟩ (List.mem_singleton.mp hka3) rfl rfl rfl (Nat.le_of_ble_eq_true rfl) dX1_enough_1) rfl (fun u1 σ2 => ?_)
  refine r_aload_n (q := 5) dX1_enough_4 rfl rfl rfl ?_
  refine r_iload_n (q := 6) dX1_enough_5 rfl rfl rfl ?_
  refine r_ob (fun a6 ha6 => ?_)
  obtain ⟨hea6, hka6⟩ := o_at_eq ha6
  cases hea6
  refine r_callI (q := 9) (c_X1_isFact G h0 N _ _ _) (cl_V (ci := 0) rfl rfl (lw_V q1706 q1708 qs72 q167 q1709) (hd_X1_isFact) ⟨Nat.le_of_ble_eq_true rfl, Nat.le_of_ble_eq_true rfl⟩ (List.mem_singleton.mp hka6) rfl rfl rfl (Nat.le_of_ble_eq_true rfl) dX1_enough_6) rfl (fun x4 σ5 => ?_)
  refine r_if_ne (q := 12) (t := 18) dX1_enough_9 rfl (by decide) (fun _ => ?_) (fun _ => ?_)
  · refine r_aload_n (q := 13) dX1_enough_12 rfl rfl rfl ?_
    refine r_iconst (q := 14) (v := (1 : Int32)) dX1_enough_13 rfl (by decide) ?_
    refine r_ob (fun a13 ha13 => ?_)
    obtain ⟨hea13, hka13⟩ := o_at_eq ha13
    cases hea13
    refine r_callI (q := 17) (c_X1_no G h0 N _ _ _) (cl_V (ci := 0) rfl rfl (lw_V q492 q494 qs3 q167 q495) (hd_X1_no) ⟨Nat.le_of_ble_eq_true rfl, Nat.le_of_ble_eq_true rfl⟩ (List.mem_singleton.mp hka13) rfl rfl rfl (Nat.le_of_ble_eq_true rfl) dX1_enough_14) rfl (fun x11 σ12 => ?_)
    exact r_ireturn rfl rfl dX1_enough_17
  · refine r_aload_n (q := 19) dX1_enough_18 rfl rfl rfl ?_
    refine r_gR (q := 22) fl_X1_104 rfl dX1_enough_19 rfl (fun x7 => ?_)
    refine r_ob (fun a10 ha10 => ?_)
    obtain ⟨hea10, hka10⟩ := o_at_eq ha10
    cases hea10
    refine r_callI (q := 25) (c_X8_holding G h0 N _ _) (cl_V (ci := 7) rfl rfl (lw_V q1710 q1711 q1712 q177 q1713) (hd_X8_holding) ⟨Nat.le_of_ble_eq_true rfl, Nat.le_of_ble_eq_true rfl⟩ (List.mem_singleton.mp hka10) rfl rfl rfl (Nat.le_of_ble_eq_true rfl) dX1_enough_22) rfl (fun x8 σ9 => ?_)
    refine r_istore_n (q := 26) dX1_enough_25 rfl rfl (Nat.le_of_ble_eq_true rfl) rfl ?_
    refine r_bipush (q := 28) (v := (-2 : Int32)) dX1_enough_26 rfl (by decide) ?_
    refine r_istore_n (q := 29) dX1_enough_28 rfl rfl (Nat.le_of_ble_eq_true rfl) rfl ?_
    refine r_iconst (q := 30) (v := (0 : Int32)) dX1_enough_29 rfl (by decide) ?_
    refine r_istore (q := 32) dX1_enough_30 rfl (Nat.le_of_ble_eq_true rfl) rfl ?_
    exact r_le (w_X1_enough_b32 G h0 N N _ _ _ _ _ _) (Nat.le_refl _) (And.intro rfl (And.intro rfl (And.intro rfl (And.intro rfl (And.intro rfl trivial)))))
theorem w_X7_enough_b83 (G : Gx) (h0 : G0 G) (N : Nat) (K24 : Nat → Int32 → Int32 → Int32 → Mem → Option (Int32 × Mem)) (hK24 : ∀ (a0 : Nat) (l1 : Int32) (l2 : Int32) (l3 : Int32) (σ : Mem), Runs G mX7_enough rhoI σ 24 [some (vR (some a0)), some (vI l1), some (vI l2), some (vI l3)] [] (K24 a0 l1 l2 l3 σ)) (a0 : Nat) (l1 : Int32) (l2 : Int32) (l3 : Int32) (σ : Mem) : Runs G mX7_enough rhoI σ 83 [some (vR (some a0)), some (vI l1), some (vI l2), some (vI l3)] [] (f_X7_enough_b83 N K24 a0 l1 l2 l3 σ) := by
  unfold f_X7_enough_b83
  refine r_iinc (q := 86) (v := (1 : Int32)) dX7_enough_83 rfl rfl (by decide) (Nat.le_of_ble_eq_true rfl) rfl ?_
  refine r_goto (q := 24) dX7_enough_86 (by decide) ?_
  exact r_le (hK24 _ _ _ _ _) (Nat.le_refl _) (And.intro rfl (And.intro rfl (And.intro rfl (And.intro rfl trivial))))
theorem w_X7_enough_b68 (G : Gx) (h0 : G0 G) (N : Nat) (K24 : Nat → Int32 → Int32 → Int32 → Mem → Option (Int32 × Mem)) (hK24 : ∀ (a0 : Nat) (l1 : Int32) (l2 : Int32) (l3 : Int32) (σ : Mem), Runs G mX7_enough rhoI σ 24 [some (vR (some a0)), some (vI l1), some (vI l2), some (vI l3)] [] (K24 a0 l1 l2 l3 σ)) (a0 : Nat) (l1 : Int32) (l2 : Int32) (l3 : Int32) (σ : Mem) : Runs G mX7_enough rhoI σ 68 [some (vR (some a0)), some (vI l1), some (vI l2), some (vI l3)] [] (f_X7_enough_b68 N K24 a0 l1 l2 l3 σ) := by
  unfold f_X7_enough_b68
  refine r_aload_n (q := 69) dX7_enough_68 rfl rfl rfl ?_
  refine r_iload_n (q := 70) dX7_enough_69 rfl rfl rfl ?_
  refine r_iconst (q := 71) (v := (-1 : Int32)) dX7_enough_70 rfl (by decide) ?_
  refine r_ob (fun a3 ha3 => ?_)
  obtain ⟨hea3, hka3⟩ := o_at_eq ha3
  cases hea3
  refine r_callI (q := 74) (c_X7_following G h0 N _ _ _ _) (cl_V (ci := 6) rfl rfl (lw_V q2665 q2667 qs154 q176 q2668) (hd_X7_following) ⟨Nat.le_of_ble_eq_true rfl, Nat.le_of_ble_eq_true rfl⟩ (List.mem_singleton.mp hka3) rfl rfl rfl (Nat.le_of_ble_eq_true rfl) dX7_enough_71) rfl (fun x1 σ2 => ?_)
  refine r_iload_n (q := 75) dX7_enough_74 rfl rfl rfl ?_
  refine r_callI (q := 78) (c_X7_bit G h0 N _ _ _) (cl_S rfl rfl (lw_S q2331 q2332 q176 q2333) (hd_X7_bit) ⟨Nat.le_of_ble_eq_true rfl, Nat.le_of_ble_eq_true rfl⟩ rfl (Nat.le_of_ble_eq_true rfl) dX7_enough_75) rfl (fun x4 σ5 => ?_)
  refine r_if_eq (q := 81) (t := 83) dX7_enough_78 rfl (by decide) (fun _ => ?_) (fun _ => ?_)
  · exact r_le (w_X7_enough_b83 G h0 N K24 hK24 _ _ _ _ _) (Nat.le_refl _) (And.intro rfl (And.intro rfl (And.intro rfl (And.intro rfl trivial))))
  · refine r_iload_n (q := 82) dX7_enough_81 rfl rfl rfl ?_
    refine r_istore_n (q := 83) dX7_enough_82 rfl rfl (Nat.le_of_ble_eq_true rfl) rfl ?_
    exact r_le (w_X7_enough_b83 G h0 N K24 hK24 _ _ _ _ _) (Nat.le_refl _) (And.intro rfl (And.intro rfl (And.intro rfl (And.intro rfl trivial))))
theorem w_X7_enough_b24B (G : Gx) (h0 : G0 G) (N : Nat)   (K24 : Nat → Int32 → Int32 → Int32 → Mem → Option (Int32 × Mem)) (hK24 : ∀ (a0 : Nat) (l1 : Int32) (l2 : Int32) (l3 : Int32) (σ : Mem), Runs G mX7_enough rhoI σ 24 [some (vR (some a0)), some (vI l1), some (vI l2), some (vI l3)] [] (K24 a0 l1 l2 l3 σ)) (a0 : Nat) (l1 : Int32) (l2 : Int32) (l3 : Int32) (σ : Mem) : Runs G mX7_enough rhoI σ 24 [some (vR (some a0)), some (vI l1), some (vI l2), some (vI l3)] [] (f_X7_enough_b24B N  K24 a0 l1 l2 l3 σ) := by
  unfold f_X7_enough_b24B
  refine r_iload_n (q := 25) dX7_enough_24 rfl rfl rfl ?_
  refine r_iconst (q := 26) (v := (1 : Int32)) dX7_enough_25 rfl (by decide) ?_
  refine r_aload_n (q := 27) dX7_enough_26 rfl rfl rfl ?_
  refine r_gR (q := 30) fl_X7_442 rfl dX7_enough_27 rfl (fun x1 => ?_)
  refine r_gI (q := 33) fl_X7_388 dX7_enough_30 rfl (fun x2 => ?_)
  refine r_ishl (q := 34) dX7_enough_33 rfl ?_
  refine r_icmp_ge (q := 37) (t := 89) dX7_enough_34 rfl (by decide) (fun _ => ?_) (fun _ => ?_)
  · refine r_aload_n (q := 90) dX7_enough_89 rfl rfl rfl ?_
    refine r_iload_n (q := 91) dX7_enough_90 rfl rfl rfl ?_
    refine r_ob (fun a5 ha5 => ?_)
    obtain ⟨hea5, hka5⟩ := o_at_eq ha5
    cases hea5
    refine r_callI (q := 94) (c_X7_good G h0 N _ _ _) (cl_V (ci := 6) rfl rfl (lw_V q2379 q2381 qs118 q176 q2382) (hd_X7_good) ⟨Nat.le_of_ble_eq_true rfl, Nat.le_of_ble_eq_true rfl⟩ (List.mem_singleton.mp hka5) rfl rfl rfl (Nat.le_of_ble_eq_true rfl) dX7_enough_91) rfl (fun x3 σ4 => ?_)
    exact r_ireturn rfl rfl dX7_enough_94
  · refine r_iload_n (q := 38) dX7_enough_37 rfl rfl rfl ?_
    refine r_aload_n (q := 39) dX7_enough_38 rfl rfl rfl ?_
    refine r_gR (q := 42) fl_X7_442 rfl dX7_enough_39 rfl (fun x6 => ?_)
    refine r_gI (q := 45) fl_X7_391 dX7_enough_42 rfl (fun x7 => ?_)
    refine r_iconst (q := 46) (v := (-1 : Int32)) dX7_enough_45 rfl (by decide) ?_
    refine r_ixor (q := 47) dX7_enough_46 rfl ?_
    refine r_iand (q := 48) dX7_enough_47 rfl ?_
    refine r_if_ne (q := 51) (t := 83) dX7_enough_48 rfl (by decide) (fun _ => ?_) (fun _ => ?_)
    · refine r_iload_n (q := 52) dX7_enough_51 rfl rfl rfl ?_
      refine r_bipush (q := 54) (v := (-2 : Int32)) dX7_enough_52 rfl (by decide) ?_
      refine r_icmp_eq (q := 57) (t := 68) dX7_enough_54 rfl (by decide) (fun _ => ?_) (fun _ => ?_)
      · exact r_le (w_X7_enough_b68 G h0 N K24 hK24 _ _ _ _ _) (Nat.le_refl _) (And.intro rfl (And.intro rfl (And.intro rfl (And.intro rfl trivial))))
      · refine r_iload_n (q := 58) dX7_enough_57 rfl rfl rfl ?_
        refine r_callI (q := 61) (c_X7_bits G h0 N _ _) (cl_S rfl rfl (lw_S q2354 q2355 q176 q2356) (hd_X7_bits) ⟨Nat.le_of_ble_eq_true rfl, Nat.le_of_ble_eq_true rfl⟩ rfl (Nat.le_of_ble_eq_true rfl) dX7_enough_58) rfl (fun x8 σ9 => ?_)
        refine r_iload_n (q := 62) dX7_enough_61 rfl rfl rfl ?_
        refine r_callI (q := 65) (c_X7_bits G h0 N _ _) (cl_S rfl rfl (lw_S q2354 q2355 q176 q2356) (hd_X7_bits) ⟨Nat.le_of_ble_eq_true rfl, Nat.le_of_ble_eq_true rfl⟩ rfl (Nat.le_of_ble_eq_true rfl) dX7_enough_62) rfl (fun x10 σ11 => ?_)
        refine r_icmp_ge (q := 68) (t := 83) dX7_enough_65 rfl (by decide) (fun _ => ?_) (fun _ => ?_)
        · exact r_le (w_X7_enough_b83 G h0 N K24 hK24 _ _ _ _ _) (Nat.le_refl _) (And.intro rfl (And.intro rfl (And.intro rfl (And.intro rfl trivial))))
        · exact r_le (w_X7_enough_b68 G h0 N K24 hK24 _ _ _ _ _) (Nat.le_refl _) (And.intro rfl (And.intro rfl (And.intro rfl (And.intro rfl trivial))))
    · exact r_le (w_X7_enough_b83 G h0 N K24 hK24 _ _ _ _ _) (Nat.le_refl _) (And.intro rfl (And.intro rfl (And.intro rfl (And.intro rfl trivial))))
theorem w_X7_enough_b24 (G : Gx) (h0 : G0 G) (N : Nat)   : ∀ (z : Nat) (a0 : Nat) (l1 : Int32) (l2 : Int32) (l3 : Int32) (σ : Mem), Runs G mX7_enough rhoI σ 24 [some (vR (some a0)), some (vI l1), some (vI l2), some (vI l3)] [] (f_X7_enough_b24 N  z a0 l1 l2 l3 σ) := by
  intro z
  induction z with
  | zero => exact fun _ _ _ _ _ => r_none
  | succ z ih => exact fun a0 l1 l2 l3 σ => w_X7_enough_b24B G h0 N   _ ih a0 l1 l2 l3 σ
theorem c_X7_enough (G : Gx) (h0 : G0 G) (N : Nat) (a0 : Nat) (i1 : Int32) (σ : Mem) : Ct G mX7_enough rhoI [vR (some a0), vI i1] σ (f_X7_enough N a0 i1 σ) := by
  refine Ct_of h0 (by decide) rfl (Nat.le_of_ble_eq_true rfl) (L0 := [some (vR (some a0)), some (vI i1), none, none]) rfl ?_
  unfold f_X7_enough
  refine r_aload_n (q := 1) dX7_enough_0 rfl rfl rfl ?_
  refine r_iconst (q := 2) (v := (0 : Int32)) dX7_enough_1 rfl (by decide) ?_
  refine r_pI (q := 5) fp_X7_enough_66 dX7_enough_2 rfl (fun σ1 => ?_)
  refine r_aload_n (q := 6) dX7_enough_5 rfl rfl rfl ?_
  refine r_iload_n (q := 7) dX7_enough_6 rfl rfl rfl ?_
  refine r_ob (fun a4 ha4 => ?_)
  obtain ⟨hea4, hka4⟩ := o_at_eq ha4
  cases hea4
  refine r_callI (q := 10) (c_X7_isFact G h0 N _ _ _) (cl_V (ci := 6) rfl rfl (lw_V q2657 q2659 qs152 q176 q2660) (hd_X7_isFact) ⟨Nat.le_of_ble_eq_true rfl, Nat.le_of_ble_eq_true rfl⟩ (List.mem_singleton.mp hka4) rfl rfl rfl (Nat.le_of_ble_eq_true rfl) dX7_enough_7) rfl (fun x2 σ3 => ?_)
  refine r_if_ne (q := 13) (t := 19) dX7_enough_10 rfl (by decide) (fun _ => ?_) (fun _ => ?_)
  · refine r_aload_n (q := 14) dX7_enough_13 rfl rfl rfl ?_
    refine r_iconst (q := 15) (v := (1 : Int32)) dX7_enough_14 rfl (by decide) ?_
    refine r_ob (fun a7 ha7 => ?_)
    obtain ⟨hea7, hka7⟩ := o_at_eq ha7
    cases hea7
    refine r_callI (q := 18) (c_X7_refused G h0 N _ _ _) (cl_V (ci := 6) rfl rfl (lw_V q2019 q2021 qs83 q176 q2022) (hd_X7_refused) ⟨Nat.le_of_ble_eq_true rfl, Nat.le_of_ble_eq_true rfl⟩ (List.mem_singleton.mp hka7) rfl rfl rfl (Nat.le_of_ble_eq_true rfl) dX7_enough_15) rfl (fun x5 σ6 => ?_)
    exact r_ireturn rfl rfl dX7_enough_18
  · refine r_bipush (q := 21) (v := (-2 : Int32)) dX7_enough_19 rfl (by decide) ?_
    refine r_istore_n (q := 22) dX7_enough_21 rfl rfl (Nat.le_of_ble_eq_true rfl) rfl ?_
    refine r_iconst (q := 23) (v := (0 : Int32)) dX7_enough_22 rfl (by decide) ?_
    refine r_istore_n (q := 24) dX7_enough_23 rfl rfl (Nat.le_of_ble_eq_true rfl) rfl ?_
    exact r_le (w_X7_enough_b24 G h0 N N _ _ _ _ _) (Nat.le_refl _) (And.intro rfl (And.intro rfl (And.intro rfl (And.intro rfl trivial))))
theorem c_X1_cheeseWhy (G : Gx) (h0 : G0 G) (N : Nat) (a0 : Nat) (i1 : Int32) (σ : Mem) : Ct G mX1_cheeseWhy rhoI [vR (some a0), vI i1] σ (f_X1_cheeseWhy N a0 i1 σ) := by
  refine Ct_of h0 (by decide) rfl (Nat.le_of_ble_eq_true rfl) (L0 := [some (vR (some a0)), some (vI i1)]) rfl ?_
  unfold f_X1_cheeseWhy
  refine r_aload_n (q := 1) dX1_cheeseWhy_0 rfl rfl rfl ?_
  refine r_iload_n (q := 2) dX1_cheeseWhy_1 rfl rfl rfl ?_
  refine r_ob (fun a3 ha3 => ?_)
  obtain ⟨hea3, hka3⟩ := o_at_eq ha3
  cases hea3
  refine r_callI (q := 5) (c_X1_isCase G h0 N _ _ _) (cl_V (ci := 0) rfl rfl (lw_V q1416 q1418 qs50 q167 q1419) (hd_X1_isCase) ⟨Nat.le_of_ble_eq_true rfl, Nat.le_of_ble_eq_true rfl⟩ (List.mem_singleton.mp hka3) rfl rfl rfl (Nat.le_of_ble_eq_true rfl) dX1_cheeseWhy_2) rfl (fun x1 σ2 => ?_)
  refine r_if_ne (q := 8) (t := 12) dX1_cheeseWhy_5 rfl (by decide) (fun _ => ?_) (fun _ => ?_)
  · refine r_iconst (q := 9) (v := (1 : Int32)) dX1_cheeseWhy_8 rfl (by decide) ?_
    refine r_goto (q := 28) dX1_cheeseWhy_9 (by decide) ?_
    exact r_ireturn rfl rfl dX1_cheeseWhy_28
  · refine r_aload_n (q := 13) dX1_cheeseWhy_12 rfl rfl rfl ?_
    refine r_gR (q := 16) fl_X1_104 rfl dX1_cheeseWhy_13 rfl (fun x4 => ?_)
    refine r_gI (q := 19) fl_X1_402 dX1_cheeseWhy_16 rfl (fun x5 => ?_)
    refine r_if_eq (q := 22) (t := 26) dX1_cheeseWhy_19 rfl (by decide) (fun _ => ?_) (fun _ => ?_)
    · refine r_bipush (q := 28) (v := (6 : Int32)) dX1_cheeseWhy_26 rfl (by decide) ?_
      exact r_ireturn rfl rfl dX1_cheeseWhy_28
    · refine r_iconst (q := 23) (v := (0 : Int32)) dX1_cheeseWhy_22 rfl (by decide) ?_
      refine r_goto (q := 28) dX1_cheeseWhy_23 (by decide) ?_
      exact r_ireturn rfl rfl dX1_cheeseWhy_28
theorem w_X1_isCheese_b90 (G : Gx) (h0 : G0 G) (N : Nat) (K4 : Nat → Int32 → Int32 → Int32 → Mem → Option (Int32 × Mem)) (hK4 : ∀ (a0 : Nat) (l1 : Int32) (l2 : Int32) (l3 : Int32) (σ : Mem), Runs G mX1_isCheese rhoI σ 4 [some (vR (some a0)), some (vI l1), some (vI l2), some (vI l3), none, none] [] (K4 a0 l1 l2 l3 σ)) (a0 : Nat) (l1 : Int32) (l3 : Int32) (t0 : Int32) (σ : Mem) : Runs G mX1_isCheese rhoI σ 90 [some (vR (some a0)), some (vI l1), none, some (vI l3), none, none] [vI t0] (f_X1_isCheese_b90 N K4 a0 l1 l3 t0 σ) := by
  unfold f_X1_isCheese_b90
  refine r_istore_n (q := 91) dX1_isCheese_90 rfl rfl (Nat.le_of_ble_eq_true rfl) rfl ?_
  refine r_iinc (q := 94) (v := (1 : Int32)) dX1_isCheese_91 rfl rfl (by decide) (Nat.le_of_ble_eq_true rfl) rfl ?_
  refine r_goto (q := 4) dX1_isCheese_94 (by decide) ?_
  exact r_le (hK4 _ _ _ _ _) (Nat.le_refl _) (And.intro rfl (And.intro rfl (And.intro rfl (And.intro rfl trivial))))
theorem w_X1_isCheese_b89 (G : Gx) (h0 : G0 G) (N : Nat) (K4 : Nat → Int32 → Int32 → Int32 → Mem → Option (Int32 × Mem)) (hK4 : ∀ (a0 : Nat) (l1 : Int32) (l2 : Int32) (l3 : Int32) (σ : Mem), Runs G mX1_isCheese rhoI σ 4 [some (vR (some a0)), some (vI l1), some (vI l2), some (vI l3), none, none] [] (K4 a0 l1 l2 l3 σ)) (a0 : Nat) (l1 : Int32) (l3 : Int32) (σ : Mem) : Runs G mX1_isCheese rhoI σ 89 [some (vR (some a0)), some (vI l1), none, some (vI l3), none, none] [] (f_X1_isCheese_b89 N K4 a0 l1 l3 σ) := by
  unfold f_X1_isCheese_b89
  refine r_iconst (q := 90) (v := (0 : Int32)) dX1_isCheese_89 rfl (by decide) ?_
  exact r_le (w_X1_isCheese_b90 G h0 N K4 hK4 _ _ _ _ _) (Nat.le_refl _) (And.intro rfl (And.intro rfl (And.intro rfl trivial)))
theorem w_X1_isCheese_b58 (G : Gx) (h0 : G0 G) (N : Nat) (K4 : Nat → Int32 → Int32 → Int32 → Mem → Option (Int32 × Mem)) (K21 : Nat → Int32 → Int32 → Int32 → Int32 → Int32 → Mem → Option (Int32 × Mem)) (hK4 : ∀ (a0 : Nat) (l1 : Int32) (l2 : Int32) (l3 : Int32) (σ : Mem), Runs G mX1_isCheese rhoI σ 4 [some (vR (some a0)), some (vI l1), some (vI l2), some (vI l3), none, none] [] (K4 a0 l1 l2 l3 σ)) (hK21 : ∀ (a0 : Nat) (l1 : Int32) (l2 : Int32) (l3 : Int32) (l4 : Int32) (l5 : Int32) (σ : Mem), Runs G mX1_isCheese rhoI σ 21 [some (vR (some a0)), some (vI l1), some (vI l2), some (vI l3), some (vI l4), some (vI l5)] [] (K21 a0 l1 l2 l3 l4 l5 σ)) (a0 : Nat) (l1 : Int32) (l2 : Int32) (l3 : Int32) (l5 : Int32) (t0 : Int32) (t1 : Int32) (σ : Mem) : Runs G mX1_isCheese rhoI σ 58 [some (vR (some a0)), some (vI l1), some (vI l2), some (vI l3), none, some (vI l5)] [vI t1, vI t0] (f_X1_isCheese_b58 N K4 K21 a0 l1 l2 l3 l5 t0 t1 σ) := by
  unfold f_X1_isCheese_b58
  refine r_iadd (q := 59) dX1_isCheese_58 rfl ?_
  refine r_istore (q := 61) dX1_isCheese_59 rfl (Nat.le_of_ble_eq_true rfl) rfl ?_
  refine r_iinc (q := 64) (v := (1 : Int32)) dX1_isCheese_61 rfl rfl (by decide) (Nat.le_of_ble_eq_true rfl) rfl ?_
  refine r_goto (q := 21) dX1_isCheese_64 (by decide) ?_
  exact r_le (hK21 _ _ _ _ _ _ _) (Nat.le_refl _) (And.intro rfl (And.intro rfl (And.intro rfl (And.intro rfl (And.intro rfl (And.intro rfl trivial))))))
theorem w_X1_isCheese_b21B (G : Gx) (h0 : G0 G) (N : Nat) (K4 : Nat → Int32 → Int32 → Int32 → Mem → Option (Int32 × Mem)) (hK4 : ∀ (a0 : Nat) (l1 : Int32) (l2 : Int32) (l3 : Int32) (σ : Mem), Runs G mX1_isCheese rhoI σ 4 [some (vR (some a0)), some (vI l1), some (vI l2), some (vI l3), none, none] [] (K4 a0 l1 l2 l3 σ)) (K21 : Nat → Int32 → Int32 → Int32 → Int32 → Int32 → Mem → Option (Int32 × Mem)) (hK21 : ∀ (a0 : Nat) (l1 : Int32) (l2 : Int32) (l3 : Int32) (l4 : Int32) (l5 : Int32) (σ : Mem), Runs G mX1_isCheese rhoI σ 21 [some (vR (some a0)), some (vI l1), some (vI l2), some (vI l3), some (vI l4), some (vI l5)] [] (K21 a0 l1 l2 l3 l4 l5 σ)) (a0 : Nat) (l1 : Int32) (l2 : Int32) (l3 : Int32) (l4 : Int32) (l5 : Int32) (σ : Mem) : Runs G mX1_isCheese rhoI σ 21 [some (vR (some a0)), some (vI l1), some (vI l2), some (vI l3), some (vI l4), some (vI l5)] [] (f_X1_isCheese_b21B N K4 K21 a0 l1 l2 l3 l4 l5 σ) := by
  unfold f_X1_isCheese_b21B
  refine r_iload (q := 23) dX1_isCheese_21 rfl rfl ?_
  refine r_aload_n (q := 24) dX1_isCheese_23 rfl rfl rfl ?_
  refine r_gR (q := 27) fl_X1_104 rfl dX1_isCheese_24 rfl (fun x1 => ?_)
  refine r_gI (q := 30) fl_X1_139 dX1_isCheese_27 rfl (fun x2 => ?_)
  refine r_icmp_ge (q := 33) (t := 67) dX1_isCheese_30 rfl (by decide) (fun _ => ?_) (fun _ => ?_)
  · refine r_iload_n (q := 68) dX1_isCheese_67 rfl rfl rfl ?_
    refine r_if_eq (q := 71) (t := 89) dX1_isCheese_68 rfl (by decide) (fun _ => ?_) (fun _ => ?_)
    · exact r_le (w_X1_isCheese_b89 G h0 N K4 hK4 _ _ _ _) (Nat.le_refl _) (And.intro rfl (And.intro rfl (And.intro rfl trivial)))
    · refine r_iload (q := 73) dX1_isCheese_71 rfl rfl ?_
      refine r_aload_n (q := 74) dX1_isCheese_73 rfl rfl rfl ?_
      refine r_gR (q := 77) fl_X1_104 rfl dX1_isCheese_74 rfl (fun x3 => ?_)
      refine r_gR (q := 80) fl_X1_405 rfl dX1_isCheese_77 rfl (fun x4 => ?_)
      refine r_iload_n (q := 81) dX1_isCheese_80 rfl rfl rfl ?_
      refine r_iaload (q := 82) dX1_isCheese_81 rfl (fun x5 => ?_)
      refine r_icmp_ne (q := 85) (t := 89) dX1_isCheese_82 rfl (by decide) (fun _ => ?_) (fun _ => ?_)
      · refine r_iconst (q := 86) (v := (1 : Int32)) dX1_isCheese_85 rfl (by decide) ?_
        refine r_goto (q := 90) dX1_isCheese_86 (by decide) ?_
        exact r_le (w_X1_isCheese_b90 G h0 N K4 hK4 _ _ _ _ _) (Nat.le_refl _) (And.intro rfl (And.intro rfl (And.intro rfl trivial)))
      · exact r_le (w_X1_isCheese_b89 G h0 N K4 hK4 _ _ _ _) (Nat.le_refl _) (And.intro rfl (And.intro rfl (And.intro rfl trivial)))
  · refine r_iload (q := 35) dX1_isCheese_33 rfl rfl ?_
    refine r_iload_n (q := 36) dX1_isCheese_35 rfl rfl rfl ?_
    refine r_iload (q := 38) dX1_isCheese_36 rfl rfl ?_
    refine r_callI (q := 41) (c_X1_has G h0 N _ _ _) (cl_S rfl rfl (lw_S q1364 q1117 q167 q1118) (hd_X1_has) ⟨Nat.le_of_ble_eq_true rfl, Nat.le_of_ble_eq_true rfl⟩ rfl (Nat.le_of_ble_eq_true rfl) dX1_isCheese_38) rfl (fun x6 σ7 => ?_)
    refine r_if_eq (q := 44) (t := 57) dX1_isCheese_41 rfl (by decide) (fun _ => ?_) (fun _ => ?_)
    · refine r_iconst (q := 58) (v := (0 : Int32)) dX1_isCheese_57 rfl (by decide) ?_
      exact r_le (w_X1_isCheese_b58 G h0 N K4 K21 hK4 hK21 _ _ _ _ _ _ _ _) (Nat.le_refl _) (And.intro rfl (And.intro rfl (And.intro rfl (And.intro rfl (And.intro rfl trivial)))))
    · refine r_aload_n (q := 45) dX1_isCheese_44 rfl rfl rfl ?_
      refine r_gR (q := 48) fl_X1_46 rfl dX1_isCheese_45 rfl (fun x8 => ?_)
      refine r_iload (q := 50) dX1_isCheese_48 rfl rfl ?_
      refine r_iload_n (q := 51) dX1_isCheese_50 rfl rfl rfl ?_
      refine r_ob (fun a11 ha11 => ?_)
      obtain ⟨hea11, hka11⟩ := o_at_eq ha11
      cases hea11
      refine r_callI (q := 54) (c_X5_ate G h0 N _ _ _ _) (cl_V (ci := 4) rfl rfl (lw_V q1520 q1521 q1522 q174 q1523) (hd_X5_ate) ⟨Nat.le_of_ble_eq_true rfl, Nat.le_of_ble_eq_true rfl⟩ (List.mem_singleton.mp hka11) rfl rfl rfl (Nat.le_of_ble_eq_true rfl) dX1_isCheese_51) rfl (fun x9 σ10 => ?_)
      refine r_goto (q := 58) dX1_isCheese_54 (by decide) ?_
      exact r_le (w_X1_isCheese_b58 G h0 N K4 K21 hK4 hK21 _ _ _ _ _ _ _ _) (Nat.le_refl _) (And.intro rfl (And.intro rfl (And.intro rfl (And.intro rfl (And.intro rfl trivial)))))
theorem w_X1_isCheese_b21 (G : Gx) (h0 : G0 G) (N : Nat) (K4 : Nat → Int32 → Int32 → Int32 → Mem → Option (Int32 × Mem)) (hK4 : ∀ (a0 : Nat) (l1 : Int32) (l2 : Int32) (l3 : Int32) (σ : Mem), Runs G mX1_isCheese rhoI σ 4 [some (vR (some a0)), some (vI l1), some (vI l2), some (vI l3), none, none] [] (K4 a0 l1 l2 l3 σ)) : ∀ (z : Nat) (a0 : Nat) (l1 : Int32) (l2 : Int32) (l3 : Int32) (l4 : Int32) (l5 : Int32) (σ : Mem), Runs G mX1_isCheese rhoI σ 21 [some (vR (some a0)), some (vI l1), some (vI l2), some (vI l3), some (vI l4), some (vI l5)] [] (f_X1_isCheese_b21 N K4 z a0 l1 l2 l3 l4 l5 σ) := by
  intro z
  induction z with
  | zero => exact fun _ _ _ _ _ _ _ => r_none
  | succ z ih => exact fun a0 l1 l2 l3 l4 l5 σ => w_X1_isCheese_b21B G h0 N K4 hK4 _ ih a0 l1 l2 l3 l4 l5 σ
theorem w_X1_isCheese_b4B (G : Gx) (h0 : G0 G) (N : Nat)   (K4 : Nat → Int32 → Int32 → Int32 → Mem → Option (Int32 × Mem)) (hK4 : ∀ (a0 : Nat) (l1 : Int32) (l2 : Int32) (l3 : Int32) (σ : Mem), Runs G mX1_isCheese rhoI σ 4 [some (vR (some a0)), some (vI l1), some (vI l2), some (vI l3), none, none] [] (K4 a0 l1 l2 l3 σ)) (a0 : Nat) (l1 : Int32) (l2 : Int32) (l3 : Int32) (σ : Mem) : Runs G mX1_isCheese rhoI σ 4 [some (vR (some a0)), some (vI l1), some (vI l2), some (vI l3), none, none] [] (f_X1_isCheese_b4B N  K4 a0 l1 l2 l3 σ) := by
  unfold f_X1_isCheese_b4B
  refine r_iload_n (q := 5) dX1_isCheese_4 rfl rfl rfl ?_
  refine r_aload_n (q := 6) dX1_isCheese_5 rfl rfl rfl ?_
  refine r_gR (q := 9) fl_X1_104 rfl dX1_isCheese_6 rfl (fun x1 => ?_)
  refine r_gI (q := 12) fl_X1_133 dX1_isCheese_9 rfl (fun x2 => ?_)
  refine r_icmp_ge (q := 15) (t := 97) dX1_isCheese_12 rfl (by decide) (fun _ => ?_) (fun _ => ?_)
  · refine r_iload_n (q := 98) dX1_isCheese_97 rfl rfl rfl ?_
    exact r_ireturnN rfl dX1_isCheese_98
  · refine r_iconst (q := 16) (v := (0 : Int32)) dX1_isCheese_15 rfl (by decide) ?_
    refine r_istore (q := 18) dX1_isCheese_16 rfl (Nat.le_of_ble_eq_true rfl) rfl ?_
    refine r_iconst (q := 19) (v := (0 : Int32)) dX1_isCheese_18 rfl (by decide) ?_
    refine r_istore (q := 21) dX1_isCheese_19 rfl (Nat.le_of_ble_eq_true rfl) rfl ?_
    exact r_le (w_X1_isCheese_b21 G h0 N K4 hK4 N _ _ _ _ _ _ _) (Nat.le_refl _) (And.intro rfl (And.intro rfl (And.intro rfl (And.intro rfl (And.intro rfl (And.intro rfl trivial))))))
theorem w_X1_isCheese_b4 (G : Gx) (h0 : G0 G) (N : Nat)   : ∀ (z : Nat) (a0 : Nat) (l1 : Int32) (l2 : Int32) (l3 : Int32) (σ : Mem), Runs G mX1_isCheese rhoI σ 4 [some (vR (some a0)), some (vI l1), some (vI l2), some (vI l3), none, none] [] (f_X1_isCheese_b4 N  z a0 l1 l2 l3 σ) := by
  intro z
  induction z with
  | zero => exact fun _ _ _ _ _ => r_none
  | succ z ih => exact fun a0 l1 l2 l3 σ => w_X1_isCheese_b4B G h0 N   _ ih a0 l1 l2 l3 σ
theorem c_X1_isCheese (G : Gx) (h0 : G0 G) (N : Nat) (a0 : Nat) (i1 : Int32) (σ : Mem) : Ct G mX1_isCheese rhoI [vR (some a0), vI i1] σ (f_X1_isCheese N a0 i1 σ) := by
  refine Ct_of h0 (by decide) rfl (Nat.le_of_ble_eq_true rfl) (L0 := [some (vR (some a0)), some (vI i1), none, none, none, none]) rfl ?_
  unfold f_X1_isCheese
  refine r_iconst (q := 1) (v := (1 : Int32)) dX1_isCheese_0 rfl (by decide) ?_
  refine r_istore_n (q := 2) dX1_isCheese_1 rfl rfl (Nat.le_of_ble_eq_true rfl) rfl ?_
  refine r_iconst (q := 3) (v := (0 : Int32)) dX1_isCheese_2 rfl (by decide) ?_
  refine r_istore_n (q := 4) dX1_isCheese_3 rfl rfl (Nat.le_of_ble_eq_true rfl) rfl ?_
  exact r_le (w_X1_isCheese_b4 G h0 N N _ _ _ _ _) (Nat.le_refl _) (And.intro rfl (And.intro rfl (And.intro rfl (And.intro rfl trivial))))
