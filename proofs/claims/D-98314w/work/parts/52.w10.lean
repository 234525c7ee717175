/-! the walks of X7_proved X1_tryAsk X1_askWhy X1_ask X7_asks X7_ask X1_askMost X7_askMost X1_luredWhy X4_become X1_comes X4_add X1_lure X1_lured X1_led X7_refusesLed X7_isThere X7_isSpot X7_turn X7_fewest X7_led -/
set_option maxRecDepth 100000
def dkwX7_proved_4 : List UInt8 := [160, 0, 7, 21, 6, 54, 5, 132, 6, 1, 167, 255, 206, 42, 21, 5, 182, 0, 76, 172]
abbrev dktX7_proved_4 : List UInt8 := dkwX7_proved_4 ++ []
def dkwX7_proved_3 : List UInt8 := [184, 1, 140, 21, 5, 184, 1, 140, 162, 0, 21, 42, 27, 29, 21, 6, 182, 2, 23, 4, 28, 120]
abbrev dktX7_proved_3 : List UInt8 := dkwX7_proved_3 ++ dktX7_proved_4
def dkwX7_proved_2 : List UInt8 := [54, 5, 3, 54, 6, 21, 6, 42, 182, 1, 232, 163, 0, 47, 21, 5, 16, 254, 159, 0, 16, 21, 6]
abbrev dktX7_proved_2 : List UInt8 := dkwX7_proved_2 ++ dktX7_proved_3
def dkwX7_proved_1 : List UInt8 := [182, 2, 20, 54, 4, 21, 4, 158, 0, 10, 42, 21, 4, 182, 0, 72, 172, 42, 182, 2, 11, 16, 254]
abbrev dktX7_proved_1 : List UInt8 := dkwX7_proved_1 ++ dktX7_proved_2
def dkwX7_proved_0 : List UInt8 := [42, 3, 181, 0, 66, 42, 28, 182, 1, 235, 154, 0, 9, 42, 4, 182, 0, 72, 172, 42, 27, 29]
abbrev dktX7_proved_0 : List UInt8 := dkwX7_proved_0 ++ dktX7_proved_1
theorem dksX7_proved_0 : cX7_proved.data.toList.drop 0 = dktX7_proved_0 := by decide +kernel
theorem dksX7_proved_1 : cX7_proved.data.toList.drop 22 = dktX7_proved_1 := dk_seg dksX7_proved_0 22 rfl rfl
theorem dksX7_proved_2 : cX7_proved.data.toList.drop 45 = dktX7_proved_2 := dk_seg dksX7_proved_1 23 rfl rfl
theorem dksX7_proved_3 : cX7_proved.data.toList.drop 68 = dktX7_proved_3 := dk_seg dksX7_proved_2 23 rfl rfl
theorem dksX7_proved_4 : cX7_proved.data.toList.drop 90 = dktX7_proved_4 := dk_seg dksX7_proved_3 22 rfl rfl
theorem dX7_proved_0 : decode cX7_proved 0 = .ok (.aload_n 0, 1) := dk_42 (dk_at dksX7_proved_0 0 rfl rfl)
theorem dX7_proved_1 : decode cX7_proved 1 = .ok (.iconst 0, 1) := dk_3 (dk_at dksX7_proved_0 1 rfl rfl)
theorem dX7_proved_2 : decode cX7_proved 2 = .ok (.putfield 66, 3) := dk_181 0 66 (dk_at dksX7_proved_0 2 rfl rfl)
theorem dX7_proved_5 : decode cX7_proved 5 = .ok (.aload_n 0, 1) := dk_42 (dk_at dksX7_proved_0 5 rfl rfl)
theorem dX7_proved_6 : decode cX7_proved 6 = .ok (.iload_n 2, 1) := dk_28 (dk_at dksX7_proved_0 6 rfl rfl)
theorem dX7_proved_7 : decode cX7_proved 7 = .ok (.invokevirtual 491, 3) := dk_182 1 235 (dk_at dksX7_proved_0 7 rfl rfl)
theorem dX7_proved_10 : decode cX7_proved 10 = .ok (.ifCond .ne 9, 3) := dk_154 0 9 (dk_at dksX7_proved_0 10 rfl rfl)
theorem dX7_proved_13 : decode cX7_proved 13 = .ok (.aload_n 0, 1) := dk_42 (dk_at dksX7_proved_0 13 rfl rfl)
theorem dX7_proved_14 : decode cX7_proved 14 = .ok (.iconst 1, 1) := dk_4 (dk_at dksX7_proved_0 14 rfl rfl)
theorem dX7_proved_15 : decode cX7_proved 15 = .ok (.invokevirtual 72, 3) := dk_182 0 72 (dk_at dksX7_proved_0 15 rfl rfl)
theorem dX7_proved_18 : decode cX7_proved 18 = .ok (.ireturn, 1) := dk_172 (dk_at dksX7_proved_0 18 rfl rfl)
theorem dX7_proved_19 : decode cX7_proved 19 = .ok (.aload_n 0, 1) := dk_42 (dk_at dksX7_proved_0 19 rfl rfl)
theorem dX7_proved_20 : decode cX7_proved 20 = .ok (.iload_n 1, 1) := dk_27 (dk_at dksX7_proved_0 20 rfl rfl)
theorem dX7_proved_21 : decode cX7_proved 21 = .ok (.iload_n 3, 1) := dk_29 (dk_at dksX7_proved_0 21 rfl rfl)
theorem dX7_proved_22 : decode cX7_proved 22 = .ok (.invokevirtual 532, 3) := dk_182 2 20 (dk_at dksX7_proved_1 0 rfl rfl)
theorem dX7_proved_25 : decode cX7_proved 25 = .ok (.istore 4, 2) := dk_54 4 (dk_at dksX7_proved_1 3 rfl rfl)
theorem dX7_proved_27 : decode cX7_proved 27 = .ok (.iload 4, 2) := dk_21 4 (dk_at dksX7_proved_1 5 rfl rfl)
theorem dX7_proved_29 : decode cX7_proved 29 = .ok (.ifCond .le 10, 3) := dk_158 0 10 (dk_at dksX7_proved_1 7 rfl rfl)
theorem dX7_proved_32 : decode cX7_proved 32 = .ok (.aload_n 0, 1) := dk_42 (dk_at dksX7_proved_1 10 rfl rfl)
theorem dX7_proved_33 : decode cX7_proved 33 = .ok (.iload 4, 2) := dk_21 4 (dk_at dksX7_proved_1 11 rfl rfl)
theorem dX7_proved_35 : decode cX7_proved 35 = .ok (.invokevirtual 72, 3) := dk_182 0 72 (dk_at dksX7_proved_1 13 rfl rfl)
theorem dX7_proved_38 : decode cX7_proved 38 = .ok (.ireturn, 1) := dk_172 (dk_at dksX7_proved_1 16 rfl rfl)
theorem dX7_proved_39 : decode cX7_proved 39 = .ok (.aload_n 0, 1) := dk_42 (dk_at dksX7_proved_1 17 rfl rfl)
theorem dX7_proved_40 : decode cX7_proved 40 = .ok (.invokevirtual 523, 3) := dk_182 2 11 (dk_at dksX7_proved_1 18 rfl rfl)
theorem dX7_proved_43 : decode cX7_proved 43 = .ok (.bipush (-2), 2) := dk_16 254 (dk_at dksX7_proved_1 21 rfl rfl)
theorem dX7_proved_45 : decode cX7_proved 45 = .ok (.istore 5, 2) := dk_54 5 (dk_at dksX7_proved_2 0 rfl rfl)
theorem dX7_proved_47 : decode cX7_proved 47 = .ok (.iconst 0, 1) := dk_3 (dk_at dksX7_proved_2 2 rfl rfl)
theorem dX7_proved_48 : decode cX7_proved 48 = .ok (.istore 6, 2) := dk_54 6 (dk_at dksX7_proved_2 3 rfl rfl)
theorem dX7_proved_50 : decode cX7_proved 50 = .ok (.iload 6, 2) := dk_21 6 (dk_at dksX7_proved_2 5 rfl rfl)
theorem dX7_proved_52 : decode cX7_proved 52 = .ok (.aload_n 0, 1) := dk_42 (dk_at dksX7_proved_2 7 rfl rfl)
theorem dX7_proved_53 : decode cX7_proved 53 = .ok (.invokevirtual 488, 3) := dk_182 1 232 (dk_at dksX7_proved_2 8 rfl rfl)
theorem dX7_proved_56 : decode cX7_proved 56 = .ok (.if_icmp .gt 47, 3) := dk_163 0 47 (dk_at dksX7_proved_2 11 rfl rfl)
theorem dX7_proved_59 : decode cX7_proved 59 = .ok (.iload 5, 2) := dk_21 5 (dk_at dksX7_proved_2 14 rfl rfl)
theorem dX7_proved_61 : decode cX7_proved 61 = .ok (.bipush (-2), 2) := dk_16 254 (dk_at dksX7_proved_2 16 rfl rfl)
theorem dX7_proved_63 : decode cX7_proved 63 = .ok (.if_icmp .eq 16, 3) := dk_159 0 16 (dk_at dksX7_proved_2 18 rfl rfl)
theorem dX7_proved_66 : decode cX7_proved 66 = .ok (.iload 6, 2) := dk_21 6 (dk_at dksX7_proved_2 21 rfl rfl)
theorem dX7_proved_68 : decode cX7_proved 68 = .ok (.invokestatic 396, 3) := dk_184 1 140 (dk_at dksX7_proved_3 0 rfl rfl)
theorem dX7_proved_71 : decode cX7_proved 71 = .ok (.iload 5, 2) := dk_21 5 (dk_at dksX7_proved_3 3 rfl rfl)
theorem dX7_proved_73 : decode cX7_proved 73 = .ok (.invokestatic 396, 3) := dk_184 1 140 (dk_at dksX7_proved_3 5 rfl rfl)
theorem dX7_proved_76 : decode cX7_proved 76 = .ok (.if_icmp .ge 21, 3) := dk_162 0 21 (dk_at dksX7_proved_3 8 rfl rfl)
theorem dX7_proved_79 : decode cX7_proved 79 = .ok (.aload_n 0, 1) := dk_42 (dk_at dksX7_proved_3 11 rfl rfl)
theorem dX7_proved_80 : decode cX7_proved 80 = .ok (.iload_n 1, 1) := dk_27 (dk_at dksX7_proved_3 12 rfl rfl)
theorem dX7_proved_81 : decode cX7_proved 81 = .ok (.iload_n 3, 1) := dk_29 (dk_at dksX7_proved_3 13 rfl rfl)
theorem dX7_proved_82 : decode cX7_proved 82 = .ok (.iload 6, 2) := dk_21 6 (dk_at dksX7_proved_3 14 rfl rfl)
theorem dX7_proved_84 : decode cX7_proved 84 = .ok (.invokevirtual 535, 3) := dk_182 2 23 (dk_at dksX7_proved_3 16 rfl rfl)
theorem dX7_proved_87 : decode cX7_proved 87 = .ok (.iconst 1, 1) := dk_4 (dk_at dksX7_proved_3 19 rfl rfl)
theorem dX7_proved_88 : decode cX7_proved 88 = .ok (.iload_n 2, 1) := dk_28 (dk_at dksX7_proved_3 20 rfl rfl)
theorem dX7_proved_89 : decode cX7_proved 89 = .ok (.ishl, 1) := dk_120 (dk_at dksX7_proved_3 21 rfl rfl)
theorem dX7_proved_90 : decode cX7_proved 90 = .ok (.if_icmp .ne 7, 3) := dk_160 0 7 (dk_at dksX7_proved_4 0 rfl rfl)
theorem dX7_proved_93 : decode cX7_proved 93 = .ok (.iload 6, 2) := dk_21 6 (dk_at dksX7_proved_4 3 rfl rfl)
theorem dX7_proved_95 : decode cX7_proved 95 = .ok (.istore 5, 2) := dk_54 5 (dk_at dksX7_proved_4 5 rfl rfl)
theorem dX7_proved_97 : decode cX7_proved 97 = .ok (.iinc 6 1, 3) := dk_132 6 1 (dk_at dksX7_proved_4 7 rfl rfl)
theorem dX7_proved_100 : decode cX7_proved 100 = .ok (.goto (-50), 3) := dk_167 255 206 (dk_at dksX7_proved_4 10 rfl rfl)
theorem dX7_proved_103 : decode cX7_proved 103 = .ok (.aload_n 0, 1) := dk_42 (dk_at dksX7_proved_4 13 rfl rfl)
theorem dX7_proved_104 : decode cX7_proved 104 = .ok (.iload 5, 2) := dk_21 5 (dk_at dksX7_proved_4 14 rfl rfl)
theorem dX7_proved_106 : decode cX7_proved 106 = .ok (.invokevirtual 76, 3) := dk_182 0 76 (dk_at dksX7_proved_4 16 rfl rfl)
theorem dX7_proved_109 : decode cX7_proved 109 = .ok (.ireturn, 1) := dk_172 (dk_at dksX7_proved_4 19 rfl rfl)
def dkwX1_tryAsk_4 : List UInt8 := [42, 180, 1, 55, 161, 0, 4, 177, 42, 16, 100, 27, 104, 28, 96, 181, 1, 67, 42, 29, 181, 1, 55, 177]
abbrev dktX1_tryAsk_4 : List UInt8 := dkwX1_tryAsk_4 ++ []
def dkwX1_tryAsk_3 : List UInt8 := [180, 0, 71, 42, 180, 0, 46, 27, 28, 182, 1, 7, 46, 184, 1, 62, 62, 132, 4, 1, 167, 255, 196, 29]
abbrev dktX1_tryAsk_3 : List UInt8 := dkwX1_tryAsk_3 ++ dktX1_tryAsk_4
def dkwX1_tryAsk_2 : List UInt8 := [182, 1, 5, 42, 180, 0, 71, 42, 180, 0, 46, 27, 28, 182, 1, 7, 92, 46, 4, 96, 79, 29, 42]
abbrev dktX1_tryAsk_2 : List UInt8 := dkwX1_tryAsk_2 ++ dktX1_tryAsk_3
def dkwX1_tryAsk_1 : List UInt8 := [167, 255, 238, 3, 54, 4, 21, 4, 42, 180, 1, 31, 162, 0, 57, 42, 42, 180, 0, 68, 21, 4, 46]
abbrev dktX1_tryAsk_1 : List UInt8 := dkwX1_tryAsk_1 ++ dktX1_tryAsk_2
def dkwX1_tryAsk_0 : List UInt8 := [3, 62, 3, 54, 4, 21, 4, 16, 8, 162, 0, 17, 42, 180, 0, 71, 21, 4, 3, 79, 132, 4, 1]
abbrev dktX1_tryAsk_0 : List UInt8 := dkwX1_tryAsk_0 ++ dktX1_tryAsk_1
theorem dksX1_tryAsk_0 : cX1_tryAsk.data.toList.drop 0 = dktX1_tryAsk_0 := by decide +kernel
theorem dksX1_tryAsk_1 : cX1_tryAsk.data.toList.drop 23 = dktX1_tryAsk_1 := dk_seg dksX1_tryAsk_0 23 rfl rfl
theorem dksX1_tryAsk_2 : cX1_tryAsk.data.toList.drop 46 = dktX1_tryAsk_2 := dk_seg dksX1_tryAsk_1 23 rfl rfl
theorem dksX1_tryAsk_3 : cX1_tryAsk.data.toList.drop 69 = dktX1_tryAsk_3 := dk_seg dksX1_tryAsk_2 23 rfl rfl
theorem dksX1_tryAsk_4 : cX1_tryAsk.data.toList.drop 93 = dktX1_tryAsk_4 := dk_seg dksX1_tryAsk_3 24 rfl rfl
theorem dX1_tryAsk_0 : decode cX1_tryAsk 0 = .ok (.iconst 0, 1) := dk_3 (dk_at dksX1_tryAsk_0 0 rfl rfl)
theorem dX1_tryAsk_1 : decode cX1_tryAsk 1 = .ok (.istore_n 3, 1) := dk_62 (dk_at dksX1_tryAsk_0 1 rfl rfl)
theorem dX1_tryAsk_2 : decode cX1_tryAsk 2 = .ok (.iconst 0, 1) := dk_3 (dk_at dksX1_tryAsk_0 2 rfl rfl)
theorem dX1_tryAsk_3 : decode cX1_tryAsk 3 = .ok (.istore 4, 2) := dk_54 4 (dk_at dksX1_tryAsk_0 3 rfl rfl)
theorem dX1_tryAsk_5 : decode cX1_tryAsk 5 = .ok (.iload 4, 2) := dk_21 4 (dk_at dksX1_tryAsk_0 5 rfl rfl)
theorem dX1_tryAsk_7 : decode cX1_tryAsk 7 = .ok (.bipush 8, 2) := dk_16 8 (dk_at dksX1_tryAsk_0 7 rfl rfl)
theorem dX1_tryAsk_9 : decode cX1_tryAsk 9 = .ok (.if_icmp .ge 17, 3) := dk_162 0 17 (dk_at dksX1_tryAsk_0 9 rfl rfl)
theorem dX1_tryAsk_12 : decode cX1_tryAsk 12 = .ok (.aload_n 0, 1) := dk_42 (dk_at dksX1_tryAsk_0 12 rfl rfl)
theorem dX1_tryAsk_13 : decode cX1_tryAsk 13 = .ok (.getfield 71, 3) := dk_180 0 71 (dk_at dksX1_tryAsk_0 13 rfl rfl)
theorem dX1_tryAsk_16 : decode cX1_tryAsk 16 = .ok (.iload 4, 2) := dk_21 4 (dk_at dksX1_tryAsk_0 16 rfl rfl)
theorem dX1_tryAsk_18 : decode cX1_tryAsk 18 = .ok (.iconst 0, 1) := dk_3 (dk_at dksX1_tryAsk_0 18 rfl rfl)
theorem dX1_tryAsk_19 : decode cX1_tryAsk 19 = .ok (.iastore, 1) := dk_79 (dk_at dksX1_tryAsk_0 19 rfl rfl)
theorem dX1_tryAsk_20 : decode cX1_tryAsk 20 = .ok (.iinc 4 1, 3) := dk_132 4 1 (dk_at dksX1_tryAsk_0 20 rfl rfl)
theorem dX1_tryAsk_23 : decode cX1_tryAsk 23 = .ok (.goto (-18), 3) := dk_167 255 238 (dk_at dksX1_tryAsk_1 0 rfl rfl)
theorem dX1_tryAsk_26 : decode cX1_tryAsk 26 = .ok (.iconst 0, 1) := dk_3 (dk_at dksX1_tryAsk_1 3 rfl rfl)
theorem dX1_tryAsk_27 : decode cX1_tryAsk 27 = .ok (.istore 4, 2) := dk_54 4 (dk_at dksX1_tryAsk_1 4 rfl rfl)
theorem dX1_tryAsk_29 : decode cX1_tryAsk 29 = .ok (.iload 4, 2) := dk_21 4 (dk_at dksX1_tryAsk_1 6 rfl rfl)
theorem dX1_tryAsk_31 : decode cX1_tryAsk 31 = .ok (.aload_n 0, 1) := dk_42 (dk_at dksX1_tryAsk_1 8 rfl rfl)
theorem dX1_tryAsk_32 : decode cX1_tryAsk 32 = .ok (.getfield 287, 3) := dk_180 1 31 (dk_at dksX1_tryAsk_1 9 rfl rfl)
theorem dX1_tryAsk_35 : decode cX1_tryAsk 35 = .ok (.if_icmp .ge 57, 3) := dk_162 0 57 (dk_at dksX1_tryAsk_1 12 rfl rfl)
theorem dX1_tryAsk_38 : decode cX1_tryAsk 38 = .ok (.aload_n 0, 1) := dk_42 (dk_at dksX1_tryAsk_1 15 rfl rfl)
theorem dX1_tryAsk_39 : decode cX1_tryAsk 39 = .ok (.aload_n 0, 1) := dk_42 (dk_at dksX1_tryAsk_1 16 rfl rfl)
theorem dX1_tryAsk_40 : decode cX1_tryAsk 40 = .ok (.getfield 68, 3) := dk_180 0 68 (dk_at dksX1_tryAsk_1 17 rfl rfl)
theorem dX1_tryAsk_43 : decode cX1_tryAsk 43 = .ok (.iload 4, 2) := dk_21 4 (dk_at dksX1_tryAsk_1 20 rfl rfl)
theorem dX1_tryAsk_45 : decode cX1_tryAsk 45 = .ok (.iaload, 1) := dk_46 (dk_at dksX1_tryAsk_1 22 rfl rfl)
theorem dX1_tryAsk_46 : decode cX1_tryAsk 46 = .ok (.invokevirtual 261, 3) := dk_182 1 5 (dk_at dksX1_tryAsk_2 0 rfl rfl)
theorem dX1_tryAsk_49 : decode cX1_tryAsk 49 = .ok (.aload_n 0, 1) := dk_42 (dk_at dksX1_tryAsk_2 3 rfl rfl)
theorem dX1_tryAsk_50 : decode cX1_tryAsk 50 = .ok (.getfield 71, 3) := dk_180 0 71 (dk_at dksX1_tryAsk_2 4 rfl rfl)
theorem dX1_tryAsk_53 : decode cX1_tryAsk 53 = .ok (.aload_n 0, 1) := dk_42 (dk_at dksX1_tryAsk_2 7 rfl rfl)
theorem dX1_tryAsk_54 : decode cX1_tryAsk 54 = .ok (.getfield 46, 3) := dk_180 0 46 (dk_at dksX1_tryAsk_2 8 rfl rfl)
theorem dX1_tryAsk_57 : decode cX1_tryAsk 57 = .ok (.iload_n 1, 1) := dk_27 (dk_at dksX1_tryAsk_2 11 rfl rfl)
theorem dX1_tryAsk_58 : decode cX1_tryAsk 58 = .ok (.iload_n 2, 1) := dk_28 (dk_at dksX1_tryAsk_2 12 rfl rfl)
theorem dX1_tryAsk_59 : decode cX1_tryAsk 59 = .ok (.invokevirtual 263, 3) := dk_182 1 7 (dk_at dksX1_tryAsk_2 13 rfl rfl)
theorem dX1_tryAsk_62 : decode cX1_tryAsk 62 = .ok (.dup2, 1) := dk_92 (dk_at dksX1_tryAsk_2 16 rfl rfl)
theorem dX1_tryAsk_63 : decode cX1_tryAsk 63 = .ok (.iaload, 1) := dk_46 (dk_at dksX1_tryAsk_2 17 rfl rfl)
theorem dX1_tryAsk_64 : decode cX1_tryAsk 64 = .ok (.iconst 1, 1) := dk_4 (dk_at dksX1_tryAsk_2 18 rfl rfl)
theorem dX1_tryAsk_65 : decode cX1_tryAsk 65 = .ok (.iadd, 1) := dk_96 (dk_at dksX1_tryAsk_2 19 rfl rfl)
theorem dX1_tryAsk_66 : decode cX1_tryAsk 66 = .ok (.iastore, 1) := dk_79 (dk_at dksX1_tryAsk_2 20 rfl rfl)
theorem dX1_tryAsk_67 : decode cX1_tryAsk 67 = .ok (.iload_n 3, 1) := dk_29 (dk_at dksX1_tryAsk_2 21 rfl rfl)
theorem dX1_tryAsk_68 : decode cX1_tryAsk 68 = .ok (.aload_n 0, 1) := dk_42 (dk_at dksX1_tryAsk_2 22 rfl rfl)
theorem dX1_tryAsk_69 : decode cX1_tryAsk 69 = .ok (.getfield 71, 3) := dk_180 0 71 (dk_at dksX1_tryAsk_3 0 rfl rfl)
theorem dX1_tryAsk_72 : decode cX1_tryAsk 72 = .ok (.aload_n 0, 1) := dk_42 (dk_at dksX1_tryAsk_3 3 rfl rfl)
theorem dX1_tryAsk_73 : decode cX1_tryAsk 73 = .ok (.getfield 46, 3) := dk_180 0 46 (dk_at dksX1_tryAsk_3 4 rfl rfl)
theorem dX1_tryAsk_76 : decode cX1_tryAsk 76 = .ok (.iload_n 1, 1) := dk_27 (dk_at dksX1_tryAsk_3 7 rfl rfl)
theorem dX1_tryAsk_77 : decode cX1_tryAsk 77 = .ok (.iload_n 2, 1) := dk_28 (dk_at dksX1_tryAsk_3 8 rfl rfl)
theorem dX1_tryAsk_78 : decode cX1_tryAsk 78 = .ok (.invokevirtual 263, 3) := dk_182 1 7 (dk_at dksX1_tryAsk_3 9 rfl rfl)
theorem dX1_tryAsk_81 : decode cX1_tryAsk 81 = .ok (.iaload, 1) := dk_46 (dk_at dksX1_tryAsk_3 12 rfl rfl)
theorem dX1_tryAsk_82 : decode cX1_tryAsk 82 = .ok (.invokestatic 318, 3) := dk_184 1 62 (dk_at dksX1_tryAsk_3 13 rfl rfl)
theorem dX1_tryAsk_85 : decode cX1_tryAsk 85 = .ok (.istore_n 3, 1) := dk_62 (dk_at dksX1_tryAsk_3 16 rfl rfl)
theorem dX1_tryAsk_86 : decode cX1_tryAsk 86 = .ok (.iinc 4 1, 3) := dk_132 4 1 (dk_at dksX1_tryAsk_3 17 rfl rfl)
theorem dX1_tryAsk_89 : decode cX1_tryAsk 89 = .ok (.goto (-60), 3) := dk_167 255 196 (dk_at dksX1_tryAsk_3 20 rfl rfl)
theorem dX1_tryAsk_92 : decode cX1_tryAsk 92 = .ok (.iload_n 3, 1) := dk_29 (dk_at dksX1_tryAsk_3 23 rfl rfl)
theorem dX1_tryAsk_93 : decode cX1_tryAsk 93 = .ok (.aload_n 0, 1) := dk_42 (dk_at dksX1_tryAsk_4 0 rfl rfl)
theorem dX1_tryAsk_94 : decode cX1_tryAsk 94 = .ok (.getfield 311, 3) := dk_180 1 55 (dk_at dksX1_tryAsk_4 1 rfl rfl)
theorem dX1_tryAsk_97 : decode cX1_tryAsk 97 = .ok (.if_icmp .lt 4, 3) := dk_161 0 4 (dk_at dksX1_tryAsk_4 4 rfl rfl)
theorem dX1_tryAsk_100 : decode cX1_tryAsk 100 = .ok (.return_, 1) := dk_177 (dk_at dksX1_tryAsk_4 7 rfl rfl)
theorem dX1_tryAsk_101 : decode cX1_tryAsk 101 = .ok (.aload_n 0, 1) := dk_42 (dk_at dksX1_tryAsk_4 8 rfl rfl)
theorem dX1_tryAsk_102 : decode cX1_tryAsk 102 = .ok (.bipush 100, 2) := dk_16 100 (dk_at dksX1_tryAsk_4 9 rfl rfl)
theorem dX1_tryAsk_104 : decode cX1_tryAsk 104 = .ok (.iload_n 1, 1) := dk_27 (dk_at dksX1_tryAsk_4 11 rfl rfl)
theorem dX1_tryAsk_105 : decode cX1_tryAsk 105 = .ok (.imul, 1) := dk_104 (dk_at dksX1_tryAsk_4 12 rfl rfl)
theorem dX1_tryAsk_106 : decode cX1_tryAsk 106 = .ok (.iload_n 2, 1) := dk_28 (dk_at dksX1_tryAsk_4 13 rfl rfl)
theorem dX1_tryAsk_107 : decode cX1_tryAsk 107 = .ok (.iadd, 1) := dk_96 (dk_at dksX1_tryAsk_4 14 rfl rfl)
theorem dX1_tryAsk_108 : decode cX1_tryAsk 108 = .ok (.putfield 323, 3) := dk_181 1 67 (dk_at dksX1_tryAsk_4 15 rfl rfl)
theorem dX1_tryAsk_111 : decode cX1_tryAsk 111 = .ok (.aload_n 0, 1) := dk_42 (dk_at dksX1_tryAsk_4 18 rfl rfl)
theorem dX1_tryAsk_112 : decode cX1_tryAsk 112 = .ok (.iload_n 3, 1) := dk_29 (dk_at dksX1_tryAsk_4 19 rfl rfl)
theorem dX1_tryAsk_113 : decode cX1_tryAsk 113 = .ok (.putfield 311, 3) := dk_181 1 55 (dk_at dksX1_tryAsk_4 20 rfl rfl)
theorem dX1_tryAsk_116 : decode cX1_tryAsk 116 = .ok (.return_, 1) := dk_177 (dk_at dksX1_tryAsk_4 23 rfl rfl)
def dkwX1_askWhy_3 : List UInt8 := [42, 27, 28, 182, 1, 58, 132, 2, 1, 167, 255, 236, 132, 1, 1, 167, 255, 217, 3, 172]
abbrev dktX1_askWhy_3 : List UInt8 := dkwX1_askWhy_3 ++ []
def dkwX1_askWhy_2 : List UInt8 := [27, 42, 180, 0, 104, 180, 0, 139, 162, 0, 34, 3, 61, 28, 42, 180, 0, 104, 180, 0, 148, 162, 0, 15]
abbrev dktX1_askWhy_2 : List UInt8 := dkwX1_askWhy_2 ++ dktX1_askWhy_3
def dkwX1_askWhy_1 : List UInt8 := [180, 0, 104, 180, 0, 139, 154, 0, 6, 16, 6, 172, 42, 42, 180, 1, 31, 4, 96, 181, 1, 55, 3, 60]
abbrev dktX1_askWhy_1 : List UInt8 := dkwX1_askWhy_1 ++ dktX1_askWhy_2
def dkwX1_askWhy_0 : List UInt8 := [42, 180, 0, 104, 199, 0, 5, 4, 172, 42, 182, 1, 40, 42, 180, 1, 31, 5, 161, 0, 13, 42]
abbrev dktX1_askWhy_0 : List UInt8 := dkwX1_askWhy_0 ++ dktX1_askWhy_1
theorem dksX1_askWhy_0 : cX1_askWhy.data.toList.drop 0 = dktX1_askWhy_0 := by decide +kernel
theorem dksX1_askWhy_1 : cX1_askWhy.data.toList.drop 22 = dktX1_askWhy_1 := dk_seg dksX1_askWhy_0 22 rfl rfl
theorem dksX1_askWhy_2 : cX1_askWhy.data.toList.drop 46 = dktX1_askWhy_2 := dk_seg dksX1_askWhy_1 24 rfl rfl
theorem dksX1_askWhy_3 : cX1_askWhy.data.toList.drop 70 = dktX1_askWhy_3 := dk_seg dksX1_askWhy_2 24 rfl rfl
theorem dX1_askWhy_0 : decode cX1_askWhy 0 = .ok (.aload_n 0, 1) := dk_42 (dk_at dksX1_askWhy_0 0 rfl rfl)
theorem dX1_askWhy_1 : decode cX1_askWhy 1 = .ok (.getfield 104, 3) := dk_180 0 104 (dk_at dksX1_askWhy_0 1 rfl rfl)
theorem dX1_askWhy_4 : decode cX1_askWhy 4 = .ok (.ifnonnull 5, 3) := dk_199 0 5 (dk_at dksX1_askWhy_0 4 rfl rfl)
theorem dX1_askWhy_7 : decode cX1_askWhy 7 = .ok (.iconst 1, 1) := dk_4 (dk_at dksX1_askWhy_0 7 rfl rfl)
theorem dX1_askWhy_8 : decode cX1_askWhy 8 = .ok (.ireturn, 1) := dk_172 (dk_at dksX1_askWhy_0 8 rfl rfl)
theorem dX1_askWhy_9 : decode cX1_askWhy 9 = .ok (.aload_n 0, 1) := dk_42 (dk_at dksX1_askWhy_0 9 rfl rfl)
theorem dX1_askWhy_10 : decode cX1_askWhy 10 = .ok (.invokevirtual 296, 3) := dk_182 1 40 (dk_at dksX1_askWhy_0 10 rfl rfl)
theorem dX1_askWhy_13 : decode cX1_askWhy 13 = .ok (.aload_n 0, 1) := dk_42 (dk_at dksX1_askWhy_0 13 rfl rfl)
theorem dX1_askWhy_14 : decode cX1_askWhy 14 = .ok (.getfield 287, 3) := dk_180 1 31 (dk_at dksX1_askWhy_0 14 rfl rfl)
theorem dX1_askWhy_17 : decode cX1_askWhy 17 = .ok (.iconst 2, 1) := dk_5 (dk_at dksX1_askWhy_0 17 rfl rfl)
theorem dX1_askWhy_18 : decode cX1_askWhy 18 = .ok (.if_icmp .lt 13, 3) := dk_161 0 13 (dk_at dksX1_askWhy_0 18 rfl rfl)
theorem dX1_askWhy_21 : decode cX1_askWhy 21 = .ok (.aload_n 0, 1) := dk_42 (dk_at dksX1_askWhy_0 21 rfl rfl)
theorem dX1_askWhy_22 : decode cX1_askWhy 22 = .ok (.getfield 104, 3) := dk_180 0 104 (dk_at dksX1_askWhy_1 0 rfl rfl)
theorem dX1_askWhy_25 : decode cX1_askWhy 25 = .ok (.getfield 139, 3) := dk_180 0 139 (dk_at dksX1_askWhy_1 3 rfl rfl)
theorem dX1_askWhy_28 : decode cX1_askWhy 28 = .ok (.ifCond .ne 6, 3) := dk_154 0 6 (dk_at dksX1_askWhy_1 6 rfl rfl)
theorem dX1_askWhy_31 : decode cX1_askWhy 31 = .ok (.bipush 6, 2) := dk_16 6 (dk_at dksX1_askWhy_1 9 rfl rfl)
theorem dX1_askWhy_33 : decode cX1_askWhy 33 = .ok (.ireturn, 1) := dk_172 (dk_at dksX1_askWhy_1 11 rfl rfl)
theorem dX1_askWhy_34 : decode cX1_askWhy 34 = .ok (.aload_n 0, 1) := dk_42 (dk_at dksX1_askWhy_1 12 rfl rfl)
theorem dX1_askWhy_35 : decode cX1_askWhy 35 = .ok (.aload_n 0, 1) := dk_42 (dk_at dksX1_askWhy_1 13 rfl rfl)
theorem dX1_askWhy_36 : decode cX1_askWhy 36 = .ok (.getfield 287, 3) := dk_180 1 31 (dk_at dksX1_askWhy_1 14 rfl rfl)
theorem dX1_askWhy_39 : decode cX1_askWhy 39 = .ok (.iconst 1, 1) := dk_4 (dk_at dksX1_askWhy_1 17 rfl rfl)
theorem dX1_askWhy_40 : decode cX1_askWhy 40 = .ok (.iadd, 1) := dk_96 (dk_at dksX1_askWhy_1 18 rfl rfl)
theorem dX1_askWhy_41 : decode cX1_askWhy 41 = .ok (.putfield 311, 3) := dk_181 1 55 (dk_at dksX1_askWhy_1 19 rfl rfl)
theorem dX1_askWhy_44 : decode cX1_askWhy 44 = .ok (.iconst 0, 1) := dk_3 (dk_at dksX1_askWhy_1 22 rfl rfl)
theorem dX1_askWhy_45 : decode cX1_askWhy 45 = .ok (.istore_n 1, 1) := dk_60 (dk_at dksX1_askWhy_1 23 rfl rfl)
theorem dX1_askWhy_46 : decode cX1_askWhy 46 = .ok (.iload_n 1, 1) := dk_27 (dk_at dksX1_askWhy_2 0 rfl rfl)
theorem dX1_askWhy_47 : decode cX1_askWhy 47 = .ok (.aload_n 0, 1) := dk_42 (dk_at dksX1_askWhy_2 1 rfl rfl)
theorem dX1_askWhy_48 : decode cX1_askWhy 48 = .ok (.getfield 104, 3) := dk_180 0 104 (dk_at dksX1_askWhy_2 2 rfl rfl)
theorem dX1_askWhy_51 : decode cX1_askWhy 51 = .ok (.getfield 139, 3) := dk_180 0 139 (dk_at dksX1_askWhy_2 5 rfl rfl)
theorem dX1_askWhy_54 : decode cX1_askWhy 54 = .ok (.if_icmp .ge 34, 3) := dk_162 0 34 (dk_at dksX1_askWhy_2 8 rfl rfl)
theorem dX1_askWhy_57 : decode cX1_askWhy 57 = .ok (.iconst 0, 1) := dk_3 (dk_at dksX1_askWhy_2 11 rfl rfl)
theorem dX1_askWhy_58 : decode cX1_askWhy 58 = .ok (.istore_n 2, 1) := dk_61 (dk_at dksX1_askWhy_2 12 rfl rfl)
theorem dX1_askWhy_59 : decode cX1_askWhy 59 = .ok (.iload_n 2, 1) := dk_28 (dk_at dksX1_askWhy_2 13 rfl rfl)
theorem dX1_askWhy_60 : decode cX1_askWhy 60 = .ok (.aload_n 0, 1) := dk_42 (dk_at dksX1_askWhy_2 14 rfl rfl)
theorem dX1_askWhy_61 : decode cX1_askWhy 61 = .ok (.getfield 104, 3) := dk_180 0 104 (dk_at dksX1_askWhy_2 15 rfl rfl)
theorem dX1_askWhy_64 : decode cX1_askWhy 64 = .ok (.getfield 148, 3) := dk_180 0 148 (dk_at dksX1_askWhy_2 18 rfl rfl)
theorem dX1_askWhy_67 : decode cX1_askWhy 67 = .ok (.if_icmp .ge 15, 3) := dk_162 0 15 (dk_at dksX1_askWhy_2 21 rfl rfl)
theorem dX1_askWhy_70 : decode cX1_askWhy 70 = .ok (.aload_n 0, 1) := dk_42 (dk_at dksX1_askWhy_3 0 rfl rfl)
theorem dX1_askWhy_71 : decode cX1_askWhy 71 = .ok (.iload_n 1, 1) := dk_27 (dk_at dksX1_askWhy_3 1 rfl rfl)
theorem dX1_askWhy_72 : decode cX1_askWhy 72 = .ok (.iload_n 2, 1) := dk_28 (dk_at dksX1_askWhy_3 2 rfl rfl)
theorem dX1_askWhy_73 : decode cX1_askWhy 73 = .ok (.invokevirtual 314, 3) := dk_182 1 58 (dk_at dksX1_askWhy_3 3 rfl rfl)
theorem dX1_askWhy_76 : decode cX1_askWhy 76 = .ok (.iinc 2 1, 3) := dk_132 2 1 (dk_at dksX1_askWhy_3 6 rfl rfl)
theorem dX1_askWhy_79 : decode cX1_askWhy 79 = .ok (.goto (-20), 3) := dk_167 255 236 (dk_at dksX1_askWhy_3 9 rfl rfl)
theorem dX1_askWhy_82 : decode cX1_askWhy 82 = .ok (.iinc 1 1, 3) := dk_132 1 1 (dk_at dksX1_askWhy_3 12 rfl rfl)
theorem dX1_askWhy_85 : decode cX1_askWhy 85 = .ok (.goto (-39), 3) := dk_167 255 217 (dk_at dksX1_askWhy_3 15 rfl rfl)
theorem dX1_askWhy_88 : decode cX1_askWhy 88 = .ok (.iconst 0, 1) := dk_3 (dk_at dksX1_askWhy_3 18 rfl rfl)
theorem dX1_askWhy_89 : decode cX1_askWhy 89 = .ok (.ireturn, 1) := dk_172 (dk_at dksX1_askWhy_3 19 rfl rfl)
def dkwX1_ask_1 : List UInt8 := [180, 1, 67, 172]
abbrev dktX1_ask_1 : List UInt8 := dkwX1_ask_1 ++ []
def dkwX1_ask_0 : List UInt8 := [42, 182, 0, 80, 42, 182, 1, 70, 60, 27, 153, 0, 11, 42, 27, 182, 0, 94, 167, 0, 7, 42]
abbrev dktX1_ask_0 : List UInt8 := dkwX1_ask_0 ++ dktX1_ask_1
theorem dksX1_ask_0 : cX1_ask.data.toList.drop 0 = dktX1_ask_0 := by decide +kernel
theorem dksX1_ask_1 : cX1_ask.data.toList.drop 22 = dktX1_ask_1 := dk_seg dksX1_ask_0 22 rfl rfl
theorem dX1_ask_0 : decode cX1_ask 0 = .ok (.aload_n 0, 1) := dk_42 (dk_at dksX1_ask_0 0 rfl rfl)
theorem dX1_ask_1 : decode cX1_ask 1 = .ok (.invokevirtual 80, 3) := dk_182 0 80 (dk_at dksX1_ask_0 1 rfl rfl)
theorem dX1_ask_4 : decode cX1_ask 4 = .ok (.aload_n 0, 1) := dk_42 (dk_at dksX1_ask_0 4 rfl rfl)
theorem dX1_ask_5 : decode cX1_ask 5 = .ok (.invokevirtual 326, 3) := dk_182 1 70 (dk_at dksX1_ask_0 5 rfl rfl)
theorem dX1_ask_8 : decode cX1_ask 8 = .ok (.istore_n 1, 1) := dk_60 (dk_at dksX1_ask_0 8 rfl rfl)
theorem dX1_ask_9 : decode cX1_ask 9 = .ok (.iload_n 1, 1) := dk_27 (dk_at dksX1_ask_0 9 rfl rfl)
theorem dX1_ask_10 : decode cX1_ask 10 = .ok (.ifCond .eq 11, 3) := dk_153 0 11 (dk_at dksX1_ask_0 10 rfl rfl)
theorem dX1_ask_13 : decode cX1_ask 13 = .ok (.aload_n 0, 1) := dk_42 (dk_at dksX1_ask_0 13 rfl rfl)
theorem dX1_ask_14 : decode cX1_ask 14 = .ok (.iload_n 1, 1) := dk_27 (dk_at dksX1_ask_0 14 rfl rfl)
theorem dX1_ask_15 : decode cX1_ask 15 = .ok (.invokevirtual 94, 3) := dk_182 0 94 (dk_at dksX1_ask_0 15 rfl rfl)
theorem dX1_ask_18 : decode cX1_ask 18 = .ok (.goto 7, 3) := dk_167 0 7 (dk_at dksX1_ask_0 18 rfl rfl)
theorem dX1_ask_21 : decode cX1_ask 21 = .ok (.aload_n 0, 1) := dk_42 (dk_at dksX1_ask_0 21 rfl rfl)
theorem dX1_ask_22 : decode cX1_ask 22 = .ok (.getfield 323, 3) := dk_180 1 67 (dk_at dksX1_ask_1 0 rfl rfl)
theorem dX1_ask_25 : decode cX1_ask 25 = .ok (.ireturn, 1) := dk_172 (dk_at dksX1_ask_1 3 rfl rfl)
def dkwX7_asks_12 : List UInt8 := [167, 255, 94, 3, 172]
abbrev dktX7_asks_12 : List UInt8 := dkwX7_asks_12 ++ []
def dkwX7_asks_11 : List UInt8 := [181, 2, 32, 42, 16, 100, 28, 104, 29, 96, 181, 2, 35, 132, 3, 1, 167, 255, 113, 132, 2, 1]
abbrev dktX7_asks_11 : List UInt8 := dkwX7_asks_11 ++ dktX7_asks_12
def dkwX7_asks_10 : List UInt8 := [54, 4, 132, 5, 1, 167, 255, 188, 21, 4, 42, 180, 2, 32, 161, 0, 6, 167, 0, 19, 42, 21, 4]
abbrev dktX7_asks_10 : List UInt8 := dkwX7_asks_10 ++ dktX7_asks_11
def dkwX7_asks_9 : List UInt8 := [180, 0, 57, 21, 6, 46, 21, 4, 164, 0, 13, 42, 180, 0, 57, 21, 6, 46, 167, 0, 5, 21, 4]
abbrev dktX7_asks_9 : List UInt8 := dkwX7_asks_9 ++ dktX7_asks_10
def dkwX7_asks_8 : List UInt8 := [16, 12, 28, 104, 96, 29, 96, 46, 54, 6, 42, 180, 0, 57, 21, 6, 92, 46, 4, 96, 79, 42]
abbrev dktX7_asks_8 : List UInt8 := dkwX7_asks_8 ++ dktX7_asks_9
def dkwX7_asks_7 : List UInt8 := [167, 255, 238, 3, 54, 5, 21, 5, 27, 162, 0, 68, 42, 180, 0, 54, 21, 5, 16, 6, 104, 16, 12, 104]
abbrev dktX7_asks_7 : List UInt8 := dkwX7_asks_7 ++ dktX7_asks_8
def dkwX7_asks_6 : List UInt8 := [3, 54, 4, 3, 54, 5, 21, 5, 16, 8, 162, 0, 17, 42, 180, 0, 57, 21, 5, 3, 79, 132, 5, 1]
abbrev dktX7_asks_6 : List UInt8 := dkwX7_asks_6 ++ dktX7_asks_7
def dkwX7_asks_5 : List UInt8 := [28, 42, 180, 1, 186, 180, 1, 72, 162, 0, 157, 3, 62, 29, 42, 180, 1, 186, 180, 0, 196, 162, 0, 138]
abbrev dktX7_asks_5 : List UInt8 := dkwX7_asks_5 ++ dktX7_asks_6
def dkwX7_asks_4 : List UInt8 := [161, 0, 13, 42, 180, 1, 186, 180, 1, 72, 154, 0, 6, 16, 6, 172, 42, 16, 82, 181, 2, 32, 3, 61]
abbrev dktX7_asks_4 : List UInt8 := dkwX7_asks_4 ++ dktX7_asks_5
def dkwX7_asks_3 : List UInt8 := [42, 180, 0, 30, 29, 46, 79, 132, 3, 1, 167, 255, 227, 132, 1, 1, 132, 2, 1, 167, 255, 185, 27, 5]
abbrev dktX7_asks_3 : List UInt8 := dkwX7_asks_3 ++ dktX7_asks_4
def dkwX7_asks_2 : List UInt8 := [182, 1, 226, 3, 62, 29, 16, 72, 162, 0, 29, 42, 180, 0, 54, 27, 16, 6, 104, 16, 12, 104, 29, 96]
abbrev dktX7_asks_2 : List UInt8 := dkwX7_asks_2 ++ dktX7_asks_3
def dkwX7_asks_1 : List UInt8 := [182, 1, 194, 162, 0, 66, 42, 28, 42, 182, 2, 14, 182, 2, 17, 154, 0, 6, 167, 0, 45, 42, 28]
abbrev dktX7_asks_1 : List UInt8 := dkwX7_asks_1 ++ dktX7_asks_2
def dkwX7_asks_0 : List UInt8 := [42, 180, 1, 186, 199, 0, 5, 4, 172, 42, 182, 2, 11, 3, 60, 3, 61, 28, 42, 180, 1, 186]
abbrev dktX7_asks_0 : List UInt8 := dkwX7_asks_0 ++ dktX7_asks_1
theorem dksX7_asks_0 : cX7_asks.data.toList.drop 0 = dktX7_asks_0 := by decide +kernel
theorem dksX7_asks_1 : cX7_asks.data.toList.drop 22 = dktX7_asks_1 := dk_seg dksX7_asks_0 22 rfl rfl
theorem dksX7_asks_2 : cX7_asks.data.toList.drop 45 = dktX7_asks_2 := dk_seg dksX7_asks_1 23 rfl rfl
theorem dksX7_asks_3 : cX7_asks.data.toList.drop 69 = dktX7_asks_3 := dk_seg dksX7_asks_2 24 rfl rfl
theorem dksX7_asks_4 : cX7_asks.data.toList.drop 93 = dktX7_asks_4 := dk_seg dksX7_asks_3 24 rfl rfl
theorem dksX7_asks_5 : cX7_asks.data.toList.drop 117 = dktX7_asks_5 := dk_seg dksX7_asks_4 24 rfl rfl
theorem dksX7_asks_6 : cX7_asks.data.toList.drop 141 = dktX7_asks_6 := dk_seg dksX7_asks_5 24 rfl rfl
theorem dksX7_asks_7 : cX7_asks.data.toList.drop 165 = dktX7_asks_7 := dk_seg dksX7_asks_6 24 rfl rfl
theorem dksX7_asks_8 : cX7_asks.data.toList.drop 189 = dktX7_asks_8 := dk_seg dksX7_asks_7 24 rfl rfl
theorem dksX7_asks_9 : cX7_asks.data.toList.drop 211 = dktX7_asks_9 := dk_seg dksX7_asks_8 22 rfl rfl
theorem dksX7_asks_10 : cX7_asks.data.toList.drop 234 = dktX7_asks_10 := dk_seg dksX7_asks_9 23 rfl rfl
theorem dksX7_asks_11 : cX7_asks.data.toList.drop 257 = dktX7_asks_11 := dk_seg dksX7_asks_10 23 rfl rfl
theorem dksX7_asks_12 : cX7_asks.data.toList.drop 279 = dktX7_asks_12 := dk_seg dksX7_asks_11 22 rfl rfl
theorem dX7_asks_0 : decode cX7_asks 0 = .ok (.aload_n 0, 1) := dk_42 (dk_at dksX7_asks_0 0 rfl rfl)
theorem dX7_asks_1 : decode cX7_asks 1 = .ok (.getfield 442, 3) := dk_180 1 186 (dk_at dksX7_asks_0 1 rfl rfl)
theorem dX7_asks_4 : decode cX7_asks 4 = .ok (.ifnonnull 5, 3) := dk_199 0 5 (dk_at dksX7_asks_0 4 rfl rfl)
theorem dX7_asks_7 : decode cX7_asks 7 = .ok (.iconst 1, 1) := dk_4 (dk_at dksX7_asks_0 7 rfl rfl)
theorem dX7_asks_8 : decode cX7_asks 8 = .ok (.ireturn, 1) := dk_172 (dk_at dksX7_asks_0 8 rfl rfl)
theorem dX7_asks_9 : decode cX7_asks 9 = .ok (.aload_n 0, 1) := dk_42 (dk_at dksX7_asks_0 9 rfl rfl)
theorem dX7_asks_10 : decode cX7_asks 10 = .ok (.invokevirtual 523, 3) := dk_182 2 11 (dk_at dksX7_asks_0 10 rfl rfl)
theorem dX7_asks_13 : decode cX7_asks 13 = .ok (.iconst 0, 1) := dk_3 (dk_at dksX7_asks_0 13 rfl rfl)
theorem dX7_asks_14 : decode cX7_asks 14 = .ok (.istore_n 1, 1) := dk_60 (dk_at dksX7_asks_0 14 rfl rfl)
theorem dX7_asks_15 : decode cX7_asks 15 = .ok (.iconst 0, 1) := dk_3 (dk_at dksX7_asks_0 15 rfl rfl)
theorem dX7_asks_16 : decode cX7_asks 16 = .ok (.istore_n 2, 1) := dk_61 (dk_at dksX7_asks_0 16 rfl rfl)
theorem dX7_asks_17 : decode cX7_asks 17 = .ok (.iload_n 2, 1) := dk_28 (dk_at dksX7_asks_0 17 rfl rfl)
theorem dX7_asks_18 : decode cX7_asks 18 = .ok (.aload_n 0, 1) := dk_42 (dk_at dksX7_asks_0 18 rfl rfl)
theorem dX7_asks_19 : decode cX7_asks 19 = .ok (.getfield 442, 3) := dk_180 1 186 (dk_at dksX7_asks_0 19 rfl rfl)
theorem dX7_asks_22 : decode cX7_asks 22 = .ok (.invokevirtual 450, 3) := dk_182 1 194 (dk_at dksX7_asks_1 0 rfl rfl)
theorem dX7_asks_25 : decode cX7_asks 25 = .ok (.if_icmp .ge 66, 3) := dk_162 0 66 (dk_at dksX7_asks_1 3 rfl rfl)
theorem dX7_asks_28 : decode cX7_asks 28 = .ok (.aload_n 0, 1) := dk_42 (dk_at dksX7_asks_1 6 rfl rfl)
theorem dX7_asks_29 : decode cX7_asks 29 = .ok (.iload_n 2, 1) := dk_28 (dk_at dksX7_asks_1 7 rfl rfl)
theorem dX7_asks_30 : decode cX7_asks 30 = .ok (.aload_n 0, 1) := dk_42 (dk_at dksX7_asks_1 8 rfl rfl)
theorem dX7_asks_31 : decode cX7_asks 31 = .ok (.invokevirtual 526, 3) := dk_182 2 14 (dk_at dksX7_asks_1 9 rfl rfl)
theorem dX7_asks_34 : decode cX7_asks 34 = .ok (.invokevirtual 529, 3) := dk_182 2 17 (dk_at dksX7_asks_1 12 rfl rfl)
theorem dX7_asks_37 : decode cX7_asks 37 = .ok (.ifCond .ne 6, 3) := dk_154 0 6 (dk_at dksX7_asks_1 15 rfl rfl)
theorem dX7_asks_40 : decode cX7_asks 40 = .ok (.goto 45, 3) := dk_167 0 45 (dk_at dksX7_asks_1 18 rfl rfl)
theorem dX7_asks_43 : decode cX7_asks 43 = .ok (.aload_n 0, 1) := dk_42 (dk_at dksX7_asks_1 21 rfl rfl)
theorem dX7_asks_44 : decode cX7_asks 44 = .ok (.iload_n 2, 1) := dk_28 (dk_at dksX7_asks_1 22 rfl rfl)
theorem dX7_asks_45 : decode cX7_asks 45 = .ok (.invokevirtual 482, 3) := dk_182 1 226 (dk_at dksX7_asks_2 0 rfl rfl)
theorem dX7_asks_48 : decode cX7_asks 48 = .ok (.iconst 0, 1) := dk_3 (dk_at dksX7_asks_2 3 rfl rfl)
theorem dX7_asks_49 : decode cX7_asks 49 = .ok (.istore_n 3, 1) := dk_62 (dk_at dksX7_asks_2 4 rfl rfl)
theorem dX7_asks_50 : decode cX7_asks 50 = .ok (.iload_n 3, 1) := dk_29 (dk_at dksX7_asks_2 5 rfl rfl)
theorem dX7_asks_51 : decode cX7_asks 51 = .ok (.bipush 72, 2) := dk_16 72 (dk_at dksX7_asks_2 6 rfl rfl)
theorem dX7_asks_53 : decode cX7_asks 53 = .ok (.if_icmp .ge 29, 3) := dk_162 0 29 (dk_at dksX7_asks_2 8 rfl rfl)
theorem dX7_asks_56 : decode cX7_asks 56 = .ok (.aload_n 0, 1) := dk_42 (dk_at dksX7_asks_2 11 rfl rfl)
theorem dX7_asks_57 : decode cX7_asks 57 = .ok (.getfield 54, 3) := dk_180 0 54 (dk_at dksX7_asks_2 12 rfl rfl)
theorem dX7_asks_60 : decode cX7_asks 60 = .ok (.iload_n 1, 1) := dk_27 (dk_at dksX7_asks_2 15 rfl rfl)
theorem dX7_asks_61 : decode cX7_asks 61 = .ok (.bipush 6, 2) := dk_16 6 (dk_at dksX7_asks_2 16 rfl rfl)
theorem dX7_asks_63 : decode cX7_asks 63 = .ok (.imul, 1) := dk_104 (dk_at dksX7_asks_2 18 rfl rfl)
theorem dX7_asks_64 : decode cX7_asks 64 = .ok (.bipush 12, 2) := dk_16 12 (dk_at dksX7_asks_2 19 rfl rfl)
theorem dX7_asks_66 : decode cX7_asks 66 = .ok (.imul, 1) := dk_104 (dk_at dksX7_asks_2 21 rfl rfl)
theorem dX7_asks_67 : decode cX7_asks 67 = .ok (.iload_n 3, 1) := dk_29 (dk_at dksX7_asks_2 22 rfl rfl)
theorem dX7_asks_68 : decode cX7_asks 68 = .ok (.iadd, 1) := dk_96 (dk_at dksX7_asks_2 23 rfl rfl)
theorem dX7_asks_69 : decode cX7_asks 69 = .ok (.aload_n 0, 1) := dk_42 (dk_at dksX7_asks_3 0 rfl rfl)
theorem dX7_asks_70 : decode cX7_asks 70 = .ok (.getfield 30, 3) := dk_180 0 30 (dk_at dksX7_asks_3 1 rfl rfl)
theorem dX7_asks_73 : decode cX7_asks 73 = .ok (.iload_n 3, 1) := dk_29 (dk_at dksX7_asks_3 4 rfl rfl)
theorem dX7_asks_74 : decode cX7_asks 74 = .ok (.iaload, 1) := dk_46 (dk_at dksX7_asks_3 5 rfl rfl)
theorem dX7_asks_75 : decode cX7_asks 75 = .ok (.iastore, 1) := dk_79 (dk_at dksX7_asks_3 6 rfl rfl)
theorem dX7_asks_76 : decode cX7_asks 76 = .ok (.iinc 3 1, 3) := dk_132 3 1 (dk_at dksX7_asks_3 7 rfl rfl)
theorem dX7_asks_79 : decode cX7_asks 79 = .ok (.goto (-29), 3) := dk_167 255 227 (dk_at dksX7_asks_3 10 rfl rfl)
theorem dX7_asks_82 : decode cX7_asks 82 = .ok (.iinc 1 1, 3) := dk_132 1 1 (dk_at dksX7_asks_3 13 rfl rfl)
theorem dX7_asks_85 : decode cX7_asks 85 = .ok (.iinc 2 1, 3) := dk_132 2 1 (dk_at dksX7_asks_3 16 rfl rfl)
theorem dX7_asks_88 : decode cX7_asks 88 = .ok (.goto (-71), 3) := dk_167 255 185 (dk_at dksX7_asks_3 19 rfl rfl)
theorem dX7_asks_91 : decode cX7_asks 91 = .ok (.iload_n 1, 1) := dk_27 (dk_at dksX7_asks_3 22 rfl rfl)
theorem dX7_asks_92 : decode cX7_asks 92 = .ok (.iconst 2, 1) := dk_5 (dk_at dksX7_asks_3 23 rfl rfl)
theorem dX7_asks_93 : decode cX7_asks 93 = .ok (.if_icmp .lt 13, 3) := dk_161 0 13 (dk_at dksX7_asks_4 0 rfl rfl)
theorem dX7_asks_96 : decode cX7_asks 96 = .ok (.aload_n 0, 1) := dk_42 (dk_at dksX7_asks_4 3 rfl rfl)
theorem dX7_asks_97 : decode cX7_asks 97 = .ok (.getfield 442, 3) := dk_180 1 186 (dk_at dksX7_asks_4 4 rfl rfl)
theorem dX7_asks_100 : decode cX7_asks 100 = .ok (.getfield 328, 3) := dk_180 1 72 (dk_at dksX7_asks_4 7 rfl rfl)
theorem dX7_asks_103 : decode cX7_asks 103 = .ok (.ifCond .ne 6, 3) := dk_154 0 6 (dk_at dksX7_asks_4 10 rfl rfl)
theorem dX7_asks_106 : decode cX7_asks 106 = .ok (.bipush 6, 2) := dk_16 6 (dk_at dksX7_asks_4 13 rfl rfl)
theorem dX7_asks_108 : decode cX7_asks 108 = .ok (.ireturn, 1) := dk_172 (dk_at dksX7_asks_4 15 rfl rfl)
theorem dX7_asks_109 : decode cX7_asks 109 = .ok (.aload_n 0, 1) := dk_42 (dk_at dksX7_asks_4 16 rfl rfl)
theorem dX7_asks_110 : decode cX7_asks 110 = .ok (.bipush 82, 2) := dk_16 82 (dk_at dksX7_asks_4 17 rfl rfl)
theorem dX7_asks_112 : decode cX7_asks 112 = .ok (.putfield 544, 3) := dk_181 2 32 (dk_at dksX7_asks_4 19 rfl rfl)
theorem dX7_asks_115 : decode cX7_asks 115 = .ok (.iconst 0, 1) := dk_3 (dk_at dksX7_asks_4 22 rfl rfl)
theorem dX7_asks_116 : decode cX7_asks 116 = .ok (.istore_n 2, 1) := dk_61 (dk_at dksX7_asks_4 23 rfl rfl)
theorem dX7_asks_117 : decode cX7_asks 117 = .ok (.iload_n 2, 1) := dk_28 (dk_at dksX7_asks_5 0 rfl rfl)
theorem dX7_asks_118 : decode cX7_asks 118 = .ok (.aload_n 0, 1) := dk_42 (dk_at dksX7_asks_5 1 rfl rfl)
theorem dX7_asks_119 : decode cX7_asks 119 = .ok (.getfield 442, 3) := dk_180 1 186 (dk_at dksX7_asks_5 2 rfl rfl)
theorem dX7_asks_122 : decode cX7_asks 122 = .ok (.getfield 328, 3) := dk_180 1 72 (dk_at dksX7_asks_5 5 rfl rfl)
theorem dX7_asks_125 : decode cX7_asks 125 = .ok (.if_icmp .ge 157, 3) := dk_162 0 157 (dk_at dksX7_asks_5 8 rfl rfl)
theorem dX7_asks_128 : decode cX7_asks 128 = .ok (.iconst 0, 1) := dk_3 (dk_at dksX7_asks_5 11 rfl rfl)
theorem dX7_asks_129 : decode cX7_asks 129 = .ok (.istore_n 3, 1) := dk_62 (dk_at dksX7_asks_5 12 rfl rfl)
theorem dX7_asks_130 : decode cX7_asks 130 = .ok (.iload_n 3, 1) := dk_29 (dk_at dksX7_asks_5 13 rfl rfl)
theorem dX7_asks_131 : decode cX7_asks 131 = .ok (.aload_n 0, 1) := dk_42 (dk_at dksX7_asks_5 14 rfl rfl)
theorem dX7_asks_132 : decode cX7_asks 132 = .ok (.getfield 442, 3) := dk_180 1 186 (dk_at dksX7_asks_5 15 rfl rfl)
theorem dX7_asks_135 : decode cX7_asks 135 = .ok (.getfield 196, 3) := dk_180 0 196 (dk_at dksX7_asks_5 18 rfl rfl)
theorem dX7_asks_138 : decode cX7_asks 138 = .ok (.if_icmp .ge 138, 3) := dk_162 0 138 (dk_at dksX7_asks_5 21 rfl rfl)
theorem dX7_asks_141 : decode cX7_asks 141 = .ok (.iconst 0, 1) := dk_3 (dk_at dksX7_asks_6 0 rfl rfl)
theorem dX7_asks_142 : decode cX7_asks 142 = .ok (.istore 4, 2) := dk_54 4 (dk_at dksX7_asks_6 1 rfl rfl)
theorem dX7_asks_144 : decode cX7_asks 144 = .ok (.iconst 0, 1) := dk_3 (dk_at dksX7_asks_6 3 rfl rfl)
theorem dX7_asks_145 : decode cX7_asks 145 = .ok (.istore 5, 2) := dk_54 5 (dk_at dksX7_asks_6 4 rfl rfl)
theorem dX7_asks_147 : decode cX7_asks 147 = .ok (.iload 5, 2) := dk_21 5 (dk_at dksX7_asks_6 6 rfl rfl)
theorem dX7_asks_149 : decode cX7_asks 149 = .ok (.bipush 8, 2) := dk_16 8 (dk_at dksX7_asks_6 8 rfl rfl)
theorem dX7_asks_151 : decode cX7_asks 151 = .ok (.if_icmp .ge 17, 3) := dk_162 0 17 (dk_at dksX7_asks_6 10 rfl rfl)
theorem dX7_asks_154 : decode cX7_asks 154 = .ok (.aload_n 0, 1) := dk_42 (dk_at dksX7_asks_6 13 rfl rfl)
theorem dX7_asks_155 : decode cX7_asks 155 = .ok (.getfield 57, 3) := dk_180 0 57 (dk_at dksX7_asks_6 14 rfl rfl)
theorem dX7_asks_158 : decode cX7_asks 158 = .ok (.iload 5, 2) := dk_21 5 (dk_at dksX7_asks_6 17 rfl rfl)
theorem dX7_asks_160 : decode cX7_asks 160 = .ok (.iconst 0, 1) := dk_3 (dk_at dksX7_asks_6 19 rfl rfl)
theorem dX7_asks_161 : decode cX7_asks 161 = .ok (.iastore, 1) := dk_79 (dk_at dksX7_asks_6 20 rfl rfl)
theorem dX7_asks_162 : decode cX7_asks 162 = .ok (.iinc 5 1, 3) := dk_132 5 1 (dk_at dksX7_asks_6 21 rfl rfl)
theorem dX7_asks_165 : decode cX7_asks 165 = .ok (.goto (-18), 3) := dk_167 255 238 (dk_at dksX7_asks_7 0 rfl rfl)
theorem dX7_asks_168 : decode cX7_asks 168 = .ok (.iconst 0, 1) := dk_3 (dk_at dksX7_asks_7 3 rfl rfl)
theorem dX7_asks_169 : decode cX7_asks 169 = .ok (.istore 5, 2) := dk_54 5 (dk_at dksX7_asks_7 4 rfl rfl)
theorem dX7_asks_171 : decode cX7_asks 171 = .ok (.iload 5, 2) := dk_21 5 (dk_at dksX7_asks_7 6 rfl rfl)
theorem dX7_asks_173 : decode cX7_asks 173 = .ok (.iload_n 1, 1) := dk_27 (dk_at dksX7_asks_7 8 rfl rfl)
theorem dX7_asks_174 : decode cX7_asks 174 = .ok (.if_icmp .ge 68, 3) := dk_162 0 68 (dk_at dksX7_asks_7 9 rfl rfl)
theorem dX7_asks_177 : decode cX7_asks 177 = .ok (.aload_n 0, 1) := dk_42 (dk_at dksX7_asks_7 12 rfl rfl)
theorem dX7_asks_178 : decode cX7_asks 178 = .ok (.getfield 54, 3) := dk_180 0 54 (dk_at dksX7_asks_7 13 rfl rfl)
theorem dX7_asks_181 : decode cX7_asks 181 = .ok (.iload 5, 2) := dk_21 5 (dk_at dksX7_asks_7 16 rfl rfl)
theorem dX7_asks_183 : decode cX7_asks 183 = .ok (.bipush 6, 2) := dk_16 6 (dk_at dksX7_asks_7 18 rfl rfl)
theorem dX7_asks_185 : decode cX7_asks 185 = .ok (.imul, 1) := dk_104 (dk_at dksX7_asks_7 20 rfl rfl)
theorem dX7_asks_186 : decode cX7_asks 186 = .ok (.bipush 12, 2) := dk_16 12 (dk_at dksX7_asks_7 21 rfl rfl)
theorem dX7_asks_188 : decode cX7_asks 188 = .ok (.imul, 1) := dk_104 (dk_at dksX7_asks_7 23 rfl rfl)
theorem dX7_asks_189 : decode cX7_asks 189 = .ok (.bipush 12, 2) := dk_16 12 (dk_at dksX7_asks_8 0 rfl rfl)
theorem dX7_asks_191 : decode cX7_asks 191 = .ok (.iload_n 2, 1) := dk_28 (dk_at dksX7_asks_8 2 rfl rfl)
theorem dX7_asks_192 : decode cX7_asks 192 = .ok (.imul, 1) := dk_104 (dk_at dksX7_asks_8 3 rfl rfl)
theorem dX7_asks_193 : decode cX7_asks 193 = .ok (.iadd, 1) := dk_96 (dk_at dksX7_asks_8 4 rfl rfl)
theorem dX7_asks_194 : decode cX7_asks 194 = .ok (.iload_n 3, 1) := dk_29 (dk_at dksX7_asks_8 5 rfl rfl)
theorem dX7_asks_195 : decode cX7_asks 195 = .ok (.iadd, 1) := dk_96 (dk_at dksX7_asks_8 6 rfl rfl)
theorem dX7_asks_196 : decode cX7_asks 196 = .ok (.iaload, 1) := dk_46 (dk_at dksX7_asks_8 7 rfl rfl)
theorem dX7_asks_197 : decode cX7_asks 197 = .ok (.istore 6, 2) := dk_54 6 (dk_at dksX7_asks_8 8 rfl rfl)
theorem dX7_asks_199 : decode cX7_asks 199 = .ok (.aload_n 0, 1) := dk_42 (dk_at dksX7_asks_8 10 rfl rfl)
theorem dX7_asks_200 : decode cX7_asks 200 = .ok (.getfield 57, 3) := dk_180 0 57 (dk_at dksX7_asks_8 11 rfl rfl)
theorem dX7_asks_203 : decode cX7_asks 203 = .ok (.iload 6, 2) := dk_21 6 (dk_at dksX7_asks_8 14 rfl rfl)
theorem dX7_asks_205 : decode cX7_asks 205 = .ok (.dup2, 1) := dk_92 (dk_at dksX7_asks_8 16 rfl rfl)
theorem dX7_asks_206 : decode cX7_asks 206 = .ok (.iaload, 1) := dk_46 (dk_at dksX7_asks_8 17 rfl rfl)
theorem dX7_asks_207 : decode cX7_asks 207 = .ok (.iconst 1, 1) := dk_4 (dk_at dksX7_asks_8 18 rfl rfl)
theorem dX7_asks_208 : decode cX7_asks 208 = .ok (.iadd, 1) := dk_96 (dk_at dksX7_asks_8 19 rfl rfl)
theorem dX7_asks_209 : decode cX7_asks 209 = .ok (.iastore, 1) := dk_79 (dk_at dksX7_asks_8 20 rfl rfl)
theorem dX7_asks_210 : decode cX7_asks 210 = .ok (.aload_n 0, 1) := dk_42 (dk_at dksX7_asks_8 21 rfl rfl)
theorem dX7_asks_211 : decode cX7_asks 211 = .ok (.getfield 57, 3) := dk_180 0 57 (dk_at dksX7_asks_9 0 rfl rfl)
theorem dX7_asks_214 : decode cX7_asks 214 = .ok (.iload 6, 2) := dk_21 6 (dk_at dksX7_asks_9 3 rfl rfl)
theorem dX7_asks_216 : decode cX7_asks 216 = .ok (.iaload, 1) := dk_46 (dk_at dksX7_asks_9 5 rfl rfl)
theorem dX7_asks_217 : decode cX7_asks 217 = .ok (.iload 4, 2) := dk_21 4 (dk_at dksX7_asks_9 6 rfl rfl)
theorem dX7_asks_219 : decode cX7_asks 219 = .ok (.if_icmp .le 13, 3) := dk_164 0 13 (dk_at dksX7_asks_9 8 rfl rfl)
theorem dX7_asks_222 : decode cX7_asks 222 = .ok (.aload_n 0, 1) := dk_42 (dk_at dksX7_asks_9 11 rfl rfl)
theorem dX7_asks_223 : decode cX7_asks 223 = .ok (.getfield 57, 3) := dk_180 0 57 (dk_at dksX7_asks_9 12 rfl rfl)
theorem dX7_asks_226 : decode cX7_asks 226 = .ok (.iload 6, 2) := dk_21 6 (dk_at dksX7_asks_9 15 rfl rfl)
theorem dX7_asks_228 : decode cX7_asks 228 = .ok (.iaload, 1) := dk_46 (dk_at dksX7_asks_9 17 rfl rfl)
theorem dX7_asks_229 : decode cX7_asks 229 = .ok (.goto 5, 3) := dk_167 0 5 (dk_at dksX7_asks_9 18 rfl rfl)
theorem dX7_asks_232 : decode cX7_asks 232 = .ok (.iload 4, 2) := dk_21 4 (dk_at dksX7_asks_9 21 rfl rfl)
theorem dX7_asks_234 : decode cX7_asks 234 = .ok (.istore 4, 2) := dk_54 4 (dk_at dksX7_asks_10 0 rfl rfl)
theorem dX7_asks_236 : decode cX7_asks 236 = .ok (.iinc 5 1, 3) := dk_132 5 1 (dk_at dksX7_asks_10 2 rfl rfl)
theorem dX7_asks_239 : decode cX7_asks 239 = .ok (.goto (-68), 3) := dk_167 255 188 (dk_at dksX7_asks_10 5 rfl rfl)
theorem dX7_asks_242 : decode cX7_asks 242 = .ok (.iload 4, 2) := dk_21 4 (dk_at dksX7_asks_10 8 rfl rfl)
theorem dX7_asks_244 : decode cX7_asks 244 = .ok (.aload_n 0, 1) := dk_42 (dk_at dksX7_asks_10 10 rfl rfl)
theorem dX7_asks_245 : decode cX7_asks 245 = .ok (.getfield 544, 3) := dk_180 2 32 (dk_at dksX7_asks_10 11 rfl rfl)
theorem dX7_asks_248 : decode cX7_asks 248 = .ok (.if_icmp .lt 6, 3) := dk_161 0 6 (dk_at dksX7_asks_10 14 rfl rfl)
theorem dX7_asks_251 : decode cX7_asks 251 = .ok (.goto 19, 3) := dk_167 0 19 (dk_at dksX7_asks_10 17 rfl rfl)
theorem dX7_asks_254 : decode cX7_asks 254 = .ok (.aload_n 0, 1) := dk_42 (dk_at dksX7_asks_10 20 rfl rfl)
theorem dX7_asks_255 : decode cX7_asks 255 = .ok (.iload 4, 2) := dk_21 4 (dk_at dksX7_asks_10 21 rfl rfl)
theorem dX7_asks_257 : decode cX7_asks 257 = .ok (.putfield 544, 3) := dk_181 2 32 (dk_at dksX7_asks_11 0 rfl rfl)
theorem dX7_asks_260 : decode cX7_asks 260 = .ok (.aload_n 0, 1) := dk_42 (dk_at dksX7_asks_11 3 rfl rfl)
theorem dX7_asks_261 : decode cX7_asks 261 = .ok (.bipush 100, 2) := dk_16 100 (dk_at dksX7_asks_11 4 rfl rfl)
theorem dX7_asks_263 : decode cX7_asks 263 = .ok (.iload_n 2, 1) := dk_28 (dk_at dksX7_asks_11 6 rfl rfl)
theorem dX7_asks_264 : decode cX7_asks 264 = .ok (.imul, 1) := dk_104 (dk_at dksX7_asks_11 7 rfl rfl)
theorem dX7_asks_265 : decode cX7_asks 265 = .ok (.iload_n 3, 1) := dk_29 (dk_at dksX7_asks_11 8 rfl rfl)
theorem dX7_asks_266 : decode cX7_asks 266 = .ok (.iadd, 1) := dk_96 (dk_at dksX7_asks_11 9 rfl rfl)
theorem dX7_asks_267 : decode cX7_asks 267 = .ok (.putfield 547, 3) := dk_181 2 35 (dk_at dksX7_asks_11 10 rfl rfl)
theorem dX7_asks_270 : decode cX7_asks 270 = .ok (.iinc 3 1, 3) := dk_132 3 1 (dk_at dksX7_asks_11 13 rfl rfl)
theorem dX7_asks_273 : decode cX7_asks 273 = .ok (.goto (-143), 3) := dk_167 255 113 (dk_at dksX7_asks_11 16 rfl rfl)
theorem dX7_asks_276 : decode cX7_asks 276 = .ok (.iinc 2 1, 3) := dk_132 2 1 (dk_at dksX7_asks_11 19 rfl rfl)
theorem dX7_asks_279 : decode cX7_asks 279 = .ok (.goto (-162), 3) := dk_167 255 94 (dk_at dksX7_asks_12 0 rfl rfl)
theorem dX7_asks_282 : decode cX7_asks 282 = .ok (.iconst 0, 1) := dk_3 (dk_at dksX7_asks_12 3 rfl rfl)
theorem dX7_asks_283 : decode cX7_asks 283 = .ok (.ireturn, 1) := dk_172 (dk_at dksX7_asks_12 4 rfl rfl)
def dkwX7_ask_1 : List UInt8 := [180, 2, 35, 182, 0, 76, 172]
abbrev dktX7_ask_1 : List UInt8 := dkwX7_ask_1 ++ []
def dkwX7_ask_0 : List UInt8 := [42, 3, 181, 0, 66, 42, 182, 2, 38, 60, 27, 158, 0, 11, 42, 27, 182, 0, 72, 167, 0, 11, 42, 42]
abbrev dktX7_ask_0 : List UInt8 := dkwX7_ask_0 ++ dktX7_ask_1
theorem dksX7_ask_0 : cX7_ask.data.toList.drop 0 = dktX7_ask_0 := by decide +kernel
theorem dksX7_ask_1 : cX7_ask.data.toList.drop 24 = dktX7_ask_1 := dk_seg dksX7_ask_0 24 rfl rfl
theorem dX7_ask_0 : decode cX7_ask 0 = .ok (.aload_n 0, 1) := dk_42 (dk_at dksX7_ask_0 0 rfl rfl)
theorem dX7_ask_1 : decode cX7_ask 1 = .ok (.iconst 0, 1) := dk_3 (dk_at dksX7_ask_0 1 rfl rfl)
theorem dX7_ask_2 : decode cX7_ask 2 = .ok (.putfield 66, 3) := dk_181 0 66 (dk_at dksX7_ask_0 2 rfl rfl)
theorem dX7_ask_5 : decode cX7_ask 5 = .ok (.aload_n 0, 1) := dk_42 (dk_at dksX7_ask_0 5 rfl rfl)
theorem dX7_ask_6 : decode cX7_ask 6 = .ok (.invokevirtual 550, 3) := dk_182 2 38 (dk_at dksX7_ask_0 6 rfl rfl)
theorem dX7_ask_9 : decode cX7_ask 9 = .ok (.istore_n 1, 1) := dk_60 (dk_at dksX7_ask_0 9 rfl rfl)
theorem dX7_ask_10 : decode cX7_ask 10 = .ok (.iload_n 1, 1) := dk_27 (dk_at dksX7_ask_0 10 rfl rfl)
theorem dX7_ask_11 : decode cX7_ask 11 = .ok (.ifCond .le 11, 3) := dk_158 0 11 (dk_at dksX7_ask_0 11 rfl rfl)
theorem dX7_ask_14 : decode cX7_ask 14 = .ok (.aload_n 0, 1) := dk_42 (dk_at dksX7_ask_0 14 rfl rfl)
theorem dX7_ask_15 : decode cX7_ask 15 = .ok (.iload_n 1, 1) := dk_27 (dk_at dksX7_ask_0 15 rfl rfl)
theorem dX7_ask_16 : decode cX7_ask 16 = .ok (.invokevirtual 72, 3) := dk_182 0 72 (dk_at dksX7_ask_0 16 rfl rfl)
theorem dX7_ask_19 : decode cX7_ask 19 = .ok (.goto 11, 3) := dk_167 0 11 (dk_at dksX7_ask_0 19 rfl rfl)
theorem dX7_ask_22 : decode cX7_ask 22 = .ok (.aload_n 0, 1) := dk_42 (dk_at dksX7_ask_0 22 rfl rfl)
theorem dX7_ask_23 : decode cX7_ask 23 = .ok (.aload_n 0, 1) := dk_42 (dk_at dksX7_ask_0 23 rfl rfl)
theorem dX7_ask_24 : decode cX7_ask 24 = .ok (.getfield 547, 3) := dk_180 2 35 (dk_at dksX7_ask_1 0 rfl rfl)
theorem dX7_ask_27 : decode cX7_ask 27 = .ok (.invokevirtual 76, 3) := dk_182 0 76 (dk_at dksX7_ask_1 3 rfl rfl)
theorem dX7_ask_30 : decode cX7_ask 30 = .ok (.ireturn, 1) := dk_172 (dk_at dksX7_ask_1 6 rfl rfl)
def dkwX1_askMost_1 : List UInt8 := [180, 1, 55, 172]
abbrev dktX1_askMost_1 : List UInt8 := dkwX1_askMost_1 ++ []
def dkwX1_askMost_0 : List UInt8 := [42, 182, 0, 80, 42, 182, 1, 70, 60, 27, 153, 0, 11, 42, 27, 182, 0, 94, 167, 0, 7, 42]
abbrev dktX1_askMost_0 : List UInt8 := dkwX1_askMost_0 ++ dktX1_askMost_1
theorem dksX1_askMost_0 : cX1_askMost.data.toList.drop 0 = dktX1_askMost_0 := by decide +kernel
theorem dksX1_askMost_1 : cX1_askMost.data.toList.drop 22 = dktX1_askMost_1 := dk_seg dksX1_askMost_0 22 rfl rfl
theorem dX1_askMost_0 : decode cX1_askMost 0 = .ok (.aload_n 0, 1) := dk_42 (dk_at dksX1_askMost_0 0 rfl rfl)
theorem dX1_askMost_1 : decode cX1_askMost 1 = .ok (.invokevirtual 80, 3) := dk_182 0 80 (dk_at dksX1_askMost_0 1 rfl rfl)
theorem dX1_askMost_4 : decode cX1_askMost 4 = .ok (.aload_n 0, 1) := dk_42 (dk_at dksX1_askMost_0 4 rfl rfl)
theorem dX1_askMost_5 : decode cX1_askMost 5 = .ok (.invokevirtual 326, 3) := dk_182 1 70 (dk_at dksX1_askMost_0 5 rfl rfl)
theorem dX1_askMost_8 : decode cX1_askMost 8 = .ok (.istore_n 1, 1) := dk_60 (dk_at dksX1_askMost_0 8 rfl rfl)
theorem dX1_askMost_9 : decode cX1_askMost 9 = .ok (.iload_n 1, 1) := dk_27 (dk_at dksX1_askMost_0 9 rfl rfl)
theorem dX1_askMost_10 : decode cX1_askMost 10 = .ok (.ifCond .eq 11, 3) := dk_153 0 11 (dk_at dksX1_askMost_0 10 rfl rfl)
theorem dX1_askMost_13 : decode cX1_askMost 13 = .ok (.aload_n 0, 1) := dk_42 (dk_at dksX1_askMost_0 13 rfl rfl)
theorem dX1_askMost_14 : decode cX1_askMost 14 = .ok (.iload_n 1, 1) := dk_27 (dk_at dksX1_askMost_0 14 rfl rfl)
theorem dX1_askMost_15 : decode cX1_askMost 15 = .ok (.invokevirtual 94, 3) := dk_182 0 94 (dk_at dksX1_askMost_0 15 rfl rfl)
theorem dX1_askMost_18 : decode cX1_askMost 18 = .ok (.goto 7, 3) := dk_167 0 7 (dk_at dksX1_askMost_0 18 rfl rfl)
theorem dX1_askMost_21 : decode cX1_askMost 21 = .ok (.aload_n 0, 1) := dk_42 (dk_at dksX1_askMost_0 21 rfl rfl)
theorem dX1_askMost_22 : decode cX1_askMost 22 = .ok (.getfield 311, 3) := dk_180 1 55 (dk_at dksX1_askMost_1 0 rfl rfl)
theorem dX1_askMost_25 : decode cX1_askMost 25 = .ok (.ireturn, 1) := dk_172 (dk_at dksX1_askMost_1 3 rfl rfl)
def dkwX7_askMost_1 : List UInt8 := [180, 2, 32, 182, 0, 76, 172]
abbrev dktX7_askMost_1 : List UInt8 := dkwX7_askMost_1 ++ []
def dkwX7_askMost_0 : List UInt8 := [42, 3, 181, 0, 66, 42, 182, 2, 38, 60, 27, 158, 0, 11, 42, 27, 182, 0, 72, 167, 0, 11, 42, 42]
abbrev dktX7_askMost_0 : List UInt8 := dkwX7_askMost_0 ++ dktX7_askMost_1
theorem dksX7_askMost_0 : cX7_askMost.data.toList.drop 0 = dktX7_askMost_0 := by decide +kernel
theorem dksX7_askMost_1 : cX7_askMost.data.toList.drop 24 = dktX7_askMost_1 := dk_seg dksX7_askMost_0 24 rfl rfl
theorem dX7_askMost_0 : decode cX7_askMost 0 = .ok (.aload_n 0, 1) := dk_42 (dk_at dksX7_askMost_0 0 rfl rfl)
theorem dX7_askMost_1 : decode cX7_askMost 1 = .ok (.iconst 0, 1) := dk_3 (dk_at dksX7_askMost_0 1 rfl rfl)
theorem dX7_askMost_2 : decode cX7_askMost 2 = .ok (.putfield 66, 3) := dk_181 0 66 (dk_at dksX7_askMost_0 2 rfl rfl)
theorem dX7_askMost_5 : decode cX7_askMost 5 = .ok (.aload_n 0, 1) := dk_42 (dk_at dksX7_askMost_0 5 rfl rfl)
theorem dX7_askMost_6 : decode cX7_askMost 6 = .ok (.invokevirtual 550, 3) := dk_182 2 38 (dk_at dksX7_askMost_0 6 rfl rfl)
theorem dX7_askMost_9 : decode cX7_askMost 9 = .ok (.istore_n 1, 1) := dk_60 (dk_at dksX7_askMost_0 9 rfl rfl)
theorem dX7_askMost_10 : decode cX7_askMost 10 = .ok (.iload_n 1, 1) := dk_27 (dk_at dksX7_askMost_0 10 rfl rfl)
theorem dX7_askMost_11 : decode cX7_askMost 11 = .ok (.ifCond .le 11, 3) := dk_158 0 11 (dk_at dksX7_askMost_0 11 rfl rfl)
theorem dX7_askMost_14 : decode cX7_askMost 14 = .ok (.aload_n 0, 1) := dk_42 (dk_at dksX7_askMost_0 14 rfl rfl)
theorem dX7_askMost_15 : decode cX7_askMost 15 = .ok (.iload_n 1, 1) := dk_27 (dk_at dksX7_askMost_0 15 rfl rfl)
theorem dX7_askMost_16 : decode cX7_askMost 16 = .ok (.invokevirtual 72, 3) := dk_182 0 72 (dk_at dksX7_askMost_0 16 rfl rfl)
theorem dX7_askMost_19 : decode cX7_askMost 19 = .ok (.goto 11, 3) := dk_167 0 11 (dk_at dksX7_askMost_0 19 rfl rfl)
theorem dX7_askMost_22 : decode cX7_askMost 22 = .ok (.aload_n 0, 1) := dk_42 (dk_at dksX7_askMost_0 22 rfl rfl)
theorem dX7_askMost_23 : decode cX7_askMost 23 = .ok (.aload_n 0, 1) := dk_42 (dk_at dksX7_askMost_0 23 rfl rfl)
theorem dX7_askMost_24 : decode cX7_askMost 24 = .ok (.getfield 544, 3) := dk_180 2 32 (dk_at dksX7_askMost_1 0 rfl rfl)
theorem dX7_askMost_27 : decode cX7_askMost 27 = .ok (.invokevirtual 76, 3) := dk_182 0 76 (dk_at dksX7_askMost_1 3 rfl rfl)
theorem dX7_askMost_30 : decode cX7_askMost 30 = .ok (.ireturn, 1) := dk_172 (dk_at dksX7_askMost_1 6 rfl rfl)
def dkwX1_luredWhy_1 : List UInt8 := [4, 167, 0, 17, 42, 21, 4, 182, 0, 244, 153, 0, 7, 3, 167, 0, 4, 5, 172]
abbrev dktX1_luredWhy_1 : List UInt8 := dkwX1_luredWhy_1 ++ []
def dkwX1_luredWhy_0 : List UInt8 := [42, 27, 182, 0, 255, 153, 0, 19, 42, 28, 182, 0, 169, 153, 0, 11, 42, 29, 182, 0, 151, 154, 0, 7]
abbrev dktX1_luredWhy_0 : List UInt8 := dkwX1_luredWhy_0 ++ dktX1_luredWhy_1
theorem dksX1_luredWhy_0 : cX1_luredWhy.data.toList.drop 0 = dktX1_luredWhy_0 := by decide +kernel
theorem dksX1_luredWhy_1 : cX1_luredWhy.data.toList.drop 24 = dktX1_luredWhy_1 := dk_seg dksX1_luredWhy_0 24 rfl rfl
theorem dX1_luredWhy_0 : decode cX1_luredWhy 0 = .ok (.aload_n 0, 1) := dk_42 (dk_at dksX1_luredWhy_0 0 rfl rfl)
theorem dX1_luredWhy_1 : decode cX1_luredWhy 1 = .ok (.iload_n 1, 1) := dk_27 (dk_at dksX1_luredWhy_0 1 rfl rfl)
theorem dX1_luredWhy_2 : decode cX1_luredWhy 2 = .ok (.invokevirtual 255, 3) := dk_182 0 255 (dk_at dksX1_luredWhy_0 2 rfl rfl)
theorem dX1_luredWhy_5 : decode cX1_luredWhy 5 = .ok (.ifCond .eq 19, 3) := dk_153 0 19 (dk_at dksX1_luredWhy_0 5 rfl rfl)
theorem dX1_luredWhy_8 : decode cX1_luredWhy 8 = .ok (.aload_n 0, 1) := dk_42 (dk_at dksX1_luredWhy_0 8 rfl rfl)
theorem dX1_luredWhy_9 : decode cX1_luredWhy 9 = .ok (.iload_n 2, 1) := dk_28 (dk_at dksX1_luredWhy_0 9 rfl rfl)
theorem dX1_luredWhy_10 : decode cX1_luredWhy 10 = .ok (.invokevirtual 169, 3) := dk_182 0 169 (dk_at dksX1_luredWhy_0 10 rfl rfl)
theorem dX1_luredWhy_13 : decode cX1_luredWhy 13 = .ok (.ifCond .eq 11, 3) := dk_153 0 11 (dk_at dksX1_luredWhy_0 13 rfl rfl)
theorem dX1_luredWhy_16 : decode cX1_luredWhy 16 = .ok (.aload_n 0, 1) := dk_42 (dk_at dksX1_luredWhy_0 16 rfl rfl)
theorem dX1_luredWhy_17 : decode cX1_luredWhy 17 = .ok (.iload_n 3, 1) := dk_29 (dk_at dksX1_luredWhy_0 17 rfl rfl)
theorem dX1_luredWhy_18 : decode cX1_luredWhy 18 = .ok (.invokevirtual 151, 3) := dk_182 0 151 (dk_at dksX1_luredWhy_0 18 rfl rfl)
theorem dX1_luredWhy_21 : decode cX1_luredWhy 21 = .ok (.ifCond .ne 7, 3) := dk_154 0 7 (dk_at dksX1_luredWhy_0 21 rfl rfl)
theorem dX1_luredWhy_24 : decode cX1_luredWhy 24 = .ok (.iconst 1, 1) := dk_4 (dk_at dksX1_luredWhy_1 0 rfl rfl)
theorem dX1_luredWhy_25 : decode cX1_luredWhy 25 = .ok (.goto 17, 3) := dk_167 0 17 (dk_at dksX1_luredWhy_1 1 rfl rfl)
theorem dX1_luredWhy_28 : decode cX1_luredWhy 28 = .ok (.aload_n 0, 1) := dk_42 (dk_at dksX1_luredWhy_1 4 rfl rfl)
theorem dX1_luredWhy_29 : decode cX1_luredWhy 29 = .ok (.iload 4, 2) := dk_21 4 (dk_at dksX1_luredWhy_1 5 rfl rfl)
theorem dX1_luredWhy_31 : decode cX1_luredWhy 31 = .ok (.invokevirtual 244, 3) := dk_182 0 244 (dk_at dksX1_luredWhy_1 7 rfl rfl)
theorem dX1_luredWhy_34 : decode cX1_luredWhy 34 = .ok (.ifCond .eq 7, 3) := dk_153 0 7 (dk_at dksX1_luredWhy_1 10 rfl rfl)
theorem dX1_luredWhy_37 : decode cX1_luredWhy 37 = .ok (.iconst 0, 1) := dk_3 (dk_at dksX1_luredWhy_1 13 rfl rfl)
theorem dX1_luredWhy_38 : decode cX1_luredWhy 38 = .ok (.goto 4, 3) := dk_167 0 4 (dk_at dksX1_luredWhy_1 14 rfl rfl)
theorem dX1_luredWhy_41 : decode cX1_luredWhy 41 = .ok (.iconst 2, 1) := dk_5 (dk_at dksX1_luredWhy_1 17 rfl rfl)
theorem dX1_luredWhy_42 : decode cX1_luredWhy 42 = .ok (.ireturn, 1) := dk_172 (dk_at dksX1_luredWhy_1 18 rfl rfl)
def dkwX4_become_1 : List UInt8 := [3, 16, 12, 184, 0, 30, 42, 43, 180, 0, 18, 181, 0, 18, 42, 43, 180, 0, 27, 181, 0, 27, 177]
abbrev dktX4_become_1 : List UInt8 := dkwX4_become_1 ++ []
def dkwX4_become_0 : List UInt8 := [43, 180, 0, 9, 3, 42, 180, 0, 9, 3, 16, 12, 184, 0, 30, 43, 180, 0, 15, 3, 42, 180, 0, 15]
abbrev dktX4_become_0 : List UInt8 := dkwX4_become_0 ++ dktX4_become_1
theorem dksX4_become_0 : cX4_become.data.toList.drop 0 = dktX4_become_0 := by decide +kernel
theorem dksX4_become_1 : cX4_become.data.toList.drop 24 = dktX4_become_1 := dk_seg dksX4_become_0 24 rfl rfl
theorem dX4_become_0 : decode cX4_become 0 = .ok (.aload_n 1, 1) := dk_43 (dk_at dksX4_become_0 0 rfl rfl)
theorem dX4_become_1 : decode cX4_become 1 = .ok (.getfield 9, 3) := dk_180 0 9 (dk_at dksX4_become_0 1 rfl rfl)
theorem dX4_become_4 : decode cX4_become 4 = .ok (.iconst 0, 1) := dk_3 (dk_at dksX4_become_0 4 rfl rfl)
theorem dX4_become_5 : decode cX4_become 5 = .ok (.aload_n 0, 1) := dk_42 (dk_at dksX4_become_0 5 rfl rfl)
theorem dX4_become_6 : decode cX4_become 6 = .ok (.getfield 9, 3) := dk_180 0 9 (dk_at dksX4_become_0 6 rfl rfl)
theorem dX4_become_9 : decode cX4_become 9 = .ok (.iconst 0, 1) := dk_3 (dk_at dksX4_become_0 9 rfl rfl)
theorem dX4_become_10 : decode cX4_become 10 = .ok (.bipush 12, 2) := dk_16 12 (dk_at dksX4_become_0 10 rfl rfl)
theorem dX4_become_12 : decode cX4_become 12 = .ok (.invokestatic 30, 3) := dk_184 0 30 (dk_at dksX4_become_0 12 rfl rfl)
theorem dX4_become_15 : decode cX4_become 15 = .ok (.aload_n 1, 1) := dk_43 (dk_at dksX4_become_0 15 rfl rfl)
theorem dX4_become_16 : decode cX4_become 16 = .ok (.getfield 15, 3) := dk_180 0 15 (dk_at dksX4_become_0 16 rfl rfl)
theorem dX4_become_19 : decode cX4_become 19 = .ok (.iconst 0, 1) := dk_3 (dk_at dksX4_become_0 19 rfl rfl)
theorem dX4_become_20 : decode cX4_become 20 = .ok (.aload_n 0, 1) := dk_42 (dk_at dksX4_become_0 20 rfl rfl)
theorem dX4_become_21 : decode cX4_become 21 = .ok (.getfield 15, 3) := dk_180 0 15 (dk_at dksX4_become_0 21 rfl rfl)
theorem dX4_become_24 : decode cX4_become 24 = .ok (.iconst 0, 1) := dk_3 (dk_at dksX4_become_1 0 rfl rfl)
theorem dX4_become_25 : decode cX4_become 25 = .ok (.bipush 12, 2) := dk_16 12 (dk_at dksX4_become_1 1 rfl rfl)
theorem dX4_become_27 : decode cX4_become 27 = .ok (.invokestatic 30, 3) := dk_184 0 30 (dk_at dksX4_become_1 3 rfl rfl)
theorem dX4_become_30 : decode cX4_become 30 = .ok (.aload_n 0, 1) := dk_42 (dk_at dksX4_become_1 6 rfl rfl)
theorem dX4_become_31 : decode cX4_become 31 = .ok (.aload_n 1, 1) := dk_43 (dk_at dksX4_become_1 7 rfl rfl)
theorem dX4_become_32 : decode cX4_become 32 = .ok (.getfield 18, 3) := dk_180 0 18 (dk_at dksX4_become_1 8 rfl rfl)
theorem dX4_become_35 : decode cX4_become 35 = .ok (.putfield 18, 3) := dk_181 0 18 (dk_at dksX4_become_1 11 rfl rfl)
theorem dX4_become_38 : decode cX4_become 38 = .ok (.aload_n 0, 1) := dk_42 (dk_at dksX4_become_1 14 rfl rfl)
theorem dX4_become_39 : decode cX4_become 39 = .ok (.aload_n 1, 1) := dk_43 (dk_at dksX4_become_1 15 rfl rfl)
theorem dX4_become_40 : decode cX4_become 40 = .ok (.getfield 27, 3) := dk_180 0 27 (dk_at dksX4_become_1 16 rfl rfl)
theorem dX4_become_43 : decode cX4_become 43 = .ok (.putfield 27, 3) := dk_181 0 27 (dk_at dksX4_become_1 19 rfl rfl)
theorem dX4_become_46 : decode cX4_become 46 = .ok (.return_, 1) := dk_177 (dk_at dksX4_become_1 22 rfl rfl)
def dkwX1_comes_1 : List UInt8 := [182, 1, 7, 29, 160, 0, 7, 4, 167, 0, 4, 3, 172]
abbrev dktX1_comes_1 : List UInt8 := dkwX1_comes_1 ++ []
def dkwX1_comes_0 : List UInt8 := [42, 180, 0, 46, 42, 180, 0, 104, 42, 180, 0, 40, 27, 182, 0, 251, 42, 180, 0, 46, 28, 21, 4]
abbrev dktX1_comes_0 : List UInt8 := dkwX1_comes_0 ++ dktX1_comes_1
theorem dksX1_comes_0 : cX1_comes.data.toList.drop 0 = dktX1_comes_0 := by decide +kernel
theorem dksX1_comes_1 : cX1_comes.data.toList.drop 23 = dktX1_comes_1 := dk_seg dksX1_comes_0 23 rfl rfl
theorem dX1_comes_0 : decode cX1_comes 0 = .ok (.aload_n 0, 1) := dk_42 (dk_at dksX1_comes_0 0 rfl rfl)
theorem dX1_comes_1 : decode cX1_comes 1 = .ok (.getfield 46, 3) := dk_180 0 46 (dk_at dksX1_comes_0 1 rfl rfl)
theorem dX1_comes_4 : decode cX1_comes 4 = .ok (.aload_n 0, 1) := dk_42 (dk_at dksX1_comes_0 4 rfl rfl)
theorem dX1_comes_5 : decode cX1_comes 5 = .ok (.getfield 104, 3) := dk_180 0 104 (dk_at dksX1_comes_0 5 rfl rfl)
theorem dX1_comes_8 : decode cX1_comes 8 = .ok (.aload_n 0, 1) := dk_42 (dk_at dksX1_comes_0 8 rfl rfl)
theorem dX1_comes_9 : decode cX1_comes 9 = .ok (.getfield 40, 3) := dk_180 0 40 (dk_at dksX1_comes_0 9 rfl rfl)
theorem dX1_comes_12 : decode cX1_comes 12 = .ok (.iload_n 1, 1) := dk_27 (dk_at dksX1_comes_0 12 rfl rfl)
theorem dX1_comes_13 : decode cX1_comes 13 = .ok (.invokevirtual 251, 3) := dk_182 0 251 (dk_at dksX1_comes_0 13 rfl rfl)
theorem dX1_comes_16 : decode cX1_comes 16 = .ok (.aload_n 0, 1) := dk_42 (dk_at dksX1_comes_0 16 rfl rfl)
theorem dX1_comes_17 : decode cX1_comes 17 = .ok (.getfield 46, 3) := dk_180 0 46 (dk_at dksX1_comes_0 17 rfl rfl)
theorem dX1_comes_20 : decode cX1_comes 20 = .ok (.iload_n 2, 1) := dk_28 (dk_at dksX1_comes_0 20 rfl rfl)
theorem dX1_comes_21 : decode cX1_comes 21 = .ok (.iload 4, 2) := dk_21 4 (dk_at dksX1_comes_0 21 rfl rfl)
theorem dX1_comes_23 : decode cX1_comes 23 = .ok (.invokevirtual 263, 3) := dk_182 1 7 (dk_at dksX1_comes_1 0 rfl rfl)
theorem dX1_comes_26 : decode cX1_comes 26 = .ok (.iload_n 3, 1) := dk_29 (dk_at dksX1_comes_1 3 rfl rfl)
theorem dX1_comes_27 : decode cX1_comes 27 = .ok (.if_icmp .ne 7, 3) := dk_160 0 7 (dk_at dksX1_comes_1 4 rfl rfl)
theorem dX1_comes_30 : decode cX1_comes 30 = .ok (.iconst 1, 1) := dk_4 (dk_at dksX1_comes_1 7 rfl rfl)
theorem dX1_comes_31 : decode cX1_comes 31 = .ok (.goto 4, 3) := dk_167 0 4 (dk_at dksX1_comes_1 8 rfl rfl)
theorem dX1_comes_34 : decode cX1_comes 34 = .ok (.iconst 0, 1) := dk_3 (dk_at dksX1_comes_1 11 rfl rfl)
theorem dX1_comes_35 : decode cX1_comes 35 = .ok (.ireturn, 1) := dk_172 (dk_at dksX1_comes_1 12 rfl rfl)
def dkwX4_add_1 : List UInt8 := [92, 46, 4, 27, 120, 128, 79, 177]
abbrev dktX4_add_1 : List UInt8 := dkwX4_add_1 ++ []
def dkwX4_add_0 : List UInt8 := [29, 153, 0, 18, 42, 180, 0, 15, 28, 92, 46, 4, 27, 120, 128, 79, 167, 0, 15, 42, 180, 0, 9, 28]
abbrev dktX4_add_0 : List UInt8 := dkwX4_add_0 ++ dktX4_add_1
theorem dksX4_add_0 : cX4_add.data.toList.drop 0 = dktX4_add_0 := by decide +kernel
theorem dksX4_add_1 : cX4_add.data.toList.drop 24 = dktX4_add_1 := dk_seg dksX4_add_0 24 rfl rfl
theorem dX4_add_0 : decode cX4_add 0 = .ok (.iload_n 3, 1) := dk_29 (dk_at dksX4_add_0 0 rfl rfl)
theorem dX4_add_1 : decode cX4_add 1 = .ok (.ifCond .eq 18, 3) := dk_153 0 18 (dk_at dksX4_add_0 1 rfl rfl)
theorem dX4_add_4 : decode cX4_add 4 = .ok (.aload_n 0, 1) := dk_42 (dk_at dksX4_add_0 4 rfl rfl)
theorem dX4_add_5 : decode cX4_add 5 = .ok (.getfield 15, 3) := dk_180 0 15 (dk_at dksX4_add_0 5 rfl rfl)
theorem dX4_add_8 : decode cX4_add 8 = .ok (.iload_n 2, 1) := dk_28 (dk_at dksX4_add_0 8 rfl rfl)
theorem dX4_add_9 : decode cX4_add 9 = .ok (.dup2, 1) := dk_92 (dk_at dksX4_add_0 9 rfl rfl)
theorem dX4_add_10 : decode cX4_add 10 = .ok (.iaload, 1) := dk_46 (dk_at dksX4_add_0 10 rfl rfl)
theorem dX4_add_11 : decode cX4_add 11 = .ok (.iconst 1, 1) := dk_4 (dk_at dksX4_add_0 11 rfl rfl)
theorem dX4_add_12 : decode cX4_add 12 = .ok (.iload_n 1, 1) := dk_27 (dk_at dksX4_add_0 12 rfl rfl)
theorem dX4_add_13 : decode cX4_add 13 = .ok (.ishl, 1) := dk_120 (dk_at dksX4_add_0 13 rfl rfl)
theorem dX4_add_14 : decode cX4_add 14 = .ok (.ior, 1) := dk_128 (dk_at dksX4_add_0 14 rfl rfl)
theorem dX4_add_15 : decode cX4_add 15 = .ok (.iastore, 1) := dk_79 (dk_at dksX4_add_0 15 rfl rfl)
theorem dX4_add_16 : decode cX4_add 16 = .ok (.goto 15, 3) := dk_167 0 15 (dk_at dksX4_add_0 16 rfl rfl)
theorem dX4_add_19 : decode cX4_add 19 = .ok (.aload_n 0, 1) := dk_42 (dk_at dksX4_add_0 19 rfl rfl)
theorem dX4_add_20 : decode cX4_add 20 = .ok (.getfield 9, 3) := dk_180 0 9 (dk_at dksX4_add_0 20 rfl rfl)
theorem dX4_add_23 : decode cX4_add 23 = .ok (.iload_n 2, 1) := dk_28 (dk_at dksX4_add_0 23 rfl rfl)
theorem dX4_add_24 : decode cX4_add 24 = .ok (.dup2, 1) := dk_92 (dk_at dksX4_add_1 0 rfl rfl)
theorem dX4_add_25 : decode cX4_add 25 = .ok (.iaload, 1) := dk_46 (dk_at dksX4_add_1 1 rfl rfl)
theorem dX4_add_26 : decode cX4_add 26 = .ok (.iconst 1, 1) := dk_4 (dk_at dksX4_add_1 2 rfl rfl)
theorem dX4_add_27 : decode cX4_add 27 = .ok (.iload_n 1, 1) := dk_27 (dk_at dksX4_add_1 3 rfl rfl)
theorem dX4_add_28 : decode cX4_add 28 = .ok (.ishl, 1) := dk_120 (dk_at dksX4_add_1 4 rfl rfl)
theorem dX4_add_29 : decode cX4_add 29 = .ok (.ior, 1) := dk_128 (dk_at dksX4_add_1 5 rfl rfl)
theorem dX4_add_30 : decode cX4_add 30 = .ok (.iastore, 1) := dk_79 (dk_at dksX4_add_1 6 rfl rfl)
theorem dX4_add_31 : decode cX4_add 31 = .ok (.return_, 1) := dk_177 (dk_at dksX4_add_1 7 rfl rfl)
def dkwX1_lure_1 : List UInt8 := [182, 1, 73, 177]
abbrev dktX1_lure_1 : List UInt8 := dkwX1_lure_1 ++ []
def dkwX1_lure_0 : List UInt8 := [42, 180, 0, 40, 27, 42, 180, 0, 104, 180, 0, 148, 108, 27, 42, 180, 0, 104, 180, 0, 148, 112, 28]
abbrev dktX1_lure_0 : List UInt8 := dkwX1_lure_0 ++ dktX1_lure_1
theorem dksX1_lure_0 : cX1_lure.data.toList.drop 0 = dktX1_lure_0 := by decide +kernel
theorem dksX1_lure_1 : cX1_lure.data.toList.drop 23 = dktX1_lure_1 := dk_seg dksX1_lure_0 23 rfl rfl
theorem dX1_lure_0 : decode cX1_lure 0 = .ok (.aload_n 0, 1) := dk_42 (dk_at dksX1_lure_0 0 rfl rfl)
theorem dX1_lure_1 : decode cX1_lure 1 = .ok (.getfield 40, 3) := dk_180 0 40 (dk_at dksX1_lure_0 1 rfl rfl)
theorem dX1_lure_4 : decode cX1_lure 4 = .ok (.iload_n 1, 1) := dk_27 (dk_at dksX1_lure_0 4 rfl rfl)
theorem dX1_lure_5 : decode cX1_lure 5 = .ok (.aload_n 0, 1) := dk_42 (dk_at dksX1_lure_0 5 rfl rfl)
theorem dX1_lure_6 : decode cX1_lure 6 = .ok (.getfield 104, 3) := dk_180 0 104 (dk_at dksX1_lure_0 6 rfl rfl)
theorem dX1_lure_9 : decode cX1_lure 9 = .ok (.getfield 148, 3) := dk_180 0 148 (dk_at dksX1_lure_0 9 rfl rfl)
theorem dX1_lure_12 : decode cX1_lure 12 = .ok (.idiv, 1) := dk_108 (dk_at dksX1_lure_0 12 rfl rfl)
theorem dX1_lure_13 : decode cX1_lure 13 = .ok (.iload_n 1, 1) := dk_27 (dk_at dksX1_lure_0 13 rfl rfl)
theorem dX1_lure_14 : decode cX1_lure 14 = .ok (.aload_n 0, 1) := dk_42 (dk_at dksX1_lure_0 14 rfl rfl)
theorem dX1_lure_15 : decode cX1_lure 15 = .ok (.getfield 104, 3) := dk_180 0 104 (dk_at dksX1_lure_0 15 rfl rfl)
theorem dX1_lure_18 : decode cX1_lure 18 = .ok (.getfield 148, 3) := dk_180 0 148 (dk_at dksX1_lure_0 18 rfl rfl)
theorem dX1_lure_21 : decode cX1_lure 21 = .ok (.irem, 1) := dk_112 (dk_at dksX1_lure_0 21 rfl rfl)
theorem dX1_lure_22 : decode cX1_lure 22 = .ok (.iload_n 2, 1) := dk_28 (dk_at dksX1_lure_0 22 rfl rfl)
theorem dX1_lure_23 : decode cX1_lure 23 = .ok (.invokevirtual 329, 3) := dk_182 1 73 (dk_at dksX1_lure_1 0 rfl rfl)
theorem dX1_lure_26 : decode cX1_lure 26 = .ok (.return_, 1) := dk_177 (dk_at dksX1_lure_1 3 rfl rfl)
def dkwX1_lured_9 : List UInt8 := [167, 255, 186, 42, 180, 0, 74, 3, 92, 46, 4, 96, 79, 167, 255, 148, 16, 254, 172]
abbrev dktX1_lured_9 : List UInt8 := dkwX1_lured_9 ++ []
def dkwX1_lured_8 : List UInt8 := [28, 29, 21, 4, 182, 1, 81, 153, 0, 5, 5, 172, 42, 180, 0, 74, 4, 92, 46, 4, 96, 79]
abbrev dktX1_lured_8 : List UInt8 := dkwX1_lured_8 ++ dktX1_lured_9
def dkwX1_lured_7 : List UInt8 := [180, 0, 74, 3, 46, 21, 5, 182, 1, 85, 42, 42, 180, 0, 74, 4, 46, 21, 5, 182, 1, 85, 42, 27]
abbrev dktX1_lured_7 : List UInt8 := dkwX1_lured_7 ++ dktX1_lured_8
def dkwX1_lured_6 : List UInt8 := [42, 180, 0, 74, 4, 46, 21, 6, 162, 0, 65, 42, 180, 0, 40, 42, 180, 0, 33, 182, 1, 77, 42, 42]
abbrev dktX1_lured_6 : List UInt8 := dkwX1_lured_6 ++ dktX1_lured_7
def dkwX1_lured_5 : List UInt8 := [180, 0, 74, 3, 46, 21, 6, 162, 0, 103, 42, 180, 0, 74, 4, 42, 180, 0, 74, 3, 46, 4, 96, 79]
abbrev dktX1_lured_5 : List UInt8 := dkwX1_lured_5 ++ dktX1_lured_6
def dkwX1_lured_4 : List UInt8 := [172, 42, 180, 0, 74, 3, 92, 46, 4, 96, 79, 167, 255, 198, 42, 180, 0, 74, 3, 3, 79, 42]
abbrev dktX1_lured_4 : List UInt8 := dkwX1_lured_4 ++ dktX1_lured_5
def dkwX1_lured_3 : List UInt8 := [42, 180, 0, 74, 3, 46, 21, 5, 182, 1, 85, 42, 27, 28, 29, 21, 4, 182, 1, 81, 153, 0, 5, 4]
abbrev dktX1_lured_3 : List UInt8 := dkwX1_lured_3 ++ dktX1_lured_4
def dkwX1_lured_2 : List UInt8 := [79, 42, 180, 0, 74, 3, 46, 21, 6, 162, 0, 53, 42, 180, 0, 40, 42, 180, 0, 33, 182, 1, 77, 42]
abbrev dktX1_lured_2 : List UInt8 := dkwX1_lured_2 ++ dktX1_lured_3
def dkwX1_lured_1 : List UInt8 := [172, 42, 180, 0, 104, 180, 0, 130, 42, 180, 0, 104, 180, 0, 148, 104, 54, 6, 42, 180, 0, 74, 3, 3]
abbrev dktX1_lured_1 : List UInt8 := dkwX1_lured_1 ++ dktX1_lured_2
def dkwX1_lured_0 : List UInt8 := [42, 180, 0, 40, 42, 180, 0, 33, 182, 1, 77, 42, 27, 28, 29, 21, 4, 182, 1, 81, 153, 0, 5, 3]
abbrev dktX1_lured_0 : List UInt8 := dkwX1_lured_0 ++ dktX1_lured_1
theorem dksX1_lured_0 : cX1_lured.data.toList.drop 0 = dktX1_lured_0 := by decide +kernel
theorem dksX1_lured_1 : cX1_lured.data.toList.drop 24 = dktX1_lured_1 := dk_seg dksX1_lured_0 24 rfl rfl
theorem dksX1_lured_2 : cX1_lured.data.toList.drop 48 = dktX1_lured_2 := dk_seg dksX1_lured_1 24 rfl rfl
theorem dksX1_lured_3 : cX1_lured.data.toList.drop 72 = dktX1_lured_3 := dk_seg dksX1_lured_2 24 rfl rfl
theorem dksX1_lured_4 : cX1_lured.data.toList.drop 96 = dktX1_lured_4 := dk_seg dksX1_lured_3 24 rfl rfl
theorem dksX1_lured_5 : cX1_lured.data.toList.drop 118 = dktX1_lured_5 := dk_seg dksX1_lured_4 22 rfl rfl
theorem dksX1_lured_6 : cX1_lured.data.toList.drop 142 = dktX1_lured_6 := dk_seg dksX1_lured_5 24 rfl rfl
theorem dksX1_lured_7 : cX1_lured.data.toList.drop 166 = dktX1_lured_7 := dk_seg dksX1_lured_6 24 rfl rfl
theorem dksX1_lured_8 : cX1_lured.data.toList.drop 190 = dktX1_lured_8 := dk_seg dksX1_lured_7 24 rfl rfl
theorem dksX1_lured_9 : cX1_lured.data.toList.drop 212 = dktX1_lured_9 := dk_seg dksX1_lured_8 22 rfl rfl
theorem dX1_lured_0 : decode cX1_lured 0 = .ok (.aload_n 0, 1) := dk_42 (dk_at dksX1_lured_0 0 rfl rfl)
theorem dX1_lured_1 : decode cX1_lured 1 = .ok (.getfield 40, 3) := dk_180 0 40 (dk_at dksX1_lured_0 1 rfl rfl)
theorem dX1_lured_4 : decode cX1_lured 4 = .ok (.aload_n 0, 1) := dk_42 (dk_at dksX1_lured_0 4 rfl rfl)
theorem dX1_lured_5 : decode cX1_lured 5 = .ok (.getfield 33, 3) := dk_180 0 33 (dk_at dksX1_lured_0 5 rfl rfl)
theorem dX1_lured_8 : decode cX1_lured 8 = .ok (.invokevirtual 333, 3) := dk_182 1 77 (dk_at dksX1_lured_0 8 rfl rfl)
theorem dX1_lured_11 : decode cX1_lured 11 = .ok (.aload_n 0, 1) := dk_42 (dk_at dksX1_lured_0 11 rfl rfl)
theorem dX1_lured_12 : decode cX1_lured 12 = .ok (.iload_n 1, 1) := dk_27 (dk_at dksX1_lured_0 12 rfl rfl)
theorem dX1_lured_13 : decode cX1_lured 13 = .ok (.iload_n 2, 1) := dk_28 (dk_at dksX1_lured_0 13 rfl rfl)
theorem dX1_lured_14 : decode cX1_lured 14 = .ok (.iload_n 3, 1) := dk_29 (dk_at dksX1_lured_0 14 rfl rfl)
theorem dX1_lured_15 : decode cX1_lured 15 = .ok (.iload 4, 2) := dk_21 4 (dk_at dksX1_lured_0 15 rfl rfl)
theorem dX1_lured_17 : decode cX1_lured 17 = .ok (.invokevirtual 337, 3) := dk_182 1 81 (dk_at dksX1_lured_0 17 rfl rfl)
theorem dX1_lured_20 : decode cX1_lured 20 = .ok (.ifCond .eq 5, 3) := dk_153 0 5 (dk_at dksX1_lured_0 20 rfl rfl)
theorem dX1_lured_23 : decode cX1_lured 23 = .ok (.iconst 0, 1) := dk_3 (dk_at dksX1_lured_0 23 rfl rfl)
theorem dX1_lured_24 : decode cX1_lured 24 = .ok (.ireturn, 1) := dk_172 (dk_at dksX1_lured_1 0 rfl rfl)
theorem dX1_lured_25 : decode cX1_lured 25 = .ok (.aload_n 0, 1) := dk_42 (dk_at dksX1_lured_1 1 rfl rfl)
theorem dX1_lured_26 : decode cX1_lured 26 = .ok (.getfield 104, 3) := dk_180 0 104 (dk_at dksX1_lured_1 2 rfl rfl)
theorem dX1_lured_29 : decode cX1_lured 29 = .ok (.getfield 130, 3) := dk_180 0 130 (dk_at dksX1_lured_1 5 rfl rfl)
theorem dX1_lured_32 : decode cX1_lured 32 = .ok (.aload_n 0, 1) := dk_42 (dk_at dksX1_lured_1 8 rfl rfl)
theorem dX1_lured_33 : decode cX1_lured 33 = .ok (.getfield 104, 3) := dk_180 0 104 (dk_at dksX1_lured_1 9 rfl rfl)
theorem dX1_lured_36 : decode cX1_lured 36 = .ok (.getfield 148, 3) := dk_180 0 148 (dk_at dksX1_lured_1 12 rfl rfl)
theorem dX1_lured_39 : decode cX1_lured 39 = .ok (.imul, 1) := dk_104 (dk_at dksX1_lured_1 15 rfl rfl)
theorem dX1_lured_40 : decode cX1_lured 40 = .ok (.istore 6, 2) := dk_54 6 (dk_at dksX1_lured_1 16 rfl rfl)
theorem dX1_lured_42 : decode cX1_lured 42 = .ok (.aload_n 0, 1) := dk_42 (dk_at dksX1_lured_1 18 rfl rfl)
theorem dX1_lured_43 : decode cX1_lured 43 = .ok (.getfield 74, 3) := dk_180 0 74 (dk_at dksX1_lured_1 19 rfl rfl)
theorem dX1_lured_46 : decode cX1_lured 46 = .ok (.iconst 0, 1) := dk_3 (dk_at dksX1_lured_1 22 rfl rfl)
theorem dX1_lured_47 : decode cX1_lured 47 = .ok (.iconst 0, 1) := dk_3 (dk_at dksX1_lured_1 23 rfl rfl)
theorem dX1_lured_48 : decode cX1_lured 48 = .ok (.iastore, 1) := dk_79 (dk_at dksX1_lured_2 0 rfl rfl)
theorem dX1_lured_49 : decode cX1_lured 49 = .ok (.aload_n 0, 1) := dk_42 (dk_at dksX1_lured_2 1 rfl rfl)
theorem dX1_lured_50 : decode cX1_lured 50 = .ok (.getfield 74, 3) := dk_180 0 74 (dk_at dksX1_lured_2 2 rfl rfl)
theorem dX1_lured_53 : decode cX1_lured 53 = .ok (.iconst 0, 1) := dk_3 (dk_at dksX1_lured_2 5 rfl rfl)
theorem dX1_lured_54 : decode cX1_lured 54 = .ok (.iaload, 1) := dk_46 (dk_at dksX1_lured_2 6 rfl rfl)
theorem dX1_lured_55 : decode cX1_lured 55 = .ok (.iload 6, 2) := dk_21 6 (dk_at dksX1_lured_2 7 rfl rfl)
theorem dX1_lured_57 : decode cX1_lured 57 = .ok (.if_icmp .ge 53, 3) := dk_162 0 53 (dk_at dksX1_lured_2 9 rfl rfl)
theorem dX1_lured_60 : decode cX1_lured 60 = .ok (.aload_n 0, 1) := dk_42 (dk_at dksX1_lured_2 12 rfl rfl)
theorem dX1_lured_61 : decode cX1_lured 61 = .ok (.getfield 40, 3) := dk_180 0 40 (dk_at dksX1_lured_2 13 rfl rfl)
theorem dX1_lured_64 : decode cX1_lured 64 = .ok (.aload_n 0, 1) := dk_42 (dk_at dksX1_lured_2 16 rfl rfl)
theorem dX1_lured_65 : decode cX1_lured 65 = .ok (.getfield 33, 3) := dk_180 0 33 (dk_at dksX1_lured_2 17 rfl rfl)
theorem dX1_lured_68 : decode cX1_lured 68 = .ok (.invokevirtual 333, 3) := dk_182 1 77 (dk_at dksX1_lured_2 20 rfl rfl)
theorem dX1_lured_71 : decode cX1_lured 71 = .ok (.aload_n 0, 1) := dk_42 (dk_at dksX1_lured_2 23 rfl rfl)
theorem dX1_lured_72 : decode cX1_lured 72 = .ok (.aload_n 0, 1) := dk_42 (dk_at dksX1_lured_3 0 rfl rfl)
theorem dX1_lured_73 : decode cX1_lured 73 = .ok (.getfield 74, 3) := dk_180 0 74 (dk_at dksX1_lured_3 1 rfl rfl)
theorem dX1_lured_76 : decode cX1_lured 76 = .ok (.iconst 0, 1) := dk_3 (dk_at dksX1_lured_3 4 rfl rfl)
theorem dX1_lured_77 : decode cX1_lured 77 = .ok (.iaload, 1) := dk_46 (dk_at dksX1_lured_3 5 rfl rfl)
theorem dX1_lured_78 : decode cX1_lured 78 = .ok (.iload 5, 2) := dk_21 5 (dk_at dksX1_lured_3 6 rfl rfl)
theorem dX1_lured_80 : decode cX1_lured 80 = .ok (.invokevirtual 341, 3) := dk_182 1 85 (dk_at dksX1_lured_3 8 rfl rfl)
theorem dX1_lured_83 : decode cX1_lured 83 = .ok (.aload_n 0, 1) := dk_42 (dk_at dksX1_lured_3 11 rfl rfl)
theorem dX1_lured_84 : decode cX1_lured 84 = .ok (.iload_n 1, 1) := dk_27 (dk_at dksX1_lured_3 12 rfl rfl)
theorem dX1_lured_85 : decode cX1_lured 85 = .ok (.iload_n 2, 1) := dk_28 (dk_at dksX1_lured_3 13 rfl rfl)
theorem dX1_lured_86 : decode cX1_lured 86 = .ok (.iload_n 3, 1) := dk_29 (dk_at dksX1_lured_3 14 rfl rfl)
theorem dX1_lured_87 : decode cX1_lured 87 = .ok (.iload 4, 2) := dk_21 4 (dk_at dksX1_lured_3 15 rfl rfl)
theorem dX1_lured_89 : decode cX1_lured 89 = .ok (.invokevirtual 337, 3) := dk_182 1 81 (dk_at dksX1_lured_3 17 rfl rfl)
theorem dX1_lured_92 : decode cX1_lured 92 = .ok (.ifCond .eq 5, 3) := dk_153 0 5 (dk_at dksX1_lured_3 20 rfl rfl)
theorem dX1_lured_95 : decode cX1_lured 95 = .ok (.iconst 1, 1) := dk_4 (dk_at dksX1_lured_3 23 rfl rfl)
theorem dX1_lured_96 : decode cX1_lured 96 = .ok (.ireturn, 1) := dk_172 (dk_at dksX1_lured_4 0 rfl rfl)
theorem dX1_lured_97 : decode cX1_lured 97 = .ok (.aload_n 0, 1) := dk_42 (dk_at dksX1_lured_4 1 rfl rfl)
theorem dX1_lured_98 : decode cX1_lured 98 = .ok (.getfield 74, 3) := dk_180 0 74 (dk_at dksX1_lured_4 2 rfl rfl)
theorem dX1_lured_101 : decode cX1_lured 101 = .ok (.iconst 0, 1) := dk_3 (dk_at dksX1_lured_4 5 rfl rfl)
theorem dX1_lured_102 : decode cX1_lured 102 = .ok (.dup2, 1) := dk_92 (dk_at dksX1_lured_4 6 rfl rfl)
theorem dX1_lured_103 : decode cX1_lured 103 = .ok (.iaload, 1) := dk_46 (dk_at dksX1_lured_4 7 rfl rfl)
theorem dX1_lured_104 : decode cX1_lured 104 = .ok (.iconst 1, 1) := dk_4 (dk_at dksX1_lured_4 8 rfl rfl)
theorem dX1_lured_105 : decode cX1_lured 105 = .ok (.iadd, 1) := dk_96 (dk_at dksX1_lured_4 9 rfl rfl)
theorem dX1_lured_106 : decode cX1_lured 106 = .ok (.iastore, 1) := dk_79 (dk_at dksX1_lured_4 10 rfl rfl)
theorem dX1_lured_107 : decode cX1_lured 107 = .ok (.goto (-58), 3) := dk_167 255 198 (dk_at dksX1_lured_4 11 rfl rfl)
theorem dX1_lured_110 : decode cX1_lured 110 = .ok (.aload_n 0, 1) := dk_42 (dk_at dksX1_lured_4 14 rfl rfl)
theorem dX1_lured_111 : decode cX1_lured 111 = .ok (.getfield 74, 3) := dk_180 0 74 (dk_at dksX1_lured_4 15 rfl rfl)
theorem dX1_lured_114 : decode cX1_lured 114 = .ok (.iconst 0, 1) := dk_3 (dk_at dksX1_lured_4 18 rfl rfl)
theorem dX1_lured_115 : decode cX1_lured 115 = .ok (.iconst 0, 1) := dk_3 (dk_at dksX1_lured_4 19 rfl rfl)
theorem dX1_lured_116 : decode cX1_lured 116 = .ok (.iastore, 1) := dk_79 (dk_at dksX1_lured_4 20 rfl rfl)
theorem dX1_lured_117 : decode cX1_lured 117 = .ok (.aload_n 0, 1) := dk_42 (dk_at dksX1_lured_4 21 rfl rfl)
theorem dX1_lured_118 : decode cX1_lured 118 = .ok (.getfield 74, 3) := dk_180 0 74 (dk_at dksX1_lured_5 0 rfl rfl)
theorem dX1_lured_121 : decode cX1_lured 121 = .ok (.iconst 0, 1) := dk_3 (dk_at dksX1_lured_5 3 rfl rfl)
theorem dX1_lured_122 : decode cX1_lured 122 = .ok (.iaload, 1) := dk_46 (dk_at dksX1_lured_5 4 rfl rfl)
theorem dX1_lured_123 : decode cX1_lured 123 = .ok (.iload 6, 2) := dk_21 6 (dk_at dksX1_lured_5 5 rfl rfl)
theorem dX1_lured_125 : decode cX1_lured 125 = .ok (.if_icmp .ge 103, 3) := dk_162 0 103 (dk_at dksX1_lured_5 7 rfl rfl)
theorem dX1_lured_128 : decode cX1_lured 128 = .ok (.aload_n 0, 1) := dk_42 (dk_at dksX1_lured_5 10 rfl rfl)
theorem dX1_lured_129 : decode cX1_lured 129 = .ok (.getfield 74, 3) := dk_180 0 74 (dk_at dksX1_lured_5 11 rfl rfl)
theorem dX1_lured_132 : decode cX1_lured 132 = .ok (.iconst 1, 1) := dk_4 (dk_at dksX1_lured_5 14 rfl rfl)
theorem dX1_lured_133 : decode cX1_lured 133 = .ok (.aload_n 0, 1) := dk_42 (dk_at dksX1_lured_5 15 rfl rfl)
theorem dX1_lured_134 : decode cX1_lured 134 = .ok (.getfield 74, 3) := dk_180 0 74 (dk_at dksX1_lured_5 16 rfl rfl)
theorem dX1_lured_137 : decode cX1_lured 137 = .ok (.iconst 0, 1) := dk_3 (dk_at dksX1_lured_5 19 rfl rfl)
theorem dX1_lured_138 : decode cX1_lured 138 = .ok (.iaload, 1) := dk_46 (dk_at dksX1_lured_5 20 rfl rfl)
theorem dX1_lured_139 : decode cX1_lured 139 = .ok (.iconst 1, 1) := dk_4 (dk_at dksX1_lured_5 21 rfl rfl)
theorem dX1_lured_140 : decode cX1_lured 140 = .ok (.iadd, 1) := dk_96 (dk_at dksX1_lured_5 22 rfl rfl)
theorem dX1_lured_141 : decode cX1_lured 141 = .ok (.iastore, 1) := dk_79 (dk_at dksX1_lured_5 23 rfl rfl)
theorem dX1_lured_142 : decode cX1_lured 142 = .ok (.aload_n 0, 1) := dk_42 (dk_at dksX1_lured_6 0 rfl rfl)
theorem dX1_lured_143 : decode cX1_lured 143 = .ok (.getfield 74, 3) := dk_180 0 74 (dk_at dksX1_lured_6 1 rfl rfl)
theorem dX1_lured_146 : decode cX1_lured 146 = .ok (.iconst 1, 1) := dk_4 (dk_at dksX1_lured_6 4 rfl rfl)
theorem dX1_lured_147 : decode cX1_lured 147 = .ok (.iaload, 1) := dk_46 (dk_at dksX1_lured_6 5 rfl rfl)
theorem dX1_lured_148 : decode cX1_lured 148 = .ok (.iload 6, 2) := dk_21 6 (dk_at dksX1_lured_6 6 rfl rfl)
theorem dX1_lured_150 : decode cX1_lured 150 = .ok (.if_icmp .ge 65, 3) := dk_162 0 65 (dk_at dksX1_lured_6 8 rfl rfl)
theorem dX1_lured_153 : decode cX1_lured 153 = .ok (.aload_n 0, 1) := dk_42 (dk_at dksX1_lured_6 11 rfl rfl)
theorem dX1_lured_154 : decode cX1_lured 154 = .ok (.getfield 40, 3) := dk_180 0 40 (dk_at dksX1_lured_6 12 rfl rfl)
theorem dX1_lured_157 : decode cX1_lured 157 = .ok (.aload_n 0, 1) := dk_42 (dk_at dksX1_lured_6 15 rfl rfl)
theorem dX1_lured_158 : decode cX1_lured 158 = .ok (.getfield 33, 3) := dk_180 0 33 (dk_at dksX1_lured_6 16 rfl rfl)
theorem dX1_lured_161 : decode cX1_lured 161 = .ok (.invokevirtual 333, 3) := dk_182 1 77 (dk_at dksX1_lured_6 19 rfl rfl)
theorem dX1_lured_164 : decode cX1_lured 164 = .ok (.aload_n 0, 1) := dk_42 (dk_at dksX1_lured_6 22 rfl rfl)
theorem dX1_lured_165 : decode cX1_lured 165 = .ok (.aload_n 0, 1) := dk_42 (dk_at dksX1_lured_6 23 rfl rfl)
theorem dX1_lured_166 : decode cX1_lured 166 = .ok (.getfield 74, 3) := dk_180 0 74 (dk_at dksX1_lured_7 0 rfl rfl)
theorem dX1_lured_169 : decode cX1_lured 169 = .ok (.iconst 0, 1) := dk_3 (dk_at dksX1_lured_7 3 rfl rfl)
theorem dX1_lured_170 : decode cX1_lured 170 = .ok (.iaload, 1) := dk_46 (dk_at dksX1_lured_7 4 rfl rfl)
theorem dX1_lured_171 : decode cX1_lured 171 = .ok (.iload 5, 2) := dk_21 5 (dk_at dksX1_lured_7 5 rfl rfl)
theorem dX1_lured_173 : decode cX1_lured 173 = .ok (.invokevirtual 341, 3) := dk_182 1 85 (dk_at dksX1_lured_7 7 rfl rfl)
theorem dX1_lured_176 : decode cX1_lured 176 = .ok (.aload_n 0, 1) := dk_42 (dk_at dksX1_lured_7 10 rfl rfl)
theorem dX1_lured_177 : decode cX1_lured 177 = .ok (.aload_n 0, 1) := dk_42 (dk_at dksX1_lured_7 11 rfl rfl)
theorem dX1_lured_178 : decode cX1_lured 178 = .ok (.getfield 74, 3) := dk_180 0 74 (dk_at dksX1_lured_7 12 rfl rfl)
theorem dX1_lured_181 : decode cX1_lured 181 = .ok (.iconst 1, 1) := dk_4 (dk_at dksX1_lured_7 15 rfl rfl)
theorem dX1_lured_182 : decode cX1_lured 182 = .ok (.iaload, 1) := dk_46 (dk_at dksX1_lured_7 16 rfl rfl)
theorem dX1_lured_183 : decode cX1_lured 183 = .ok (.iload 5, 2) := dk_21 5 (dk_at dksX1_lured_7 17 rfl rfl)
theorem dX1_lured_185 : decode cX1_lured 185 = .ok (.invokevirtual 341, 3) := dk_182 1 85 (dk_at dksX1_lured_7 19 rfl rfl)
theorem dX1_lured_188 : decode cX1_lured 188 = .ok (.aload_n 0, 1) := dk_42 (dk_at dksX1_lured_7 22 rfl rfl)
theorem dX1_lured_189 : decode cX1_lured 189 = .ok (.iload_n 1, 1) := dk_27 (dk_at dksX1_lured_7 23 rfl rfl)
theorem dX1_lured_190 : decode cX1_lured 190 = .ok (.iload_n 2, 1) := dk_28 (dk_at dksX1_lured_8 0 rfl rfl)
theorem dX1_lured_191 : decode cX1_lured 191 = .ok (.iload_n 3, 1) := dk_29 (dk_at dksX1_lured_8 1 rfl rfl)
theorem dX1_lured_192 : decode cX1_lured 192 = .ok (.iload 4, 2) := dk_21 4 (dk_at dksX1_lured_8 2 rfl rfl)
theorem dX1_lured_194 : decode cX1_lured 194 = .ok (.invokevirtual 337, 3) := dk_182 1 81 (dk_at dksX1_lured_8 4 rfl rfl)
theorem dX1_lured_197 : decode cX1_lured 197 = .ok (.ifCond .eq 5, 3) := dk_153 0 5 (dk_at dksX1_lured_8 7 rfl rfl)
theorem dX1_lured_200 : decode cX1_lured 200 = .ok (.iconst 2, 1) := dk_5 (dk_at dksX1_lured_8 10 rfl rfl)
theorem dX1_lured_201 : decode cX1_lured 201 = .ok (.ireturn, 1) := dk_172 (dk_at dksX1_lured_8 11 rfl rfl)
theorem dX1_lured_202 : decode cX1_lured 202 = .ok (.aload_n 0, 1) := dk_42 (dk_at dksX1_lured_8 12 rfl rfl)
theorem dX1_lured_203 : decode cX1_lured 203 = .ok (.getfield 74, 3) := dk_180 0 74 (dk_at dksX1_lured_8 13 rfl rfl)
theorem dX1_lured_206 : decode cX1_lured 206 = .ok (.iconst 1, 1) := dk_4 (dk_at dksX1_lured_8 16 rfl rfl)
theorem dX1_lured_207 : decode cX1_lured 207 = .ok (.dup2, 1) := dk_92 (dk_at dksX1_lured_8 17 rfl rfl)
theorem dX1_lured_208 : decode cX1_lured 208 = .ok (.iaload, 1) := dk_46 (dk_at dksX1_lured_8 18 rfl rfl)
theorem dX1_lured_209 : decode cX1_lured 209 = .ok (.iconst 1, 1) := dk_4 (dk_at dksX1_lured_8 19 rfl rfl)
theorem dX1_lured_210 : decode cX1_lured 210 = .ok (.iadd, 1) := dk_96 (dk_at dksX1_lured_8 20 rfl rfl)
theorem dX1_lured_211 : decode cX1_lured 211 = .ok (.iastore, 1) := dk_79 (dk_at dksX1_lured_8 21 rfl rfl)
theorem dX1_lured_212 : decode cX1_lured 212 = .ok (.goto (-70), 3) := dk_167 255 186 (dk_at dksX1_lured_9 0 rfl rfl)
theorem dX1_lured_215 : decode cX1_lured 215 = .ok (.aload_n 0, 1) := dk_42 (dk_at dksX1_lured_9 3 rfl rfl)
theorem dX1_lured_216 : decode cX1_lured 216 = .ok (.getfield 74, 3) := dk_180 0 74 (dk_at dksX1_lured_9 4 rfl rfl)
theorem dX1_lured_219 : decode cX1_lured 219 = .ok (.iconst 0, 1) := dk_3 (dk_at dksX1_lured_9 7 rfl rfl)
theorem dX1_lured_220 : decode cX1_lured 220 = .ok (.dup2, 1) := dk_92 (dk_at dksX1_lured_9 8 rfl rfl)
theorem dX1_lured_221 : decode cX1_lured 221 = .ok (.iaload, 1) := dk_46 (dk_at dksX1_lured_9 9 rfl rfl)
theorem dX1_lured_222 : decode cX1_lured 222 = .ok (.iconst 1, 1) := dk_4 (dk_at dksX1_lured_9 10 rfl rfl)
theorem dX1_lured_223 : decode cX1_lured 223 = .ok (.iadd, 1) := dk_96 (dk_at dksX1_lured_9 11 rfl rfl)
theorem dX1_lured_224 : decode cX1_lured 224 = .ok (.iastore, 1) := dk_79 (dk_at dksX1_lured_9 12 rfl rfl)
theorem dX1_lured_225 : decode cX1_lured 225 = .ok (.goto (-108), 3) := dk_167 255 148 (dk_at dksX1_lured_9 13 rfl rfl)
theorem dX1_lured_228 : decode cX1_lured 228 = .ok (.bipush (-2), 2) := dk_16 254 (dk_at dksX1_lured_9 16 rfl rfl)
theorem dX1_lured_230 : decode cX1_lured 230 = .ok (.ireturn, 1) := dk_172 (dk_at dksX1_lured_9 18 rfl rfl)
def dkwX1_led_1 : List UInt8 := [182, 0, 94, 167, 0, 13, 42, 27, 28, 29, 21, 4, 3, 182, 1, 93, 172]
abbrev dktX1_led_1 : List UInt8 := dkwX1_led_1 ++ []
def dkwX1_led_0 : List UInt8 := [42, 182, 0, 80, 42, 27, 28, 29, 21, 4, 182, 1, 89, 54, 5, 21, 5, 153, 0, 12, 42, 21, 5]
abbrev dktX1_led_0 : List UInt8 := dkwX1_led_0 ++ dktX1_led_1
theorem dksX1_led_0 : cX1_led.data.toList.drop 0 = dktX1_led_0 := by decide +kernel
theorem dksX1_led_1 : cX1_led.data.toList.drop 23 = dktX1_led_1 := dk_seg dksX1_led_0 23 rfl rfl
theorem dX1_led_0 : decode cX1_led 0 = .ok (.aload_n 0, 1) := dk_42 (dk_at dksX1_led_0 0 rfl rfl)
theorem dX1_led_1 : decode cX1_led 1 = .ok (.invokevirtual 80, 3) := dk_182 0 80 (dk_at dksX1_led_0 1 rfl rfl)
theorem dX1_led_4 : decode cX1_led 4 = .ok (.aload_n 0, 1) := dk_42 (dk_at dksX1_led_0 4 rfl rfl)
theorem dX1_led_5 : decode cX1_led 5 = .ok (.iload_n 1, 1) := dk_27 (dk_at dksX1_led_0 5 rfl rfl)
theorem dX1_led_6 : decode cX1_led 6 = .ok (.iload_n 2, 1) := dk_28 (dk_at dksX1_led_0 6 rfl rfl)
theorem dX1_led_7 : decode cX1_led 7 = .ok (.iload_n 3, 1) := dk_29 (dk_at dksX1_led_0 7 rfl rfl)
theorem dX1_led_8 : decode cX1_led 8 = .ok (.iload 4, 2) := dk_21 4 (dk_at dksX1_led_0 8 rfl rfl)
theorem dX1_led_10 : decode cX1_led 10 = .ok (.invokevirtual 345, 3) := dk_182 1 89 (dk_at dksX1_led_0 10 rfl rfl)
theorem dX1_led_13 : decode cX1_led 13 = .ok (.istore 5, 2) := dk_54 5 (dk_at dksX1_led_0 13 rfl rfl)
theorem dX1_led_15 : decode cX1_led 15 = .ok (.iload 5, 2) := dk_21 5 (dk_at dksX1_led_0 15 rfl rfl)
theorem dX1_led_17 : decode cX1_led 17 = .ok (.ifCond .eq 12, 3) := dk_153 0 12 (dk_at dksX1_led_0 17 rfl rfl)
theorem dX1_led_20 : decode cX1_led 20 = .ok (.aload_n 0, 1) := dk_42 (dk_at dksX1_led_0 20 rfl rfl)
theorem dX1_led_21 : decode cX1_led 21 = .ok (.iload 5, 2) := dk_21 5 (dk_at dksX1_led_0 21 rfl rfl)
theorem dX1_led_23 : decode cX1_led 23 = .ok (.invokevirtual 94, 3) := dk_182 0 94 (dk_at dksX1_led_1 0 rfl rfl)
theorem dX1_led_26 : decode cX1_led 26 = .ok (.goto 13, 3) := dk_167 0 13 (dk_at dksX1_led_1 3 rfl rfl)
theorem dX1_led_29 : decode cX1_led 29 = .ok (.aload_n 0, 1) := dk_42 (dk_at dksX1_led_1 6 rfl rfl)
theorem dX1_led_30 : decode cX1_led 30 = .ok (.iload_n 1, 1) := dk_27 (dk_at dksX1_led_1 7 rfl rfl)
theorem dX1_led_31 : decode cX1_led 31 = .ok (.iload_n 2, 1) := dk_28 (dk_at dksX1_led_1 8 rfl rfl)
theorem dX1_led_32 : decode cX1_led 32 = .ok (.iload_n 3, 1) := dk_29 (dk_at dksX1_led_1 9 rfl rfl)
theorem dX1_led_33 : decode cX1_led 33 = .ok (.iload 4, 2) := dk_21 4 (dk_at dksX1_led_1 10 rfl rfl)
theorem dX1_led_35 : decode cX1_led 35 = .ok (.iconst 0, 1) := dk_3 (dk_at dksX1_led_1 12 rfl rfl)
theorem dX1_led_36 : decode cX1_led 36 = .ok (.invokevirtual 349, 3) := dk_182 1 93 (dk_at dksX1_led_1 13 rfl rfl)
theorem dX1_led_39 : decode cX1_led 39 = .ok (.ireturn, 1) := dk_172 (dk_at dksX1_led_1 16 rfl rfl)
def dkwX7_refusesLed_1 : List UInt8 := [4, 167, 0, 17, 42, 21, 4, 182, 1, 253, 153, 0, 7, 3, 167, 0, 4, 5, 172]
abbrev dktX7_refusesLed_1 : List UInt8 := dkwX7_refusesLed_1 ++ []
def dkwX7_refusesLed_0 : List UInt8 := [42, 27, 182, 2, 2, 153, 0, 19, 42, 28, 182, 1, 241, 153, 0, 11, 42, 29, 182, 1, 235, 154, 0, 7]
abbrev dktX7_refusesLed_0 : List UInt8 := dkwX7_refusesLed_0 ++ dktX7_refusesLed_1
theorem dksX7_refusesLed_0 : cX7_refusesLed.data.toList.drop 0 = dktX7_refusesLed_0 := by decide +kernel
theorem dksX7_refusesLed_1 : cX7_refusesLed.data.toList.drop 24 = dktX7_refusesLed_1 := dk_seg dksX7_refusesLed_0 24 rfl rfl
theorem dX7_refusesLed_0 : decode cX7_refusesLed 0 = .ok (.aload_n 0, 1) := dk_42 (dk_at dksX7_refusesLed_0 0 rfl rfl)
theorem dX7_refusesLed_1 : decode cX7_refusesLed 1 = .ok (.iload_n 1, 1) := dk_27 (dk_at dksX7_refusesLed_0 1 rfl rfl)
theorem dX7_refusesLed_2 : decode cX7_refusesLed 2 = .ok (.invokevirtual 514, 3) := dk_182 2 2 (dk_at dksX7_refusesLed_0 2 rfl rfl)
theorem dX7_refusesLed_5 : decode cX7_refusesLed 5 = .ok (.ifCond .eq 19, 3) := dk_153 0 19 (dk_at dksX7_refusesLed_0 5 rfl rfl)
theorem dX7_refusesLed_8 : decode cX7_refusesLed 8 = .ok (.aload_n 0, 1) := dk_42 (dk_at dksX7_refusesLed_0 8 rfl rfl)
theorem dX7_refusesLed_9 : decode cX7_refusesLed 9 = .ok (.iload_n 2, 1) := dk_28 (dk_at dksX7_refusesLed_0 9 rfl rfl)
theorem dX7_refusesLed_10 : decode cX7_refusesLed 10 = .ok (.invokevirtual 497, 3) := dk_182 1 241 (dk_at dksX7_refusesLed_0 10 rfl rfl)
theorem dX7_refusesLed_13 : decode cX7_refusesLed 13 = .ok (.ifCond .eq 11, 3) := dk_153 0 11 (dk_at dksX7_refusesLed_0 13 rfl rfl)
theorem dX7_refusesLed_16 : decode cX7_refusesLed 16 = .ok (.aload_n 0, 1) := dk_42 (dk_at dksX7_refusesLed_0 16 rfl rfl)
theorem dX7_refusesLed_17 : decode cX7_refusesLed 17 = .ok (.iload_n 3, 1) := dk_29 (dk_at dksX7_refusesLed_0 17 rfl rfl)
theorem dX7_refusesLed_18 : decode cX7_refusesLed 18 = .ok (.invokevirtual 491, 3) := dk_182 1 235 (dk_at dksX7_refusesLed_0 18 rfl rfl)
theorem dX7_refusesLed_21 : decode cX7_refusesLed 21 = .ok (.ifCond .ne 7, 3) := dk_154 0 7 (dk_at dksX7_refusesLed_0 21 rfl rfl)
theorem dX7_refusesLed_24 : decode cX7_refusesLed 24 = .ok (.iconst 1, 1) := dk_4 (dk_at dksX7_refusesLed_1 0 rfl rfl)
theorem dX7_refusesLed_25 : decode cX7_refusesLed 25 = .ok (.goto 17, 3) := dk_167 0 17 (dk_at dksX7_refusesLed_1 1 rfl rfl)
theorem dX7_refusesLed_28 : decode cX7_refusesLed 28 = .ok (.aload_n 0, 1) := dk_42 (dk_at dksX7_refusesLed_1 4 rfl rfl)
theorem dX7_refusesLed_29 : decode cX7_refusesLed 29 = .ok (.iload 4, 2) := dk_21 4 (dk_at dksX7_refusesLed_1 5 rfl rfl)
theorem dX7_refusesLed_31 : decode cX7_refusesLed 31 = .ok (.invokevirtual 509, 3) := dk_182 1 253 (dk_at dksX7_refusesLed_1 7 rfl rfl)
theorem dX7_refusesLed_34 : decode cX7_refusesLed 34 = .ok (.ifCond .eq 7, 3) := dk_153 0 7 (dk_at dksX7_refusesLed_1 10 rfl rfl)
theorem dX7_refusesLed_37 : decode cX7_refusesLed 37 = .ok (.iconst 0, 1) := dk_3 (dk_at dksX7_refusesLed_1 13 rfl rfl)
theorem dX7_refusesLed_38 : decode cX7_refusesLed 38 = .ok (.goto 4, 3) := dk_167 0 4 (dk_at dksX7_refusesLed_1 14 rfl rfl)
theorem dX7_refusesLed_41 : decode cX7_refusesLed 41 = .ok (.iconst 2, 1) := dk_5 (dk_at dksX7_refusesLed_1 17 rfl rfl)
theorem dX7_refusesLed_42 : decode cX7_refusesLed 42 = .ok (.ireturn, 1) := dk_172 (dk_at dksX7_refusesLed_1 18 rfl rfl)
def dkwX7_isThere_1 : List UInt8 := [167, 0, 4, 3, 172]
abbrev dktX7_isThere_1 : List UInt8 := dkwX7_isThere_1 ++ []
def dkwX7_isThere_0 : List UInt8 := [42, 27, 182, 1, 226, 42, 180, 0, 30, 16, 12, 28, 104, 21, 4, 96, 46, 29, 160, 0, 7, 4]
abbrev dktX7_isThere_0 : List UInt8 := dkwX7_isThere_0 ++ dktX7_isThere_1
theorem dksX7_isThere_0 : cX7_isThere.data.toList.drop 0 = dktX7_isThere_0 := by decide +kernel
theorem dksX7_isThere_1 : cX7_isThere.data.toList.drop 22 = dktX7_isThere_1 := dk_seg dksX7_isThere_0 22 rfl rfl
theorem dX7_isThere_0 : decode cX7_isThere 0 = .ok (.aload_n 0, 1) := dk_42 (dk_at dksX7_isThere_0 0 rfl rfl)
theorem dX7_isThere_1 : decode cX7_isThere 1 = .ok (.iload_n 1, 1) := dk_27 (dk_at dksX7_isThere_0 1 rfl rfl)
theorem dX7_isThere_2 : decode cX7_isThere 2 = .ok (.invokevirtual 482, 3) := dk_182 1 226 (dk_at dksX7_isThere_0 2 rfl rfl)
theorem dX7_isThere_5 : decode cX7_isThere 5 = .ok (.aload_n 0, 1) := dk_42 (dk_at dksX7_isThere_0 5 rfl rfl)
theorem dX7_isThere_6 : decode cX7_isThere 6 = .ok (.getfield 30, 3) := dk_180 0 30 (dk_at dksX7_isThere_0 6 rfl rfl)
theorem dX7_isThere_9 : decode cX7_isThere 9 = .ok (.bipush 12, 2) := dk_16 12 (dk_at dksX7_isThere_0 9 rfl rfl)
theorem dX7_isThere_11 : decode cX7_isThere 11 = .ok (.iload_n 2, 1) := dk_28 (dk_at dksX7_isThere_0 11 rfl rfl)
theorem dX7_isThere_12 : decode cX7_isThere 12 = .ok (.imul, 1) := dk_104 (dk_at dksX7_isThere_0 12 rfl rfl)
theorem dX7_isThere_13 : decode cX7_isThere 13 = .ok (.iload 4, 2) := dk_21 4 (dk_at dksX7_isThere_0 13 rfl rfl)
theorem dX7_isThere_15 : decode cX7_isThere 15 = .ok (.iadd, 1) := dk_96 (dk_at dksX7_isThere_0 15 rfl rfl)
theorem dX7_isThere_16 : decode cX7_isThere 16 = .ok (.iaload, 1) := dk_46 (dk_at dksX7_isThere_0 16 rfl rfl)
theorem dX7_isThere_17 : decode cX7_isThere 17 = .ok (.iload_n 3, 1) := dk_29 (dk_at dksX7_isThere_0 17 rfl rfl)
theorem dX7_isThere_18 : decode cX7_isThere 18 = .ok (.if_icmp .ne 7, 3) := dk_160 0 7 (dk_at dksX7_isThere_0 18 rfl rfl)
theorem dX7_isThere_21 : decode cX7_isThere 21 = .ok (.iconst 1, 1) := dk_4 (dk_at dksX7_isThere_0 21 rfl rfl)
theorem dX7_isThere_22 : decode cX7_isThere 22 = .ok (.goto 4, 3) := dk_167 0 4 (dk_at dksX7_isThere_1 0 rfl rfl)
theorem dX7_isThere_25 : decode cX7_isThere 25 = .ok (.iconst 0, 1) := dk_3 (dk_at dksX7_isThere_1 3 rfl rfl)
theorem dX7_isThere_26 : decode cX7_isThere 26 = .ok (.ireturn, 1) := dk_172 (dk_at dksX7_isThere_1 4 rfl rfl)
def dkwX7_isSpot_2 : List UInt8 := [154, 0, 7, 4, 167, 0, 4, 3, 172]
abbrev dktX7_isSpot_2 : List UInt8 := dkwX7_isSpot_2 ++ []
def dkwX7_isSpot_1 : List UInt8 := [180, 0, 241, 162, 0, 28, 42, 180, 0, 21, 27, 28, 16, 12, 108, 96, 46, 28, 16, 12, 112, 184, 1, 110]
abbrev dktX7_isSpot_1 : List UInt8 := dkwX7_isSpot_1 ++ dktX7_isSpot_2
def dkwX7_isSpot_0 : List UInt8 := [28, 16, 12, 112, 42, 180, 1, 186, 180, 0, 196, 162, 0, 42, 28, 16, 12, 108, 42, 180, 1, 186]
abbrev dktX7_isSpot_0 : List UInt8 := dkwX7_isSpot_0 ++ dktX7_isSpot_1
theorem dksX7_isSpot_0 : cX7_isSpot.data.toList.drop 0 = dktX7_isSpot_0 := by decide +kernel
theorem dksX7_isSpot_1 : cX7_isSpot.data.toList.drop 22 = dktX7_isSpot_1 := dk_seg dksX7_isSpot_0 22 rfl rfl
theorem dksX7_isSpot_2 : cX7_isSpot.data.toList.drop 46 = dktX7_isSpot_2 := dk_seg dksX7_isSpot_1 24 rfl rfl
theorem dX7_isSpot_0 : decode cX7_isSpot 0 = .ok (.iload_n 2, 1) := dk_28 (dk_at dksX7_isSpot_0 0 rfl rfl)
theorem dX7_isSpot_1 : decode cX7_isSpot 1 = .ok (.bipush 12, 2) := dk_16 12 (dk_at dksX7_isSpot_0 1 rfl rfl)
theorem dX7_isSpot_3 : decode cX7_isSpot 3 = .ok (.irem, 1) := dk_112 (dk_at dksX7_isSpot_0 3 rfl rfl)
theorem dX7_isSpot_4 : decode cX7_isSpot 4 = .ok (.aload_n 0, 1) := dk_42 (dk_at dksX7_isSpot_0 4 rfl rfl)
theorem dX7_isSpot_5 : decode cX7_isSpot 5 = .ok (.getfield 442, 3) := dk_180 1 186 (dk_at dksX7_isSpot_0 5 rfl rfl)
theorem dX7_isSpot_8 : decode cX7_isSpot 8 = .ok (.getfield 196, 3) := dk_180 0 196 (dk_at dksX7_isSpot_0 8 rfl rfl)
theorem dX7_isSpot_11 : decode cX7_isSpot 11 = .ok (.if_icmp .ge 42, 3) := dk_162 0 42 (dk_at dksX7_isSpot_0 11 rfl rfl)
theorem dX7_isSpot_14 : decode cX7_isSpot 14 = .ok (.iload_n 2, 1) := dk_28 (dk_at dksX7_isSpot_0 14 rfl rfl)
theorem dX7_isSpot_15 : decode cX7_isSpot 15 = .ok (.bipush 12, 2) := dk_16 12 (dk_at dksX7_isSpot_0 15 rfl rfl)
theorem dX7_isSpot_17 : decode cX7_isSpot 17 = .ok (.idiv, 1) := dk_108 (dk_at dksX7_isSpot_0 17 rfl rfl)
theorem dX7_isSpot_18 : decode cX7_isSpot 18 = .ok (.aload_n 0, 1) := dk_42 (dk_at dksX7_isSpot_0 18 rfl rfl)
theorem dX7_isSpot_19 : decode cX7_isSpot 19 = .ok (.getfield 442, 3) := dk_180 1 186 (dk_at dksX7_isSpot_0 19 rfl rfl)
theorem dX7_isSpot_22 : decode cX7_isSpot 22 = .ok (.getfield 241, 3) := dk_180 0 241 (dk_at dksX7_isSpot_1 0 rfl rfl)
theorem dX7_isSpot_25 : decode cX7_isSpot 25 = .ok (.if_icmp .ge 28, 3) := dk_162 0 28 (dk_at dksX7_isSpot_1 3 rfl rfl)
theorem dX7_isSpot_28 : decode cX7_isSpot 28 = .ok (.aload_n 0, 1) := dk_42 (dk_at dksX7_isSpot_1 6 rfl rfl)
theorem dX7_isSpot_29 : decode cX7_isSpot 29 = .ok (.getfield 21, 3) := dk_180 0 21 (dk_at dksX7_isSpot_1 7 rfl rfl)
theorem dX7_isSpot_32 : decode cX7_isSpot 32 = .ok (.iload_n 1, 1) := dk_27 (dk_at dksX7_isSpot_1 10 rfl rfl)
theorem dX7_isSpot_33 : decode cX7_isSpot 33 = .ok (.iload_n 2, 1) := dk_28 (dk_at dksX7_isSpot_1 11 rfl rfl)
theorem dX7_isSpot_34 : decode cX7_isSpot 34 = .ok (.bipush 12, 2) := dk_16 12 (dk_at dksX7_isSpot_1 12 rfl rfl)
theorem dX7_isSpot_36 : decode cX7_isSpot 36 = .ok (.idiv, 1) := dk_108 (dk_at dksX7_isSpot_1 14 rfl rfl)
theorem dX7_isSpot_37 : decode cX7_isSpot 37 = .ok (.iadd, 1) := dk_96 (dk_at dksX7_isSpot_1 15 rfl rfl)
theorem dX7_isSpot_38 : decode cX7_isSpot 38 = .ok (.iaload, 1) := dk_46 (dk_at dksX7_isSpot_1 16 rfl rfl)
theorem dX7_isSpot_39 : decode cX7_isSpot 39 = .ok (.iload_n 2, 1) := dk_28 (dk_at dksX7_isSpot_1 17 rfl rfl)
theorem dX7_isSpot_40 : decode cX7_isSpot 40 = .ok (.bipush 12, 2) := dk_16 12 (dk_at dksX7_isSpot_1 18 rfl rfl)
theorem dX7_isSpot_42 : decode cX7_isSpot 42 = .ok (.irem, 1) := dk_112 (dk_at dksX7_isSpot_1 20 rfl rfl)
theorem dX7_isSpot_43 : decode cX7_isSpot 43 = .ok (.invokestatic 366, 3) := dk_184 1 110 (dk_at dksX7_isSpot_1 21 rfl rfl)
theorem dX7_isSpot_46 : decode cX7_isSpot 46 = .ok (.ifCond .ne 7, 3) := dk_154 0 7 (dk_at dksX7_isSpot_2 0 rfl rfl)
theorem dX7_isSpot_49 : decode cX7_isSpot 49 = .ok (.iconst 1, 1) := dk_4 (dk_at dksX7_isSpot_2 3 rfl rfl)
theorem dX7_isSpot_50 : decode cX7_isSpot 50 = .ok (.goto 4, 3) := dk_167 0 4 (dk_at dksX7_isSpot_2 4 rfl rfl)
theorem dX7_isSpot_53 : decode cX7_isSpot 53 = .ok (.iconst 0, 1) := dk_3 (dk_at dksX7_isSpot_2 7 rfl rfl)
theorem dX7_isSpot_54 : decode cX7_isSpot 54 = .ok (.ireturn, 1) := dk_172 (dk_at dksX7_isSpot_2 8 rfl rfl)
def dkwX7_turn_0 : List UInt8 := [42, 180, 0, 21, 27, 28, 16, 12, 108, 96, 92, 46, 4, 28, 16, 12, 112, 120, 130, 79, 177]
abbrev dktX7_turn_0 : List UInt8 := dkwX7_turn_0 ++ []
theorem dksX7_turn_0 : cX7_turn.data.toList.drop 0 = dktX7_turn_0 := by decide +kernel
theorem dX7_turn_0 : decode cX7_turn 0 = .ok (.aload_n 0, 1) := dk_42 (dk_at dksX7_turn_0 0 rfl rfl)
theorem dX7_turn_1 : decode cX7_turn 1 = .ok (.getfield 21, 3) := dk_180 0 21 (dk_at dksX7_turn_0 1 rfl rfl)
theorem dX7_turn_4 : decode cX7_turn 4 = .ok (.iload_n 1, 1) := dk_27 (dk_at dksX7_turn_0 4 rfl rfl)
theorem dX7_turn_5 : decode cX7_turn 5 = .ok (.iload_n 2, 1) := dk_28 (dk_at dksX7_turn_0 5 rfl rfl)
theorem dX7_turn_6 : decode cX7_turn 6 = .ok (.bipush 12, 2) := dk_16 12 (dk_at dksX7_turn_0 6 rfl rfl)
theorem dX7_turn_8 : decode cX7_turn 8 = .ok (.idiv, 1) := dk_108 (dk_at dksX7_turn_0 8 rfl rfl)
theorem dX7_turn_9 : decode cX7_turn 9 = .ok (.iadd, 1) := dk_96 (dk_at dksX7_turn_0 9 rfl rfl)
theorem dX7_turn_10 : decode cX7_turn 10 = .ok (.dup2, 1) := dk_92 (dk_at dksX7_turn_0 10 rfl rfl)
theorem dX7_turn_11 : decode cX7_turn 11 = .ok (.iaload, 1) := dk_46 (dk_at dksX7_turn_0 11 rfl rfl)
theorem dX7_turn_12 : decode cX7_turn 12 = .ok (.iconst 1, 1) := dk_4 (dk_at dksX7_turn_0 12 rfl rfl)
theorem dX7_turn_13 : decode cX7_turn 13 = .ok (.iload_n 2, 1) := dk_28 (dk_at dksX7_turn_0 13 rfl rfl)
theorem dX7_turn_14 : decode cX7_turn 14 = .ok (.bipush 12, 2) := dk_16 12 (dk_at dksX7_turn_0 14 rfl rfl)
theorem dX7_turn_16 : decode cX7_turn 16 = .ok (.irem, 1) := dk_112 (dk_at dksX7_turn_0 16 rfl rfl)
theorem dX7_turn_17 : decode cX7_turn 17 = .ok (.ishl, 1) := dk_120 (dk_at dksX7_turn_0 17 rfl rfl)
theorem dX7_turn_18 : decode cX7_turn 18 = .ok (.ixor, 1) := dk_130 (dk_at dksX7_turn_0 18 rfl rfl)
theorem dX7_turn_19 : decode cX7_turn 19 = .ok (.iastore, 1) := dk_79 (dk_at dksX7_turn_0 19 rfl rfl)
theorem dX7_turn_20 : decode cX7_turn 20 = .ok (.return_, 1) := dk_177 (dk_at dksX7_turn_0 20 rfl rfl)
def dkwX7_fewest_8 : List UInt8 := [132, 7, 1, 167, 255, 164, 132, 6, 1, 167, 255, 145, 16, 254, 172]
abbrev dktX7_fewest_8 : List UInt8 := dkwX7_fewest_8 ++ []
def dkwX7_fewest_7 : List UInt8 := [21, 6, 182, 2, 47, 42, 21, 6, 181, 2, 50, 42, 21, 7, 181, 2, 53, 21, 8, 153, 0, 5, 5, 172]
abbrev dktX7_fewest_7 : List UInt8 := dkwX7_fewest_7 ++ dktX7_fewest_8
def dkwX7_fewest_6 : List UInt8 := [182, 2, 47, 42, 28, 29, 21, 4, 21, 5, 182, 2, 41, 54, 8, 42, 27, 21, 7, 182, 2, 47, 42, 27]
abbrev dktX7_fewest_6 : List UInt8 := dkwX7_fewest_6 ++ dktX7_fewest_7
def dkwX7_fewest_5 : List UInt8 := [27, 21, 7, 182, 2, 44, 154, 0, 6, 167, 0, 62, 42, 27, 21, 6, 182, 2, 47, 42, 27, 21, 7]
abbrev dktX7_fewest_5 : List UInt8 := dkwX7_fewest_5 ++ dktX7_fewest_6
def dkwX7_fewest_4 : List UInt8 := [21, 6, 4, 96, 54, 7, 21, 7, 16, 96, 162, 0, 91, 42, 27, 21, 6, 182, 2, 44, 153, 0, 75, 42]
abbrev dktX7_fewest_4 : List UInt8 := dkwX7_fewest_4 ++ dktX7_fewest_5
def dkwX7_fewest_3 : List UInt8 := [21, 7, 153, 0, 5, 4, 172, 132, 6, 1, 167, 255, 194, 3, 54, 6, 21, 6, 16, 96, 162, 0, 110]
abbrev dktX7_fewest_3 : List UInt8 := dkwX7_fewest_3 ++ dktX7_fewest_4
def dkwX7_fewest_2 : List UInt8 := [28, 29, 21, 4, 21, 5, 182, 2, 41, 54, 7, 42, 27, 21, 6, 182, 2, 47, 42, 21, 6, 181, 2, 50]
abbrev dktX7_fewest_2 : List UInt8 := dkwX7_fewest_2 ++ dktX7_fewest_3
def dkwX7_fewest_1 : List UInt8 := [162, 0, 61, 42, 27, 21, 6, 182, 2, 44, 154, 0, 6, 167, 0, 42, 42, 27, 21, 6, 182, 2, 47, 42]
abbrev dktX7_fewest_1 : List UInt8 := dkwX7_fewest_1 ++ dktX7_fewest_2
def dkwX7_fewest_0 : List UInt8 := [42, 28, 29, 21, 4, 21, 5, 182, 2, 41, 153, 0, 5, 3, 172, 3, 54, 6, 21, 6, 16, 96]
abbrev dktX7_fewest_0 : List UInt8 := dkwX7_fewest_0 ++ dktX7_fewest_1
theorem dksX7_fewest_0 : cX7_fewest.data.toList.drop 0 = dktX7_fewest_0 := by decide +kernel
theorem dksX7_fewest_1 : cX7_fewest.data.toList.drop 22 = dktX7_fewest_1 := dk_seg dksX7_fewest_0 22 rfl rfl
theorem dksX7_fewest_2 : cX7_fewest.data.toList.drop 46 = dktX7_fewest_2 := dk_seg dksX7_fewest_1 24 rfl rfl
theorem dksX7_fewest_3 : cX7_fewest.data.toList.drop 70 = dktX7_fewest_3 := dk_seg dksX7_fewest_2 24 rfl rfl
theorem dksX7_fewest_4 : cX7_fewest.data.toList.drop 93 = dktX7_fewest_4 := dk_seg dksX7_fewest_3 23 rfl rfl
theorem dksX7_fewest_5 : cX7_fewest.data.toList.drop 117 = dktX7_fewest_5 := dk_seg dksX7_fewest_4 24 rfl rfl
theorem dksX7_fewest_6 : cX7_fewest.data.toList.drop 140 = dktX7_fewest_6 := dk_seg dksX7_fewest_5 23 rfl rfl
theorem dksX7_fewest_7 : cX7_fewest.data.toList.drop 164 = dktX7_fewest_7 := dk_seg dksX7_fewest_6 24 rfl rfl
theorem dksX7_fewest_8 : cX7_fewest.data.toList.drop 188 = dktX7_fewest_8 := dk_seg dksX7_fewest_7 24 rfl rfl
theorem dX7_fewest_0 : decode cX7_fewest 0 = .ok (.aload_n 0, 1) := dk_42 (dk_at dksX7_fewest_0 0 rfl rfl)
theorem dX7_fewest_1 : decode cX7_fewest 1 = .ok (.iload_n 2, 1) := dk_28 (dk_at dksX7_fewest_0 1 rfl rfl)
theorem dX7_fewest_2 : decode cX7_fewest 2 = .ok (.iload_n 3, 1) := dk_29 (dk_at dksX7_fewest_0 2 rfl rfl)
theorem dX7_fewest_3 : decode cX7_fewest 3 = .ok (.iload 4, 2) := dk_21 4 (dk_at dksX7_fewest_0 3 rfl rfl)
theorem dX7_fewest_5 : decode cX7_fewest 5 = .ok (.iload 5, 2) := dk_21 5 (dk_at dksX7_fewest_0 5 rfl rfl)
theorem dX7_fewest_7 : decode cX7_fewest 7 = .ok (.invokevirtual 553, 3) := dk_182 2 41 (dk_at dksX7_fewest_0 7 rfl rfl)
theorem dX7_fewest_10 : decode cX7_fewest 10 = .ok (.ifCond .eq 5, 3) := dk_153 0 5 (dk_at dksX7_fewest_0 10 rfl rfl)
theorem dX7_fewest_13 : decode cX7_fewest 13 = .ok (.iconst 0, 1) := dk_3 (dk_at dksX7_fewest_0 13 rfl rfl)
theorem dX7_fewest_14 : decode cX7_fewest 14 = .ok (.ireturn, 1) := dk_172 (dk_at dksX7_fewest_0 14 rfl rfl)
theorem dX7_fewest_15 : decode cX7_fewest 15 = .ok (.iconst 0, 1) := dk_3 (dk_at dksX7_fewest_0 15 rfl rfl)
theorem dX7_fewest_16 : decode cX7_fewest 16 = .ok (.istore 6, 2) := dk_54 6 (dk_at dksX7_fewest_0 16 rfl rfl)
theorem dX7_fewest_18 : decode cX7_fewest 18 = .ok (.iload 6, 2) := dk_21 6 (dk_at dksX7_fewest_0 18 rfl rfl)
theorem dX7_fewest_20 : decode cX7_fewest 20 = .ok (.bipush 96, 2) := dk_16 96 (dk_at dksX7_fewest_0 20 rfl rfl)
theorem dX7_fewest_22 : decode cX7_fewest 22 = .ok (.if_icmp .ge 61, 3) := dk_162 0 61 (dk_at dksX7_fewest_1 0 rfl rfl)
theorem dX7_fewest_25 : decode cX7_fewest 25 = .ok (.aload_n 0, 1) := dk_42 (dk_at dksX7_fewest_1 3 rfl rfl)
theorem dX7_fewest_26 : decode cX7_fewest 26 = .ok (.iload_n 1, 1) := dk_27 (dk_at dksX7_fewest_1 4 rfl rfl)
theorem dX7_fewest_27 : decode cX7_fewest 27 = .ok (.iload 6, 2) := dk_21 6 (dk_at dksX7_fewest_1 5 rfl rfl)
theorem dX7_fewest_29 : decode cX7_fewest 29 = .ok (.invokevirtual 556, 3) := dk_182 2 44 (dk_at dksX7_fewest_1 7 rfl rfl)
theorem dX7_fewest_32 : decode cX7_fewest 32 = .ok (.ifCond .ne 6, 3) := dk_154 0 6 (dk_at dksX7_fewest_1 10 rfl rfl)
theorem dX7_fewest_35 : decode cX7_fewest 35 = .ok (.goto 42, 3) := dk_167 0 42 (dk_at dksX7_fewest_1 13 rfl rfl)
theorem dX7_fewest_38 : decode cX7_fewest 38 = .ok (.aload_n 0, 1) := dk_42 (dk_at dksX7_fewest_1 16 rfl rfl)
theorem dX7_fewest_39 : decode cX7_fewest 39 = .ok (.iload_n 1, 1) := dk_27 (dk_at dksX7_fewest_1 17 rfl rfl)
theorem dX7_fewest_40 : decode cX7_fewest 40 = .ok (.iload 6, 2) := dk_21 6 (dk_at dksX7_fewest_1 18 rfl rfl)
theorem dX7_fewest_42 : decode cX7_fewest 42 = .ok (.invokevirtual 559, 3) := dk_182 2 47 (dk_at dksX7_fewest_1 20 rfl rfl)
theorem dX7_fewest_45 : decode cX7_fewest 45 = .ok (.aload_n 0, 1) := dk_42 (dk_at dksX7_fewest_1 23 rfl rfl)
theorem dX7_fewest_46 : decode cX7_fewest 46 = .ok (.iload_n 2, 1) := dk_28 (dk_at dksX7_fewest_2 0 rfl rfl)
theorem dX7_fewest_47 : decode cX7_fewest 47 = .ok (.iload_n 3, 1) := dk_29 (dk_at dksX7_fewest_2 1 rfl rfl)
theorem dX7_fewest_48 : decode cX7_fewest 48 = .ok (.iload 4, 2) := dk_21 4 (dk_at dksX7_fewest_2 2 rfl rfl)
theorem dX7_fewest_50 : decode cX7_fewest 50 = .ok (.iload 5, 2) := dk_21 5 (dk_at dksX7_fewest_2 4 rfl rfl)
theorem dX7_fewest_52 : decode cX7_fewest 52 = .ok (.invokevirtual 553, 3) := dk_182 2 41 (dk_at dksX7_fewest_2 6 rfl rfl)
theorem dX7_fewest_55 : decode cX7_fewest 55 = .ok (.istore 7, 2) := dk_54 7 (dk_at dksX7_fewest_2 9 rfl rfl)
theorem dX7_fewest_57 : decode cX7_fewest 57 = .ok (.aload_n 0, 1) := dk_42 (dk_at dksX7_fewest_2 11 rfl rfl)
theorem dX7_fewest_58 : decode cX7_fewest 58 = .ok (.iload_n 1, 1) := dk_27 (dk_at dksX7_fewest_2 12 rfl rfl)
theorem dX7_fewest_59 : decode cX7_fewest 59 = .ok (.iload 6, 2) := dk_21 6 (dk_at dksX7_fewest_2 13 rfl rfl)
theorem dX7_fewest_61 : decode cX7_fewest 61 = .ok (.invokevirtual 559, 3) := dk_182 2 47 (dk_at dksX7_fewest_2 15 rfl rfl)
theorem dX7_fewest_64 : decode cX7_fewest 64 = .ok (.aload_n 0, 1) := dk_42 (dk_at dksX7_fewest_2 18 rfl rfl)
theorem dX7_fewest_65 : decode cX7_fewest 65 = .ok (.iload 6, 2) := dk_21 6 (dk_at dksX7_fewest_2 19 rfl rfl)
theorem dX7_fewest_67 : decode cX7_fewest 67 = .ok (.putfield 562, 3) := dk_181 2 50 (dk_at dksX7_fewest_2 21 rfl rfl)
theorem dX7_fewest_70 : decode cX7_fewest 70 = .ok (.iload 7, 2) := dk_21 7 (dk_at dksX7_fewest_3 0 rfl rfl)
theorem dX7_fewest_72 : decode cX7_fewest 72 = .ok (.ifCond .eq 5, 3) := dk_153 0 5 (dk_at dksX7_fewest_3 2 rfl rfl)
theorem dX7_fewest_75 : decode cX7_fewest 75 = .ok (.iconst 1, 1) := dk_4 (dk_at dksX7_fewest_3 5 rfl rfl)
theorem dX7_fewest_76 : decode cX7_fewest 76 = .ok (.ireturn, 1) := dk_172 (dk_at dksX7_fewest_3 6 rfl rfl)
theorem dX7_fewest_77 : decode cX7_fewest 77 = .ok (.iinc 6 1, 3) := dk_132 6 1 (dk_at dksX7_fewest_3 7 rfl rfl)
theorem dX7_fewest_80 : decode cX7_fewest 80 = .ok (.goto (-62), 3) := dk_167 255 194 (dk_at dksX7_fewest_3 10 rfl rfl)
theorem dX7_fewest_83 : decode cX7_fewest 83 = .ok (.iconst 0, 1) := dk_3 (dk_at dksX7_fewest_3 13 rfl rfl)
theorem dX7_fewest_84 : decode cX7_fewest 84 = .ok (.istore 6, 2) := dk_54 6 (dk_at dksX7_fewest_3 14 rfl rfl)
theorem dX7_fewest_86 : decode cX7_fewest 86 = .ok (.iload 6, 2) := dk_21 6 (dk_at dksX7_fewest_3 16 rfl rfl)
theorem dX7_fewest_88 : decode cX7_fewest 88 = .ok (.bipush 96, 2) := dk_16 96 (dk_at dksX7_fewest_3 18 rfl rfl)
theorem dX7_fewest_90 : decode cX7_fewest 90 = .ok (.if_icmp .ge 110, 3) := dk_162 0 110 (dk_at dksX7_fewest_3 20 rfl rfl)
theorem dX7_fewest_93 : decode cX7_fewest 93 = .ok (.iload 6, 2) := dk_21 6 (dk_at dksX7_fewest_4 0 rfl rfl)
theorem dX7_fewest_95 : decode cX7_fewest 95 = .ok (.iconst 1, 1) := dk_4 (dk_at dksX7_fewest_4 2 rfl rfl)
theorem dX7_fewest_96 : decode cX7_fewest 96 = .ok (.iadd, 1) := dk_96 (dk_at dksX7_fewest_4 3 rfl rfl)
theorem dX7_fewest_97 : decode cX7_fewest 97 = .ok (.istore 7, 2) := dk_54 7 (dk_at dksX7_fewest_4 4 rfl rfl)
theorem dX7_fewest_99 : decode cX7_fewest 99 = .ok (.iload 7, 2) := dk_21 7 (dk_at dksX7_fewest_4 6 rfl rfl)
theorem dX7_fewest_101 : decode cX7_fewest 101 = .ok (.bipush 96, 2) := dk_16 96 (dk_at dksX7_fewest_4 8 rfl rfl)
theorem dX7_fewest_103 : decode cX7_fewest 103 = .ok (.if_icmp .ge 91, 3) := dk_162 0 91 (dk_at dksX7_fewest_4 10 rfl rfl)
theorem dX7_fewest_106 : decode cX7_fewest 106 = .ok (.aload_n 0, 1) := dk_42 (dk_at dksX7_fewest_4 13 rfl rfl)
theorem dX7_fewest_107 : decode cX7_fewest 107 = .ok (.iload_n 1, 1) := dk_27 (dk_at dksX7_fewest_4 14 rfl rfl)
theorem dX7_fewest_108 : decode cX7_fewest 108 = .ok (.iload 6, 2) := dk_21 6 (dk_at dksX7_fewest_4 15 rfl rfl)
theorem dX7_fewest_110 : decode cX7_fewest 110 = .ok (.invokevirtual 556, 3) := dk_182 2 44 (dk_at dksX7_fewest_4 17 rfl rfl)
theorem dX7_fewest_113 : decode cX7_fewest 113 = .ok (.ifCond .eq 75, 3) := dk_153 0 75 (dk_at dksX7_fewest_4 20 rfl rfl)
theorem dX7_fewest_116 : decode cX7_fewest 116 = .ok (.aload_n 0, 1) := dk_42 (dk_at dksX7_fewest_4 23 rfl rfl)
theorem dX7_fewest_117 : decode cX7_fewest 117 = .ok (.iload_n 1, 1) := dk_27 (dk_at dksX7_fewest_5 0 rfl rfl)
theorem dX7_fewest_118 : decode cX7_fewest 118 = .ok (.iload 7, 2) := dk_21 7 (dk_at dksX7_fewest_5 1 rfl rfl)
theorem dX7_fewest_120 : decode cX7_fewest 120 = .ok (.invokevirtual 556, 3) := dk_182 2 44 (dk_at dksX7_fewest_5 3 rfl rfl)
theorem dX7_fewest_123 : decode cX7_fewest 123 = .ok (.ifCond .ne 6, 3) := dk_154 0 6 (dk_at dksX7_fewest_5 6 rfl rfl)
theorem dX7_fewest_126 : decode cX7_fewest 126 = .ok (.goto 62, 3) := dk_167 0 62 (dk_at dksX7_fewest_5 9 rfl rfl)
theorem dX7_fewest_129 : decode cX7_fewest 129 = .ok (.aload_n 0, 1) := dk_42 (dk_at dksX7_fewest_5 12 rfl rfl)
theorem dX7_fewest_130 : decode cX7_fewest 130 = .ok (.iload_n 1, 1) := dk_27 (dk_at dksX7_fewest_5 13 rfl rfl)
theorem dX7_fewest_131 : decode cX7_fewest 131 = .ok (.iload 6, 2) := dk_21 6 (dk_at dksX7_fewest_5 14 rfl rfl)
theorem dX7_fewest_133 : decode cX7_fewest 133 = .ok (.invokevirtual 559, 3) := dk_182 2 47 (dk_at dksX7_fewest_5 16 rfl rfl)
theorem dX7_fewest_136 : decode cX7_fewest 136 = .ok (.aload_n 0, 1) := dk_42 (dk_at dksX7_fewest_5 19 rfl rfl)
theorem dX7_fewest_137 : decode cX7_fewest 137 = .ok (.iload_n 1, 1) := dk_27 (dk_at dksX7_fewest_5 20 rfl rfl)
theorem dX7_fewest_138 : decode cX7_fewest 138 = .ok (.iload 7, 2) := dk_21 7 (dk_at dksX7_fewest_5 21 rfl rfl)
theorem dX7_fewest_140 : decode cX7_fewest 140 = .ok (.invokevirtual 559, 3) := dk_182 2 47 (dk_at dksX7_fewest_6 0 rfl rfl)
theorem dX7_fewest_143 : decode cX7_fewest 143 = .ok (.aload_n 0, 1) := dk_42 (dk_at dksX7_fewest_6 3 rfl rfl)
theorem dX7_fewest_144 : decode cX7_fewest 144 = .ok (.iload_n 2, 1) := dk_28 (dk_at dksX7_fewest_6 4 rfl rfl)
theorem dX7_fewest_145 : decode cX7_fewest 145 = .ok (.iload_n 3, 1) := dk_29 (dk_at dksX7_fewest_6 5 rfl rfl)
theorem dX7_fewest_146 : decode cX7_fewest 146 = .ok (.iload 4, 2) := dk_21 4 (dk_at dksX7_fewest_6 6 rfl rfl)
theorem dX7_fewest_148 : decode cX7_fewest 148 = .ok (.iload 5, 2) := dk_21 5 (dk_at dksX7_fewest_6 8 rfl rfl)
theorem dX7_fewest_150 : decode cX7_fewest 150 = .ok (.invokevirtual 553, 3) := dk_182 2 41 (dk_at dksX7_fewest_6 10 rfl rfl)
theorem dX7_fewest_153 : decode cX7_fewest 153 = .ok (.istore 8, 2) := dk_54 8 (dk_at dksX7_fewest_6 13 rfl rfl)
theorem dX7_fewest_155 : decode cX7_fewest 155 = .ok (.aload_n 0, 1) := dk_42 (dk_at dksX7_fewest_6 15 rfl rfl)
theorem dX7_fewest_156 : decode cX7_fewest 156 = .ok (.iload_n 1, 1) := dk_27 (dk_at dksX7_fewest_6 16 rfl rfl)
theorem dX7_fewest_157 : decode cX7_fewest 157 = .ok (.iload 7, 2) := dk_21 7 (dk_at dksX7_fewest_6 17 rfl rfl)
theorem dX7_fewest_159 : decode cX7_fewest 159 = .ok (.invokevirtual 559, 3) := dk_182 2 47 (dk_at dksX7_fewest_6 19 rfl rfl)
theorem dX7_fewest_162 : decode cX7_fewest 162 = .ok (.aload_n 0, 1) := dk_42 (dk_at dksX7_fewest_6 22 rfl rfl)
theorem dX7_fewest_163 : decode cX7_fewest 163 = .ok (.iload_n 1, 1) := dk_27 (dk_at dksX7_fewest_6 23 rfl rfl)
theorem dX7_fewest_164 : decode cX7_fewest 164 = .ok (.iload 6, 2) := dk_21 6 (dk_at dksX7_fewest_7 0 rfl rfl)
theorem dX7_fewest_166 : decode cX7_fewest 166 = .ok (.invokevirtual 559, 3) := dk_182 2 47 (dk_at dksX7_fewest_7 2 rfl rfl)
theorem dX7_fewest_169 : decode cX7_fewest 169 = .ok (.aload_n 0, 1) := dk_42 (dk_at dksX7_fewest_7 5 rfl rfl)
theorem dX7_fewest_170 : decode cX7_fewest 170 = .ok (.iload 6, 2) := dk_21 6 (dk_at dksX7_fewest_7 6 rfl rfl)
theorem dX7_fewest_172 : decode cX7_fewest 172 = .ok (.putfield 562, 3) := dk_181 2 50 (dk_at dksX7_fewest_7 8 rfl rfl)
theorem dX7_fewest_175 : decode cX7_fewest 175 = .ok (.aload_n 0, 1) := dk_42 (dk_at dksX7_fewest_7 11 rfl rfl)
theorem dX7_fewest_176 : decode cX7_fewest 176 = .ok (.iload 7, 2) := dk_21 7 (dk_at dksX7_fewest_7 12 rfl rfl)
theorem dX7_fewest_178 : decode cX7_fewest 178 = .ok (.putfield 565, 3) := dk_181 2 53 (dk_at dksX7_fewest_7 14 rfl rfl)
theorem dX7_fewest_181 : decode cX7_fewest 181 = .ok (.iload 8, 2) := dk_21 8 (dk_at dksX7_fewest_7 17 rfl rfl)
theorem dX7_fewest_183 : decode cX7_fewest 183 = .ok (.ifCond .eq 5, 3) := dk_153 0 5 (dk_at dksX7_fewest_7 19 rfl rfl)
theorem dX7_fewest_186 : decode cX7_fewest 186 = .ok (.iconst 2, 1) := dk_5 (dk_at dksX7_fewest_7 22 rfl rfl)
theorem dX7_fewest_187 : decode cX7_fewest 187 = .ok (.ireturn, 1) := dk_172 (dk_at dksX7_fewest_7 23 rfl rfl)
theorem dX7_fewest_188 : decode cX7_fewest 188 = .ok (.iinc 7 1, 3) := dk_132 7 1 (dk_at dksX7_fewest_8 0 rfl rfl)
theorem dX7_fewest_191 : decode cX7_fewest 191 = .ok (.goto (-92), 3) := dk_167 255 164 (dk_at dksX7_fewest_8 3 rfl rfl)
theorem dX7_fewest_194 : decode cX7_fewest 194 = .ok (.iinc 6 1, 3) := dk_132 6 1 (dk_at dksX7_fewest_8 6 rfl rfl)
theorem dX7_fewest_197 : decode cX7_fewest 197 = .ok (.goto (-111), 3) := dk_167 255 145 (dk_at dksX7_fewest_8 9 rfl rfl)
theorem dX7_fewest_200 : decode cX7_fewest 200 = .ok (.bipush (-2), 2) := dk_16 254 (dk_at dksX7_fewest_8 12 rfl rfl)
theorem dX7_fewest_202 : decode cX7_fewest 202 = .ok (.ireturn, 1) := dk_172 (dk_at dksX7_fewest_8 14 rfl rfl)
def dkwX7_led_1 : List UInt8 := [182, 0, 72, 167, 0, 17, 42, 42, 3, 27, 28, 29, 21, 4, 182, 2, 60, 182, 0, 76, 172]
abbrev dktX7_led_1 : List UInt8 := dkwX7_led_1 ++ []
def dkwX7_led_0 : List UInt8 := [42, 3, 181, 0, 66, 42, 27, 28, 29, 21, 4, 182, 2, 56, 54, 5, 21, 5, 158, 0, 12, 42, 21, 5]
abbrev dktX7_led_0 : List UInt8 := dkwX7_led_0 ++ dktX7_led_1
theorem dksX7_led_0 : cX7_led.data.toList.drop 0 = dktX7_led_0 := by decide +kernel
theorem dksX7_led_1 : cX7_led.data.toList.drop 24 = dktX7_led_1 := dk_seg dksX7_led_0 24 rfl rfl
theorem dX7_led_0 : decode cX7_led 0 = .ok (.aload_n 0, 1) := dk_42 (dk_at dksX7_led_0 0 rfl rfl)
theorem dX7_led_1 : decode cX7_led 1 = .ok (.iconst 0, 1) := dk_3 (dk_at dksX7_led_0 1 rfl rfl)
theorem dX7_led_2 : decode cX7_led 2 = .ok (.putfield 66, 3) := dk_181 0 66 (dk_at dksX7_led_0 2 rfl rfl)
theorem dX7_led_5 : decode cX7_led 5 = .ok (.aload_n 0, 1) := dk_42 (dk_at dksX7_led_0 5 rfl rfl)
theorem dX7_led_6 : decode cX7_led 6 = .ok (.iload_n 1, 1) := dk_27 (dk_at dksX7_led_0 6 rfl rfl)
theorem dX7_led_7 : decode cX7_led 7 = .ok (.iload_n 2, 1) := dk_28 (dk_at dksX7_led_0 7 rfl rfl)
theorem dX7_led_8 : decode cX7_led 8 = .ok (.iload_n 3, 1) := dk_29 (dk_at dksX7_led_0 8 rfl rfl)
theorem dX7_led_9 : decode cX7_led 9 = .ok (.iload 4, 2) := dk_21 4 (dk_at dksX7_led_0 9 rfl rfl)
theorem dX7_led_11 : decode cX7_led 11 = .ok (.invokevirtual 568, 3) := dk_182 2 56 (dk_at dksX7_led_0 11 rfl rfl)
theorem dX7_led_14 : decode cX7_led 14 = .ok (.istore 5, 2) := dk_54 5 (dk_at dksX7_led_0 14 rfl rfl)
theorem dX7_led_16 : decode cX7_led 16 = .ok (.iload 5, 2) := dk_21 5 (dk_at dksX7_led_0 16 rfl rfl)
theorem dX7_led_18 : decode cX7_led 18 = .ok (.ifCond .le 12, 3) := dk_158 0 12 (dk_at dksX7_led_0 18 rfl rfl)
theorem dX7_led_21 : decode cX7_led 21 = .ok (.aload_n 0, 1) := dk_42 (dk_at dksX7_led_0 21 rfl rfl)
theorem dX7_led_22 : decode cX7_led 22 = .ok (.iload 5, 2) := dk_21 5 (dk_at dksX7_led_0 22 rfl rfl)
theorem dX7_led_24 : decode cX7_led 24 = .ok (.invokevirtual 72, 3) := dk_182 0 72 (dk_at dksX7_led_1 0 rfl rfl)
theorem dX7_led_27 : decode cX7_led 27 = .ok (.goto 17, 3) := dk_167 0 17 (dk_at dksX7_led_1 3 rfl rfl)
theorem dX7_led_30 : decode cX7_led 30 = .ok (.aload_n 0, 1) := dk_42 (dk_at dksX7_led_1 6 rfl rfl)
theorem dX7_led_31 : decode cX7_led 31 = .ok (.aload_n 0, 1) := dk_42 (dk_at dksX7_led_1 7 rfl rfl)
theorem dX7_led_32 : decode cX7_led 32 = .ok (.iconst 0, 1) := dk_3 (dk_at dksX7_led_1 8 rfl rfl)
theorem dX7_led_33 : decode cX7_led 33 = .ok (.iload_n 1, 1) := dk_27 (dk_at dksX7_led_1 9 rfl rfl)
theorem dX7_led_34 : decode cX7_led 34 = .ok (.iload_n 2, 1) := dk_28 (dk_at dksX7_led_1 10 rfl rfl)
theorem dX7_led_35 : decode cX7_led 35 = .ok (.iload_n 3, 1) := dk_29 (dk_at dksX7_led_1 11 rfl rfl)
theorem dX7_led_36 : decode cX7_led 36 = .ok (.iload 4, 2) := dk_21 4 (dk_at dksX7_led_1 12 rfl rfl)
theorem dX7_led_38 : decode cX7_led 38 = .ok (.invokevirtual 572, 3) := dk_182 2 60 (dk_at dksX7_led_1 14 rfl rfl)
theorem dX7_led_41 : decode cX7_led 41 = .ok (.invokevirtual 76, 3) := dk_182 0 76 (dk_at dksX7_led_1 17 rfl rfl)
theorem dX7_led_44 : decode cX7_led 44 = .ok (.ireturn, 1) := dk_172 (dk_at dksX7_led_1 20 rfl rfl)
theorem fp_X7_proved_66 : FP mX7_proved 66 [26] 0 (tyOf 0) := fun kd h => (by cases List.mem_singleton.mp h; exact ⟨6, _, 0, "GoatCourtModel", rfl, rfl, by decide, rfl, rfl, Or.inl rfl, Or.inl ⟨rfl, Or.inl q1889⟩⟩)
theorem fl_X1_311 : FL "GoatCourt" 311 [20] 20 (tyOf 0) := fun kd h => (by cases List.mem_singleton.mp h; exact ⟨0, _, 20, "GoatCourt", rfl, rfl, by decide, rfl, rfl, Or.inl q422, Or.inl rfl⟩)
theorem fl_X1_71 : FL "GoatCourt" 71 [20] 21 (.array (.int)) := fun kd h => (by cases List.mem_singleton.mp h; exact ⟨0, _, 21, "GoatCourt", rfl, rfl, by decide, rfl, rfl, Or.inl q423, Or.inl rfl⟩)
theorem fp_X1_tryAsk_323 : FP mX1_tryAsk 323 [20] 19 (tyOf 0) := fun kd h => (by cases List.mem_singleton.mp h; exact ⟨0, _, 19, "GoatCourt", rfl, rfl, by decide, rfl, rfl, Or.inl rfl, Or.inl ⟨rfl, Or.inl q421⟩⟩)
theorem fp_X1_tryAsk_311 : FP mX1_tryAsk 311 [20] 20 (tyOf 0) := fun kd h => (by cases List.mem_singleton.mp h; exact ⟨0, _, 20, "GoatCourt", rfl, rfl, by decide, rfl, rfl, Or.inl rfl, Or.inl ⟨rfl, Or.inl q422⟩⟩)
theorem fp_X1_askWhy_311 : FP mX1_askWhy 311 [20] 20 (tyOf 0) := fun kd h => (by cases List.mem_singleton.mp h; exact ⟨0, _, 20, "GoatCourt", rfl, rfl, by decide, rfl, rfl, Or.inl rfl, Or.inl ⟨rfl, Or.inl q422⟩⟩)
theorem fl_X1_323 : FL "GoatCourt" 323 [20] 19 (tyOf 0) := fun kd h => (by cases List.mem_singleton.mp h; exact ⟨0, _, 19, "GoatCourt", rfl, rfl, by decide, rfl, rfl, Or.inl q421, Or.inl rfl⟩)
theorem fl_X7_544 : FL "GoatCourtModel" 544 [26] 31 (tyOf 0) := fun kd h => (by cases List.mem_singleton.mp h; exact ⟨6, _, 31, "GoatCourtModel", rfl, rfl, by decide, rfl, rfl, Or.inl q1920, Or.inl rfl⟩)
theorem fl_X7_54 : FL "GoatCourtModel" 54 [26] 33 (.array (.int)) := fun kd h => (by cases List.mem_singleton.mp h; exact ⟨6, _, 33, "GoatCourtModel", rfl, rfl, by decide, rfl, rfl, Or.inl q1922, Or.inl rfl⟩)
theorem fl_X7_57 : FL "GoatCourtModel" 57 [26] 34 (.array (.int)) := fun kd h => (by cases List.mem_singleton.mp h; exact ⟨6, _, 34, "GoatCourtModel", rfl, rfl, by decide, rfl, rfl, Or.inl q1923, Or.inl rfl⟩)
theorem fp_X7_asks_544 : FP mX7_asks 544 [26] 31 (tyOf 0) := fun kd h => (by cases List.mem_singleton.mp h; exact ⟨6, _, 31, "GoatCourtModel", rfl, rfl, by decide, rfl, rfl, Or.inl rfl, Or.inl ⟨rfl, Or.inl q1920⟩⟩)
theorem fp_X7_asks_547 : FP mX7_asks 547 [26] 30 (tyOf 0) := fun kd h => (by cases List.mem_singleton.mp h; exact ⟨6, _, 30, "GoatCourtModel", rfl, rfl, by decide, rfl, rfl, Or.inl rfl, Or.inl ⟨rfl, Or.inl q1919⟩⟩)
theorem fl_X7_547 : FL "GoatCourtModel" 547 [26] 30 (tyOf 0) := fun kd h => (by cases List.mem_singleton.mp h; exact ⟨6, _, 30, "GoatCourtModel", rfl, rfl, by decide, rfl, rfl, Or.inl q1919, Or.inl rfl⟩)
theorem fp_X7_ask_66 : FP mX7_ask 66 [26] 0 (tyOf 0) := fun kd h => (by cases List.mem_singleton.mp h; exact ⟨6, _, 0, "GoatCourtModel", rfl, rfl, by decide, rfl, rfl, Or.inl rfl, Or.inl ⟨rfl, Or.inl q1889⟩⟩)
theorem fp_X7_askMost_66 : FP mX7_askMost 66 [26] 0 (tyOf 0) := fun kd h => (by cases List.mem_singleton.mp h; exact ⟨6, _, 0, "GoatCourtModel", rfl, rfl, by decide, rfl, rfl, Or.inl rfl, Or.inl ⟨rfl, Or.inl q1889⟩⟩)
theorem fl_X4_18 : FL "GoatCourt$Ground" 18 [23] 2 (tyOf 0) := fun kd h => (by cases List.mem_singleton.mp h; exact ⟨3, _, 2, "GoatCourt$Ground", rfl, rfl, by decide, rfl, rfl, Or.inl q330, Or.inl rfl⟩)
theorem fl_X4_27 : FL "GoatCourt$Ground" 27 [23] 3 (tyOf 0) := fun kd h => (by cases List.mem_singleton.mp h; exact ⟨3, _, 3, "GoatCourt$Ground", rfl, rfl, by decide, rfl, rfl, Or.inl q333, Or.inl rfl⟩)
theorem fp_X4_become_18 : FP mX4_become 18 [23] 2 (tyOf 0) := fun kd h => (by cases List.mem_singleton.mp h; exact ⟨3, _, 2, "GoatCourt$Ground", rfl, rfl, by decide, rfl, rfl, Or.inl rfl, Or.inl ⟨rfl, Or.inl q330⟩⟩)
theorem fp_X4_become_27 : FP mX4_become 27 [23] 3 (tyOf 0) := fun kd h => (by cases List.mem_singleton.mp h; exact ⟨3, _, 3, "GoatCourt$Ground", rfl, rfl, by decide, rfl, rfl, Or.inl rfl, Or.inl ⟨rfl, Or.inl q333⟩⟩)
theorem fl_X1_40 : FL "GoatCourt" 40 [20] 11 (.object "GoatCourt$Ground") := fun kd h => (by cases List.mem_singleton.mp h; exact ⟨0, _, 11, "GoatCourt", rfl, rfl, by decide, rfl, rfl, Or.inl q413, Or.inl rfl⟩)
theorem fl_X1_74 : FL "GoatCourt" 74 [20] 22 (.array (.int)) := fun kd h => (by cases List.mem_singleton.mp h; exact ⟨0, _, 22, "GoatCourt", rfl, rfl, by decide, rfl, rfl, Or.inl q424, Or.inl rfl⟩)
theorem fp_X7_fewest_562 : FP mX7_fewest 562 [26] 35 (tyOf 0) := fun kd h => (by cases List.mem_singleton.mp h; exact ⟨6, _, 35, "GoatCourtModel", rfl, rfl, by decide, rfl, rfl, Or.inl rfl, Or.inl ⟨rfl, Or.inl q1924⟩⟩)
theorem fp_X7_fewest_565 : FP mX7_fewest 565 [26] 36 (tyOf 0) := fun kd h => (by cases List.mem_singleton.mp h; exact ⟨6, _, 36, "GoatCourtModel", rfl, rfl, by decide, rfl, rfl, Or.inl rfl, Or.inl ⟨rfl, Or.inl q1925⟩⟩)
theorem fp_X7_led_66 : FP mX7_led 66 [26] 0 (tyOf 0) := fun kd h => (by cases List.mem_singleton.mp h; exact ⟨6, _, 0, "GoatCourtModel", rfl, rfl, by decide, rfl, rfl, Or.inl rfl, Or.inl ⟨rfl, Or.inl q1889⟩⟩)
theorem w_X7_proved_b97 (G : Gx) (h0 : G0 G) (N : Nat) (K50 : Nat → Int32 → Int32 → Int32 → Int32 → Int32 → Mem → Option (Int32 × Mem)) (hK50 : ∀ (a0 : Nat) (l1 : Int32) (l2 : Int32) (l3 : Int32) (l5 : Int32) (l6 : Int32) (σ : Mem), Runs G mX7_proved rhoI σ 50 [some (vR (some a0)), some (vI l1), some (vI l2), some (vI l3), none, some (vI l5), some (vI l6)] [] (K50 a0 l1 l2 l3 l5 l6 σ)) (a0 : Nat) (l1 : Int32) (l2 : Int32) (l3 : Int32) (l5 : Int32) (l6 : Int32) (σ : Mem) : Runs G mX7_proved rhoI σ 97 [some (vR (some a0)), some (vI l1), some (vI l2), some (vI l3), none, some (vI l5), some (vI l6)] [] (f_X7_proved_b97 N K50 a0 l1 l2 l3 l5 l6 σ) := by
  unfold f_X7_proved_b97
  refine r_iinc (q := 100) (v := (1 : Int32)) dX7_proved_97 rfl rfl (by decide) (Nat.le_of_ble_eq_true rfl) rfl ?_
  refine r_goto (q := 50) dX7_proved_100 (by decide) ?_
  exact r_le (hK50 _ _ _ _ _ _ _) (Nat.le_refl _) (And.intro rfl (And.intro rfl (And.intro rfl (And.intro rfl (And.intro rfl (And.intro rfl trivial))))))
theorem w_X7_proved_b79 (G : Gx) (h0 : G0 G) (N : Nat) (K50 : Nat → Int32 → Int32 → Int32 → Int32 → Int32 → Mem → Option (Int32 × Mem)) (hK50 : ∀ (a0 : Nat) (l1 : Int32) (l2 : Int32) (l3 : Int32) (l5 : Int32) (l6 : Int32) (σ : Mem), Runs G mX7_proved rhoI σ 50 [some (vR (some a0)), some (vI l1), some (vI l2), some (vI l3), none, some (vI l5), some (vI l6)] [] (K50 a0 l1 l2 l3 l5 l6 σ)) (a0 : Nat) (l1 : Int32) (l2 : Int32) (l3 : Int32) (l5 : Int32) (l6 : Int32) (σ : Mem) : Runs G mX7_proved rhoI σ 79 [some (vR (some a0)), some (vI l1), some (vI l2), some (vI l3), none, some (vI l5), some (vI l6)] [] (f_X7_proved_b79 N K50 a0 l1 l2 l3 l5 l6 σ) := by
  unfold f_X7_proved_b79
  refine r_aload_n (q := 80) dX7_proved_79 rfl rfl rfl ?_
  refine r_iload_n (q := 81) dX7_proved_80 rfl rfl rfl ?_
  refine r_iload_n (q := 82) dX7_proved_81 rfl rfl rfl ?_
  refine r_iload (q := 84) dX7_proved_82 rfl rfl ?_
  refine r_ob (fun a3 ha3 => ?_)
  obtain ⟨hea3, hka3⟩ := o_at_eq ha3
  cases hea3
  refine r_callI (q := 87) (c_X7_couldBe G h0 N _ _ _ _ _) (cl_V (ci := 6) rfl rfl (lw_V q2573 q2575 qs143 q176 q2576) (hd_X7_couldBe) ⟨Nat.le_of_ble_eq_true rfl, Nat.le_of_ble_eq_true rfl⟩ (List.mem_singleton.mp hka3) rfl rfl rfl (Nat.le_of_ble_eq_true rfl) dX7_proved_84) rfl (fun x1 σ2 => ?_)
  refine r_iconst (q := 88) (v := (1 : Int32)) dX7_proved_87 rfl (by decide) ?_
  refine r_iload_n (q := 89) dX7_proved_88 rfl rfl rfl ?_
  refine r_ishl (q := 90) dX7_proved_89 rfl ?_
  refine r_icmp_ne (q := 93) (t := 97) dX7_proved_90 rfl (by decide) (fun _ => ?_) (fun _ => ?_)
  · refine r_iload (q := 95) dX7_proved_93 rfl rfl ?_
    refine r_istore (q := 97) dX7_proved_95 rfl (Nat.le_of_ble_eq_true rfl) rfl ?_
    exact r_le (w_X7_proved_b97 G h0 N K50 hK50 _ _ _ _ _ _ _) (Nat.le_refl _) (And.intro rfl (And.intro rfl (And.intro rfl (And.intro rfl (And.intro rfl (And.intro rfl trivial))))))
  · exact r_le (w_X7_proved_b97 G h0 N K50 hK50 _ _ _ _ _ _ _) (Nat.le_refl _) (And.intro rfl (And.intro rfl (And.intro rfl (And.intro rfl (And.intro rfl (And.intro rfl trivial))))))
theorem w_X7_proved_b50B (G : Gx) (h0 : G0 G) (N : Nat)   (K50 : Nat → Int32 → Int32 → Int32 → Int32 → Int32 → Mem → Option (Int32 × Mem)) (hK50 : ∀ (a0 : Nat) (l1 : Int32) (l2 : Int32) (l3 : Int32) (l5 : Int32) (l6 : Int32) (σ : Mem), Runs G mX7_proved rhoI σ 50 [some (vR (some a0)), some (vI l1), some (vI l2), some (vI l3), none, some (vI l5), some (vI l6)] [] (K50 a0 l1 l2 l3 l5 l6 σ)) (a0 : Nat) (l1 : Int32) (l2 : Int32) (l3 : Int32) (l5 : Int32) (l6 : Int32) (σ : Mem) : Runs G mX7_proved rhoI σ 50 [some (vR (some a0)), some (vI l1), some (vI l2), some (vI l3), none, some (vI l5), some (vI l6)] [] (f_X7_proved_b50B N  K50 a0 l1 l2 l3 l5 l6 σ) := by
  unfold f_X7_proved_b50B
  refine r_iload (q := 52) dX7_proved_50 rfl rfl ?_
  refine r_aload_n (q := 53) dX7_proved_52 rfl rfl rfl ?_
  refine r_ob (fun a3 ha3 => ?_)
  obtain ⟨hea3, hka3⟩ := o_at_eq ha3
  cases hea3
  refine r_callI (q := 56) (c_X7_allGoats G h0 N _ _) (cl_V (ci := 6) rfl rfl (lw_V q2553 q2555 qs140 q176 q2556) (hd_X7_allGoats) ⟨Nat.le_of_ble_eq_true rfl, Nat.le_of_ble_eq_true rfl⟩ (List.mem_singleton.mp hka3) rfl rfl rfl (Nat.le_of_ble_eq_true rfl) dX7_proved_53) rfl (fun x1 σ2 => ?_)
  refine r_icmp_gt (q := 59) (t := 103) dX7_proved_56 rfl (by decide) (fun _ => ?_) (fun _ => ?_)
  · refine r_aload_n (q := 104) dX7_proved_103 rfl rfl rfl ?_
    refine r_iload (q := 106) dX7_proved_104 rfl rfl ?_
    refine r_ob (fun a6 ha6 => ?_)
    obtain ⟨hea6, hka6⟩ := o_at_eq ha6
    cases hea6
    refine r_callI (q := 109) (c_X7_good G h0 N _ _ _) (cl_V (ci := 6) rfl rfl (lw_V q2379 q2381 qs118 q176 q2382) (hd_X7_good) ⟨Nat.le_of_ble_eq_true rfl, Nat.le_of_ble_eq_true rfl⟩ (List.mem_singleton.mp hka6) rfl rfl rfl (Nat.le_of_ble_eq_true rfl) dX7_proved_106) rfl (fun x4 σ5 => ?_)
    exact r_ireturn rfl rfl dX7_proved_109
  · refine r_iload (q := 61) dX7_proved_59 rfl rfl ?_
    refine r_bipush (q := 63) (v := (-2 : Int32)) dX7_proved_61 rfl (by decide) ?_
    refine r_icmp_eq (q := 66) (t := 79) dX7_proved_63 rfl (by decide) (fun _ => ?_) (fun _ => ?_)
    · exact r_le (w_X7_proved_b79 G h0 N K50 hK50 _ _ _ _ _ _ _) (Nat.le_refl _) (And.intro rfl (And.intro rfl (And.intro rfl (And.intro rfl (And.intro rfl (And.intro rfl trivial))))))
    · refine r_iload (q := 68) dX7_proved_66 rfl rfl ?_
      refine r_callI (q := 71) (c_X7_bits G h0 N _ _) (cl_S rfl rfl (lw_S q2354 q2355 q176 q2356) (hd_X7_bits) ⟨Nat.le_of_ble_eq_true rfl, Nat.le_of_ble_eq_true rfl⟩ rfl (Nat.le_of_ble_eq_true rfl) dX7_proved_68) rfl (fun x7 σ8 => ?_)
      refine r_iload (q := 73) dX7_proved_71 rfl rfl ?_
      refine r_callI (q := 76) (c_X7_bits G h0 N _ _) (cl_S rfl rfl (lw_S q2354 q2355 q176 q2356) (hd_X7_bits) ⟨Nat.le_of_ble_eq_true rfl, Nat.le_of_ble_eq_true rfl⟩ rfl (Nat.le_of_ble_eq_true rfl) dX7_proved_73) rfl (fun x9 σ10 => ?_)
      refine r_icmp_ge (q := 79) (t := 97) dX7_proved_76 rfl (by decide) (fun _ => ?_) (fun _ => ?_)
      · exact r_le (w_X7_proved_b97 G h0 N K50 hK50 _ _ _ _ _ _ _) (Nat.le_refl _) (And.intro rfl (And.intro rfl (And.intro rfl (And.intro rfl (And.intro rfl (And.intro rfl trivial))))))
      · exact r_le (w_X7_proved_b79 G h0 N K50 hK50 _ _ _ _ _ _ _) (Nat.le_refl _) (And.intro rfl (And.intro rfl (And.intro rfl (And.intro rfl (And.intro rfl (And.intro rfl trivial))))))
theorem w_X7_proved_b50 (G : Gx) (h0 : G0 G) (N : Nat)   : ∀ (z : Nat) (a0 : Nat) (l1 : Int32) (l2 : Int32) (l3 : Int32) (l5 : Int32) (l6 : Int32) (σ : Mem), Runs G mX7_proved rhoI σ 50 [some (vR (some a0)), some (vI l1), some (vI l2), some (vI l3), none, some (vI l5), some (vI l6)] [] (f_X7_proved_b50 N  z a0 l1 l2 l3 l5 l6 σ) := by
  intro z
  induction z with
  | zero => exact fun _ _ _ _ _ _ _ => r_none
  | succ z ih => exact fun a0 l1 l2 l3 l5 l6 σ => w_X7_proved_b50B G h0 N   _ ih a0 l1 l2 l3 l5 l6 σ
theorem c_X7_proved (G : Gx) (h0 : G0 G) (N : Nat) (a0 : Nat) (i1 : Int32) (i2 : Int32) (i3 : Int32) (σ : Mem) : Ct G mX7_proved rhoI [vR (some a0), vI i1, vI i2, vI i3] σ (f_X7_proved N a0 i1 i2 i3 σ) := by
  refine Ct_of h0 (by decide) rfl (Nat.le_of_ble_eq_true rfl) (L0 := [some (vR (some a0)), some (vI i1), some (vI i2), some (vI i3), none, none, none]) rfl ?_
  unfold f_X7_proved
  refine r_aload_n (q := 1) dX7_proved_0 rfl rfl rfl ?_
  refine r_iconst (q := 2) (v := (0 : Int32)) dX7_proved_1 rfl (by decide) ?_
  refine r_pI (q := 5) fp_X7_proved_66 dX7_proved_2 rfl (fun σ1 => ?_)
  refine r_aload_n (q := 6) dX7_proved_5 rfl rfl rfl ?_
  refine r_iload_n (q := 7) dX7_proved_6 rfl rfl rfl ?_
  refine r_ob (fun a4 ha4 => ?_)
  obtain ⟨hea4, hka4⟩ := o_at_eq ha4
  cases hea4
  refine r_callI (q := 10) (c_X7_isPlace G h0 N _ _ _) (cl_V (ci := 6) rfl rfl (lw_V q2395 q2397 qs119 q176 q2398) (hd_X7_isPlace) ⟨Nat.le_of_ble_eq_true rfl, Nat.le_of_ble_eq_true rfl⟩ (List.mem_singleton.mp hka4) rfl rfl rfl (Nat.le_of_ble_eq_true rfl) dX7_proved_7) rfl (fun x2 σ3 => ?_)
  refine r_if_ne (q := 13) (t := 19) dX7_proved_10 rfl (by decide) (fun _ => ?_) (fun _ => ?_)
  · refine r_aload_n (q := 14) dX7_proved_13 rfl rfl rfl ?_
    refine r_iconst (q := 15) (v := (1 : Int32)) dX7_proved_14 rfl (by decide) ?_
    refine r_ob (fun a16 ha16 => ?_)
    obtain ⟨hea16, hka16⟩ := o_at_eq ha16
    cases hea16
    refine r_callI (q := 18) (c_X7_refused G h0 N _ _ _) (cl_V (ci := 6) rfl rfl (lw_V q2019 q2021 qs83 q176 q2022) (hd_X7_refused) ⟨Nat.le_of_ble_eq_true rfl, Nat.le_of_ble_eq_true rfl⟩ (List.mem_singleton.mp hka16) rfl rfl rfl (Nat.le_of_ble_eq_true rfl) dX7_proved_15) rfl (fun x14 σ15 => ?_)
    exact r_ireturn rfl rfl dX7_proved_18
  · refine r_aload_n (q := 20) dX7_proved_19 rfl rfl rfl ?_
    refine r_iload_n (q := 21) dX7_proved_20 rfl rfl rfl ?_
    refine r_iload_n (q := 22) dX7_proved_21 rfl rfl rfl ?_
    refine r_ob (fun a7 ha7 => ?_)
    obtain ⟨hea7, hka7⟩ := o_at_eq ha7
    cases hea7
    refine r_callI (q := 25) (c_X7_refusesPerson G h0 N _ _ _ _) (cl_V (ci := 6) rfl rfl (lw_V q2569 q2571 qs142 q176 q2572) (hd_X7_refusesPerson) ⟨Nat.le_of_ble_eq_true rfl, Nat.le_of_ble_eq_true rfl⟩ (List.mem_singleton.mp hka7) rfl rfl rfl (Nat.le_of_ble_eq_true rfl) dX7_proved_22) rfl (fun x5 σ6 => ?_)
    refine r_istore (q := 27) dX7_proved_25 rfl (Nat.le_of_ble_eq_true rfl) rfl ?_
    refine r_iload (q := 29) dX7_proved_27 rfl rfl ?_
    refine r_if_le (q := 32) (t := 39) dX7_proved_29 rfl (by decide) (fun _ => ?_) (fun _ => ?_)
    · refine r_aload_n (q := 40) dX7_proved_39 rfl rfl rfl ?_
      refine r_ob (fun a10 ha10 => ?_)
      obtain ⟨hea10, hka10⟩ := o_at_eq ha10
      cases hea10
      refine r_callV (q := 43) (c_X7_laysHonest G h0 N _ _) (cl_V (ci := 6) rfl rfl (lw_V q2545 q2547 qs138 q176 q2548) (hd_X7_laysHonest) ⟨Nat.le_of_ble_eq_true rfl, Nat.le_of_ble_eq_true rfl⟩ (List.mem_singleton.mp hka10) rfl rfl rfl (Nat.le_of_ble_eq_true rfl) dX7_proved_40) rfl (fun u8 σ9 => ?_)
      refine r_bipush (q := 45) (v := (-2 : Int32)) dX7_proved_43 rfl (by decide) ?_
      refine r_istore (q := 47) dX7_proved_45 rfl (Nat.le_of_ble_eq_true rfl) rfl ?_
      refine r_iconst (q := 48) (v := (0 : Int32)) dX7_proved_47 rfl (by decide) ?_
      refine r_istore (q := 50) dX7_proved_48 rfl (Nat.le_of_ble_eq_true rfl) rfl ?_
      exact r_le (w_X7_proved_b50 G h0 N N _ _ _ _ _ _ _) (Nat.le_refl _) (And.intro rfl (And.intro rfl (And.intro rfl (And.intro rfl (And.intro rfl (And.intro rfl trivial))))))
    · refine r_aload_n (q := 33) dX7_proved_32 rfl rfl rfl ?_
      refine r_iload (q := 35) dX7_proved_33 rfl rfl ?_
      refine r_ob (fun a13 ha13 => ?_)
      obtain ⟨hea13, hka13⟩ := o_at_eq ha13
      cases hea13
      refine r_callI (q := 38) (c_X7_refused G h0 N _ _ _) (cl_V (ci := 6) rfl rfl (lw_V q2019 q2021 qs83 q176 q2022) (hd_X7_refused) ⟨Nat.le_of_ble_eq_true rfl, Nat.le_of_ble_eq_true rfl⟩ (List.mem_singleton.mp hka13) rfl rfl rfl (Nat.le_of_ble_eq_true rfl) dX7_proved_35) rfl (fun x11 σ12 => ?_)
      exact r_ireturn rfl rfl dX7_proved_38
theorem w_X1_tryAsk_b29B (G : Gx) (h0 : G0 G) (N : Nat)   (K29 : Nat → Int32 → Int32 → Int32 → Int32 → Mem → Option (Unit × Mem)) (hK29 : ∀ (a0 : Nat) (l1 : Int32) (l2 : Int32) (l3 : Int32) (l4 : Int32) (σ : Mem), Runs G mX1_tryAsk rhoV σ 29 [some (vR (some a0)), some (vI l1), some (vI l2), some (vI l3), some (vI l4)] [] (K29 a0 l1 l2 l3 l4 σ)) (a0 : Nat) (l1 : Int32) (l2 : Int32) (l3 : Int32) (l4 : Int32) (σ : Mem) : Runs G mX1_tryAsk rhoV σ 29 [some (vR (some a0)), some (vI l1), some (vI l2), some (vI l3), some (vI l4)] [] (f_X1_tryAsk_b29B N  K29 a0 l1 l2 l3 l4 σ) := by
  unfold f_X1_tryAsk_b29B
  refine r_iload (q := 31) dX1_tryAsk_29 rfl rfl ?_
  refine r_aload_n (q := 32) dX1_tryAsk_31 rfl rfl rfl ?_
  refine r_gI (q := 35) fl_X1_287 dX1_tryAsk_32 rfl (fun x1 => ?_)
  refine r_icmp_ge (q := 38) (t := 92) dX1_tryAsk_35 rfl (by decide) (fun _ => ?_) (fun _ => ?_)
  · refine r_iload_n (q := 93) dX1_tryAsk_92 rfl rfl rfl ?_
    refine r_aload_n (q := 94) dX1_tryAsk_93 rfl rfl rfl ?_
    refine r_gI (q := 97) fl_X1_311 dX1_tryAsk_94 rfl (fun x2 => ?_)
    refine r_icmp_lt (q := 100) (t := 101) dX1_tryAsk_97 rfl (by decide) (fun _ => ?_) (fun _ => ?_)
    · refine r_aload_n (q := 102) dX1_tryAsk_101 rfl rfl rfl ?_
      refine r_bipush (q := 104) (v := (100 : Int32)) dX1_tryAsk_102 rfl (by decide) ?_
      refine r_iload_n (q := 105) dX1_tryAsk_104 rfl rfl rfl ?_
      refine r_imul (q := 106) dX1_tryAsk_105 rfl ?_
      refine r_iload_n (q := 107) dX1_tryAsk_106 rfl rfl rfl ?_
      refine r_iadd (q := 108) dX1_tryAsk_107 rfl ?_
      refine r_pI (q := 111) fp_X1_tryAsk_323 dX1_tryAsk_108 rfl (fun σ3 => ?_)
      refine r_aload_n (q := 112) dX1_tryAsk_111 rfl rfl rfl ?_
      refine r_iload_n (q := 113) dX1_tryAsk_112 rfl rfl rfl ?_
      refine r_pI (q := 116) fp_X1_tryAsk_311 dX1_tryAsk_113 rfl (fun σ4 => ?_)
      exact r_return rfl dX1_tryAsk_116
    · exact r_return rfl dX1_tryAsk_100
  · refine r_aload_n (q := 39) dX1_tryAsk_38 rfl rfl rfl ?_
    refine r_aload_n (q := 40) dX1_tryAsk_39 rfl rfl rfl ?_
    refine r_gR (q := 43) fl_X1_68 rfl dX1_tryAsk_40 rfl (fun x5 => ?_)
    refine r_iload (q := 45) dX1_tryAsk_43 rfl rfl ?_
    refine r_iaload (q := 46) dX1_tryAsk_45 rfl (fun x6 => ?_)
    refine r_ob (fun a9 ha9 => ?_)
    obtain ⟨hea9, hka9⟩ := o_at_eq ha9
    cases hea9
    refine r_callV (q := 49) (c_X1_run G h0 N _ _ _) (cl_V (ci := 0) rfl rfl (lw_V q1428 q1430 qs51 q167 q1431) (hd_X1_run) ⟨Nat.le_of_ble_eq_true rfl, Nat.le_of_ble_eq_true rfl⟩ (List.mem_singleton.mp hka9) rfl rfl rfl (Nat.le_of_ble_eq_true rfl) dX1_tryAsk_46) rfl (fun u7 σ8 => ?_)
    refine r_aload_n (q := 50) dX1_tryAsk_49 rfl rfl rfl ?_
    refine r_gR (q := 53) fl_X1_71 rfl dX1_tryAsk_50 rfl (fun x10 => ?_)
    refine r_aload_n (q := 54) dX1_tryAsk_53 rfl rfl rfl ?_
    refine r_gR (q := 57) fl_X1_46 rfl dX1_tryAsk_54 rfl (fun x11 => ?_)
    refine r_iload_n (q := 58) dX1_tryAsk_57 rfl rfl rfl ?_
    refine r_iload_n (q := 59) dX1_tryAsk_58 rfl rfl rfl ?_
    refine r_ob (fun a14 ha14 => ?_)
    obtain ⟨hea14, hka14⟩ := o_at_eq ha14
    cases hea14
    refine r_callI (q := 62) (c_X5_at G h0 N _ _ _ _) (cl_V (ci := 4) rfl rfl (lw_V q1512 q1513 q1514 q174 q1515) (hd_X5_at) ⟨Nat.le_of_ble_eq_true rfl, Nat.le_of_ble_eq_true rfl⟩ (List.mem_singleton.mp hka14) rfl rfl rfl (Nat.le_of_ble_eq_true rfl) dX1_tryAsk_59) rfl (fun x12 σ13 => ?_)
    refine r_dup2 (q := 63) dX1_tryAsk_62 rfl rfl rfl ?_
    refine r_iaload (q := 64) dX1_tryAsk_63 rfl (fun x15 => ?_)
    refine r_iconst (q := 65) (v := (1 : Int32)) dX1_tryAsk_64 rfl (by decide) ?_
    refine r_iadd (q := 66) dX1_tryAsk_65 rfl ?_
    refine r_iastore (q := 67) dX1_tryAsk_66 rfl (fun σ16 => ?_)
    refine r_iload_n (q := 68) dX1_tryAsk_67 rfl rfl rfl ?_
    refine r_aload_n (q := 69) dX1_tryAsk_68 rfl rfl rfl ?_
    refine r_gR (q := 72) fl_X1_71 rfl dX1_tryAsk_69 rfl (fun x17 => ?_)
    refine r_aload_n (q := 73) dX1_tryAsk_72 rfl rfl rfl ?_
    refine r_gR (q := 76) fl_X1_46 rfl dX1_tryAsk_73 rfl (fun x18 => ?_)
    refine r_iload_n (q := 77) dX1_tryAsk_76 rfl rfl rfl ?_
    refine r_iload_n (q := 78) dX1_tryAsk_77 rfl rfl rfl ?_
    refine r_ob (fun a21 ha21 => ?_)
    obtain ⟨hea21, hka21⟩ := o_at_eq ha21
    cases hea21
    refine r_callI (q := 81) (c_X5_at G h0 N _ _ _ _) (cl_V (ci := 4) rfl rfl (lw_V q1512 q1513 q1514 q174 q1515) (hd_X5_at) ⟨Nat.le_of_ble_eq_true rfl, Nat.le_of_ble_eq_true rfl⟩ (List.mem_singleton.mp hka21) rfl rfl rfl (Nat.le_of_ble_eq_true rfl) dX1_tryAsk_78) rfl (fun x19 σ20 => ?_)
    refine r_iaload (q := 82) dX1_tryAsk_81 rfl (fun x22 => ?_)
    refine r_mmax (q := 85) q1660 q1301 q198 q1302 (Nat.le_of_ble_eq_true rfl) (Nat.le_of_ble_eq_true rfl) dX1_tryAsk_82 rfl ?_
    refine r_istore_n (q := 86) dX1_tryAsk_85 rfl rfl (Nat.le_of_ble_eq_true rfl) rfl ?_
    refine r_iinc (q := 89) (v := (1 : Int32)) dX1_tryAsk_86 rfl rfl (by decide) (Nat.le_of_ble_eq_true rfl) rfl ?_
    refine r_goto (q := 29) dX1_tryAsk_89 (by decide) ?_
    exact r_le (hK29 _ _ _ _ _ _) (Nat.le_refl _) (And.intro rfl (And.intro rfl (And.intro rfl (And.intro rfl (And.intro rfl trivial)))))
theorem w_X1_tryAsk_b29 (G : Gx) (h0 : G0 G) (N : Nat)   : ∀ (z : Nat) (a0 : Nat) (l1 : Int32) (l2 : Int32) (l3 : Int32) (l4 : Int32) (σ : Mem), Runs G mX1_tryAsk rhoV σ 29 [some (vR (some a0)), some (vI l1), some (vI l2), some (vI l3), some (vI l4)] [] (f_X1_tryAsk_b29 N  z a0 l1 l2 l3 l4 σ) := by
  intro z
  induction z with
  | zero => exact fun _ _ _ _ _ _ => r_none
  | succ z ih => exact fun a0 l1 l2 l3 l4 σ => w_X1_tryAsk_b29B G h0 N   _ ih a0 l1 l2 l3 l4 σ
theorem w_X1_tryAsk_b5B (G : Gx) (h0 : G0 G) (N : Nat)   (K5 : Nat → Int32 → Int32 → Int32 → Int32 → Mem → Option (Unit × Mem)) (hK5 : ∀ (a0 : Nat) (l1 : Int32) (l2 : Int32) (l3 : Int32) (l4 : Int32) (σ : Mem), Runs G mX1_tryAsk rhoV σ 5 [some (vR (some a0)), some (vI l1), some (vI l2), some (vI l3), some (vI l4)] [] (K5 a0 l1 l2 l3 l4 σ)) (a0 : Nat) (l1 : Int32) (l2 : Int32) (l3 : Int32) (l4 : Int32) (σ : Mem) : Runs G mX1_tryAsk rhoV σ 5 [some (vR (some a0)), some (vI l1), some (vI l2), some (vI l3), some (vI l4)] [] (f_X1_tryAsk_b5B N  K5 a0 l1 l2 l3 l4 σ) := by
  unfold f_X1_tryAsk_b5B
  refine r_iload (q := 7) dX1_tryAsk_5 rfl rfl ?_
  refine r_bipush (q := 9) (v := (8 : Int32)) dX1_tryAsk_7 rfl (by decide) ?_
  refine r_icmp_ge (q := 12) (t := 26) dX1_tryAsk_9 rfl (by decide) (fun _ => ?_) (fun _ => ?_)
  · refine r_iconst (q := 27) (v := (0 : Int32)) dX1_tryAsk_26 rfl (by decide) ?_
    refine r_istore (q := 29) dX1_tryAsk_27 rfl (Nat.le_of_ble_eq_true rfl) rfl ?_
    exact r_le (w_X1_tryAsk_b29 G h0 N N _ _ _ _ _ _) (Nat.le_refl _) (And.intro rfl (And.intro rfl (And.intro rfl (And.intro rfl (And.intro rfl trivial)))))
  · refine r_aload_n (q := 13) dX1_tryAsk_12 rfl rfl rfl ?_
    refine r_gR (q := 16) fl_X1_71 rfl dX1_tryAsk_13 rfl (fun x1 => ?_)
    refine r_iload (q := 18) dX1_tryAsk_16 rfl rfl ?_
    refine r_iconst (q := 19) (v := (0 : Int32)) dX1_tryAsk_18 rfl (by decide) ?_
    refine r_iastore (q := 20) dX1_tryAsk_19 rfl (fun σ2 => ?_)
    refine r_iinc (q := 23) (v := (1 : Int32)) dX1_tryAsk_20 rfl rfl (by decide) (Nat.le_of_ble_eq_true rfl) rfl ?_
    refine r_goto (q := 5) dX1_tryAsk_23 (by decide) ?_
    exact r_le (hK5 _ _ _ _ _ _) (Nat.le_refl _) (And.intro rfl (And.intro rfl (And.intro rfl (And.intro rfl (And.intro rfl trivial)))))
theorem w_X1_tryAsk_b5 (G : Gx) (h0 : G0 G) (N : Nat)   : ∀ (z : Nat) (a0 : Nat) (l1 : Int32) (l2 : Int32) (l3 : Int32) (l4 : Int32) (σ : Mem), Runs G mX1_tryAsk rhoV σ 5 [some (vR (some a0)), some (vI l1), some (vI l2), some (vI l3), some (vI l4)] [] (f_X1_tryAsk_b5 N  z a0 l1 l2 l3 l4 σ) := by
  intro z
  induction z with
  | zero => exact fun _ _ _ _ _ _ => r_none
  | succ z ih => exact fun a0 l1 l2 l3 l4 σ => w_X1_tryAsk_b5B G h0 N   _ ih a0 l1 l2 l3 l4 σ
theorem c_X1_tryAsk (G : Gx) (h0 : G0 G) (N : Nat) (a0 : Nat) (i1 : Int32) (i2 : Int32) (σ : Mem) : Ct G mX1_tryAsk rhoV [vR (some a0), vI i1, vI i2] σ (f_X1_tryAsk N a0 i1 i2 σ) := by
  refine Ct_of h0 (by decide) rfl (Nat.le_of_ble_eq_true rfl) (L0 := [some (vR (some a0)), some (vI i1), some (vI i2), none, none]) rfl ?_
  unfold f_X1_tryAsk
  refine r_iconst (q := 1) (v := (0 : Int32)) dX1_tryAsk_0 rfl (by decide) ?_
  refine r_istore_n (q := 2) dX1_tryAsk_1 rfl rfl (Nat.le_of_ble_eq_true rfl) rfl ?_
  refine r_iconst (q := 3) (v := (0 : Int32)) dX1_tryAsk_2 rfl (by decide) ?_
  refine r_istore (q := 5) dX1_tryAsk_3 rfl (Nat.le_of_ble_eq_true rfl) rfl ?_
  exact r_le (w_X1_tryAsk_b5 G h0 N N _ _ _ _ _ _) (Nat.le_refl _) (And.intro rfl (And.intro rfl (And.intro rfl (And.intro rfl (And.intro rfl trivial)))))
theorem w_X1_askWhy_b59B (G : Gx) (h0 : G0 G) (N : Nat) (K46 : Nat → Int32 → Mem → Option (Int32 × Mem)) (hK46 : ∀ (a0 : Nat) (l1 : Int32) (σ : Mem), Runs G mX1_askWhy rhoI σ 46 [some (vR (some a0)), some (vI l1), none] [] (K46 a0 l1 σ)) (K59 : Nat → Int32 → Int32 → Mem → Option (Int32 × Mem)) (hK59 : ∀ (a0 : Nat) (l1 : Int32) (l2 : Int32) (σ : Mem), Runs G mX1_askWhy rhoI σ 59 [some (vR (some a0)), some (vI l1), some (vI l2)] [] (K59 a0 l1 l2 σ)) (a0 : Nat) (l1 : Int32) (l2 : Int32) (σ : Mem) : Runs G mX1_askWhy rhoI σ 59 [some (vR (some a0)), some (vI l1), some (vI l2)] [] (f_X1_askWhy_b59B N K46 K59 a0 l1 l2 σ) := by
  unfold f_X1_askWhy_b59B
  refine r_iload_n (q := 60) dX1_askWhy_59 rfl rfl rfl ?_
  refine r_aload_n (q := 61) dX1_askWhy_60 rfl rfl rfl ?_
  refine r_gR (q := 64) fl_X1_104 rfl dX1_askWhy_61 rfl (fun x1 => ?_)
  refine r_gI (q := 67) fl_X1_148 dX1_askWhy_64 rfl (fun x2 => ?_)
  refine r_icmp_ge (q := 70) (t := 82) dX1_askWhy_67 rfl (by decide) (fun _ => ?_) (fun _ => ?_)
  · refine r_iinc (q := 85) (v := (1 : Int32)) dX1_askWhy_82 rfl rfl (by decide) (Nat.le_of_ble_eq_true rfl) rfl ?_
    refine r_goto (q := 46) dX1_askWhy_85 (by decide) ?_
    exact r_le (hK46 _ _ _) (Nat.le_refl _) (And.intro rfl (And.intro rfl trivial))
  · refine r_aload_n (q := 71) dX1_askWhy_70 rfl rfl rfl ?_
    refine r_iload_n (q := 72) dX1_askWhy_71 rfl rfl rfl ?_
    refine r_iload_n (q := 73) dX1_askWhy_72 rfl rfl rfl ?_
    refine r_ob (fun a5 ha5 => ?_)
    obtain ⟨hea5, hka5⟩ := o_at_eq ha5
    cases hea5
    refine r_callV (q := 76) (c_X1_tryAsk G h0 N _ _ _ _) (cl_V (ci := 0) rfl rfl (lw_V q1656 q1658 qs67 q167 q1659) (hd_X1_tryAsk) ⟨Nat.le_of_ble_eq_true rfl, Nat.le_of_ble_eq_true rfl⟩ (List.mem_singleton.mp hka5) rfl rfl rfl (Nat.le_of_ble_eq_true rfl) dX1_askWhy_73) rfl (fun u3 σ4 => ?_)
    refine r_iinc (q := 79) (v := (1 : Int32)) dX1_askWhy_76 rfl rfl (by decide) (Nat.le_of_ble_eq_true rfl) rfl ?_
    refine r_goto (q := 59) dX1_askWhy_79 (by decide) ?_
    exact r_le (hK59 _ _ _ _) (Nat.le_refl _) (And.intro rfl (And.intro rfl (And.intro rfl trivial)))
theorem w_X1_askWhy_b59 (G : Gx) (h0 : G0 G) (N : Nat) (K46 : Nat → Int32 → Mem → Option (Int32 × Mem)) (hK46 : ∀ (a0 : Nat) (l1 : Int32) (σ : Mem), Runs G mX1_askWhy rhoI σ 46 [some (vR (some a0)), some (vI l1), none] [] (K46 a0 l1 σ)) : ∀ (z : Nat) (a0 : Nat) (l1 : Int32) (l2 : Int32) (σ : Mem), Runs G mX1_askWhy rhoI σ 59 [some (vR (some a0)), some (vI l1), some (vI l2)] [] (f_X1_askWhy_b59 N K46 z a0 l1 l2 σ) := by
  intro z
  induction z with
  | zero => exact fun _ _ _ _ => r_none
  | succ z ih => exact fun a0 l1 l2 σ => w_X1_askWhy_b59B G h0 N K46 hK46 _ ih a0 l1 l2 σ
theorem w_X1_askWhy_b46B (G : Gx) (h0 : G0 G) (N : Nat)   (K46 : Nat → Int32 → Mem → Option (Int32 × Mem)) (hK46 : ∀ (a0 : Nat) (l1 : Int32) (σ : Mem), Runs G mX1_askWhy rhoI σ 46 [some (vR (some a0)), some (vI l1), none] [] (K46 a0 l1 σ)) (a0 : Nat) (l1 : Int32) (σ : Mem) : Runs G mX1_askWhy rhoI σ 46 [some (vR (some a0)), some (vI l1), none] [] (f_X1_askWhy_b46B N  K46 a0 l1 σ) := by
  unfold f_X1_askWhy_b46B
  refine r_iload_n (q := 47) dX1_askWhy_46 rfl rfl rfl ?_
  refine r_aload_n (q := 48) dX1_askWhy_47 rfl rfl rfl ?_
  refine r_gR (q := 51) fl_X1_104 rfl dX1_askWhy_48 rfl (fun x1 => ?_)
  refine r_gI (q := 54) fl_X1_139 dX1_askWhy_51 rfl (fun x2 => ?_)
  refine r_icmp_ge (q := 57) (t := 88) dX1_askWhy_54 rfl (by decide) (fun _ => ?_) (fun _ => ?_)
  · refine r_iconst (q := 89) (v := (0 : Int32)) dX1_askWhy_88 rfl (by decide) ?_
    exact r_ireturn rfl rfl dX1_askWhy_89
  · refine r_iconst (q := 58) (v := (0 : Int32)) dX1_askWhy_57 rfl (by decide) ?_
    refine r_istore_n (q := 59) dX1_askWhy_58 rfl rfl (Nat.le_of_ble_eq_true rfl) rfl ?_
    exact r_le (w_X1_askWhy_b59 G h0 N K46 hK46 N _ _ _ _) (Nat.le_refl _) (And.intro rfl (And.intro rfl (And.intro rfl trivial)))
theorem w_X1_askWhy_b46 (G : Gx) (h0 : G0 G) (N : Nat)   : ∀ (z : Nat) (a0 : Nat) (l1 : Int32) (σ : Mem), Runs G mX1_askWhy rhoI σ 46 [some (vR (some a0)), some (vI l1), none] [] (f_X1_askWhy_b46 N  z a0 l1 σ) := by
  intro z
  induction z with
  | zero => exact fun _ _ _ => r_none
  | succ z ih => exact fun a0 l1 σ => w_X1_askWhy_b46B G h0 N   _ ih a0 l1 σ
theorem c_X1_askWhy (G : Gx) (h0 : G0 G) (N : Nat) (a0 : Nat) (σ : Mem) : Ct G mX1_askWhy rhoI [vR (some a0)] σ (f_X1_askWhy N a0 σ) := by
  refine Ct_of h0 (by decide) rfl (Nat.le_of_ble_eq_true rfl) (L0 := [some (vR (some a0)), none, none]) rfl ?_
  unfold f_X1_askWhy
  refine r_aload_n (q := 1) dX1_askWhy_0 rfl rfl rfl ?_
  refine r_gR (q := 4) fl_X1_104 rfl dX1_askWhy_1 rfl (fun x1 => ?_)
  refine r_ifnonnull (q := 7) (t := 9) dX1_askWhy_4 rfl (by decide) (fun _ => ?_) (fun _ => ?_)
  · refine r_iconst (q := 8) (v := (1 : Int32)) dX1_askWhy_7 rfl (by decide) ?_
    exact r_ireturn rfl rfl dX1_askWhy_8
  · refine r_aload_n (q := 10) dX1_askWhy_9 rfl rfl rfl ?_
    refine r_ob (fun a4 ha4 => ?_)
    obtain ⟨hea4, hka4⟩ := o_at_eq ha4
    cases hea4
    refine r_callV (q := 13) (c_X1_layHeard G h0 N _ _) (cl_V (ci := 0) rfl rfl (lw_V q1576 q1578 qs60 q167 q1579) (hd_X1_layHeard) ⟨Nat.le_of_ble_eq_true rfl, Nat.le_of_ble_eq_true rfl⟩ (List.mem_singleton.mp hka4) rfl rfl rfl (Nat.le_of_ble_eq_true rfl) dX1_askWhy_10) rfl (fun u2 σ3 => ?_)
    refine r_aload_n (q := 14) dX1_askWhy_13 rfl rfl rfl ?_
    refine r_gI (q := 17) fl_X1_287 dX1_askWhy_14 rfl (fun x5 => ?_)
    refine r_iconst (q := 18) (v := (2 : Int32)) dX1_askWhy_17 rfl (by decide) ?_
    refine r_icmp_lt (q := 21) (t := 31) dX1_askWhy_18 rfl (by decide) (fun _ => ?_) (fun _ => ?_)
    · refine r_bipush (q := 33) (v := (6 : Int32)) dX1_askWhy_31 rfl (by decide) ?_
      exact r_ireturn rfl rfl dX1_askWhy_33
    · refine r_aload_n (q := 22) dX1_askWhy_21 rfl rfl rfl ?_
      refine r_gR (q := 25) fl_X1_104 rfl dX1_askWhy_22 rfl (fun x6 => ?_)
      refine r_gI (q := 28) fl_X1_139 dX1_askWhy_25 rfl (fun x7 => ?_)
      refine r_if_ne (q := 31) (t := 34) dX1_askWhy_28 rfl (by decide) (fun _ => ?_) (fun _ => ?_)
      · refine r_bipush (q := 33) (v := (6 : Int32)) dX1_askWhy_31 rfl (by decide) ?_
        exact r_ireturn rfl rfl dX1_askWhy_33
      · refine r_aload_n (q := 35) dX1_askWhy_34 rfl rfl rfl ?_
        refine r_aload_n (q := 36) dX1_askWhy_35 rfl rfl rfl ?_
        refine r_gI (q := 39) fl_X1_287 dX1_askWhy_36 rfl (fun x8 => ?_)
        refine r_iconst (q := 40) (v := (1 : Int32)) dX1_askWhy_39 rfl (by decide) ?_
        refine r_iadd (q := 41) dX1_askWhy_40 rfl ?_
        refine r_pI (q := 44) fp_X1_askWhy_311 dX1_askWhy_41 rfl (fun σ9 => ?_)
        refine r_iconst (q := 45) (v := (0 : Int32)) dX1_askWhy_44 rfl (by decide) ?_
        refine r_istore_n (q := 46) dX1_askWhy_45 rfl rfl (Nat.le_of_ble_eq_true rfl) rfl ?_
        exact r_le (w_X1_askWhy_b46 G h0 N N _ _ _) (Nat.le_refl _) (And.intro rfl (And.intro rfl trivial))
theorem c_X1_ask (G : Gx) (h0 : G0 G) (N : Nat) (a0 : Nat) (σ : Mem) : Ct G mX1_ask rhoI [vR (some a0)] σ (f_X1_ask N a0 σ) := by
  refine Ct_of h0 (by decide) rfl (Nat.le_of_ble_eq_true rfl) (L0 := [some (vR (some a0)), none]) rfl ?_
  unfold f_X1_ask
  refine r_aload_n (q := 1) dX1_ask_0 rfl rfl rfl ?_
  refine r_ob (fun a3 ha3 => ?_)
  obtain ⟨hea3, hka3⟩ := o_at_eq ha3
  cases hea3
  refine r_callV (q := 4) (c_X1_anew G h0 N _ _) (cl_V (ci := 0) rfl rfl (lw_V q485 q487 qs2 q167 q488) (hd_X1_anew) ⟨Nat.le_of_ble_eq_true rfl, Nat.le_of_ble_eq_true rfl⟩ (List.mem_singleton.mp hka3) rfl rfl rfl (Nat.le_of_ble_eq_true rfl) dX1_ask_1) rfl (fun u1 σ2 => ?_)
  refine r_aload_n (q := 5) dX1_ask_4 rfl rfl rfl ?_
  refine r_ob (fun a6 ha6 => ?_)
  obtain ⟨hea6, hka6⟩ := o_at_eq ha6
  cases hea6
  refine r_callI (q := 8) (c_X1_askWhy G h0 N _ _) (cl_V (ci := 0) rfl rfl (lw_V q1652 q1654 qs66 q167 q1655) (hd_X1_askWhy) ⟨Nat.le_of_ble_eq_true rfl, Nat.le_of_ble_eq_true rfl⟩ (List.mem_singleton.mp hka6) rfl rfl rfl (Nat.le_of_ble_eq_true rfl) dX1_ask_5) rfl (fun x4 σ5 => ?_)
  refine r_istore_n (q := 9) dX1_ask_8 rfl rfl (Nat.le_of_ble_eq_true rfl) rfl ?_
  refine r_iload_n (q := 10) dX1_ask_9 rfl rfl rfl ?_
  refine r_if_eq (q := 13) (t := 21) dX1_ask_10 rfl (by decide) (fun _ => ?_) (fun _ => ?_)
  · refine r_aload_n (q := 22) dX1_ask_21 rfl rfl rfl ?_
    refine r_gI (q := 25) fl_X1_323 dX1_ask_22 rfl (fun x7 => ?_)
    exact r_ireturn rfl rfl dX1_ask_25
  · refine r_aload_n (q := 14) dX1_ask_13 rfl rfl rfl ?_
    refine r_iload_n (q := 15) dX1_ask_14 rfl rfl rfl ?_
    refine r_ob (fun a10 ha10 => ?_)
    obtain ⟨hea10, hka10⟩ := o_at_eq ha10
    cases hea10
    refine r_callI (q := 18) (c_X1_no G h0 N _ _ _) (cl_V (ci := 0) rfl rfl (lw_V q492 q494 qs3 q167 q495) (hd_X1_no) ⟨Nat.le_of_ble_eq_true rfl, Nat.le_of_ble_eq_true rfl⟩ (List.mem_singleton.mp hka10) rfl rfl rfl (Nat.le_of_ble_eq_true rfl) dX1_ask_15) rfl (fun x8 σ9 => ?_)
    refine r_goto (q := 25) dX1_ask_18 (by decide) ?_
    exact r_ireturn rfl rfl dX1_ask_25
theorem w_X7_asks_b270 (G : Gx) (h0 : G0 G) (N : Nat) (K117 : Nat → Int32 → Int32 → Mem → Option (Int32 × Mem)) (K130 : Nat → Int32 → Int32 → Int32 → Mem → Option (Int32 × Mem)) (hK117 : ∀ (a0 : Nat) (l1 : Int32) (l2 : Int32) (σ : Mem), Runs G mX7_asks rhoI σ 117 [some (vR (some a0)), some (vI l1), some (vI l2), none, none, none, none] [] (K117 a0 l1 l2 σ)) (hK130 : ∀ (a0 : Nat) (l1 : Int32) (l2 : Int32) (l3 : Int32) (σ : Mem), Runs G mX7_asks rhoI σ 130 [some (vR (some a0)), some (vI l1), some (vI l2), some (vI l3), none, none, none] [] (K130 a0 l1 l2 l3 σ)) (a0 : Nat) (l1 : Int32) (l2 : Int32) (l3 : Int32) (σ : Mem) : Runs G mX7_asks rhoI σ 270 [some (vR (some a0)), some (vI l1), some (vI l2), some (vI l3), none, none, none] [] (f_X7_asks_b270 N K117 K130 a0 l1 l2 l3 σ) := by
  unfold f_X7_asks_b270
  refine r_iinc (q := 273) (v := (1 : Int32)) dX7_asks_270 rfl rfl (by decide) (Nat.le_of_ble_eq_true rfl) rfl ?_
  refine r_goto (q := 130) dX7_asks_273 (by decide) ?_
  exact r_le (hK130 _ _ _ _ _) (Nat.le_refl _) (And.intro rfl (And.intro rfl (And.intro rfl (And.intro rfl trivial))))
theorem w_X7_asks_b234 (G : Gx) (h0 : G0 G) (N : Nat) (K117 : Nat → Int32 → Int32 → Mem → Option (Int32 × Mem)) (K130 : Nat → Int32 → Int32 → Int32 → Mem → Option (Int32 × Mem)) (K171 : Nat → Int32 → Int32 → Int32 → Int32 → Int32 → Mem → Option (Int32 × Mem)) (hK117 : ∀ (a0 : Nat) (l1 : Int32) (l2 : Int32) (σ : Mem), Runs G mX7_asks rhoI σ 117 [some (vR (some a0)), some (vI l1), some (vI l2), none, none, none, none] [] (K117 a0 l1 l2 σ)) (hK130 : ∀ (a0 : Nat) (l1 : Int32) (l2 : Int32) (l3 : Int32) (σ : Mem), Runs G mX7_asks rhoI σ 130 [some (vR (some a0)), some (vI l1), some (vI l2), some (vI l3), none, none, none] [] (K130 a0 l1 l2 l3 σ)) (hK171 : ∀ (a0 : Nat) (l1 : Int32) (l2 : Int32) (l3 : Int32) (l4 : Int32) (l5 : Int32) (σ : Mem), Runs G mX7_asks rhoI σ 171 [some (vR (some a0)), some (vI l1), some (vI l2), some (vI l3), some (vI l4), some (vI l5), none] [] (K171 a0 l1 l2 l3 l4 l5 σ)) (a0 : Nat) (l1 : Int32) (l2 : Int32) (l3 : Int32) (l5 : Int32) (t0 : Int32) (σ : Mem) : Runs G mX7_asks rhoI σ 234 [some (vR (some a0)), some (vI l1), some (vI l2), some (vI l3), none, some (vI l5), none] [vI t0] (f_X7_asks_b234 N K117 K130 K171 a0 l1 l2 l3 l5 t0 σ) := by
  unfold f_X7_asks_b234
  refine r_istore (q := 236) dX7_asks_234 rfl (Nat.le_of_ble_eq_true rfl) rfl ?_
  refine r_iinc (q := 239) (v := (1 : Int32)) dX7_asks_236 rfl rfl (by decide) (Nat.le_of_ble_eq_true rfl) rfl ?_
  refine r_goto (q := 171) dX7_asks_239 (by decide) ?_
  exact r_le (hK171 _ _ _ _ _ _ _) (Nat.le_refl _) (And.intro rfl (And.intro rfl (And.intro rfl (And.intro rfl (And.intro rfl (And.intro rfl trivial))))))
theorem w_X7_asks_b171B (G : Gx) (h0 : G0 G) (N : Nat) (K117 : Nat → Int32 → Int32 → Mem → Option (Int32 × Mem)) (K130 : Nat → Int32 → Int32 → Int32 → Mem → Option (Int32 × Mem)) (hK117 : ∀ (a0 : Nat) (l1 : Int32) (l2 : Int32) (σ : Mem), Runs G mX7_asks rhoI σ 117 [some (vR (some a0)), some (vI l1), some (vI l2), none, none, none, none] [] (K117 a0 l1 l2 σ)) (hK130 : ∀ (a0 : Nat) (l1 : Int32) (l2 : Int32) (l3 : Int32) (σ : Mem), Runs G mX7_asks rhoI σ 130 [some (vR (some a0)), some (vI l1), some (vI l2), some (vI l3), none, none, none] [] (K130 a0 l1 l2 l3 σ)) (K171 : Nat → Int32 → Int32 → Int32 → Int32 → Int32 → Mem → Option (Int32 × Mem)) (hK171 : ∀ (a0 : Nat) (l1 : Int32) (l2 : Int32) (l3 : Int32) (l4 : Int32) (l5 : Int32) (σ : Mem), Runs G mX7_asks rhoI σ 171 [some (vR (some a0)), some (vI l1), some (vI l2), some (vI l3), some (vI l4), some (vI l5), none] [] (K171 a0 l1 l2 l3 l4 l5 σ)) (a0 : Nat) (l1 : Int32) (l2 : Int32) (l3 : Int32) (l4 : Int32) (l5 : Int32) (σ : Mem) : Runs G mX7_asks rhoI σ 171 [some (vR (some a0)), some (vI l1), some (vI l2), some (vI l3), some (vI l4), some (vI l5), none] [] (f_X7_asks_b171B N K117 K130 K171 a0 l1 l2 l3 l4 l5 σ) := by
  unfold f_X7_asks_b171B
  refine r_iload (q := 173) dX7_asks_171 rfl rfl ?_
  refine r_iload_n (q := 174) dX7_asks_173 rfl rfl rfl ?_
  refine r_icmp_ge (q := 177) (t := 242) dX7_asks_174 rfl (by decide) (fun _ => ?_) (fun _ => ?_)
  · refine r_iload (q := 244) dX7_asks_242 rfl rfl ?_
    refine r_aload_n (q := 245) dX7_asks_244 rfl rfl rfl ?_
    refine r_gI (q := 248) fl_X7_544 dX7_asks_245 rfl (fun x1 => ?_)
    refine r_icmp_lt (q := 251) (t := 254) dX7_asks_248 rfl (by decide) (fun _ => ?_) (fun _ => ?_)
    · refine r_aload_n (q := 255) dX7_asks_254 rfl rfl rfl ?_
      refine r_iload (q := 257) dX7_asks_255 rfl rfl ?_
      refine r_pI (q := 260) fp_X7_asks_544 dX7_asks_257 rfl (fun σ2 => ?_)
      refine r_aload_n (q := 261) dX7_asks_260 rfl rfl rfl ?_
      refine r_bipush (q := 263) (v := (100 : Int32)) dX7_asks_261 rfl (by decide) ?_
      refine r_iload_n (q := 264) dX7_asks_263 rfl rfl rfl ?_
      refine r_imul (q := 265) dX7_asks_264 rfl ?_
      refine r_iload_n (q := 266) dX7_asks_265 rfl rfl rfl ?_
      refine r_iadd (q := 267) dX7_asks_266 rfl ?_
      refine r_pI (q := 270) fp_X7_asks_547 dX7_asks_267 rfl (fun σ3 => ?_)
      exact r_le (w_X7_asks_b270 G h0 N K117 K130 hK117 hK130 _ _ _ _ _) (Nat.le_refl _) (And.intro rfl (And.intro rfl (And.intro rfl (And.intro rfl trivial))))
    · refine r_goto (q := 270) dX7_asks_251 (by decide) ?_
      exact r_le (w_X7_asks_b270 G h0 N K117 K130 hK117 hK130 _ _ _ _ _) (Nat.le_refl _) (And.intro rfl (And.intro rfl (And.intro rfl (And.intro rfl trivial))))
  · refine r_aload_n (q := 178) dX7_asks_177 rfl rfl rfl ?_
    refine r_gR (q := 181) fl_X7_54 rfl dX7_asks_178 rfl (fun x4 => ?_)
    refine r_iload (q := 183) dX7_asks_181 rfl rfl ?_
    refine r_bipush (q := 185) (v := (6 : Int32)) dX7_asks_183 rfl (by decide) ?_
    refine r_imul (q := 186) dX7_asks_185 rfl ?_
    refine r_bipush (q := 188) (v := (12 : Int32)) dX7_asks_186 rfl (by decide) ?_
    refine r_imul (q := 189) dX7_asks_188 rfl ?_
    refine r_bipush (q := 191) (v := (12 : Int32)) dX7_asks_189 rfl (by decide) ?_
    refine r_iload_n (q := 192) dX7_asks_191 rfl rfl rfl ?_
    refine r_imul (q := 193) dX7_asks_192 rfl ?_
    refine r_iadd (q := 194) dX7_asks_193 rfl ?_
    refine r_iload_n (q := 195) dX7_asks_194 rfl rfl rfl ?_
    refine r_iadd (q := 196) dX7_asks_195 rfl ?_
    refine r_iaload (q := 197) dX7_asks_196 rfl (fun x5 => ?_)
    refine r_istore (q := 199) dX7_asks_197 rfl (Nat.le_of_ble_eq_true rfl) rfl ?_
    refine r_aload_n (q := 200) dX7_asks_199 rfl rfl rfl ?_
    refine r_gR (q := 203) fl_X7_57 rfl dX7_asks_200 rfl (fun x6 => ?_)
    refine r_iload (q := 205) dX7_asks_203 rfl rfl ?_
    refine r_dup2 (q := 206) dX7_asks_205 rfl rfl rfl ?_
    refine r_iaload (q := 207) dX7_asks_206 rfl (fun x7 => ?_)
    refine r_iconst (q := 208) (v := (1 : Int32)) dX7_asks_207 rfl (by decide) ?_
    refine r_iadd (q := 209) dX7_asks_208 rfl ?_
    refine r_iastore (q := 210) dX7_asks_209 rfl (fun σ8 => ?_)
    refine r_aload_n (q := 211) dX7_asks_210 rfl rfl rfl ?_
    refine r_gR (q := 214) fl_X7_57 rfl dX7_asks_211 rfl (fun x9 => ?_)
    refine r_iload (q := 216) dX7_asks_214 rfl rfl ?_
    refine r_iaload (q := 217) dX7_asks_216 rfl (fun x10 => ?_)
    refine r_iload (q := 219) dX7_asks_217 rfl rfl ?_
    refine r_icmp_le (q := 222) (t := 232) dX7_asks_219 rfl (by decide) (fun _ => ?_) (fun _ => ?_)
    · refine r_iload (q := 234) dX7_asks_232 rfl rfl ?_
      exact r_le (w_X7_asks_b234 G h0 N K117 K130 K171 hK117 hK130 hK171 _ _ _ _ _ _ _) (Nat.le_refl _) (And.intro rfl (And.intro rfl (And.intro rfl (And.intro rfl (And.intro rfl trivial)))))
    · refine r_aload_n (q := 223) dX7_asks_222 rfl rfl rfl ?_
      refine r_gR (q := 226) fl_X7_57 rfl dX7_asks_223 rfl (fun x11 => ?_)
      refine r_iload (q := 228) dX7_asks_226 rfl rfl ?_
      refine r_iaload (q := 229) dX7_asks_228 rfl (fun x12 => ?_)
      refine r_goto (q := 234) dX7_asks_229 (by decide) ?_
      exact r_le (w_X7_asks_b234 G h0 N K117 K130 K171 hK117 hK130 hK171 _ _ _ _ _ _ _) (Nat.le_refl _) (And.intro rfl (And.intro rfl (And.intro rfl (And.intro rfl (And.intro rfl trivial)))))
theorem w_X7_asks_b171 (G : Gx) (h0 : G0 G) (N : Nat) (K117 : Nat → Int32 → Int32 → Mem → Option (Int32 × Mem)) (K130 : Nat → Int32 → Int32 → Int32 → Mem → Option (Int32 × Mem)) (hK117 : ∀ (a0 : Nat) (l1 : Int32) (l2 : Int32) (σ : Mem), Runs G mX7_asks rhoI σ 117 [some (vR (some a0)), some (vI l1), some (vI l2), none, none, none, none] [] (K117 a0 l1 l2 σ)) (hK130 : ∀ (a0 : Nat) (l1 : Int32) (l2 : Int32) (l3 : Int32) (σ : Mem), Runs G mX7_asks rhoI σ 130 [some (vR (some a0)), some (vI l1), some (vI l2), some (vI l3), none, none, none] [] (K130 a0 l1 l2 l3 σ)) : ∀ (z : Nat) (a0 : Nat) (l1 : Int32) (l2 : Int32) (l3 : Int32) (l4 : Int32) (l5 : Int32) (σ : Mem), Runs G mX7_asks rhoI σ 171 [some (vR (some a0)), some (vI l1), some (vI l2), some (vI l3), some (vI l4), some (vI l5), none] [] (f_X7_asks_b171 N K117 K130 z a0 l1 l2 l3 l4 l5 σ) := by
  intro z
  induction z with
  | zero => exact fun _ _ _ _ _ _ _ => r_none
  | succ z ih => exact fun a0 l1 l2 l3 l4 l5 σ => w_X7_asks_b171B G h0 N K117 K130 hK117 hK130 _ ih a0 l1 l2 l3 l4 l5 σ
theorem w_X7_asks_b147B (G : Gx) (h0 : G0 G) (N : Nat) (K117 : Nat → Int32 → Int32 → Mem → Option (Int32 × Mem)) (K130 : Nat → Int32 → Int32 → Int32 → Mem → Option (Int32 × Mem)) (hK117 : ∀ (a0 : Nat) (l1 : Int32) (l2 : Int32) (σ : Mem), Runs G mX7_asks rhoI σ 117 [some (vR (some a0)), some (vI l1), some (vI l2), none, none, none, none] [] (K117 a0 l1 l2 σ)) (hK130 : ∀ (a0 : Nat) (l1 : Int32) (l2 : Int32) (l3 : Int32) (σ : Mem), Runs G mX7_asks rhoI σ 130 [some (vR (some a0)), some (vI l1), some (vI l2), some (vI l3), none, none, none] [] (K130 a0 l1 l2 l3 σ)) (K147 : Nat → Int32 → Int32 → Int32 → Int32 → Int32 → Mem → Option (Int32 × Mem)) (hK147 : ∀ (a0 : Nat) (l1 : Int32) (l2 : Int32) (l3 : Int32) (l4 : Int32) (l5 : Int32) (σ : Mem), Runs G mX7_asks rhoI σ 147 [some (vR (some a0)), some (vI l1), some (vI l2), some (vI l3), some (vI l4), some (vI l5), none] [] (K147 a0 l1 l2 l3 l4 l5 σ)) (a0 : Nat) (l1 : Int32) (l2 : Int32) (l3 : Int32) (l4 : Int32) (l5 : Int32) (σ : Mem) : Runs G mX7_asks rhoI σ 147 [some (vR (some a0)), some (vI l1), some (vI l2), some (vI l3), some (vI l4), some (vI l5), none] [] (f_X7_asks_b147B N K117 K130 K147 a0 l1 l2 l3 l4 l5 σ) := by
  unfold f_X7_asks_b147B
  refine r_iload (q := 149) dX7_asks_147 rfl rfl ?_
  refine r_bipush (q := 151) (v := (8 : Int32)) dX7_asks_149 rfl (by decide) ?_
  refine r_icmp_ge (q := 154) (t := 168) dX7_asks_151 rfl (by decide) (fun _ => ?_) (fun _ => ?_)
  · refine r_iconst (q := 169) (v := (0 : Int32)) dX7_asks_168 rfl (by decide) ?_
    refine r_istore (q := 171) dX7_asks_169 rfl (Nat.le_of_ble_eq_true rfl) rfl ?_
    exact r_le (w_X7_asks_b171 G h0 N K117 K130 hK117 hK130 N _ _ _ _ _ _ _) (Nat.le_refl _) (And.intro rfl (And.intro rfl (And.intro rfl (And.intro rfl (And.intro rfl (And.intro rfl trivial))))))
  · refine r_aload_n (q := 155) dX7_asks_154 rfl rfl rfl ?_
    refine r_gR (q := 158) fl_X7_57 rfl dX7_asks_155 rfl (fun x1 => ?_)
    refine r_iload (q := 160) dX7_asks_158 rfl rfl ?_
    refine r_iconst (q := 161) (v := (0 : Int32)) dX7_asks_160 rfl (by decide) ?_
    refine r_iastore (q := 162) dX7_asks_161 rfl (fun σ2 => ?_)
    refine r_iinc (q := 165) (v := (1 : Int32)) dX7_asks_162 rfl rfl (by decide) (Nat.le_of_ble_eq_true rfl) rfl ?_
    refine r_goto (q := 147) dX7_asks_165 (by decide) ?_
    exact r_le (hK147 _ _ _ _ _ _ _) (Nat.le_refl _) (And.intro rfl (And.intro rfl (And.intro rfl (And.intro rfl (And.intro rfl (And.intro rfl trivial))))))
theorem w_X7_asks_b147 (G : Gx) (h0 : G0 G) (N : Nat) (K117 : Nat → Int32 → Int32 → Mem → Option (Int32 × Mem)) (K130 : Nat → Int32 → Int32 → Int32 → Mem → Option (Int32 × Mem)) (hK117 : ∀ (a0 : Nat) (l1 : Int32) (l2 : Int32) (σ : Mem), Runs G mX7_asks rhoI σ 117 [some (vR (some a0)), some (vI l1), some (vI l2), none, none, none, none] [] (K117 a0 l1 l2 σ)) (hK130 : ∀ (a0 : Nat) (l1 : Int32) (l2 : Int32) (l3 : Int32) (σ : Mem), Runs G mX7_asks rhoI σ 130 [some (vR (some a0)), some (vI l1), some (vI l2), some (vI l3), none, none, none] [] (K130 a0 l1 l2 l3 σ)) : ∀ (z : Nat) (a0 : Nat) (l1 : Int32) (l2 : Int32) (l3 : Int32) (l4 : Int32) (l5 : Int32) (σ : Mem), Runs G mX7_asks rhoI σ 147 [some (vR (some a0)), some (vI l1), some (vI l2), some (vI l3), some (vI l4), some (vI l5), none] [] (f_X7_asks_b147 N K117 K130 z a0 l1 l2 l3 l4 l5 σ) := by
  intro z
  induction z with
  | zero => exact fun _ _ _ _ _ _ _ => r_none
  | succ z ih => exact fun a0 l1 l2 l3 l4 l5 σ => w_X7_asks_b147B G h0 N K117 K130 hK117 hK130 _ ih a0 l1 l2 l3 l4 l5 σ
theorem w_X7_asks_b130B (G : Gx) (h0 : G0 G) (N : Nat) (K117 : Nat → Int32 → Int32 → Mem → Option (Int32 × Mem)) (hK117 : ∀ (a0 : Nat) (l1 : Int32) (l2 : Int32) (σ : Mem), Runs G mX7_asks rhoI σ 117 [some (vR (some a0)), some (vI l1), some (vI l2), none, none, none, none] [] (K117 a0 l1 l2 σ)) (K130 : Nat → Int32 → Int32 → Int32 → Mem → Option (Int32 × Mem)) (hK130 : ∀ (a0 : Nat) (l1 : Int32) (l2 : Int32) (l3 : Int32) (σ : Mem), Runs G mX7_asks rhoI σ 130 [some (vR (some a0)), some (vI l1), some (vI l2), some (vI l3), none, none, none] [] (K130 a0 l1 l2 l3 σ)) (a0 : Nat) (l1 : Int32) (l2 : Int32) (l3 : Int32) (σ : Mem) : Runs G mX7_asks rhoI σ 130 [some (vR (some a0)), some (vI l1), some (vI l2), some (vI l3), none, none, none] [] (f_X7_asks_b130B N K117 K130 a0 l1 l2 l3 σ) := by
  unfold f_X7_asks_b130B
  refine r_iload_n (q := 131) dX7_asks_130 rfl rfl rfl ?_
  refine r_aload_n (q := 132) dX7_asks_131 rfl rfl rfl ?_
  refine r_gR (q := 135) fl_X7_442 rfl dX7_asks_132 rfl (fun x1 => ?_)
  refine r_gI (q := 138) fl_X7_196 dX7_asks_135 rfl (fun x2 => ?_)
  refine r_icmp_ge (q := 141) (t := 276) dX7_asks_138 rfl (by decide) (fun _ => ?_) (fun _ => ?_)
  · refine r_iinc (q := 279) (v := (1 : Int32)) dX7_asks_276 rfl rfl (by decide) (Nat.le_of_ble_eq_true rfl) rfl ?_
    refine r_goto (q := 117) dX7_asks_279 (by decide) ?_
    exact r_le (hK117 _ _ _ _) (Nat.le_refl _) (And.intro rfl (And.intro rfl (And.intro rfl trivial)))
  · refine r_iconst (q := 142) (v := (0 : Int32)) dX7_asks_141 rfl (by decide) ?_
    refine r_istore (q := 144) dX7_asks_142 rfl (Nat.le_of_ble_eq_true rfl) rfl ?_
    refine r_iconst (q := 145) (v := (0 : Int32)) dX7_asks_144 rfl (by decide) ?_
    refine r_istore (q := 147) dX7_asks_145 rfl (Nat.le_of_ble_eq_true rfl) rfl ?_
    exact r_le (w_X7_asks_b147 G h0 N K117 K130 hK117 hK130 N _ _ _ _ _ _ _) (Nat.le_refl _) (And.intro rfl (And.intro rfl (And.intro rfl (And.intro rfl (And.intro rfl (And.intro rfl trivial))))))
theorem w_X7_asks_b130 (G : Gx) (h0 : G0 G) (N : Nat) (K117 : Nat → Int32 → Int32 → Mem → Option (Int32 × Mem)) (hK117 : ∀ (a0 : Nat) (l1 : Int32) (l2 : Int32) (σ : Mem), Runs G mX7_asks rhoI σ 117 [some (vR (some a0)), some (vI l1), some (vI l2), none, none, none, none] [] (K117 a0 l1 l2 σ)) : ∀ (z : Nat) (a0 : Nat) (l1 : Int32) (l2 : Int32) (l3 : Int32) (σ : Mem), Runs G mX7_asks rhoI σ 130 [some (vR (some a0)), some (vI l1), some (vI l2), some (vI l3), none, none, none] [] (f_X7_asks_b130 N K117 z a0 l1 l2 l3 σ) := by
  intro z
  induction z with
  | zero => exact fun _ _ _ _ _ => r_none
  | succ z ih => exact fun a0 l1 l2 l3 σ => w_X7_asks_b130B G h0 N K117 hK117 _ ih a0 l1 l2 l3 σ
theorem w_X7_asks_b117B (G : Gx) (h0 : G0 G) (N : Nat)   (K117 : Nat → Int32 → Int32 → Mem → Option (Int32 × Mem)) (hK117 : ∀ (a0 : Nat) (l1 : Int32) (l2 : Int32) (σ : Mem), Runs G mX7_asks rhoI σ 117 [some (vR (some a0)), some (vI l1), some (vI l2), none, none, none, none] [] (K117 a0 l1 l2 σ)) (a0 : Nat) (l1 : Int32) (l2 : Int32) (σ : Mem) : Runs G mX7_asks rhoI σ 117 [some (vR (some a0)), some (vI l1), some (vI l2), none, none, none, none] [] (f_X7_asks_b117B N  K117 a0 l1 l2 σ) := by
  unfold f_X7_asks_b117B
  refine r_iload_n (q := 118) dX7_asks_117 rfl rfl rfl ?_
  refine r_aload_n (q := 119) dX7_asks_118 rfl rfl rfl ?_
  refine r_gR (q := 122) fl_X7_442 rfl dX7_asks_119 rfl (fun x1 => ?_)
  refine r_gI (q := 125) fl_X7_328 dX7_asks_122 rfl (fun x2 => ?_)
  refine r_icmp_ge (q := 128) (t := 282) dX7_asks_125 rfl (by decide) (fun _ => ?_) (fun _ => ?_)
  · refine r_iconst (q := 283) (v := (0 : Int32)) dX7_asks_282 rfl (by decide) ?_
    exact r_ireturn rfl rfl dX7_asks_283
  · refine r_iconst (q := 129) (v := (0 : Int32)) dX7_asks_128 rfl (by decide) ?_
    refine r_istore_n (q := 130) dX7_asks_129 rfl rfl (Nat.le_of_ble_eq_true rfl) rfl ?_
    exact r_le (w_X7_asks_b130 G h0 N K117 hK117 N _ _ _ _ _) (Nat.le_refl _) (And.intro rfl (And.intro rfl (And.intro rfl (And.intro rfl trivial))))
theorem w_X7_asks_b117 (G : Gx) (h0 : G0 G) (N : Nat)   : ∀ (z : Nat) (a0 : Nat) (l1 : Int32) (l2 : Int32) (σ : Mem), Runs G mX7_asks rhoI σ 117 [some (vR (some a0)), some (vI l1), some (vI l2), none, none, none, none] [] (f_X7_asks_b117 N  z a0 l1 l2 σ) := by
  intro z
  induction z with
  | zero => exact fun _ _ _ _ => r_none
  | succ z ih => exact fun a0 l1 l2 σ => w_X7_asks_b117B G h0 N   _ ih a0 l1 l2 σ
theorem w_X7_asks_b85 (G : Gx) (h0 : G0 G) (N : Nat) (K17 : Nat → Int32 → Int32 → Mem → Option (Int32 × Mem)) (hK17 : ∀ (a0 : Nat) (l1 : Int32) (l2 : Int32) (σ : Mem), Runs G mX7_asks rhoI σ 17 [some (vR (some a0)), some (vI l1), some (vI l2), none, none, none, none] [] (K17 a0 l1 l2 σ)) (a0 : Nat) (l1 : Int32) (l2 : Int32) (σ : Mem) : Runs G mX7_asks rhoI σ 85 [some (vR (some a0)), some (vI l1), some (vI l2), none, none, none, none] [] (f_X7_asks_b85 N K17 a0 l1 l2 σ) := by
  unfold f_X7_asks_b85
  refine r_iinc (q := 88) (v := (1 : Int32)) dX7_asks_85 rfl rfl (by decide) (Nat.le_of_ble_eq_true rfl) rfl ?_
  refine r_goto (q := 17) dX7_asks_88 (by decide) ?_
  exact r_le (hK17 _ _ _ _) (Nat.le_refl _) (And.intro rfl (And.intro rfl (And.intro rfl trivial)))
theorem w_X7_asks_b50B (G : Gx) (h0 : G0 G) (N : Nat) (K17 : Nat → Int32 → Int32 → Mem → Option (Int32 × Mem)) (hK17 : ∀ (a0 : Nat) (l1 : Int32) (l2 : Int32) (σ : Mem), Runs G mX7_asks rhoI σ 17 [some (vR (some a0)), some (vI l1), some (vI l2), none, none, none, none] [] (K17 a0 l1 l2 σ)) (K50 : Nat → Int32 → Int32 → Int32 → Mem → Option (Int32 × Mem)) (hK50 : ∀ (a0 : Nat) (l1 : Int32) (l2 : Int32) (l3 : Int32) (σ : Mem), Runs G mX7_asks rhoI σ 50 [some (vR (some a0)), some (vI l1), some (vI l2), some (vI l3), none, none, none] [] (K50 a0 l1 l2 l3 σ)) (a0 : Nat) (l1 : Int32) (l2 : Int32) (l3 : Int32) (σ : Mem) : Runs G mX7_asks rhoI σ 50 [some (vR (some a0)), some (vI l1), some (vI l2), some (vI l3), none, none, none] [] (f_X7_asks_b50B N K17 K50 a0 l1 l2 l3 σ) := by
  unfold f_X7_asks_b50B
  refine r_iload_n (q := 51) dX7_asks_50 rfl rfl rfl ?_
  refine r_bipush (q := 53) (v := (72 : Int32)) dX7_asks_51 rfl (by decide) ?_
  refine r_icmp_ge (q := 56) (t := 82) dX7_asks_53 rfl (by decide) (fun _ => ?_) (fun _ => ?_)
  · refine r_iinc (q := 85) (v := (1 : Int32)) dX7_asks_82 rfl rfl (by decide) (Nat.le_of_ble_eq_true rfl) rfl ?_
    exact r_le (w_X7_asks_b85 G h0 N K17 hK17 _ _ _ _) (Nat.le_refl _) (And.intro rfl (And.intro rfl (And.intro rfl trivial)))
  · refine r_aload_n (q := 57) dX7_asks_56 rfl rfl rfl ?_
    refine r_gR (q := 60) fl_X7_54 rfl dX7_asks_57 rfl (fun x1 => ?_)
    refine r_iload_n (q := 61) dX7_asks_60 rfl rfl rfl ?_
    refine r_bipush (q := 63) (v := (6 : Int32)) dX7_asks_61 rfl (by decide) ?_
    refine r_imul (q := 64) dX7_asks_63 rfl ?_
    refine r_bipush (q := 66) (v := (12 : Int32)) dX7_asks_64 rfl (by decide) ?_
    refine r_imul (q := 67) dX7_asks_66 rfl ?_
    refine r_iload_n (q := 68) dX7_asks_67 rfl rfl rfl ?_
    refine r_iadd (q := 69) dX7_asks_68 rfl ?_
    refine r_aload_n (q := 70) dX7_asks_69 rfl rfl rfl ?_
    refine r_gR (q := 73) fl_X7_30 rfl dX7_asks_70 rfl (fun x2 => ?_)
    refine r_iload_n (q := 74) dX7_asks_73 rfl rfl rfl ?_
    refine r_iaload (q := 75) dX7_asks_74 rfl (fun x3 => ?_)
    refine r_iastore (q := 76) dX7_asks_75 rfl (fun σ4 => ?_)
    refine r_iinc (q := 79) (v := (1 : Int32)) dX7_asks_76 rfl rfl (by decide) (Nat.le_of_ble_eq_true rfl) rfl ?_
    refine r_goto (q := 50) dX7_asks_79 (by decide) ?_
    exact r_le (hK50 _ _ _ _ _) (Nat.le_refl _) (And.intro rfl (And.intro rfl (And.intro rfl (And.intro rfl trivial))))
theorem w_X7_asks_b50 (G : Gx) (h0 : G0 G) (N : Nat) (K17 : Nat → Int32 → Int32 → Mem → Option (Int32 × Mem)) (hK17 : ∀ (a0 : Nat) (l1 : Int32) (l2 : Int32) (σ : Mem), Runs G mX7_asks rhoI σ 17 [some (vR (some a0)), some (vI l1), some (vI l2), none, none, none, none] [] (K17 a0 l1 l2 σ)) : ∀ (z : Nat) (a0 : Nat) (l1 : Int32) (l2 : Int32) (l3 : Int32) (σ : Mem), Runs G mX7_asks rhoI σ 50 [some (vR (some a0)), some (vI l1), some (vI l2), some (vI l3), none, none, none] [] (f_X7_asks_b50 N K17 z a0 l1 l2 l3 σ) := by
  intro z
  induction z with
  | zero => exact fun _ _ _ _ _ => r_none
  | succ z ih => exact fun a0 l1 l2 l3 σ => w_X7_asks_b50B G h0 N K17 hK17 _ ih a0 l1 l2 l3 σ
theorem w_X7_asks_b17B (G : Gx) (h0 : G0 G) (N : Nat)   (K17 : Nat → Int32 → Int32 → Mem → Option (Int32 × Mem)) (hK17 : ∀ (a0 : Nat) (l1 : Int32) (l2 : Int32) (σ : Mem), Runs G mX7_asks rhoI σ 17 [some (vR (some a0)), some (vI l1), some (vI l2), none, none, none, none] [] (K17 a0 l1 l2 σ)) (a0 : Nat) (l1 : Int32) (l2 : Int32) (σ : Mem) : Runs G mX7_asks rhoI σ 17 [some (vR (some a0)), some (vI l1), some (vI l2), none, none, none, none] [] (f_X7_asks_b17B N  K17 a0 l1 l2 σ) := by
  unfold f_X7_asks_b17B
  refine r_iload_n (q := 18) dX7_asks_17 rfl rfl rfl ?_
  refine r_aload_n (q := 19) dX7_asks_18 rfl rfl rfl ?_
  refine r_gR (q := 22) fl_X7_442 rfl dX7_asks_19 rfl (fun x1 => ?_)
  refine r_ob (fun a4 ha4 => ?_)
  obtain ⟨hea4, hka4⟩ := o_at_eq ha4
  cases hea4
  refine r_callI (q := 25) (c_X24_cases G h0 N _ _) (cl_V (ci := 20) rfl rfl (lw_V q2375 q2376 q2377 q199 q2378) (hd_X24_cases) ⟨Nat.le_of_ble_eq_true rfl, Nat.le_of_ble_eq_true rfl⟩ (List.mem_singleton.mp hka4) rfl rfl rfl (Nat.le_of_ble_eq_true rfl) dX7_asks_22) rfl (fun x2 σ3 => ?_)
  refine r_icmp_ge (q := 28) (t := 91) dX7_asks_25 rfl (by decide) (fun _ => ?_) (fun _ => ?_)
  · refine r_iload_n (q := 92) dX7_asks_91 rfl rfl rfl ?_
    refine r_iconst (q := 93) (v := (2 : Int32)) dX7_asks_92 rfl (by decide) ?_
    refine r_icmp_lt (q := 96) (t := 106) dX7_asks_93 rfl (by decide) (fun _ => ?_) (fun _ => ?_)
    · refine r_bipush (q := 108) (v := (6 : Int32)) dX7_asks_106 rfl (by decide) ?_
      exact r_ireturn rfl rfl dX7_asks_108
    · refine r_aload_n (q := 97) dX7_asks_96 rfl rfl rfl ?_
      refine r_gR (q := 100) fl_X7_442 rfl dX7_asks_97 rfl (fun x5 => ?_)
      refine r_gI (q := 103) fl_X7_328 dX7_asks_100 rfl (fun x6 => ?_)
      refine r_if_ne (q := 106) (t := 109) dX7_asks_103 rfl (by decide) (fun _ => ?_) (fun _ => ?_)
      · refine r_bipush (q := 108) (v := (6 : Int32)) dX7_asks_106 rfl (by decide) ?_
        exact r_ireturn rfl rfl dX7_asks_108
      · refine r_aload_n (q := 110) dX7_asks_109 rfl rfl rfl ?_
        refine r_bipush (q := 112) (v := (82 : Int32)) dX7_asks_110 rfl (by decide) ?_
        refine r_pI (q := 115) fp_X7_asks_544 dX7_asks_112 rfl (fun σ7 => ?_)
        refine r_iconst (q := 116) (v := (0 : Int32)) dX7_asks_115 rfl (by decide) ?_
        refine r_istore_n (q := 117) dX7_asks_116 rfl rfl (Nat.le_of_ble_eq_true rfl) rfl ?_
        exact r_le (w_X7_asks_b117 G h0 N N _ _ _ _) (Nat.le_refl _) (And.intro rfl (And.intro rfl (And.intro rfl trivial)))
  · refine r_aload_n (q := 29) dX7_asks_28 rfl rfl rfl ?_
    refine r_iload_n (q := 30) dX7_asks_29 rfl rfl rfl ?_
    refine r_aload_n (q := 31) dX7_asks_30 rfl rfl rfl ?_
    refine r_ob (fun a10 ha10 => ?_)
    obtain ⟨hea10, hka10⟩ := o_at_eq ha10
    cases hea10
    refine r_callI (q := 34) (c_X7_heard G h0 N _ _) (cl_V (ci := 6) rfl rfl (lw_V q2549 q2551 qs139 q176 q2552) (hd_X7_heard) ⟨Nat.le_of_ble_eq_true rfl, Nat.le_of_ble_eq_true rfl⟩ (List.mem_singleton.mp hka10) rfl rfl rfl (Nat.le_of_ble_eq_true rfl) dX7_asks_31) rfl (fun x8 σ9 => ?_)
    refine r_ob (fun a13 ha13 => ?_)
    obtain ⟨hea13, hka13⟩ := o_at_eq ha13
    cases hea13
    refine r_callI (q := 37) (c_X7_areTrue G h0 N _ _ _ _) (cl_V (ci := 6) rfl rfl (lw_V q2557 q2559 qs141 q176 q2560) (hd_X7_areTrue) ⟨Nat.le_of_ble_eq_true rfl, Nat.le_of_ble_eq_true rfl⟩ (List.mem_singleton.mp hka13) rfl rfl rfl (Nat.le_of_ble_eq_true rfl) dX7_asks_34) rfl (fun x11 σ12 => ?_)
    refine r_if_ne (q := 40) (t := 43) dX7_asks_37 rfl (by decide) (fun _ => ?_) (fun _ => ?_)
    · refine r_goto (q := 85) dX7_asks_40 (by decide) ?_
      exact r_le (w_X7_asks_b85 G h0 N K17 hK17 _ _ _ _) (Nat.le_refl _) (And.intro rfl (And.intro rfl (And.intro rfl trivial)))
    · refine r_aload_n (q := 44) dX7_asks_43 rfl rfl rfl ?_
      refine r_iload_n (q := 45) dX7_asks_44 rfl rfl rfl ?_
      refine r_ob (fun a16 ha16 => ?_)
      obtain ⟨hea16, hka16⟩ := o_at_eq ha16
      cases hea16
      refine r_callV (q := 48) (c_X7_day G h0 N _ _ _) (cl_V (ci := 6) rfl rfl (lw_V q2467 q2469 qs127 q176 q2470) (hd_X7_day) ⟨Nat.le_of_ble_eq_true rfl, Nat.le_of_ble_eq_true rfl⟩ (List.mem_singleton.mp hka16) rfl rfl rfl (Nat.le_of_ble_eq_true rfl) dX7_asks_45) rfl (fun u14 σ15 => ?_)
      refine r_iconst (q := 49) (v := (0 : Int32)) dX7_asks_48 rfl (by decide) ?_
      refine r_istore_n (q := 50) dX7_asks_49 rfl rfl (Nat.le_of_ble_eq_true rfl) rfl ?_
      exact r_le (w_X7_asks_b50 G h0 N K17 hK17 N _ _ _ _ _) (Nat.le_refl _) (And.intro rfl (And.intro rfl (And.intro rfl (And.intro rfl trivial))))
theorem w_X7_asks_b17 (G : Gx) (h0 : G0 G) (N : Nat)   : ∀ (z : Nat) (a0 : Nat) (l1 : Int32) (l2 : Int32) (σ : Mem), Runs G mX7_asks rhoI σ 17 [some (vR (some a0)), some (vI l1), some (vI l2), none, none, none, none] [] (f_X7_asks_b17 N  z a0 l1 l2 σ) := by
  intro z
  induction z with
  | zero => exact fun _ _ _ _ => r_none
  | succ z ih => exact fun a0 l1 l2 σ => w_X7_asks_b17B G h0 N   _ ih a0 l1 l2 σ
theorem c_X7_asks (G : Gx) (h0 : G0 G) (N : Nat) (a0 : Nat) (σ : Mem) : Ct G mX7_asks rhoI [vR (some a0)] σ (f_X7_asks N a0 σ) := by
  refine Ct_of h0 (by decide) rfl (Nat.le_of_ble_eq_true rfl) (L0 := [some (vR (some a0)), none, none, none, none, none, none]) rfl ?_
  unfold f_X7_asks
  refine r_aload_n (q := 1) dX7_asks_0 rfl rfl rfl ?_
  refine r_gR (q := 4) fl_X7_442 rfl dX7_asks_1 rfl (fun x1 => ?_)
  refine r_ifnonnull (q := 7) (t := 9) dX7_asks_4 rfl (by decide) (fun _ => ?_) (fun _ => ?_)
  · refine r_iconst (q := 8) (v := (1 : Int32)) dX7_asks_7 rfl (by decide) ?_
    exact r_ireturn rfl rfl dX7_asks_8
  · refine r_aload_n (q := 10) dX7_asks_9 rfl rfl rfl ?_
    refine r_ob (fun a4 ha4 => ?_)
    obtain ⟨hea4, hka4⟩ := o_at_eq ha4
    cases hea4
    refine r_callV (q := 13) (c_X7_laysHonest G h0 N _ _) (cl_V (ci := 6) rfl rfl (lw_V q2545 q2547 qs138 q176 q2548) (hd_X7_laysHonest) ⟨Nat.le_of_ble_eq_true rfl, Nat.le_of_ble_eq_true rfl⟩ (List.mem_singleton.mp hka4) rfl rfl rfl (Nat.le_of_ble_eq_true rfl) dX7_asks_10) rfl (fun u2 σ3 => ?_)
    refine r_iconst (q := 14) (v := (0 : Int32)) dX7_asks_13 rfl (by decide) ?_
    refine r_istore_n (q := 15) dX7_asks_14 rfl rfl (Nat.le_of_ble_eq_true rfl) rfl ?_
    refine r_iconst (q := 16) (v := (0 : Int32)) dX7_asks_15 rfl (by decide) ?_
    refine r_istore_n (q := 17) dX7_asks_16 rfl rfl (Nat.le_of_ble_eq_true rfl) rfl ?_
    exact r_le (w_X7_asks_b17 G h0 N N _ _ _ _) (Nat.le_refl _) (And.intro rfl (And.intro rfl (And.intro rfl trivial)))
theorem c_X7_ask (G : Gx) (h0 : G0 G) (N : Nat) (a0 : Nat) (σ : Mem) : Ct G mX7_ask rhoI [vR (some a0)] σ (f_X7_ask N a0 σ) := by
  refine Ct_of h0 (by decide) rfl (Nat.le_of_ble_eq_true rfl) (L0 := [some (vR (some a0)), none]) rfl ?_
  unfold f_X7_ask
  refine r_aload_n (q := 1) dX7_ask_0 rfl rfl rfl ?_
  refine r_iconst (q := 2) (v := (0 : Int32)) dX7_ask_1 rfl (by decide) ?_
  refine r_pI (q := 5) fp_X7_ask_66 dX7_ask_2 rfl (fun σ1 => ?_)
  refine r_aload_n (q := 6) dX7_ask_5 rfl rfl rfl ?_
  refine r_ob (fun a4 ha4 => ?_)
  obtain ⟨hea4, hka4⟩ := o_at_eq ha4
  cases hea4
  refine r_callI (q := 9) (c_X7_asks G h0 N _ _) (cl_V (ci := 6) rfl rfl (lw_V q2613 q2615 qs146 q176 q2616) (hd_X7_asks) ⟨Nat.le_of_ble_eq_true rfl, Nat.le_of_ble_eq_true rfl⟩ (List.mem_singleton.mp hka4) rfl rfl rfl (Nat.le_of_ble_eq_true rfl) dX7_ask_6) rfl (fun x2 σ3 => ?_)
  refine r_istore_n (q := 10) dX7_ask_9 rfl rfl (Nat.le_of_ble_eq_true rfl) rfl ?_
  refine r_iload_n (q := 11) dX7_ask_10 rfl rfl rfl ?_
  refine r_if_le (q := 14) (t := 22) dX7_ask_11 rfl (by decide) (fun _ => ?_) (fun _ => ?_)
  · refine r_aload_n (q := 23) dX7_ask_22 rfl rfl rfl ?_
    refine r_aload_n (q := 24) dX7_ask_23 rfl rfl rfl ?_
    refine r_gI (q := 27) fl_X7_547 dX7_ask_24 rfl (fun x5 => ?_)
    refine r_ob (fun a8 ha8 => ?_)
    obtain ⟨hea8, hka8⟩ := o_at_eq ha8
    cases hea8
    refine r_callI (q := 30) (c_X7_good G h0 N _ _ _) (cl_V (ci := 6) rfl rfl (lw_V q2379 q2381 qs118 q176 q2382) (hd_X7_good) ⟨Nat.le_of_ble_eq_true rfl, Nat.le_of_ble_eq_true rfl⟩ (List.mem_singleton.mp hka8) rfl rfl rfl (Nat.le_of_ble_eq_true rfl) dX7_ask_27) rfl (fun x6 σ7 => ?_)
    exact r_ireturn rfl rfl dX7_ask_30
  · refine r_aload_n (q := 15) dX7_ask_14 rfl rfl rfl ?_
    refine r_iload_n (q := 16) dX7_ask_15 rfl rfl rfl ?_
    refine r_ob (fun a11 ha11 => ?_)
    obtain ⟨hea11, hka11⟩ := o_at_eq ha11
    cases hea11
    refine r_callI (q := 19) (c_X7_refused G h0 N _ _ _) (cl_V (ci := 6) rfl rfl (lw_V q2019 q2021 qs83 q176 q2022) (hd_X7_refused) ⟨Nat.le_of_ble_eq_true rfl, Nat.le_of_ble_eq_true rfl⟩ (List.mem_singleton.mp hka11) rfl rfl rfl (Nat.le_of_ble_eq_true rfl) dX7_ask_16) rfl (fun x9 σ10 => ?_)
    refine r_goto (q := 30) dX7_ask_19 (by decide) ?_
    exact r_ireturn rfl rfl dX7_ask_30
theorem c_X1_askMost (G : Gx) (h0 : G0 G) (N : Nat) (a0 : Nat) (σ : Mem) : Ct G mX1_askMost rhoI [vR (some a0)] σ (f_X1_askMost N a0 σ) := by
  refine Ct_of h0 (by decide) rfl (Nat.le_of_ble_eq_true rfl) (L0 := [some (vR (some a0)), none]) rfl ?_
  unfold f_X1_askMost
  refine r_aload_n (q := 1) dX1_askMost_0 rfl rfl rfl ?_
  refine r_ob (fun a3 ha3 => ?_)
  obtain ⟨hea3, hka3⟩ := o_at_eq ha3
  cases hea3
  refine r_callV (q := 4) (c_X1_anew G h0 N _ _) (cl_V (ci := 0) rfl rfl (lw_V q485 q487 qs2 q167 q488) (hd_X1_anew) ⟨Nat.le_of_ble_eq_true rfl, Nat.le_of_ble_eq_true rfl⟩ (List.mem_singleton.mp hka3) rfl rfl rfl (Nat.le_of_ble_eq_true rfl) dX1_askMost_1) rfl (fun u1 σ2 => ?_)
  refine r_aload_n (q := 5) dX1_askMost_4 rfl rfl rfl ?_
  refine r_ob (fun a6 ha6 => ?_)
  obtain ⟨hea6, hka6⟩ := o_at_eq ha6
  cases hea6
  refine r_callI (q := 8) (c_X1_askWhy G h0 N _ _) (cl_V (ci := 0) rfl rfl (lw_V q1652 q1654 qs66 q167 q1655) (hd_X1_askWhy) ⟨Nat.le_of_ble_eq_true rfl, Nat.le_of_ble_eq_true rfl⟩ (List.mem_singleton.mp hka6) rfl rfl rfl (Nat.le_of_ble_eq_true rfl) dX1_askMost_5) rfl (fun x4 σ5 => ?_)
  refine r_istore_n (q := 9) dX1_askMost_8 rfl rfl (Nat.le_of_ble_eq_true rfl) rfl ?_
  refine r_iload_n (q := 10) dX1_askMost_9 rfl rfl rfl ?_
  refine r_if_eq (q := 13) (t := 21) dX1_askMost_10 rfl (by decide) (fun _ => ?_) (fun _ => ?_)
  · refine r_aload_n (q := 22) dX1_askMost_21 rfl rfl rfl ?_
    refine r_gI (q := 25) fl_X1_311 dX1_askMost_22 rfl (fun x7 => ?_)
    exact r_ireturn rfl rfl dX1_askMost_25
  · refine r_aload_n (q := 14) dX1_askMost_13 rfl rfl rfl ?_
    refine r_iload_n (q := 15) dX1_askMost_14 rfl rfl rfl ?_
    refine r_ob (fun a10 ha10 => ?_)
    obtain ⟨hea10, hka10⟩ := o_at_eq ha10
    cases hea10
    refine r_callI (q := 18) (c_X1_no G h0 N _ _ _) (cl_V (ci := 0) rfl rfl (lw_V q492 q494 qs3 q167 q495) (hd_X1_no) ⟨Nat.le_of_ble_eq_true rfl, Nat.le_of_ble_eq_true rfl⟩ (List.mem_singleton.mp hka10) rfl rfl rfl (Nat.le_of_ble_eq_true rfl) dX1_askMost_15) rfl (fun x8 σ9 => ?_)
    refine r_goto (q := 25) dX1_askMost_18 (by decide) ?_
    exact r_ireturn rfl rfl dX1_askMost_25
theorem c_X7_askMost (G : Gx) (h0 : G0 G) (N : Nat) (a0 : Nat) (σ : Mem) : Ct G mX7_askMost rhoI [vR (some a0)] σ (f_X7_askMost N a0 σ) := by
  refine Ct_of h0 (by decide) rfl (Nat.le_of_ble_eq_true rfl) (L0 := [some (vR (some a0)), none]) rfl ?_
  unfold f_X7_askMost
  refine r_aload_n (q := 1) dX7_askMost_0 rfl rfl rfl ?_
  refine r_iconst (q := 2) (v := (0 : Int32)) dX7_askMost_1 rfl (by decide) ?_
  refine r_pI (q := 5) fp_X7_askMost_66 dX7_askMost_2 rfl (fun σ1 => ?_)
  refine r_aload_n (q := 6) dX7_askMost_5 rfl rfl rfl ?_
  refine r_ob (fun a4 ha4 => ?_)
  obtain ⟨hea4, hka4⟩ := o_at_eq ha4
  cases hea4
  refine r_callI (q := 9) (c_X7_asks G h0 N _ _) (cl_V (ci := 6) rfl rfl (lw_V q2613 q2615 qs146 q176 q2616) (hd_X7_asks) ⟨Nat.le_of_ble_eq_true rfl, Nat.le_of_ble_eq_true rfl⟩ (List.mem_singleton.mp hka4) rfl rfl rfl (Nat.le_of_ble_eq_true rfl) dX7_askMost_6) rfl (fun x2 σ3 => ?_)
  refine r_istore_n (q := 10) dX7_askMost_9 rfl rfl (Nat.le_of_ble_eq_true rfl) rfl ?_
  refine r_iload_n (q := 11) dX7_askMost_10 rfl rfl rfl ?_
  refine r_if_le (q := 14) (t := 22) dX7_askMost_11 rfl (by decide) (fun _ => ?_) (fun _ => ?_)
  · refine r_aload_n (q := 23) dX7_askMost_22 rfl rfl rfl ?_
    refine r_aload_n (q := 24) dX7_askMost_23 rfl rfl rfl ?_
    refine r_gI (q := 27) fl_X7_544 dX7_askMost_24 rfl (fun x5 => ?_)
    refine r_ob (fun a8 ha8 => ?_)
    obtain ⟨hea8, hka8⟩ := o_at_eq ha8
    cases hea8
    refine r_callI (q := 30) (c_X7_good G h0 N _ _ _) (cl_V (ci := 6) rfl rfl (lw_V q2379 q2381 qs118 q176 q2382) (hd_X7_good) ⟨Nat.le_of_ble_eq_true rfl, Nat.le_of_ble_eq_true rfl⟩ (List.mem_singleton.mp hka8) rfl rfl rfl (Nat.le_of_ble_eq_true rfl) dX7_askMost_27) rfl (fun x6 σ7 => ?_)
    exact r_ireturn rfl rfl dX7_askMost_30
  · refine r_aload_n (q := 15) dX7_askMost_14 rfl rfl rfl ?_
    refine r_iload_n (q := 16) dX7_askMost_15 rfl rfl rfl ?_
    refine r_ob (fun a11 ha11 => ?_)
    obtain ⟨hea11, hka11⟩ := o_at_eq ha11
    cases hea11
    refine r_callI (q := 19) (c_X7_refused G h0 N _ _ _) (cl_V (ci := 6) rfl rfl (lw_V q2019 q2021 qs83 q176 q2022) (hd_X7_refused) ⟨Nat.le_of_ble_eq_true rfl, Nat.le_of_ble_eq_true rfl⟩ (List.mem_singleton.mp hka11) rfl rfl rfl (Nat.le_of_ble_eq_true rfl) dX7_askMost_16) rfl (fun x9 σ10 => ?_)
    refine r_goto (q := 30) dX7_askMost_19 (by decide) ?_
    exact r_ireturn rfl rfl dX7_askMost_30
theorem w_X1_luredWhy_b24 (G : Gx) (h0 : G0 G) (N : Nat)    (σ : Mem) : Runs G mX1_luredWhy rhoI σ 24 [none, none, none, none, none] [] (f_X1_luredWhy_b24 N   σ) := by
  unfold f_X1_luredWhy_b24
  refine r_iconst (q := 25) (v := (1 : Int32)) dX1_luredWhy_24 rfl (by decide) ?_
  refine r_goto (q := 42) dX1_luredWhy_25 (by decide) ?_
  exact r_ireturn rfl rfl dX1_luredWhy_42
theorem c_X1_luredWhy (G : Gx) (h0 : G0 G) (N : Nat) (a0 : Nat) (i1 : Int32) (i2 : Int32) (i3 : Int32) (i4 : Int32) (σ : Mem) : Ct G mX1_luredWhy rhoI [vR (some a0), vI i1, vI i2, vI i3, vI i4] σ (f_X1_luredWhy N a0 i1 i2 i3 i4 σ) := by
  refine Ct_of h0 (by decide) rfl (Nat.le_of_ble_eq_true rfl) (L0 := [some (vR (some a0)), some (vI i1), some (vI i2), some (vI i3), some (vI i4)]) rfl ?_
  unfold f_X1_luredWhy
  refine r_aload_n (q := 1) dX1_luredWhy_0 rfl rfl rfl ?_
  refine r_iload_n (q := 2) dX1_luredWhy_1 rfl rfl rfl ?_
  refine r_ob (fun a3 ha3 => ?_)
  obtain ⟨hea3, hka3⟩ := o_at_eq ha3
  cases hea3
  refine r_callI (q := 5) (c_X1_isCase G h0 N _ _ _) (cl_V (ci := 0) rfl rfl (lw_V q1416 q1418 qs50 q167 q1419) (hd_X1_isCase) ⟨Nat.le_of_ble_eq_true rfl, Nat.le_of_ble_eq_true rfl⟩ (List.mem_singleton.mp hka3) rfl rfl rfl (Nat.le_of_ble_eq_true rfl) dX1_luredWhy_2) rfl (fun x1 σ2 => ?_)
  refine r_if_eq (q := 8) (t := 24) dX1_luredWhy_5 rfl (by decide) (fun _ => ?_) (fun _ => ?_)
  · exact r_le (w_X1_luredWhy_b24 G h0 N  _) (Nat.le_refl _) trivial
  · refine r_aload_n (q := 9) dX1_luredWhy_8 rfl rfl rfl ?_
    refine r_iload_n (q := 10) dX1_luredWhy_9 rfl rfl rfl ?_
    refine r_ob (fun a6 ha6 => ?_)
    obtain ⟨hea6, hka6⟩ := o_at_eq ha6
    cases hea6
    refine r_callI (q := 13) (c_X1_isGoat G h0 N _ _ _) (cl_V (ci := 0) rfl rfl (lw_V q1331 q1333 qs45 q167 q1334) (hd_X1_isGoat) ⟨Nat.le_of_ble_eq_true rfl, Nat.le_of_ble_eq_true rfl⟩ (List.mem_singleton.mp hka6) rfl rfl rfl (Nat.le_of_ble_eq_true rfl) dX1_luredWhy_10) rfl (fun x4 σ5 => ?_)
    refine r_if_eq (q := 16) (t := 24) dX1_luredWhy_13 rfl (by decide) (fun _ => ?_) (fun _ => ?_)
    · exact r_le (w_X1_luredWhy_b24 G h0 N  _) (Nat.le_refl _) trivial
    · refine r_aload_n (q := 17) dX1_luredWhy_16 rfl rfl rfl ?_
      refine r_iload_n (q := 18) dX1_luredWhy_17 rfl rfl rfl ?_
      refine r_ob (fun a9 ha9 => ?_)
      obtain ⟨hea9, hka9⟩ := o_at_eq ha9
      cases hea9
      refine r_callI (q := 21) (c_X1_isPlace G h0 N _ _ _) (cl_V (ci := 0) rfl rfl (lw_V q1315 q1317 qs43 q167 q1318) (hd_X1_isPlace) ⟨Nat.le_of_ble_eq_true rfl, Nat.le_of_ble_eq_true rfl⟩ (List.mem_singleton.mp hka9) rfl rfl rfl (Nat.le_of_ble_eq_true rfl) dX1_luredWhy_18) rfl (fun x7 σ8 => ?_)
      refine r_if_ne (q := 24) (t := 28) dX1_luredWhy_21 rfl (by decide) (fun _ => ?_) (fun _ => ?_)
      · exact r_le (w_X1_luredWhy_b24 G h0 N  _) (Nat.le_refl _) trivial
      · refine r_aload_n (q := 29) dX1_luredWhy_28 rfl rfl rfl ?_
        refine r_iload (q := 31) dX1_luredWhy_29 rfl rfl ?_
        refine r_ob (fun a12 ha12 => ?_)
        obtain ⟨hea12, hka12⟩ := o_at_eq ha12
        cases hea12
        refine r_callI (q := 34) (c_X1_isHour G h0 N _ _ _) (cl_V (ci := 0) rfl rfl (lw_V q1397 q1399 qs49 q167 q1400) (hd_X1_isHour) ⟨Nat.le_of_ble_eq_true rfl, Nat.le_of_ble_eq_true rfl⟩ (List.mem_singleton.mp hka12) rfl rfl rfl (Nat.le_of_ble_eq_true rfl) dX1_luredWhy_31) rfl (fun x10 σ11 => ?_)
        refine r_if_eq (q := 37) (t := 41) dX1_luredWhy_34 rfl (by decide) (fun _ => ?_) (fun _ => ?_)
        · refine r_iconst (q := 42) (v := (2 : Int32)) dX1_luredWhy_41 rfl (by decide) ?_
          exact r_ireturn rfl rfl dX1_luredWhy_42
        · refine r_iconst (q := 38) (v := (0 : Int32)) dX1_luredWhy_37 rfl (by decide) ?_
          refine r_goto (q := 42) dX1_luredWhy_38 (by decide) ?_
          exact r_ireturn rfl rfl dX1_luredWhy_42
theorem c_X4_become (G : Gx) (h0 : G0 G) (N : Nat) (a0 : Nat) (o1 : Option Nat) (σ : Mem) : Ct G mX4_become rhoV [vR (some a0), vR o1] σ (f_X4_become N a0 o1 σ) := by
  refine Ct_of h0 (by decide) rfl (Nat.le_of_ble_eq_true rfl) (L0 := [some (vR (some a0)), some (vR o1)]) rfl ?_
  unfold f_X4_become
  refine r_aload_n (q := 1) dX4_become_0 rfl rfl rfl ?_
  refine r_gR (q := 4) fl_X4_9 rfl dX4_become_1 rfl (fun x1 => ?_)
  refine r_iconst (q := 5) (v := (0 : Int32)) dX4_become_4 rfl (by decide) ?_
  refine r_aload_n (q := 6) dX4_become_5 rfl rfl rfl ?_
  refine r_gR (q := 9) fl_X4_9 rfl dX4_become_6 rfl (fun x2 => ?_)
  refine r_iconst (q := 10) (v := (0 : Int32)) dX4_become_9 rfl (by decide) ?_
  refine r_bipush (q := 12) (v := (12 : Int32)) dX4_become_10 rfl (by decide) ?_
  refine r_copy (q := 15) q1681 q1438 q1437 q200 (by decide) (by decide) dX4_become_12 rfl (fun σ3 => ?_)
  refine r_aload_n (q := 16) dX4_become_15 rfl rfl rfl ?_
  refine r_gR (q := 19) fl_X4_15 rfl dX4_become_16 rfl (fun x4 => ?_)
  refine r_iconst (q := 20) (v := (0 : Int32)) dX4_become_19 rfl (by decide) ?_
  refine r_aload_n (q := 21) dX4_become_20 rfl rfl rfl ?_
  refine r_gR (q := 24) fl_X4_15 rfl dX4_become_21 rfl (fun x5 => ?_)
  refine r_iconst (q := 25) (v := (0 : Int32)) dX4_become_24 rfl (by decide) ?_
  refine r_bipush (q := 27) (v := (12 : Int32)) dX4_become_25 rfl (by decide) ?_
  refine r_copy (q := 30) q1681 q1438 q1437 q200 (by decide) (by decide) dX4_become_27 rfl (fun σ6 => ?_)
  refine r_aload_n (q := 31) dX4_become_30 rfl rfl rfl ?_
  refine r_aload_n (q := 32) dX4_become_31 rfl rfl rfl ?_
  refine r_gI (q := 35) fl_X4_18 dX4_become_32 rfl (fun x7 => ?_)
  refine r_pI (q := 38) fp_X4_become_18 dX4_become_35 rfl (fun σ8 => ?_)
  refine r_aload_n (q := 39) dX4_become_38 rfl rfl rfl ?_
  refine r_aload_n (q := 40) dX4_become_39 rfl rfl rfl ?_
  refine r_gI (q := 43) fl_X4_27 dX4_become_40 rfl (fun x9 => ?_)
  refine r_pI (q := 46) fp_X4_become_27 dX4_become_43 rfl (fun σ10 => ?_)
  exact r_return rfl dX4_become_46
theorem c_X1_comes (G : Gx) (h0 : G0 G) (N : Nat) (a0 : Nat) (i1 : Int32) (i2 : Int32) (i3 : Int32) (i4 : Int32) (σ : Mem) : Ct G mX1_comes rhoI [vR (some a0), vI i1, vI i2, vI i3, vI i4] σ (f_X1_comes N a0 i1 i2 i3 i4 σ) := by
  refine Ct_of h0 (by decide) rfl (Nat.le_of_ble_eq_true rfl) (L0 := [some (vR (some a0)), some (vI i1), some (vI i2), some (vI i3), some (vI i4)]) rfl ?_
  unfold f_X1_comes
  refine r_aload_n (q := 1) dX1_comes_0 rfl rfl rfl ?_
  refine r_gR (q := 4) fl_X1_46 rfl dX1_comes_1 rfl (fun x1 => ?_)
  refine r_aload_n (q := 5) dX1_comes_4 rfl rfl rfl ?_
  refine r_gR (q := 8) fl_X1_104 rfl dX1_comes_5 rfl (fun x2 => ?_)
  refine r_aload_n (q := 9) dX1_comes_8 rfl rfl rfl ?_
  refine r_gR (q := 12) fl_X1_40 rfl dX1_comes_9 rfl (fun x3 => ?_)
  refine r_iload_n (q := 13) dX1_comes_12 rfl rfl rfl ?_
  refine r_ob (fun a6 ha6 => ?_)
  obtain ⟨hea6, hka6⟩ := o_at_eq ha6
  cases hea6
  refine r_callV (q := 16) (c_X5_run G h0 N _ _ _ _ _) (cl_V (ci := 4) rfl rfl (lw_V q1432 q1433 q1434 q174 q1435) (hd_X5_run) ⟨Nat.le_of_ble_eq_true rfl, Nat.le_of_ble_eq_true rfl⟩ (List.mem_singleton.mp hka6) rfl rfl rfl (Nat.le_of_ble_eq_true rfl) dX1_comes_13) rfl (fun u4 σ5 => ?_)
  refine r_aload_n (q := 17) dX1_comes_16 rfl rfl rfl ?_
  refine r_gR (q := 20) fl_X1_46 rfl dX1_comes_17 rfl (fun x7 => ?_)
  refine r_iload_n (q := 21) dX1_comes_20 rfl rfl rfl ?_
  refine r_iload (q := 23) dX1_comes_21 rfl rfl ?_
  refine r_ob (fun a10 ha10 => ?_)
  obtain ⟨hea10, hka10⟩ := o_at_eq ha10
  cases hea10
  refine r_callI (q := 26) (c_X5_at G h0 N _ _ _ _) (cl_V (ci := 4) rfl rfl (lw_V q1512 q1513 q1514 q174 q1515) (hd_X5_at) ⟨Nat.le_of_ble_eq_true rfl, Nat.le_of_ble_eq_true rfl⟩ (List.mem_singleton.mp hka10) rfl rfl rfl (Nat.le_of_ble_eq_true rfl) dX1_comes_23) rfl (fun x8 σ9 => ?_)
  refine r_iload_n (q := 27) dX1_comes_26 rfl rfl rfl ?_
  refine r_icmp_ne (q := 30) (t := 34) dX1_comes_27 rfl (by decide) (fun _ => ?_) (fun _ => ?_)
  · refine r_iconst (q := 31) (v := (1 : Int32)) dX1_comes_30 rfl (by decide) ?_
    refine r_goto (q := 35) dX1_comes_31 (by decide) ?_
    exact r_ireturnN rfl dX1_comes_35
  · refine r_iconst (q := 35) (v := (0 : Int32)) dX1_comes_34 rfl (by decide) ?_
    exact r_ireturnN rfl dX1_comes_35
theorem c_X4_add (G : Gx) (h0 : G0 G) (N : Nat) (a0 : Nat) (i1 : Int32) (i2 : Int32) (i3 : Int32) (σ : Mem) : Ct G mX4_add rhoV [vR (some a0), vI i1, vI i2, vI i3] σ (f_X4_add N a0 i1 i2 i3 σ) := by
  refine Ct_of h0 (by decide) rfl (Nat.le_of_ble_eq_true rfl) (L0 := [some (vR (some a0)), some (vI i1), some (vI i2), some (vI i3)]) rfl ?_
  unfold f_X4_add
  refine r_iload_n (q := 1) dX4_add_0 rfl rfl rfl ?_
  refine r_if_eq (q := 4) (t := 19) dX4_add_1 rfl (by decide) (fun _ => ?_) (fun _ => ?_)
  · refine r_aload_n (q := 20) dX4_add_19 rfl rfl rfl ?_
    refine r_gR (q := 23) fl_X4_9 rfl dX4_add_20 rfl (fun x1 => ?_)
    refine r_iload_n (q := 24) dX4_add_23 rfl rfl rfl ?_
    refine r_dup2 (q := 25) dX4_add_24 rfl rfl rfl ?_
    refine r_iaload (q := 26) dX4_add_25 rfl (fun x2 => ?_)
    refine r_iconst (q := 27) (v := (1 : Int32)) dX4_add_26 rfl (by decide) ?_
    refine r_iload_n (q := 28) dX4_add_27 rfl rfl rfl ?_
    refine r_ishl (q := 29) dX4_add_28 rfl ?_
    refine r_ior (q := 30) dX4_add_29 rfl ?_
    refine r_iastore (q := 31) dX4_add_30 rfl (fun σ3 => ?_)
    exact r_return rfl dX4_add_31
  · refine r_aload_n (q := 5) dX4_add_4 rfl rfl rfl ?_
    refine r_gR (q := 8) fl_X4_15 rfl dX4_add_5 rfl (fun x4 => ?_)
    refine r_iload_n (q := 9) dX4_add_8 rfl rfl rfl ?_
    refine r_dup2 (q := 10) dX4_add_9 rfl rfl rfl ?_
    refine r_iaload (q := 11) dX4_add_10 rfl (fun x5 => ?_)
    refine r_iconst (q := 12) (v := (1 : Int32)) dX4_add_11 rfl (by decide) ?_
    refine r_iload_n (q := 13) dX4_add_12 rfl rfl rfl ?_
    refine r_ishl (q := 14) dX4_add_13 rfl ?_
    refine r_ior (q := 15) dX4_add_14 rfl ?_
    refine r_iastore (q := 16) dX4_add_15 rfl (fun σ6 => ?_)
    refine r_goto (q := 31) dX4_add_16 (by decide) ?_
    exact r_return rfl dX4_add_31
theorem c_X1_lure (G : Gx) (h0 : G0 G) (N : Nat) (a0 : Nat) (i1 : Int32) (i2 : Int32) (σ : Mem) : Ct G mX1_lure rhoV [vR (some a0), vI i1, vI i2] σ (f_X1_lure N a0 i1 i2 σ) := by
  refine Ct_of h0 (by decide) rfl (Nat.le_of_ble_eq_true rfl) (L0 := [some (vR (some a0)), some (vI i1), some (vI i2)]) rfl ?_
  unfold f_X1_lure
  refine r_aload_n (q := 1) dX1_lure_0 rfl rfl rfl ?_
  refine r_gR (q := 4) fl_X1_40 rfl dX1_lure_1 rfl (fun x1 => ?_)
  refine r_iload_n (q := 5) dX1_lure_4 rfl rfl rfl ?_
  refine r_aload_n (q := 6) dX1_lure_5 rfl rfl rfl ?_
  refine r_gR (q := 9) fl_X1_104 rfl dX1_lure_6 rfl (fun x2 => ?_)
  refine r_gI (q := 12) fl_X1_148 dX1_lure_9 rfl (fun x3 => ?_)
  refine r_idiv (q := 13) dX1_lure_12 rfl (fun x4 _ => ?_)
  refine r_iload_n (q := 14) dX1_lure_13 rfl rfl rfl ?_
  refine r_aload_n (q := 15) dX1_lure_14 rfl rfl rfl ?_
  refine r_gR (q := 18) fl_X1_104 rfl dX1_lure_15 rfl (fun x5 => ?_)
  refine r_gI (q := 21) fl_X1_148 dX1_lure_18 rfl (fun x6 => ?_)
  refine r_irem (q := 22) dX1_lure_21 rfl (fun x7 _ => ?_)
  refine r_iload_n (q := 23) dX1_lure_22 rfl rfl rfl ?_
  refine r_ob (fun a10 ha10 => ?_)
  obtain ⟨hea10, hka10⟩ := o_at_eq ha10
  cases hea10
  refine r_callV (q := 26) (c_X4_add G h0 N _ _ _ _ _) (cl_V (ci := 3) rfl rfl (lw_V q1690 q1691 q1692 q173 q1693) (hd_X4_add) ⟨Nat.le_of_ble_eq_true rfl, Nat.le_of_ble_eq_true rfl⟩ (List.mem_singleton.mp hka10) rfl rfl rfl (Nat.le_of_ble_eq_true rfl) dX1_lure_23) rfl (fun u8 σ9 => ?_)
  exact r_return rfl dX1_lure_26
theorem w_X1_lured_b142B (G : Gx) (h0 : G0 G) (N : Nat) (K117 : Nat → Int32 → Int32 → Int32 → Int32 → Int32 → Int32 → Mem → Option (Int32 × Mem)) (hK117 : ∀ (a0 : Nat) (l1 : Int32) (l2 : Int32) (l3 : Int32) (l4 : Int32) (l5 : Int32) (l6 : Int32) (σ : Mem), Runs G mX1_lured rhoI σ 117 [some (vR (some a0)), some (vI l1), some (vI l2), some (vI l3), some (vI l4), some (vI l5), some (vI l6)] [] (K117 a0 l1 l2 l3 l4 l5 l6 σ)) (K142 : Nat → Int32 → Int32 → Int32 → Int32 → Int32 → Int32 → Mem → Option (Int32 × Mem)) (hK142 : ∀ (a0 : Nat) (l1 : Int32) (l2 : Int32) (l3 : Int32) (l4 : Int32) (l5 : Int32) (l6 : Int32) (σ : Mem), Runs G mX1_lured rhoI σ 142 [some (vR (some a0)), some (vI l1), some (vI l2), some (vI l3), some (vI l4), some (vI l5), some (vI l6)] [] (K142 a0 l1 l2 l3 l4 l5 l6 σ)) (a0 : Nat) (l1 : Int32) (l2 : Int32) (l3 : Int32) (l4 : Int32) (l5 : Int32) (l6 : Int32) (σ : Mem) : Runs G mX1_lured rhoI σ 142 [some (vR (some a0)), some (vI l1), some (vI l2), some (vI l3), some (vI l4), some (vI l5), some (vI l6)] [] (f_X1_lured_b142B N K117 K142 a0 l1 l2 l3 l4 l5 l6 σ) := by
  unfold f_X1_lured_b142B
  refine r_aload_n (q := 143) dX1_lured_142 rfl rfl rfl ?_
  refine r_gR (q := 146) fl_X1_74 rfl dX1_lured_143 rfl (fun x1 => ?_)
  refine r_iconst (q := 147) (v := (1 : Int32)) dX1_lured_146 rfl (by decide) ?_
  refine r_iaload (q := 148) dX1_lured_147 rfl (fun x2 => ?_)
  refine r_iload (q := 150) dX1_lured_148 rfl rfl ?_
  refine r_icmp_ge (q := 153) (t := 215) dX1_lured_150 rfl (by decide) (fun _ => ?_) (fun _ => ?_)
  · refine r_aload_n (q := 216) dX1_lured_215 rfl rfl rfl ?_
    refine r_gR (q := 219) fl_X1_74 rfl dX1_lured_216 rfl (fun x3 => ?_)
    refine r_iconst (q := 220) (v := (0 : Int32)) dX1_lured_219 rfl (by decide) ?_
    refine r_dup2 (q := 221) dX1_lured_220 rfl rfl rfl ?_
    refine r_iaload (q := 222) dX1_lured_221 rfl (fun x4 => ?_)
    refine r_iconst (q := 223) (v := (1 : Int32)) dX1_lured_222 rfl (by decide) ?_
    refine r_iadd (q := 224) dX1_lured_223 rfl ?_
    refine r_iastore (q := 225) dX1_lured_224 rfl (fun σ5 => ?_)
    refine r_goto (q := 117) dX1_lured_225 (by decide) ?_
    exact r_le (hK117 _ _ _ _ _ _ _ _) (Nat.le_refl _) (And.intro rfl (And.intro rfl (And.intro rfl (And.intro rfl (And.intro rfl (And.intro rfl (And.intro rfl trivial)))))))
  · refine r_aload_n (q := 154) dX1_lured_153 rfl rfl rfl ?_
    refine r_gR (q := 157) fl_X1_40 rfl dX1_lured_154 rfl (fun x6 => ?_)
    refine r_aload_n (q := 158) dX1_lured_157 rfl rfl rfl ?_
    refine r_gR (q := 161) fl_X1_33 rfl dX1_lured_158 rfl (fun x7 => ?_)
    refine r_ob (fun a10 ha10 => ?_)
    obtain ⟨hea10, hka10⟩ := o_at_eq ha10
    cases hea10
    refine r_callV (q := 164) (c_X4_become G h0 N _ _ _) (cl_V (ci := 3) rfl rfl (lw_V q1677 q1678 q1679 q173 q1680) (hd_X4_become) ⟨Nat.le_of_ble_eq_true rfl, Nat.le_of_ble_eq_true rfl⟩ (List.mem_singleton.mp hka10) rfl rfl rfl (Nat.le_of_ble_eq_true rfl) dX1_lured_161) rfl (fun u8 σ9 => ?_)
    refine r_aload_n (q := 165) dX1_lured_164 rfl rfl rfl ?_
    refine r_aload_n (q := 166) dX1_lured_165 rfl rfl rfl ?_
    refine r_gR (q := 169) fl_X1_74 rfl dX1_lured_166 rfl (fun x11 => ?_)
    refine r_iconst (q := 170) (v := (0 : Int32)) dX1_lured_169 rfl (by decide) ?_
    refine r_iaload (q := 171) dX1_lured_170 rfl (fun x12 => ?_)
    refine r_iload (q := 173) dX1_lured_171 rfl rfl ?_
    refine r_ob (fun a15 ha15 => ?_)
    obtain ⟨hea15, hka15⟩ := o_at_eq ha15
    cases hea15
    refine r_callV (q := 176) (c_X1_lure G h0 N _ _ _ _) (cl_V (ci := 0) rfl rfl (lw_V q1686 q1688 qs71 q167 q1689) (hd_X1_lure) ⟨Nat.le_of_ble_eq_true rfl, Nat.le_of_ble_eq_true rfl⟩ (List.mem_singleton.mp hka15) rfl rfl rfl (Nat.le_of_ble_eq_true rfl) dX1_lured_173) rfl (fun u13 σ14 => ?_)
    refine r_aload_n (q := 177) dX1_lured_176 rfl rfl rfl ?_
    refine r_aload_n (q := 178) dX1_lured_177 rfl rfl rfl ?_
    refine r_gR (q := 181) fl_X1_74 rfl dX1_lured_178 rfl (fun x16 => ?_)
    refine r_iconst (q := 182) (v := (1 : Int32)) dX1_lured_181 rfl (by decide) ?_
    refine r_iaload (q := 183) dX1_lured_182 rfl (fun x17 => ?_)
    refine r_iload (q := 185) dX1_lured_183 rfl rfl ?_
    refine r_ob (fun a20 ha20 => ?_)
    obtain ⟨hea20, hka20⟩ := o_at_eq ha20
    cases hea20
    refine r_callV (q := 188) (c_X1_lure G h0 N _ _ _ _) (cl_V (ci := 0) rfl rfl (lw_V q1686 q1688 qs71 q167 q1689) (hd_X1_lure) ⟨Nat.le_of_ble_eq_true rfl, Nat.le_of_ble_eq_true rfl⟩ (List.mem_singleton.mp hka20) rfl rfl rfl (Nat.le_of_ble_eq_true rfl) dX1_lured_185) rfl (fun u18 σ19 => ?_)
    refine r_aload_n (q := 189) dX1_lured_188 rfl rfl rfl ?_
    refine r_iload_n (q := 190) dX1_lured_189 rfl rfl rfl ?_
    refine r_iload_n (q := 191) dX1_lured_190 rfl rfl rfl ?_
    refine r_iload_n (q := 192) dX1_lured_191 rfl rfl rfl ?_
    refine r_iload (q := 194) dX1_lured_192 rfl rfl ?_
    refine r_ob (fun a23 ha23 => ?_)
    obtain ⟨hea23, hka23⟩ := o_at_eq ha23
    cases hea23
    refine r_callI (q := 197) (c_X1_comes G h0 N _ _ _ _ _ _) (cl_V (ci := 0) rfl rfl (lw_V q1682 q1684 qs70 q167 q1685) (hd_X1_comes) ⟨Nat.le_of_ble_eq_true rfl, Nat.le_of_ble_eq_true rfl⟩ (List.mem_singleton.mp hka23) rfl rfl rfl (Nat.le_of_ble_eq_true rfl) dX1_lured_194) rfl (fun x21 σ22 => ?_)
    refine r_if_eq (q := 200) (t := 202) dX1_lured_197 rfl (by decide) (fun _ => ?_) (fun _ => ?_)
    · refine r_aload_n (q := 203) dX1_lured_202 rfl rfl rfl ?_
      refine r_gR (q := 206) fl_X1_74 rfl dX1_lured_203 rfl (fun x24 => ?_)
      refine r_iconst (q := 207) (v := (1 : Int32)) dX1_lured_206 rfl (by decide) ?_
      refine r_dup2 (q := 208) dX1_lured_207 rfl rfl rfl ?_
      refine r_iaload (q := 209) dX1_lured_208 rfl (fun x25 => ?_)
      refine r_iconst (q := 210) (v := (1 : Int32)) dX1_lured_209 rfl (by decide) ?_
      refine r_iadd (q := 211) dX1_lured_210 rfl ?_
      refine r_iastore (q := 212) dX1_lured_211 rfl (fun σ26 => ?_)
      refine r_goto (q := 142) dX1_lured_212 (by decide) ?_
      exact r_le (hK142 _ _ _ _ _ _ _ _) (Nat.le_refl _) (And.intro rfl (And.intro rfl (And.intro rfl (And.intro rfl (And.intro rfl (And.intro rfl (And.intro rfl trivial)))))))
    · refine r_iconst (q := 201) (v := (2 : Int32)) dX1_lured_200 rfl (by decide) ?_
      exact r_ireturn rfl rfl dX1_lured_201
theorem w_X1_lured_b142 (G : Gx) (h0 : G0 G) (N : Nat) (K117 : Nat → Int32 → Int32 → Int32 → Int32 → Int32 → Int32 → Mem → Option (Int32 × Mem)) (hK117 : ∀ (a0 : Nat) (l1 : Int32) (l2 : Int32) (l3 : Int32) (l4 : Int32) (l5 : Int32) (l6 : Int32) (σ : Mem), Runs G mX1_lured rhoI σ 117 [some (vR (some a0)), some (vI l1), some (vI l2), some (vI l3), some (vI l4), some (vI l5), some (vI l6)] [] (K117 a0 l1 l2 l3 l4 l5 l6 σ)) : ∀ (z : Nat) (a0 : Nat) (l1 : Int32) (l2 : Int32) (l3 : Int32) (l4 : Int32) (l5 : Int32) (l6 : Int32) (σ : Mem), Runs G mX1_lured rhoI σ 142 [some (vR (some a0)), some (vI l1), some (vI l2), some (vI l3), some (vI l4), some (vI l5), some (vI l6)] [] (f_X1_lured_b142 N K117 z a0 l1 l2 l3 l4 l5 l6 σ) := by
  intro z
  induction z with
  | zero => exact fun _ _ _ _ _ _ _ _ => r_none
  | succ z ih => exact fun a0 l1 l2 l3 l4 l5 l6 σ => w_X1_lured_b142B G h0 N K117 hK117 _ ih a0 l1 l2 l3 l4 l5 l6 σ
theorem w_X1_lured_b117B (G : Gx) (h0 : G0 G) (N : Nat)   (K117 : Nat → Int32 → Int32 → Int32 → Int32 → Int32 → Int32 → Mem → Option (Int32 × Mem)) (hK117 : ∀ (a0 : Nat) (l1 : Int32) (l2 : Int32) (l3 : Int32) (l4 : Int32) (l5 : Int32) (l6 : Int32) (σ : Mem), Runs G mX1_lured rhoI σ 117 [some (vR (some a0)), some (vI l1), some (vI l2), some (vI l3), some (vI l4), some (vI l5), some (vI l6)] [] (K117 a0 l1 l2 l3 l4 l5 l6 σ)) (a0 : Nat) (l1 : Int32) (l2 : Int32) (l3 : Int32) (l4 : Int32) (l5 : Int32) (l6 : Int32) (σ : Mem) : Runs G mX1_lured rhoI σ 117 [some (vR (some a0)), some (vI l1), some (vI l2), some (vI l3), some (vI l4), some (vI l5), some (vI l6)] [] (f_X1_lured_b117B N  K117 a0 l1 l2 l3 l4 l5 l6 σ) := by
  unfold f_X1_lured_b117B
  refine r_aload_n (q := 118) dX1_lured_117 rfl rfl rfl ?_
  refine r_gR (q := 121) fl_X1_74 rfl dX1_lured_118 rfl (fun x1 => ?_)
  refine r_iconst (q := 122) (v := (0 : Int32)) dX1_lured_121 rfl (by decide) ?_
  refine r_iaload (q := 123) dX1_lured_122 rfl (fun x2 => ?_)
  refine r_iload (q := 125) dX1_lured_123 rfl rfl ?_
  refine r_icmp_ge (q := 128) (t := 228) dX1_lured_125 rfl (by decide) (fun _ => ?_) (fun _ => ?_)
  · refine r_bipush (q := 230) (v := (-2 : Int32)) dX1_lured_228 rfl (by decide) ?_
    exact r_ireturn rfl rfl dX1_lured_230
  · refine r_aload_n (q := 129) dX1_lured_128 rfl rfl rfl ?_
    refine r_gR (q := 132) fl_X1_74 rfl dX1_lured_129 rfl (fun x3 => ?_)
    refine r_iconst (q := 133) (v := (1 : Int32)) dX1_lured_132 rfl (by decide) ?_
    refine r_aload_n (q := 134) dX1_lured_133 rfl rfl rfl ?_
    refine r_gR (q := 137) fl_X1_74 rfl dX1_lured_134 rfl (fun x4 => ?_)
    refine r_iconst (q := 138) (v := (0 : Int32)) dX1_lured_137 rfl (by decide) ?_
    refine r_iaload (q := 139) dX1_lured_138 rfl (fun x5 => ?_)
    refine r_iconst (q := 140) (v := (1 : Int32)) dX1_lured_139 rfl (by decide) ?_
    refine r_iadd (q := 141) dX1_lured_140 rfl ?_
    refine r_iastore (q := 142) dX1_lured_141 rfl (fun σ6 => ?_)
    exact r_le (w_X1_lured_b142 G h0 N K117 hK117 N _ _ _ _ _ _ _ _) (Nat.le_refl _) (And.intro rfl (And.intro rfl (And.intro rfl (And.intro rfl (And.intro rfl (And.intro rfl (And.intro rfl trivial)))))))
theorem w_X1_lured_b117 (G : Gx) (h0 : G0 G) (N : Nat)   : ∀ (z : Nat) (a0 : Nat) (l1 : Int32) (l2 : Int32) (l3 : Int32) (l4 : Int32) (l5 : Int32) (l6 : Int32) (σ : Mem), Runs G mX1_lured rhoI σ 117 [some (vR (some a0)), some (vI l1), some (vI l2), some (vI l3), some (vI l4), some (vI l5), some (vI l6)] [] (f_X1_lured_b117 N  z a0 l1 l2 l3 l4 l5 l6 σ) := by
  intro z
  induction z with
  | zero => exact fun _ _ _ _ _ _ _ _ => r_none
  | succ z ih => exact fun a0 l1 l2 l3 l4 l5 l6 σ => w_X1_lured_b117B G h0 N   _ ih a0 l1 l2 l3 l4 l5 l6 σ
theorem w_X1_lured_b49B (G : Gx) (h0 : G0 G) (N : Nat)   (K49 : Nat → Int32 → Int32 → Int32 → Int32 → Int32 → Int32 → Mem → Option (Int32 × Mem)) (hK49 : ∀ (a0 : Nat) (l1 : Int32) (l2 : Int32) (l3 : Int32) (l4 : Int32) (l5 : Int32) (l6 : Int32) (σ : Mem), Runs G mX1_lured rhoI σ 49 [some (vR (some a0)), some (vI l1), some (vI l2), some (vI l3), some (vI l4), some (vI l5), some (vI l6)] [] (K49 a0 l1 l2 l3 l4 l5 l6 σ)) (a0 : Nat) (l1 : Int32) (l2 : Int32) (l3 : Int32) (l4 : Int32) (l5 : Int32) (l6 : Int32) (σ : Mem) : Runs G mX1_lured rhoI σ 49 [some (vR (some a0)), some (vI l1), some (vI l2), some (vI l3), some (vI l4), some (vI l5), some (vI l6)] [] (f_X1_lured_b49B N  K49 a0 l1 l2 l3 l4 l5 l6 σ) := by
  unfold f_X1_lured_b49B
  refine r_aload_n (q := 50) dX1_lured_49 rfl rfl rfl ?_
  refine r_gR (q := 53) fl_X1_74 rfl dX1_lured_50 rfl (fun x1 => ?_)
  refine r_iconst (q := 54) (v := (0 : Int32)) dX1_lured_53 rfl (by decide) ?_
  refine r_iaload (q := 55) dX1_lured_54 rfl (fun x2 => ?_)
  refine r_iload (q := 57) dX1_lured_55 rfl rfl ?_
  refine r_icmp_ge (q := 60) (t := 110) dX1_lured_57 rfl (by decide) (fun _ => ?_) (fun _ => ?_)
  · refine r_aload_n (q := 111) dX1_lured_110 rfl rfl rfl ?_
    refine r_gR (q := 114) fl_X1_74 rfl dX1_lured_111 rfl (fun x3 => ?_)
    refine r_iconst (q := 115) (v := (0 : Int32)) dX1_lured_114 rfl (by decide) ?_
    refine r_iconst (q := 116) (v := (0 : Int32)) dX1_lured_115 rfl (by decide) ?_
    refine r_iastore (q := 117) dX1_lured_116 rfl (fun σ4 => ?_)
    exact r_le (w_X1_lured_b117 G h0 N N _ _ _ _ _ _ _ _) (Nat.le_refl _) (And.intro rfl (And.intro rfl (And.intro rfl (And.intro rfl (And.intro rfl (And.intro rfl (And.intro rfl trivial)))))))
  · refine r_aload_n (q := 61) dX1_lured_60 rfl rfl rfl ?_
    refine r_gR (q := 64) fl_X1_40 rfl dX1_lured_61 rfl (fun x5 => ?_)
    refine r_aload_n (q := 65) dX1_lured_64 rfl rfl rfl ?_
    refine r_gR (q := 68) fl_X1_33 rfl dX1_lured_65 rfl (fun x6 => ?_)
    refine r_ob (fun a9 ha9 => ?_)
    obtain ⟨hea9, hka9⟩ := o_at_eq ha9
    cases hea9
    refine r_callV (q := 71) (c_X4_become G h0 N _ _ _) (cl_V (ci := 3) rfl rfl (lw_V q1677 q1678 q1679 q173 q1680) (hd_X4_become) ⟨Nat.le_of_ble_eq_true rfl, Nat.le_of_ble_eq_true rfl⟩ (List.mem_singleton.mp hka9) rfl rfl rfl (Nat.le_of_ble_eq_true rfl) dX1_lured_68) rfl (fun u7 σ8 => ?_)
    refine r_aload_n (q := 72) dX1_lured_71 rfl rfl rfl ?_
    refine r_aload_n (q := 73) dX1_lured_72 rfl rfl rfl ?_
    refine r_gR (q := 76) fl_X1_74 rfl dX1_lured_73 rfl (fun x10 => ?_)
    refine r_iconst (q := 77) (v := (0 : Int32)) dX1_lured_76 rfl (by decide) ?_
    refine r_iaload (q := 78) dX1_lured_77 rfl (fun x11 => ?_)
    refine r_iload (q := 80) dX1_lured_78 rfl rfl ?_
    refine r_ob (fun a14 ha14 => ?_)
    obtain ⟨hea14, hka14⟩ := o_at_eq ha14
    cases hea14
    refine r_callV (q := 83) (c_X1_lure G h0 N _ _ _ _) (cl_V (ci := 0) rfl rfl (lw_V q1686 q1688 qs71 q167 q1689) (hd_X1_lure) ⟨Nat.le_of_ble_eq_true rfl, Nat.le_of_ble_eq_true rfl⟩ (List.mem_singleton.mp hka14) rfl rfl rfl (Nat.le_of_ble_eq_true rfl) dX1_lured_80) rfl (fun u12 σ13 => ?_)
    refine r_aload_n (q := 84) dX1_lured_83 rfl rfl rfl ?_
    refine r_iload_n (q := 85) dX1_lured_84 rfl rfl rfl ?_
    refine r_iload_n (q := 86) dX1_lured_85 rfl rfl rfl ?_
    refine r_iload_n (q := 87) dX1_lured_86 rfl rfl rfl ?_
    refine r_iload (q := 89) dX1_lured_87 rfl rfl ?_
    refine r_ob (fun a17 ha17 => ?_)
    obtain ⟨hea17, hka17⟩ := o_at_eq ha17
    cases hea17
    refine r_callI (q := 92) (c_X1_comes G h0 N _ _ _ _ _ _) (cl_V (ci := 0) rfl rfl (lw_V q1682 q1684 qs70 q167 q1685) (hd_X1_comes) ⟨Nat.le_of_ble_eq_true rfl, Nat.le_of_ble_eq_true rfl⟩ (List.mem_singleton.mp hka17) rfl rfl rfl (Nat.le_of_ble_eq_true rfl) dX1_lured_89) rfl (fun x15 σ16 => ?_)
    refine r_if_eq (q := 95) (t := 97) dX1_lured_92 rfl (by decide) (fun _ => ?_) (fun _ => ?_)
    · refine r_aload_n (q := 98) dX1_lured_97 rfl rfl rfl ?_
      refine r_gR (q := 101) fl_X1_74 rfl dX1_lured_98 rfl (fun x18 => ?_)
      refine r_iconst (q := 102) (v := (0 : Int32)) dX1_lured_101 rfl (by decide) ?_
      refine r_dup2 (q := 103) dX1_lured_102 rfl rfl rfl ?_
      refine r_iaload (q := 104) dX1_lured_103 rfl (fun x19 => ?_)
      refine r_iconst (q := 105) (v := (1 : Int32)) dX1_lured_104 rfl (by decide) ?_
      refine r_iadd (q := 106) dX1_lured_105 rfl ?_
      refine r_iastore (q := 107) dX1_lured_106 rfl (fun σ20 => ?_)
      refine r_goto (q := 49) dX1_lured_107 (by decide) ?_
      exact r_le (hK49 _ _ _ _ _ _ _ _) (Nat.le_refl _) (And.intro rfl (And.intro rfl (And.intro rfl (And.intro rfl (And.intro rfl (And.intro rfl (And.intro rfl trivial)))))))
    · refine r_iconst (q := 96) (v := (1 : Int32)) dX1_lured_95 rfl (by decide) ?_
      exact r_ireturn rfl rfl dX1_lured_96
theorem w_X1_lured_b49 (G : Gx) (h0 : G0 G) (N : Nat)   : ∀ (z : Nat) (a0 : Nat) (l1 : Int32) (l2 : Int32) (l3 : Int32) (l4 : Int32) (l5 : Int32) (l6 : Int32) (σ : Mem), Runs G mX1_lured rhoI σ 49 [some (vR (some a0)), some (vI l1), some (vI l2), some (vI l3), some (vI l4), some (vI l5), some (vI l6)] [] (f_X1_lured_b49 N  z a0 l1 l2 l3 l4 l5 l6 σ) := by
  intro z
  induction z with
  | zero => exact fun _ _ _ _ _ _ _ _ => r_none
  | succ z ih => exact fun a0 l1 l2 l3 l4 l5 l6 σ => w_X1_lured_b49B G h0 N   _ ih a0 l1 l2 l3 l4 l5 l6 σ
theorem c_X1_lured (G : Gx) (h0 : G0 G) (N : Nat) (a0 : Nat) (i1 : Int32) (i2 : Int32) (i3 : Int32) (i4 : Int32) (i5 : Int32) (σ : Mem) : Ct G mX1_lured rhoI [vR (some a0), vI i1, vI i2, vI i3, vI i4, vI i5] σ (f_X1_lured N a0 i1 i2 i3 i4 i5 σ) := by
  refine Ct_of h0 (by decide) rfl (Nat.le_of_ble_eq_true rfl) (L0 := [some (vR (some a0)), some (vI i1), some (vI i2), some (vI i3), some (vI i4), some (vI i5), none]) rfl ?_
  unfold f_X1_lured
  refine r_aload_n (q := 1) dX1_lured_0 rfl rfl rfl ?_
  refine r_gR (q := 4) fl_X1_40 rfl dX1_lured_1 rfl (fun x1 => ?_)
  refine r_aload_n (q := 5) dX1_lured_4 rfl rfl rfl ?_
  refine r_gR (q := 8) fl_X1_33 rfl dX1_lured_5 rfl (fun x2 => ?_)
  refine r_ob (fun a5 ha5 => ?_)
  obtain ⟨hea5, hka5⟩ := o_at_eq ha5
  cases hea5
  refine r_callV (q := 11) (c_X4_become G h0 N _ _ _) (cl_V (ci := 3) rfl rfl (lw_V q1677 q1678 q1679 q173 q1680) (hd_X4_become) ⟨Nat.le_of_ble_eq_true rfl, Nat.le_of_ble_eq_true rfl⟩ (List.mem_singleton.mp hka5) rfl rfl rfl (Nat.le_of_ble_eq_true rfl) dX1_lured_8) rfl (fun u3 σ4 => ?_)
  refine r_aload_n (q := 12) dX1_lured_11 rfl rfl rfl ?_
  refine r_iload_n (q := 13) dX1_lured_12 rfl rfl rfl ?_
  refine r_iload_n (q := 14) dX1_lured_13 rfl rfl rfl ?_
  refine r_iload_n (q := 15) dX1_lured_14 rfl rfl rfl ?_
  refine r_iload (q := 17) dX1_lured_15 rfl rfl ?_
  refine r_ob (fun a8 ha8 => ?_)
  obtain ⟨hea8, hka8⟩ := o_at_eq ha8
  cases hea8
  refine r_callI (q := 20) (c_X1_comes G h0 N _ _ _ _ _ _) (cl_V (ci := 0) rfl rfl (lw_V q1682 q1684 qs70 q167 q1685) (hd_X1_comes) ⟨Nat.le_of_ble_eq_true rfl, Nat.le_of_ble_eq_true rfl⟩ (List.mem_singleton.mp hka8) rfl rfl rfl (Nat.le_of_ble_eq_true rfl) dX1_lured_17) rfl (fun x6 σ7 => ?_)
  refine r_if_eq (q := 23) (t := 25) dX1_lured_20 rfl (by decide) (fun _ => ?_) (fun _ => ?_)
  · refine r_aload_n (q := 26) dX1_lured_25 rfl rfl rfl ?_
    refine r_gR (q := 29) fl_X1_104 rfl dX1_lured_26 rfl (fun x9 => ?_)
    refine r_gI (q := 32) fl_X1_130 dX1_lured_29 rfl (fun x10 => ?_)
    refine r_aload_n (q := 33) dX1_lured_32 rfl rfl rfl ?_
    refine r_gR (q := 36) fl_X1_104 rfl dX1_lured_33 rfl (fun x11 => ?_)
    refine r_gI (q := 39) fl_X1_148 dX1_lured_36 rfl (fun x12 => ?_)
    refine r_imul (q := 40) dX1_lured_39 rfl ?_
    refine r_istore (q := 42) dX1_lured_40 rfl (Nat.le_of_ble_eq_true rfl) rfl ?_
    refine r_aload_n (q := 43) dX1_lured_42 rfl rfl rfl ?_
    refine r_gR (q := 46) fl_X1_74 rfl dX1_lured_43 rfl (fun x13 => ?_)
    refine r_iconst (q := 47) (v := (0 : Int32)) dX1_lured_46 rfl (by decide) ?_
    refine r_iconst (q := 48) (v := (0 : Int32)) dX1_lured_47 rfl (by decide) ?_
    refine r_iastore (q := 49) dX1_lured_48 rfl (fun σ14 => ?_)
    exact r_le (w_X1_lured_b49 G h0 N N _ _ _ _ _ _ _ _) (Nat.le_refl _) (And.intro rfl (And.intro rfl (And.intro rfl (And.intro rfl (And.intro rfl (And.intro rfl (And.intro rfl trivial)))))))
  · refine r_iconst (q := 24) (v := (0 : Int32)) dX1_lured_23 rfl (by decide) ?_
    exact r_ireturn rfl rfl dX1_lured_24
theorem c_X1_led (G : Gx) (h0 : G0 G) (N : Nat) (a0 : Nat) (i1 : Int32) (i2 : Int32) (i3 : Int32) (i4 : Int32) (σ : Mem) : Ct G mX1_led rhoI [vR (some a0), vI i1, vI i2, vI i3, vI i4] σ (f_X1_led N a0 i1 i2 i3 i4 σ) := by
  refine Ct_of h0 (by decide) rfl (Nat.le_of_ble_eq_true rfl) (L0 := [some (vR (some a0)), some (vI i1), some (vI i2), some (vI i3), some (vI i4), none]) rfl ?_
  unfold f_X1_led
  refine r_aload_n (q := 1) dX1_led_0 rfl rfl rfl ?_
  refine r_ob (fun a3 ha3 => ?_)
  obtain ⟨hea3, hka3⟩ := o_at_eq ha3
  cases hea3
  refine r_callV (q := 4) (c_X1_anew G h0 N _ _) (cl_V (ci := 0) rfl rfl (lw_V q485 q487 qs2 q167 q488) (hd_X1_anew) ⟨Nat.le_of_ble_eq_true rfl, Nat.le_of_ble_eq_true rfl⟩ (List.mem_singleton.mp hka3) rfl rfl rfl (Nat.le_of_ble_eq_true rfl) dX1_led_1) rfl (fun u1 σ2 => ?_)
  refine r_aload_n (q := 5) dX1_led_4 rfl rfl rfl ?_
  refine r_iload_n (q := 6) dX1_led_5 rfl rfl rfl ?_
  refine r_iload_n (q := 7) dX1_led_6 rfl rfl rfl ?_
  refine r_iload_n (q := 8) dX1_led_7 rfl rfl rfl ?_
  refine r_iload (q := 10) dX1_led_8 rfl rfl ?_
  refine r_ob (fun a6 ha6 => ?_)
  obtain ⟨hea6, hka6⟩ := o_at_eq ha6
  cases hea6
  refine r_callI (q := 13) (c_X1_luredWhy G h0 N _ _ _ _ _ _) (cl_V (ci := 0) rfl rfl (lw_V q1669 q1671 qs68 q167 q1672) (hd_X1_luredWhy) ⟨Nat.le_of_ble_eq_true rfl, Nat.le_of_ble_eq_true rfl⟩ (List.mem_singleton.mp hka6) rfl rfl rfl (Nat.le_of_ble_eq_true rfl) dX1_led_10) rfl (fun x4 σ5 => ?_)
  refine r_istore (q := 15) dX1_led_13 rfl (Nat.le_of_ble_eq_true rfl) rfl ?_
  refine r_iload (q := 17) dX1_led_15 rfl rfl ?_
  refine r_if_eq (q := 20) (t := 29) dX1_led_17 rfl (by decide) (fun _ => ?_) (fun _ => ?_)
  · refine r_aload_n (q := 30) dX1_led_29 rfl rfl rfl ?_
    refine r_iload_n (q := 31) dX1_led_30 rfl rfl rfl ?_
    refine r_iload_n (q := 32) dX1_led_31 rfl rfl rfl ?_
    refine r_iload_n (q := 33) dX1_led_32 rfl rfl rfl ?_
    refine r_iload (q := 35) dX1_led_33 rfl rfl ?_
    refine r_iconst (q := 36) (v := (0 : Int32)) dX1_led_35 rfl (by decide) ?_
    refine r_ob (fun a9 ha9 => ?_)
    obtain ⟨hea9, hka9⟩ := o_at_eq ha9
    cases hea9
    refine r_callI (q := 39) (c_X1_lured G h0 N _ _ _ _ _ _ _) (cl_V (ci := 0) rfl rfl (lw_V q1673 q1675 qs69 q167 q1676) (hd_X1_lured) ⟨Nat.le_of_ble_eq_true rfl, Nat.le_of_ble_eq_true rfl⟩ (List.mem_singleton.mp hka9) rfl rfl rfl (Nat.le_of_ble_eq_true rfl) dX1_led_36) rfl (fun x7 σ8 => ?_)
    exact r_ireturn rfl rfl dX1_led_39
  · refine r_aload_n (q := 21) dX1_led_20 rfl rfl rfl ?_
    refine r_iload (q := 23) dX1_led_21 rfl rfl ?_
    refine r_ob (fun a12 ha12 => ?_)
    obtain ⟨hea12, hka12⟩ := o_at_eq ha12
    cases hea12
    refine r_callI (q := 26) (c_X1_no G h0 N _ _ _) (cl_V (ci := 0) rfl rfl (lw_V q492 q494 qs3 q167 q495) (hd_X1_no) ⟨Nat.le_of_ble_eq_true rfl, Nat.le_of_ble_eq_true rfl⟩ (List.mem_singleton.mp hka12) rfl rfl rfl (Nat.le_of_ble_eq_true rfl) dX1_led_23) rfl (fun x10 σ11 => ?_)
    refine r_goto (q := 39) dX1_led_26 (by decide) ?_
    exact r_ireturn rfl rfl dX1_led_39
theorem w_X7_refusesLed_b24 (G : Gx) (h0 : G0 G) (N : Nat)    (σ : Mem) : Runs G mX7_refusesLed rhoI σ 24 [none, none, none, none, none] [] (f_X7_refusesLed_b24 N   σ) := by
  unfold f_X7_refusesLed_b24
  refine r_iconst (q := 25) (v := (1 : Int32)) dX7_refusesLed_24 rfl (by decide) ?_
  refine r_goto (q := 42) dX7_refusesLed_25 (by decide) ?_
  exact r_ireturn rfl rfl dX7_refusesLed_42
theorem c_X7_refusesLed (G : Gx) (h0 : G0 G) (N : Nat) (a0 : Nat) (i1 : Int32) (i2 : Int32) (i3 : Int32) (i4 : Int32) (σ : Mem) : Ct G mX7_refusesLed rhoI [vR (some a0), vI i1, vI i2, vI i3, vI i4] σ (f_X7_refusesLed N a0 i1 i2 i3 i4 σ) := by
  refine Ct_of h0 (by decide) rfl (Nat.le_of_ble_eq_true rfl) (L0 := [some (vR (some a0)), some (vI i1), some (vI i2), some (vI i3), some (vI i4)]) rfl ?_
  unfold f_X7_refusesLed
  refine r_aload_n (q := 1) dX7_refusesLed_0 rfl rfl rfl ?_
  refine r_iload_n (q := 2) dX7_refusesLed_1 rfl rfl rfl ?_
  refine r_ob (fun a3 ha3 => ?_)
  obtain ⟨hea3, hka3⟩ := o_at_eq ha3
  cases hea3
  refine r_callI (q := 5) (c_X7_isCase G h0 N _ _ _) (cl_V (ci := 6) rfl rfl (lw_V q2455 q2457 qs126 q176 q2458) (hd_X7_isCase) ⟨Nat.le_of_ble_eq_true rfl, Nat.le_of_ble_eq_true rfl⟩ (List.mem_singleton.mp hka3) rfl rfl rfl (Nat.le_of_ble_eq_true rfl) dX7_refusesLed_2) rfl (fun x1 σ2 => ?_)
  refine r_if_eq (q := 8) (t := 24) dX7_refusesLed_5 rfl (by decide) (fun _ => ?_) (fun _ => ?_)
  · exact r_le (w_X7_refusesLed_b24 G h0 N  _) (Nat.le_refl _) trivial
  · refine r_aload_n (q := 9) dX7_refusesLed_8 rfl rfl rfl ?_
    refine r_iload_n (q := 10) dX7_refusesLed_9 rfl rfl rfl ?_
    refine r_ob (fun a6 ha6 => ?_)
    obtain ⟨hea6, hka6⟩ := o_at_eq ha6
    cases hea6
    refine r_callI (q := 13) (c_X7_isGoat G h0 N _ _ _) (cl_V (ci := 6) rfl rfl (lw_V q2411 q2413 qs121 q176 q2414) (hd_X7_isGoat) ⟨Nat.le_of_ble_eq_true rfl, Nat.le_of_ble_eq_true rfl⟩ (List.mem_singleton.mp hka6) rfl rfl rfl (Nat.le_of_ble_eq_true rfl) dX7_refusesLed_10) rfl (fun x4 σ5 => ?_)
    refine r_if_eq (q := 16) (t := 24) dX7_refusesLed_13 rfl (by decide) (fun _ => ?_) (fun _ => ?_)
    · exact r_le (w_X7_refusesLed_b24 G h0 N  _) (Nat.le_refl _) trivial
    · refine r_aload_n (q := 17) dX7_refusesLed_16 rfl rfl rfl ?_
      refine r_iload_n (q := 18) dX7_refusesLed_17 rfl rfl rfl ?_
      refine r_ob (fun a9 ha9 => ?_)
      obtain ⟨hea9, hka9⟩ := o_at_eq ha9
      cases hea9
      refine r_callI (q := 21) (c_X7_isPlace G h0 N _ _ _) (cl_V (ci := 6) rfl rfl (lw_V q2395 q2397 qs119 q176 q2398) (hd_X7_isPlace) ⟨Nat.le_of_ble_eq_true rfl, Nat.le_of_ble_eq_true rfl⟩ (List.mem_singleton.mp hka9) rfl rfl rfl (Nat.le_of_ble_eq_true rfl) dX7_refusesLed_18) rfl (fun x7 σ8 => ?_)
      refine r_if_ne (q := 24) (t := 28) dX7_refusesLed_21 rfl (by decide) (fun _ => ?_) (fun _ => ?_)
      · exact r_le (w_X7_refusesLed_b24 G h0 N  _) (Nat.le_refl _) trivial
      · refine r_aload_n (q := 29) dX7_refusesLed_28 rfl rfl rfl ?_
        refine r_iload (q := 31) dX7_refusesLed_29 rfl rfl ?_
        refine r_ob (fun a12 ha12 => ?_)
        obtain ⟨hea12, hka12⟩ := o_at_eq ha12
        cases hea12
        refine r_callI (q := 34) (c_X7_isHour G h0 N _ _ _) (cl_V (ci := 6) rfl rfl (lw_V q2439 q2441 qs125 q176 q2442) (hd_X7_isHour) ⟨Nat.le_of_ble_eq_true rfl, Nat.le_of_ble_eq_true rfl⟩ (List.mem_singleton.mp hka12) rfl rfl rfl (Nat.le_of_ble_eq_true rfl) dX7_refusesLed_31) rfl (fun x10 σ11 => ?_)
        refine r_if_eq (q := 37) (t := 41) dX7_refusesLed_34 rfl (by decide) (fun _ => ?_) (fun _ => ?_)
        · refine r_iconst (q := 42) (v := (2 : Int32)) dX7_refusesLed_41 rfl (by decide) ?_
          exact r_ireturn rfl rfl dX7_refusesLed_42
        · refine r_iconst (q := 38) (v := (0 : Int32)) dX7_refusesLed_37 rfl (by decide) ?_
          refine r_goto (q := 42) dX7_refusesLed_38 (by decide) ?_
          exact r_ireturn rfl rfl dX7_refusesLed_42
theorem c_X7_isThere (G : Gx) (h0 : G0 G) (N : Nat) (a0 : Nat) (i1 : Int32) (i2 : Int32) (i3 : Int32) (i4 : Int32) (σ : Mem) : Ct G mX7_isThere rhoI [vR (some a0), vI i1, vI i2, vI i3, vI i4] σ (f_X7_isThere N a0 i1 i2 i3 i4 σ) := by
  refine Ct_of h0 (by decide) rfl (Nat.le_of_ble_eq_true rfl) (L0 := [some (vR (some a0)), some (vI i1), some (vI i2), some (vI i3), some (vI i4)]) rfl ?_
  unfold f_X7_isThere
  refine r_aload_n (q := 1) dX7_isThere_0 rfl rfl rfl ?_
  refine r_iload_n (q := 2) dX7_isThere_1 rfl rfl rfl ?_
  refine r_ob (fun a3 ha3 => ?_)
  obtain ⟨hea3, hka3⟩ := o_at_eq ha3
  cases hea3
  refine r_callV (q := 5) (c_X7_day G h0 N _ _ _) (cl_V (ci := 6) rfl rfl (lw_V q2467 q2469 qs127 q176 q2470) (hd_X7_day) ⟨Nat.le_of_ble_eq_true rfl, Nat.le_of_ble_eq_true rfl⟩ (List.mem_singleton.mp hka3) rfl rfl rfl (Nat.le_of_ble_eq_true rfl) dX7_isThere_2) rfl (fun u1 σ2 => ?_)
  refine r_aload_n (q := 6) dX7_isThere_5 rfl rfl rfl ?_
  refine r_gR (q := 9) fl_X7_30 rfl dX7_isThere_6 rfl (fun x4 => ?_)
  refine r_bipush (q := 11) (v := (12 : Int32)) dX7_isThere_9 rfl (by decide) ?_
  refine r_iload_n (q := 12) dX7_isThere_11 rfl rfl rfl ?_
  refine r_imul (q := 13) dX7_isThere_12 rfl ?_
  refine r_iload (q := 15) dX7_isThere_13 rfl rfl ?_
  refine r_iadd (q := 16) dX7_isThere_15 rfl ?_
  refine r_iaload (q := 17) dX7_isThere_16 rfl (fun x5 => ?_)
  refine r_iload_n (q := 18) dX7_isThere_17 rfl rfl rfl ?_
  refine r_icmp_ne (q := 21) (t := 25) dX7_isThere_18 rfl (by decide) (fun _ => ?_) (fun _ => ?_)
  · refine r_iconst (q := 22) (v := (1 : Int32)) dX7_isThere_21 rfl (by decide) ?_
    refine r_goto (q := 26) dX7_isThere_22 (by decide) ?_
    exact r_ireturnN rfl dX7_isThere_26
  · refine r_iconst (q := 26) (v := (0 : Int32)) dX7_isThere_25 rfl (by decide) ?_
    exact r_ireturnN rfl dX7_isThere_26
theorem w_X7_isSpot_b53 (G : Gx) (h0 : G0 G) (N : Nat)    (σ : Mem) : Runs G mX7_isSpot rhoI σ 53 [none, none, none] [] (f_X7_isSpot_b53 N   σ) := by
  unfold f_X7_isSpot_b53
  refine r_iconst (q := 54) (v := (0 : Int32)) dX7_isSpot_53 rfl (by decide) ?_
  exact r_ireturnN rfl dX7_isSpot_54
theorem c_X7_isSpot (G : Gx) (h0 : G0 G) (N : Nat) (a0 : Nat) (i1 : Int32) (i2 : Int32) (σ : Mem) : Ct G mX7_isSpot rhoI [vR (some a0), vI i1, vI i2] σ (f_X7_isSpot N a0 i1 i2 σ) := by
  refine Ct_of h0 (by decide) rfl (Nat.le_of_ble_eq_true rfl) (L0 := [some (vR (some a0)), some (vI i1), some (vI i2)]) rfl ?_
  unfold f_X7_isSpot
  refine r_iload_n (q := 1) dX7_isSpot_0 rfl rfl rfl ?_
  refine r_bipush (q := 3) (v := (12 : Int32)) dX7_isSpot_1 rfl (by decide) ?_
  refine r_irem (q := 4) dX7_isSpot_3 rfl (fun x1 _ => ?_)
  refine r_aload_n (q := 5) dX7_isSpot_4 rfl rfl rfl ?_
  refine r_gR (q := 8) fl_X7_442 rfl dX7_isSpot_5 rfl (fun x2 => ?_)
  refine r_gI (q := 11) fl_X7_196 dX7_isSpot_8 rfl (fun x3 => ?_)
  refine r_icmp_ge (q := 14) (t := 53) dX7_isSpot_11 rfl (by decide) (fun _ => ?_) (fun _ => ?_)
  · exact r_le (w_X7_isSpot_b53 G h0 N  _) (Nat.le_refl _) trivial
  · refine r_iload_n (q := 15) dX7_isSpot_14 rfl rfl rfl ?_
    refine r_bipush (q := 17) (v := (12 : Int32)) dX7_isSpot_15 rfl (by decide) ?_
    refine r_idiv (q := 18) dX7_isSpot_17 rfl (fun x4 _ => ?_)
    refine r_aload_n (q := 19) dX7_isSpot_18 rfl rfl rfl ?_
    refine r_gR (q := 22) fl_X7_442 rfl dX7_isSpot_19 rfl (fun x5 => ?_)
    refine r_gI (q := 25) fl_X7_241 dX7_isSpot_22 rfl (fun x6 => ?_)
    refine r_icmp_ge (q := 28) (t := 53) dX7_isSpot_25 rfl (by decide) (fun _ => ?_) (fun _ => ?_)
    · exact r_le (w_X7_isSpot_b53 G h0 N  _) (Nat.le_refl _) trivial
    · refine r_aload_n (q := 29) dX7_isSpot_28 rfl rfl rfl ?_
      refine r_gR (q := 32) fl_X7_21 rfl dX7_isSpot_29 rfl (fun x7 => ?_)
      refine r_iload_n (q := 33) dX7_isSpot_32 rfl rfl rfl ?_
      refine r_iload_n (q := 34) dX7_isSpot_33 rfl rfl rfl ?_
      refine r_bipush (q := 36) (v := (12 : Int32)) dX7_isSpot_34 rfl (by decide) ?_
      refine r_idiv (q := 37) dX7_isSpot_36 rfl (fun x8 _ => ?_)
      refine r_iadd (q := 38) dX7_isSpot_37 rfl ?_
      refine r_iaload (q := 39) dX7_isSpot_38 rfl (fun x9 => ?_)
      refine r_iload_n (q := 40) dX7_isSpot_39 rfl rfl rfl ?_
      refine r_bipush (q := 42) (v := (12 : Int32)) dX7_isSpot_40 rfl (by decide) ?_
      refine r_irem (q := 43) dX7_isSpot_42 rfl (fun x10 _ => ?_)
      refine r_callI (q := 46) (c_X7_bit G h0 N _ _ _) (cl_S rfl rfl (lw_S q2331 q2332 q176 q2333) (hd_X7_bit) ⟨Nat.le_of_ble_eq_true rfl, Nat.le_of_ble_eq_true rfl⟩ rfl (Nat.le_of_ble_eq_true rfl) dX7_isSpot_43) rfl (fun x11 σ12 => ?_)
      refine r_if_ne (q := 49) (t := 53) dX7_isSpot_46 rfl (by decide) (fun _ => ?_) (fun _ => ?_)
      · refine r_iconst (q := 50) (v := (1 : Int32)) dX7_isSpot_49 rfl (by decide) ?_
        refine r_goto (q := 54) dX7_isSpot_50 (by decide) ?_
        exact r_ireturnN rfl dX7_isSpot_54
      · exact r_le (w_X7_isSpot_b53 G h0 N  _) (Nat.le_refl _) trivial
theorem c_X7_turn (G : Gx) (h0 : G0 G) (N : Nat) (a0 : Nat) (i1 : Int32) (i2 : Int32) (σ : Mem) : Ct G mX7_turn rhoV [vR (some a0), vI i1, vI i2] σ (f_X7_turn N a0 i1 i2 σ) := by
  refine Ct_of h0 (by decide) rfl (Nat.le_of_ble_eq_true rfl) (L0 := [some (vR (some a0)), some (vI i1), some (vI i2)]) rfl ?_
  unfold f_X7_turn
  refine r_aload_n (q := 1) dX7_turn_0 rfl rfl rfl ?_
  refine r_gR (q := 4) fl_X7_21 rfl dX7_turn_1 rfl (fun x1 => ?_)
  refine r_iload_n (q := 5) dX7_turn_4 rfl rfl rfl ?_
  refine r_iload_n (q := 6) dX7_turn_5 rfl rfl rfl ?_
  refine r_bipush (q := 8) (v := (12 : Int32)) dX7_turn_6 rfl (by decide) ?_
  refine r_idiv (q := 9) dX7_turn_8 rfl (fun x2 _ => ?_)
  refine r_iadd (q := 10) dX7_turn_9 rfl ?_
  refine r_dup2 (q := 11) dX7_turn_10 rfl rfl rfl ?_
  refine r_iaload (q := 12) dX7_turn_11 rfl (fun x3 => ?_)
  refine r_iconst (q := 13) (v := (1 : Int32)) dX7_turn_12 rfl (by decide) ?_
  refine r_iload_n (q := 14) dX7_turn_13 rfl rfl rfl ?_
  refine r_bipush (q := 16) (v := (12 : Int32)) dX7_turn_14 rfl (by decide) ?_
  refine r_irem (q := 17) dX7_turn_16 rfl (fun x4 _ => ?_)
  refine r_ishl (q := 18) dX7_turn_17 rfl ?_
  refine r_ixor (q := 19) dX7_turn_18 rfl ?_
  refine r_iastore (q := 20) dX7_turn_19 rfl (fun σ5 => ?_)
  exact r_return rfl dX7_turn_20
theorem w_X7_fewest_b188 (G : Gx) (h0 : G0 G) (N : Nat) (K86 : Nat → Int32 → Int32 → Int32 → Int32 → Int32 → Int32 → Mem → Option (Int32 × Mem)) (K99 : Nat → Int32 → Int32 → Int32 → Int32 → Int32 → Int32 → Int32 → Mem → Option (Int32 × Mem)) (hK86 : ∀ (a0 : Nat) (l1 : Int32) (l2 : Int32) (l3 : Int32) (l4 : Int32) (l5 : Int32) (l6 : Int32) (σ : Mem), Runs G mX7_fewest rhoI σ 86 [some (vR (some a0)), some (vI l1), some (vI l2), some (vI l3), some (vI l4), some (vI l5), some (vI l6), none, none] [] (K86 a0 l1 l2 l3 l4 l5 l6 σ)) (hK99 : ∀ (a0 : Nat) (l1 : Int32) (l2 : Int32) (l3 : Int32) (l4 : Int32) (l5 : Int32) (l6 : Int32) (l7 : Int32) (σ : Mem), Runs G mX7_fewest rhoI σ 99 [some (vR (some a0)), some (vI l1), some (vI l2), some (vI l3), some (vI l4), some (vI l5), some (vI l6), some (vI l7), none] [] (K99 a0 l1 l2 l3 l4 l5 l6 l7 σ)) (a0 : Nat) (l1 : Int32) (l2 : Int32) (l3 : Int32) (l4 : Int32) (l5 : Int32) (l6 : Int32) (l7 : Int32) (σ : Mem) : Runs G mX7_fewest rhoI σ 188 [some (vR (some a0)), some (vI l1), some (vI l2), some (vI l3), some (vI l4), some (vI l5), some (vI l6), some (vI l7), none] [] (f_X7_fewest_b188 N K86 K99 a0 l1 l2 l3 l4 l5 l6 l7 σ) := by
  unfold f_X7_fewest_b188
  refine r_iinc (q := 191) (v := (1 : Int32)) dX7_fewest_188 rfl rfl (by decide) (Nat.le_of_ble_eq_true rfl) rfl ?_
  refine r_goto (q := 99) dX7_fewest_191 (by decide) ?_
  exact r_le (hK99 _ _ _ _ _ _ _ _ _) (Nat.le_refl _) (And.intro rfl (And.intro rfl (And.intro rfl (And.intro rfl (And.intro rfl (And.intro rfl (And.intro rfl (And.intro rfl trivial))))))))
theorem w_X7_fewest_b99B (G : Gx) (h0 : G0 G) (N : Nat) (K86 : Nat → Int32 → Int32 → Int32 → Int32 → Int32 → Int32 → Mem → Option (Int32 × Mem)) (hK86 : ∀ (a0 : Nat) (l1 : Int32) (l2 : Int32) (l3 : Int32) (l4 : Int32) (l5 : Int32) (l6 : Int32) (σ : Mem), Runs G mX7_fewest rhoI σ 86 [some (vR (some a0)), some (vI l1), some (vI l2), some (vI l3), some (vI l4), some (vI l5), some (vI l6), none, none] [] (K86 a0 l1 l2 l3 l4 l5 l6 σ)) (K99 : Nat → Int32 → Int32 → Int32 → Int32 → Int32 → Int32 → Int32 → Mem → Option (Int32 × Mem)) (hK99 : ∀ (a0 : Nat) (l1 : Int32) (l2 : Int32) (l3 : Int32) (l4 : Int32) (l5 : Int32) (l6 : Int32) (l7 : Int32) (σ : Mem), Runs G mX7_fewest rhoI σ 99 [some (vR (some a0)), some (vI l1), some (vI l2), some (vI l3), some (vI l4), some (vI l5), some (vI l6), some (vI l7), none] [] (K99 a0 l1 l2 l3 l4 l5 l6 l7 σ)) (a0 : Nat) (l1 : Int32) (l2 : Int32) (l3 : Int32) (l4 : Int32) (l5 : Int32) (l6 : Int32) (l7 : Int32) (σ : Mem) : Runs G mX7_fewest rhoI σ 99 [some (vR (some a0)), some (vI l1), some (vI l2), some (vI l3), some (vI l4), some (vI l5), some (vI l6), some (vI l7), none] [] (f_X7_fewest_b99B N K86 K99 a0 l1 l2 l3 l4 l5 l6 l7 σ) := by
  unfold f_X7_fewest_b99B
  refine r_iload (q := 101) dX7_fewest_99 rfl rfl ?_
  refine r_bipush (q := 103) (v := (96 : Int32)) dX7_fewest_101 rfl (by decide) ?_
  refine r_icmp_ge (q := 106) (t := 194) dX7_fewest_103 rfl (by decide) (fun _ => ?_) (fun _ => ?_)
  · refine r_iinc (q := 197) (v := (1 : Int32)) dX7_fewest_194 rfl rfl (by decide) (Nat.le_of_ble_eq_true rfl) rfl ?_
    refine r_goto (q := 86) dX7_fewest_197 (by decide) ?_
    exact r_le (hK86 _ _ _ _ _ _ _ _) (Nat.le_refl _) (And.intro rfl (And.intro rfl (And.intro rfl (And.intro rfl (And.intro rfl (And.intro rfl (And.intro rfl trivial)))))))
  · refine r_aload_n (q := 107) dX7_fewest_106 rfl rfl rfl ?_
    refine r_iload_n (q := 108) dX7_fewest_107 rfl rfl rfl ?_
    refine r_iload (q := 110) dX7_fewest_108 rfl rfl ?_
    refine r_ob (fun a3 ha3 => ?_)
    obtain ⟨hea3, hka3⟩ := o_at_eq ha3
    cases hea3
    refine r_callI (q := 113) (c_X7_isSpot G h0 N _ _ _ _) (cl_V (ci := 6) rfl rfl (lw_V q2637 q2639 qs150 q176 q2640) (hd_X7_isSpot) ⟨Nat.le_of_ble_eq_true rfl, Nat.le_of_ble_eq_true rfl⟩ (List.mem_singleton.mp hka3) rfl rfl rfl (Nat.le_of_ble_eq_true rfl) dX7_fewest_110) rfl (fun x1 σ2 => ?_)
    refine r_if_eq (q := 116) (t := 188) dX7_fewest_113 rfl (by decide) (fun _ => ?_) (fun _ => ?_)
    · exact r_le (w_X7_fewest_b188 G h0 N K86 K99 hK86 hK99 _ _ _ _ _ _ _ _ _) (Nat.le_refl _) (And.intro rfl (And.intro rfl (And.intro rfl (And.intro rfl (And.intro rfl (And.intro rfl (And.intro rfl (And.intro rfl trivial))))))))
    · refine r_aload_n (q := 117) dX7_fewest_116 rfl rfl rfl ?_
      refine r_iload_n (q := 118) dX7_fewest_117 rfl rfl rfl ?_
      refine r_iload (q := 120) dX7_fewest_118 rfl rfl ?_
      refine r_ob (fun a6 ha6 => ?_)
      obtain ⟨hea6, hka6⟩ := o_at_eq ha6
      cases hea6
      refine r_callI (q := 123) (c_X7_isSpot G h0 N _ _ _ _) (cl_V (ci := 6) rfl rfl (lw_V q2637 q2639 qs150 q176 q2640) (hd_X7_isSpot) ⟨Nat.le_of_ble_eq_true rfl, Nat.le_of_ble_eq_true rfl⟩ (List.mem_singleton.mp hka6) rfl rfl rfl (Nat.le_of_ble_eq_true rfl) dX7_fewest_120) rfl (fun x4 σ5 => ?_)
      refine r_if_ne (q := 126) (t := 129) dX7_fewest_123 rfl (by decide) (fun _ => ?_) (fun _ => ?_)
      · refine r_goto (q := 188) dX7_fewest_126 (by decide) ?_
        exact r_le (w_X7_fewest_b188 G h0 N K86 K99 hK86 hK99 _ _ _ _ _ _ _ _ _) (Nat.le_refl _) (And.intro rfl (And.intro rfl (And.intro rfl (And.intro rfl (And.intro rfl (And.intro rfl (And.intro rfl (And.intro rfl trivial))))))))
      · refine r_aload_n (q := 130) dX7_fewest_129 rfl rfl rfl ?_
        refine r_iload_n (q := 131) dX7_fewest_130 rfl rfl rfl ?_
        refine r_iload (q := 133) dX7_fewest_131 rfl rfl ?_
        refine r_ob (fun a9 ha9 => ?_)
        obtain ⟨hea9, hka9⟩ := o_at_eq ha9
        cases hea9
        refine r_callV (q := 136) (c_X7_turn G h0 N _ _ _ _) (cl_V (ci := 6) rfl rfl (lw_V q2641 q2643 qs151 q176 q2644) (hd_X7_turn) ⟨Nat.le_of_ble_eq_true rfl, Nat.le_of_ble_eq_true rfl⟩ (List.mem_singleton.mp hka9) rfl rfl rfl (Nat.le_of_ble_eq_true rfl) dX7_fewest_133) rfl (fun u7 σ8 => ?_)
        refine r_aload_n (q := 137) dX7_fewest_136 rfl rfl rfl ?_
        refine r_iload_n (q := 138) dX7_fewest_137 rfl rfl rfl ?_
        refine r_iload (q := 140) dX7_fewest_138 rfl rfl ?_
        refine r_ob (fun a12 ha12 => ?_)
        obtain ⟨hea12, hka12⟩ := o_at_eq ha12
        cases hea12
        refine r_callV (q := 143) (c_X7_turn G h0 N _ _ _ _) (cl_V (ci := 6) rfl rfl (lw_V q2641 q2643 qs151 q176 q2644) (hd_X7_turn) ⟨Nat.le_of_ble_eq_true rfl, Nat.le_of_ble_eq_true rfl⟩ (List.mem_singleton.mp hka12) rfl rfl rfl (Nat.le_of_ble_eq_true rfl) dX7_fewest_140) rfl (fun u10 σ11 => ?_)
        refine r_aload_n (q := 144) dX7_fewest_143 rfl rfl rfl ?_
        refine r_iload_n (q := 145) dX7_fewest_144 rfl rfl rfl ?_
        refine r_iload_n (q := 146) dX7_fewest_145 rfl rfl rfl ?_
        refine r_iload (q := 148) dX7_fewest_146 rfl rfl ?_
        refine r_iload (q := 150) dX7_fewest_148 rfl rfl ?_
        refine r_ob (fun a15 ha15 => ?_)
        obtain ⟨hea15, hka15⟩ := o_at_eq ha15
        cases hea15
        refine r_callI (q := 153) (c_X7_isThere G h0 N _ _ _ _ _ _) (cl_V (ci := 6) rfl rfl (lw_V q2633 q2635 qs149 q176 q2636) (hd_X7_isThere) ⟨Nat.le_of_ble_eq_true rfl, Nat.le_of_ble_eq_true rfl⟩ (List.mem_singleton.mp hka15) rfl rfl rfl (Nat.le_of_ble_eq_true rfl) dX7_fewest_150) rfl (fun x13 σ14 => ?_)
        refine r_istore (q := 155) dX7_fewest_153 rfl (Nat.le_of_ble_eq_true rfl) rfl ?_
        refine r_aload_n (q := 156) dX7_fewest_155 rfl rfl rfl ?_
        refine r_iload_n (q := 157) dX7_fewest_156 rfl rfl rfl ?_
        refine r_iload (q := 159) dX7_fewest_157 rfl rfl ?_
        refine r_ob (fun a18 ha18 => ?_)
        obtain ⟨hea18, hka18⟩ := o_at_eq ha18
        cases hea18
        refine r_callV (q := 162) (c_X7_turn G h0 N _ _ _ _) (cl_V (ci := 6) rfl rfl (lw_V q2641 q2643 qs151 q176 q2644) (hd_X7_turn) ⟨Nat.le_of_ble_eq_true rfl, Nat.le_of_ble_eq_true rfl⟩ (List.mem_singleton.mp hka18) rfl rfl rfl (Nat.le_of_ble_eq_true rfl) dX7_fewest_159) rfl (fun u16 σ17 => ?_)
        refine r_aload_n (q := 163) dX7_fewest_162 rfl rfl rfl ?_
        refine r_iload_n (q := 164) dX7_fewest_163 rfl rfl rfl ?_
        refine r_iload (q := 166) dX7_fewest_164 rfl rfl ?_
        refine r_ob (fun a21 ha21 => ?_)
        obtain ⟨hea21, hka21⟩ := o_at_eq ha21
        cases hea21
        refine r_callV (q := 169) (c_X7_turn G h0 N _ _ _ _) (cl_V (ci := 6) rfl rfl (lw_V q2641 q2643 qs151 q176 q2644) (hd_X7_turn) ⟨Nat.le_of_ble_eq_true rfl, Nat.le_of_ble_eq_true rfl⟩ (List.mem_singleton.mp hka21) rfl rfl rfl (Nat.le_of_ble_eq_true rfl) dX7_fewest_166) rfl (fun u19 σ20 => ?_)
        refine r_aload_n (q := 170) dX7_fewest_169 rfl rfl rfl ?_
        refine r_iload (q := 172) dX7_fewest_170 rfl rfl ?_
        refine r_pI (q := 175) fp_X7_fewest_562 dX7_fewest_172 rfl (fun σ22 => ?_)
        refine r_aload_n (q := 176) dX7_fewest_175 rfl rfl rfl ?_
        refine r_iload (q := 178) dX7_fewest_176 rfl rfl ?_
        refine r_pI (q := 181) fp_X7_fewest_565 dX7_fewest_178 rfl (fun σ23 => ?_)
        refine r_iload (q := 183) dX7_fewest_181 rfl rfl ?_
        refine r_if_eq (q := 186) (t := 188) dX7_fewest_183 rfl (by decide) (fun _ => ?_) (fun _ => ?_)
        · exact r_le (w_X7_fewest_b188 G h0 N K86 K99 hK86 hK99 _ _ _ _ _ _ _ _ _) (Nat.le_refl _) (And.intro rfl (And.intro rfl (And.intro rfl (And.intro rfl (And.intro rfl (And.intro rfl (And.intro rfl (And.intro rfl trivial))))))))
        · refine r_iconst (q := 187) (v := (2 : Int32)) dX7_fewest_186 rfl (by decide) ?_
          exact r_ireturn rfl rfl dX7_fewest_187
theorem w_X7_fewest_b99 (G : Gx) (h0 : G0 G) (N : Nat) (K86 : Nat → Int32 → Int32 → Int32 → Int32 → Int32 → Int32 → Mem → Option (Int32 × Mem)) (hK86 : ∀ (a0 : Nat) (l1 : Int32) (l2 : Int32) (l3 : Int32) (l4 : Int32) (l5 : Int32) (l6 : Int32) (σ : Mem), Runs G mX7_fewest rhoI σ 86 [some (vR (some a0)), some (vI l1), some (vI l2), some (vI l3), some (vI l4), some (vI l5), some (vI l6), none, none] [] (K86 a0 l1 l2 l3 l4 l5 l6 σ)) : ∀ (z : Nat) (a0 : Nat) (l1 : Int32) (l2 : Int32) (l3 : Int32) (l4 : Int32) (l5 : Int32) (l6 : Int32) (l7 : Int32) (σ : Mem), Runs G mX7_fewest rhoI σ 99 [some (vR (some a0)), some (vI l1), some (vI l2), some (vI l3), some (vI l4), some (vI l5), some (vI l6), some (vI l7), none] [] (f_X7_fewest_b99 N K86 z a0 l1 l2 l3 l4 l5 l6 l7 σ) := by
  intro z
  induction z with
  | zero => exact fun _ _ _ _ _ _ _ _ _ => r_none
  | succ z ih => exact fun a0 l1 l2 l3 l4 l5 l6 l7 σ => w_X7_fewest_b99B G h0 N K86 hK86 _ ih a0 l1 l2 l3 l4 l5 l6 l7 σ
theorem w_X7_fewest_b86B (G : Gx) (h0 : G0 G) (N : Nat)   (K86 : Nat → Int32 → Int32 → Int32 → Int32 → Int32 → Int32 → Mem → Option (Int32 × Mem)) (hK86 : ∀ (a0 : Nat) (l1 : Int32) (l2 : Int32) (l3 : Int32) (l4 : Int32) (l5 : Int32) (l6 : Int32) (σ : Mem), Runs G mX7_fewest rhoI σ 86 [some (vR (some a0)), some (vI l1), some (vI l2), some (vI l3), some (vI l4), some (vI l5), some (vI l6), none, none] [] (K86 a0 l1 l2 l3 l4 l5 l6 σ)) (a0 : Nat) (l1 : Int32) (l2 : Int32) (l3 : Int32) (l4 : Int32) (l5 : Int32) (l6 : Int32) (σ : Mem) : Runs G mX7_fewest rhoI σ 86 [some (vR (some a0)), some (vI l1), some (vI l2), some (vI l3), some (vI l4), some (vI l5), some (vI l6), none, none] [] (f_X7_fewest_b86B N  K86 a0 l1 l2 l3 l4 l5 l6 σ) := by
  unfold f_X7_fewest_b86B
  refine r_iload (q := 88) dX7_fewest_86 rfl rfl ?_
  refine r_bipush (q := 90) (v := (96 : Int32)) dX7_fewest_88 rfl (by decide) ?_
  refine r_icmp_ge (q := 93) (t := 200) dX7_fewest_90 rfl (by decide) (fun _ => ?_) (fun _ => ?_)
  · refine r_bipush (q := 202) (v := (-2 : Int32)) dX7_fewest_200 rfl (by decide) ?_
    exact r_ireturn rfl rfl dX7_fewest_202
  · refine r_iload (q := 95) dX7_fewest_93 rfl rfl ?_
    refine r_iconst (q := 96) (v := (1 : Int32)) dX7_fewest_95 rfl (by decide) ?_
    refine r_iadd (q := 97) dX7_fewest_96 rfl ?_
    refine r_istore (q := 99) dX7_fewest_97 rfl (Nat.le_of_ble_eq_true rfl) rfl ?_
    exact r_le (w_X7_fewest_b99 G h0 N K86 hK86 N _ _ _ _ _ _ _ _ _) (Nat.le_refl _) (And.intro rfl (And.intro rfl (And.intro rfl (And.intro rfl (And.intro rfl (And.intro rfl (And.intro rfl (And.intro rfl trivial))))))))
theorem w_X7_fewest_b86 (G : Gx) (h0 : G0 G) (N : Nat)   : ∀ (z : Nat) (a0 : Nat) (l1 : Int32) (l2 : Int32) (l3 : Int32) (l4 : Int32) (l5 : Int32) (l6 : Int32) (σ : Mem), Runs G mX7_fewest rhoI σ 86 [some (vR (some a0)), some (vI l1), some (vI l2), some (vI l3), some (vI l4), some (vI l5), some (vI l6), none, none] [] (f_X7_fewest_b86 N  z a0 l1 l2 l3 l4 l5 l6 σ) := by
  intro z
  induction z with
  | zero => exact fun _ _ _ _ _ _ _ _ => r_none
  | succ z ih => exact fun a0 l1 l2 l3 l4 l5 l6 σ => w_X7_fewest_b86B G h0 N   _ ih a0 l1 l2 l3 l4 l5 l6 σ
theorem w_X7_fewest_b77 (G : Gx) (h0 : G0 G) (N : Nat) (K18 : Nat → Int32 → Int32 → Int32 → Int32 → Int32 → Int32 → Mem → Option (Int32 × Mem)) (hK18 : ∀ (a0 : Nat) (l1 : Int32) (l2 : Int32) (l3 : Int32) (l4 : Int32) (l5 : Int32) (l6 : Int32) (σ : Mem), Runs G mX7_fewest rhoI σ 18 [some (vR (some a0)), some (vI l1), some (vI l2), some (vI l3), some (vI l4), some (vI l5), some (vI l6), none, none] [] (K18 a0 l1 l2 l3 l4 l5 l6 σ)) (a0 : Nat) (l1 : Int32) (l2 : Int32) (l3 : Int32) (l4 : Int32) (l5 : Int32) (l6 : Int32) (σ : Mem) : Runs G mX7_fewest rhoI σ 77 [some (vR (some a0)), some (vI l1), some (vI l2), some (vI l3), some (vI l4), some (vI l5), some (vI l6), none, none] [] (f_X7_fewest_b77 N K18 a0 l1 l2 l3 l4 l5 l6 σ) := by
  unfold f_X7_fewest_b77
  refine r_iinc (q := 80) (v := (1 : Int32)) dX7_fewest_77 rfl rfl (by decide) (Nat.le_of_ble_eq_true rfl) rfl ?_
  refine r_goto (q := 18) dX7_fewest_80 (by decide) ?_
  exact r_le (hK18 _ _ _ _ _ _ _ _) (Nat.le_refl _) (And.intro rfl (And.intro rfl (And.intro rfl (And.intro rfl (And.intro rfl (And.intro rfl (And.intro rfl trivial)))))))
theorem w_X7_fewest_b18B (G : Gx) (h0 : G0 G) (N : Nat)   (K18 : Nat → Int32 → Int32 → Int32 → Int32 → Int32 → Int32 → Mem → Option (Int32 × Mem)) (hK18 : ∀ (a0 : Nat) (l1 : Int32) (l2 : Int32) (l3 : Int32) (l4 : Int32) (l5 : Int32) (l6 : Int32) (σ : Mem), Runs G mX7_fewest rhoI σ 18 [some (vR (some a0)), some (vI l1), some (vI l2), some (vI l3), some (vI l4), some (vI l5), some (vI l6), none, none] [] (K18 a0 l1 l2 l3 l4 l5 l6 σ)) (a0 : Nat) (l1 : Int32) (l2 : Int32) (l3 : Int32) (l4 : Int32) (l5 : Int32) (l6 : Int32) (σ : Mem) : Runs G mX7_fewest rhoI σ 18 [some (vR (some a0)), some (vI l1), some (vI l2), some (vI l3), some (vI l4), some (vI l5), some (vI l6), none, none] [] (f_X7_fewest_b18B N  K18 a0 l1 l2 l3 l4 l5 l6 σ) := by
  unfold f_X7_fewest_b18B
  refine r_iload (q := 20) dX7_fewest_18 rfl rfl ?_
  refine r_bipush (q := 22) (v := (96 : Int32)) dX7_fewest_20 rfl (by decide) ?_
  refine r_icmp_ge (q := 25) (t := 83) dX7_fewest_22 rfl (by decide) (fun _ => ?_) (fun _ => ?_)
  · refine r_iconst (q := 84) (v := (0 : Int32)) dX7_fewest_83 rfl (by decide) ?_
    refine r_istore (q := 86) dX7_fewest_84 rfl (Nat.le_of_ble_eq_true rfl) rfl ?_
    exact r_le (w_X7_fewest_b86 G h0 N N _ _ _ _ _ _ _ _) (Nat.le_refl _) (And.intro rfl (And.intro rfl (And.intro rfl (And.intro rfl (And.intro rfl (And.intro rfl (And.intro rfl trivial)))))))
  · refine r_aload_n (q := 26) dX7_fewest_25 rfl rfl rfl ?_
    refine r_iload_n (q := 27) dX7_fewest_26 rfl rfl rfl ?_
    refine r_iload (q := 29) dX7_fewest_27 rfl rfl ?_
    refine r_ob (fun a3 ha3 => ?_)
    obtain ⟨hea3, hka3⟩ := o_at_eq ha3
    cases hea3
    refine r_callI (q := 32) (c_X7_isSpot G h0 N _ _ _ _) (cl_V (ci := 6) rfl rfl (lw_V q2637 q2639 qs150 q176 q2640) (hd_X7_isSpot) ⟨Nat.le_of_ble_eq_true rfl, Nat.le_of_ble_eq_true rfl⟩ (List.mem_singleton.mp hka3) rfl rfl rfl (Nat.le_of_ble_eq_true rfl) dX7_fewest_29) rfl (fun x1 σ2 => ?_)
    refine r_if_ne (q := 35) (t := 38) dX7_fewest_32 rfl (by decide) (fun _ => ?_) (fun _ => ?_)
    · refine r_goto (q := 77) dX7_fewest_35 (by decide) ?_
      exact r_le (w_X7_fewest_b77 G h0 N K18 hK18 _ _ _ _ _ _ _ _) (Nat.le_refl _) (And.intro rfl (And.intro rfl (And.intro rfl (And.intro rfl (And.intro rfl (And.intro rfl (And.intro rfl trivial)))))))
    · refine r_aload_n (q := 39) dX7_fewest_38 rfl rfl rfl ?_
      refine r_iload_n (q := 40) dX7_fewest_39 rfl rfl rfl ?_
      refine r_iload (q := 42) dX7_fewest_40 rfl rfl ?_
      refine r_ob (fun a6 ha6 => ?_)
      obtain ⟨hea6, hka6⟩ := o_at_eq ha6
      cases hea6
      refine r_callV (q := 45) (c_X7_turn G h0 N _ _ _ _) (cl_V (ci := 6) rfl rfl (lw_V q2641 q2643 qs151 q176 q2644) (hd_X7_turn) ⟨Nat.le_of_ble_eq_true rfl, Nat.le_of_ble_eq_true rfl⟩ (List.mem_singleton.mp hka6) rfl rfl rfl (Nat.le_of_ble_eq_true rfl) dX7_fewest_42) rfl (fun u4 σ5 => ?_)
      refine r_aload_n (q := 46) dX7_fewest_45 rfl rfl rfl ?_
      refine r_iload_n (q := 47) dX7_fewest_46 rfl rfl rfl ?_
      refine r_iload_n (q := 48) dX7_fewest_47 rfl rfl rfl ?_
      refine r_iload (q := 50) dX7_fewest_48 rfl rfl ?_
      refine r_iload (q := 52) dX7_fewest_50 rfl rfl ?_
      refine r_ob (fun a9 ha9 => ?_)
      obtain ⟨hea9, hka9⟩ := o_at_eq ha9
      cases hea9
      refine r_callI (q := 55) (c_X7_isThere G h0 N _ _ _ _ _ _) (cl_V (ci := 6) rfl rfl (lw_V q2633 q2635 qs149 q176 q2636) (hd_X7_isThere) ⟨Nat.le_of_ble_eq_true rfl, Nat.le_of_ble_eq_true rfl⟩ (List.mem_singleton.mp hka9) rfl rfl rfl (Nat.le_of_ble_eq_true rfl) dX7_fewest_52) rfl (fun x7 σ8 => ?_)
      refine r_istore (q := 57) dX7_fewest_55 rfl (Nat.le_of_ble_eq_true rfl) rfl ?_
      refine r_aload_n (q := 58) dX7_fewest_57 rfl rfl rfl ?_
      refine r_iload_n (q := 59) dX7_fewest_58 rfl rfl rfl ?_
      refine r_iload (q := 61) dX7_fewest_59 rfl rfl ?_
      refine r_ob (fun a12 ha12 => ?_)
      obtain ⟨hea12, hka12⟩ := o_at_eq ha12
      cases hea12
      refine r_callV (q := 64) (c_X7_turn G h0 N _ _ _ _) (cl_V (ci := 6) rfl rfl (lw_V q2641 q2643 qs151 q176 q2644) (hd_X7_turn) ⟨Nat.le_of_ble_eq_true rfl, Nat.le_of_ble_eq_true rfl⟩ (List.mem_singleton.mp hka12) rfl rfl rfl (Nat.le_of_ble_eq_true rfl) dX7_fewest_61) rfl (fun u10 σ11 => ?_)
      refine r_aload_n (q := 65) dX7_fewest_64 rfl rfl rfl ?_
      refine r_iload (q := 67) dX7_fewest_65 rfl rfl ?_
      refine r_pI (q := 70) fp_X7_fewest_562 dX7_fewest_67 rfl (fun σ13 => ?_)
      refine r_iload (q := 72) dX7_fewest_70 rfl rfl ?_
      refine r_if_eq (q := 75) (t := 77) dX7_fewest_72 rfl (by decide) (fun _ => ?_) (fun _ => ?_)
      · exact r_le (w_X7_fewest_b77 G h0 N K18 hK18 _ _ _ _ _ _ _ _) (Nat.le_refl _) (And.intro rfl (And.intro rfl (And.intro rfl (And.intro rfl (And.intro rfl (And.intro rfl (And.intro rfl trivial)))))))
      · refine r_iconst (q := 76) (v := (1 : Int32)) dX7_fewest_75 rfl (by decide) ?_
        exact r_ireturn rfl rfl dX7_fewest_76
theorem w_X7_fewest_b18 (G : Gx) (h0 : G0 G) (N : Nat)   : ∀ (z : Nat) (a0 : Nat) (l1 : Int32) (l2 : Int32) (l3 : Int32) (l4 : Int32) (l5 : Int32) (l6 : Int32) (σ : Mem), Runs G mX7_fewest rhoI σ 18 [some (vR (some a0)), some (vI l1), some (vI l2), some (vI l3), some (vI l4), some (vI l5), some (vI l6), none, none] [] (f_X7_fewest_b18 N  z a0 l1 l2 l3 l4 l5 l6 σ) := by
  intro z
  induction z with
  | zero => exact fun _ _ _ _ _ _ _ _ => r_none
  | succ z ih => exact fun a0 l1 l2 l3 l4 l5 l6 σ => w_X7_fewest_b18B G h0 N   _ ih a0 l1 l2 l3 l4 l5 l6 σ
theorem c_X7_fewest (G : Gx) (h0 : G0 G) (N : Nat) (a0 : Nat) (i1 : Int32) (i2 : Int32) (i3 : Int32) (i4 : Int32) (i5 : Int32) (σ : Mem) : Ct G mX7_fewest rhoI [vR (some a0), vI i1, vI i2, vI i3, vI i4, vI i5] σ (f_X7_fewest N a0 i1 i2 i3 i4 i5 σ) := by
  refine Ct_of h0 (by decide) rfl (Nat.le_of_ble_eq_true rfl) (L0 := [some (vR (some a0)), some (vI i1), some (vI i2), some (vI i3), some (vI i4), some (vI i5), none, none, none]) rfl ?_
  unfold f_X7_fewest
  refine r_aload_n (q := 1) dX7_fewest_0 rfl rfl rfl ?_
  refine r_iload_n (q := 2) dX7_fewest_1 rfl rfl rfl ?_
  refine r_iload_n (q := 3) dX7_fewest_2 rfl rfl rfl ?_
  refine r_iload (q := 5) dX7_fewest_3 rfl rfl ?_
  refine r_iload (q := 7) dX7_fewest_5 rfl rfl ?_
  refine r_ob (fun a3 ha3 => ?_)
  obtain ⟨hea3, hka3⟩ := o_at_eq ha3
  cases hea3
  refine r_callI (q := 10) (c_X7_isThere G h0 N _ _ _ _ _ _) (cl_V (ci := 6) rfl rfl (lw_V q2633 q2635 qs149 q176 q2636) (hd_X7_isThere) ⟨Nat.le_of_ble_eq_true rfl, Nat.le_of_ble_eq_true rfl⟩ (List.mem_singleton.mp hka3) rfl rfl rfl (Nat.le_of_ble_eq_true rfl) dX7_fewest_7) rfl (fun x1 σ2 => ?_)
  refine r_if_eq (q := 13) (t := 15) dX7_fewest_10 rfl (by decide) (fun _ => ?_) (fun _ => ?_)
  · refine r_iconst (q := 16) (v := (0 : Int32)) dX7_fewest_15 rfl (by decide) ?_
    refine r_istore (q := 18) dX7_fewest_16 rfl (Nat.le_of_ble_eq_true rfl) rfl ?_
    exact r_le (w_X7_fewest_b18 G h0 N N _ _ _ _ _ _ _ _) (Nat.le_refl _) (And.intro rfl (And.intro rfl (And.intro rfl (And.intro rfl (And.intro rfl (And.intro rfl (And.intro rfl trivial)))))))
  · refine r_iconst (q := 14) (v := (0 : Int32)) dX7_fewest_13 rfl (by decide) ?_
    exact r_ireturn rfl rfl dX7_fewest_14
theorem c_X7_led (G : Gx) (h0 : G0 G) (N : Nat) (a0 : Nat) (i1 : Int32) (i2 : Int32) (i3 : Int32) (i4 : Int32) (σ : Mem) : Ct G mX7_led rhoI [vR (some a0), vI i1, vI i2, vI i3, vI i4] σ (f_X7_led N a0 i1 i2 i3 i4 σ) := by
  refine Ct_of h0 (by decide) rfl (Nat.le_of_ble_eq_true rfl) (L0 := [some (vR (some a0)), some (vI i1), some (vI i2), some (vI i3), some (vI i4), none]) rfl ?_
  unfold f_X7_led
  refine r_aload_n (q := 1) dX7_led_0 rfl rfl rfl ?_
  refine r_iconst (q := 2) (v := (0 : Int32)) dX7_led_1 rfl (by decide) ?_
  refine r_pI (q := 5) fp_X7_led_66 dX7_led_2 rfl (fun σ1 => ?_)
  refine r_aload_n (q := 6) dX7_led_5 rfl rfl rfl ?_
  refine r_iload_n (q := 7) dX7_led_6 rfl rfl rfl ?_
  refine r_iload_n (q := 8) dX7_led_7 rfl rfl rfl ?_
  refine r_iload_n (q := 9) dX7_led_8 rfl rfl rfl ?_
  refine r_iload (q := 11) dX7_led_9 rfl rfl ?_
  refine r_ob (fun a4 ha4 => ?_)
  obtain ⟨hea4, hka4⟩ := o_at_eq ha4
  cases hea4
  refine r_callI (q := 14) (c_X7_refusesLed G h0 N _ _ _ _ _ _) (cl_V (ci := 6) rfl rfl (lw_V q2625 q2627 qs147 q176 q2628) (hd_X7_refusesLed) ⟨Nat.le_of_ble_eq_true rfl, Nat.le_of_ble_eq_true rfl⟩ (List.mem_singleton.mp hka4) rfl rfl rfl (Nat.le_of_ble_eq_true rfl) dX7_led_11) rfl (fun x2 σ3 => ?_)
  refine r_istore (q := 16) dX7_led_14 rfl (Nat.le_of_ble_eq_true rfl) rfl ?_
  refine r_iload (q := 18) dX7_led_16 rfl rfl ?_
  refine r_if_le (q := 21) (t := 30) dX7_led_18 rfl (by decide) (fun _ => ?_) (fun _ => ?_)
  · refine r_aload_n (q := 31) dX7_led_30 rfl rfl rfl ?_
    refine r_aload_n (q := 32) dX7_led_31 rfl rfl rfl ?_
    refine r_iconst (q := 33) (v := (0 : Int32)) dX7_led_32 rfl (by decide) ?_
    refine r_iload_n (q := 34) dX7_led_33 rfl rfl rfl ?_
    refine r_iload_n (q := 35) dX7_led_34 rfl rfl rfl ?_
    refine r_iload_n (q := 36) dX7_led_35 rfl rfl rfl ?_
    refine r_iload (q := 38) dX7_led_36 rfl rfl ?_
    refine r_ob (fun a7 ha7 => ?_)
    obtain ⟨hea7, hka7⟩ := o_at_eq ha7
    cases hea7
    refine r_callI (q := 41) (c_X7_fewest G h0 N _ _ _ _ _ _ _) (cl_V (ci := 6) rfl rfl (lw_V q2629 q2631 qs148 q176 q2632) (hd_X7_fewest) ⟨Nat.le_of_ble_eq_true rfl, Nat.le_of_ble_eq_true rfl⟩ (List.mem_singleton.mp hka7) rfl rfl rfl (Nat.le_of_ble_eq_true rfl) dX7_led_38) rfl (fun x5 σ6 => ?_)
    refine r_ob (fun a10 ha10 => ?_)
    obtain ⟨hea10, hka10⟩ := o_at_eq ha10
    cases hea10
    refine r_callI (q := 44) (c_X7_good G h0 N _ _ _) (cl_V (ci := 6) rfl rfl (lw_V q2379 q2381 qs118 q176 q2382) (hd_X7_good) ⟨Nat.le_of_ble_eq_true rfl, Nat.le_of_ble_eq_true rfl⟩ (List.mem_singleton.mp hka10) rfl rfl rfl (Nat.le_of_ble_eq_true rfl) dX7_led_41) rfl (fun x8 σ9 => ?_)
    exact r_ireturn rfl rfl dX7_led_44
  · refine r_aload_n (q := 22) dX7_led_21 rfl rfl rfl ?_
    refine r_iload (q := 24) dX7_led_22 rfl rfl ?_
    refine r_ob (fun a13 ha13 => ?_)
    obtain ⟨hea13, hka13⟩ := o_at_eq ha13
    cases hea13
    refine r_callI (q := 27) (c_X7_refused G h0 N _ _ _) (cl_V (ci := 6) rfl rfl (lw_V q2019 q2021 qs83 q176 q2022) (hd_X7_refused) ⟨Nat.le_of_ble_eq_true rfl, Nat.le_of_ble_eq_true rfl⟩ (List.mem_singleton.mp hka13) rfl rfl rfl (Nat.le_of_ble_eq_true rfl) dX7_led_24) rfl (fun x11 σ12 => ?_)
    refine r_goto (q := 44) dX7_led_27 (by decide) ?_
    exact r_ireturn rfl rfl dX7_led_44
