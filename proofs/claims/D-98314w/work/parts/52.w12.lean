/-! the walks of X1_cheese X7_refusesCheese X7_isCheese X7_cheese X1_cheeseOf X7_cheeseOf X6_tries X6_lay X6_least X1_appeals X7_meanOf X7_swaps X7_turns X7_leastMean X7_appeals X6_at X1_appealAt X7_appealAt X4_many X1_yes X1_note X4_change X1_done X1_puts X1_salt X7_denied X7_spots X7_keeps X7_granted -/
set_option maxRecDepth 100000
def dkwX1_cheese_2 : List UInt8 := [21, 4, 182, 1, 155, 153, 0, 7, 4, 167, 0, 4, 3, 96, 62, 132, 4, 1, 167, 255, 222, 29, 172]
abbrev dktX1_cheese_2 : List UInt8 := dkwX1_cheese_2 ++ []
def dkwX1_cheese_1 : List UInt8 := [182, 1, 5, 3, 62, 3, 54, 4, 21, 4, 4, 42, 180, 0, 104, 180, 0, 139, 120, 162, 0, 26, 29, 42]
abbrev dktX1_cheese_1 : List UInt8 := dkwX1_cheese_1 ++ dktX1_cheese_2
def dkwX1_cheese_0 : List UInt8 := [42, 182, 0, 80, 42, 27, 182, 1, 152, 61, 28, 153, 0, 9, 42, 28, 182, 0, 94, 172, 42, 27]
abbrev dktX1_cheese_0 : List UInt8 := dkwX1_cheese_0 ++ dktX1_cheese_1
theorem dksX1_cheese_0 : cX1_cheese.data.toList.drop 0 = dktX1_cheese_0 := by decide +kernel
theorem dksX1_cheese_1 : cX1_cheese.data.toList.drop 22 = dktX1_cheese_1 := dk_seg dksX1_cheese_0 22 rfl rfl
theorem dksX1_cheese_2 : cX1_cheese.data.toList.drop 46 = dktX1_cheese_2 := dk_seg dksX1_cheese_1 24 rfl rfl
theorem dX1_cheese_0 : decode cX1_cheese 0 = .ok (.aload_n 0, 1) := dk_42 (dk_at dksX1_cheese_0 0 rfl rfl)
theorem dX1_cheese_1 : decode cX1_cheese 1 = .ok (.invokevirtual 80, 3) := dk_182 0 80 (dk_at dksX1_cheese_0 1 rfl rfl)
theorem dX1_cheese_4 : decode cX1_cheese 4 = .ok (.aload_n 0, 1) := dk_42 (dk_at dksX1_cheese_0 4 rfl rfl)
theorem dX1_cheese_5 : decode cX1_cheese 5 = .ok (.iload_n 1, 1) := dk_27 (dk_at dksX1_cheese_0 5 rfl rfl)
theorem dX1_cheese_6 : decode cX1_cheese 6 = .ok (.invokevirtual 408, 3) := dk_182 1 152 (dk_at dksX1_cheese_0 6 rfl rfl)
theorem dX1_cheese_9 : decode cX1_cheese 9 = .ok (.istore_n 2, 1) := dk_61 (dk_at dksX1_cheese_0 9 rfl rfl)
theorem dX1_cheese_10 : decode cX1_cheese 10 = .ok (.iload_n 2, 1) := dk_28 (dk_at dksX1_cheese_0 10 rfl rfl)
theorem dX1_cheese_11 : decode cX1_cheese 11 = .ok (.ifCond .eq 9, 3) := dk_153 0 9 (dk_at dksX1_cheese_0 11 rfl rfl)
theorem dX1_cheese_14 : decode cX1_cheese 14 = .ok (.aload_n 0, 1) := dk_42 (dk_at dksX1_cheese_0 14 rfl rfl)
theorem dX1_cheese_15 : decode cX1_cheese 15 = .ok (.iload_n 2, 1) := dk_28 (dk_at dksX1_cheese_0 15 rfl rfl)
theorem dX1_cheese_16 : decode cX1_cheese 16 = .ok (.invokevirtual 94, 3) := dk_182 0 94 (dk_at dksX1_cheese_0 16 rfl rfl)
theorem dX1_cheese_19 : decode cX1_cheese 19 = .ok (.ireturn, 1) := dk_172 (dk_at dksX1_cheese_0 19 rfl rfl)
theorem dX1_cheese_20 : decode cX1_cheese 20 = .ok (.aload_n 0, 1) := dk_42 (dk_at dksX1_cheese_0 20 rfl rfl)
theorem dX1_cheese_21 : decode cX1_cheese 21 = .ok (.iload_n 1, 1) := dk_27 (dk_at dksX1_cheese_0 21 rfl rfl)
theorem dX1_cheese_22 : decode cX1_cheese 22 = .ok (.invokevirtual 261, 3) := dk_182 1 5 (dk_at dksX1_cheese_1 0 rfl rfl)
theorem dX1_cheese_25 : decode cX1_cheese 25 = .ok (.iconst 0, 1) := dk_3 (dk_at dksX1_cheese_1 3 rfl rfl)
theorem dX1_cheese_26 : decode cX1_cheese 26 = .ok (.istore_n 3, 1) := dk_62 (dk_at dksX1_cheese_1 4 rfl rfl)
theorem dX1_cheese_27 : decode cX1_cheese 27 = .ok (.iconst 0, 1) := dk_3 (dk_at dksX1_cheese_1 5 rfl rfl)
theorem dX1_cheese_28 : decode cX1_cheese 28 = .ok (.istore 4, 2) := dk_54 4 (dk_at dksX1_cheese_1 6 rfl rfl)
theorem dX1_cheese_30 : decode cX1_cheese 30 = .ok (.iload 4, 2) := dk_21 4 (dk_at dksX1_cheese_1 8 rfl rfl)
theorem dX1_cheese_32 : decode cX1_cheese 32 = .ok (.iconst 1, 1) := dk_4 (dk_at dksX1_cheese_1 10 rfl rfl)
theorem dX1_cheese_33 : decode cX1_cheese 33 = .ok (.aload_n 0, 1) := dk_42 (dk_at dksX1_cheese_1 11 rfl rfl)
theorem dX1_cheese_34 : decode cX1_cheese 34 = .ok (.getfield 104, 3) := dk_180 0 104 (dk_at dksX1_cheese_1 12 rfl rfl)
theorem dX1_cheese_37 : decode cX1_cheese 37 = .ok (.getfield 139, 3) := dk_180 0 139 (dk_at dksX1_cheese_1 15 rfl rfl)
theorem dX1_cheese_40 : decode cX1_cheese 40 = .ok (.ishl, 1) := dk_120 (dk_at dksX1_cheese_1 18 rfl rfl)
theorem dX1_cheese_41 : decode cX1_cheese 41 = .ok (.if_icmp .ge 26, 3) := dk_162 0 26 (dk_at dksX1_cheese_1 19 rfl rfl)
theorem dX1_cheese_44 : decode cX1_cheese 44 = .ok (.iload_n 3, 1) := dk_29 (dk_at dksX1_cheese_1 22 rfl rfl)
theorem dX1_cheese_45 : decode cX1_cheese 45 = .ok (.aload_n 0, 1) := dk_42 (dk_at dksX1_cheese_1 23 rfl rfl)
theorem dX1_cheese_46 : decode cX1_cheese 46 = .ok (.iload 4, 2) := dk_21 4 (dk_at dksX1_cheese_2 0 rfl rfl)
theorem dX1_cheese_48 : decode cX1_cheese 48 = .ok (.invokevirtual 411, 3) := dk_182 1 155 (dk_at dksX1_cheese_2 2 rfl rfl)
theorem dX1_cheese_51 : decode cX1_cheese 51 = .ok (.ifCond .eq 7, 3) := dk_153 0 7 (dk_at dksX1_cheese_2 5 rfl rfl)
theorem dX1_cheese_54 : decode cX1_cheese 54 = .ok (.iconst 1, 1) := dk_4 (dk_at dksX1_cheese_2 8 rfl rfl)
theorem dX1_cheese_55 : decode cX1_cheese 55 = .ok (.goto 4, 3) := dk_167 0 4 (dk_at dksX1_cheese_2 9 rfl rfl)
theorem dX1_cheese_58 : decode cX1_cheese 58 = .ok (.iconst 0, 1) := dk_3 (dk_at dksX1_cheese_2 12 rfl rfl)
theorem dX1_cheese_59 : decode cX1_cheese 59 = .ok (.iadd, 1) := dk_96 (dk_at dksX1_cheese_2 13 rfl rfl)
theorem dX1_cheese_60 : decode cX1_cheese 60 = .ok (.istore_n 3, 1) := dk_62 (dk_at dksX1_cheese_2 14 rfl rfl)
theorem dX1_cheese_61 : decode cX1_cheese 61 = .ok (.iinc 4 1, 3) := dk_132 4 1 (dk_at dksX1_cheese_2 15 rfl rfl)
theorem dX1_cheese_64 : decode cX1_cheese 64 = .ok (.goto (-34), 3) := dk_167 255 222 (dk_at dksX1_cheese_2 18 rfl rfl)
theorem dX1_cheese_67 : decode cX1_cheese 67 = .ok (.iload_n 3, 1) := dk_29 (dk_at dksX1_cheese_2 21 rfl rfl)
theorem dX1_cheese_68 : decode cX1_cheese 68 = .ok (.ireturn, 1) := dk_172 (dk_at dksX1_cheese_2 22 rfl rfl)
def dkwX7_refusesCheese_1 : List UInt8 := [167, 0, 5, 16, 6, 172]
abbrev dktX7_refusesCheese_1 : List UInt8 := dkwX7_refusesCheese_1 ++ []
def dkwX7_refusesCheese_0 : List UInt8 := [42, 27, 182, 2, 2, 154, 0, 7, 4, 167, 0, 19, 42, 180, 1, 186, 180, 1, 174, 153, 0, 7, 3]
abbrev dktX7_refusesCheese_0 : List UInt8 := dkwX7_refusesCheese_0 ++ dktX7_refusesCheese_1
theorem dksX7_refusesCheese_0 : cX7_refusesCheese.data.toList.drop 0 = dktX7_refusesCheese_0 := by decide +kernel
theorem dksX7_refusesCheese_1 : cX7_refusesCheese.data.toList.drop 23 = dktX7_refusesCheese_1 := dk_seg dksX7_refusesCheese_0 23 rfl rfl
theorem dX7_refusesCheese_0 : decode cX7_refusesCheese 0 = .ok (.aload_n 0, 1) := dk_42 (dk_at dksX7_refusesCheese_0 0 rfl rfl)
theorem dX7_refusesCheese_1 : decode cX7_refusesCheese 1 = .ok (.iload_n 1, 1) := dk_27 (dk_at dksX7_refusesCheese_0 1 rfl rfl)
theorem dX7_refusesCheese_2 : decode cX7_refusesCheese 2 = .ok (.invokevirtual 514, 3) := dk_182 2 2 (dk_at dksX7_refusesCheese_0 2 rfl rfl)
theorem dX7_refusesCheese_5 : decode cX7_refusesCheese 5 = .ok (.ifCond .ne 7, 3) := dk_154 0 7 (dk_at dksX7_refusesCheese_0 5 rfl rfl)
theorem dX7_refusesCheese_8 : decode cX7_refusesCheese 8 = .ok (.iconst 1, 1) := dk_4 (dk_at dksX7_refusesCheese_0 8 rfl rfl)
theorem dX7_refusesCheese_9 : decode cX7_refusesCheese 9 = .ok (.goto 19, 3) := dk_167 0 19 (dk_at dksX7_refusesCheese_0 9 rfl rfl)
theorem dX7_refusesCheese_12 : decode cX7_refusesCheese 12 = .ok (.aload_n 0, 1) := dk_42 (dk_at dksX7_refusesCheese_0 12 rfl rfl)
theorem dX7_refusesCheese_13 : decode cX7_refusesCheese 13 = .ok (.getfield 442, 3) := dk_180 1 186 (dk_at dksX7_refusesCheese_0 13 rfl rfl)
theorem dX7_refusesCheese_16 : decode cX7_refusesCheese 16 = .ok (.getfield 430, 3) := dk_180 1 174 (dk_at dksX7_refusesCheese_0 16 rfl rfl)
theorem dX7_refusesCheese_19 : decode cX7_refusesCheese 19 = .ok (.ifCond .eq 7, 3) := dk_153 0 7 (dk_at dksX7_refusesCheese_0 19 rfl rfl)
theorem dX7_refusesCheese_22 : decode cX7_refusesCheese 22 = .ok (.iconst 0, 1) := dk_3 (dk_at dksX7_refusesCheese_0 22 rfl rfl)
theorem dX7_refusesCheese_23 : decode cX7_refusesCheese 23 = .ok (.goto 5, 3) := dk_167 0 5 (dk_at dksX7_refusesCheese_1 0 rfl rfl)
theorem dX7_refusesCheese_26 : decode cX7_refusesCheese 26 = .ok (.bipush 6, 2) := dk_16 6 (dk_at dksX7_refusesCheese_1 3 rfl rfl)
theorem dX7_refusesCheese_28 : decode cX7_refusesCheese 28 = .ok (.ireturn, 1) := dk_172 (dk_at dksX7_refusesCheese_1 5 rfl rfl)
def dkwX7_isCheese_3 : List UInt8 := [159, 0, 5, 3, 172, 132, 2, 1, 167, 255, 181, 4, 172]
abbrev dktX7_isCheese_3 : List UInt8 := dkwX7_isCheese_3 ++ []
def dkwX7_isCheese_2 : List UInt8 := [167, 0, 4, 3, 96, 62, 132, 4, 1, 167, 255, 218, 29, 42, 180, 1, 186, 180, 1, 177, 28, 46]
abbrev dktX7_isCheese_2 : List UInt8 := dkwX7_isCheese_2 ++ dktX7_isCheese_3
def dkwX7_isCheese_1 : List UInt8 := [180, 1, 72, 162, 0, 32, 29, 27, 21, 4, 184, 1, 110, 153, 0, 13, 42, 21, 4, 28, 182, 2, 8]
abbrev dktX7_isCheese_1 : List UInt8 := dkwX7_isCheese_1 ++ dktX7_isCheese_2
def dkwX7_isCheese_0 : List UInt8 := [3, 61, 28, 42, 180, 1, 186, 180, 0, 229, 162, 0, 70, 3, 62, 3, 54, 4, 21, 4, 42, 180, 1, 186]
abbrev dktX7_isCheese_0 : List UInt8 := dkwX7_isCheese_0 ++ dktX7_isCheese_1
theorem dksX7_isCheese_0 : cX7_isCheese.data.toList.drop 0 = dktX7_isCheese_0 := by decide +kernel
theorem dksX7_isCheese_1 : cX7_isCheese.data.toList.drop 24 = dktX7_isCheese_1 := dk_seg dksX7_isCheese_0 24 rfl rfl
theorem dksX7_isCheese_2 : cX7_isCheese.data.toList.drop 47 = dktX7_isCheese_2 := dk_seg dksX7_isCheese_1 23 rfl rfl
theorem dksX7_isCheese_3 : cX7_isCheese.data.toList.drop 69 = dktX7_isCheese_3 := dk_seg dksX7_isCheese_2 22 rfl rfl
theorem dX7_isCheese_0 : decode cX7_isCheese 0 = .ok (.iconst 0, 1) := dk_3 (dk_at dksX7_isCheese_0 0 rfl rfl)
theorem dX7_isCheese_1 : decode cX7_isCheese 1 = .ok (.istore_n 2, 1) := dk_61 (dk_at dksX7_isCheese_0 1 rfl rfl)
theorem dX7_isCheese_2 : decode cX7_isCheese 2 = .ok (.iload_n 2, 1) := dk_28 (dk_at dksX7_isCheese_0 2 rfl rfl)
theorem dX7_isCheese_3 : decode cX7_isCheese 3 = .ok (.aload_n 0, 1) := dk_42 (dk_at dksX7_isCheese_0 3 rfl rfl)
theorem dX7_isCheese_4 : decode cX7_isCheese 4 = .ok (.getfield 442, 3) := dk_180 1 186 (dk_at dksX7_isCheese_0 4 rfl rfl)
theorem dX7_isCheese_7 : decode cX7_isCheese 7 = .ok (.getfield 229, 3) := dk_180 0 229 (dk_at dksX7_isCheese_0 7 rfl rfl)
theorem dX7_isCheese_10 : decode cX7_isCheese 10 = .ok (.if_icmp .ge 70, 3) := dk_162 0 70 (dk_at dksX7_isCheese_0 10 rfl rfl)
theorem dX7_isCheese_13 : decode cX7_isCheese 13 = .ok (.iconst 0, 1) := dk_3 (dk_at dksX7_isCheese_0 13 rfl rfl)
theorem dX7_isCheese_14 : decode cX7_isCheese 14 = .ok (.istore_n 3, 1) := dk_62 (dk_at dksX7_isCheese_0 14 rfl rfl)
theorem dX7_isCheese_15 : decode cX7_isCheese 15 = .ok (.iconst 0, 1) := dk_3 (dk_at dksX7_isCheese_0 15 rfl rfl)
theorem dX7_isCheese_16 : decode cX7_isCheese 16 = .ok (.istore 4, 2) := dk_54 4 (dk_at dksX7_isCheese_0 16 rfl rfl)
theorem dX7_isCheese_18 : decode cX7_isCheese 18 = .ok (.iload 4, 2) := dk_21 4 (dk_at dksX7_isCheese_0 18 rfl rfl)
theorem dX7_isCheese_20 : decode cX7_isCheese 20 = .ok (.aload_n 0, 1) := dk_42 (dk_at dksX7_isCheese_0 20 rfl rfl)
theorem dX7_isCheese_21 : decode cX7_isCheese 21 = .ok (.getfield 442, 3) := dk_180 1 186 (dk_at dksX7_isCheese_0 21 rfl rfl)
theorem dX7_isCheese_24 : decode cX7_isCheese 24 = .ok (.getfield 328, 3) := dk_180 1 72 (dk_at dksX7_isCheese_1 0 rfl rfl)
theorem dX7_isCheese_27 : decode cX7_isCheese 27 = .ok (.if_icmp .ge 32, 3) := dk_162 0 32 (dk_at dksX7_isCheese_1 3 rfl rfl)
theorem dX7_isCheese_30 : decode cX7_isCheese 30 = .ok (.iload_n 3, 1) := dk_29 (dk_at dksX7_isCheese_1 6 rfl rfl)
theorem dX7_isCheese_31 : decode cX7_isCheese 31 = .ok (.iload_n 1, 1) := dk_27 (dk_at dksX7_isCheese_1 7 rfl rfl)
theorem dX7_isCheese_32 : decode cX7_isCheese 32 = .ok (.iload 4, 2) := dk_21 4 (dk_at dksX7_isCheese_1 8 rfl rfl)
theorem dX7_isCheese_34 : decode cX7_isCheese 34 = .ok (.invokestatic 366, 3) := dk_184 1 110 (dk_at dksX7_isCheese_1 10 rfl rfl)
theorem dX7_isCheese_37 : decode cX7_isCheese 37 = .ok (.ifCond .eq 13, 3) := dk_153 0 13 (dk_at dksX7_isCheese_1 13 rfl rfl)
theorem dX7_isCheese_40 : decode cX7_isCheese 40 = .ok (.aload_n 0, 1) := dk_42 (dk_at dksX7_isCheese_1 16 rfl rfl)
theorem dX7_isCheese_41 : decode cX7_isCheese 41 = .ok (.iload 4, 2) := dk_21 4 (dk_at dksX7_isCheese_1 17 rfl rfl)
theorem dX7_isCheese_43 : decode cX7_isCheese 43 = .ok (.iload_n 2, 1) := dk_28 (dk_at dksX7_isCheese_1 19 rfl rfl)
theorem dX7_isCheese_44 : decode cX7_isCheese 44 = .ok (.invokevirtual 520, 3) := dk_182 2 8 (dk_at dksX7_isCheese_1 20 rfl rfl)
theorem dX7_isCheese_47 : decode cX7_isCheese 47 = .ok (.goto 4, 3) := dk_167 0 4 (dk_at dksX7_isCheese_2 0 rfl rfl)
theorem dX7_isCheese_50 : decode cX7_isCheese 50 = .ok (.iconst 0, 1) := dk_3 (dk_at dksX7_isCheese_2 3 rfl rfl)
theorem dX7_isCheese_51 : decode cX7_isCheese 51 = .ok (.iadd, 1) := dk_96 (dk_at dksX7_isCheese_2 4 rfl rfl)
theorem dX7_isCheese_52 : decode cX7_isCheese 52 = .ok (.istore_n 3, 1) := dk_62 (dk_at dksX7_isCheese_2 5 rfl rfl)
theorem dX7_isCheese_53 : decode cX7_isCheese 53 = .ok (.iinc 4 1, 3) := dk_132 4 1 (dk_at dksX7_isCheese_2 6 rfl rfl)
theorem dX7_isCheese_56 : decode cX7_isCheese 56 = .ok (.goto (-38), 3) := dk_167 255 218 (dk_at dksX7_isCheese_2 9 rfl rfl)
theorem dX7_isCheese_59 : decode cX7_isCheese 59 = .ok (.iload_n 3, 1) := dk_29 (dk_at dksX7_isCheese_2 12 rfl rfl)
theorem dX7_isCheese_60 : decode cX7_isCheese 60 = .ok (.aload_n 0, 1) := dk_42 (dk_at dksX7_isCheese_2 13 rfl rfl)
theorem dX7_isCheese_61 : decode cX7_isCheese 61 = .ok (.getfield 442, 3) := dk_180 1 186 (dk_at dksX7_isCheese_2 14 rfl rfl)
theorem dX7_isCheese_64 : decode cX7_isCheese 64 = .ok (.getfield 433, 3) := dk_180 1 177 (dk_at dksX7_isCheese_2 17 rfl rfl)
theorem dX7_isCheese_67 : decode cX7_isCheese 67 = .ok (.iload_n 2, 1) := dk_28 (dk_at dksX7_isCheese_2 20 rfl rfl)
theorem dX7_isCheese_68 : decode cX7_isCheese 68 = .ok (.iaload, 1) := dk_46 (dk_at dksX7_isCheese_2 21 rfl rfl)
theorem dX7_isCheese_69 : decode cX7_isCheese 69 = .ok (.if_icmp .eq 5, 3) := dk_159 0 5 (dk_at dksX7_isCheese_3 0 rfl rfl)
theorem dX7_isCheese_72 : decode cX7_isCheese 72 = .ok (.iconst 0, 1) := dk_3 (dk_at dksX7_isCheese_3 3 rfl rfl)
theorem dX7_isCheese_73 : decode cX7_isCheese 73 = .ok (.ireturn, 1) := dk_172 (dk_at dksX7_isCheese_3 4 rfl rfl)
theorem dX7_isCheese_74 : decode cX7_isCheese 74 = .ok (.iinc 2 1, 3) := dk_132 2 1 (dk_at dksX7_isCheese_3 5 rfl rfl)
theorem dX7_isCheese_77 : decode cX7_isCheese 77 = .ok (.goto (-75), 3) := dk_167 255 181 (dk_at dksX7_isCheese_3 8 rfl rfl)
theorem dX7_isCheese_80 : decode cX7_isCheese 80 = .ok (.iconst 1, 1) := dk_4 (dk_at dksX7_isCheese_3 11 rfl rfl)
theorem dX7_isCheese_81 : decode cX7_isCheese 81 = .ok (.ireturn, 1) := dk_172 (dk_at dksX7_isCheese_3 12 rfl rfl)
def dkwX7_cheese_2 : List UInt8 := [153, 0, 7, 4, 167, 0, 4, 3, 96, 62, 132, 4, 1, 167, 255, 227, 42, 29, 182, 0, 76, 172]
abbrev dktX7_cheese_2 : List UInt8 := dkwX7_cheese_2 ++ []
def dkwX7_cheese_1 : List UInt8 := [182, 1, 226, 3, 62, 3, 54, 4, 21, 4, 42, 182, 1, 232, 163, 0, 26, 29, 42, 21, 4, 182, 2, 76]
abbrev dktX7_cheese_1 : List UInt8 := dkwX7_cheese_1 ++ dktX7_cheese_2
def dkwX7_cheese_0 : List UInt8 := [42, 3, 181, 0, 66, 42, 27, 182, 2, 73, 61, 28, 158, 0, 9, 42, 28, 182, 0, 72, 172, 42, 27]
abbrev dktX7_cheese_0 : List UInt8 := dkwX7_cheese_0 ++ dktX7_cheese_1
theorem dksX7_cheese_0 : cX7_cheese.data.toList.drop 0 = dktX7_cheese_0 := by decide +kernel
theorem dksX7_cheese_1 : cX7_cheese.data.toList.drop 23 = dktX7_cheese_1 := dk_seg dksX7_cheese_0 23 rfl rfl
theorem dksX7_cheese_2 : cX7_cheese.data.toList.drop 47 = dktX7_cheese_2 := dk_seg dksX7_cheese_1 24 rfl rfl
theorem dX7_cheese_0 : decode cX7_cheese 0 = .ok (.aload_n 0, 1) := dk_42 (dk_at dksX7_cheese_0 0 rfl rfl)
theorem dX7_cheese_1 : decode cX7_cheese 1 = .ok (.iconst 0, 1) := dk_3 (dk_at dksX7_cheese_0 1 rfl rfl)
theorem dX7_cheese_2 : decode cX7_cheese 2 = .ok (.putfield 66, 3) := dk_181 0 66 (dk_at dksX7_cheese_0 2 rfl rfl)
theorem dX7_cheese_5 : decode cX7_cheese 5 = .ok (.aload_n 0, 1) := dk_42 (dk_at dksX7_cheese_0 5 rfl rfl)
theorem dX7_cheese_6 : decode cX7_cheese 6 = .ok (.iload_n 1, 1) := dk_27 (dk_at dksX7_cheese_0 6 rfl rfl)
theorem dX7_cheese_7 : decode cX7_cheese 7 = .ok (.invokevirtual 585, 3) := dk_182 2 73 (dk_at dksX7_cheese_0 7 rfl rfl)
theorem dX7_cheese_10 : decode cX7_cheese 10 = .ok (.istore_n 2, 1) := dk_61 (dk_at dksX7_cheese_0 10 rfl rfl)
theorem dX7_cheese_11 : decode cX7_cheese 11 = .ok (.iload_n 2, 1) := dk_28 (dk_at dksX7_cheese_0 11 rfl rfl)
theorem dX7_cheese_12 : decode cX7_cheese 12 = .ok (.ifCond .le 9, 3) := dk_158 0 9 (dk_at dksX7_cheese_0 12 rfl rfl)
theorem dX7_cheese_15 : decode cX7_cheese 15 = .ok (.aload_n 0, 1) := dk_42 (dk_at dksX7_cheese_0 15 rfl rfl)
theorem dX7_cheese_16 : decode cX7_cheese 16 = .ok (.iload_n 2, 1) := dk_28 (dk_at dksX7_cheese_0 16 rfl rfl)
theorem dX7_cheese_17 : decode cX7_cheese 17 = .ok (.invokevirtual 72, 3) := dk_182 0 72 (dk_at dksX7_cheese_0 17 rfl rfl)
theorem dX7_cheese_20 : decode cX7_cheese 20 = .ok (.ireturn, 1) := dk_172 (dk_at dksX7_cheese_0 20 rfl rfl)
theorem dX7_cheese_21 : decode cX7_cheese 21 = .ok (.aload_n 0, 1) := dk_42 (dk_at dksX7_cheese_0 21 rfl rfl)
theorem dX7_cheese_22 : decode cX7_cheese 22 = .ok (.iload_n 1, 1) := dk_27 (dk_at dksX7_cheese_0 22 rfl rfl)
theorem dX7_cheese_23 : decode cX7_cheese 23 = .ok (.invokevirtual 482, 3) := dk_182 1 226 (dk_at dksX7_cheese_1 0 rfl rfl)
theorem dX7_cheese_26 : decode cX7_cheese 26 = .ok (.iconst 0, 1) := dk_3 (dk_at dksX7_cheese_1 3 rfl rfl)
theorem dX7_cheese_27 : decode cX7_cheese 27 = .ok (.istore_n 3, 1) := dk_62 (dk_at dksX7_cheese_1 4 rfl rfl)
theorem dX7_cheese_28 : decode cX7_cheese 28 = .ok (.iconst 0, 1) := dk_3 (dk_at dksX7_cheese_1 5 rfl rfl)
theorem dX7_cheese_29 : decode cX7_cheese 29 = .ok (.istore 4, 2) := dk_54 4 (dk_at dksX7_cheese_1 6 rfl rfl)
theorem dX7_cheese_31 : decode cX7_cheese 31 = .ok (.iload 4, 2) := dk_21 4 (dk_at dksX7_cheese_1 8 rfl rfl)
theorem dX7_cheese_33 : decode cX7_cheese 33 = .ok (.aload_n 0, 1) := dk_42 (dk_at dksX7_cheese_1 10 rfl rfl)
theorem dX7_cheese_34 : decode cX7_cheese 34 = .ok (.invokevirtual 488, 3) := dk_182 1 232 (dk_at dksX7_cheese_1 11 rfl rfl)
theorem dX7_cheese_37 : decode cX7_cheese 37 = .ok (.if_icmp .gt 26, 3) := dk_163 0 26 (dk_at dksX7_cheese_1 14 rfl rfl)
theorem dX7_cheese_40 : decode cX7_cheese 40 = .ok (.iload_n 3, 1) := dk_29 (dk_at dksX7_cheese_1 17 rfl rfl)
theorem dX7_cheese_41 : decode cX7_cheese 41 = .ok (.aload_n 0, 1) := dk_42 (dk_at dksX7_cheese_1 18 rfl rfl)
theorem dX7_cheese_42 : decode cX7_cheese 42 = .ok (.iload 4, 2) := dk_21 4 (dk_at dksX7_cheese_1 19 rfl rfl)
theorem dX7_cheese_44 : decode cX7_cheese 44 = .ok (.invokevirtual 588, 3) := dk_182 2 76 (dk_at dksX7_cheese_1 21 rfl rfl)
theorem dX7_cheese_47 : decode cX7_cheese 47 = .ok (.ifCond .eq 7, 3) := dk_153 0 7 (dk_at dksX7_cheese_2 0 rfl rfl)
theorem dX7_cheese_50 : decode cX7_cheese 50 = .ok (.iconst 1, 1) := dk_4 (dk_at dksX7_cheese_2 3 rfl rfl)
theorem dX7_cheese_51 : decode cX7_cheese 51 = .ok (.goto 4, 3) := dk_167 0 4 (dk_at dksX7_cheese_2 4 rfl rfl)
theorem dX7_cheese_54 : decode cX7_cheese 54 = .ok (.iconst 0, 1) := dk_3 (dk_at dksX7_cheese_2 7 rfl rfl)
theorem dX7_cheese_55 : decode cX7_cheese 55 = .ok (.iadd, 1) := dk_96 (dk_at dksX7_cheese_2 8 rfl rfl)
theorem dX7_cheese_56 : decode cX7_cheese 56 = .ok (.istore_n 3, 1) := dk_62 (dk_at dksX7_cheese_2 9 rfl rfl)
theorem dX7_cheese_57 : decode cX7_cheese 57 = .ok (.iinc 4 1, 3) := dk_132 4 1 (dk_at dksX7_cheese_2 10 rfl rfl)
theorem dX7_cheese_60 : decode cX7_cheese 60 = .ok (.goto (-29), 3) := dk_167 255 227 (dk_at dksX7_cheese_2 13 rfl rfl)
theorem dX7_cheese_63 : decode cX7_cheese 63 = .ok (.aload_n 0, 1) := dk_42 (dk_at dksX7_cheese_2 16 rfl rfl)
theorem dX7_cheese_64 : decode cX7_cheese 64 = .ok (.iload_n 3, 1) := dk_29 (dk_at dksX7_cheese_2 17 rfl rfl)
theorem dX7_cheese_65 : decode cX7_cheese 65 = .ok (.invokevirtual 76, 3) := dk_182 0 76 (dk_at dksX7_cheese_2 18 rfl rfl)
theorem dX7_cheese_68 : decode cX7_cheese 68 = .ok (.ireturn, 1) := dk_172 (dk_at dksX7_cheese_2 21 rfl rfl)
def dkwX1_cheeseOf_2 : List UInt8 := [153, 0, 5, 29, 172, 132, 3, 1, 167, 255, 230, 16, 254, 172]
abbrev dktX1_cheeseOf_2 : List UInt8 := dkwX1_cheeseOf_2 ++ []
def dkwX1_cheeseOf_1 : List UInt8 := [182, 1, 5, 3, 62, 29, 4, 42, 180, 0, 104, 180, 0, 139, 120, 162, 0, 19, 42, 29, 182, 1, 155]
abbrev dktX1_cheeseOf_1 : List UInt8 := dkwX1_cheeseOf_1 ++ dktX1_cheeseOf_2
def dkwX1_cheeseOf_0 : List UInt8 := [42, 182, 0, 80, 42, 27, 182, 1, 152, 61, 28, 153, 0, 9, 42, 28, 182, 0, 94, 172, 42, 27]
abbrev dktX1_cheeseOf_0 : List UInt8 := dkwX1_cheeseOf_0 ++ dktX1_cheeseOf_1
theorem dksX1_cheeseOf_0 : cX1_cheeseOf.data.toList.drop 0 = dktX1_cheeseOf_0 := by decide +kernel
theorem dksX1_cheeseOf_1 : cX1_cheeseOf.data.toList.drop 22 = dktX1_cheeseOf_1 := dk_seg dksX1_cheeseOf_0 22 rfl rfl
theorem dksX1_cheeseOf_2 : cX1_cheeseOf.data.toList.drop 45 = dktX1_cheeseOf_2 := dk_seg dksX1_cheeseOf_1 23 rfl rfl
theorem dX1_cheeseOf_0 : decode cX1_cheeseOf 0 = .ok (.aload_n 0, 1) := dk_42 (dk_at dksX1_cheeseOf_0 0 rfl rfl)
theorem dX1_cheeseOf_1 : decode cX1_cheeseOf 1 = .ok (.invokevirtual 80, 3) := dk_182 0 80 (dk_at dksX1_cheeseOf_0 1 rfl rfl)
theorem dX1_cheeseOf_4 : decode cX1_cheeseOf 4 = .ok (.aload_n 0, 1) := dk_42 (dk_at dksX1_cheeseOf_0 4 rfl rfl)
theorem dX1_cheeseOf_5 : decode cX1_cheeseOf 5 = .ok (.iload_n 1, 1) := dk_27 (dk_at dksX1_cheeseOf_0 5 rfl rfl)
theorem dX1_cheeseOf_6 : decode cX1_cheeseOf 6 = .ok (.invokevirtual 408, 3) := dk_182 1 152 (dk_at dksX1_cheeseOf_0 6 rfl rfl)
theorem dX1_cheeseOf_9 : decode cX1_cheeseOf 9 = .ok (.istore_n 2, 1) := dk_61 (dk_at dksX1_cheeseOf_0 9 rfl rfl)
theorem dX1_cheeseOf_10 : decode cX1_cheeseOf 10 = .ok (.iload_n 2, 1) := dk_28 (dk_at dksX1_cheeseOf_0 10 rfl rfl)
theorem dX1_cheeseOf_11 : decode cX1_cheeseOf 11 = .ok (.ifCond .eq 9, 3) := dk_153 0 9 (dk_at dksX1_cheeseOf_0 11 rfl rfl)
theorem dX1_cheeseOf_14 : decode cX1_cheeseOf 14 = .ok (.aload_n 0, 1) := dk_42 (dk_at dksX1_cheeseOf_0 14 rfl rfl)
theorem dX1_cheeseOf_15 : decode cX1_cheeseOf 15 = .ok (.iload_n 2, 1) := dk_28 (dk_at dksX1_cheeseOf_0 15 rfl rfl)
theorem dX1_cheeseOf_16 : decode cX1_cheeseOf 16 = .ok (.invokevirtual 94, 3) := dk_182 0 94 (dk_at dksX1_cheeseOf_0 16 rfl rfl)
theorem dX1_cheeseOf_19 : decode cX1_cheeseOf 19 = .ok (.ireturn, 1) := dk_172 (dk_at dksX1_cheeseOf_0 19 rfl rfl)
theorem dX1_cheeseOf_20 : decode cX1_cheeseOf 20 = .ok (.aload_n 0, 1) := dk_42 (dk_at dksX1_cheeseOf_0 20 rfl rfl)
theorem dX1_cheeseOf_21 : decode cX1_cheeseOf 21 = .ok (.iload_n 1, 1) := dk_27 (dk_at dksX1_cheeseOf_0 21 rfl rfl)
theorem dX1_cheeseOf_22 : decode cX1_cheeseOf 22 = .ok (.invokevirtual 261, 3) := dk_182 1 5 (dk_at dksX1_cheeseOf_1 0 rfl rfl)
theorem dX1_cheeseOf_25 : decode cX1_cheeseOf 25 = .ok (.iconst 0, 1) := dk_3 (dk_at dksX1_cheeseOf_1 3 rfl rfl)
theorem dX1_cheeseOf_26 : decode cX1_cheeseOf 26 = .ok (.istore_n 3, 1) := dk_62 (dk_at dksX1_cheeseOf_1 4 rfl rfl)
theorem dX1_cheeseOf_27 : decode cX1_cheeseOf 27 = .ok (.iload_n 3, 1) := dk_29 (dk_at dksX1_cheeseOf_1 5 rfl rfl)
theorem dX1_cheeseOf_28 : decode cX1_cheeseOf 28 = .ok (.iconst 1, 1) := dk_4 (dk_at dksX1_cheeseOf_1 6 rfl rfl)
theorem dX1_cheeseOf_29 : decode cX1_cheeseOf 29 = .ok (.aload_n 0, 1) := dk_42 (dk_at dksX1_cheeseOf_1 7 rfl rfl)
theorem dX1_cheeseOf_30 : decode cX1_cheeseOf 30 = .ok (.getfield 104, 3) := dk_180 0 104 (dk_at dksX1_cheeseOf_1 8 rfl rfl)
theorem dX1_cheeseOf_33 : decode cX1_cheeseOf 33 = .ok (.getfield 139, 3) := dk_180 0 139 (dk_at dksX1_cheeseOf_1 11 rfl rfl)
theorem dX1_cheeseOf_36 : decode cX1_cheeseOf 36 = .ok (.ishl, 1) := dk_120 (dk_at dksX1_cheeseOf_1 14 rfl rfl)
theorem dX1_cheeseOf_37 : decode cX1_cheeseOf 37 = .ok (.if_icmp .ge 19, 3) := dk_162 0 19 (dk_at dksX1_cheeseOf_1 15 rfl rfl)
theorem dX1_cheeseOf_40 : decode cX1_cheeseOf 40 = .ok (.aload_n 0, 1) := dk_42 (dk_at dksX1_cheeseOf_1 18 rfl rfl)
theorem dX1_cheeseOf_41 : decode cX1_cheeseOf 41 = .ok (.iload_n 3, 1) := dk_29 (dk_at dksX1_cheeseOf_1 19 rfl rfl)
theorem dX1_cheeseOf_42 : decode cX1_cheeseOf 42 = .ok (.invokevirtual 411, 3) := dk_182 1 155 (dk_at dksX1_cheeseOf_1 20 rfl rfl)
theorem dX1_cheeseOf_45 : decode cX1_cheeseOf 45 = .ok (.ifCond .eq 5, 3) := dk_153 0 5 (dk_at dksX1_cheeseOf_2 0 rfl rfl)
theorem dX1_cheeseOf_48 : decode cX1_cheeseOf 48 = .ok (.iload_n 3, 1) := dk_29 (dk_at dksX1_cheeseOf_2 3 rfl rfl)
theorem dX1_cheeseOf_49 : decode cX1_cheeseOf 49 = .ok (.ireturn, 1) := dk_172 (dk_at dksX1_cheeseOf_2 4 rfl rfl)
theorem dX1_cheeseOf_50 : decode cX1_cheeseOf 50 = .ok (.iinc 3 1, 3) := dk_132 3 1 (dk_at dksX1_cheeseOf_2 5 rfl rfl)
theorem dX1_cheeseOf_53 : decode cX1_cheeseOf 53 = .ok (.goto (-26), 3) := dk_167 255 230 (dk_at dksX1_cheeseOf_2 8 rfl rfl)
theorem dX1_cheeseOf_56 : decode cX1_cheeseOf 56 = .ok (.bipush (-2), 2) := dk_16 254 (dk_at dksX1_cheeseOf_2 11 rfl rfl)
theorem dX1_cheeseOf_58 : decode cX1_cheeseOf 58 = .ok (.ireturn, 1) := dk_172 (dk_at dksX1_cheeseOf_2 13 rfl rfl)
def dkwX7_cheeseOf_2 : List UInt8 := [182, 0, 76, 172, 132, 3, 1, 167, 255, 231, 42, 16, 254, 182, 0, 76, 172]
abbrev dktX7_cheeseOf_2 : List UInt8 := dkwX7_cheeseOf_2 ++ []
def dkwX7_cheeseOf_1 : List UInt8 := [182, 1, 226, 3, 62, 29, 42, 182, 1, 232, 163, 0, 23, 42, 29, 182, 2, 76, 153, 0, 9, 42, 29]
abbrev dktX7_cheeseOf_1 : List UInt8 := dkwX7_cheeseOf_1 ++ dktX7_cheeseOf_2
def dkwX7_cheeseOf_0 : List UInt8 := [42, 3, 181, 0, 66, 42, 27, 182, 2, 73, 61, 28, 158, 0, 9, 42, 28, 182, 0, 72, 172, 42, 27]
abbrev dktX7_cheeseOf_0 : List UInt8 := dkwX7_cheeseOf_0 ++ dktX7_cheeseOf_1
theorem dksX7_cheeseOf_0 : cX7_cheeseOf.data.toList.drop 0 = dktX7_cheeseOf_0 := by decide +kernel
theorem dksX7_cheeseOf_1 : cX7_cheeseOf.data.toList.drop 23 = dktX7_cheeseOf_1 := dk_seg dksX7_cheeseOf_0 23 rfl rfl
theorem dksX7_cheeseOf_2 : cX7_cheeseOf.data.toList.drop 46 = dktX7_cheeseOf_2 := dk_seg dksX7_cheeseOf_1 23 rfl rfl
theorem dX7_cheeseOf_0 : decode cX7_cheeseOf 0 = .ok (.aload_n 0, 1) := dk_42 (dk_at dksX7_cheeseOf_0 0 rfl rfl)
theorem dX7_cheeseOf_1 : decode cX7_cheeseOf 1 = .ok (.iconst 0, 1) := dk_3 (dk_at dksX7_cheeseOf_0 1 rfl rfl)
theorem dX7_cheeseOf_2 : decode cX7_cheeseOf 2 = .ok (.putfield 66, 3) := dk_181 0 66 (dk_at dksX7_cheeseOf_0 2 rfl rfl)
theorem dX7_cheeseOf_5 : decode cX7_cheeseOf 5 = .ok (.aload_n 0, 1) := dk_42 (dk_at dksX7_cheeseOf_0 5 rfl rfl)
theorem dX7_cheeseOf_6 : decode cX7_cheeseOf 6 = .ok (.iload_n 1, 1) := dk_27 (dk_at dksX7_cheeseOf_0 6 rfl rfl)
theorem dX7_cheeseOf_7 : decode cX7_cheeseOf 7 = .ok (.invokevirtual 585, 3) := dk_182 2 73 (dk_at dksX7_cheeseOf_0 7 rfl rfl)
theorem dX7_cheeseOf_10 : decode cX7_cheeseOf 10 = .ok (.istore_n 2, 1) := dk_61 (dk_at dksX7_cheeseOf_0 10 rfl rfl)
theorem dX7_cheeseOf_11 : decode cX7_cheeseOf 11 = .ok (.iload_n 2, 1) := dk_28 (dk_at dksX7_cheeseOf_0 11 rfl rfl)
theorem dX7_cheeseOf_12 : decode cX7_cheeseOf 12 = .ok (.ifCond .le 9, 3) := dk_158 0 9 (dk_at dksX7_cheeseOf_0 12 rfl rfl)
theorem dX7_cheeseOf_15 : decode cX7_cheeseOf 15 = .ok (.aload_n 0, 1) := dk_42 (dk_at dksX7_cheeseOf_0 15 rfl rfl)
theorem dX7_cheeseOf_16 : decode cX7_cheeseOf 16 = .ok (.iload_n 2, 1) := dk_28 (dk_at dksX7_cheeseOf_0 16 rfl rfl)
theorem dX7_cheeseOf_17 : decode cX7_cheeseOf 17 = .ok (.invokevirtual 72, 3) := dk_182 0 72 (dk_at dksX7_cheeseOf_0 17 rfl rfl)
theorem dX7_cheeseOf_20 : decode cX7_cheeseOf 20 = .ok (.ireturn, 1) := dk_172 (dk_at dksX7_cheeseOf_0 20 rfl rfl)
theorem dX7_cheeseOf_21 : decode cX7_cheeseOf 21 = .ok (.aload_n 0, 1) := dk_42 (dk_at dksX7_cheeseOf_0 21 rfl rfl)
theorem dX7_cheeseOf_22 : decode cX7_cheeseOf 22 = .ok (.iload_n 1, 1) := dk_27 (dk_at dksX7_cheeseOf_0 22 rfl rfl)
theorem dX7_cheeseOf_23 : decode cX7_cheeseOf 23 = .ok (.invokevirtual 482, 3) := dk_182 1 226 (dk_at dksX7_cheeseOf_1 0 rfl rfl)
theorem dX7_cheeseOf_26 : decode cX7_cheeseOf 26 = .ok (.iconst 0, 1) := dk_3 (dk_at dksX7_cheeseOf_1 3 rfl rfl)
theorem dX7_cheeseOf_27 : decode cX7_cheeseOf 27 = .ok (.istore_n 3, 1) := dk_62 (dk_at dksX7_cheeseOf_1 4 rfl rfl)
theorem dX7_cheeseOf_28 : decode cX7_cheeseOf 28 = .ok (.iload_n 3, 1) := dk_29 (dk_at dksX7_cheeseOf_1 5 rfl rfl)
theorem dX7_cheeseOf_29 : decode cX7_cheeseOf 29 = .ok (.aload_n 0, 1) := dk_42 (dk_at dksX7_cheeseOf_1 6 rfl rfl)
theorem dX7_cheeseOf_30 : decode cX7_cheeseOf 30 = .ok (.invokevirtual 488, 3) := dk_182 1 232 (dk_at dksX7_cheeseOf_1 7 rfl rfl)
theorem dX7_cheeseOf_33 : decode cX7_cheeseOf 33 = .ok (.if_icmp .gt 23, 3) := dk_163 0 23 (dk_at dksX7_cheeseOf_1 10 rfl rfl)
theorem dX7_cheeseOf_36 : decode cX7_cheeseOf 36 = .ok (.aload_n 0, 1) := dk_42 (dk_at dksX7_cheeseOf_1 13 rfl rfl)
theorem dX7_cheeseOf_37 : decode cX7_cheeseOf 37 = .ok (.iload_n 3, 1) := dk_29 (dk_at dksX7_cheeseOf_1 14 rfl rfl)
theorem dX7_cheeseOf_38 : decode cX7_cheeseOf 38 = .ok (.invokevirtual 588, 3) := dk_182 2 76 (dk_at dksX7_cheeseOf_1 15 rfl rfl)
theorem dX7_cheeseOf_41 : decode cX7_cheeseOf 41 = .ok (.ifCond .eq 9, 3) := dk_153 0 9 (dk_at dksX7_cheeseOf_1 18 rfl rfl)
theorem dX7_cheeseOf_44 : decode cX7_cheeseOf 44 = .ok (.aload_n 0, 1) := dk_42 (dk_at dksX7_cheeseOf_1 21 rfl rfl)
theorem dX7_cheeseOf_45 : decode cX7_cheeseOf 45 = .ok (.iload_n 3, 1) := dk_29 (dk_at dksX7_cheeseOf_1 22 rfl rfl)
theorem dX7_cheeseOf_46 : decode cX7_cheeseOf 46 = .ok (.invokevirtual 76, 3) := dk_182 0 76 (dk_at dksX7_cheeseOf_2 0 rfl rfl)
theorem dX7_cheeseOf_49 : decode cX7_cheeseOf 49 = .ok (.ireturn, 1) := dk_172 (dk_at dksX7_cheeseOf_2 3 rfl rfl)
theorem dX7_cheeseOf_50 : decode cX7_cheeseOf 50 = .ok (.iinc 3 1, 3) := dk_132 3 1 (dk_at dksX7_cheeseOf_2 4 rfl rfl)
theorem dX7_cheeseOf_53 : decode cX7_cheeseOf 53 = .ok (.goto (-25), 3) := dk_167 255 231 (dk_at dksX7_cheeseOf_2 7 rfl rfl)
theorem dX7_cheeseOf_56 : decode cX7_cheeseOf 56 = .ok (.aload_n 0, 1) := dk_42 (dk_at dksX7_cheeseOf_2 10 rfl rfl)
theorem dX7_cheeseOf_57 : decode cX7_cheeseOf 57 = .ok (.bipush (-2), 2) := dk_16 254 (dk_at dksX7_cheeseOf_2 11 rfl rfl)
theorem dX7_cheeseOf_59 : decode cX7_cheeseOf 59 = .ok (.invokevirtual 76, 3) := dk_182 0 76 (dk_at dksX7_cheeseOf_2 13 rfl rfl)
theorem dX7_cheeseOf_62 : decode cX7_cheeseOf 62 = .ok (.ireturn, 1) := dk_172 (dk_at dksX7_cheeseOf_2 16 rfl rfl)
def dkwX6_tries_7 : List UInt8 := [182, 0, 30, 132, 7, 1, 167, 255, 134, 177]
abbrev dktX6_tries_7 : List UInt8 := dkwX6_tries_7 ++ []
def dkwX6_tries_6 : List UInt8 := [105, 97, 22, 5, 16, 10, 42, 180, 0, 18, 180, 0, 52, 21, 7, 50, 180, 0, 61, 100, 133, 105]
abbrev dktX6_tries_6 : List UInt8 := dkwX6_tries_6 ++ dktX6_tries_7
def dkwX6_tries_5 : List UInt8 := [21, 7, 120, 128, 33, 42, 180, 0, 18, 180, 0, 52, 21, 7, 50, 180, 0, 56, 133, 22, 5, 105, 22, 8]
abbrev dktX6_tries_5 : List UInt8 := dkwX6_tries_5 ++ dktX6_tries_6
def dkwX6_tries_4 : List UInt8 := [162, 0, 17, 22, 8, 20, 0, 50, 105, 55, 8, 132, 10, 1, 167, 255, 233, 42, 27, 4, 96, 28, 4]
abbrev dktX6_tries_4 : List UInt8 := dkwX6_tries_4 ++ dktX6_tries_5
def dkwX6_tries_3 : List UInt8 := [180, 0, 9, 27, 21, 7, 79, 10, 55, 8, 27, 54, 10, 21, 10, 42, 180, 0, 18, 180, 0, 34]
abbrev dktX6_tries_3 : List UInt8 := dkwX6_tries_3 ++ dktX6_tries_4
def dkwX6_tries_2 : List UInt8 := [180, 0, 18, 180, 0, 34, 162, 0, 116, 28, 21, 7, 184, 0, 46, 153, 0, 6, 167, 0, 98, 42]
abbrev dktX6_tries_2 : List UInt8 := dkwX6_tries_2 ++ dktX6_tries_3
def dkwX6_tries_1 : List UInt8 := [181, 0, 26, 42, 180, 0, 9, 3, 42, 180, 0, 15, 3, 27, 184, 0, 40, 177, 3, 54, 7, 21, 7, 42]
abbrev dktX6_tries_1 : List UInt8 := dkwX6_tries_1 ++ dktX6_tries_2
def dkwX6_tries_0 : List UInt8 := [27, 42, 180, 0, 18, 180, 0, 34, 160, 0, 33, 33, 42, 180, 0, 26, 148, 155, 0, 4, 177, 42, 33]
abbrev dktX6_tries_0 : List UInt8 := dkwX6_tries_0 ++ dktX6_tries_1
theorem dksX6_tries_0 : cX6_tries.data.toList.drop 0 = dktX6_tries_0 := by decide +kernel
theorem dksX6_tries_1 : cX6_tries.data.toList.drop 23 = dktX6_tries_1 := dk_seg dksX6_tries_0 23 rfl rfl
theorem dksX6_tries_2 : cX6_tries.data.toList.drop 47 = dktX6_tries_2 := dk_seg dksX6_tries_1 24 rfl rfl
theorem dksX6_tries_3 : cX6_tries.data.toList.drop 69 = dktX6_tries_3 := dk_seg dksX6_tries_2 22 rfl rfl
theorem dksX6_tries_4 : cX6_tries.data.toList.drop 91 = dktX6_tries_4 := dk_seg dksX6_tries_3 22 rfl rfl
theorem dksX6_tries_5 : cX6_tries.data.toList.drop 114 = dktX6_tries_5 := dk_seg dksX6_tries_4 23 rfl rfl
theorem dksX6_tries_6 : cX6_tries.data.toList.drop 138 = dktX6_tries_6 := dk_seg dksX6_tries_5 24 rfl rfl
theorem dksX6_tries_7 : cX6_tries.data.toList.drop 160 = dktX6_tries_7 := dk_seg dksX6_tries_6 22 rfl rfl
theorem dX6_tries_0 : decode cX6_tries 0 = .ok (.iload_n 1, 1) := dk_27 (dk_at dksX6_tries_0 0 rfl rfl)
theorem dX6_tries_1 : decode cX6_tries 1 = .ok (.aload_n 0, 1) := dk_42 (dk_at dksX6_tries_0 1 rfl rfl)
theorem dX6_tries_2 : decode cX6_tries 2 = .ok (.getfield 18, 3) := dk_180 0 18 (dk_at dksX6_tries_0 2 rfl rfl)
theorem dX6_tries_5 : decode cX6_tries 5 = .ok (.getfield 34, 3) := dk_180 0 34 (dk_at dksX6_tries_0 5 rfl rfl)
theorem dX6_tries_8 : decode cX6_tries 8 = .ok (.if_icmp .ne 33, 3) := dk_160 0 33 (dk_at dksX6_tries_0 8 rfl rfl)
theorem dX6_tries_11 : decode cX6_tries 11 = .ok (.lload_n 3, 1) := dk_33 (dk_at dksX6_tries_0 11 rfl rfl)
theorem dX6_tries_12 : decode cX6_tries 12 = .ok (.aload_n 0, 1) := dk_42 (dk_at dksX6_tries_0 12 rfl rfl)
theorem dX6_tries_13 : decode cX6_tries 13 = .ok (.getfield 26, 3) := dk_180 0 26 (dk_at dksX6_tries_0 13 rfl rfl)
theorem dX6_tries_16 : decode cX6_tries 16 = .ok (.lcmp, 1) := dk_148 (dk_at dksX6_tries_0 16 rfl rfl)
theorem dX6_tries_17 : decode cX6_tries 17 = .ok (.ifCond .lt 4, 3) := dk_155 0 4 (dk_at dksX6_tries_0 17 rfl rfl)
theorem dX6_tries_20 : decode cX6_tries 20 = .ok (.return_, 1) := dk_177 (dk_at dksX6_tries_0 20 rfl rfl)
theorem dX6_tries_21 : decode cX6_tries 21 = .ok (.aload_n 0, 1) := dk_42 (dk_at dksX6_tries_0 21 rfl rfl)
theorem dX6_tries_22 : decode cX6_tries 22 = .ok (.lload_n 3, 1) := dk_33 (dk_at dksX6_tries_0 22 rfl rfl)
theorem dX6_tries_23 : decode cX6_tries 23 = .ok (.putfield 26, 3) := dk_181 0 26 (dk_at dksX6_tries_1 0 rfl rfl)
theorem dX6_tries_26 : decode cX6_tries 26 = .ok (.aload_n 0, 1) := dk_42 (dk_at dksX6_tries_1 3 rfl rfl)
theorem dX6_tries_27 : decode cX6_tries 27 = .ok (.getfield 9, 3) := dk_180 0 9 (dk_at dksX6_tries_1 4 rfl rfl)
theorem dX6_tries_30 : decode cX6_tries 30 = .ok (.iconst 0, 1) := dk_3 (dk_at dksX6_tries_1 7 rfl rfl)
theorem dX6_tries_31 : decode cX6_tries 31 = .ok (.aload_n 0, 1) := dk_42 (dk_at dksX6_tries_1 8 rfl rfl)
theorem dX6_tries_32 : decode cX6_tries 32 = .ok (.getfield 15, 3) := dk_180 0 15 (dk_at dksX6_tries_1 9 rfl rfl)
theorem dX6_tries_35 : decode cX6_tries 35 = .ok (.iconst 0, 1) := dk_3 (dk_at dksX6_tries_1 12 rfl rfl)
theorem dX6_tries_36 : decode cX6_tries 36 = .ok (.iload_n 1, 1) := dk_27 (dk_at dksX6_tries_1 13 rfl rfl)
theorem dX6_tries_37 : decode cX6_tries 37 = .ok (.invokestatic 40, 3) := dk_184 0 40 (dk_at dksX6_tries_1 14 rfl rfl)
theorem dX6_tries_40 : decode cX6_tries 40 = .ok (.return_, 1) := dk_177 (dk_at dksX6_tries_1 17 rfl rfl)
theorem dX6_tries_41 : decode cX6_tries 41 = .ok (.iconst 0, 1) := dk_3 (dk_at dksX6_tries_1 18 rfl rfl)
theorem dX6_tries_42 : decode cX6_tries 42 = .ok (.istore 7, 2) := dk_54 7 (dk_at dksX6_tries_1 19 rfl rfl)
theorem dX6_tries_44 : decode cX6_tries 44 = .ok (.iload 7, 2) := dk_21 7 (dk_at dksX6_tries_1 21 rfl rfl)
theorem dX6_tries_46 : decode cX6_tries 46 = .ok (.aload_n 0, 1) := dk_42 (dk_at dksX6_tries_1 23 rfl rfl)
theorem dX6_tries_47 : decode cX6_tries 47 = .ok (.getfield 18, 3) := dk_180 0 18 (dk_at dksX6_tries_2 0 rfl rfl)
theorem dX6_tries_50 : decode cX6_tries 50 = .ok (.getfield 34, 3) := dk_180 0 34 (dk_at dksX6_tries_2 3 rfl rfl)
theorem dX6_tries_53 : decode cX6_tries 53 = .ok (.if_icmp .ge 116, 3) := dk_162 0 116 (dk_at dksX6_tries_2 6 rfl rfl)
theorem dX6_tries_56 : decode cX6_tries 56 = .ok (.iload_n 2, 1) := dk_28 (dk_at dksX6_tries_2 9 rfl rfl)
theorem dX6_tries_57 : decode cX6_tries 57 = .ok (.iload 7, 2) := dk_21 7 (dk_at dksX6_tries_2 10 rfl rfl)
theorem dX6_tries_59 : decode cX6_tries 59 = .ok (.invokestatic 46, 3) := dk_184 0 46 (dk_at dksX6_tries_2 12 rfl rfl)
theorem dX6_tries_62 : decode cX6_tries 62 = .ok (.ifCond .eq 6, 3) := dk_153 0 6 (dk_at dksX6_tries_2 15 rfl rfl)
theorem dX6_tries_65 : decode cX6_tries 65 = .ok (.goto 98, 3) := dk_167 0 98 (dk_at dksX6_tries_2 18 rfl rfl)
theorem dX6_tries_68 : decode cX6_tries 68 = .ok (.aload_n 0, 1) := dk_42 (dk_at dksX6_tries_2 21 rfl rfl)
theorem dX6_tries_69 : decode cX6_tries 69 = .ok (.getfield 9, 3) := dk_180 0 9 (dk_at dksX6_tries_3 0 rfl rfl)
theorem dX6_tries_72 : decode cX6_tries 72 = .ok (.iload_n 1, 1) := dk_27 (dk_at dksX6_tries_3 3 rfl rfl)
theorem dX6_tries_73 : decode cX6_tries 73 = .ok (.iload 7, 2) := dk_21 7 (dk_at dksX6_tries_3 4 rfl rfl)
theorem dX6_tries_75 : decode cX6_tries 75 = .ok (.iastore, 1) := dk_79 (dk_at dksX6_tries_3 6 rfl rfl)
theorem dX6_tries_76 : decode cX6_tries 76 = .ok (.lconst 1, 1) := dk_10 (dk_at dksX6_tries_3 7 rfl rfl)
theorem dX6_tries_77 : decode cX6_tries 77 = .ok (.lstore 8, 2) := dk_55 8 (dk_at dksX6_tries_3 8 rfl rfl)
theorem dX6_tries_79 : decode cX6_tries 79 = .ok (.iload_n 1, 1) := dk_27 (dk_at dksX6_tries_3 10 rfl rfl)
theorem dX6_tries_80 : decode cX6_tries 80 = .ok (.istore 10, 2) := dk_54 10 (dk_at dksX6_tries_3 11 rfl rfl)
theorem dX6_tries_82 : decode cX6_tries 82 = .ok (.iload 10, 2) := dk_21 10 (dk_at dksX6_tries_3 13 rfl rfl)
theorem dX6_tries_84 : decode cX6_tries 84 = .ok (.aload_n 0, 1) := dk_42 (dk_at dksX6_tries_3 15 rfl rfl)
theorem dX6_tries_85 : decode cX6_tries 85 = .ok (.getfield 18, 3) := dk_180 0 18 (dk_at dksX6_tries_3 16 rfl rfl)
theorem dX6_tries_88 : decode cX6_tries 88 = .ok (.getfield 34, 3) := dk_180 0 34 (dk_at dksX6_tries_3 19 rfl rfl)
theorem dX6_tries_91 : decode cX6_tries 91 = .ok (.if_icmp .ge 17, 3) := dk_162 0 17 (dk_at dksX6_tries_4 0 rfl rfl)
theorem dX6_tries_94 : decode cX6_tries 94 = .ok (.lload 8, 2) := dk_22 8 (dk_at dksX6_tries_4 3 rfl rfl)
theorem dX6_tries_96 : decode cX6_tries 96 = .ok (.ldc2_w 50, 3) := dk_20 0 50 (dk_at dksX6_tries_4 5 rfl rfl)
theorem dX6_tries_99 : decode cX6_tries 99 = .ok (.lmul, 1) := dk_105 (dk_at dksX6_tries_4 8 rfl rfl)
theorem dX6_tries_100 : decode cX6_tries 100 = .ok (.lstore 8, 2) := dk_55 8 (dk_at dksX6_tries_4 9 rfl rfl)
theorem dX6_tries_102 : decode cX6_tries 102 = .ok (.iinc 10 1, 3) := dk_132 10 1 (dk_at dksX6_tries_4 11 rfl rfl)
theorem dX6_tries_105 : decode cX6_tries 105 = .ok (.goto (-23), 3) := dk_167 255 233 (dk_at dksX6_tries_4 14 rfl rfl)
theorem dX6_tries_108 : decode cX6_tries 108 = .ok (.aload_n 0, 1) := dk_42 (dk_at dksX6_tries_4 17 rfl rfl)
theorem dX6_tries_109 : decode cX6_tries 109 = .ok (.iload_n 1, 1) := dk_27 (dk_at dksX6_tries_4 18 rfl rfl)
theorem dX6_tries_110 : decode cX6_tries 110 = .ok (.iconst 1, 1) := dk_4 (dk_at dksX6_tries_4 19 rfl rfl)
theorem dX6_tries_111 : decode cX6_tries 111 = .ok (.iadd, 1) := dk_96 (dk_at dksX6_tries_4 20 rfl rfl)
theorem dX6_tries_112 : decode cX6_tries 112 = .ok (.iload_n 2, 1) := dk_28 (dk_at dksX6_tries_4 21 rfl rfl)
theorem dX6_tries_113 : decode cX6_tries 113 = .ok (.iconst 1, 1) := dk_4 (dk_at dksX6_tries_4 22 rfl rfl)
theorem dX6_tries_114 : decode cX6_tries 114 = .ok (.iload 7, 2) := dk_21 7 (dk_at dksX6_tries_5 0 rfl rfl)
theorem dX6_tries_116 : decode cX6_tries 116 = .ok (.ishl, 1) := dk_120 (dk_at dksX6_tries_5 2 rfl rfl)
theorem dX6_tries_117 : decode cX6_tries 117 = .ok (.ior, 1) := dk_128 (dk_at dksX6_tries_5 3 rfl rfl)
theorem dX6_tries_118 : decode cX6_tries 118 = .ok (.lload_n 3, 1) := dk_33 (dk_at dksX6_tries_5 4 rfl rfl)
theorem dX6_tries_119 : decode cX6_tries 119 = .ok (.aload_n 0, 1) := dk_42 (dk_at dksX6_tries_5 5 rfl rfl)
theorem dX6_tries_120 : decode cX6_tries 120 = .ok (.getfield 18, 3) := dk_180 0 18 (dk_at dksX6_tries_5 6 rfl rfl)
theorem dX6_tries_123 : decode cX6_tries 123 = .ok (.getfield 52, 3) := dk_180 0 52 (dk_at dksX6_tries_5 9 rfl rfl)
theorem dX6_tries_126 : decode cX6_tries 126 = .ok (.iload 7, 2) := dk_21 7 (dk_at dksX6_tries_5 12 rfl rfl)
theorem dX6_tries_128 : decode cX6_tries 128 = .ok (.aaload, 1) := dk_50 (dk_at dksX6_tries_5 14 rfl rfl)
theorem dX6_tries_129 : decode cX6_tries 129 = .ok (.getfield 56, 3) := dk_180 0 56 (dk_at dksX6_tries_5 15 rfl rfl)
theorem dX6_tries_132 : decode cX6_tries 132 = .ok (.i2l, 1) := dk_133 (dk_at dksX6_tries_5 18 rfl rfl)
theorem dX6_tries_133 : decode cX6_tries 133 = .ok (.lload 5, 2) := dk_22 5 (dk_at dksX6_tries_5 19 rfl rfl)
theorem dX6_tries_135 : decode cX6_tries 135 = .ok (.lmul, 1) := dk_105 (dk_at dksX6_tries_5 21 rfl rfl)
theorem dX6_tries_136 : decode cX6_tries 136 = .ok (.lload 8, 2) := dk_22 8 (dk_at dksX6_tries_5 22 rfl rfl)
theorem dX6_tries_138 : decode cX6_tries 138 = .ok (.lmul, 1) := dk_105 (dk_at dksX6_tries_6 0 rfl rfl)
theorem dX6_tries_139 : decode cX6_tries 139 = .ok (.ladd, 1) := dk_97 (dk_at dksX6_tries_6 1 rfl rfl)
theorem dX6_tries_140 : decode cX6_tries 140 = .ok (.lload 5, 2) := dk_22 5 (dk_at dksX6_tries_6 2 rfl rfl)
theorem dX6_tries_142 : decode cX6_tries 142 = .ok (.bipush 10, 2) := dk_16 10 (dk_at dksX6_tries_6 4 rfl rfl)
theorem dX6_tries_144 : decode cX6_tries 144 = .ok (.aload_n 0, 1) := dk_42 (dk_at dksX6_tries_6 6 rfl rfl)
theorem dX6_tries_145 : decode cX6_tries 145 = .ok (.getfield 18, 3) := dk_180 0 18 (dk_at dksX6_tries_6 7 rfl rfl)
theorem dX6_tries_148 : decode cX6_tries 148 = .ok (.getfield 52, 3) := dk_180 0 52 (dk_at dksX6_tries_6 10 rfl rfl)
theorem dX6_tries_151 : decode cX6_tries 151 = .ok (.iload 7, 2) := dk_21 7 (dk_at dksX6_tries_6 13 rfl rfl)
theorem dX6_tries_153 : decode cX6_tries 153 = .ok (.aaload, 1) := dk_50 (dk_at dksX6_tries_6 15 rfl rfl)
theorem dX6_tries_154 : decode cX6_tries 154 = .ok (.getfield 61, 3) := dk_180 0 61 (dk_at dksX6_tries_6 16 rfl rfl)
theorem dX6_tries_157 : decode cX6_tries 157 = .ok (.isub, 1) := dk_100 (dk_at dksX6_tries_6 19 rfl rfl)
theorem dX6_tries_158 : decode cX6_tries 158 = .ok (.i2l, 1) := dk_133 (dk_at dksX6_tries_6 20 rfl rfl)
theorem dX6_tries_159 : decode cX6_tries 159 = .ok (.lmul, 1) := dk_105 (dk_at dksX6_tries_6 21 rfl rfl)
theorem dX6_tries_160 : decode cX6_tries 160 = .ok (.invokevirtual 30, 3) := dk_182 0 30 (dk_at dksX6_tries_7 0 rfl rfl)
theorem dX6_tries_163 : decode cX6_tries 163 = .ok (.iinc 7 1, 3) := dk_132 7 1 (dk_at dksX6_tries_7 3 rfl rfl)
theorem dX6_tries_166 : decode cX6_tries 166 = .ok (.goto (-122), 3) := dk_167 255 134 (dk_at dksX6_tries_7 6 rfl rfl)
theorem dX6_tries_169 : decode cX6_tries 169 = .ok (.return_, 1) := dk_177 (dk_at dksX6_tries_7 9 rfl rfl)
def dkwX6_lay_0 : List UInt8 := [42, 43, 181, 0, 18, 42, 20, 0, 24, 181, 0, 26, 42, 3, 3, 9, 10, 182, 0, 30, 177]
abbrev dktX6_lay_0 : List UInt8 := dkwX6_lay_0 ++ []
theorem dksX6_lay_0 : cX6_lay.data.toList.drop 0 = dktX6_lay_0 := by decide +kernel
theorem dX6_lay_0 : decode cX6_lay 0 = .ok (.aload_n 0, 1) := dk_42 (dk_at dksX6_lay_0 0 rfl rfl)
theorem dX6_lay_1 : decode cX6_lay 1 = .ok (.aload_n 1, 1) := dk_43 (dk_at dksX6_lay_0 1 rfl rfl)
theorem dX6_lay_2 : decode cX6_lay 2 = .ok (.putfield 18, 3) := dk_181 0 18 (dk_at dksX6_lay_0 2 rfl rfl)
theorem dX6_lay_5 : decode cX6_lay 5 = .ok (.aload_n 0, 1) := dk_42 (dk_at dksX6_lay_0 5 rfl rfl)
theorem dX6_lay_6 : decode cX6_lay 6 = .ok (.ldc2_w 24, 3) := dk_20 0 24 (dk_at dksX6_lay_0 6 rfl rfl)
theorem dX6_lay_9 : decode cX6_lay 9 = .ok (.putfield 26, 3) := dk_181 0 26 (dk_at dksX6_lay_0 9 rfl rfl)
theorem dX6_lay_12 : decode cX6_lay 12 = .ok (.aload_n 0, 1) := dk_42 (dk_at dksX6_lay_0 12 rfl rfl)
theorem dX6_lay_13 : decode cX6_lay 13 = .ok (.iconst 0, 1) := dk_3 (dk_at dksX6_lay_0 13 rfl rfl)
theorem dX6_lay_14 : decode cX6_lay 14 = .ok (.iconst 0, 1) := dk_3 (dk_at dksX6_lay_0 14 rfl rfl)
theorem dX6_lay_15 : decode cX6_lay 15 = .ok (.lconst 0, 1) := dk_9 (dk_at dksX6_lay_0 15 rfl rfl)
theorem dX6_lay_16 : decode cX6_lay 16 = .ok (.lconst 1, 1) := dk_10 (dk_at dksX6_lay_0 16 rfl rfl)
theorem dX6_lay_17 : decode cX6_lay 17 = .ok (.invokevirtual 30, 3) := dk_182 0 30 (dk_at dksX6_lay_0 17 rfl rfl)
theorem dX6_lay_20 : decode cX6_lay 20 = .ok (.return_, 1) := dk_177 (dk_at dksX6_lay_0 20 rfl rfl)
theorem dX6_least_0 : decode cX6_least 0 = .ok (.aload_n 0, 1) := by decide +kernel
theorem dX6_least_1 : decode cX6_least 1 = .ok (.getfield 26, 3) := by decide +kernel
theorem dX6_least_4 : decode cX6_least 4 = .ok (.lreturn, 1) := by decide +kernel
def dkwX1_appeals_1 : List UInt8 := [180, 0, 104, 182, 1, 158, 42, 180, 0, 53, 182, 1, 161, 173]
abbrev dktX1_appeals_1 : List UInt8 := dkwX1_appeals_1 ++ []
def dkwX1_appeals_0 : List UInt8 := [42, 182, 0, 80, 42, 180, 0, 104, 199, 0, 10, 42, 4, 182, 0, 94, 133, 173, 42, 180, 0, 53, 42]
abbrev dktX1_appeals_0 : List UInt8 := dkwX1_appeals_0 ++ dktX1_appeals_1
theorem dksX1_appeals_0 : cX1_appeals.data.toList.drop 0 = dktX1_appeals_0 := by decide +kernel
theorem dksX1_appeals_1 : cX1_appeals.data.toList.drop 23 = dktX1_appeals_1 := dk_seg dksX1_appeals_0 23 rfl rfl
theorem dX1_appeals_0 : decode cX1_appeals 0 = .ok (.aload_n 0, 1) := dk_42 (dk_at dksX1_appeals_0 0 rfl rfl)
theorem dX1_appeals_1 : decode cX1_appeals 1 = .ok (.invokevirtual 80, 3) := dk_182 0 80 (dk_at dksX1_appeals_0 1 rfl rfl)
theorem dX1_appeals_4 : decode cX1_appeals 4 = .ok (.aload_n 0, 1) := dk_42 (dk_at dksX1_appeals_0 4 rfl rfl)
theorem dX1_appeals_5 : decode cX1_appeals 5 = .ok (.getfield 104, 3) := dk_180 0 104 (dk_at dksX1_appeals_0 5 rfl rfl)
theorem dX1_appeals_8 : decode cX1_appeals 8 = .ok (.ifnonnull 10, 3) := dk_199 0 10 (dk_at dksX1_appeals_0 8 rfl rfl)
theorem dX1_appeals_11 : decode cX1_appeals 11 = .ok (.aload_n 0, 1) := dk_42 (dk_at dksX1_appeals_0 11 rfl rfl)
theorem dX1_appeals_12 : decode cX1_appeals 12 = .ok (.iconst 1, 1) := dk_4 (dk_at dksX1_appeals_0 12 rfl rfl)
theorem dX1_appeals_13 : decode cX1_appeals 13 = .ok (.invokevirtual 94, 3) := dk_182 0 94 (dk_at dksX1_appeals_0 13 rfl rfl)
theorem dX1_appeals_16 : decode cX1_appeals 16 = .ok (.i2l, 1) := dk_133 (dk_at dksX1_appeals_0 16 rfl rfl)
theorem dX1_appeals_17 : decode cX1_appeals 17 = .ok (.lreturn, 1) := dk_173 (dk_at dksX1_appeals_0 17 rfl rfl)
theorem dX1_appeals_18 : decode cX1_appeals 18 = .ok (.aload_n 0, 1) := dk_42 (dk_at dksX1_appeals_0 18 rfl rfl)
theorem dX1_appeals_19 : decode cX1_appeals 19 = .ok (.getfield 53, 3) := dk_180 0 53 (dk_at dksX1_appeals_0 19 rfl rfl)
theorem dX1_appeals_22 : decode cX1_appeals 22 = .ok (.aload_n 0, 1) := dk_42 (dk_at dksX1_appeals_0 22 rfl rfl)
theorem dX1_appeals_23 : decode cX1_appeals 23 = .ok (.getfield 104, 3) := dk_180 0 104 (dk_at dksX1_appeals_1 0 rfl rfl)
theorem dX1_appeals_26 : decode cX1_appeals 26 = .ok (.invokevirtual 414, 3) := dk_182 1 158 (dk_at dksX1_appeals_1 3 rfl rfl)
theorem dX1_appeals_29 : decode cX1_appeals 29 = .ok (.aload_n 0, 1) := dk_42 (dk_at dksX1_appeals_1 6 rfl rfl)
theorem dX1_appeals_30 : decode cX1_appeals 30 = .ok (.getfield 53, 3) := dk_180 0 53 (dk_at dksX1_appeals_1 7 rfl rfl)
theorem dX1_appeals_33 : decode cX1_appeals 33 = .ok (.invokevirtual 417, 3) := dk_182 1 161 (dk_at dksX1_appeals_1 10 rfl rfl)
theorem dX1_appeals_36 : decode cX1_appeals 36 = .ok (.lreturn, 1) := dk_173 (dk_at dksX1_appeals_1 13 rfl rfl)
def dkwX7_meanOf_4 : List UInt8 := [132, 3, 1, 167, 255, 163, 31, 173]
abbrev dktX7_meanOf_4 : List UInt8 := dkwX7_meanOf_4 ++ []
def dkwX7_meanOf_3 : List UInt8 := [46, 100, 133, 167, 0, 6, 20, 2, 79, 105, 55, 4, 132, 6, 1, 167, 255, 205, 31, 22, 4, 97, 64]
abbrev dktX7_meanOf_3 : List UInt8 := dkwX7_meanOf_3 ++ dktX7_meanOf_4
def dkwX7_meanOf_2 : List UInt8 := [22, 4, 21, 6, 29, 162, 0, 25, 16, 10, 42, 180, 1, 186, 180, 1, 172, 42, 180, 0, 60, 21, 6, 46]
abbrev dktX7_meanOf_2 : List UInt8 := dkwX7_meanOf_2 ++ dktX7_meanOf_3
def dkwX7_meanOf_1 : List UInt8 := [180, 0, 60, 29, 46, 46, 133, 55, 4, 3, 54, 6, 21, 6, 42, 180, 1, 186, 180, 1, 163, 162, 0, 45]
abbrev dktX7_meanOf_1 : List UInt8 := dkwX7_meanOf_1 ++ dktX7_meanOf_2
def dkwX7_meanOf_0 : List UInt8 := [9, 64, 3, 62, 29, 42, 180, 1, 186, 180, 1, 163, 162, 0, 88, 42, 180, 1, 186, 180, 1, 170, 42]
abbrev dktX7_meanOf_0 : List UInt8 := dkwX7_meanOf_0 ++ dktX7_meanOf_1
theorem dksX7_meanOf_0 : cX7_meanOf.data.toList.drop 0 = dktX7_meanOf_0 := by decide +kernel
theorem dksX7_meanOf_1 : cX7_meanOf.data.toList.drop 23 = dktX7_meanOf_1 := dk_seg dksX7_meanOf_0 23 rfl rfl
theorem dksX7_meanOf_2 : cX7_meanOf.data.toList.drop 47 = dktX7_meanOf_2 := dk_seg dksX7_meanOf_1 24 rfl rfl
theorem dksX7_meanOf_3 : cX7_meanOf.data.toList.drop 71 = dktX7_meanOf_3 := dk_seg dksX7_meanOf_2 24 rfl rfl
theorem dksX7_meanOf_4 : cX7_meanOf.data.toList.drop 94 = dktX7_meanOf_4 := dk_seg dksX7_meanOf_3 23 rfl rfl
theorem dX7_meanOf_0 : decode cX7_meanOf 0 = .ok (.lconst 0, 1) := dk_9 (dk_at dksX7_meanOf_0 0 rfl rfl)
theorem dX7_meanOf_1 : decode cX7_meanOf 1 = .ok (.lstore_n 1, 1) := dk_64 (dk_at dksX7_meanOf_0 1 rfl rfl)
theorem dX7_meanOf_2 : decode cX7_meanOf 2 = .ok (.iconst 0, 1) := dk_3 (dk_at dksX7_meanOf_0 2 rfl rfl)
theorem dX7_meanOf_3 : decode cX7_meanOf 3 = .ok (.istore_n 3, 1) := dk_62 (dk_at dksX7_meanOf_0 3 rfl rfl)
theorem dX7_meanOf_4 : decode cX7_meanOf 4 = .ok (.iload_n 3, 1) := dk_29 (dk_at dksX7_meanOf_0 4 rfl rfl)
theorem dX7_meanOf_5 : decode cX7_meanOf 5 = .ok (.aload_n 0, 1) := dk_42 (dk_at dksX7_meanOf_0 5 rfl rfl)
theorem dX7_meanOf_6 : decode cX7_meanOf 6 = .ok (.getfield 442, 3) := dk_180 1 186 (dk_at dksX7_meanOf_0 6 rfl rfl)
theorem dX7_meanOf_9 : decode cX7_meanOf 9 = .ok (.getfield 419, 3) := dk_180 1 163 (dk_at dksX7_meanOf_0 9 rfl rfl)
theorem dX7_meanOf_12 : decode cX7_meanOf 12 = .ok (.if_icmp .ge 88, 3) := dk_162 0 88 (dk_at dksX7_meanOf_0 12 rfl rfl)
theorem dX7_meanOf_15 : decode cX7_meanOf 15 = .ok (.aload_n 0, 1) := dk_42 (dk_at dksX7_meanOf_0 15 rfl rfl)
theorem dX7_meanOf_16 : decode cX7_meanOf 16 = .ok (.getfield 442, 3) := dk_180 1 186 (dk_at dksX7_meanOf_0 16 rfl rfl)
theorem dX7_meanOf_19 : decode cX7_meanOf 19 = .ok (.getfield 426, 3) := dk_180 1 170 (dk_at dksX7_meanOf_0 19 rfl rfl)
theorem dX7_meanOf_22 : decode cX7_meanOf 22 = .ok (.aload_n 0, 1) := dk_42 (dk_at dksX7_meanOf_0 22 rfl rfl)
theorem dX7_meanOf_23 : decode cX7_meanOf 23 = .ok (.getfield 60, 3) := dk_180 0 60 (dk_at dksX7_meanOf_1 0 rfl rfl)
theorem dX7_meanOf_26 : decode cX7_meanOf 26 = .ok (.iload_n 3, 1) := dk_29 (dk_at dksX7_meanOf_1 3 rfl rfl)
theorem dX7_meanOf_27 : decode cX7_meanOf 27 = .ok (.iaload, 1) := dk_46 (dk_at dksX7_meanOf_1 4 rfl rfl)
theorem dX7_meanOf_28 : decode cX7_meanOf 28 = .ok (.iaload, 1) := dk_46 (dk_at dksX7_meanOf_1 5 rfl rfl)
theorem dX7_meanOf_29 : decode cX7_meanOf 29 = .ok (.i2l, 1) := dk_133 (dk_at dksX7_meanOf_1 6 rfl rfl)
theorem dX7_meanOf_30 : decode cX7_meanOf 30 = .ok (.lstore 4, 2) := dk_55 4 (dk_at dksX7_meanOf_1 7 rfl rfl)
theorem dX7_meanOf_32 : decode cX7_meanOf 32 = .ok (.iconst 0, 1) := dk_3 (dk_at dksX7_meanOf_1 9 rfl rfl)
theorem dX7_meanOf_33 : decode cX7_meanOf 33 = .ok (.istore 6, 2) := dk_54 6 (dk_at dksX7_meanOf_1 10 rfl rfl)
theorem dX7_meanOf_35 : decode cX7_meanOf 35 = .ok (.iload 6, 2) := dk_21 6 (dk_at dksX7_meanOf_1 12 rfl rfl)
theorem dX7_meanOf_37 : decode cX7_meanOf 37 = .ok (.aload_n 0, 1) := dk_42 (dk_at dksX7_meanOf_1 14 rfl rfl)
theorem dX7_meanOf_38 : decode cX7_meanOf 38 = .ok (.getfield 442, 3) := dk_180 1 186 (dk_at dksX7_meanOf_1 15 rfl rfl)
theorem dX7_meanOf_41 : decode cX7_meanOf 41 = .ok (.getfield 419, 3) := dk_180 1 163 (dk_at dksX7_meanOf_1 18 rfl rfl)
theorem dX7_meanOf_44 : decode cX7_meanOf 44 = .ok (.if_icmp .ge 45, 3) := dk_162 0 45 (dk_at dksX7_meanOf_1 21 rfl rfl)
theorem dX7_meanOf_47 : decode cX7_meanOf 47 = .ok (.lload 4, 2) := dk_22 4 (dk_at dksX7_meanOf_2 0 rfl rfl)
theorem dX7_meanOf_49 : decode cX7_meanOf 49 = .ok (.iload 6, 2) := dk_21 6 (dk_at dksX7_meanOf_2 2 rfl rfl)
theorem dX7_meanOf_51 : decode cX7_meanOf 51 = .ok (.iload_n 3, 1) := dk_29 (dk_at dksX7_meanOf_2 4 rfl rfl)
theorem dX7_meanOf_52 : decode cX7_meanOf 52 = .ok (.if_icmp .ge 25, 3) := dk_162 0 25 (dk_at dksX7_meanOf_2 5 rfl rfl)
theorem dX7_meanOf_55 : decode cX7_meanOf 55 = .ok (.bipush 10, 2) := dk_16 10 (dk_at dksX7_meanOf_2 8 rfl rfl)
theorem dX7_meanOf_57 : decode cX7_meanOf 57 = .ok (.aload_n 0, 1) := dk_42 (dk_at dksX7_meanOf_2 10 rfl rfl)
theorem dX7_meanOf_58 : decode cX7_meanOf 58 = .ok (.getfield 442, 3) := dk_180 1 186 (dk_at dksX7_meanOf_2 11 rfl rfl)
theorem dX7_meanOf_61 : decode cX7_meanOf 61 = .ok (.getfield 428, 3) := dk_180 1 172 (dk_at dksX7_meanOf_2 14 rfl rfl)
theorem dX7_meanOf_64 : decode cX7_meanOf 64 = .ok (.aload_n 0, 1) := dk_42 (dk_at dksX7_meanOf_2 17 rfl rfl)
theorem dX7_meanOf_65 : decode cX7_meanOf 65 = .ok (.getfield 60, 3) := dk_180 0 60 (dk_at dksX7_meanOf_2 18 rfl rfl)
theorem dX7_meanOf_68 : decode cX7_meanOf 68 = .ok (.iload 6, 2) := dk_21 6 (dk_at dksX7_meanOf_2 21 rfl rfl)
theorem dX7_meanOf_70 : decode cX7_meanOf 70 = .ok (.iaload, 1) := dk_46 (dk_at dksX7_meanOf_2 23 rfl rfl)
theorem dX7_meanOf_71 : decode cX7_meanOf 71 = .ok (.iaload, 1) := dk_46 (dk_at dksX7_meanOf_3 0 rfl rfl)
theorem dX7_meanOf_72 : decode cX7_meanOf 72 = .ok (.isub, 1) := dk_100 (dk_at dksX7_meanOf_3 1 rfl rfl)
theorem dX7_meanOf_73 : decode cX7_meanOf 73 = .ok (.i2l, 1) := dk_133 (dk_at dksX7_meanOf_3 2 rfl rfl)
theorem dX7_meanOf_74 : decode cX7_meanOf 74 = .ok (.goto 6, 3) := dk_167 0 6 (dk_at dksX7_meanOf_3 3 rfl rfl)
theorem dX7_meanOf_77 : decode cX7_meanOf 77 = .ok (.ldc2_w 591, 3) := dk_20 2 79 (dk_at dksX7_meanOf_3 6 rfl rfl)
theorem dX7_meanOf_80 : decode cX7_meanOf 80 = .ok (.lmul, 1) := dk_105 (dk_at dksX7_meanOf_3 9 rfl rfl)
theorem dX7_meanOf_81 : decode cX7_meanOf 81 = .ok (.lstore 4, 2) := dk_55 4 (dk_at dksX7_meanOf_3 10 rfl rfl)
theorem dX7_meanOf_83 : decode cX7_meanOf 83 = .ok (.iinc 6 1, 3) := dk_132 6 1 (dk_at dksX7_meanOf_3 12 rfl rfl)
theorem dX7_meanOf_86 : decode cX7_meanOf 86 = .ok (.goto (-51), 3) := dk_167 255 205 (dk_at dksX7_meanOf_3 15 rfl rfl)
theorem dX7_meanOf_89 : decode cX7_meanOf 89 = .ok (.lload_n 1, 1) := dk_31 (dk_at dksX7_meanOf_3 18 rfl rfl)
theorem dX7_meanOf_90 : decode cX7_meanOf 90 = .ok (.lload 4, 2) := dk_22 4 (dk_at dksX7_meanOf_3 19 rfl rfl)
theorem dX7_meanOf_92 : decode cX7_meanOf 92 = .ok (.ladd, 1) := dk_97 (dk_at dksX7_meanOf_3 21 rfl rfl)
theorem dX7_meanOf_93 : decode cX7_meanOf 93 = .ok (.lstore_n 1, 1) := dk_64 (dk_at dksX7_meanOf_3 22 rfl rfl)
theorem dX7_meanOf_94 : decode cX7_meanOf 94 = .ok (.iinc 3 1, 3) := dk_132 3 1 (dk_at dksX7_meanOf_4 0 rfl rfl)
theorem dX7_meanOf_97 : decode cX7_meanOf 97 = .ok (.goto (-93), 3) := dk_167 255 163 (dk_at dksX7_meanOf_4 3 rfl rfl)
theorem dX7_meanOf_100 : decode cX7_meanOf 100 = .ok (.lload_n 1, 1) := dk_31 (dk_at dksX7_meanOf_4 6 rfl rfl)
theorem dX7_meanOf_101 : decode cX7_meanOf 101 = .ok (.lreturn, 1) := dk_173 (dk_at dksX7_meanOf_4 7 rfl rfl)
def dkwX7_swaps_1 : List UInt8 := [29, 79, 177]
abbrev dktX7_swaps_1 : List UInt8 := dkwX7_swaps_1 ++ []
def dkwX7_swaps_0 : List UInt8 := [42, 180, 0, 60, 27, 46, 62, 42, 180, 0, 60, 27, 42, 180, 0, 60, 28, 46, 79, 42, 180, 0, 60, 28]
abbrev dktX7_swaps_0 : List UInt8 := dkwX7_swaps_0 ++ dktX7_swaps_1
theorem dksX7_swaps_0 : cX7_swaps.data.toList.drop 0 = dktX7_swaps_0 := by decide +kernel
theorem dksX7_swaps_1 : cX7_swaps.data.toList.drop 24 = dktX7_swaps_1 := dk_seg dksX7_swaps_0 24 rfl rfl
theorem dX7_swaps_0 : decode cX7_swaps 0 = .ok (.aload_n 0, 1) := dk_42 (dk_at dksX7_swaps_0 0 rfl rfl)
theorem dX7_swaps_1 : decode cX7_swaps 1 = .ok (.getfield 60, 3) := dk_180 0 60 (dk_at dksX7_swaps_0 1 rfl rfl)
theorem dX7_swaps_4 : decode cX7_swaps 4 = .ok (.iload_n 1, 1) := dk_27 (dk_at dksX7_swaps_0 4 rfl rfl)
theorem dX7_swaps_5 : decode cX7_swaps 5 = .ok (.iaload, 1) := dk_46 (dk_at dksX7_swaps_0 5 rfl rfl)
theorem dX7_swaps_6 : decode cX7_swaps 6 = .ok (.istore_n 3, 1) := dk_62 (dk_at dksX7_swaps_0 6 rfl rfl)
theorem dX7_swaps_7 : decode cX7_swaps 7 = .ok (.aload_n 0, 1) := dk_42 (dk_at dksX7_swaps_0 7 rfl rfl)
theorem dX7_swaps_8 : decode cX7_swaps 8 = .ok (.getfield 60, 3) := dk_180 0 60 (dk_at dksX7_swaps_0 8 rfl rfl)
theorem dX7_swaps_11 : decode cX7_swaps 11 = .ok (.iload_n 1, 1) := dk_27 (dk_at dksX7_swaps_0 11 rfl rfl)
theorem dX7_swaps_12 : decode cX7_swaps 12 = .ok (.aload_n 0, 1) := dk_42 (dk_at dksX7_swaps_0 12 rfl rfl)
theorem dX7_swaps_13 : decode cX7_swaps 13 = .ok (.getfield 60, 3) := dk_180 0 60 (dk_at dksX7_swaps_0 13 rfl rfl)
theorem dX7_swaps_16 : decode cX7_swaps 16 = .ok (.iload_n 2, 1) := dk_28 (dk_at dksX7_swaps_0 16 rfl rfl)
theorem dX7_swaps_17 : decode cX7_swaps 17 = .ok (.iaload, 1) := dk_46 (dk_at dksX7_swaps_0 17 rfl rfl)
theorem dX7_swaps_18 : decode cX7_swaps 18 = .ok (.iastore, 1) := dk_79 (dk_at dksX7_swaps_0 18 rfl rfl)
theorem dX7_swaps_19 : decode cX7_swaps 19 = .ok (.aload_n 0, 1) := dk_42 (dk_at dksX7_swaps_0 19 rfl rfl)
theorem dX7_swaps_20 : decode cX7_swaps 20 = .ok (.getfield 60, 3) := dk_180 0 60 (dk_at dksX7_swaps_0 20 rfl rfl)
theorem dX7_swaps_23 : decode cX7_swaps 23 = .ok (.iload_n 2, 1) := dk_28 (dk_at dksX7_swaps_0 23 rfl rfl)
theorem dX7_swaps_24 : decode cX7_swaps 24 = .ok (.iload_n 3, 1) := dk_29 (dk_at dksX7_swaps_1 0 rfl rfl)
theorem dX7_swaps_25 : decode cX7_swaps 25 = .ok (.iastore, 1) := dk_79 (dk_at dksX7_swaps_1 1 rfl rfl)
theorem dX7_swaps_26 : decode cX7_swaps 26 = .ok (.return_, 1) := dk_177 (dk_at dksX7_swaps_1 2 rfl rfl)
def dkwX7_turns_4 : List UInt8 := [132, 4, 1, 132, 5, 255, 167, 255, 235, 4, 172]
abbrev dktX7_turns_4 : List UInt8 := dkwX7_turns_4 ++ []
def dkwX7_turns_3 : List UInt8 := [96, 54, 4, 27, 4, 100, 54, 5, 21, 4, 21, 5, 162, 0, 20, 42, 21, 4, 21, 5, 182, 2, 81]
abbrev dktX7_turns_3 : List UInt8 := dkwX7_turns_3 ++ dktX7_turns_4
def dkwX7_turns_2 : List UInt8 := [46, 42, 180, 0, 60, 28, 46, 162, 0, 9, 132, 3, 255, 167, 255, 238, 42, 28, 29, 182, 2, 81, 28, 4]
abbrev dktX7_turns_2 : List UInt8 := dkwX7_turns_2 ++ dktX7_turns_3
def dkwX7_turns_1 : List UInt8 := [164, 0, 9, 132, 2, 255, 167, 255, 232, 28, 156, 0, 5, 3, 172, 27, 4, 100, 62, 42, 180, 0, 60, 29]
abbrev dktX7_turns_1 : List UInt8 := dkwX7_turns_1 ++ dktX7_turns_2
def dkwX7_turns_0 : List UInt8 := [27, 5, 100, 61, 28, 155, 0, 26, 42, 180, 0, 60, 28, 46, 42, 180, 0, 60, 28, 4, 96, 46]
abbrev dktX7_turns_0 : List UInt8 := dkwX7_turns_0 ++ dktX7_turns_1
theorem dksX7_turns_0 : cX7_turns.data.toList.drop 0 = dktX7_turns_0 := by decide +kernel
theorem dksX7_turns_1 : cX7_turns.data.toList.drop 22 = dktX7_turns_1 := dk_seg dksX7_turns_0 22 rfl rfl
theorem dksX7_turns_2 : cX7_turns.data.toList.drop 46 = dktX7_turns_2 := dk_seg dksX7_turns_1 24 rfl rfl
theorem dksX7_turns_3 : cX7_turns.data.toList.drop 70 = dktX7_turns_3 := dk_seg dksX7_turns_2 24 rfl rfl
theorem dksX7_turns_4 : cX7_turns.data.toList.drop 93 = dktX7_turns_4 := dk_seg dksX7_turns_3 23 rfl rfl
theorem dX7_turns_0 : decode cX7_turns 0 = .ok (.iload_n 1, 1) := dk_27 (dk_at dksX7_turns_0 0 rfl rfl)
theorem dX7_turns_1 : decode cX7_turns 1 = .ok (.iconst 2, 1) := dk_5 (dk_at dksX7_turns_0 1 rfl rfl)
theorem dX7_turns_2 : decode cX7_turns 2 = .ok (.isub, 1) := dk_100 (dk_at dksX7_turns_0 2 rfl rfl)
theorem dX7_turns_3 : decode cX7_turns 3 = .ok (.istore_n 2, 1) := dk_61 (dk_at dksX7_turns_0 3 rfl rfl)
theorem dX7_turns_4 : decode cX7_turns 4 = .ok (.iload_n 2, 1) := dk_28 (dk_at dksX7_turns_0 4 rfl rfl)
theorem dX7_turns_5 : decode cX7_turns 5 = .ok (.ifCond .lt 26, 3) := dk_155 0 26 (dk_at dksX7_turns_0 5 rfl rfl)
theorem dX7_turns_8 : decode cX7_turns 8 = .ok (.aload_n 0, 1) := dk_42 (dk_at dksX7_turns_0 8 rfl rfl)
theorem dX7_turns_9 : decode cX7_turns 9 = .ok (.getfield 60, 3) := dk_180 0 60 (dk_at dksX7_turns_0 9 rfl rfl)
theorem dX7_turns_12 : decode cX7_turns 12 = .ok (.iload_n 2, 1) := dk_28 (dk_at dksX7_turns_0 12 rfl rfl)
theorem dX7_turns_13 : decode cX7_turns 13 = .ok (.iaload, 1) := dk_46 (dk_at dksX7_turns_0 13 rfl rfl)
theorem dX7_turns_14 : decode cX7_turns 14 = .ok (.aload_n 0, 1) := dk_42 (dk_at dksX7_turns_0 14 rfl rfl)
theorem dX7_turns_15 : decode cX7_turns 15 = .ok (.getfield 60, 3) := dk_180 0 60 (dk_at dksX7_turns_0 15 rfl rfl)
theorem dX7_turns_18 : decode cX7_turns 18 = .ok (.iload_n 2, 1) := dk_28 (dk_at dksX7_turns_0 18 rfl rfl)
theorem dX7_turns_19 : decode cX7_turns 19 = .ok (.iconst 1, 1) := dk_4 (dk_at dksX7_turns_0 19 rfl rfl)
theorem dX7_turns_20 : decode cX7_turns 20 = .ok (.iadd, 1) := dk_96 (dk_at dksX7_turns_0 20 rfl rfl)
theorem dX7_turns_21 : decode cX7_turns 21 = .ok (.iaload, 1) := dk_46 (dk_at dksX7_turns_0 21 rfl rfl)
theorem dX7_turns_22 : decode cX7_turns 22 = .ok (.if_icmp .le 9, 3) := dk_164 0 9 (dk_at dksX7_turns_1 0 rfl rfl)
theorem dX7_turns_25 : decode cX7_turns 25 = .ok (.iinc 2 (-1), 3) := dk_132 2 255 (dk_at dksX7_turns_1 3 rfl rfl)
theorem dX7_turns_28 : decode cX7_turns 28 = .ok (.goto (-24), 3) := dk_167 255 232 (dk_at dksX7_turns_1 6 rfl rfl)
theorem dX7_turns_31 : decode cX7_turns 31 = .ok (.iload_n 2, 1) := dk_28 (dk_at dksX7_turns_1 9 rfl rfl)
theorem dX7_turns_32 : decode cX7_turns 32 = .ok (.ifCond .ge 5, 3) := dk_156 0 5 (dk_at dksX7_turns_1 10 rfl rfl)
theorem dX7_turns_35 : decode cX7_turns 35 = .ok (.iconst 0, 1) := dk_3 (dk_at dksX7_turns_1 13 rfl rfl)
theorem dX7_turns_36 : decode cX7_turns 36 = .ok (.ireturn, 1) := dk_172 (dk_at dksX7_turns_1 14 rfl rfl)
theorem dX7_turns_37 : decode cX7_turns 37 = .ok (.iload_n 1, 1) := dk_27 (dk_at dksX7_turns_1 15 rfl rfl)
theorem dX7_turns_38 : decode cX7_turns 38 = .ok (.iconst 1, 1) := dk_4 (dk_at dksX7_turns_1 16 rfl rfl)
theorem dX7_turns_39 : decode cX7_turns 39 = .ok (.isub, 1) := dk_100 (dk_at dksX7_turns_1 17 rfl rfl)
theorem dX7_turns_40 : decode cX7_turns 40 = .ok (.istore_n 3, 1) := dk_62 (dk_at dksX7_turns_1 18 rfl rfl)
theorem dX7_turns_41 : decode cX7_turns 41 = .ok (.aload_n 0, 1) := dk_42 (dk_at dksX7_turns_1 19 rfl rfl)
theorem dX7_turns_42 : decode cX7_turns 42 = .ok (.getfield 60, 3) := dk_180 0 60 (dk_at dksX7_turns_1 20 rfl rfl)
theorem dX7_turns_45 : decode cX7_turns 45 = .ok (.iload_n 3, 1) := dk_29 (dk_at dksX7_turns_1 23 rfl rfl)
theorem dX7_turns_46 : decode cX7_turns 46 = .ok (.iaload, 1) := dk_46 (dk_at dksX7_turns_2 0 rfl rfl)
theorem dX7_turns_47 : decode cX7_turns 47 = .ok (.aload_n 0, 1) := dk_42 (dk_at dksX7_turns_2 1 rfl rfl)
theorem dX7_turns_48 : decode cX7_turns 48 = .ok (.getfield 60, 3) := dk_180 0 60 (dk_at dksX7_turns_2 2 rfl rfl)
theorem dX7_turns_51 : decode cX7_turns 51 = .ok (.iload_n 2, 1) := dk_28 (dk_at dksX7_turns_2 5 rfl rfl)
theorem dX7_turns_52 : decode cX7_turns 52 = .ok (.iaload, 1) := dk_46 (dk_at dksX7_turns_2 6 rfl rfl)
theorem dX7_turns_53 : decode cX7_turns 53 = .ok (.if_icmp .ge 9, 3) := dk_162 0 9 (dk_at dksX7_turns_2 7 rfl rfl)
theorem dX7_turns_56 : decode cX7_turns 56 = .ok (.iinc 3 (-1), 3) := dk_132 3 255 (dk_at dksX7_turns_2 10 rfl rfl)
theorem dX7_turns_59 : decode cX7_turns 59 = .ok (.goto (-18), 3) := dk_167 255 238 (dk_at dksX7_turns_2 13 rfl rfl)
theorem dX7_turns_62 : decode cX7_turns 62 = .ok (.aload_n 0, 1) := dk_42 (dk_at dksX7_turns_2 16 rfl rfl)
theorem dX7_turns_63 : decode cX7_turns 63 = .ok (.iload_n 2, 1) := dk_28 (dk_at dksX7_turns_2 17 rfl rfl)
theorem dX7_turns_64 : decode cX7_turns 64 = .ok (.iload_n 3, 1) := dk_29 (dk_at dksX7_turns_2 18 rfl rfl)
theorem dX7_turns_65 : decode cX7_turns 65 = .ok (.invokevirtual 593, 3) := dk_182 2 81 (dk_at dksX7_turns_2 19 rfl rfl)
theorem dX7_turns_68 : decode cX7_turns 68 = .ok (.iload_n 2, 1) := dk_28 (dk_at dksX7_turns_2 22 rfl rfl)
theorem dX7_turns_69 : decode cX7_turns 69 = .ok (.iconst 1, 1) := dk_4 (dk_at dksX7_turns_2 23 rfl rfl)
theorem dX7_turns_70 : decode cX7_turns 70 = .ok (.iadd, 1) := dk_96 (dk_at dksX7_turns_3 0 rfl rfl)
theorem dX7_turns_71 : decode cX7_turns 71 = .ok (.istore 4, 2) := dk_54 4 (dk_at dksX7_turns_3 1 rfl rfl)
theorem dX7_turns_73 : decode cX7_turns 73 = .ok (.iload_n 1, 1) := dk_27 (dk_at dksX7_turns_3 3 rfl rfl)
theorem dX7_turns_74 : decode cX7_turns 74 = .ok (.iconst 1, 1) := dk_4 (dk_at dksX7_turns_3 4 rfl rfl)
theorem dX7_turns_75 : decode cX7_turns 75 = .ok (.isub, 1) := dk_100 (dk_at dksX7_turns_3 5 rfl rfl)
theorem dX7_turns_76 : decode cX7_turns 76 = .ok (.istore 5, 2) := dk_54 5 (dk_at dksX7_turns_3 6 rfl rfl)
theorem dX7_turns_78 : decode cX7_turns 78 = .ok (.iload 4, 2) := dk_21 4 (dk_at dksX7_turns_3 8 rfl rfl)
theorem dX7_turns_80 : decode cX7_turns 80 = .ok (.iload 5, 2) := dk_21 5 (dk_at dksX7_turns_3 10 rfl rfl)
theorem dX7_turns_82 : decode cX7_turns 82 = .ok (.if_icmp .ge 20, 3) := dk_162 0 20 (dk_at dksX7_turns_3 12 rfl rfl)
theorem dX7_turns_85 : decode cX7_turns 85 = .ok (.aload_n 0, 1) := dk_42 (dk_at dksX7_turns_3 15 rfl rfl)
theorem dX7_turns_86 : decode cX7_turns 86 = .ok (.iload 4, 2) := dk_21 4 (dk_at dksX7_turns_3 16 rfl rfl)
theorem dX7_turns_88 : decode cX7_turns 88 = .ok (.iload 5, 2) := dk_21 5 (dk_at dksX7_turns_3 18 rfl rfl)
theorem dX7_turns_90 : decode cX7_turns 90 = .ok (.invokevirtual 593, 3) := dk_182 2 81 (dk_at dksX7_turns_3 20 rfl rfl)
theorem dX7_turns_93 : decode cX7_turns 93 = .ok (.iinc 4 1, 3) := dk_132 4 1 (dk_at dksX7_turns_4 0 rfl rfl)
theorem dX7_turns_96 : decode cX7_turns 96 = .ok (.iinc 5 (-1), 3) := dk_132 5 255 (dk_at dksX7_turns_4 3 rfl rfl)
theorem dX7_turns_99 : decode cX7_turns 99 = .ok (.goto (-21), 3) := dk_167 255 235 (dk_at dksX7_turns_4 6 rfl rfl)
theorem dX7_turns_102 : decode cX7_turns 102 = .ok (.iconst 1, 1) := dk_4 (dk_at dksX7_turns_4 9 rfl rfl)
theorem dX7_turns_103 : decode cX7_turns 103 = .ok (.ireturn, 1) := dk_172 (dk_at dksX7_turns_4 10 rfl rfl)
def dkwX7_leastMean_4 : List UInt8 := [62, 167, 255, 188, 31, 173]
abbrev dktX7_leastMean_4 : List UInt8 := dkwX7_leastMean_4 ++ []
def dkwX7_leastMean_3 : List UInt8 := [180, 0, 60, 21, 6, 46, 79, 132, 6, 1, 167, 255, 232, 42, 42, 180, 1, 186, 180, 1, 163, 182, 2, 89]
abbrev dktX7_leastMean_3 : List UInt8 := dkwX7_leastMean_3 ++ dktX7_leastMean_4
def dkwX7_leastMean_2 : List UInt8 := [156, 0, 36, 22, 4, 64, 3, 54, 6, 21, 6, 16, 6, 162, 0, 23, 42, 180, 0, 63, 21, 6, 42]
abbrev dktX7_leastMean_2 : List UInt8 := dkwX7_leastMean_2 ++ dktX7_leastMean_3
def dkwX7_leastMean_1 : List UInt8 := [64, 4, 62, 29, 153, 0, 70, 42, 182, 2, 86, 55, 4, 31, 9, 148, 155, 0, 10, 22, 4, 31, 148]
abbrev dktX7_leastMean_1 : List UInt8 := dkwX7_leastMean_1 ++ dktX7_leastMean_2
def dkwX7_leastMean_0 : List UInt8 := [3, 60, 27, 16, 6, 162, 0, 16, 42, 180, 0, 60, 27, 27, 79, 132, 1, 1, 167, 255, 240, 20, 2, 84]
abbrev dktX7_leastMean_0 : List UInt8 := dkwX7_leastMean_0 ++ dktX7_leastMean_1
theorem dksX7_leastMean_0 : cX7_leastMean.data.toList.drop 0 = dktX7_leastMean_0 := by decide +kernel
theorem dksX7_leastMean_1 : cX7_leastMean.data.toList.drop 24 = dktX7_leastMean_1 := dk_seg dksX7_leastMean_0 24 rfl rfl
theorem dksX7_leastMean_2 : cX7_leastMean.data.toList.drop 47 = dktX7_leastMean_2 := dk_seg dksX7_leastMean_1 23 rfl rfl
theorem dksX7_leastMean_3 : cX7_leastMean.data.toList.drop 70 = dktX7_leastMean_3 := dk_seg dksX7_leastMean_2 23 rfl rfl
theorem dksX7_leastMean_4 : cX7_leastMean.data.toList.drop 94 = dktX7_leastMean_4 := dk_seg dksX7_leastMean_3 24 rfl rfl
theorem dX7_leastMean_0 : decode cX7_leastMean 0 = .ok (.iconst 0, 1) := dk_3 (dk_at dksX7_leastMean_0 0 rfl rfl)
theorem dX7_leastMean_1 : decode cX7_leastMean 1 = .ok (.istore_n 1, 1) := dk_60 (dk_at dksX7_leastMean_0 1 rfl rfl)
theorem dX7_leastMean_2 : decode cX7_leastMean 2 = .ok (.iload_n 1, 1) := dk_27 (dk_at dksX7_leastMean_0 2 rfl rfl)
theorem dX7_leastMean_3 : decode cX7_leastMean 3 = .ok (.bipush 6, 2) := dk_16 6 (dk_at dksX7_leastMean_0 3 rfl rfl)
theorem dX7_leastMean_5 : decode cX7_leastMean 5 = .ok (.if_icmp .ge 16, 3) := dk_162 0 16 (dk_at dksX7_leastMean_0 5 rfl rfl)
theorem dX7_leastMean_8 : decode cX7_leastMean 8 = .ok (.aload_n 0, 1) := dk_42 (dk_at dksX7_leastMean_0 8 rfl rfl)
theorem dX7_leastMean_9 : decode cX7_leastMean 9 = .ok (.getfield 60, 3) := dk_180 0 60 (dk_at dksX7_leastMean_0 9 rfl rfl)
theorem dX7_leastMean_12 : decode cX7_leastMean 12 = .ok (.iload_n 1, 1) := dk_27 (dk_at dksX7_leastMean_0 12 rfl rfl)
theorem dX7_leastMean_13 : decode cX7_leastMean 13 = .ok (.iload_n 1, 1) := dk_27 (dk_at dksX7_leastMean_0 13 rfl rfl)
theorem dX7_leastMean_14 : decode cX7_leastMean 14 = .ok (.iastore, 1) := dk_79 (dk_at dksX7_leastMean_0 14 rfl rfl)
theorem dX7_leastMean_15 : decode cX7_leastMean 15 = .ok (.iinc 1 1, 3) := dk_132 1 1 (dk_at dksX7_leastMean_0 15 rfl rfl)
theorem dX7_leastMean_18 : decode cX7_leastMean 18 = .ok (.goto (-16), 3) := dk_167 255 240 (dk_at dksX7_leastMean_0 18 rfl rfl)
theorem dX7_leastMean_21 : decode cX7_leastMean 21 = .ok (.ldc2_w 596, 3) := dk_20 2 84 (dk_at dksX7_leastMean_0 21 rfl rfl)
theorem dX7_leastMean_24 : decode cX7_leastMean 24 = .ok (.lstore_n 1, 1) := dk_64 (dk_at dksX7_leastMean_1 0 rfl rfl)
theorem dX7_leastMean_25 : decode cX7_leastMean 25 = .ok (.iconst 1, 1) := dk_4 (dk_at dksX7_leastMean_1 1 rfl rfl)
theorem dX7_leastMean_26 : decode cX7_leastMean 26 = .ok (.istore_n 3, 1) := dk_62 (dk_at dksX7_leastMean_1 2 rfl rfl)
theorem dX7_leastMean_27 : decode cX7_leastMean 27 = .ok (.iload_n 3, 1) := dk_29 (dk_at dksX7_leastMean_1 3 rfl rfl)
theorem dX7_leastMean_28 : decode cX7_leastMean 28 = .ok (.ifCond .eq 70, 3) := dk_153 0 70 (dk_at dksX7_leastMean_1 4 rfl rfl)
theorem dX7_leastMean_31 : decode cX7_leastMean 31 = .ok (.aload_n 0, 1) := dk_42 (dk_at dksX7_leastMean_1 7 rfl rfl)
theorem dX7_leastMean_32 : decode cX7_leastMean 32 = .ok (.invokevirtual 598, 3) := dk_182 2 86 (dk_at dksX7_leastMean_1 8 rfl rfl)
theorem dX7_leastMean_35 : decode cX7_leastMean 35 = .ok (.lstore 4, 2) := dk_55 4 (dk_at dksX7_leastMean_1 11 rfl rfl)
theorem dX7_leastMean_37 : decode cX7_leastMean 37 = .ok (.lload_n 1, 1) := dk_31 (dk_at dksX7_leastMean_1 13 rfl rfl)
theorem dX7_leastMean_38 : decode cX7_leastMean 38 = .ok (.lconst 0, 1) := dk_9 (dk_at dksX7_leastMean_1 14 rfl rfl)
theorem dX7_leastMean_39 : decode cX7_leastMean 39 = .ok (.lcmp, 1) := dk_148 (dk_at dksX7_leastMean_1 15 rfl rfl)
theorem dX7_leastMean_40 : decode cX7_leastMean 40 = .ok (.ifCond .lt 10, 3) := dk_155 0 10 (dk_at dksX7_leastMean_1 16 rfl rfl)
theorem dX7_leastMean_43 : decode cX7_leastMean 43 = .ok (.lload 4, 2) := dk_22 4 (dk_at dksX7_leastMean_1 19 rfl rfl)
theorem dX7_leastMean_45 : decode cX7_leastMean 45 = .ok (.lload_n 1, 1) := dk_31 (dk_at dksX7_leastMean_1 21 rfl rfl)
theorem dX7_leastMean_46 : decode cX7_leastMean 46 = .ok (.lcmp, 1) := dk_148 (dk_at dksX7_leastMean_1 22 rfl rfl)
theorem dX7_leastMean_47 : decode cX7_leastMean 47 = .ok (.ifCond .ge 36, 3) := dk_156 0 36 (dk_at dksX7_leastMean_2 0 rfl rfl)
theorem dX7_leastMean_50 : decode cX7_leastMean 50 = .ok (.lload 4, 2) := dk_22 4 (dk_at dksX7_leastMean_2 3 rfl rfl)
theorem dX7_leastMean_52 : decode cX7_leastMean 52 = .ok (.lstore_n 1, 1) := dk_64 (dk_at dksX7_leastMean_2 5 rfl rfl)
theorem dX7_leastMean_53 : decode cX7_leastMean 53 = .ok (.iconst 0, 1) := dk_3 (dk_at dksX7_leastMean_2 6 rfl rfl)
theorem dX7_leastMean_54 : decode cX7_leastMean 54 = .ok (.istore 6, 2) := dk_54 6 (dk_at dksX7_leastMean_2 7 rfl rfl)
theorem dX7_leastMean_56 : decode cX7_leastMean 56 = .ok (.iload 6, 2) := dk_21 6 (dk_at dksX7_leastMean_2 9 rfl rfl)
theorem dX7_leastMean_58 : decode cX7_leastMean 58 = .ok (.bipush 6, 2) := dk_16 6 (dk_at dksX7_leastMean_2 11 rfl rfl)
theorem dX7_leastMean_60 : decode cX7_leastMean 60 = .ok (.if_icmp .ge 23, 3) := dk_162 0 23 (dk_at dksX7_leastMean_2 13 rfl rfl)
theorem dX7_leastMean_63 : decode cX7_leastMean 63 = .ok (.aload_n 0, 1) := dk_42 (dk_at dksX7_leastMean_2 16 rfl rfl)
theorem dX7_leastMean_64 : decode cX7_leastMean 64 = .ok (.getfield 63, 3) := dk_180 0 63 (dk_at dksX7_leastMean_2 17 rfl rfl)
theorem dX7_leastMean_67 : decode cX7_leastMean 67 = .ok (.iload 6, 2) := dk_21 6 (dk_at dksX7_leastMean_2 20 rfl rfl)
theorem dX7_leastMean_69 : decode cX7_leastMean 69 = .ok (.aload_n 0, 1) := dk_42 (dk_at dksX7_leastMean_2 22 rfl rfl)
theorem dX7_leastMean_70 : decode cX7_leastMean 70 = .ok (.getfield 60, 3) := dk_180 0 60 (dk_at dksX7_leastMean_3 0 rfl rfl)
theorem dX7_leastMean_73 : decode cX7_leastMean 73 = .ok (.iload 6, 2) := dk_21 6 (dk_at dksX7_leastMean_3 3 rfl rfl)
theorem dX7_leastMean_75 : decode cX7_leastMean 75 = .ok (.iaload, 1) := dk_46 (dk_at dksX7_leastMean_3 5 rfl rfl)
theorem dX7_leastMean_76 : decode cX7_leastMean 76 = .ok (.iastore, 1) := dk_79 (dk_at dksX7_leastMean_3 6 rfl rfl)
theorem dX7_leastMean_77 : decode cX7_leastMean 77 = .ok (.iinc 6 1, 3) := dk_132 6 1 (dk_at dksX7_leastMean_3 7 rfl rfl)
theorem dX7_leastMean_80 : decode cX7_leastMean 80 = .ok (.goto (-24), 3) := dk_167 255 232 (dk_at dksX7_leastMean_3 10 rfl rfl)
theorem dX7_leastMean_83 : decode cX7_leastMean 83 = .ok (.aload_n 0, 1) := dk_42 (dk_at dksX7_leastMean_3 13 rfl rfl)
theorem dX7_leastMean_84 : decode cX7_leastMean 84 = .ok (.aload_n 0, 1) := dk_42 (dk_at dksX7_leastMean_3 14 rfl rfl)
theorem dX7_leastMean_85 : decode cX7_leastMean 85 = .ok (.getfield 442, 3) := dk_180 1 186 (dk_at dksX7_leastMean_3 15 rfl rfl)
theorem dX7_leastMean_88 : decode cX7_leastMean 88 = .ok (.getfield 419, 3) := dk_180 1 163 (dk_at dksX7_leastMean_3 18 rfl rfl)
theorem dX7_leastMean_91 : decode cX7_leastMean 91 = .ok (.invokevirtual 601, 3) := dk_182 2 89 (dk_at dksX7_leastMean_3 21 rfl rfl)
theorem dX7_leastMean_94 : decode cX7_leastMean 94 = .ok (.istore_n 3, 1) := dk_62 (dk_at dksX7_leastMean_4 0 rfl rfl)
theorem dX7_leastMean_95 : decode cX7_leastMean 95 = .ok (.goto (-68), 3) := dk_167 255 188 (dk_at dksX7_leastMean_4 1 rfl rfl)
theorem dX7_leastMean_98 : decode cX7_leastMean 98 = .ok (.lload_n 1, 1) := dk_31 (dk_at dksX7_leastMean_4 4 rfl rfl)
theorem dX7_leastMean_99 : decode cX7_leastMean 99 = .ok (.lreturn, 1) := dk_173 (dk_at dksX7_leastMean_4 5 rfl rfl)
def dkwX7_appeals_1 : List UInt8 := [87, 42, 182, 2, 92, 173]
abbrev dktX7_appeals_1 : List UInt8 := dkwX7_appeals_1 ++ []
def dkwX7_appeals_0 : List UInt8 := [42, 3, 181, 0, 66, 42, 180, 1, 186, 199, 0, 10, 42, 4, 182, 0, 72, 133, 173, 42, 3, 182, 0, 76]
abbrev dktX7_appeals_0 : List UInt8 := dkwX7_appeals_0 ++ dktX7_appeals_1
theorem dksX7_appeals_0 : cX7_appeals.data.toList.drop 0 = dktX7_appeals_0 := by decide +kernel
theorem dksX7_appeals_1 : cX7_appeals.data.toList.drop 24 = dktX7_appeals_1 := dk_seg dksX7_appeals_0 24 rfl rfl
theorem dX7_appeals_0 : decode cX7_appeals 0 = .ok (.aload_n 0, 1) := dk_42 (dk_at dksX7_appeals_0 0 rfl rfl)
theorem dX7_appeals_1 : decode cX7_appeals 1 = .ok (.iconst 0, 1) := dk_3 (dk_at dksX7_appeals_0 1 rfl rfl)
theorem dX7_appeals_2 : decode cX7_appeals 2 = .ok (.putfield 66, 3) := dk_181 0 66 (dk_at dksX7_appeals_0 2 rfl rfl)
theorem dX7_appeals_5 : decode cX7_appeals 5 = .ok (.aload_n 0, 1) := dk_42 (dk_at dksX7_appeals_0 5 rfl rfl)
theorem dX7_appeals_6 : decode cX7_appeals 6 = .ok (.getfield 442, 3) := dk_180 1 186 (dk_at dksX7_appeals_0 6 rfl rfl)
theorem dX7_appeals_9 : decode cX7_appeals 9 = .ok (.ifnonnull 10, 3) := dk_199 0 10 (dk_at dksX7_appeals_0 9 rfl rfl)
theorem dX7_appeals_12 : decode cX7_appeals 12 = .ok (.aload_n 0, 1) := dk_42 (dk_at dksX7_appeals_0 12 rfl rfl)
theorem dX7_appeals_13 : decode cX7_appeals 13 = .ok (.iconst 1, 1) := dk_4 (dk_at dksX7_appeals_0 13 rfl rfl)
theorem dX7_appeals_14 : decode cX7_appeals 14 = .ok (.invokevirtual 72, 3) := dk_182 0 72 (dk_at dksX7_appeals_0 14 rfl rfl)
theorem dX7_appeals_17 : decode cX7_appeals 17 = .ok (.i2l, 1) := dk_133 (dk_at dksX7_appeals_0 17 rfl rfl)
theorem dX7_appeals_18 : decode cX7_appeals 18 = .ok (.lreturn, 1) := dk_173 (dk_at dksX7_appeals_0 18 rfl rfl)
theorem dX7_appeals_19 : decode cX7_appeals 19 = .ok (.aload_n 0, 1) := dk_42 (dk_at dksX7_appeals_0 19 rfl rfl)
theorem dX7_appeals_20 : decode cX7_appeals 20 = .ok (.iconst 0, 1) := dk_3 (dk_at dksX7_appeals_0 20 rfl rfl)
theorem dX7_appeals_21 : decode cX7_appeals 21 = .ok (.invokevirtual 76, 3) := dk_182 0 76 (dk_at dksX7_appeals_0 21 rfl rfl)
theorem dX7_appeals_24 : decode cX7_appeals 24 = .ok (.pop, 1) := dk_87 (dk_at dksX7_appeals_1 0 rfl rfl)
theorem dX7_appeals_25 : decode cX7_appeals 25 = .ok (.aload_n 0, 1) := dk_42 (dk_at dksX7_appeals_1 1 rfl rfl)
theorem dX7_appeals_26 : decode cX7_appeals 26 = .ok (.invokevirtual 604, 3) := dk_182 2 92 (dk_at dksX7_appeals_1 2 rfl rfl)
theorem dX7_appeals_29 : decode cX7_appeals 29 = .ok (.lreturn, 1) := dk_173 (dk_at dksX7_appeals_1 5 rfl rfl)
def dkwX6_at_0 : List UInt8 := [42, 180, 0, 15, 27, 46, 172]
abbrev dktX6_at_0 : List UInt8 := dkwX6_at_0 ++ []
theorem dksX6_at_0 : cX6_at.data.toList.drop 0 = dktX6_at_0 := by decide +kernel
theorem dX6_at_0 : decode cX6_at 0 = .ok (.aload_n 0, 1) := dk_42 (dk_at dksX6_at_0 0 rfl rfl)
theorem dX6_at_1 : decode cX6_at 1 = .ok (.getfield 15, 3) := dk_180 0 15 (dk_at dksX6_at_0 1 rfl rfl)
theorem dX6_at_4 : decode cX6_at 4 = .ok (.iload_n 1, 1) := dk_27 (dk_at dksX6_at_0 4 rfl rfl)
theorem dX6_at_5 : decode cX6_at 5 = .ok (.iaload, 1) := dk_46 (dk_at dksX6_at_0 5 rfl rfl)
theorem dX6_at_6 : decode cX6_at 6 = .ok (.ireturn, 1) := dk_172 (dk_at dksX6_at_0 6 rfl rfl)
def dkwX1_appealAt_2 : List UInt8 := [180, 0, 53, 27, 182, 1, 168, 172]
abbrev dktX1_appealAt_2 : List UInt8 := dkwX1_appealAt_2 ++ []
def dkwX1_appealAt_1 : List UInt8 := [184, 0, 90, 154, 0, 9, 42, 4, 182, 0, 94, 172, 42, 180, 0, 53, 42, 180, 0, 104, 182, 1, 158, 42]
abbrev dktX1_appealAt_1 : List UInt8 := dkwX1_appealAt_1 ++ dktX1_appealAt_2
def dkwX1_appealAt_0 : List UInt8 := [42, 182, 0, 80, 42, 180, 0, 104, 198, 0, 20, 27, 3, 42, 180, 0, 104, 180, 1, 165, 4, 100]
abbrev dktX1_appealAt_0 : List UInt8 := dkwX1_appealAt_0 ++ dktX1_appealAt_1
theorem dksX1_appealAt_0 : cX1_appealAt.data.toList.drop 0 = dktX1_appealAt_0 := by decide +kernel
theorem dksX1_appealAt_1 : cX1_appealAt.data.toList.drop 22 = dktX1_appealAt_1 := dk_seg dksX1_appealAt_0 22 rfl rfl
theorem dksX1_appealAt_2 : cX1_appealAt.data.toList.drop 46 = dktX1_appealAt_2 := dk_seg dksX1_appealAt_1 24 rfl rfl
theorem dX1_appealAt_0 : decode cX1_appealAt 0 = .ok (.aload_n 0, 1) := dk_42 (dk_at dksX1_appealAt_0 0 rfl rfl)
theorem dX1_appealAt_1 : decode cX1_appealAt 1 = .ok (.invokevirtual 80, 3) := dk_182 0 80 (dk_at dksX1_appealAt_0 1 rfl rfl)
theorem dX1_appealAt_4 : decode cX1_appealAt 4 = .ok (.aload_n 0, 1) := dk_42 (dk_at dksX1_appealAt_0 4 rfl rfl)
theorem dX1_appealAt_5 : decode cX1_appealAt 5 = .ok (.getfield 104, 3) := dk_180 0 104 (dk_at dksX1_appealAt_0 5 rfl rfl)
theorem dX1_appealAt_8 : decode cX1_appealAt 8 = .ok (.ifnull 20, 3) := dk_198 0 20 (dk_at dksX1_appealAt_0 8 rfl rfl)
theorem dX1_appealAt_11 : decode cX1_appealAt 11 = .ok (.iload_n 1, 1) := dk_27 (dk_at dksX1_appealAt_0 11 rfl rfl)
theorem dX1_appealAt_12 : decode cX1_appealAt 12 = .ok (.iconst 0, 1) := dk_3 (dk_at dksX1_appealAt_0 12 rfl rfl)
theorem dX1_appealAt_13 : decode cX1_appealAt 13 = .ok (.aload_n 0, 1) := dk_42 (dk_at dksX1_appealAt_0 13 rfl rfl)
theorem dX1_appealAt_14 : decode cX1_appealAt 14 = .ok (.getfield 104, 3) := dk_180 0 104 (dk_at dksX1_appealAt_0 14 rfl rfl)
theorem dX1_appealAt_17 : decode cX1_appealAt 17 = .ok (.getfield 421, 3) := dk_180 1 165 (dk_at dksX1_appealAt_0 17 rfl rfl)
theorem dX1_appealAt_20 : decode cX1_appealAt 20 = .ok (.iconst 1, 1) := dk_4 (dk_at dksX1_appealAt_0 20 rfl rfl)
theorem dX1_appealAt_21 : decode cX1_appealAt 21 = .ok (.isub, 1) := dk_100 (dk_at dksX1_appealAt_0 21 rfl rfl)
theorem dX1_appealAt_22 : decode cX1_appealAt 22 = .ok (.invokestatic 90, 3) := dk_184 0 90 (dk_at dksX1_appealAt_1 0 rfl rfl)
theorem dX1_appealAt_25 : decode cX1_appealAt 25 = .ok (.ifCond .ne 9, 3) := dk_154 0 9 (dk_at dksX1_appealAt_1 3 rfl rfl)
theorem dX1_appealAt_28 : decode cX1_appealAt 28 = .ok (.aload_n 0, 1) := dk_42 (dk_at dksX1_appealAt_1 6 rfl rfl)
theorem dX1_appealAt_29 : decode cX1_appealAt 29 = .ok (.iconst 1, 1) := dk_4 (dk_at dksX1_appealAt_1 7 rfl rfl)
theorem dX1_appealAt_30 : decode cX1_appealAt 30 = .ok (.invokevirtual 94, 3) := dk_182 0 94 (dk_at dksX1_appealAt_1 8 rfl rfl)
theorem dX1_appealAt_33 : decode cX1_appealAt 33 = .ok (.ireturn, 1) := dk_172 (dk_at dksX1_appealAt_1 11 rfl rfl)
theorem dX1_appealAt_34 : decode cX1_appealAt 34 = .ok (.aload_n 0, 1) := dk_42 (dk_at dksX1_appealAt_1 12 rfl rfl)
theorem dX1_appealAt_35 : decode cX1_appealAt 35 = .ok (.getfield 53, 3) := dk_180 0 53 (dk_at dksX1_appealAt_1 13 rfl rfl)
theorem dX1_appealAt_38 : decode cX1_appealAt 38 = .ok (.aload_n 0, 1) := dk_42 (dk_at dksX1_appealAt_1 16 rfl rfl)
theorem dX1_appealAt_39 : decode cX1_appealAt 39 = .ok (.getfield 104, 3) := dk_180 0 104 (dk_at dksX1_appealAt_1 17 rfl rfl)
theorem dX1_appealAt_42 : decode cX1_appealAt 42 = .ok (.invokevirtual 414, 3) := dk_182 1 158 (dk_at dksX1_appealAt_1 20 rfl rfl)
theorem dX1_appealAt_45 : decode cX1_appealAt 45 = .ok (.aload_n 0, 1) := dk_42 (dk_at dksX1_appealAt_1 23 rfl rfl)
theorem dX1_appealAt_46 : decode cX1_appealAt 46 = .ok (.getfield 53, 3) := dk_180 0 53 (dk_at dksX1_appealAt_2 0 rfl rfl)
theorem dX1_appealAt_49 : decode cX1_appealAt 49 = .ok (.iload_n 1, 1) := dk_27 (dk_at dksX1_appealAt_2 3 rfl rfl)
theorem dX1_appealAt_50 : decode cX1_appealAt 50 = .ok (.invokevirtual 424, 3) := dk_182 1 168 (dk_at dksX1_appealAt_2 4 rfl rfl)
theorem dX1_appealAt_53 : decode cX1_appealAt 53 = .ok (.ireturn, 1) := dk_172 (dk_at dksX1_appealAt_2 7 rfl rfl)
def dkwX7_appealAt_2 : List UInt8 := [172]
abbrev dktX7_appealAt_2 : List UInt8 := dkwX7_appealAt_2 ++ []
def dkwX7_appealAt_1 : List UInt8 := [161, 0, 9, 42, 4, 182, 0, 72, 172, 42, 182, 2, 92, 88, 42, 42, 180, 0, 63, 27, 46, 182, 0, 76]
abbrev dktX7_appealAt_1 : List UInt8 := dkwX7_appealAt_1 ++ dktX7_appealAt_2
def dkwX7_appealAt_0 : List UInt8 := [42, 3, 181, 0, 66, 42, 180, 1, 186, 198, 0, 18, 27, 155, 0, 14, 27, 42, 180, 1, 186, 180, 1, 163]
abbrev dktX7_appealAt_0 : List UInt8 := dkwX7_appealAt_0 ++ dktX7_appealAt_1
theorem dksX7_appealAt_0 : cX7_appealAt.data.toList.drop 0 = dktX7_appealAt_0 := by decide +kernel
theorem dksX7_appealAt_1 : cX7_appealAt.data.toList.drop 24 = dktX7_appealAt_1 := dk_seg dksX7_appealAt_0 24 rfl rfl
theorem dksX7_appealAt_2 : cX7_appealAt.data.toList.drop 48 = dktX7_appealAt_2 := dk_seg dksX7_appealAt_1 24 rfl rfl
theorem dX7_appealAt_0 : decode cX7_appealAt 0 = .ok (.aload_n 0, 1) := dk_42 (dk_at dksX7_appealAt_0 0 rfl rfl)
theorem dX7_appealAt_1 : decode cX7_appealAt 1 = .ok (.iconst 0, 1) := dk_3 (dk_at dksX7_appealAt_0 1 rfl rfl)
theorem dX7_appealAt_2 : decode cX7_appealAt 2 = .ok (.putfield 66, 3) := dk_181 0 66 (dk_at dksX7_appealAt_0 2 rfl rfl)
theorem dX7_appealAt_5 : decode cX7_appealAt 5 = .ok (.aload_n 0, 1) := dk_42 (dk_at dksX7_appealAt_0 5 rfl rfl)
theorem dX7_appealAt_6 : decode cX7_appealAt 6 = .ok (.getfield 442, 3) := dk_180 1 186 (dk_at dksX7_appealAt_0 6 rfl rfl)
theorem dX7_appealAt_9 : decode cX7_appealAt 9 = .ok (.ifnull 18, 3) := dk_198 0 18 (dk_at dksX7_appealAt_0 9 rfl rfl)
theorem dX7_appealAt_12 : decode cX7_appealAt 12 = .ok (.iload_n 1, 1) := dk_27 (dk_at dksX7_appealAt_0 12 rfl rfl)
theorem dX7_appealAt_13 : decode cX7_appealAt 13 = .ok (.ifCond .lt 14, 3) := dk_155 0 14 (dk_at dksX7_appealAt_0 13 rfl rfl)
theorem dX7_appealAt_16 : decode cX7_appealAt 16 = .ok (.iload_n 1, 1) := dk_27 (dk_at dksX7_appealAt_0 16 rfl rfl)
theorem dX7_appealAt_17 : decode cX7_appealAt 17 = .ok (.aload_n 0, 1) := dk_42 (dk_at dksX7_appealAt_0 17 rfl rfl)
theorem dX7_appealAt_18 : decode cX7_appealAt 18 = .ok (.getfield 442, 3) := dk_180 1 186 (dk_at dksX7_appealAt_0 18 rfl rfl)
theorem dX7_appealAt_21 : decode cX7_appealAt 21 = .ok (.getfield 419, 3) := dk_180 1 163 (dk_at dksX7_appealAt_0 21 rfl rfl)
theorem dX7_appealAt_24 : decode cX7_appealAt 24 = .ok (.if_icmp .lt 9, 3) := dk_161 0 9 (dk_at dksX7_appealAt_1 0 rfl rfl)
theorem dX7_appealAt_27 : decode cX7_appealAt 27 = .ok (.aload_n 0, 1) := dk_42 (dk_at dksX7_appealAt_1 3 rfl rfl)
theorem dX7_appealAt_28 : decode cX7_appealAt 28 = .ok (.iconst 1, 1) := dk_4 (dk_at dksX7_appealAt_1 4 rfl rfl)
theorem dX7_appealAt_29 : decode cX7_appealAt 29 = .ok (.invokevirtual 72, 3) := dk_182 0 72 (dk_at dksX7_appealAt_1 5 rfl rfl)
theorem dX7_appealAt_32 : decode cX7_appealAt 32 = .ok (.ireturn, 1) := dk_172 (dk_at dksX7_appealAt_1 8 rfl rfl)
theorem dX7_appealAt_33 : decode cX7_appealAt 33 = .ok (.aload_n 0, 1) := dk_42 (dk_at dksX7_appealAt_1 9 rfl rfl)
theorem dX7_appealAt_34 : decode cX7_appealAt 34 = .ok (.invokevirtual 604, 3) := dk_182 2 92 (dk_at dksX7_appealAt_1 10 rfl rfl)
theorem dX7_appealAt_37 : decode cX7_appealAt 37 = .ok (.pop2, 1) := dk_88 (dk_at dksX7_appealAt_1 13 rfl rfl)
theorem dX7_appealAt_38 : decode cX7_appealAt 38 = .ok (.aload_n 0, 1) := dk_42 (dk_at dksX7_appealAt_1 14 rfl rfl)
theorem dX7_appealAt_39 : decode cX7_appealAt 39 = .ok (.aload_n 0, 1) := dk_42 (dk_at dksX7_appealAt_1 15 rfl rfl)
theorem dX7_appealAt_40 : decode cX7_appealAt 40 = .ok (.getfield 63, 3) := dk_180 0 63 (dk_at dksX7_appealAt_1 16 rfl rfl)
theorem dX7_appealAt_43 : decode cX7_appealAt 43 = .ok (.iload_n 1, 1) := dk_27 (dk_at dksX7_appealAt_1 19 rfl rfl)
theorem dX7_appealAt_44 : decode cX7_appealAt 44 = .ok (.iaload, 1) := dk_46 (dk_at dksX7_appealAt_1 20 rfl rfl)
theorem dX7_appealAt_45 : decode cX7_appealAt 45 = .ok (.invokevirtual 76, 3) := dk_182 0 76 (dk_at dksX7_appealAt_1 21 rfl rfl)
theorem dX7_appealAt_48 : decode cX7_appealAt 48 = .ok (.ireturn, 1) := dk_172 (dk_at dksX7_appealAt_2 0 rfl rfl)
def dkwX4_many_1 : List UInt8 := [42, 180, 0, 9, 29, 46, 184, 0, 40, 96, 61, 132, 3, 1, 167, 255, 222, 28, 172]
abbrev dktX4_many_1 : List UInt8 := dkwX4_many_1 ++ []
def dkwX4_many_0 : List UInt8 := [3, 61, 3, 62, 29, 16, 12, 162, 0, 34, 28, 27, 153, 0, 12, 42, 180, 0, 15, 29, 46, 167, 0, 9]
abbrev dktX4_many_0 : List UInt8 := dkwX4_many_0 ++ dktX4_many_1
theorem dksX4_many_0 : cX4_many.data.toList.drop 0 = dktX4_many_0 := by decide +kernel
theorem dksX4_many_1 : cX4_many.data.toList.drop 24 = dktX4_many_1 := dk_seg dksX4_many_0 24 rfl rfl
theorem dX4_many_0 : decode cX4_many 0 = .ok (.iconst 0, 1) := dk_3 (dk_at dksX4_many_0 0 rfl rfl)
theorem dX4_many_1 : decode cX4_many 1 = .ok (.istore_n 2, 1) := dk_61 (dk_at dksX4_many_0 1 rfl rfl)
theorem dX4_many_2 : decode cX4_many 2 = .ok (.iconst 0, 1) := dk_3 (dk_at dksX4_many_0 2 rfl rfl)
theorem dX4_many_3 : decode cX4_many 3 = .ok (.istore_n 3, 1) := dk_62 (dk_at dksX4_many_0 3 rfl rfl)
theorem dX4_many_4 : decode cX4_many 4 = .ok (.iload_n 3, 1) := dk_29 (dk_at dksX4_many_0 4 rfl rfl)
theorem dX4_many_5 : decode cX4_many 5 = .ok (.bipush 12, 2) := dk_16 12 (dk_at dksX4_many_0 5 rfl rfl)
theorem dX4_many_7 : decode cX4_many 7 = .ok (.if_icmp .ge 34, 3) := dk_162 0 34 (dk_at dksX4_many_0 7 rfl rfl)
theorem dX4_many_10 : decode cX4_many 10 = .ok (.iload_n 2, 1) := dk_28 (dk_at dksX4_many_0 10 rfl rfl)
theorem dX4_many_11 : decode cX4_many 11 = .ok (.iload_n 1, 1) := dk_27 (dk_at dksX4_many_0 11 rfl rfl)
theorem dX4_many_12 : decode cX4_many 12 = .ok (.ifCond .eq 12, 3) := dk_153 0 12 (dk_at dksX4_many_0 12 rfl rfl)
theorem dX4_many_15 : decode cX4_many 15 = .ok (.aload_n 0, 1) := dk_42 (dk_at dksX4_many_0 15 rfl rfl)
theorem dX4_many_16 : decode cX4_many 16 = .ok (.getfield 15, 3) := dk_180 0 15 (dk_at dksX4_many_0 16 rfl rfl)
theorem dX4_many_19 : decode cX4_many 19 = .ok (.iload_n 3, 1) := dk_29 (dk_at dksX4_many_0 19 rfl rfl)
theorem dX4_many_20 : decode cX4_many 20 = .ok (.iaload, 1) := dk_46 (dk_at dksX4_many_0 20 rfl rfl)
theorem dX4_many_21 : decode cX4_many 21 = .ok (.goto 9, 3) := dk_167 0 9 (dk_at dksX4_many_0 21 rfl rfl)
theorem dX4_many_24 : decode cX4_many 24 = .ok (.aload_n 0, 1) := dk_42 (dk_at dksX4_many_1 0 rfl rfl)
theorem dX4_many_25 : decode cX4_many 25 = .ok (.getfield 9, 3) := dk_180 0 9 (dk_at dksX4_many_1 1 rfl rfl)
theorem dX4_many_28 : decode cX4_many 28 = .ok (.iload_n 3, 1) := dk_29 (dk_at dksX4_many_1 4 rfl rfl)
theorem dX4_many_29 : decode cX4_many 29 = .ok (.iaload, 1) := dk_46 (dk_at dksX4_many_1 5 rfl rfl)
theorem dX4_many_30 : decode cX4_many 30 = .ok (.invokestatic 40, 3) := dk_184 0 40 (dk_at dksX4_many_1 6 rfl rfl)
theorem dX4_many_33 : decode cX4_many 33 = .ok (.iadd, 1) := dk_96 (dk_at dksX4_many_1 9 rfl rfl)
theorem dX4_many_34 : decode cX4_many 34 = .ok (.istore_n 2, 1) := dk_61 (dk_at dksX4_many_1 10 rfl rfl)
theorem dX4_many_35 : decode cX4_many 35 = .ok (.iinc 3 1, 3) := dk_132 3 1 (dk_at dksX4_many_1 11 rfl rfl)
theorem dX4_many_38 : decode cX4_many 38 = .ok (.goto (-34), 3) := dk_167 255 222 (dk_at dksX4_many_1 14 rfl rfl)
theorem dX4_many_41 : decode cX4_many 41 = .ok (.iload_n 2, 1) := dk_28 (dk_at dksX4_many_1 17 rfl rfl)
theorem dX4_many_42 : decode cX4_many 42 = .ok (.ireturn, 1) := dk_172 (dk_at dksX4_many_1 18 rfl rfl)
def dkwX1_yes_0 : List UInt8 := [42, 182, 0, 80, 42, 27, 181, 0, 77, 27, 154, 0, 7, 4, 167, 0, 4, 3, 172]
abbrev dktX1_yes_0 : List UInt8 := dkwX1_yes_0 ++ []
theorem dksX1_yes_0 : cX1_yes.data.toList.drop 0 = dktX1_yes_0 := by decide +kernel
theorem dX1_yes_0 : decode cX1_yes 0 = .ok (.aload_n 0, 1) := dk_42 (dk_at dksX1_yes_0 0 rfl rfl)
theorem dX1_yes_1 : decode cX1_yes 1 = .ok (.invokevirtual 80, 3) := dk_182 0 80 (dk_at dksX1_yes_0 1 rfl rfl)
theorem dX1_yes_4 : decode cX1_yes 4 = .ok (.aload_n 0, 1) := dk_42 (dk_at dksX1_yes_0 4 rfl rfl)
theorem dX1_yes_5 : decode cX1_yes 5 = .ok (.iload_n 1, 1) := dk_27 (dk_at dksX1_yes_0 5 rfl rfl)
theorem dX1_yes_6 : decode cX1_yes 6 = .ok (.putfield 77, 3) := dk_181 0 77 (dk_at dksX1_yes_0 6 rfl rfl)
theorem dX1_yes_9 : decode cX1_yes 9 = .ok (.iload_n 1, 1) := dk_27 (dk_at dksX1_yes_0 9 rfl rfl)
theorem dX1_yes_10 : decode cX1_yes 10 = .ok (.ifCond .ne 7, 3) := dk_154 0 7 (dk_at dksX1_yes_0 10 rfl rfl)
theorem dX1_yes_13 : decode cX1_yes 13 = .ok (.iconst 1, 1) := dk_4 (dk_at dksX1_yes_0 13 rfl rfl)
theorem dX1_yes_14 : decode cX1_yes 14 = .ok (.goto 4, 3) := dk_167 0 4 (dk_at dksX1_yes_0 14 rfl rfl)
theorem dX1_yes_17 : decode cX1_yes 17 = .ok (.iconst 0, 1) := dk_3 (dk_at dksX1_yes_0 17 rfl rfl)
theorem dX1_yes_18 : decode cX1_yes 18 = .ok (.ireturn, 1) := dk_172 (dk_at dksX1_yes_0 18 rfl rfl)
def dkwX1_note_0 : List UInt8 := [42, 180, 0, 37, 42, 180, 0, 33, 182, 1, 77, 177]
abbrev dktX1_note_0 : List UInt8 := dkwX1_note_0 ++ []
theorem dksX1_note_0 : cX1_note.data.toList.drop 0 = dktX1_note_0 := by decide +kernel
theorem dX1_note_0 : decode cX1_note 0 = .ok (.aload_n 0, 1) := dk_42 (dk_at dksX1_note_0 0 rfl rfl)
theorem dX1_note_1 : decode cX1_note 1 = .ok (.getfield 37, 3) := dk_180 0 37 (dk_at dksX1_note_0 1 rfl rfl)
theorem dX1_note_4 : decode cX1_note 4 = .ok (.aload_n 0, 1) := dk_42 (dk_at dksX1_note_0 4 rfl rfl)
theorem dX1_note_5 : decode cX1_note 5 = .ok (.getfield 33, 3) := dk_180 0 33 (dk_at dksX1_note_0 5 rfl rfl)
theorem dX1_note_8 : decode cX1_note 8 = .ok (.invokevirtual 333, 3) := dk_182 1 77 (dk_at dksX1_note_0 8 rfl rfl)
theorem dX1_note_11 : decode cX1_note 11 = .ok (.return_, 1) := dk_177 (dk_at dksX1_note_0 11 rfl rfl)
def dkwX4_change_1 : List UInt8 := [92, 46, 4, 27, 120, 130, 79, 177]
abbrev dktX4_change_1 : List UInt8 := dkwX4_change_1 ++ []
def dkwX4_change_0 : List UInt8 := [29, 153, 0, 18, 42, 180, 0, 15, 28, 92, 46, 4, 27, 120, 130, 79, 167, 0, 15, 42, 180, 0, 9, 28]
abbrev dktX4_change_0 : List UInt8 := dkwX4_change_0 ++ dktX4_change_1
theorem dksX4_change_0 : cX4_change.data.toList.drop 0 = dktX4_change_0 := by decide +kernel
theorem dksX4_change_1 : cX4_change.data.toList.drop 24 = dktX4_change_1 := dk_seg dksX4_change_0 24 rfl rfl
theorem dX4_change_0 : decode cX4_change 0 = .ok (.iload_n 3, 1) := dk_29 (dk_at dksX4_change_0 0 rfl rfl)
theorem dX4_change_1 : decode cX4_change 1 = .ok (.ifCond .eq 18, 3) := dk_153 0 18 (dk_at dksX4_change_0 1 rfl rfl)
theorem dX4_change_4 : decode cX4_change 4 = .ok (.aload_n 0, 1) := dk_42 (dk_at dksX4_change_0 4 rfl rfl)
theorem dX4_change_5 : decode cX4_change 5 = .ok (.getfield 15, 3) := dk_180 0 15 (dk_at dksX4_change_0 5 rfl rfl)
theorem dX4_change_8 : decode cX4_change 8 = .ok (.iload_n 2, 1) := dk_28 (dk_at dksX4_change_0 8 rfl rfl)
theorem dX4_change_9 : decode cX4_change 9 = .ok (.dup2, 1) := dk_92 (dk_at dksX4_change_0 9 rfl rfl)
theorem dX4_change_10 : decode cX4_change 10 = .ok (.iaload, 1) := dk_46 (dk_at dksX4_change_0 10 rfl rfl)
theorem dX4_change_11 : decode cX4_change 11 = .ok (.iconst 1, 1) := dk_4 (dk_at dksX4_change_0 11 rfl rfl)
theorem dX4_change_12 : decode cX4_change 12 = .ok (.iload_n 1, 1) := dk_27 (dk_at dksX4_change_0 12 rfl rfl)
theorem dX4_change_13 : decode cX4_change 13 = .ok (.ishl, 1) := dk_120 (dk_at dksX4_change_0 13 rfl rfl)
theorem dX4_change_14 : decode cX4_change 14 = .ok (.ixor, 1) := dk_130 (dk_at dksX4_change_0 14 rfl rfl)
theorem dX4_change_15 : decode cX4_change 15 = .ok (.iastore, 1) := dk_79 (dk_at dksX4_change_0 15 rfl rfl)
theorem dX4_change_16 : decode cX4_change 16 = .ok (.goto 15, 3) := dk_167 0 15 (dk_at dksX4_change_0 16 rfl rfl)
theorem dX4_change_19 : decode cX4_change 19 = .ok (.aload_n 0, 1) := dk_42 (dk_at dksX4_change_0 19 rfl rfl)
theorem dX4_change_20 : decode cX4_change 20 = .ok (.getfield 9, 3) := dk_180 0 9 (dk_at dksX4_change_0 20 rfl rfl)
theorem dX4_change_23 : decode cX4_change 23 = .ok (.iload_n 2, 1) := dk_28 (dk_at dksX4_change_0 23 rfl rfl)
theorem dX4_change_24 : decode cX4_change 24 = .ok (.dup2, 1) := dk_92 (dk_at dksX4_change_1 0 rfl rfl)
theorem dX4_change_25 : decode cX4_change 25 = .ok (.iaload, 1) := dk_46 (dk_at dksX4_change_1 1 rfl rfl)
theorem dX4_change_26 : decode cX4_change 26 = .ok (.iconst 1, 1) := dk_4 (dk_at dksX4_change_1 2 rfl rfl)
theorem dX4_change_27 : decode cX4_change 27 = .ok (.iload_n 1, 1) := dk_27 (dk_at dksX4_change_1 3 rfl rfl)
theorem dX4_change_28 : decode cX4_change 28 = .ok (.ishl, 1) := dk_120 (dk_at dksX4_change_1 4 rfl rfl)
theorem dX4_change_29 : decode cX4_change 29 = .ok (.ixor, 1) := dk_130 (dk_at dksX4_change_1 5 rfl rfl)
theorem dX4_change_30 : decode cX4_change 30 = .ok (.iastore, 1) := dk_79 (dk_at dksX4_change_1 6 rfl rfl)
theorem dX4_change_31 : decode cX4_change 31 = .ok (.return_, 1) := dk_177 (dk_at dksX4_change_1 7 rfl rfl)
def dkwX1_done_3 : List UInt8 := [180, 0, 37, 182, 1, 77, 42, 89, 180, 0, 118, 4, 96, 181, 0, 118, 4, 172]
abbrev dktX1_done_3 : List UInt8 := dkwX1_done_3 ++ []
def dkwX1_done_2 : List UInt8 := [16, 15, 43, 83, 42, 89, 180, 0, 118, 4, 100, 181, 0, 118, 42, 180, 0, 57, 42, 180, 0, 118, 50, 42]
abbrev dktX1_done_2 : List UInt8 := dkwX1_done_2 ++ dktX1_done_3
def dkwX1_done_1 : List UInt8 := [42, 180, 0, 57, 28, 4, 100, 42, 180, 0, 57, 28, 50, 83, 132, 2, 1, 167, 255, 233, 42, 180, 0, 57]
abbrev dktX1_done_1 : List UInt8 := dkwX1_done_1 ++ dktX1_done_2
def dkwX1_done_0 : List UInt8 := [42, 180, 0, 118, 16, 16, 160, 0, 56, 42, 180, 0, 57, 3, 50, 76, 4, 61, 28, 16, 16, 162, 0, 23]
abbrev dktX1_done_0 : List UInt8 := dkwX1_done_0 ++ dktX1_done_1
theorem dksX1_done_0 : cX1_done.data.toList.drop 0 = dktX1_done_0 := by decide +kernel
theorem dksX1_done_1 : cX1_done.data.toList.drop 24 = dktX1_done_1 := dk_seg dksX1_done_0 24 rfl rfl
theorem dksX1_done_2 : cX1_done.data.toList.drop 48 = dktX1_done_2 := dk_seg dksX1_done_1 24 rfl rfl
theorem dksX1_done_3 : cX1_done.data.toList.drop 72 = dktX1_done_3 := dk_seg dksX1_done_2 24 rfl rfl
theorem dX1_done_0 : decode cX1_done 0 = .ok (.aload_n 0, 1) := dk_42 (dk_at dksX1_done_0 0 rfl rfl)
theorem dX1_done_1 : decode cX1_done 1 = .ok (.getfield 118, 3) := dk_180 0 118 (dk_at dksX1_done_0 1 rfl rfl)
theorem dX1_done_4 : decode cX1_done 4 = .ok (.bipush 16, 2) := dk_16 16 (dk_at dksX1_done_0 4 rfl rfl)
theorem dX1_done_6 : decode cX1_done 6 = .ok (.if_icmp .ne 56, 3) := dk_160 0 56 (dk_at dksX1_done_0 6 rfl rfl)
theorem dX1_done_9 : decode cX1_done 9 = .ok (.aload_n 0, 1) := dk_42 (dk_at dksX1_done_0 9 rfl rfl)
theorem dX1_done_10 : decode cX1_done 10 = .ok (.getfield 57, 3) := dk_180 0 57 (dk_at dksX1_done_0 10 rfl rfl)
theorem dX1_done_13 : decode cX1_done 13 = .ok (.iconst 0, 1) := dk_3 (dk_at dksX1_done_0 13 rfl rfl)
theorem dX1_done_14 : decode cX1_done 14 = .ok (.aaload, 1) := dk_50 (dk_at dksX1_done_0 14 rfl rfl)
theorem dX1_done_15 : decode cX1_done 15 = .ok (.astore_n 1, 1) := dk_76 (dk_at dksX1_done_0 15 rfl rfl)
theorem dX1_done_16 : decode cX1_done 16 = .ok (.iconst 1, 1) := dk_4 (dk_at dksX1_done_0 16 rfl rfl)
theorem dX1_done_17 : decode cX1_done 17 = .ok (.istore_n 2, 1) := dk_61 (dk_at dksX1_done_0 17 rfl rfl)
theorem dX1_done_18 : decode cX1_done 18 = .ok (.iload_n 2, 1) := dk_28 (dk_at dksX1_done_0 18 rfl rfl)
theorem dX1_done_19 : decode cX1_done 19 = .ok (.bipush 16, 2) := dk_16 16 (dk_at dksX1_done_0 19 rfl rfl)
theorem dX1_done_21 : decode cX1_done 21 = .ok (.if_icmp .ge 23, 3) := dk_162 0 23 (dk_at dksX1_done_0 21 rfl rfl)
theorem dX1_done_24 : decode cX1_done 24 = .ok (.aload_n 0, 1) := dk_42 (dk_at dksX1_done_1 0 rfl rfl)
theorem dX1_done_25 : decode cX1_done 25 = .ok (.getfield 57, 3) := dk_180 0 57 (dk_at dksX1_done_1 1 rfl rfl)
theorem dX1_done_28 : decode cX1_done 28 = .ok (.iload_n 2, 1) := dk_28 (dk_at dksX1_done_1 4 rfl rfl)
theorem dX1_done_29 : decode cX1_done 29 = .ok (.iconst 1, 1) := dk_4 (dk_at dksX1_done_1 5 rfl rfl)
theorem dX1_done_30 : decode cX1_done 30 = .ok (.isub, 1) := dk_100 (dk_at dksX1_done_1 6 rfl rfl)
theorem dX1_done_31 : decode cX1_done 31 = .ok (.aload_n 0, 1) := dk_42 (dk_at dksX1_done_1 7 rfl rfl)
theorem dX1_done_32 : decode cX1_done 32 = .ok (.getfield 57, 3) := dk_180 0 57 (dk_at dksX1_done_1 8 rfl rfl)
theorem dX1_done_35 : decode cX1_done 35 = .ok (.iload_n 2, 1) := dk_28 (dk_at dksX1_done_1 11 rfl rfl)
theorem dX1_done_36 : decode cX1_done 36 = .ok (.aaload, 1) := dk_50 (dk_at dksX1_done_1 12 rfl rfl)
theorem dX1_done_37 : decode cX1_done 37 = .ok (.aastore, 1) := dk_83 (dk_at dksX1_done_1 13 rfl rfl)
theorem dX1_done_38 : decode cX1_done 38 = .ok (.iinc 2 1, 3) := dk_132 2 1 (dk_at dksX1_done_1 14 rfl rfl)
theorem dX1_done_41 : decode cX1_done 41 = .ok (.goto (-23), 3) := dk_167 255 233 (dk_at dksX1_done_1 17 rfl rfl)
theorem dX1_done_44 : decode cX1_done 44 = .ok (.aload_n 0, 1) := dk_42 (dk_at dksX1_done_1 20 rfl rfl)
theorem dX1_done_45 : decode cX1_done 45 = .ok (.getfield 57, 3) := dk_180 0 57 (dk_at dksX1_done_1 21 rfl rfl)
theorem dX1_done_48 : decode cX1_done 48 = .ok (.bipush 15, 2) := dk_16 15 (dk_at dksX1_done_2 0 rfl rfl)
theorem dX1_done_50 : decode cX1_done 50 = .ok (.aload_n 1, 1) := dk_43 (dk_at dksX1_done_2 2 rfl rfl)
theorem dX1_done_51 : decode cX1_done 51 = .ok (.aastore, 1) := dk_83 (dk_at dksX1_done_2 3 rfl rfl)
theorem dX1_done_52 : decode cX1_done 52 = .ok (.aload_n 0, 1) := dk_42 (dk_at dksX1_done_2 4 rfl rfl)
theorem dX1_done_53 : decode cX1_done 53 = .ok (.dup, 1) := dk_89 (dk_at dksX1_done_2 5 rfl rfl)
theorem dX1_done_54 : decode cX1_done 54 = .ok (.getfield 118, 3) := dk_180 0 118 (dk_at dksX1_done_2 6 rfl rfl)
theorem dX1_done_57 : decode cX1_done 57 = .ok (.iconst 1, 1) := dk_4 (dk_at dksX1_done_2 9 rfl rfl)
theorem dX1_done_58 : decode cX1_done 58 = .ok (.isub, 1) := dk_100 (dk_at dksX1_done_2 10 rfl rfl)
theorem dX1_done_59 : decode cX1_done 59 = .ok (.putfield 118, 3) := dk_181 0 118 (dk_at dksX1_done_2 11 rfl rfl)
theorem dX1_done_62 : decode cX1_done 62 = .ok (.aload_n 0, 1) := dk_42 (dk_at dksX1_done_2 14 rfl rfl)
theorem dX1_done_63 : decode cX1_done 63 = .ok (.getfield 57, 3) := dk_180 0 57 (dk_at dksX1_done_2 15 rfl rfl)
theorem dX1_done_66 : decode cX1_done 66 = .ok (.aload_n 0, 1) := dk_42 (dk_at dksX1_done_2 18 rfl rfl)
theorem dX1_done_67 : decode cX1_done 67 = .ok (.getfield 118, 3) := dk_180 0 118 (dk_at dksX1_done_2 19 rfl rfl)
theorem dX1_done_70 : decode cX1_done 70 = .ok (.aaload, 1) := dk_50 (dk_at dksX1_done_2 22 rfl rfl)
theorem dX1_done_71 : decode cX1_done 71 = .ok (.aload_n 0, 1) := dk_42 (dk_at dksX1_done_2 23 rfl rfl)
theorem dX1_done_72 : decode cX1_done 72 = .ok (.getfield 37, 3) := dk_180 0 37 (dk_at dksX1_done_3 0 rfl rfl)
theorem dX1_done_75 : decode cX1_done 75 = .ok (.invokevirtual 333, 3) := dk_182 1 77 (dk_at dksX1_done_3 3 rfl rfl)
theorem dX1_done_78 : decode cX1_done 78 = .ok (.aload_n 0, 1) := dk_42 (dk_at dksX1_done_3 6 rfl rfl)
theorem dX1_done_79 : decode cX1_done 79 = .ok (.dup, 1) := dk_89 (dk_at dksX1_done_3 7 rfl rfl)
theorem dX1_done_80 : decode cX1_done 80 = .ok (.getfield 118, 3) := dk_180 0 118 (dk_at dksX1_done_3 8 rfl rfl)
theorem dX1_done_83 : decode cX1_done 83 = .ok (.iconst 1, 1) := dk_4 (dk_at dksX1_done_3 11 rfl rfl)
theorem dX1_done_84 : decode cX1_done 84 = .ok (.iadd, 1) := dk_96 (dk_at dksX1_done_3 12 rfl rfl)
theorem dX1_done_85 : decode cX1_done 85 = .ok (.putfield 118, 3) := dk_181 0 118 (dk_at dksX1_done_3 13 rfl rfl)
theorem dX1_done_88 : decode cX1_done 88 = .ok (.iconst 1, 1) := dk_4 (dk_at dksX1_done_3 16 rfl rfl)
theorem dX1_done_89 : decode cX1_done 89 = .ok (.ireturn, 1) := dk_172 (dk_at dksX1_done_3 17 rfl rfl)
def dkwX1_puts_4 : List UInt8 := [182, 1, 186, 172]
abbrev dktX1_puts_4 : List UInt8 := dkwX1_puts_4 ++ []
def dkwX1_puts_3 : List UInt8 := [182, 1, 177, 154, 0, 5, 3, 172, 42, 182, 1, 180, 42, 180, 0, 33, 27, 28, 21, 4, 182, 1, 183, 42]
abbrev dktX1_puts_3 : List UInt8 := dkwX1_puts_3 ++ dktX1_puts_4
def dkwX1_puts_2 : List UInt8 := [180, 0, 33, 21, 4, 182, 1, 174, 7, 160, 0, 7, 6, 167, 0, 4, 3, 54, 5, 42, 21, 5]
abbrev dktX1_puts_2 : List UInt8 := dkwX1_puts_2 ++ dktX1_puts_3
def dkwX1_puts_1 : List UInt8 := [42, 180, 0, 33, 27, 28, 21, 4, 182, 1, 170, 29, 160, 0, 7, 8, 167, 0, 25, 29, 153, 0, 20, 42]
abbrev dktX1_puts_1 : List UInt8 := dkwX1_puts_1 ++ dktX1_puts_2
def dkwX1_puts_0 : List UInt8 := [42, 27, 182, 0, 151, 154, 0, 7, 4, 167, 0, 56, 42, 28, 182, 0, 244, 154, 0, 7, 5, 167, 0, 44]
abbrev dktX1_puts_0 : List UInt8 := dkwX1_puts_0 ++ dktX1_puts_1
theorem dksX1_puts_0 : cX1_puts.data.toList.drop 0 = dktX1_puts_0 := by decide +kernel
theorem dksX1_puts_1 : cX1_puts.data.toList.drop 24 = dktX1_puts_1 := dk_seg dksX1_puts_0 24 rfl rfl
theorem dksX1_puts_2 : cX1_puts.data.toList.drop 48 = dktX1_puts_2 := dk_seg dksX1_puts_1 24 rfl rfl
theorem dksX1_puts_3 : cX1_puts.data.toList.drop 70 = dktX1_puts_3 := dk_seg dksX1_puts_2 22 rfl rfl
theorem dksX1_puts_4 : cX1_puts.data.toList.drop 94 = dktX1_puts_4 := dk_seg dksX1_puts_3 24 rfl rfl
theorem dX1_puts_0 : decode cX1_puts 0 = .ok (.aload_n 0, 1) := dk_42 (dk_at dksX1_puts_0 0 rfl rfl)
theorem dX1_puts_1 : decode cX1_puts 1 = .ok (.iload_n 1, 1) := dk_27 (dk_at dksX1_puts_0 1 rfl rfl)
theorem dX1_puts_2 : decode cX1_puts 2 = .ok (.invokevirtual 151, 3) := dk_182 0 151 (dk_at dksX1_puts_0 2 rfl rfl)
theorem dX1_puts_5 : decode cX1_puts 5 = .ok (.ifCond .ne 7, 3) := dk_154 0 7 (dk_at dksX1_puts_0 5 rfl rfl)
theorem dX1_puts_8 : decode cX1_puts 8 = .ok (.iconst 1, 1) := dk_4 (dk_at dksX1_puts_0 8 rfl rfl)
theorem dX1_puts_9 : decode cX1_puts 9 = .ok (.goto 56, 3) := dk_167 0 56 (dk_at dksX1_puts_0 9 rfl rfl)
theorem dX1_puts_12 : decode cX1_puts 12 = .ok (.aload_n 0, 1) := dk_42 (dk_at dksX1_puts_0 12 rfl rfl)
theorem dX1_puts_13 : decode cX1_puts 13 = .ok (.iload_n 2, 1) := dk_28 (dk_at dksX1_puts_0 13 rfl rfl)
theorem dX1_puts_14 : decode cX1_puts 14 = .ok (.invokevirtual 244, 3) := dk_182 0 244 (dk_at dksX1_puts_0 14 rfl rfl)
theorem dX1_puts_17 : decode cX1_puts 17 = .ok (.ifCond .ne 7, 3) := dk_154 0 7 (dk_at dksX1_puts_0 17 rfl rfl)
theorem dX1_puts_20 : decode cX1_puts 20 = .ok (.iconst 2, 1) := dk_5 (dk_at dksX1_puts_0 20 rfl rfl)
theorem dX1_puts_21 : decode cX1_puts 21 = .ok (.goto 44, 3) := dk_167 0 44 (dk_at dksX1_puts_0 21 rfl rfl)
theorem dX1_puts_24 : decode cX1_puts 24 = .ok (.aload_n 0, 1) := dk_42 (dk_at dksX1_puts_1 0 rfl rfl)
theorem dX1_puts_25 : decode cX1_puts 25 = .ok (.getfield 33, 3) := dk_180 0 33 (dk_at dksX1_puts_1 1 rfl rfl)
theorem dX1_puts_28 : decode cX1_puts 28 = .ok (.iload_n 1, 1) := dk_27 (dk_at dksX1_puts_1 4 rfl rfl)
theorem dX1_puts_29 : decode cX1_puts 29 = .ok (.iload_n 2, 1) := dk_28 (dk_at dksX1_puts_1 5 rfl rfl)
theorem dX1_puts_30 : decode cX1_puts 30 = .ok (.iload 4, 2) := dk_21 4 (dk_at dksX1_puts_1 6 rfl rfl)
theorem dX1_puts_32 : decode cX1_puts 32 = .ok (.invokevirtual 426, 3) := dk_182 1 170 (dk_at dksX1_puts_1 8 rfl rfl)
theorem dX1_puts_35 : decode cX1_puts 35 = .ok (.iload_n 3, 1) := dk_29 (dk_at dksX1_puts_1 11 rfl rfl)
theorem dX1_puts_36 : decode cX1_puts 36 = .ok (.if_icmp .ne 7, 3) := dk_160 0 7 (dk_at dksX1_puts_1 12 rfl rfl)
theorem dX1_puts_39 : decode cX1_puts 39 = .ok (.iconst 5, 1) := dk_8 (dk_at dksX1_puts_1 15 rfl rfl)
theorem dX1_puts_40 : decode cX1_puts 40 = .ok (.goto 25, 3) := dk_167 0 25 (dk_at dksX1_puts_1 16 rfl rfl)
theorem dX1_puts_43 : decode cX1_puts 43 = .ok (.iload_n 3, 1) := dk_29 (dk_at dksX1_puts_1 19 rfl rfl)
theorem dX1_puts_44 : decode cX1_puts 44 = .ok (.ifCond .eq 20, 3) := dk_153 0 20 (dk_at dksX1_puts_1 20 rfl rfl)
theorem dX1_puts_47 : decode cX1_puts 47 = .ok (.aload_n 0, 1) := dk_42 (dk_at dksX1_puts_1 23 rfl rfl)
theorem dX1_puts_48 : decode cX1_puts 48 = .ok (.getfield 33, 3) := dk_180 0 33 (dk_at dksX1_puts_2 0 rfl rfl)
theorem dX1_puts_51 : decode cX1_puts 51 = .ok (.iload 4, 2) := dk_21 4 (dk_at dksX1_puts_2 3 rfl rfl)
theorem dX1_puts_53 : decode cX1_puts 53 = .ok (.invokevirtual 430, 3) := dk_182 1 174 (dk_at dksX1_puts_2 5 rfl rfl)
theorem dX1_puts_56 : decode cX1_puts 56 = .ok (.iconst 4, 1) := dk_7 (dk_at dksX1_puts_2 8 rfl rfl)
theorem dX1_puts_57 : decode cX1_puts 57 = .ok (.if_icmp .ne 7, 3) := dk_160 0 7 (dk_at dksX1_puts_2 9 rfl rfl)
theorem dX1_puts_60 : decode cX1_puts 60 = .ok (.iconst 3, 1) := dk_6 (dk_at dksX1_puts_2 12 rfl rfl)
theorem dX1_puts_61 : decode cX1_puts 61 = .ok (.goto 4, 3) := dk_167 0 4 (dk_at dksX1_puts_2 13 rfl rfl)
theorem dX1_puts_64 : decode cX1_puts 64 = .ok (.iconst 0, 1) := dk_3 (dk_at dksX1_puts_2 16 rfl rfl)
theorem dX1_puts_65 : decode cX1_puts 65 = .ok (.istore 5, 2) := dk_54 5 (dk_at dksX1_puts_2 17 rfl rfl)
theorem dX1_puts_67 : decode cX1_puts 67 = .ok (.aload_n 0, 1) := dk_42 (dk_at dksX1_puts_2 19 rfl rfl)
theorem dX1_puts_68 : decode cX1_puts 68 = .ok (.iload 5, 2) := dk_21 5 (dk_at dksX1_puts_2 20 rfl rfl)
theorem dX1_puts_70 : decode cX1_puts 70 = .ok (.invokevirtual 433, 3) := dk_182 1 177 (dk_at dksX1_puts_3 0 rfl rfl)
theorem dX1_puts_73 : decode cX1_puts 73 = .ok (.ifCond .ne 5, 3) := dk_154 0 5 (dk_at dksX1_puts_3 3 rfl rfl)
theorem dX1_puts_76 : decode cX1_puts 76 = .ok (.iconst 0, 1) := dk_3 (dk_at dksX1_puts_3 6 rfl rfl)
theorem dX1_puts_77 : decode cX1_puts 77 = .ok (.ireturn, 1) := dk_172 (dk_at dksX1_puts_3 7 rfl rfl)
theorem dX1_puts_78 : decode cX1_puts 78 = .ok (.aload_n 0, 1) := dk_42 (dk_at dksX1_puts_3 8 rfl rfl)
theorem dX1_puts_79 : decode cX1_puts 79 = .ok (.invokevirtual 436, 3) := dk_182 1 180 (dk_at dksX1_puts_3 9 rfl rfl)
theorem dX1_puts_82 : decode cX1_puts 82 = .ok (.aload_n 0, 1) := dk_42 (dk_at dksX1_puts_3 12 rfl rfl)
theorem dX1_puts_83 : decode cX1_puts 83 = .ok (.getfield 33, 3) := dk_180 0 33 (dk_at dksX1_puts_3 13 rfl rfl)
theorem dX1_puts_86 : decode cX1_puts 86 = .ok (.iload_n 1, 1) := dk_27 (dk_at dksX1_puts_3 16 rfl rfl)
theorem dX1_puts_87 : decode cX1_puts 87 = .ok (.iload_n 2, 1) := dk_28 (dk_at dksX1_puts_3 17 rfl rfl)
theorem dX1_puts_88 : decode cX1_puts 88 = .ok (.iload 4, 2) := dk_21 4 (dk_at dksX1_puts_3 18 rfl rfl)
theorem dX1_puts_90 : decode cX1_puts 90 = .ok (.invokevirtual 439, 3) := dk_182 1 183 (dk_at dksX1_puts_3 20 rfl rfl)
theorem dX1_puts_93 : decode cX1_puts 93 = .ok (.aload_n 0, 1) := dk_42 (dk_at dksX1_puts_3 23 rfl rfl)
theorem dX1_puts_94 : decode cX1_puts 94 = .ok (.invokevirtual 442, 3) := dk_182 1 186 (dk_at dksX1_puts_4 0 rfl rfl)
theorem dX1_puts_97 : decode cX1_puts 97 = .ok (.ireturn, 1) := dk_172 (dk_at dksX1_puts_4 3 rfl rfl)
def dkwX1_salt_0 : List UInt8 := [42, 27, 28, 29, 3, 182, 1, 190, 172]
abbrev dktX1_salt_0 : List UInt8 := dkwX1_salt_0 ++ []
theorem dksX1_salt_0 : cX1_salt.data.toList.drop 0 = dktX1_salt_0 := by decide +kernel
theorem dX1_salt_0 : decode cX1_salt 0 = .ok (.aload_n 0, 1) := dk_42 (dk_at dksX1_salt_0 0 rfl rfl)
theorem dX1_salt_1 : decode cX1_salt 1 = .ok (.iload_n 1, 1) := dk_27 (dk_at dksX1_salt_0 1 rfl rfl)
theorem dX1_salt_2 : decode cX1_salt 2 = .ok (.iload_n 2, 1) := dk_28 (dk_at dksX1_salt_0 2 rfl rfl)
theorem dX1_salt_3 : decode cX1_salt 3 = .ok (.iload_n 3, 1) := dk_29 (dk_at dksX1_salt_0 3 rfl rfl)
theorem dX1_salt_4 : decode cX1_salt 4 = .ok (.iconst 0, 1) := dk_3 (dk_at dksX1_salt_0 4 rfl rfl)
theorem dX1_salt_5 : decode cX1_salt 5 = .ok (.invokevirtual 446, 3) := dk_182 1 190 (dk_at dksX1_salt_0 5 rfl rfl)
theorem dX1_salt_8 : decode cX1_salt 8 = .ok (.ireturn, 1) := dk_172 (dk_at dksX1_salt_0 8 rfl rfl)
def dkwX7_denied_0 : List UInt8 := [42, 27, 182, 0, 72, 87, 3, 172]
abbrev dktX7_denied_0 : List UInt8 := dkwX7_denied_0 ++ []
theorem dksX7_denied_0 : cX7_denied.data.toList.drop 0 = dktX7_denied_0 := by decide +kernel
theorem dX7_denied_0 : decode cX7_denied 0 = .ok (.aload_n 0, 1) := dk_42 (dk_at dksX7_denied_0 0 rfl rfl)
theorem dX7_denied_1 : decode cX7_denied 1 = .ok (.iload_n 1, 1) := dk_27 (dk_at dksX7_denied_0 1 rfl rfl)
theorem dX7_denied_2 : decode cX7_denied 2 = .ok (.invokevirtual 72, 3) := dk_182 0 72 (dk_at dksX7_denied_0 2 rfl rfl)
theorem dX7_denied_5 : decode cX7_denied 5 = .ok (.pop, 1) := dk_87 (dk_at dksX7_denied_0 5 rfl rfl)
theorem dX7_denied_6 : decode cX7_denied 6 = .ok (.iconst 0, 1) := dk_3 (dk_at dksX7_denied_0 6 rfl rfl)
theorem dX7_denied_7 : decode cX7_denied 7 = .ok (.ireturn, 1) := dk_172 (dk_at dksX7_denied_0 7 rfl rfl)
def dkwX7_spots_1 : List UInt8 := [132, 3, 1, 167, 255, 233, 28, 172]
abbrev dktX7_spots_1 : List UInt8 := dkwX7_spots_1 ++ []
def dkwX7_spots_0 : List UInt8 := [3, 61, 3, 62, 29, 16, 8, 162, 0, 23, 28, 42, 180, 0, 21, 27, 29, 96, 46, 184, 1, 140, 96, 61]
abbrev dktX7_spots_0 : List UInt8 := dkwX7_spots_0 ++ dktX7_spots_1
theorem dksX7_spots_0 : cX7_spots.data.toList.drop 0 = dktX7_spots_0 := by decide +kernel
theorem dksX7_spots_1 : cX7_spots.data.toList.drop 24 = dktX7_spots_1 := dk_seg dksX7_spots_0 24 rfl rfl
theorem dX7_spots_0 : decode cX7_spots 0 = .ok (.iconst 0, 1) := dk_3 (dk_at dksX7_spots_0 0 rfl rfl)
theorem dX7_spots_1 : decode cX7_spots 1 = .ok (.istore_n 2, 1) := dk_61 (dk_at dksX7_spots_0 1 rfl rfl)
theorem dX7_spots_2 : decode cX7_spots 2 = .ok (.iconst 0, 1) := dk_3 (dk_at dksX7_spots_0 2 rfl rfl)
theorem dX7_spots_3 : decode cX7_spots 3 = .ok (.istore_n 3, 1) := dk_62 (dk_at dksX7_spots_0 3 rfl rfl)
theorem dX7_spots_4 : decode cX7_spots 4 = .ok (.iload_n 3, 1) := dk_29 (dk_at dksX7_spots_0 4 rfl rfl)
theorem dX7_spots_5 : decode cX7_spots 5 = .ok (.bipush 8, 2) := dk_16 8 (dk_at dksX7_spots_0 5 rfl rfl)
theorem dX7_spots_7 : decode cX7_spots 7 = .ok (.if_icmp .ge 23, 3) := dk_162 0 23 (dk_at dksX7_spots_0 7 rfl rfl)
theorem dX7_spots_10 : decode cX7_spots 10 = .ok (.iload_n 2, 1) := dk_28 (dk_at dksX7_spots_0 10 rfl rfl)
theorem dX7_spots_11 : decode cX7_spots 11 = .ok (.aload_n 0, 1) := dk_42 (dk_at dksX7_spots_0 11 rfl rfl)
theorem dX7_spots_12 : decode cX7_spots 12 = .ok (.getfield 21, 3) := dk_180 0 21 (dk_at dksX7_spots_0 12 rfl rfl)
theorem dX7_spots_15 : decode cX7_spots 15 = .ok (.iload_n 1, 1) := dk_27 (dk_at dksX7_spots_0 15 rfl rfl)
theorem dX7_spots_16 : decode cX7_spots 16 = .ok (.iload_n 3, 1) := dk_29 (dk_at dksX7_spots_0 16 rfl rfl)
theorem dX7_spots_17 : decode cX7_spots 17 = .ok (.iadd, 1) := dk_96 (dk_at dksX7_spots_0 17 rfl rfl)
theorem dX7_spots_18 : decode cX7_spots 18 = .ok (.iaload, 1) := dk_46 (dk_at dksX7_spots_0 18 rfl rfl)
theorem dX7_spots_19 : decode cX7_spots 19 = .ok (.invokestatic 396, 3) := dk_184 1 140 (dk_at dksX7_spots_0 19 rfl rfl)
theorem dX7_spots_22 : decode cX7_spots 22 = .ok (.iadd, 1) := dk_96 (dk_at dksX7_spots_0 22 rfl rfl)
theorem dX7_spots_23 : decode cX7_spots 23 = .ok (.istore_n 2, 1) := dk_61 (dk_at dksX7_spots_0 23 rfl rfl)
theorem dX7_spots_24 : decode cX7_spots 24 = .ok (.iinc 3 1, 3) := dk_132 3 1 (dk_at dksX7_spots_1 0 rfl rfl)
theorem dX7_spots_27 : decode cX7_spots 27 = .ok (.goto (-23), 3) := dk_167 255 233 (dk_at dksX7_spots_1 3 rfl rfl)
theorem dX7_spots_30 : decode cX7_spots 30 = .ok (.iload_n 2, 1) := dk_28 (dk_at dksX7_spots_1 6 rfl rfl)
theorem dX7_spots_31 : decode cX7_spots 31 = .ok (.ireturn, 1) := dk_172 (dk_at dksX7_spots_1 7 rfl rfl)
def dkwX7_keeps_3 : List UInt8 := [42, 180, 0, 21, 27, 46, 79, 132, 1, 1, 167, 255, 227, 42, 89, 180, 1, 188, 4, 96, 181, 1, 188, 177]
abbrev dktX7_keeps_3 : List UInt8 := dkwX7_keeps_3 ++ []
def dkwX7_keeps_2 : List UInt8 := [181, 1, 188, 3, 60, 27, 16, 18, 162, 0, 29, 42, 180, 0, 24, 16, 18, 42, 180, 1, 188, 104, 27, 96]
abbrev dktX7_keeps_2 : List UInt8 := dkwX7_keeps_2 ++ dktX7_keeps_3
def dkwX7_keeps_1 : List UInt8 := [180, 0, 24, 27, 16, 18, 96, 46, 79, 132, 1, 1, 167, 255, 231, 42, 89, 180, 1, 188, 4, 100]
abbrev dktX7_keeps_1 : List UInt8 := dkwX7_keeps_1 ++ dktX7_keeps_2
def dkwX7_keeps_0 : List UInt8 := [42, 180, 1, 188, 16, 16, 160, 0, 43, 3, 60, 27, 17, 1, 14, 162, 0, 24, 42, 180, 0, 24, 27, 42]
abbrev dktX7_keeps_0 : List UInt8 := dkwX7_keeps_0 ++ dktX7_keeps_1
theorem dksX7_keeps_0 : cX7_keeps.data.toList.drop 0 = dktX7_keeps_0 := by decide +kernel
theorem dksX7_keeps_1 : cX7_keeps.data.toList.drop 24 = dktX7_keeps_1 := dk_seg dksX7_keeps_0 24 rfl rfl
theorem dksX7_keeps_2 : cX7_keeps.data.toList.drop 46 = dktX7_keeps_2 := dk_seg dksX7_keeps_1 22 rfl rfl
theorem dksX7_keeps_3 : cX7_keeps.data.toList.drop 70 = dktX7_keeps_3 := dk_seg dksX7_keeps_2 24 rfl rfl
theorem dX7_keeps_0 : decode cX7_keeps 0 = .ok (.aload_n 0, 1) := dk_42 (dk_at dksX7_keeps_0 0 rfl rfl)
theorem dX7_keeps_1 : decode cX7_keeps 1 = .ok (.getfield 444, 3) := dk_180 1 188 (dk_at dksX7_keeps_0 1 rfl rfl)
theorem dX7_keeps_4 : decode cX7_keeps 4 = .ok (.bipush 16, 2) := dk_16 16 (dk_at dksX7_keeps_0 4 rfl rfl)
theorem dX7_keeps_6 : decode cX7_keeps 6 = .ok (.if_icmp .ne 43, 3) := dk_160 0 43 (dk_at dksX7_keeps_0 6 rfl rfl)
theorem dX7_keeps_9 : decode cX7_keeps 9 = .ok (.iconst 0, 1) := dk_3 (dk_at dksX7_keeps_0 9 rfl rfl)
theorem dX7_keeps_10 : decode cX7_keeps 10 = .ok (.istore_n 1, 1) := dk_60 (dk_at dksX7_keeps_0 10 rfl rfl)
theorem dX7_keeps_11 : decode cX7_keeps 11 = .ok (.iload_n 1, 1) := dk_27 (dk_at dksX7_keeps_0 11 rfl rfl)
theorem dX7_keeps_12 : decode cX7_keeps 12 = .ok (.sipush 270, 3) := dk_17 1 14 (dk_at dksX7_keeps_0 12 rfl rfl)
theorem dX7_keeps_15 : decode cX7_keeps 15 = .ok (.if_icmp .ge 24, 3) := dk_162 0 24 (dk_at dksX7_keeps_0 15 rfl rfl)
theorem dX7_keeps_18 : decode cX7_keeps 18 = .ok (.aload_n 0, 1) := dk_42 (dk_at dksX7_keeps_0 18 rfl rfl)
theorem dX7_keeps_19 : decode cX7_keeps 19 = .ok (.getfield 24, 3) := dk_180 0 24 (dk_at dksX7_keeps_0 19 rfl rfl)
theorem dX7_keeps_22 : decode cX7_keeps 22 = .ok (.iload_n 1, 1) := dk_27 (dk_at dksX7_keeps_0 22 rfl rfl)
theorem dX7_keeps_23 : decode cX7_keeps 23 = .ok (.aload_n 0, 1) := dk_42 (dk_at dksX7_keeps_0 23 rfl rfl)
theorem dX7_keeps_24 : decode cX7_keeps 24 = .ok (.getfield 24, 3) := dk_180 0 24 (dk_at dksX7_keeps_1 0 rfl rfl)
theorem dX7_keeps_27 : decode cX7_keeps 27 = .ok (.iload_n 1, 1) := dk_27 (dk_at dksX7_keeps_1 3 rfl rfl)
theorem dX7_keeps_28 : decode cX7_keeps 28 = .ok (.bipush 18, 2) := dk_16 18 (dk_at dksX7_keeps_1 4 rfl rfl)
theorem dX7_keeps_30 : decode cX7_keeps 30 = .ok (.iadd, 1) := dk_96 (dk_at dksX7_keeps_1 6 rfl rfl)
theorem dX7_keeps_31 : decode cX7_keeps 31 = .ok (.iaload, 1) := dk_46 (dk_at dksX7_keeps_1 7 rfl rfl)
theorem dX7_keeps_32 : decode cX7_keeps 32 = .ok (.iastore, 1) := dk_79 (dk_at dksX7_keeps_1 8 rfl rfl)
theorem dX7_keeps_33 : decode cX7_keeps 33 = .ok (.iinc 1 1, 3) := dk_132 1 1 (dk_at dksX7_keeps_1 9 rfl rfl)
theorem dX7_keeps_36 : decode cX7_keeps 36 = .ok (.goto (-25), 3) := dk_167 255 231 (dk_at dksX7_keeps_1 12 rfl rfl)
theorem dX7_keeps_39 : decode cX7_keeps 39 = .ok (.aload_n 0, 1) := dk_42 (dk_at dksX7_keeps_1 15 rfl rfl)
theorem dX7_keeps_40 : decode cX7_keeps 40 = .ok (.dup, 1) := dk_89 (dk_at dksX7_keeps_1 16 rfl rfl)
theorem dX7_keeps_41 : decode cX7_keeps 41 = .ok (.getfield 444, 3) := dk_180 1 188 (dk_at dksX7_keeps_1 17 rfl rfl)
theorem dX7_keeps_44 : decode cX7_keeps 44 = .ok (.iconst 1, 1) := dk_4 (dk_at dksX7_keeps_1 20 rfl rfl)
theorem dX7_keeps_45 : decode cX7_keeps 45 = .ok (.isub, 1) := dk_100 (dk_at dksX7_keeps_1 21 rfl rfl)
theorem dX7_keeps_46 : decode cX7_keeps 46 = .ok (.putfield 444, 3) := dk_181 1 188 (dk_at dksX7_keeps_2 0 rfl rfl)
theorem dX7_keeps_49 : decode cX7_keeps 49 = .ok (.iconst 0, 1) := dk_3 (dk_at dksX7_keeps_2 3 rfl rfl)
theorem dX7_keeps_50 : decode cX7_keeps 50 = .ok (.istore_n 1, 1) := dk_60 (dk_at dksX7_keeps_2 4 rfl rfl)
theorem dX7_keeps_51 : decode cX7_keeps 51 = .ok (.iload_n 1, 1) := dk_27 (dk_at dksX7_keeps_2 5 rfl rfl)
theorem dX7_keeps_52 : decode cX7_keeps 52 = .ok (.bipush 18, 2) := dk_16 18 (dk_at dksX7_keeps_2 6 rfl rfl)
theorem dX7_keeps_54 : decode cX7_keeps 54 = .ok (.if_icmp .ge 29, 3) := dk_162 0 29 (dk_at dksX7_keeps_2 8 rfl rfl)
theorem dX7_keeps_57 : decode cX7_keeps 57 = .ok (.aload_n 0, 1) := dk_42 (dk_at dksX7_keeps_2 11 rfl rfl)
theorem dX7_keeps_58 : decode cX7_keeps 58 = .ok (.getfield 24, 3) := dk_180 0 24 (dk_at dksX7_keeps_2 12 rfl rfl)
theorem dX7_keeps_61 : decode cX7_keeps 61 = .ok (.bipush 18, 2) := dk_16 18 (dk_at dksX7_keeps_2 15 rfl rfl)
theorem dX7_keeps_63 : decode cX7_keeps 63 = .ok (.aload_n 0, 1) := dk_42 (dk_at dksX7_keeps_2 17 rfl rfl)
theorem dX7_keeps_64 : decode cX7_keeps 64 = .ok (.getfield 444, 3) := dk_180 1 188 (dk_at dksX7_keeps_2 18 rfl rfl)
theorem dX7_keeps_67 : decode cX7_keeps 67 = .ok (.imul, 1) := dk_104 (dk_at dksX7_keeps_2 21 rfl rfl)
theorem dX7_keeps_68 : decode cX7_keeps 68 = .ok (.iload_n 1, 1) := dk_27 (dk_at dksX7_keeps_2 22 rfl rfl)
theorem dX7_keeps_69 : decode cX7_keeps 69 = .ok (.iadd, 1) := dk_96 (dk_at dksX7_keeps_2 23 rfl rfl)
theorem dX7_keeps_70 : decode cX7_keeps 70 = .ok (.aload_n 0, 1) := dk_42 (dk_at dksX7_keeps_3 0 rfl rfl)
theorem dX7_keeps_71 : decode cX7_keeps 71 = .ok (.getfield 21, 3) := dk_180 0 21 (dk_at dksX7_keeps_3 1 rfl rfl)
theorem dX7_keeps_74 : decode cX7_keeps 74 = .ok (.iload_n 1, 1) := dk_27 (dk_at dksX7_keeps_3 4 rfl rfl)
theorem dX7_keeps_75 : decode cX7_keeps 75 = .ok (.iaload, 1) := dk_46 (dk_at dksX7_keeps_3 5 rfl rfl)
theorem dX7_keeps_76 : decode cX7_keeps 76 = .ok (.iastore, 1) := dk_79 (dk_at dksX7_keeps_3 6 rfl rfl)
theorem dX7_keeps_77 : decode cX7_keeps 77 = .ok (.iinc 1 1, 3) := dk_132 1 1 (dk_at dksX7_keeps_3 7 rfl rfl)
theorem dX7_keeps_80 : decode cX7_keeps 80 = .ok (.goto (-29), 3) := dk_167 255 227 (dk_at dksX7_keeps_3 10 rfl rfl)
theorem dX7_keeps_83 : decode cX7_keeps 83 = .ok (.aload_n 0, 1) := dk_42 (dk_at dksX7_keeps_3 13 rfl rfl)
theorem dX7_keeps_84 : decode cX7_keeps 84 = .ok (.dup, 1) := dk_89 (dk_at dksX7_keeps_3 14 rfl rfl)
theorem dX7_keeps_85 : decode cX7_keeps 85 = .ok (.getfield 444, 3) := dk_180 1 188 (dk_at dksX7_keeps_3 15 rfl rfl)
theorem dX7_keeps_88 : decode cX7_keeps 88 = .ok (.iconst 1, 1) := dk_4 (dk_at dksX7_keeps_3 18 rfl rfl)
theorem dX7_keeps_89 : decode cX7_keeps 89 = .ok (.iadd, 1) := dk_96 (dk_at dksX7_keeps_3 19 rfl rfl)
theorem dX7_keeps_90 : decode cX7_keeps 90 = .ok (.putfield 444, 3) := dk_181 1 188 (dk_at dksX7_keeps_3 20 rfl rfl)
theorem dX7_keeps_93 : decode cX7_keeps 93 = .ok (.return_, 1) := dk_177 (dk_at dksX7_keeps_3 23 rfl rfl)
def dkwX7_granted_0 : List UInt8 := [42, 3, 182, 0, 76, 87, 4, 172]
abbrev dktX7_granted_0 : List UInt8 := dkwX7_granted_0 ++ []
theorem dksX7_granted_0 : cX7_granted.data.toList.drop 0 = dktX7_granted_0 := by decide +kernel
theorem dX7_granted_0 : decode cX7_granted 0 = .ok (.aload_n 0, 1) := dk_42 (dk_at dksX7_granted_0 0 rfl rfl)
theorem dX7_granted_1 : decode cX7_granted 1 = .ok (.iconst 0, 1) := dk_3 (dk_at dksX7_granted_0 1 rfl rfl)
theorem dX7_granted_2 : decode cX7_granted 2 = .ok (.invokevirtual 76, 3) := dk_182 0 76 (dk_at dksX7_granted_0 2 rfl rfl)
theorem dX7_granted_5 : decode cX7_granted 5 = .ok (.pop, 1) := dk_87 (dk_at dksX7_granted_0 5 rfl rfl)
theorem dX7_granted_6 : decode cX7_granted 6 = .ok (.iconst 1, 1) := dk_4 (dk_at dksX7_granted_0 6 rfl rfl)
theorem dX7_granted_7 : decode cX7_granted 7 = .ok (.ireturn, 1) := dk_172 (dk_at dksX7_granted_0 7 rfl rfl)
theorem fp_X7_cheese_66 : FP mX7_cheese 66 [26] 0 (tyOf 0) := fun kd h => (by cases List.mem_singleton.mp h; exact ⟨6, _, 0, "GoatCourtModel", rfl, rfl, by decide, rfl, rfl, Or.inl rfl, Or.inl ⟨rfl, Or.inl q1889⟩⟩)
theorem fp_X7_cheeseOf_66 : FP mX7_cheeseOf 66 [26] 0 (tyOf 0) := fun kd h => (by cases List.mem_singleton.mp h; exact ⟨6, _, 0, "GoatCourtModel", rfl, rfl, by decide, rfl, rfl, Or.inl rfl, Or.inl ⟨rfl, Or.inl q1889⟩⟩)
theorem fl_X6_18 : FL "GoatCourt$Orders" 18 [25] 2 (.object "GoatCourt$Hill") := fun kd h => (by cases List.mem_singleton.mp h; exact ⟨5, _, 2, "GoatCourt$Orders", rfl, rfl, by decide, rfl, rfl, Or.inl q390, Or.inl rfl⟩)
theorem fl_X6_34 : FL "GoatCourt$Orders" 34 [27] 22 (tyOf 0) := fun kd h => (by cases List.mem_singleton.mp h; exact ⟨7, _, 22, "GoatCourt$Hill", rfl, rfl, by decide, rfl, rfl, Or.inl q589, Or.inl rfl⟩)
theorem fl_X6_52 : FL "GoatCourt$Orders" 52 [27] 10 (.array (.object "GoatCourt$Court")) := fun kd h => (by cases List.mem_singleton.mp h; exact ⟨7, _, 10, "GoatCourt$Hill", rfl, rfl, by decide, rfl, rfl, Or.inl q553, Or.inl rfl⟩)
theorem fl_X6_56 : FL "GoatCourt$Orders" 56 [39] 0 (tyOf 0) := fun kd h => (by cases List.mem_singleton.mp h; exact ⟨19, _, 2, "GoatCourt$Court", rfl, rfl, by decide, rfl, rfl, Or.inl q1275, Or.inl rfl⟩)
theorem fl_X6_61 : FL "GoatCourt$Orders" 61 [39] 1 (tyOf 0) := fun kd h => (by cases List.mem_singleton.mp h; exact ⟨19, _, 3, "GoatCourt$Court", rfl, rfl, by decide, rfl, rfl, Or.inl q1277, Or.inl rfl⟩)
theorem fl_X6_9 : FL "GoatCourt$Orders" 9 [25] 0 (.array (.int)) := fun kd h => (by cases List.mem_singleton.mp h; exact ⟨5, _, 0, "GoatCourt$Orders", rfl, rfl, by decide, rfl, rfl, Or.inl q388, Or.inl rfl⟩)
theorem fl_X6_26 : FL "GoatCourt$Orders" 26 [25] 3 (.long) := fun kd h => (by cases List.mem_singleton.mp h; exact ⟨5, _, 3, "GoatCourt$Orders", rfl, rfl, by decide, rfl, rfl, Or.inl q391, Or.inl rfl⟩)
theorem fl_X6_15 : FL "GoatCourt$Orders" 15 [25] 1 (.array (.int)) := fun kd h => (by cases List.mem_singleton.mp h; exact ⟨5, _, 1, "GoatCourt$Orders", rfl, rfl, by decide, rfl, rfl, Or.inl q389, Or.inl rfl⟩)
theorem fp_X6_tries_26 (d : Nat) : FP (mX6_tries d) 26 [25] 3 (.long) := fun kd h => (by cases List.mem_singleton.mp h; exact ⟨5, _, 3, "GoatCourt$Orders", rfl, rfl, by decide, rfl, rfl, Or.inl rfl, Or.inl ⟨rfl, Or.inl q391⟩⟩)
theorem fp_X6_lay_18 : FP mX6_lay 18 [25] 2 (.object "GoatCourt$Hill") := fun kd h => (by cases List.mem_singleton.mp h; exact ⟨5, _, 2, "GoatCourt$Orders", rfl, rfl, by decide, rfl, rfl, Or.inl rfl, Or.inl ⟨rfl, Or.inl q390⟩⟩)
theorem fp_X6_lay_26 : FP mX6_lay 26 [25] 3 (.long) := fun kd h => (by cases List.mem_singleton.mp h; exact ⟨5, _, 3, "GoatCourt$Orders", rfl, rfl, by decide, rfl, rfl, Or.inl rfl, Or.inl ⟨rfl, Or.inl q391⟩⟩)
theorem fl_X1_53 : FL "GoatCourt" 53 [20] 13 (.object "GoatCourt$Orders") := fun kd h => (by cases List.mem_singleton.mp h; exact ⟨0, _, 13, "GoatCourt", rfl, rfl, by decide, rfl, rfl, Or.inl q415, Or.inl rfl⟩)
theorem fl_X7_60 : FL "GoatCourtModel" 60 [26] 37 (.array (.int)) := fun kd h => (by cases List.mem_singleton.mp h; exact ⟨6, _, 37, "GoatCourtModel", rfl, rfl, by decide, rfl, rfl, Or.inl q1926, Or.inl rfl⟩)
theorem fl_X7_63 : FL "GoatCourtModel" 63 [26] 38 (.array (.int)) := fun kd h => (by cases List.mem_singleton.mp h; exact ⟨6, _, 38, "GoatCourtModel", rfl, rfl, by decide, rfl, rfl, Or.inl q1927, Or.inl rfl⟩)
theorem fp_X7_appeals_66 : FP mX7_appeals 66 [26] 0 (tyOf 0) := fun kd h => (by cases List.mem_singleton.mp h; exact ⟨6, _, 0, "GoatCourtModel", rfl, rfl, by decide, rfl, rfl, Or.inl rfl, Or.inl ⟨rfl, Or.inl q1889⟩⟩)
theorem fl_X1_421 : FL "GoatCourt" 421 [27] 22 (tyOf 0) := fun kd h => (by cases List.mem_singleton.mp h; exact ⟨7, _, 22, "GoatCourt$Hill", rfl, rfl, by decide, rfl, rfl, Or.inl q592, Or.inl rfl⟩)
theorem fp_X7_appealAt_66 : FP mX7_appealAt 66 [26] 0 (tyOf 0) := fun kd h => (by cases List.mem_singleton.mp h; exact ⟨6, _, 0, "GoatCourtModel", rfl, rfl, by decide, rfl, rfl, Or.inl rfl, Or.inl ⟨rfl, Or.inl q1889⟩⟩)
theorem fp_X1_yes_77 : FP mX1_yes 77 [20] 4 (tyOf 0) := fun kd h => (by cases List.mem_singleton.mp h; exact ⟨0, _, 4, "GoatCourt", rfl, rfl, by decide, rfl, rfl, Or.inl rfl, Or.inl ⟨rfl, Or.inl q406⟩⟩)
theorem fl_X1_37 : FL "GoatCourt" 37 [20] 10 (.object "GoatCourt$Ground") := fun kd h => (by cases List.mem_singleton.mp h; exact ⟨0, _, 10, "GoatCourt", rfl, rfl, by decide, rfl, rfl, Or.inl q412, Or.inl rfl⟩)
theorem fl_X1_118 : FL "GoatCourt" 118 [20] 8 (tyOf 0) := fun kd h => (by cases List.mem_singleton.mp h; exact ⟨0, _, 8, "GoatCourt", rfl, rfl, by decide, rfl, rfl, Or.inl q410, Or.inl rfl⟩)
theorem fp_X1_done_118 : FP mX1_done 118 [20] 8 (tyOf 0) := fun kd h => (by cases List.mem_singleton.mp h; exact ⟨0, _, 8, "GoatCourt", rfl, rfl, by decide, rfl, rfl, Or.inl rfl, Or.inl ⟨rfl, Or.inl q410⟩⟩)
theorem fl_X7_444 : FL "GoatCourtModel" 444 [26] 21 (tyOf 0) := fun kd h => (by cases List.mem_singleton.mp h; exact ⟨6, _, 21, "GoatCourtModel", rfl, rfl, by decide, rfl, rfl, Or.inl q1910, Or.inl rfl⟩)
theorem fl_X7_24 : FL "GoatCourtModel" 24 [26] 19 (.array (.int)) := fun kd h => (by cases List.mem_singleton.mp h; exact ⟨6, _, 19, "GoatCourtModel", rfl, rfl, by decide, rfl, rfl, Or.inl q1908, Or.inl rfl⟩)
theorem fp_X7_keeps_444 : FP mX7_keeps 444 [26] 21 (tyOf 0) := fun kd h => (by cases List.mem_singleton.mp h; exact ⟨6, _, 21, "GoatCourtModel", rfl, rfl, by decide, rfl, rfl, Or.inl rfl, Or.inl ⟨rfl, Or.inl q1910⟩⟩)
theorem w_X1_cheese_b59 (G : Gx) (h0 : G0 G) (N : Nat) (K30 : Nat → Int32 → Int32 → Mem → Option (Int32 × Mem)) (hK30 : ∀ (a0 : Nat) (l3 : Int32) (l4 : Int32) (σ : Mem), Runs G mX1_cheese rhoI σ 30 [some (vR (some a0)), none, none, some (vI l3), some (vI l4)] [] (K30 a0 l3 l4 σ)) (a0 : Nat) (l4 : Int32) (t0 : Int32) (t1 : Int32) (σ : Mem) : Runs G mX1_cheese rhoI σ 59 [some (vR (some a0)), none, none, none, some (vI l4)] [vI t1, vI t0] (f_X1_cheese_b59 N K30 a0 l4 t0 t1 σ) := by
  unfold f_X1_cheese_b59
  refine r_iadd (q := 60) dX1_cheese_59 rfl ?_
  refine r_istore_n (q := 61) dX1_cheese_60 rfl rfl (Nat.le_of_ble_eq_true rfl) rfl ?_
  refine r_iinc (q := 64) (v := (1 : Int32)) dX1_cheese_61 rfl rfl (by decide) (Nat.le_of_ble_eq_true rfl) rfl ?_
  refine r_goto (q := 30) dX1_cheese_64 (by decide) ?_
  exact r_le (hK30 _ _ _ _) (Nat.le_refl _) (And.intro rfl (And.intro rfl (And.intro rfl trivial)))
theorem w_X1_cheese_b30B (G : Gx) (h0 : G0 G) (N : Nat)   (K30 : Nat → Int32 → Int32 → Mem → Option (Int32 × Mem)) (hK30 : ∀ (a0 : Nat) (l3 : Int32) (l4 : Int32) (σ : Mem), Runs G mX1_cheese rhoI σ 30 [some (vR (some a0)), none, none, some (vI l3), some (vI l4)] [] (K30 a0 l3 l4 σ)) (a0 : Nat) (l3 : Int32) (l4 : Int32) (σ : Mem) : Runs G mX1_cheese rhoI σ 30 [some (vR (some a0)), none, none, some (vI l3), some (vI l4)] [] (f_X1_cheese_b30B N  K30 a0 l3 l4 σ) := by
  unfold f_X1_cheese_b30B
  refine r_iload (q := 32) dX1_cheese_30 rfl rfl ?_
  refine r_iconst (q := 33) (v := (1 : Int32)) dX1_cheese_32 rfl (by decide) ?_
  refine r_aload_n (q := 34) dX1_cheese_33 rfl rfl rfl ?_
  refine r_gR (q := 37) fl_X1_104 rfl dX1_cheese_34 rfl (fun x1 => ?_)
  refine r_gI (q := 40) fl_X1_139 dX1_cheese_37 rfl (fun x2 => ?_)
  refine r_ishl (q := 41) dX1_cheese_40 rfl ?_
  refine r_icmp_ge (q := 44) (t := 67) dX1_cheese_41 rfl (by decide) (fun _ => ?_) (fun _ => ?_)
  · refine r_iload_n (q := 68) dX1_cheese_67 rfl rfl rfl ?_
    exact r_ireturn rfl rfl dX1_cheese_68
  · refine r_iload_n (q := 45) dX1_cheese_44 rfl rfl rfl ?_
    refine r_aload_n (q := 46) dX1_cheese_45 rfl rfl rfl ?_
    refine r_iload (q := 48) dX1_cheese_46 rfl rfl ?_
    refine r_ob (fun a5 ha5 => ?_)
    obtain ⟨hea5, hka5⟩ := o_at_eq ha5
    cases hea5
    refine r_callI (q := 51) (c_X1_isCheese G h0 N _ _ _) (cl_V (ci := 0) rfl rfl (lw_V q1756 q1758 qs77 q167 q1759) (hd_X1_isCheese) ⟨Nat.le_of_ble_eq_true rfl, Nat.le_of_ble_eq_true rfl⟩ (List.mem_singleton.mp hka5) rfl rfl rfl (Nat.le_of_ble_eq_true rfl) dX1_cheese_48) rfl (fun x3 σ4 => ?_)
    refine r_if_eq (q := 54) (t := 58) dX1_cheese_51 rfl (by decide) (fun _ => ?_) (fun _ => ?_)
    · refine r_iconst (q := 59) (v := (0 : Int32)) dX1_cheese_58 rfl (by decide) ?_
      exact r_le (w_X1_cheese_b59 G h0 N K30 hK30 _ _ _ _ _) (Nat.le_refl _) (And.intro rfl (And.intro rfl trivial))
    · refine r_iconst (q := 55) (v := (1 : Int32)) dX1_cheese_54 rfl (by decide) ?_
      refine r_goto (q := 59) dX1_cheese_55 (by decide) ?_
      exact r_le (w_X1_cheese_b59 G h0 N K30 hK30 _ _ _ _ _) (Nat.le_refl _) (And.intro rfl (And.intro rfl trivial))
theorem w_X1_cheese_b30 (G : Gx) (h0 : G0 G) (N : Nat)   : ∀ (z : Nat) (a0 : Nat) (l3 : Int32) (l4 : Int32) (σ : Mem), Runs G mX1_cheese rhoI σ 30 [some (vR (some a0)), none, none, some (vI l3), some (vI l4)] [] (f_X1_cheese_b30 N  z a0 l3 l4 σ) := by
  intro z
  induction z with
  | zero => exact fun _ _ _ _ => r_none
  | succ z ih => exact fun a0 l3 l4 σ => w_X1_cheese_b30B G h0 N   _ ih a0 l3 l4 σ
theorem c_X1_cheese (G : Gx) (h0 : G0 G) (N : Nat) (a0 : Nat) (i1 : Int32) (σ : Mem) : Ct G mX1_cheese rhoI [vR (some a0), vI i1] σ (f_X1_cheese N a0 i1 σ) := by
  refine Ct_of h0 (by decide) rfl (Nat.le_of_ble_eq_true rfl) (L0 := [some (vR (some a0)), some (vI i1), none, none, none]) rfl ?_
  unfold f_X1_cheese
  refine r_aload_n (q := 1) dX1_cheese_0 rfl rfl rfl ?_
  refine r_ob (fun a3 ha3 => ?_)
  obtain ⟨hea3, hka3⟩ := o_at_eq ha3
  cases hea3
  refine r_callV (q := 4) (c_X1_anew G h0 N _ _) (cl_V (ci := 0) rfl rfl (lw_V q485 q487 qs2 q167 q488) (hd_X1_anew) ⟨Nat.le_of_ble_eq_true rfl, Nat.le_of_ble_eq_true rfl⟩ (List.mem_singleton.mp hka3) rfl rfl rfl (Nat.le_of_ble_eq_true rfl) dX1_cheese_1) rfl (fun u1 σ2 => ?_)
  refine r_aload_n (q := 5) dX1_cheese_4 rfl rfl rfl ?_
  refine r_iload_n (q := 6) dX1_cheese_5 rfl rfl rfl ?_
  refine r_ob (fun a6 ha6 => ?_)
  obtain ⟨hea6, hka6⟩ := o_at_eq ha6
  cases hea6
  refine r_callI (q := 9) (c_X1_cheeseWhy G h0 N _ _ _) (cl_V (ci := 0) rfl rfl (lw_V q1752 q1754 qs76 q167 q1755) (hd_X1_cheeseWhy) ⟨Nat.le_of_ble_eq_true rfl, Nat.le_of_ble_eq_true rfl⟩ (List.mem_singleton.mp hka6) rfl rfl rfl (Nat.le_of_ble_eq_true rfl) dX1_cheese_6) rfl (fun x4 σ5 => ?_)
  refine r_istore_n (q := 10) dX1_cheese_9 rfl rfl (Nat.le_of_ble_eq_true rfl) rfl ?_
  refine r_iload_n (q := 11) dX1_cheese_10 rfl rfl rfl ?_
  refine r_if_eq (q := 14) (t := 20) dX1_cheese_11 rfl (by decide) (fun _ => ?_) (fun _ => ?_)
  · refine r_aload_n (q := 21) dX1_cheese_20 rfl rfl rfl ?_
    refine r_iload_n (q := 22) dX1_cheese_21 rfl rfl rfl ?_
    refine r_ob (fun a9 ha9 => ?_)
    obtain ⟨hea9, hka9⟩ := o_at_eq ha9
    cases hea9
    refine r_callV (q := 25) (c_X1_run G h0 N _ _ _) (cl_V (ci := 0) rfl rfl (lw_V q1428 q1430 qs51 q167 q1431) (hd_X1_run) ⟨Nat.le_of_ble_eq_true rfl, Nat.le_of_ble_eq_true rfl⟩ (List.mem_singleton.mp hka9) rfl rfl rfl (Nat.le_of_ble_eq_true rfl) dX1_cheese_22) rfl (fun u7 σ8 => ?_)
    refine r_iconst (q := 26) (v := (0 : Int32)) dX1_cheese_25 rfl (by decide) ?_
    refine r_istore_n (q := 27) dX1_cheese_26 rfl rfl (Nat.le_of_ble_eq_true rfl) rfl ?_
    refine r_iconst (q := 28) (v := (0 : Int32)) dX1_cheese_27 rfl (by decide) ?_
    refine r_istore (q := 30) dX1_cheese_28 rfl (Nat.le_of_ble_eq_true rfl) rfl ?_
    exact r_le (w_X1_cheese_b30 G h0 N N _ _ _ _) (Nat.le_refl _) (And.intro rfl (And.intro rfl (And.intro rfl trivial)))
  · refine r_aload_n (q := 15) dX1_cheese_14 rfl rfl rfl ?_
    refine r_iload_n (q := 16) dX1_cheese_15 rfl rfl rfl ?_
    refine r_ob (fun a12 ha12 => ?_)
    obtain ⟨hea12, hka12⟩ := o_at_eq ha12
    cases hea12
    refine r_callI (q := 19) (c_X1_no G h0 N _ _ _) (cl_V (ci := 0) rfl rfl (lw_V q492 q494 qs3 q167 q495) (hd_X1_no) ⟨Nat.le_of_ble_eq_true rfl, Nat.le_of_ble_eq_true rfl⟩ (List.mem_singleton.mp hka12) rfl rfl rfl (Nat.le_of_ble_eq_true rfl) dX1_cheese_16) rfl (fun x10 σ11 => ?_)
    exact r_ireturn rfl rfl dX1_cheese_19
theorem c_X7_refusesCheese (G : Gx) (h0 : G0 G) (N : Nat) (a0 : Nat) (i1 : Int32) (σ : Mem) : Ct G mX7_refusesCheese rhoI [vR (some a0), vI i1] σ (f_X7_refusesCheese N a0 i1 σ) := by
  refine Ct_of h0 (by decide) rfl (Nat.le_of_ble_eq_true rfl) (L0 := [some (vR (some a0)), some (vI i1)]) rfl ?_
  unfold f_X7_refusesCheese
  refine r_aload_n (q := 1) dX7_refusesCheese_0 rfl rfl rfl ?_
  refine r_iload_n (q := 2) dX7_refusesCheese_1 rfl rfl rfl ?_
  refine r_ob (fun a3 ha3 => ?_)
  obtain ⟨hea3, hka3⟩ := o_at_eq ha3
  cases hea3
  refine r_callI (q := 5) (c_X7_isCase G h0 N _ _ _) (cl_V (ci := 6) rfl rfl (lw_V q2455 q2457 qs126 q176 q2458) (hd_X7_isCase) ⟨Nat.le_of_ble_eq_true rfl, Nat.le_of_ble_eq_true rfl⟩ (List.mem_singleton.mp hka3) rfl rfl rfl (Nat.le_of_ble_eq_true rfl) dX7_refusesCheese_2) rfl (fun x1 σ2 => ?_)
  refine r_if_ne (q := 8) (t := 12) dX7_refusesCheese_5 rfl (by decide) (fun _ => ?_) (fun _ => ?_)
  · refine r_iconst (q := 9) (v := (1 : Int32)) dX7_refusesCheese_8 rfl (by decide) ?_
    refine r_goto (q := 28) dX7_refusesCheese_9 (by decide) ?_
    exact r_ireturn rfl rfl dX7_refusesCheese_28
  · refine r_aload_n (q := 13) dX7_refusesCheese_12 rfl rfl rfl ?_
    refine r_gR (q := 16) fl_X7_442 rfl dX7_refusesCheese_13 rfl (fun x4 => ?_)
    refine r_gI (q := 19) fl_X7_430 dX7_refusesCheese_16 rfl (fun x5 => ?_)
    refine r_if_eq (q := 22) (t := 26) dX7_refusesCheese_19 rfl (by decide) (fun _ => ?_) (fun _ => ?_)
    · refine r_bipush (q := 28) (v := (6 : Int32)) dX7_refusesCheese_26 rfl (by decide) ?_
      exact r_ireturn rfl rfl dX7_refusesCheese_28
    · refine r_iconst (q := 23) (v := (0 : Int32)) dX7_refusesCheese_22 rfl (by decide) ?_
      refine r_goto (q := 28) dX7_refusesCheese_23 (by decide) ?_
      exact r_ireturn rfl rfl dX7_refusesCheese_28
theorem w_X7_isCheese_b51 (G : Gx) (h0 : G0 G) (N : Nat) (K2 : Nat → Int32 → Int32 → Mem → Option (Int32 × Mem)) (K18 : Nat → Int32 → Int32 → Int32 → Int32 → Mem → Option (Int32 × Mem)) (hK2 : ∀ (a0 : Nat) (l1 : Int32) (l2 : Int32) (σ : Mem), Runs G mX7_isCheese rhoI σ 2 [some (vR (some a0)), some (vI l1), some (vI l2), none, none] [] (K2 a0 l1 l2 σ)) (hK18 : ∀ (a0 : Nat) (l1 : Int32) (l2 : Int32) (l3 : Int32) (l4 : Int32) (σ : Mem), Runs G mX7_isCheese rhoI σ 18 [some (vR (some a0)), some (vI l1), some (vI l2), some (vI l3), some (vI l4)] [] (K18 a0 l1 l2 l3 l4 σ)) (a0 : Nat) (l1 : Int32) (l2 : Int32) (l4 : Int32) (t0 : Int32) (t1 : Int32) (σ : Mem) : Runs G mX7_isCheese rhoI σ 51 [some (vR (some a0)), some (vI l1), some (vI l2), none, some (vI l4)] [vI t1, vI t0] (f_X7_isCheese_b51 N K2 K18 a0 l1 l2 l4 t0 t1 σ) := by
  unfold f_X7_isCheese_b51
  refine r_iadd (q := 52) dX7_isCheese_51 rfl ?_
  refine r_istore_n (q := 53) dX7_isCheese_52 rfl rfl (Nat.le_of_ble_eq_true rfl) rfl ?_
  refine r_iinc (q := 56) (v := (1 : Int32)) dX7_isCheese_53 rfl rfl (by decide) (Nat.le_of_ble_eq_true rfl) rfl ?_
  refine r_goto (q := 18) dX7_isCheese_56 (by decide) ?_
  exact r_le (hK18 _ _ _ _ _ _) (Nat.le_refl _) (And.intro rfl (And.intro rfl (And.intro rfl (And.intro rfl (And.intro rfl trivial)))))
theorem w_X7_isCheese_b18B (G : Gx) (h0 : G0 G) (N : Nat) (K2 : Nat → Int32 → Int32 → Mem → Option (Int32 × Mem)) (hK2 : ∀ (a0 : Nat) (l1 : Int32) (l2 : Int32) (σ : Mem), Runs G mX7_isCheese rhoI σ 2 [some (vR (some a0)), some (vI l1), some (vI l2), none, none] [] (K2 a0 l1 l2 σ)) (K18 : Nat → Int32 → Int32 → Int32 → Int32 → Mem → Option (Int32 × Mem)) (hK18 : ∀ (a0 : Nat) (l1 : Int32) (l2 : Int32) (l3 : Int32) (l4 : Int32) (σ : Mem), Runs G mX7_isCheese rhoI σ 18 [some (vR (some a0)), some (vI l1), some (vI l2), some (vI l3), some (vI l4)] [] (K18 a0 l1 l2 l3 l4 σ)) (a0 : Nat) (l1 : Int32) (l2 : Int32) (l3 : Int32) (l4 : Int32) (σ : Mem) : Runs G mX7_isCheese rhoI σ 18 [some (vR (some a0)), some (vI l1), some (vI l2), some (vI l3), some (vI l4)] [] (f_X7_isCheese_b18B N K2 K18 a0 l1 l2 l3 l4 σ) := by
  unfold f_X7_isCheese_b18B
  refine r_iload (q := 20) dX7_isCheese_18 rfl rfl ?_
  refine r_aload_n (q := 21) dX7_isCheese_20 rfl rfl rfl ?_
  refine r_gR (q := 24) fl_X7_442 rfl dX7_isCheese_21 rfl (fun x1 => ?_)
  refine r_gI (q := 27) fl_X7_328 dX7_isCheese_24 rfl (fun x2 => ?_)
  refine r_icmp_ge (q := 30) (t := 59) dX7_isCheese_27 rfl (by decide) (fun _ => ?_) (fun _ => ?_)
  · refine r_iload_n (q := 60) dX7_isCheese_59 rfl rfl rfl ?_
    refine r_aload_n (q := 61) dX7_isCheese_60 rfl rfl rfl ?_
    refine r_gR (q := 64) fl_X7_442 rfl dX7_isCheese_61 rfl (fun x3 => ?_)
    refine r_gR (q := 67) fl_X7_433 rfl dX7_isCheese_64 rfl (fun x4 => ?_)
    refine r_iload_n (q := 68) dX7_isCheese_67 rfl rfl rfl ?_
    refine r_iaload (q := 69) dX7_isCheese_68 rfl (fun x5 => ?_)
    refine r_icmp_eq (q := 72) (t := 74) dX7_isCheese_69 rfl (by decide) (fun _ => ?_) (fun _ => ?_)
    · refine r_iinc (q := 77) (v := (1 : Int32)) dX7_isCheese_74 rfl rfl (by decide) (Nat.le_of_ble_eq_true rfl) rfl ?_
      refine r_goto (q := 2) dX7_isCheese_77 (by decide) ?_
      exact r_le (hK2 _ _ _ _) (Nat.le_refl _) (And.intro rfl (And.intro rfl (And.intro rfl trivial)))
    · refine r_iconst (q := 73) (v := (0 : Int32)) dX7_isCheese_72 rfl (by decide) ?_
      exact r_ireturnN rfl dX7_isCheese_73
  · refine r_iload_n (q := 31) dX7_isCheese_30 rfl rfl rfl ?_
    refine r_iload_n (q := 32) dX7_isCheese_31 rfl rfl rfl ?_
    refine r_iload (q := 34) dX7_isCheese_32 rfl rfl ?_
    refine r_callI (q := 37) (c_X7_bit G h0 N _ _ _) (cl_S rfl rfl (lw_S q2331 q2332 q176 q2333) (hd_X7_bit) ⟨Nat.le_of_ble_eq_true rfl, Nat.le_of_ble_eq_true rfl⟩ rfl (Nat.le_of_ble_eq_true rfl) dX7_isCheese_34) rfl (fun x6 σ7 => ?_)
    refine r_if_eq (q := 40) (t := 50) dX7_isCheese_37 rfl (by decide) (fun _ => ?_) (fun _ => ?_)
    · refine r_iconst (q := 51) (v := (0 : Int32)) dX7_isCheese_50 rfl (by decide) ?_
      exact r_le (w_X7_isCheese_b51 G h0 N K2 K18 hK2 hK18 _ _ _ _ _ _ _) (Nat.le_refl _) (And.intro rfl (And.intro rfl (And.intro rfl (And.intro rfl trivial))))
    · refine r_aload_n (q := 41) dX7_isCheese_40 rfl rfl rfl ?_
      refine r_iload (q := 43) dX7_isCheese_41 rfl rfl ?_
      refine r_iload_n (q := 44) dX7_isCheese_43 rfl rfl rfl ?_
      refine r_ob (fun a10 ha10 => ?_)
      obtain ⟨hea10, hka10⟩ := o_at_eq ha10
      cases hea10
      refine r_callI (q := 47) (c_X7_ateOf G h0 N _ _ _ _) (cl_V (ci := 6) rfl rfl (lw_V q2509 q2511 qs135 q176 q2512) (hd_X7_ateOf) ⟨Nat.le_of_ble_eq_true rfl, Nat.le_of_ble_eq_true rfl⟩ (List.mem_singleton.mp hka10) rfl rfl rfl (Nat.le_of_ble_eq_true rfl) dX7_isCheese_44) rfl (fun x8 σ9 => ?_)
      refine r_goto (q := 51) dX7_isCheese_47 (by decide) ?_
      exact r_le (w_X7_isCheese_b51 G h0 N K2 K18 hK2 hK18 _ _ _ _ _ _ _) (Nat.le_refl _) (And.intro rfl (And.intro rfl (And.intro rfl (And.intro rfl trivial))))
theorem w_X7_isCheese_b18 (G : Gx) (h0 : G0 G) (N : Nat) (K2 : Nat → Int32 → Int32 → Mem → Option (Int32 × Mem)) (hK2 : ∀ (a0 : Nat) (l1 : Int32) (l2 : Int32) (σ : Mem), Runs G mX7_isCheese rhoI σ 2 [some (vR (some a0)), some (vI l1), some (vI l2), none, none] [] (K2 a0 l1 l2 σ)) : ∀ (z : Nat) (a0 : Nat) (l1 : Int32) (l2 : Int32) (l3 : Int32) (l4 : Int32) (σ : Mem), Runs G mX7_isCheese rhoI σ 18 [some (vR (some a0)), some (vI l1), some (vI l2), some (vI l3), some (vI l4)] [] (f_X7_isCheese_b18 N K2 z a0 l1 l2 l3 l4 σ) := by
  intro z
  induction z with
  | zero => exact fun _ _ _ _ _ _ => r_none
  | succ z ih => exact fun a0 l1 l2 l3 l4 σ => w_X7_isCheese_b18B G h0 N K2 hK2 _ ih a0 l1 l2 l3 l4 σ
theorem w_X7_isCheese_b2B (G : Gx) (h0 : G0 G) (N : Nat)   (K2 : Nat → Int32 → Int32 → Mem → Option (Int32 × Mem)) (hK2 : ∀ (a0 : Nat) (l1 : Int32) (l2 : Int32) (σ : Mem), Runs G mX7_isCheese rhoI σ 2 [some (vR (some a0)), some (vI l1), some (vI l2), none, none] [] (K2 a0 l1 l2 σ)) (a0 : Nat) (l1 : Int32) (l2 : Int32) (σ : Mem) : Runs G mX7_isCheese rhoI σ 2 [some (vR (some a0)), some (vI l1), some (vI l2), none, none] [] (f_X7_isCheese_b2B N  K2 a0 l1 l2 σ) := by
  unfold f_X7_isCheese_b2B
  refine r_iload_n (q := 3) dX7_isCheese_2 rfl rfl rfl ?_
  refine r_aload_n (q := 4) dX7_isCheese_3 rfl rfl rfl ?_
  refine r_gR (q := 7) fl_X7_442 rfl dX7_isCheese_4 rfl (fun x1 => ?_)
  refine r_gI (q := 10) fl_X7_229 dX7_isCheese_7 rfl (fun x2 => ?_)
  refine r_icmp_ge (q := 13) (t := 80) dX7_isCheese_10 rfl (by decide) (fun _ => ?_) (fun _ => ?_)
  · refine r_iconst (q := 81) (v := (1 : Int32)) dX7_isCheese_80 rfl (by decide) ?_
    exact r_ireturnN rfl dX7_isCheese_81
  · refine r_iconst (q := 14) (v := (0 : Int32)) dX7_isCheese_13 rfl (by decide) ?_
    refine r_istore_n (q := 15) dX7_isCheese_14 rfl rfl (Nat.le_of_ble_eq_true rfl) rfl ?_
    refine r_iconst (q := 16) (v := (0 : Int32)) dX7_isCheese_15 rfl (by decide) ?_
    refine r_istore (q := 18) dX7_isCheese_16 rfl (Nat.le_of_ble_eq_true rfl) rfl ?_
    exact r_le (w_X7_isCheese_b18 G h0 N K2 hK2 N _ _ _ _ _ _) (Nat.le_refl _) (And.intro rfl (And.intro rfl (And.intro rfl (And.intro rfl (And.intro rfl trivial)))))
theorem w_X7_isCheese_b2 (G : Gx) (h0 : G0 G) (N : Nat)   : ∀ (z : Nat) (a0 : Nat) (l1 : Int32) (l2 : Int32) (σ : Mem), Runs G mX7_isCheese rhoI σ 2 [some (vR (some a0)), some (vI l1), some (vI l2), none, none] [] (f_X7_isCheese_b2 N  z a0 l1 l2 σ) := by
  intro z
  induction z with
  | zero => exact fun _ _ _ _ => r_none
  | succ z ih => exact fun a0 l1 l2 σ => w_X7_isCheese_b2B G h0 N   _ ih a0 l1 l2 σ
theorem c_X7_isCheese (G : Gx) (h0 : G0 G) (N : Nat) (a0 : Nat) (i1 : Int32) (σ : Mem) : Ct G mX7_isCheese rhoI [vR (some a0), vI i1] σ (f_X7_isCheese N a0 i1 σ) := by
  refine Ct_of h0 (by decide) rfl (Nat.le_of_ble_eq_true rfl) (L0 := [some (vR (some a0)), some (vI i1), none, none, none]) rfl ?_
  unfold f_X7_isCheese
  refine r_iconst (q := 1) (v := (0 : Int32)) dX7_isCheese_0 rfl (by decide) ?_
  refine r_istore_n (q := 2) dX7_isCheese_1 rfl rfl (Nat.le_of_ble_eq_true rfl) rfl ?_
  exact r_le (w_X7_isCheese_b2 G h0 N N _ _ _ _) (Nat.le_refl _) (And.intro rfl (And.intro rfl (And.intro rfl trivial)))
theorem w_X7_cheese_b55 (G : Gx) (h0 : G0 G) (N : Nat) (K31 : Nat → Int32 → Int32 → Mem → Option (Int32 × Mem)) (hK31 : ∀ (a0 : Nat) (l3 : Int32) (l4 : Int32) (σ : Mem), Runs G mX7_cheese rhoI σ 31 [some (vR (some a0)), none, none, some (vI l3), some (vI l4)] [] (K31 a0 l3 l4 σ)) (a0 : Nat) (l4 : Int32) (t0 : Int32) (t1 : Int32) (σ : Mem) : Runs G mX7_cheese rhoI σ 55 [some (vR (some a0)), none, none, none, some (vI l4)] [vI t1, vI t0] (f_X7_cheese_b55 N K31 a0 l4 t0 t1 σ) := by
  unfold f_X7_cheese_b55
  refine r_iadd (q := 56) dX7_cheese_55 rfl ?_
  refine r_istore_n (q := 57) dX7_cheese_56 rfl rfl (Nat.le_of_ble_eq_true rfl) rfl ?_
  refine r_iinc (q := 60) (v := (1 : Int32)) dX7_cheese_57 rfl rfl (by decide) (Nat.le_of_ble_eq_true rfl) rfl ?_
  refine r_goto (q := 31) dX7_cheese_60 (by decide) ?_
  exact r_le (hK31 _ _ _ _) (Nat.le_refl _) (And.intro rfl (And.intro rfl (And.intro rfl trivial)))
theorem w_X7_cheese_b31B (G : Gx) (h0 : G0 G) (N : Nat)   (K31 : Nat → Int32 → Int32 → Mem → Option (Int32 × Mem)) (hK31 : ∀ (a0 : Nat) (l3 : Int32) (l4 : Int32) (σ : Mem), Runs G mX7_cheese rhoI σ 31 [some (vR (some a0)), none, none, some (vI l3), some (vI l4)] [] (K31 a0 l3 l4 σ)) (a0 : Nat) (l3 : Int32) (l4 : Int32) (σ : Mem) : Runs G mX7_cheese rhoI σ 31 [some (vR (some a0)), none, none, some (vI l3), some (vI l4)] [] (f_X7_cheese_b31B N  K31 a0 l3 l4 σ) := by
  unfold f_X7_cheese_b31B
  refine r_iload (q := 33) dX7_cheese_31 rfl rfl ?_
  refine r_aload_n (q := 34) dX7_cheese_33 rfl rfl rfl ?_
  refine r_ob (fun a3 ha3 => ?_)
  obtain ⟨hea3, hka3⟩ := o_at_eq ha3
  cases hea3
  refine r_callI (q := 37) (c_X7_allGoats G h0 N _ _) (cl_V (ci := 6) rfl rfl (lw_V q2553 q2555 qs140 q176 q2556) (hd_X7_allGoats) ⟨Nat.le_of_ble_eq_true rfl, Nat.le_of_ble_eq_true rfl⟩ (List.mem_singleton.mp hka3) rfl rfl rfl (Nat.le_of_ble_eq_true rfl) dX7_cheese_34) rfl (fun x1 σ2 => ?_)
  refine r_icmp_gt (q := 40) (t := 63) dX7_cheese_37 rfl (by decide) (fun _ => ?_) (fun _ => ?_)
  · refine r_aload_n (q := 64) dX7_cheese_63 rfl rfl rfl ?_
    refine r_iload_n (q := 65) dX7_cheese_64 rfl rfl rfl ?_
    refine r_ob (fun a6 ha6 => ?_)
    obtain ⟨hea6, hka6⟩ := o_at_eq ha6
    cases hea6
    refine r_callI (q := 68) (c_X7_good G h0 N _ _ _) (cl_V (ci := 6) rfl rfl (lw_V q2379 q2381 qs118 q176 q2382) (hd_X7_good) ⟨Nat.le_of_ble_eq_true rfl, Nat.le_of_ble_eq_true rfl⟩ (List.mem_singleton.mp hka6) rfl rfl rfl (Nat.le_of_ble_eq_true rfl) dX7_cheese_65) rfl (fun x4 σ5 => ?_)
    exact r_ireturn rfl rfl dX7_cheese_68
  · refine r_iload_n (q := 41) dX7_cheese_40 rfl rfl rfl ?_
    refine r_aload_n (q := 42) dX7_cheese_41 rfl rfl rfl ?_
    refine r_iload (q := 44) dX7_cheese_42 rfl rfl ?_
    refine r_ob (fun a9 ha9 => ?_)
    obtain ⟨hea9, hka9⟩ := o_at_eq ha9
    cases hea9
    refine r_callI (q := 47) (c_X7_isCheese G h0 N _ _ _) (cl_V (ci := 6) rfl rfl (lw_V q2689 q2691 qs156 q176 q2692) (hd_X7_isCheese) ⟨Nat.le_of_ble_eq_true rfl, Nat.le_of_ble_eq_true rfl⟩ (List.mem_singleton.mp hka9) rfl rfl rfl (Nat.le_of_ble_eq_true rfl) dX7_cheese_44) rfl (fun x7 σ8 => ?_)
    refine r_if_eq (q := 50) (t := 54) dX7_cheese_47 rfl (by decide) (fun _ => ?_) (fun _ => ?_)
    · refine r_iconst (q := 55) (v := (0 : Int32)) dX7_cheese_54 rfl (by decide) ?_
      exact r_le (w_X7_cheese_b55 G h0 N K31 hK31 _ _ _ _ _) (Nat.le_refl _) (And.intro rfl (And.intro rfl trivial))
    · refine r_iconst (q := 51) (v := (1 : Int32)) dX7_cheese_50 rfl (by decide) ?_
      refine r_goto (q := 55) dX7_cheese_51 (by decide) ?_
      exact r_le (w_X7_cheese_b55 G h0 N K31 hK31 _ _ _ _ _) (Nat.le_refl _) (And.intro rfl (And.intro rfl trivial))
theorem w_X7_cheese_b31 (G : Gx) (h0 : G0 G) (N : Nat)   : ∀ (z : Nat) (a0 : Nat) (l3 : Int32) (l4 : Int32) (σ : Mem), Runs G mX7_cheese rhoI σ 31 [some (vR (some a0)), none, none, some (vI l3), some (vI l4)] [] (f_X7_cheese_b31 N  z a0 l3 l4 σ) := by
  intro z
  induction z with
  | zero => exact fun _ _ _ _ => r_none
  | succ z ih => exact fun a0 l3 l4 σ => w_X7_cheese_b31B G h0 N   _ ih a0 l3 l4 σ
theorem c_X7_cheese (G : Gx) (h0 : G0 G) (N : Nat) (a0 : Nat) (i1 : Int32) (σ : Mem) : Ct G mX7_cheese rhoI [vR (some a0), vI i1] σ (f_X7_cheese N a0 i1 σ) := by
  refine Ct_of h0 (by decide) rfl (Nat.le_of_ble_eq_true rfl) (L0 := [some (vR (some a0)), some (vI i1), none, none, none]) rfl ?_
  unfold f_X7_cheese
  refine r_aload_n (q := 1) dX7_cheese_0 rfl rfl rfl ?_
  refine r_iconst (q := 2) (v := (0 : Int32)) dX7_cheese_1 rfl (by decide) ?_
  refine r_pI (q := 5) fp_X7_cheese_66 dX7_cheese_2 rfl (fun σ1 => ?_)
  refine r_aload_n (q := 6) dX7_cheese_5 rfl rfl rfl ?_
  refine r_iload_n (q := 7) dX7_cheese_6 rfl rfl rfl ?_
  refine r_ob (fun a4 ha4 => ?_)
  obtain ⟨hea4, hka4⟩ := o_at_eq ha4
  cases hea4
  refine r_callI (q := 10) (c_X7_refusesCheese G h0 N _ _ _) (cl_V (ci := 6) rfl rfl (lw_V q2685 q2687 qs155 q176 q2688) (hd_X7_refusesCheese) ⟨Nat.le_of_ble_eq_true rfl, Nat.le_of_ble_eq_true rfl⟩ (List.mem_singleton.mp hka4) rfl rfl rfl (Nat.le_of_ble_eq_true rfl) dX7_cheese_7) rfl (fun x2 σ3 => ?_)
  refine r_istore_n (q := 11) dX7_cheese_10 rfl rfl (Nat.le_of_ble_eq_true rfl) rfl ?_
  refine r_iload_n (q := 12) dX7_cheese_11 rfl rfl rfl ?_
  refine r_if_le (q := 15) (t := 21) dX7_cheese_12 rfl (by decide) (fun _ => ?_) (fun _ => ?_)
  · refine r_aload_n (q := 22) dX7_cheese_21 rfl rfl rfl ?_
    refine r_iload_n (q := 23) dX7_cheese_22 rfl rfl rfl ?_
    refine r_ob (fun a7 ha7 => ?_)
    obtain ⟨hea7, hka7⟩ := o_at_eq ha7
    cases hea7
    refine r_callV (q := 26) (c_X7_day G h0 N _ _ _) (cl_V (ci := 6) rfl rfl (lw_V q2467 q2469 qs127 q176 q2470) (hd_X7_day) ⟨Nat.le_of_ble_eq_true rfl, Nat.le_of_ble_eq_true rfl⟩ (List.mem_singleton.mp hka7) rfl rfl rfl (Nat.le_of_ble_eq_true rfl) dX7_cheese_23) rfl (fun u5 σ6 => ?_)
    refine r_iconst (q := 27) (v := (0 : Int32)) dX7_cheese_26 rfl (by decide) ?_
    refine r_istore_n (q := 28) dX7_cheese_27 rfl rfl (Nat.le_of_ble_eq_true rfl) rfl ?_
    refine r_iconst (q := 29) (v := (0 : Int32)) dX7_cheese_28 rfl (by decide) ?_
    refine r_istore (q := 31) dX7_cheese_29 rfl (Nat.le_of_ble_eq_true rfl) rfl ?_
    exact r_le (w_X7_cheese_b31 G h0 N N _ _ _ _) (Nat.le_refl _) (And.intro rfl (And.intro rfl (And.intro rfl trivial)))
  · refine r_aload_n (q := 16) dX7_cheese_15 rfl rfl rfl ?_
    refine r_iload_n (q := 17) dX7_cheese_16 rfl rfl rfl ?_
    refine r_ob (fun a10 ha10 => ?_)
    obtain ⟨hea10, hka10⟩ := o_at_eq ha10
    cases hea10
    refine r_callI (q := 20) (c_X7_refused G h0 N _ _ _) (cl_V (ci := 6) rfl rfl (lw_V q2019 q2021 qs83 q176 q2022) (hd_X7_refused) ⟨Nat.le_of_ble_eq_true rfl, Nat.le_of_ble_eq_true rfl⟩ (List.mem_singleton.mp hka10) rfl rfl rfl (Nat.le_of_ble_eq_true rfl) dX7_cheese_17) rfl (fun x8 σ9 => ?_)
    exact r_ireturn rfl rfl dX7_cheese_20
theorem w_X1_cheeseOf_b27B (G : Gx) (h0 : G0 G) (N : Nat)   (K27 : Nat → Int32 → Mem → Option (Int32 × Mem)) (hK27 : ∀ (a0 : Nat) (l3 : Int32) (σ : Mem), Runs G mX1_cheeseOf rhoI σ 27 [some (vR (some a0)), none, none, some (vI l3)] [] (K27 a0 l3 σ)) (a0 : Nat) (l3 : Int32) (σ : Mem) : Runs G mX1_cheeseOf rhoI σ 27 [some (vR (some a0)), none, none, some (vI l3)] [] (f_X1_cheeseOf_b27B N  K27 a0 l3 σ) := by
  unfold f_X1_cheeseOf_b27B
  refine r_iload_n (q := 28) dX1_cheeseOf_27 rfl rfl rfl ?_
  refine r_iconst (q := 29) (v := (1 : Int32)) dX1_cheeseOf_28 rfl (by decide) ?_
  refine r_aload_n (q := 30) dX1_cheeseOf_29 rfl rfl rfl ?_
  refine r_gR (q := 33) fl_X1_104 rfl dX1_cheeseOf_30 rfl (fun x1 => ?_)
  refine r_gI (q := 36) fl_X1_139 dX1_cheeseOf_33 rfl (fun x2 => ?_)
  refine r_ishl (q := 37) dX1_cheeseOf_36 rfl ?_
  refine r_icmp_ge (q := 40) (t := 56) dX1_cheeseOf_37 rfl (by decide) (fun _ => ?_) (fun _ => ?_)
  · refine r_bipush (q := 58) (v := (-2 : Int32)) dX1_cheeseOf_56 rfl (by decide) ?_
    exact r_ireturn rfl rfl dX1_cheeseOf_58
  · refine r_aload_n (q := 41) dX1_cheeseOf_40 rfl rfl rfl ?_
    refine r_iload_n (q := 42) dX1_cheeseOf_41 rfl rfl rfl ?_
    refine r_ob (fun a5 ha5 => ?_)
    obtain ⟨hea5, hka5⟩ := o_at_eq ha5
    cases hea5
    refine r_callI (q := 45) (c_X1_isCheese G h0 N _ _ _) (cl_V (ci := 0) rfl rfl (lw_V q1756 q1758 qs77 q167 q1759) (hd_X1_isCheese) ⟨Nat.le_of_ble_eq_true rfl, Nat.le_of_ble_eq_true rfl⟩ (List.mem_singleton.mp hka5) rfl rfl rfl (Nat.le_of_ble_eq_true rfl) dX1_cheeseOf_42) rfl (fun x3 σ4 => ?_)
    refine r_if_eq (q := 48) (t := 50) dX1_cheeseOf_45 rfl (by decide) (fun _ => ?_) (fun _ => ?_)
    · refine r_iinc (q := 53) (v := (1 : Int32)) dX1_cheeseOf_50 rfl rfl (by decide) (Nat.le_of_ble_eq_true rfl) rfl ?_
      refine r_goto (q := 27) dX1_cheeseOf_53 (by decide) ?_
      exact r_le (hK27 _ _ _) (Nat.le_refl _) (And.intro rfl (And.intro rfl trivial))
    · refine r_iload_n (q := 49) dX1_cheeseOf_48 rfl rfl rfl ?_
      exact r_ireturn rfl rfl dX1_cheeseOf_49
theorem w_X1_cheeseOf_b27 (G : Gx) (h0 : G0 G) (N : Nat)   : ∀ (z : Nat) (a0 : Nat) (l3 : Int32) (σ : Mem), Runs G mX1_cheeseOf rhoI σ 27 [some (vR (some a0)), none, none, some (vI l3)] [] (f_X1_cheeseOf_b27 N  z a0 l3 σ) := by
  intro z
  induction z with
  | zero => exact fun _ _ _ => r_none
  | succ z ih => exact fun a0 l3 σ => w_X1_cheeseOf_b27B G h0 N   _ ih a0 l3 σ
theorem c_X1_cheeseOf (G : Gx) (h0 : G0 G) (N : Nat) (a0 : Nat) (i1 : Int32) (σ : Mem) : Ct G mX1_cheeseOf rhoI [vR (some a0), vI i1] σ (f_X1_cheeseOf N a0 i1 σ) := by
  refine Ct_of h0 (by decide) rfl (Nat.le_of_ble_eq_true rfl) (L0 := [some (vR (some a0)), some (vI i1), none, none]) rfl ?_
  unfold f_X1_cheeseOf
  refine r_aload_n (q := 1) dX1_cheeseOf_0 rfl rfl rfl ?_
  refine r_ob (fun a3 ha3 => ?_)
  obtain ⟨hea3, hka3⟩ := o_at_eq ha3
  cases hea3
  refine r_callV (q := 4) (c_X1_anew G h0 N _ _) (cl_V (ci := 0) rfl rfl (lw_V q485 q487 qs2 q167 q488) (hd_X1_anew) ⟨Nat.le_of_ble_eq_true rfl, Nat.le_of_ble_eq_true rfl⟩ (List.mem_singleton.mp hka3) rfl rfl rfl (Nat.le_of_ble_eq_true rfl) dX1_cheeseOf_1) rfl (fun u1 σ2 => ?_)
  refine r_aload_n (q := 5) dX1_cheeseOf_4 rfl rfl rfl ?_
  refine r_iload_n (q := 6) dX1_cheeseOf_5 rfl rfl rfl ?_
  refine r_ob (fun a6 ha6 => ?_)
  obtain ⟨hea6, hka6⟩ := o_at_eq ha6
  cases hea6
  refine r_callI (q := 9) (c_X1_cheeseWhy G h0 N _ _ _) (cl_V (ci := 0) rfl rfl (lw_V q1752 q1754 qs76 q167 q1755) (hd_X1_cheeseWhy) ⟨Nat.le_of_ble_eq_true rfl, Nat.le_of_ble_eq_true rfl⟩ (List.mem_singleton.mp hka6) rfl rfl rfl (Nat.le_of_ble_eq_true rfl) dX1_cheeseOf_6) rfl (fun x4 σ5 => ?_)
  refine r_istore_n (q := 10) dX1_cheeseOf_9 rfl rfl (Nat.le_of_ble_eq_true rfl) rfl ?_
  refine r_iload_n (q := 11) dX1_cheeseOf_10 rfl rfl rfl ?_
  refine r_if_eq (q := 14) (t := 20) dX1_cheeseOf_11 rfl (by decide) (fun _ => ?_) (fun _ => ?_)
  · refine r_aload_n (q := 21) dX1_cheeseOf_20 rfl rfl rfl ?_
    refine r_iload_n (q := 22) dX1_cheeseOf_21 rfl rfl rfl ?_
    refine r_ob (fun a9 ha9 => ?_)
    obtain ⟨hea9, hka9⟩ := o_at_eq ha9
    cases hea9
    refine r_callV (q := 25) (c_X1_run G h0 N _ _ _) (cl_V (ci := 0) rfl rfl (lw_V q1428 q1430 qs51 q167 q1431) (hd_X1_run) ⟨Nat.le_of_ble_eq_true rfl, Nat.le_of_ble_eq_true rfl⟩ (List.mem_singleton.mp hka9) rfl rfl rfl (Nat.le_of_ble_eq_true rfl) dX1_cheeseOf_22) rfl (fun u7 σ8 => ?_)
    refine r_iconst (q := 26) (v := (0 : Int32)) dX1_cheeseOf_25 rfl (by decide) ?_
    refine r_istore_n (q := 27) dX1_cheeseOf_26 rfl rfl (Nat.le_of_ble_eq_true rfl) rfl ?_
    exact r_le (w_X1_cheeseOf_b27 G h0 N N _ _ _) (Nat.le_refl _) (And.intro rfl (And.intro rfl trivial))
  · refine r_aload_n (q := 15) dX1_cheeseOf_14 rfl rfl rfl ?_
    refine r_iload_n (q := 16) dX1_cheeseOf_15 rfl rfl rfl ?_
    refine r_ob (fun a12 ha12 => ?_)
    obtain ⟨hea12, hka12⟩ := o_at_eq ha12
    cases hea12
    refine r_callI (q := 19) (c_X1_no G h0 N _ _ _) (cl_V (ci := 0) rfl rfl (lw_V q492 q494 qs3 q167 q495) (hd_X1_no) ⟨Nat.le_of_ble_eq_true rfl, Nat.le_of_ble_eq_true rfl⟩ (List.mem_singleton.mp hka12) rfl rfl rfl (Nat.le_of_ble_eq_true rfl) dX1_cheeseOf_16) rfl (fun x10 σ11 => ?_)
    exact r_ireturn rfl rfl dX1_cheeseOf_19
theorem w_X7_cheeseOf_b28B (G : Gx) (h0 : G0 G) (N : Nat)   (K28 : Nat → Int32 → Mem → Option (Int32 × Mem)) (hK28 : ∀ (a0 : Nat) (l3 : Int32) (σ : Mem), Runs G mX7_cheeseOf rhoI σ 28 [some (vR (some a0)), none, none, some (vI l3)] [] (K28 a0 l3 σ)) (a0 : Nat) (l3 : Int32) (σ : Mem) : Runs G mX7_cheeseOf rhoI σ 28 [some (vR (some a0)), none, none, some (vI l3)] [] (f_X7_cheeseOf_b28B N  K28 a0 l3 σ) := by
  unfold f_X7_cheeseOf_b28B
  refine r_iload_n (q := 29) dX7_cheeseOf_28 rfl rfl rfl ?_
  refine r_aload_n (q := 30) dX7_cheeseOf_29 rfl rfl rfl ?_
  refine r_ob (fun a3 ha3 => ?_)
  obtain ⟨hea3, hka3⟩ := o_at_eq ha3
  cases hea3
  refine r_callI (q := 33) (c_X7_allGoats G h0 N _ _) (cl_V (ci := 6) rfl rfl (lw_V q2553 q2555 qs140 q176 q2556) (hd_X7_allGoats) ⟨Nat.le_of_ble_eq_true rfl, Nat.le_of_ble_eq_true rfl⟩ (List.mem_singleton.mp hka3) rfl rfl rfl (Nat.le_of_ble_eq_true rfl) dX7_cheeseOf_30) rfl (fun x1 σ2 => ?_)
  refine r_icmp_gt (q := 36) (t := 56) dX7_cheeseOf_33 rfl (by decide) (fun _ => ?_) (fun _ => ?_)
  · refine r_aload_n (q := 57) dX7_cheeseOf_56 rfl rfl rfl ?_
    refine r_bipush (q := 59) (v := (-2 : Int32)) dX7_cheeseOf_57 rfl (by decide) ?_
    refine r_ob (fun a6 ha6 => ?_)
    obtain ⟨hea6, hka6⟩ := o_at_eq ha6
    cases hea6
    refine r_callI (q := 62) (c_X7_good G h0 N _ _ _) (cl_V (ci := 6) rfl rfl (lw_V q2379 q2381 qs118 q176 q2382) (hd_X7_good) ⟨Nat.le_of_ble_eq_true rfl, Nat.le_of_ble_eq_true rfl⟩ (List.mem_singleton.mp hka6) rfl rfl rfl (Nat.le_of_ble_eq_true rfl) dX7_cheeseOf_59) rfl (fun x4 σ5 => ?_)
    exact r_ireturn rfl rfl dX7_cheeseOf_62
  · refine r_aload_n (q := 37) dX7_cheeseOf_36 rfl rfl rfl ?_
    refine r_iload_n (q := 38) dX7_cheeseOf_37 rfl rfl rfl ?_
    refine r_ob (fun a9 ha9 => ?_)
    obtain ⟨hea9, hka9⟩ := o_at_eq ha9
    cases hea9
    refine r_callI (q := 41) (c_X7_isCheese G h0 N _ _ _) (cl_V (ci := 6) rfl rfl (lw_V q2689 q2691 qs156 q176 q2692) (hd_X7_isCheese) ⟨Nat.le_of_ble_eq_true rfl, Nat.le_of_ble_eq_true rfl⟩ (List.mem_singleton.mp hka9) rfl rfl rfl (Nat.le_of_ble_eq_true rfl) dX7_cheeseOf_38) rfl (fun x7 σ8 => ?_)
    refine r_if_eq (q := 44) (t := 50) dX7_cheeseOf_41 rfl (by decide) (fun _ => ?_) (fun _ => ?_)
    · refine r_iinc (q := 53) (v := (1 : Int32)) dX7_cheeseOf_50 rfl rfl (by decide) (Nat.le_of_ble_eq_true rfl) rfl ?_
      refine r_goto (q := 28) dX7_cheeseOf_53 (by decide) ?_
      exact r_le (hK28 _ _ _) (Nat.le_refl _) (And.intro rfl (And.intro rfl trivial))
    · refine r_aload_n (q := 45) dX7_cheeseOf_44 rfl rfl rfl ?_
      refine r_iload_n (q := 46) dX7_cheeseOf_45 rfl rfl rfl ?_
      refine r_ob (fun a12 ha12 => ?_)
      obtain ⟨hea12, hka12⟩ := o_at_eq ha12
      cases hea12
      refine r_callI (q := 49) (c_X7_good G h0 N _ _ _) (cl_V (ci := 6) rfl rfl (lw_V q2379 q2381 qs118 q176 q2382) (hd_X7_good) ⟨Nat.le_of_ble_eq_true rfl, Nat.le_of_ble_eq_true rfl⟩ (List.mem_singleton.mp hka12) rfl rfl rfl (Nat.le_of_ble_eq_true rfl) dX7_cheeseOf_46) rfl (fun x10 σ11 => ?_)
      exact r_ireturn rfl rfl dX7_cheeseOf_49
theorem w_X7_cheeseOf_b28 (G : Gx) (h0 : G0 G) (N : Nat)   : ∀ (z : Nat) (a0 : Nat) (l3 : Int32) (σ : Mem), Runs G mX7_cheeseOf rhoI σ 28 [some (vR (some a0)), none, none, some (vI l3)] [] (f_X7_cheeseOf_b28 N  z a0 l3 σ) := by
  intro z
  induction z with
  | zero => exact fun _ _ _ => r_none
  | succ z ih => exact fun a0 l3 σ => w_X7_cheeseOf_b28B G h0 N   _ ih a0 l3 σ
theorem c_X7_cheeseOf (G : Gx) (h0 : G0 G) (N : Nat) (a0 : Nat) (i1 : Int32) (σ : Mem) : Ct G mX7_cheeseOf rhoI [vR (some a0), vI i1] σ (f_X7_cheeseOf N a0 i1 σ) := by
  refine Ct_of h0 (by decide) rfl (Nat.le_of_ble_eq_true rfl) (L0 := [some (vR (some a0)), some (vI i1), none, none]) rfl ?_
  unfold f_X7_cheeseOf
  refine r_aload_n (q := 1) dX7_cheeseOf_0 rfl rfl rfl ?_
  refine r_iconst (q := 2) (v := (0 : Int32)) dX7_cheeseOf_1 rfl (by decide) ?_
  refine r_pI (q := 5) fp_X7_cheeseOf_66 dX7_cheeseOf_2 rfl (fun σ1 => ?_)
  refine r_aload_n (q := 6) dX7_cheeseOf_5 rfl rfl rfl ?_
  refine r_iload_n (q := 7) dX7_cheeseOf_6 rfl rfl rfl ?_
  refine r_ob (fun a4 ha4 => ?_)
  obtain ⟨hea4, hka4⟩ := o_at_eq ha4
  cases hea4
  refine r_callI (q := 10) (c_X7_refusesCheese G h0 N _ _ _) (cl_V (ci := 6) rfl rfl (lw_V q2685 q2687 qs155 q176 q2688) (hd_X7_refusesCheese) ⟨Nat.le_of_ble_eq_true rfl, Nat.le_of_ble_eq_true rfl⟩ (List.mem_singleton.mp hka4) rfl rfl rfl (Nat.le_of_ble_eq_true rfl) dX7_cheeseOf_7) rfl (fun x2 σ3 => ?_)
  refine r_istore_n (q := 11) dX7_cheeseOf_10 rfl rfl (Nat.le_of_ble_eq_true rfl) rfl ?_
  refine r_iload_n (q := 12) dX7_cheeseOf_11 rfl rfl rfl ?_
  refine r_if_le (q := 15) (t := 21) dX7_cheeseOf_12 rfl (by decide) (fun _ => ?_) (fun _ => ?_)
  · refine r_aload_n (q := 22) dX7_cheeseOf_21 rfl rfl rfl ?_
    refine r_iload_n (q := 23) dX7_cheeseOf_22 rfl rfl rfl ?_
    refine r_ob (fun a7 ha7 => ?_)
    obtain ⟨hea7, hka7⟩ := o_at_eq ha7
    cases hea7
    refine r_callV (q := 26) (c_X7_day G h0 N _ _ _) (cl_V (ci := 6) rfl rfl (lw_V q2467 q2469 qs127 q176 q2470) (hd_X7_day) ⟨Nat.le_of_ble_eq_true rfl, Nat.le_of_ble_eq_true rfl⟩ (List.mem_singleton.mp hka7) rfl rfl rfl (Nat.le_of_ble_eq_true rfl) dX7_cheeseOf_23) rfl (fun u5 σ6 => ?_)
    refine r_iconst (q := 27) (v := (0 : Int32)) dX7_cheeseOf_26 rfl (by decide) ?_
    refine r_istore_n (q := 28) dX7_cheeseOf_27 rfl rfl (Nat.le_of_ble_eq_true rfl) rfl ?_
    exact r_le (w_X7_cheeseOf_b28 G h0 N N _ _ _) (Nat.le_refl _) (And.intro rfl (And.intro rfl trivial))
  · refine r_aload_n (q := 16) dX7_cheeseOf_15 rfl rfl rfl ?_
    refine r_iload_n (q := 17) dX7_cheeseOf_16 rfl rfl rfl ?_
    refine r_ob (fun a10 ha10 => ?_)
    obtain ⟨hea10, hka10⟩ := o_at_eq ha10
    cases hea10
    refine r_callI (q := 20) (c_X7_refused G h0 N _ _ _) (cl_V (ci := 6) rfl rfl (lw_V q2019 q2021 qs83 q176 q2022) (hd_X7_refused) ⟨Nat.le_of_ble_eq_true rfl, Nat.le_of_ble_eq_true rfl⟩ (List.mem_singleton.mp hka10) rfl rfl rfl (Nat.le_of_ble_eq_true rfl) dX7_cheeseOf_17) rfl (fun x8 σ9 => ?_)
    exact r_ireturn rfl rfl dX7_cheeseOf_20
theorem w_X6_tries_b163 (G : Gx) (h0 : G0 G) (N : Nat) (n : Nat) (KT : Nat → Int32 → Int32 → Int64 → Int64 → Mem → Option (Unit × Mem)) (hKT : ∀ (a0 : Nat) (i1 : Int32) (i2 : Int32) (j3 : Int64) (j5 : Int64) (σ : Mem), Ct G (mX6_tries n) rhoV [vR (some a0), vI i1, vI i2, vL j3, vL j5] σ (KT a0 i1 i2 j3 j5 σ)) (K44 : Nat → Int32 → Int32 → Int64 → Int64 → Int32 → Mem → Option (Unit × Mem)) (hK44 : ∀ (a0 : Nat) (l1 : Int32) (l2 : Int32) (l3 : Int64) (l5 : Int64) (l7 : Int32) (σ : Mem), Runs G (mX6_tries (n + 1)) rhoV σ 44 [some (vR (some a0)), some (vI l1), some (vI l2), some (vL l3), none, some (vL l5), none, some (vI l7), none, none, none] [] (K44 a0 l1 l2 l3 l5 l7 σ)) (a0 : Nat) (l1 : Int32) (l2 : Int32) (l3 : Int64) (l5 : Int64) (l7 : Int32) (σ : Mem) : Runs G (mX6_tries (n + 1)) rhoV σ 163 [some (vR (some a0)), some (vI l1), some (vI l2), some (vL l3), none, some (vL l5), none, some (vI l7), none, none, none] [] (f_X6_tries_b163 N KT K44 a0 l1 l2 l3 l5 l7 σ) := by
  unfold f_X6_tries_b163
  refine r_iinc (q := 166) (v := (1 : Int32)) dX6_tries_163 rfl rfl (by decide) (Nat.le_of_ble_eq_true rfl) rfl ?_
  refine r_goto (q := 44) dX6_tries_166 (by decide) ?_
  exact r_le (hK44 _ _ _ _ _ _ _) (Nat.le_refl _) (And.intro rfl (And.intro rfl (And.intro rfl (And.intro rfl (And.intro rfl (And.intro rfl trivial))))))
theorem w_X6_tries_b82B (G : Gx) (h0 : G0 G) (N : Nat) (n : Nat) (KT : Nat → Int32 → Int32 → Int64 → Int64 → Mem → Option (Unit × Mem)) (hKT : ∀ (a0 : Nat) (i1 : Int32) (i2 : Int32) (j3 : Int64) (j5 : Int64) (σ : Mem), Ct G (mX6_tries n) rhoV [vR (some a0), vI i1, vI i2, vL j3, vL j5] σ (KT a0 i1 i2 j3 j5 σ)) (K44 : Nat → Int32 → Int32 → Int64 → Int64 → Int32 → Mem → Option (Unit × Mem)) (hK44 : ∀ (a0 : Nat) (l1 : Int32) (l2 : Int32) (l3 : Int64) (l5 : Int64) (l7 : Int32) (σ : Mem), Runs G (mX6_tries (n + 1)) rhoV σ 44 [some (vR (some a0)), some (vI l1), some (vI l2), some (vL l3), none, some (vL l5), none, some (vI l7), none, none, none] [] (K44 a0 l1 l2 l3 l5 l7 σ)) (K82 : Nat → Int32 → Int32 → Int64 → Int64 → Int32 → Int64 → Int32 → Mem → Option (Unit × Mem)) (hK82 : ∀ (a0 : Nat) (l1 : Int32) (l2 : Int32) (l3 : Int64) (l5 : Int64) (l7 : Int32) (l8 : Int64) (l10 : Int32) (σ : Mem), Runs G (mX6_tries (n + 1)) rhoV σ 82 [some (vR (some a0)), some (vI l1), some (vI l2), some (vL l3), none, some (vL l5), none, some (vI l7), some (vL l8), none, some (vI l10)] [] (K82 a0 l1 l2 l3 l5 l7 l8 l10 σ)) (a0 : Nat) (l1 : Int32) (l2 : Int32) (l3 : Int64) (l5 : Int64) (l7 : Int32) (l8 : Int64) (l10 : Int32) (σ : Mem) : Runs G (mX6_tries (n + 1)) rhoV σ 82 [some (vR (some a0)), some (vI l1), some (vI l2), some (vL l3), none, some (vL l5), none, some (vI l7), some (vL l8), none, some (vI l10)] [] (f_X6_tries_b82B N KT K44 K82 a0 l1 l2 l3 l5 l7 l8 l10 σ) := by
  unfold f_X6_tries_b82B
  refine r_iload (q := 84) dX6_tries_82 rfl rfl ?_
  refine r_aload_n (q := 85) dX6_tries_84 rfl rfl rfl ?_
  refine r_gR (q := 88) fl_X6_18 rfl dX6_tries_85 rfl (fun x1 => ?_)
  refine r_gI (q := 91) fl_X6_34 dX6_tries_88 rfl (fun x2 => ?_)
  refine r_icmp_ge (q := 94) (t := 108) dX6_tries_91 rfl (by decide) (fun _ => ?_) (fun _ => ?_)
  · refine r_aload_n (q := 109) dX6_tries_108 rfl rfl rfl ?_
    refine r_iload_n (q := 110) dX6_tries_109 rfl rfl rfl ?_
    refine r_iconst (q := 111) (v := (1 : Int32)) dX6_tries_110 rfl (by decide) ?_
    refine r_iadd (q := 112) dX6_tries_111 rfl ?_
    refine r_iload_n (q := 113) dX6_tries_112 rfl rfl rfl ?_
    refine r_iconst (q := 114) (v := (1 : Int32)) dX6_tries_113 rfl (by decide) ?_
    refine r_iload (q := 116) dX6_tries_114 rfl rfl ?_
    refine r_ishl (q := 117) dX6_tries_116 rfl ?_
    refine r_ior (q := 118) dX6_tries_117 rfl ?_
    refine r_lload_n (q := 119) dX6_tries_118 rfl rfl rfl ?_
    refine r_aload_n (q := 120) dX6_tries_119 rfl rfl rfl ?_
    refine r_gR (q := 123) fl_X6_18 rfl dX6_tries_120 rfl (fun x3 => ?_)
    refine r_gR (q := 126) fl_X6_52 rfl dX6_tries_123 rfl (fun x4 => ?_)
    refine r_iload (q := 128) dX6_tries_126 rfl rfl ?_
    refine r_aaload (q := 129) (k0 := 12) (by decide) dX6_tries_128 rfl (fun x5 => ?_)
    refine r_gI (q := 132) fl_X6_56 dX6_tries_129 rfl (fun x6 => ?_)
    refine r_i2l (q := 133) dX6_tries_132 rfl ?_
    refine r_lload (q := 135) dX6_tries_133 rfl rfl ?_
    refine r_lmul (q := 136) dX6_tries_135 rfl ?_
    refine r_lload (q := 138) dX6_tries_136 rfl rfl ?_
    refine r_lmul (q := 139) dX6_tries_138 rfl ?_
    refine r_ladd (q := 140) dX6_tries_139 rfl ?_
    refine r_lload (q := 142) dX6_tries_140 rfl rfl ?_
    refine r_bipush (q := 144) (v := (10 : Int32)) dX6_tries_142 rfl (by decide) ?_
    refine r_aload_n (q := 145) dX6_tries_144 rfl rfl rfl ?_
    refine r_gR (q := 148) fl_X6_18 rfl dX6_tries_145 rfl (fun x7 => ?_)
    refine r_gR (q := 151) fl_X6_52 rfl dX6_tries_148 rfl (fun x8 => ?_)
    refine r_iload (q := 153) dX6_tries_151 rfl rfl ?_
    refine r_aaload (q := 154) (k0 := 12) (by decide) dX6_tries_153 rfl (fun x9 => ?_)
    refine r_gI (q := 157) fl_X6_61 dX6_tries_154 rfl (fun x10 => ?_)
    refine r_isub (q := 158) dX6_tries_157 rfl ?_
    refine r_i2l (q := 159) dX6_tries_158 rfl ?_
    refine r_lmul (q := 160) dX6_tries_159 rfl ?_
    refine r_ob (fun a13 ha13 => ?_)
    obtain ⟨hea13, hka13⟩ := o_at_eq ha13
    cases hea13
    refine r_callV (q := 163) (hKT _ _ _ _ _ _) (cl_V (ci := 5) rfl rfl (lw_V q1773 q1775 qs78 q175 q1776) (hd_X6_tries _) ⟨by show n + 4 + 1 ≤ n + 1 + 4; omega, by show 8 + (11 + 11) + (n * 40 + 100) ≤ (n + 1) * 40 + 100; omega⟩ (List.mem_singleton.mp hka13) rfl rfl rfl (Nat.le_of_ble_eq_true rfl) dX6_tries_160) rfl (fun u11 σ12 => ?_)
    exact r_le (w_X6_tries_b163 G h0 N n KT hKT K44 hK44 _ _ _ _ _ _ _) (Nat.le_refl _) (And.intro rfl (And.intro rfl (And.intro rfl (And.intro rfl (And.intro rfl (And.intro rfl trivial))))))
  · refine r_lload (q := 96) dX6_tries_94 rfl rfl ?_
    refine r_ldc2 (q := 99) (v := (10 : Int64)) dX6_tries_96 rfl q1779 ?_
    refine r_lmul (q := 100) dX6_tries_99 rfl ?_
    refine r_lstore (q := 102) dX6_tries_100 rfl (Nat.le_of_ble_eq_true rfl) rfl ?_
    refine r_iinc (q := 105) (v := (1 : Int32)) dX6_tries_102 rfl rfl (by decide) (Nat.le_of_ble_eq_true rfl) rfl ?_
    refine r_goto (q := 82) dX6_tries_105 (by decide) ?_
    exact r_le (hK82 _ _ _ _ _ _ _ _ _) (Nat.le_refl _) (And.intro rfl (And.intro rfl (And.intro rfl (And.intro rfl (And.intro rfl (And.intro rfl (And.intro rfl (And.intro rfl trivial))))))))
theorem w_X6_tries_b82 (G : Gx) (h0 : G0 G) (N : Nat) (n : Nat) (KT : Nat → Int32 → Int32 → Int64 → Int64 → Mem → Option (Unit × Mem)) (hKT : ∀ (a0 : Nat) (i1 : Int32) (i2 : Int32) (j3 : Int64) (j5 : Int64) (σ : Mem), Ct G (mX6_tries n) rhoV [vR (some a0), vI i1, vI i2, vL j3, vL j5] σ (KT a0 i1 i2 j3 j5 σ)) (K44 : Nat → Int32 → Int32 → Int64 → Int64 → Int32 → Mem → Option (Unit × Mem)) (hK44 : ∀ (a0 : Nat) (l1 : Int32) (l2 : Int32) (l3 : Int64) (l5 : Int64) (l7 : Int32) (σ : Mem), Runs G (mX6_tries (n + 1)) rhoV σ 44 [some (vR (some a0)), some (vI l1), some (vI l2), some (vL l3), none, some (vL l5), none, some (vI l7), none, none, none] [] (K44 a0 l1 l2 l3 l5 l7 σ)) : ∀ (z : Nat) (a0 : Nat) (l1 : Int32) (l2 : Int32) (l3 : Int64) (l5 : Int64) (l7 : Int32) (l8 : Int64) (l10 : Int32) (σ : Mem), Runs G (mX6_tries (n + 1)) rhoV σ 82 [some (vR (some a0)), some (vI l1), some (vI l2), some (vL l3), none, some (vL l5), none, some (vI l7), some (vL l8), none, some (vI l10)] [] (f_X6_tries_b82 N KT K44 z a0 l1 l2 l3 l5 l7 l8 l10 σ) := by
  intro z
  induction z with
  | zero => exact fun _ _ _ _ _ _ _ _ _ => r_none
  | succ z ih => exact fun a0 l1 l2 l3 l5 l7 l8 l10 σ => w_X6_tries_b82B G h0 N n KT hKT K44 hK44 _ ih a0 l1 l2 l3 l5 l7 l8 l10 σ
theorem w_X6_tries_b44B (G : Gx) (h0 : G0 G) (N : Nat) (n : Nat) (KT : Nat → Int32 → Int32 → Int64 → Int64 → Mem → Option (Unit × Mem)) (hKT : ∀ (a0 : Nat) (i1 : Int32) (i2 : Int32) (j3 : Int64) (j5 : Int64) (σ : Mem), Ct G (mX6_tries n) rhoV [vR (some a0), vI i1, vI i2, vL j3, vL j5] σ (KT a0 i1 i2 j3 j5 σ))   (K44 : Nat → Int32 → Int32 → Int64 → Int64 → Int32 → Mem → Option (Unit × Mem)) (hK44 : ∀ (a0 : Nat) (l1 : Int32) (l2 : Int32) (l3 : Int64) (l5 : Int64) (l7 : Int32) (σ : Mem), Runs G (mX6_tries (n + 1)) rhoV σ 44 [some (vR (some a0)), some (vI l1), some (vI l2), some (vL l3), none, some (vL l5), none, some (vI l7), none, none, none] [] (K44 a0 l1 l2 l3 l5 l7 σ)) (a0 : Nat) (l1 : Int32) (l2 : Int32) (l3 : Int64) (l5 : Int64) (l7 : Int32) (σ : Mem) : Runs G (mX6_tries (n + 1)) rhoV σ 44 [some (vR (some a0)), some (vI l1), some (vI l2), some (vL l3), none, some (vL l5), none, some (vI l7), none, none, none] [] (f_X6_tries_b44B N KT  K44 a0 l1 l2 l3 l5 l7 σ) := by
  unfold f_X6_tries_b44B
  refine r_iload (q := 46) dX6_tries_44 rfl rfl ?_
  refine r_aload_n (q := 47) dX6_tries_46 rfl rfl rfl ?_
  refine r_gR (q := 50) fl_X6_18 rfl dX6_tries_47 rfl (fun x1 => ?_)
  refine r_gI (q := 53) fl_X6_34 dX6_tries_50 rfl (fun x2 => ?_)
  refine r_icmp_ge (q := 56) (t := 169) dX6_tries_53 rfl (by decide) (fun _ => ?_) (fun _ => ?_)
  · exact r_return rfl dX6_tries_169
  · refine r_iload_n (q := 57) dX6_tries_56 rfl rfl rfl ?_
    refine r_iload (q := 59) dX6_tries_57 rfl rfl ?_
    refine r_callI (q := 62) (c_X1_has G h0 N _ _ _) (cl_SN rfl rfl q1778 q1117 q167 q1118 (hd_X1_has) ⟨by show 2 + 1 ≤ n + 1 + 4; omega, by show 8 + (2 + 11) + 60 ≤ (n + 1) * 40 + 100; omega⟩ rfl (Nat.le_of_ble_eq_true rfl) dX6_tries_59) rfl (fun x3 σ4 => ?_)
    refine r_if_eq (q := 65) (t := 68) dX6_tries_62 rfl (by decide) (fun _ => ?_) (fun _ => ?_)
    · refine r_aload_n (q := 69) dX6_tries_68 rfl rfl rfl ?_
      refine r_gR (q := 72) fl_X6_9 rfl dX6_tries_69 rfl (fun x5 => ?_)
      refine r_iload_n (q := 73) dX6_tries_72 rfl rfl rfl ?_
      refine r_iload (q := 75) dX6_tries_73 rfl rfl ?_
      refine r_iastore (q := 76) dX6_tries_75 rfl (fun σ6 => ?_)
      refine r_lconst (q := 77) (v := (1 : Int64)) dX6_tries_76 rfl (by decide) ?_
      refine r_lstore (q := 79) dX6_tries_77 rfl (Nat.le_of_ble_eq_true rfl) rfl ?_
      refine r_iload_n (q := 80) dX6_tries_79 rfl rfl rfl ?_
      refine r_istore (q := 82) dX6_tries_80 rfl (Nat.le_of_ble_eq_true rfl) rfl ?_
      exact r_le (w_X6_tries_b82 G h0 N n KT hKT K44 hK44 N _ _ _ _ _ _ _ _ _) (Nat.le_refl _) (And.intro rfl (And.intro rfl (And.intro rfl (And.intro rfl (And.intro rfl (And.intro rfl (And.intro rfl (And.intro rfl trivial))))))))
    · refine r_goto (q := 163) dX6_tries_65 (by decide) ?_
      exact r_le (w_X6_tries_b163 G h0 N n KT hKT K44 hK44 _ _ _ _ _ _ _) (Nat.le_refl _) (And.intro rfl (And.intro rfl (And.intro rfl (And.intro rfl (And.intro rfl (And.intro rfl trivial))))))
theorem w_X6_tries_b44 (G : Gx) (h0 : G0 G) (N : Nat) (n : Nat) (KT : Nat → Int32 → Int32 → Int64 → Int64 → Mem → Option (Unit × Mem)) (hKT : ∀ (a0 : Nat) (i1 : Int32) (i2 : Int32) (j3 : Int64) (j5 : Int64) (σ : Mem), Ct G (mX6_tries n) rhoV [vR (some a0), vI i1, vI i2, vL j3, vL j5] σ (KT a0 i1 i2 j3 j5 σ))   : ∀ (z : Nat) (a0 : Nat) (l1 : Int32) (l2 : Int32) (l3 : Int64) (l5 : Int64) (l7 : Int32) (σ : Mem), Runs G (mX6_tries (n + 1)) rhoV σ 44 [some (vR (some a0)), some (vI l1), some (vI l2), some (vL l3), none, some (vL l5), none, some (vI l7), none, none, none] [] (f_X6_tries_b44 N KT  z a0 l1 l2 l3 l5 l7 σ) := by
  intro z
  induction z with
  | zero => exact fun _ _ _ _ _ _ _ => r_none
  | succ z ih => exact fun a0 l1 l2 l3 l5 l7 σ => w_X6_tries_b44B G h0 N n KT hKT   _ ih a0 l1 l2 l3 l5 l7 σ
theorem w_X6_triesB (G : Gx) (h0 : G0 G) (N n : Nat) (KT : Nat → Int32 → Int32 → Int64 → Int64 → Mem → Option (Unit × Mem)) (hKT : ∀ (a0 : Nat) (i1 : Int32) (i2 : Int32) (j3 : Int64) (j5 : Int64) (σ : Mem), Ct G (mX6_tries n) rhoV [vR (some a0), vI i1, vI i2, vL j3, vL j5] σ (KT a0 i1 i2 j3 j5 σ)) (a0 : Nat) (i1 : Int32) (i2 : Int32) (j3 : Int64) (j5 : Int64) (σ : Mem) : Ct G (mX6_tries (n + 1)) rhoV [vR (some a0), vI i1, vI i2, vL j3, vL j5] σ (f_X6_triesB N KT a0 i1 i2 j3 j5 σ) := by
  refine Ct_of h0 (show plainName "GoatCourt$Orders" = true by decide) rfl (Nat.le_of_ble_eq_true rfl) (L0 := [some (vR (some a0)), some (vI i1), some (vI i2), some (vL j3), none, some (vL j5), none, none, none, none, none]) rfl ?_
  unfold f_X6_triesB
  refine r_iload_n (q := 1) dX6_tries_0 rfl rfl rfl ?_
  refine r_aload_n (q := 2) dX6_tries_1 rfl rfl rfl ?_
  refine r_gR (q := 5) fl_X6_18 rfl dX6_tries_2 rfl (fun x1 => ?_)
  refine r_gI (q := 8) fl_X6_34 dX6_tries_5 rfl (fun x2 => ?_)
  refine r_icmp_ne (q := 11) (t := 41) dX6_tries_8 rfl (by decide) (fun _ => ?_) (fun _ => ?_)
  · refine r_lload_n (q := 12) dX6_tries_11 rfl rfl rfl ?_
    refine r_aload_n (q := 13) dX6_tries_12 rfl rfl rfl ?_
    refine r_gJ (q := 16) fl_X6_26 dX6_tries_13 rfl (fun x3 => ?_)
    refine r_lcmp (q := 17) dX6_tries_16 rfl ?_
    refine r_if_lt (q := 20) (t := 21) dX6_tries_17 rfl (by decide) (fun _ => ?_) (fun _ => ?_)
    · refine r_aload_n (q := 22) dX6_tries_21 rfl rfl rfl ?_
      refine r_lload_n (q := 23) dX6_tries_22 rfl rfl rfl ?_
      refine r_pJ (q := 26) (fp_X6_tries_26 _) dX6_tries_23 rfl (fun σ4 => ?_)
      refine r_aload_n (q := 27) dX6_tries_26 rfl rfl rfl ?_
      refine r_gR (q := 30) fl_X6_9 rfl dX6_tries_27 rfl (fun x5 => ?_)
      refine r_iconst (q := 31) (v := (0 : Int32)) dX6_tries_30 rfl (by decide) ?_
      refine r_aload_n (q := 32) dX6_tries_31 rfl rfl rfl ?_
      refine r_gR (q := 35) fl_X6_15 rfl dX6_tries_32 rfl (fun x6 => ?_)
      refine r_iconst (q := 36) (v := (0 : Int32)) dX6_tries_35 rfl (by decide) ?_
      refine r_iload_n (q := 37) dX6_tries_36 rfl rfl rfl ?_
      refine r_copy (q := 40) q1777 q1438 q1437 q200 (by show 1 ≤ n + 1 + 4; omega) (Nat.le_trans (m := 60) (by decide) (by show 60 ≤ (n + 1) * 40 + 100; omega)) dX6_tries_37 rfl (fun σ7 => ?_)
      exact r_return rfl dX6_tries_40
    · exact r_return rfl dX6_tries_20
  · refine r_iconst (q := 42) (v := (0 : Int32)) dX6_tries_41 rfl (by decide) ?_
    refine r_istore (q := 44) dX6_tries_42 rfl (Nat.le_of_ble_eq_true rfl) rfl ?_
    exact r_le (w_X6_tries_b44 G h0 N n KT hKT N _ _ _ _ _ _ _) (Nat.le_refl _) (And.intro rfl (And.intro rfl (And.intro rfl (And.intro rfl (And.intro rfl (And.intro rfl trivial))))))
theorem c_X6_tries (G : Gx) (h0 : G0 G) (N : Nat) : ∀ (n : Nat) (a0 : Nat) (i1 : Int32) (i2 : Int32) (j3 : Int64) (j5 : Int64) (σ : Mem), Ct G (mX6_tries n) rhoV [vR (some a0), vI i1, vI i2, vL j3, vL j5] σ (f_X6_tries N n a0 i1 i2 j3 j5 σ) := by
  intro n
  induction n with
  | zero => exact fun _ _ _ _ _ _ _ _ h => nomatch h
  | succ n ih => exact fun a0 i1 i2 j3 j5 σ => w_X6_triesB G h0 N n _ ih a0 i1 i2 j3 j5 σ
theorem c_X6_lay (G : Gx) (h0 : G0 G) (N : Nat) (a0 : Nat) (o1 : Option Nat) (σ : Mem) : Ct G mX6_lay rhoV [vR (some a0), vR o1] σ (f_X6_lay N a0 o1 σ) := by
  refine Ct_of h0 (by decide) rfl (Nat.le_of_ble_eq_true rfl) (L0 := [some (vR (some a0)), some (vR o1)]) rfl ?_
  unfold f_X6_lay
  refine r_aload_n (q := 1) dX6_lay_0 rfl rfl rfl ?_
  refine r_aload_n (q := 2) dX6_lay_1 rfl rfl rfl ?_
  refine r_pR (q := 5) fp_X6_lay_18 rfl dX6_lay_2 rfl (fun σ1 => ?_)
  refine r_aload_n (q := 6) dX6_lay_5 rfl rfl rfl ?_
  refine r_ldc2 (q := 9) (v := (9223372036854775807 : Int64)) dX6_lay_6 rfl q1772 ?_
  refine r_pJ (q := 12) fp_X6_lay_26 dX6_lay_9 rfl (fun σ2 => ?_)
  refine r_aload_n (q := 13) dX6_lay_12 rfl rfl rfl ?_
  refine r_iconst (q := 14) (v := (0 : Int32)) dX6_lay_13 rfl (by decide) ?_
  refine r_iconst (q := 15) (v := (0 : Int32)) dX6_lay_14 rfl (by decide) ?_
  refine r_lconst (q := 16) (v := (0 : Int64)) dX6_lay_15 rfl (by decide) ?_
  refine r_lconst (q := 17) (v := (1 : Int64)) dX6_lay_16 rfl (by decide) ?_
  refine r_ob (fun a5 ha5 => ?_)
  obtain ⟨hea5, hka5⟩ := o_at_eq ha5
  cases hea5
  refine r_callV (q := 20) (c_X6_tries G h0 N 8 _ _ _ _ _ _) (cl_V (ci := 5) rfl rfl (lw_V q1773 q1775 qs78 q175 q1776) (hd_X6_tries _) ⟨Nat.le_of_ble_eq_true rfl, Nat.le_of_ble_eq_true rfl⟩ (List.mem_singleton.mp hka5) rfl rfl rfl (Nat.le_of_ble_eq_true rfl) dX6_lay_17) rfl (fun u3 σ4 => ?_)
  exact r_return rfl dX6_lay_20
theorem c_X6_least (G : Gx) (h0 : G0 G) (N : Nat) (a0 : Nat) (σ : Mem) : Ct G mX6_least rhoL [vR (some a0)] σ (f_X6_least N a0 σ) := by
  refine Ct_of h0 (by decide) rfl (Nat.le_of_ble_eq_true rfl) (L0 := [some (vR (some a0))]) rfl ?_
  unfold f_X6_least
  refine r_aload_n (q := 1) dX6_least_0 rfl rfl rfl ?_
  refine r_gJ (q := 4) fl_X6_26 dX6_least_1 rfl (fun x1 => ?_)
  exact r_lreturn rfl dX6_least_4
theorem c_X1_appeals (G : Gx) (h0 : G0 G) (N : Nat) (a0 : Nat) (σ : Mem) : Ct G mX1_appeals rhoL [vR (some a0)] σ (f_X1_appeals N a0 σ) := by
  refine Ct_of h0 (by decide) rfl (Nat.le_of_ble_eq_true rfl) (L0 := [some (vR (some a0))]) rfl ?_
  unfold f_X1_appeals
  refine r_aload_n (q := 1) dX1_appeals_0 rfl rfl rfl ?_
  refine r_ob (fun a3 ha3 => ?_)
  obtain ⟨hea3, hka3⟩ := o_at_eq ha3
  cases hea3
  refine r_callV (q := 4) (c_X1_anew G h0 N _ _) (cl_V (ci := 0) rfl rfl (lw_V q485 q487 qs2 q167 q488) (hd_X1_anew) ⟨Nat.le_of_ble_eq_true rfl, Nat.le_of_ble_eq_true rfl⟩ (List.mem_singleton.mp hka3) rfl rfl rfl (Nat.le_of_ble_eq_true rfl) dX1_appeals_1) rfl (fun u1 σ2 => ?_)
  refine r_aload_n (q := 5) dX1_appeals_4 rfl rfl rfl ?_
  refine r_gR (q := 8) fl_X1_104 rfl dX1_appeals_5 rfl (fun x4 => ?_)
  refine r_ifnonnull (q := 11) (t := 18) dX1_appeals_8 rfl (by decide) (fun _ => ?_) (fun _ => ?_)
  · refine r_aload_n (q := 12) dX1_appeals_11 rfl rfl rfl ?_
    refine r_iconst (q := 13) (v := (1 : Int32)) dX1_appeals_12 rfl (by decide) ?_
    refine r_ob (fun a16 ha16 => ?_)
    obtain ⟨hea16, hka16⟩ := o_at_eq ha16
    cases hea16
    refine r_callI (q := 16) (c_X1_no G h0 N _ _ _) (cl_V (ci := 0) rfl rfl (lw_V q492 q494 qs3 q167 q495) (hd_X1_no) ⟨Nat.le_of_ble_eq_true rfl, Nat.le_of_ble_eq_true rfl⟩ (List.mem_singleton.mp hka16) rfl rfl rfl (Nat.le_of_ble_eq_true rfl) dX1_appeals_13) rfl (fun x14 σ15 => ?_)
    refine r_i2l (q := 17) dX1_appeals_16 rfl ?_
    exact r_lreturn rfl dX1_appeals_17
  · refine r_aload_n (q := 19) dX1_appeals_18 rfl rfl rfl ?_
    refine r_gR (q := 22) fl_X1_53 rfl dX1_appeals_19 rfl (fun x5 => ?_)
    refine r_aload_n (q := 23) dX1_appeals_22 rfl rfl rfl ?_
    refine r_gR (q := 26) fl_X1_104 rfl dX1_appeals_23 rfl (fun x6 => ?_)
    refine r_ob (fun a9 ha9 => ?_)
    obtain ⟨hea9, hka9⟩ := o_at_eq ha9
    cases hea9
    refine r_callV (q := 29) (c_X6_lay G h0 N _ _ _) (cl_V (ci := 5) rfl rfl (lw_V q1768 q1769 q1770 q175 q1771) (hd_X6_lay) ⟨Nat.le_of_ble_eq_true rfl, Nat.le_of_ble_eq_true rfl⟩ (List.mem_singleton.mp hka9) rfl rfl rfl (Nat.le_of_ble_eq_true rfl) dX1_appeals_26) rfl (fun u7 σ8 => ?_)
    refine r_aload_n (q := 30) dX1_appeals_29 rfl rfl rfl ?_
    refine r_gR (q := 33) fl_X1_53 rfl dX1_appeals_30 rfl (fun x10 => ?_)
    refine r_ob (fun a13 ha13 => ?_)
    obtain ⟨hea13, hka13⟩ := o_at_eq ha13
    cases hea13
    refine r_callL (q := 36) (c_X6_least G h0 N _ _) (cl_V (ci := 5) rfl rfl (lw_V q1780 q1781 q1782 q175 q1783) (hd_X6_least) ⟨Nat.le_of_ble_eq_true rfl, Nat.le_of_ble_eq_true rfl⟩ (List.mem_singleton.mp hka13) rfl rfl rfl (Nat.le_of_ble_eq_true rfl) dX1_appeals_33) rfl (fun y11 σ12 => ?_)
    exact r_lreturn rfl dX1_appeals_36
theorem w_X7_meanOf_b80 (G : Gx) (h0 : G0 G) (N : Nat) (K4 : Nat → Int64 → Int32 → Mem → Option (Int64 × Mem)) (K35 : Nat → Int64 → Int32 → Int64 → Int32 → Mem → Option (Int64 × Mem)) (hK4 : ∀ (a0 : Nat) (l1 : Int64) (l3 : Int32) (σ : Mem), Runs G mX7_meanOf rhoL σ 4 [some (vR (some a0)), some (vL l1), none, some (vI l3), none, none, none] [] (K4 a0 l1 l3 σ)) (hK35 : ∀ (a0 : Nat) (l1 : Int64) (l3 : Int32) (l4 : Int64) (l6 : Int32) (σ : Mem), Runs G mX7_meanOf rhoL σ 35 [some (vR (some a0)), some (vL l1), none, some (vI l3), some (vL l4), none, some (vI l6)] [] (K35 a0 l1 l3 l4 l6 σ)) (a0 : Nat) (l1 : Int64) (l3 : Int32) (l6 : Int32) (t0 : Int64) (t1 : Int64) (σ : Mem) : Runs G mX7_meanOf rhoL σ 80 [some (vR (some a0)), some (vL l1), none, some (vI l3), none, none, some (vI l6)] [vL t1, vL t0] (f_X7_meanOf_b80 N K4 K35 a0 l1 l3 l6 t0 t1 σ) := by
  unfold f_X7_meanOf_b80
  refine r_lmul (q := 81) dX7_meanOf_80 rfl ?_
  refine r_lstore (q := 83) dX7_meanOf_81 rfl (Nat.le_of_ble_eq_true rfl) rfl ?_
  refine r_iinc (q := 86) (v := (1 : Int32)) dX7_meanOf_83 rfl rfl (by decide) (Nat.le_of_ble_eq_true rfl) rfl ?_
  refine r_goto (q := 35) dX7_meanOf_86 (by decide) ?_
  exact r_le (hK35 _ _ _ _ _ _) (Nat.le_refl _) (And.intro rfl (And.intro rfl (And.intro rfl (And.intro rfl (And.intro rfl trivial)))))
theorem w_X7_meanOf_b35B (G : Gx) (h0 : G0 G) (N : Nat) (K4 : Nat → Int64 → Int32 → Mem → Option (Int64 × Mem)) (hK4 : ∀ (a0 : Nat) (l1 : Int64) (l3 : Int32) (σ : Mem), Runs G mX7_meanOf rhoL σ 4 [some (vR (some a0)), some (vL l1), none, some (vI l3), none, none, none] [] (K4 a0 l1 l3 σ)) (K35 : Nat → Int64 → Int32 → Int64 → Int32 → Mem → Option (Int64 × Mem)) (hK35 : ∀ (a0 : Nat) (l1 : Int64) (l3 : Int32) (l4 : Int64) (l6 : Int32) (σ : Mem), Runs G mX7_meanOf rhoL σ 35 [some (vR (some a0)), some (vL l1), none, some (vI l3), some (vL l4), none, some (vI l6)] [] (K35 a0 l1 l3 l4 l6 σ)) (a0 : Nat) (l1 : Int64) (l3 : Int32) (l4 : Int64) (l6 : Int32) (σ : Mem) : Runs G mX7_meanOf rhoL σ 35 [some (vR (some a0)), some (vL l1), none, some (vI l3), some (vL l4), none, some (vI l6)] [] (f_X7_meanOf_b35B N K4 K35 a0 l1 l3 l4 l6 σ) := by
  unfold f_X7_meanOf_b35B
  refine r_iload (q := 37) dX7_meanOf_35 rfl rfl ?_
  refine r_aload_n (q := 38) dX7_meanOf_37 rfl rfl rfl ?_
  refine r_gR (q := 41) fl_X7_442 rfl dX7_meanOf_38 rfl (fun x1 => ?_)
  refine r_gI (q := 44) fl_X7_419 dX7_meanOf_41 rfl (fun x2 => ?_)
  refine r_icmp_ge (q := 47) (t := 89) dX7_meanOf_44 rfl (by decide) (fun _ => ?_) (fun _ => ?_)
  · refine r_lload_n (q := 90) dX7_meanOf_89 rfl rfl rfl ?_
    refine r_lload (q := 92) dX7_meanOf_90 rfl rfl ?_
    refine r_ladd (q := 93) dX7_meanOf_92 rfl ?_
    refine r_lstore_n (q := 94) dX7_meanOf_93 rfl rfl (Nat.le_of_ble_eq_true rfl) rfl ?_
    refine r_iinc (q := 97) (v := (1 : Int32)) dX7_meanOf_94 rfl rfl (by decide) (Nat.le_of_ble_eq_true rfl) rfl ?_
    refine r_goto (q := 4) dX7_meanOf_97 (by decide) ?_
    exact r_le (hK4 _ _ _ _) (Nat.le_refl _) (And.intro rfl (And.intro rfl (And.intro rfl trivial)))
  · refine r_lload (q := 49) dX7_meanOf_47 rfl rfl ?_
    refine r_iload (q := 51) dX7_meanOf_49 rfl rfl ?_
    refine r_iload_n (q := 52) dX7_meanOf_51 rfl rfl rfl ?_
    refine r_icmp_ge (q := 55) (t := 77) dX7_meanOf_52 rfl (by decide) (fun _ => ?_) (fun _ => ?_)
    · refine r_ldc2 (q := 80) (v := (10 : Int64)) dX7_meanOf_77 rfl q2710 ?_
      exact r_le (w_X7_meanOf_b80 G h0 N K4 K35 hK4 hK35 _ _ _ _ _ _ _) (Nat.le_refl _) (And.intro rfl (And.intro rfl (And.intro rfl (And.intro rfl trivial))))
    · refine r_bipush (q := 57) (v := (10 : Int32)) dX7_meanOf_55 rfl (by decide) ?_
      refine r_aload_n (q := 58) dX7_meanOf_57 rfl rfl rfl ?_
      refine r_gR (q := 61) fl_X7_442 rfl dX7_meanOf_58 rfl (fun x3 => ?_)
      refine r_gR (q := 64) fl_X7_428 rfl dX7_meanOf_61 rfl (fun x4 => ?_)
      refine r_aload_n (q := 65) dX7_meanOf_64 rfl rfl rfl ?_
      refine r_gR (q := 68) fl_X7_60 rfl dX7_meanOf_65 rfl (fun x5 => ?_)
      refine r_iload (q := 70) dX7_meanOf_68 rfl rfl ?_
      refine r_iaload (q := 71) dX7_meanOf_70 rfl (fun x6 => ?_)
      refine r_iaload (q := 72) dX7_meanOf_71 rfl (fun x7 => ?_)
      refine r_isub (q := 73) dX7_meanOf_72 rfl ?_
      refine r_i2l (q := 74) dX7_meanOf_73 rfl ?_
      refine r_goto (q := 80) dX7_meanOf_74 (by decide) ?_
      exact r_le (w_X7_meanOf_b80 G h0 N K4 K35 hK4 hK35 _ _ _ _ _ _ _) (Nat.le_refl _) (And.intro rfl (And.intro rfl (And.intro rfl (And.intro rfl trivial))))
theorem w_X7_meanOf_b35 (G : Gx) (h0 : G0 G) (N : Nat) (K4 : Nat → Int64 → Int32 → Mem → Option (Int64 × Mem)) (hK4 : ∀ (a0 : Nat) (l1 : Int64) (l3 : Int32) (σ : Mem), Runs G mX7_meanOf rhoL σ 4 [some (vR (some a0)), some (vL l1), none, some (vI l3), none, none, none] [] (K4 a0 l1 l3 σ)) : ∀ (z : Nat) (a0 : Nat) (l1 : Int64) (l3 : Int32) (l4 : Int64) (l6 : Int32) (σ : Mem), Runs G mX7_meanOf rhoL σ 35 [some (vR (some a0)), some (vL l1), none, some (vI l3), some (vL l4), none, some (vI l6)] [] (f_X7_meanOf_b35 N K4 z a0 l1 l3 l4 l6 σ) := by
  intro z
  induction z with
  | zero => exact fun _ _ _ _ _ _ => r_none
  | succ z ih => exact fun a0 l1 l3 l4 l6 σ => w_X7_meanOf_b35B G h0 N K4 hK4 _ ih a0 l1 l3 l4 l6 σ
theorem w_X7_meanOf_b4B (G : Gx) (h0 : G0 G) (N : Nat)   (K4 : Nat → Int64 → Int32 → Mem → Option (Int64 × Mem)) (hK4 : ∀ (a0 : Nat) (l1 : Int64) (l3 : Int32) (σ : Mem), Runs G mX7_meanOf rhoL σ 4 [some (vR (some a0)), some (vL l1), none, some (vI l3), none, none, none] [] (K4 a0 l1 l3 σ)) (a0 : Nat) (l1 : Int64) (l3 : Int32) (σ : Mem) : Runs G mX7_meanOf rhoL σ 4 [some (vR (some a0)), some (vL l1), none, some (vI l3), none, none, none] [] (f_X7_meanOf_b4B N  K4 a0 l1 l3 σ) := by
  unfold f_X7_meanOf_b4B
  refine r_iload_n (q := 5) dX7_meanOf_4 rfl rfl rfl ?_
  refine r_aload_n (q := 6) dX7_meanOf_5 rfl rfl rfl ?_
  refine r_gR (q := 9) fl_X7_442 rfl dX7_meanOf_6 rfl (fun x1 => ?_)
  refine r_gI (q := 12) fl_X7_419 dX7_meanOf_9 rfl (fun x2 => ?_)
  refine r_icmp_ge (q := 15) (t := 100) dX7_meanOf_12 rfl (by decide) (fun _ => ?_) (fun _ => ?_)
  · refine r_lload_n (q := 101) dX7_meanOf_100 rfl rfl rfl ?_
    exact r_lreturn rfl dX7_meanOf_101
  · refine r_aload_n (q := 16) dX7_meanOf_15 rfl rfl rfl ?_
    refine r_gR (q := 19) fl_X7_442 rfl dX7_meanOf_16 rfl (fun x3 => ?_)
    refine r_gR (q := 22) fl_X7_426 rfl dX7_meanOf_19 rfl (fun x4 => ?_)
    refine r_aload_n (q := 23) dX7_meanOf_22 rfl rfl rfl ?_
    refine r_gR (q := 26) fl_X7_60 rfl dX7_meanOf_23 rfl (fun x5 => ?_)
    refine r_iload_n (q := 27) dX7_meanOf_26 rfl rfl rfl ?_
    refine r_iaload (q := 28) dX7_meanOf_27 rfl (fun x6 => ?_)
    refine r_iaload (q := 29) dX7_meanOf_28 rfl (fun x7 => ?_)
    refine r_i2l (q := 30) dX7_meanOf_29 rfl ?_
    refine r_lstore (q := 32) dX7_meanOf_30 rfl (Nat.le_of_ble_eq_true rfl) rfl ?_
    refine r_iconst (q := 33) (v := (0 : Int32)) dX7_meanOf_32 rfl (by decide) ?_
    refine r_istore (q := 35) dX7_meanOf_33 rfl (Nat.le_of_ble_eq_true rfl) rfl ?_
    exact r_le (w_X7_meanOf_b35 G h0 N K4 hK4 N _ _ _ _ _ _) (Nat.le_refl _) (And.intro rfl (And.intro rfl (And.intro rfl (And.intro rfl (And.intro rfl trivial)))))
theorem w_X7_meanOf_b4 (G : Gx) (h0 : G0 G) (N : Nat)   : ∀ (z : Nat) (a0 : Nat) (l1 : Int64) (l3 : Int32) (σ : Mem), Runs G mX7_meanOf rhoL σ 4 [some (vR (some a0)), some (vL l1), none, some (vI l3), none, none, none] [] (f_X7_meanOf_b4 N  z a0 l1 l3 σ) := by
  intro z
  induction z with
  | zero => exact fun _ _ _ _ => r_none
  | succ z ih => exact fun a0 l1 l3 σ => w_X7_meanOf_b4B G h0 N   _ ih a0 l1 l3 σ
theorem c_X7_meanOf (G : Gx) (h0 : G0 G) (N : Nat) (a0 : Nat) (σ : Mem) : Ct G mX7_meanOf rhoL [vR (some a0)] σ (f_X7_meanOf N a0 σ) := by
  refine Ct_of h0 (by decide) rfl (Nat.le_of_ble_eq_true rfl) (L0 := [some (vR (some a0)), none, none, none, none, none, none]) rfl ?_
  unfold f_X7_meanOf
  refine r_lconst (q := 1) (v := (0 : Int64)) dX7_meanOf_0 rfl (by decide) ?_
  refine r_lstore_n (q := 2) dX7_meanOf_1 rfl rfl (Nat.le_of_ble_eq_true rfl) rfl ?_
  refine r_iconst (q := 3) (v := (0 : Int32)) dX7_meanOf_2 rfl (by decide) ?_
  refine r_istore_n (q := 4) dX7_meanOf_3 rfl rfl (Nat.le_of_ble_eq_true rfl) rfl ?_
  exact r_le (w_X7_meanOf_b4 G h0 N N _ _ _ _) (Nat.le_refl _) (And.intro rfl (And.intro rfl (And.intro rfl trivial)))
theorem c_X7_swaps (G : Gx) (h0 : G0 G) (N : Nat) (a0 : Nat) (i1 : Int32) (i2 : Int32) (σ : Mem) : Ct G mX7_swaps rhoV [vR (some a0), vI i1, vI i2] σ (f_X7_swaps N a0 i1 i2 σ) := by
  refine Ct_of h0 (by decide) rfl (Nat.le_of_ble_eq_true rfl) (L0 := [some (vR (some a0)), some (vI i1), some (vI i2), none]) rfl ?_
  unfold f_X7_swaps
  refine r_aload_n (q := 1) dX7_swaps_0 rfl rfl rfl ?_
  refine r_gR (q := 4) fl_X7_60 rfl dX7_swaps_1 rfl (fun x1 => ?_)
  refine r_iload_n (q := 5) dX7_swaps_4 rfl rfl rfl ?_
  refine r_iaload (q := 6) dX7_swaps_5 rfl (fun x2 => ?_)
  refine r_istore_n (q := 7) dX7_swaps_6 rfl rfl (Nat.le_of_ble_eq_true rfl) rfl ?_
  refine r_aload_n (q := 8) dX7_swaps_7 rfl rfl rfl ?_
  refine r_gR (q := 11) fl_X7_60 rfl dX7_swaps_8 rfl (fun x3 => ?_)
  refine r_iload_n (q := 12) dX7_swaps_11 rfl rfl rfl ?_
  refine r_aload_n (q := 13) dX7_swaps_12 rfl rfl rfl ?_
  refine r_gR (q := 16) fl_X7_60 rfl dX7_swaps_13 rfl (fun x4 => ?_)
  refine r_iload_n (q := 17) dX7_swaps_16 rfl rfl rfl ?_
  refine r_iaload (q := 18) dX7_swaps_17 rfl (fun x5 => ?_)
  refine r_iastore (q := 19) dX7_swaps_18 rfl (fun σ6 => ?_)
  refine r_aload_n (q := 20) dX7_swaps_19 rfl rfl rfl ?_
  refine r_gR (q := 23) fl_X7_60 rfl dX7_swaps_20 rfl (fun x7 => ?_)
  refine r_iload_n (q := 24) dX7_swaps_23 rfl rfl rfl ?_
  refine r_iload_n (q := 25) dX7_swaps_24 rfl rfl rfl ?_
  refine r_iastore (q := 26) dX7_swaps_25 rfl (fun σ8 => ?_)
  exact r_return rfl dX7_swaps_26
theorem w_X7_turns_b78B (G : Gx) (h0 : G0 G) (N : Nat)   (K78 : Nat → Int32 → Int32 → Mem → Option (Int32 × Mem)) (hK78 : ∀ (a0 : Nat) (l4 : Int32) (l5 : Int32) (σ : Mem), Runs G mX7_turns rhoI σ 78 [some (vR (some a0)), none, none, none, some (vI l4), some (vI l5)] [] (K78 a0 l4 l5 σ)) (a0 : Nat) (l4 : Int32) (l5 : Int32) (σ : Mem) : Runs G mX7_turns rhoI σ 78 [some (vR (some a0)), none, none, none, some (vI l4), some (vI l5)] [] (f_X7_turns_b78B N  K78 a0 l4 l5 σ) := by
  unfold f_X7_turns_b78B
  refine r_iload (q := 80) dX7_turns_78 rfl rfl ?_
  refine r_iload (q := 82) dX7_turns_80 rfl rfl ?_
  refine r_icmp_ge (q := 85) (t := 102) dX7_turns_82 rfl (by decide) (fun _ => ?_) (fun _ => ?_)
  · refine r_iconst (q := 103) (v := (1 : Int32)) dX7_turns_102 rfl (by decide) ?_
    exact r_ireturnN rfl dX7_turns_103
  · refine r_aload_n (q := 86) dX7_turns_85 rfl rfl rfl ?_
    refine r_iload (q := 88) dX7_turns_86 rfl rfl ?_
    refine r_iload (q := 90) dX7_turns_88 rfl rfl ?_
    refine r_ob (fun a3 ha3 => ?_)
    obtain ⟨hea3, hka3⟩ := o_at_eq ha3
    cases hea3
    refine r_callV (q := 93) (c_X7_swaps G h0 N _ _ _ _) (cl_V (ci := 6) rfl rfl (lw_V q2715 q2717 qs160 q176 q2718) (hd_X7_swaps) ⟨Nat.le_of_ble_eq_true rfl, Nat.le_of_ble_eq_true rfl⟩ (List.mem_singleton.mp hka3) rfl rfl rfl (Nat.le_of_ble_eq_true rfl) dX7_turns_90) rfl (fun u1 σ2 => ?_)
    refine r_iinc (q := 96) (v := (1 : Int32)) dX7_turns_93 rfl rfl (by decide) (Nat.le_of_ble_eq_true rfl) rfl ?_
    refine r_iinc (q := 99) (v := (-1 : Int32)) dX7_turns_96 rfl rfl (by decide) (Nat.le_of_ble_eq_true rfl) rfl ?_
    refine r_goto (q := 78) dX7_turns_99 (by decide) ?_
    exact r_le (hK78 _ _ _ _) (Nat.le_refl _) (And.intro rfl (And.intro rfl (And.intro rfl trivial)))
theorem w_X7_turns_b78 (G : Gx) (h0 : G0 G) (N : Nat)   : ∀ (z : Nat) (a0 : Nat) (l4 : Int32) (l5 : Int32) (σ : Mem), Runs G mX7_turns rhoI σ 78 [some (vR (some a0)), none, none, none, some (vI l4), some (vI l5)] [] (f_X7_turns_b78 N  z a0 l4 l5 σ) := by
  intro z
  induction z with
  | zero => exact fun _ _ _ _ => r_none
  | succ z ih => exact fun a0 l4 l5 σ => w_X7_turns_b78B G h0 N   _ ih a0 l4 l5 σ
theorem w_X7_turns_b41B (G : Gx) (h0 : G0 G) (N : Nat)   (K41 : Nat → Int32 → Int32 → Int32 → Mem → Option (Int32 × Mem)) (hK41 : ∀ (a0 : Nat) (l1 : Int32) (l2 : Int32) (l3 : Int32) (σ : Mem), Runs G mX7_turns rhoI σ 41 [some (vR (some a0)), some (vI l1), some (vI l2), some (vI l3), none, none] [] (K41 a0 l1 l2 l3 σ)) (a0 : Nat) (l1 : Int32) (l2 : Int32) (l3 : Int32) (σ : Mem) : Runs G mX7_turns rhoI σ 41 [some (vR (some a0)), some (vI l1), some (vI l2), some (vI l3), none, none] [] (f_X7_turns_b41B N  K41 a0 l1 l2 l3 σ) := by
  unfold f_X7_turns_b41B
  refine r_aload_n (q := 42) dX7_turns_41 rfl rfl rfl ?_
  refine r_gR (q := 45) fl_X7_60 rfl dX7_turns_42 rfl (fun x1 => ?_)
  refine r_iload_n (q := 46) dX7_turns_45 rfl rfl rfl ?_
  refine r_iaload (q := 47) dX7_turns_46 rfl (fun x2 => ?_)
  refine r_aload_n (q := 48) dX7_turns_47 rfl rfl rfl ?_
  refine r_gR (q := 51) fl_X7_60 rfl dX7_turns_48 rfl (fun x3 => ?_)
  refine r_iload_n (q := 52) dX7_turns_51 rfl rfl rfl ?_
  refine r_iaload (q := 53) dX7_turns_52 rfl (fun x4 => ?_)
  refine r_icmp_ge (q := 56) (t := 62) dX7_turns_53 rfl (by decide) (fun _ => ?_) (fun _ => ?_)
  · refine r_aload_n (q := 63) dX7_turns_62 rfl rfl rfl ?_
    refine r_iload_n (q := 64) dX7_turns_63 rfl rfl rfl ?_
    refine r_iload_n (q := 65) dX7_turns_64 rfl rfl rfl ?_
    refine r_ob (fun a7 ha7 => ?_)
    obtain ⟨hea7, hka7⟩ := o_at_eq ha7
    cases hea7
    refine r_callV (q := 68) (c_X7_swaps G h0 N _ _ _ _) (cl_V (ci := 6) rfl rfl (lw_V q2715 q2717 qs160 q176 q2718) (hd_X7_swaps) ⟨Nat.le_of_ble_eq_true rfl, Nat.le_of_ble_eq_true rfl⟩ (List.mem_singleton.mp hka7) rfl rfl rfl (Nat.le_of_ble_eq_true rfl) dX7_turns_65) rfl (fun u5 σ6 => ?_)
    refine r_iload_n (q := 69) dX7_turns_68 rfl rfl rfl ?_
    refine r_iconst (q := 70) (v := (1 : Int32)) dX7_turns_69 rfl (by decide) ?_
    refine r_iadd (q := 71) dX7_turns_70 rfl ?_
    refine r_istore (q := 73) dX7_turns_71 rfl (Nat.le_of_ble_eq_true rfl) rfl ?_
    refine r_iload_n (q := 74) dX7_turns_73 rfl rfl rfl ?_
    refine r_iconst (q := 75) (v := (1 : Int32)) dX7_turns_74 rfl (by decide) ?_
    refine r_isub (q := 76) dX7_turns_75 rfl ?_
    refine r_istore (q := 78) dX7_turns_76 rfl (Nat.le_of_ble_eq_true rfl) rfl ?_
    exact r_le (w_X7_turns_b78 G h0 N N _ _ _ _) (Nat.le_refl _) (And.intro rfl (And.intro rfl (And.intro rfl trivial)))
  · refine r_iinc (q := 59) (v := (-1 : Int32)) dX7_turns_56 rfl rfl (by decide) (Nat.le_of_ble_eq_true rfl) rfl ?_
    refine r_goto (q := 41) dX7_turns_59 (by decide) ?_
    exact r_le (hK41 _ _ _ _ _) (Nat.le_refl _) (And.intro rfl (And.intro rfl (And.intro rfl (And.intro rfl trivial))))
theorem w_X7_turns_b41 (G : Gx) (h0 : G0 G) (N : Nat)   : ∀ (z : Nat) (a0 : Nat) (l1 : Int32) (l2 : Int32) (l3 : Int32) (σ : Mem), Runs G mX7_turns rhoI σ 41 [some (vR (some a0)), some (vI l1), some (vI l2), some (vI l3), none, none] [] (f_X7_turns_b41 N  z a0 l1 l2 l3 σ) := by
  intro z
  induction z with
  | zero => exact fun _ _ _ _ _ => r_none
  | succ z ih => exact fun a0 l1 l2 l3 σ => w_X7_turns_b41B G h0 N   _ ih a0 l1 l2 l3 σ
theorem w_X7_turns_b31 (G : Gx) (h0 : G0 G) (N : Nat)   (a0 : Nat) (l1 : Int32) (l2 : Int32) (σ : Mem) : Runs G mX7_turns rhoI σ 31 [some (vR (some a0)), some (vI l1), some (vI l2), none, none, none] [] (f_X7_turns_b31 N  a0 l1 l2 σ) := by
  unfold f_X7_turns_b31
  refine r_iload_n (q := 32) dX7_turns_31 rfl rfl rfl ?_
  refine r_if_ge (q := 35) (t := 37) dX7_turns_32 rfl (by decide) (fun _ => ?_) (fun _ => ?_)
  · refine r_iload_n (q := 38) dX7_turns_37 rfl rfl rfl ?_
    refine r_iconst (q := 39) (v := (1 : Int32)) dX7_turns_38 rfl (by decide) ?_
    refine r_isub (q := 40) dX7_turns_39 rfl ?_
    refine r_istore_n (q := 41) dX7_turns_40 rfl rfl (Nat.le_of_ble_eq_true rfl) rfl ?_
    exact r_le (w_X7_turns_b41 G h0 N N _ _ _ _ _) (Nat.le_refl _) (And.intro rfl (And.intro rfl (And.intro rfl (And.intro rfl trivial))))
  · refine r_iconst (q := 36) (v := (0 : Int32)) dX7_turns_35 rfl (by decide) ?_
    exact r_ireturnN rfl dX7_turns_36
theorem w_X7_turns_b4B (G : Gx) (h0 : G0 G) (N : Nat)   (K4 : Nat → Int32 → Int32 → Mem → Option (Int32 × Mem)) (hK4 : ∀ (a0 : Nat) (l1 : Int32) (l2 : Int32) (σ : Mem), Runs G mX7_turns rhoI σ 4 [some (vR (some a0)), some (vI l1), some (vI l2), none, none, none] [] (K4 a0 l1 l2 σ)) (a0 : Nat) (l1 : Int32) (l2 : Int32) (σ : Mem) : Runs G mX7_turns rhoI σ 4 [some (vR (some a0)), some (vI l1), some (vI l2), none, none, none] [] (f_X7_turns_b4B N  K4 a0 l1 l2 σ) := by
  unfold f_X7_turns_b4B
  refine r_iload_n (q := 5) dX7_turns_4 rfl rfl rfl ?_
  refine r_if_lt (q := 8) (t := 31) dX7_turns_5 rfl (by decide) (fun _ => ?_) (fun _ => ?_)
  · exact r_le (w_X7_turns_b31 G h0 N _ _ _ _) (Nat.le_refl _) (And.intro rfl (And.intro rfl (And.intro rfl trivial)))
  · refine r_aload_n (q := 9) dX7_turns_8 rfl rfl rfl ?_
    refine r_gR (q := 12) fl_X7_60 rfl dX7_turns_9 rfl (fun x1 => ?_)
    refine r_iload_n (q := 13) dX7_turns_12 rfl rfl rfl ?_
    refine r_iaload (q := 14) dX7_turns_13 rfl (fun x2 => ?_)
    refine r_aload_n (q := 15) dX7_turns_14 rfl rfl rfl ?_
    refine r_gR (q := 18) fl_X7_60 rfl dX7_turns_15 rfl (fun x3 => ?_)
    refine r_iload_n (q := 19) dX7_turns_18 rfl rfl rfl ?_
    refine r_iconst (q := 20) (v := (1 : Int32)) dX7_turns_19 rfl (by decide) ?_
    refine r_iadd (q := 21) dX7_turns_20 rfl ?_
    refine r_iaload (q := 22) dX7_turns_21 rfl (fun x4 => ?_)
    refine r_icmp_le (q := 25) (t := 31) dX7_turns_22 rfl (by decide) (fun _ => ?_) (fun _ => ?_)
    · exact r_le (w_X7_turns_b31 G h0 N _ _ _ _) (Nat.le_refl _) (And.intro rfl (And.intro rfl (And.intro rfl trivial)))
    · refine r_iinc (q := 28) (v := (-1 : Int32)) dX7_turns_25 rfl rfl (by decide) (Nat.le_of_ble_eq_true rfl) rfl ?_
      refine r_goto (q := 4) dX7_turns_28 (by decide) ?_
      exact r_le (hK4 _ _ _ _) (Nat.le_refl _) (And.intro rfl (And.intro rfl (And.intro rfl trivial)))
theorem w_X7_turns_b4 (G : Gx) (h0 : G0 G) (N : Nat)   : ∀ (z : Nat) (a0 : Nat) (l1 : Int32) (l2 : Int32) (σ : Mem), Runs G mX7_turns rhoI σ 4 [some (vR (some a0)), some (vI l1), some (vI l2), none, none, none] [] (f_X7_turns_b4 N  z a0 l1 l2 σ) := by
  intro z
  induction z with
  | zero => exact fun _ _ _ _ => r_none
  | succ z ih => exact fun a0 l1 l2 σ => w_X7_turns_b4B G h0 N   _ ih a0 l1 l2 σ
theorem c_X7_turns (G : Gx) (h0 : G0 G) (N : Nat) (a0 : Nat) (i1 : Int32) (σ : Mem) : Ct G mX7_turns rhoI [vR (some a0), vI i1] σ (f_X7_turns N a0 i1 σ) := by
  refine Ct_of h0 (by decide) rfl (Nat.le_of_ble_eq_true rfl) (L0 := [some (vR (some a0)), some (vI i1), none, none, none, none]) rfl ?_
  unfold f_X7_turns
  refine r_iload_n (q := 1) dX7_turns_0 rfl rfl rfl ?_
  refine r_iconst (q := 2) (v := (2 : Int32)) dX7_turns_1 rfl (by decide) ?_
  refine r_isub (q := 3) dX7_turns_2 rfl ?_
  refine r_istore_n (q := 4) dX7_turns_3 rfl rfl (Nat.le_of_ble_eq_true rfl) rfl ?_
  exact r_le (w_X7_turns_b4 G h0 N N _ _ _ _) (Nat.le_refl _) (And.intro rfl (And.intro rfl (And.intro rfl trivial)))
theorem w_X7_leastMean_b83 (G : Gx) (h0 : G0 G) (N : Nat) (K27 : Nat → Int64 → Int32 → Mem → Option (Int64 × Mem)) (hK27 : ∀ (a0 : Nat) (l1 : Int64) (l3 : Int32) (σ : Mem), Runs G mX7_leastMean rhoL σ 27 [some (vR (some a0)), some (vL l1), none, some (vI l3), none, none, none] [] (K27 a0 l1 l3 σ)) (a0 : Nat) (l1 : Int64) (σ : Mem) : Runs G mX7_leastMean rhoL σ 83 [some (vR (some a0)), some (vL l1), none, none, none, none, none] [] (f_X7_leastMean_b83 N K27 a0 l1 σ) := by
  unfold f_X7_leastMean_b83
  refine r_aload_n (q := 84) dX7_leastMean_83 rfl rfl rfl ?_
  refine r_aload_n (q := 85) dX7_leastMean_84 rfl rfl rfl ?_
  refine r_gR (q := 88) fl_X7_442 rfl dX7_leastMean_85 rfl (fun x1 => ?_)
  refine r_gI (q := 91) fl_X7_419 dX7_leastMean_88 rfl (fun x2 => ?_)
  refine r_ob (fun a5 ha5 => ?_)
  obtain ⟨hea5, hka5⟩ := o_at_eq ha5
  cases hea5
  refine r_callI (q := 94) (c_X7_turns G h0 N _ _ _) (cl_V (ci := 6) rfl rfl (lw_V q2711 q2713 qs159 q176 q2714) (hd_X7_turns) ⟨Nat.le_of_ble_eq_true rfl, Nat.le_of_ble_eq_true rfl⟩ (List.mem_singleton.mp hka5) rfl rfl rfl (Nat.le_of_ble_eq_true rfl) dX7_leastMean_91) rfl (fun x3 σ4 => ?_)
  refine r_istore_n (q := 95) dX7_leastMean_94 rfl rfl (Nat.le_of_ble_eq_true rfl) rfl ?_
  refine r_goto (q := 27) dX7_leastMean_95 (by decide) ?_
  exact r_le (hK27 _ _ _ _) (Nat.le_refl _) (And.intro rfl (And.intro rfl (And.intro rfl trivial)))
theorem w_X7_leastMean_b56B (G : Gx) (h0 : G0 G) (N : Nat) (K27 : Nat → Int64 → Int32 → Mem → Option (Int64 × Mem)) (hK27 : ∀ (a0 : Nat) (l1 : Int64) (l3 : Int32) (σ : Mem), Runs G mX7_leastMean rhoL σ 27 [some (vR (some a0)), some (vL l1), none, some (vI l3), none, none, none] [] (K27 a0 l1 l3 σ)) (K56 : Nat → Int64 → Int32 → Mem → Option (Int64 × Mem)) (hK56 : ∀ (a0 : Nat) (l1 : Int64) (l6 : Int32) (σ : Mem), Runs G mX7_leastMean rhoL σ 56 [some (vR (some a0)), some (vL l1), none, none, none, none, some (vI l6)] [] (K56 a0 l1 l6 σ)) (a0 : Nat) (l1 : Int64) (l6 : Int32) (σ : Mem) : Runs G mX7_leastMean rhoL σ 56 [some (vR (some a0)), some (vL l1), none, none, none, none, some (vI l6)] [] (f_X7_leastMean_b56B N K27 K56 a0 l1 l6 σ) := by
  unfold f_X7_leastMean_b56B
  refine r_iload (q := 58) dX7_leastMean_56 rfl rfl ?_
  refine r_bipush (q := 60) (v := (6 : Int32)) dX7_leastMean_58 rfl (by decide) ?_
  refine r_icmp_ge (q := 63) (t := 83) dX7_leastMean_60 rfl (by decide) (fun _ => ?_) (fun _ => ?_)
  · exact r_le (w_X7_leastMean_b83 G h0 N K27 hK27 _ _ _) (Nat.le_refl _) (And.intro rfl (And.intro rfl trivial))
  · refine r_aload_n (q := 64) dX7_leastMean_63 rfl rfl rfl ?_
    refine r_gR (q := 67) fl_X7_63 rfl dX7_leastMean_64 rfl (fun x1 => ?_)
    refine r_iload (q := 69) dX7_leastMean_67 rfl rfl ?_
    refine r_aload_n (q := 70) dX7_leastMean_69 rfl rfl rfl ?_
    refine r_gR (q := 73) fl_X7_60 rfl dX7_leastMean_70 rfl (fun x2 => ?_)
    refine r_iload (q := 75) dX7_leastMean_73 rfl rfl ?_
    refine r_iaload (q := 76) dX7_leastMean_75 rfl (fun x3 => ?_)
    refine r_iastore (q := 77) dX7_leastMean_76 rfl (fun σ4 => ?_)
    refine r_iinc (q := 80) (v := (1 : Int32)) dX7_leastMean_77 rfl rfl (by decide) (Nat.le_of_ble_eq_true rfl) rfl ?_
    refine r_goto (q := 56) dX7_leastMean_80 (by decide) ?_
    exact r_le (hK56 _ _ _ _) (Nat.le_refl _) (And.intro rfl (And.intro rfl (And.intro rfl trivial)))
theorem w_X7_leastMean_b56 (G : Gx) (h0 : G0 G) (N : Nat) (K27 : Nat → Int64 → Int32 → Mem → Option (Int64 × Mem)) (hK27 : ∀ (a0 : Nat) (l1 : Int64) (l3 : Int32) (σ : Mem), Runs G mX7_leastMean rhoL σ 27 [some (vR (some a0)), some (vL l1), none, some (vI l3), none, none, none] [] (K27 a0 l1 l3 σ)) : ∀ (z : Nat) (a0 : Nat) (l1 : Int64) (l6 : Int32) (σ : Mem), Runs G mX7_leastMean rhoL σ 56 [some (vR (some a0)), some (vL l1), none, none, none, none, some (vI l6)] [] (f_X7_leastMean_b56 N K27 z a0 l1 l6 σ) := by
  intro z
  induction z with
  | zero => exact fun _ _ _ _ => r_none
  | succ z ih => exact fun a0 l1 l6 σ => w_X7_leastMean_b56B G h0 N K27 hK27 _ ih a0 l1 l6 σ
theorem w_X7_leastMean_b50 (G : Gx) (h0 : G0 G) (N : Nat) (K27 : Nat → Int64 → Int32 → Mem → Option (Int64 × Mem)) (hK27 : ∀ (a0 : Nat) (l1 : Int64) (l3 : Int32) (σ : Mem), Runs G mX7_leastMean rhoL σ 27 [some (vR (some a0)), some (vL l1), none, some (vI l3), none, none, none] [] (K27 a0 l1 l3 σ)) (a0 : Nat) (l4 : Int64) (σ : Mem) : Runs G mX7_leastMean rhoL σ 50 [some (vR (some a0)), none, none, none, some (vL l4), none, none] [] (f_X7_leastMean_b50 N K27 a0 l4 σ) := by
  unfold f_X7_leastMean_b50
  refine r_lload (q := 52) dX7_leastMean_50 rfl rfl ?_
  refine r_lstore_n (q := 53) dX7_leastMean_52 rfl rfl (Nat.le_of_ble_eq_true rfl) rfl ?_
  refine r_iconst (q := 54) (v := (0 : Int32)) dX7_leastMean_53 rfl (by decide) ?_
  refine r_istore (q := 56) dX7_leastMean_54 rfl (Nat.le_of_ble_eq_true rfl) rfl ?_
  exact r_le (w_X7_leastMean_b56 G h0 N K27 hK27 N _ _ _ _) (Nat.le_refl _) (And.intro rfl (And.intro rfl (And.intro rfl trivial)))
theorem w_X7_leastMean_b27B (G : Gx) (h0 : G0 G) (N : Nat)   (K27 : Nat → Int64 → Int32 → Mem → Option (Int64 × Mem)) (hK27 : ∀ (a0 : Nat) (l1 : Int64) (l3 : Int32) (σ : Mem), Runs G mX7_leastMean rhoL σ 27 [some (vR (some a0)), some (vL l1), none, some (vI l3), none, none, none] [] (K27 a0 l1 l3 σ)) (a0 : Nat) (l1 : Int64) (l3 : Int32) (σ : Mem) : Runs G mX7_leastMean rhoL σ 27 [some (vR (some a0)), some (vL l1), none, some (vI l3), none, none, none] [] (f_X7_leastMean_b27B N  K27 a0 l1 l3 σ) := by
  unfold f_X7_leastMean_b27B
  refine r_iload_n (q := 28) dX7_leastMean_27 rfl rfl rfl ?_
  refine r_if_eq (q := 31) (t := 98) dX7_leastMean_28 rfl (by decide) (fun _ => ?_) (fun _ => ?_)
  · refine r_lload_n (q := 99) dX7_leastMean_98 rfl rfl rfl ?_
    exact r_lreturn rfl dX7_leastMean_99
  · refine r_aload_n (q := 32) dX7_leastMean_31 rfl rfl rfl ?_
    refine r_ob (fun a3 ha3 => ?_)
    obtain ⟨hea3, hka3⟩ := o_at_eq ha3
    cases hea3
    refine r_callL (q := 35) (c_X7_meanOf G h0 N _ _) (cl_V (ci := 6) rfl rfl (lw_V q2706 q2708 qs158 q176 q2709) (hd_X7_meanOf) ⟨Nat.le_of_ble_eq_true rfl, Nat.le_of_ble_eq_true rfl⟩ (List.mem_singleton.mp hka3) rfl rfl rfl (Nat.le_of_ble_eq_true rfl) dX7_leastMean_32) rfl (fun y1 σ2 => ?_)
    refine r_lstore (q := 37) dX7_leastMean_35 rfl (Nat.le_of_ble_eq_true rfl) rfl ?_
    refine r_lload_n (q := 38) dX7_leastMean_37 rfl rfl rfl ?_
    refine r_lconst (q := 39) (v := (0 : Int64)) dX7_leastMean_38 rfl (by decide) ?_
    refine r_lcmp (q := 40) dX7_leastMean_39 rfl ?_
    refine r_if_lt (q := 43) (t := 50) dX7_leastMean_40 rfl (by decide) (fun _ => ?_) (fun _ => ?_)
    · exact r_le (w_X7_leastMean_b50 G h0 N K27 hK27 _ _ _) (Nat.le_refl _) (And.intro rfl (And.intro rfl trivial))
    · refine r_lload (q := 45) dX7_leastMean_43 rfl rfl ?_
      refine r_lload_n (q := 46) dX7_leastMean_45 rfl rfl rfl ?_
      refine r_lcmp (q := 47) dX7_leastMean_46 rfl ?_
      refine r_if_ge (q := 50) (t := 83) dX7_leastMean_47 rfl (by decide) (fun _ => ?_) (fun _ => ?_)
      · exact r_le (w_X7_leastMean_b83 G h0 N K27 hK27 _ _ _) (Nat.le_refl _) (And.intro rfl (And.intro rfl trivial))
      · exact r_le (w_X7_leastMean_b50 G h0 N K27 hK27 _ _ _) (Nat.le_refl _) (And.intro rfl (And.intro rfl trivial))
theorem w_X7_leastMean_b27 (G : Gx) (h0 : G0 G) (N : Nat)   : ∀ (z : Nat) (a0 : Nat) (l1 : Int64) (l3 : Int32) (σ : Mem), Runs G mX7_leastMean rhoL σ 27 [some (vR (some a0)), some (vL l1), none, some (vI l3), none, none, none] [] (f_X7_leastMean_b27 N  z a0 l1 l3 σ) := by
  intro z
  induction z with
  | zero => exact fun _ _ _ _ => r_none
  | succ z ih => exact fun a0 l1 l3 σ => w_X7_leastMean_b27B G h0 N   _ ih a0 l1 l3 σ
theorem w_X7_leastMean_b2B (G : Gx) (h0 : G0 G) (N : Nat)   (K2 : Nat → Int32 → Mem → Option (Int64 × Mem)) (hK2 : ∀ (a0 : Nat) (l1 : Int32) (σ : Mem), Runs G mX7_leastMean rhoL σ 2 [some (vR (some a0)), some (vI l1), none, none, none, none, none] [] (K2 a0 l1 σ)) (a0 : Nat) (l1 : Int32) (σ : Mem) : Runs G mX7_leastMean rhoL σ 2 [some (vR (some a0)), some (vI l1), none, none, none, none, none] [] (f_X7_leastMean_b2B N  K2 a0 l1 σ) := by
  unfold f_X7_leastMean_b2B
  refine r_iload_n (q := 3) dX7_leastMean_2 rfl rfl rfl ?_
  refine r_bipush (q := 5) (v := (6 : Int32)) dX7_leastMean_3 rfl (by decide) ?_
  refine r_icmp_ge (q := 8) (t := 21) dX7_leastMean_5 rfl (by decide) (fun _ => ?_) (fun _ => ?_)
  · refine r_ldc2 (q := 24) (v := (-1 : Int64)) dX7_leastMean_21 rfl q2705 ?_
    refine r_lstore_n (q := 25) dX7_leastMean_24 rfl rfl (Nat.le_of_ble_eq_true rfl) rfl ?_
    refine r_iconst (q := 26) (v := (1 : Int32)) dX7_leastMean_25 rfl (by decide) ?_
    refine r_istore_n (q := 27) dX7_leastMean_26 rfl rfl (Nat.le_of_ble_eq_true rfl) rfl ?_
    exact r_le (w_X7_leastMean_b27 G h0 N N _ _ _ _) (Nat.le_refl _) (And.intro rfl (And.intro rfl (And.intro rfl trivial)))
  · refine r_aload_n (q := 9) dX7_leastMean_8 rfl rfl rfl ?_
    refine r_gR (q := 12) fl_X7_60 rfl dX7_leastMean_9 rfl (fun x1 => ?_)
    refine r_iload_n (q := 13) dX7_leastMean_12 rfl rfl rfl ?_
    refine r_iload_n (q := 14) dX7_leastMean_13 rfl rfl rfl ?_
    refine r_iastore (q := 15) dX7_leastMean_14 rfl (fun σ2 => ?_)
    refine r_iinc (q := 18) (v := (1 : Int32)) dX7_leastMean_15 rfl rfl (by decide) (Nat.le_of_ble_eq_true rfl) rfl ?_
    refine r_goto (q := 2) dX7_leastMean_18 (by decide) ?_
    exact r_le (hK2 _ _ _) (Nat.le_refl _) (And.intro rfl (And.intro rfl trivial))
theorem w_X7_leastMean_b2 (G : Gx) (h0 : G0 G) (N : Nat)   : ∀ (z : Nat) (a0 : Nat) (l1 : Int32) (σ : Mem), Runs G mX7_leastMean rhoL σ 2 [some (vR (some a0)), some (vI l1), none, none, none, none, none] [] (f_X7_leastMean_b2 N  z a0 l1 σ) := by
  intro z
  induction z with
  | zero => exact fun _ _ _ => r_none
  | succ z ih => exact fun a0 l1 σ => w_X7_leastMean_b2B G h0 N   _ ih a0 l1 σ
theorem c_X7_leastMean (G : Gx) (h0 : G0 G) (N : Nat) (a0 : Nat) (σ : Mem) : Ct G mX7_leastMean rhoL [vR (some a0)] σ (f_X7_leastMean N a0 σ) := by
  refine Ct_of h0 (by decide) rfl (Nat.le_of_ble_eq_true rfl) (L0 := [some (vR (some a0)), none, none, none, none, none, none]) rfl ?_
  unfold f_X7_leastMean
  refine r_iconst (q := 1) (v := (0 : Int32)) dX7_leastMean_0 rfl (by decide) ?_
  refine r_istore_n (q := 2) dX7_leastMean_1 rfl rfl (Nat.le_of_ble_eq_true rfl) rfl ?_
  exact r_le (w_X7_leastMean_b2 G h0 N N _ _ _) (Nat.le_refl _) (And.intro rfl (And.intro rfl trivial))
theorem c_X7_appeals (G : Gx) (h0 : G0 G) (N : Nat) (a0 : Nat) (σ : Mem) : Ct G mX7_appeals rhoL [vR (some a0)] σ (f_X7_appeals N a0 σ) := by
  refine Ct_of h0 (by decide) rfl (Nat.le_of_ble_eq_true rfl) (L0 := [some (vR (some a0))]) rfl ?_
  unfold f_X7_appeals
  refine r_aload_n (q := 1) dX7_appeals_0 rfl rfl rfl ?_
  refine r_iconst (q := 2) (v := (0 : Int32)) dX7_appeals_1 rfl (by decide) ?_
  refine r_pI (q := 5) fp_X7_appeals_66 dX7_appeals_2 rfl (fun σ1 => ?_)
  refine r_aload_n (q := 6) dX7_appeals_5 rfl rfl rfl ?_
  refine r_gR (q := 9) fl_X7_442 rfl dX7_appeals_6 rfl (fun x2 => ?_)
  refine r_ifnonnull (q := 12) (t := 19) dX7_appeals_9 rfl (by decide) (fun _ => ?_) (fun _ => ?_)
  · refine r_aload_n (q := 13) dX7_appeals_12 rfl rfl rfl ?_
    refine r_iconst (q := 14) (v := (1 : Int32)) dX7_appeals_13 rfl (by decide) ?_
    refine r_ob (fun a11 ha11 => ?_)
    obtain ⟨hea11, hka11⟩ := o_at_eq ha11
    cases hea11
    refine r_callI (q := 17) (c_X7_refused G h0 N _ _ _) (cl_V (ci := 6) rfl rfl (lw_V q2019 q2021 qs83 q176 q2022) (hd_X7_refused) ⟨Nat.le_of_ble_eq_true rfl, Nat.le_of_ble_eq_true rfl⟩ (List.mem_singleton.mp hka11) rfl rfl rfl (Nat.le_of_ble_eq_true rfl) dX7_appeals_14) rfl (fun x9 σ10 => ?_)
    refine r_i2l (q := 18) dX7_appeals_17 rfl ?_
    exact r_lreturn rfl dX7_appeals_18
  · refine r_aload_n (q := 20) dX7_appeals_19 rfl rfl rfl ?_
    refine r_iconst (q := 21) (v := (0 : Int32)) dX7_appeals_20 rfl (by decide) ?_
    refine r_ob (fun a5 ha5 => ?_)
    obtain ⟨hea5, hka5⟩ := o_at_eq ha5
    cases hea5
    refine r_callI (q := 24) (c_X7_good G h0 N _ _ _) (cl_V (ci := 6) rfl rfl (lw_V q2379 q2381 qs118 q176 q2382) (hd_X7_good) ⟨Nat.le_of_ble_eq_true rfl, Nat.le_of_ble_eq_true rfl⟩ (List.mem_singleton.mp hka5) rfl rfl rfl (Nat.le_of_ble_eq_true rfl) dX7_appeals_21) rfl (fun x3 σ4 => ?_)
    refine r_pop (q := 25) dX7_appeals_24 rfl rfl ?_
    refine r_aload_n (q := 26) dX7_appeals_25 rfl rfl rfl ?_
    refine r_ob (fun a8 ha8 => ?_)
    obtain ⟨hea8, hka8⟩ := o_at_eq ha8
    cases hea8
    refine r_callL (q := 29) (c_X7_leastMean G h0 N _ _) (cl_V (ci := 6) rfl rfl (lw_V q2701 q2703 qs157 q176 q2704) (hd_X7_leastMean) ⟨Nat.le_of_ble_eq_true rfl, Nat.le_of_ble_eq_true rfl⟩ (List.mem_singleton.mp hka8) rfl rfl rfl (Nat.le_of_ble_eq_true rfl) dX7_appeals_26) rfl (fun y6 σ7 => ?_)
    exact r_lreturn rfl dX7_appeals_29
theorem c_X6_at (G : Gx) (h0 : G0 G) (N : Nat) (a0 : Nat) (i1 : Int32) (σ : Mem) : Ct G mX6_at rhoI [vR (some a0), vI i1] σ (f_X6_at N a0 i1 σ) := by
  refine Ct_of h0 (by decide) rfl (Nat.le_of_ble_eq_true rfl) (L0 := [some (vR (some a0)), some (vI i1)]) rfl ?_
  unfold f_X6_at
  refine r_aload_n (q := 1) dX6_at_0 rfl rfl rfl ?_
  refine r_gR (q := 4) fl_X6_15 rfl dX6_at_1 rfl (fun x1 => ?_)
  refine r_iload_n (q := 5) dX6_at_4 rfl rfl rfl ?_
  refine r_iaload (q := 6) dX6_at_5 rfl (fun x2 => ?_)
  exact r_ireturn rfl rfl dX6_at_6
theorem w_X1_appealAt_b28 (G : Gx) (h0 : G0 G) (N : Nat)   (a0 : Nat) (σ : Mem) : Runs G mX1_appealAt rhoI σ 28 [some (vR (some a0)), none] [] (f_X1_appealAt_b28 N  a0 σ) := by
  unfold f_X1_appealAt_b28
  refine r_aload_n (q := 29) dX1_appealAt_28 rfl rfl rfl ?_
  refine r_iconst (q := 30) (v := (1 : Int32)) dX1_appealAt_29 rfl (by decide) ?_
  refine r_ob (fun a3 ha3 => ?_)
  obtain ⟨hea3, hka3⟩ := o_at_eq ha3
  cases hea3
  refine r_callI (q := 33) (c_X1_no G h0 N _ _ _) (cl_V (ci := 0) rfl rfl (lw_V q492 q494 qs3 q167 q495) (hd_X1_no) ⟨Nat.le_of_ble_eq_true rfl, Nat.le_of_ble_eq_true rfl⟩ (List.mem_singleton.mp hka3) rfl rfl rfl (Nat.le_of_ble_eq_true rfl) dX1_appealAt_30) rfl (fun x1 σ2 => ?_)
  exact r_ireturn rfl rfl dX1_appealAt_33
theorem c_X1_appealAt (G : Gx) (h0 : G0 G) (N : Nat) (a0 : Nat) (i1 : Int32) (σ : Mem) : Ct G mX1_appealAt rhoI [vR (some a0), vI i1] σ (f_X1_appealAt N a0 i1 σ) := by
  refine Ct_of h0 (by decide) rfl (Nat.le_of_ble_eq_true rfl) (L0 := [some (vR (some a0)), some (vI i1)]) rfl ?_
  unfold f_X1_appealAt
  refine r_aload_n (q := 1) dX1_appealAt_0 rfl rfl rfl ?_
  refine r_ob (fun a3 ha3 => ?_)
  obtain ⟨hea3, hka3⟩ := o_at_eq ha3
  cases hea3
  refine r_callV (q := 4) (c_X1_anew G h0 N _ _) (cl_V (ci := 0) rfl rfl (lw_V q485 q487 qs2 q167 q488) (hd_X1_anew) ⟨Nat.le_of_ble_eq_true rfl, Nat.le_of_ble_eq_true rfl⟩ (List.mem_singleton.mp hka3) rfl rfl rfl (Nat.le_of_ble_eq_true rfl) dX1_appealAt_1) rfl (fun u1 σ2 => ?_)
  refine r_aload_n (q := 5) dX1_appealAt_4 rfl rfl rfl ?_
  refine r_gR (q := 8) fl_X1_104 rfl dX1_appealAt_5 rfl (fun x4 => ?_)
  refine r_ifnull (q := 11) (t := 28) dX1_appealAt_8 rfl (by decide) (fun _ => ?_) (fun _ => ?_)
  · exact r_le (w_X1_appealAt_b28 G h0 N _ _) (Nat.le_refl _) (And.intro rfl trivial)
  · refine r_iload_n (q := 12) dX1_appealAt_11 rfl rfl rfl ?_
    refine r_iconst (q := 13) (v := (0 : Int32)) dX1_appealAt_12 rfl (by decide) ?_
    refine r_aload_n (q := 14) dX1_appealAt_13 rfl rfl rfl ?_
    refine r_gR (q := 17) fl_X1_104 rfl dX1_appealAt_14 rfl (fun x5 => ?_)
    refine r_gI (q := 20) fl_X1_421 dX1_appealAt_17 rfl (fun x6 => ?_)
    refine r_iconst (q := 21) (v := (1 : Int32)) dX1_appealAt_20 rfl (by decide) ?_
    refine r_isub (q := 22) dX1_appealAt_21 rfl ?_
    refine r_callI (q := 25) (c_X1_in G h0 N _ _ _ _) (cl_S rfl rfl (lw_S q489 q490 q167 q491) (hd_X1_in) ⟨Nat.le_of_ble_eq_true rfl, Nat.le_of_ble_eq_true rfl⟩ rfl (Nat.le_of_ble_eq_true rfl) dX1_appealAt_22) rfl (fun x7 σ8 => ?_)
    refine r_if_ne (q := 28) (t := 34) dX1_appealAt_25 rfl (by decide) (fun _ => ?_) (fun _ => ?_)
    · exact r_le (w_X1_appealAt_b28 G h0 N _ _) (Nat.le_refl _) (And.intro rfl trivial)
    · refine r_aload_n (q := 35) dX1_appealAt_34 rfl rfl rfl ?_
      refine r_gR (q := 38) fl_X1_53 rfl dX1_appealAt_35 rfl (fun x9 => ?_)
      refine r_aload_n (q := 39) dX1_appealAt_38 rfl rfl rfl ?_
      refine r_gR (q := 42) fl_X1_104 rfl dX1_appealAt_39 rfl (fun x10 => ?_)
      refine r_ob (fun a13 ha13 => ?_)
      obtain ⟨hea13, hka13⟩ := o_at_eq ha13
      cases hea13
      refine r_callV (q := 45) (c_X6_lay G h0 N _ _ _) (cl_V (ci := 5) rfl rfl (lw_V q1768 q1769 q1770 q175 q1771) (hd_X6_lay) ⟨Nat.le_of_ble_eq_true rfl, Nat.le_of_ble_eq_true rfl⟩ (List.mem_singleton.mp hka13) rfl rfl rfl (Nat.le_of_ble_eq_true rfl) dX1_appealAt_42) rfl (fun u11 σ12 => ?_)
      refine r_aload_n (q := 46) dX1_appealAt_45 rfl rfl rfl ?_
      refine r_gR (q := 49) fl_X1_53 rfl dX1_appealAt_46 rfl (fun x14 => ?_)
      refine r_iload_n (q := 50) dX1_appealAt_49 rfl rfl rfl ?_
      refine r_ob (fun a17 ha17 => ?_)
      obtain ⟨hea17, hka17⟩ := o_at_eq ha17
      cases hea17
      refine r_callI (q := 53) (c_X6_at G h0 N _ _ _) (cl_V (ci := 5) rfl rfl (lw_V q1788 q1789 q1790 q175 q1791) (hd_X6_at) ⟨Nat.le_of_ble_eq_true rfl, Nat.le_of_ble_eq_true rfl⟩ (List.mem_singleton.mp hka17) rfl rfl rfl (Nat.le_of_ble_eq_true rfl) dX1_appealAt_50) rfl (fun x15 σ16 => ?_)
      exact r_ireturn rfl rfl dX1_appealAt_53
theorem w_X7_appealAt_b27 (G : Gx) (h0 : G0 G) (N : Nat)   (a0 : Nat) (σ : Mem) : Runs G mX7_appealAt rhoI σ 27 [some (vR (some a0)), none] [] (f_X7_appealAt_b27 N  a0 σ) := by
  unfold f_X7_appealAt_b27
  refine r_aload_n (q := 28) dX7_appealAt_27 rfl rfl rfl ?_
  refine r_iconst (q := 29) (v := (1 : Int32)) dX7_appealAt_28 rfl (by decide) ?_
  refine r_ob (fun a3 ha3 => ?_)
  obtain ⟨hea3, hka3⟩ := o_at_eq ha3
  cases hea3
  refine r_callI (q := 32) (c_X7_refused G h0 N _ _ _) (cl_V (ci := 6) rfl rfl (lw_V q2019 q2021 qs83 q176 q2022) (hd_X7_refused) ⟨Nat.le_of_ble_eq_true rfl, Nat.le_of_ble_eq_true rfl⟩ (List.mem_singleton.mp hka3) rfl rfl rfl (Nat.le_of_ble_eq_true rfl) dX7_appealAt_29) rfl (fun x1 σ2 => ?_)
  exact r_ireturn rfl rfl dX7_appealAt_32
theorem c_X7_appealAt (G : Gx) (h0 : G0 G) (N : Nat) (a0 : Nat) (i1 : Int32) (σ : Mem) : Ct G mX7_appealAt rhoI [vR (some a0), vI i1] σ (f_X7_appealAt N a0 i1 σ) := by
  refine Ct_of h0 (by decide) rfl (Nat.le_of_ble_eq_true rfl) (L0 := [some (vR (some a0)), some (vI i1)]) rfl ?_
  unfold f_X7_appealAt
  refine r_aload_n (q := 1) dX7_appealAt_0 rfl rfl rfl ?_
  refine r_iconst (q := 2) (v := (0 : Int32)) dX7_appealAt_1 rfl (by decide) ?_
  refine r_pI (q := 5) fp_X7_appealAt_66 dX7_appealAt_2 rfl (fun σ1 => ?_)
  refine r_aload_n (q := 6) dX7_appealAt_5 rfl rfl rfl ?_
  refine r_gR (q := 9) fl_X7_442 rfl dX7_appealAt_6 rfl (fun x2 => ?_)
  refine r_ifnull (q := 12) (t := 27) dX7_appealAt_9 rfl (by decide) (fun _ => ?_) (fun _ => ?_)
  · exact r_le (w_X7_appealAt_b27 G h0 N _ _) (Nat.le_refl _) (And.intro rfl trivial)
  · refine r_iload_n (q := 13) dX7_appealAt_12 rfl rfl rfl ?_
    refine r_if_lt (q := 16) (t := 27) dX7_appealAt_13 rfl (by decide) (fun _ => ?_) (fun _ => ?_)
    · exact r_le (w_X7_appealAt_b27 G h0 N _ _) (Nat.le_refl _) (And.intro rfl trivial)
    · refine r_iload_n (q := 17) dX7_appealAt_16 rfl rfl rfl ?_
      refine r_aload_n (q := 18) dX7_appealAt_17 rfl rfl rfl ?_
      refine r_gR (q := 21) fl_X7_442 rfl dX7_appealAt_18 rfl (fun x3 => ?_)
      refine r_gI (q := 24) fl_X7_419 dX7_appealAt_21 rfl (fun x4 => ?_)
      refine r_icmp_lt (q := 27) (t := 33) dX7_appealAt_24 rfl (by decide) (fun _ => ?_) (fun _ => ?_)
      · refine r_aload_n (q := 34) dX7_appealAt_33 rfl rfl rfl ?_
        refine r_ob (fun a7 ha7 => ?_)
        obtain ⟨hea7, hka7⟩ := o_at_eq ha7
        cases hea7
        refine r_callL (q := 37) (c_X7_leastMean G h0 N _ _) (cl_V (ci := 6) rfl rfl (lw_V q2701 q2703 qs157 q176 q2704) (hd_X7_leastMean) ⟨Nat.le_of_ble_eq_true rfl, Nat.le_of_ble_eq_true rfl⟩ (List.mem_singleton.mp hka7) rfl rfl rfl (Nat.le_of_ble_eq_true rfl) dX7_appealAt_34) rfl (fun y5 σ6 => ?_)
        refine r_pop2 (q := 38) dX7_appealAt_37 rfl ?_
        refine r_aload_n (q := 39) dX7_appealAt_38 rfl rfl rfl ?_
        refine r_aload_n (q := 40) dX7_appealAt_39 rfl rfl rfl ?_
        refine r_gR (q := 43) fl_X7_63 rfl dX7_appealAt_40 rfl (fun x8 => ?_)
        refine r_iload_n (q := 44) dX7_appealAt_43 rfl rfl rfl ?_
        refine r_iaload (q := 45) dX7_appealAt_44 rfl (fun x9 => ?_)
        refine r_ob (fun a12 ha12 => ?_)
        obtain ⟨hea12, hka12⟩ := o_at_eq ha12
        cases hea12
        refine r_callI (q := 48) (c_X7_good G h0 N _ _ _) (cl_V (ci := 6) rfl rfl (lw_V q2379 q2381 qs118 q176 q2382) (hd_X7_good) ⟨Nat.le_of_ble_eq_true rfl, Nat.le_of_ble_eq_true rfl⟩ (List.mem_singleton.mp hka12) rfl rfl rfl (Nat.le_of_ble_eq_true rfl) dX7_appealAt_45) rfl (fun x10 σ11 => ?_)
        exact r_ireturn rfl rfl dX7_appealAt_48
      · exact r_le (w_X7_appealAt_b27 G h0 N _ _) (Nat.le_refl _) (And.intro rfl trivial)
theorem w_X4_many_b30 (G : Gx) (h0 : G0 G) (N : Nat) (K4 : Nat → Int32 → Int32 → Int32 → Mem → Option (Int32 × Mem)) (hK4 : ∀ (a0 : Nat) (l1 : Int32) (l2 : Int32) (l3 : Int32) (σ : Mem), Runs G mX4_many rhoI σ 4 [some (vR (some a0)), some (vI l1), some (vI l2), some (vI l3)] [] (K4 a0 l1 l2 l3 σ)) (a0 : Nat) (l1 : Int32) (l3 : Int32) (t0 : Int32) (t1 : Int32) (σ : Mem) : Runs G mX4_many rhoI σ 30 [some (vR (some a0)), some (vI l1), none, some (vI l3)] [vI t1, vI t0] (f_X4_many_b30 N K4 a0 l1 l3 t0 t1 σ) := by
  unfold f_X4_many_b30
  refine r_callI (q := 33) (c_X1_ones G h0 N _ _) (cl_SN rfl rfl q1805 q1630 q167 q1631 (hd_X1_ones) ⟨Nat.le_of_ble_eq_true rfl, Nat.le_of_ble_eq_true rfl⟩ rfl (Nat.le_of_ble_eq_true rfl) dX4_many_30) rfl (fun x1 σ2 => ?_)
  refine r_iadd (q := 34) dX4_many_33 rfl ?_
  refine r_istore_n (q := 35) dX4_many_34 rfl rfl (Nat.le_of_ble_eq_true rfl) rfl ?_
  refine r_iinc (q := 38) (v := (1 : Int32)) dX4_many_35 rfl rfl (by decide) (Nat.le_of_ble_eq_true rfl) rfl ?_
  refine r_goto (q := 4) dX4_many_38 (by decide) ?_
  exact r_le (hK4 _ _ _ _ _) (Nat.le_refl _) (And.intro rfl (And.intro rfl (And.intro rfl (And.intro rfl trivial))))
theorem w_X4_many_b4B (G : Gx) (h0 : G0 G) (N : Nat)   (K4 : Nat → Int32 → Int32 → Int32 → Mem → Option (Int32 × Mem)) (hK4 : ∀ (a0 : Nat) (l1 : Int32) (l2 : Int32) (l3 : Int32) (σ : Mem), Runs G mX4_many rhoI σ 4 [some (vR (some a0)), some (vI l1), some (vI l2), some (vI l3)] [] (K4 a0 l1 l2 l3 σ)) (a0 : Nat) (l1 : Int32) (l2 : Int32) (l3 : Int32) (σ : Mem) : Runs G mX4_many rhoI σ 4 [some (vR (some a0)), some (vI l1), some (vI l2), some (vI l3)] [] (f_X4_many_b4B N  K4 a0 l1 l2 l3 σ) := by
  unfold f_X4_many_b4B
  refine r_iload_n (q := 5) dX4_many_4 rfl rfl rfl ?_
  refine r_bipush (q := 7) (v := (12 : Int32)) dX4_many_5 rfl (by decide) ?_
  refine r_icmp_ge (q := 10) (t := 41) dX4_many_7 rfl (by decide) (fun _ => ?_) (fun _ => ?_)
  · refine r_iload_n (q := 42) dX4_many_41 rfl rfl rfl ?_
    exact r_ireturn rfl rfl dX4_many_42
  · refine r_iload_n (q := 11) dX4_many_10 rfl rfl rfl ?_
    refine r_iload_n (q := 12) dX4_many_11 rfl rfl rfl ?_
    refine r_if_eq (q := 15) (t := 24) dX4_many_12 rfl (by decide) (fun _ => ?_) (fun _ => ?_)
    · refine r_aload_n (q := 25) dX4_many_24 rfl rfl rfl ?_
      refine r_gR (q := 28) fl_X4_9 rfl dX4_many_25 rfl (fun x1 => ?_)
      refine r_iload_n (q := 29) dX4_many_28 rfl rfl rfl ?_
      refine r_iaload (q := 30) dX4_many_29 rfl (fun x2 => ?_)
      exact r_le (w_X4_many_b30 G h0 N K4 hK4 _ _ _ _ _ _) (Nat.le_refl _) (And.intro rfl (And.intro rfl (And.intro rfl trivial)))
    · refine r_aload_n (q := 16) dX4_many_15 rfl rfl rfl ?_
      refine r_gR (q := 19) fl_X4_15 rfl dX4_many_16 rfl (fun x3 => ?_)
      refine r_iload_n (q := 20) dX4_many_19 rfl rfl rfl ?_
      refine r_iaload (q := 21) dX4_many_20 rfl (fun x4 => ?_)
      refine r_goto (q := 30) dX4_many_21 (by decide) ?_
      exact r_le (w_X4_many_b30 G h0 N K4 hK4 _ _ _ _ _ _) (Nat.le_refl _) (And.intro rfl (And.intro rfl (And.intro rfl trivial)))
theorem w_X4_many_b4 (G : Gx) (h0 : G0 G) (N : Nat)   : ∀ (z : Nat) (a0 : Nat) (l1 : Int32) (l2 : Int32) (l3 : Int32) (σ : Mem), Runs G mX4_many rhoI σ 4 [some (vR (some a0)), some (vI l1), some (vI l2), some (vI l3)] [] (f_X4_many_b4 N  z a0 l1 l2 l3 σ) := by
  intro z
  induction z with
  | zero => exact fun _ _ _ _ _ => r_none
  | succ z ih => exact fun a0 l1 l2 l3 σ => w_X4_many_b4B G h0 N   _ ih a0 l1 l2 l3 σ
theorem c_X4_many (G : Gx) (h0 : G0 G) (N : Nat) (a0 : Nat) (i1 : Int32) (σ : Mem) : Ct G mX4_many rhoI [vR (some a0), vI i1] σ (f_X4_many N a0 i1 σ) := by
  refine Ct_of h0 (by decide) rfl (Nat.le_of_ble_eq_true rfl) (L0 := [some (vR (some a0)), some (vI i1), none, none]) rfl ?_
  unfold f_X4_many
  refine r_iconst (q := 1) (v := (0 : Int32)) dX4_many_0 rfl (by decide) ?_
  refine r_istore_n (q := 2) dX4_many_1 rfl rfl (Nat.le_of_ble_eq_true rfl) rfl ?_
  refine r_iconst (q := 3) (v := (0 : Int32)) dX4_many_2 rfl (by decide) ?_
  refine r_istore_n (q := 4) dX4_many_3 rfl rfl (Nat.le_of_ble_eq_true rfl) rfl ?_
  exact r_le (w_X4_many_b4 G h0 N N _ _ _ _ _) (Nat.le_refl _) (And.intro rfl (And.intro rfl (And.intro rfl (And.intro rfl trivial))))
theorem c_X1_yes (G : Gx) (h0 : G0 G) (N : Nat) (a0 : Nat) (i1 : Int32) (σ : Mem) : Ct G mX1_yes rhoI [vR (some a0), vI i1] σ (f_X1_yes N a0 i1 σ) := by
  refine Ct_of h0 (by decide) rfl (Nat.le_of_ble_eq_true rfl) (L0 := [some (vR (some a0)), some (vI i1)]) rfl ?_
  unfold f_X1_yes
  refine r_aload_n (q := 1) dX1_yes_0 rfl rfl rfl ?_
  refine r_ob (fun a3 ha3 => ?_)
  obtain ⟨hea3, hka3⟩ := o_at_eq ha3
  cases hea3
  refine r_callV (q := 4) (c_X1_anew G h0 N _ _) (cl_V (ci := 0) rfl rfl (lw_V q485 q487 qs2 q167 q488) (hd_X1_anew) ⟨Nat.le_of_ble_eq_true rfl, Nat.le_of_ble_eq_true rfl⟩ (List.mem_singleton.mp hka3) rfl rfl rfl (Nat.le_of_ble_eq_true rfl) dX1_yes_1) rfl (fun u1 σ2 => ?_)
  refine r_aload_n (q := 5) dX1_yes_4 rfl rfl rfl ?_
  refine r_iload_n (q := 6) dX1_yes_5 rfl rfl rfl ?_
  refine r_pI (q := 9) fp_X1_yes_77 dX1_yes_6 rfl (fun σ4 => ?_)
  refine r_iload_n (q := 10) dX1_yes_9 rfl rfl rfl ?_
  refine r_if_ne (q := 13) (t := 17) dX1_yes_10 rfl (by decide) (fun _ => ?_) (fun _ => ?_)
  · refine r_iconst (q := 14) (v := (1 : Int32)) dX1_yes_13 rfl (by decide) ?_
    refine r_goto (q := 18) dX1_yes_14 (by decide) ?_
    exact r_ireturnN rfl dX1_yes_18
  · refine r_iconst (q := 18) (v := (0 : Int32)) dX1_yes_17 rfl (by decide) ?_
    exact r_ireturnN rfl dX1_yes_18
theorem c_X1_note (G : Gx) (h0 : G0 G) (N : Nat) (a0 : Nat) (σ : Mem) : Ct G mX1_note rhoV [vR (some a0)] σ (f_X1_note N a0 σ) := by
  refine Ct_of h0 (by decide) rfl (Nat.le_of_ble_eq_true rfl) (L0 := [some (vR (some a0))]) rfl ?_
  unfold f_X1_note
  refine r_aload_n (q := 1) dX1_note_0 rfl rfl rfl ?_
  refine r_gR (q := 4) fl_X1_37 rfl dX1_note_1 rfl (fun x1 => ?_)
  refine r_aload_n (q := 5) dX1_note_4 rfl rfl rfl ?_
  refine r_gR (q := 8) fl_X1_33 rfl dX1_note_5 rfl (fun x2 => ?_)
  refine r_ob (fun a5 ha5 => ?_)
  obtain ⟨hea5, hka5⟩ := o_at_eq ha5
  cases hea5
  refine r_callV (q := 11) (c_X4_become G h0 N _ _ _) (cl_V (ci := 3) rfl rfl (lw_V q1677 q1678 q1679 q173 q1680) (hd_X4_become) ⟨Nat.le_of_ble_eq_true rfl, Nat.le_of_ble_eq_true rfl⟩ (List.mem_singleton.mp hka5) rfl rfl rfl (Nat.le_of_ble_eq_true rfl) dX1_note_8) rfl (fun u3 σ4 => ?_)
  exact r_return rfl dX1_note_11
theorem c_X4_change (G : Gx) (h0 : G0 G) (N : Nat) (a0 : Nat) (i1 : Int32) (i2 : Int32) (i3 : Int32) (σ : Mem) : Ct G mX4_change rhoV [vR (some a0), vI i1, vI i2, vI i3] σ (f_X4_change N a0 i1 i2 i3 σ) := by
  refine Ct_of h0 (by decide) rfl (Nat.le_of_ble_eq_true rfl) (L0 := [some (vR (some a0)), some (vI i1), some (vI i2), some (vI i3)]) rfl ?_
  unfold f_X4_change
  refine r_iload_n (q := 1) dX4_change_0 rfl rfl rfl ?_
  refine r_if_eq (q := 4) (t := 19) dX4_change_1 rfl (by decide) (fun _ => ?_) (fun _ => ?_)
  · refine r_aload_n (q := 20) dX4_change_19 rfl rfl rfl ?_
    refine r_gR (q := 23) fl_X4_9 rfl dX4_change_20 rfl (fun x1 => ?_)
    refine r_iload_n (q := 24) dX4_change_23 rfl rfl rfl ?_
    refine r_dup2 (q := 25) dX4_change_24 rfl rfl rfl ?_
    refine r_iaload (q := 26) dX4_change_25 rfl (fun x2 => ?_)
    refine r_iconst (q := 27) (v := (1 : Int32)) dX4_change_26 rfl (by decide) ?_
    refine r_iload_n (q := 28) dX4_change_27 rfl rfl rfl ?_
    refine r_ishl (q := 29) dX4_change_28 rfl ?_
    refine r_ixor (q := 30) dX4_change_29 rfl ?_
    refine r_iastore (q := 31) dX4_change_30 rfl (fun σ3 => ?_)
    exact r_return rfl dX4_change_31
  · refine r_aload_n (q := 5) dX4_change_4 rfl rfl rfl ?_
    refine r_gR (q := 8) fl_X4_15 rfl dX4_change_5 rfl (fun x4 => ?_)
    refine r_iload_n (q := 9) dX4_change_8 rfl rfl rfl ?_
    refine r_dup2 (q := 10) dX4_change_9 rfl rfl rfl ?_
    refine r_iaload (q := 11) dX4_change_10 rfl (fun x5 => ?_)
    refine r_iconst (q := 12) (v := (1 : Int32)) dX4_change_11 rfl (by decide) ?_
    refine r_iload_n (q := 13) dX4_change_12 rfl rfl rfl ?_
    refine r_ishl (q := 14) dX4_change_13 rfl ?_
    refine r_ixor (q := 15) dX4_change_14 rfl ?_
    refine r_iastore (q := 16) dX4_change_15 rfl (fun σ6 => ?_)
    refine r_goto (q := 31) dX4_change_16 (by decide) ?_
    exact r_return rfl dX4_change_31
theorem w_X1_done_b62 (G : Gx) (h0 : G0 G) (N : Nat)   (a0 : Nat) (σ : Mem) : Runs G mX1_done rhoI σ 62 [some (vR (some a0)), none, none] [] (f_X1_done_b62 N  a0 σ) := by
  unfold f_X1_done_b62
  refine r_aload_n (q := 63) dX1_done_62 rfl rfl rfl ?_
  refine r_gR (q := 66) fl_X1_57 rfl dX1_done_63 rfl (fun x1 => ?_)
  refine r_aload_n (q := 67) dX1_done_66 rfl rfl rfl ?_
  refine r_gI (q := 70) fl_X1_118 dX1_done_67 rfl (fun x2 => ?_)
  refine r_aaload (q := 71) (k0 := 5) (by decide) dX1_done_70 rfl (fun x3 => ?_)
  refine r_aload_n (q := 72) dX1_done_71 rfl rfl rfl ?_
  refine r_gR (q := 75) fl_X1_37 rfl dX1_done_72 rfl (fun x4 => ?_)
  refine r_ob (fun a7 ha7 => ?_)
  obtain ⟨hea7, hka7⟩ := o_at_eq ha7
  cases hea7
  refine r_callV (q := 78) (c_X4_become G h0 N _ _ _) (cl_V (ci := 3) rfl rfl (lw_V q1677 q1678 q1679 q173 q1680) (hd_X4_become) ⟨Nat.le_of_ble_eq_true rfl, Nat.le_of_ble_eq_true rfl⟩ (List.mem_singleton.mp hka7) rfl rfl rfl (Nat.le_of_ble_eq_true rfl) dX1_done_75) rfl (fun u5 σ6 => ?_)
  refine r_aload_n (q := 79) dX1_done_78 rfl rfl rfl ?_
  refine r_dup (q := 80) dX1_done_79 rfl rfl ?_
  refine r_gI (q := 83) fl_X1_118 dX1_done_80 rfl (fun x8 => ?_)
  refine r_iconst (q := 84) (v := (1 : Int32)) dX1_done_83 rfl (by decide) ?_
  refine r_iadd (q := 85) dX1_done_84 rfl ?_
  refine r_pI (q := 88) fp_X1_done_118 dX1_done_85 rfl (fun σ9 => ?_)
  refine r_iconst (q := 89) (v := (1 : Int32)) dX1_done_88 rfl (by decide) ?_
  exact r_ireturnN rfl dX1_done_89
theorem w_X1_done_b18B (G : Gx) (h0 : G0 G) (N : Nat)   (K18 : Nat → Option Nat → Int32 → Mem → Option (Int32 × Mem)) (hK18 : ∀ (a0 : Nat) (l1 : Option Nat) (l2 : Int32) (σ : Mem), Runs G mX1_done rhoI σ 18 [some (vR (some a0)), some (vR l1), some (vI l2)] [] (K18 a0 l1 l2 σ)) (a0 : Nat) (l1 : Option Nat) (l2 : Int32) (σ : Mem) : Runs G mX1_done rhoI σ 18 [some (vR (some a0)), some (vR l1), some (vI l2)] [] (f_X1_done_b18B N  K18 a0 l1 l2 σ) := by
  unfold f_X1_done_b18B
  refine r_iload_n (q := 19) dX1_done_18 rfl rfl rfl ?_
  refine r_bipush (q := 21) (v := (16 : Int32)) dX1_done_19 rfl (by decide) ?_
  refine r_icmp_ge (q := 24) (t := 44) dX1_done_21 rfl (by decide) (fun _ => ?_) (fun _ => ?_)
  · refine r_aload_n (q := 45) dX1_done_44 rfl rfl rfl ?_
    refine r_gR (q := 48) fl_X1_57 rfl dX1_done_45 rfl (fun x1 => ?_)
    refine r_bipush (q := 50) (v := (15 : Int32)) dX1_done_48 rfl (by decide) ?_
    refine r_aload_n (q := 51) dX1_done_50 rfl rfl rfl ?_
    refine r_aastore (q := 52) (k0 := 5) (by decide) ia_GoatCourt_Ground dX1_done_51 rfl (fun σ2 => ?_)
    refine r_aload_n (q := 53) dX1_done_52 rfl rfl rfl ?_
    refine r_dup (q := 54) dX1_done_53 rfl rfl ?_
    refine r_gI (q := 57) fl_X1_118 dX1_done_54 rfl (fun x3 => ?_)
    refine r_iconst (q := 58) (v := (1 : Int32)) dX1_done_57 rfl (by decide) ?_
    refine r_isub (q := 59) dX1_done_58 rfl ?_
    refine r_pI (q := 62) fp_X1_done_118 dX1_done_59 rfl (fun σ4 => ?_)
    exact r_le (w_X1_done_b62 G h0 N _ _) (Nat.le_refl _) (And.intro rfl trivial)
  · refine r_aload_n (q := 25) dX1_done_24 rfl rfl rfl ?_
    refine r_gR (q := 28) fl_X1_57 rfl dX1_done_25 rfl (fun x5 => ?_)
    refine r_iload_n (q := 29) dX1_done_28 rfl rfl rfl ?_
    refine r_iconst (q := 30) (v := (1 : Int32)) dX1_done_29 rfl (by decide) ?_
    refine r_isub (q := 31) dX1_done_30 rfl ?_
    refine r_aload_n (q := 32) dX1_done_31 rfl rfl rfl ?_
    refine r_gR (q := 35) fl_X1_57 rfl dX1_done_32 rfl (fun x6 => ?_)
    refine r_iload_n (q := 36) dX1_done_35 rfl rfl rfl ?_
    refine r_aaload (q := 37) (k0 := 5) (by decide) dX1_done_36 rfl (fun x7 => ?_)
    refine r_aastore (q := 38) (k0 := 5) (by decide) ia_GoatCourt_Ground dX1_done_37 rfl (fun σ8 => ?_)
    refine r_iinc (q := 41) (v := (1 : Int32)) dX1_done_38 rfl rfl (by decide) (Nat.le_of_ble_eq_true rfl) rfl ?_
    refine r_goto (q := 18) dX1_done_41 (by decide) ?_
    exact r_le (hK18 _ _ _ _) (Nat.le_refl _) (And.intro rfl (And.intro rfl (And.intro rfl trivial)))
theorem w_X1_done_b18 (G : Gx) (h0 : G0 G) (N : Nat)   : ∀ (z : Nat) (a0 : Nat) (l1 : Option Nat) (l2 : Int32) (σ : Mem), Runs G mX1_done rhoI σ 18 [some (vR (some a0)), some (vR l1), some (vI l2)] [] (f_X1_done_b18 N  z a0 l1 l2 σ) := by
  intro z
  induction z with
  | zero => exact fun _ _ _ _ => r_none
  | succ z ih => exact fun a0 l1 l2 σ => w_X1_done_b18B G h0 N   _ ih a0 l1 l2 σ
theorem c_X1_done (G : Gx) (h0 : G0 G) (N : Nat) (a0 : Nat) (σ : Mem) : Ct G mX1_done rhoI [vR (some a0)] σ (f_X1_done N a0 σ) := by
  refine Ct_of h0 (by decide) rfl (Nat.le_of_ble_eq_true rfl) (L0 := [some (vR (some a0)), none, none]) rfl ?_
  unfold f_X1_done
  refine r_aload_n (q := 1) dX1_done_0 rfl rfl rfl ?_
  refine r_gI (q := 4) fl_X1_118 dX1_done_1 rfl (fun x1 => ?_)
  refine r_bipush (q := 6) (v := (16 : Int32)) dX1_done_4 rfl (by decide) ?_
  refine r_icmp_ne (q := 9) (t := 62) dX1_done_6 rfl (by decide) (fun _ => ?_) (fun _ => ?_)
  · refine r_aload_n (q := 10) dX1_done_9 rfl rfl rfl ?_
    refine r_gR (q := 13) fl_X1_57 rfl dX1_done_10 rfl (fun x2 => ?_)
    refine r_iconst (q := 14) (v := (0 : Int32)) dX1_done_13 rfl (by decide) ?_
    refine r_aaload (q := 15) (k0 := 5) (by decide) dX1_done_14 rfl (fun x3 => ?_)
    refine r_astore_n (q := 16) dX1_done_15 rfl rfl (Nat.le_of_ble_eq_true rfl) rfl ?_
    refine r_iconst (q := 17) (v := (1 : Int32)) dX1_done_16 rfl (by decide) ?_
    refine r_istore_n (q := 18) dX1_done_17 rfl rfl (Nat.le_of_ble_eq_true rfl) rfl ?_
    exact r_le (w_X1_done_b18 G h0 N N _ _ _ _) (Nat.le_refl _) (And.intro rfl (And.intro rfl (And.intro rfl trivial)))
  · exact r_le (w_X1_done_b62 G h0 N _ _) (Nat.le_refl _) (And.intro rfl trivial)
theorem w_X1_puts_b65 (G : Gx) (h0 : G0 G) (N : Nat)   (a0 : Nat) (l1 : Int32) (l2 : Int32) (l4 : Int32) (t0 : Int32) (σ : Mem) : Runs G mX1_puts rhoI σ 65 [some (vR (some a0)), some (vI l1), some (vI l2), none, some (vI l4), none] [vI t0] (f_X1_puts_b65 N  a0 l1 l2 l4 t0 σ) := by
  unfold f_X1_puts_b65
  refine r_istore (q := 67) dX1_puts_65 rfl (Nat.le_of_ble_eq_true rfl) rfl ?_
  refine r_aload_n (q := 68) dX1_puts_67 rfl rfl rfl ?_
  refine r_iload (q := 70) dX1_puts_68 rfl rfl ?_
  refine r_ob (fun a3 ha3 => ?_)
  obtain ⟨hea3, hka3⟩ := o_at_eq ha3
  cases hea3
  refine r_callI (q := 73) (c_X1_yes G h0 N _ _ _) (cl_V (ci := 0) rfl rfl (lw_V q1806 q1808 qs80 q167 q1809) (hd_X1_yes) ⟨Nat.le_of_ble_eq_true rfl, Nat.le_of_ble_eq_true rfl⟩ (List.mem_singleton.mp hka3) rfl rfl rfl (Nat.le_of_ble_eq_true rfl) dX1_puts_70) rfl (fun x1 σ2 => ?_)
  refine r_if_ne (q := 76) (t := 78) dX1_puts_73 rfl (by decide) (fun _ => ?_) (fun _ => ?_)
  · refine r_iconst (q := 77) (v := (0 : Int32)) dX1_puts_76 rfl (by decide) ?_
    exact r_ireturnN rfl dX1_puts_77
  · refine r_aload_n (q := 79) dX1_puts_78 rfl rfl rfl ?_
    refine r_ob (fun a6 ha6 => ?_)
    obtain ⟨hea6, hka6⟩ := o_at_eq ha6
    cases hea6
    refine r_callV (q := 82) (c_X1_note G h0 N _ _) (cl_V (ci := 0) rfl rfl (lw_V q1810 q1812 qs81 q167 q1813) (hd_X1_note) ⟨Nat.le_of_ble_eq_true rfl, Nat.le_of_ble_eq_true rfl⟩ (List.mem_singleton.mp hka6) rfl rfl rfl (Nat.le_of_ble_eq_true rfl) dX1_puts_79) rfl (fun u4 σ5 => ?_)
    refine r_aload_n (q := 83) dX1_puts_82 rfl rfl rfl ?_
    refine r_gR (q := 86) fl_X1_33 rfl dX1_puts_83 rfl (fun x7 => ?_)
    refine r_iload_n (q := 87) dX1_puts_86 rfl rfl rfl ?_
    refine r_iload_n (q := 88) dX1_puts_87 rfl rfl rfl ?_
    refine r_iload (q := 90) dX1_puts_88 rfl rfl ?_
    refine r_ob (fun a10 ha10 => ?_)
    obtain ⟨hea10, hka10⟩ := o_at_eq ha10
    cases hea10
    refine r_callV (q := 93) (c_X4_change G h0 N _ _ _ _ _) (cl_V (ci := 3) rfl rfl (lw_V q1814 q1815 q1816 q173 q1817) (hd_X4_change) ⟨Nat.le_of_ble_eq_true rfl, Nat.le_of_ble_eq_true rfl⟩ (List.mem_singleton.mp hka10) rfl rfl rfl (Nat.le_of_ble_eq_true rfl) dX1_puts_90) rfl (fun u8 σ9 => ?_)
    refine r_aload_n (q := 94) dX1_puts_93 rfl rfl rfl ?_
    refine r_ob (fun a13 ha13 => ?_)
    obtain ⟨hea13, hka13⟩ := o_at_eq ha13
    cases hea13
    refine r_callI (q := 97) (c_X1_done G h0 N _ _) (cl_V (ci := 0) rfl rfl (lw_V q1818 q1820 qs82 q167 q1821) (hd_X1_done) ⟨Nat.le_of_ble_eq_true rfl, Nat.le_of_ble_eq_true rfl⟩ (List.mem_singleton.mp hka13) rfl rfl rfl (Nat.le_of_ble_eq_true rfl) dX1_puts_94) rfl (fun x11 σ12 => ?_)
    exact r_ireturnN rfl dX1_puts_97
theorem w_X1_puts_b64 (G : Gx) (h0 : G0 G) (N : Nat)   (a0 : Nat) (l1 : Int32) (l2 : Int32) (l4 : Int32) (σ : Mem) : Runs G mX1_puts rhoI σ 64 [some (vR (some a0)), some (vI l1), some (vI l2), none, some (vI l4), none] [] (f_X1_puts_b64 N  a0 l1 l2 l4 σ) := by
  unfold f_X1_puts_b64
  refine r_iconst (q := 65) (v := (0 : Int32)) dX1_puts_64 rfl (by decide) ?_
  exact r_le (w_X1_puts_b65 G h0 N _ _ _ _ _ _) (Nat.le_refl _) (And.intro rfl (And.intro rfl (And.intro rfl (And.intro rfl trivial))))
theorem c_X1_puts (G : Gx) (h0 : G0 G) (N : Nat) (a0 : Nat) (i1 : Int32) (i2 : Int32) (i3 : Int32) (i4 : Int32) (σ : Mem) : Ct G mX1_puts rhoI [vR (some a0), vI i1, vI i2, vI i3, vI i4] σ (f_X1_puts N a0 i1 i2 i3 i4 σ) := by
  refine Ct_of h0 (by decide) rfl (Nat.le_of_ble_eq_true rfl) (L0 := [some (vR (some a0)), some (vI i1), some (vI i2), some (vI i3), some (vI i4), none]) rfl ?_
  unfold f_X1_puts
  refine r_aload_n (q := 1) dX1_puts_0 rfl rfl rfl ?_
  refine r_iload_n (q := 2) dX1_puts_1 rfl rfl rfl ?_
  refine r_ob (fun a3 ha3 => ?_)
  obtain ⟨hea3, hka3⟩ := o_at_eq ha3
  cases hea3
  refine r_callI (q := 5) (c_X1_isPlace G h0 N _ _ _) (cl_V (ci := 0) rfl rfl (lw_V q1315 q1317 qs43 q167 q1318) (hd_X1_isPlace) ⟨Nat.le_of_ble_eq_true rfl, Nat.le_of_ble_eq_true rfl⟩ (List.mem_singleton.mp hka3) rfl rfl rfl (Nat.le_of_ble_eq_true rfl) dX1_puts_2) rfl (fun x1 σ2 => ?_)
  refine r_if_ne (q := 8) (t := 12) dX1_puts_5 rfl (by decide) (fun _ => ?_) (fun _ => ?_)
  · refine r_iconst (q := 9) (v := (1 : Int32)) dX1_puts_8 rfl (by decide) ?_
    refine r_goto (q := 65) dX1_puts_9 (by decide) ?_
    exact r_le (w_X1_puts_b65 G h0 N _ _ _ _ _ _) (Nat.le_refl _) (And.intro rfl (And.intro rfl (And.intro rfl (And.intro rfl trivial))))
  · refine r_aload_n (q := 13) dX1_puts_12 rfl rfl rfl ?_
    refine r_iload_n (q := 14) dX1_puts_13 rfl rfl rfl ?_
    refine r_ob (fun a6 ha6 => ?_)
    obtain ⟨hea6, hka6⟩ := o_at_eq ha6
    cases hea6
    refine r_callI (q := 17) (c_X1_isHour G h0 N _ _ _) (cl_V (ci := 0) rfl rfl (lw_V q1397 q1399 qs49 q167 q1400) (hd_X1_isHour) ⟨Nat.le_of_ble_eq_true rfl, Nat.le_of_ble_eq_true rfl⟩ (List.mem_singleton.mp hka6) rfl rfl rfl (Nat.le_of_ble_eq_true rfl) dX1_puts_14) rfl (fun x4 σ5 => ?_)
    refine r_if_ne (q := 20) (t := 24) dX1_puts_17 rfl (by decide) (fun _ => ?_) (fun _ => ?_)
    · refine r_iconst (q := 21) (v := (2 : Int32)) dX1_puts_20 rfl (by decide) ?_
      refine r_goto (q := 65) dX1_puts_21 (by decide) ?_
      exact r_le (w_X1_puts_b65 G h0 N _ _ _ _ _ _) (Nat.le_refl _) (And.intro rfl (And.intro rfl (And.intro rfl (And.intro rfl trivial))))
    · refine r_aload_n (q := 25) dX1_puts_24 rfl rfl rfl ?_
      refine r_gR (q := 28) fl_X1_33 rfl dX1_puts_25 rfl (fun x7 => ?_)
      refine r_iload_n (q := 29) dX1_puts_28 rfl rfl rfl ?_
      refine r_iload_n (q := 30) dX1_puts_29 rfl rfl rfl ?_
      refine r_iload (q := 32) dX1_puts_30 rfl rfl ?_
      refine r_ob (fun a10 ha10 => ?_)
      obtain ⟨hea10, hka10⟩ := o_at_eq ha10
      cases hea10
      refine r_callI (q := 35) (c_X4_isPut G h0 N _ _ _ _ _) (cl_V (ci := 3) rfl rfl (lw_V q1800 q1469 q1470 q173 q1471) (hd_X4_isPut) ⟨Nat.le_of_ble_eq_true rfl, Nat.le_of_ble_eq_true rfl⟩ (List.mem_singleton.mp hka10) rfl rfl rfl (Nat.le_of_ble_eq_true rfl) dX1_puts_32) rfl (fun x8 σ9 => ?_)
      refine r_iload_n (q := 36) dX1_puts_35 rfl rfl rfl ?_
      refine r_icmp_ne (q := 39) (t := 43) dX1_puts_36 rfl (by decide) (fun _ => ?_) (fun _ => ?_)
      · refine r_iconst (q := 40) (v := (5 : Int32)) dX1_puts_39 rfl (by decide) ?_
        refine r_goto (q := 65) dX1_puts_40 (by decide) ?_
        exact r_le (w_X1_puts_b65 G h0 N _ _ _ _ _ _) (Nat.le_refl _) (And.intro rfl (And.intro rfl (And.intro rfl (And.intro rfl trivial))))
      · refine r_iload_n (q := 44) dX1_puts_43 rfl rfl rfl ?_
        refine r_if_eq (q := 47) (t := 64) dX1_puts_44 rfl (by decide) (fun _ => ?_) (fun _ => ?_)
        · exact r_le (w_X1_puts_b64 G h0 N _ _ _ _ _) (Nat.le_refl _) (And.intro rfl (And.intro rfl (And.intro rfl (And.intro rfl trivial))))
        · refine r_aload_n (q := 48) dX1_puts_47 rfl rfl rfl ?_
          refine r_gR (q := 51) fl_X1_33 rfl dX1_puts_48 rfl (fun x11 => ?_)
          refine r_iload (q := 53) dX1_puts_51 rfl rfl ?_
          refine r_ob (fun a14 ha14 => ?_)
          obtain ⟨hea14, hka14⟩ := o_at_eq ha14
          cases hea14
          refine r_callI (q := 56) (c_X4_many G h0 N _ _ _) (cl_V (ci := 3) rfl rfl (lw_V q1801 q1802 q1803 q173 q1804) (hd_X4_many) ⟨Nat.le_of_ble_eq_true rfl, Nat.le_of_ble_eq_true rfl⟩ (List.mem_singleton.mp hka14) rfl rfl rfl (Nat.le_of_ble_eq_true rfl) dX1_puts_53) rfl (fun x12 σ13 => ?_)
          refine r_iconst (q := 57) (v := (4 : Int32)) dX1_puts_56 rfl (by decide) ?_
          refine r_icmp_ne (q := 60) (t := 64) dX1_puts_57 rfl (by decide) (fun _ => ?_) (fun _ => ?_)
          · refine r_iconst (q := 61) (v := (3 : Int32)) dX1_puts_60 rfl (by decide) ?_
            refine r_goto (q := 65) dX1_puts_61 (by decide) ?_
            exact r_le (w_X1_puts_b65 G h0 N _ _ _ _ _ _) (Nat.le_refl _) (And.intro rfl (And.intro rfl (And.intro rfl (And.intro rfl trivial))))
          · exact r_le (w_X1_puts_b64 G h0 N _ _ _ _ _) (Nat.le_refl _) (And.intro rfl (And.intro rfl (And.intro rfl (And.intro rfl trivial))))
theorem c_X1_salt (G : Gx) (h0 : G0 G) (N : Nat) (a0 : Nat) (i1 : Int32) (i2 : Int32) (i3 : Int32) (σ : Mem) : Ct G mX1_salt rhoI [vR (some a0), vI i1, vI i2, vI i3] σ (f_X1_salt N a0 i1 i2 i3 σ) := by
  refine Ct_of h0 (by decide) rfl (Nat.le_of_ble_eq_true rfl) (L0 := [some (vR (some a0)), some (vI i1), some (vI i2), some (vI i3)]) rfl ?_
  unfold f_X1_salt
  refine r_aload_n (q := 1) dX1_salt_0 rfl rfl rfl ?_
  refine r_iload_n (q := 2) dX1_salt_1 rfl rfl rfl ?_
  refine r_iload_n (q := 3) dX1_salt_2 rfl rfl rfl ?_
  refine r_iload_n (q := 4) dX1_salt_3 rfl rfl rfl ?_
  refine r_iconst (q := 5) (v := (0 : Int32)) dX1_salt_4 rfl (by decide) ?_
  refine r_ob (fun a3 ha3 => ?_)
  obtain ⟨hea3, hka3⟩ := o_at_eq ha3
  cases hea3
  refine r_callI (q := 8) (c_X1_puts G h0 N _ _ _ _ _ _) (cl_V (ci := 0) rfl rfl (lw_V q1796 q1798 qs79 q167 q1799) (hd_X1_puts) ⟨Nat.le_of_ble_eq_true rfl, Nat.le_of_ble_eq_true rfl⟩ (List.mem_singleton.mp hka3) rfl rfl rfl (Nat.le_of_ble_eq_true rfl) dX1_salt_5) rfl (fun x1 σ2 => ?_)
  exact r_ireturnN rfl dX1_salt_8
theorem c_X7_denied (G : Gx) (h0 : G0 G) (N : Nat) (a0 : Nat) (i1 : Int32) (σ : Mem) : Ct G mX7_denied rhoI [vR (some a0), vI i1] σ (f_X7_denied N a0 i1 σ) := by
  refine Ct_of h0 (by decide) rfl (Nat.le_of_ble_eq_true rfl) (L0 := [some (vR (some a0)), some (vI i1)]) rfl ?_
  unfold f_X7_denied
  refine r_aload_n (q := 1) dX7_denied_0 rfl rfl rfl ?_
  refine r_iload_n (q := 2) dX7_denied_1 rfl rfl rfl ?_
  refine r_ob (fun a3 ha3 => ?_)
  obtain ⟨hea3, hka3⟩ := o_at_eq ha3
  cases hea3
  refine r_callI (q := 5) (c_X7_refused G h0 N _ _ _) (cl_V (ci := 6) rfl rfl (lw_V q2019 q2021 qs83 q176 q2022) (hd_X7_refused) ⟨Nat.le_of_ble_eq_true rfl, Nat.le_of_ble_eq_true rfl⟩ (List.mem_singleton.mp hka3) rfl rfl rfl (Nat.le_of_ble_eq_true rfl) dX7_denied_2) rfl (fun x1 σ2 => ?_)
  refine r_pop (q := 6) dX7_denied_5 rfl rfl ?_
  refine r_iconst (q := 7) (v := (0 : Int32)) dX7_denied_6 rfl (by decide) ?_
  exact r_ireturnN rfl dX7_denied_7
theorem w_X7_spots_b4B (G : Gx) (h0 : G0 G) (N : Nat)   (K4 : Nat → Int32 → Int32 → Int32 → Mem → Option (Int32 × Mem)) (hK4 : ∀ (a0 : Nat) (l1 : Int32) (l2 : Int32) (l3 : Int32) (σ : Mem), Runs G mX7_spots rhoI σ 4 [some (vR (some a0)), some (vI l1), some (vI l2), some (vI l3)] [] (K4 a0 l1 l2 l3 σ)) (a0 : Nat) (l1 : Int32) (l2 : Int32) (l3 : Int32) (σ : Mem) : Runs G mX7_spots rhoI σ 4 [some (vR (some a0)), some (vI l1), some (vI l2), some (vI l3)] [] (f_X7_spots_b4B N  K4 a0 l1 l2 l3 σ) := by
  unfold f_X7_spots_b4B
  refine r_iload_n (q := 5) dX7_spots_4 rfl rfl rfl ?_
  refine r_bipush (q := 7) (v := (8 : Int32)) dX7_spots_5 rfl (by decide) ?_
  refine r_icmp_ge (q := 10) (t := 30) dX7_spots_7 rfl (by decide) (fun _ => ?_) (fun _ => ?_)
  · refine r_iload_n (q := 31) dX7_spots_30 rfl rfl rfl ?_
    exact r_ireturn rfl rfl dX7_spots_31
  · refine r_iload_n (q := 11) dX7_spots_10 rfl rfl rfl ?_
    refine r_aload_n (q := 12) dX7_spots_11 rfl rfl rfl ?_
    refine r_gR (q := 15) fl_X7_21 rfl dX7_spots_12 rfl (fun x1 => ?_)
    refine r_iload_n (q := 16) dX7_spots_15 rfl rfl rfl ?_
    refine r_iload_n (q := 17) dX7_spots_16 rfl rfl rfl ?_
    refine r_iadd (q := 18) dX7_spots_17 rfl ?_
    refine r_iaload (q := 19) dX7_spots_18 rfl (fun x2 => ?_)
    refine r_callI (q := 22) (c_X7_bits G h0 N _ _) (cl_S rfl rfl (lw_S q2354 q2355 q176 q2356) (hd_X7_bits) ⟨Nat.le_of_ble_eq_true rfl, Nat.le_of_ble_eq_true rfl⟩ rfl (Nat.le_of_ble_eq_true rfl) dX7_spots_19) rfl (fun x3 σ4 => ?_)
    refine r_iadd (q := 23) dX7_spots_22 rfl ?_
    refine r_istore_n (q := 24) dX7_spots_23 rfl rfl (Nat.le_of_ble_eq_true rfl) rfl ?_
    refine r_iinc (q := 27) (v := (1 : Int32)) dX7_spots_24 rfl rfl (by decide) (Nat.le_of_ble_eq_true rfl) rfl ?_
    refine r_goto (q := 4) dX7_spots_27 (by decide) ?_
    exact r_le (hK4 _ _ _ _ _) (Nat.le_refl _) (And.intro rfl (And.intro rfl (And.intro rfl (And.intro rfl trivial))))
theorem w_X7_spots_b4 (G : Gx) (h0 : G0 G) (N : Nat)   : ∀ (z : Nat) (a0 : Nat) (l1 : Int32) (l2 : Int32) (l3 : Int32) (σ : Mem), Runs G mX7_spots rhoI σ 4 [some (vR (some a0)), some (vI l1), some (vI l2), some (vI l3)] [] (f_X7_spots_b4 N  z a0 l1 l2 l3 σ) := by
  intro z
  induction z with
  | zero => exact fun _ _ _ _ _ => r_none
  | succ z ih => exact fun a0 l1 l2 l3 σ => w_X7_spots_b4B G h0 N   _ ih a0 l1 l2 l3 σ
theorem c_X7_spots (G : Gx) (h0 : G0 G) (N : Nat) (a0 : Nat) (i1 : Int32) (σ : Mem) : Ct G mX7_spots rhoI [vR (some a0), vI i1] σ (f_X7_spots N a0 i1 σ) := by
  refine Ct_of h0 (by decide) rfl (Nat.le_of_ble_eq_true rfl) (L0 := [some (vR (some a0)), some (vI i1), none, none]) rfl ?_
  unfold f_X7_spots
  refine r_iconst (q := 1) (v := (0 : Int32)) dX7_spots_0 rfl (by decide) ?_
  refine r_istore_n (q := 2) dX7_spots_1 rfl rfl (Nat.le_of_ble_eq_true rfl) rfl ?_
  refine r_iconst (q := 3) (v := (0 : Int32)) dX7_spots_2 rfl (by decide) ?_
  refine r_istore_n (q := 4) dX7_spots_3 rfl rfl (Nat.le_of_ble_eq_true rfl) rfl ?_
  exact r_le (w_X7_spots_b4 G h0 N N _ _ _ _ _) (Nat.le_refl _) (And.intro rfl (And.intro rfl (And.intro rfl (And.intro rfl trivial))))
theorem w_X7_keeps_b51B (G : Gx) (h0 : G0 G) (N : Nat)   (K51 : Nat → Int32 → Mem → Option (Unit × Mem)) (hK51 : ∀ (a0 : Nat) (l1 : Int32) (σ : Mem), Runs G mX7_keeps rhoV σ 51 [some (vR (some a0)), some (vI l1)] [] (K51 a0 l1 σ)) (a0 : Nat) (l1 : Int32) (σ : Mem) : Runs G mX7_keeps rhoV σ 51 [some (vR (some a0)), some (vI l1)] [] (f_X7_keeps_b51B N  K51 a0 l1 σ) := by
  unfold f_X7_keeps_b51B
  refine r_iload_n (q := 52) dX7_keeps_51 rfl rfl rfl ?_
  refine r_bipush (q := 54) (v := (18 : Int32)) dX7_keeps_52 rfl (by decide) ?_
  refine r_icmp_ge (q := 57) (t := 83) dX7_keeps_54 rfl (by decide) (fun _ => ?_) (fun _ => ?_)
  · refine r_aload_n (q := 84) dX7_keeps_83 rfl rfl rfl ?_
    refine r_dup (q := 85) dX7_keeps_84 rfl rfl ?_
    refine r_gI (q := 88) fl_X7_444 dX7_keeps_85 rfl (fun x1 => ?_)
    refine r_iconst (q := 89) (v := (1 : Int32)) dX7_keeps_88 rfl (by decide) ?_
    refine r_iadd (q := 90) dX7_keeps_89 rfl ?_
    refine r_pI (q := 93) fp_X7_keeps_444 dX7_keeps_90 rfl (fun σ2 => ?_)
    exact r_return rfl dX7_keeps_93
  · refine r_aload_n (q := 58) dX7_keeps_57 rfl rfl rfl ?_
    refine r_gR (q := 61) fl_X7_24 rfl dX7_keeps_58 rfl (fun x3 => ?_)
    refine r_bipush (q := 63) (v := (18 : Int32)) dX7_keeps_61 rfl (by decide) ?_
    refine r_aload_n (q := 64) dX7_keeps_63 rfl rfl rfl ?_
    refine r_gI (q := 67) fl_X7_444 dX7_keeps_64 rfl (fun x4 => ?_)
    refine r_imul (q := 68) dX7_keeps_67 rfl ?_
    refine r_iload_n (q := 69) dX7_keeps_68 rfl rfl rfl ?_
    refine r_iadd (q := 70) dX7_keeps_69 rfl ?_
    refine r_aload_n (q := 71) dX7_keeps_70 rfl rfl rfl ?_
    refine r_gR (q := 74) fl_X7_21 rfl dX7_keeps_71 rfl (fun x5 => ?_)
    refine r_iload_n (q := 75) dX7_keeps_74 rfl rfl rfl ?_
    refine r_iaload (q := 76) dX7_keeps_75 rfl (fun x6 => ?_)
    refine r_iastore (q := 77) dX7_keeps_76 rfl (fun σ7 => ?_)
    refine r_iinc (q := 80) (v := (1 : Int32)) dX7_keeps_77 rfl rfl (by decide) (Nat.le_of_ble_eq_true rfl) rfl ?_
    refine r_goto (q := 51) dX7_keeps_80 (by decide) ?_
    exact r_le (hK51 _ _ _) (Nat.le_refl _) (And.intro rfl (And.intro rfl trivial))
theorem w_X7_keeps_b51 (G : Gx) (h0 : G0 G) (N : Nat)   : ∀ (z : Nat) (a0 : Nat) (l1 : Int32) (σ : Mem), Runs G mX7_keeps rhoV σ 51 [some (vR (some a0)), some (vI l1)] [] (f_X7_keeps_b51 N  z a0 l1 σ) := by
  intro z
  induction z with
  | zero => exact fun _ _ _ => r_none
  | succ z ih => exact fun a0 l1 σ => w_X7_keeps_b51B G h0 N   _ ih a0 l1 σ
theorem w_X7_keeps_b49 (G : Gx) (h0 : G0 G) (N : Nat)   (a0 : Nat) (σ : Mem) : Runs G mX7_keeps rhoV σ 49 [some (vR (some a0)), none] [] (f_X7_keeps_b49 N  a0 σ) := by
  unfold f_X7_keeps_b49
  refine r_iconst (q := 50) (v := (0 : Int32)) dX7_keeps_49 rfl (by decide) ?_
  refine r_istore_n (q := 51) dX7_keeps_50 rfl rfl (Nat.le_of_ble_eq_true rfl) rfl ?_
  exact r_le (w_X7_keeps_b51 G h0 N N _ _ _) (Nat.le_refl _) (And.intro rfl (And.intro rfl trivial))
theorem w_X7_keeps_b11B (G : Gx) (h0 : G0 G) (N : Nat)   (K11 : Nat → Int32 → Mem → Option (Unit × Mem)) (hK11 : ∀ (a0 : Nat) (l1 : Int32) (σ : Mem), Runs G mX7_keeps rhoV σ 11 [some (vR (some a0)), some (vI l1)] [] (K11 a0 l1 σ)) (a0 : Nat) (l1 : Int32) (σ : Mem) : Runs G mX7_keeps rhoV σ 11 [some (vR (some a0)), some (vI l1)] [] (f_X7_keeps_b11B N  K11 a0 l1 σ) := by
  unfold f_X7_keeps_b11B
  refine r_iload_n (q := 12) dX7_keeps_11 rfl rfl rfl ?_
  refine r_sipush (q := 15) (v := (270 : Int32)) dX7_keeps_12 rfl (by decide) ?_
  refine r_icmp_ge (q := 18) (t := 39) dX7_keeps_15 rfl (by decide) (fun _ => ?_) (fun _ => ?_)
  · refine r_aload_n (q := 40) dX7_keeps_39 rfl rfl rfl ?_
    refine r_dup (q := 41) dX7_keeps_40 rfl rfl ?_
    refine r_gI (q := 44) fl_X7_444 dX7_keeps_41 rfl (fun x1 => ?_)
    refine r_iconst (q := 45) (v := (1 : Int32)) dX7_keeps_44 rfl (by decide) ?_
    refine r_isub (q := 46) dX7_keeps_45 rfl ?_
    refine r_pI (q := 49) fp_X7_keeps_444 dX7_keeps_46 rfl (fun σ2 => ?_)
    exact r_le (w_X7_keeps_b49 G h0 N _ _) (Nat.le_refl _) (And.intro rfl trivial)
  · refine r_aload_n (q := 19) dX7_keeps_18 rfl rfl rfl ?_
    refine r_gR (q := 22) fl_X7_24 rfl dX7_keeps_19 rfl (fun x3 => ?_)
    refine r_iload_n (q := 23) dX7_keeps_22 rfl rfl rfl ?_
    refine r_aload_n (q := 24) dX7_keeps_23 rfl rfl rfl ?_
    refine r_gR (q := 27) fl_X7_24 rfl dX7_keeps_24 rfl (fun x4 => ?_)
    refine r_iload_n (q := 28) dX7_keeps_27 rfl rfl rfl ?_
    refine r_bipush (q := 30) (v := (18 : Int32)) dX7_keeps_28 rfl (by decide) ?_
    refine r_iadd (q := 31) dX7_keeps_30 rfl ?_
    refine r_iaload (q := 32) dX7_keeps_31 rfl (fun x5 => ?_)
    refine r_iastore (q := 33) dX7_keeps_32 rfl (fun σ6 => ?_)
    refine r_iinc (q := 36) (v := (1 : Int32)) dX7_keeps_33 rfl rfl (by decide) (Nat.le_of_ble_eq_true rfl) rfl ?_
    refine r_goto (q := 11) dX7_keeps_36 (by decide) ?_
    exact r_le (hK11 _ _ _) (Nat.le_refl _) (And.intro rfl (And.intro rfl trivial))
theorem w_X7_keeps_b11 (G : Gx) (h0 : G0 G) (N : Nat)   : ∀ (z : Nat) (a0 : Nat) (l1 : Int32) (σ : Mem), Runs G mX7_keeps rhoV σ 11 [some (vR (some a0)), some (vI l1)] [] (f_X7_keeps_b11 N  z a0 l1 σ) := by
  intro z
  induction z with
  | zero => exact fun _ _ _ => r_none
  | succ z ih => exact fun a0 l1 σ => w_X7_keeps_b11B G h0 N   _ ih a0 l1 σ
theorem c_X7_keeps (G : Gx) (h0 : G0 G) (N : Nat) (a0 : Nat) (σ : Mem) : Ct G mX7_keeps rhoV [vR (some a0)] σ (f_X7_keeps N a0 σ) := by
  refine Ct_of h0 (by decide) rfl (Nat.le_of_ble_eq_true rfl) (L0 := [some (vR (some a0)), none]) rfl ?_
  unfold f_X7_keeps
  refine r_aload_n (q := 1) dX7_keeps_0 rfl rfl rfl ?_
  refine r_gI (q := 4) fl_X7_444 dX7_keeps_1 rfl (fun x1 => ?_)
  refine r_bipush (q := 6) (v := (16 : Int32)) dX7_keeps_4 rfl (by decide) ?_
  refine r_icmp_ne (q := 9) (t := 49) dX7_keeps_6 rfl (by decide) (fun _ => ?_) (fun _ => ?_)
  · refine r_iconst (q := 10) (v := (0 : Int32)) dX7_keeps_9 rfl (by decide) ?_
    refine r_istore_n (q := 11) dX7_keeps_10 rfl rfl (Nat.le_of_ble_eq_true rfl) rfl ?_
    exact r_le (w_X7_keeps_b11 G h0 N N _ _ _) (Nat.le_refl _) (And.intro rfl (And.intro rfl trivial))
  · exact r_le (w_X7_keeps_b49 G h0 N _ _) (Nat.le_refl _) (And.intro rfl trivial)
theorem c_X7_granted (G : Gx) (h0 : G0 G) (N : Nat) (a0 : Nat) (σ : Mem) : Ct G mX7_granted rhoI [vR (some a0)] σ (f_X7_granted N a0 σ) := by
  refine Ct_of h0 (by decide) rfl (Nat.le_of_ble_eq_true rfl) (L0 := [some (vR (some a0))]) rfl ?_
  unfold f_X7_granted
  refine r_aload_n (q := 1) dX7_granted_0 rfl rfl rfl ?_
  refine r_iconst (q := 2) (v := (0 : Int32)) dX7_granted_1 rfl (by decide) ?_
  refine r_ob (fun a3 ha3 => ?_)
  obtain ⟨hea3, hka3⟩ := o_at_eq ha3
  cases hea3
  refine r_callI (q := 5) (c_X7_good G h0 N _ _ _) (cl_V (ci := 6) rfl rfl (lw_V q2379 q2381 qs118 q176 q2382) (hd_X7_good) ⟨Nat.le_of_ble_eq_true rfl, Nat.le_of_ble_eq_true rfl⟩ (List.mem_singleton.mp hka3) rfl rfl rfl (Nat.le_of_ble_eq_true rfl) dX7_granted_2) rfl (fun x1 σ2 => ?_)
  refine r_pop (q := 6) dX7_granted_5 rfl rfl ?_
  refine r_iconst (q := 7) (v := (1 : Int32)) dX7_granted_6 rfl (by decide) ?_
  exact r_ireturnN rfl dX7_granted_7
