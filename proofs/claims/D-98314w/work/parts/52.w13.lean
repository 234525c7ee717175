/-! the walks of X7_puts X7_salt X1_dog X7_dog X1_hedge X7_hedge X1_hear X7_hear X1_undo X7_undo X1_mark X7_mark X1_back X7_back X1_put X0_put X7_put X7_thrown X1_size X7_size X1_trouble X7_trouble -/
set_option maxRecDepth 100000
def dkwX7_puts_3 : List UInt8 := [42, 182, 2, 101, 42, 180, 0, 21, 27, 28, 96, 92, 46, 4, 29, 120, 130, 79, 42, 182, 2, 104, 172]
abbrev dktX7_puts_3 : List UInt8 := dkwX7_puts_3 ++ []
def dkwX7_puts_2 : List UInt8 := [182, 2, 95, 172, 21, 4, 153, 0, 18, 42, 27, 182, 2, 98, 7, 160, 0, 9, 42, 6, 182, 2, 95, 172]
abbrev dktX7_puts_2 : List UInt8 := dkwX7_puts_2 ++ dktX7_puts_3
def dkwX7_puts_1 : List UInt8 := [182, 2, 95, 172, 42, 180, 0, 21, 27, 28, 96, 46, 29, 184, 1, 110, 21, 4, 160, 0, 9, 42, 8]
abbrev dktX7_puts_1 : List UInt8 := dkwX7_puts_1 ++ dktX7_puts_2
def dkwX7_puts_0 : List UInt8 := [42, 28, 182, 1, 235, 154, 0, 9, 42, 4, 182, 2, 95, 172, 42, 29, 182, 1, 253, 154, 0, 9, 42, 5]
abbrev dktX7_puts_0 : List UInt8 := dkwX7_puts_0 ++ dktX7_puts_1
theorem dksX7_puts_0 : cX7_puts.data.toList.drop 0 = dktX7_puts_0 := by decide +kernel
theorem dksX7_puts_1 : cX7_puts.data.toList.drop 24 = dktX7_puts_1 := dk_seg dksX7_puts_0 24 rfl rfl
theorem dksX7_puts_2 : cX7_puts.data.toList.drop 47 = dktX7_puts_2 := dk_seg dksX7_puts_1 23 rfl rfl
theorem dksX7_puts_3 : cX7_puts.data.toList.drop 71 = dktX7_puts_3 := dk_seg dksX7_puts_2 24 rfl rfl
theorem dX7_puts_0 : decode cX7_puts 0 = .ok (.aload_n 0, 1) := dk_42 (dk_at dksX7_puts_0 0 rfl rfl)
theorem dX7_puts_1 : decode cX7_puts 1 = .ok (.iload_n 2, 1) := dk_28 (dk_at dksX7_puts_0 1 rfl rfl)
theorem dX7_puts_2 : decode cX7_puts 2 = .ok (.invokevirtual 491, 3) := dk_182 1 235 (dk_at dksX7_puts_0 2 rfl rfl)
theorem dX7_puts_5 : decode cX7_puts 5 = .ok (.ifCond .ne 9, 3) := dk_154 0 9 (dk_at dksX7_puts_0 5 rfl rfl)
theorem dX7_puts_8 : decode cX7_puts 8 = .ok (.aload_n 0, 1) := dk_42 (dk_at dksX7_puts_0 8 rfl rfl)
theorem dX7_puts_9 : decode cX7_puts 9 = .ok (.iconst 1, 1) := dk_4 (dk_at dksX7_puts_0 9 rfl rfl)
theorem dX7_puts_10 : decode cX7_puts 10 = .ok (.invokevirtual 607, 3) := dk_182 2 95 (dk_at dksX7_puts_0 10 rfl rfl)
theorem dX7_puts_13 : decode cX7_puts 13 = .ok (.ireturn, 1) := dk_172 (dk_at dksX7_puts_0 13 rfl rfl)
theorem dX7_puts_14 : decode cX7_puts 14 = .ok (.aload_n 0, 1) := dk_42 (dk_at dksX7_puts_0 14 rfl rfl)
theorem dX7_puts_15 : decode cX7_puts 15 = .ok (.iload_n 3, 1) := dk_29 (dk_at dksX7_puts_0 15 rfl rfl)
theorem dX7_puts_16 : decode cX7_puts 16 = .ok (.invokevirtual 509, 3) := dk_182 1 253 (dk_at dksX7_puts_0 16 rfl rfl)
theorem dX7_puts_19 : decode cX7_puts 19 = .ok (.ifCond .ne 9, 3) := dk_154 0 9 (dk_at dksX7_puts_0 19 rfl rfl)
theorem dX7_puts_22 : decode cX7_puts 22 = .ok (.aload_n 0, 1) := dk_42 (dk_at dksX7_puts_0 22 rfl rfl)
theorem dX7_puts_23 : decode cX7_puts 23 = .ok (.iconst 2, 1) := dk_5 (dk_at dksX7_puts_0 23 rfl rfl)
theorem dX7_puts_24 : decode cX7_puts 24 = .ok (.invokevirtual 607, 3) := dk_182 2 95 (dk_at dksX7_puts_1 0 rfl rfl)
theorem dX7_puts_27 : decode cX7_puts 27 = .ok (.ireturn, 1) := dk_172 (dk_at dksX7_puts_1 3 rfl rfl)
theorem dX7_puts_28 : decode cX7_puts 28 = .ok (.aload_n 0, 1) := dk_42 (dk_at dksX7_puts_1 4 rfl rfl)
theorem dX7_puts_29 : decode cX7_puts 29 = .ok (.getfield 21, 3) := dk_180 0 21 (dk_at dksX7_puts_1 5 rfl rfl)
theorem dX7_puts_32 : decode cX7_puts 32 = .ok (.iload_n 1, 1) := dk_27 (dk_at dksX7_puts_1 8 rfl rfl)
theorem dX7_puts_33 : decode cX7_puts 33 = .ok (.iload_n 2, 1) := dk_28 (dk_at dksX7_puts_1 9 rfl rfl)
theorem dX7_puts_34 : decode cX7_puts 34 = .ok (.iadd, 1) := dk_96 (dk_at dksX7_puts_1 10 rfl rfl)
theorem dX7_puts_35 : decode cX7_puts 35 = .ok (.iaload, 1) := dk_46 (dk_at dksX7_puts_1 11 rfl rfl)
theorem dX7_puts_36 : decode cX7_puts 36 = .ok (.iload_n 3, 1) := dk_29 (dk_at dksX7_puts_1 12 rfl rfl)
theorem dX7_puts_37 : decode cX7_puts 37 = .ok (.invokestatic 366, 3) := dk_184 1 110 (dk_at dksX7_puts_1 13 rfl rfl)
theorem dX7_puts_40 : decode cX7_puts 40 = .ok (.iload 4, 2) := dk_21 4 (dk_at dksX7_puts_1 16 rfl rfl)
theorem dX7_puts_42 : decode cX7_puts 42 = .ok (.if_icmp .ne 9, 3) := dk_160 0 9 (dk_at dksX7_puts_1 18 rfl rfl)
theorem dX7_puts_45 : decode cX7_puts 45 = .ok (.aload_n 0, 1) := dk_42 (dk_at dksX7_puts_1 21 rfl rfl)
theorem dX7_puts_46 : decode cX7_puts 46 = .ok (.iconst 5, 1) := dk_8 (dk_at dksX7_puts_1 22 rfl rfl)
theorem dX7_puts_47 : decode cX7_puts 47 = .ok (.invokevirtual 607, 3) := dk_182 2 95 (dk_at dksX7_puts_2 0 rfl rfl)
theorem dX7_puts_50 : decode cX7_puts 50 = .ok (.ireturn, 1) := dk_172 (dk_at dksX7_puts_2 3 rfl rfl)
theorem dX7_puts_51 : decode cX7_puts 51 = .ok (.iload 4, 2) := dk_21 4 (dk_at dksX7_puts_2 4 rfl rfl)
theorem dX7_puts_53 : decode cX7_puts 53 = .ok (.ifCond .eq 18, 3) := dk_153 0 18 (dk_at dksX7_puts_2 6 rfl rfl)
theorem dX7_puts_56 : decode cX7_puts 56 = .ok (.aload_n 0, 1) := dk_42 (dk_at dksX7_puts_2 9 rfl rfl)
theorem dX7_puts_57 : decode cX7_puts 57 = .ok (.iload_n 1, 1) := dk_27 (dk_at dksX7_puts_2 10 rfl rfl)
theorem dX7_puts_58 : decode cX7_puts 58 = .ok (.invokevirtual 610, 3) := dk_182 2 98 (dk_at dksX7_puts_2 11 rfl rfl)
theorem dX7_puts_61 : decode cX7_puts 61 = .ok (.iconst 4, 1) := dk_7 (dk_at dksX7_puts_2 14 rfl rfl)
theorem dX7_puts_62 : decode cX7_puts 62 = .ok (.if_icmp .ne 9, 3) := dk_160 0 9 (dk_at dksX7_puts_2 15 rfl rfl)
theorem dX7_puts_65 : decode cX7_puts 65 = .ok (.aload_n 0, 1) := dk_42 (dk_at dksX7_puts_2 18 rfl rfl)
theorem dX7_puts_66 : decode cX7_puts 66 = .ok (.iconst 3, 1) := dk_6 (dk_at dksX7_puts_2 19 rfl rfl)
theorem dX7_puts_67 : decode cX7_puts 67 = .ok (.invokevirtual 607, 3) := dk_182 2 95 (dk_at dksX7_puts_2 20 rfl rfl)
theorem dX7_puts_70 : decode cX7_puts 70 = .ok (.ireturn, 1) := dk_172 (dk_at dksX7_puts_2 23 rfl rfl)
theorem dX7_puts_71 : decode cX7_puts 71 = .ok (.aload_n 0, 1) := dk_42 (dk_at dksX7_puts_3 0 rfl rfl)
theorem dX7_puts_72 : decode cX7_puts 72 = .ok (.invokevirtual 613, 3) := dk_182 2 101 (dk_at dksX7_puts_3 1 rfl rfl)
theorem dX7_puts_75 : decode cX7_puts 75 = .ok (.aload_n 0, 1) := dk_42 (dk_at dksX7_puts_3 4 rfl rfl)
theorem dX7_puts_76 : decode cX7_puts 76 = .ok (.getfield 21, 3) := dk_180 0 21 (dk_at dksX7_puts_3 5 rfl rfl)
theorem dX7_puts_79 : decode cX7_puts 79 = .ok (.iload_n 1, 1) := dk_27 (dk_at dksX7_puts_3 8 rfl rfl)
theorem dX7_puts_80 : decode cX7_puts 80 = .ok (.iload_n 2, 1) := dk_28 (dk_at dksX7_puts_3 9 rfl rfl)
theorem dX7_puts_81 : decode cX7_puts 81 = .ok (.iadd, 1) := dk_96 (dk_at dksX7_puts_3 10 rfl rfl)
theorem dX7_puts_82 : decode cX7_puts 82 = .ok (.dup2, 1) := dk_92 (dk_at dksX7_puts_3 11 rfl rfl)
theorem dX7_puts_83 : decode cX7_puts 83 = .ok (.iaload, 1) := dk_46 (dk_at dksX7_puts_3 12 rfl rfl)
theorem dX7_puts_84 : decode cX7_puts 84 = .ok (.iconst 1, 1) := dk_4 (dk_at dksX7_puts_3 13 rfl rfl)
theorem dX7_puts_85 : decode cX7_puts 85 = .ok (.iload_n 3, 1) := dk_29 (dk_at dksX7_puts_3 14 rfl rfl)
theorem dX7_puts_86 : decode cX7_puts 86 = .ok (.ishl, 1) := dk_120 (dk_at dksX7_puts_3 15 rfl rfl)
theorem dX7_puts_87 : decode cX7_puts 87 = .ok (.ixor, 1) := dk_130 (dk_at dksX7_puts_3 16 rfl rfl)
theorem dX7_puts_88 : decode cX7_puts 88 = .ok (.iastore, 1) := dk_79 (dk_at dksX7_puts_3 17 rfl rfl)
theorem dX7_puts_89 : decode cX7_puts 89 = .ok (.aload_n 0, 1) := dk_42 (dk_at dksX7_puts_3 18 rfl rfl)
theorem dX7_puts_90 : decode cX7_puts 90 = .ok (.invokevirtual 616, 3) := dk_182 2 104 (dk_at dksX7_puts_3 19 rfl rfl)
theorem dX7_puts_93 : decode cX7_puts 93 = .ok (.ireturn, 1) := dk_172 (dk_at dksX7_puts_3 22 rfl rfl)
def dkwX7_salt_0 : List UInt8 := [42, 3, 181, 0, 66, 42, 3, 27, 28, 29, 182, 2, 107, 172]
abbrev dktX7_salt_0 : List UInt8 := dkwX7_salt_0 ++ []
theorem dksX7_salt_0 : cX7_salt.data.toList.drop 0 = dktX7_salt_0 := by decide +kernel
theorem dX7_salt_0 : decode cX7_salt 0 = .ok (.aload_n 0, 1) := dk_42 (dk_at dksX7_salt_0 0 rfl rfl)
theorem dX7_salt_1 : decode cX7_salt 1 = .ok (.iconst 0, 1) := dk_3 (dk_at dksX7_salt_0 1 rfl rfl)
theorem dX7_salt_2 : decode cX7_salt 2 = .ok (.putfield 66, 3) := dk_181 0 66 (dk_at dksX7_salt_0 2 rfl rfl)
theorem dX7_salt_5 : decode cX7_salt 5 = .ok (.aload_n 0, 1) := dk_42 (dk_at dksX7_salt_0 5 rfl rfl)
theorem dX7_salt_6 : decode cX7_salt 6 = .ok (.iconst 0, 1) := dk_3 (dk_at dksX7_salt_0 6 rfl rfl)
theorem dX7_salt_7 : decode cX7_salt 7 = .ok (.iload_n 1, 1) := dk_27 (dk_at dksX7_salt_0 7 rfl rfl)
theorem dX7_salt_8 : decode cX7_salt 8 = .ok (.iload_n 2, 1) := dk_28 (dk_at dksX7_salt_0 8 rfl rfl)
theorem dX7_salt_9 : decode cX7_salt 9 = .ok (.iload_n 3, 1) := dk_29 (dk_at dksX7_salt_0 9 rfl rfl)
theorem dX7_salt_10 : decode cX7_salt 10 = .ok (.invokevirtual 619, 3) := dk_182 2 107 (dk_at dksX7_salt_0 10 rfl rfl)
theorem dX7_salt_13 : decode cX7_salt 13 = .ok (.ireturn, 1) := dk_172 (dk_at dksX7_salt_0 13 rfl rfl)
def dkwX1_dog_0 : List UInt8 := [42, 27, 28, 29, 4, 182, 1, 190, 172]
abbrev dktX1_dog_0 : List UInt8 := dkwX1_dog_0 ++ []
theorem dksX1_dog_0 : cX1_dog.data.toList.drop 0 = dktX1_dog_0 := by decide +kernel
theorem dX1_dog_0 : decode cX1_dog 0 = .ok (.aload_n 0, 1) := dk_42 (dk_at dksX1_dog_0 0 rfl rfl)
theorem dX1_dog_1 : decode cX1_dog 1 = .ok (.iload_n 1, 1) := dk_27 (dk_at dksX1_dog_0 1 rfl rfl)
theorem dX1_dog_2 : decode cX1_dog 2 = .ok (.iload_n 2, 1) := dk_28 (dk_at dksX1_dog_0 2 rfl rfl)
theorem dX1_dog_3 : decode cX1_dog 3 = .ok (.iload_n 3, 1) := dk_29 (dk_at dksX1_dog_0 3 rfl rfl)
theorem dX1_dog_4 : decode cX1_dog 4 = .ok (.iconst 1, 1) := dk_4 (dk_at dksX1_dog_0 4 rfl rfl)
theorem dX1_dog_5 : decode cX1_dog 5 = .ok (.invokevirtual 446, 3) := dk_182 1 190 (dk_at dksX1_dog_0 5 rfl rfl)
theorem dX1_dog_8 : decode cX1_dog 8 = .ok (.ireturn, 1) := dk_172 (dk_at dksX1_dog_0 8 rfl rfl)
def dkwX7_dog_0 : List UInt8 := [42, 3, 181, 0, 66, 42, 16, 8, 27, 28, 29, 182, 2, 107, 172]
abbrev dktX7_dog_0 : List UInt8 := dkwX7_dog_0 ++ []
theorem dksX7_dog_0 : cX7_dog.data.toList.drop 0 = dktX7_dog_0 := by decide +kernel
theorem dX7_dog_0 : decode cX7_dog 0 = .ok (.aload_n 0, 1) := dk_42 (dk_at dksX7_dog_0 0 rfl rfl)
theorem dX7_dog_1 : decode cX7_dog 1 = .ok (.iconst 0, 1) := dk_3 (dk_at dksX7_dog_0 1 rfl rfl)
theorem dX7_dog_2 : decode cX7_dog 2 = .ok (.putfield 66, 3) := dk_181 0 66 (dk_at dksX7_dog_0 2 rfl rfl)
theorem dX7_dog_5 : decode cX7_dog 5 = .ok (.aload_n 0, 1) := dk_42 (dk_at dksX7_dog_0 5 rfl rfl)
theorem dX7_dog_6 : decode cX7_dog 6 = .ok (.bipush 8, 2) := dk_16 8 (dk_at dksX7_dog_0 6 rfl rfl)
theorem dX7_dog_8 : decode cX7_dog 8 = .ok (.iload_n 1, 1) := dk_27 (dk_at dksX7_dog_0 8 rfl rfl)
theorem dX7_dog_9 : decode cX7_dog 9 = .ok (.iload_n 2, 1) := dk_28 (dk_at dksX7_dog_0 9 rfl rfl)
theorem dX7_dog_10 : decode cX7_dog 10 = .ok (.iload_n 3, 1) := dk_29 (dk_at dksX7_dog_0 10 rfl rfl)
theorem dX7_dog_11 : decode cX7_dog 11 = .ok (.invokevirtual 619, 3) := dk_182 2 107 (dk_at dksX7_dog_0 11 rfl rfl)
theorem dX7_dog_14 : decode cX7_dog 14 = .ok (.ireturn, 1) := dk_172 (dk_at dksX7_dog_0 14 rfl rfl)
def dkwX1_hedge_3 : List UInt8 := [4, 27, 120, 130, 181, 1, 197, 42, 182, 1, 186, 172]
abbrev dktX1_hedge_3 : List UInt8 := dkwX1_hedge_3 ++ []
def dkwX1_hedge_2 : List UInt8 := [167, 0, 4, 3, 182, 1, 177, 154, 0, 5, 3, 172, 42, 182, 1, 180, 42, 180, 0, 33, 89, 180, 1, 197]
abbrev dktX1_hedge_2 : List UInt8 := dkwX1_hedge_2 ++ dktX1_hedge_3
def dkwX1_hedge_1 : List UInt8 := [154, 0, 7, 4, 167, 0, 23, 42, 180, 0, 33, 180, 1, 197, 27, 184, 0, 203, 28, 160, 0, 7, 8]
abbrev dktX1_hedge_1 : List UInt8 := dkwX1_hedge_1 ++ dktX1_hedge_2
def dkwX1_hedge_0 : List UInt8 := [42, 42, 180, 0, 104, 198, 0, 20, 27, 3, 42, 180, 0, 104, 180, 1, 194, 4, 100, 184, 0, 90]
abbrev dktX1_hedge_0 : List UInt8 := dkwX1_hedge_0 ++ dktX1_hedge_1
theorem dksX1_hedge_0 : cX1_hedge.data.toList.drop 0 = dktX1_hedge_0 := by decide +kernel
theorem dksX1_hedge_1 : cX1_hedge.data.toList.drop 22 = dktX1_hedge_1 := dk_seg dksX1_hedge_0 22 rfl rfl
theorem dksX1_hedge_2 : cX1_hedge.data.toList.drop 45 = dktX1_hedge_2 := dk_seg dksX1_hedge_1 23 rfl rfl
theorem dksX1_hedge_3 : cX1_hedge.data.toList.drop 69 = dktX1_hedge_3 := dk_seg dksX1_hedge_2 24 rfl rfl
theorem dX1_hedge_0 : decode cX1_hedge 0 = .ok (.aload_n 0, 1) := dk_42 (dk_at dksX1_hedge_0 0 rfl rfl)
theorem dX1_hedge_1 : decode cX1_hedge 1 = .ok (.aload_n 0, 1) := dk_42 (dk_at dksX1_hedge_0 1 rfl rfl)
theorem dX1_hedge_2 : decode cX1_hedge 2 = .ok (.getfield 104, 3) := dk_180 0 104 (dk_at dksX1_hedge_0 2 rfl rfl)
theorem dX1_hedge_5 : decode cX1_hedge 5 = .ok (.ifnull 20, 3) := dk_198 0 20 (dk_at dksX1_hedge_0 5 rfl rfl)
theorem dX1_hedge_8 : decode cX1_hedge 8 = .ok (.iload_n 1, 1) := dk_27 (dk_at dksX1_hedge_0 8 rfl rfl)
theorem dX1_hedge_9 : decode cX1_hedge 9 = .ok (.iconst 0, 1) := dk_3 (dk_at dksX1_hedge_0 9 rfl rfl)
theorem dX1_hedge_10 : decode cX1_hedge 10 = .ok (.aload_n 0, 1) := dk_42 (dk_at dksX1_hedge_0 10 rfl rfl)
theorem dX1_hedge_11 : decode cX1_hedge 11 = .ok (.getfield 104, 3) := dk_180 0 104 (dk_at dksX1_hedge_0 11 rfl rfl)
theorem dX1_hedge_14 : decode cX1_hedge 14 = .ok (.getfield 450, 3) := dk_180 1 194 (dk_at dksX1_hedge_0 14 rfl rfl)
theorem dX1_hedge_17 : decode cX1_hedge 17 = .ok (.iconst 1, 1) := dk_4 (dk_at dksX1_hedge_0 17 rfl rfl)
theorem dX1_hedge_18 : decode cX1_hedge 18 = .ok (.isub, 1) := dk_100 (dk_at dksX1_hedge_0 18 rfl rfl)
theorem dX1_hedge_19 : decode cX1_hedge 19 = .ok (.invokestatic 90, 3) := dk_184 0 90 (dk_at dksX1_hedge_0 19 rfl rfl)
theorem dX1_hedge_22 : decode cX1_hedge 22 = .ok (.ifCond .ne 7, 3) := dk_154 0 7 (dk_at dksX1_hedge_1 0 rfl rfl)
theorem dX1_hedge_25 : decode cX1_hedge 25 = .ok (.iconst 1, 1) := dk_4 (dk_at dksX1_hedge_1 3 rfl rfl)
theorem dX1_hedge_26 : decode cX1_hedge 26 = .ok (.goto 23, 3) := dk_167 0 23 (dk_at dksX1_hedge_1 4 rfl rfl)
theorem dX1_hedge_29 : decode cX1_hedge 29 = .ok (.aload_n 0, 1) := dk_42 (dk_at dksX1_hedge_1 7 rfl rfl)
theorem dX1_hedge_30 : decode cX1_hedge 30 = .ok (.getfield 33, 3) := dk_180 0 33 (dk_at dksX1_hedge_1 8 rfl rfl)
theorem dX1_hedge_33 : decode cX1_hedge 33 = .ok (.getfield 453, 3) := dk_180 1 197 (dk_at dksX1_hedge_1 11 rfl rfl)
theorem dX1_hedge_36 : decode cX1_hedge 36 = .ok (.iload_n 1, 1) := dk_27 (dk_at dksX1_hedge_1 14 rfl rfl)
theorem dX1_hedge_37 : decode cX1_hedge 37 = .ok (.invokestatic 203, 3) := dk_184 0 203 (dk_at dksX1_hedge_1 15 rfl rfl)
theorem dX1_hedge_40 : decode cX1_hedge 40 = .ok (.iload_n 2, 1) := dk_28 (dk_at dksX1_hedge_1 18 rfl rfl)
theorem dX1_hedge_41 : decode cX1_hedge 41 = .ok (.if_icmp .ne 7, 3) := dk_160 0 7 (dk_at dksX1_hedge_1 19 rfl rfl)
theorem dX1_hedge_44 : decode cX1_hedge 44 = .ok (.iconst 5, 1) := dk_8 (dk_at dksX1_hedge_1 22 rfl rfl)
theorem dX1_hedge_45 : decode cX1_hedge 45 = .ok (.goto 4, 3) := dk_167 0 4 (dk_at dksX1_hedge_2 0 rfl rfl)
theorem dX1_hedge_48 : decode cX1_hedge 48 = .ok (.iconst 0, 1) := dk_3 (dk_at dksX1_hedge_2 3 rfl rfl)
theorem dX1_hedge_49 : decode cX1_hedge 49 = .ok (.invokevirtual 433, 3) := dk_182 1 177 (dk_at dksX1_hedge_2 4 rfl rfl)
theorem dX1_hedge_52 : decode cX1_hedge 52 = .ok (.ifCond .ne 5, 3) := dk_154 0 5 (dk_at dksX1_hedge_2 7 rfl rfl)
theorem dX1_hedge_55 : decode cX1_hedge 55 = .ok (.iconst 0, 1) := dk_3 (dk_at dksX1_hedge_2 10 rfl rfl)
theorem dX1_hedge_56 : decode cX1_hedge 56 = .ok (.ireturn, 1) := dk_172 (dk_at dksX1_hedge_2 11 rfl rfl)
theorem dX1_hedge_57 : decode cX1_hedge 57 = .ok (.aload_n 0, 1) := dk_42 (dk_at dksX1_hedge_2 12 rfl rfl)
theorem dX1_hedge_58 : decode cX1_hedge 58 = .ok (.invokevirtual 436, 3) := dk_182 1 180 (dk_at dksX1_hedge_2 13 rfl rfl)
theorem dX1_hedge_61 : decode cX1_hedge 61 = .ok (.aload_n 0, 1) := dk_42 (dk_at dksX1_hedge_2 16 rfl rfl)
theorem dX1_hedge_62 : decode cX1_hedge 62 = .ok (.getfield 33, 3) := dk_180 0 33 (dk_at dksX1_hedge_2 17 rfl rfl)
theorem dX1_hedge_65 : decode cX1_hedge 65 = .ok (.dup, 1) := dk_89 (dk_at dksX1_hedge_2 20 rfl rfl)
theorem dX1_hedge_66 : decode cX1_hedge 66 = .ok (.getfield 453, 3) := dk_180 1 197 (dk_at dksX1_hedge_2 21 rfl rfl)
theorem dX1_hedge_69 : decode cX1_hedge 69 = .ok (.iconst 1, 1) := dk_4 (dk_at dksX1_hedge_3 0 rfl rfl)
theorem dX1_hedge_70 : decode cX1_hedge 70 = .ok (.iload_n 1, 1) := dk_27 (dk_at dksX1_hedge_3 1 rfl rfl)
theorem dX1_hedge_71 : decode cX1_hedge 71 = .ok (.ishl, 1) := dk_120 (dk_at dksX1_hedge_3 2 rfl rfl)
theorem dX1_hedge_72 : decode cX1_hedge 72 = .ok (.ixor, 1) := dk_130 (dk_at dksX1_hedge_3 3 rfl rfl)
theorem dX1_hedge_73 : decode cX1_hedge 73 = .ok (.putfield 453, 3) := dk_181 1 197 (dk_at dksX1_hedge_3 4 rfl rfl)
theorem dX1_hedge_76 : decode cX1_hedge 76 = .ok (.aload_n 0, 1) := dk_42 (dk_at dksX1_hedge_3 7 rfl rfl)
theorem dX1_hedge_77 : decode cX1_hedge 77 = .ok (.invokevirtual 442, 3) := dk_182 1 186 (dk_at dksX1_hedge_3 8 rfl rfl)
theorem dX1_hedge_80 : decode cX1_hedge 80 = .ok (.ireturn, 1) := dk_172 (dk_at dksX1_hedge_3 11 rfl rfl)
def dkwX7_hedge_3 : List UInt8 := [182, 2, 104, 172]
abbrev dktX7_hedge_3 : List UInt8 := dkwX7_hedge_3 ++ []
def dkwX7_hedge_2 : List UInt8 := [42, 8, 182, 2, 95, 172, 42, 182, 2, 101, 42, 180, 0, 21, 16, 16, 92, 46, 4, 27, 120, 130, 79, 42]
abbrev dktX7_hedge_2 : List UInt8 := dkwX7_hedge_2 ++ dktX7_hedge_3
def dkwX7_hedge_1 : List UInt8 := [161, 0, 9, 42, 4, 182, 2, 95, 172, 42, 180, 0, 21, 16, 16, 46, 27, 184, 1, 110, 28, 160, 0, 9]
abbrev dktX7_hedge_1 : List UInt8 := dkwX7_hedge_1 ++ dktX7_hedge_2
def dkwX7_hedge_0 : List UInt8 := [42, 3, 181, 0, 66, 42, 180, 1, 186, 198, 0, 18, 27, 155, 0, 14, 27, 42, 180, 1, 186, 180, 1, 50]
abbrev dktX7_hedge_0 : List UInt8 := dkwX7_hedge_0 ++ dktX7_hedge_1
theorem dksX7_hedge_0 : cX7_hedge.data.toList.drop 0 = dktX7_hedge_0 := by decide +kernel
theorem dksX7_hedge_1 : cX7_hedge.data.toList.drop 24 = dktX7_hedge_1 := dk_seg dksX7_hedge_0 24 rfl rfl
theorem dksX7_hedge_2 : cX7_hedge.data.toList.drop 48 = dktX7_hedge_2 := dk_seg dksX7_hedge_1 24 rfl rfl
theorem dksX7_hedge_3 : cX7_hedge.data.toList.drop 72 = dktX7_hedge_3 := dk_seg dksX7_hedge_2 24 rfl rfl
theorem dX7_hedge_0 : decode cX7_hedge 0 = .ok (.aload_n 0, 1) := dk_42 (dk_at dksX7_hedge_0 0 rfl rfl)
theorem dX7_hedge_1 : decode cX7_hedge 1 = .ok (.iconst 0, 1) := dk_3 (dk_at dksX7_hedge_0 1 rfl rfl)
theorem dX7_hedge_2 : decode cX7_hedge 2 = .ok (.putfield 66, 3) := dk_181 0 66 (dk_at dksX7_hedge_0 2 rfl rfl)
theorem dX7_hedge_5 : decode cX7_hedge 5 = .ok (.aload_n 0, 1) := dk_42 (dk_at dksX7_hedge_0 5 rfl rfl)
theorem dX7_hedge_6 : decode cX7_hedge 6 = .ok (.getfield 442, 3) := dk_180 1 186 (dk_at dksX7_hedge_0 6 rfl rfl)
theorem dX7_hedge_9 : decode cX7_hedge 9 = .ok (.ifnull 18, 3) := dk_198 0 18 (dk_at dksX7_hedge_0 9 rfl rfl)
theorem dX7_hedge_12 : decode cX7_hedge 12 = .ok (.iload_n 1, 1) := dk_27 (dk_at dksX7_hedge_0 12 rfl rfl)
theorem dX7_hedge_13 : decode cX7_hedge 13 = .ok (.ifCond .lt 14, 3) := dk_155 0 14 (dk_at dksX7_hedge_0 13 rfl rfl)
theorem dX7_hedge_16 : decode cX7_hedge 16 = .ok (.iload_n 1, 1) := dk_27 (dk_at dksX7_hedge_0 16 rfl rfl)
theorem dX7_hedge_17 : decode cX7_hedge 17 = .ok (.aload_n 0, 1) := dk_42 (dk_at dksX7_hedge_0 17 rfl rfl)
theorem dX7_hedge_18 : decode cX7_hedge 18 = .ok (.getfield 442, 3) := dk_180 1 186 (dk_at dksX7_hedge_0 18 rfl rfl)
theorem dX7_hedge_21 : decode cX7_hedge 21 = .ok (.getfield 306, 3) := dk_180 1 50 (dk_at dksX7_hedge_0 21 rfl rfl)
theorem dX7_hedge_24 : decode cX7_hedge 24 = .ok (.if_icmp .lt 9, 3) := dk_161 0 9 (dk_at dksX7_hedge_1 0 rfl rfl)
theorem dX7_hedge_27 : decode cX7_hedge 27 = .ok (.aload_n 0, 1) := dk_42 (dk_at dksX7_hedge_1 3 rfl rfl)
theorem dX7_hedge_28 : decode cX7_hedge 28 = .ok (.iconst 1, 1) := dk_4 (dk_at dksX7_hedge_1 4 rfl rfl)
theorem dX7_hedge_29 : decode cX7_hedge 29 = .ok (.invokevirtual 607, 3) := dk_182 2 95 (dk_at dksX7_hedge_1 5 rfl rfl)
theorem dX7_hedge_32 : decode cX7_hedge 32 = .ok (.ireturn, 1) := dk_172 (dk_at dksX7_hedge_1 8 rfl rfl)
theorem dX7_hedge_33 : decode cX7_hedge 33 = .ok (.aload_n 0, 1) := dk_42 (dk_at dksX7_hedge_1 9 rfl rfl)
theorem dX7_hedge_34 : decode cX7_hedge 34 = .ok (.getfield 21, 3) := dk_180 0 21 (dk_at dksX7_hedge_1 10 rfl rfl)
theorem dX7_hedge_37 : decode cX7_hedge 37 = .ok (.bipush 16, 2) := dk_16 16 (dk_at dksX7_hedge_1 13 rfl rfl)
theorem dX7_hedge_39 : decode cX7_hedge 39 = .ok (.iaload, 1) := dk_46 (dk_at dksX7_hedge_1 15 rfl rfl)
theorem dX7_hedge_40 : decode cX7_hedge 40 = .ok (.iload_n 1, 1) := dk_27 (dk_at dksX7_hedge_1 16 rfl rfl)
theorem dX7_hedge_41 : decode cX7_hedge 41 = .ok (.invokestatic 366, 3) := dk_184 1 110 (dk_at dksX7_hedge_1 17 rfl rfl)
theorem dX7_hedge_44 : decode cX7_hedge 44 = .ok (.iload_n 2, 1) := dk_28 (dk_at dksX7_hedge_1 20 rfl rfl)
theorem dX7_hedge_45 : decode cX7_hedge 45 = .ok (.if_icmp .ne 9, 3) := dk_160 0 9 (dk_at dksX7_hedge_1 21 rfl rfl)
theorem dX7_hedge_48 : decode cX7_hedge 48 = .ok (.aload_n 0, 1) := dk_42 (dk_at dksX7_hedge_2 0 rfl rfl)
theorem dX7_hedge_49 : decode cX7_hedge 49 = .ok (.iconst 5, 1) := dk_8 (dk_at dksX7_hedge_2 1 rfl rfl)
theorem dX7_hedge_50 : decode cX7_hedge 50 = .ok (.invokevirtual 607, 3) := dk_182 2 95 (dk_at dksX7_hedge_2 2 rfl rfl)
theorem dX7_hedge_53 : decode cX7_hedge 53 = .ok (.ireturn, 1) := dk_172 (dk_at dksX7_hedge_2 5 rfl rfl)
theorem dX7_hedge_54 : decode cX7_hedge 54 = .ok (.aload_n 0, 1) := dk_42 (dk_at dksX7_hedge_2 6 rfl rfl)
theorem dX7_hedge_55 : decode cX7_hedge 55 = .ok (.invokevirtual 613, 3) := dk_182 2 101 (dk_at dksX7_hedge_2 7 rfl rfl)
theorem dX7_hedge_58 : decode cX7_hedge 58 = .ok (.aload_n 0, 1) := dk_42 (dk_at dksX7_hedge_2 10 rfl rfl)
theorem dX7_hedge_59 : decode cX7_hedge 59 = .ok (.getfield 21, 3) := dk_180 0 21 (dk_at dksX7_hedge_2 11 rfl rfl)
theorem dX7_hedge_62 : decode cX7_hedge 62 = .ok (.bipush 16, 2) := dk_16 16 (dk_at dksX7_hedge_2 14 rfl rfl)
theorem dX7_hedge_64 : decode cX7_hedge 64 = .ok (.dup2, 1) := dk_92 (dk_at dksX7_hedge_2 16 rfl rfl)
theorem dX7_hedge_65 : decode cX7_hedge 65 = .ok (.iaload, 1) := dk_46 (dk_at dksX7_hedge_2 17 rfl rfl)
theorem dX7_hedge_66 : decode cX7_hedge 66 = .ok (.iconst 1, 1) := dk_4 (dk_at dksX7_hedge_2 18 rfl rfl)
theorem dX7_hedge_67 : decode cX7_hedge 67 = .ok (.iload_n 1, 1) := dk_27 (dk_at dksX7_hedge_2 19 rfl rfl)
theorem dX7_hedge_68 : decode cX7_hedge 68 = .ok (.ishl, 1) := dk_120 (dk_at dksX7_hedge_2 20 rfl rfl)
theorem dX7_hedge_69 : decode cX7_hedge 69 = .ok (.ixor, 1) := dk_130 (dk_at dksX7_hedge_2 21 rfl rfl)
theorem dX7_hedge_70 : decode cX7_hedge 70 = .ok (.iastore, 1) := dk_79 (dk_at dksX7_hedge_2 22 rfl rfl)
theorem dX7_hedge_71 : decode cX7_hedge 71 = .ok (.aload_n 0, 1) := dk_42 (dk_at dksX7_hedge_2 23 rfl rfl)
theorem dX7_hedge_72 : decode cX7_hedge 72 = .ok (.invokevirtual 616, 3) := dk_182 2 104 (dk_at dksX7_hedge_3 0 rfl rfl)
theorem dX7_hedge_75 : decode cX7_hedge 75 = .ok (.ireturn, 1) := dk_172 (dk_at dksX7_hedge_3 3 rfl rfl)
def dkwX1_hear_2 : List UInt8 := [180, 0, 33, 89, 180, 0, 200, 4, 27, 120, 130, 181, 0, 200, 42, 182, 1, 186, 172]
abbrev dktX1_hear_2 : List UInt8 := dkwX1_hear_2 ++ []
def dkwX1_hear_1 : List UInt8 := [28, 160, 0, 7, 8, 167, 0, 4, 3, 182, 1, 177, 154, 0, 5, 3, 172, 42, 182, 1, 180, 42]
abbrev dktX1_hear_1 : List UInt8 := dkwX1_hear_1 ++ dktX1_hear_2
def dkwX1_hear_0 : List UInt8 := [42, 42, 27, 182, 0, 169, 154, 0, 7, 4, 167, 0, 23, 42, 180, 0, 33, 180, 0, 200, 27, 184, 0, 203]
abbrev dktX1_hear_0 : List UInt8 := dkwX1_hear_0 ++ dktX1_hear_1
theorem dksX1_hear_0 : cX1_hear.data.toList.drop 0 = dktX1_hear_0 := by decide +kernel
theorem dksX1_hear_1 : cX1_hear.data.toList.drop 24 = dktX1_hear_1 := dk_seg dksX1_hear_0 24 rfl rfl
theorem dksX1_hear_2 : cX1_hear.data.toList.drop 46 = dktX1_hear_2 := dk_seg dksX1_hear_1 22 rfl rfl
theorem dX1_hear_0 : decode cX1_hear 0 = .ok (.aload_n 0, 1) := dk_42 (dk_at dksX1_hear_0 0 rfl rfl)
theorem dX1_hear_1 : decode cX1_hear 1 = .ok (.aload_n 0, 1) := dk_42 (dk_at dksX1_hear_0 1 rfl rfl)
theorem dX1_hear_2 : decode cX1_hear 2 = .ok (.iload_n 1, 1) := dk_27 (dk_at dksX1_hear_0 2 rfl rfl)
theorem dX1_hear_3 : decode cX1_hear 3 = .ok (.invokevirtual 169, 3) := dk_182 0 169 (dk_at dksX1_hear_0 3 rfl rfl)
theorem dX1_hear_6 : decode cX1_hear 6 = .ok (.ifCond .ne 7, 3) := dk_154 0 7 (dk_at dksX1_hear_0 6 rfl rfl)
theorem dX1_hear_9 : decode cX1_hear 9 = .ok (.iconst 1, 1) := dk_4 (dk_at dksX1_hear_0 9 rfl rfl)
theorem dX1_hear_10 : decode cX1_hear 10 = .ok (.goto 23, 3) := dk_167 0 23 (dk_at dksX1_hear_0 10 rfl rfl)
theorem dX1_hear_13 : decode cX1_hear 13 = .ok (.aload_n 0, 1) := dk_42 (dk_at dksX1_hear_0 13 rfl rfl)
theorem dX1_hear_14 : decode cX1_hear 14 = .ok (.getfield 33, 3) := dk_180 0 33 (dk_at dksX1_hear_0 14 rfl rfl)
theorem dX1_hear_17 : decode cX1_hear 17 = .ok (.getfield 200, 3) := dk_180 0 200 (dk_at dksX1_hear_0 17 rfl rfl)
theorem dX1_hear_20 : decode cX1_hear 20 = .ok (.iload_n 1, 1) := dk_27 (dk_at dksX1_hear_0 20 rfl rfl)
theorem dX1_hear_21 : decode cX1_hear 21 = .ok (.invokestatic 203, 3) := dk_184 0 203 (dk_at dksX1_hear_0 21 rfl rfl)
theorem dX1_hear_24 : decode cX1_hear 24 = .ok (.iload_n 2, 1) := dk_28 (dk_at dksX1_hear_1 0 rfl rfl)
theorem dX1_hear_25 : decode cX1_hear 25 = .ok (.if_icmp .ne 7, 3) := dk_160 0 7 (dk_at dksX1_hear_1 1 rfl rfl)
theorem dX1_hear_28 : decode cX1_hear 28 = .ok (.iconst 5, 1) := dk_8 (dk_at dksX1_hear_1 4 rfl rfl)
theorem dX1_hear_29 : decode cX1_hear 29 = .ok (.goto 4, 3) := dk_167 0 4 (dk_at dksX1_hear_1 5 rfl rfl)
theorem dX1_hear_32 : decode cX1_hear 32 = .ok (.iconst 0, 1) := dk_3 (dk_at dksX1_hear_1 8 rfl rfl)
theorem dX1_hear_33 : decode cX1_hear 33 = .ok (.invokevirtual 433, 3) := dk_182 1 177 (dk_at dksX1_hear_1 9 rfl rfl)
theorem dX1_hear_36 : decode cX1_hear 36 = .ok (.ifCond .ne 5, 3) := dk_154 0 5 (dk_at dksX1_hear_1 12 rfl rfl)
theorem dX1_hear_39 : decode cX1_hear 39 = .ok (.iconst 0, 1) := dk_3 (dk_at dksX1_hear_1 15 rfl rfl)
theorem dX1_hear_40 : decode cX1_hear 40 = .ok (.ireturn, 1) := dk_172 (dk_at dksX1_hear_1 16 rfl rfl)
theorem dX1_hear_41 : decode cX1_hear 41 = .ok (.aload_n 0, 1) := dk_42 (dk_at dksX1_hear_1 17 rfl rfl)
theorem dX1_hear_42 : decode cX1_hear 42 = .ok (.invokevirtual 436, 3) := dk_182 1 180 (dk_at dksX1_hear_1 18 rfl rfl)
theorem dX1_hear_45 : decode cX1_hear 45 = .ok (.aload_n 0, 1) := dk_42 (dk_at dksX1_hear_1 21 rfl rfl)
theorem dX1_hear_46 : decode cX1_hear 46 = .ok (.getfield 33, 3) := dk_180 0 33 (dk_at dksX1_hear_2 0 rfl rfl)
theorem dX1_hear_49 : decode cX1_hear 49 = .ok (.dup, 1) := dk_89 (dk_at dksX1_hear_2 3 rfl rfl)
theorem dX1_hear_50 : decode cX1_hear 50 = .ok (.getfield 200, 3) := dk_180 0 200 (dk_at dksX1_hear_2 4 rfl rfl)
theorem dX1_hear_53 : decode cX1_hear 53 = .ok (.iconst 1, 1) := dk_4 (dk_at dksX1_hear_2 7 rfl rfl)
theorem dX1_hear_54 : decode cX1_hear 54 = .ok (.iload_n 1, 1) := dk_27 (dk_at dksX1_hear_2 8 rfl rfl)
theorem dX1_hear_55 : decode cX1_hear 55 = .ok (.ishl, 1) := dk_120 (dk_at dksX1_hear_2 9 rfl rfl)
theorem dX1_hear_56 : decode cX1_hear 56 = .ok (.ixor, 1) := dk_130 (dk_at dksX1_hear_2 10 rfl rfl)
theorem dX1_hear_57 : decode cX1_hear 57 = .ok (.putfield 200, 3) := dk_181 0 200 (dk_at dksX1_hear_2 11 rfl rfl)
theorem dX1_hear_60 : decode cX1_hear 60 = .ok (.aload_n 0, 1) := dk_42 (dk_at dksX1_hear_2 14 rfl rfl)
theorem dX1_hear_61 : decode cX1_hear 61 = .ok (.invokevirtual 442, 3) := dk_182 1 186 (dk_at dksX1_hear_2 15 rfl rfl)
theorem dX1_hear_64 : decode cX1_hear 64 = .ok (.ireturn, 1) := dk_172 (dk_at dksX1_hear_2 18 rfl rfl)
def dkwX7_hear_2 : List UInt8 := [120, 130, 79, 42, 182, 2, 104, 172]
abbrev dktX7_hear_2 : List UInt8 := dkwX7_hear_2 ++ []
def dkwX7_hear_1 : List UInt8 := [28, 160, 0, 9, 42, 8, 182, 2, 95, 172, 42, 182, 2, 101, 42, 180, 0, 21, 16, 17, 92, 46, 4, 27]
abbrev dktX7_hear_1 : List UInt8 := dkwX7_hear_1 ++ dktX7_hear_2
def dkwX7_hear_0 : List UInt8 := [42, 3, 181, 0, 66, 42, 27, 182, 1, 241, 154, 0, 9, 42, 4, 182, 2, 95, 172, 42, 27, 182, 1, 244]
abbrev dktX7_hear_0 : List UInt8 := dkwX7_hear_0 ++ dktX7_hear_1
theorem dksX7_hear_0 : cX7_hear.data.toList.drop 0 = dktX7_hear_0 := by decide +kernel
theorem dksX7_hear_1 : cX7_hear.data.toList.drop 24 = dktX7_hear_1 := dk_seg dksX7_hear_0 24 rfl rfl
theorem dksX7_hear_2 : cX7_hear.data.toList.drop 48 = dktX7_hear_2 := dk_seg dksX7_hear_1 24 rfl rfl
theorem dX7_hear_0 : decode cX7_hear 0 = .ok (.aload_n 0, 1) := dk_42 (dk_at dksX7_hear_0 0 rfl rfl)
theorem dX7_hear_1 : decode cX7_hear 1 = .ok (.iconst 0, 1) := dk_3 (dk_at dksX7_hear_0 1 rfl rfl)
theorem dX7_hear_2 : decode cX7_hear 2 = .ok (.putfield 66, 3) := dk_181 0 66 (dk_at dksX7_hear_0 2 rfl rfl)
theorem dX7_hear_5 : decode cX7_hear 5 = .ok (.aload_n 0, 1) := dk_42 (dk_at dksX7_hear_0 5 rfl rfl)
theorem dX7_hear_6 : decode cX7_hear 6 = .ok (.iload_n 1, 1) := dk_27 (dk_at dksX7_hear_0 6 rfl rfl)
theorem dX7_hear_7 : decode cX7_hear 7 = .ok (.invokevirtual 497, 3) := dk_182 1 241 (dk_at dksX7_hear_0 7 rfl rfl)
theorem dX7_hear_10 : decode cX7_hear 10 = .ok (.ifCond .ne 9, 3) := dk_154 0 9 (dk_at dksX7_hear_0 10 rfl rfl)
theorem dX7_hear_13 : decode cX7_hear 13 = .ok (.aload_n 0, 1) := dk_42 (dk_at dksX7_hear_0 13 rfl rfl)
theorem dX7_hear_14 : decode cX7_hear 14 = .ok (.iconst 1, 1) := dk_4 (dk_at dksX7_hear_0 14 rfl rfl)
theorem dX7_hear_15 : decode cX7_hear 15 = .ok (.invokevirtual 607, 3) := dk_182 2 95 (dk_at dksX7_hear_0 15 rfl rfl)
theorem dX7_hear_18 : decode cX7_hear 18 = .ok (.ireturn, 1) := dk_172 (dk_at dksX7_hear_0 18 rfl rfl)
theorem dX7_hear_19 : decode cX7_hear 19 = .ok (.aload_n 0, 1) := dk_42 (dk_at dksX7_hear_0 19 rfl rfl)
theorem dX7_hear_20 : decode cX7_hear 20 = .ok (.iload_n 1, 1) := dk_27 (dk_at dksX7_hear_0 20 rfl rfl)
theorem dX7_hear_21 : decode cX7_hear 21 = .ok (.invokevirtual 500, 3) := dk_182 1 244 (dk_at dksX7_hear_0 21 rfl rfl)
theorem dX7_hear_24 : decode cX7_hear 24 = .ok (.iload_n 2, 1) := dk_28 (dk_at dksX7_hear_1 0 rfl rfl)
theorem dX7_hear_25 : decode cX7_hear 25 = .ok (.if_icmp .ne 9, 3) := dk_160 0 9 (dk_at dksX7_hear_1 1 rfl rfl)
theorem dX7_hear_28 : decode cX7_hear 28 = .ok (.aload_n 0, 1) := dk_42 (dk_at dksX7_hear_1 4 rfl rfl)
theorem dX7_hear_29 : decode cX7_hear 29 = .ok (.iconst 5, 1) := dk_8 (dk_at dksX7_hear_1 5 rfl rfl)
theorem dX7_hear_30 : decode cX7_hear 30 = .ok (.invokevirtual 607, 3) := dk_182 2 95 (dk_at dksX7_hear_1 6 rfl rfl)
theorem dX7_hear_33 : decode cX7_hear 33 = .ok (.ireturn, 1) := dk_172 (dk_at dksX7_hear_1 9 rfl rfl)
theorem dX7_hear_34 : decode cX7_hear 34 = .ok (.aload_n 0, 1) := dk_42 (dk_at dksX7_hear_1 10 rfl rfl)
theorem dX7_hear_35 : decode cX7_hear 35 = .ok (.invokevirtual 613, 3) := dk_182 2 101 (dk_at dksX7_hear_1 11 rfl rfl)
theorem dX7_hear_38 : decode cX7_hear 38 = .ok (.aload_n 0, 1) := dk_42 (dk_at dksX7_hear_1 14 rfl rfl)
theorem dX7_hear_39 : decode cX7_hear 39 = .ok (.getfield 21, 3) := dk_180 0 21 (dk_at dksX7_hear_1 15 rfl rfl)
theorem dX7_hear_42 : decode cX7_hear 42 = .ok (.bipush 17, 2) := dk_16 17 (dk_at dksX7_hear_1 18 rfl rfl)
theorem dX7_hear_44 : decode cX7_hear 44 = .ok (.dup2, 1) := dk_92 (dk_at dksX7_hear_1 20 rfl rfl)
theorem dX7_hear_45 : decode cX7_hear 45 = .ok (.iaload, 1) := dk_46 (dk_at dksX7_hear_1 21 rfl rfl)
theorem dX7_hear_46 : decode cX7_hear 46 = .ok (.iconst 1, 1) := dk_4 (dk_at dksX7_hear_1 22 rfl rfl)
theorem dX7_hear_47 : decode cX7_hear 47 = .ok (.iload_n 1, 1) := dk_27 (dk_at dksX7_hear_1 23 rfl rfl)
theorem dX7_hear_48 : decode cX7_hear 48 = .ok (.ishl, 1) := dk_120 (dk_at dksX7_hear_2 0 rfl rfl)
theorem dX7_hear_49 : decode cX7_hear 49 = .ok (.ixor, 1) := dk_130 (dk_at dksX7_hear_2 1 rfl rfl)
theorem dX7_hear_50 : decode cX7_hear 50 = .ok (.iastore, 1) := dk_79 (dk_at dksX7_hear_2 2 rfl rfl)
theorem dX7_hear_51 : decode cX7_hear 51 = .ok (.aload_n 0, 1) := dk_42 (dk_at dksX7_hear_2 3 rfl rfl)
theorem dX7_hear_52 : decode cX7_hear 52 = .ok (.invokevirtual 616, 3) := dk_182 2 104 (dk_at dksX7_hear_2 4 rfl rfl)
theorem dX7_hear_55 : decode cX7_hear 55 = .ok (.ireturn, 1) := dk_172 (dk_at dksX7_hear_2 7 rfl rfl)
def dkwX1_undo_2 : List UInt8 := [4, 172]
abbrev dktX1_undo_2 : List UInt8 := dkwX1_undo_2 ++ []
def dkwX1_undo_1 : List UInt8 := [180, 0, 118, 4, 100, 181, 0, 118, 42, 180, 0, 33, 42, 180, 0, 57, 42, 180, 0, 118, 50, 182, 1, 77]
abbrev dktX1_undo_1 : List UInt8 := dkwX1_undo_1 ++ dktX1_undo_2
def dkwX1_undo_0 : List UInt8 := [42, 42, 180, 0, 118, 154, 0, 8, 16, 6, 167, 0, 4, 3, 182, 1, 177, 154, 0, 5, 3, 172, 42, 89]
abbrev dktX1_undo_0 : List UInt8 := dkwX1_undo_0 ++ dktX1_undo_1
theorem dksX1_undo_0 : cX1_undo.data.toList.drop 0 = dktX1_undo_0 := by decide +kernel
theorem dksX1_undo_1 : cX1_undo.data.toList.drop 24 = dktX1_undo_1 := dk_seg dksX1_undo_0 24 rfl rfl
theorem dksX1_undo_2 : cX1_undo.data.toList.drop 48 = dktX1_undo_2 := dk_seg dksX1_undo_1 24 rfl rfl
theorem dX1_undo_0 : decode cX1_undo 0 = .ok (.aload_n 0, 1) := dk_42 (dk_at dksX1_undo_0 0 rfl rfl)
theorem dX1_undo_1 : decode cX1_undo 1 = .ok (.aload_n 0, 1) := dk_42 (dk_at dksX1_undo_0 1 rfl rfl)
theorem dX1_undo_2 : decode cX1_undo 2 = .ok (.getfield 118, 3) := dk_180 0 118 (dk_at dksX1_undo_0 2 rfl rfl)
theorem dX1_undo_5 : decode cX1_undo 5 = .ok (.ifCond .ne 8, 3) := dk_154 0 8 (dk_at dksX1_undo_0 5 rfl rfl)
theorem dX1_undo_8 : decode cX1_undo 8 = .ok (.bipush 6, 2) := dk_16 6 (dk_at dksX1_undo_0 8 rfl rfl)
theorem dX1_undo_10 : decode cX1_undo 10 = .ok (.goto 4, 3) := dk_167 0 4 (dk_at dksX1_undo_0 10 rfl rfl)
theorem dX1_undo_13 : decode cX1_undo 13 = .ok (.iconst 0, 1) := dk_3 (dk_at dksX1_undo_0 13 rfl rfl)
theorem dX1_undo_14 : decode cX1_undo 14 = .ok (.invokevirtual 433, 3) := dk_182 1 177 (dk_at dksX1_undo_0 14 rfl rfl)
theorem dX1_undo_17 : decode cX1_undo 17 = .ok (.ifCond .ne 5, 3) := dk_154 0 5 (dk_at dksX1_undo_0 17 rfl rfl)
theorem dX1_undo_20 : decode cX1_undo 20 = .ok (.iconst 0, 1) := dk_3 (dk_at dksX1_undo_0 20 rfl rfl)
theorem dX1_undo_21 : decode cX1_undo 21 = .ok (.ireturn, 1) := dk_172 (dk_at dksX1_undo_0 21 rfl rfl)
theorem dX1_undo_22 : decode cX1_undo 22 = .ok (.aload_n 0, 1) := dk_42 (dk_at dksX1_undo_0 22 rfl rfl)
theorem dX1_undo_23 : decode cX1_undo 23 = .ok (.dup, 1) := dk_89 (dk_at dksX1_undo_0 23 rfl rfl)
theorem dX1_undo_24 : decode cX1_undo 24 = .ok (.getfield 118, 3) := dk_180 0 118 (dk_at dksX1_undo_1 0 rfl rfl)
theorem dX1_undo_27 : decode cX1_undo 27 = .ok (.iconst 1, 1) := dk_4 (dk_at dksX1_undo_1 3 rfl rfl)
theorem dX1_undo_28 : decode cX1_undo 28 = .ok (.isub, 1) := dk_100 (dk_at dksX1_undo_1 4 rfl rfl)
theorem dX1_undo_29 : decode cX1_undo 29 = .ok (.putfield 118, 3) := dk_181 0 118 (dk_at dksX1_undo_1 5 rfl rfl)
theorem dX1_undo_32 : decode cX1_undo 32 = .ok (.aload_n 0, 1) := dk_42 (dk_at dksX1_undo_1 8 rfl rfl)
theorem dX1_undo_33 : decode cX1_undo 33 = .ok (.getfield 33, 3) := dk_180 0 33 (dk_at dksX1_undo_1 9 rfl rfl)
theorem dX1_undo_36 : decode cX1_undo 36 = .ok (.aload_n 0, 1) := dk_42 (dk_at dksX1_undo_1 12 rfl rfl)
theorem dX1_undo_37 : decode cX1_undo 37 = .ok (.getfield 57, 3) := dk_180 0 57 (dk_at dksX1_undo_1 13 rfl rfl)
theorem dX1_undo_40 : decode cX1_undo 40 = .ok (.aload_n 0, 1) := dk_42 (dk_at dksX1_undo_1 16 rfl rfl)
theorem dX1_undo_41 : decode cX1_undo 41 = .ok (.getfield 118, 3) := dk_180 0 118 (dk_at dksX1_undo_1 17 rfl rfl)
theorem dX1_undo_44 : decode cX1_undo 44 = .ok (.aaload, 1) := dk_50 (dk_at dksX1_undo_1 20 rfl rfl)
theorem dX1_undo_45 : decode cX1_undo 45 = .ok (.invokevirtual 333, 3) := dk_182 1 77 (dk_at dksX1_undo_1 21 rfl rfl)
theorem dX1_undo_48 : decode cX1_undo 48 = .ok (.iconst 1, 1) := dk_4 (dk_at dksX1_undo_2 0 rfl rfl)
theorem dX1_undo_49 : decode cX1_undo 49 = .ok (.ireturn, 1) := dk_172 (dk_at dksX1_undo_2 1 rfl rfl)
def dkwX7_undo_3 : List UInt8 := [167, 255, 227, 42, 182, 2, 104, 172]
abbrev dktX7_undo_3 : List UInt8 := dkwX7_undo_3 ++ []
def dkwX7_undo_2 : List UInt8 := [180, 0, 21, 27, 42, 180, 0, 24, 16, 18, 42, 180, 1, 188, 104, 27, 96, 46, 79, 132, 1, 1]
abbrev dktX7_undo_2 : List UInt8 := dkwX7_undo_2 ++ dktX7_undo_3
def dkwX7_undo_1 : List UInt8 := [182, 2, 95, 172, 42, 89, 180, 1, 188, 4, 100, 181, 1, 188, 3, 60, 27, 16, 18, 162, 0, 29, 42]
abbrev dktX7_undo_1 : List UInt8 := dkwX7_undo_1 ++ dktX7_undo_2
def dkwX7_undo_0 : List UInt8 := [42, 3, 181, 0, 66, 42, 180, 1, 186, 198, 0, 10, 42, 180, 1, 188, 154, 0, 10, 42, 16, 6]
abbrev dktX7_undo_0 : List UInt8 := dkwX7_undo_0 ++ dktX7_undo_1
theorem dksX7_undo_0 : cX7_undo.data.toList.drop 0 = dktX7_undo_0 := by decide +kernel
theorem dksX7_undo_1 : cX7_undo.data.toList.drop 22 = dktX7_undo_1 := dk_seg dksX7_undo_0 22 rfl rfl
theorem dksX7_undo_2 : cX7_undo.data.toList.drop 45 = dktX7_undo_2 := dk_seg dksX7_undo_1 23 rfl rfl
theorem dksX7_undo_3 : cX7_undo.data.toList.drop 67 = dktX7_undo_3 := dk_seg dksX7_undo_2 22 rfl rfl
theorem dX7_undo_0 : decode cX7_undo 0 = .ok (.aload_n 0, 1) := dk_42 (dk_at dksX7_undo_0 0 rfl rfl)
theorem dX7_undo_1 : decode cX7_undo 1 = .ok (.iconst 0, 1) := dk_3 (dk_at dksX7_undo_0 1 rfl rfl)
theorem dX7_undo_2 : decode cX7_undo 2 = .ok (.putfield 66, 3) := dk_181 0 66 (dk_at dksX7_undo_0 2 rfl rfl)
theorem dX7_undo_5 : decode cX7_undo 5 = .ok (.aload_n 0, 1) := dk_42 (dk_at dksX7_undo_0 5 rfl rfl)
theorem dX7_undo_6 : decode cX7_undo 6 = .ok (.getfield 442, 3) := dk_180 1 186 (dk_at dksX7_undo_0 6 rfl rfl)
theorem dX7_undo_9 : decode cX7_undo 9 = .ok (.ifnull 10, 3) := dk_198 0 10 (dk_at dksX7_undo_0 9 rfl rfl)
theorem dX7_undo_12 : decode cX7_undo 12 = .ok (.aload_n 0, 1) := dk_42 (dk_at dksX7_undo_0 12 rfl rfl)
theorem dX7_undo_13 : decode cX7_undo 13 = .ok (.getfield 444, 3) := dk_180 1 188 (dk_at dksX7_undo_0 13 rfl rfl)
theorem dX7_undo_16 : decode cX7_undo 16 = .ok (.ifCond .ne 10, 3) := dk_154 0 10 (dk_at dksX7_undo_0 16 rfl rfl)
theorem dX7_undo_19 : decode cX7_undo 19 = .ok (.aload_n 0, 1) := dk_42 (dk_at dksX7_undo_0 19 rfl rfl)
theorem dX7_undo_20 : decode cX7_undo 20 = .ok (.bipush 6, 2) := dk_16 6 (dk_at dksX7_undo_0 20 rfl rfl)
theorem dX7_undo_22 : decode cX7_undo 22 = .ok (.invokevirtual 607, 3) := dk_182 2 95 (dk_at dksX7_undo_1 0 rfl rfl)
theorem dX7_undo_25 : decode cX7_undo 25 = .ok (.ireturn, 1) := dk_172 (dk_at dksX7_undo_1 3 rfl rfl)
theorem dX7_undo_26 : decode cX7_undo 26 = .ok (.aload_n 0, 1) := dk_42 (dk_at dksX7_undo_1 4 rfl rfl)
theorem dX7_undo_27 : decode cX7_undo 27 = .ok (.dup, 1) := dk_89 (dk_at dksX7_undo_1 5 rfl rfl)
theorem dX7_undo_28 : decode cX7_undo 28 = .ok (.getfield 444, 3) := dk_180 1 188 (dk_at dksX7_undo_1 6 rfl rfl)
theorem dX7_undo_31 : decode cX7_undo 31 = .ok (.iconst 1, 1) := dk_4 (dk_at dksX7_undo_1 9 rfl rfl)
theorem dX7_undo_32 : decode cX7_undo 32 = .ok (.isub, 1) := dk_100 (dk_at dksX7_undo_1 10 rfl rfl)
theorem dX7_undo_33 : decode cX7_undo 33 = .ok (.putfield 444, 3) := dk_181 1 188 (dk_at dksX7_undo_1 11 rfl rfl)
theorem dX7_undo_36 : decode cX7_undo 36 = .ok (.iconst 0, 1) := dk_3 (dk_at dksX7_undo_1 14 rfl rfl)
theorem dX7_undo_37 : decode cX7_undo 37 = .ok (.istore_n 1, 1) := dk_60 (dk_at dksX7_undo_1 15 rfl rfl)
theorem dX7_undo_38 : decode cX7_undo 38 = .ok (.iload_n 1, 1) := dk_27 (dk_at dksX7_undo_1 16 rfl rfl)
theorem dX7_undo_39 : decode cX7_undo 39 = .ok (.bipush 18, 2) := dk_16 18 (dk_at dksX7_undo_1 17 rfl rfl)
theorem dX7_undo_41 : decode cX7_undo 41 = .ok (.if_icmp .ge 29, 3) := dk_162 0 29 (dk_at dksX7_undo_1 19 rfl rfl)
theorem dX7_undo_44 : decode cX7_undo 44 = .ok (.aload_n 0, 1) := dk_42 (dk_at dksX7_undo_1 22 rfl rfl)
theorem dX7_undo_45 : decode cX7_undo 45 = .ok (.getfield 21, 3) := dk_180 0 21 (dk_at dksX7_undo_2 0 rfl rfl)
theorem dX7_undo_48 : decode cX7_undo 48 = .ok (.iload_n 1, 1) := dk_27 (dk_at dksX7_undo_2 3 rfl rfl)
theorem dX7_undo_49 : decode cX7_undo 49 = .ok (.aload_n 0, 1) := dk_42 (dk_at dksX7_undo_2 4 rfl rfl)
theorem dX7_undo_50 : decode cX7_undo 50 = .ok (.getfield 24, 3) := dk_180 0 24 (dk_at dksX7_undo_2 5 rfl rfl)
theorem dX7_undo_53 : decode cX7_undo 53 = .ok (.bipush 18, 2) := dk_16 18 (dk_at dksX7_undo_2 8 rfl rfl)
theorem dX7_undo_55 : decode cX7_undo 55 = .ok (.aload_n 0, 1) := dk_42 (dk_at dksX7_undo_2 10 rfl rfl)
theorem dX7_undo_56 : decode cX7_undo 56 = .ok (.getfield 444, 3) := dk_180 1 188 (dk_at dksX7_undo_2 11 rfl rfl)
theorem dX7_undo_59 : decode cX7_undo 59 = .ok (.imul, 1) := dk_104 (dk_at dksX7_undo_2 14 rfl rfl)
theorem dX7_undo_60 : decode cX7_undo 60 = .ok (.iload_n 1, 1) := dk_27 (dk_at dksX7_undo_2 15 rfl rfl)
theorem dX7_undo_61 : decode cX7_undo 61 = .ok (.iadd, 1) := dk_96 (dk_at dksX7_undo_2 16 rfl rfl)
theorem dX7_undo_62 : decode cX7_undo 62 = .ok (.iaload, 1) := dk_46 (dk_at dksX7_undo_2 17 rfl rfl)
theorem dX7_undo_63 : decode cX7_undo 63 = .ok (.iastore, 1) := dk_79 (dk_at dksX7_undo_2 18 rfl rfl)
theorem dX7_undo_64 : decode cX7_undo 64 = .ok (.iinc 1 1, 3) := dk_132 1 1 (dk_at dksX7_undo_2 19 rfl rfl)
theorem dX7_undo_67 : decode cX7_undo 67 = .ok (.goto (-29), 3) := dk_167 255 227 (dk_at dksX7_undo_3 0 rfl rfl)
theorem dX7_undo_70 : decode cX7_undo 70 = .ok (.aload_n 0, 1) := dk_42 (dk_at dksX7_undo_3 3 rfl rfl)
theorem dX7_undo_71 : decode cX7_undo 71 = .ok (.invokevirtual 616, 3) := dk_182 2 104 (dk_at dksX7_undo_3 4 rfl rfl)
theorem dX7_undo_74 : decode cX7_undo 74 = .ok (.ireturn, 1) := dk_172 (dk_at dksX7_undo_3 7 rfl rfl)
def dkwX1_mark_2 : List UInt8 := [182, 1, 77, 42, 89, 180, 0, 121, 4, 96, 181, 0, 121, 42, 180, 0, 121, 4, 100, 172]
abbrev dktX1_mark_2 : List UInt8 := dkwX1_mark_2 ++ []
def dkwX1_mark_1 : List UInt8 := [160, 0, 9, 42, 6, 182, 0, 94, 172, 42, 180, 0, 61, 42, 180, 0, 121, 50, 42, 180, 0, 33]
abbrev dktX1_mark_1 : List UInt8 := dkwX1_mark_1 ++ dktX1_mark_2
def dkwX1_mark_0 : List UInt8 := [42, 182, 0, 80, 42, 180, 0, 104, 199, 0, 9, 42, 4, 182, 0, 94, 172, 42, 180, 0, 121, 6]
abbrev dktX1_mark_0 : List UInt8 := dkwX1_mark_0 ++ dktX1_mark_1
theorem dksX1_mark_0 : cX1_mark.data.toList.drop 0 = dktX1_mark_0 := by decide +kernel
theorem dksX1_mark_1 : cX1_mark.data.toList.drop 22 = dktX1_mark_1 := dk_seg dksX1_mark_0 22 rfl rfl
theorem dksX1_mark_2 : cX1_mark.data.toList.drop 44 = dktX1_mark_2 := dk_seg dksX1_mark_1 22 rfl rfl
theorem dX1_mark_0 : decode cX1_mark 0 = .ok (.aload_n 0, 1) := dk_42 (dk_at dksX1_mark_0 0 rfl rfl)
theorem dX1_mark_1 : decode cX1_mark 1 = .ok (.invokevirtual 80, 3) := dk_182 0 80 (dk_at dksX1_mark_0 1 rfl rfl)
theorem dX1_mark_4 : decode cX1_mark 4 = .ok (.aload_n 0, 1) := dk_42 (dk_at dksX1_mark_0 4 rfl rfl)
theorem dX1_mark_5 : decode cX1_mark 5 = .ok (.getfield 104, 3) := dk_180 0 104 (dk_at dksX1_mark_0 5 rfl rfl)
theorem dX1_mark_8 : decode cX1_mark 8 = .ok (.ifnonnull 9, 3) := dk_199 0 9 (dk_at dksX1_mark_0 8 rfl rfl)
theorem dX1_mark_11 : decode cX1_mark 11 = .ok (.aload_n 0, 1) := dk_42 (dk_at dksX1_mark_0 11 rfl rfl)
theorem dX1_mark_12 : decode cX1_mark 12 = .ok (.iconst 1, 1) := dk_4 (dk_at dksX1_mark_0 12 rfl rfl)
theorem dX1_mark_13 : decode cX1_mark 13 = .ok (.invokevirtual 94, 3) := dk_182 0 94 (dk_at dksX1_mark_0 13 rfl rfl)
theorem dX1_mark_16 : decode cX1_mark 16 = .ok (.ireturn, 1) := dk_172 (dk_at dksX1_mark_0 16 rfl rfl)
theorem dX1_mark_17 : decode cX1_mark 17 = .ok (.aload_n 0, 1) := dk_42 (dk_at dksX1_mark_0 17 rfl rfl)
theorem dX1_mark_18 : decode cX1_mark 18 = .ok (.getfield 121, 3) := dk_180 0 121 (dk_at dksX1_mark_0 18 rfl rfl)
theorem dX1_mark_21 : decode cX1_mark 21 = .ok (.iconst 3, 1) := dk_6 (dk_at dksX1_mark_0 21 rfl rfl)
theorem dX1_mark_22 : decode cX1_mark 22 = .ok (.if_icmp .ne 9, 3) := dk_160 0 9 (dk_at dksX1_mark_1 0 rfl rfl)
theorem dX1_mark_25 : decode cX1_mark 25 = .ok (.aload_n 0, 1) := dk_42 (dk_at dksX1_mark_1 3 rfl rfl)
theorem dX1_mark_26 : decode cX1_mark 26 = .ok (.iconst 3, 1) := dk_6 (dk_at dksX1_mark_1 4 rfl rfl)
theorem dX1_mark_27 : decode cX1_mark 27 = .ok (.invokevirtual 94, 3) := dk_182 0 94 (dk_at dksX1_mark_1 5 rfl rfl)
theorem dX1_mark_30 : decode cX1_mark 30 = .ok (.ireturn, 1) := dk_172 (dk_at dksX1_mark_1 8 rfl rfl)
theorem dX1_mark_31 : decode cX1_mark 31 = .ok (.aload_n 0, 1) := dk_42 (dk_at dksX1_mark_1 9 rfl rfl)
theorem dX1_mark_32 : decode cX1_mark 32 = .ok (.getfield 61, 3) := dk_180 0 61 (dk_at dksX1_mark_1 10 rfl rfl)
theorem dX1_mark_35 : decode cX1_mark 35 = .ok (.aload_n 0, 1) := dk_42 (dk_at dksX1_mark_1 13 rfl rfl)
theorem dX1_mark_36 : decode cX1_mark 36 = .ok (.getfield 121, 3) := dk_180 0 121 (dk_at dksX1_mark_1 14 rfl rfl)
theorem dX1_mark_39 : decode cX1_mark 39 = .ok (.aaload, 1) := dk_50 (dk_at dksX1_mark_1 17 rfl rfl)
theorem dX1_mark_40 : decode cX1_mark 40 = .ok (.aload_n 0, 1) := dk_42 (dk_at dksX1_mark_1 18 rfl rfl)
theorem dX1_mark_41 : decode cX1_mark 41 = .ok (.getfield 33, 3) := dk_180 0 33 (dk_at dksX1_mark_1 19 rfl rfl)
theorem dX1_mark_44 : decode cX1_mark 44 = .ok (.invokevirtual 333, 3) := dk_182 1 77 (dk_at dksX1_mark_2 0 rfl rfl)
theorem dX1_mark_47 : decode cX1_mark 47 = .ok (.aload_n 0, 1) := dk_42 (dk_at dksX1_mark_2 3 rfl rfl)
theorem dX1_mark_48 : decode cX1_mark 48 = .ok (.dup, 1) := dk_89 (dk_at dksX1_mark_2 4 rfl rfl)
theorem dX1_mark_49 : decode cX1_mark 49 = .ok (.getfield 121, 3) := dk_180 0 121 (dk_at dksX1_mark_2 5 rfl rfl)
theorem dX1_mark_52 : decode cX1_mark 52 = .ok (.iconst 1, 1) := dk_4 (dk_at dksX1_mark_2 8 rfl rfl)
theorem dX1_mark_53 : decode cX1_mark 53 = .ok (.iadd, 1) := dk_96 (dk_at dksX1_mark_2 9 rfl rfl)
theorem dX1_mark_54 : decode cX1_mark 54 = .ok (.putfield 121, 3) := dk_181 0 121 (dk_at dksX1_mark_2 10 rfl rfl)
theorem dX1_mark_57 : decode cX1_mark 57 = .ok (.aload_n 0, 1) := dk_42 (dk_at dksX1_mark_2 13 rfl rfl)
theorem dX1_mark_58 : decode cX1_mark 58 = .ok (.getfield 121, 3) := dk_180 0 121 (dk_at dksX1_mark_2 14 rfl rfl)
theorem dX1_mark_61 : decode cX1_mark 61 = .ok (.iconst 1, 1) := dk_4 (dk_at dksX1_mark_2 17 rfl rfl)
theorem dX1_mark_62 : decode cX1_mark 62 = .ok (.isub, 1) := dk_100 (dk_at dksX1_mark_2 18 rfl rfl)
theorem dX1_mark_63 : decode cX1_mark 63 = .ok (.ireturn, 1) := dk_172 (dk_at dksX1_mark_2 19 rfl rfl)
def dkwX7_mark_3 : List UInt8 := [4, 96, 181, 1, 191, 42, 42, 180, 1, 191, 4, 100, 182, 0, 76, 172]
abbrev dktX7_mark_3 : List UInt8 := dkwX7_mark_3 ++ []
def dkwX7_mark_2 : List UInt8 := [180, 1, 191, 104, 27, 96, 42, 180, 0, 21, 27, 46, 79, 132, 1, 1, 167, 255, 227, 42, 89, 180, 1, 191]
abbrev dktX7_mark_2 : List UInt8 := dkwX7_mark_2 ++ dktX7_mark_3
def dkwX7_mark_1 : List UInt8 := [160, 0, 9, 42, 6, 182, 0, 72, 172, 3, 60, 27, 16, 18, 162, 0, 29, 42, 180, 0, 27, 16, 18, 42]
abbrev dktX7_mark_1 : List UInt8 := dkwX7_mark_1 ++ dktX7_mark_2
def dkwX7_mark_0 : List UInt8 := [42, 3, 181, 0, 66, 42, 180, 1, 186, 199, 0, 9, 42, 4, 182, 0, 72, 172, 42, 180, 1, 191, 6]
abbrev dktX7_mark_0 : List UInt8 := dkwX7_mark_0 ++ dktX7_mark_1
theorem dksX7_mark_0 : cX7_mark.data.toList.drop 0 = dktX7_mark_0 := by decide +kernel
theorem dksX7_mark_1 : cX7_mark.data.toList.drop 23 = dktX7_mark_1 := dk_seg dksX7_mark_0 23 rfl rfl
theorem dksX7_mark_2 : cX7_mark.data.toList.drop 47 = dktX7_mark_2 := dk_seg dksX7_mark_1 24 rfl rfl
theorem dksX7_mark_3 : cX7_mark.data.toList.drop 71 = dktX7_mark_3 := dk_seg dksX7_mark_2 24 rfl rfl
theorem dX7_mark_0 : decode cX7_mark 0 = .ok (.aload_n 0, 1) := dk_42 (dk_at dksX7_mark_0 0 rfl rfl)
theorem dX7_mark_1 : decode cX7_mark 1 = .ok (.iconst 0, 1) := dk_3 (dk_at dksX7_mark_0 1 rfl rfl)
theorem dX7_mark_2 : decode cX7_mark 2 = .ok (.putfield 66, 3) := dk_181 0 66 (dk_at dksX7_mark_0 2 rfl rfl)
theorem dX7_mark_5 : decode cX7_mark 5 = .ok (.aload_n 0, 1) := dk_42 (dk_at dksX7_mark_0 5 rfl rfl)
theorem dX7_mark_6 : decode cX7_mark 6 = .ok (.getfield 442, 3) := dk_180 1 186 (dk_at dksX7_mark_0 6 rfl rfl)
theorem dX7_mark_9 : decode cX7_mark 9 = .ok (.ifnonnull 9, 3) := dk_199 0 9 (dk_at dksX7_mark_0 9 rfl rfl)
theorem dX7_mark_12 : decode cX7_mark 12 = .ok (.aload_n 0, 1) := dk_42 (dk_at dksX7_mark_0 12 rfl rfl)
theorem dX7_mark_13 : decode cX7_mark 13 = .ok (.iconst 1, 1) := dk_4 (dk_at dksX7_mark_0 13 rfl rfl)
theorem dX7_mark_14 : decode cX7_mark 14 = .ok (.invokevirtual 72, 3) := dk_182 0 72 (dk_at dksX7_mark_0 14 rfl rfl)
theorem dX7_mark_17 : decode cX7_mark 17 = .ok (.ireturn, 1) := dk_172 (dk_at dksX7_mark_0 17 rfl rfl)
theorem dX7_mark_18 : decode cX7_mark 18 = .ok (.aload_n 0, 1) := dk_42 (dk_at dksX7_mark_0 18 rfl rfl)
theorem dX7_mark_19 : decode cX7_mark 19 = .ok (.getfield 447, 3) := dk_180 1 191 (dk_at dksX7_mark_0 19 rfl rfl)
theorem dX7_mark_22 : decode cX7_mark 22 = .ok (.iconst 3, 1) := dk_6 (dk_at dksX7_mark_0 22 rfl rfl)
theorem dX7_mark_23 : decode cX7_mark 23 = .ok (.if_icmp .ne 9, 3) := dk_160 0 9 (dk_at dksX7_mark_1 0 rfl rfl)
theorem dX7_mark_26 : decode cX7_mark 26 = .ok (.aload_n 0, 1) := dk_42 (dk_at dksX7_mark_1 3 rfl rfl)
theorem dX7_mark_27 : decode cX7_mark 27 = .ok (.iconst 3, 1) := dk_6 (dk_at dksX7_mark_1 4 rfl rfl)
theorem dX7_mark_28 : decode cX7_mark 28 = .ok (.invokevirtual 72, 3) := dk_182 0 72 (dk_at dksX7_mark_1 5 rfl rfl)
theorem dX7_mark_31 : decode cX7_mark 31 = .ok (.ireturn, 1) := dk_172 (dk_at dksX7_mark_1 8 rfl rfl)
theorem dX7_mark_32 : decode cX7_mark 32 = .ok (.iconst 0, 1) := dk_3 (dk_at dksX7_mark_1 9 rfl rfl)
theorem dX7_mark_33 : decode cX7_mark 33 = .ok (.istore_n 1, 1) := dk_60 (dk_at dksX7_mark_1 10 rfl rfl)
theorem dX7_mark_34 : decode cX7_mark 34 = .ok (.iload_n 1, 1) := dk_27 (dk_at dksX7_mark_1 11 rfl rfl)
theorem dX7_mark_35 : decode cX7_mark 35 = .ok (.bipush 18, 2) := dk_16 18 (dk_at dksX7_mark_1 12 rfl rfl)
theorem dX7_mark_37 : decode cX7_mark 37 = .ok (.if_icmp .ge 29, 3) := dk_162 0 29 (dk_at dksX7_mark_1 14 rfl rfl)
theorem dX7_mark_40 : decode cX7_mark 40 = .ok (.aload_n 0, 1) := dk_42 (dk_at dksX7_mark_1 17 rfl rfl)
theorem dX7_mark_41 : decode cX7_mark 41 = .ok (.getfield 27, 3) := dk_180 0 27 (dk_at dksX7_mark_1 18 rfl rfl)
theorem dX7_mark_44 : decode cX7_mark 44 = .ok (.bipush 18, 2) := dk_16 18 (dk_at dksX7_mark_1 21 rfl rfl)
theorem dX7_mark_46 : decode cX7_mark 46 = .ok (.aload_n 0, 1) := dk_42 (dk_at dksX7_mark_1 23 rfl rfl)
theorem dX7_mark_47 : decode cX7_mark 47 = .ok (.getfield 447, 3) := dk_180 1 191 (dk_at dksX7_mark_2 0 rfl rfl)
theorem dX7_mark_50 : decode cX7_mark 50 = .ok (.imul, 1) := dk_104 (dk_at dksX7_mark_2 3 rfl rfl)
theorem dX7_mark_51 : decode cX7_mark 51 = .ok (.iload_n 1, 1) := dk_27 (dk_at dksX7_mark_2 4 rfl rfl)
theorem dX7_mark_52 : decode cX7_mark 52 = .ok (.iadd, 1) := dk_96 (dk_at dksX7_mark_2 5 rfl rfl)
theorem dX7_mark_53 : decode cX7_mark 53 = .ok (.aload_n 0, 1) := dk_42 (dk_at dksX7_mark_2 6 rfl rfl)
theorem dX7_mark_54 : decode cX7_mark 54 = .ok (.getfield 21, 3) := dk_180 0 21 (dk_at dksX7_mark_2 7 rfl rfl)
theorem dX7_mark_57 : decode cX7_mark 57 = .ok (.iload_n 1, 1) := dk_27 (dk_at dksX7_mark_2 10 rfl rfl)
theorem dX7_mark_58 : decode cX7_mark 58 = .ok (.iaload, 1) := dk_46 (dk_at dksX7_mark_2 11 rfl rfl)
theorem dX7_mark_59 : decode cX7_mark 59 = .ok (.iastore, 1) := dk_79 (dk_at dksX7_mark_2 12 rfl rfl)
theorem dX7_mark_60 : decode cX7_mark 60 = .ok (.iinc 1 1, 3) := dk_132 1 1 (dk_at dksX7_mark_2 13 rfl rfl)
theorem dX7_mark_63 : decode cX7_mark 63 = .ok (.goto (-29), 3) := dk_167 255 227 (dk_at dksX7_mark_2 16 rfl rfl)
theorem dX7_mark_66 : decode cX7_mark 66 = .ok (.aload_n 0, 1) := dk_42 (dk_at dksX7_mark_2 19 rfl rfl)
theorem dX7_mark_67 : decode cX7_mark 67 = .ok (.dup, 1) := dk_89 (dk_at dksX7_mark_2 20 rfl rfl)
theorem dX7_mark_68 : decode cX7_mark 68 = .ok (.getfield 447, 3) := dk_180 1 191 (dk_at dksX7_mark_2 21 rfl rfl)
theorem dX7_mark_71 : decode cX7_mark 71 = .ok (.iconst 1, 1) := dk_4 (dk_at dksX7_mark_3 0 rfl rfl)
theorem dX7_mark_72 : decode cX7_mark 72 = .ok (.iadd, 1) := dk_96 (dk_at dksX7_mark_3 1 rfl rfl)
theorem dX7_mark_73 : decode cX7_mark 73 = .ok (.putfield 447, 3) := dk_181 1 191 (dk_at dksX7_mark_3 2 rfl rfl)
theorem dX7_mark_76 : decode cX7_mark 76 = .ok (.aload_n 0, 1) := dk_42 (dk_at dksX7_mark_3 5 rfl rfl)
theorem dX7_mark_77 : decode cX7_mark 77 = .ok (.aload_n 0, 1) := dk_42 (dk_at dksX7_mark_3 6 rfl rfl)
theorem dX7_mark_78 : decode cX7_mark 78 = .ok (.getfield 447, 3) := dk_180 1 191 (dk_at dksX7_mark_3 7 rfl rfl)
theorem dX7_mark_81 : decode cX7_mark 81 = .ok (.iconst 1, 1) := dk_4 (dk_at dksX7_mark_3 10 rfl rfl)
theorem dX7_mark_82 : decode cX7_mark 82 = .ok (.isub, 1) := dk_100 (dk_at dksX7_mark_3 11 rfl rfl)
theorem dX7_mark_83 : decode cX7_mark 83 = .ok (.invokevirtual 76, 3) := dk_182 0 76 (dk_at dksX7_mark_3 12 rfl rfl)
theorem dX7_mark_86 : decode cX7_mark 86 = .ok (.ireturn, 1) := dk_172 (dk_at dksX7_mark_3 15 rfl rfl)
def dkwX1_back_2 : List UInt8 := [172]
abbrev dktX1_back_2 : List UInt8 := dkwX1_back_2 ++ []
def dkwX1_back_1 : List UInt8 := [154, 0, 5, 3, 172, 42, 180, 0, 33, 42, 180, 0, 61, 27, 50, 182, 1, 77, 42, 3, 181, 0, 118, 4]
abbrev dktX1_back_1 : List UInt8 := dkwX1_back_1 ++ dktX1_back_2
def dkwX1_back_0 : List UInt8 := [42, 27, 3, 42, 180, 0, 121, 4, 100, 184, 0, 90, 153, 0, 7, 3, 167, 0, 4, 4, 182, 1, 177]
abbrev dktX1_back_0 : List UInt8 := dkwX1_back_0 ++ dktX1_back_1
theorem dksX1_back_0 : cX1_back.data.toList.drop 0 = dktX1_back_0 := by decide +kernel
theorem dksX1_back_1 : cX1_back.data.toList.drop 23 = dktX1_back_1 := dk_seg dksX1_back_0 23 rfl rfl
theorem dksX1_back_2 : cX1_back.data.toList.drop 47 = dktX1_back_2 := dk_seg dksX1_back_1 24 rfl rfl
theorem dX1_back_0 : decode cX1_back 0 = .ok (.aload_n 0, 1) := dk_42 (dk_at dksX1_back_0 0 rfl rfl)
theorem dX1_back_1 : decode cX1_back 1 = .ok (.iload_n 1, 1) := dk_27 (dk_at dksX1_back_0 1 rfl rfl)
theorem dX1_back_2 : decode cX1_back 2 = .ok (.iconst 0, 1) := dk_3 (dk_at dksX1_back_0 2 rfl rfl)
theorem dX1_back_3 : decode cX1_back 3 = .ok (.aload_n 0, 1) := dk_42 (dk_at dksX1_back_0 3 rfl rfl)
theorem dX1_back_4 : decode cX1_back 4 = .ok (.getfield 121, 3) := dk_180 0 121 (dk_at dksX1_back_0 4 rfl rfl)
theorem dX1_back_7 : decode cX1_back 7 = .ok (.iconst 1, 1) := dk_4 (dk_at dksX1_back_0 7 rfl rfl)
theorem dX1_back_8 : decode cX1_back 8 = .ok (.isub, 1) := dk_100 (dk_at dksX1_back_0 8 rfl rfl)
theorem dX1_back_9 : decode cX1_back 9 = .ok (.invokestatic 90, 3) := dk_184 0 90 (dk_at dksX1_back_0 9 rfl rfl)
theorem dX1_back_12 : decode cX1_back 12 = .ok (.ifCond .eq 7, 3) := dk_153 0 7 (dk_at dksX1_back_0 12 rfl rfl)
theorem dX1_back_15 : decode cX1_back 15 = .ok (.iconst 0, 1) := dk_3 (dk_at dksX1_back_0 15 rfl rfl)
theorem dX1_back_16 : decode cX1_back 16 = .ok (.goto 4, 3) := dk_167 0 4 (dk_at dksX1_back_0 16 rfl rfl)
theorem dX1_back_19 : decode cX1_back 19 = .ok (.iconst 1, 1) := dk_4 (dk_at dksX1_back_0 19 rfl rfl)
theorem dX1_back_20 : decode cX1_back 20 = .ok (.invokevirtual 433, 3) := dk_182 1 177 (dk_at dksX1_back_0 20 rfl rfl)
theorem dX1_back_23 : decode cX1_back 23 = .ok (.ifCond .ne 5, 3) := dk_154 0 5 (dk_at dksX1_back_1 0 rfl rfl)
theorem dX1_back_26 : decode cX1_back 26 = .ok (.iconst 0, 1) := dk_3 (dk_at dksX1_back_1 3 rfl rfl)
theorem dX1_back_27 : decode cX1_back 27 = .ok (.ireturn, 1) := dk_172 (dk_at dksX1_back_1 4 rfl rfl)
theorem dX1_back_28 : decode cX1_back 28 = .ok (.aload_n 0, 1) := dk_42 (dk_at dksX1_back_1 5 rfl rfl)
theorem dX1_back_29 : decode cX1_back 29 = .ok (.getfield 33, 3) := dk_180 0 33 (dk_at dksX1_back_1 6 rfl rfl)
theorem dX1_back_32 : decode cX1_back 32 = .ok (.aload_n 0, 1) := dk_42 (dk_at dksX1_back_1 9 rfl rfl)
theorem dX1_back_33 : decode cX1_back 33 = .ok (.getfield 61, 3) := dk_180 0 61 (dk_at dksX1_back_1 10 rfl rfl)
theorem dX1_back_36 : decode cX1_back 36 = .ok (.iload_n 1, 1) := dk_27 (dk_at dksX1_back_1 13 rfl rfl)
theorem dX1_back_37 : decode cX1_back 37 = .ok (.aaload, 1) := dk_50 (dk_at dksX1_back_1 14 rfl rfl)
theorem dX1_back_38 : decode cX1_back 38 = .ok (.invokevirtual 333, 3) := dk_182 1 77 (dk_at dksX1_back_1 15 rfl rfl)
theorem dX1_back_41 : decode cX1_back 41 = .ok (.aload_n 0, 1) := dk_42 (dk_at dksX1_back_1 18 rfl rfl)
theorem dX1_back_42 : decode cX1_back 42 = .ok (.iconst 0, 1) := dk_3 (dk_at dksX1_back_1 19 rfl rfl)
theorem dX1_back_43 : decode cX1_back 43 = .ok (.putfield 118, 3) := dk_181 0 118 (dk_at dksX1_back_1 20 rfl rfl)
theorem dX1_back_46 : decode cX1_back 46 = .ok (.iconst 1, 1) := dk_4 (dk_at dksX1_back_1 23 rfl rfl)
theorem dX1_back_47 : decode cX1_back 47 = .ok (.ireturn, 1) := dk_172 (dk_at dksX1_back_2 0 rfl rfl)
def dkwX7_back_2 : List UInt8 := [16, 18, 27, 104, 28, 96, 46, 79, 132, 2, 1, 167, 255, 230, 42, 3, 181, 1, 188, 42, 182, 2, 104, 172]
abbrev dktX7_back_2 : List UInt8 := dkwX7_back_2 ++ []
def dkwX7_back_1 : List UInt8 := [42, 4, 182, 2, 95, 172, 3, 61, 28, 16, 18, 162, 0, 26, 42, 180, 0, 21, 28, 42, 180, 0, 27]
abbrev dktX7_back_1 : List UInt8 := dkwX7_back_1 ++ dktX7_back_2
def dkwX7_back_0 : List UInt8 := [42, 3, 181, 0, 66, 42, 180, 1, 186, 198, 0, 15, 27, 155, 0, 11, 27, 42, 180, 1, 191, 161, 0, 9]
abbrev dktX7_back_0 : List UInt8 := dkwX7_back_0 ++ dktX7_back_1
theorem dksX7_back_0 : cX7_back.data.toList.drop 0 = dktX7_back_0 := by decide +kernel
theorem dksX7_back_1 : cX7_back.data.toList.drop 24 = dktX7_back_1 := dk_seg dksX7_back_0 24 rfl rfl
theorem dksX7_back_2 : cX7_back.data.toList.drop 47 = dktX7_back_2 := dk_seg dksX7_back_1 23 rfl rfl
theorem dX7_back_0 : decode cX7_back 0 = .ok (.aload_n 0, 1) := dk_42 (dk_at dksX7_back_0 0 rfl rfl)
theorem dX7_back_1 : decode cX7_back 1 = .ok (.iconst 0, 1) := dk_3 (dk_at dksX7_back_0 1 rfl rfl)
theorem dX7_back_2 : decode cX7_back 2 = .ok (.putfield 66, 3) := dk_181 0 66 (dk_at dksX7_back_0 2 rfl rfl)
theorem dX7_back_5 : decode cX7_back 5 = .ok (.aload_n 0, 1) := dk_42 (dk_at dksX7_back_0 5 rfl rfl)
theorem dX7_back_6 : decode cX7_back 6 = .ok (.getfield 442, 3) := dk_180 1 186 (dk_at dksX7_back_0 6 rfl rfl)
theorem dX7_back_9 : decode cX7_back 9 = .ok (.ifnull 15, 3) := dk_198 0 15 (dk_at dksX7_back_0 9 rfl rfl)
theorem dX7_back_12 : decode cX7_back 12 = .ok (.iload_n 1, 1) := dk_27 (dk_at dksX7_back_0 12 rfl rfl)
theorem dX7_back_13 : decode cX7_back 13 = .ok (.ifCond .lt 11, 3) := dk_155 0 11 (dk_at dksX7_back_0 13 rfl rfl)
theorem dX7_back_16 : decode cX7_back 16 = .ok (.iload_n 1, 1) := dk_27 (dk_at dksX7_back_0 16 rfl rfl)
theorem dX7_back_17 : decode cX7_back 17 = .ok (.aload_n 0, 1) := dk_42 (dk_at dksX7_back_0 17 rfl rfl)
theorem dX7_back_18 : decode cX7_back 18 = .ok (.getfield 447, 3) := dk_180 1 191 (dk_at dksX7_back_0 18 rfl rfl)
theorem dX7_back_21 : decode cX7_back 21 = .ok (.if_icmp .lt 9, 3) := dk_161 0 9 (dk_at dksX7_back_0 21 rfl rfl)
theorem dX7_back_24 : decode cX7_back 24 = .ok (.aload_n 0, 1) := dk_42 (dk_at dksX7_back_1 0 rfl rfl)
theorem dX7_back_25 : decode cX7_back 25 = .ok (.iconst 1, 1) := dk_4 (dk_at dksX7_back_1 1 rfl rfl)
theorem dX7_back_26 : decode cX7_back 26 = .ok (.invokevirtual 607, 3) := dk_182 2 95 (dk_at dksX7_back_1 2 rfl rfl)
theorem dX7_back_29 : decode cX7_back 29 = .ok (.ireturn, 1) := dk_172 (dk_at dksX7_back_1 5 rfl rfl)
theorem dX7_back_30 : decode cX7_back 30 = .ok (.iconst 0, 1) := dk_3 (dk_at dksX7_back_1 6 rfl rfl)
theorem dX7_back_31 : decode cX7_back 31 = .ok (.istore_n 2, 1) := dk_61 (dk_at dksX7_back_1 7 rfl rfl)
theorem dX7_back_32 : decode cX7_back 32 = .ok (.iload_n 2, 1) := dk_28 (dk_at dksX7_back_1 8 rfl rfl)
theorem dX7_back_33 : decode cX7_back 33 = .ok (.bipush 18, 2) := dk_16 18 (dk_at dksX7_back_1 9 rfl rfl)
theorem dX7_back_35 : decode cX7_back 35 = .ok (.if_icmp .ge 26, 3) := dk_162 0 26 (dk_at dksX7_back_1 11 rfl rfl)
theorem dX7_back_38 : decode cX7_back 38 = .ok (.aload_n 0, 1) := dk_42 (dk_at dksX7_back_1 14 rfl rfl)
theorem dX7_back_39 : decode cX7_back 39 = .ok (.getfield 21, 3) := dk_180 0 21 (dk_at dksX7_back_1 15 rfl rfl)
theorem dX7_back_42 : decode cX7_back 42 = .ok (.iload_n 2, 1) := dk_28 (dk_at dksX7_back_1 18 rfl rfl)
theorem dX7_back_43 : decode cX7_back 43 = .ok (.aload_n 0, 1) := dk_42 (dk_at dksX7_back_1 19 rfl rfl)
theorem dX7_back_44 : decode cX7_back 44 = .ok (.getfield 27, 3) := dk_180 0 27 (dk_at dksX7_back_1 20 rfl rfl)
theorem dX7_back_47 : decode cX7_back 47 = .ok (.bipush 18, 2) := dk_16 18 (dk_at dksX7_back_2 0 rfl rfl)
theorem dX7_back_49 : decode cX7_back 49 = .ok (.iload_n 1, 1) := dk_27 (dk_at dksX7_back_2 2 rfl rfl)
theorem dX7_back_50 : decode cX7_back 50 = .ok (.imul, 1) := dk_104 (dk_at dksX7_back_2 3 rfl rfl)
theorem dX7_back_51 : decode cX7_back 51 = .ok (.iload_n 2, 1) := dk_28 (dk_at dksX7_back_2 4 rfl rfl)
theorem dX7_back_52 : decode cX7_back 52 = .ok (.iadd, 1) := dk_96 (dk_at dksX7_back_2 5 rfl rfl)
theorem dX7_back_53 : decode cX7_back 53 = .ok (.iaload, 1) := dk_46 (dk_at dksX7_back_2 6 rfl rfl)
theorem dX7_back_54 : decode cX7_back 54 = .ok (.iastore, 1) := dk_79 (dk_at dksX7_back_2 7 rfl rfl)
theorem dX7_back_55 : decode cX7_back 55 = .ok (.iinc 2 1, 3) := dk_132 2 1 (dk_at dksX7_back_2 8 rfl rfl)
theorem dX7_back_58 : decode cX7_back 58 = .ok (.goto (-26), 3) := dk_167 255 230 (dk_at dksX7_back_2 11 rfl rfl)
theorem dX7_back_61 : decode cX7_back 61 = .ok (.aload_n 0, 1) := dk_42 (dk_at dksX7_back_2 14 rfl rfl)
theorem dX7_back_62 : decode cX7_back 62 = .ok (.iconst 0, 1) := dk_3 (dk_at dksX7_back_2 15 rfl rfl)
theorem dX7_back_63 : decode cX7_back 63 = .ok (.putfield 444, 3) := dk_181 1 188 (dk_at dksX7_back_2 16 rfl rfl)
theorem dX7_back_66 : decode cX7_back 66 = .ok (.aload_n 0, 1) := dk_42 (dk_at dksX7_back_2 19 rfl rfl)
theorem dX7_back_67 : decode cX7_back 67 = .ok (.invokevirtual 616, 3) := dk_182 2 104 (dk_at dksX7_back_2 20 rfl rfl)
theorem dX7_back_70 : decode cX7_back 70 = .ok (.ireturn, 1) := dk_172 (dk_at dksX7_back_2 23 rfl rfl)
def dkwX1_put_4 : List UInt8 := [180, 0, 148, 112, 96, 172, 132, 3, 1, 132, 4, 1, 167, 255, 159, 187, 1, 200, 89, 183, 1, 202, 191]
abbrev dktX1_put_4 : List UInt8 := dkwX1_put_4 ++ []
def dkwX1_put_3 : List UInt8 := [160, 0, 28, 16, 100, 21, 4, 42, 180, 0, 104, 180, 0, 148, 108, 104, 21, 4, 42, 180, 0, 104]
abbrev dktX1_put_3 : List UInt8 := dkwX1_put_3 ++ dktX1_put_4
def dkwX1_put_2 : List UInt8 := [21, 4, 42, 180, 0, 104, 180, 0, 148, 112, 28, 182, 1, 170, 154, 0, 6, 167, 0, 36, 29, 27]
abbrev dktX1_put_2 : List UInt8 := dkwX1_put_2 ++ dktX1_put_3
def dkwX1_put_1 : List UInt8 := [180, 0, 104, 180, 0, 148, 104, 162, 0, 76, 42, 180, 0, 33, 21, 4, 42, 180, 0, 104, 180, 0, 148, 108]
abbrev dktX1_put_1 : List UInt8 := dkwX1_put_1 ++ dktX1_put_2
def dkwX1_put_0 : List UInt8 := [3, 62, 3, 54, 4, 42, 180, 0, 104, 198, 0, 96, 21, 4, 42, 180, 0, 104, 180, 0, 130, 42]
abbrev dktX1_put_0 : List UInt8 := dkwX1_put_0 ++ dktX1_put_1
theorem dksX1_put_0 : cX1_put.data.toList.drop 0 = dktX1_put_0 := by decide +kernel
theorem dksX1_put_1 : cX1_put.data.toList.drop 22 = dktX1_put_1 := dk_seg dksX1_put_0 22 rfl rfl
theorem dksX1_put_2 : cX1_put.data.toList.drop 46 = dktX1_put_2 := dk_seg dksX1_put_1 24 rfl rfl
theorem dksX1_put_3 : cX1_put.data.toList.drop 68 = dktX1_put_3 := dk_seg dksX1_put_2 22 rfl rfl
theorem dksX1_put_4 : cX1_put.data.toList.drop 90 = dktX1_put_4 := dk_seg dksX1_put_3 22 rfl rfl
theorem dX1_put_0 : decode cX1_put 0 = .ok (.iconst 0, 1) := dk_3 (dk_at dksX1_put_0 0 rfl rfl)
theorem dX1_put_1 : decode cX1_put 1 = .ok (.istore_n 3, 1) := dk_62 (dk_at dksX1_put_0 1 rfl rfl)
theorem dX1_put_2 : decode cX1_put 2 = .ok (.iconst 0, 1) := dk_3 (dk_at dksX1_put_0 2 rfl rfl)
theorem dX1_put_3 : decode cX1_put 3 = .ok (.istore 4, 2) := dk_54 4 (dk_at dksX1_put_0 3 rfl rfl)
theorem dX1_put_5 : decode cX1_put 5 = .ok (.aload_n 0, 1) := dk_42 (dk_at dksX1_put_0 5 rfl rfl)
theorem dX1_put_6 : decode cX1_put 6 = .ok (.getfield 104, 3) := dk_180 0 104 (dk_at dksX1_put_0 6 rfl rfl)
theorem dX1_put_9 : decode cX1_put 9 = .ok (.ifnull 96, 3) := dk_198 0 96 (dk_at dksX1_put_0 9 rfl rfl)
theorem dX1_put_12 : decode cX1_put 12 = .ok (.iload 4, 2) := dk_21 4 (dk_at dksX1_put_0 12 rfl rfl)
theorem dX1_put_14 : decode cX1_put 14 = .ok (.aload_n 0, 1) := dk_42 (dk_at dksX1_put_0 14 rfl rfl)
theorem dX1_put_15 : decode cX1_put 15 = .ok (.getfield 104, 3) := dk_180 0 104 (dk_at dksX1_put_0 15 rfl rfl)
theorem dX1_put_18 : decode cX1_put 18 = .ok (.getfield 130, 3) := dk_180 0 130 (dk_at dksX1_put_0 18 rfl rfl)
theorem dX1_put_21 : decode cX1_put 21 = .ok (.aload_n 0, 1) := dk_42 (dk_at dksX1_put_0 21 rfl rfl)
theorem dX1_put_22 : decode cX1_put 22 = .ok (.getfield 104, 3) := dk_180 0 104 (dk_at dksX1_put_1 0 rfl rfl)
theorem dX1_put_25 : decode cX1_put 25 = .ok (.getfield 148, 3) := dk_180 0 148 (dk_at dksX1_put_1 3 rfl rfl)
theorem dX1_put_28 : decode cX1_put 28 = .ok (.imul, 1) := dk_104 (dk_at dksX1_put_1 6 rfl rfl)
theorem dX1_put_29 : decode cX1_put 29 = .ok (.if_icmp .ge 76, 3) := dk_162 0 76 (dk_at dksX1_put_1 7 rfl rfl)
theorem dX1_put_32 : decode cX1_put 32 = .ok (.aload_n 0, 1) := dk_42 (dk_at dksX1_put_1 10 rfl rfl)
theorem dX1_put_33 : decode cX1_put 33 = .ok (.getfield 33, 3) := dk_180 0 33 (dk_at dksX1_put_1 11 rfl rfl)
theorem dX1_put_36 : decode cX1_put 36 = .ok (.iload 4, 2) := dk_21 4 (dk_at dksX1_put_1 14 rfl rfl)
theorem dX1_put_38 : decode cX1_put 38 = .ok (.aload_n 0, 1) := dk_42 (dk_at dksX1_put_1 16 rfl rfl)
theorem dX1_put_39 : decode cX1_put 39 = .ok (.getfield 104, 3) := dk_180 0 104 (dk_at dksX1_put_1 17 rfl rfl)
theorem dX1_put_42 : decode cX1_put 42 = .ok (.getfield 148, 3) := dk_180 0 148 (dk_at dksX1_put_1 20 rfl rfl)
theorem dX1_put_45 : decode cX1_put 45 = .ok (.idiv, 1) := dk_108 (dk_at dksX1_put_1 23 rfl rfl)
theorem dX1_put_46 : decode cX1_put 46 = .ok (.iload 4, 2) := dk_21 4 (dk_at dksX1_put_2 0 rfl rfl)
theorem dX1_put_48 : decode cX1_put 48 = .ok (.aload_n 0, 1) := dk_42 (dk_at dksX1_put_2 2 rfl rfl)
theorem dX1_put_49 : decode cX1_put 49 = .ok (.getfield 104, 3) := dk_180 0 104 (dk_at dksX1_put_2 3 rfl rfl)
theorem dX1_put_52 : decode cX1_put 52 = .ok (.getfield 148, 3) := dk_180 0 148 (dk_at dksX1_put_2 6 rfl rfl)
theorem dX1_put_55 : decode cX1_put 55 = .ok (.irem, 1) := dk_112 (dk_at dksX1_put_2 9 rfl rfl)
theorem dX1_put_56 : decode cX1_put 56 = .ok (.iload_n 2, 1) := dk_28 (dk_at dksX1_put_2 10 rfl rfl)
theorem dX1_put_57 : decode cX1_put 57 = .ok (.invokevirtual 426, 3) := dk_182 1 170 (dk_at dksX1_put_2 11 rfl rfl)
theorem dX1_put_60 : decode cX1_put 60 = .ok (.ifCond .ne 6, 3) := dk_154 0 6 (dk_at dksX1_put_2 14 rfl rfl)
theorem dX1_put_63 : decode cX1_put 63 = .ok (.goto 36, 3) := dk_167 0 36 (dk_at dksX1_put_2 17 rfl rfl)
theorem dX1_put_66 : decode cX1_put 66 = .ok (.iload_n 3, 1) := dk_29 (dk_at dksX1_put_2 20 rfl rfl)
theorem dX1_put_67 : decode cX1_put 67 = .ok (.iload_n 1, 1) := dk_27 (dk_at dksX1_put_2 21 rfl rfl)
theorem dX1_put_68 : decode cX1_put 68 = .ok (.if_icmp .ne 28, 3) := dk_160 0 28 (dk_at dksX1_put_3 0 rfl rfl)
theorem dX1_put_71 : decode cX1_put 71 = .ok (.bipush 100, 2) := dk_16 100 (dk_at dksX1_put_3 3 rfl rfl)
theorem dX1_put_73 : decode cX1_put 73 = .ok (.iload 4, 2) := dk_21 4 (dk_at dksX1_put_3 5 rfl rfl)
theorem dX1_put_75 : decode cX1_put 75 = .ok (.aload_n 0, 1) := dk_42 (dk_at dksX1_put_3 7 rfl rfl)
theorem dX1_put_76 : decode cX1_put 76 = .ok (.getfield 104, 3) := dk_180 0 104 (dk_at dksX1_put_3 8 rfl rfl)
theorem dX1_put_79 : decode cX1_put 79 = .ok (.getfield 148, 3) := dk_180 0 148 (dk_at dksX1_put_3 11 rfl rfl)
theorem dX1_put_82 : decode cX1_put 82 = .ok (.idiv, 1) := dk_108 (dk_at dksX1_put_3 14 rfl rfl)
theorem dX1_put_83 : decode cX1_put 83 = .ok (.imul, 1) := dk_104 (dk_at dksX1_put_3 15 rfl rfl)
theorem dX1_put_84 : decode cX1_put 84 = .ok (.iload 4, 2) := dk_21 4 (dk_at dksX1_put_3 16 rfl rfl)
theorem dX1_put_86 : decode cX1_put 86 = .ok (.aload_n 0, 1) := dk_42 (dk_at dksX1_put_3 18 rfl rfl)
theorem dX1_put_87 : decode cX1_put 87 = .ok (.getfield 104, 3) := dk_180 0 104 (dk_at dksX1_put_3 19 rfl rfl)
theorem dX1_put_90 : decode cX1_put 90 = .ok (.getfield 148, 3) := dk_180 0 148 (dk_at dksX1_put_4 0 rfl rfl)
theorem dX1_put_93 : decode cX1_put 93 = .ok (.irem, 1) := dk_112 (dk_at dksX1_put_4 3 rfl rfl)
theorem dX1_put_94 : decode cX1_put 94 = .ok (.iadd, 1) := dk_96 (dk_at dksX1_put_4 4 rfl rfl)
theorem dX1_put_95 : decode cX1_put 95 = .ok (.ireturn, 1) := dk_172 (dk_at dksX1_put_4 5 rfl rfl)
theorem dX1_put_96 : decode cX1_put 96 = .ok (.iinc 3 1, 3) := dk_132 3 1 (dk_at dksX1_put_4 6 rfl rfl)
theorem dX1_put_99 : decode cX1_put 99 = .ok (.iinc 4 1, 3) := dk_132 4 1 (dk_at dksX1_put_4 9 rfl rfl)
theorem dX1_put_102 : decode cX1_put 102 = .ok (.goto (-97), 3) := dk_167 255 159 (dk_at dksX1_put_4 12 rfl rfl)
theorem dX1_put_105 : decode cX1_put 105 = .ok (.new 456, 3) := dk_187 1 200 (dk_at dksX1_put_4 15 rfl rfl)
theorem dX1_put_108 : decode cX1_put 108 = .ok (.dup, 1) := dk_89 (dk_at dksX1_put_4 18 rfl rfl)
theorem dX1_put_109 : decode cX1_put 109 = .ok (.invokespecial 458, 3) := dk_183 1 202 (dk_at dksX1_put_4 19 rfl rfl)
theorem dX1_put_112 : decode cX1_put 112 = .ok (.athrow, 1) := dk_191 (dk_at dksX1_put_4 22 rfl rfl)
def dkwX0_put_0 : List UInt8 := [45, 3, 42, 27, 28, 182, 0, 7, 133, 80, 167, 0, 7, 58, 4, 4, 172, 3, 172]
abbrev dktX0_put_0 : List UInt8 := dkwX0_put_0 ++ []
theorem dksX0_put_0 : cX0_put.data.toList.drop 0 = dktX0_put_0 := by decide +kernel
theorem dX0_put_0 : decode cX0_put 0 = .ok (.aload_n 3, 1) := dk_45 (dk_at dksX0_put_0 0 rfl rfl)
theorem dX0_put_1 : decode cX0_put 1 = .ok (.iconst 0, 1) := dk_3 (dk_at dksX0_put_0 1 rfl rfl)
theorem dX0_put_2 : decode cX0_put 2 = .ok (.aload_n 0, 1) := dk_42 (dk_at dksX0_put_0 2 rfl rfl)
theorem dX0_put_3 : decode cX0_put 3 = .ok (.iload_n 1, 1) := dk_27 (dk_at dksX0_put_0 3 rfl rfl)
theorem dX0_put_4 : decode cX0_put 4 = .ok (.iload_n 2, 1) := dk_28 (dk_at dksX0_put_0 4 rfl rfl)
theorem dX0_put_5 : decode cX0_put 5 = .ok (.invokevirtual 7, 3) := dk_182 0 7 (dk_at dksX0_put_0 5 rfl rfl)
theorem dX0_put_8 : decode cX0_put 8 = .ok (.i2l, 1) := dk_133 (dk_at dksX0_put_0 8 rfl rfl)
theorem dX0_put_9 : decode cX0_put 9 = .ok (.lastore, 1) := dk_80 (dk_at dksX0_put_0 9 rfl rfl)
theorem dX0_put_10 : decode cX0_put 10 = .ok (.goto 7, 3) := dk_167 0 7 (dk_at dksX0_put_0 10 rfl rfl)
theorem dX0_put_13 : decode cX0_put 13 = .ok (.astore 4, 2) := dk_58 4 (dk_at dksX0_put_0 13 rfl rfl)
theorem dX0_put_15 : decode cX0_put 15 = .ok (.iconst 1, 1) := dk_4 (dk_at dksX0_put_0 15 rfl rfl)
theorem dX0_put_16 : decode cX0_put 16 = .ok (.ireturn, 1) := dk_172 (dk_at dksX0_put_0 16 rfl rfl)
theorem dX0_put_17 : decode cX0_put 17 = .ok (.iconst 0, 1) := dk_3 (dk_at dksX0_put_0 17 rfl rfl)
theorem dX0_put_18 : decode cX0_put 18 = .ok (.ireturn, 1) := dk_172 (dk_at dksX0_put_0 18 rfl rfl)
def dkwX7_put_3 : List UInt8 := [104, 21, 4, 16, 12, 112, 96, 172, 132, 3, 1, 132, 4, 1, 167, 255, 181, 42, 4, 181, 0, 66, 3, 172]
abbrev dktX7_put_3 : List UInt8 := dkwX7_put_3 ++ []
def dkwX7_put_2 : List UInt8 := [16, 12, 112, 184, 1, 110, 154, 0, 6, 167, 0, 26, 29, 27, 160, 0, 18, 16, 100, 21, 4, 16, 12, 108]
abbrev dktX7_put_2 : List UInt8 := dkwX7_put_2 ++ dktX7_put_3
def dkwX7_put_1 : List UInt8 := [42, 180, 0, 21, 28, 153, 0, 8, 16, 8, 167, 0, 4, 3, 21, 4, 16, 12, 108, 96, 46, 21, 4]
abbrev dktX7_put_1 : List UInt8 := dkwX7_put_1 ++ dktX7_put_2
def dkwX7_put_0 : List UInt8 := [42, 3, 181, 0, 66, 3, 62, 3, 54, 4, 42, 180, 1, 186, 198, 0, 74, 21, 4, 16, 96, 162, 0, 67]
abbrev dktX7_put_0 : List UInt8 := dkwX7_put_0 ++ dktX7_put_1
theorem dksX7_put_0 : cX7_put.data.toList.drop 0 = dktX7_put_0 := by decide +kernel
theorem dksX7_put_1 : cX7_put.data.toList.drop 24 = dktX7_put_1 := dk_seg dksX7_put_0 24 rfl rfl
theorem dksX7_put_2 : cX7_put.data.toList.drop 47 = dktX7_put_2 := dk_seg dksX7_put_1 23 rfl rfl
theorem dksX7_put_3 : cX7_put.data.toList.drop 71 = dktX7_put_3 := dk_seg dksX7_put_2 24 rfl rfl
theorem dX7_put_0 : decode cX7_put 0 = .ok (.aload_n 0, 1) := dk_42 (dk_at dksX7_put_0 0 rfl rfl)
theorem dX7_put_1 : decode cX7_put 1 = .ok (.iconst 0, 1) := dk_3 (dk_at dksX7_put_0 1 rfl rfl)
theorem dX7_put_2 : decode cX7_put 2 = .ok (.putfield 66, 3) := dk_181 0 66 (dk_at dksX7_put_0 2 rfl rfl)
theorem dX7_put_5 : decode cX7_put 5 = .ok (.iconst 0, 1) := dk_3 (dk_at dksX7_put_0 5 rfl rfl)
theorem dX7_put_6 : decode cX7_put 6 = .ok (.istore_n 3, 1) := dk_62 (dk_at dksX7_put_0 6 rfl rfl)
theorem dX7_put_7 : decode cX7_put 7 = .ok (.iconst 0, 1) := dk_3 (dk_at dksX7_put_0 7 rfl rfl)
theorem dX7_put_8 : decode cX7_put 8 = .ok (.istore 4, 2) := dk_54 4 (dk_at dksX7_put_0 8 rfl rfl)
theorem dX7_put_10 : decode cX7_put 10 = .ok (.aload_n 0, 1) := dk_42 (dk_at dksX7_put_0 10 rfl rfl)
theorem dX7_put_11 : decode cX7_put 11 = .ok (.getfield 442, 3) := dk_180 1 186 (dk_at dksX7_put_0 11 rfl rfl)
theorem dX7_put_14 : decode cX7_put 14 = .ok (.ifnull 74, 3) := dk_198 0 74 (dk_at dksX7_put_0 14 rfl rfl)
theorem dX7_put_17 : decode cX7_put 17 = .ok (.iload 4, 2) := dk_21 4 (dk_at dksX7_put_0 17 rfl rfl)
theorem dX7_put_19 : decode cX7_put 19 = .ok (.bipush 96, 2) := dk_16 96 (dk_at dksX7_put_0 19 rfl rfl)
theorem dX7_put_21 : decode cX7_put 21 = .ok (.if_icmp .ge 67, 3) := dk_162 0 67 (dk_at dksX7_put_0 21 rfl rfl)
theorem dX7_put_24 : decode cX7_put 24 = .ok (.aload_n 0, 1) := dk_42 (dk_at dksX7_put_1 0 rfl rfl)
theorem dX7_put_25 : decode cX7_put 25 = .ok (.getfield 21, 3) := dk_180 0 21 (dk_at dksX7_put_1 1 rfl rfl)
theorem dX7_put_28 : decode cX7_put 28 = .ok (.iload_n 2, 1) := dk_28 (dk_at dksX7_put_1 4 rfl rfl)
theorem dX7_put_29 : decode cX7_put 29 = .ok (.ifCond .eq 8, 3) := dk_153 0 8 (dk_at dksX7_put_1 5 rfl rfl)
theorem dX7_put_32 : decode cX7_put 32 = .ok (.bipush 8, 2) := dk_16 8 (dk_at dksX7_put_1 8 rfl rfl)
theorem dX7_put_34 : decode cX7_put 34 = .ok (.goto 4, 3) := dk_167 0 4 (dk_at dksX7_put_1 10 rfl rfl)
theorem dX7_put_37 : decode cX7_put 37 = .ok (.iconst 0, 1) := dk_3 (dk_at dksX7_put_1 13 rfl rfl)
theorem dX7_put_38 : decode cX7_put 38 = .ok (.iload 4, 2) := dk_21 4 (dk_at dksX7_put_1 14 rfl rfl)
theorem dX7_put_40 : decode cX7_put 40 = .ok (.bipush 12, 2) := dk_16 12 (dk_at dksX7_put_1 16 rfl rfl)
theorem dX7_put_42 : decode cX7_put 42 = .ok (.idiv, 1) := dk_108 (dk_at dksX7_put_1 18 rfl rfl)
theorem dX7_put_43 : decode cX7_put 43 = .ok (.iadd, 1) := dk_96 (dk_at dksX7_put_1 19 rfl rfl)
theorem dX7_put_44 : decode cX7_put 44 = .ok (.iaload, 1) := dk_46 (dk_at dksX7_put_1 20 rfl rfl)
theorem dX7_put_45 : decode cX7_put 45 = .ok (.iload 4, 2) := dk_21 4 (dk_at dksX7_put_1 21 rfl rfl)
theorem dX7_put_47 : decode cX7_put 47 = .ok (.bipush 12, 2) := dk_16 12 (dk_at dksX7_put_2 0 rfl rfl)
theorem dX7_put_49 : decode cX7_put 49 = .ok (.irem, 1) := dk_112 (dk_at dksX7_put_2 2 rfl rfl)
theorem dX7_put_50 : decode cX7_put 50 = .ok (.invokestatic 366, 3) := dk_184 1 110 (dk_at dksX7_put_2 3 rfl rfl)
theorem dX7_put_53 : decode cX7_put 53 = .ok (.ifCond .ne 6, 3) := dk_154 0 6 (dk_at dksX7_put_2 6 rfl rfl)
theorem dX7_put_56 : decode cX7_put 56 = .ok (.goto 26, 3) := dk_167 0 26 (dk_at dksX7_put_2 9 rfl rfl)
theorem dX7_put_59 : decode cX7_put 59 = .ok (.iload_n 3, 1) := dk_29 (dk_at dksX7_put_2 12 rfl rfl)
theorem dX7_put_60 : decode cX7_put 60 = .ok (.iload_n 1, 1) := dk_27 (dk_at dksX7_put_2 13 rfl rfl)
theorem dX7_put_61 : decode cX7_put 61 = .ok (.if_icmp .ne 18, 3) := dk_160 0 18 (dk_at dksX7_put_2 14 rfl rfl)
theorem dX7_put_64 : decode cX7_put 64 = .ok (.bipush 100, 2) := dk_16 100 (dk_at dksX7_put_2 17 rfl rfl)
theorem dX7_put_66 : decode cX7_put 66 = .ok (.iload 4, 2) := dk_21 4 (dk_at dksX7_put_2 19 rfl rfl)
theorem dX7_put_68 : decode cX7_put 68 = .ok (.bipush 12, 2) := dk_16 12 (dk_at dksX7_put_2 21 rfl rfl)
theorem dX7_put_70 : decode cX7_put 70 = .ok (.idiv, 1) := dk_108 (dk_at dksX7_put_2 23 rfl rfl)
theorem dX7_put_71 : decode cX7_put 71 = .ok (.imul, 1) := dk_104 (dk_at dksX7_put_3 0 rfl rfl)
theorem dX7_put_72 : decode cX7_put 72 = .ok (.iload 4, 2) := dk_21 4 (dk_at dksX7_put_3 1 rfl rfl)
theorem dX7_put_74 : decode cX7_put 74 = .ok (.bipush 12, 2) := dk_16 12 (dk_at dksX7_put_3 3 rfl rfl)
theorem dX7_put_76 : decode cX7_put 76 = .ok (.irem, 1) := dk_112 (dk_at dksX7_put_3 5 rfl rfl)
theorem dX7_put_77 : decode cX7_put 77 = .ok (.iadd, 1) := dk_96 (dk_at dksX7_put_3 6 rfl rfl)
theorem dX7_put_78 : decode cX7_put 78 = .ok (.ireturn, 1) := dk_172 (dk_at dksX7_put_3 7 rfl rfl)
theorem dX7_put_79 : decode cX7_put 79 = .ok (.iinc 3 1, 3) := dk_132 3 1 (dk_at dksX7_put_3 8 rfl rfl)
theorem dX7_put_82 : decode cX7_put 82 = .ok (.iinc 4 1, 3) := dk_132 4 1 (dk_at dksX7_put_3 11 rfl rfl)
theorem dX7_put_85 : decode cX7_put 85 = .ok (.goto (-75), 3) := dk_167 255 181 (dk_at dksX7_put_3 14 rfl rfl)
theorem dX7_put_88 : decode cX7_put 88 = .ok (.aload_n 0, 1) := dk_42 (dk_at dksX7_put_3 17 rfl rfl)
theorem dX7_put_89 : decode cX7_put 89 = .ok (.iconst 1, 1) := dk_4 (dk_at dksX7_put_3 18 rfl rfl)
theorem dX7_put_90 : decode cX7_put 90 = .ok (.putfield 66, 3) := dk_181 0 66 (dk_at dksX7_put_3 19 rfl rfl)
theorem dX7_put_93 : decode cX7_put 93 = .ok (.iconst 0, 1) := dk_3 (dk_at dksX7_put_3 22 rfl rfl)
theorem dX7_put_94 : decode cX7_put 94 = .ok (.ireturn, 1) := dk_172 (dk_at dksX7_put_3 23 rfl rfl)
theorem dX7_thrown_0 : decode cX7_thrown 0 = .ok (.aload_n 0, 1) := by decide +kernel
theorem dX7_thrown_1 : decode cX7_thrown 1 = .ok (.getfield 66, 3) := by decide +kernel
theorem dX7_thrown_4 : decode cX7_thrown 4 = .ok (.ireturn, 1) := by decide +kernel
def dkwX1_size_7 : List UInt8 := [42, 180, 0, 118, 172, 42, 180, 0, 121, 172, 2, 172]
abbrev dktX1_size_7 : List UInt8 := dkwX1_size_7 ++ []
def dkwX1_size_6 : List UInt8 := [42, 180, 0, 104, 180, 1, 137, 172, 42, 180, 0, 104, 180, 1, 165, 172, 42, 180, 0, 104, 182, 0, 124, 172]
abbrev dktX1_size_6 : List UInt8 := dkwX1_size_6 ++ dktX1_size_7
def dkwX1_size_5 : List UInt8 := [42, 180, 0, 104, 180, 0, 142, 172, 42, 180, 0, 104, 180, 0, 145, 172, 42, 180, 0, 104, 180, 1, 97, 172]
abbrev dktX1_size_5 : List UInt8 := dkwX1_size_5 ++ dktX1_size_6
def dkwX1_size_4 : List UInt8 := [42, 180, 0, 104, 180, 1, 194, 172, 42, 180, 0, 104, 180, 0, 136, 172, 42, 180, 0, 104, 180, 0, 139, 172]
abbrev dktX1_size_4 : List UInt8 := dkwX1_size_4 ++ dktX1_size_5
def dkwX1_size_3 : List UInt8 := [42, 180, 0, 104, 180, 0, 148, 172, 42, 180, 0, 104, 180, 0, 133, 172, 42, 180, 0, 104, 180, 0, 130, 172]
abbrev dktX1_size_3 : List UInt8 := dkwX1_size_3 ++ dktX1_size_4
def dkwX1_size_2 : List UInt8 := [170, 0, 0, 0, 175, 0, 0, 0, 0, 0, 0, 0, 13, 0, 0, 0, 69, 0, 0, 0, 77, 0, 0, 0, 85, 0, 0, 0, 93, 0, 0, 0, 101, 0, 0, 0, 109, 0, 0, 0, 117, 0, 0, 0, 125, 0, 0, 0, 133, 0, 0, 0, 141, 0, 0, 0, 149, 0, 0, 0, 157, 0, 0, 0, 165, 0, 0, 0, 170]
abbrev dktX1_size_2 : List UInt8 := dkwX1_size_2 ++ dktX1_size_3
def dkwX1_size_1 : List UInt8 := [184, 0, 90, 153, 0, 7, 3, 167, 0, 4, 2, 172, 27]
abbrev dktX1_size_1 : List UInt8 := dkwX1_size_1 ++ dktX1_size_2
def dkwX1_size_0 : List UInt8 := [27, 16, 14, 160, 0, 8, 42, 180, 0, 83, 172, 42, 180, 0, 104, 199, 0, 19, 27, 3, 16, 13]
abbrev dktX1_size_0 : List UInt8 := dkwX1_size_0 ++ dktX1_size_1
theorem dksX1_size_0 : cX1_size.data.toList.drop 0 = dktX1_size_0 := by decide +kernel
theorem dksX1_size_1 : cX1_size.data.toList.drop 22 = dktX1_size_1 := dk_seg dksX1_size_0 22 rfl rfl
theorem dksX1_size_2 : cX1_size.data.toList.drop 35 = dktX1_size_2 := dk_seg dksX1_size_1 13 rfl rfl
theorem dksX1_size_3 : cX1_size.data.toList.drop 104 = dktX1_size_3 := dk_seg dksX1_size_2 69 rfl rfl
theorem dksX1_size_4 : cX1_size.data.toList.drop 128 = dktX1_size_4 := dk_seg dksX1_size_3 24 rfl rfl
theorem dksX1_size_5 : cX1_size.data.toList.drop 152 = dktX1_size_5 := dk_seg dksX1_size_4 24 rfl rfl
theorem dksX1_size_6 : cX1_size.data.toList.drop 176 = dktX1_size_6 := dk_seg dksX1_size_5 24 rfl rfl
theorem dksX1_size_7 : cX1_size.data.toList.drop 200 = dktX1_size_7 := dk_seg dksX1_size_6 24 rfl rfl
theorem dX1_size_0 : decode cX1_size 0 = .ok (.iload_n 1, 1) := dk_27 (dk_at dksX1_size_0 0 rfl rfl)
theorem dX1_size_1 : decode cX1_size 1 = .ok (.bipush 14, 2) := dk_16 14 (dk_at dksX1_size_0 1 rfl rfl)
theorem dX1_size_3 : decode cX1_size 3 = .ok (.if_icmp .ne 8, 3) := dk_160 0 8 (dk_at dksX1_size_0 3 rfl rfl)
theorem dX1_size_6 : decode cX1_size 6 = .ok (.aload_n 0, 1) := dk_42 (dk_at dksX1_size_0 6 rfl rfl)
theorem dX1_size_7 : decode cX1_size 7 = .ok (.getfield 83, 3) := dk_180 0 83 (dk_at dksX1_size_0 7 rfl rfl)
theorem dX1_size_10 : decode cX1_size 10 = .ok (.ireturn, 1) := dk_172 (dk_at dksX1_size_0 10 rfl rfl)
theorem dX1_size_11 : decode cX1_size 11 = .ok (.aload_n 0, 1) := dk_42 (dk_at dksX1_size_0 11 rfl rfl)
theorem dX1_size_12 : decode cX1_size 12 = .ok (.getfield 104, 3) := dk_180 0 104 (dk_at dksX1_size_0 12 rfl rfl)
theorem dX1_size_15 : decode cX1_size 15 = .ok (.ifnonnull 19, 3) := dk_199 0 19 (dk_at dksX1_size_0 15 rfl rfl)
theorem dX1_size_18 : decode cX1_size 18 = .ok (.iload_n 1, 1) := dk_27 (dk_at dksX1_size_0 18 rfl rfl)
theorem dX1_size_19 : decode cX1_size 19 = .ok (.iconst 0, 1) := dk_3 (dk_at dksX1_size_0 19 rfl rfl)
theorem dX1_size_20 : decode cX1_size 20 = .ok (.bipush 13, 2) := dk_16 13 (dk_at dksX1_size_0 20 rfl rfl)
theorem dX1_size_22 : decode cX1_size 22 = .ok (.invokestatic 90, 3) := dk_184 0 90 (dk_at dksX1_size_1 0 rfl rfl)
theorem dX1_size_25 : decode cX1_size 25 = .ok (.ifCond .eq 7, 3) := dk_153 0 7 (dk_at dksX1_size_1 3 rfl rfl)
theorem dX1_size_28 : decode cX1_size 28 = .ok (.iconst 0, 1) := dk_3 (dk_at dksX1_size_1 6 rfl rfl)
theorem dX1_size_29 : decode cX1_size 29 = .ok (.goto 4, 3) := dk_167 0 4 (dk_at dksX1_size_1 7 rfl rfl)
theorem dX1_size_32 : decode cX1_size 32 = .ok (.iconst (-1), 1) := dk_2 (dk_at dksX1_size_1 10 rfl rfl)
theorem dX1_size_33 : decode cX1_size 33 = .ok (.ireturn, 1) := dk_172 (dk_at dksX1_size_1 11 rfl rfl)
theorem dX1_size_34 : decode cX1_size 34 = .ok (.iload_n 1, 1) := dk_27 (dk_at dksX1_size_1 12 rfl rfl)
theorem dX1_size_35 : decode cX1_size 35 = .ok (.tableswitch 175 0 13 #[69, 77, 85, 93, 101, 109, 117, 125, 133, 141, 149, 157, 165, 170], 69) := by decide +kernel
theorem dX1_size_104 : decode cX1_size 104 = .ok (.aload_n 0, 1) := dk_42 (dk_at dksX1_size_3 0 rfl rfl)
theorem dX1_size_105 : decode cX1_size 105 = .ok (.getfield 104, 3) := dk_180 0 104 (dk_at dksX1_size_3 1 rfl rfl)
theorem dX1_size_108 : decode cX1_size 108 = .ok (.getfield 148, 3) := dk_180 0 148 (dk_at dksX1_size_3 4 rfl rfl)
theorem dX1_size_111 : decode cX1_size 111 = .ok (.ireturn, 1) := dk_172 (dk_at dksX1_size_3 7 rfl rfl)
theorem dX1_size_112 : decode cX1_size 112 = .ok (.aload_n 0, 1) := dk_42 (dk_at dksX1_size_3 8 rfl rfl)
theorem dX1_size_113 : decode cX1_size 113 = .ok (.getfield 104, 3) := dk_180 0 104 (dk_at dksX1_size_3 9 rfl rfl)
theorem dX1_size_116 : decode cX1_size 116 = .ok (.getfield 133, 3) := dk_180 0 133 (dk_at dksX1_size_3 12 rfl rfl)
theorem dX1_size_119 : decode cX1_size 119 = .ok (.ireturn, 1) := dk_172 (dk_at dksX1_size_3 15 rfl rfl)
theorem dX1_size_120 : decode cX1_size 120 = .ok (.aload_n 0, 1) := dk_42 (dk_at dksX1_size_3 16 rfl rfl)
theorem dX1_size_121 : decode cX1_size 121 = .ok (.getfield 104, 3) := dk_180 0 104 (dk_at dksX1_size_3 17 rfl rfl)
theorem dX1_size_124 : decode cX1_size 124 = .ok (.getfield 130, 3) := dk_180 0 130 (dk_at dksX1_size_3 20 rfl rfl)
theorem dX1_size_127 : decode cX1_size 127 = .ok (.ireturn, 1) := dk_172 (dk_at dksX1_size_3 23 rfl rfl)
theorem dX1_size_128 : decode cX1_size 128 = .ok (.aload_n 0, 1) := dk_42 (dk_at dksX1_size_4 0 rfl rfl)
theorem dX1_size_129 : decode cX1_size 129 = .ok (.getfield 104, 3) := dk_180 0 104 (dk_at dksX1_size_4 1 rfl rfl)
theorem dX1_size_132 : decode cX1_size 132 = .ok (.getfield 450, 3) := dk_180 1 194 (dk_at dksX1_size_4 4 rfl rfl)
theorem dX1_size_135 : decode cX1_size 135 = .ok (.ireturn, 1) := dk_172 (dk_at dksX1_size_4 7 rfl rfl)
theorem dX1_size_136 : decode cX1_size 136 = .ok (.aload_n 0, 1) := dk_42 (dk_at dksX1_size_4 8 rfl rfl)
theorem dX1_size_137 : decode cX1_size 137 = .ok (.getfield 104, 3) := dk_180 0 104 (dk_at dksX1_size_4 9 rfl rfl)
theorem dX1_size_140 : decode cX1_size 140 = .ok (.getfield 136, 3) := dk_180 0 136 (dk_at dksX1_size_4 12 rfl rfl)
theorem dX1_size_143 : decode cX1_size 143 = .ok (.ireturn, 1) := dk_172 (dk_at dksX1_size_4 15 rfl rfl)
theorem dX1_size_144 : decode cX1_size 144 = .ok (.aload_n 0, 1) := dk_42 (dk_at dksX1_size_4 16 rfl rfl)
theorem dX1_size_145 : decode cX1_size 145 = .ok (.getfield 104, 3) := dk_180 0 104 (dk_at dksX1_size_4 17 rfl rfl)
theorem dX1_size_148 : decode cX1_size 148 = .ok (.getfield 139, 3) := dk_180 0 139 (dk_at dksX1_size_4 20 rfl rfl)
theorem dX1_size_151 : decode cX1_size 151 = .ok (.ireturn, 1) := dk_172 (dk_at dksX1_size_4 23 rfl rfl)
theorem dX1_size_152 : decode cX1_size 152 = .ok (.aload_n 0, 1) := dk_42 (dk_at dksX1_size_5 0 rfl rfl)
theorem dX1_size_153 : decode cX1_size 153 = .ok (.getfield 104, 3) := dk_180 0 104 (dk_at dksX1_size_5 1 rfl rfl)
theorem dX1_size_156 : decode cX1_size 156 = .ok (.getfield 142, 3) := dk_180 0 142 (dk_at dksX1_size_5 4 rfl rfl)
theorem dX1_size_159 : decode cX1_size 159 = .ok (.ireturn, 1) := dk_172 (dk_at dksX1_size_5 7 rfl rfl)
theorem dX1_size_160 : decode cX1_size 160 = .ok (.aload_n 0, 1) := dk_42 (dk_at dksX1_size_5 8 rfl rfl)
theorem dX1_size_161 : decode cX1_size 161 = .ok (.getfield 104, 3) := dk_180 0 104 (dk_at dksX1_size_5 9 rfl rfl)
theorem dX1_size_164 : decode cX1_size 164 = .ok (.getfield 145, 3) := dk_180 0 145 (dk_at dksX1_size_5 12 rfl rfl)
theorem dX1_size_167 : decode cX1_size 167 = .ok (.ireturn, 1) := dk_172 (dk_at dksX1_size_5 15 rfl rfl)
theorem dX1_size_168 : decode cX1_size 168 = .ok (.aload_n 0, 1) := dk_42 (dk_at dksX1_size_5 16 rfl rfl)
theorem dX1_size_169 : decode cX1_size 169 = .ok (.getfield 104, 3) := dk_180 0 104 (dk_at dksX1_size_5 17 rfl rfl)
theorem dX1_size_172 : decode cX1_size 172 = .ok (.getfield 353, 3) := dk_180 1 97 (dk_at dksX1_size_5 20 rfl rfl)
theorem dX1_size_175 : decode cX1_size 175 = .ok (.ireturn, 1) := dk_172 (dk_at dksX1_size_5 23 rfl rfl)
theorem dX1_size_176 : decode cX1_size 176 = .ok (.aload_n 0, 1) := dk_42 (dk_at dksX1_size_6 0 rfl rfl)
theorem dX1_size_177 : decode cX1_size 177 = .ok (.getfield 104, 3) := dk_180 0 104 (dk_at dksX1_size_6 1 rfl rfl)
theorem dX1_size_180 : decode cX1_size 180 = .ok (.getfield 393, 3) := dk_180 1 137 (dk_at dksX1_size_6 4 rfl rfl)
theorem dX1_size_183 : decode cX1_size 183 = .ok (.ireturn, 1) := dk_172 (dk_at dksX1_size_6 7 rfl rfl)
theorem dX1_size_184 : decode cX1_size 184 = .ok (.aload_n 0, 1) := dk_42 (dk_at dksX1_size_6 8 rfl rfl)
theorem dX1_size_185 : decode cX1_size 185 = .ok (.getfield 104, 3) := dk_180 0 104 (dk_at dksX1_size_6 9 rfl rfl)
theorem dX1_size_188 : decode cX1_size 188 = .ok (.getfield 421, 3) := dk_180 1 165 (dk_at dksX1_size_6 12 rfl rfl)
theorem dX1_size_191 : decode cX1_size 191 = .ok (.ireturn, 1) := dk_172 (dk_at dksX1_size_6 15 rfl rfl)
theorem dX1_size_192 : decode cX1_size 192 = .ok (.aload_n 0, 1) := dk_42 (dk_at dksX1_size_6 16 rfl rfl)
theorem dX1_size_193 : decode cX1_size 193 = .ok (.getfield 104, 3) := dk_180 0 104 (dk_at dksX1_size_6 17 rfl rfl)
theorem dX1_size_196 : decode cX1_size 196 = .ok (.invokevirtual 124, 3) := dk_182 0 124 (dk_at dksX1_size_6 20 rfl rfl)
theorem dX1_size_199 : decode cX1_size 199 = .ok (.ireturn, 1) := dk_172 (dk_at dksX1_size_6 23 rfl rfl)
theorem dX1_size_200 : decode cX1_size 200 = .ok (.aload_n 0, 1) := dk_42 (dk_at dksX1_size_7 0 rfl rfl)
theorem dX1_size_201 : decode cX1_size 201 = .ok (.getfield 118, 3) := dk_180 0 118 (dk_at dksX1_size_7 1 rfl rfl)
theorem dX1_size_204 : decode cX1_size 204 = .ok (.ireturn, 1) := dk_172 (dk_at dksX1_size_7 4 rfl rfl)
theorem dX1_size_205 : decode cX1_size 205 = .ok (.aload_n 0, 1) := dk_42 (dk_at dksX1_size_7 5 rfl rfl)
theorem dX1_size_206 : decode cX1_size 206 = .ok (.getfield 121, 3) := dk_180 0 121 (dk_at dksX1_size_7 6 rfl rfl)
theorem dX1_size_209 : decode cX1_size 209 = .ok (.ireturn, 1) := dk_172 (dk_at dksX1_size_7 9 rfl rfl)
theorem dX1_size_210 : decode cX1_size 210 = .ok (.iconst (-1), 1) := dk_2 (dk_at dksX1_size_7 10 rfl rfl)
theorem dX1_size_211 : decode cX1_size 211 = .ok (.ireturn, 1) := dk_172 (dk_at dksX1_size_7 11 rfl rfl)
def dkwX7_size_7 : List UInt8 := [42, 180, 1, 188, 172, 42, 180, 1, 191, 172]
abbrev dktX7_size_7 : List UInt8 := dkwX7_size_7 ++ []
def dkwX7_size_6 : List UInt8 := [42, 180, 1, 186, 180, 1, 157, 172, 42, 180, 1, 186, 180, 1, 163, 172, 42, 180, 1, 186, 182, 1, 194, 172]
abbrev dktX7_size_6 : List UInt8 := dkwX7_size_6 ++ dktX7_size_7
def dkwX7_size_5 : List UInt8 := [42, 180, 1, 186, 180, 1, 114, 172, 42, 180, 1, 186, 180, 1, 132, 172, 42, 180, 1, 186, 180, 1, 137, 172]
abbrev dktX7_size_5 : List UInt8 := dkwX7_size_5 ++ dktX7_size_6
def dkwX7_size_4 : List UInt8 := [42, 180, 1, 186, 180, 1, 50, 172, 42, 180, 1, 186, 180, 1, 64, 172, 42, 180, 1, 186, 180, 1, 72, 172]
abbrev dktX7_size_4 : List UInt8 := dkwX7_size_4 ++ dktX7_size_5
def dkwX7_size_3 : List UInt8 := [42, 180, 1, 186, 180, 0, 196, 172, 42, 180, 1, 186, 180, 0, 229, 172, 42, 180, 1, 186, 180, 0, 241, 172]
abbrev dktX7_size_3 : List UInt8 := dkwX7_size_3 ++ dktX7_size_4
def dkwX7_size_2 : List UInt8 := [170, 0, 0, 0, 0, 167, 0, 0, 0, 0, 0, 0, 0, 12, 0, 0, 0, 66, 0, 0, 0, 74, 0, 0, 0, 82, 0, 0, 0, 90, 0, 0, 0, 98, 0, 0, 0, 106, 0, 0, 0, 114, 0, 0, 0, 122, 0, 0, 0, 130, 0, 0, 0, 138, 0, 0, 0, 146, 0, 0, 0, 154, 0, 0, 0, 162]
abbrev dktX7_size_2 : List UInt8 := dkwX7_size_2 ++ dktX7_size_3
def dkwX7_size_1 : List UInt8 := [154, 0, 5, 2, 172, 42, 180, 1, 186, 199, 0, 5, 3, 172, 27]
abbrev dktX7_size_1 : List UInt8 := dkwX7_size_1 ++ dktX7_size_2
def dkwX7_size_0 : List UInt8 := [42, 3, 181, 0, 66, 27, 16, 14, 160, 0, 8, 42, 180, 1, 179, 172, 27, 3, 16, 13, 184, 0, 147]
abbrev dktX7_size_0 : List UInt8 := dkwX7_size_0 ++ dktX7_size_1
theorem dksX7_size_0 : cX7_size.data.toList.drop 0 = dktX7_size_0 := by decide +kernel
theorem dksX7_size_1 : cX7_size.data.toList.drop 23 = dktX7_size_1 := dk_seg dksX7_size_0 23 rfl rfl
theorem dksX7_size_2 : cX7_size.data.toList.drop 38 = dktX7_size_2 := dk_seg dksX7_size_1 15 rfl rfl
theorem dksX7_size_3 : cX7_size.data.toList.drop 104 = dktX7_size_3 := dk_seg dksX7_size_2 66 rfl rfl
theorem dksX7_size_4 : cX7_size.data.toList.drop 128 = dktX7_size_4 := dk_seg dksX7_size_3 24 rfl rfl
theorem dksX7_size_5 : cX7_size.data.toList.drop 152 = dktX7_size_5 := dk_seg dksX7_size_4 24 rfl rfl
theorem dksX7_size_6 : cX7_size.data.toList.drop 176 = dktX7_size_6 := dk_seg dksX7_size_5 24 rfl rfl
theorem dksX7_size_7 : cX7_size.data.toList.drop 200 = dktX7_size_7 := dk_seg dksX7_size_6 24 rfl rfl
theorem dX7_size_0 : decode cX7_size 0 = .ok (.aload_n 0, 1) := dk_42 (dk_at dksX7_size_0 0 rfl rfl)
theorem dX7_size_1 : decode cX7_size 1 = .ok (.iconst 0, 1) := dk_3 (dk_at dksX7_size_0 1 rfl rfl)
theorem dX7_size_2 : decode cX7_size 2 = .ok (.putfield 66, 3) := dk_181 0 66 (dk_at dksX7_size_0 2 rfl rfl)
theorem dX7_size_5 : decode cX7_size 5 = .ok (.iload_n 1, 1) := dk_27 (dk_at dksX7_size_0 5 rfl rfl)
theorem dX7_size_6 : decode cX7_size 6 = .ok (.bipush 14, 2) := dk_16 14 (dk_at dksX7_size_0 6 rfl rfl)
theorem dX7_size_8 : decode cX7_size 8 = .ok (.if_icmp .ne 8, 3) := dk_160 0 8 (dk_at dksX7_size_0 8 rfl rfl)
theorem dX7_size_11 : decode cX7_size 11 = .ok (.aload_n 0, 1) := dk_42 (dk_at dksX7_size_0 11 rfl rfl)
theorem dX7_size_12 : decode cX7_size 12 = .ok (.getfield 435, 3) := dk_180 1 179 (dk_at dksX7_size_0 12 rfl rfl)
theorem dX7_size_15 : decode cX7_size 15 = .ok (.ireturn, 1) := dk_172 (dk_at dksX7_size_0 15 rfl rfl)
theorem dX7_size_16 : decode cX7_size 16 = .ok (.iload_n 1, 1) := dk_27 (dk_at dksX7_size_0 16 rfl rfl)
theorem dX7_size_17 : decode cX7_size 17 = .ok (.iconst 0, 1) := dk_3 (dk_at dksX7_size_0 17 rfl rfl)
theorem dX7_size_18 : decode cX7_size 18 = .ok (.bipush 13, 2) := dk_16 13 (dk_at dksX7_size_0 18 rfl rfl)
theorem dX7_size_20 : decode cX7_size 20 = .ok (.invokestatic 147, 3) := dk_184 0 147 (dk_at dksX7_size_0 20 rfl rfl)
theorem dX7_size_23 : decode cX7_size 23 = .ok (.ifCond .ne 5, 3) := dk_154 0 5 (dk_at dksX7_size_1 0 rfl rfl)
theorem dX7_size_26 : decode cX7_size 26 = .ok (.iconst (-1), 1) := dk_2 (dk_at dksX7_size_1 3 rfl rfl)
theorem dX7_size_27 : decode cX7_size 27 = .ok (.ireturn, 1) := dk_172 (dk_at dksX7_size_1 4 rfl rfl)
theorem dX7_size_28 : decode cX7_size 28 = .ok (.aload_n 0, 1) := dk_42 (dk_at dksX7_size_1 5 rfl rfl)
theorem dX7_size_29 : decode cX7_size 29 = .ok (.getfield 442, 3) := dk_180 1 186 (dk_at dksX7_size_1 6 rfl rfl)
theorem dX7_size_32 : decode cX7_size 32 = .ok (.ifnonnull 5, 3) := dk_199 0 5 (dk_at dksX7_size_1 9 rfl rfl)
theorem dX7_size_35 : decode cX7_size 35 = .ok (.iconst 0, 1) := dk_3 (dk_at dksX7_size_1 12 rfl rfl)
theorem dX7_size_36 : decode cX7_size 36 = .ok (.ireturn, 1) := dk_172 (dk_at dksX7_size_1 13 rfl rfl)
theorem dX7_size_37 : decode cX7_size 37 = .ok (.iload_n 1, 1) := dk_27 (dk_at dksX7_size_1 14 rfl rfl)
theorem dX7_size_38 : decode cX7_size 38 = .ok (.tableswitch 167 0 12 #[66, 74, 82, 90, 98, 106, 114, 122, 130, 138, 146, 154, 162], 66) := by decide +kernel
theorem dX7_size_104 : decode cX7_size 104 = .ok (.aload_n 0, 1) := dk_42 (dk_at dksX7_size_3 0 rfl rfl)
theorem dX7_size_105 : decode cX7_size 105 = .ok (.getfield 442, 3) := dk_180 1 186 (dk_at dksX7_size_3 1 rfl rfl)
theorem dX7_size_108 : decode cX7_size 108 = .ok (.getfield 196, 3) := dk_180 0 196 (dk_at dksX7_size_3 4 rfl rfl)
theorem dX7_size_111 : decode cX7_size 111 = .ok (.ireturn, 1) := dk_172 (dk_at dksX7_size_3 7 rfl rfl)
theorem dX7_size_112 : decode cX7_size 112 = .ok (.aload_n 0, 1) := dk_42 (dk_at dksX7_size_3 8 rfl rfl)
theorem dX7_size_113 : decode cX7_size 113 = .ok (.getfield 442, 3) := dk_180 1 186 (dk_at dksX7_size_3 9 rfl rfl)
theorem dX7_size_116 : decode cX7_size 116 = .ok (.getfield 229, 3) := dk_180 0 229 (dk_at dksX7_size_3 12 rfl rfl)
theorem dX7_size_119 : decode cX7_size 119 = .ok (.ireturn, 1) := dk_172 (dk_at dksX7_size_3 15 rfl rfl)
theorem dX7_size_120 : decode cX7_size 120 = .ok (.aload_n 0, 1) := dk_42 (dk_at dksX7_size_3 16 rfl rfl)
theorem dX7_size_121 : decode cX7_size 121 = .ok (.getfield 442, 3) := dk_180 1 186 (dk_at dksX7_size_3 17 rfl rfl)
theorem dX7_size_124 : decode cX7_size 124 = .ok (.getfield 241, 3) := dk_180 0 241 (dk_at dksX7_size_3 20 rfl rfl)
theorem dX7_size_127 : decode cX7_size 127 = .ok (.ireturn, 1) := dk_172 (dk_at dksX7_size_3 23 rfl rfl)
theorem dX7_size_128 : decode cX7_size 128 = .ok (.aload_n 0, 1) := dk_42 (dk_at dksX7_size_4 0 rfl rfl)
theorem dX7_size_129 : decode cX7_size 129 = .ok (.getfield 442, 3) := dk_180 1 186 (dk_at dksX7_size_4 1 rfl rfl)
theorem dX7_size_132 : decode cX7_size 132 = .ok (.getfield 306, 3) := dk_180 1 50 (dk_at dksX7_size_4 4 rfl rfl)
theorem dX7_size_135 : decode cX7_size 135 = .ok (.ireturn, 1) := dk_172 (dk_at dksX7_size_4 7 rfl rfl)
theorem dX7_size_136 : decode cX7_size 136 = .ok (.aload_n 0, 1) := dk_42 (dk_at dksX7_size_4 8 rfl rfl)
theorem dX7_size_137 : decode cX7_size 137 = .ok (.getfield 442, 3) := dk_180 1 186 (dk_at dksX7_size_4 9 rfl rfl)
theorem dX7_size_140 : decode cX7_size 140 = .ok (.getfield 320, 3) := dk_180 1 64 (dk_at dksX7_size_4 12 rfl rfl)
theorem dX7_size_143 : decode cX7_size 143 = .ok (.ireturn, 1) := dk_172 (dk_at dksX7_size_4 15 rfl rfl)
theorem dX7_size_144 : decode cX7_size 144 = .ok (.aload_n 0, 1) := dk_42 (dk_at dksX7_size_4 16 rfl rfl)
theorem dX7_size_145 : decode cX7_size 145 = .ok (.getfield 442, 3) := dk_180 1 186 (dk_at dksX7_size_4 17 rfl rfl)
theorem dX7_size_148 : decode cX7_size 148 = .ok (.getfield 328, 3) := dk_180 1 72 (dk_at dksX7_size_4 20 rfl rfl)
theorem dX7_size_151 : decode cX7_size 151 = .ok (.ireturn, 1) := dk_172 (dk_at dksX7_size_4 23 rfl rfl)
theorem dX7_size_152 : decode cX7_size 152 = .ok (.aload_n 0, 1) := dk_42 (dk_at dksX7_size_5 0 rfl rfl)
theorem dX7_size_153 : decode cX7_size 153 = .ok (.getfield 442, 3) := dk_180 1 186 (dk_at dksX7_size_5 1 rfl rfl)
theorem dX7_size_156 : decode cX7_size 156 = .ok (.getfield 370, 3) := dk_180 1 114 (dk_at dksX7_size_5 4 rfl rfl)
theorem dX7_size_159 : decode cX7_size 159 = .ok (.ireturn, 1) := dk_172 (dk_at dksX7_size_5 7 rfl rfl)
theorem dX7_size_160 : decode cX7_size 160 = .ok (.aload_n 0, 1) := dk_42 (dk_at dksX7_size_5 8 rfl rfl)
theorem dX7_size_161 : decode cX7_size 161 = .ok (.getfield 442, 3) := dk_180 1 186 (dk_at dksX7_size_5 9 rfl rfl)
theorem dX7_size_164 : decode cX7_size 164 = .ok (.getfield 388, 3) := dk_180 1 132 (dk_at dksX7_size_5 12 rfl rfl)
theorem dX7_size_167 : decode cX7_size 167 = .ok (.ireturn, 1) := dk_172 (dk_at dksX7_size_5 15 rfl rfl)
theorem dX7_size_168 : decode cX7_size 168 = .ok (.aload_n 0, 1) := dk_42 (dk_at dksX7_size_5 16 rfl rfl)
theorem dX7_size_169 : decode cX7_size 169 = .ok (.getfield 442, 3) := dk_180 1 186 (dk_at dksX7_size_5 17 rfl rfl)
theorem dX7_size_172 : decode cX7_size 172 = .ok (.getfield 393, 3) := dk_180 1 137 (dk_at dksX7_size_5 20 rfl rfl)
theorem dX7_size_175 : decode cX7_size 175 = .ok (.ireturn, 1) := dk_172 (dk_at dksX7_size_5 23 rfl rfl)
theorem dX7_size_176 : decode cX7_size 176 = .ok (.aload_n 0, 1) := dk_42 (dk_at dksX7_size_6 0 rfl rfl)
theorem dX7_size_177 : decode cX7_size 177 = .ok (.getfield 442, 3) := dk_180 1 186 (dk_at dksX7_size_6 1 rfl rfl)
theorem dX7_size_180 : decode cX7_size 180 = .ok (.getfield 413, 3) := dk_180 1 157 (dk_at dksX7_size_6 4 rfl rfl)
theorem dX7_size_183 : decode cX7_size 183 = .ok (.ireturn, 1) := dk_172 (dk_at dksX7_size_6 7 rfl rfl)
theorem dX7_size_184 : decode cX7_size 184 = .ok (.aload_n 0, 1) := dk_42 (dk_at dksX7_size_6 8 rfl rfl)
theorem dX7_size_185 : decode cX7_size 185 = .ok (.getfield 442, 3) := dk_180 1 186 (dk_at dksX7_size_6 9 rfl rfl)
theorem dX7_size_188 : decode cX7_size 188 = .ok (.getfield 419, 3) := dk_180 1 163 (dk_at dksX7_size_6 12 rfl rfl)
theorem dX7_size_191 : decode cX7_size 191 = .ok (.ireturn, 1) := dk_172 (dk_at dksX7_size_6 15 rfl rfl)
theorem dX7_size_192 : decode cX7_size 192 = .ok (.aload_n 0, 1) := dk_42 (dk_at dksX7_size_6 16 rfl rfl)
theorem dX7_size_193 : decode cX7_size 193 = .ok (.getfield 442, 3) := dk_180 1 186 (dk_at dksX7_size_6 17 rfl rfl)
theorem dX7_size_196 : decode cX7_size 196 = .ok (.invokevirtual 450, 3) := dk_182 1 194 (dk_at dksX7_size_6 20 rfl rfl)
theorem dX7_size_199 : decode cX7_size 199 = .ok (.ireturn, 1) := dk_172 (dk_at dksX7_size_6 23 rfl rfl)
theorem dX7_size_200 : decode cX7_size 200 = .ok (.aload_n 0, 1) := dk_42 (dk_at dksX7_size_7 0 rfl rfl)
theorem dX7_size_201 : decode cX7_size 201 = .ok (.getfield 444, 3) := dk_180 1 188 (dk_at dksX7_size_7 1 rfl rfl)
theorem dX7_size_204 : decode cX7_size 204 = .ok (.ireturn, 1) := dk_172 (dk_at dksX7_size_7 4 rfl rfl)
theorem dX7_size_205 : decode cX7_size 205 = .ok (.aload_n 0, 1) := dk_42 (dk_at dksX7_size_7 5 rfl rfl)
theorem dX7_size_206 : decode cX7_size 206 = .ok (.getfield 447, 3) := dk_180 1 191 (dk_at dksX7_size_7 6 rfl rfl)
theorem dX7_size_209 : decode cX7_size 209 = .ok (.ireturn, 1) := dk_172 (dk_at dksX7_size_7 9 rfl rfl)
theorem dX1_trouble_0 : decode cX1_trouble 0 = .ok (.aload_n 0, 1) := by decide +kernel
theorem dX1_trouble_1 : decode cX1_trouble 1 = .ok (.getfield 77, 3) := by decide +kernel
theorem dX1_trouble_4 : decode cX1_trouble 4 = .ok (.ireturn, 1) := by decide +kernel
def dkwX7_trouble_0 : List UInt8 := [42, 3, 181, 0, 66, 42, 180, 0, 69, 172]
abbrev dktX7_trouble_0 : List UInt8 := dkwX7_trouble_0 ++ []
theorem dksX7_trouble_0 : cX7_trouble.data.toList.drop 0 = dktX7_trouble_0 := by decide +kernel
theorem dX7_trouble_0 : decode cX7_trouble 0 = .ok (.aload_n 0, 1) := dk_42 (dk_at dksX7_trouble_0 0 rfl rfl)
theorem dX7_trouble_1 : decode cX7_trouble 1 = .ok (.iconst 0, 1) := dk_3 (dk_at dksX7_trouble_0 1 rfl rfl)
theorem dX7_trouble_2 : decode cX7_trouble 2 = .ok (.putfield 66, 3) := dk_181 0 66 (dk_at dksX7_trouble_0 2 rfl rfl)
theorem dX7_trouble_5 : decode cX7_trouble 5 = .ok (.aload_n 0, 1) := dk_42 (dk_at dksX7_trouble_0 5 rfl rfl)
theorem dX7_trouble_6 : decode cX7_trouble 6 = .ok (.getfield 69, 3) := dk_180 0 69 (dk_at dksX7_trouble_0 6 rfl rfl)
theorem dX7_trouble_9 : decode cX7_trouble 9 = .ok (.ireturn, 1) := dk_172 (dk_at dksX7_trouble_0 9 rfl rfl)
theorem fp_X7_salt_66 : FP mX7_salt 66 [26] 0 (tyOf 0) := fun kd h => (by cases List.mem_singleton.mp h; exact ⟨6, _, 0, "GoatCourtModel", rfl, rfl, by decide, rfl, rfl, Or.inl rfl, Or.inl ⟨rfl, Or.inl q1889⟩⟩)
theorem fp_X7_dog_66 : FP mX7_dog 66 [26] 0 (tyOf 0) := fun kd h => (by cases List.mem_singleton.mp h; exact ⟨6, _, 0, "GoatCourtModel", rfl, rfl, by decide, rfl, rfl, Or.inl rfl, Or.inl ⟨rfl, Or.inl q1889⟩⟩)
theorem fl_X1_453 : FL "GoatCourt" 453 [23] 2 (tyOf 0) := fun kd h => (by cases List.mem_singleton.mp h; exact ⟨3, _, 2, "GoatCourt$Ground", rfl, rfl, by decide, rfl, rfl, Or.inl q332, Or.inl rfl⟩)
theorem fl_X1_450 : FL "GoatCourt" 450 [27] 14 (tyOf 0) := fun kd h => (by cases List.mem_singleton.mp h; exact ⟨7, _, 14, "GoatCourt$Hill", rfl, rfl, by decide, rfl, rfl, Or.inl q566, Or.inl rfl⟩)
theorem fp_X1_hedge_453 : FP mX1_hedge 453 [23] 2 (tyOf 0) := fun kd h => (by cases List.mem_singleton.mp h; exact ⟨3, _, 2, "GoatCourt$Ground", rfl, rfl, by decide, rfl, rfl, Or.inl rfl, Or.inl ⟨rfl, Or.inl q332⟩⟩)
theorem fp_X7_hedge_66 : FP mX7_hedge 66 [26] 0 (tyOf 0) := fun kd h => (by cases List.mem_singleton.mp h; exact ⟨6, _, 0, "GoatCourtModel", rfl, rfl, by decide, rfl, rfl, Or.inl rfl, Or.inl ⟨rfl, Or.inl q1889⟩⟩)
theorem fp_X1_hear_200 : FP mX1_hear 200 [23] 3 (tyOf 0) := fun kd h => (by cases List.mem_singleton.mp h; exact ⟨3, _, 3, "GoatCourt$Ground", rfl, rfl, by decide, rfl, rfl, Or.inl rfl, Or.inl ⟨rfl, Or.inl q334⟩⟩)
theorem fp_X7_hear_66 : FP mX7_hear 66 [26] 0 (tyOf 0) := fun kd h => (by cases List.mem_singleton.mp h; exact ⟨6, _, 0, "GoatCourtModel", rfl, rfl, by decide, rfl, rfl, Or.inl rfl, Or.inl ⟨rfl, Or.inl q1889⟩⟩)
theorem fp_X1_undo_118 : FP mX1_undo 118 [20] 8 (tyOf 0) := fun kd h => (by cases List.mem_singleton.mp h; exact ⟨0, _, 8, "GoatCourt", rfl, rfl, by decide, rfl, rfl, Or.inl rfl, Or.inl ⟨rfl, Or.inl q410⟩⟩)
theorem fp_X7_undo_66 : FP mX7_undo 66 [26] 0 (tyOf 0) := fun kd h => (by cases List.mem_singleton.mp h; exact ⟨6, _, 0, "GoatCourtModel", rfl, rfl, by decide, rfl, rfl, Or.inl rfl, Or.inl ⟨rfl, Or.inl q1889⟩⟩)
theorem fp_X7_undo_444 : FP mX7_undo 444 [26] 21 (tyOf 0) := fun kd h => (by cases List.mem_singleton.mp h; exact ⟨6, _, 21, "GoatCourtModel", rfl, rfl, by decide, rfl, rfl, Or.inl rfl, Or.inl ⟨rfl, Or.inl q1910⟩⟩)
theorem fl_X1_121 : FL "GoatCourt" 121 [20] 7 (tyOf 0) := fun kd h => (by cases List.mem_singleton.mp h; exact ⟨0, _, 7, "GoatCourt", rfl, rfl, by decide, rfl, rfl, Or.inl q409, Or.inl rfl⟩)
theorem fp_X1_mark_121 : FP mX1_mark 121 [20] 7 (tyOf 0) := fun kd h => (by cases List.mem_singleton.mp h; exact ⟨0, _, 7, "GoatCourt", rfl, rfl, by decide, rfl, rfl, Or.inl rfl, Or.inl ⟨rfl, Or.inl q409⟩⟩)
theorem fl_X7_447 : FL "GoatCourtModel" 447 [26] 22 (tyOf 0) := fun kd h => (by cases List.mem_singleton.mp h; exact ⟨6, _, 22, "GoatCourtModel", rfl, rfl, by decide, rfl, rfl, Or.inl q1911, Or.inl rfl⟩)
theorem fl_X7_27 : FL "GoatCourtModel" 27 [26] 20 (.array (.int)) := fun kd h => (by cases List.mem_singleton.mp h; exact ⟨6, _, 20, "GoatCourtModel", rfl, rfl, by decide, rfl, rfl, Or.inl q1909, Or.inl rfl⟩)
theorem fp_X7_mark_447 : FP mX7_mark 447 [26] 22 (tyOf 0) := fun kd h => (by cases List.mem_singleton.mp h; exact ⟨6, _, 22, "GoatCourtModel", rfl, rfl, by decide, rfl, rfl, Or.inl rfl, Or.inl ⟨rfl, Or.inl q1911⟩⟩)
theorem fp_X7_mark_66 : FP mX7_mark 66 [26] 0 (tyOf 0) := fun kd h => (by cases List.mem_singleton.mp h; exact ⟨6, _, 0, "GoatCourtModel", rfl, rfl, by decide, rfl, rfl, Or.inl rfl, Or.inl ⟨rfl, Or.inl q1889⟩⟩)
theorem fp_X1_back_118 : FP mX1_back 118 [20] 8 (tyOf 0) := fun kd h => (by cases List.mem_singleton.mp h; exact ⟨0, _, 8, "GoatCourt", rfl, rfl, by decide, rfl, rfl, Or.inl rfl, Or.inl ⟨rfl, Or.inl q410⟩⟩)
theorem fp_X7_back_444 : FP mX7_back 444 [26] 21 (tyOf 0) := fun kd h => (by cases List.mem_singleton.mp h; exact ⟨6, _, 21, "GoatCourtModel", rfl, rfl, by decide, rfl, rfl, Or.inl rfl, Or.inl ⟨rfl, Or.inl q1910⟩⟩)
theorem fp_X7_back_66 : FP mX7_back 66 [26] 0 (tyOf 0) := fun kd h => (by cases List.mem_singleton.mp h; exact ⟨6, _, 0, "GoatCourtModel", rfl, rfl, by decide, rfl, rfl, Or.inl rfl, Or.inl ⟨rfl, Or.inl q1889⟩⟩)
theorem hcatch_X0_put_5 : HC mX0_put 5 13 "java/util/NoSuchElementException" := ⟨0, 10, 13, rfl, by decide, by decide, by decide, q1857, q1864⟩
theorem fp_X7_put_66 : FP mX7_put 66 [26] 0 (tyOf 0) := fun kd h => (by cases List.mem_singleton.mp h; exact ⟨6, _, 0, "GoatCourtModel", rfl, rfl, by decide, rfl, rfl, Or.inl rfl, Or.inl ⟨rfl, Or.inl q1889⟩⟩)
theorem fl_X7_66 : FL "GoatCourtModel" 66 [26] 0 (tyOf 0) := fun kd h => (by cases List.mem_singleton.mp h; exact ⟨6, _, 0, "GoatCourtModel", rfl, rfl, by decide, rfl, rfl, Or.inl q1889, Or.inl rfl⟩)
theorem fp_X7_size_66 : FP mX7_size 66 [26] 0 (tyOf 0) := fun kd h => (by cases List.mem_singleton.mp h; exact ⟨6, _, 0, "GoatCourtModel", rfl, rfl, by decide, rfl, rfl, Or.inl rfl, Or.inl ⟨rfl, Or.inl q1889⟩⟩)
theorem fl_X7_69 : FL "GoatCourtModel" 69 [26] 1 (tyOf 0) := fun kd h => (by cases List.mem_singleton.mp h; exact ⟨6, _, 1, "GoatCourtModel", rfl, rfl, by decide, rfl, rfl, Or.inl q1890, Or.inl rfl⟩)
theorem fp_X7_trouble_66 : FP mX7_trouble 66 [26] 0 (tyOf 0) := fun kd h => (by cases List.mem_singleton.mp h; exact ⟨6, _, 0, "GoatCourtModel", rfl, rfl, by decide, rfl, rfl, Or.inl rfl, Or.inl ⟨rfl, Or.inl q1889⟩⟩)
theorem w_X7_puts_b71 (G : Gx) (h0 : G0 G) (N : Nat)   (a0 : Nat) (l1 : Int32) (l2 : Int32) (l3 : Int32) (σ : Mem) : Runs G mX7_puts rhoI σ 71 [some (vR (some a0)), some (vI l1), some (vI l2), some (vI l3), none] [] (f_X7_puts_b71 N  a0 l1 l2 l3 σ) := by
  unfold f_X7_puts_b71
  refine r_aload_n (q := 72) dX7_puts_71 rfl rfl rfl ?_
  refine r_ob (fun a3 ha3 => ?_)
  obtain ⟨hea3, hka3⟩ := o_at_eq ha3
  cases hea3
  refine r_callV (q := 75) (c_X7_keeps G h0 N _ _) (cl_V (ci := 6) rfl rfl (lw_V q2739 q2741 qs164 q176 q2742) (hd_X7_keeps) ⟨Nat.le_of_ble_eq_true rfl, Nat.le_of_ble_eq_true rfl⟩ (List.mem_singleton.mp hka3) rfl rfl rfl (Nat.le_of_ble_eq_true rfl) dX7_puts_72) rfl (fun u1 σ2 => ?_)
  refine r_aload_n (q := 76) dX7_puts_75 rfl rfl rfl ?_
  refine r_gR (q := 79) fl_X7_21 rfl dX7_puts_76 rfl (fun x4 => ?_)
  refine r_iload_n (q := 80) dX7_puts_79 rfl rfl rfl ?_
  refine r_iload_n (q := 81) dX7_puts_80 rfl rfl rfl ?_
  refine r_iadd (q := 82) dX7_puts_81 rfl ?_
  refine r_dup2 (q := 83) dX7_puts_82 rfl rfl rfl ?_
  refine r_iaload (q := 84) dX7_puts_83 rfl (fun x5 => ?_)
  refine r_iconst (q := 85) (v := (1 : Int32)) dX7_puts_84 rfl (by decide) ?_
  refine r_iload_n (q := 86) dX7_puts_85 rfl rfl rfl ?_
  refine r_ishl (q := 87) dX7_puts_86 rfl ?_
  refine r_ixor (q := 88) dX7_puts_87 rfl ?_
  refine r_iastore (q := 89) dX7_puts_88 rfl (fun σ6 => ?_)
  refine r_aload_n (q := 90) dX7_puts_89 rfl rfl rfl ?_
  refine r_ob (fun a9 ha9 => ?_)
  obtain ⟨hea9, hka9⟩ := o_at_eq ha9
  cases hea9
  refine r_callI (q := 93) (c_X7_granted G h0 N _ _) (cl_V (ci := 6) rfl rfl (lw_V q2743 q2745 qs165 q176 q2746) (hd_X7_granted) ⟨Nat.le_of_ble_eq_true rfl, Nat.le_of_ble_eq_true rfl⟩ (List.mem_singleton.mp hka9) rfl rfl rfl (Nat.le_of_ble_eq_true rfl) dX7_puts_90) rfl (fun x7 σ8 => ?_)
  exact r_ireturnN rfl dX7_puts_93
theorem c_X7_puts (G : Gx) (h0 : G0 G) (N : Nat) (a0 : Nat) (i1 : Int32) (i2 : Int32) (i3 : Int32) (i4 : Int32) (σ : Mem) : Ct G mX7_puts rhoI [vR (some a0), vI i1, vI i2, vI i3, vI i4] σ (f_X7_puts N a0 i1 i2 i3 i4 σ) := by
  refine Ct_of h0 (by decide) rfl (Nat.le_of_ble_eq_true rfl) (L0 := [some (vR (some a0)), some (vI i1), some (vI i2), some (vI i3), some (vI i4)]) rfl ?_
  unfold f_X7_puts
  refine r_aload_n (q := 1) dX7_puts_0 rfl rfl rfl ?_
  refine r_iload_n (q := 2) dX7_puts_1 rfl rfl rfl ?_
  refine r_ob (fun a3 ha3 => ?_)
  obtain ⟨hea3, hka3⟩ := o_at_eq ha3
  cases hea3
  refine r_callI (q := 5) (c_X7_isPlace G h0 N _ _ _) (cl_V (ci := 6) rfl rfl (lw_V q2395 q2397 qs119 q176 q2398) (hd_X7_isPlace) ⟨Nat.le_of_ble_eq_true rfl, Nat.le_of_ble_eq_true rfl⟩ (List.mem_singleton.mp hka3) rfl rfl rfl (Nat.le_of_ble_eq_true rfl) dX7_puts_2) rfl (fun x1 σ2 => ?_)
  refine r_if_ne (q := 8) (t := 14) dX7_puts_5 rfl (by decide) (fun _ => ?_) (fun _ => ?_)
  · refine r_aload_n (q := 9) dX7_puts_8 rfl rfl rfl ?_
    refine r_iconst (q := 10) (v := (1 : Int32)) dX7_puts_9 rfl (by decide) ?_
    refine r_ob (fun a25 ha25 => ?_)
    obtain ⟨hea25, hka25⟩ := o_at_eq ha25
    cases hea25
    refine r_callI (q := 13) (c_X7_denied G h0 N _ _ _) (cl_V (ci := 6) rfl rfl (lw_V q2731 q2733 qs162 q176 q2734) (hd_X7_denied) ⟨Nat.le_of_ble_eq_true rfl, Nat.le_of_ble_eq_true rfl⟩ (List.mem_singleton.mp hka25) rfl rfl rfl (Nat.le_of_ble_eq_true rfl) dX7_puts_10) rfl (fun x23 σ24 => ?_)
    exact r_ireturnN rfl dX7_puts_13
  · refine r_aload_n (q := 15) dX7_puts_14 rfl rfl rfl ?_
    refine r_iload_n (q := 16) dX7_puts_15 rfl rfl rfl ?_
    refine r_ob (fun a6 ha6 => ?_)
    obtain ⟨hea6, hka6⟩ := o_at_eq ha6
    cases hea6
    refine r_callI (q := 19) (c_X7_isHour G h0 N _ _ _) (cl_V (ci := 6) rfl rfl (lw_V q2439 q2441 qs125 q176 q2442) (hd_X7_isHour) ⟨Nat.le_of_ble_eq_true rfl, Nat.le_of_ble_eq_true rfl⟩ (List.mem_singleton.mp hka6) rfl rfl rfl (Nat.le_of_ble_eq_true rfl) dX7_puts_16) rfl (fun x4 σ5 => ?_)
    refine r_if_ne (q := 22) (t := 28) dX7_puts_19 rfl (by decide) (fun _ => ?_) (fun _ => ?_)
    · refine r_aload_n (q := 23) dX7_puts_22 rfl rfl rfl ?_
      refine r_iconst (q := 24) (v := (2 : Int32)) dX7_puts_23 rfl (by decide) ?_
      refine r_ob (fun a22 ha22 => ?_)
      obtain ⟨hea22, hka22⟩ := o_at_eq ha22
      cases hea22
      refine r_callI (q := 27) (c_X7_denied G h0 N _ _ _) (cl_V (ci := 6) rfl rfl (lw_V q2731 q2733 qs162 q176 q2734) (hd_X7_denied) ⟨Nat.le_of_ble_eq_true rfl, Nat.le_of_ble_eq_true rfl⟩ (List.mem_singleton.mp hka22) rfl rfl rfl (Nat.le_of_ble_eq_true rfl) dX7_puts_24) rfl (fun x20 σ21 => ?_)
      exact r_ireturnN rfl dX7_puts_27
    · refine r_aload_n (q := 29) dX7_puts_28 rfl rfl rfl ?_
      refine r_gR (q := 32) fl_X7_21 rfl dX7_puts_29 rfl (fun x7 => ?_)
      refine r_iload_n (q := 33) dX7_puts_32 rfl rfl rfl ?_
      refine r_iload_n (q := 34) dX7_puts_33 rfl rfl rfl ?_
      refine r_iadd (q := 35) dX7_puts_34 rfl ?_
      refine r_iaload (q := 36) dX7_puts_35 rfl (fun x8 => ?_)
      refine r_iload_n (q := 37) dX7_puts_36 rfl rfl rfl ?_
      refine r_callI (q := 40) (c_X7_bit G h0 N _ _ _) (cl_S rfl rfl (lw_S q2331 q2332 q176 q2333) (hd_X7_bit) ⟨Nat.le_of_ble_eq_true rfl, Nat.le_of_ble_eq_true rfl⟩ rfl (Nat.le_of_ble_eq_true rfl) dX7_puts_37) rfl (fun x9 σ10 => ?_)
      refine r_iload (q := 42) dX7_puts_40 rfl rfl ?_
      refine r_icmp_ne (q := 45) (t := 51) dX7_puts_42 rfl (by decide) (fun _ => ?_) (fun _ => ?_)
      · refine r_aload_n (q := 46) dX7_puts_45 rfl rfl rfl ?_
        refine r_iconst (q := 47) (v := (5 : Int32)) dX7_puts_46 rfl (by decide) ?_
        refine r_ob (fun a19 ha19 => ?_)
        obtain ⟨hea19, hka19⟩ := o_at_eq ha19
        cases hea19
        refine r_callI (q := 50) (c_X7_denied G h0 N _ _ _) (cl_V (ci := 6) rfl rfl (lw_V q2731 q2733 qs162 q176 q2734) (hd_X7_denied) ⟨Nat.le_of_ble_eq_true rfl, Nat.le_of_ble_eq_true rfl⟩ (List.mem_singleton.mp hka19) rfl rfl rfl (Nat.le_of_ble_eq_true rfl) dX7_puts_47) rfl (fun x17 σ18 => ?_)
        exact r_ireturnN rfl dX7_puts_50
      · refine r_iload (q := 53) dX7_puts_51 rfl rfl ?_
        refine r_if_eq (q := 56) (t := 71) dX7_puts_53 rfl (by decide) (fun _ => ?_) (fun _ => ?_)
        · exact r_le (w_X7_puts_b71 G h0 N _ _ _ _ _) (Nat.le_refl _) (And.intro rfl (And.intro rfl (And.intro rfl (And.intro rfl trivial))))
        · refine r_aload_n (q := 57) dX7_puts_56 rfl rfl rfl ?_
          refine r_iload_n (q := 58) dX7_puts_57 rfl rfl rfl ?_
          refine r_ob (fun a13 ha13 => ?_)
          obtain ⟨hea13, hka13⟩ := o_at_eq ha13
          cases hea13
          refine r_callI (q := 61) (c_X7_spots G h0 N _ _ _) (cl_V (ci := 6) rfl rfl (lw_V q2735 q2737 qs163 q176 q2738) (hd_X7_spots) ⟨Nat.le_of_ble_eq_true rfl, Nat.le_of_ble_eq_true rfl⟩ (List.mem_singleton.mp hka13) rfl rfl rfl (Nat.le_of_ble_eq_true rfl) dX7_puts_58) rfl (fun x11 σ12 => ?_)
          refine r_iconst (q := 62) (v := (4 : Int32)) dX7_puts_61 rfl (by decide) ?_
          refine r_icmp_ne (q := 65) (t := 71) dX7_puts_62 rfl (by decide) (fun _ => ?_) (fun _ => ?_)
          · refine r_aload_n (q := 66) dX7_puts_65 rfl rfl rfl ?_
            refine r_iconst (q := 67) (v := (3 : Int32)) dX7_puts_66 rfl (by decide) ?_
            refine r_ob (fun a16 ha16 => ?_)
            obtain ⟨hea16, hka16⟩ := o_at_eq ha16
            cases hea16
            refine r_callI (q := 70) (c_X7_denied G h0 N _ _ _) (cl_V (ci := 6) rfl rfl (lw_V q2731 q2733 qs162 q176 q2734) (hd_X7_denied) ⟨Nat.le_of_ble_eq_true rfl, Nat.le_of_ble_eq_true rfl⟩ (List.mem_singleton.mp hka16) rfl rfl rfl (Nat.le_of_ble_eq_true rfl) dX7_puts_67) rfl (fun x14 σ15 => ?_)
            exact r_ireturnN rfl dX7_puts_70
          · exact r_le (w_X7_puts_b71 G h0 N _ _ _ _ _) (Nat.le_refl _) (And.intro rfl (And.intro rfl (And.intro rfl (And.intro rfl trivial))))
theorem c_X7_salt (G : Gx) (h0 : G0 G) (N : Nat) (a0 : Nat) (i1 : Int32) (i2 : Int32) (i3 : Int32) (σ : Mem) : Ct G mX7_salt rhoI [vR (some a0), vI i1, vI i2, vI i3] σ (f_X7_salt N a0 i1 i2 i3 σ) := by
  refine Ct_of h0 (by decide) rfl (Nat.le_of_ble_eq_true rfl) (L0 := [some (vR (some a0)), some (vI i1), some (vI i2), some (vI i3)]) rfl ?_
  unfold f_X7_salt
  refine r_aload_n (q := 1) dX7_salt_0 rfl rfl rfl ?_
  refine r_iconst (q := 2) (v := (0 : Int32)) dX7_salt_1 rfl (by decide) ?_
  refine r_pI (q := 5) fp_X7_salt_66 dX7_salt_2 rfl (fun σ1 => ?_)
  refine r_aload_n (q := 6) dX7_salt_5 rfl rfl rfl ?_
  refine r_iconst (q := 7) (v := (0 : Int32)) dX7_salt_6 rfl (by decide) ?_
  refine r_iload_n (q := 8) dX7_salt_7 rfl rfl rfl ?_
  refine r_iload_n (q := 9) dX7_salt_8 rfl rfl rfl ?_
  refine r_iload_n (q := 10) dX7_salt_9 rfl rfl rfl ?_
  refine r_ob (fun a4 ha4 => ?_)
  obtain ⟨hea4, hka4⟩ := o_at_eq ha4
  cases hea4
  refine r_callI (q := 13) (c_X7_puts G h0 N _ _ _ _ _ _) (cl_V (ci := 6) rfl rfl (lw_V q2727 q2729 qs161 q176 q2730) (hd_X7_puts) ⟨Nat.le_of_ble_eq_true rfl, Nat.le_of_ble_eq_true rfl⟩ (List.mem_singleton.mp hka4) rfl rfl rfl (Nat.le_of_ble_eq_true rfl) dX7_salt_10) rfl (fun x2 σ3 => ?_)
  exact r_ireturnN rfl dX7_salt_13
theorem c_X1_dog (G : Gx) (h0 : G0 G) (N : Nat) (a0 : Nat) (i1 : Int32) (i2 : Int32) (i3 : Int32) (σ : Mem) : Ct G mX1_dog rhoI [vR (some a0), vI i1, vI i2, vI i3] σ (f_X1_dog N a0 i1 i2 i3 σ) := by
  refine Ct_of h0 (by decide) rfl (Nat.le_of_ble_eq_true rfl) (L0 := [some (vR (some a0)), some (vI i1), some (vI i2), some (vI i3)]) rfl ?_
  unfold f_X1_dog
  refine r_aload_n (q := 1) dX1_dog_0 rfl rfl rfl ?_
  refine r_iload_n (q := 2) dX1_dog_1 rfl rfl rfl ?_
  refine r_iload_n (q := 3) dX1_dog_2 rfl rfl rfl ?_
  refine r_iload_n (q := 4) dX1_dog_3 rfl rfl rfl ?_
  refine r_iconst (q := 5) (v := (1 : Int32)) dX1_dog_4 rfl (by decide) ?_
  refine r_ob (fun a3 ha3 => ?_)
  obtain ⟨hea3, hka3⟩ := o_at_eq ha3
  cases hea3
  refine r_callI (q := 8) (c_X1_puts G h0 N _ _ _ _ _ _) (cl_V (ci := 0) rfl rfl (lw_V q1796 q1798 qs79 q167 q1799) (hd_X1_puts) ⟨Nat.le_of_ble_eq_true rfl, Nat.le_of_ble_eq_true rfl⟩ (List.mem_singleton.mp hka3) rfl rfl rfl (Nat.le_of_ble_eq_true rfl) dX1_dog_5) rfl (fun x1 σ2 => ?_)
  exact r_ireturnN rfl dX1_dog_8
theorem c_X7_dog (G : Gx) (h0 : G0 G) (N : Nat) (a0 : Nat) (i1 : Int32) (i2 : Int32) (i3 : Int32) (σ : Mem) : Ct G mX7_dog rhoI [vR (some a0), vI i1, vI i2, vI i3] σ (f_X7_dog N a0 i1 i2 i3 σ) := by
  refine Ct_of h0 (by decide) rfl (Nat.le_of_ble_eq_true rfl) (L0 := [some (vR (some a0)), some (vI i1), some (vI i2), some (vI i3)]) rfl ?_
  unfold f_X7_dog
  refine r_aload_n (q := 1) dX7_dog_0 rfl rfl rfl ?_
  refine r_iconst (q := 2) (v := (0 : Int32)) dX7_dog_1 rfl (by decide) ?_
  refine r_pI (q := 5) fp_X7_dog_66 dX7_dog_2 rfl (fun σ1 => ?_)
  refine r_aload_n (q := 6) dX7_dog_5 rfl rfl rfl ?_
  refine r_bipush (q := 8) (v := (8 : Int32)) dX7_dog_6 rfl (by decide) ?_
  refine r_iload_n (q := 9) dX7_dog_8 rfl rfl rfl ?_
  refine r_iload_n (q := 10) dX7_dog_9 rfl rfl rfl ?_
  refine r_iload_n (q := 11) dX7_dog_10 rfl rfl rfl ?_
  refine r_ob (fun a4 ha4 => ?_)
  obtain ⟨hea4, hka4⟩ := o_at_eq ha4
  cases hea4
  refine r_callI (q := 14) (c_X7_puts G h0 N _ _ _ _ _ _) (cl_V (ci := 6) rfl rfl (lw_V q2727 q2729 qs161 q176 q2730) (hd_X7_puts) ⟨Nat.le_of_ble_eq_true rfl, Nat.le_of_ble_eq_true rfl⟩ (List.mem_singleton.mp hka4) rfl rfl rfl (Nat.le_of_ble_eq_true rfl) dX7_dog_11) rfl (fun x2 σ3 => ?_)
  exact r_ireturnN rfl dX7_dog_14
theorem w_X1_hedge_b49 (G : Gx) (h0 : G0 G) (N : Nat)   (a0 : Nat) (l1 : Int32) (t0 : Option Nat) (t1 : Int32) (σ : Mem) : Runs G mX1_hedge rhoI σ 49 [some (vR (some a0)), some (vI l1), none] [vI t1, vR t0] (f_X1_hedge_b49 N  a0 l1 t0 t1 σ) := by
  unfold f_X1_hedge_b49
  refine r_ob (fun a3 ha3 => ?_)
  obtain ⟨hea3, hka3⟩ := o_at_eq ha3
  cases hea3
  refine r_callI (q := 52) (c_X1_yes G h0 N _ _ _) (cl_V (ci := 0) rfl rfl (lw_V q1806 q1808 qs80 q167 q1809) (hd_X1_yes) ⟨Nat.le_of_ble_eq_true rfl, Nat.le_of_ble_eq_true rfl⟩ (List.mem_singleton.mp hka3) rfl rfl rfl (Nat.le_of_ble_eq_true rfl) dX1_hedge_49) rfl (fun x1 σ2 => ?_)
  refine r_if_ne (q := 55) (t := 57) dX1_hedge_52 rfl (by decide) (fun _ => ?_) (fun _ => ?_)
  · refine r_iconst (q := 56) (v := (0 : Int32)) dX1_hedge_55 rfl (by decide) ?_
    exact r_ireturnN rfl dX1_hedge_56
  · refine r_aload_n (q := 58) dX1_hedge_57 rfl rfl rfl ?_
    refine r_ob (fun a6 ha6 => ?_)
    obtain ⟨hea6, hka6⟩ := o_at_eq ha6
    cases hea6
    refine r_callV (q := 61) (c_X1_note G h0 N _ _) (cl_V (ci := 0) rfl rfl (lw_V q1810 q1812 qs81 q167 q1813) (hd_X1_note) ⟨Nat.le_of_ble_eq_true rfl, Nat.le_of_ble_eq_true rfl⟩ (List.mem_singleton.mp hka6) rfl rfl rfl (Nat.le_of_ble_eq_true rfl) dX1_hedge_58) rfl (fun u4 σ5 => ?_)
    refine r_aload_n (q := 62) dX1_hedge_61 rfl rfl rfl ?_
    refine r_gR (q := 65) fl_X1_33 rfl dX1_hedge_62 rfl (fun x7 => ?_)
    refine r_dup (q := 66) dX1_hedge_65 rfl rfl ?_
    refine r_gI (q := 69) fl_X1_453 dX1_hedge_66 rfl (fun x8 => ?_)
    refine r_iconst (q := 70) (v := (1 : Int32)) dX1_hedge_69 rfl (by decide) ?_
    refine r_iload_n (q := 71) dX1_hedge_70 rfl rfl rfl ?_
    refine r_ishl (q := 72) dX1_hedge_71 rfl ?_
    refine r_ixor (q := 73) dX1_hedge_72 rfl ?_
    refine r_pI (q := 76) fp_X1_hedge_453 dX1_hedge_73 rfl (fun σ9 => ?_)
    refine r_aload_n (q := 77) dX1_hedge_76 rfl rfl rfl ?_
    refine r_ob (fun a12 ha12 => ?_)
    obtain ⟨hea12, hka12⟩ := o_at_eq ha12
    cases hea12
    refine r_callI (q := 80) (c_X1_done G h0 N _ _) (cl_V (ci := 0) rfl rfl (lw_V q1818 q1820 qs82 q167 q1821) (hd_X1_done) ⟨Nat.le_of_ble_eq_true rfl, Nat.le_of_ble_eq_true rfl⟩ (List.mem_singleton.mp hka12) rfl rfl rfl (Nat.le_of_ble_eq_true rfl) dX1_hedge_77) rfl (fun x10 σ11 => ?_)
    exact r_ireturnN rfl dX1_hedge_80
theorem w_X1_hedge_b25 (G : Gx) (h0 : G0 G) (N : Nat)   (a0 : Nat) (l1 : Int32) (t0 : Option Nat) (σ : Mem) : Runs G mX1_hedge rhoI σ 25 [some (vR (some a0)), some (vI l1), none] [vR t0] (f_X1_hedge_b25 N  a0 l1 t0 σ) := by
  unfold f_X1_hedge_b25
  refine r_iconst (q := 26) (v := (1 : Int32)) dX1_hedge_25 rfl (by decide) ?_
  refine r_goto (q := 49) dX1_hedge_26 (by decide) ?_
  exact r_le (w_X1_hedge_b49 G h0 N _ _ _ _ _) (Nat.le_refl _) (And.intro rfl (And.intro rfl trivial))
theorem c_X1_hedge (G : Gx) (h0 : G0 G) (N : Nat) (a0 : Nat) (i1 : Int32) (i2 : Int32) (σ : Mem) : Ct G mX1_hedge rhoI [vR (some a0), vI i1, vI i2] σ (f_X1_hedge N a0 i1 i2 σ) := by
  refine Ct_of h0 (by decide) rfl (Nat.le_of_ble_eq_true rfl) (L0 := [some (vR (some a0)), some (vI i1), some (vI i2)]) rfl ?_
  unfold f_X1_hedge
  refine r_aload_n (q := 1) dX1_hedge_0 rfl rfl rfl ?_
  refine r_aload_n (q := 2) dX1_hedge_1 rfl rfl rfl ?_
  refine r_gR (q := 5) fl_X1_104 rfl dX1_hedge_2 rfl (fun x1 => ?_)
  refine r_ifnull (q := 8) (t := 25) dX1_hedge_5 rfl (by decide) (fun _ => ?_) (fun _ => ?_)
  · exact r_le (w_X1_hedge_b25 G h0 N _ _ _ _) (Nat.le_refl _) (And.intro rfl (And.intro rfl trivial))
  · refine r_iload_n (q := 9) dX1_hedge_8 rfl rfl rfl ?_
    refine r_iconst (q := 10) (v := (0 : Int32)) dX1_hedge_9 rfl (by decide) ?_
    refine r_aload_n (q := 11) dX1_hedge_10 rfl rfl rfl ?_
    refine r_gR (q := 14) fl_X1_104 rfl dX1_hedge_11 rfl (fun x2 => ?_)
    refine r_gI (q := 17) fl_X1_450 dX1_hedge_14 rfl (fun x3 => ?_)
    refine r_iconst (q := 18) (v := (1 : Int32)) dX1_hedge_17 rfl (by decide) ?_
    refine r_isub (q := 19) dX1_hedge_18 rfl ?_
    refine r_callI (q := 22) (c_X1_in G h0 N _ _ _ _) (cl_S rfl rfl (lw_S q489 q490 q167 q491) (hd_X1_in) ⟨Nat.le_of_ble_eq_true rfl, Nat.le_of_ble_eq_true rfl⟩ rfl (Nat.le_of_ble_eq_true rfl) dX1_hedge_19) rfl (fun x4 σ5 => ?_)
    refine r_if_ne (q := 25) (t := 29) dX1_hedge_22 rfl (by decide) (fun _ => ?_) (fun _ => ?_)
    · exact r_le (w_X1_hedge_b25 G h0 N _ _ _ _) (Nat.le_refl _) (And.intro rfl (And.intro rfl trivial))
    · refine r_aload_n (q := 30) dX1_hedge_29 rfl rfl rfl ?_
      refine r_gR (q := 33) fl_X1_33 rfl dX1_hedge_30 rfl (fun x6 => ?_)
      refine r_gI (q := 36) fl_X1_453 dX1_hedge_33 rfl (fun x7 => ?_)
      refine r_iload_n (q := 37) dX1_hedge_36 rfl rfl rfl ?_
      refine r_callI (q := 40) (c_X1_has G h0 N _ _ _) (cl_S rfl rfl (lw_S q1364 q1117 q167 q1118) (hd_X1_has) ⟨Nat.le_of_ble_eq_true rfl, Nat.le_of_ble_eq_true rfl⟩ rfl (Nat.le_of_ble_eq_true rfl) dX1_hedge_37) rfl (fun x8 σ9 => ?_)
      refine r_iload_n (q := 41) dX1_hedge_40 rfl rfl rfl ?_
      refine r_icmp_ne (q := 44) (t := 48) dX1_hedge_41 rfl (by decide) (fun _ => ?_) (fun _ => ?_)
      · refine r_iconst (q := 45) (v := (5 : Int32)) dX1_hedge_44 rfl (by decide) ?_
        refine r_goto (q := 49) dX1_hedge_45 (by decide) ?_
        exact r_le (w_X1_hedge_b49 G h0 N _ _ _ _ _) (Nat.le_refl _) (And.intro rfl (And.intro rfl trivial))
      · refine r_iconst (q := 49) (v := (0 : Int32)) dX1_hedge_48 rfl (by decide) ?_
        exact r_le (w_X1_hedge_b49 G h0 N _ _ _ _ _) (Nat.le_refl _) (And.intro rfl (And.intro rfl trivial))
theorem w_X7_hedge_b27 (G : Gx) (h0 : G0 G) (N : Nat)   (a0 : Nat) (σ : Mem) : Runs G mX7_hedge rhoI σ 27 [some (vR (some a0)), none, none] [] (f_X7_hedge_b27 N  a0 σ) := by
  unfold f_X7_hedge_b27
  refine r_aload_n (q := 28) dX7_hedge_27 rfl rfl rfl ?_
  refine r_iconst (q := 29) (v := (1 : Int32)) dX7_hedge_28 rfl (by decide) ?_
  refine r_ob (fun a3 ha3 => ?_)
  obtain ⟨hea3, hka3⟩ := o_at_eq ha3
  cases hea3
  refine r_callI (q := 32) (c_X7_denied G h0 N _ _ _) (cl_V (ci := 6) rfl rfl (lw_V q2731 q2733 qs162 q176 q2734) (hd_X7_denied) ⟨Nat.le_of_ble_eq_true rfl, Nat.le_of_ble_eq_true rfl⟩ (List.mem_singleton.mp hka3) rfl rfl rfl (Nat.le_of_ble_eq_true rfl) dX7_hedge_29) rfl (fun x1 σ2 => ?_)
  exact r_ireturnN rfl dX7_hedge_32
theorem c_X7_hedge (G : Gx) (h0 : G0 G) (N : Nat) (a0 : Nat) (i1 : Int32) (i2 : Int32) (σ : Mem) : Ct G mX7_hedge rhoI [vR (some a0), vI i1, vI i2] σ (f_X7_hedge N a0 i1 i2 σ) := by
  refine Ct_of h0 (by decide) rfl (Nat.le_of_ble_eq_true rfl) (L0 := [some (vR (some a0)), some (vI i1), some (vI i2)]) rfl ?_
  unfold f_X7_hedge
  refine r_aload_n (q := 1) dX7_hedge_0 rfl rfl rfl ?_
  refine r_iconst (q := 2) (v := (0 : Int32)) dX7_hedge_1 rfl (by decide) ?_
  refine r_pI (q := 5) fp_X7_hedge_66 dX7_hedge_2 rfl (fun σ1 => ?_)
  refine r_aload_n (q := 6) dX7_hedge_5 rfl rfl rfl ?_
  refine r_gR (q := 9) fl_X7_442 rfl dX7_hedge_6 rfl (fun x2 => ?_)
  refine r_ifnull (q := 12) (t := 27) dX7_hedge_9 rfl (by decide) (fun _ => ?_) (fun _ => ?_)
  · exact r_le (w_X7_hedge_b27 G h0 N _ _) (Nat.le_refl _) (And.intro rfl trivial)
  · refine r_iload_n (q := 13) dX7_hedge_12 rfl rfl rfl ?_
    refine r_if_lt (q := 16) (t := 27) dX7_hedge_13 rfl (by decide) (fun _ => ?_) (fun _ => ?_)
    · exact r_le (w_X7_hedge_b27 G h0 N _ _) (Nat.le_refl _) (And.intro rfl trivial)
    · refine r_iload_n (q := 17) dX7_hedge_16 rfl rfl rfl ?_
      refine r_aload_n (q := 18) dX7_hedge_17 rfl rfl rfl ?_
      refine r_gR (q := 21) fl_X7_442 rfl dX7_hedge_18 rfl (fun x3 => ?_)
      refine r_gI (q := 24) fl_X7_306 dX7_hedge_21 rfl (fun x4 => ?_)
      refine r_icmp_lt (q := 27) (t := 33) dX7_hedge_24 rfl (by decide) (fun _ => ?_) (fun _ => ?_)
      · refine r_aload_n (q := 34) dX7_hedge_33 rfl rfl rfl ?_
        refine r_gR (q := 37) fl_X7_21 rfl dX7_hedge_34 rfl (fun x5 => ?_)
        refine r_bipush (q := 39) (v := (16 : Int32)) dX7_hedge_37 rfl (by decide) ?_
        refine r_iaload (q := 40) dX7_hedge_39 rfl (fun x6 => ?_)
        refine r_iload_n (q := 41) dX7_hedge_40 rfl rfl rfl ?_
        refine r_callI (q := 44) (c_X7_bit G h0 N _ _ _) (cl_S rfl rfl (lw_S q2331 q2332 q176 q2333) (hd_X7_bit) ⟨Nat.le_of_ble_eq_true rfl, Nat.le_of_ble_eq_true rfl⟩ rfl (Nat.le_of_ble_eq_true rfl) dX7_hedge_41) rfl (fun x7 σ8 => ?_)
        refine r_iload_n (q := 45) dX7_hedge_44 rfl rfl rfl ?_
        refine r_icmp_ne (q := 48) (t := 54) dX7_hedge_45 rfl (by decide) (fun _ => ?_) (fun _ => ?_)
        · refine r_aload_n (q := 49) dX7_hedge_48 rfl rfl rfl ?_
          refine r_iconst (q := 50) (v := (5 : Int32)) dX7_hedge_49 rfl (by decide) ?_
          refine r_ob (fun a20 ha20 => ?_)
          obtain ⟨hea20, hka20⟩ := o_at_eq ha20
          cases hea20
          refine r_callI (q := 53) (c_X7_denied G h0 N _ _ _) (cl_V (ci := 6) rfl rfl (lw_V q2731 q2733 qs162 q176 q2734) (hd_X7_denied) ⟨Nat.le_of_ble_eq_true rfl, Nat.le_of_ble_eq_true rfl⟩ (List.mem_singleton.mp hka20) rfl rfl rfl (Nat.le_of_ble_eq_true rfl) dX7_hedge_50) rfl (fun x18 σ19 => ?_)
          exact r_ireturnN rfl dX7_hedge_53
        · refine r_aload_n (q := 55) dX7_hedge_54 rfl rfl rfl ?_
          refine r_ob (fun a11 ha11 => ?_)
          obtain ⟨hea11, hka11⟩ := o_at_eq ha11
          cases hea11
          refine r_callV (q := 58) (c_X7_keeps G h0 N _ _) (cl_V (ci := 6) rfl rfl (lw_V q2739 q2741 qs164 q176 q2742) (hd_X7_keeps) ⟨Nat.le_of_ble_eq_true rfl, Nat.le_of_ble_eq_true rfl⟩ (List.mem_singleton.mp hka11) rfl rfl rfl (Nat.le_of_ble_eq_true rfl) dX7_hedge_55) rfl (fun u9 σ10 => ?_)
          refine r_aload_n (q := 59) dX7_hedge_58 rfl rfl rfl ?_
          refine r_gR (q := 62) fl_X7_21 rfl dX7_hedge_59 rfl (fun x12 => ?_)
          refine r_bipush (q := 64) (v := (16 : Int32)) dX7_hedge_62 rfl (by decide) ?_
          refine r_dup2 (q := 65) dX7_hedge_64 rfl rfl rfl ?_
          refine r_iaload (q := 66) dX7_hedge_65 rfl (fun x13 => ?_)
          refine r_iconst (q := 67) (v := (1 : Int32)) dX7_hedge_66 rfl (by decide) ?_
          refine r_iload_n (q := 68) dX7_hedge_67 rfl rfl rfl ?_
          refine r_ishl (q := 69) dX7_hedge_68 rfl ?_
          refine r_ixor (q := 70) dX7_hedge_69 rfl ?_
          refine r_iastore (q := 71) dX7_hedge_70 rfl (fun σ14 => ?_)
          refine r_aload_n (q := 72) dX7_hedge_71 rfl rfl rfl ?_
          refine r_ob (fun a17 ha17 => ?_)
          obtain ⟨hea17, hka17⟩ := o_at_eq ha17
          cases hea17
          refine r_callI (q := 75) (c_X7_granted G h0 N _ _) (cl_V (ci := 6) rfl rfl (lw_V q2743 q2745 qs165 q176 q2746) (hd_X7_granted) ⟨Nat.le_of_ble_eq_true rfl, Nat.le_of_ble_eq_true rfl⟩ (List.mem_singleton.mp hka17) rfl rfl rfl (Nat.le_of_ble_eq_true rfl) dX7_hedge_72) rfl (fun x15 σ16 => ?_)
          exact r_ireturnN rfl dX7_hedge_75
      · exact r_le (w_X7_hedge_b27 G h0 N _ _) (Nat.le_refl _) (And.intro rfl trivial)
theorem w_X1_hear_b33 (G : Gx) (h0 : G0 G) (N : Nat)   (a0 : Nat) (l1 : Int32) (t0 : Option Nat) (t1 : Int32) (σ : Mem) : Runs G mX1_hear rhoI σ 33 [some (vR (some a0)), some (vI l1), none] [vI t1, vR t0] (f_X1_hear_b33 N  a0 l1 t0 t1 σ) := by
  unfold f_X1_hear_b33
  refine r_ob (fun a3 ha3 => ?_)
  obtain ⟨hea3, hka3⟩ := o_at_eq ha3
  cases hea3
  refine r_callI (q := 36) (c_X1_yes G h0 N _ _ _) (cl_V (ci := 0) rfl rfl (lw_V q1806 q1808 qs80 q167 q1809) (hd_X1_yes) ⟨Nat.le_of_ble_eq_true rfl, Nat.le_of_ble_eq_true rfl⟩ (List.mem_singleton.mp hka3) rfl rfl rfl (Nat.le_of_ble_eq_true rfl) dX1_hear_33) rfl (fun x1 σ2 => ?_)
  refine r_if_ne (q := 39) (t := 41) dX1_hear_36 rfl (by decide) (fun _ => ?_) (fun _ => ?_)
  · refine r_iconst (q := 40) (v := (0 : Int32)) dX1_hear_39 rfl (by decide) ?_
    exact r_ireturnN rfl dX1_hear_40
  · refine r_aload_n (q := 42) dX1_hear_41 rfl rfl rfl ?_
    refine r_ob (fun a6 ha6 => ?_)
    obtain ⟨hea6, hka6⟩ := o_at_eq ha6
    cases hea6
    refine r_callV (q := 45) (c_X1_note G h0 N _ _) (cl_V (ci := 0) rfl rfl (lw_V q1810 q1812 qs81 q167 q1813) (hd_X1_note) ⟨Nat.le_of_ble_eq_true rfl, Nat.le_of_ble_eq_true rfl⟩ (List.mem_singleton.mp hka6) rfl rfl rfl (Nat.le_of_ble_eq_true rfl) dX1_hear_42) rfl (fun u4 σ5 => ?_)
    refine r_aload_n (q := 46) dX1_hear_45 rfl rfl rfl ?_
    refine r_gR (q := 49) fl_X1_33 rfl dX1_hear_46 rfl (fun x7 => ?_)
    refine r_dup (q := 50) dX1_hear_49 rfl rfl ?_
    refine r_gI (q := 53) fl_X1_200 dX1_hear_50 rfl (fun x8 => ?_)
    refine r_iconst (q := 54) (v := (1 : Int32)) dX1_hear_53 rfl (by decide) ?_
    refine r_iload_n (q := 55) dX1_hear_54 rfl rfl rfl ?_
    refine r_ishl (q := 56) dX1_hear_55 rfl ?_
    refine r_ixor (q := 57) dX1_hear_56 rfl ?_
    refine r_pI (q := 60) fp_X1_hear_200 dX1_hear_57 rfl (fun σ9 => ?_)
    refine r_aload_n (q := 61) dX1_hear_60 rfl rfl rfl ?_
    refine r_ob (fun a12 ha12 => ?_)
    obtain ⟨hea12, hka12⟩ := o_at_eq ha12
    cases hea12
    refine r_callI (q := 64) (c_X1_done G h0 N _ _) (cl_V (ci := 0) rfl rfl (lw_V q1818 q1820 qs82 q167 q1821) (hd_X1_done) ⟨Nat.le_of_ble_eq_true rfl, Nat.le_of_ble_eq_true rfl⟩ (List.mem_singleton.mp hka12) rfl rfl rfl (Nat.le_of_ble_eq_true rfl) dX1_hear_61) rfl (fun x10 σ11 => ?_)
    exact r_ireturnN rfl dX1_hear_64
theorem c_X1_hear (G : Gx) (h0 : G0 G) (N : Nat) (a0 : Nat) (i1 : Int32) (i2 : Int32) (σ : Mem) : Ct G mX1_hear rhoI [vR (some a0), vI i1, vI i2] σ (f_X1_hear N a0 i1 i2 σ) := by
  refine Ct_of h0 (by decide) rfl (Nat.le_of_ble_eq_true rfl) (L0 := [some (vR (some a0)), some (vI i1), some (vI i2)]) rfl ?_
  unfold f_X1_hear
  refine r_aload_n (q := 1) dX1_hear_0 rfl rfl rfl ?_
  refine r_aload_n (q := 2) dX1_hear_1 rfl rfl rfl ?_
  refine r_iload_n (q := 3) dX1_hear_2 rfl rfl rfl ?_
  refine r_ob (fun a3 ha3 => ?_)
  obtain ⟨hea3, hka3⟩ := o_at_eq ha3
  cases hea3
  refine r_callI (q := 6) (c_X1_isGoat G h0 N _ _ _) (cl_V (ci := 0) rfl rfl (lw_V q1331 q1333 qs45 q167 q1334) (hd_X1_isGoat) ⟨Nat.le_of_ble_eq_true rfl, Nat.le_of_ble_eq_true rfl⟩ (List.mem_singleton.mp hka3) rfl rfl rfl (Nat.le_of_ble_eq_true rfl) dX1_hear_3) rfl (fun x1 σ2 => ?_)
  refine r_if_ne (q := 9) (t := 13) dX1_hear_6 rfl (by decide) (fun _ => ?_) (fun _ => ?_)
  · refine r_iconst (q := 10) (v := (1 : Int32)) dX1_hear_9 rfl (by decide) ?_
    refine r_goto (q := 33) dX1_hear_10 (by decide) ?_
    exact r_le (w_X1_hear_b33 G h0 N _ _ _ _ _) (Nat.le_refl _) (And.intro rfl (And.intro rfl trivial))
  · refine r_aload_n (q := 14) dX1_hear_13 rfl rfl rfl ?_
    refine r_gR (q := 17) fl_X1_33 rfl dX1_hear_14 rfl (fun x4 => ?_)
    refine r_gI (q := 20) fl_X1_200 dX1_hear_17 rfl (fun x5 => ?_)
    refine r_iload_n (q := 21) dX1_hear_20 rfl rfl rfl ?_
    refine r_callI (q := 24) (c_X1_has G h0 N _ _ _) (cl_S rfl rfl (lw_S q1364 q1117 q167 q1118) (hd_X1_has) ⟨Nat.le_of_ble_eq_true rfl, Nat.le_of_ble_eq_true rfl⟩ rfl (Nat.le_of_ble_eq_true rfl) dX1_hear_21) rfl (fun x6 σ7 => ?_)
    refine r_iload_n (q := 25) dX1_hear_24 rfl rfl rfl ?_
    refine r_icmp_ne (q := 28) (t := 32) dX1_hear_25 rfl (by decide) (fun _ => ?_) (fun _ => ?_)
    · refine r_iconst (q := 29) (v := (5 : Int32)) dX1_hear_28 rfl (by decide) ?_
      refine r_goto (q := 33) dX1_hear_29 (by decide) ?_
      exact r_le (w_X1_hear_b33 G h0 N _ _ _ _ _) (Nat.le_refl _) (And.intro rfl (And.intro rfl trivial))
    · refine r_iconst (q := 33) (v := (0 : Int32)) dX1_hear_32 rfl (by decide) ?_
      exact r_le (w_X1_hear_b33 G h0 N _ _ _ _ _) (Nat.le_refl _) (And.intro rfl (And.intro rfl trivial))
theorem c_X7_hear (G : Gx) (h0 : G0 G) (N : Nat) (a0 : Nat) (i1 : Int32) (i2 : Int32) (σ : Mem) : Ct G mX7_hear rhoI [vR (some a0), vI i1, vI i2] σ (f_X7_hear N a0 i1 i2 σ) := by
  refine Ct_of h0 (by decide) rfl (Nat.le_of_ble_eq_true rfl) (L0 := [some (vR (some a0)), some (vI i1), some (vI i2)]) rfl ?_
  unfold f_X7_hear
  refine r_aload_n (q := 1) dX7_hear_0 rfl rfl rfl ?_
  refine r_iconst (q := 2) (v := (0 : Int32)) dX7_hear_1 rfl (by decide) ?_
  refine r_pI (q := 5) fp_X7_hear_66 dX7_hear_2 rfl (fun σ1 => ?_)
  refine r_aload_n (q := 6) dX7_hear_5 rfl rfl rfl ?_
  refine r_iload_n (q := 7) dX7_hear_6 rfl rfl rfl ?_
  refine r_ob (fun a4 ha4 => ?_)
  obtain ⟨hea4, hka4⟩ := o_at_eq ha4
  cases hea4
  refine r_callI (q := 10) (c_X7_isGoat G h0 N _ _ _) (cl_V (ci := 6) rfl rfl (lw_V q2411 q2413 qs121 q176 q2414) (hd_X7_isGoat) ⟨Nat.le_of_ble_eq_true rfl, Nat.le_of_ble_eq_true rfl⟩ (List.mem_singleton.mp hka4) rfl rfl rfl (Nat.le_of_ble_eq_true rfl) dX7_hear_7) rfl (fun x2 σ3 => ?_)
  refine r_if_ne (q := 13) (t := 19) dX7_hear_10 rfl (by decide) (fun _ => ?_) (fun _ => ?_)
  · refine r_aload_n (q := 14) dX7_hear_13 rfl rfl rfl ?_
    refine r_iconst (q := 15) (v := (1 : Int32)) dX7_hear_14 rfl (by decide) ?_
    refine r_ob (fun a22 ha22 => ?_)
    obtain ⟨hea22, hka22⟩ := o_at_eq ha22
    cases hea22
    refine r_callI (q := 18) (c_X7_denied G h0 N _ _ _) (cl_V (ci := 6) rfl rfl (lw_V q2731 q2733 qs162 q176 q2734) (hd_X7_denied) ⟨Nat.le_of_ble_eq_true rfl, Nat.le_of_ble_eq_true rfl⟩ (List.mem_singleton.mp hka22) rfl rfl rfl (Nat.le_of_ble_eq_true rfl) dX7_hear_15) rfl (fun x20 σ21 => ?_)
    exact r_ireturnN rfl dX7_hear_18
  · refine r_aload_n (q := 20) dX7_hear_19 rfl rfl rfl ?_
    refine r_iload_n (q := 21) dX7_hear_20 rfl rfl rfl ?_
    refine r_ob (fun a7 ha7 => ?_)
    obtain ⟨hea7, hka7⟩ := o_at_eq ha7
    cases hea7
    refine r_callI (q := 24) (c_X7_isHeard G h0 N _ _ _) (cl_V (ci := 6) rfl rfl (lw_V q2415 q2417 qs122 q176 q2418) (hd_X7_isHeard) ⟨Nat.le_of_ble_eq_true rfl, Nat.le_of_ble_eq_true rfl⟩ (List.mem_singleton.mp hka7) rfl rfl rfl (Nat.le_of_ble_eq_true rfl) dX7_hear_21) rfl (fun x5 σ6 => ?_)
    refine r_iload_n (q := 25) dX7_hear_24 rfl rfl rfl ?_
    refine r_icmp_ne (q := 28) (t := 34) dX7_hear_25 rfl (by decide) (fun _ => ?_) (fun _ => ?_)
    · refine r_aload_n (q := 29) dX7_hear_28 rfl rfl rfl ?_
      refine r_iconst (q := 30) (v := (5 : Int32)) dX7_hear_29 rfl (by decide) ?_
      refine r_ob (fun a19 ha19 => ?_)
      obtain ⟨hea19, hka19⟩ := o_at_eq ha19
      cases hea19
      refine r_callI (q := 33) (c_X7_denied G h0 N _ _ _) (cl_V (ci := 6) rfl rfl (lw_V q2731 q2733 qs162 q176 q2734) (hd_X7_denied) ⟨Nat.le_of_ble_eq_true rfl, Nat.le_of_ble_eq_true rfl⟩ (List.mem_singleton.mp hka19) rfl rfl rfl (Nat.le_of_ble_eq_true rfl) dX7_hear_30) rfl (fun x17 σ18 => ?_)
      exact r_ireturnN rfl dX7_hear_33
    · refine r_aload_n (q := 35) dX7_hear_34 rfl rfl rfl ?_
      refine r_ob (fun a10 ha10 => ?_)
      obtain ⟨hea10, hka10⟩ := o_at_eq ha10
      cases hea10
      refine r_callV (q := 38) (c_X7_keeps G h0 N _ _) (cl_V (ci := 6) rfl rfl (lw_V q2739 q2741 qs164 q176 q2742) (hd_X7_keeps) ⟨Nat.le_of_ble_eq_true rfl, Nat.le_of_ble_eq_true rfl⟩ (List.mem_singleton.mp hka10) rfl rfl rfl (Nat.le_of_ble_eq_true rfl) dX7_hear_35) rfl (fun u8 σ9 => ?_)
      refine r_aload_n (q := 39) dX7_hear_38 rfl rfl rfl ?_
      refine r_gR (q := 42) fl_X7_21 rfl dX7_hear_39 rfl (fun x11 => ?_)
      refine r_bipush (q := 44) (v := (17 : Int32)) dX7_hear_42 rfl (by decide) ?_
      refine r_dup2 (q := 45) dX7_hear_44 rfl rfl rfl ?_
      refine r_iaload (q := 46) dX7_hear_45 rfl (fun x12 => ?_)
      refine r_iconst (q := 47) (v := (1 : Int32)) dX7_hear_46 rfl (by decide) ?_
      refine r_iload_n (q := 48) dX7_hear_47 rfl rfl rfl ?_
      refine r_ishl (q := 49) dX7_hear_48 rfl ?_
      refine r_ixor (q := 50) dX7_hear_49 rfl ?_
      refine r_iastore (q := 51) dX7_hear_50 rfl (fun σ13 => ?_)
      refine r_aload_n (q := 52) dX7_hear_51 rfl rfl rfl ?_
      refine r_ob (fun a16 ha16 => ?_)
      obtain ⟨hea16, hka16⟩ := o_at_eq ha16
      cases hea16
      refine r_callI (q := 55) (c_X7_granted G h0 N _ _) (cl_V (ci := 6) rfl rfl (lw_V q2743 q2745 qs165 q176 q2746) (hd_X7_granted) ⟨Nat.le_of_ble_eq_true rfl, Nat.le_of_ble_eq_true rfl⟩ (List.mem_singleton.mp hka16) rfl rfl rfl (Nat.le_of_ble_eq_true rfl) dX7_hear_52) rfl (fun x14 σ15 => ?_)
      exact r_ireturnN rfl dX7_hear_55
theorem w_X1_undo_b14 (G : Gx) (h0 : G0 G) (N : Nat)   (a0 : Nat) (t0 : Option Nat) (t1 : Int32) (σ : Mem) : Runs G mX1_undo rhoI σ 14 [some (vR (some a0))] [vI t1, vR t0] (f_X1_undo_b14 N  a0 t0 t1 σ) := by
  unfold f_X1_undo_b14
  refine r_ob (fun a3 ha3 => ?_)
  obtain ⟨hea3, hka3⟩ := o_at_eq ha3
  cases hea3
  refine r_callI (q := 17) (c_X1_yes G h0 N _ _ _) (cl_V (ci := 0) rfl rfl (lw_V q1806 q1808 qs80 q167 q1809) (hd_X1_yes) ⟨Nat.le_of_ble_eq_true rfl, Nat.le_of_ble_eq_true rfl⟩ (List.mem_singleton.mp hka3) rfl rfl rfl (Nat.le_of_ble_eq_true rfl) dX1_undo_14) rfl (fun x1 σ2 => ?_)
  refine r_if_ne (q := 20) (t := 22) dX1_undo_17 rfl (by decide) (fun _ => ?_) (fun _ => ?_)
  · refine r_iconst (q := 21) (v := (0 : Int32)) dX1_undo_20 rfl (by decide) ?_
    exact r_ireturnN rfl dX1_undo_21
  · refine r_aload_n (q := 23) dX1_undo_22 rfl rfl rfl ?_
    refine r_dup (q := 24) dX1_undo_23 rfl rfl ?_
    refine r_gI (q := 27) fl_X1_118 dX1_undo_24 rfl (fun x4 => ?_)
    refine r_iconst (q := 28) (v := (1 : Int32)) dX1_undo_27 rfl (by decide) ?_
    refine r_isub (q := 29) dX1_undo_28 rfl ?_
    refine r_pI (q := 32) fp_X1_undo_118 dX1_undo_29 rfl (fun σ5 => ?_)
    refine r_aload_n (q := 33) dX1_undo_32 rfl rfl rfl ?_
    refine r_gR (q := 36) fl_X1_33 rfl dX1_undo_33 rfl (fun x6 => ?_)
    refine r_aload_n (q := 37) dX1_undo_36 rfl rfl rfl ?_
    refine r_gR (q := 40) fl_X1_57 rfl dX1_undo_37 rfl (fun x7 => ?_)
    refine r_aload_n (q := 41) dX1_undo_40 rfl rfl rfl ?_
    refine r_gI (q := 44) fl_X1_118 dX1_undo_41 rfl (fun x8 => ?_)
    refine r_aaload (q := 45) (k0 := 5) (by decide) dX1_undo_44 rfl (fun x9 => ?_)
    refine r_ob (fun a12 ha12 => ?_)
    obtain ⟨hea12, hka12⟩ := o_at_eq ha12
    cases hea12
    refine r_callV (q := 48) (c_X4_become G h0 N _ _ _) (cl_V (ci := 3) rfl rfl (lw_V q1677 q1678 q1679 q173 q1680) (hd_X4_become) ⟨Nat.le_of_ble_eq_true rfl, Nat.le_of_ble_eq_true rfl⟩ (List.mem_singleton.mp hka12) rfl rfl rfl (Nat.le_of_ble_eq_true rfl) dX1_undo_45) rfl (fun u10 σ11 => ?_)
    refine r_iconst (q := 49) (v := (1 : Int32)) dX1_undo_48 rfl (by decide) ?_
    exact r_ireturnN rfl dX1_undo_49
theorem c_X1_undo (G : Gx) (h0 : G0 G) (N : Nat) (a0 : Nat) (σ : Mem) : Ct G mX1_undo rhoI [vR (some a0)] σ (f_X1_undo N a0 σ) := by
  refine Ct_of h0 (by decide) rfl (Nat.le_of_ble_eq_true rfl) (L0 := [some (vR (some a0))]) rfl ?_
  unfold f_X1_undo
  refine r_aload_n (q := 1) dX1_undo_0 rfl rfl rfl ?_
  refine r_aload_n (q := 2) dX1_undo_1 rfl rfl rfl ?_
  refine r_gI (q := 5) fl_X1_118 dX1_undo_2 rfl (fun x1 => ?_)
  refine r_if_ne (q := 8) (t := 13) dX1_undo_5 rfl (by decide) (fun _ => ?_) (fun _ => ?_)
  · refine r_bipush (q := 10) (v := (6 : Int32)) dX1_undo_8 rfl (by decide) ?_
    refine r_goto (q := 14) dX1_undo_10 (by decide) ?_
    exact r_le (w_X1_undo_b14 G h0 N _ _ _ _) (Nat.le_refl _) (And.intro rfl trivial)
  · refine r_iconst (q := 14) (v := (0 : Int32)) dX1_undo_13 rfl (by decide) ?_
    exact r_le (w_X1_undo_b14 G h0 N _ _ _ _) (Nat.le_refl _) (And.intro rfl trivial)
theorem w_X7_undo_b19 (G : Gx) (h0 : G0 G) (N : Nat)   (a0 : Nat) (σ : Mem) : Runs G mX7_undo rhoI σ 19 [some (vR (some a0)), none] [] (f_X7_undo_b19 N  a0 σ) := by
  unfold f_X7_undo_b19
  refine r_aload_n (q := 20) dX7_undo_19 rfl rfl rfl ?_
  refine r_bipush (q := 22) (v := (6 : Int32)) dX7_undo_20 rfl (by decide) ?_
  refine r_ob (fun a3 ha3 => ?_)
  obtain ⟨hea3, hka3⟩ := o_at_eq ha3
  cases hea3
  refine r_callI (q := 25) (c_X7_denied G h0 N _ _ _) (cl_V (ci := 6) rfl rfl (lw_V q2731 q2733 qs162 q176 q2734) (hd_X7_denied) ⟨Nat.le_of_ble_eq_true rfl, Nat.le_of_ble_eq_true rfl⟩ (List.mem_singleton.mp hka3) rfl rfl rfl (Nat.le_of_ble_eq_true rfl) dX7_undo_22) rfl (fun x1 σ2 => ?_)
  exact r_ireturnN rfl dX7_undo_25
theorem w_X7_undo_b38B (G : Gx) (h0 : G0 G) (N : Nat)   (K38 : Nat → Int32 → Mem → Option (Int32 × Mem)) (hK38 : ∀ (a0 : Nat) (l1 : Int32) (σ : Mem), Runs G mX7_undo rhoI σ 38 [some (vR (some a0)), some (vI l1)] [] (K38 a0 l1 σ)) (a0 : Nat) (l1 : Int32) (σ : Mem) : Runs G mX7_undo rhoI σ 38 [some (vR (some a0)), some (vI l1)] [] (f_X7_undo_b38B N  K38 a0 l1 σ) := by
  unfold f_X7_undo_b38B
  refine r_iload_n (q := 39) dX7_undo_38 rfl rfl rfl ?_
  refine r_bipush (q := 41) (v := (18 : Int32)) dX7_undo_39 rfl (by decide) ?_
  refine r_icmp_ge (q := 44) (t := 70) dX7_undo_41 rfl (by decide) (fun _ => ?_) (fun _ => ?_)
  · refine r_aload_n (q := 71) dX7_undo_70 rfl rfl rfl ?_
    refine r_ob (fun a3 ha3 => ?_)
    obtain ⟨hea3, hka3⟩ := o_at_eq ha3
    cases hea3
    refine r_callI (q := 74) (c_X7_granted G h0 N _ _) (cl_V (ci := 6) rfl rfl (lw_V q2743 q2745 qs165 q176 q2746) (hd_X7_granted) ⟨Nat.le_of_ble_eq_true rfl, Nat.le_of_ble_eq_true rfl⟩ (List.mem_singleton.mp hka3) rfl rfl rfl (Nat.le_of_ble_eq_true rfl) dX7_undo_71) rfl (fun x1 σ2 => ?_)
    exact r_ireturnN rfl dX7_undo_74
  · refine r_aload_n (q := 45) dX7_undo_44 rfl rfl rfl ?_
    refine r_gR (q := 48) fl_X7_21 rfl dX7_undo_45 rfl (fun x4 => ?_)
    refine r_iload_n (q := 49) dX7_undo_48 rfl rfl rfl ?_
    refine r_aload_n (q := 50) dX7_undo_49 rfl rfl rfl ?_
    refine r_gR (q := 53) fl_X7_24 rfl dX7_undo_50 rfl (fun x5 => ?_)
    refine r_bipush (q := 55) (v := (18 : Int32)) dX7_undo_53 rfl (by decide) ?_
    refine r_aload_n (q := 56) dX7_undo_55 rfl rfl rfl ?_
    refine r_gI (q := 59) fl_X7_444 dX7_undo_56 rfl (fun x6 => ?_)
    refine r_imul (q := 60) dX7_undo_59 rfl ?_
    refine r_iload_n (q := 61) dX7_undo_60 rfl rfl rfl ?_
    refine r_iadd (q := 62) dX7_undo_61 rfl ?_
    refine r_iaload (q := 63) dX7_undo_62 rfl (fun x7 => ?_)
    refine r_iastore (q := 64) dX7_undo_63 rfl (fun σ8 => ?_)
    refine r_iinc (q := 67) (v := (1 : Int32)) dX7_undo_64 rfl rfl (by decide) (Nat.le_of_ble_eq_true rfl) rfl ?_
    refine r_goto (q := 38) dX7_undo_67 (by decide) ?_
    exact r_le (hK38 _ _ _) (Nat.le_refl _) (And.intro rfl (And.intro rfl trivial))
theorem w_X7_undo_b38 (G : Gx) (h0 : G0 G) (N : Nat)   : ∀ (z : Nat) (a0 : Nat) (l1 : Int32) (σ : Mem), Runs G mX7_undo rhoI σ 38 [some (vR (some a0)), some (vI l1)] [] (f_X7_undo_b38 N  z a0 l1 σ) := by
  intro z
  induction z with
  | zero => exact fun _ _ _ => r_none
  | succ z ih => exact fun a0 l1 σ => w_X7_undo_b38B G h0 N   _ ih a0 l1 σ
theorem c_X7_undo (G : Gx) (h0 : G0 G) (N : Nat) (a0 : Nat) (σ : Mem) : Ct G mX7_undo rhoI [vR (some a0)] σ (f_X7_undo N a0 σ) := by
  refine Ct_of h0 (by decide) rfl (Nat.le_of_ble_eq_true rfl) (L0 := [some (vR (some a0)), none]) rfl ?_
  unfold f_X7_undo
  refine r_aload_n (q := 1) dX7_undo_0 rfl rfl rfl ?_
  refine r_iconst (q := 2) (v := (0 : Int32)) dX7_undo_1 rfl (by decide) ?_
  refine r_pI (q := 5) fp_X7_undo_66 dX7_undo_2 rfl (fun σ1 => ?_)
  refine r_aload_n (q := 6) dX7_undo_5 rfl rfl rfl ?_
  refine r_gR (q := 9) fl_X7_442 rfl dX7_undo_6 rfl (fun x2 => ?_)
  refine r_ifnull (q := 12) (t := 19) dX7_undo_9 rfl (by decide) (fun _ => ?_) (fun _ => ?_)
  · exact r_le (w_X7_undo_b19 G h0 N _ _) (Nat.le_refl _) (And.intro rfl trivial)
  · refine r_aload_n (q := 13) dX7_undo_12 rfl rfl rfl ?_
    refine r_gI (q := 16) fl_X7_444 dX7_undo_13 rfl (fun x3 => ?_)
    refine r_if_ne (q := 19) (t := 26) dX7_undo_16 rfl (by decide) (fun _ => ?_) (fun _ => ?_)
    · exact r_le (w_X7_undo_b19 G h0 N _ _) (Nat.le_refl _) (And.intro rfl trivial)
    · refine r_aload_n (q := 27) dX7_undo_26 rfl rfl rfl ?_
      refine r_dup (q := 28) dX7_undo_27 rfl rfl ?_
      refine r_gI (q := 31) fl_X7_444 dX7_undo_28 rfl (fun x4 => ?_)
      refine r_iconst (q := 32) (v := (1 : Int32)) dX7_undo_31 rfl (by decide) ?_
      refine r_isub (q := 33) dX7_undo_32 rfl ?_
      refine r_pI (q := 36) fp_X7_undo_444 dX7_undo_33 rfl (fun σ5 => ?_)
      refine r_iconst (q := 37) (v := (0 : Int32)) dX7_undo_36 rfl (by decide) ?_
      refine r_istore_n (q := 38) dX7_undo_37 rfl rfl (Nat.le_of_ble_eq_true rfl) rfl ?_
      exact r_le (w_X7_undo_b38 G h0 N N _ _ _) (Nat.le_refl _) (And.intro rfl (And.intro rfl trivial))
theorem c_X1_mark (G : Gx) (h0 : G0 G) (N : Nat) (a0 : Nat) (σ : Mem) : Ct G mX1_mark rhoI [vR (some a0)] σ (f_X1_mark N a0 σ) := by
  refine Ct_of h0 (by decide) rfl (Nat.le_of_ble_eq_true rfl) (L0 := [some (vR (some a0))]) rfl ?_
  unfold f_X1_mark
  refine r_aload_n (q := 1) dX1_mark_0 rfl rfl rfl ?_
  refine r_ob (fun a3 ha3 => ?_)
  obtain ⟨hea3, hka3⟩ := o_at_eq ha3
  cases hea3
  refine r_callV (q := 4) (c_X1_anew G h0 N _ _) (cl_V (ci := 0) rfl rfl (lw_V q485 q487 qs2 q167 q488) (hd_X1_anew) ⟨Nat.le_of_ble_eq_true rfl, Nat.le_of_ble_eq_true rfl⟩ (List.mem_singleton.mp hka3) rfl rfl rfl (Nat.le_of_ble_eq_true rfl) dX1_mark_1) rfl (fun u1 σ2 => ?_)
  refine r_aload_n (q := 5) dX1_mark_4 rfl rfl rfl ?_
  refine r_gR (q := 8) fl_X1_104 rfl dX1_mark_5 rfl (fun x4 => ?_)
  refine r_ifnonnull (q := 11) (t := 17) dX1_mark_8 rfl (by decide) (fun _ => ?_) (fun _ => ?_)
  · refine r_aload_n (q := 12) dX1_mark_11 rfl rfl rfl ?_
    refine r_iconst (q := 13) (v := (1 : Int32)) dX1_mark_12 rfl (by decide) ?_
    refine r_ob (fun a21 ha21 => ?_)
    obtain ⟨hea21, hka21⟩ := o_at_eq ha21
    cases hea21
    refine r_callI (q := 16) (c_X1_no G h0 N _ _ _) (cl_V (ci := 0) rfl rfl (lw_V q492 q494 qs3 q167 q495) (hd_X1_no) ⟨Nat.le_of_ble_eq_true rfl, Nat.le_of_ble_eq_true rfl⟩ (List.mem_singleton.mp hka21) rfl rfl rfl (Nat.le_of_ble_eq_true rfl) dX1_mark_13) rfl (fun x19 σ20 => ?_)
    exact r_ireturn rfl rfl dX1_mark_16
  · refine r_aload_n (q := 18) dX1_mark_17 rfl rfl rfl ?_
    refine r_gI (q := 21) fl_X1_121 dX1_mark_18 rfl (fun x5 => ?_)
    refine r_iconst (q := 22) (v := (3 : Int32)) dX1_mark_21 rfl (by decide) ?_
    refine r_icmp_ne (q := 25) (t := 31) dX1_mark_22 rfl (by decide) (fun _ => ?_) (fun _ => ?_)
    · refine r_aload_n (q := 26) dX1_mark_25 rfl rfl rfl ?_
      refine r_iconst (q := 27) (v := (3 : Int32)) dX1_mark_26 rfl (by decide) ?_
      refine r_ob (fun a18 ha18 => ?_)
      obtain ⟨hea18, hka18⟩ := o_at_eq ha18
      cases hea18
      refine r_callI (q := 30) (c_X1_no G h0 N _ _ _) (cl_V (ci := 0) rfl rfl (lw_V q492 q494 qs3 q167 q495) (hd_X1_no) ⟨Nat.le_of_ble_eq_true rfl, Nat.le_of_ble_eq_true rfl⟩ (List.mem_singleton.mp hka18) rfl rfl rfl (Nat.le_of_ble_eq_true rfl) dX1_mark_27) rfl (fun x16 σ17 => ?_)
      exact r_ireturn rfl rfl dX1_mark_30
    · refine r_aload_n (q := 32) dX1_mark_31 rfl rfl rfl ?_
      refine r_gR (q := 35) fl_X1_61 rfl dX1_mark_32 rfl (fun x6 => ?_)
      refine r_aload_n (q := 36) dX1_mark_35 rfl rfl rfl ?_
      refine r_gI (q := 39) fl_X1_121 dX1_mark_36 rfl (fun x7 => ?_)
      refine r_aaload (q := 40) (k0 := 5) (by decide) dX1_mark_39 rfl (fun x8 => ?_)
      refine r_aload_n (q := 41) dX1_mark_40 rfl rfl rfl ?_
      refine r_gR (q := 44) fl_X1_33 rfl dX1_mark_41 rfl (fun x9 => ?_)
      refine r_ob (fun a12 ha12 => ?_)
      obtain ⟨hea12, hka12⟩ := o_at_eq ha12
      cases hea12
      refine r_callV (q := 47) (c_X4_become G h0 N _ _ _) (cl_V (ci := 3) rfl rfl (lw_V q1677 q1678 q1679 q173 q1680) (hd_X4_become) ⟨Nat.le_of_ble_eq_true rfl, Nat.le_of_ble_eq_true rfl⟩ (List.mem_singleton.mp hka12) rfl rfl rfl (Nat.le_of_ble_eq_true rfl) dX1_mark_44) rfl (fun u10 σ11 => ?_)
      refine r_aload_n (q := 48) dX1_mark_47 rfl rfl rfl ?_
      refine r_dup (q := 49) dX1_mark_48 rfl rfl ?_
      refine r_gI (q := 52) fl_X1_121 dX1_mark_49 rfl (fun x13 => ?_)
      refine r_iconst (q := 53) (v := (1 : Int32)) dX1_mark_52 rfl (by decide) ?_
      refine r_iadd (q := 54) dX1_mark_53 rfl ?_
      refine r_pI (q := 57) fp_X1_mark_121 dX1_mark_54 rfl (fun σ14 => ?_)
      refine r_aload_n (q := 58) dX1_mark_57 rfl rfl rfl ?_
      refine r_gI (q := 61) fl_X1_121 dX1_mark_58 rfl (fun x15 => ?_)
      refine r_iconst (q := 62) (v := (1 : Int32)) dX1_mark_61 rfl (by decide) ?_
      refine r_isub (q := 63) dX1_mark_62 rfl ?_
      exact r_ireturn rfl rfl dX1_mark_63
theorem w_X7_mark_b34B (G : Gx) (h0 : G0 G) (N : Nat)   (K34 : Nat → Int32 → Mem → Option (Int32 × Mem)) (hK34 : ∀ (a0 : Nat) (l1 : Int32) (σ : Mem), Runs G mX7_mark rhoI σ 34 [some (vR (some a0)), some (vI l1)] [] (K34 a0 l1 σ)) (a0 : Nat) (l1 : Int32) (σ : Mem) : Runs G mX7_mark rhoI σ 34 [some (vR (some a0)), some (vI l1)] [] (f_X7_mark_b34B N  K34 a0 l1 σ) := by
  unfold f_X7_mark_b34B
  refine r_iload_n (q := 35) dX7_mark_34 rfl rfl rfl ?_
  refine r_bipush (q := 37) (v := (18 : Int32)) dX7_mark_35 rfl (by decide) ?_
  refine r_icmp_ge (q := 40) (t := 66) dX7_mark_37 rfl (by decide) (fun _ => ?_) (fun _ => ?_)
  · refine r_aload_n (q := 67) dX7_mark_66 rfl rfl rfl ?_
    refine r_dup (q := 68) dX7_mark_67 rfl rfl ?_
    refine r_gI (q := 71) fl_X7_447 dX7_mark_68 rfl (fun x1 => ?_)
    refine r_iconst (q := 72) (v := (1 : Int32)) dX7_mark_71 rfl (by decide) ?_
    refine r_iadd (q := 73) dX7_mark_72 rfl ?_
    refine r_pI (q := 76) fp_X7_mark_447 dX7_mark_73 rfl (fun σ2 => ?_)
    refine r_aload_n (q := 77) dX7_mark_76 rfl rfl rfl ?_
    refine r_aload_n (q := 78) dX7_mark_77 rfl rfl rfl ?_
    refine r_gI (q := 81) fl_X7_447 dX7_mark_78 rfl (fun x3 => ?_)
    refine r_iconst (q := 82) (v := (1 : Int32)) dX7_mark_81 rfl (by decide) ?_
    refine r_isub (q := 83) dX7_mark_82 rfl ?_
    refine r_ob (fun a6 ha6 => ?_)
    obtain ⟨hea6, hka6⟩ := o_at_eq ha6
    cases hea6
    refine r_callI (q := 86) (c_X7_good G h0 N _ _ _) (cl_V (ci := 6) rfl rfl (lw_V q2379 q2381 qs118 q176 q2382) (hd_X7_good) ⟨Nat.le_of_ble_eq_true rfl, Nat.le_of_ble_eq_true rfl⟩ (List.mem_singleton.mp hka6) rfl rfl rfl (Nat.le_of_ble_eq_true rfl) dX7_mark_83) rfl (fun x4 σ5 => ?_)
    exact r_ireturn rfl rfl dX7_mark_86
  · refine r_aload_n (q := 41) dX7_mark_40 rfl rfl rfl ?_
    refine r_gR (q := 44) fl_X7_27 rfl dX7_mark_41 rfl (fun x7 => ?_)
    refine r_bipush (q := 46) (v := (18 : Int32)) dX7_mark_44 rfl (by decide) ?_
    refine r_aload_n (q := 47) dX7_mark_46 rfl rfl rfl ?_
    refine r_gI (q := 50) fl_X7_447 dX7_mark_47 rfl (fun x8 => ?_)
    refine r_imul (q := 51) dX7_mark_50 rfl ?_
    refine r_iload_n (q := 52) dX7_mark_51 rfl rfl rfl ?_
    refine r_iadd (q := 53) dX7_mark_52 rfl ?_
    refine r_aload_n (q := 54) dX7_mark_53 rfl rfl rfl ?_
    refine r_gR (q := 57) fl_X7_21 rfl dX7_mark_54 rfl (fun x9 => ?_)
    refine r_iload_n (q := 58) dX7_mark_57 rfl rfl rfl ?_
    refine r_iaload (q := 59) dX7_mark_58 rfl (fun x10 => ?_)
    refine r_iastore (q := 60) dX7_mark_59 rfl (fun σ11 => ?_)
    refine r_iinc (q := 63) (v := (1 : Int32)) dX7_mark_60 rfl rfl (by decide) (Nat.le_of_ble_eq_true rfl) rfl ?_
    refine r_goto (q := 34) dX7_mark_63 (by decide) ?_
    exact r_le (hK34 _ _ _) (Nat.le_refl _) (And.intro rfl (And.intro rfl trivial))
theorem w_X7_mark_b34 (G : Gx) (h0 : G0 G) (N : Nat)   : ∀ (z : Nat) (a0 : Nat) (l1 : Int32) (σ : Mem), Runs G mX7_mark rhoI σ 34 [some (vR (some a0)), some (vI l1)] [] (f_X7_mark_b34 N  z a0 l1 σ) := by
  intro z
  induction z with
  | zero => exact fun _ _ _ => r_none
  | succ z ih => exact fun a0 l1 σ => w_X7_mark_b34B G h0 N   _ ih a0 l1 σ
theorem c_X7_mark (G : Gx) (h0 : G0 G) (N : Nat) (a0 : Nat) (σ : Mem) : Ct G mX7_mark rhoI [vR (some a0)] σ (f_X7_mark N a0 σ) := by
  refine Ct_of h0 (by decide) rfl (Nat.le_of_ble_eq_true rfl) (L0 := [some (vR (some a0)), none]) rfl ?_
  unfold f_X7_mark
  refine r_aload_n (q := 1) dX7_mark_0 rfl rfl rfl ?_
  refine r_iconst (q := 2) (v := (0 : Int32)) dX7_mark_1 rfl (by decide) ?_
  refine r_pI (q := 5) fp_X7_mark_66 dX7_mark_2 rfl (fun σ1 => ?_)
  refine r_aload_n (q := 6) dX7_mark_5 rfl rfl rfl ?_
  refine r_gR (q := 9) fl_X7_442 rfl dX7_mark_6 rfl (fun x2 => ?_)
  refine r_ifnonnull (q := 12) (t := 18) dX7_mark_9 rfl (by decide) (fun _ => ?_) (fun _ => ?_)
  · refine r_aload_n (q := 13) dX7_mark_12 rfl rfl rfl ?_
    refine r_iconst (q := 14) (v := (1 : Int32)) dX7_mark_13 rfl (by decide) ?_
    refine r_ob (fun a9 ha9 => ?_)
    obtain ⟨hea9, hka9⟩ := o_at_eq ha9
    cases hea9
    refine r_callI (q := 17) (c_X7_refused G h0 N _ _ _) (cl_V (ci := 6) rfl rfl (lw_V q2019 q2021 qs83 q176 q2022) (hd_X7_refused) ⟨Nat.le_of_ble_eq_true rfl, Nat.le_of_ble_eq_true rfl⟩ (List.mem_singleton.mp hka9) rfl rfl rfl (Nat.le_of_ble_eq_true rfl) dX7_mark_14) rfl (fun x7 σ8 => ?_)
    exact r_ireturn rfl rfl dX7_mark_17
  · refine r_aload_n (q := 19) dX7_mark_18 rfl rfl rfl ?_
    refine r_gI (q := 22) fl_X7_447 dX7_mark_19 rfl (fun x3 => ?_)
    refine r_iconst (q := 23) (v := (3 : Int32)) dX7_mark_22 rfl (by decide) ?_
    refine r_icmp_ne (q := 26) (t := 32) dX7_mark_23 rfl (by decide) (fun _ => ?_) (fun _ => ?_)
    · refine r_aload_n (q := 27) dX7_mark_26 rfl rfl rfl ?_
      refine r_iconst (q := 28) (v := (3 : Int32)) dX7_mark_27 rfl (by decide) ?_
      refine r_ob (fun a6 ha6 => ?_)
      obtain ⟨hea6, hka6⟩ := o_at_eq ha6
      cases hea6
      refine r_callI (q := 31) (c_X7_refused G h0 N _ _ _) (cl_V (ci := 6) rfl rfl (lw_V q2019 q2021 qs83 q176 q2022) (hd_X7_refused) ⟨Nat.le_of_ble_eq_true rfl, Nat.le_of_ble_eq_true rfl⟩ (List.mem_singleton.mp hka6) rfl rfl rfl (Nat.le_of_ble_eq_true rfl) dX7_mark_28) rfl (fun x4 σ5 => ?_)
      exact r_ireturn rfl rfl dX7_mark_31
    · refine r_iconst (q := 33) (v := (0 : Int32)) dX7_mark_32 rfl (by decide) ?_
      refine r_istore_n (q := 34) dX7_mark_33 rfl rfl (Nat.le_of_ble_eq_true rfl) rfl ?_
      exact r_le (w_X7_mark_b34 G h0 N N _ _ _) (Nat.le_refl _) (And.intro rfl (And.intro rfl trivial))
theorem w_X1_back_b20 (G : Gx) (h0 : G0 G) (N : Nat)   (a0 : Nat) (l1 : Int32) (t0 : Option Nat) (t1 : Int32) (σ : Mem) : Runs G mX1_back rhoI σ 20 [some (vR (some a0)), some (vI l1)] [vI t1, vR t0] (f_X1_back_b20 N  a0 l1 t0 t1 σ) := by
  unfold f_X1_back_b20
  refine r_ob (fun a3 ha3 => ?_)
  obtain ⟨hea3, hka3⟩ := o_at_eq ha3
  cases hea3
  refine r_callI (q := 23) (c_X1_yes G h0 N _ _ _) (cl_V (ci := 0) rfl rfl (lw_V q1806 q1808 qs80 q167 q1809) (hd_X1_yes) ⟨Nat.le_of_ble_eq_true rfl, Nat.le_of_ble_eq_true rfl⟩ (List.mem_singleton.mp hka3) rfl rfl rfl (Nat.le_of_ble_eq_true rfl) dX1_back_20) rfl (fun x1 σ2 => ?_)
  refine r_if_ne (q := 26) (t := 28) dX1_back_23 rfl (by decide) (fun _ => ?_) (fun _ => ?_)
  · refine r_iconst (q := 27) (v := (0 : Int32)) dX1_back_26 rfl (by decide) ?_
    exact r_ireturnN rfl dX1_back_27
  · refine r_aload_n (q := 29) dX1_back_28 rfl rfl rfl ?_
    refine r_gR (q := 32) fl_X1_33 rfl dX1_back_29 rfl (fun x4 => ?_)
    refine r_aload_n (q := 33) dX1_back_32 rfl rfl rfl ?_
    refine r_gR (q := 36) fl_X1_61 rfl dX1_back_33 rfl (fun x5 => ?_)
    refine r_iload_n (q := 37) dX1_back_36 rfl rfl rfl ?_
    refine r_aaload (q := 38) (k0 := 5) (by decide) dX1_back_37 rfl (fun x6 => ?_)
    refine r_ob (fun a9 ha9 => ?_)
    obtain ⟨hea9, hka9⟩ := o_at_eq ha9
    cases hea9
    refine r_callV (q := 41) (c_X4_become G h0 N _ _ _) (cl_V (ci := 3) rfl rfl (lw_V q1677 q1678 q1679 q173 q1680) (hd_X4_become) ⟨Nat.le_of_ble_eq_true rfl, Nat.le_of_ble_eq_true rfl⟩ (List.mem_singleton.mp hka9) rfl rfl rfl (Nat.le_of_ble_eq_true rfl) dX1_back_38) rfl (fun u7 σ8 => ?_)
    refine r_aload_n (q := 42) dX1_back_41 rfl rfl rfl ?_
    refine r_iconst (q := 43) (v := (0 : Int32)) dX1_back_42 rfl (by decide) ?_
    refine r_pI (q := 46) fp_X1_back_118 dX1_back_43 rfl (fun σ10 => ?_)
    refine r_iconst (q := 47) (v := (1 : Int32)) dX1_back_46 rfl (by decide) ?_
    exact r_ireturnN rfl dX1_back_47
theorem c_X1_back (G : Gx) (h0 : G0 G) (N : Nat) (a0 : Nat) (i1 : Int32) (σ : Mem) : Ct G mX1_back rhoI [vR (some a0), vI i1] σ (f_X1_back N a0 i1 σ) := by
  refine Ct_of h0 (by decide) rfl (Nat.le_of_ble_eq_true rfl) (L0 := [some (vR (some a0)), some (vI i1)]) rfl ?_
  unfold f_X1_back
  refine r_aload_n (q := 1) dX1_back_0 rfl rfl rfl ?_
  refine r_iload_n (q := 2) dX1_back_1 rfl rfl rfl ?_
  refine r_iconst (q := 3) (v := (0 : Int32)) dX1_back_2 rfl (by decide) ?_
  refine r_aload_n (q := 4) dX1_back_3 rfl rfl rfl ?_
  refine r_gI (q := 7) fl_X1_121 dX1_back_4 rfl (fun x1 => ?_)
  refine r_iconst (q := 8) (v := (1 : Int32)) dX1_back_7 rfl (by decide) ?_
  refine r_isub (q := 9) dX1_back_8 rfl ?_
  refine r_callI (q := 12) (c_X1_in G h0 N _ _ _ _) (cl_S rfl rfl (lw_S q489 q490 q167 q491) (hd_X1_in) ⟨Nat.le_of_ble_eq_true rfl, Nat.le_of_ble_eq_true rfl⟩ rfl (Nat.le_of_ble_eq_true rfl) dX1_back_9) rfl (fun x2 σ3 => ?_)
  refine r_if_eq (q := 15) (t := 19) dX1_back_12 rfl (by decide) (fun _ => ?_) (fun _ => ?_)
  · refine r_iconst (q := 20) (v := (1 : Int32)) dX1_back_19 rfl (by decide) ?_
    exact r_le (w_X1_back_b20 G h0 N _ _ _ _ _) (Nat.le_refl _) (And.intro rfl (And.intro rfl trivial))
  · refine r_iconst (q := 16) (v := (0 : Int32)) dX1_back_15 rfl (by decide) ?_
    refine r_goto (q := 20) dX1_back_16 (by decide) ?_
    exact r_le (w_X1_back_b20 G h0 N _ _ _ _ _) (Nat.le_refl _) (And.intro rfl (And.intro rfl trivial))
theorem w_X7_back_b24 (G : Gx) (h0 : G0 G) (N : Nat)   (a0 : Nat) (σ : Mem) : Runs G mX7_back rhoI σ 24 [some (vR (some a0)), none, none] [] (f_X7_back_b24 N  a0 σ) := by
  unfold f_X7_back_b24
  refine r_aload_n (q := 25) dX7_back_24 rfl rfl rfl ?_
  refine r_iconst (q := 26) (v := (1 : Int32)) dX7_back_25 rfl (by decide) ?_
  refine r_ob (fun a3 ha3 => ?_)
  obtain ⟨hea3, hka3⟩ := o_at_eq ha3
  cases hea3
  refine r_callI (q := 29) (c_X7_denied G h0 N _ _ _) (cl_V (ci := 6) rfl rfl (lw_V q2731 q2733 qs162 q176 q2734) (hd_X7_denied) ⟨Nat.le_of_ble_eq_true rfl, Nat.le_of_ble_eq_true rfl⟩ (List.mem_singleton.mp hka3) rfl rfl rfl (Nat.le_of_ble_eq_true rfl) dX7_back_26) rfl (fun x1 σ2 => ?_)
  exact r_ireturnN rfl dX7_back_29
theorem w_X7_back_b32B (G : Gx) (h0 : G0 G) (N : Nat)   (K32 : Nat → Int32 → Int32 → Mem → Option (Int32 × Mem)) (hK32 : ∀ (a0 : Nat) (l1 : Int32) (l2 : Int32) (σ : Mem), Runs G mX7_back rhoI σ 32 [some (vR (some a0)), some (vI l1), some (vI l2)] [] (K32 a0 l1 l2 σ)) (a0 : Nat) (l1 : Int32) (l2 : Int32) (σ : Mem) : Runs G mX7_back rhoI σ 32 [some (vR (some a0)), some (vI l1), some (vI l2)] [] (f_X7_back_b32B N  K32 a0 l1 l2 σ) := by
  unfold f_X7_back_b32B
  refine r_iload_n (q := 33) dX7_back_32 rfl rfl rfl ?_
  refine r_bipush (q := 35) (v := (18 : Int32)) dX7_back_33 rfl (by decide) ?_
  refine r_icmp_ge (q := 38) (t := 61) dX7_back_35 rfl (by decide) (fun _ => ?_) (fun _ => ?_)
  · refine r_aload_n (q := 62) dX7_back_61 rfl rfl rfl ?_
    refine r_iconst (q := 63) (v := (0 : Int32)) dX7_back_62 rfl (by decide) ?_
    refine r_pI (q := 66) fp_X7_back_444 dX7_back_63 rfl (fun σ1 => ?_)
    refine r_aload_n (q := 67) dX7_back_66 rfl rfl rfl ?_
    refine r_ob (fun a4 ha4 => ?_)
    obtain ⟨hea4, hka4⟩ := o_at_eq ha4
    cases hea4
    refine r_callI (q := 70) (c_X7_granted G h0 N _ _) (cl_V (ci := 6) rfl rfl (lw_V q2743 q2745 qs165 q176 q2746) (hd_X7_granted) ⟨Nat.le_of_ble_eq_true rfl, Nat.le_of_ble_eq_true rfl⟩ (List.mem_singleton.mp hka4) rfl rfl rfl (Nat.le_of_ble_eq_true rfl) dX7_back_67) rfl (fun x2 σ3 => ?_)
    exact r_ireturnN rfl dX7_back_70
  · refine r_aload_n (q := 39) dX7_back_38 rfl rfl rfl ?_
    refine r_gR (q := 42) fl_X7_21 rfl dX7_back_39 rfl (fun x5 => ?_)
    refine r_iload_n (q := 43) dX7_back_42 rfl rfl rfl ?_
    refine r_aload_n (q := 44) dX7_back_43 rfl rfl rfl ?_
    refine r_gR (q := 47) fl_X7_27 rfl dX7_back_44 rfl (fun x6 => ?_)
    refine r_bipush (q := 49) (v := (18 : Int32)) dX7_back_47 rfl (by decide) ?_
    refine r_iload_n (q := 50) dX7_back_49 rfl rfl rfl ?_
    refine r_imul (q := 51) dX7_back_50 rfl ?_
    refine r_iload_n (q := 52) dX7_back_51 rfl rfl rfl ?_
    refine r_iadd (q := 53) dX7_back_52 rfl ?_
    refine r_iaload (q := 54) dX7_back_53 rfl (fun x7 => ?_)
    refine r_iastore (q := 55) dX7_back_54 rfl (fun σ8 => ?_)
    refine r_iinc (q := 58) (v := (1 : Int32)) dX7_back_55 rfl rfl (by decide) (Nat.le_of_ble_eq_true rfl) rfl ?_
    refine r_goto (q := 32) dX7_back_58 (by decide) ?_
    exact r_le (hK32 _ _ _ _) (Nat.le_refl _) (And.intro rfl (And.intro rfl (And.intro rfl trivial)))
theorem w_X7_back_b32 (G : Gx) (h0 : G0 G) (N : Nat)   : ∀ (z : Nat) (a0 : Nat) (l1 : Int32) (l2 : Int32) (σ : Mem), Runs G mX7_back rhoI σ 32 [some (vR (some a0)), some (vI l1), some (vI l2)] [] (f_X7_back_b32 N  z a0 l1 l2 σ) := by
  intro z
  induction z with
  | zero => exact fun _ _ _ _ => r_none
  | succ z ih => exact fun a0 l1 l2 σ => w_X7_back_b32B G h0 N   _ ih a0 l1 l2 σ
theorem c_X7_back (G : Gx) (h0 : G0 G) (N : Nat) (a0 : Nat) (i1 : Int32) (σ : Mem) : Ct G mX7_back rhoI [vR (some a0), vI i1] σ (f_X7_back N a0 i1 σ) := by
  refine Ct_of h0 (by decide) rfl (Nat.le_of_ble_eq_true rfl) (L0 := [some (vR (some a0)), some (vI i1), none]) rfl ?_
  unfold f_X7_back
  refine r_aload_n (q := 1) dX7_back_0 rfl rfl rfl ?_
  refine r_iconst (q := 2) (v := (0 : Int32)) dX7_back_1 rfl (by decide) ?_
  refine r_pI (q := 5) fp_X7_back_66 dX7_back_2 rfl (fun σ1 => ?_)
  refine r_aload_n (q := 6) dX7_back_5 rfl rfl rfl ?_
  refine r_gR (q := 9) fl_X7_442 rfl dX7_back_6 rfl (fun x2 => ?_)
  refine r_ifnull (q := 12) (t := 24) dX7_back_9 rfl (by decide) (fun _ => ?_) (fun _ => ?_)
  · exact r_le (w_X7_back_b24 G h0 N _ _) (Nat.le_refl _) (And.intro rfl trivial)
  · refine r_iload_n (q := 13) dX7_back_12 rfl rfl rfl ?_
    refine r_if_lt (q := 16) (t := 24) dX7_back_13 rfl (by decide) (fun _ => ?_) (fun _ => ?_)
    · exact r_le (w_X7_back_b24 G h0 N _ _) (Nat.le_refl _) (And.intro rfl trivial)
    · refine r_iload_n (q := 17) dX7_back_16 rfl rfl rfl ?_
      refine r_aload_n (q := 18) dX7_back_17 rfl rfl rfl ?_
      refine r_gI (q := 21) fl_X7_447 dX7_back_18 rfl (fun x3 => ?_)
      refine r_icmp_lt (q := 24) (t := 30) dX7_back_21 rfl (by decide) (fun _ => ?_) (fun _ => ?_)
      · refine r_iconst (q := 31) (v := (0 : Int32)) dX7_back_30 rfl (by decide) ?_
        refine r_istore_n (q := 32) dX7_back_31 rfl rfl (Nat.le_of_ble_eq_true rfl) rfl ?_
        exact r_le (w_X7_back_b32 G h0 N N _ _ _ _) (Nat.le_refl _) (And.intro rfl (And.intro rfl (And.intro rfl trivial)))
      · exact r_le (w_X7_back_b24 G h0 N _ _) (Nat.le_refl _) (And.intro rfl trivial)
theorem w_X1_put_b105 (G : Gx) (h0 : G0 G) (N : Nat)    (σ : Mem) : Runs G mX1_put (rhoX rhoI) σ 105 [none, none, none, none, none] [] (f_X1_put_b105 N   σ) := by
  unfold f_X1_put_b105
  exact r_nse rfl rfl (Nat.le_of_ble_eq_true rfl) (Nat.le_of_ble_eq_true rfl) dX1_put_105 dX1_put_108 dX1_put_109 dX1_put_112
theorem w_X1_put_b99 (G : Gx) (h0 : G0 G) (N : Nat) (K5 : Nat → Int32 → Int32 → Int32 → Int32 → Mem → Option ((Int32 ⊕ Ex) × Mem)) (hK5 : ∀ (a0 : Nat) (l1 : Int32) (l2 : Int32) (l3 : Int32) (l4 : Int32) (σ : Mem), Runs G mX1_put (rhoX rhoI) σ 5 [some (vR (some a0)), some (vI l1), some (vI l2), some (vI l3), some (vI l4)] [] (K5 a0 l1 l2 l3 l4 σ)) (a0 : Nat) (l1 : Int32) (l2 : Int32) (l3 : Int32) (l4 : Int32) (σ : Mem) : Runs G mX1_put (rhoX rhoI) σ 99 [some (vR (some a0)), some (vI l1), some (vI l2), some (vI l3), some (vI l4)] [] (f_X1_put_b99 N K5 a0 l1 l2 l3 l4 σ) := by
  unfold f_X1_put_b99
  refine r_iinc (q := 102) (v := (1 : Int32)) dX1_put_99 rfl rfl (by decide) (Nat.le_of_ble_eq_true rfl) rfl ?_
  refine r_goto (q := 5) dX1_put_102 (by decide) ?_
  exact r_le (hK5 _ _ _ _ _ _) (Nat.le_refl _) (And.intro rfl (And.intro rfl (And.intro rfl (And.intro rfl (And.intro rfl trivial)))))
theorem w_X1_put_b5B (G : Gx) (h0 : G0 G) (N : Nat)   (K5 : Nat → Int32 → Int32 → Int32 → Int32 → Mem → Option ((Int32 ⊕ Ex) × Mem)) (hK5 : ∀ (a0 : Nat) (l1 : Int32) (l2 : Int32) (l3 : Int32) (l4 : Int32) (σ : Mem), Runs G mX1_put (rhoX rhoI) σ 5 [some (vR (some a0)), some (vI l1), some (vI l2), some (vI l3), some (vI l4)] [] (K5 a0 l1 l2 l3 l4 σ)) (a0 : Nat) (l1 : Int32) (l2 : Int32) (l3 : Int32) (l4 : Int32) (σ : Mem) : Runs G mX1_put (rhoX rhoI) σ 5 [some (vR (some a0)), some (vI l1), some (vI l2), some (vI l3), some (vI l4)] [] (f_X1_put_b5B N  K5 a0 l1 l2 l3 l4 σ) := by
  unfold f_X1_put_b5B
  refine r_aload_n (q := 6) dX1_put_5 rfl rfl rfl ?_
  refine r_gR (q := 9) fl_X1_104 rfl dX1_put_6 rfl (fun x1 => ?_)
  refine r_ifnull (q := 12) (t := 105) dX1_put_9 rfl (by decide) (fun _ => ?_) (fun _ => ?_)
  · exact r_le (w_X1_put_b105 G h0 N  _) (Nat.le_refl _) trivial
  · refine r_iload (q := 14) dX1_put_12 rfl rfl ?_
    refine r_aload_n (q := 15) dX1_put_14 rfl rfl rfl ?_
    refine r_gR (q := 18) fl_X1_104 rfl dX1_put_15 rfl (fun x2 => ?_)
    refine r_gI (q := 21) fl_X1_130 dX1_put_18 rfl (fun x3 => ?_)
    refine r_aload_n (q := 22) dX1_put_21 rfl rfl rfl ?_
    refine r_gR (q := 25) fl_X1_104 rfl dX1_put_22 rfl (fun x4 => ?_)
    refine r_gI (q := 28) fl_X1_148 dX1_put_25 rfl (fun x5 => ?_)
    refine r_imul (q := 29) dX1_put_28 rfl ?_
    refine r_icmp_ge (q := 32) (t := 105) dX1_put_29 rfl (by decide) (fun _ => ?_) (fun _ => ?_)
    · exact r_le (w_X1_put_b105 G h0 N  _) (Nat.le_refl _) trivial
    · refine r_aload_n (q := 33) dX1_put_32 rfl rfl rfl ?_
      refine r_gR (q := 36) fl_X1_33 rfl dX1_put_33 rfl (fun x6 => ?_)
      refine r_iload (q := 38) dX1_put_36 rfl rfl ?_
      refine r_aload_n (q := 39) dX1_put_38 rfl rfl rfl ?_
      refine r_gR (q := 42) fl_X1_104 rfl dX1_put_39 rfl (fun x7 => ?_)
      refine r_gI (q := 45) fl_X1_148 dX1_put_42 rfl (fun x8 => ?_)
      refine r_idiv (q := 46) dX1_put_45 rfl (fun x9 _ => ?_)
      refine r_iload (q := 48) dX1_put_46 rfl rfl ?_
      refine r_aload_n (q := 49) dX1_put_48 rfl rfl rfl ?_
      refine r_gR (q := 52) fl_X1_104 rfl dX1_put_49 rfl (fun x10 => ?_)
      refine r_gI (q := 55) fl_X1_148 dX1_put_52 rfl (fun x11 => ?_)
      refine r_irem (q := 56) dX1_put_55 rfl (fun x12 _ => ?_)
      refine r_iload_n (q := 57) dX1_put_56 rfl rfl rfl ?_
      refine r_ob (fun a15 ha15 => ?_)
      obtain ⟨hea15, hka15⟩ := o_at_eq ha15
      cases hea15
      refine r_callI (q := 60) (c_X4_isPut G h0 N _ _ _ _ _) (cl_V (ci := 3) rfl rfl (lw_V q1800 q1469 q1470 q173 q1471) (hd_X4_isPut) ⟨Nat.le_of_ble_eq_true rfl, Nat.le_of_ble_eq_true rfl⟩ (List.mem_singleton.mp hka15) rfl rfl rfl (Nat.le_of_ble_eq_true rfl) dX1_put_57) rfl (fun x13 σ14 => ?_)
      refine r_if_ne (q := 63) (t := 66) dX1_put_60 rfl (by decide) (fun _ => ?_) (fun _ => ?_)
      · refine r_goto (q := 99) dX1_put_63 (by decide) ?_
        exact r_le (w_X1_put_b99 G h0 N K5 hK5 _ _ _ _ _ _) (Nat.le_refl _) (And.intro rfl (And.intro rfl (And.intro rfl (And.intro rfl (And.intro rfl trivial)))))
      · refine r_iload_n (q := 67) dX1_put_66 rfl rfl rfl ?_
        refine r_iload_n (q := 68) dX1_put_67 rfl rfl rfl ?_
        refine r_icmp_ne (q := 71) (t := 96) dX1_put_68 rfl (by decide) (fun _ => ?_) (fun _ => ?_)
        · refine r_bipush (q := 73) (v := (100 : Int32)) dX1_put_71 rfl (by decide) ?_
          refine r_iload (q := 75) dX1_put_73 rfl rfl ?_
          refine r_aload_n (q := 76) dX1_put_75 rfl rfl rfl ?_
          refine r_gR (q := 79) fl_X1_104 rfl dX1_put_76 rfl (fun x16 => ?_)
          refine r_gI (q := 82) fl_X1_148 dX1_put_79 rfl (fun x17 => ?_)
          refine r_idiv (q := 83) dX1_put_82 rfl (fun x18 _ => ?_)
          refine r_imul (q := 84) dX1_put_83 rfl ?_
          refine r_iload (q := 86) dX1_put_84 rfl rfl ?_
          refine r_aload_n (q := 87) dX1_put_86 rfl rfl rfl ?_
          refine r_gR (q := 90) fl_X1_104 rfl dX1_put_87 rfl (fun x19 => ?_)
          refine r_gI (q := 93) fl_X1_148 dX1_put_90 rfl (fun x20 => ?_)
          refine r_irem (q := 94) dX1_put_93 rfl (fun x21 _ => ?_)
          refine r_iadd (q := 95) dX1_put_94 rfl ?_
          exact r_ireturnX rfl rfl dX1_put_95
        · refine r_iinc (q := 99) (v := (1 : Int32)) dX1_put_96 rfl rfl (by decide) (Nat.le_of_ble_eq_true rfl) rfl ?_
          exact r_le (w_X1_put_b99 G h0 N K5 hK5 _ _ _ _ _ _) (Nat.le_refl _) (And.intro rfl (And.intro rfl (And.intro rfl (And.intro rfl (And.intro rfl trivial)))))
theorem w_X1_put_b5 (G : Gx) (h0 : G0 G) (N : Nat)   : ∀ (z : Nat) (a0 : Nat) (l1 : Int32) (l2 : Int32) (l3 : Int32) (l4 : Int32) (σ : Mem), Runs G mX1_put (rhoX rhoI) σ 5 [some (vR (some a0)), some (vI l1), some (vI l2), some (vI l3), some (vI l4)] [] (f_X1_put_b5 N  z a0 l1 l2 l3 l4 σ) := by
  intro z
  induction z with
  | zero => exact fun _ _ _ _ _ _ => r_none
  | succ z ih => exact fun a0 l1 l2 l3 l4 σ => w_X1_put_b5B G h0 N   _ ih a0 l1 l2 l3 l4 σ
theorem c_X1_put (G : Gx) (h0 : G0 G) (N : Nat) (a0 : Nat) (i1 : Int32) (i2 : Int32) (σ : Mem) : Ct G mX1_put (rhoX rhoI) [vR (some a0), vI i1, vI i2] σ (f_X1_put N a0 i1 i2 σ) := by
  refine Ct_of h0 (by decide) rfl (Nat.le_of_ble_eq_true rfl) (L0 := [some (vR (some a0)), some (vI i1), some (vI i2), none, none]) rfl ?_
  unfold f_X1_put
  refine r_iconst (q := 1) (v := (0 : Int32)) dX1_put_0 rfl (by decide) ?_
  refine r_istore_n (q := 2) dX1_put_1 rfl rfl (Nat.le_of_ble_eq_true rfl) rfl ?_
  refine r_iconst (q := 3) (v := (0 : Int32)) dX1_put_2 rfl (by decide) ?_
  refine r_istore (q := 5) dX1_put_3 rfl (Nat.le_of_ble_eq_true rfl) rfl ?_
  exact r_le (w_X1_put_b5 G h0 N N _ _ _ _ _ _) (Nat.le_refl _) (And.intro rfl (And.intro rfl (And.intro rfl (And.intro rfl (And.intro rfl trivial)))))
theorem c_X0_put (G : Gx) (h0 : G0 G) (N : Nat) (o0 : Option Nat) (i1 : Int32) (i2 : Int32) (o3 : Option Nat) (σ : Mem) : Ct G mX0_put rhoI [vR o0, vI i1, vI i2, vR o3] σ (f_X0_put N o0 i1 i2 o3 σ) := by
  refine Ct_ofH h0 (by decide) (List.cons_ne_nil _ _) (Nat.le_of_ble_eq_true rfl) (L0 := [some (vR o0), some (vI i1), some (vI i2), some (vR o3), none]) rfl ?_
  unfold f_X0_put
  refine r_aload_n (q := 1) dX0_put_0 rfl rfl rfl ?_
  refine r_iconst (q := 2) (v := (0 : Int32)) dX0_put_1 rfl (by decide) ?_
  refine r_aload_n (q := 3) dX0_put_2 rfl rfl rfl ?_
  refine r_iload_n (q := 4) dX0_put_3 rfl rfl rfl ?_
  refine r_iload_n (q := 5) dX0_put_4 rfl rfl rfl ?_
  refine r_ob (fun a3 ha3 => ?_)
  obtain ⟨hea3, hka3⟩ := o_at_eq ha3
  cases hea3
  refine r_bhI (q := 8) hcatch_X0_put_5 (c_X1_put G h0 N _ _ _ _) (cl_V (ci := 0) rfl rfl (lw_V q1858 q1859 q1860 q167 q1861) (hd_X1_put) ⟨Nat.le_of_ble_eq_true rfl, Nat.le_of_ble_eq_true rfl⟩ (List.mem_singleton.mp hka3) rfl rfl rfl (Nat.le_of_ble_eq_true rfl) dX0_put_5) rfl ?_ (fun x1 σ2 => ?_)
  · intro e4 σ5
    refine r_astore (q := 15) dX0_put_13 rfl (Nat.le_of_ble_eq_true rfl) rfl ?_
    refine r_iconst (q := 16) (v := (1 : Int32)) dX0_put_15 rfl (by decide) ?_
    exact r_ireturn rfl rfl dX0_put_16
  refine r_i2l (q := 9) dX0_put_8 rfl ?_
  refine r_lastore (q := 10) dX0_put_9 rfl (fun σ6 => ?_)
  refine r_goto (q := 17) dX0_put_10 (by decide) ?_
  refine r_iconst (q := 18) (v := (0 : Int32)) dX0_put_17 rfl (by decide) ?_
  exact r_ireturn rfl rfl dX0_put_18
theorem w_X7_put_b88 (G : Gx) (h0 : G0 G) (N : Nat)   (a0 : Nat) (σ : Mem) : Runs G mX7_put rhoI σ 88 [some (vR (some a0)), none, none, none, none] [] (f_X7_put_b88 N  a0 σ) := by
  unfold f_X7_put_b88
  refine r_aload_n (q := 89) dX7_put_88 rfl rfl rfl ?_
  refine r_iconst (q := 90) (v := (1 : Int32)) dX7_put_89 rfl (by decide) ?_
  refine r_pI (q := 93) fp_X7_put_66 dX7_put_90 rfl (fun σ1 => ?_)
  refine r_iconst (q := 94) (v := (0 : Int32)) dX7_put_93 rfl (by decide) ?_
  exact r_ireturn rfl rfl dX7_put_94
theorem w_X7_put_b82 (G : Gx) (h0 : G0 G) (N : Nat) (K10 : Nat → Int32 → Int32 → Int32 → Int32 → Mem → Option (Int32 × Mem)) (hK10 : ∀ (a0 : Nat) (l1 : Int32) (l2 : Int32) (l3 : Int32) (l4 : Int32) (σ : Mem), Runs G mX7_put rhoI σ 10 [some (vR (some a0)), some (vI l1), some (vI l2), some (vI l3), some (vI l4)] [] (K10 a0 l1 l2 l3 l4 σ)) (a0 : Nat) (l1 : Int32) (l2 : Int32) (l3 : Int32) (l4 : Int32) (σ : Mem) : Runs G mX7_put rhoI σ 82 [some (vR (some a0)), some (vI l1), some (vI l2), some (vI l3), some (vI l4)] [] (f_X7_put_b82 N K10 a0 l1 l2 l3 l4 σ) := by
  unfold f_X7_put_b82
  refine r_iinc (q := 85) (v := (1 : Int32)) dX7_put_82 rfl rfl (by decide) (Nat.le_of_ble_eq_true rfl) rfl ?_
  refine r_goto (q := 10) dX7_put_85 (by decide) ?_
  exact r_le (hK10 _ _ _ _ _ _) (Nat.le_refl _) (And.intro rfl (And.intro rfl (And.intro rfl (And.intro rfl (And.intro rfl trivial)))))
theorem w_X7_put_b38 (G : Gx) (h0 : G0 G) (N : Nat) (K10 : Nat → Int32 → Int32 → Int32 → Int32 → Mem → Option (Int32 × Mem)) (hK10 : ∀ (a0 : Nat) (l1 : Int32) (l2 : Int32) (l3 : Int32) (l4 : Int32) (σ : Mem), Runs G mX7_put rhoI σ 10 [some (vR (some a0)), some (vI l1), some (vI l2), some (vI l3), some (vI l4)] [] (K10 a0 l1 l2 l3 l4 σ)) (a0 : Nat) (l1 : Int32) (l2 : Int32) (l3 : Int32) (l4 : Int32) (t0 : Option Nat) (t1 : Int32) (σ : Mem) : Runs G mX7_put rhoI σ 38 [some (vR (some a0)), some (vI l1), some (vI l2), some (vI l3), some (vI l4)] [vI t1, vR t0] (f_X7_put_b38 N K10 a0 l1 l2 l3 l4 t0 t1 σ) := by
  unfold f_X7_put_b38
  refine r_iload (q := 40) dX7_put_38 rfl rfl ?_
  refine r_bipush (q := 42) (v := (12 : Int32)) dX7_put_40 rfl (by decide) ?_
  refine r_idiv (q := 43) dX7_put_42 rfl (fun x1 _ => ?_)
  refine r_iadd (q := 44) dX7_put_43 rfl ?_
  refine r_iaload (q := 45) dX7_put_44 rfl (fun x2 => ?_)
  refine r_iload (q := 47) dX7_put_45 rfl rfl ?_
  refine r_bipush (q := 49) (v := (12 : Int32)) dX7_put_47 rfl (by decide) ?_
  refine r_irem (q := 50) dX7_put_49 rfl (fun x3 _ => ?_)
  refine r_callI (q := 53) (c_X7_bit G h0 N _ _ _) (cl_S rfl rfl (lw_S q2331 q2332 q176 q2333) (hd_X7_bit) ⟨Nat.le_of_ble_eq_true rfl, Nat.le_of_ble_eq_true rfl⟩ rfl (Nat.le_of_ble_eq_true rfl) dX7_put_50) rfl (fun x4 σ5 => ?_)
  refine r_if_ne (q := 56) (t := 59) dX7_put_53 rfl (by decide) (fun _ => ?_) (fun _ => ?_)
  · refine r_goto (q := 82) dX7_put_56 (by decide) ?_
    exact r_le (w_X7_put_b82 G h0 N K10 hK10 _ _ _ _ _ _) (Nat.le_refl _) (And.intro rfl (And.intro rfl (And.intro rfl (And.intro rfl (And.intro rfl trivial)))))
  · refine r_iload_n (q := 60) dX7_put_59 rfl rfl rfl ?_
    refine r_iload_n (q := 61) dX7_put_60 rfl rfl rfl ?_
    refine r_icmp_ne (q := 64) (t := 79) dX7_put_61 rfl (by decide) (fun _ => ?_) (fun _ => ?_)
    · refine r_bipush (q := 66) (v := (100 : Int32)) dX7_put_64 rfl (by decide) ?_
      refine r_iload (q := 68) dX7_put_66 rfl rfl ?_
      refine r_bipush (q := 70) (v := (12 : Int32)) dX7_put_68 rfl (by decide) ?_
      refine r_idiv (q := 71) dX7_put_70 rfl (fun x6 _ => ?_)
      refine r_imul (q := 72) dX7_put_71 rfl ?_
      refine r_iload (q := 74) dX7_put_72 rfl rfl ?_
      refine r_bipush (q := 76) (v := (12 : Int32)) dX7_put_74 rfl (by decide) ?_
      refine r_irem (q := 77) dX7_put_76 rfl (fun x7 _ => ?_)
      refine r_iadd (q := 78) dX7_put_77 rfl ?_
      exact r_ireturn rfl rfl dX7_put_78
    · refine r_iinc (q := 82) (v := (1 : Int32)) dX7_put_79 rfl rfl (by decide) (Nat.le_of_ble_eq_true rfl) rfl ?_
      exact r_le (w_X7_put_b82 G h0 N K10 hK10 _ _ _ _ _ _) (Nat.le_refl _) (And.intro rfl (And.intro rfl (And.intro rfl (And.intro rfl (And.intro rfl trivial)))))
theorem w_X7_put_b10B (G : Gx) (h0 : G0 G) (N : Nat)   (K10 : Nat → Int32 → Int32 → Int32 → Int32 → Mem → Option (Int32 × Mem)) (hK10 : ∀ (a0 : Nat) (l1 : Int32) (l2 : Int32) (l3 : Int32) (l4 : Int32) (σ : Mem), Runs G mX7_put rhoI σ 10 [some (vR (some a0)), some (vI l1), some (vI l2), some (vI l3), some (vI l4)] [] (K10 a0 l1 l2 l3 l4 σ)) (a0 : Nat) (l1 : Int32) (l2 : Int32) (l3 : Int32) (l4 : Int32) (σ : Mem) : Runs G mX7_put rhoI σ 10 [some (vR (some a0)), some (vI l1), some (vI l2), some (vI l3), some (vI l4)] [] (f_X7_put_b10B N  K10 a0 l1 l2 l3 l4 σ) := by
  unfold f_X7_put_b10B
  refine r_aload_n (q := 11) dX7_put_10 rfl rfl rfl ?_
  refine r_gR (q := 14) fl_X7_442 rfl dX7_put_11 rfl (fun x1 => ?_)
  refine r_ifnull (q := 17) (t := 88) dX7_put_14 rfl (by decide) (fun _ => ?_) (fun _ => ?_)
  · exact r_le (w_X7_put_b88 G h0 N _ _) (Nat.le_refl _) (And.intro rfl trivial)
  · refine r_iload (q := 19) dX7_put_17 rfl rfl ?_
    refine r_bipush (q := 21) (v := (96 : Int32)) dX7_put_19 rfl (by decide) ?_
    refine r_icmp_ge (q := 24) (t := 88) dX7_put_21 rfl (by decide) (fun _ => ?_) (fun _ => ?_)
    · exact r_le (w_X7_put_b88 G h0 N _ _) (Nat.le_refl _) (And.intro rfl trivial)
    · refine r_aload_n (q := 25) dX7_put_24 rfl rfl rfl ?_
      refine r_gR (q := 28) fl_X7_21 rfl dX7_put_25 rfl (fun x2 => ?_)
      refine r_iload_n (q := 29) dX7_put_28 rfl rfl rfl ?_
      refine r_if_eq (q := 32) (t := 37) dX7_put_29 rfl (by decide) (fun _ => ?_) (fun _ => ?_)
      · refine r_iconst (q := 38) (v := (0 : Int32)) dX7_put_37 rfl (by decide) ?_
        exact r_le (w_X7_put_b38 G h0 N K10 hK10 _ _ _ _ _ _ _ _) (Nat.le_refl _) (And.intro rfl (And.intro rfl (And.intro rfl (And.intro rfl (And.intro rfl trivial)))))
      · refine r_bipush (q := 34) (v := (8 : Int32)) dX7_put_32 rfl (by decide) ?_
        refine r_goto (q := 38) dX7_put_34 (by decide) ?_
        exact r_le (w_X7_put_b38 G h0 N K10 hK10 _ _ _ _ _ _ _ _) (Nat.le_refl _) (And.intro rfl (And.intro rfl (And.intro rfl (And.intro rfl (And.intro rfl trivial)))))
theorem w_X7_put_b10 (G : Gx) (h0 : G0 G) (N : Nat)   : ∀ (z : Nat) (a0 : Nat) (l1 : Int32) (l2 : Int32) (l3 : Int32) (l4 : Int32) (σ : Mem), Runs G mX7_put rhoI σ 10 [some (vR (some a0)), some (vI l1), some (vI l2), some (vI l3), some (vI l4)] [] (f_X7_put_b10 N  z a0 l1 l2 l3 l4 σ) := by
  intro z
  induction z with
  | zero => exact fun _ _ _ _ _ _ => r_none
  | succ z ih => exact fun a0 l1 l2 l3 l4 σ => w_X7_put_b10B G h0 N   _ ih a0 l1 l2 l3 l4 σ
theorem c_X7_put (G : Gx) (h0 : G0 G) (N : Nat) (a0 : Nat) (i1 : Int32) (i2 : Int32) (σ : Mem) : Ct G mX7_put rhoI [vR (some a0), vI i1, vI i2] σ (f_X7_put N a0 i1 i2 σ) := by
  refine Ct_of h0 (by decide) rfl (Nat.le_of_ble_eq_true rfl) (L0 := [some (vR (some a0)), some (vI i1), some (vI i2), none, none]) rfl ?_
  unfold f_X7_put
  refine r_aload_n (q := 1) dX7_put_0 rfl rfl rfl ?_
  refine r_iconst (q := 2) (v := (0 : Int32)) dX7_put_1 rfl (by decide) ?_
  refine r_pI (q := 5) fp_X7_put_66 dX7_put_2 rfl (fun σ1 => ?_)
  refine r_iconst (q := 6) (v := (0 : Int32)) dX7_put_5 rfl (by decide) ?_
  refine r_istore_n (q := 7) dX7_put_6 rfl rfl (Nat.le_of_ble_eq_true rfl) rfl ?_
  refine r_iconst (q := 8) (v := (0 : Int32)) dX7_put_7 rfl (by decide) ?_
  refine r_istore (q := 10) dX7_put_8 rfl (Nat.le_of_ble_eq_true rfl) rfl ?_
  exact r_le (w_X7_put_b10 G h0 N N _ _ _ _ _ _) (Nat.le_refl _) (And.intro rfl (And.intro rfl (And.intro rfl (And.intro rfl (And.intro rfl trivial)))))
theorem c_X7_thrown (G : Gx) (h0 : G0 G) (N : Nat) (a0 : Nat) (σ : Mem) : Ct G mX7_thrown rhoI [vR (some a0)] σ (f_X7_thrown N a0 σ) := by
  refine Ct_of h0 (by decide) rfl (Nat.le_of_ble_eq_true rfl) (L0 := [some (vR (some a0))]) rfl ?_
  unfold f_X7_thrown
  refine r_aload_n (q := 1) dX7_thrown_0 rfl rfl rfl ?_
  refine r_gI (q := 4) fl_X7_66 dX7_thrown_1 rfl (fun x1 => ?_)
  exact r_ireturn rfl rfl dX7_thrown_4
theorem c_X1_size (G : Gx) (h0 : G0 G) (N : Nat) (a0 : Nat) (i1 : Int32) (σ : Mem) : Ct G mX1_size rhoI [vR (some a0), vI i1] σ (f_X1_size N a0 i1 σ) := by
  refine Ct_of h0 (by decide) rfl (Nat.le_of_ble_eq_true rfl) (L0 := [some (vR (some a0)), some (vI i1)]) rfl ?_
  unfold f_X1_size
  refine r_iload_n (q := 1) dX1_size_0 rfl rfl rfl ?_
  refine r_bipush (q := 3) (v := (14 : Int32)) dX1_size_1 rfl (by decide) ?_
  refine r_icmp_ne (q := 6) (t := 11) dX1_size_3 rfl (by decide) (fun _ => ?_) (fun _ => ?_)
  · refine r_aload_n (q := 7) dX1_size_6 rfl rfl rfl ?_
    refine r_gI (q := 10) fl_X1_83 dX1_size_7 rfl (fun x32 => ?_)
    exact r_ireturn rfl rfl dX1_size_10
  · refine r_aload_n (q := 12) dX1_size_11 rfl rfl rfl ?_
    refine r_gR (q := 15) fl_X1_104 rfl dX1_size_12 rfl (fun x1 => ?_)
    refine r_ifnonnull (q := 18) (t := 34) dX1_size_15 rfl (by decide) (fun _ => ?_) (fun _ => ?_)
    · refine r_iload_n (q := 19) dX1_size_18 rfl rfl rfl ?_
      refine r_iconst (q := 20) (v := (0 : Int32)) dX1_size_19 rfl (by decide) ?_
      refine r_bipush (q := 22) (v := (13 : Int32)) dX1_size_20 rfl (by decide) ?_
      refine r_callI (q := 25) (c_X1_in G h0 N _ _ _ _) (cl_S rfl rfl (lw_S q489 q490 q167 q491) (hd_X1_in) ⟨Nat.le_of_ble_eq_true rfl, Nat.le_of_ble_eq_true rfl⟩ rfl (Nat.le_of_ble_eq_true rfl) dX1_size_22) rfl (fun x30 σ31 => ?_)
      refine r_if_eq (q := 28) (t := 32) dX1_size_25 rfl (by decide) (fun _ => ?_) (fun _ => ?_)
      · refine r_iconst (q := 33) (v := (-1 : Int32)) dX1_size_32 rfl (by decide) ?_
        exact r_ireturn rfl rfl dX1_size_33
      · refine r_iconst (q := 29) (v := (0 : Int32)) dX1_size_28 rfl (by decide) ?_
        refine r_goto (q := 33) dX1_size_29 (by decide) ?_
        exact r_ireturn rfl rfl dX1_size_33
    · refine r_iload_n (q := 35) dX1_size_34 rfl rfl rfl ?_
      refine r_tswC (t := 104) (c0 := (0 : Int32)) dX1_size_35 (by decide) (by decide) rfl (by decide) ?_ (fun hc0 => ?_)
      · refine r_aload_n (q := 105) dX1_size_104 rfl rfl rfl ?_
        refine r_gR (q := 108) fl_X1_104 rfl dX1_size_105 rfl (fun x2 => ?_)
        refine r_gI (q := 111) fl_X1_148 dX1_size_108 rfl (fun x3 => ?_)
        exact r_ireturn rfl rfl dX1_size_111
      refine r_tswC (t := 112) (c0 := (1 : Int32)) dX1_size_35 (by decide) (by decide) rfl (by decide) ?_ (fun hc1 => ?_)
      · refine r_aload_n (q := 113) dX1_size_112 rfl rfl rfl ?_
        refine r_gR (q := 116) fl_X1_104 rfl dX1_size_113 rfl (fun x4 => ?_)
        refine r_gI (q := 119) fl_X1_133 dX1_size_116 rfl (fun x5 => ?_)
        exact r_ireturn rfl rfl dX1_size_119
      refine r_tswC (t := 120) (c0 := (2 : Int32)) dX1_size_35 (by decide) (by decide) rfl (by decide) ?_ (fun hc2 => ?_)
      · refine r_aload_n (q := 121) dX1_size_120 rfl rfl rfl ?_
        refine r_gR (q := 124) fl_X1_104 rfl dX1_size_121 rfl (fun x6 => ?_)
        refine r_gI (q := 127) fl_X1_130 dX1_size_124 rfl (fun x7 => ?_)
        exact r_ireturn rfl rfl dX1_size_127
      refine r_tswC (t := 128) (c0 := (3 : Int32)) dX1_size_35 (by decide) (by decide) rfl (by decide) ?_ (fun hc3 => ?_)
      · refine r_aload_n (q := 129) dX1_size_128 rfl rfl rfl ?_
        refine r_gR (q := 132) fl_X1_104 rfl dX1_size_129 rfl (fun x8 => ?_)
        refine r_gI (q := 135) fl_X1_450 dX1_size_132 rfl (fun x9 => ?_)
        exact r_ireturn rfl rfl dX1_size_135
      refine r_tswC (t := 136) (c0 := (4 : Int32)) dX1_size_35 (by decide) (by decide) rfl (by decide) ?_ (fun hc4 => ?_)
      · refine r_aload_n (q := 137) dX1_size_136 rfl rfl rfl ?_
        refine r_gR (q := 140) fl_X1_104 rfl dX1_size_137 rfl (fun x10 => ?_)
        refine r_gI (q := 143) fl_X1_136 dX1_size_140 rfl (fun x11 => ?_)
        exact r_ireturn rfl rfl dX1_size_143
      refine r_tswC (t := 144) (c0 := (5 : Int32)) dX1_size_35 (by decide) (by decide) rfl (by decide) ?_ (fun hc5 => ?_)
      · refine r_aload_n (q := 145) dX1_size_144 rfl rfl rfl ?_
        refine r_gR (q := 148) fl_X1_104 rfl dX1_size_145 rfl (fun x12 => ?_)
        refine r_gI (q := 151) fl_X1_139 dX1_size_148 rfl (fun x13 => ?_)
        exact r_ireturn rfl rfl dX1_size_151
      refine r_tswC (t := 152) (c0 := (6 : Int32)) dX1_size_35 (by decide) (by decide) rfl (by decide) ?_ (fun hc6 => ?_)
      · refine r_aload_n (q := 153) dX1_size_152 rfl rfl rfl ?_
        refine r_gR (q := 156) fl_X1_104 rfl dX1_size_153 rfl (fun x14 => ?_)
        refine r_gI (q := 159) fl_X1_142 dX1_size_156 rfl (fun x15 => ?_)
        exact r_ireturn rfl rfl dX1_size_159
      refine r_tswC (t := 160) (c0 := (7 : Int32)) dX1_size_35 (by decide) (by decide) rfl (by decide) ?_ (fun hc7 => ?_)
      · refine r_aload_n (q := 161) dX1_size_160 rfl rfl rfl ?_
        refine r_gR (q := 164) fl_X1_104 rfl dX1_size_161 rfl (fun x16 => ?_)
        refine r_gI (q := 167) fl_X1_145 dX1_size_164 rfl (fun x17 => ?_)
        exact r_ireturn rfl rfl dX1_size_167
      refine r_tswC (t := 168) (c0 := (8 : Int32)) dX1_size_35 (by decide) (by decide) rfl (by decide) ?_ (fun hc8 => ?_)
      · refine r_aload_n (q := 169) dX1_size_168 rfl rfl rfl ?_
        refine r_gR (q := 172) fl_X1_104 rfl dX1_size_169 rfl (fun x18 => ?_)
        refine r_gI (q := 175) fl_X1_353 dX1_size_172 rfl (fun x19 => ?_)
        exact r_ireturn rfl rfl dX1_size_175
      refine r_tswC (t := 176) (c0 := (9 : Int32)) dX1_size_35 (by decide) (by decide) rfl (by decide) ?_ (fun hc9 => ?_)
      · refine r_aload_n (q := 177) dX1_size_176 rfl rfl rfl ?_
        refine r_gR (q := 180) fl_X1_104 rfl dX1_size_177 rfl (fun x20 => ?_)
        refine r_gI (q := 183) fl_X1_393 dX1_size_180 rfl (fun x21 => ?_)
        exact r_ireturn rfl rfl dX1_size_183
      refine r_tswC (t := 184) (c0 := (10 : Int32)) dX1_size_35 (by decide) (by decide) rfl (by decide) ?_ (fun hc10 => ?_)
      · refine r_aload_n (q := 185) dX1_size_184 rfl rfl rfl ?_
        refine r_gR (q := 188) fl_X1_104 rfl dX1_size_185 rfl (fun x22 => ?_)
        refine r_gI (q := 191) fl_X1_421 dX1_size_188 rfl (fun x23 => ?_)
        exact r_ireturn rfl rfl dX1_size_191
      refine r_tswC (t := 192) (c0 := (11 : Int32)) dX1_size_35 (by decide) (by decide) rfl (by decide) ?_ (fun hc11 => ?_)
      · refine r_aload_n (q := 193) dX1_size_192 rfl rfl rfl ?_
        refine r_gR (q := 196) fl_X1_104 rfl dX1_size_193 rfl (fun x24 => ?_)
        refine r_ob (fun a27 ha27 => ?_)
        obtain ⟨hea27, hka27⟩ := o_at_eq ha27
        cases hea27
        refine r_callI (q := 199) (c_X8_cases G h0 N _ _) (cl_V (ci := 7) rfl rfl (lw_V q1296 q1297 q1298 q177 q1299) (hd_X8_cases) ⟨Nat.le_of_ble_eq_true rfl, Nat.le_of_ble_eq_true rfl⟩ (List.mem_singleton.mp hka27) rfl rfl rfl (Nat.le_of_ble_eq_true rfl) dX1_size_196) rfl (fun x25 σ26 => ?_)
        exact r_ireturn rfl rfl dX1_size_199
      refine r_tswC (t := 200) (c0 := (12 : Int32)) dX1_size_35 (by decide) (by decide) rfl (by decide) ?_ (fun hc12 => ?_)
      · refine r_aload_n (q := 201) dX1_size_200 rfl rfl rfl ?_
        refine r_gI (q := 204) fl_X1_118 dX1_size_201 rfl (fun x28 => ?_)
        exact r_ireturn rfl rfl dX1_size_204
      refine r_tswC (t := 205) (c0 := (13 : Int32)) dX1_size_35 (by decide) (by decide) rfl (by decide) ?_ (fun hc13 => ?_)
      · refine r_aload_n (q := 206) dX1_size_205 rfl rfl rfl ?_
        refine r_gI (q := 209) fl_X1_121 dX1_size_206 rfl (fun x29 => ?_)
        exact r_ireturn rfl rfl dX1_size_209
      refine r_tswD (t := 210) dX1_size_35 (tsw_out 14 _ (by decide) (fun k hk => match k, hk with | 0, _ => hc0 | 1, _ => hc1 | 2, _ => hc2 | 3, _ => hc3 | 4, _ => hc4 | 5, _ => hc5 | 6, _ => hc6 | 7, _ => hc7 | 8, _ => hc8 | 9, _ => hc9 | 10, _ => hc10 | 11, _ => hc11 | 12, _ => hc12 | 13, _ => hc13 | k + 14, hk => absurd hk (by omega)) : _) (by decide) ?_
      · refine r_iconst (q := 211) (v := (-1 : Int32)) dX1_size_210 rfl (by decide) ?_
        exact r_ireturn rfl rfl dX1_size_211
theorem c_X7_size (G : Gx) (h0 : G0 G) (N : Nat) (a0 : Nat) (i1 : Int32) (σ : Mem) : Ct G mX7_size rhoI [vR (some a0), vI i1] σ (f_X7_size N a0 i1 σ) := by
  refine Ct_of h0 (by decide) rfl (Nat.le_of_ble_eq_true rfl) (L0 := [some (vR (some a0)), some (vI i1)]) rfl ?_
  unfold f_X7_size
  refine r_aload_n (q := 1) dX7_size_0 rfl rfl rfl ?_
  refine r_iconst (q := 2) (v := (0 : Int32)) dX7_size_1 rfl (by decide) ?_
  refine r_pI (q := 5) fp_X7_size_66 dX7_size_2 rfl (fun σ1 => ?_)
  refine r_iload_n (q := 6) dX7_size_5 rfl rfl rfl ?_
  refine r_bipush (q := 8) (v := (14 : Int32)) dX7_size_6 rfl (by decide) ?_
  refine r_icmp_ne (q := 11) (t := 16) dX7_size_8 rfl (by decide) (fun _ => ?_) (fun _ => ?_)
  · refine r_aload_n (q := 12) dX7_size_11 rfl rfl rfl ?_
    refine r_gI (q := 15) fl_X7_435 dX7_size_12 rfl (fun x33 => ?_)
    exact r_ireturn rfl rfl dX7_size_15
  · refine r_iload_n (q := 17) dX7_size_16 rfl rfl rfl ?_
    refine r_iconst (q := 18) (v := (0 : Int32)) dX7_size_17 rfl (by decide) ?_
    refine r_bipush (q := 20) (v := (13 : Int32)) dX7_size_18 rfl (by decide) ?_
    refine r_callI (q := 23) (c_X7_within G h0 N _ _ _ _) (cl_S rfl rfl (lw_S q2236 q2237 q176 q2238) (hd_X7_within) ⟨Nat.le_of_ble_eq_true rfl, Nat.le_of_ble_eq_true rfl⟩ rfl (Nat.le_of_ble_eq_true rfl) dX7_size_20) rfl (fun x2 σ3 => ?_)
    refine r_if_ne (q := 26) (t := 28) dX7_size_23 rfl (by decide) (fun _ => ?_) (fun _ => ?_)
    · refine r_iconst (q := 27) (v := (-1 : Int32)) dX7_size_26 rfl (by decide) ?_
      exact r_ireturn rfl rfl dX7_size_27
    · refine r_aload_n (q := 29) dX7_size_28 rfl rfl rfl ?_
      refine r_gR (q := 32) fl_X7_442 rfl dX7_size_29 rfl (fun x4 => ?_)
      refine r_ifnonnull (q := 35) (t := 37) dX7_size_32 rfl (by decide) (fun _ => ?_) (fun _ => ?_)
      · refine r_iconst (q := 36) (v := (0 : Int32)) dX7_size_35 rfl (by decide) ?_
        exact r_ireturn rfl rfl dX7_size_36
      · refine r_iload_n (q := 38) dX7_size_37 rfl rfl rfl ?_
        refine r_tswC (t := 104) (c0 := (0 : Int32)) dX7_size_38 (by decide) (by decide) rfl (by decide) ?_ (fun hc0 => ?_)
        · refine r_aload_n (q := 105) dX7_size_104 rfl rfl rfl ?_
          refine r_gR (q := 108) fl_X7_442 rfl dX7_size_105 rfl (fun x5 => ?_)
          refine r_gI (q := 111) fl_X7_196 dX7_size_108 rfl (fun x6 => ?_)
          exact r_ireturn rfl rfl dX7_size_111
        refine r_tswC (t := 112) (c0 := (1 : Int32)) dX7_size_38 (by decide) (by decide) rfl (by decide) ?_ (fun hc1 => ?_)
        · refine r_aload_n (q := 113) dX7_size_112 rfl rfl rfl ?_
          refine r_gR (q := 116) fl_X7_442 rfl dX7_size_113 rfl (fun x7 => ?_)
          refine r_gI (q := 119) fl_X7_229 dX7_size_116 rfl (fun x8 => ?_)
          exact r_ireturn rfl rfl dX7_size_119
        refine r_tswC (t := 120) (c0 := (2 : Int32)) dX7_size_38 (by decide) (by decide) rfl (by decide) ?_ (fun hc2 => ?_)
        · refine r_aload_n (q := 121) dX7_size_120 rfl rfl rfl ?_
          refine r_gR (q := 124) fl_X7_442 rfl dX7_size_121 rfl (fun x9 => ?_)
          refine r_gI (q := 127) fl_X7_241 dX7_size_124 rfl (fun x10 => ?_)
          exact r_ireturn rfl rfl dX7_size_127
        refine r_tswC (t := 128) (c0 := (3 : Int32)) dX7_size_38 (by decide) (by decide) rfl (by decide) ?_ (fun hc3 => ?_)
        · refine r_aload_n (q := 129) dX7_size_128 rfl rfl rfl ?_
          refine r_gR (q := 132) fl_X7_442 rfl dX7_size_129 rfl (fun x11 => ?_)
          refine r_gI (q := 135) fl_X7_306 dX7_size_132 rfl (fun x12 => ?_)
          exact r_ireturn rfl rfl dX7_size_135
        refine r_tswC (t := 136) (c0 := (4 : Int32)) dX7_size_38 (by decide) (by decide) rfl (by decide) ?_ (fun hc4 => ?_)
        · refine r_aload_n (q := 137) dX7_size_136 rfl rfl rfl ?_
          refine r_gR (q := 140) fl_X7_442 rfl dX7_size_137 rfl (fun x13 => ?_)
          refine r_gI (q := 143) fl_X7_320 dX7_size_140 rfl (fun x14 => ?_)
          exact r_ireturn rfl rfl dX7_size_143
        refine r_tswC (t := 144) (c0 := (5 : Int32)) dX7_size_38 (by decide) (by decide) rfl (by decide) ?_ (fun hc5 => ?_)
        · refine r_aload_n (q := 145) dX7_size_144 rfl rfl rfl ?_
          refine r_gR (q := 148) fl_X7_442 rfl dX7_size_145 rfl (fun x15 => ?_)
          refine r_gI (q := 151) fl_X7_328 dX7_size_148 rfl (fun x16 => ?_)
          exact r_ireturn rfl rfl dX7_size_151
        refine r_tswC (t := 152) (c0 := (6 : Int32)) dX7_size_38 (by decide) (by decide) rfl (by decide) ?_ (fun hc6 => ?_)
        · refine r_aload_n (q := 153) dX7_size_152 rfl rfl rfl ?_
          refine r_gR (q := 156) fl_X7_442 rfl dX7_size_153 rfl (fun x17 => ?_)
          refine r_gI (q := 159) fl_X7_370 dX7_size_156 rfl (fun x18 => ?_)
          exact r_ireturn rfl rfl dX7_size_159
        refine r_tswC (t := 160) (c0 := (7 : Int32)) dX7_size_38 (by decide) (by decide) rfl (by decide) ?_ (fun hc7 => ?_)
        · refine r_aload_n (q := 161) dX7_size_160 rfl rfl rfl ?_
          refine r_gR (q := 164) fl_X7_442 rfl dX7_size_161 rfl (fun x19 => ?_)
          refine r_gI (q := 167) fl_X7_388 dX7_size_164 rfl (fun x20 => ?_)
          exact r_ireturn rfl rfl dX7_size_167
        refine r_tswC (t := 168) (c0 := (8 : Int32)) dX7_size_38 (by decide) (by decide) rfl (by decide) ?_ (fun hc8 => ?_)
        · refine r_aload_n (q := 169) dX7_size_168 rfl rfl rfl ?_
          refine r_gR (q := 172) fl_X7_442 rfl dX7_size_169 rfl (fun x21 => ?_)
          refine r_gI (q := 175) fl_X7_393 dX7_size_172 rfl (fun x22 => ?_)
          exact r_ireturn rfl rfl dX7_size_175
        refine r_tswC (t := 176) (c0 := (9 : Int32)) dX7_size_38 (by decide) (by decide) rfl (by decide) ?_ (fun hc9 => ?_)
        · refine r_aload_n (q := 177) dX7_size_176 rfl rfl rfl ?_
          refine r_gR (q := 180) fl_X7_442 rfl dX7_size_177 rfl (fun x23 => ?_)
          refine r_gI (q := 183) fl_X7_413 dX7_size_180 rfl (fun x24 => ?_)
          exact r_ireturn rfl rfl dX7_size_183
        refine r_tswC (t := 184) (c0 := (10 : Int32)) dX7_size_38 (by decide) (by decide) rfl (by decide) ?_ (fun hc10 => ?_)
        · refine r_aload_n (q := 185) dX7_size_184 rfl rfl rfl ?_
          refine r_gR (q := 188) fl_X7_442 rfl dX7_size_185 rfl (fun x25 => ?_)
          refine r_gI (q := 191) fl_X7_419 dX7_size_188 rfl (fun x26 => ?_)
          exact r_ireturn rfl rfl dX7_size_191
        refine r_tswC (t := 192) (c0 := (11 : Int32)) dX7_size_38 (by decide) (by decide) rfl (by decide) ?_ (fun hc11 => ?_)
        · refine r_aload_n (q := 193) dX7_size_192 rfl rfl rfl ?_
          refine r_gR (q := 196) fl_X7_442 rfl dX7_size_193 rfl (fun x27 => ?_)
          refine r_ob (fun a30 ha30 => ?_)
          obtain ⟨hea30, hka30⟩ := o_at_eq ha30
          cases hea30
          refine r_callI (q := 199) (c_X24_cases G h0 N _ _) (cl_V (ci := 20) rfl rfl (lw_V q2375 q2376 q2377 q199 q2378) (hd_X24_cases) ⟨Nat.le_of_ble_eq_true rfl, Nat.le_of_ble_eq_true rfl⟩ (List.mem_singleton.mp hka30) rfl rfl rfl (Nat.le_of_ble_eq_true rfl) dX7_size_196) rfl (fun x28 σ29 => ?_)
          exact r_ireturn rfl rfl dX7_size_199
        refine r_tswC (t := 200) (c0 := (12 : Int32)) dX7_size_38 (by decide) (by decide) rfl (by decide) ?_ (fun hc12 => ?_)
        · refine r_aload_n (q := 201) dX7_size_200 rfl rfl rfl ?_
          refine r_gI (q := 204) fl_X7_444 dX7_size_201 rfl (fun x31 => ?_)
          exact r_ireturn rfl rfl dX7_size_204
        refine r_tswD (t := 205) dX7_size_38 (tsw_out 13 _ (by decide) (fun k hk => match k, hk with | 0, _ => hc0 | 1, _ => hc1 | 2, _ => hc2 | 3, _ => hc3 | 4, _ => hc4 | 5, _ => hc5 | 6, _ => hc6 | 7, _ => hc7 | 8, _ => hc8 | 9, _ => hc9 | 10, _ => hc10 | 11, _ => hc11 | 12, _ => hc12 | k + 13, hk => absurd hk (by omega)) : _) (by decide) ?_
        · refine r_aload_n (q := 206) dX7_size_205 rfl rfl rfl ?_
          refine r_gI (q := 209) fl_X7_447 dX7_size_206 rfl (fun x32 => ?_)
          exact r_ireturn rfl rfl dX7_size_209
theorem c_X1_trouble (G : Gx) (h0 : G0 G) (N : Nat) (a0 : Nat) (σ : Mem) : Ct G mX1_trouble rhoI [vR (some a0)] σ (f_X1_trouble N a0 σ) := by
  refine Ct_of h0 (by decide) rfl (Nat.le_of_ble_eq_true rfl) (L0 := [some (vR (some a0))]) rfl ?_
  unfold f_X1_trouble
  refine r_aload_n (q := 1) dX1_trouble_0 rfl rfl rfl ?_
  refine r_gI (q := 4) fl_X1_77 dX1_trouble_1 rfl (fun x1 => ?_)
  exact r_ireturn rfl rfl dX1_trouble_4
theorem c_X7_trouble (G : Gx) (h0 : G0 G) (N : Nat) (a0 : Nat) (σ : Mem) : Ct G mX7_trouble rhoI [vR (some a0)] σ (f_X7_trouble N a0 σ) := by
  refine Ct_of h0 (by decide) rfl (Nat.le_of_ble_eq_true rfl) (L0 := [some (vR (some a0))]) rfl ?_
  unfold f_X7_trouble
  refine r_aload_n (q := 1) dX7_trouble_0 rfl rfl rfl ?_
  refine r_iconst (q := 2) (v := (0 : Int32)) dX7_trouble_1 rfl (by decide) ?_
  refine r_pI (q := 5) fp_X7_trouble_66 dX7_trouble_2 rfl (fun σ1 => ?_)
  refine r_aload_n (q := 6) dX7_trouble_5 rfl rfl rfl ?_
  refine r_gI (q := 9) fl_X7_69 dX7_trouble_6 rfl (fun x2 => ?_)
  exact r_ireturn rfl rfl dX7_trouble_9
