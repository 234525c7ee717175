/-! the walks of X15_init X2_goat X16_init X2_goatOf J3_coder J3_length J4_checkIndex J3_checkIndex J6_charAt J3_charAt X1_has X2_order X2_goatLine X2_fears X2_plant X17_init X18_init X2_hour X19_init X20_init X2_clue X21_init X2_factLine X2_factHere X2_holds X22_init X2_fact X22_has X2_rule X2_beginsOnce X2_proof X23_init X2_court X2_cheese -/
set_option maxRecDepth 100000
def dkwX15_init_0 : List UInt8 := [42, 43, 28, 183, 0, 1, 177]
abbrev dktX15_init_0 : List UInt8 := dkwX15_init_0 ++ []
theorem dksX15_init_0 : cX15_init.data.toList.drop 0 = dktX15_init_0 := by decide +kernel
theorem dX15_init_0 : decode cX15_init 0 = .ok (.aload_n 0, 1) := dk_42 (dk_at dksX15_init_0 0 rfl rfl)
theorem dX15_init_1 : decode cX15_init 1 = .ok (.aload_n 1, 1) := dk_43 (dk_at dksX15_init_0 1 rfl rfl)
theorem dX15_init_2 : decode cX15_init 2 = .ok (.iload_n 2, 1) := dk_28 (dk_at dksX15_init_0 2 rfl rfl)
theorem dX15_init_3 : decode cX15_init 3 = .ok (.invokespecial 1, 3) := dk_183 0 1 (dk_at dksX15_init_0 3 rfl rfl)
theorem dX15_init_6 : decode cX15_init 6 = .ok (.return_, 1) := dk_177 (dk_at dksX15_init_0 6 rfl rfl)
def dkwX2_goat_1 : List UInt8 := [192, 0, 147, 176]
abbrev dktX2_goat_1 : List UInt8 := dkwX2_goat_1 ++ []
def dkwX2_goat_0 : List UInt8 := [42, 182, 0, 136, 76, 43, 193, 0, 147, 154, 0, 9, 42, 5, 182, 0, 82, 191, 42, 182, 0, 75, 43]
abbrev dktX2_goat_0 : List UInt8 := dkwX2_goat_0 ++ dktX2_goat_1
theorem dksX2_goat_0 : cX2_goat.data.toList.drop 0 = dktX2_goat_0 := by decide +kernel
theorem dksX2_goat_1 : cX2_goat.data.toList.drop 23 = dktX2_goat_1 := dk_seg dksX2_goat_0 23 rfl rfl
theorem dX2_goat_0 : decode cX2_goat 0 = .ok (.aload_n 0, 1) := dk_42 (dk_at dksX2_goat_0 0 rfl rfl)
theorem dX2_goat_1 : decode cX2_goat 1 = .ok (.invokevirtual 136, 3) := dk_182 0 136 (dk_at dksX2_goat_0 1 rfl rfl)
theorem dX2_goat_4 : decode cX2_goat 4 = .ok (.astore_n 1, 1) := dk_76 (dk_at dksX2_goat_0 4 rfl rfl)
theorem dX2_goat_5 : decode cX2_goat 5 = .ok (.aload_n 1, 1) := dk_43 (dk_at dksX2_goat_0 5 rfl rfl)
theorem dX2_goat_6 : decode cX2_goat 6 = .ok (.instanceof 147, 3) := dk_193 0 147 (dk_at dksX2_goat_0 6 rfl rfl)
theorem dX2_goat_9 : decode cX2_goat 9 = .ok (.ifCond .ne 9, 3) := dk_154 0 9 (dk_at dksX2_goat_0 9 rfl rfl)
theorem dX2_goat_12 : decode cX2_goat 12 = .ok (.aload_n 0, 1) := dk_42 (dk_at dksX2_goat_0 12 rfl rfl)
theorem dX2_goat_13 : decode cX2_goat 13 = .ok (.iconst 2, 1) := dk_5 (dk_at dksX2_goat_0 13 rfl rfl)
theorem dX2_goat_14 : decode cX2_goat 14 = .ok (.invokevirtual 82, 3) := dk_182 0 82 (dk_at dksX2_goat_0 14 rfl rfl)
theorem dX2_goat_17 : decode cX2_goat 17 = .ok (.athrow, 1) := dk_191 (dk_at dksX2_goat_0 17 rfl rfl)
theorem dX2_goat_18 : decode cX2_goat 18 = .ok (.aload_n 0, 1) := dk_42 (dk_at dksX2_goat_0 18 rfl rfl)
theorem dX2_goat_19 : decode cX2_goat 19 = .ok (.invokevirtual 75, 3) := dk_182 0 75 (dk_at dksX2_goat_0 19 rfl rfl)
theorem dX2_goat_22 : decode cX2_goat 22 = .ok (.aload_n 1, 1) := dk_43 (dk_at dksX2_goat_0 22 rfl rfl)
theorem dX2_goat_23 : decode cX2_goat 23 = .ok (.checkcast 147, 3) := dk_192 0 147 (dk_at dksX2_goat_1 0 rfl rfl)
theorem dX2_goat_26 : decode cX2_goat 26 = .ok (.areturn, 1) := dk_176 (dk_at dksX2_goat_1 3 rfl rfl)
def dkwX16_init_0 : List UInt8 := [42, 43, 28, 183, 0, 1, 42, 45, 181, 0, 7, 177]
abbrev dktX16_init_0 : List UInt8 := dkwX16_init_0 ++ []
theorem dksX16_init_0 : cX16_init.data.toList.drop 0 = dktX16_init_0 := by decide +kernel
theorem dX16_init_0 : decode cX16_init 0 = .ok (.aload_n 0, 1) := dk_42 (dk_at dksX16_init_0 0 rfl rfl)
theorem dX16_init_1 : decode cX16_init 1 = .ok (.aload_n 1, 1) := dk_43 (dk_at dksX16_init_0 1 rfl rfl)
theorem dX16_init_2 : decode cX16_init 2 = .ok (.iload_n 2, 1) := dk_28 (dk_at dksX16_init_0 2 rfl rfl)
theorem dX16_init_3 : decode cX16_init 3 = .ok (.invokespecial 1, 3) := dk_183 0 1 (dk_at dksX16_init_0 3 rfl rfl)
theorem dX16_init_6 : decode cX16_init 6 = .ok (.aload_n 0, 1) := dk_42 (dk_at dksX16_init_0 6 rfl rfl)
theorem dX16_init_7 : decode cX16_init 7 = .ok (.aload_n 3, 1) := dk_45 (dk_at dksX16_init_0 7 rfl rfl)
theorem dX16_init_8 : decode cX16_init 8 = .ok (.putfield 7, 3) := dk_181 0 7 (dk_at dksX16_init_0 8 rfl rfl)
theorem dX16_init_11 : decode cX16_init 11 = .ok (.return_, 1) := dk_177 (dk_at dksX16_init_0 11 rfl rfl)
def dkwX2_goatOf_3 : List UInt8 := [43, 28, 42, 182, 1, 53, 183, 1, 56, 176]
abbrev dktX2_goatOf_3 : List UInt8 := dkwX2_goatOf_3 ++ []
def dkwX2_goatOf_2 : List UInt8 := [153, 0, 13, 187, 1, 46, 89, 43, 28, 183, 1, 48, 176, 42, 19, 1, 49, 182, 0, 155, 187, 1, 51, 89]
abbrev dktX2_goatOf_2 : List UInt8 := dkwX2_goatOf_2 ++ dktX2_goatOf_3
def dkwX2_goatOf_1 : List UInt8 := [182, 0, 78, 153, 0, 13, 187, 1, 41, 89, 43, 28, 183, 1, 43, 176, 42, 19, 1, 44, 182, 0, 78]
abbrev dktX2_goatOf_1 : List UInt8 := dkwX2_goatOf_1 ++ dktX2_goatOf_2
def dkwX2_goatOf_0 : List UInt8 := [42, 19, 1, 34, 182, 0, 78, 153, 0, 13, 187, 1, 36, 89, 43, 28, 183, 1, 38, 176, 42, 19, 1, 39]
abbrev dktX2_goatOf_0 : List UInt8 := dkwX2_goatOf_0 ++ dktX2_goatOf_1
theorem dksX2_goatOf_0 : cX2_goatOf.data.toList.drop 0 = dktX2_goatOf_0 := by decide +kernel
theorem dksX2_goatOf_1 : cX2_goatOf.data.toList.drop 24 = dktX2_goatOf_1 := dk_seg dksX2_goatOf_0 24 rfl rfl
theorem dksX2_goatOf_2 : cX2_goatOf.data.toList.drop 47 = dktX2_goatOf_2 := dk_seg dksX2_goatOf_1 23 rfl rfl
theorem dksX2_goatOf_3 : cX2_goatOf.data.toList.drop 71 = dktX2_goatOf_3 := dk_seg dksX2_goatOf_2 24 rfl rfl
theorem dX2_goatOf_0 : decode cX2_goatOf 0 = .ok (.aload_n 0, 1) := dk_42 (dk_at dksX2_goatOf_0 0 rfl rfl)
theorem dX2_goatOf_1 : decode cX2_goatOf 1 = .ok (.ldc_w 290, 3) := dk_19 1 34 (dk_at dksX2_goatOf_0 1 rfl rfl)
theorem dX2_goatOf_4 : decode cX2_goatOf 4 = .ok (.invokevirtual 78, 3) := dk_182 0 78 (dk_at dksX2_goatOf_0 4 rfl rfl)
theorem dX2_goatOf_7 : decode cX2_goatOf 7 = .ok (.ifCond .eq 13, 3) := dk_153 0 13 (dk_at dksX2_goatOf_0 7 rfl rfl)
theorem dX2_goatOf_10 : decode cX2_goatOf 10 = .ok (.new 292, 3) := dk_187 1 36 (dk_at dksX2_goatOf_0 10 rfl rfl)
theorem dX2_goatOf_13 : decode cX2_goatOf 13 = .ok (.dup, 1) := dk_89 (dk_at dksX2_goatOf_0 13 rfl rfl)
theorem dX2_goatOf_14 : decode cX2_goatOf 14 = .ok (.aload_n 1, 1) := dk_43 (dk_at dksX2_goatOf_0 14 rfl rfl)
theorem dX2_goatOf_15 : decode cX2_goatOf 15 = .ok (.iload_n 2, 1) := dk_28 (dk_at dksX2_goatOf_0 15 rfl rfl)
theorem dX2_goatOf_16 : decode cX2_goatOf 16 = .ok (.invokespecial 294, 3) := dk_183 1 38 (dk_at dksX2_goatOf_0 16 rfl rfl)
theorem dX2_goatOf_19 : decode cX2_goatOf 19 = .ok (.areturn, 1) := dk_176 (dk_at dksX2_goatOf_0 19 rfl rfl)
theorem dX2_goatOf_20 : decode cX2_goatOf 20 = .ok (.aload_n 0, 1) := dk_42 (dk_at dksX2_goatOf_0 20 rfl rfl)
theorem dX2_goatOf_21 : decode cX2_goatOf 21 = .ok (.ldc_w 295, 3) := dk_19 1 39 (dk_at dksX2_goatOf_0 21 rfl rfl)
theorem dX2_goatOf_24 : decode cX2_goatOf 24 = .ok (.invokevirtual 78, 3) := dk_182 0 78 (dk_at dksX2_goatOf_1 0 rfl rfl)
theorem dX2_goatOf_27 : decode cX2_goatOf 27 = .ok (.ifCond .eq 13, 3) := dk_153 0 13 (dk_at dksX2_goatOf_1 3 rfl rfl)
theorem dX2_goatOf_30 : decode cX2_goatOf 30 = .ok (.new 297, 3) := dk_187 1 41 (dk_at dksX2_goatOf_1 6 rfl rfl)
theorem dX2_goatOf_33 : decode cX2_goatOf 33 = .ok (.dup, 1) := dk_89 (dk_at dksX2_goatOf_1 9 rfl rfl)
theorem dX2_goatOf_34 : decode cX2_goatOf 34 = .ok (.aload_n 1, 1) := dk_43 (dk_at dksX2_goatOf_1 10 rfl rfl)
theorem dX2_goatOf_35 : decode cX2_goatOf 35 = .ok (.iload_n 2, 1) := dk_28 (dk_at dksX2_goatOf_1 11 rfl rfl)
theorem dX2_goatOf_36 : decode cX2_goatOf 36 = .ok (.invokespecial 299, 3) := dk_183 1 43 (dk_at dksX2_goatOf_1 12 rfl rfl)
theorem dX2_goatOf_39 : decode cX2_goatOf 39 = .ok (.areturn, 1) := dk_176 (dk_at dksX2_goatOf_1 15 rfl rfl)
theorem dX2_goatOf_40 : decode cX2_goatOf 40 = .ok (.aload_n 0, 1) := dk_42 (dk_at dksX2_goatOf_1 16 rfl rfl)
theorem dX2_goatOf_41 : decode cX2_goatOf 41 = .ok (.ldc_w 300, 3) := dk_19 1 44 (dk_at dksX2_goatOf_1 17 rfl rfl)
theorem dX2_goatOf_44 : decode cX2_goatOf 44 = .ok (.invokevirtual 78, 3) := dk_182 0 78 (dk_at dksX2_goatOf_1 20 rfl rfl)
theorem dX2_goatOf_47 : decode cX2_goatOf 47 = .ok (.ifCond .eq 13, 3) := dk_153 0 13 (dk_at dksX2_goatOf_2 0 rfl rfl)
theorem dX2_goatOf_50 : decode cX2_goatOf 50 = .ok (.new 302, 3) := dk_187 1 46 (dk_at dksX2_goatOf_2 3 rfl rfl)
theorem dX2_goatOf_53 : decode cX2_goatOf 53 = .ok (.dup, 1) := dk_89 (dk_at dksX2_goatOf_2 6 rfl rfl)
theorem dX2_goatOf_54 : decode cX2_goatOf 54 = .ok (.aload_n 1, 1) := dk_43 (dk_at dksX2_goatOf_2 7 rfl rfl)
theorem dX2_goatOf_55 : decode cX2_goatOf 55 = .ok (.iload_n 2, 1) := dk_28 (dk_at dksX2_goatOf_2 8 rfl rfl)
theorem dX2_goatOf_56 : decode cX2_goatOf 56 = .ok (.invokespecial 304, 3) := dk_183 1 48 (dk_at dksX2_goatOf_2 9 rfl rfl)
theorem dX2_goatOf_59 : decode cX2_goatOf 59 = .ok (.areturn, 1) := dk_176 (dk_at dksX2_goatOf_2 12 rfl rfl)
theorem dX2_goatOf_60 : decode cX2_goatOf 60 = .ok (.aload_n 0, 1) := dk_42 (dk_at dksX2_goatOf_2 13 rfl rfl)
theorem dX2_goatOf_61 : decode cX2_goatOf 61 = .ok (.ldc_w 305, 3) := dk_19 1 49 (dk_at dksX2_goatOf_2 14 rfl rfl)
theorem dX2_goatOf_64 : decode cX2_goatOf 64 = .ok (.invokevirtual 155, 3) := dk_182 0 155 (dk_at dksX2_goatOf_2 17 rfl rfl)
theorem dX2_goatOf_67 : decode cX2_goatOf 67 = .ok (.new 307, 3) := dk_187 1 51 (dk_at dksX2_goatOf_2 20 rfl rfl)
theorem dX2_goatOf_70 : decode cX2_goatOf 70 = .ok (.dup, 1) := dk_89 (dk_at dksX2_goatOf_2 23 rfl rfl)
theorem dX2_goatOf_71 : decode cX2_goatOf 71 = .ok (.aload_n 1, 1) := dk_43 (dk_at dksX2_goatOf_3 0 rfl rfl)
theorem dX2_goatOf_72 : decode cX2_goatOf 72 = .ok (.iload_n 2, 1) := dk_28 (dk_at dksX2_goatOf_3 1 rfl rfl)
theorem dX2_goatOf_73 : decode cX2_goatOf 73 = .ok (.aload_n 0, 1) := dk_42 (dk_at dksX2_goatOf_3 2 rfl rfl)
theorem dX2_goatOf_74 : decode cX2_goatOf 74 = .ok (.invokevirtual 309, 3) := dk_182 1 53 (dk_at dksX2_goatOf_3 3 rfl rfl)
theorem dX2_goatOf_77 : decode cX2_goatOf 77 = .ok (.invokespecial 312, 3) := dk_183 1 56 (dk_at dksX2_goatOf_3 6 rfl rfl)
theorem dX2_goatOf_80 : decode cX2_goatOf 80 = .ok (.areturn, 1) := dk_176 (dk_at dksX2_goatOf_3 9 rfl rfl)
def dkwJ3_coder_0 : List UInt8 := [178, 0, 38, 153, 0, 10, 42, 180, 0, 15, 167, 0, 4, 4, 172]
abbrev dktJ3_coder_0 : List UInt8 := dkwJ3_coder_0 ++ []
theorem dksJ3_coder_0 : cJ3_coder.data.toList.drop 0 = dktJ3_coder_0 := by decide +kernel
theorem dJ3_coder_0 : decode cJ3_coder 0 = .ok (.getstatic 38, 3) := dk_178 0 38 (dk_at dksJ3_coder_0 0 rfl rfl)
theorem dJ3_coder_3 : decode cJ3_coder 3 = .ok (.ifCond .eq 10, 3) := dk_153 0 10 (dk_at dksJ3_coder_0 3 rfl rfl)
theorem dJ3_coder_6 : decode cJ3_coder 6 = .ok (.aload_n 0, 1) := dk_42 (dk_at dksJ3_coder_0 6 rfl rfl)
theorem dJ3_coder_7 : decode cJ3_coder 7 = .ok (.getfield 15, 3) := dk_180 0 15 (dk_at dksJ3_coder_0 7 rfl rfl)
theorem dJ3_coder_10 : decode cJ3_coder 10 = .ok (.goto 4, 3) := dk_167 0 4 (dk_at dksJ3_coder_0 10 rfl rfl)
theorem dJ3_coder_13 : decode cJ3_coder 13 = .ok (.iconst 1, 1) := dk_4 (dk_at dksJ3_coder_0 13 rfl rfl)
theorem dJ3_coder_14 : decode cJ3_coder 14 = .ok (.ireturn, 1) := dk_172 (dk_at dksJ3_coder_0 14 rfl rfl)
def dkwJ3_length_0 : List UInt8 := [42, 180, 0, 9, 190, 42, 182, 1, 79, 122, 172]
abbrev dktJ3_length_0 : List UInt8 := dkwJ3_length_0 ++ []
theorem dksJ3_length_0 : cJ3_length.data.toList.drop 0 = dktJ3_length_0 := by decide +kernel
theorem dJ3_length_0 : decode cJ3_length 0 = .ok (.aload_n 0, 1) := dk_42 (dk_at dksJ3_length_0 0 rfl rfl)
theorem dJ3_length_1 : decode cJ3_length 1 = .ok (.getfield 9, 3) := dk_180 0 9 (dk_at dksJ3_length_0 1 rfl rfl)
theorem dJ3_length_4 : decode cJ3_length 4 = .ok (.arraylength, 1) := dk_190 (dk_at dksJ3_length_0 4 rfl rfl)
theorem dJ3_length_5 : decode cJ3_length 5 = .ok (.aload_n 0, 1) := dk_42 (dk_at dksJ3_length_0 5 rfl rfl)
theorem dJ3_length_6 : decode cJ3_length 6 = .ok (.invokevirtual 335, 3) := dk_182 1 79 (dk_at dksJ3_length_0 6 rfl rfl)
theorem dJ3_length_9 : decode cJ3_length 9 = .ok (.ishr, 1) := dk_122 (dk_at dksJ3_length_0 9 rfl rfl)
theorem dJ3_length_10 : decode cJ3_length 10 = .ok (.ireturn, 1) := dk_172 (dk_at dksJ3_length_0 10 rfl rfl)
def dkwJ4_checkIndex_0 : List UInt8 := [26, 155, 0, 8, 26, 27, 161, 0, 10, 44, 26, 27, 184, 0, 95, 191, 26, 172]
abbrev dktJ4_checkIndex_0 : List UInt8 := dkwJ4_checkIndex_0 ++ []
theorem dksJ4_checkIndex_0 : cJ4_checkIndex.data.toList.drop 0 = dktJ4_checkIndex_0 := by decide +kernel
theorem dJ4_checkIndex_0 : decode cJ4_checkIndex 0 = .ok (.iload_n 0, 1) := dk_26 (dk_at dksJ4_checkIndex_0 0 rfl rfl)
theorem dJ4_checkIndex_1 : decode cJ4_checkIndex 1 = .ok (.ifCond .lt 8, 3) := dk_155 0 8 (dk_at dksJ4_checkIndex_0 1 rfl rfl)
theorem dJ4_checkIndex_4 : decode cJ4_checkIndex 4 = .ok (.iload_n 0, 1) := dk_26 (dk_at dksJ4_checkIndex_0 4 rfl rfl)
theorem dJ4_checkIndex_5 : decode cJ4_checkIndex 5 = .ok (.iload_n 1, 1) := dk_27 (dk_at dksJ4_checkIndex_0 5 rfl rfl)
theorem dJ4_checkIndex_6 : decode cJ4_checkIndex 6 = .ok (.if_icmp .lt 10, 3) := dk_161 0 10 (dk_at dksJ4_checkIndex_0 6 rfl rfl)
theorem dJ4_checkIndex_9 : decode cJ4_checkIndex 9 = .ok (.aload_n 2, 1) := dk_44 (dk_at dksJ4_checkIndex_0 9 rfl rfl)
theorem dJ4_checkIndex_10 : decode cJ4_checkIndex 10 = .ok (.iload_n 0, 1) := dk_26 (dk_at dksJ4_checkIndex_0 10 rfl rfl)
theorem dJ4_checkIndex_11 : decode cJ4_checkIndex 11 = .ok (.iload_n 1, 1) := dk_27 (dk_at dksJ4_checkIndex_0 11 rfl rfl)
theorem dJ4_checkIndex_12 : decode cJ4_checkIndex 12 = .ok (.invokestatic 95, 3) := dk_184 0 95 (dk_at dksJ4_checkIndex_0 12 rfl rfl)
theorem dJ4_checkIndex_15 : decode cJ4_checkIndex 15 = .ok (.athrow, 1) := dk_191 (dk_at dksJ4_checkIndex_0 15 rfl rfl)
theorem dJ4_checkIndex_16 : decode cJ4_checkIndex 16 = .ok (.iload_n 0, 1) := dk_26 (dk_at dksJ4_checkIndex_0 16 rfl rfl)
theorem dJ4_checkIndex_17 : decode cJ4_checkIndex 17 = .ok (.ireturn, 1) := dk_172 (dk_at dksJ4_checkIndex_0 17 rfl rfl)
def dkwJ3_checkIndex_0 : List UInt8 := [26, 27, 178, 4, 29, 184, 4, 35, 87, 177]
abbrev dktJ3_checkIndex_0 : List UInt8 := dkwJ3_checkIndex_0 ++ []
theorem dksJ3_checkIndex_0 : cJ3_checkIndex.data.toList.drop 0 = dktJ3_checkIndex_0 := by decide +kernel
theorem dJ3_checkIndex_0 : decode cJ3_checkIndex 0 = .ok (.iload_n 0, 1) := dk_26 (dk_at dksJ3_checkIndex_0 0 rfl rfl)
theorem dJ3_checkIndex_1 : decode cJ3_checkIndex 1 = .ok (.iload_n 1, 1) := dk_27 (dk_at dksJ3_checkIndex_0 1 rfl rfl)
theorem dJ3_checkIndex_2 : decode cJ3_checkIndex 2 = .ok (.getstatic 1053, 3) := dk_178 4 29 (dk_at dksJ3_checkIndex_0 2 rfl rfl)
theorem dJ3_checkIndex_5 : decode cJ3_checkIndex 5 = .ok (.invokestatic 1059, 3) := dk_184 4 35 (dk_at dksJ3_checkIndex_0 5 rfl rfl)
theorem dJ3_checkIndex_8 : decode cJ3_checkIndex 8 = .ok (.pop, 1) := dk_87 (dk_at dksJ3_checkIndex_0 8 rfl rfl)
theorem dJ3_checkIndex_9 : decode cJ3_checkIndex 9 = .ok (.return_, 1) := dk_177 (dk_at dksJ3_checkIndex_0 9 rfl rfl)
def dkwJ6_charAt_0 : List UInt8 := [27, 42, 190, 184, 0, 9, 42, 27, 51, 17, 0, 255, 126, 146, 172]
abbrev dktJ6_charAt_0 : List UInt8 := dkwJ6_charAt_0 ++ []
theorem dksJ6_charAt_0 : cJ6_charAt.data.toList.drop 0 = dktJ6_charAt_0 := by decide +kernel
theorem dJ6_charAt_0 : decode cJ6_charAt 0 = .ok (.iload_n 1, 1) := dk_27 (dk_at dksJ6_charAt_0 0 rfl rfl)
theorem dJ6_charAt_1 : decode cJ6_charAt 1 = .ok (.aload_n 0, 1) := dk_42 (dk_at dksJ6_charAt_0 1 rfl rfl)
theorem dJ6_charAt_2 : decode cJ6_charAt 2 = .ok (.arraylength, 1) := dk_190 (dk_at dksJ6_charAt_0 2 rfl rfl)
theorem dJ6_charAt_3 : decode cJ6_charAt 3 = .ok (.invokestatic 9, 3) := dk_184 0 9 (dk_at dksJ6_charAt_0 3 rfl rfl)
theorem dJ6_charAt_6 : decode cJ6_charAt 6 = .ok (.aload_n 0, 1) := dk_42 (dk_at dksJ6_charAt_0 6 rfl rfl)
theorem dJ6_charAt_7 : decode cJ6_charAt 7 = .ok (.iload_n 1, 1) := dk_27 (dk_at dksJ6_charAt_0 7 rfl rfl)
theorem dJ6_charAt_8 : decode cJ6_charAt 8 = .ok (.baload, 1) := dk_51 (dk_at dksJ6_charAt_0 8 rfl rfl)
theorem dJ6_charAt_9 : decode cJ6_charAt 9 = .ok (.sipush 255, 3) := dk_17 0 255 (dk_at dksJ6_charAt_0 9 rfl rfl)
theorem dJ6_charAt_12 : decode cJ6_charAt 12 = .ok (.iand, 1) := dk_126 (dk_at dksJ6_charAt_0 12 rfl rfl)
theorem dJ6_charAt_13 : decode cJ6_charAt 13 = .ok (.i2c, 1) := dk_146 (dk_at dksJ6_charAt_0 13 rfl rfl)
theorem dJ6_charAt_14 : decode cJ6_charAt 14 = .ok (.ireturn, 1) := dk_172 (dk_at dksJ6_charAt_0 14 rfl rfl)
def dkwJ3_charAt_1 : List UInt8 := [172]
abbrev dktJ3_charAt_1 : List UInt8 := dkwJ3_charAt_1 ++ []
def dkwJ3_charAt_0 : List UInt8 := [42, 182, 1, 236, 153, 0, 12, 42, 180, 0, 9, 27, 184, 1, 239, 172, 42, 180, 0, 9, 27, 184, 1, 242]
abbrev dktJ3_charAt_0 : List UInt8 := dkwJ3_charAt_0 ++ dktJ3_charAt_1
theorem dksJ3_charAt_0 : cJ3_charAt.data.toList.drop 0 = dktJ3_charAt_0 := by decide +kernel
theorem dksJ3_charAt_1 : cJ3_charAt.data.toList.drop 24 = dktJ3_charAt_1 := dk_seg dksJ3_charAt_0 24 rfl rfl
theorem dJ3_charAt_0 : decode cJ3_charAt 0 = .ok (.aload_n 0, 1) := dk_42 (dk_at dksJ3_charAt_0 0 rfl rfl)
theorem dJ3_charAt_1 : decode cJ3_charAt 1 = .ok (.invokevirtual 492, 3) := dk_182 1 236 (dk_at dksJ3_charAt_0 1 rfl rfl)
theorem dJ3_charAt_4 : decode cJ3_charAt 4 = .ok (.ifCond .eq 12, 3) := dk_153 0 12 (dk_at dksJ3_charAt_0 4 rfl rfl)
theorem dJ3_charAt_7 : decode cJ3_charAt 7 = .ok (.aload_n 0, 1) := dk_42 (dk_at dksJ3_charAt_0 7 rfl rfl)
theorem dJ3_charAt_8 : decode cJ3_charAt 8 = .ok (.getfield 9, 3) := dk_180 0 9 (dk_at dksJ3_charAt_0 8 rfl rfl)
theorem dJ3_charAt_11 : decode cJ3_charAt 11 = .ok (.iload_n 1, 1) := dk_27 (dk_at dksJ3_charAt_0 11 rfl rfl)
theorem dJ3_charAt_12 : decode cJ3_charAt 12 = .ok (.invokestatic 495, 3) := dk_184 1 239 (dk_at dksJ3_charAt_0 12 rfl rfl)
theorem dJ3_charAt_15 : decode cJ3_charAt 15 = .ok (.ireturn, 1) := dk_172 (dk_at dksJ3_charAt_0 15 rfl rfl)
theorem dJ3_charAt_16 : decode cJ3_charAt 16 = .ok (.aload_n 0, 1) := dk_42 (dk_at dksJ3_charAt_0 16 rfl rfl)
theorem dJ3_charAt_17 : decode cJ3_charAt 17 = .ok (.getfield 9, 3) := dk_180 0 9 (dk_at dksJ3_charAt_0 17 rfl rfl)
theorem dJ3_charAt_20 : decode cJ3_charAt 20 = .ok (.iload_n 1, 1) := dk_27 (dk_at dksJ3_charAt_0 20 rfl rfl)
theorem dJ3_charAt_21 : decode cJ3_charAt 21 = .ok (.invokestatic 498, 3) := dk_184 1 242 (dk_at dksJ3_charAt_0 21 rfl rfl)
theorem dJ3_charAt_24 : decode cJ3_charAt 24 = .ok (.ireturn, 1) := dk_172 (dk_at dksJ3_charAt_1 0 rfl rfl)
def dkwX1_has_0 : List UInt8 := [26, 27, 122, 4, 126, 4, 160, 0, 7, 4, 167, 0, 4, 3, 172]
abbrev dktX1_has_0 : List UInt8 := dkwX1_has_0 ++ []
theorem dksX1_has_0 : cX1_has.data.toList.drop 0 = dktX1_has_0 := by decide +kernel
theorem dX1_has_0 : decode cX1_has 0 = .ok (.iload_n 0, 1) := dk_26 (dk_at dksX1_has_0 0 rfl rfl)
theorem dX1_has_1 : decode cX1_has 1 = .ok (.iload_n 1, 1) := dk_27 (dk_at dksX1_has_0 1 rfl rfl)
theorem dX1_has_2 : decode cX1_has 2 = .ok (.ishr, 1) := dk_122 (dk_at dksX1_has_0 2 rfl rfl)
theorem dX1_has_3 : decode cX1_has 3 = .ok (.iconst 1, 1) := dk_4 (dk_at dksX1_has_0 3 rfl rfl)
theorem dX1_has_4 : decode cX1_has 4 = .ok (.iand, 1) := dk_126 (dk_at dksX1_has_0 4 rfl rfl)
theorem dX1_has_5 : decode cX1_has 5 = .ok (.iconst 1, 1) := dk_4 (dk_at dksX1_has_0 5 rfl rfl)
theorem dX1_has_6 : decode cX1_has 6 = .ok (.if_icmp .ne 7, 3) := dk_160 0 7 (dk_at dksX1_has_0 6 rfl rfl)
theorem dX1_has_9 : decode cX1_has 9 = .ok (.iconst 1, 1) := dk_4 (dk_at dksX1_has_0 9 rfl rfl)
theorem dX1_has_10 : decode cX1_has 10 = .ok (.goto 4, 3) := dk_167 0 4 (dk_at dksX1_has_0 10 rfl rfl)
theorem dX1_has_13 : decode cX1_has 13 = .ok (.iconst 0, 1) := dk_3 (dk_at dksX1_has_0 13 rfl rfl)
theorem dX1_has_14 : decode cX1_has 14 = .ok (.ireturn, 1) := dk_172 (dk_at dksX1_has_0 14 rfl rfl)
def dkwX2_order_4 : List UInt8 := [167, 255, 180, 43, 42, 180, 0, 61, 182, 0, 173, 181, 1, 66, 42, 182, 0, 75, 177]
abbrev dktX2_order_4 : List UInt8 := dkwX2_order_4 ++ []
def dkwX2_order_3 : List UInt8 := [16, 7, 182, 0, 82, 191, 28, 4, 21, 4, 120, 128, 61, 43, 180, 1, 63, 29, 21, 4, 79, 132, 3, 1]
abbrev dktX2_order_3 : List UInt8 := dkwX2_order_3 ++ dktX2_order_4
def dkwX2_order_2 : List UInt8 := [180, 0, 127, 180, 0, 166, 4, 100, 184, 0, 36, 153, 0, 12, 28, 21, 4, 184, 1, 59, 153, 0, 10, 42]
abbrev dktX2_order_2 : List UInt8 := dkwX2_order_2 ++ dktX2_order_3
def dkwX2_order_1 : List UInt8 := [182, 0, 173, 162, 0, 71, 42, 180, 0, 61, 29, 182, 0, 176, 16, 97, 100, 54, 4, 21, 4, 3, 42]
abbrev dktX2_order_1 : List UInt8 := dkwX2_order_1 ++ dktX2_order_2
def dkwX2_order_0 : List UInt8 := [42, 180, 0, 47, 5, 159, 0, 9, 42, 4, 182, 0, 82, 191, 3, 61, 3, 62, 29, 42, 180, 0, 61]
abbrev dktX2_order_0 : List UInt8 := dkwX2_order_0 ++ dktX2_order_1
theorem dksX2_order_0 : cX2_order.data.toList.drop 0 = dktX2_order_0 := by decide +kernel
theorem dksX2_order_1 : cX2_order.data.toList.drop 23 = dktX2_order_1 := dk_seg dksX2_order_0 23 rfl rfl
theorem dksX2_order_2 : cX2_order.data.toList.drop 46 = dktX2_order_2 := dk_seg dksX2_order_1 23 rfl rfl
theorem dksX2_order_3 : cX2_order.data.toList.drop 70 = dktX2_order_3 := dk_seg dksX2_order_2 24 rfl rfl
theorem dksX2_order_4 : cX2_order.data.toList.drop 94 = dktX2_order_4 := dk_seg dksX2_order_3 24 rfl rfl
theorem dX2_order_0 : decode cX2_order 0 = .ok (.aload_n 0, 1) := dk_42 (dk_at dksX2_order_0 0 rfl rfl)
theorem dX2_order_1 : decode cX2_order 1 = .ok (.getfield 47, 3) := dk_180 0 47 (dk_at dksX2_order_0 1 rfl rfl)
theorem dX2_order_4 : decode cX2_order 4 = .ok (.iconst 2, 1) := dk_5 (dk_at dksX2_order_0 4 rfl rfl)
theorem dX2_order_5 : decode cX2_order 5 = .ok (.if_icmp .eq 9, 3) := dk_159 0 9 (dk_at dksX2_order_0 5 rfl rfl)
theorem dX2_order_8 : decode cX2_order 8 = .ok (.aload_n 0, 1) := dk_42 (dk_at dksX2_order_0 8 rfl rfl)
theorem dX2_order_9 : decode cX2_order 9 = .ok (.iconst 1, 1) := dk_4 (dk_at dksX2_order_0 9 rfl rfl)
theorem dX2_order_10 : decode cX2_order 10 = .ok (.invokevirtual 82, 3) := dk_182 0 82 (dk_at dksX2_order_0 10 rfl rfl)
theorem dX2_order_13 : decode cX2_order 13 = .ok (.athrow, 1) := dk_191 (dk_at dksX2_order_0 13 rfl rfl)
theorem dX2_order_14 : decode cX2_order 14 = .ok (.iconst 0, 1) := dk_3 (dk_at dksX2_order_0 14 rfl rfl)
theorem dX2_order_15 : decode cX2_order 15 = .ok (.istore_n 2, 1) := dk_61 (dk_at dksX2_order_0 15 rfl rfl)
theorem dX2_order_16 : decode cX2_order 16 = .ok (.iconst 0, 1) := dk_3 (dk_at dksX2_order_0 16 rfl rfl)
theorem dX2_order_17 : decode cX2_order 17 = .ok (.istore_n 3, 1) := dk_62 (dk_at dksX2_order_0 17 rfl rfl)
theorem dX2_order_18 : decode cX2_order 18 = .ok (.iload_n 3, 1) := dk_29 (dk_at dksX2_order_0 18 rfl rfl)
theorem dX2_order_19 : decode cX2_order 19 = .ok (.aload_n 0, 1) := dk_42 (dk_at dksX2_order_0 19 rfl rfl)
theorem dX2_order_20 : decode cX2_order 20 = .ok (.getfield 61, 3) := dk_180 0 61 (dk_at dksX2_order_0 20 rfl rfl)
theorem dX2_order_23 : decode cX2_order 23 = .ok (.invokevirtual 173, 3) := dk_182 0 173 (dk_at dksX2_order_1 0 rfl rfl)
theorem dX2_order_26 : decode cX2_order 26 = .ok (.if_icmp .ge 71, 3) := dk_162 0 71 (dk_at dksX2_order_1 3 rfl rfl)
theorem dX2_order_29 : decode cX2_order 29 = .ok (.aload_n 0, 1) := dk_42 (dk_at dksX2_order_1 6 rfl rfl)
theorem dX2_order_30 : decode cX2_order 30 = .ok (.getfield 61, 3) := dk_180 0 61 (dk_at dksX2_order_1 7 rfl rfl)
theorem dX2_order_33 : decode cX2_order 33 = .ok (.iload_n 3, 1) := dk_29 (dk_at dksX2_order_1 10 rfl rfl)
theorem dX2_order_34 : decode cX2_order 34 = .ok (.invokevirtual 176, 3) := dk_182 0 176 (dk_at dksX2_order_1 11 rfl rfl)
theorem dX2_order_37 : decode cX2_order 37 = .ok (.bipush 97, 2) := dk_16 97 (dk_at dksX2_order_1 14 rfl rfl)
theorem dX2_order_39 : decode cX2_order 39 = .ok (.isub, 1) := dk_100 (dk_at dksX2_order_1 16 rfl rfl)
theorem dX2_order_40 : decode cX2_order 40 = .ok (.istore 4, 2) := dk_54 4 (dk_at dksX2_order_1 17 rfl rfl)
theorem dX2_order_42 : decode cX2_order 42 = .ok (.iload 4, 2) := dk_21 4 (dk_at dksX2_order_1 19 rfl rfl)
theorem dX2_order_44 : decode cX2_order 44 = .ok (.iconst 0, 1) := dk_3 (dk_at dksX2_order_1 21 rfl rfl)
theorem dX2_order_45 : decode cX2_order 45 = .ok (.aload_n 0, 1) := dk_42 (dk_at dksX2_order_1 22 rfl rfl)
theorem dX2_order_46 : decode cX2_order 46 = .ok (.getfield 127, 3) := dk_180 0 127 (dk_at dksX2_order_2 0 rfl rfl)
theorem dX2_order_49 : decode cX2_order 49 = .ok (.getfield 166, 3) := dk_180 0 166 (dk_at dksX2_order_2 3 rfl rfl)
theorem dX2_order_52 : decode cX2_order 52 = .ok (.iconst 1, 1) := dk_4 (dk_at dksX2_order_2 6 rfl rfl)
theorem dX2_order_53 : decode cX2_order 53 = .ok (.isub, 1) := dk_100 (dk_at dksX2_order_2 7 rfl rfl)
theorem dX2_order_54 : decode cX2_order 54 = .ok (.invokestatic 36, 3) := dk_184 0 36 (dk_at dksX2_order_2 8 rfl rfl)
theorem dX2_order_57 : decode cX2_order 57 = .ok (.ifCond .eq 12, 3) := dk_153 0 12 (dk_at dksX2_order_2 11 rfl rfl)
theorem dX2_order_60 : decode cX2_order 60 = .ok (.iload_n 2, 1) := dk_28 (dk_at dksX2_order_2 14 rfl rfl)
theorem dX2_order_61 : decode cX2_order 61 = .ok (.iload 4, 2) := dk_21 4 (dk_at dksX2_order_2 15 rfl rfl)
theorem dX2_order_63 : decode cX2_order 63 = .ok (.invokestatic 315, 3) := dk_184 1 59 (dk_at dksX2_order_2 17 rfl rfl)
theorem dX2_order_66 : decode cX2_order 66 = .ok (.ifCond .eq 10, 3) := dk_153 0 10 (dk_at dksX2_order_2 20 rfl rfl)
theorem dX2_order_69 : decode cX2_order 69 = .ok (.aload_n 0, 1) := dk_42 (dk_at dksX2_order_2 23 rfl rfl)
theorem dX2_order_70 : decode cX2_order 70 = .ok (.bipush 7, 2) := dk_16 7 (dk_at dksX2_order_3 0 rfl rfl)
theorem dX2_order_72 : decode cX2_order 72 = .ok (.invokevirtual 82, 3) := dk_182 0 82 (dk_at dksX2_order_3 2 rfl rfl)
theorem dX2_order_75 : decode cX2_order 75 = .ok (.athrow, 1) := dk_191 (dk_at dksX2_order_3 5 rfl rfl)
theorem dX2_order_76 : decode cX2_order 76 = .ok (.iload_n 2, 1) := dk_28 (dk_at dksX2_order_3 6 rfl rfl)
theorem dX2_order_77 : decode cX2_order 77 = .ok (.iconst 1, 1) := dk_4 (dk_at dksX2_order_3 7 rfl rfl)
theorem dX2_order_78 : decode cX2_order 78 = .ok (.iload 4, 2) := dk_21 4 (dk_at dksX2_order_3 8 rfl rfl)
theorem dX2_order_80 : decode cX2_order 80 = .ok (.ishl, 1) := dk_120 (dk_at dksX2_order_3 10 rfl rfl)
theorem dX2_order_81 : decode cX2_order 81 = .ok (.ior, 1) := dk_128 (dk_at dksX2_order_3 11 rfl rfl)
theorem dX2_order_82 : decode cX2_order 82 = .ok (.istore_n 2, 1) := dk_61 (dk_at dksX2_order_3 12 rfl rfl)
theorem dX2_order_83 : decode cX2_order 83 = .ok (.aload_n 1, 1) := dk_43 (dk_at dksX2_order_3 13 rfl rfl)
theorem dX2_order_84 : decode cX2_order 84 = .ok (.getfield 319, 3) := dk_180 1 63 (dk_at dksX2_order_3 14 rfl rfl)
theorem dX2_order_87 : decode cX2_order 87 = .ok (.iload_n 3, 1) := dk_29 (dk_at dksX2_order_3 17 rfl rfl)
theorem dX2_order_88 : decode cX2_order 88 = .ok (.iload 4, 2) := dk_21 4 (dk_at dksX2_order_3 18 rfl rfl)
theorem dX2_order_90 : decode cX2_order 90 = .ok (.iastore, 1) := dk_79 (dk_at dksX2_order_3 20 rfl rfl)
theorem dX2_order_91 : decode cX2_order 91 = .ok (.iinc 3 1, 3) := dk_132 3 1 (dk_at dksX2_order_3 21 rfl rfl)
theorem dX2_order_94 : decode cX2_order 94 = .ok (.goto (-76), 3) := dk_167 255 180 (dk_at dksX2_order_4 0 rfl rfl)
theorem dX2_order_97 : decode cX2_order 97 = .ok (.aload_n 1, 1) := dk_43 (dk_at dksX2_order_4 3 rfl rfl)
theorem dX2_order_98 : decode cX2_order 98 = .ok (.aload_n 0, 1) := dk_42 (dk_at dksX2_order_4 4 rfl rfl)
theorem dX2_order_99 : decode cX2_order 99 = .ok (.getfield 61, 3) := dk_180 0 61 (dk_at dksX2_order_4 5 rfl rfl)
theorem dX2_order_102 : decode cX2_order 102 = .ok (.invokevirtual 173, 3) := dk_182 0 173 (dk_at dksX2_order_4 8 rfl rfl)
theorem dX2_order_105 : decode cX2_order 105 = .ok (.putfield 322, 3) := dk_181 1 66 (dk_at dksX2_order_4 11 rfl rfl)
theorem dX2_order_108 : decode cX2_order 108 = .ok (.aload_n 0, 1) := dk_42 (dk_at dksX2_order_4 14 rfl rfl)
theorem dX2_order_109 : decode cX2_order 109 = .ok (.invokevirtual 75, 3) := dk_182 0 75 (dk_at dksX2_order_4 15 rfl rfl)
theorem dX2_order_112 : decode cX2_order 112 = .ok (.return_, 1) := dk_177 (dk_at dksX2_order_4 18 rfl rfl)
def dkwX2_goatLine_4 : List UInt8 := [180, 1, 69, 43, 83, 42, 180, 0, 127, 89, 180, 1, 69, 4, 96, 181, 1, 69, 177]
abbrev dktX2_goatLine_4 : List UInt8 := dkwX2_goatLine_4 ++ []
def dkwX2_goatLine_3 : List UInt8 := [19, 1, 83, 4, 16, 9, 182, 0, 221, 181, 1, 85, 42, 180, 0, 127, 180, 1, 87, 42, 180, 0, 127]
abbrev dktX2_goatLine_3 : List UInt8 := dkwX2_goatLine_3 ++ dktX2_goatLine_4
def dkwX2_goatLine_2 : List UInt8 := [182, 1, 77, 42, 19, 1, 80, 182, 0, 155, 43, 42, 182, 0, 251, 180, 0, 253, 181, 1, 81, 43, 42]
abbrev dktX2_goatLine_2 : List UInt8 := dkwX2_goatLine_2 ++ dktX2_goatLine_3
def dkwX2_goatLine_1 : List UInt8 := [182, 0, 230, 42, 180, 0, 127, 180, 1, 69, 182, 1, 72, 76, 42, 19, 1, 76, 182, 0, 155, 42, 43]
abbrev dktX2_goatLine_1 : List UInt8 := dkwX2_goatLine_1 ++ dktX2_goatLine_2
def dkwX2_goatLine_0 : List UInt8 := [42, 42, 180, 0, 127, 180, 1, 69, 16, 6, 162, 0, 7, 4, 167, 0, 4, 3, 182, 0, 226, 42, 42]
abbrev dktX2_goatLine_0 : List UInt8 := dkwX2_goatLine_0 ++ dktX2_goatLine_1
theorem dksX2_goatLine_0 : cX2_goatLine.data.toList.drop 0 = dktX2_goatLine_0 := by decide +kernel
theorem dksX2_goatLine_1 : cX2_goatLine.data.toList.drop 23 = dktX2_goatLine_1 := dk_seg dksX2_goatLine_0 23 rfl rfl
theorem dksX2_goatLine_2 : cX2_goatLine.data.toList.drop 46 = dktX2_goatLine_2 := dk_seg dksX2_goatLine_1 23 rfl rfl
theorem dksX2_goatLine_3 : cX2_goatLine.data.toList.drop 69 = dktX2_goatLine_3 := dk_seg dksX2_goatLine_2 23 rfl rfl
theorem dksX2_goatLine_4 : cX2_goatLine.data.toList.drop 92 = dktX2_goatLine_4 := dk_seg dksX2_goatLine_3 23 rfl rfl
theorem dX2_goatLine_0 : decode cX2_goatLine 0 = .ok (.aload_n 0, 1) := dk_42 (dk_at dksX2_goatLine_0 0 rfl rfl)
theorem dX2_goatLine_1 : decode cX2_goatLine 1 = .ok (.aload_n 0, 1) := dk_42 (dk_at dksX2_goatLine_0 1 rfl rfl)
theorem dX2_goatLine_2 : decode cX2_goatLine 2 = .ok (.getfield 127, 3) := dk_180 0 127 (dk_at dksX2_goatLine_0 2 rfl rfl)
theorem dX2_goatLine_5 : decode cX2_goatLine 5 = .ok (.getfield 325, 3) := dk_180 1 69 (dk_at dksX2_goatLine_0 5 rfl rfl)
theorem dX2_goatLine_8 : decode cX2_goatLine 8 = .ok (.bipush 6, 2) := dk_16 6 (dk_at dksX2_goatLine_0 8 rfl rfl)
theorem dX2_goatLine_10 : decode cX2_goatLine 10 = .ok (.if_icmp .ge 7, 3) := dk_162 0 7 (dk_at dksX2_goatLine_0 10 rfl rfl)
theorem dX2_goatLine_13 : decode cX2_goatLine 13 = .ok (.iconst 1, 1) := dk_4 (dk_at dksX2_goatLine_0 13 rfl rfl)
theorem dX2_goatLine_14 : decode cX2_goatLine 14 = .ok (.goto 4, 3) := dk_167 0 4 (dk_at dksX2_goatLine_0 14 rfl rfl)
theorem dX2_goatLine_17 : decode cX2_goatLine 17 = .ok (.iconst 0, 1) := dk_3 (dk_at dksX2_goatLine_0 17 rfl rfl)
theorem dX2_goatLine_18 : decode cX2_goatLine 18 = .ok (.invokevirtual 226, 3) := dk_182 0 226 (dk_at dksX2_goatLine_0 18 rfl rfl)
theorem dX2_goatLine_21 : decode cX2_goatLine 21 = .ok (.aload_n 0, 1) := dk_42 (dk_at dksX2_goatLine_0 21 rfl rfl)
theorem dX2_goatLine_22 : decode cX2_goatLine 22 = .ok (.aload_n 0, 1) := dk_42 (dk_at dksX2_goatLine_0 22 rfl rfl)
theorem dX2_goatLine_23 : decode cX2_goatLine 23 = .ok (.invokevirtual 230, 3) := dk_182 0 230 (dk_at dksX2_goatLine_1 0 rfl rfl)
theorem dX2_goatLine_26 : decode cX2_goatLine 26 = .ok (.aload_n 0, 1) := dk_42 (dk_at dksX2_goatLine_1 3 rfl rfl)
theorem dX2_goatLine_27 : decode cX2_goatLine 27 = .ok (.getfield 127, 3) := dk_180 0 127 (dk_at dksX2_goatLine_1 4 rfl rfl)
theorem dX2_goatLine_30 : decode cX2_goatLine 30 = .ok (.getfield 325, 3) := dk_180 1 69 (dk_at dksX2_goatLine_1 7 rfl rfl)
theorem dX2_goatLine_33 : decode cX2_goatLine 33 = .ok (.invokevirtual 328, 3) := dk_182 1 72 (dk_at dksX2_goatLine_1 10 rfl rfl)
theorem dX2_goatLine_36 : decode cX2_goatLine 36 = .ok (.astore_n 1, 1) := dk_76 (dk_at dksX2_goatLine_1 13 rfl rfl)
theorem dX2_goatLine_37 : decode cX2_goatLine 37 = .ok (.aload_n 0, 1) := dk_42 (dk_at dksX2_goatLine_1 14 rfl rfl)
theorem dX2_goatLine_38 : decode cX2_goatLine 38 = .ok (.ldc_w 332, 3) := dk_19 1 76 (dk_at dksX2_goatLine_1 15 rfl rfl)
theorem dX2_goatLine_41 : decode cX2_goatLine 41 = .ok (.invokevirtual 155, 3) := dk_182 0 155 (dk_at dksX2_goatLine_1 18 rfl rfl)
theorem dX2_goatLine_44 : decode cX2_goatLine 44 = .ok (.aload_n 0, 1) := dk_42 (dk_at dksX2_goatLine_1 21 rfl rfl)
theorem dX2_goatLine_45 : decode cX2_goatLine 45 = .ok (.aload_n 1, 1) := dk_43 (dk_at dksX2_goatLine_1 22 rfl rfl)
theorem dX2_goatLine_46 : decode cX2_goatLine 46 = .ok (.invokevirtual 333, 3) := dk_182 1 77 (dk_at dksX2_goatLine_2 0 rfl rfl)
theorem dX2_goatLine_49 : decode cX2_goatLine 49 = .ok (.aload_n 0, 1) := dk_42 (dk_at dksX2_goatLine_2 3 rfl rfl)
theorem dX2_goatLine_50 : decode cX2_goatLine 50 = .ok (.ldc_w 336, 3) := dk_19 1 80 (dk_at dksX2_goatLine_2 4 rfl rfl)
theorem dX2_goatLine_53 : decode cX2_goatLine 53 = .ok (.invokevirtual 155, 3) := dk_182 0 155 (dk_at dksX2_goatLine_2 7 rfl rfl)
theorem dX2_goatLine_56 : decode cX2_goatLine 56 = .ok (.aload_n 1, 1) := dk_43 (dk_at dksX2_goatLine_2 10 rfl rfl)
theorem dX2_goatLine_57 : decode cX2_goatLine 57 = .ok (.aload_n 0, 1) := dk_42 (dk_at dksX2_goatLine_2 11 rfl rfl)
theorem dX2_goatLine_58 : decode cX2_goatLine 58 = .ok (.invokevirtual 251, 3) := dk_182 0 251 (dk_at dksX2_goatLine_2 12 rfl rfl)
theorem dX2_goatLine_61 : decode cX2_goatLine 61 = .ok (.getfield 253, 3) := dk_180 0 253 (dk_at dksX2_goatLine_2 15 rfl rfl)
theorem dX2_goatLine_64 : decode cX2_goatLine 64 = .ok (.putfield 337, 3) := dk_181 1 81 (dk_at dksX2_goatLine_2 18 rfl rfl)
theorem dX2_goatLine_67 : decode cX2_goatLine 67 = .ok (.aload_n 1, 1) := dk_43 (dk_at dksX2_goatLine_2 21 rfl rfl)
theorem dX2_goatLine_68 : decode cX2_goatLine 68 = .ok (.aload_n 0, 1) := dk_42 (dk_at dksX2_goatLine_2 22 rfl rfl)
theorem dX2_goatLine_69 : decode cX2_goatLine 69 = .ok (.ldc_w 339, 3) := dk_19 1 83 (dk_at dksX2_goatLine_3 0 rfl rfl)
theorem dX2_goatLine_72 : decode cX2_goatLine 72 = .ok (.iconst 1, 1) := dk_4 (dk_at dksX2_goatLine_3 3 rfl rfl)
theorem dX2_goatLine_73 : decode cX2_goatLine 73 = .ok (.bipush 9, 2) := dk_16 9 (dk_at dksX2_goatLine_3 4 rfl rfl)
theorem dX2_goatLine_75 : decode cX2_goatLine 75 = .ok (.invokevirtual 221, 3) := dk_182 0 221 (dk_at dksX2_goatLine_3 6 rfl rfl)
theorem dX2_goatLine_78 : decode cX2_goatLine 78 = .ok (.putfield 341, 3) := dk_181 1 85 (dk_at dksX2_goatLine_3 9 rfl rfl)
theorem dX2_goatLine_81 : decode cX2_goatLine 81 = .ok (.aload_n 0, 1) := dk_42 (dk_at dksX2_goatLine_3 12 rfl rfl)
theorem dX2_goatLine_82 : decode cX2_goatLine 82 = .ok (.getfield 127, 3) := dk_180 0 127 (dk_at dksX2_goatLine_3 13 rfl rfl)
theorem dX2_goatLine_85 : decode cX2_goatLine 85 = .ok (.getfield 343, 3) := dk_180 1 87 (dk_at dksX2_goatLine_3 16 rfl rfl)
theorem dX2_goatLine_88 : decode cX2_goatLine 88 = .ok (.aload_n 0, 1) := dk_42 (dk_at dksX2_goatLine_3 19 rfl rfl)
theorem dX2_goatLine_89 : decode cX2_goatLine 89 = .ok (.getfield 127, 3) := dk_180 0 127 (dk_at dksX2_goatLine_3 20 rfl rfl)
theorem dX2_goatLine_92 : decode cX2_goatLine 92 = .ok (.getfield 325, 3) := dk_180 1 69 (dk_at dksX2_goatLine_4 0 rfl rfl)
theorem dX2_goatLine_95 : decode cX2_goatLine 95 = .ok (.aload_n 1, 1) := dk_43 (dk_at dksX2_goatLine_4 3 rfl rfl)
theorem dX2_goatLine_96 : decode cX2_goatLine 96 = .ok (.aastore, 1) := dk_83 (dk_at dksX2_goatLine_4 4 rfl rfl)
theorem dX2_goatLine_97 : decode cX2_goatLine 97 = .ok (.aload_n 0, 1) := dk_42 (dk_at dksX2_goatLine_4 5 rfl rfl)
theorem dX2_goatLine_98 : decode cX2_goatLine 98 = .ok (.getfield 127, 3) := dk_180 0 127 (dk_at dksX2_goatLine_4 6 rfl rfl)
theorem dX2_goatLine_101 : decode cX2_goatLine 101 = .ok (.dup, 1) := dk_89 (dk_at dksX2_goatLine_4 9 rfl rfl)
theorem dX2_goatLine_102 : decode cX2_goatLine 102 = .ok (.getfield 325, 3) := dk_180 1 69 (dk_at dksX2_goatLine_4 10 rfl rfl)
theorem dX2_goatLine_105 : decode cX2_goatLine 105 = .ok (.iconst 1, 1) := dk_4 (dk_at dksX2_goatLine_4 13 rfl rfl)
theorem dX2_goatLine_106 : decode cX2_goatLine 106 = .ok (.iadd, 1) := dk_96 (dk_at dksX2_goatLine_4 14 rfl rfl)
theorem dX2_goatLine_107 : decode cX2_goatLine 107 = .ok (.putfield 325, 3) := dk_181 1 69 (dk_at dksX2_goatLine_4 15 rfl rfl)
theorem dX2_goatLine_110 : decode cX2_goatLine 110 = .ok (.return_, 1) := dk_177 (dk_at dksX2_goatLine_4 18 rfl rfl)
def dkwX2_fears_3 : List UInt8 := [42, 180, 0, 127, 89, 180, 1, 91, 4, 96, 181, 1, 91, 177]
abbrev dktX2_fears_3 : List UInt8 := dkwX2_fears_3 ++ []
def dkwX2_fears_2 : List UInt8 := [6, 182, 0, 82, 191, 42, 182, 0, 75, 43, 89, 180, 1, 94, 4, 44, 180, 1, 96, 120, 128, 181, 1, 94]
abbrev dktX2_fears_2 : List UInt8 := dkwX2_fears_2 ++ dktX2_fears_3
def dkwX2_fears_1 : List UInt8 := [182, 1, 53, 76, 42, 182, 1, 18, 77, 43, 180, 1, 94, 44, 180, 1, 96, 184, 1, 59, 153, 0, 9, 42]
abbrev dktX2_fears_1 : List UInt8 := dkwX2_fears_1 ++ dktX2_fears_2
def dkwX2_fears_0 : List UInt8 := [42, 42, 180, 0, 127, 180, 1, 91, 16, 8, 162, 0, 7, 4, 167, 0, 4, 3, 182, 0, 226, 42]
abbrev dktX2_fears_0 : List UInt8 := dkwX2_fears_0 ++ dktX2_fears_1
theorem dksX2_fears_0 : cX2_fears.data.toList.drop 0 = dktX2_fears_0 := by decide +kernel
theorem dksX2_fears_1 : cX2_fears.data.toList.drop 22 = dktX2_fears_1 := dk_seg dksX2_fears_0 22 rfl rfl
theorem dksX2_fears_2 : cX2_fears.data.toList.drop 46 = dktX2_fears_2 := dk_seg dksX2_fears_1 24 rfl rfl
theorem dksX2_fears_3 : cX2_fears.data.toList.drop 70 = dktX2_fears_3 := dk_seg dksX2_fears_2 24 rfl rfl
theorem dX2_fears_0 : decode cX2_fears 0 = .ok (.aload_n 0, 1) := dk_42 (dk_at dksX2_fears_0 0 rfl rfl)
theorem dX2_fears_1 : decode cX2_fears 1 = .ok (.aload_n 0, 1) := dk_42 (dk_at dksX2_fears_0 1 rfl rfl)
theorem dX2_fears_2 : decode cX2_fears 2 = .ok (.getfield 127, 3) := dk_180 0 127 (dk_at dksX2_fears_0 2 rfl rfl)
theorem dX2_fears_5 : decode cX2_fears 5 = .ok (.getfield 347, 3) := dk_180 1 91 (dk_at dksX2_fears_0 5 rfl rfl)
theorem dX2_fears_8 : decode cX2_fears 8 = .ok (.bipush 8, 2) := dk_16 8 (dk_at dksX2_fears_0 8 rfl rfl)
theorem dX2_fears_10 : decode cX2_fears 10 = .ok (.if_icmp .ge 7, 3) := dk_162 0 7 (dk_at dksX2_fears_0 10 rfl rfl)
theorem dX2_fears_13 : decode cX2_fears 13 = .ok (.iconst 1, 1) := dk_4 (dk_at dksX2_fears_0 13 rfl rfl)
theorem dX2_fears_14 : decode cX2_fears 14 = .ok (.goto 4, 3) := dk_167 0 4 (dk_at dksX2_fears_0 14 rfl rfl)
theorem dX2_fears_17 : decode cX2_fears 17 = .ok (.iconst 0, 1) := dk_3 (dk_at dksX2_fears_0 17 rfl rfl)
theorem dX2_fears_18 : decode cX2_fears 18 = .ok (.invokevirtual 226, 3) := dk_182 0 226 (dk_at dksX2_fears_0 18 rfl rfl)
theorem dX2_fears_21 : decode cX2_fears 21 = .ok (.aload_n 0, 1) := dk_42 (dk_at dksX2_fears_0 21 rfl rfl)
theorem dX2_fears_22 : decode cX2_fears 22 = .ok (.invokevirtual 309, 3) := dk_182 1 53 (dk_at dksX2_fears_1 0 rfl rfl)
theorem dX2_fears_25 : decode cX2_fears 25 = .ok (.astore_n 1, 1) := dk_76 (dk_at dksX2_fears_1 3 rfl rfl)
theorem dX2_fears_26 : decode cX2_fears 26 = .ok (.aload_n 0, 1) := dk_42 (dk_at dksX2_fears_1 4 rfl rfl)
theorem dX2_fears_27 : decode cX2_fears 27 = .ok (.invokevirtual 274, 3) := dk_182 1 18 (dk_at dksX2_fears_1 5 rfl rfl)
theorem dX2_fears_30 : decode cX2_fears 30 = .ok (.astore_n 2, 1) := dk_77 (dk_at dksX2_fears_1 8 rfl rfl)
theorem dX2_fears_31 : decode cX2_fears 31 = .ok (.aload_n 1, 1) := dk_43 (dk_at dksX2_fears_1 9 rfl rfl)
theorem dX2_fears_32 : decode cX2_fears 32 = .ok (.getfield 350, 3) := dk_180 1 94 (dk_at dksX2_fears_1 10 rfl rfl)
theorem dX2_fears_35 : decode cX2_fears 35 = .ok (.aload_n 2, 1) := dk_44 (dk_at dksX2_fears_1 13 rfl rfl)
theorem dX2_fears_36 : decode cX2_fears 36 = .ok (.getfield 352, 3) := dk_180 1 96 (dk_at dksX2_fears_1 14 rfl rfl)
theorem dX2_fears_39 : decode cX2_fears 39 = .ok (.invokestatic 315, 3) := dk_184 1 59 (dk_at dksX2_fears_1 17 rfl rfl)
theorem dX2_fears_42 : decode cX2_fears 42 = .ok (.ifCond .eq 9, 3) := dk_153 0 9 (dk_at dksX2_fears_1 20 rfl rfl)
theorem dX2_fears_45 : decode cX2_fears 45 = .ok (.aload_n 0, 1) := dk_42 (dk_at dksX2_fears_1 23 rfl rfl)
theorem dX2_fears_46 : decode cX2_fears 46 = .ok (.iconst 3, 1) := dk_6 (dk_at dksX2_fears_2 0 rfl rfl)
theorem dX2_fears_47 : decode cX2_fears 47 = .ok (.invokevirtual 82, 3) := dk_182 0 82 (dk_at dksX2_fears_2 1 rfl rfl)
theorem dX2_fears_50 : decode cX2_fears 50 = .ok (.athrow, 1) := dk_191 (dk_at dksX2_fears_2 4 rfl rfl)
theorem dX2_fears_51 : decode cX2_fears 51 = .ok (.aload_n 0, 1) := dk_42 (dk_at dksX2_fears_2 5 rfl rfl)
theorem dX2_fears_52 : decode cX2_fears 52 = .ok (.invokevirtual 75, 3) := dk_182 0 75 (dk_at dksX2_fears_2 6 rfl rfl)
theorem dX2_fears_55 : decode cX2_fears 55 = .ok (.aload_n 1, 1) := dk_43 (dk_at dksX2_fears_2 9 rfl rfl)
theorem dX2_fears_56 : decode cX2_fears 56 = .ok (.dup, 1) := dk_89 (dk_at dksX2_fears_2 10 rfl rfl)
theorem dX2_fears_57 : decode cX2_fears 57 = .ok (.getfield 350, 3) := dk_180 1 94 (dk_at dksX2_fears_2 11 rfl rfl)
theorem dX2_fears_60 : decode cX2_fears 60 = .ok (.iconst 1, 1) := dk_4 (dk_at dksX2_fears_2 14 rfl rfl)
theorem dX2_fears_61 : decode cX2_fears 61 = .ok (.aload_n 2, 1) := dk_44 (dk_at dksX2_fears_2 15 rfl rfl)
theorem dX2_fears_62 : decode cX2_fears 62 = .ok (.getfield 352, 3) := dk_180 1 96 (dk_at dksX2_fears_2 16 rfl rfl)
theorem dX2_fears_65 : decode cX2_fears 65 = .ok (.ishl, 1) := dk_120 (dk_at dksX2_fears_2 19 rfl rfl)
theorem dX2_fears_66 : decode cX2_fears 66 = .ok (.ior, 1) := dk_128 (dk_at dksX2_fears_2 20 rfl rfl)
theorem dX2_fears_67 : decode cX2_fears 67 = .ok (.putfield 350, 3) := dk_181 1 94 (dk_at dksX2_fears_2 21 rfl rfl)
theorem dX2_fears_70 : decode cX2_fears 70 = .ok (.aload_n 0, 1) := dk_42 (dk_at dksX2_fears_3 0 rfl rfl)
theorem dX2_fears_71 : decode cX2_fears 71 = .ok (.getfield 127, 3) := dk_180 0 127 (dk_at dksX2_fears_3 1 rfl rfl)
theorem dX2_fears_74 : decode cX2_fears 74 = .ok (.dup, 1) := dk_89 (dk_at dksX2_fears_3 4 rfl rfl)
theorem dX2_fears_75 : decode cX2_fears 75 = .ok (.getfield 347, 3) := dk_180 1 91 (dk_at dksX2_fears_3 5 rfl rfl)
theorem dX2_fears_78 : decode cX2_fears 78 = .ok (.iconst 1, 1) := dk_4 (dk_at dksX2_fears_3 8 rfl rfl)
theorem dX2_fears_79 : decode cX2_fears 79 = .ok (.iadd, 1) := dk_96 (dk_at dksX2_fears_3 9 rfl rfl)
theorem dX2_fears_80 : decode cX2_fears 80 = .ok (.putfield 347, 3) := dk_181 1 91 (dk_at dksX2_fears_3 10 rfl rfl)
theorem dX2_fears_83 : decode cX2_fears 83 = .ok (.return_, 1) := dk_177 (dk_at dksX2_fears_3 13 rfl rfl)
def dkwX2_plant_3 : List UInt8 := [60, 42, 182, 0, 75, 27, 172]
abbrev dktX2_plant_3 : List UInt8 := dkwX2_plant_3 ++ []
def dkwX2_plant_2 : List UInt8 := [184, 0, 36, 154, 0, 10, 42, 16, 7, 182, 0, 82, 191, 42, 180, 0, 61, 3, 182, 0, 176, 16, 97, 100]
abbrev dktX2_plant_2 : List UInt8 := dkwX2_plant_2 ++ dktX2_plant_3
def dkwX2_plant_1 : List UInt8 := [160, 0, 30, 42, 180, 0, 61, 3, 182, 0, 176, 16, 97, 100, 3, 42, 180, 0, 127, 180, 0, 166, 4, 100]
abbrev dktX2_plant_1 : List UInt8 := dkwX2_plant_1 ++ dktX2_plant_2
def dkwX2_plant_0 : List UInt8 := [42, 180, 0, 47, 5, 159, 0, 9, 42, 4, 182, 0, 82, 191, 42, 180, 0, 61, 182, 0, 173, 4]
abbrev dktX2_plant_0 : List UInt8 := dkwX2_plant_0 ++ dktX2_plant_1
theorem dksX2_plant_0 : cX2_plant.data.toList.drop 0 = dktX2_plant_0 := by decide +kernel
theorem dksX2_plant_1 : cX2_plant.data.toList.drop 22 = dktX2_plant_1 := dk_seg dksX2_plant_0 22 rfl rfl
theorem dksX2_plant_2 : cX2_plant.data.toList.drop 46 = dktX2_plant_2 := dk_seg dksX2_plant_1 24 rfl rfl
theorem dksX2_plant_3 : cX2_plant.data.toList.drop 70 = dktX2_plant_3 := dk_seg dksX2_plant_2 24 rfl rfl
theorem dX2_plant_0 : decode cX2_plant 0 = .ok (.aload_n 0, 1) := dk_42 (dk_at dksX2_plant_0 0 rfl rfl)
theorem dX2_plant_1 : decode cX2_plant 1 = .ok (.getfield 47, 3) := dk_180 0 47 (dk_at dksX2_plant_0 1 rfl rfl)
theorem dX2_plant_4 : decode cX2_plant 4 = .ok (.iconst 2, 1) := dk_5 (dk_at dksX2_plant_0 4 rfl rfl)
theorem dX2_plant_5 : decode cX2_plant 5 = .ok (.if_icmp .eq 9, 3) := dk_159 0 9 (dk_at dksX2_plant_0 5 rfl rfl)
theorem dX2_plant_8 : decode cX2_plant 8 = .ok (.aload_n 0, 1) := dk_42 (dk_at dksX2_plant_0 8 rfl rfl)
theorem dX2_plant_9 : decode cX2_plant 9 = .ok (.iconst 1, 1) := dk_4 (dk_at dksX2_plant_0 9 rfl rfl)
theorem dX2_plant_10 : decode cX2_plant 10 = .ok (.invokevirtual 82, 3) := dk_182 0 82 (dk_at dksX2_plant_0 10 rfl rfl)
theorem dX2_plant_13 : decode cX2_plant 13 = .ok (.athrow, 1) := dk_191 (dk_at dksX2_plant_0 13 rfl rfl)
theorem dX2_plant_14 : decode cX2_plant 14 = .ok (.aload_n 0, 1) := dk_42 (dk_at dksX2_plant_0 14 rfl rfl)
theorem dX2_plant_15 : decode cX2_plant 15 = .ok (.getfield 61, 3) := dk_180 0 61 (dk_at dksX2_plant_0 15 rfl rfl)
theorem dX2_plant_18 : decode cX2_plant 18 = .ok (.invokevirtual 173, 3) := dk_182 0 173 (dk_at dksX2_plant_0 18 rfl rfl)
theorem dX2_plant_21 : decode cX2_plant 21 = .ok (.iconst 1, 1) := dk_4 (dk_at dksX2_plant_0 21 rfl rfl)
theorem dX2_plant_22 : decode cX2_plant 22 = .ok (.if_icmp .ne 30, 3) := dk_160 0 30 (dk_at dksX2_plant_1 0 rfl rfl)
theorem dX2_plant_25 : decode cX2_plant 25 = .ok (.aload_n 0, 1) := dk_42 (dk_at dksX2_plant_1 3 rfl rfl)
theorem dX2_plant_26 : decode cX2_plant 26 = .ok (.getfield 61, 3) := dk_180 0 61 (dk_at dksX2_plant_1 4 rfl rfl)
theorem dX2_plant_29 : decode cX2_plant 29 = .ok (.iconst 0, 1) := dk_3 (dk_at dksX2_plant_1 7 rfl rfl)
theorem dX2_plant_30 : decode cX2_plant 30 = .ok (.invokevirtual 176, 3) := dk_182 0 176 (dk_at dksX2_plant_1 8 rfl rfl)
theorem dX2_plant_33 : decode cX2_plant 33 = .ok (.bipush 97, 2) := dk_16 97 (dk_at dksX2_plant_1 11 rfl rfl)
theorem dX2_plant_35 : decode cX2_plant 35 = .ok (.isub, 1) := dk_100 (dk_at dksX2_plant_1 13 rfl rfl)
theorem dX2_plant_36 : decode cX2_plant 36 = .ok (.iconst 0, 1) := dk_3 (dk_at dksX2_plant_1 14 rfl rfl)
theorem dX2_plant_37 : decode cX2_plant 37 = .ok (.aload_n 0, 1) := dk_42 (dk_at dksX2_plant_1 15 rfl rfl)
theorem dX2_plant_38 : decode cX2_plant 38 = .ok (.getfield 127, 3) := dk_180 0 127 (dk_at dksX2_plant_1 16 rfl rfl)
theorem dX2_plant_41 : decode cX2_plant 41 = .ok (.getfield 166, 3) := dk_180 0 166 (dk_at dksX2_plant_1 19 rfl rfl)
theorem dX2_plant_44 : decode cX2_plant 44 = .ok (.iconst 1, 1) := dk_4 (dk_at dksX2_plant_1 22 rfl rfl)
theorem dX2_plant_45 : decode cX2_plant 45 = .ok (.isub, 1) := dk_100 (dk_at dksX2_plant_1 23 rfl rfl)
theorem dX2_plant_46 : decode cX2_plant 46 = .ok (.invokestatic 36, 3) := dk_184 0 36 (dk_at dksX2_plant_2 0 rfl rfl)
theorem dX2_plant_49 : decode cX2_plant 49 = .ok (.ifCond .ne 10, 3) := dk_154 0 10 (dk_at dksX2_plant_2 3 rfl rfl)
theorem dX2_plant_52 : decode cX2_plant 52 = .ok (.aload_n 0, 1) := dk_42 (dk_at dksX2_plant_2 6 rfl rfl)
theorem dX2_plant_53 : decode cX2_plant 53 = .ok (.bipush 7, 2) := dk_16 7 (dk_at dksX2_plant_2 7 rfl rfl)
theorem dX2_plant_55 : decode cX2_plant 55 = .ok (.invokevirtual 82, 3) := dk_182 0 82 (dk_at dksX2_plant_2 9 rfl rfl)
theorem dX2_plant_58 : decode cX2_plant 58 = .ok (.athrow, 1) := dk_191 (dk_at dksX2_plant_2 12 rfl rfl)
theorem dX2_plant_59 : decode cX2_plant 59 = .ok (.aload_n 0, 1) := dk_42 (dk_at dksX2_plant_2 13 rfl rfl)
theorem dX2_plant_60 : decode cX2_plant 60 = .ok (.getfield 61, 3) := dk_180 0 61 (dk_at dksX2_plant_2 14 rfl rfl)
theorem dX2_plant_63 : decode cX2_plant 63 = .ok (.iconst 0, 1) := dk_3 (dk_at dksX2_plant_2 17 rfl rfl)
theorem dX2_plant_64 : decode cX2_plant 64 = .ok (.invokevirtual 176, 3) := dk_182 0 176 (dk_at dksX2_plant_2 18 rfl rfl)
theorem dX2_plant_67 : decode cX2_plant 67 = .ok (.bipush 97, 2) := dk_16 97 (dk_at dksX2_plant_2 21 rfl rfl)
theorem dX2_plant_69 : decode cX2_plant 69 = .ok (.isub, 1) := dk_100 (dk_at dksX2_plant_2 23 rfl rfl)
theorem dX2_plant_70 : decode cX2_plant 70 = .ok (.istore_n 1, 1) := dk_60 (dk_at dksX2_plant_3 0 rfl rfl)
theorem dX2_plant_71 : decode cX2_plant 71 = .ok (.aload_n 0, 1) := dk_42 (dk_at dksX2_plant_3 1 rfl rfl)
theorem dX2_plant_72 : decode cX2_plant 72 = .ok (.invokevirtual 75, 3) := dk_182 0 75 (dk_at dksX2_plant_3 2 rfl rfl)
theorem dX2_plant_75 : decode cX2_plant 75 = .ok (.iload_n 1, 1) := dk_27 (dk_at dksX2_plant_3 5 rfl rfl)
theorem dX2_plant_76 : decode cX2_plant 76 = .ok (.ireturn, 1) := dk_172 (dk_at dksX2_plant_3 6 rfl rfl)
def dkwX17_init_0 : List UInt8 := [42, 183, 0, 1, 42, 27, 181, 0, 7, 42, 28, 181, 0, 13, 42, 29, 181, 0, 16, 177]
abbrev dktX17_init_0 : List UInt8 := dkwX17_init_0 ++ []
theorem dksX17_init_0 : cX17_init.data.toList.drop 0 = dktX17_init_0 := by decide +kernel
theorem dX17_init_0 : decode cX17_init 0 = .ok (.aload_n 0, 1) := dk_42 (dk_at dksX17_init_0 0 rfl rfl)
theorem dX17_init_1 : decode cX17_init 1 = .ok (.invokespecial 1, 3) := dk_183 0 1 (dk_at dksX17_init_0 1 rfl rfl)
theorem dX17_init_4 : decode cX17_init 4 = .ok (.aload_n 0, 1) := dk_42 (dk_at dksX17_init_0 4 rfl rfl)
theorem dX17_init_5 : decode cX17_init 5 = .ok (.iload_n 1, 1) := dk_27 (dk_at dksX17_init_0 5 rfl rfl)
theorem dX17_init_6 : decode cX17_init 6 = .ok (.putfield 7, 3) := dk_181 0 7 (dk_at dksX17_init_0 6 rfl rfl)
theorem dX17_init_9 : decode cX17_init 9 = .ok (.aload_n 0, 1) := dk_42 (dk_at dksX17_init_0 9 rfl rfl)
theorem dX17_init_10 : decode cX17_init 10 = .ok (.iload_n 2, 1) := dk_28 (dk_at dksX17_init_0 10 rfl rfl)
theorem dX17_init_11 : decode cX17_init 11 = .ok (.putfield 13, 3) := dk_181 0 13 (dk_at dksX17_init_0 11 rfl rfl)
theorem dX17_init_14 : decode cX17_init 14 = .ok (.aload_n 0, 1) := dk_42 (dk_at dksX17_init_0 14 rfl rfl)
theorem dX17_init_15 : decode cX17_init 15 = .ok (.iload_n 3, 1) := dk_29 (dk_at dksX17_init_0 15 rfl rfl)
theorem dX17_init_16 : decode cX17_init 16 = .ok (.putfield 16, 3) := dk_181 0 16 (dk_at dksX17_init_0 16 rfl rfl)
theorem dX17_init_19 : decode cX17_init 19 = .ok (.return_, 1) := dk_177 (dk_at dksX17_init_0 19 rfl rfl)
def dkwX18_init_0 : List UInt8 := [42, 27, 28, 29, 183, 0, 1, 177]
abbrev dktX18_init_0 : List UInt8 := dkwX18_init_0 ++ []
theorem dksX18_init_0 : cX18_init.data.toList.drop 0 = dktX18_init_0 := by decide +kernel
theorem dX18_init_0 : decode cX18_init 0 = .ok (.aload_n 0, 1) := dk_42 (dk_at dksX18_init_0 0 rfl rfl)
theorem dX18_init_1 : decode cX18_init 1 = .ok (.iload_n 1, 1) := dk_27 (dk_at dksX18_init_0 1 rfl rfl)
theorem dX18_init_2 : decode cX18_init 2 = .ok (.iload_n 2, 1) := dk_28 (dk_at dksX18_init_0 2 rfl rfl)
theorem dX18_init_3 : decode cX18_init 3 = .ok (.iload_n 3, 1) := dk_29 (dk_at dksX18_init_0 3 rfl rfl)
theorem dX18_init_4 : decode cX18_init 4 = .ok (.invokespecial 1, 3) := dk_183 0 1 (dk_at dksX18_init_0 4 rfl rfl)
theorem dX18_init_7 : decode cX18_init 7 = .ok (.return_, 1) := dk_177 (dk_at dksX18_init_0 7 rfl rfl)
def dkwX2_hour_0 : List UInt8 := [42, 3, 42, 180, 0, 127, 180, 0, 163, 4, 100, 182, 0, 159, 172]
abbrev dktX2_hour_0 : List UInt8 := dkwX2_hour_0 ++ []
theorem dksX2_hour_0 : cX2_hour.data.toList.drop 0 = dktX2_hour_0 := by decide +kernel
theorem dX2_hour_0 : decode cX2_hour 0 = .ok (.aload_n 0, 1) := dk_42 (dk_at dksX2_hour_0 0 rfl rfl)
theorem dX2_hour_1 : decode cX2_hour 1 = .ok (.iconst 0, 1) := dk_3 (dk_at dksX2_hour_0 1 rfl rfl)
theorem dX2_hour_2 : decode cX2_hour 2 = .ok (.aload_n 0, 1) := dk_42 (dk_at dksX2_hour_0 2 rfl rfl)
theorem dX2_hour_3 : decode cX2_hour 3 = .ok (.getfield 127, 3) := dk_180 0 127 (dk_at dksX2_hour_0 3 rfl rfl)
theorem dX2_hour_6 : decode cX2_hour 6 = .ok (.getfield 163, 3) := dk_180 0 163 (dk_at dksX2_hour_0 6 rfl rfl)
theorem dX2_hour_9 : decode cX2_hour 9 = .ok (.iconst 1, 1) := dk_4 (dk_at dksX2_hour_0 9 rfl rfl)
theorem dX2_hour_10 : decode cX2_hour 10 = .ok (.isub, 1) := dk_100 (dk_at dksX2_hour_0 10 rfl rfl)
theorem dX2_hour_11 : decode cX2_hour 11 = .ok (.invokevirtual 159, 3) := dk_182 0 159 (dk_at dksX2_hour_0 11 rfl rfl)
theorem dX2_hour_14 : decode cX2_hour 14 = .ok (.ireturn, 1) := dk_172 (dk_at dksX2_hour_0 14 rfl rfl)
def dkwX19_init_0 : List UInt8 := [42, 27, 28, 29, 183, 0, 1, 177]
abbrev dktX19_init_0 : List UInt8 := dkwX19_init_0 ++ []
theorem dksX19_init_0 : cX19_init.data.toList.drop 0 = dktX19_init_0 := by decide +kernel
theorem dX19_init_0 : decode cX19_init 0 = .ok (.aload_n 0, 1) := dk_42 (dk_at dksX19_init_0 0 rfl rfl)
theorem dX19_init_1 : decode cX19_init 1 = .ok (.iload_n 1, 1) := dk_27 (dk_at dksX19_init_0 1 rfl rfl)
theorem dX19_init_2 : decode cX19_init 2 = .ok (.iload_n 2, 1) := dk_28 (dk_at dksX19_init_0 2 rfl rfl)
theorem dX19_init_3 : decode cX19_init 3 = .ok (.iload_n 3, 1) := dk_29 (dk_at dksX19_init_0 3 rfl rfl)
theorem dX19_init_4 : decode cX19_init 4 = .ok (.invokespecial 1, 3) := dk_183 0 1 (dk_at dksX19_init_0 4 rfl rfl)
theorem dX19_init_7 : decode cX19_init 7 = .ok (.return_, 1) := dk_177 (dk_at dksX19_init_0 7 rfl rfl)
def dkwX20_init_0 : List UInt8 := [42, 27, 28, 29, 183, 0, 1, 177]
abbrev dktX20_init_0 : List UInt8 := dkwX20_init_0 ++ []
theorem dksX20_init_0 : cX20_init.data.toList.drop 0 = dktX20_init_0 := by decide +kernel
theorem dX20_init_0 : decode cX20_init 0 = .ok (.aload_n 0, 1) := dk_42 (dk_at dksX20_init_0 0 rfl rfl)
theorem dX20_init_1 : decode cX20_init 1 = .ok (.iload_n 1, 1) := dk_27 (dk_at dksX20_init_0 1 rfl rfl)
theorem dX20_init_2 : decode cX20_init 2 = .ok (.iload_n 2, 1) := dk_28 (dk_at dksX20_init_0 2 rfl rfl)
theorem dX20_init_3 : decode cX20_init 3 = .ok (.iload_n 3, 1) := dk_29 (dk_at dksX20_init_0 3 rfl rfl)
theorem dX20_init_4 : decode cX20_init 4 = .ok (.invokespecial 1, 3) := dk_183 0 1 (dk_at dksX20_init_0 4 rfl rfl)
theorem dX20_init_7 : decode cX20_init 7 = .ok (.return_, 1) := dk_177 (dk_at dksX20_init_0 7 rfl rfl)
def dkwX2_clue_6 : List UInt8 := [180, 1, 97, 4, 96, 181, 1, 97, 177]
abbrev dktX2_clue_6 : List UInt8 := dkwX2_clue_6 ++ []
def dkwX2_clue_5 : List UInt8 := [78, 42, 180, 0, 127, 180, 1, 118, 42, 180, 0, 127, 180, 1, 97, 45, 83, 42, 180, 0, 127, 89]
abbrev dktX2_clue_5 : List UInt8 := dkwX2_clue_5 ++ dktX2_clue_6
def dkwX2_clue_4 : List UInt8 := [42, 182, 1, 111, 183, 1, 114, 167, 0, 17, 187, 1, 115, 89, 28, 21, 4, 42, 182, 1, 111, 183, 1, 117]
abbrev dktX2_clue_4 : List UInt8 := dkwX2_clue_4 ++ dktX2_clue_5
def dkwX2_clue_3 : List UInt8 := [182, 0, 251, 180, 0, 253, 54, 4, 43, 18, 106, 182, 0, 71, 153, 0, 20, 187, 1, 109, 89, 28, 21, 4]
abbrev dktX2_clue_3 : List UInt8 := dkwX2_clue_3 ++ dktX2_clue_4
def dkwX2_clue_2 : List UInt8 := [54, 4, 187, 1, 104, 89, 28, 42, 182, 0, 251, 180, 0, 253, 21, 4, 183, 1, 106, 78, 167, 0, 53, 42]
abbrev dktX2_clue_2 : List UInt8 := dkwX2_clue_2 ++ dktX2_clue_3
def dkwX2_clue_1 : List UInt8 := [182, 0, 226, 42, 182, 1, 53, 180, 1, 100, 61, 43, 18, 104, 182, 0, 71, 153, 0, 30, 42, 182, 1, 101]
abbrev dktX2_clue_1 : List UInt8 := dkwX2_clue_1 ++ dktX2_clue_2
def dkwX2_clue_0 : List UInt8 := [42, 180, 0, 61, 76, 42, 42, 180, 0, 127, 180, 1, 97, 16, 10, 162, 0, 7, 4, 167, 0, 4, 3]
abbrev dktX2_clue_0 : List UInt8 := dkwX2_clue_0 ++ dktX2_clue_1
theorem dksX2_clue_0 : cX2_clue.data.toList.drop 0 = dktX2_clue_0 := by decide +kernel
theorem dksX2_clue_1 : cX2_clue.data.toList.drop 23 = dktX2_clue_1 := dk_seg dksX2_clue_0 23 rfl rfl
theorem dksX2_clue_2 : cX2_clue.data.toList.drop 47 = dktX2_clue_2 := dk_seg dksX2_clue_1 24 rfl rfl
theorem dksX2_clue_3 : cX2_clue.data.toList.drop 71 = dktX2_clue_3 := dk_seg dksX2_clue_2 24 rfl rfl
theorem dksX2_clue_4 : cX2_clue.data.toList.drop 95 = dktX2_clue_4 := dk_seg dksX2_clue_3 24 rfl rfl
theorem dksX2_clue_5 : cX2_clue.data.toList.drop 119 = dktX2_clue_5 := dk_seg dksX2_clue_4 24 rfl rfl
theorem dksX2_clue_6 : cX2_clue.data.toList.drop 141 = dktX2_clue_6 := dk_seg dksX2_clue_5 22 rfl rfl
theorem dX2_clue_0 : decode cX2_clue 0 = .ok (.aload_n 0, 1) := dk_42 (dk_at dksX2_clue_0 0 rfl rfl)
theorem dX2_clue_1 : decode cX2_clue 1 = .ok (.getfield 61, 3) := dk_180 0 61 (dk_at dksX2_clue_0 1 rfl rfl)
theorem dX2_clue_4 : decode cX2_clue 4 = .ok (.astore_n 1, 1) := dk_76 (dk_at dksX2_clue_0 4 rfl rfl)
theorem dX2_clue_5 : decode cX2_clue 5 = .ok (.aload_n 0, 1) := dk_42 (dk_at dksX2_clue_0 5 rfl rfl)
theorem dX2_clue_6 : decode cX2_clue 6 = .ok (.aload_n 0, 1) := dk_42 (dk_at dksX2_clue_0 6 rfl rfl)
theorem dX2_clue_7 : decode cX2_clue 7 = .ok (.getfield 127, 3) := dk_180 0 127 (dk_at dksX2_clue_0 7 rfl rfl)
theorem dX2_clue_10 : decode cX2_clue 10 = .ok (.getfield 353, 3) := dk_180 1 97 (dk_at dksX2_clue_0 10 rfl rfl)
theorem dX2_clue_13 : decode cX2_clue 13 = .ok (.bipush 10, 2) := dk_16 10 (dk_at dksX2_clue_0 13 rfl rfl)
theorem dX2_clue_15 : decode cX2_clue 15 = .ok (.if_icmp .ge 7, 3) := dk_162 0 7 (dk_at dksX2_clue_0 15 rfl rfl)
theorem dX2_clue_18 : decode cX2_clue 18 = .ok (.iconst 1, 1) := dk_4 (dk_at dksX2_clue_0 18 rfl rfl)
theorem dX2_clue_19 : decode cX2_clue 19 = .ok (.goto 4, 3) := dk_167 0 4 (dk_at dksX2_clue_0 19 rfl rfl)
theorem dX2_clue_22 : decode cX2_clue 22 = .ok (.iconst 0, 1) := dk_3 (dk_at dksX2_clue_0 22 rfl rfl)
theorem dX2_clue_23 : decode cX2_clue 23 = .ok (.invokevirtual 226, 3) := dk_182 0 226 (dk_at dksX2_clue_1 0 rfl rfl)
theorem dX2_clue_26 : decode cX2_clue 26 = .ok (.aload_n 0, 1) := dk_42 (dk_at dksX2_clue_1 3 rfl rfl)
theorem dX2_clue_27 : decode cX2_clue 27 = .ok (.invokevirtual 309, 3) := dk_182 1 53 (dk_at dksX2_clue_1 4 rfl rfl)
theorem dX2_clue_30 : decode cX2_clue 30 = .ok (.getfield 356, 3) := dk_180 1 100 (dk_at dksX2_clue_1 7 rfl rfl)
theorem dX2_clue_33 : decode cX2_clue 33 = .ok (.istore_n 2, 1) := dk_61 (dk_at dksX2_clue_1 10 rfl rfl)
theorem dX2_clue_34 : decode cX2_clue 34 = .ok (.aload_n 1, 1) := dk_43 (dk_at dksX2_clue_1 11 rfl rfl)
theorem dX2_clue_35 : decode cX2_clue 35 = .ok (.ldc 104, 2) := dk_18 104 (dk_at dksX2_clue_1 12 rfl rfl)
theorem dX2_clue_37 : decode cX2_clue 37 = .ok (.invokevirtual 71, 3) := dk_182 0 71 (dk_at dksX2_clue_1 14 rfl rfl)
theorem dX2_clue_40 : decode cX2_clue 40 = .ok (.ifCond .eq 30, 3) := dk_153 0 30 (dk_at dksX2_clue_1 17 rfl rfl)
theorem dX2_clue_43 : decode cX2_clue 43 = .ok (.aload_n 0, 1) := dk_42 (dk_at dksX2_clue_1 20 rfl rfl)
theorem dX2_clue_44 : decode cX2_clue 44 = .ok (.invokevirtual 357, 3) := dk_182 1 101 (dk_at dksX2_clue_1 21 rfl rfl)
theorem dX2_clue_47 : decode cX2_clue 47 = .ok (.istore 4, 2) := dk_54 4 (dk_at dksX2_clue_2 0 rfl rfl)
theorem dX2_clue_49 : decode cX2_clue 49 = .ok (.new 360, 3) := dk_187 1 104 (dk_at dksX2_clue_2 2 rfl rfl)
theorem dX2_clue_52 : decode cX2_clue 52 = .ok (.dup, 1) := dk_89 (dk_at dksX2_clue_2 5 rfl rfl)
theorem dX2_clue_53 : decode cX2_clue 53 = .ok (.iload_n 2, 1) := dk_28 (dk_at dksX2_clue_2 6 rfl rfl)
theorem dX2_clue_54 : decode cX2_clue 54 = .ok (.aload_n 0, 1) := dk_42 (dk_at dksX2_clue_2 7 rfl rfl)
theorem dX2_clue_55 : decode cX2_clue 55 = .ok (.invokevirtual 251, 3) := dk_182 0 251 (dk_at dksX2_clue_2 8 rfl rfl)
theorem dX2_clue_58 : decode cX2_clue 58 = .ok (.getfield 253, 3) := dk_180 0 253 (dk_at dksX2_clue_2 11 rfl rfl)
theorem dX2_clue_61 : decode cX2_clue 61 = .ok (.iload 4, 2) := dk_21 4 (dk_at dksX2_clue_2 14 rfl rfl)
theorem dX2_clue_63 : decode cX2_clue 63 = .ok (.invokespecial 362, 3) := dk_183 1 106 (dk_at dksX2_clue_2 16 rfl rfl)
theorem dX2_clue_66 : decode cX2_clue 66 = .ok (.astore_n 3, 1) := dk_78 (dk_at dksX2_clue_2 19 rfl rfl)
theorem dX2_clue_67 : decode cX2_clue 67 = .ok (.goto 53, 3) := dk_167 0 53 (dk_at dksX2_clue_2 20 rfl rfl)
theorem dX2_clue_70 : decode cX2_clue 70 = .ok (.aload_n 0, 1) := dk_42 (dk_at dksX2_clue_2 23 rfl rfl)
theorem dX2_clue_71 : decode cX2_clue 71 = .ok (.invokevirtual 251, 3) := dk_182 0 251 (dk_at dksX2_clue_3 0 rfl rfl)
theorem dX2_clue_74 : decode cX2_clue 74 = .ok (.getfield 253, 3) := dk_180 0 253 (dk_at dksX2_clue_3 3 rfl rfl)
theorem dX2_clue_77 : decode cX2_clue 77 = .ok (.istore 4, 2) := dk_54 4 (dk_at dksX2_clue_3 6 rfl rfl)
theorem dX2_clue_79 : decode cX2_clue 79 = .ok (.aload_n 1, 1) := dk_43 (dk_at dksX2_clue_3 8 rfl rfl)
theorem dX2_clue_80 : decode cX2_clue 80 = .ok (.ldc 106, 2) := dk_18 106 (dk_at dksX2_clue_3 9 rfl rfl)
theorem dX2_clue_82 : decode cX2_clue 82 = .ok (.invokevirtual 71, 3) := dk_182 0 71 (dk_at dksX2_clue_3 11 rfl rfl)
theorem dX2_clue_85 : decode cX2_clue 85 = .ok (.ifCond .eq 20, 3) := dk_153 0 20 (dk_at dksX2_clue_3 14 rfl rfl)
theorem dX2_clue_88 : decode cX2_clue 88 = .ok (.new 365, 3) := dk_187 1 109 (dk_at dksX2_clue_3 17 rfl rfl)
theorem dX2_clue_91 : decode cX2_clue 91 = .ok (.dup, 1) := dk_89 (dk_at dksX2_clue_3 20 rfl rfl)
theorem dX2_clue_92 : decode cX2_clue 92 = .ok (.iload_n 2, 1) := dk_28 (dk_at dksX2_clue_3 21 rfl rfl)
theorem dX2_clue_93 : decode cX2_clue 93 = .ok (.iload 4, 2) := dk_21 4 (dk_at dksX2_clue_3 22 rfl rfl)
theorem dX2_clue_95 : decode cX2_clue 95 = .ok (.aload_n 0, 1) := dk_42 (dk_at dksX2_clue_4 0 rfl rfl)
theorem dX2_clue_96 : decode cX2_clue 96 = .ok (.invokevirtual 367, 3) := dk_182 1 111 (dk_at dksX2_clue_4 1 rfl rfl)
theorem dX2_clue_99 : decode cX2_clue 99 = .ok (.invokespecial 370, 3) := dk_183 1 114 (dk_at dksX2_clue_4 4 rfl rfl)
theorem dX2_clue_102 : decode cX2_clue 102 = .ok (.goto 17, 3) := dk_167 0 17 (dk_at dksX2_clue_4 7 rfl rfl)
theorem dX2_clue_105 : decode cX2_clue 105 = .ok (.new 371, 3) := dk_187 1 115 (dk_at dksX2_clue_4 10 rfl rfl)
theorem dX2_clue_108 : decode cX2_clue 108 = .ok (.dup, 1) := dk_89 (dk_at dksX2_clue_4 13 rfl rfl)
theorem dX2_clue_109 : decode cX2_clue 109 = .ok (.iload_n 2, 1) := dk_28 (dk_at dksX2_clue_4 14 rfl rfl)
theorem dX2_clue_110 : decode cX2_clue 110 = .ok (.iload 4, 2) := dk_21 4 (dk_at dksX2_clue_4 15 rfl rfl)
theorem dX2_clue_112 : decode cX2_clue 112 = .ok (.aload_n 0, 1) := dk_42 (dk_at dksX2_clue_4 17 rfl rfl)
theorem dX2_clue_113 : decode cX2_clue 113 = .ok (.invokevirtual 367, 3) := dk_182 1 111 (dk_at dksX2_clue_4 18 rfl rfl)
theorem dX2_clue_116 : decode cX2_clue 116 = .ok (.invokespecial 373, 3) := dk_183 1 117 (dk_at dksX2_clue_4 21 rfl rfl)
theorem dX2_clue_119 : decode cX2_clue 119 = .ok (.astore_n 3, 1) := dk_78 (dk_at dksX2_clue_5 0 rfl rfl)
theorem dX2_clue_120 : decode cX2_clue 120 = .ok (.aload_n 0, 1) := dk_42 (dk_at dksX2_clue_5 1 rfl rfl)
theorem dX2_clue_121 : decode cX2_clue 121 = .ok (.getfield 127, 3) := dk_180 0 127 (dk_at dksX2_clue_5 2 rfl rfl)
theorem dX2_clue_124 : decode cX2_clue 124 = .ok (.getfield 374, 3) := dk_180 1 118 (dk_at dksX2_clue_5 5 rfl rfl)
theorem dX2_clue_127 : decode cX2_clue 127 = .ok (.aload_n 0, 1) := dk_42 (dk_at dksX2_clue_5 8 rfl rfl)
theorem dX2_clue_128 : decode cX2_clue 128 = .ok (.getfield 127, 3) := dk_180 0 127 (dk_at dksX2_clue_5 9 rfl rfl)
theorem dX2_clue_131 : decode cX2_clue 131 = .ok (.getfield 353, 3) := dk_180 1 97 (dk_at dksX2_clue_5 12 rfl rfl)
theorem dX2_clue_134 : decode cX2_clue 134 = .ok (.aload_n 3, 1) := dk_45 (dk_at dksX2_clue_5 15 rfl rfl)
theorem dX2_clue_135 : decode cX2_clue 135 = .ok (.aastore, 1) := dk_83 (dk_at dksX2_clue_5 16 rfl rfl)
theorem dX2_clue_136 : decode cX2_clue 136 = .ok (.aload_n 0, 1) := dk_42 (dk_at dksX2_clue_5 17 rfl rfl)
theorem dX2_clue_137 : decode cX2_clue 137 = .ok (.getfield 127, 3) := dk_180 0 127 (dk_at dksX2_clue_5 18 rfl rfl)
theorem dX2_clue_140 : decode cX2_clue 140 = .ok (.dup, 1) := dk_89 (dk_at dksX2_clue_5 21 rfl rfl)
theorem dX2_clue_141 : decode cX2_clue 141 = .ok (.getfield 353, 3) := dk_180 1 97 (dk_at dksX2_clue_6 0 rfl rfl)
theorem dX2_clue_144 : decode cX2_clue 144 = .ok (.iconst 1, 1) := dk_4 (dk_at dksX2_clue_6 3 rfl rfl)
theorem dX2_clue_145 : decode cX2_clue 145 = .ok (.iadd, 1) := dk_96 (dk_at dksX2_clue_6 4 rfl rfl)
theorem dX2_clue_146 : decode cX2_clue 146 = .ok (.putfield 353, 3) := dk_181 1 97 (dk_at dksX2_clue_6 5 rfl rfl)
theorem dX2_clue_149 : decode cX2_clue 149 = .ok (.return_, 1) := dk_177 (dk_at dksX2_clue_6 8 rfl rfl)
def dkwX21_init_0 : List UInt8 := [42, 43, 28, 183, 0, 1, 177]
abbrev dktX21_init_0 : List UInt8 := dkwX21_init_0 ++ []
theorem dksX21_init_0 : cX21_init.data.toList.drop 0 = dktX21_init_0 := by decide +kernel
theorem dX21_init_0 : decode cX21_init 0 = .ok (.aload_n 0, 1) := dk_42 (dk_at dksX21_init_0 0 rfl rfl)
theorem dX21_init_1 : decode cX21_init 1 = .ok (.aload_n 1, 1) := dk_43 (dk_at dksX21_init_0 1 rfl rfl)
theorem dX21_init_2 : decode cX21_init 2 = .ok (.iload_n 2, 1) := dk_28 (dk_at dksX21_init_0 2 rfl rfl)
theorem dX21_init_3 : decode cX21_init 3 = .ok (.invokespecial 1, 3) := dk_183 0 1 (dk_at dksX21_init_0 3 rfl rfl)
theorem dX21_init_6 : decode cX21_init 6 = .ok (.return_, 1) := dk_177 (dk_at dksX21_init_0 6 rfl rfl)
def dkwX2_factLine_2 : List UInt8 := [180, 0, 127, 180, 1, 122, 183, 1, 129, 83, 42, 180, 0, 127, 89, 180, 1, 122, 4, 96, 181, 1, 122, 177]
abbrev dktX2_factLine_2 : List UInt8 := dkwX2_factLine_2 ++ []
def dkwX2_factLine_1 : List UInt8 := [180, 0, 127, 180, 1, 125, 42, 180, 0, 127, 180, 1, 122, 187, 0, 149, 89, 42, 182, 0, 230, 42]
abbrev dktX2_factLine_1 : List UInt8 := dkwX2_factLine_1 ++ dktX2_factLine_2
def dkwX2_factLine_0 : List UInt8 := [42, 42, 180, 0, 127, 180, 1, 122, 16, 8, 162, 0, 7, 4, 167, 0, 4, 3, 182, 0, 226, 42]
abbrev dktX2_factLine_0 : List UInt8 := dkwX2_factLine_0 ++ dktX2_factLine_1
theorem dksX2_factLine_0 : cX2_factLine.data.toList.drop 0 = dktX2_factLine_0 := by decide +kernel
theorem dksX2_factLine_1 : cX2_factLine.data.toList.drop 22 = dktX2_factLine_1 := dk_seg dksX2_factLine_0 22 rfl rfl
theorem dksX2_factLine_2 : cX2_factLine.data.toList.drop 44 = dktX2_factLine_2 := dk_seg dksX2_factLine_1 22 rfl rfl
theorem dX2_factLine_0 : decode cX2_factLine 0 = .ok (.aload_n 0, 1) := dk_42 (dk_at dksX2_factLine_0 0 rfl rfl)
theorem dX2_factLine_1 : decode cX2_factLine 1 = .ok (.aload_n 0, 1) := dk_42 (dk_at dksX2_factLine_0 1 rfl rfl)
theorem dX2_factLine_2 : decode cX2_factLine 2 = .ok (.getfield 127, 3) := dk_180 0 127 (dk_at dksX2_factLine_0 2 rfl rfl)
theorem dX2_factLine_5 : decode cX2_factLine 5 = .ok (.getfield 378, 3) := dk_180 1 122 (dk_at dksX2_factLine_0 5 rfl rfl)
theorem dX2_factLine_8 : decode cX2_factLine 8 = .ok (.bipush 8, 2) := dk_16 8 (dk_at dksX2_factLine_0 8 rfl rfl)
theorem dX2_factLine_10 : decode cX2_factLine 10 = .ok (.if_icmp .ge 7, 3) := dk_162 0 7 (dk_at dksX2_factLine_0 10 rfl rfl)
theorem dX2_factLine_13 : decode cX2_factLine 13 = .ok (.iconst 1, 1) := dk_4 (dk_at dksX2_factLine_0 13 rfl rfl)
theorem dX2_factLine_14 : decode cX2_factLine 14 = .ok (.goto 4, 3) := dk_167 0 4 (dk_at dksX2_factLine_0 14 rfl rfl)
theorem dX2_factLine_17 : decode cX2_factLine 17 = .ok (.iconst 0, 1) := dk_3 (dk_at dksX2_factLine_0 17 rfl rfl)
theorem dX2_factLine_18 : decode cX2_factLine 18 = .ok (.invokevirtual 226, 3) := dk_182 0 226 (dk_at dksX2_factLine_0 18 rfl rfl)
theorem dX2_factLine_21 : decode cX2_factLine 21 = .ok (.aload_n 0, 1) := dk_42 (dk_at dksX2_factLine_0 21 rfl rfl)
theorem dX2_factLine_22 : decode cX2_factLine 22 = .ok (.getfield 127, 3) := dk_180 0 127 (dk_at dksX2_factLine_1 0 rfl rfl)
theorem dX2_factLine_25 : decode cX2_factLine 25 = .ok (.getfield 381, 3) := dk_180 1 125 (dk_at dksX2_factLine_1 3 rfl rfl)
theorem dX2_factLine_28 : decode cX2_factLine 28 = .ok (.aload_n 0, 1) := dk_42 (dk_at dksX2_factLine_1 6 rfl rfl)
theorem dX2_factLine_29 : decode cX2_factLine 29 = .ok (.getfield 127, 3) := dk_180 0 127 (dk_at dksX2_factLine_1 7 rfl rfl)
theorem dX2_factLine_32 : decode cX2_factLine 32 = .ok (.getfield 378, 3) := dk_180 1 122 (dk_at dksX2_factLine_1 10 rfl rfl)
theorem dX2_factLine_35 : decode cX2_factLine 35 = .ok (.new 149, 3) := dk_187 0 149 (dk_at dksX2_factLine_1 13 rfl rfl)
theorem dX2_factLine_38 : decode cX2_factLine 38 = .ok (.dup, 1) := dk_89 (dk_at dksX2_factLine_1 16 rfl rfl)
theorem dX2_factLine_39 : decode cX2_factLine 39 = .ok (.aload_n 0, 1) := dk_42 (dk_at dksX2_factLine_1 17 rfl rfl)
theorem dX2_factLine_40 : decode cX2_factLine 40 = .ok (.invokevirtual 230, 3) := dk_182 0 230 (dk_at dksX2_factLine_1 18 rfl rfl)
theorem dX2_factLine_43 : decode cX2_factLine 43 = .ok (.aload_n 0, 1) := dk_42 (dk_at dksX2_factLine_1 21 rfl rfl)
theorem dX2_factLine_44 : decode cX2_factLine 44 = .ok (.getfield 127, 3) := dk_180 0 127 (dk_at dksX2_factLine_2 0 rfl rfl)
theorem dX2_factLine_47 : decode cX2_factLine 47 = .ok (.getfield 378, 3) := dk_180 1 122 (dk_at dksX2_factLine_2 3 rfl rfl)
theorem dX2_factLine_50 : decode cX2_factLine 50 = .ok (.invokespecial 385, 3) := dk_183 1 129 (dk_at dksX2_factLine_2 6 rfl rfl)
theorem dX2_factLine_53 : decode cX2_factLine 53 = .ok (.aastore, 1) := dk_83 (dk_at dksX2_factLine_2 9 rfl rfl)
theorem dX2_factLine_54 : decode cX2_factLine 54 = .ok (.aload_n 0, 1) := dk_42 (dk_at dksX2_factLine_2 10 rfl rfl)
theorem dX2_factLine_55 : decode cX2_factLine 55 = .ok (.getfield 127, 3) := dk_180 0 127 (dk_at dksX2_factLine_2 11 rfl rfl)
theorem dX2_factLine_58 : decode cX2_factLine 58 = .ok (.dup, 1) := dk_89 (dk_at dksX2_factLine_2 14 rfl rfl)
theorem dX2_factLine_59 : decode cX2_factLine 59 = .ok (.getfield 378, 3) := dk_180 1 122 (dk_at dksX2_factLine_2 15 rfl rfl)
theorem dX2_factLine_62 : decode cX2_factLine 62 = .ok (.iconst 1, 1) := dk_4 (dk_at dksX2_factLine_2 18 rfl rfl)
theorem dX2_factLine_63 : decode cX2_factLine 63 = .ok (.iadd, 1) := dk_96 (dk_at dksX2_factLine_2 19 rfl rfl)
theorem dX2_factLine_64 : decode cX2_factLine 64 = .ok (.putfield 378, 3) := dk_181 1 122 (dk_at dksX2_factLine_2 20 rfl rfl)
theorem dX2_factLine_67 : decode cX2_factLine 67 = .ok (.return_, 1) := dk_177 (dk_at dksX2_factLine_2 23 rfl rfl)
def dkwX2_factHere_0 : List UInt8 := [42, 182, 0, 136, 76, 43, 193, 0, 149, 154, 0, 9, 42, 5, 182, 0, 82, 191, 43, 192, 0, 149, 176]
abbrev dktX2_factHere_0 : List UInt8 := dkwX2_factHere_0 ++ []
theorem dksX2_factHere_0 : cX2_factHere.data.toList.drop 0 = dktX2_factHere_0 := by decide +kernel
theorem dX2_factHere_0 : decode cX2_factHere 0 = .ok (.aload_n 0, 1) := dk_42 (dk_at dksX2_factHere_0 0 rfl rfl)
theorem dX2_factHere_1 : decode cX2_factHere 1 = .ok (.invokevirtual 136, 3) := dk_182 0 136 (dk_at dksX2_factHere_0 1 rfl rfl)
theorem dX2_factHere_4 : decode cX2_factHere 4 = .ok (.astore_n 1, 1) := dk_76 (dk_at dksX2_factHere_0 4 rfl rfl)
theorem dX2_factHere_5 : decode cX2_factHere 5 = .ok (.aload_n 1, 1) := dk_43 (dk_at dksX2_factHere_0 5 rfl rfl)
theorem dX2_factHere_6 : decode cX2_factHere 6 = .ok (.instanceof 149, 3) := dk_193 0 149 (dk_at dksX2_factHere_0 6 rfl rfl)
theorem dX2_factHere_9 : decode cX2_factHere 9 = .ok (.ifCond .ne 9, 3) := dk_154 0 9 (dk_at dksX2_factHere_0 9 rfl rfl)
theorem dX2_factHere_12 : decode cX2_factHere 12 = .ok (.aload_n 0, 1) := dk_42 (dk_at dksX2_factHere_0 12 rfl rfl)
theorem dX2_factHere_13 : decode cX2_factHere 13 = .ok (.iconst 2, 1) := dk_5 (dk_at dksX2_factHere_0 13 rfl rfl)
theorem dX2_factHere_14 : decode cX2_factHere 14 = .ok (.invokevirtual 82, 3) := dk_182 0 82 (dk_at dksX2_factHere_0 14 rfl rfl)
theorem dX2_factHere_17 : decode cX2_factHere 17 = .ok (.athrow, 1) := dk_191 (dk_at dksX2_factHere_0 17 rfl rfl)
theorem dX2_factHere_18 : decode cX2_factHere 18 = .ok (.aload_n 1, 1) := dk_43 (dk_at dksX2_factHere_0 18 rfl rfl)
theorem dX2_factHere_19 : decode cX2_factHere 19 = .ok (.checkcast 149, 3) := dk_192 0 149 (dk_at dksX2_factHere_0 19 rfl rfl)
theorem dX2_factHere_22 : decode cX2_factHere 22 = .ok (.areturn, 1) := dk_176 (dk_at dksX2_factHere_0 22 rfl rfl)
def dkwX2_holds_1 : List UInt8 := [182, 0, 75, 43, 4, 181, 1, 130, 177]
abbrev dktX2_holds_1 : List UInt8 := dkwX2_holds_1 ++ []
def dkwX2_holds_0 : List UInt8 := [42, 4, 182, 0, 226, 42, 182, 0, 151, 76, 43, 180, 1, 130, 153, 0, 9, 42, 6, 182, 0, 82, 191, 42]
abbrev dktX2_holds_0 : List UInt8 := dkwX2_holds_0 ++ dktX2_holds_1
theorem dksX2_holds_0 : cX2_holds.data.toList.drop 0 = dktX2_holds_0 := by decide +kernel
theorem dksX2_holds_1 : cX2_holds.data.toList.drop 24 = dktX2_holds_1 := dk_seg dksX2_holds_0 24 rfl rfl
theorem dX2_holds_0 : decode cX2_holds 0 = .ok (.aload_n 0, 1) := dk_42 (dk_at dksX2_holds_0 0 rfl rfl)
theorem dX2_holds_1 : decode cX2_holds 1 = .ok (.iconst 1, 1) := dk_4 (dk_at dksX2_holds_0 1 rfl rfl)
theorem dX2_holds_2 : decode cX2_holds 2 = .ok (.invokevirtual 226, 3) := dk_182 0 226 (dk_at dksX2_holds_0 2 rfl rfl)
theorem dX2_holds_5 : decode cX2_holds 5 = .ok (.aload_n 0, 1) := dk_42 (dk_at dksX2_holds_0 5 rfl rfl)
theorem dX2_holds_6 : decode cX2_holds 6 = .ok (.invokevirtual 151, 3) := dk_182 0 151 (dk_at dksX2_holds_0 6 rfl rfl)
theorem dX2_holds_9 : decode cX2_holds 9 = .ok (.astore_n 1, 1) := dk_76 (dk_at dksX2_holds_0 9 rfl rfl)
theorem dX2_holds_10 : decode cX2_holds 10 = .ok (.aload_n 1, 1) := dk_43 (dk_at dksX2_holds_0 10 rfl rfl)
theorem dX2_holds_11 : decode cX2_holds 11 = .ok (.getfield 386, 3) := dk_180 1 130 (dk_at dksX2_holds_0 11 rfl rfl)
theorem dX2_holds_14 : decode cX2_holds 14 = .ok (.ifCond .eq 9, 3) := dk_153 0 9 (dk_at dksX2_holds_0 14 rfl rfl)
theorem dX2_holds_17 : decode cX2_holds 17 = .ok (.aload_n 0, 1) := dk_42 (dk_at dksX2_holds_0 17 rfl rfl)
theorem dX2_holds_18 : decode cX2_holds 18 = .ok (.iconst 3, 1) := dk_6 (dk_at dksX2_holds_0 18 rfl rfl)
theorem dX2_holds_19 : decode cX2_holds 19 = .ok (.invokevirtual 82, 3) := dk_182 0 82 (dk_at dksX2_holds_0 19 rfl rfl)
theorem dX2_holds_22 : decode cX2_holds 22 = .ok (.athrow, 1) := dk_191 (dk_at dksX2_holds_0 22 rfl rfl)
theorem dX2_holds_23 : decode cX2_holds 23 = .ok (.aload_n 0, 1) := dk_42 (dk_at dksX2_holds_0 23 rfl rfl)
theorem dX2_holds_24 : decode cX2_holds 24 = .ok (.invokevirtual 75, 3) := dk_182 0 75 (dk_at dksX2_holds_1 0 rfl rfl)
theorem dX2_holds_27 : decode cX2_holds 27 = .ok (.aload_n 1, 1) := dk_43 (dk_at dksX2_holds_1 3 rfl rfl)
theorem dX2_holds_28 : decode cX2_holds 28 = .ok (.iconst 1, 1) := dk_4 (dk_at dksX2_holds_1 4 rfl rfl)
theorem dX2_holds_29 : decode cX2_holds 29 = .ok (.putfield 386, 3) := dk_181 1 130 (dk_at dksX2_holds_1 5 rfl rfl)
theorem dX2_holds_32 : decode cX2_holds 32 = .ok (.return_, 1) := dk_177 (dk_at dksX2_holds_1 8 rfl rfl)
def dkwX22_init_0 : List UInt8 := [42, 183, 0, 3, 42, 6, 188, 10, 181, 0, 9, 177]
abbrev dktX22_init_0 : List UInt8 := dkwX22_init_0 ++ []
theorem dksX22_init_0 : cX22_init.data.toList.drop 0 = dktX22_init_0 := by decide +kernel
theorem dX22_init_0 : decode cX22_init 0 = .ok (.aload_n 0, 1) := dk_42 (dk_at dksX22_init_0 0 rfl rfl)
theorem dX22_init_1 : decode cX22_init 1 = .ok (.invokespecial 3, 3) := dk_183 0 3 (dk_at dksX22_init_0 1 rfl rfl)
theorem dX22_init_4 : decode cX22_init 4 = .ok (.aload_n 0, 1) := dk_42 (dk_at dksX22_init_0 4 rfl rfl)
theorem dX22_init_5 : decode cX22_init 5 = .ok (.iconst 3, 1) := dk_6 (dk_at dksX22_init_0 5 rfl rfl)
theorem dX22_init_6 : decode cX22_init 6 = .ok (.newarray .int, 2) := dk_188_10 (dk_at dksX22_init_0 6 rfl rfl)
theorem dX22_init_8 : decode cX22_init 8 = .ok (.putfield 9, 3) := dk_181 0 9 (dk_at dksX22_init_0 8 rfl rfl)
theorem dX22_init_11 : decode cX22_init 11 = .ok (.return_, 1) := dk_177 (dk_at dksX22_init_0 11 rfl rfl)
def dkwX2_fact_0 : List UInt8 := [42, 182, 0, 151, 76, 42, 182, 0, 75, 43, 176]
abbrev dktX2_fact_0 : List UInt8 := dkwX2_fact_0 ++ []
theorem dksX2_fact_0 : cX2_fact.data.toList.drop 0 = dktX2_fact_0 := by decide +kernel
theorem dX2_fact_0 : decode cX2_fact 0 = .ok (.aload_n 0, 1) := dk_42 (dk_at dksX2_fact_0 0 rfl rfl)
theorem dX2_fact_1 : decode cX2_fact 1 = .ok (.invokevirtual 151, 3) := dk_182 0 151 (dk_at dksX2_fact_0 1 rfl rfl)
theorem dX2_fact_4 : decode cX2_fact 4 = .ok (.astore_n 1, 1) := dk_76 (dk_at dksX2_fact_0 4 rfl rfl)
theorem dX2_fact_5 : decode cX2_fact 5 = .ok (.aload_n 0, 1) := dk_42 (dk_at dksX2_fact_0 5 rfl rfl)
theorem dX2_fact_6 : decode cX2_fact 6 = .ok (.invokevirtual 75, 3) := dk_182 0 75 (dk_at dksX2_fact_0 6 rfl rfl)
theorem dX2_fact_9 : decode cX2_fact 9 = .ok (.aload_n 1, 1) := dk_43 (dk_at dksX2_fact_0 9 rfl rfl)
theorem dX2_fact_10 : decode cX2_fact 10 = .ok (.areturn, 1) := dk_176 (dk_at dksX2_fact_0 10 rfl rfl)
def dkwX22_has_1 : List UInt8 := [160, 0, 7, 4, 167, 0, 4, 3, 61, 132, 3, 1, 167, 255, 225, 28, 172]
abbrev dktX22_has_1 : List UInt8 := dkwX22_has_1 ++ []
def dkwX22_has_0 : List UInt8 := [3, 61, 3, 62, 29, 42, 180, 0, 15, 162, 0, 29, 28, 154, 0, 13, 42, 180, 0, 9, 29, 46, 27]
abbrev dktX22_has_0 : List UInt8 := dkwX22_has_0 ++ dktX22_has_1
theorem dksX22_has_0 : cX22_has.data.toList.drop 0 = dktX22_has_0 := by decide +kernel
theorem dksX22_has_1 : cX22_has.data.toList.drop 23 = dktX22_has_1 := dk_seg dksX22_has_0 23 rfl rfl
theorem dX22_has_0 : decode cX22_has 0 = .ok (.iconst 0, 1) := dk_3 (dk_at dksX22_has_0 0 rfl rfl)
theorem dX22_has_1 : decode cX22_has 1 = .ok (.istore_n 2, 1) := dk_61 (dk_at dksX22_has_0 1 rfl rfl)
theorem dX22_has_2 : decode cX22_has 2 = .ok (.iconst 0, 1) := dk_3 (dk_at dksX22_has_0 2 rfl rfl)
theorem dX22_has_3 : decode cX22_has 3 = .ok (.istore_n 3, 1) := dk_62 (dk_at dksX22_has_0 3 rfl rfl)
theorem dX22_has_4 : decode cX22_has 4 = .ok (.iload_n 3, 1) := dk_29 (dk_at dksX22_has_0 4 rfl rfl)
theorem dX22_has_5 : decode cX22_has 5 = .ok (.aload_n 0, 1) := dk_42 (dk_at dksX22_has_0 5 rfl rfl)
theorem dX22_has_6 : decode cX22_has 6 = .ok (.getfield 15, 3) := dk_180 0 15 (dk_at dksX22_has_0 6 rfl rfl)
theorem dX22_has_9 : decode cX22_has 9 = .ok (.if_icmp .ge 29, 3) := dk_162 0 29 (dk_at dksX22_has_0 9 rfl rfl)
theorem dX22_has_12 : decode cX22_has 12 = .ok (.iload_n 2, 1) := dk_28 (dk_at dksX22_has_0 12 rfl rfl)
theorem dX22_has_13 : decode cX22_has 13 = .ok (.ifCond .ne 13, 3) := dk_154 0 13 (dk_at dksX22_has_0 13 rfl rfl)
theorem dX22_has_16 : decode cX22_has 16 = .ok (.aload_n 0, 1) := dk_42 (dk_at dksX22_has_0 16 rfl rfl)
theorem dX22_has_17 : decode cX22_has 17 = .ok (.getfield 9, 3) := dk_180 0 9 (dk_at dksX22_has_0 17 rfl rfl)
theorem dX22_has_20 : decode cX22_has 20 = .ok (.iload_n 3, 1) := dk_29 (dk_at dksX22_has_0 20 rfl rfl)
theorem dX22_has_21 : decode cX22_has 21 = .ok (.iaload, 1) := dk_46 (dk_at dksX22_has_0 21 rfl rfl)
theorem dX22_has_22 : decode cX22_has 22 = .ok (.iload_n 1, 1) := dk_27 (dk_at dksX22_has_0 22 rfl rfl)
theorem dX22_has_23 : decode cX22_has 23 = .ok (.if_icmp .ne 7, 3) := dk_160 0 7 (dk_at dksX22_has_1 0 rfl rfl)
theorem dX22_has_26 : decode cX22_has 26 = .ok (.iconst 1, 1) := dk_4 (dk_at dksX22_has_1 3 rfl rfl)
theorem dX22_has_27 : decode cX22_has 27 = .ok (.goto 4, 3) := dk_167 0 4 (dk_at dksX22_has_1 4 rfl rfl)
theorem dX22_has_30 : decode cX22_has 30 = .ok (.iconst 0, 1) := dk_3 (dk_at dksX22_has_1 7 rfl rfl)
theorem dX22_has_31 : decode cX22_has 31 = .ok (.istore_n 2, 1) := dk_61 (dk_at dksX22_has_1 8 rfl rfl)
theorem dX22_has_32 : decode cX22_has 32 = .ok (.iinc 3 1, 3) := dk_132 3 1 (dk_at dksX22_has_1 9 rfl rfl)
theorem dX22_has_35 : decode cX22_has 35 = .ok (.goto (-31), 3) := dk_167 255 225 (dk_at dksX22_has_1 12 rfl rfl)
theorem dX22_has_38 : decode cX22_has 38 = .ok (.iload_n 2, 1) := dk_28 (dk_at dksX22_has_1 15 rfl rfl)
theorem dX22_has_39 : decode cX22_has 39 = .ok (.ireturn, 1) := dk_172 (dk_at dksX22_has_1 16 rfl rfl)
def dkwX2_rule_6 : List UInt8 := [180, 0, 127, 89, 180, 1, 133, 4, 96, 181, 1, 133, 177]
abbrev dktX2_rule_6 : List UInt8 := dkwX2_rule_6 ++ []
def dkwX2_rule_5 : List UInt8 := [182, 0, 169, 61, 167, 255, 184, 42, 180, 0, 127, 180, 1, 151, 42, 180, 0, 127, 180, 1, 133, 43, 83, 42]
abbrev dktX2_rule_5 : List UInt8 := dkwX2_rule_5 ++ dktX2_rule_6
def dkwX2_rule_4 : List UInt8 := [180, 1, 147, 45, 180, 1, 141, 79, 43, 89, 180, 1, 147, 4, 96, 181, 1, 147, 42, 182, 0, 75, 42]
abbrev dktX2_rule_4 : List UInt8 := dkwX2_rule_4 ++ dktX2_rule_5
def dkwX2_rule_3 : List UInt8 := [182, 0, 82, 191, 43, 180, 1, 147, 6, 160, 0, 9, 42, 8, 182, 0, 82, 191, 43, 180, 1, 148, 43]
abbrev dktX2_rule_3 : List UInt8 := dkwX2_rule_3 ++ dktX2_rule_4
def dkwX2_rule_2 : List UInt8 := [28, 153, 0, 74, 42, 182, 0, 151, 78, 43, 45, 180, 1, 141, 182, 1, 145, 153, 0, 9, 42, 6]
abbrev dktX2_rule_2 : List UInt8 := dkwX2_rule_2 ++ dktX2_rule_3
def dkwX2_rule_1 : List UInt8 := [89, 183, 1, 138, 76, 43, 42, 182, 1, 139, 180, 1, 141, 181, 1, 142, 42, 18, 122, 182, 0, 155, 4, 61]
abbrev dktX2_rule_1 : List UInt8 := dkwX2_rule_1 ++ dktX2_rule_2
def dkwX2_rule_0 : List UInt8 := [42, 42, 180, 0, 127, 180, 1, 133, 16, 8, 162, 0, 7, 4, 167, 0, 4, 3, 182, 0, 226, 187, 1, 136]
abbrev dktX2_rule_0 : List UInt8 := dkwX2_rule_0 ++ dktX2_rule_1
theorem dksX2_rule_0 : cX2_rule.data.toList.drop 0 = dktX2_rule_0 := by decide +kernel
theorem dksX2_rule_1 : cX2_rule.data.toList.drop 24 = dktX2_rule_1 := dk_seg dksX2_rule_0 24 rfl rfl
theorem dksX2_rule_2 : cX2_rule.data.toList.drop 48 = dktX2_rule_2 := dk_seg dksX2_rule_1 24 rfl rfl
theorem dksX2_rule_3 : cX2_rule.data.toList.drop 70 = dktX2_rule_3 := dk_seg dksX2_rule_2 22 rfl rfl
theorem dksX2_rule_4 : cX2_rule.data.toList.drop 93 = dktX2_rule_4 := dk_seg dksX2_rule_3 23 rfl rfl
theorem dksX2_rule_5 : cX2_rule.data.toList.drop 116 = dktX2_rule_5 := dk_seg dksX2_rule_4 23 rfl rfl
theorem dksX2_rule_6 : cX2_rule.data.toList.drop 140 = dktX2_rule_6 := dk_seg dksX2_rule_5 24 rfl rfl
theorem dX2_rule_0 : decode cX2_rule 0 = .ok (.aload_n 0, 1) := dk_42 (dk_at dksX2_rule_0 0 rfl rfl)
theorem dX2_rule_1 : decode cX2_rule 1 = .ok (.aload_n 0, 1) := dk_42 (dk_at dksX2_rule_0 1 rfl rfl)
theorem dX2_rule_2 : decode cX2_rule 2 = .ok (.getfield 127, 3) := dk_180 0 127 (dk_at dksX2_rule_0 2 rfl rfl)
theorem dX2_rule_5 : decode cX2_rule 5 = .ok (.getfield 389, 3) := dk_180 1 133 (dk_at dksX2_rule_0 5 rfl rfl)
theorem dX2_rule_8 : decode cX2_rule 8 = .ok (.bipush 8, 2) := dk_16 8 (dk_at dksX2_rule_0 8 rfl rfl)
theorem dX2_rule_10 : decode cX2_rule 10 = .ok (.if_icmp .ge 7, 3) := dk_162 0 7 (dk_at dksX2_rule_0 10 rfl rfl)
theorem dX2_rule_13 : decode cX2_rule 13 = .ok (.iconst 1, 1) := dk_4 (dk_at dksX2_rule_0 13 rfl rfl)
theorem dX2_rule_14 : decode cX2_rule 14 = .ok (.goto 4, 3) := dk_167 0 4 (dk_at dksX2_rule_0 14 rfl rfl)
theorem dX2_rule_17 : decode cX2_rule 17 = .ok (.iconst 0, 1) := dk_3 (dk_at dksX2_rule_0 17 rfl rfl)
theorem dX2_rule_18 : decode cX2_rule 18 = .ok (.invokevirtual 226, 3) := dk_182 0 226 (dk_at dksX2_rule_0 18 rfl rfl)
theorem dX2_rule_21 : decode cX2_rule 21 = .ok (.new 392, 3) := dk_187 1 136 (dk_at dksX2_rule_0 21 rfl rfl)
theorem dX2_rule_24 : decode cX2_rule 24 = .ok (.dup, 1) := dk_89 (dk_at dksX2_rule_1 0 rfl rfl)
theorem dX2_rule_25 : decode cX2_rule 25 = .ok (.invokespecial 394, 3) := dk_183 1 138 (dk_at dksX2_rule_1 1 rfl rfl)
theorem dX2_rule_28 : decode cX2_rule 28 = .ok (.astore_n 1, 1) := dk_76 (dk_at dksX2_rule_1 4 rfl rfl)
theorem dX2_rule_29 : decode cX2_rule 29 = .ok (.aload_n 1, 1) := dk_43 (dk_at dksX2_rule_1 5 rfl rfl)
theorem dX2_rule_30 : decode cX2_rule 30 = .ok (.aload_n 0, 1) := dk_42 (dk_at dksX2_rule_1 6 rfl rfl)
theorem dX2_rule_31 : decode cX2_rule 31 = .ok (.invokevirtual 395, 3) := dk_182 1 139 (dk_at dksX2_rule_1 7 rfl rfl)
theorem dX2_rule_34 : decode cX2_rule 34 = .ok (.getfield 397, 3) := dk_180 1 141 (dk_at dksX2_rule_1 10 rfl rfl)
theorem dX2_rule_37 : decode cX2_rule 37 = .ok (.putfield 398, 3) := dk_181 1 142 (dk_at dksX2_rule_1 13 rfl rfl)
theorem dX2_rule_40 : decode cX2_rule 40 = .ok (.aload_n 0, 1) := dk_42 (dk_at dksX2_rule_1 16 rfl rfl)
theorem dX2_rule_41 : decode cX2_rule 41 = .ok (.ldc 122, 2) := dk_18 122 (dk_at dksX2_rule_1 17 rfl rfl)
theorem dX2_rule_43 : decode cX2_rule 43 = .ok (.invokevirtual 155, 3) := dk_182 0 155 (dk_at dksX2_rule_1 19 rfl rfl)
theorem dX2_rule_46 : decode cX2_rule 46 = .ok (.iconst 1, 1) := dk_4 (dk_at dksX2_rule_1 22 rfl rfl)
theorem dX2_rule_47 : decode cX2_rule 47 = .ok (.istore_n 2, 1) := dk_61 (dk_at dksX2_rule_1 23 rfl rfl)
theorem dX2_rule_48 : decode cX2_rule 48 = .ok (.iload_n 2, 1) := dk_28 (dk_at dksX2_rule_2 0 rfl rfl)
theorem dX2_rule_49 : decode cX2_rule 49 = .ok (.ifCond .eq 74, 3) := dk_153 0 74 (dk_at dksX2_rule_2 1 rfl rfl)
theorem dX2_rule_52 : decode cX2_rule 52 = .ok (.aload_n 0, 1) := dk_42 (dk_at dksX2_rule_2 4 rfl rfl)
theorem dX2_rule_53 : decode cX2_rule 53 = .ok (.invokevirtual 151, 3) := dk_182 0 151 (dk_at dksX2_rule_2 5 rfl rfl)
theorem dX2_rule_56 : decode cX2_rule 56 = .ok (.astore_n 3, 1) := dk_78 (dk_at dksX2_rule_2 8 rfl rfl)
theorem dX2_rule_57 : decode cX2_rule 57 = .ok (.aload_n 1, 1) := dk_43 (dk_at dksX2_rule_2 9 rfl rfl)
theorem dX2_rule_58 : decode cX2_rule 58 = .ok (.aload_n 3, 1) := dk_45 (dk_at dksX2_rule_2 10 rfl rfl)
theorem dX2_rule_59 : decode cX2_rule 59 = .ok (.getfield 397, 3) := dk_180 1 141 (dk_at dksX2_rule_2 11 rfl rfl)
theorem dX2_rule_62 : decode cX2_rule 62 = .ok (.invokevirtual 401, 3) := dk_182 1 145 (dk_at dksX2_rule_2 14 rfl rfl)
theorem dX2_rule_65 : decode cX2_rule 65 = .ok (.ifCond .eq 9, 3) := dk_153 0 9 (dk_at dksX2_rule_2 17 rfl rfl)
theorem dX2_rule_68 : decode cX2_rule 68 = .ok (.aload_n 0, 1) := dk_42 (dk_at dksX2_rule_2 20 rfl rfl)
theorem dX2_rule_69 : decode cX2_rule 69 = .ok (.iconst 3, 1) := dk_6 (dk_at dksX2_rule_2 21 rfl rfl)
theorem dX2_rule_70 : decode cX2_rule 70 = .ok (.invokevirtual 82, 3) := dk_182 0 82 (dk_at dksX2_rule_3 0 rfl rfl)
theorem dX2_rule_73 : decode cX2_rule 73 = .ok (.athrow, 1) := dk_191 (dk_at dksX2_rule_3 3 rfl rfl)
theorem dX2_rule_74 : decode cX2_rule 74 = .ok (.aload_n 1, 1) := dk_43 (dk_at dksX2_rule_3 4 rfl rfl)
theorem dX2_rule_75 : decode cX2_rule 75 = .ok (.getfield 403, 3) := dk_180 1 147 (dk_at dksX2_rule_3 5 rfl rfl)
theorem dX2_rule_78 : decode cX2_rule 78 = .ok (.iconst 3, 1) := dk_6 (dk_at dksX2_rule_3 8 rfl rfl)
theorem dX2_rule_79 : decode cX2_rule 79 = .ok (.if_icmp .ne 9, 3) := dk_160 0 9 (dk_at dksX2_rule_3 9 rfl rfl)
theorem dX2_rule_82 : decode cX2_rule 82 = .ok (.aload_n 0, 1) := dk_42 (dk_at dksX2_rule_3 12 rfl rfl)
theorem dX2_rule_83 : decode cX2_rule 83 = .ok (.iconst 5, 1) := dk_8 (dk_at dksX2_rule_3 13 rfl rfl)
theorem dX2_rule_84 : decode cX2_rule 84 = .ok (.invokevirtual 82, 3) := dk_182 0 82 (dk_at dksX2_rule_3 14 rfl rfl)
theorem dX2_rule_87 : decode cX2_rule 87 = .ok (.athrow, 1) := dk_191 (dk_at dksX2_rule_3 17 rfl rfl)
theorem dX2_rule_88 : decode cX2_rule 88 = .ok (.aload_n 1, 1) := dk_43 (dk_at dksX2_rule_3 18 rfl rfl)
theorem dX2_rule_89 : decode cX2_rule 89 = .ok (.getfield 404, 3) := dk_180 1 148 (dk_at dksX2_rule_3 19 rfl rfl)
theorem dX2_rule_92 : decode cX2_rule 92 = .ok (.aload_n 1, 1) := dk_43 (dk_at dksX2_rule_3 22 rfl rfl)
theorem dX2_rule_93 : decode cX2_rule 93 = .ok (.getfield 403, 3) := dk_180 1 147 (dk_at dksX2_rule_4 0 rfl rfl)
theorem dX2_rule_96 : decode cX2_rule 96 = .ok (.aload_n 3, 1) := dk_45 (dk_at dksX2_rule_4 3 rfl rfl)
theorem dX2_rule_97 : decode cX2_rule 97 = .ok (.getfield 397, 3) := dk_180 1 141 (dk_at dksX2_rule_4 4 rfl rfl)
theorem dX2_rule_100 : decode cX2_rule 100 = .ok (.iastore, 1) := dk_79 (dk_at dksX2_rule_4 7 rfl rfl)
theorem dX2_rule_101 : decode cX2_rule 101 = .ok (.aload_n 1, 1) := dk_43 (dk_at dksX2_rule_4 8 rfl rfl)
theorem dX2_rule_102 : decode cX2_rule 102 = .ok (.dup, 1) := dk_89 (dk_at dksX2_rule_4 9 rfl rfl)
theorem dX2_rule_103 : decode cX2_rule 103 = .ok (.getfield 403, 3) := dk_180 1 147 (dk_at dksX2_rule_4 10 rfl rfl)
theorem dX2_rule_106 : decode cX2_rule 106 = .ok (.iconst 1, 1) := dk_4 (dk_at dksX2_rule_4 13 rfl rfl)
theorem dX2_rule_107 : decode cX2_rule 107 = .ok (.iadd, 1) := dk_96 (dk_at dksX2_rule_4 14 rfl rfl)
theorem dX2_rule_108 : decode cX2_rule 108 = .ok (.putfield 403, 3) := dk_181 1 147 (dk_at dksX2_rule_4 15 rfl rfl)
theorem dX2_rule_111 : decode cX2_rule 111 = .ok (.aload_n 0, 1) := dk_42 (dk_at dksX2_rule_4 18 rfl rfl)
theorem dX2_rule_112 : decode cX2_rule 112 = .ok (.invokevirtual 75, 3) := dk_182 0 75 (dk_at dksX2_rule_4 19 rfl rfl)
theorem dX2_rule_115 : decode cX2_rule 115 = .ok (.aload_n 0, 1) := dk_42 (dk_at dksX2_rule_4 22 rfl rfl)
theorem dX2_rule_116 : decode cX2_rule 116 = .ok (.invokevirtual 169, 3) := dk_182 0 169 (dk_at dksX2_rule_5 0 rfl rfl)
theorem dX2_rule_119 : decode cX2_rule 119 = .ok (.istore_n 2, 1) := dk_61 (dk_at dksX2_rule_5 3 rfl rfl)
theorem dX2_rule_120 : decode cX2_rule 120 = .ok (.goto (-72), 3) := dk_167 255 184 (dk_at dksX2_rule_5 4 rfl rfl)
theorem dX2_rule_123 : decode cX2_rule 123 = .ok (.aload_n 0, 1) := dk_42 (dk_at dksX2_rule_5 7 rfl rfl)
theorem dX2_rule_124 : decode cX2_rule 124 = .ok (.getfield 127, 3) := dk_180 0 127 (dk_at dksX2_rule_5 8 rfl rfl)
theorem dX2_rule_127 : decode cX2_rule 127 = .ok (.getfield 407, 3) := dk_180 1 151 (dk_at dksX2_rule_5 11 rfl rfl)
theorem dX2_rule_130 : decode cX2_rule 130 = .ok (.aload_n 0, 1) := dk_42 (dk_at dksX2_rule_5 14 rfl rfl)
theorem dX2_rule_131 : decode cX2_rule 131 = .ok (.getfield 127, 3) := dk_180 0 127 (dk_at dksX2_rule_5 15 rfl rfl)
theorem dX2_rule_134 : decode cX2_rule 134 = .ok (.getfield 389, 3) := dk_180 1 133 (dk_at dksX2_rule_5 18 rfl rfl)
theorem dX2_rule_137 : decode cX2_rule 137 = .ok (.aload_n 1, 1) := dk_43 (dk_at dksX2_rule_5 21 rfl rfl)
theorem dX2_rule_138 : decode cX2_rule 138 = .ok (.aastore, 1) := dk_83 (dk_at dksX2_rule_5 22 rfl rfl)
theorem dX2_rule_139 : decode cX2_rule 139 = .ok (.aload_n 0, 1) := dk_42 (dk_at dksX2_rule_5 23 rfl rfl)
theorem dX2_rule_140 : decode cX2_rule 140 = .ok (.getfield 127, 3) := dk_180 0 127 (dk_at dksX2_rule_6 0 rfl rfl)
theorem dX2_rule_143 : decode cX2_rule 143 = .ok (.dup, 1) := dk_89 (dk_at dksX2_rule_6 3 rfl rfl)
theorem dX2_rule_144 : decode cX2_rule 144 = .ok (.getfield 389, 3) := dk_180 1 133 (dk_at dksX2_rule_6 4 rfl rfl)
theorem dX2_rule_147 : decode cX2_rule 147 = .ok (.iconst 1, 1) := dk_4 (dk_at dksX2_rule_6 7 rfl rfl)
theorem dX2_rule_148 : decode cX2_rule 148 = .ok (.iadd, 1) := dk_96 (dk_at dksX2_rule_6 8 rfl rfl)
theorem dX2_rule_149 : decode cX2_rule 149 = .ok (.putfield 389, 3) := dk_181 1 133 (dk_at dksX2_rule_6 9 rfl rfl)
theorem dX2_rule_152 : decode cX2_rule 152 = .ok (.return_, 1) := dk_177 (dk_at dksX2_rule_6 12 rfl rfl)
def dkwX2_beginsOnce_1 : List UInt8 := [182, 0, 82, 191, 42, 182, 0, 75, 177]
abbrev dktX2_beginsOnce_1 : List UInt8 := dkwX2_beginsOnce_1 ++ []
def dkwX2_beginsOnce_0 : List UInt8 := [27, 153, 0, 9, 42, 6, 182, 0, 82, 191, 42, 180, 0, 127, 180, 0, 163, 154, 0, 10, 42, 16, 6]
abbrev dktX2_beginsOnce_0 : List UInt8 := dkwX2_beginsOnce_0 ++ dktX2_beginsOnce_1
theorem dksX2_beginsOnce_0 : cX2_beginsOnce.data.toList.drop 0 = dktX2_beginsOnce_0 := by decide +kernel
theorem dksX2_beginsOnce_1 : cX2_beginsOnce.data.toList.drop 23 = dktX2_beginsOnce_1 := dk_seg dksX2_beginsOnce_0 23 rfl rfl
theorem dX2_beginsOnce_0 : decode cX2_beginsOnce 0 = .ok (.iload_n 1, 1) := dk_27 (dk_at dksX2_beginsOnce_0 0 rfl rfl)
theorem dX2_beginsOnce_1 : decode cX2_beginsOnce 1 = .ok (.ifCond .eq 9, 3) := dk_153 0 9 (dk_at dksX2_beginsOnce_0 1 rfl rfl)
theorem dX2_beginsOnce_4 : decode cX2_beginsOnce 4 = .ok (.aload_n 0, 1) := dk_42 (dk_at dksX2_beginsOnce_0 4 rfl rfl)
theorem dX2_beginsOnce_5 : decode cX2_beginsOnce 5 = .ok (.iconst 3, 1) := dk_6 (dk_at dksX2_beginsOnce_0 5 rfl rfl)
theorem dX2_beginsOnce_6 : decode cX2_beginsOnce 6 = .ok (.invokevirtual 82, 3) := dk_182 0 82 (dk_at dksX2_beginsOnce_0 6 rfl rfl)
theorem dX2_beginsOnce_9 : decode cX2_beginsOnce 9 = .ok (.athrow, 1) := dk_191 (dk_at dksX2_beginsOnce_0 9 rfl rfl)
theorem dX2_beginsOnce_10 : decode cX2_beginsOnce 10 = .ok (.aload_n 0, 1) := dk_42 (dk_at dksX2_beginsOnce_0 10 rfl rfl)
theorem dX2_beginsOnce_11 : decode cX2_beginsOnce 11 = .ok (.getfield 127, 3) := dk_180 0 127 (dk_at dksX2_beginsOnce_0 11 rfl rfl)
theorem dX2_beginsOnce_14 : decode cX2_beginsOnce 14 = .ok (.getfield 163, 3) := dk_180 0 163 (dk_at dksX2_beginsOnce_0 14 rfl rfl)
theorem dX2_beginsOnce_17 : decode cX2_beginsOnce 17 = .ok (.ifCond .ne 10, 3) := dk_154 0 10 (dk_at dksX2_beginsOnce_0 17 rfl rfl)
theorem dX2_beginsOnce_20 : decode cX2_beginsOnce 20 = .ok (.aload_n 0, 1) := dk_42 (dk_at dksX2_beginsOnce_0 20 rfl rfl)
theorem dX2_beginsOnce_21 : decode cX2_beginsOnce 21 = .ok (.bipush 6, 2) := dk_16 6 (dk_at dksX2_beginsOnce_0 21 rfl rfl)
theorem dX2_beginsOnce_23 : decode cX2_beginsOnce 23 = .ok (.invokevirtual 82, 3) := dk_182 0 82 (dk_at dksX2_beginsOnce_1 0 rfl rfl)
theorem dX2_beginsOnce_26 : decode cX2_beginsOnce 26 = .ok (.athrow, 1) := dk_191 (dk_at dksX2_beginsOnce_1 3 rfl rfl)
theorem dX2_beginsOnce_27 : decode cX2_beginsOnce 27 = .ok (.aload_n 0, 1) := dk_42 (dk_at dksX2_beginsOnce_1 4 rfl rfl)
theorem dX2_beginsOnce_28 : decode cX2_beginsOnce 28 = .ok (.invokevirtual 75, 3) := dk_182 0 75 (dk_at dksX2_beginsOnce_1 5 rfl rfl)
theorem dX2_beginsOnce_31 : decode cX2_beginsOnce 31 = .ok (.return_, 1) := dk_177 (dk_at dksX2_beginsOnce_1 8 rfl rfl)
def dkwX2_proof_4 : List UInt8 := [177]
abbrev dktX2_proof_4 : List UInt8 := dkwX2_proof_4 ++ []
def dkwX2_proof_3 : List UInt8 := [180, 0, 127, 89, 180, 1, 155, 4, 96, 181, 1, 155, 42, 182, 0, 75, 42, 182, 0, 169, 60, 167, 255, 188]
abbrev dktX2_proof_3 : List UInt8 := dkwX2_proof_3 ++ dktX2_proof_4
def dkwX2_proof_2 : List UInt8 := [182, 0, 82, 191, 42, 180, 0, 127, 180, 1, 161, 42, 180, 0, 127, 180, 1, 155, 44, 180, 1, 141, 79, 42]
abbrev dktX2_proof_2 : List UInt8 := dkwX2_proof_2 ++ dktX2_proof_3
def dkwX2_proof_1 : List UInt8 := [153, 0, 70, 42, 182, 0, 151, 77, 42, 180, 0, 127, 180, 1, 155, 16, 8, 160, 0, 9, 42, 8]
abbrev dktX2_proof_1 : List UInt8 := dkwX2_proof_1 ++ dktX2_proof_2
def dkwX2_proof_0 : List UInt8 := [42, 42, 180, 0, 127, 180, 1, 155, 158, 0, 7, 4, 167, 0, 4, 3, 182, 1, 158, 4, 60, 27]
abbrev dktX2_proof_0 : List UInt8 := dkwX2_proof_0 ++ dktX2_proof_1
theorem dksX2_proof_0 : cX2_proof.data.toList.drop 0 = dktX2_proof_0 := by decide +kernel
theorem dksX2_proof_1 : cX2_proof.data.toList.drop 22 = dktX2_proof_1 := dk_seg dksX2_proof_0 22 rfl rfl
theorem dksX2_proof_2 : cX2_proof.data.toList.drop 44 = dktX2_proof_2 := dk_seg dksX2_proof_1 22 rfl rfl
theorem dksX2_proof_3 : cX2_proof.data.toList.drop 68 = dktX2_proof_3 := dk_seg dksX2_proof_2 24 rfl rfl
theorem dksX2_proof_4 : cX2_proof.data.toList.drop 92 = dktX2_proof_4 := dk_seg dksX2_proof_3 24 rfl rfl
theorem dX2_proof_0 : decode cX2_proof 0 = .ok (.aload_n 0, 1) := dk_42 (dk_at dksX2_proof_0 0 rfl rfl)
theorem dX2_proof_1 : decode cX2_proof 1 = .ok (.aload_n 0, 1) := dk_42 (dk_at dksX2_proof_0 1 rfl rfl)
theorem dX2_proof_2 : decode cX2_proof 2 = .ok (.getfield 127, 3) := dk_180 0 127 (dk_at dksX2_proof_0 2 rfl rfl)
theorem dX2_proof_5 : decode cX2_proof 5 = .ok (.getfield 411, 3) := dk_180 1 155 (dk_at dksX2_proof_0 5 rfl rfl)
theorem dX2_proof_8 : decode cX2_proof 8 = .ok (.ifCond .le 7, 3) := dk_158 0 7 (dk_at dksX2_proof_0 8 rfl rfl)
theorem dX2_proof_11 : decode cX2_proof 11 = .ok (.iconst 1, 1) := dk_4 (dk_at dksX2_proof_0 11 rfl rfl)
theorem dX2_proof_12 : decode cX2_proof 12 = .ok (.goto 4, 3) := dk_167 0 4 (dk_at dksX2_proof_0 12 rfl rfl)
theorem dX2_proof_15 : decode cX2_proof 15 = .ok (.iconst 0, 1) := dk_3 (dk_at dksX2_proof_0 15 rfl rfl)
theorem dX2_proof_16 : decode cX2_proof 16 = .ok (.invokevirtual 414, 3) := dk_182 1 158 (dk_at dksX2_proof_0 16 rfl rfl)
theorem dX2_proof_19 : decode cX2_proof 19 = .ok (.iconst 1, 1) := dk_4 (dk_at dksX2_proof_0 19 rfl rfl)
theorem dX2_proof_20 : decode cX2_proof 20 = .ok (.istore_n 1, 1) := dk_60 (dk_at dksX2_proof_0 20 rfl rfl)
theorem dX2_proof_21 : decode cX2_proof 21 = .ok (.iload_n 1, 1) := dk_27 (dk_at dksX2_proof_0 21 rfl rfl)
theorem dX2_proof_22 : decode cX2_proof 22 = .ok (.ifCond .eq 70, 3) := dk_153 0 70 (dk_at dksX2_proof_1 0 rfl rfl)
theorem dX2_proof_25 : decode cX2_proof 25 = .ok (.aload_n 0, 1) := dk_42 (dk_at dksX2_proof_1 3 rfl rfl)
theorem dX2_proof_26 : decode cX2_proof 26 = .ok (.invokevirtual 151, 3) := dk_182 0 151 (dk_at dksX2_proof_1 4 rfl rfl)
theorem dX2_proof_29 : decode cX2_proof 29 = .ok (.astore_n 2, 1) := dk_77 (dk_at dksX2_proof_1 7 rfl rfl)
theorem dX2_proof_30 : decode cX2_proof 30 = .ok (.aload_n 0, 1) := dk_42 (dk_at dksX2_proof_1 8 rfl rfl)
theorem dX2_proof_31 : decode cX2_proof 31 = .ok (.getfield 127, 3) := dk_180 0 127 (dk_at dksX2_proof_1 9 rfl rfl)
theorem dX2_proof_34 : decode cX2_proof 34 = .ok (.getfield 411, 3) := dk_180 1 155 (dk_at dksX2_proof_1 12 rfl rfl)
theorem dX2_proof_37 : decode cX2_proof 37 = .ok (.bipush 8, 2) := dk_16 8 (dk_at dksX2_proof_1 15 rfl rfl)
theorem dX2_proof_39 : decode cX2_proof 39 = .ok (.if_icmp .ne 9, 3) := dk_160 0 9 (dk_at dksX2_proof_1 17 rfl rfl)
theorem dX2_proof_42 : decode cX2_proof 42 = .ok (.aload_n 0, 1) := dk_42 (dk_at dksX2_proof_1 20 rfl rfl)
theorem dX2_proof_43 : decode cX2_proof 43 = .ok (.iconst 5, 1) := dk_8 (dk_at dksX2_proof_1 21 rfl rfl)
theorem dX2_proof_44 : decode cX2_proof 44 = .ok (.invokevirtual 82, 3) := dk_182 0 82 (dk_at dksX2_proof_2 0 rfl rfl)
theorem dX2_proof_47 : decode cX2_proof 47 = .ok (.athrow, 1) := dk_191 (dk_at dksX2_proof_2 3 rfl rfl)
theorem dX2_proof_48 : decode cX2_proof 48 = .ok (.aload_n 0, 1) := dk_42 (dk_at dksX2_proof_2 4 rfl rfl)
theorem dX2_proof_49 : decode cX2_proof 49 = .ok (.getfield 127, 3) := dk_180 0 127 (dk_at dksX2_proof_2 5 rfl rfl)
theorem dX2_proof_52 : decode cX2_proof 52 = .ok (.getfield 417, 3) := dk_180 1 161 (dk_at dksX2_proof_2 8 rfl rfl)
theorem dX2_proof_55 : decode cX2_proof 55 = .ok (.aload_n 0, 1) := dk_42 (dk_at dksX2_proof_2 11 rfl rfl)
theorem dX2_proof_56 : decode cX2_proof 56 = .ok (.getfield 127, 3) := dk_180 0 127 (dk_at dksX2_proof_2 12 rfl rfl)
theorem dX2_proof_59 : decode cX2_proof 59 = .ok (.getfield 411, 3) := dk_180 1 155 (dk_at dksX2_proof_2 15 rfl rfl)
theorem dX2_proof_62 : decode cX2_proof 62 = .ok (.aload_n 2, 1) := dk_44 (dk_at dksX2_proof_2 18 rfl rfl)
theorem dX2_proof_63 : decode cX2_proof 63 = .ok (.getfield 397, 3) := dk_180 1 141 (dk_at dksX2_proof_2 19 rfl rfl)
theorem dX2_proof_66 : decode cX2_proof 66 = .ok (.iastore, 1) := dk_79 (dk_at dksX2_proof_2 22 rfl rfl)
theorem dX2_proof_67 : decode cX2_proof 67 = .ok (.aload_n 0, 1) := dk_42 (dk_at dksX2_proof_2 23 rfl rfl)
theorem dX2_proof_68 : decode cX2_proof 68 = .ok (.getfield 127, 3) := dk_180 0 127 (dk_at dksX2_proof_3 0 rfl rfl)
theorem dX2_proof_71 : decode cX2_proof 71 = .ok (.dup, 1) := dk_89 (dk_at dksX2_proof_3 3 rfl rfl)
theorem dX2_proof_72 : decode cX2_proof 72 = .ok (.getfield 411, 3) := dk_180 1 155 (dk_at dksX2_proof_3 4 rfl rfl)
theorem dX2_proof_75 : decode cX2_proof 75 = .ok (.iconst 1, 1) := dk_4 (dk_at dksX2_proof_3 7 rfl rfl)
theorem dX2_proof_76 : decode cX2_proof 76 = .ok (.iadd, 1) := dk_96 (dk_at dksX2_proof_3 8 rfl rfl)
theorem dX2_proof_77 : decode cX2_proof 77 = .ok (.putfield 411, 3) := dk_181 1 155 (dk_at dksX2_proof_3 9 rfl rfl)
theorem dX2_proof_80 : decode cX2_proof 80 = .ok (.aload_n 0, 1) := dk_42 (dk_at dksX2_proof_3 12 rfl rfl)
theorem dX2_proof_81 : decode cX2_proof 81 = .ok (.invokevirtual 75, 3) := dk_182 0 75 (dk_at dksX2_proof_3 13 rfl rfl)
theorem dX2_proof_84 : decode cX2_proof 84 = .ok (.aload_n 0, 1) := dk_42 (dk_at dksX2_proof_3 16 rfl rfl)
theorem dX2_proof_85 : decode cX2_proof 85 = .ok (.invokevirtual 169, 3) := dk_182 0 169 (dk_at dksX2_proof_3 17 rfl rfl)
theorem dX2_proof_88 : decode cX2_proof 88 = .ok (.istore_n 1, 1) := dk_60 (dk_at dksX2_proof_3 20 rfl rfl)
theorem dX2_proof_89 : decode cX2_proof 89 = .ok (.goto (-68), 3) := dk_167 255 188 (dk_at dksX2_proof_3 21 rfl rfl)
theorem dX2_proof_92 : decode cX2_proof 92 = .ok (.return_, 1) := dk_177 (dk_at dksX2_proof_4 0 rfl rfl)
def dkwX23_init_0 : List UInt8 := [42, 43, 28, 183, 0, 1, 177]
abbrev dktX23_init_0 : List UInt8 := dkwX23_init_0 ++ []
theorem dksX23_init_0 : cX23_init.data.toList.drop 0 = dktX23_init_0 := by decide +kernel
theorem dX23_init_0 : decode cX23_init 0 = .ok (.aload_n 0, 1) := dk_42 (dk_at dksX23_init_0 0 rfl rfl)
theorem dX23_init_1 : decode cX23_init 1 = .ok (.aload_n 1, 1) := dk_43 (dk_at dksX23_init_0 1 rfl rfl)
theorem dX23_init_2 : decode cX23_init 2 = .ok (.iload_n 2, 1) := dk_28 (dk_at dksX23_init_0 2 rfl rfl)
theorem dX23_init_3 : decode cX23_init 3 = .ok (.invokespecial 1, 3) := dk_183 0 1 (dk_at dksX23_init_0 3 rfl rfl)
theorem dX23_init_6 : decode cX23_init 6 = .ok (.return_, 1) := dk_177 (dk_at dksX23_init_0 6 rfl rfl)
def dkwX2_court_4 : List UInt8 := [181, 1, 164, 177]
abbrev dktX2_court_4 : List UInt8 := dkwX2_court_4 ++ []
def dkwX2_court_3 : List UInt8 := [180, 1, 178, 42, 180, 0, 127, 180, 1, 164, 43, 83, 42, 180, 0, 127, 89, 180, 1, 164, 4, 96]
abbrev dktX2_court_3 : List UInt8 := dkwX2_court_3 ++ dktX2_court_4
def dkwX2_court_2 : List UInt8 := [182, 0, 221, 181, 1, 172, 43, 42, 19, 1, 174, 4, 16, 9, 182, 0, 221, 181, 1, 176, 42, 180, 0, 127]
abbrev dktX2_court_2 : List UInt8 := dkwX2_court_2 ++ dktX2_court_3
def dkwX2_court_1 : List UInt8 := [89, 42, 182, 0, 230, 42, 180, 0, 127, 180, 1, 164, 183, 1, 169, 76, 43, 42, 19, 1, 170, 3, 16, 99]
abbrev dktX2_court_1 : List UInt8 := dkwX2_court_1 ++ dktX2_court_2
def dkwX2_court_0 : List UInt8 := [42, 42, 180, 0, 127, 180, 1, 164, 16, 6, 162, 0, 7, 4, 167, 0, 4, 3, 182, 0, 226, 187, 1, 167]
abbrev dktX2_court_0 : List UInt8 := dkwX2_court_0 ++ dktX2_court_1
theorem dksX2_court_0 : cX2_court.data.toList.drop 0 = dktX2_court_0 := by decide +kernel
theorem dksX2_court_1 : cX2_court.data.toList.drop 24 = dktX2_court_1 := dk_seg dksX2_court_0 24 rfl rfl
theorem dksX2_court_2 : cX2_court.data.toList.drop 48 = dktX2_court_2 := dk_seg dksX2_court_1 24 rfl rfl
theorem dksX2_court_3 : cX2_court.data.toList.drop 72 = dktX2_court_3 := dk_seg dksX2_court_2 24 rfl rfl
theorem dksX2_court_4 : cX2_court.data.toList.drop 94 = dktX2_court_4 := dk_seg dksX2_court_3 22 rfl rfl
theorem dX2_court_0 : decode cX2_court 0 = .ok (.aload_n 0, 1) := dk_42 (dk_at dksX2_court_0 0 rfl rfl)
theorem dX2_court_1 : decode cX2_court 1 = .ok (.aload_n 0, 1) := dk_42 (dk_at dksX2_court_0 1 rfl rfl)
theorem dX2_court_2 : decode cX2_court 2 = .ok (.getfield 127, 3) := dk_180 0 127 (dk_at dksX2_court_0 2 rfl rfl)
theorem dX2_court_5 : decode cX2_court 5 = .ok (.getfield 420, 3) := dk_180 1 164 (dk_at dksX2_court_0 5 rfl rfl)
theorem dX2_court_8 : decode cX2_court 8 = .ok (.bipush 6, 2) := dk_16 6 (dk_at dksX2_court_0 8 rfl rfl)
theorem dX2_court_10 : decode cX2_court 10 = .ok (.if_icmp .ge 7, 3) := dk_162 0 7 (dk_at dksX2_court_0 10 rfl rfl)
theorem dX2_court_13 : decode cX2_court 13 = .ok (.iconst 1, 1) := dk_4 (dk_at dksX2_court_0 13 rfl rfl)
theorem dX2_court_14 : decode cX2_court 14 = .ok (.goto 4, 3) := dk_167 0 4 (dk_at dksX2_court_0 14 rfl rfl)
theorem dX2_court_17 : decode cX2_court 17 = .ok (.iconst 0, 1) := dk_3 (dk_at dksX2_court_0 17 rfl rfl)
theorem dX2_court_18 : decode cX2_court 18 = .ok (.invokevirtual 226, 3) := dk_182 0 226 (dk_at dksX2_court_0 18 rfl rfl)
theorem dX2_court_21 : decode cX2_court 21 = .ok (.new 423, 3) := dk_187 1 167 (dk_at dksX2_court_0 21 rfl rfl)
theorem dX2_court_24 : decode cX2_court 24 = .ok (.dup, 1) := dk_89 (dk_at dksX2_court_1 0 rfl rfl)
theorem dX2_court_25 : decode cX2_court 25 = .ok (.aload_n 0, 1) := dk_42 (dk_at dksX2_court_1 1 rfl rfl)
theorem dX2_court_26 : decode cX2_court 26 = .ok (.invokevirtual 230, 3) := dk_182 0 230 (dk_at dksX2_court_1 2 rfl rfl)
theorem dX2_court_29 : decode cX2_court 29 = .ok (.aload_n 0, 1) := dk_42 (dk_at dksX2_court_1 5 rfl rfl)
theorem dX2_court_30 : decode cX2_court 30 = .ok (.getfield 127, 3) := dk_180 0 127 (dk_at dksX2_court_1 6 rfl rfl)
theorem dX2_court_33 : decode cX2_court 33 = .ok (.getfield 420, 3) := dk_180 1 164 (dk_at dksX2_court_1 9 rfl rfl)
theorem dX2_court_36 : decode cX2_court 36 = .ok (.invokespecial 425, 3) := dk_183 1 169 (dk_at dksX2_court_1 12 rfl rfl)
theorem dX2_court_39 : decode cX2_court 39 = .ok (.astore_n 1, 1) := dk_76 (dk_at dksX2_court_1 15 rfl rfl)
theorem dX2_court_40 : decode cX2_court 40 = .ok (.aload_n 1, 1) := dk_43 (dk_at dksX2_court_1 16 rfl rfl)
theorem dX2_court_41 : decode cX2_court 41 = .ok (.aload_n 0, 1) := dk_42 (dk_at dksX2_court_1 17 rfl rfl)
theorem dX2_court_42 : decode cX2_court 42 = .ok (.ldc_w 426, 3) := dk_19 1 170 (dk_at dksX2_court_1 18 rfl rfl)
theorem dX2_court_45 : decode cX2_court 45 = .ok (.iconst 0, 1) := dk_3 (dk_at dksX2_court_1 21 rfl rfl)
theorem dX2_court_46 : decode cX2_court 46 = .ok (.bipush 99, 2) := dk_16 99 (dk_at dksX2_court_1 22 rfl rfl)
theorem dX2_court_48 : decode cX2_court 48 = .ok (.invokevirtual 221, 3) := dk_182 0 221 (dk_at dksX2_court_2 0 rfl rfl)
theorem dX2_court_51 : decode cX2_court 51 = .ok (.putfield 428, 3) := dk_181 1 172 (dk_at dksX2_court_2 3 rfl rfl)
theorem dX2_court_54 : decode cX2_court 54 = .ok (.aload_n 1, 1) := dk_43 (dk_at dksX2_court_2 6 rfl rfl)
theorem dX2_court_55 : decode cX2_court 55 = .ok (.aload_n 0, 1) := dk_42 (dk_at dksX2_court_2 7 rfl rfl)
theorem dX2_court_56 : decode cX2_court 56 = .ok (.ldc_w 430, 3) := dk_19 1 174 (dk_at dksX2_court_2 8 rfl rfl)
theorem dX2_court_59 : decode cX2_court 59 = .ok (.iconst 1, 1) := dk_4 (dk_at dksX2_court_2 11 rfl rfl)
theorem dX2_court_60 : decode cX2_court 60 = .ok (.bipush 9, 2) := dk_16 9 (dk_at dksX2_court_2 12 rfl rfl)
theorem dX2_court_62 : decode cX2_court 62 = .ok (.invokevirtual 221, 3) := dk_182 0 221 (dk_at dksX2_court_2 14 rfl rfl)
theorem dX2_court_65 : decode cX2_court 65 = .ok (.putfield 432, 3) := dk_181 1 176 (dk_at dksX2_court_2 17 rfl rfl)
theorem dX2_court_68 : decode cX2_court 68 = .ok (.aload_n 0, 1) := dk_42 (dk_at dksX2_court_2 20 rfl rfl)
theorem dX2_court_69 : decode cX2_court 69 = .ok (.getfield 127, 3) := dk_180 0 127 (dk_at dksX2_court_2 21 rfl rfl)
theorem dX2_court_72 : decode cX2_court 72 = .ok (.getfield 434, 3) := dk_180 1 178 (dk_at dksX2_court_3 0 rfl rfl)
theorem dX2_court_75 : decode cX2_court 75 = .ok (.aload_n 0, 1) := dk_42 (dk_at dksX2_court_3 3 rfl rfl)
theorem dX2_court_76 : decode cX2_court 76 = .ok (.getfield 127, 3) := dk_180 0 127 (dk_at dksX2_court_3 4 rfl rfl)
theorem dX2_court_79 : decode cX2_court 79 = .ok (.getfield 420, 3) := dk_180 1 164 (dk_at dksX2_court_3 7 rfl rfl)
theorem dX2_court_82 : decode cX2_court 82 = .ok (.aload_n 1, 1) := dk_43 (dk_at dksX2_court_3 10 rfl rfl)
theorem dX2_court_83 : decode cX2_court 83 = .ok (.aastore, 1) := dk_83 (dk_at dksX2_court_3 11 rfl rfl)
theorem dX2_court_84 : decode cX2_court 84 = .ok (.aload_n 0, 1) := dk_42 (dk_at dksX2_court_3 12 rfl rfl)
theorem dX2_court_85 : decode cX2_court 85 = .ok (.getfield 127, 3) := dk_180 0 127 (dk_at dksX2_court_3 13 rfl rfl)
theorem dX2_court_88 : decode cX2_court 88 = .ok (.dup, 1) := dk_89 (dk_at dksX2_court_3 16 rfl rfl)
theorem dX2_court_89 : decode cX2_court 89 = .ok (.getfield 420, 3) := dk_180 1 164 (dk_at dksX2_court_3 17 rfl rfl)
theorem dX2_court_92 : decode cX2_court 92 = .ok (.iconst 1, 1) := dk_4 (dk_at dksX2_court_3 20 rfl rfl)
theorem dX2_court_93 : decode cX2_court 93 = .ok (.iadd, 1) := dk_96 (dk_at dksX2_court_3 21 rfl rfl)
theorem dX2_court_94 : decode cX2_court 94 = .ok (.putfield 420, 3) := dk_181 1 164 (dk_at dksX2_court_4 0 rfl rfl)
theorem dX2_court_97 : decode cX2_court 97 = .ok (.return_, 1) := dk_177 (dk_at dksX2_court_4 3 rfl rfl)
def dkwX2_cheese_1 : List UInt8 := [42, 180, 0, 127, 4, 181, 1, 182, 177]
abbrev dktX2_cheese_1 : List UInt8 := dkwX2_cheese_1 ++ []
def dkwX2_cheese_0 : List UInt8 := [42, 42, 180, 0, 127, 180, 1, 182, 182, 1, 158, 42, 42, 180, 0, 127, 180, 1, 185, 16, 99, 182, 0, 240]
abbrev dktX2_cheese_0 : List UInt8 := dkwX2_cheese_0 ++ dktX2_cheese_1
theorem dksX2_cheese_0 : cX2_cheese.data.toList.drop 0 = dktX2_cheese_0 := by decide +kernel
theorem dksX2_cheese_1 : cX2_cheese.data.toList.drop 24 = dktX2_cheese_1 := dk_seg dksX2_cheese_0 24 rfl rfl
theorem dX2_cheese_0 : decode cX2_cheese 0 = .ok (.aload_n 0, 1) := dk_42 (dk_at dksX2_cheese_0 0 rfl rfl)
theorem dX2_cheese_1 : decode cX2_cheese 1 = .ok (.aload_n 0, 1) := dk_42 (dk_at dksX2_cheese_0 1 rfl rfl)
theorem dX2_cheese_2 : decode cX2_cheese 2 = .ok (.getfield 127, 3) := dk_180 0 127 (dk_at dksX2_cheese_0 2 rfl rfl)
theorem dX2_cheese_5 : decode cX2_cheese 5 = .ok (.getfield 438, 3) := dk_180 1 182 (dk_at dksX2_cheese_0 5 rfl rfl)
theorem dX2_cheese_8 : decode cX2_cheese 8 = .ok (.invokevirtual 414, 3) := dk_182 1 158 (dk_at dksX2_cheese_0 8 rfl rfl)
theorem dX2_cheese_11 : decode cX2_cheese 11 = .ok (.aload_n 0, 1) := dk_42 (dk_at dksX2_cheese_0 11 rfl rfl)
theorem dX2_cheese_12 : decode cX2_cheese 12 = .ok (.aload_n 0, 1) := dk_42 (dk_at dksX2_cheese_0 12 rfl rfl)
theorem dX2_cheese_13 : decode cX2_cheese 13 = .ok (.getfield 127, 3) := dk_180 0 127 (dk_at dksX2_cheese_0 13 rfl rfl)
theorem dX2_cheese_16 : decode cX2_cheese 16 = .ok (.getfield 441, 3) := dk_180 1 185 (dk_at dksX2_cheese_0 16 rfl rfl)
theorem dX2_cheese_19 : decode cX2_cheese 19 = .ok (.bipush 99, 2) := dk_16 99 (dk_at dksX2_cheese_0 19 rfl rfl)
theorem dX2_cheese_21 : decode cX2_cheese 21 = .ok (.invokevirtual 240, 3) := dk_182 0 240 (dk_at dksX2_cheese_0 21 rfl rfl)
theorem dX2_cheese_24 : decode cX2_cheese 24 = .ok (.aload_n 0, 1) := dk_42 (dk_at dksX2_cheese_1 0 rfl rfl)
theorem dX2_cheese_25 : decode cX2_cheese 25 = .ok (.getfield 127, 3) := dk_180 0 127 (dk_at dksX2_cheese_1 1 rfl rfl)
theorem dX2_cheese_28 : decode cX2_cheese 28 = .ok (.iconst 1, 1) := dk_4 (dk_at dksX2_cheese_1 4 rfl rfl)
theorem dX2_cheese_29 : decode cX2_cheese 29 = .ok (.putfield 438, 3) := dk_181 1 182 (dk_at dksX2_cheese_1 5 rfl rfl)
theorem dX2_cheese_32 : decode cX2_cheese 32 = .ok (.return_, 1) := dk_177 (dk_at dksX2_cheese_1 8 rfl rfl)
theorem iy_GoatCourt_Goat : IsOK "GoatCourt$Goat" [30, 31, 32, 33] := fun kd h => ((List.mem_cons.mp h).elim (fun e => by cases e; exact ⟨10, _, rfl, rfl, Or.inr q2786⟩) (fun h => ((List.mem_cons.mp h).elim (fun e => by cases e; exact ⟨11, _, rfl, rfl, Or.inr q2787⟩) (fun h => ((List.mem_cons.mp h).elim (fun e => by cases e; exact ⟨12, _, rfl, rfl, Or.inr q2784⟩) (fun h => (by cases List.mem_singleton.mp h; exact ⟨13, _, rfl, rfl, Or.inr q2785⟩)))))))
theorem ino_GoatCourt_Goat : NoOK "GoatCourt$Goat" [28, 29, 37, 39] := fun kd h => ((List.mem_cons.mp h).elim (fun e => by cases e; exact ⟨8, _, rfl, rfl, by decide⟩) (fun h => ((List.mem_cons.mp h).elim (fun e => by cases e; exact ⟨9, _, rfl, rfl, by decide⟩) (fun h => ((List.mem_cons.mp h).elim (fun e => by cases e; exact ⟨17, _, rfl, rfl, by decide⟩) (fun h => (by cases List.mem_singleton.mp h; exact ⟨19, _, rfl, rfl, by decide⟩)))))))
theorem fp_X16_init_7 : FP mX16_init 7 [33] 0 (.object "GoatCourt$Goat") := fun kd h => (by cases List.mem_singleton.mp h; exact ⟨13, _, 7, "GoatCourt$Kid", rfl, rfl, by decide, rfl, rfl, Or.inl rfl, Or.inr ⟨rfl, q1072, rfl, rfl⟩⟩)
theorem fl_X2_319 : FL "GoatCourt$Reader" 319 [30, 31, 32, 33] 102 (.array (.int)) := fun kd h => ((List.mem_cons.mp h).elim (fun e => by cases e; exact ⟨10, _, 0, "GoatCourt$Goat", rfl, rfl, by decide, rfl, rfl, Or.inl q1005, Or.inl rfl⟩) (fun h => ((List.mem_cons.mp h).elim (fun e => by cases e; exact ⟨11, _, 0, "GoatCourt$Goat", rfl, rfl, by decide, rfl, rfl, Or.inl q1005, Or.inl rfl⟩) (fun h => ((List.mem_cons.mp h).elim (fun e => by cases e; exact ⟨12, _, 0, "GoatCourt$Goat", rfl, rfl, by decide, rfl, rfl, Or.inl q1005, Or.inl rfl⟩) (fun h => (by cases List.mem_singleton.mp h; exact ⟨13, _, 0, "GoatCourt$Goat", rfl, rfl, by decide, rfl, rfl, Or.inl q1005, Or.inl rfl⟩)))))))
theorem fp_X2_order_322 : FP mX2_order 322 [30, 31, 32, 33] 103 (tyOf 0) := fun kd h => ((List.mem_cons.mp h).elim (fun e => by cases e; exact ⟨10, _, 1, "GoatCourt$Goat", rfl, rfl, by decide, rfl, rfl, Or.inl rfl, Or.inl ⟨rfl, Or.inl q1008⟩⟩) (fun h => ((List.mem_cons.mp h).elim (fun e => by cases e; exact ⟨11, _, 1, "GoatCourt$Goat", rfl, rfl, by decide, rfl, rfl, Or.inl rfl, Or.inl ⟨rfl, Or.inl q1008⟩⟩) (fun h => ((List.mem_cons.mp h).elim (fun e => by cases e; exact ⟨12, _, 1, "GoatCourt$Goat", rfl, rfl, by decide, rfl, rfl, Or.inl rfl, Or.inl ⟨rfl, Or.inl q1008⟩⟩) (fun h => (by cases List.mem_singleton.mp h; exact ⟨13, _, 1, "GoatCourt$Goat", rfl, rfl, by decide, rfl, rfl, Or.inl rfl, Or.inl ⟨rfl, Or.inl q1008⟩⟩)))))))
theorem fl_X2_325 : FL "GoatCourt$Reader" 325 [27] 16 (tyOf 0) := fun kd h => (by cases List.mem_singleton.mp h; exact ⟨7, _, 16, "GoatCourt$Hill", rfl, rfl, by decide, rfl, rfl, Or.inl q575, Or.inl rfl⟩)
theorem fl_X2_343 : FL "GoatCourt$Reader" 343 [27] 6 (.array (.object "GoatCourt$Goat")) := fun kd h => (by cases List.mem_singleton.mp h; exact ⟨7, _, 6, "GoatCourt$Hill", rfl, rfl, by decide, rfl, rfl, Or.inl q541, Or.inl rfl⟩)
theorem fp_X2_goatLine_337 : FP mX2_goatLine 337 [30, 31, 32, 33] 104 (tyOf 0) := fun kd h => ((List.mem_cons.mp h).elim (fun e => by cases e; exact ⟨10, _, 2, "GoatCourt$Goat", rfl, rfl, by decide, rfl, rfl, Or.inl rfl, Or.inl ⟨rfl, Or.inl q1011⟩⟩) (fun h => ((List.mem_cons.mp h).elim (fun e => by cases e; exact ⟨11, _, 2, "GoatCourt$Goat", rfl, rfl, by decide, rfl, rfl, Or.inl rfl, Or.inl ⟨rfl, Or.inl q1011⟩⟩) (fun h => ((List.mem_cons.mp h).elim (fun e => by cases e; exact ⟨12, _, 2, "GoatCourt$Goat", rfl, rfl, by decide, rfl, rfl, Or.inl rfl, Or.inl ⟨rfl, Or.inl q1011⟩⟩) (fun h => (by cases List.mem_singleton.mp h; exact ⟨13, _, 2, "GoatCourt$Goat", rfl, rfl, by decide, rfl, rfl, Or.inl rfl, Or.inl ⟨rfl, Or.inl q1011⟩⟩)))))))
theorem fp_X2_goatLine_341 : FP mX2_goatLine 341 [30, 31, 32, 33] 105 (tyOf 0) := fun kd h => ((List.mem_cons.mp h).elim (fun e => by cases e; exact ⟨10, _, 3, "GoatCourt$Goat", rfl, rfl, by decide, rfl, rfl, Or.inl rfl, Or.inl ⟨rfl, Or.inl q1013⟩⟩) (fun h => ((List.mem_cons.mp h).elim (fun e => by cases e; exact ⟨11, _, 3, "GoatCourt$Goat", rfl, rfl, by decide, rfl, rfl, Or.inl rfl, Or.inl ⟨rfl, Or.inl q1013⟩⟩) (fun h => ((List.mem_cons.mp h).elim (fun e => by cases e; exact ⟨12, _, 3, "GoatCourt$Goat", rfl, rfl, by decide, rfl, rfl, Or.inl rfl, Or.inl ⟨rfl, Or.inl q1013⟩⟩) (fun h => (by cases List.mem_singleton.mp h; exact ⟨13, _, 3, "GoatCourt$Goat", rfl, rfl, by decide, rfl, rfl, Or.inl rfl, Or.inl ⟨rfl, Or.inl q1013⟩⟩)))))))
theorem fp_X2_goatLine_325 : FP mX2_goatLine 325 [27] 16 (tyOf 0) := fun kd h => (by cases List.mem_singleton.mp h; exact ⟨7, _, 16, "GoatCourt$Hill", rfl, rfl, by decide, rfl, rfl, Or.inl rfl, Or.inl ⟨rfl, Or.inl q575⟩⟩)
theorem ia_GoatCourt_Goat : AaOK 8 [30, 31, 32, 33] := fun kd h => ((List.mem_cons.mp h).elim (fun e => by cases e; exact ⟨10, _, "GoatCourt$Goat", rfl, rfl, rfl, Or.inr q2786⟩) (fun h => ((List.mem_cons.mp h).elim (fun e => by cases e; exact ⟨11, _, "GoatCourt$Goat", rfl, rfl, rfl, Or.inr q2787⟩) (fun h => ((List.mem_cons.mp h).elim (fun e => by cases e; exact ⟨12, _, "GoatCourt$Goat", rfl, rfl, rfl, Or.inr q2784⟩) (fun h => (by cases List.mem_singleton.mp h; exact ⟨13, _, "GoatCourt$Goat", rfl, rfl, rfl, Or.inr q2785⟩)))))))
theorem fl_X2_350 : FL "GoatCourt$Reader" 350 [30, 31, 32, 33] 106 (tyOf 0) := fun kd h => ((List.mem_cons.mp h).elim (fun e => by cases e; exact ⟨10, _, 4, "GoatCourt$Goat", rfl, rfl, by decide, rfl, rfl, Or.inl q1016, Or.inl rfl⟩) (fun h => ((List.mem_cons.mp h).elim (fun e => by cases e; exact ⟨11, _, 4, "GoatCourt$Goat", rfl, rfl, by decide, rfl, rfl, Or.inl q1016, Or.inl rfl⟩) (fun h => ((List.mem_cons.mp h).elim (fun e => by cases e; exact ⟨12, _, 4, "GoatCourt$Goat", rfl, rfl, by decide, rfl, rfl, Or.inl q1016, Or.inl rfl⟩) (fun h => (by cases List.mem_singleton.mp h; exact ⟨13, _, 4, "GoatCourt$Goat", rfl, rfl, by decide, rfl, rfl, Or.inl q1016, Or.inl rfl⟩)))))))
theorem fl_X2_352 : FL "GoatCourt$Reader" 352 [29] 101 (tyOf 0) := fun kd h => (by cases List.mem_singleton.mp h; exact ⟨9, _, 1, "GoatCourt$Person", rfl, rfl, by decide, rfl, rfl, Or.inl q897, Or.inr q898⟩)
theorem fl_X2_347 : FL "GoatCourt$Reader" 347 [27] 17 (tyOf 0) := fun kd h => (by cases List.mem_singleton.mp h; exact ⟨7, _, 17, "GoatCourt$Hill", rfl, rfl, by decide, rfl, rfl, Or.inl q576, Or.inl rfl⟩)
theorem fp_X2_fears_350 : FP mX2_fears 350 [30, 31, 32, 33] 106 (tyOf 0) := fun kd h => ((List.mem_cons.mp h).elim (fun e => by cases e; exact ⟨10, _, 4, "GoatCourt$Goat", rfl, rfl, by decide, rfl, rfl, Or.inl rfl, Or.inl ⟨rfl, Or.inl q1016⟩⟩) (fun h => ((List.mem_cons.mp h).elim (fun e => by cases e; exact ⟨11, _, 4, "GoatCourt$Goat", rfl, rfl, by decide, rfl, rfl, Or.inl rfl, Or.inl ⟨rfl, Or.inl q1016⟩⟩) (fun h => ((List.mem_cons.mp h).elim (fun e => by cases e; exact ⟨12, _, 4, "GoatCourt$Goat", rfl, rfl, by decide, rfl, rfl, Or.inl rfl, Or.inl ⟨rfl, Or.inl q1016⟩⟩) (fun h => (by cases List.mem_singleton.mp h; exact ⟨13, _, 4, "GoatCourt$Goat", rfl, rfl, by decide, rfl, rfl, Or.inl rfl, Or.inl ⟨rfl, Or.inl q1016⟩⟩)))))))
theorem fp_X2_fears_347 : FP mX2_fears 347 [27] 17 (tyOf 0) := fun kd h => (by cases List.mem_singleton.mp h; exact ⟨7, _, 17, "GoatCourt$Hill", rfl, rfl, by decide, rfl, rfl, Or.inl rfl, Or.inl ⟨rfl, Or.inl q576⟩⟩)
theorem fp_X17_init_7 : FP mX17_init 7 [34, 35, 36] 107 (tyOf 0) := fun kd h => ((List.mem_cons.mp h).elim (fun e => by cases e; exact ⟨14, _, 0, "GoatCourt$Clue", rfl, rfl, by decide, rfl, rfl, Or.inl rfl, Or.inr ⟨rfl, q1142, rfl, rfl⟩⟩) (fun h => ((List.mem_cons.mp h).elim (fun e => by cases e; exact ⟨15, _, 0, "GoatCourt$Clue", rfl, rfl, by decide, rfl, rfl, Or.inl rfl, Or.inr ⟨rfl, q1142, rfl, rfl⟩⟩) (fun h => (by cases List.mem_singleton.mp h; exact ⟨16, _, 0, "GoatCourt$Clue", rfl, rfl, by decide, rfl, rfl, Or.inl rfl, Or.inr ⟨rfl, q1142, rfl, rfl⟩⟩)))))
theorem fp_X17_init_13 : FP mX17_init 13 [34, 35, 36] 108 (tyOf 0) := fun kd h => ((List.mem_cons.mp h).elim (fun e => by cases e; exact ⟨14, _, 1, "GoatCourt$Clue", rfl, rfl, by decide, rfl, rfl, Or.inl rfl, Or.inr ⟨rfl, q1152, rfl, rfl⟩⟩) (fun h => ((List.mem_cons.mp h).elim (fun e => by cases e; exact ⟨15, _, 1, "GoatCourt$Clue", rfl, rfl, by decide, rfl, rfl, Or.inl rfl, Or.inr ⟨rfl, q1152, rfl, rfl⟩⟩) (fun h => (by cases List.mem_singleton.mp h; exact ⟨16, _, 1, "GoatCourt$Clue", rfl, rfl, by decide, rfl, rfl, Or.inl rfl, Or.inr ⟨rfl, q1152, rfl, rfl⟩⟩)))))
theorem fp_X17_init_16 : FP mX17_init 16 [34, 35, 36] 109 (tyOf 0) := fun kd h => ((List.mem_cons.mp h).elim (fun e => by cases e; exact ⟨14, _, 2, "GoatCourt$Clue", rfl, rfl, by decide, rfl, rfl, Or.inl rfl, Or.inr ⟨rfl, q1160, rfl, rfl⟩⟩) (fun h => ((List.mem_cons.mp h).elim (fun e => by cases e; exact ⟨15, _, 2, "GoatCourt$Clue", rfl, rfl, by decide, rfl, rfl, Or.inl rfl, Or.inr ⟨rfl, q1160, rfl, rfl⟩⟩) (fun h => (by cases List.mem_singleton.mp h; exact ⟨16, _, 2, "GoatCourt$Clue", rfl, rfl, by decide, rfl, rfl, Or.inl rfl, Or.inr ⟨rfl, q1160, rfl, rfl⟩⟩)))))
theorem fl_X2_374 : FL "GoatCourt$Reader" 374 [27] 7 (.array (.object "GoatCourt$Clue")) := fun kd h => (by cases List.mem_singleton.mp h; exact ⟨7, _, 7, "GoatCourt$Hill", rfl, rfl, by decide, rfl, rfl, Or.inl q545, Or.inl rfl⟩)
theorem fl_X2_353 : FL "GoatCourt$Reader" 353 [27] 18 (tyOf 0) := fun kd h => (by cases List.mem_singleton.mp h; exact ⟨7, _, 18, "GoatCourt$Hill", rfl, rfl, by decide, rfl, rfl, Or.inl q580, Or.inl rfl⟩)
theorem fl_X2_356 : FL "GoatCourt$Reader" 356 [30, 31, 32, 33] 101 (tyOf 0) := fun kd h => ((List.mem_cons.mp h).elim (fun e => by cases e; exact ⟨10, _, 6, "GoatCourt$Goat", rfl, rfl, by decide, rfl, rfl, Or.inl q899, Or.inr q893⟩) (fun h => ((List.mem_cons.mp h).elim (fun e => by cases e; exact ⟨11, _, 6, "GoatCourt$Goat", rfl, rfl, by decide, rfl, rfl, Or.inl q899, Or.inr q893⟩) (fun h => ((List.mem_cons.mp h).elim (fun e => by cases e; exact ⟨12, _, 6, "GoatCourt$Goat", rfl, rfl, by decide, rfl, rfl, Or.inl q899, Or.inr q893⟩) (fun h => (by cases List.mem_singleton.mp h; exact ⟨13, _, 6, "GoatCourt$Goat", rfl, rfl, by decide, rfl, rfl, Or.inl q899, Or.inr q893⟩)))))))
theorem fp_X2_clue_353 : FP mX2_clue 353 [27] 18 (tyOf 0) := fun kd h => (by cases List.mem_singleton.mp h; exact ⟨7, _, 18, "GoatCourt$Hill", rfl, rfl, by decide, rfl, rfl, Or.inl rfl, Or.inl ⟨rfl, Or.inl q580⟩⟩)
theorem ia_GoatCourt_Clue : AaOK 9 [34, 35, 36] := fun kd h => ((List.mem_cons.mp h).elim (fun e => by cases e; exact ⟨14, _, "GoatCourt$Clue", rfl, rfl, rfl, Or.inr q2813⟩) (fun h => ((List.mem_cons.mp h).elim (fun e => by cases e; exact ⟨15, _, "GoatCourt$Clue", rfl, rfl, rfl, Or.inr q2814⟩) (fun h => (by cases List.mem_singleton.mp h; exact ⟨16, _, "GoatCourt$Clue", rfl, rfl, rfl, Or.inr q2815⟩)))))
theorem fl_X2_381 : FL "GoatCourt$Reader" 381 [27] 8 (.array (.object "GoatCourt$Fact")) := fun kd h => (by cases List.mem_singleton.mp h; exact ⟨7, _, 8, "GoatCourt$Hill", rfl, rfl, by decide, rfl, rfl, Or.inl q547, Or.inl rfl⟩)
theorem fl_X2_378 : FL "GoatCourt$Reader" 378 [27] 19 (tyOf 0) := fun kd h => (by cases List.mem_singleton.mp h; exact ⟨7, _, 19, "GoatCourt$Hill", rfl, rfl, by decide, rfl, rfl, Or.inl q583, Or.inl rfl⟩)
theorem fp_X2_factLine_378 : FP mX2_factLine 378 [27] 19 (tyOf 0) := fun kd h => (by cases List.mem_singleton.mp h; exact ⟨7, _, 19, "GoatCourt$Hill", rfl, rfl, by decide, rfl, rfl, Or.inl rfl, Or.inl ⟨rfl, Or.inl q583⟩⟩)
theorem ia_GoatCourt_Fact : AaOK 10 [37] := fun kd h => (by cases List.mem_singleton.mp h; exact ⟨17, _, "GoatCourt$Fact", rfl, rfl, rfl, Or.inl rfl⟩)
theorem iy_GoatCourt_Fact : IsOK "GoatCourt$Fact" [37] := fun kd h => (by cases List.mem_singleton.mp h; exact ⟨17, _, rfl, rfl, Or.inl rfl⟩)
theorem ino_GoatCourt_Fact : NoOK "GoatCourt$Fact" [28, 29, 30, 31, 32, 33, 39] := fun kd h => ((List.mem_cons.mp h).elim (fun e => by cases e; exact ⟨8, _, rfl, rfl, by decide⟩) (fun h => ((List.mem_cons.mp h).elim (fun e => by cases e; exact ⟨9, _, rfl, rfl, by decide⟩) (fun h => ((List.mem_cons.mp h).elim (fun e => by cases e; exact ⟨10, _, rfl, rfl, by decide⟩) (fun h => ((List.mem_cons.mp h).elim (fun e => by cases e; exact ⟨11, _, rfl, rfl, by decide⟩) (fun h => ((List.mem_cons.mp h).elim (fun e => by cases e; exact ⟨12, _, rfl, rfl, by decide⟩) (fun h => ((List.mem_cons.mp h).elim (fun e => by cases e; exact ⟨13, _, rfl, rfl, by decide⟩) (fun h => (by cases List.mem_singleton.mp h; exact ⟨19, _, rfl, rfl, by decide⟩)))))))))))))
theorem fl_X2_386 : FL "GoatCourt$Reader" 386 [37] 0 (tyOf 1) := fun kd h => (by cases List.mem_singleton.mp h; exact ⟨17, _, 2, "GoatCourt$Fact", rfl, rfl, by decide, rfl, rfl, Or.inl q1210, Or.inl rfl⟩)
theorem fp_X2_holds_386 : FP mX2_holds 386 [37] 0 (tyOf 1) := fun kd h => (by cases List.mem_singleton.mp h; exact ⟨17, _, 2, "GoatCourt$Fact", rfl, rfl, by decide, rfl, rfl, Or.inl rfl, Or.inl ⟨rfl, Or.inl q1210⟩⟩)
theorem fp_X22_init_9 : FP mX22_init 9 [38] 0 (.array (.int)) := fun kd h => (by cases List.mem_singleton.mp h; exact ⟨18, _, 0, "GoatCourt$Rule", rfl, rfl, by decide, rfl, rfl, Or.inl rfl, Or.inr ⟨rfl, q1235, rfl, rfl⟩⟩)
theorem fl_X22_15 : FL "GoatCourt$Rule" 15 [38] 2 (tyOf 0) := fun kd h => (by cases List.mem_singleton.mp h; exact ⟨18, _, 2, "GoatCourt$Rule", rfl, rfl, by decide, rfl, rfl, Or.inl q1240, Or.inl rfl⟩)
theorem fl_X22_9 : FL "GoatCourt$Rule" 9 [38] 0 (.array (.int)) := fun kd h => (by cases List.mem_singleton.mp h; exact ⟨18, _, 0, "GoatCourt$Rule", rfl, rfl, by decide, rfl, rfl, Or.inl q1235, Or.inl rfl⟩)
theorem fl_X2_407 : FL "GoatCourt$Reader" 407 [27] 9 (.array (.object "GoatCourt$Rule")) := fun kd h => (by cases List.mem_singleton.mp h; exact ⟨7, _, 9, "GoatCourt$Hill", rfl, rfl, by decide, rfl, rfl, Or.inl q550, Or.inl rfl⟩)
theorem fl_X2_389 : FL "GoatCourt$Reader" 389 [27] 20 (tyOf 0) := fun kd h => (by cases List.mem_singleton.mp h; exact ⟨7, _, 20, "GoatCourt$Hill", rfl, rfl, by decide, rfl, rfl, Or.inl q585, Or.inl rfl⟩)
theorem fl_X2_397 : FL "GoatCourt$Reader" 397 [37] 101 (tyOf 0) := fun kd h => (by cases List.mem_singleton.mp h; exact ⟨17, _, 1, "GoatCourt$Fact", rfl, rfl, by decide, rfl, rfl, Or.inl q900, Or.inr q901⟩)
theorem fl_X2_403 : FL "GoatCourt$Reader" 403 [38] 2 (tyOf 0) := fun kd h => (by cases List.mem_singleton.mp h; exact ⟨18, _, 2, "GoatCourt$Rule", rfl, rfl, by decide, rfl, rfl, Or.inl q1241, Or.inl rfl⟩)
theorem fl_X2_404 : FL "GoatCourt$Reader" 404 [38] 0 (.array (.int)) := fun kd h => (by cases List.mem_singleton.mp h; exact ⟨18, _, 0, "GoatCourt$Rule", rfl, rfl, by decide, rfl, rfl, Or.inl q1236, Or.inl rfl⟩)
theorem fp_X2_rule_389 : FP mX2_rule 389 [27] 20 (tyOf 0) := fun kd h => (by cases List.mem_singleton.mp h; exact ⟨7, _, 20, "GoatCourt$Hill", rfl, rfl, by decide, rfl, rfl, Or.inl rfl, Or.inl ⟨rfl, Or.inl q585⟩⟩)
theorem fp_X2_rule_403 : FP mX2_rule 403 [38] 2 (tyOf 0) := fun kd h => (by cases List.mem_singleton.mp h; exact ⟨18, _, 2, "GoatCourt$Rule", rfl, rfl, by decide, rfl, rfl, Or.inl rfl, Or.inl ⟨rfl, Or.inl q1241⟩⟩)
theorem fp_X2_rule_398 : FP mX2_rule 398 [38] 1 (tyOf 0) := fun kd h => (by cases List.mem_singleton.mp h; exact ⟨18, _, 1, "GoatCourt$Rule", rfl, rfl, by decide, rfl, rfl, Or.inl rfl, Or.inl ⟨rfl, Or.inl q1238⟩⟩)
theorem ia_GoatCourt_Rule : AaOK 11 [38] := fun kd h => (by cases List.mem_singleton.mp h; exact ⟨18, _, "GoatCourt$Rule", rfl, rfl, rfl, Or.inl rfl⟩)
theorem fl_X2_411 : FL "GoatCourt$Reader" 411 [27] 21 (tyOf 0) := fun kd h => (by cases List.mem_singleton.mp h; exact ⟨7, _, 21, "GoatCourt$Hill", rfl, rfl, by decide, rfl, rfl, Or.inl q587, Or.inl rfl⟩)
theorem fl_X2_417 : FL "GoatCourt$Reader" 417 [27] 3 (.array (.int)) := fun kd h => (by cases List.mem_singleton.mp h; exact ⟨7, _, 3, "GoatCourt$Hill", rfl, rfl, by decide, rfl, rfl, Or.inl q529, Or.inl rfl⟩)
theorem fp_X2_proof_411 : FP mX2_proof 411 [27] 21 (tyOf 0) := fun kd h => (by cases List.mem_singleton.mp h; exact ⟨7, _, 21, "GoatCourt$Hill", rfl, rfl, by decide, rfl, rfl, Or.inl rfl, Or.inl ⟨rfl, Or.inl q587⟩⟩)
theorem fl_X2_420 : FL "GoatCourt$Reader" 420 [27] 22 (tyOf 0) := fun kd h => (by cases List.mem_singleton.mp h; exact ⟨7, _, 22, "GoatCourt$Hill", rfl, rfl, by decide, rfl, rfl, Or.inl q591, Or.inl rfl⟩)
theorem fl_X2_434 : FL "GoatCourt$Reader" 434 [27] 10 (.array (.object "GoatCourt$Court")) := fun kd h => (by cases List.mem_singleton.mp h; exact ⟨7, _, 10, "GoatCourt$Hill", rfl, rfl, by decide, rfl, rfl, Or.inl q554, Or.inl rfl⟩)
theorem fp_X2_court_428 : FP mX2_court 428 [39] 0 (tyOf 0) := fun kd h => (by cases List.mem_singleton.mp h; exact ⟨19, _, 2, "GoatCourt$Court", rfl, rfl, by decide, rfl, rfl, Or.inl rfl, Or.inl ⟨rfl, Or.inl q1276⟩⟩)
theorem fp_X2_court_432 : FP mX2_court 432 [39] 1 (tyOf 0) := fun kd h => (by cases List.mem_singleton.mp h; exact ⟨19, _, 3, "GoatCourt$Court", rfl, rfl, by decide, rfl, rfl, Or.inl rfl, Or.inl ⟨rfl, Or.inl q1278⟩⟩)
theorem fp_X2_court_420 : FP mX2_court 420 [27] 22 (tyOf 0) := fun kd h => (by cases List.mem_singleton.mp h; exact ⟨7, _, 22, "GoatCourt$Hill", rfl, rfl, by decide, rfl, rfl, Or.inl rfl, Or.inl ⟨rfl, Or.inl q591⟩⟩)
theorem ia_GoatCourt_Court : AaOK 12 [39] := fun kd h => (by cases List.mem_singleton.mp h; exact ⟨19, _, "GoatCourt$Court", rfl, rfl, rfl, Or.inl rfl⟩)
theorem fl_X2_438 : FL "GoatCourt$Reader" 438 [27] 23 (tyOf 1) := fun kd h => (by cases List.mem_singleton.mp h; exact ⟨7, _, 23, "GoatCourt$Hill", rfl, rfl, by decide, rfl, rfl, Or.inl q593, Or.inl rfl⟩)
theorem fl_X2_441 : FL "GoatCourt$Reader" 441 [27] 4 (.array (.int)) := fun kd h => (by cases List.mem_singleton.mp h; exact ⟨7, _, 4, "GoatCourt$Hill", rfl, rfl, by decide, rfl, rfl, Or.inl q532, Or.inl rfl⟩)
theorem fp_X2_cheese_438 : FP mX2_cheese 438 [27] 23 (tyOf 1) := fun kd h => (by cases List.mem_singleton.mp h; exact ⟨7, _, 23, "GoatCourt$Hill", rfl, rfl, by decide, rfl, rfl, Or.inl rfl, Or.inl ⟨rfl, Or.inl q593⟩⟩)
theorem c_X15_init (G : Gx) (h0 : G0 G) (N : Nat) (a0 : Nat) (o1 : Option Nat) (i2 : Int32) (σ : Mem) : Ct G mX15_init rhoV [vR (some a0), vR o1, vI i2] σ (f_X15_init N a0 o1 i2 σ) := by
  refine Ct_of h0 (by decide) rfl (Nat.le_of_ble_eq_true rfl) (L0 := [some (vR (some a0)), some (vR o1), some (vI i2)]) rfl ?_
  unfold f_X15_init
  refine r_aload_n (q := 1) dX15_init_0 rfl rfl rfl ?_
  refine r_aload_n (q := 2) dX15_init_1 rfl rfl rfl ?_
  refine r_iload_n (q := 3) dX15_init_2 rfl rfl rfl ?_
  refine r_callV (q := 6) (c_X12_init G h0 N _ _ _ _) (cl_I rfl rfl rfl rfl q1051 q999 q186 q1000 (hd_X12_init) ⟨Nat.le_of_ble_eq_true rfl, Nat.le_of_ble_eq_true rfl⟩ rfl (Nat.le_of_ble_eq_true rfl) dX15_init_3) rfl (fun u1 σ2 => ?_)
  exact r_return rfl dX15_init_6
theorem c_X2_goat (G : Gx) (h0 : G0 G) (N : Nat) (a0 : Nat) (σ : Mem) : Ct G mX2_goat (rhoX rhoR) [vR (some a0)] σ (f_X2_goat N a0 σ) := by
  refine Ct_of h0 (by decide) rfl (Nat.le_of_ble_eq_true rfl) (L0 := [some (vR (some a0)), none]) rfl ?_
  unfold f_X2_goat
  refine r_aload_n (q := 1) dX2_goat_0 rfl rfl rfl ?_
  refine r_ob (fun a3 ha3 => ?_)
  obtain ⟨hea3, hka3⟩ := o_at_eq ha3
  cases hea3
  refine r_callXR (q := 4) (c_X2_found G h0 N _ _) (cl_V (ci := 1) rfl rfl (lw_V q931 q933 qs22 q168 q934) (hd_X2_found) ⟨Nat.le_of_ble_eq_true rfl, Nat.le_of_ble_eq_true rfl⟩ (List.mem_singleton.mp hka3) rfl rfl rfl (Nat.le_of_ble_eq_true rfl) dX2_goat_1) rfl rfl (fun x1 σ2 => ?_)
  refine r_astore_n (q := 5) dX2_goat_4 rfl rfl (Nat.le_of_ble_eq_true rfl) rfl ?_
  refine r_aload_n (q := 6) dX2_goat_5 rfl rfl rfl ?_
  refine r_inst (q := 9) iy_GoatCourt_Goat ino_GoatCourt_Goat q1067 dX2_goat_6 rfl (fun x4 => ?_)
  refine r_if_ne (q := 12) (t := 18) dX2_goat_9 rfl (by decide) (fun _ => ?_) (fun _ => ?_)
  · refine r_aload_n (q := 13) dX2_goat_12 rfl rfl rfl ?_
    refine r_iconst (q := 14) (v := (2 : Int32)) dX2_goat_13 rfl (by decide) ?_
    refine r_ob (fun a11 ha11 => ?_)
    obtain ⟨hea11, hka11⟩ := o_at_eq ha11
    cases hea11
    refine r_callR (q := 17) (c_X2_fail G h0 N _ _ _) (cl_V (ci := 1) rfl rfl (lw_V q742 q744 qs7 q168 q745) (hd_X2_fail) ⟨Nat.le_of_ble_eq_true rfl, Nat.le_of_ble_eq_true rfl⟩ (List.mem_singleton.mp hka11) rfl rfl rfl (Nat.le_of_ble_eq_true rfl) dX2_goat_14) rfl (fun x9 σ10 => ?_)
    exact r_athrow (ci := 2) (r0 := (RX3, TX3, 8)) rfl rfl dX2_goat_17
  · refine r_aload_n (q := 19) dX2_goat_18 rfl rfl rfl ?_
    refine r_ob (fun a7 ha7 => ?_)
    obtain ⟨hea7, hka7⟩ := o_at_eq ha7
    cases hea7
    refine r_callV (q := 22) (c_X2_next G h0 N _ _) (cl_V (ci := 1) rfl rfl (lw_V q644 q646 qs4 q168 q647) (hd_X2_next) ⟨Nat.le_of_ble_eq_true rfl, Nat.le_of_ble_eq_true rfl⟩ (List.mem_singleton.mp hka7) rfl rfl rfl (Nat.le_of_ble_eq_true rfl) dX2_goat_19) rfl (fun u5 σ6 => ?_)
    refine r_aload_n (q := 23) dX2_goat_22 rfl rfl rfl ?_
    refine r_cast (q := 26) iy_GoatCourt_Goat q1067 dX2_goat_23 rfl (fun x8 => ?_)
    exact r_areturnX rfl (Or.inl ⟨_, rfl⟩) dX2_goat_26
theorem c_X16_init (G : Gx) (h0 : G0 G) (N : Nat) (a0 : Nat) (o1 : Option Nat) (i2 : Int32) (o3 : Option Nat) (σ : Mem) : Ct G mX16_init rhoV [vR (some a0), vR o1, vI i2, vR o3] σ (f_X16_init N a0 o1 i2 o3 σ) := by
  refine Ct_of h0 (by decide) rfl (Nat.le_of_ble_eq_true rfl) (L0 := [some (vR (some a0)), some (vR o1), some (vI i2), some (vR o3)]) rfl ?_
  unfold f_X16_init
  refine r_aload_n (q := 1) dX16_init_0 rfl rfl rfl ?_
  refine r_aload_n (q := 2) dX16_init_1 rfl rfl rfl ?_
  refine r_iload_n (q := 3) dX16_init_2 rfl rfl rfl ?_
  refine r_callV (q := 6) (c_X12_init G h0 N _ _ _ _) (cl_I rfl rfl rfl rfl q1071 q999 q186 q1000 (hd_X12_init) ⟨Nat.le_of_ble_eq_true rfl, Nat.le_of_ble_eq_true rfl⟩ rfl (Nat.le_of_ble_eq_true rfl) dX16_init_3) rfl (fun u1 σ2 => ?_)
  refine r_aload_n (q := 7) dX16_init_6 rfl rfl rfl ?_
  refine r_aload_n (q := 8) dX16_init_7 rfl rfl rfl ?_
  refine r_pR (q := 11) fp_X16_init_7 rfl dX16_init_8 rfl (fun σ3 => ?_)
  exact r_return rfl dX16_init_11
theorem c_X2_goatOf (G : Gx) (h0 : G0 G) (N : Nat) (a0 : Nat) (o1 : Option Nat) (i2 : Int32) (σ : Mem) : Ct G mX2_goatOf (rhoX rhoR) [vR (some a0), vR o1, vI i2] σ (f_X2_goatOf N a0 o1 i2 σ) := by
  refine Ct_of h0 (by decide) rfl (Nat.le_of_ble_eq_true rfl) (L0 := [some (vR (some a0)), some (vR o1), some (vI i2)]) rfl ?_
  unfold f_X2_goatOf
  refine r_aload_n (q := 1) dX2_goatOf_0 rfl rfl rfl ?_
  refine r_ldcWS (q := 4) (tx := "plain") (cd := 40) (List.mem_of_getElem? (i := 21) rfl) (by decide) dX2_goatOf_1 rfl ?_
  refine r_ob (fun a3 ha3 => ?_)
  obtain ⟨hea3, hka3⟩ := o_at_eq ha3
  cases hea3
  refine r_callI (q := 7) (c_X2_takes G h0 N _ _ _) (cl_V (ci := 1) rfl rfl (lw_V q840 q842 qs11 q168 q843) (hd_X2_takes) ⟨Nat.le_of_ble_eq_true rfl, Nat.le_of_ble_eq_true rfl⟩ (List.mem_singleton.mp hka3) rfl rfl rfl (Nat.le_of_ble_eq_true rfl) dX2_goatOf_4) rfl (fun x1 σ2 => ?_)
  refine r_if_eq (q := 10) (t := 20) dX2_goatOf_7 rfl (by decide) (fun _ => ?_) (fun _ => ?_)
  · refine r_aload_n (q := 21) dX2_goatOf_20 rfl rfl rfl ?_
    refine r_ldcWS (q := 24) (tx := "shy") (cd := 42) (List.mem_of_getElem? (i := 22) rfl) (by decide) dX2_goatOf_21 rfl ?_
    refine r_ob (fun a6 ha6 => ?_)
    obtain ⟨hea6, hka6⟩ := o_at_eq ha6
    cases hea6
    refine r_callI (q := 27) (c_X2_takes G h0 N _ _ _) (cl_V (ci := 1) rfl rfl (lw_V q840 q842 qs11 q168 q843) (hd_X2_takes) ⟨Nat.le_of_ble_eq_true rfl, Nat.le_of_ble_eq_true rfl⟩ (List.mem_singleton.mp hka6) rfl rfl rfl (Nat.le_of_ble_eq_true rfl) dX2_goatOf_24) rfl (fun x4 σ5 => ?_)
    refine r_if_eq (q := 30) (t := 40) dX2_goatOf_27 rfl (by decide) (fun _ => ?_) (fun _ => ?_)
    · refine r_aload_n (q := 41) dX2_goatOf_40 rfl rfl rfl ?_
      refine r_ldcWS (q := 44) (tx := "billy") (cd := 44) (List.mem_of_getElem? (i := 23) rfl) (by decide) dX2_goatOf_41 rfl ?_
      refine r_ob (fun a9 ha9 => ?_)
      obtain ⟨hea9, hka9⟩ := o_at_eq ha9
      cases hea9
      refine r_callI (q := 47) (c_X2_takes G h0 N _ _ _) (cl_V (ci := 1) rfl rfl (lw_V q840 q842 qs11 q168 q843) (hd_X2_takes) ⟨Nat.le_of_ble_eq_true rfl, Nat.le_of_ble_eq_true rfl⟩ (List.mem_singleton.mp hka9) rfl rfl rfl (Nat.le_of_ble_eq_true rfl) dX2_goatOf_44) rfl (fun x7 σ8 => ?_)
      refine r_if_eq (q := 50) (t := 60) dX2_goatOf_47 rfl (by decide) (fun _ => ?_) (fun _ => ?_)
      · refine r_aload_n (q := 61) dX2_goatOf_60 rfl rfl rfl ?_
        refine r_ldcWS (q := 64) (tx := "kid") (cd := 46) (List.mem_of_getElem? (i := 24) rfl) (by decide) dX2_goatOf_61 rfl ?_
        refine r_ob (fun a12 ha12 => ?_)
        obtain ⟨hea12, hka12⟩ := o_at_eq ha12
        cases hea12
        refine r_callXV (q := 67) (c_X2_must G h0 N _ _ _) (cl_V (ci := 1) rfl rfl (lw_V q836 q838 qs10 q168 q839) (hd_X2_must) ⟨Nat.le_of_ble_eq_true rfl, Nat.le_of_ble_eq_true rfl⟩ (List.mem_singleton.mp hka12) rfl rfl rfl (Nat.le_of_ble_eq_true rfl) dX2_goatOf_64) rfl rfl (fun u10 σ11 => ?_)
        refine r_new (q := 70) (ci := 13) rfl rfl q1061 q1062 q190 dX2_goatOf_67 rfl (fun a13 σ14 => ?_)
        refine r_dup (q := 71) dX2_goatOf_70 rfl rfl ?_
        refine r_aload_n (q := 72) dX2_goatOf_71 rfl rfl rfl ?_
        refine r_iload_n (q := 73) dX2_goatOf_72 rfl rfl rfl ?_
        refine r_aload_n (q := 74) dX2_goatOf_73 rfl rfl rfl ?_
        refine r_ob (fun a17 ha17 => ?_)
        obtain ⟨hea17, hka17⟩ := o_at_eq ha17
        cases hea17
        refine r_callXR (q := 77) (c_X2_goat G h0 N _ _) (cl_V (ci := 1) rfl rfl (lw_V q1063 q1065 qs28 q168 q1066) (hd_X2_goat) ⟨Nat.le_of_ble_eq_true rfl, Nat.le_of_ble_eq_true rfl⟩ (List.mem_singleton.mp hka17) rfl rfl rfl (Nat.le_of_ble_eq_true rfl) dX2_goatOf_74) rfl rfl (fun x15 σ16 => ?_)
        refine r_callV (q := 80) (c_X16_init G h0 N _ _ _ _ _) (cl_I rfl rfl rfl rfl q1068 q1069 q190 q1070 (hd_X16_init) ⟨Nat.le_of_ble_eq_true rfl, Nat.le_of_ble_eq_true rfl⟩ rfl (Nat.le_of_ble_eq_true rfl) dX2_goatOf_77) rfl (fun u18 σ19 => ?_)
        exact r_areturnX rfl (Or.inl ⟨_, rfl⟩) dX2_goatOf_80
      · refine r_new (q := 53) (ci := 12) rfl rfl q1046 q1047 q189 dX2_goatOf_50 rfl (fun a20 σ21 => ?_)
        refine r_dup (q := 54) dX2_goatOf_53 rfl rfl ?_
        refine r_aload_n (q := 55) dX2_goatOf_54 rfl rfl rfl ?_
        refine r_iload_n (q := 56) dX2_goatOf_55 rfl rfl rfl ?_
        refine r_callV (q := 59) (c_X15_init G h0 N _ _ _ _) (cl_I rfl rfl rfl rfl q1048 q1049 q189 q1050 (hd_X15_init) ⟨Nat.le_of_ble_eq_true rfl, Nat.le_of_ble_eq_true rfl⟩ rfl (Nat.le_of_ble_eq_true rfl) dX2_goatOf_56) rfl (fun u22 σ23 => ?_)
        exact r_areturnX rfl (Or.inl ⟨_, rfl⟩) dX2_goatOf_59
    · refine r_new (q := 33) (ci := 11) rfl rfl q1031 q1032 q188 dX2_goatOf_30 rfl (fun a24 σ25 => ?_)
      refine r_dup (q := 34) dX2_goatOf_33 rfl rfl ?_
      refine r_aload_n (q := 35) dX2_goatOf_34 rfl rfl rfl ?_
      refine r_iload_n (q := 36) dX2_goatOf_35 rfl rfl rfl ?_
      refine r_callV (q := 39) (c_X14_init G h0 N _ _ _ _) (cl_I rfl rfl rfl rfl q1033 q1034 q188 q1035 (hd_X14_init) ⟨Nat.le_of_ble_eq_true rfl, Nat.le_of_ble_eq_true rfl⟩ rfl (Nat.le_of_ble_eq_true rfl) dX2_goatOf_36) rfl (fun u26 σ27 => ?_)
      exact r_areturnX rfl (Or.inl ⟨_, rfl⟩) dX2_goatOf_39
  · refine r_new (q := 13) (ci := 10) rfl rfl q993 q994 q187 dX2_goatOf_10 rfl (fun a28 σ29 => ?_)
    refine r_dup (q := 14) dX2_goatOf_13 rfl rfl ?_
    refine r_aload_n (q := 15) dX2_goatOf_14 rfl rfl rfl ?_
    refine r_iload_n (q := 16) dX2_goatOf_15 rfl rfl rfl ?_
    refine r_callV (q := 19) (c_X13_init G h0 N _ _ _ _) (cl_I rfl rfl rfl rfl q995 q996 q187 q997 (hd_X13_init) ⟨Nat.le_of_ble_eq_true rfl, Nat.le_of_ble_eq_true rfl⟩ rfl (Nat.le_of_ble_eq_true rfl) dX2_goatOf_16) rfl (fun u30 σ31 => ?_)
    exact r_areturnX rfl (Or.inl ⟨_, rfl⟩) dX2_goatOf_19
theorem c_J3_coder (G : Gx) (h0 : G0 G) (N : Nat) (a0 : Nat) (σ : Mem) : Ct G mJ3_coder rhoI [vR (some a0)] σ (f_J3_coder N a0 σ) := by
  refine Ct_of h0 (by decide) rfl (Nat.le_of_ble_eq_true rfl) (L0 := [some (vR (some a0))]) rfl ?_
  unfold f_J3_coder
  refine r_gsI (q := 3) (cn := "java/lang/String") (v := (1 : Int32)) (List.mem_of_getElem? (i := 0) rfl) q677 (Or.inl rfl) dJ3_coder_0 rfl ?_
  refine r_if_eq (q := 6) (t := 13) dJ3_coder_3 rfl (by decide) (fun _ => ?_) (fun _ => ?_)
  · refine r_iconst (q := 14) (v := (1 : Int32)) dJ3_coder_13 rfl (by decide) ?_
    exact r_ireturnN rfl dJ3_coder_14
  · refine r_aload_n (q := 7) dJ3_coder_6 rfl rfl rfl ?_
    refine r_gI (q := 10) fl_J3_15 dJ3_coder_7 rfl (fun x1 => ?_)
    refine r_goto (q := 14) dJ3_coder_10 (by decide) ?_
    exact r_ireturnN rfl dJ3_coder_14
theorem c_J3_length (G : Gx) (h0 : G0 G) (N : Nat) (a0 : Nat) (σ : Mem) : Ct G mJ3_length rhoI [vR (some a0)] σ (f_J3_length N a0 σ) := by
  refine Ct_of h0 (by decide) rfl (Nat.le_of_ble_eq_true rfl) (L0 := [some (vR (some a0))]) rfl ?_
  unfold f_J3_length
  refine r_aload_n (q := 1) dJ3_length_0 rfl rfl rfl ?_
  refine r_gR (q := 4) fl_J3_9 rfl dJ3_length_1 rfl (fun x1 => ?_)
  refine r_len (q := 5) dJ3_length_4 rfl (fun x2 => ?_)
  refine r_aload_n (q := 6) dJ3_length_5 rfl rfl rfl ?_
  refine r_ob (fun a5 ha5 => ?_)
  obtain ⟨hea5, hka5⟩ := o_at_eq ha5
  cases hea5
  refine r_callI (q := 9) (c_J3_coder G h0 N _ _) (cl_V (ci := 21) rfl rfl (lw_V q1092 q1093 q1094 q178 q1095) (hd_J3_coder) ⟨Nat.le_of_ble_eq_true rfl, Nat.le_of_ble_eq_true rfl⟩ (List.mem_singleton.mp hka5) rfl rfl rfl (Nat.le_of_ble_eq_true rfl) dJ3_length_6) rfl (fun x3 σ4 => ?_)
  refine r_ishr (q := 10) dJ3_length_9 rfl ?_
  exact r_ireturn rfl rfl dJ3_length_10
theorem w_J4_checkIndex_b9 (G : Gx) (h0 : G0 G) (N : Nat)   (l0 : Int32) (l1 : Int32) (l2 : Option Nat) (σ : Mem) : Runs G mJ4_checkIndex rhoI σ 9 [some (vI l0), some (vI l1), some (vR l2)] [] (f_J4_checkIndex_b9 N  l0 l1 l2 σ) := by
  unfold f_J4_checkIndex_b9
  refine r_aload_n (q := 10) dJ4_checkIndex_9 rfl rfl rfl ?_
  refine r_iload_n (q := 11) dJ4_checkIndex_10 rfl rfl rfl ?_
  refine r_iload_n (q := 12) dJ4_checkIndex_11 rfl rfl rfl ?_
  exact r_none
theorem c_J4_checkIndex (G : Gx) (h0 : G0 G) (N : Nat) (i0 : Int32) (i1 : Int32) (o2 : Option Nat) (σ : Mem) : Ct G mJ4_checkIndex rhoI [vI i0, vI i1, vR o2] σ (f_J4_checkIndex N i0 i1 o2 σ) := by
  refine Ct_of h0 (by decide) rfl (Nat.le_of_ble_eq_true rfl) (L0 := [some (vI i0), some (vI i1), some (vR o2)]) rfl ?_
  unfold f_J4_checkIndex
  refine r_iload_n (q := 1) dJ4_checkIndex_0 rfl rfl rfl ?_
  refine r_if_lt (q := 4) (t := 9) dJ4_checkIndex_1 rfl (by decide) (fun _ => ?_) (fun _ => ?_)
  · exact r_le (w_J4_checkIndex_b9 G h0 N _ _ _ _) (Nat.le_refl _) (And.intro rfl (And.intro rfl (And.intro rfl trivial)))
  · refine r_iload_n (q := 5) dJ4_checkIndex_4 rfl rfl rfl ?_
    refine r_iload_n (q := 6) dJ4_checkIndex_5 rfl rfl rfl ?_
    refine r_icmp_lt (q := 9) (t := 16) dJ4_checkIndex_6 rfl (by decide) (fun _ => ?_) (fun _ => ?_)
    · refine r_iload_n (q := 17) dJ4_checkIndex_16 rfl rfl rfl ?_
      exact r_ireturn rfl rfl dJ4_checkIndex_17
    · exact r_le (w_J4_checkIndex_b9 G h0 N _ _ _ _) (Nat.le_refl _) (And.intro rfl (And.intro rfl (And.intro rfl trivial)))
theorem c_J3_checkIndex (G : Gx) (h0 : G0 G) (N : Nat) (i0 : Int32) (i1 : Int32) (σ : Mem) : Ct G mJ3_checkIndex rhoV [vI i0, vI i1] σ (f_J3_checkIndex N i0 i1 σ) := by
  refine Ct_of h0 (by decide) rfl (Nat.le_of_ble_eq_true rfl) (L0 := [some (vI i0), some (vI i1)]) rfl ?_
  unfold f_J3_checkIndex
  refine r_iload_n (q := 1) dJ3_checkIndex_0 rfl rfl rfl ?_
  refine r_iload_n (q := 2) dJ3_checkIndex_1 rfl rfl rfl ?_
  refine r_gsR (q := 5) (j := 2) (cn := "jdk/internal/util/Preconditions") rfl q667 (Or.inl rfl) dJ3_checkIndex_2 rfl ?_
  refine r_callI (q := 8) (c_J4_checkIndex G h0 N _ _ _ _) (cl_S rfl rfl (lw_S q1106 q1107 q179 q1108) (hd_J4_checkIndex) ⟨Nat.le_of_ble_eq_true rfl, Nat.le_of_ble_eq_true rfl⟩ rfl (Nat.le_of_ble_eq_true rfl) dJ3_checkIndex_5) rfl (fun x1 σ2 => ?_)
  refine r_pop (q := 9) dJ3_checkIndex_8 rfl rfl ?_
  exact r_return rfl dJ3_checkIndex_9
theorem c_J6_charAt (G : Gx) (h0 : G0 G) (N : Nat) (o0 : Option Nat) (i1 : Int32) (σ : Mem) : Ct G mJ6_charAt rhoI [vR o0, vI i1] σ (f_J6_charAt N o0 i1 σ) := by
  refine Ct_of h0 (by decide) rfl (Nat.le_of_ble_eq_true rfl) (L0 := [some (vR o0), some (vI i1)]) rfl ?_
  unfold f_J6_charAt
  refine r_iload_n (q := 1) dJ6_charAt_0 rfl rfl rfl ?_
  refine r_aload_n (q := 2) dJ6_charAt_1 rfl rfl rfl ?_
  refine r_len (q := 3) dJ6_charAt_2 rfl (fun x1 => ?_)
  refine r_callV (q := 6) (c_J3_checkIndex G h0 N _ _ _) (cl_S rfl rfl (lw_S q1103 q1104 q178 q1105) (hd_J3_checkIndex) ⟨Nat.le_of_ble_eq_true rfl, Nat.le_of_ble_eq_true rfl⟩ rfl (Nat.le_of_ble_eq_true rfl) dJ6_charAt_3) rfl (fun u2 σ3 => ?_)
  refine r_aload_n (q := 7) dJ6_charAt_6 rfl rfl rfl ?_
  refine r_iload_n (q := 8) dJ6_charAt_7 rfl rfl rfl ?_
  refine r_baload (q := 9) dJ6_charAt_8 rfl (fun x4 => ?_)
  refine r_sipush (q := 12) (v := (255 : Int32)) dJ6_charAt_9 rfl (by decide) ?_
  refine r_iand (q := 13) dJ6_charAt_12 rfl ?_
  refine r_i2c (q := 14) dJ6_charAt_13 rfl ?_
  exact r_ireturnN rfl dJ6_charAt_14
theorem c_J3_charAt (G : Gx) (h0 : G0 G) (N : Nat) (a0 : Nat) (i1 : Int32) (σ : Mem) : Ct G mJ3_charAt rhoI [vR (some a0), vI i1] σ (f_J3_charAt N a0 i1 σ) := by
  refine Ct_of h0 (by decide) rfl (Nat.le_of_ble_eq_true rfl) (L0 := [some (vR (some a0)), some (vI i1)]) rfl ?_
  unfold f_J3_charAt
  refine r_aload_n (q := 1) dJ3_charAt_0 rfl rfl rfl ?_
  refine r_ob (fun a3 ha3 => ?_)
  obtain ⟨hea3, hka3⟩ := o_at_eq ha3
  cases hea3
  refine r_callI (q := 4) (c_J3_isLatin1 G h0 N _ _) (cl_V (ci := 21) rfl rfl (lw_V q754 q755 q756 q178 q757) (hd_J3_isLatin1) ⟨Nat.le_of_ble_eq_true rfl, Nat.le_of_ble_eq_true rfl⟩ (List.mem_singleton.mp hka3) rfl rfl rfl (Nat.le_of_ble_eq_true rfl) dJ3_charAt_1) rfl (fun x1 σ2 => ?_)
  refine r_if_eq (q := 7) (t := 16) dJ3_charAt_4 rfl (by decide) (fun _ => ?_) (fun _ => ?_)
  · refine r_aload_n (q := 17) dJ3_charAt_16 rfl rfl rfl ?_
    refine r_gR (q := 20) fl_J3_9 rfl dJ3_charAt_17 rfl (fun x4 => ?_)
    refine r_iload_n (q := 21) dJ3_charAt_20 rfl rfl rfl ?_
    exact r_none
  · refine r_aload_n (q := 8) dJ3_charAt_7 rfl rfl rfl ?_
    refine r_gR (q := 11) fl_J3_9 rfl dJ3_charAt_8 rfl (fun x5 => ?_)
    refine r_iload_n (q := 12) dJ3_charAt_11 rfl rfl rfl ?_
    refine r_callI (q := 15) (c_J6_charAt G h0 N _ _ _) (cl_S rfl rfl (lw_S q1100 q1101 q181 q1102) (hd_J6_charAt) ⟨Nat.le_of_ble_eq_true rfl, Nat.le_of_ble_eq_true rfl⟩ rfl (Nat.le_of_ble_eq_true rfl) dJ3_charAt_12) rfl (fun x6 σ7 => ?_)
    exact r_ireturnN rfl dJ3_charAt_15
theorem c_X1_has (G : Gx) (h0 : G0 G) (N : Nat) (i0 : Int32) (i1 : Int32) (σ : Mem) : Ct G mX1_has rhoI [vI i0, vI i1] σ (f_X1_has N i0 i1 σ) := by
  refine Ct_of h0 (by decide) rfl (Nat.le_of_ble_eq_true rfl) (L0 := [some (vI i0), some (vI i1)]) rfl ?_
  unfold f_X1_has
  refine r_iload_n (q := 1) dX1_has_0 rfl rfl rfl ?_
  refine r_iload_n (q := 2) dX1_has_1 rfl rfl rfl ?_
  refine r_ishr (q := 3) dX1_has_2 rfl ?_
  refine r_iconst (q := 4) (v := (1 : Int32)) dX1_has_3 rfl (by decide) ?_
  refine r_iand (q := 5) dX1_has_4 rfl ?_
  refine r_iconst (q := 6) (v := (1 : Int32)) dX1_has_5 rfl (by decide) ?_
  refine r_icmp_ne (q := 9) (t := 13) dX1_has_6 rfl (by decide) (fun _ => ?_) (fun _ => ?_)
  · refine r_iconst (q := 10) (v := (1 : Int32)) dX1_has_9 rfl (by decide) ?_
    refine r_goto (q := 14) dX1_has_10 (by decide) ?_
    exact r_ireturnN rfl dX1_has_14
  · refine r_iconst (q := 14) (v := (0 : Int32)) dX1_has_13 rfl (by decide) ?_
    exact r_ireturnN rfl dX1_has_14
theorem w_X2_order_b69 (G : Gx) (h0 : G0 G) (N : Nat)   (a0 : Nat) (σ : Mem) : Runs G mX2_order (rhoX rhoV) σ 69 [some (vR (some a0)), none, none, none, none] [] (f_X2_order_b69 N  a0 σ) := by
  unfold f_X2_order_b69
  refine r_aload_n (q := 70) dX2_order_69 rfl rfl rfl ?_
  refine r_bipush (q := 72) (v := (7 : Int32)) dX2_order_70 rfl (by decide) ?_
  refine r_ob (fun a3 ha3 => ?_)
  obtain ⟨hea3, hka3⟩ := o_at_eq ha3
  cases hea3
  refine r_callR (q := 75) (c_X2_fail G h0 N _ _ _) (cl_V (ci := 1) rfl rfl (lw_V q742 q744 qs7 q168 q745) (hd_X2_fail) ⟨Nat.le_of_ble_eq_true rfl, Nat.le_of_ble_eq_true rfl⟩ (List.mem_singleton.mp hka3) rfl rfl rfl (Nat.le_of_ble_eq_true rfl) dX2_order_72) rfl (fun x1 σ2 => ?_)
  exact r_athrow (ci := 2) (r0 := (RX3, TX3, 8)) rfl rfl dX2_order_75
theorem w_X2_order_b18B (G : Gx) (h0 : G0 G) (N : Nat)   (K18 : Nat → Option Nat → Int32 → Int32 → Mem → Option ((Unit ⊕ Ex) × Mem)) (hK18 : ∀ (a0 : Nat) (l1 : Option Nat) (l2 : Int32) (l3 : Int32) (σ : Mem), Runs G mX2_order (rhoX rhoV) σ 18 [some (vR (some a0)), some (vR l1), some (vI l2), some (vI l3), none] [] (K18 a0 l1 l2 l3 σ)) (a0 : Nat) (l1 : Option Nat) (l2 : Int32) (l3 : Int32) (σ : Mem) : Runs G mX2_order (rhoX rhoV) σ 18 [some (vR (some a0)), some (vR l1), some (vI l2), some (vI l3), none] [] (f_X2_order_b18B N  K18 a0 l1 l2 l3 σ) := by
  unfold f_X2_order_b18B
  refine r_iload_n (q := 19) dX2_order_18 rfl rfl rfl ?_
  refine r_aload_n (q := 20) dX2_order_19 rfl rfl rfl ?_
  refine r_gR (q := 23) fl_X2_61 rfl dX2_order_20 rfl (fun x1 => ?_)
  refine r_ob (fun a4 ha4 => ?_)
  obtain ⟨hea4, hka4⟩ := o_at_eq ha4
  cases hea4
  refine r_callI (q := 26) (c_J3_length G h0 N _ _) (cl_V (ci := 21) rfl rfl (lw_V q1088 q1089 q1090 q178 q1091) (hd_J3_length) ⟨Nat.le_of_ble_eq_true rfl, Nat.le_of_ble_eq_true rfl⟩ (List.mem_singleton.mp hka4) rfl rfl rfl (Nat.le_of_ble_eq_true rfl) dX2_order_23) rfl (fun x2 σ3 => ?_)
  refine r_icmp_ge (q := 29) (t := 97) dX2_order_26 rfl (by decide) (fun _ => ?_) (fun _ => ?_)
  · refine r_aload_n (q := 98) dX2_order_97 rfl rfl rfl ?_
    refine r_aload_n (q := 99) dX2_order_98 rfl rfl rfl ?_
    refine r_gR (q := 102) fl_X2_61 rfl dX2_order_99 rfl (fun x5 => ?_)
    refine r_ob (fun a8 ha8 => ?_)
    obtain ⟨hea8, hka8⟩ := o_at_eq ha8
    cases hea8
    refine r_callI (q := 105) (c_J3_length G h0 N _ _) (cl_V (ci := 21) rfl rfl (lw_V q1088 q1089 q1090 q178 q1091) (hd_J3_length) ⟨Nat.le_of_ble_eq_true rfl, Nat.le_of_ble_eq_true rfl⟩ (List.mem_singleton.mp hka8) rfl rfl rfl (Nat.le_of_ble_eq_true rfl) dX2_order_102) rfl (fun x6 σ7 => ?_)
    refine r_pI (q := 108) fp_X2_order_322 dX2_order_105 rfl (fun σ9 => ?_)
    refine r_aload_n (q := 109) dX2_order_108 rfl rfl rfl ?_
    refine r_ob (fun a12 ha12 => ?_)
    obtain ⟨hea12, hka12⟩ := o_at_eq ha12
    cases hea12
    refine r_callV (q := 112) (c_X2_next G h0 N _ _) (cl_V (ci := 1) rfl rfl (lw_V q644 q646 qs4 q168 q647) (hd_X2_next) ⟨Nat.le_of_ble_eq_true rfl, Nat.le_of_ble_eq_true rfl⟩ (List.mem_singleton.mp hka12) rfl rfl rfl (Nat.le_of_ble_eq_true rfl) dX2_order_109) rfl (fun u10 σ11 => ?_)
    exact r_returnX rfl dX2_order_112
  · refine r_aload_n (q := 30) dX2_order_29 rfl rfl rfl ?_
    refine r_gR (q := 33) fl_X2_61 rfl dX2_order_30 rfl (fun x13 => ?_)
    refine r_iload_n (q := 34) dX2_order_33 rfl rfl rfl ?_
    refine r_ob (fun a16 ha16 => ?_)
    obtain ⟨hea16, hka16⟩ := o_at_eq ha16
    cases hea16
    refine r_callI (q := 37) (c_J3_charAt G h0 N _ _ _) (cl_V (ci := 21) rfl rfl (lw_V q1096 q1097 q1098 q178 q1099) (hd_J3_charAt) ⟨Nat.le_of_ble_eq_true rfl, Nat.le_of_ble_eq_true rfl⟩ (List.mem_singleton.mp hka16) rfl rfl rfl (Nat.le_of_ble_eq_true rfl) dX2_order_34) rfl (fun x14 σ15 => ?_)
    refine r_bipush (q := 39) (v := (97 : Int32)) dX2_order_37 rfl (by decide) ?_
    refine r_isub (q := 40) dX2_order_39 rfl ?_
    refine r_istore (q := 42) dX2_order_40 rfl (Nat.le_of_ble_eq_true rfl) rfl ?_
    refine r_iload (q := 44) dX2_order_42 rfl rfl ?_
    refine r_iconst (q := 45) (v := (0 : Int32)) dX2_order_44 rfl (by decide) ?_
    refine r_aload_n (q := 46) dX2_order_45 rfl rfl rfl ?_
    refine r_gR (q := 49) fl_X2_127 rfl dX2_order_46 rfl (fun x17 => ?_)
    refine r_gI (q := 52) fl_X2_166 dX2_order_49 rfl (fun x18 => ?_)
    refine r_iconst (q := 53) (v := (1 : Int32)) dX2_order_52 rfl (by decide) ?_
    refine r_isub (q := 54) dX2_order_53 rfl ?_
    refine r_callI (q := 57) (c_X1_in G h0 N _ _ _ _) (cl_SN rfl rfl q655 q490 q167 q491 (hd_X1_in) ⟨Nat.le_of_ble_eq_true rfl, Nat.le_of_ble_eq_true rfl⟩ rfl (Nat.le_of_ble_eq_true rfl) dX2_order_54) rfl (fun x19 σ20 => ?_)
    refine r_if_eq (q := 60) (t := 69) dX2_order_57 rfl (by decide) (fun _ => ?_) (fun _ => ?_)
    · exact r_le (w_X2_order_b69 G h0 N _ _) (Nat.le_refl _) (And.intro rfl trivial)
    · refine r_iload_n (q := 61) dX2_order_60 rfl rfl rfl ?_
      refine r_iload (q := 63) dX2_order_61 rfl rfl ?_
      refine r_callI (q := 66) (c_X1_has G h0 N _ _ _) (cl_SN rfl rfl q1116 q1117 q167 q1118 (hd_X1_has) ⟨Nat.le_of_ble_eq_true rfl, Nat.le_of_ble_eq_true rfl⟩ rfl (Nat.le_of_ble_eq_true rfl) dX2_order_63) rfl (fun x21 σ22 => ?_)
      refine r_if_eq (q := 69) (t := 76) dX2_order_66 rfl (by decide) (fun _ => ?_) (fun _ => ?_)
      · refine r_iload_n (q := 77) dX2_order_76 rfl rfl rfl ?_
        refine r_iconst (q := 78) (v := (1 : Int32)) dX2_order_77 rfl (by decide) ?_
        refine r_iload (q := 80) dX2_order_78 rfl rfl ?_
        refine r_ishl (q := 81) dX2_order_80 rfl ?_
        refine r_ior (q := 82) dX2_order_81 rfl ?_
        refine r_istore_n (q := 83) dX2_order_82 rfl rfl (Nat.le_of_ble_eq_true rfl) rfl ?_
        refine r_aload_n (q := 84) dX2_order_83 rfl rfl rfl ?_
        refine r_gR (q := 87) fl_X2_319 rfl dX2_order_84 rfl (fun x23 => ?_)
        refine r_iload_n (q := 88) dX2_order_87 rfl rfl rfl ?_
        refine r_iload (q := 90) dX2_order_88 rfl rfl ?_
        refine r_iastore (q := 91) dX2_order_90 rfl (fun σ24 => ?_)
        refine r_iinc (q := 94) (v := (1 : Int32)) dX2_order_91 rfl rfl (by decide) (Nat.le_of_ble_eq_true rfl) rfl ?_
        refine r_goto (q := 18) dX2_order_94 (by decide) ?_
        exact r_le (hK18 _ _ _ _ _) (Nat.le_refl _) (And.intro rfl (And.intro rfl (And.intro rfl (And.intro rfl trivial))))
      · exact r_le (w_X2_order_b69 G h0 N _ _) (Nat.le_refl _) (And.intro rfl trivial)
theorem w_X2_order_b18 (G : Gx) (h0 : G0 G) (N : Nat)   : ∀ (z : Nat) (a0 : Nat) (l1 : Option Nat) (l2 : Int32) (l3 : Int32) (σ : Mem), Runs G mX2_order (rhoX rhoV) σ 18 [some (vR (some a0)), some (vR l1), some (vI l2), some (vI l3), none] [] (f_X2_order_b18 N  z a0 l1 l2 l3 σ) := by
  intro z
  induction z with
  | zero => exact fun _ _ _ _ _ => r_none
  | succ z ih => exact fun a0 l1 l2 l3 σ => w_X2_order_b18B G h0 N   _ ih a0 l1 l2 l3 σ
theorem c_X2_order (G : Gx) (h0 : G0 G) (N : Nat) (a0 : Nat) (o1 : Option Nat) (σ : Mem) : Ct G mX2_order (rhoX rhoV) [vR (some a0), vR o1] σ (f_X2_order N a0 o1 σ) := by
  refine Ct_of h0 (by decide) rfl (Nat.le_of_ble_eq_true rfl) (L0 := [some (vR (some a0)), some (vR o1), none, none, none]) rfl ?_
  unfold f_X2_order
  refine r_aload_n (q := 1) dX2_order_0 rfl rfl rfl ?_
  refine r_gI (q := 4) fl_X2_47 dX2_order_1 rfl (fun x1 => ?_)
  refine r_iconst (q := 5) (v := (2 : Int32)) dX2_order_4 rfl (by decide) ?_
  refine r_icmp_eq (q := 8) (t := 14) dX2_order_5 rfl (by decide) (fun _ => ?_) (fun _ => ?_)
  · refine r_iconst (q := 15) (v := (0 : Int32)) dX2_order_14 rfl (by decide) ?_
    refine r_istore_n (q := 16) dX2_order_15 rfl rfl (Nat.le_of_ble_eq_true rfl) rfl ?_
    refine r_iconst (q := 17) (v := (0 : Int32)) dX2_order_16 rfl (by decide) ?_
    refine r_istore_n (q := 18) dX2_order_17 rfl rfl (Nat.le_of_ble_eq_true rfl) rfl ?_
    exact r_le (w_X2_order_b18 G h0 N N _ _ _ _ _) (Nat.le_refl _) (And.intro rfl (And.intro rfl (And.intro rfl (And.intro rfl trivial))))
  · refine r_aload_n (q := 9) dX2_order_8 rfl rfl rfl ?_
    refine r_iconst (q := 10) (v := (1 : Int32)) dX2_order_9 rfl (by decide) ?_
    refine r_ob (fun a4 ha4 => ?_)
    obtain ⟨hea4, hka4⟩ := o_at_eq ha4
    cases hea4
    refine r_callR (q := 13) (c_X2_fail G h0 N _ _ _) (cl_V (ci := 1) rfl rfl (lw_V q742 q744 qs7 q168 q745) (hd_X2_fail) ⟨Nat.le_of_ble_eq_true rfl, Nat.le_of_ble_eq_true rfl⟩ (List.mem_singleton.mp hka4) rfl rfl rfl (Nat.le_of_ble_eq_true rfl) dX2_order_10) rfl (fun x2 σ3 => ?_)
    exact r_athrow (ci := 2) (r0 := (RX3, TX3, 8)) rfl rfl dX2_order_13
theorem w_X2_goatLine_b18 (G : Gx) (h0 : G0 G) (N : Nat)   (a0 : Nat) (t0 : Option Nat) (t1 : Int32) (σ : Mem) : Runs G mX2_goatLine (rhoX rhoV) σ 18 [some (vR (some a0)), none] [vI t1, vR t0] (f_X2_goatLine_b18 N  a0 t0 t1 σ) := by
  unfold f_X2_goatLine_b18
  refine r_ob (fun a3 ha3 => ?_)
  obtain ⟨hea3, hka3⟩ := o_at_eq ha3
  cases hea3
  refine r_callXV (q := 21) (c_X2_begins G h0 N _ _ _) (cl_V (ci := 1) rfl rfl (lw_V q853 q855 qs14 q168 q856) (hd_X2_begins) ⟨Nat.le_of_ble_eq_true rfl, Nat.le_of_ble_eq_true rfl⟩ (List.mem_singleton.mp hka3) rfl rfl rfl (Nat.le_of_ble_eq_true rfl) dX2_goatLine_18) rfl rfl (fun u1 σ2 => ?_)
  refine r_aload_n (q := 22) dX2_goatLine_21 rfl rfl rfl ?_
  refine r_aload_n (q := 23) dX2_goatLine_22 rfl rfl rfl ?_
  refine r_ob (fun a6 ha6 => ?_)
  obtain ⟨hea6, hka6⟩ := o_at_eq ha6
  cases hea6
  refine r_callXR (q := 26) (c_X2_newName G h0 N _ _) (cl_V (ci := 1) rfl rfl (lw_V q859 q861 qs15 q168 q862) (hd_X2_newName) ⟨Nat.le_of_ble_eq_true rfl, Nat.le_of_ble_eq_true rfl⟩ (List.mem_singleton.mp hka6) rfl rfl rfl (Nat.le_of_ble_eq_true rfl) dX2_goatLine_23) rfl rfl (fun x4 σ5 => ?_)
  refine r_aload_n (q := 27) dX2_goatLine_26 rfl rfl rfl ?_
  refine r_gR (q := 30) fl_X2_127 rfl dX2_goatLine_27 rfl (fun x7 => ?_)
  refine r_gI (q := 33) fl_X2_325 dX2_goatLine_30 rfl (fun x8 => ?_)
  refine r_ob (fun a11 ha11 => ?_)
  obtain ⟨hea11, hka11⟩ := o_at_eq ha11
  cases hea11
  refine r_callXR (q := 36) (c_X2_goatOf G h0 N _ _ _ _) (cl_V (ci := 1) rfl rfl (lw_V q988 q990 qs27 q168 q991) (hd_X2_goatOf) ⟨Nat.le_of_ble_eq_true rfl, Nat.le_of_ble_eq_true rfl⟩ (List.mem_singleton.mp hka11) rfl rfl rfl (Nat.le_of_ble_eq_true rfl) dX2_goatLine_33) rfl rfl (fun x9 σ10 => ?_)
  refine r_astore_n (q := 37) dX2_goatLine_36 rfl rfl (Nat.le_of_ble_eq_true rfl) rfl ?_
  refine r_aload_n (q := 38) dX2_goatLine_37 rfl rfl rfl ?_
  refine r_ldcWS (q := 41) (tx := "likes") (cd := 48) (List.mem_of_getElem? (i := 25) rfl) (by decide) dX2_goatLine_38 rfl ?_
  refine r_ob (fun a14 ha14 => ?_)
  obtain ⟨hea14, hka14⟩ := o_at_eq ha14
  cases hea14
  refine r_callXV (q := 44) (c_X2_must G h0 N _ _ _) (cl_V (ci := 1) rfl rfl (lw_V q836 q838 qs10 q168 q839) (hd_X2_must) ⟨Nat.le_of_ble_eq_true rfl, Nat.le_of_ble_eq_true rfl⟩ (List.mem_singleton.mp hka14) rfl rfl rfl (Nat.le_of_ble_eq_true rfl) dX2_goatLine_41) rfl rfl (fun u12 σ13 => ?_)
  refine r_aload_n (q := 45) dX2_goatLine_44 rfl rfl rfl ?_
  refine r_aload_n (q := 46) dX2_goatLine_45 rfl rfl rfl ?_
  refine r_ob (fun a17 ha17 => ?_)
  obtain ⟨hea17, hka17⟩ := o_at_eq ha17
  cases hea17
  refine r_callXV (q := 49) (c_X2_order G h0 N _ _ _) (cl_V (ci := 1) rfl rfl (lw_V q1084 q1086 qs29 q168 q1087) (hd_X2_order) ⟨Nat.le_of_ble_eq_true rfl, Nat.le_of_ble_eq_true rfl⟩ (List.mem_singleton.mp hka17) rfl rfl rfl (Nat.le_of_ble_eq_true rfl) dX2_goatLine_46) rfl rfl (fun u15 σ16 => ?_)
  refine r_aload_n (q := 50) dX2_goatLine_49 rfl rfl rfl ?_
  refine r_ldcWS (q := 53) (tx := "at") (cd := 50) (List.mem_of_getElem? (i := 26) rfl) (by decide) dX2_goatLine_50 rfl ?_
  refine r_ob (fun a20 ha20 => ?_)
  obtain ⟨hea20, hka20⟩ := o_at_eq ha20
  cases hea20
  refine r_callXV (q := 56) (c_X2_must G h0 N _ _ _) (cl_V (ci := 1) rfl rfl (lw_V q836 q838 qs10 q168 q839) (hd_X2_must) ⟨Nat.le_of_ble_eq_true rfl, Nat.le_of_ble_eq_true rfl⟩ (List.mem_singleton.mp hka20) rfl rfl rfl (Nat.le_of_ble_eq_true rfl) dX2_goatLine_53) rfl rfl (fun u18 σ19 => ?_)
  refine r_aload_n (q := 57) dX2_goatLine_56 rfl rfl rfl ?_
  refine r_aload_n (q := 58) dX2_goatLine_57 rfl rfl rfl ?_
  refine r_ob (fun a23 ha23 => ?_)
  obtain ⟨hea23, hka23⟩ := o_at_eq ha23
  cases hea23
  refine r_callXR (q := 61) (c_X2_place G h0 N _ _) (cl_V (ci := 1) rfl rfl (lw_V q923 q925 qs20 q168 q926) (hd_X2_place) ⟨Nat.le_of_ble_eq_true rfl, Nat.le_of_ble_eq_true rfl⟩ (List.mem_singleton.mp hka23) rfl rfl rfl (Nat.le_of_ble_eq_true rfl) dX2_goatLine_58) rfl rfl (fun x21 σ22 => ?_)
  refine r_gI (q := 64) fl_X2_253 dX2_goatLine_61 rfl (fun x24 => ?_)
  refine r_pI (q := 67) fp_X2_goatLine_337 dX2_goatLine_64 rfl (fun σ25 => ?_)
  refine r_aload_n (q := 68) dX2_goatLine_67 rfl rfl rfl ?_
  refine r_aload_n (q := 69) dX2_goatLine_68 rfl rfl rfl ?_
  refine r_ldcWS (q := 72) (tx := "trust") (cd := 52) (List.mem_of_getElem? (i := 27) rfl) (by decide) dX2_goatLine_69 rfl ?_
  refine r_iconst (q := 73) (v := (1 : Int32)) dX2_goatLine_72 rfl (by decide) ?_
  refine r_bipush (q := 75) (v := (9 : Int32)) dX2_goatLine_73 rfl (by decide) ?_
  refine r_ob (fun a28 ha28 => ?_)
  obtain ⟨hea28, hka28⟩ := o_at_eq ha28
  cases hea28
  refine r_callXI (q := 78) (c_X2_after G h0 N _ _ _ _ _) (cl_V (ci := 1) rfl rfl (lw_V q832 q834 qs9 q168 q835) (hd_X2_after) ⟨Nat.le_of_ble_eq_true rfl, Nat.le_of_ble_eq_true rfl⟩ (List.mem_singleton.mp hka28) rfl rfl rfl (Nat.le_of_ble_eq_true rfl) dX2_goatLine_75) rfl rfl (fun x26 σ27 => ?_)
  refine r_pI (q := 81) fp_X2_goatLine_341 dX2_goatLine_78 rfl (fun σ29 => ?_)
  refine r_aload_n (q := 82) dX2_goatLine_81 rfl rfl rfl ?_
  refine r_gR (q := 85) fl_X2_127 rfl dX2_goatLine_82 rfl (fun x30 => ?_)
  refine r_gR (q := 88) fl_X2_343 rfl dX2_goatLine_85 rfl (fun x31 => ?_)
  refine r_aload_n (q := 89) dX2_goatLine_88 rfl rfl rfl ?_
  refine r_gR (q := 92) fl_X2_127 rfl dX2_goatLine_89 rfl (fun x32 => ?_)
  refine r_gI (q := 95) fl_X2_325 dX2_goatLine_92 rfl (fun x33 => ?_)
  refine r_aload_n (q := 96) dX2_goatLine_95 rfl rfl rfl ?_
  refine r_aastore (q := 97) (k0 := 8) (by decide) ia_GoatCourt_Goat dX2_goatLine_96 rfl (fun σ34 => ?_)
  refine r_aload_n (q := 98) dX2_goatLine_97 rfl rfl rfl ?_
  refine r_gR (q := 101) fl_X2_127 rfl dX2_goatLine_98 rfl (fun x35 => ?_)
  refine r_dup (q := 102) dX2_goatLine_101 rfl rfl ?_
  refine r_gI (q := 105) fl_X2_325 dX2_goatLine_102 rfl (fun x36 => ?_)
  refine r_iconst (q := 106) (v := (1 : Int32)) dX2_goatLine_105 rfl (by decide) ?_
  refine r_iadd (q := 107) dX2_goatLine_106 rfl ?_
  refine r_pI (q := 110) fp_X2_goatLine_325 dX2_goatLine_107 rfl (fun σ37 => ?_)
  exact r_returnX rfl dX2_goatLine_110
theorem c_X2_goatLine (G : Gx) (h0 : G0 G) (N : Nat) (a0 : Nat) (σ : Mem) : Ct G mX2_goatLine (rhoX rhoV) [vR (some a0)] σ (f_X2_goatLine N a0 σ) := by
  refine Ct_of h0 (by decide) rfl (Nat.le_of_ble_eq_true rfl) (L0 := [some (vR (some a0)), none]) rfl ?_
  unfold f_X2_goatLine
  refine r_aload_n (q := 1) dX2_goatLine_0 rfl rfl rfl ?_
  refine r_aload_n (q := 2) dX2_goatLine_1 rfl rfl rfl ?_
  refine r_gR (q := 5) fl_X2_127 rfl dX2_goatLine_2 rfl (fun x1 => ?_)
  refine r_gI (q := 8) fl_X2_325 dX2_goatLine_5 rfl (fun x2 => ?_)
  refine r_bipush (q := 10) (v := (6 : Int32)) dX2_goatLine_8 rfl (by decide) ?_
  refine r_icmp_ge (q := 13) (t := 17) dX2_goatLine_10 rfl (by decide) (fun _ => ?_) (fun _ => ?_)
  · refine r_iconst (q := 18) (v := (0 : Int32)) dX2_goatLine_17 rfl (by decide) ?_
    exact r_le (w_X2_goatLine_b18 G h0 N _ _ _ _) (Nat.le_refl _) (And.intro rfl trivial)
  · refine r_iconst (q := 14) (v := (1 : Int32)) dX2_goatLine_13 rfl (by decide) ?_
    refine r_goto (q := 18) dX2_goatLine_14 (by decide) ?_
    exact r_le (w_X2_goatLine_b18 G h0 N _ _ _ _) (Nat.le_refl _) (And.intro rfl trivial)
theorem w_X2_fears_b18 (G : Gx) (h0 : G0 G) (N : Nat)   (a0 : Nat) (t0 : Option Nat) (t1 : Int32) (σ : Mem) : Runs G mX2_fears (rhoX rhoV) σ 18 [some (vR (some a0)), none, none] [vI t1, vR t0] (f_X2_fears_b18 N  a0 t0 t1 σ) := by
  unfold f_X2_fears_b18
  refine r_ob (fun a3 ha3 => ?_)
  obtain ⟨hea3, hka3⟩ := o_at_eq ha3
  cases hea3
  refine r_callXV (q := 21) (c_X2_begins G h0 N _ _ _) (cl_V (ci := 1) rfl rfl (lw_V q853 q855 qs14 q168 q856) (hd_X2_begins) ⟨Nat.le_of_ble_eq_true rfl, Nat.le_of_ble_eq_true rfl⟩ (List.mem_singleton.mp hka3) rfl rfl rfl (Nat.le_of_ble_eq_true rfl) dX2_fears_18) rfl rfl (fun u1 σ2 => ?_)
  refine r_aload_n (q := 22) dX2_fears_21 rfl rfl rfl ?_
  refine r_ob (fun a6 ha6 => ?_)
  obtain ⟨hea6, hka6⟩ := o_at_eq ha6
  cases hea6
  refine r_callXR (q := 25) (c_X2_goat G h0 N _ _) (cl_V (ci := 1) rfl rfl (lw_V q1063 q1065 qs28 q168 q1066) (hd_X2_goat) ⟨Nat.le_of_ble_eq_true rfl, Nat.le_of_ble_eq_true rfl⟩ (List.mem_singleton.mp hka6) rfl rfl rfl (Nat.le_of_ble_eq_true rfl) dX2_fears_22) rfl rfl (fun x4 σ5 => ?_)
  refine r_astore_n (q := 26) dX2_fears_25 rfl rfl (Nat.le_of_ble_eq_true rfl) rfl ?_
  refine r_aload_n (q := 27) dX2_fears_26 rfl rfl rfl ?_
  refine r_ob (fun a9 ha9 => ?_)
  obtain ⟨hea9, hka9⟩ := o_at_eq ha9
  cases hea9
  refine r_callXR (q := 30) (c_X2_personHere G h0 N _ _) (cl_V (ci := 1) rfl rfl (lw_V q968 q970 qs25 q168 q971) (hd_X2_personHere) ⟨Nat.le_of_ble_eq_true rfl, Nat.le_of_ble_eq_true rfl⟩ (List.mem_singleton.mp hka9) rfl rfl rfl (Nat.le_of_ble_eq_true rfl) dX2_fears_27) rfl rfl (fun x7 σ8 => ?_)
  refine r_astore_n (q := 31) dX2_fears_30 rfl rfl (Nat.le_of_ble_eq_true rfl) rfl ?_
  refine r_aload_n (q := 32) dX2_fears_31 rfl rfl rfl ?_
  refine r_gI (q := 35) fl_X2_350 dX2_fears_32 rfl (fun x10 => ?_)
  refine r_aload_n (q := 36) dX2_fears_35 rfl rfl rfl ?_
  refine r_gI (q := 39) fl_X2_352 dX2_fears_36 rfl (fun x11 => ?_)
  refine r_callI (q := 42) (c_X1_has G h0 N _ _ _) (cl_SN rfl rfl q1116 q1117 q167 q1118 (hd_X1_has) ⟨Nat.le_of_ble_eq_true rfl, Nat.le_of_ble_eq_true rfl⟩ rfl (Nat.le_of_ble_eq_true rfl) dX2_fears_39) rfl (fun x12 σ13 => ?_)
  refine r_if_eq (q := 45) (t := 51) dX2_fears_42 rfl (by decide) (fun _ => ?_) (fun _ => ?_)
  · refine r_aload_n (q := 52) dX2_fears_51 rfl rfl rfl ?_
    refine r_ob (fun a16 ha16 => ?_)
    obtain ⟨hea16, hka16⟩ := o_at_eq ha16
    cases hea16
    refine r_callV (q := 55) (c_X2_next G h0 N _ _) (cl_V (ci := 1) rfl rfl (lw_V q644 q646 qs4 q168 q647) (hd_X2_next) ⟨Nat.le_of_ble_eq_true rfl, Nat.le_of_ble_eq_true rfl⟩ (List.mem_singleton.mp hka16) rfl rfl rfl (Nat.le_of_ble_eq_true rfl) dX2_fears_52) rfl (fun u14 σ15 => ?_)
    refine r_aload_n (q := 56) dX2_fears_55 rfl rfl rfl ?_
    refine r_dup (q := 57) dX2_fears_56 rfl rfl ?_
    refine r_gI (q := 60) fl_X2_350 dX2_fears_57 rfl (fun x17 => ?_)
    refine r_iconst (q := 61) (v := (1 : Int32)) dX2_fears_60 rfl (by decide) ?_
    refine r_aload_n (q := 62) dX2_fears_61 rfl rfl rfl ?_
    refine r_gI (q := 65) fl_X2_352 dX2_fears_62 rfl (fun x18 => ?_)
    refine r_ishl (q := 66) dX2_fears_65 rfl ?_
    refine r_ior (q := 67) dX2_fears_66 rfl ?_
    refine r_pI (q := 70) fp_X2_fears_350 dX2_fears_67 rfl (fun σ19 => ?_)
    refine r_aload_n (q := 71) dX2_fears_70 rfl rfl rfl ?_
    refine r_gR (q := 74) fl_X2_127 rfl dX2_fears_71 rfl (fun x20 => ?_)
    refine r_dup (q := 75) dX2_fears_74 rfl rfl ?_
    refine r_gI (q := 78) fl_X2_347 dX2_fears_75 rfl (fun x21 => ?_)
    refine r_iconst (q := 79) (v := (1 : Int32)) dX2_fears_78 rfl (by decide) ?_
    refine r_iadd (q := 80) dX2_fears_79 rfl ?_
    refine r_pI (q := 83) fp_X2_fears_347 dX2_fears_80 rfl (fun σ22 => ?_)
    exact r_returnX rfl dX2_fears_83
  · refine r_aload_n (q := 46) dX2_fears_45 rfl rfl rfl ?_
    refine r_iconst (q := 47) (v := (3 : Int32)) dX2_fears_46 rfl (by decide) ?_
    refine r_ob (fun a25 ha25 => ?_)
    obtain ⟨hea25, hka25⟩ := o_at_eq ha25
    cases hea25
    refine r_callR (q := 50) (c_X2_fail G h0 N _ _ _) (cl_V (ci := 1) rfl rfl (lw_V q742 q744 qs7 q168 q745) (hd_X2_fail) ⟨Nat.le_of_ble_eq_true rfl, Nat.le_of_ble_eq_true rfl⟩ (List.mem_singleton.mp hka25) rfl rfl rfl (Nat.le_of_ble_eq_true rfl) dX2_fears_47) rfl (fun x23 σ24 => ?_)
    exact r_athrow (ci := 2) (r0 := (RX3, TX3, 8)) rfl rfl dX2_fears_50
theorem c_X2_fears (G : Gx) (h0 : G0 G) (N : Nat) (a0 : Nat) (σ : Mem) : Ct G mX2_fears (rhoX rhoV) [vR (some a0)] σ (f_X2_fears N a0 σ) := by
  refine Ct_of h0 (by decide) rfl (Nat.le_of_ble_eq_true rfl) (L0 := [some (vR (some a0)), none, none]) rfl ?_
  unfold f_X2_fears
  refine r_aload_n (q := 1) dX2_fears_0 rfl rfl rfl ?_
  refine r_aload_n (q := 2) dX2_fears_1 rfl rfl rfl ?_
  refine r_gR (q := 5) fl_X2_127 rfl dX2_fears_2 rfl (fun x1 => ?_)
  refine r_gI (q := 8) fl_X2_347 dX2_fears_5 rfl (fun x2 => ?_)
  refine r_bipush (q := 10) (v := (8 : Int32)) dX2_fears_8 rfl (by decide) ?_
  refine r_icmp_ge (q := 13) (t := 17) dX2_fears_10 rfl (by decide) (fun _ => ?_) (fun _ => ?_)
  · refine r_iconst (q := 18) (v := (0 : Int32)) dX2_fears_17 rfl (by decide) ?_
    exact r_le (w_X2_fears_b18 G h0 N _ _ _ _) (Nat.le_refl _) (And.intro rfl trivial)
  · refine r_iconst (q := 14) (v := (1 : Int32)) dX2_fears_13 rfl (by decide) ?_
    refine r_goto (q := 18) dX2_fears_14 (by decide) ?_
    exact r_le (w_X2_fears_b18 G h0 N _ _ _ _) (Nat.le_refl _) (And.intro rfl trivial)
theorem w_X2_plant_b52 (G : Gx) (h0 : G0 G) (N : Nat)   (a0 : Nat) (σ : Mem) : Runs G mX2_plant (rhoX rhoI) σ 52 [some (vR (some a0)), none] [] (f_X2_plant_b52 N  a0 σ) := by
  unfold f_X2_plant_b52
  refine r_aload_n (q := 53) dX2_plant_52 rfl rfl rfl ?_
  refine r_bipush (q := 55) (v := (7 : Int32)) dX2_plant_53 rfl (by decide) ?_
  refine r_ob (fun a3 ha3 => ?_)
  obtain ⟨hea3, hka3⟩ := o_at_eq ha3
  cases hea3
  refine r_callR (q := 58) (c_X2_fail G h0 N _ _ _) (cl_V (ci := 1) rfl rfl (lw_V q742 q744 qs7 q168 q745) (hd_X2_fail) ⟨Nat.le_of_ble_eq_true rfl, Nat.le_of_ble_eq_true rfl⟩ (List.mem_singleton.mp hka3) rfl rfl rfl (Nat.le_of_ble_eq_true rfl) dX2_plant_55) rfl (fun x1 σ2 => ?_)
  exact r_athrow (ci := 2) (r0 := (RX3, TX3, 8)) rfl rfl dX2_plant_58
theorem c_X2_plant (G : Gx) (h0 : G0 G) (N : Nat) (a0 : Nat) (σ : Mem) : Ct G mX2_plant (rhoX rhoI) [vR (some a0)] σ (f_X2_plant N a0 σ) := by
  refine Ct_of h0 (by decide) rfl (Nat.le_of_ble_eq_true rfl) (L0 := [some (vR (some a0)), none]) rfl ?_
  unfold f_X2_plant
  refine r_aload_n (q := 1) dX2_plant_0 rfl rfl rfl ?_
  refine r_gI (q := 4) fl_X2_47 dX2_plant_1 rfl (fun x1 => ?_)
  refine r_iconst (q := 5) (v := (2 : Int32)) dX2_plant_4 rfl (by decide) ?_
  refine r_icmp_eq (q := 8) (t := 14) dX2_plant_5 rfl (by decide) (fun _ => ?_) (fun _ => ?_)
  · refine r_aload_n (q := 15) dX2_plant_14 rfl rfl rfl ?_
    refine r_gR (q := 18) fl_X2_61 rfl dX2_plant_15 rfl (fun x2 => ?_)
    refine r_ob (fun a5 ha5 => ?_)
    obtain ⟨hea5, hka5⟩ := o_at_eq ha5
    cases hea5
    refine r_callI (q := 21) (c_J3_length G h0 N _ _) (cl_V (ci := 21) rfl rfl (lw_V q1088 q1089 q1090 q178 q1091) (hd_J3_length) ⟨Nat.le_of_ble_eq_true rfl, Nat.le_of_ble_eq_true rfl⟩ (List.mem_singleton.mp hka5) rfl rfl rfl (Nat.le_of_ble_eq_true rfl) dX2_plant_18) rfl (fun x3 σ4 => ?_)
    refine r_iconst (q := 22) (v := (1 : Int32)) dX2_plant_21 rfl (by decide) ?_
    refine r_icmp_ne (q := 25) (t := 52) dX2_plant_22 rfl (by decide) (fun _ => ?_) (fun _ => ?_)
    · refine r_aload_n (q := 26) dX2_plant_25 rfl rfl rfl ?_
      refine r_gR (q := 29) fl_X2_61 rfl dX2_plant_26 rfl (fun x6 => ?_)
      refine r_iconst (q := 30) (v := (0 : Int32)) dX2_plant_29 rfl (by decide) ?_
      refine r_ob (fun a9 ha9 => ?_)
      obtain ⟨hea9, hka9⟩ := o_at_eq ha9
      cases hea9
      refine r_callI (q := 33) (c_J3_charAt G h0 N _ _ _) (cl_V (ci := 21) rfl rfl (lw_V q1096 q1097 q1098 q178 q1099) (hd_J3_charAt) ⟨Nat.le_of_ble_eq_true rfl, Nat.le_of_ble_eq_true rfl⟩ (List.mem_singleton.mp hka9) rfl rfl rfl (Nat.le_of_ble_eq_true rfl) dX2_plant_30) rfl (fun x7 σ8 => ?_)
      refine r_bipush (q := 35) (v := (97 : Int32)) dX2_plant_33 rfl (by decide) ?_
      refine r_isub (q := 36) dX2_plant_35 rfl ?_
      refine r_iconst (q := 37) (v := (0 : Int32)) dX2_plant_36 rfl (by decide) ?_
      refine r_aload_n (q := 38) dX2_plant_37 rfl rfl rfl ?_
      refine r_gR (q := 41) fl_X2_127 rfl dX2_plant_38 rfl (fun x10 => ?_)
      refine r_gI (q := 44) fl_X2_166 dX2_plant_41 rfl (fun x11 => ?_)
      refine r_iconst (q := 45) (v := (1 : Int32)) dX2_plant_44 rfl (by decide) ?_
      refine r_isub (q := 46) dX2_plant_45 rfl ?_
      refine r_callI (q := 49) (c_X1_in G h0 N _ _ _ _) (cl_SN rfl rfl q655 q490 q167 q491 (hd_X1_in) ⟨Nat.le_of_ble_eq_true rfl, Nat.le_of_ble_eq_true rfl⟩ rfl (Nat.le_of_ble_eq_true rfl) dX2_plant_46) rfl (fun x12 σ13 => ?_)
      refine r_if_ne (q := 52) (t := 59) dX2_plant_49 rfl (by decide) (fun _ => ?_) (fun _ => ?_)
      · exact r_le (w_X2_plant_b52 G h0 N _ _) (Nat.le_refl _) (And.intro rfl trivial)
      · refine r_aload_n (q := 60) dX2_plant_59 rfl rfl rfl ?_
        refine r_gR (q := 63) fl_X2_61 rfl dX2_plant_60 rfl (fun x14 => ?_)
        refine r_iconst (q := 64) (v := (0 : Int32)) dX2_plant_63 rfl (by decide) ?_
        refine r_ob (fun a17 ha17 => ?_)
        obtain ⟨hea17, hka17⟩ := o_at_eq ha17
        cases hea17
        refine r_callI (q := 67) (c_J3_charAt G h0 N _ _ _) (cl_V (ci := 21) rfl rfl (lw_V q1096 q1097 q1098 q178 q1099) (hd_J3_charAt) ⟨Nat.le_of_ble_eq_true rfl, Nat.le_of_ble_eq_true rfl⟩ (List.mem_singleton.mp hka17) rfl rfl rfl (Nat.le_of_ble_eq_true rfl) dX2_plant_64) rfl (fun x15 σ16 => ?_)
        refine r_bipush (q := 69) (v := (97 : Int32)) dX2_plant_67 rfl (by decide) ?_
        refine r_isub (q := 70) dX2_plant_69 rfl ?_
        refine r_istore_n (q := 71) dX2_plant_70 rfl rfl (Nat.le_of_ble_eq_true rfl) rfl ?_
        refine r_aload_n (q := 72) dX2_plant_71 rfl rfl rfl ?_
        refine r_ob (fun a20 ha20 => ?_)
        obtain ⟨hea20, hka20⟩ := o_at_eq ha20
        cases hea20
        refine r_callV (q := 75) (c_X2_next G h0 N _ _) (cl_V (ci := 1) rfl rfl (lw_V q644 q646 qs4 q168 q647) (hd_X2_next) ⟨Nat.le_of_ble_eq_true rfl, Nat.le_of_ble_eq_true rfl⟩ (List.mem_singleton.mp hka20) rfl rfl rfl (Nat.le_of_ble_eq_true rfl) dX2_plant_72) rfl (fun u18 σ19 => ?_)
        refine r_iload_n (q := 76) dX2_plant_75 rfl rfl rfl ?_
        exact r_ireturnX rfl rfl dX2_plant_76
    · exact r_le (w_X2_plant_b52 G h0 N _ _) (Nat.le_refl _) (And.intro rfl trivial)
  · refine r_aload_n (q := 9) dX2_plant_8 rfl rfl rfl ?_
    refine r_iconst (q := 10) (v := (1 : Int32)) dX2_plant_9 rfl (by decide) ?_
    refine r_ob (fun a23 ha23 => ?_)
    obtain ⟨hea23, hka23⟩ := o_at_eq ha23
    cases hea23
    refine r_callR (q := 13) (c_X2_fail G h0 N _ _ _) (cl_V (ci := 1) rfl rfl (lw_V q742 q744 qs7 q168 q745) (hd_X2_fail) ⟨Nat.le_of_ble_eq_true rfl, Nat.le_of_ble_eq_true rfl⟩ (List.mem_singleton.mp hka23) rfl rfl rfl (Nat.le_of_ble_eq_true rfl) dX2_plant_10) rfl (fun x21 σ22 => ?_)
    exact r_athrow (ci := 2) (r0 := (RX3, TX3, 8)) rfl rfl dX2_plant_13
theorem c_X17_init (G : Gx) (h0 : G0 G) (N : Nat) (a0 : Nat) (i1 : Int32) (i2 : Int32) (i3 : Int32) (σ : Mem) : Ct G mX17_init rhoV [vR (some a0), vI i1, vI i2, vI i3] σ (f_X17_init N a0 i1 i2 i3 σ) := by
  refine Ct_of h0 (by decide) rfl (Nat.le_of_ble_eq_true rfl) (L0 := [some (vR (some a0)), some (vI i1), some (vI i2), some (vI i3)]) rfl ?_
  unfold f_X17_init
  refine r_aload_n (q := 1) dX17_init_0 rfl rfl rfl ?_
  refine r_objInit (q := 4) q1141 q208 q209 (by decide) (by decide) dX17_init_1 rfl ?_
  refine r_aload_n (q := 5) dX17_init_4 rfl rfl rfl ?_
  refine r_iload_n (q := 6) dX17_init_5 rfl rfl rfl ?_
  refine r_pI (q := 9) fp_X17_init_7 dX17_init_6 rfl (fun σ1 => ?_)
  refine r_aload_n (q := 10) dX17_init_9 rfl rfl rfl ?_
  refine r_iload_n (q := 11) dX17_init_10 rfl rfl rfl ?_
  refine r_pI (q := 14) fp_X17_init_13 dX17_init_11 rfl (fun σ2 => ?_)
  refine r_aload_n (q := 15) dX17_init_14 rfl rfl rfl ?_
  refine r_iload_n (q := 16) dX17_init_15 rfl rfl rfl ?_
  refine r_pI (q := 19) fp_X17_init_16 dX17_init_16 rfl (fun σ3 => ?_)
  exact r_return rfl dX17_init_19
theorem c_X18_init (G : Gx) (h0 : G0 G) (N : Nat) (a0 : Nat) (i1 : Int32) (i2 : Int32) (i3 : Int32) (σ : Mem) : Ct G mX18_init rhoV [vR (some a0), vI i1, vI i2, vI i3] σ (f_X18_init N a0 i1 i2 i3 σ) := by
  refine Ct_of h0 (by decide) rfl (Nat.le_of_ble_eq_true rfl) (L0 := [some (vR (some a0)), some (vI i1), some (vI i2), some (vI i3)]) rfl ?_
  unfold f_X18_init
  refine r_aload_n (q := 1) dX18_init_0 rfl rfl rfl ?_
  refine r_iload_n (q := 2) dX18_init_1 rfl rfl rfl ?_
  refine r_iload_n (q := 3) dX18_init_2 rfl rfl rfl ?_
  refine r_iload_n (q := 4) dX18_init_3 rfl rfl rfl ?_
  refine r_callV (q := 7) (c_X17_init G h0 N _ _ _ _ _) (cl_I rfl rfl rfl rfl q1138 q1139 q191 q1140 (hd_X17_init) ⟨Nat.le_of_ble_eq_true rfl, Nat.le_of_ble_eq_true rfl⟩ rfl (Nat.le_of_ble_eq_true rfl) dX18_init_4) rfl (fun u1 σ2 => ?_)
  exact r_return rfl dX18_init_7
theorem c_X2_hour (G : Gx) (h0 : G0 G) (N : Nat) (a0 : Nat) (σ : Mem) : Ct G mX2_hour (rhoX rhoI) [vR (some a0)] σ (f_X2_hour N a0 σ) := by
  refine Ct_of h0 (by decide) rfl (Nat.le_of_ble_eq_true rfl) (L0 := [some (vR (some a0))]) rfl ?_
  unfold f_X2_hour
  refine r_aload_n (q := 1) dX2_hour_0 rfl rfl rfl ?_
  refine r_iconst (q := 2) (v := (0 : Int32)) dX2_hour_1 rfl (by decide) ?_
  refine r_aload_n (q := 3) dX2_hour_2 rfl rfl rfl ?_
  refine r_gR (q := 6) fl_X2_127 rfl dX2_hour_3 rfl (fun x1 => ?_)
  refine r_gI (q := 9) fl_X2_163 dX2_hour_6 rfl (fun x2 => ?_)
  refine r_iconst (q := 10) (v := (1 : Int32)) dX2_hour_9 rfl (by decide) ?_
  refine r_isub (q := 11) dX2_hour_10 rfl ?_
  refine r_ob (fun a5 ha5 => ?_)
  obtain ⟨hea5, hka5⟩ := o_at_eq ha5
  cases hea5
  refine r_callXI (q := 14) (c_X2_number G h0 N _ _ _ _) (cl_V (ci := 1) rfl rfl (lw_V q844 q846 qs12 q168 q847) (hd_X2_number) ⟨Nat.le_of_ble_eq_true rfl, Nat.le_of_ble_eq_true rfl⟩ (List.mem_singleton.mp hka5) rfl rfl rfl (Nat.le_of_ble_eq_true rfl) dX2_hour_11) rfl rfl (fun x3 σ4 => ?_)
  exact r_ireturnX rfl rfl dX2_hour_14
theorem c_X19_init (G : Gx) (h0 : G0 G) (N : Nat) (a0 : Nat) (i1 : Int32) (i2 : Int32) (i3 : Int32) (σ : Mem) : Ct G mX19_init rhoV [vR (some a0), vI i1, vI i2, vI i3] σ (f_X19_init N a0 i1 i2 i3 σ) := by
  refine Ct_of h0 (by decide) rfl (Nat.le_of_ble_eq_true rfl) (L0 := [some (vR (some a0)), some (vI i1), some (vI i2), some (vI i3)]) rfl ?_
  unfold f_X19_init
  refine r_aload_n (q := 1) dX19_init_0 rfl rfl rfl ?_
  refine r_iload_n (q := 2) dX19_init_1 rfl rfl rfl ?_
  refine r_iload_n (q := 3) dX19_init_2 rfl rfl rfl ?_
  refine r_iload_n (q := 4) dX19_init_3 rfl rfl rfl ?_
  refine r_callV (q := 7) (c_X17_init G h0 N _ _ _ _ _) (cl_I rfl rfl rfl rfl q1184 q1139 q191 q1140 (hd_X17_init) ⟨Nat.le_of_ble_eq_true rfl, Nat.le_of_ble_eq_true rfl⟩ rfl (Nat.le_of_ble_eq_true rfl) dX19_init_4) rfl (fun u1 σ2 => ?_)
  exact r_return rfl dX19_init_7
theorem c_X20_init (G : Gx) (h0 : G0 G) (N : Nat) (a0 : Nat) (i1 : Int32) (i2 : Int32) (i3 : Int32) (σ : Mem) : Ct G mX20_init rhoV [vR (some a0), vI i1, vI i2, vI i3] σ (f_X20_init N a0 i1 i2 i3 σ) := by
  refine Ct_of h0 (by decide) rfl (Nat.le_of_ble_eq_true rfl) (L0 := [some (vR (some a0)), some (vI i1), some (vI i2), some (vI i3)]) rfl ?_
  unfold f_X20_init
  refine r_aload_n (q := 1) dX20_init_0 rfl rfl rfl ?_
  refine r_iload_n (q := 2) dX20_init_1 rfl rfl rfl ?_
  refine r_iload_n (q := 3) dX20_init_2 rfl rfl rfl ?_
  refine r_iload_n (q := 4) dX20_init_3 rfl rfl rfl ?_
  refine r_callV (q := 7) (c_X17_init G h0 N _ _ _ _ _) (cl_I rfl rfl rfl rfl q1194 q1139 q191 q1140 (hd_X17_init) ⟨Nat.le_of_ble_eq_true rfl, Nat.le_of_ble_eq_true rfl⟩ rfl (Nat.le_of_ble_eq_true rfl) dX20_init_4) rfl (fun u1 σ2 => ?_)
  exact r_return rfl dX20_init_7
theorem w_X2_clue_b120 (G : Gx) (h0 : G0 G) (N : Nat)   (a0 : Nat) (l3 : Option Nat) (σ : Mem) : Runs G mX2_clue (rhoX rhoV) σ 120 [some (vR (some a0)), none, none, some (vR l3), none] [] (f_X2_clue_b120 N  a0 l3 σ) := by
  unfold f_X2_clue_b120
  refine r_aload_n (q := 121) dX2_clue_120 rfl rfl rfl ?_
  refine r_gR (q := 124) fl_X2_127 rfl dX2_clue_121 rfl (fun x1 => ?_)
  refine r_gR (q := 127) fl_X2_374 rfl dX2_clue_124 rfl (fun x2 => ?_)
  refine r_aload_n (q := 128) dX2_clue_127 rfl rfl rfl ?_
  refine r_gR (q := 131) fl_X2_127 rfl dX2_clue_128 rfl (fun x3 => ?_)
  refine r_gI (q := 134) fl_X2_353 dX2_clue_131 rfl (fun x4 => ?_)
  refine r_aload_n (q := 135) dX2_clue_134 rfl rfl rfl ?_
  refine r_aastore (q := 136) (k0 := 9) (by decide) ia_GoatCourt_Clue dX2_clue_135 rfl (fun σ5 => ?_)
  refine r_aload_n (q := 137) dX2_clue_136 rfl rfl rfl ?_
  refine r_gR (q := 140) fl_X2_127 rfl dX2_clue_137 rfl (fun x6 => ?_)
  refine r_dup (q := 141) dX2_clue_140 rfl rfl ?_
  refine r_gI (q := 144) fl_X2_353 dX2_clue_141 rfl (fun x7 => ?_)
  refine r_iconst (q := 145) (v := (1 : Int32)) dX2_clue_144 rfl (by decide) ?_
  refine r_iadd (q := 146) dX2_clue_145 rfl ?_
  refine r_pI (q := 149) fp_X2_clue_353 dX2_clue_146 rfl (fun σ8 => ?_)
  exact r_returnX rfl dX2_clue_149
theorem w_X2_clue_b119 (G : Gx) (h0 : G0 G) (N : Nat)   (a0 : Nat) (t0 : Option Nat) (σ : Mem) : Runs G mX2_clue (rhoX rhoV) σ 119 [some (vR (some a0)), none, none, none, none] [vR t0] (f_X2_clue_b119 N  a0 t0 σ) := by
  unfold f_X2_clue_b119
  refine r_astore_n (q := 120) dX2_clue_119 rfl rfl (Nat.le_of_ble_eq_true rfl) rfl ?_
  exact r_le (w_X2_clue_b120 G h0 N _ _ _) (Nat.le_refl _) (And.intro rfl (And.intro rfl trivial))
theorem w_X2_clue_b23 (G : Gx) (h0 : G0 G) (N : Nat)   (a0 : Nat) (l1 : Option Nat) (t0 : Option Nat) (t1 : Int32) (σ : Mem) : Runs G mX2_clue (rhoX rhoV) σ 23 [some (vR (some a0)), some (vR l1), none, none, none] [vI t1, vR t0] (f_X2_clue_b23 N  a0 l1 t0 t1 σ) := by
  unfold f_X2_clue_b23
  refine r_ob (fun a3 ha3 => ?_)
  obtain ⟨hea3, hka3⟩ := o_at_eq ha3
  cases hea3
  refine r_callXV (q := 26) (c_X2_begins G h0 N _ _ _) (cl_V (ci := 1) rfl rfl (lw_V q853 q855 qs14 q168 q856) (hd_X2_begins) ⟨Nat.le_of_ble_eq_true rfl, Nat.le_of_ble_eq_true rfl⟩ (List.mem_singleton.mp hka3) rfl rfl rfl (Nat.le_of_ble_eq_true rfl) dX2_clue_23) rfl rfl (fun u1 σ2 => ?_)
  refine r_aload_n (q := 27) dX2_clue_26 rfl rfl rfl ?_
  refine r_ob (fun a6 ha6 => ?_)
  obtain ⟨hea6, hka6⟩ := o_at_eq ha6
  cases hea6
  refine r_callXR (q := 30) (c_X2_goat G h0 N _ _) (cl_V (ci := 1) rfl rfl (lw_V q1063 q1065 qs28 q168 q1066) (hd_X2_goat) ⟨Nat.le_of_ble_eq_true rfl, Nat.le_of_ble_eq_true rfl⟩ (List.mem_singleton.mp hka6) rfl rfl rfl (Nat.le_of_ble_eq_true rfl) dX2_clue_27) rfl rfl (fun x4 σ5 => ?_)
  refine r_gI (q := 33) fl_X2_356 dX2_clue_30 rfl (fun x7 => ?_)
  refine r_istore_n (q := 34) dX2_clue_33 rfl rfl (Nat.le_of_ble_eq_true rfl) rfl ?_
  refine r_aload_n (q := 35) dX2_clue_34 rfl rfl rfl ?_
  refine r_ldcS (q := 37) (tx := "found") (cd := 16) (List.mem_of_getElem? (i := 9) rfl) (by decide) dX2_clue_35 rfl ?_
  refine r_ob (fun a10 ha10 => ?_)
  obtain ⟨hea10, hka10⟩ := o_at_eq ha10
  cases hea10
  refine r_callI (q := 40) (c_J3_equals G h0 N _ _ _) (cl_V (ci := 21) rfl rfl (lw_V q804 q805 q806 q178 q807) (hd_J3_equals) ⟨Nat.le_of_ble_eq_true rfl, Nat.le_of_ble_eq_true rfl⟩ (List.mem_singleton.mp hka10) rfl rfl rfl (Nat.le_of_ble_eq_true rfl) dX2_clue_37) rfl (fun x8 σ9 => ?_)
  refine r_if_eq (q := 43) (t := 70) dX2_clue_40 rfl (by decide) (fun _ => ?_) (fun _ => ?_)
  · refine r_aload_n (q := 71) dX2_clue_70 rfl rfl rfl ?_
    refine r_ob (fun a13 ha13 => ?_)
    obtain ⟨hea13, hka13⟩ := o_at_eq ha13
    cases hea13
    refine r_callXR (q := 74) (c_X2_place G h0 N _ _) (cl_V (ci := 1) rfl rfl (lw_V q923 q925 qs20 q168 q926) (hd_X2_place) ⟨Nat.le_of_ble_eq_true rfl, Nat.le_of_ble_eq_true rfl⟩ (List.mem_singleton.mp hka13) rfl rfl rfl (Nat.le_of_ble_eq_true rfl) dX2_clue_71) rfl rfl (fun x11 σ12 => ?_)
    refine r_gI (q := 77) fl_X2_253 dX2_clue_74 rfl (fun x14 => ?_)
    refine r_istore (q := 79) dX2_clue_77 rfl (Nat.le_of_ble_eq_true rfl) rfl ?_
    refine r_aload_n (q := 80) dX2_clue_79 rfl rfl rfl ?_
    refine r_ldcS (q := 82) (tx := "seen") (cd := 18) (List.mem_of_getElem? (i := 10) rfl) (by decide) dX2_clue_80 rfl ?_
    refine r_ob (fun a17 ha17 => ?_)
    obtain ⟨hea17, hka17⟩ := o_at_eq ha17
    cases hea17
    refine r_callI (q := 85) (c_J3_equals G h0 N _ _ _) (cl_V (ci := 21) rfl rfl (lw_V q804 q805 q806 q178 q807) (hd_J3_equals) ⟨Nat.le_of_ble_eq_true rfl, Nat.le_of_ble_eq_true rfl⟩ (List.mem_singleton.mp hka17) rfl rfl rfl (Nat.le_of_ble_eq_true rfl) dX2_clue_82) rfl (fun x15 σ16 => ?_)
    refine r_if_eq (q := 88) (t := 105) dX2_clue_85 rfl (by decide) (fun _ => ?_) (fun _ => ?_)
    · refine r_new (q := 108) (ci := 16) rfl rfl q1189 q1190 q194 dX2_clue_105 rfl (fun a18 σ19 => ?_)
      refine r_dup (q := 109) dX2_clue_108 rfl rfl ?_
      refine r_iload_n (q := 110) dX2_clue_109 rfl rfl rfl ?_
      refine r_iload (q := 112) dX2_clue_110 rfl rfl ?_
      refine r_aload_n (q := 113) dX2_clue_112 rfl rfl rfl ?_
      refine r_ob (fun a22 ha22 => ?_)
      obtain ⟨hea22, hka22⟩ := o_at_eq ha22
      cases hea22
      refine r_callXI (q := 116) (c_X2_hour G h0 N _ _) (cl_V (ci := 1) rfl rfl (lw_V q1177 q1179 qs33 q168 q1180) (hd_X2_hour) ⟨Nat.le_of_ble_eq_true rfl, Nat.le_of_ble_eq_true rfl⟩ (List.mem_singleton.mp hka22) rfl rfl rfl (Nat.le_of_ble_eq_true rfl) dX2_clue_113) rfl rfl (fun x20 σ21 => ?_)
      refine r_callV (q := 119) (c_X20_init G h0 N _ _ _ _ _) (cl_I rfl rfl rfl rfl q1191 q1192 q194 q1193 (hd_X20_init) ⟨Nat.le_of_ble_eq_true rfl, Nat.le_of_ble_eq_true rfl⟩ rfl (Nat.le_of_ble_eq_true rfl) dX2_clue_116) rfl (fun u23 σ24 => ?_)
      exact r_le (w_X2_clue_b119 G h0 N _ _ _) (Nat.le_refl _) (And.intro rfl trivial)
    · refine r_new (q := 91) (ci := 15) rfl rfl q1175 q1176 q193 dX2_clue_88 rfl (fun a25 σ26 => ?_)
      refine r_dup (q := 92) dX2_clue_91 rfl rfl ?_
      refine r_iload_n (q := 93) dX2_clue_92 rfl rfl rfl ?_
      refine r_iload (q := 95) dX2_clue_93 rfl rfl ?_
      refine r_aload_n (q := 96) dX2_clue_95 rfl rfl rfl ?_
      refine r_ob (fun a29 ha29 => ?_)
      obtain ⟨hea29, hka29⟩ := o_at_eq ha29
      cases hea29
      refine r_callXI (q := 99) (c_X2_hour G h0 N _ _) (cl_V (ci := 1) rfl rfl (lw_V q1177 q1179 qs33 q168 q1180) (hd_X2_hour) ⟨Nat.le_of_ble_eq_true rfl, Nat.le_of_ble_eq_true rfl⟩ (List.mem_singleton.mp hka29) rfl rfl rfl (Nat.le_of_ble_eq_true rfl) dX2_clue_96) rfl rfl (fun x27 σ28 => ?_)
      refine r_callV (q := 102) (c_X19_init G h0 N _ _ _ _ _) (cl_I rfl rfl rfl rfl q1181 q1182 q193 q1183 (hd_X19_init) ⟨Nat.le_of_ble_eq_true rfl, Nat.le_of_ble_eq_true rfl⟩ rfl (Nat.le_of_ble_eq_true rfl) dX2_clue_99) rfl (fun u30 σ31 => ?_)
      refine r_goto (q := 119) dX2_clue_102 (by decide) ?_
      exact r_le (w_X2_clue_b119 G h0 N _ _ _) (Nat.le_refl _) (And.intro rfl trivial)
  · refine r_aload_n (q := 44) dX2_clue_43 rfl rfl rfl ?_
    refine r_ob (fun a34 ha34 => ?_)
    obtain ⟨hea34, hka34⟩ := o_at_eq ha34
    cases hea34
    refine r_callXI (q := 47) (c_X2_plant G h0 N _ _) (cl_V (ci := 1) rfl rfl (lw_V q1129 q1131 qs32 q168 q1132) (hd_X2_plant) ⟨Nat.le_of_ble_eq_true rfl, Nat.le_of_ble_eq_true rfl⟩ (List.mem_singleton.mp hka34) rfl rfl rfl (Nat.le_of_ble_eq_true rfl) dX2_clue_44) rfl rfl (fun x32 σ33 => ?_)
    refine r_istore (q := 49) dX2_clue_47 rfl (Nat.le_of_ble_eq_true rfl) rfl ?_
    refine r_new (q := 52) (ci := 14) rfl rfl q1133 q1134 q192 dX2_clue_49 rfl (fun a35 σ36 => ?_)
    refine r_dup (q := 53) dX2_clue_52 rfl rfl ?_
    refine r_iload_n (q := 54) dX2_clue_53 rfl rfl rfl ?_
    refine r_aload_n (q := 55) dX2_clue_54 rfl rfl rfl ?_
    refine r_ob (fun a39 ha39 => ?_)
    obtain ⟨hea39, hka39⟩ := o_at_eq ha39
    cases hea39
    refine r_callXR (q := 58) (c_X2_place G h0 N _ _) (cl_V (ci := 1) rfl rfl (lw_V q923 q925 qs20 q168 q926) (hd_X2_place) ⟨Nat.le_of_ble_eq_true rfl, Nat.le_of_ble_eq_true rfl⟩ (List.mem_singleton.mp hka39) rfl rfl rfl (Nat.le_of_ble_eq_true rfl) dX2_clue_55) rfl rfl (fun x37 σ38 => ?_)
    refine r_gI (q := 61) fl_X2_253 dX2_clue_58 rfl (fun x40 => ?_)
    refine r_iload (q := 63) dX2_clue_61 rfl rfl ?_
    refine r_callV (q := 66) (c_X18_init G h0 N _ _ _ _ _) (cl_I rfl rfl rfl rfl q1135 q1136 q192 q1137 (hd_X18_init) ⟨Nat.le_of_ble_eq_true rfl, Nat.le_of_ble_eq_true rfl⟩ rfl (Nat.le_of_ble_eq_true rfl) dX2_clue_63) rfl (fun u41 σ42 => ?_)
    refine r_astore_n (q := 67) dX2_clue_66 rfl rfl (Nat.le_of_ble_eq_true rfl) rfl ?_
    refine r_goto (q := 120) dX2_clue_67 (by decide) ?_
    exact r_le (w_X2_clue_b120 G h0 N _ _ _) (Nat.le_refl _) (And.intro rfl (And.intro rfl trivial))
theorem c_X2_clue (G : Gx) (h0 : G0 G) (N : Nat) (a0 : Nat) (σ : Mem) : Ct G mX2_clue (rhoX rhoV) [vR (some a0)] σ (f_X2_clue N a0 σ) := by
  refine Ct_of h0 (by decide) rfl (Nat.le_of_ble_eq_true rfl) (L0 := [some (vR (some a0)), none, none, none, none]) rfl ?_
  unfold f_X2_clue
  refine r_aload_n (q := 1) dX2_clue_0 rfl rfl rfl ?_
  refine r_gR (q := 4) fl_X2_61 rfl dX2_clue_1 rfl (fun x1 => ?_)
  refine r_astore_n (q := 5) dX2_clue_4 rfl rfl (Nat.le_of_ble_eq_true rfl) rfl ?_
  refine r_aload_n (q := 6) dX2_clue_5 rfl rfl rfl ?_
  refine r_aload_n (q := 7) dX2_clue_6 rfl rfl rfl ?_
  refine r_gR (q := 10) fl_X2_127 rfl dX2_clue_7 rfl (fun x2 => ?_)
  refine r_gI (q := 13) fl_X2_353 dX2_clue_10 rfl (fun x3 => ?_)
  refine r_bipush (q := 15) (v := (10 : Int32)) dX2_clue_13 rfl (by decide) ?_
  refine r_icmp_ge (q := 18) (t := 22) dX2_clue_15 rfl (by decide) (fun _ => ?_) (fun _ => ?_)
  · refine r_iconst (q := 23) (v := (0 : Int32)) dX2_clue_22 rfl (by decide) ?_
    exact r_le (w_X2_clue_b23 G h0 N _ _ _ _ _) (Nat.le_refl _) (And.intro rfl (And.intro rfl trivial))
  · refine r_iconst (q := 19) (v := (1 : Int32)) dX2_clue_18 rfl (by decide) ?_
    refine r_goto (q := 23) dX2_clue_19 (by decide) ?_
    exact r_le (w_X2_clue_b23 G h0 N _ _ _ _ _) (Nat.le_refl _) (And.intro rfl (And.intro rfl trivial))
theorem c_X21_init (G : Gx) (h0 : G0 G) (N : Nat) (a0 : Nat) (o1 : Option Nat) (i2 : Int32) (σ : Mem) : Ct G mX21_init rhoV [vR (some a0), vR o1, vI i2] σ (f_X21_init N a0 o1 i2 σ) := by
  refine Ct_of h0 (by decide) rfl (Nat.le_of_ble_eq_true rfl) (L0 := [some (vR (some a0)), some (vR o1), some (vI i2)]) rfl ?_
  unfold f_X21_init
  refine r_aload_n (q := 1) dX21_init_0 rfl rfl rfl ?_
  refine r_aload_n (q := 2) dX21_init_1 rfl rfl rfl ?_
  refine r_iload_n (q := 3) dX21_init_2 rfl rfl rfl ?_
  refine r_callV (q := 6) (c_X9_init G h0 N _ _ _ _) (cl_I rfl rfl rfl rfl q1208 q880 q183 q881 (hd_X9_init) ⟨Nat.le_of_ble_eq_true rfl, Nat.le_of_ble_eq_true rfl⟩ rfl (Nat.le_of_ble_eq_true rfl) dX21_init_3) rfl (fun u1 σ2 => ?_)
  exact r_return rfl dX21_init_6
theorem w_X2_factLine_b18 (G : Gx) (h0 : G0 G) (N : Nat)   (a0 : Nat) (t0 : Option Nat) (t1 : Int32) (σ : Mem) : Runs G mX2_factLine (rhoX rhoV) σ 18 [some (vR (some a0))] [vI t1, vR t0] (f_X2_factLine_b18 N  a0 t0 t1 σ) := by
  unfold f_X2_factLine_b18
  refine r_ob (fun a3 ha3 => ?_)
  obtain ⟨hea3, hka3⟩ := o_at_eq ha3
  cases hea3
  refine r_callXV (q := 21) (c_X2_begins G h0 N _ _ _) (cl_V (ci := 1) rfl rfl (lw_V q853 q855 qs14 q168 q856) (hd_X2_begins) ⟨Nat.le_of_ble_eq_true rfl, Nat.le_of_ble_eq_true rfl⟩ (List.mem_singleton.mp hka3) rfl rfl rfl (Nat.le_of_ble_eq_true rfl) dX2_factLine_18) rfl rfl (fun u1 σ2 => ?_)
  refine r_aload_n (q := 22) dX2_factLine_21 rfl rfl rfl ?_
  refine r_gR (q := 25) fl_X2_127 rfl dX2_factLine_22 rfl (fun x4 => ?_)
  refine r_gR (q := 28) fl_X2_381 rfl dX2_factLine_25 rfl (fun x5 => ?_)
  refine r_aload_n (q := 29) dX2_factLine_28 rfl rfl rfl ?_
  refine r_gR (q := 32) fl_X2_127 rfl dX2_factLine_29 rfl (fun x6 => ?_)
  refine r_gI (q := 35) fl_X2_378 dX2_factLine_32 rfl (fun x7 => ?_)
  refine r_new (q := 38) (ci := 17) rfl rfl q1203 q1204 q195 dX2_factLine_35 rfl (fun a8 σ9 => ?_)
  refine r_dup (q := 39) dX2_factLine_38 rfl rfl ?_
  refine r_aload_n (q := 40) dX2_factLine_39 rfl rfl rfl ?_
  refine r_ob (fun a12 ha12 => ?_)
  obtain ⟨hea12, hka12⟩ := o_at_eq ha12
  cases hea12
  refine r_callXR (q := 43) (c_X2_newName G h0 N _ _) (cl_V (ci := 1) rfl rfl (lw_V q859 q861 qs15 q168 q862) (hd_X2_newName) ⟨Nat.le_of_ble_eq_true rfl, Nat.le_of_ble_eq_true rfl⟩ (List.mem_singleton.mp hka12) rfl rfl rfl (Nat.le_of_ble_eq_true rfl) dX2_factLine_40) rfl rfl (fun x10 σ11 => ?_)
  refine r_aload_n (q := 44) dX2_factLine_43 rfl rfl rfl ?_
  refine r_gR (q := 47) fl_X2_127 rfl dX2_factLine_44 rfl (fun x13 => ?_)
  refine r_gI (q := 50) fl_X2_378 dX2_factLine_47 rfl (fun x14 => ?_)
  refine r_callV (q := 53) (c_X21_init G h0 N _ _ _ _) (cl_I rfl rfl rfl rfl q1205 q1206 q195 q1207 (hd_X21_init) ⟨Nat.le_of_ble_eq_true rfl, Nat.le_of_ble_eq_true rfl⟩ rfl (Nat.le_of_ble_eq_true rfl) dX2_factLine_50) rfl (fun u15 σ16 => ?_)
  refine r_aastore (q := 54) (k0 := 10) (by decide) ia_GoatCourt_Fact dX2_factLine_53 rfl (fun σ17 => ?_)
  refine r_aload_n (q := 55) dX2_factLine_54 rfl rfl rfl ?_
  refine r_gR (q := 58) fl_X2_127 rfl dX2_factLine_55 rfl (fun x18 => ?_)
  refine r_dup (q := 59) dX2_factLine_58 rfl rfl ?_
  refine r_gI (q := 62) fl_X2_378 dX2_factLine_59 rfl (fun x19 => ?_)
  refine r_iconst (q := 63) (v := (1 : Int32)) dX2_factLine_62 rfl (by decide) ?_
  refine r_iadd (q := 64) dX2_factLine_63 rfl ?_
  refine r_pI (q := 67) fp_X2_factLine_378 dX2_factLine_64 rfl (fun σ20 => ?_)
  exact r_returnX rfl dX2_factLine_67
theorem c_X2_factLine (G : Gx) (h0 : G0 G) (N : Nat) (a0 : Nat) (σ : Mem) : Ct G mX2_factLine (rhoX rhoV) [vR (some a0)] σ (f_X2_factLine N a0 σ) := by
  refine Ct_of h0 (by decide) rfl (Nat.le_of_ble_eq_true rfl) (L0 := [some (vR (some a0))]) rfl ?_
  unfold f_X2_factLine
  refine r_aload_n (q := 1) dX2_factLine_0 rfl rfl rfl ?_
  refine r_aload_n (q := 2) dX2_factLine_1 rfl rfl rfl ?_
  refine r_gR (q := 5) fl_X2_127 rfl dX2_factLine_2 rfl (fun x1 => ?_)
  refine r_gI (q := 8) fl_X2_378 dX2_factLine_5 rfl (fun x2 => ?_)
  refine r_bipush (q := 10) (v := (8 : Int32)) dX2_factLine_8 rfl (by decide) ?_
  refine r_icmp_ge (q := 13) (t := 17) dX2_factLine_10 rfl (by decide) (fun _ => ?_) (fun _ => ?_)
  · refine r_iconst (q := 18) (v := (0 : Int32)) dX2_factLine_17 rfl (by decide) ?_
    exact r_le (w_X2_factLine_b18 G h0 N _ _ _ _) (Nat.le_refl _) (And.intro rfl trivial)
  · refine r_iconst (q := 14) (v := (1 : Int32)) dX2_factLine_13 rfl (by decide) ?_
    refine r_goto (q := 18) dX2_factLine_14 (by decide) ?_
    exact r_le (w_X2_factLine_b18 G h0 N _ _ _ _) (Nat.le_refl _) (And.intro rfl trivial)
theorem c_X2_factHere (G : Gx) (h0 : G0 G) (N : Nat) (a0 : Nat) (σ : Mem) : Ct G mX2_factHere (rhoX rhoR) [vR (some a0)] σ (f_X2_factHere N a0 σ) := by
  refine Ct_of h0 (by decide) rfl (Nat.le_of_ble_eq_true rfl) (L0 := [some (vR (some a0)), none]) rfl ?_
  unfold f_X2_factHere
  refine r_aload_n (q := 1) dX2_factHere_0 rfl rfl rfl ?_
  refine r_ob (fun a3 ha3 => ?_)
  obtain ⟨hea3, hka3⟩ := o_at_eq ha3
  cases hea3
  refine r_callXR (q := 4) (c_X2_found G h0 N _ _) (cl_V (ci := 1) rfl rfl (lw_V q931 q933 qs22 q168 q934) (hd_X2_found) ⟨Nat.le_of_ble_eq_true rfl, Nat.le_of_ble_eq_true rfl⟩ (List.mem_singleton.mp hka3) rfl rfl rfl (Nat.le_of_ble_eq_true rfl) dX2_factHere_1) rfl rfl (fun x1 σ2 => ?_)
  refine r_astore_n (q := 5) dX2_factHere_4 rfl rfl (Nat.le_of_ble_eq_true rfl) rfl ?_
  refine r_aload_n (q := 6) dX2_factHere_5 rfl rfl rfl ?_
  refine r_inst (q := 9) iy_GoatCourt_Fact ino_GoatCourt_Fact q1203 dX2_factHere_6 rfl (fun x4 => ?_)
  refine r_if_ne (q := 12) (t := 18) dX2_factHere_9 rfl (by decide) (fun _ => ?_) (fun _ => ?_)
  · refine r_aload_n (q := 13) dX2_factHere_12 rfl rfl rfl ?_
    refine r_iconst (q := 14) (v := (2 : Int32)) dX2_factHere_13 rfl (by decide) ?_
    refine r_ob (fun a8 ha8 => ?_)
    obtain ⟨hea8, hka8⟩ := o_at_eq ha8
    cases hea8
    refine r_callR (q := 17) (c_X2_fail G h0 N _ _ _) (cl_V (ci := 1) rfl rfl (lw_V q742 q744 qs7 q168 q745) (hd_X2_fail) ⟨Nat.le_of_ble_eq_true rfl, Nat.le_of_ble_eq_true rfl⟩ (List.mem_singleton.mp hka8) rfl rfl rfl (Nat.le_of_ble_eq_true rfl) dX2_factHere_14) rfl (fun x6 σ7 => ?_)
    exact r_athrow (ci := 2) (r0 := (RX3, TX3, 8)) rfl rfl dX2_factHere_17
  · refine r_aload_n (q := 19) dX2_factHere_18 rfl rfl rfl ?_
    refine r_cast (q := 22) iy_GoatCourt_Fact q1203 dX2_factHere_19 rfl (fun x5 => ?_)
    exact r_areturnX rfl (Or.inl ⟨_, rfl⟩) dX2_factHere_22
theorem c_X2_holds (G : Gx) (h0 : G0 G) (N : Nat) (a0 : Nat) (σ : Mem) : Ct G mX2_holds (rhoX rhoV) [vR (some a0)] σ (f_X2_holds N a0 σ) := by
  refine Ct_of h0 (by decide) rfl (Nat.le_of_ble_eq_true rfl) (L0 := [some (vR (some a0)), none]) rfl ?_
  unfold f_X2_holds
  refine r_aload_n (q := 1) dX2_holds_0 rfl rfl rfl ?_
  refine r_iconst (q := 2) (v := (1 : Int32)) dX2_holds_1 rfl (by decide) ?_
  refine r_ob (fun a3 ha3 => ?_)
  obtain ⟨hea3, hka3⟩ := o_at_eq ha3
  cases hea3
  refine r_callXV (q := 5) (c_X2_begins G h0 N _ _ _) (cl_V (ci := 1) rfl rfl (lw_V q853 q855 qs14 q168 q856) (hd_X2_begins) ⟨Nat.le_of_ble_eq_true rfl, Nat.le_of_ble_eq_true rfl⟩ (List.mem_singleton.mp hka3) rfl rfl rfl (Nat.le_of_ble_eq_true rfl) dX2_holds_2) rfl rfl (fun u1 σ2 => ?_)
  refine r_aload_n (q := 6) dX2_holds_5 rfl rfl rfl ?_
  refine r_ob (fun a6 ha6 => ?_)
  obtain ⟨hea6, hka6⟩ := o_at_eq ha6
  cases hea6
  refine r_callXR (q := 9) (c_X2_factHere G h0 N _ _) (cl_V (ci := 1) rfl rfl (lw_V q1221 q1223 qs36 q168 q1224) (hd_X2_factHere) ⟨Nat.le_of_ble_eq_true rfl, Nat.le_of_ble_eq_true rfl⟩ (List.mem_singleton.mp hka6) rfl rfl rfl (Nat.le_of_ble_eq_true rfl) dX2_holds_6) rfl rfl (fun x4 σ5 => ?_)
  refine r_astore_n (q := 10) dX2_holds_9 rfl rfl (Nat.le_of_ble_eq_true rfl) rfl ?_
  refine r_aload_n (q := 11) dX2_holds_10 rfl rfl rfl ?_
  refine r_gI (q := 14) fl_X2_386 dX2_holds_11 rfl (fun x7 => ?_)
  refine r_if_eq (q := 17) (t := 23) dX2_holds_14 rfl (by decide) (fun _ => ?_) (fun _ => ?_)
  · refine r_aload_n (q := 24) dX2_holds_23 rfl rfl rfl ?_
    refine r_ob (fun a10 ha10 => ?_)
    obtain ⟨hea10, hka10⟩ := o_at_eq ha10
    cases hea10
    refine r_callV (q := 27) (c_X2_next G h0 N _ _) (cl_V (ci := 1) rfl rfl (lw_V q644 q646 qs4 q168 q647) (hd_X2_next) ⟨Nat.le_of_ble_eq_true rfl, Nat.le_of_ble_eq_true rfl⟩ (List.mem_singleton.mp hka10) rfl rfl rfl (Nat.le_of_ble_eq_true rfl) dX2_holds_24) rfl (fun u8 σ9 => ?_)
    refine r_aload_n (q := 28) dX2_holds_27 rfl rfl rfl ?_
    refine r_iconst (q := 29) (v := (1 : Int32)) dX2_holds_28 rfl (by decide) ?_
    refine r_pI (q := 32) fp_X2_holds_386 dX2_holds_29 rfl (fun σ11 => ?_)
    exact r_returnX rfl dX2_holds_32
  · refine r_aload_n (q := 18) dX2_holds_17 rfl rfl rfl ?_
    refine r_iconst (q := 19) (v := (3 : Int32)) dX2_holds_18 rfl (by decide) ?_
    refine r_ob (fun a14 ha14 => ?_)
    obtain ⟨hea14, hka14⟩ := o_at_eq ha14
    cases hea14
    refine r_callR (q := 22) (c_X2_fail G h0 N _ _ _) (cl_V (ci := 1) rfl rfl (lw_V q742 q744 qs7 q168 q745) (hd_X2_fail) ⟨Nat.le_of_ble_eq_true rfl, Nat.le_of_ble_eq_true rfl⟩ (List.mem_singleton.mp hka14) rfl rfl rfl (Nat.le_of_ble_eq_true rfl) dX2_holds_19) rfl (fun x12 σ13 => ?_)
    exact r_athrow (ci := 2) (r0 := (RX3, TX3, 8)) rfl rfl dX2_holds_22
theorem c_X22_init (G : Gx) (h0 : G0 G) (N : Nat) (a0 : Nat) (σ : Mem) : Ct G mX22_init rhoV [vR (some a0)] σ (f_X22_init N a0 σ) := by
  refine Ct_of h0 (by decide) rfl (Nat.le_of_ble_eq_true rfl) (L0 := [some (vR (some a0))]) rfl ?_
  unfold f_X22_init
  refine r_aload_n (q := 1) dX22_init_0 rfl rfl rfl ?_
  refine r_objInit (q := 4) q1234 q208 q209 (by decide) (by decide) dX22_init_1 rfl ?_
  refine r_aload_n (q := 5) dX22_init_4 rfl rfl rfl ?_
  refine r_iconst (q := 6) (v := (3 : Int32)) dX22_init_5 rfl (by decide) ?_
  refine r_newarray (q := 8) (k0 := 1) (by decide) rfl q344 dX22_init_6 rfl (fun a1 σ2 => ?_)
  refine r_pR (q := 11) fp_X22_init_9 rfl dX22_init_8 rfl (fun σ3 => ?_)
  exact r_return rfl dX22_init_11
theorem c_X2_fact (G : Gx) (h0 : G0 G) (N : Nat) (a0 : Nat) (σ : Mem) : Ct G mX2_fact (rhoX rhoR) [vR (some a0)] σ (f_X2_fact N a0 σ) := by
  refine Ct_of h0 (by decide) rfl (Nat.le_of_ble_eq_true rfl) (L0 := [some (vR (some a0)), none]) rfl ?_
  unfold f_X2_fact
  refine r_aload_n (q := 1) dX2_fact_0 rfl rfl rfl ?_
  refine r_ob (fun a3 ha3 => ?_)
  obtain ⟨hea3, hka3⟩ := o_at_eq ha3
  cases hea3
  refine r_callXR (q := 4) (c_X2_factHere G h0 N _ _) (cl_V (ci := 1) rfl rfl (lw_V q1221 q1223 qs36 q168 q1224) (hd_X2_factHere) ⟨Nat.le_of_ble_eq_true rfl, Nat.le_of_ble_eq_true rfl⟩ (List.mem_singleton.mp hka3) rfl rfl rfl (Nat.le_of_ble_eq_true rfl) dX2_fact_1) rfl rfl (fun x1 σ2 => ?_)
  refine r_astore_n (q := 5) dX2_fact_4 rfl rfl (Nat.le_of_ble_eq_true rfl) rfl ?_
  refine r_aload_n (q := 6) dX2_fact_5 rfl rfl rfl ?_
  refine r_ob (fun a6 ha6 => ?_)
  obtain ⟨hea6, hka6⟩ := o_at_eq ha6
  cases hea6
  refine r_callV (q := 9) (c_X2_next G h0 N _ _) (cl_V (ci := 1) rfl rfl (lw_V q644 q646 qs4 q168 q647) (hd_X2_next) ⟨Nat.le_of_ble_eq_true rfl, Nat.le_of_ble_eq_true rfl⟩ (List.mem_singleton.mp hka6) rfl rfl rfl (Nat.le_of_ble_eq_true rfl) dX2_fact_6) rfl (fun u4 σ5 => ?_)
  refine r_aload_n (q := 10) dX2_fact_9 rfl rfl rfl ?_
  exact r_areturnX rfl (Or.inl ⟨_, rfl⟩) dX2_fact_10
theorem w_X22_has_b31 (G : Gx) (h0 : G0 G) (N : Nat) (K4 : Nat → Int32 → Int32 → Int32 → Mem → Option (Int32 × Mem)) (hK4 : ∀ (a0 : Nat) (l1 : Int32) (l2 : Int32) (l3 : Int32) (σ : Mem), Runs G mX22_has rhoI σ 4 [some (vR (some a0)), some (vI l1), some (vI l2), some (vI l3)] [] (K4 a0 l1 l2 l3 σ)) (a0 : Nat) (l1 : Int32) (l3 : Int32) (t0 : Int32) (σ : Mem) : Runs G mX22_has rhoI σ 31 [some (vR (some a0)), some (vI l1), none, some (vI l3)] [vI t0] (f_X22_has_b31 N K4 a0 l1 l3 t0 σ) := by
  unfold f_X22_has_b31
  refine r_istore_n (q := 32) dX22_has_31 rfl rfl (Nat.le_of_ble_eq_true rfl) rfl ?_
  refine r_iinc (q := 35) (v := (1 : Int32)) dX22_has_32 rfl rfl (by decide) (Nat.le_of_ble_eq_true rfl) rfl ?_
  refine r_goto (q := 4) dX22_has_35 (by decide) ?_
  exact r_le (hK4 _ _ _ _ _) (Nat.le_refl _) (And.intro rfl (And.intro rfl (And.intro rfl (And.intro rfl trivial))))
theorem w_X22_has_b26 (G : Gx) (h0 : G0 G) (N : Nat) (K4 : Nat → Int32 → Int32 → Int32 → Mem → Option (Int32 × Mem)) (hK4 : ∀ (a0 : Nat) (l1 : Int32) (l2 : Int32) (l3 : Int32) (σ : Mem), Runs G mX22_has rhoI σ 4 [some (vR (some a0)), some (vI l1), some (vI l2), some (vI l3)] [] (K4 a0 l1 l2 l3 σ)) (a0 : Nat) (l1 : Int32) (l3 : Int32) (σ : Mem) : Runs G mX22_has rhoI σ 26 [some (vR (some a0)), some (vI l1), none, some (vI l3)] [] (f_X22_has_b26 N K4 a0 l1 l3 σ) := by
  unfold f_X22_has_b26
  refine r_iconst (q := 27) (v := (1 : Int32)) dX22_has_26 rfl (by decide) ?_
  refine r_goto (q := 31) dX22_has_27 (by decide) ?_
  exact r_le (w_X22_has_b31 G h0 N K4 hK4 _ _ _ _ _) (Nat.le_refl _) (And.intro rfl (And.intro rfl (And.intro rfl trivial)))
theorem w_X22_has_b4B (G : Gx) (h0 : G0 G) (N : Nat)   (K4 : Nat → Int32 → Int32 → Int32 → Mem → Option (Int32 × Mem)) (hK4 : ∀ (a0 : Nat) (l1 : Int32) (l2 : Int32) (l3 : Int32) (σ : Mem), Runs G mX22_has rhoI σ 4 [some (vR (some a0)), some (vI l1), some (vI l2), some (vI l3)] [] (K4 a0 l1 l2 l3 σ)) (a0 : Nat) (l1 : Int32) (l2 : Int32) (l3 : Int32) (σ : Mem) : Runs G mX22_has rhoI σ 4 [some (vR (some a0)), some (vI l1), some (vI l2), some (vI l3)] [] (f_X22_has_b4B N  K4 a0 l1 l2 l3 σ) := by
  unfold f_X22_has_b4B
  refine r_iload_n (q := 5) dX22_has_4 rfl rfl rfl ?_
  refine r_aload_n (q := 6) dX22_has_5 rfl rfl rfl ?_
  refine r_gI (q := 9) fl_X22_15 dX22_has_6 rfl (fun x1 => ?_)
  refine r_icmp_ge (q := 12) (t := 38) dX22_has_9 rfl (by decide) (fun _ => ?_) (fun _ => ?_)
  · refine r_iload_n (q := 39) dX22_has_38 rfl rfl rfl ?_
    exact r_ireturnN rfl dX22_has_39
  · refine r_iload_n (q := 13) dX22_has_12 rfl rfl rfl ?_
    refine r_if_ne (q := 16) (t := 26) dX22_has_13 rfl (by decide) (fun _ => ?_) (fun _ => ?_)
    · refine r_aload_n (q := 17) dX22_has_16 rfl rfl rfl ?_
      refine r_gR (q := 20) fl_X22_9 rfl dX22_has_17 rfl (fun x2 => ?_)
      refine r_iload_n (q := 21) dX22_has_20 rfl rfl rfl ?_
      refine r_iaload (q := 22) dX22_has_21 rfl (fun x3 => ?_)
      refine r_iload_n (q := 23) dX22_has_22 rfl rfl rfl ?_
      refine r_icmp_ne (q := 26) (t := 30) dX22_has_23 rfl (by decide) (fun _ => ?_) (fun _ => ?_)
      · exact r_le (w_X22_has_b26 G h0 N K4 hK4 _ _ _ _) (Nat.le_refl _) (And.intro rfl (And.intro rfl (And.intro rfl trivial)))
      · refine r_iconst (q := 31) (v := (0 : Int32)) dX22_has_30 rfl (by decide) ?_
        exact r_le (w_X22_has_b31 G h0 N K4 hK4 _ _ _ _ _) (Nat.le_refl _) (And.intro rfl (And.intro rfl (And.intro rfl trivial)))
    · exact r_le (w_X22_has_b26 G h0 N K4 hK4 _ _ _ _) (Nat.le_refl _) (And.intro rfl (And.intro rfl (And.intro rfl trivial)))
theorem w_X22_has_b4 (G : Gx) (h0 : G0 G) (N : Nat)   : ∀ (z : Nat) (a0 : Nat) (l1 : Int32) (l2 : Int32) (l3 : Int32) (σ : Mem), Runs G mX22_has rhoI σ 4 [some (vR (some a0)), some (vI l1), some (vI l2), some (vI l3)] [] (f_X22_has_b4 N  z a0 l1 l2 l3 σ) := by
  intro z
  induction z with
  | zero => exact fun _ _ _ _ _ => r_none
  | succ z ih => exact fun a0 l1 l2 l3 σ => w_X22_has_b4B G h0 N   _ ih a0 l1 l2 l3 σ
theorem c_X22_has (G : Gx) (h0 : G0 G) (N : Nat) (a0 : Nat) (i1 : Int32) (σ : Mem) : Ct G mX22_has rhoI [vR (some a0), vI i1] σ (f_X22_has N a0 i1 σ) := by
  refine Ct_of h0 (by decide) rfl (Nat.le_of_ble_eq_true rfl) (L0 := [some (vR (some a0)), some (vI i1), none, none]) rfl ?_
  unfold f_X22_has
  refine r_iconst (q := 1) (v := (0 : Int32)) dX22_has_0 rfl (by decide) ?_
  refine r_istore_n (q := 2) dX22_has_1 rfl rfl (Nat.le_of_ble_eq_true rfl) rfl ?_
  refine r_iconst (q := 3) (v := (0 : Int32)) dX22_has_2 rfl (by decide) ?_
  refine r_istore_n (q := 4) dX22_has_3 rfl rfl (Nat.le_of_ble_eq_true rfl) rfl ?_
  exact r_le (w_X22_has_b4 G h0 N N _ _ _ _ _) (Nat.le_refl _) (And.intro rfl (And.intro rfl (And.intro rfl (And.intro rfl trivial))))
theorem w_X2_rule_b48B (G : Gx) (h0 : G0 G) (N : Nat)   (K48 : Nat → Option Nat → Int32 → Mem → Option ((Unit ⊕ Ex) × Mem)) (hK48 : ∀ (a0 : Nat) (l1 : Option Nat) (l2 : Int32) (σ : Mem), Runs G mX2_rule (rhoX rhoV) σ 48 [some (vR (some a0)), some (vR l1), some (vI l2), none] [] (K48 a0 l1 l2 σ)) (a0 : Nat) (l1 : Option Nat) (l2 : Int32) (σ : Mem) : Runs G mX2_rule (rhoX rhoV) σ 48 [some (vR (some a0)), some (vR l1), some (vI l2), none] [] (f_X2_rule_b48B N  K48 a0 l1 l2 σ) := by
  unfold f_X2_rule_b48B
  refine r_iload_n (q := 49) dX2_rule_48 rfl rfl rfl ?_
  refine r_if_eq (q := 52) (t := 123) dX2_rule_49 rfl (by decide) (fun _ => ?_) (fun _ => ?_)
  · refine r_aload_n (q := 124) dX2_rule_123 rfl rfl rfl ?_
    refine r_gR (q := 127) fl_X2_127 rfl dX2_rule_124 rfl (fun x1 => ?_)
    refine r_gR (q := 130) fl_X2_407 rfl dX2_rule_127 rfl (fun x2 => ?_)
    refine r_aload_n (q := 131) dX2_rule_130 rfl rfl rfl ?_
    refine r_gR (q := 134) fl_X2_127 rfl dX2_rule_131 rfl (fun x3 => ?_)
    refine r_gI (q := 137) fl_X2_389 dX2_rule_134 rfl (fun x4 => ?_)
    refine r_aload_n (q := 138) dX2_rule_137 rfl rfl rfl ?_
    refine r_aastore (q := 139) (k0 := 11) (by decide) ia_GoatCourt_Rule dX2_rule_138 rfl (fun σ5 => ?_)
    refine r_aload_n (q := 140) dX2_rule_139 rfl rfl rfl ?_
    refine r_gR (q := 143) fl_X2_127 rfl dX2_rule_140 rfl (fun x6 => ?_)
    refine r_dup (q := 144) dX2_rule_143 rfl rfl ?_
    refine r_gI (q := 147) fl_X2_389 dX2_rule_144 rfl (fun x7 => ?_)
    refine r_iconst (q := 148) (v := (1 : Int32)) dX2_rule_147 rfl (by decide) ?_
    refine r_iadd (q := 149) dX2_rule_148 rfl ?_
    refine r_pI (q := 152) fp_X2_rule_389 dX2_rule_149 rfl (fun σ8 => ?_)
    exact r_returnX rfl dX2_rule_152
  · refine r_aload_n (q := 53) dX2_rule_52 rfl rfl rfl ?_
    refine r_ob (fun a11 ha11 => ?_)
    obtain ⟨hea11, hka11⟩ := o_at_eq ha11
    cases hea11
    refine r_callXR (q := 56) (c_X2_factHere G h0 N _ _) (cl_V (ci := 1) rfl rfl (lw_V q1221 q1223 qs36 q168 q1224) (hd_X2_factHere) ⟨Nat.le_of_ble_eq_true rfl, Nat.le_of_ble_eq_true rfl⟩ (List.mem_singleton.mp hka11) rfl rfl rfl (Nat.le_of_ble_eq_true rfl) dX2_rule_53) rfl rfl (fun x9 σ10 => ?_)
    refine r_astore_n (q := 57) dX2_rule_56 rfl rfl (Nat.le_of_ble_eq_true rfl) rfl ?_
    refine r_aload_n (q := 58) dX2_rule_57 rfl rfl rfl ?_
    refine r_aload_n (q := 59) dX2_rule_58 rfl rfl rfl ?_
    refine r_gI (q := 62) fl_X2_397 dX2_rule_59 rfl (fun x12 => ?_)
    refine r_ob (fun a15 ha15 => ?_)
    obtain ⟨hea15, hka15⟩ := o_at_eq ha15
    cases hea15
    refine r_callI (q := 65) (c_X22_has G h0 N _ _ _) (cl_V (ci := 18) rfl rfl (lw_V q1253 q1254 q1255 q196 q1256) (hd_X22_has) ⟨Nat.le_of_ble_eq_true rfl, Nat.le_of_ble_eq_true rfl⟩ (List.mem_singleton.mp hka15) rfl rfl rfl (Nat.le_of_ble_eq_true rfl) dX2_rule_62) rfl (fun x13 σ14 => ?_)
    refine r_if_eq (q := 68) (t := 74) dX2_rule_65 rfl (by decide) (fun _ => ?_) (fun _ => ?_)
    · refine r_aload_n (q := 75) dX2_rule_74 rfl rfl rfl ?_
      refine r_gI (q := 78) fl_X2_403 dX2_rule_75 rfl (fun x16 => ?_)
      refine r_iconst (q := 79) (v := (3 : Int32)) dX2_rule_78 rfl (by decide) ?_
      refine r_icmp_ne (q := 82) (t := 88) dX2_rule_79 rfl (by decide) (fun _ => ?_) (fun _ => ?_)
      · refine r_aload_n (q := 83) dX2_rule_82 rfl rfl rfl ?_
        refine r_iconst (q := 84) (v := (5 : Int32)) dX2_rule_83 rfl (by decide) ?_
        refine r_ob (fun a31 ha31 => ?_)
        obtain ⟨hea31, hka31⟩ := o_at_eq ha31
        cases hea31
        refine r_callR (q := 87) (c_X2_fail G h0 N _ _ _) (cl_V (ci := 1) rfl rfl (lw_V q742 q744 qs7 q168 q745) (hd_X2_fail) ⟨Nat.le_of_ble_eq_true rfl, Nat.le_of_ble_eq_true rfl⟩ (List.mem_singleton.mp hka31) rfl rfl rfl (Nat.le_of_ble_eq_true rfl) dX2_rule_84) rfl (fun x29 σ30 => ?_)
        exact r_athrow (ci := 2) (r0 := (RX3, TX3, 8)) rfl rfl dX2_rule_87
      · refine r_aload_n (q := 89) dX2_rule_88 rfl rfl rfl ?_
        refine r_gR (q := 92) fl_X2_404 rfl dX2_rule_89 rfl (fun x17 => ?_)
        refine r_aload_n (q := 93) dX2_rule_92 rfl rfl rfl ?_
        refine r_gI (q := 96) fl_X2_403 dX2_rule_93 rfl (fun x18 => ?_)
        refine r_aload_n (q := 97) dX2_rule_96 rfl rfl rfl ?_
        refine r_gI (q := 100) fl_X2_397 dX2_rule_97 rfl (fun x19 => ?_)
        refine r_iastore (q := 101) dX2_rule_100 rfl (fun σ20 => ?_)
        refine r_aload_n (q := 102) dX2_rule_101 rfl rfl rfl ?_
        refine r_dup (q := 103) dX2_rule_102 rfl rfl ?_
        refine r_gI (q := 106) fl_X2_403 dX2_rule_103 rfl (fun x21 => ?_)
        refine r_iconst (q := 107) (v := (1 : Int32)) dX2_rule_106 rfl (by decide) ?_
        refine r_iadd (q := 108) dX2_rule_107 rfl ?_
        refine r_pI (q := 111) fp_X2_rule_403 dX2_rule_108 rfl (fun σ22 => ?_)
        refine r_aload_n (q := 112) dX2_rule_111 rfl rfl rfl ?_
        refine r_ob (fun a25 ha25 => ?_)
        obtain ⟨hea25, hka25⟩ := o_at_eq ha25
        cases hea25
        refine r_callV (q := 115) (c_X2_next G h0 N _ _) (cl_V (ci := 1) rfl rfl (lw_V q644 q646 qs4 q168 q647) (hd_X2_next) ⟨Nat.le_of_ble_eq_true rfl, Nat.le_of_ble_eq_true rfl⟩ (List.mem_singleton.mp hka25) rfl rfl rfl (Nat.le_of_ble_eq_true rfl) dX2_rule_112) rfl (fun u23 σ24 => ?_)
        refine r_aload_n (q := 116) dX2_rule_115 rfl rfl rfl ?_
        refine r_ob (fun a28 ha28 => ?_)
        obtain ⟨hea28, hka28⟩ := o_at_eq ha28
        cases hea28
        refine r_callI (q := 119) (c_X2_comma G h0 N _ _) (cl_V (ci := 1) rfl rfl (lw_V q915 q917 qs18 q168 q918) (hd_X2_comma) ⟨Nat.le_of_ble_eq_true rfl, Nat.le_of_ble_eq_true rfl⟩ (List.mem_singleton.mp hka28) rfl rfl rfl (Nat.le_of_ble_eq_true rfl) dX2_rule_116) rfl (fun x26 σ27 => ?_)
        refine r_istore_n (q := 120) dX2_rule_119 rfl rfl (Nat.le_of_ble_eq_true rfl) rfl ?_
        refine r_goto (q := 48) dX2_rule_120 (by decide) ?_
        exact r_le (hK48 _ _ _ _) (Nat.le_refl _) (And.intro rfl (And.intro rfl (And.intro rfl trivial)))
    · refine r_aload_n (q := 69) dX2_rule_68 rfl rfl rfl ?_
      refine r_iconst (q := 70) (v := (3 : Int32)) dX2_rule_69 rfl (by decide) ?_
      refine r_ob (fun a34 ha34 => ?_)
      obtain ⟨hea34, hka34⟩ := o_at_eq ha34
      cases hea34
      refine r_callR (q := 73) (c_X2_fail G h0 N _ _ _) (cl_V (ci := 1) rfl rfl (lw_V q742 q744 qs7 q168 q745) (hd_X2_fail) ⟨Nat.le_of_ble_eq_true rfl, Nat.le_of_ble_eq_true rfl⟩ (List.mem_singleton.mp hka34) rfl rfl rfl (Nat.le_of_ble_eq_true rfl) dX2_rule_70) rfl (fun x32 σ33 => ?_)
      exact r_athrow (ci := 2) (r0 := (RX3, TX3, 8)) rfl rfl dX2_rule_73
theorem w_X2_rule_b48 (G : Gx) (h0 : G0 G) (N : Nat)   : ∀ (z : Nat) (a0 : Nat) (l1 : Option Nat) (l2 : Int32) (σ : Mem), Runs G mX2_rule (rhoX rhoV) σ 48 [some (vR (some a0)), some (vR l1), some (vI l2), none] [] (f_X2_rule_b48 N  z a0 l1 l2 σ) := by
  intro z
  induction z with
  | zero => exact fun _ _ _ _ => r_none
  | succ z ih => exact fun a0 l1 l2 σ => w_X2_rule_b48B G h0 N   _ ih a0 l1 l2 σ
theorem w_X2_rule_b18 (G : Gx) (h0 : G0 G) (N : Nat)   (a0 : Nat) (t0 : Option Nat) (t1 : Int32) (σ : Mem) : Runs G mX2_rule (rhoX rhoV) σ 18 [some (vR (some a0)), none, none, none] [vI t1, vR t0] (f_X2_rule_b18 N  a0 t0 t1 σ) := by
  unfold f_X2_rule_b18
  refine r_ob (fun a3 ha3 => ?_)
  obtain ⟨hea3, hka3⟩ := o_at_eq ha3
  cases hea3
  refine r_callXV (q := 21) (c_X2_begins G h0 N _ _ _) (cl_V (ci := 1) rfl rfl (lw_V q853 q855 qs14 q168 q856) (hd_X2_begins) ⟨Nat.le_of_ble_eq_true rfl, Nat.le_of_ble_eq_true rfl⟩ (List.mem_singleton.mp hka3) rfl rfl rfl (Nat.le_of_ble_eq_true rfl) dX2_rule_18) rfl rfl (fun u1 σ2 => ?_)
  refine r_new (q := 24) (ci := 18) rfl rfl q1229 q1230 q196 dX2_rule_21 rfl (fun a4 σ5 => ?_)
  refine r_dup (q := 25) dX2_rule_24 rfl rfl ?_
  refine r_callV (q := 28) (c_X22_init G h0 N _ _) (cl_IN rfl rfl rfl rfl q1231 q1232 q196 q1233 (hd_X22_init) ⟨Nat.le_of_ble_eq_true rfl, Nat.le_of_ble_eq_true rfl⟩ rfl (Nat.le_of_ble_eq_true rfl) dX2_rule_25) rfl (fun u6 σ7 => ?_)
  refine r_astore_n (q := 29) dX2_rule_28 rfl rfl (Nat.le_of_ble_eq_true rfl) rfl ?_
  refine r_aload_n (q := 30) dX2_rule_29 rfl rfl rfl ?_
  refine r_aload_n (q := 31) dX2_rule_30 rfl rfl rfl ?_
  refine r_ob (fun a10 ha10 => ?_)
  obtain ⟨hea10, hka10⟩ := o_at_eq ha10
  cases hea10
  refine r_callXR (q := 34) (c_X2_fact G h0 N _ _) (cl_V (ci := 1) rfl rfl (lw_V q1249 q1251 qs38 q168 q1252) (hd_X2_fact) ⟨Nat.le_of_ble_eq_true rfl, Nat.le_of_ble_eq_true rfl⟩ (List.mem_singleton.mp hka10) rfl rfl rfl (Nat.le_of_ble_eq_true rfl) dX2_rule_31) rfl rfl (fun x8 σ9 => ?_)
  refine r_gI (q := 37) fl_X2_397 dX2_rule_34 rfl (fun x11 => ?_)
  refine r_pI (q := 40) fp_X2_rule_398 dX2_rule_37 rfl (fun σ12 => ?_)
  refine r_aload_n (q := 41) dX2_rule_40 rfl rfl rfl ?_
  refine r_ldcS (q := 43) (tx := "if") (cd := 38) (List.mem_of_getElem? (i := 20) rfl) (by decide) dX2_rule_41 rfl ?_
  refine r_ob (fun a15 ha15 => ?_)
  obtain ⟨hea15, hka15⟩ := o_at_eq ha15
  cases hea15
  refine r_callXV (q := 46) (c_X2_must G h0 N _ _ _) (cl_V (ci := 1) rfl rfl (lw_V q836 q838 qs10 q168 q839) (hd_X2_must) ⟨Nat.le_of_ble_eq_true rfl, Nat.le_of_ble_eq_true rfl⟩ (List.mem_singleton.mp hka15) rfl rfl rfl (Nat.le_of_ble_eq_true rfl) dX2_rule_43) rfl rfl (fun u13 σ14 => ?_)
  refine r_iconst (q := 47) (v := (1 : Int32)) dX2_rule_46 rfl (by decide) ?_
  refine r_istore_n (q := 48) dX2_rule_47 rfl rfl (Nat.le_of_ble_eq_true rfl) rfl ?_
  exact r_le (w_X2_rule_b48 G h0 N N _ _ _ _) (Nat.le_refl _) (And.intro rfl (And.intro rfl (And.intro rfl trivial)))
theorem c_X2_rule (G : Gx) (h0 : G0 G) (N : Nat) (a0 : Nat) (σ : Mem) : Ct G mX2_rule (rhoX rhoV) [vR (some a0)] σ (f_X2_rule N a0 σ) := by
  refine Ct_of h0 (by decide) rfl (Nat.le_of_ble_eq_true rfl) (L0 := [some (vR (some a0)), none, none, none]) rfl ?_
  unfold f_X2_rule
  refine r_aload_n (q := 1) dX2_rule_0 rfl rfl rfl ?_
  refine r_aload_n (q := 2) dX2_rule_1 rfl rfl rfl ?_
  refine r_gR (q := 5) fl_X2_127 rfl dX2_rule_2 rfl (fun x1 => ?_)
  refine r_gI (q := 8) fl_X2_389 dX2_rule_5 rfl (fun x2 => ?_)
  refine r_bipush (q := 10) (v := (8 : Int32)) dX2_rule_8 rfl (by decide) ?_
  refine r_icmp_ge (q := 13) (t := 17) dX2_rule_10 rfl (by decide) (fun _ => ?_) (fun _ => ?_)
  · refine r_iconst (q := 18) (v := (0 : Int32)) dX2_rule_17 rfl (by decide) ?_
    exact r_le (w_X2_rule_b18 G h0 N _ _ _ _) (Nat.le_refl _) (And.intro rfl trivial)
  · refine r_iconst (q := 14) (v := (1 : Int32)) dX2_rule_13 rfl (by decide) ?_
    refine r_goto (q := 18) dX2_rule_14 (by decide) ?_
    exact r_le (w_X2_rule_b18 G h0 N _ _ _ _) (Nat.le_refl _) (And.intro rfl trivial)
theorem c_X2_beginsOnce (G : Gx) (h0 : G0 G) (N : Nat) (a0 : Nat) (i1 : Int32) (σ : Mem) : Ct G mX2_beginsOnce (rhoX rhoV) [vR (some a0), vI i1] σ (f_X2_beginsOnce N a0 i1 σ) := by
  refine Ct_of h0 (by decide) rfl (Nat.le_of_ble_eq_true rfl) (L0 := [some (vR (some a0)), some (vI i1)]) rfl ?_
  unfold f_X2_beginsOnce
  refine r_iload_n (q := 1) dX2_beginsOnce_0 rfl rfl rfl ?_
  refine r_if_eq (q := 4) (t := 10) dX2_beginsOnce_1 rfl (by decide) (fun _ => ?_) (fun _ => ?_)
  · refine r_aload_n (q := 11) dX2_beginsOnce_10 rfl rfl rfl ?_
    refine r_gR (q := 14) fl_X2_127 rfl dX2_beginsOnce_11 rfl (fun x1 => ?_)
    refine r_gI (q := 17) fl_X2_163 dX2_beginsOnce_14 rfl (fun x2 => ?_)
    refine r_if_ne (q := 20) (t := 27) dX2_beginsOnce_17 rfl (by decide) (fun _ => ?_) (fun _ => ?_)
    · refine r_aload_n (q := 21) dX2_beginsOnce_20 rfl rfl rfl ?_
      refine r_bipush (q := 23) (v := (6 : Int32)) dX2_beginsOnce_21 rfl (by decide) ?_
      refine r_ob (fun a8 ha8 => ?_)
      obtain ⟨hea8, hka8⟩ := o_at_eq ha8
      cases hea8
      refine r_callR (q := 26) (c_X2_fail G h0 N _ _ _) (cl_V (ci := 1) rfl rfl (lw_V q742 q744 qs7 q168 q745) (hd_X2_fail) ⟨Nat.le_of_ble_eq_true rfl, Nat.le_of_ble_eq_true rfl⟩ (List.mem_singleton.mp hka8) rfl rfl rfl (Nat.le_of_ble_eq_true rfl) dX2_beginsOnce_23) rfl (fun x6 σ7 => ?_)
      exact r_athrow (ci := 2) (r0 := (RX3, TX3, 8)) rfl rfl dX2_beginsOnce_26
    · refine r_aload_n (q := 28) dX2_beginsOnce_27 rfl rfl rfl ?_
      refine r_ob (fun a5 ha5 => ?_)
      obtain ⟨hea5, hka5⟩ := o_at_eq ha5
      cases hea5
      refine r_callV (q := 31) (c_X2_next G h0 N _ _) (cl_V (ci := 1) rfl rfl (lw_V q644 q646 qs4 q168 q647) (hd_X2_next) ⟨Nat.le_of_ble_eq_true rfl, Nat.le_of_ble_eq_true rfl⟩ (List.mem_singleton.mp hka5) rfl rfl rfl (Nat.le_of_ble_eq_true rfl) dX2_beginsOnce_28) rfl (fun u3 σ4 => ?_)
      exact r_returnX rfl dX2_beginsOnce_31
  · refine r_aload_n (q := 5) dX2_beginsOnce_4 rfl rfl rfl ?_
    refine r_iconst (q := 6) (v := (3 : Int32)) dX2_beginsOnce_5 rfl (by decide) ?_
    refine r_ob (fun a11 ha11 => ?_)
    obtain ⟨hea11, hka11⟩ := o_at_eq ha11
    cases hea11
    refine r_callR (q := 9) (c_X2_fail G h0 N _ _ _) (cl_V (ci := 1) rfl rfl (lw_V q742 q744 qs7 q168 q745) (hd_X2_fail) ⟨Nat.le_of_ble_eq_true rfl, Nat.le_of_ble_eq_true rfl⟩ (List.mem_singleton.mp hka11) rfl rfl rfl (Nat.le_of_ble_eq_true rfl) dX2_beginsOnce_6) rfl (fun x9 σ10 => ?_)
    exact r_athrow (ci := 2) (r0 := (RX3, TX3, 8)) rfl rfl dX2_beginsOnce_9
theorem w_X2_proof_b21B (G : Gx) (h0 : G0 G) (N : Nat)   (K21 : Nat → Int32 → Mem → Option ((Unit ⊕ Ex) × Mem)) (hK21 : ∀ (a0 : Nat) (l1 : Int32) (σ : Mem), Runs G mX2_proof (rhoX rhoV) σ 21 [some (vR (some a0)), some (vI l1), none] [] (K21 a0 l1 σ)) (a0 : Nat) (l1 : Int32) (σ : Mem) : Runs G mX2_proof (rhoX rhoV) σ 21 [some (vR (some a0)), some (vI l1), none] [] (f_X2_proof_b21B N  K21 a0 l1 σ) := by
  unfold f_X2_proof_b21B
  refine r_iload_n (q := 22) dX2_proof_21 rfl rfl rfl ?_
  refine r_if_eq (q := 25) (t := 92) dX2_proof_22 rfl (by decide) (fun _ => ?_) (fun _ => ?_)
  · exact r_returnX rfl dX2_proof_92
  · refine r_aload_n (q := 26) dX2_proof_25 rfl rfl rfl ?_
    refine r_ob (fun a3 ha3 => ?_)
    obtain ⟨hea3, hka3⟩ := o_at_eq ha3
    cases hea3
    refine r_callXR (q := 29) (c_X2_factHere G h0 N _ _) (cl_V (ci := 1) rfl rfl (lw_V q1221 q1223 qs36 q168 q1224) (hd_X2_factHere) ⟨Nat.le_of_ble_eq_true rfl, Nat.le_of_ble_eq_true rfl⟩ (List.mem_singleton.mp hka3) rfl rfl rfl (Nat.le_of_ble_eq_true rfl) dX2_proof_26) rfl rfl (fun x1 σ2 => ?_)
    refine r_astore_n (q := 30) dX2_proof_29 rfl rfl (Nat.le_of_ble_eq_true rfl) rfl ?_
    refine r_aload_n (q := 31) dX2_proof_30 rfl rfl rfl ?_
    refine r_gR (q := 34) fl_X2_127 rfl dX2_proof_31 rfl (fun x4 => ?_)
    refine r_gI (q := 37) fl_X2_411 dX2_proof_34 rfl (fun x5 => ?_)
    refine r_bipush (q := 39) (v := (8 : Int32)) dX2_proof_37 rfl (by decide) ?_
    refine r_icmp_ne (q := 42) (t := 48) dX2_proof_39 rfl (by decide) (fun _ => ?_) (fun _ => ?_)
    · refine r_aload_n (q := 43) dX2_proof_42 rfl rfl rfl ?_
      refine r_iconst (q := 44) (v := (5 : Int32)) dX2_proof_43 rfl (by decide) ?_
      refine r_ob (fun a23 ha23 => ?_)
      obtain ⟨hea23, hka23⟩ := o_at_eq ha23
      cases hea23
      refine r_callR (q := 47) (c_X2_fail G h0 N _ _ _) (cl_V (ci := 1) rfl rfl (lw_V q742 q744 qs7 q168 q745) (hd_X2_fail) ⟨Nat.le_of_ble_eq_true rfl, Nat.le_of_ble_eq_true rfl⟩ (List.mem_singleton.mp hka23) rfl rfl rfl (Nat.le_of_ble_eq_true rfl) dX2_proof_44) rfl (fun x21 σ22 => ?_)
      exact r_athrow (ci := 2) (r0 := (RX3, TX3, 8)) rfl rfl dX2_proof_47
    · refine r_aload_n (q := 49) dX2_proof_48 rfl rfl rfl ?_
      refine r_gR (q := 52) fl_X2_127 rfl dX2_proof_49 rfl (fun x6 => ?_)
      refine r_gR (q := 55) fl_X2_417 rfl dX2_proof_52 rfl (fun x7 => ?_)
      refine r_aload_n (q := 56) dX2_proof_55 rfl rfl rfl ?_
      refine r_gR (q := 59) fl_X2_127 rfl dX2_proof_56 rfl (fun x8 => ?_)
      refine r_gI (q := 62) fl_X2_411 dX2_proof_59 rfl (fun x9 => ?_)
      refine r_aload_n (q := 63) dX2_proof_62 rfl rfl rfl ?_
      refine r_gI (q := 66) fl_X2_397 dX2_proof_63 rfl (fun x10 => ?_)
      refine r_iastore (q := 67) dX2_proof_66 rfl (fun σ11 => ?_)
      refine r_aload_n (q := 68) dX2_proof_67 rfl rfl rfl ?_
      refine r_gR (q := 71) fl_X2_127 rfl dX2_proof_68 rfl (fun x12 => ?_)
      refine r_dup (q := 72) dX2_proof_71 rfl rfl ?_
      refine r_gI (q := 75) fl_X2_411 dX2_proof_72 rfl (fun x13 => ?_)
      refine r_iconst (q := 76) (v := (1 : Int32)) dX2_proof_75 rfl (by decide) ?_
      refine r_iadd (q := 77) dX2_proof_76 rfl ?_
      refine r_pI (q := 80) fp_X2_proof_411 dX2_proof_77 rfl (fun σ14 => ?_)
      refine r_aload_n (q := 81) dX2_proof_80 rfl rfl rfl ?_
      refine r_ob (fun a17 ha17 => ?_)
      obtain ⟨hea17, hka17⟩ := o_at_eq ha17
      cases hea17
      refine r_callV (q := 84) (c_X2_next G h0 N _ _) (cl_V (ci := 1) rfl rfl (lw_V q644 q646 qs4 q168 q647) (hd_X2_next) ⟨Nat.le_of_ble_eq_true rfl, Nat.le_of_ble_eq_true rfl⟩ (List.mem_singleton.mp hka17) rfl rfl rfl (Nat.le_of_ble_eq_true rfl) dX2_proof_81) rfl (fun u15 σ16 => ?_)
      refine r_aload_n (q := 85) dX2_proof_84 rfl rfl rfl ?_
      refine r_ob (fun a20 ha20 => ?_)
      obtain ⟨hea20, hka20⟩ := o_at_eq ha20
      cases hea20
      refine r_callI (q := 88) (c_X2_comma G h0 N _ _) (cl_V (ci := 1) rfl rfl (lw_V q915 q917 qs18 q168 q918) (hd_X2_comma) ⟨Nat.le_of_ble_eq_true rfl, Nat.le_of_ble_eq_true rfl⟩ (List.mem_singleton.mp hka20) rfl rfl rfl (Nat.le_of_ble_eq_true rfl) dX2_proof_85) rfl (fun x18 σ19 => ?_)
      refine r_istore_n (q := 89) dX2_proof_88 rfl rfl (Nat.le_of_ble_eq_true rfl) rfl ?_
      refine r_goto (q := 21) dX2_proof_89 (by decide) ?_
      exact r_le (hK21 _ _ _) (Nat.le_refl _) (And.intro rfl (And.intro rfl trivial))
theorem w_X2_proof_b21 (G : Gx) (h0 : G0 G) (N : Nat)   : ∀ (z : Nat) (a0 : Nat) (l1 : Int32) (σ : Mem), Runs G mX2_proof (rhoX rhoV) σ 21 [some (vR (some a0)), some (vI l1), none] [] (f_X2_proof_b21 N  z a0 l1 σ) := by
  intro z
  induction z with
  | zero => exact fun _ _ _ => r_none
  | succ z ih => exact fun a0 l1 σ => w_X2_proof_b21B G h0 N   _ ih a0 l1 σ
theorem w_X2_proof_b16 (G : Gx) (h0 : G0 G) (N : Nat)   (a0 : Nat) (t0 : Option Nat) (t1 : Int32) (σ : Mem) : Runs G mX2_proof (rhoX rhoV) σ 16 [some (vR (some a0)), none, none] [vI t1, vR t0] (f_X2_proof_b16 N  a0 t0 t1 σ) := by
  unfold f_X2_proof_b16
  refine r_ob (fun a3 ha3 => ?_)
  obtain ⟨hea3, hka3⟩ := o_at_eq ha3
  cases hea3
  refine r_callXV (q := 19) (c_X2_beginsOnce G h0 N _ _ _) (cl_V (ci := 1) rfl rfl (lw_V q1261 q1263 qs40 q168 q1264) (hd_X2_beginsOnce) ⟨Nat.le_of_ble_eq_true rfl, Nat.le_of_ble_eq_true rfl⟩ (List.mem_singleton.mp hka3) rfl rfl rfl (Nat.le_of_ble_eq_true rfl) dX2_proof_16) rfl rfl (fun u1 σ2 => ?_)
  refine r_iconst (q := 20) (v := (1 : Int32)) dX2_proof_19 rfl (by decide) ?_
  refine r_istore_n (q := 21) dX2_proof_20 rfl rfl (Nat.le_of_ble_eq_true rfl) rfl ?_
  exact r_le (w_X2_proof_b21 G h0 N N _ _ _) (Nat.le_refl _) (And.intro rfl (And.intro rfl trivial))
theorem c_X2_proof (G : Gx) (h0 : G0 G) (N : Nat) (a0 : Nat) (σ : Mem) : Ct G mX2_proof (rhoX rhoV) [vR (some a0)] σ (f_X2_proof N a0 σ) := by
  refine Ct_of h0 (by decide) rfl (Nat.le_of_ble_eq_true rfl) (L0 := [some (vR (some a0)), none, none]) rfl ?_
  unfold f_X2_proof
  refine r_aload_n (q := 1) dX2_proof_0 rfl rfl rfl ?_
  refine r_aload_n (q := 2) dX2_proof_1 rfl rfl rfl ?_
  refine r_gR (q := 5) fl_X2_127 rfl dX2_proof_2 rfl (fun x1 => ?_)
  refine r_gI (q := 8) fl_X2_411 dX2_proof_5 rfl (fun x2 => ?_)
  refine r_if_le (q := 11) (t := 15) dX2_proof_8 rfl (by decide) (fun _ => ?_) (fun _ => ?_)
  · refine r_iconst (q := 16) (v := (0 : Int32)) dX2_proof_15 rfl (by decide) ?_
    exact r_le (w_X2_proof_b16 G h0 N _ _ _ _) (Nat.le_refl _) (And.intro rfl trivial)
  · refine r_iconst (q := 12) (v := (1 : Int32)) dX2_proof_11 rfl (by decide) ?_
    refine r_goto (q := 16) dX2_proof_12 (by decide) ?_
    exact r_le (w_X2_proof_b16 G h0 N _ _ _ _) (Nat.le_refl _) (And.intro rfl trivial)
theorem c_X23_init (G : Gx) (h0 : G0 G) (N : Nat) (a0 : Nat) (o1 : Option Nat) (i2 : Int32) (σ : Mem) : Ct G mX23_init rhoV [vR (some a0), vR o1, vI i2] σ (f_X23_init N a0 o1 i2 σ) := by
  refine Ct_of h0 (by decide) rfl (Nat.le_of_ble_eq_true rfl) (L0 := [some (vR (some a0)), some (vR o1), some (vI i2)]) rfl ?_
  unfold f_X23_init
  refine r_aload_n (q := 1) dX23_init_0 rfl rfl rfl ?_
  refine r_aload_n (q := 2) dX23_init_1 rfl rfl rfl ?_
  refine r_iload_n (q := 3) dX23_init_2 rfl rfl rfl ?_
  refine r_callV (q := 6) (c_X9_init G h0 N _ _ _ _) (cl_I rfl rfl rfl rfl q1274 q880 q183 q881 (hd_X9_init) ⟨Nat.le_of_ble_eq_true rfl, Nat.le_of_ble_eq_true rfl⟩ rfl (Nat.le_of_ble_eq_true rfl) dX23_init_3) rfl (fun u1 σ2 => ?_)
  exact r_return rfl dX23_init_6
theorem w_X2_court_b18 (G : Gx) (h0 : G0 G) (N : Nat)   (a0 : Nat) (t0 : Option Nat) (t1 : Int32) (σ : Mem) : Runs G mX2_court (rhoX rhoV) σ 18 [some (vR (some a0)), none] [vI t1, vR t0] (f_X2_court_b18 N  a0 t0 t1 σ) := by
  unfold f_X2_court_b18
  refine r_ob (fun a3 ha3 => ?_)
  obtain ⟨hea3, hka3⟩ := o_at_eq ha3
  cases hea3
  refine r_callXV (q := 21) (c_X2_begins G h0 N _ _ _) (cl_V (ci := 1) rfl rfl (lw_V q853 q855 qs14 q168 q856) (hd_X2_begins) ⟨Nat.le_of_ble_eq_true rfl, Nat.le_of_ble_eq_true rfl⟩ (List.mem_singleton.mp hka3) rfl rfl rfl (Nat.le_of_ble_eq_true rfl) dX2_court_18) rfl rfl (fun u1 σ2 => ?_)
  refine r_new (q := 24) (ci := 19) rfl rfl q1269 q1270 q197 dX2_court_21 rfl (fun a4 σ5 => ?_)
  refine r_dup (q := 25) dX2_court_24 rfl rfl ?_
  refine r_aload_n (q := 26) dX2_court_25 rfl rfl rfl ?_
  refine r_ob (fun a8 ha8 => ?_)
  obtain ⟨hea8, hka8⟩ := o_at_eq ha8
  cases hea8
  refine r_callXR (q := 29) (c_X2_newName G h0 N _ _) (cl_V (ci := 1) rfl rfl (lw_V q859 q861 qs15 q168 q862) (hd_X2_newName) ⟨Nat.le_of_ble_eq_true rfl, Nat.le_of_ble_eq_true rfl⟩ (List.mem_singleton.mp hka8) rfl rfl rfl (Nat.le_of_ble_eq_true rfl) dX2_court_26) rfl rfl (fun x6 σ7 => ?_)
  refine r_aload_n (q := 30) dX2_court_29 rfl rfl rfl ?_
  refine r_gR (q := 33) fl_X2_127 rfl dX2_court_30 rfl (fun x9 => ?_)
  refine r_gI (q := 36) fl_X2_420 dX2_court_33 rfl (fun x10 => ?_)
  refine r_callV (q := 39) (c_X23_init G h0 N _ _ _ _) (cl_I rfl rfl rfl rfl q1271 q1272 q197 q1273 (hd_X23_init) ⟨Nat.le_of_ble_eq_true rfl, Nat.le_of_ble_eq_true rfl⟩ rfl (Nat.le_of_ble_eq_true rfl) dX2_court_36) rfl (fun u11 σ12 => ?_)
  refine r_astore_n (q := 40) dX2_court_39 rfl rfl (Nat.le_of_ble_eq_true rfl) rfl ?_
  refine r_aload_n (q := 41) dX2_court_40 rfl rfl rfl ?_
  refine r_aload_n (q := 42) dX2_court_41 rfl rfl rfl ?_
  refine r_ldcWS (q := 45) (tx := "costs") (cd := 54) (List.mem_of_getElem? (i := 28) rfl) (by decide) dX2_court_42 rfl ?_
  refine r_iconst (q := 46) (v := (0 : Int32)) dX2_court_45 rfl (by decide) ?_
  refine r_bipush (q := 48) (v := (99 : Int32)) dX2_court_46 rfl (by decide) ?_
  refine r_ob (fun a15 ha15 => ?_)
  obtain ⟨hea15, hka15⟩ := o_at_eq ha15
  cases hea15
  refine r_callXI (q := 51) (c_X2_after G h0 N _ _ _ _ _) (cl_V (ci := 1) rfl rfl (lw_V q832 q834 qs9 q168 q835) (hd_X2_after) ⟨Nat.le_of_ble_eq_true rfl, Nat.le_of_ble_eq_true rfl⟩ (List.mem_singleton.mp hka15) rfl rfl rfl (Nat.le_of_ble_eq_true rfl) dX2_court_48) rfl rfl (fun x13 σ14 => ?_)
  refine r_pI (q := 54) fp_X2_court_428 dX2_court_51 rfl (fun σ16 => ?_)
  refine r_aload_n (q := 55) dX2_court_54 rfl rfl rfl ?_
  refine r_aload_n (q := 56) dX2_court_55 rfl rfl rfl ?_
  refine r_ldcWS (q := 59) (tx := "wins") (cd := 56) (List.mem_of_getElem? (i := 29) rfl) (by decide) dX2_court_56 rfl ?_
  refine r_iconst (q := 60) (v := (1 : Int32)) dX2_court_59 rfl (by decide) ?_
  refine r_bipush (q := 62) (v := (9 : Int32)) dX2_court_60 rfl (by decide) ?_
  refine r_ob (fun a19 ha19 => ?_)
  obtain ⟨hea19, hka19⟩ := o_at_eq ha19
  cases hea19
  refine r_callXI (q := 65) (c_X2_after G h0 N _ _ _ _ _) (cl_V (ci := 1) rfl rfl (lw_V q832 q834 qs9 q168 q835) (hd_X2_after) ⟨Nat.le_of_ble_eq_true rfl, Nat.le_of_ble_eq_true rfl⟩ (List.mem_singleton.mp hka19) rfl rfl rfl (Nat.le_of_ble_eq_true rfl) dX2_court_62) rfl rfl (fun x17 σ18 => ?_)
  refine r_pI (q := 68) fp_X2_court_432 dX2_court_65 rfl (fun σ20 => ?_)
  refine r_aload_n (q := 69) dX2_court_68 rfl rfl rfl ?_
  refine r_gR (q := 72) fl_X2_127 rfl dX2_court_69 rfl (fun x21 => ?_)
  refine r_gR (q := 75) fl_X2_434 rfl dX2_court_72 rfl (fun x22 => ?_)
  refine r_aload_n (q := 76) dX2_court_75 rfl rfl rfl ?_
  refine r_gR (q := 79) fl_X2_127 rfl dX2_court_76 rfl (fun x23 => ?_)
  refine r_gI (q := 82) fl_X2_420 dX2_court_79 rfl (fun x24 => ?_)
  refine r_aload_n (q := 83) dX2_court_82 rfl rfl rfl ?_
  refine r_aastore (q := 84) (k0 := 12) (by decide) ia_GoatCourt_Court dX2_court_83 rfl (fun σ25 => ?_)
  refine r_aload_n (q := 85) dX2_court_84 rfl rfl rfl ?_
  refine r_gR (q := 88) fl_X2_127 rfl dX2_court_85 rfl (fun x26 => ?_)
  refine r_dup (q := 89) dX2_court_88 rfl rfl ?_
  refine r_gI (q := 92) fl_X2_420 dX2_court_89 rfl (fun x27 => ?_)
  refine r_iconst (q := 93) (v := (1 : Int32)) dX2_court_92 rfl (by decide) ?_
  refine r_iadd (q := 94) dX2_court_93 rfl ?_
  refine r_pI (q := 97) fp_X2_court_420 dX2_court_94 rfl (fun σ28 => ?_)
  exact r_returnX rfl dX2_court_97
theorem c_X2_court (G : Gx) (h0 : G0 G) (N : Nat) (a0 : Nat) (σ : Mem) : Ct G mX2_court (rhoX rhoV) [vR (some a0)] σ (f_X2_court N a0 σ) := by
  refine Ct_of h0 (by decide) rfl (Nat.le_of_ble_eq_true rfl) (L0 := [some (vR (some a0)), none]) rfl ?_
  unfold f_X2_court
  refine r_aload_n (q := 1) dX2_court_0 rfl rfl rfl ?_
  refine r_aload_n (q := 2) dX2_court_1 rfl rfl rfl ?_
  refine r_gR (q := 5) fl_X2_127 rfl dX2_court_2 rfl (fun x1 => ?_)
  refine r_gI (q := 8) fl_X2_420 dX2_court_5 rfl (fun x2 => ?_)
  refine r_bipush (q := 10) (v := (6 : Int32)) dX2_court_8 rfl (by decide) ?_
  refine r_icmp_ge (q := 13) (t := 17) dX2_court_10 rfl (by decide) (fun _ => ?_) (fun _ => ?_)
  · refine r_iconst (q := 18) (v := (0 : Int32)) dX2_court_17 rfl (by decide) ?_
    exact r_le (w_X2_court_b18 G h0 N _ _ _ _) (Nat.le_refl _) (And.intro rfl trivial)
  · refine r_iconst (q := 14) (v := (1 : Int32)) dX2_court_13 rfl (by decide) ?_
    refine r_goto (q := 18) dX2_court_14 (by decide) ?_
    exact r_le (w_X2_court_b18 G h0 N _ _ _ _) (Nat.le_refl _) (And.intro rfl trivial)
theorem c_X2_cheese (G : Gx) (h0 : G0 G) (N : Nat) (a0 : Nat) (σ : Mem) : Ct G mX2_cheese (rhoX rhoV) [vR (some a0)] σ (f_X2_cheese N a0 σ) := by
  refine Ct_of h0 (by decide) rfl (Nat.le_of_ble_eq_true rfl) (L0 := [some (vR (some a0))]) rfl ?_
  unfold f_X2_cheese
  refine r_aload_n (q := 1) dX2_cheese_0 rfl rfl rfl ?_
  refine r_aload_n (q := 2) dX2_cheese_1 rfl rfl rfl ?_
  refine r_gR (q := 5) fl_X2_127 rfl dX2_cheese_2 rfl (fun x1 => ?_)
  refine r_gI (q := 8) fl_X2_438 dX2_cheese_5 rfl (fun x2 => ?_)
  refine r_ob (fun a5 ha5 => ?_)
  obtain ⟨hea5, hka5⟩ := o_at_eq ha5
  cases hea5
  refine r_callXV (q := 11) (c_X2_beginsOnce G h0 N _ _ _) (cl_V (ci := 1) rfl rfl (lw_V q1261 q1263 qs40 q168 q1264) (hd_X2_beginsOnce) ⟨Nat.le_of_ble_eq_true rfl, Nat.le_of_ble_eq_true rfl⟩ (List.mem_singleton.mp hka5) rfl rfl rfl (Nat.le_of_ble_eq_true rfl) dX2_cheese_8) rfl rfl (fun u3 σ4 => ?_)
  refine r_aload_n (q := 12) dX2_cheese_11 rfl rfl rfl ?_
  refine r_aload_n (q := 13) dX2_cheese_12 rfl rfl rfl ?_
  refine r_gR (q := 16) fl_X2_127 rfl dX2_cheese_13 rfl (fun x6 => ?_)
  refine r_gR (q := 19) fl_X2_441 rfl dX2_cheese_16 rfl (fun x7 => ?_)
  refine r_bipush (q := 21) (v := (99 : Int32)) dX2_cheese_19 rfl (by decide) ?_
  refine r_ob (fun a10 ha10 => ?_)
  obtain ⟨hea10, hka10⟩ := o_at_eq ha10
  cases hea10
  refine r_callXV (q := 24) (c_X2_numbers G h0 N _ _ _ _) (cl_V (ci := 1) rfl rfl (lw_V q911 q913 qs17 q168 q914) (hd_X2_numbers) ⟨Nat.le_of_ble_eq_true rfl, Nat.le_of_ble_eq_true rfl⟩ (List.mem_singleton.mp hka10) rfl rfl rfl (Nat.le_of_ble_eq_true rfl) dX2_cheese_21) rfl rfl (fun u8 σ9 => ?_)
  refine r_aload_n (q := 25) dX2_cheese_24 rfl rfl rfl ?_
  refine r_gR (q := 28) fl_X2_127 rfl dX2_cheese_25 rfl (fun x11 => ?_)
  refine r_iconst (q := 29) (v := (1 : Int32)) dX2_cheese_28 rfl (by decide) ?_
  refine r_pI (q := 32) fp_X2_cheese_438 dX2_cheese_29 rfl (fun σ12 => ?_)
  exact r_returnX rfl dX2_cheese_32
