/-! the walks of J7_vectorizedHashCode J6_hashCode J3_hashCode J6_equals J3_equals X2_takes X2_must X2_number X2_after X2_hillLine X2_begins X2_mustName X8_among X8_find X2_newName X9_init X10_init X2_comma X2_numbers X2_placeLine X2_found X2_placeHere X2_place X8_path X2_path X11_init X2_person X2_personHere X11_begin X11_size X11_add X2_story X12_init X13_init X14_init -/
set_option maxRecDepth 100000
def dkwJ7_vectorizedHashCode_6 : List UInt8 := [183, 0, 91, 18, 92, 182, 0, 94, 21, 4, 182, 0, 98, 182, 0, 101, 183, 0, 105, 191, 172]
abbrev dktJ7_vectorizedHashCode_6 : List UInt8 := dkwJ7_vectorizedHashCode_6 ++ []
def dkwJ7_vectorizedHashCode_5 : List UInt8 := [167, 0, 44, 29, 42, 192, 0, 82, 27, 28, 184, 0, 84, 167, 0, 31, 187, 0, 87, 89, 187, 0, 89, 89]
abbrev dktJ7_vectorizedHashCode_5 : List UInt8 := dkwJ7_vectorizedHashCode_5 ++ dktJ7_vectorizedHashCode_6
def dkwJ7_vectorizedHashCode_4 : List UInt8 := [29, 42, 192, 0, 60, 27, 28, 184, 0, 75, 167, 0, 57, 29, 42, 192, 0, 77, 27, 28, 184, 0, 79]
abbrev dktJ7_vectorizedHashCode_4 : List UInt8 := dkwJ7_vectorizedHashCode_4 ++ dktJ7_vectorizedHashCode_5
def dkwJ7_vectorizedHashCode_3 : List UInt8 := [192, 0, 60, 27, 28, 184, 0, 66, 167, 0, 83, 29, 42, 192, 0, 69, 27, 28, 184, 0, 71, 167, 0, 70]
abbrev dktJ7_vectorizedHashCode_3 : List UInt8 := dkwJ7_vectorizedHashCode_3 ++ dktJ7_vectorizedHashCode_4
def dkwJ7_vectorizedHashCode_2 : List UInt8 := [29, 42, 192, 0, 60, 27, 28, 184, 0, 62, 167, 0, 103, 42, 193, 0, 60, 153, 0, 16, 29, 42]
abbrev dktJ7_vectorizedHashCode_2 : List UInt8 := dkwJ7_vectorizedHashCode_2 ++ dktJ7_vectorizedHashCode_3
def dkwJ7_vectorizedHashCode_1 : List UInt8 := [170, 0, 0, 0, 0, 127, 0, 0, 0, 4, 0, 0, 0, 10, 0, 0, 0, 42, 0, 0, 0, 55, 0, 0, 0, 127, 0, 0, 0, 127, 0, 0, 0, 88, 0, 0, 0, 101, 0, 0, 0, 114]
abbrev dktJ7_vectorizedHashCode_1 : List UInt8 := dkwJ7_vectorizedHashCode_1 ++ dktJ7_vectorizedHashCode_2
def dkwJ7_vectorizedHashCode_0 : List UInt8 := [21, 4]
abbrev dktJ7_vectorizedHashCode_0 : List UInt8 := dkwJ7_vectorizedHashCode_0 ++ dktJ7_vectorizedHashCode_1
theorem dksJ7_vectorizedHashCode_0 : cJ7_vectorizedHashCode.data.toList.drop 0 = dktJ7_vectorizedHashCode_0 := by decide +kernel
theorem dksJ7_vectorizedHashCode_1 : cJ7_vectorizedHashCode.data.toList.drop 2 = dktJ7_vectorizedHashCode_1 := dk_seg dksJ7_vectorizedHashCode_0 2 rfl rfl
theorem dksJ7_vectorizedHashCode_2 : cJ7_vectorizedHashCode.data.toList.drop 44 = dktJ7_vectorizedHashCode_2 := dk_seg dksJ7_vectorizedHashCode_1 42 rfl rfl
theorem dksJ7_vectorizedHashCode_3 : cJ7_vectorizedHashCode.data.toList.drop 66 = dktJ7_vectorizedHashCode_3 := dk_seg dksJ7_vectorizedHashCode_2 22 rfl rfl
theorem dksJ7_vectorizedHashCode_4 : cJ7_vectorizedHashCode.data.toList.drop 90 = dktJ7_vectorizedHashCode_4 := dk_seg dksJ7_vectorizedHashCode_3 24 rfl rfl
theorem dksJ7_vectorizedHashCode_5 : cJ7_vectorizedHashCode.data.toList.drop 113 = dktJ7_vectorizedHashCode_5 := dk_seg dksJ7_vectorizedHashCode_4 23 rfl rfl
theorem dksJ7_vectorizedHashCode_6 : cJ7_vectorizedHashCode.data.toList.drop 137 = dktJ7_vectorizedHashCode_6 := dk_seg dksJ7_vectorizedHashCode_5 24 rfl rfl
theorem dJ7_vectorizedHashCode_0 : decode cJ7_vectorizedHashCode 0 = .ok (.iload 4, 2) := dk_21 4 (dk_at dksJ7_vectorizedHashCode_0 0 rfl rfl)
theorem dJ7_vectorizedHashCode_2 : decode cJ7_vectorizedHashCode 2 = .ok (.tableswitch 127 4 10 #[42, 55, 127, 127, 88, 101, 114], 42) := by decide +kernel
theorem dJ7_vectorizedHashCode_44 : decode cJ7_vectorizedHashCode 44 = .ok (.iload_n 3, 1) := dk_29 (dk_at dksJ7_vectorizedHashCode_2 0 rfl rfl)
theorem dJ7_vectorizedHashCode_45 : decode cJ7_vectorizedHashCode 45 = .ok (.aload_n 0, 1) := dk_42 (dk_at dksJ7_vectorizedHashCode_2 1 rfl rfl)
theorem dJ7_vectorizedHashCode_46 : decode cJ7_vectorizedHashCode 46 = .ok (.checkcast 60, 3) := dk_192 0 60 (dk_at dksJ7_vectorizedHashCode_2 2 rfl rfl)
theorem dJ7_vectorizedHashCode_49 : decode cJ7_vectorizedHashCode 49 = .ok (.iload_n 1, 1) := dk_27 (dk_at dksJ7_vectorizedHashCode_2 5 rfl rfl)
theorem dJ7_vectorizedHashCode_50 : decode cJ7_vectorizedHashCode 50 = .ok (.iload_n 2, 1) := dk_28 (dk_at dksJ7_vectorizedHashCode_2 6 rfl rfl)
theorem dJ7_vectorizedHashCode_51 : decode cJ7_vectorizedHashCode 51 = .ok (.invokestatic 62, 3) := dk_184 0 62 (dk_at dksJ7_vectorizedHashCode_2 7 rfl rfl)
theorem dJ7_vectorizedHashCode_54 : decode cJ7_vectorizedHashCode 54 = .ok (.goto 103, 3) := dk_167 0 103 (dk_at dksJ7_vectorizedHashCode_2 10 rfl rfl)
theorem dJ7_vectorizedHashCode_57 : decode cJ7_vectorizedHashCode 57 = .ok (.aload_n 0, 1) := dk_42 (dk_at dksJ7_vectorizedHashCode_2 13 rfl rfl)
theorem dJ7_vectorizedHashCode_58 : decode cJ7_vectorizedHashCode 58 = .ok (.instanceof 60, 3) := dk_193 0 60 (dk_at dksJ7_vectorizedHashCode_2 14 rfl rfl)
theorem dJ7_vectorizedHashCode_61 : decode cJ7_vectorizedHashCode 61 = .ok (.ifCond .eq 16, 3) := dk_153 0 16 (dk_at dksJ7_vectorizedHashCode_2 17 rfl rfl)
theorem dJ7_vectorizedHashCode_64 : decode cJ7_vectorizedHashCode 64 = .ok (.iload_n 3, 1) := dk_29 (dk_at dksJ7_vectorizedHashCode_2 20 rfl rfl)
theorem dJ7_vectorizedHashCode_65 : decode cJ7_vectorizedHashCode 65 = .ok (.aload_n 0, 1) := dk_42 (dk_at dksJ7_vectorizedHashCode_2 21 rfl rfl)
theorem dJ7_vectorizedHashCode_66 : decode cJ7_vectorizedHashCode 66 = .ok (.checkcast 60, 3) := dk_192 0 60 (dk_at dksJ7_vectorizedHashCode_3 0 rfl rfl)
theorem dJ7_vectorizedHashCode_69 : decode cJ7_vectorizedHashCode 69 = .ok (.iload_n 1, 1) := dk_27 (dk_at dksJ7_vectorizedHashCode_3 3 rfl rfl)
theorem dJ7_vectorizedHashCode_70 : decode cJ7_vectorizedHashCode 70 = .ok (.iload_n 2, 1) := dk_28 (dk_at dksJ7_vectorizedHashCode_3 4 rfl rfl)
theorem dJ7_vectorizedHashCode_71 : decode cJ7_vectorizedHashCode 71 = .ok (.invokestatic 66, 3) := dk_184 0 66 (dk_at dksJ7_vectorizedHashCode_3 5 rfl rfl)
theorem dJ7_vectorizedHashCode_74 : decode cJ7_vectorizedHashCode 74 = .ok (.goto 83, 3) := dk_167 0 83 (dk_at dksJ7_vectorizedHashCode_3 8 rfl rfl)
theorem dJ7_vectorizedHashCode_77 : decode cJ7_vectorizedHashCode 77 = .ok (.iload_n 3, 1) := dk_29 (dk_at dksJ7_vectorizedHashCode_3 11 rfl rfl)
theorem dJ7_vectorizedHashCode_78 : decode cJ7_vectorizedHashCode 78 = .ok (.aload_n 0, 1) := dk_42 (dk_at dksJ7_vectorizedHashCode_3 12 rfl rfl)
theorem dJ7_vectorizedHashCode_79 : decode cJ7_vectorizedHashCode 79 = .ok (.checkcast 69, 3) := dk_192 0 69 (dk_at dksJ7_vectorizedHashCode_3 13 rfl rfl)
theorem dJ7_vectorizedHashCode_82 : decode cJ7_vectorizedHashCode 82 = .ok (.iload_n 1, 1) := dk_27 (dk_at dksJ7_vectorizedHashCode_3 16 rfl rfl)
theorem dJ7_vectorizedHashCode_83 : decode cJ7_vectorizedHashCode 83 = .ok (.iload_n 2, 1) := dk_28 (dk_at dksJ7_vectorizedHashCode_3 17 rfl rfl)
theorem dJ7_vectorizedHashCode_84 : decode cJ7_vectorizedHashCode 84 = .ok (.invokestatic 71, 3) := dk_184 0 71 (dk_at dksJ7_vectorizedHashCode_3 18 rfl rfl)
theorem dJ7_vectorizedHashCode_87 : decode cJ7_vectorizedHashCode 87 = .ok (.goto 70, 3) := dk_167 0 70 (dk_at dksJ7_vectorizedHashCode_3 21 rfl rfl)
theorem dJ7_vectorizedHashCode_90 : decode cJ7_vectorizedHashCode 90 = .ok (.iload_n 3, 1) := dk_29 (dk_at dksJ7_vectorizedHashCode_4 0 rfl rfl)
theorem dJ7_vectorizedHashCode_91 : decode cJ7_vectorizedHashCode 91 = .ok (.aload_n 0, 1) := dk_42 (dk_at dksJ7_vectorizedHashCode_4 1 rfl rfl)
theorem dJ7_vectorizedHashCode_92 : decode cJ7_vectorizedHashCode 92 = .ok (.checkcast 60, 3) := dk_192 0 60 (dk_at dksJ7_vectorizedHashCode_4 2 rfl rfl)
theorem dJ7_vectorizedHashCode_95 : decode cJ7_vectorizedHashCode 95 = .ok (.iload_n 1, 1) := dk_27 (dk_at dksJ7_vectorizedHashCode_4 5 rfl rfl)
theorem dJ7_vectorizedHashCode_96 : decode cJ7_vectorizedHashCode 96 = .ok (.iload_n 2, 1) := dk_28 (dk_at dksJ7_vectorizedHashCode_4 6 rfl rfl)
theorem dJ7_vectorizedHashCode_97 : decode cJ7_vectorizedHashCode 97 = .ok (.invokestatic 75, 3) := dk_184 0 75 (dk_at dksJ7_vectorizedHashCode_4 7 rfl rfl)
theorem dJ7_vectorizedHashCode_100 : decode cJ7_vectorizedHashCode 100 = .ok (.goto 57, 3) := dk_167 0 57 (dk_at dksJ7_vectorizedHashCode_4 10 rfl rfl)
theorem dJ7_vectorizedHashCode_103 : decode cJ7_vectorizedHashCode 103 = .ok (.iload_n 3, 1) := dk_29 (dk_at dksJ7_vectorizedHashCode_4 13 rfl rfl)
theorem dJ7_vectorizedHashCode_104 : decode cJ7_vectorizedHashCode 104 = .ok (.aload_n 0, 1) := dk_42 (dk_at dksJ7_vectorizedHashCode_4 14 rfl rfl)
theorem dJ7_vectorizedHashCode_105 : decode cJ7_vectorizedHashCode 105 = .ok (.checkcast 77, 3) := dk_192 0 77 (dk_at dksJ7_vectorizedHashCode_4 15 rfl rfl)
theorem dJ7_vectorizedHashCode_108 : decode cJ7_vectorizedHashCode 108 = .ok (.iload_n 1, 1) := dk_27 (dk_at dksJ7_vectorizedHashCode_4 18 rfl rfl)
theorem dJ7_vectorizedHashCode_109 : decode cJ7_vectorizedHashCode 109 = .ok (.iload_n 2, 1) := dk_28 (dk_at dksJ7_vectorizedHashCode_4 19 rfl rfl)
theorem dJ7_vectorizedHashCode_110 : decode cJ7_vectorizedHashCode 110 = .ok (.invokestatic 79, 3) := dk_184 0 79 (dk_at dksJ7_vectorizedHashCode_4 20 rfl rfl)
theorem dJ7_vectorizedHashCode_113 : decode cJ7_vectorizedHashCode 113 = .ok (.goto 44, 3) := dk_167 0 44 (dk_at dksJ7_vectorizedHashCode_5 0 rfl rfl)
theorem dJ7_vectorizedHashCode_116 : decode cJ7_vectorizedHashCode 116 = .ok (.iload_n 3, 1) := dk_29 (dk_at dksJ7_vectorizedHashCode_5 3 rfl rfl)
theorem dJ7_vectorizedHashCode_117 : decode cJ7_vectorizedHashCode 117 = .ok (.aload_n 0, 1) := dk_42 (dk_at dksJ7_vectorizedHashCode_5 4 rfl rfl)
theorem dJ7_vectorizedHashCode_118 : decode cJ7_vectorizedHashCode 118 = .ok (.checkcast 82, 3) := dk_192 0 82 (dk_at dksJ7_vectorizedHashCode_5 5 rfl rfl)
theorem dJ7_vectorizedHashCode_121 : decode cJ7_vectorizedHashCode 121 = .ok (.iload_n 1, 1) := dk_27 (dk_at dksJ7_vectorizedHashCode_5 8 rfl rfl)
theorem dJ7_vectorizedHashCode_122 : decode cJ7_vectorizedHashCode 122 = .ok (.iload_n 2, 1) := dk_28 (dk_at dksJ7_vectorizedHashCode_5 9 rfl rfl)
theorem dJ7_vectorizedHashCode_123 : decode cJ7_vectorizedHashCode 123 = .ok (.invokestatic 84, 3) := dk_184 0 84 (dk_at dksJ7_vectorizedHashCode_5 10 rfl rfl)
theorem dJ7_vectorizedHashCode_126 : decode cJ7_vectorizedHashCode 126 = .ok (.goto 31, 3) := dk_167 0 31 (dk_at dksJ7_vectorizedHashCode_5 13 rfl rfl)
theorem dJ7_vectorizedHashCode_129 : decode cJ7_vectorizedHashCode 129 = .ok (.new 87, 3) := dk_187 0 87 (dk_at dksJ7_vectorizedHashCode_5 16 rfl rfl)
theorem dJ7_vectorizedHashCode_132 : decode cJ7_vectorizedHashCode 132 = .ok (.dup, 1) := dk_89 (dk_at dksJ7_vectorizedHashCode_5 19 rfl rfl)
theorem dJ7_vectorizedHashCode_133 : decode cJ7_vectorizedHashCode 133 = .ok (.new 89, 3) := dk_187 0 89 (dk_at dksJ7_vectorizedHashCode_5 20 rfl rfl)
theorem dJ7_vectorizedHashCode_136 : decode cJ7_vectorizedHashCode 136 = .ok (.dup, 1) := dk_89 (dk_at dksJ7_vectorizedHashCode_5 23 rfl rfl)
theorem dJ7_vectorizedHashCode_137 : decode cJ7_vectorizedHashCode 137 = .ok (.invokespecial 91, 3) := dk_183 0 91 (dk_at dksJ7_vectorizedHashCode_6 0 rfl rfl)
theorem dJ7_vectorizedHashCode_140 : decode cJ7_vectorizedHashCode 140 = .ok (.ldc 92, 2) := dk_18 92 (dk_at dksJ7_vectorizedHashCode_6 3 rfl rfl)
theorem dJ7_vectorizedHashCode_142 : decode cJ7_vectorizedHashCode 142 = .ok (.invokevirtual 94, 3) := dk_182 0 94 (dk_at dksJ7_vectorizedHashCode_6 5 rfl rfl)
theorem dJ7_vectorizedHashCode_145 : decode cJ7_vectorizedHashCode 145 = .ok (.iload 4, 2) := dk_21 4 (dk_at dksJ7_vectorizedHashCode_6 8 rfl rfl)
theorem dJ7_vectorizedHashCode_147 : decode cJ7_vectorizedHashCode 147 = .ok (.invokevirtual 98, 3) := dk_182 0 98 (dk_at dksJ7_vectorizedHashCode_6 10 rfl rfl)
theorem dJ7_vectorizedHashCode_150 : decode cJ7_vectorizedHashCode 150 = .ok (.invokevirtual 101, 3) := dk_182 0 101 (dk_at dksJ7_vectorizedHashCode_6 13 rfl rfl)
theorem dJ7_vectorizedHashCode_153 : decode cJ7_vectorizedHashCode 153 = .ok (.invokespecial 105, 3) := dk_183 0 105 (dk_at dksJ7_vectorizedHashCode_6 16 rfl rfl)
theorem dJ7_vectorizedHashCode_156 : decode cJ7_vectorizedHashCode 156 = .ok (.athrow, 1) := dk_191 (dk_at dksJ7_vectorizedHashCode_6 19 rfl rfl)
theorem dJ7_vectorizedHashCode_157 : decode cJ7_vectorizedHashCode 157 = .ok (.ireturn, 1) := dk_172 (dk_at dksJ7_vectorizedHashCode_6 20 rfl rfl)
def dkwJ6_hashCode_2 : List UInt8 := [3, 167, 0, 22, 42, 3, 51, 17, 0, 255, 126, 167, 0, 12, 42, 3, 42, 190, 3, 7, 184, 0, 84, 172]
abbrev dktJ6_hashCode_2 : List UInt8 := dkwJ6_hashCode_2 ++ []
def dkwJ6_hashCode_1 : List UInt8 := [171, 0, 0, 0, 0, 40, 0, 0, 0, 2, 0, 0, 0, 0, 0, 0, 0, 26, 0, 0, 0, 1, 0, 0, 0, 30]
abbrev dktJ6_hashCode_1 : List UInt8 := dkwJ6_hashCode_1 ++ dktJ6_hashCode_2
def dkwJ6_hashCode_0 : List UInt8 := [42, 190]
abbrev dktJ6_hashCode_0 : List UInt8 := dkwJ6_hashCode_0 ++ dktJ6_hashCode_1
theorem dksJ6_hashCode_0 : cJ6_hashCode.data.toList.drop 0 = dktJ6_hashCode_0 := by decide +kernel
theorem dksJ6_hashCode_1 : cJ6_hashCode.data.toList.drop 2 = dktJ6_hashCode_1 := dk_seg dksJ6_hashCode_0 2 rfl rfl
theorem dksJ6_hashCode_2 : cJ6_hashCode.data.toList.drop 28 = dktJ6_hashCode_2 := dk_seg dksJ6_hashCode_1 26 rfl rfl
theorem dJ6_hashCode_0 : decode cJ6_hashCode 0 = .ok (.aload_n 0, 1) := dk_42 (dk_at dksJ6_hashCode_0 0 rfl rfl)
theorem dJ6_hashCode_1 : decode cJ6_hashCode 1 = .ok (.arraylength, 1) := dk_190 (dk_at dksJ6_hashCode_0 1 rfl rfl)
theorem dJ6_hashCode_2 : decode cJ6_hashCode 2 = .ok (.lookupswitch 40 #[(0, 26), (1, 30)], 26) := by decide +kernel
theorem dJ6_hashCode_28 : decode cJ6_hashCode 28 = .ok (.iconst 0, 1) := dk_3 (dk_at dksJ6_hashCode_2 0 rfl rfl)
theorem dJ6_hashCode_29 : decode cJ6_hashCode 29 = .ok (.goto 22, 3) := dk_167 0 22 (dk_at dksJ6_hashCode_2 1 rfl rfl)
theorem dJ6_hashCode_32 : decode cJ6_hashCode 32 = .ok (.aload_n 0, 1) := dk_42 (dk_at dksJ6_hashCode_2 4 rfl rfl)
theorem dJ6_hashCode_33 : decode cJ6_hashCode 33 = .ok (.iconst 0, 1) := dk_3 (dk_at dksJ6_hashCode_2 5 rfl rfl)
theorem dJ6_hashCode_34 : decode cJ6_hashCode 34 = .ok (.baload, 1) := dk_51 (dk_at dksJ6_hashCode_2 6 rfl rfl)
theorem dJ6_hashCode_35 : decode cJ6_hashCode 35 = .ok (.sipush 255, 3) := dk_17 0 255 (dk_at dksJ6_hashCode_2 7 rfl rfl)
theorem dJ6_hashCode_38 : decode cJ6_hashCode 38 = .ok (.iand, 1) := dk_126 (dk_at dksJ6_hashCode_2 10 rfl rfl)
theorem dJ6_hashCode_39 : decode cJ6_hashCode 39 = .ok (.goto 12, 3) := dk_167 0 12 (dk_at dksJ6_hashCode_2 11 rfl rfl)
theorem dJ6_hashCode_42 : decode cJ6_hashCode 42 = .ok (.aload_n 0, 1) := dk_42 (dk_at dksJ6_hashCode_2 14 rfl rfl)
theorem dJ6_hashCode_43 : decode cJ6_hashCode 43 = .ok (.iconst 0, 1) := dk_3 (dk_at dksJ6_hashCode_2 15 rfl rfl)
theorem dJ6_hashCode_44 : decode cJ6_hashCode 44 = .ok (.aload_n 0, 1) := dk_42 (dk_at dksJ6_hashCode_2 16 rfl rfl)
theorem dJ6_hashCode_45 : decode cJ6_hashCode 45 = .ok (.arraylength, 1) := dk_190 (dk_at dksJ6_hashCode_2 17 rfl rfl)
theorem dJ6_hashCode_46 : decode cJ6_hashCode 46 = .ok (.iconst 0, 1) := dk_3 (dk_at dksJ6_hashCode_2 18 rfl rfl)
theorem dJ6_hashCode_47 : decode cJ6_hashCode 47 = .ok (.iconst 4, 1) := dk_7 (dk_at dksJ6_hashCode_2 19 rfl rfl)
theorem dJ6_hashCode_48 : decode cJ6_hashCode 48 = .ok (.invokestatic 84, 3) := dk_184 0 84 (dk_at dksJ6_hashCode_2 20 rfl rfl)
theorem dJ6_hashCode_51 : decode cJ6_hashCode 51 = .ok (.ireturn, 1) := dk_172 (dk_at dksJ6_hashCode_2 23 rfl rfl)
def dkwJ3_hashCode_2 : List UInt8 := [181, 0, 23, 167, 0, 8, 42, 27, 181, 0, 19, 27, 172]
abbrev dktJ3_hashCode_2 : List UInt8 := dkwJ3_hashCode_2 ++ []
def dkwJ3_hashCode_1 : List UInt8 := [180, 0, 9, 184, 2, 116, 167, 0, 10, 42, 180, 0, 9, 184, 2, 120, 60, 27, 154, 0, 11, 42, 4]
abbrev dktJ3_hashCode_1 : List UInt8 := dkwJ3_hashCode_1 ++ dktJ3_hashCode_2
def dkwJ3_hashCode_0 : List UInt8 := [42, 180, 0, 19, 60, 27, 154, 0, 52, 42, 180, 0, 23, 154, 0, 45, 42, 182, 1, 236, 153, 0, 13, 42]
abbrev dktJ3_hashCode_0 : List UInt8 := dkwJ3_hashCode_0 ++ dktJ3_hashCode_1
theorem dksJ3_hashCode_0 : cJ3_hashCode.data.toList.drop 0 = dktJ3_hashCode_0 := by decide +kernel
theorem dksJ3_hashCode_1 : cJ3_hashCode.data.toList.drop 24 = dktJ3_hashCode_1 := dk_seg dksJ3_hashCode_0 24 rfl rfl
theorem dksJ3_hashCode_2 : cJ3_hashCode.data.toList.drop 47 = dktJ3_hashCode_2 := dk_seg dksJ3_hashCode_1 23 rfl rfl
theorem dJ3_hashCode_0 : decode cJ3_hashCode 0 = .ok (.aload_n 0, 1) := dk_42 (dk_at dksJ3_hashCode_0 0 rfl rfl)
theorem dJ3_hashCode_1 : decode cJ3_hashCode 1 = .ok (.getfield 19, 3) := dk_180 0 19 (dk_at dksJ3_hashCode_0 1 rfl rfl)
theorem dJ3_hashCode_4 : decode cJ3_hashCode 4 = .ok (.istore_n 1, 1) := dk_60 (dk_at dksJ3_hashCode_0 4 rfl rfl)
theorem dJ3_hashCode_5 : decode cJ3_hashCode 5 = .ok (.iload_n 1, 1) := dk_27 (dk_at dksJ3_hashCode_0 5 rfl rfl)
theorem dJ3_hashCode_6 : decode cJ3_hashCode 6 = .ok (.ifCond .ne 52, 3) := dk_154 0 52 (dk_at dksJ3_hashCode_0 6 rfl rfl)
theorem dJ3_hashCode_9 : decode cJ3_hashCode 9 = .ok (.aload_n 0, 1) := dk_42 (dk_at dksJ3_hashCode_0 9 rfl rfl)
theorem dJ3_hashCode_10 : decode cJ3_hashCode 10 = .ok (.getfield 23, 3) := dk_180 0 23 (dk_at dksJ3_hashCode_0 10 rfl rfl)
theorem dJ3_hashCode_13 : decode cJ3_hashCode 13 = .ok (.ifCond .ne 45, 3) := dk_154 0 45 (dk_at dksJ3_hashCode_0 13 rfl rfl)
theorem dJ3_hashCode_16 : decode cJ3_hashCode 16 = .ok (.aload_n 0, 1) := dk_42 (dk_at dksJ3_hashCode_0 16 rfl rfl)
theorem dJ3_hashCode_17 : decode cJ3_hashCode 17 = .ok (.invokevirtual 492, 3) := dk_182 1 236 (dk_at dksJ3_hashCode_0 17 rfl rfl)
theorem dJ3_hashCode_20 : decode cJ3_hashCode 20 = .ok (.ifCond .eq 13, 3) := dk_153 0 13 (dk_at dksJ3_hashCode_0 20 rfl rfl)
theorem dJ3_hashCode_23 : decode cJ3_hashCode 23 = .ok (.aload_n 0, 1) := dk_42 (dk_at dksJ3_hashCode_0 23 rfl rfl)
theorem dJ3_hashCode_24 : decode cJ3_hashCode 24 = .ok (.getfield 9, 3) := dk_180 0 9 (dk_at dksJ3_hashCode_1 0 rfl rfl)
theorem dJ3_hashCode_27 : decode cJ3_hashCode 27 = .ok (.invokestatic 628, 3) := dk_184 2 116 (dk_at dksJ3_hashCode_1 3 rfl rfl)
theorem dJ3_hashCode_30 : decode cJ3_hashCode 30 = .ok (.goto 10, 3) := dk_167 0 10 (dk_at dksJ3_hashCode_1 6 rfl rfl)
theorem dJ3_hashCode_33 : decode cJ3_hashCode 33 = .ok (.aload_n 0, 1) := dk_42 (dk_at dksJ3_hashCode_1 9 rfl rfl)
theorem dJ3_hashCode_34 : decode cJ3_hashCode 34 = .ok (.getfield 9, 3) := dk_180 0 9 (dk_at dksJ3_hashCode_1 10 rfl rfl)
theorem dJ3_hashCode_37 : decode cJ3_hashCode 37 = .ok (.invokestatic 632, 3) := dk_184 2 120 (dk_at dksJ3_hashCode_1 13 rfl rfl)
theorem dJ3_hashCode_40 : decode cJ3_hashCode 40 = .ok (.istore_n 1, 1) := dk_60 (dk_at dksJ3_hashCode_1 16 rfl rfl)
theorem dJ3_hashCode_41 : decode cJ3_hashCode 41 = .ok (.iload_n 1, 1) := dk_27 (dk_at dksJ3_hashCode_1 17 rfl rfl)
theorem dJ3_hashCode_42 : decode cJ3_hashCode 42 = .ok (.ifCond .ne 11, 3) := dk_154 0 11 (dk_at dksJ3_hashCode_1 18 rfl rfl)
theorem dJ3_hashCode_45 : decode cJ3_hashCode 45 = .ok (.aload_n 0, 1) := dk_42 (dk_at dksJ3_hashCode_1 21 rfl rfl)
theorem dJ3_hashCode_46 : decode cJ3_hashCode 46 = .ok (.iconst 1, 1) := dk_4 (dk_at dksJ3_hashCode_1 22 rfl rfl)
theorem dJ3_hashCode_47 : decode cJ3_hashCode 47 = .ok (.putfield 23, 3) := dk_181 0 23 (dk_at dksJ3_hashCode_2 0 rfl rfl)
theorem dJ3_hashCode_50 : decode cJ3_hashCode 50 = .ok (.goto 8, 3) := dk_167 0 8 (dk_at dksJ3_hashCode_2 3 rfl rfl)
theorem dJ3_hashCode_53 : decode cJ3_hashCode 53 = .ok (.aload_n 0, 1) := dk_42 (dk_at dksJ3_hashCode_2 6 rfl rfl)
theorem dJ3_hashCode_54 : decode cJ3_hashCode 54 = .ok (.iload_n 1, 1) := dk_27 (dk_at dksJ3_hashCode_2 7 rfl rfl)
theorem dJ3_hashCode_55 : decode cJ3_hashCode 55 = .ok (.putfield 19, 3) := dk_181 0 19 (dk_at dksJ3_hashCode_2 8 rfl rfl)
theorem dJ3_hashCode_58 : decode cJ3_hashCode 58 = .ok (.iload_n 1, 1) := dk_27 (dk_at dksJ3_hashCode_2 11 rfl rfl)
theorem dJ3_hashCode_59 : decode cJ3_hashCode 59 = .ok (.ireturn, 1) := dk_172 (dk_at dksJ3_hashCode_2 12 rfl rfl)
def dkwJ6_equals_1 : List UInt8 := [3, 172, 132, 2, 1, 167, 255, 236, 4, 172, 3, 172]
abbrev dktJ6_equals_1 : List UInt8 := dkwJ6_equals_1 ++ []
def dkwJ6_equals_0 : List UInt8 := [42, 190, 43, 190, 160, 0, 30, 3, 61, 28, 42, 190, 162, 0, 20, 42, 28, 51, 43, 28, 51, 159, 0, 5]
abbrev dktJ6_equals_0 : List UInt8 := dkwJ6_equals_0 ++ dktJ6_equals_1
theorem dksJ6_equals_0 : cJ6_equals.data.toList.drop 0 = dktJ6_equals_0 := by decide +kernel
theorem dksJ6_equals_1 : cJ6_equals.data.toList.drop 24 = dktJ6_equals_1 := dk_seg dksJ6_equals_0 24 rfl rfl
theorem dJ6_equals_0 : decode cJ6_equals 0 = .ok (.aload_n 0, 1) := dk_42 (dk_at dksJ6_equals_0 0 rfl rfl)
theorem dJ6_equals_1 : decode cJ6_equals 1 = .ok (.arraylength, 1) := dk_190 (dk_at dksJ6_equals_0 1 rfl rfl)
theorem dJ6_equals_2 : decode cJ6_equals 2 = .ok (.aload_n 1, 1) := dk_43 (dk_at dksJ6_equals_0 2 rfl rfl)
theorem dJ6_equals_3 : decode cJ6_equals 3 = .ok (.arraylength, 1) := dk_190 (dk_at dksJ6_equals_0 3 rfl rfl)
theorem dJ6_equals_4 : decode cJ6_equals 4 = .ok (.if_icmp .ne 30, 3) := dk_160 0 30 (dk_at dksJ6_equals_0 4 rfl rfl)
theorem dJ6_equals_7 : decode cJ6_equals 7 = .ok (.iconst 0, 1) := dk_3 (dk_at dksJ6_equals_0 7 rfl rfl)
theorem dJ6_equals_8 : decode cJ6_equals 8 = .ok (.istore_n 2, 1) := dk_61 (dk_at dksJ6_equals_0 8 rfl rfl)
theorem dJ6_equals_9 : decode cJ6_equals 9 = .ok (.iload_n 2, 1) := dk_28 (dk_at dksJ6_equals_0 9 rfl rfl)
theorem dJ6_equals_10 : decode cJ6_equals 10 = .ok (.aload_n 0, 1) := dk_42 (dk_at dksJ6_equals_0 10 rfl rfl)
theorem dJ6_equals_11 : decode cJ6_equals 11 = .ok (.arraylength, 1) := dk_190 (dk_at dksJ6_equals_0 11 rfl rfl)
theorem dJ6_equals_12 : decode cJ6_equals 12 = .ok (.if_icmp .ge 20, 3) := dk_162 0 20 (dk_at dksJ6_equals_0 12 rfl rfl)
theorem dJ6_equals_15 : decode cJ6_equals 15 = .ok (.aload_n 0, 1) := dk_42 (dk_at dksJ6_equals_0 15 rfl rfl)
theorem dJ6_equals_16 : decode cJ6_equals 16 = .ok (.iload_n 2, 1) := dk_28 (dk_at dksJ6_equals_0 16 rfl rfl)
theorem dJ6_equals_17 : decode cJ6_equals 17 = .ok (.baload, 1) := dk_51 (dk_at dksJ6_equals_0 17 rfl rfl)
theorem dJ6_equals_18 : decode cJ6_equals 18 = .ok (.aload_n 1, 1) := dk_43 (dk_at dksJ6_equals_0 18 rfl rfl)
theorem dJ6_equals_19 : decode cJ6_equals 19 = .ok (.iload_n 2, 1) := dk_28 (dk_at dksJ6_equals_0 19 rfl rfl)
theorem dJ6_equals_20 : decode cJ6_equals 20 = .ok (.baload, 1) := dk_51 (dk_at dksJ6_equals_0 20 rfl rfl)
theorem dJ6_equals_21 : decode cJ6_equals 21 = .ok (.if_icmp .eq 5, 3) := dk_159 0 5 (dk_at dksJ6_equals_0 21 rfl rfl)
theorem dJ6_equals_24 : decode cJ6_equals 24 = .ok (.iconst 0, 1) := dk_3 (dk_at dksJ6_equals_1 0 rfl rfl)
theorem dJ6_equals_25 : decode cJ6_equals 25 = .ok (.ireturn, 1) := dk_172 (dk_at dksJ6_equals_1 1 rfl rfl)
theorem dJ6_equals_26 : decode cJ6_equals 26 = .ok (.iinc 2 1, 3) := dk_132 2 1 (dk_at dksJ6_equals_1 2 rfl rfl)
theorem dJ6_equals_29 : decode cJ6_equals 29 = .ok (.goto (-20), 3) := dk_167 255 236 (dk_at dksJ6_equals_1 5 rfl rfl)
theorem dJ6_equals_32 : decode cJ6_equals 32 = .ok (.iconst 1, 1) := dk_4 (dk_at dksJ6_equals_1 8 rfl rfl)
theorem dJ6_equals_33 : decode cJ6_equals 33 = .ok (.ireturn, 1) := dk_172 (dk_at dksJ6_equals_1 9 rfl rfl)
theorem dJ6_equals_34 : decode cJ6_equals 34 = .ok (.iconst 0, 1) := dk_3 (dk_at dksJ6_equals_1 10 rfl rfl)
theorem dJ6_equals_35 : decode cJ6_equals 35 = .ok (.ireturn, 1) := dk_172 (dk_at dksJ6_equals_1 11 rfl rfl)
def dkwJ3_equals_2 : List UInt8 := [184, 2, 29, 153, 0, 7, 4, 167, 0, 4, 3, 172]
abbrev dktJ3_equals_2 : List UInt8 := dkwJ3_equals_2 ++ []
def dkwJ3_equals_1 : List UInt8 := [153, 0, 14, 42, 180, 0, 15, 44, 180, 0, 15, 160, 0, 21, 42, 180, 0, 9, 44, 180, 0, 9]
abbrev dktJ3_equals_1 : List UInt8 := dkwJ3_equals_1 ++ dktJ3_equals_2
def dkwJ3_equals_0 : List UInt8 := [42, 43, 166, 0, 5, 4, 172, 43, 193, 0, 10, 153, 0, 43, 43, 192, 0, 10, 77, 178, 0, 38]
abbrev dktJ3_equals_0 : List UInt8 := dkwJ3_equals_0 ++ dktJ3_equals_1
theorem dksJ3_equals_0 : cJ3_equals.data.toList.drop 0 = dktJ3_equals_0 := by decide +kernel
theorem dksJ3_equals_1 : cJ3_equals.data.toList.drop 22 = dktJ3_equals_1 := dk_seg dksJ3_equals_0 22 rfl rfl
theorem dksJ3_equals_2 : cJ3_equals.data.toList.drop 44 = dktJ3_equals_2 := dk_seg dksJ3_equals_1 22 rfl rfl
theorem dJ3_equals_0 : decode cJ3_equals 0 = .ok (.aload_n 0, 1) := dk_42 (dk_at dksJ3_equals_0 0 rfl rfl)
theorem dJ3_equals_1 : decode cJ3_equals 1 = .ok (.aload_n 1, 1) := dk_43 (dk_at dksJ3_equals_0 1 rfl rfl)
theorem dJ3_equals_2 : decode cJ3_equals 2 = .ok (.if_acmp .ne 5, 3) := dk_166 0 5 (dk_at dksJ3_equals_0 2 rfl rfl)
theorem dJ3_equals_5 : decode cJ3_equals 5 = .ok (.iconst 1, 1) := dk_4 (dk_at dksJ3_equals_0 5 rfl rfl)
theorem dJ3_equals_6 : decode cJ3_equals 6 = .ok (.ireturn, 1) := dk_172 (dk_at dksJ3_equals_0 6 rfl rfl)
theorem dJ3_equals_7 : decode cJ3_equals 7 = .ok (.aload_n 1, 1) := dk_43 (dk_at dksJ3_equals_0 7 rfl rfl)
theorem dJ3_equals_8 : decode cJ3_equals 8 = .ok (.instanceof 10, 3) := dk_193 0 10 (dk_at dksJ3_equals_0 8 rfl rfl)
theorem dJ3_equals_11 : decode cJ3_equals 11 = .ok (.ifCond .eq 43, 3) := dk_153 0 43 (dk_at dksJ3_equals_0 11 rfl rfl)
theorem dJ3_equals_14 : decode cJ3_equals 14 = .ok (.aload_n 1, 1) := dk_43 (dk_at dksJ3_equals_0 14 rfl rfl)
theorem dJ3_equals_15 : decode cJ3_equals 15 = .ok (.checkcast 10, 3) := dk_192 0 10 (dk_at dksJ3_equals_0 15 rfl rfl)
theorem dJ3_equals_18 : decode cJ3_equals 18 = .ok (.astore_n 2, 1) := dk_77 (dk_at dksJ3_equals_0 18 rfl rfl)
theorem dJ3_equals_19 : decode cJ3_equals 19 = .ok (.getstatic 38, 3) := dk_178 0 38 (dk_at dksJ3_equals_0 19 rfl rfl)
theorem dJ3_equals_22 : decode cJ3_equals 22 = .ok (.ifCond .eq 14, 3) := dk_153 0 14 (dk_at dksJ3_equals_1 0 rfl rfl)
theorem dJ3_equals_25 : decode cJ3_equals 25 = .ok (.aload_n 0, 1) := dk_42 (dk_at dksJ3_equals_1 3 rfl rfl)
theorem dJ3_equals_26 : decode cJ3_equals 26 = .ok (.getfield 15, 3) := dk_180 0 15 (dk_at dksJ3_equals_1 4 rfl rfl)
theorem dJ3_equals_29 : decode cJ3_equals 29 = .ok (.aload_n 2, 1) := dk_44 (dk_at dksJ3_equals_1 7 rfl rfl)
theorem dJ3_equals_30 : decode cJ3_equals 30 = .ok (.getfield 15, 3) := dk_180 0 15 (dk_at dksJ3_equals_1 8 rfl rfl)
theorem dJ3_equals_33 : decode cJ3_equals 33 = .ok (.if_icmp .ne 21, 3) := dk_160 0 21 (dk_at dksJ3_equals_1 11 rfl rfl)
theorem dJ3_equals_36 : decode cJ3_equals 36 = .ok (.aload_n 0, 1) := dk_42 (dk_at dksJ3_equals_1 14 rfl rfl)
theorem dJ3_equals_37 : decode cJ3_equals 37 = .ok (.getfield 9, 3) := dk_180 0 9 (dk_at dksJ3_equals_1 15 rfl rfl)
theorem dJ3_equals_40 : decode cJ3_equals 40 = .ok (.aload_n 2, 1) := dk_44 (dk_at dksJ3_equals_1 18 rfl rfl)
theorem dJ3_equals_41 : decode cJ3_equals 41 = .ok (.getfield 9, 3) := dk_180 0 9 (dk_at dksJ3_equals_1 19 rfl rfl)
theorem dJ3_equals_44 : decode cJ3_equals 44 = .ok (.invokestatic 541, 3) := dk_184 2 29 (dk_at dksJ3_equals_2 0 rfl rfl)
theorem dJ3_equals_47 : decode cJ3_equals 47 = .ok (.ifCond .eq 7, 3) := dk_153 0 7 (dk_at dksJ3_equals_2 3 rfl rfl)
theorem dJ3_equals_50 : decode cJ3_equals 50 = .ok (.iconst 1, 1) := dk_4 (dk_at dksJ3_equals_2 6 rfl rfl)
theorem dJ3_equals_51 : decode cJ3_equals 51 = .ok (.goto 4, 3) := dk_167 0 4 (dk_at dksJ3_equals_2 7 rfl rfl)
theorem dJ3_equals_54 : decode cJ3_equals 54 = .ok (.iconst 0, 1) := dk_3 (dk_at dksJ3_equals_2 10 rfl rfl)
theorem dJ3_equals_55 : decode cJ3_equals 55 = .ok (.ireturn, 1) := dk_172 (dk_at dksJ3_equals_2 11 rfl rfl)
def dkwX2_takes_1 : List UInt8 := [182, 0, 75, 4, 172]
abbrev dktX2_takes_1 : List UInt8 := dkwX2_takes_1 ++ []
def dkwX2_takes_0 : List UInt8 := [42, 180, 0, 47, 5, 160, 0, 14, 42, 180, 0, 61, 43, 182, 0, 71, 154, 0, 5, 3, 172, 42]
abbrev dktX2_takes_0 : List UInt8 := dkwX2_takes_0 ++ dktX2_takes_1
theorem dksX2_takes_0 : cX2_takes.data.toList.drop 0 = dktX2_takes_0 := by decide +kernel
theorem dksX2_takes_1 : cX2_takes.data.toList.drop 22 = dktX2_takes_1 := dk_seg dksX2_takes_0 22 rfl rfl
theorem dX2_takes_0 : decode cX2_takes 0 = .ok (.aload_n 0, 1) := dk_42 (dk_at dksX2_takes_0 0 rfl rfl)
theorem dX2_takes_1 : decode cX2_takes 1 = .ok (.getfield 47, 3) := dk_180 0 47 (dk_at dksX2_takes_0 1 rfl rfl)
theorem dX2_takes_4 : decode cX2_takes 4 = .ok (.iconst 2, 1) := dk_5 (dk_at dksX2_takes_0 4 rfl rfl)
theorem dX2_takes_5 : decode cX2_takes 5 = .ok (.if_icmp .ne 14, 3) := dk_160 0 14 (dk_at dksX2_takes_0 5 rfl rfl)
theorem dX2_takes_8 : decode cX2_takes 8 = .ok (.aload_n 0, 1) := dk_42 (dk_at dksX2_takes_0 8 rfl rfl)
theorem dX2_takes_9 : decode cX2_takes 9 = .ok (.getfield 61, 3) := dk_180 0 61 (dk_at dksX2_takes_0 9 rfl rfl)
theorem dX2_takes_12 : decode cX2_takes 12 = .ok (.aload_n 1, 1) := dk_43 (dk_at dksX2_takes_0 12 rfl rfl)
theorem dX2_takes_13 : decode cX2_takes 13 = .ok (.invokevirtual 71, 3) := dk_182 0 71 (dk_at dksX2_takes_0 13 rfl rfl)
theorem dX2_takes_16 : decode cX2_takes 16 = .ok (.ifCond .ne 5, 3) := dk_154 0 5 (dk_at dksX2_takes_0 16 rfl rfl)
theorem dX2_takes_19 : decode cX2_takes 19 = .ok (.iconst 0, 1) := dk_3 (dk_at dksX2_takes_0 19 rfl rfl)
theorem dX2_takes_20 : decode cX2_takes 20 = .ok (.ireturn, 1) := dk_172 (dk_at dksX2_takes_0 20 rfl rfl)
theorem dX2_takes_21 : decode cX2_takes 21 = .ok (.aload_n 0, 1) := dk_42 (dk_at dksX2_takes_0 21 rfl rfl)
theorem dX2_takes_22 : decode cX2_takes 22 = .ok (.invokevirtual 75, 3) := dk_182 0 75 (dk_at dksX2_takes_1 0 rfl rfl)
theorem dX2_takes_25 : decode cX2_takes 25 = .ok (.iconst 1, 1) := dk_4 (dk_at dksX2_takes_1 3 rfl rfl)
theorem dX2_takes_26 : decode cX2_takes 26 = .ok (.ireturn, 1) := dk_172 (dk_at dksX2_takes_1 4 rfl rfl)
def dkwX2_must_0 : List UInt8 := [42, 43, 182, 0, 78, 154, 0, 9, 42, 4, 182, 0, 82, 191, 177]
abbrev dktX2_must_0 : List UInt8 := dkwX2_must_0 ++ []
theorem dksX2_must_0 : cX2_must.data.toList.drop 0 = dktX2_must_0 := by decide +kernel
theorem dX2_must_0 : decode cX2_must 0 = .ok (.aload_n 0, 1) := dk_42 (dk_at dksX2_must_0 0 rfl rfl)
theorem dX2_must_1 : decode cX2_must 1 = .ok (.aload_n 1, 1) := dk_43 (dk_at dksX2_must_0 1 rfl rfl)
theorem dX2_must_2 : decode cX2_must 2 = .ok (.invokevirtual 78, 3) := dk_182 0 78 (dk_at dksX2_must_0 2 rfl rfl)
theorem dX2_must_5 : decode cX2_must 5 = .ok (.ifCond .ne 9, 3) := dk_154 0 9 (dk_at dksX2_must_0 5 rfl rfl)
theorem dX2_must_8 : decode cX2_must 8 = .ok (.aload_n 0, 1) := dk_42 (dk_at dksX2_must_0 8 rfl rfl)
theorem dX2_must_9 : decode cX2_must 9 = .ok (.iconst 1, 1) := dk_4 (dk_at dksX2_must_0 9 rfl rfl)
theorem dX2_must_10 : decode cX2_must 10 = .ok (.invokevirtual 82, 3) := dk_182 0 82 (dk_at dksX2_must_0 10 rfl rfl)
theorem dX2_must_13 : decode cX2_must 13 = .ok (.athrow, 1) := dk_191 (dk_at dksX2_must_0 13 rfl rfl)
theorem dX2_must_14 : decode cX2_must 14 = .ok (.return_, 1) := dk_177 (dk_at dksX2_must_0 14 rfl rfl)
def dkwX2_number_1 : List UInt8 := [154, 0, 9, 42, 7, 182, 0, 82, 191, 42, 180, 0, 68, 62, 42, 182, 0, 75, 29, 172]
abbrev dktX2_number_1 : List UInt8 := dkwX2_number_1 ++ []
def dkwX2_number_0 : List UInt8 := [42, 180, 0, 47, 6, 159, 0, 9, 42, 4, 182, 0, 82, 191, 42, 180, 0, 68, 27, 28, 184, 0, 36]
abbrev dktX2_number_0 : List UInt8 := dkwX2_number_0 ++ dktX2_number_1
theorem dksX2_number_0 : cX2_number.data.toList.drop 0 = dktX2_number_0 := by decide +kernel
theorem dksX2_number_1 : cX2_number.data.toList.drop 23 = dktX2_number_1 := dk_seg dksX2_number_0 23 rfl rfl
theorem dX2_number_0 : decode cX2_number 0 = .ok (.aload_n 0, 1) := dk_42 (dk_at dksX2_number_0 0 rfl rfl)
theorem dX2_number_1 : decode cX2_number 1 = .ok (.getfield 47, 3) := dk_180 0 47 (dk_at dksX2_number_0 1 rfl rfl)
theorem dX2_number_4 : decode cX2_number 4 = .ok (.iconst 3, 1) := dk_6 (dk_at dksX2_number_0 4 rfl rfl)
theorem dX2_number_5 : decode cX2_number 5 = .ok (.if_icmp .eq 9, 3) := dk_159 0 9 (dk_at dksX2_number_0 5 rfl rfl)
theorem dX2_number_8 : decode cX2_number 8 = .ok (.aload_n 0, 1) := dk_42 (dk_at dksX2_number_0 8 rfl rfl)
theorem dX2_number_9 : decode cX2_number 9 = .ok (.iconst 1, 1) := dk_4 (dk_at dksX2_number_0 9 rfl rfl)
theorem dX2_number_10 : decode cX2_number 10 = .ok (.invokevirtual 82, 3) := dk_182 0 82 (dk_at dksX2_number_0 10 rfl rfl)
theorem dX2_number_13 : decode cX2_number 13 = .ok (.athrow, 1) := dk_191 (dk_at dksX2_number_0 13 rfl rfl)
theorem dX2_number_14 : decode cX2_number 14 = .ok (.aload_n 0, 1) := dk_42 (dk_at dksX2_number_0 14 rfl rfl)
theorem dX2_number_15 : decode cX2_number 15 = .ok (.getfield 68, 3) := dk_180 0 68 (dk_at dksX2_number_0 15 rfl rfl)
theorem dX2_number_18 : decode cX2_number 18 = .ok (.iload_n 1, 1) := dk_27 (dk_at dksX2_number_0 18 rfl rfl)
theorem dX2_number_19 : decode cX2_number 19 = .ok (.iload_n 2, 1) := dk_28 (dk_at dksX2_number_0 19 rfl rfl)
theorem dX2_number_20 : decode cX2_number 20 = .ok (.invokestatic 36, 3) := dk_184 0 36 (dk_at dksX2_number_0 20 rfl rfl)
theorem dX2_number_23 : decode cX2_number 23 = .ok (.ifCond .ne 9, 3) := dk_154 0 9 (dk_at dksX2_number_1 0 rfl rfl)
theorem dX2_number_26 : decode cX2_number 26 = .ok (.aload_n 0, 1) := dk_42 (dk_at dksX2_number_1 3 rfl rfl)
theorem dX2_number_27 : decode cX2_number 27 = .ok (.iconst 4, 1) := dk_7 (dk_at dksX2_number_1 4 rfl rfl)
theorem dX2_number_28 : decode cX2_number 28 = .ok (.invokevirtual 82, 3) := dk_182 0 82 (dk_at dksX2_number_1 5 rfl rfl)
theorem dX2_number_31 : decode cX2_number 31 = .ok (.athrow, 1) := dk_191 (dk_at dksX2_number_1 8 rfl rfl)
theorem dX2_number_32 : decode cX2_number 32 = .ok (.aload_n 0, 1) := dk_42 (dk_at dksX2_number_1 9 rfl rfl)
theorem dX2_number_33 : decode cX2_number 33 = .ok (.getfield 68, 3) := dk_180 0 68 (dk_at dksX2_number_1 10 rfl rfl)
theorem dX2_number_36 : decode cX2_number 36 = .ok (.istore_n 3, 1) := dk_62 (dk_at dksX2_number_1 13 rfl rfl)
theorem dX2_number_37 : decode cX2_number 37 = .ok (.aload_n 0, 1) := dk_42 (dk_at dksX2_number_1 14 rfl rfl)
theorem dX2_number_38 : decode cX2_number 38 = .ok (.invokevirtual 75, 3) := dk_182 0 75 (dk_at dksX2_number_1 15 rfl rfl)
theorem dX2_number_41 : decode cX2_number 41 = .ok (.iload_n 3, 1) := dk_29 (dk_at dksX2_number_1 18 rfl rfl)
theorem dX2_number_42 : decode cX2_number 42 = .ok (.ireturn, 1) := dk_172 (dk_at dksX2_number_1 19 rfl rfl)
def dkwX2_after_0 : List UInt8 := [42, 43, 182, 0, 155, 42, 28, 29, 182, 0, 159, 172]
abbrev dktX2_after_0 : List UInt8 := dkwX2_after_0 ++ []
theorem dksX2_after_0 : cX2_after.data.toList.drop 0 = dktX2_after_0 := by decide +kernel
theorem dX2_after_0 : decode cX2_after 0 = .ok (.aload_n 0, 1) := dk_42 (dk_at dksX2_after_0 0 rfl rfl)
theorem dX2_after_1 : decode cX2_after 1 = .ok (.aload_n 1, 1) := dk_43 (dk_at dksX2_after_0 1 rfl rfl)
theorem dX2_after_2 : decode cX2_after 2 = .ok (.invokevirtual 155, 3) := dk_182 0 155 (dk_at dksX2_after_0 2 rfl rfl)
theorem dX2_after_5 : decode cX2_after 5 = .ok (.aload_n 0, 1) := dk_42 (dk_at dksX2_after_0 5 rfl rfl)
theorem dX2_after_6 : decode cX2_after 6 = .ok (.iload_n 2, 1) := dk_28 (dk_at dksX2_after_0 6 rfl rfl)
theorem dX2_after_7 : decode cX2_after 7 = .ok (.iload_n 3, 1) := dk_29 (dk_at dksX2_after_0 7 rfl rfl)
theorem dX2_after_8 : decode cX2_after 8 = .ok (.invokevirtual 159, 3) := dk_182 0 159 (dk_at dksX2_after_0 8 rfl rfl)
theorem dX2_after_11 : decode cX2_after 11 = .ok (.ireturn, 1) := dk_172 (dk_at dksX2_after_0 11 rfl rfl)
def dkwX2_hillLine_2 : List UInt8 := [180, 0, 127, 27, 181, 0, 163, 177]
abbrev dktX2_hillLine_2 : List UInt8 := dkwX2_hillLine_2 ++ []
def dkwX2_hillLine_1 : List UInt8 := [16, 12, 182, 0, 221, 60, 42, 180, 0, 127, 42, 18, 225, 4, 7, 182, 0, 221, 181, 0, 166, 42]
abbrev dktX2_hillLine_1 : List UInt8 := dkwX2_hillLine_1 ++ dktX2_hillLine_2
def dkwX2_hillLine_0 : List UInt8 := [42, 180, 0, 127, 180, 0, 163, 158, 0, 9, 42, 6, 182, 0, 82, 191, 42, 182, 0, 75, 42, 18, 220, 5]
abbrev dktX2_hillLine_0 : List UInt8 := dkwX2_hillLine_0 ++ dktX2_hillLine_1
theorem dksX2_hillLine_0 : cX2_hillLine.data.toList.drop 0 = dktX2_hillLine_0 := by decide +kernel
theorem dksX2_hillLine_1 : cX2_hillLine.data.toList.drop 24 = dktX2_hillLine_1 := dk_seg dksX2_hillLine_0 24 rfl rfl
theorem dksX2_hillLine_2 : cX2_hillLine.data.toList.drop 46 = dktX2_hillLine_2 := dk_seg dksX2_hillLine_1 22 rfl rfl
theorem dX2_hillLine_0 : decode cX2_hillLine 0 = .ok (.aload_n 0, 1) := dk_42 (dk_at dksX2_hillLine_0 0 rfl rfl)
theorem dX2_hillLine_1 : decode cX2_hillLine 1 = .ok (.getfield 127, 3) := dk_180 0 127 (dk_at dksX2_hillLine_0 1 rfl rfl)
theorem dX2_hillLine_4 : decode cX2_hillLine 4 = .ok (.getfield 163, 3) := dk_180 0 163 (dk_at dksX2_hillLine_0 4 rfl rfl)
theorem dX2_hillLine_7 : decode cX2_hillLine 7 = .ok (.ifCond .le 9, 3) := dk_158 0 9 (dk_at dksX2_hillLine_0 7 rfl rfl)
theorem dX2_hillLine_10 : decode cX2_hillLine 10 = .ok (.aload_n 0, 1) := dk_42 (dk_at dksX2_hillLine_0 10 rfl rfl)
theorem dX2_hillLine_11 : decode cX2_hillLine 11 = .ok (.iconst 3, 1) := dk_6 (dk_at dksX2_hillLine_0 11 rfl rfl)
theorem dX2_hillLine_12 : decode cX2_hillLine 12 = .ok (.invokevirtual 82, 3) := dk_182 0 82 (dk_at dksX2_hillLine_0 12 rfl rfl)
theorem dX2_hillLine_15 : decode cX2_hillLine 15 = .ok (.athrow, 1) := dk_191 (dk_at dksX2_hillLine_0 15 rfl rfl)
theorem dX2_hillLine_16 : decode cX2_hillLine 16 = .ok (.aload_n 0, 1) := dk_42 (dk_at dksX2_hillLine_0 16 rfl rfl)
theorem dX2_hillLine_17 : decode cX2_hillLine 17 = .ok (.invokevirtual 75, 3) := dk_182 0 75 (dk_at dksX2_hillLine_0 17 rfl rfl)
theorem dX2_hillLine_20 : decode cX2_hillLine 20 = .ok (.aload_n 0, 1) := dk_42 (dk_at dksX2_hillLine_0 20 rfl rfl)
theorem dX2_hillLine_21 : decode cX2_hillLine 21 = .ok (.ldc 220, 2) := dk_18 220 (dk_at dksX2_hillLine_0 21 rfl rfl)
theorem dX2_hillLine_23 : decode cX2_hillLine 23 = .ok (.iconst 2, 1) := dk_5 (dk_at dksX2_hillLine_0 23 rfl rfl)
theorem dX2_hillLine_24 : decode cX2_hillLine 24 = .ok (.bipush 12, 2) := dk_16 12 (dk_at dksX2_hillLine_1 0 rfl rfl)
theorem dX2_hillLine_26 : decode cX2_hillLine 26 = .ok (.invokevirtual 221, 3) := dk_182 0 221 (dk_at dksX2_hillLine_1 2 rfl rfl)
theorem dX2_hillLine_29 : decode cX2_hillLine 29 = .ok (.istore_n 1, 1) := dk_60 (dk_at dksX2_hillLine_1 5 rfl rfl)
theorem dX2_hillLine_30 : decode cX2_hillLine 30 = .ok (.aload_n 0, 1) := dk_42 (dk_at dksX2_hillLine_1 6 rfl rfl)
theorem dX2_hillLine_31 : decode cX2_hillLine 31 = .ok (.getfield 127, 3) := dk_180 0 127 (dk_at dksX2_hillLine_1 7 rfl rfl)
theorem dX2_hillLine_34 : decode cX2_hillLine 34 = .ok (.aload_n 0, 1) := dk_42 (dk_at dksX2_hillLine_1 10 rfl rfl)
theorem dX2_hillLine_35 : decode cX2_hillLine 35 = .ok (.ldc 225, 2) := dk_18 225 (dk_at dksX2_hillLine_1 11 rfl rfl)
theorem dX2_hillLine_37 : decode cX2_hillLine 37 = .ok (.iconst 1, 1) := dk_4 (dk_at dksX2_hillLine_1 13 rfl rfl)
theorem dX2_hillLine_38 : decode cX2_hillLine 38 = .ok (.iconst 4, 1) := dk_7 (dk_at dksX2_hillLine_1 14 rfl rfl)
theorem dX2_hillLine_39 : decode cX2_hillLine 39 = .ok (.invokevirtual 221, 3) := dk_182 0 221 (dk_at dksX2_hillLine_1 15 rfl rfl)
theorem dX2_hillLine_42 : decode cX2_hillLine 42 = .ok (.putfield 166, 3) := dk_181 0 166 (dk_at dksX2_hillLine_1 18 rfl rfl)
theorem dX2_hillLine_45 : decode cX2_hillLine 45 = .ok (.aload_n 0, 1) := dk_42 (dk_at dksX2_hillLine_1 21 rfl rfl)
theorem dX2_hillLine_46 : decode cX2_hillLine 46 = .ok (.getfield 127, 3) := dk_180 0 127 (dk_at dksX2_hillLine_2 0 rfl rfl)
theorem dX2_hillLine_49 : decode cX2_hillLine 49 = .ok (.iload_n 1, 1) := dk_27 (dk_at dksX2_hillLine_2 3 rfl rfl)
theorem dX2_hillLine_50 : decode cX2_hillLine 50 = .ok (.putfield 163, 3) := dk_181 0 163 (dk_at dksX2_hillLine_2 4 rfl rfl)
theorem dX2_hillLine_53 : decode cX2_hillLine 53 = .ok (.return_, 1) := dk_177 (dk_at dksX2_hillLine_2 7 rfl rfl)
def dkwX2_begins_1 : List UInt8 := [182, 0, 82, 191, 42, 182, 0, 75, 177]
abbrev dktX2_begins_1 : List UInt8 := dkwX2_begins_1 ++ []
def dkwX2_begins_0 : List UInt8 := [27, 154, 0, 9, 42, 8, 182, 0, 82, 191, 42, 180, 0, 127, 180, 0, 163, 154, 0, 10, 42, 16, 6]
abbrev dktX2_begins_0 : List UInt8 := dkwX2_begins_0 ++ dktX2_begins_1
theorem dksX2_begins_0 : cX2_begins.data.toList.drop 0 = dktX2_begins_0 := by decide +kernel
theorem dksX2_begins_1 : cX2_begins.data.toList.drop 23 = dktX2_begins_1 := dk_seg dksX2_begins_0 23 rfl rfl
theorem dX2_begins_0 : decode cX2_begins 0 = .ok (.iload_n 1, 1) := dk_27 (dk_at dksX2_begins_0 0 rfl rfl)
theorem dX2_begins_1 : decode cX2_begins 1 = .ok (.ifCond .ne 9, 3) := dk_154 0 9 (dk_at dksX2_begins_0 1 rfl rfl)
theorem dX2_begins_4 : decode cX2_begins 4 = .ok (.aload_n 0, 1) := dk_42 (dk_at dksX2_begins_0 4 rfl rfl)
theorem dX2_begins_5 : decode cX2_begins 5 = .ok (.iconst 5, 1) := dk_8 (dk_at dksX2_begins_0 5 rfl rfl)
theorem dX2_begins_6 : decode cX2_begins 6 = .ok (.invokevirtual 82, 3) := dk_182 0 82 (dk_at dksX2_begins_0 6 rfl rfl)
theorem dX2_begins_9 : decode cX2_begins 9 = .ok (.athrow, 1) := dk_191 (dk_at dksX2_begins_0 9 rfl rfl)
theorem dX2_begins_10 : decode cX2_begins 10 = .ok (.aload_n 0, 1) := dk_42 (dk_at dksX2_begins_0 10 rfl rfl)
theorem dX2_begins_11 : decode cX2_begins 11 = .ok (.getfield 127, 3) := dk_180 0 127 (dk_at dksX2_begins_0 11 rfl rfl)
theorem dX2_begins_14 : decode cX2_begins 14 = .ok (.getfield 163, 3) := dk_180 0 163 (dk_at dksX2_begins_0 14 rfl rfl)
theorem dX2_begins_17 : decode cX2_begins 17 = .ok (.ifCond .ne 10, 3) := dk_154 0 10 (dk_at dksX2_begins_0 17 rfl rfl)
theorem dX2_begins_20 : decode cX2_begins 20 = .ok (.aload_n 0, 1) := dk_42 (dk_at dksX2_begins_0 20 rfl rfl)
theorem dX2_begins_21 : decode cX2_begins 21 = .ok (.bipush 6, 2) := dk_16 6 (dk_at dksX2_begins_0 21 rfl rfl)
theorem dX2_begins_23 : decode cX2_begins 23 = .ok (.invokevirtual 82, 3) := dk_182 0 82 (dk_at dksX2_begins_1 0 rfl rfl)
theorem dX2_begins_26 : decode cX2_begins 26 = .ok (.athrow, 1) := dk_191 (dk_at dksX2_begins_1 3 rfl rfl)
theorem dX2_begins_27 : decode cX2_begins 27 = .ok (.aload_n 0, 1) := dk_42 (dk_at dksX2_begins_1 4 rfl rfl)
theorem dX2_begins_28 : decode cX2_begins 28 = .ok (.invokevirtual 75, 3) := dk_182 0 75 (dk_at dksX2_begins_1 5 rfl rfl)
theorem dX2_begins_31 : decode cX2_begins 31 = .ok (.return_, 1) := dk_177 (dk_at dksX2_begins_1 8 rfl rfl)
def dkwX2_mustName_15 : List UInt8 := [42, 4, 182, 0, 82, 191, 177]
abbrev dktX2_mustName_15 : List UInt8 := dkwX2_mustName_15 ++ []
def dkwX2_mustName_14 : List UInt8 := [170, 0, 0, 0, 87, 0, 0, 0, 0, 0, 0, 0, 16, 0, 0, 0, 81, 0, 0, 0, 81, 0, 0, 0, 81, 0, 0, 0, 81, 0, 0, 0, 81, 0, 0, 0, 81, 0, 0, 0, 81, 0, 0, 0, 81, 0, 0, 0, 81, 0, 0, 0, 81, 0, 0, 0, 81, 0, 0, 0, 81, 0, 0, 0, 81, 0, 0, 0, 81, 0, 0, 0, 81, 0, 0, 0, 81, 0, 0, 0, 81]
abbrev dktX2_mustName_14 : List UInt8 := dkwX2_mustName_14 ++ dktX2_mustName_15
def dkwX2_mustName_13 : List UInt8 := [182, 0, 71, 153, 0, 6, 16, 16, 61, 28]
abbrev dktX2_mustName_13 : List UInt8 := dkwX2_mustName_13 ++ dktX2_mustName_14
def dkwX2_mustName_12 : List UInt8 := [16, 14, 61, 167, 0, 30, 43, 18, 120, 182, 0, 71, 153, 0, 21, 16, 15, 61, 167, 0, 15, 43, 18, 122]
abbrev dktX2_mustName_12 : List UInt8 := dkwX2_mustName_12 ++ dktX2_mustName_13
def dkwX2_mustName_11 : List UInt8 := [43, 18, 116, 182, 0, 71, 153, 0, 51, 16, 13, 61, 167, 0, 45, 43, 18, 118, 182, 0, 71, 153, 0, 36]
abbrev dktX2_mustName_11 : List UInt8 := dkwX2_mustName_11 ++ dktX2_mustName_12
def dkwX2_mustName_10 : List UInt8 := [153, 0, 81, 16, 11, 61, 167, 0, 75, 43, 18, 114, 182, 0, 71, 153, 0, 66, 16, 12, 61, 167, 0, 60]
abbrev dktX2_mustName_10 : List UInt8 := dkwX2_mustName_10 ++ dktX2_mustName_11
def dkwX2_mustName_9 : List UInt8 := [167, 0, 105, 43, 18, 110, 182, 0, 71, 153, 0, 96, 16, 10, 61, 167, 0, 90, 43, 18, 112, 182, 0, 71]
abbrev dktX2_mustName_9 : List UInt8 := dkwX2_mustName_9 ++ dktX2_mustName_10
def dkwX2_mustName_8 : List UInt8 := [182, 0, 71, 153, 0, 126, 16, 8, 61, 167, 0, 120, 43, 18, 108, 182, 0, 71, 153, 0, 111, 16, 9, 61]
abbrev dktX2_mustName_8 : List UInt8 := dkwX2_mustName_8 ++ dktX2_mustName_9
def dkwX2_mustName_7 : List UInt8 := [61, 167, 0, 150, 43, 18, 104, 182, 0, 71, 153, 0, 141, 16, 7, 61, 167, 0, 135, 43, 18, 106]
abbrev dktX2_mustName_7 : List UInt8 := dkwX2_mustName_7 ++ dktX2_mustName_8
def dkwX2_mustName_6 : List UInt8 := [18, 100, 182, 0, 71, 153, 0, 170, 8, 61, 167, 0, 165, 43, 18, 102, 182, 0, 71, 153, 0, 156, 16, 6]
abbrev dktX2_mustName_6 : List UInt8 := dkwX2_mustName_6 ++ dktX2_mustName_7
def dkwX2_mustName_5 : List UInt8 := [153, 0, 198, 6, 61, 167, 0, 193, 43, 18, 98, 182, 0, 71, 153, 0, 184, 7, 61, 167, 0, 179, 43]
abbrev dktX2_mustName_5 : List UInt8 := dkwX2_mustName_5 ++ dktX2_mustName_6
def dkwX2_mustName_4 : List UInt8 := [61, 167, 0, 221, 43, 18, 94, 182, 0, 71, 153, 0, 212, 5, 61, 167, 0, 207, 43, 18, 96, 182, 0, 71]
abbrev dktX2_mustName_4 : List UInt8 := dkwX2_mustName_4 ++ dktX2_mustName_5
def dkwX2_mustName_3 : List UInt8 := [43, 18, 90, 182, 0, 71, 153, 0, 240, 3, 61, 167, 0, 235, 43, 18, 92, 182, 0, 71, 153, 0, 226, 4]
abbrev dktX2_mustName_3 : List UInt8 := dkwX2_mustName_3 ++ dktX2_mustName_4
def dkwX2_mustName_2 : List UInt8 := [171, 0, 0, 0, 0, 1, 137, 0, 0, 0, 17, 174, 216, 196, 215, 0, 0, 1, 110, 196, 227, 155, 85, 0, 0, 0, 189, 0, 0, 13, 29, 0, 0, 1, 125, 0, 47, 214, 108, 0, 0, 1, 35, 0, 48, 127, 27, 0, 0, 0, 217, 0, 48, 222, 65, 0, 0, 0, 147, 0, 52, 100, 37, 0, 0, 0, 175, 0, 53, 150, 252, 0, 0, 1, 65, 0, 53, 206, 123, 0, 0, 1, 5, 5, 167, 81, 139, 0, 0, 1, 95, 5, 204, 193, 67, 0, 0, 0, 231, 5, 209, 151, 130, 0, 0, 0, 246, 5, 237, 163, 148, 0, 0, 1, 50, 6, 92, 217, 7, 0, 0, 0, 161, 6, 95, 201, 68, 0, 0, 1, 80, 6, 133, 108, 83, 0, 0, 1, 20, 6, 138, 248, 245, 0, 0, 0, 203]
abbrev dktX2_mustName_2 : List UInt8 := dkwX2_mustName_2 ++ dktX2_mustName_3
def dkwX2_mustName_1 : List UInt8 := [182, 0, 86]
abbrev dktX2_mustName_1 : List UInt8 := dkwX2_mustName_1 ++ dktX2_mustName_2
def dkwX2_mustName_0 : List UInt8 := [42, 180, 0, 47, 5, 159, 0, 9, 42, 4, 182, 0, 82, 191, 42, 180, 0, 61, 76, 2, 61, 43]
abbrev dktX2_mustName_0 : List UInt8 := dkwX2_mustName_0 ++ dktX2_mustName_1
theorem dksX2_mustName_0 : cX2_mustName.data.toList.drop 0 = dktX2_mustName_0 := by decide +kernel
theorem dksX2_mustName_1 : cX2_mustName.data.toList.drop 22 = dktX2_mustName_1 := dk_seg dksX2_mustName_0 22 rfl rfl
theorem dksX2_mustName_2 : cX2_mustName.data.toList.drop 25 = dktX2_mustName_2 := dk_seg dksX2_mustName_1 3 rfl rfl
theorem dksX2_mustName_3 : cX2_mustName.data.toList.drop 172 = dktX2_mustName_3 := dk_seg dksX2_mustName_2 147 rfl rfl
theorem dksX2_mustName_4 : cX2_mustName.data.toList.drop 196 = dktX2_mustName_4 := dk_seg dksX2_mustName_3 24 rfl rfl
theorem dksX2_mustName_5 : cX2_mustName.data.toList.drop 220 = dktX2_mustName_5 := dk_seg dksX2_mustName_4 24 rfl rfl
theorem dksX2_mustName_6 : cX2_mustName.data.toList.drop 243 = dktX2_mustName_6 := dk_seg dksX2_mustName_5 23 rfl rfl
theorem dksX2_mustName_7 : cX2_mustName.data.toList.drop 267 = dktX2_mustName_7 := dk_seg dksX2_mustName_6 24 rfl rfl
theorem dksX2_mustName_8 : cX2_mustName.data.toList.drop 289 = dktX2_mustName_8 := dk_seg dksX2_mustName_7 22 rfl rfl
theorem dksX2_mustName_9 : cX2_mustName.data.toList.drop 313 = dktX2_mustName_9 := dk_seg dksX2_mustName_8 24 rfl rfl
theorem dksX2_mustName_10 : cX2_mustName.data.toList.drop 337 = dktX2_mustName_10 := dk_seg dksX2_mustName_9 24 rfl rfl
theorem dksX2_mustName_11 : cX2_mustName.data.toList.drop 361 = dktX2_mustName_11 := dk_seg dksX2_mustName_10 24 rfl rfl
theorem dksX2_mustName_12 : cX2_mustName.data.toList.drop 385 = dktX2_mustName_12 := dk_seg dksX2_mustName_11 24 rfl rfl
theorem dksX2_mustName_13 : cX2_mustName.data.toList.drop 409 = dktX2_mustName_13 := dk_seg dksX2_mustName_12 24 rfl rfl
theorem dksX2_mustName_14 : cX2_mustName.data.toList.drop 419 = dktX2_mustName_14 := dk_seg dksX2_mustName_13 10 rfl rfl
theorem dksX2_mustName_15 : cX2_mustName.data.toList.drop 500 = dktX2_mustName_15 := dk_seg dksX2_mustName_14 81 rfl rfl
theorem dX2_mustName_0 : decode cX2_mustName 0 = .ok (.aload_n 0, 1) := dk_42 (dk_at dksX2_mustName_0 0 rfl rfl)
theorem dX2_mustName_1 : decode cX2_mustName 1 = .ok (.getfield 47, 3) := dk_180 0 47 (dk_at dksX2_mustName_0 1 rfl rfl)
theorem dX2_mustName_4 : decode cX2_mustName 4 = .ok (.iconst 2, 1) := dk_5 (dk_at dksX2_mustName_0 4 rfl rfl)
theorem dX2_mustName_5 : decode cX2_mustName 5 = .ok (.if_icmp .eq 9, 3) := dk_159 0 9 (dk_at dksX2_mustName_0 5 rfl rfl)
theorem dX2_mustName_8 : decode cX2_mustName 8 = .ok (.aload_n 0, 1) := dk_42 (dk_at dksX2_mustName_0 8 rfl rfl)
theorem dX2_mustName_9 : decode cX2_mustName 9 = .ok (.iconst 1, 1) := dk_4 (dk_at dksX2_mustName_0 9 rfl rfl)
theorem dX2_mustName_10 : decode cX2_mustName 10 = .ok (.invokevirtual 82, 3) := dk_182 0 82 (dk_at dksX2_mustName_0 10 rfl rfl)
theorem dX2_mustName_13 : decode cX2_mustName 13 = .ok (.athrow, 1) := dk_191 (dk_at dksX2_mustName_0 13 rfl rfl)
theorem dX2_mustName_14 : decode cX2_mustName 14 = .ok (.aload_n 0, 1) := dk_42 (dk_at dksX2_mustName_0 14 rfl rfl)
theorem dX2_mustName_15 : decode cX2_mustName 15 = .ok (.getfield 61, 3) := dk_180 0 61 (dk_at dksX2_mustName_0 15 rfl rfl)
theorem dX2_mustName_18 : decode cX2_mustName 18 = .ok (.astore_n 1, 1) := dk_76 (dk_at dksX2_mustName_0 18 rfl rfl)
theorem dX2_mustName_19 : decode cX2_mustName 19 = .ok (.iconst (-1), 1) := dk_2 (dk_at dksX2_mustName_0 19 rfl rfl)
theorem dX2_mustName_20 : decode cX2_mustName 20 = .ok (.istore_n 2, 1) := dk_61 (dk_at dksX2_mustName_0 20 rfl rfl)
theorem dX2_mustName_21 : decode cX2_mustName 21 = .ok (.aload_n 1, 1) := dk_43 (dk_at dksX2_mustName_0 21 rfl rfl)
theorem dX2_mustName_22 : decode cX2_mustName 22 = .ok (.invokevirtual 86, 3) := dk_182 0 86 (dk_at dksX2_mustName_1 0 rfl rfl)
theorem dX2_mustName_25 : decode cX2_mustName 25 = .ok (.lookupswitch 393 #[(-1361525545, 366), (-991716523, 189), (3357, 381), (3135084, 291), (3178267, 217), (3202625, 147), (3433509, 175), (3512060, 321), (3526267, 261), (94851467, 351), (97304899, 231), (97621890, 246), (99459988, 306), (106748167, 161), (106940740, 336), (109407315, 276), (109770997, 203)], 147) := by decide +kernel
theorem dX2_mustName_172 : decode cX2_mustName 172 = .ok (.aload_n 1, 1) := dk_43 (dk_at dksX2_mustName_3 0 rfl rfl)
theorem dX2_mustName_173 : decode cX2_mustName 173 = .ok (.ldc 90, 2) := dk_18 90 (dk_at dksX2_mustName_3 1 rfl rfl)
theorem dX2_mustName_175 : decode cX2_mustName 175 = .ok (.invokevirtual 71, 3) := dk_182 0 71 (dk_at dksX2_mustName_3 3 rfl rfl)
theorem dX2_mustName_178 : decode cX2_mustName 178 = .ok (.ifCond .eq 240, 3) := dk_153 0 240 (dk_at dksX2_mustName_3 6 rfl rfl)
theorem dX2_mustName_181 : decode cX2_mustName 181 = .ok (.iconst 0, 1) := dk_3 (dk_at dksX2_mustName_3 9 rfl rfl)
theorem dX2_mustName_182 : decode cX2_mustName 182 = .ok (.istore_n 2, 1) := dk_61 (dk_at dksX2_mustName_3 10 rfl rfl)
theorem dX2_mustName_183 : decode cX2_mustName 183 = .ok (.goto 235, 3) := dk_167 0 235 (dk_at dksX2_mustName_3 11 rfl rfl)
theorem dX2_mustName_186 : decode cX2_mustName 186 = .ok (.aload_n 1, 1) := dk_43 (dk_at dksX2_mustName_3 14 rfl rfl)
theorem dX2_mustName_187 : decode cX2_mustName 187 = .ok (.ldc 92, 2) := dk_18 92 (dk_at dksX2_mustName_3 15 rfl rfl)
theorem dX2_mustName_189 : decode cX2_mustName 189 = .ok (.invokevirtual 71, 3) := dk_182 0 71 (dk_at dksX2_mustName_3 17 rfl rfl)
theorem dX2_mustName_192 : decode cX2_mustName 192 = .ok (.ifCond .eq 226, 3) := dk_153 0 226 (dk_at dksX2_mustName_3 20 rfl rfl)
theorem dX2_mustName_195 : decode cX2_mustName 195 = .ok (.iconst 1, 1) := dk_4 (dk_at dksX2_mustName_3 23 rfl rfl)
theorem dX2_mustName_196 : decode cX2_mustName 196 = .ok (.istore_n 2, 1) := dk_61 (dk_at dksX2_mustName_4 0 rfl rfl)
theorem dX2_mustName_197 : decode cX2_mustName 197 = .ok (.goto 221, 3) := dk_167 0 221 (dk_at dksX2_mustName_4 1 rfl rfl)
theorem dX2_mustName_200 : decode cX2_mustName 200 = .ok (.aload_n 1, 1) := dk_43 (dk_at dksX2_mustName_4 4 rfl rfl)
theorem dX2_mustName_201 : decode cX2_mustName 201 = .ok (.ldc 94, 2) := dk_18 94 (dk_at dksX2_mustName_4 5 rfl rfl)
theorem dX2_mustName_203 : decode cX2_mustName 203 = .ok (.invokevirtual 71, 3) := dk_182 0 71 (dk_at dksX2_mustName_4 7 rfl rfl)
theorem dX2_mustName_206 : decode cX2_mustName 206 = .ok (.ifCond .eq 212, 3) := dk_153 0 212 (dk_at dksX2_mustName_4 10 rfl rfl)
theorem dX2_mustName_209 : decode cX2_mustName 209 = .ok (.iconst 2, 1) := dk_5 (dk_at dksX2_mustName_4 13 rfl rfl)
theorem dX2_mustName_210 : decode cX2_mustName 210 = .ok (.istore_n 2, 1) := dk_61 (dk_at dksX2_mustName_4 14 rfl rfl)
theorem dX2_mustName_211 : decode cX2_mustName 211 = .ok (.goto 207, 3) := dk_167 0 207 (dk_at dksX2_mustName_4 15 rfl rfl)
theorem dX2_mustName_214 : decode cX2_mustName 214 = .ok (.aload_n 1, 1) := dk_43 (dk_at dksX2_mustName_4 18 rfl rfl)
theorem dX2_mustName_215 : decode cX2_mustName 215 = .ok (.ldc 96, 2) := dk_18 96 (dk_at dksX2_mustName_4 19 rfl rfl)
theorem dX2_mustName_217 : decode cX2_mustName 217 = .ok (.invokevirtual 71, 3) := dk_182 0 71 (dk_at dksX2_mustName_4 21 rfl rfl)
theorem dX2_mustName_220 : decode cX2_mustName 220 = .ok (.ifCond .eq 198, 3) := dk_153 0 198 (dk_at dksX2_mustName_5 0 rfl rfl)
theorem dX2_mustName_223 : decode cX2_mustName 223 = .ok (.iconst 3, 1) := dk_6 (dk_at dksX2_mustName_5 3 rfl rfl)
theorem dX2_mustName_224 : decode cX2_mustName 224 = .ok (.istore_n 2, 1) := dk_61 (dk_at dksX2_mustName_5 4 rfl rfl)
theorem dX2_mustName_225 : decode cX2_mustName 225 = .ok (.goto 193, 3) := dk_167 0 193 (dk_at dksX2_mustName_5 5 rfl rfl)
theorem dX2_mustName_228 : decode cX2_mustName 228 = .ok (.aload_n 1, 1) := dk_43 (dk_at dksX2_mustName_5 8 rfl rfl)
theorem dX2_mustName_229 : decode cX2_mustName 229 = .ok (.ldc 98, 2) := dk_18 98 (dk_at dksX2_mustName_5 9 rfl rfl)
theorem dX2_mustName_231 : decode cX2_mustName 231 = .ok (.invokevirtual 71, 3) := dk_182 0 71 (dk_at dksX2_mustName_5 11 rfl rfl)
theorem dX2_mustName_234 : decode cX2_mustName 234 = .ok (.ifCond .eq 184, 3) := dk_153 0 184 (dk_at dksX2_mustName_5 14 rfl rfl)
theorem dX2_mustName_237 : decode cX2_mustName 237 = .ok (.iconst 4, 1) := dk_7 (dk_at dksX2_mustName_5 17 rfl rfl)
theorem dX2_mustName_238 : decode cX2_mustName 238 = .ok (.istore_n 2, 1) := dk_61 (dk_at dksX2_mustName_5 18 rfl rfl)
theorem dX2_mustName_239 : decode cX2_mustName 239 = .ok (.goto 179, 3) := dk_167 0 179 (dk_at dksX2_mustName_5 19 rfl rfl)
theorem dX2_mustName_242 : decode cX2_mustName 242 = .ok (.aload_n 1, 1) := dk_43 (dk_at dksX2_mustName_5 22 rfl rfl)
theorem dX2_mustName_243 : decode cX2_mustName 243 = .ok (.ldc 100, 2) := dk_18 100 (dk_at dksX2_mustName_6 0 rfl rfl)
theorem dX2_mustName_245 : decode cX2_mustName 245 = .ok (.invokevirtual 71, 3) := dk_182 0 71 (dk_at dksX2_mustName_6 2 rfl rfl)
theorem dX2_mustName_248 : decode cX2_mustName 248 = .ok (.ifCond .eq 170, 3) := dk_153 0 170 (dk_at dksX2_mustName_6 5 rfl rfl)
theorem dX2_mustName_251 : decode cX2_mustName 251 = .ok (.iconst 5, 1) := dk_8 (dk_at dksX2_mustName_6 8 rfl rfl)
theorem dX2_mustName_252 : decode cX2_mustName 252 = .ok (.istore_n 2, 1) := dk_61 (dk_at dksX2_mustName_6 9 rfl rfl)
theorem dX2_mustName_253 : decode cX2_mustName 253 = .ok (.goto 165, 3) := dk_167 0 165 (dk_at dksX2_mustName_6 10 rfl rfl)
theorem dX2_mustName_256 : decode cX2_mustName 256 = .ok (.aload_n 1, 1) := dk_43 (dk_at dksX2_mustName_6 13 rfl rfl)
theorem dX2_mustName_257 : decode cX2_mustName 257 = .ok (.ldc 102, 2) := dk_18 102 (dk_at dksX2_mustName_6 14 rfl rfl)
theorem dX2_mustName_259 : decode cX2_mustName 259 = .ok (.invokevirtual 71, 3) := dk_182 0 71 (dk_at dksX2_mustName_6 16 rfl rfl)
theorem dX2_mustName_262 : decode cX2_mustName 262 = .ok (.ifCond .eq 156, 3) := dk_153 0 156 (dk_at dksX2_mustName_6 19 rfl rfl)
theorem dX2_mustName_265 : decode cX2_mustName 265 = .ok (.bipush 6, 2) := dk_16 6 (dk_at dksX2_mustName_6 22 rfl rfl)
theorem dX2_mustName_267 : decode cX2_mustName 267 = .ok (.istore_n 2, 1) := dk_61 (dk_at dksX2_mustName_7 0 rfl rfl)
theorem dX2_mustName_268 : decode cX2_mustName 268 = .ok (.goto 150, 3) := dk_167 0 150 (dk_at dksX2_mustName_7 1 rfl rfl)
theorem dX2_mustName_271 : decode cX2_mustName 271 = .ok (.aload_n 1, 1) := dk_43 (dk_at dksX2_mustName_7 4 rfl rfl)
theorem dX2_mustName_272 : decode cX2_mustName 272 = .ok (.ldc 104, 2) := dk_18 104 (dk_at dksX2_mustName_7 5 rfl rfl)
theorem dX2_mustName_274 : decode cX2_mustName 274 = .ok (.invokevirtual 71, 3) := dk_182 0 71 (dk_at dksX2_mustName_7 7 rfl rfl)
theorem dX2_mustName_277 : decode cX2_mustName 277 = .ok (.ifCond .eq 141, 3) := dk_153 0 141 (dk_at dksX2_mustName_7 10 rfl rfl)
theorem dX2_mustName_280 : decode cX2_mustName 280 = .ok (.bipush 7, 2) := dk_16 7 (dk_at dksX2_mustName_7 13 rfl rfl)
theorem dX2_mustName_282 : decode cX2_mustName 282 = .ok (.istore_n 2, 1) := dk_61 (dk_at dksX2_mustName_7 15 rfl rfl)
theorem dX2_mustName_283 : decode cX2_mustName 283 = .ok (.goto 135, 3) := dk_167 0 135 (dk_at dksX2_mustName_7 16 rfl rfl)
theorem dX2_mustName_286 : decode cX2_mustName 286 = .ok (.aload_n 1, 1) := dk_43 (dk_at dksX2_mustName_7 19 rfl rfl)
theorem dX2_mustName_287 : decode cX2_mustName 287 = .ok (.ldc 106, 2) := dk_18 106 (dk_at dksX2_mustName_7 20 rfl rfl)
theorem dX2_mustName_289 : decode cX2_mustName 289 = .ok (.invokevirtual 71, 3) := dk_182 0 71 (dk_at dksX2_mustName_8 0 rfl rfl)
theorem dX2_mustName_292 : decode cX2_mustName 292 = .ok (.ifCond .eq 126, 3) := dk_153 0 126 (dk_at dksX2_mustName_8 3 rfl rfl)
theorem dX2_mustName_295 : decode cX2_mustName 295 = .ok (.bipush 8, 2) := dk_16 8 (dk_at dksX2_mustName_8 6 rfl rfl)
theorem dX2_mustName_297 : decode cX2_mustName 297 = .ok (.istore_n 2, 1) := dk_61 (dk_at dksX2_mustName_8 8 rfl rfl)
theorem dX2_mustName_298 : decode cX2_mustName 298 = .ok (.goto 120, 3) := dk_167 0 120 (dk_at dksX2_mustName_8 9 rfl rfl)
theorem dX2_mustName_301 : decode cX2_mustName 301 = .ok (.aload_n 1, 1) := dk_43 (dk_at dksX2_mustName_8 12 rfl rfl)
theorem dX2_mustName_302 : decode cX2_mustName 302 = .ok (.ldc 108, 2) := dk_18 108 (dk_at dksX2_mustName_8 13 rfl rfl)
theorem dX2_mustName_304 : decode cX2_mustName 304 = .ok (.invokevirtual 71, 3) := dk_182 0 71 (dk_at dksX2_mustName_8 15 rfl rfl)
theorem dX2_mustName_307 : decode cX2_mustName 307 = .ok (.ifCond .eq 111, 3) := dk_153 0 111 (dk_at dksX2_mustName_8 18 rfl rfl)
theorem dX2_mustName_310 : decode cX2_mustName 310 = .ok (.bipush 9, 2) := dk_16 9 (dk_at dksX2_mustName_8 21 rfl rfl)
theorem dX2_mustName_312 : decode cX2_mustName 312 = .ok (.istore_n 2, 1) := dk_61 (dk_at dksX2_mustName_8 23 rfl rfl)
theorem dX2_mustName_313 : decode cX2_mustName 313 = .ok (.goto 105, 3) := dk_167 0 105 (dk_at dksX2_mustName_9 0 rfl rfl)
theorem dX2_mustName_316 : decode cX2_mustName 316 = .ok (.aload_n 1, 1) := dk_43 (dk_at dksX2_mustName_9 3 rfl rfl)
theorem dX2_mustName_317 : decode cX2_mustName 317 = .ok (.ldc 110, 2) := dk_18 110 (dk_at dksX2_mustName_9 4 rfl rfl)
theorem dX2_mustName_319 : decode cX2_mustName 319 = .ok (.invokevirtual 71, 3) := dk_182 0 71 (dk_at dksX2_mustName_9 6 rfl rfl)
theorem dX2_mustName_322 : decode cX2_mustName 322 = .ok (.ifCond .eq 96, 3) := dk_153 0 96 (dk_at dksX2_mustName_9 9 rfl rfl)
theorem dX2_mustName_325 : decode cX2_mustName 325 = .ok (.bipush 10, 2) := dk_16 10 (dk_at dksX2_mustName_9 12 rfl rfl)
theorem dX2_mustName_327 : decode cX2_mustName 327 = .ok (.istore_n 2, 1) := dk_61 (dk_at dksX2_mustName_9 14 rfl rfl)
theorem dX2_mustName_328 : decode cX2_mustName 328 = .ok (.goto 90, 3) := dk_167 0 90 (dk_at dksX2_mustName_9 15 rfl rfl)
theorem dX2_mustName_331 : decode cX2_mustName 331 = .ok (.aload_n 1, 1) := dk_43 (dk_at dksX2_mustName_9 18 rfl rfl)
theorem dX2_mustName_332 : decode cX2_mustName 332 = .ok (.ldc 112, 2) := dk_18 112 (dk_at dksX2_mustName_9 19 rfl rfl)
theorem dX2_mustName_334 : decode cX2_mustName 334 = .ok (.invokevirtual 71, 3) := dk_182 0 71 (dk_at dksX2_mustName_9 21 rfl rfl)
theorem dX2_mustName_337 : decode cX2_mustName 337 = .ok (.ifCond .eq 81, 3) := dk_153 0 81 (dk_at dksX2_mustName_10 0 rfl rfl)
theorem dX2_mustName_340 : decode cX2_mustName 340 = .ok (.bipush 11, 2) := dk_16 11 (dk_at dksX2_mustName_10 3 rfl rfl)
theorem dX2_mustName_342 : decode cX2_mustName 342 = .ok (.istore_n 2, 1) := dk_61 (dk_at dksX2_mustName_10 5 rfl rfl)
theorem dX2_mustName_343 : decode cX2_mustName 343 = .ok (.goto 75, 3) := dk_167 0 75 (dk_at dksX2_mustName_10 6 rfl rfl)
theorem dX2_mustName_346 : decode cX2_mustName 346 = .ok (.aload_n 1, 1) := dk_43 (dk_at dksX2_mustName_10 9 rfl rfl)
theorem dX2_mustName_347 : decode cX2_mustName 347 = .ok (.ldc 114, 2) := dk_18 114 (dk_at dksX2_mustName_10 10 rfl rfl)
theorem dX2_mustName_349 : decode cX2_mustName 349 = .ok (.invokevirtual 71, 3) := dk_182 0 71 (dk_at dksX2_mustName_10 12 rfl rfl)
theorem dX2_mustName_352 : decode cX2_mustName 352 = .ok (.ifCond .eq 66, 3) := dk_153 0 66 (dk_at dksX2_mustName_10 15 rfl rfl)
theorem dX2_mustName_355 : decode cX2_mustName 355 = .ok (.bipush 12, 2) := dk_16 12 (dk_at dksX2_mustName_10 18 rfl rfl)
theorem dX2_mustName_357 : decode cX2_mustName 357 = .ok (.istore_n 2, 1) := dk_61 (dk_at dksX2_mustName_10 20 rfl rfl)
theorem dX2_mustName_358 : decode cX2_mustName 358 = .ok (.goto 60, 3) := dk_167 0 60 (dk_at dksX2_mustName_10 21 rfl rfl)
theorem dX2_mustName_361 : decode cX2_mustName 361 = .ok (.aload_n 1, 1) := dk_43 (dk_at dksX2_mustName_11 0 rfl rfl)
theorem dX2_mustName_362 : decode cX2_mustName 362 = .ok (.ldc 116, 2) := dk_18 116 (dk_at dksX2_mustName_11 1 rfl rfl)
theorem dX2_mustName_364 : decode cX2_mustName 364 = .ok (.invokevirtual 71, 3) := dk_182 0 71 (dk_at dksX2_mustName_11 3 rfl rfl)
theorem dX2_mustName_367 : decode cX2_mustName 367 = .ok (.ifCond .eq 51, 3) := dk_153 0 51 (dk_at dksX2_mustName_11 6 rfl rfl)
theorem dX2_mustName_370 : decode cX2_mustName 370 = .ok (.bipush 13, 2) := dk_16 13 (dk_at dksX2_mustName_11 9 rfl rfl)
theorem dX2_mustName_372 : decode cX2_mustName 372 = .ok (.istore_n 2, 1) := dk_61 (dk_at dksX2_mustName_11 11 rfl rfl)
theorem dX2_mustName_373 : decode cX2_mustName 373 = .ok (.goto 45, 3) := dk_167 0 45 (dk_at dksX2_mustName_11 12 rfl rfl)
theorem dX2_mustName_376 : decode cX2_mustName 376 = .ok (.aload_n 1, 1) := dk_43 (dk_at dksX2_mustName_11 15 rfl rfl)
theorem dX2_mustName_377 : decode cX2_mustName 377 = .ok (.ldc 118, 2) := dk_18 118 (dk_at dksX2_mustName_11 16 rfl rfl)
theorem dX2_mustName_379 : decode cX2_mustName 379 = .ok (.invokevirtual 71, 3) := dk_182 0 71 (dk_at dksX2_mustName_11 18 rfl rfl)
theorem dX2_mustName_382 : decode cX2_mustName 382 = .ok (.ifCond .eq 36, 3) := dk_153 0 36 (dk_at dksX2_mustName_11 21 rfl rfl)
theorem dX2_mustName_385 : decode cX2_mustName 385 = .ok (.bipush 14, 2) := dk_16 14 (dk_at dksX2_mustName_12 0 rfl rfl)
theorem dX2_mustName_387 : decode cX2_mustName 387 = .ok (.istore_n 2, 1) := dk_61 (dk_at dksX2_mustName_12 2 rfl rfl)
theorem dX2_mustName_388 : decode cX2_mustName 388 = .ok (.goto 30, 3) := dk_167 0 30 (dk_at dksX2_mustName_12 3 rfl rfl)
theorem dX2_mustName_391 : decode cX2_mustName 391 = .ok (.aload_n 1, 1) := dk_43 (dk_at dksX2_mustName_12 6 rfl rfl)
theorem dX2_mustName_392 : decode cX2_mustName 392 = .ok (.ldc 120, 2) := dk_18 120 (dk_at dksX2_mustName_12 7 rfl rfl)
theorem dX2_mustName_394 : decode cX2_mustName 394 = .ok (.invokevirtual 71, 3) := dk_182 0 71 (dk_at dksX2_mustName_12 9 rfl rfl)
theorem dX2_mustName_397 : decode cX2_mustName 397 = .ok (.ifCond .eq 21, 3) := dk_153 0 21 (dk_at dksX2_mustName_12 12 rfl rfl)
theorem dX2_mustName_400 : decode cX2_mustName 400 = .ok (.bipush 15, 2) := dk_16 15 (dk_at dksX2_mustName_12 15 rfl rfl)
theorem dX2_mustName_402 : decode cX2_mustName 402 = .ok (.istore_n 2, 1) := dk_61 (dk_at dksX2_mustName_12 17 rfl rfl)
theorem dX2_mustName_403 : decode cX2_mustName 403 = .ok (.goto 15, 3) := dk_167 0 15 (dk_at dksX2_mustName_12 18 rfl rfl)
theorem dX2_mustName_406 : decode cX2_mustName 406 = .ok (.aload_n 1, 1) := dk_43 (dk_at dksX2_mustName_12 21 rfl rfl)
theorem dX2_mustName_407 : decode cX2_mustName 407 = .ok (.ldc 122, 2) := dk_18 122 (dk_at dksX2_mustName_12 22 rfl rfl)
theorem dX2_mustName_409 : decode cX2_mustName 409 = .ok (.invokevirtual 71, 3) := dk_182 0 71 (dk_at dksX2_mustName_13 0 rfl rfl)
theorem dX2_mustName_412 : decode cX2_mustName 412 = .ok (.ifCond .eq 6, 3) := dk_153 0 6 (dk_at dksX2_mustName_13 3 rfl rfl)
theorem dX2_mustName_415 : decode cX2_mustName 415 = .ok (.bipush 16, 2) := dk_16 16 (dk_at dksX2_mustName_13 6 rfl rfl)
theorem dX2_mustName_417 : decode cX2_mustName 417 = .ok (.istore_n 2, 1) := dk_61 (dk_at dksX2_mustName_13 8 rfl rfl)
theorem dX2_mustName_418 : decode cX2_mustName 418 = .ok (.iload_n 2, 1) := dk_28 (dk_at dksX2_mustName_13 9 rfl rfl)
theorem dX2_mustName_419 : decode cX2_mustName 419 = .ok (.tableswitch 87 0 16 #[81, 81, 81, 81, 81, 81, 81, 81, 81, 81, 81, 81, 81, 81, 81, 81, 81], 81) := by decide +kernel
theorem dX2_mustName_500 : decode cX2_mustName 500 = .ok (.aload_n 0, 1) := dk_42 (dk_at dksX2_mustName_15 0 rfl rfl)
theorem dX2_mustName_501 : decode cX2_mustName 501 = .ok (.iconst 1, 1) := dk_4 (dk_at dksX2_mustName_15 1 rfl rfl)
theorem dX2_mustName_502 : decode cX2_mustName 502 = .ok (.invokevirtual 82, 3) := dk_182 0 82 (dk_at dksX2_mustName_15 2 rfl rfl)
theorem dX2_mustName_505 : decode cX2_mustName 505 = .ok (.athrow, 1) := dk_191 (dk_at dksX2_mustName_15 5 rfl rfl)
theorem dX2_mustName_506 : decode cX2_mustName 506 = .ok (.return_, 1) := dk_177 (dk_at dksX2_mustName_15 6 rfl rfl)
def dkwX8_among_1 : List UInt8 := [132, 3, 1, 167, 255, 231, 1, 176]
abbrev dktX8_among_1 : List UInt8 := dkwX8_among_1 ++ []
def dkwX8_among_0 : List UInt8 := [3, 62, 29, 27, 162, 0, 26, 42, 29, 50, 180, 0, 66, 44, 182, 0, 72, 153, 0, 7, 42, 29, 50, 176]
abbrev dktX8_among_0 : List UInt8 := dkwX8_among_0 ++ dktX8_among_1
theorem dksX8_among_0 : cX8_among.data.toList.drop 0 = dktX8_among_0 := by decide +kernel
theorem dksX8_among_1 : cX8_among.data.toList.drop 24 = dktX8_among_1 := dk_seg dksX8_among_0 24 rfl rfl
theorem dX8_among_0 : decode cX8_among 0 = .ok (.iconst 0, 1) := dk_3 (dk_at dksX8_among_0 0 rfl rfl)
theorem dX8_among_1 : decode cX8_among 1 = .ok (.istore_n 3, 1) := dk_62 (dk_at dksX8_among_0 1 rfl rfl)
theorem dX8_among_2 : decode cX8_among 2 = .ok (.iload_n 3, 1) := dk_29 (dk_at dksX8_among_0 2 rfl rfl)
theorem dX8_among_3 : decode cX8_among 3 = .ok (.iload_n 1, 1) := dk_27 (dk_at dksX8_among_0 3 rfl rfl)
theorem dX8_among_4 : decode cX8_among 4 = .ok (.if_icmp .ge 26, 3) := dk_162 0 26 (dk_at dksX8_among_0 4 rfl rfl)
theorem dX8_among_7 : decode cX8_among 7 = .ok (.aload_n 0, 1) := dk_42 (dk_at dksX8_among_0 7 rfl rfl)
theorem dX8_among_8 : decode cX8_among 8 = .ok (.iload_n 3, 1) := dk_29 (dk_at dksX8_among_0 8 rfl rfl)
theorem dX8_among_9 : decode cX8_among 9 = .ok (.aaload, 1) := dk_50 (dk_at dksX8_among_0 9 rfl rfl)
theorem dX8_among_10 : decode cX8_among 10 = .ok (.getfield 66, 3) := dk_180 0 66 (dk_at dksX8_among_0 10 rfl rfl)
theorem dX8_among_13 : decode cX8_among 13 = .ok (.aload_n 2, 1) := dk_44 (dk_at dksX8_among_0 13 rfl rfl)
theorem dX8_among_14 : decode cX8_among 14 = .ok (.invokevirtual 72, 3) := dk_182 0 72 (dk_at dksX8_among_0 14 rfl rfl)
theorem dX8_among_17 : decode cX8_among 17 = .ok (.ifCond .eq 7, 3) := dk_153 0 7 (dk_at dksX8_among_0 17 rfl rfl)
theorem dX8_among_20 : decode cX8_among 20 = .ok (.aload_n 0, 1) := dk_42 (dk_at dksX8_among_0 20 rfl rfl)
theorem dX8_among_21 : decode cX8_among 21 = .ok (.iload_n 3, 1) := dk_29 (dk_at dksX8_among_0 21 rfl rfl)
theorem dX8_among_22 : decode cX8_among 22 = .ok (.aaload, 1) := dk_50 (dk_at dksX8_among_0 22 rfl rfl)
theorem dX8_among_23 : decode cX8_among 23 = .ok (.areturn, 1) := dk_176 (dk_at dksX8_among_0 23 rfl rfl)
theorem dX8_among_24 : decode cX8_among 24 = .ok (.iinc 3 1, 3) := dk_132 3 1 (dk_at dksX8_among_1 0 rfl rfl)
theorem dX8_among_27 : decode cX8_among 27 = .ok (.goto (-25), 3) := dk_167 255 231 (dk_at dksX8_among_1 3 rfl rfl)
theorem dX8_among_30 : decode cX8_among 30 = .ok (.aconst_null, 1) := dk_1 (dk_at dksX8_among_1 6 rfl rfl)
theorem dX8_among_31 : decode cX8_among 31 = .ok (.areturn, 1) := dk_176 (dk_at dksX8_among_1 7 rfl rfl)
def dkwX8_find_3 : List UInt8 := [180, 0, 62, 42, 180, 0, 95, 43, 184, 0, 82, 167, 0, 4, 44, 176]
abbrev dktX8_find_3 : List UInt8 := dkwX8_find_3 ++ []
def dkwX8_find_2 : List UInt8 := [77, 44, 199, 0, 16, 42, 180, 0, 50, 42, 180, 0, 92, 43, 184, 0, 82, 77, 44, 199, 0, 18, 42]
abbrev dktX8_find_2 : List UInt8 := dkwX8_find_2 ++ dktX8_find_3
def dkwX8_find_1 : List UInt8 := [180, 0, 86, 43, 184, 0, 82, 77, 44, 199, 0, 16, 42, 180, 0, 38, 42, 180, 0, 89, 43, 184, 0, 82]
abbrev dktX8_find_1 : List UInt8 := dkwX8_find_1 ++ dktX8_find_2
def dkwX8_find_0 : List UInt8 := [42, 180, 0, 11, 42, 180, 0, 78, 43, 184, 0, 82, 77, 44, 199, 0, 16, 42, 180, 0, 32, 42]
abbrev dktX8_find_0 : List UInt8 := dkwX8_find_0 ++ dktX8_find_1
theorem dksX8_find_0 : cX8_find.data.toList.drop 0 = dktX8_find_0 := by decide +kernel
theorem dksX8_find_1 : cX8_find.data.toList.drop 22 = dktX8_find_1 := dk_seg dksX8_find_0 22 rfl rfl
theorem dksX8_find_2 : cX8_find.data.toList.drop 46 = dktX8_find_2 := dk_seg dksX8_find_1 24 rfl rfl
theorem dksX8_find_3 : cX8_find.data.toList.drop 69 = dktX8_find_3 := dk_seg dksX8_find_2 23 rfl rfl
theorem dX8_find_0 : decode cX8_find 0 = .ok (.aload_n 0, 1) := dk_42 (dk_at dksX8_find_0 0 rfl rfl)
theorem dX8_find_1 : decode cX8_find 1 = .ok (.getfield 11, 3) := dk_180 0 11 (dk_at dksX8_find_0 1 rfl rfl)
theorem dX8_find_4 : decode cX8_find 4 = .ok (.aload_n 0, 1) := dk_42 (dk_at dksX8_find_0 4 rfl rfl)
theorem dX8_find_5 : decode cX8_find 5 = .ok (.getfield 78, 3) := dk_180 0 78 (dk_at dksX8_find_0 5 rfl rfl)
theorem dX8_find_8 : decode cX8_find 8 = .ok (.aload_n 1, 1) := dk_43 (dk_at dksX8_find_0 8 rfl rfl)
theorem dX8_find_9 : decode cX8_find 9 = .ok (.invokestatic 82, 3) := dk_184 0 82 (dk_at dksX8_find_0 9 rfl rfl)
theorem dX8_find_12 : decode cX8_find 12 = .ok (.astore_n 2, 1) := dk_77 (dk_at dksX8_find_0 12 rfl rfl)
theorem dX8_find_13 : decode cX8_find 13 = .ok (.aload_n 2, 1) := dk_44 (dk_at dksX8_find_0 13 rfl rfl)
theorem dX8_find_14 : decode cX8_find 14 = .ok (.ifnonnull 16, 3) := dk_199 0 16 (dk_at dksX8_find_0 14 rfl rfl)
theorem dX8_find_17 : decode cX8_find 17 = .ok (.aload_n 0, 1) := dk_42 (dk_at dksX8_find_0 17 rfl rfl)
theorem dX8_find_18 : decode cX8_find 18 = .ok (.getfield 32, 3) := dk_180 0 32 (dk_at dksX8_find_0 18 rfl rfl)
theorem dX8_find_21 : decode cX8_find 21 = .ok (.aload_n 0, 1) := dk_42 (dk_at dksX8_find_0 21 rfl rfl)
theorem dX8_find_22 : decode cX8_find 22 = .ok (.getfield 86, 3) := dk_180 0 86 (dk_at dksX8_find_1 0 rfl rfl)
theorem dX8_find_25 : decode cX8_find 25 = .ok (.aload_n 1, 1) := dk_43 (dk_at dksX8_find_1 3 rfl rfl)
theorem dX8_find_26 : decode cX8_find 26 = .ok (.invokestatic 82, 3) := dk_184 0 82 (dk_at dksX8_find_1 4 rfl rfl)
theorem dX8_find_29 : decode cX8_find 29 = .ok (.astore_n 2, 1) := dk_77 (dk_at dksX8_find_1 7 rfl rfl)
theorem dX8_find_30 : decode cX8_find 30 = .ok (.aload_n 2, 1) := dk_44 (dk_at dksX8_find_1 8 rfl rfl)
theorem dX8_find_31 : decode cX8_find 31 = .ok (.ifnonnull 16, 3) := dk_199 0 16 (dk_at dksX8_find_1 9 rfl rfl)
theorem dX8_find_34 : decode cX8_find 34 = .ok (.aload_n 0, 1) := dk_42 (dk_at dksX8_find_1 12 rfl rfl)
theorem dX8_find_35 : decode cX8_find 35 = .ok (.getfield 38, 3) := dk_180 0 38 (dk_at dksX8_find_1 13 rfl rfl)
theorem dX8_find_38 : decode cX8_find 38 = .ok (.aload_n 0, 1) := dk_42 (dk_at dksX8_find_1 16 rfl rfl)
theorem dX8_find_39 : decode cX8_find 39 = .ok (.getfield 89, 3) := dk_180 0 89 (dk_at dksX8_find_1 17 rfl rfl)
theorem dX8_find_42 : decode cX8_find 42 = .ok (.aload_n 1, 1) := dk_43 (dk_at dksX8_find_1 20 rfl rfl)
theorem dX8_find_43 : decode cX8_find 43 = .ok (.invokestatic 82, 3) := dk_184 0 82 (dk_at dksX8_find_1 21 rfl rfl)
theorem dX8_find_46 : decode cX8_find 46 = .ok (.astore_n 2, 1) := dk_77 (dk_at dksX8_find_2 0 rfl rfl)
theorem dX8_find_47 : decode cX8_find 47 = .ok (.aload_n 2, 1) := dk_44 (dk_at dksX8_find_2 1 rfl rfl)
theorem dX8_find_48 : decode cX8_find 48 = .ok (.ifnonnull 16, 3) := dk_199 0 16 (dk_at dksX8_find_2 2 rfl rfl)
theorem dX8_find_51 : decode cX8_find 51 = .ok (.aload_n 0, 1) := dk_42 (dk_at dksX8_find_2 5 rfl rfl)
theorem dX8_find_52 : decode cX8_find 52 = .ok (.getfield 50, 3) := dk_180 0 50 (dk_at dksX8_find_2 6 rfl rfl)
theorem dX8_find_55 : decode cX8_find 55 = .ok (.aload_n 0, 1) := dk_42 (dk_at dksX8_find_2 9 rfl rfl)
theorem dX8_find_56 : decode cX8_find 56 = .ok (.getfield 92, 3) := dk_180 0 92 (dk_at dksX8_find_2 10 rfl rfl)
theorem dX8_find_59 : decode cX8_find 59 = .ok (.aload_n 1, 1) := dk_43 (dk_at dksX8_find_2 13 rfl rfl)
theorem dX8_find_60 : decode cX8_find 60 = .ok (.invokestatic 82, 3) := dk_184 0 82 (dk_at dksX8_find_2 14 rfl rfl)
theorem dX8_find_63 : decode cX8_find 63 = .ok (.astore_n 2, 1) := dk_77 (dk_at dksX8_find_2 17 rfl rfl)
theorem dX8_find_64 : decode cX8_find 64 = .ok (.aload_n 2, 1) := dk_44 (dk_at dksX8_find_2 18 rfl rfl)
theorem dX8_find_65 : decode cX8_find 65 = .ok (.ifnonnull 18, 3) := dk_199 0 18 (dk_at dksX8_find_2 19 rfl rfl)
theorem dX8_find_68 : decode cX8_find 68 = .ok (.aload_n 0, 1) := dk_42 (dk_at dksX8_find_2 22 rfl rfl)
theorem dX8_find_69 : decode cX8_find 69 = .ok (.getfield 62, 3) := dk_180 0 62 (dk_at dksX8_find_3 0 rfl rfl)
theorem dX8_find_72 : decode cX8_find 72 = .ok (.aload_n 0, 1) := dk_42 (dk_at dksX8_find_3 3 rfl rfl)
theorem dX8_find_73 : decode cX8_find 73 = .ok (.getfield 95, 3) := dk_180 0 95 (dk_at dksX8_find_3 4 rfl rfl)
theorem dX8_find_76 : decode cX8_find 76 = .ok (.aload_n 1, 1) := dk_43 (dk_at dksX8_find_3 7 rfl rfl)
theorem dX8_find_77 : decode cX8_find 77 = .ok (.invokestatic 82, 3) := dk_184 0 82 (dk_at dksX8_find_3 8 rfl rfl)
theorem dX8_find_80 : decode cX8_find 80 = .ok (.goto 4, 3) := dk_167 0 4 (dk_at dksX8_find_3 11 rfl rfl)
theorem dX8_find_83 : decode cX8_find 83 = .ok (.aload_n 2, 1) := dk_44 (dk_at dksX8_find_3 14 rfl rfl)
theorem dX8_find_84 : decode cX8_find 84 = .ok (.areturn, 1) := dk_176 (dk_at dksX8_find_3 15 rfl rfl)
def dkwX2_newName_1 : List UInt8 := [42, 180, 0, 61, 76, 42, 182, 0, 75, 43, 176]
abbrev dktX2_newName_1 : List UInt8 := dkwX2_newName_1 ++ []
def dkwX2_newName_0 : List UInt8 := [42, 182, 0, 124, 42, 180, 0, 127, 42, 180, 0, 61, 182, 0, 130, 198, 0, 9, 42, 6, 182, 0, 82, 191]
abbrev dktX2_newName_0 : List UInt8 := dkwX2_newName_0 ++ dktX2_newName_1
theorem dksX2_newName_0 : cX2_newName.data.toList.drop 0 = dktX2_newName_0 := by decide +kernel
theorem dksX2_newName_1 : cX2_newName.data.toList.drop 24 = dktX2_newName_1 := dk_seg dksX2_newName_0 24 rfl rfl
theorem dX2_newName_0 : decode cX2_newName 0 = .ok (.aload_n 0, 1) := dk_42 (dk_at dksX2_newName_0 0 rfl rfl)
theorem dX2_newName_1 : decode cX2_newName 1 = .ok (.invokevirtual 124, 3) := dk_182 0 124 (dk_at dksX2_newName_0 1 rfl rfl)
theorem dX2_newName_4 : decode cX2_newName 4 = .ok (.aload_n 0, 1) := dk_42 (dk_at dksX2_newName_0 4 rfl rfl)
theorem dX2_newName_5 : decode cX2_newName 5 = .ok (.getfield 127, 3) := dk_180 0 127 (dk_at dksX2_newName_0 5 rfl rfl)
theorem dX2_newName_8 : decode cX2_newName 8 = .ok (.aload_n 0, 1) := dk_42 (dk_at dksX2_newName_0 8 rfl rfl)
theorem dX2_newName_9 : decode cX2_newName 9 = .ok (.getfield 61, 3) := dk_180 0 61 (dk_at dksX2_newName_0 9 rfl rfl)
theorem dX2_newName_12 : decode cX2_newName 12 = .ok (.invokevirtual 130, 3) := dk_182 0 130 (dk_at dksX2_newName_0 12 rfl rfl)
theorem dX2_newName_15 : decode cX2_newName 15 = .ok (.ifnull 9, 3) := dk_198 0 9 (dk_at dksX2_newName_0 15 rfl rfl)
theorem dX2_newName_18 : decode cX2_newName 18 = .ok (.aload_n 0, 1) := dk_42 (dk_at dksX2_newName_0 18 rfl rfl)
theorem dX2_newName_19 : decode cX2_newName 19 = .ok (.iconst 3, 1) := dk_6 (dk_at dksX2_newName_0 19 rfl rfl)
theorem dX2_newName_20 : decode cX2_newName 20 = .ok (.invokevirtual 82, 3) := dk_182 0 82 (dk_at dksX2_newName_0 20 rfl rfl)
theorem dX2_newName_23 : decode cX2_newName 23 = .ok (.athrow, 1) := dk_191 (dk_at dksX2_newName_0 23 rfl rfl)
theorem dX2_newName_24 : decode cX2_newName 24 = .ok (.aload_n 0, 1) := dk_42 (dk_at dksX2_newName_1 0 rfl rfl)
theorem dX2_newName_25 : decode cX2_newName 25 = .ok (.getfield 61, 3) := dk_180 0 61 (dk_at dksX2_newName_1 1 rfl rfl)
theorem dX2_newName_28 : decode cX2_newName 28 = .ok (.astore_n 1, 1) := dk_76 (dk_at dksX2_newName_1 4 rfl rfl)
theorem dX2_newName_29 : decode cX2_newName 29 = .ok (.aload_n 0, 1) := dk_42 (dk_at dksX2_newName_1 5 rfl rfl)
theorem dX2_newName_30 : decode cX2_newName 30 = .ok (.invokevirtual 75, 3) := dk_182 0 75 (dk_at dksX2_newName_1 6 rfl rfl)
theorem dX2_newName_33 : decode cX2_newName 33 = .ok (.aload_n 1, 1) := dk_43 (dk_at dksX2_newName_1 9 rfl rfl)
theorem dX2_newName_34 : decode cX2_newName 34 = .ok (.areturn, 1) := dk_176 (dk_at dksX2_newName_1 10 rfl rfl)
def dkwX9_init_0 : List UInt8 := [42, 183, 0, 1, 42, 43, 181, 0, 7, 42, 28, 181, 0, 13, 177]
abbrev dktX9_init_0 : List UInt8 := dkwX9_init_0 ++ []
theorem dksX9_init_0 : cX9_init.data.toList.drop 0 = dktX9_init_0 := by decide +kernel
theorem dX9_init_0 : decode cX9_init 0 = .ok (.aload_n 0, 1) := dk_42 (dk_at dksX9_init_0 0 rfl rfl)
theorem dX9_init_1 : decode cX9_init 1 = .ok (.invokespecial 1, 3) := dk_183 0 1 (dk_at dksX9_init_0 1 rfl rfl)
theorem dX9_init_4 : decode cX9_init 4 = .ok (.aload_n 0, 1) := dk_42 (dk_at dksX9_init_0 4 rfl rfl)
theorem dX9_init_5 : decode cX9_init 5 = .ok (.aload_n 1, 1) := dk_43 (dk_at dksX9_init_0 5 rfl rfl)
theorem dX9_init_6 : decode cX9_init 6 = .ok (.putfield 7, 3) := dk_181 0 7 (dk_at dksX9_init_0 6 rfl rfl)
theorem dX9_init_9 : decode cX9_init 9 = .ok (.aload_n 0, 1) := dk_42 (dk_at dksX9_init_0 9 rfl rfl)
theorem dX9_init_10 : decode cX9_init 10 = .ok (.iload_n 2, 1) := dk_28 (dk_at dksX9_init_0 10 rfl rfl)
theorem dX9_init_11 : decode cX9_init 11 = .ok (.putfield 13, 3) := dk_181 0 13 (dk_at dksX9_init_0 11 rfl rfl)
theorem dX9_init_14 : decode cX9_init 14 = .ok (.return_, 1) := dk_177 (dk_at dksX9_init_0 14 rfl rfl)
def dkwX10_init_0 : List UInt8 := [42, 43, 28, 183, 0, 3, 42, 7, 188, 10, 181, 0, 9, 177]
abbrev dktX10_init_0 : List UInt8 := dkwX10_init_0 ++ []
theorem dksX10_init_0 : cX10_init.data.toList.drop 0 = dktX10_init_0 := by decide +kernel
theorem dX10_init_0 : decode cX10_init 0 = .ok (.aload_n 0, 1) := dk_42 (dk_at dksX10_init_0 0 rfl rfl)
theorem dX10_init_1 : decode cX10_init 1 = .ok (.aload_n 1, 1) := dk_43 (dk_at dksX10_init_0 1 rfl rfl)
theorem dX10_init_2 : decode cX10_init 2 = .ok (.iload_n 2, 1) := dk_28 (dk_at dksX10_init_0 2 rfl rfl)
theorem dX10_init_3 : decode cX10_init 3 = .ok (.invokespecial 3, 3) := dk_183 0 3 (dk_at dksX10_init_0 3 rfl rfl)
theorem dX10_init_6 : decode cX10_init 6 = .ok (.aload_n 0, 1) := dk_42 (dk_at dksX10_init_0 6 rfl rfl)
theorem dX10_init_7 : decode cX10_init 7 = .ok (.iconst 4, 1) := dk_7 (dk_at dksX10_init_0 7 rfl rfl)
theorem dX10_init_8 : decode cX10_init 8 = .ok (.newarray .int, 2) := dk_188_10 (dk_at dksX10_init_0 8 rfl rfl)
theorem dX10_init_10 : decode cX10_init 10 = .ok (.putfield 9, 3) := dk_181 0 9 (dk_at dksX10_init_0 10 rfl rfl)
theorem dX10_init_13 : decode cX10_init 13 = .ok (.return_, 1) := dk_177 (dk_at dksX10_init_0 13 rfl rfl)
def dkwX2_comma_0 : List UInt8 := [42, 180, 0, 47, 16, 44, 159, 0, 5, 3, 172, 42, 182, 0, 75, 4, 172]
abbrev dktX2_comma_0 : List UInt8 := dkwX2_comma_0 ++ []
theorem dksX2_comma_0 : cX2_comma.data.toList.drop 0 = dktX2_comma_0 := by decide +kernel
theorem dX2_comma_0 : decode cX2_comma 0 = .ok (.aload_n 0, 1) := dk_42 (dk_at dksX2_comma_0 0 rfl rfl)
theorem dX2_comma_1 : decode cX2_comma 1 = .ok (.getfield 47, 3) := dk_180 0 47 (dk_at dksX2_comma_0 1 rfl rfl)
theorem dX2_comma_4 : decode cX2_comma 4 = .ok (.bipush 44, 2) := dk_16 44 (dk_at dksX2_comma_0 4 rfl rfl)
theorem dX2_comma_6 : decode cX2_comma 6 = .ok (.if_icmp .eq 5, 3) := dk_159 0 5 (dk_at dksX2_comma_0 6 rfl rfl)
theorem dX2_comma_9 : decode cX2_comma 9 = .ok (.iconst 0, 1) := dk_3 (dk_at dksX2_comma_0 9 rfl rfl)
theorem dX2_comma_10 : decode cX2_comma 10 = .ok (.ireturn, 1) := dk_172 (dk_at dksX2_comma_0 10 rfl rfl)
theorem dX2_comma_11 : decode cX2_comma 11 = .ok (.aload_n 0, 1) := dk_42 (dk_at dksX2_comma_0 11 rfl rfl)
theorem dX2_comma_12 : decode cX2_comma 12 = .ok (.invokevirtual 75, 3) := dk_182 0 75 (dk_at dksX2_comma_0 12 rfl rfl)
theorem dX2_comma_15 : decode cX2_comma 15 = .ok (.iconst 1, 1) := dk_4 (dk_at dksX2_comma_0 15 rfl rfl)
theorem dX2_comma_16 : decode cX2_comma 16 = .ok (.ireturn, 1) := dk_172 (dk_at dksX2_comma_0 16 rfl rfl)
def dkwX2_numbers_1 : List UInt8 := [42, 4, 182, 0, 82, 191, 43, 29, 42, 3, 28, 182, 0, 159, 79, 132, 3, 1, 167, 255, 216, 177]
abbrev dktX2_numbers_1 : List UInt8 := dkwX2_numbers_1 ++ []
def dkwX2_numbers_0 : List UInt8 := [3, 62, 29, 42, 180, 0, 127, 180, 0, 166, 162, 0, 35, 29, 158, 0, 16, 42, 182, 0, 169, 154, 0, 9]
abbrev dktX2_numbers_0 : List UInt8 := dkwX2_numbers_0 ++ dktX2_numbers_1
theorem dksX2_numbers_0 : cX2_numbers.data.toList.drop 0 = dktX2_numbers_0 := by decide +kernel
theorem dksX2_numbers_1 : cX2_numbers.data.toList.drop 24 = dktX2_numbers_1 := dk_seg dksX2_numbers_0 24 rfl rfl
theorem dX2_numbers_0 : decode cX2_numbers 0 = .ok (.iconst 0, 1) := dk_3 (dk_at dksX2_numbers_0 0 rfl rfl)
theorem dX2_numbers_1 : decode cX2_numbers 1 = .ok (.istore_n 3, 1) := dk_62 (dk_at dksX2_numbers_0 1 rfl rfl)
theorem dX2_numbers_2 : decode cX2_numbers 2 = .ok (.iload_n 3, 1) := dk_29 (dk_at dksX2_numbers_0 2 rfl rfl)
theorem dX2_numbers_3 : decode cX2_numbers 3 = .ok (.aload_n 0, 1) := dk_42 (dk_at dksX2_numbers_0 3 rfl rfl)
theorem dX2_numbers_4 : decode cX2_numbers 4 = .ok (.getfield 127, 3) := dk_180 0 127 (dk_at dksX2_numbers_0 4 rfl rfl)
theorem dX2_numbers_7 : decode cX2_numbers 7 = .ok (.getfield 166, 3) := dk_180 0 166 (dk_at dksX2_numbers_0 7 rfl rfl)
theorem dX2_numbers_10 : decode cX2_numbers 10 = .ok (.if_icmp .ge 35, 3) := dk_162 0 35 (dk_at dksX2_numbers_0 10 rfl rfl)
theorem dX2_numbers_13 : decode cX2_numbers 13 = .ok (.iload_n 3, 1) := dk_29 (dk_at dksX2_numbers_0 13 rfl rfl)
theorem dX2_numbers_14 : decode cX2_numbers 14 = .ok (.ifCond .le 16, 3) := dk_158 0 16 (dk_at dksX2_numbers_0 14 rfl rfl)
theorem dX2_numbers_17 : decode cX2_numbers 17 = .ok (.aload_n 0, 1) := dk_42 (dk_at dksX2_numbers_0 17 rfl rfl)
theorem dX2_numbers_18 : decode cX2_numbers 18 = .ok (.invokevirtual 169, 3) := dk_182 0 169 (dk_at dksX2_numbers_0 18 rfl rfl)
theorem dX2_numbers_21 : decode cX2_numbers 21 = .ok (.ifCond .ne 9, 3) := dk_154 0 9 (dk_at dksX2_numbers_0 21 rfl rfl)
theorem dX2_numbers_24 : decode cX2_numbers 24 = .ok (.aload_n 0, 1) := dk_42 (dk_at dksX2_numbers_1 0 rfl rfl)
theorem dX2_numbers_25 : decode cX2_numbers 25 = .ok (.iconst 1, 1) := dk_4 (dk_at dksX2_numbers_1 1 rfl rfl)
theorem dX2_numbers_26 : decode cX2_numbers 26 = .ok (.invokevirtual 82, 3) := dk_182 0 82 (dk_at dksX2_numbers_1 2 rfl rfl)
theorem dX2_numbers_29 : decode cX2_numbers 29 = .ok (.athrow, 1) := dk_191 (dk_at dksX2_numbers_1 5 rfl rfl)
theorem dX2_numbers_30 : decode cX2_numbers 30 = .ok (.aload_n 1, 1) := dk_43 (dk_at dksX2_numbers_1 6 rfl rfl)
theorem dX2_numbers_31 : decode cX2_numbers 31 = .ok (.iload_n 3, 1) := dk_29 (dk_at dksX2_numbers_1 7 rfl rfl)
theorem dX2_numbers_32 : decode cX2_numbers 32 = .ok (.aload_n 0, 1) := dk_42 (dk_at dksX2_numbers_1 8 rfl rfl)
theorem dX2_numbers_33 : decode cX2_numbers 33 = .ok (.iconst 0, 1) := dk_3 (dk_at dksX2_numbers_1 9 rfl rfl)
theorem dX2_numbers_34 : decode cX2_numbers 34 = .ok (.iload_n 2, 1) := dk_28 (dk_at dksX2_numbers_1 10 rfl rfl)
theorem dX2_numbers_35 : decode cX2_numbers 35 = .ok (.invokevirtual 159, 3) := dk_182 0 159 (dk_at dksX2_numbers_1 11 rfl rfl)
theorem dX2_numbers_38 : decode cX2_numbers 38 = .ok (.iastore, 1) := dk_79 (dk_at dksX2_numbers_1 14 rfl rfl)
theorem dX2_numbers_39 : decode cX2_numbers 39 = .ok (.iinc 3 1, 3) := dk_132 3 1 (dk_at dksX2_numbers_1 15 rfl rfl)
theorem dX2_numbers_42 : decode cX2_numbers 42 = .ok (.goto (-40), 3) := dk_167 255 216 (dk_at dksX2_numbers_1 18 rfl rfl)
theorem dX2_numbers_45 : decode cX2_numbers 45 = .ok (.return_, 1) := dk_177 (dk_at dksX2_numbers_1 21 rfl rfl)
def dkwX2_placeLine_3 : List UInt8 := [180, 0, 184, 4, 96, 181, 0, 184, 177]
abbrev dktX2_placeLine_3 : List UInt8 := dkwX2_placeLine_3 ++ []
def dkwX2_placeLine_2 : List UInt8 := [182, 0, 240, 42, 180, 0, 127, 180, 0, 244, 42, 180, 0, 127, 180, 0, 184, 43, 83, 42, 180, 0, 127, 89]
abbrev dktX2_placeLine_2 : List UInt8 := dkwX2_placeLine_2 ++ dktX2_placeLine_3
def dkwX2_placeLine_1 : List UInt8 := [89, 42, 182, 0, 230, 42, 180, 0, 127, 180, 0, 184, 183, 0, 234, 76, 42, 43, 180, 0, 237, 16, 9]
abbrev dktX2_placeLine_1 : List UInt8 := dkwX2_placeLine_1 ++ dktX2_placeLine_2
def dkwX2_placeLine_0 : List UInt8 := [42, 42, 180, 0, 127, 180, 0, 184, 16, 8, 162, 0, 7, 4, 167, 0, 4, 3, 182, 0, 226, 187, 0, 139]
abbrev dktX2_placeLine_0 : List UInt8 := dkwX2_placeLine_0 ++ dktX2_placeLine_1
theorem dksX2_placeLine_0 : cX2_placeLine.data.toList.drop 0 = dktX2_placeLine_0 := by decide +kernel
theorem dksX2_placeLine_1 : cX2_placeLine.data.toList.drop 24 = dktX2_placeLine_1 := dk_seg dksX2_placeLine_0 24 rfl rfl
theorem dksX2_placeLine_2 : cX2_placeLine.data.toList.drop 47 = dktX2_placeLine_2 := dk_seg dksX2_placeLine_1 23 rfl rfl
theorem dksX2_placeLine_3 : cX2_placeLine.data.toList.drop 71 = dktX2_placeLine_3 := dk_seg dksX2_placeLine_2 24 rfl rfl
theorem dX2_placeLine_0 : decode cX2_placeLine 0 = .ok (.aload_n 0, 1) := dk_42 (dk_at dksX2_placeLine_0 0 rfl rfl)
theorem dX2_placeLine_1 : decode cX2_placeLine 1 = .ok (.aload_n 0, 1) := dk_42 (dk_at dksX2_placeLine_0 1 rfl rfl)
theorem dX2_placeLine_2 : decode cX2_placeLine 2 = .ok (.getfield 127, 3) := dk_180 0 127 (dk_at dksX2_placeLine_0 2 rfl rfl)
theorem dX2_placeLine_5 : decode cX2_placeLine 5 = .ok (.getfield 184, 3) := dk_180 0 184 (dk_at dksX2_placeLine_0 5 rfl rfl)
theorem dX2_placeLine_8 : decode cX2_placeLine 8 = .ok (.bipush 8, 2) := dk_16 8 (dk_at dksX2_placeLine_0 8 rfl rfl)
theorem dX2_placeLine_10 : decode cX2_placeLine 10 = .ok (.if_icmp .ge 7, 3) := dk_162 0 7 (dk_at dksX2_placeLine_0 10 rfl rfl)
theorem dX2_placeLine_13 : decode cX2_placeLine 13 = .ok (.iconst 1, 1) := dk_4 (dk_at dksX2_placeLine_0 13 rfl rfl)
theorem dX2_placeLine_14 : decode cX2_placeLine 14 = .ok (.goto 4, 3) := dk_167 0 4 (dk_at dksX2_placeLine_0 14 rfl rfl)
theorem dX2_placeLine_17 : decode cX2_placeLine 17 = .ok (.iconst 0, 1) := dk_3 (dk_at dksX2_placeLine_0 17 rfl rfl)
theorem dX2_placeLine_18 : decode cX2_placeLine 18 = .ok (.invokevirtual 226, 3) := dk_182 0 226 (dk_at dksX2_placeLine_0 18 rfl rfl)
theorem dX2_placeLine_21 : decode cX2_placeLine 21 = .ok (.new 139, 3) := dk_187 0 139 (dk_at dksX2_placeLine_0 21 rfl rfl)
theorem dX2_placeLine_24 : decode cX2_placeLine 24 = .ok (.dup, 1) := dk_89 (dk_at dksX2_placeLine_1 0 rfl rfl)
theorem dX2_placeLine_25 : decode cX2_placeLine 25 = .ok (.aload_n 0, 1) := dk_42 (dk_at dksX2_placeLine_1 1 rfl rfl)
theorem dX2_placeLine_26 : decode cX2_placeLine 26 = .ok (.invokevirtual 230, 3) := dk_182 0 230 (dk_at dksX2_placeLine_1 2 rfl rfl)
theorem dX2_placeLine_29 : decode cX2_placeLine 29 = .ok (.aload_n 0, 1) := dk_42 (dk_at dksX2_placeLine_1 5 rfl rfl)
theorem dX2_placeLine_30 : decode cX2_placeLine 30 = .ok (.getfield 127, 3) := dk_180 0 127 (dk_at dksX2_placeLine_1 6 rfl rfl)
theorem dX2_placeLine_33 : decode cX2_placeLine 33 = .ok (.getfield 184, 3) := dk_180 0 184 (dk_at dksX2_placeLine_1 9 rfl rfl)
theorem dX2_placeLine_36 : decode cX2_placeLine 36 = .ok (.invokespecial 234, 3) := dk_183 0 234 (dk_at dksX2_placeLine_1 12 rfl rfl)
theorem dX2_placeLine_39 : decode cX2_placeLine 39 = .ok (.astore_n 1, 1) := dk_76 (dk_at dksX2_placeLine_1 15 rfl rfl)
theorem dX2_placeLine_40 : decode cX2_placeLine 40 = .ok (.aload_n 0, 1) := dk_42 (dk_at dksX2_placeLine_1 16 rfl rfl)
theorem dX2_placeLine_41 : decode cX2_placeLine 41 = .ok (.aload_n 1, 1) := dk_43 (dk_at dksX2_placeLine_1 17 rfl rfl)
theorem dX2_placeLine_42 : decode cX2_placeLine 42 = .ok (.getfield 237, 3) := dk_180 0 237 (dk_at dksX2_placeLine_1 18 rfl rfl)
theorem dX2_placeLine_45 : decode cX2_placeLine 45 = .ok (.bipush 9, 2) := dk_16 9 (dk_at dksX2_placeLine_1 21 rfl rfl)
theorem dX2_placeLine_47 : decode cX2_placeLine 47 = .ok (.invokevirtual 240, 3) := dk_182 0 240 (dk_at dksX2_placeLine_2 0 rfl rfl)
theorem dX2_placeLine_50 : decode cX2_placeLine 50 = .ok (.aload_n 0, 1) := dk_42 (dk_at dksX2_placeLine_2 3 rfl rfl)
theorem dX2_placeLine_51 : decode cX2_placeLine 51 = .ok (.getfield 127, 3) := dk_180 0 127 (dk_at dksX2_placeLine_2 4 rfl rfl)
theorem dX2_placeLine_54 : decode cX2_placeLine 54 = .ok (.getfield 244, 3) := dk_180 0 244 (dk_at dksX2_placeLine_2 7 rfl rfl)
theorem dX2_placeLine_57 : decode cX2_placeLine 57 = .ok (.aload_n 0, 1) := dk_42 (dk_at dksX2_placeLine_2 10 rfl rfl)
theorem dX2_placeLine_58 : decode cX2_placeLine 58 = .ok (.getfield 127, 3) := dk_180 0 127 (dk_at dksX2_placeLine_2 11 rfl rfl)
theorem dX2_placeLine_61 : decode cX2_placeLine 61 = .ok (.getfield 184, 3) := dk_180 0 184 (dk_at dksX2_placeLine_2 14 rfl rfl)
theorem dX2_placeLine_64 : decode cX2_placeLine 64 = .ok (.aload_n 1, 1) := dk_43 (dk_at dksX2_placeLine_2 17 rfl rfl)
theorem dX2_placeLine_65 : decode cX2_placeLine 65 = .ok (.aastore, 1) := dk_83 (dk_at dksX2_placeLine_2 18 rfl rfl)
theorem dX2_placeLine_66 : decode cX2_placeLine 66 = .ok (.aload_n 0, 1) := dk_42 (dk_at dksX2_placeLine_2 19 rfl rfl)
theorem dX2_placeLine_67 : decode cX2_placeLine 67 = .ok (.getfield 127, 3) := dk_180 0 127 (dk_at dksX2_placeLine_2 20 rfl rfl)
theorem dX2_placeLine_70 : decode cX2_placeLine 70 = .ok (.dup, 1) := dk_89 (dk_at dksX2_placeLine_2 23 rfl rfl)
theorem dX2_placeLine_71 : decode cX2_placeLine 71 = .ok (.getfield 184, 3) := dk_180 0 184 (dk_at dksX2_placeLine_3 0 rfl rfl)
theorem dX2_placeLine_74 : decode cX2_placeLine 74 = .ok (.iconst 1, 1) := dk_4 (dk_at dksX2_placeLine_3 3 rfl rfl)
theorem dX2_placeLine_75 : decode cX2_placeLine 75 = .ok (.iadd, 1) := dk_96 (dk_at dksX2_placeLine_3 4 rfl rfl)
theorem dX2_placeLine_76 : decode cX2_placeLine 76 = .ok (.putfield 184, 3) := dk_181 0 184 (dk_at dksX2_placeLine_3 5 rfl rfl)
theorem dX2_placeLine_79 : decode cX2_placeLine 79 = .ok (.return_, 1) := dk_177 (dk_at dksX2_placeLine_3 8 rfl rfl)
def dkwX2_found_0 : List UInt8 := [42, 182, 0, 124, 42, 180, 0, 127, 42, 180, 0, 61, 182, 0, 130, 176]
abbrev dktX2_found_0 : List UInt8 := dkwX2_found_0 ++ []
theorem dksX2_found_0 : cX2_found.data.toList.drop 0 = dktX2_found_0 := by decide +kernel
theorem dX2_found_0 : decode cX2_found 0 = .ok (.aload_n 0, 1) := dk_42 (dk_at dksX2_found_0 0 rfl rfl)
theorem dX2_found_1 : decode cX2_found 1 = .ok (.invokevirtual 124, 3) := dk_182 0 124 (dk_at dksX2_found_0 1 rfl rfl)
theorem dX2_found_4 : decode cX2_found 4 = .ok (.aload_n 0, 1) := dk_42 (dk_at dksX2_found_0 4 rfl rfl)
theorem dX2_found_5 : decode cX2_found 5 = .ok (.getfield 127, 3) := dk_180 0 127 (dk_at dksX2_found_0 5 rfl rfl)
theorem dX2_found_8 : decode cX2_found 8 = .ok (.aload_n 0, 1) := dk_42 (dk_at dksX2_found_0 8 rfl rfl)
theorem dX2_found_9 : decode cX2_found 9 = .ok (.getfield 61, 3) := dk_180 0 61 (dk_at dksX2_found_0 9 rfl rfl)
theorem dX2_found_12 : decode cX2_found 12 = .ok (.invokevirtual 130, 3) := dk_182 0 130 (dk_at dksX2_found_0 12 rfl rfl)
theorem dX2_found_15 : decode cX2_found 15 = .ok (.areturn, 1) := dk_176 (dk_at dksX2_found_0 15 rfl rfl)
def dkwX2_placeHere_0 : List UInt8 := [42, 182, 0, 136, 76, 43, 193, 0, 139, 154, 0, 9, 42, 5, 182, 0, 82, 191, 43, 192, 0, 139, 176]
abbrev dktX2_placeHere_0 : List UInt8 := dkwX2_placeHere_0 ++ []
theorem dksX2_placeHere_0 : cX2_placeHere.data.toList.drop 0 = dktX2_placeHere_0 := by decide +kernel
theorem dX2_placeHere_0 : decode cX2_placeHere 0 = .ok (.aload_n 0, 1) := dk_42 (dk_at dksX2_placeHere_0 0 rfl rfl)
theorem dX2_placeHere_1 : decode cX2_placeHere 1 = .ok (.invokevirtual 136, 3) := dk_182 0 136 (dk_at dksX2_placeHere_0 1 rfl rfl)
theorem dX2_placeHere_4 : decode cX2_placeHere 4 = .ok (.astore_n 1, 1) := dk_76 (dk_at dksX2_placeHere_0 4 rfl rfl)
theorem dX2_placeHere_5 : decode cX2_placeHere 5 = .ok (.aload_n 1, 1) := dk_43 (dk_at dksX2_placeHere_0 5 rfl rfl)
theorem dX2_placeHere_6 : decode cX2_placeHere 6 = .ok (.instanceof 139, 3) := dk_193 0 139 (dk_at dksX2_placeHere_0 6 rfl rfl)
theorem dX2_placeHere_9 : decode cX2_placeHere 9 = .ok (.ifCond .ne 9, 3) := dk_154 0 9 (dk_at dksX2_placeHere_0 9 rfl rfl)
theorem dX2_placeHere_12 : decode cX2_placeHere 12 = .ok (.aload_n 0, 1) := dk_42 (dk_at dksX2_placeHere_0 12 rfl rfl)
theorem dX2_placeHere_13 : decode cX2_placeHere 13 = .ok (.iconst 2, 1) := dk_5 (dk_at dksX2_placeHere_0 13 rfl rfl)
theorem dX2_placeHere_14 : decode cX2_placeHere 14 = .ok (.invokevirtual 82, 3) := dk_182 0 82 (dk_at dksX2_placeHere_0 14 rfl rfl)
theorem dX2_placeHere_17 : decode cX2_placeHere 17 = .ok (.athrow, 1) := dk_191 (dk_at dksX2_placeHere_0 17 rfl rfl)
theorem dX2_placeHere_18 : decode cX2_placeHere 18 = .ok (.aload_n 1, 1) := dk_43 (dk_at dksX2_placeHere_0 18 rfl rfl)
theorem dX2_placeHere_19 : decode cX2_placeHere 19 = .ok (.checkcast 139, 3) := dk_192 0 139 (dk_at dksX2_placeHere_0 19 rfl rfl)
theorem dX2_placeHere_22 : decode cX2_placeHere 22 = .ok (.areturn, 1) := dk_176 (dk_at dksX2_placeHere_0 22 rfl rfl)
def dkwX2_place_0 : List UInt8 := [42, 182, 0, 141, 76, 42, 182, 0, 75, 43, 176]
abbrev dktX2_place_0 : List UInt8 := dkwX2_place_0 ++ []
theorem dksX2_place_0 : cX2_place.data.toList.drop 0 = dktX2_place_0 := by decide +kernel
theorem dX2_place_0 : decode cX2_place 0 = .ok (.aload_n 0, 1) := dk_42 (dk_at dksX2_place_0 0 rfl rfl)
theorem dX2_place_1 : decode cX2_place 1 = .ok (.invokevirtual 141, 3) := dk_182 0 141 (dk_at dksX2_place_0 1 rfl rfl)
theorem dX2_place_4 : decode cX2_place 4 = .ok (.astore_n 1, 1) := dk_76 (dk_at dksX2_place_0 4 rfl rfl)
theorem dX2_place_5 : decode cX2_place 5 = .ok (.aload_n 0, 1) := dk_42 (dk_at dksX2_place_0 5 rfl rfl)
theorem dX2_place_6 : decode cX2_place 6 = .ok (.invokevirtual 75, 3) := dk_182 0 75 (dk_at dksX2_place_0 6 rfl rfl)
theorem dX2_place_9 : decode cX2_place 9 = .ok (.aload_n 1, 1) := dk_43 (dk_at dksX2_place_0 9 rfl rfl)
theorem dX2_place_10 : decode cX2_place 10 = .ok (.areturn, 1) := dk_176 (dk_at dksX2_place_0 10 rfl rfl)
def dkwX8_path_2 : List UInt8 := [160, 0, 5, 29, 172, 132, 3, 1, 167, 255, 203, 2, 172]
abbrev dktX8_path_2 : List UInt8 := dkwX8_path_2 ++ []
def dkwX8_path_1 : List UInt8 := [29, 46, 28, 159, 0, 23, 42, 180, 0, 17, 29, 46, 28, 160, 0, 15, 42, 180, 0, 21, 29, 46, 27]
abbrev dktX8_path_1 : List UInt8 := dkwX8_path_1 ++ dktX8_path_2
def dkwX8_path_0 : List UInt8 := [3, 62, 29, 42, 180, 0, 98, 162, 0, 51, 42, 180, 0, 17, 29, 46, 27, 160, 0, 13, 42, 180, 0, 21]
abbrev dktX8_path_0 : List UInt8 := dkwX8_path_0 ++ dktX8_path_1
theorem dksX8_path_0 : cX8_path.data.toList.drop 0 = dktX8_path_0 := by decide +kernel
theorem dksX8_path_1 : cX8_path.data.toList.drop 24 = dktX8_path_1 := dk_seg dksX8_path_0 24 rfl rfl
theorem dksX8_path_2 : cX8_path.data.toList.drop 47 = dktX8_path_2 := dk_seg dksX8_path_1 23 rfl rfl
theorem dX8_path_0 : decode cX8_path 0 = .ok (.iconst 0, 1) := dk_3 (dk_at dksX8_path_0 0 rfl rfl)
theorem dX8_path_1 : decode cX8_path 1 = .ok (.istore_n 3, 1) := dk_62 (dk_at dksX8_path_0 1 rfl rfl)
theorem dX8_path_2 : decode cX8_path 2 = .ok (.iload_n 3, 1) := dk_29 (dk_at dksX8_path_0 2 rfl rfl)
theorem dX8_path_3 : decode cX8_path 3 = .ok (.aload_n 0, 1) := dk_42 (dk_at dksX8_path_0 3 rfl rfl)
theorem dX8_path_4 : decode cX8_path 4 = .ok (.getfield 98, 3) := dk_180 0 98 (dk_at dksX8_path_0 4 rfl rfl)
theorem dX8_path_7 : decode cX8_path 7 = .ok (.if_icmp .ge 51, 3) := dk_162 0 51 (dk_at dksX8_path_0 7 rfl rfl)
theorem dX8_path_10 : decode cX8_path 10 = .ok (.aload_n 0, 1) := dk_42 (dk_at dksX8_path_0 10 rfl rfl)
theorem dX8_path_11 : decode cX8_path 11 = .ok (.getfield 17, 3) := dk_180 0 17 (dk_at dksX8_path_0 11 rfl rfl)
theorem dX8_path_14 : decode cX8_path 14 = .ok (.iload_n 3, 1) := dk_29 (dk_at dksX8_path_0 14 rfl rfl)
theorem dX8_path_15 : decode cX8_path 15 = .ok (.iaload, 1) := dk_46 (dk_at dksX8_path_0 15 rfl rfl)
theorem dX8_path_16 : decode cX8_path 16 = .ok (.iload_n 1, 1) := dk_27 (dk_at dksX8_path_0 16 rfl rfl)
theorem dX8_path_17 : decode cX8_path 17 = .ok (.if_icmp .ne 13, 3) := dk_160 0 13 (dk_at dksX8_path_0 17 rfl rfl)
theorem dX8_path_20 : decode cX8_path 20 = .ok (.aload_n 0, 1) := dk_42 (dk_at dksX8_path_0 20 rfl rfl)
theorem dX8_path_21 : decode cX8_path 21 = .ok (.getfield 21, 3) := dk_180 0 21 (dk_at dksX8_path_0 21 rfl rfl)
theorem dX8_path_24 : decode cX8_path 24 = .ok (.iload_n 3, 1) := dk_29 (dk_at dksX8_path_1 0 rfl rfl)
theorem dX8_path_25 : decode cX8_path 25 = .ok (.iaload, 1) := dk_46 (dk_at dksX8_path_1 1 rfl rfl)
theorem dX8_path_26 : decode cX8_path 26 = .ok (.iload_n 2, 1) := dk_28 (dk_at dksX8_path_1 2 rfl rfl)
theorem dX8_path_27 : decode cX8_path 27 = .ok (.if_icmp .eq 23, 3) := dk_159 0 23 (dk_at dksX8_path_1 3 rfl rfl)
theorem dX8_path_30 : decode cX8_path 30 = .ok (.aload_n 0, 1) := dk_42 (dk_at dksX8_path_1 6 rfl rfl)
theorem dX8_path_31 : decode cX8_path 31 = .ok (.getfield 17, 3) := dk_180 0 17 (dk_at dksX8_path_1 7 rfl rfl)
theorem dX8_path_34 : decode cX8_path 34 = .ok (.iload_n 3, 1) := dk_29 (dk_at dksX8_path_1 10 rfl rfl)
theorem dX8_path_35 : decode cX8_path 35 = .ok (.iaload, 1) := dk_46 (dk_at dksX8_path_1 11 rfl rfl)
theorem dX8_path_36 : decode cX8_path 36 = .ok (.iload_n 2, 1) := dk_28 (dk_at dksX8_path_1 12 rfl rfl)
theorem dX8_path_37 : decode cX8_path 37 = .ok (.if_icmp .ne 15, 3) := dk_160 0 15 (dk_at dksX8_path_1 13 rfl rfl)
theorem dX8_path_40 : decode cX8_path 40 = .ok (.aload_n 0, 1) := dk_42 (dk_at dksX8_path_1 16 rfl rfl)
theorem dX8_path_41 : decode cX8_path 41 = .ok (.getfield 21, 3) := dk_180 0 21 (dk_at dksX8_path_1 17 rfl rfl)
theorem dX8_path_44 : decode cX8_path 44 = .ok (.iload_n 3, 1) := dk_29 (dk_at dksX8_path_1 20 rfl rfl)
theorem dX8_path_45 : decode cX8_path 45 = .ok (.iaload, 1) := dk_46 (dk_at dksX8_path_1 21 rfl rfl)
theorem dX8_path_46 : decode cX8_path 46 = .ok (.iload_n 1, 1) := dk_27 (dk_at dksX8_path_1 22 rfl rfl)
theorem dX8_path_47 : decode cX8_path 47 = .ok (.if_icmp .ne 5, 3) := dk_160 0 5 (dk_at dksX8_path_2 0 rfl rfl)
theorem dX8_path_50 : decode cX8_path 50 = .ok (.iload_n 3, 1) := dk_29 (dk_at dksX8_path_2 3 rfl rfl)
theorem dX8_path_51 : decode cX8_path 51 = .ok (.ireturn, 1) := dk_172 (dk_at dksX8_path_2 4 rfl rfl)
theorem dX8_path_52 : decode cX8_path 52 = .ok (.iinc 3 1, 3) := dk_132 3 1 (dk_at dksX8_path_2 5 rfl rfl)
theorem dX8_path_55 : decode cX8_path 55 = .ok (.goto (-53), 3) := dk_167 255 203 (dk_at dksX8_path_2 8 rfl rfl)
theorem dX8_path_58 : decode cX8_path 58 = .ok (.iconst (-1), 1) := dk_2 (dk_at dksX8_path_2 11 rfl rfl)
theorem dX8_path_59 : decode cX8_path 59 = .ok (.ireturn, 1) := dk_172 (dk_at dksX8_path_2 12 rfl rfl)
def dkwX2_path_6 : List UInt8 := [180, 0, 253, 120, 128, 181, 1, 7, 177]
abbrev dktX2_path_6 : List UInt8 := dkwX2_path_6 ++ []
def dkwX2_path_5 : List UInt8 := [43, 89, 180, 1, 7, 4, 44, 180, 0, 253, 120, 128, 181, 1, 7, 44, 89, 180, 1, 7, 4, 43]
abbrev dktX2_path_5 : List UInt8 := dkwX2_path_5 ++ dktX2_path_6
def dkwX2_path_4 : List UInt8 := [180, 0, 127, 180, 0, 248, 44, 180, 0, 253, 79, 42, 180, 0, 127, 89, 180, 0, 248, 4, 96, 181, 0, 248]
abbrev dktX2_path_4 : List UInt8 := dkwX2_path_4 ++ dktX2_path_5
def dkwX2_path_3 : List UInt8 := [180, 1, 1, 42, 180, 0, 127, 180, 0, 248, 43, 180, 0, 253, 79, 42, 180, 0, 127, 180, 1, 4, 42]
abbrev dktX2_path_3 : List UInt8 := dkwX2_path_3 ++ dktX2_path_4
def dkwX2_path_2 : List UInt8 := [180, 0, 253, 182, 0, 255, 2, 159, 0, 9, 42, 6, 182, 0, 82, 191, 42, 182, 0, 75, 42, 180, 0, 127]
abbrev dktX2_path_2 : List UInt8 := dkwX2_path_2 ++ dktX2_path_3
def dkwX2_path_1 : List UInt8 := [182, 0, 251, 76, 42, 182, 0, 141, 77, 43, 44, 165, 0, 22, 42, 180, 0, 127, 43, 180, 0, 253, 44]
abbrev dktX2_path_1 : List UInt8 := dkwX2_path_1 ++ dktX2_path_2
def dkwX2_path_0 : List UInt8 := [42, 42, 180, 0, 127, 180, 0, 248, 16, 14, 162, 0, 7, 4, 167, 0, 4, 3, 182, 0, 226, 42]
abbrev dktX2_path_0 : List UInt8 := dkwX2_path_0 ++ dktX2_path_1
theorem dksX2_path_0 : cX2_path.data.toList.drop 0 = dktX2_path_0 := by decide +kernel
theorem dksX2_path_1 : cX2_path.data.toList.drop 22 = dktX2_path_1 := dk_seg dksX2_path_0 22 rfl rfl
theorem dksX2_path_2 : cX2_path.data.toList.drop 45 = dktX2_path_2 := dk_seg dksX2_path_1 23 rfl rfl
theorem dksX2_path_3 : cX2_path.data.toList.drop 69 = dktX2_path_3 := dk_seg dksX2_path_2 24 rfl rfl
theorem dksX2_path_4 : cX2_path.data.toList.drop 92 = dktX2_path_4 := dk_seg dksX2_path_3 23 rfl rfl
theorem dksX2_path_5 : cX2_path.data.toList.drop 116 = dktX2_path_5 := dk_seg dksX2_path_4 24 rfl rfl
theorem dksX2_path_6 : cX2_path.data.toList.drop 138 = dktX2_path_6 := dk_seg dksX2_path_5 22 rfl rfl
theorem dX2_path_0 : decode cX2_path 0 = .ok (.aload_n 0, 1) := dk_42 (dk_at dksX2_path_0 0 rfl rfl)
theorem dX2_path_1 : decode cX2_path 1 = .ok (.aload_n 0, 1) := dk_42 (dk_at dksX2_path_0 1 rfl rfl)
theorem dX2_path_2 : decode cX2_path 2 = .ok (.getfield 127, 3) := dk_180 0 127 (dk_at dksX2_path_0 2 rfl rfl)
theorem dX2_path_5 : decode cX2_path 5 = .ok (.getfield 248, 3) := dk_180 0 248 (dk_at dksX2_path_0 5 rfl rfl)
theorem dX2_path_8 : decode cX2_path 8 = .ok (.bipush 14, 2) := dk_16 14 (dk_at dksX2_path_0 8 rfl rfl)
theorem dX2_path_10 : decode cX2_path 10 = .ok (.if_icmp .ge 7, 3) := dk_162 0 7 (dk_at dksX2_path_0 10 rfl rfl)
theorem dX2_path_13 : decode cX2_path 13 = .ok (.iconst 1, 1) := dk_4 (dk_at dksX2_path_0 13 rfl rfl)
theorem dX2_path_14 : decode cX2_path 14 = .ok (.goto 4, 3) := dk_167 0 4 (dk_at dksX2_path_0 14 rfl rfl)
theorem dX2_path_17 : decode cX2_path 17 = .ok (.iconst 0, 1) := dk_3 (dk_at dksX2_path_0 17 rfl rfl)
theorem dX2_path_18 : decode cX2_path 18 = .ok (.invokevirtual 226, 3) := dk_182 0 226 (dk_at dksX2_path_0 18 rfl rfl)
theorem dX2_path_21 : decode cX2_path 21 = .ok (.aload_n 0, 1) := dk_42 (dk_at dksX2_path_0 21 rfl rfl)
theorem dX2_path_22 : decode cX2_path 22 = .ok (.invokevirtual 251, 3) := dk_182 0 251 (dk_at dksX2_path_1 0 rfl rfl)
theorem dX2_path_25 : decode cX2_path 25 = .ok (.astore_n 1, 1) := dk_76 (dk_at dksX2_path_1 3 rfl rfl)
theorem dX2_path_26 : decode cX2_path 26 = .ok (.aload_n 0, 1) := dk_42 (dk_at dksX2_path_1 4 rfl rfl)
theorem dX2_path_27 : decode cX2_path 27 = .ok (.invokevirtual 141, 3) := dk_182 0 141 (dk_at dksX2_path_1 5 rfl rfl)
theorem dX2_path_30 : decode cX2_path 30 = .ok (.astore_n 2, 1) := dk_77 (dk_at dksX2_path_1 8 rfl rfl)
theorem dX2_path_31 : decode cX2_path 31 = .ok (.aload_n 1, 1) := dk_43 (dk_at dksX2_path_1 9 rfl rfl)
theorem dX2_path_32 : decode cX2_path 32 = .ok (.aload_n 2, 1) := dk_44 (dk_at dksX2_path_1 10 rfl rfl)
theorem dX2_path_33 : decode cX2_path 33 = .ok (.if_acmp .eq 22, 3) := dk_165 0 22 (dk_at dksX2_path_1 11 rfl rfl)
theorem dX2_path_36 : decode cX2_path 36 = .ok (.aload_n 0, 1) := dk_42 (dk_at dksX2_path_1 14 rfl rfl)
theorem dX2_path_37 : decode cX2_path 37 = .ok (.getfield 127, 3) := dk_180 0 127 (dk_at dksX2_path_1 15 rfl rfl)
theorem dX2_path_40 : decode cX2_path 40 = .ok (.aload_n 1, 1) := dk_43 (dk_at dksX2_path_1 18 rfl rfl)
theorem dX2_path_41 : decode cX2_path 41 = .ok (.getfield 253, 3) := dk_180 0 253 (dk_at dksX2_path_1 19 rfl rfl)
theorem dX2_path_44 : decode cX2_path 44 = .ok (.aload_n 2, 1) := dk_44 (dk_at dksX2_path_1 22 rfl rfl)
theorem dX2_path_45 : decode cX2_path 45 = .ok (.getfield 253, 3) := dk_180 0 253 (dk_at dksX2_path_2 0 rfl rfl)
theorem dX2_path_48 : decode cX2_path 48 = .ok (.invokevirtual 255, 3) := dk_182 0 255 (dk_at dksX2_path_2 3 rfl rfl)
theorem dX2_path_51 : decode cX2_path 51 = .ok (.iconst (-1), 1) := dk_2 (dk_at dksX2_path_2 6 rfl rfl)
theorem dX2_path_52 : decode cX2_path 52 = .ok (.if_icmp .eq 9, 3) := dk_159 0 9 (dk_at dksX2_path_2 7 rfl rfl)
theorem dX2_path_55 : decode cX2_path 55 = .ok (.aload_n 0, 1) := dk_42 (dk_at dksX2_path_2 10 rfl rfl)
theorem dX2_path_56 : decode cX2_path 56 = .ok (.iconst 3, 1) := dk_6 (dk_at dksX2_path_2 11 rfl rfl)
theorem dX2_path_57 : decode cX2_path 57 = .ok (.invokevirtual 82, 3) := dk_182 0 82 (dk_at dksX2_path_2 12 rfl rfl)
theorem dX2_path_60 : decode cX2_path 60 = .ok (.athrow, 1) := dk_191 (dk_at dksX2_path_2 15 rfl rfl)
theorem dX2_path_61 : decode cX2_path 61 = .ok (.aload_n 0, 1) := dk_42 (dk_at dksX2_path_2 16 rfl rfl)
theorem dX2_path_62 : decode cX2_path 62 = .ok (.invokevirtual 75, 3) := dk_182 0 75 (dk_at dksX2_path_2 17 rfl rfl)
theorem dX2_path_65 : decode cX2_path 65 = .ok (.aload_n 0, 1) := dk_42 (dk_at dksX2_path_2 20 rfl rfl)
theorem dX2_path_66 : decode cX2_path 66 = .ok (.getfield 127, 3) := dk_180 0 127 (dk_at dksX2_path_2 21 rfl rfl)
theorem dX2_path_69 : decode cX2_path 69 = .ok (.getfield 257, 3) := dk_180 1 1 (dk_at dksX2_path_3 0 rfl rfl)
theorem dX2_path_72 : decode cX2_path 72 = .ok (.aload_n 0, 1) := dk_42 (dk_at dksX2_path_3 3 rfl rfl)
theorem dX2_path_73 : decode cX2_path 73 = .ok (.getfield 127, 3) := dk_180 0 127 (dk_at dksX2_path_3 4 rfl rfl)
theorem dX2_path_76 : decode cX2_path 76 = .ok (.getfield 248, 3) := dk_180 0 248 (dk_at dksX2_path_3 7 rfl rfl)
theorem dX2_path_79 : decode cX2_path 79 = .ok (.aload_n 1, 1) := dk_43 (dk_at dksX2_path_3 10 rfl rfl)
theorem dX2_path_80 : decode cX2_path 80 = .ok (.getfield 253, 3) := dk_180 0 253 (dk_at dksX2_path_3 11 rfl rfl)
theorem dX2_path_83 : decode cX2_path 83 = .ok (.iastore, 1) := dk_79 (dk_at dksX2_path_3 14 rfl rfl)
theorem dX2_path_84 : decode cX2_path 84 = .ok (.aload_n 0, 1) := dk_42 (dk_at dksX2_path_3 15 rfl rfl)
theorem dX2_path_85 : decode cX2_path 85 = .ok (.getfield 127, 3) := dk_180 0 127 (dk_at dksX2_path_3 16 rfl rfl)
theorem dX2_path_88 : decode cX2_path 88 = .ok (.getfield 260, 3) := dk_180 1 4 (dk_at dksX2_path_3 19 rfl rfl)
theorem dX2_path_91 : decode cX2_path 91 = .ok (.aload_n 0, 1) := dk_42 (dk_at dksX2_path_3 22 rfl rfl)
theorem dX2_path_92 : decode cX2_path 92 = .ok (.getfield 127, 3) := dk_180 0 127 (dk_at dksX2_path_4 0 rfl rfl)
theorem dX2_path_95 : decode cX2_path 95 = .ok (.getfield 248, 3) := dk_180 0 248 (dk_at dksX2_path_4 3 rfl rfl)
theorem dX2_path_98 : decode cX2_path 98 = .ok (.aload_n 2, 1) := dk_44 (dk_at dksX2_path_4 6 rfl rfl)
theorem dX2_path_99 : decode cX2_path 99 = .ok (.getfield 253, 3) := dk_180 0 253 (dk_at dksX2_path_4 7 rfl rfl)
theorem dX2_path_102 : decode cX2_path 102 = .ok (.iastore, 1) := dk_79 (dk_at dksX2_path_4 10 rfl rfl)
theorem dX2_path_103 : decode cX2_path 103 = .ok (.aload_n 0, 1) := dk_42 (dk_at dksX2_path_4 11 rfl rfl)
theorem dX2_path_104 : decode cX2_path 104 = .ok (.getfield 127, 3) := dk_180 0 127 (dk_at dksX2_path_4 12 rfl rfl)
theorem dX2_path_107 : decode cX2_path 107 = .ok (.dup, 1) := dk_89 (dk_at dksX2_path_4 15 rfl rfl)
theorem dX2_path_108 : decode cX2_path 108 = .ok (.getfield 248, 3) := dk_180 0 248 (dk_at dksX2_path_4 16 rfl rfl)
theorem dX2_path_111 : decode cX2_path 111 = .ok (.iconst 1, 1) := dk_4 (dk_at dksX2_path_4 19 rfl rfl)
theorem dX2_path_112 : decode cX2_path 112 = .ok (.iadd, 1) := dk_96 (dk_at dksX2_path_4 20 rfl rfl)
theorem dX2_path_113 : decode cX2_path 113 = .ok (.putfield 248, 3) := dk_181 0 248 (dk_at dksX2_path_4 21 rfl rfl)
theorem dX2_path_116 : decode cX2_path 116 = .ok (.aload_n 1, 1) := dk_43 (dk_at dksX2_path_5 0 rfl rfl)
theorem dX2_path_117 : decode cX2_path 117 = .ok (.dup, 1) := dk_89 (dk_at dksX2_path_5 1 rfl rfl)
theorem dX2_path_118 : decode cX2_path 118 = .ok (.getfield 263, 3) := dk_180 1 7 (dk_at dksX2_path_5 2 rfl rfl)
theorem dX2_path_121 : decode cX2_path 121 = .ok (.iconst 1, 1) := dk_4 (dk_at dksX2_path_5 5 rfl rfl)
theorem dX2_path_122 : decode cX2_path 122 = .ok (.aload_n 2, 1) := dk_44 (dk_at dksX2_path_5 6 rfl rfl)
theorem dX2_path_123 : decode cX2_path 123 = .ok (.getfield 253, 3) := dk_180 0 253 (dk_at dksX2_path_5 7 rfl rfl)
theorem dX2_path_126 : decode cX2_path 126 = .ok (.ishl, 1) := dk_120 (dk_at dksX2_path_5 10 rfl rfl)
theorem dX2_path_127 : decode cX2_path 127 = .ok (.ior, 1) := dk_128 (dk_at dksX2_path_5 11 rfl rfl)
theorem dX2_path_128 : decode cX2_path 128 = .ok (.putfield 263, 3) := dk_181 1 7 (dk_at dksX2_path_5 12 rfl rfl)
theorem dX2_path_131 : decode cX2_path 131 = .ok (.aload_n 2, 1) := dk_44 (dk_at dksX2_path_5 15 rfl rfl)
theorem dX2_path_132 : decode cX2_path 132 = .ok (.dup, 1) := dk_89 (dk_at dksX2_path_5 16 rfl rfl)
theorem dX2_path_133 : decode cX2_path 133 = .ok (.getfield 263, 3) := dk_180 1 7 (dk_at dksX2_path_5 17 rfl rfl)
theorem dX2_path_136 : decode cX2_path 136 = .ok (.iconst 1, 1) := dk_4 (dk_at dksX2_path_5 20 rfl rfl)
theorem dX2_path_137 : decode cX2_path 137 = .ok (.aload_n 1, 1) := dk_43 (dk_at dksX2_path_5 21 rfl rfl)
theorem dX2_path_138 : decode cX2_path 138 = .ok (.getfield 253, 3) := dk_180 0 253 (dk_at dksX2_path_6 0 rfl rfl)
theorem dX2_path_141 : decode cX2_path 141 = .ok (.ishl, 1) := dk_120 (dk_at dksX2_path_6 3 rfl rfl)
theorem dX2_path_142 : decode cX2_path 142 = .ok (.ior, 1) := dk_128 (dk_at dksX2_path_6 4 rfl rfl)
theorem dX2_path_143 : decode cX2_path 143 = .ok (.putfield 263, 3) := dk_181 1 7 (dk_at dksX2_path_6 5 rfl rfl)
theorem dX2_path_146 : decode cX2_path 146 = .ok (.return_, 1) := dk_177 (dk_at dksX2_path_6 8 rfl rfl)
def dkwX11_init_0 : List UInt8 := [42, 43, 28, 183, 0, 3, 42, 16, 36, 188, 10, 181, 0, 9, 42, 6, 188, 10, 181, 0, 15, 177]
abbrev dktX11_init_0 : List UInt8 := dkwX11_init_0 ++ []
theorem dksX11_init_0 : cX11_init.data.toList.drop 0 = dktX11_init_0 := by decide +kernel
theorem dX11_init_0 : decode cX11_init 0 = .ok (.aload_n 0, 1) := dk_42 (dk_at dksX11_init_0 0 rfl rfl)
theorem dX11_init_1 : decode cX11_init 1 = .ok (.aload_n 1, 1) := dk_43 (dk_at dksX11_init_0 1 rfl rfl)
theorem dX11_init_2 : decode cX11_init 2 = .ok (.iload_n 2, 1) := dk_28 (dk_at dksX11_init_0 2 rfl rfl)
theorem dX11_init_3 : decode cX11_init 3 = .ok (.invokespecial 3, 3) := dk_183 0 3 (dk_at dksX11_init_0 3 rfl rfl)
theorem dX11_init_6 : decode cX11_init 6 = .ok (.aload_n 0, 1) := dk_42 (dk_at dksX11_init_0 6 rfl rfl)
theorem dX11_init_7 : decode cX11_init 7 = .ok (.bipush 36, 2) := dk_16 36 (dk_at dksX11_init_0 7 rfl rfl)
theorem dX11_init_9 : decode cX11_init 9 = .ok (.newarray .int, 2) := dk_188_10 (dk_at dksX11_init_0 9 rfl rfl)
theorem dX11_init_11 : decode cX11_init 11 = .ok (.putfield 9, 3) := dk_181 0 9 (dk_at dksX11_init_0 11 rfl rfl)
theorem dX11_init_14 : decode cX11_init 14 = .ok (.aload_n 0, 1) := dk_42 (dk_at dksX11_init_0 14 rfl rfl)
theorem dX11_init_15 : decode cX11_init 15 = .ok (.iconst 3, 1) := dk_6 (dk_at dksX11_init_0 15 rfl rfl)
theorem dX11_init_16 : decode cX11_init 16 = .ok (.newarray .int, 2) := dk_188_10 (dk_at dksX11_init_0 16 rfl rfl)
theorem dX11_init_18 : decode cX11_init 18 = .ok (.putfield 15, 3) := dk_181 0 15 (dk_at dksX11_init_0 18 rfl rfl)
theorem dX11_init_21 : decode cX11_init 21 = .ok (.return_, 1) := dk_177 (dk_at dksX11_init_0 21 rfl rfl)
def dkwX2_person_2 : List UInt8 := [180, 1, 10, 183, 1, 17, 83, 42, 180, 0, 127, 89, 180, 1, 10, 4, 96, 181, 1, 10, 177]
abbrev dktX2_person_2 : List UInt8 := dkwX2_person_2 ++ []
def dkwX2_person_1 : List UInt8 := [180, 1, 13, 42, 180, 0, 127, 180, 1, 10, 187, 0, 145, 89, 42, 182, 0, 230, 42, 180, 0, 127]
abbrev dktX2_person_1 : List UInt8 := dkwX2_person_1 ++ dktX2_person_2
def dkwX2_person_0 : List UInt8 := [42, 42, 180, 0, 127, 180, 1, 10, 7, 162, 0, 7, 4, 167, 0, 4, 3, 182, 0, 226, 42, 180, 0, 127]
abbrev dktX2_person_0 : List UInt8 := dkwX2_person_0 ++ dktX2_person_1
theorem dksX2_person_0 : cX2_person.data.toList.drop 0 = dktX2_person_0 := by decide +kernel
theorem dksX2_person_1 : cX2_person.data.toList.drop 24 = dktX2_person_1 := dk_seg dksX2_person_0 24 rfl rfl
theorem dksX2_person_2 : cX2_person.data.toList.drop 46 = dktX2_person_2 := dk_seg dksX2_person_1 22 rfl rfl
theorem dX2_person_0 : decode cX2_person 0 = .ok (.aload_n 0, 1) := dk_42 (dk_at dksX2_person_0 0 rfl rfl)
theorem dX2_person_1 : decode cX2_person 1 = .ok (.aload_n 0, 1) := dk_42 (dk_at dksX2_person_0 1 rfl rfl)
theorem dX2_person_2 : decode cX2_person 2 = .ok (.getfield 127, 3) := dk_180 0 127 (dk_at dksX2_person_0 2 rfl rfl)
theorem dX2_person_5 : decode cX2_person 5 = .ok (.getfield 266, 3) := dk_180 1 10 (dk_at dksX2_person_0 5 rfl rfl)
theorem dX2_person_8 : decode cX2_person 8 = .ok (.iconst 4, 1) := dk_7 (dk_at dksX2_person_0 8 rfl rfl)
theorem dX2_person_9 : decode cX2_person 9 = .ok (.if_icmp .ge 7, 3) := dk_162 0 7 (dk_at dksX2_person_0 9 rfl rfl)
theorem dX2_person_12 : decode cX2_person 12 = .ok (.iconst 1, 1) := dk_4 (dk_at dksX2_person_0 12 rfl rfl)
theorem dX2_person_13 : decode cX2_person 13 = .ok (.goto 4, 3) := dk_167 0 4 (dk_at dksX2_person_0 13 rfl rfl)
theorem dX2_person_16 : decode cX2_person 16 = .ok (.iconst 0, 1) := dk_3 (dk_at dksX2_person_0 16 rfl rfl)
theorem dX2_person_17 : decode cX2_person 17 = .ok (.invokevirtual 226, 3) := dk_182 0 226 (dk_at dksX2_person_0 17 rfl rfl)
theorem dX2_person_20 : decode cX2_person 20 = .ok (.aload_n 0, 1) := dk_42 (dk_at dksX2_person_0 20 rfl rfl)
theorem dX2_person_21 : decode cX2_person 21 = .ok (.getfield 127, 3) := dk_180 0 127 (dk_at dksX2_person_0 21 rfl rfl)
theorem dX2_person_24 : decode cX2_person 24 = .ok (.getfield 269, 3) := dk_180 1 13 (dk_at dksX2_person_1 0 rfl rfl)
theorem dX2_person_27 : decode cX2_person 27 = .ok (.aload_n 0, 1) := dk_42 (dk_at dksX2_person_1 3 rfl rfl)
theorem dX2_person_28 : decode cX2_person 28 = .ok (.getfield 127, 3) := dk_180 0 127 (dk_at dksX2_person_1 4 rfl rfl)
theorem dX2_person_31 : decode cX2_person 31 = .ok (.getfield 266, 3) := dk_180 1 10 (dk_at dksX2_person_1 7 rfl rfl)
theorem dX2_person_34 : decode cX2_person 34 = .ok (.new 145, 3) := dk_187 0 145 (dk_at dksX2_person_1 10 rfl rfl)
theorem dX2_person_37 : decode cX2_person 37 = .ok (.dup, 1) := dk_89 (dk_at dksX2_person_1 13 rfl rfl)
theorem dX2_person_38 : decode cX2_person 38 = .ok (.aload_n 0, 1) := dk_42 (dk_at dksX2_person_1 14 rfl rfl)
theorem dX2_person_39 : decode cX2_person 39 = .ok (.invokevirtual 230, 3) := dk_182 0 230 (dk_at dksX2_person_1 15 rfl rfl)
theorem dX2_person_42 : decode cX2_person 42 = .ok (.aload_n 0, 1) := dk_42 (dk_at dksX2_person_1 18 rfl rfl)
theorem dX2_person_43 : decode cX2_person 43 = .ok (.getfield 127, 3) := dk_180 0 127 (dk_at dksX2_person_1 19 rfl rfl)
theorem dX2_person_46 : decode cX2_person 46 = .ok (.getfield 266, 3) := dk_180 1 10 (dk_at dksX2_person_2 0 rfl rfl)
theorem dX2_person_49 : decode cX2_person 49 = .ok (.invokespecial 273, 3) := dk_183 1 17 (dk_at dksX2_person_2 3 rfl rfl)
theorem dX2_person_52 : decode cX2_person 52 = .ok (.aastore, 1) := dk_83 (dk_at dksX2_person_2 6 rfl rfl)
theorem dX2_person_53 : decode cX2_person 53 = .ok (.aload_n 0, 1) := dk_42 (dk_at dksX2_person_2 7 rfl rfl)
theorem dX2_person_54 : decode cX2_person 54 = .ok (.getfield 127, 3) := dk_180 0 127 (dk_at dksX2_person_2 8 rfl rfl)
theorem dX2_person_57 : decode cX2_person 57 = .ok (.dup, 1) := dk_89 (dk_at dksX2_person_2 11 rfl rfl)
theorem dX2_person_58 : decode cX2_person 58 = .ok (.getfield 266, 3) := dk_180 1 10 (dk_at dksX2_person_2 12 rfl rfl)
theorem dX2_person_61 : decode cX2_person 61 = .ok (.iconst 1, 1) := dk_4 (dk_at dksX2_person_2 15 rfl rfl)
theorem dX2_person_62 : decode cX2_person 62 = .ok (.iadd, 1) := dk_96 (dk_at dksX2_person_2 16 rfl rfl)
theorem dX2_person_63 : decode cX2_person 63 = .ok (.putfield 266, 3) := dk_181 1 10 (dk_at dksX2_person_2 17 rfl rfl)
theorem dX2_person_66 : decode cX2_person 66 = .ok (.return_, 1) := dk_177 (dk_at dksX2_person_2 20 rfl rfl)
def dkwX2_personHere_0 : List UInt8 := [42, 182, 0, 136, 76, 43, 193, 0, 145, 154, 0, 9, 42, 5, 182, 0, 82, 191, 43, 192, 0, 145, 176]
abbrev dktX2_personHere_0 : List UInt8 := dkwX2_personHere_0 ++ []
theorem dksX2_personHere_0 : cX2_personHere.data.toList.drop 0 = dktX2_personHere_0 := by decide +kernel
theorem dX2_personHere_0 : decode cX2_personHere 0 = .ok (.aload_n 0, 1) := dk_42 (dk_at dksX2_personHere_0 0 rfl rfl)
theorem dX2_personHere_1 : decode cX2_personHere 1 = .ok (.invokevirtual 136, 3) := dk_182 0 136 (dk_at dksX2_personHere_0 1 rfl rfl)
theorem dX2_personHere_4 : decode cX2_personHere 4 = .ok (.astore_n 1, 1) := dk_76 (dk_at dksX2_personHere_0 4 rfl rfl)
theorem dX2_personHere_5 : decode cX2_personHere 5 = .ok (.aload_n 1, 1) := dk_43 (dk_at dksX2_personHere_0 5 rfl rfl)
theorem dX2_personHere_6 : decode cX2_personHere 6 = .ok (.instanceof 145, 3) := dk_193 0 145 (dk_at dksX2_personHere_0 6 rfl rfl)
theorem dX2_personHere_9 : decode cX2_personHere 9 = .ok (.ifCond .ne 9, 3) := dk_154 0 9 (dk_at dksX2_personHere_0 9 rfl rfl)
theorem dX2_personHere_12 : decode cX2_personHere 12 = .ok (.aload_n 0, 1) := dk_42 (dk_at dksX2_personHere_0 12 rfl rfl)
theorem dX2_personHere_13 : decode cX2_personHere 13 = .ok (.iconst 2, 1) := dk_5 (dk_at dksX2_personHere_0 13 rfl rfl)
theorem dX2_personHere_14 : decode cX2_personHere 14 = .ok (.invokevirtual 82, 3) := dk_182 0 82 (dk_at dksX2_personHere_0 14 rfl rfl)
theorem dX2_personHere_17 : decode cX2_personHere 17 = .ok (.athrow, 1) := dk_191 (dk_at dksX2_personHere_0 17 rfl rfl)
theorem dX2_personHere_18 : decode cX2_personHere 18 = .ok (.aload_n 1, 1) := dk_43 (dk_at dksX2_personHere_0 18 rfl rfl)
theorem dX2_personHere_19 : decode cX2_personHere 19 = .ok (.checkcast 145, 3) := dk_192 0 145 (dk_at dksX2_personHere_0 19 rfl rfl)
theorem dX2_personHere_22 : decode cX2_personHere 22 = .ok (.areturn, 1) := dk_176 (dk_at dksX2_personHere_0 22 rfl rfl)
def dkwX11_begin_0 : List UInt8 := [42, 89, 180, 0, 18, 4, 96, 181, 0, 18, 177]
abbrev dktX11_begin_0 : List UInt8 := dkwX11_begin_0 ++ []
theorem dksX11_begin_0 : cX11_begin.data.toList.drop 0 = dktX11_begin_0 := by decide +kernel
theorem dX11_begin_0 : decode cX11_begin 0 = .ok (.aload_n 0, 1) := dk_42 (dk_at dksX11_begin_0 0 rfl rfl)
theorem dX11_begin_1 : decode cX11_begin 1 = .ok (.dup, 1) := dk_89 (dk_at dksX11_begin_0 1 rfl rfl)
theorem dX11_begin_2 : decode cX11_begin 2 = .ok (.getfield 18, 3) := dk_180 0 18 (dk_at dksX11_begin_0 2 rfl rfl)
theorem dX11_begin_5 : decode cX11_begin 5 = .ok (.iconst 1, 1) := dk_4 (dk_at dksX11_begin_0 5 rfl rfl)
theorem dX11_begin_6 : decode cX11_begin 6 = .ok (.iadd, 1) := dk_96 (dk_at dksX11_begin_0 6 rfl rfl)
theorem dX11_begin_7 : decode cX11_begin 7 = .ok (.putfield 18, 3) := dk_181 0 18 (dk_at dksX11_begin_0 7 rfl rfl)
theorem dX11_begin_10 : decode cX11_begin 10 = .ok (.return_, 1) := dk_177 (dk_at dksX11_begin_0 10 rfl rfl)
def dkwX11_size_0 : List UInt8 := [42, 180, 0, 15, 42, 180, 0, 18, 4, 100, 46, 172]
abbrev dktX11_size_0 : List UInt8 := dkwX11_size_0 ++ []
theorem dksX11_size_0 : cX11_size.data.toList.drop 0 = dktX11_size_0 := by decide +kernel
theorem dX11_size_0 : decode cX11_size 0 = .ok (.aload_n 0, 1) := dk_42 (dk_at dksX11_size_0 0 rfl rfl)
theorem dX11_size_1 : decode cX11_size 1 = .ok (.getfield 15, 3) := dk_180 0 15 (dk_at dksX11_size_0 1 rfl rfl)
theorem dX11_size_4 : decode cX11_size 4 = .ok (.aload_n 0, 1) := dk_42 (dk_at dksX11_size_0 4 rfl rfl)
theorem dX11_size_5 : decode cX11_size 5 = .ok (.getfield 18, 3) := dk_180 0 18 (dk_at dksX11_size_0 5 rfl rfl)
theorem dX11_size_8 : decode cX11_size 8 = .ok (.iconst 1, 1) := dk_4 (dk_at dksX11_size_0 8 rfl rfl)
theorem dX11_size_9 : decode cX11_size 9 = .ok (.isub, 1) := dk_100 (dk_at dksX11_size_0 9 rfl rfl)
theorem dX11_size_10 : decode cX11_size 10 = .ok (.iaload, 1) := dk_46 (dk_at dksX11_size_0 10 rfl rfl)
theorem dX11_size_11 : decode cX11_size 11 = .ok (.ireturn, 1) := dk_172 (dk_at dksX11_size_0 11 rfl rfl)
def dkwX11_add_1 : List UInt8 := [96, 27, 79, 42, 180, 0, 15, 42, 180, 0, 18, 4, 100, 92, 46, 4, 96, 79, 177]
abbrev dktX11_add_1 : List UInt8 := dkwX11_add_1 ++ []
def dkwX11_add_0 : List UInt8 := [42, 180, 0, 9, 16, 12, 42, 180, 0, 18, 4, 100, 104, 42, 180, 0, 15, 42, 180, 0, 18, 4, 100, 46]
abbrev dktX11_add_0 : List UInt8 := dkwX11_add_0 ++ dktX11_add_1
theorem dksX11_add_0 : cX11_add.data.toList.drop 0 = dktX11_add_0 := by decide +kernel
theorem dksX11_add_1 : cX11_add.data.toList.drop 24 = dktX11_add_1 := dk_seg dksX11_add_0 24 rfl rfl
theorem dX11_add_0 : decode cX11_add 0 = .ok (.aload_n 0, 1) := dk_42 (dk_at dksX11_add_0 0 rfl rfl)
theorem dX11_add_1 : decode cX11_add 1 = .ok (.getfield 9, 3) := dk_180 0 9 (dk_at dksX11_add_0 1 rfl rfl)
theorem dX11_add_4 : decode cX11_add 4 = .ok (.bipush 12, 2) := dk_16 12 (dk_at dksX11_add_0 4 rfl rfl)
theorem dX11_add_6 : decode cX11_add 6 = .ok (.aload_n 0, 1) := dk_42 (dk_at dksX11_add_0 6 rfl rfl)
theorem dX11_add_7 : decode cX11_add 7 = .ok (.getfield 18, 3) := dk_180 0 18 (dk_at dksX11_add_0 7 rfl rfl)
theorem dX11_add_10 : decode cX11_add 10 = .ok (.iconst 1, 1) := dk_4 (dk_at dksX11_add_0 10 rfl rfl)
theorem dX11_add_11 : decode cX11_add 11 = .ok (.isub, 1) := dk_100 (dk_at dksX11_add_0 11 rfl rfl)
theorem dX11_add_12 : decode cX11_add 12 = .ok (.imul, 1) := dk_104 (dk_at dksX11_add_0 12 rfl rfl)
theorem dX11_add_13 : decode cX11_add 13 = .ok (.aload_n 0, 1) := dk_42 (dk_at dksX11_add_0 13 rfl rfl)
theorem dX11_add_14 : decode cX11_add 14 = .ok (.getfield 15, 3) := dk_180 0 15 (dk_at dksX11_add_0 14 rfl rfl)
theorem dX11_add_17 : decode cX11_add 17 = .ok (.aload_n 0, 1) := dk_42 (dk_at dksX11_add_0 17 rfl rfl)
theorem dX11_add_18 : decode cX11_add 18 = .ok (.getfield 18, 3) := dk_180 0 18 (dk_at dksX11_add_0 18 rfl rfl)
theorem dX11_add_21 : decode cX11_add 21 = .ok (.iconst 1, 1) := dk_4 (dk_at dksX11_add_0 21 rfl rfl)
theorem dX11_add_22 : decode cX11_add 22 = .ok (.isub, 1) := dk_100 (dk_at dksX11_add_0 22 rfl rfl)
theorem dX11_add_23 : decode cX11_add 23 = .ok (.iaload, 1) := dk_46 (dk_at dksX11_add_0 23 rfl rfl)
theorem dX11_add_24 : decode cX11_add 24 = .ok (.iadd, 1) := dk_96 (dk_at dksX11_add_1 0 rfl rfl)
theorem dX11_add_25 : decode cX11_add 25 = .ok (.iload_n 1, 1) := dk_27 (dk_at dksX11_add_1 1 rfl rfl)
theorem dX11_add_26 : decode cX11_add 26 = .ok (.iastore, 1) := dk_79 (dk_at dksX11_add_1 2 rfl rfl)
theorem dX11_add_27 : decode cX11_add 27 = .ok (.aload_n 0, 1) := dk_42 (dk_at dksX11_add_1 3 rfl rfl)
theorem dX11_add_28 : decode cX11_add 28 = .ok (.getfield 15, 3) := dk_180 0 15 (dk_at dksX11_add_1 4 rfl rfl)
theorem dX11_add_31 : decode cX11_add 31 = .ok (.aload_n 0, 1) := dk_42 (dk_at dksX11_add_1 7 rfl rfl)
theorem dX11_add_32 : decode cX11_add 32 = .ok (.getfield 18, 3) := dk_180 0 18 (dk_at dksX11_add_1 8 rfl rfl)
theorem dX11_add_35 : decode cX11_add 35 = .ok (.iconst 1, 1) := dk_4 (dk_at dksX11_add_1 11 rfl rfl)
theorem dX11_add_36 : decode cX11_add 36 = .ok (.isub, 1) := dk_100 (dk_at dksX11_add_1 12 rfl rfl)
theorem dX11_add_37 : decode cX11_add 37 = .ok (.dup2, 1) := dk_92 (dk_at dksX11_add_1 13 rfl rfl)
theorem dX11_add_38 : decode cX11_add 38 = .ok (.iaload, 1) := dk_46 (dk_at dksX11_add_1 14 rfl rfl)
theorem dX11_add_39 : decode cX11_add 39 = .ok (.iconst 1, 1) := dk_4 (dk_at dksX11_add_1 15 rfl rfl)
theorem dX11_add_40 : decode cX11_add 40 = .ok (.iadd, 1) := dk_96 (dk_at dksX11_add_1 16 rfl rfl)
theorem dX11_add_41 : decode cX11_add 41 = .ok (.iastore, 1) := dk_79 (dk_at dksX11_add_1 17 rfl rfl)
theorem dX11_add_42 : decode cX11_add 42 = .ok (.return_, 1) := dk_177 (dk_at dksX11_add_1 18 rfl rfl)
def dkwX2_story_3 : List UInt8 := [182, 0, 75, 42, 182, 0, 169, 61, 167, 255, 210, 177]
abbrev dktX2_story_3 : List UInt8 := dkwX2_story_3 ++ []
def dkwX2_story_2 : List UInt8 := [180, 0, 127, 180, 0, 163, 160, 0, 9, 42, 8, 182, 0, 82, 191, 43, 45, 180, 0, 253, 182, 1, 30, 42]
abbrev dktX2_story_2 : List UInt8 := dkwX2_story_2 ++ dktX2_story_3
def dkwX2_story_1 : List UInt8 := [42, 182, 0, 75, 43, 182, 1, 25, 4, 61, 28, 153, 0, 48, 42, 182, 0, 141, 78, 43, 182, 1, 28, 42]
abbrev dktX2_story_1 : List UInt8 := dkwX2_story_1 ++ dktX2_story_2
def dkwX2_story_0 : List UInt8 := [42, 4, 182, 0, 226, 42, 182, 1, 18, 76, 43, 180, 1, 22, 6, 160, 0, 9, 42, 8, 182, 0, 82, 191]
abbrev dktX2_story_0 : List UInt8 := dkwX2_story_0 ++ dktX2_story_1
theorem dksX2_story_0 : cX2_story.data.toList.drop 0 = dktX2_story_0 := by decide +kernel
theorem dksX2_story_1 : cX2_story.data.toList.drop 24 = dktX2_story_1 := dk_seg dksX2_story_0 24 rfl rfl
theorem dksX2_story_2 : cX2_story.data.toList.drop 48 = dktX2_story_2 := dk_seg dksX2_story_1 24 rfl rfl
theorem dksX2_story_3 : cX2_story.data.toList.drop 72 = dktX2_story_3 := dk_seg dksX2_story_2 24 rfl rfl
theorem dX2_story_0 : decode cX2_story 0 = .ok (.aload_n 0, 1) := dk_42 (dk_at dksX2_story_0 0 rfl rfl)
theorem dX2_story_1 : decode cX2_story 1 = .ok (.iconst 1, 1) := dk_4 (dk_at dksX2_story_0 1 rfl rfl)
theorem dX2_story_2 : decode cX2_story 2 = .ok (.invokevirtual 226, 3) := dk_182 0 226 (dk_at dksX2_story_0 2 rfl rfl)
theorem dX2_story_5 : decode cX2_story 5 = .ok (.aload_n 0, 1) := dk_42 (dk_at dksX2_story_0 5 rfl rfl)
theorem dX2_story_6 : decode cX2_story 6 = .ok (.invokevirtual 274, 3) := dk_182 1 18 (dk_at dksX2_story_0 6 rfl rfl)
theorem dX2_story_9 : decode cX2_story 9 = .ok (.astore_n 1, 1) := dk_76 (dk_at dksX2_story_0 9 rfl rfl)
theorem dX2_story_10 : decode cX2_story 10 = .ok (.aload_n 1, 1) := dk_43 (dk_at dksX2_story_0 10 rfl rfl)
theorem dX2_story_11 : decode cX2_story 11 = .ok (.getfield 278, 3) := dk_180 1 22 (dk_at dksX2_story_0 11 rfl rfl)
theorem dX2_story_14 : decode cX2_story 14 = .ok (.iconst 3, 1) := dk_6 (dk_at dksX2_story_0 14 rfl rfl)
theorem dX2_story_15 : decode cX2_story 15 = .ok (.if_icmp .ne 9, 3) := dk_160 0 9 (dk_at dksX2_story_0 15 rfl rfl)
theorem dX2_story_18 : decode cX2_story 18 = .ok (.aload_n 0, 1) := dk_42 (dk_at dksX2_story_0 18 rfl rfl)
theorem dX2_story_19 : decode cX2_story 19 = .ok (.iconst 5, 1) := dk_8 (dk_at dksX2_story_0 19 rfl rfl)
theorem dX2_story_20 : decode cX2_story 20 = .ok (.invokevirtual 82, 3) := dk_182 0 82 (dk_at dksX2_story_0 20 rfl rfl)
theorem dX2_story_23 : decode cX2_story 23 = .ok (.athrow, 1) := dk_191 (dk_at dksX2_story_0 23 rfl rfl)
theorem dX2_story_24 : decode cX2_story 24 = .ok (.aload_n 0, 1) := dk_42 (dk_at dksX2_story_1 0 rfl rfl)
theorem dX2_story_25 : decode cX2_story 25 = .ok (.invokevirtual 75, 3) := dk_182 0 75 (dk_at dksX2_story_1 1 rfl rfl)
theorem dX2_story_28 : decode cX2_story 28 = .ok (.aload_n 1, 1) := dk_43 (dk_at dksX2_story_1 4 rfl rfl)
theorem dX2_story_29 : decode cX2_story 29 = .ok (.invokevirtual 281, 3) := dk_182 1 25 (dk_at dksX2_story_1 5 rfl rfl)
theorem dX2_story_32 : decode cX2_story 32 = .ok (.iconst 1, 1) := dk_4 (dk_at dksX2_story_1 8 rfl rfl)
theorem dX2_story_33 : decode cX2_story 33 = .ok (.istore_n 2, 1) := dk_61 (dk_at dksX2_story_1 9 rfl rfl)
theorem dX2_story_34 : decode cX2_story 34 = .ok (.iload_n 2, 1) := dk_28 (dk_at dksX2_story_1 10 rfl rfl)
theorem dX2_story_35 : decode cX2_story 35 = .ok (.ifCond .eq 48, 3) := dk_153 0 48 (dk_at dksX2_story_1 11 rfl rfl)
theorem dX2_story_38 : decode cX2_story 38 = .ok (.aload_n 0, 1) := dk_42 (dk_at dksX2_story_1 14 rfl rfl)
theorem dX2_story_39 : decode cX2_story 39 = .ok (.invokevirtual 141, 3) := dk_182 0 141 (dk_at dksX2_story_1 15 rfl rfl)
theorem dX2_story_42 : decode cX2_story 42 = .ok (.astore_n 3, 1) := dk_78 (dk_at dksX2_story_1 18 rfl rfl)
theorem dX2_story_43 : decode cX2_story 43 = .ok (.aload_n 1, 1) := dk_43 (dk_at dksX2_story_1 19 rfl rfl)
theorem dX2_story_44 : decode cX2_story 44 = .ok (.invokevirtual 284, 3) := dk_182 1 28 (dk_at dksX2_story_1 20 rfl rfl)
theorem dX2_story_47 : decode cX2_story 47 = .ok (.aload_n 0, 1) := dk_42 (dk_at dksX2_story_1 23 rfl rfl)
theorem dX2_story_48 : decode cX2_story 48 = .ok (.getfield 127, 3) := dk_180 0 127 (dk_at dksX2_story_2 0 rfl rfl)
theorem dX2_story_51 : decode cX2_story 51 = .ok (.getfield 163, 3) := dk_180 0 163 (dk_at dksX2_story_2 3 rfl rfl)
theorem dX2_story_54 : decode cX2_story 54 = .ok (.if_icmp .ne 9, 3) := dk_160 0 9 (dk_at dksX2_story_2 6 rfl rfl)
theorem dX2_story_57 : decode cX2_story 57 = .ok (.aload_n 0, 1) := dk_42 (dk_at dksX2_story_2 9 rfl rfl)
theorem dX2_story_58 : decode cX2_story 58 = .ok (.iconst 5, 1) := dk_8 (dk_at dksX2_story_2 10 rfl rfl)
theorem dX2_story_59 : decode cX2_story 59 = .ok (.invokevirtual 82, 3) := dk_182 0 82 (dk_at dksX2_story_2 11 rfl rfl)
theorem dX2_story_62 : decode cX2_story 62 = .ok (.athrow, 1) := dk_191 (dk_at dksX2_story_2 14 rfl rfl)
theorem dX2_story_63 : decode cX2_story 63 = .ok (.aload_n 1, 1) := dk_43 (dk_at dksX2_story_2 15 rfl rfl)
theorem dX2_story_64 : decode cX2_story 64 = .ok (.aload_n 3, 1) := dk_45 (dk_at dksX2_story_2 16 rfl rfl)
theorem dX2_story_65 : decode cX2_story 65 = .ok (.getfield 253, 3) := dk_180 0 253 (dk_at dksX2_story_2 17 rfl rfl)
theorem dX2_story_68 : decode cX2_story 68 = .ok (.invokevirtual 286, 3) := dk_182 1 30 (dk_at dksX2_story_2 20 rfl rfl)
theorem dX2_story_71 : decode cX2_story 71 = .ok (.aload_n 0, 1) := dk_42 (dk_at dksX2_story_2 23 rfl rfl)
theorem dX2_story_72 : decode cX2_story 72 = .ok (.invokevirtual 75, 3) := dk_182 0 75 (dk_at dksX2_story_3 0 rfl rfl)
theorem dX2_story_75 : decode cX2_story 75 = .ok (.aload_n 0, 1) := dk_42 (dk_at dksX2_story_3 3 rfl rfl)
theorem dX2_story_76 : decode cX2_story 76 = .ok (.invokevirtual 169, 3) := dk_182 0 169 (dk_at dksX2_story_3 4 rfl rfl)
theorem dX2_story_79 : decode cX2_story 79 = .ok (.istore_n 2, 1) := dk_61 (dk_at dksX2_story_3 7 rfl rfl)
theorem dX2_story_80 : decode cX2_story 80 = .ok (.goto (-46), 3) := dk_167 255 210 (dk_at dksX2_story_3 8 rfl rfl)
theorem dX2_story_83 : decode cX2_story 83 = .ok (.return_, 1) := dk_177 (dk_at dksX2_story_3 11 rfl rfl)
def dkwX12_init_0 : List UInt8 := [42, 43, 28, 183, 0, 3, 42, 7, 188, 10, 181, 0, 9, 177]
abbrev dktX12_init_0 : List UInt8 := dkwX12_init_0 ++ []
theorem dksX12_init_0 : cX12_init.data.toList.drop 0 = dktX12_init_0 := by decide +kernel
theorem dX12_init_0 : decode cX12_init 0 = .ok (.aload_n 0, 1) := dk_42 (dk_at dksX12_init_0 0 rfl rfl)
theorem dX12_init_1 : decode cX12_init 1 = .ok (.aload_n 1, 1) := dk_43 (dk_at dksX12_init_0 1 rfl rfl)
theorem dX12_init_2 : decode cX12_init 2 = .ok (.iload_n 2, 1) := dk_28 (dk_at dksX12_init_0 2 rfl rfl)
theorem dX12_init_3 : decode cX12_init 3 = .ok (.invokespecial 3, 3) := dk_183 0 3 (dk_at dksX12_init_0 3 rfl rfl)
theorem dX12_init_6 : decode cX12_init 6 = .ok (.aload_n 0, 1) := dk_42 (dk_at dksX12_init_0 6 rfl rfl)
theorem dX12_init_7 : decode cX12_init 7 = .ok (.iconst 4, 1) := dk_7 (dk_at dksX12_init_0 7 rfl rfl)
theorem dX12_init_8 : decode cX12_init 8 = .ok (.newarray .int, 2) := dk_188_10 (dk_at dksX12_init_0 8 rfl rfl)
theorem dX12_init_10 : decode cX12_init 10 = .ok (.putfield 9, 3) := dk_181 0 9 (dk_at dksX12_init_0 10 rfl rfl)
theorem dX12_init_13 : decode cX12_init 13 = .ok (.return_, 1) := dk_177 (dk_at dksX12_init_0 13 rfl rfl)
def dkwX13_init_0 : List UInt8 := [42, 43, 28, 183, 0, 1, 177]
abbrev dktX13_init_0 : List UInt8 := dkwX13_init_0 ++ []
theorem dksX13_init_0 : cX13_init.data.toList.drop 0 = dktX13_init_0 := by decide +kernel
theorem dX13_init_0 : decode cX13_init 0 = .ok (.aload_n 0, 1) := dk_42 (dk_at dksX13_init_0 0 rfl rfl)
theorem dX13_init_1 : decode cX13_init 1 = .ok (.aload_n 1, 1) := dk_43 (dk_at dksX13_init_0 1 rfl rfl)
theorem dX13_init_2 : decode cX13_init 2 = .ok (.iload_n 2, 1) := dk_28 (dk_at dksX13_init_0 2 rfl rfl)
theorem dX13_init_3 : decode cX13_init 3 = .ok (.invokespecial 1, 3) := dk_183 0 1 (dk_at dksX13_init_0 3 rfl rfl)
theorem dX13_init_6 : decode cX13_init 6 = .ok (.return_, 1) := dk_177 (dk_at dksX13_init_0 6 rfl rfl)
def dkwX14_init_0 : List UInt8 := [42, 43, 28, 183, 0, 1, 177]
abbrev dktX14_init_0 : List UInt8 := dkwX14_init_0 ++ []
theorem dksX14_init_0 : cX14_init.data.toList.drop 0 = dktX14_init_0 := by decide +kernel
theorem dX14_init_0 : decode cX14_init 0 = .ok (.aload_n 0, 1) := dk_42 (dk_at dksX14_init_0 0 rfl rfl)
theorem dX14_init_1 : decode cX14_init 1 = .ok (.aload_n 1, 1) := dk_43 (dk_at dksX14_init_0 1 rfl rfl)
theorem dX14_init_2 : decode cX14_init 2 = .ok (.iload_n 2, 1) := dk_28 (dk_at dksX14_init_0 2 rfl rfl)
theorem dX14_init_3 : decode cX14_init 3 = .ok (.invokespecial 1, 3) := dk_183 0 1 (dk_at dksX14_init_0 3 rfl rfl)
theorem dX14_init_6 : decode cX14_init 6 = .ok (.return_, 1) := dk_177 (dk_at dksX14_init_0 6 rfl rfl)
theorem fl_J3_19 : FL "java/lang/String" 19 [41] 2 (tyOf 0) := fun kd h => (by cases List.mem_singleton.mp h; exact ⟨21, _, 2, "java/lang/String", rfl, rfl, by decide, rfl, rfl, Or.inl q723, Or.inl rfl⟩)
theorem fl_J3_23 : FL "java/lang/String" 23 [41] 3 (tyOf 1) := fun kd h => (by cases List.mem_singleton.mp h; exact ⟨21, _, 3, "java/lang/String", rfl, rfl, by decide, rfl, rfl, Or.inl q724, Or.inl rfl⟩)
theorem fp_J3_hashCode_19 : FP mJ3_hashCode 19 [41] 2 (tyOf 0) := fun kd h => (by cases List.mem_singleton.mp h; exact ⟨21, _, 2, "java/lang/String", rfl, rfl, by decide, rfl, rfl, Or.inl rfl, Or.inl ⟨rfl, Or.inl q723⟩⟩)
theorem fp_J3_hashCode_23 : FP mJ3_hashCode 23 [41] 3 (tyOf 1) := fun kd h => (by cases List.mem_singleton.mp h; exact ⟨21, _, 3, "java/lang/String", rfl, rfl, by decide, rfl, rfl, Or.inl rfl, Or.inl ⟨rfl, Or.inl q724⟩⟩)
theorem iy_java_lang_String : IsOK "java/lang/String" [41] := fun kd h => (by cases List.mem_singleton.mp h; exact ⟨21, _, rfl, rfl, Or.inl rfl⟩)
theorem ino_java_lang_String : NoOK "java/lang/String" [] := fun _ h => absurd h List.not_mem_nil
theorem fl_X2_61 : FL "GoatCourt$Reader" 61 [21] 8 (.object "java/lang/String") := fun kd h => (by cases List.mem_singleton.mp h; exact ⟨1, _, 8, "GoatCourt$Reader", rfl, rfl, by decide, rfl, rfl, Or.inl q298, Or.inl rfl⟩)
theorem fl_X2_127 : FL "GoatCourt$Reader" 127 [21] 9 (.object "GoatCourt$Hill") := fun kd h => (by cases List.mem_singleton.mp h; exact ⟨1, _, 9, "GoatCourt$Reader", rfl, rfl, by decide, rfl, rfl, Or.inl q299, Or.inl rfl⟩)
theorem fl_X2_163 : FL "GoatCourt$Reader" 163 [27] 11 (tyOf 0) := fun kd h => (by cases List.mem_singleton.mp h; exact ⟨7, _, 11, "GoatCourt$Hill", rfl, rfl, by decide, rfl, rfl, Or.inl q556, Or.inl rfl⟩)
theorem fp_X2_hillLine_166 : FP mX2_hillLine 166 [27] 12 (tyOf 0) := fun kd h => (by cases List.mem_singleton.mp h; exact ⟨7, _, 12, "GoatCourt$Hill", rfl, rfl, by decide, rfl, rfl, Or.inl rfl, Or.inl ⟨rfl, Or.inl q559⟩⟩)
theorem fp_X2_hillLine_163 : FP mX2_hillLine 163 [27] 11 (tyOf 0) := fun kd h => (by cases List.mem_singleton.mp h; exact ⟨7, _, 11, "GoatCourt$Hill", rfl, rfl, by decide, rfl, rfl, Or.inl rfl, Or.inl ⟨rfl, Or.inl q556⟩⟩)
theorem fl_X8_66 : FL "GoatCourt$Hill" 66 [28, 29, 30, 31, 32, 33, 37, 39] 100 (.object "java/lang/String") := fun kd h => ((List.mem_cons.mp h).elim (fun e => by cases e; exact ⟨8, _, 0, "GoatCourt$Named", rfl, rfl, by decide, rfl, rfl, Or.inl q890, Or.inl rfl⟩) (fun h => ((List.mem_cons.mp h).elim (fun e => by cases e; exact ⟨9, _, 0, "GoatCourt$Named", rfl, rfl, by decide, rfl, rfl, Or.inl q890, Or.inl rfl⟩) (fun h => ((List.mem_cons.mp h).elim (fun e => by cases e; exact ⟨10, _, 5, "GoatCourt$Named", rfl, rfl, by decide, rfl, rfl, Or.inl q890, Or.inl rfl⟩) (fun h => ((List.mem_cons.mp h).elim (fun e => by cases e; exact ⟨11, _, 5, "GoatCourt$Named", rfl, rfl, by decide, rfl, rfl, Or.inl q890, Or.inl rfl⟩) (fun h => ((List.mem_cons.mp h).elim (fun e => by cases e; exact ⟨12, _, 5, "GoatCourt$Named", rfl, rfl, by decide, rfl, rfl, Or.inl q890, Or.inl rfl⟩) (fun h => ((List.mem_cons.mp h).elim (fun e => by cases e; exact ⟨13, _, 5, "GoatCourt$Named", rfl, rfl, by decide, rfl, rfl, Or.inl q890, Or.inl rfl⟩) (fun h => ((List.mem_cons.mp h).elim (fun e => by cases e; exact ⟨17, _, 0, "GoatCourt$Named", rfl, rfl, by decide, rfl, rfl, Or.inl q890, Or.inl rfl⟩) (fun h => (by cases List.mem_singleton.mp h; exact ⟨19, _, 0, "GoatCourt$Named", rfl, rfl, by decide, rfl, rfl, Or.inl q890, Or.inl rfl⟩)))))))))))))))
theorem fl_X8_62 : FL "GoatCourt$Hill" 62 [27] 10 (.array (.object "GoatCourt$Court")) := fun kd h => (by cases List.mem_singleton.mp h; exact ⟨7, _, 10, "GoatCourt$Hill", rfl, rfl, by decide, rfl, rfl, Or.inl q552, Or.inl rfl⟩)
theorem fl_X8_95 : FL "GoatCourt$Hill" 95 [27] 22 (tyOf 0) := fun kd h => (by cases List.mem_singleton.mp h; exact ⟨7, _, 22, "GoatCourt$Hill", rfl, rfl, by decide, rfl, rfl, Or.inl q590, Or.inl rfl⟩)
theorem fl_X8_50 : FL "GoatCourt$Hill" 50 [27] 8 (.array (.object "GoatCourt$Fact")) := fun kd h => (by cases List.mem_singleton.mp h; exact ⟨7, _, 8, "GoatCourt$Hill", rfl, rfl, by decide, rfl, rfl, Or.inl q546, Or.inl rfl⟩)
theorem fl_X8_92 : FL "GoatCourt$Hill" 92 [27] 19 (tyOf 0) := fun kd h => (by cases List.mem_singleton.mp h; exact ⟨7, _, 19, "GoatCourt$Hill", rfl, rfl, by decide, rfl, rfl, Or.inl q581, Or.inl rfl⟩)
theorem fl_X8_38 : FL "GoatCourt$Hill" 38 [27] 6 (.array (.object "GoatCourt$Goat")) := fun kd h => (by cases List.mem_singleton.mp h; exact ⟨7, _, 6, "GoatCourt$Hill", rfl, rfl, by decide, rfl, rfl, Or.inl q538, Or.inl rfl⟩)
theorem fl_X8_89 : FL "GoatCourt$Hill" 89 [27] 16 (tyOf 0) := fun kd h => (by cases List.mem_singleton.mp h; exact ⟨7, _, 16, "GoatCourt$Hill", rfl, rfl, by decide, rfl, rfl, Or.inl q573, Or.inl rfl⟩)
theorem fl_X8_11 : FL "GoatCourt$Hill" 11 [27] 0 (.array (.object "GoatCourt$Place")) := fun kd h => (by cases List.mem_singleton.mp h; exact ⟨7, _, 0, "GoatCourt$Hill", rfl, rfl, by decide, rfl, rfl, Or.inl q520, Or.inl rfl⟩)
theorem fl_X8_78 : FL "GoatCourt$Hill" 78 [27] 13 (tyOf 0) := fun kd h => (by cases List.mem_singleton.mp h; exact ⟨7, _, 13, "GoatCourt$Hill", rfl, rfl, by decide, rfl, rfl, Or.inl q561, Or.inl rfl⟩)
theorem fl_X8_32 : FL "GoatCourt$Hill" 32 [27] 5 (.array (.object "GoatCourt$Person")) := fun kd h => (by cases List.mem_singleton.mp h; exact ⟨7, _, 5, "GoatCourt$Hill", rfl, rfl, by decide, rfl, rfl, Or.inl q534, Or.inl rfl⟩)
theorem fl_X8_86 : FL "GoatCourt$Hill" 86 [27] 15 (tyOf 0) := fun kd h => (by cases List.mem_singleton.mp h; exact ⟨7, _, 15, "GoatCourt$Hill", rfl, rfl, by decide, rfl, rfl, Or.inl q567, Or.inl rfl⟩)
theorem fp_X9_init_7 : FP mX9_init 7 [28, 29, 30, 31, 32, 33, 37, 39] 100 (.object "java/lang/String") := fun kd h => ((List.mem_cons.mp h).elim (fun e => by cases e; exact ⟨8, _, 0, "GoatCourt$Named", rfl, rfl, by decide, rfl, rfl, Or.inl rfl, Or.inr ⟨rfl, q889, rfl, rfl⟩⟩) (fun h => ((List.mem_cons.mp h).elim (fun e => by cases e; exact ⟨9, _, 0, "GoatCourt$Named", rfl, rfl, by decide, rfl, rfl, Or.inl rfl, Or.inr ⟨rfl, q889, rfl, rfl⟩⟩) (fun h => ((List.mem_cons.mp h).elim (fun e => by cases e; exact ⟨10, _, 5, "GoatCourt$Named", rfl, rfl, by decide, rfl, rfl, Or.inl rfl, Or.inr ⟨rfl, q889, rfl, rfl⟩⟩) (fun h => ((List.mem_cons.mp h).elim (fun e => by cases e; exact ⟨11, _, 5, "GoatCourt$Named", rfl, rfl, by decide, rfl, rfl, Or.inl rfl, Or.inr ⟨rfl, q889, rfl, rfl⟩⟩) (fun h => ((List.mem_cons.mp h).elim (fun e => by cases e; exact ⟨12, _, 5, "GoatCourt$Named", rfl, rfl, by decide, rfl, rfl, Or.inl rfl, Or.inr ⟨rfl, q889, rfl, rfl⟩⟩) (fun h => ((List.mem_cons.mp h).elim (fun e => by cases e; exact ⟨13, _, 5, "GoatCourt$Named", rfl, rfl, by decide, rfl, rfl, Or.inl rfl, Or.inr ⟨rfl, q889, rfl, rfl⟩⟩) (fun h => ((List.mem_cons.mp h).elim (fun e => by cases e; exact ⟨17, _, 0, "GoatCourt$Named", rfl, rfl, by decide, rfl, rfl, Or.inl rfl, Or.inr ⟨rfl, q889, rfl, rfl⟩⟩) (fun h => (by cases List.mem_singleton.mp h; exact ⟨19, _, 0, "GoatCourt$Named", rfl, rfl, by decide, rfl, rfl, Or.inl rfl, Or.inr ⟨rfl, q889, rfl, rfl⟩⟩)))))))))))))))
theorem fp_X9_init_13 : FP mX9_init 13 [28, 29, 30, 31, 32, 33, 37, 39] 101 (tyOf 0) := fun kd h => ((List.mem_cons.mp h).elim (fun e => by cases e; exact ⟨8, _, 1, "GoatCourt$Named", rfl, rfl, by decide, rfl, rfl, Or.inl rfl, Or.inr ⟨rfl, q891, rfl, rfl⟩⟩) (fun h => ((List.mem_cons.mp h).elim (fun e => by cases e; exact ⟨9, _, 1, "GoatCourt$Named", rfl, rfl, by decide, rfl, rfl, Or.inl rfl, Or.inr ⟨rfl, q891, rfl, rfl⟩⟩) (fun h => ((List.mem_cons.mp h).elim (fun e => by cases e; exact ⟨10, _, 6, "GoatCourt$Named", rfl, rfl, by decide, rfl, rfl, Or.inl rfl, Or.inr ⟨rfl, q891, rfl, rfl⟩⟩) (fun h => ((List.mem_cons.mp h).elim (fun e => by cases e; exact ⟨11, _, 6, "GoatCourt$Named", rfl, rfl, by decide, rfl, rfl, Or.inl rfl, Or.inr ⟨rfl, q891, rfl, rfl⟩⟩) (fun h => ((List.mem_cons.mp h).elim (fun e => by cases e; exact ⟨12, _, 6, "GoatCourt$Named", rfl, rfl, by decide, rfl, rfl, Or.inl rfl, Or.inr ⟨rfl, q891, rfl, rfl⟩⟩) (fun h => ((List.mem_cons.mp h).elim (fun e => by cases e; exact ⟨13, _, 6, "GoatCourt$Named", rfl, rfl, by decide, rfl, rfl, Or.inl rfl, Or.inr ⟨rfl, q891, rfl, rfl⟩⟩) (fun h => ((List.mem_cons.mp h).elim (fun e => by cases e; exact ⟨17, _, 1, "GoatCourt$Named", rfl, rfl, by decide, rfl, rfl, Or.inl rfl, Or.inr ⟨rfl, q891, rfl, rfl⟩⟩) (fun h => (by cases List.mem_singleton.mp h; exact ⟨19, _, 1, "GoatCourt$Named", rfl, rfl, by decide, rfl, rfl, Or.inl rfl, Or.inr ⟨rfl, q891, rfl, rfl⟩⟩)))))))))))))))
theorem fp_X10_init_9 : FP mX10_init 9 [28] 0 (.array (.int)) := fun kd h => (by cases List.mem_singleton.mp h; exact ⟨8, _, 2, "GoatCourt$Place", rfl, rfl, by decide, rfl, rfl, Or.inl rfl, Or.inr ⟨rfl, q883, rfl, rfl⟩⟩)
theorem fl_X2_166 : FL "GoatCourt$Reader" 166 [27] 12 (tyOf 0) := fun kd h => (by cases List.mem_singleton.mp h; exact ⟨7, _, 12, "GoatCourt$Hill", rfl, rfl, by decide, rfl, rfl, Or.inl q559, Or.inl rfl⟩)
theorem fl_X2_184 : FL "GoatCourt$Reader" 184 [27] 13 (tyOf 0) := fun kd h => (by cases List.mem_singleton.mp h; exact ⟨7, _, 13, "GoatCourt$Hill", rfl, rfl, by decide, rfl, rfl, Or.inl q563, Or.inl rfl⟩)
theorem fl_X2_237 : FL "GoatCourt$Reader" 237 [28] 0 (.array (.int)) := fun kd h => (by cases List.mem_singleton.mp h; exact ⟨8, _, 2, "GoatCourt$Place", rfl, rfl, by decide, rfl, rfl, Or.inl q886, Or.inl rfl⟩)
theorem fl_X2_244 : FL "GoatCourt$Reader" 244 [27] 0 (.array (.object "GoatCourt$Place")) := fun kd h => (by cases List.mem_singleton.mp h; exact ⟨7, _, 0, "GoatCourt$Hill", rfl, rfl, by decide, rfl, rfl, Or.inl q523, Or.inl rfl⟩)
theorem fp_X2_placeLine_184 : FP mX2_placeLine 184 [27] 13 (tyOf 0) := fun kd h => (by cases List.mem_singleton.mp h; exact ⟨7, _, 13, "GoatCourt$Hill", rfl, rfl, by decide, rfl, rfl, Or.inl rfl, Or.inl ⟨rfl, Or.inl q563⟩⟩)
theorem ia_GoatCourt_Place : AaOK 6 [28] := fun kd h => (by cases List.mem_singleton.mp h; exact ⟨8, _, "GoatCourt$Place", rfl, rfl, rfl, Or.inl rfl⟩)
theorem iy_GoatCourt_Place : IsOK "GoatCourt$Place" [28] := fun kd h => (by cases List.mem_singleton.mp h; exact ⟨8, _, rfl, rfl, Or.inl rfl⟩)
theorem ino_GoatCourt_Place : NoOK "GoatCourt$Place" [29, 30, 31, 32, 33, 37, 39] := fun kd h => ((List.mem_cons.mp h).elim (fun e => by cases e; exact ⟨9, _, rfl, rfl, by decide⟩) (fun h => ((List.mem_cons.mp h).elim (fun e => by cases e; exact ⟨10, _, rfl, rfl, by decide⟩) (fun h => ((List.mem_cons.mp h).elim (fun e => by cases e; exact ⟨11, _, rfl, rfl, by decide⟩) (fun h => ((List.mem_cons.mp h).elim (fun e => by cases e; exact ⟨12, _, rfl, rfl, by decide⟩) (fun h => ((List.mem_cons.mp h).elim (fun e => by cases e; exact ⟨13, _, rfl, rfl, by decide⟩) (fun h => ((List.mem_cons.mp h).elim (fun e => by cases e; exact ⟨17, _, rfl, rfl, by decide⟩) (fun h => (by cases List.mem_singleton.mp h; exact ⟨19, _, rfl, rfl, by decide⟩)))))))))))))
theorem fl_X8_17 : FL "GoatCourt$Hill" 17 [27] 1 (.array (.int)) := fun kd h => (by cases List.mem_singleton.mp h; exact ⟨7, _, 1, "GoatCourt$Hill", rfl, rfl, by decide, rfl, rfl, Or.inl q524, Or.inl rfl⟩)
theorem fl_X8_21 : FL "GoatCourt$Hill" 21 [27] 2 (.array (.int)) := fun kd h => (by cases List.mem_singleton.mp h; exact ⟨7, _, 2, "GoatCourt$Hill", rfl, rfl, by decide, rfl, rfl, Or.inl q526, Or.inl rfl⟩)
theorem fl_X8_98 : FL "GoatCourt$Hill" 98 [27] 14 (tyOf 0) := fun kd h => (by cases List.mem_singleton.mp h; exact ⟨7, _, 14, "GoatCourt$Hill", rfl, rfl, by decide, rfl, rfl, Or.inl q564, Or.inl rfl⟩)
theorem fl_X2_253 : FL "GoatCourt$Reader" 253 [28] 101 (tyOf 0) := fun kd h => (by cases List.mem_singleton.mp h; exact ⟨8, _, 1, "GoatCourt$Place", rfl, rfl, by decide, rfl, rfl, Or.inl q895, Or.inr q896⟩)
theorem fl_X2_257 : FL "GoatCourt$Reader" 257 [27] 1 (.array (.int)) := fun kd h => (by cases List.mem_singleton.mp h; exact ⟨7, _, 1, "GoatCourt$Hill", rfl, rfl, by decide, rfl, rfl, Or.inl q525, Or.inl rfl⟩)
theorem fl_X2_248 : FL "GoatCourt$Reader" 248 [27] 14 (tyOf 0) := fun kd h => (by cases List.mem_singleton.mp h; exact ⟨7, _, 14, "GoatCourt$Hill", rfl, rfl, by decide, rfl, rfl, Or.inl q565, Or.inl rfl⟩)
theorem fl_X2_260 : FL "GoatCourt$Reader" 260 [27] 2 (.array (.int)) := fun kd h => (by cases List.mem_singleton.mp h; exact ⟨7, _, 2, "GoatCourt$Hill", rfl, rfl, by decide, rfl, rfl, Or.inl q527, Or.inl rfl⟩)
theorem fl_X2_263 : FL "GoatCourt$Reader" 263 [28] 1 (tyOf 0) := fun kd h => (by cases List.mem_singleton.mp h; exact ⟨8, _, 3, "GoatCourt$Place", rfl, rfl, by decide, rfl, rfl, Or.inl q888, Or.inl rfl⟩)
theorem fp_X2_path_248 : FP mX2_path 248 [27] 14 (tyOf 0) := fun kd h => (by cases List.mem_singleton.mp h; exact ⟨7, _, 14, "GoatCourt$Hill", rfl, rfl, by decide, rfl, rfl, Or.inl rfl, Or.inl ⟨rfl, Or.inl q565⟩⟩)
theorem fp_X2_path_263 : FP mX2_path 263 [28] 1 (tyOf 0) := fun kd h => (by cases List.mem_singleton.mp h; exact ⟨8, _, 3, "GoatCourt$Place", rfl, rfl, by decide, rfl, rfl, Or.inl rfl, Or.inl ⟨rfl, Or.inl q888⟩⟩)
theorem fp_X11_init_9 : FP mX11_init 9 [29] 0 (.array (.int)) := fun kd h => (by cases List.mem_singleton.mp h; exact ⟨9, _, 2, "GoatCourt$Person", rfl, rfl, by decide, rfl, rfl, Or.inl rfl, Or.inr ⟨rfl, q949, rfl, rfl⟩⟩)
theorem fp_X11_init_15 : FP mX11_init 15 [29] 1 (.array (.int)) := fun kd h => (by cases List.mem_singleton.mp h; exact ⟨9, _, 3, "GoatCourt$Person", rfl, rfl, by decide, rfl, rfl, Or.inl rfl, Or.inr ⟨rfl, q950, rfl, rfl⟩⟩)
theorem fl_X2_269 : FL "GoatCourt$Reader" 269 [27] 5 (.array (.object "GoatCourt$Person")) := fun kd h => (by cases List.mem_singleton.mp h; exact ⟨7, _, 5, "GoatCourt$Hill", rfl, rfl, by decide, rfl, rfl, Or.inl q537, Or.inl rfl⟩)
theorem fl_X2_266 : FL "GoatCourt$Reader" 266 [27] 15 (tyOf 0) := fun kd h => (by cases List.mem_singleton.mp h; exact ⟨7, _, 15, "GoatCourt$Hill", rfl, rfl, by decide, rfl, rfl, Or.inl q570, Or.inl rfl⟩)
theorem fp_X2_person_266 : FP mX2_person 266 [27] 15 (tyOf 0) := fun kd h => (by cases List.mem_singleton.mp h; exact ⟨7, _, 15, "GoatCourt$Hill", rfl, rfl, by decide, rfl, rfl, Or.inl rfl, Or.inl ⟨rfl, Or.inl q570⟩⟩)
theorem ia_GoatCourt_Person : AaOK 7 [29] := fun kd h => (by cases List.mem_singleton.mp h; exact ⟨9, _, "GoatCourt$Person", rfl, rfl, rfl, Or.inl rfl⟩)
theorem iy_GoatCourt_Person : IsOK "GoatCourt$Person" [29] := fun kd h => (by cases List.mem_singleton.mp h; exact ⟨9, _, rfl, rfl, Or.inl rfl⟩)
theorem ino_GoatCourt_Person : NoOK "GoatCourt$Person" [28, 30, 31, 32, 33, 37, 39] := fun kd h => ((List.mem_cons.mp h).elim (fun e => by cases e; exact ⟨8, _, rfl, rfl, by decide⟩) (fun h => ((List.mem_cons.mp h).elim (fun e => by cases e; exact ⟨10, _, rfl, rfl, by decide⟩) (fun h => ((List.mem_cons.mp h).elim (fun e => by cases e; exact ⟨11, _, rfl, rfl, by decide⟩) (fun h => ((List.mem_cons.mp h).elim (fun e => by cases e; exact ⟨12, _, rfl, rfl, by decide⟩) (fun h => ((List.mem_cons.mp h).elim (fun e => by cases e; exact ⟨13, _, rfl, rfl, by decide⟩) (fun h => ((List.mem_cons.mp h).elim (fun e => by cases e; exact ⟨17, _, rfl, rfl, by decide⟩) (fun h => (by cases List.mem_singleton.mp h; exact ⟨19, _, rfl, rfl, by decide⟩)))))))))))))
theorem fl_X11_18 : FL "GoatCourt$Person" 18 [29] 2 (tyOf 0) := fun kd h => (by cases List.mem_singleton.mp h; exact ⟨9, _, 4, "GoatCourt$Person", rfl, rfl, by decide, rfl, rfl, Or.inl q951, Or.inl rfl⟩)
theorem fp_X11_begin_18 : FP mX11_begin 18 [29] 2 (tyOf 0) := fun kd h => (by cases List.mem_singleton.mp h; exact ⟨9, _, 4, "GoatCourt$Person", rfl, rfl, by decide, rfl, rfl, Or.inl rfl, Or.inl ⟨rfl, Or.inl q951⟩⟩)
theorem fl_X11_15 : FL "GoatCourt$Person" 15 [29] 1 (.array (.int)) := fun kd h => (by cases List.mem_singleton.mp h; exact ⟨9, _, 3, "GoatCourt$Person", rfl, rfl, by decide, rfl, rfl, Or.inl q950, Or.inl rfl⟩)
theorem fl_X11_9 : FL "GoatCourt$Person" 9 [29] 0 (.array (.int)) := fun kd h => (by cases List.mem_singleton.mp h; exact ⟨9, _, 2, "GoatCourt$Person", rfl, rfl, by decide, rfl, rfl, Or.inl q949, Or.inl rfl⟩)
theorem fl_X2_278 : FL "GoatCourt$Reader" 278 [29] 2 (tyOf 0) := fun kd h => (by cases List.mem_singleton.mp h; exact ⟨9, _, 4, "GoatCourt$Person", rfl, rfl, by decide, rfl, rfl, Or.inl q954, Or.inl rfl⟩)
theorem fp_X12_init_9 : FP mX12_init 9 [30, 31, 32, 33] 102 (.array (.int)) := fun kd h => ((List.mem_cons.mp h).elim (fun e => by cases e; exact ⟨10, _, 0, "GoatCourt$Goat", rfl, rfl, by decide, rfl, rfl, Or.inl rfl, Or.inr ⟨rfl, q1002, rfl, rfl⟩⟩) (fun h => ((List.mem_cons.mp h).elim (fun e => by cases e; exact ⟨11, _, 0, "GoatCourt$Goat", rfl, rfl, by decide, rfl, rfl, Or.inl rfl, Or.inr ⟨rfl, q1002, rfl, rfl⟩⟩) (fun h => ((List.mem_cons.mp h).elim (fun e => by cases e; exact ⟨12, _, 0, "GoatCourt$Goat", rfl, rfl, by decide, rfl, rfl, Or.inl rfl, Or.inr ⟨rfl, q1002, rfl, rfl⟩⟩) (fun h => (by cases List.mem_singleton.mp h; exact ⟨13, _, 0, "GoatCourt$Goat", rfl, rfl, by decide, rfl, rfl, Or.inl rfl, Or.inr ⟨rfl, q1002, rfl, rfl⟩⟩)))))))
theorem w_J7_vectorizedHashCode_b129 (G : Gx) (h0 : G0 G) (N : Nat)   (l4 : Int32) (σ : Mem) : Runs G mJ7_vectorizedHashCode rhoI σ 129 [none, none, none, none, some (vI l4)] [] (f_J7_vectorizedHashCode_b129 N  l4 σ) := by
  unfold f_J7_vectorizedHashCode_b129
  exact r_none
theorem c_J7_vectorizedHashCode (G : Gx) (h0 : G0 G) (N : Nat) (o0 : Option Nat) (i1 : Int32) (i2 : Int32) (i3 : Int32) (i4 : Int32) (σ : Mem) : Ct G mJ7_vectorizedHashCode rhoI [vR o0, vI i1, vI i2, vI i3, vI i4] σ (f_J7_vectorizedHashCode N o0 i1 i2 i3 i4 σ) := by
  refine Ct_of h0 (by decide) rfl (Nat.le_of_ble_eq_true rfl) (L0 := [some (vR o0), some (vI i1), some (vI i2), some (vI i3), some (vI i4)]) rfl ?_
  unfold f_J7_vectorizedHashCode
  refine r_iload (q := 2) dJ7_vectorizedHashCode_0 rfl rfl ?_
  refine r_tswC (t := 44) (c0 := (4 : Int32)) dJ7_vectorizedHashCode_2 (by decide) (by decide) rfl (by decide) ?_ (fun hc0 => ?_)
  · refine r_iload_n (q := 45) dJ7_vectorizedHashCode_44 rfl rfl rfl ?_
    refine r_aload_n (q := 46) dJ7_vectorizedHashCode_45 rfl rfl rfl ?_
    refine r_castB (q := 49) q764 dJ7_vectorizedHashCode_46 rfl (fun x1 => ?_)
    refine r_iload_n (q := 50) dJ7_vectorizedHashCode_49 rfl rfl rfl ?_
    refine r_iload_n (q := 51) dJ7_vectorizedHashCode_50 rfl rfl rfl ?_
    refine r_callI (q := 54) (c_J7_signedHashCode G h0 N _ _ _ _ _) (cl_S rfl rfl (lw_S q765 q766 q182 q767) (hd_J7_signedHashCode) ⟨Nat.le_of_ble_eq_true rfl, Nat.le_of_ble_eq_true rfl⟩ rfl (Nat.le_of_ble_eq_true rfl) dJ7_vectorizedHashCode_51) rfl (fun x2 σ3 => ?_)
    refine r_goto (q := 157) dJ7_vectorizedHashCode_54 (by decide) ?_
    exact r_ireturn rfl rfl dJ7_vectorizedHashCode_157
  refine r_tswC (t := 57) (c0 := (5 : Int32)) dJ7_vectorizedHashCode_2 (by decide) (by decide) rfl (by decide) ?_ (fun hc1 => ?_)
  · refine r_aload_n (q := 58) dJ7_vectorizedHashCode_57 rfl rfl rfl ?_
    exact r_none
  refine r_tswC (t := 129) (c0 := (6 : Int32)) dJ7_vectorizedHashCode_2 (by decide) (by decide) rfl (by decide) ?_ (fun hc2 => ?_)
  · exact r_le (w_J7_vectorizedHashCode_b129 G h0 N _ _) (Nat.le_refl _) (And.intro rfl trivial)
  refine r_tswC (t := 129) (c0 := (7 : Int32)) dJ7_vectorizedHashCode_2 (by decide) (by decide) rfl (by decide) ?_ (fun hc3 => ?_)
  · exact r_le (w_J7_vectorizedHashCode_b129 G h0 N _ _) (Nat.le_refl _) (And.intro rfl trivial)
  refine r_tswC (t := 90) (c0 := (8 : Int32)) dJ7_vectorizedHashCode_2 (by decide) (by decide) rfl (by decide) ?_ (fun hc4 => ?_)
  · refine r_iload_n (q := 91) dJ7_vectorizedHashCode_90 rfl rfl rfl ?_
    refine r_aload_n (q := 92) dJ7_vectorizedHashCode_91 rfl rfl rfl ?_
    refine r_castB (q := 95) q764 dJ7_vectorizedHashCode_92 rfl (fun x4 => ?_)
    refine r_iload_n (q := 96) dJ7_vectorizedHashCode_95 rfl rfl rfl ?_
    refine r_iload_n (q := 97) dJ7_vectorizedHashCode_96 rfl rfl rfl ?_
    exact r_none
  refine r_tswC (t := 103) (c0 := (9 : Int32)) dJ7_vectorizedHashCode_2 (by decide) (by decide) rfl (by decide) ?_ (fun hc5 => ?_)
  · refine r_iload_n (q := 104) dJ7_vectorizedHashCode_103 rfl rfl rfl ?_
    refine r_aload_n (q := 105) dJ7_vectorizedHashCode_104 rfl rfl rfl ?_
    exact r_none
  refine r_tswC (t := 116) (c0 := (10 : Int32)) dJ7_vectorizedHashCode_2 (by decide) (by decide) rfl (by decide) ?_ (fun hc6 => ?_)
  · refine r_iload_n (q := 117) dJ7_vectorizedHashCode_116 rfl rfl rfl ?_
    refine r_aload_n (q := 118) dJ7_vectorizedHashCode_117 rfl rfl rfl ?_
    exact r_none
  refine r_tswD (t := 129) dJ7_vectorizedHashCode_2 (by have e0 := lv_neT (a := 4) hc0 (by decide); have e1 := lv_neT (a := 5) hc1 (by decide); have e2 := lv_neT (a := 6) hc2 (by decide); have e3 := lv_neT (a := 7) hc3 (by decide); have e4 := lv_neT (a := 8) hc4 (by decide); have e5 := lv_neT (a := 9) hc5 (by decide); have e6 := lv_neT (a := 10) hc6 (by decide); omega) (by decide) ?_
  · exact r_le (w_J7_vectorizedHashCode_b129 G h0 N _ _) (Nat.le_refl _) (And.intro rfl trivial)
theorem c_J6_hashCode (G : Gx) (h0 : G0 G) (N : Nat) (o0 : Option Nat) (σ : Mem) : Ct G mJ6_hashCode rhoI [vR o0] σ (f_J6_hashCode N o0 σ) := by
  refine Ct_of h0 (by decide) rfl (Nat.le_of_ble_eq_true rfl) (L0 := [some (vR o0)]) rfl ?_
  unfold f_J6_hashCode
  refine r_aload_n (q := 1) dJ6_hashCode_0 rfl rfl rfl ?_
  refine r_len (q := 2) dJ6_hashCode_1 rfl (fun x1 => ?_)
  refine r_lswC (t := 28) (off := 26) (c0 := (0 : Int32)) dJ6_hashCode_2 (by decide) (by decide) (by decide) ?_ (fun hc0 => ?_)
  · refine r_iconst (q := 29) (v := (0 : Int32)) dJ6_hashCode_28 rfl (by decide) ?_
    refine r_goto (q := 51) dJ6_hashCode_29 (by decide) ?_
    exact r_ireturn rfl rfl dJ6_hashCode_51
  refine r_lswC (t := 32) (off := 30) (c0 := (1 : Int32)) dJ6_hashCode_2 (by decide) (by decide) (by decide) ?_ (fun hc1 => ?_)
  · refine r_aload_n (q := 33) dJ6_hashCode_32 rfl rfl rfl ?_
    refine r_iconst (q := 34) (v := (0 : Int32)) dJ6_hashCode_33 rfl (by decide) ?_
    refine r_baload (q := 35) dJ6_hashCode_34 rfl (fun x2 => ?_)
    refine r_sipush (q := 38) (v := (255 : Int32)) dJ6_hashCode_35 rfl (by decide) ?_
    refine r_iand (q := 39) dJ6_hashCode_38 rfl ?_
    refine r_goto (q := 51) dJ6_hashCode_39 (by decide) ?_
    exact r_ireturn rfl rfl dJ6_hashCode_51
  refine r_lswD (t := 42) dJ6_hashCode_2 (by decide) ((lv_osw hc0 (by decide)).trans ((lv_osw hc1 (by decide)).trans rfl)) (by decide) ?_
  · refine r_aload_n (q := 43) dJ6_hashCode_42 rfl rfl rfl ?_
    refine r_iconst (q := 44) (v := (0 : Int32)) dJ6_hashCode_43 rfl (by decide) ?_
    refine r_aload_n (q := 45) dJ6_hashCode_44 rfl rfl rfl ?_
    refine r_len (q := 46) dJ6_hashCode_45 rfl (fun x3 => ?_)
    refine r_iconst (q := 47) (v := (0 : Int32)) dJ6_hashCode_46 rfl (by decide) ?_
    refine r_iconst (q := 48) (v := (4 : Int32)) dJ6_hashCode_47 rfl (by decide) ?_
    refine r_callI (q := 51) (c_J7_vectorizedHashCode G h0 N _ _ _ _ _ _) (cl_S rfl rfl (lw_S q761 q762 q182 q763) (hd_J7_vectorizedHashCode) ⟨Nat.le_of_ble_eq_true rfl, Nat.le_of_ble_eq_true rfl⟩ rfl (Nat.le_of_ble_eq_true rfl) dJ6_hashCode_48) rfl (fun x4 σ5 => ?_)
    exact r_ireturn rfl rfl dJ6_hashCode_51
theorem w_J3_hashCode_b40 (G : Gx) (h0 : G0 G) (N : Nat)   (a0 : Nat) (t0 : Int32) (σ : Mem) : Runs G mJ3_hashCode rhoI σ 40 [some (vR (some a0)), none] [vI t0] (f_J3_hashCode_b40 N  a0 t0 σ) := by
  unfold f_J3_hashCode_b40
  refine r_istore_n (q := 41) dJ3_hashCode_40 rfl rfl (Nat.le_of_ble_eq_true rfl) rfl ?_
  refine r_iload_n (q := 42) dJ3_hashCode_41 rfl rfl rfl ?_
  refine r_if_ne (q := 45) (t := 53) dJ3_hashCode_42 rfl (by decide) (fun _ => ?_) (fun _ => ?_)
  · refine r_aload_n (q := 46) dJ3_hashCode_45 rfl rfl rfl ?_
    refine r_iconst (q := 47) (v := (1 : Int32)) dJ3_hashCode_46 rfl (by decide) ?_
    refine r_pI (q := 50) fp_J3_hashCode_23 dJ3_hashCode_47 rfl (fun σ2 => ?_)
    refine r_goto (q := 58) dJ3_hashCode_50 (by decide) ?_
    refine r_iload_n (q := 59) dJ3_hashCode_58 rfl rfl rfl ?_
    exact r_ireturn rfl rfl dJ3_hashCode_59
  · refine r_aload_n (q := 54) dJ3_hashCode_53 rfl rfl rfl ?_
    refine r_iload_n (q := 55) dJ3_hashCode_54 rfl rfl rfl ?_
    refine r_pI (q := 58) fp_J3_hashCode_19 dJ3_hashCode_55 rfl (fun σ1 => ?_)
    refine r_iload_n (q := 59) dJ3_hashCode_58 rfl rfl rfl ?_
    exact r_ireturn rfl rfl dJ3_hashCode_59
theorem c_J3_hashCode (G : Gx) (h0 : G0 G) (N : Nat) (a0 : Nat) (σ : Mem) : Ct G mJ3_hashCode rhoI [vR (some a0)] σ (f_J3_hashCode N a0 σ) := by
  refine Ct_of h0 (by decide) rfl (Nat.le_of_ble_eq_true rfl) (L0 := [some (vR (some a0)), none]) rfl ?_
  unfold f_J3_hashCode
  refine r_aload_n (q := 1) dJ3_hashCode_0 rfl rfl rfl ?_
  refine r_gI (q := 4) fl_J3_19 dJ3_hashCode_1 rfl (fun x1 => ?_)
  refine r_istore_n (q := 5) dJ3_hashCode_4 rfl rfl (Nat.le_of_ble_eq_true rfl) rfl ?_
  refine r_iload_n (q := 6) dJ3_hashCode_5 rfl rfl rfl ?_
  refine r_if_ne (q := 9) (t := 58) dJ3_hashCode_6 rfl (by decide) (fun _ => ?_) (fun _ => ?_)
  · refine r_aload_n (q := 10) dJ3_hashCode_9 rfl rfl rfl ?_
    refine r_gI (q := 13) fl_J3_23 dJ3_hashCode_10 rfl (fun x2 => ?_)
    refine r_if_ne (q := 16) (t := 58) dJ3_hashCode_13 rfl (by decide) (fun _ => ?_) (fun _ => ?_)
    · refine r_aload_n (q := 17) dJ3_hashCode_16 rfl rfl rfl ?_
      refine r_ob (fun a5 ha5 => ?_)
      obtain ⟨hea5, hka5⟩ := o_at_eq ha5
      cases hea5
      refine r_callI (q := 20) (c_J3_isLatin1 G h0 N _ _) (cl_V (ci := 21) rfl rfl (lw_V q754 q755 q756 q178 q757) (hd_J3_isLatin1) ⟨Nat.le_of_ble_eq_true rfl, Nat.le_of_ble_eq_true rfl⟩ (List.mem_singleton.mp hka5) rfl rfl rfl (Nat.le_of_ble_eq_true rfl) dJ3_hashCode_17) rfl (fun x3 σ4 => ?_)
      refine r_if_eq (q := 23) (t := 33) dJ3_hashCode_20 rfl (by decide) (fun _ => ?_) (fun _ => ?_)
      · refine r_aload_n (q := 34) dJ3_hashCode_33 rfl rfl rfl ?_
        refine r_gR (q := 37) fl_J3_9 rfl dJ3_hashCode_34 rfl (fun x6 => ?_)
        exact r_none
      · refine r_aload_n (q := 24) dJ3_hashCode_23 rfl rfl rfl ?_
        refine r_gR (q := 27) fl_J3_9 rfl dJ3_hashCode_24 rfl (fun x7 => ?_)
        refine r_callI (q := 30) (c_J6_hashCode G h0 N _ _) (cl_S rfl rfl (lw_S q758 q759 q181 q760) (hd_J6_hashCode) ⟨Nat.le_of_ble_eq_true rfl, Nat.le_of_ble_eq_true rfl⟩ rfl (Nat.le_of_ble_eq_true rfl) dJ3_hashCode_27) rfl (fun x8 σ9 => ?_)
        refine r_goto (q := 40) dJ3_hashCode_30 (by decide) ?_
        exact r_le (w_J3_hashCode_b40 G h0 N _ _ _) (Nat.le_refl _) (And.intro rfl trivial)
    · refine r_iload_n (q := 59) dJ3_hashCode_58 rfl rfl rfl ?_
      exact r_ireturn rfl rfl dJ3_hashCode_59
  · refine r_iload_n (q := 59) dJ3_hashCode_58 rfl rfl rfl ?_
    exact r_ireturn rfl rfl dJ3_hashCode_59
theorem w_J6_equals_b9B (G : Gx) (h0 : G0 G) (N : Nat)   (K9 : Option Nat → Option Nat → Int32 → Mem → Option (Int32 × Mem)) (hK9 : ∀ (l0 : Option Nat) (l1 : Option Nat) (l2 : Int32) (σ : Mem), Runs G mJ6_equals rhoI σ 9 [some (vR l0), some (vR l1), some (vI l2)] [] (K9 l0 l1 l2 σ)) (l0 : Option Nat) (l1 : Option Nat) (l2 : Int32) (σ : Mem) : Runs G mJ6_equals rhoI σ 9 [some (vR l0), some (vR l1), some (vI l2)] [] (f_J6_equals_b9B N  K9 l0 l1 l2 σ) := by
  unfold f_J6_equals_b9B
  refine r_iload_n (q := 10) dJ6_equals_9 rfl rfl rfl ?_
  refine r_aload_n (q := 11) dJ6_equals_10 rfl rfl rfl ?_
  refine r_len (q := 12) dJ6_equals_11 rfl (fun x1 => ?_)
  refine r_icmp_ge (q := 15) (t := 32) dJ6_equals_12 rfl (by decide) (fun _ => ?_) (fun _ => ?_)
  · refine r_iconst (q := 33) (v := (1 : Int32)) dJ6_equals_32 rfl (by decide) ?_
    exact r_ireturnN rfl dJ6_equals_33
  · refine r_aload_n (q := 16) dJ6_equals_15 rfl rfl rfl ?_
    refine r_iload_n (q := 17) dJ6_equals_16 rfl rfl rfl ?_
    refine r_baload (q := 18) dJ6_equals_17 rfl (fun x2 => ?_)
    refine r_aload_n (q := 19) dJ6_equals_18 rfl rfl rfl ?_
    refine r_iload_n (q := 20) dJ6_equals_19 rfl rfl rfl ?_
    refine r_baload (q := 21) dJ6_equals_20 rfl (fun x3 => ?_)
    refine r_icmp_eq (q := 24) (t := 26) dJ6_equals_21 rfl (by decide) (fun _ => ?_) (fun _ => ?_)
    · refine r_iinc (q := 29) (v := (1 : Int32)) dJ6_equals_26 rfl rfl (by decide) (Nat.le_of_ble_eq_true rfl) rfl ?_
      refine r_goto (q := 9) dJ6_equals_29 (by decide) ?_
      exact r_le (hK9 _ _ _ _) (Nat.le_refl _) (And.intro rfl (And.intro rfl (And.intro rfl trivial)))
    · refine r_iconst (q := 25) (v := (0 : Int32)) dJ6_equals_24 rfl (by decide) ?_
      exact r_ireturnN rfl dJ6_equals_25
theorem w_J6_equals_b9 (G : Gx) (h0 : G0 G) (N : Nat)   : ∀ (z : Nat) (l0 : Option Nat) (l1 : Option Nat) (l2 : Int32) (σ : Mem), Runs G mJ6_equals rhoI σ 9 [some (vR l0), some (vR l1), some (vI l2)] [] (f_J6_equals_b9 N  z l0 l1 l2 σ) := by
  intro z
  induction z with
  | zero => exact fun _ _ _ _ => r_none
  | succ z ih => exact fun l0 l1 l2 σ => w_J6_equals_b9B G h0 N   _ ih l0 l1 l2 σ
theorem c_J6_equals (G : Gx) (h0 : G0 G) (N : Nat) (o0 : Option Nat) (o1 : Option Nat) (σ : Mem) : Ct G mJ6_equals rhoI [vR o0, vR o1] σ (f_J6_equals N o0 o1 σ) := by
  refine Ct_of h0 (by decide) rfl (Nat.le_of_ble_eq_true rfl) (L0 := [some (vR o0), some (vR o1), none]) rfl ?_
  unfold f_J6_equals
  refine r_aload_n (q := 1) dJ6_equals_0 rfl rfl rfl ?_
  refine r_len (q := 2) dJ6_equals_1 rfl (fun x1 => ?_)
  refine r_aload_n (q := 3) dJ6_equals_2 rfl rfl rfl ?_
  refine r_len (q := 4) dJ6_equals_3 rfl (fun x2 => ?_)
  refine r_icmp_ne (q := 7) (t := 34) dJ6_equals_4 rfl (by decide) (fun _ => ?_) (fun _ => ?_)
  · refine r_iconst (q := 8) (v := (0 : Int32)) dJ6_equals_7 rfl (by decide) ?_
    refine r_istore_n (q := 9) dJ6_equals_8 rfl rfl (Nat.le_of_ble_eq_true rfl) rfl ?_
    exact r_le (w_J6_equals_b9 G h0 N N _ _ _ _) (Nat.le_refl _) (And.intro rfl (And.intro rfl (And.intro rfl trivial)))
  · refine r_iconst (q := 35) (v := (0 : Int32)) dJ6_equals_34 rfl (by decide) ?_
    exact r_ireturnN rfl dJ6_equals_35
theorem w_J3_equals_b54 (G : Gx) (h0 : G0 G) (N : Nat)    (σ : Mem) : Runs G mJ3_equals rhoI σ 54 [none, none, none] [] (f_J3_equals_b54 N   σ) := by
  unfold f_J3_equals_b54
  refine r_iconst (q := 55) (v := (0 : Int32)) dJ3_equals_54 rfl (by decide) ?_
  exact r_ireturnN rfl dJ3_equals_55
theorem w_J3_equals_b36 (G : Gx) (h0 : G0 G) (N : Nat)   (a0 : Nat) (l2 : Option Nat) (σ : Mem) : Runs G mJ3_equals rhoI σ 36 [some (vR (some a0)), none, some (vR l2)] [] (f_J3_equals_b36 N  a0 l2 σ) := by
  unfold f_J3_equals_b36
  refine r_aload_n (q := 37) dJ3_equals_36 rfl rfl rfl ?_
  refine r_gR (q := 40) fl_J3_9 rfl dJ3_equals_37 rfl (fun x1 => ?_)
  refine r_aload_n (q := 41) dJ3_equals_40 rfl rfl rfl ?_
  refine r_gR (q := 44) fl_J3_9 rfl dJ3_equals_41 rfl (fun x2 => ?_)
  refine r_callI (q := 47) (c_J6_equals G h0 N _ _ _) (cl_S rfl rfl (lw_S q809 q810 q181 q811) (hd_J6_equals) ⟨Nat.le_of_ble_eq_true rfl, Nat.le_of_ble_eq_true rfl⟩ rfl (Nat.le_of_ble_eq_true rfl) dJ3_equals_44) rfl (fun x3 σ4 => ?_)
  refine r_if_eq (q := 50) (t := 54) dJ3_equals_47 rfl (by decide) (fun _ => ?_) (fun _ => ?_)
  · exact r_le (w_J3_equals_b54 G h0 N  _) (Nat.le_refl _) trivial
  · refine r_iconst (q := 51) (v := (1 : Int32)) dJ3_equals_50 rfl (by decide) ?_
    refine r_goto (q := 55) dJ3_equals_51 (by decide) ?_
    exact r_ireturnN rfl dJ3_equals_55
theorem c_J3_equals (G : Gx) (h0 : G0 G) (N : Nat) (a0 : Nat) (o1 : Option Nat) (σ : Mem) : Ct G mJ3_equals rhoI [vR (some a0), vR o1] σ (f_J3_equals N a0 o1 σ) := by
  refine Ct_of h0 (by decide) rfl (Nat.le_of_ble_eq_true rfl) (L0 := [some (vR (some a0)), some (vR o1), none]) rfl ?_
  unfold f_J3_equals
  refine r_aload_n (q := 1) dJ3_equals_0 rfl rfl rfl ?_
  refine r_aload_n (q := 2) dJ3_equals_1 rfl rfl rfl ?_
  refine r_acmp_ne (q := 5) (t := 7) dJ3_equals_2 rfl (by decide) ?_ ?_
  · refine r_iconst (q := 6) (v := (1 : Int32)) dJ3_equals_5 rfl (by decide) ?_
    exact r_ireturnN rfl dJ3_equals_6
  · refine r_aload_n (q := 8) dJ3_equals_7 rfl rfl rfl ?_
    refine r_inst (q := 11) iy_java_lang_String ino_java_lang_String q808 dJ3_equals_8 rfl (fun x2 => ?_)
    refine r_if_eq (q := 14) (t := 54) dJ3_equals_11 rfl (by decide) (fun _ => ?_) (fun _ => ?_)
    · exact r_le (w_J3_equals_b54 G h0 N  _) (Nat.le_refl _) trivial
    · refine r_aload_n (q := 15) dJ3_equals_14 rfl rfl rfl ?_
      refine r_cast (q := 18) iy_java_lang_String q808 dJ3_equals_15 rfl (fun x3 => ?_)
      refine r_astore_n (q := 19) dJ3_equals_18 rfl rfl (Nat.le_of_ble_eq_true rfl) rfl ?_
      refine r_gsI (q := 22) (cn := "java/lang/String") (v := (1 : Int32)) (List.mem_of_getElem? (i := 0) rfl) q677 (Or.inl rfl) dJ3_equals_19 rfl ?_
      refine r_if_eq (q := 25) (t := 36) dJ3_equals_22 rfl (by decide) (fun _ => ?_) (fun _ => ?_)
      · exact r_le (w_J3_equals_b36 G h0 N _ _ _) (Nat.le_refl _) (And.intro rfl (And.intro rfl trivial))
      · refine r_aload_n (q := 26) dJ3_equals_25 rfl rfl rfl ?_
        refine r_gI (q := 29) fl_J3_15 dJ3_equals_26 rfl (fun x4 => ?_)
        refine r_aload_n (q := 30) dJ3_equals_29 rfl rfl rfl ?_
        refine r_gI (q := 33) fl_J3_15 dJ3_equals_30 rfl (fun x5 => ?_)
        refine r_icmp_ne (q := 36) (t := 54) dJ3_equals_33 rfl (by decide) (fun _ => ?_) (fun _ => ?_)
        · exact r_le (w_J3_equals_b36 G h0 N _ _ _) (Nat.le_refl _) (And.intro rfl (And.intro rfl trivial))
        · exact r_le (w_J3_equals_b54 G h0 N  _) (Nat.le_refl _) trivial
theorem c_X2_takes (G : Gx) (h0 : G0 G) (N : Nat) (a0 : Nat) (o1 : Option Nat) (σ : Mem) : Ct G mX2_takes rhoI [vR (some a0), vR o1] σ (f_X2_takes N a0 o1 σ) := by
  refine Ct_of h0 (by decide) rfl (Nat.le_of_ble_eq_true rfl) (L0 := [some (vR (some a0)), some (vR o1)]) rfl ?_
  unfold f_X2_takes
  refine r_aload_n (q := 1) dX2_takes_0 rfl rfl rfl ?_
  refine r_gI (q := 4) fl_X2_47 dX2_takes_1 rfl (fun x1 => ?_)
  refine r_iconst (q := 5) (v := (2 : Int32)) dX2_takes_4 rfl (by decide) ?_
  refine r_icmp_ne (q := 8) (t := 19) dX2_takes_5 rfl (by decide) (fun _ => ?_) (fun _ => ?_)
  · refine r_aload_n (q := 9) dX2_takes_8 rfl rfl rfl ?_
    refine r_gR (q := 12) fl_X2_61 rfl dX2_takes_9 rfl (fun x2 => ?_)
    refine r_aload_n (q := 13) dX2_takes_12 rfl rfl rfl ?_
    refine r_ob (fun a5 ha5 => ?_)
    obtain ⟨hea5, hka5⟩ := o_at_eq ha5
    cases hea5
    refine r_callI (q := 16) (c_J3_equals G h0 N _ _ _) (cl_V (ci := 21) rfl rfl (lw_V q804 q805 q806 q178 q807) (hd_J3_equals) ⟨Nat.le_of_ble_eq_true rfl, Nat.le_of_ble_eq_true rfl⟩ (List.mem_singleton.mp hka5) rfl rfl rfl (Nat.le_of_ble_eq_true rfl) dX2_takes_13) rfl (fun x3 σ4 => ?_)
    refine r_if_ne (q := 19) (t := 21) dX2_takes_16 rfl (by decide) (fun _ => ?_) (fun _ => ?_)
    · refine r_iconst (q := 20) (v := (0 : Int32)) dX2_takes_19 rfl (by decide) ?_
      exact r_ireturnN rfl dX2_takes_20
    · refine r_aload_n (q := 22) dX2_takes_21 rfl rfl rfl ?_
      refine r_ob (fun a8 ha8 => ?_)
      obtain ⟨hea8, hka8⟩ := o_at_eq ha8
      cases hea8
      refine r_callV (q := 25) (c_X2_next G h0 N _ _) (cl_V (ci := 1) rfl rfl (lw_V q644 q646 qs4 q168 q647) (hd_X2_next) ⟨Nat.le_of_ble_eq_true rfl, Nat.le_of_ble_eq_true rfl⟩ (List.mem_singleton.mp hka8) rfl rfl rfl (Nat.le_of_ble_eq_true rfl) dX2_takes_22) rfl (fun u6 σ7 => ?_)
      refine r_iconst (q := 26) (v := (1 : Int32)) dX2_takes_25 rfl (by decide) ?_
      exact r_ireturnN rfl dX2_takes_26
  · refine r_iconst (q := 20) (v := (0 : Int32)) dX2_takes_19 rfl (by decide) ?_
    exact r_ireturnN rfl dX2_takes_20
theorem c_X2_must (G : Gx) (h0 : G0 G) (N : Nat) (a0 : Nat) (o1 : Option Nat) (σ : Mem) : Ct G mX2_must (rhoX rhoV) [vR (some a0), vR o1] σ (f_X2_must N a0 o1 σ) := by
  refine Ct_of h0 (by decide) rfl (Nat.le_of_ble_eq_true rfl) (L0 := [some (vR (some a0)), some (vR o1)]) rfl ?_
  unfold f_X2_must
  refine r_aload_n (q := 1) dX2_must_0 rfl rfl rfl ?_
  refine r_aload_n (q := 2) dX2_must_1 rfl rfl rfl ?_
  refine r_ob (fun a3 ha3 => ?_)
  obtain ⟨hea3, hka3⟩ := o_at_eq ha3
  cases hea3
  refine r_callI (q := 5) (c_X2_takes G h0 N _ _ _) (cl_V (ci := 1) rfl rfl (lw_V q840 q842 qs11 q168 q843) (hd_X2_takes) ⟨Nat.le_of_ble_eq_true rfl, Nat.le_of_ble_eq_true rfl⟩ (List.mem_singleton.mp hka3) rfl rfl rfl (Nat.le_of_ble_eq_true rfl) dX2_must_2) rfl (fun x1 σ2 => ?_)
  refine r_if_ne (q := 8) (t := 14) dX2_must_5 rfl (by decide) (fun _ => ?_) (fun _ => ?_)
  · refine r_aload_n (q := 9) dX2_must_8 rfl rfl rfl ?_
    refine r_iconst (q := 10) (v := (1 : Int32)) dX2_must_9 rfl (by decide) ?_
    refine r_ob (fun a6 ha6 => ?_)
    obtain ⟨hea6, hka6⟩ := o_at_eq ha6
    cases hea6
    refine r_callR (q := 13) (c_X2_fail G h0 N _ _ _) (cl_V (ci := 1) rfl rfl (lw_V q742 q744 qs7 q168 q745) (hd_X2_fail) ⟨Nat.le_of_ble_eq_true rfl, Nat.le_of_ble_eq_true rfl⟩ (List.mem_singleton.mp hka6) rfl rfl rfl (Nat.le_of_ble_eq_true rfl) dX2_must_10) rfl (fun x4 σ5 => ?_)
    exact r_athrow (ci := 2) (r0 := (RX3, TX3, 8)) rfl rfl dX2_must_13
  · exact r_returnX rfl dX2_must_14
theorem c_X2_number (G : Gx) (h0 : G0 G) (N : Nat) (a0 : Nat) (i1 : Int32) (i2 : Int32) (σ : Mem) : Ct G mX2_number (rhoX rhoI) [vR (some a0), vI i1, vI i2] σ (f_X2_number N a0 i1 i2 σ) := by
  refine Ct_of h0 (by decide) rfl (Nat.le_of_ble_eq_true rfl) (L0 := [some (vR (some a0)), some (vI i1), some (vI i2), none]) rfl ?_
  unfold f_X2_number
  refine r_aload_n (q := 1) dX2_number_0 rfl rfl rfl ?_
  refine r_gI (q := 4) fl_X2_47 dX2_number_1 rfl (fun x1 => ?_)
  refine r_iconst (q := 5) (v := (3 : Int32)) dX2_number_4 rfl (by decide) ?_
  refine r_icmp_eq (q := 8) (t := 14) dX2_number_5 rfl (by decide) (fun _ => ?_) (fun _ => ?_)
  · refine r_aload_n (q := 15) dX2_number_14 rfl rfl rfl ?_
    refine r_gI (q := 18) fl_X2_68 dX2_number_15 rfl (fun x2 => ?_)
    refine r_iload_n (q := 19) dX2_number_18 rfl rfl rfl ?_
    refine r_iload_n (q := 20) dX2_number_19 rfl rfl rfl ?_
    refine r_callI (q := 23) (c_X1_in G h0 N _ _ _ _) (cl_SN rfl rfl q655 q490 q167 q491 (hd_X1_in) ⟨Nat.le_of_ble_eq_true rfl, Nat.le_of_ble_eq_true rfl⟩ rfl (Nat.le_of_ble_eq_true rfl) dX2_number_20) rfl (fun x3 σ4 => ?_)
    refine r_if_ne (q := 26) (t := 32) dX2_number_23 rfl (by decide) (fun _ => ?_) (fun _ => ?_)
    · refine r_aload_n (q := 27) dX2_number_26 rfl rfl rfl ?_
      refine r_iconst (q := 28) (v := (4 : Int32)) dX2_number_27 rfl (by decide) ?_
      refine r_ob (fun a11 ha11 => ?_)
      obtain ⟨hea11, hka11⟩ := o_at_eq ha11
      cases hea11
      refine r_callR (q := 31) (c_X2_fail G h0 N _ _ _) (cl_V (ci := 1) rfl rfl (lw_V q742 q744 qs7 q168 q745) (hd_X2_fail) ⟨Nat.le_of_ble_eq_true rfl, Nat.le_of_ble_eq_true rfl⟩ (List.mem_singleton.mp hka11) rfl rfl rfl (Nat.le_of_ble_eq_true rfl) dX2_number_28) rfl (fun x9 σ10 => ?_)
      exact r_athrow (ci := 2) (r0 := (RX3, TX3, 8)) rfl rfl dX2_number_31
    · refine r_aload_n (q := 33) dX2_number_32 rfl rfl rfl ?_
      refine r_gI (q := 36) fl_X2_68 dX2_number_33 rfl (fun x5 => ?_)
      refine r_istore_n (q := 37) dX2_number_36 rfl rfl (Nat.le_of_ble_eq_true rfl) rfl ?_
      refine r_aload_n (q := 38) dX2_number_37 rfl rfl rfl ?_
      refine r_ob (fun a8 ha8 => ?_)
      obtain ⟨hea8, hka8⟩ := o_at_eq ha8
      cases hea8
      refine r_callV (q := 41) (c_X2_next G h0 N _ _) (cl_V (ci := 1) rfl rfl (lw_V q644 q646 qs4 q168 q647) (hd_X2_next) ⟨Nat.le_of_ble_eq_true rfl, Nat.le_of_ble_eq_true rfl⟩ (List.mem_singleton.mp hka8) rfl rfl rfl (Nat.le_of_ble_eq_true rfl) dX2_number_38) rfl (fun u6 σ7 => ?_)
      refine r_iload_n (q := 42) dX2_number_41 rfl rfl rfl ?_
      exact r_ireturnX rfl rfl dX2_number_42
  · refine r_aload_n (q := 9) dX2_number_8 rfl rfl rfl ?_
    refine r_iconst (q := 10) (v := (1 : Int32)) dX2_number_9 rfl (by decide) ?_
    refine r_ob (fun a14 ha14 => ?_)
    obtain ⟨hea14, hka14⟩ := o_at_eq ha14
    cases hea14
    refine r_callR (q := 13) (c_X2_fail G h0 N _ _ _) (cl_V (ci := 1) rfl rfl (lw_V q742 q744 qs7 q168 q745) (hd_X2_fail) ⟨Nat.le_of_ble_eq_true rfl, Nat.le_of_ble_eq_true rfl⟩ (List.mem_singleton.mp hka14) rfl rfl rfl (Nat.le_of_ble_eq_true rfl) dX2_number_10) rfl (fun x12 σ13 => ?_)
    exact r_athrow (ci := 2) (r0 := (RX3, TX3, 8)) rfl rfl dX2_number_13
theorem c_X2_after (G : Gx) (h0 : G0 G) (N : Nat) (a0 : Nat) (o1 : Option Nat) (i2 : Int32) (i3 : Int32) (σ : Mem) : Ct G mX2_after (rhoX rhoI) [vR (some a0), vR o1, vI i2, vI i3] σ (f_X2_after N a0 o1 i2 i3 σ) := by
  refine Ct_of h0 (by decide) rfl (Nat.le_of_ble_eq_true rfl) (L0 := [some (vR (some a0)), some (vR o1), some (vI i2), some (vI i3)]) rfl ?_
  unfold f_X2_after
  refine r_aload_n (q := 1) dX2_after_0 rfl rfl rfl ?_
  refine r_aload_n (q := 2) dX2_after_1 rfl rfl rfl ?_
  refine r_ob (fun a3 ha3 => ?_)
  obtain ⟨hea3, hka3⟩ := o_at_eq ha3
  cases hea3
  refine r_callXV (q := 5) (c_X2_must G h0 N _ _ _) (cl_V (ci := 1) rfl rfl (lw_V q836 q838 qs10 q168 q839) (hd_X2_must) ⟨Nat.le_of_ble_eq_true rfl, Nat.le_of_ble_eq_true rfl⟩ (List.mem_singleton.mp hka3) rfl rfl rfl (Nat.le_of_ble_eq_true rfl) dX2_after_2) rfl rfl (fun u1 σ2 => ?_)
  refine r_aload_n (q := 6) dX2_after_5 rfl rfl rfl ?_
  refine r_iload_n (q := 7) dX2_after_6 rfl rfl rfl ?_
  refine r_iload_n (q := 8) dX2_after_7 rfl rfl rfl ?_
  refine r_ob (fun a6 ha6 => ?_)
  obtain ⟨hea6, hka6⟩ := o_at_eq ha6
  cases hea6
  refine r_callXI (q := 11) (c_X2_number G h0 N _ _ _ _) (cl_V (ci := 1) rfl rfl (lw_V q844 q846 qs12 q168 q847) (hd_X2_number) ⟨Nat.le_of_ble_eq_true rfl, Nat.le_of_ble_eq_true rfl⟩ (List.mem_singleton.mp hka6) rfl rfl rfl (Nat.le_of_ble_eq_true rfl) dX2_after_8) rfl rfl (fun x4 σ5 => ?_)
  exact r_ireturnX rfl rfl dX2_after_11
theorem c_X2_hillLine (G : Gx) (h0 : G0 G) (N : Nat) (a0 : Nat) (σ : Mem) : Ct G mX2_hillLine (rhoX rhoV) [vR (some a0)] σ (f_X2_hillLine N a0 σ) := by
  refine Ct_of h0 (by decide) rfl (Nat.le_of_ble_eq_true rfl) (L0 := [some (vR (some a0)), none]) rfl ?_
  unfold f_X2_hillLine
  refine r_aload_n (q := 1) dX2_hillLine_0 rfl rfl rfl ?_
  refine r_gR (q := 4) fl_X2_127 rfl dX2_hillLine_1 rfl (fun x1 => ?_)
  refine r_gI (q := 7) fl_X2_163 dX2_hillLine_4 rfl (fun x2 => ?_)
  refine r_if_le (q := 10) (t := 16) dX2_hillLine_7 rfl (by decide) (fun _ => ?_) (fun _ => ?_)
  · refine r_aload_n (q := 17) dX2_hillLine_16 rfl rfl rfl ?_
    refine r_ob (fun a5 ha5 => ?_)
    obtain ⟨hea5, hka5⟩ := o_at_eq ha5
    cases hea5
    refine r_callV (q := 20) (c_X2_next G h0 N _ _) (cl_V (ci := 1) rfl rfl (lw_V q644 q646 qs4 q168 q647) (hd_X2_next) ⟨Nat.le_of_ble_eq_true rfl, Nat.le_of_ble_eq_true rfl⟩ (List.mem_singleton.mp hka5) rfl rfl rfl (Nat.le_of_ble_eq_true rfl) dX2_hillLine_17) rfl (fun u3 σ4 => ?_)
    refine r_aload_n (q := 21) dX2_hillLine_20 rfl rfl rfl ?_
    refine r_ldcS (q := 23) (tx := "hours") (cd := 34) (List.mem_of_getElem? (i := 18) rfl) (by decide) dX2_hillLine_21 rfl ?_
    refine r_iconst (q := 24) (v := (2 : Int32)) dX2_hillLine_23 rfl (by decide) ?_
    refine r_bipush (q := 26) (v := (12 : Int32)) dX2_hillLine_24 rfl (by decide) ?_
    refine r_ob (fun a8 ha8 => ?_)
    obtain ⟨hea8, hka8⟩ := o_at_eq ha8
    cases hea8
    refine r_callXI (q := 29) (c_X2_after G h0 N _ _ _ _ _) (cl_V (ci := 1) rfl rfl (lw_V q832 q834 qs9 q168 q835) (hd_X2_after) ⟨Nat.le_of_ble_eq_true rfl, Nat.le_of_ble_eq_true rfl⟩ (List.mem_singleton.mp hka8) rfl rfl rfl (Nat.le_of_ble_eq_true rfl) dX2_hillLine_26) rfl rfl (fun x6 σ7 => ?_)
    refine r_istore_n (q := 30) dX2_hillLine_29 rfl rfl (Nat.le_of_ble_eq_true rfl) rfl ?_
    refine r_aload_n (q := 31) dX2_hillLine_30 rfl rfl rfl ?_
    refine r_gR (q := 34) fl_X2_127 rfl dX2_hillLine_31 rfl (fun x9 => ?_)
    refine r_aload_n (q := 35) dX2_hillLine_34 rfl rfl rfl ?_
    refine r_ldcS (q := 37) (tx := "plants") (cd := 36) (List.mem_of_getElem? (i := 19) rfl) (by decide) dX2_hillLine_35 rfl ?_
    refine r_iconst (q := 38) (v := (1 : Int32)) dX2_hillLine_37 rfl (by decide) ?_
    refine r_iconst (q := 39) (v := (4 : Int32)) dX2_hillLine_38 rfl (by decide) ?_
    refine r_ob (fun a12 ha12 => ?_)
    obtain ⟨hea12, hka12⟩ := o_at_eq ha12
    cases hea12
    refine r_callXI (q := 42) (c_X2_after G h0 N _ _ _ _ _) (cl_V (ci := 1) rfl rfl (lw_V q832 q834 qs9 q168 q835) (hd_X2_after) ⟨Nat.le_of_ble_eq_true rfl, Nat.le_of_ble_eq_true rfl⟩ (List.mem_singleton.mp hka12) rfl rfl rfl (Nat.le_of_ble_eq_true rfl) dX2_hillLine_39) rfl rfl (fun x10 σ11 => ?_)
    refine r_pI (q := 45) fp_X2_hillLine_166 dX2_hillLine_42 rfl (fun σ13 => ?_)
    refine r_aload_n (q := 46) dX2_hillLine_45 rfl rfl rfl ?_
    refine r_gR (q := 49) fl_X2_127 rfl dX2_hillLine_46 rfl (fun x14 => ?_)
    refine r_iload_n (q := 50) dX2_hillLine_49 rfl rfl rfl ?_
    refine r_pI (q := 53) fp_X2_hillLine_163 dX2_hillLine_50 rfl (fun σ15 => ?_)
    exact r_returnX rfl dX2_hillLine_53
  · refine r_aload_n (q := 11) dX2_hillLine_10 rfl rfl rfl ?_
    refine r_iconst (q := 12) (v := (3 : Int32)) dX2_hillLine_11 rfl (by decide) ?_
    refine r_ob (fun a18 ha18 => ?_)
    obtain ⟨hea18, hka18⟩ := o_at_eq ha18
    cases hea18
    refine r_callR (q := 15) (c_X2_fail G h0 N _ _ _) (cl_V (ci := 1) rfl rfl (lw_V q742 q744 qs7 q168 q745) (hd_X2_fail) ⟨Nat.le_of_ble_eq_true rfl, Nat.le_of_ble_eq_true rfl⟩ (List.mem_singleton.mp hka18) rfl rfl rfl (Nat.le_of_ble_eq_true rfl) dX2_hillLine_12) rfl (fun x16 σ17 => ?_)
    exact r_athrow (ci := 2) (r0 := (RX3, TX3, 8)) rfl rfl dX2_hillLine_15
theorem c_X2_begins (G : Gx) (h0 : G0 G) (N : Nat) (a0 : Nat) (i1 : Int32) (σ : Mem) : Ct G mX2_begins (rhoX rhoV) [vR (some a0), vI i1] σ (f_X2_begins N a0 i1 σ) := by
  refine Ct_of h0 (by decide) rfl (Nat.le_of_ble_eq_true rfl) (L0 := [some (vR (some a0)), some (vI i1)]) rfl ?_
  unfold f_X2_begins
  refine r_iload_n (q := 1) dX2_begins_0 rfl rfl rfl ?_
  refine r_if_ne (q := 4) (t := 10) dX2_begins_1 rfl (by decide) (fun _ => ?_) (fun _ => ?_)
  · refine r_aload_n (q := 5) dX2_begins_4 rfl rfl rfl ?_
    refine r_iconst (q := 6) (v := (5 : Int32)) dX2_begins_5 rfl (by decide) ?_
    refine r_ob (fun a11 ha11 => ?_)
    obtain ⟨hea11, hka11⟩ := o_at_eq ha11
    cases hea11
    refine r_callR (q := 9) (c_X2_fail G h0 N _ _ _) (cl_V (ci := 1) rfl rfl (lw_V q742 q744 qs7 q168 q745) (hd_X2_fail) ⟨Nat.le_of_ble_eq_true rfl, Nat.le_of_ble_eq_true rfl⟩ (List.mem_singleton.mp hka11) rfl rfl rfl (Nat.le_of_ble_eq_true rfl) dX2_begins_6) rfl (fun x9 σ10 => ?_)
    exact r_athrow (ci := 2) (r0 := (RX3, TX3, 8)) rfl rfl dX2_begins_9
  · refine r_aload_n (q := 11) dX2_begins_10 rfl rfl rfl ?_
    refine r_gR (q := 14) fl_X2_127 rfl dX2_begins_11 rfl (fun x1 => ?_)
    refine r_gI (q := 17) fl_X2_163 dX2_begins_14 rfl (fun x2 => ?_)
    refine r_if_ne (q := 20) (t := 27) dX2_begins_17 rfl (by decide) (fun _ => ?_) (fun _ => ?_)
    · refine r_aload_n (q := 21) dX2_begins_20 rfl rfl rfl ?_
      refine r_bipush (q := 23) (v := (6 : Int32)) dX2_begins_21 rfl (by decide) ?_
      refine r_ob (fun a8 ha8 => ?_)
      obtain ⟨hea8, hka8⟩ := o_at_eq ha8
      cases hea8
      refine r_callR (q := 26) (c_X2_fail G h0 N _ _ _) (cl_V (ci := 1) rfl rfl (lw_V q742 q744 qs7 q168 q745) (hd_X2_fail) ⟨Nat.le_of_ble_eq_true rfl, Nat.le_of_ble_eq_true rfl⟩ (List.mem_singleton.mp hka8) rfl rfl rfl (Nat.le_of_ble_eq_true rfl) dX2_begins_23) rfl (fun x6 σ7 => ?_)
      exact r_athrow (ci := 2) (r0 := (RX3, TX3, 8)) rfl rfl dX2_begins_26
    · refine r_aload_n (q := 28) dX2_begins_27 rfl rfl rfl ?_
      refine r_ob (fun a5 ha5 => ?_)
      obtain ⟨hea5, hka5⟩ := o_at_eq ha5
      cases hea5
      refine r_callV (q := 31) (c_X2_next G h0 N _ _) (cl_V (ci := 1) rfl rfl (lw_V q644 q646 qs4 q168 q647) (hd_X2_next) ⟨Nat.le_of_ble_eq_true rfl, Nat.le_of_ble_eq_true rfl⟩ (List.mem_singleton.mp hka5) rfl rfl rfl (Nat.le_of_ble_eq_true rfl) dX2_begins_28) rfl (fun u3 σ4 => ?_)
      exact r_returnX rfl dX2_begins_31
theorem w_X2_mustName_b500 (G : Gx) (h0 : G0 G) (N : Nat)   (a0 : Nat) (σ : Mem) : Runs G mX2_mustName (rhoX rhoV) σ 500 [some (vR (some a0)), none, none] [] (f_X2_mustName_b500 N  a0 σ) := by
  unfold f_X2_mustName_b500
  refine r_aload_n (q := 501) dX2_mustName_500 rfl rfl rfl ?_
  refine r_iconst (q := 502) (v := (1 : Int32)) dX2_mustName_501 rfl (by decide) ?_
  refine r_ob (fun a3 ha3 => ?_)
  obtain ⟨hea3, hka3⟩ := o_at_eq ha3
  cases hea3
  refine r_callR (q := 505) (c_X2_fail G h0 N _ _ _) (cl_V (ci := 1) rfl rfl (lw_V q742 q744 qs7 q168 q745) (hd_X2_fail) ⟨Nat.le_of_ble_eq_true rfl, Nat.le_of_ble_eq_true rfl⟩ (List.mem_singleton.mp hka3) rfl rfl rfl (Nat.le_of_ble_eq_true rfl) dX2_mustName_502) rfl (fun x1 σ2 => ?_)
  exact r_athrow (ci := 2) (r0 := (RX3, TX3, 8)) rfl rfl dX2_mustName_505
theorem w_X2_mustName_b418 (G : Gx) (h0 : G0 G) (N : Nat)   (a0 : Nat) (l2 : Int32) (σ : Mem) : Runs G mX2_mustName (rhoX rhoV) σ 418 [some (vR (some a0)), none, some (vI l2)] [] (f_X2_mustName_b418 N  a0 l2 σ) := by
  unfold f_X2_mustName_b418
  refine r_iload_n (q := 419) dX2_mustName_418 rfl rfl rfl ?_
  refine r_tswC (t := 500) (c0 := (0 : Int32)) dX2_mustName_419 (by decide) (by decide) rfl (by decide) ?_ (fun hc0 => ?_)
  · exact r_le (w_X2_mustName_b500 G h0 N _ _) (Nat.le_refl _) (And.intro rfl trivial)
  refine r_tswC (t := 500) (c0 := (1 : Int32)) dX2_mustName_419 (by decide) (by decide) rfl (by decide) ?_ (fun hc1 => ?_)
  · exact r_le (w_X2_mustName_b500 G h0 N _ _) (Nat.le_refl _) (And.intro rfl trivial)
  refine r_tswC (t := 500) (c0 := (2 : Int32)) dX2_mustName_419 (by decide) (by decide) rfl (by decide) ?_ (fun hc2 => ?_)
  · exact r_le (w_X2_mustName_b500 G h0 N _ _) (Nat.le_refl _) (And.intro rfl trivial)
  refine r_tswC (t := 500) (c0 := (3 : Int32)) dX2_mustName_419 (by decide) (by decide) rfl (by decide) ?_ (fun hc3 => ?_)
  · exact r_le (w_X2_mustName_b500 G h0 N _ _) (Nat.le_refl _) (And.intro rfl trivial)
  refine r_tswC (t := 500) (c0 := (4 : Int32)) dX2_mustName_419 (by decide) (by decide) rfl (by decide) ?_ (fun hc4 => ?_)
  · exact r_le (w_X2_mustName_b500 G h0 N _ _) (Nat.le_refl _) (And.intro rfl trivial)
  refine r_tswC (t := 500) (c0 := (5 : Int32)) dX2_mustName_419 (by decide) (by decide) rfl (by decide) ?_ (fun hc5 => ?_)
  · exact r_le (w_X2_mustName_b500 G h0 N _ _) (Nat.le_refl _) (And.intro rfl trivial)
  refine r_tswC (t := 500) (c0 := (6 : Int32)) dX2_mustName_419 (by decide) (by decide) rfl (by decide) ?_ (fun hc6 => ?_)
  · exact r_le (w_X2_mustName_b500 G h0 N _ _) (Nat.le_refl _) (And.intro rfl trivial)
  refine r_tswC (t := 500) (c0 := (7 : Int32)) dX2_mustName_419 (by decide) (by decide) rfl (by decide) ?_ (fun hc7 => ?_)
  · exact r_le (w_X2_mustName_b500 G h0 N _ _) (Nat.le_refl _) (And.intro rfl trivial)
  refine r_tswC (t := 500) (c0 := (8 : Int32)) dX2_mustName_419 (by decide) (by decide) rfl (by decide) ?_ (fun hc8 => ?_)
  · exact r_le (w_X2_mustName_b500 G h0 N _ _) (Nat.le_refl _) (And.intro rfl trivial)
  refine r_tswC (t := 500) (c0 := (9 : Int32)) dX2_mustName_419 (by decide) (by decide) rfl (by decide) ?_ (fun hc9 => ?_)
  · exact r_le (w_X2_mustName_b500 G h0 N _ _) (Nat.le_refl _) (And.intro rfl trivial)
  refine r_tswC (t := 500) (c0 := (10 : Int32)) dX2_mustName_419 (by decide) (by decide) rfl (by decide) ?_ (fun hc10 => ?_)
  · exact r_le (w_X2_mustName_b500 G h0 N _ _) (Nat.le_refl _) (And.intro rfl trivial)
  refine r_tswC (t := 500) (c0 := (11 : Int32)) dX2_mustName_419 (by decide) (by decide) rfl (by decide) ?_ (fun hc11 => ?_)
  · exact r_le (w_X2_mustName_b500 G h0 N _ _) (Nat.le_refl _) (And.intro rfl trivial)
  refine r_tswC (t := 500) (c0 := (12 : Int32)) dX2_mustName_419 (by decide) (by decide) rfl (by decide) ?_ (fun hc12 => ?_)
  · exact r_le (w_X2_mustName_b500 G h0 N _ _) (Nat.le_refl _) (And.intro rfl trivial)
  refine r_tswC (t := 500) (c0 := (13 : Int32)) dX2_mustName_419 (by decide) (by decide) rfl (by decide) ?_ (fun hc13 => ?_)
  · exact r_le (w_X2_mustName_b500 G h0 N _ _) (Nat.le_refl _) (And.intro rfl trivial)
  refine r_tswC (t := 500) (c0 := (14 : Int32)) dX2_mustName_419 (by decide) (by decide) rfl (by decide) ?_ (fun hc14 => ?_)
  · exact r_le (w_X2_mustName_b500 G h0 N _ _) (Nat.le_refl _) (And.intro rfl trivial)
  refine r_tswC (t := 500) (c0 := (15 : Int32)) dX2_mustName_419 (by decide) (by decide) rfl (by decide) ?_ (fun hc15 => ?_)
  · exact r_le (w_X2_mustName_b500 G h0 N _ _) (Nat.le_refl _) (And.intro rfl trivial)
  refine r_tswC (t := 500) (c0 := (16 : Int32)) dX2_mustName_419 (by decide) (by decide) rfl (by decide) ?_ (fun hc16 => ?_)
  · exact r_le (w_X2_mustName_b500 G h0 N _ _) (Nat.le_refl _) (And.intro rfl trivial)
  refine r_tswD (t := 506) dX2_mustName_419 (tsw_out 17 _ (by decide) (fun k hk => match k, hk with | 0, _ => hc0 | 1, _ => hc1 | 2, _ => hc2 | 3, _ => hc3 | 4, _ => hc4 | 5, _ => hc5 | 6, _ => hc6 | 7, _ => hc7 | 8, _ => hc8 | 9, _ => hc9 | 10, _ => hc10 | 11, _ => hc11 | 12, _ => hc12 | 13, _ => hc13 | 14, _ => hc14 | 15, _ => hc15 | 16, _ => hc16 | k + 17, hk => absurd hk (by omega)) : _) (by decide) ?_
  · exact r_returnX rfl dX2_mustName_506
theorem c_X2_mustName (G : Gx) (h0 : G0 G) (N : Nat) (a0 : Nat) (σ : Mem) : Ct G mX2_mustName (rhoX rhoV) [vR (some a0)] σ (f_X2_mustName N a0 σ) := by
  refine Ct_of h0 (by decide) rfl (Nat.le_of_ble_eq_true rfl) (L0 := [some (vR (some a0)), none, none]) rfl ?_
  unfold f_X2_mustName
  refine r_aload_n (q := 1) dX2_mustName_0 rfl rfl rfl ?_
  refine r_gI (q := 4) fl_X2_47 dX2_mustName_1 rfl (fun x1 => ?_)
  refine r_iconst (q := 5) (v := (2 : Int32)) dX2_mustName_4 rfl (by decide) ?_
  refine r_icmp_eq (q := 8) (t := 14) dX2_mustName_5 rfl (by decide) (fun _ => ?_) (fun _ => ?_)
  · refine r_aload_n (q := 15) dX2_mustName_14 rfl rfl rfl ?_
    refine r_gR (q := 18) fl_X2_61 rfl dX2_mustName_15 rfl (fun x2 => ?_)
    refine r_astore_n (q := 19) dX2_mustName_18 rfl rfl (Nat.le_of_ble_eq_true rfl) rfl ?_
    refine r_iconst (q := 20) (v := (-1 : Int32)) dX2_mustName_19 rfl (by decide) ?_
    refine r_istore_n (q := 21) dX2_mustName_20 rfl rfl (Nat.le_of_ble_eq_true rfl) rfl ?_
    refine r_aload_n (q := 22) dX2_mustName_21 rfl rfl rfl ?_
    refine r_ob (fun a5 ha5 => ?_)
    obtain ⟨hea5, hka5⟩ := o_at_eq ha5
    cases hea5
    refine r_callI (q := 25) (c_J3_hashCode G h0 N _ _) (cl_V (ci := 21) rfl rfl (lw_V q750 q751 q752 q178 q753) (hd_J3_hashCode) ⟨Nat.le_of_ble_eq_true rfl, Nat.le_of_ble_eq_true rfl⟩ (List.mem_singleton.mp hka5) rfl rfl rfl (Nat.le_of_ble_eq_true rfl) dX2_mustName_22) rfl (fun x3 σ4 => ?_)
    refine r_lswC (t := 391) (off := 366) (c0 := (-1361525545 : Int32)) dX2_mustName_25 (by decide) (by decide) (by decide) ?_ (fun hc0 => ?_)
    · refine r_aload_n (q := 392) dX2_mustName_391 rfl rfl rfl ?_
      refine r_ldcS (q := 394) (tx := "cheese") (cd := 32) (List.mem_of_getElem? (i := 17) rfl) (by decide) dX2_mustName_392 rfl ?_
      refine r_ob (fun a8 ha8 => ?_)
      obtain ⟨hea8, hka8⟩ := o_at_eq ha8
      cases hea8
      refine r_callI (q := 397) (c_J3_equals G h0 N _ _ _) (cl_V (ci := 21) rfl rfl (lw_V q804 q805 q806 q178 q807) (hd_J3_equals) ⟨Nat.le_of_ble_eq_true rfl, Nat.le_of_ble_eq_true rfl⟩ (List.mem_singleton.mp hka8) rfl rfl rfl (Nat.le_of_ble_eq_true rfl) dX2_mustName_394) rfl (fun x6 σ7 => ?_)
      refine r_if_eq (q := 400) (t := 418) dX2_mustName_397 rfl (by decide) (fun _ => ?_) (fun _ => ?_)
      · exact r_le (w_X2_mustName_b418 G h0 N _ _ _) (Nat.le_refl _) (And.intro rfl (And.intro rfl trivial))
      · refine r_bipush (q := 402) (v := (15 : Int32)) dX2_mustName_400 rfl (by decide) ?_
        refine r_istore_n (q := 403) dX2_mustName_402 rfl rfl (Nat.le_of_ble_eq_true rfl) rfl ?_
        refine r_goto (q := 418) dX2_mustName_403 (by decide) ?_
        exact r_le (w_X2_mustName_b418 G h0 N _ _ _) (Nat.le_refl _) (And.intro rfl (And.intro rfl trivial))
    refine r_lswC (t := 214) (off := 189) (c0 := (-991716523 : Int32)) dX2_mustName_25 (by decide) (by decide) (by decide) ?_ (fun hc1 => ?_)
    · refine r_aload_n (q := 215) dX2_mustName_214 rfl rfl rfl ?_
      refine r_ldcS (q := 217) (tx := "person") (cd := 8) (List.mem_of_getElem? (i := 5) rfl) (by decide) dX2_mustName_215 rfl ?_
      refine r_ob (fun a11 ha11 => ?_)
      obtain ⟨hea11, hka11⟩ := o_at_eq ha11
      cases hea11
      refine r_callI (q := 220) (c_J3_equals G h0 N _ _ _) (cl_V (ci := 21) rfl rfl (lw_V q804 q805 q806 q178 q807) (hd_J3_equals) ⟨Nat.le_of_ble_eq_true rfl, Nat.le_of_ble_eq_true rfl⟩ (List.mem_singleton.mp hka11) rfl rfl rfl (Nat.le_of_ble_eq_true rfl) dX2_mustName_217) rfl (fun x9 σ10 => ?_)
      refine r_if_eq (q := 223) (t := 418) dX2_mustName_220 rfl (by decide) (fun _ => ?_) (fun _ => ?_)
      · exact r_le (w_X2_mustName_b418 G h0 N _ _ _) (Nat.le_refl _) (And.intro rfl (And.intro rfl trivial))
      · refine r_iconst (q := 224) (v := (3 : Int32)) dX2_mustName_223 rfl (by decide) ?_
        refine r_istore_n (q := 225) dX2_mustName_224 rfl rfl (Nat.le_of_ble_eq_true rfl) rfl ?_
        refine r_goto (q := 418) dX2_mustName_225 (by decide) ?_
        exact r_le (w_X2_mustName_b418 G h0 N _ _ _) (Nat.le_refl _) (And.intro rfl (And.intro rfl trivial))
    refine r_lswC (t := 406) (off := 381) (c0 := (3357 : Int32)) dX2_mustName_25 (by decide) (by decide) (by decide) ?_ (fun hc2 => ?_)
    · refine r_aload_n (q := 407) dX2_mustName_406 rfl rfl rfl ?_
      refine r_ldcS (q := 409) (tx := "if") (cd := 38) (List.mem_of_getElem? (i := 20) rfl) (by decide) dX2_mustName_407 rfl ?_
      refine r_ob (fun a14 ha14 => ?_)
      obtain ⟨hea14, hka14⟩ := o_at_eq ha14
      cases hea14
      refine r_callI (q := 412) (c_J3_equals G h0 N _ _ _) (cl_V (ci := 21) rfl rfl (lw_V q804 q805 q806 q178 q807) (hd_J3_equals) ⟨Nat.le_of_ble_eq_true rfl, Nat.le_of_ble_eq_true rfl⟩ (List.mem_singleton.mp hka14) rfl rfl rfl (Nat.le_of_ble_eq_true rfl) dX2_mustName_409) rfl (fun x12 σ13 => ?_)
      refine r_if_eq (q := 415) (t := 418) dX2_mustName_412 rfl (by decide) (fun _ => ?_) (fun _ => ?_)
      · exact r_le (w_X2_mustName_b418 G h0 N _ _ _) (Nat.le_refl _) (And.intro rfl (And.intro rfl trivial))
      · refine r_bipush (q := 417) (v := (16 : Int32)) dX2_mustName_415 rfl (by decide) ?_
        refine r_istore_n (q := 418) dX2_mustName_417 rfl rfl (Nat.le_of_ble_eq_true rfl) rfl ?_
        exact r_le (w_X2_mustName_b418 G h0 N _ _ _) (Nat.le_refl _) (And.intro rfl (And.intro rfl trivial))
    refine r_lswC (t := 316) (off := 291) (c0 := (3135084 : Int32)) dX2_mustName_25 (by decide) (by decide) (by decide) ?_ (fun hc3 => ?_)
    · refine r_aload_n (q := 317) dX2_mustName_316 rfl rfl rfl ?_
      refine r_ldcS (q := 319) (tx := "fact") (cd := 22) (List.mem_of_getElem? (i := 12) rfl) (by decide) dX2_mustName_317 rfl ?_
      refine r_ob (fun a17 ha17 => ?_)
      obtain ⟨hea17, hka17⟩ := o_at_eq ha17
      cases hea17
      refine r_callI (q := 322) (c_J3_equals G h0 N _ _ _) (cl_V (ci := 21) rfl rfl (lw_V q804 q805 q806 q178 q807) (hd_J3_equals) ⟨Nat.le_of_ble_eq_true rfl, Nat.le_of_ble_eq_true rfl⟩ (List.mem_singleton.mp hka17) rfl rfl rfl (Nat.le_of_ble_eq_true rfl) dX2_mustName_319) rfl (fun x15 σ16 => ?_)
      refine r_if_eq (q := 325) (t := 418) dX2_mustName_322 rfl (by decide) (fun _ => ?_) (fun _ => ?_)
      · exact r_le (w_X2_mustName_b418 G h0 N _ _ _) (Nat.le_refl _) (And.intro rfl (And.intro rfl trivial))
      · refine r_bipush (q := 327) (v := (10 : Int32)) dX2_mustName_325 rfl (by decide) ?_
        refine r_istore_n (q := 328) dX2_mustName_327 rfl rfl (Nat.le_of_ble_eq_true rfl) rfl ?_
        refine r_goto (q := 418) dX2_mustName_328 (by decide) ?_
        exact r_le (w_X2_mustName_b418 G h0 N _ _ _) (Nat.le_refl _) (And.intro rfl (And.intro rfl trivial))
    refine r_lswC (t := 242) (off := 217) (c0 := (3178267 : Int32)) dX2_mustName_25 (by decide) (by decide) (by decide) ?_ (fun hc4 => ?_)
    · refine r_aload_n (q := 243) dX2_mustName_242 rfl rfl rfl ?_
      refine r_ldcS (q := 245) (tx := "goat") (cd := 12) (List.mem_of_getElem? (i := 7) rfl) (by decide) dX2_mustName_243 rfl ?_
      refine r_ob (fun a20 ha20 => ?_)
      obtain ⟨hea20, hka20⟩ := o_at_eq ha20
      cases hea20
      refine r_callI (q := 248) (c_J3_equals G h0 N _ _ _) (cl_V (ci := 21) rfl rfl (lw_V q804 q805 q806 q178 q807) (hd_J3_equals) ⟨Nat.le_of_ble_eq_true rfl, Nat.le_of_ble_eq_true rfl⟩ (List.mem_singleton.mp hka20) rfl rfl rfl (Nat.le_of_ble_eq_true rfl) dX2_mustName_245) rfl (fun x18 σ19 => ?_)
      refine r_if_eq (q := 251) (t := 418) dX2_mustName_248 rfl (by decide) (fun _ => ?_) (fun _ => ?_)
      · exact r_le (w_X2_mustName_b418 G h0 N _ _ _) (Nat.le_refl _) (And.intro rfl (And.intro rfl trivial))
      · refine r_iconst (q := 252) (v := (5 : Int32)) dX2_mustName_251 rfl (by decide) ?_
        refine r_istore_n (q := 253) dX2_mustName_252 rfl rfl (Nat.le_of_ble_eq_true rfl) rfl ?_
        refine r_goto (q := 418) dX2_mustName_253 (by decide) ?_
        exact r_le (w_X2_mustName_b418 G h0 N _ _ _) (Nat.le_refl _) (And.intro rfl (And.intro rfl trivial))
    refine r_lswC (t := 172) (off := 147) (c0 := (3202625 : Int32)) dX2_mustName_25 (by decide) (by decide) (by decide) ?_ (fun hc5 => ?_)
    · refine r_aload_n (q := 173) dX2_mustName_172 rfl rfl rfl ?_
      refine r_ldcS (q := 175) (tx := "hill") (cd := 2) (List.mem_of_getElem? (i := 2) rfl) (by decide) dX2_mustName_173 rfl ?_
      refine r_ob (fun a23 ha23 => ?_)
      obtain ⟨hea23, hka23⟩ := o_at_eq ha23
      cases hea23
      refine r_callI (q := 178) (c_J3_equals G h0 N _ _ _) (cl_V (ci := 21) rfl rfl (lw_V q804 q805 q806 q178 q807) (hd_J3_equals) ⟨Nat.le_of_ble_eq_true rfl, Nat.le_of_ble_eq_true rfl⟩ (List.mem_singleton.mp hka23) rfl rfl rfl (Nat.le_of_ble_eq_true rfl) dX2_mustName_175) rfl (fun x21 σ22 => ?_)
      refine r_if_eq (q := 181) (t := 418) dX2_mustName_178 rfl (by decide) (fun _ => ?_) (fun _ => ?_)
      · exact r_le (w_X2_mustName_b418 G h0 N _ _ _) (Nat.le_refl _) (And.intro rfl (And.intro rfl trivial))
      · refine r_iconst (q := 182) (v := (0 : Int32)) dX2_mustName_181 rfl (by decide) ?_
        refine r_istore_n (q := 183) dX2_mustName_182 rfl rfl (Nat.le_of_ble_eq_true rfl) rfl ?_
        refine r_goto (q := 418) dX2_mustName_183 (by decide) ?_
        exact r_le (w_X2_mustName_b418 G h0 N _ _ _) (Nat.le_refl _) (And.intro rfl (And.intro rfl trivial))
    refine r_lswC (t := 200) (off := 175) (c0 := (3433509 : Int32)) dX2_mustName_25 (by decide) (by decide) (by decide) ?_ (fun hc6 => ?_)
    · refine r_aload_n (q := 201) dX2_mustName_200 rfl rfl rfl ?_
      refine r_ldcS (q := 203) (tx := "path") (cd := 6) (List.mem_of_getElem? (i := 4) rfl) (by decide) dX2_mustName_201 rfl ?_
      refine r_ob (fun a26 ha26 => ?_)
      obtain ⟨hea26, hka26⟩ := o_at_eq ha26
      cases hea26
      refine r_callI (q := 206) (c_J3_equals G h0 N _ _ _) (cl_V (ci := 21) rfl rfl (lw_V q804 q805 q806 q178 q807) (hd_J3_equals) ⟨Nat.le_of_ble_eq_true rfl, Nat.le_of_ble_eq_true rfl⟩ (List.mem_singleton.mp hka26) rfl rfl rfl (Nat.le_of_ble_eq_true rfl) dX2_mustName_203) rfl (fun x24 σ25 => ?_)
      refine r_if_eq (q := 209) (t := 418) dX2_mustName_206 rfl (by decide) (fun _ => ?_) (fun _ => ?_)
      · exact r_le (w_X2_mustName_b418 G h0 N _ _ _) (Nat.le_refl _) (And.intro rfl (And.intro rfl trivial))
      · refine r_iconst (q := 210) (v := (2 : Int32)) dX2_mustName_209 rfl (by decide) ?_
        refine r_istore_n (q := 211) dX2_mustName_210 rfl rfl (Nat.le_of_ble_eq_true rfl) rfl ?_
        refine r_goto (q := 418) dX2_mustName_211 (by decide) ?_
        exact r_le (w_X2_mustName_b418 G h0 N _ _ _) (Nat.le_refl _) (And.intro rfl (And.intro rfl trivial))
    refine r_lswC (t := 346) (off := 321) (c0 := (3512060 : Int32)) dX2_mustName_25 (by decide) (by decide) (by decide) ?_ (fun hc7 => ?_)
    · refine r_aload_n (q := 347) dX2_mustName_346 rfl rfl rfl ?_
      refine r_ldcS (q := 349) (tx := "rule") (cd := 26) (List.mem_of_getElem? (i := 14) rfl) (by decide) dX2_mustName_347 rfl ?_
      refine r_ob (fun a29 ha29 => ?_)
      obtain ⟨hea29, hka29⟩ := o_at_eq ha29
      cases hea29
      refine r_callI (q := 352) (c_J3_equals G h0 N _ _ _) (cl_V (ci := 21) rfl rfl (lw_V q804 q805 q806 q178 q807) (hd_J3_equals) ⟨Nat.le_of_ble_eq_true rfl, Nat.le_of_ble_eq_true rfl⟩ (List.mem_singleton.mp hka29) rfl rfl rfl (Nat.le_of_ble_eq_true rfl) dX2_mustName_349) rfl (fun x27 σ28 => ?_)
      refine r_if_eq (q := 355) (t := 418) dX2_mustName_352 rfl (by decide) (fun _ => ?_) (fun _ => ?_)
      · exact r_le (w_X2_mustName_b418 G h0 N _ _ _) (Nat.le_refl _) (And.intro rfl (And.intro rfl trivial))
      · refine r_bipush (q := 357) (v := (12 : Int32)) dX2_mustName_355 rfl (by decide) ?_
        refine r_istore_n (q := 358) dX2_mustName_357 rfl rfl (Nat.le_of_ble_eq_true rfl) rfl ?_
        refine r_goto (q := 418) dX2_mustName_358 (by decide) ?_
        exact r_le (w_X2_mustName_b418 G h0 N _ _ _) (Nat.le_refl _) (And.intro rfl (And.intro rfl trivial))
    refine r_lswC (t := 286) (off := 261) (c0 := (3526267 : Int32)) dX2_mustName_25 (by decide) (by decide) (by decide) ?_ (fun hc8 => ?_)
    · refine r_aload_n (q := 287) dX2_mustName_286 rfl rfl rfl ?_
      refine r_ldcS (q := 289) (tx := "seen") (cd := 18) (List.mem_of_getElem? (i := 10) rfl) (by decide) dX2_mustName_287 rfl ?_
      refine r_ob (fun a32 ha32 => ?_)
      obtain ⟨hea32, hka32⟩ := o_at_eq ha32
      cases hea32
      refine r_callI (q := 292) (c_J3_equals G h0 N _ _ _) (cl_V (ci := 21) rfl rfl (lw_V q804 q805 q806 q178 q807) (hd_J3_equals) ⟨Nat.le_of_ble_eq_true rfl, Nat.le_of_ble_eq_true rfl⟩ (List.mem_singleton.mp hka32) rfl rfl rfl (Nat.le_of_ble_eq_true rfl) dX2_mustName_289) rfl (fun x30 σ31 => ?_)
      refine r_if_eq (q := 295) (t := 418) dX2_mustName_292 rfl (by decide) (fun _ => ?_) (fun _ => ?_)
      · exact r_le (w_X2_mustName_b418 G h0 N _ _ _) (Nat.le_refl _) (And.intro rfl (And.intro rfl trivial))
      · refine r_bipush (q := 297) (v := (8 : Int32)) dX2_mustName_295 rfl (by decide) ?_
        refine r_istore_n (q := 298) dX2_mustName_297 rfl rfl (Nat.le_of_ble_eq_true rfl) rfl ?_
        refine r_goto (q := 418) dX2_mustName_298 (by decide) ?_
        exact r_le (w_X2_mustName_b418 G h0 N _ _ _) (Nat.le_refl _) (And.intro rfl (And.intro rfl trivial))
    refine r_lswC (t := 376) (off := 351) (c0 := (94851467 : Int32)) dX2_mustName_25 (by decide) (by decide) (by decide) ?_ (fun hc9 => ?_)
    · refine r_aload_n (q := 377) dX2_mustName_376 rfl rfl rfl ?_
      refine r_ldcS (q := 379) (tx := "court") (cd := 30) (List.mem_of_getElem? (i := 16) rfl) (by decide) dX2_mustName_377 rfl ?_
      refine r_ob (fun a35 ha35 => ?_)
      obtain ⟨hea35, hka35⟩ := o_at_eq ha35
      cases hea35
      refine r_callI (q := 382) (c_J3_equals G h0 N _ _ _) (cl_V (ci := 21) rfl rfl (lw_V q804 q805 q806 q178 q807) (hd_J3_equals) ⟨Nat.le_of_ble_eq_true rfl, Nat.le_of_ble_eq_true rfl⟩ (List.mem_singleton.mp hka35) rfl rfl rfl (Nat.le_of_ble_eq_true rfl) dX2_mustName_379) rfl (fun x33 σ34 => ?_)
      refine r_if_eq (q := 385) (t := 418) dX2_mustName_382 rfl (by decide) (fun _ => ?_) (fun _ => ?_)
      · exact r_le (w_X2_mustName_b418 G h0 N _ _ _) (Nat.le_refl _) (And.intro rfl (And.intro rfl trivial))
      · refine r_bipush (q := 387) (v := (14 : Int32)) dX2_mustName_385 rfl (by decide) ?_
        refine r_istore_n (q := 388) dX2_mustName_387 rfl rfl (Nat.le_of_ble_eq_true rfl) rfl ?_
        refine r_goto (q := 418) dX2_mustName_388 (by decide) ?_
        exact r_le (w_X2_mustName_b418 G h0 N _ _ _) (Nat.le_refl _) (And.intro rfl (And.intro rfl trivial))
    refine r_lswC (t := 256) (off := 231) (c0 := (97304899 : Int32)) dX2_mustName_25 (by decide) (by decide) (by decide) ?_ (fun hc10 => ?_)
    · refine r_aload_n (q := 257) dX2_mustName_256 rfl rfl rfl ?_
      refine r_ldcS (q := 259) (tx := "fears") (cd := 14) (List.mem_of_getElem? (i := 8) rfl) (by decide) dX2_mustName_257 rfl ?_
      refine r_ob (fun a38 ha38 => ?_)
      obtain ⟨hea38, hka38⟩ := o_at_eq ha38
      cases hea38
      refine r_callI (q := 262) (c_J3_equals G h0 N _ _ _) (cl_V (ci := 21) rfl rfl (lw_V q804 q805 q806 q178 q807) (hd_J3_equals) ⟨Nat.le_of_ble_eq_true rfl, Nat.le_of_ble_eq_true rfl⟩ (List.mem_singleton.mp hka38) rfl rfl rfl (Nat.le_of_ble_eq_true rfl) dX2_mustName_259) rfl (fun x36 σ37 => ?_)
      refine r_if_eq (q := 265) (t := 418) dX2_mustName_262 rfl (by decide) (fun _ => ?_) (fun _ => ?_)
      · exact r_le (w_X2_mustName_b418 G h0 N _ _ _) (Nat.le_refl _) (And.intro rfl (And.intro rfl trivial))
      · refine r_bipush (q := 267) (v := (6 : Int32)) dX2_mustName_265 rfl (by decide) ?_
        refine r_istore_n (q := 268) dX2_mustName_267 rfl rfl (Nat.le_of_ble_eq_true rfl) rfl ?_
        refine r_goto (q := 418) dX2_mustName_268 (by decide) ?_
        exact r_le (w_X2_mustName_b418 G h0 N _ _ _) (Nat.le_refl _) (And.intro rfl (And.intro rfl trivial))
    refine r_lswC (t := 271) (off := 246) (c0 := (97621890 : Int32)) dX2_mustName_25 (by decide) (by decide) (by decide) ?_ (fun hc11 => ?_)
    · refine r_aload_n (q := 272) dX2_mustName_271 rfl rfl rfl ?_
      refine r_ldcS (q := 274) (tx := "found") (cd := 16) (List.mem_of_getElem? (i := 9) rfl) (by decide) dX2_mustName_272 rfl ?_
      refine r_ob (fun a41 ha41 => ?_)
      obtain ⟨hea41, hka41⟩ := o_at_eq ha41
      cases hea41
      refine r_callI (q := 277) (c_J3_equals G h0 N _ _ _) (cl_V (ci := 21) rfl rfl (lw_V q804 q805 q806 q178 q807) (hd_J3_equals) ⟨Nat.le_of_ble_eq_true rfl, Nat.le_of_ble_eq_true rfl⟩ (List.mem_singleton.mp hka41) rfl rfl rfl (Nat.le_of_ble_eq_true rfl) dX2_mustName_274) rfl (fun x39 σ40 => ?_)
      refine r_if_eq (q := 280) (t := 418) dX2_mustName_277 rfl (by decide) (fun _ => ?_) (fun _ => ?_)
      · exact r_le (w_X2_mustName_b418 G h0 N _ _ _) (Nat.le_refl _) (And.intro rfl (And.intro rfl trivial))
      · refine r_bipush (q := 282) (v := (7 : Int32)) dX2_mustName_280 rfl (by decide) ?_
        refine r_istore_n (q := 283) dX2_mustName_282 rfl rfl (Nat.le_of_ble_eq_true rfl) rfl ?_
        refine r_goto (q := 418) dX2_mustName_283 (by decide) ?_
        exact r_le (w_X2_mustName_b418 G h0 N _ _ _) (Nat.le_refl _) (And.intro rfl (And.intro rfl trivial))
    refine r_lswC (t := 331) (off := 306) (c0 := (99459988 : Int32)) dX2_mustName_25 (by decide) (by decide) (by decide) ?_ (fun hc12 => ?_)
    · refine r_aload_n (q := 332) dX2_mustName_331 rfl rfl rfl ?_
      refine r_ldcS (q := 334) (tx := "holds") (cd := 24) (List.mem_of_getElem? (i := 13) rfl) (by decide) dX2_mustName_332 rfl ?_
      refine r_ob (fun a44 ha44 => ?_)
      obtain ⟨hea44, hka44⟩ := o_at_eq ha44
      cases hea44
      refine r_callI (q := 337) (c_J3_equals G h0 N _ _ _) (cl_V (ci := 21) rfl rfl (lw_V q804 q805 q806 q178 q807) (hd_J3_equals) ⟨Nat.le_of_ble_eq_true rfl, Nat.le_of_ble_eq_true rfl⟩ (List.mem_singleton.mp hka44) rfl rfl rfl (Nat.le_of_ble_eq_true rfl) dX2_mustName_334) rfl (fun x42 σ43 => ?_)
      refine r_if_eq (q := 340) (t := 418) dX2_mustName_337 rfl (by decide) (fun _ => ?_) (fun _ => ?_)
      · exact r_le (w_X2_mustName_b418 G h0 N _ _ _) (Nat.le_refl _) (And.intro rfl (And.intro rfl trivial))
      · refine r_bipush (q := 342) (v := (11 : Int32)) dX2_mustName_340 rfl (by decide) ?_
        refine r_istore_n (q := 343) dX2_mustName_342 rfl rfl (Nat.le_of_ble_eq_true rfl) rfl ?_
        refine r_goto (q := 418) dX2_mustName_343 (by decide) ?_
        exact r_le (w_X2_mustName_b418 G h0 N _ _ _) (Nat.le_refl _) (And.intro rfl (And.intro rfl trivial))
    refine r_lswC (t := 186) (off := 161) (c0 := (106748167 : Int32)) dX2_mustName_25 (by decide) (by decide) (by decide) ?_ (fun hc13 => ?_)
    · refine r_aload_n (q := 187) dX2_mustName_186 rfl rfl rfl ?_
      refine r_ldcS (q := 189) (tx := "place") (cd := 4) (List.mem_of_getElem? (i := 3) rfl) (by decide) dX2_mustName_187 rfl ?_
      refine r_ob (fun a47 ha47 => ?_)
      obtain ⟨hea47, hka47⟩ := o_at_eq ha47
      cases hea47
      refine r_callI (q := 192) (c_J3_equals G h0 N _ _ _) (cl_V (ci := 21) rfl rfl (lw_V q804 q805 q806 q178 q807) (hd_J3_equals) ⟨Nat.le_of_ble_eq_true rfl, Nat.le_of_ble_eq_true rfl⟩ (List.mem_singleton.mp hka47) rfl rfl rfl (Nat.le_of_ble_eq_true rfl) dX2_mustName_189) rfl (fun x45 σ46 => ?_)
      refine r_if_eq (q := 195) (t := 418) dX2_mustName_192 rfl (by decide) (fun _ => ?_) (fun _ => ?_)
      · exact r_le (w_X2_mustName_b418 G h0 N _ _ _) (Nat.le_refl _) (And.intro rfl (And.intro rfl trivial))
      · refine r_iconst (q := 196) (v := (1 : Int32)) dX2_mustName_195 rfl (by decide) ?_
        refine r_istore_n (q := 197) dX2_mustName_196 rfl rfl (Nat.le_of_ble_eq_true rfl) rfl ?_
        refine r_goto (q := 418) dX2_mustName_197 (by decide) ?_
        exact r_le (w_X2_mustName_b418 G h0 N _ _ _) (Nat.le_refl _) (And.intro rfl (And.intro rfl trivial))
    refine r_lswC (t := 361) (off := 336) (c0 := (106940740 : Int32)) dX2_mustName_25 (by decide) (by decide) (by decide) ?_ (fun hc14 => ?_)
    · refine r_aload_n (q := 362) dX2_mustName_361 rfl rfl rfl ?_
      refine r_ldcS (q := 364) (tx := "proof") (cd := 28) (List.mem_of_getElem? (i := 15) rfl) (by decide) dX2_mustName_362 rfl ?_
      refine r_ob (fun a50 ha50 => ?_)
      obtain ⟨hea50, hka50⟩ := o_at_eq ha50
      cases hea50
      refine r_callI (q := 367) (c_J3_equals G h0 N _ _ _) (cl_V (ci := 21) rfl rfl (lw_V q804 q805 q806 q178 q807) (hd_J3_equals) ⟨Nat.le_of_ble_eq_true rfl, Nat.le_of_ble_eq_true rfl⟩ (List.mem_singleton.mp hka50) rfl rfl rfl (Nat.le_of_ble_eq_true rfl) dX2_mustName_364) rfl (fun x48 σ49 => ?_)
      refine r_if_eq (q := 370) (t := 418) dX2_mustName_367 rfl (by decide) (fun _ => ?_) (fun _ => ?_)
      · exact r_le (w_X2_mustName_b418 G h0 N _ _ _) (Nat.le_refl _) (And.intro rfl (And.intro rfl trivial))
      · refine r_bipush (q := 372) (v := (13 : Int32)) dX2_mustName_370 rfl (by decide) ?_
        refine r_istore_n (q := 373) dX2_mustName_372 rfl rfl (Nat.le_of_ble_eq_true rfl) rfl ?_
        refine r_goto (q := 418) dX2_mustName_373 (by decide) ?_
        exact r_le (w_X2_mustName_b418 G h0 N _ _ _) (Nat.le_refl _) (And.intro rfl (And.intro rfl trivial))
    refine r_lswC (t := 301) (off := 276) (c0 := (109407315 : Int32)) dX2_mustName_25 (by decide) (by decide) (by decide) ?_ (fun hc15 => ?_)
    · refine r_aload_n (q := 302) dX2_mustName_301 rfl rfl rfl ?_
      refine r_ldcS (q := 304) (tx := "shied") (cd := 20) (List.mem_of_getElem? (i := 11) rfl) (by decide) dX2_mustName_302 rfl ?_
      refine r_ob (fun a53 ha53 => ?_)
      obtain ⟨hea53, hka53⟩ := o_at_eq ha53
      cases hea53
      refine r_callI (q := 307) (c_J3_equals G h0 N _ _ _) (cl_V (ci := 21) rfl rfl (lw_V q804 q805 q806 q178 q807) (hd_J3_equals) ⟨Nat.le_of_ble_eq_true rfl, Nat.le_of_ble_eq_true rfl⟩ (List.mem_singleton.mp hka53) rfl rfl rfl (Nat.le_of_ble_eq_true rfl) dX2_mustName_304) rfl (fun x51 σ52 => ?_)
      refine r_if_eq (q := 310) (t := 418) dX2_mustName_307 rfl (by decide) (fun _ => ?_) (fun _ => ?_)
      · exact r_le (w_X2_mustName_b418 G h0 N _ _ _) (Nat.le_refl _) (And.intro rfl (And.intro rfl trivial))
      · refine r_bipush (q := 312) (v := (9 : Int32)) dX2_mustName_310 rfl (by decide) ?_
        refine r_istore_n (q := 313) dX2_mustName_312 rfl rfl (Nat.le_of_ble_eq_true rfl) rfl ?_
        refine r_goto (q := 418) dX2_mustName_313 (by decide) ?_
        exact r_le (w_X2_mustName_b418 G h0 N _ _ _) (Nat.le_refl _) (And.intro rfl (And.intro rfl trivial))
    refine r_lswC (t := 228) (off := 203) (c0 := (109770997 : Int32)) dX2_mustName_25 (by decide) (by decide) (by decide) ?_ (fun hc16 => ?_)
    · refine r_aload_n (q := 229) dX2_mustName_228 rfl rfl rfl ?_
      refine r_ldcS (q := 231) (tx := "story") (cd := 10) (List.mem_of_getElem? (i := 6) rfl) (by decide) dX2_mustName_229 rfl ?_
      refine r_ob (fun a56 ha56 => ?_)
      obtain ⟨hea56, hka56⟩ := o_at_eq ha56
      cases hea56
      refine r_callI (q := 234) (c_J3_equals G h0 N _ _ _) (cl_V (ci := 21) rfl rfl (lw_V q804 q805 q806 q178 q807) (hd_J3_equals) ⟨Nat.le_of_ble_eq_true rfl, Nat.le_of_ble_eq_true rfl⟩ (List.mem_singleton.mp hka56) rfl rfl rfl (Nat.le_of_ble_eq_true rfl) dX2_mustName_231) rfl (fun x54 σ55 => ?_)
      refine r_if_eq (q := 237) (t := 418) dX2_mustName_234 rfl (by decide) (fun _ => ?_) (fun _ => ?_)
      · exact r_le (w_X2_mustName_b418 G h0 N _ _ _) (Nat.le_refl _) (And.intro rfl (And.intro rfl trivial))
      · refine r_iconst (q := 238) (v := (4 : Int32)) dX2_mustName_237 rfl (by decide) ?_
        refine r_istore_n (q := 239) dX2_mustName_238 rfl rfl (Nat.le_of_ble_eq_true rfl) rfl ?_
        refine r_goto (q := 418) dX2_mustName_239 (by decide) ?_
        exact r_le (w_X2_mustName_b418 G h0 N _ _ _) (Nat.le_refl _) (And.intro rfl (And.intro rfl trivial))
    refine r_lswD (t := 418) dX2_mustName_25 (by decide) ((lv_osw hc0 (by decide)).trans ((lv_osw hc1 (by decide)).trans ((lv_osw hc2 (by decide)).trans ((lv_osw hc3 (by decide)).trans ((lv_osw hc4 (by decide)).trans ((lv_osw hc5 (by decide)).trans ((lv_osw hc6 (by decide)).trans ((lv_osw hc7 (by decide)).trans ((lv_osw hc8 (by decide)).trans ((lv_osw hc9 (by decide)).trans ((lv_osw hc10 (by decide)).trans ((lv_osw hc11 (by decide)).trans ((lv_osw hc12 (by decide)).trans ((lv_osw hc13 (by decide)).trans ((lv_osw hc14 (by decide)).trans ((lv_osw hc15 (by decide)).trans ((lv_osw hc16 (by decide)).trans rfl))))))))))))))))) (by decide) ?_
    · exact r_le (w_X2_mustName_b418 G h0 N _ _ _) (Nat.le_refl _) (And.intro rfl (And.intro rfl trivial))
  · refine r_aload_n (q := 9) dX2_mustName_8 rfl rfl rfl ?_
    refine r_iconst (q := 10) (v := (1 : Int32)) dX2_mustName_9 rfl (by decide) ?_
    refine r_ob (fun a59 ha59 => ?_)
    obtain ⟨hea59, hka59⟩ := o_at_eq ha59
    cases hea59
    refine r_callR (q := 13) (c_X2_fail G h0 N _ _ _) (cl_V (ci := 1) rfl rfl (lw_V q742 q744 qs7 q168 q745) (hd_X2_fail) ⟨Nat.le_of_ble_eq_true rfl, Nat.le_of_ble_eq_true rfl⟩ (List.mem_singleton.mp hka59) rfl rfl rfl (Nat.le_of_ble_eq_true rfl) dX2_mustName_10) rfl (fun x57 σ58 => ?_)
    exact r_athrow (ci := 2) (r0 := (RX3, TX3, 8)) rfl rfl dX2_mustName_13
theorem w_X8_among_b2B (G : Gx) (h0 : G0 G) (N : Nat)   (K2 : Option Nat → Int32 → Option Nat → Int32 → Mem → Option ((Option Nat) × Mem)) (hK2 : ∀ (l0 : Option Nat) (l1 : Int32) (l2 : Option Nat) (l3 : Int32) (σ : Mem), Runs G mX8_among rhoR σ 2 [some (vR l0), some (vI l1), some (vR l2), some (vI l3)] [] (K2 l0 l1 l2 l3 σ)) (l0 : Option Nat) (l1 : Int32) (l2 : Option Nat) (l3 : Int32) (σ : Mem) : Runs G mX8_among rhoR σ 2 [some (vR l0), some (vI l1), some (vR l2), some (vI l3)] [] (f_X8_among_b2B N  K2 l0 l1 l2 l3 σ) := by
  unfold f_X8_among_b2B
  refine r_iload_n (q := 3) dX8_among_2 rfl rfl rfl ?_
  refine r_iload_n (q := 4) dX8_among_3 rfl rfl rfl ?_
  refine r_icmp_ge (q := 7) (t := 30) dX8_among_4 rfl (by decide) (fun _ => ?_) (fun _ => ?_)
  · refine r_null (q := 31) dX8_among_30 rfl ?_
    exact r_areturn rfl (Or.inl ⟨_, rfl⟩) dX8_among_31
  · refine r_aload_n (q := 8) dX8_among_7 rfl rfl rfl ?_
    refine r_iload_n (q := 9) dX8_among_8 rfl rfl rfl ?_
    refine r_aaloadM (q := 10) (ks := [6, 7, 8, 10, 12]) (by decide) dX8_among_9 rfl (fun x1 => ?_)
    refine r_gR (q := 13) fl_X8_66 rfl dX8_among_10 rfl (fun x2 => ?_)
    refine r_aload_n (q := 14) dX8_among_13 rfl rfl rfl ?_
    refine r_ob (fun a5 ha5 => ?_)
    obtain ⟨hea5, hka5⟩ := o_at_eq ha5
    cases hea5
    refine r_callI (q := 17) (c_J3_equals G h0 N _ _ _) (cl_V (ci := 21) rfl rfl (lw_V q875 q805 q806 q178 q807) (hd_J3_equals) ⟨Nat.le_of_ble_eq_true rfl, Nat.le_of_ble_eq_true rfl⟩ (List.mem_singleton.mp hka5) rfl rfl rfl (Nat.le_of_ble_eq_true rfl) dX8_among_14) rfl (fun x3 σ4 => ?_)
    refine r_if_eq (q := 20) (t := 24) dX8_among_17 rfl (by decide) (fun _ => ?_) (fun _ => ?_)
    · refine r_iinc (q := 27) (v := (1 : Int32)) dX8_among_24 rfl rfl (by decide) (Nat.le_of_ble_eq_true rfl) rfl ?_
      refine r_goto (q := 2) dX8_among_27 (by decide) ?_
      exact r_le (hK2 _ _ _ _ _) (Nat.le_refl _) (And.intro rfl (And.intro rfl (And.intro rfl (And.intro rfl trivial))))
    · refine r_aload_n (q := 21) dX8_among_20 rfl rfl rfl ?_
      refine r_iload_n (q := 22) dX8_among_21 rfl rfl rfl ?_
      refine r_aaloadM (q := 23) (ks := [6, 7, 8, 10, 12]) (by decide) dX8_among_22 rfl (fun x6 => ?_)
      exact r_areturn rfl (Or.inl ⟨_, rfl⟩) dX8_among_23
theorem w_X8_among_b2 (G : Gx) (h0 : G0 G) (N : Nat)   : ∀ (z : Nat) (l0 : Option Nat) (l1 : Int32) (l2 : Option Nat) (l3 : Int32) (σ : Mem), Runs G mX8_among rhoR σ 2 [some (vR l0), some (vI l1), some (vR l2), some (vI l3)] [] (f_X8_among_b2 N  z l0 l1 l2 l3 σ) := by
  intro z
  induction z with
  | zero => exact fun _ _ _ _ _ => r_none
  | succ z ih => exact fun l0 l1 l2 l3 σ => w_X8_among_b2B G h0 N   _ ih l0 l1 l2 l3 σ
theorem c_X8_among (G : Gx) (h0 : G0 G) (N : Nat) (o0 : Option Nat) (i1 : Int32) (o2 : Option Nat) (σ : Mem) : Ct G mX8_among rhoR [vR o0, vI i1, vR o2] σ (f_X8_among N o0 i1 o2 σ) := by
  refine Ct_of h0 (by decide) rfl (Nat.le_of_ble_eq_true rfl) (L0 := [some (vR o0), some (vI i1), some (vR o2), none]) rfl ?_
  unfold f_X8_among
  refine r_iconst (q := 1) (v := (0 : Int32)) dX8_among_0 rfl (by decide) ?_
  refine r_istore_n (q := 2) dX8_among_1 rfl rfl (Nat.le_of_ble_eq_true rfl) rfl ?_
  exact r_le (w_X8_among_b2 G h0 N N _ _ _ _ _) (Nat.le_refl _) (And.intro rfl (And.intro rfl (And.intro rfl (And.intro rfl trivial))))
theorem w_X8_find_b64 (G : Gx) (h0 : G0 G) (N : Nat)   (a0 : Nat) (l1 : Option Nat) (l2 : Option Nat) (σ : Mem) : Runs G mX8_find rhoR σ 64 [some (vR (some a0)), some (vR l1), some (vR l2)] [] (f_X8_find_b64 N  a0 l1 l2 σ) := by
  unfold f_X8_find_b64
  refine r_aload_n (q := 65) dX8_find_64 rfl rfl rfl ?_
  refine r_ifnonnull (q := 68) (t := 83) dX8_find_65 rfl (by decide) (fun _ => ?_) (fun _ => ?_)
  · refine r_aload_n (q := 69) dX8_find_68 rfl rfl rfl ?_
    refine r_gR (q := 72) fl_X8_62 rfl dX8_find_69 rfl (fun x1 => ?_)
    refine r_aload_n (q := 73) dX8_find_72 rfl rfl rfl ?_
    refine r_gI (q := 76) fl_X8_95 dX8_find_73 rfl (fun x2 => ?_)
    refine r_aload_n (q := 77) dX8_find_76 rfl rfl rfl ?_
    refine r_callR (q := 80) (c_X8_among G h0 N _ _ _ _) (cl_S rfl rfl (lw_S q872 q873 q177 q874) (hd_X8_among) ⟨Nat.le_of_ble_eq_true rfl, Nat.le_of_ble_eq_true rfl⟩ rfl (Nat.le_of_ble_eq_true rfl) dX8_find_77) rfl (fun x3 σ4 => ?_)
    refine r_goto (q := 84) dX8_find_80 (by decide) ?_
    exact r_areturn rfl (Or.inl ⟨_, rfl⟩) dX8_find_84
  · refine r_aload_n (q := 84) dX8_find_83 rfl rfl rfl ?_
    exact r_areturn rfl (Or.inl ⟨_, rfl⟩) dX8_find_84
theorem w_X8_find_b47 (G : Gx) (h0 : G0 G) (N : Nat)   (a0 : Nat) (l1 : Option Nat) (l2 : Option Nat) (σ : Mem) : Runs G mX8_find rhoR σ 47 [some (vR (some a0)), some (vR l1), some (vR l2)] [] (f_X8_find_b47 N  a0 l1 l2 σ) := by
  unfold f_X8_find_b47
  refine r_aload_n (q := 48) dX8_find_47 rfl rfl rfl ?_
  refine r_ifnonnull (q := 51) (t := 64) dX8_find_48 rfl (by decide) (fun _ => ?_) (fun _ => ?_)
  · refine r_aload_n (q := 52) dX8_find_51 rfl rfl rfl ?_
    refine r_gR (q := 55) fl_X8_50 rfl dX8_find_52 rfl (fun x1 => ?_)
    refine r_aload_n (q := 56) dX8_find_55 rfl rfl rfl ?_
    refine r_gI (q := 59) fl_X8_92 dX8_find_56 rfl (fun x2 => ?_)
    refine r_aload_n (q := 60) dX8_find_59 rfl rfl rfl ?_
    refine r_callR (q := 63) (c_X8_among G h0 N _ _ _ _) (cl_S rfl rfl (lw_S q872 q873 q177 q874) (hd_X8_among) ⟨Nat.le_of_ble_eq_true rfl, Nat.le_of_ble_eq_true rfl⟩ rfl (Nat.le_of_ble_eq_true rfl) dX8_find_60) rfl (fun x3 σ4 => ?_)
    refine r_astore_n (q := 64) dX8_find_63 rfl rfl (Nat.le_of_ble_eq_true rfl) rfl ?_
    exact r_le (w_X8_find_b64 G h0 N _ _ _ _) (Nat.le_refl _) (And.intro rfl (And.intro rfl (And.intro rfl trivial)))
  · exact r_le (w_X8_find_b64 G h0 N _ _ _ _) (Nat.le_refl _) (And.intro rfl (And.intro rfl (And.intro rfl trivial)))
theorem w_X8_find_b30 (G : Gx) (h0 : G0 G) (N : Nat)   (a0 : Nat) (l1 : Option Nat) (l2 : Option Nat) (σ : Mem) : Runs G mX8_find rhoR σ 30 [some (vR (some a0)), some (vR l1), some (vR l2)] [] (f_X8_find_b30 N  a0 l1 l2 σ) := by
  unfold f_X8_find_b30
  refine r_aload_n (q := 31) dX8_find_30 rfl rfl rfl ?_
  refine r_ifnonnull (q := 34) (t := 47) dX8_find_31 rfl (by decide) (fun _ => ?_) (fun _ => ?_)
  · refine r_aload_n (q := 35) dX8_find_34 rfl rfl rfl ?_
    refine r_gR (q := 38) fl_X8_38 rfl dX8_find_35 rfl (fun x1 => ?_)
    refine r_aload_n (q := 39) dX8_find_38 rfl rfl rfl ?_
    refine r_gI (q := 42) fl_X8_89 dX8_find_39 rfl (fun x2 => ?_)
    refine r_aload_n (q := 43) dX8_find_42 rfl rfl rfl ?_
    refine r_callR (q := 46) (c_X8_among G h0 N _ _ _ _) (cl_S rfl rfl (lw_S q872 q873 q177 q874) (hd_X8_among) ⟨Nat.le_of_ble_eq_true rfl, Nat.le_of_ble_eq_true rfl⟩ rfl (Nat.le_of_ble_eq_true rfl) dX8_find_43) rfl (fun x3 σ4 => ?_)
    refine r_astore_n (q := 47) dX8_find_46 rfl rfl (Nat.le_of_ble_eq_true rfl) rfl ?_
    exact r_le (w_X8_find_b47 G h0 N _ _ _ _) (Nat.le_refl _) (And.intro rfl (And.intro rfl (And.intro rfl trivial)))
  · exact r_le (w_X8_find_b47 G h0 N _ _ _ _) (Nat.le_refl _) (And.intro rfl (And.intro rfl (And.intro rfl trivial)))
theorem c_X8_find (G : Gx) (h0 : G0 G) (N : Nat) (a0 : Nat) (o1 : Option Nat) (σ : Mem) : Ct G mX8_find rhoR [vR (some a0), vR o1] σ (f_X8_find N a0 o1 σ) := by
  refine Ct_of h0 (by decide) rfl (Nat.le_of_ble_eq_true rfl) (L0 := [some (vR (some a0)), some (vR o1), none]) rfl ?_
  unfold f_X8_find
  refine r_aload_n (q := 1) dX8_find_0 rfl rfl rfl ?_
  refine r_gR (q := 4) fl_X8_11 rfl dX8_find_1 rfl (fun x1 => ?_)
  refine r_aload_n (q := 5) dX8_find_4 rfl rfl rfl ?_
  refine r_gI (q := 8) fl_X8_78 dX8_find_5 rfl (fun x2 => ?_)
  refine r_aload_n (q := 9) dX8_find_8 rfl rfl rfl ?_
  refine r_callR (q := 12) (c_X8_among G h0 N _ _ _ _) (cl_S rfl rfl (lw_S q872 q873 q177 q874) (hd_X8_among) ⟨Nat.le_of_ble_eq_true rfl, Nat.le_of_ble_eq_true rfl⟩ rfl (Nat.le_of_ble_eq_true rfl) dX8_find_9) rfl (fun x3 σ4 => ?_)
  refine r_astore_n (q := 13) dX8_find_12 rfl rfl (Nat.le_of_ble_eq_true rfl) rfl ?_
  refine r_aload_n (q := 14) dX8_find_13 rfl rfl rfl ?_
  refine r_ifnonnull (q := 17) (t := 30) dX8_find_14 rfl (by decide) (fun _ => ?_) (fun _ => ?_)
  · refine r_aload_n (q := 18) dX8_find_17 rfl rfl rfl ?_
    refine r_gR (q := 21) fl_X8_32 rfl dX8_find_18 rfl (fun x5 => ?_)
    refine r_aload_n (q := 22) dX8_find_21 rfl rfl rfl ?_
    refine r_gI (q := 25) fl_X8_86 dX8_find_22 rfl (fun x6 => ?_)
    refine r_aload_n (q := 26) dX8_find_25 rfl rfl rfl ?_
    refine r_callR (q := 29) (c_X8_among G h0 N _ _ _ _) (cl_S rfl rfl (lw_S q872 q873 q177 q874) (hd_X8_among) ⟨Nat.le_of_ble_eq_true rfl, Nat.le_of_ble_eq_true rfl⟩ rfl (Nat.le_of_ble_eq_true rfl) dX8_find_26) rfl (fun x7 σ8 => ?_)
    refine r_astore_n (q := 30) dX8_find_29 rfl rfl (Nat.le_of_ble_eq_true rfl) rfl ?_
    exact r_le (w_X8_find_b30 G h0 N _ _ _ _) (Nat.le_refl _) (And.intro rfl (And.intro rfl (And.intro rfl trivial)))
  · exact r_le (w_X8_find_b30 G h0 N _ _ _ _) (Nat.le_refl _) (And.intro rfl (And.intro rfl (And.intro rfl trivial)))
theorem c_X2_newName (G : Gx) (h0 : G0 G) (N : Nat) (a0 : Nat) (σ : Mem) : Ct G mX2_newName (rhoX rhoR) [vR (some a0)] σ (f_X2_newName N a0 σ) := by
  refine Ct_of h0 (by decide) rfl (Nat.le_of_ble_eq_true rfl) (L0 := [some (vR (some a0)), none]) rfl ?_
  unfold f_X2_newName
  refine r_aload_n (q := 1) dX2_newName_0 rfl rfl rfl ?_
  refine r_ob (fun a3 ha3 => ?_)
  obtain ⟨hea3, hka3⟩ := o_at_eq ha3
  cases hea3
  refine r_callXV (q := 4) (c_X2_mustName G h0 N _ _) (cl_V (ci := 1) rfl rfl (lw_V q863 q865 qs16 q168 q866) (hd_X2_mustName) ⟨Nat.le_of_ble_eq_true rfl, Nat.le_of_ble_eq_true rfl⟩ (List.mem_singleton.mp hka3) rfl rfl rfl (Nat.le_of_ble_eq_true rfl) dX2_newName_1) rfl rfl (fun u1 σ2 => ?_)
  refine r_aload_n (q := 5) dX2_newName_4 rfl rfl rfl ?_
  refine r_gR (q := 8) fl_X2_127 rfl dX2_newName_5 rfl (fun x4 => ?_)
  refine r_aload_n (q := 9) dX2_newName_8 rfl rfl rfl ?_
  refine r_gR (q := 12) fl_X2_61 rfl dX2_newName_9 rfl (fun x5 => ?_)
  refine r_ob (fun a8 ha8 => ?_)
  obtain ⟨hea8, hka8⟩ := o_at_eq ha8
  cases hea8
  refine r_callR (q := 15) (c_X8_find G h0 N _ _ _) (cl_V (ci := 7) rfl rfl (lw_V q868 q869 q870 q177 q871) (hd_X8_find) ⟨Nat.le_of_ble_eq_true rfl, Nat.le_of_ble_eq_true rfl⟩ (List.mem_singleton.mp hka8) rfl rfl rfl (Nat.le_of_ble_eq_true rfl) dX2_newName_12) rfl (fun x6 σ7 => ?_)
  refine r_ifnull (q := 18) (t := 24) dX2_newName_15 rfl (by decide) (fun _ => ?_) (fun _ => ?_)
  · refine r_aload_n (q := 25) dX2_newName_24 rfl rfl rfl ?_
    refine r_gR (q := 28) fl_X2_61 rfl dX2_newName_25 rfl (fun x9 => ?_)
    refine r_astore_n (q := 29) dX2_newName_28 rfl rfl (Nat.le_of_ble_eq_true rfl) rfl ?_
    refine r_aload_n (q := 30) dX2_newName_29 rfl rfl rfl ?_
    refine r_ob (fun a12 ha12 => ?_)
    obtain ⟨hea12, hka12⟩ := o_at_eq ha12
    cases hea12
    refine r_callV (q := 33) (c_X2_next G h0 N _ _) (cl_V (ci := 1) rfl rfl (lw_V q644 q646 qs4 q168 q647) (hd_X2_next) ⟨Nat.le_of_ble_eq_true rfl, Nat.le_of_ble_eq_true rfl⟩ (List.mem_singleton.mp hka12) rfl rfl rfl (Nat.le_of_ble_eq_true rfl) dX2_newName_30) rfl (fun u10 σ11 => ?_)
    refine r_aload_n (q := 34) dX2_newName_33 rfl rfl rfl ?_
    exact r_areturnX rfl (Or.inl ⟨_, rfl⟩) dX2_newName_34
  · refine r_aload_n (q := 19) dX2_newName_18 rfl rfl rfl ?_
    refine r_iconst (q := 20) (v := (3 : Int32)) dX2_newName_19 rfl (by decide) ?_
    refine r_ob (fun a15 ha15 => ?_)
    obtain ⟨hea15, hka15⟩ := o_at_eq ha15
    cases hea15
    refine r_callR (q := 23) (c_X2_fail G h0 N _ _ _) (cl_V (ci := 1) rfl rfl (lw_V q742 q744 qs7 q168 q745) (hd_X2_fail) ⟨Nat.le_of_ble_eq_true rfl, Nat.le_of_ble_eq_true rfl⟩ (List.mem_singleton.mp hka15) rfl rfl rfl (Nat.le_of_ble_eq_true rfl) dX2_newName_20) rfl (fun x13 σ14 => ?_)
    exact r_athrow (ci := 2) (r0 := (RX3, TX3, 8)) rfl rfl dX2_newName_23
theorem c_X9_init (G : Gx) (h0 : G0 G) (N : Nat) (a0 : Nat) (o1 : Option Nat) (i2 : Int32) (σ : Mem) : Ct G mX9_init rhoV [vR (some a0), vR o1, vI i2] σ (f_X9_init N a0 o1 i2 σ) := by
  refine Ct_of h0 (by decide) rfl (Nat.le_of_ble_eq_true rfl) (L0 := [some (vR (some a0)), some (vR o1), some (vI i2)]) rfl ?_
  unfold f_X9_init
  refine r_aload_n (q := 1) dX9_init_0 rfl rfl rfl ?_
  refine r_objInit (q := 4) q882 q208 q209 (by decide) (by decide) dX9_init_1 rfl ?_
  refine r_aload_n (q := 5) dX9_init_4 rfl rfl rfl ?_
  refine r_aload_n (q := 6) dX9_init_5 rfl rfl rfl ?_
  refine r_pR (q := 9) fp_X9_init_7 rfl dX9_init_6 rfl (fun σ1 => ?_)
  refine r_aload_n (q := 10) dX9_init_9 rfl rfl rfl ?_
  refine r_iload_n (q := 11) dX9_init_10 rfl rfl rfl ?_
  refine r_pI (q := 14) fp_X9_init_13 dX9_init_11 rfl (fun σ2 => ?_)
  exact r_return rfl dX9_init_14
theorem c_X10_init (G : Gx) (h0 : G0 G) (N : Nat) (a0 : Nat) (o1 : Option Nat) (i2 : Int32) (σ : Mem) : Ct G mX10_init rhoV [vR (some a0), vR o1, vI i2] σ (f_X10_init N a0 o1 i2 σ) := by
  refine Ct_of h0 (by decide) rfl (Nat.le_of_ble_eq_true rfl) (L0 := [some (vR (some a0)), some (vR o1), some (vI i2)]) rfl ?_
  unfold f_X10_init
  refine r_aload_n (q := 1) dX10_init_0 rfl rfl rfl ?_
  refine r_aload_n (q := 2) dX10_init_1 rfl rfl rfl ?_
  refine r_iload_n (q := 3) dX10_init_2 rfl rfl rfl ?_
  refine r_callV (q := 6) (c_X9_init G h0 N _ _ _ _) (cl_I rfl rfl rfl rfl q879 q880 q183 q881 (hd_X9_init) ⟨Nat.le_of_ble_eq_true rfl, Nat.le_of_ble_eq_true rfl⟩ rfl (Nat.le_of_ble_eq_true rfl) dX10_init_3) rfl (fun u1 σ2 => ?_)
  refine r_aload_n (q := 7) dX10_init_6 rfl rfl rfl ?_
  refine r_iconst (q := 8) (v := (4 : Int32)) dX10_init_7 rfl (by decide) ?_
  refine r_newarray (q := 10) (k0 := 1) (by decide) rfl q344 dX10_init_8 rfl (fun a3 σ4 => ?_)
  refine r_pR (q := 13) fp_X10_init_9 rfl dX10_init_10 rfl (fun σ5 => ?_)
  exact r_return rfl dX10_init_13
theorem c_X2_comma (G : Gx) (h0 : G0 G) (N : Nat) (a0 : Nat) (σ : Mem) : Ct G mX2_comma rhoI [vR (some a0)] σ (f_X2_comma N a0 σ) := by
  refine Ct_of h0 (by decide) rfl (Nat.le_of_ble_eq_true rfl) (L0 := [some (vR (some a0))]) rfl ?_
  unfold f_X2_comma
  refine r_aload_n (q := 1) dX2_comma_0 rfl rfl rfl ?_
  refine r_gI (q := 4) fl_X2_47 dX2_comma_1 rfl (fun x1 => ?_)
  refine r_bipush (q := 6) (v := (44 : Int32)) dX2_comma_4 rfl (by decide) ?_
  refine r_icmp_eq (q := 9) (t := 11) dX2_comma_6 rfl (by decide) (fun _ => ?_) (fun _ => ?_)
  · refine r_aload_n (q := 12) dX2_comma_11 rfl rfl rfl ?_
    refine r_ob (fun a4 ha4 => ?_)
    obtain ⟨hea4, hka4⟩ := o_at_eq ha4
    cases hea4
    refine r_callV (q := 15) (c_X2_next G h0 N _ _) (cl_V (ci := 1) rfl rfl (lw_V q644 q646 qs4 q168 q647) (hd_X2_next) ⟨Nat.le_of_ble_eq_true rfl, Nat.le_of_ble_eq_true rfl⟩ (List.mem_singleton.mp hka4) rfl rfl rfl (Nat.le_of_ble_eq_true rfl) dX2_comma_12) rfl (fun u2 σ3 => ?_)
    refine r_iconst (q := 16) (v := (1 : Int32)) dX2_comma_15 rfl (by decide) ?_
    exact r_ireturnN rfl dX2_comma_16
  · refine r_iconst (q := 10) (v := (0 : Int32)) dX2_comma_9 rfl (by decide) ?_
    exact r_ireturnN rfl dX2_comma_10
theorem w_X2_numbers_b30 (G : Gx) (h0 : G0 G) (N : Nat) (K2 : Nat → Option Nat → Int32 → Int32 → Mem → Option ((Unit ⊕ Ex) × Mem)) (hK2 : ∀ (a0 : Nat) (l1 : Option Nat) (l2 : Int32) (l3 : Int32) (σ : Mem), Runs G mX2_numbers (rhoX rhoV) σ 2 [some (vR (some a0)), some (vR l1), some (vI l2), some (vI l3)] [] (K2 a0 l1 l2 l3 σ)) (a0 : Nat) (l1 : Option Nat) (l2 : Int32) (l3 : Int32) (σ : Mem) : Runs G mX2_numbers (rhoX rhoV) σ 30 [some (vR (some a0)), some (vR l1), some (vI l2), some (vI l3)] [] (f_X2_numbers_b30 N K2 a0 l1 l2 l3 σ) := by
  unfold f_X2_numbers_b30
  refine r_aload_n (q := 31) dX2_numbers_30 rfl rfl rfl ?_
  refine r_iload_n (q := 32) dX2_numbers_31 rfl rfl rfl ?_
  refine r_aload_n (q := 33) dX2_numbers_32 rfl rfl rfl ?_
  refine r_iconst (q := 34) (v := (0 : Int32)) dX2_numbers_33 rfl (by decide) ?_
  refine r_iload_n (q := 35) dX2_numbers_34 rfl rfl rfl ?_
  refine r_ob (fun a3 ha3 => ?_)
  obtain ⟨hea3, hka3⟩ := o_at_eq ha3
  cases hea3
  refine r_callXI (q := 38) (c_X2_number G h0 N _ _ _ _) (cl_V (ci := 1) rfl rfl (lw_V q844 q846 qs12 q168 q847) (hd_X2_number) ⟨Nat.le_of_ble_eq_true rfl, Nat.le_of_ble_eq_true rfl⟩ (List.mem_singleton.mp hka3) rfl rfl rfl (Nat.le_of_ble_eq_true rfl) dX2_numbers_35) rfl rfl (fun x1 σ2 => ?_)
  refine r_iastore (q := 39) dX2_numbers_38 rfl (fun σ4 => ?_)
  refine r_iinc (q := 42) (v := (1 : Int32)) dX2_numbers_39 rfl rfl (by decide) (Nat.le_of_ble_eq_true rfl) rfl ?_
  refine r_goto (q := 2) dX2_numbers_42 (by decide) ?_
  exact r_le (hK2 _ _ _ _ _) (Nat.le_refl _) (And.intro rfl (And.intro rfl (And.intro rfl (And.intro rfl trivial))))
theorem w_X2_numbers_b2B (G : Gx) (h0 : G0 G) (N : Nat)   (K2 : Nat → Option Nat → Int32 → Int32 → Mem → Option ((Unit ⊕ Ex) × Mem)) (hK2 : ∀ (a0 : Nat) (l1 : Option Nat) (l2 : Int32) (l3 : Int32) (σ : Mem), Runs G mX2_numbers (rhoX rhoV) σ 2 [some (vR (some a0)), some (vR l1), some (vI l2), some (vI l3)] [] (K2 a0 l1 l2 l3 σ)) (a0 : Nat) (l1 : Option Nat) (l2 : Int32) (l3 : Int32) (σ : Mem) : Runs G mX2_numbers (rhoX rhoV) σ 2 [some (vR (some a0)), some (vR l1), some (vI l2), some (vI l3)] [] (f_X2_numbers_b2B N  K2 a0 l1 l2 l3 σ) := by
  unfold f_X2_numbers_b2B
  refine r_iload_n (q := 3) dX2_numbers_2 rfl rfl rfl ?_
  refine r_aload_n (q := 4) dX2_numbers_3 rfl rfl rfl ?_
  refine r_gR (q := 7) fl_X2_127 rfl dX2_numbers_4 rfl (fun x1 => ?_)
  refine r_gI (q := 10) fl_X2_166 dX2_numbers_7 rfl (fun x2 => ?_)
  refine r_icmp_ge (q := 13) (t := 45) dX2_numbers_10 rfl (by decide) (fun _ => ?_) (fun _ => ?_)
  · exact r_returnX rfl dX2_numbers_45
  · refine r_iload_n (q := 14) dX2_numbers_13 rfl rfl rfl ?_
    refine r_if_le (q := 17) (t := 30) dX2_numbers_14 rfl (by decide) (fun _ => ?_) (fun _ => ?_)
    · exact r_le (w_X2_numbers_b30 G h0 N K2 hK2 _ _ _ _ _) (Nat.le_refl _) (And.intro rfl (And.intro rfl (And.intro rfl (And.intro rfl trivial))))
    · refine r_aload_n (q := 18) dX2_numbers_17 rfl rfl rfl ?_
      refine r_ob (fun a5 ha5 => ?_)
      obtain ⟨hea5, hka5⟩ := o_at_eq ha5
      cases hea5
      refine r_callI (q := 21) (c_X2_comma G h0 N _ _) (cl_V (ci := 1) rfl rfl (lw_V q915 q917 qs18 q168 q918) (hd_X2_comma) ⟨Nat.le_of_ble_eq_true rfl, Nat.le_of_ble_eq_true rfl⟩ (List.mem_singleton.mp hka5) rfl rfl rfl (Nat.le_of_ble_eq_true rfl) dX2_numbers_18) rfl (fun x3 σ4 => ?_)
      refine r_if_ne (q := 24) (t := 30) dX2_numbers_21 rfl (by decide) (fun _ => ?_) (fun _ => ?_)
      · refine r_aload_n (q := 25) dX2_numbers_24 rfl rfl rfl ?_
        refine r_iconst (q := 26) (v := (1 : Int32)) dX2_numbers_25 rfl (by decide) ?_
        refine r_ob (fun a8 ha8 => ?_)
        obtain ⟨hea8, hka8⟩ := o_at_eq ha8
        cases hea8
        refine r_callR (q := 29) (c_X2_fail G h0 N _ _ _) (cl_V (ci := 1) rfl rfl (lw_V q742 q744 qs7 q168 q745) (hd_X2_fail) ⟨Nat.le_of_ble_eq_true rfl, Nat.le_of_ble_eq_true rfl⟩ (List.mem_singleton.mp hka8) rfl rfl rfl (Nat.le_of_ble_eq_true rfl) dX2_numbers_26) rfl (fun x6 σ7 => ?_)
        exact r_athrow (ci := 2) (r0 := (RX3, TX3, 8)) rfl rfl dX2_numbers_29
      · exact r_le (w_X2_numbers_b30 G h0 N K2 hK2 _ _ _ _ _) (Nat.le_refl _) (And.intro rfl (And.intro rfl (And.intro rfl (And.intro rfl trivial))))
theorem w_X2_numbers_b2 (G : Gx) (h0 : G0 G) (N : Nat)   : ∀ (z : Nat) (a0 : Nat) (l1 : Option Nat) (l2 : Int32) (l3 : Int32) (σ : Mem), Runs G mX2_numbers (rhoX rhoV) σ 2 [some (vR (some a0)), some (vR l1), some (vI l2), some (vI l3)] [] (f_X2_numbers_b2 N  z a0 l1 l2 l3 σ) := by
  intro z
  induction z with
  | zero => exact fun _ _ _ _ _ => r_none
  | succ z ih => exact fun a0 l1 l2 l3 σ => w_X2_numbers_b2B G h0 N   _ ih a0 l1 l2 l3 σ
theorem c_X2_numbers (G : Gx) (h0 : G0 G) (N : Nat) (a0 : Nat) (o1 : Option Nat) (i2 : Int32) (σ : Mem) : Ct G mX2_numbers (rhoX rhoV) [vR (some a0), vR o1, vI i2] σ (f_X2_numbers N a0 o1 i2 σ) := by
  refine Ct_of h0 (by decide) rfl (Nat.le_of_ble_eq_true rfl) (L0 := [some (vR (some a0)), some (vR o1), some (vI i2), none]) rfl ?_
  unfold f_X2_numbers
  refine r_iconst (q := 1) (v := (0 : Int32)) dX2_numbers_0 rfl (by decide) ?_
  refine r_istore_n (q := 2) dX2_numbers_1 rfl rfl (Nat.le_of_ble_eq_true rfl) rfl ?_
  exact r_le (w_X2_numbers_b2 G h0 N N _ _ _ _ _) (Nat.le_refl _) (And.intro rfl (And.intro rfl (And.intro rfl (And.intro rfl trivial))))
theorem w_X2_placeLine_b18 (G : Gx) (h0 : G0 G) (N : Nat)   (a0 : Nat) (t0 : Option Nat) (t1 : Int32) (σ : Mem) : Runs G mX2_placeLine (rhoX rhoV) σ 18 [some (vR (some a0)), none] [vI t1, vR t0] (f_X2_placeLine_b18 N  a0 t0 t1 σ) := by
  unfold f_X2_placeLine_b18
  refine r_ob (fun a3 ha3 => ?_)
  obtain ⟨hea3, hka3⟩ := o_at_eq ha3
  cases hea3
  refine r_callXV (q := 21) (c_X2_begins G h0 N _ _ _) (cl_V (ci := 1) rfl rfl (lw_V q853 q855 qs14 q168 q856) (hd_X2_begins) ⟨Nat.le_of_ble_eq_true rfl, Nat.le_of_ble_eq_true rfl⟩ (List.mem_singleton.mp hka3) rfl rfl rfl (Nat.le_of_ble_eq_true rfl) dX2_placeLine_18) rfl rfl (fun u1 σ2 => ?_)
  refine r_new (q := 24) (ci := 8) rfl rfl q857 q858 q184 dX2_placeLine_21 rfl (fun a4 σ5 => ?_)
  refine r_dup (q := 25) dX2_placeLine_24 rfl rfl ?_
  refine r_aload_n (q := 26) dX2_placeLine_25 rfl rfl rfl ?_
  refine r_ob (fun a8 ha8 => ?_)
  obtain ⟨hea8, hka8⟩ := o_at_eq ha8
  cases hea8
  refine r_callXR (q := 29) (c_X2_newName G h0 N _ _) (cl_V (ci := 1) rfl rfl (lw_V q859 q861 qs15 q168 q862) (hd_X2_newName) ⟨Nat.le_of_ble_eq_true rfl, Nat.le_of_ble_eq_true rfl⟩ (List.mem_singleton.mp hka8) rfl rfl rfl (Nat.le_of_ble_eq_true rfl) dX2_placeLine_26) rfl rfl (fun x6 σ7 => ?_)
  refine r_aload_n (q := 30) dX2_placeLine_29 rfl rfl rfl ?_
  refine r_gR (q := 33) fl_X2_127 rfl dX2_placeLine_30 rfl (fun x9 => ?_)
  refine r_gI (q := 36) fl_X2_184 dX2_placeLine_33 rfl (fun x10 => ?_)
  refine r_callV (q := 39) (c_X10_init G h0 N _ _ _ _) (cl_I rfl rfl rfl rfl q876 q877 q184 q878 (hd_X10_init) ⟨Nat.le_of_ble_eq_true rfl, Nat.le_of_ble_eq_true rfl⟩ rfl (Nat.le_of_ble_eq_true rfl) dX2_placeLine_36) rfl (fun u11 σ12 => ?_)
  refine r_astore_n (q := 40) dX2_placeLine_39 rfl rfl (Nat.le_of_ble_eq_true rfl) rfl ?_
  refine r_aload_n (q := 41) dX2_placeLine_40 rfl rfl rfl ?_
  refine r_aload_n (q := 42) dX2_placeLine_41 rfl rfl rfl ?_
  refine r_gR (q := 45) fl_X2_237 rfl dX2_placeLine_42 rfl (fun x13 => ?_)
  refine r_bipush (q := 47) (v := (9 : Int32)) dX2_placeLine_45 rfl (by decide) ?_
  refine r_ob (fun a16 ha16 => ?_)
  obtain ⟨hea16, hka16⟩ := o_at_eq ha16
  cases hea16
  refine r_callXV (q := 50) (c_X2_numbers G h0 N _ _ _ _) (cl_V (ci := 1) rfl rfl (lw_V q911 q913 qs17 q168 q914) (hd_X2_numbers) ⟨Nat.le_of_ble_eq_true rfl, Nat.le_of_ble_eq_true rfl⟩ (List.mem_singleton.mp hka16) rfl rfl rfl (Nat.le_of_ble_eq_true rfl) dX2_placeLine_47) rfl rfl (fun u14 σ15 => ?_)
  refine r_aload_n (q := 51) dX2_placeLine_50 rfl rfl rfl ?_
  refine r_gR (q := 54) fl_X2_127 rfl dX2_placeLine_51 rfl (fun x17 => ?_)
  refine r_gR (q := 57) fl_X2_244 rfl dX2_placeLine_54 rfl (fun x18 => ?_)
  refine r_aload_n (q := 58) dX2_placeLine_57 rfl rfl rfl ?_
  refine r_gR (q := 61) fl_X2_127 rfl dX2_placeLine_58 rfl (fun x19 => ?_)
  refine r_gI (q := 64) fl_X2_184 dX2_placeLine_61 rfl (fun x20 => ?_)
  refine r_aload_n (q := 65) dX2_placeLine_64 rfl rfl rfl ?_
  refine r_aastore (q := 66) (k0 := 6) (by decide) ia_GoatCourt_Place dX2_placeLine_65 rfl (fun σ21 => ?_)
  refine r_aload_n (q := 67) dX2_placeLine_66 rfl rfl rfl ?_
  refine r_gR (q := 70) fl_X2_127 rfl dX2_placeLine_67 rfl (fun x22 => ?_)
  refine r_dup (q := 71) dX2_placeLine_70 rfl rfl ?_
  refine r_gI (q := 74) fl_X2_184 dX2_placeLine_71 rfl (fun x23 => ?_)
  refine r_iconst (q := 75) (v := (1 : Int32)) dX2_placeLine_74 rfl (by decide) ?_
  refine r_iadd (q := 76) dX2_placeLine_75 rfl ?_
  refine r_pI (q := 79) fp_X2_placeLine_184 dX2_placeLine_76 rfl (fun σ24 => ?_)
  exact r_returnX rfl dX2_placeLine_79
theorem c_X2_placeLine (G : Gx) (h0 : G0 G) (N : Nat) (a0 : Nat) (σ : Mem) : Ct G mX2_placeLine (rhoX rhoV) [vR (some a0)] σ (f_X2_placeLine N a0 σ) := by
  refine Ct_of h0 (by decide) rfl (Nat.le_of_ble_eq_true rfl) (L0 := [some (vR (some a0)), none]) rfl ?_
  unfold f_X2_placeLine
  refine r_aload_n (q := 1) dX2_placeLine_0 rfl rfl rfl ?_
  refine r_aload_n (q := 2) dX2_placeLine_1 rfl rfl rfl ?_
  refine r_gR (q := 5) fl_X2_127 rfl dX2_placeLine_2 rfl (fun x1 => ?_)
  refine r_gI (q := 8) fl_X2_184 dX2_placeLine_5 rfl (fun x2 => ?_)
  refine r_bipush (q := 10) (v := (8 : Int32)) dX2_placeLine_8 rfl (by decide) ?_
  refine r_icmp_ge (q := 13) (t := 17) dX2_placeLine_10 rfl (by decide) (fun _ => ?_) (fun _ => ?_)
  · refine r_iconst (q := 18) (v := (0 : Int32)) dX2_placeLine_17 rfl (by decide) ?_
    exact r_le (w_X2_placeLine_b18 G h0 N _ _ _ _) (Nat.le_refl _) (And.intro rfl trivial)
  · refine r_iconst (q := 14) (v := (1 : Int32)) dX2_placeLine_13 rfl (by decide) ?_
    refine r_goto (q := 18) dX2_placeLine_14 (by decide) ?_
    exact r_le (w_X2_placeLine_b18 G h0 N _ _ _ _) (Nat.le_refl _) (And.intro rfl trivial)
theorem c_X2_found (G : Gx) (h0 : G0 G) (N : Nat) (a0 : Nat) (σ : Mem) : Ct G mX2_found (rhoX rhoR) [vR (some a0)] σ (f_X2_found N a0 σ) := by
  refine Ct_of h0 (by decide) rfl (Nat.le_of_ble_eq_true rfl) (L0 := [some (vR (some a0))]) rfl ?_
  unfold f_X2_found
  refine r_aload_n (q := 1) dX2_found_0 rfl rfl rfl ?_
  refine r_ob (fun a3 ha3 => ?_)
  obtain ⟨hea3, hka3⟩ := o_at_eq ha3
  cases hea3
  refine r_callXV (q := 4) (c_X2_mustName G h0 N _ _) (cl_V (ci := 1) rfl rfl (lw_V q863 q865 qs16 q168 q866) (hd_X2_mustName) ⟨Nat.le_of_ble_eq_true rfl, Nat.le_of_ble_eq_true rfl⟩ (List.mem_singleton.mp hka3) rfl rfl rfl (Nat.le_of_ble_eq_true rfl) dX2_found_1) rfl rfl (fun u1 σ2 => ?_)
  refine r_aload_n (q := 5) dX2_found_4 rfl rfl rfl ?_
  refine r_gR (q := 8) fl_X2_127 rfl dX2_found_5 rfl (fun x4 => ?_)
  refine r_aload_n (q := 9) dX2_found_8 rfl rfl rfl ?_
  refine r_gR (q := 12) fl_X2_61 rfl dX2_found_9 rfl (fun x5 => ?_)
  refine r_ob (fun a8 ha8 => ?_)
  obtain ⟨hea8, hka8⟩ := o_at_eq ha8
  cases hea8
  refine r_callR (q := 15) (c_X8_find G h0 N _ _ _) (cl_V (ci := 7) rfl rfl (lw_V q868 q869 q870 q177 q871) (hd_X8_find) ⟨Nat.le_of_ble_eq_true rfl, Nat.le_of_ble_eq_true rfl⟩ (List.mem_singleton.mp hka8) rfl rfl rfl (Nat.le_of_ble_eq_true rfl) dX2_found_12) rfl (fun x6 σ7 => ?_)
  exact r_areturnX rfl (Or.inl ⟨_, rfl⟩) dX2_found_15
theorem c_X2_placeHere (G : Gx) (h0 : G0 G) (N : Nat) (a0 : Nat) (σ : Mem) : Ct G mX2_placeHere (rhoX rhoR) [vR (some a0)] σ (f_X2_placeHere N a0 σ) := by
  refine Ct_of h0 (by decide) rfl (Nat.le_of_ble_eq_true rfl) (L0 := [some (vR (some a0)), none]) rfl ?_
  unfold f_X2_placeHere
  refine r_aload_n (q := 1) dX2_placeHere_0 rfl rfl rfl ?_
  refine r_ob (fun a3 ha3 => ?_)
  obtain ⟨hea3, hka3⟩ := o_at_eq ha3
  cases hea3
  refine r_callXR (q := 4) (c_X2_found G h0 N _ _) (cl_V (ci := 1) rfl rfl (lw_V q931 q933 qs22 q168 q934) (hd_X2_found) ⟨Nat.le_of_ble_eq_true rfl, Nat.le_of_ble_eq_true rfl⟩ (List.mem_singleton.mp hka3) rfl rfl rfl (Nat.le_of_ble_eq_true rfl) dX2_placeHere_1) rfl rfl (fun x1 σ2 => ?_)
  refine r_astore_n (q := 5) dX2_placeHere_4 rfl rfl (Nat.le_of_ble_eq_true rfl) rfl ?_
  refine r_aload_n (q := 6) dX2_placeHere_5 rfl rfl rfl ?_
  refine r_inst (q := 9) iy_GoatCourt_Place ino_GoatCourt_Place q857 dX2_placeHere_6 rfl (fun x4 => ?_)
  refine r_if_ne (q := 12) (t := 18) dX2_placeHere_9 rfl (by decide) (fun _ => ?_) (fun _ => ?_)
  · refine r_aload_n (q := 13) dX2_placeHere_12 rfl rfl rfl ?_
    refine r_iconst (q := 14) (v := (2 : Int32)) dX2_placeHere_13 rfl (by decide) ?_
    refine r_ob (fun a8 ha8 => ?_)
    obtain ⟨hea8, hka8⟩ := o_at_eq ha8
    cases hea8
    refine r_callR (q := 17) (c_X2_fail G h0 N _ _ _) (cl_V (ci := 1) rfl rfl (lw_V q742 q744 qs7 q168 q745) (hd_X2_fail) ⟨Nat.le_of_ble_eq_true rfl, Nat.le_of_ble_eq_true rfl⟩ (List.mem_singleton.mp hka8) rfl rfl rfl (Nat.le_of_ble_eq_true rfl) dX2_placeHere_14) rfl (fun x6 σ7 => ?_)
    exact r_athrow (ci := 2) (r0 := (RX3, TX3, 8)) rfl rfl dX2_placeHere_17
  · refine r_aload_n (q := 19) dX2_placeHere_18 rfl rfl rfl ?_
    refine r_cast (q := 22) iy_GoatCourt_Place q857 dX2_placeHere_19 rfl (fun x5 => ?_)
    exact r_areturnX rfl (Or.inl ⟨_, rfl⟩) dX2_placeHere_22
theorem c_X2_place (G : Gx) (h0 : G0 G) (N : Nat) (a0 : Nat) (σ : Mem) : Ct G mX2_place (rhoX rhoR) [vR (some a0)] σ (f_X2_place N a0 σ) := by
  refine Ct_of h0 (by decide) rfl (Nat.le_of_ble_eq_true rfl) (L0 := [some (vR (some a0)), none]) rfl ?_
  unfold f_X2_place
  refine r_aload_n (q := 1) dX2_place_0 rfl rfl rfl ?_
  refine r_ob (fun a3 ha3 => ?_)
  obtain ⟨hea3, hka3⟩ := o_at_eq ha3
  cases hea3
  refine r_callXR (q := 4) (c_X2_placeHere G h0 N _ _) (cl_V (ci := 1) rfl rfl (lw_V q927 q929 qs21 q168 q930) (hd_X2_placeHere) ⟨Nat.le_of_ble_eq_true rfl, Nat.le_of_ble_eq_true rfl⟩ (List.mem_singleton.mp hka3) rfl rfl rfl (Nat.le_of_ble_eq_true rfl) dX2_place_1) rfl rfl (fun x1 σ2 => ?_)
  refine r_astore_n (q := 5) dX2_place_4 rfl rfl (Nat.le_of_ble_eq_true rfl) rfl ?_
  refine r_aload_n (q := 6) dX2_place_5 rfl rfl rfl ?_
  refine r_ob (fun a6 ha6 => ?_)
  obtain ⟨hea6, hka6⟩ := o_at_eq ha6
  cases hea6
  refine r_callV (q := 9) (c_X2_next G h0 N _ _) (cl_V (ci := 1) rfl rfl (lw_V q644 q646 qs4 q168 q647) (hd_X2_next) ⟨Nat.le_of_ble_eq_true rfl, Nat.le_of_ble_eq_true rfl⟩ (List.mem_singleton.mp hka6) rfl rfl rfl (Nat.le_of_ble_eq_true rfl) dX2_place_6) rfl (fun u4 σ5 => ?_)
  refine r_aload_n (q := 10) dX2_place_9 rfl rfl rfl ?_
  exact r_areturnX rfl (Or.inl ⟨_, rfl⟩) dX2_place_10
theorem w_X8_path_b52 (G : Gx) (h0 : G0 G) (N : Nat) (K2 : Nat → Int32 → Int32 → Int32 → Mem → Option (Int32 × Mem)) (hK2 : ∀ (a0 : Nat) (l1 : Int32) (l2 : Int32) (l3 : Int32) (σ : Mem), Runs G mX8_path rhoI σ 2 [some (vR (some a0)), some (vI l1), some (vI l2), some (vI l3)] [] (K2 a0 l1 l2 l3 σ)) (a0 : Nat) (l1 : Int32) (l2 : Int32) (l3 : Int32) (σ : Mem) : Runs G mX8_path rhoI σ 52 [some (vR (some a0)), some (vI l1), some (vI l2), some (vI l3)] [] (f_X8_path_b52 N K2 a0 l1 l2 l3 σ) := by
  unfold f_X8_path_b52
  refine r_iinc (q := 55) (v := (1 : Int32)) dX8_path_52 rfl rfl (by decide) (Nat.le_of_ble_eq_true rfl) rfl ?_
  refine r_goto (q := 2) dX8_path_55 (by decide) ?_
  exact r_le (hK2 _ _ _ _ _) (Nat.le_refl _) (And.intro rfl (And.intro rfl (And.intro rfl (And.intro rfl trivial))))
theorem w_X8_path_b30 (G : Gx) (h0 : G0 G) (N : Nat) (K2 : Nat → Int32 → Int32 → Int32 → Mem → Option (Int32 × Mem)) (hK2 : ∀ (a0 : Nat) (l1 : Int32) (l2 : Int32) (l3 : Int32) (σ : Mem), Runs G mX8_path rhoI σ 2 [some (vR (some a0)), some (vI l1), some (vI l2), some (vI l3)] [] (K2 a0 l1 l2 l3 σ)) (a0 : Nat) (l1 : Int32) (l2 : Int32) (l3 : Int32) (σ : Mem) : Runs G mX8_path rhoI σ 30 [some (vR (some a0)), some (vI l1), some (vI l2), some (vI l3)] [] (f_X8_path_b30 N K2 a0 l1 l2 l3 σ) := by
  unfold f_X8_path_b30
  refine r_aload_n (q := 31) dX8_path_30 rfl rfl rfl ?_
  refine r_gR (q := 34) fl_X8_17 rfl dX8_path_31 rfl (fun x1 => ?_)
  refine r_iload_n (q := 35) dX8_path_34 rfl rfl rfl ?_
  refine r_iaload (q := 36) dX8_path_35 rfl (fun x2 => ?_)
  refine r_iload_n (q := 37) dX8_path_36 rfl rfl rfl ?_
  refine r_icmp_ne (q := 40) (t := 52) dX8_path_37 rfl (by decide) (fun _ => ?_) (fun _ => ?_)
  · refine r_aload_n (q := 41) dX8_path_40 rfl rfl rfl ?_
    refine r_gR (q := 44) fl_X8_21 rfl dX8_path_41 rfl (fun x3 => ?_)
    refine r_iload_n (q := 45) dX8_path_44 rfl rfl rfl ?_
    refine r_iaload (q := 46) dX8_path_45 rfl (fun x4 => ?_)
    refine r_iload_n (q := 47) dX8_path_46 rfl rfl rfl ?_
    refine r_icmp_ne (q := 50) (t := 52) dX8_path_47 rfl (by decide) (fun _ => ?_) (fun _ => ?_)
    · refine r_iload_n (q := 51) dX8_path_50 rfl rfl rfl ?_
      exact r_ireturn rfl rfl dX8_path_51
    · exact r_le (w_X8_path_b52 G h0 N K2 hK2 _ _ _ _ _) (Nat.le_refl _) (And.intro rfl (And.intro rfl (And.intro rfl (And.intro rfl trivial))))
  · exact r_le (w_X8_path_b52 G h0 N K2 hK2 _ _ _ _ _) (Nat.le_refl _) (And.intro rfl (And.intro rfl (And.intro rfl (And.intro rfl trivial))))
theorem w_X8_path_b2B (G : Gx) (h0 : G0 G) (N : Nat)   (K2 : Nat → Int32 → Int32 → Int32 → Mem → Option (Int32 × Mem)) (hK2 : ∀ (a0 : Nat) (l1 : Int32) (l2 : Int32) (l3 : Int32) (σ : Mem), Runs G mX8_path rhoI σ 2 [some (vR (some a0)), some (vI l1), some (vI l2), some (vI l3)] [] (K2 a0 l1 l2 l3 σ)) (a0 : Nat) (l1 : Int32) (l2 : Int32) (l3 : Int32) (σ : Mem) : Runs G mX8_path rhoI σ 2 [some (vR (some a0)), some (vI l1), some (vI l2), some (vI l3)] [] (f_X8_path_b2B N  K2 a0 l1 l2 l3 σ) := by
  unfold f_X8_path_b2B
  refine r_iload_n (q := 3) dX8_path_2 rfl rfl rfl ?_
  refine r_aload_n (q := 4) dX8_path_3 rfl rfl rfl ?_
  refine r_gI (q := 7) fl_X8_98 dX8_path_4 rfl (fun x1 => ?_)
  refine r_icmp_ge (q := 10) (t := 58) dX8_path_7 rfl (by decide) (fun _ => ?_) (fun _ => ?_)
  · refine r_iconst (q := 59) (v := (-1 : Int32)) dX8_path_58 rfl (by decide) ?_
    exact r_ireturn rfl rfl dX8_path_59
  · refine r_aload_n (q := 11) dX8_path_10 rfl rfl rfl ?_
    refine r_gR (q := 14) fl_X8_17 rfl dX8_path_11 rfl (fun x2 => ?_)
    refine r_iload_n (q := 15) dX8_path_14 rfl rfl rfl ?_
    refine r_iaload (q := 16) dX8_path_15 rfl (fun x3 => ?_)
    refine r_iload_n (q := 17) dX8_path_16 rfl rfl rfl ?_
    refine r_icmp_ne (q := 20) (t := 30) dX8_path_17 rfl (by decide) (fun _ => ?_) (fun _ => ?_)
    · refine r_aload_n (q := 21) dX8_path_20 rfl rfl rfl ?_
      refine r_gR (q := 24) fl_X8_21 rfl dX8_path_21 rfl (fun x4 => ?_)
      refine r_iload_n (q := 25) dX8_path_24 rfl rfl rfl ?_
      refine r_iaload (q := 26) dX8_path_25 rfl (fun x5 => ?_)
      refine r_iload_n (q := 27) dX8_path_26 rfl rfl rfl ?_
      refine r_icmp_eq (q := 30) (t := 50) dX8_path_27 rfl (by decide) (fun _ => ?_) (fun _ => ?_)
      · refine r_iload_n (q := 51) dX8_path_50 rfl rfl rfl ?_
        exact r_ireturn rfl rfl dX8_path_51
      · exact r_le (w_X8_path_b30 G h0 N K2 hK2 _ _ _ _ _) (Nat.le_refl _) (And.intro rfl (And.intro rfl (And.intro rfl (And.intro rfl trivial))))
    · exact r_le (w_X8_path_b30 G h0 N K2 hK2 _ _ _ _ _) (Nat.le_refl _) (And.intro rfl (And.intro rfl (And.intro rfl (And.intro rfl trivial))))
theorem w_X8_path_b2 (G : Gx) (h0 : G0 G) (N : Nat)   : ∀ (z : Nat) (a0 : Nat) (l1 : Int32) (l2 : Int32) (l3 : Int32) (σ : Mem), Runs G mX8_path rhoI σ 2 [some (vR (some a0)), some (vI l1), some (vI l2), some (vI l3)] [] (f_X8_path_b2 N  z a0 l1 l2 l3 σ) := by
  intro z
  induction z with
  | zero => exact fun _ _ _ _ _ => r_none
  | succ z ih => exact fun a0 l1 l2 l3 σ => w_X8_path_b2B G h0 N   _ ih a0 l1 l2 l3 σ
theorem c_X8_path (G : Gx) (h0 : G0 G) (N : Nat) (a0 : Nat) (i1 : Int32) (i2 : Int32) (σ : Mem) : Ct G mX8_path rhoI [vR (some a0), vI i1, vI i2] σ (f_X8_path N a0 i1 i2 σ) := by
  refine Ct_of h0 (by decide) rfl (Nat.le_of_ble_eq_true rfl) (L0 := [some (vR (some a0)), some (vI i1), some (vI i2), none]) rfl ?_
  unfold f_X8_path
  refine r_iconst (q := 1) (v := (0 : Int32)) dX8_path_0 rfl (by decide) ?_
  refine r_istore_n (q := 2) dX8_path_1 rfl rfl (Nat.le_of_ble_eq_true rfl) rfl ?_
  exact r_le (w_X8_path_b2 G h0 N N _ _ _ _ _) (Nat.le_refl _) (And.intro rfl (And.intro rfl (And.intro rfl (And.intro rfl trivial))))
theorem w_X2_path_b55 (G : Gx) (h0 : G0 G) (N : Nat)   (a0 : Nat) (σ : Mem) : Runs G mX2_path (rhoX rhoV) σ 55 [some (vR (some a0)), none, none] [] (f_X2_path_b55 N  a0 σ) := by
  unfold f_X2_path_b55
  refine r_aload_n (q := 56) dX2_path_55 rfl rfl rfl ?_
  refine r_iconst (q := 57) (v := (3 : Int32)) dX2_path_56 rfl (by decide) ?_
  refine r_ob (fun a3 ha3 => ?_)
  obtain ⟨hea3, hka3⟩ := o_at_eq ha3
  cases hea3
  refine r_callR (q := 60) (c_X2_fail G h0 N _ _ _) (cl_V (ci := 1) rfl rfl (lw_V q742 q744 qs7 q168 q745) (hd_X2_fail) ⟨Nat.le_of_ble_eq_true rfl, Nat.le_of_ble_eq_true rfl⟩ (List.mem_singleton.mp hka3) rfl rfl rfl (Nat.le_of_ble_eq_true rfl) dX2_path_57) rfl (fun x1 σ2 => ?_)
  exact r_athrow (ci := 2) (r0 := (RX3, TX3, 8)) rfl rfl dX2_path_60
theorem w_X2_path_b18 (G : Gx) (h0 : G0 G) (N : Nat)   (a0 : Nat) (t0 : Option Nat) (t1 : Int32) (σ : Mem) : Runs G mX2_path (rhoX rhoV) σ 18 [some (vR (some a0)), none, none] [vI t1, vR t0] (f_X2_path_b18 N  a0 t0 t1 σ) := by
  unfold f_X2_path_b18
  refine r_ob (fun a3 ha3 => ?_)
  obtain ⟨hea3, hka3⟩ := o_at_eq ha3
  cases hea3
  refine r_callXV (q := 21) (c_X2_begins G h0 N _ _ _) (cl_V (ci := 1) rfl rfl (lw_V q853 q855 qs14 q168 q856) (hd_X2_begins) ⟨Nat.le_of_ble_eq_true rfl, Nat.le_of_ble_eq_true rfl⟩ (List.mem_singleton.mp hka3) rfl rfl rfl (Nat.le_of_ble_eq_true rfl) dX2_path_18) rfl rfl (fun u1 σ2 => ?_)
  refine r_aload_n (q := 22) dX2_path_21 rfl rfl rfl ?_
  refine r_ob (fun a6 ha6 => ?_)
  obtain ⟨hea6, hka6⟩ := o_at_eq ha6
  cases hea6
  refine r_callXR (q := 25) (c_X2_place G h0 N _ _) (cl_V (ci := 1) rfl rfl (lw_V q923 q925 qs20 q168 q926) (hd_X2_place) ⟨Nat.le_of_ble_eq_true rfl, Nat.le_of_ble_eq_true rfl⟩ (List.mem_singleton.mp hka6) rfl rfl rfl (Nat.le_of_ble_eq_true rfl) dX2_path_22) rfl rfl (fun x4 σ5 => ?_)
  refine r_astore_n (q := 26) dX2_path_25 rfl rfl (Nat.le_of_ble_eq_true rfl) rfl ?_
  refine r_aload_n (q := 27) dX2_path_26 rfl rfl rfl ?_
  refine r_ob (fun a9 ha9 => ?_)
  obtain ⟨hea9, hka9⟩ := o_at_eq ha9
  cases hea9
  refine r_callXR (q := 30) (c_X2_placeHere G h0 N _ _) (cl_V (ci := 1) rfl rfl (lw_V q927 q929 qs21 q168 q930) (hd_X2_placeHere) ⟨Nat.le_of_ble_eq_true rfl, Nat.le_of_ble_eq_true rfl⟩ (List.mem_singleton.mp hka9) rfl rfl rfl (Nat.le_of_ble_eq_true rfl) dX2_path_27) rfl rfl (fun x7 σ8 => ?_)
  refine r_astore_n (q := 31) dX2_path_30 rfl rfl (Nat.le_of_ble_eq_true rfl) rfl ?_
  refine r_aload_n (q := 32) dX2_path_31 rfl rfl rfl ?_
  refine r_aload_n (q := 33) dX2_path_32 rfl rfl rfl ?_
  refine r_acmp_eq (q := 36) (t := 55) dX2_path_33 rfl (by decide) ?_ ?_
  · exact r_le (w_X2_path_b55 G h0 N _ _) (Nat.le_refl _) (And.intro rfl trivial)
  · refine r_aload_n (q := 37) dX2_path_36 rfl rfl rfl ?_
    refine r_gR (q := 40) fl_X2_127 rfl dX2_path_37 rfl (fun x11 => ?_)
    refine r_aload_n (q := 41) dX2_path_40 rfl rfl rfl ?_
    refine r_gI (q := 44) fl_X2_253 dX2_path_41 rfl (fun x12 => ?_)
    refine r_aload_n (q := 45) dX2_path_44 rfl rfl rfl ?_
    refine r_gI (q := 48) fl_X2_253 dX2_path_45 rfl (fun x13 => ?_)
    refine r_ob (fun a16 ha16 => ?_)
    obtain ⟨hea16, hka16⟩ := o_at_eq ha16
    cases hea16
    refine r_callI (q := 51) (c_X8_path G h0 N _ _ _ _) (cl_V (ci := 7) rfl rfl (lw_V q935 q936 q937 q177 q938) (hd_X8_path) ⟨Nat.le_of_ble_eq_true rfl, Nat.le_of_ble_eq_true rfl⟩ (List.mem_singleton.mp hka16) rfl rfl rfl (Nat.le_of_ble_eq_true rfl) dX2_path_48) rfl (fun x14 σ15 => ?_)
    refine r_iconst (q := 52) (v := (-1 : Int32)) dX2_path_51 rfl (by decide) ?_
    refine r_icmp_eq (q := 55) (t := 61) dX2_path_52 rfl (by decide) (fun _ => ?_) (fun _ => ?_)
    · refine r_aload_n (q := 62) dX2_path_61 rfl rfl rfl ?_
      refine r_ob (fun a19 ha19 => ?_)
      obtain ⟨hea19, hka19⟩ := o_at_eq ha19
      cases hea19
      refine r_callV (q := 65) (c_X2_next G h0 N _ _) (cl_V (ci := 1) rfl rfl (lw_V q644 q646 qs4 q168 q647) (hd_X2_next) ⟨Nat.le_of_ble_eq_true rfl, Nat.le_of_ble_eq_true rfl⟩ (List.mem_singleton.mp hka19) rfl rfl rfl (Nat.le_of_ble_eq_true rfl) dX2_path_62) rfl (fun u17 σ18 => ?_)
      refine r_aload_n (q := 66) dX2_path_65 rfl rfl rfl ?_
      refine r_gR (q := 69) fl_X2_127 rfl dX2_path_66 rfl (fun x20 => ?_)
      refine r_gR (q := 72) fl_X2_257 rfl dX2_path_69 rfl (fun x21 => ?_)
      refine r_aload_n (q := 73) dX2_path_72 rfl rfl rfl ?_
      refine r_gR (q := 76) fl_X2_127 rfl dX2_path_73 rfl (fun x22 => ?_)
      refine r_gI (q := 79) fl_X2_248 dX2_path_76 rfl (fun x23 => ?_)
      refine r_aload_n (q := 80) dX2_path_79 rfl rfl rfl ?_
      refine r_gI (q := 83) fl_X2_253 dX2_path_80 rfl (fun x24 => ?_)
      refine r_iastore (q := 84) dX2_path_83 rfl (fun σ25 => ?_)
      refine r_aload_n (q := 85) dX2_path_84 rfl rfl rfl ?_
      refine r_gR (q := 88) fl_X2_127 rfl dX2_path_85 rfl (fun x26 => ?_)
      refine r_gR (q := 91) fl_X2_260 rfl dX2_path_88 rfl (fun x27 => ?_)
      refine r_aload_n (q := 92) dX2_path_91 rfl rfl rfl ?_
      refine r_gR (q := 95) fl_X2_127 rfl dX2_path_92 rfl (fun x28 => ?_)
      refine r_gI (q := 98) fl_X2_248 dX2_path_95 rfl (fun x29 => ?_)
      refine r_aload_n (q := 99) dX2_path_98 rfl rfl rfl ?_
      refine r_gI (q := 102) fl_X2_253 dX2_path_99 rfl (fun x30 => ?_)
      refine r_iastore (q := 103) dX2_path_102 rfl (fun σ31 => ?_)
      refine r_aload_n (q := 104) dX2_path_103 rfl rfl rfl ?_
      refine r_gR (q := 107) fl_X2_127 rfl dX2_path_104 rfl (fun x32 => ?_)
      refine r_dup (q := 108) dX2_path_107 rfl rfl ?_
      refine r_gI (q := 111) fl_X2_248 dX2_path_108 rfl (fun x33 => ?_)
      refine r_iconst (q := 112) (v := (1 : Int32)) dX2_path_111 rfl (by decide) ?_
      refine r_iadd (q := 113) dX2_path_112 rfl ?_
      refine r_pI (q := 116) fp_X2_path_248 dX2_path_113 rfl (fun σ34 => ?_)
      refine r_aload_n (q := 117) dX2_path_116 rfl rfl rfl ?_
      refine r_dup (q := 118) dX2_path_117 rfl rfl ?_
      refine r_gI (q := 121) fl_X2_263 dX2_path_118 rfl (fun x35 => ?_)
      refine r_iconst (q := 122) (v := (1 : Int32)) dX2_path_121 rfl (by decide) ?_
      refine r_aload_n (q := 123) dX2_path_122 rfl rfl rfl ?_
      refine r_gI (q := 126) fl_X2_253 dX2_path_123 rfl (fun x36 => ?_)
      refine r_ishl (q := 127) dX2_path_126 rfl ?_
      refine r_ior (q := 128) dX2_path_127 rfl ?_
      refine r_pI (q := 131) fp_X2_path_263 dX2_path_128 rfl (fun σ37 => ?_)
      refine r_aload_n (q := 132) dX2_path_131 rfl rfl rfl ?_
      refine r_dup (q := 133) dX2_path_132 rfl rfl ?_
      refine r_gI (q := 136) fl_X2_263 dX2_path_133 rfl (fun x38 => ?_)
      refine r_iconst (q := 137) (v := (1 : Int32)) dX2_path_136 rfl (by decide) ?_
      refine r_aload_n (q := 138) dX2_path_137 rfl rfl rfl ?_
      refine r_gI (q := 141) fl_X2_253 dX2_path_138 rfl (fun x39 => ?_)
      refine r_ishl (q := 142) dX2_path_141 rfl ?_
      refine r_ior (q := 143) dX2_path_142 rfl ?_
      refine r_pI (q := 146) fp_X2_path_263 dX2_path_143 rfl (fun σ40 => ?_)
      exact r_returnX rfl dX2_path_146
    · exact r_le (w_X2_path_b55 G h0 N _ _) (Nat.le_refl _) (And.intro rfl trivial)
theorem c_X2_path (G : Gx) (h0 : G0 G) (N : Nat) (a0 : Nat) (σ : Mem) : Ct G mX2_path (rhoX rhoV) [vR (some a0)] σ (f_X2_path N a0 σ) := by
  refine Ct_of h0 (by decide) rfl (Nat.le_of_ble_eq_true rfl) (L0 := [some (vR (some a0)), none, none]) rfl ?_
  unfold f_X2_path
  refine r_aload_n (q := 1) dX2_path_0 rfl rfl rfl ?_
  refine r_aload_n (q := 2) dX2_path_1 rfl rfl rfl ?_
  refine r_gR (q := 5) fl_X2_127 rfl dX2_path_2 rfl (fun x1 => ?_)
  refine r_gI (q := 8) fl_X2_248 dX2_path_5 rfl (fun x2 => ?_)
  refine r_bipush (q := 10) (v := (14 : Int32)) dX2_path_8 rfl (by decide) ?_
  refine r_icmp_ge (q := 13) (t := 17) dX2_path_10 rfl (by decide) (fun _ => ?_) (fun _ => ?_)
  · refine r_iconst (q := 18) (v := (0 : Int32)) dX2_path_17 rfl (by decide) ?_
    exact r_le (w_X2_path_b18 G h0 N _ _ _ _) (Nat.le_refl _) (And.intro rfl trivial)
  · refine r_iconst (q := 14) (v := (1 : Int32)) dX2_path_13 rfl (by decide) ?_
    refine r_goto (q := 18) dX2_path_14 (by decide) ?_
    exact r_le (w_X2_path_b18 G h0 N _ _ _ _) (Nat.le_refl _) (And.intro rfl trivial)
theorem c_X11_init (G : Gx) (h0 : G0 G) (N : Nat) (a0 : Nat) (o1 : Option Nat) (i2 : Int32) (σ : Mem) : Ct G mX11_init rhoV [vR (some a0), vR o1, vI i2] σ (f_X11_init N a0 o1 i2 σ) := by
  refine Ct_of h0 (by decide) rfl (Nat.le_of_ble_eq_true rfl) (L0 := [some (vR (some a0)), some (vR o1), some (vI i2)]) rfl ?_
  unfold f_X11_init
  refine r_aload_n (q := 1) dX11_init_0 rfl rfl rfl ?_
  refine r_aload_n (q := 2) dX11_init_1 rfl rfl rfl ?_
  refine r_iload_n (q := 3) dX11_init_2 rfl rfl rfl ?_
  refine r_callV (q := 6) (c_X9_init G h0 N _ _ _ _) (cl_I rfl rfl rfl rfl q948 q880 q183 q881 (hd_X9_init) ⟨Nat.le_of_ble_eq_true rfl, Nat.le_of_ble_eq_true rfl⟩ rfl (Nat.le_of_ble_eq_true rfl) dX11_init_3) rfl (fun u1 σ2 => ?_)
  refine r_aload_n (q := 7) dX11_init_6 rfl rfl rfl ?_
  refine r_bipush (q := 9) (v := (36 : Int32)) dX11_init_7 rfl (by decide) ?_
  refine r_newarray (q := 11) (k0 := 1) (by decide) rfl q344 dX11_init_9 rfl (fun a3 σ4 => ?_)
  refine r_pR (q := 14) fp_X11_init_9 rfl dX11_init_11 rfl (fun σ5 => ?_)
  refine r_aload_n (q := 15) dX11_init_14 rfl rfl rfl ?_
  refine r_iconst (q := 16) (v := (3 : Int32)) dX11_init_15 rfl (by decide) ?_
  refine r_newarray (q := 18) (k0 := 1) (by decide) rfl q344 dX11_init_16 rfl (fun a6 σ7 => ?_)
  refine r_pR (q := 21) fp_X11_init_15 rfl dX11_init_18 rfl (fun σ8 => ?_)
  exact r_return rfl dX11_init_21
theorem w_X2_person_b17 (G : Gx) (h0 : G0 G) (N : Nat)   (a0 : Nat) (t0 : Option Nat) (t1 : Int32) (σ : Mem) : Runs G mX2_person (rhoX rhoV) σ 17 [some (vR (some a0))] [vI t1, vR t0] (f_X2_person_b17 N  a0 t0 t1 σ) := by
  unfold f_X2_person_b17
  refine r_ob (fun a3 ha3 => ?_)
  obtain ⟨hea3, hka3⟩ := o_at_eq ha3
  cases hea3
  refine r_callXV (q := 20) (c_X2_begins G h0 N _ _ _) (cl_V (ci := 1) rfl rfl (lw_V q853 q855 qs14 q168 q856) (hd_X2_begins) ⟨Nat.le_of_ble_eq_true rfl, Nat.le_of_ble_eq_true rfl⟩ (List.mem_singleton.mp hka3) rfl rfl rfl (Nat.le_of_ble_eq_true rfl) dX2_person_17) rfl rfl (fun u1 σ2 => ?_)
  refine r_aload_n (q := 21) dX2_person_20 rfl rfl rfl ?_
  refine r_gR (q := 24) fl_X2_127 rfl dX2_person_21 rfl (fun x4 => ?_)
  refine r_gR (q := 27) fl_X2_269 rfl dX2_person_24 rfl (fun x5 => ?_)
  refine r_aload_n (q := 28) dX2_person_27 rfl rfl rfl ?_
  refine r_gR (q := 31) fl_X2_127 rfl dX2_person_28 rfl (fun x6 => ?_)
  refine r_gI (q := 34) fl_X2_266 dX2_person_31 rfl (fun x7 => ?_)
  refine r_new (q := 37) (ci := 9) rfl rfl q943 q944 q185 dX2_person_34 rfl (fun a8 σ9 => ?_)
  refine r_dup (q := 38) dX2_person_37 rfl rfl ?_
  refine r_aload_n (q := 39) dX2_person_38 rfl rfl rfl ?_
  refine r_ob (fun a12 ha12 => ?_)
  obtain ⟨hea12, hka12⟩ := o_at_eq ha12
  cases hea12
  refine r_callXR (q := 42) (c_X2_newName G h0 N _ _) (cl_V (ci := 1) rfl rfl (lw_V q859 q861 qs15 q168 q862) (hd_X2_newName) ⟨Nat.le_of_ble_eq_true rfl, Nat.le_of_ble_eq_true rfl⟩ (List.mem_singleton.mp hka12) rfl rfl rfl (Nat.le_of_ble_eq_true rfl) dX2_person_39) rfl rfl (fun x10 σ11 => ?_)
  refine r_aload_n (q := 43) dX2_person_42 rfl rfl rfl ?_
  refine r_gR (q := 46) fl_X2_127 rfl dX2_person_43 rfl (fun x13 => ?_)
  refine r_gI (q := 49) fl_X2_266 dX2_person_46 rfl (fun x14 => ?_)
  refine r_callV (q := 52) (c_X11_init G h0 N _ _ _ _) (cl_I rfl rfl rfl rfl q945 q946 q185 q947 (hd_X11_init) ⟨Nat.le_of_ble_eq_true rfl, Nat.le_of_ble_eq_true rfl⟩ rfl (Nat.le_of_ble_eq_true rfl) dX2_person_49) rfl (fun u15 σ16 => ?_)
  refine r_aastore (q := 53) (k0 := 7) (by decide) ia_GoatCourt_Person dX2_person_52 rfl (fun σ17 => ?_)
  refine r_aload_n (q := 54) dX2_person_53 rfl rfl rfl ?_
  refine r_gR (q := 57) fl_X2_127 rfl dX2_person_54 rfl (fun x18 => ?_)
  refine r_dup (q := 58) dX2_person_57 rfl rfl ?_
  refine r_gI (q := 61) fl_X2_266 dX2_person_58 rfl (fun x19 => ?_)
  refine r_iconst (q := 62) (v := (1 : Int32)) dX2_person_61 rfl (by decide) ?_
  refine r_iadd (q := 63) dX2_person_62 rfl ?_
  refine r_pI (q := 66) fp_X2_person_266 dX2_person_63 rfl (fun σ20 => ?_)
  exact r_returnX rfl dX2_person_66
theorem c_X2_person (G : Gx) (h0 : G0 G) (N : Nat) (a0 : Nat) (σ : Mem) : Ct G mX2_person (rhoX rhoV) [vR (some a0)] σ (f_X2_person N a0 σ) := by
  refine Ct_of h0 (by decide) rfl (Nat.le_of_ble_eq_true rfl) (L0 := [some (vR (some a0))]) rfl ?_
  unfold f_X2_person
  refine r_aload_n (q := 1) dX2_person_0 rfl rfl rfl ?_
  refine r_aload_n (q := 2) dX2_person_1 rfl rfl rfl ?_
  refine r_gR (q := 5) fl_X2_127 rfl dX2_person_2 rfl (fun x1 => ?_)
  refine r_gI (q := 8) fl_X2_266 dX2_person_5 rfl (fun x2 => ?_)
  refine r_iconst (q := 9) (v := (4 : Int32)) dX2_person_8 rfl (by decide) ?_
  refine r_icmp_ge (q := 12) (t := 16) dX2_person_9 rfl (by decide) (fun _ => ?_) (fun _ => ?_)
  · refine r_iconst (q := 17) (v := (0 : Int32)) dX2_person_16 rfl (by decide) ?_
    exact r_le (w_X2_person_b17 G h0 N _ _ _ _) (Nat.le_refl _) (And.intro rfl trivial)
  · refine r_iconst (q := 13) (v := (1 : Int32)) dX2_person_12 rfl (by decide) ?_
    refine r_goto (q := 17) dX2_person_13 (by decide) ?_
    exact r_le (w_X2_person_b17 G h0 N _ _ _ _) (Nat.le_refl _) (And.intro rfl trivial)
theorem c_X2_personHere (G : Gx) (h0 : G0 G) (N : Nat) (a0 : Nat) (σ : Mem) : Ct G mX2_personHere (rhoX rhoR) [vR (some a0)] σ (f_X2_personHere N a0 σ) := by
  refine Ct_of h0 (by decide) rfl (Nat.le_of_ble_eq_true rfl) (L0 := [some (vR (some a0)), none]) rfl ?_
  unfold f_X2_personHere
  refine r_aload_n (q := 1) dX2_personHere_0 rfl rfl rfl ?_
  refine r_ob (fun a3 ha3 => ?_)
  obtain ⟨hea3, hka3⟩ := o_at_eq ha3
  cases hea3
  refine r_callXR (q := 4) (c_X2_found G h0 N _ _) (cl_V (ci := 1) rfl rfl (lw_V q931 q933 qs22 q168 q934) (hd_X2_found) ⟨Nat.le_of_ble_eq_true rfl, Nat.le_of_ble_eq_true rfl⟩ (List.mem_singleton.mp hka3) rfl rfl rfl (Nat.le_of_ble_eq_true rfl) dX2_personHere_1) rfl rfl (fun x1 σ2 => ?_)
  refine r_astore_n (q := 5) dX2_personHere_4 rfl rfl (Nat.le_of_ble_eq_true rfl) rfl ?_
  refine r_aload_n (q := 6) dX2_personHere_5 rfl rfl rfl ?_
  refine r_inst (q := 9) iy_GoatCourt_Person ino_GoatCourt_Person q943 dX2_personHere_6 rfl (fun x4 => ?_)
  refine r_if_ne (q := 12) (t := 18) dX2_personHere_9 rfl (by decide) (fun _ => ?_) (fun _ => ?_)
  · refine r_aload_n (q := 13) dX2_personHere_12 rfl rfl rfl ?_
    refine r_iconst (q := 14) (v := (2 : Int32)) dX2_personHere_13 rfl (by decide) ?_
    refine r_ob (fun a8 ha8 => ?_)
    obtain ⟨hea8, hka8⟩ := o_at_eq ha8
    cases hea8
    refine r_callR (q := 17) (c_X2_fail G h0 N _ _ _) (cl_V (ci := 1) rfl rfl (lw_V q742 q744 qs7 q168 q745) (hd_X2_fail) ⟨Nat.le_of_ble_eq_true rfl, Nat.le_of_ble_eq_true rfl⟩ (List.mem_singleton.mp hka8) rfl rfl rfl (Nat.le_of_ble_eq_true rfl) dX2_personHere_14) rfl (fun x6 σ7 => ?_)
    exact r_athrow (ci := 2) (r0 := (RX3, TX3, 8)) rfl rfl dX2_personHere_17
  · refine r_aload_n (q := 19) dX2_personHere_18 rfl rfl rfl ?_
    refine r_cast (q := 22) iy_GoatCourt_Person q943 dX2_personHere_19 rfl (fun x5 => ?_)
    exact r_areturnX rfl (Or.inl ⟨_, rfl⟩) dX2_personHere_22
theorem c_X11_begin (G : Gx) (h0 : G0 G) (N : Nat) (a0 : Nat) (σ : Mem) : Ct G mX11_begin rhoV [vR (some a0)] σ (f_X11_begin N a0 σ) := by
  refine Ct_of h0 (by decide) rfl (Nat.le_of_ble_eq_true rfl) (L0 := [some (vR (some a0))]) rfl ?_
  unfold f_X11_begin
  refine r_aload_n (q := 1) dX11_begin_0 rfl rfl rfl ?_
  refine r_dup (q := 2) dX11_begin_1 rfl rfl ?_
  refine r_gI (q := 5) fl_X11_18 dX11_begin_2 rfl (fun x1 => ?_)
  refine r_iconst (q := 6) (v := (1 : Int32)) dX11_begin_5 rfl (by decide) ?_
  refine r_iadd (q := 7) dX11_begin_6 rfl ?_
  refine r_pI (q := 10) fp_X11_begin_18 dX11_begin_7 rfl (fun σ2 => ?_)
  exact r_return rfl dX11_begin_10
theorem c_X11_size (G : Gx) (h0 : G0 G) (N : Nat) (a0 : Nat) (σ : Mem) : Ct G mX11_size rhoI [vR (some a0)] σ (f_X11_size N a0 σ) := by
  refine Ct_of h0 (by decide) rfl (Nat.le_of_ble_eq_true rfl) (L0 := [some (vR (some a0))]) rfl ?_
  unfold f_X11_size
  refine r_aload_n (q := 1) dX11_size_0 rfl rfl rfl ?_
  refine r_gR (q := 4) fl_X11_15 rfl dX11_size_1 rfl (fun x1 => ?_)
  refine r_aload_n (q := 5) dX11_size_4 rfl rfl rfl ?_
  refine r_gI (q := 8) fl_X11_18 dX11_size_5 rfl (fun x2 => ?_)
  refine r_iconst (q := 9) (v := (1 : Int32)) dX11_size_8 rfl (by decide) ?_
  refine r_isub (q := 10) dX11_size_9 rfl ?_
  refine r_iaload (q := 11) dX11_size_10 rfl (fun x3 => ?_)
  exact r_ireturn rfl rfl dX11_size_11
theorem c_X11_add (G : Gx) (h0 : G0 G) (N : Nat) (a0 : Nat) (i1 : Int32) (σ : Mem) : Ct G mX11_add rhoV [vR (some a0), vI i1] σ (f_X11_add N a0 i1 σ) := by
  refine Ct_of h0 (by decide) rfl (Nat.le_of_ble_eq_true rfl) (L0 := [some (vR (some a0)), some (vI i1)]) rfl ?_
  unfold f_X11_add
  refine r_aload_n (q := 1) dX11_add_0 rfl rfl rfl ?_
  refine r_gR (q := 4) fl_X11_9 rfl dX11_add_1 rfl (fun x1 => ?_)
  refine r_bipush (q := 6) (v := (12 : Int32)) dX11_add_4 rfl (by decide) ?_
  refine r_aload_n (q := 7) dX11_add_6 rfl rfl rfl ?_
  refine r_gI (q := 10) fl_X11_18 dX11_add_7 rfl (fun x2 => ?_)
  refine r_iconst (q := 11) (v := (1 : Int32)) dX11_add_10 rfl (by decide) ?_
  refine r_isub (q := 12) dX11_add_11 rfl ?_
  refine r_imul (q := 13) dX11_add_12 rfl ?_
  refine r_aload_n (q := 14) dX11_add_13 rfl rfl rfl ?_
  refine r_gR (q := 17) fl_X11_15 rfl dX11_add_14 rfl (fun x3 => ?_)
  refine r_aload_n (q := 18) dX11_add_17 rfl rfl rfl ?_
  refine r_gI (q := 21) fl_X11_18 dX11_add_18 rfl (fun x4 => ?_)
  refine r_iconst (q := 22) (v := (1 : Int32)) dX11_add_21 rfl (by decide) ?_
  refine r_isub (q := 23) dX11_add_22 rfl ?_
  refine r_iaload (q := 24) dX11_add_23 rfl (fun x5 => ?_)
  refine r_iadd (q := 25) dX11_add_24 rfl ?_
  refine r_iload_n (q := 26) dX11_add_25 rfl rfl rfl ?_
  refine r_iastore (q := 27) dX11_add_26 rfl (fun σ6 => ?_)
  refine r_aload_n (q := 28) dX11_add_27 rfl rfl rfl ?_
  refine r_gR (q := 31) fl_X11_15 rfl dX11_add_28 rfl (fun x7 => ?_)
  refine r_aload_n (q := 32) dX11_add_31 rfl rfl rfl ?_
  refine r_gI (q := 35) fl_X11_18 dX11_add_32 rfl (fun x8 => ?_)
  refine r_iconst (q := 36) (v := (1 : Int32)) dX11_add_35 rfl (by decide) ?_
  refine r_isub (q := 37) dX11_add_36 rfl ?_
  refine r_dup2 (q := 38) dX11_add_37 rfl rfl rfl ?_
  refine r_iaload (q := 39) dX11_add_38 rfl (fun x9 => ?_)
  refine r_iconst (q := 40) (v := (1 : Int32)) dX11_add_39 rfl (by decide) ?_
  refine r_iadd (q := 41) dX11_add_40 rfl ?_
  refine r_iastore (q := 42) dX11_add_41 rfl (fun σ10 => ?_)
  exact r_return rfl dX11_add_42
theorem w_X2_story_b34B (G : Gx) (h0 : G0 G) (N : Nat)   (K34 : Nat → Option Nat → Int32 → Mem → Option ((Unit ⊕ Ex) × Mem)) (hK34 : ∀ (a0 : Nat) (l1 : Option Nat) (l2 : Int32) (σ : Mem), Runs G mX2_story (rhoX rhoV) σ 34 [some (vR (some a0)), some (vR l1), some (vI l2), none] [] (K34 a0 l1 l2 σ)) (a0 : Nat) (l1 : Option Nat) (l2 : Int32) (σ : Mem) : Runs G mX2_story (rhoX rhoV) σ 34 [some (vR (some a0)), some (vR l1), some (vI l2), none] [] (f_X2_story_b34B N  K34 a0 l1 l2 σ) := by
  unfold f_X2_story_b34B
  refine r_iload_n (q := 35) dX2_story_34 rfl rfl rfl ?_
  refine r_if_eq (q := 38) (t := 83) dX2_story_35 rfl (by decide) (fun _ => ?_) (fun _ => ?_)
  · exact r_returnX rfl dX2_story_83
  · refine r_aload_n (q := 39) dX2_story_38 rfl rfl rfl ?_
    refine r_ob (fun a3 ha3 => ?_)
    obtain ⟨hea3, hka3⟩ := o_at_eq ha3
    cases hea3
    refine r_callXR (q := 42) (c_X2_placeHere G h0 N _ _) (cl_V (ci := 1) rfl rfl (lw_V q927 q929 qs21 q168 q930) (hd_X2_placeHere) ⟨Nat.le_of_ble_eq_true rfl, Nat.le_of_ble_eq_true rfl⟩ (List.mem_singleton.mp hka3) rfl rfl rfl (Nat.le_of_ble_eq_true rfl) dX2_story_39) rfl rfl (fun x1 σ2 => ?_)
    refine r_astore_n (q := 43) dX2_story_42 rfl rfl (Nat.le_of_ble_eq_true rfl) rfl ?_
    refine r_aload_n (q := 44) dX2_story_43 rfl rfl rfl ?_
    refine r_ob (fun a6 ha6 => ?_)
    obtain ⟨hea6, hka6⟩ := o_at_eq ha6
    cases hea6
    refine r_callI (q := 47) (c_X11_size G h0 N _ _) (cl_V (ci := 9) rfl rfl (lw_V q976 q977 q978 q185 q979) (hd_X11_size) ⟨Nat.le_of_ble_eq_true rfl, Nat.le_of_ble_eq_true rfl⟩ (List.mem_singleton.mp hka6) rfl rfl rfl (Nat.le_of_ble_eq_true rfl) dX2_story_44) rfl (fun x4 σ5 => ?_)
    refine r_aload_n (q := 48) dX2_story_47 rfl rfl rfl ?_
    refine r_gR (q := 51) fl_X2_127 rfl dX2_story_48 rfl (fun x7 => ?_)
    refine r_gI (q := 54) fl_X2_163 dX2_story_51 rfl (fun x8 => ?_)
    refine r_icmp_ne (q := 57) (t := 63) dX2_story_54 rfl (by decide) (fun _ => ?_) (fun _ => ?_)
    · refine r_aload_n (q := 58) dX2_story_57 rfl rfl rfl ?_
      refine r_iconst (q := 59) (v := (5 : Int32)) dX2_story_58 rfl (by decide) ?_
      refine r_ob (fun a21 ha21 => ?_)
      obtain ⟨hea21, hka21⟩ := o_at_eq ha21
      cases hea21
      refine r_callR (q := 62) (c_X2_fail G h0 N _ _ _) (cl_V (ci := 1) rfl rfl (lw_V q742 q744 qs7 q168 q745) (hd_X2_fail) ⟨Nat.le_of_ble_eq_true rfl, Nat.le_of_ble_eq_true rfl⟩ (List.mem_singleton.mp hka21) rfl rfl rfl (Nat.le_of_ble_eq_true rfl) dX2_story_59) rfl (fun x19 σ20 => ?_)
      exact r_athrow (ci := 2) (r0 := (RX3, TX3, 8)) rfl rfl dX2_story_62
    · refine r_aload_n (q := 64) dX2_story_63 rfl rfl rfl ?_
      refine r_aload_n (q := 65) dX2_story_64 rfl rfl rfl ?_
      refine r_gI (q := 68) fl_X2_253 dX2_story_65 rfl (fun x9 => ?_)
      refine r_ob (fun a12 ha12 => ?_)
      obtain ⟨hea12, hka12⟩ := o_at_eq ha12
      cases hea12
      refine r_callV (q := 71) (c_X11_add G h0 N _ _ _) (cl_V (ci := 9) rfl rfl (lw_V q980 q981 q982 q185 q983) (hd_X11_add) ⟨Nat.le_of_ble_eq_true rfl, Nat.le_of_ble_eq_true rfl⟩ (List.mem_singleton.mp hka12) rfl rfl rfl (Nat.le_of_ble_eq_true rfl) dX2_story_68) rfl (fun u10 σ11 => ?_)
      refine r_aload_n (q := 72) dX2_story_71 rfl rfl rfl ?_
      refine r_ob (fun a15 ha15 => ?_)
      obtain ⟨hea15, hka15⟩ := o_at_eq ha15
      cases hea15
      refine r_callV (q := 75) (c_X2_next G h0 N _ _) (cl_V (ci := 1) rfl rfl (lw_V q644 q646 qs4 q168 q647) (hd_X2_next) ⟨Nat.le_of_ble_eq_true rfl, Nat.le_of_ble_eq_true rfl⟩ (List.mem_singleton.mp hka15) rfl rfl rfl (Nat.le_of_ble_eq_true rfl) dX2_story_72) rfl (fun u13 σ14 => ?_)
      refine r_aload_n (q := 76) dX2_story_75 rfl rfl rfl ?_
      refine r_ob (fun a18 ha18 => ?_)
      obtain ⟨hea18, hka18⟩ := o_at_eq ha18
      cases hea18
      refine r_callI (q := 79) (c_X2_comma G h0 N _ _) (cl_V (ci := 1) rfl rfl (lw_V q915 q917 qs18 q168 q918) (hd_X2_comma) ⟨Nat.le_of_ble_eq_true rfl, Nat.le_of_ble_eq_true rfl⟩ (List.mem_singleton.mp hka18) rfl rfl rfl (Nat.le_of_ble_eq_true rfl) dX2_story_76) rfl (fun x16 σ17 => ?_)
      refine r_istore_n (q := 80) dX2_story_79 rfl rfl (Nat.le_of_ble_eq_true rfl) rfl ?_
      refine r_goto (q := 34) dX2_story_80 (by decide) ?_
      exact r_le (hK34 _ _ _ _) (Nat.le_refl _) (And.intro rfl (And.intro rfl (And.intro rfl trivial)))
theorem w_X2_story_b34 (G : Gx) (h0 : G0 G) (N : Nat)   : ∀ (z : Nat) (a0 : Nat) (l1 : Option Nat) (l2 : Int32) (σ : Mem), Runs G mX2_story (rhoX rhoV) σ 34 [some (vR (some a0)), some (vR l1), some (vI l2), none] [] (f_X2_story_b34 N  z a0 l1 l2 σ) := by
  intro z
  induction z with
  | zero => exact fun _ _ _ _ => r_none
  | succ z ih => exact fun a0 l1 l2 σ => w_X2_story_b34B G h0 N   _ ih a0 l1 l2 σ
theorem c_X2_story (G : Gx) (h0 : G0 G) (N : Nat) (a0 : Nat) (σ : Mem) : Ct G mX2_story (rhoX rhoV) [vR (some a0)] σ (f_X2_story N a0 σ) := by
  refine Ct_of h0 (by decide) rfl (Nat.le_of_ble_eq_true rfl) (L0 := [some (vR (some a0)), none, none, none]) rfl ?_
  unfold f_X2_story
  refine r_aload_n (q := 1) dX2_story_0 rfl rfl rfl ?_
  refine r_iconst (q := 2) (v := (1 : Int32)) dX2_story_1 rfl (by decide) ?_
  refine r_ob (fun a3 ha3 => ?_)
  obtain ⟨hea3, hka3⟩ := o_at_eq ha3
  cases hea3
  refine r_callXV (q := 5) (c_X2_begins G h0 N _ _ _) (cl_V (ci := 1) rfl rfl (lw_V q853 q855 qs14 q168 q856) (hd_X2_begins) ⟨Nat.le_of_ble_eq_true rfl, Nat.le_of_ble_eq_true rfl⟩ (List.mem_singleton.mp hka3) rfl rfl rfl (Nat.le_of_ble_eq_true rfl) dX2_story_2) rfl rfl (fun u1 σ2 => ?_)
  refine r_aload_n (q := 6) dX2_story_5 rfl rfl rfl ?_
  refine r_ob (fun a6 ha6 => ?_)
  obtain ⟨hea6, hka6⟩ := o_at_eq ha6
  cases hea6
  refine r_callXR (q := 9) (c_X2_personHere G h0 N _ _) (cl_V (ci := 1) rfl rfl (lw_V q968 q970 qs25 q168 q971) (hd_X2_personHere) ⟨Nat.le_of_ble_eq_true rfl, Nat.le_of_ble_eq_true rfl⟩ (List.mem_singleton.mp hka6) rfl rfl rfl (Nat.le_of_ble_eq_true rfl) dX2_story_6) rfl rfl (fun x4 σ5 => ?_)
  refine r_astore_n (q := 10) dX2_story_9 rfl rfl (Nat.le_of_ble_eq_true rfl) rfl ?_
  refine r_aload_n (q := 11) dX2_story_10 rfl rfl rfl ?_
  refine r_gI (q := 14) fl_X2_278 dX2_story_11 rfl (fun x7 => ?_)
  refine r_iconst (q := 15) (v := (3 : Int32)) dX2_story_14 rfl (by decide) ?_
  refine r_icmp_ne (q := 18) (t := 24) dX2_story_15 rfl (by decide) (fun _ => ?_) (fun _ => ?_)
  · refine r_aload_n (q := 19) dX2_story_18 rfl rfl rfl ?_
    refine r_iconst (q := 20) (v := (5 : Int32)) dX2_story_19 rfl (by decide) ?_
    refine r_ob (fun a16 ha16 => ?_)
    obtain ⟨hea16, hka16⟩ := o_at_eq ha16
    cases hea16
    refine r_callR (q := 23) (c_X2_fail G h0 N _ _ _) (cl_V (ci := 1) rfl rfl (lw_V q742 q744 qs7 q168 q745) (hd_X2_fail) ⟨Nat.le_of_ble_eq_true rfl, Nat.le_of_ble_eq_true rfl⟩ (List.mem_singleton.mp hka16) rfl rfl rfl (Nat.le_of_ble_eq_true rfl) dX2_story_20) rfl (fun x14 σ15 => ?_)
    exact r_athrow (ci := 2) (r0 := (RX3, TX3, 8)) rfl rfl dX2_story_23
  · refine r_aload_n (q := 25) dX2_story_24 rfl rfl rfl ?_
    refine r_ob (fun a10 ha10 => ?_)
    obtain ⟨hea10, hka10⟩ := o_at_eq ha10
    cases hea10
    refine r_callV (q := 28) (c_X2_next G h0 N _ _) (cl_V (ci := 1) rfl rfl (lw_V q644 q646 qs4 q168 q647) (hd_X2_next) ⟨Nat.le_of_ble_eq_true rfl, Nat.le_of_ble_eq_true rfl⟩ (List.mem_singleton.mp hka10) rfl rfl rfl (Nat.le_of_ble_eq_true rfl) dX2_story_25) rfl (fun u8 σ9 => ?_)
    refine r_aload_n (q := 29) dX2_story_28 rfl rfl rfl ?_
    refine r_ob (fun a13 ha13 => ?_)
    obtain ⟨hea13, hka13⟩ := o_at_eq ha13
    cases hea13
    refine r_callV (q := 32) (c_X11_begin G h0 N _ _) (cl_V (ci := 9) rfl rfl (lw_V q972 q973 q974 q185 q975) (hd_X11_begin) ⟨Nat.le_of_ble_eq_true rfl, Nat.le_of_ble_eq_true rfl⟩ (List.mem_singleton.mp hka13) rfl rfl rfl (Nat.le_of_ble_eq_true rfl) dX2_story_29) rfl (fun u11 σ12 => ?_)
    refine r_iconst (q := 33) (v := (1 : Int32)) dX2_story_32 rfl (by decide) ?_
    refine r_istore_n (q := 34) dX2_story_33 rfl rfl (Nat.le_of_ble_eq_true rfl) rfl ?_
    exact r_le (w_X2_story_b34 G h0 N N _ _ _ _) (Nat.le_refl _) (And.intro rfl (And.intro rfl (And.intro rfl trivial)))
theorem c_X12_init (G : Gx) (h0 : G0 G) (N : Nat) (a0 : Nat) (o1 : Option Nat) (i2 : Int32) (σ : Mem) : Ct G mX12_init rhoV [vR (some a0), vR o1, vI i2] σ (f_X12_init N a0 o1 i2 σ) := by
  refine Ct_of h0 (by decide) rfl (Nat.le_of_ble_eq_true rfl) (L0 := [some (vR (some a0)), some (vR o1), some (vI i2)]) rfl ?_
  unfold f_X12_init
  refine r_aload_n (q := 1) dX12_init_0 rfl rfl rfl ?_
  refine r_aload_n (q := 2) dX12_init_1 rfl rfl rfl ?_
  refine r_iload_n (q := 3) dX12_init_2 rfl rfl rfl ?_
  refine r_callV (q := 6) (c_X9_init G h0 N _ _ _ _) (cl_I rfl rfl rfl rfl q1001 q880 q183 q881 (hd_X9_init) ⟨Nat.le_of_ble_eq_true rfl, Nat.le_of_ble_eq_true rfl⟩ rfl (Nat.le_of_ble_eq_true rfl) dX12_init_3) rfl (fun u1 σ2 => ?_)
  refine r_aload_n (q := 7) dX12_init_6 rfl rfl rfl ?_
  refine r_iconst (q := 8) (v := (4 : Int32)) dX12_init_7 rfl (by decide) ?_
  refine r_newarray (q := 10) (k0 := 1) (by decide) rfl q344 dX12_init_8 rfl (fun a3 σ4 => ?_)
  refine r_pR (q := 13) fp_X12_init_9 rfl dX12_init_10 rfl (fun σ5 => ?_)
  exact r_return rfl dX12_init_13
theorem c_X13_init (G : Gx) (h0 : G0 G) (N : Nat) (a0 : Nat) (o1 : Option Nat) (i2 : Int32) (σ : Mem) : Ct G mX13_init rhoV [vR (some a0), vR o1, vI i2] σ (f_X13_init N a0 o1 i2 σ) := by
  refine Ct_of h0 (by decide) rfl (Nat.le_of_ble_eq_true rfl) (L0 := [some (vR (some a0)), some (vR o1), some (vI i2)]) rfl ?_
  unfold f_X13_init
  refine r_aload_n (q := 1) dX13_init_0 rfl rfl rfl ?_
  refine r_aload_n (q := 2) dX13_init_1 rfl rfl rfl ?_
  refine r_iload_n (q := 3) dX13_init_2 rfl rfl rfl ?_
  refine r_callV (q := 6) (c_X12_init G h0 N _ _ _ _) (cl_I rfl rfl rfl rfl q998 q999 q186 q1000 (hd_X12_init) ⟨Nat.le_of_ble_eq_true rfl, Nat.le_of_ble_eq_true rfl⟩ rfl (Nat.le_of_ble_eq_true rfl) dX13_init_3) rfl (fun u1 σ2 => ?_)
  exact r_return rfl dX13_init_6
theorem c_X14_init (G : Gx) (h0 : G0 G) (N : Nat) (a0 : Nat) (o1 : Option Nat) (i2 : Int32) (σ : Mem) : Ct G mX14_init rhoV [vR (some a0), vR o1, vI i2] σ (f_X14_init N a0 o1 i2 σ) := by
  refine Ct_of h0 (by decide) rfl (Nat.le_of_ble_eq_true rfl) (L0 := [some (vR (some a0)), some (vR o1), some (vI i2)]) rfl ?_
  unfold f_X14_init
  refine r_aload_n (q := 1) dX14_init_0 rfl rfl rfl ?_
  refine r_aload_n (q := 2) dX14_init_1 rfl rfl rfl ?_
  refine r_iload_n (q := 3) dX14_init_2 rfl rfl rfl ?_
  refine r_callV (q := 6) (c_X12_init G h0 N _ _ _ _) (cl_I rfl rfl rfl rfl q1036 q999 q186 q1000 (hd_X12_init) ⟨Nat.le_of_ble_eq_true rfl, Nat.le_of_ble_eq_true rfl⟩ rfl (Nat.le_of_ble_eq_true rfl) dX14_init_3) rfl (fun u1 σ2 => ?_)
  exact r_return rfl dX14_init_6
