/-! the walks of X7_bits X7_readRule X7_beginsOnce X7_readProof X7_readCourt X7_readCheese X7_readLine X7_readAll X24_cases X7_good X7_hill X1_fault X7_fault X1_where X7_where X1_isPlace X1_isPlant X1_plants X7_isPlace X7_isPlant X7_plants X1_near X7_near X1_isGoat X13_kind X14_kind X15_kind X16_kind X12_mother X16_mother X1_cluesOf X1_goat X7_isGoat X7_isHeard -/
set_option maxRecDepth 100000
def dkwX7_bits_0 : List UInt8 := [3, 60, 26, 61, 28, 153, 0, 15, 132, 1, 1, 28, 28, 4, 100, 126, 61, 167, 255, 243, 27, 172]
abbrev dktX7_bits_0 : List UInt8 := dkwX7_bits_0 ++ []
theorem dksX7_bits_0 : cX7_bits.data.toList.drop 0 = dktX7_bits_0 := by decide +kernel
theorem dX7_bits_0 : decode cX7_bits 0 = .ok (.iconst 0, 1) := dk_3 (dk_at dksX7_bits_0 0 rfl rfl)
theorem dX7_bits_1 : decode cX7_bits 1 = .ok (.istore_n 1, 1) := dk_60 (dk_at dksX7_bits_0 1 rfl rfl)
theorem dX7_bits_2 : decode cX7_bits 2 = .ok (.iload_n 0, 1) := dk_26 (dk_at dksX7_bits_0 2 rfl rfl)
theorem dX7_bits_3 : decode cX7_bits 3 = .ok (.istore_n 2, 1) := dk_61 (dk_at dksX7_bits_0 3 rfl rfl)
theorem dX7_bits_4 : decode cX7_bits 4 = .ok (.iload_n 2, 1) := dk_28 (dk_at dksX7_bits_0 4 rfl rfl)
theorem dX7_bits_5 : decode cX7_bits 5 = .ok (.ifCond .eq 15, 3) := dk_153 0 15 (dk_at dksX7_bits_0 5 rfl rfl)
theorem dX7_bits_8 : decode cX7_bits 8 = .ok (.iinc 1 1, 3) := dk_132 1 1 (dk_at dksX7_bits_0 8 rfl rfl)
theorem dX7_bits_11 : decode cX7_bits 11 = .ok (.iload_n 2, 1) := dk_28 (dk_at dksX7_bits_0 11 rfl rfl)
theorem dX7_bits_12 : decode cX7_bits 12 = .ok (.iload_n 2, 1) := dk_28 (dk_at dksX7_bits_0 12 rfl rfl)
theorem dX7_bits_13 : decode cX7_bits 13 = .ok (.iconst 1, 1) := dk_4 (dk_at dksX7_bits_0 13 rfl rfl)
theorem dX7_bits_14 : decode cX7_bits 14 = .ok (.isub, 1) := dk_100 (dk_at dksX7_bits_0 14 rfl rfl)
theorem dX7_bits_15 : decode cX7_bits 15 = .ok (.iand, 1) := dk_126 (dk_at dksX7_bits_0 15 rfl rfl)
theorem dX7_bits_16 : decode cX7_bits 16 = .ok (.istore_n 2, 1) := dk_61 (dk_at dksX7_bits_0 16 rfl rfl)
theorem dX7_bits_17 : decode cX7_bits 17 = .ok (.goto (-13), 3) := dk_167 255 243 (dk_at dksX7_bits_0 17 rfl rfl)
theorem dX7_bits_20 : decode cX7_bits 20 = .ok (.iload_n 1, 1) := dk_27 (dk_at dksX7_bits_0 20 rfl rfl)
theorem dX7_bits_21 : decode cX7_bits 21 = .ok (.ireturn, 1) := dk_172 (dk_at dksX7_bits_0 21 rfl rfl)
def dkwX7_readRule_6 : List UInt8 := [180, 0, 192, 180, 1, 137, 28, 79, 42, 180, 0, 192, 89, 180, 1, 137, 4, 96, 181, 1, 137, 177]
abbrev dktX7_readRule_6 : List UInt8 := dkwX7_readRule_6 ++ []
def dkwX7_readRule_5 : List UInt8 := [180, 0, 192, 180, 1, 143, 42, 180, 0, 192, 180, 1, 137, 27, 79, 42, 180, 0, 192, 180, 1, 146, 42]
abbrev dktX7_readRule_5 : List UInt8 := dkwX7_readRule_5 ++ dktX7_readRule_6
def dkwX7_readRule_4 : List UInt8 := [8, 160, 0, 4, 177, 28, 4, 21, 4, 120, 128, 61, 42, 16, 44, 182, 0, 238, 62, 167, 255, 175, 42]
abbrev dktX7_readRule_4 : List UInt8 := dkwX7_readRule_4 ++ dktX7_readRule_5
def dkwX7_readRule_3 : List UInt8 := [159, 0, 16, 28, 184, 1, 140, 6, 160, 0, 8, 42, 8, 182, 0, 143, 42, 182, 0, 136, 42, 180, 0, 94]
abbrev dktX7_readRule_3 : List UInt8 := dkwX7_readRule_3 ++ dktX7_readRule_4
def dkwX7_readRule_2 : List UInt8 := [159, 0, 17, 28, 21, 4, 184, 1, 110, 153, 0, 8, 42, 6, 182, 0, 143, 42, 180, 0, 94, 8]
abbrev dktX7_readRule_2 : List UInt8 := dkwX7_readRule_2 ++ dktX7_readRule_3
def dkwX7_readRule_1 : List UInt8 := [182, 0, 151, 3, 61, 4, 62, 29, 153, 0, 83, 42, 6, 182, 0, 226, 54, 4, 42, 180, 0, 94, 8]
abbrev dktX7_readRule_1 : List UInt8 := dkwX7_readRule_1 ++ dktX7_readRule_2
def dkwX7_readRule_0 : List UInt8 := [42, 42, 180, 0, 192, 180, 1, 137, 16, 8, 182, 0, 201, 42, 6, 182, 1, 53, 60, 42, 18, 190]
abbrev dktX7_readRule_0 : List UInt8 := dkwX7_readRule_0 ++ dktX7_readRule_1
theorem dksX7_readRule_0 : cX7_readRule.data.toList.drop 0 = dktX7_readRule_0 := by decide +kernel
theorem dksX7_readRule_1 : cX7_readRule.data.toList.drop 22 = dktX7_readRule_1 := dk_seg dksX7_readRule_0 22 rfl rfl
theorem dksX7_readRule_2 : cX7_readRule.data.toList.drop 45 = dktX7_readRule_2 := dk_seg dksX7_readRule_1 23 rfl rfl
theorem dksX7_readRule_3 : cX7_readRule.data.toList.drop 67 = dktX7_readRule_3 := dk_seg dksX7_readRule_2 22 rfl rfl
theorem dksX7_readRule_4 : cX7_readRule.data.toList.drop 91 = dktX7_readRule_4 := dk_seg dksX7_readRule_3 24 rfl rfl
theorem dksX7_readRule_5 : cX7_readRule.data.toList.drop 114 = dktX7_readRule_5 := dk_seg dksX7_readRule_4 23 rfl rfl
theorem dksX7_readRule_6 : cX7_readRule.data.toList.drop 137 = dktX7_readRule_6 := dk_seg dksX7_readRule_5 23 rfl rfl
theorem dX7_readRule_0 : decode cX7_readRule 0 = .ok (.aload_n 0, 1) := dk_42 (dk_at dksX7_readRule_0 0 rfl rfl)
theorem dX7_readRule_1 : decode cX7_readRule 1 = .ok (.aload_n 0, 1) := dk_42 (dk_at dksX7_readRule_0 1 rfl rfl)
theorem dX7_readRule_2 : decode cX7_readRule 2 = .ok (.getfield 192, 3) := dk_180 0 192 (dk_at dksX7_readRule_0 2 rfl rfl)
theorem dX7_readRule_5 : decode cX7_readRule 5 = .ok (.getfield 393, 3) := dk_180 1 137 (dk_at dksX7_readRule_0 5 rfl rfl)
theorem dX7_readRule_8 : decode cX7_readRule 8 = .ok (.bipush 8, 2) := dk_16 8 (dk_at dksX7_readRule_0 8 rfl rfl)
theorem dX7_readRule_10 : decode cX7_readRule 10 = .ok (.invokevirtual 201, 3) := dk_182 0 201 (dk_at dksX7_readRule_0 10 rfl rfl)
theorem dX7_readRule_13 : decode cX7_readRule 13 = .ok (.aload_n 0, 1) := dk_42 (dk_at dksX7_readRule_0 13 rfl rfl)
theorem dX7_readRule_14 : decode cX7_readRule 14 = .ok (.iconst 3, 1) := dk_6 (dk_at dksX7_readRule_0 14 rfl rfl)
theorem dX7_readRule_15 : decode cX7_readRule 15 = .ok (.invokevirtual 309, 3) := dk_182 1 53 (dk_at dksX7_readRule_0 15 rfl rfl)
theorem dX7_readRule_18 : decode cX7_readRule 18 = .ok (.istore_n 1, 1) := dk_60 (dk_at dksX7_readRule_0 18 rfl rfl)
theorem dX7_readRule_19 : decode cX7_readRule 19 = .ok (.aload_n 0, 1) := dk_42 (dk_at dksX7_readRule_0 19 rfl rfl)
theorem dX7_readRule_20 : decode cX7_readRule 20 = .ok (.ldc 190, 2) := dk_18 190 (dk_at dksX7_readRule_0 20 rfl rfl)
theorem dX7_readRule_22 : decode cX7_readRule 22 = .ok (.invokevirtual 151, 3) := dk_182 0 151 (dk_at dksX7_readRule_1 0 rfl rfl)
theorem dX7_readRule_25 : decode cX7_readRule 25 = .ok (.iconst 0, 1) := dk_3 (dk_at dksX7_readRule_1 3 rfl rfl)
theorem dX7_readRule_26 : decode cX7_readRule 26 = .ok (.istore_n 2, 1) := dk_61 (dk_at dksX7_readRule_1 4 rfl rfl)
theorem dX7_readRule_27 : decode cX7_readRule 27 = .ok (.iconst 1, 1) := dk_4 (dk_at dksX7_readRule_1 5 rfl rfl)
theorem dX7_readRule_28 : decode cX7_readRule 28 = .ok (.istore_n 3, 1) := dk_62 (dk_at dksX7_readRule_1 6 rfl rfl)
theorem dX7_readRule_29 : decode cX7_readRule 29 = .ok (.iload_n 3, 1) := dk_29 (dk_at dksX7_readRule_1 7 rfl rfl)
theorem dX7_readRule_30 : decode cX7_readRule 30 = .ok (.ifCond .eq 83, 3) := dk_153 0 83 (dk_at dksX7_readRule_1 8 rfl rfl)
theorem dX7_readRule_33 : decode cX7_readRule 33 = .ok (.aload_n 0, 1) := dk_42 (dk_at dksX7_readRule_1 11 rfl rfl)
theorem dX7_readRule_34 : decode cX7_readRule 34 = .ok (.iconst 3, 1) := dk_6 (dk_at dksX7_readRule_1 12 rfl rfl)
theorem dX7_readRule_35 : decode cX7_readRule 35 = .ok (.invokevirtual 226, 3) := dk_182 0 226 (dk_at dksX7_readRule_1 13 rfl rfl)
theorem dX7_readRule_38 : decode cX7_readRule 38 = .ok (.istore 4, 2) := dk_54 4 (dk_at dksX7_readRule_1 16 rfl rfl)
theorem dX7_readRule_40 : decode cX7_readRule 40 = .ok (.aload_n 0, 1) := dk_42 (dk_at dksX7_readRule_1 18 rfl rfl)
theorem dX7_readRule_41 : decode cX7_readRule 41 = .ok (.getfield 94, 3) := dk_180 0 94 (dk_at dksX7_readRule_1 19 rfl rfl)
theorem dX7_readRule_44 : decode cX7_readRule 44 = .ok (.iconst 5, 1) := dk_8 (dk_at dksX7_readRule_1 22 rfl rfl)
theorem dX7_readRule_45 : decode cX7_readRule 45 = .ok (.if_icmp .eq 17, 3) := dk_159 0 17 (dk_at dksX7_readRule_2 0 rfl rfl)
theorem dX7_readRule_48 : decode cX7_readRule 48 = .ok (.iload_n 2, 1) := dk_28 (dk_at dksX7_readRule_2 3 rfl rfl)
theorem dX7_readRule_49 : decode cX7_readRule 49 = .ok (.iload 4, 2) := dk_21 4 (dk_at dksX7_readRule_2 4 rfl rfl)
theorem dX7_readRule_51 : decode cX7_readRule 51 = .ok (.invokestatic 366, 3) := dk_184 1 110 (dk_at dksX7_readRule_2 6 rfl rfl)
theorem dX7_readRule_54 : decode cX7_readRule 54 = .ok (.ifCond .eq 8, 3) := dk_153 0 8 (dk_at dksX7_readRule_2 9 rfl rfl)
theorem dX7_readRule_57 : decode cX7_readRule 57 = .ok (.aload_n 0, 1) := dk_42 (dk_at dksX7_readRule_2 12 rfl rfl)
theorem dX7_readRule_58 : decode cX7_readRule 58 = .ok (.iconst 3, 1) := dk_6 (dk_at dksX7_readRule_2 13 rfl rfl)
theorem dX7_readRule_59 : decode cX7_readRule 59 = .ok (.invokevirtual 143, 3) := dk_182 0 143 (dk_at dksX7_readRule_2 14 rfl rfl)
theorem dX7_readRule_62 : decode cX7_readRule 62 = .ok (.aload_n 0, 1) := dk_42 (dk_at dksX7_readRule_2 17 rfl rfl)
theorem dX7_readRule_63 : decode cX7_readRule 63 = .ok (.getfield 94, 3) := dk_180 0 94 (dk_at dksX7_readRule_2 18 rfl rfl)
theorem dX7_readRule_66 : decode cX7_readRule 66 = .ok (.iconst 5, 1) := dk_8 (dk_at dksX7_readRule_2 21 rfl rfl)
theorem dX7_readRule_67 : decode cX7_readRule 67 = .ok (.if_icmp .eq 16, 3) := dk_159 0 16 (dk_at dksX7_readRule_3 0 rfl rfl)
theorem dX7_readRule_70 : decode cX7_readRule 70 = .ok (.iload_n 2, 1) := dk_28 (dk_at dksX7_readRule_3 3 rfl rfl)
theorem dX7_readRule_71 : decode cX7_readRule 71 = .ok (.invokestatic 396, 3) := dk_184 1 140 (dk_at dksX7_readRule_3 4 rfl rfl)
theorem dX7_readRule_74 : decode cX7_readRule 74 = .ok (.iconst 3, 1) := dk_6 (dk_at dksX7_readRule_3 7 rfl rfl)
theorem dX7_readRule_75 : decode cX7_readRule 75 = .ok (.if_icmp .ne 8, 3) := dk_160 0 8 (dk_at dksX7_readRule_3 8 rfl rfl)
theorem dX7_readRule_78 : decode cX7_readRule 78 = .ok (.aload_n 0, 1) := dk_42 (dk_at dksX7_readRule_3 11 rfl rfl)
theorem dX7_readRule_79 : decode cX7_readRule 79 = .ok (.iconst 5, 1) := dk_8 (dk_at dksX7_readRule_3 12 rfl rfl)
theorem dX7_readRule_80 : decode cX7_readRule 80 = .ok (.invokevirtual 143, 3) := dk_182 0 143 (dk_at dksX7_readRule_3 13 rfl rfl)
theorem dX7_readRule_83 : decode cX7_readRule 83 = .ok (.aload_n 0, 1) := dk_42 (dk_at dksX7_readRule_3 16 rfl rfl)
theorem dX7_readRule_84 : decode cX7_readRule 84 = .ok (.invokevirtual 136, 3) := dk_182 0 136 (dk_at dksX7_readRule_3 17 rfl rfl)
theorem dX7_readRule_87 : decode cX7_readRule 87 = .ok (.aload_n 0, 1) := dk_42 (dk_at dksX7_readRule_3 20 rfl rfl)
theorem dX7_readRule_88 : decode cX7_readRule 88 = .ok (.getfield 94, 3) := dk_180 0 94 (dk_at dksX7_readRule_3 21 rfl rfl)
theorem dX7_readRule_91 : decode cX7_readRule 91 = .ok (.iconst 5, 1) := dk_8 (dk_at dksX7_readRule_4 0 rfl rfl)
theorem dX7_readRule_92 : decode cX7_readRule 92 = .ok (.if_icmp .ne 4, 3) := dk_160 0 4 (dk_at dksX7_readRule_4 1 rfl rfl)
theorem dX7_readRule_95 : decode cX7_readRule 95 = .ok (.return_, 1) := dk_177 (dk_at dksX7_readRule_4 4 rfl rfl)
theorem dX7_readRule_96 : decode cX7_readRule 96 = .ok (.iload_n 2, 1) := dk_28 (dk_at dksX7_readRule_4 5 rfl rfl)
theorem dX7_readRule_97 : decode cX7_readRule 97 = .ok (.iconst 1, 1) := dk_4 (dk_at dksX7_readRule_4 6 rfl rfl)
theorem dX7_readRule_98 : decode cX7_readRule 98 = .ok (.iload 4, 2) := dk_21 4 (dk_at dksX7_readRule_4 7 rfl rfl)
theorem dX7_readRule_100 : decode cX7_readRule 100 = .ok (.ishl, 1) := dk_120 (dk_at dksX7_readRule_4 9 rfl rfl)
theorem dX7_readRule_101 : decode cX7_readRule 101 = .ok (.ior, 1) := dk_128 (dk_at dksX7_readRule_4 10 rfl rfl)
theorem dX7_readRule_102 : decode cX7_readRule 102 = .ok (.istore_n 2, 1) := dk_61 (dk_at dksX7_readRule_4 11 rfl rfl)
theorem dX7_readRule_103 : decode cX7_readRule 103 = .ok (.aload_n 0, 1) := dk_42 (dk_at dksX7_readRule_4 12 rfl rfl)
theorem dX7_readRule_104 : decode cX7_readRule 104 = .ok (.bipush 44, 2) := dk_16 44 (dk_at dksX7_readRule_4 13 rfl rfl)
theorem dX7_readRule_106 : decode cX7_readRule 106 = .ok (.invokevirtual 238, 3) := dk_182 0 238 (dk_at dksX7_readRule_4 15 rfl rfl)
theorem dX7_readRule_109 : decode cX7_readRule 109 = .ok (.istore_n 3, 1) := dk_62 (dk_at dksX7_readRule_4 18 rfl rfl)
theorem dX7_readRule_110 : decode cX7_readRule 110 = .ok (.goto (-81), 3) := dk_167 255 175 (dk_at dksX7_readRule_4 19 rfl rfl)
theorem dX7_readRule_113 : decode cX7_readRule 113 = .ok (.aload_n 0, 1) := dk_42 (dk_at dksX7_readRule_4 22 rfl rfl)
theorem dX7_readRule_114 : decode cX7_readRule 114 = .ok (.getfield 192, 3) := dk_180 0 192 (dk_at dksX7_readRule_5 0 rfl rfl)
theorem dX7_readRule_117 : decode cX7_readRule 117 = .ok (.getfield 399, 3) := dk_180 1 143 (dk_at dksX7_readRule_5 3 rfl rfl)
theorem dX7_readRule_120 : decode cX7_readRule 120 = .ok (.aload_n 0, 1) := dk_42 (dk_at dksX7_readRule_5 6 rfl rfl)
theorem dX7_readRule_121 : decode cX7_readRule 121 = .ok (.getfield 192, 3) := dk_180 0 192 (dk_at dksX7_readRule_5 7 rfl rfl)
theorem dX7_readRule_124 : decode cX7_readRule 124 = .ok (.getfield 393, 3) := dk_180 1 137 (dk_at dksX7_readRule_5 10 rfl rfl)
theorem dX7_readRule_127 : decode cX7_readRule 127 = .ok (.iload_n 1, 1) := dk_27 (dk_at dksX7_readRule_5 13 rfl rfl)
theorem dX7_readRule_128 : decode cX7_readRule 128 = .ok (.iastore, 1) := dk_79 (dk_at dksX7_readRule_5 14 rfl rfl)
theorem dX7_readRule_129 : decode cX7_readRule 129 = .ok (.aload_n 0, 1) := dk_42 (dk_at dksX7_readRule_5 15 rfl rfl)
theorem dX7_readRule_130 : decode cX7_readRule 130 = .ok (.getfield 192, 3) := dk_180 0 192 (dk_at dksX7_readRule_5 16 rfl rfl)
theorem dX7_readRule_133 : decode cX7_readRule 133 = .ok (.getfield 402, 3) := dk_180 1 146 (dk_at dksX7_readRule_5 19 rfl rfl)
theorem dX7_readRule_136 : decode cX7_readRule 136 = .ok (.aload_n 0, 1) := dk_42 (dk_at dksX7_readRule_5 22 rfl rfl)
theorem dX7_readRule_137 : decode cX7_readRule 137 = .ok (.getfield 192, 3) := dk_180 0 192 (dk_at dksX7_readRule_6 0 rfl rfl)
theorem dX7_readRule_140 : decode cX7_readRule 140 = .ok (.getfield 393, 3) := dk_180 1 137 (dk_at dksX7_readRule_6 3 rfl rfl)
theorem dX7_readRule_143 : decode cX7_readRule 143 = .ok (.iload_n 2, 1) := dk_28 (dk_at dksX7_readRule_6 6 rfl rfl)
theorem dX7_readRule_144 : decode cX7_readRule 144 = .ok (.iastore, 1) := dk_79 (dk_at dksX7_readRule_6 7 rfl rfl)
theorem dX7_readRule_145 : decode cX7_readRule 145 = .ok (.aload_n 0, 1) := dk_42 (dk_at dksX7_readRule_6 8 rfl rfl)
theorem dX7_readRule_146 : decode cX7_readRule 146 = .ok (.getfield 192, 3) := dk_180 0 192 (dk_at dksX7_readRule_6 9 rfl rfl)
theorem dX7_readRule_149 : decode cX7_readRule 149 = .ok (.dup, 1) := dk_89 (dk_at dksX7_readRule_6 12 rfl rfl)
theorem dX7_readRule_150 : decode cX7_readRule 150 = .ok (.getfield 393, 3) := dk_180 1 137 (dk_at dksX7_readRule_6 13 rfl rfl)
theorem dX7_readRule_153 : decode cX7_readRule 153 = .ok (.iconst 1, 1) := dk_4 (dk_at dksX7_readRule_6 16 rfl rfl)
theorem dX7_readRule_154 : decode cX7_readRule 154 = .ok (.iadd, 1) := dk_96 (dk_at dksX7_readRule_6 17 rfl rfl)
theorem dX7_readRule_155 : decode cX7_readRule 155 = .ok (.putfield 393, 3) := dk_181 1 137 (dk_at dksX7_readRule_6 18 rfl rfl)
theorem dX7_readRule_158 : decode cX7_readRule 158 = .ok (.return_, 1) := dk_177 (dk_at dksX7_readRule_6 21 rfl rfl)
def dkwX7_beginsOnce_0 : List UInt8 := [27, 153, 0, 8, 42, 6, 182, 0, 143, 42, 3, 4, 182, 0, 201, 177]
abbrev dktX7_beginsOnce_0 : List UInt8 := dkwX7_beginsOnce_0 ++ []
theorem dksX7_beginsOnce_0 : cX7_beginsOnce.data.toList.drop 0 = dktX7_beginsOnce_0 := by decide +kernel
theorem dX7_beginsOnce_0 : decode cX7_beginsOnce 0 = .ok (.iload_n 1, 1) := dk_27 (dk_at dksX7_beginsOnce_0 0 rfl rfl)
theorem dX7_beginsOnce_1 : decode cX7_beginsOnce 1 = .ok (.ifCond .eq 8, 3) := dk_153 0 8 (dk_at dksX7_beginsOnce_0 1 rfl rfl)
theorem dX7_beginsOnce_4 : decode cX7_beginsOnce 4 = .ok (.aload_n 0, 1) := dk_42 (dk_at dksX7_beginsOnce_0 4 rfl rfl)
theorem dX7_beginsOnce_5 : decode cX7_beginsOnce 5 = .ok (.iconst 3, 1) := dk_6 (dk_at dksX7_beginsOnce_0 5 rfl rfl)
theorem dX7_beginsOnce_6 : decode cX7_beginsOnce 6 = .ok (.invokevirtual 143, 3) := dk_182 0 143 (dk_at dksX7_beginsOnce_0 6 rfl rfl)
theorem dX7_beginsOnce_9 : decode cX7_beginsOnce 9 = .ok (.aload_n 0, 1) := dk_42 (dk_at dksX7_beginsOnce_0 9 rfl rfl)
theorem dX7_beginsOnce_10 : decode cX7_beginsOnce 10 = .ok (.iconst 0, 1) := dk_3 (dk_at dksX7_beginsOnce_0 10 rfl rfl)
theorem dX7_beginsOnce_11 : decode cX7_beginsOnce 11 = .ok (.iconst 1, 1) := dk_4 (dk_at dksX7_beginsOnce_0 11 rfl rfl)
theorem dX7_beginsOnce_12 : decode cX7_beginsOnce 12 = .ok (.invokevirtual 201, 3) := dk_182 0 201 (dk_at dksX7_beginsOnce_0 12 rfl rfl)
theorem dX7_beginsOnce_15 : decode cX7_beginsOnce 15 = .ok (.return_, 1) := dk_177 (dk_at dksX7_beginsOnce_0 15 rfl rfl)
def dkwX7_readProof_4 : List UInt8 := [180, 0, 192, 4, 181, 1, 149, 177]
abbrev dktX7_readProof_4 : List UInt8 := dkwX7_readProof_4 ++ []
def dkwX7_readProof_3 : List UInt8 := [180, 0, 192, 89, 180, 1, 157, 4, 96, 181, 1, 157, 42, 16, 44, 182, 0, 238, 60, 167, 255, 180, 42]
abbrev dktX7_readProof_3 : List UInt8 := dkwX7_readProof_3 ++ dktX7_readProof_4
def dkwX7_readProof_2 : List UInt8 := [8, 160, 0, 4, 177, 42, 180, 0, 192, 180, 1, 160, 42, 180, 0, 192, 180, 1, 157, 28, 79, 42]
abbrev dktX7_readProof_2 : List UInt8 := dkwX7_readProof_2 ++ dktX7_readProof_3
def dkwX7_readProof_1 : List UInt8 := [180, 0, 192, 180, 1, 157, 16, 8, 160, 0, 8, 42, 8, 182, 0, 143, 42, 182, 0, 136, 42, 180, 0, 94]
abbrev dktX7_readProof_1 : List UInt8 := dkwX7_readProof_1 ++ dktX7_readProof_2
def dkwX7_readProof_0 : List UInt8 := [42, 42, 180, 0, 192, 180, 1, 149, 182, 1, 153, 4, 60, 27, 153, 0, 78, 42, 6, 182, 0, 226, 61, 42]
abbrev dktX7_readProof_0 : List UInt8 := dkwX7_readProof_0 ++ dktX7_readProof_1
theorem dksX7_readProof_0 : cX7_readProof.data.toList.drop 0 = dktX7_readProof_0 := by decide +kernel
theorem dksX7_readProof_1 : cX7_readProof.data.toList.drop 24 = dktX7_readProof_1 := dk_seg dksX7_readProof_0 24 rfl rfl
theorem dksX7_readProof_2 : cX7_readProof.data.toList.drop 48 = dktX7_readProof_2 := dk_seg dksX7_readProof_1 24 rfl rfl
theorem dksX7_readProof_3 : cX7_readProof.data.toList.drop 70 = dktX7_readProof_3 := dk_seg dksX7_readProof_2 22 rfl rfl
theorem dksX7_readProof_4 : cX7_readProof.data.toList.drop 93 = dktX7_readProof_4 := dk_seg dksX7_readProof_3 23 rfl rfl
theorem dX7_readProof_0 : decode cX7_readProof 0 = .ok (.aload_n 0, 1) := dk_42 (dk_at dksX7_readProof_0 0 rfl rfl)
theorem dX7_readProof_1 : decode cX7_readProof 1 = .ok (.aload_n 0, 1) := dk_42 (dk_at dksX7_readProof_0 1 rfl rfl)
theorem dX7_readProof_2 : decode cX7_readProof 2 = .ok (.getfield 192, 3) := dk_180 0 192 (dk_at dksX7_readProof_0 2 rfl rfl)
theorem dX7_readProof_5 : decode cX7_readProof 5 = .ok (.getfield 405, 3) := dk_180 1 149 (dk_at dksX7_readProof_0 5 rfl rfl)
theorem dX7_readProof_8 : decode cX7_readProof 8 = .ok (.invokevirtual 409, 3) := dk_182 1 153 (dk_at dksX7_readProof_0 8 rfl rfl)
theorem dX7_readProof_11 : decode cX7_readProof 11 = .ok (.iconst 1, 1) := dk_4 (dk_at dksX7_readProof_0 11 rfl rfl)
theorem dX7_readProof_12 : decode cX7_readProof 12 = .ok (.istore_n 1, 1) := dk_60 (dk_at dksX7_readProof_0 12 rfl rfl)
theorem dX7_readProof_13 : decode cX7_readProof 13 = .ok (.iload_n 1, 1) := dk_27 (dk_at dksX7_readProof_0 13 rfl rfl)
theorem dX7_readProof_14 : decode cX7_readProof 14 = .ok (.ifCond .eq 78, 3) := dk_153 0 78 (dk_at dksX7_readProof_0 14 rfl rfl)
theorem dX7_readProof_17 : decode cX7_readProof 17 = .ok (.aload_n 0, 1) := dk_42 (dk_at dksX7_readProof_0 17 rfl rfl)
theorem dX7_readProof_18 : decode cX7_readProof 18 = .ok (.iconst 3, 1) := dk_6 (dk_at dksX7_readProof_0 18 rfl rfl)
theorem dX7_readProof_19 : decode cX7_readProof 19 = .ok (.invokevirtual 226, 3) := dk_182 0 226 (dk_at dksX7_readProof_0 19 rfl rfl)
theorem dX7_readProof_22 : decode cX7_readProof 22 = .ok (.istore_n 2, 1) := dk_61 (dk_at dksX7_readProof_0 22 rfl rfl)
theorem dX7_readProof_23 : decode cX7_readProof 23 = .ok (.aload_n 0, 1) := dk_42 (dk_at dksX7_readProof_0 23 rfl rfl)
theorem dX7_readProof_24 : decode cX7_readProof 24 = .ok (.getfield 192, 3) := dk_180 0 192 (dk_at dksX7_readProof_1 0 rfl rfl)
theorem dX7_readProof_27 : decode cX7_readProof 27 = .ok (.getfield 413, 3) := dk_180 1 157 (dk_at dksX7_readProof_1 3 rfl rfl)
theorem dX7_readProof_30 : decode cX7_readProof 30 = .ok (.bipush 8, 2) := dk_16 8 (dk_at dksX7_readProof_1 6 rfl rfl)
theorem dX7_readProof_32 : decode cX7_readProof 32 = .ok (.if_icmp .ne 8, 3) := dk_160 0 8 (dk_at dksX7_readProof_1 8 rfl rfl)
theorem dX7_readProof_35 : decode cX7_readProof 35 = .ok (.aload_n 0, 1) := dk_42 (dk_at dksX7_readProof_1 11 rfl rfl)
theorem dX7_readProof_36 : decode cX7_readProof 36 = .ok (.iconst 5, 1) := dk_8 (dk_at dksX7_readProof_1 12 rfl rfl)
theorem dX7_readProof_37 : decode cX7_readProof 37 = .ok (.invokevirtual 143, 3) := dk_182 0 143 (dk_at dksX7_readProof_1 13 rfl rfl)
theorem dX7_readProof_40 : decode cX7_readProof 40 = .ok (.aload_n 0, 1) := dk_42 (dk_at dksX7_readProof_1 16 rfl rfl)
theorem dX7_readProof_41 : decode cX7_readProof 41 = .ok (.invokevirtual 136, 3) := dk_182 0 136 (dk_at dksX7_readProof_1 17 rfl rfl)
theorem dX7_readProof_44 : decode cX7_readProof 44 = .ok (.aload_n 0, 1) := dk_42 (dk_at dksX7_readProof_1 20 rfl rfl)
theorem dX7_readProof_45 : decode cX7_readProof 45 = .ok (.getfield 94, 3) := dk_180 0 94 (dk_at dksX7_readProof_1 21 rfl rfl)
theorem dX7_readProof_48 : decode cX7_readProof 48 = .ok (.iconst 5, 1) := dk_8 (dk_at dksX7_readProof_2 0 rfl rfl)
theorem dX7_readProof_49 : decode cX7_readProof 49 = .ok (.if_icmp .ne 4, 3) := dk_160 0 4 (dk_at dksX7_readProof_2 1 rfl rfl)
theorem dX7_readProof_52 : decode cX7_readProof 52 = .ok (.return_, 1) := dk_177 (dk_at dksX7_readProof_2 4 rfl rfl)
theorem dX7_readProof_53 : decode cX7_readProof 53 = .ok (.aload_n 0, 1) := dk_42 (dk_at dksX7_readProof_2 5 rfl rfl)
theorem dX7_readProof_54 : decode cX7_readProof 54 = .ok (.getfield 192, 3) := dk_180 0 192 (dk_at dksX7_readProof_2 6 rfl rfl)
theorem dX7_readProof_57 : decode cX7_readProof 57 = .ok (.getfield 416, 3) := dk_180 1 160 (dk_at dksX7_readProof_2 9 rfl rfl)
theorem dX7_readProof_60 : decode cX7_readProof 60 = .ok (.aload_n 0, 1) := dk_42 (dk_at dksX7_readProof_2 12 rfl rfl)
theorem dX7_readProof_61 : decode cX7_readProof 61 = .ok (.getfield 192, 3) := dk_180 0 192 (dk_at dksX7_readProof_2 13 rfl rfl)
theorem dX7_readProof_64 : decode cX7_readProof 64 = .ok (.getfield 413, 3) := dk_180 1 157 (dk_at dksX7_readProof_2 16 rfl rfl)
theorem dX7_readProof_67 : decode cX7_readProof 67 = .ok (.iload_n 2, 1) := dk_28 (dk_at dksX7_readProof_2 19 rfl rfl)
theorem dX7_readProof_68 : decode cX7_readProof 68 = .ok (.iastore, 1) := dk_79 (dk_at dksX7_readProof_2 20 rfl rfl)
theorem dX7_readProof_69 : decode cX7_readProof 69 = .ok (.aload_n 0, 1) := dk_42 (dk_at dksX7_readProof_2 21 rfl rfl)
theorem dX7_readProof_70 : decode cX7_readProof 70 = .ok (.getfield 192, 3) := dk_180 0 192 (dk_at dksX7_readProof_3 0 rfl rfl)
theorem dX7_readProof_73 : decode cX7_readProof 73 = .ok (.dup, 1) := dk_89 (dk_at dksX7_readProof_3 3 rfl rfl)
theorem dX7_readProof_74 : decode cX7_readProof 74 = .ok (.getfield 413, 3) := dk_180 1 157 (dk_at dksX7_readProof_3 4 rfl rfl)
theorem dX7_readProof_77 : decode cX7_readProof 77 = .ok (.iconst 1, 1) := dk_4 (dk_at dksX7_readProof_3 7 rfl rfl)
theorem dX7_readProof_78 : decode cX7_readProof 78 = .ok (.iadd, 1) := dk_96 (dk_at dksX7_readProof_3 8 rfl rfl)
theorem dX7_readProof_79 : decode cX7_readProof 79 = .ok (.putfield 413, 3) := dk_181 1 157 (dk_at dksX7_readProof_3 9 rfl rfl)
theorem dX7_readProof_82 : decode cX7_readProof 82 = .ok (.aload_n 0, 1) := dk_42 (dk_at dksX7_readProof_3 12 rfl rfl)
theorem dX7_readProof_83 : decode cX7_readProof 83 = .ok (.bipush 44, 2) := dk_16 44 (dk_at dksX7_readProof_3 13 rfl rfl)
theorem dX7_readProof_85 : decode cX7_readProof 85 = .ok (.invokevirtual 238, 3) := dk_182 0 238 (dk_at dksX7_readProof_3 15 rfl rfl)
theorem dX7_readProof_88 : decode cX7_readProof 88 = .ok (.istore_n 1, 1) := dk_60 (dk_at dksX7_readProof_3 18 rfl rfl)
theorem dX7_readProof_89 : decode cX7_readProof 89 = .ok (.goto (-76), 3) := dk_167 255 180 (dk_at dksX7_readProof_3 19 rfl rfl)
theorem dX7_readProof_92 : decode cX7_readProof 92 = .ok (.aload_n 0, 1) := dk_42 (dk_at dksX7_readProof_3 22 rfl rfl)
theorem dX7_readProof_93 : decode cX7_readProof 93 = .ok (.getfield 192, 3) := dk_180 0 192 (dk_at dksX7_readProof_4 0 rfl rfl)
theorem dX7_readProof_96 : decode cX7_readProof 96 = .ok (.iconst 1, 1) := dk_4 (dk_at dksX7_readProof_4 3 rfl rfl)
theorem dX7_readProof_97 : decode cX7_readProof 97 = .ok (.putfield 405, 3) := dk_181 1 149 (dk_at dksX7_readProof_4 4 rfl rfl)
theorem dX7_readProof_100 : decode cX7_readProof 100 = .ok (.return_, 1) := dk_177 (dk_at dksX7_readProof_4 7 rfl rfl)
def dkwX7_readCourt_4 : List UInt8 := [21, 4, 79, 42, 180, 0, 192, 89, 180, 1, 163, 4, 96, 181, 1, 163, 177]
abbrev dktX7_readCourt_4 : List UInt8 := dkwX7_readCourt_4 ++ []
def dkwX7_readCourt_3 : List UInt8 := [42, 180, 0, 192, 180, 1, 163, 29, 79, 42, 180, 0, 192, 180, 1, 172, 42, 180, 0, 192, 180, 1, 163]
abbrev dktX7_readCourt_3 : List UInt8 := dkwX7_readCourt_3 ++ dktX7_readCourt_4
def dkwX7_readCourt_2 : List UInt8 := [160, 0, 4, 177, 42, 31, 7, 42, 180, 0, 192, 180, 1, 163, 182, 1, 47, 42, 180, 0, 192, 180, 1, 170]
abbrev dktX7_readCourt_2 : List UInt8 := dkwX7_readCourt_2 ++ dktX7_readCourt_3
def dkwX7_readCourt_1 : List UInt8 := [16, 99, 182, 1, 31, 62, 42, 19, 1, 168, 4, 16, 9, 182, 1, 31, 54, 4, 42, 180, 0, 94, 8]
abbrev dktX7_readCourt_1 : List UInt8 := dkwX7_readCourt_1 ++ dktX7_readCourt_2
def dkwX7_readCourt_0 : List UInt8 := [42, 42, 180, 0, 192, 180, 1, 163, 16, 6, 182, 0, 201, 42, 182, 1, 36, 64, 42, 19, 1, 166, 3]
abbrev dktX7_readCourt_0 : List UInt8 := dkwX7_readCourt_0 ++ dktX7_readCourt_1
theorem dksX7_readCourt_0 : cX7_readCourt.data.toList.drop 0 = dktX7_readCourt_0 := by decide +kernel
theorem dksX7_readCourt_1 : cX7_readCourt.data.toList.drop 23 = dktX7_readCourt_1 := dk_seg dksX7_readCourt_0 23 rfl rfl
theorem dksX7_readCourt_2 : cX7_readCourt.data.toList.drop 46 = dktX7_readCourt_2 := dk_seg dksX7_readCourt_1 23 rfl rfl
theorem dksX7_readCourt_3 : cX7_readCourt.data.toList.drop 70 = dktX7_readCourt_3 := dk_seg dksX7_readCourt_2 24 rfl rfl
theorem dksX7_readCourt_4 : cX7_readCourt.data.toList.drop 93 = dktX7_readCourt_4 := dk_seg dksX7_readCourt_3 23 rfl rfl
theorem dX7_readCourt_0 : decode cX7_readCourt 0 = .ok (.aload_n 0, 1) := dk_42 (dk_at dksX7_readCourt_0 0 rfl rfl)
theorem dX7_readCourt_1 : decode cX7_readCourt 1 = .ok (.aload_n 0, 1) := dk_42 (dk_at dksX7_readCourt_0 1 rfl rfl)
theorem dX7_readCourt_2 : decode cX7_readCourt 2 = .ok (.getfield 192, 3) := dk_180 0 192 (dk_at dksX7_readCourt_0 2 rfl rfl)
theorem dX7_readCourt_5 : decode cX7_readCourt 5 = .ok (.getfield 419, 3) := dk_180 1 163 (dk_at dksX7_readCourt_0 5 rfl rfl)
theorem dX7_readCourt_8 : decode cX7_readCourt 8 = .ok (.bipush 6, 2) := dk_16 6 (dk_at dksX7_readCourt_0 8 rfl rfl)
theorem dX7_readCourt_10 : decode cX7_readCourt 10 = .ok (.invokevirtual 201, 3) := dk_182 0 201 (dk_at dksX7_readCourt_0 10 rfl rfl)
theorem dX7_readCourt_13 : decode cX7_readCourt 13 = .ok (.aload_n 0, 1) := dk_42 (dk_at dksX7_readCourt_0 13 rfl rfl)
theorem dX7_readCourt_14 : decode cX7_readCourt 14 = .ok (.invokevirtual 292, 3) := dk_182 1 36 (dk_at dksX7_readCourt_0 14 rfl rfl)
theorem dX7_readCourt_17 : decode cX7_readCourt 17 = .ok (.lstore_n 1, 1) := dk_64 (dk_at dksX7_readCourt_0 17 rfl rfl)
theorem dX7_readCourt_18 : decode cX7_readCourt 18 = .ok (.aload_n 0, 1) := dk_42 (dk_at dksX7_readCourt_0 18 rfl rfl)
theorem dX7_readCourt_19 : decode cX7_readCourt 19 = .ok (.ldc_w 422, 3) := dk_19 1 166 (dk_at dksX7_readCourt_0 19 rfl rfl)
theorem dX7_readCourt_22 : decode cX7_readCourt 22 = .ok (.iconst 0, 1) := dk_3 (dk_at dksX7_readCourt_0 22 rfl rfl)
theorem dX7_readCourt_23 : decode cX7_readCourt 23 = .ok (.bipush 99, 2) := dk_16 99 (dk_at dksX7_readCourt_1 0 rfl rfl)
theorem dX7_readCourt_25 : decode cX7_readCourt 25 = .ok (.invokevirtual 287, 3) := dk_182 1 31 (dk_at dksX7_readCourt_1 2 rfl rfl)
theorem dX7_readCourt_28 : decode cX7_readCourt 28 = .ok (.istore_n 3, 1) := dk_62 (dk_at dksX7_readCourt_1 5 rfl rfl)
theorem dX7_readCourt_29 : decode cX7_readCourt 29 = .ok (.aload_n 0, 1) := dk_42 (dk_at dksX7_readCourt_1 6 rfl rfl)
theorem dX7_readCourt_30 : decode cX7_readCourt 30 = .ok (.ldc_w 424, 3) := dk_19 1 168 (dk_at dksX7_readCourt_1 7 rfl rfl)
theorem dX7_readCourt_33 : decode cX7_readCourt 33 = .ok (.iconst 1, 1) := dk_4 (dk_at dksX7_readCourt_1 10 rfl rfl)
theorem dX7_readCourt_34 : decode cX7_readCourt 34 = .ok (.bipush 9, 2) := dk_16 9 (dk_at dksX7_readCourt_1 11 rfl rfl)
theorem dX7_readCourt_36 : decode cX7_readCourt 36 = .ok (.invokevirtual 287, 3) := dk_182 1 31 (dk_at dksX7_readCourt_1 13 rfl rfl)
theorem dX7_readCourt_39 : decode cX7_readCourt 39 = .ok (.istore 4, 2) := dk_54 4 (dk_at dksX7_readCourt_1 16 rfl rfl)
theorem dX7_readCourt_41 : decode cX7_readCourt 41 = .ok (.aload_n 0, 1) := dk_42 (dk_at dksX7_readCourt_1 18 rfl rfl)
theorem dX7_readCourt_42 : decode cX7_readCourt 42 = .ok (.getfield 94, 3) := dk_180 0 94 (dk_at dksX7_readCourt_1 19 rfl rfl)
theorem dX7_readCourt_45 : decode cX7_readCourt 45 = .ok (.iconst 5, 1) := dk_8 (dk_at dksX7_readCourt_1 22 rfl rfl)
theorem dX7_readCourt_46 : decode cX7_readCourt 46 = .ok (.if_icmp .ne 4, 3) := dk_160 0 4 (dk_at dksX7_readCourt_2 0 rfl rfl)
theorem dX7_readCourt_49 : decode cX7_readCourt 49 = .ok (.return_, 1) := dk_177 (dk_at dksX7_readCourt_2 3 rfl rfl)
theorem dX7_readCourt_50 : decode cX7_readCourt 50 = .ok (.aload_n 0, 1) := dk_42 (dk_at dksX7_readCourt_2 4 rfl rfl)
theorem dX7_readCourt_51 : decode cX7_readCourt 51 = .ok (.lload_n 1, 1) := dk_31 (dk_at dksX7_readCourt_2 5 rfl rfl)
theorem dX7_readCourt_52 : decode cX7_readCourt 52 = .ok (.iconst 4, 1) := dk_7 (dk_at dksX7_readCourt_2 6 rfl rfl)
theorem dX7_readCourt_53 : decode cX7_readCourt 53 = .ok (.aload_n 0, 1) := dk_42 (dk_at dksX7_readCourt_2 7 rfl rfl)
theorem dX7_readCourt_54 : decode cX7_readCourt 54 = .ok (.getfield 192, 3) := dk_180 0 192 (dk_at dksX7_readCourt_2 8 rfl rfl)
theorem dX7_readCourt_57 : decode cX7_readCourt 57 = .ok (.getfield 419, 3) := dk_180 1 163 (dk_at dksX7_readCourt_2 11 rfl rfl)
theorem dX7_readCourt_60 : decode cX7_readCourt 60 = .ok (.invokevirtual 303, 3) := dk_182 1 47 (dk_at dksX7_readCourt_2 14 rfl rfl)
theorem dX7_readCourt_63 : decode cX7_readCourt 63 = .ok (.aload_n 0, 1) := dk_42 (dk_at dksX7_readCourt_2 17 rfl rfl)
theorem dX7_readCourt_64 : decode cX7_readCourt 64 = .ok (.getfield 192, 3) := dk_180 0 192 (dk_at dksX7_readCourt_2 18 rfl rfl)
theorem dX7_readCourt_67 : decode cX7_readCourt 67 = .ok (.getfield 426, 3) := dk_180 1 170 (dk_at dksX7_readCourt_2 21 rfl rfl)
theorem dX7_readCourt_70 : decode cX7_readCourt 70 = .ok (.aload_n 0, 1) := dk_42 (dk_at dksX7_readCourt_3 0 rfl rfl)
theorem dX7_readCourt_71 : decode cX7_readCourt 71 = .ok (.getfield 192, 3) := dk_180 0 192 (dk_at dksX7_readCourt_3 1 rfl rfl)
theorem dX7_readCourt_74 : decode cX7_readCourt 74 = .ok (.getfield 419, 3) := dk_180 1 163 (dk_at dksX7_readCourt_3 4 rfl rfl)
theorem dX7_readCourt_77 : decode cX7_readCourt 77 = .ok (.iload_n 3, 1) := dk_29 (dk_at dksX7_readCourt_3 7 rfl rfl)
theorem dX7_readCourt_78 : decode cX7_readCourt 78 = .ok (.iastore, 1) := dk_79 (dk_at dksX7_readCourt_3 8 rfl rfl)
theorem dX7_readCourt_79 : decode cX7_readCourt 79 = .ok (.aload_n 0, 1) := dk_42 (dk_at dksX7_readCourt_3 9 rfl rfl)
theorem dX7_readCourt_80 : decode cX7_readCourt 80 = .ok (.getfield 192, 3) := dk_180 0 192 (dk_at dksX7_readCourt_3 10 rfl rfl)
theorem dX7_readCourt_83 : decode cX7_readCourt 83 = .ok (.getfield 428, 3) := dk_180 1 172 (dk_at dksX7_readCourt_3 13 rfl rfl)
theorem dX7_readCourt_86 : decode cX7_readCourt 86 = .ok (.aload_n 0, 1) := dk_42 (dk_at dksX7_readCourt_3 16 rfl rfl)
theorem dX7_readCourt_87 : decode cX7_readCourt 87 = .ok (.getfield 192, 3) := dk_180 0 192 (dk_at dksX7_readCourt_3 17 rfl rfl)
theorem dX7_readCourt_90 : decode cX7_readCourt 90 = .ok (.getfield 419, 3) := dk_180 1 163 (dk_at dksX7_readCourt_3 20 rfl rfl)
theorem dX7_readCourt_93 : decode cX7_readCourt 93 = .ok (.iload 4, 2) := dk_21 4 (dk_at dksX7_readCourt_4 0 rfl rfl)
theorem dX7_readCourt_95 : decode cX7_readCourt 95 = .ok (.iastore, 1) := dk_79 (dk_at dksX7_readCourt_4 2 rfl rfl)
theorem dX7_readCourt_96 : decode cX7_readCourt 96 = .ok (.aload_n 0, 1) := dk_42 (dk_at dksX7_readCourt_4 3 rfl rfl)
theorem dX7_readCourt_97 : decode cX7_readCourt 97 = .ok (.getfield 192, 3) := dk_180 0 192 (dk_at dksX7_readCourt_4 4 rfl rfl)
theorem dX7_readCourt_100 : decode cX7_readCourt 100 = .ok (.dup, 1) := dk_89 (dk_at dksX7_readCourt_4 7 rfl rfl)
theorem dX7_readCourt_101 : decode cX7_readCourt 101 = .ok (.getfield 419, 3) := dk_180 1 163 (dk_at dksX7_readCourt_4 8 rfl rfl)
theorem dX7_readCourt_104 : decode cX7_readCourt 104 = .ok (.iconst 1, 1) := dk_4 (dk_at dksX7_readCourt_4 11 rfl rfl)
theorem dX7_readCourt_105 : decode cX7_readCourt 105 = .ok (.iadd, 1) := dk_96 (dk_at dksX7_readCourt_4 12 rfl rfl)
theorem dX7_readCourt_106 : decode cX7_readCourt 106 = .ok (.putfield 419, 3) := dk_181 1 163 (dk_at dksX7_readCourt_4 13 rfl rfl)
theorem dX7_readCourt_109 : decode cX7_readCourt 109 = .ok (.return_, 1) := dk_177 (dk_at dksX7_readCourt_4 16 rfl rfl)
def dkwX7_readCheese_1 : List UInt8 := [182, 1, 43, 42, 180, 0, 94, 8, 159, 0, 11, 42, 180, 0, 192, 4, 181, 1, 174, 177]
abbrev dktX7_readCheese_1 : List UInt8 := dkwX7_readCheese_1 ++ []
def dkwX7_readCheese_0 : List UInt8 := [42, 42, 180, 0, 192, 180, 1, 174, 182, 1, 153, 42, 42, 180, 0, 192, 180, 1, 177, 3, 16, 99]
abbrev dktX7_readCheese_0 : List UInt8 := dkwX7_readCheese_0 ++ dktX7_readCheese_1
theorem dksX7_readCheese_0 : cX7_readCheese.data.toList.drop 0 = dktX7_readCheese_0 := by decide +kernel
theorem dksX7_readCheese_1 : cX7_readCheese.data.toList.drop 22 = dktX7_readCheese_1 := dk_seg dksX7_readCheese_0 22 rfl rfl
theorem dX7_readCheese_0 : decode cX7_readCheese 0 = .ok (.aload_n 0, 1) := dk_42 (dk_at dksX7_readCheese_0 0 rfl rfl)
theorem dX7_readCheese_1 : decode cX7_readCheese 1 = .ok (.aload_n 0, 1) := dk_42 (dk_at dksX7_readCheese_0 1 rfl rfl)
theorem dX7_readCheese_2 : decode cX7_readCheese 2 = .ok (.getfield 192, 3) := dk_180 0 192 (dk_at dksX7_readCheese_0 2 rfl rfl)
theorem dX7_readCheese_5 : decode cX7_readCheese 5 = .ok (.getfield 430, 3) := dk_180 1 174 (dk_at dksX7_readCheese_0 5 rfl rfl)
theorem dX7_readCheese_8 : decode cX7_readCheese 8 = .ok (.invokevirtual 409, 3) := dk_182 1 153 (dk_at dksX7_readCheese_0 8 rfl rfl)
theorem dX7_readCheese_11 : decode cX7_readCheese 11 = .ok (.aload_n 0, 1) := dk_42 (dk_at dksX7_readCheese_0 11 rfl rfl)
theorem dX7_readCheese_12 : decode cX7_readCheese 12 = .ok (.aload_n 0, 1) := dk_42 (dk_at dksX7_readCheese_0 12 rfl rfl)
theorem dX7_readCheese_13 : decode cX7_readCheese 13 = .ok (.getfield 192, 3) := dk_180 0 192 (dk_at dksX7_readCheese_0 13 rfl rfl)
theorem dX7_readCheese_16 : decode cX7_readCheese 16 = .ok (.getfield 433, 3) := dk_180 1 177 (dk_at dksX7_readCheese_0 16 rfl rfl)
theorem dX7_readCheese_19 : decode cX7_readCheese 19 = .ok (.iconst 0, 1) := dk_3 (dk_at dksX7_readCheese_0 19 rfl rfl)
theorem dX7_readCheese_20 : decode cX7_readCheese 20 = .ok (.bipush 99, 2) := dk_16 99 (dk_at dksX7_readCheese_0 20 rfl rfl)
theorem dX7_readCheese_22 : decode cX7_readCheese 22 = .ok (.invokevirtual 299, 3) := dk_182 1 43 (dk_at dksX7_readCheese_1 0 rfl rfl)
theorem dX7_readCheese_25 : decode cX7_readCheese 25 = .ok (.aload_n 0, 1) := dk_42 (dk_at dksX7_readCheese_1 3 rfl rfl)
theorem dX7_readCheese_26 : decode cX7_readCheese 26 = .ok (.getfield 94, 3) := dk_180 0 94 (dk_at dksX7_readCheese_1 4 rfl rfl)
theorem dX7_readCheese_29 : decode cX7_readCheese 29 = .ok (.iconst 5, 1) := dk_8 (dk_at dksX7_readCheese_1 7 rfl rfl)
theorem dX7_readCheese_30 : decode cX7_readCheese 30 = .ok (.if_icmp .eq 11, 3) := dk_159 0 11 (dk_at dksX7_readCheese_1 8 rfl rfl)
theorem dX7_readCheese_33 : decode cX7_readCheese 33 = .ok (.aload_n 0, 1) := dk_42 (dk_at dksX7_readCheese_1 11 rfl rfl)
theorem dX7_readCheese_34 : decode cX7_readCheese 34 = .ok (.getfield 192, 3) := dk_180 0 192 (dk_at dksX7_readCheese_1 12 rfl rfl)
theorem dX7_readCheese_37 : decode cX7_readCheese 37 = .ok (.iconst 1, 1) := dk_4 (dk_at dksX7_readCheese_1 15 rfl rfl)
theorem dX7_readCheese_38 : decode cX7_readCheese 38 = .ok (.putfield 430, 3) := dk_181 1 174 (dk_at dksX7_readCheese_1 16 rfl rfl)
theorem dX7_readCheese_41 : decode cX7_readCheese 41 = .ok (.return_, 1) := dk_177 (dk_at dksX7_readCheese_1 19 rfl rfl)
def dkwX7_readLine_11 : List UInt8 := [42, 182, 1, 27, 167, 0, 8, 42, 4, 182, 0, 143, 177]
abbrev dktX7_readLine_11 : List UInt8 := dkwX7_readLine_11 ++ []
def dkwX7_readLine_10 : List UInt8 := [18, 186, 182, 0, 139, 153, 0, 10, 42, 182, 1, 24, 167, 0, 24, 42, 18, 188, 182, 0, 139, 153, 0, 10]
abbrev dktX7_readLine_10 : List UInt8 := dkwX7_readLine_10 ++ dktX7_readLine_11
def dkwX7_readLine_9 : List UInt8 := [42, 182, 1, 18, 167, 0, 56, 42, 18, 184, 182, 0, 139, 153, 0, 10, 42, 182, 1, 21, 167, 0, 40, 42]
abbrev dktX7_readLine_9 : List UInt8 := dkwX7_readLine_9 ++ dktX7_readLine_10
def dkwX7_readLine_8 : List UInt8 := [18, 180, 182, 0, 139, 153, 0, 10, 42, 182, 1, 15, 167, 0, 72, 42, 18, 182, 182, 0, 139, 153, 0, 10]
abbrev dktX7_readLine_8 : List UInt8 := dkwX7_readLine_8 ++ dktX7_readLine_9
def dkwX7_readLine_7 : List UInt8 := [182, 1, 9, 167, 0, 104, 42, 18, 178, 182, 0, 139, 153, 0, 10, 42, 182, 1, 12, 167, 0, 88, 42]
abbrev dktX7_readLine_7 : List UInt8 := dkwX7_readLine_7 ++ dktX7_readLine_8
def dkwX7_readLine_6 : List UInt8 := [153, 0, 11, 42, 4, 182, 1, 9, 167, 0, 121, 42, 18, 176, 182, 0, 139, 153, 0, 11, 42, 5]
abbrev dktX7_readLine_6 : List UInt8 := dkwX7_readLine_6 ++ dktX7_readLine_7
def dkwX7_readLine_5 : List UInt8 := [18, 172, 182, 0, 139, 153, 0, 11, 42, 3, 182, 1, 9, 167, 0, 138, 42, 18, 174, 182, 0, 139]
abbrev dktX7_readLine_5 : List UInt8 := dkwX7_readLine_5 ++ dktX7_readLine_6
def dkwX7_readLine_4 : List UInt8 := [182, 1, 3, 167, 0, 171, 42, 18, 170, 182, 0, 139, 153, 0, 10, 42, 182, 1, 6, 167, 0, 155, 42]
abbrev dktX7_readLine_4 : List UInt8 := dkwX7_readLine_4 ++ dktX7_readLine_5
def dkwX7_readLine_3 : List UInt8 := [182, 0, 139, 153, 0, 10, 42, 182, 1, 0, 167, 0, 187, 42, 18, 168, 182, 0, 139, 153, 0, 10, 42]
abbrev dktX7_readLine_3 : List UInt8 := dkwX7_readLine_3 ++ dktX7_readLine_4
def dkwX7_readLine_2 : List UInt8 := [167, 0, 219, 42, 18, 164, 182, 0, 139, 153, 0, 10, 42, 182, 0, 253, 167, 0, 203, 42, 18, 166]
abbrev dktX7_readLine_2 : List UInt8 := dkwX7_readLine_2 ++ dktX7_readLine_3
def dkwX7_readLine_1 : List UInt8 := [153, 0, 10, 42, 182, 0, 247, 167, 0, 235, 42, 18, 162, 182, 0, 139, 153, 0, 10, 42, 182, 0, 250]
abbrev dktX7_readLine_1 : List UInt8 := dkwX7_readLine_1 ++ dktX7_readLine_2
def dkwX7_readLine_0 : List UInt8 := [42, 18, 159, 182, 0, 139, 153, 0, 10, 42, 182, 0, 244, 167, 0, 251, 42, 18, 161, 182, 0, 139]
abbrev dktX7_readLine_0 : List UInt8 := dkwX7_readLine_0 ++ dktX7_readLine_1
theorem dksX7_readLine_0 : cX7_readLine.data.toList.drop 0 = dktX7_readLine_0 := by decide +kernel
theorem dksX7_readLine_1 : cX7_readLine.data.toList.drop 22 = dktX7_readLine_1 := dk_seg dksX7_readLine_0 22 rfl rfl
theorem dksX7_readLine_2 : cX7_readLine.data.toList.drop 45 = dktX7_readLine_2 := dk_seg dksX7_readLine_1 23 rfl rfl
theorem dksX7_readLine_3 : cX7_readLine.data.toList.drop 67 = dktX7_readLine_3 := dk_seg dksX7_readLine_2 22 rfl rfl
theorem dksX7_readLine_4 : cX7_readLine.data.toList.drop 90 = dktX7_readLine_4 := dk_seg dksX7_readLine_3 23 rfl rfl
theorem dksX7_readLine_5 : cX7_readLine.data.toList.drop 113 = dktX7_readLine_5 := dk_seg dksX7_readLine_4 23 rfl rfl
theorem dksX7_readLine_6 : cX7_readLine.data.toList.drop 135 = dktX7_readLine_6 := dk_seg dksX7_readLine_5 22 rfl rfl
theorem dksX7_readLine_7 : cX7_readLine.data.toList.drop 157 = dktX7_readLine_7 := dk_seg dksX7_readLine_6 22 rfl rfl
theorem dksX7_readLine_8 : cX7_readLine.data.toList.drop 180 = dktX7_readLine_8 := dk_seg dksX7_readLine_7 23 rfl rfl
theorem dksX7_readLine_9 : cX7_readLine.data.toList.drop 204 = dktX7_readLine_9 := dk_seg dksX7_readLine_8 24 rfl rfl
theorem dksX7_readLine_10 : cX7_readLine.data.toList.drop 228 = dktX7_readLine_10 := dk_seg dksX7_readLine_9 24 rfl rfl
theorem dksX7_readLine_11 : cX7_readLine.data.toList.drop 252 = dktX7_readLine_11 := dk_seg dksX7_readLine_10 24 rfl rfl
theorem dX7_readLine_0 : decode cX7_readLine 0 = .ok (.aload_n 0, 1) := dk_42 (dk_at dksX7_readLine_0 0 rfl rfl)
theorem dX7_readLine_1 : decode cX7_readLine 1 = .ok (.ldc 159, 2) := dk_18 159 (dk_at dksX7_readLine_0 1 rfl rfl)
theorem dX7_readLine_3 : decode cX7_readLine 3 = .ok (.invokevirtual 139, 3) := dk_182 0 139 (dk_at dksX7_readLine_0 3 rfl rfl)
theorem dX7_readLine_6 : decode cX7_readLine 6 = .ok (.ifCond .eq 10, 3) := dk_153 0 10 (dk_at dksX7_readLine_0 6 rfl rfl)
theorem dX7_readLine_9 : decode cX7_readLine 9 = .ok (.aload_n 0, 1) := dk_42 (dk_at dksX7_readLine_0 9 rfl rfl)
theorem dX7_readLine_10 : decode cX7_readLine 10 = .ok (.invokevirtual 244, 3) := dk_182 0 244 (dk_at dksX7_readLine_0 10 rfl rfl)
theorem dX7_readLine_13 : decode cX7_readLine 13 = .ok (.goto 251, 3) := dk_167 0 251 (dk_at dksX7_readLine_0 13 rfl rfl)
theorem dX7_readLine_16 : decode cX7_readLine 16 = .ok (.aload_n 0, 1) := dk_42 (dk_at dksX7_readLine_0 16 rfl rfl)
theorem dX7_readLine_17 : decode cX7_readLine 17 = .ok (.ldc 161, 2) := dk_18 161 (dk_at dksX7_readLine_0 17 rfl rfl)
theorem dX7_readLine_19 : decode cX7_readLine 19 = .ok (.invokevirtual 139, 3) := dk_182 0 139 (dk_at dksX7_readLine_0 19 rfl rfl)
theorem dX7_readLine_22 : decode cX7_readLine 22 = .ok (.ifCond .eq 10, 3) := dk_153 0 10 (dk_at dksX7_readLine_1 0 rfl rfl)
theorem dX7_readLine_25 : decode cX7_readLine 25 = .ok (.aload_n 0, 1) := dk_42 (dk_at dksX7_readLine_1 3 rfl rfl)
theorem dX7_readLine_26 : decode cX7_readLine 26 = .ok (.invokevirtual 247, 3) := dk_182 0 247 (dk_at dksX7_readLine_1 4 rfl rfl)
theorem dX7_readLine_29 : decode cX7_readLine 29 = .ok (.goto 235, 3) := dk_167 0 235 (dk_at dksX7_readLine_1 7 rfl rfl)
theorem dX7_readLine_32 : decode cX7_readLine 32 = .ok (.aload_n 0, 1) := dk_42 (dk_at dksX7_readLine_1 10 rfl rfl)
theorem dX7_readLine_33 : decode cX7_readLine 33 = .ok (.ldc 162, 2) := dk_18 162 (dk_at dksX7_readLine_1 11 rfl rfl)
theorem dX7_readLine_35 : decode cX7_readLine 35 = .ok (.invokevirtual 139, 3) := dk_182 0 139 (dk_at dksX7_readLine_1 13 rfl rfl)
theorem dX7_readLine_38 : decode cX7_readLine 38 = .ok (.ifCond .eq 10, 3) := dk_153 0 10 (dk_at dksX7_readLine_1 16 rfl rfl)
theorem dX7_readLine_41 : decode cX7_readLine 41 = .ok (.aload_n 0, 1) := dk_42 (dk_at dksX7_readLine_1 19 rfl rfl)
theorem dX7_readLine_42 : decode cX7_readLine 42 = .ok (.invokevirtual 250, 3) := dk_182 0 250 (dk_at dksX7_readLine_1 20 rfl rfl)
theorem dX7_readLine_45 : decode cX7_readLine 45 = .ok (.goto 219, 3) := dk_167 0 219 (dk_at dksX7_readLine_2 0 rfl rfl)
theorem dX7_readLine_48 : decode cX7_readLine 48 = .ok (.aload_n 0, 1) := dk_42 (dk_at dksX7_readLine_2 3 rfl rfl)
theorem dX7_readLine_49 : decode cX7_readLine 49 = .ok (.ldc 164, 2) := dk_18 164 (dk_at dksX7_readLine_2 4 rfl rfl)
theorem dX7_readLine_51 : decode cX7_readLine 51 = .ok (.invokevirtual 139, 3) := dk_182 0 139 (dk_at dksX7_readLine_2 6 rfl rfl)
theorem dX7_readLine_54 : decode cX7_readLine 54 = .ok (.ifCond .eq 10, 3) := dk_153 0 10 (dk_at dksX7_readLine_2 9 rfl rfl)
theorem dX7_readLine_57 : decode cX7_readLine 57 = .ok (.aload_n 0, 1) := dk_42 (dk_at dksX7_readLine_2 12 rfl rfl)
theorem dX7_readLine_58 : decode cX7_readLine 58 = .ok (.invokevirtual 253, 3) := dk_182 0 253 (dk_at dksX7_readLine_2 13 rfl rfl)
theorem dX7_readLine_61 : decode cX7_readLine 61 = .ok (.goto 203, 3) := dk_167 0 203 (dk_at dksX7_readLine_2 16 rfl rfl)
theorem dX7_readLine_64 : decode cX7_readLine 64 = .ok (.aload_n 0, 1) := dk_42 (dk_at dksX7_readLine_2 19 rfl rfl)
theorem dX7_readLine_65 : decode cX7_readLine 65 = .ok (.ldc 166, 2) := dk_18 166 (dk_at dksX7_readLine_2 20 rfl rfl)
theorem dX7_readLine_67 : decode cX7_readLine 67 = .ok (.invokevirtual 139, 3) := dk_182 0 139 (dk_at dksX7_readLine_3 0 rfl rfl)
theorem dX7_readLine_70 : decode cX7_readLine 70 = .ok (.ifCond .eq 10, 3) := dk_153 0 10 (dk_at dksX7_readLine_3 3 rfl rfl)
theorem dX7_readLine_73 : decode cX7_readLine 73 = .ok (.aload_n 0, 1) := dk_42 (dk_at dksX7_readLine_3 6 rfl rfl)
theorem dX7_readLine_74 : decode cX7_readLine 74 = .ok (.invokevirtual 256, 3) := dk_182 1 0 (dk_at dksX7_readLine_3 7 rfl rfl)
theorem dX7_readLine_77 : decode cX7_readLine 77 = .ok (.goto 187, 3) := dk_167 0 187 (dk_at dksX7_readLine_3 10 rfl rfl)
theorem dX7_readLine_80 : decode cX7_readLine 80 = .ok (.aload_n 0, 1) := dk_42 (dk_at dksX7_readLine_3 13 rfl rfl)
theorem dX7_readLine_81 : decode cX7_readLine 81 = .ok (.ldc 168, 2) := dk_18 168 (dk_at dksX7_readLine_3 14 rfl rfl)
theorem dX7_readLine_83 : decode cX7_readLine 83 = .ok (.invokevirtual 139, 3) := dk_182 0 139 (dk_at dksX7_readLine_3 16 rfl rfl)
theorem dX7_readLine_86 : decode cX7_readLine 86 = .ok (.ifCond .eq 10, 3) := dk_153 0 10 (dk_at dksX7_readLine_3 19 rfl rfl)
theorem dX7_readLine_89 : decode cX7_readLine 89 = .ok (.aload_n 0, 1) := dk_42 (dk_at dksX7_readLine_3 22 rfl rfl)
theorem dX7_readLine_90 : decode cX7_readLine 90 = .ok (.invokevirtual 259, 3) := dk_182 1 3 (dk_at dksX7_readLine_4 0 rfl rfl)
theorem dX7_readLine_93 : decode cX7_readLine 93 = .ok (.goto 171, 3) := dk_167 0 171 (dk_at dksX7_readLine_4 3 rfl rfl)
theorem dX7_readLine_96 : decode cX7_readLine 96 = .ok (.aload_n 0, 1) := dk_42 (dk_at dksX7_readLine_4 6 rfl rfl)
theorem dX7_readLine_97 : decode cX7_readLine 97 = .ok (.ldc 170, 2) := dk_18 170 (dk_at dksX7_readLine_4 7 rfl rfl)
theorem dX7_readLine_99 : decode cX7_readLine 99 = .ok (.invokevirtual 139, 3) := dk_182 0 139 (dk_at dksX7_readLine_4 9 rfl rfl)
theorem dX7_readLine_102 : decode cX7_readLine 102 = .ok (.ifCond .eq 10, 3) := dk_153 0 10 (dk_at dksX7_readLine_4 12 rfl rfl)
theorem dX7_readLine_105 : decode cX7_readLine 105 = .ok (.aload_n 0, 1) := dk_42 (dk_at dksX7_readLine_4 15 rfl rfl)
theorem dX7_readLine_106 : decode cX7_readLine 106 = .ok (.invokevirtual 262, 3) := dk_182 1 6 (dk_at dksX7_readLine_4 16 rfl rfl)
theorem dX7_readLine_109 : decode cX7_readLine 109 = .ok (.goto 155, 3) := dk_167 0 155 (dk_at dksX7_readLine_4 19 rfl rfl)
theorem dX7_readLine_112 : decode cX7_readLine 112 = .ok (.aload_n 0, 1) := dk_42 (dk_at dksX7_readLine_4 22 rfl rfl)
theorem dX7_readLine_113 : decode cX7_readLine 113 = .ok (.ldc 172, 2) := dk_18 172 (dk_at dksX7_readLine_5 0 rfl rfl)
theorem dX7_readLine_115 : decode cX7_readLine 115 = .ok (.invokevirtual 139, 3) := dk_182 0 139 (dk_at dksX7_readLine_5 2 rfl rfl)
theorem dX7_readLine_118 : decode cX7_readLine 118 = .ok (.ifCond .eq 11, 3) := dk_153 0 11 (dk_at dksX7_readLine_5 5 rfl rfl)
theorem dX7_readLine_121 : decode cX7_readLine 121 = .ok (.aload_n 0, 1) := dk_42 (dk_at dksX7_readLine_5 8 rfl rfl)
theorem dX7_readLine_122 : decode cX7_readLine 122 = .ok (.iconst 0, 1) := dk_3 (dk_at dksX7_readLine_5 9 rfl rfl)
theorem dX7_readLine_123 : decode cX7_readLine 123 = .ok (.invokevirtual 265, 3) := dk_182 1 9 (dk_at dksX7_readLine_5 10 rfl rfl)
theorem dX7_readLine_126 : decode cX7_readLine 126 = .ok (.goto 138, 3) := dk_167 0 138 (dk_at dksX7_readLine_5 13 rfl rfl)
theorem dX7_readLine_129 : decode cX7_readLine 129 = .ok (.aload_n 0, 1) := dk_42 (dk_at dksX7_readLine_5 16 rfl rfl)
theorem dX7_readLine_130 : decode cX7_readLine 130 = .ok (.ldc 174, 2) := dk_18 174 (dk_at dksX7_readLine_5 17 rfl rfl)
theorem dX7_readLine_132 : decode cX7_readLine 132 = .ok (.invokevirtual 139, 3) := dk_182 0 139 (dk_at dksX7_readLine_5 19 rfl rfl)
theorem dX7_readLine_135 : decode cX7_readLine 135 = .ok (.ifCond .eq 11, 3) := dk_153 0 11 (dk_at dksX7_readLine_6 0 rfl rfl)
theorem dX7_readLine_138 : decode cX7_readLine 138 = .ok (.aload_n 0, 1) := dk_42 (dk_at dksX7_readLine_6 3 rfl rfl)
theorem dX7_readLine_139 : decode cX7_readLine 139 = .ok (.iconst 1, 1) := dk_4 (dk_at dksX7_readLine_6 4 rfl rfl)
theorem dX7_readLine_140 : decode cX7_readLine 140 = .ok (.invokevirtual 265, 3) := dk_182 1 9 (dk_at dksX7_readLine_6 5 rfl rfl)
theorem dX7_readLine_143 : decode cX7_readLine 143 = .ok (.goto 121, 3) := dk_167 0 121 (dk_at dksX7_readLine_6 8 rfl rfl)
theorem dX7_readLine_146 : decode cX7_readLine 146 = .ok (.aload_n 0, 1) := dk_42 (dk_at dksX7_readLine_6 11 rfl rfl)
theorem dX7_readLine_147 : decode cX7_readLine 147 = .ok (.ldc 176, 2) := dk_18 176 (dk_at dksX7_readLine_6 12 rfl rfl)
theorem dX7_readLine_149 : decode cX7_readLine 149 = .ok (.invokevirtual 139, 3) := dk_182 0 139 (dk_at dksX7_readLine_6 14 rfl rfl)
theorem dX7_readLine_152 : decode cX7_readLine 152 = .ok (.ifCond .eq 11, 3) := dk_153 0 11 (dk_at dksX7_readLine_6 17 rfl rfl)
theorem dX7_readLine_155 : decode cX7_readLine 155 = .ok (.aload_n 0, 1) := dk_42 (dk_at dksX7_readLine_6 20 rfl rfl)
theorem dX7_readLine_156 : decode cX7_readLine 156 = .ok (.iconst 2, 1) := dk_5 (dk_at dksX7_readLine_6 21 rfl rfl)
theorem dX7_readLine_157 : decode cX7_readLine 157 = .ok (.invokevirtual 265, 3) := dk_182 1 9 (dk_at dksX7_readLine_7 0 rfl rfl)
theorem dX7_readLine_160 : decode cX7_readLine 160 = .ok (.goto 104, 3) := dk_167 0 104 (dk_at dksX7_readLine_7 3 rfl rfl)
theorem dX7_readLine_163 : decode cX7_readLine 163 = .ok (.aload_n 0, 1) := dk_42 (dk_at dksX7_readLine_7 6 rfl rfl)
theorem dX7_readLine_164 : decode cX7_readLine 164 = .ok (.ldc 178, 2) := dk_18 178 (dk_at dksX7_readLine_7 7 rfl rfl)
theorem dX7_readLine_166 : decode cX7_readLine 166 = .ok (.invokevirtual 139, 3) := dk_182 0 139 (dk_at dksX7_readLine_7 9 rfl rfl)
theorem dX7_readLine_169 : decode cX7_readLine 169 = .ok (.ifCond .eq 10, 3) := dk_153 0 10 (dk_at dksX7_readLine_7 12 rfl rfl)
theorem dX7_readLine_172 : decode cX7_readLine 172 = .ok (.aload_n 0, 1) := dk_42 (dk_at dksX7_readLine_7 15 rfl rfl)
theorem dX7_readLine_173 : decode cX7_readLine 173 = .ok (.invokevirtual 268, 3) := dk_182 1 12 (dk_at dksX7_readLine_7 16 rfl rfl)
theorem dX7_readLine_176 : decode cX7_readLine 176 = .ok (.goto 88, 3) := dk_167 0 88 (dk_at dksX7_readLine_7 19 rfl rfl)
theorem dX7_readLine_179 : decode cX7_readLine 179 = .ok (.aload_n 0, 1) := dk_42 (dk_at dksX7_readLine_7 22 rfl rfl)
theorem dX7_readLine_180 : decode cX7_readLine 180 = .ok (.ldc 180, 2) := dk_18 180 (dk_at dksX7_readLine_8 0 rfl rfl)
theorem dX7_readLine_182 : decode cX7_readLine 182 = .ok (.invokevirtual 139, 3) := dk_182 0 139 (dk_at dksX7_readLine_8 2 rfl rfl)
theorem dX7_readLine_185 : decode cX7_readLine 185 = .ok (.ifCond .eq 10, 3) := dk_153 0 10 (dk_at dksX7_readLine_8 5 rfl rfl)
theorem dX7_readLine_188 : decode cX7_readLine 188 = .ok (.aload_n 0, 1) := dk_42 (dk_at dksX7_readLine_8 8 rfl rfl)
theorem dX7_readLine_189 : decode cX7_readLine 189 = .ok (.invokevirtual 271, 3) := dk_182 1 15 (dk_at dksX7_readLine_8 9 rfl rfl)
theorem dX7_readLine_192 : decode cX7_readLine 192 = .ok (.goto 72, 3) := dk_167 0 72 (dk_at dksX7_readLine_8 12 rfl rfl)
theorem dX7_readLine_195 : decode cX7_readLine 195 = .ok (.aload_n 0, 1) := dk_42 (dk_at dksX7_readLine_8 15 rfl rfl)
theorem dX7_readLine_196 : decode cX7_readLine 196 = .ok (.ldc 182, 2) := dk_18 182 (dk_at dksX7_readLine_8 16 rfl rfl)
theorem dX7_readLine_198 : decode cX7_readLine 198 = .ok (.invokevirtual 139, 3) := dk_182 0 139 (dk_at dksX7_readLine_8 18 rfl rfl)
theorem dX7_readLine_201 : decode cX7_readLine 201 = .ok (.ifCond .eq 10, 3) := dk_153 0 10 (dk_at dksX7_readLine_8 21 rfl rfl)
theorem dX7_readLine_204 : decode cX7_readLine 204 = .ok (.aload_n 0, 1) := dk_42 (dk_at dksX7_readLine_9 0 rfl rfl)
theorem dX7_readLine_205 : decode cX7_readLine 205 = .ok (.invokevirtual 274, 3) := dk_182 1 18 (dk_at dksX7_readLine_9 1 rfl rfl)
theorem dX7_readLine_208 : decode cX7_readLine 208 = .ok (.goto 56, 3) := dk_167 0 56 (dk_at dksX7_readLine_9 4 rfl rfl)
theorem dX7_readLine_211 : decode cX7_readLine 211 = .ok (.aload_n 0, 1) := dk_42 (dk_at dksX7_readLine_9 7 rfl rfl)
theorem dX7_readLine_212 : decode cX7_readLine 212 = .ok (.ldc 184, 2) := dk_18 184 (dk_at dksX7_readLine_9 8 rfl rfl)
theorem dX7_readLine_214 : decode cX7_readLine 214 = .ok (.invokevirtual 139, 3) := dk_182 0 139 (dk_at dksX7_readLine_9 10 rfl rfl)
theorem dX7_readLine_217 : decode cX7_readLine 217 = .ok (.ifCond .eq 10, 3) := dk_153 0 10 (dk_at dksX7_readLine_9 13 rfl rfl)
theorem dX7_readLine_220 : decode cX7_readLine 220 = .ok (.aload_n 0, 1) := dk_42 (dk_at dksX7_readLine_9 16 rfl rfl)
theorem dX7_readLine_221 : decode cX7_readLine 221 = .ok (.invokevirtual 277, 3) := dk_182 1 21 (dk_at dksX7_readLine_9 17 rfl rfl)
theorem dX7_readLine_224 : decode cX7_readLine 224 = .ok (.goto 40, 3) := dk_167 0 40 (dk_at dksX7_readLine_9 20 rfl rfl)
theorem dX7_readLine_227 : decode cX7_readLine 227 = .ok (.aload_n 0, 1) := dk_42 (dk_at dksX7_readLine_9 23 rfl rfl)
theorem dX7_readLine_228 : decode cX7_readLine 228 = .ok (.ldc 186, 2) := dk_18 186 (dk_at dksX7_readLine_10 0 rfl rfl)
theorem dX7_readLine_230 : decode cX7_readLine 230 = .ok (.invokevirtual 139, 3) := dk_182 0 139 (dk_at dksX7_readLine_10 2 rfl rfl)
theorem dX7_readLine_233 : decode cX7_readLine 233 = .ok (.ifCond .eq 10, 3) := dk_153 0 10 (dk_at dksX7_readLine_10 5 rfl rfl)
theorem dX7_readLine_236 : decode cX7_readLine 236 = .ok (.aload_n 0, 1) := dk_42 (dk_at dksX7_readLine_10 8 rfl rfl)
theorem dX7_readLine_237 : decode cX7_readLine 237 = .ok (.invokevirtual 280, 3) := dk_182 1 24 (dk_at dksX7_readLine_10 9 rfl rfl)
theorem dX7_readLine_240 : decode cX7_readLine 240 = .ok (.goto 24, 3) := dk_167 0 24 (dk_at dksX7_readLine_10 12 rfl rfl)
theorem dX7_readLine_243 : decode cX7_readLine 243 = .ok (.aload_n 0, 1) := dk_42 (dk_at dksX7_readLine_10 15 rfl rfl)
theorem dX7_readLine_244 : decode cX7_readLine 244 = .ok (.ldc 188, 2) := dk_18 188 (dk_at dksX7_readLine_10 16 rfl rfl)
theorem dX7_readLine_246 : decode cX7_readLine 246 = .ok (.invokevirtual 139, 3) := dk_182 0 139 (dk_at dksX7_readLine_10 18 rfl rfl)
theorem dX7_readLine_249 : decode cX7_readLine 249 = .ok (.ifCond .eq 10, 3) := dk_153 0 10 (dk_at dksX7_readLine_10 21 rfl rfl)
theorem dX7_readLine_252 : decode cX7_readLine 252 = .ok (.aload_n 0, 1) := dk_42 (dk_at dksX7_readLine_11 0 rfl rfl)
theorem dX7_readLine_253 : decode cX7_readLine 253 = .ok (.invokevirtual 283, 3) := dk_182 1 27 (dk_at dksX7_readLine_11 1 rfl rfl)
theorem dX7_readLine_256 : decode cX7_readLine 256 = .ok (.goto 8, 3) := dk_167 0 8 (dk_at dksX7_readLine_11 4 rfl rfl)
theorem dX7_readLine_259 : decode cX7_readLine 259 = .ok (.aload_n 0, 1) := dk_42 (dk_at dksX7_readLine_11 7 rfl rfl)
theorem dX7_readLine_260 : decode cX7_readLine 260 = .ok (.iconst 1, 1) := dk_4 (dk_at dksX7_readLine_11 8 rfl rfl)
theorem dX7_readLine_261 : decode cX7_readLine 261 = .ok (.invokevirtual 143, 3) := dk_182 0 143 (dk_at dksX7_readLine_11 9 rfl rfl)
theorem dX7_readLine_264 : decode cX7_readLine 264 = .ok (.return_, 1) := dk_177 (dk_at dksX7_readLine_11 12 rfl rfl)
def dkwX7_readAll_2 : List UInt8 := [182, 0, 143, 177]
abbrev dktX7_readAll_2 : List UInt8 := dkwX7_readAll_2 ++ []
def dkwX7_readAll_1 : List UInt8 := [4, 159, 0, 8, 42, 4, 182, 0, 143, 42, 180, 0, 192, 180, 0, 241, 154, 0, 9, 42, 16, 6]
abbrev dktX7_readAll_1 : List UInt8 := dkwX7_readAll_1 ++ dktX7_readAll_2
def dkwX7_readAll_0 : List UInt8 := [4, 60, 27, 153, 0, 17, 42, 182, 0, 235, 42, 16, 59, 182, 0, 238, 60, 167, 255, 241, 42, 180, 0, 94]
abbrev dktX7_readAll_0 : List UInt8 := dkwX7_readAll_0 ++ dktX7_readAll_1
theorem dksX7_readAll_0 : cX7_readAll.data.toList.drop 0 = dktX7_readAll_0 := by decide +kernel
theorem dksX7_readAll_1 : cX7_readAll.data.toList.drop 24 = dktX7_readAll_1 := dk_seg dksX7_readAll_0 24 rfl rfl
theorem dksX7_readAll_2 : cX7_readAll.data.toList.drop 46 = dktX7_readAll_2 := dk_seg dksX7_readAll_1 22 rfl rfl
theorem dX7_readAll_0 : decode cX7_readAll 0 = .ok (.iconst 1, 1) := dk_4 (dk_at dksX7_readAll_0 0 rfl rfl)
theorem dX7_readAll_1 : decode cX7_readAll 1 = .ok (.istore_n 1, 1) := dk_60 (dk_at dksX7_readAll_0 1 rfl rfl)
theorem dX7_readAll_2 : decode cX7_readAll 2 = .ok (.iload_n 1, 1) := dk_27 (dk_at dksX7_readAll_0 2 rfl rfl)
theorem dX7_readAll_3 : decode cX7_readAll 3 = .ok (.ifCond .eq 17, 3) := dk_153 0 17 (dk_at dksX7_readAll_0 3 rfl rfl)
theorem dX7_readAll_6 : decode cX7_readAll 6 = .ok (.aload_n 0, 1) := dk_42 (dk_at dksX7_readAll_0 6 rfl rfl)
theorem dX7_readAll_7 : decode cX7_readAll 7 = .ok (.invokevirtual 235, 3) := dk_182 0 235 (dk_at dksX7_readAll_0 7 rfl rfl)
theorem dX7_readAll_10 : decode cX7_readAll 10 = .ok (.aload_n 0, 1) := dk_42 (dk_at dksX7_readAll_0 10 rfl rfl)
theorem dX7_readAll_11 : decode cX7_readAll 11 = .ok (.bipush 59, 2) := dk_16 59 (dk_at dksX7_readAll_0 11 rfl rfl)
theorem dX7_readAll_13 : decode cX7_readAll 13 = .ok (.invokevirtual 238, 3) := dk_182 0 238 (dk_at dksX7_readAll_0 13 rfl rfl)
theorem dX7_readAll_16 : decode cX7_readAll 16 = .ok (.istore_n 1, 1) := dk_60 (dk_at dksX7_readAll_0 16 rfl rfl)
theorem dX7_readAll_17 : decode cX7_readAll 17 = .ok (.goto (-15), 3) := dk_167 255 241 (dk_at dksX7_readAll_0 17 rfl rfl)
theorem dX7_readAll_20 : decode cX7_readAll 20 = .ok (.aload_n 0, 1) := dk_42 (dk_at dksX7_readAll_0 20 rfl rfl)
theorem dX7_readAll_21 : decode cX7_readAll 21 = .ok (.getfield 94, 3) := dk_180 0 94 (dk_at dksX7_readAll_0 21 rfl rfl)
theorem dX7_readAll_24 : decode cX7_readAll 24 = .ok (.iconst 1, 1) := dk_4 (dk_at dksX7_readAll_1 0 rfl rfl)
theorem dX7_readAll_25 : decode cX7_readAll 25 = .ok (.if_icmp .eq 8, 3) := dk_159 0 8 (dk_at dksX7_readAll_1 1 rfl rfl)
theorem dX7_readAll_28 : decode cX7_readAll 28 = .ok (.aload_n 0, 1) := dk_42 (dk_at dksX7_readAll_1 4 rfl rfl)
theorem dX7_readAll_29 : decode cX7_readAll 29 = .ok (.iconst 1, 1) := dk_4 (dk_at dksX7_readAll_1 5 rfl rfl)
theorem dX7_readAll_30 : decode cX7_readAll 30 = .ok (.invokevirtual 143, 3) := dk_182 0 143 (dk_at dksX7_readAll_1 6 rfl rfl)
theorem dX7_readAll_33 : decode cX7_readAll 33 = .ok (.aload_n 0, 1) := dk_42 (dk_at dksX7_readAll_1 9 rfl rfl)
theorem dX7_readAll_34 : decode cX7_readAll 34 = .ok (.getfield 192, 3) := dk_180 0 192 (dk_at dksX7_readAll_1 10 rfl rfl)
theorem dX7_readAll_37 : decode cX7_readAll 37 = .ok (.getfield 241, 3) := dk_180 0 241 (dk_at dksX7_readAll_1 13 rfl rfl)
theorem dX7_readAll_40 : decode cX7_readAll 40 = .ok (.ifCond .ne 9, 3) := dk_154 0 9 (dk_at dksX7_readAll_1 16 rfl rfl)
theorem dX7_readAll_43 : decode cX7_readAll 43 = .ok (.aload_n 0, 1) := dk_42 (dk_at dksX7_readAll_1 19 rfl rfl)
theorem dX7_readAll_44 : decode cX7_readAll 44 = .ok (.bipush 6, 2) := dk_16 6 (dk_at dksX7_readAll_1 20 rfl rfl)
theorem dX7_readAll_46 : decode cX7_readAll 46 = .ok (.invokevirtual 143, 3) := dk_182 0 143 (dk_at dksX7_readAll_2 0 rfl rfl)
theorem dX7_readAll_49 : decode cX7_readAll 49 = .ok (.return_, 1) := dk_177 (dk_at dksX7_readAll_2 3 rfl rfl)
def dkwX24_cases_1 : List UInt8 := [180, 0, 21, 28, 46, 167, 0, 4, 4, 104, 60, 132, 2, 1, 167, 255, 223, 27, 172]
abbrev dktX24_cases_1 : List UInt8 := dkwX24_cases_1 ++ []
def dkwX24_cases_0 : List UInt8 := [4, 60, 3, 61, 28, 42, 180, 0, 95, 162, 0, 31, 27, 42, 180, 0, 21, 28, 46, 158, 0, 12, 42]
abbrev dktX24_cases_0 : List UInt8 := dkwX24_cases_0 ++ dktX24_cases_1
theorem dksX24_cases_0 : cX24_cases.data.toList.drop 0 = dktX24_cases_0 := by decide +kernel
theorem dksX24_cases_1 : cX24_cases.data.toList.drop 23 = dktX24_cases_1 := dk_seg dksX24_cases_0 23 rfl rfl
theorem dX24_cases_0 : decode cX24_cases 0 = .ok (.iconst 1, 1) := dk_4 (dk_at dksX24_cases_0 0 rfl rfl)
theorem dX24_cases_1 : decode cX24_cases 1 = .ok (.istore_n 1, 1) := dk_60 (dk_at dksX24_cases_0 1 rfl rfl)
theorem dX24_cases_2 : decode cX24_cases 2 = .ok (.iconst 0, 1) := dk_3 (dk_at dksX24_cases_0 2 rfl rfl)
theorem dX24_cases_3 : decode cX24_cases 3 = .ok (.istore_n 2, 1) := dk_61 (dk_at dksX24_cases_0 3 rfl rfl)
theorem dX24_cases_4 : decode cX24_cases 4 = .ok (.iload_n 2, 1) := dk_28 (dk_at dksX24_cases_0 4 rfl rfl)
theorem dX24_cases_5 : decode cX24_cases 5 = .ok (.aload_n 0, 1) := dk_42 (dk_at dksX24_cases_0 5 rfl rfl)
theorem dX24_cases_6 : decode cX24_cases 6 = .ok (.getfield 95, 3) := dk_180 0 95 (dk_at dksX24_cases_0 6 rfl rfl)
theorem dX24_cases_9 : decode cX24_cases 9 = .ok (.if_icmp .ge 31, 3) := dk_162 0 31 (dk_at dksX24_cases_0 9 rfl rfl)
theorem dX24_cases_12 : decode cX24_cases 12 = .ok (.iload_n 1, 1) := dk_27 (dk_at dksX24_cases_0 12 rfl rfl)
theorem dX24_cases_13 : decode cX24_cases 13 = .ok (.aload_n 0, 1) := dk_42 (dk_at dksX24_cases_0 13 rfl rfl)
theorem dX24_cases_14 : decode cX24_cases 14 = .ok (.getfield 21, 3) := dk_180 0 21 (dk_at dksX24_cases_0 14 rfl rfl)
theorem dX24_cases_17 : decode cX24_cases 17 = .ok (.iload_n 2, 1) := dk_28 (dk_at dksX24_cases_0 17 rfl rfl)
theorem dX24_cases_18 : decode cX24_cases 18 = .ok (.iaload, 1) := dk_46 (dk_at dksX24_cases_0 18 rfl rfl)
theorem dX24_cases_19 : decode cX24_cases 19 = .ok (.ifCond .le 12, 3) := dk_158 0 12 (dk_at dksX24_cases_0 19 rfl rfl)
theorem dX24_cases_22 : decode cX24_cases 22 = .ok (.aload_n 0, 1) := dk_42 (dk_at dksX24_cases_0 22 rfl rfl)
theorem dX24_cases_23 : decode cX24_cases 23 = .ok (.getfield 21, 3) := dk_180 0 21 (dk_at dksX24_cases_1 0 rfl rfl)
theorem dX24_cases_26 : decode cX24_cases 26 = .ok (.iload_n 2, 1) := dk_28 (dk_at dksX24_cases_1 3 rfl rfl)
theorem dX24_cases_27 : decode cX24_cases 27 = .ok (.iaload, 1) := dk_46 (dk_at dksX24_cases_1 4 rfl rfl)
theorem dX24_cases_28 : decode cX24_cases 28 = .ok (.goto 4, 3) := dk_167 0 4 (dk_at dksX24_cases_1 5 rfl rfl)
theorem dX24_cases_31 : decode cX24_cases 31 = .ok (.iconst 1, 1) := dk_4 (dk_at dksX24_cases_1 8 rfl rfl)
theorem dX24_cases_32 : decode cX24_cases 32 = .ok (.imul, 1) := dk_104 (dk_at dksX24_cases_1 9 rfl rfl)
theorem dX24_cases_33 : decode cX24_cases 33 = .ok (.istore_n 1, 1) := dk_60 (dk_at dksX24_cases_1 10 rfl rfl)
theorem dX24_cases_34 : decode cX24_cases 34 = .ok (.iinc 2 1, 3) := dk_132 2 1 (dk_at dksX24_cases_1 11 rfl rfl)
theorem dX24_cases_37 : decode cX24_cases 37 = .ok (.goto (-33), 3) := dk_167 255 223 (dk_at dksX24_cases_1 14 rfl rfl)
theorem dX24_cases_40 : decode cX24_cases 40 = .ok (.iload_n 1, 1) := dk_27 (dk_at dksX24_cases_1 17 rfl rfl)
theorem dX24_cases_41 : decode cX24_cases 41 = .ok (.ireturn, 1) := dk_172 (dk_at dksX24_cases_1 18 rfl rfl)
def dkwX7_good_0 : List UInt8 := [42, 3, 181, 0, 69, 42, 2, 181, 0, 9, 27, 172]
abbrev dktX7_good_0 : List UInt8 := dkwX7_good_0 ++ []
theorem dksX7_good_0 : cX7_good.data.toList.drop 0 = dktX7_good_0 := by decide +kernel
theorem dX7_good_0 : decode cX7_good 0 = .ok (.aload_n 0, 1) := dk_42 (dk_at dksX7_good_0 0 rfl rfl)
theorem dX7_good_1 : decode cX7_good 1 = .ok (.iconst 0, 1) := dk_3 (dk_at dksX7_good_0 1 rfl rfl)
theorem dX7_good_2 : decode cX7_good 2 = .ok (.putfield 69, 3) := dk_181 0 69 (dk_at dksX7_good_0 2 rfl rfl)
theorem dX7_good_5 : decode cX7_good 5 = .ok (.aload_n 0, 1) := dk_42 (dk_at dksX7_good_0 5 rfl rfl)
theorem dX7_good_6 : decode cX7_good 6 = .ok (.iconst (-1), 1) := dk_2 (dk_at dksX7_good_0 6 rfl rfl)
theorem dX7_good_7 : decode cX7_good 7 = .ok (.putfield 9, 3) := dk_181 0 9 (dk_at dksX7_good_0 7 rfl rfl)
theorem dX7_good_10 : decode cX7_good 10 = .ok (.iload_n 1, 1) := dk_27 (dk_at dksX7_good_0 10 rfl rfl)
theorem dX7_good_11 : decode cX7_good 11 = .ok (.ireturn, 1) := dk_172 (dk_at dksX7_good_0 11 rfl rfl)
def dkwX7_hill_6 : List UInt8 := [182, 1, 194, 182, 0, 76, 172]
abbrev dktX7_hill_6 : List UInt8 := dkwX7_hill_6 ++ []
def dkwX7_hill_5 : List UInt8 := [42, 180, 0, 21, 16, 17, 16, 63, 79, 42, 3, 181, 1, 188, 42, 3, 181, 1, 191, 42, 42, 180, 1, 186]
abbrev dktX7_hill_5 : List UInt8 := dkwX7_hill_5 ++ dktX7_hill_6
def dkwX7_hill_4 : List UInt8 := [181, 1, 186, 3, 61, 28, 16, 18, 162, 0, 16, 42, 180, 0, 21, 28, 3, 79, 132, 2, 1, 167, 255, 240]
abbrev dktX7_hill_4 : List UInt8 := dkwX7_hill_4 ++ dktX7_hill_5
def dkwX7_hill_3 : List UInt8 := [158, 0, 18, 42, 7, 181, 0, 69, 42, 42, 180, 0, 129, 181, 0, 9, 2, 172, 42, 42, 180, 0, 192]
abbrev dktX7_hill_3 : List UInt8 := dkwX7_hill_3 ++ dktX7_hill_4
def dkwX7_hill_2 : List UInt8 := [183, 1, 182, 181, 0, 192, 42, 3, 181, 0, 94, 42, 182, 0, 136, 42, 182, 1, 183, 42, 180, 0, 126]
abbrev dktX7_hill_2 : List UInt8 := dkwX7_hill_2 ++ dktX7_hill_3
def dkwX7_hill_1 : List UInt8 := [27, 181, 0, 79, 42, 3, 181, 1, 179, 42, 3, 181, 0, 97, 42, 3, 181, 0, 126, 42, 187, 0, 197, 89]
abbrev dktX7_hill_1 : List UInt8 := dkwX7_hill_1 ++ dktX7_hill_2
def dkwX7_hill_0 : List UInt8 := [42, 3, 181, 0, 66, 27, 155, 0, 11, 27, 42, 180, 1, 179, 164, 0, 9, 42, 5, 182, 0, 72, 172, 42]
abbrev dktX7_hill_0 : List UInt8 := dkwX7_hill_0 ++ dktX7_hill_1
theorem dksX7_hill_0 : cX7_hill.data.toList.drop 0 = dktX7_hill_0 := by decide +kernel
theorem dksX7_hill_1 : cX7_hill.data.toList.drop 24 = dktX7_hill_1 := dk_seg dksX7_hill_0 24 rfl rfl
theorem dksX7_hill_2 : cX7_hill.data.toList.drop 48 = dktX7_hill_2 := dk_seg dksX7_hill_1 24 rfl rfl
theorem dksX7_hill_3 : cX7_hill.data.toList.drop 71 = dktX7_hill_3 := dk_seg dksX7_hill_2 23 rfl rfl
theorem dksX7_hill_4 : cX7_hill.data.toList.drop 94 = dktX7_hill_4 := dk_seg dksX7_hill_3 23 rfl rfl
theorem dksX7_hill_5 : cX7_hill.data.toList.drop 118 = dktX7_hill_5 := dk_seg dksX7_hill_4 24 rfl rfl
theorem dksX7_hill_6 : cX7_hill.data.toList.drop 142 = dktX7_hill_6 := dk_seg dksX7_hill_5 24 rfl rfl
theorem dX7_hill_0 : decode cX7_hill 0 = .ok (.aload_n 0, 1) := dk_42 (dk_at dksX7_hill_0 0 rfl rfl)
theorem dX7_hill_1 : decode cX7_hill 1 = .ok (.iconst 0, 1) := dk_3 (dk_at dksX7_hill_0 1 rfl rfl)
theorem dX7_hill_2 : decode cX7_hill 2 = .ok (.putfield 66, 3) := dk_181 0 66 (dk_at dksX7_hill_0 2 rfl rfl)
theorem dX7_hill_5 : decode cX7_hill 5 = .ok (.iload_n 1, 1) := dk_27 (dk_at dksX7_hill_0 5 rfl rfl)
theorem dX7_hill_6 : decode cX7_hill 6 = .ok (.ifCond .lt 11, 3) := dk_155 0 11 (dk_at dksX7_hill_0 6 rfl rfl)
theorem dX7_hill_9 : decode cX7_hill 9 = .ok (.iload_n 1, 1) := dk_27 (dk_at dksX7_hill_0 9 rfl rfl)
theorem dX7_hill_10 : decode cX7_hill 10 = .ok (.aload_n 0, 1) := dk_42 (dk_at dksX7_hill_0 10 rfl rfl)
theorem dX7_hill_11 : decode cX7_hill 11 = .ok (.getfield 435, 3) := dk_180 1 179 (dk_at dksX7_hill_0 11 rfl rfl)
theorem dX7_hill_14 : decode cX7_hill 14 = .ok (.if_icmp .le 9, 3) := dk_164 0 9 (dk_at dksX7_hill_0 14 rfl rfl)
theorem dX7_hill_17 : decode cX7_hill 17 = .ok (.aload_n 0, 1) := dk_42 (dk_at dksX7_hill_0 17 rfl rfl)
theorem dX7_hill_18 : decode cX7_hill 18 = .ok (.iconst 2, 1) := dk_5 (dk_at dksX7_hill_0 18 rfl rfl)
theorem dX7_hill_19 : decode cX7_hill 19 = .ok (.invokevirtual 72, 3) := dk_182 0 72 (dk_at dksX7_hill_0 19 rfl rfl)
theorem dX7_hill_22 : decode cX7_hill 22 = .ok (.ireturn, 1) := dk_172 (dk_at dksX7_hill_0 22 rfl rfl)
theorem dX7_hill_23 : decode cX7_hill 23 = .ok (.aload_n 0, 1) := dk_42 (dk_at dksX7_hill_0 23 rfl rfl)
theorem dX7_hill_24 : decode cX7_hill 24 = .ok (.iload_n 1, 1) := dk_27 (dk_at dksX7_hill_1 0 rfl rfl)
theorem dX7_hill_25 : decode cX7_hill 25 = .ok (.putfield 79, 3) := dk_181 0 79 (dk_at dksX7_hill_1 1 rfl rfl)
theorem dX7_hill_28 : decode cX7_hill 28 = .ok (.aload_n 0, 1) := dk_42 (dk_at dksX7_hill_1 4 rfl rfl)
theorem dX7_hill_29 : decode cX7_hill 29 = .ok (.iconst 0, 1) := dk_3 (dk_at dksX7_hill_1 5 rfl rfl)
theorem dX7_hill_30 : decode cX7_hill 30 = .ok (.putfield 435, 3) := dk_181 1 179 (dk_at dksX7_hill_1 6 rfl rfl)
theorem dX7_hill_33 : decode cX7_hill 33 = .ok (.aload_n 0, 1) := dk_42 (dk_at dksX7_hill_1 9 rfl rfl)
theorem dX7_hill_34 : decode cX7_hill 34 = .ok (.iconst 0, 1) := dk_3 (dk_at dksX7_hill_1 10 rfl rfl)
theorem dX7_hill_35 : decode cX7_hill 35 = .ok (.putfield 97, 3) := dk_181 0 97 (dk_at dksX7_hill_1 11 rfl rfl)
theorem dX7_hill_38 : decode cX7_hill 38 = .ok (.aload_n 0, 1) := dk_42 (dk_at dksX7_hill_1 14 rfl rfl)
theorem dX7_hill_39 : decode cX7_hill 39 = .ok (.iconst 0, 1) := dk_3 (dk_at dksX7_hill_1 15 rfl rfl)
theorem dX7_hill_40 : decode cX7_hill 40 = .ok (.putfield 126, 3) := dk_181 0 126 (dk_at dksX7_hill_1 16 rfl rfl)
theorem dX7_hill_43 : decode cX7_hill 43 = .ok (.aload_n 0, 1) := dk_42 (dk_at dksX7_hill_1 19 rfl rfl)
theorem dX7_hill_44 : decode cX7_hill 44 = .ok (.new 197, 3) := dk_187 0 197 (dk_at dksX7_hill_1 20 rfl rfl)
theorem dX7_hill_47 : decode cX7_hill 47 = .ok (.dup, 1) := dk_89 (dk_at dksX7_hill_1 23 rfl rfl)
theorem dX7_hill_48 : decode cX7_hill 48 = .ok (.invokespecial 438, 3) := dk_183 1 182 (dk_at dksX7_hill_2 0 rfl rfl)
theorem dX7_hill_51 : decode cX7_hill 51 = .ok (.putfield 192, 3) := dk_181 0 192 (dk_at dksX7_hill_2 3 rfl rfl)
theorem dX7_hill_54 : decode cX7_hill 54 = .ok (.aload_n 0, 1) := dk_42 (dk_at dksX7_hill_2 6 rfl rfl)
theorem dX7_hill_55 : decode cX7_hill 55 = .ok (.iconst 0, 1) := dk_3 (dk_at dksX7_hill_2 7 rfl rfl)
theorem dX7_hill_56 : decode cX7_hill 56 = .ok (.putfield 94, 3) := dk_181 0 94 (dk_at dksX7_hill_2 8 rfl rfl)
theorem dX7_hill_59 : decode cX7_hill 59 = .ok (.aload_n 0, 1) := dk_42 (dk_at dksX7_hill_2 11 rfl rfl)
theorem dX7_hill_60 : decode cX7_hill 60 = .ok (.invokevirtual 136, 3) := dk_182 0 136 (dk_at dksX7_hill_2 12 rfl rfl)
theorem dX7_hill_63 : decode cX7_hill 63 = .ok (.aload_n 0, 1) := dk_42 (dk_at dksX7_hill_2 15 rfl rfl)
theorem dX7_hill_64 : decode cX7_hill 64 = .ok (.invokevirtual 439, 3) := dk_182 1 183 (dk_at dksX7_hill_2 16 rfl rfl)
theorem dX7_hill_67 : decode cX7_hill 67 = .ok (.aload_n 0, 1) := dk_42 (dk_at dksX7_hill_2 19 rfl rfl)
theorem dX7_hill_68 : decode cX7_hill 68 = .ok (.getfield 126, 3) := dk_180 0 126 (dk_at dksX7_hill_2 20 rfl rfl)
theorem dX7_hill_71 : decode cX7_hill 71 = .ok (.ifCond .le 18, 3) := dk_158 0 18 (dk_at dksX7_hill_3 0 rfl rfl)
theorem dX7_hill_74 : decode cX7_hill 74 = .ok (.aload_n 0, 1) := dk_42 (dk_at dksX7_hill_3 3 rfl rfl)
theorem dX7_hill_75 : decode cX7_hill 75 = .ok (.iconst 4, 1) := dk_7 (dk_at dksX7_hill_3 4 rfl rfl)
theorem dX7_hill_76 : decode cX7_hill 76 = .ok (.putfield 69, 3) := dk_181 0 69 (dk_at dksX7_hill_3 5 rfl rfl)
theorem dX7_hill_79 : decode cX7_hill 79 = .ok (.aload_n 0, 1) := dk_42 (dk_at dksX7_hill_3 8 rfl rfl)
theorem dX7_hill_80 : decode cX7_hill 80 = .ok (.aload_n 0, 1) := dk_42 (dk_at dksX7_hill_3 9 rfl rfl)
theorem dX7_hill_81 : decode cX7_hill 81 = .ok (.getfield 129, 3) := dk_180 0 129 (dk_at dksX7_hill_3 10 rfl rfl)
theorem dX7_hill_84 : decode cX7_hill 84 = .ok (.putfield 9, 3) := dk_181 0 9 (dk_at dksX7_hill_3 13 rfl rfl)
theorem dX7_hill_87 : decode cX7_hill 87 = .ok (.iconst (-1), 1) := dk_2 (dk_at dksX7_hill_3 16 rfl rfl)
theorem dX7_hill_88 : decode cX7_hill 88 = .ok (.ireturn, 1) := dk_172 (dk_at dksX7_hill_3 17 rfl rfl)
theorem dX7_hill_89 : decode cX7_hill 89 = .ok (.aload_n 0, 1) := dk_42 (dk_at dksX7_hill_3 18 rfl rfl)
theorem dX7_hill_90 : decode cX7_hill 90 = .ok (.aload_n 0, 1) := dk_42 (dk_at dksX7_hill_3 19 rfl rfl)
theorem dX7_hill_91 : decode cX7_hill 91 = .ok (.getfield 192, 3) := dk_180 0 192 (dk_at dksX7_hill_3 20 rfl rfl)
theorem dX7_hill_94 : decode cX7_hill 94 = .ok (.putfield 442, 3) := dk_181 1 186 (dk_at dksX7_hill_4 0 rfl rfl)
theorem dX7_hill_97 : decode cX7_hill 97 = .ok (.iconst 0, 1) := dk_3 (dk_at dksX7_hill_4 3 rfl rfl)
theorem dX7_hill_98 : decode cX7_hill 98 = .ok (.istore_n 2, 1) := dk_61 (dk_at dksX7_hill_4 4 rfl rfl)
theorem dX7_hill_99 : decode cX7_hill 99 = .ok (.iload_n 2, 1) := dk_28 (dk_at dksX7_hill_4 5 rfl rfl)
theorem dX7_hill_100 : decode cX7_hill 100 = .ok (.bipush 18, 2) := dk_16 18 (dk_at dksX7_hill_4 6 rfl rfl)
theorem dX7_hill_102 : decode cX7_hill 102 = .ok (.if_icmp .ge 16, 3) := dk_162 0 16 (dk_at dksX7_hill_4 8 rfl rfl)
theorem dX7_hill_105 : decode cX7_hill 105 = .ok (.aload_n 0, 1) := dk_42 (dk_at dksX7_hill_4 11 rfl rfl)
theorem dX7_hill_106 : decode cX7_hill 106 = .ok (.getfield 21, 3) := dk_180 0 21 (dk_at dksX7_hill_4 12 rfl rfl)
theorem dX7_hill_109 : decode cX7_hill 109 = .ok (.iload_n 2, 1) := dk_28 (dk_at dksX7_hill_4 15 rfl rfl)
theorem dX7_hill_110 : decode cX7_hill 110 = .ok (.iconst 0, 1) := dk_3 (dk_at dksX7_hill_4 16 rfl rfl)
theorem dX7_hill_111 : decode cX7_hill 111 = .ok (.iastore, 1) := dk_79 (dk_at dksX7_hill_4 17 rfl rfl)
theorem dX7_hill_112 : decode cX7_hill 112 = .ok (.iinc 2 1, 3) := dk_132 2 1 (dk_at dksX7_hill_4 18 rfl rfl)
theorem dX7_hill_115 : decode cX7_hill 115 = .ok (.goto (-16), 3) := dk_167 255 240 (dk_at dksX7_hill_4 21 rfl rfl)
theorem dX7_hill_118 : decode cX7_hill 118 = .ok (.aload_n 0, 1) := dk_42 (dk_at dksX7_hill_5 0 rfl rfl)
theorem dX7_hill_119 : decode cX7_hill 119 = .ok (.getfield 21, 3) := dk_180 0 21 (dk_at dksX7_hill_5 1 rfl rfl)
theorem dX7_hill_122 : decode cX7_hill 122 = .ok (.bipush 17, 2) := dk_16 17 (dk_at dksX7_hill_5 4 rfl rfl)
theorem dX7_hill_124 : decode cX7_hill 124 = .ok (.bipush 63, 2) := dk_16 63 (dk_at dksX7_hill_5 6 rfl rfl)
theorem dX7_hill_126 : decode cX7_hill 126 = .ok (.iastore, 1) := dk_79 (dk_at dksX7_hill_5 8 rfl rfl)
theorem dX7_hill_127 : decode cX7_hill 127 = .ok (.aload_n 0, 1) := dk_42 (dk_at dksX7_hill_5 9 rfl rfl)
theorem dX7_hill_128 : decode cX7_hill 128 = .ok (.iconst 0, 1) := dk_3 (dk_at dksX7_hill_5 10 rfl rfl)
theorem dX7_hill_129 : decode cX7_hill 129 = .ok (.putfield 444, 3) := dk_181 1 188 (dk_at dksX7_hill_5 11 rfl rfl)
theorem dX7_hill_132 : decode cX7_hill 132 = .ok (.aload_n 0, 1) := dk_42 (dk_at dksX7_hill_5 14 rfl rfl)
theorem dX7_hill_133 : decode cX7_hill 133 = .ok (.iconst 0, 1) := dk_3 (dk_at dksX7_hill_5 15 rfl rfl)
theorem dX7_hill_134 : decode cX7_hill 134 = .ok (.putfield 447, 3) := dk_181 1 191 (dk_at dksX7_hill_5 16 rfl rfl)
theorem dX7_hill_137 : decode cX7_hill 137 = .ok (.aload_n 0, 1) := dk_42 (dk_at dksX7_hill_5 19 rfl rfl)
theorem dX7_hill_138 : decode cX7_hill 138 = .ok (.aload_n 0, 1) := dk_42 (dk_at dksX7_hill_5 20 rfl rfl)
theorem dX7_hill_139 : decode cX7_hill 139 = .ok (.getfield 442, 3) := dk_180 1 186 (dk_at dksX7_hill_5 21 rfl rfl)
theorem dX7_hill_142 : decode cX7_hill 142 = .ok (.invokevirtual 450, 3) := dk_182 1 194 (dk_at dksX7_hill_6 0 rfl rfl)
theorem dX7_hill_145 : decode cX7_hill 145 = .ok (.invokevirtual 76, 3) := dk_182 0 76 (dk_at dksX7_hill_6 3 rfl rfl)
theorem dX7_hill_148 : decode cX7_hill 148 = .ok (.ireturn, 1) := dk_172 (dk_at dksX7_hill_6 6 rfl rfl)
theorem dX1_fault_0 : decode cX1_fault 0 = .ok (.aload_n 0, 1) := by decide +kernel
theorem dX1_fault_1 : decode cX1_fault 1 = .ok (.getfield 97, 3) := by decide +kernel
theorem dX1_fault_4 : decode cX1_fault 4 = .ok (.ireturn, 1) := by decide +kernel
def dkwX7_fault_0 : List UInt8 := [42, 3, 181, 0, 66, 42, 180, 0, 126, 172]
abbrev dktX7_fault_0 : List UInt8 := dkwX7_fault_0 ++ []
theorem dksX7_fault_0 : cX7_fault.data.toList.drop 0 = dktX7_fault_0 := by decide +kernel
theorem dX7_fault_0 : decode cX7_fault 0 = .ok (.aload_n 0, 1) := dk_42 (dk_at dksX7_fault_0 0 rfl rfl)
theorem dX7_fault_1 : decode cX7_fault 1 = .ok (.iconst 0, 1) := dk_3 (dk_at dksX7_fault_0 1 rfl rfl)
theorem dX7_fault_2 : decode cX7_fault 2 = .ok (.putfield 66, 3) := dk_181 0 66 (dk_at dksX7_fault_0 2 rfl rfl)
theorem dX7_fault_5 : decode cX7_fault 5 = .ok (.aload_n 0, 1) := dk_42 (dk_at dksX7_fault_0 5 rfl rfl)
theorem dX7_fault_6 : decode cX7_fault 6 = .ok (.getfield 126, 3) := dk_180 0 126 (dk_at dksX7_fault_0 6 rfl rfl)
theorem dX7_fault_9 : decode cX7_fault 9 = .ok (.ireturn, 1) := dk_172 (dk_at dksX7_fault_0 9 rfl rfl)
def dkwX1_where_0 : List UInt8 := [42, 180, 0, 77, 7, 160, 0, 10, 42, 180, 0, 26, 167, 0, 4, 2, 172]
abbrev dktX1_where_0 : List UInt8 := dkwX1_where_0 ++ []
theorem dksX1_where_0 : cX1_where.data.toList.drop 0 = dktX1_where_0 := by decide +kernel
theorem dX1_where_0 : decode cX1_where 0 = .ok (.aload_n 0, 1) := dk_42 (dk_at dksX1_where_0 0 rfl rfl)
theorem dX1_where_1 : decode cX1_where 1 = .ok (.getfield 77, 3) := dk_180 0 77 (dk_at dksX1_where_0 1 rfl rfl)
theorem dX1_where_4 : decode cX1_where 4 = .ok (.iconst 4, 1) := dk_7 (dk_at dksX1_where_0 4 rfl rfl)
theorem dX1_where_5 : decode cX1_where 5 = .ok (.if_icmp .ne 10, 3) := dk_160 0 10 (dk_at dksX1_where_0 5 rfl rfl)
theorem dX1_where_8 : decode cX1_where 8 = .ok (.aload_n 0, 1) := dk_42 (dk_at dksX1_where_0 8 rfl rfl)
theorem dX1_where_9 : decode cX1_where 9 = .ok (.getfield 26, 3) := dk_180 0 26 (dk_at dksX1_where_0 9 rfl rfl)
theorem dX1_where_12 : decode cX1_where 12 = .ok (.goto 4, 3) := dk_167 0 4 (dk_at dksX1_where_0 12 rfl rfl)
theorem dX1_where_15 : decode cX1_where 15 = .ok (.iconst (-1), 1) := dk_2 (dk_at dksX1_where_0 15 rfl rfl)
theorem dX1_where_16 : decode cX1_where 16 = .ok (.ireturn, 1) := dk_172 (dk_at dksX1_where_0 16 rfl rfl)
def dkwX7_where_0 : List UInt8 := [42, 3, 181, 0, 66, 42, 180, 0, 9, 172]
abbrev dktX7_where_0 : List UInt8 := dkwX7_where_0 ++ []
theorem dksX7_where_0 : cX7_where.data.toList.drop 0 = dktX7_where_0 := by decide +kernel
theorem dX7_where_0 : decode cX7_where 0 = .ok (.aload_n 0, 1) := dk_42 (dk_at dksX7_where_0 0 rfl rfl)
theorem dX7_where_1 : decode cX7_where 1 = .ok (.iconst 0, 1) := dk_3 (dk_at dksX7_where_0 1 rfl rfl)
theorem dX7_where_2 : decode cX7_where 2 = .ok (.putfield 66, 3) := dk_181 0 66 (dk_at dksX7_where_0 2 rfl rfl)
theorem dX7_where_5 : decode cX7_where 5 = .ok (.aload_n 0, 1) := dk_42 (dk_at dksX7_where_0 5 rfl rfl)
theorem dX7_where_6 : decode cX7_where 6 = .ok (.getfield 9, 3) := dk_180 0 9 (dk_at dksX7_where_0 6 rfl rfl)
theorem dX7_where_9 : decode cX7_where 9 = .ok (.ireturn, 1) := dk_172 (dk_at dksX7_where_0 9 rfl rfl)
def dkwX1_isPlace_1 : List UInt8 := [4, 167, 0, 4, 3, 172]
abbrev dktX1_isPlace_1 : List UInt8 := dkwX1_isPlace_1 ++ []
def dkwX1_isPlace_0 : List UInt8 := [42, 180, 0, 104, 198, 0, 24, 27, 3, 42, 180, 0, 104, 180, 0, 130, 4, 100, 184, 0, 90, 153, 0, 7]
abbrev dktX1_isPlace_0 : List UInt8 := dkwX1_isPlace_0 ++ dktX1_isPlace_1
theorem dksX1_isPlace_0 : cX1_isPlace.data.toList.drop 0 = dktX1_isPlace_0 := by decide +kernel
theorem dksX1_isPlace_1 : cX1_isPlace.data.toList.drop 24 = dktX1_isPlace_1 := dk_seg dksX1_isPlace_0 24 rfl rfl
theorem dX1_isPlace_0 : decode cX1_isPlace 0 = .ok (.aload_n 0, 1) := dk_42 (dk_at dksX1_isPlace_0 0 rfl rfl)
theorem dX1_isPlace_1 : decode cX1_isPlace 1 = .ok (.getfield 104, 3) := dk_180 0 104 (dk_at dksX1_isPlace_0 1 rfl rfl)
theorem dX1_isPlace_4 : decode cX1_isPlace 4 = .ok (.ifnull 24, 3) := dk_198 0 24 (dk_at dksX1_isPlace_0 4 rfl rfl)
theorem dX1_isPlace_7 : decode cX1_isPlace 7 = .ok (.iload_n 1, 1) := dk_27 (dk_at dksX1_isPlace_0 7 rfl rfl)
theorem dX1_isPlace_8 : decode cX1_isPlace 8 = .ok (.iconst 0, 1) := dk_3 (dk_at dksX1_isPlace_0 8 rfl rfl)
theorem dX1_isPlace_9 : decode cX1_isPlace 9 = .ok (.aload_n 0, 1) := dk_42 (dk_at dksX1_isPlace_0 9 rfl rfl)
theorem dX1_isPlace_10 : decode cX1_isPlace 10 = .ok (.getfield 104, 3) := dk_180 0 104 (dk_at dksX1_isPlace_0 10 rfl rfl)
theorem dX1_isPlace_13 : decode cX1_isPlace 13 = .ok (.getfield 130, 3) := dk_180 0 130 (dk_at dksX1_isPlace_0 13 rfl rfl)
theorem dX1_isPlace_16 : decode cX1_isPlace 16 = .ok (.iconst 1, 1) := dk_4 (dk_at dksX1_isPlace_0 16 rfl rfl)
theorem dX1_isPlace_17 : decode cX1_isPlace 17 = .ok (.isub, 1) := dk_100 (dk_at dksX1_isPlace_0 17 rfl rfl)
theorem dX1_isPlace_18 : decode cX1_isPlace 18 = .ok (.invokestatic 90, 3) := dk_184 0 90 (dk_at dksX1_isPlace_0 18 rfl rfl)
theorem dX1_isPlace_21 : decode cX1_isPlace 21 = .ok (.ifCond .eq 7, 3) := dk_153 0 7 (dk_at dksX1_isPlace_0 21 rfl rfl)
theorem dX1_isPlace_24 : decode cX1_isPlace 24 = .ok (.iconst 1, 1) := dk_4 (dk_at dksX1_isPlace_1 0 rfl rfl)
theorem dX1_isPlace_25 : decode cX1_isPlace 25 = .ok (.goto 4, 3) := dk_167 0 4 (dk_at dksX1_isPlace_1 1 rfl rfl)
theorem dX1_isPlace_28 : decode cX1_isPlace 28 = .ok (.iconst 0, 1) := dk_3 (dk_at dksX1_isPlace_1 4 rfl rfl)
theorem dX1_isPlace_29 : decode cX1_isPlace 29 = .ok (.ireturn, 1) := dk_172 (dk_at dksX1_isPlace_1 5 rfl rfl)
def dkwX1_isPlant_1 : List UInt8 := [4, 167, 0, 4, 3, 172]
abbrev dktX1_isPlant_1 : List UInt8 := dkwX1_isPlant_1 ++ []
def dkwX1_isPlant_0 : List UInt8 := [42, 180, 0, 104, 198, 0, 24, 27, 3, 42, 180, 0, 104, 180, 0, 133, 4, 100, 184, 0, 90, 153, 0, 7]
abbrev dktX1_isPlant_0 : List UInt8 := dkwX1_isPlant_0 ++ dktX1_isPlant_1
theorem dksX1_isPlant_0 : cX1_isPlant.data.toList.drop 0 = dktX1_isPlant_0 := by decide +kernel
theorem dksX1_isPlant_1 : cX1_isPlant.data.toList.drop 24 = dktX1_isPlant_1 := dk_seg dksX1_isPlant_0 24 rfl rfl
theorem dX1_isPlant_0 : decode cX1_isPlant 0 = .ok (.aload_n 0, 1) := dk_42 (dk_at dksX1_isPlant_0 0 rfl rfl)
theorem dX1_isPlant_1 : decode cX1_isPlant 1 = .ok (.getfield 104, 3) := dk_180 0 104 (dk_at dksX1_isPlant_0 1 rfl rfl)
theorem dX1_isPlant_4 : decode cX1_isPlant 4 = .ok (.ifnull 24, 3) := dk_198 0 24 (dk_at dksX1_isPlant_0 4 rfl rfl)
theorem dX1_isPlant_7 : decode cX1_isPlant 7 = .ok (.iload_n 1, 1) := dk_27 (dk_at dksX1_isPlant_0 7 rfl rfl)
theorem dX1_isPlant_8 : decode cX1_isPlant 8 = .ok (.iconst 0, 1) := dk_3 (dk_at dksX1_isPlant_0 8 rfl rfl)
theorem dX1_isPlant_9 : decode cX1_isPlant 9 = .ok (.aload_n 0, 1) := dk_42 (dk_at dksX1_isPlant_0 9 rfl rfl)
theorem dX1_isPlant_10 : decode cX1_isPlant 10 = .ok (.getfield 104, 3) := dk_180 0 104 (dk_at dksX1_isPlant_0 10 rfl rfl)
theorem dX1_isPlant_13 : decode cX1_isPlant 13 = .ok (.getfield 133, 3) := dk_180 0 133 (dk_at dksX1_isPlant_0 13 rfl rfl)
theorem dX1_isPlant_16 : decode cX1_isPlant 16 = .ok (.iconst 1, 1) := dk_4 (dk_at dksX1_isPlant_0 16 rfl rfl)
theorem dX1_isPlant_17 : decode cX1_isPlant 17 = .ok (.isub, 1) := dk_100 (dk_at dksX1_isPlant_0 17 rfl rfl)
theorem dX1_isPlant_18 : decode cX1_isPlant 18 = .ok (.invokestatic 90, 3) := dk_184 0 90 (dk_at dksX1_isPlant_0 18 rfl rfl)
theorem dX1_isPlant_21 : decode cX1_isPlant 21 = .ok (.ifCond .eq 7, 3) := dk_153 0 7 (dk_at dksX1_isPlant_0 21 rfl rfl)
theorem dX1_isPlant_24 : decode cX1_isPlant 24 = .ok (.iconst 1, 1) := dk_4 (dk_at dksX1_isPlant_1 0 rfl rfl)
theorem dX1_isPlant_25 : decode cX1_isPlant 25 = .ok (.goto 4, 3) := dk_167 0 4 (dk_at dksX1_isPlant_1 1 rfl rfl)
theorem dX1_isPlant_28 : decode cX1_isPlant 28 = .ok (.iconst 0, 1) := dk_3 (dk_at dksX1_isPlant_1 4 rfl rfl)
theorem dX1_isPlant_29 : decode cX1_isPlant 29 = .ok (.ireturn, 1) := dk_172 (dk_at dksX1_isPlant_1 5 rfl rfl)
def dkwX1_plants_1 : List UInt8 := [180, 0, 158, 27, 50, 180, 0, 162, 28, 46, 167, 0, 8, 42, 4, 182, 0, 94, 172]
abbrev dktX1_plants_1 : List UInt8 := dkwX1_plants_1 ++ []
def dkwX1_plants_0 : List UInt8 := [42, 182, 0, 80, 42, 27, 182, 0, 151, 153, 0, 28, 42, 28, 182, 0, 155, 153, 0, 20, 42, 180, 0, 104]
abbrev dktX1_plants_0 : List UInt8 := dkwX1_plants_0 ++ dktX1_plants_1
theorem dksX1_plants_0 : cX1_plants.data.toList.drop 0 = dktX1_plants_0 := by decide +kernel
theorem dksX1_plants_1 : cX1_plants.data.toList.drop 24 = dktX1_plants_1 := dk_seg dksX1_plants_0 24 rfl rfl
theorem dX1_plants_0 : decode cX1_plants 0 = .ok (.aload_n 0, 1) := dk_42 (dk_at dksX1_plants_0 0 rfl rfl)
theorem dX1_plants_1 : decode cX1_plants 1 = .ok (.invokevirtual 80, 3) := dk_182 0 80 (dk_at dksX1_plants_0 1 rfl rfl)
theorem dX1_plants_4 : decode cX1_plants 4 = .ok (.aload_n 0, 1) := dk_42 (dk_at dksX1_plants_0 4 rfl rfl)
theorem dX1_plants_5 : decode cX1_plants 5 = .ok (.iload_n 1, 1) := dk_27 (dk_at dksX1_plants_0 5 rfl rfl)
theorem dX1_plants_6 : decode cX1_plants 6 = .ok (.invokevirtual 151, 3) := dk_182 0 151 (dk_at dksX1_plants_0 6 rfl rfl)
theorem dX1_plants_9 : decode cX1_plants 9 = .ok (.ifCond .eq 28, 3) := dk_153 0 28 (dk_at dksX1_plants_0 9 rfl rfl)
theorem dX1_plants_12 : decode cX1_plants 12 = .ok (.aload_n 0, 1) := dk_42 (dk_at dksX1_plants_0 12 rfl rfl)
theorem dX1_plants_13 : decode cX1_plants 13 = .ok (.iload_n 2, 1) := dk_28 (dk_at dksX1_plants_0 13 rfl rfl)
theorem dX1_plants_14 : decode cX1_plants 14 = .ok (.invokevirtual 155, 3) := dk_182 0 155 (dk_at dksX1_plants_0 14 rfl rfl)
theorem dX1_plants_17 : decode cX1_plants 17 = .ok (.ifCond .eq 20, 3) := dk_153 0 20 (dk_at dksX1_plants_0 17 rfl rfl)
theorem dX1_plants_20 : decode cX1_plants 20 = .ok (.aload_n 0, 1) := dk_42 (dk_at dksX1_plants_0 20 rfl rfl)
theorem dX1_plants_21 : decode cX1_plants 21 = .ok (.getfield 104, 3) := dk_180 0 104 (dk_at dksX1_plants_0 21 rfl rfl)
theorem dX1_plants_24 : decode cX1_plants 24 = .ok (.getfield 158, 3) := dk_180 0 158 (dk_at dksX1_plants_1 0 rfl rfl)
theorem dX1_plants_27 : decode cX1_plants 27 = .ok (.iload_n 1, 1) := dk_27 (dk_at dksX1_plants_1 3 rfl rfl)
theorem dX1_plants_28 : decode cX1_plants 28 = .ok (.aaload, 1) := dk_50 (dk_at dksX1_plants_1 4 rfl rfl)
theorem dX1_plants_29 : decode cX1_plants 29 = .ok (.getfield 162, 3) := dk_180 0 162 (dk_at dksX1_plants_1 5 rfl rfl)
theorem dX1_plants_32 : decode cX1_plants 32 = .ok (.iload_n 2, 1) := dk_28 (dk_at dksX1_plants_1 8 rfl rfl)
theorem dX1_plants_33 : decode cX1_plants 33 = .ok (.iaload, 1) := dk_46 (dk_at dksX1_plants_1 9 rfl rfl)
theorem dX1_plants_34 : decode cX1_plants 34 = .ok (.goto 8, 3) := dk_167 0 8 (dk_at dksX1_plants_1 10 rfl rfl)
theorem dX1_plants_37 : decode cX1_plants 37 = .ok (.aload_n 0, 1) := dk_42 (dk_at dksX1_plants_1 13 rfl rfl)
theorem dX1_plants_38 : decode cX1_plants 38 = .ok (.iconst 1, 1) := dk_4 (dk_at dksX1_plants_1 14 rfl rfl)
theorem dX1_plants_39 : decode cX1_plants 39 = .ok (.invokevirtual 94, 3) := dk_182 0 94 (dk_at dksX1_plants_1 15 rfl rfl)
theorem dX1_plants_42 : decode cX1_plants 42 = .ok (.ireturn, 1) := dk_172 (dk_at dksX1_plants_1 18 rfl rfl)
def dkwX7_isPlace_1 : List UInt8 := [167, 0, 4, 3, 172]
abbrev dktX7_isPlace_1 : List UInt8 := dkwX7_isPlace_1 ++ []
def dkwX7_isPlace_0 : List UInt8 := [42, 180, 1, 186, 198, 0, 22, 27, 155, 0, 18, 27, 42, 180, 1, 186, 180, 0, 241, 162, 0, 7, 4]
abbrev dktX7_isPlace_0 : List UInt8 := dkwX7_isPlace_0 ++ dktX7_isPlace_1
theorem dksX7_isPlace_0 : cX7_isPlace.data.toList.drop 0 = dktX7_isPlace_0 := by decide +kernel
theorem dksX7_isPlace_1 : cX7_isPlace.data.toList.drop 23 = dktX7_isPlace_1 := dk_seg dksX7_isPlace_0 23 rfl rfl
theorem dX7_isPlace_0 : decode cX7_isPlace 0 = .ok (.aload_n 0, 1) := dk_42 (dk_at dksX7_isPlace_0 0 rfl rfl)
theorem dX7_isPlace_1 : decode cX7_isPlace 1 = .ok (.getfield 442, 3) := dk_180 1 186 (dk_at dksX7_isPlace_0 1 rfl rfl)
theorem dX7_isPlace_4 : decode cX7_isPlace 4 = .ok (.ifnull 22, 3) := dk_198 0 22 (dk_at dksX7_isPlace_0 4 rfl rfl)
theorem dX7_isPlace_7 : decode cX7_isPlace 7 = .ok (.iload_n 1, 1) := dk_27 (dk_at dksX7_isPlace_0 7 rfl rfl)
theorem dX7_isPlace_8 : decode cX7_isPlace 8 = .ok (.ifCond .lt 18, 3) := dk_155 0 18 (dk_at dksX7_isPlace_0 8 rfl rfl)
theorem dX7_isPlace_11 : decode cX7_isPlace 11 = .ok (.iload_n 1, 1) := dk_27 (dk_at dksX7_isPlace_0 11 rfl rfl)
theorem dX7_isPlace_12 : decode cX7_isPlace 12 = .ok (.aload_n 0, 1) := dk_42 (dk_at dksX7_isPlace_0 12 rfl rfl)
theorem dX7_isPlace_13 : decode cX7_isPlace 13 = .ok (.getfield 442, 3) := dk_180 1 186 (dk_at dksX7_isPlace_0 13 rfl rfl)
theorem dX7_isPlace_16 : decode cX7_isPlace 16 = .ok (.getfield 241, 3) := dk_180 0 241 (dk_at dksX7_isPlace_0 16 rfl rfl)
theorem dX7_isPlace_19 : decode cX7_isPlace 19 = .ok (.if_icmp .ge 7, 3) := dk_162 0 7 (dk_at dksX7_isPlace_0 19 rfl rfl)
theorem dX7_isPlace_22 : decode cX7_isPlace 22 = .ok (.iconst 1, 1) := dk_4 (dk_at dksX7_isPlace_0 22 rfl rfl)
theorem dX7_isPlace_23 : decode cX7_isPlace 23 = .ok (.goto 4, 3) := dk_167 0 4 (dk_at dksX7_isPlace_1 0 rfl rfl)
theorem dX7_isPlace_26 : decode cX7_isPlace 26 = .ok (.iconst 0, 1) := dk_3 (dk_at dksX7_isPlace_1 3 rfl rfl)
theorem dX7_isPlace_27 : decode cX7_isPlace 27 = .ok (.ireturn, 1) := dk_172 (dk_at dksX7_isPlace_1 4 rfl rfl)
def dkwX7_isPlant_1 : List UInt8 := [167, 0, 4, 3, 172]
abbrev dktX7_isPlant_1 : List UInt8 := dkwX7_isPlant_1 ++ []
def dkwX7_isPlant_0 : List UInt8 := [42, 180, 1, 186, 198, 0, 22, 27, 155, 0, 18, 27, 42, 180, 1, 186, 180, 0, 229, 162, 0, 7, 4]
abbrev dktX7_isPlant_0 : List UInt8 := dkwX7_isPlant_0 ++ dktX7_isPlant_1
theorem dksX7_isPlant_0 : cX7_isPlant.data.toList.drop 0 = dktX7_isPlant_0 := by decide +kernel
theorem dksX7_isPlant_1 : cX7_isPlant.data.toList.drop 23 = dktX7_isPlant_1 := dk_seg dksX7_isPlant_0 23 rfl rfl
theorem dX7_isPlant_0 : decode cX7_isPlant 0 = .ok (.aload_n 0, 1) := dk_42 (dk_at dksX7_isPlant_0 0 rfl rfl)
theorem dX7_isPlant_1 : decode cX7_isPlant 1 = .ok (.getfield 442, 3) := dk_180 1 186 (dk_at dksX7_isPlant_0 1 rfl rfl)
theorem dX7_isPlant_4 : decode cX7_isPlant 4 = .ok (.ifnull 22, 3) := dk_198 0 22 (dk_at dksX7_isPlant_0 4 rfl rfl)
theorem dX7_isPlant_7 : decode cX7_isPlant 7 = .ok (.iload_n 1, 1) := dk_27 (dk_at dksX7_isPlant_0 7 rfl rfl)
theorem dX7_isPlant_8 : decode cX7_isPlant 8 = .ok (.ifCond .lt 18, 3) := dk_155 0 18 (dk_at dksX7_isPlant_0 8 rfl rfl)
theorem dX7_isPlant_11 : decode cX7_isPlant 11 = .ok (.iload_n 1, 1) := dk_27 (dk_at dksX7_isPlant_0 11 rfl rfl)
theorem dX7_isPlant_12 : decode cX7_isPlant 12 = .ok (.aload_n 0, 1) := dk_42 (dk_at dksX7_isPlant_0 12 rfl rfl)
theorem dX7_isPlant_13 : decode cX7_isPlant 13 = .ok (.getfield 442, 3) := dk_180 1 186 (dk_at dksX7_isPlant_0 13 rfl rfl)
theorem dX7_isPlant_16 : decode cX7_isPlant 16 = .ok (.getfield 229, 3) := dk_180 0 229 (dk_at dksX7_isPlant_0 16 rfl rfl)
theorem dX7_isPlant_19 : decode cX7_isPlant 19 = .ok (.if_icmp .ge 7, 3) := dk_162 0 7 (dk_at dksX7_isPlant_0 19 rfl rfl)
theorem dX7_isPlant_22 : decode cX7_isPlant 22 = .ok (.iconst 1, 1) := dk_4 (dk_at dksX7_isPlant_0 22 rfl rfl)
theorem dX7_isPlant_23 : decode cX7_isPlant 23 = .ok (.goto 4, 3) := dk_167 0 4 (dk_at dksX7_isPlant_1 0 rfl rfl)
theorem dX7_isPlant_26 : decode cX7_isPlant 26 = .ok (.iconst 0, 1) := dk_3 (dk_at dksX7_isPlant_1 3 rfl rfl)
theorem dX7_isPlant_27 : decode cX7_isPlant 27 = .ok (.ireturn, 1) := dk_172 (dk_at dksX7_isPlant_1 4 rfl rfl)
def dkwX7_plants_1 : List UInt8 := [180, 1, 186, 180, 1, 40, 7, 27, 104, 28, 96, 46, 182, 0, 76, 167, 0, 8, 42, 4, 182, 0, 72, 172]
abbrev dktX7_plants_1 : List UInt8 := dkwX7_plants_1 ++ []
def dkwX7_plants_0 : List UInt8 := [42, 3, 181, 0, 66, 42, 27, 182, 1, 235, 153, 0, 31, 42, 28, 182, 1, 238, 153, 0, 23, 42, 42]
abbrev dktX7_plants_0 : List UInt8 := dkwX7_plants_0 ++ dktX7_plants_1
theorem dksX7_plants_0 : cX7_plants.data.toList.drop 0 = dktX7_plants_0 := by decide +kernel
theorem dksX7_plants_1 : cX7_plants.data.toList.drop 23 = dktX7_plants_1 := dk_seg dksX7_plants_0 23 rfl rfl
theorem dX7_plants_0 : decode cX7_plants 0 = .ok (.aload_n 0, 1) := dk_42 (dk_at dksX7_plants_0 0 rfl rfl)
theorem dX7_plants_1 : decode cX7_plants 1 = .ok (.iconst 0, 1) := dk_3 (dk_at dksX7_plants_0 1 rfl rfl)
theorem dX7_plants_2 : decode cX7_plants 2 = .ok (.putfield 66, 3) := dk_181 0 66 (dk_at dksX7_plants_0 2 rfl rfl)
theorem dX7_plants_5 : decode cX7_plants 5 = .ok (.aload_n 0, 1) := dk_42 (dk_at dksX7_plants_0 5 rfl rfl)
theorem dX7_plants_6 : decode cX7_plants 6 = .ok (.iload_n 1, 1) := dk_27 (dk_at dksX7_plants_0 6 rfl rfl)
theorem dX7_plants_7 : decode cX7_plants 7 = .ok (.invokevirtual 491, 3) := dk_182 1 235 (dk_at dksX7_plants_0 7 rfl rfl)
theorem dX7_plants_10 : decode cX7_plants 10 = .ok (.ifCond .eq 31, 3) := dk_153 0 31 (dk_at dksX7_plants_0 10 rfl rfl)
theorem dX7_plants_13 : decode cX7_plants 13 = .ok (.aload_n 0, 1) := dk_42 (dk_at dksX7_plants_0 13 rfl rfl)
theorem dX7_plants_14 : decode cX7_plants 14 = .ok (.iload_n 2, 1) := dk_28 (dk_at dksX7_plants_0 14 rfl rfl)
theorem dX7_plants_15 : decode cX7_plants 15 = .ok (.invokevirtual 494, 3) := dk_182 1 238 (dk_at dksX7_plants_0 15 rfl rfl)
theorem dX7_plants_18 : decode cX7_plants 18 = .ok (.ifCond .eq 23, 3) := dk_153 0 23 (dk_at dksX7_plants_0 18 rfl rfl)
theorem dX7_plants_21 : decode cX7_plants 21 = .ok (.aload_n 0, 1) := dk_42 (dk_at dksX7_plants_0 21 rfl rfl)
theorem dX7_plants_22 : decode cX7_plants 22 = .ok (.aload_n 0, 1) := dk_42 (dk_at dksX7_plants_0 22 rfl rfl)
theorem dX7_plants_23 : decode cX7_plants 23 = .ok (.getfield 442, 3) := dk_180 1 186 (dk_at dksX7_plants_1 0 rfl rfl)
theorem dX7_plants_26 : decode cX7_plants 26 = .ok (.getfield 296, 3) := dk_180 1 40 (dk_at dksX7_plants_1 3 rfl rfl)
theorem dX7_plants_29 : decode cX7_plants 29 = .ok (.iconst 4, 1) := dk_7 (dk_at dksX7_plants_1 6 rfl rfl)
theorem dX7_plants_30 : decode cX7_plants 30 = .ok (.iload_n 1, 1) := dk_27 (dk_at dksX7_plants_1 7 rfl rfl)
theorem dX7_plants_31 : decode cX7_plants 31 = .ok (.imul, 1) := dk_104 (dk_at dksX7_plants_1 8 rfl rfl)
theorem dX7_plants_32 : decode cX7_plants 32 = .ok (.iload_n 2, 1) := dk_28 (dk_at dksX7_plants_1 9 rfl rfl)
theorem dX7_plants_33 : decode cX7_plants 33 = .ok (.iadd, 1) := dk_96 (dk_at dksX7_plants_1 10 rfl rfl)
theorem dX7_plants_34 : decode cX7_plants 34 = .ok (.iaload, 1) := dk_46 (dk_at dksX7_plants_1 11 rfl rfl)
theorem dX7_plants_35 : decode cX7_plants 35 = .ok (.invokevirtual 76, 3) := dk_182 0 76 (dk_at dksX7_plants_1 12 rfl rfl)
theorem dX7_plants_38 : decode cX7_plants 38 = .ok (.goto 8, 3) := dk_167 0 8 (dk_at dksX7_plants_1 15 rfl rfl)
theorem dX7_plants_41 : decode cX7_plants 41 = .ok (.aload_n 0, 1) := dk_42 (dk_at dksX7_plants_1 18 rfl rfl)
theorem dX7_plants_42 : decode cX7_plants 42 = .ok (.iconst 1, 1) := dk_4 (dk_at dksX7_plants_1 19 rfl rfl)
theorem dX7_plants_43 : decode cX7_plants 43 = .ok (.invokevirtual 72, 3) := dk_182 0 72 (dk_at dksX7_plants_1 20 rfl rfl)
theorem dX7_plants_46 : decode cX7_plants 46 = .ok (.ireturn, 1) := dk_172 (dk_at dksX7_plants_1 23 rfl rfl)
def dkwX1_near_1 : List UInt8 := [167, 0, 8, 42, 4, 182, 0, 94, 172]
abbrev dktX1_near_1 : List UInt8 := dkwX1_near_1 ++ []
def dkwX1_near_0 : List UInt8 := [42, 182, 0, 80, 42, 27, 182, 0, 151, 153, 0, 18, 42, 180, 0, 104, 180, 0, 158, 27, 50, 180, 0, 166]
abbrev dktX1_near_0 : List UInt8 := dkwX1_near_0 ++ dktX1_near_1
theorem dksX1_near_0 : cX1_near.data.toList.drop 0 = dktX1_near_0 := by decide +kernel
theorem dksX1_near_1 : cX1_near.data.toList.drop 24 = dktX1_near_1 := dk_seg dksX1_near_0 24 rfl rfl
theorem dX1_near_0 : decode cX1_near 0 = .ok (.aload_n 0, 1) := dk_42 (dk_at dksX1_near_0 0 rfl rfl)
theorem dX1_near_1 : decode cX1_near 1 = .ok (.invokevirtual 80, 3) := dk_182 0 80 (dk_at dksX1_near_0 1 rfl rfl)
theorem dX1_near_4 : decode cX1_near 4 = .ok (.aload_n 0, 1) := dk_42 (dk_at dksX1_near_0 4 rfl rfl)
theorem dX1_near_5 : decode cX1_near 5 = .ok (.iload_n 1, 1) := dk_27 (dk_at dksX1_near_0 5 rfl rfl)
theorem dX1_near_6 : decode cX1_near 6 = .ok (.invokevirtual 151, 3) := dk_182 0 151 (dk_at dksX1_near_0 6 rfl rfl)
theorem dX1_near_9 : decode cX1_near 9 = .ok (.ifCond .eq 18, 3) := dk_153 0 18 (dk_at dksX1_near_0 9 rfl rfl)
theorem dX1_near_12 : decode cX1_near 12 = .ok (.aload_n 0, 1) := dk_42 (dk_at dksX1_near_0 12 rfl rfl)
theorem dX1_near_13 : decode cX1_near 13 = .ok (.getfield 104, 3) := dk_180 0 104 (dk_at dksX1_near_0 13 rfl rfl)
theorem dX1_near_16 : decode cX1_near 16 = .ok (.getfield 158, 3) := dk_180 0 158 (dk_at dksX1_near_0 16 rfl rfl)
theorem dX1_near_19 : decode cX1_near 19 = .ok (.iload_n 1, 1) := dk_27 (dk_at dksX1_near_0 19 rfl rfl)
theorem dX1_near_20 : decode cX1_near 20 = .ok (.aaload, 1) := dk_50 (dk_at dksX1_near_0 20 rfl rfl)
theorem dX1_near_21 : decode cX1_near 21 = .ok (.getfield 166, 3) := dk_180 0 166 (dk_at dksX1_near_0 21 rfl rfl)
theorem dX1_near_24 : decode cX1_near 24 = .ok (.goto 8, 3) := dk_167 0 8 (dk_at dksX1_near_1 0 rfl rfl)
theorem dX1_near_27 : decode cX1_near 27 = .ok (.aload_n 0, 1) := dk_42 (dk_at dksX1_near_1 3 rfl rfl)
theorem dX1_near_28 : decode cX1_near 28 = .ok (.iconst 1, 1) := dk_4 (dk_at dksX1_near_1 4 rfl rfl)
theorem dX1_near_29 : decode cX1_near 29 = .ok (.invokevirtual 94, 3) := dk_182 0 94 (dk_at dksX1_near_1 5 rfl rfl)
theorem dX1_near_32 : decode cX1_near 32 = .ok (.ireturn, 1) := dk_172 (dk_at dksX1_near_1 8 rfl rfl)
def dkwX7_near_2 : List UInt8 := [4, 29, 120, 167, 0, 4, 3, 128, 61, 132, 3, 1, 167, 255, 219, 42, 28, 182, 0, 76, 172]
abbrev dktX7_near_2 : List UInt8 := dkwX7_near_2 ++ []
def dkwX7_near_1 : List UInt8 := [42, 180, 1, 186, 180, 0, 241, 162, 0, 32, 28, 42, 180, 1, 186, 27, 29, 182, 1, 56, 2, 159, 0, 9]
abbrev dktX7_near_1 : List UInt8 := dkwX7_near_1 ++ dktX7_near_2
def dkwX7_near_0 : List UInt8 := [42, 3, 181, 0, 66, 42, 27, 182, 1, 235, 154, 0, 9, 42, 4, 182, 0, 72, 172, 3, 61, 3, 62, 29]
abbrev dktX7_near_0 : List UInt8 := dkwX7_near_0 ++ dktX7_near_1
theorem dksX7_near_0 : cX7_near.data.toList.drop 0 = dktX7_near_0 := by decide +kernel
theorem dksX7_near_1 : cX7_near.data.toList.drop 24 = dktX7_near_1 := dk_seg dksX7_near_0 24 rfl rfl
theorem dksX7_near_2 : cX7_near.data.toList.drop 48 = dktX7_near_2 := dk_seg dksX7_near_1 24 rfl rfl
theorem dX7_near_0 : decode cX7_near 0 = .ok (.aload_n 0, 1) := dk_42 (dk_at dksX7_near_0 0 rfl rfl)
theorem dX7_near_1 : decode cX7_near 1 = .ok (.iconst 0, 1) := dk_3 (dk_at dksX7_near_0 1 rfl rfl)
theorem dX7_near_2 : decode cX7_near 2 = .ok (.putfield 66, 3) := dk_181 0 66 (dk_at dksX7_near_0 2 rfl rfl)
theorem dX7_near_5 : decode cX7_near 5 = .ok (.aload_n 0, 1) := dk_42 (dk_at dksX7_near_0 5 rfl rfl)
theorem dX7_near_6 : decode cX7_near 6 = .ok (.iload_n 1, 1) := dk_27 (dk_at dksX7_near_0 6 rfl rfl)
theorem dX7_near_7 : decode cX7_near 7 = .ok (.invokevirtual 491, 3) := dk_182 1 235 (dk_at dksX7_near_0 7 rfl rfl)
theorem dX7_near_10 : decode cX7_near 10 = .ok (.ifCond .ne 9, 3) := dk_154 0 9 (dk_at dksX7_near_0 10 rfl rfl)
theorem dX7_near_13 : decode cX7_near 13 = .ok (.aload_n 0, 1) := dk_42 (dk_at dksX7_near_0 13 rfl rfl)
theorem dX7_near_14 : decode cX7_near 14 = .ok (.iconst 1, 1) := dk_4 (dk_at dksX7_near_0 14 rfl rfl)
theorem dX7_near_15 : decode cX7_near 15 = .ok (.invokevirtual 72, 3) := dk_182 0 72 (dk_at dksX7_near_0 15 rfl rfl)
theorem dX7_near_18 : decode cX7_near 18 = .ok (.ireturn, 1) := dk_172 (dk_at dksX7_near_0 18 rfl rfl)
theorem dX7_near_19 : decode cX7_near 19 = .ok (.iconst 0, 1) := dk_3 (dk_at dksX7_near_0 19 rfl rfl)
theorem dX7_near_20 : decode cX7_near 20 = .ok (.istore_n 2, 1) := dk_61 (dk_at dksX7_near_0 20 rfl rfl)
theorem dX7_near_21 : decode cX7_near 21 = .ok (.iconst 0, 1) := dk_3 (dk_at dksX7_near_0 21 rfl rfl)
theorem dX7_near_22 : decode cX7_near 22 = .ok (.istore_n 3, 1) := dk_62 (dk_at dksX7_near_0 22 rfl rfl)
theorem dX7_near_23 : decode cX7_near 23 = .ok (.iload_n 3, 1) := dk_29 (dk_at dksX7_near_0 23 rfl rfl)
theorem dX7_near_24 : decode cX7_near 24 = .ok (.aload_n 0, 1) := dk_42 (dk_at dksX7_near_1 0 rfl rfl)
theorem dX7_near_25 : decode cX7_near 25 = .ok (.getfield 442, 3) := dk_180 1 186 (dk_at dksX7_near_1 1 rfl rfl)
theorem dX7_near_28 : decode cX7_near 28 = .ok (.getfield 241, 3) := dk_180 0 241 (dk_at dksX7_near_1 4 rfl rfl)
theorem dX7_near_31 : decode cX7_near 31 = .ok (.if_icmp .ge 32, 3) := dk_162 0 32 (dk_at dksX7_near_1 7 rfl rfl)
theorem dX7_near_34 : decode cX7_near 34 = .ok (.iload_n 2, 1) := dk_28 (dk_at dksX7_near_1 10 rfl rfl)
theorem dX7_near_35 : decode cX7_near 35 = .ok (.aload_n 0, 1) := dk_42 (dk_at dksX7_near_1 11 rfl rfl)
theorem dX7_near_36 : decode cX7_near 36 = .ok (.getfield 442, 3) := dk_180 1 186 (dk_at dksX7_near_1 12 rfl rfl)
theorem dX7_near_39 : decode cX7_near 39 = .ok (.iload_n 1, 1) := dk_27 (dk_at dksX7_near_1 15 rfl rfl)
theorem dX7_near_40 : decode cX7_near 40 = .ok (.iload_n 3, 1) := dk_29 (dk_at dksX7_near_1 16 rfl rfl)
theorem dX7_near_41 : decode cX7_near 41 = .ok (.invokevirtual 312, 3) := dk_182 1 56 (dk_at dksX7_near_1 17 rfl rfl)
theorem dX7_near_44 : decode cX7_near 44 = .ok (.iconst (-1), 1) := dk_2 (dk_at dksX7_near_1 20 rfl rfl)
theorem dX7_near_45 : decode cX7_near 45 = .ok (.if_icmp .eq 9, 3) := dk_159 0 9 (dk_at dksX7_near_1 21 rfl rfl)
theorem dX7_near_48 : decode cX7_near 48 = .ok (.iconst 1, 1) := dk_4 (dk_at dksX7_near_2 0 rfl rfl)
theorem dX7_near_49 : decode cX7_near 49 = .ok (.iload_n 3, 1) := dk_29 (dk_at dksX7_near_2 1 rfl rfl)
theorem dX7_near_50 : decode cX7_near 50 = .ok (.ishl, 1) := dk_120 (dk_at dksX7_near_2 2 rfl rfl)
theorem dX7_near_51 : decode cX7_near 51 = .ok (.goto 4, 3) := dk_167 0 4 (dk_at dksX7_near_2 3 rfl rfl)
theorem dX7_near_54 : decode cX7_near 54 = .ok (.iconst 0, 1) := dk_3 (dk_at dksX7_near_2 6 rfl rfl)
theorem dX7_near_55 : decode cX7_near 55 = .ok (.ior, 1) := dk_128 (dk_at dksX7_near_2 7 rfl rfl)
theorem dX7_near_56 : decode cX7_near 56 = .ok (.istore_n 2, 1) := dk_61 (dk_at dksX7_near_2 8 rfl rfl)
theorem dX7_near_57 : decode cX7_near 57 = .ok (.iinc 3 1, 3) := dk_132 3 1 (dk_at dksX7_near_2 9 rfl rfl)
theorem dX7_near_60 : decode cX7_near 60 = .ok (.goto (-37), 3) := dk_167 255 219 (dk_at dksX7_near_2 12 rfl rfl)
theorem dX7_near_63 : decode cX7_near 63 = .ok (.aload_n 0, 1) := dk_42 (dk_at dksX7_near_2 15 rfl rfl)
theorem dX7_near_64 : decode cX7_near 64 = .ok (.iload_n 2, 1) := dk_28 (dk_at dksX7_near_2 16 rfl rfl)
theorem dX7_near_65 : decode cX7_near 65 = .ok (.invokevirtual 76, 3) := dk_182 0 76 (dk_at dksX7_near_2 17 rfl rfl)
theorem dX7_near_68 : decode cX7_near 68 = .ok (.ireturn, 1) := dk_172 (dk_at dksX7_near_2 20 rfl rfl)
def dkwX1_isGoat_1 : List UInt8 := [4, 167, 0, 4, 3, 172]
abbrev dktX1_isGoat_1 : List UInt8 := dkwX1_isGoat_1 ++ []
def dkwX1_isGoat_0 : List UInt8 := [42, 180, 0, 104, 198, 0, 24, 27, 3, 42, 180, 0, 104, 180, 0, 139, 4, 100, 184, 0, 90, 153, 0, 7]
abbrev dktX1_isGoat_0 : List UInt8 := dkwX1_isGoat_0 ++ dktX1_isGoat_1
theorem dksX1_isGoat_0 : cX1_isGoat.data.toList.drop 0 = dktX1_isGoat_0 := by decide +kernel
theorem dksX1_isGoat_1 : cX1_isGoat.data.toList.drop 24 = dktX1_isGoat_1 := dk_seg dksX1_isGoat_0 24 rfl rfl
theorem dX1_isGoat_0 : decode cX1_isGoat 0 = .ok (.aload_n 0, 1) := dk_42 (dk_at dksX1_isGoat_0 0 rfl rfl)
theorem dX1_isGoat_1 : decode cX1_isGoat 1 = .ok (.getfield 104, 3) := dk_180 0 104 (dk_at dksX1_isGoat_0 1 rfl rfl)
theorem dX1_isGoat_4 : decode cX1_isGoat 4 = .ok (.ifnull 24, 3) := dk_198 0 24 (dk_at dksX1_isGoat_0 4 rfl rfl)
theorem dX1_isGoat_7 : decode cX1_isGoat 7 = .ok (.iload_n 1, 1) := dk_27 (dk_at dksX1_isGoat_0 7 rfl rfl)
theorem dX1_isGoat_8 : decode cX1_isGoat 8 = .ok (.iconst 0, 1) := dk_3 (dk_at dksX1_isGoat_0 8 rfl rfl)
theorem dX1_isGoat_9 : decode cX1_isGoat 9 = .ok (.aload_n 0, 1) := dk_42 (dk_at dksX1_isGoat_0 9 rfl rfl)
theorem dX1_isGoat_10 : decode cX1_isGoat 10 = .ok (.getfield 104, 3) := dk_180 0 104 (dk_at dksX1_isGoat_0 10 rfl rfl)
theorem dX1_isGoat_13 : decode cX1_isGoat 13 = .ok (.getfield 139, 3) := dk_180 0 139 (dk_at dksX1_isGoat_0 13 rfl rfl)
theorem dX1_isGoat_16 : decode cX1_isGoat 16 = .ok (.iconst 1, 1) := dk_4 (dk_at dksX1_isGoat_0 16 rfl rfl)
theorem dX1_isGoat_17 : decode cX1_isGoat 17 = .ok (.isub, 1) := dk_100 (dk_at dksX1_isGoat_0 17 rfl rfl)
theorem dX1_isGoat_18 : decode cX1_isGoat 18 = .ok (.invokestatic 90, 3) := dk_184 0 90 (dk_at dksX1_isGoat_0 18 rfl rfl)
theorem dX1_isGoat_21 : decode cX1_isGoat 21 = .ok (.ifCond .eq 7, 3) := dk_153 0 7 (dk_at dksX1_isGoat_0 21 rfl rfl)
theorem dX1_isGoat_24 : decode cX1_isGoat 24 = .ok (.iconst 1, 1) := dk_4 (dk_at dksX1_isGoat_1 0 rfl rfl)
theorem dX1_isGoat_25 : decode cX1_isGoat 25 = .ok (.goto 4, 3) := dk_167 0 4 (dk_at dksX1_isGoat_1 1 rfl rfl)
theorem dX1_isGoat_28 : decode cX1_isGoat 28 = .ok (.iconst 0, 1) := dk_3 (dk_at dksX1_isGoat_1 4 rfl rfl)
theorem dX1_isGoat_29 : decode cX1_isGoat 29 = .ok (.ireturn, 1) := dk_172 (dk_at dksX1_isGoat_1 5 rfl rfl)
theorem dX13_kind_0 : decode cX13_kind 0 = .ok (.iconst 0, 1) := by decide +kernel
theorem dX13_kind_1 : decode cX13_kind 1 = .ok (.ireturn, 1) := by decide +kernel
theorem dX14_kind_0 : decode cX14_kind 0 = .ok (.iconst 1, 1) := by decide +kernel
theorem dX14_kind_1 : decode cX14_kind 1 = .ok (.ireturn, 1) := by decide +kernel
theorem dX15_kind_0 : decode cX15_kind 0 = .ok (.iconst 2, 1) := by decide +kernel
theorem dX15_kind_1 : decode cX15_kind 1 = .ok (.ireturn, 1) := by decide +kernel
theorem dX16_kind_0 : decode cX16_kind 0 = .ok (.iconst 3, 1) := by decide +kernel
theorem dX16_kind_1 : decode cX16_kind 1 = .ok (.ireturn, 1) := by decide +kernel
theorem dX12_mother_0 : decode cX12_mother 0 = .ok (.aconst_null, 1) := by decide +kernel
theorem dX12_mother_1 : decode cX12_mother 1 = .ok (.areturn, 1) := by decide +kernel
theorem dX16_mother_0 : decode cX16_mother 0 = .ok (.aload_n 0, 1) := by decide +kernel
theorem dX16_mother_1 : decode cX16_mother 1 = .ok (.getfield 7, 3) := by decide +kernel
theorem dX16_mother_4 : decode cX16_mother 4 = .ok (.areturn, 1) := by decide +kernel
def dkwX1_cluesOf_1 : List UInt8 := [50, 180, 0, 211, 27, 160, 0, 7, 4, 167, 0, 4, 3, 96, 61, 132, 3, 1, 167, 255, 218, 28, 172]
abbrev dktX1_cluesOf_1 : List UInt8 := dkwX1_cluesOf_1 ++ []
def dkwX1_cluesOf_0 : List UInt8 := [3, 61, 3, 62, 29, 42, 180, 0, 104, 180, 0, 142, 162, 0, 33, 28, 42, 180, 0, 104, 180, 0, 207, 29]
abbrev dktX1_cluesOf_0 : List UInt8 := dkwX1_cluesOf_0 ++ dktX1_cluesOf_1
theorem dksX1_cluesOf_0 : cX1_cluesOf.data.toList.drop 0 = dktX1_cluesOf_0 := by decide +kernel
theorem dksX1_cluesOf_1 : cX1_cluesOf.data.toList.drop 24 = dktX1_cluesOf_1 := dk_seg dksX1_cluesOf_0 24 rfl rfl
theorem dX1_cluesOf_0 : decode cX1_cluesOf 0 = .ok (.iconst 0, 1) := dk_3 (dk_at dksX1_cluesOf_0 0 rfl rfl)
theorem dX1_cluesOf_1 : decode cX1_cluesOf 1 = .ok (.istore_n 2, 1) := dk_61 (dk_at dksX1_cluesOf_0 1 rfl rfl)
theorem dX1_cluesOf_2 : decode cX1_cluesOf 2 = .ok (.iconst 0, 1) := dk_3 (dk_at dksX1_cluesOf_0 2 rfl rfl)
theorem dX1_cluesOf_3 : decode cX1_cluesOf 3 = .ok (.istore_n 3, 1) := dk_62 (dk_at dksX1_cluesOf_0 3 rfl rfl)
theorem dX1_cluesOf_4 : decode cX1_cluesOf 4 = .ok (.iload_n 3, 1) := dk_29 (dk_at dksX1_cluesOf_0 4 rfl rfl)
theorem dX1_cluesOf_5 : decode cX1_cluesOf 5 = .ok (.aload_n 0, 1) := dk_42 (dk_at dksX1_cluesOf_0 5 rfl rfl)
theorem dX1_cluesOf_6 : decode cX1_cluesOf 6 = .ok (.getfield 104, 3) := dk_180 0 104 (dk_at dksX1_cluesOf_0 6 rfl rfl)
theorem dX1_cluesOf_9 : decode cX1_cluesOf 9 = .ok (.getfield 142, 3) := dk_180 0 142 (dk_at dksX1_cluesOf_0 9 rfl rfl)
theorem dX1_cluesOf_12 : decode cX1_cluesOf 12 = .ok (.if_icmp .ge 33, 3) := dk_162 0 33 (dk_at dksX1_cluesOf_0 12 rfl rfl)
theorem dX1_cluesOf_15 : decode cX1_cluesOf 15 = .ok (.iload_n 2, 1) := dk_28 (dk_at dksX1_cluesOf_0 15 rfl rfl)
theorem dX1_cluesOf_16 : decode cX1_cluesOf 16 = .ok (.aload_n 0, 1) := dk_42 (dk_at dksX1_cluesOf_0 16 rfl rfl)
theorem dX1_cluesOf_17 : decode cX1_cluesOf 17 = .ok (.getfield 104, 3) := dk_180 0 104 (dk_at dksX1_cluesOf_0 17 rfl rfl)
theorem dX1_cluesOf_20 : decode cX1_cluesOf 20 = .ok (.getfield 207, 3) := dk_180 0 207 (dk_at dksX1_cluesOf_0 20 rfl rfl)
theorem dX1_cluesOf_23 : decode cX1_cluesOf 23 = .ok (.iload_n 3, 1) := dk_29 (dk_at dksX1_cluesOf_0 23 rfl rfl)
theorem dX1_cluesOf_24 : decode cX1_cluesOf 24 = .ok (.aaload, 1) := dk_50 (dk_at dksX1_cluesOf_1 0 rfl rfl)
theorem dX1_cluesOf_25 : decode cX1_cluesOf 25 = .ok (.getfield 211, 3) := dk_180 0 211 (dk_at dksX1_cluesOf_1 1 rfl rfl)
theorem dX1_cluesOf_28 : decode cX1_cluesOf 28 = .ok (.iload_n 1, 1) := dk_27 (dk_at dksX1_cluesOf_1 4 rfl rfl)
theorem dX1_cluesOf_29 : decode cX1_cluesOf 29 = .ok (.if_icmp .ne 7, 3) := dk_160 0 7 (dk_at dksX1_cluesOf_1 5 rfl rfl)
theorem dX1_cluesOf_32 : decode cX1_cluesOf 32 = .ok (.iconst 1, 1) := dk_4 (dk_at dksX1_cluesOf_1 8 rfl rfl)
theorem dX1_cluesOf_33 : decode cX1_cluesOf 33 = .ok (.goto 4, 3) := dk_167 0 4 (dk_at dksX1_cluesOf_1 9 rfl rfl)
theorem dX1_cluesOf_36 : decode cX1_cluesOf 36 = .ok (.iconst 0, 1) := dk_3 (dk_at dksX1_cluesOf_1 12 rfl rfl)
theorem dX1_cluesOf_37 : decode cX1_cluesOf 37 = .ok (.iadd, 1) := dk_96 (dk_at dksX1_cluesOf_1 13 rfl rfl)
theorem dX1_cluesOf_38 : decode cX1_cluesOf 38 = .ok (.istore_n 2, 1) := dk_61 (dk_at dksX1_cluesOf_1 14 rfl rfl)
theorem dX1_cluesOf_39 : decode cX1_cluesOf 39 = .ok (.iinc 3 1, 3) := dk_132 3 1 (dk_at dksX1_cluesOf_1 15 rfl rfl)
theorem dX1_cluesOf_42 : decode cX1_cluesOf 42 = .ok (.goto (-38), 3) := dk_167 255 218 (dk_at dksX1_cluesOf_1 18 rfl rfl)
theorem dX1_cluesOf_45 : decode cX1_cluesOf 45 = .ok (.iload_n 2, 1) := dk_28 (dk_at dksX1_cluesOf_1 21 rfl rfl)
theorem dX1_cluesOf_46 : decode cX1_cluesOf 46 = .ok (.ireturn, 1) := dk_172 (dk_at dksX1_cluesOf_1 22 rfl rfl)
def dkwX1_goat_6 : List UInt8 := [172]
abbrev dktX1_goat_6 : List UInt8 := dkwX1_goat_6 ++ []
def dkwX1_goat_5 : List UInt8 := [180, 0, 33, 180, 0, 200, 27, 184, 0, 203, 153, 0, 7, 4, 167, 0, 4, 3, 172, 42, 4, 182, 0, 94]
abbrev dktX1_goat_5 : List UInt8 := dkwX1_goat_5 ++ dktX1_goat_6
def dkwX1_goat_4 : List UInt8 := [172, 45, 180, 0, 188, 172, 45, 180, 0, 191, 172, 45, 180, 0, 194, 172, 42, 27, 182, 0, 197, 172, 42]
abbrev dktX1_goat_4 : List UInt8 := dkwX1_goat_4 ++ dktX1_goat_5
def dkwX1_goat_3 : List UInt8 := [45, 182, 0, 176, 172, 45, 182, 0, 181, 199, 0, 8, 16, 254, 167, 0, 10, 45, 182, 0, 181, 180, 0, 185]
abbrev dktX1_goat_3 : List UInt8 := dkwX1_goat_3 ++ dktX1_goat_4
def dkwX1_goat_2 : List UInt8 := [170, 0, 0, 0, 0, 0, 109, 0, 0, 0, 0, 0, 0, 0, 6, 0, 0, 0, 43, 0, 0, 0, 48, 0, 0, 0, 68, 0, 0, 0, 73, 0, 0, 0, 78, 0, 0, 0, 83, 0, 0, 0, 89]
abbrev dktX1_goat_2 : List UInt8 := dkwX1_goat_2 ++ dktX1_goat_3
def dkwX1_goat_1 : List UInt8 := [180, 0, 172, 27, 50, 78, 28]
abbrev dktX1_goat_1 : List UInt8 := dkwX1_goat_1 ++ dktX1_goat_2
def dkwX1_goat_0 : List UInt8 := [42, 182, 0, 80, 42, 27, 182, 0, 169, 154, 0, 9, 42, 4, 182, 0, 94, 172, 42, 180, 0, 104]
abbrev dktX1_goat_0 : List UInt8 := dkwX1_goat_0 ++ dktX1_goat_1
theorem dksX1_goat_0 : cX1_goat.data.toList.drop 0 = dktX1_goat_0 := by decide +kernel
theorem dksX1_goat_1 : cX1_goat.data.toList.drop 22 = dktX1_goat_1 := dk_seg dksX1_goat_0 22 rfl rfl
theorem dksX1_goat_2 : cX1_goat.data.toList.drop 29 = dktX1_goat_2 := dk_seg dksX1_goat_1 7 rfl rfl
theorem dksX1_goat_3 : cX1_goat.data.toList.drop 72 = dktX1_goat_3 := dk_seg dksX1_goat_2 43 rfl rfl
theorem dksX1_goat_4 : cX1_goat.data.toList.drop 96 = dktX1_goat_4 := dk_seg dksX1_goat_3 24 rfl rfl
theorem dksX1_goat_5 : cX1_goat.data.toList.drop 119 = dktX1_goat_5 := dk_seg dksX1_goat_4 23 rfl rfl
theorem dksX1_goat_6 : cX1_goat.data.toList.drop 143 = dktX1_goat_6 := dk_seg dksX1_goat_5 24 rfl rfl
theorem dX1_goat_0 : decode cX1_goat 0 = .ok (.aload_n 0, 1) := dk_42 (dk_at dksX1_goat_0 0 rfl rfl)
theorem dX1_goat_1 : decode cX1_goat 1 = .ok (.invokevirtual 80, 3) := dk_182 0 80 (dk_at dksX1_goat_0 1 rfl rfl)
theorem dX1_goat_4 : decode cX1_goat 4 = .ok (.aload_n 0, 1) := dk_42 (dk_at dksX1_goat_0 4 rfl rfl)
theorem dX1_goat_5 : decode cX1_goat 5 = .ok (.iload_n 1, 1) := dk_27 (dk_at dksX1_goat_0 5 rfl rfl)
theorem dX1_goat_6 : decode cX1_goat 6 = .ok (.invokevirtual 169, 3) := dk_182 0 169 (dk_at dksX1_goat_0 6 rfl rfl)
theorem dX1_goat_9 : decode cX1_goat 9 = .ok (.ifCond .ne 9, 3) := dk_154 0 9 (dk_at dksX1_goat_0 9 rfl rfl)
theorem dX1_goat_12 : decode cX1_goat 12 = .ok (.aload_n 0, 1) := dk_42 (dk_at dksX1_goat_0 12 rfl rfl)
theorem dX1_goat_13 : decode cX1_goat 13 = .ok (.iconst 1, 1) := dk_4 (dk_at dksX1_goat_0 13 rfl rfl)
theorem dX1_goat_14 : decode cX1_goat 14 = .ok (.invokevirtual 94, 3) := dk_182 0 94 (dk_at dksX1_goat_0 14 rfl rfl)
theorem dX1_goat_17 : decode cX1_goat 17 = .ok (.ireturn, 1) := dk_172 (dk_at dksX1_goat_0 17 rfl rfl)
theorem dX1_goat_18 : decode cX1_goat 18 = .ok (.aload_n 0, 1) := dk_42 (dk_at dksX1_goat_0 18 rfl rfl)
theorem dX1_goat_19 : decode cX1_goat 19 = .ok (.getfield 104, 3) := dk_180 0 104 (dk_at dksX1_goat_0 19 rfl rfl)
theorem dX1_goat_22 : decode cX1_goat 22 = .ok (.getfield 172, 3) := dk_180 0 172 (dk_at dksX1_goat_1 0 rfl rfl)
theorem dX1_goat_25 : decode cX1_goat 25 = .ok (.iload_n 1, 1) := dk_27 (dk_at dksX1_goat_1 3 rfl rfl)
theorem dX1_goat_26 : decode cX1_goat 26 = .ok (.aaload, 1) := dk_50 (dk_at dksX1_goat_1 4 rfl rfl)
theorem dX1_goat_27 : decode cX1_goat 27 = .ok (.astore_n 3, 1) := dk_78 (dk_at dksX1_goat_1 5 rfl rfl)
theorem dX1_goat_28 : decode cX1_goat 28 = .ok (.iload_n 2, 1) := dk_28 (dk_at dksX1_goat_1 6 rfl rfl)
theorem dX1_goat_29 : decode cX1_goat 29 = .ok (.tableswitch 109 0 6 #[43, 48, 68, 73, 78, 83, 89], 43) := by decide +kernel
theorem dX1_goat_72 : decode cX1_goat 72 = .ok (.aload_n 3, 1) := dk_45 (dk_at dksX1_goat_3 0 rfl rfl)
theorem dX1_goat_73 : decode cX1_goat 73 = .ok (.invokevirtual 176, 3) := dk_182 0 176 (dk_at dksX1_goat_3 1 rfl rfl)
theorem dX1_goat_76 : decode cX1_goat 76 = .ok (.ireturn, 1) := dk_172 (dk_at dksX1_goat_3 4 rfl rfl)
theorem dX1_goat_77 : decode cX1_goat 77 = .ok (.aload_n 3, 1) := dk_45 (dk_at dksX1_goat_3 5 rfl rfl)
theorem dX1_goat_78 : decode cX1_goat 78 = .ok (.invokevirtual 181, 3) := dk_182 0 181 (dk_at dksX1_goat_3 6 rfl rfl)
theorem dX1_goat_81 : decode cX1_goat 81 = .ok (.ifnonnull 8, 3) := dk_199 0 8 (dk_at dksX1_goat_3 9 rfl rfl)
theorem dX1_goat_84 : decode cX1_goat 84 = .ok (.bipush (-2), 2) := dk_16 254 (dk_at dksX1_goat_3 12 rfl rfl)
theorem dX1_goat_86 : decode cX1_goat 86 = .ok (.goto 10, 3) := dk_167 0 10 (dk_at dksX1_goat_3 14 rfl rfl)
theorem dX1_goat_89 : decode cX1_goat 89 = .ok (.aload_n 3, 1) := dk_45 (dk_at dksX1_goat_3 17 rfl rfl)
theorem dX1_goat_90 : decode cX1_goat 90 = .ok (.invokevirtual 181, 3) := dk_182 0 181 (dk_at dksX1_goat_3 18 rfl rfl)
theorem dX1_goat_93 : decode cX1_goat 93 = .ok (.getfield 185, 3) := dk_180 0 185 (dk_at dksX1_goat_3 21 rfl rfl)
theorem dX1_goat_96 : decode cX1_goat 96 = .ok (.ireturn, 1) := dk_172 (dk_at dksX1_goat_4 0 rfl rfl)
theorem dX1_goat_97 : decode cX1_goat 97 = .ok (.aload_n 3, 1) := dk_45 (dk_at dksX1_goat_4 1 rfl rfl)
theorem dX1_goat_98 : decode cX1_goat 98 = .ok (.getfield 188, 3) := dk_180 0 188 (dk_at dksX1_goat_4 2 rfl rfl)
theorem dX1_goat_101 : decode cX1_goat 101 = .ok (.ireturn, 1) := dk_172 (dk_at dksX1_goat_4 5 rfl rfl)
theorem dX1_goat_102 : decode cX1_goat 102 = .ok (.aload_n 3, 1) := dk_45 (dk_at dksX1_goat_4 6 rfl rfl)
theorem dX1_goat_103 : decode cX1_goat 103 = .ok (.getfield 191, 3) := dk_180 0 191 (dk_at dksX1_goat_4 7 rfl rfl)
theorem dX1_goat_106 : decode cX1_goat 106 = .ok (.ireturn, 1) := dk_172 (dk_at dksX1_goat_4 10 rfl rfl)
theorem dX1_goat_107 : decode cX1_goat 107 = .ok (.aload_n 3, 1) := dk_45 (dk_at dksX1_goat_4 11 rfl rfl)
theorem dX1_goat_108 : decode cX1_goat 108 = .ok (.getfield 194, 3) := dk_180 0 194 (dk_at dksX1_goat_4 12 rfl rfl)
theorem dX1_goat_111 : decode cX1_goat 111 = .ok (.ireturn, 1) := dk_172 (dk_at dksX1_goat_4 15 rfl rfl)
theorem dX1_goat_112 : decode cX1_goat 112 = .ok (.aload_n 0, 1) := dk_42 (dk_at dksX1_goat_4 16 rfl rfl)
theorem dX1_goat_113 : decode cX1_goat 113 = .ok (.iload_n 1, 1) := dk_27 (dk_at dksX1_goat_4 17 rfl rfl)
theorem dX1_goat_114 : decode cX1_goat 114 = .ok (.invokevirtual 197, 3) := dk_182 0 197 (dk_at dksX1_goat_4 18 rfl rfl)
theorem dX1_goat_117 : decode cX1_goat 117 = .ok (.ireturn, 1) := dk_172 (dk_at dksX1_goat_4 21 rfl rfl)
theorem dX1_goat_118 : decode cX1_goat 118 = .ok (.aload_n 0, 1) := dk_42 (dk_at dksX1_goat_4 22 rfl rfl)
theorem dX1_goat_119 : decode cX1_goat 119 = .ok (.getfield 33, 3) := dk_180 0 33 (dk_at dksX1_goat_5 0 rfl rfl)
theorem dX1_goat_122 : decode cX1_goat 122 = .ok (.getfield 200, 3) := dk_180 0 200 (dk_at dksX1_goat_5 3 rfl rfl)
theorem dX1_goat_125 : decode cX1_goat 125 = .ok (.iload_n 1, 1) := dk_27 (dk_at dksX1_goat_5 6 rfl rfl)
theorem dX1_goat_126 : decode cX1_goat 126 = .ok (.invokestatic 203, 3) := dk_184 0 203 (dk_at dksX1_goat_5 7 rfl rfl)
theorem dX1_goat_129 : decode cX1_goat 129 = .ok (.ifCond .eq 7, 3) := dk_153 0 7 (dk_at dksX1_goat_5 10 rfl rfl)
theorem dX1_goat_132 : decode cX1_goat 132 = .ok (.iconst 1, 1) := dk_4 (dk_at dksX1_goat_5 13 rfl rfl)
theorem dX1_goat_133 : decode cX1_goat 133 = .ok (.goto 4, 3) := dk_167 0 4 (dk_at dksX1_goat_5 14 rfl rfl)
theorem dX1_goat_136 : decode cX1_goat 136 = .ok (.iconst 0, 1) := dk_3 (dk_at dksX1_goat_5 17 rfl rfl)
theorem dX1_goat_137 : decode cX1_goat 137 = .ok (.ireturn, 1) := dk_172 (dk_at dksX1_goat_5 18 rfl rfl)
theorem dX1_goat_138 : decode cX1_goat 138 = .ok (.aload_n 0, 1) := dk_42 (dk_at dksX1_goat_5 19 rfl rfl)
theorem dX1_goat_139 : decode cX1_goat 139 = .ok (.iconst 1, 1) := dk_4 (dk_at dksX1_goat_5 20 rfl rfl)
theorem dX1_goat_140 : decode cX1_goat 140 = .ok (.invokevirtual 94, 3) := dk_182 0 94 (dk_at dksX1_goat_5 21 rfl rfl)
theorem dX1_goat_143 : decode cX1_goat 143 = .ok (.ireturn, 1) := dk_172 (dk_at dksX1_goat_6 0 rfl rfl)
def dkwX7_isGoat_1 : List UInt8 := [167, 0, 4, 3, 172]
abbrev dktX7_isGoat_1 : List UInt8 := dkwX7_isGoat_1 ++ []
def dkwX7_isGoat_0 : List UInt8 := [42, 180, 1, 186, 198, 0, 22, 27, 155, 0, 18, 27, 42, 180, 1, 186, 180, 1, 72, 162, 0, 7, 4]
abbrev dktX7_isGoat_0 : List UInt8 := dkwX7_isGoat_0 ++ dktX7_isGoat_1
theorem dksX7_isGoat_0 : cX7_isGoat.data.toList.drop 0 = dktX7_isGoat_0 := by decide +kernel
theorem dksX7_isGoat_1 : cX7_isGoat.data.toList.drop 23 = dktX7_isGoat_1 := dk_seg dksX7_isGoat_0 23 rfl rfl
theorem dX7_isGoat_0 : decode cX7_isGoat 0 = .ok (.aload_n 0, 1) := dk_42 (dk_at dksX7_isGoat_0 0 rfl rfl)
theorem dX7_isGoat_1 : decode cX7_isGoat 1 = .ok (.getfield 442, 3) := dk_180 1 186 (dk_at dksX7_isGoat_0 1 rfl rfl)
theorem dX7_isGoat_4 : decode cX7_isGoat 4 = .ok (.ifnull 22, 3) := dk_198 0 22 (dk_at dksX7_isGoat_0 4 rfl rfl)
theorem dX7_isGoat_7 : decode cX7_isGoat 7 = .ok (.iload_n 1, 1) := dk_27 (dk_at dksX7_isGoat_0 7 rfl rfl)
theorem dX7_isGoat_8 : decode cX7_isGoat 8 = .ok (.ifCond .lt 18, 3) := dk_155 0 18 (dk_at dksX7_isGoat_0 8 rfl rfl)
theorem dX7_isGoat_11 : decode cX7_isGoat 11 = .ok (.iload_n 1, 1) := dk_27 (dk_at dksX7_isGoat_0 11 rfl rfl)
theorem dX7_isGoat_12 : decode cX7_isGoat 12 = .ok (.aload_n 0, 1) := dk_42 (dk_at dksX7_isGoat_0 12 rfl rfl)
theorem dX7_isGoat_13 : decode cX7_isGoat 13 = .ok (.getfield 442, 3) := dk_180 1 186 (dk_at dksX7_isGoat_0 13 rfl rfl)
theorem dX7_isGoat_16 : decode cX7_isGoat 16 = .ok (.getfield 328, 3) := dk_180 1 72 (dk_at dksX7_isGoat_0 16 rfl rfl)
theorem dX7_isGoat_19 : decode cX7_isGoat 19 = .ok (.if_icmp .ge 7, 3) := dk_162 0 7 (dk_at dksX7_isGoat_0 19 rfl rfl)
theorem dX7_isGoat_22 : decode cX7_isGoat 22 = .ok (.iconst 1, 1) := dk_4 (dk_at dksX7_isGoat_0 22 rfl rfl)
theorem dX7_isGoat_23 : decode cX7_isGoat 23 = .ok (.goto 4, 3) := dk_167 0 4 (dk_at dksX7_isGoat_1 0 rfl rfl)
theorem dX7_isGoat_26 : decode cX7_isGoat 26 = .ok (.iconst 0, 1) := dk_3 (dk_at dksX7_isGoat_1 3 rfl rfl)
theorem dX7_isGoat_27 : decode cX7_isGoat 27 = .ok (.ireturn, 1) := dk_172 (dk_at dksX7_isGoat_1 4 rfl rfl)
def dkwX7_isHeard_0 : List UInt8 := [42, 180, 0, 21, 16, 17, 46, 27, 184, 1, 110, 172]
abbrev dktX7_isHeard_0 : List UInt8 := dkwX7_isHeard_0 ++ []
theorem dksX7_isHeard_0 : cX7_isHeard.data.toList.drop 0 = dktX7_isHeard_0 := by decide +kernel
theorem dX7_isHeard_0 : decode cX7_isHeard 0 = .ok (.aload_n 0, 1) := dk_42 (dk_at dksX7_isHeard_0 0 rfl rfl)
theorem dX7_isHeard_1 : decode cX7_isHeard 1 = .ok (.getfield 21, 3) := dk_180 0 21 (dk_at dksX7_isHeard_0 1 rfl rfl)
theorem dX7_isHeard_4 : decode cX7_isHeard 4 = .ok (.bipush 17, 2) := dk_16 17 (dk_at dksX7_isHeard_0 4 rfl rfl)
theorem dX7_isHeard_6 : decode cX7_isHeard 6 = .ok (.iaload, 1) := dk_46 (dk_at dksX7_isHeard_0 6 rfl rfl)
theorem dX7_isHeard_7 : decode cX7_isHeard 7 = .ok (.iload_n 1, 1) := dk_27 (dk_at dksX7_isHeard_0 7 rfl rfl)
theorem dX7_isHeard_8 : decode cX7_isHeard 8 = .ok (.invokestatic 366, 3) := dk_184 1 110 (dk_at dksX7_isHeard_0 8 rfl rfl)
theorem dX7_isHeard_11 : decode cX7_isHeard 11 = .ok (.ireturn, 1) := dk_172 (dk_at dksX7_isHeard_0 11 rfl rfl)
theorem fl_X7_399 : FL "GoatCourtModel" 399 [40] 32 (.array (.int)) := fun kd h => (by cases List.mem_singleton.mp h; exact ⟨20, _, 32, "GoatCourtModel$Hill", rfl, rfl, by decide, rfl, rfl, Or.inr ⟨_, q2081⟩, Or.inl rfl⟩)
theorem fl_X7_393 : FL "GoatCourtModel" 393 [40] 9 (tyOf 0) := fun kd h => (by cases List.mem_singleton.mp h; exact ⟨20, _, 9, "GoatCourtModel$Hill", rfl, rfl, by decide, rfl, rfl, Or.inr ⟨_, q2040⟩, Or.inl rfl⟩)
theorem fl_X7_402 : FL "GoatCourtModel" 402 [40] 33 (.array (.int)) := fun kd h => (by cases List.mem_singleton.mp h; exact ⟨20, _, 33, "GoatCourtModel$Hill", rfl, rfl, by decide, rfl, rfl, Or.inr ⟨_, q2083⟩, Or.inl rfl⟩)
theorem fp_X7_readRule_393 : FP mX7_readRule 393 [40] 9 (tyOf 0) := fun kd h => (by cases List.mem_singleton.mp h; exact ⟨20, _, 9, "GoatCourtModel$Hill", rfl, rfl, by decide, rfl, rfl, Or.inl rfl, Or.inl ⟨rfl, Or.inr ⟨_, q2040⟩⟩⟩)
theorem fl_X7_416 : FL "GoatCourtModel" 416 [40] 34 (.array (.int)) := fun kd h => (by cases List.mem_singleton.mp h; exact ⟨20, _, 34, "GoatCourtModel$Hill", rfl, rfl, by decide, rfl, rfl, Or.inr ⟨_, q2085⟩, Or.inl rfl⟩)
theorem fl_X7_413 : FL "GoatCourtModel" 413 [40] 10 (tyOf 0) := fun kd h => (by cases List.mem_singleton.mp h; exact ⟨20, _, 10, "GoatCourtModel$Hill", rfl, rfl, by decide, rfl, rfl, Or.inr ⟨_, q2041⟩, Or.inl rfl⟩)
theorem fl_X7_405 : FL "GoatCourtModel" 405 [40] 14 (tyOf 1) := fun kd h => (by cases List.mem_singleton.mp h; exact ⟨20, _, 14, "GoatCourtModel$Hill", rfl, rfl, by decide, rfl, rfl, Or.inr ⟨_, q2046⟩, Or.inl rfl⟩)
theorem fp_X7_readProof_413 : FP mX7_readProof 413 [40] 10 (tyOf 0) := fun kd h => (by cases List.mem_singleton.mp h; exact ⟨20, _, 10, "GoatCourtModel$Hill", rfl, rfl, by decide, rfl, rfl, Or.inl rfl, Or.inl ⟨rfl, Or.inr ⟨_, q2041⟩⟩⟩)
theorem fp_X7_readProof_405 : FP mX7_readProof 405 [40] 14 (tyOf 1) := fun kd h => (by cases List.mem_singleton.mp h; exact ⟨20, _, 14, "GoatCourtModel$Hill", rfl, rfl, by decide, rfl, rfl, Or.inl rfl, Or.inl ⟨rfl, Or.inr ⟨_, q2046⟩⟩⟩)
theorem fl_X7_419 : FL "GoatCourtModel" 419 [40] 11 (tyOf 0) := fun kd h => (by cases List.mem_singleton.mp h; exact ⟨20, _, 11, "GoatCourtModel$Hill", rfl, rfl, by decide, rfl, rfl, Or.inr ⟨_, q2042⟩, Or.inl rfl⟩)
theorem fl_X7_426 : FL "GoatCourtModel" 426 [40] 35 (.array (.int)) := fun kd h => (by cases List.mem_singleton.mp h; exact ⟨20, _, 35, "GoatCourtModel$Hill", rfl, rfl, by decide, rfl, rfl, Or.inr ⟨_, q2087⟩, Or.inl rfl⟩)
theorem fl_X7_428 : FL "GoatCourtModel" 428 [40] 36 (.array (.int)) := fun kd h => (by cases List.mem_singleton.mp h; exact ⟨20, _, 36, "GoatCourtModel$Hill", rfl, rfl, by decide, rfl, rfl, Or.inr ⟨_, q2089⟩, Or.inl rfl⟩)
theorem fp_X7_readCourt_419 : FP mX7_readCourt 419 [40] 11 (tyOf 0) := fun kd h => (by cases List.mem_singleton.mp h; exact ⟨20, _, 11, "GoatCourtModel$Hill", rfl, rfl, by decide, rfl, rfl, Or.inl rfl, Or.inl ⟨rfl, Or.inr ⟨_, q2042⟩⟩⟩)
theorem fl_X7_430 : FL "GoatCourtModel" 430 [40] 15 (tyOf 1) := fun kd h => (by cases List.mem_singleton.mp h; exact ⟨20, _, 15, "GoatCourtModel$Hill", rfl, rfl, by decide, rfl, rfl, Or.inr ⟨_, q2047⟩, Or.inl rfl⟩)
theorem fl_X7_433 : FL "GoatCourtModel" 433 [40] 37 (.array (.int)) := fun kd h => (by cases List.mem_singleton.mp h; exact ⟨20, _, 37, "GoatCourtModel$Hill", rfl, rfl, by decide, rfl, rfl, Or.inr ⟨_, q2091⟩, Or.inl rfl⟩)
theorem fp_X7_readCheese_430 : FP mX7_readCheese 430 [40] 15 (tyOf 1) := fun kd h => (by cases List.mem_singleton.mp h; exact ⟨20, _, 15, "GoatCourtModel$Hill", rfl, rfl, by decide, rfl, rfl, Or.inl rfl, Or.inl ⟨rfl, Or.inr ⟨_, q2047⟩⟩⟩)
theorem fl_X24_95 : FL "GoatCourtModel$Hill" 95 [40] 4 (tyOf 0) := fun kd h => (by cases List.mem_singleton.mp h; exact ⟨20, _, 4, "GoatCourtModel$Hill", rfl, rfl, by decide, rfl, rfl, Or.inl q2034, Or.inl rfl⟩)
theorem fl_X24_21 : FL "GoatCourtModel$Hill" 21 [40] 19 (.array (.int)) := fun kd h => (by cases List.mem_singleton.mp h; exact ⟨20, _, 19, "GoatCourtModel$Hill", rfl, rfl, by decide, rfl, rfl, Or.inl q2054, Or.inl rfl⟩)
theorem fp_X7_good_69 : FP mX7_good 69 [26] 1 (tyOf 0) := fun kd h => (by cases List.mem_singleton.mp h; exact ⟨6, _, 1, "GoatCourtModel", rfl, rfl, by decide, rfl, rfl, Or.inl rfl, Or.inl ⟨rfl, Or.inl q1890⟩⟩)
theorem fp_X7_good_9 : FP mX7_good 9 [26] 2 (tyOf 0) := fun kd h => (by cases List.mem_singleton.mp h; exact ⟨6, _, 2, "GoatCourtModel", rfl, rfl, by decide, rfl, rfl, Or.inl rfl, Or.inl ⟨rfl, Or.inl q1891⟩⟩)
theorem fl_X7_21 : FL "GoatCourtModel" 21 [26] 18 (.array (.int)) := fun kd h => (by cases List.mem_singleton.mp h; exact ⟨6, _, 18, "GoatCourtModel", rfl, rfl, by decide, rfl, rfl, Or.inl q1907, Or.inl rfl⟩)
theorem fl_X7_442 : FL "GoatCourtModel" 442 [26] 3 (.object "GoatCourtModel$Hill") := fun kd h => (by cases List.mem_singleton.mp h; exact ⟨6, _, 3, "GoatCourtModel", rfl, rfl, by decide, rfl, rfl, Or.inl q1892, Or.inl rfl⟩)
theorem fl_X7_126 : FL "GoatCourtModel" 126 [26] 14 (tyOf 0) := fun kd h => (by cases List.mem_singleton.mp h; exact ⟨6, _, 14, "GoatCourtModel", rfl, rfl, by decide, rfl, rfl, Or.inl q1903, Or.inl rfl⟩)
theorem fl_X7_129 : FL "GoatCourtModel" 129 [26] 15 (tyOf 0) := fun kd h => (by cases List.mem_singleton.mp h; exact ⟨6, _, 15, "GoatCourtModel", rfl, rfl, by decide, rfl, rfl, Or.inl q1904, Or.inl rfl⟩)
theorem fp_X7_hill_444 : FP mX7_hill 444 [26] 21 (tyOf 0) := fun kd h => (by cases List.mem_singleton.mp h; exact ⟨6, _, 21, "GoatCourtModel", rfl, rfl, by decide, rfl, rfl, Or.inl rfl, Or.inl ⟨rfl, Or.inl q1910⟩⟩)
theorem fp_X7_hill_447 : FP mX7_hill 447 [26] 22 (tyOf 0) := fun kd h => (by cases List.mem_singleton.mp h; exact ⟨6, _, 22, "GoatCourtModel", rfl, rfl, by decide, rfl, rfl, Or.inl rfl, Or.inl ⟨rfl, Or.inl q1911⟩⟩)
theorem fp_X7_hill_66 : FP mX7_hill 66 [26] 0 (tyOf 0) := fun kd h => (by cases List.mem_singleton.mp h; exact ⟨6, _, 0, "GoatCourtModel", rfl, rfl, by decide, rfl, rfl, Or.inl rfl, Or.inl ⟨rfl, Or.inl q1889⟩⟩)
theorem fp_X7_hill_79 : FP mX7_hill 79 [26] 7 (tyOf 0) := fun kd h => (by cases List.mem_singleton.mp h; exact ⟨6, _, 7, "GoatCourtModel", rfl, rfl, by decide, rfl, rfl, Or.inl rfl, Or.inl ⟨rfl, Or.inl q1896⟩⟩)
theorem fp_X7_hill_435 : FP mX7_hill 435 [26] 6 (tyOf 0) := fun kd h => (by cases List.mem_singleton.mp h; exact ⟨6, _, 6, "GoatCourtModel", rfl, rfl, by decide, rfl, rfl, Or.inl rfl, Or.inl ⟨rfl, Or.inl q1895⟩⟩)
theorem fp_X7_hill_97 : FP mX7_hill 97 [26] 8 (tyOf 0) := fun kd h => (by cases List.mem_singleton.mp h; exact ⟨6, _, 8, "GoatCourtModel", rfl, rfl, by decide, rfl, rfl, Or.inl rfl, Or.inl ⟨rfl, Or.inl q1897⟩⟩)
theorem fp_X7_hill_126 : FP mX7_hill 126 [26] 14 (tyOf 0) := fun kd h => (by cases List.mem_singleton.mp h; exact ⟨6, _, 14, "GoatCourtModel", rfl, rfl, by decide, rfl, rfl, Or.inl rfl, Or.inl ⟨rfl, Or.inl q1903⟩⟩)
theorem fp_X7_hill_192 : FP mX7_hill 192 [26] 4 (.object "GoatCourtModel$Hill") := fun kd h => (by cases List.mem_singleton.mp h; exact ⟨6, _, 4, "GoatCourtModel", rfl, rfl, by decide, rfl, rfl, Or.inl rfl, Or.inl ⟨rfl, Or.inl q1893⟩⟩)
theorem fp_X7_hill_94 : FP mX7_hill 94 [26] 9 (tyOf 0) := fun kd h => (by cases List.mem_singleton.mp h; exact ⟨6, _, 9, "GoatCourtModel", rfl, rfl, by decide, rfl, rfl, Or.inl rfl, Or.inl ⟨rfl, Or.inl q1898⟩⟩)
theorem fp_X7_hill_442 : FP mX7_hill 442 [26] 3 (.object "GoatCourtModel$Hill") := fun kd h => (by cases List.mem_singleton.mp h; exact ⟨6, _, 3, "GoatCourtModel", rfl, rfl, by decide, rfl, rfl, Or.inl rfl, Or.inl ⟨rfl, Or.inl q1892⟩⟩)
theorem fp_X7_hill_69 : FP mX7_hill 69 [26] 1 (tyOf 0) := fun kd h => (by cases List.mem_singleton.mp h; exact ⟨6, _, 1, "GoatCourtModel", rfl, rfl, by decide, rfl, rfl, Or.inl rfl, Or.inl ⟨rfl, Or.inl q1890⟩⟩)
theorem fp_X7_hill_9 : FP mX7_hill 9 [26] 2 (tyOf 0) := fun kd h => (by cases List.mem_singleton.mp h; exact ⟨6, _, 2, "GoatCourtModel", rfl, rfl, by decide, rfl, rfl, Or.inl rfl, Or.inl ⟨rfl, Or.inl q1891⟩⟩)
theorem fl_X1_97 : FL "GoatCourt" 97 [20] 5 (tyOf 0) := fun kd h => (by cases List.mem_singleton.mp h; exact ⟨0, _, 5, "GoatCourt", rfl, rfl, by decide, rfl, rfl, Or.inl q407, Or.inl rfl⟩)
theorem fp_X7_fault_66 : FP mX7_fault 66 [26] 0 (tyOf 0) := fun kd h => (by cases List.mem_singleton.mp h; exact ⟨6, _, 0, "GoatCourtModel", rfl, rfl, by decide, rfl, rfl, Or.inl rfl, Or.inl ⟨rfl, Or.inl q1889⟩⟩)
theorem fl_X1_77 : FL "GoatCourt" 77 [20] 4 (tyOf 0) := fun kd h => (by cases List.mem_singleton.mp h; exact ⟨0, _, 4, "GoatCourt", rfl, rfl, by decide, rfl, rfl, Or.inl q406, Or.inl rfl⟩)
theorem fl_X1_26 : FL "GoatCourt" 26 [20] 6 (tyOf 0) := fun kd h => (by cases List.mem_singleton.mp h; exact ⟨0, _, 6, "GoatCourt", rfl, rfl, by decide, rfl, rfl, Or.inl q408, Or.inl rfl⟩)
theorem fl_X7_9 : FL "GoatCourtModel" 9 [26] 2 (tyOf 0) := fun kd h => (by cases List.mem_singleton.mp h; exact ⟨6, _, 2, "GoatCourtModel", rfl, rfl, by decide, rfl, rfl, Or.inl q1891, Or.inl rfl⟩)
theorem fp_X7_where_66 : FP mX7_where 66 [26] 0 (tyOf 0) := fun kd h => (by cases List.mem_singleton.mp h; exact ⟨6, _, 0, "GoatCourtModel", rfl, rfl, by decide, rfl, rfl, Or.inl rfl, Or.inl ⟨rfl, Or.inl q1889⟩⟩)
theorem fl_X1_130 : FL "GoatCourt" 130 [27] 13 (tyOf 0) := fun kd h => (by cases List.mem_singleton.mp h; exact ⟨7, _, 13, "GoatCourt$Hill", rfl, rfl, by decide, rfl, rfl, Or.inl q562, Or.inl rfl⟩)
theorem fl_X1_133 : FL "GoatCourt" 133 [27] 12 (tyOf 0) := fun kd h => (by cases List.mem_singleton.mp h; exact ⟨7, _, 12, "GoatCourt$Hill", rfl, rfl, by decide, rfl, rfl, Or.inl q558, Or.inl rfl⟩)
theorem fl_X1_158 : FL "GoatCourt" 158 [27] 0 (.array (.object "GoatCourt$Place")) := fun kd h => (by cases List.mem_singleton.mp h; exact ⟨7, _, 0, "GoatCourt$Hill", rfl, rfl, by decide, rfl, rfl, Or.inl q522, Or.inl rfl⟩)
theorem fl_X1_162 : FL "GoatCourt" 162 [28] 0 (.array (.int)) := fun kd h => (by cases List.mem_singleton.mp h; exact ⟨8, _, 2, "GoatCourt$Place", rfl, rfl, by decide, rfl, rfl, Or.inl q885, Or.inl rfl⟩)
theorem fp_X7_plants_66 : FP mX7_plants 66 [26] 0 (tyOf 0) := fun kd h => (by cases List.mem_singleton.mp h; exact ⟨6, _, 0, "GoatCourtModel", rfl, rfl, by decide, rfl, rfl, Or.inl rfl, Or.inl ⟨rfl, Or.inl q1889⟩⟩)
theorem fl_X1_166 : FL "GoatCourt" 166 [28] 1 (tyOf 0) := fun kd h => (by cases List.mem_singleton.mp h; exact ⟨8, _, 3, "GoatCourt$Place", rfl, rfl, by decide, rfl, rfl, Or.inl q887, Or.inl rfl⟩)
theorem fp_X7_near_66 : FP mX7_near 66 [26] 0 (tyOf 0) := fun kd h => (by cases List.mem_singleton.mp h; exact ⟨6, _, 0, "GoatCourtModel", rfl, rfl, by decide, rfl, rfl, Or.inl rfl, Or.inl ⟨rfl, Or.inl q1889⟩⟩)
theorem fl_X1_139 : FL "GoatCourt" 139 [27] 16 (tyOf 0) := fun kd h => (by cases List.mem_singleton.mp h; exact ⟨7, _, 16, "GoatCourt$Hill", rfl, rfl, by decide, rfl, rfl, Or.inl q574, Or.inl rfl⟩)
theorem fl_X16_7 : FL "GoatCourt$Kid" 7 [33] 0 (.object "GoatCourt$Goat") := fun kd h => (by cases List.mem_singleton.mp h; exact ⟨13, _, 7, "GoatCourt$Kid", rfl, rfl, by decide, rfl, rfl, Or.inl q1072, Or.inl rfl⟩)
theorem fl_X1_142 : FL "GoatCourt" 142 [27] 18 (tyOf 0) := fun kd h => (by cases List.mem_singleton.mp h; exact ⟨7, _, 18, "GoatCourt$Hill", rfl, rfl, by decide, rfl, rfl, Or.inl q579, Or.inl rfl⟩)
theorem fl_X1_207 : FL "GoatCourt" 207 [27] 7 (.array (.object "GoatCourt$Clue")) := fun kd h => (by cases List.mem_singleton.mp h; exact ⟨7, _, 7, "GoatCourt$Hill", rfl, rfl, by decide, rfl, rfl, Or.inl q544, Or.inl rfl⟩)
theorem fl_X1_211 : FL "GoatCourt" 211 [34, 35, 36] 107 (tyOf 0) := fun kd h => ((List.mem_cons.mp h).elim (fun e => by cases e; exact ⟨14, _, 0, "GoatCourt$Clue", rfl, rfl, by decide, rfl, rfl, Or.inl q1151, Or.inl rfl⟩) (fun h => ((List.mem_cons.mp h).elim (fun e => by cases e; exact ⟨15, _, 0, "GoatCourt$Clue", rfl, rfl, by decide, rfl, rfl, Or.inl q1151, Or.inl rfl⟩) (fun h => (by cases List.mem_singleton.mp h; exact ⟨16, _, 0, "GoatCourt$Clue", rfl, rfl, by decide, rfl, rfl, Or.inl q1151, Or.inl rfl⟩)))))
theorem fl_X1_172 : FL "GoatCourt" 172 [27] 6 (.array (.object "GoatCourt$Goat")) := fun kd h => (by cases List.mem_singleton.mp h; exact ⟨7, _, 6, "GoatCourt$Hill", rfl, rfl, by decide, rfl, rfl, Or.inl q540, Or.inl rfl⟩)
theorem fl_X1_185 : FL "GoatCourt" 185 [30, 31, 32, 33] 101 (tyOf 0) := fun kd h => ((List.mem_cons.mp h).elim (fun e => by cases e; exact ⟨10, _, 6, "GoatCourt$Goat", rfl, rfl, by decide, rfl, rfl, Or.inl q894, Or.inr q893⟩) (fun h => ((List.mem_cons.mp h).elim (fun e => by cases e; exact ⟨11, _, 6, "GoatCourt$Goat", rfl, rfl, by decide, rfl, rfl, Or.inl q894, Or.inr q893⟩) (fun h => ((List.mem_cons.mp h).elim (fun e => by cases e; exact ⟨12, _, 6, "GoatCourt$Goat", rfl, rfl, by decide, rfl, rfl, Or.inl q894, Or.inr q893⟩) (fun h => (by cases List.mem_singleton.mp h; exact ⟨13, _, 6, "GoatCourt$Goat", rfl, rfl, by decide, rfl, rfl, Or.inl q894, Or.inr q893⟩)))))))
theorem fl_X1_188 : FL "GoatCourt" 188 [30, 31, 32, 33] 104 (tyOf 0) := fun kd h => ((List.mem_cons.mp h).elim (fun e => by cases e; exact ⟨10, _, 2, "GoatCourt$Goat", rfl, rfl, by decide, rfl, rfl, Or.inl q1010, Or.inl rfl⟩) (fun h => ((List.mem_cons.mp h).elim (fun e => by cases e; exact ⟨11, _, 2, "GoatCourt$Goat", rfl, rfl, by decide, rfl, rfl, Or.inl q1010, Or.inl rfl⟩) (fun h => ((List.mem_cons.mp h).elim (fun e => by cases e; exact ⟨12, _, 2, "GoatCourt$Goat", rfl, rfl, by decide, rfl, rfl, Or.inl q1010, Or.inl rfl⟩) (fun h => (by cases List.mem_singleton.mp h; exact ⟨13, _, 2, "GoatCourt$Goat", rfl, rfl, by decide, rfl, rfl, Or.inl q1010, Or.inl rfl⟩)))))))
theorem fl_X1_191 : FL "GoatCourt" 191 [30, 31, 32, 33] 105 (tyOf 0) := fun kd h => ((List.mem_cons.mp h).elim (fun e => by cases e; exact ⟨10, _, 3, "GoatCourt$Goat", rfl, rfl, by decide, rfl, rfl, Or.inl q1012, Or.inl rfl⟩) (fun h => ((List.mem_cons.mp h).elim (fun e => by cases e; exact ⟨11, _, 3, "GoatCourt$Goat", rfl, rfl, by decide, rfl, rfl, Or.inl q1012, Or.inl rfl⟩) (fun h => ((List.mem_cons.mp h).elim (fun e => by cases e; exact ⟨12, _, 3, "GoatCourt$Goat", rfl, rfl, by decide, rfl, rfl, Or.inl q1012, Or.inl rfl⟩) (fun h => (by cases List.mem_singleton.mp h; exact ⟨13, _, 3, "GoatCourt$Goat", rfl, rfl, by decide, rfl, rfl, Or.inl q1012, Or.inl rfl⟩)))))))
theorem fl_X1_194 : FL "GoatCourt" 194 [30, 31, 32, 33] 106 (tyOf 0) := fun kd h => ((List.mem_cons.mp h).elim (fun e => by cases e; exact ⟨10, _, 4, "GoatCourt$Goat", rfl, rfl, by decide, rfl, rfl, Or.inl q1015, Or.inl rfl⟩) (fun h => ((List.mem_cons.mp h).elim (fun e => by cases e; exact ⟨11, _, 4, "GoatCourt$Goat", rfl, rfl, by decide, rfl, rfl, Or.inl q1015, Or.inl rfl⟩) (fun h => ((List.mem_cons.mp h).elim (fun e => by cases e; exact ⟨12, _, 4, "GoatCourt$Goat", rfl, rfl, by decide, rfl, rfl, Or.inl q1015, Or.inl rfl⟩) (fun h => (by cases List.mem_singleton.mp h; exact ⟨13, _, 4, "GoatCourt$Goat", rfl, rfl, by decide, rfl, rfl, Or.inl q1015, Or.inl rfl⟩)))))))
theorem fl_X1_200 : FL "GoatCourt" 200 [23] 3 (tyOf 0) := fun kd h => (by cases List.mem_singleton.mp h; exact ⟨3, _, 3, "GoatCourt$Ground", rfl, rfl, by decide, rfl, rfl, Or.inl q334, Or.inl rfl⟩)
theorem w_X7_bits_b4B (G : Gx) (h0 : G0 G) (N : Nat)   (K4 : Int32 → Int32 → Mem → Option (Int32 × Mem)) (hK4 : ∀ (l1 : Int32) (l2 : Int32) (σ : Mem), Runs G mX7_bits rhoI σ 4 [none, some (vI l1), some (vI l2)] [] (K4 l1 l2 σ)) (l1 : Int32) (l2 : Int32) (σ : Mem) : Runs G mX7_bits rhoI σ 4 [none, some (vI l1), some (vI l2)] [] (f_X7_bits_b4B N  K4 l1 l2 σ) := by
  unfold f_X7_bits_b4B
  refine r_iload_n (q := 5) dX7_bits_4 rfl rfl rfl ?_
  refine r_if_eq (q := 8) (t := 20) dX7_bits_5 rfl (by decide) (fun _ => ?_) (fun _ => ?_)
  · refine r_iload_n (q := 21) dX7_bits_20 rfl rfl rfl ?_
    exact r_ireturn rfl rfl dX7_bits_21
  · refine r_iinc (q := 11) (v := (1 : Int32)) dX7_bits_8 rfl rfl (by decide) (Nat.le_of_ble_eq_true rfl) rfl ?_
    refine r_iload_n (q := 12) dX7_bits_11 rfl rfl rfl ?_
    refine r_iload_n (q := 13) dX7_bits_12 rfl rfl rfl ?_
    refine r_iconst (q := 14) (v := (1 : Int32)) dX7_bits_13 rfl (by decide) ?_
    refine r_isub (q := 15) dX7_bits_14 rfl ?_
    refine r_iand (q := 16) dX7_bits_15 rfl ?_
    refine r_istore_n (q := 17) dX7_bits_16 rfl rfl (Nat.le_of_ble_eq_true rfl) rfl ?_
    refine r_goto (q := 4) dX7_bits_17 (by decide) ?_
    exact r_le (hK4 _ _ _) (Nat.le_refl _) (And.intro rfl (And.intro rfl trivial))
theorem w_X7_bits_b4 (G : Gx) (h0 : G0 G) (N : Nat)   : ∀ (z : Nat) (l1 : Int32) (l2 : Int32) (σ : Mem), Runs G mX7_bits rhoI σ 4 [none, some (vI l1), some (vI l2)] [] (f_X7_bits_b4 N  z l1 l2 σ) := by
  intro z
  induction z with
  | zero => exact fun _ _ _ => r_none
  | succ z ih => exact fun l1 l2 σ => w_X7_bits_b4B G h0 N   _ ih l1 l2 σ
theorem c_X7_bits (G : Gx) (h0 : G0 G) (N : Nat) (i0 : Int32) (σ : Mem) : Ct G mX7_bits rhoI [vI i0] σ (f_X7_bits N i0 σ) := by
  refine Ct_of h0 (by decide) rfl (Nat.le_of_ble_eq_true rfl) (L0 := [some (vI i0), none, none]) rfl ?_
  unfold f_X7_bits
  refine r_iconst (q := 1) (v := (0 : Int32)) dX7_bits_0 rfl (by decide) ?_
  refine r_istore_n (q := 2) dX7_bits_1 rfl rfl (Nat.le_of_ble_eq_true rfl) rfl ?_
  refine r_iload_n (q := 3) dX7_bits_2 rfl rfl rfl ?_
  refine r_istore_n (q := 4) dX7_bits_3 rfl rfl (Nat.le_of_ble_eq_true rfl) rfl ?_
  exact r_le (w_X7_bits_b4 G h0 N N _ _ _) (Nat.le_refl _) (And.intro rfl (And.intro rfl trivial))
theorem w_X7_readRule_b83 (G : Gx) (h0 : G0 G) (N : Nat) (K29 : Nat → Int32 → Int32 → Int32 → Mem → Option (Unit × Mem)) (hK29 : ∀ (a0 : Nat) (l1 : Int32) (l2 : Int32) (l3 : Int32) (σ : Mem), Runs G mX7_readRule rhoV σ 29 [some (vR (some a0)), some (vI l1), some (vI l2), some (vI l3), none] [] (K29 a0 l1 l2 l3 σ)) (a0 : Nat) (l1 : Int32) (l2 : Int32) (l4 : Int32) (σ : Mem) : Runs G mX7_readRule rhoV σ 83 [some (vR (some a0)), some (vI l1), some (vI l2), none, some (vI l4)] [] (f_X7_readRule_b83 N K29 a0 l1 l2 l4 σ) := by
  unfold f_X7_readRule_b83
  refine r_aload_n (q := 84) dX7_readRule_83 rfl rfl rfl ?_
  refine r_ob (fun a3 ha3 => ?_)
  obtain ⟨hea3, hka3⟩ := o_at_eq ha3
  cases hea3
  refine r_callV (q := 87) (c_X7_goesOn G h0 N _ _) (cl_V (ci := 6) rfl rfl (lw_V q2182 q2184 qs84 q176 q2185) (hd_X7_goesOn) ⟨Nat.le_of_ble_eq_true rfl, Nat.le_of_ble_eq_true rfl⟩ (List.mem_singleton.mp hka3) rfl rfl rfl (Nat.le_of_ble_eq_true rfl) dX7_readRule_84) rfl (fun u1 σ2 => ?_)
  refine r_aload_n (q := 88) dX7_readRule_87 rfl rfl rfl ?_
  refine r_gI (q := 91) fl_X7_94 dX7_readRule_88 rfl (fun x4 => ?_)
  refine r_iconst (q := 92) (v := (5 : Int32)) dX7_readRule_91 rfl (by decide) ?_
  refine r_icmp_ne (q := 95) (t := 96) dX7_readRule_92 rfl (by decide) (fun _ => ?_) (fun _ => ?_)
  · exact r_return rfl dX7_readRule_95
  · refine r_iload_n (q := 97) dX7_readRule_96 rfl rfl rfl ?_
    refine r_iconst (q := 98) (v := (1 : Int32)) dX7_readRule_97 rfl (by decide) ?_
    refine r_iload (q := 100) dX7_readRule_98 rfl rfl ?_
    refine r_ishl (q := 101) dX7_readRule_100 rfl ?_
    refine r_ior (q := 102) dX7_readRule_101 rfl ?_
    refine r_istore_n (q := 103) dX7_readRule_102 rfl rfl (Nat.le_of_ble_eq_true rfl) rfl ?_
    refine r_aload_n (q := 104) dX7_readRule_103 rfl rfl rfl ?_
    refine r_bipush (q := 106) (v := (44 : Int32)) dX7_readRule_104 rfl (by decide) ?_
    refine r_ob (fun a7 ha7 => ?_)
    obtain ⟨hea7, hka7⟩ := o_at_eq ha7
    cases hea7
    refine r_callI (q := 109) (c_X7_eatsSign G h0 N _ _ _) (cl_V (ci := 6) rfl rfl (lw_V q2312 q2314 qs106 q176 q2315) (hd_X7_eatsSign) ⟨Nat.le_of_ble_eq_true rfl, Nat.le_of_ble_eq_true rfl⟩ (List.mem_singleton.mp hka7) rfl rfl rfl (Nat.le_of_ble_eq_true rfl) dX7_readRule_106) rfl (fun x5 σ6 => ?_)
    refine r_istore_n (q := 110) dX7_readRule_109 rfl rfl (Nat.le_of_ble_eq_true rfl) rfl ?_
    refine r_goto (q := 29) dX7_readRule_110 (by decide) ?_
    exact r_le (hK29 _ _ _ _ _) (Nat.le_refl _) (And.intro rfl (And.intro rfl (And.intro rfl (And.intro rfl trivial))))
theorem w_X7_readRule_b62 (G : Gx) (h0 : G0 G) (N : Nat) (K29 : Nat → Int32 → Int32 → Int32 → Mem → Option (Unit × Mem)) (hK29 : ∀ (a0 : Nat) (l1 : Int32) (l2 : Int32) (l3 : Int32) (σ : Mem), Runs G mX7_readRule rhoV σ 29 [some (vR (some a0)), some (vI l1), some (vI l2), some (vI l3), none] [] (K29 a0 l1 l2 l3 σ)) (a0 : Nat) (l1 : Int32) (l2 : Int32) (l4 : Int32) (σ : Mem) : Runs G mX7_readRule rhoV σ 62 [some (vR (some a0)), some (vI l1), some (vI l2), none, some (vI l4)] [] (f_X7_readRule_b62 N K29 a0 l1 l2 l4 σ) := by
  unfold f_X7_readRule_b62
  refine r_aload_n (q := 63) dX7_readRule_62 rfl rfl rfl ?_
  refine r_gI (q := 66) fl_X7_94 dX7_readRule_63 rfl (fun x1 => ?_)
  refine r_iconst (q := 67) (v := (5 : Int32)) dX7_readRule_66 rfl (by decide) ?_
  refine r_icmp_eq (q := 70) (t := 83) dX7_readRule_67 rfl (by decide) (fun _ => ?_) (fun _ => ?_)
  · exact r_le (w_X7_readRule_b83 G h0 N K29 hK29 _ _ _ _ _) (Nat.le_refl _) (And.intro rfl (And.intro rfl (And.intro rfl (And.intro rfl trivial))))
  · refine r_iload_n (q := 71) dX7_readRule_70 rfl rfl rfl ?_
    refine r_callI (q := 74) (c_X7_bits G h0 N _ _) (cl_S rfl rfl (lw_S q2354 q2355 q176 q2356) (hd_X7_bits) ⟨Nat.le_of_ble_eq_true rfl, Nat.le_of_ble_eq_true rfl⟩ rfl (Nat.le_of_ble_eq_true rfl) dX7_readRule_71) rfl (fun x2 σ3 => ?_)
    refine r_iconst (q := 75) (v := (3 : Int32)) dX7_readRule_74 rfl (by decide) ?_
    refine r_icmp_ne (q := 78) (t := 83) dX7_readRule_75 rfl (by decide) (fun _ => ?_) (fun _ => ?_)
    · refine r_aload_n (q := 79) dX7_readRule_78 rfl rfl rfl ?_
      refine r_iconst (q := 80) (v := (5 : Int32)) dX7_readRule_79 rfl (by decide) ?_
      refine r_ob (fun a6 ha6 => ?_)
      obtain ⟨hea6, hka6⟩ := o_at_eq ha6
      cases hea6
      refine r_callV (q := 83) (c_X7_flaw G h0 N _ _ _) (cl_V (ci := 6) rfl rfl (lw_V q2219 q2221 qs90 q176 q2222) (hd_X7_flaw) ⟨Nat.le_of_ble_eq_true rfl, Nat.le_of_ble_eq_true rfl⟩ (List.mem_singleton.mp hka6) rfl rfl rfl (Nat.le_of_ble_eq_true rfl) dX7_readRule_80) rfl (fun u4 σ5 => ?_)
      exact r_le (w_X7_readRule_b83 G h0 N K29 hK29 _ _ _ _ _) (Nat.le_refl _) (And.intro rfl (And.intro rfl (And.intro rfl (And.intro rfl trivial))))
    · exact r_le (w_X7_readRule_b83 G h0 N K29 hK29 _ _ _ _ _) (Nat.le_refl _) (And.intro rfl (And.intro rfl (And.intro rfl (And.intro rfl trivial))))
theorem w_X7_readRule_b29B (G : Gx) (h0 : G0 G) (N : Nat)   (K29 : Nat → Int32 → Int32 → Int32 → Mem → Option (Unit × Mem)) (hK29 : ∀ (a0 : Nat) (l1 : Int32) (l2 : Int32) (l3 : Int32) (σ : Mem), Runs G mX7_readRule rhoV σ 29 [some (vR (some a0)), some (vI l1), some (vI l2), some (vI l3), none] [] (K29 a0 l1 l2 l3 σ)) (a0 : Nat) (l1 : Int32) (l2 : Int32) (l3 : Int32) (σ : Mem) : Runs G mX7_readRule rhoV σ 29 [some (vR (some a0)), some (vI l1), some (vI l2), some (vI l3), none] [] (f_X7_readRule_b29B N  K29 a0 l1 l2 l3 σ) := by
  unfold f_X7_readRule_b29B
  refine r_iload_n (q := 30) dX7_readRule_29 rfl rfl rfl ?_
  refine r_if_eq (q := 33) (t := 113) dX7_readRule_30 rfl (by decide) (fun _ => ?_) (fun _ => ?_)
  · refine r_aload_n (q := 114) dX7_readRule_113 rfl rfl rfl ?_
    refine r_gR (q := 117) fl_X7_192 rfl dX7_readRule_114 rfl (fun x1 => ?_)
    refine r_gR (q := 120) fl_X7_399 rfl dX7_readRule_117 rfl (fun x2 => ?_)
    refine r_aload_n (q := 121) dX7_readRule_120 rfl rfl rfl ?_
    refine r_gR (q := 124) fl_X7_192 rfl dX7_readRule_121 rfl (fun x3 => ?_)
    refine r_gI (q := 127) fl_X7_393 dX7_readRule_124 rfl (fun x4 => ?_)
    refine r_iload_n (q := 128) dX7_readRule_127 rfl rfl rfl ?_
    refine r_iastore (q := 129) dX7_readRule_128 rfl (fun σ5 => ?_)
    refine r_aload_n (q := 130) dX7_readRule_129 rfl rfl rfl ?_
    refine r_gR (q := 133) fl_X7_192 rfl dX7_readRule_130 rfl (fun x6 => ?_)
    refine r_gR (q := 136) fl_X7_402 rfl dX7_readRule_133 rfl (fun x7 => ?_)
    refine r_aload_n (q := 137) dX7_readRule_136 rfl rfl rfl ?_
    refine r_gR (q := 140) fl_X7_192 rfl dX7_readRule_137 rfl (fun x8 => ?_)
    refine r_gI (q := 143) fl_X7_393 dX7_readRule_140 rfl (fun x9 => ?_)
    refine r_iload_n (q := 144) dX7_readRule_143 rfl rfl rfl ?_
    refine r_iastore (q := 145) dX7_readRule_144 rfl (fun σ10 => ?_)
    refine r_aload_n (q := 146) dX7_readRule_145 rfl rfl rfl ?_
    refine r_gR (q := 149) fl_X7_192 rfl dX7_readRule_146 rfl (fun x11 => ?_)
    refine r_dup (q := 150) dX7_readRule_149 rfl rfl ?_
    refine r_gI (q := 153) fl_X7_393 dX7_readRule_150 rfl (fun x12 => ?_)
    refine r_iconst (q := 154) (v := (1 : Int32)) dX7_readRule_153 rfl (by decide) ?_
    refine r_iadd (q := 155) dX7_readRule_154 rfl ?_
    refine r_pI (q := 158) fp_X7_readRule_393 dX7_readRule_155 rfl (fun σ13 => ?_)
    exact r_return rfl dX7_readRule_158
  · refine r_aload_n (q := 34) dX7_readRule_33 rfl rfl rfl ?_
    refine r_iconst (q := 35) (v := (3 : Int32)) dX7_readRule_34 rfl (by decide) ?_
    refine r_ob (fun a16 ha16 => ?_)
    obtain ⟨hea16, hka16⟩ := o_at_eq ha16
    cases hea16
    refine r_callI (q := 38) (c_X7_known G h0 N _ _ _) (cl_V (ci := 6) rfl rfl (lw_V q2296 q2298 qs103 q176 q2299) (hd_X7_known) ⟨Nat.le_of_ble_eq_true rfl, Nat.le_of_ble_eq_true rfl⟩ (List.mem_singleton.mp hka16) rfl rfl rfl (Nat.le_of_ble_eq_true rfl) dX7_readRule_35) rfl (fun x14 σ15 => ?_)
    refine r_istore (q := 40) dX7_readRule_38 rfl (Nat.le_of_ble_eq_true rfl) rfl ?_
    refine r_aload_n (q := 41) dX7_readRule_40 rfl rfl rfl ?_
    refine r_gI (q := 44) fl_X7_94 dX7_readRule_41 rfl (fun x17 => ?_)
    refine r_iconst (q := 45) (v := (5 : Int32)) dX7_readRule_44 rfl (by decide) ?_
    refine r_icmp_eq (q := 48) (t := 62) dX7_readRule_45 rfl (by decide) (fun _ => ?_) (fun _ => ?_)
    · exact r_le (w_X7_readRule_b62 G h0 N K29 hK29 _ _ _ _ _) (Nat.le_refl _) (And.intro rfl (And.intro rfl (And.intro rfl (And.intro rfl trivial))))
    · refine r_iload_n (q := 49) dX7_readRule_48 rfl rfl rfl ?_
      refine r_iload (q := 51) dX7_readRule_49 rfl rfl ?_
      refine r_callI (q := 54) (c_X7_bit G h0 N _ _ _) (cl_S rfl rfl (lw_S q2331 q2332 q176 q2333) (hd_X7_bit) ⟨Nat.le_of_ble_eq_true rfl, Nat.le_of_ble_eq_true rfl⟩ rfl (Nat.le_of_ble_eq_true rfl) dX7_readRule_51) rfl (fun x18 σ19 => ?_)
      refine r_if_eq (q := 57) (t := 62) dX7_readRule_54 rfl (by decide) (fun _ => ?_) (fun _ => ?_)
      · exact r_le (w_X7_readRule_b62 G h0 N K29 hK29 _ _ _ _ _) (Nat.le_refl _) (And.intro rfl (And.intro rfl (And.intro rfl (And.intro rfl trivial))))
      · refine r_aload_n (q := 58) dX7_readRule_57 rfl rfl rfl ?_
        refine r_iconst (q := 59) (v := (3 : Int32)) dX7_readRule_58 rfl (by decide) ?_
        refine r_ob (fun a22 ha22 => ?_)
        obtain ⟨hea22, hka22⟩ := o_at_eq ha22
        cases hea22
        refine r_callV (q := 62) (c_X7_flaw G h0 N _ _ _) (cl_V (ci := 6) rfl rfl (lw_V q2219 q2221 qs90 q176 q2222) (hd_X7_flaw) ⟨Nat.le_of_ble_eq_true rfl, Nat.le_of_ble_eq_true rfl⟩ (List.mem_singleton.mp hka22) rfl rfl rfl (Nat.le_of_ble_eq_true rfl) dX7_readRule_59) rfl (fun u20 σ21 => ?_)
        exact r_le (w_X7_readRule_b62 G h0 N K29 hK29 _ _ _ _ _) (Nat.le_refl _) (And.intro rfl (And.intro rfl (And.intro rfl (And.intro rfl trivial))))
theorem w_X7_readRule_b29 (G : Gx) (h0 : G0 G) (N : Nat)   : ∀ (z : Nat) (a0 : Nat) (l1 : Int32) (l2 : Int32) (l3 : Int32) (σ : Mem), Runs G mX7_readRule rhoV σ 29 [some (vR (some a0)), some (vI l1), some (vI l2), some (vI l3), none] [] (f_X7_readRule_b29 N  z a0 l1 l2 l3 σ) := by
  intro z
  induction z with
  | zero => exact fun _ _ _ _ _ => r_none
  | succ z ih => exact fun a0 l1 l2 l3 σ => w_X7_readRule_b29B G h0 N   _ ih a0 l1 l2 l3 σ
theorem c_X7_readRule (G : Gx) (h0 : G0 G) (N : Nat) (a0 : Nat) (σ : Mem) : Ct G mX7_readRule rhoV [vR (some a0)] σ (f_X7_readRule N a0 σ) := by
  refine Ct_of h0 (by decide) rfl (Nat.le_of_ble_eq_true rfl) (L0 := [some (vR (some a0)), none, none, none, none]) rfl ?_
  unfold f_X7_readRule
  refine r_aload_n (q := 1) dX7_readRule_0 rfl rfl rfl ?_
  refine r_aload_n (q := 2) dX7_readRule_1 rfl rfl rfl ?_
  refine r_gR (q := 5) fl_X7_192 rfl dX7_readRule_2 rfl (fun x1 => ?_)
  refine r_gI (q := 8) fl_X7_393 dX7_readRule_5 rfl (fun x2 => ?_)
  refine r_bipush (q := 10) (v := (8 : Int32)) dX7_readRule_8 rfl (by decide) ?_
  refine r_ob (fun a5 ha5 => ?_)
  obtain ⟨hea5, hka5⟩ := o_at_eq ha5
  cases hea5
  refine r_callV (q := 13) (c_X7_begins G h0 N _ _ _ _) (cl_V (ci := 6) rfl rfl (lw_V q2245 q2247 qs95 q176 q2248) (hd_X7_begins) ⟨Nat.le_of_ble_eq_true rfl, Nat.le_of_ble_eq_true rfl⟩ (List.mem_singleton.mp hka5) rfl rfl rfl (Nat.le_of_ble_eq_true rfl) dX7_readRule_10) rfl (fun u3 σ4 => ?_)
  refine r_aload_n (q := 14) dX7_readRule_13 rfl rfl rfl ?_
  refine r_iconst (q := 15) (v := (3 : Int32)) dX7_readRule_14 rfl (by decide) ?_
  refine r_ob (fun a8 ha8 => ?_)
  obtain ⟨hea8, hka8⟩ := o_at_eq ha8
  cases hea8
  refine r_callI (q := 18) (c_X7_readKnown G h0 N _ _ _) (cl_V (ci := 6) rfl rfl (lw_V q2292 q2294 qs102 q176 q2295) (hd_X7_readKnown) ⟨Nat.le_of_ble_eq_true rfl, Nat.le_of_ble_eq_true rfl⟩ (List.mem_singleton.mp hka8) rfl rfl rfl (Nat.le_of_ble_eq_true rfl) dX7_readRule_15) rfl (fun x6 σ7 => ?_)
  refine r_istore_n (q := 19) dX7_readRule_18 rfl rfl (Nat.le_of_ble_eq_true rfl) rfl ?_
  refine r_aload_n (q := 20) dX7_readRule_19 rfl rfl rfl ?_
  refine r_ldcS (q := 22) (tx := "if") (cd := 38) (List.mem_of_getElem? (i := 48) rfl) (by decide) dX7_readRule_20 rfl ?_
  refine r_ob (fun a11 ha11 => ?_)
  obtain ⟨hea11, hka11⟩ := o_at_eq ha11
  cases hea11
  refine r_callV (q := 25) (c_X7_wants G h0 N _ _ _) (cl_V (ci := 6) rfl rfl (lw_V q2228 q2230 qs92 q176 q2231) (hd_X7_wants) ⟨Nat.le_of_ble_eq_true rfl, Nat.le_of_ble_eq_true rfl⟩ (List.mem_singleton.mp hka11) rfl rfl rfl (Nat.le_of_ble_eq_true rfl) dX7_readRule_22) rfl (fun u9 σ10 => ?_)
  refine r_iconst (q := 26) (v := (0 : Int32)) dX7_readRule_25 rfl (by decide) ?_
  refine r_istore_n (q := 27) dX7_readRule_26 rfl rfl (Nat.le_of_ble_eq_true rfl) rfl ?_
  refine r_iconst (q := 28) (v := (1 : Int32)) dX7_readRule_27 rfl (by decide) ?_
  refine r_istore_n (q := 29) dX7_readRule_28 rfl rfl (Nat.le_of_ble_eq_true rfl) rfl ?_
  exact r_le (w_X7_readRule_b29 G h0 N N _ _ _ _ _) (Nat.le_refl _) (And.intro rfl (And.intro rfl (And.intro rfl (And.intro rfl trivial))))
theorem w_X7_beginsOnce_b9 (G : Gx) (h0 : G0 G) (N : Nat)   (a0 : Nat) (σ : Mem) : Runs G mX7_beginsOnce rhoV σ 9 [some (vR (some a0)), none] [] (f_X7_beginsOnce_b9 N  a0 σ) := by
  unfold f_X7_beginsOnce_b9
  refine r_aload_n (q := 10) dX7_beginsOnce_9 rfl rfl rfl ?_
  refine r_iconst (q := 11) (v := (0 : Int32)) dX7_beginsOnce_10 rfl (by decide) ?_
  refine r_iconst (q := 12) (v := (1 : Int32)) dX7_beginsOnce_11 rfl (by decide) ?_
  refine r_ob (fun a3 ha3 => ?_)
  obtain ⟨hea3, hka3⟩ := o_at_eq ha3
  cases hea3
  refine r_callV (q := 15) (c_X7_begins G h0 N _ _ _ _) (cl_V (ci := 6) rfl rfl (lw_V q2245 q2247 qs95 q176 q2248) (hd_X7_begins) ⟨Nat.le_of_ble_eq_true rfl, Nat.le_of_ble_eq_true rfl⟩ (List.mem_singleton.mp hka3) rfl rfl rfl (Nat.le_of_ble_eq_true rfl) dX7_beginsOnce_12) rfl (fun u1 σ2 => ?_)
  exact r_return rfl dX7_beginsOnce_15
theorem c_X7_beginsOnce (G : Gx) (h0 : G0 G) (N : Nat) (a0 : Nat) (i1 : Int32) (σ : Mem) : Ct G mX7_beginsOnce rhoV [vR (some a0), vI i1] σ (f_X7_beginsOnce N a0 i1 σ) := by
  refine Ct_of h0 (by decide) rfl (Nat.le_of_ble_eq_true rfl) (L0 := [some (vR (some a0)), some (vI i1)]) rfl ?_
  unfold f_X7_beginsOnce
  refine r_iload_n (q := 1) dX7_beginsOnce_0 rfl rfl rfl ?_
  refine r_if_eq (q := 4) (t := 9) dX7_beginsOnce_1 rfl (by decide) (fun _ => ?_) (fun _ => ?_)
  · exact r_le (w_X7_beginsOnce_b9 G h0 N _ _) (Nat.le_refl _) (And.intro rfl trivial)
  · refine r_aload_n (q := 5) dX7_beginsOnce_4 rfl rfl rfl ?_
    refine r_iconst (q := 6) (v := (3 : Int32)) dX7_beginsOnce_5 rfl (by decide) ?_
    refine r_ob (fun a3 ha3 => ?_)
    obtain ⟨hea3, hka3⟩ := o_at_eq ha3
    cases hea3
    refine r_callV (q := 9) (c_X7_flaw G h0 N _ _ _) (cl_V (ci := 6) rfl rfl (lw_V q2219 q2221 qs90 q176 q2222) (hd_X7_flaw) ⟨Nat.le_of_ble_eq_true rfl, Nat.le_of_ble_eq_true rfl⟩ (List.mem_singleton.mp hka3) rfl rfl rfl (Nat.le_of_ble_eq_true rfl) dX7_beginsOnce_6) rfl (fun u1 σ2 => ?_)
    exact r_le (w_X7_beginsOnce_b9 G h0 N _ _) (Nat.le_refl _) (And.intro rfl trivial)
theorem w_X7_readProof_b40 (G : Gx) (h0 : G0 G) (N : Nat) (K13 : Nat → Int32 → Mem → Option (Unit × Mem)) (hK13 : ∀ (a0 : Nat) (l1 : Int32) (σ : Mem), Runs G mX7_readProof rhoV σ 13 [some (vR (some a0)), some (vI l1), none] [] (K13 a0 l1 σ)) (a0 : Nat) (l2 : Int32) (σ : Mem) : Runs G mX7_readProof rhoV σ 40 [some (vR (some a0)), none, some (vI l2)] [] (f_X7_readProof_b40 N K13 a0 l2 σ) := by
  unfold f_X7_readProof_b40
  refine r_aload_n (q := 41) dX7_readProof_40 rfl rfl rfl ?_
  refine r_ob (fun a3 ha3 => ?_)
  obtain ⟨hea3, hka3⟩ := o_at_eq ha3
  cases hea3
  refine r_callV (q := 44) (c_X7_goesOn G h0 N _ _) (cl_V (ci := 6) rfl rfl (lw_V q2182 q2184 qs84 q176 q2185) (hd_X7_goesOn) ⟨Nat.le_of_ble_eq_true rfl, Nat.le_of_ble_eq_true rfl⟩ (List.mem_singleton.mp hka3) rfl rfl rfl (Nat.le_of_ble_eq_true rfl) dX7_readProof_41) rfl (fun u1 σ2 => ?_)
  refine r_aload_n (q := 45) dX7_readProof_44 rfl rfl rfl ?_
  refine r_gI (q := 48) fl_X7_94 dX7_readProof_45 rfl (fun x4 => ?_)
  refine r_iconst (q := 49) (v := (5 : Int32)) dX7_readProof_48 rfl (by decide) ?_
  refine r_icmp_ne (q := 52) (t := 53) dX7_readProof_49 rfl (by decide) (fun _ => ?_) (fun _ => ?_)
  · exact r_return rfl dX7_readProof_52
  · refine r_aload_n (q := 54) dX7_readProof_53 rfl rfl rfl ?_
    refine r_gR (q := 57) fl_X7_192 rfl dX7_readProof_54 rfl (fun x5 => ?_)
    refine r_gR (q := 60) fl_X7_416 rfl dX7_readProof_57 rfl (fun x6 => ?_)
    refine r_aload_n (q := 61) dX7_readProof_60 rfl rfl rfl ?_
    refine r_gR (q := 64) fl_X7_192 rfl dX7_readProof_61 rfl (fun x7 => ?_)
    refine r_gI (q := 67) fl_X7_413 dX7_readProof_64 rfl (fun x8 => ?_)
    refine r_iload_n (q := 68) dX7_readProof_67 rfl rfl rfl ?_
    refine r_iastore (q := 69) dX7_readProof_68 rfl (fun σ9 => ?_)
    refine r_aload_n (q := 70) dX7_readProof_69 rfl rfl rfl ?_
    refine r_gR (q := 73) fl_X7_192 rfl dX7_readProof_70 rfl (fun x10 => ?_)
    refine r_dup (q := 74) dX7_readProof_73 rfl rfl ?_
    refine r_gI (q := 77) fl_X7_413 dX7_readProof_74 rfl (fun x11 => ?_)
    refine r_iconst (q := 78) (v := (1 : Int32)) dX7_readProof_77 rfl (by decide) ?_
    refine r_iadd (q := 79) dX7_readProof_78 rfl ?_
    refine r_pI (q := 82) fp_X7_readProof_413 dX7_readProof_79 rfl (fun σ12 => ?_)
    refine r_aload_n (q := 83) dX7_readProof_82 rfl rfl rfl ?_
    refine r_bipush (q := 85) (v := (44 : Int32)) dX7_readProof_83 rfl (by decide) ?_
    refine r_ob (fun a15 ha15 => ?_)
    obtain ⟨hea15, hka15⟩ := o_at_eq ha15
    cases hea15
    refine r_callI (q := 88) (c_X7_eatsSign G h0 N _ _ _) (cl_V (ci := 6) rfl rfl (lw_V q2312 q2314 qs106 q176 q2315) (hd_X7_eatsSign) ⟨Nat.le_of_ble_eq_true rfl, Nat.le_of_ble_eq_true rfl⟩ (List.mem_singleton.mp hka15) rfl rfl rfl (Nat.le_of_ble_eq_true rfl) dX7_readProof_85) rfl (fun x13 σ14 => ?_)
    refine r_istore_n (q := 89) dX7_readProof_88 rfl rfl (Nat.le_of_ble_eq_true rfl) rfl ?_
    refine r_goto (q := 13) dX7_readProof_89 (by decide) ?_
    exact r_le (hK13 _ _ _) (Nat.le_refl _) (And.intro rfl (And.intro rfl trivial))
theorem w_X7_readProof_b13B (G : Gx) (h0 : G0 G) (N : Nat)   (K13 : Nat → Int32 → Mem → Option (Unit × Mem)) (hK13 : ∀ (a0 : Nat) (l1 : Int32) (σ : Mem), Runs G mX7_readProof rhoV σ 13 [some (vR (some a0)), some (vI l1), none] [] (K13 a0 l1 σ)) (a0 : Nat) (l1 : Int32) (σ : Mem) : Runs G mX7_readProof rhoV σ 13 [some (vR (some a0)), some (vI l1), none] [] (f_X7_readProof_b13B N  K13 a0 l1 σ) := by
  unfold f_X7_readProof_b13B
  refine r_iload_n (q := 14) dX7_readProof_13 rfl rfl rfl ?_
  refine r_if_eq (q := 17) (t := 92) dX7_readProof_14 rfl (by decide) (fun _ => ?_) (fun _ => ?_)
  · refine r_aload_n (q := 93) dX7_readProof_92 rfl rfl rfl ?_
    refine r_gR (q := 96) fl_X7_192 rfl dX7_readProof_93 rfl (fun x1 => ?_)
    refine r_iconst (q := 97) (v := (1 : Int32)) dX7_readProof_96 rfl (by decide) ?_
    refine r_pI (q := 100) fp_X7_readProof_405 dX7_readProof_97 rfl (fun σ2 => ?_)
    exact r_return rfl dX7_readProof_100
  · refine r_aload_n (q := 18) dX7_readProof_17 rfl rfl rfl ?_
    refine r_iconst (q := 19) (v := (3 : Int32)) dX7_readProof_18 rfl (by decide) ?_
    refine r_ob (fun a5 ha5 => ?_)
    obtain ⟨hea5, hka5⟩ := o_at_eq ha5
    cases hea5
    refine r_callI (q := 22) (c_X7_known G h0 N _ _ _) (cl_V (ci := 6) rfl rfl (lw_V q2296 q2298 qs103 q176 q2299) (hd_X7_known) ⟨Nat.le_of_ble_eq_true rfl, Nat.le_of_ble_eq_true rfl⟩ (List.mem_singleton.mp hka5) rfl rfl rfl (Nat.le_of_ble_eq_true rfl) dX7_readProof_19) rfl (fun x3 σ4 => ?_)
    refine r_istore_n (q := 23) dX7_readProof_22 rfl rfl (Nat.le_of_ble_eq_true rfl) rfl ?_
    refine r_aload_n (q := 24) dX7_readProof_23 rfl rfl rfl ?_
    refine r_gR (q := 27) fl_X7_192 rfl dX7_readProof_24 rfl (fun x6 => ?_)
    refine r_gI (q := 30) fl_X7_413 dX7_readProof_27 rfl (fun x7 => ?_)
    refine r_bipush (q := 32) (v := (8 : Int32)) dX7_readProof_30 rfl (by decide) ?_
    refine r_icmp_ne (q := 35) (t := 40) dX7_readProof_32 rfl (by decide) (fun _ => ?_) (fun _ => ?_)
    · refine r_aload_n (q := 36) dX7_readProof_35 rfl rfl rfl ?_
      refine r_iconst (q := 37) (v := (5 : Int32)) dX7_readProof_36 rfl (by decide) ?_
      refine r_ob (fun a10 ha10 => ?_)
      obtain ⟨hea10, hka10⟩ := o_at_eq ha10
      cases hea10
      refine r_callV (q := 40) (c_X7_flaw G h0 N _ _ _) (cl_V (ci := 6) rfl rfl (lw_V q2219 q2221 qs90 q176 q2222) (hd_X7_flaw) ⟨Nat.le_of_ble_eq_true rfl, Nat.le_of_ble_eq_true rfl⟩ (List.mem_singleton.mp hka10) rfl rfl rfl (Nat.le_of_ble_eq_true rfl) dX7_readProof_37) rfl (fun u8 σ9 => ?_)
      exact r_le (w_X7_readProof_b40 G h0 N K13 hK13 _ _ _) (Nat.le_refl _) (And.intro rfl (And.intro rfl trivial))
    · exact r_le (w_X7_readProof_b40 G h0 N K13 hK13 _ _ _) (Nat.le_refl _) (And.intro rfl (And.intro rfl trivial))
theorem w_X7_readProof_b13 (G : Gx) (h0 : G0 G) (N : Nat)   : ∀ (z : Nat) (a0 : Nat) (l1 : Int32) (σ : Mem), Runs G mX7_readProof rhoV σ 13 [some (vR (some a0)), some (vI l1), none] [] (f_X7_readProof_b13 N  z a0 l1 σ) := by
  intro z
  induction z with
  | zero => exact fun _ _ _ => r_none
  | succ z ih => exact fun a0 l1 σ => w_X7_readProof_b13B G h0 N   _ ih a0 l1 σ
theorem c_X7_readProof (G : Gx) (h0 : G0 G) (N : Nat) (a0 : Nat) (σ : Mem) : Ct G mX7_readProof rhoV [vR (some a0)] σ (f_X7_readProof N a0 σ) := by
  refine Ct_of h0 (by decide) rfl (Nat.le_of_ble_eq_true rfl) (L0 := [some (vR (some a0)), none, none]) rfl ?_
  unfold f_X7_readProof
  refine r_aload_n (q := 1) dX7_readProof_0 rfl rfl rfl ?_
  refine r_aload_n (q := 2) dX7_readProof_1 rfl rfl rfl ?_
  refine r_gR (q := 5) fl_X7_192 rfl dX7_readProof_2 rfl (fun x1 => ?_)
  refine r_gI (q := 8) fl_X7_405 dX7_readProof_5 rfl (fun x2 => ?_)
  refine r_ob (fun a5 ha5 => ?_)
  obtain ⟨hea5, hka5⟩ := o_at_eq ha5
  cases hea5
  refine r_callV (q := 11) (c_X7_beginsOnce G h0 N _ _ _) (cl_V (ci := 6) rfl rfl (lw_V q2361 q2363 qs115 q176 q2364) (hd_X7_beginsOnce) ⟨Nat.le_of_ble_eq_true rfl, Nat.le_of_ble_eq_true rfl⟩ (List.mem_singleton.mp hka5) rfl rfl rfl (Nat.le_of_ble_eq_true rfl) dX7_readProof_8) rfl (fun u3 σ4 => ?_)
  refine r_iconst (q := 12) (v := (1 : Int32)) dX7_readProof_11 rfl (by decide) ?_
  refine r_istore_n (q := 13) dX7_readProof_12 rfl rfl (Nat.le_of_ble_eq_true rfl) rfl ?_
  exact r_le (w_X7_readProof_b13 G h0 N N _ _ _) (Nat.le_refl _) (And.intro rfl (And.intro rfl trivial))
theorem c_X7_readCourt (G : Gx) (h0 : G0 G) (N : Nat) (a0 : Nat) (σ : Mem) : Ct G mX7_readCourt rhoV [vR (some a0)] σ (f_X7_readCourt N a0 σ) := by
  refine Ct_of h0 (by decide) rfl (Nat.le_of_ble_eq_true rfl) (L0 := [some (vR (some a0)), none, none, none, none]) rfl ?_
  unfold f_X7_readCourt
  refine r_aload_n (q := 1) dX7_readCourt_0 rfl rfl rfl ?_
  refine r_aload_n (q := 2) dX7_readCourt_1 rfl rfl rfl ?_
  refine r_gR (q := 5) fl_X7_192 rfl dX7_readCourt_2 rfl (fun x1 => ?_)
  refine r_gI (q := 8) fl_X7_419 dX7_readCourt_5 rfl (fun x2 => ?_)
  refine r_bipush (q := 10) (v := (6 : Int32)) dX7_readCourt_8 rfl (by decide) ?_
  refine r_ob (fun a5 ha5 => ?_)
  obtain ⟨hea5, hka5⟩ := o_at_eq ha5
  cases hea5
  refine r_callV (q := 13) (c_X7_begins G h0 N _ _ _ _) (cl_V (ci := 6) rfl rfl (lw_V q2245 q2247 qs95 q176 q2248) (hd_X7_begins) ⟨Nat.le_of_ble_eq_true rfl, Nat.le_of_ble_eq_true rfl⟩ (List.mem_singleton.mp hka5) rfl rfl rfl (Nat.le_of_ble_eq_true rfl) dX7_readCourt_10) rfl (fun u3 σ4 => ?_)
  refine r_aload_n (q := 14) dX7_readCourt_13 rfl rfl rfl ?_
  refine r_ob (fun a8 ha8 => ?_)
  obtain ⟨hea8, hka8⟩ := o_at_eq ha8
  cases hea8
  refine r_callL (q := 17) (c_X7_readFresh G h0 N _ _) (cl_V (ci := 6) rfl rfl (lw_V q2249 q2251 qs96 q176 q2252) (hd_X7_readFresh) ⟨Nat.le_of_ble_eq_true rfl, Nat.le_of_ble_eq_true rfl⟩ (List.mem_singleton.mp hka8) rfl rfl rfl (Nat.le_of_ble_eq_true rfl) dX7_readCourt_14) rfl (fun y6 σ7 => ?_)
  refine r_lstore_n (q := 18) dX7_readCourt_17 rfl rfl (Nat.le_of_ble_eq_true rfl) rfl ?_
  refine r_aload_n (q := 19) dX7_readCourt_18 rfl rfl rfl ?_
  refine r_ldcWS (q := 22) (tx := "costs") (cd := 54) (List.mem_of_getElem? (i := 56) rfl) (by decide) dX7_readCourt_19 rfl ?_
  refine r_iconst (q := 23) (v := (0 : Int32)) dX7_readCourt_22 rfl (by decide) ?_
  refine r_bipush (q := 25) (v := (99 : Int32)) dX7_readCourt_23 rfl (by decide) ?_
  refine r_ob (fun a11 ha11 => ?_)
  obtain ⟨hea11, hka11⟩ := o_at_eq ha11
  cases hea11
  refine r_callI (q := 28) (c_X7_readPart G h0 N _ _ _ _ _) (cl_V (ci := 6) rfl rfl (lw_V q2224 q2226 qs91 q176 q2227) (hd_X7_readPart) ⟨Nat.le_of_ble_eq_true rfl, Nat.le_of_ble_eq_true rfl⟩ (List.mem_singleton.mp hka11) rfl rfl rfl (Nat.le_of_ble_eq_true rfl) dX7_readCourt_25) rfl (fun x9 σ10 => ?_)
  refine r_istore_n (q := 29) dX7_readCourt_28 rfl rfl (Nat.le_of_ble_eq_true rfl) rfl ?_
  refine r_aload_n (q := 30) dX7_readCourt_29 rfl rfl rfl ?_
  refine r_ldcWS (q := 33) (tx := "wins") (cd := 56) (List.mem_of_getElem? (i := 57) rfl) (by decide) dX7_readCourt_30 rfl ?_
  refine r_iconst (q := 34) (v := (1 : Int32)) dX7_readCourt_33 rfl (by decide) ?_
  refine r_bipush (q := 36) (v := (9 : Int32)) dX7_readCourt_34 rfl (by decide) ?_
  refine r_ob (fun a14 ha14 => ?_)
  obtain ⟨hea14, hka14⟩ := o_at_eq ha14
  cases hea14
  refine r_callI (q := 39) (c_X7_readPart G h0 N _ _ _ _ _) (cl_V (ci := 6) rfl rfl (lw_V q2224 q2226 qs91 q176 q2227) (hd_X7_readPart) ⟨Nat.le_of_ble_eq_true rfl, Nat.le_of_ble_eq_true rfl⟩ (List.mem_singleton.mp hka14) rfl rfl rfl (Nat.le_of_ble_eq_true rfl) dX7_readCourt_36) rfl (fun x12 σ13 => ?_)
  refine r_istore (q := 41) dX7_readCourt_39 rfl (Nat.le_of_ble_eq_true rfl) rfl ?_
  refine r_aload_n (q := 42) dX7_readCourt_41 rfl rfl rfl ?_
  refine r_gI (q := 45) fl_X7_94 dX7_readCourt_42 rfl (fun x15 => ?_)
  refine r_iconst (q := 46) (v := (5 : Int32)) dX7_readCourt_45 rfl (by decide) ?_
  refine r_icmp_ne (q := 49) (t := 50) dX7_readCourt_46 rfl (by decide) (fun _ => ?_) (fun _ => ?_)
  · exact r_return rfl dX7_readCourt_49
  · refine r_aload_n (q := 51) dX7_readCourt_50 rfl rfl rfl ?_
    refine r_lload_n (q := 52) dX7_readCourt_51 rfl rfl rfl ?_
    refine r_iconst (q := 53) (v := (4 : Int32)) dX7_readCourt_52 rfl (by decide) ?_
    refine r_aload_n (q := 54) dX7_readCourt_53 rfl rfl rfl ?_
    refine r_gR (q := 57) fl_X7_192 rfl dX7_readCourt_54 rfl (fun x16 => ?_)
    refine r_gI (q := 60) fl_X7_419 dX7_readCourt_57 rfl (fun x17 => ?_)
    refine r_ob (fun a20 ha20 => ?_)
    obtain ⟨hea20, hka20⟩ := o_at_eq ha20
    cases hea20
    refine r_callV (q := 63) (c_X7_names G h0 N _ _ _ _ _) (cl_V (ci := 6) rfl rfl (lw_V q2284 q2286 qs100 q176 q2287) (hd_X7_names) ⟨Nat.le_of_ble_eq_true rfl, Nat.le_of_ble_eq_true rfl⟩ (List.mem_singleton.mp hka20) rfl rfl rfl (Nat.le_of_ble_eq_true rfl) dX7_readCourt_60) rfl (fun u18 σ19 => ?_)
    refine r_aload_n (q := 64) dX7_readCourt_63 rfl rfl rfl ?_
    refine r_gR (q := 67) fl_X7_192 rfl dX7_readCourt_64 rfl (fun x21 => ?_)
    refine r_gR (q := 70) fl_X7_426 rfl dX7_readCourt_67 rfl (fun x22 => ?_)
    refine r_aload_n (q := 71) dX7_readCourt_70 rfl rfl rfl ?_
    refine r_gR (q := 74) fl_X7_192 rfl dX7_readCourt_71 rfl (fun x23 => ?_)
    refine r_gI (q := 77) fl_X7_419 dX7_readCourt_74 rfl (fun x24 => ?_)
    refine r_iload_n (q := 78) dX7_readCourt_77 rfl rfl rfl ?_
    refine r_iastore (q := 79) dX7_readCourt_78 rfl (fun σ25 => ?_)
    refine r_aload_n (q := 80) dX7_readCourt_79 rfl rfl rfl ?_
    refine r_gR (q := 83) fl_X7_192 rfl dX7_readCourt_80 rfl (fun x26 => ?_)
    refine r_gR (q := 86) fl_X7_428 rfl dX7_readCourt_83 rfl (fun x27 => ?_)
    refine r_aload_n (q := 87) dX7_readCourt_86 rfl rfl rfl ?_
    refine r_gR (q := 90) fl_X7_192 rfl dX7_readCourt_87 rfl (fun x28 => ?_)
    refine r_gI (q := 93) fl_X7_419 dX7_readCourt_90 rfl (fun x29 => ?_)
    refine r_iload (q := 95) dX7_readCourt_93 rfl rfl ?_
    refine r_iastore (q := 96) dX7_readCourt_95 rfl (fun σ30 => ?_)
    refine r_aload_n (q := 97) dX7_readCourt_96 rfl rfl rfl ?_
    refine r_gR (q := 100) fl_X7_192 rfl dX7_readCourt_97 rfl (fun x31 => ?_)
    refine r_dup (q := 101) dX7_readCourt_100 rfl rfl ?_
    refine r_gI (q := 104) fl_X7_419 dX7_readCourt_101 rfl (fun x32 => ?_)
    refine r_iconst (q := 105) (v := (1 : Int32)) dX7_readCourt_104 rfl (by decide) ?_
    refine r_iadd (q := 106) dX7_readCourt_105 rfl ?_
    refine r_pI (q := 109) fp_X7_readCourt_419 dX7_readCourt_106 rfl (fun σ33 => ?_)
    exact r_return rfl dX7_readCourt_109
theorem c_X7_readCheese (G : Gx) (h0 : G0 G) (N : Nat) (a0 : Nat) (σ : Mem) : Ct G mX7_readCheese rhoV [vR (some a0)] σ (f_X7_readCheese N a0 σ) := by
  refine Ct_of h0 (by decide) rfl (Nat.le_of_ble_eq_true rfl) (L0 := [some (vR (some a0))]) rfl ?_
  unfold f_X7_readCheese
  refine r_aload_n (q := 1) dX7_readCheese_0 rfl rfl rfl ?_
  refine r_aload_n (q := 2) dX7_readCheese_1 rfl rfl rfl ?_
  refine r_gR (q := 5) fl_X7_192 rfl dX7_readCheese_2 rfl (fun x1 => ?_)
  refine r_gI (q := 8) fl_X7_430 dX7_readCheese_5 rfl (fun x2 => ?_)
  refine r_ob (fun a5 ha5 => ?_)
  obtain ⟨hea5, hka5⟩ := o_at_eq ha5
  cases hea5
  refine r_callV (q := 11) (c_X7_beginsOnce G h0 N _ _ _) (cl_V (ci := 6) rfl rfl (lw_V q2361 q2363 qs115 q176 q2364) (hd_X7_beginsOnce) ⟨Nat.le_of_ble_eq_true rfl, Nat.le_of_ble_eq_true rfl⟩ (List.mem_singleton.mp hka5) rfl rfl rfl (Nat.le_of_ble_eq_true rfl) dX7_readCheese_8) rfl (fun u3 σ4 => ?_)
  refine r_aload_n (q := 12) dX7_readCheese_11 rfl rfl rfl ?_
  refine r_aload_n (q := 13) dX7_readCheese_12 rfl rfl rfl ?_
  refine r_gR (q := 16) fl_X7_192 rfl dX7_readCheese_13 rfl (fun x6 => ?_)
  refine r_gR (q := 19) fl_X7_433 rfl dX7_readCheese_16 rfl (fun x7 => ?_)
  refine r_iconst (q := 20) (v := (0 : Int32)) dX7_readCheese_19 rfl (by decide) ?_
  refine r_bipush (q := 22) (v := (99 : Int32)) dX7_readCheese_20 rfl (by decide) ?_
  refine r_ob (fun a10 ha10 => ?_)
  obtain ⟨hea10, hka10⟩ := o_at_eq ha10
  cases hea10
  refine r_callV (q := 25) (c_X7_readPlants G h0 N _ _ _ _ _) (cl_V (ci := 6) rfl rfl (lw_V q2276 q2278 qs98 q176 q2279) (hd_X7_readPlants) ⟨Nat.le_of_ble_eq_true rfl, Nat.le_of_ble_eq_true rfl⟩ (List.mem_singleton.mp hka10) rfl rfl rfl (Nat.le_of_ble_eq_true rfl) dX7_readCheese_22) rfl (fun u8 σ9 => ?_)
  refine r_aload_n (q := 26) dX7_readCheese_25 rfl rfl rfl ?_
  refine r_gI (q := 29) fl_X7_94 dX7_readCheese_26 rfl (fun x11 => ?_)
  refine r_iconst (q := 30) (v := (5 : Int32)) dX7_readCheese_29 rfl (by decide) ?_
  refine r_icmp_eq (q := 33) (t := 41) dX7_readCheese_30 rfl (by decide) (fun _ => ?_) (fun _ => ?_)
  · exact r_return rfl dX7_readCheese_41
  · refine r_aload_n (q := 34) dX7_readCheese_33 rfl rfl rfl ?_
    refine r_gR (q := 37) fl_X7_192 rfl dX7_readCheese_34 rfl (fun x12 => ?_)
    refine r_iconst (q := 38) (v := (1 : Int32)) dX7_readCheese_37 rfl (by decide) ?_
    refine r_pI (q := 41) fp_X7_readCheese_430 dX7_readCheese_38 rfl (fun σ13 => ?_)
    exact r_return rfl dX7_readCheese_41
theorem c_X7_readLine (G : Gx) (h0 : G0 G) (N : Nat) (a0 : Nat) (σ : Mem) : Ct G mX7_readLine rhoV [vR (some a0)] σ (f_X7_readLine N a0 σ) := by
  refine Ct_of h0 (by decide) rfl (Nat.le_of_ble_eq_true rfl) (L0 := [some (vR (some a0))]) rfl ?_
  unfold f_X7_readLine
  refine r_aload_n (q := 1) dX7_readLine_0 rfl rfl rfl ?_
  refine r_ldcS (q := 3) (tx := "hill") (cd := 2) (List.mem_of_getElem? (i := 30) rfl) (by decide) dX7_readLine_1 rfl ?_
  refine r_ob (fun a3 ha3 => ?_)
  obtain ⟨hea3, hka3⟩ := o_at_eq ha3
  cases hea3
  refine r_callI (q := 6) (c_X7_isWord G h0 N _ _ _) (cl_V (ci := 6) rfl rfl (lw_V q2206 q2208 qs88 q176 q2209) (hd_X7_isWord) ⟨Nat.le_of_ble_eq_true rfl, Nat.le_of_ble_eq_true rfl⟩ (List.mem_singleton.mp hka3) rfl rfl rfl (Nat.le_of_ble_eq_true rfl) dX7_readLine_3) rfl (fun x1 σ2 => ?_)
  refine r_if_eq (q := 9) (t := 16) dX7_readLine_6 rfl (by decide) (fun _ => ?_) (fun _ => ?_)
  · refine r_aload_n (q := 17) dX7_readLine_16 rfl rfl rfl ?_
    refine r_ldcS (q := 19) (tx := "place") (cd := 4) (List.mem_of_getElem? (i := 33) rfl) (by decide) dX7_readLine_17 rfl ?_
    refine r_ob (fun a6 ha6 => ?_)
    obtain ⟨hea6, hka6⟩ := o_at_eq ha6
    cases hea6
    refine r_callI (q := 22) (c_X7_isWord G h0 N _ _ _) (cl_V (ci := 6) rfl rfl (lw_V q2206 q2208 qs88 q176 q2209) (hd_X7_isWord) ⟨Nat.le_of_ble_eq_true rfl, Nat.le_of_ble_eq_true rfl⟩ (List.mem_singleton.mp hka6) rfl rfl rfl (Nat.le_of_ble_eq_true rfl) dX7_readLine_19) rfl (fun x4 σ5 => ?_)
    refine r_if_eq (q := 25) (t := 32) dX7_readLine_22 rfl (by decide) (fun _ => ?_) (fun _ => ?_)
    · refine r_aload_n (q := 33) dX7_readLine_32 rfl rfl rfl ?_
      refine r_ldcS (q := 35) (tx := "path") (cd := 6) (List.mem_of_getElem? (i := 34) rfl) (by decide) dX7_readLine_33 rfl ?_
      refine r_ob (fun a9 ha9 => ?_)
      obtain ⟨hea9, hka9⟩ := o_at_eq ha9
      cases hea9
      refine r_callI (q := 38) (c_X7_isWord G h0 N _ _ _) (cl_V (ci := 6) rfl rfl (lw_V q2206 q2208 qs88 q176 q2209) (hd_X7_isWord) ⟨Nat.le_of_ble_eq_true rfl, Nat.le_of_ble_eq_true rfl⟩ (List.mem_singleton.mp hka9) rfl rfl rfl (Nat.le_of_ble_eq_true rfl) dX7_readLine_35) rfl (fun x7 σ8 => ?_)
      refine r_if_eq (q := 41) (t := 48) dX7_readLine_38 rfl (by decide) (fun _ => ?_) (fun _ => ?_)
      · refine r_aload_n (q := 49) dX7_readLine_48 rfl rfl rfl ?_
        refine r_ldcS (q := 51) (tx := "person") (cd := 8) (List.mem_of_getElem? (i := 35) rfl) (by decide) dX7_readLine_49 rfl ?_
        refine r_ob (fun a12 ha12 => ?_)
        obtain ⟨hea12, hka12⟩ := o_at_eq ha12
        cases hea12
        refine r_callI (q := 54) (c_X7_isWord G h0 N _ _ _) (cl_V (ci := 6) rfl rfl (lw_V q2206 q2208 qs88 q176 q2209) (hd_X7_isWord) ⟨Nat.le_of_ble_eq_true rfl, Nat.le_of_ble_eq_true rfl⟩ (List.mem_singleton.mp hka12) rfl rfl rfl (Nat.le_of_ble_eq_true rfl) dX7_readLine_51) rfl (fun x10 σ11 => ?_)
        refine r_if_eq (q := 57) (t := 64) dX7_readLine_54 rfl (by decide) (fun _ => ?_) (fun _ => ?_)
        · refine r_aload_n (q := 65) dX7_readLine_64 rfl rfl rfl ?_
          refine r_ldcS (q := 67) (tx := "story") (cd := 10) (List.mem_of_getElem? (i := 36) rfl) (by decide) dX7_readLine_65 rfl ?_
          refine r_ob (fun a15 ha15 => ?_)
          obtain ⟨hea15, hka15⟩ := o_at_eq ha15
          cases hea15
          refine r_callI (q := 70) (c_X7_isWord G h0 N _ _ _) (cl_V (ci := 6) rfl rfl (lw_V q2206 q2208 qs88 q176 q2209) (hd_X7_isWord) ⟨Nat.le_of_ble_eq_true rfl, Nat.le_of_ble_eq_true rfl⟩ (List.mem_singleton.mp hka15) rfl rfl rfl (Nat.le_of_ble_eq_true rfl) dX7_readLine_67) rfl (fun x13 σ14 => ?_)
          refine r_if_eq (q := 73) (t := 80) dX7_readLine_70 rfl (by decide) (fun _ => ?_) (fun _ => ?_)
          · refine r_aload_n (q := 81) dX7_readLine_80 rfl rfl rfl ?_
            refine r_ldcS (q := 83) (tx := "goat") (cd := 12) (List.mem_of_getElem? (i := 37) rfl) (by decide) dX7_readLine_81 rfl ?_
            refine r_ob (fun a18 ha18 => ?_)
            obtain ⟨hea18, hka18⟩ := o_at_eq ha18
            cases hea18
            refine r_callI (q := 86) (c_X7_isWord G h0 N _ _ _) (cl_V (ci := 6) rfl rfl (lw_V q2206 q2208 qs88 q176 q2209) (hd_X7_isWord) ⟨Nat.le_of_ble_eq_true rfl, Nat.le_of_ble_eq_true rfl⟩ (List.mem_singleton.mp hka18) rfl rfl rfl (Nat.le_of_ble_eq_true rfl) dX7_readLine_83) rfl (fun x16 σ17 => ?_)
            refine r_if_eq (q := 89) (t := 96) dX7_readLine_86 rfl (by decide) (fun _ => ?_) (fun _ => ?_)
            · refine r_aload_n (q := 97) dX7_readLine_96 rfl rfl rfl ?_
              refine r_ldcS (q := 99) (tx := "fears") (cd := 14) (List.mem_of_getElem? (i := 38) rfl) (by decide) dX7_readLine_97 rfl ?_
              refine r_ob (fun a21 ha21 => ?_)
              obtain ⟨hea21, hka21⟩ := o_at_eq ha21
              cases hea21
              refine r_callI (q := 102) (c_X7_isWord G h0 N _ _ _) (cl_V (ci := 6) rfl rfl (lw_V q2206 q2208 qs88 q176 q2209) (hd_X7_isWord) ⟨Nat.le_of_ble_eq_true rfl, Nat.le_of_ble_eq_true rfl⟩ (List.mem_singleton.mp hka21) rfl rfl rfl (Nat.le_of_ble_eq_true rfl) dX7_readLine_99) rfl (fun x19 σ20 => ?_)
              refine r_if_eq (q := 105) (t := 112) dX7_readLine_102 rfl (by decide) (fun _ => ?_) (fun _ => ?_)
              · refine r_aload_n (q := 113) dX7_readLine_112 rfl rfl rfl ?_
                refine r_ldcS (q := 115) (tx := "found") (cd := 16) (List.mem_of_getElem? (i := 39) rfl) (by decide) dX7_readLine_113 rfl ?_
                refine r_ob (fun a24 ha24 => ?_)
                obtain ⟨hea24, hka24⟩ := o_at_eq ha24
                cases hea24
                refine r_callI (q := 118) (c_X7_isWord G h0 N _ _ _) (cl_V (ci := 6) rfl rfl (lw_V q2206 q2208 qs88 q176 q2209) (hd_X7_isWord) ⟨Nat.le_of_ble_eq_true rfl, Nat.le_of_ble_eq_true rfl⟩ (List.mem_singleton.mp hka24) rfl rfl rfl (Nat.le_of_ble_eq_true rfl) dX7_readLine_115) rfl (fun x22 σ23 => ?_)
                refine r_if_eq (q := 121) (t := 129) dX7_readLine_118 rfl (by decide) (fun _ => ?_) (fun _ => ?_)
                · refine r_aload_n (q := 130) dX7_readLine_129 rfl rfl rfl ?_
                  refine r_ldcS (q := 132) (tx := "seen") (cd := 18) (List.mem_of_getElem? (i := 40) rfl) (by decide) dX7_readLine_130 rfl ?_
                  refine r_ob (fun a27 ha27 => ?_)
                  obtain ⟨hea27, hka27⟩ := o_at_eq ha27
                  cases hea27
                  refine r_callI (q := 135) (c_X7_isWord G h0 N _ _ _) (cl_V (ci := 6) rfl rfl (lw_V q2206 q2208 qs88 q176 q2209) (hd_X7_isWord) ⟨Nat.le_of_ble_eq_true rfl, Nat.le_of_ble_eq_true rfl⟩ (List.mem_singleton.mp hka27) rfl rfl rfl (Nat.le_of_ble_eq_true rfl) dX7_readLine_132) rfl (fun x25 σ26 => ?_)
                  refine r_if_eq (q := 138) (t := 146) dX7_readLine_135 rfl (by decide) (fun _ => ?_) (fun _ => ?_)
                  · refine r_aload_n (q := 147) dX7_readLine_146 rfl rfl rfl ?_
                    refine r_ldcS (q := 149) (tx := "shied") (cd := 20) (List.mem_of_getElem? (i := 41) rfl) (by decide) dX7_readLine_147 rfl ?_
                    refine r_ob (fun a30 ha30 => ?_)
                    obtain ⟨hea30, hka30⟩ := o_at_eq ha30
                    cases hea30
                    refine r_callI (q := 152) (c_X7_isWord G h0 N _ _ _) (cl_V (ci := 6) rfl rfl (lw_V q2206 q2208 qs88 q176 q2209) (hd_X7_isWord) ⟨Nat.le_of_ble_eq_true rfl, Nat.le_of_ble_eq_true rfl⟩ (List.mem_singleton.mp hka30) rfl rfl rfl (Nat.le_of_ble_eq_true rfl) dX7_readLine_149) rfl (fun x28 σ29 => ?_)
                    refine r_if_eq (q := 155) (t := 163) dX7_readLine_152 rfl (by decide) (fun _ => ?_) (fun _ => ?_)
                    · refine r_aload_n (q := 164) dX7_readLine_163 rfl rfl rfl ?_
                      refine r_ldcS (q := 166) (tx := "fact") (cd := 22) (List.mem_of_getElem? (i := 42) rfl) (by decide) dX7_readLine_164 rfl ?_
                      refine r_ob (fun a33 ha33 => ?_)
                      obtain ⟨hea33, hka33⟩ := o_at_eq ha33
                      cases hea33
                      refine r_callI (q := 169) (c_X7_isWord G h0 N _ _ _) (cl_V (ci := 6) rfl rfl (lw_V q2206 q2208 qs88 q176 q2209) (hd_X7_isWord) ⟨Nat.le_of_ble_eq_true rfl, Nat.le_of_ble_eq_true rfl⟩ (List.mem_singleton.mp hka33) rfl rfl rfl (Nat.le_of_ble_eq_true rfl) dX7_readLine_166) rfl (fun x31 σ32 => ?_)
                      refine r_if_eq (q := 172) (t := 179) dX7_readLine_169 rfl (by decide) (fun _ => ?_) (fun _ => ?_)
                      · refine r_aload_n (q := 180) dX7_readLine_179 rfl rfl rfl ?_
                        refine r_ldcS (q := 182) (tx := "holds") (cd := 24) (List.mem_of_getElem? (i := 43) rfl) (by decide) dX7_readLine_180 rfl ?_
                        refine r_ob (fun a36 ha36 => ?_)
                        obtain ⟨hea36, hka36⟩ := o_at_eq ha36
                        cases hea36
                        refine r_callI (q := 185) (c_X7_isWord G h0 N _ _ _) (cl_V (ci := 6) rfl rfl (lw_V q2206 q2208 qs88 q176 q2209) (hd_X7_isWord) ⟨Nat.le_of_ble_eq_true rfl, Nat.le_of_ble_eq_true rfl⟩ (List.mem_singleton.mp hka36) rfl rfl rfl (Nat.le_of_ble_eq_true rfl) dX7_readLine_182) rfl (fun x34 σ35 => ?_)
                        refine r_if_eq (q := 188) (t := 195) dX7_readLine_185 rfl (by decide) (fun _ => ?_) (fun _ => ?_)
                        · refine r_aload_n (q := 196) dX7_readLine_195 rfl rfl rfl ?_
                          refine r_ldcS (q := 198) (tx := "rule") (cd := 26) (List.mem_of_getElem? (i := 44) rfl) (by decide) dX7_readLine_196 rfl ?_
                          refine r_ob (fun a39 ha39 => ?_)
                          obtain ⟨hea39, hka39⟩ := o_at_eq ha39
                          cases hea39
                          refine r_callI (q := 201) (c_X7_isWord G h0 N _ _ _) (cl_V (ci := 6) rfl rfl (lw_V q2206 q2208 qs88 q176 q2209) (hd_X7_isWord) ⟨Nat.le_of_ble_eq_true rfl, Nat.le_of_ble_eq_true rfl⟩ (List.mem_singleton.mp hka39) rfl rfl rfl (Nat.le_of_ble_eq_true rfl) dX7_readLine_198) rfl (fun x37 σ38 => ?_)
                          refine r_if_eq (q := 204) (t := 211) dX7_readLine_201 rfl (by decide) (fun _ => ?_) (fun _ => ?_)
                          · refine r_aload_n (q := 212) dX7_readLine_211 rfl rfl rfl ?_
                            refine r_ldcS (q := 214) (tx := "proof") (cd := 28) (List.mem_of_getElem? (i := 45) rfl) (by decide) dX7_readLine_212 rfl ?_
                            refine r_ob (fun a42 ha42 => ?_)
                            obtain ⟨hea42, hka42⟩ := o_at_eq ha42
                            cases hea42
                            refine r_callI (q := 217) (c_X7_isWord G h0 N _ _ _) (cl_V (ci := 6) rfl rfl (lw_V q2206 q2208 qs88 q176 q2209) (hd_X7_isWord) ⟨Nat.le_of_ble_eq_true rfl, Nat.le_of_ble_eq_true rfl⟩ (List.mem_singleton.mp hka42) rfl rfl rfl (Nat.le_of_ble_eq_true rfl) dX7_readLine_214) rfl (fun x40 σ41 => ?_)
                            refine r_if_eq (q := 220) (t := 227) dX7_readLine_217 rfl (by decide) (fun _ => ?_) (fun _ => ?_)
                            · refine r_aload_n (q := 228) dX7_readLine_227 rfl rfl rfl ?_
                              refine r_ldcS (q := 230) (tx := "court") (cd := 30) (List.mem_of_getElem? (i := 46) rfl) (by decide) dX7_readLine_228 rfl ?_
                              refine r_ob (fun a45 ha45 => ?_)
                              obtain ⟨hea45, hka45⟩ := o_at_eq ha45
                              cases hea45
                              refine r_callI (q := 233) (c_X7_isWord G h0 N _ _ _) (cl_V (ci := 6) rfl rfl (lw_V q2206 q2208 qs88 q176 q2209) (hd_X7_isWord) ⟨Nat.le_of_ble_eq_true rfl, Nat.le_of_ble_eq_true rfl⟩ (List.mem_singleton.mp hka45) rfl rfl rfl (Nat.le_of_ble_eq_true rfl) dX7_readLine_230) rfl (fun x43 σ44 => ?_)
                              refine r_if_eq (q := 236) (t := 243) dX7_readLine_233 rfl (by decide) (fun _ => ?_) (fun _ => ?_)
                              · refine r_aload_n (q := 244) dX7_readLine_243 rfl rfl rfl ?_
                                refine r_ldcS (q := 246) (tx := "cheese") (cd := 32) (List.mem_of_getElem? (i := 47) rfl) (by decide) dX7_readLine_244 rfl ?_
                                refine r_ob (fun a48 ha48 => ?_)
                                obtain ⟨hea48, hka48⟩ := o_at_eq ha48
                                cases hea48
                                refine r_callI (q := 249) (c_X7_isWord G h0 N _ _ _) (cl_V (ci := 6) rfl rfl (lw_V q2206 q2208 qs88 q176 q2209) (hd_X7_isWord) ⟨Nat.le_of_ble_eq_true rfl, Nat.le_of_ble_eq_true rfl⟩ (List.mem_singleton.mp hka48) rfl rfl rfl (Nat.le_of_ble_eq_true rfl) dX7_readLine_246) rfl (fun x46 σ47 => ?_)
                                refine r_if_eq (q := 252) (t := 259) dX7_readLine_249 rfl (by decide) (fun _ => ?_) (fun _ => ?_)
                                · refine r_aload_n (q := 260) dX7_readLine_259 rfl rfl rfl ?_
                                  refine r_iconst (q := 261) (v := (1 : Int32)) dX7_readLine_260 rfl (by decide) ?_
                                  refine r_ob (fun a51 ha51 => ?_)
                                  obtain ⟨hea51, hka51⟩ := o_at_eq ha51
                                  cases hea51
                                  refine r_callV (q := 264) (c_X7_flaw G h0 N _ _ _) (cl_V (ci := 6) rfl rfl (lw_V q2219 q2221 qs90 q176 q2222) (hd_X7_flaw) ⟨Nat.le_of_ble_eq_true rfl, Nat.le_of_ble_eq_true rfl⟩ (List.mem_singleton.mp hka51) rfl rfl rfl (Nat.le_of_ble_eq_true rfl) dX7_readLine_261) rfl (fun u49 σ50 => ?_)
                                  exact r_return rfl dX7_readLine_264
                                · refine r_aload_n (q := 253) dX7_readLine_252 rfl rfl rfl ?_
                                  refine r_ob (fun a54 ha54 => ?_)
                                  obtain ⟨hea54, hka54⟩ := o_at_eq ha54
                                  cases hea54
                                  refine r_callV (q := 256) (c_X7_readCheese G h0 N _ _) (cl_V (ci := 6) rfl rfl (lw_V q2371 q2373 qs117 q176 q2374) (hd_X7_readCheese) ⟨Nat.le_of_ble_eq_true rfl, Nat.le_of_ble_eq_true rfl⟩ (List.mem_singleton.mp hka54) rfl rfl rfl (Nat.le_of_ble_eq_true rfl) dX7_readLine_253) rfl (fun u52 σ53 => ?_)
                                  refine r_goto (q := 264) dX7_readLine_256 (by decide) ?_
                                  exact r_return rfl dX7_readLine_264
                              · refine r_aload_n (q := 237) dX7_readLine_236 rfl rfl rfl ?_
                                refine r_ob (fun a57 ha57 => ?_)
                                obtain ⟨hea57, hka57⟩ := o_at_eq ha57
                                cases hea57
                                refine r_callV (q := 240) (c_X7_readCourt G h0 N _ _) (cl_V (ci := 6) rfl rfl (lw_V q2365 q2367 qs116 q176 q2368) (hd_X7_readCourt) ⟨Nat.le_of_ble_eq_true rfl, Nat.le_of_ble_eq_true rfl⟩ (List.mem_singleton.mp hka57) rfl rfl rfl (Nat.le_of_ble_eq_true rfl) dX7_readLine_237) rfl (fun u55 σ56 => ?_)
                                refine r_goto (q := 264) dX7_readLine_240 (by decide) ?_
                                exact r_return rfl dX7_readLine_264
                            · refine r_aload_n (q := 221) dX7_readLine_220 rfl rfl rfl ?_
                              refine r_ob (fun a60 ha60 => ?_)
                              obtain ⟨hea60, hka60⟩ := o_at_eq ha60
                              cases hea60
                              refine r_callV (q := 224) (c_X7_readProof G h0 N _ _) (cl_V (ci := 6) rfl rfl (lw_V q2357 q2359 qs114 q176 q2360) (hd_X7_readProof) ⟨Nat.le_of_ble_eq_true rfl, Nat.le_of_ble_eq_true rfl⟩ (List.mem_singleton.mp hka60) rfl rfl rfl (Nat.le_of_ble_eq_true rfl) dX7_readLine_221) rfl (fun u58 σ59 => ?_)
                              refine r_goto (q := 264) dX7_readLine_224 (by decide) ?_
                              exact r_return rfl dX7_readLine_264
                          · refine r_aload_n (q := 205) dX7_readLine_204 rfl rfl rfl ?_
                            refine r_ob (fun a63 ha63 => ?_)
                            obtain ⟨hea63, hka63⟩ := o_at_eq ha63
                            cases hea63
                            refine r_callV (q := 208) (c_X7_readRule G h0 N _ _) (cl_V (ci := 6) rfl rfl (lw_V q2350 q2352 qs113 q176 q2353) (hd_X7_readRule) ⟨Nat.le_of_ble_eq_true rfl, Nat.le_of_ble_eq_true rfl⟩ (List.mem_singleton.mp hka63) rfl rfl rfl (Nat.le_of_ble_eq_true rfl) dX7_readLine_205) rfl (fun u61 σ62 => ?_)
                            refine r_goto (q := 264) dX7_readLine_208 (by decide) ?_
                            exact r_return rfl dX7_readLine_264
                        · refine r_aload_n (q := 189) dX7_readLine_188 rfl rfl rfl ?_
                          refine r_ob (fun a66 ha66 => ?_)
                          obtain ⟨hea66, hka66⟩ := o_at_eq ha66
                          cases hea66
                          refine r_callV (q := 192) (c_X7_readHolds G h0 N _ _) (cl_V (ci := 6) rfl rfl (lw_V q2346 q2348 qs112 q176 q2349) (hd_X7_readHolds) ⟨Nat.le_of_ble_eq_true rfl, Nat.le_of_ble_eq_true rfl⟩ (List.mem_singleton.mp hka66) rfl rfl rfl (Nat.le_of_ble_eq_true rfl) dX7_readLine_189) rfl (fun u64 σ65 => ?_)
                          refine r_goto (q := 264) dX7_readLine_192 (by decide) ?_
                          exact r_return rfl dX7_readLine_264
                      · refine r_aload_n (q := 173) dX7_readLine_172 rfl rfl rfl ?_
                        refine r_ob (fun a69 ha69 => ?_)
                        obtain ⟨hea69, hka69⟩ := o_at_eq ha69
                        cases hea69
                        refine r_callV (q := 176) (c_X7_readFact G h0 N _ _) (cl_V (ci := 6) rfl rfl (lw_V q2342 q2344 qs111 q176 q2345) (hd_X7_readFact) ⟨Nat.le_of_ble_eq_true rfl, Nat.le_of_ble_eq_true rfl⟩ (List.mem_singleton.mp hka69) rfl rfl rfl (Nat.le_of_ble_eq_true rfl) dX7_readLine_173) rfl (fun u67 σ68 => ?_)
                        refine r_goto (q := 264) dX7_readLine_176 (by decide) ?_
                        exact r_return rfl dX7_readLine_264
                    · refine r_aload_n (q := 156) dX7_readLine_155 rfl rfl rfl ?_
                      refine r_iconst (q := 157) (v := (2 : Int32)) dX7_readLine_156 rfl (by decide) ?_
                      refine r_ob (fun a72 ha72 => ?_)
                      obtain ⟨hea72, hka72⟩ := o_at_eq ha72
                      cases hea72
                      refine r_callV (q := 160) (c_X7_readClue G h0 N _ _ _) (cl_V (ci := 6) rfl rfl (lw_V q2334 q2336 qs109 q176 q2337) (hd_X7_readClue) ⟨Nat.le_of_ble_eq_true rfl, Nat.le_of_ble_eq_true rfl⟩ (List.mem_singleton.mp hka72) rfl rfl rfl (Nat.le_of_ble_eq_true rfl) dX7_readLine_157) rfl (fun u70 σ71 => ?_)
                      refine r_goto (q := 264) dX7_readLine_160 (by decide) ?_
                      exact r_return rfl dX7_readLine_264
                  · refine r_aload_n (q := 139) dX7_readLine_138 rfl rfl rfl ?_
                    refine r_iconst (q := 140) (v := (1 : Int32)) dX7_readLine_139 rfl (by decide) ?_
                    refine r_ob (fun a75 ha75 => ?_)
                    obtain ⟨hea75, hka75⟩ := o_at_eq ha75
                    cases hea75
                    refine r_callV (q := 143) (c_X7_readClue G h0 N _ _ _) (cl_V (ci := 6) rfl rfl (lw_V q2334 q2336 qs109 q176 q2337) (hd_X7_readClue) ⟨Nat.le_of_ble_eq_true rfl, Nat.le_of_ble_eq_true rfl⟩ (List.mem_singleton.mp hka75) rfl rfl rfl (Nat.le_of_ble_eq_true rfl) dX7_readLine_140) rfl (fun u73 σ74 => ?_)
                    refine r_goto (q := 264) dX7_readLine_143 (by decide) ?_
                    exact r_return rfl dX7_readLine_264
                · refine r_aload_n (q := 122) dX7_readLine_121 rfl rfl rfl ?_
                  refine r_iconst (q := 123) (v := (0 : Int32)) dX7_readLine_122 rfl (by decide) ?_
                  refine r_ob (fun a78 ha78 => ?_)
                  obtain ⟨hea78, hka78⟩ := o_at_eq ha78
                  cases hea78
                  refine r_callV (q := 126) (c_X7_readClue G h0 N _ _ _) (cl_V (ci := 6) rfl rfl (lw_V q2334 q2336 qs109 q176 q2337) (hd_X7_readClue) ⟨Nat.le_of_ble_eq_true rfl, Nat.le_of_ble_eq_true rfl⟩ (List.mem_singleton.mp hka78) rfl rfl rfl (Nat.le_of_ble_eq_true rfl) dX7_readLine_123) rfl (fun u76 σ77 => ?_)
                  refine r_goto (q := 264) dX7_readLine_126 (by decide) ?_
                  exact r_return rfl dX7_readLine_264
              · refine r_aload_n (q := 106) dX7_readLine_105 rfl rfl rfl ?_
                refine r_ob (fun a81 ha81 => ?_)
                obtain ⟨hea81, hka81⟩ := o_at_eq ha81
                cases hea81
                refine r_callV (q := 109) (c_X7_readFears G h0 N _ _) (cl_V (ci := 6) rfl rfl (lw_V q2327 q2329 qs108 q176 q2330) (hd_X7_readFears) ⟨Nat.le_of_ble_eq_true rfl, Nat.le_of_ble_eq_true rfl⟩ (List.mem_singleton.mp hka81) rfl rfl rfl (Nat.le_of_ble_eq_true rfl) dX7_readLine_106) rfl (fun u79 σ80 => ?_)
                refine r_goto (q := 264) dX7_readLine_109 (by decide) ?_
                exact r_return rfl dX7_readLine_264
            · refine r_aload_n (q := 90) dX7_readLine_89 rfl rfl rfl ?_
              refine r_ob (fun a84 ha84 => ?_)
              obtain ⟨hea84, hka84⟩ := o_at_eq ha84
              cases hea84
              refine r_callV (q := 93) (c_X7_readGoat G h0 N _ _) (cl_V (ci := 6) rfl rfl (lw_V q2316 q2318 qs107 q176 q2319) (hd_X7_readGoat) ⟨Nat.le_of_ble_eq_true rfl, Nat.le_of_ble_eq_true rfl⟩ (List.mem_singleton.mp hka84) rfl rfl rfl (Nat.le_of_ble_eq_true rfl) dX7_readLine_90) rfl (fun u82 σ83 => ?_)
              refine r_goto (q := 264) dX7_readLine_93 (by decide) ?_
              exact r_return rfl dX7_readLine_264
          · refine r_aload_n (q := 74) dX7_readLine_73 rfl rfl rfl ?_
            refine r_ob (fun a87 ha87 => ?_)
            obtain ⟨hea87, hka87⟩ := o_at_eq ha87
            cases hea87
            refine r_callV (q := 77) (c_X7_readStory G h0 N _ _) (cl_V (ci := 6) rfl rfl (lw_V q2308 q2310 qs105 q176 q2311) (hd_X7_readStory) ⟨Nat.le_of_ble_eq_true rfl, Nat.le_of_ble_eq_true rfl⟩ (List.mem_singleton.mp hka87) rfl rfl rfl (Nat.le_of_ble_eq_true rfl) dX7_readLine_74) rfl (fun u85 σ86 => ?_)
            refine r_goto (q := 264) dX7_readLine_77 (by decide) ?_
            exact r_return rfl dX7_readLine_264
        · refine r_aload_n (q := 58) dX7_readLine_57 rfl rfl rfl ?_
          refine r_ob (fun a90 ha90 => ?_)
          obtain ⟨hea90, hka90⟩ := o_at_eq ha90
          cases hea90
          refine r_callV (q := 61) (c_X7_readPerson G h0 N _ _) (cl_V (ci := 6) rfl rfl (lw_V q2304 q2306 qs104 q176 q2307) (hd_X7_readPerson) ⟨Nat.le_of_ble_eq_true rfl, Nat.le_of_ble_eq_true rfl⟩ (List.mem_singleton.mp hka90) rfl rfl rfl (Nat.le_of_ble_eq_true rfl) dX7_readLine_58) rfl (fun u88 σ89 => ?_)
          refine r_goto (q := 264) dX7_readLine_61 (by decide) ?_
          exact r_return rfl dX7_readLine_264
      · refine r_aload_n (q := 42) dX7_readLine_41 rfl rfl rfl ?_
        refine r_ob (fun a93 ha93 => ?_)
        obtain ⟨hea93, hka93⟩ := o_at_eq ha93
        cases hea93
        refine r_callV (q := 45) (c_X7_readPath G h0 N _ _) (cl_V (ci := 6) rfl rfl (lw_V q2288 q2290 qs101 q176 q2291) (hd_X7_readPath) ⟨Nat.le_of_ble_eq_true rfl, Nat.le_of_ble_eq_true rfl⟩ (List.mem_singleton.mp hka93) rfl rfl rfl (Nat.le_of_ble_eq_true rfl) dX7_readLine_42) rfl (fun u91 σ92 => ?_)
        refine r_goto (q := 264) dX7_readLine_45 (by decide) ?_
        exact r_return rfl dX7_readLine_264
    · refine r_aload_n (q := 26) dX7_readLine_25 rfl rfl rfl ?_
      refine r_ob (fun a96 ha96 => ?_)
      obtain ⟨hea96, hka96⟩ := o_at_eq ha96
      cases hea96
      refine r_callV (q := 29) (c_X7_readPlace G h0 N _ _) (cl_V (ci := 6) rfl rfl (lw_V q2241 q2243 qs94 q176 q2244) (hd_X7_readPlace) ⟨Nat.le_of_ble_eq_true rfl, Nat.le_of_ble_eq_true rfl⟩ (List.mem_singleton.mp hka96) rfl rfl rfl (Nat.le_of_ble_eq_true rfl) dX7_readLine_26) rfl (fun u94 σ95 => ?_)
      refine r_goto (q := 264) dX7_readLine_29 (by decide) ?_
      exact r_return rfl dX7_readLine_264
  · refine r_aload_n (q := 10) dX7_readLine_9 rfl rfl rfl ?_
    refine r_ob (fun a99 ha99 => ?_)
    obtain ⟨hea99, hka99⟩ := o_at_eq ha99
    cases hea99
    refine r_callV (q := 13) (c_X7_readHill G h0 N _ _) (cl_V (ci := 6) rfl rfl (lw_V q2215 q2217 qs89 q176 q2218) (hd_X7_readHill) ⟨Nat.le_of_ble_eq_true rfl, Nat.le_of_ble_eq_true rfl⟩ (List.mem_singleton.mp hka99) rfl rfl rfl (Nat.le_of_ble_eq_true rfl) dX7_readLine_10) rfl (fun u97 σ98 => ?_)
    refine r_goto (q := 264) dX7_readLine_13 (by decide) ?_
    exact r_return rfl dX7_readLine_264
theorem w_X7_readAll_b33 (G : Gx) (h0 : G0 G) (N : Nat)   (a0 : Nat) (σ : Mem) : Runs G mX7_readAll rhoV σ 33 [some (vR (some a0)), none] [] (f_X7_readAll_b33 N  a0 σ) := by
  unfold f_X7_readAll_b33
  refine r_aload_n (q := 34) dX7_readAll_33 rfl rfl rfl ?_
  refine r_gR (q := 37) fl_X7_192 rfl dX7_readAll_34 rfl (fun x1 => ?_)
  refine r_gI (q := 40) fl_X7_241 dX7_readAll_37 rfl (fun x2 => ?_)
  refine r_if_ne (q := 43) (t := 49) dX7_readAll_40 rfl (by decide) (fun _ => ?_) (fun _ => ?_)
  · refine r_aload_n (q := 44) dX7_readAll_43 rfl rfl rfl ?_
    refine r_bipush (q := 46) (v := (6 : Int32)) dX7_readAll_44 rfl (by decide) ?_
    refine r_ob (fun a5 ha5 => ?_)
    obtain ⟨hea5, hka5⟩ := o_at_eq ha5
    cases hea5
    refine r_callV (q := 49) (c_X7_flaw G h0 N _ _ _) (cl_V (ci := 6) rfl rfl (lw_V q2219 q2221 qs90 q176 q2222) (hd_X7_flaw) ⟨Nat.le_of_ble_eq_true rfl, Nat.le_of_ble_eq_true rfl⟩ (List.mem_singleton.mp hka5) rfl rfl rfl (Nat.le_of_ble_eq_true rfl) dX7_readAll_46) rfl (fun u3 σ4 => ?_)
    exact r_return rfl dX7_readAll_49
  · exact r_return rfl dX7_readAll_49
theorem w_X7_readAll_b2B (G : Gx) (h0 : G0 G) (N : Nat)   (K2 : Nat → Int32 → Mem → Option (Unit × Mem)) (hK2 : ∀ (a0 : Nat) (l1 : Int32) (σ : Mem), Runs G mX7_readAll rhoV σ 2 [some (vR (some a0)), some (vI l1)] [] (K2 a0 l1 σ)) (a0 : Nat) (l1 : Int32) (σ : Mem) : Runs G mX7_readAll rhoV σ 2 [some (vR (some a0)), some (vI l1)] [] (f_X7_readAll_b2B N  K2 a0 l1 σ) := by
  unfold f_X7_readAll_b2B
  refine r_iload_n (q := 3) dX7_readAll_2 rfl rfl rfl ?_
  refine r_if_eq (q := 6) (t := 20) dX7_readAll_3 rfl (by decide) (fun _ => ?_) (fun _ => ?_)
  · refine r_aload_n (q := 21) dX7_readAll_20 rfl rfl rfl ?_
    refine r_gI (q := 24) fl_X7_94 dX7_readAll_21 rfl (fun x1 => ?_)
    refine r_iconst (q := 25) (v := (1 : Int32)) dX7_readAll_24 rfl (by decide) ?_
    refine r_icmp_eq (q := 28) (t := 33) dX7_readAll_25 rfl (by decide) (fun _ => ?_) (fun _ => ?_)
    · exact r_le (w_X7_readAll_b33 G h0 N _ _) (Nat.le_refl _) (And.intro rfl trivial)
    · refine r_aload_n (q := 29) dX7_readAll_28 rfl rfl rfl ?_
      refine r_iconst (q := 30) (v := (1 : Int32)) dX7_readAll_29 rfl (by decide) ?_
      refine r_ob (fun a4 ha4 => ?_)
      obtain ⟨hea4, hka4⟩ := o_at_eq ha4
      cases hea4
      refine r_callV (q := 33) (c_X7_flaw G h0 N _ _ _) (cl_V (ci := 6) rfl rfl (lw_V q2219 q2221 qs90 q176 q2222) (hd_X7_flaw) ⟨Nat.le_of_ble_eq_true rfl, Nat.le_of_ble_eq_true rfl⟩ (List.mem_singleton.mp hka4) rfl rfl rfl (Nat.le_of_ble_eq_true rfl) dX7_readAll_30) rfl (fun u2 σ3 => ?_)
      exact r_le (w_X7_readAll_b33 G h0 N _ _) (Nat.le_refl _) (And.intro rfl trivial)
  · refine r_aload_n (q := 7) dX7_readAll_6 rfl rfl rfl ?_
    refine r_ob (fun a7 ha7 => ?_)
    obtain ⟨hea7, hka7⟩ := o_at_eq ha7
    cases hea7
    refine r_callV (q := 10) (c_X7_readLine G h0 N _ _) (cl_V (ci := 6) rfl rfl (lw_V q2201 q2203 qs87 q176 q2204) (hd_X7_readLine) ⟨Nat.le_of_ble_eq_true rfl, Nat.le_of_ble_eq_true rfl⟩ (List.mem_singleton.mp hka7) rfl rfl rfl (Nat.le_of_ble_eq_true rfl) dX7_readAll_7) rfl (fun u5 σ6 => ?_)
    refine r_aload_n (q := 11) dX7_readAll_10 rfl rfl rfl ?_
    refine r_bipush (q := 13) (v := (59 : Int32)) dX7_readAll_11 rfl (by decide) ?_
    refine r_ob (fun a10 ha10 => ?_)
    obtain ⟨hea10, hka10⟩ := o_at_eq ha10
    cases hea10
    refine r_callI (q := 16) (c_X7_eatsSign G h0 N _ _ _) (cl_V (ci := 6) rfl rfl (lw_V q2312 q2314 qs106 q176 q2315) (hd_X7_eatsSign) ⟨Nat.le_of_ble_eq_true rfl, Nat.le_of_ble_eq_true rfl⟩ (List.mem_singleton.mp hka10) rfl rfl rfl (Nat.le_of_ble_eq_true rfl) dX7_readAll_13) rfl (fun x8 σ9 => ?_)
    refine r_istore_n (q := 17) dX7_readAll_16 rfl rfl (Nat.le_of_ble_eq_true rfl) rfl ?_
    refine r_goto (q := 2) dX7_readAll_17 (by decide) ?_
    exact r_le (hK2 _ _ _) (Nat.le_refl _) (And.intro rfl (And.intro rfl trivial))
theorem w_X7_readAll_b2 (G : Gx) (h0 : G0 G) (N : Nat)   : ∀ (z : Nat) (a0 : Nat) (l1 : Int32) (σ : Mem), Runs G mX7_readAll rhoV σ 2 [some (vR (some a0)), some (vI l1)] [] (f_X7_readAll_b2 N  z a0 l1 σ) := by
  intro z
  induction z with
  | zero => exact fun _ _ _ => r_none
  | succ z ih => exact fun a0 l1 σ => w_X7_readAll_b2B G h0 N   _ ih a0 l1 σ
theorem c_X7_readAll (G : Gx) (h0 : G0 G) (N : Nat) (a0 : Nat) (σ : Mem) : Ct G mX7_readAll rhoV [vR (some a0)] σ (f_X7_readAll N a0 σ) := by
  refine Ct_of h0 (by decide) rfl (Nat.le_of_ble_eq_true rfl) (L0 := [some (vR (some a0)), none]) rfl ?_
  unfold f_X7_readAll
  refine r_iconst (q := 1) (v := (1 : Int32)) dX7_readAll_0 rfl (by decide) ?_
  refine r_istore_n (q := 2) dX7_readAll_1 rfl rfl (Nat.le_of_ble_eq_true rfl) rfl ?_
  exact r_le (w_X7_readAll_b2 G h0 N N _ _ _) (Nat.le_refl _) (And.intro rfl (And.intro rfl trivial))
theorem w_X24_cases_b32 (G : Gx) (h0 : G0 G) (N : Nat) (K4 : Nat → Int32 → Int32 → Mem → Option (Int32 × Mem)) (hK4 : ∀ (a0 : Nat) (l1 : Int32) (l2 : Int32) (σ : Mem), Runs G mX24_cases rhoI σ 4 [some (vR (some a0)), some (vI l1), some (vI l2)] [] (K4 a0 l1 l2 σ)) (a0 : Nat) (l2 : Int32) (t0 : Int32) (t1 : Int32) (σ : Mem) : Runs G mX24_cases rhoI σ 32 [some (vR (some a0)), none, some (vI l2)] [vI t1, vI t0] (f_X24_cases_b32 N K4 a0 l2 t0 t1 σ) := by
  unfold f_X24_cases_b32
  refine r_imul (q := 33) dX24_cases_32 rfl ?_
  refine r_istore_n (q := 34) dX24_cases_33 rfl rfl (Nat.le_of_ble_eq_true rfl) rfl ?_
  refine r_iinc (q := 37) (v := (1 : Int32)) dX24_cases_34 rfl rfl (by decide) (Nat.le_of_ble_eq_true rfl) rfl ?_
  refine r_goto (q := 4) dX24_cases_37 (by decide) ?_
  exact r_le (hK4 _ _ _ _) (Nat.le_refl _) (And.intro rfl (And.intro rfl (And.intro rfl trivial)))
theorem w_X24_cases_b4B (G : Gx) (h0 : G0 G) (N : Nat)   (K4 : Nat → Int32 → Int32 → Mem → Option (Int32 × Mem)) (hK4 : ∀ (a0 : Nat) (l1 : Int32) (l2 : Int32) (σ : Mem), Runs G mX24_cases rhoI σ 4 [some (vR (some a0)), some (vI l1), some (vI l2)] [] (K4 a0 l1 l2 σ)) (a0 : Nat) (l1 : Int32) (l2 : Int32) (σ : Mem) : Runs G mX24_cases rhoI σ 4 [some (vR (some a0)), some (vI l1), some (vI l2)] [] (f_X24_cases_b4B N  K4 a0 l1 l2 σ) := by
  unfold f_X24_cases_b4B
  refine r_iload_n (q := 5) dX24_cases_4 rfl rfl rfl ?_
  refine r_aload_n (q := 6) dX24_cases_5 rfl rfl rfl ?_
  refine r_gI (q := 9) fl_X24_95 dX24_cases_6 rfl (fun x1 => ?_)
  refine r_icmp_ge (q := 12) (t := 40) dX24_cases_9 rfl (by decide) (fun _ => ?_) (fun _ => ?_)
  · refine r_iload_n (q := 41) dX24_cases_40 rfl rfl rfl ?_
    exact r_ireturn rfl rfl dX24_cases_41
  · refine r_iload_n (q := 13) dX24_cases_12 rfl rfl rfl ?_
    refine r_aload_n (q := 14) dX24_cases_13 rfl rfl rfl ?_
    refine r_gR (q := 17) fl_X24_21 rfl dX24_cases_14 rfl (fun x2 => ?_)
    refine r_iload_n (q := 18) dX24_cases_17 rfl rfl rfl ?_
    refine r_iaload (q := 19) dX24_cases_18 rfl (fun x3 => ?_)
    refine r_if_le (q := 22) (t := 31) dX24_cases_19 rfl (by decide) (fun _ => ?_) (fun _ => ?_)
    · refine r_iconst (q := 32) (v := (1 : Int32)) dX24_cases_31 rfl (by decide) ?_
      exact r_le (w_X24_cases_b32 G h0 N K4 hK4 _ _ _ _ _) (Nat.le_refl _) (And.intro rfl (And.intro rfl trivial))
    · refine r_aload_n (q := 23) dX24_cases_22 rfl rfl rfl ?_
      refine r_gR (q := 26) fl_X24_21 rfl dX24_cases_23 rfl (fun x4 => ?_)
      refine r_iload_n (q := 27) dX24_cases_26 rfl rfl rfl ?_
      refine r_iaload (q := 28) dX24_cases_27 rfl (fun x5 => ?_)
      refine r_goto (q := 32) dX24_cases_28 (by decide) ?_
      exact r_le (w_X24_cases_b32 G h0 N K4 hK4 _ _ _ _ _) (Nat.le_refl _) (And.intro rfl (And.intro rfl trivial))
theorem w_X24_cases_b4 (G : Gx) (h0 : G0 G) (N : Nat)   : ∀ (z : Nat) (a0 : Nat) (l1 : Int32) (l2 : Int32) (σ : Mem), Runs G mX24_cases rhoI σ 4 [some (vR (some a0)), some (vI l1), some (vI l2)] [] (f_X24_cases_b4 N  z a0 l1 l2 σ) := by
  intro z
  induction z with
  | zero => exact fun _ _ _ _ => r_none
  | succ z ih => exact fun a0 l1 l2 σ => w_X24_cases_b4B G h0 N   _ ih a0 l1 l2 σ
theorem c_X24_cases (G : Gx) (h0 : G0 G) (N : Nat) (a0 : Nat) (σ : Mem) : Ct G mX24_cases rhoI [vR (some a0)] σ (f_X24_cases N a0 σ) := by
  refine Ct_of h0 (by decide) rfl (Nat.le_of_ble_eq_true rfl) (L0 := [some (vR (some a0)), none, none]) rfl ?_
  unfold f_X24_cases
  refine r_iconst (q := 1) (v := (1 : Int32)) dX24_cases_0 rfl (by decide) ?_
  refine r_istore_n (q := 2) dX24_cases_1 rfl rfl (Nat.le_of_ble_eq_true rfl) rfl ?_
  refine r_iconst (q := 3) (v := (0 : Int32)) dX24_cases_2 rfl (by decide) ?_
  refine r_istore_n (q := 4) dX24_cases_3 rfl rfl (Nat.le_of_ble_eq_true rfl) rfl ?_
  exact r_le (w_X24_cases_b4 G h0 N N _ _ _ _) (Nat.le_refl _) (And.intro rfl (And.intro rfl (And.intro rfl trivial)))
theorem c_X7_good (G : Gx) (h0 : G0 G) (N : Nat) (a0 : Nat) (i1 : Int32) (σ : Mem) : Ct G mX7_good rhoI [vR (some a0), vI i1] σ (f_X7_good N a0 i1 σ) := by
  refine Ct_of h0 (by decide) rfl (Nat.le_of_ble_eq_true rfl) (L0 := [some (vR (some a0)), some (vI i1)]) rfl ?_
  unfold f_X7_good
  refine r_aload_n (q := 1) dX7_good_0 rfl rfl rfl ?_
  refine r_iconst (q := 2) (v := (0 : Int32)) dX7_good_1 rfl (by decide) ?_
  refine r_pI (q := 5) fp_X7_good_69 dX7_good_2 rfl (fun σ1 => ?_)
  refine r_aload_n (q := 6) dX7_good_5 rfl rfl rfl ?_
  refine r_iconst (q := 7) (v := (-1 : Int32)) dX7_good_6 rfl (by decide) ?_
  refine r_pI (q := 10) fp_X7_good_9 dX7_good_7 rfl (fun σ2 => ?_)
  refine r_iload_n (q := 11) dX7_good_10 rfl rfl rfl ?_
  exact r_ireturn rfl rfl dX7_good_11
theorem w_X7_hill_b17 (G : Gx) (h0 : G0 G) (N : Nat)   (a0 : Nat) (σ : Mem) : Runs G mX7_hill rhoI σ 17 [some (vR (some a0)), none, none] [] (f_X7_hill_b17 N  a0 σ) := by
  unfold f_X7_hill_b17
  refine r_aload_n (q := 18) dX7_hill_17 rfl rfl rfl ?_
  refine r_iconst (q := 19) (v := (2 : Int32)) dX7_hill_18 rfl (by decide) ?_
  refine r_ob (fun a3 ha3 => ?_)
  obtain ⟨hea3, hka3⟩ := o_at_eq ha3
  cases hea3
  refine r_callI (q := 22) (c_X7_refused G h0 N _ _ _) (cl_V (ci := 6) rfl rfl (lw_V q2019 q2021 qs83 q176 q2022) (hd_X7_refused) ⟨Nat.le_of_ble_eq_true rfl, Nat.le_of_ble_eq_true rfl⟩ (List.mem_singleton.mp hka3) rfl rfl rfl (Nat.le_of_ble_eq_true rfl) dX7_hill_19) rfl (fun x1 σ2 => ?_)
  exact r_ireturn rfl rfl dX7_hill_22
theorem w_X7_hill_b99B (G : Gx) (h0 : G0 G) (N : Nat)   (K99 : Nat → Int32 → Mem → Option (Int32 × Mem)) (hK99 : ∀ (a0 : Nat) (l2 : Int32) (σ : Mem), Runs G mX7_hill rhoI σ 99 [some (vR (some a0)), none, some (vI l2)] [] (K99 a0 l2 σ)) (a0 : Nat) (l2 : Int32) (σ : Mem) : Runs G mX7_hill rhoI σ 99 [some (vR (some a0)), none, some (vI l2)] [] (f_X7_hill_b99B N  K99 a0 l2 σ) := by
  unfold f_X7_hill_b99B
  refine r_iload_n (q := 100) dX7_hill_99 rfl rfl rfl ?_
  refine r_bipush (q := 102) (v := (18 : Int32)) dX7_hill_100 rfl (by decide) ?_
  refine r_icmp_ge (q := 105) (t := 118) dX7_hill_102 rfl (by decide) (fun _ => ?_) (fun _ => ?_)
  · refine r_aload_n (q := 119) dX7_hill_118 rfl rfl rfl ?_
    refine r_gR (q := 122) fl_X7_21 rfl dX7_hill_119 rfl (fun x1 => ?_)
    refine r_bipush (q := 124) (v := (17 : Int32)) dX7_hill_122 rfl (by decide) ?_
    refine r_bipush (q := 126) (v := (63 : Int32)) dX7_hill_124 rfl (by decide) ?_
    refine r_iastore (q := 127) dX7_hill_126 rfl (fun σ2 => ?_)
    refine r_aload_n (q := 128) dX7_hill_127 rfl rfl rfl ?_
    refine r_iconst (q := 129) (v := (0 : Int32)) dX7_hill_128 rfl (by decide) ?_
    refine r_pI (q := 132) fp_X7_hill_444 dX7_hill_129 rfl (fun σ3 => ?_)
    refine r_aload_n (q := 133) dX7_hill_132 rfl rfl rfl ?_
    refine r_iconst (q := 134) (v := (0 : Int32)) dX7_hill_133 rfl (by decide) ?_
    refine r_pI (q := 137) fp_X7_hill_447 dX7_hill_134 rfl (fun σ4 => ?_)
    refine r_aload_n (q := 138) dX7_hill_137 rfl rfl rfl ?_
    refine r_aload_n (q := 139) dX7_hill_138 rfl rfl rfl ?_
    refine r_gR (q := 142) fl_X7_442 rfl dX7_hill_139 rfl (fun x5 => ?_)
    refine r_ob (fun a8 ha8 => ?_)
    obtain ⟨hea8, hka8⟩ := o_at_eq ha8
    cases hea8
    refine r_callI (q := 145) (c_X24_cases G h0 N _ _) (cl_V (ci := 20) rfl rfl (lw_V q2375 q2376 q2377 q199 q2378) (hd_X24_cases) ⟨Nat.le_of_ble_eq_true rfl, Nat.le_of_ble_eq_true rfl⟩ (List.mem_singleton.mp hka8) rfl rfl rfl (Nat.le_of_ble_eq_true rfl) dX7_hill_142) rfl (fun x6 σ7 => ?_)
    refine r_ob (fun a11 ha11 => ?_)
    obtain ⟨hea11, hka11⟩ := o_at_eq ha11
    cases hea11
    refine r_callI (q := 148) (c_X7_good G h0 N _ _ _) (cl_V (ci := 6) rfl rfl (lw_V q2379 q2381 qs118 q176 q2382) (hd_X7_good) ⟨Nat.le_of_ble_eq_true rfl, Nat.le_of_ble_eq_true rfl⟩ (List.mem_singleton.mp hka11) rfl rfl rfl (Nat.le_of_ble_eq_true rfl) dX7_hill_145) rfl (fun x9 σ10 => ?_)
    exact r_ireturn rfl rfl dX7_hill_148
  · refine r_aload_n (q := 106) dX7_hill_105 rfl rfl rfl ?_
    refine r_gR (q := 109) fl_X7_21 rfl dX7_hill_106 rfl (fun x12 => ?_)
    refine r_iload_n (q := 110) dX7_hill_109 rfl rfl rfl ?_
    refine r_iconst (q := 111) (v := (0 : Int32)) dX7_hill_110 rfl (by decide) ?_
    refine r_iastore (q := 112) dX7_hill_111 rfl (fun σ13 => ?_)
    refine r_iinc (q := 115) (v := (1 : Int32)) dX7_hill_112 rfl rfl (by decide) (Nat.le_of_ble_eq_true rfl) rfl ?_
    refine r_goto (q := 99) dX7_hill_115 (by decide) ?_
    exact r_le (hK99 _ _ _) (Nat.le_refl _) (And.intro rfl (And.intro rfl trivial))
theorem w_X7_hill_b99 (G : Gx) (h0 : G0 G) (N : Nat)   : ∀ (z : Nat) (a0 : Nat) (l2 : Int32) (σ : Mem), Runs G mX7_hill rhoI σ 99 [some (vR (some a0)), none, some (vI l2)] [] (f_X7_hill_b99 N  z a0 l2 σ) := by
  intro z
  induction z with
  | zero => exact fun _ _ _ => r_none
  | succ z ih => exact fun a0 l2 σ => w_X7_hill_b99B G h0 N   _ ih a0 l2 σ
theorem c_X7_hill (G : Gx) (h0 : G0 G) (N : Nat) (a0 : Nat) (i1 : Int32) (σ : Mem) : Ct G mX7_hill rhoI [vR (some a0), vI i1] σ (f_X7_hill N a0 i1 σ) := by
  refine Ct_of h0 (by decide) rfl (Nat.le_of_ble_eq_true rfl) (L0 := [some (vR (some a0)), some (vI i1), none]) rfl ?_
  unfold f_X7_hill
  refine r_aload_n (q := 1) dX7_hill_0 rfl rfl rfl ?_
  refine r_iconst (q := 2) (v := (0 : Int32)) dX7_hill_1 rfl (by decide) ?_
  refine r_pI (q := 5) fp_X7_hill_66 dX7_hill_2 rfl (fun σ1 => ?_)
  refine r_iload_n (q := 6) dX7_hill_5 rfl rfl rfl ?_
  refine r_if_lt (q := 9) (t := 17) dX7_hill_6 rfl (by decide) (fun _ => ?_) (fun _ => ?_)
  · exact r_le (w_X7_hill_b17 G h0 N _ _) (Nat.le_refl _) (And.intro rfl trivial)
  · refine r_iload_n (q := 10) dX7_hill_9 rfl rfl rfl ?_
    refine r_aload_n (q := 11) dX7_hill_10 rfl rfl rfl ?_
    refine r_gI (q := 14) fl_X7_435 dX7_hill_11 rfl (fun x2 => ?_)
    refine r_icmp_le (q := 17) (t := 23) dX7_hill_14 rfl (by decide) (fun _ => ?_) (fun _ => ?_)
    · refine r_aload_n (q := 24) dX7_hill_23 rfl rfl rfl ?_
      refine r_iload_n (q := 25) dX7_hill_24 rfl rfl rfl ?_
      refine r_pI (q := 28) fp_X7_hill_79 dX7_hill_25 rfl (fun σ3 => ?_)
      refine r_aload_n (q := 29) dX7_hill_28 rfl rfl rfl ?_
      refine r_iconst (q := 30) (v := (0 : Int32)) dX7_hill_29 rfl (by decide) ?_
      refine r_pI (q := 33) fp_X7_hill_435 dX7_hill_30 rfl (fun σ4 => ?_)
      refine r_aload_n (q := 34) dX7_hill_33 rfl rfl rfl ?_
      refine r_iconst (q := 35) (v := (0 : Int32)) dX7_hill_34 rfl (by decide) ?_
      refine r_pI (q := 38) fp_X7_hill_97 dX7_hill_35 rfl (fun σ5 => ?_)
      refine r_aload_n (q := 39) dX7_hill_38 rfl rfl rfl ?_
      refine r_iconst (q := 40) (v := (0 : Int32)) dX7_hill_39 rfl (by decide) ?_
      refine r_pI (q := 43) fp_X7_hill_126 dX7_hill_40 rfl (fun σ6 => ?_)
      refine r_aload_n (q := 44) dX7_hill_43 rfl rfl rfl ?_
      refine r_new (q := 47) (ci := 20) rfl rfl q2023 q2024 q199 dX7_hill_44 rfl (fun a7 σ8 => ?_)
      refine r_dup (q := 48) dX7_hill_47 rfl rfl ?_
      refine r_callV (q := 51) (c_X24_init G h0 N _ _) (cl_IN rfl rfl rfl rfl q2025 q2026 q199 q2027 (hd_X24_init) ⟨Nat.le_of_ble_eq_true rfl, Nat.le_of_ble_eq_true rfl⟩ rfl (Nat.le_of_ble_eq_true rfl) dX7_hill_48) rfl (fun u9 σ10 => ?_)
      refine r_pR (q := 54) fp_X7_hill_192 rfl dX7_hill_51 rfl (fun σ11 => ?_)
      refine r_aload_n (q := 55) dX7_hill_54 rfl rfl rfl ?_
      refine r_iconst (q := 56) (v := (0 : Int32)) dX7_hill_55 rfl (by decide) ?_
      refine r_pI (q := 59) fp_X7_hill_94 dX7_hill_56 rfl (fun σ12 => ?_)
      refine r_aload_n (q := 60) dX7_hill_59 rfl rfl rfl ?_
      refine r_ob (fun a15 ha15 => ?_)
      obtain ⟨hea15, hka15⟩ := o_at_eq ha15
      cases hea15
      refine r_callV (q := 63) (c_X7_goesOn G h0 N _ _) (cl_V (ci := 6) rfl rfl (lw_V q2182 q2184 qs84 q176 q2185) (hd_X7_goesOn) ⟨Nat.le_of_ble_eq_true rfl, Nat.le_of_ble_eq_true rfl⟩ (List.mem_singleton.mp hka15) rfl rfl rfl (Nat.le_of_ble_eq_true rfl) dX7_hill_60) rfl (fun u13 σ14 => ?_)
      refine r_aload_n (q := 64) dX7_hill_63 rfl rfl rfl ?_
      refine r_ob (fun a18 ha18 => ?_)
      obtain ⟨hea18, hka18⟩ := o_at_eq ha18
      cases hea18
      refine r_callV (q := 67) (c_X7_readAll G h0 N _ _) (cl_V (ci := 6) rfl rfl (lw_V q2197 q2199 qs86 q176 q2200) (hd_X7_readAll) ⟨Nat.le_of_ble_eq_true rfl, Nat.le_of_ble_eq_true rfl⟩ (List.mem_singleton.mp hka18) rfl rfl rfl (Nat.le_of_ble_eq_true rfl) dX7_hill_64) rfl (fun u16 σ17 => ?_)
      refine r_aload_n (q := 68) dX7_hill_67 rfl rfl rfl ?_
      refine r_gI (q := 71) fl_X7_126 dX7_hill_68 rfl (fun x19 => ?_)
      refine r_if_le (q := 74) (t := 89) dX7_hill_71 rfl (by decide) (fun _ => ?_) (fun _ => ?_)
      · refine r_aload_n (q := 90) dX7_hill_89 rfl rfl rfl ?_
        refine r_aload_n (q := 91) dX7_hill_90 rfl rfl rfl ?_
        refine r_gR (q := 94) fl_X7_192 rfl dX7_hill_91 rfl (fun x20 => ?_)
        refine r_pR (q := 97) fp_X7_hill_442 rfl dX7_hill_94 rfl (fun σ21 => ?_)
        refine r_iconst (q := 98) (v := (0 : Int32)) dX7_hill_97 rfl (by decide) ?_
        refine r_istore_n (q := 99) dX7_hill_98 rfl rfl (Nat.le_of_ble_eq_true rfl) rfl ?_
        exact r_le (w_X7_hill_b99 G h0 N N _ _ _) (Nat.le_refl _) (And.intro rfl (And.intro rfl trivial))
      · refine r_aload_n (q := 75) dX7_hill_74 rfl rfl rfl ?_
        refine r_iconst (q := 76) (v := (4 : Int32)) dX7_hill_75 rfl (by decide) ?_
        refine r_pI (q := 79) fp_X7_hill_69 dX7_hill_76 rfl (fun σ22 => ?_)
        refine r_aload_n (q := 80) dX7_hill_79 rfl rfl rfl ?_
        refine r_aload_n (q := 81) dX7_hill_80 rfl rfl rfl ?_
        refine r_gI (q := 84) fl_X7_129 dX7_hill_81 rfl (fun x23 => ?_)
        refine r_pI (q := 87) fp_X7_hill_9 dX7_hill_84 rfl (fun σ24 => ?_)
        refine r_iconst (q := 88) (v := (-1 : Int32)) dX7_hill_87 rfl (by decide) ?_
        exact r_ireturn rfl rfl dX7_hill_88
    · exact r_le (w_X7_hill_b17 G h0 N _ _) (Nat.le_refl _) (And.intro rfl trivial)
theorem c_X1_fault (G : Gx) (h0 : G0 G) (N : Nat) (a0 : Nat) (σ : Mem) : Ct G mX1_fault rhoI [vR (some a0)] σ (f_X1_fault N a0 σ) := by
  refine Ct_of h0 (by decide) rfl (Nat.le_of_ble_eq_true rfl) (L0 := [some (vR (some a0))]) rfl ?_
  unfold f_X1_fault
  refine r_aload_n (q := 1) dX1_fault_0 rfl rfl rfl ?_
  refine r_gI (q := 4) fl_X1_97 dX1_fault_1 rfl (fun x1 => ?_)
  exact r_ireturn rfl rfl dX1_fault_4
theorem c_X7_fault (G : Gx) (h0 : G0 G) (N : Nat) (a0 : Nat) (σ : Mem) : Ct G mX7_fault rhoI [vR (some a0)] σ (f_X7_fault N a0 σ) := by
  refine Ct_of h0 (by decide) rfl (Nat.le_of_ble_eq_true rfl) (L0 := [some (vR (some a0))]) rfl ?_
  unfold f_X7_fault
  refine r_aload_n (q := 1) dX7_fault_0 rfl rfl rfl ?_
  refine r_iconst (q := 2) (v := (0 : Int32)) dX7_fault_1 rfl (by decide) ?_
  refine r_pI (q := 5) fp_X7_fault_66 dX7_fault_2 rfl (fun σ1 => ?_)
  refine r_aload_n (q := 6) dX7_fault_5 rfl rfl rfl ?_
  refine r_gI (q := 9) fl_X7_126 dX7_fault_6 rfl (fun x2 => ?_)
  exact r_ireturn rfl rfl dX7_fault_9
theorem c_X1_where (G : Gx) (h0 : G0 G) (N : Nat) (a0 : Nat) (σ : Mem) : Ct G mX1_where rhoI [vR (some a0)] σ (f_X1_where N a0 σ) := by
  refine Ct_of h0 (by decide) rfl (Nat.le_of_ble_eq_true rfl) (L0 := [some (vR (some a0))]) rfl ?_
  unfold f_X1_where
  refine r_aload_n (q := 1) dX1_where_0 rfl rfl rfl ?_
  refine r_gI (q := 4) fl_X1_77 dX1_where_1 rfl (fun x1 => ?_)
  refine r_iconst (q := 5) (v := (4 : Int32)) dX1_where_4 rfl (by decide) ?_
  refine r_icmp_ne (q := 8) (t := 15) dX1_where_5 rfl (by decide) (fun _ => ?_) (fun _ => ?_)
  · refine r_aload_n (q := 9) dX1_where_8 rfl rfl rfl ?_
    refine r_gI (q := 12) fl_X1_26 dX1_where_9 rfl (fun x2 => ?_)
    refine r_goto (q := 16) dX1_where_12 (by decide) ?_
    exact r_ireturn rfl rfl dX1_where_16
  · refine r_iconst (q := 16) (v := (-1 : Int32)) dX1_where_15 rfl (by decide) ?_
    exact r_ireturn rfl rfl dX1_where_16
theorem c_X7_where (G : Gx) (h0 : G0 G) (N : Nat) (a0 : Nat) (σ : Mem) : Ct G mX7_where rhoI [vR (some a0)] σ (f_X7_where N a0 σ) := by
  refine Ct_of h0 (by decide) rfl (Nat.le_of_ble_eq_true rfl) (L0 := [some (vR (some a0))]) rfl ?_
  unfold f_X7_where
  refine r_aload_n (q := 1) dX7_where_0 rfl rfl rfl ?_
  refine r_iconst (q := 2) (v := (0 : Int32)) dX7_where_1 rfl (by decide) ?_
  refine r_pI (q := 5) fp_X7_where_66 dX7_where_2 rfl (fun σ1 => ?_)
  refine r_aload_n (q := 6) dX7_where_5 rfl rfl rfl ?_
  refine r_gI (q := 9) fl_X7_9 dX7_where_6 rfl (fun x2 => ?_)
  exact r_ireturn rfl rfl dX7_where_9
theorem w_X1_isPlace_b28 (G : Gx) (h0 : G0 G) (N : Nat)    (σ : Mem) : Runs G mX1_isPlace rhoI σ 28 [none, none] [] (f_X1_isPlace_b28 N   σ) := by
  unfold f_X1_isPlace_b28
  refine r_iconst (q := 29) (v := (0 : Int32)) dX1_isPlace_28 rfl (by decide) ?_
  exact r_ireturnN rfl dX1_isPlace_29
theorem c_X1_isPlace (G : Gx) (h0 : G0 G) (N : Nat) (a0 : Nat) (i1 : Int32) (σ : Mem) : Ct G mX1_isPlace rhoI [vR (some a0), vI i1] σ (f_X1_isPlace N a0 i1 σ) := by
  refine Ct_of h0 (by decide) rfl (Nat.le_of_ble_eq_true rfl) (L0 := [some (vR (some a0)), some (vI i1)]) rfl ?_
  unfold f_X1_isPlace
  refine r_aload_n (q := 1) dX1_isPlace_0 rfl rfl rfl ?_
  refine r_gR (q := 4) fl_X1_104 rfl dX1_isPlace_1 rfl (fun x1 => ?_)
  refine r_ifnull (q := 7) (t := 28) dX1_isPlace_4 rfl (by decide) (fun _ => ?_) (fun _ => ?_)
  · exact r_le (w_X1_isPlace_b28 G h0 N  _) (Nat.le_refl _) trivial
  · refine r_iload_n (q := 8) dX1_isPlace_7 rfl rfl rfl ?_
    refine r_iconst (q := 9) (v := (0 : Int32)) dX1_isPlace_8 rfl (by decide) ?_
    refine r_aload_n (q := 10) dX1_isPlace_9 rfl rfl rfl ?_
    refine r_gR (q := 13) fl_X1_104 rfl dX1_isPlace_10 rfl (fun x2 => ?_)
    refine r_gI (q := 16) fl_X1_130 dX1_isPlace_13 rfl (fun x3 => ?_)
    refine r_iconst (q := 17) (v := (1 : Int32)) dX1_isPlace_16 rfl (by decide) ?_
    refine r_isub (q := 18) dX1_isPlace_17 rfl ?_
    refine r_callI (q := 21) (c_X1_in G h0 N _ _ _ _) (cl_S rfl rfl (lw_S q489 q490 q167 q491) (hd_X1_in) ⟨Nat.le_of_ble_eq_true rfl, Nat.le_of_ble_eq_true rfl⟩ rfl (Nat.le_of_ble_eq_true rfl) dX1_isPlace_18) rfl (fun x4 σ5 => ?_)
    refine r_if_eq (q := 24) (t := 28) dX1_isPlace_21 rfl (by decide) (fun _ => ?_) (fun _ => ?_)
    · exact r_le (w_X1_isPlace_b28 G h0 N  _) (Nat.le_refl _) trivial
    · refine r_iconst (q := 25) (v := (1 : Int32)) dX1_isPlace_24 rfl (by decide) ?_
      refine r_goto (q := 29) dX1_isPlace_25 (by decide) ?_
      exact r_ireturnN rfl dX1_isPlace_29
theorem w_X1_isPlant_b28 (G : Gx) (h0 : G0 G) (N : Nat)    (σ : Mem) : Runs G mX1_isPlant rhoI σ 28 [none, none] [] (f_X1_isPlant_b28 N   σ) := by
  unfold f_X1_isPlant_b28
  refine r_iconst (q := 29) (v := (0 : Int32)) dX1_isPlant_28 rfl (by decide) ?_
  exact r_ireturnN rfl dX1_isPlant_29
theorem c_X1_isPlant (G : Gx) (h0 : G0 G) (N : Nat) (a0 : Nat) (i1 : Int32) (σ : Mem) : Ct G mX1_isPlant rhoI [vR (some a0), vI i1] σ (f_X1_isPlant N a0 i1 σ) := by
  refine Ct_of h0 (by decide) rfl (Nat.le_of_ble_eq_true rfl) (L0 := [some (vR (some a0)), some (vI i1)]) rfl ?_
  unfold f_X1_isPlant
  refine r_aload_n (q := 1) dX1_isPlant_0 rfl rfl rfl ?_
  refine r_gR (q := 4) fl_X1_104 rfl dX1_isPlant_1 rfl (fun x1 => ?_)
  refine r_ifnull (q := 7) (t := 28) dX1_isPlant_4 rfl (by decide) (fun _ => ?_) (fun _ => ?_)
  · exact r_le (w_X1_isPlant_b28 G h0 N  _) (Nat.le_refl _) trivial
  · refine r_iload_n (q := 8) dX1_isPlant_7 rfl rfl rfl ?_
    refine r_iconst (q := 9) (v := (0 : Int32)) dX1_isPlant_8 rfl (by decide) ?_
    refine r_aload_n (q := 10) dX1_isPlant_9 rfl rfl rfl ?_
    refine r_gR (q := 13) fl_X1_104 rfl dX1_isPlant_10 rfl (fun x2 => ?_)
    refine r_gI (q := 16) fl_X1_133 dX1_isPlant_13 rfl (fun x3 => ?_)
    refine r_iconst (q := 17) (v := (1 : Int32)) dX1_isPlant_16 rfl (by decide) ?_
    refine r_isub (q := 18) dX1_isPlant_17 rfl ?_
    refine r_callI (q := 21) (c_X1_in G h0 N _ _ _ _) (cl_S rfl rfl (lw_S q489 q490 q167 q491) (hd_X1_in) ⟨Nat.le_of_ble_eq_true rfl, Nat.le_of_ble_eq_true rfl⟩ rfl (Nat.le_of_ble_eq_true rfl) dX1_isPlant_18) rfl (fun x4 σ5 => ?_)
    refine r_if_eq (q := 24) (t := 28) dX1_isPlant_21 rfl (by decide) (fun _ => ?_) (fun _ => ?_)
    · exact r_le (w_X1_isPlant_b28 G h0 N  _) (Nat.le_refl _) trivial
    · refine r_iconst (q := 25) (v := (1 : Int32)) dX1_isPlant_24 rfl (by decide) ?_
      refine r_goto (q := 29) dX1_isPlant_25 (by decide) ?_
      exact r_ireturnN rfl dX1_isPlant_29
theorem w_X1_plants_b37 (G : Gx) (h0 : G0 G) (N : Nat)   (a0 : Nat) (σ : Mem) : Runs G mX1_plants rhoI σ 37 [some (vR (some a0)), none, none] [] (f_X1_plants_b37 N  a0 σ) := by
  unfold f_X1_plants_b37
  refine r_aload_n (q := 38) dX1_plants_37 rfl rfl rfl ?_
  refine r_iconst (q := 39) (v := (1 : Int32)) dX1_plants_38 rfl (by decide) ?_
  refine r_ob (fun a3 ha3 => ?_)
  obtain ⟨hea3, hka3⟩ := o_at_eq ha3
  cases hea3
  refine r_callI (q := 42) (c_X1_no G h0 N _ _ _) (cl_V (ci := 0) rfl rfl (lw_V q492 q494 qs3 q167 q495) (hd_X1_no) ⟨Nat.le_of_ble_eq_true rfl, Nat.le_of_ble_eq_true rfl⟩ (List.mem_singleton.mp hka3) rfl rfl rfl (Nat.le_of_ble_eq_true rfl) dX1_plants_39) rfl (fun x1 σ2 => ?_)
  exact r_ireturn rfl rfl dX1_plants_42
theorem c_X1_plants (G : Gx) (h0 : G0 G) (N : Nat) (a0 : Nat) (i1 : Int32) (i2 : Int32) (σ : Mem) : Ct G mX1_plants rhoI [vR (some a0), vI i1, vI i2] σ (f_X1_plants N a0 i1 i2 σ) := by
  refine Ct_of h0 (by decide) rfl (Nat.le_of_ble_eq_true rfl) (L0 := [some (vR (some a0)), some (vI i1), some (vI i2)]) rfl ?_
  unfold f_X1_plants
  refine r_aload_n (q := 1) dX1_plants_0 rfl rfl rfl ?_
  refine r_ob (fun a3 ha3 => ?_)
  obtain ⟨hea3, hka3⟩ := o_at_eq ha3
  cases hea3
  refine r_callV (q := 4) (c_X1_anew G h0 N _ _) (cl_V (ci := 0) rfl rfl (lw_V q485 q487 qs2 q167 q488) (hd_X1_anew) ⟨Nat.le_of_ble_eq_true rfl, Nat.le_of_ble_eq_true rfl⟩ (List.mem_singleton.mp hka3) rfl rfl rfl (Nat.le_of_ble_eq_true rfl) dX1_plants_1) rfl (fun u1 σ2 => ?_)
  refine r_aload_n (q := 5) dX1_plants_4 rfl rfl rfl ?_
  refine r_iload_n (q := 6) dX1_plants_5 rfl rfl rfl ?_
  refine r_ob (fun a6 ha6 => ?_)
  obtain ⟨hea6, hka6⟩ := o_at_eq ha6
  cases hea6
  refine r_callI (q := 9) (c_X1_isPlace G h0 N _ _ _) (cl_V (ci := 0) rfl rfl (lw_V q1315 q1317 qs43 q167 q1318) (hd_X1_isPlace) ⟨Nat.le_of_ble_eq_true rfl, Nat.le_of_ble_eq_true rfl⟩ (List.mem_singleton.mp hka6) rfl rfl rfl (Nat.le_of_ble_eq_true rfl) dX1_plants_6) rfl (fun x4 σ5 => ?_)
  refine r_if_eq (q := 12) (t := 37) dX1_plants_9 rfl (by decide) (fun _ => ?_) (fun _ => ?_)
  · exact r_le (w_X1_plants_b37 G h0 N _ _) (Nat.le_refl _) (And.intro rfl trivial)
  · refine r_aload_n (q := 13) dX1_plants_12 rfl rfl rfl ?_
    refine r_iload_n (q := 14) dX1_plants_13 rfl rfl rfl ?_
    refine r_ob (fun a9 ha9 => ?_)
    obtain ⟨hea9, hka9⟩ := o_at_eq ha9
    cases hea9
    refine r_callI (q := 17) (c_X1_isPlant G h0 N _ _ _) (cl_V (ci := 0) rfl rfl (lw_V q1319 q1321 qs44 q167 q1322) (hd_X1_isPlant) ⟨Nat.le_of_ble_eq_true rfl, Nat.le_of_ble_eq_true rfl⟩ (List.mem_singleton.mp hka9) rfl rfl rfl (Nat.le_of_ble_eq_true rfl) dX1_plants_14) rfl (fun x7 σ8 => ?_)
    refine r_if_eq (q := 20) (t := 37) dX1_plants_17 rfl (by decide) (fun _ => ?_) (fun _ => ?_)
    · exact r_le (w_X1_plants_b37 G h0 N _ _) (Nat.le_refl _) (And.intro rfl trivial)
    · refine r_aload_n (q := 21) dX1_plants_20 rfl rfl rfl ?_
      refine r_gR (q := 24) fl_X1_104 rfl dX1_plants_21 rfl (fun x10 => ?_)
      refine r_gR (q := 27) fl_X1_158 rfl dX1_plants_24 rfl (fun x11 => ?_)
      refine r_iload_n (q := 28) dX1_plants_27 rfl rfl rfl ?_
      refine r_aaload (q := 29) (k0 := 6) (by decide) dX1_plants_28 rfl (fun x12 => ?_)
      refine r_gR (q := 32) fl_X1_162 rfl dX1_plants_29 rfl (fun x13 => ?_)
      refine r_iload_n (q := 33) dX1_plants_32 rfl rfl rfl ?_
      refine r_iaload (q := 34) dX1_plants_33 rfl (fun x14 => ?_)
      refine r_goto (q := 42) dX1_plants_34 (by decide) ?_
      exact r_ireturn rfl rfl dX1_plants_42
theorem w_X7_isPlace_b26 (G : Gx) (h0 : G0 G) (N : Nat)    (σ : Mem) : Runs G mX7_isPlace rhoI σ 26 [none, none] [] (f_X7_isPlace_b26 N   σ) := by
  unfold f_X7_isPlace_b26
  refine r_iconst (q := 27) (v := (0 : Int32)) dX7_isPlace_26 rfl (by decide) ?_
  exact r_ireturnN rfl dX7_isPlace_27
theorem c_X7_isPlace (G : Gx) (h0 : G0 G) (N : Nat) (a0 : Nat) (i1 : Int32) (σ : Mem) : Ct G mX7_isPlace rhoI [vR (some a0), vI i1] σ (f_X7_isPlace N a0 i1 σ) := by
  refine Ct_of h0 (by decide) rfl (Nat.le_of_ble_eq_true rfl) (L0 := [some (vR (some a0)), some (vI i1)]) rfl ?_
  unfold f_X7_isPlace
  refine r_aload_n (q := 1) dX7_isPlace_0 rfl rfl rfl ?_
  refine r_gR (q := 4) fl_X7_442 rfl dX7_isPlace_1 rfl (fun x1 => ?_)
  refine r_ifnull (q := 7) (t := 26) dX7_isPlace_4 rfl (by decide) (fun _ => ?_) (fun _ => ?_)
  · exact r_le (w_X7_isPlace_b26 G h0 N  _) (Nat.le_refl _) trivial
  · refine r_iload_n (q := 8) dX7_isPlace_7 rfl rfl rfl ?_
    refine r_if_lt (q := 11) (t := 26) dX7_isPlace_8 rfl (by decide) (fun _ => ?_) (fun _ => ?_)
    · exact r_le (w_X7_isPlace_b26 G h0 N  _) (Nat.le_refl _) trivial
    · refine r_iload_n (q := 12) dX7_isPlace_11 rfl rfl rfl ?_
      refine r_aload_n (q := 13) dX7_isPlace_12 rfl rfl rfl ?_
      refine r_gR (q := 16) fl_X7_442 rfl dX7_isPlace_13 rfl (fun x2 => ?_)
      refine r_gI (q := 19) fl_X7_241 dX7_isPlace_16 rfl (fun x3 => ?_)
      refine r_icmp_ge (q := 22) (t := 26) dX7_isPlace_19 rfl (by decide) (fun _ => ?_) (fun _ => ?_)
      · exact r_le (w_X7_isPlace_b26 G h0 N  _) (Nat.le_refl _) trivial
      · refine r_iconst (q := 23) (v := (1 : Int32)) dX7_isPlace_22 rfl (by decide) ?_
        refine r_goto (q := 27) dX7_isPlace_23 (by decide) ?_
        exact r_ireturnN rfl dX7_isPlace_27
theorem w_X7_isPlant_b26 (G : Gx) (h0 : G0 G) (N : Nat)    (σ : Mem) : Runs G mX7_isPlant rhoI σ 26 [none, none] [] (f_X7_isPlant_b26 N   σ) := by
  unfold f_X7_isPlant_b26
  refine r_iconst (q := 27) (v := (0 : Int32)) dX7_isPlant_26 rfl (by decide) ?_
  exact r_ireturnN rfl dX7_isPlant_27
theorem c_X7_isPlant (G : Gx) (h0 : G0 G) (N : Nat) (a0 : Nat) (i1 : Int32) (σ : Mem) : Ct G mX7_isPlant rhoI [vR (some a0), vI i1] σ (f_X7_isPlant N a0 i1 σ) := by
  refine Ct_of h0 (by decide) rfl (Nat.le_of_ble_eq_true rfl) (L0 := [some (vR (some a0)), some (vI i1)]) rfl ?_
  unfold f_X7_isPlant
  refine r_aload_n (q := 1) dX7_isPlant_0 rfl rfl rfl ?_
  refine r_gR (q := 4) fl_X7_442 rfl dX7_isPlant_1 rfl (fun x1 => ?_)
  refine r_ifnull (q := 7) (t := 26) dX7_isPlant_4 rfl (by decide) (fun _ => ?_) (fun _ => ?_)
  · exact r_le (w_X7_isPlant_b26 G h0 N  _) (Nat.le_refl _) trivial
  · refine r_iload_n (q := 8) dX7_isPlant_7 rfl rfl rfl ?_
    refine r_if_lt (q := 11) (t := 26) dX7_isPlant_8 rfl (by decide) (fun _ => ?_) (fun _ => ?_)
    · exact r_le (w_X7_isPlant_b26 G h0 N  _) (Nat.le_refl _) trivial
    · refine r_iload_n (q := 12) dX7_isPlant_11 rfl rfl rfl ?_
      refine r_aload_n (q := 13) dX7_isPlant_12 rfl rfl rfl ?_
      refine r_gR (q := 16) fl_X7_442 rfl dX7_isPlant_13 rfl (fun x2 => ?_)
      refine r_gI (q := 19) fl_X7_229 dX7_isPlant_16 rfl (fun x3 => ?_)
      refine r_icmp_ge (q := 22) (t := 26) dX7_isPlant_19 rfl (by decide) (fun _ => ?_) (fun _ => ?_)
      · exact r_le (w_X7_isPlant_b26 G h0 N  _) (Nat.le_refl _) trivial
      · refine r_iconst (q := 23) (v := (1 : Int32)) dX7_isPlant_22 rfl (by decide) ?_
        refine r_goto (q := 27) dX7_isPlant_23 (by decide) ?_
        exact r_ireturnN rfl dX7_isPlant_27
theorem w_X7_plants_b41 (G : Gx) (h0 : G0 G) (N : Nat)   (a0 : Nat) (σ : Mem) : Runs G mX7_plants rhoI σ 41 [some (vR (some a0)), none, none] [] (f_X7_plants_b41 N  a0 σ) := by
  unfold f_X7_plants_b41
  refine r_aload_n (q := 42) dX7_plants_41 rfl rfl rfl ?_
  refine r_iconst (q := 43) (v := (1 : Int32)) dX7_plants_42 rfl (by decide) ?_
  refine r_ob (fun a3 ha3 => ?_)
  obtain ⟨hea3, hka3⟩ := o_at_eq ha3
  cases hea3
  refine r_callI (q := 46) (c_X7_refused G h0 N _ _ _) (cl_V (ci := 6) rfl rfl (lw_V q2019 q2021 qs83 q176 q2022) (hd_X7_refused) ⟨Nat.le_of_ble_eq_true rfl, Nat.le_of_ble_eq_true rfl⟩ (List.mem_singleton.mp hka3) rfl rfl rfl (Nat.le_of_ble_eq_true rfl) dX7_plants_43) rfl (fun x1 σ2 => ?_)
  exact r_ireturn rfl rfl dX7_plants_46
theorem c_X7_plants (G : Gx) (h0 : G0 G) (N : Nat) (a0 : Nat) (i1 : Int32) (i2 : Int32) (σ : Mem) : Ct G mX7_plants rhoI [vR (some a0), vI i1, vI i2] σ (f_X7_plants N a0 i1 i2 σ) := by
  refine Ct_of h0 (by decide) rfl (Nat.le_of_ble_eq_true rfl) (L0 := [some (vR (some a0)), some (vI i1), some (vI i2)]) rfl ?_
  unfold f_X7_plants
  refine r_aload_n (q := 1) dX7_plants_0 rfl rfl rfl ?_
  refine r_iconst (q := 2) (v := (0 : Int32)) dX7_plants_1 rfl (by decide) ?_
  refine r_pI (q := 5) fp_X7_plants_66 dX7_plants_2 rfl (fun σ1 => ?_)
  refine r_aload_n (q := 6) dX7_plants_5 rfl rfl rfl ?_
  refine r_iload_n (q := 7) dX7_plants_6 rfl rfl rfl ?_
  refine r_ob (fun a4 ha4 => ?_)
  obtain ⟨hea4, hka4⟩ := o_at_eq ha4
  cases hea4
  refine r_callI (q := 10) (c_X7_isPlace G h0 N _ _ _) (cl_V (ci := 6) rfl rfl (lw_V q2395 q2397 qs119 q176 q2398) (hd_X7_isPlace) ⟨Nat.le_of_ble_eq_true rfl, Nat.le_of_ble_eq_true rfl⟩ (List.mem_singleton.mp hka4) rfl rfl rfl (Nat.le_of_ble_eq_true rfl) dX7_plants_7) rfl (fun x2 σ3 => ?_)
  refine r_if_eq (q := 13) (t := 41) dX7_plants_10 rfl (by decide) (fun _ => ?_) (fun _ => ?_)
  · exact r_le (w_X7_plants_b41 G h0 N _ _) (Nat.le_refl _) (And.intro rfl trivial)
  · refine r_aload_n (q := 14) dX7_plants_13 rfl rfl rfl ?_
    refine r_iload_n (q := 15) dX7_plants_14 rfl rfl rfl ?_
    refine r_ob (fun a7 ha7 => ?_)
    obtain ⟨hea7, hka7⟩ := o_at_eq ha7
    cases hea7
    refine r_callI (q := 18) (c_X7_isPlant G h0 N _ _ _) (cl_V (ci := 6) rfl rfl (lw_V q2399 q2401 qs120 q176 q2402) (hd_X7_isPlant) ⟨Nat.le_of_ble_eq_true rfl, Nat.le_of_ble_eq_true rfl⟩ (List.mem_singleton.mp hka7) rfl rfl rfl (Nat.le_of_ble_eq_true rfl) dX7_plants_15) rfl (fun x5 σ6 => ?_)
    refine r_if_eq (q := 21) (t := 41) dX7_plants_18 rfl (by decide) (fun _ => ?_) (fun _ => ?_)
    · exact r_le (w_X7_plants_b41 G h0 N _ _) (Nat.le_refl _) (And.intro rfl trivial)
    · refine r_aload_n (q := 22) dX7_plants_21 rfl rfl rfl ?_
      refine r_aload_n (q := 23) dX7_plants_22 rfl rfl rfl ?_
      refine r_gR (q := 26) fl_X7_442 rfl dX7_plants_23 rfl (fun x8 => ?_)
      refine r_gR (q := 29) fl_X7_296 rfl dX7_plants_26 rfl (fun x9 => ?_)
      refine r_iconst (q := 30) (v := (4 : Int32)) dX7_plants_29 rfl (by decide) ?_
      refine r_iload_n (q := 31) dX7_plants_30 rfl rfl rfl ?_
      refine r_imul (q := 32) dX7_plants_31 rfl ?_
      refine r_iload_n (q := 33) dX7_plants_32 rfl rfl rfl ?_
      refine r_iadd (q := 34) dX7_plants_33 rfl ?_
      refine r_iaload (q := 35) dX7_plants_34 rfl (fun x10 => ?_)
      refine r_ob (fun a13 ha13 => ?_)
      obtain ⟨hea13, hka13⟩ := o_at_eq ha13
      cases hea13
      refine r_callI (q := 38) (c_X7_good G h0 N _ _ _) (cl_V (ci := 6) rfl rfl (lw_V q2379 q2381 qs118 q176 q2382) (hd_X7_good) ⟨Nat.le_of_ble_eq_true rfl, Nat.le_of_ble_eq_true rfl⟩ (List.mem_singleton.mp hka13) rfl rfl rfl (Nat.le_of_ble_eq_true rfl) dX7_plants_35) rfl (fun x11 σ12 => ?_)
      refine r_goto (q := 46) dX7_plants_38 (by decide) ?_
      exact r_ireturn rfl rfl dX7_plants_46
theorem c_X1_near (G : Gx) (h0 : G0 G) (N : Nat) (a0 : Nat) (i1 : Int32) (σ : Mem) : Ct G mX1_near rhoI [vR (some a0), vI i1] σ (f_X1_near N a0 i1 σ) := by
  refine Ct_of h0 (by decide) rfl (Nat.le_of_ble_eq_true rfl) (L0 := [some (vR (some a0)), some (vI i1)]) rfl ?_
  unfold f_X1_near
  refine r_aload_n (q := 1) dX1_near_0 rfl rfl rfl ?_
  refine r_ob (fun a3 ha3 => ?_)
  obtain ⟨hea3, hka3⟩ := o_at_eq ha3
  cases hea3
  refine r_callV (q := 4) (c_X1_anew G h0 N _ _) (cl_V (ci := 0) rfl rfl (lw_V q485 q487 qs2 q167 q488) (hd_X1_anew) ⟨Nat.le_of_ble_eq_true rfl, Nat.le_of_ble_eq_true rfl⟩ (List.mem_singleton.mp hka3) rfl rfl rfl (Nat.le_of_ble_eq_true rfl) dX1_near_1) rfl (fun u1 σ2 => ?_)
  refine r_aload_n (q := 5) dX1_near_4 rfl rfl rfl ?_
  refine r_iload_n (q := 6) dX1_near_5 rfl rfl rfl ?_
  refine r_ob (fun a6 ha6 => ?_)
  obtain ⟨hea6, hka6⟩ := o_at_eq ha6
  cases hea6
  refine r_callI (q := 9) (c_X1_isPlace G h0 N _ _ _) (cl_V (ci := 0) rfl rfl (lw_V q1315 q1317 qs43 q167 q1318) (hd_X1_isPlace) ⟨Nat.le_of_ble_eq_true rfl, Nat.le_of_ble_eq_true rfl⟩ (List.mem_singleton.mp hka6) rfl rfl rfl (Nat.le_of_ble_eq_true rfl) dX1_near_6) rfl (fun x4 σ5 => ?_)
  refine r_if_eq (q := 12) (t := 27) dX1_near_9 rfl (by decide) (fun _ => ?_) (fun _ => ?_)
  · refine r_aload_n (q := 28) dX1_near_27 rfl rfl rfl ?_
    refine r_iconst (q := 29) (v := (1 : Int32)) dX1_near_28 rfl (by decide) ?_
    refine r_ob (fun a9 ha9 => ?_)
    obtain ⟨hea9, hka9⟩ := o_at_eq ha9
    cases hea9
    refine r_callI (q := 32) (c_X1_no G h0 N _ _ _) (cl_V (ci := 0) rfl rfl (lw_V q492 q494 qs3 q167 q495) (hd_X1_no) ⟨Nat.le_of_ble_eq_true rfl, Nat.le_of_ble_eq_true rfl⟩ (List.mem_singleton.mp hka9) rfl rfl rfl (Nat.le_of_ble_eq_true rfl) dX1_near_29) rfl (fun x7 σ8 => ?_)
    exact r_ireturn rfl rfl dX1_near_32
  · refine r_aload_n (q := 13) dX1_near_12 rfl rfl rfl ?_
    refine r_gR (q := 16) fl_X1_104 rfl dX1_near_13 rfl (fun x10 => ?_)
    refine r_gR (q := 19) fl_X1_158 rfl dX1_near_16 rfl (fun x11 => ?_)
    refine r_iload_n (q := 20) dX1_near_19 rfl rfl rfl ?_
    refine r_aaload (q := 21) (k0 := 6) (by decide) dX1_near_20 rfl (fun x12 => ?_)
    refine r_gI (q := 24) fl_X1_166 dX1_near_21 rfl (fun x13 => ?_)
    refine r_goto (q := 32) dX1_near_24 (by decide) ?_
    exact r_ireturn rfl rfl dX1_near_32
theorem w_X7_near_b55 (G : Gx) (h0 : G0 G) (N : Nat) (K23 : Nat → Int32 → Int32 → Int32 → Mem → Option (Int32 × Mem)) (hK23 : ∀ (a0 : Nat) (l1 : Int32) (l2 : Int32) (l3 : Int32) (σ : Mem), Runs G mX7_near rhoI σ 23 [some (vR (some a0)), some (vI l1), some (vI l2), some (vI l3)] [] (K23 a0 l1 l2 l3 σ)) (a0 : Nat) (l1 : Int32) (l3 : Int32) (t0 : Int32) (t1 : Int32) (σ : Mem) : Runs G mX7_near rhoI σ 55 [some (vR (some a0)), some (vI l1), none, some (vI l3)] [vI t1, vI t0] (f_X7_near_b55 N K23 a0 l1 l3 t0 t1 σ) := by
  unfold f_X7_near_b55
  refine r_ior (q := 56) dX7_near_55 rfl ?_
  refine r_istore_n (q := 57) dX7_near_56 rfl rfl (Nat.le_of_ble_eq_true rfl) rfl ?_
  refine r_iinc (q := 60) (v := (1 : Int32)) dX7_near_57 rfl rfl (by decide) (Nat.le_of_ble_eq_true rfl) rfl ?_
  refine r_goto (q := 23) dX7_near_60 (by decide) ?_
  exact r_le (hK23 _ _ _ _ _) (Nat.le_refl _) (And.intro rfl (And.intro rfl (And.intro rfl (And.intro rfl trivial))))
theorem w_X7_near_b23B (G : Gx) (h0 : G0 G) (N : Nat)   (K23 : Nat → Int32 → Int32 → Int32 → Mem → Option (Int32 × Mem)) (hK23 : ∀ (a0 : Nat) (l1 : Int32) (l2 : Int32) (l3 : Int32) (σ : Mem), Runs G mX7_near rhoI σ 23 [some (vR (some a0)), some (vI l1), some (vI l2), some (vI l3)] [] (K23 a0 l1 l2 l3 σ)) (a0 : Nat) (l1 : Int32) (l2 : Int32) (l3 : Int32) (σ : Mem) : Runs G mX7_near rhoI σ 23 [some (vR (some a0)), some (vI l1), some (vI l2), some (vI l3)] [] (f_X7_near_b23B N  K23 a0 l1 l2 l3 σ) := by
  unfold f_X7_near_b23B
  refine r_iload_n (q := 24) dX7_near_23 rfl rfl rfl ?_
  refine r_aload_n (q := 25) dX7_near_24 rfl rfl rfl ?_
  refine r_gR (q := 28) fl_X7_442 rfl dX7_near_25 rfl (fun x1 => ?_)
  refine r_gI (q := 31) fl_X7_241 dX7_near_28 rfl (fun x2 => ?_)
  refine r_icmp_ge (q := 34) (t := 63) dX7_near_31 rfl (by decide) (fun _ => ?_) (fun _ => ?_)
  · refine r_aload_n (q := 64) dX7_near_63 rfl rfl rfl ?_
    refine r_iload_n (q := 65) dX7_near_64 rfl rfl rfl ?_
    refine r_ob (fun a5 ha5 => ?_)
    obtain ⟨hea5, hka5⟩ := o_at_eq ha5
    cases hea5
    refine r_callI (q := 68) (c_X7_good G h0 N _ _ _) (cl_V (ci := 6) rfl rfl (lw_V q2379 q2381 qs118 q176 q2382) (hd_X7_good) ⟨Nat.le_of_ble_eq_true rfl, Nat.le_of_ble_eq_true rfl⟩ (List.mem_singleton.mp hka5) rfl rfl rfl (Nat.le_of_ble_eq_true rfl) dX7_near_65) rfl (fun x3 σ4 => ?_)
    exact r_ireturn rfl rfl dX7_near_68
  · refine r_iload_n (q := 35) dX7_near_34 rfl rfl rfl ?_
    refine r_aload_n (q := 36) dX7_near_35 rfl rfl rfl ?_
    refine r_gR (q := 39) fl_X7_442 rfl dX7_near_36 rfl (fun x6 => ?_)
    refine r_iload_n (q := 40) dX7_near_39 rfl rfl rfl ?_
    refine r_iload_n (q := 41) dX7_near_40 rfl rfl rfl ?_
    refine r_ob (fun a9 ha9 => ?_)
    obtain ⟨hea9, hka9⟩ := o_at_eq ha9
    cases hea9
    refine r_callI (q := 44) (c_X24_path G h0 N _ _ _ _) (cl_V (ci := 20) rfl rfl (lw_V q2300 q2301 q2302 q199 q2303) (hd_X24_path) ⟨Nat.le_of_ble_eq_true rfl, Nat.le_of_ble_eq_true rfl⟩ (List.mem_singleton.mp hka9) rfl rfl rfl (Nat.le_of_ble_eq_true rfl) dX7_near_41) rfl (fun x7 σ8 => ?_)
    refine r_iconst (q := 45) (v := (-1 : Int32)) dX7_near_44 rfl (by decide) ?_
    refine r_icmp_eq (q := 48) (t := 54) dX7_near_45 rfl (by decide) (fun _ => ?_) (fun _ => ?_)
    · refine r_iconst (q := 55) (v := (0 : Int32)) dX7_near_54 rfl (by decide) ?_
      exact r_le (w_X7_near_b55 G h0 N K23 hK23 _ _ _ _ _ _) (Nat.le_refl _) (And.intro rfl (And.intro rfl (And.intro rfl trivial)))
    · refine r_iconst (q := 49) (v := (1 : Int32)) dX7_near_48 rfl (by decide) ?_
      refine r_iload_n (q := 50) dX7_near_49 rfl rfl rfl ?_
      refine r_ishl (q := 51) dX7_near_50 rfl ?_
      refine r_goto (q := 55) dX7_near_51 (by decide) ?_
      exact r_le (w_X7_near_b55 G h0 N K23 hK23 _ _ _ _ _ _) (Nat.le_refl _) (And.intro rfl (And.intro rfl (And.intro rfl trivial)))
theorem w_X7_near_b23 (G : Gx) (h0 : G0 G) (N : Nat)   : ∀ (z : Nat) (a0 : Nat) (l1 : Int32) (l2 : Int32) (l3 : Int32) (σ : Mem), Runs G mX7_near rhoI σ 23 [some (vR (some a0)), some (vI l1), some (vI l2), some (vI l3)] [] (f_X7_near_b23 N  z a0 l1 l2 l3 σ) := by
  intro z
  induction z with
  | zero => exact fun _ _ _ _ _ => r_none
  | succ z ih => exact fun a0 l1 l2 l3 σ => w_X7_near_b23B G h0 N   _ ih a0 l1 l2 l3 σ
theorem c_X7_near (G : Gx) (h0 : G0 G) (N : Nat) (a0 : Nat) (i1 : Int32) (σ : Mem) : Ct G mX7_near rhoI [vR (some a0), vI i1] σ (f_X7_near N a0 i1 σ) := by
  refine Ct_of h0 (by decide) rfl (Nat.le_of_ble_eq_true rfl) (L0 := [some (vR (some a0)), some (vI i1), none, none]) rfl ?_
  unfold f_X7_near
  refine r_aload_n (q := 1) dX7_near_0 rfl rfl rfl ?_
  refine r_iconst (q := 2) (v := (0 : Int32)) dX7_near_1 rfl (by decide) ?_
  refine r_pI (q := 5) fp_X7_near_66 dX7_near_2 rfl (fun σ1 => ?_)
  refine r_aload_n (q := 6) dX7_near_5 rfl rfl rfl ?_
  refine r_iload_n (q := 7) dX7_near_6 rfl rfl rfl ?_
  refine r_ob (fun a4 ha4 => ?_)
  obtain ⟨hea4, hka4⟩ := o_at_eq ha4
  cases hea4
  refine r_callI (q := 10) (c_X7_isPlace G h0 N _ _ _) (cl_V (ci := 6) rfl rfl (lw_V q2395 q2397 qs119 q176 q2398) (hd_X7_isPlace) ⟨Nat.le_of_ble_eq_true rfl, Nat.le_of_ble_eq_true rfl⟩ (List.mem_singleton.mp hka4) rfl rfl rfl (Nat.le_of_ble_eq_true rfl) dX7_near_7) rfl (fun x2 σ3 => ?_)
  refine r_if_ne (q := 13) (t := 19) dX7_near_10 rfl (by decide) (fun _ => ?_) (fun _ => ?_)
  · refine r_aload_n (q := 14) dX7_near_13 rfl rfl rfl ?_
    refine r_iconst (q := 15) (v := (1 : Int32)) dX7_near_14 rfl (by decide) ?_
    refine r_ob (fun a7 ha7 => ?_)
    obtain ⟨hea7, hka7⟩ := o_at_eq ha7
    cases hea7
    refine r_callI (q := 18) (c_X7_refused G h0 N _ _ _) (cl_V (ci := 6) rfl rfl (lw_V q2019 q2021 qs83 q176 q2022) (hd_X7_refused) ⟨Nat.le_of_ble_eq_true rfl, Nat.le_of_ble_eq_true rfl⟩ (List.mem_singleton.mp hka7) rfl rfl rfl (Nat.le_of_ble_eq_true rfl) dX7_near_15) rfl (fun x5 σ6 => ?_)
    exact r_ireturn rfl rfl dX7_near_18
  · refine r_iconst (q := 20) (v := (0 : Int32)) dX7_near_19 rfl (by decide) ?_
    refine r_istore_n (q := 21) dX7_near_20 rfl rfl (Nat.le_of_ble_eq_true rfl) rfl ?_
    refine r_iconst (q := 22) (v := (0 : Int32)) dX7_near_21 rfl (by decide) ?_
    refine r_istore_n (q := 23) dX7_near_22 rfl rfl (Nat.le_of_ble_eq_true rfl) rfl ?_
    exact r_le (w_X7_near_b23 G h0 N N _ _ _ _ _) (Nat.le_refl _) (And.intro rfl (And.intro rfl (And.intro rfl (And.intro rfl trivial))))
theorem w_X1_isGoat_b28 (G : Gx) (h0 : G0 G) (N : Nat)    (σ : Mem) : Runs G mX1_isGoat rhoI σ 28 [none, none] [] (f_X1_isGoat_b28 N   σ) := by
  unfold f_X1_isGoat_b28
  refine r_iconst (q := 29) (v := (0 : Int32)) dX1_isGoat_28 rfl (by decide) ?_
  exact r_ireturnN rfl dX1_isGoat_29
theorem c_X1_isGoat (G : Gx) (h0 : G0 G) (N : Nat) (a0 : Nat) (i1 : Int32) (σ : Mem) : Ct G mX1_isGoat rhoI [vR (some a0), vI i1] σ (f_X1_isGoat N a0 i1 σ) := by
  refine Ct_of h0 (by decide) rfl (Nat.le_of_ble_eq_true rfl) (L0 := [some (vR (some a0)), some (vI i1)]) rfl ?_
  unfold f_X1_isGoat
  refine r_aload_n (q := 1) dX1_isGoat_0 rfl rfl rfl ?_
  refine r_gR (q := 4) fl_X1_104 rfl dX1_isGoat_1 rfl (fun x1 => ?_)
  refine r_ifnull (q := 7) (t := 28) dX1_isGoat_4 rfl (by decide) (fun _ => ?_) (fun _ => ?_)
  · exact r_le (w_X1_isGoat_b28 G h0 N  _) (Nat.le_refl _) trivial
  · refine r_iload_n (q := 8) dX1_isGoat_7 rfl rfl rfl ?_
    refine r_iconst (q := 9) (v := (0 : Int32)) dX1_isGoat_8 rfl (by decide) ?_
    refine r_aload_n (q := 10) dX1_isGoat_9 rfl rfl rfl ?_
    refine r_gR (q := 13) fl_X1_104 rfl dX1_isGoat_10 rfl (fun x2 => ?_)
    refine r_gI (q := 16) fl_X1_139 dX1_isGoat_13 rfl (fun x3 => ?_)
    refine r_iconst (q := 17) (v := (1 : Int32)) dX1_isGoat_16 rfl (by decide) ?_
    refine r_isub (q := 18) dX1_isGoat_17 rfl ?_
    refine r_callI (q := 21) (c_X1_in G h0 N _ _ _ _) (cl_S rfl rfl (lw_S q489 q490 q167 q491) (hd_X1_in) ⟨Nat.le_of_ble_eq_true rfl, Nat.le_of_ble_eq_true rfl⟩ rfl (Nat.le_of_ble_eq_true rfl) dX1_isGoat_18) rfl (fun x4 σ5 => ?_)
    refine r_if_eq (q := 24) (t := 28) dX1_isGoat_21 rfl (by decide) (fun _ => ?_) (fun _ => ?_)
    · exact r_le (w_X1_isGoat_b28 G h0 N  _) (Nat.le_refl _) trivial
    · refine r_iconst (q := 25) (v := (1 : Int32)) dX1_isGoat_24 rfl (by decide) ?_
      refine r_goto (q := 29) dX1_isGoat_25 (by decide) ?_
      exact r_ireturnN rfl dX1_isGoat_29
theorem c_X13_kind (G : Gx) (h0 : G0 G) (N : Nat) (a0 : Nat) (σ : Mem) : Ct G mX13_kind rhoI [vR (some a0)] σ (f_X13_kind N a0 σ) := by
  refine Ct_of h0 (by decide) rfl (Nat.le_of_ble_eq_true rfl) (L0 := [some (vR (some a0))]) rfl ?_
  unfold f_X13_kind
  refine r_iconst (q := 1) (v := (0 : Int32)) dX13_kind_0 rfl (by decide) ?_
  exact r_ireturn rfl rfl dX13_kind_1
theorem c_X14_kind (G : Gx) (h0 : G0 G) (N : Nat) (a0 : Nat) (σ : Mem) : Ct G mX14_kind rhoI [vR (some a0)] σ (f_X14_kind N a0 σ) := by
  refine Ct_of h0 (by decide) rfl (Nat.le_of_ble_eq_true rfl) (L0 := [some (vR (some a0))]) rfl ?_
  unfold f_X14_kind
  refine r_iconst (q := 1) (v := (1 : Int32)) dX14_kind_0 rfl (by decide) ?_
  exact r_ireturn rfl rfl dX14_kind_1
theorem c_X15_kind (G : Gx) (h0 : G0 G) (N : Nat) (a0 : Nat) (σ : Mem) : Ct G mX15_kind rhoI [vR (some a0)] σ (f_X15_kind N a0 σ) := by
  refine Ct_of h0 (by decide) rfl (Nat.le_of_ble_eq_true rfl) (L0 := [some (vR (some a0))]) rfl ?_
  unfold f_X15_kind
  refine r_iconst (q := 1) (v := (2 : Int32)) dX15_kind_0 rfl (by decide) ?_
  exact r_ireturn rfl rfl dX15_kind_1
theorem c_X16_kind (G : Gx) (h0 : G0 G) (N : Nat) (a0 : Nat) (σ : Mem) : Ct G mX16_kind rhoI [vR (some a0)] σ (f_X16_kind N a0 σ) := by
  refine Ct_of h0 (by decide) rfl (Nat.le_of_ble_eq_true rfl) (L0 := [some (vR (some a0))]) rfl ?_
  unfold f_X16_kind
  refine r_iconst (q := 1) (v := (3 : Int32)) dX16_kind_0 rfl (by decide) ?_
  exact r_ireturn rfl rfl dX16_kind_1
theorem c_X12_mother (G : Gx) (h0 : G0 G) (N : Nat) (a0 : Nat) (σ : Mem) : Ct G mX12_mother rhoR [vR (some a0)] σ (f_X12_mother N a0 σ) := by
  refine Ct_of h0 (by decide) rfl (Nat.le_of_ble_eq_true rfl) (L0 := [some (vR (some a0))]) rfl ?_
  unfold f_X12_mother
  refine r_null (q := 1) dX12_mother_0 rfl ?_
  exact r_areturn rfl (Or.inl ⟨_, rfl⟩) dX12_mother_1
theorem c_X16_mother (G : Gx) (h0 : G0 G) (N : Nat) (a0 : Nat) (σ : Mem) : Ct G mX16_mother rhoR [vR (some a0)] σ (f_X16_mother N a0 σ) := by
  refine Ct_of h0 (by decide) rfl (Nat.le_of_ble_eq_true rfl) (L0 := [some (vR (some a0))]) rfl ?_
  unfold f_X16_mother
  refine r_aload_n (q := 1) dX16_mother_0 rfl rfl rfl ?_
  refine r_gR (q := 4) fl_X16_7 rfl dX16_mother_1 rfl (fun x1 => ?_)
  exact r_areturn rfl (Or.inl ⟨_, rfl⟩) dX16_mother_4
theorem w_X1_cluesOf_b37 (G : Gx) (h0 : G0 G) (N : Nat) (K4 : Nat → Int32 → Int32 → Int32 → Mem → Option (Int32 × Mem)) (hK4 : ∀ (a0 : Nat) (l1 : Int32) (l2 : Int32) (l3 : Int32) (σ : Mem), Runs G mX1_cluesOf rhoI σ 4 [some (vR (some a0)), some (vI l1), some (vI l2), some (vI l3)] [] (K4 a0 l1 l2 l3 σ)) (a0 : Nat) (l1 : Int32) (l3 : Int32) (t0 : Int32) (t1 : Int32) (σ : Mem) : Runs G mX1_cluesOf rhoI σ 37 [some (vR (some a0)), some (vI l1), none, some (vI l3)] [vI t1, vI t0] (f_X1_cluesOf_b37 N K4 a0 l1 l3 t0 t1 σ) := by
  unfold f_X1_cluesOf_b37
  refine r_iadd (q := 38) dX1_cluesOf_37 rfl ?_
  refine r_istore_n (q := 39) dX1_cluesOf_38 rfl rfl (Nat.le_of_ble_eq_true rfl) rfl ?_
  refine r_iinc (q := 42) (v := (1 : Int32)) dX1_cluesOf_39 rfl rfl (by decide) (Nat.le_of_ble_eq_true rfl) rfl ?_
  refine r_goto (q := 4) dX1_cluesOf_42 (by decide) ?_
  exact r_le (hK4 _ _ _ _ _) (Nat.le_refl _) (And.intro rfl (And.intro rfl (And.intro rfl (And.intro rfl trivial))))
theorem w_X1_cluesOf_b4B (G : Gx) (h0 : G0 G) (N : Nat)   (K4 : Nat → Int32 → Int32 → Int32 → Mem → Option (Int32 × Mem)) (hK4 : ∀ (a0 : Nat) (l1 : Int32) (l2 : Int32) (l3 : Int32) (σ : Mem), Runs G mX1_cluesOf rhoI σ 4 [some (vR (some a0)), some (vI l1), some (vI l2), some (vI l3)] [] (K4 a0 l1 l2 l3 σ)) (a0 : Nat) (l1 : Int32) (l2 : Int32) (l3 : Int32) (σ : Mem) : Runs G mX1_cluesOf rhoI σ 4 [some (vR (some a0)), some (vI l1), some (vI l2), some (vI l3)] [] (f_X1_cluesOf_b4B N  K4 a0 l1 l2 l3 σ) := by
  unfold f_X1_cluesOf_b4B
  refine r_iload_n (q := 5) dX1_cluesOf_4 rfl rfl rfl ?_
  refine r_aload_n (q := 6) dX1_cluesOf_5 rfl rfl rfl ?_
  refine r_gR (q := 9) fl_X1_104 rfl dX1_cluesOf_6 rfl (fun x1 => ?_)
  refine r_gI (q := 12) fl_X1_142 dX1_cluesOf_9 rfl (fun x2 => ?_)
  refine r_icmp_ge (q := 15) (t := 45) dX1_cluesOf_12 rfl (by decide) (fun _ => ?_) (fun _ => ?_)
  · refine r_iload_n (q := 46) dX1_cluesOf_45 rfl rfl rfl ?_
    exact r_ireturn rfl rfl dX1_cluesOf_46
  · refine r_iload_n (q := 16) dX1_cluesOf_15 rfl rfl rfl ?_
    refine r_aload_n (q := 17) dX1_cluesOf_16 rfl rfl rfl ?_
    refine r_gR (q := 20) fl_X1_104 rfl dX1_cluesOf_17 rfl (fun x3 => ?_)
    refine r_gR (q := 23) fl_X1_207 rfl dX1_cluesOf_20 rfl (fun x4 => ?_)
    refine r_iload_n (q := 24) dX1_cluesOf_23 rfl rfl rfl ?_
    refine r_aaload (q := 25) (k0 := 9) (by decide) dX1_cluesOf_24 rfl (fun x5 => ?_)
    refine r_gI (q := 28) fl_X1_211 dX1_cluesOf_25 rfl (fun x6 => ?_)
    refine r_iload_n (q := 29) dX1_cluesOf_28 rfl rfl rfl ?_
    refine r_icmp_ne (q := 32) (t := 36) dX1_cluesOf_29 rfl (by decide) (fun _ => ?_) (fun _ => ?_)
    · refine r_iconst (q := 33) (v := (1 : Int32)) dX1_cluesOf_32 rfl (by decide) ?_
      refine r_goto (q := 37) dX1_cluesOf_33 (by decide) ?_
      exact r_le (w_X1_cluesOf_b37 G h0 N K4 hK4 _ _ _ _ _ _) (Nat.le_refl _) (And.intro rfl (And.intro rfl (And.intro rfl trivial)))
    · refine r_iconst (q := 37) (v := (0 : Int32)) dX1_cluesOf_36 rfl (by decide) ?_
      exact r_le (w_X1_cluesOf_b37 G h0 N K4 hK4 _ _ _ _ _ _) (Nat.le_refl _) (And.intro rfl (And.intro rfl (And.intro rfl trivial)))
theorem w_X1_cluesOf_b4 (G : Gx) (h0 : G0 G) (N : Nat)   : ∀ (z : Nat) (a0 : Nat) (l1 : Int32) (l2 : Int32) (l3 : Int32) (σ : Mem), Runs G mX1_cluesOf rhoI σ 4 [some (vR (some a0)), some (vI l1), some (vI l2), some (vI l3)] [] (f_X1_cluesOf_b4 N  z a0 l1 l2 l3 σ) := by
  intro z
  induction z with
  | zero => exact fun _ _ _ _ _ => r_none
  | succ z ih => exact fun a0 l1 l2 l3 σ => w_X1_cluesOf_b4B G h0 N   _ ih a0 l1 l2 l3 σ
theorem c_X1_cluesOf (G : Gx) (h0 : G0 G) (N : Nat) (a0 : Nat) (i1 : Int32) (σ : Mem) : Ct G mX1_cluesOf rhoI [vR (some a0), vI i1] σ (f_X1_cluesOf N a0 i1 σ) := by
  refine Ct_of h0 (by decide) rfl (Nat.le_of_ble_eq_true rfl) (L0 := [some (vR (some a0)), some (vI i1), none, none]) rfl ?_
  unfold f_X1_cluesOf
  refine r_iconst (q := 1) (v := (0 : Int32)) dX1_cluesOf_0 rfl (by decide) ?_
  refine r_istore_n (q := 2) dX1_cluesOf_1 rfl rfl (Nat.le_of_ble_eq_true rfl) rfl ?_
  refine r_iconst (q := 3) (v := (0 : Int32)) dX1_cluesOf_2 rfl (by decide) ?_
  refine r_istore_n (q := 4) dX1_cluesOf_3 rfl rfl (Nat.le_of_ble_eq_true rfl) rfl ?_
  exact r_le (w_X1_cluesOf_b4 G h0 N N _ _ _ _ _) (Nat.le_refl _) (And.intro rfl (And.intro rfl (And.intro rfl (And.intro rfl trivial))))
theorem c_X1_goat (G : Gx) (h0 : G0 G) (N : Nat) (a0 : Nat) (i1 : Int32) (i2 : Int32) (σ : Mem) : Ct G mX1_goat rhoI [vR (some a0), vI i1, vI i2] σ (f_X1_goat N a0 i1 i2 σ) := by
  refine Ct_of h0 (by decide) rfl (Nat.le_of_ble_eq_true rfl) (L0 := [some (vR (some a0)), some (vI i1), some (vI i2), none]) rfl ?_
  unfold f_X1_goat
  refine r_aload_n (q := 1) dX1_goat_0 rfl rfl rfl ?_
  refine r_ob (fun a3 ha3 => ?_)
  obtain ⟨hea3, hka3⟩ := o_at_eq ha3
  cases hea3
  refine r_callV (q := 4) (c_X1_anew G h0 N _ _) (cl_V (ci := 0) rfl rfl (lw_V q485 q487 qs2 q167 q488) (hd_X1_anew) ⟨Nat.le_of_ble_eq_true rfl, Nat.le_of_ble_eq_true rfl⟩ (List.mem_singleton.mp hka3) rfl rfl rfl (Nat.le_of_ble_eq_true rfl) dX1_goat_1) rfl (fun u1 σ2 => ?_)
  refine r_aload_n (q := 5) dX1_goat_4 rfl rfl rfl ?_
  refine r_iload_n (q := 6) dX1_goat_5 rfl rfl rfl ?_
  refine r_ob (fun a6 ha6 => ?_)
  obtain ⟨hea6, hka6⟩ := o_at_eq ha6
  cases hea6
  refine r_callI (q := 9) (c_X1_isGoat G h0 N _ _ _) (cl_V (ci := 0) rfl rfl (lw_V q1331 q1333 qs45 q167 q1334) (hd_X1_isGoat) ⟨Nat.le_of_ble_eq_true rfl, Nat.le_of_ble_eq_true rfl⟩ (List.mem_singleton.mp hka6) rfl rfl rfl (Nat.le_of_ble_eq_true rfl) dX1_goat_6) rfl (fun x4 σ5 => ?_)
  refine r_if_ne (q := 12) (t := 18) dX1_goat_9 rfl (by decide) (fun _ => ?_) (fun _ => ?_)
  · refine r_aload_n (q := 13) dX1_goat_12 rfl rfl rfl ?_
    refine r_iconst (q := 14) (v := (1 : Int32)) dX1_goat_13 rfl (by decide) ?_
    refine r_ob (fun a35 ha35 => ?_)
    obtain ⟨hea35, hka35⟩ := o_at_eq ha35
    cases hea35
    refine r_callI (q := 17) (c_X1_no G h0 N _ _ _) (cl_V (ci := 0) rfl rfl (lw_V q492 q494 qs3 q167 q495) (hd_X1_no) ⟨Nat.le_of_ble_eq_true rfl, Nat.le_of_ble_eq_true rfl⟩ (List.mem_singleton.mp hka35) rfl rfl rfl (Nat.le_of_ble_eq_true rfl) dX1_goat_14) rfl (fun x33 σ34 => ?_)
    exact r_ireturn rfl rfl dX1_goat_17
  · refine r_aload_n (q := 19) dX1_goat_18 rfl rfl rfl ?_
    refine r_gR (q := 22) fl_X1_104 rfl dX1_goat_19 rfl (fun x7 => ?_)
    refine r_gR (q := 25) fl_X1_172 rfl dX1_goat_22 rfl (fun x8 => ?_)
    refine r_iload_n (q := 26) dX1_goat_25 rfl rfl rfl ?_
    refine r_aaload (q := 27) (k0 := 8) (by decide) dX1_goat_26 rfl (fun x9 => ?_)
    refine r_astore_n (q := 28) dX1_goat_27 rfl rfl (Nat.le_of_ble_eq_true rfl) rfl ?_
    refine r_iload_n (q := 29) dX1_goat_28 rfl rfl rfl ?_
    refine r_tswC (t := 72) (c0 := (0 : Int32)) dX1_goat_29 (by decide) (by decide) rfl (by decide) ?_ (fun hc0 => ?_)
    · refine r_aload_n (q := 73) dX1_goat_72 rfl rfl rfl ?_
      refine r_ob (fun a12 ha12 => ?_)
      obtain ⟨hea12, hka12⟩ := o_at_eq ha12
      cases hea12
      refine r_callKI (q := 76) (Cb_ite (fun hq0 => ⟨_, _, (c_X13_kind G h0 N _ _), (cl_U (n := 0) (ci := 10) (x := ⟨"GoatCourt$Goat", "kind", "()I"⟩) (owner := "GoatCourt$Goat") rfl rfl q1335 q1337 (Or.inl q1336) q1344 q1345 q187 q1346 ⟨by decide, by decide, by decide +kernel⟩ ⟨Nat.le_of_ble_eq_true rfl, Nat.le_of_ble_eq_true rfl⟩ hq0 rfl rfl (Nat.le_of_ble_eq_true rfl) dX1_goat_73)⟩) (fun hq0 => Cb_ite (fun hq1 => ⟨_, _, (c_X14_kind G h0 N _ _), (cl_U (n := 0) (ci := 11) (x := ⟨"GoatCourt$Goat", "kind", "()I"⟩) (owner := "GoatCourt$Goat") rfl rfl q1335 q1337 (Or.inl q1336) q1347 q1348 q188 q1349 ⟨by decide, by decide, by decide +kernel⟩ ⟨Nat.le_of_ble_eq_true rfl, Nat.le_of_ble_eq_true rfl⟩ hq1 rfl rfl (Nat.le_of_ble_eq_true rfl) dX1_goat_73)⟩) (fun hq1 => Cb_ite (fun hq2 => ⟨_, _, (c_X15_kind G h0 N _ _), (cl_U (n := 0) (ci := 12) (x := ⟨"GoatCourt$Goat", "kind", "()I"⟩) (owner := "GoatCourt$Goat") rfl rfl q1335 q1337 (Or.inl q1336) q1338 q1339 q189 q1340 ⟨by decide, by decide, by decide +kernel⟩ ⟨Nat.le_of_ble_eq_true rfl, Nat.le_of_ble_eq_true rfl⟩ hq2 rfl rfl (Nat.le_of_ble_eq_true rfl) dX1_goat_73)⟩) (fun hq2 => ⟨_, _, (c_X16_kind G h0 N _ _), (cl_U (n := 0) (ci := 13) (x := ⟨"GoatCourt$Goat", "kind", "()I"⟩) (owner := "GoatCourt$Goat") rfl rfl q1335 q1337 (Or.inl q1336) q1341 q1342 q190 q1343 ⟨by decide, by decide, by decide +kernel⟩ ⟨Nat.le_of_ble_eq_true rfl, Nat.le_of_ble_eq_true rfl⟩ (by simp only [List.mem_cons, List.not_mem_nil, or_false] at hka12; omega) rfl rfl (Nat.le_of_ble_eq_true rfl) dX1_goat_73)⟩)))) rfl (fun x10 σ11 => ?_)
      exact r_ireturn rfl rfl dX1_goat_76
    refine r_tswC (t := 77) (c0 := (1 : Int32)) dX1_goat_29 (by decide) (by decide) rfl (by decide) ?_ (fun hc1 => ?_)
    · refine r_aload_n (q := 78) dX1_goat_77 rfl rfl rfl ?_
      refine r_ob (fun a15 ha15 => ?_)
      obtain ⟨hea15, hka15⟩ := o_at_eq ha15
      cases hea15
      refine r_callKR (q := 81) (Cb_ite (fun hq0 => ⟨_, _, (c_X12_mother G h0 N _ _), (cl_U (n := 0) (ci := 10) (x := ⟨"GoatCourt$Goat", "mother", "()LGoatCourt$Goat;"⟩) (owner := "GoatCourt$Goat") rfl rfl q1350 q1352 (Or.inr ⟨_, _, _, q1351, q1359⟩) q1357 q1351 q186 q1359 ⟨by decide, by decide, by decide +kernel⟩ ⟨Nat.le_of_ble_eq_true rfl, Nat.le_of_ble_eq_true rfl⟩ hq0 rfl rfl (Nat.le_of_ble_eq_true rfl) dX1_goat_78)⟩) (fun hq0 => Cb_ite (fun hq1 => ⟨_, _, (c_X12_mother G h0 N _ _), (cl_U (n := 0) (ci := 11) (x := ⟨"GoatCourt$Goat", "mother", "()LGoatCourt$Goat;"⟩) (owner := "GoatCourt$Goat") rfl rfl q1350 q1352 (Or.inr ⟨_, _, _, q1351, q1359⟩) q1358 q1351 q186 q1359 ⟨by decide, by decide, by decide +kernel⟩ ⟨Nat.le_of_ble_eq_true rfl, Nat.le_of_ble_eq_true rfl⟩ hq1 rfl rfl (Nat.le_of_ble_eq_true rfl) dX1_goat_78)⟩) (fun hq1 => Cb_ite (fun hq2 => ⟨_, _, (c_X12_mother G h0 N _ _), (cl_U (n := 0) (ci := 12) (x := ⟨"GoatCourt$Goat", "mother", "()LGoatCourt$Goat;"⟩) (owner := "GoatCourt$Goat") rfl rfl q1350 q1352 (Or.inr ⟨_, _, _, q1351, q1359⟩) q1353 q1351 q186 q1359 ⟨by decide, by decide, by decide +kernel⟩ ⟨Nat.le_of_ble_eq_true rfl, Nat.le_of_ble_eq_true rfl⟩ hq2 rfl rfl (Nat.le_of_ble_eq_true rfl) dX1_goat_78)⟩) (fun hq2 => ⟨_, _, (c_X16_mother G h0 N _ _), (cl_U (n := 0) (ci := 13) (x := ⟨"GoatCourt$Goat", "mother", "()LGoatCourt$Goat;"⟩) (owner := "GoatCourt$Goat") rfl rfl q1350 q1352 (Or.inr ⟨_, _, _, q1351, q1359⟩) q1354 q1355 q190 q1356 ⟨by decide, by decide, by decide +kernel⟩ ⟨Nat.le_of_ble_eq_true rfl, Nat.le_of_ble_eq_true rfl⟩ (by simp only [List.mem_cons, List.not_mem_nil, or_false] at hka15; omega) rfl rfl (Nat.le_of_ble_eq_true rfl) dX1_goat_78)⟩)))) rfl (fun x13 σ14 => ?_)
      refine r_ifnonnull (q := 84) (t := 89) dX1_goat_81 rfl (by decide) (fun _ => ?_) (fun _ => ?_)
      · refine r_bipush (q := 86) (v := (-2 : Int32)) dX1_goat_84 rfl (by decide) ?_
        refine r_goto (q := 96) dX1_goat_86 (by decide) ?_
        exact r_ireturn rfl rfl dX1_goat_96
      · refine r_aload_n (q := 90) dX1_goat_89 rfl rfl rfl ?_
        refine r_ob (fun a18 ha18 => ?_)
        obtain ⟨hea18, hka18⟩ := o_at_eq ha18
        cases hea18
        refine r_callKR (q := 93) (Cb_ite (fun hq0 => ⟨_, _, (c_X12_mother G h0 N _ _), (cl_U (n := 0) (ci := 10) (x := ⟨"GoatCourt$Goat", "mother", "()LGoatCourt$Goat;"⟩) (owner := "GoatCourt$Goat") rfl rfl q1350 q1352 (Or.inr ⟨_, _, _, q1351, q1359⟩) q1357 q1351 q186 q1359 ⟨by decide, by decide, by decide +kernel⟩ ⟨Nat.le_of_ble_eq_true rfl, Nat.le_of_ble_eq_true rfl⟩ hq0 rfl rfl (Nat.le_of_ble_eq_true rfl) dX1_goat_90)⟩) (fun hq0 => Cb_ite (fun hq1 => ⟨_, _, (c_X12_mother G h0 N _ _), (cl_U (n := 0) (ci := 11) (x := ⟨"GoatCourt$Goat", "mother", "()LGoatCourt$Goat;"⟩) (owner := "GoatCourt$Goat") rfl rfl q1350 q1352 (Or.inr ⟨_, _, _, q1351, q1359⟩) q1358 q1351 q186 q1359 ⟨by decide, by decide, by decide +kernel⟩ ⟨Nat.le_of_ble_eq_true rfl, Nat.le_of_ble_eq_true rfl⟩ hq1 rfl rfl (Nat.le_of_ble_eq_true rfl) dX1_goat_90)⟩) (fun hq1 => Cb_ite (fun hq2 => ⟨_, _, (c_X12_mother G h0 N _ _), (cl_U (n := 0) (ci := 12) (x := ⟨"GoatCourt$Goat", "mother", "()LGoatCourt$Goat;"⟩) (owner := "GoatCourt$Goat") rfl rfl q1350 q1352 (Or.inr ⟨_, _, _, q1351, q1359⟩) q1353 q1351 q186 q1359 ⟨by decide, by decide, by decide +kernel⟩ ⟨Nat.le_of_ble_eq_true rfl, Nat.le_of_ble_eq_true rfl⟩ hq2 rfl rfl (Nat.le_of_ble_eq_true rfl) dX1_goat_90)⟩) (fun hq2 => ⟨_, _, (c_X16_mother G h0 N _ _), (cl_U (n := 0) (ci := 13) (x := ⟨"GoatCourt$Goat", "mother", "()LGoatCourt$Goat;"⟩) (owner := "GoatCourt$Goat") rfl rfl q1350 q1352 (Or.inr ⟨_, _, _, q1351, q1359⟩) q1354 q1355 q190 q1356 ⟨by decide, by decide, by decide +kernel⟩ ⟨Nat.le_of_ble_eq_true rfl, Nat.le_of_ble_eq_true rfl⟩ (by simp only [List.mem_cons, List.not_mem_nil, or_false] at hka18; omega) rfl rfl (Nat.le_of_ble_eq_true rfl) dX1_goat_90)⟩)))) rfl (fun x16 σ17 => ?_)
        refine r_gI (q := 96) fl_X1_185 dX1_goat_93 rfl (fun x19 => ?_)
        exact r_ireturn rfl rfl dX1_goat_96
    refine r_tswC (t := 97) (c0 := (2 : Int32)) dX1_goat_29 (by decide) (by decide) rfl (by decide) ?_ (fun hc2 => ?_)
    · refine r_aload_n (q := 98) dX1_goat_97 rfl rfl rfl ?_
      refine r_gI (q := 101) fl_X1_188 dX1_goat_98 rfl (fun x20 => ?_)
      exact r_ireturn rfl rfl dX1_goat_101
    refine r_tswC (t := 102) (c0 := (3 : Int32)) dX1_goat_29 (by decide) (by decide) rfl (by decide) ?_ (fun hc3 => ?_)
    · refine r_aload_n (q := 103) dX1_goat_102 rfl rfl rfl ?_
      refine r_gI (q := 106) fl_X1_191 dX1_goat_103 rfl (fun x21 => ?_)
      exact r_ireturn rfl rfl dX1_goat_106
    refine r_tswC (t := 107) (c0 := (4 : Int32)) dX1_goat_29 (by decide) (by decide) rfl (by decide) ?_ (fun hc4 => ?_)
    · refine r_aload_n (q := 108) dX1_goat_107 rfl rfl rfl ?_
      refine r_gI (q := 111) fl_X1_194 dX1_goat_108 rfl (fun x22 => ?_)
      exact r_ireturn rfl rfl dX1_goat_111
    refine r_tswC (t := 112) (c0 := (5 : Int32)) dX1_goat_29 (by decide) (by decide) rfl (by decide) ?_ (fun hc5 => ?_)
    · refine r_aload_n (q := 113) dX1_goat_112 rfl rfl rfl ?_
      refine r_iload_n (q := 114) dX1_goat_113 rfl rfl rfl ?_
      refine r_ob (fun a25 ha25 => ?_)
      obtain ⟨hea25, hka25⟩ := o_at_eq ha25
      cases hea25
      refine r_callI (q := 117) (c_X1_cluesOf G h0 N _ _ _) (cl_V (ci := 0) rfl rfl (lw_V q1360 q1362 qs46 q167 q1363) (hd_X1_cluesOf) ⟨Nat.le_of_ble_eq_true rfl, Nat.le_of_ble_eq_true rfl⟩ (List.mem_singleton.mp hka25) rfl rfl rfl (Nat.le_of_ble_eq_true rfl) dX1_goat_114) rfl (fun x23 σ24 => ?_)
      exact r_ireturn rfl rfl dX1_goat_117
    refine r_tswC (t := 118) (c0 := (6 : Int32)) dX1_goat_29 (by decide) (by decide) rfl (by decide) ?_ (fun hc6 => ?_)
    · refine r_aload_n (q := 119) dX1_goat_118 rfl rfl rfl ?_
      refine r_gR (q := 122) fl_X1_33 rfl dX1_goat_119 rfl (fun x26 => ?_)
      refine r_gI (q := 125) fl_X1_200 dX1_goat_122 rfl (fun x27 => ?_)
      refine r_iload_n (q := 126) dX1_goat_125 rfl rfl rfl ?_
      refine r_callI (q := 129) (c_X1_has G h0 N _ _ _) (cl_S rfl rfl (lw_S q1364 q1117 q167 q1118) (hd_X1_has) ⟨Nat.le_of_ble_eq_true rfl, Nat.le_of_ble_eq_true rfl⟩ rfl (Nat.le_of_ble_eq_true rfl) dX1_goat_126) rfl (fun x28 σ29 => ?_)
      refine r_if_eq (q := 132) (t := 136) dX1_goat_129 rfl (by decide) (fun _ => ?_) (fun _ => ?_)
      · refine r_iconst (q := 137) (v := (0 : Int32)) dX1_goat_136 rfl (by decide) ?_
        exact r_ireturn rfl rfl dX1_goat_137
      · refine r_iconst (q := 133) (v := (1 : Int32)) dX1_goat_132 rfl (by decide) ?_
        refine r_goto (q := 137) dX1_goat_133 (by decide) ?_
        exact r_ireturn rfl rfl dX1_goat_137
    refine r_tswD (t := 138) dX1_goat_29 (by have e0 := lv_neT (a := 0) hc0 (by decide); have e1 := lv_neT (a := 1) hc1 (by decide); have e2 := lv_neT (a := 2) hc2 (by decide); have e3 := lv_neT (a := 3) hc3 (by decide); have e4 := lv_neT (a := 4) hc4 (by decide); have e5 := lv_neT (a := 5) hc5 (by decide); have e6 := lv_neT (a := 6) hc6 (by decide); omega) (by decide) ?_
    · refine r_aload_n (q := 139) dX1_goat_138 rfl rfl rfl ?_
      refine r_iconst (q := 140) (v := (1 : Int32)) dX1_goat_139 rfl (by decide) ?_
      refine r_ob (fun a32 ha32 => ?_)
      obtain ⟨hea32, hka32⟩ := o_at_eq ha32
      cases hea32
      refine r_callI (q := 143) (c_X1_no G h0 N _ _ _) (cl_V (ci := 0) rfl rfl (lw_V q492 q494 qs3 q167 q495) (hd_X1_no) ⟨Nat.le_of_ble_eq_true rfl, Nat.le_of_ble_eq_true rfl⟩ (List.mem_singleton.mp hka32) rfl rfl rfl (Nat.le_of_ble_eq_true rfl) dX1_goat_140) rfl (fun x30 σ31 => ?_)
      exact r_ireturn rfl rfl dX1_goat_143
theorem w_X7_isGoat_b26 (G : Gx) (h0 : G0 G) (N : Nat)    (σ : Mem) : Runs G mX7_isGoat rhoI σ 26 [none, none] [] (f_X7_isGoat_b26 N   σ) := by
  unfold f_X7_isGoat_b26
  refine r_iconst (q := 27) (v := (0 : Int32)) dX7_isGoat_26 rfl (by decide) ?_
  exact r_ireturnN rfl dX7_isGoat_27
theorem c_X7_isGoat (G : Gx) (h0 : G0 G) (N : Nat) (a0 : Nat) (i1 : Int32) (σ : Mem) : Ct G mX7_isGoat rhoI [vR (some a0), vI i1] σ (f_X7_isGoat N a0 i1 σ) := by
  refine Ct_of h0 (by decide) rfl (Nat.le_of_ble_eq_true rfl) (L0 := [some (vR (some a0)), some (vI i1)]) rfl ?_
  unfold f_X7_isGoat
  refine r_aload_n (q := 1) dX7_isGoat_0 rfl rfl rfl ?_
  refine r_gR (q := 4) fl_X7_442 rfl dX7_isGoat_1 rfl (fun x1 => ?_)
  refine r_ifnull (q := 7) (t := 26) dX7_isGoat_4 rfl (by decide) (fun _ => ?_) (fun _ => ?_)
  · exact r_le (w_X7_isGoat_b26 G h0 N  _) (Nat.le_refl _) trivial
  · refine r_iload_n (q := 8) dX7_isGoat_7 rfl rfl rfl ?_
    refine r_if_lt (q := 11) (t := 26) dX7_isGoat_8 rfl (by decide) (fun _ => ?_) (fun _ => ?_)
    · exact r_le (w_X7_isGoat_b26 G h0 N  _) (Nat.le_refl _) trivial
    · refine r_iload_n (q := 12) dX7_isGoat_11 rfl rfl rfl ?_
      refine r_aload_n (q := 13) dX7_isGoat_12 rfl rfl rfl ?_
      refine r_gR (q := 16) fl_X7_442 rfl dX7_isGoat_13 rfl (fun x2 => ?_)
      refine r_gI (q := 19) fl_X7_328 dX7_isGoat_16 rfl (fun x3 => ?_)
      refine r_icmp_ge (q := 22) (t := 26) dX7_isGoat_19 rfl (by decide) (fun _ => ?_) (fun _ => ?_)
      · exact r_le (w_X7_isGoat_b26 G h0 N  _) (Nat.le_refl _) trivial
      · refine r_iconst (q := 23) (v := (1 : Int32)) dX7_isGoat_22 rfl (by decide) ?_
        refine r_goto (q := 27) dX7_isGoat_23 (by decide) ?_
        exact r_ireturnN rfl dX7_isGoat_27
theorem c_X7_isHeard (G : Gx) (h0 : G0 G) (N : Nat) (a0 : Nat) (i1 : Int32) (σ : Mem) : Ct G mX7_isHeard rhoI [vR (some a0), vI i1] σ (f_X7_isHeard N a0 i1 σ) := by
  refine Ct_of h0 (by decide) rfl (Nat.le_of_ble_eq_true rfl) (L0 := [some (vR (some a0)), some (vI i1)]) rfl ?_
  unfold f_X7_isHeard
  refine r_aload_n (q := 1) dX7_isHeard_0 rfl rfl rfl ?_
  refine r_gR (q := 4) fl_X7_21 rfl dX7_isHeard_1 rfl (fun x1 => ?_)
  refine r_bipush (q := 6) (v := (17 : Int32)) dX7_isHeard_4 rfl (by decide) ?_
  refine r_iaload (q := 7) dX7_isHeard_6 rfl (fun x2 => ?_)
  refine r_iload_n (q := 8) dX7_isHeard_7 rfl rfl rfl ?_
  refine r_callI (q := 11) (c_X7_bit G h0 N _ _ _) (cl_S rfl rfl (lw_S q2331 q2332 q176 q2333) (hd_X7_bit) ⟨Nat.le_of_ble_eq_true rfl, Nat.le_of_ble_eq_true rfl⟩ rfl (Nat.le_of_ble_eq_true rfl) dX7_isHeard_8) rfl (fun x3 σ4 => ?_)
  exact r_ireturnN rfl dX7_isHeard_11
