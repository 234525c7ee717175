/-! the walks of X5_goes X5_run X1_run X5_at X1_at X7_isOpen X24_placeIn X7_fears X7_worth X7_bestFor X7_plantAt X7_eats X7_goatGoes X7_day X7_at X5_ate X1_ate -/
set_option maxRecDepth 100000
def dkwX5_goes_8 : List UInt8 := [182, 0, 139, 16, 9, 162, 0, 14, 42, 180, 0, 15, 43, 180, 0, 122, 21, 4, 79, 177]
abbrev dktX5_goes_8 : List UInt8 := dkwX5_goes_8 ++ []
def dkwX5_goes_7 : List UInt8 := [162, 0, 12, 42, 43, 28, 182, 0, 151, 167, 0, 32, 21, 4, 2, 159, 0, 26, 42, 43, 21, 4]
abbrev dktX5_goes_7 : List UInt8 := dkwX5_goes_7 ++ dktX5_goes_8
def dkwX5_goes_6 : List UInt8 := [182, 0, 139, 154, 0, 7, 4, 167, 0, 4, 3, 54, 6, 21, 6, 154, 0, 19, 21, 5, 16, 9]
abbrev dktX5_goes_6 : List UInt8 := dkwX5_goes_6 ++ dktX5_goes_7
def dkwX5_goes_5 : List UInt8 := [42, 43, 28, 182, 0, 139, 54, 5, 21, 5, 154, 0, 4, 177, 21, 4, 2, 159, 0, 17, 42, 43, 21, 4]
abbrev dktX5_goes_5 : List UInt8 := dkwX5_goes_5 ++ dktX5_goes_6
def dkwX5_goes_4 : List UInt8 := [180, 0, 15, 43, 180, 0, 122, 21, 4, 79, 42, 180, 0, 27, 43, 180, 0, 122, 92, 46, 4, 96, 79, 177]
abbrev dktX5_goes_4 : List UInt8 := dkwX5_goes_4 ++ dktX5_goes_5
def dkwX5_goes_3 : List UInt8 := [182, 0, 147, 54, 4, 42, 43, 28, 182, 0, 128, 153, 0, 35, 21, 4, 2, 160, 0, 4, 177, 42]
abbrev dktX5_goes_3 : List UInt8 := dkwX5_goes_3 ++ dktX5_goes_4
def dkwX5_goes_2 : List UInt8 := [153, 0, 22, 42, 180, 0, 15, 43, 180, 0, 122, 42, 180, 0, 15, 45, 180, 0, 122, 46, 79, 177, 42, 43]
abbrev dktX5_goes_2 : List UInt8 := dkwX5_goes_2 ++ dktX5_goes_3
def dkwX5_goes_1 : List UInt8 := [180, 0, 122, 46, 28, 159, 0, 39, 42, 28, 42, 180, 0, 15, 45, 180, 0, 122, 46, 182, 0, 125]
abbrev dktX5_goes_1 : List UInt8 := dkwX5_goes_1 ++ dktX5_goes_2
def dkwX5_goes_0 : List UInt8 := [42, 180, 0, 15, 43, 180, 0, 122, 46, 61, 43, 182, 0, 143, 78, 45, 198, 0, 52, 42, 180, 0, 15, 45]
abbrev dktX5_goes_0 : List UInt8 := dkwX5_goes_0 ++ dktX5_goes_1
theorem dksX5_goes_0 : cX5_goes.data.toList.drop 0 = dktX5_goes_0 := by decide +kernel
theorem dksX5_goes_1 : cX5_goes.data.toList.drop 24 = dktX5_goes_1 := dk_seg dksX5_goes_0 24 rfl rfl
theorem dksX5_goes_2 : cX5_goes.data.toList.drop 46 = dktX5_goes_2 := dk_seg dksX5_goes_1 22 rfl rfl
theorem dksX5_goes_3 : cX5_goes.data.toList.drop 70 = dktX5_goes_3 := dk_seg dksX5_goes_2 24 rfl rfl
theorem dksX5_goes_4 : cX5_goes.data.toList.drop 92 = dktX5_goes_4 := dk_seg dksX5_goes_3 22 rfl rfl
theorem dksX5_goes_5 : cX5_goes.data.toList.drop 116 = dktX5_goes_5 := dk_seg dksX5_goes_4 24 rfl rfl
theorem dksX5_goes_6 : cX5_goes.data.toList.drop 140 = dktX5_goes_6 := dk_seg dksX5_goes_5 24 rfl rfl
theorem dksX5_goes_7 : cX5_goes.data.toList.drop 162 = dktX5_goes_7 := dk_seg dksX5_goes_6 22 rfl rfl
theorem dksX5_goes_8 : cX5_goes.data.toList.drop 184 = dktX5_goes_8 := dk_seg dksX5_goes_7 22 rfl rfl
theorem dX5_goes_0 : decode cX5_goes 0 = .ok (.aload_n 0, 1) := dk_42 (dk_at dksX5_goes_0 0 rfl rfl)
theorem dX5_goes_1 : decode cX5_goes 1 = .ok (.getfield 15, 3) := dk_180 0 15 (dk_at dksX5_goes_0 1 rfl rfl)
theorem dX5_goes_4 : decode cX5_goes 4 = .ok (.aload_n 1, 1) := dk_43 (dk_at dksX5_goes_0 4 rfl rfl)
theorem dX5_goes_5 : decode cX5_goes 5 = .ok (.getfield 122, 3) := dk_180 0 122 (dk_at dksX5_goes_0 5 rfl rfl)
theorem dX5_goes_8 : decode cX5_goes 8 = .ok (.iaload, 1) := dk_46 (dk_at dksX5_goes_0 8 rfl rfl)
theorem dX5_goes_9 : decode cX5_goes 9 = .ok (.istore_n 2, 1) := dk_61 (dk_at dksX5_goes_0 9 rfl rfl)
theorem dX5_goes_10 : decode cX5_goes 10 = .ok (.aload_n 1, 1) := dk_43 (dk_at dksX5_goes_0 10 rfl rfl)
theorem dX5_goes_11 : decode cX5_goes 11 = .ok (.invokevirtual 143, 3) := dk_182 0 143 (dk_at dksX5_goes_0 11 rfl rfl)
theorem dX5_goes_14 : decode cX5_goes 14 = .ok (.astore_n 3, 1) := dk_78 (dk_at dksX5_goes_0 14 rfl rfl)
theorem dX5_goes_15 : decode cX5_goes 15 = .ok (.aload_n 3, 1) := dk_45 (dk_at dksX5_goes_0 15 rfl rfl)
theorem dX5_goes_16 : decode cX5_goes 16 = .ok (.ifnull 52, 3) := dk_198 0 52 (dk_at dksX5_goes_0 16 rfl rfl)
theorem dX5_goes_19 : decode cX5_goes 19 = .ok (.aload_n 0, 1) := dk_42 (dk_at dksX5_goes_0 19 rfl rfl)
theorem dX5_goes_20 : decode cX5_goes 20 = .ok (.getfield 15, 3) := dk_180 0 15 (dk_at dksX5_goes_0 20 rfl rfl)
theorem dX5_goes_23 : decode cX5_goes 23 = .ok (.aload_n 3, 1) := dk_45 (dk_at dksX5_goes_0 23 rfl rfl)
theorem dX5_goes_24 : decode cX5_goes 24 = .ok (.getfield 122, 3) := dk_180 0 122 (dk_at dksX5_goes_1 0 rfl rfl)
theorem dX5_goes_27 : decode cX5_goes 27 = .ok (.iaload, 1) := dk_46 (dk_at dksX5_goes_1 3 rfl rfl)
theorem dX5_goes_28 : decode cX5_goes 28 = .ok (.iload_n 2, 1) := dk_28 (dk_at dksX5_goes_1 4 rfl rfl)
theorem dX5_goes_29 : decode cX5_goes 29 = .ok (.if_icmp .eq 39, 3) := dk_159 0 39 (dk_at dksX5_goes_1 5 rfl rfl)
theorem dX5_goes_32 : decode cX5_goes 32 = .ok (.aload_n 0, 1) := dk_42 (dk_at dksX5_goes_1 8 rfl rfl)
theorem dX5_goes_33 : decode cX5_goes 33 = .ok (.iload_n 2, 1) := dk_28 (dk_at dksX5_goes_1 9 rfl rfl)
theorem dX5_goes_34 : decode cX5_goes 34 = .ok (.aload_n 0, 1) := dk_42 (dk_at dksX5_goes_1 10 rfl rfl)
theorem dX5_goes_35 : decode cX5_goes 35 = .ok (.getfield 15, 3) := dk_180 0 15 (dk_at dksX5_goes_1 11 rfl rfl)
theorem dX5_goes_38 : decode cX5_goes 38 = .ok (.aload_n 3, 1) := dk_45 (dk_at dksX5_goes_1 14 rfl rfl)
theorem dX5_goes_39 : decode cX5_goes 39 = .ok (.getfield 122, 3) := dk_180 0 122 (dk_at dksX5_goes_1 15 rfl rfl)
theorem dX5_goes_42 : decode cX5_goes 42 = .ok (.iaload, 1) := dk_46 (dk_at dksX5_goes_1 18 rfl rfl)
theorem dX5_goes_43 : decode cX5_goes 43 = .ok (.invokevirtual 125, 3) := dk_182 0 125 (dk_at dksX5_goes_1 19 rfl rfl)
theorem dX5_goes_46 : decode cX5_goes 46 = .ok (.ifCond .eq 22, 3) := dk_153 0 22 (dk_at dksX5_goes_2 0 rfl rfl)
theorem dX5_goes_49 : decode cX5_goes 49 = .ok (.aload_n 0, 1) := dk_42 (dk_at dksX5_goes_2 3 rfl rfl)
theorem dX5_goes_50 : decode cX5_goes 50 = .ok (.getfield 15, 3) := dk_180 0 15 (dk_at dksX5_goes_2 4 rfl rfl)
theorem dX5_goes_53 : decode cX5_goes 53 = .ok (.aload_n 1, 1) := dk_43 (dk_at dksX5_goes_2 7 rfl rfl)
theorem dX5_goes_54 : decode cX5_goes 54 = .ok (.getfield 122, 3) := dk_180 0 122 (dk_at dksX5_goes_2 8 rfl rfl)
theorem dX5_goes_57 : decode cX5_goes 57 = .ok (.aload_n 0, 1) := dk_42 (dk_at dksX5_goes_2 11 rfl rfl)
theorem dX5_goes_58 : decode cX5_goes 58 = .ok (.getfield 15, 3) := dk_180 0 15 (dk_at dksX5_goes_2 12 rfl rfl)
theorem dX5_goes_61 : decode cX5_goes 61 = .ok (.aload_n 3, 1) := dk_45 (dk_at dksX5_goes_2 15 rfl rfl)
theorem dX5_goes_62 : decode cX5_goes 62 = .ok (.getfield 122, 3) := dk_180 0 122 (dk_at dksX5_goes_2 16 rfl rfl)
theorem dX5_goes_65 : decode cX5_goes 65 = .ok (.iaload, 1) := dk_46 (dk_at dksX5_goes_2 19 rfl rfl)
theorem dX5_goes_66 : decode cX5_goes 66 = .ok (.iastore, 1) := dk_79 (dk_at dksX5_goes_2 20 rfl rfl)
theorem dX5_goes_67 : decode cX5_goes 67 = .ok (.return_, 1) := dk_177 (dk_at dksX5_goes_2 21 rfl rfl)
theorem dX5_goes_68 : decode cX5_goes 68 = .ok (.aload_n 0, 1) := dk_42 (dk_at dksX5_goes_2 22 rfl rfl)
theorem dX5_goes_69 : decode cX5_goes 69 = .ok (.aload_n 1, 1) := dk_43 (dk_at dksX5_goes_2 23 rfl rfl)
theorem dX5_goes_70 : decode cX5_goes 70 = .ok (.invokevirtual 147, 3) := dk_182 0 147 (dk_at dksX5_goes_3 0 rfl rfl)
theorem dX5_goes_73 : decode cX5_goes 73 = .ok (.istore 4, 2) := dk_54 4 (dk_at dksX5_goes_3 3 rfl rfl)
theorem dX5_goes_75 : decode cX5_goes 75 = .ok (.aload_n 0, 1) := dk_42 (dk_at dksX5_goes_3 5 rfl rfl)
theorem dX5_goes_76 : decode cX5_goes 76 = .ok (.aload_n 1, 1) := dk_43 (dk_at dksX5_goes_3 6 rfl rfl)
theorem dX5_goes_77 : decode cX5_goes 77 = .ok (.iload_n 2, 1) := dk_28 (dk_at dksX5_goes_3 7 rfl rfl)
theorem dX5_goes_78 : decode cX5_goes 78 = .ok (.invokevirtual 128, 3) := dk_182 0 128 (dk_at dksX5_goes_3 8 rfl rfl)
theorem dX5_goes_81 : decode cX5_goes 81 = .ok (.ifCond .eq 35, 3) := dk_153 0 35 (dk_at dksX5_goes_3 11 rfl rfl)
theorem dX5_goes_84 : decode cX5_goes 84 = .ok (.iload 4, 2) := dk_21 4 (dk_at dksX5_goes_3 14 rfl rfl)
theorem dX5_goes_86 : decode cX5_goes 86 = .ok (.iconst (-1), 1) := dk_2 (dk_at dksX5_goes_3 16 rfl rfl)
theorem dX5_goes_87 : decode cX5_goes 87 = .ok (.if_icmp .ne 4, 3) := dk_160 0 4 (dk_at dksX5_goes_3 17 rfl rfl)
theorem dX5_goes_90 : decode cX5_goes 90 = .ok (.return_, 1) := dk_177 (dk_at dksX5_goes_3 20 rfl rfl)
theorem dX5_goes_91 : decode cX5_goes 91 = .ok (.aload_n 0, 1) := dk_42 (dk_at dksX5_goes_3 21 rfl rfl)
theorem dX5_goes_92 : decode cX5_goes 92 = .ok (.getfield 15, 3) := dk_180 0 15 (dk_at dksX5_goes_4 0 rfl rfl)
theorem dX5_goes_95 : decode cX5_goes 95 = .ok (.aload_n 1, 1) := dk_43 (dk_at dksX5_goes_4 3 rfl rfl)
theorem dX5_goes_96 : decode cX5_goes 96 = .ok (.getfield 122, 3) := dk_180 0 122 (dk_at dksX5_goes_4 4 rfl rfl)
theorem dX5_goes_99 : decode cX5_goes 99 = .ok (.iload 4, 2) := dk_21 4 (dk_at dksX5_goes_4 7 rfl rfl)
theorem dX5_goes_101 : decode cX5_goes 101 = .ok (.iastore, 1) := dk_79 (dk_at dksX5_goes_4 9 rfl rfl)
theorem dX5_goes_102 : decode cX5_goes 102 = .ok (.aload_n 0, 1) := dk_42 (dk_at dksX5_goes_4 10 rfl rfl)
theorem dX5_goes_103 : decode cX5_goes 103 = .ok (.getfield 27, 3) := dk_180 0 27 (dk_at dksX5_goes_4 11 rfl rfl)
theorem dX5_goes_106 : decode cX5_goes 106 = .ok (.aload_n 1, 1) := dk_43 (dk_at dksX5_goes_4 14 rfl rfl)
theorem dX5_goes_107 : decode cX5_goes 107 = .ok (.getfield 122, 3) := dk_180 0 122 (dk_at dksX5_goes_4 15 rfl rfl)
theorem dX5_goes_110 : decode cX5_goes 110 = .ok (.dup2, 1) := dk_92 (dk_at dksX5_goes_4 18 rfl rfl)
theorem dX5_goes_111 : decode cX5_goes 111 = .ok (.iaload, 1) := dk_46 (dk_at dksX5_goes_4 19 rfl rfl)
theorem dX5_goes_112 : decode cX5_goes 112 = .ok (.iconst 1, 1) := dk_4 (dk_at dksX5_goes_4 20 rfl rfl)
theorem dX5_goes_113 : decode cX5_goes 113 = .ok (.iadd, 1) := dk_96 (dk_at dksX5_goes_4 21 rfl rfl)
theorem dX5_goes_114 : decode cX5_goes 114 = .ok (.iastore, 1) := dk_79 (dk_at dksX5_goes_4 22 rfl rfl)
theorem dX5_goes_115 : decode cX5_goes 115 = .ok (.return_, 1) := dk_177 (dk_at dksX5_goes_4 23 rfl rfl)
theorem dX5_goes_116 : decode cX5_goes 116 = .ok (.aload_n 0, 1) := dk_42 (dk_at dksX5_goes_5 0 rfl rfl)
theorem dX5_goes_117 : decode cX5_goes 117 = .ok (.aload_n 1, 1) := dk_43 (dk_at dksX5_goes_5 1 rfl rfl)
theorem dX5_goes_118 : decode cX5_goes 118 = .ok (.iload_n 2, 1) := dk_28 (dk_at dksX5_goes_5 2 rfl rfl)
theorem dX5_goes_119 : decode cX5_goes 119 = .ok (.invokevirtual 139, 3) := dk_182 0 139 (dk_at dksX5_goes_5 3 rfl rfl)
theorem dX5_goes_122 : decode cX5_goes 122 = .ok (.istore 5, 2) := dk_54 5 (dk_at dksX5_goes_5 6 rfl rfl)
theorem dX5_goes_124 : decode cX5_goes 124 = .ok (.iload 5, 2) := dk_21 5 (dk_at dksX5_goes_5 8 rfl rfl)
theorem dX5_goes_126 : decode cX5_goes 126 = .ok (.ifCond .ne 4, 3) := dk_154 0 4 (dk_at dksX5_goes_5 10 rfl rfl)
theorem dX5_goes_129 : decode cX5_goes 129 = .ok (.return_, 1) := dk_177 (dk_at dksX5_goes_5 13 rfl rfl)
theorem dX5_goes_130 : decode cX5_goes 130 = .ok (.iload 4, 2) := dk_21 4 (dk_at dksX5_goes_5 14 rfl rfl)
theorem dX5_goes_132 : decode cX5_goes 132 = .ok (.iconst (-1), 1) := dk_2 (dk_at dksX5_goes_5 16 rfl rfl)
theorem dX5_goes_133 : decode cX5_goes 133 = .ok (.if_icmp .eq 17, 3) := dk_159 0 17 (dk_at dksX5_goes_5 17 rfl rfl)
theorem dX5_goes_136 : decode cX5_goes 136 = .ok (.aload_n 0, 1) := dk_42 (dk_at dksX5_goes_5 20 rfl rfl)
theorem dX5_goes_137 : decode cX5_goes 137 = .ok (.aload_n 1, 1) := dk_43 (dk_at dksX5_goes_5 21 rfl rfl)
theorem dX5_goes_138 : decode cX5_goes 138 = .ok (.iload 4, 2) := dk_21 4 (dk_at dksX5_goes_5 22 rfl rfl)
theorem dX5_goes_140 : decode cX5_goes 140 = .ok (.invokevirtual 139, 3) := dk_182 0 139 (dk_at dksX5_goes_6 0 rfl rfl)
theorem dX5_goes_143 : decode cX5_goes 143 = .ok (.ifCond .ne 7, 3) := dk_154 0 7 (dk_at dksX5_goes_6 3 rfl rfl)
theorem dX5_goes_146 : decode cX5_goes 146 = .ok (.iconst 1, 1) := dk_4 (dk_at dksX5_goes_6 6 rfl rfl)
theorem dX5_goes_147 : decode cX5_goes 147 = .ok (.goto 4, 3) := dk_167 0 4 (dk_at dksX5_goes_6 7 rfl rfl)
theorem dX5_goes_150 : decode cX5_goes 150 = .ok (.iconst 0, 1) := dk_3 (dk_at dksX5_goes_6 10 rfl rfl)
theorem dX5_goes_151 : decode cX5_goes 151 = .ok (.istore 6, 2) := dk_54 6 (dk_at dksX5_goes_6 11 rfl rfl)
theorem dX5_goes_153 : decode cX5_goes 153 = .ok (.iload 6, 2) := dk_21 6 (dk_at dksX5_goes_6 13 rfl rfl)
theorem dX5_goes_155 : decode cX5_goes 155 = .ok (.ifCond .ne 19, 3) := dk_154 0 19 (dk_at dksX5_goes_6 15 rfl rfl)
theorem dX5_goes_158 : decode cX5_goes 158 = .ok (.iload 5, 2) := dk_21 5 (dk_at dksX5_goes_6 18 rfl rfl)
theorem dX5_goes_160 : decode cX5_goes 160 = .ok (.bipush 9, 2) := dk_16 9 (dk_at dksX5_goes_6 20 rfl rfl)
theorem dX5_goes_162 : decode cX5_goes 162 = .ok (.if_icmp .ge 12, 3) := dk_162 0 12 (dk_at dksX5_goes_7 0 rfl rfl)
theorem dX5_goes_165 : decode cX5_goes 165 = .ok (.aload_n 0, 1) := dk_42 (dk_at dksX5_goes_7 3 rfl rfl)
theorem dX5_goes_166 : decode cX5_goes 166 = .ok (.aload_n 1, 1) := dk_43 (dk_at dksX5_goes_7 4 rfl rfl)
theorem dX5_goes_167 : decode cX5_goes 167 = .ok (.iload_n 2, 1) := dk_28 (dk_at dksX5_goes_7 5 rfl rfl)
theorem dX5_goes_168 : decode cX5_goes 168 = .ok (.invokevirtual 151, 3) := dk_182 0 151 (dk_at dksX5_goes_7 6 rfl rfl)
theorem dX5_goes_171 : decode cX5_goes 171 = .ok (.goto 32, 3) := dk_167 0 32 (dk_at dksX5_goes_7 9 rfl rfl)
theorem dX5_goes_174 : decode cX5_goes 174 = .ok (.iload 4, 2) := dk_21 4 (dk_at dksX5_goes_7 12 rfl rfl)
theorem dX5_goes_176 : decode cX5_goes 176 = .ok (.iconst (-1), 1) := dk_2 (dk_at dksX5_goes_7 14 rfl rfl)
theorem dX5_goes_177 : decode cX5_goes 177 = .ok (.if_icmp .eq 26, 3) := dk_159 0 26 (dk_at dksX5_goes_7 15 rfl rfl)
theorem dX5_goes_180 : decode cX5_goes 180 = .ok (.aload_n 0, 1) := dk_42 (dk_at dksX5_goes_7 18 rfl rfl)
theorem dX5_goes_181 : decode cX5_goes 181 = .ok (.aload_n 1, 1) := dk_43 (dk_at dksX5_goes_7 19 rfl rfl)
theorem dX5_goes_182 : decode cX5_goes 182 = .ok (.iload 4, 2) := dk_21 4 (dk_at dksX5_goes_7 20 rfl rfl)
theorem dX5_goes_184 : decode cX5_goes 184 = .ok (.invokevirtual 139, 3) := dk_182 0 139 (dk_at dksX5_goes_8 0 rfl rfl)
theorem dX5_goes_187 : decode cX5_goes 187 = .ok (.bipush 9, 2) := dk_16 9 (dk_at dksX5_goes_8 3 rfl rfl)
theorem dX5_goes_189 : decode cX5_goes 189 = .ok (.if_icmp .ge 14, 3) := dk_162 0 14 (dk_at dksX5_goes_8 5 rfl rfl)
theorem dX5_goes_192 : decode cX5_goes 192 = .ok (.aload_n 0, 1) := dk_42 (dk_at dksX5_goes_8 8 rfl rfl)
theorem dX5_goes_193 : decode cX5_goes 193 = .ok (.getfield 15, 3) := dk_180 0 15 (dk_at dksX5_goes_8 9 rfl rfl)
theorem dX5_goes_196 : decode cX5_goes 196 = .ok (.aload_n 1, 1) := dk_43 (dk_at dksX5_goes_8 12 rfl rfl)
theorem dX5_goes_197 : decode cX5_goes 197 = .ok (.getfield 122, 3) := dk_180 0 122 (dk_at dksX5_goes_8 13 rfl rfl)
theorem dX5_goes_200 : decode cX5_goes 200 = .ok (.iload 4, 2) := dk_21 4 (dk_at dksX5_goes_8 16 rfl rfl)
theorem dX5_goes_202 : decode cX5_goes 202 = .ok (.iastore, 1) := dk_79 (dk_at dksX5_goes_8 18 rfl rfl)
theorem dX5_goes_203 : decode cX5_goes 203 = .ok (.return_, 1) := dk_177 (dk_at dksX5_goes_8 19 rfl rfl)
def dkwX5_run_8 : List UInt8 := [180, 0, 74, 4, 96, 181, 0, 74, 167, 255, 163, 177]
abbrev dktX5_run_8 : List UInt8 := dkwX5_run_8 ++ []
def dkwX5_run_7 : List UInt8 := [21, 4, 104, 42, 180, 0, 74, 96, 42, 180, 0, 15, 21, 4, 46, 79, 132, 4, 1, 167, 255, 195, 42, 89]
abbrev dktX5_run_7 : List UInt8 := dkwX5_run_7 ++ dktX5_run_8
def dkwX5_run_6 : List UInt8 := [180, 0, 74, 96, 3, 79, 42, 43, 180, 0, 65, 21, 4, 50, 182, 0, 84, 42, 180, 0, 18, 16, 12]
abbrev dktX5_run_6 : List UInt8 := dkwX5_run_6 ++ dktX5_run_7
def dkwX5_run_5 : List UInt8 := [3, 54, 4, 21, 4, 43, 180, 0, 62, 162, 0, 58, 42, 180, 0, 24, 16, 12, 21, 4, 104, 42]
abbrev dktX5_run_5 : List UInt8 := dkwX5_run_5 ++ dktX5_run_6
def dkwX5_run_4 : List UInt8 := [167, 255, 219, 42, 3, 181, 0, 74, 42, 180, 0, 74, 43, 180, 0, 77, 162, 0, 88, 42, 29, 182, 0, 80]
abbrev dktX5_run_4 : List UInt8 := dkwX5_run_4 ++ dktX5_run_5
def dkwX5_run_3 : List UInt8 := [43, 180, 0, 65, 21, 4, 50, 180, 0, 69, 79, 42, 180, 0, 27, 21, 4, 3, 79, 132, 4, 1]
abbrev dktX5_run_3 : List UInt8 := dkwX5_run_3 ++ dktX5_run_4
def dkwX5_run_2 : List UInt8 := [132, 4, 1, 167, 255, 221, 3, 54, 4, 21, 4, 43, 180, 0, 62, 162, 0, 34, 42, 180, 0, 15, 21, 4]
abbrev dktX5_run_2 : List UInt8 := dkwX5_run_2 ++ dktX5_run_3
def dkwX5_run_1 : List UInt8 := [180, 0, 47, 21, 4, 50, 180, 0, 51, 3, 42, 180, 0, 9, 7, 21, 4, 104, 7, 184, 0, 56]
abbrev dktX5_run_1 : List UInt8 := dkwX5_run_1 ++ dktX5_run_2
def dkwX5_run_0 : List UInt8 := [42, 43, 181, 0, 33, 42, 44, 181, 0, 37, 3, 54, 4, 21, 4, 43, 180, 0, 41, 162, 0, 32, 43]
abbrev dktX5_run_0 : List UInt8 := dkwX5_run_0 ++ dktX5_run_1
theorem dksX5_run_0 : cX5_run.data.toList.drop 0 = dktX5_run_0 := by decide +kernel
theorem dksX5_run_1 : cX5_run.data.toList.drop 23 = dktX5_run_1 := dk_seg dksX5_run_0 23 rfl rfl
theorem dksX5_run_2 : cX5_run.data.toList.drop 45 = dktX5_run_2 := dk_seg dksX5_run_1 22 rfl rfl
theorem dksX5_run_3 : cX5_run.data.toList.drop 69 = dktX5_run_3 := dk_seg dksX5_run_2 24 rfl rfl
theorem dksX5_run_4 : cX5_run.data.toList.drop 91 = dktX5_run_4 := dk_seg dksX5_run_3 22 rfl rfl
theorem dksX5_run_5 : cX5_run.data.toList.drop 115 = dktX5_run_5 := dk_seg dksX5_run_4 24 rfl rfl
theorem dksX5_run_6 : cX5_run.data.toList.drop 137 = dktX5_run_6 := dk_seg dksX5_run_5 22 rfl rfl
theorem dksX5_run_7 : cX5_run.data.toList.drop 160 = dktX5_run_7 := dk_seg dksX5_run_6 23 rfl rfl
theorem dksX5_run_8 : cX5_run.data.toList.drop 184 = dktX5_run_8 := dk_seg dksX5_run_7 24 rfl rfl
theorem dX5_run_0 : decode cX5_run 0 = .ok (.aload_n 0, 1) := dk_42 (dk_at dksX5_run_0 0 rfl rfl)
theorem dX5_run_1 : decode cX5_run 1 = .ok (.aload_n 1, 1) := dk_43 (dk_at dksX5_run_0 1 rfl rfl)
theorem dX5_run_2 : decode cX5_run 2 = .ok (.putfield 33, 3) := dk_181 0 33 (dk_at dksX5_run_0 2 rfl rfl)
theorem dX5_run_5 : decode cX5_run 5 = .ok (.aload_n 0, 1) := dk_42 (dk_at dksX5_run_0 5 rfl rfl)
theorem dX5_run_6 : decode cX5_run 6 = .ok (.aload_n 2, 1) := dk_44 (dk_at dksX5_run_0 6 rfl rfl)
theorem dX5_run_7 : decode cX5_run 7 = .ok (.putfield 37, 3) := dk_181 0 37 (dk_at dksX5_run_0 7 rfl rfl)
theorem dX5_run_10 : decode cX5_run 10 = .ok (.iconst 0, 1) := dk_3 (dk_at dksX5_run_0 10 rfl rfl)
theorem dX5_run_11 : decode cX5_run 11 = .ok (.istore 4, 2) := dk_54 4 (dk_at dksX5_run_0 11 rfl rfl)
theorem dX5_run_13 : decode cX5_run 13 = .ok (.iload 4, 2) := dk_21 4 (dk_at dksX5_run_0 13 rfl rfl)
theorem dX5_run_15 : decode cX5_run 15 = .ok (.aload_n 1, 1) := dk_43 (dk_at dksX5_run_0 15 rfl rfl)
theorem dX5_run_16 : decode cX5_run 16 = .ok (.getfield 41, 3) := dk_180 0 41 (dk_at dksX5_run_0 16 rfl rfl)
theorem dX5_run_19 : decode cX5_run 19 = .ok (.if_icmp .ge 32, 3) := dk_162 0 32 (dk_at dksX5_run_0 19 rfl rfl)
theorem dX5_run_22 : decode cX5_run 22 = .ok (.aload_n 1, 1) := dk_43 (dk_at dksX5_run_0 22 rfl rfl)
theorem dX5_run_23 : decode cX5_run 23 = .ok (.getfield 47, 3) := dk_180 0 47 (dk_at dksX5_run_1 0 rfl rfl)
theorem dX5_run_26 : decode cX5_run 26 = .ok (.iload 4, 2) := dk_21 4 (dk_at dksX5_run_1 3 rfl rfl)
theorem dX5_run_28 : decode cX5_run 28 = .ok (.aaload, 1) := dk_50 (dk_at dksX5_run_1 5 rfl rfl)
theorem dX5_run_29 : decode cX5_run 29 = .ok (.getfield 51, 3) := dk_180 0 51 (dk_at dksX5_run_1 6 rfl rfl)
theorem dX5_run_32 : decode cX5_run 32 = .ok (.iconst 0, 1) := dk_3 (dk_at dksX5_run_1 9 rfl rfl)
theorem dX5_run_33 : decode cX5_run 33 = .ok (.aload_n 0, 1) := dk_42 (dk_at dksX5_run_1 10 rfl rfl)
theorem dX5_run_34 : decode cX5_run 34 = .ok (.getfield 9, 3) := dk_180 0 9 (dk_at dksX5_run_1 11 rfl rfl)
theorem dX5_run_37 : decode cX5_run 37 = .ok (.iconst 4, 1) := dk_7 (dk_at dksX5_run_1 14 rfl rfl)
theorem dX5_run_38 : decode cX5_run 38 = .ok (.iload 4, 2) := dk_21 4 (dk_at dksX5_run_1 15 rfl rfl)
theorem dX5_run_40 : decode cX5_run 40 = .ok (.imul, 1) := dk_104 (dk_at dksX5_run_1 17 rfl rfl)
theorem dX5_run_41 : decode cX5_run 41 = .ok (.iconst 4, 1) := dk_7 (dk_at dksX5_run_1 18 rfl rfl)
theorem dX5_run_42 : decode cX5_run 42 = .ok (.invokestatic 56, 3) := dk_184 0 56 (dk_at dksX5_run_1 19 rfl rfl)
theorem dX5_run_45 : decode cX5_run 45 = .ok (.iinc 4 1, 3) := dk_132 4 1 (dk_at dksX5_run_2 0 rfl rfl)
theorem dX5_run_48 : decode cX5_run 48 = .ok (.goto (-35), 3) := dk_167 255 221 (dk_at dksX5_run_2 3 rfl rfl)
theorem dX5_run_51 : decode cX5_run 51 = .ok (.iconst 0, 1) := dk_3 (dk_at dksX5_run_2 6 rfl rfl)
theorem dX5_run_52 : decode cX5_run 52 = .ok (.istore 4, 2) := dk_54 4 (dk_at dksX5_run_2 7 rfl rfl)
theorem dX5_run_54 : decode cX5_run 54 = .ok (.iload 4, 2) := dk_21 4 (dk_at dksX5_run_2 9 rfl rfl)
theorem dX5_run_56 : decode cX5_run 56 = .ok (.aload_n 1, 1) := dk_43 (dk_at dksX5_run_2 11 rfl rfl)
theorem dX5_run_57 : decode cX5_run 57 = .ok (.getfield 62, 3) := dk_180 0 62 (dk_at dksX5_run_2 12 rfl rfl)
theorem dX5_run_60 : decode cX5_run 60 = .ok (.if_icmp .ge 34, 3) := dk_162 0 34 (dk_at dksX5_run_2 15 rfl rfl)
theorem dX5_run_63 : decode cX5_run 63 = .ok (.aload_n 0, 1) := dk_42 (dk_at dksX5_run_2 18 rfl rfl)
theorem dX5_run_64 : decode cX5_run 64 = .ok (.getfield 15, 3) := dk_180 0 15 (dk_at dksX5_run_2 19 rfl rfl)
theorem dX5_run_67 : decode cX5_run 67 = .ok (.iload 4, 2) := dk_21 4 (dk_at dksX5_run_2 22 rfl rfl)
theorem dX5_run_69 : decode cX5_run 69 = .ok (.aload_n 1, 1) := dk_43 (dk_at dksX5_run_3 0 rfl rfl)
theorem dX5_run_70 : decode cX5_run 70 = .ok (.getfield 65, 3) := dk_180 0 65 (dk_at dksX5_run_3 1 rfl rfl)
theorem dX5_run_73 : decode cX5_run 73 = .ok (.iload 4, 2) := dk_21 4 (dk_at dksX5_run_3 4 rfl rfl)
theorem dX5_run_75 : decode cX5_run 75 = .ok (.aaload, 1) := dk_50 (dk_at dksX5_run_3 6 rfl rfl)
theorem dX5_run_76 : decode cX5_run 76 = .ok (.getfield 69, 3) := dk_180 0 69 (dk_at dksX5_run_3 7 rfl rfl)
theorem dX5_run_79 : decode cX5_run 79 = .ok (.iastore, 1) := dk_79 (dk_at dksX5_run_3 10 rfl rfl)
theorem dX5_run_80 : decode cX5_run 80 = .ok (.aload_n 0, 1) := dk_42 (dk_at dksX5_run_3 11 rfl rfl)
theorem dX5_run_81 : decode cX5_run 81 = .ok (.getfield 27, 3) := dk_180 0 27 (dk_at dksX5_run_3 12 rfl rfl)
theorem dX5_run_84 : decode cX5_run 84 = .ok (.iload 4, 2) := dk_21 4 (dk_at dksX5_run_3 15 rfl rfl)
theorem dX5_run_86 : decode cX5_run 86 = .ok (.iconst 0, 1) := dk_3 (dk_at dksX5_run_3 17 rfl rfl)
theorem dX5_run_87 : decode cX5_run 87 = .ok (.iastore, 1) := dk_79 (dk_at dksX5_run_3 18 rfl rfl)
theorem dX5_run_88 : decode cX5_run 88 = .ok (.iinc 4 1, 3) := dk_132 4 1 (dk_at dksX5_run_3 19 rfl rfl)
theorem dX5_run_91 : decode cX5_run 91 = .ok (.goto (-37), 3) := dk_167 255 219 (dk_at dksX5_run_4 0 rfl rfl)
theorem dX5_run_94 : decode cX5_run 94 = .ok (.aload_n 0, 1) := dk_42 (dk_at dksX5_run_4 3 rfl rfl)
theorem dX5_run_95 : decode cX5_run 95 = .ok (.iconst 0, 1) := dk_3 (dk_at dksX5_run_4 4 rfl rfl)
theorem dX5_run_96 : decode cX5_run 96 = .ok (.putfield 74, 3) := dk_181 0 74 (dk_at dksX5_run_4 5 rfl rfl)
theorem dX5_run_99 : decode cX5_run 99 = .ok (.aload_n 0, 1) := dk_42 (dk_at dksX5_run_4 8 rfl rfl)
theorem dX5_run_100 : decode cX5_run 100 = .ok (.getfield 74, 3) := dk_180 0 74 (dk_at dksX5_run_4 9 rfl rfl)
theorem dX5_run_103 : decode cX5_run 103 = .ok (.aload_n 1, 1) := dk_43 (dk_at dksX5_run_4 12 rfl rfl)
theorem dX5_run_104 : decode cX5_run 104 = .ok (.getfield 77, 3) := dk_180 0 77 (dk_at dksX5_run_4 13 rfl rfl)
theorem dX5_run_107 : decode cX5_run 107 = .ok (.if_icmp .ge 88, 3) := dk_162 0 88 (dk_at dksX5_run_4 16 rfl rfl)
theorem dX5_run_110 : decode cX5_run 110 = .ok (.aload_n 0, 1) := dk_42 (dk_at dksX5_run_4 19 rfl rfl)
theorem dX5_run_111 : decode cX5_run 111 = .ok (.iload_n 3, 1) := dk_29 (dk_at dksX5_run_4 20 rfl rfl)
theorem dX5_run_112 : decode cX5_run 112 = .ok (.invokevirtual 80, 3) := dk_182 0 80 (dk_at dksX5_run_4 21 rfl rfl)
theorem dX5_run_115 : decode cX5_run 115 = .ok (.iconst 0, 1) := dk_3 (dk_at dksX5_run_5 0 rfl rfl)
theorem dX5_run_116 : decode cX5_run 116 = .ok (.istore 4, 2) := dk_54 4 (dk_at dksX5_run_5 1 rfl rfl)
theorem dX5_run_118 : decode cX5_run 118 = .ok (.iload 4, 2) := dk_21 4 (dk_at dksX5_run_5 3 rfl rfl)
theorem dX5_run_120 : decode cX5_run 120 = .ok (.aload_n 1, 1) := dk_43 (dk_at dksX5_run_5 5 rfl rfl)
theorem dX5_run_121 : decode cX5_run 121 = .ok (.getfield 62, 3) := dk_180 0 62 (dk_at dksX5_run_5 6 rfl rfl)
theorem dX5_run_124 : decode cX5_run 124 = .ok (.if_icmp .ge 58, 3) := dk_162 0 58 (dk_at dksX5_run_5 9 rfl rfl)
theorem dX5_run_127 : decode cX5_run 127 = .ok (.aload_n 0, 1) := dk_42 (dk_at dksX5_run_5 12 rfl rfl)
theorem dX5_run_128 : decode cX5_run 128 = .ok (.getfield 24, 3) := dk_180 0 24 (dk_at dksX5_run_5 13 rfl rfl)
theorem dX5_run_131 : decode cX5_run 131 = .ok (.bipush 12, 2) := dk_16 12 (dk_at dksX5_run_5 16 rfl rfl)
theorem dX5_run_133 : decode cX5_run 133 = .ok (.iload 4, 2) := dk_21 4 (dk_at dksX5_run_5 18 rfl rfl)
theorem dX5_run_135 : decode cX5_run 135 = .ok (.imul, 1) := dk_104 (dk_at dksX5_run_5 20 rfl rfl)
theorem dX5_run_136 : decode cX5_run 136 = .ok (.aload_n 0, 1) := dk_42 (dk_at dksX5_run_5 21 rfl rfl)
theorem dX5_run_137 : decode cX5_run 137 = .ok (.getfield 74, 3) := dk_180 0 74 (dk_at dksX5_run_6 0 rfl rfl)
theorem dX5_run_140 : decode cX5_run 140 = .ok (.iadd, 1) := dk_96 (dk_at dksX5_run_6 3 rfl rfl)
theorem dX5_run_141 : decode cX5_run 141 = .ok (.iconst 0, 1) := dk_3 (dk_at dksX5_run_6 4 rfl rfl)
theorem dX5_run_142 : decode cX5_run 142 = .ok (.iastore, 1) := dk_79 (dk_at dksX5_run_6 5 rfl rfl)
theorem dX5_run_143 : decode cX5_run 143 = .ok (.aload_n 0, 1) := dk_42 (dk_at dksX5_run_6 6 rfl rfl)
theorem dX5_run_144 : decode cX5_run 144 = .ok (.aload_n 1, 1) := dk_43 (dk_at dksX5_run_6 7 rfl rfl)
theorem dX5_run_145 : decode cX5_run 145 = .ok (.getfield 65, 3) := dk_180 0 65 (dk_at dksX5_run_6 8 rfl rfl)
theorem dX5_run_148 : decode cX5_run 148 = .ok (.iload 4, 2) := dk_21 4 (dk_at dksX5_run_6 11 rfl rfl)
theorem dX5_run_150 : decode cX5_run 150 = .ok (.aaload, 1) := dk_50 (dk_at dksX5_run_6 13 rfl rfl)
theorem dX5_run_151 : decode cX5_run 151 = .ok (.invokevirtual 84, 3) := dk_182 0 84 (dk_at dksX5_run_6 14 rfl rfl)
theorem dX5_run_154 : decode cX5_run 154 = .ok (.aload_n 0, 1) := dk_42 (dk_at dksX5_run_6 17 rfl rfl)
theorem dX5_run_155 : decode cX5_run 155 = .ok (.getfield 18, 3) := dk_180 0 18 (dk_at dksX5_run_6 18 rfl rfl)
theorem dX5_run_158 : decode cX5_run 158 = .ok (.bipush 12, 2) := dk_16 12 (dk_at dksX5_run_6 21 rfl rfl)
theorem dX5_run_160 : decode cX5_run 160 = .ok (.iload 4, 2) := dk_21 4 (dk_at dksX5_run_7 0 rfl rfl)
theorem dX5_run_162 : decode cX5_run 162 = .ok (.imul, 1) := dk_104 (dk_at dksX5_run_7 2 rfl rfl)
theorem dX5_run_163 : decode cX5_run 163 = .ok (.aload_n 0, 1) := dk_42 (dk_at dksX5_run_7 3 rfl rfl)
theorem dX5_run_164 : decode cX5_run 164 = .ok (.getfield 74, 3) := dk_180 0 74 (dk_at dksX5_run_7 4 rfl rfl)
theorem dX5_run_167 : decode cX5_run 167 = .ok (.iadd, 1) := dk_96 (dk_at dksX5_run_7 7 rfl rfl)
theorem dX5_run_168 : decode cX5_run 168 = .ok (.aload_n 0, 1) := dk_42 (dk_at dksX5_run_7 8 rfl rfl)
theorem dX5_run_169 : decode cX5_run 169 = .ok (.getfield 15, 3) := dk_180 0 15 (dk_at dksX5_run_7 9 rfl rfl)
theorem dX5_run_172 : decode cX5_run 172 = .ok (.iload 4, 2) := dk_21 4 (dk_at dksX5_run_7 12 rfl rfl)
theorem dX5_run_174 : decode cX5_run 174 = .ok (.iaload, 1) := dk_46 (dk_at dksX5_run_7 14 rfl rfl)
theorem dX5_run_175 : decode cX5_run 175 = .ok (.iastore, 1) := dk_79 (dk_at dksX5_run_7 15 rfl rfl)
theorem dX5_run_176 : decode cX5_run 176 = .ok (.iinc 4 1, 3) := dk_132 4 1 (dk_at dksX5_run_7 16 rfl rfl)
theorem dX5_run_179 : decode cX5_run 179 = .ok (.goto (-61), 3) := dk_167 255 195 (dk_at dksX5_run_7 19 rfl rfl)
theorem dX5_run_182 : decode cX5_run 182 = .ok (.aload_n 0, 1) := dk_42 (dk_at dksX5_run_7 22 rfl rfl)
theorem dX5_run_183 : decode cX5_run 183 = .ok (.dup, 1) := dk_89 (dk_at dksX5_run_7 23 rfl rfl)
theorem dX5_run_184 : decode cX5_run 184 = .ok (.getfield 74, 3) := dk_180 0 74 (dk_at dksX5_run_8 0 rfl rfl)
theorem dX5_run_187 : decode cX5_run 187 = .ok (.iconst 1, 1) := dk_4 (dk_at dksX5_run_8 3 rfl rfl)
theorem dX5_run_188 : decode cX5_run 188 = .ok (.iadd, 1) := dk_96 (dk_at dksX5_run_8 4 rfl rfl)
theorem dX5_run_189 : decode cX5_run 189 = .ok (.putfield 74, 3) := dk_181 0 74 (dk_at dksX5_run_8 5 rfl rfl)
theorem dX5_run_192 : decode cX5_run 192 = .ok (.goto (-93), 3) := dk_167 255 163 (dk_at dksX5_run_8 8 rfl rfl)
theorem dX5_run_195 : decode cX5_run 195 = .ok (.return_, 1) := dk_177 (dk_at dksX5_run_8 11 rfl rfl)
def dkwX1_run_0 : List UInt8 := [42, 180, 0, 46, 42, 180, 0, 104, 42, 180, 0, 33, 27, 182, 0, 251, 177]
abbrev dktX1_run_0 : List UInt8 := dkwX1_run_0 ++ []
theorem dksX1_run_0 : cX1_run.data.toList.drop 0 = dktX1_run_0 := by decide +kernel
theorem dX1_run_0 : decode cX1_run 0 = .ok (.aload_n 0, 1) := dk_42 (dk_at dksX1_run_0 0 rfl rfl)
theorem dX1_run_1 : decode cX1_run 1 = .ok (.getfield 46, 3) := dk_180 0 46 (dk_at dksX1_run_0 1 rfl rfl)
theorem dX1_run_4 : decode cX1_run 4 = .ok (.aload_n 0, 1) := dk_42 (dk_at dksX1_run_0 4 rfl rfl)
theorem dX1_run_5 : decode cX1_run 5 = .ok (.getfield 104, 3) := dk_180 0 104 (dk_at dksX1_run_0 5 rfl rfl)
theorem dX1_run_8 : decode cX1_run 8 = .ok (.aload_n 0, 1) := dk_42 (dk_at dksX1_run_0 8 rfl rfl)
theorem dX1_run_9 : decode cX1_run 9 = .ok (.getfield 33, 3) := dk_180 0 33 (dk_at dksX1_run_0 9 rfl rfl)
theorem dX1_run_12 : decode cX1_run 12 = .ok (.iload_n 1, 1) := dk_27 (dk_at dksX1_run_0 12 rfl rfl)
theorem dX1_run_13 : decode cX1_run 13 = .ok (.invokevirtual 251, 3) := dk_182 0 251 (dk_at dksX1_run_0 13 rfl rfl)
theorem dX1_run_16 : decode cX1_run 16 = .ok (.return_, 1) := dk_177 (dk_at dksX1_run_0 16 rfl rfl)
def dkwX5_at_0 : List UInt8 := [42, 180, 0, 18, 16, 12, 27, 104, 28, 96, 46, 172]
abbrev dktX5_at_0 : List UInt8 := dkwX5_at_0 ++ []
theorem dksX5_at_0 : cX5_at.data.toList.drop 0 = dktX5_at_0 := by decide +kernel
theorem dX5_at_0 : decode cX5_at 0 = .ok (.aload_n 0, 1) := dk_42 (dk_at dksX5_at_0 0 rfl rfl)
theorem dX5_at_1 : decode cX5_at 1 = .ok (.getfield 18, 3) := dk_180 0 18 (dk_at dksX5_at_0 1 rfl rfl)
theorem dX5_at_4 : decode cX5_at 4 = .ok (.bipush 12, 2) := dk_16 12 (dk_at dksX5_at_0 4 rfl rfl)
theorem dX5_at_6 : decode cX5_at 6 = .ok (.iload_n 1, 1) := dk_27 (dk_at dksX5_at_0 6 rfl rfl)
theorem dX5_at_7 : decode cX5_at 7 = .ok (.imul, 1) := dk_104 (dk_at dksX5_at_0 7 rfl rfl)
theorem dX5_at_8 : decode cX5_at 8 = .ok (.iload_n 2, 1) := dk_28 (dk_at dksX5_at_0 8 rfl rfl)
theorem dX5_at_9 : decode cX5_at 9 = .ok (.iadd, 1) := dk_96 (dk_at dksX5_at_0 9 rfl rfl)
theorem dX5_at_10 : decode cX5_at 10 = .ok (.iaload, 1) := dk_46 (dk_at dksX5_at_0 10 rfl rfl)
theorem dX5_at_11 : decode cX5_at 11 = .ok (.ireturn, 1) := dk_172 (dk_at dksX5_at_0 11 rfl rfl)
def dkwX1_at_2 : List UInt8 := [180, 0, 46, 28, 29, 182, 1, 7, 172]
abbrev dktX1_at_2 : List UInt8 := dkwX1_at_2 ++ []
def dkwX1_at_1 : List UInt8 := [182, 0, 94, 172, 42, 29, 182, 0, 244, 154, 0, 9, 42, 5, 182, 0, 94, 172, 42, 27, 182, 1, 5, 42]
abbrev dktX1_at_1 : List UInt8 := dkwX1_at_1 ++ dktX1_at_2
def dkwX1_at_0 : List UInt8 := [42, 182, 0, 80, 42, 27, 182, 0, 255, 153, 0, 11, 42, 28, 182, 0, 169, 154, 0, 9, 42, 4]
abbrev dktX1_at_0 : List UInt8 := dkwX1_at_0 ++ dktX1_at_1
theorem dksX1_at_0 : cX1_at.data.toList.drop 0 = dktX1_at_0 := by decide +kernel
theorem dksX1_at_1 : cX1_at.data.toList.drop 22 = dktX1_at_1 := dk_seg dksX1_at_0 22 rfl rfl
theorem dksX1_at_2 : cX1_at.data.toList.drop 46 = dktX1_at_2 := dk_seg dksX1_at_1 24 rfl rfl
theorem dX1_at_0 : decode cX1_at 0 = .ok (.aload_n 0, 1) := dk_42 (dk_at dksX1_at_0 0 rfl rfl)
theorem dX1_at_1 : decode cX1_at 1 = .ok (.invokevirtual 80, 3) := dk_182 0 80 (dk_at dksX1_at_0 1 rfl rfl)
theorem dX1_at_4 : decode cX1_at 4 = .ok (.aload_n 0, 1) := dk_42 (dk_at dksX1_at_0 4 rfl rfl)
theorem dX1_at_5 : decode cX1_at 5 = .ok (.iload_n 1, 1) := dk_27 (dk_at dksX1_at_0 5 rfl rfl)
theorem dX1_at_6 : decode cX1_at 6 = .ok (.invokevirtual 255, 3) := dk_182 0 255 (dk_at dksX1_at_0 6 rfl rfl)
theorem dX1_at_9 : decode cX1_at 9 = .ok (.ifCond .eq 11, 3) := dk_153 0 11 (dk_at dksX1_at_0 9 rfl rfl)
theorem dX1_at_12 : decode cX1_at 12 = .ok (.aload_n 0, 1) := dk_42 (dk_at dksX1_at_0 12 rfl rfl)
theorem dX1_at_13 : decode cX1_at 13 = .ok (.iload_n 2, 1) := dk_28 (dk_at dksX1_at_0 13 rfl rfl)
theorem dX1_at_14 : decode cX1_at 14 = .ok (.invokevirtual 169, 3) := dk_182 0 169 (dk_at dksX1_at_0 14 rfl rfl)
theorem dX1_at_17 : decode cX1_at 17 = .ok (.ifCond .ne 9, 3) := dk_154 0 9 (dk_at dksX1_at_0 17 rfl rfl)
theorem dX1_at_20 : decode cX1_at 20 = .ok (.aload_n 0, 1) := dk_42 (dk_at dksX1_at_0 20 rfl rfl)
theorem dX1_at_21 : decode cX1_at 21 = .ok (.iconst 1, 1) := dk_4 (dk_at dksX1_at_0 21 rfl rfl)
theorem dX1_at_22 : decode cX1_at 22 = .ok (.invokevirtual 94, 3) := dk_182 0 94 (dk_at dksX1_at_1 0 rfl rfl)
theorem dX1_at_25 : decode cX1_at 25 = .ok (.ireturn, 1) := dk_172 (dk_at dksX1_at_1 3 rfl rfl)
theorem dX1_at_26 : decode cX1_at 26 = .ok (.aload_n 0, 1) := dk_42 (dk_at dksX1_at_1 4 rfl rfl)
theorem dX1_at_27 : decode cX1_at 27 = .ok (.iload_n 3, 1) := dk_29 (dk_at dksX1_at_1 5 rfl rfl)
theorem dX1_at_28 : decode cX1_at 28 = .ok (.invokevirtual 244, 3) := dk_182 0 244 (dk_at dksX1_at_1 6 rfl rfl)
theorem dX1_at_31 : decode cX1_at 31 = .ok (.ifCond .ne 9, 3) := dk_154 0 9 (dk_at dksX1_at_1 9 rfl rfl)
theorem dX1_at_34 : decode cX1_at 34 = .ok (.aload_n 0, 1) := dk_42 (dk_at dksX1_at_1 12 rfl rfl)
theorem dX1_at_35 : decode cX1_at 35 = .ok (.iconst 2, 1) := dk_5 (dk_at dksX1_at_1 13 rfl rfl)
theorem dX1_at_36 : decode cX1_at 36 = .ok (.invokevirtual 94, 3) := dk_182 0 94 (dk_at dksX1_at_1 14 rfl rfl)
theorem dX1_at_39 : decode cX1_at 39 = .ok (.ireturn, 1) := dk_172 (dk_at dksX1_at_1 17 rfl rfl)
theorem dX1_at_40 : decode cX1_at 40 = .ok (.aload_n 0, 1) := dk_42 (dk_at dksX1_at_1 18 rfl rfl)
theorem dX1_at_41 : decode cX1_at 41 = .ok (.iload_n 1, 1) := dk_27 (dk_at dksX1_at_1 19 rfl rfl)
theorem dX1_at_42 : decode cX1_at 42 = .ok (.invokevirtual 261, 3) := dk_182 1 5 (dk_at dksX1_at_1 20 rfl rfl)
theorem dX1_at_45 : decode cX1_at 45 = .ok (.aload_n 0, 1) := dk_42 (dk_at dksX1_at_1 23 rfl rfl)
theorem dX1_at_46 : decode cX1_at 46 = .ok (.getfield 46, 3) := dk_180 0 46 (dk_at dksX1_at_2 0 rfl rfl)
theorem dX1_at_49 : decode cX1_at 49 = .ok (.iload_n 2, 1) := dk_28 (dk_at dksX1_at_2 3 rfl rfl)
theorem dX1_at_50 : decode cX1_at 50 = .ok (.iload_n 3, 1) := dk_29 (dk_at dksX1_at_2 4 rfl rfl)
theorem dX1_at_51 : decode cX1_at 51 = .ok (.invokevirtual 263, 3) := dk_182 1 7 (dk_at dksX1_at_2 5 rfl rfl)
theorem dX1_at_54 : decode cX1_at 54 = .ok (.ireturn, 1) := dk_172 (dk_at dksX1_at_2 8 rfl rfl)
def dkwX7_isOpen_1 : List UInt8 := [184, 1, 110, 154, 0, 7, 4, 167, 0, 4, 3, 172]
abbrev dktX7_isOpen_1 : List UInt8 := dkwX7_isOpen_1 ++ []
def dkwX7_isOpen_0 : List UInt8 := [42, 180, 1, 186, 27, 28, 182, 1, 56, 62, 29, 2, 159, 0, 21, 42, 180, 0, 21, 16, 16, 46, 29]
abbrev dktX7_isOpen_0 : List UInt8 := dkwX7_isOpen_0 ++ dktX7_isOpen_1
theorem dksX7_isOpen_0 : cX7_isOpen.data.toList.drop 0 = dktX7_isOpen_0 := by decide +kernel
theorem dksX7_isOpen_1 : cX7_isOpen.data.toList.drop 23 = dktX7_isOpen_1 := dk_seg dksX7_isOpen_0 23 rfl rfl
theorem dX7_isOpen_0 : decode cX7_isOpen 0 = .ok (.aload_n 0, 1) := dk_42 (dk_at dksX7_isOpen_0 0 rfl rfl)
theorem dX7_isOpen_1 : decode cX7_isOpen 1 = .ok (.getfield 442, 3) := dk_180 1 186 (dk_at dksX7_isOpen_0 1 rfl rfl)
theorem dX7_isOpen_4 : decode cX7_isOpen 4 = .ok (.iload_n 1, 1) := dk_27 (dk_at dksX7_isOpen_0 4 rfl rfl)
theorem dX7_isOpen_5 : decode cX7_isOpen 5 = .ok (.iload_n 2, 1) := dk_28 (dk_at dksX7_isOpen_0 5 rfl rfl)
theorem dX7_isOpen_6 : decode cX7_isOpen 6 = .ok (.invokevirtual 312, 3) := dk_182 1 56 (dk_at dksX7_isOpen_0 6 rfl rfl)
theorem dX7_isOpen_9 : decode cX7_isOpen 9 = .ok (.istore_n 3, 1) := dk_62 (dk_at dksX7_isOpen_0 9 rfl rfl)
theorem dX7_isOpen_10 : decode cX7_isOpen 10 = .ok (.iload_n 3, 1) := dk_29 (dk_at dksX7_isOpen_0 10 rfl rfl)
theorem dX7_isOpen_11 : decode cX7_isOpen 11 = .ok (.iconst (-1), 1) := dk_2 (dk_at dksX7_isOpen_0 11 rfl rfl)
theorem dX7_isOpen_12 : decode cX7_isOpen 12 = .ok (.if_icmp .eq 21, 3) := dk_159 0 21 (dk_at dksX7_isOpen_0 12 rfl rfl)
theorem dX7_isOpen_15 : decode cX7_isOpen 15 = .ok (.aload_n 0, 1) := dk_42 (dk_at dksX7_isOpen_0 15 rfl rfl)
theorem dX7_isOpen_16 : decode cX7_isOpen 16 = .ok (.getfield 21, 3) := dk_180 0 21 (dk_at dksX7_isOpen_0 16 rfl rfl)
theorem dX7_isOpen_19 : decode cX7_isOpen 19 = .ok (.bipush 16, 2) := dk_16 16 (dk_at dksX7_isOpen_0 19 rfl rfl)
theorem dX7_isOpen_21 : decode cX7_isOpen 21 = .ok (.iaload, 1) := dk_46 (dk_at dksX7_isOpen_0 21 rfl rfl)
theorem dX7_isOpen_22 : decode cX7_isOpen 22 = .ok (.iload_n 3, 1) := dk_29 (dk_at dksX7_isOpen_0 22 rfl rfl)
theorem dX7_isOpen_23 : decode cX7_isOpen 23 = .ok (.invokestatic 366, 3) := dk_184 1 110 (dk_at dksX7_isOpen_1 0 rfl rfl)
theorem dX7_isOpen_26 : decode cX7_isOpen 26 = .ok (.ifCond .ne 7, 3) := dk_154 0 7 (dk_at dksX7_isOpen_1 3 rfl rfl)
theorem dX7_isOpen_29 : decode cX7_isOpen 29 = .ok (.iconst 1, 1) := dk_4 (dk_at dksX7_isOpen_1 6 rfl rfl)
theorem dX7_isOpen_30 : decode cX7_isOpen 30 = .ok (.goto 4, 3) := dk_167 0 4 (dk_at dksX7_isOpen_1 7 rfl rfl)
theorem dX7_isOpen_33 : decode cX7_isOpen 33 = .ok (.iconst 0, 1) := dk_3 (dk_at dksX7_isOpen_1 10 rfl rfl)
theorem dX7_isOpen_34 : decode cX7_isOpen 34 = .ok (.ireturn, 1) := dk_172 (dk_at dksX7_isOpen_1 11 rfl rfl)
def dkwX24_placeIn_1 : List UInt8 := [182, 0, 102, 172]
abbrev dktX24_placeIn_1 : List UInt8 := dkwX24_placeIn_1 ++ []
def dkwX24_placeIn_0 : List UInt8 := [42, 180, 0, 21, 28, 46, 154, 0, 8, 16, 254, 167, 0, 15, 42, 28, 42, 27, 28, 182, 0, 98, 29]
abbrev dktX24_placeIn_0 : List UInt8 := dkwX24_placeIn_0 ++ dktX24_placeIn_1
theorem dksX24_placeIn_0 : cX24_placeIn.data.toList.drop 0 = dktX24_placeIn_0 := by decide +kernel
theorem dksX24_placeIn_1 : cX24_placeIn.data.toList.drop 23 = dktX24_placeIn_1 := dk_seg dksX24_placeIn_0 23 rfl rfl
theorem dX24_placeIn_0 : decode cX24_placeIn 0 = .ok (.aload_n 0, 1) := dk_42 (dk_at dksX24_placeIn_0 0 rfl rfl)
theorem dX24_placeIn_1 : decode cX24_placeIn 1 = .ok (.getfield 21, 3) := dk_180 0 21 (dk_at dksX24_placeIn_0 1 rfl rfl)
theorem dX24_placeIn_4 : decode cX24_placeIn 4 = .ok (.iload_n 2, 1) := dk_28 (dk_at dksX24_placeIn_0 4 rfl rfl)
theorem dX24_placeIn_5 : decode cX24_placeIn 5 = .ok (.iaload, 1) := dk_46 (dk_at dksX24_placeIn_0 5 rfl rfl)
theorem dX24_placeIn_6 : decode cX24_placeIn 6 = .ok (.ifCond .ne 8, 3) := dk_154 0 8 (dk_at dksX24_placeIn_0 6 rfl rfl)
theorem dX24_placeIn_9 : decode cX24_placeIn 9 = .ok (.bipush (-2), 2) := dk_16 254 (dk_at dksX24_placeIn_0 9 rfl rfl)
theorem dX24_placeIn_11 : decode cX24_placeIn 11 = .ok (.goto 15, 3) := dk_167 0 15 (dk_at dksX24_placeIn_0 11 rfl rfl)
theorem dX24_placeIn_14 : decode cX24_placeIn 14 = .ok (.aload_n 0, 1) := dk_42 (dk_at dksX24_placeIn_0 14 rfl rfl)
theorem dX24_placeIn_15 : decode cX24_placeIn 15 = .ok (.iload_n 2, 1) := dk_28 (dk_at dksX24_placeIn_0 15 rfl rfl)
theorem dX24_placeIn_16 : decode cX24_placeIn 16 = .ok (.aload_n 0, 1) := dk_42 (dk_at dksX24_placeIn_0 16 rfl rfl)
theorem dX24_placeIn_17 : decode cX24_placeIn 17 = .ok (.iload_n 1, 1) := dk_27 (dk_at dksX24_placeIn_0 17 rfl rfl)
theorem dX24_placeIn_18 : decode cX24_placeIn 18 = .ok (.iload_n 2, 1) := dk_28 (dk_at dksX24_placeIn_0 18 rfl rfl)
theorem dX24_placeIn_19 : decode cX24_placeIn 19 = .ok (.invokevirtual 98, 3) := dk_182 0 98 (dk_at dksX24_placeIn_0 19 rfl rfl)
theorem dX24_placeIn_22 : decode cX24_placeIn 22 = .ok (.iload_n 3, 1) := dk_29 (dk_at dksX24_placeIn_0 22 rfl rfl)
theorem dX24_placeIn_23 : decode cX24_placeIn 23 = .ok (.invokevirtual 102, 3) := dk_182 0 102 (dk_at dksX24_placeIn_1 0 rfl rfl)
theorem dX24_placeIn_26 : decode cX24_placeIn 26 = .ok (.ireturn, 1) := dk_172 (dk_at dksX24_placeIn_1 3 rfl rfl)
def dkwX7_fears_4 : List UInt8 := [153, 0, 5, 4, 172, 132, 5, 1, 167, 255, 193, 3, 172]
abbrev dktX7_fears_4 : List UInt8 := dkwX7_fears_4 ++ []
def dkwX7_fears_3 : List UInt8 := [180, 1, 91, 28, 46, 4, 159, 0, 20, 42, 180, 1, 186, 180, 1, 107, 28, 46, 21, 5, 184, 1, 110]
abbrev dktX7_fears_3 : List UInt8 := dkwX7_fears_3 ++ dktX7_fears_4
def dkwX7_fears_2 : List UInt8 := [162, 0, 57, 42, 180, 1, 186, 27, 21, 5, 21, 4, 182, 1, 197, 29, 160, 0, 35, 42, 180, 1, 186]
abbrev dktX7_fears_2 : List UInt8 := dkwX7_fears_2 ++ dktX7_fears_3
def dkwX7_fears_1 : List UInt8 := [21, 4, 184, 1, 110, 153, 0, 5, 4, 172, 3, 54, 5, 21, 5, 42, 180, 1, 186, 180, 1, 64]
abbrev dktX7_fears_1 : List UInt8 := dkwX7_fears_1 ++ dktX7_fears_2
def dkwX7_fears_0 : List UInt8 := [42, 180, 1, 186, 180, 1, 91, 28, 46, 5, 160, 0, 5, 3, 172, 42, 180, 0, 21, 16, 8, 29, 96, 46]
abbrev dktX7_fears_0 : List UInt8 := dkwX7_fears_0 ++ dktX7_fears_1
theorem dksX7_fears_0 : cX7_fears.data.toList.drop 0 = dktX7_fears_0 := by decide +kernel
theorem dksX7_fears_1 : cX7_fears.data.toList.drop 24 = dktX7_fears_1 := dk_seg dksX7_fears_0 24 rfl rfl
theorem dksX7_fears_2 : cX7_fears.data.toList.drop 46 = dktX7_fears_2 := dk_seg dksX7_fears_1 22 rfl rfl
theorem dksX7_fears_3 : cX7_fears.data.toList.drop 69 = dktX7_fears_3 := dk_seg dksX7_fears_2 23 rfl rfl
theorem dksX7_fears_4 : cX7_fears.data.toList.drop 92 = dktX7_fears_4 := dk_seg dksX7_fears_3 23 rfl rfl
theorem dX7_fears_0 : decode cX7_fears 0 = .ok (.aload_n 0, 1) := dk_42 (dk_at dksX7_fears_0 0 rfl rfl)
theorem dX7_fears_1 : decode cX7_fears 1 = .ok (.getfield 442, 3) := dk_180 1 186 (dk_at dksX7_fears_0 1 rfl rfl)
theorem dX7_fears_4 : decode cX7_fears 4 = .ok (.getfield 347, 3) := dk_180 1 91 (dk_at dksX7_fears_0 4 rfl rfl)
theorem dX7_fears_7 : decode cX7_fears 7 = .ok (.iload_n 2, 1) := dk_28 (dk_at dksX7_fears_0 7 rfl rfl)
theorem dX7_fears_8 : decode cX7_fears 8 = .ok (.iaload, 1) := dk_46 (dk_at dksX7_fears_0 8 rfl rfl)
theorem dX7_fears_9 : decode cX7_fears 9 = .ok (.iconst 2, 1) := dk_5 (dk_at dksX7_fears_0 9 rfl rfl)
theorem dX7_fears_10 : decode cX7_fears 10 = .ok (.if_icmp .ne 5, 3) := dk_160 0 5 (dk_at dksX7_fears_0 10 rfl rfl)
theorem dX7_fears_13 : decode cX7_fears 13 = .ok (.iconst 0, 1) := dk_3 (dk_at dksX7_fears_0 13 rfl rfl)
theorem dX7_fears_14 : decode cX7_fears 14 = .ok (.ireturn, 1) := dk_172 (dk_at dksX7_fears_0 14 rfl rfl)
theorem dX7_fears_15 : decode cX7_fears 15 = .ok (.aload_n 0, 1) := dk_42 (dk_at dksX7_fears_0 15 rfl rfl)
theorem dX7_fears_16 : decode cX7_fears 16 = .ok (.getfield 21, 3) := dk_180 0 21 (dk_at dksX7_fears_0 16 rfl rfl)
theorem dX7_fears_19 : decode cX7_fears 19 = .ok (.bipush 8, 2) := dk_16 8 (dk_at dksX7_fears_0 19 rfl rfl)
theorem dX7_fears_21 : decode cX7_fears 21 = .ok (.iload_n 3, 1) := dk_29 (dk_at dksX7_fears_0 21 rfl rfl)
theorem dX7_fears_22 : decode cX7_fears 22 = .ok (.iadd, 1) := dk_96 (dk_at dksX7_fears_0 22 rfl rfl)
theorem dX7_fears_23 : decode cX7_fears 23 = .ok (.iaload, 1) := dk_46 (dk_at dksX7_fears_0 23 rfl rfl)
theorem dX7_fears_24 : decode cX7_fears 24 = .ok (.iload 4, 2) := dk_21 4 (dk_at dksX7_fears_1 0 rfl rfl)
theorem dX7_fears_26 : decode cX7_fears 26 = .ok (.invokestatic 366, 3) := dk_184 1 110 (dk_at dksX7_fears_1 2 rfl rfl)
theorem dX7_fears_29 : decode cX7_fears 29 = .ok (.ifCond .eq 5, 3) := dk_153 0 5 (dk_at dksX7_fears_1 5 rfl rfl)
theorem dX7_fears_32 : decode cX7_fears 32 = .ok (.iconst 1, 1) := dk_4 (dk_at dksX7_fears_1 8 rfl rfl)
theorem dX7_fears_33 : decode cX7_fears 33 = .ok (.ireturn, 1) := dk_172 (dk_at dksX7_fears_1 9 rfl rfl)
theorem dX7_fears_34 : decode cX7_fears 34 = .ok (.iconst 0, 1) := dk_3 (dk_at dksX7_fears_1 10 rfl rfl)
theorem dX7_fears_35 : decode cX7_fears 35 = .ok (.istore 5, 2) := dk_54 5 (dk_at dksX7_fears_1 11 rfl rfl)
theorem dX7_fears_37 : decode cX7_fears 37 = .ok (.iload 5, 2) := dk_21 5 (dk_at dksX7_fears_1 13 rfl rfl)
theorem dX7_fears_39 : decode cX7_fears 39 = .ok (.aload_n 0, 1) := dk_42 (dk_at dksX7_fears_1 15 rfl rfl)
theorem dX7_fears_40 : decode cX7_fears 40 = .ok (.getfield 442, 3) := dk_180 1 186 (dk_at dksX7_fears_1 16 rfl rfl)
theorem dX7_fears_43 : decode cX7_fears 43 = .ok (.getfield 320, 3) := dk_180 1 64 (dk_at dksX7_fears_1 19 rfl rfl)
theorem dX7_fears_46 : decode cX7_fears 46 = .ok (.if_icmp .ge 57, 3) := dk_162 0 57 (dk_at dksX7_fears_2 0 rfl rfl)
theorem dX7_fears_49 : decode cX7_fears 49 = .ok (.aload_n 0, 1) := dk_42 (dk_at dksX7_fears_2 3 rfl rfl)
theorem dX7_fears_50 : decode cX7_fears 50 = .ok (.getfield 442, 3) := dk_180 1 186 (dk_at dksX7_fears_2 4 rfl rfl)
theorem dX7_fears_53 : decode cX7_fears 53 = .ok (.iload_n 1, 1) := dk_27 (dk_at dksX7_fears_2 7 rfl rfl)
theorem dX7_fears_54 : decode cX7_fears 54 = .ok (.iload 5, 2) := dk_21 5 (dk_at dksX7_fears_2 8 rfl rfl)
theorem dX7_fears_56 : decode cX7_fears 56 = .ok (.iload 4, 2) := dk_21 4 (dk_at dksX7_fears_2 10 rfl rfl)
theorem dX7_fears_58 : decode cX7_fears 58 = .ok (.invokevirtual 453, 3) := dk_182 1 197 (dk_at dksX7_fears_2 12 rfl rfl)
theorem dX7_fears_61 : decode cX7_fears 61 = .ok (.iload_n 3, 1) := dk_29 (dk_at dksX7_fears_2 15 rfl rfl)
theorem dX7_fears_62 : decode cX7_fears 62 = .ok (.if_icmp .ne 35, 3) := dk_160 0 35 (dk_at dksX7_fears_2 16 rfl rfl)
theorem dX7_fears_65 : decode cX7_fears 65 = .ok (.aload_n 0, 1) := dk_42 (dk_at dksX7_fears_2 19 rfl rfl)
theorem dX7_fears_66 : decode cX7_fears 66 = .ok (.getfield 442, 3) := dk_180 1 186 (dk_at dksX7_fears_2 20 rfl rfl)
theorem dX7_fears_69 : decode cX7_fears 69 = .ok (.getfield 347, 3) := dk_180 1 91 (dk_at dksX7_fears_3 0 rfl rfl)
theorem dX7_fears_72 : decode cX7_fears 72 = .ok (.iload_n 2, 1) := dk_28 (dk_at dksX7_fears_3 3 rfl rfl)
theorem dX7_fears_73 : decode cX7_fears 73 = .ok (.iaload, 1) := dk_46 (dk_at dksX7_fears_3 4 rfl rfl)
theorem dX7_fears_74 : decode cX7_fears 74 = .ok (.iconst 1, 1) := dk_4 (dk_at dksX7_fears_3 5 rfl rfl)
theorem dX7_fears_75 : decode cX7_fears 75 = .ok (.if_icmp .eq 20, 3) := dk_159 0 20 (dk_at dksX7_fears_3 6 rfl rfl)
theorem dX7_fears_78 : decode cX7_fears 78 = .ok (.aload_n 0, 1) := dk_42 (dk_at dksX7_fears_3 9 rfl rfl)
theorem dX7_fears_79 : decode cX7_fears 79 = .ok (.getfield 442, 3) := dk_180 1 186 (dk_at dksX7_fears_3 10 rfl rfl)
theorem dX7_fears_82 : decode cX7_fears 82 = .ok (.getfield 363, 3) := dk_180 1 107 (dk_at dksX7_fears_3 13 rfl rfl)
theorem dX7_fears_85 : decode cX7_fears 85 = .ok (.iload_n 2, 1) := dk_28 (dk_at dksX7_fears_3 16 rfl rfl)
theorem dX7_fears_86 : decode cX7_fears 86 = .ok (.iaload, 1) := dk_46 (dk_at dksX7_fears_3 17 rfl rfl)
theorem dX7_fears_87 : decode cX7_fears 87 = .ok (.iload 5, 2) := dk_21 5 (dk_at dksX7_fears_3 18 rfl rfl)
theorem dX7_fears_89 : decode cX7_fears 89 = .ok (.invokestatic 366, 3) := dk_184 1 110 (dk_at dksX7_fears_3 20 rfl rfl)
theorem dX7_fears_92 : decode cX7_fears 92 = .ok (.ifCond .eq 5, 3) := dk_153 0 5 (dk_at dksX7_fears_4 0 rfl rfl)
theorem dX7_fears_95 : decode cX7_fears 95 = .ok (.iconst 1, 1) := dk_4 (dk_at dksX7_fears_4 3 rfl rfl)
theorem dX7_fears_96 : decode cX7_fears 96 = .ok (.ireturn, 1) := dk_172 (dk_at dksX7_fears_4 4 rfl rfl)
theorem dX7_fears_97 : decode cX7_fears 97 = .ok (.iinc 5 1, 3) := dk_132 5 1 (dk_at dksX7_fears_4 5 rfl rfl)
theorem dX7_fears_100 : decode cX7_fears 100 = .ok (.goto (-63), 3) := dk_167 255 193 (dk_at dksX7_fears_4 8 rfl rfl)
theorem dX7_fears_103 : decode cX7_fears 103 = .ok (.iconst 0, 1) := dk_3 (dk_at dksX7_fears_4 11 rfl rfl)
theorem dX7_fears_104 : decode cX7_fears 104 = .ok (.ireturn, 1) := dk_172 (dk_at dksX7_fears_4 12 rfl rfl)
def dkwX7_worth_3 : List UInt8 := [167, 255, 208, 16, 9, 172]
abbrev dktX7_worth_3 : List UInt8 := dkwX7_worth_3 ++ []
def dkwX7_worth_2 : List UInt8 := [180, 1, 85, 7, 27, 104, 21, 4, 96, 46, 96, 46, 158, 0, 8, 21, 4, 4, 96, 172, 132, 4, 1]
abbrev dktX7_worth_2 : List UInt8 := dkwX7_worth_2 ++ dktX7_worth_3
def dkwX7_worth_1 : List UInt8 := [180, 1, 186, 180, 1, 97, 27, 46, 162, 0, 40, 42, 180, 0, 39, 7, 28, 104, 42, 180, 1, 186]
abbrev dktX7_worth_1 : List UInt8 := dkwX7_worth_1 ++ dktX7_worth_2
def dkwX7_worth_0 : List UInt8 := [42, 180, 0, 21, 3, 28, 96, 46, 29, 184, 1, 110, 153, 0, 5, 3, 172, 3, 54, 4, 21, 4, 42]
abbrev dktX7_worth_0 : List UInt8 := dkwX7_worth_0 ++ dktX7_worth_1
theorem dksX7_worth_0 : cX7_worth.data.toList.drop 0 = dktX7_worth_0 := by decide +kernel
theorem dksX7_worth_1 : cX7_worth.data.toList.drop 23 = dktX7_worth_1 := dk_seg dksX7_worth_0 23 rfl rfl
theorem dksX7_worth_2 : cX7_worth.data.toList.drop 45 = dktX7_worth_2 := dk_seg dksX7_worth_1 22 rfl rfl
theorem dksX7_worth_3 : cX7_worth.data.toList.drop 68 = dktX7_worth_3 := dk_seg dksX7_worth_2 23 rfl rfl
theorem dX7_worth_0 : decode cX7_worth 0 = .ok (.aload_n 0, 1) := dk_42 (dk_at dksX7_worth_0 0 rfl rfl)
theorem dX7_worth_1 : decode cX7_worth 1 = .ok (.getfield 21, 3) := dk_180 0 21 (dk_at dksX7_worth_0 1 rfl rfl)
theorem dX7_worth_4 : decode cX7_worth 4 = .ok (.iconst 0, 1) := dk_3 (dk_at dksX7_worth_0 4 rfl rfl)
theorem dX7_worth_5 : decode cX7_worth 5 = .ok (.iload_n 2, 1) := dk_28 (dk_at dksX7_worth_0 5 rfl rfl)
theorem dX7_worth_6 : decode cX7_worth 6 = .ok (.iadd, 1) := dk_96 (dk_at dksX7_worth_0 6 rfl rfl)
theorem dX7_worth_7 : decode cX7_worth 7 = .ok (.iaload, 1) := dk_46 (dk_at dksX7_worth_0 7 rfl rfl)
theorem dX7_worth_8 : decode cX7_worth 8 = .ok (.iload_n 3, 1) := dk_29 (dk_at dksX7_worth_0 8 rfl rfl)
theorem dX7_worth_9 : decode cX7_worth 9 = .ok (.invokestatic 366, 3) := dk_184 1 110 (dk_at dksX7_worth_0 9 rfl rfl)
theorem dX7_worth_12 : decode cX7_worth 12 = .ok (.ifCond .eq 5, 3) := dk_153 0 5 (dk_at dksX7_worth_0 12 rfl rfl)
theorem dX7_worth_15 : decode cX7_worth 15 = .ok (.iconst 0, 1) := dk_3 (dk_at dksX7_worth_0 15 rfl rfl)
theorem dX7_worth_16 : decode cX7_worth 16 = .ok (.ireturn, 1) := dk_172 (dk_at dksX7_worth_0 16 rfl rfl)
theorem dX7_worth_17 : decode cX7_worth 17 = .ok (.iconst 0, 1) := dk_3 (dk_at dksX7_worth_0 17 rfl rfl)
theorem dX7_worth_18 : decode cX7_worth 18 = .ok (.istore 4, 2) := dk_54 4 (dk_at dksX7_worth_0 18 rfl rfl)
theorem dX7_worth_20 : decode cX7_worth 20 = .ok (.iload 4, 2) := dk_21 4 (dk_at dksX7_worth_0 20 rfl rfl)
theorem dX7_worth_22 : decode cX7_worth 22 = .ok (.aload_n 0, 1) := dk_42 (dk_at dksX7_worth_0 22 rfl rfl)
theorem dX7_worth_23 : decode cX7_worth 23 = .ok (.getfield 442, 3) := dk_180 1 186 (dk_at dksX7_worth_1 0 rfl rfl)
theorem dX7_worth_26 : decode cX7_worth 26 = .ok (.getfield 353, 3) := dk_180 1 97 (dk_at dksX7_worth_1 3 rfl rfl)
theorem dX7_worth_29 : decode cX7_worth 29 = .ok (.iload_n 1, 1) := dk_27 (dk_at dksX7_worth_1 6 rfl rfl)
theorem dX7_worth_30 : decode cX7_worth 30 = .ok (.iaload, 1) := dk_46 (dk_at dksX7_worth_1 7 rfl rfl)
theorem dX7_worth_31 : decode cX7_worth 31 = .ok (.if_icmp .ge 40, 3) := dk_162 0 40 (dk_at dksX7_worth_1 8 rfl rfl)
theorem dX7_worth_34 : decode cX7_worth 34 = .ok (.aload_n 0, 1) := dk_42 (dk_at dksX7_worth_1 11 rfl rfl)
theorem dX7_worth_35 : decode cX7_worth 35 = .ok (.getfield 39, 3) := dk_180 0 39 (dk_at dksX7_worth_1 12 rfl rfl)
theorem dX7_worth_38 : decode cX7_worth 38 = .ok (.iconst 4, 1) := dk_7 (dk_at dksX7_worth_1 15 rfl rfl)
theorem dX7_worth_39 : decode cX7_worth 39 = .ok (.iload_n 2, 1) := dk_28 (dk_at dksX7_worth_1 16 rfl rfl)
theorem dX7_worth_40 : decode cX7_worth 40 = .ok (.imul, 1) := dk_104 (dk_at dksX7_worth_1 17 rfl rfl)
theorem dX7_worth_41 : decode cX7_worth 41 = .ok (.aload_n 0, 1) := dk_42 (dk_at dksX7_worth_1 18 rfl rfl)
theorem dX7_worth_42 : decode cX7_worth 42 = .ok (.getfield 442, 3) := dk_180 1 186 (dk_at dksX7_worth_1 19 rfl rfl)
theorem dX7_worth_45 : decode cX7_worth 45 = .ok (.getfield 341, 3) := dk_180 1 85 (dk_at dksX7_worth_2 0 rfl rfl)
theorem dX7_worth_48 : decode cX7_worth 48 = .ok (.iconst 4, 1) := dk_7 (dk_at dksX7_worth_2 3 rfl rfl)
theorem dX7_worth_49 : decode cX7_worth 49 = .ok (.iload_n 1, 1) := dk_27 (dk_at dksX7_worth_2 4 rfl rfl)
theorem dX7_worth_50 : decode cX7_worth 50 = .ok (.imul, 1) := dk_104 (dk_at dksX7_worth_2 5 rfl rfl)
theorem dX7_worth_51 : decode cX7_worth 51 = .ok (.iload 4, 2) := dk_21 4 (dk_at dksX7_worth_2 6 rfl rfl)
theorem dX7_worth_53 : decode cX7_worth 53 = .ok (.iadd, 1) := dk_96 (dk_at dksX7_worth_2 8 rfl rfl)
theorem dX7_worth_54 : decode cX7_worth 54 = .ok (.iaload, 1) := dk_46 (dk_at dksX7_worth_2 9 rfl rfl)
theorem dX7_worth_55 : decode cX7_worth 55 = .ok (.iadd, 1) := dk_96 (dk_at dksX7_worth_2 10 rfl rfl)
theorem dX7_worth_56 : decode cX7_worth 56 = .ok (.iaload, 1) := dk_46 (dk_at dksX7_worth_2 11 rfl rfl)
theorem dX7_worth_57 : decode cX7_worth 57 = .ok (.ifCond .le 8, 3) := dk_158 0 8 (dk_at dksX7_worth_2 12 rfl rfl)
theorem dX7_worth_60 : decode cX7_worth 60 = .ok (.iload 4, 2) := dk_21 4 (dk_at dksX7_worth_2 15 rfl rfl)
theorem dX7_worth_62 : decode cX7_worth 62 = .ok (.iconst 1, 1) := dk_4 (dk_at dksX7_worth_2 17 rfl rfl)
theorem dX7_worth_63 : decode cX7_worth 63 = .ok (.iadd, 1) := dk_96 (dk_at dksX7_worth_2 18 rfl rfl)
theorem dX7_worth_64 : decode cX7_worth 64 = .ok (.ireturn, 1) := dk_172 (dk_at dksX7_worth_2 19 rfl rfl)
theorem dX7_worth_65 : decode cX7_worth 65 = .ok (.iinc 4 1, 3) := dk_132 4 1 (dk_at dksX7_worth_2 20 rfl rfl)
theorem dX7_worth_68 : decode cX7_worth 68 = .ok (.goto (-48), 3) := dk_167 255 208 (dk_at dksX7_worth_3 0 rfl rfl)
theorem dX7_worth_71 : decode cX7_worth 71 = .ok (.bipush 9, 2) := dk_16 9 (dk_at dksX7_worth_3 3 rfl rfl)
theorem dX7_worth_73 : decode cX7_worth 73 = .ok (.ireturn, 1) := dk_172 (dk_at dksX7_worth_3 5 rfl rfl)
def dkwX7_bestFor_3 : List UInt8 := [54, 4, 132, 5, 1, 167, 255, 185, 21, 4, 172]
abbrev dktX7_bestFor_3 : List UInt8 := dkwX7_bestFor_3 ++ []
def dkwX7_bestFor_2 : List UInt8 := [159, 0, 22, 42, 28, 21, 5, 29, 182, 1, 207, 42, 28, 21, 4, 29, 182, 1, 207, 162, 0, 7, 21, 5]
abbrev dktX7_bestFor_2 : List UInt8 := dkwX7_bestFor_2 ++ dktX7_bestFor_3
def dkwX7_bestFor_1 : List UInt8 := [46, 21, 5, 182, 1, 201, 153, 0, 44, 42, 27, 28, 21, 5, 29, 182, 1, 204, 154, 0, 32, 21, 4, 2]
abbrev dktX7_bestFor_1 : List UInt8 := dkwX7_bestFor_1 ++ dktX7_bestFor_2
def dkwX7_bestFor_0 : List UInt8 := [2, 54, 4, 3, 54, 5, 21, 5, 42, 180, 1, 186, 180, 0, 241, 162, 0, 65, 42, 42, 180, 0, 45, 28]
abbrev dktX7_bestFor_0 : List UInt8 := dkwX7_bestFor_0 ++ dktX7_bestFor_1
theorem dksX7_bestFor_0 : cX7_bestFor.data.toList.drop 0 = dktX7_bestFor_0 := by decide +kernel
theorem dksX7_bestFor_1 : cX7_bestFor.data.toList.drop 24 = dktX7_bestFor_1 := dk_seg dksX7_bestFor_0 24 rfl rfl
theorem dksX7_bestFor_2 : cX7_bestFor.data.toList.drop 48 = dktX7_bestFor_2 := dk_seg dksX7_bestFor_1 24 rfl rfl
theorem dksX7_bestFor_3 : cX7_bestFor.data.toList.drop 72 = dktX7_bestFor_3 := dk_seg dksX7_bestFor_2 24 rfl rfl
theorem dX7_bestFor_0 : decode cX7_bestFor 0 = .ok (.iconst (-1), 1) := dk_2 (dk_at dksX7_bestFor_0 0 rfl rfl)
theorem dX7_bestFor_1 : decode cX7_bestFor 1 = .ok (.istore 4, 2) := dk_54 4 (dk_at dksX7_bestFor_0 1 rfl rfl)
theorem dX7_bestFor_3 : decode cX7_bestFor 3 = .ok (.iconst 0, 1) := dk_3 (dk_at dksX7_bestFor_0 3 rfl rfl)
theorem dX7_bestFor_4 : decode cX7_bestFor 4 = .ok (.istore 5, 2) := dk_54 5 (dk_at dksX7_bestFor_0 4 rfl rfl)
theorem dX7_bestFor_6 : decode cX7_bestFor 6 = .ok (.iload 5, 2) := dk_21 5 (dk_at dksX7_bestFor_0 6 rfl rfl)
theorem dX7_bestFor_8 : decode cX7_bestFor 8 = .ok (.aload_n 0, 1) := dk_42 (dk_at dksX7_bestFor_0 8 rfl rfl)
theorem dX7_bestFor_9 : decode cX7_bestFor 9 = .ok (.getfield 442, 3) := dk_180 1 186 (dk_at dksX7_bestFor_0 9 rfl rfl)
theorem dX7_bestFor_12 : decode cX7_bestFor 12 = .ok (.getfield 241, 3) := dk_180 0 241 (dk_at dksX7_bestFor_0 12 rfl rfl)
theorem dX7_bestFor_15 : decode cX7_bestFor 15 = .ok (.if_icmp .ge 65, 3) := dk_162 0 65 (dk_at dksX7_bestFor_0 15 rfl rfl)
theorem dX7_bestFor_18 : decode cX7_bestFor 18 = .ok (.aload_n 0, 1) := dk_42 (dk_at dksX7_bestFor_0 18 rfl rfl)
theorem dX7_bestFor_19 : decode cX7_bestFor 19 = .ok (.aload_n 0, 1) := dk_42 (dk_at dksX7_bestFor_0 19 rfl rfl)
theorem dX7_bestFor_20 : decode cX7_bestFor 20 = .ok (.getfield 45, 3) := dk_180 0 45 (dk_at dksX7_bestFor_0 20 rfl rfl)
theorem dX7_bestFor_23 : decode cX7_bestFor 23 = .ok (.iload_n 2, 1) := dk_28 (dk_at dksX7_bestFor_0 23 rfl rfl)
theorem dX7_bestFor_24 : decode cX7_bestFor 24 = .ok (.iaload, 1) := dk_46 (dk_at dksX7_bestFor_1 0 rfl rfl)
theorem dX7_bestFor_25 : decode cX7_bestFor 25 = .ok (.iload 5, 2) := dk_21 5 (dk_at dksX7_bestFor_1 1 rfl rfl)
theorem dX7_bestFor_27 : decode cX7_bestFor 27 = .ok (.invokevirtual 457, 3) := dk_182 1 201 (dk_at dksX7_bestFor_1 3 rfl rfl)
theorem dX7_bestFor_30 : decode cX7_bestFor 30 = .ok (.ifCond .eq 44, 3) := dk_153 0 44 (dk_at dksX7_bestFor_1 6 rfl rfl)
theorem dX7_bestFor_33 : decode cX7_bestFor 33 = .ok (.aload_n 0, 1) := dk_42 (dk_at dksX7_bestFor_1 9 rfl rfl)
theorem dX7_bestFor_34 : decode cX7_bestFor 34 = .ok (.iload_n 1, 1) := dk_27 (dk_at dksX7_bestFor_1 10 rfl rfl)
theorem dX7_bestFor_35 : decode cX7_bestFor 35 = .ok (.iload_n 2, 1) := dk_28 (dk_at dksX7_bestFor_1 11 rfl rfl)
theorem dX7_bestFor_36 : decode cX7_bestFor 36 = .ok (.iload 5, 2) := dk_21 5 (dk_at dksX7_bestFor_1 12 rfl rfl)
theorem dX7_bestFor_38 : decode cX7_bestFor 38 = .ok (.iload_n 3, 1) := dk_29 (dk_at dksX7_bestFor_1 14 rfl rfl)
theorem dX7_bestFor_39 : decode cX7_bestFor 39 = .ok (.invokevirtual 460, 3) := dk_182 1 204 (dk_at dksX7_bestFor_1 15 rfl rfl)
theorem dX7_bestFor_42 : decode cX7_bestFor 42 = .ok (.ifCond .ne 32, 3) := dk_154 0 32 (dk_at dksX7_bestFor_1 18 rfl rfl)
theorem dX7_bestFor_45 : decode cX7_bestFor 45 = .ok (.iload 4, 2) := dk_21 4 (dk_at dksX7_bestFor_1 21 rfl rfl)
theorem dX7_bestFor_47 : decode cX7_bestFor 47 = .ok (.iconst (-1), 1) := dk_2 (dk_at dksX7_bestFor_1 23 rfl rfl)
theorem dX7_bestFor_48 : decode cX7_bestFor 48 = .ok (.if_icmp .eq 22, 3) := dk_159 0 22 (dk_at dksX7_bestFor_2 0 rfl rfl)
theorem dX7_bestFor_51 : decode cX7_bestFor 51 = .ok (.aload_n 0, 1) := dk_42 (dk_at dksX7_bestFor_2 3 rfl rfl)
theorem dX7_bestFor_52 : decode cX7_bestFor 52 = .ok (.iload_n 2, 1) := dk_28 (dk_at dksX7_bestFor_2 4 rfl rfl)
theorem dX7_bestFor_53 : decode cX7_bestFor 53 = .ok (.iload 5, 2) := dk_21 5 (dk_at dksX7_bestFor_2 5 rfl rfl)
theorem dX7_bestFor_55 : decode cX7_bestFor 55 = .ok (.iload_n 3, 1) := dk_29 (dk_at dksX7_bestFor_2 7 rfl rfl)
theorem dX7_bestFor_56 : decode cX7_bestFor 56 = .ok (.invokevirtual 463, 3) := dk_182 1 207 (dk_at dksX7_bestFor_2 8 rfl rfl)
theorem dX7_bestFor_59 : decode cX7_bestFor 59 = .ok (.aload_n 0, 1) := dk_42 (dk_at dksX7_bestFor_2 11 rfl rfl)
theorem dX7_bestFor_60 : decode cX7_bestFor 60 = .ok (.iload_n 2, 1) := dk_28 (dk_at dksX7_bestFor_2 12 rfl rfl)
theorem dX7_bestFor_61 : decode cX7_bestFor 61 = .ok (.iload 4, 2) := dk_21 4 (dk_at dksX7_bestFor_2 13 rfl rfl)
theorem dX7_bestFor_63 : decode cX7_bestFor 63 = .ok (.iload_n 3, 1) := dk_29 (dk_at dksX7_bestFor_2 15 rfl rfl)
theorem dX7_bestFor_64 : decode cX7_bestFor 64 = .ok (.invokevirtual 463, 3) := dk_182 1 207 (dk_at dksX7_bestFor_2 16 rfl rfl)
theorem dX7_bestFor_67 : decode cX7_bestFor 67 = .ok (.if_icmp .ge 7, 3) := dk_162 0 7 (dk_at dksX7_bestFor_2 19 rfl rfl)
theorem dX7_bestFor_70 : decode cX7_bestFor 70 = .ok (.iload 5, 2) := dk_21 5 (dk_at dksX7_bestFor_2 22 rfl rfl)
theorem dX7_bestFor_72 : decode cX7_bestFor 72 = .ok (.istore 4, 2) := dk_54 4 (dk_at dksX7_bestFor_3 0 rfl rfl)
theorem dX7_bestFor_74 : decode cX7_bestFor 74 = .ok (.iinc 5 1, 3) := dk_132 5 1 (dk_at dksX7_bestFor_3 2 rfl rfl)
theorem dX7_bestFor_77 : decode cX7_bestFor 77 = .ok (.goto (-71), 3) := dk_167 255 185 (dk_at dksX7_bestFor_3 5 rfl rfl)
theorem dX7_bestFor_80 : decode cX7_bestFor 80 = .ok (.iload 4, 2) := dk_21 4 (dk_at dksX7_bestFor_3 8 rfl rfl)
theorem dX7_bestFor_82 : decode cX7_bestFor 82 = .ok (.ireturn, 1) := dk_172 (dk_at dksX7_bestFor_3 10 rfl rfl)
def dkwX7_plantAt_2 : List UInt8 := [7, 27, 104, 29, 96, 46, 172, 132, 3, 1, 167, 255, 201, 2, 172]
abbrev dktX7_plantAt_2 : List UInt8 := dkwX7_plantAt_2 ++ []
def dkwX7_plantAt_1 : List UInt8 := [180, 1, 186, 180, 1, 85, 7, 27, 104, 29, 96, 46, 96, 46, 158, 0, 17, 42, 180, 1, 186, 180, 1, 85]
abbrev dktX7_plantAt_1 : List UInt8 := dkwX7_plantAt_1 ++ dktX7_plantAt_2
def dkwX7_plantAt_0 : List UInt8 := [3, 62, 29, 42, 180, 1, 186, 180, 1, 97, 27, 46, 162, 0, 48, 42, 180, 0, 39, 7, 28, 104, 42]
abbrev dktX7_plantAt_0 : List UInt8 := dkwX7_plantAt_0 ++ dktX7_plantAt_1
theorem dksX7_plantAt_0 : cX7_plantAt.data.toList.drop 0 = dktX7_plantAt_0 := by decide +kernel
theorem dksX7_plantAt_1 : cX7_plantAt.data.toList.drop 23 = dktX7_plantAt_1 := dk_seg dksX7_plantAt_0 23 rfl rfl
theorem dksX7_plantAt_2 : cX7_plantAt.data.toList.drop 47 = dktX7_plantAt_2 := dk_seg dksX7_plantAt_1 24 rfl rfl
theorem dX7_plantAt_0 : decode cX7_plantAt 0 = .ok (.iconst 0, 1) := dk_3 (dk_at dksX7_plantAt_0 0 rfl rfl)
theorem dX7_plantAt_1 : decode cX7_plantAt 1 = .ok (.istore_n 3, 1) := dk_62 (dk_at dksX7_plantAt_0 1 rfl rfl)
theorem dX7_plantAt_2 : decode cX7_plantAt 2 = .ok (.iload_n 3, 1) := dk_29 (dk_at dksX7_plantAt_0 2 rfl rfl)
theorem dX7_plantAt_3 : decode cX7_plantAt 3 = .ok (.aload_n 0, 1) := dk_42 (dk_at dksX7_plantAt_0 3 rfl rfl)
theorem dX7_plantAt_4 : decode cX7_plantAt 4 = .ok (.getfield 442, 3) := dk_180 1 186 (dk_at dksX7_plantAt_0 4 rfl rfl)
theorem dX7_plantAt_7 : decode cX7_plantAt 7 = .ok (.getfield 353, 3) := dk_180 1 97 (dk_at dksX7_plantAt_0 7 rfl rfl)
theorem dX7_plantAt_10 : decode cX7_plantAt 10 = .ok (.iload_n 1, 1) := dk_27 (dk_at dksX7_plantAt_0 10 rfl rfl)
theorem dX7_plantAt_11 : decode cX7_plantAt 11 = .ok (.iaload, 1) := dk_46 (dk_at dksX7_plantAt_0 11 rfl rfl)
theorem dX7_plantAt_12 : decode cX7_plantAt 12 = .ok (.if_icmp .ge 48, 3) := dk_162 0 48 (dk_at dksX7_plantAt_0 12 rfl rfl)
theorem dX7_plantAt_15 : decode cX7_plantAt 15 = .ok (.aload_n 0, 1) := dk_42 (dk_at dksX7_plantAt_0 15 rfl rfl)
theorem dX7_plantAt_16 : decode cX7_plantAt 16 = .ok (.getfield 39, 3) := dk_180 0 39 (dk_at dksX7_plantAt_0 16 rfl rfl)
theorem dX7_plantAt_19 : decode cX7_plantAt 19 = .ok (.iconst 4, 1) := dk_7 (dk_at dksX7_plantAt_0 19 rfl rfl)
theorem dX7_plantAt_20 : decode cX7_plantAt 20 = .ok (.iload_n 2, 1) := dk_28 (dk_at dksX7_plantAt_0 20 rfl rfl)
theorem dX7_plantAt_21 : decode cX7_plantAt 21 = .ok (.imul, 1) := dk_104 (dk_at dksX7_plantAt_0 21 rfl rfl)
theorem dX7_plantAt_22 : decode cX7_plantAt 22 = .ok (.aload_n 0, 1) := dk_42 (dk_at dksX7_plantAt_0 22 rfl rfl)
theorem dX7_plantAt_23 : decode cX7_plantAt 23 = .ok (.getfield 442, 3) := dk_180 1 186 (dk_at dksX7_plantAt_1 0 rfl rfl)
theorem dX7_plantAt_26 : decode cX7_plantAt 26 = .ok (.getfield 341, 3) := dk_180 1 85 (dk_at dksX7_plantAt_1 3 rfl rfl)
theorem dX7_plantAt_29 : decode cX7_plantAt 29 = .ok (.iconst 4, 1) := dk_7 (dk_at dksX7_plantAt_1 6 rfl rfl)
theorem dX7_plantAt_30 : decode cX7_plantAt 30 = .ok (.iload_n 1, 1) := dk_27 (dk_at dksX7_plantAt_1 7 rfl rfl)
theorem dX7_plantAt_31 : decode cX7_plantAt 31 = .ok (.imul, 1) := dk_104 (dk_at dksX7_plantAt_1 8 rfl rfl)
theorem dX7_plantAt_32 : decode cX7_plantAt 32 = .ok (.iload_n 3, 1) := dk_29 (dk_at dksX7_plantAt_1 9 rfl rfl)
theorem dX7_plantAt_33 : decode cX7_plantAt 33 = .ok (.iadd, 1) := dk_96 (dk_at dksX7_plantAt_1 10 rfl rfl)
theorem dX7_plantAt_34 : decode cX7_plantAt 34 = .ok (.iaload, 1) := dk_46 (dk_at dksX7_plantAt_1 11 rfl rfl)
theorem dX7_plantAt_35 : decode cX7_plantAt 35 = .ok (.iadd, 1) := dk_96 (dk_at dksX7_plantAt_1 12 rfl rfl)
theorem dX7_plantAt_36 : decode cX7_plantAt 36 = .ok (.iaload, 1) := dk_46 (dk_at dksX7_plantAt_1 13 rfl rfl)
theorem dX7_plantAt_37 : decode cX7_plantAt 37 = .ok (.ifCond .le 17, 3) := dk_158 0 17 (dk_at dksX7_plantAt_1 14 rfl rfl)
theorem dX7_plantAt_40 : decode cX7_plantAt 40 = .ok (.aload_n 0, 1) := dk_42 (dk_at dksX7_plantAt_1 17 rfl rfl)
theorem dX7_plantAt_41 : decode cX7_plantAt 41 = .ok (.getfield 442, 3) := dk_180 1 186 (dk_at dksX7_plantAt_1 18 rfl rfl)
theorem dX7_plantAt_44 : decode cX7_plantAt 44 = .ok (.getfield 341, 3) := dk_180 1 85 (dk_at dksX7_plantAt_1 21 rfl rfl)
theorem dX7_plantAt_47 : decode cX7_plantAt 47 = .ok (.iconst 4, 1) := dk_7 (dk_at dksX7_plantAt_2 0 rfl rfl)
theorem dX7_plantAt_48 : decode cX7_plantAt 48 = .ok (.iload_n 1, 1) := dk_27 (dk_at dksX7_plantAt_2 1 rfl rfl)
theorem dX7_plantAt_49 : decode cX7_plantAt 49 = .ok (.imul, 1) := dk_104 (dk_at dksX7_plantAt_2 2 rfl rfl)
theorem dX7_plantAt_50 : decode cX7_plantAt 50 = .ok (.iload_n 3, 1) := dk_29 (dk_at dksX7_plantAt_2 3 rfl rfl)
theorem dX7_plantAt_51 : decode cX7_plantAt 51 = .ok (.iadd, 1) := dk_96 (dk_at dksX7_plantAt_2 4 rfl rfl)
theorem dX7_plantAt_52 : decode cX7_plantAt 52 = .ok (.iaload, 1) := dk_46 (dk_at dksX7_plantAt_2 5 rfl rfl)
theorem dX7_plantAt_53 : decode cX7_plantAt 53 = .ok (.ireturn, 1) := dk_172 (dk_at dksX7_plantAt_2 6 rfl rfl)
theorem dX7_plantAt_54 : decode cX7_plantAt 54 = .ok (.iinc 3 1, 3) := dk_132 3 1 (dk_at dksX7_plantAt_2 7 rfl rfl)
theorem dX7_plantAt_57 : decode cX7_plantAt 57 = .ok (.goto (-55), 3) := dk_167 255 201 (dk_at dksX7_plantAt_2 10 rfl rfl)
theorem dX7_plantAt_60 : decode cX7_plantAt 60 = .ok (.iconst (-1), 1) := dk_2 (dk_at dksX7_plantAt_2 13 rfl rfl)
theorem dX7_plantAt_61 : decode cX7_plantAt 61 = .ok (.ireturn, 1) := dk_172 (dk_at dksX7_plantAt_2 14 rfl rfl)
def dkwX7_eats_4 : List UInt8 := [28, 96, 21, 5, 79, 177]
abbrev dktX7_eats_4 : List UInt8 := dkwX7_eats_4 ++ []
def dkwX7_eats_3 : List UInt8 := [21, 5, 100, 79, 42, 180, 0, 33, 16, 12, 27, 104, 28, 96, 29, 79, 42, 180, 0, 36, 16, 12, 27, 104]
abbrev dktX7_eats_3 : List UInt8 := dkwX7_eats_3 ++ dktX7_eats_4
def dkwX7_eats_2 : List UInt8 := [5, 167, 0, 4, 4, 54, 5, 42, 180, 0, 39, 7, 42, 180, 0, 45, 27, 46, 104, 29, 96, 92, 46]
abbrev dktX7_eats_2 : List UInt8 := dkwX7_eats_2 ++ dktX7_eats_3
def dkwX7_eats_1 : List UInt8 := [29, 96, 46, 54, 4, 42, 180, 1, 186, 180, 1, 91, 27, 46, 5, 160, 0, 13, 21, 4, 4, 164, 0, 7]
abbrev dktX7_eats_1 : List UInt8 := dkwX7_eats_1 ++ dktX7_eats_2
def dkwX7_eats_0 : List UInt8 := [42, 27, 42, 180, 0, 45, 27, 46, 182, 1, 216, 62, 42, 180, 0, 39, 7, 42, 180, 0, 45, 27, 46, 104]
abbrev dktX7_eats_0 : List UInt8 := dkwX7_eats_0 ++ dktX7_eats_1
theorem dksX7_eats_0 : cX7_eats.data.toList.drop 0 = dktX7_eats_0 := by decide +kernel
theorem dksX7_eats_1 : cX7_eats.data.toList.drop 24 = dktX7_eats_1 := dk_seg dksX7_eats_0 24 rfl rfl
theorem dksX7_eats_2 : cX7_eats.data.toList.drop 48 = dktX7_eats_2 := dk_seg dksX7_eats_1 24 rfl rfl
theorem dksX7_eats_3 : cX7_eats.data.toList.drop 71 = dktX7_eats_3 := dk_seg dksX7_eats_2 23 rfl rfl
theorem dksX7_eats_4 : cX7_eats.data.toList.drop 95 = dktX7_eats_4 := dk_seg dksX7_eats_3 24 rfl rfl
theorem dX7_eats_0 : decode cX7_eats 0 = .ok (.aload_n 0, 1) := dk_42 (dk_at dksX7_eats_0 0 rfl rfl)
theorem dX7_eats_1 : decode cX7_eats 1 = .ok (.iload_n 1, 1) := dk_27 (dk_at dksX7_eats_0 1 rfl rfl)
theorem dX7_eats_2 : decode cX7_eats 2 = .ok (.aload_n 0, 1) := dk_42 (dk_at dksX7_eats_0 2 rfl rfl)
theorem dX7_eats_3 : decode cX7_eats 3 = .ok (.getfield 45, 3) := dk_180 0 45 (dk_at dksX7_eats_0 3 rfl rfl)
theorem dX7_eats_6 : decode cX7_eats 6 = .ok (.iload_n 1, 1) := dk_27 (dk_at dksX7_eats_0 6 rfl rfl)
theorem dX7_eats_7 : decode cX7_eats 7 = .ok (.iaload, 1) := dk_46 (dk_at dksX7_eats_0 7 rfl rfl)
theorem dX7_eats_8 : decode cX7_eats 8 = .ok (.invokevirtual 472, 3) := dk_182 1 216 (dk_at dksX7_eats_0 8 rfl rfl)
theorem dX7_eats_11 : decode cX7_eats 11 = .ok (.istore_n 3, 1) := dk_62 (dk_at dksX7_eats_0 11 rfl rfl)
theorem dX7_eats_12 : decode cX7_eats 12 = .ok (.aload_n 0, 1) := dk_42 (dk_at dksX7_eats_0 12 rfl rfl)
theorem dX7_eats_13 : decode cX7_eats 13 = .ok (.getfield 39, 3) := dk_180 0 39 (dk_at dksX7_eats_0 13 rfl rfl)
theorem dX7_eats_16 : decode cX7_eats 16 = .ok (.iconst 4, 1) := dk_7 (dk_at dksX7_eats_0 16 rfl rfl)
theorem dX7_eats_17 : decode cX7_eats 17 = .ok (.aload_n 0, 1) := dk_42 (dk_at dksX7_eats_0 17 rfl rfl)
theorem dX7_eats_18 : decode cX7_eats 18 = .ok (.getfield 45, 3) := dk_180 0 45 (dk_at dksX7_eats_0 18 rfl rfl)
theorem dX7_eats_21 : decode cX7_eats 21 = .ok (.iload_n 1, 1) := dk_27 (dk_at dksX7_eats_0 21 rfl rfl)
theorem dX7_eats_22 : decode cX7_eats 22 = .ok (.iaload, 1) := dk_46 (dk_at dksX7_eats_0 22 rfl rfl)
theorem dX7_eats_23 : decode cX7_eats 23 = .ok (.imul, 1) := dk_104 (dk_at dksX7_eats_0 23 rfl rfl)
theorem dX7_eats_24 : decode cX7_eats 24 = .ok (.iload_n 3, 1) := dk_29 (dk_at dksX7_eats_1 0 rfl rfl)
theorem dX7_eats_25 : decode cX7_eats 25 = .ok (.iadd, 1) := dk_96 (dk_at dksX7_eats_1 1 rfl rfl)
theorem dX7_eats_26 : decode cX7_eats 26 = .ok (.iaload, 1) := dk_46 (dk_at dksX7_eats_1 2 rfl rfl)
theorem dX7_eats_27 : decode cX7_eats 27 = .ok (.istore 4, 2) := dk_54 4 (dk_at dksX7_eats_1 3 rfl rfl)
theorem dX7_eats_29 : decode cX7_eats 29 = .ok (.aload_n 0, 1) := dk_42 (dk_at dksX7_eats_1 5 rfl rfl)
theorem dX7_eats_30 : decode cX7_eats 30 = .ok (.getfield 442, 3) := dk_180 1 186 (dk_at dksX7_eats_1 6 rfl rfl)
theorem dX7_eats_33 : decode cX7_eats 33 = .ok (.getfield 347, 3) := dk_180 1 91 (dk_at dksX7_eats_1 9 rfl rfl)
theorem dX7_eats_36 : decode cX7_eats 36 = .ok (.iload_n 1, 1) := dk_27 (dk_at dksX7_eats_1 12 rfl rfl)
theorem dX7_eats_37 : decode cX7_eats 37 = .ok (.iaload, 1) := dk_46 (dk_at dksX7_eats_1 13 rfl rfl)
theorem dX7_eats_38 : decode cX7_eats 38 = .ok (.iconst 2, 1) := dk_5 (dk_at dksX7_eats_1 14 rfl rfl)
theorem dX7_eats_39 : decode cX7_eats 39 = .ok (.if_icmp .ne 13, 3) := dk_160 0 13 (dk_at dksX7_eats_1 15 rfl rfl)
theorem dX7_eats_42 : decode cX7_eats 42 = .ok (.iload 4, 2) := dk_21 4 (dk_at dksX7_eats_1 18 rfl rfl)
theorem dX7_eats_44 : decode cX7_eats 44 = .ok (.iconst 1, 1) := dk_4 (dk_at dksX7_eats_1 20 rfl rfl)
theorem dX7_eats_45 : decode cX7_eats 45 = .ok (.if_icmp .le 7, 3) := dk_164 0 7 (dk_at dksX7_eats_1 21 rfl rfl)
theorem dX7_eats_48 : decode cX7_eats 48 = .ok (.iconst 2, 1) := dk_5 (dk_at dksX7_eats_2 0 rfl rfl)
theorem dX7_eats_49 : decode cX7_eats 49 = .ok (.goto 4, 3) := dk_167 0 4 (dk_at dksX7_eats_2 1 rfl rfl)
theorem dX7_eats_52 : decode cX7_eats 52 = .ok (.iconst 1, 1) := dk_4 (dk_at dksX7_eats_2 4 rfl rfl)
theorem dX7_eats_53 : decode cX7_eats 53 = .ok (.istore 5, 2) := dk_54 5 (dk_at dksX7_eats_2 5 rfl rfl)
theorem dX7_eats_55 : decode cX7_eats 55 = .ok (.aload_n 0, 1) := dk_42 (dk_at dksX7_eats_2 7 rfl rfl)
theorem dX7_eats_56 : decode cX7_eats 56 = .ok (.getfield 39, 3) := dk_180 0 39 (dk_at dksX7_eats_2 8 rfl rfl)
theorem dX7_eats_59 : decode cX7_eats 59 = .ok (.iconst 4, 1) := dk_7 (dk_at dksX7_eats_2 11 rfl rfl)
theorem dX7_eats_60 : decode cX7_eats 60 = .ok (.aload_n 0, 1) := dk_42 (dk_at dksX7_eats_2 12 rfl rfl)
theorem dX7_eats_61 : decode cX7_eats 61 = .ok (.getfield 45, 3) := dk_180 0 45 (dk_at dksX7_eats_2 13 rfl rfl)
theorem dX7_eats_64 : decode cX7_eats 64 = .ok (.iload_n 1, 1) := dk_27 (dk_at dksX7_eats_2 16 rfl rfl)
theorem dX7_eats_65 : decode cX7_eats 65 = .ok (.iaload, 1) := dk_46 (dk_at dksX7_eats_2 17 rfl rfl)
theorem dX7_eats_66 : decode cX7_eats 66 = .ok (.imul, 1) := dk_104 (dk_at dksX7_eats_2 18 rfl rfl)
theorem dX7_eats_67 : decode cX7_eats 67 = .ok (.iload_n 3, 1) := dk_29 (dk_at dksX7_eats_2 19 rfl rfl)
theorem dX7_eats_68 : decode cX7_eats 68 = .ok (.iadd, 1) := dk_96 (dk_at dksX7_eats_2 20 rfl rfl)
theorem dX7_eats_69 : decode cX7_eats 69 = .ok (.dup2, 1) := dk_92 (dk_at dksX7_eats_2 21 rfl rfl)
theorem dX7_eats_70 : decode cX7_eats 70 = .ok (.iaload, 1) := dk_46 (dk_at dksX7_eats_2 22 rfl rfl)
theorem dX7_eats_71 : decode cX7_eats 71 = .ok (.iload 5, 2) := dk_21 5 (dk_at dksX7_eats_3 0 rfl rfl)
theorem dX7_eats_73 : decode cX7_eats 73 = .ok (.isub, 1) := dk_100 (dk_at dksX7_eats_3 2 rfl rfl)
theorem dX7_eats_74 : decode cX7_eats 74 = .ok (.iastore, 1) := dk_79 (dk_at dksX7_eats_3 3 rfl rfl)
theorem dX7_eats_75 : decode cX7_eats 75 = .ok (.aload_n 0, 1) := dk_42 (dk_at dksX7_eats_3 4 rfl rfl)
theorem dX7_eats_76 : decode cX7_eats 76 = .ok (.getfield 33, 3) := dk_180 0 33 (dk_at dksX7_eats_3 5 rfl rfl)
theorem dX7_eats_79 : decode cX7_eats 79 = .ok (.bipush 12, 2) := dk_16 12 (dk_at dksX7_eats_3 8 rfl rfl)
theorem dX7_eats_81 : decode cX7_eats 81 = .ok (.iload_n 1, 1) := dk_27 (dk_at dksX7_eats_3 10 rfl rfl)
theorem dX7_eats_82 : decode cX7_eats 82 = .ok (.imul, 1) := dk_104 (dk_at dksX7_eats_3 11 rfl rfl)
theorem dX7_eats_83 : decode cX7_eats 83 = .ok (.iload_n 2, 1) := dk_28 (dk_at dksX7_eats_3 12 rfl rfl)
theorem dX7_eats_84 : decode cX7_eats 84 = .ok (.iadd, 1) := dk_96 (dk_at dksX7_eats_3 13 rfl rfl)
theorem dX7_eats_85 : decode cX7_eats 85 = .ok (.iload_n 3, 1) := dk_29 (dk_at dksX7_eats_3 14 rfl rfl)
theorem dX7_eats_86 : decode cX7_eats 86 = .ok (.iastore, 1) := dk_79 (dk_at dksX7_eats_3 15 rfl rfl)
theorem dX7_eats_87 : decode cX7_eats 87 = .ok (.aload_n 0, 1) := dk_42 (dk_at dksX7_eats_3 16 rfl rfl)
theorem dX7_eats_88 : decode cX7_eats 88 = .ok (.getfield 36, 3) := dk_180 0 36 (dk_at dksX7_eats_3 17 rfl rfl)
theorem dX7_eats_91 : decode cX7_eats 91 = .ok (.bipush 12, 2) := dk_16 12 (dk_at dksX7_eats_3 20 rfl rfl)
theorem dX7_eats_93 : decode cX7_eats 93 = .ok (.iload_n 1, 1) := dk_27 (dk_at dksX7_eats_3 22 rfl rfl)
theorem dX7_eats_94 : decode cX7_eats 94 = .ok (.imul, 1) := dk_104 (dk_at dksX7_eats_3 23 rfl rfl)
theorem dX7_eats_95 : decode cX7_eats 95 = .ok (.iload_n 2, 1) := dk_28 (dk_at dksX7_eats_4 0 rfl rfl)
theorem dX7_eats_96 : decode cX7_eats 96 = .ok (.iadd, 1) := dk_96 (dk_at dksX7_eats_4 1 rfl rfl)
theorem dX7_eats_97 : decode cX7_eats 97 = .ok (.iload 5, 2) := dk_21 5 (dk_at dksX7_eats_4 2 rfl rfl)
theorem dX7_eats_99 : decode cX7_eats 99 = .ok (.iastore, 1) := dk_79 (dk_at dksX7_eats_4 4 rfl rfl)
theorem dX7_eats_100 : decode cX7_eats 100 = .ok (.return_, 1) := dk_177 (dk_at dksX7_eats_4 5 rfl rfl)
def dkwX7_goatGoes_8 : List UInt8 := [29, 182, 1, 207, 16, 9, 162, 0, 11, 42, 180, 0, 45, 28, 21, 5, 79, 177]
abbrev dktX7_goatGoes_8 : List UInt8 := dkwX7_goatGoes_8 ++ []
def dkwX7_goatGoes_7 : List UInt8 := [21, 6, 16, 9, 162, 0, 10, 42, 28, 29, 182, 1, 213, 177, 21, 5, 2, 159, 0, 24, 42, 28, 21, 5]
abbrev dktX7_goatGoes_7 : List UInt8 := dkwX7_goatGoes_7 ++ dktX7_goatGoes_8
def dkwX7_goatGoes_6 : List UInt8 := [159, 0, 23, 42, 28, 21, 5, 29, 182, 1, 207, 154, 0, 12, 42, 180, 0, 45, 28, 21, 5, 79, 177]
abbrev dktX7_goatGoes_6 : List UInt8 := dkwX7_goatGoes_6 ++ dktX7_goatGoes_7
def dkwX7_goatGoes_5 : List UInt8 := [28, 42, 180, 0, 45, 28, 46, 29, 182, 1, 207, 54, 6, 21, 6, 154, 0, 4, 177, 21, 5, 2]
abbrev dktX7_goatGoes_5 : List UInt8 := dkwX7_goatGoes_5 ++ dktX7_goatGoes_6
def dkwX7_goatGoes_4 : List UInt8 := [160, 0, 4, 177, 42, 180, 0, 45, 28, 21, 5, 79, 42, 180, 0, 42, 28, 92, 46, 4, 96, 79, 177, 42]
abbrev dktX7_goatGoes_4 : List UInt8 := dkwX7_goatGoes_4 ++ dktX7_goatGoes_5
def dkwX7_goatGoes_3 : List UInt8 := [182, 1, 210, 54, 5, 42, 27, 28, 42, 180, 0, 45, 28, 46, 29, 182, 1, 204, 153, 0, 29, 21, 5, 2]
abbrev dktX7_goatGoes_3 : List UInt8 := dkwX7_goatGoes_3 ++ dktX7_goatGoes_4
def dkwX7_goatGoes_2 : List UInt8 := [182, 1, 201, 153, 0, 17, 42, 180, 0, 45, 28, 42, 180, 0, 45, 21, 4, 46, 79, 177, 42, 27, 28, 29]
abbrev dktX7_goatGoes_2 : List UInt8 := dkwX7_goatGoes_2 ++ dktX7_goatGoes_3
def dkwX7_goatGoes_1 : List UInt8 := [46, 42, 180, 0, 45, 28, 46, 159, 0, 37, 42, 42, 180, 0, 45, 28, 46, 42, 180, 0, 45, 21, 4, 46]
abbrev dktX7_goatGoes_1 : List UInt8 := dkwX7_goatGoes_1 ++ dktX7_goatGoes_2
def dkwX7_goatGoes_0 : List UInt8 := [42, 180, 1, 186, 180, 1, 94, 28, 46, 54, 4, 21, 4, 16, 254, 159, 0, 53, 42, 180, 0, 45, 21, 4]
abbrev dktX7_goatGoes_0 : List UInt8 := dkwX7_goatGoes_0 ++ dktX7_goatGoes_1
theorem dksX7_goatGoes_0 : cX7_goatGoes.data.toList.drop 0 = dktX7_goatGoes_0 := by decide +kernel
theorem dksX7_goatGoes_1 : cX7_goatGoes.data.toList.drop 24 = dktX7_goatGoes_1 := dk_seg dksX7_goatGoes_0 24 rfl rfl
theorem dksX7_goatGoes_2 : cX7_goatGoes.data.toList.drop 48 = dktX7_goatGoes_2 := dk_seg dksX7_goatGoes_1 24 rfl rfl
theorem dksX7_goatGoes_3 : cX7_goatGoes.data.toList.drop 72 = dktX7_goatGoes_3 := dk_seg dksX7_goatGoes_2 24 rfl rfl
theorem dksX7_goatGoes_4 : cX7_goatGoes.data.toList.drop 96 = dktX7_goatGoes_4 := dk_seg dksX7_goatGoes_3 24 rfl rfl
theorem dksX7_goatGoes_5 : cX7_goatGoes.data.toList.drop 120 = dktX7_goatGoes_5 := dk_seg dksX7_goatGoes_4 24 rfl rfl
theorem dksX7_goatGoes_6 : cX7_goatGoes.data.toList.drop 142 = dktX7_goatGoes_6 := dk_seg dksX7_goatGoes_5 22 rfl rfl
theorem dksX7_goatGoes_7 : cX7_goatGoes.data.toList.drop 165 = dktX7_goatGoes_7 := dk_seg dksX7_goatGoes_6 23 rfl rfl
theorem dksX7_goatGoes_8 : cX7_goatGoes.data.toList.drop 189 = dktX7_goatGoes_8 := dk_seg dksX7_goatGoes_7 24 rfl rfl
theorem dX7_goatGoes_0 : decode cX7_goatGoes 0 = .ok (.aload_n 0, 1) := dk_42 (dk_at dksX7_goatGoes_0 0 rfl rfl)
theorem dX7_goatGoes_1 : decode cX7_goatGoes 1 = .ok (.getfield 442, 3) := dk_180 1 186 (dk_at dksX7_goatGoes_0 1 rfl rfl)
theorem dX7_goatGoes_4 : decode cX7_goatGoes 4 = .ok (.getfield 350, 3) := dk_180 1 94 (dk_at dksX7_goatGoes_0 4 rfl rfl)
theorem dX7_goatGoes_7 : decode cX7_goatGoes 7 = .ok (.iload_n 2, 1) := dk_28 (dk_at dksX7_goatGoes_0 7 rfl rfl)
theorem dX7_goatGoes_8 : decode cX7_goatGoes 8 = .ok (.iaload, 1) := dk_46 (dk_at dksX7_goatGoes_0 8 rfl rfl)
theorem dX7_goatGoes_9 : decode cX7_goatGoes 9 = .ok (.istore 4, 2) := dk_54 4 (dk_at dksX7_goatGoes_0 9 rfl rfl)
theorem dX7_goatGoes_11 : decode cX7_goatGoes 11 = .ok (.iload 4, 2) := dk_21 4 (dk_at dksX7_goatGoes_0 11 rfl rfl)
theorem dX7_goatGoes_13 : decode cX7_goatGoes 13 = .ok (.bipush (-2), 2) := dk_16 254 (dk_at dksX7_goatGoes_0 13 rfl rfl)
theorem dX7_goatGoes_15 : decode cX7_goatGoes 15 = .ok (.if_icmp .eq 53, 3) := dk_159 0 53 (dk_at dksX7_goatGoes_0 15 rfl rfl)
theorem dX7_goatGoes_18 : decode cX7_goatGoes 18 = .ok (.aload_n 0, 1) := dk_42 (dk_at dksX7_goatGoes_0 18 rfl rfl)
theorem dX7_goatGoes_19 : decode cX7_goatGoes 19 = .ok (.getfield 45, 3) := dk_180 0 45 (dk_at dksX7_goatGoes_0 19 rfl rfl)
theorem dX7_goatGoes_22 : decode cX7_goatGoes 22 = .ok (.iload 4, 2) := dk_21 4 (dk_at dksX7_goatGoes_0 22 rfl rfl)
theorem dX7_goatGoes_24 : decode cX7_goatGoes 24 = .ok (.iaload, 1) := dk_46 (dk_at dksX7_goatGoes_1 0 rfl rfl)
theorem dX7_goatGoes_25 : decode cX7_goatGoes 25 = .ok (.aload_n 0, 1) := dk_42 (dk_at dksX7_goatGoes_1 1 rfl rfl)
theorem dX7_goatGoes_26 : decode cX7_goatGoes 26 = .ok (.getfield 45, 3) := dk_180 0 45 (dk_at dksX7_goatGoes_1 2 rfl rfl)
theorem dX7_goatGoes_29 : decode cX7_goatGoes 29 = .ok (.iload_n 2, 1) := dk_28 (dk_at dksX7_goatGoes_1 5 rfl rfl)
theorem dX7_goatGoes_30 : decode cX7_goatGoes 30 = .ok (.iaload, 1) := dk_46 (dk_at dksX7_goatGoes_1 6 rfl rfl)
theorem dX7_goatGoes_31 : decode cX7_goatGoes 31 = .ok (.if_icmp .eq 37, 3) := dk_159 0 37 (dk_at dksX7_goatGoes_1 7 rfl rfl)
theorem dX7_goatGoes_34 : decode cX7_goatGoes 34 = .ok (.aload_n 0, 1) := dk_42 (dk_at dksX7_goatGoes_1 10 rfl rfl)
theorem dX7_goatGoes_35 : decode cX7_goatGoes 35 = .ok (.aload_n 0, 1) := dk_42 (dk_at dksX7_goatGoes_1 11 rfl rfl)
theorem dX7_goatGoes_36 : decode cX7_goatGoes 36 = .ok (.getfield 45, 3) := dk_180 0 45 (dk_at dksX7_goatGoes_1 12 rfl rfl)
theorem dX7_goatGoes_39 : decode cX7_goatGoes 39 = .ok (.iload_n 2, 1) := dk_28 (dk_at dksX7_goatGoes_1 15 rfl rfl)
theorem dX7_goatGoes_40 : decode cX7_goatGoes 40 = .ok (.iaload, 1) := dk_46 (dk_at dksX7_goatGoes_1 16 rfl rfl)
theorem dX7_goatGoes_41 : decode cX7_goatGoes 41 = .ok (.aload_n 0, 1) := dk_42 (dk_at dksX7_goatGoes_1 17 rfl rfl)
theorem dX7_goatGoes_42 : decode cX7_goatGoes 42 = .ok (.getfield 45, 3) := dk_180 0 45 (dk_at dksX7_goatGoes_1 18 rfl rfl)
theorem dX7_goatGoes_45 : decode cX7_goatGoes 45 = .ok (.iload 4, 2) := dk_21 4 (dk_at dksX7_goatGoes_1 21 rfl rfl)
theorem dX7_goatGoes_47 : decode cX7_goatGoes 47 = .ok (.iaload, 1) := dk_46 (dk_at dksX7_goatGoes_1 23 rfl rfl)
theorem dX7_goatGoes_48 : decode cX7_goatGoes 48 = .ok (.invokevirtual 457, 3) := dk_182 1 201 (dk_at dksX7_goatGoes_2 0 rfl rfl)
theorem dX7_goatGoes_51 : decode cX7_goatGoes 51 = .ok (.ifCond .eq 17, 3) := dk_153 0 17 (dk_at dksX7_goatGoes_2 3 rfl rfl)
theorem dX7_goatGoes_54 : decode cX7_goatGoes 54 = .ok (.aload_n 0, 1) := dk_42 (dk_at dksX7_goatGoes_2 6 rfl rfl)
theorem dX7_goatGoes_55 : decode cX7_goatGoes 55 = .ok (.getfield 45, 3) := dk_180 0 45 (dk_at dksX7_goatGoes_2 7 rfl rfl)
theorem dX7_goatGoes_58 : decode cX7_goatGoes 58 = .ok (.iload_n 2, 1) := dk_28 (dk_at dksX7_goatGoes_2 10 rfl rfl)
theorem dX7_goatGoes_59 : decode cX7_goatGoes 59 = .ok (.aload_n 0, 1) := dk_42 (dk_at dksX7_goatGoes_2 11 rfl rfl)
theorem dX7_goatGoes_60 : decode cX7_goatGoes 60 = .ok (.getfield 45, 3) := dk_180 0 45 (dk_at dksX7_goatGoes_2 12 rfl rfl)
theorem dX7_goatGoes_63 : decode cX7_goatGoes 63 = .ok (.iload 4, 2) := dk_21 4 (dk_at dksX7_goatGoes_2 15 rfl rfl)
theorem dX7_goatGoes_65 : decode cX7_goatGoes 65 = .ok (.iaload, 1) := dk_46 (dk_at dksX7_goatGoes_2 17 rfl rfl)
theorem dX7_goatGoes_66 : decode cX7_goatGoes 66 = .ok (.iastore, 1) := dk_79 (dk_at dksX7_goatGoes_2 18 rfl rfl)
theorem dX7_goatGoes_67 : decode cX7_goatGoes 67 = .ok (.return_, 1) := dk_177 (dk_at dksX7_goatGoes_2 19 rfl rfl)
theorem dX7_goatGoes_68 : decode cX7_goatGoes 68 = .ok (.aload_n 0, 1) := dk_42 (dk_at dksX7_goatGoes_2 20 rfl rfl)
theorem dX7_goatGoes_69 : decode cX7_goatGoes 69 = .ok (.iload_n 1, 1) := dk_27 (dk_at dksX7_goatGoes_2 21 rfl rfl)
theorem dX7_goatGoes_70 : decode cX7_goatGoes 70 = .ok (.iload_n 2, 1) := dk_28 (dk_at dksX7_goatGoes_2 22 rfl rfl)
theorem dX7_goatGoes_71 : decode cX7_goatGoes 71 = .ok (.iload_n 3, 1) := dk_29 (dk_at dksX7_goatGoes_2 23 rfl rfl)
theorem dX7_goatGoes_72 : decode cX7_goatGoes 72 = .ok (.invokevirtual 466, 3) := dk_182 1 210 (dk_at dksX7_goatGoes_3 0 rfl rfl)
theorem dX7_goatGoes_75 : decode cX7_goatGoes 75 = .ok (.istore 5, 2) := dk_54 5 (dk_at dksX7_goatGoes_3 3 rfl rfl)
theorem dX7_goatGoes_77 : decode cX7_goatGoes 77 = .ok (.aload_n 0, 1) := dk_42 (dk_at dksX7_goatGoes_3 5 rfl rfl)
theorem dX7_goatGoes_78 : decode cX7_goatGoes 78 = .ok (.iload_n 1, 1) := dk_27 (dk_at dksX7_goatGoes_3 6 rfl rfl)
theorem dX7_goatGoes_79 : decode cX7_goatGoes 79 = .ok (.iload_n 2, 1) := dk_28 (dk_at dksX7_goatGoes_3 7 rfl rfl)
theorem dX7_goatGoes_80 : decode cX7_goatGoes 80 = .ok (.aload_n 0, 1) := dk_42 (dk_at dksX7_goatGoes_3 8 rfl rfl)
theorem dX7_goatGoes_81 : decode cX7_goatGoes 81 = .ok (.getfield 45, 3) := dk_180 0 45 (dk_at dksX7_goatGoes_3 9 rfl rfl)
theorem dX7_goatGoes_84 : decode cX7_goatGoes 84 = .ok (.iload_n 2, 1) := dk_28 (dk_at dksX7_goatGoes_3 12 rfl rfl)
theorem dX7_goatGoes_85 : decode cX7_goatGoes 85 = .ok (.iaload, 1) := dk_46 (dk_at dksX7_goatGoes_3 13 rfl rfl)
theorem dX7_goatGoes_86 : decode cX7_goatGoes 86 = .ok (.iload_n 3, 1) := dk_29 (dk_at dksX7_goatGoes_3 14 rfl rfl)
theorem dX7_goatGoes_87 : decode cX7_goatGoes 87 = .ok (.invokevirtual 460, 3) := dk_182 1 204 (dk_at dksX7_goatGoes_3 15 rfl rfl)
theorem dX7_goatGoes_90 : decode cX7_goatGoes 90 = .ok (.ifCond .eq 29, 3) := dk_153 0 29 (dk_at dksX7_goatGoes_3 18 rfl rfl)
theorem dX7_goatGoes_93 : decode cX7_goatGoes 93 = .ok (.iload 5, 2) := dk_21 5 (dk_at dksX7_goatGoes_3 21 rfl rfl)
theorem dX7_goatGoes_95 : decode cX7_goatGoes 95 = .ok (.iconst (-1), 1) := dk_2 (dk_at dksX7_goatGoes_3 23 rfl rfl)
theorem dX7_goatGoes_96 : decode cX7_goatGoes 96 = .ok (.if_icmp .ne 4, 3) := dk_160 0 4 (dk_at dksX7_goatGoes_4 0 rfl rfl)
theorem dX7_goatGoes_99 : decode cX7_goatGoes 99 = .ok (.return_, 1) := dk_177 (dk_at dksX7_goatGoes_4 3 rfl rfl)
theorem dX7_goatGoes_100 : decode cX7_goatGoes 100 = .ok (.aload_n 0, 1) := dk_42 (dk_at dksX7_goatGoes_4 4 rfl rfl)
theorem dX7_goatGoes_101 : decode cX7_goatGoes 101 = .ok (.getfield 45, 3) := dk_180 0 45 (dk_at dksX7_goatGoes_4 5 rfl rfl)
theorem dX7_goatGoes_104 : decode cX7_goatGoes 104 = .ok (.iload_n 2, 1) := dk_28 (dk_at dksX7_goatGoes_4 8 rfl rfl)
theorem dX7_goatGoes_105 : decode cX7_goatGoes 105 = .ok (.iload 5, 2) := dk_21 5 (dk_at dksX7_goatGoes_4 9 rfl rfl)
theorem dX7_goatGoes_107 : decode cX7_goatGoes 107 = .ok (.iastore, 1) := dk_79 (dk_at dksX7_goatGoes_4 11 rfl rfl)
theorem dX7_goatGoes_108 : decode cX7_goatGoes 108 = .ok (.aload_n 0, 1) := dk_42 (dk_at dksX7_goatGoes_4 12 rfl rfl)
theorem dX7_goatGoes_109 : decode cX7_goatGoes 109 = .ok (.getfield 42, 3) := dk_180 0 42 (dk_at dksX7_goatGoes_4 13 rfl rfl)
theorem dX7_goatGoes_112 : decode cX7_goatGoes 112 = .ok (.iload_n 2, 1) := dk_28 (dk_at dksX7_goatGoes_4 16 rfl rfl)
theorem dX7_goatGoes_113 : decode cX7_goatGoes 113 = .ok (.dup2, 1) := dk_92 (dk_at dksX7_goatGoes_4 17 rfl rfl)
theorem dX7_goatGoes_114 : decode cX7_goatGoes 114 = .ok (.iaload, 1) := dk_46 (dk_at dksX7_goatGoes_4 18 rfl rfl)
theorem dX7_goatGoes_115 : decode cX7_goatGoes 115 = .ok (.iconst 1, 1) := dk_4 (dk_at dksX7_goatGoes_4 19 rfl rfl)
theorem dX7_goatGoes_116 : decode cX7_goatGoes 116 = .ok (.iadd, 1) := dk_96 (dk_at dksX7_goatGoes_4 20 rfl rfl)
theorem dX7_goatGoes_117 : decode cX7_goatGoes 117 = .ok (.iastore, 1) := dk_79 (dk_at dksX7_goatGoes_4 21 rfl rfl)
theorem dX7_goatGoes_118 : decode cX7_goatGoes 118 = .ok (.return_, 1) := dk_177 (dk_at dksX7_goatGoes_4 22 rfl rfl)
theorem dX7_goatGoes_119 : decode cX7_goatGoes 119 = .ok (.aload_n 0, 1) := dk_42 (dk_at dksX7_goatGoes_4 23 rfl rfl)
theorem dX7_goatGoes_120 : decode cX7_goatGoes 120 = .ok (.iload_n 2, 1) := dk_28 (dk_at dksX7_goatGoes_5 0 rfl rfl)
theorem dX7_goatGoes_121 : decode cX7_goatGoes 121 = .ok (.aload_n 0, 1) := dk_42 (dk_at dksX7_goatGoes_5 1 rfl rfl)
theorem dX7_goatGoes_122 : decode cX7_goatGoes 122 = .ok (.getfield 45, 3) := dk_180 0 45 (dk_at dksX7_goatGoes_5 2 rfl rfl)
theorem dX7_goatGoes_125 : decode cX7_goatGoes 125 = .ok (.iload_n 2, 1) := dk_28 (dk_at dksX7_goatGoes_5 5 rfl rfl)
theorem dX7_goatGoes_126 : decode cX7_goatGoes 126 = .ok (.iaload, 1) := dk_46 (dk_at dksX7_goatGoes_5 6 rfl rfl)
theorem dX7_goatGoes_127 : decode cX7_goatGoes 127 = .ok (.iload_n 3, 1) := dk_29 (dk_at dksX7_goatGoes_5 7 rfl rfl)
theorem dX7_goatGoes_128 : decode cX7_goatGoes 128 = .ok (.invokevirtual 463, 3) := dk_182 1 207 (dk_at dksX7_goatGoes_5 8 rfl rfl)
theorem dX7_goatGoes_131 : decode cX7_goatGoes 131 = .ok (.istore 6, 2) := dk_54 6 (dk_at dksX7_goatGoes_5 11 rfl rfl)
theorem dX7_goatGoes_133 : decode cX7_goatGoes 133 = .ok (.iload 6, 2) := dk_21 6 (dk_at dksX7_goatGoes_5 13 rfl rfl)
theorem dX7_goatGoes_135 : decode cX7_goatGoes 135 = .ok (.ifCond .ne 4, 3) := dk_154 0 4 (dk_at dksX7_goatGoes_5 15 rfl rfl)
theorem dX7_goatGoes_138 : decode cX7_goatGoes 138 = .ok (.return_, 1) := dk_177 (dk_at dksX7_goatGoes_5 18 rfl rfl)
theorem dX7_goatGoes_139 : decode cX7_goatGoes 139 = .ok (.iload 5, 2) := dk_21 5 (dk_at dksX7_goatGoes_5 19 rfl rfl)
theorem dX7_goatGoes_141 : decode cX7_goatGoes 141 = .ok (.iconst (-1), 1) := dk_2 (dk_at dksX7_goatGoes_5 21 rfl rfl)
theorem dX7_goatGoes_142 : decode cX7_goatGoes 142 = .ok (.if_icmp .eq 23, 3) := dk_159 0 23 (dk_at dksX7_goatGoes_6 0 rfl rfl)
theorem dX7_goatGoes_145 : decode cX7_goatGoes 145 = .ok (.aload_n 0, 1) := dk_42 (dk_at dksX7_goatGoes_6 3 rfl rfl)
theorem dX7_goatGoes_146 : decode cX7_goatGoes 146 = .ok (.iload_n 2, 1) := dk_28 (dk_at dksX7_goatGoes_6 4 rfl rfl)
theorem dX7_goatGoes_147 : decode cX7_goatGoes 147 = .ok (.iload 5, 2) := dk_21 5 (dk_at dksX7_goatGoes_6 5 rfl rfl)
theorem dX7_goatGoes_149 : decode cX7_goatGoes 149 = .ok (.iload_n 3, 1) := dk_29 (dk_at dksX7_goatGoes_6 7 rfl rfl)
theorem dX7_goatGoes_150 : decode cX7_goatGoes 150 = .ok (.invokevirtual 463, 3) := dk_182 1 207 (dk_at dksX7_goatGoes_6 8 rfl rfl)
theorem dX7_goatGoes_153 : decode cX7_goatGoes 153 = .ok (.ifCond .ne 12, 3) := dk_154 0 12 (dk_at dksX7_goatGoes_6 11 rfl rfl)
theorem dX7_goatGoes_156 : decode cX7_goatGoes 156 = .ok (.aload_n 0, 1) := dk_42 (dk_at dksX7_goatGoes_6 14 rfl rfl)
theorem dX7_goatGoes_157 : decode cX7_goatGoes 157 = .ok (.getfield 45, 3) := dk_180 0 45 (dk_at dksX7_goatGoes_6 15 rfl rfl)
theorem dX7_goatGoes_160 : decode cX7_goatGoes 160 = .ok (.iload_n 2, 1) := dk_28 (dk_at dksX7_goatGoes_6 18 rfl rfl)
theorem dX7_goatGoes_161 : decode cX7_goatGoes 161 = .ok (.iload 5, 2) := dk_21 5 (dk_at dksX7_goatGoes_6 19 rfl rfl)
theorem dX7_goatGoes_163 : decode cX7_goatGoes 163 = .ok (.iastore, 1) := dk_79 (dk_at dksX7_goatGoes_6 21 rfl rfl)
theorem dX7_goatGoes_164 : decode cX7_goatGoes 164 = .ok (.return_, 1) := dk_177 (dk_at dksX7_goatGoes_6 22 rfl rfl)
theorem dX7_goatGoes_165 : decode cX7_goatGoes 165 = .ok (.iload 6, 2) := dk_21 6 (dk_at dksX7_goatGoes_7 0 rfl rfl)
theorem dX7_goatGoes_167 : decode cX7_goatGoes 167 = .ok (.bipush 9, 2) := dk_16 9 (dk_at dksX7_goatGoes_7 2 rfl rfl)
theorem dX7_goatGoes_169 : decode cX7_goatGoes 169 = .ok (.if_icmp .ge 10, 3) := dk_162 0 10 (dk_at dksX7_goatGoes_7 4 rfl rfl)
theorem dX7_goatGoes_172 : decode cX7_goatGoes 172 = .ok (.aload_n 0, 1) := dk_42 (dk_at dksX7_goatGoes_7 7 rfl rfl)
theorem dX7_goatGoes_173 : decode cX7_goatGoes 173 = .ok (.iload_n 2, 1) := dk_28 (dk_at dksX7_goatGoes_7 8 rfl rfl)
theorem dX7_goatGoes_174 : decode cX7_goatGoes 174 = .ok (.iload_n 3, 1) := dk_29 (dk_at dksX7_goatGoes_7 9 rfl rfl)
theorem dX7_goatGoes_175 : decode cX7_goatGoes 175 = .ok (.invokevirtual 469, 3) := dk_182 1 213 (dk_at dksX7_goatGoes_7 10 rfl rfl)
theorem dX7_goatGoes_178 : decode cX7_goatGoes 178 = .ok (.return_, 1) := dk_177 (dk_at dksX7_goatGoes_7 13 rfl rfl)
theorem dX7_goatGoes_179 : decode cX7_goatGoes 179 = .ok (.iload 5, 2) := dk_21 5 (dk_at dksX7_goatGoes_7 14 rfl rfl)
theorem dX7_goatGoes_181 : decode cX7_goatGoes 181 = .ok (.iconst (-1), 1) := dk_2 (dk_at dksX7_goatGoes_7 16 rfl rfl)
theorem dX7_goatGoes_182 : decode cX7_goatGoes 182 = .ok (.if_icmp .eq 24, 3) := dk_159 0 24 (dk_at dksX7_goatGoes_7 17 rfl rfl)
theorem dX7_goatGoes_185 : decode cX7_goatGoes 185 = .ok (.aload_n 0, 1) := dk_42 (dk_at dksX7_goatGoes_7 20 rfl rfl)
theorem dX7_goatGoes_186 : decode cX7_goatGoes 186 = .ok (.iload_n 2, 1) := dk_28 (dk_at dksX7_goatGoes_7 21 rfl rfl)
theorem dX7_goatGoes_187 : decode cX7_goatGoes 187 = .ok (.iload 5, 2) := dk_21 5 (dk_at dksX7_goatGoes_7 22 rfl rfl)
theorem dX7_goatGoes_189 : decode cX7_goatGoes 189 = .ok (.iload_n 3, 1) := dk_29 (dk_at dksX7_goatGoes_8 0 rfl rfl)
theorem dX7_goatGoes_190 : decode cX7_goatGoes 190 = .ok (.invokevirtual 463, 3) := dk_182 1 207 (dk_at dksX7_goatGoes_8 1 rfl rfl)
theorem dX7_goatGoes_193 : decode cX7_goatGoes 193 = .ok (.bipush 9, 2) := dk_16 9 (dk_at dksX7_goatGoes_8 4 rfl rfl)
theorem dX7_goatGoes_195 : decode cX7_goatGoes 195 = .ok (.if_icmp .ge 11, 3) := dk_162 0 11 (dk_at dksX7_goatGoes_8 6 rfl rfl)
theorem dX7_goatGoes_198 : decode cX7_goatGoes 198 = .ok (.aload_n 0, 1) := dk_42 (dk_at dksX7_goatGoes_8 9 rfl rfl)
theorem dX7_goatGoes_199 : decode cX7_goatGoes 199 = .ok (.getfield 45, 3) := dk_180 0 45 (dk_at dksX7_goatGoes_8 10 rfl rfl)
theorem dX7_goatGoes_202 : decode cX7_goatGoes 202 = .ok (.iload_n 2, 1) := dk_28 (dk_at dksX7_goatGoes_8 13 rfl rfl)
theorem dX7_goatGoes_203 : decode cX7_goatGoes 203 = .ok (.iload 5, 2) := dk_21 5 (dk_at dksX7_goatGoes_8 14 rfl rfl)
theorem dX7_goatGoes_205 : decode cX7_goatGoes 205 = .ok (.iastore, 1) := dk_79 (dk_at dksX7_goatGoes_8 16 rfl rfl)
theorem dX7_goatGoes_206 : decode cX7_goatGoes 206 = .ok (.return_, 1) := dk_177 (dk_at dksX7_goatGoes_8 17 rfl rfl)
def dkwX7_day_6 : List UInt8 := [29, 46, 79, 132, 3, 1, 167, 255, 218, 132, 2, 1, 167, 255, 199, 177]
abbrev dktX7_day_6 : List UInt8 := dkwX7_day_6 ++ []
def dkwX7_day_5 : List UInt8 := [162, 0, 33, 42, 27, 29, 28, 182, 1, 219, 42, 180, 0, 30, 16, 12, 29, 104, 28, 96, 42, 180, 0, 45]
abbrev dktX7_day_5 : List UInt8 := dkwX7_day_5 ++ dktX7_day_6
def dkwX7_day_4 : List UInt8 := [61, 28, 42, 180, 1, 186, 180, 0, 196, 162, 0, 52, 3, 62, 29, 42, 180, 1, 186, 180, 1, 72]
abbrev dktX7_day_4 : List UInt8 := dkwX7_day_4 ++ dktX7_day_5
def dkwX7_day_3 : List UInt8 := [180, 0, 36, 16, 12, 28, 104, 29, 96, 3, 79, 132, 3, 1, 167, 255, 235, 132, 2, 1, 167, 255, 199, 3]
abbrev dktX7_day_3 : List UInt8 := dkwX7_day_3 ++ dktX7_day_4
def dkwX7_day_2 : List UInt8 := [180, 0, 45, 28, 42, 180, 1, 186, 180, 1, 100, 28, 46, 79, 3, 62, 29, 16, 12, 162, 0, 21, 42]
abbrev dktX7_day_2 : List UInt8 := dkwX7_day_2 ++ dktX7_day_3
def dkwX7_day_1 : List UInt8 := [132, 2, 1, 167, 255, 232, 3, 61, 28, 16, 6, 162, 0, 57, 42, 180, 0, 42, 28, 3, 79, 42]
abbrev dktX7_day_1 : List UInt8 := dkwX7_day_1 ++ dktX7_day_2
def dkwX7_day_0 : List UInt8 := [3, 61, 28, 16, 32, 162, 0, 24, 42, 180, 0, 39, 28, 42, 180, 1, 186, 180, 1, 40, 28, 46, 79]
abbrev dktX7_day_0 : List UInt8 := dkwX7_day_0 ++ dktX7_day_1
theorem dksX7_day_0 : cX7_day.data.toList.drop 0 = dktX7_day_0 := by decide +kernel
theorem dksX7_day_1 : cX7_day.data.toList.drop 23 = dktX7_day_1 := dk_seg dksX7_day_0 23 rfl rfl
theorem dksX7_day_2 : cX7_day.data.toList.drop 45 = dktX7_day_2 := dk_seg dksX7_day_1 22 rfl rfl
theorem dksX7_day_3 : cX7_day.data.toList.drop 68 = dktX7_day_3 := dk_seg dksX7_day_2 23 rfl rfl
theorem dksX7_day_4 : cX7_day.data.toList.drop 92 = dktX7_day_4 := dk_seg dksX7_day_3 24 rfl rfl
theorem dksX7_day_5 : cX7_day.data.toList.drop 114 = dktX7_day_5 := dk_seg dksX7_day_4 22 rfl rfl
theorem dksX7_day_6 : cX7_day.data.toList.drop 138 = dktX7_day_6 := dk_seg dksX7_day_5 24 rfl rfl
theorem dX7_day_0 : decode cX7_day 0 = .ok (.iconst 0, 1) := dk_3 (dk_at dksX7_day_0 0 rfl rfl)
theorem dX7_day_1 : decode cX7_day 1 = .ok (.istore_n 2, 1) := dk_61 (dk_at dksX7_day_0 1 rfl rfl)
theorem dX7_day_2 : decode cX7_day 2 = .ok (.iload_n 2, 1) := dk_28 (dk_at dksX7_day_0 2 rfl rfl)
theorem dX7_day_3 : decode cX7_day 3 = .ok (.bipush 32, 2) := dk_16 32 (dk_at dksX7_day_0 3 rfl rfl)
theorem dX7_day_5 : decode cX7_day 5 = .ok (.if_icmp .ge 24, 3) := dk_162 0 24 (dk_at dksX7_day_0 5 rfl rfl)
theorem dX7_day_8 : decode cX7_day 8 = .ok (.aload_n 0, 1) := dk_42 (dk_at dksX7_day_0 8 rfl rfl)
theorem dX7_day_9 : decode cX7_day 9 = .ok (.getfield 39, 3) := dk_180 0 39 (dk_at dksX7_day_0 9 rfl rfl)
theorem dX7_day_12 : decode cX7_day 12 = .ok (.iload_n 2, 1) := dk_28 (dk_at dksX7_day_0 12 rfl rfl)
theorem dX7_day_13 : decode cX7_day 13 = .ok (.aload_n 0, 1) := dk_42 (dk_at dksX7_day_0 13 rfl rfl)
theorem dX7_day_14 : decode cX7_day 14 = .ok (.getfield 442, 3) := dk_180 1 186 (dk_at dksX7_day_0 14 rfl rfl)
theorem dX7_day_17 : decode cX7_day 17 = .ok (.getfield 296, 3) := dk_180 1 40 (dk_at dksX7_day_0 17 rfl rfl)
theorem dX7_day_20 : decode cX7_day 20 = .ok (.iload_n 2, 1) := dk_28 (dk_at dksX7_day_0 20 rfl rfl)
theorem dX7_day_21 : decode cX7_day 21 = .ok (.iaload, 1) := dk_46 (dk_at dksX7_day_0 21 rfl rfl)
theorem dX7_day_22 : decode cX7_day 22 = .ok (.iastore, 1) := dk_79 (dk_at dksX7_day_0 22 rfl rfl)
theorem dX7_day_23 : decode cX7_day 23 = .ok (.iinc 2 1, 3) := dk_132 2 1 (dk_at dksX7_day_1 0 rfl rfl)
theorem dX7_day_26 : decode cX7_day 26 = .ok (.goto (-24), 3) := dk_167 255 232 (dk_at dksX7_day_1 3 rfl rfl)
theorem dX7_day_29 : decode cX7_day 29 = .ok (.iconst 0, 1) := dk_3 (dk_at dksX7_day_1 6 rfl rfl)
theorem dX7_day_30 : decode cX7_day 30 = .ok (.istore_n 2, 1) := dk_61 (dk_at dksX7_day_1 7 rfl rfl)
theorem dX7_day_31 : decode cX7_day 31 = .ok (.iload_n 2, 1) := dk_28 (dk_at dksX7_day_1 8 rfl rfl)
theorem dX7_day_32 : decode cX7_day 32 = .ok (.bipush 6, 2) := dk_16 6 (dk_at dksX7_day_1 9 rfl rfl)
theorem dX7_day_34 : decode cX7_day 34 = .ok (.if_icmp .ge 57, 3) := dk_162 0 57 (dk_at dksX7_day_1 11 rfl rfl)
theorem dX7_day_37 : decode cX7_day 37 = .ok (.aload_n 0, 1) := dk_42 (dk_at dksX7_day_1 14 rfl rfl)
theorem dX7_day_38 : decode cX7_day 38 = .ok (.getfield 42, 3) := dk_180 0 42 (dk_at dksX7_day_1 15 rfl rfl)
theorem dX7_day_41 : decode cX7_day 41 = .ok (.iload_n 2, 1) := dk_28 (dk_at dksX7_day_1 18 rfl rfl)
theorem dX7_day_42 : decode cX7_day 42 = .ok (.iconst 0, 1) := dk_3 (dk_at dksX7_day_1 19 rfl rfl)
theorem dX7_day_43 : decode cX7_day 43 = .ok (.iastore, 1) := dk_79 (dk_at dksX7_day_1 20 rfl rfl)
theorem dX7_day_44 : decode cX7_day 44 = .ok (.aload_n 0, 1) := dk_42 (dk_at dksX7_day_1 21 rfl rfl)
theorem dX7_day_45 : decode cX7_day 45 = .ok (.getfield 45, 3) := dk_180 0 45 (dk_at dksX7_day_2 0 rfl rfl)
theorem dX7_day_48 : decode cX7_day 48 = .ok (.iload_n 2, 1) := dk_28 (dk_at dksX7_day_2 3 rfl rfl)
theorem dX7_day_49 : decode cX7_day 49 = .ok (.aload_n 0, 1) := dk_42 (dk_at dksX7_day_2 4 rfl rfl)
theorem dX7_day_50 : decode cX7_day 50 = .ok (.getfield 442, 3) := dk_180 1 186 (dk_at dksX7_day_2 5 rfl rfl)
theorem dX7_day_53 : decode cX7_day 53 = .ok (.getfield 356, 3) := dk_180 1 100 (dk_at dksX7_day_2 8 rfl rfl)
theorem dX7_day_56 : decode cX7_day 56 = .ok (.iload_n 2, 1) := dk_28 (dk_at dksX7_day_2 11 rfl rfl)
theorem dX7_day_57 : decode cX7_day 57 = .ok (.iaload, 1) := dk_46 (dk_at dksX7_day_2 12 rfl rfl)
theorem dX7_day_58 : decode cX7_day 58 = .ok (.iastore, 1) := dk_79 (dk_at dksX7_day_2 13 rfl rfl)
theorem dX7_day_59 : decode cX7_day 59 = .ok (.iconst 0, 1) := dk_3 (dk_at dksX7_day_2 14 rfl rfl)
theorem dX7_day_60 : decode cX7_day 60 = .ok (.istore_n 3, 1) := dk_62 (dk_at dksX7_day_2 15 rfl rfl)
theorem dX7_day_61 : decode cX7_day 61 = .ok (.iload_n 3, 1) := dk_29 (dk_at dksX7_day_2 16 rfl rfl)
theorem dX7_day_62 : decode cX7_day 62 = .ok (.bipush 12, 2) := dk_16 12 (dk_at dksX7_day_2 17 rfl rfl)
theorem dX7_day_64 : decode cX7_day 64 = .ok (.if_icmp .ge 21, 3) := dk_162 0 21 (dk_at dksX7_day_2 19 rfl rfl)
theorem dX7_day_67 : decode cX7_day 67 = .ok (.aload_n 0, 1) := dk_42 (dk_at dksX7_day_2 22 rfl rfl)
theorem dX7_day_68 : decode cX7_day 68 = .ok (.getfield 36, 3) := dk_180 0 36 (dk_at dksX7_day_3 0 rfl rfl)
theorem dX7_day_71 : decode cX7_day 71 = .ok (.bipush 12, 2) := dk_16 12 (dk_at dksX7_day_3 3 rfl rfl)
theorem dX7_day_73 : decode cX7_day 73 = .ok (.iload_n 2, 1) := dk_28 (dk_at dksX7_day_3 5 rfl rfl)
theorem dX7_day_74 : decode cX7_day 74 = .ok (.imul, 1) := dk_104 (dk_at dksX7_day_3 6 rfl rfl)
theorem dX7_day_75 : decode cX7_day 75 = .ok (.iload_n 3, 1) := dk_29 (dk_at dksX7_day_3 7 rfl rfl)
theorem dX7_day_76 : decode cX7_day 76 = .ok (.iadd, 1) := dk_96 (dk_at dksX7_day_3 8 rfl rfl)
theorem dX7_day_77 : decode cX7_day 77 = .ok (.iconst 0, 1) := dk_3 (dk_at dksX7_day_3 9 rfl rfl)
theorem dX7_day_78 : decode cX7_day 78 = .ok (.iastore, 1) := dk_79 (dk_at dksX7_day_3 10 rfl rfl)
theorem dX7_day_79 : decode cX7_day 79 = .ok (.iinc 3 1, 3) := dk_132 3 1 (dk_at dksX7_day_3 11 rfl rfl)
theorem dX7_day_82 : decode cX7_day 82 = .ok (.goto (-21), 3) := dk_167 255 235 (dk_at dksX7_day_3 14 rfl rfl)
theorem dX7_day_85 : decode cX7_day 85 = .ok (.iinc 2 1, 3) := dk_132 2 1 (dk_at dksX7_day_3 17 rfl rfl)
theorem dX7_day_88 : decode cX7_day 88 = .ok (.goto (-57), 3) := dk_167 255 199 (dk_at dksX7_day_3 20 rfl rfl)
theorem dX7_day_91 : decode cX7_day 91 = .ok (.iconst 0, 1) := dk_3 (dk_at dksX7_day_3 23 rfl rfl)
theorem dX7_day_92 : decode cX7_day 92 = .ok (.istore_n 2, 1) := dk_61 (dk_at dksX7_day_4 0 rfl rfl)
theorem dX7_day_93 : decode cX7_day 93 = .ok (.iload_n 2, 1) := dk_28 (dk_at dksX7_day_4 1 rfl rfl)
theorem dX7_day_94 : decode cX7_day 94 = .ok (.aload_n 0, 1) := dk_42 (dk_at dksX7_day_4 2 rfl rfl)
theorem dX7_day_95 : decode cX7_day 95 = .ok (.getfield 442, 3) := dk_180 1 186 (dk_at dksX7_day_4 3 rfl rfl)
theorem dX7_day_98 : decode cX7_day 98 = .ok (.getfield 196, 3) := dk_180 0 196 (dk_at dksX7_day_4 6 rfl rfl)
theorem dX7_day_101 : decode cX7_day 101 = .ok (.if_icmp .ge 52, 3) := dk_162 0 52 (dk_at dksX7_day_4 9 rfl rfl)
theorem dX7_day_104 : decode cX7_day 104 = .ok (.iconst 0, 1) := dk_3 (dk_at dksX7_day_4 12 rfl rfl)
theorem dX7_day_105 : decode cX7_day 105 = .ok (.istore_n 3, 1) := dk_62 (dk_at dksX7_day_4 13 rfl rfl)
theorem dX7_day_106 : decode cX7_day 106 = .ok (.iload_n 3, 1) := dk_29 (dk_at dksX7_day_4 14 rfl rfl)
theorem dX7_day_107 : decode cX7_day 107 = .ok (.aload_n 0, 1) := dk_42 (dk_at dksX7_day_4 15 rfl rfl)
theorem dX7_day_108 : decode cX7_day 108 = .ok (.getfield 442, 3) := dk_180 1 186 (dk_at dksX7_day_4 16 rfl rfl)
theorem dX7_day_111 : decode cX7_day 111 = .ok (.getfield 328, 3) := dk_180 1 72 (dk_at dksX7_day_4 19 rfl rfl)
theorem dX7_day_114 : decode cX7_day 114 = .ok (.if_icmp .ge 33, 3) := dk_162 0 33 (dk_at dksX7_day_5 0 rfl rfl)
theorem dX7_day_117 : decode cX7_day 117 = .ok (.aload_n 0, 1) := dk_42 (dk_at dksX7_day_5 3 rfl rfl)
theorem dX7_day_118 : decode cX7_day 118 = .ok (.iload_n 1, 1) := dk_27 (dk_at dksX7_day_5 4 rfl rfl)
theorem dX7_day_119 : decode cX7_day 119 = .ok (.iload_n 3, 1) := dk_29 (dk_at dksX7_day_5 5 rfl rfl)
theorem dX7_day_120 : decode cX7_day 120 = .ok (.iload_n 2, 1) := dk_28 (dk_at dksX7_day_5 6 rfl rfl)
theorem dX7_day_121 : decode cX7_day 121 = .ok (.invokevirtual 475, 3) := dk_182 1 219 (dk_at dksX7_day_5 7 rfl rfl)
theorem dX7_day_124 : decode cX7_day 124 = .ok (.aload_n 0, 1) := dk_42 (dk_at dksX7_day_5 10 rfl rfl)
theorem dX7_day_125 : decode cX7_day 125 = .ok (.getfield 30, 3) := dk_180 0 30 (dk_at dksX7_day_5 11 rfl rfl)
theorem dX7_day_128 : decode cX7_day 128 = .ok (.bipush 12, 2) := dk_16 12 (dk_at dksX7_day_5 14 rfl rfl)
theorem dX7_day_130 : decode cX7_day 130 = .ok (.iload_n 3, 1) := dk_29 (dk_at dksX7_day_5 16 rfl rfl)
theorem dX7_day_131 : decode cX7_day 131 = .ok (.imul, 1) := dk_104 (dk_at dksX7_day_5 17 rfl rfl)
theorem dX7_day_132 : decode cX7_day 132 = .ok (.iload_n 2, 1) := dk_28 (dk_at dksX7_day_5 18 rfl rfl)
theorem dX7_day_133 : decode cX7_day 133 = .ok (.iadd, 1) := dk_96 (dk_at dksX7_day_5 19 rfl rfl)
theorem dX7_day_134 : decode cX7_day 134 = .ok (.aload_n 0, 1) := dk_42 (dk_at dksX7_day_5 20 rfl rfl)
theorem dX7_day_135 : decode cX7_day 135 = .ok (.getfield 45, 3) := dk_180 0 45 (dk_at dksX7_day_5 21 rfl rfl)
theorem dX7_day_138 : decode cX7_day 138 = .ok (.iload_n 3, 1) := dk_29 (dk_at dksX7_day_6 0 rfl rfl)
theorem dX7_day_139 : decode cX7_day 139 = .ok (.iaload, 1) := dk_46 (dk_at dksX7_day_6 1 rfl rfl)
theorem dX7_day_140 : decode cX7_day 140 = .ok (.iastore, 1) := dk_79 (dk_at dksX7_day_6 2 rfl rfl)
theorem dX7_day_141 : decode cX7_day 141 = .ok (.iinc 3 1, 3) := dk_132 3 1 (dk_at dksX7_day_6 3 rfl rfl)
theorem dX7_day_144 : decode cX7_day 144 = .ok (.goto (-38), 3) := dk_167 255 218 (dk_at dksX7_day_6 6 rfl rfl)
theorem dX7_day_147 : decode cX7_day 147 = .ok (.iinc 2 1, 3) := dk_132 2 1 (dk_at dksX7_day_6 9 rfl rfl)
theorem dX7_day_150 : decode cX7_day 150 = .ok (.goto (-57), 3) := dk_167 255 199 (dk_at dksX7_day_6 12 rfl rfl)
theorem dX7_day_153 : decode cX7_day 153 = .ok (.return_, 1) := dk_177 (dk_at dksX7_day_6 15 rfl rfl)
def dkwX7_at_2 : List UInt8 := [42, 180, 0, 30, 16, 12, 28, 104, 29, 96, 46, 182, 0, 76, 172]
abbrev dktX7_at_2 : List UInt8 := dkwX7_at_2 ++ []
def dkwX7_at_1 : List UInt8 := [182, 0, 72, 172, 42, 29, 182, 1, 253, 154, 0, 9, 42, 5, 182, 0, 72, 172, 42, 27, 182, 1, 226, 42]
abbrev dktX7_at_1 : List UInt8 := dkwX7_at_1 ++ dktX7_at_2
def dkwX7_at_0 : List UInt8 := [42, 3, 181, 0, 66, 42, 27, 182, 2, 2, 153, 0, 11, 42, 28, 182, 1, 241, 154, 0, 9, 42, 4]
abbrev dktX7_at_0 : List UInt8 := dkwX7_at_0 ++ dktX7_at_1
theorem dksX7_at_0 : cX7_at.data.toList.drop 0 = dktX7_at_0 := by decide +kernel
theorem dksX7_at_1 : cX7_at.data.toList.drop 23 = dktX7_at_1 := dk_seg dksX7_at_0 23 rfl rfl
theorem dksX7_at_2 : cX7_at.data.toList.drop 47 = dktX7_at_2 := dk_seg dksX7_at_1 24 rfl rfl
theorem dX7_at_0 : decode cX7_at 0 = .ok (.aload_n 0, 1) := dk_42 (dk_at dksX7_at_0 0 rfl rfl)
theorem dX7_at_1 : decode cX7_at 1 = .ok (.iconst 0, 1) := dk_3 (dk_at dksX7_at_0 1 rfl rfl)
theorem dX7_at_2 : decode cX7_at 2 = .ok (.putfield 66, 3) := dk_181 0 66 (dk_at dksX7_at_0 2 rfl rfl)
theorem dX7_at_5 : decode cX7_at 5 = .ok (.aload_n 0, 1) := dk_42 (dk_at dksX7_at_0 5 rfl rfl)
theorem dX7_at_6 : decode cX7_at 6 = .ok (.iload_n 1, 1) := dk_27 (dk_at dksX7_at_0 6 rfl rfl)
theorem dX7_at_7 : decode cX7_at 7 = .ok (.invokevirtual 514, 3) := dk_182 2 2 (dk_at dksX7_at_0 7 rfl rfl)
theorem dX7_at_10 : decode cX7_at 10 = .ok (.ifCond .eq 11, 3) := dk_153 0 11 (dk_at dksX7_at_0 10 rfl rfl)
theorem dX7_at_13 : decode cX7_at 13 = .ok (.aload_n 0, 1) := dk_42 (dk_at dksX7_at_0 13 rfl rfl)
theorem dX7_at_14 : decode cX7_at 14 = .ok (.iload_n 2, 1) := dk_28 (dk_at dksX7_at_0 14 rfl rfl)
theorem dX7_at_15 : decode cX7_at 15 = .ok (.invokevirtual 497, 3) := dk_182 1 241 (dk_at dksX7_at_0 15 rfl rfl)
theorem dX7_at_18 : decode cX7_at 18 = .ok (.ifCond .ne 9, 3) := dk_154 0 9 (dk_at dksX7_at_0 18 rfl rfl)
theorem dX7_at_21 : decode cX7_at 21 = .ok (.aload_n 0, 1) := dk_42 (dk_at dksX7_at_0 21 rfl rfl)
theorem dX7_at_22 : decode cX7_at 22 = .ok (.iconst 1, 1) := dk_4 (dk_at dksX7_at_0 22 rfl rfl)
theorem dX7_at_23 : decode cX7_at 23 = .ok (.invokevirtual 72, 3) := dk_182 0 72 (dk_at dksX7_at_1 0 rfl rfl)
theorem dX7_at_26 : decode cX7_at 26 = .ok (.ireturn, 1) := dk_172 (dk_at dksX7_at_1 3 rfl rfl)
theorem dX7_at_27 : decode cX7_at 27 = .ok (.aload_n 0, 1) := dk_42 (dk_at dksX7_at_1 4 rfl rfl)
theorem dX7_at_28 : decode cX7_at 28 = .ok (.iload_n 3, 1) := dk_29 (dk_at dksX7_at_1 5 rfl rfl)
theorem dX7_at_29 : decode cX7_at 29 = .ok (.invokevirtual 509, 3) := dk_182 1 253 (dk_at dksX7_at_1 6 rfl rfl)
theorem dX7_at_32 : decode cX7_at 32 = .ok (.ifCond .ne 9, 3) := dk_154 0 9 (dk_at dksX7_at_1 9 rfl rfl)
theorem dX7_at_35 : decode cX7_at 35 = .ok (.aload_n 0, 1) := dk_42 (dk_at dksX7_at_1 12 rfl rfl)
theorem dX7_at_36 : decode cX7_at 36 = .ok (.iconst 2, 1) := dk_5 (dk_at dksX7_at_1 13 rfl rfl)
theorem dX7_at_37 : decode cX7_at 37 = .ok (.invokevirtual 72, 3) := dk_182 0 72 (dk_at dksX7_at_1 14 rfl rfl)
theorem dX7_at_40 : decode cX7_at 40 = .ok (.ireturn, 1) := dk_172 (dk_at dksX7_at_1 17 rfl rfl)
theorem dX7_at_41 : decode cX7_at 41 = .ok (.aload_n 0, 1) := dk_42 (dk_at dksX7_at_1 18 rfl rfl)
theorem dX7_at_42 : decode cX7_at 42 = .ok (.iload_n 1, 1) := dk_27 (dk_at dksX7_at_1 19 rfl rfl)
theorem dX7_at_43 : decode cX7_at 43 = .ok (.invokevirtual 482, 3) := dk_182 1 226 (dk_at dksX7_at_1 20 rfl rfl)
theorem dX7_at_46 : decode cX7_at 46 = .ok (.aload_n 0, 1) := dk_42 (dk_at dksX7_at_1 23 rfl rfl)
theorem dX7_at_47 : decode cX7_at 47 = .ok (.aload_n 0, 1) := dk_42 (dk_at dksX7_at_2 0 rfl rfl)
theorem dX7_at_48 : decode cX7_at 48 = .ok (.getfield 30, 3) := dk_180 0 30 (dk_at dksX7_at_2 1 rfl rfl)
theorem dX7_at_51 : decode cX7_at 51 = .ok (.bipush 12, 2) := dk_16 12 (dk_at dksX7_at_2 4 rfl rfl)
theorem dX7_at_53 : decode cX7_at 53 = .ok (.iload_n 2, 1) := dk_28 (dk_at dksX7_at_2 6 rfl rfl)
theorem dX7_at_54 : decode cX7_at 54 = .ok (.imul, 1) := dk_104 (dk_at dksX7_at_2 7 rfl rfl)
theorem dX7_at_55 : decode cX7_at 55 = .ok (.iload_n 3, 1) := dk_29 (dk_at dksX7_at_2 8 rfl rfl)
theorem dX7_at_56 : decode cX7_at 56 = .ok (.iadd, 1) := dk_96 (dk_at dksX7_at_2 9 rfl rfl)
theorem dX7_at_57 : decode cX7_at 57 = .ok (.iaload, 1) := dk_46 (dk_at dksX7_at_2 10 rfl rfl)
theorem dX7_at_58 : decode cX7_at 58 = .ok (.invokevirtual 76, 3) := dk_182 0 76 (dk_at dksX7_at_2 11 rfl rfl)
theorem dX7_at_61 : decode cX7_at 61 = .ok (.ireturn, 1) := dk_172 (dk_at dksX7_at_2 14 rfl rfl)
def dkwX5_ate_2 : List UInt8 := [167, 0, 4, 3, 96, 62, 132, 4, 1, 167, 255, 206, 29, 172]
abbrev dktX5_ate_2 : List UInt8 := dkwX5_ate_2 ++ []
def dkwX5_ate_1 : List UInt8 := [27, 104, 21, 4, 96, 46, 28, 160, 0, 18, 42, 180, 0, 24, 16, 12, 27, 104, 21, 4, 96, 46]
abbrev dktX5_ate_1 : List UInt8 := dkwX5_ate_1 ++ dktX5_ate_2
def dkwX5_ate_0 : List UInt8 := [3, 62, 3, 54, 4, 21, 4, 42, 180, 0, 33, 180, 0, 77, 162, 0, 44, 29, 42, 180, 0, 21, 16, 12]
abbrev dktX5_ate_0 : List UInt8 := dkwX5_ate_0 ++ dktX5_ate_1
theorem dksX5_ate_0 : cX5_ate.data.toList.drop 0 = dktX5_ate_0 := by decide +kernel
theorem dksX5_ate_1 : cX5_ate.data.toList.drop 24 = dktX5_ate_1 := dk_seg dksX5_ate_0 24 rfl rfl
theorem dksX5_ate_2 : cX5_ate.data.toList.drop 46 = dktX5_ate_2 := dk_seg dksX5_ate_1 22 rfl rfl
theorem dX5_ate_0 : decode cX5_ate 0 = .ok (.iconst 0, 1) := dk_3 (dk_at dksX5_ate_0 0 rfl rfl)
theorem dX5_ate_1 : decode cX5_ate 1 = .ok (.istore_n 3, 1) := dk_62 (dk_at dksX5_ate_0 1 rfl rfl)
theorem dX5_ate_2 : decode cX5_ate 2 = .ok (.iconst 0, 1) := dk_3 (dk_at dksX5_ate_0 2 rfl rfl)
theorem dX5_ate_3 : decode cX5_ate 3 = .ok (.istore 4, 2) := dk_54 4 (dk_at dksX5_ate_0 3 rfl rfl)
theorem dX5_ate_5 : decode cX5_ate 5 = .ok (.iload 4, 2) := dk_21 4 (dk_at dksX5_ate_0 5 rfl rfl)
theorem dX5_ate_7 : decode cX5_ate 7 = .ok (.aload_n 0, 1) := dk_42 (dk_at dksX5_ate_0 7 rfl rfl)
theorem dX5_ate_8 : decode cX5_ate 8 = .ok (.getfield 33, 3) := dk_180 0 33 (dk_at dksX5_ate_0 8 rfl rfl)
theorem dX5_ate_11 : decode cX5_ate 11 = .ok (.getfield 77, 3) := dk_180 0 77 (dk_at dksX5_ate_0 11 rfl rfl)
theorem dX5_ate_14 : decode cX5_ate 14 = .ok (.if_icmp .ge 44, 3) := dk_162 0 44 (dk_at dksX5_ate_0 14 rfl rfl)
theorem dX5_ate_17 : decode cX5_ate 17 = .ok (.iload_n 3, 1) := dk_29 (dk_at dksX5_ate_0 17 rfl rfl)
theorem dX5_ate_18 : decode cX5_ate 18 = .ok (.aload_n 0, 1) := dk_42 (dk_at dksX5_ate_0 18 rfl rfl)
theorem dX5_ate_19 : decode cX5_ate 19 = .ok (.getfield 21, 3) := dk_180 0 21 (dk_at dksX5_ate_0 19 rfl rfl)
theorem dX5_ate_22 : decode cX5_ate 22 = .ok (.bipush 12, 2) := dk_16 12 (dk_at dksX5_ate_0 22 rfl rfl)
theorem dX5_ate_24 : decode cX5_ate 24 = .ok (.iload_n 1, 1) := dk_27 (dk_at dksX5_ate_1 0 rfl rfl)
theorem dX5_ate_25 : decode cX5_ate 25 = .ok (.imul, 1) := dk_104 (dk_at dksX5_ate_1 1 rfl rfl)
theorem dX5_ate_26 : decode cX5_ate 26 = .ok (.iload 4, 2) := dk_21 4 (dk_at dksX5_ate_1 2 rfl rfl)
theorem dX5_ate_28 : decode cX5_ate 28 = .ok (.iadd, 1) := dk_96 (dk_at dksX5_ate_1 4 rfl rfl)
theorem dX5_ate_29 : decode cX5_ate 29 = .ok (.iaload, 1) := dk_46 (dk_at dksX5_ate_1 5 rfl rfl)
theorem dX5_ate_30 : decode cX5_ate 30 = .ok (.iload_n 2, 1) := dk_28 (dk_at dksX5_ate_1 6 rfl rfl)
theorem dX5_ate_31 : decode cX5_ate 31 = .ok (.if_icmp .ne 18, 3) := dk_160 0 18 (dk_at dksX5_ate_1 7 rfl rfl)
theorem dX5_ate_34 : decode cX5_ate 34 = .ok (.aload_n 0, 1) := dk_42 (dk_at dksX5_ate_1 10 rfl rfl)
theorem dX5_ate_35 : decode cX5_ate 35 = .ok (.getfield 24, 3) := dk_180 0 24 (dk_at dksX5_ate_1 11 rfl rfl)
theorem dX5_ate_38 : decode cX5_ate 38 = .ok (.bipush 12, 2) := dk_16 12 (dk_at dksX5_ate_1 14 rfl rfl)
theorem dX5_ate_40 : decode cX5_ate 40 = .ok (.iload_n 1, 1) := dk_27 (dk_at dksX5_ate_1 16 rfl rfl)
theorem dX5_ate_41 : decode cX5_ate 41 = .ok (.imul, 1) := dk_104 (dk_at dksX5_ate_1 17 rfl rfl)
theorem dX5_ate_42 : decode cX5_ate 42 = .ok (.iload 4, 2) := dk_21 4 (dk_at dksX5_ate_1 18 rfl rfl)
theorem dX5_ate_44 : decode cX5_ate 44 = .ok (.iadd, 1) := dk_96 (dk_at dksX5_ate_1 20 rfl rfl)
theorem dX5_ate_45 : decode cX5_ate 45 = .ok (.iaload, 1) := dk_46 (dk_at dksX5_ate_1 21 rfl rfl)
theorem dX5_ate_46 : decode cX5_ate 46 = .ok (.goto 4, 3) := dk_167 0 4 (dk_at dksX5_ate_2 0 rfl rfl)
theorem dX5_ate_49 : decode cX5_ate 49 = .ok (.iconst 0, 1) := dk_3 (dk_at dksX5_ate_2 3 rfl rfl)
theorem dX5_ate_50 : decode cX5_ate 50 = .ok (.iadd, 1) := dk_96 (dk_at dksX5_ate_2 4 rfl rfl)
theorem dX5_ate_51 : decode cX5_ate 51 = .ok (.istore_n 3, 1) := dk_62 (dk_at dksX5_ate_2 5 rfl rfl)
theorem dX5_ate_52 : decode cX5_ate 52 = .ok (.iinc 4 1, 3) := dk_132 4 1 (dk_at dksX5_ate_2 6 rfl rfl)
theorem dX5_ate_55 : decode cX5_ate 55 = .ok (.goto (-50), 3) := dk_167 255 206 (dk_at dksX5_ate_2 9 rfl rfl)
theorem dX5_ate_58 : decode cX5_ate 58 = .ok (.iload_n 3, 1) := dk_29 (dk_at dksX5_ate_2 12 rfl rfl)
theorem dX5_ate_59 : decode cX5_ate 59 = .ok (.ireturn, 1) := dk_172 (dk_at dksX5_ate_2 13 rfl rfl)
def dkwX1_ate_2 : List UInt8 := [182, 1, 8, 172]
abbrev dktX1_ate_2 : List UInt8 := dkwX1_ate_2 ++ []
def dkwX1_ate_1 : List UInt8 := [182, 0, 155, 154, 0, 9, 42, 4, 182, 0, 94, 172, 42, 27, 182, 1, 5, 42, 180, 0, 46, 28, 29]
abbrev dktX1_ate_1 : List UInt8 := dkwX1_ate_1 ++ dktX1_ate_2
def dkwX1_ate_0 : List UInt8 := [42, 182, 0, 80, 42, 27, 182, 0, 255, 153, 0, 19, 42, 28, 182, 0, 169, 153, 0, 11, 42, 29]
abbrev dktX1_ate_0 : List UInt8 := dkwX1_ate_0 ++ dktX1_ate_1
theorem dksX1_ate_0 : cX1_ate.data.toList.drop 0 = dktX1_ate_0 := by decide +kernel
theorem dksX1_ate_1 : cX1_ate.data.toList.drop 22 = dktX1_ate_1 := dk_seg dksX1_ate_0 22 rfl rfl
theorem dksX1_ate_2 : cX1_ate.data.toList.drop 45 = dktX1_ate_2 := dk_seg dksX1_ate_1 23 rfl rfl
theorem dX1_ate_0 : decode cX1_ate 0 = .ok (.aload_n 0, 1) := dk_42 (dk_at dksX1_ate_0 0 rfl rfl)
theorem dX1_ate_1 : decode cX1_ate 1 = .ok (.invokevirtual 80, 3) := dk_182 0 80 (dk_at dksX1_ate_0 1 rfl rfl)
theorem dX1_ate_4 : decode cX1_ate 4 = .ok (.aload_n 0, 1) := dk_42 (dk_at dksX1_ate_0 4 rfl rfl)
theorem dX1_ate_5 : decode cX1_ate 5 = .ok (.iload_n 1, 1) := dk_27 (dk_at dksX1_ate_0 5 rfl rfl)
theorem dX1_ate_6 : decode cX1_ate 6 = .ok (.invokevirtual 255, 3) := dk_182 0 255 (dk_at dksX1_ate_0 6 rfl rfl)
theorem dX1_ate_9 : decode cX1_ate 9 = .ok (.ifCond .eq 19, 3) := dk_153 0 19 (dk_at dksX1_ate_0 9 rfl rfl)
theorem dX1_ate_12 : decode cX1_ate 12 = .ok (.aload_n 0, 1) := dk_42 (dk_at dksX1_ate_0 12 rfl rfl)
theorem dX1_ate_13 : decode cX1_ate 13 = .ok (.iload_n 2, 1) := dk_28 (dk_at dksX1_ate_0 13 rfl rfl)
theorem dX1_ate_14 : decode cX1_ate 14 = .ok (.invokevirtual 169, 3) := dk_182 0 169 (dk_at dksX1_ate_0 14 rfl rfl)
theorem dX1_ate_17 : decode cX1_ate 17 = .ok (.ifCond .eq 11, 3) := dk_153 0 11 (dk_at dksX1_ate_0 17 rfl rfl)
theorem dX1_ate_20 : decode cX1_ate 20 = .ok (.aload_n 0, 1) := dk_42 (dk_at dksX1_ate_0 20 rfl rfl)
theorem dX1_ate_21 : decode cX1_ate 21 = .ok (.iload_n 3, 1) := dk_29 (dk_at dksX1_ate_0 21 rfl rfl)
theorem dX1_ate_22 : decode cX1_ate 22 = .ok (.invokevirtual 155, 3) := dk_182 0 155 (dk_at dksX1_ate_1 0 rfl rfl)
theorem dX1_ate_25 : decode cX1_ate 25 = .ok (.ifCond .ne 9, 3) := dk_154 0 9 (dk_at dksX1_ate_1 3 rfl rfl)
theorem dX1_ate_28 : decode cX1_ate 28 = .ok (.aload_n 0, 1) := dk_42 (dk_at dksX1_ate_1 6 rfl rfl)
theorem dX1_ate_29 : decode cX1_ate 29 = .ok (.iconst 1, 1) := dk_4 (dk_at dksX1_ate_1 7 rfl rfl)
theorem dX1_ate_30 : decode cX1_ate 30 = .ok (.invokevirtual 94, 3) := dk_182 0 94 (dk_at dksX1_ate_1 8 rfl rfl)
theorem dX1_ate_33 : decode cX1_ate 33 = .ok (.ireturn, 1) := dk_172 (dk_at dksX1_ate_1 11 rfl rfl)
theorem dX1_ate_34 : decode cX1_ate 34 = .ok (.aload_n 0, 1) := dk_42 (dk_at dksX1_ate_1 12 rfl rfl)
theorem dX1_ate_35 : decode cX1_ate 35 = .ok (.iload_n 1, 1) := dk_27 (dk_at dksX1_ate_1 13 rfl rfl)
theorem dX1_ate_36 : decode cX1_ate 36 = .ok (.invokevirtual 261, 3) := dk_182 1 5 (dk_at dksX1_ate_1 14 rfl rfl)
theorem dX1_ate_39 : decode cX1_ate 39 = .ok (.aload_n 0, 1) := dk_42 (dk_at dksX1_ate_1 17 rfl rfl)
theorem dX1_ate_40 : decode cX1_ate 40 = .ok (.getfield 46, 3) := dk_180 0 46 (dk_at dksX1_ate_1 18 rfl rfl)
theorem dX1_ate_43 : decode cX1_ate 43 = .ok (.iload_n 2, 1) := dk_28 (dk_at dksX1_ate_1 21 rfl rfl)
theorem dX1_ate_44 : decode cX1_ate 44 = .ok (.iload_n 3, 1) := dk_29 (dk_at dksX1_ate_1 22 rfl rfl)
theorem dX1_ate_45 : decode cX1_ate 45 = .ok (.invokevirtual 264, 3) := dk_182 1 8 (dk_at dksX1_ate_2 0 rfl rfl)
theorem dX1_ate_48 : decode cX1_ate 48 = .ok (.ireturn, 1) := dk_172 (dk_at dksX1_ate_2 3 rfl rfl)
theorem fl_X5_27 : FL "GoatCourt$Day" 27 [24] 5 (.array (.int)) := fun kd h => (by cases List.mem_singleton.mp h; exact ⟨4, _, 5, "GoatCourt$Day", rfl, rfl, by decide, rfl, rfl, Or.inl q356, Or.inl rfl⟩)
theorem fl_X5_62 : FL "GoatCourt$Day" 62 [27] 16 (tyOf 0) := fun kd h => (by cases List.mem_singleton.mp h; exact ⟨7, _, 16, "GoatCourt$Hill", rfl, rfl, by decide, rfl, rfl, Or.inl q572, Or.inl rfl⟩)
theorem fl_X5_65 : FL "GoatCourt$Day" 65 [27] 6 (.array (.object "GoatCourt$Goat")) := fun kd h => (by cases List.mem_singleton.mp h; exact ⟨7, _, 6, "GoatCourt$Hill", rfl, rfl, by decide, rfl, rfl, Or.inl q539, Or.inl rfl⟩)
theorem fl_X5_18 : FL "GoatCourt$Day" 18 [24] 2 (.array (.int)) := fun kd h => (by cases List.mem_singleton.mp h; exact ⟨4, _, 2, "GoatCourt$Day", rfl, rfl, by decide, rfl, rfl, Or.inl q353, Or.inl rfl⟩)
theorem fl_X5_77 : FL "GoatCourt$Day" 77 [27] 11 (tyOf 0) := fun kd h => (by cases List.mem_singleton.mp h; exact ⟨7, _, 11, "GoatCourt$Hill", rfl, rfl, by decide, rfl, rfl, Or.inl q555, Or.inl rfl⟩)
theorem fl_X5_69 : FL "GoatCourt$Day" 69 [30, 31, 32, 33] 104 (tyOf 0) := fun kd h => ((List.mem_cons.mp h).elim (fun e => by cases e; exact ⟨10, _, 2, "GoatCourt$Goat", rfl, rfl, by decide, rfl, rfl, Or.inl q1009, Or.inl rfl⟩) (fun h => ((List.mem_cons.mp h).elim (fun e => by cases e; exact ⟨11, _, 2, "GoatCourt$Goat", rfl, rfl, by decide, rfl, rfl, Or.inl q1009, Or.inl rfl⟩) (fun h => ((List.mem_cons.mp h).elim (fun e => by cases e; exact ⟨12, _, 2, "GoatCourt$Goat", rfl, rfl, by decide, rfl, rfl, Or.inl q1009, Or.inl rfl⟩) (fun h => (by cases List.mem_singleton.mp h; exact ⟨13, _, 2, "GoatCourt$Goat", rfl, rfl, by decide, rfl, rfl, Or.inl q1009, Or.inl rfl⟩)))))))
theorem fl_X5_47 : FL "GoatCourt$Day" 47 [27] 0 (.array (.object "GoatCourt$Place")) := fun kd h => (by cases List.mem_singleton.mp h; exact ⟨7, _, 0, "GoatCourt$Hill", rfl, rfl, by decide, rfl, rfl, Or.inl q521, Or.inl rfl⟩)
theorem fl_X5_51 : FL "GoatCourt$Day" 51 [28] 0 (.array (.int)) := fun kd h => (by cases List.mem_singleton.mp h; exact ⟨8, _, 2, "GoatCourt$Place", rfl, rfl, by decide, rfl, rfl, Or.inl q884, Or.inl rfl⟩)
theorem fp_X5_run_74 : FP mX5_run 74 [24] 9 (tyOf 0) := fun kd h => (by cases List.mem_singleton.mp h; exact ⟨4, _, 9, "GoatCourt$Day", rfl, rfl, by decide, rfl, rfl, Or.inl rfl, Or.inl ⟨rfl, Or.inl q360⟩⟩)
theorem fp_X5_run_33 : FP mX5_run 33 [24] 7 (.object "GoatCourt$Hill") := fun kd h => (by cases List.mem_singleton.mp h; exact ⟨4, _, 7, "GoatCourt$Day", rfl, rfl, by decide, rfl, rfl, Or.inl rfl, Or.inl ⟨rfl, Or.inl q358⟩⟩)
theorem fp_X5_run_37 : FP mX5_run 37 [24] 8 (.object "GoatCourt$Ground") := fun kd h => (by cases List.mem_singleton.mp h; exact ⟨4, _, 8, "GoatCourt$Day", rfl, rfl, by decide, rfl, rfl, Or.inl rfl, Or.inl ⟨rfl, Or.inl q359⟩⟩)
theorem fl_X1_46 : FL "GoatCourt" 46 [20] 12 (.object "GoatCourt$Day") := fun kd h => (by cases List.mem_singleton.mp h; exact ⟨0, _, 12, "GoatCourt", rfl, rfl, by decide, rfl, rfl, Or.inl q414, Or.inl rfl⟩)
theorem fl_X7_39 : FL "GoatCourtModel" 39 [26] 26 (.array (.int)) := fun kd h => (by cases List.mem_singleton.mp h; exact ⟨6, _, 26, "GoatCourtModel", rfl, rfl, by decide, rfl, rfl, Or.inl q1915, Or.inl rfl⟩)
theorem fl_X7_45 : FL "GoatCourtModel" 45 [26] 28 (.array (.int)) := fun kd h => (by cases List.mem_singleton.mp h; exact ⟨6, _, 28, "GoatCourtModel", rfl, rfl, by decide, rfl, rfl, Or.inl q1917, Or.inl rfl⟩)
theorem fl_X7_33 : FL "GoatCourtModel" 33 [26] 24 (.array (.int)) := fun kd h => (by cases List.mem_singleton.mp h; exact ⟨6, _, 24, "GoatCourtModel", rfl, rfl, by decide, rfl, rfl, Or.inl q1913, Or.inl rfl⟩)
theorem fl_X7_36 : FL "GoatCourtModel" 36 [26] 25 (.array (.int)) := fun kd h => (by cases List.mem_singleton.mp h; exact ⟨6, _, 25, "GoatCourtModel", rfl, rfl, by decide, rfl, rfl, Or.inl q1914, Or.inl rfl⟩)
theorem fl_X7_42 : FL "GoatCourtModel" 42 [26] 27 (.array (.int)) := fun kd h => (by cases List.mem_singleton.mp h; exact ⟨6, _, 27, "GoatCourtModel", rfl, rfl, by decide, rfl, rfl, Or.inl q1916, Or.inl rfl⟩)
theorem fl_X7_30 : FL "GoatCourtModel" 30 [26] 23 (.array (.int)) := fun kd h => (by cases List.mem_singleton.mp h; exact ⟨6, _, 23, "GoatCourtModel", rfl, rfl, by decide, rfl, rfl, Or.inl q1912, Or.inl rfl⟩)
theorem fp_X7_at_66 : FP mX7_at 66 [26] 0 (tyOf 0) := fun kd h => (by cases List.mem_singleton.mp h; exact ⟨6, _, 0, "GoatCourtModel", rfl, rfl, by decide, rfl, rfl, Or.inl rfl, Or.inl ⟨rfl, Or.inl q1889⟩⟩)
theorem w_X5_goes_b174 (G : Gx) (h0 : G0 G) (N : Nat)   (a0 : Nat) (l1 : Option Nat) (l4 : Int32) (σ : Mem) : Runs G mX5_goes rhoV σ 174 [some (vR (some a0)), some (vR l1), none, none, some (vI l4), none, none] [] (f_X5_goes_b174 N  a0 l1 l4 σ) := by
  unfold f_X5_goes_b174
  refine r_iload (q := 176) dX5_goes_174 rfl rfl ?_
  refine r_iconst (q := 177) (v := (-1 : Int32)) dX5_goes_176 rfl (by decide) ?_
  refine r_icmp_eq (q := 180) (t := 203) dX5_goes_177 rfl (by decide) (fun _ => ?_) (fun _ => ?_)
  · exact r_return rfl dX5_goes_203
  · refine r_aload_n (q := 181) dX5_goes_180 rfl rfl rfl ?_
    refine r_aload_n (q := 182) dX5_goes_181 rfl rfl rfl ?_
    refine r_iload (q := 184) dX5_goes_182 rfl rfl ?_
    refine r_ob (fun a3 ha3 => ?_)
    obtain ⟨hea3, hka3⟩ := o_at_eq ha3
    cases hea3
    refine r_callI (q := 187) (c_X5_worth G h0 N _ _ _ _) (cl_V (ci := 4) rfl rfl (lw_V q1485 q1487 qs58 q174 q1488) (hd_X5_worth) ⟨Nat.le_of_ble_eq_true rfl, Nat.le_of_ble_eq_true rfl⟩ (List.mem_singleton.mp hka3) rfl rfl rfl (Nat.le_of_ble_eq_true rfl) dX5_goes_184) rfl (fun x1 σ2 => ?_)
    refine r_bipush (q := 189) (v := (9 : Int32)) dX5_goes_187 rfl (by decide) ?_
    refine r_icmp_ge (q := 192) (t := 203) dX5_goes_189 rfl (by decide) (fun _ => ?_) (fun _ => ?_)
    · exact r_return rfl dX5_goes_203
    · refine r_aload_n (q := 193) dX5_goes_192 rfl rfl rfl ?_
      refine r_gR (q := 196) fl_X5_15 rfl dX5_goes_193 rfl (fun x4 => ?_)
      refine r_aload_n (q := 197) dX5_goes_196 rfl rfl rfl ?_
      refine r_gI (q := 200) fl_X5_122 dX5_goes_197 rfl (fun x5 => ?_)
      refine r_iload (q := 202) dX5_goes_200 rfl rfl ?_
      refine r_iastore (q := 203) dX5_goes_202 rfl (fun σ6 => ?_)
      exact r_return rfl dX5_goes_203
theorem w_X5_goes_b151 (G : Gx) (h0 : G0 G) (N : Nat)   (a0 : Nat) (l1 : Option Nat) (l2 : Int32) (l4 : Int32) (l5 : Int32) (t0 : Int32) (σ : Mem) : Runs G mX5_goes rhoV σ 151 [some (vR (some a0)), some (vR l1), some (vI l2), none, some (vI l4), some (vI l5), none] [vI t0] (f_X5_goes_b151 N  a0 l1 l2 l4 l5 t0 σ) := by
  unfold f_X5_goes_b151
  refine r_istore (q := 153) dX5_goes_151 rfl (Nat.le_of_ble_eq_true rfl) rfl ?_
  refine r_iload (q := 155) dX5_goes_153 rfl rfl ?_
  refine r_if_ne (q := 158) (t := 174) dX5_goes_155 rfl (by decide) (fun _ => ?_) (fun _ => ?_)
  · refine r_iload (q := 160) dX5_goes_158 rfl rfl ?_
    refine r_bipush (q := 162) (v := (9 : Int32)) dX5_goes_160 rfl (by decide) ?_
    refine r_icmp_ge (q := 165) (t := 174) dX5_goes_162 rfl (by decide) (fun _ => ?_) (fun _ => ?_)
    · exact r_le (w_X5_goes_b174 G h0 N _ _ _ _) (Nat.le_refl _) (And.intro rfl (And.intro rfl (And.intro rfl trivial)))
    · refine r_aload_n (q := 166) dX5_goes_165 rfl rfl rfl ?_
      refine r_aload_n (q := 167) dX5_goes_166 rfl rfl rfl ?_
      refine r_iload_n (q := 168) dX5_goes_167 rfl rfl rfl ?_
      refine r_ob (fun a3 ha3 => ?_)
      obtain ⟨hea3, hka3⟩ := o_at_eq ha3
      cases hea3
      refine r_callV (q := 171) (c_X5_eats G h0 N _ _ _ _) (cl_V (ci := 4) rfl rfl (lw_V q1497 q1499 qs59 q174 q1500) (hd_X5_eats) ⟨Nat.le_of_ble_eq_true rfl, Nat.le_of_ble_eq_true rfl⟩ (List.mem_singleton.mp hka3) rfl rfl rfl (Nat.le_of_ble_eq_true rfl) dX5_goes_168) rfl (fun u1 σ2 => ?_)
      refine r_goto (q := 203) dX5_goes_171 (by decide) ?_
      exact r_return rfl dX5_goes_203
  · exact r_le (w_X5_goes_b174 G h0 N _ _ _ _) (Nat.le_refl _) (And.intro rfl (And.intro rfl (And.intro rfl trivial)))
theorem w_X5_goes_b150 (G : Gx) (h0 : G0 G) (N : Nat)   (a0 : Nat) (l1 : Option Nat) (l2 : Int32) (l4 : Int32) (l5 : Int32) (σ : Mem) : Runs G mX5_goes rhoV σ 150 [some (vR (some a0)), some (vR l1), some (vI l2), none, some (vI l4), some (vI l5), none] [] (f_X5_goes_b150 N  a0 l1 l2 l4 l5 σ) := by
  unfold f_X5_goes_b150
  refine r_iconst (q := 151) (v := (0 : Int32)) dX5_goes_150 rfl (by decide) ?_
  exact r_le (w_X5_goes_b151 G h0 N _ _ _ _ _ _ _) (Nat.le_refl _) (And.intro rfl (And.intro rfl (And.intro rfl (And.intro rfl (And.intro rfl trivial)))))
theorem w_X5_goes_b68 (G : Gx) (h0 : G0 G) (N : Nat)   (a0 : Nat) (l1 : Option Nat) (l2 : Int32) (σ : Mem) : Runs G mX5_goes rhoV σ 68 [some (vR (some a0)), some (vR l1), some (vI l2), none, none, none, none] [] (f_X5_goes_b68 N  a0 l1 l2 σ) := by
  unfold f_X5_goes_b68
  refine r_aload_n (q := 69) dX5_goes_68 rfl rfl rfl ?_
  refine r_aload_n (q := 70) dX5_goes_69 rfl rfl rfl ?_
  refine r_ob (fun a3 ha3 => ?_)
  obtain ⟨hea3, hka3⟩ := o_at_eq ha3
  cases hea3
  refine r_callI (q := 73) (c_X5_bestOf G h0 N _ _ _) (cl_V (ci := 4) rfl rfl (lw_V q1456 q1458 qs55 q174 q1459) (hd_X5_bestOf) ⟨Nat.le_of_ble_eq_true rfl, Nat.le_of_ble_eq_true rfl⟩ (List.mem_singleton.mp hka3) rfl rfl rfl (Nat.le_of_ble_eq_true rfl) dX5_goes_70) rfl (fun x1 σ2 => ?_)
  refine r_istore (q := 75) dX5_goes_73 rfl (Nat.le_of_ble_eq_true rfl) rfl ?_
  refine r_aload_n (q := 76) dX5_goes_75 rfl rfl rfl ?_
  refine r_aload_n (q := 77) dX5_goes_76 rfl rfl rfl ?_
  refine r_iload_n (q := 78) dX5_goes_77 rfl rfl rfl ?_
  refine r_ob (fun a6 ha6 => ?_)
  obtain ⟨hea6, hka6⟩ := o_at_eq ha6
  cases hea6
  refine r_callI (q := 81) (c_X5_isFeared G h0 N _ _ _ _) (cl_V (ci := 4) rfl rfl (lw_V q1464 q1466 qs57 q174 q1467) (hd_X5_isFeared) ⟨Nat.le_of_ble_eq_true rfl, Nat.le_of_ble_eq_true rfl⟩ (List.mem_singleton.mp hka6) rfl rfl rfl (Nat.le_of_ble_eq_true rfl) dX5_goes_78) rfl (fun x4 σ5 => ?_)
  refine r_if_eq (q := 84) (t := 116) dX5_goes_81 rfl (by decide) (fun _ => ?_) (fun _ => ?_)
  · refine r_aload_n (q := 117) dX5_goes_116 rfl rfl rfl ?_
    refine r_aload_n (q := 118) dX5_goes_117 rfl rfl rfl ?_
    refine r_iload_n (q := 119) dX5_goes_118 rfl rfl rfl ?_
    refine r_ob (fun a9 ha9 => ?_)
    obtain ⟨hea9, hka9⟩ := o_at_eq ha9
    cases hea9
    refine r_callI (q := 122) (c_X5_worth G h0 N _ _ _ _) (cl_V (ci := 4) rfl rfl (lw_V q1485 q1487 qs58 q174 q1488) (hd_X5_worth) ⟨Nat.le_of_ble_eq_true rfl, Nat.le_of_ble_eq_true rfl⟩ (List.mem_singleton.mp hka9) rfl rfl rfl (Nat.le_of_ble_eq_true rfl) dX5_goes_119) rfl (fun x7 σ8 => ?_)
    refine r_istore (q := 124) dX5_goes_122 rfl (Nat.le_of_ble_eq_true rfl) rfl ?_
    refine r_iload (q := 126) dX5_goes_124 rfl rfl ?_
    refine r_if_ne (q := 129) (t := 130) dX5_goes_126 rfl (by decide) (fun _ => ?_) (fun _ => ?_)
    · exact r_return rfl dX5_goes_129
    · refine r_iload (q := 132) dX5_goes_130 rfl rfl ?_
      refine r_iconst (q := 133) (v := (-1 : Int32)) dX5_goes_132 rfl (by decide) ?_
      refine r_icmp_eq (q := 136) (t := 150) dX5_goes_133 rfl (by decide) (fun _ => ?_) (fun _ => ?_)
      · exact r_le (w_X5_goes_b150 G h0 N _ _ _ _ _ _) (Nat.le_refl _) (And.intro rfl (And.intro rfl (And.intro rfl (And.intro rfl (And.intro rfl trivial)))))
      · refine r_aload_n (q := 137) dX5_goes_136 rfl rfl rfl ?_
        refine r_aload_n (q := 138) dX5_goes_137 rfl rfl rfl ?_
        refine r_iload (q := 140) dX5_goes_138 rfl rfl ?_
        refine r_ob (fun a12 ha12 => ?_)
        obtain ⟨hea12, hka12⟩ := o_at_eq ha12
        cases hea12
        refine r_callI (q := 143) (c_X5_worth G h0 N _ _ _ _) (cl_V (ci := 4) rfl rfl (lw_V q1485 q1487 qs58 q174 q1488) (hd_X5_worth) ⟨Nat.le_of_ble_eq_true rfl, Nat.le_of_ble_eq_true rfl⟩ (List.mem_singleton.mp hka12) rfl rfl rfl (Nat.le_of_ble_eq_true rfl) dX5_goes_140) rfl (fun x10 σ11 => ?_)
        refine r_if_ne (q := 146) (t := 150) dX5_goes_143 rfl (by decide) (fun _ => ?_) (fun _ => ?_)
        · refine r_iconst (q := 147) (v := (1 : Int32)) dX5_goes_146 rfl (by decide) ?_
          refine r_goto (q := 151) dX5_goes_147 (by decide) ?_
          exact r_le (w_X5_goes_b151 G h0 N _ _ _ _ _ _ _) (Nat.le_refl _) (And.intro rfl (And.intro rfl (And.intro rfl (And.intro rfl (And.intro rfl trivial)))))
        · exact r_le (w_X5_goes_b150 G h0 N _ _ _ _ _ _) (Nat.le_refl _) (And.intro rfl (And.intro rfl (And.intro rfl (And.intro rfl (And.intro rfl trivial)))))
  · refine r_iload (q := 86) dX5_goes_84 rfl rfl ?_
    refine r_iconst (q := 87) (v := (-1 : Int32)) dX5_goes_86 rfl (by decide) ?_
    refine r_icmp_ne (q := 90) (t := 91) dX5_goes_87 rfl (by decide) (fun _ => ?_) (fun _ => ?_)
    · exact r_return rfl dX5_goes_90
    · refine r_aload_n (q := 92) dX5_goes_91 rfl rfl rfl ?_
      refine r_gR (q := 95) fl_X5_15 rfl dX5_goes_92 rfl (fun x13 => ?_)
      refine r_aload_n (q := 96) dX5_goes_95 rfl rfl rfl ?_
      refine r_gI (q := 99) fl_X5_122 dX5_goes_96 rfl (fun x14 => ?_)
      refine r_iload (q := 101) dX5_goes_99 rfl rfl ?_
      refine r_iastore (q := 102) dX5_goes_101 rfl (fun σ15 => ?_)
      refine r_aload_n (q := 103) dX5_goes_102 rfl rfl rfl ?_
      refine r_gR (q := 106) fl_X5_27 rfl dX5_goes_103 rfl (fun x16 => ?_)
      refine r_aload_n (q := 107) dX5_goes_106 rfl rfl rfl ?_
      refine r_gI (q := 110) fl_X5_122 dX5_goes_107 rfl (fun x17 => ?_)
      refine r_dup2 (q := 111) dX5_goes_110 rfl rfl rfl ?_
      refine r_iaload (q := 112) dX5_goes_111 rfl (fun x18 => ?_)
      refine r_iconst (q := 113) (v := (1 : Int32)) dX5_goes_112 rfl (by decide) ?_
      refine r_iadd (q := 114) dX5_goes_113 rfl ?_
      refine r_iastore (q := 115) dX5_goes_114 rfl (fun σ19 => ?_)
      exact r_return rfl dX5_goes_115
theorem c_X5_goes (G : Gx) (h0 : G0 G) (N : Nat) (a0 : Nat) (o1 : Option Nat) (σ : Mem) : Ct G mX5_goes rhoV [vR (some a0), vR o1] σ (f_X5_goes N a0 o1 σ) := by
  refine Ct_of h0 (by decide) rfl (Nat.le_of_ble_eq_true rfl) (L0 := [some (vR (some a0)), some (vR o1), none, none, none, none, none]) rfl ?_
  unfold f_X5_goes
  refine r_aload_n (q := 1) dX5_goes_0 rfl rfl rfl ?_
  refine r_gR (q := 4) fl_X5_15 rfl dX5_goes_1 rfl (fun x1 => ?_)
  refine r_aload_n (q := 5) dX5_goes_4 rfl rfl rfl ?_
  refine r_gI (q := 8) fl_X5_122 dX5_goes_5 rfl (fun x2 => ?_)
  refine r_iaload (q := 9) dX5_goes_8 rfl (fun x3 => ?_)
  refine r_istore_n (q := 10) dX5_goes_9 rfl rfl (Nat.le_of_ble_eq_true rfl) rfl ?_
  refine r_aload_n (q := 11) dX5_goes_10 rfl rfl rfl ?_
  refine r_ob (fun a6 ha6 => ?_)
  obtain ⟨hea6, hka6⟩ := o_at_eq ha6
  cases hea6
  refine r_callKR (q := 14) (Cb_ite (fun hq0 => ⟨_, _, (c_X12_mother G h0 N _ _), (cl_U (n := 0) (ci := 10) (x := ⟨"GoatCourt$Goat", "mother", "()LGoatCourt$Goat;"⟩) (owner := "GoatCourt$Goat") rfl rfl q1449 q1352 (Or.inr ⟨_, _, _, q1351, q1359⟩) q1357 q1351 q186 q1359 ⟨by decide, by decide, by decide +kernel⟩ ⟨Nat.le_of_ble_eq_true rfl, Nat.le_of_ble_eq_true rfl⟩ hq0 rfl rfl (Nat.le_of_ble_eq_true rfl) dX5_goes_11)⟩) (fun hq0 => Cb_ite (fun hq1 => ⟨_, _, (c_X12_mother G h0 N _ _), (cl_U (n := 0) (ci := 11) (x := ⟨"GoatCourt$Goat", "mother", "()LGoatCourt$Goat;"⟩) (owner := "GoatCourt$Goat") rfl rfl q1449 q1352 (Or.inr ⟨_, _, _, q1351, q1359⟩) q1358 q1351 q186 q1359 ⟨by decide, by decide, by decide +kernel⟩ ⟨Nat.le_of_ble_eq_true rfl, Nat.le_of_ble_eq_true rfl⟩ hq1 rfl rfl (Nat.le_of_ble_eq_true rfl) dX5_goes_11)⟩) (fun hq1 => Cb_ite (fun hq2 => ⟨_, _, (c_X12_mother G h0 N _ _), (cl_U (n := 0) (ci := 12) (x := ⟨"GoatCourt$Goat", "mother", "()LGoatCourt$Goat;"⟩) (owner := "GoatCourt$Goat") rfl rfl q1449 q1352 (Or.inr ⟨_, _, _, q1351, q1359⟩) q1353 q1351 q186 q1359 ⟨by decide, by decide, by decide +kernel⟩ ⟨Nat.le_of_ble_eq_true rfl, Nat.le_of_ble_eq_true rfl⟩ hq2 rfl rfl (Nat.le_of_ble_eq_true rfl) dX5_goes_11)⟩) (fun hq2 => ⟨_, _, (c_X16_mother G h0 N _ _), (cl_U (n := 0) (ci := 13) (x := ⟨"GoatCourt$Goat", "mother", "()LGoatCourt$Goat;"⟩) (owner := "GoatCourt$Goat") rfl rfl q1449 q1352 (Or.inr ⟨_, _, _, q1351, q1359⟩) q1354 q1355 q190 q1356 ⟨by decide, by decide, by decide +kernel⟩ ⟨Nat.le_of_ble_eq_true rfl, Nat.le_of_ble_eq_true rfl⟩ (by simp only [List.mem_cons, List.not_mem_nil, or_false] at hka6; omega) rfl rfl (Nat.le_of_ble_eq_true rfl) dX5_goes_11)⟩)))) rfl (fun x4 σ5 => ?_)
  refine r_astore_n (q := 15) dX5_goes_14 rfl rfl (Nat.le_of_ble_eq_true rfl) rfl ?_
  refine r_aload_n (q := 16) dX5_goes_15 rfl rfl rfl ?_
  refine r_ifnull (q := 19) (t := 68) dX5_goes_16 rfl (by decide) (fun _ => ?_) (fun _ => ?_)
  · exact r_le (w_X5_goes_b68 G h0 N _ _ _ _) (Nat.le_refl _) (And.intro rfl (And.intro rfl (And.intro rfl trivial)))
  · refine r_aload_n (q := 20) dX5_goes_19 rfl rfl rfl ?_
    refine r_gR (q := 23) fl_X5_15 rfl dX5_goes_20 rfl (fun x7 => ?_)
    refine r_aload_n (q := 24) dX5_goes_23 rfl rfl rfl ?_
    refine r_gI (q := 27) fl_X5_122 dX5_goes_24 rfl (fun x8 => ?_)
    refine r_iaload (q := 28) dX5_goes_27 rfl (fun x9 => ?_)
    refine r_iload_n (q := 29) dX5_goes_28 rfl rfl rfl ?_
    refine r_icmp_eq (q := 32) (t := 68) dX5_goes_29 rfl (by decide) (fun _ => ?_) (fun _ => ?_)
    · exact r_le (w_X5_goes_b68 G h0 N _ _ _ _) (Nat.le_refl _) (And.intro rfl (And.intro rfl (And.intro rfl trivial)))
    · refine r_aload_n (q := 33) dX5_goes_32 rfl rfl rfl ?_
      refine r_iload_n (q := 34) dX5_goes_33 rfl rfl rfl ?_
      refine r_aload_n (q := 35) dX5_goes_34 rfl rfl rfl ?_
      refine r_gR (q := 38) fl_X5_15 rfl dX5_goes_35 rfl (fun x10 => ?_)
      refine r_aload_n (q := 39) dX5_goes_38 rfl rfl rfl ?_
      refine r_gI (q := 42) fl_X5_122 dX5_goes_39 rfl (fun x11 => ?_)
      refine r_iaload (q := 43) dX5_goes_42 rfl (fun x12 => ?_)
      refine r_ob (fun a15 ha15 => ?_)
      obtain ⟨hea15, hka15⟩ := o_at_eq ha15
      cases hea15
      refine r_callI (q := 46) (c_X5_isOpen G h0 N _ _ _ _) (cl_V (ci := 4) rfl rfl (lw_V q1450 q1452 qs54 q174 q1453) (hd_X5_isOpen) ⟨Nat.le_of_ble_eq_true rfl, Nat.le_of_ble_eq_true rfl⟩ (List.mem_singleton.mp hka15) rfl rfl rfl (Nat.le_of_ble_eq_true rfl) dX5_goes_43) rfl (fun x13 σ14 => ?_)
      refine r_if_eq (q := 49) (t := 68) dX5_goes_46 rfl (by decide) (fun _ => ?_) (fun _ => ?_)
      · exact r_le (w_X5_goes_b68 G h0 N _ _ _ _) (Nat.le_refl _) (And.intro rfl (And.intro rfl (And.intro rfl trivial)))
      · refine r_aload_n (q := 50) dX5_goes_49 rfl rfl rfl ?_
        refine r_gR (q := 53) fl_X5_15 rfl dX5_goes_50 rfl (fun x16 => ?_)
        refine r_aload_n (q := 54) dX5_goes_53 rfl rfl rfl ?_
        refine r_gI (q := 57) fl_X5_122 dX5_goes_54 rfl (fun x17 => ?_)
        refine r_aload_n (q := 58) dX5_goes_57 rfl rfl rfl ?_
        refine r_gR (q := 61) fl_X5_15 rfl dX5_goes_58 rfl (fun x18 => ?_)
        refine r_aload_n (q := 62) dX5_goes_61 rfl rfl rfl ?_
        refine r_gI (q := 65) fl_X5_122 dX5_goes_62 rfl (fun x19 => ?_)
        refine r_iaload (q := 66) dX5_goes_65 rfl (fun x20 => ?_)
        refine r_iastore (q := 67) dX5_goes_66 rfl (fun σ21 => ?_)
        exact r_return rfl dX5_goes_67
theorem w_X5_run_b118B (G : Gx) (h0 : G0 G) (N : Nat) (K99 : Nat → Option Nat → Int32 → Mem → Option (Unit × Mem)) (hK99 : ∀ (a0 : Nat) (l1 : Option Nat) (l3 : Int32) (σ : Mem), Runs G mX5_run rhoV σ 99 [some (vR (some a0)), some (vR l1), none, some (vI l3), none] [] (K99 a0 l1 l3 σ)) (K118 : Nat → Option Nat → Int32 → Int32 → Mem → Option (Unit × Mem)) (hK118 : ∀ (a0 : Nat) (l1 : Option Nat) (l3 : Int32) (l4 : Int32) (σ : Mem), Runs G mX5_run rhoV σ 118 [some (vR (some a0)), some (vR l1), none, some (vI l3), some (vI l4)] [] (K118 a0 l1 l3 l4 σ)) (a0 : Nat) (l1 : Option Nat) (l3 : Int32) (l4 : Int32) (σ : Mem) : Runs G mX5_run rhoV σ 118 [some (vR (some a0)), some (vR l1), none, some (vI l3), some (vI l4)] [] (f_X5_run_b118B N K99 K118 a0 l1 l3 l4 σ) := by
  unfold f_X5_run_b118B
  refine r_iload (q := 120) dX5_run_118 rfl rfl ?_
  refine r_aload_n (q := 121) dX5_run_120 rfl rfl rfl ?_
  refine r_gI (q := 124) fl_X5_62 dX5_run_121 rfl (fun x1 => ?_)
  refine r_icmp_ge (q := 127) (t := 182) dX5_run_124 rfl (by decide) (fun _ => ?_) (fun _ => ?_)
  · refine r_aload_n (q := 183) dX5_run_182 rfl rfl rfl ?_
    refine r_dup (q := 184) dX5_run_183 rfl rfl ?_
    refine r_gI (q := 187) fl_X5_74 dX5_run_184 rfl (fun x2 => ?_)
    refine r_iconst (q := 188) (v := (1 : Int32)) dX5_run_187 rfl (by decide) ?_
    refine r_iadd (q := 189) dX5_run_188 rfl ?_
    refine r_pI (q := 192) fp_X5_run_74 dX5_run_189 rfl (fun σ3 => ?_)
    refine r_goto (q := 99) dX5_run_192 (by decide) ?_
    exact r_le (hK99 _ _ _ _) (Nat.le_refl _) (And.intro rfl (And.intro rfl (And.intro rfl trivial)))
  · refine r_aload_n (q := 128) dX5_run_127 rfl rfl rfl ?_
    refine r_gR (q := 131) fl_X5_24 rfl dX5_run_128 rfl (fun x4 => ?_)
    refine r_bipush (q := 133) (v := (12 : Int32)) dX5_run_131 rfl (by decide) ?_
    refine r_iload (q := 135) dX5_run_133 rfl rfl ?_
    refine r_imul (q := 136) dX5_run_135 rfl ?_
    refine r_aload_n (q := 137) dX5_run_136 rfl rfl rfl ?_
    refine r_gI (q := 140) fl_X5_74 dX5_run_137 rfl (fun x5 => ?_)
    refine r_iadd (q := 141) dX5_run_140 rfl ?_
    refine r_iconst (q := 142) (v := (0 : Int32)) dX5_run_141 rfl (by decide) ?_
    refine r_iastore (q := 143) dX5_run_142 rfl (fun σ6 => ?_)
    refine r_aload_n (q := 144) dX5_run_143 rfl rfl rfl ?_
    refine r_aload_n (q := 145) dX5_run_144 rfl rfl rfl ?_
    refine r_gR (q := 148) fl_X5_65 rfl dX5_run_145 rfl (fun x7 => ?_)
    refine r_iload (q := 150) dX5_run_148 rfl rfl ?_
    refine r_aaload (q := 151) (k0 := 8) (by decide) dX5_run_150 rfl (fun x8 => ?_)
    refine r_ob (fun a11 ha11 => ?_)
    obtain ⟨hea11, hka11⟩ := o_at_eq ha11
    cases hea11
    refine r_callV (q := 154) (c_X5_goes G h0 N _ _ _) (cl_V (ci := 4) rfl rfl (lw_V q1445 q1447 qs53 q174 q1448) (hd_X5_goes) ⟨Nat.le_of_ble_eq_true rfl, Nat.le_of_ble_eq_true rfl⟩ (List.mem_singleton.mp hka11) rfl rfl rfl (Nat.le_of_ble_eq_true rfl) dX5_run_151) rfl (fun u9 σ10 => ?_)
    refine r_aload_n (q := 155) dX5_run_154 rfl rfl rfl ?_
    refine r_gR (q := 158) fl_X5_18 rfl dX5_run_155 rfl (fun x12 => ?_)
    refine r_bipush (q := 160) (v := (12 : Int32)) dX5_run_158 rfl (by decide) ?_
    refine r_iload (q := 162) dX5_run_160 rfl rfl ?_
    refine r_imul (q := 163) dX5_run_162 rfl ?_
    refine r_aload_n (q := 164) dX5_run_163 rfl rfl rfl ?_
    refine r_gI (q := 167) fl_X5_74 dX5_run_164 rfl (fun x13 => ?_)
    refine r_iadd (q := 168) dX5_run_167 rfl ?_
    refine r_aload_n (q := 169) dX5_run_168 rfl rfl rfl ?_
    refine r_gR (q := 172) fl_X5_15 rfl dX5_run_169 rfl (fun x14 => ?_)
    refine r_iload (q := 174) dX5_run_172 rfl rfl ?_
    refine r_iaload (q := 175) dX5_run_174 rfl (fun x15 => ?_)
    refine r_iastore (q := 176) dX5_run_175 rfl (fun σ16 => ?_)
    refine r_iinc (q := 179) (v := (1 : Int32)) dX5_run_176 rfl rfl (by decide) (Nat.le_of_ble_eq_true rfl) rfl ?_
    refine r_goto (q := 118) dX5_run_179 (by decide) ?_
    exact r_le (hK118 _ _ _ _ _) (Nat.le_refl _) (And.intro rfl (And.intro rfl (And.intro rfl (And.intro rfl trivial))))
theorem w_X5_run_b118 (G : Gx) (h0 : G0 G) (N : Nat) (K99 : Nat → Option Nat → Int32 → Mem → Option (Unit × Mem)) (hK99 : ∀ (a0 : Nat) (l1 : Option Nat) (l3 : Int32) (σ : Mem), Runs G mX5_run rhoV σ 99 [some (vR (some a0)), some (vR l1), none, some (vI l3), none] [] (K99 a0 l1 l3 σ)) : ∀ (z : Nat) (a0 : Nat) (l1 : Option Nat) (l3 : Int32) (l4 : Int32) (σ : Mem), Runs G mX5_run rhoV σ 118 [some (vR (some a0)), some (vR l1), none, some (vI l3), some (vI l4)] [] (f_X5_run_b118 N K99 z a0 l1 l3 l4 σ) := by
  intro z
  induction z with
  | zero => exact fun _ _ _ _ _ => r_none
  | succ z ih => exact fun a0 l1 l3 l4 σ => w_X5_run_b118B G h0 N K99 hK99 _ ih a0 l1 l3 l4 σ
theorem w_X5_run_b99B (G : Gx) (h0 : G0 G) (N : Nat)   (K99 : Nat → Option Nat → Int32 → Mem → Option (Unit × Mem)) (hK99 : ∀ (a0 : Nat) (l1 : Option Nat) (l3 : Int32) (σ : Mem), Runs G mX5_run rhoV σ 99 [some (vR (some a0)), some (vR l1), none, some (vI l3), none] [] (K99 a0 l1 l3 σ)) (a0 : Nat) (l1 : Option Nat) (l3 : Int32) (σ : Mem) : Runs G mX5_run rhoV σ 99 [some (vR (some a0)), some (vR l1), none, some (vI l3), none] [] (f_X5_run_b99B N  K99 a0 l1 l3 σ) := by
  unfold f_X5_run_b99B
  refine r_aload_n (q := 100) dX5_run_99 rfl rfl rfl ?_
  refine r_gI (q := 103) fl_X5_74 dX5_run_100 rfl (fun x1 => ?_)
  refine r_aload_n (q := 104) dX5_run_103 rfl rfl rfl ?_
  refine r_gI (q := 107) fl_X5_77 dX5_run_104 rfl (fun x2 => ?_)
  refine r_icmp_ge (q := 110) (t := 195) dX5_run_107 rfl (by decide) (fun _ => ?_) (fun _ => ?_)
  · exact r_return rfl dX5_run_195
  · refine r_aload_n (q := 111) dX5_run_110 rfl rfl rfl ?_
    refine r_iload_n (q := 112) dX5_run_111 rfl rfl rfl ?_
    refine r_ob (fun a5 ha5 => ?_)
    obtain ⟨hea5, hka5⟩ := o_at_eq ha5
    cases hea5
    refine r_callV (q := 115) (c_X5_layPeople G h0 N _ _ _) (cl_V (ci := 4) rfl rfl (lw_V q1439 q1441 qs52 q174 q1442) (hd_X5_layPeople) ⟨Nat.le_of_ble_eq_true rfl, Nat.le_of_ble_eq_true rfl⟩ (List.mem_singleton.mp hka5) rfl rfl rfl (Nat.le_of_ble_eq_true rfl) dX5_run_112) rfl (fun u3 σ4 => ?_)
    refine r_iconst (q := 116) (v := (0 : Int32)) dX5_run_115 rfl (by decide) ?_
    refine r_istore (q := 118) dX5_run_116 rfl (Nat.le_of_ble_eq_true rfl) rfl ?_
    exact r_le (w_X5_run_b118 G h0 N K99 hK99 N _ _ _ _ _) (Nat.le_refl _) (And.intro rfl (And.intro rfl (And.intro rfl (And.intro rfl trivial))))
theorem w_X5_run_b99 (G : Gx) (h0 : G0 G) (N : Nat)   : ∀ (z : Nat) (a0 : Nat) (l1 : Option Nat) (l3 : Int32) (σ : Mem), Runs G mX5_run rhoV σ 99 [some (vR (some a0)), some (vR l1), none, some (vI l3), none] [] (f_X5_run_b99 N  z a0 l1 l3 σ) := by
  intro z
  induction z with
  | zero => exact fun _ _ _ _ => r_none
  | succ z ih => exact fun a0 l1 l3 σ => w_X5_run_b99B G h0 N   _ ih a0 l1 l3 σ
theorem w_X5_run_b54B (G : Gx) (h0 : G0 G) (N : Nat)   (K54 : Nat → Option Nat → Int32 → Int32 → Mem → Option (Unit × Mem)) (hK54 : ∀ (a0 : Nat) (l1 : Option Nat) (l3 : Int32) (l4 : Int32) (σ : Mem), Runs G mX5_run rhoV σ 54 [some (vR (some a0)), some (vR l1), none, some (vI l3), some (vI l4)] [] (K54 a0 l1 l3 l4 σ)) (a0 : Nat) (l1 : Option Nat) (l3 : Int32) (l4 : Int32) (σ : Mem) : Runs G mX5_run rhoV σ 54 [some (vR (some a0)), some (vR l1), none, some (vI l3), some (vI l4)] [] (f_X5_run_b54B N  K54 a0 l1 l3 l4 σ) := by
  unfold f_X5_run_b54B
  refine r_iload (q := 56) dX5_run_54 rfl rfl ?_
  refine r_aload_n (q := 57) dX5_run_56 rfl rfl rfl ?_
  refine r_gI (q := 60) fl_X5_62 dX5_run_57 rfl (fun x1 => ?_)
  refine r_icmp_ge (q := 63) (t := 94) dX5_run_60 rfl (by decide) (fun _ => ?_) (fun _ => ?_)
  · refine r_aload_n (q := 95) dX5_run_94 rfl rfl rfl ?_
    refine r_iconst (q := 96) (v := (0 : Int32)) dX5_run_95 rfl (by decide) ?_
    refine r_pI (q := 99) fp_X5_run_74 dX5_run_96 rfl (fun σ2 => ?_)
    exact r_le (w_X5_run_b99 G h0 N N _ _ _ _) (Nat.le_refl _) (And.intro rfl (And.intro rfl (And.intro rfl trivial)))
  · refine r_aload_n (q := 64) dX5_run_63 rfl rfl rfl ?_
    refine r_gR (q := 67) fl_X5_15 rfl dX5_run_64 rfl (fun x3 => ?_)
    refine r_iload (q := 69) dX5_run_67 rfl rfl ?_
    refine r_aload_n (q := 70) dX5_run_69 rfl rfl rfl ?_
    refine r_gR (q := 73) fl_X5_65 rfl dX5_run_70 rfl (fun x4 => ?_)
    refine r_iload (q := 75) dX5_run_73 rfl rfl ?_
    refine r_aaload (q := 76) (k0 := 8) (by decide) dX5_run_75 rfl (fun x5 => ?_)
    refine r_gI (q := 79) fl_X5_69 dX5_run_76 rfl (fun x6 => ?_)
    refine r_iastore (q := 80) dX5_run_79 rfl (fun σ7 => ?_)
    refine r_aload_n (q := 81) dX5_run_80 rfl rfl rfl ?_
    refine r_gR (q := 84) fl_X5_27 rfl dX5_run_81 rfl (fun x8 => ?_)
    refine r_iload (q := 86) dX5_run_84 rfl rfl ?_
    refine r_iconst (q := 87) (v := (0 : Int32)) dX5_run_86 rfl (by decide) ?_
    refine r_iastore (q := 88) dX5_run_87 rfl (fun σ9 => ?_)
    refine r_iinc (q := 91) (v := (1 : Int32)) dX5_run_88 rfl rfl (by decide) (Nat.le_of_ble_eq_true rfl) rfl ?_
    refine r_goto (q := 54) dX5_run_91 (by decide) ?_
    exact r_le (hK54 _ _ _ _ _) (Nat.le_refl _) (And.intro rfl (And.intro rfl (And.intro rfl (And.intro rfl trivial))))
theorem w_X5_run_b54 (G : Gx) (h0 : G0 G) (N : Nat)   : ∀ (z : Nat) (a0 : Nat) (l1 : Option Nat) (l3 : Int32) (l4 : Int32) (σ : Mem), Runs G mX5_run rhoV σ 54 [some (vR (some a0)), some (vR l1), none, some (vI l3), some (vI l4)] [] (f_X5_run_b54 N  z a0 l1 l3 l4 σ) := by
  intro z
  induction z with
  | zero => exact fun _ _ _ _ _ => r_none
  | succ z ih => exact fun a0 l1 l3 l4 σ => w_X5_run_b54B G h0 N   _ ih a0 l1 l3 l4 σ
theorem w_X5_run_b13B (G : Gx) (h0 : G0 G) (N : Nat)   (K13 : Nat → Option Nat → Int32 → Int32 → Mem → Option (Unit × Mem)) (hK13 : ∀ (a0 : Nat) (l1 : Option Nat) (l3 : Int32) (l4 : Int32) (σ : Mem), Runs G mX5_run rhoV σ 13 [some (vR (some a0)), some (vR l1), none, some (vI l3), some (vI l4)] [] (K13 a0 l1 l3 l4 σ)) (a0 : Nat) (l1 : Option Nat) (l3 : Int32) (l4 : Int32) (σ : Mem) : Runs G mX5_run rhoV σ 13 [some (vR (some a0)), some (vR l1), none, some (vI l3), some (vI l4)] [] (f_X5_run_b13B N  K13 a0 l1 l3 l4 σ) := by
  unfold f_X5_run_b13B
  refine r_iload (q := 15) dX5_run_13 rfl rfl ?_
  refine r_aload_n (q := 16) dX5_run_15 rfl rfl rfl ?_
  refine r_gI (q := 19) fl_X5_41 dX5_run_16 rfl (fun x1 => ?_)
  refine r_icmp_ge (q := 22) (t := 51) dX5_run_19 rfl (by decide) (fun _ => ?_) (fun _ => ?_)
  · refine r_iconst (q := 52) (v := (0 : Int32)) dX5_run_51 rfl (by decide) ?_
    refine r_istore (q := 54) dX5_run_52 rfl (Nat.le_of_ble_eq_true rfl) rfl ?_
    exact r_le (w_X5_run_b54 G h0 N N _ _ _ _ _) (Nat.le_refl _) (And.intro rfl (And.intro rfl (And.intro rfl (And.intro rfl trivial))))
  · refine r_aload_n (q := 23) dX5_run_22 rfl rfl rfl ?_
    refine r_gR (q := 26) fl_X5_47 rfl dX5_run_23 rfl (fun x2 => ?_)
    refine r_iload (q := 28) dX5_run_26 rfl rfl ?_
    refine r_aaload (q := 29) (k0 := 6) (by decide) dX5_run_28 rfl (fun x3 => ?_)
    refine r_gR (q := 32) fl_X5_51 rfl dX5_run_29 rfl (fun x4 => ?_)
    refine r_iconst (q := 33) (v := (0 : Int32)) dX5_run_32 rfl (by decide) ?_
    refine r_aload_n (q := 34) dX5_run_33 rfl rfl rfl ?_
    refine r_gR (q := 37) fl_X5_9 rfl dX5_run_34 rfl (fun x5 => ?_)
    refine r_iconst (q := 38) (v := (4 : Int32)) dX5_run_37 rfl (by decide) ?_
    refine r_iload (q := 40) dX5_run_38 rfl rfl ?_
    refine r_imul (q := 41) dX5_run_40 rfl ?_
    refine r_iconst (q := 42) (v := (4 : Int32)) dX5_run_41 rfl (by decide) ?_
    refine r_copy (q := 45) q1436 q1438 q1437 q200 (by decide) (by decide) dX5_run_42 rfl (fun σ6 => ?_)
    refine r_iinc (q := 48) (v := (1 : Int32)) dX5_run_45 rfl rfl (by decide) (Nat.le_of_ble_eq_true rfl) rfl ?_
    refine r_goto (q := 13) dX5_run_48 (by decide) ?_
    exact r_le (hK13 _ _ _ _ _) (Nat.le_refl _) (And.intro rfl (And.intro rfl (And.intro rfl (And.intro rfl trivial))))
theorem w_X5_run_b13 (G : Gx) (h0 : G0 G) (N : Nat)   : ∀ (z : Nat) (a0 : Nat) (l1 : Option Nat) (l3 : Int32) (l4 : Int32) (σ : Mem), Runs G mX5_run rhoV σ 13 [some (vR (some a0)), some (vR l1), none, some (vI l3), some (vI l4)] [] (f_X5_run_b13 N  z a0 l1 l3 l4 σ) := by
  intro z
  induction z with
  | zero => exact fun _ _ _ _ _ => r_none
  | succ z ih => exact fun a0 l1 l3 l4 σ => w_X5_run_b13B G h0 N   _ ih a0 l1 l3 l4 σ
theorem c_X5_run (G : Gx) (h0 : G0 G) (N : Nat) (a0 : Nat) (o1 : Option Nat) (o2 : Option Nat) (i3 : Int32) (σ : Mem) : Ct G mX5_run rhoV [vR (some a0), vR o1, vR o2, vI i3] σ (f_X5_run N a0 o1 o2 i3 σ) := by
  refine Ct_of h0 (by decide) rfl (Nat.le_of_ble_eq_true rfl) (L0 := [some (vR (some a0)), some (vR o1), some (vR o2), some (vI i3), none]) rfl ?_
  unfold f_X5_run
  refine r_aload_n (q := 1) dX5_run_0 rfl rfl rfl ?_
  refine r_aload_n (q := 2) dX5_run_1 rfl rfl rfl ?_
  refine r_pR (q := 5) fp_X5_run_33 rfl dX5_run_2 rfl (fun σ1 => ?_)
  refine r_aload_n (q := 6) dX5_run_5 rfl rfl rfl ?_
  refine r_aload_n (q := 7) dX5_run_6 rfl rfl rfl ?_
  refine r_pR (q := 10) fp_X5_run_37 rfl dX5_run_7 rfl (fun σ2 => ?_)
  refine r_iconst (q := 11) (v := (0 : Int32)) dX5_run_10 rfl (by decide) ?_
  refine r_istore (q := 13) dX5_run_11 rfl (Nat.le_of_ble_eq_true rfl) rfl ?_
  exact r_le (w_X5_run_b13 G h0 N N _ _ _ _ _) (Nat.le_refl _) (And.intro rfl (And.intro rfl (And.intro rfl (And.intro rfl trivial))))
theorem c_X1_run (G : Gx) (h0 : G0 G) (N : Nat) (a0 : Nat) (i1 : Int32) (σ : Mem) : Ct G mX1_run rhoV [vR (some a0), vI i1] σ (f_X1_run N a0 i1 σ) := by
  refine Ct_of h0 (by decide) rfl (Nat.le_of_ble_eq_true rfl) (L0 := [some (vR (some a0)), some (vI i1)]) rfl ?_
  unfold f_X1_run
  refine r_aload_n (q := 1) dX1_run_0 rfl rfl rfl ?_
  refine r_gR (q := 4) fl_X1_46 rfl dX1_run_1 rfl (fun x1 => ?_)
  refine r_aload_n (q := 5) dX1_run_4 rfl rfl rfl ?_
  refine r_gR (q := 8) fl_X1_104 rfl dX1_run_5 rfl (fun x2 => ?_)
  refine r_aload_n (q := 9) dX1_run_8 rfl rfl rfl ?_
  refine r_gR (q := 12) fl_X1_33 rfl dX1_run_9 rfl (fun x3 => ?_)
  refine r_iload_n (q := 13) dX1_run_12 rfl rfl rfl ?_
  refine r_ob (fun a6 ha6 => ?_)
  obtain ⟨hea6, hka6⟩ := o_at_eq ha6
  cases hea6
  refine r_callV (q := 16) (c_X5_run G h0 N _ _ _ _ _) (cl_V (ci := 4) rfl rfl (lw_V q1432 q1433 q1434 q174 q1435) (hd_X5_run) ⟨Nat.le_of_ble_eq_true rfl, Nat.le_of_ble_eq_true rfl⟩ (List.mem_singleton.mp hka6) rfl rfl rfl (Nat.le_of_ble_eq_true rfl) dX1_run_13) rfl (fun u4 σ5 => ?_)
  exact r_return rfl dX1_run_16
theorem c_X5_at (G : Gx) (h0 : G0 G) (N : Nat) (a0 : Nat) (i1 : Int32) (i2 : Int32) (σ : Mem) : Ct G mX5_at rhoI [vR (some a0), vI i1, vI i2] σ (f_X5_at N a0 i1 i2 σ) := by
  refine Ct_of h0 (by decide) rfl (Nat.le_of_ble_eq_true rfl) (L0 := [some (vR (some a0)), some (vI i1), some (vI i2)]) rfl ?_
  unfold f_X5_at
  refine r_aload_n (q := 1) dX5_at_0 rfl rfl rfl ?_
  refine r_gR (q := 4) fl_X5_18 rfl dX5_at_1 rfl (fun x1 => ?_)
  refine r_bipush (q := 6) (v := (12 : Int32)) dX5_at_4 rfl (by decide) ?_
  refine r_iload_n (q := 7) dX5_at_6 rfl rfl rfl ?_
  refine r_imul (q := 8) dX5_at_7 rfl ?_
  refine r_iload_n (q := 9) dX5_at_8 rfl rfl rfl ?_
  refine r_iadd (q := 10) dX5_at_9 rfl ?_
  refine r_iaload (q := 11) dX5_at_10 rfl (fun x2 => ?_)
  exact r_ireturn rfl rfl dX5_at_11
theorem w_X1_at_b20 (G : Gx) (h0 : G0 G) (N : Nat)   (a0 : Nat) (σ : Mem) : Runs G mX1_at rhoI σ 20 [some (vR (some a0)), none, none, none] [] (f_X1_at_b20 N  a0 σ) := by
  unfold f_X1_at_b20
  refine r_aload_n (q := 21) dX1_at_20 rfl rfl rfl ?_
  refine r_iconst (q := 22) (v := (1 : Int32)) dX1_at_21 rfl (by decide) ?_
  refine r_ob (fun a3 ha3 => ?_)
  obtain ⟨hea3, hka3⟩ := o_at_eq ha3
  cases hea3
  refine r_callI (q := 25) (c_X1_no G h0 N _ _ _) (cl_V (ci := 0) rfl rfl (lw_V q492 q494 qs3 q167 q495) (hd_X1_no) ⟨Nat.le_of_ble_eq_true rfl, Nat.le_of_ble_eq_true rfl⟩ (List.mem_singleton.mp hka3) rfl rfl rfl (Nat.le_of_ble_eq_true rfl) dX1_at_22) rfl (fun x1 σ2 => ?_)
  exact r_ireturn rfl rfl dX1_at_25
theorem c_X1_at (G : Gx) (h0 : G0 G) (N : Nat) (a0 : Nat) (i1 : Int32) (i2 : Int32) (i3 : Int32) (σ : Mem) : Ct G mX1_at rhoI [vR (some a0), vI i1, vI i2, vI i3] σ (f_X1_at N a0 i1 i2 i3 σ) := by
  refine Ct_of h0 (by decide) rfl (Nat.le_of_ble_eq_true rfl) (L0 := [some (vR (some a0)), some (vI i1), some (vI i2), some (vI i3)]) rfl ?_
  unfold f_X1_at
  refine r_aload_n (q := 1) dX1_at_0 rfl rfl rfl ?_
  refine r_ob (fun a3 ha3 => ?_)
  obtain ⟨hea3, hka3⟩ := o_at_eq ha3
  cases hea3
  refine r_callV (q := 4) (c_X1_anew G h0 N _ _) (cl_V (ci := 0) rfl rfl (lw_V q485 q487 qs2 q167 q488) (hd_X1_anew) ⟨Nat.le_of_ble_eq_true rfl, Nat.le_of_ble_eq_true rfl⟩ (List.mem_singleton.mp hka3) rfl rfl rfl (Nat.le_of_ble_eq_true rfl) dX1_at_1) rfl (fun u1 σ2 => ?_)
  refine r_aload_n (q := 5) dX1_at_4 rfl rfl rfl ?_
  refine r_iload_n (q := 6) dX1_at_5 rfl rfl rfl ?_
  refine r_ob (fun a6 ha6 => ?_)
  obtain ⟨hea6, hka6⟩ := o_at_eq ha6
  cases hea6
  refine r_callI (q := 9) (c_X1_isCase G h0 N _ _ _) (cl_V (ci := 0) rfl rfl (lw_V q1416 q1418 qs50 q167 q1419) (hd_X1_isCase) ⟨Nat.le_of_ble_eq_true rfl, Nat.le_of_ble_eq_true rfl⟩ (List.mem_singleton.mp hka6) rfl rfl rfl (Nat.le_of_ble_eq_true rfl) dX1_at_6) rfl (fun x4 σ5 => ?_)
  refine r_if_eq (q := 12) (t := 20) dX1_at_9 rfl (by decide) (fun _ => ?_) (fun _ => ?_)
  · exact r_le (w_X1_at_b20 G h0 N _ _) (Nat.le_refl _) (And.intro rfl trivial)
  · refine r_aload_n (q := 13) dX1_at_12 rfl rfl rfl ?_
    refine r_iload_n (q := 14) dX1_at_13 rfl rfl rfl ?_
    refine r_ob (fun a9 ha9 => ?_)
    obtain ⟨hea9, hka9⟩ := o_at_eq ha9
    cases hea9
    refine r_callI (q := 17) (c_X1_isGoat G h0 N _ _ _) (cl_V (ci := 0) rfl rfl (lw_V q1331 q1333 qs45 q167 q1334) (hd_X1_isGoat) ⟨Nat.le_of_ble_eq_true rfl, Nat.le_of_ble_eq_true rfl⟩ (List.mem_singleton.mp hka9) rfl rfl rfl (Nat.le_of_ble_eq_true rfl) dX1_at_14) rfl (fun x7 σ8 => ?_)
    refine r_if_ne (q := 20) (t := 26) dX1_at_17 rfl (by decide) (fun _ => ?_) (fun _ => ?_)
    · exact r_le (w_X1_at_b20 G h0 N _ _) (Nat.le_refl _) (And.intro rfl trivial)
    · refine r_aload_n (q := 27) dX1_at_26 rfl rfl rfl ?_
      refine r_iload_n (q := 28) dX1_at_27 rfl rfl rfl ?_
      refine r_ob (fun a12 ha12 => ?_)
      obtain ⟨hea12, hka12⟩ := o_at_eq ha12
      cases hea12
      refine r_callI (q := 31) (c_X1_isHour G h0 N _ _ _) (cl_V (ci := 0) rfl rfl (lw_V q1397 q1399 qs49 q167 q1400) (hd_X1_isHour) ⟨Nat.le_of_ble_eq_true rfl, Nat.le_of_ble_eq_true rfl⟩ (List.mem_singleton.mp hka12) rfl rfl rfl (Nat.le_of_ble_eq_true rfl) dX1_at_28) rfl (fun x10 σ11 => ?_)
      refine r_if_ne (q := 34) (t := 40) dX1_at_31 rfl (by decide) (fun _ => ?_) (fun _ => ?_)
      · refine r_aload_n (q := 35) dX1_at_34 rfl rfl rfl ?_
        refine r_iconst (q := 36) (v := (2 : Int32)) dX1_at_35 rfl (by decide) ?_
        refine r_ob (fun a22 ha22 => ?_)
        obtain ⟨hea22, hka22⟩ := o_at_eq ha22
        cases hea22
        refine r_callI (q := 39) (c_X1_no G h0 N _ _ _) (cl_V (ci := 0) rfl rfl (lw_V q492 q494 qs3 q167 q495) (hd_X1_no) ⟨Nat.le_of_ble_eq_true rfl, Nat.le_of_ble_eq_true rfl⟩ (List.mem_singleton.mp hka22) rfl rfl rfl (Nat.le_of_ble_eq_true rfl) dX1_at_36) rfl (fun x20 σ21 => ?_)
        exact r_ireturn rfl rfl dX1_at_39
      · refine r_aload_n (q := 41) dX1_at_40 rfl rfl rfl ?_
        refine r_iload_n (q := 42) dX1_at_41 rfl rfl rfl ?_
        refine r_ob (fun a15 ha15 => ?_)
        obtain ⟨hea15, hka15⟩ := o_at_eq ha15
        cases hea15
        refine r_callV (q := 45) (c_X1_run G h0 N _ _ _) (cl_V (ci := 0) rfl rfl (lw_V q1428 q1430 qs51 q167 q1431) (hd_X1_run) ⟨Nat.le_of_ble_eq_true rfl, Nat.le_of_ble_eq_true rfl⟩ (List.mem_singleton.mp hka15) rfl rfl rfl (Nat.le_of_ble_eq_true rfl) dX1_at_42) rfl (fun u13 σ14 => ?_)
        refine r_aload_n (q := 46) dX1_at_45 rfl rfl rfl ?_
        refine r_gR (q := 49) fl_X1_46 rfl dX1_at_46 rfl (fun x16 => ?_)
        refine r_iload_n (q := 50) dX1_at_49 rfl rfl rfl ?_
        refine r_iload_n (q := 51) dX1_at_50 rfl rfl rfl ?_
        refine r_ob (fun a19 ha19 => ?_)
        obtain ⟨hea19, hka19⟩ := o_at_eq ha19
        cases hea19
        refine r_callI (q := 54) (c_X5_at G h0 N _ _ _ _) (cl_V (ci := 4) rfl rfl (lw_V q1512 q1513 q1514 q174 q1515) (hd_X5_at) ⟨Nat.le_of_ble_eq_true rfl, Nat.le_of_ble_eq_true rfl⟩ (List.mem_singleton.mp hka19) rfl rfl rfl (Nat.le_of_ble_eq_true rfl) dX1_at_51) rfl (fun x17 σ18 => ?_)
        exact r_ireturn rfl rfl dX1_at_54
theorem w_X7_isOpen_b33 (G : Gx) (h0 : G0 G) (N : Nat)    (σ : Mem) : Runs G mX7_isOpen rhoI σ 33 [none, none, none, none] [] (f_X7_isOpen_b33 N   σ) := by
  unfold f_X7_isOpen_b33
  refine r_iconst (q := 34) (v := (0 : Int32)) dX7_isOpen_33 rfl (by decide) ?_
  exact r_ireturnN rfl dX7_isOpen_34
theorem c_X7_isOpen (G : Gx) (h0 : G0 G) (N : Nat) (a0 : Nat) (i1 : Int32) (i2 : Int32) (σ : Mem) : Ct G mX7_isOpen rhoI [vR (some a0), vI i1, vI i2] σ (f_X7_isOpen N a0 i1 i2 σ) := by
  refine Ct_of h0 (by decide) rfl (Nat.le_of_ble_eq_true rfl) (L0 := [some (vR (some a0)), some (vI i1), some (vI i2), none]) rfl ?_
  unfold f_X7_isOpen
  refine r_aload_n (q := 1) dX7_isOpen_0 rfl rfl rfl ?_
  refine r_gR (q := 4) fl_X7_442 rfl dX7_isOpen_1 rfl (fun x1 => ?_)
  refine r_iload_n (q := 5) dX7_isOpen_4 rfl rfl rfl ?_
  refine r_iload_n (q := 6) dX7_isOpen_5 rfl rfl rfl ?_
  refine r_ob (fun a4 ha4 => ?_)
  obtain ⟨hea4, hka4⟩ := o_at_eq ha4
  cases hea4
  refine r_callI (q := 9) (c_X24_path G h0 N _ _ _ _) (cl_V (ci := 20) rfl rfl (lw_V q2300 q2301 q2302 q199 q2303) (hd_X24_path) ⟨Nat.le_of_ble_eq_true rfl, Nat.le_of_ble_eq_true rfl⟩ (List.mem_singleton.mp hka4) rfl rfl rfl (Nat.le_of_ble_eq_true rfl) dX7_isOpen_6) rfl (fun x2 σ3 => ?_)
  refine r_istore_n (q := 10) dX7_isOpen_9 rfl rfl (Nat.le_of_ble_eq_true rfl) rfl ?_
  refine r_iload_n (q := 11) dX7_isOpen_10 rfl rfl rfl ?_
  refine r_iconst (q := 12) (v := (-1 : Int32)) dX7_isOpen_11 rfl (by decide) ?_
  refine r_icmp_eq (q := 15) (t := 33) dX7_isOpen_12 rfl (by decide) (fun _ => ?_) (fun _ => ?_)
  · exact r_le (w_X7_isOpen_b33 G h0 N  _) (Nat.le_refl _) trivial
  · refine r_aload_n (q := 16) dX7_isOpen_15 rfl rfl rfl ?_
    refine r_gR (q := 19) fl_X7_21 rfl dX7_isOpen_16 rfl (fun x5 => ?_)
    refine r_bipush (q := 21) (v := (16 : Int32)) dX7_isOpen_19 rfl (by decide) ?_
    refine r_iaload (q := 22) dX7_isOpen_21 rfl (fun x6 => ?_)
    refine r_iload_n (q := 23) dX7_isOpen_22 rfl rfl rfl ?_
    refine r_callI (q := 26) (c_X7_bit G h0 N _ _ _) (cl_S rfl rfl (lw_S q2331 q2332 q176 q2333) (hd_X7_bit) ⟨Nat.le_of_ble_eq_true rfl, Nat.le_of_ble_eq_true rfl⟩ rfl (Nat.le_of_ble_eq_true rfl) dX7_isOpen_23) rfl (fun x7 σ8 => ?_)
    refine r_if_ne (q := 29) (t := 33) dX7_isOpen_26 rfl (by decide) (fun _ => ?_) (fun _ => ?_)
    · refine r_iconst (q := 30) (v := (1 : Int32)) dX7_isOpen_29 rfl (by decide) ?_
      refine r_goto (q := 34) dX7_isOpen_30 (by decide) ?_
      exact r_ireturnN rfl dX7_isOpen_34
    · exact r_le (w_X7_isOpen_b33 G h0 N  _) (Nat.le_refl _) trivial
theorem c_X24_placeIn (G : Gx) (h0 : G0 G) (N : Nat) (a0 : Nat) (i1 : Int32) (i2 : Int32) (i3 : Int32) (σ : Mem) : Ct G mX24_placeIn rhoI [vR (some a0), vI i1, vI i2, vI i3] σ (f_X24_placeIn N a0 i1 i2 i3 σ) := by
  refine Ct_of h0 (by decide) rfl (Nat.le_of_ble_eq_true rfl) (L0 := [some (vR (some a0)), some (vI i1), some (vI i2), some (vI i3)]) rfl ?_
  unfold f_X24_placeIn
  refine r_aload_n (q := 1) dX24_placeIn_0 rfl rfl rfl ?_
  refine r_gR (q := 4) fl_X24_21 rfl dX24_placeIn_1 rfl (fun x1 => ?_)
  refine r_iload_n (q := 5) dX24_placeIn_4 rfl rfl rfl ?_
  refine r_iaload (q := 6) dX24_placeIn_5 rfl (fun x2 => ?_)
  refine r_if_ne (q := 9) (t := 14) dX24_placeIn_6 rfl (by decide) (fun _ => ?_) (fun _ => ?_)
  · refine r_bipush (q := 11) (v := (-2 : Int32)) dX24_placeIn_9 rfl (by decide) ?_
    refine r_goto (q := 26) dX24_placeIn_11 (by decide) ?_
    exact r_ireturn rfl rfl dX24_placeIn_26
  · refine r_aload_n (q := 15) dX24_placeIn_14 rfl rfl rfl ?_
    refine r_iload_n (q := 16) dX24_placeIn_15 rfl rfl rfl ?_
    refine r_aload_n (q := 17) dX24_placeIn_16 rfl rfl rfl ?_
    refine r_iload_n (q := 18) dX24_placeIn_17 rfl rfl rfl ?_
    refine r_iload_n (q := 19) dX24_placeIn_18 rfl rfl rfl ?_
    refine r_ob (fun a5 ha5 => ?_)
    obtain ⟨hea5, hka5⟩ := o_at_eq ha5
    cases hea5
    refine r_callI (q := 22) (c_X24_storyOf G h0 N _ _ _ _) (cl_V (ci := 20) rfl rfl (lw_V q2491 q2460 q2461 q199 q2462) (hd_X24_storyOf) ⟨Nat.le_of_ble_eq_true rfl, Nat.le_of_ble_eq_true rfl⟩ (List.mem_singleton.mp hka5) rfl rfl rfl (Nat.le_of_ble_eq_true rfl) dX24_placeIn_19) rfl (fun x3 σ4 => ?_)
    refine r_iload_n (q := 23) dX24_placeIn_22 rfl rfl rfl ?_
    refine r_ob (fun a8 ha8 => ?_)
    obtain ⟨hea8, hka8⟩ := o_at_eq ha8
    cases hea8
    refine r_callI (q := 26) (c_X24_place G h0 N _ _ _ _ _) (cl_V (ci := 20) rfl rfl (lw_V q2492 q2444 q2445 q199 q2446) (hd_X24_place) ⟨Nat.le_of_ble_eq_true rfl, Nat.le_of_ble_eq_true rfl⟩ (List.mem_singleton.mp hka8) rfl rfl rfl (Nat.le_of_ble_eq_true rfl) dX24_placeIn_23) rfl (fun x6 σ7 => ?_)
    exact r_ireturn rfl rfl dX24_placeIn_26
theorem w_X7_fears_b97 (G : Gx) (h0 : G0 G) (N : Nat) (K37 : Nat → Int32 → Int32 → Int32 → Int32 → Int32 → Mem → Option (Int32 × Mem)) (hK37 : ∀ (a0 : Nat) (l1 : Int32) (l2 : Int32) (l3 : Int32) (l4 : Int32) (l5 : Int32) (σ : Mem), Runs G mX7_fears rhoI σ 37 [some (vR (some a0)), some (vI l1), some (vI l2), some (vI l3), some (vI l4), some (vI l5)] [] (K37 a0 l1 l2 l3 l4 l5 σ)) (a0 : Nat) (l1 : Int32) (l2 : Int32) (l3 : Int32) (l4 : Int32) (l5 : Int32) (σ : Mem) : Runs G mX7_fears rhoI σ 97 [some (vR (some a0)), some (vI l1), some (vI l2), some (vI l3), some (vI l4), some (vI l5)] [] (f_X7_fears_b97 N K37 a0 l1 l2 l3 l4 l5 σ) := by
  unfold f_X7_fears_b97
  refine r_iinc (q := 100) (v := (1 : Int32)) dX7_fears_97 rfl rfl (by decide) (Nat.le_of_ble_eq_true rfl) rfl ?_
  refine r_goto (q := 37) dX7_fears_100 (by decide) ?_
  exact r_le (hK37 _ _ _ _ _ _ _) (Nat.le_refl _) (And.intro rfl (And.intro rfl (And.intro rfl (And.intro rfl (And.intro rfl (And.intro rfl trivial))))))
theorem w_X7_fears_b37B (G : Gx) (h0 : G0 G) (N : Nat)   (K37 : Nat → Int32 → Int32 → Int32 → Int32 → Int32 → Mem → Option (Int32 × Mem)) (hK37 : ∀ (a0 : Nat) (l1 : Int32) (l2 : Int32) (l3 : Int32) (l4 : Int32) (l5 : Int32) (σ : Mem), Runs G mX7_fears rhoI σ 37 [some (vR (some a0)), some (vI l1), some (vI l2), some (vI l3), some (vI l4), some (vI l5)] [] (K37 a0 l1 l2 l3 l4 l5 σ)) (a0 : Nat) (l1 : Int32) (l2 : Int32) (l3 : Int32) (l4 : Int32) (l5 : Int32) (σ : Mem) : Runs G mX7_fears rhoI σ 37 [some (vR (some a0)), some (vI l1), some (vI l2), some (vI l3), some (vI l4), some (vI l5)] [] (f_X7_fears_b37B N  K37 a0 l1 l2 l3 l4 l5 σ) := by
  unfold f_X7_fears_b37B
  refine r_iload (q := 39) dX7_fears_37 rfl rfl ?_
  refine r_aload_n (q := 40) dX7_fears_39 rfl rfl rfl ?_
  refine r_gR (q := 43) fl_X7_442 rfl dX7_fears_40 rfl (fun x1 => ?_)
  refine r_gI (q := 46) fl_X7_320 dX7_fears_43 rfl (fun x2 => ?_)
  refine r_icmp_ge (q := 49) (t := 103) dX7_fears_46 rfl (by decide) (fun _ => ?_) (fun _ => ?_)
  · refine r_iconst (q := 104) (v := (0 : Int32)) dX7_fears_103 rfl (by decide) ?_
    exact r_ireturnN rfl dX7_fears_104
  · refine r_aload_n (q := 50) dX7_fears_49 rfl rfl rfl ?_
    refine r_gR (q := 53) fl_X7_442 rfl dX7_fears_50 rfl (fun x3 => ?_)
    refine r_iload_n (q := 54) dX7_fears_53 rfl rfl rfl ?_
    refine r_iload (q := 56) dX7_fears_54 rfl rfl ?_
    refine r_iload (q := 58) dX7_fears_56 rfl rfl ?_
    refine r_ob (fun a6 ha6 => ?_)
    obtain ⟨hea6, hka6⟩ := o_at_eq ha6
    cases hea6
    refine r_callI (q := 61) (c_X24_placeIn G h0 N _ _ _ _ _) (cl_V (ci := 20) rfl rfl (lw_V q2487 q2488 q2489 q199 q2490) (hd_X24_placeIn) ⟨Nat.le_of_ble_eq_true rfl, Nat.le_of_ble_eq_true rfl⟩ (List.mem_singleton.mp hka6) rfl rfl rfl (Nat.le_of_ble_eq_true rfl) dX7_fears_58) rfl (fun x4 σ5 => ?_)
    refine r_iload_n (q := 62) dX7_fears_61 rfl rfl rfl ?_
    refine r_icmp_ne (q := 65) (t := 97) dX7_fears_62 rfl (by decide) (fun _ => ?_) (fun _ => ?_)
    · refine r_aload_n (q := 66) dX7_fears_65 rfl rfl rfl ?_
      refine r_gR (q := 69) fl_X7_442 rfl dX7_fears_66 rfl (fun x7 => ?_)
      refine r_gR (q := 72) fl_X7_347 rfl dX7_fears_69 rfl (fun x8 => ?_)
      refine r_iload_n (q := 73) dX7_fears_72 rfl rfl rfl ?_
      refine r_iaload (q := 74) dX7_fears_73 rfl (fun x9 => ?_)
      refine r_iconst (q := 75) (v := (1 : Int32)) dX7_fears_74 rfl (by decide) ?_
      refine r_icmp_eq (q := 78) (t := 95) dX7_fears_75 rfl (by decide) (fun _ => ?_) (fun _ => ?_)
      · refine r_iconst (q := 96) (v := (1 : Int32)) dX7_fears_95 rfl (by decide) ?_
        exact r_ireturnN rfl dX7_fears_96
      · refine r_aload_n (q := 79) dX7_fears_78 rfl rfl rfl ?_
        refine r_gR (q := 82) fl_X7_442 rfl dX7_fears_79 rfl (fun x10 => ?_)
        refine r_gR (q := 85) fl_X7_363 rfl dX7_fears_82 rfl (fun x11 => ?_)
        refine r_iload_n (q := 86) dX7_fears_85 rfl rfl rfl ?_
        refine r_iaload (q := 87) dX7_fears_86 rfl (fun x12 => ?_)
        refine r_iload (q := 89) dX7_fears_87 rfl rfl ?_
        refine r_callI (q := 92) (c_X7_bit G h0 N _ _ _) (cl_S rfl rfl (lw_S q2331 q2332 q176 q2333) (hd_X7_bit) ⟨Nat.le_of_ble_eq_true rfl, Nat.le_of_ble_eq_true rfl⟩ rfl (Nat.le_of_ble_eq_true rfl) dX7_fears_89) rfl (fun x13 σ14 => ?_)
        refine r_if_eq (q := 95) (t := 97) dX7_fears_92 rfl (by decide) (fun _ => ?_) (fun _ => ?_)
        · exact r_le (w_X7_fears_b97 G h0 N K37 hK37 _ _ _ _ _ _ _) (Nat.le_refl _) (And.intro rfl (And.intro rfl (And.intro rfl (And.intro rfl (And.intro rfl (And.intro rfl trivial))))))
        · refine r_iconst (q := 96) (v := (1 : Int32)) dX7_fears_95 rfl (by decide) ?_
          exact r_ireturnN rfl dX7_fears_96
    · exact r_le (w_X7_fears_b97 G h0 N K37 hK37 _ _ _ _ _ _ _) (Nat.le_refl _) (And.intro rfl (And.intro rfl (And.intro rfl (And.intro rfl (And.intro rfl (And.intro rfl trivial))))))
theorem w_X7_fears_b37 (G : Gx) (h0 : G0 G) (N : Nat)   : ∀ (z : Nat) (a0 : Nat) (l1 : Int32) (l2 : Int32) (l3 : Int32) (l4 : Int32) (l5 : Int32) (σ : Mem), Runs G mX7_fears rhoI σ 37 [some (vR (some a0)), some (vI l1), some (vI l2), some (vI l3), some (vI l4), some (vI l5)] [] (f_X7_fears_b37 N  z a0 l1 l2 l3 l4 l5 σ) := by
  intro z
  induction z with
  | zero => exact fun _ _ _ _ _ _ _ => r_none
  | succ z ih => exact fun a0 l1 l2 l3 l4 l5 σ => w_X7_fears_b37B G h0 N   _ ih a0 l1 l2 l3 l4 l5 σ
theorem c_X7_fears (G : Gx) (h0 : G0 G) (N : Nat) (a0 : Nat) (i1 : Int32) (i2 : Int32) (i3 : Int32) (i4 : Int32) (σ : Mem) : Ct G mX7_fears rhoI [vR (some a0), vI i1, vI i2, vI i3, vI i4] σ (f_X7_fears N a0 i1 i2 i3 i4 σ) := by
  refine Ct_of h0 (by decide) rfl (Nat.le_of_ble_eq_true rfl) (L0 := [some (vR (some a0)), some (vI i1), some (vI i2), some (vI i3), some (vI i4), none]) rfl ?_
  unfold f_X7_fears
  refine r_aload_n (q := 1) dX7_fears_0 rfl rfl rfl ?_
  refine r_gR (q := 4) fl_X7_442 rfl dX7_fears_1 rfl (fun x1 => ?_)
  refine r_gR (q := 7) fl_X7_347 rfl dX7_fears_4 rfl (fun x2 => ?_)
  refine r_iload_n (q := 8) dX7_fears_7 rfl rfl rfl ?_
  refine r_iaload (q := 9) dX7_fears_8 rfl (fun x3 => ?_)
  refine r_iconst (q := 10) (v := (2 : Int32)) dX7_fears_9 rfl (by decide) ?_
  refine r_icmp_ne (q := 13) (t := 15) dX7_fears_10 rfl (by decide) (fun _ => ?_) (fun _ => ?_)
  · refine r_iconst (q := 14) (v := (0 : Int32)) dX7_fears_13 rfl (by decide) ?_
    exact r_ireturnN rfl dX7_fears_14
  · refine r_aload_n (q := 16) dX7_fears_15 rfl rfl rfl ?_
    refine r_gR (q := 19) fl_X7_21 rfl dX7_fears_16 rfl (fun x4 => ?_)
    refine r_bipush (q := 21) (v := (8 : Int32)) dX7_fears_19 rfl (by decide) ?_
    refine r_iload_n (q := 22) dX7_fears_21 rfl rfl rfl ?_
    refine r_iadd (q := 23) dX7_fears_22 rfl ?_
    refine r_iaload (q := 24) dX7_fears_23 rfl (fun x5 => ?_)
    refine r_iload (q := 26) dX7_fears_24 rfl rfl ?_
    refine r_callI (q := 29) (c_X7_bit G h0 N _ _ _) (cl_S rfl rfl (lw_S q2331 q2332 q176 q2333) (hd_X7_bit) ⟨Nat.le_of_ble_eq_true rfl, Nat.le_of_ble_eq_true rfl⟩ rfl (Nat.le_of_ble_eq_true rfl) dX7_fears_26) rfl (fun x6 σ7 => ?_)
    refine r_if_eq (q := 32) (t := 34) dX7_fears_29 rfl (by decide) (fun _ => ?_) (fun _ => ?_)
    · refine r_iconst (q := 35) (v := (0 : Int32)) dX7_fears_34 rfl (by decide) ?_
      refine r_istore (q := 37) dX7_fears_35 rfl (Nat.le_of_ble_eq_true rfl) rfl ?_
      exact r_le (w_X7_fears_b37 G h0 N N _ _ _ _ _ _ _) (Nat.le_refl _) (And.intro rfl (And.intro rfl (And.intro rfl (And.intro rfl (And.intro rfl (And.intro rfl trivial))))))
    · refine r_iconst (q := 33) (v := (1 : Int32)) dX7_fears_32 rfl (by decide) ?_
      exact r_ireturnN rfl dX7_fears_33
theorem w_X7_worth_b20B (G : Gx) (h0 : G0 G) (N : Nat)   (K20 : Nat → Int32 → Int32 → Int32 → Mem → Option (Int32 × Mem)) (hK20 : ∀ (a0 : Nat) (l1 : Int32) (l2 : Int32) (l4 : Int32) (σ : Mem), Runs G mX7_worth rhoI σ 20 [some (vR (some a0)), some (vI l1), some (vI l2), none, some (vI l4)] [] (K20 a0 l1 l2 l4 σ)) (a0 : Nat) (l1 : Int32) (l2 : Int32) (l4 : Int32) (σ : Mem) : Runs G mX7_worth rhoI σ 20 [some (vR (some a0)), some (vI l1), some (vI l2), none, some (vI l4)] [] (f_X7_worth_b20B N  K20 a0 l1 l2 l4 σ) := by
  unfold f_X7_worth_b20B
  refine r_iload (q := 22) dX7_worth_20 rfl rfl ?_
  refine r_aload_n (q := 23) dX7_worth_22 rfl rfl rfl ?_
  refine r_gR (q := 26) fl_X7_442 rfl dX7_worth_23 rfl (fun x1 => ?_)
  refine r_gR (q := 29) fl_X7_353 rfl dX7_worth_26 rfl (fun x2 => ?_)
  refine r_iload_n (q := 30) dX7_worth_29 rfl rfl rfl ?_
  refine r_iaload (q := 31) dX7_worth_30 rfl (fun x3 => ?_)
  refine r_icmp_ge (q := 34) (t := 71) dX7_worth_31 rfl (by decide) (fun _ => ?_) (fun _ => ?_)
  · refine r_bipush (q := 73) (v := (9 : Int32)) dX7_worth_71 rfl (by decide) ?_
    exact r_ireturn rfl rfl dX7_worth_73
  · refine r_aload_n (q := 35) dX7_worth_34 rfl rfl rfl ?_
    refine r_gR (q := 38) fl_X7_39 rfl dX7_worth_35 rfl (fun x4 => ?_)
    refine r_iconst (q := 39) (v := (4 : Int32)) dX7_worth_38 rfl (by decide) ?_
    refine r_iload_n (q := 40) dX7_worth_39 rfl rfl rfl ?_
    refine r_imul (q := 41) dX7_worth_40 rfl ?_
    refine r_aload_n (q := 42) dX7_worth_41 rfl rfl rfl ?_
    refine r_gR (q := 45) fl_X7_442 rfl dX7_worth_42 rfl (fun x5 => ?_)
    refine r_gR (q := 48) fl_X7_341 rfl dX7_worth_45 rfl (fun x6 => ?_)
    refine r_iconst (q := 49) (v := (4 : Int32)) dX7_worth_48 rfl (by decide) ?_
    refine r_iload_n (q := 50) dX7_worth_49 rfl rfl rfl ?_
    refine r_imul (q := 51) dX7_worth_50 rfl ?_
    refine r_iload (q := 53) dX7_worth_51 rfl rfl ?_
    refine r_iadd (q := 54) dX7_worth_53 rfl ?_
    refine r_iaload (q := 55) dX7_worth_54 rfl (fun x7 => ?_)
    refine r_iadd (q := 56) dX7_worth_55 rfl ?_
    refine r_iaload (q := 57) dX7_worth_56 rfl (fun x8 => ?_)
    refine r_if_le (q := 60) (t := 65) dX7_worth_57 rfl (by decide) (fun _ => ?_) (fun _ => ?_)
    · refine r_iinc (q := 68) (v := (1 : Int32)) dX7_worth_65 rfl rfl (by decide) (Nat.le_of_ble_eq_true rfl) rfl ?_
      refine r_goto (q := 20) dX7_worth_68 (by decide) ?_
      exact r_le (hK20 _ _ _ _ _) (Nat.le_refl _) (And.intro rfl (And.intro rfl (And.intro rfl (And.intro rfl trivial))))
    · refine r_iload (q := 62) dX7_worth_60 rfl rfl ?_
      refine r_iconst (q := 63) (v := (1 : Int32)) dX7_worth_62 rfl (by decide) ?_
      refine r_iadd (q := 64) dX7_worth_63 rfl ?_
      exact r_ireturn rfl rfl dX7_worth_64
theorem w_X7_worth_b20 (G : Gx) (h0 : G0 G) (N : Nat)   : ∀ (z : Nat) (a0 : Nat) (l1 : Int32) (l2 : Int32) (l4 : Int32) (σ : Mem), Runs G mX7_worth rhoI σ 20 [some (vR (some a0)), some (vI l1), some (vI l2), none, some (vI l4)] [] (f_X7_worth_b20 N  z a0 l1 l2 l4 σ) := by
  intro z
  induction z with
  | zero => exact fun _ _ _ _ _ => r_none
  | succ z ih => exact fun a0 l1 l2 l4 σ => w_X7_worth_b20B G h0 N   _ ih a0 l1 l2 l4 σ
theorem c_X7_worth (G : Gx) (h0 : G0 G) (N : Nat) (a0 : Nat) (i1 : Int32) (i2 : Int32) (i3 : Int32) (σ : Mem) : Ct G mX7_worth rhoI [vR (some a0), vI i1, vI i2, vI i3] σ (f_X7_worth N a0 i1 i2 i3 σ) := by
  refine Ct_of h0 (by decide) rfl (Nat.le_of_ble_eq_true rfl) (L0 := [some (vR (some a0)), some (vI i1), some (vI i2), some (vI i3), none]) rfl ?_
  unfold f_X7_worth
  refine r_aload_n (q := 1) dX7_worth_0 rfl rfl rfl ?_
  refine r_gR (q := 4) fl_X7_21 rfl dX7_worth_1 rfl (fun x1 => ?_)
  refine r_iconst (q := 5) (v := (0 : Int32)) dX7_worth_4 rfl (by decide) ?_
  refine r_iload_n (q := 6) dX7_worth_5 rfl rfl rfl ?_
  refine r_iadd (q := 7) dX7_worth_6 rfl ?_
  refine r_iaload (q := 8) dX7_worth_7 rfl (fun x2 => ?_)
  refine r_iload_n (q := 9) dX7_worth_8 rfl rfl rfl ?_
  refine r_callI (q := 12) (c_X7_bit G h0 N _ _ _) (cl_S rfl rfl (lw_S q2331 q2332 q176 q2333) (hd_X7_bit) ⟨Nat.le_of_ble_eq_true rfl, Nat.le_of_ble_eq_true rfl⟩ rfl (Nat.le_of_ble_eq_true rfl) dX7_worth_9) rfl (fun x3 σ4 => ?_)
  refine r_if_eq (q := 15) (t := 17) dX7_worth_12 rfl (by decide) (fun _ => ?_) (fun _ => ?_)
  · refine r_iconst (q := 18) (v := (0 : Int32)) dX7_worth_17 rfl (by decide) ?_
    refine r_istore (q := 20) dX7_worth_18 rfl (Nat.le_of_ble_eq_true rfl) rfl ?_
    exact r_le (w_X7_worth_b20 G h0 N N _ _ _ _ _) (Nat.le_refl _) (And.intro rfl (And.intro rfl (And.intro rfl (And.intro rfl trivial))))
  · refine r_iconst (q := 16) (v := (0 : Int32)) dX7_worth_15 rfl (by decide) ?_
    exact r_ireturn rfl rfl dX7_worth_16
theorem w_X7_bestFor_b74 (G : Gx) (h0 : G0 G) (N : Nat) (K6 : Nat → Int32 → Int32 → Int32 → Int32 → Int32 → Mem → Option (Int32 × Mem)) (hK6 : ∀ (a0 : Nat) (l1 : Int32) (l2 : Int32) (l3 : Int32) (l4 : Int32) (l5 : Int32) (σ : Mem), Runs G mX7_bestFor rhoI σ 6 [some (vR (some a0)), some (vI l1), some (vI l2), some (vI l3), some (vI l4), some (vI l5)] [] (K6 a0 l1 l2 l3 l4 l5 σ)) (a0 : Nat) (l1 : Int32) (l2 : Int32) (l3 : Int32) (l4 : Int32) (l5 : Int32) (σ : Mem) : Runs G mX7_bestFor rhoI σ 74 [some (vR (some a0)), some (vI l1), some (vI l2), some (vI l3), some (vI l4), some (vI l5)] [] (f_X7_bestFor_b74 N K6 a0 l1 l2 l3 l4 l5 σ) := by
  unfold f_X7_bestFor_b74
  refine r_iinc (q := 77) (v := (1 : Int32)) dX7_bestFor_74 rfl rfl (by decide) (Nat.le_of_ble_eq_true rfl) rfl ?_
  refine r_goto (q := 6) dX7_bestFor_77 (by decide) ?_
  exact r_le (hK6 _ _ _ _ _ _ _) (Nat.le_refl _) (And.intro rfl (And.intro rfl (And.intro rfl (And.intro rfl (And.intro rfl (And.intro rfl trivial))))))
theorem w_X7_bestFor_b70 (G : Gx) (h0 : G0 G) (N : Nat) (K6 : Nat → Int32 → Int32 → Int32 → Int32 → Int32 → Mem → Option (Int32 × Mem)) (hK6 : ∀ (a0 : Nat) (l1 : Int32) (l2 : Int32) (l3 : Int32) (l4 : Int32) (l5 : Int32) (σ : Mem), Runs G mX7_bestFor rhoI σ 6 [some (vR (some a0)), some (vI l1), some (vI l2), some (vI l3), some (vI l4), some (vI l5)] [] (K6 a0 l1 l2 l3 l4 l5 σ)) (a0 : Nat) (l1 : Int32) (l2 : Int32) (l3 : Int32) (l5 : Int32) (σ : Mem) : Runs G mX7_bestFor rhoI σ 70 [some (vR (some a0)), some (vI l1), some (vI l2), some (vI l3), none, some (vI l5)] [] (f_X7_bestFor_b70 N K6 a0 l1 l2 l3 l5 σ) := by
  unfold f_X7_bestFor_b70
  refine r_iload (q := 72) dX7_bestFor_70 rfl rfl ?_
  refine r_istore (q := 74) dX7_bestFor_72 rfl (Nat.le_of_ble_eq_true rfl) rfl ?_
  exact r_le (w_X7_bestFor_b74 G h0 N K6 hK6 _ _ _ _ _ _ _) (Nat.le_refl _) (And.intro rfl (And.intro rfl (And.intro rfl (And.intro rfl (And.intro rfl (And.intro rfl trivial))))))
theorem w_X7_bestFor_b6B (G : Gx) (h0 : G0 G) (N : Nat)   (K6 : Nat → Int32 → Int32 → Int32 → Int32 → Int32 → Mem → Option (Int32 × Mem)) (hK6 : ∀ (a0 : Nat) (l1 : Int32) (l2 : Int32) (l3 : Int32) (l4 : Int32) (l5 : Int32) (σ : Mem), Runs G mX7_bestFor rhoI σ 6 [some (vR (some a0)), some (vI l1), some (vI l2), some (vI l3), some (vI l4), some (vI l5)] [] (K6 a0 l1 l2 l3 l4 l5 σ)) (a0 : Nat) (l1 : Int32) (l2 : Int32) (l3 : Int32) (l4 : Int32) (l5 : Int32) (σ : Mem) : Runs G mX7_bestFor rhoI σ 6 [some (vR (some a0)), some (vI l1), some (vI l2), some (vI l3), some (vI l4), some (vI l5)] [] (f_X7_bestFor_b6B N  K6 a0 l1 l2 l3 l4 l5 σ) := by
  unfold f_X7_bestFor_b6B
  refine r_iload (q := 8) dX7_bestFor_6 rfl rfl ?_
  refine r_aload_n (q := 9) dX7_bestFor_8 rfl rfl rfl ?_
  refine r_gR (q := 12) fl_X7_442 rfl dX7_bestFor_9 rfl (fun x1 => ?_)
  refine r_gI (q := 15) fl_X7_241 dX7_bestFor_12 rfl (fun x2 => ?_)
  refine r_icmp_ge (q := 18) (t := 80) dX7_bestFor_15 rfl (by decide) (fun _ => ?_) (fun _ => ?_)
  · refine r_iload (q := 82) dX7_bestFor_80 rfl rfl ?_
    exact r_ireturn rfl rfl dX7_bestFor_82
  · refine r_aload_n (q := 19) dX7_bestFor_18 rfl rfl rfl ?_
    refine r_aload_n (q := 20) dX7_bestFor_19 rfl rfl rfl ?_
    refine r_gR (q := 23) fl_X7_45 rfl dX7_bestFor_20 rfl (fun x3 => ?_)
    refine r_iload_n (q := 24) dX7_bestFor_23 rfl rfl rfl ?_
    refine r_iaload (q := 25) dX7_bestFor_24 rfl (fun x4 => ?_)
    refine r_iload (q := 27) dX7_bestFor_25 rfl rfl ?_
    refine r_ob (fun a7 ha7 => ?_)
    obtain ⟨hea7, hka7⟩ := o_at_eq ha7
    cases hea7
    refine r_callI (q := 30) (c_X7_isOpen G h0 N _ _ _ _) (cl_V (ci := 6) rfl rfl (lw_V q2475 q2477 qs129 q176 q2478) (hd_X7_isOpen) ⟨Nat.le_of_ble_eq_true rfl, Nat.le_of_ble_eq_true rfl⟩ (List.mem_singleton.mp hka7) rfl rfl rfl (Nat.le_of_ble_eq_true rfl) dX7_bestFor_27) rfl (fun x5 σ6 => ?_)
    refine r_if_eq (q := 33) (t := 74) dX7_bestFor_30 rfl (by decide) (fun _ => ?_) (fun _ => ?_)
    · exact r_le (w_X7_bestFor_b74 G h0 N K6 hK6 _ _ _ _ _ _ _) (Nat.le_refl _) (And.intro rfl (And.intro rfl (And.intro rfl (And.intro rfl (And.intro rfl (And.intro rfl trivial))))))
    · refine r_aload_n (q := 34) dX7_bestFor_33 rfl rfl rfl ?_
      refine r_iload_n (q := 35) dX7_bestFor_34 rfl rfl rfl ?_
      refine r_iload_n (q := 36) dX7_bestFor_35 rfl rfl rfl ?_
      refine r_iload (q := 38) dX7_bestFor_36 rfl rfl ?_
      refine r_iload_n (q := 39) dX7_bestFor_38 rfl rfl rfl ?_
      refine r_ob (fun a10 ha10 => ?_)
      obtain ⟨hea10, hka10⟩ := o_at_eq ha10
      cases hea10
      refine r_callI (q := 42) (c_X7_fears G h0 N _ _ _ _ _ _) (cl_V (ci := 6) rfl rfl (lw_V q2483 q2485 qs131 q176 q2486) (hd_X7_fears) ⟨Nat.le_of_ble_eq_true rfl, Nat.le_of_ble_eq_true rfl⟩ (List.mem_singleton.mp hka10) rfl rfl rfl (Nat.le_of_ble_eq_true rfl) dX7_bestFor_39) rfl (fun x8 σ9 => ?_)
      refine r_if_ne (q := 45) (t := 74) dX7_bestFor_42 rfl (by decide) (fun _ => ?_) (fun _ => ?_)
      · refine r_iload (q := 47) dX7_bestFor_45 rfl rfl ?_
        refine r_iconst (q := 48) (v := (-1 : Int32)) dX7_bestFor_47 rfl (by decide) ?_
        refine r_icmp_eq (q := 51) (t := 70) dX7_bestFor_48 rfl (by decide) (fun _ => ?_) (fun _ => ?_)
        · exact r_le (w_X7_bestFor_b70 G h0 N K6 hK6 _ _ _ _ _ _) (Nat.le_refl _) (And.intro rfl (And.intro rfl (And.intro rfl (And.intro rfl (And.intro rfl trivial)))))
        · refine r_aload_n (q := 52) dX7_bestFor_51 rfl rfl rfl ?_
          refine r_iload_n (q := 53) dX7_bestFor_52 rfl rfl rfl ?_
          refine r_iload (q := 55) dX7_bestFor_53 rfl rfl ?_
          refine r_iload_n (q := 56) dX7_bestFor_55 rfl rfl rfl ?_
          refine r_ob (fun a13 ha13 => ?_)
          obtain ⟨hea13, hka13⟩ := o_at_eq ha13
          cases hea13
          refine r_callI (q := 59) (c_X7_worth G h0 N _ _ _ _ _) (cl_V (ci := 6) rfl rfl (lw_V q2493 q2495 qs132 q176 q2496) (hd_X7_worth) ⟨Nat.le_of_ble_eq_true rfl, Nat.le_of_ble_eq_true rfl⟩ (List.mem_singleton.mp hka13) rfl rfl rfl (Nat.le_of_ble_eq_true rfl) dX7_bestFor_56) rfl (fun x11 σ12 => ?_)
          refine r_aload_n (q := 60) dX7_bestFor_59 rfl rfl rfl ?_
          refine r_iload_n (q := 61) dX7_bestFor_60 rfl rfl rfl ?_
          refine r_iload (q := 63) dX7_bestFor_61 rfl rfl ?_
          refine r_iload_n (q := 64) dX7_bestFor_63 rfl rfl rfl ?_
          refine r_ob (fun a16 ha16 => ?_)
          obtain ⟨hea16, hka16⟩ := o_at_eq ha16
          cases hea16
          refine r_callI (q := 67) (c_X7_worth G h0 N _ _ _ _ _) (cl_V (ci := 6) rfl rfl (lw_V q2493 q2495 qs132 q176 q2496) (hd_X7_worth) ⟨Nat.le_of_ble_eq_true rfl, Nat.le_of_ble_eq_true rfl⟩ (List.mem_singleton.mp hka16) rfl rfl rfl (Nat.le_of_ble_eq_true rfl) dX7_bestFor_64) rfl (fun x14 σ15 => ?_)
          refine r_icmp_ge (q := 70) (t := 74) dX7_bestFor_67 rfl (by decide) (fun _ => ?_) (fun _ => ?_)
          · exact r_le (w_X7_bestFor_b74 G h0 N K6 hK6 _ _ _ _ _ _ _) (Nat.le_refl _) (And.intro rfl (And.intro rfl (And.intro rfl (And.intro rfl (And.intro rfl (And.intro rfl trivial))))))
          · exact r_le (w_X7_bestFor_b70 G h0 N K6 hK6 _ _ _ _ _ _) (Nat.le_refl _) (And.intro rfl (And.intro rfl (And.intro rfl (And.intro rfl (And.intro rfl trivial)))))
      · exact r_le (w_X7_bestFor_b74 G h0 N K6 hK6 _ _ _ _ _ _ _) (Nat.le_refl _) (And.intro rfl (And.intro rfl (And.intro rfl (And.intro rfl (And.intro rfl (And.intro rfl trivial))))))
theorem w_X7_bestFor_b6 (G : Gx) (h0 : G0 G) (N : Nat)   : ∀ (z : Nat) (a0 : Nat) (l1 : Int32) (l2 : Int32) (l3 : Int32) (l4 : Int32) (l5 : Int32) (σ : Mem), Runs G mX7_bestFor rhoI σ 6 [some (vR (some a0)), some (vI l1), some (vI l2), some (vI l3), some (vI l4), some (vI l5)] [] (f_X7_bestFor_b6 N  z a0 l1 l2 l3 l4 l5 σ) := by
  intro z
  induction z with
  | zero => exact fun _ _ _ _ _ _ _ => r_none
  | succ z ih => exact fun a0 l1 l2 l3 l4 l5 σ => w_X7_bestFor_b6B G h0 N   _ ih a0 l1 l2 l3 l4 l5 σ
theorem c_X7_bestFor (G : Gx) (h0 : G0 G) (N : Nat) (a0 : Nat) (i1 : Int32) (i2 : Int32) (i3 : Int32) (σ : Mem) : Ct G mX7_bestFor rhoI [vR (some a0), vI i1, vI i2, vI i3] σ (f_X7_bestFor N a0 i1 i2 i3 σ) := by
  refine Ct_of h0 (by decide) rfl (Nat.le_of_ble_eq_true rfl) (L0 := [some (vR (some a0)), some (vI i1), some (vI i2), some (vI i3), none, none]) rfl ?_
  unfold f_X7_bestFor
  refine r_iconst (q := 1) (v := (-1 : Int32)) dX7_bestFor_0 rfl (by decide) ?_
  refine r_istore (q := 3) dX7_bestFor_1 rfl (Nat.le_of_ble_eq_true rfl) rfl ?_
  refine r_iconst (q := 4) (v := (0 : Int32)) dX7_bestFor_3 rfl (by decide) ?_
  refine r_istore (q := 6) dX7_bestFor_4 rfl (Nat.le_of_ble_eq_true rfl) rfl ?_
  exact r_le (w_X7_bestFor_b6 G h0 N N _ _ _ _ _ _ _) (Nat.le_refl _) (And.intro rfl (And.intro rfl (And.intro rfl (And.intro rfl (And.intro rfl (And.intro rfl trivial))))))
theorem w_X7_plantAt_b2B (G : Gx) (h0 : G0 G) (N : Nat)   (K2 : Nat → Int32 → Int32 → Int32 → Mem → Option (Int32 × Mem)) (hK2 : ∀ (a0 : Nat) (l1 : Int32) (l2 : Int32) (l3 : Int32) (σ : Mem), Runs G mX7_plantAt rhoI σ 2 [some (vR (some a0)), some (vI l1), some (vI l2), some (vI l3)] [] (K2 a0 l1 l2 l3 σ)) (a0 : Nat) (l1 : Int32) (l2 : Int32) (l3 : Int32) (σ : Mem) : Runs G mX7_plantAt rhoI σ 2 [some (vR (some a0)), some (vI l1), some (vI l2), some (vI l3)] [] (f_X7_plantAt_b2B N  K2 a0 l1 l2 l3 σ) := by
  unfold f_X7_plantAt_b2B
  refine r_iload_n (q := 3) dX7_plantAt_2 rfl rfl rfl ?_
  refine r_aload_n (q := 4) dX7_plantAt_3 rfl rfl rfl ?_
  refine r_gR (q := 7) fl_X7_442 rfl dX7_plantAt_4 rfl (fun x1 => ?_)
  refine r_gR (q := 10) fl_X7_353 rfl dX7_plantAt_7 rfl (fun x2 => ?_)
  refine r_iload_n (q := 11) dX7_plantAt_10 rfl rfl rfl ?_
  refine r_iaload (q := 12) dX7_plantAt_11 rfl (fun x3 => ?_)
  refine r_icmp_ge (q := 15) (t := 60) dX7_plantAt_12 rfl (by decide) (fun _ => ?_) (fun _ => ?_)
  · refine r_iconst (q := 61) (v := (-1 : Int32)) dX7_plantAt_60 rfl (by decide) ?_
    exact r_ireturn rfl rfl dX7_plantAt_61
  · refine r_aload_n (q := 16) dX7_plantAt_15 rfl rfl rfl ?_
    refine r_gR (q := 19) fl_X7_39 rfl dX7_plantAt_16 rfl (fun x4 => ?_)
    refine r_iconst (q := 20) (v := (4 : Int32)) dX7_plantAt_19 rfl (by decide) ?_
    refine r_iload_n (q := 21) dX7_plantAt_20 rfl rfl rfl ?_
    refine r_imul (q := 22) dX7_plantAt_21 rfl ?_
    refine r_aload_n (q := 23) dX7_plantAt_22 rfl rfl rfl ?_
    refine r_gR (q := 26) fl_X7_442 rfl dX7_plantAt_23 rfl (fun x5 => ?_)
    refine r_gR (q := 29) fl_X7_341 rfl dX7_plantAt_26 rfl (fun x6 => ?_)
    refine r_iconst (q := 30) (v := (4 : Int32)) dX7_plantAt_29 rfl (by decide) ?_
    refine r_iload_n (q := 31) dX7_plantAt_30 rfl rfl rfl ?_
    refine r_imul (q := 32) dX7_plantAt_31 rfl ?_
    refine r_iload_n (q := 33) dX7_plantAt_32 rfl rfl rfl ?_
    refine r_iadd (q := 34) dX7_plantAt_33 rfl ?_
    refine r_iaload (q := 35) dX7_plantAt_34 rfl (fun x7 => ?_)
    refine r_iadd (q := 36) dX7_plantAt_35 rfl ?_
    refine r_iaload (q := 37) dX7_plantAt_36 rfl (fun x8 => ?_)
    refine r_if_le (q := 40) (t := 54) dX7_plantAt_37 rfl (by decide) (fun _ => ?_) (fun _ => ?_)
    · refine r_iinc (q := 57) (v := (1 : Int32)) dX7_plantAt_54 rfl rfl (by decide) (Nat.le_of_ble_eq_true rfl) rfl ?_
      refine r_goto (q := 2) dX7_plantAt_57 (by decide) ?_
      exact r_le (hK2 _ _ _ _ _) (Nat.le_refl _) (And.intro rfl (And.intro rfl (And.intro rfl (And.intro rfl trivial))))
    · refine r_aload_n (q := 41) dX7_plantAt_40 rfl rfl rfl ?_
      refine r_gR (q := 44) fl_X7_442 rfl dX7_plantAt_41 rfl (fun x9 => ?_)
      refine r_gR (q := 47) fl_X7_341 rfl dX7_plantAt_44 rfl (fun x10 => ?_)
      refine r_iconst (q := 48) (v := (4 : Int32)) dX7_plantAt_47 rfl (by decide) ?_
      refine r_iload_n (q := 49) dX7_plantAt_48 rfl rfl rfl ?_
      refine r_imul (q := 50) dX7_plantAt_49 rfl ?_
      refine r_iload_n (q := 51) dX7_plantAt_50 rfl rfl rfl ?_
      refine r_iadd (q := 52) dX7_plantAt_51 rfl ?_
      refine r_iaload (q := 53) dX7_plantAt_52 rfl (fun x11 => ?_)
      exact r_ireturn rfl rfl dX7_plantAt_53
theorem w_X7_plantAt_b2 (G : Gx) (h0 : G0 G) (N : Nat)   : ∀ (z : Nat) (a0 : Nat) (l1 : Int32) (l2 : Int32) (l3 : Int32) (σ : Mem), Runs G mX7_plantAt rhoI σ 2 [some (vR (some a0)), some (vI l1), some (vI l2), some (vI l3)] [] (f_X7_plantAt_b2 N  z a0 l1 l2 l3 σ) := by
  intro z
  induction z with
  | zero => exact fun _ _ _ _ _ => r_none
  | succ z ih => exact fun a0 l1 l2 l3 σ => w_X7_plantAt_b2B G h0 N   _ ih a0 l1 l2 l3 σ
theorem c_X7_plantAt (G : Gx) (h0 : G0 G) (N : Nat) (a0 : Nat) (i1 : Int32) (i2 : Int32) (σ : Mem) : Ct G mX7_plantAt rhoI [vR (some a0), vI i1, vI i2] σ (f_X7_plantAt N a0 i1 i2 σ) := by
  refine Ct_of h0 (by decide) rfl (Nat.le_of_ble_eq_true rfl) (L0 := [some (vR (some a0)), some (vI i1), some (vI i2), none]) rfl ?_
  unfold f_X7_plantAt
  refine r_iconst (q := 1) (v := (0 : Int32)) dX7_plantAt_0 rfl (by decide) ?_
  refine r_istore_n (q := 2) dX7_plantAt_1 rfl rfl (Nat.le_of_ble_eq_true rfl) rfl ?_
  exact r_le (w_X7_plantAt_b2 G h0 N N _ _ _ _ _) (Nat.le_refl _) (And.intro rfl (And.intro rfl (And.intro rfl (And.intro rfl trivial))))
theorem w_X7_eats_b53 (G : Gx) (h0 : G0 G) (N : Nat)   (a0 : Nat) (l1 : Int32) (l2 : Int32) (l3 : Int32) (t0 : Int32) (σ : Mem) : Runs G mX7_eats rhoV σ 53 [some (vR (some a0)), some (vI l1), some (vI l2), some (vI l3), none, none] [vI t0] (f_X7_eats_b53 N  a0 l1 l2 l3 t0 σ) := by
  unfold f_X7_eats_b53
  refine r_istore (q := 55) dX7_eats_53 rfl (Nat.le_of_ble_eq_true rfl) rfl ?_
  refine r_aload_n (q := 56) dX7_eats_55 rfl rfl rfl ?_
  refine r_gR (q := 59) fl_X7_39 rfl dX7_eats_56 rfl (fun x1 => ?_)
  refine r_iconst (q := 60) (v := (4 : Int32)) dX7_eats_59 rfl (by decide) ?_
  refine r_aload_n (q := 61) dX7_eats_60 rfl rfl rfl ?_
  refine r_gR (q := 64) fl_X7_45 rfl dX7_eats_61 rfl (fun x2 => ?_)
  refine r_iload_n (q := 65) dX7_eats_64 rfl rfl rfl ?_
  refine r_iaload (q := 66) dX7_eats_65 rfl (fun x3 => ?_)
  refine r_imul (q := 67) dX7_eats_66 rfl ?_
  refine r_iload_n (q := 68) dX7_eats_67 rfl rfl rfl ?_
  refine r_iadd (q := 69) dX7_eats_68 rfl ?_
  refine r_dup2 (q := 70) dX7_eats_69 rfl rfl rfl ?_
  refine r_iaload (q := 71) dX7_eats_70 rfl (fun x4 => ?_)
  refine r_iload (q := 73) dX7_eats_71 rfl rfl ?_
  refine r_isub (q := 74) dX7_eats_73 rfl ?_
  refine r_iastore (q := 75) dX7_eats_74 rfl (fun σ5 => ?_)
  refine r_aload_n (q := 76) dX7_eats_75 rfl rfl rfl ?_
  refine r_gR (q := 79) fl_X7_33 rfl dX7_eats_76 rfl (fun x6 => ?_)
  refine r_bipush (q := 81) (v := (12 : Int32)) dX7_eats_79 rfl (by decide) ?_
  refine r_iload_n (q := 82) dX7_eats_81 rfl rfl rfl ?_
  refine r_imul (q := 83) dX7_eats_82 rfl ?_
  refine r_iload_n (q := 84) dX7_eats_83 rfl rfl rfl ?_
  refine r_iadd (q := 85) dX7_eats_84 rfl ?_
  refine r_iload_n (q := 86) dX7_eats_85 rfl rfl rfl ?_
  refine r_iastore (q := 87) dX7_eats_86 rfl (fun σ7 => ?_)
  refine r_aload_n (q := 88) dX7_eats_87 rfl rfl rfl ?_
  refine r_gR (q := 91) fl_X7_36 rfl dX7_eats_88 rfl (fun x8 => ?_)
  refine r_bipush (q := 93) (v := (12 : Int32)) dX7_eats_91 rfl (by decide) ?_
  refine r_iload_n (q := 94) dX7_eats_93 rfl rfl rfl ?_
  refine r_imul (q := 95) dX7_eats_94 rfl ?_
  refine r_iload_n (q := 96) dX7_eats_95 rfl rfl rfl ?_
  refine r_iadd (q := 97) dX7_eats_96 rfl ?_
  refine r_iload (q := 99) dX7_eats_97 rfl rfl ?_
  refine r_iastore (q := 100) dX7_eats_99 rfl (fun σ9 => ?_)
  exact r_return rfl dX7_eats_100
theorem w_X7_eats_b52 (G : Gx) (h0 : G0 G) (N : Nat)   (a0 : Nat) (l1 : Int32) (l2 : Int32) (l3 : Int32) (σ : Mem) : Runs G mX7_eats rhoV σ 52 [some (vR (some a0)), some (vI l1), some (vI l2), some (vI l3), none, none] [] (f_X7_eats_b52 N  a0 l1 l2 l3 σ) := by
  unfold f_X7_eats_b52
  refine r_iconst (q := 53) (v := (1 : Int32)) dX7_eats_52 rfl (by decide) ?_
  exact r_le (w_X7_eats_b53 G h0 N _ _ _ _ _ _) (Nat.le_refl _) (And.intro rfl (And.intro rfl (And.intro rfl (And.intro rfl trivial))))
theorem c_X7_eats (G : Gx) (h0 : G0 G) (N : Nat) (a0 : Nat) (i1 : Int32) (i2 : Int32) (σ : Mem) : Ct G mX7_eats rhoV [vR (some a0), vI i1, vI i2] σ (f_X7_eats N a0 i1 i2 σ) := by
  refine Ct_of h0 (by decide) rfl (Nat.le_of_ble_eq_true rfl) (L0 := [some (vR (some a0)), some (vI i1), some (vI i2), none, none, none]) rfl ?_
  unfold f_X7_eats
  refine r_aload_n (q := 1) dX7_eats_0 rfl rfl rfl ?_
  refine r_iload_n (q := 2) dX7_eats_1 rfl rfl rfl ?_
  refine r_aload_n (q := 3) dX7_eats_2 rfl rfl rfl ?_
  refine r_gR (q := 6) fl_X7_45 rfl dX7_eats_3 rfl (fun x1 => ?_)
  refine r_iload_n (q := 7) dX7_eats_6 rfl rfl rfl ?_
  refine r_iaload (q := 8) dX7_eats_7 rfl (fun x2 => ?_)
  refine r_ob (fun a5 ha5 => ?_)
  obtain ⟨hea5, hka5⟩ := o_at_eq ha5
  cases hea5
  refine r_callI (q := 11) (c_X7_plantAt G h0 N _ _ _ _) (cl_V (ci := 6) rfl rfl (lw_V q2501 q2503 qs134 q176 q2504) (hd_X7_plantAt) ⟨Nat.le_of_ble_eq_true rfl, Nat.le_of_ble_eq_true rfl⟩ (List.mem_singleton.mp hka5) rfl rfl rfl (Nat.le_of_ble_eq_true rfl) dX7_eats_8) rfl (fun x3 σ4 => ?_)
  refine r_istore_n (q := 12) dX7_eats_11 rfl rfl (Nat.le_of_ble_eq_true rfl) rfl ?_
  refine r_aload_n (q := 13) dX7_eats_12 rfl rfl rfl ?_
  refine r_gR (q := 16) fl_X7_39 rfl dX7_eats_13 rfl (fun x6 => ?_)
  refine r_iconst (q := 17) (v := (4 : Int32)) dX7_eats_16 rfl (by decide) ?_
  refine r_aload_n (q := 18) dX7_eats_17 rfl rfl rfl ?_
  refine r_gR (q := 21) fl_X7_45 rfl dX7_eats_18 rfl (fun x7 => ?_)
  refine r_iload_n (q := 22) dX7_eats_21 rfl rfl rfl ?_
  refine r_iaload (q := 23) dX7_eats_22 rfl (fun x8 => ?_)
  refine r_imul (q := 24) dX7_eats_23 rfl ?_
  refine r_iload_n (q := 25) dX7_eats_24 rfl rfl rfl ?_
  refine r_iadd (q := 26) dX7_eats_25 rfl ?_
  refine r_iaload (q := 27) dX7_eats_26 rfl (fun x9 => ?_)
  refine r_istore (q := 29) dX7_eats_27 rfl (Nat.le_of_ble_eq_true rfl) rfl ?_
  refine r_aload_n (q := 30) dX7_eats_29 rfl rfl rfl ?_
  refine r_gR (q := 33) fl_X7_442 rfl dX7_eats_30 rfl (fun x10 => ?_)
  refine r_gR (q := 36) fl_X7_347 rfl dX7_eats_33 rfl (fun x11 => ?_)
  refine r_iload_n (q := 37) dX7_eats_36 rfl rfl rfl ?_
  refine r_iaload (q := 38) dX7_eats_37 rfl (fun x12 => ?_)
  refine r_iconst (q := 39) (v := (2 : Int32)) dX7_eats_38 rfl (by decide) ?_
  refine r_icmp_ne (q := 42) (t := 52) dX7_eats_39 rfl (by decide) (fun _ => ?_) (fun _ => ?_)
  · refine r_iload (q := 44) dX7_eats_42 rfl rfl ?_
    refine r_iconst (q := 45) (v := (1 : Int32)) dX7_eats_44 rfl (by decide) ?_
    refine r_icmp_le (q := 48) (t := 52) dX7_eats_45 rfl (by decide) (fun _ => ?_) (fun _ => ?_)
    · exact r_le (w_X7_eats_b52 G h0 N _ _ _ _ _) (Nat.le_refl _) (And.intro rfl (And.intro rfl (And.intro rfl (And.intro rfl trivial))))
    · refine r_iconst (q := 49) (v := (2 : Int32)) dX7_eats_48 rfl (by decide) ?_
      refine r_goto (q := 53) dX7_eats_49 (by decide) ?_
      exact r_le (w_X7_eats_b53 G h0 N _ _ _ _ _ _) (Nat.le_refl _) (And.intro rfl (And.intro rfl (And.intro rfl (And.intro rfl trivial))))
  · exact r_le (w_X7_eats_b52 G h0 N _ _ _ _ _) (Nat.le_refl _) (And.intro rfl (And.intro rfl (And.intro rfl (And.intro rfl trivial))))
theorem w_X7_goatGoes_b165 (G : Gx) (h0 : G0 G) (N : Nat)   (a0 : Nat) (l2 : Int32) (l3 : Int32) (l5 : Int32) (l6 : Int32) (σ : Mem) : Runs G mX7_goatGoes rhoV σ 165 [some (vR (some a0)), none, some (vI l2), some (vI l3), none, some (vI l5), some (vI l6)] [] (f_X7_goatGoes_b165 N  a0 l2 l3 l5 l6 σ) := by
  unfold f_X7_goatGoes_b165
  refine r_iload (q := 167) dX7_goatGoes_165 rfl rfl ?_
  refine r_bipush (q := 169) (v := (9 : Int32)) dX7_goatGoes_167 rfl (by decide) ?_
  refine r_icmp_ge (q := 172) (t := 179) dX7_goatGoes_169 rfl (by decide) (fun _ => ?_) (fun _ => ?_)
  · refine r_iload (q := 181) dX7_goatGoes_179 rfl rfl ?_
    refine r_iconst (q := 182) (v := (-1 : Int32)) dX7_goatGoes_181 rfl (by decide) ?_
    refine r_icmp_eq (q := 185) (t := 206) dX7_goatGoes_182 rfl (by decide) (fun _ => ?_) (fun _ => ?_)
    · exact r_return rfl dX7_goatGoes_206
    · refine r_aload_n (q := 186) dX7_goatGoes_185 rfl rfl rfl ?_
      refine r_iload_n (q := 187) dX7_goatGoes_186 rfl rfl rfl ?_
      refine r_iload (q := 189) dX7_goatGoes_187 rfl rfl ?_
      refine r_iload_n (q := 190) dX7_goatGoes_189 rfl rfl rfl ?_
      refine r_ob (fun a3 ha3 => ?_)
      obtain ⟨hea3, hka3⟩ := o_at_eq ha3
      cases hea3
      refine r_callI (q := 193) (c_X7_worth G h0 N _ _ _ _ _) (cl_V (ci := 6) rfl rfl (lw_V q2493 q2495 qs132 q176 q2496) (hd_X7_worth) ⟨Nat.le_of_ble_eq_true rfl, Nat.le_of_ble_eq_true rfl⟩ (List.mem_singleton.mp hka3) rfl rfl rfl (Nat.le_of_ble_eq_true rfl) dX7_goatGoes_190) rfl (fun x1 σ2 => ?_)
      refine r_bipush (q := 195) (v := (9 : Int32)) dX7_goatGoes_193 rfl (by decide) ?_
      refine r_icmp_ge (q := 198) (t := 206) dX7_goatGoes_195 rfl (by decide) (fun _ => ?_) (fun _ => ?_)
      · exact r_return rfl dX7_goatGoes_206
      · refine r_aload_n (q := 199) dX7_goatGoes_198 rfl rfl rfl ?_
        refine r_gR (q := 202) fl_X7_45 rfl dX7_goatGoes_199 rfl (fun x4 => ?_)
        refine r_iload_n (q := 203) dX7_goatGoes_202 rfl rfl rfl ?_
        refine r_iload (q := 205) dX7_goatGoes_203 rfl rfl ?_
        refine r_iastore (q := 206) dX7_goatGoes_205 rfl (fun σ5 => ?_)
        exact r_return rfl dX7_goatGoes_206
  · refine r_aload_n (q := 173) dX7_goatGoes_172 rfl rfl rfl ?_
    refine r_iload_n (q := 174) dX7_goatGoes_173 rfl rfl rfl ?_
    refine r_iload_n (q := 175) dX7_goatGoes_174 rfl rfl rfl ?_
    refine r_ob (fun a8 ha8 => ?_)
    obtain ⟨hea8, hka8⟩ := o_at_eq ha8
    cases hea8
    refine r_callV (q := 178) (c_X7_eats G h0 N _ _ _ _) (cl_V (ci := 6) rfl rfl (lw_V q2497 q2499 qs133 q176 q2500) (hd_X7_eats) ⟨Nat.le_of_ble_eq_true rfl, Nat.le_of_ble_eq_true rfl⟩ (List.mem_singleton.mp hka8) rfl rfl rfl (Nat.le_of_ble_eq_true rfl) dX7_goatGoes_175) rfl (fun u6 σ7 => ?_)
    exact r_return rfl dX7_goatGoes_178
theorem w_X7_goatGoes_b68 (G : Gx) (h0 : G0 G) (N : Nat)   (a0 : Nat) (l1 : Int32) (l2 : Int32) (l3 : Int32) (σ : Mem) : Runs G mX7_goatGoes rhoV σ 68 [some (vR (some a0)), some (vI l1), some (vI l2), some (vI l3), none, none, none] [] (f_X7_goatGoes_b68 N  a0 l1 l2 l3 σ) := by
  unfold f_X7_goatGoes_b68
  refine r_aload_n (q := 69) dX7_goatGoes_68 rfl rfl rfl ?_
  refine r_iload_n (q := 70) dX7_goatGoes_69 rfl rfl rfl ?_
  refine r_iload_n (q := 71) dX7_goatGoes_70 rfl rfl rfl ?_
  refine r_iload_n (q := 72) dX7_goatGoes_71 rfl rfl rfl ?_
  refine r_ob (fun a3 ha3 => ?_)
  obtain ⟨hea3, hka3⟩ := o_at_eq ha3
  cases hea3
  refine r_callI (q := 75) (c_X7_bestFor G h0 N _ _ _ _ _) (cl_V (ci := 6) rfl rfl (lw_V q2479 q2481 qs130 q176 q2482) (hd_X7_bestFor) ⟨Nat.le_of_ble_eq_true rfl, Nat.le_of_ble_eq_true rfl⟩ (List.mem_singleton.mp hka3) rfl rfl rfl (Nat.le_of_ble_eq_true rfl) dX7_goatGoes_72) rfl (fun x1 σ2 => ?_)
  refine r_istore (q := 77) dX7_goatGoes_75 rfl (Nat.le_of_ble_eq_true rfl) rfl ?_
  refine r_aload_n (q := 78) dX7_goatGoes_77 rfl rfl rfl ?_
  refine r_iload_n (q := 79) dX7_goatGoes_78 rfl rfl rfl ?_
  refine r_iload_n (q := 80) dX7_goatGoes_79 rfl rfl rfl ?_
  refine r_aload_n (q := 81) dX7_goatGoes_80 rfl rfl rfl ?_
  refine r_gR (q := 84) fl_X7_45 rfl dX7_goatGoes_81 rfl (fun x4 => ?_)
  refine r_iload_n (q := 85) dX7_goatGoes_84 rfl rfl rfl ?_
  refine r_iaload (q := 86) dX7_goatGoes_85 rfl (fun x5 => ?_)
  refine r_iload_n (q := 87) dX7_goatGoes_86 rfl rfl rfl ?_
  refine r_ob (fun a8 ha8 => ?_)
  obtain ⟨hea8, hka8⟩ := o_at_eq ha8
  cases hea8
  refine r_callI (q := 90) (c_X7_fears G h0 N _ _ _ _ _ _) (cl_V (ci := 6) rfl rfl (lw_V q2483 q2485 qs131 q176 q2486) (hd_X7_fears) ⟨Nat.le_of_ble_eq_true rfl, Nat.le_of_ble_eq_true rfl⟩ (List.mem_singleton.mp hka8) rfl rfl rfl (Nat.le_of_ble_eq_true rfl) dX7_goatGoes_87) rfl (fun x6 σ7 => ?_)
  refine r_if_eq (q := 93) (t := 119) dX7_goatGoes_90 rfl (by decide) (fun _ => ?_) (fun _ => ?_)
  · refine r_aload_n (q := 120) dX7_goatGoes_119 rfl rfl rfl ?_
    refine r_iload_n (q := 121) dX7_goatGoes_120 rfl rfl rfl ?_
    refine r_aload_n (q := 122) dX7_goatGoes_121 rfl rfl rfl ?_
    refine r_gR (q := 125) fl_X7_45 rfl dX7_goatGoes_122 rfl (fun x9 => ?_)
    refine r_iload_n (q := 126) dX7_goatGoes_125 rfl rfl rfl ?_
    refine r_iaload (q := 127) dX7_goatGoes_126 rfl (fun x10 => ?_)
    refine r_iload_n (q := 128) dX7_goatGoes_127 rfl rfl rfl ?_
    refine r_ob (fun a13 ha13 => ?_)
    obtain ⟨hea13, hka13⟩ := o_at_eq ha13
    cases hea13
    refine r_callI (q := 131) (c_X7_worth G h0 N _ _ _ _ _) (cl_V (ci := 6) rfl rfl (lw_V q2493 q2495 qs132 q176 q2496) (hd_X7_worth) ⟨Nat.le_of_ble_eq_true rfl, Nat.le_of_ble_eq_true rfl⟩ (List.mem_singleton.mp hka13) rfl rfl rfl (Nat.le_of_ble_eq_true rfl) dX7_goatGoes_128) rfl (fun x11 σ12 => ?_)
    refine r_istore (q := 133) dX7_goatGoes_131 rfl (Nat.le_of_ble_eq_true rfl) rfl ?_
    refine r_iload (q := 135) dX7_goatGoes_133 rfl rfl ?_
    refine r_if_ne (q := 138) (t := 139) dX7_goatGoes_135 rfl (by decide) (fun _ => ?_) (fun _ => ?_)
    · exact r_return rfl dX7_goatGoes_138
    · refine r_iload (q := 141) dX7_goatGoes_139 rfl rfl ?_
      refine r_iconst (q := 142) (v := (-1 : Int32)) dX7_goatGoes_141 rfl (by decide) ?_
      refine r_icmp_eq (q := 145) (t := 165) dX7_goatGoes_142 rfl (by decide) (fun _ => ?_) (fun _ => ?_)
      · exact r_le (w_X7_goatGoes_b165 G h0 N _ _ _ _ _ _) (Nat.le_refl _) (And.intro rfl (And.intro rfl (And.intro rfl (And.intro rfl (And.intro rfl trivial)))))
      · refine r_aload_n (q := 146) dX7_goatGoes_145 rfl rfl rfl ?_
        refine r_iload_n (q := 147) dX7_goatGoes_146 rfl rfl rfl ?_
        refine r_iload (q := 149) dX7_goatGoes_147 rfl rfl ?_
        refine r_iload_n (q := 150) dX7_goatGoes_149 rfl rfl rfl ?_
        refine r_ob (fun a16 ha16 => ?_)
        obtain ⟨hea16, hka16⟩ := o_at_eq ha16
        cases hea16
        refine r_callI (q := 153) (c_X7_worth G h0 N _ _ _ _ _) (cl_V (ci := 6) rfl rfl (lw_V q2493 q2495 qs132 q176 q2496) (hd_X7_worth) ⟨Nat.le_of_ble_eq_true rfl, Nat.le_of_ble_eq_true rfl⟩ (List.mem_singleton.mp hka16) rfl rfl rfl (Nat.le_of_ble_eq_true rfl) dX7_goatGoes_150) rfl (fun x14 σ15 => ?_)
        refine r_if_ne (q := 156) (t := 165) dX7_goatGoes_153 rfl (by decide) (fun _ => ?_) (fun _ => ?_)
        · refine r_aload_n (q := 157) dX7_goatGoes_156 rfl rfl rfl ?_
          refine r_gR (q := 160) fl_X7_45 rfl dX7_goatGoes_157 rfl (fun x17 => ?_)
          refine r_iload_n (q := 161) dX7_goatGoes_160 rfl rfl rfl ?_
          refine r_iload (q := 163) dX7_goatGoes_161 rfl rfl ?_
          refine r_iastore (q := 164) dX7_goatGoes_163 rfl (fun σ18 => ?_)
          exact r_return rfl dX7_goatGoes_164
        · exact r_le (w_X7_goatGoes_b165 G h0 N _ _ _ _ _ _) (Nat.le_refl _) (And.intro rfl (And.intro rfl (And.intro rfl (And.intro rfl (And.intro rfl trivial)))))
  · refine r_iload (q := 95) dX7_goatGoes_93 rfl rfl ?_
    refine r_iconst (q := 96) (v := (-1 : Int32)) dX7_goatGoes_95 rfl (by decide) ?_
    refine r_icmp_ne (q := 99) (t := 100) dX7_goatGoes_96 rfl (by decide) (fun _ => ?_) (fun _ => ?_)
    · exact r_return rfl dX7_goatGoes_99
    · refine r_aload_n (q := 101) dX7_goatGoes_100 rfl rfl rfl ?_
      refine r_gR (q := 104) fl_X7_45 rfl dX7_goatGoes_101 rfl (fun x19 => ?_)
      refine r_iload_n (q := 105) dX7_goatGoes_104 rfl rfl rfl ?_
      refine r_iload (q := 107) dX7_goatGoes_105 rfl rfl ?_
      refine r_iastore (q := 108) dX7_goatGoes_107 rfl (fun σ20 => ?_)
      refine r_aload_n (q := 109) dX7_goatGoes_108 rfl rfl rfl ?_
      refine r_gR (q := 112) fl_X7_42 rfl dX7_goatGoes_109 rfl (fun x21 => ?_)
      refine r_iload_n (q := 113) dX7_goatGoes_112 rfl rfl rfl ?_
      refine r_dup2 (q := 114) dX7_goatGoes_113 rfl rfl rfl ?_
      refine r_iaload (q := 115) dX7_goatGoes_114 rfl (fun x22 => ?_)
      refine r_iconst (q := 116) (v := (1 : Int32)) dX7_goatGoes_115 rfl (by decide) ?_
      refine r_iadd (q := 117) dX7_goatGoes_116 rfl ?_
      refine r_iastore (q := 118) dX7_goatGoes_117 rfl (fun σ23 => ?_)
      exact r_return rfl dX7_goatGoes_118
theorem c_X7_goatGoes (G : Gx) (h0 : G0 G) (N : Nat) (a0 : Nat) (i1 : Int32) (i2 : Int32) (i3 : Int32) (σ : Mem) : Ct G mX7_goatGoes rhoV [vR (some a0), vI i1, vI i2, vI i3] σ (f_X7_goatGoes N a0 i1 i2 i3 σ) := by
  refine Ct_of h0 (by decide) rfl (Nat.le_of_ble_eq_true rfl) (L0 := [some (vR (some a0)), some (vI i1), some (vI i2), some (vI i3), none, none, none]) rfl ?_
  unfold f_X7_goatGoes
  refine r_aload_n (q := 1) dX7_goatGoes_0 rfl rfl rfl ?_
  refine r_gR (q := 4) fl_X7_442 rfl dX7_goatGoes_1 rfl (fun x1 => ?_)
  refine r_gR (q := 7) fl_X7_350 rfl dX7_goatGoes_4 rfl (fun x2 => ?_)
  refine r_iload_n (q := 8) dX7_goatGoes_7 rfl rfl rfl ?_
  refine r_iaload (q := 9) dX7_goatGoes_8 rfl (fun x3 => ?_)
  refine r_istore (q := 11) dX7_goatGoes_9 rfl (Nat.le_of_ble_eq_true rfl) rfl ?_
  refine r_iload (q := 13) dX7_goatGoes_11 rfl rfl ?_
  refine r_bipush (q := 15) (v := (-2 : Int32)) dX7_goatGoes_13 rfl (by decide) ?_
  refine r_icmp_eq (q := 18) (t := 68) dX7_goatGoes_15 rfl (by decide) (fun _ => ?_) (fun _ => ?_)
  · exact r_le (w_X7_goatGoes_b68 G h0 N _ _ _ _ _) (Nat.le_refl _) (And.intro rfl (And.intro rfl (And.intro rfl (And.intro rfl trivial))))
  · refine r_aload_n (q := 19) dX7_goatGoes_18 rfl rfl rfl ?_
    refine r_gR (q := 22) fl_X7_45 rfl dX7_goatGoes_19 rfl (fun x4 => ?_)
    refine r_iload (q := 24) dX7_goatGoes_22 rfl rfl ?_
    refine r_iaload (q := 25) dX7_goatGoes_24 rfl (fun x5 => ?_)
    refine r_aload_n (q := 26) dX7_goatGoes_25 rfl rfl rfl ?_
    refine r_gR (q := 29) fl_X7_45 rfl dX7_goatGoes_26 rfl (fun x6 => ?_)
    refine r_iload_n (q := 30) dX7_goatGoes_29 rfl rfl rfl ?_
    refine r_iaload (q := 31) dX7_goatGoes_30 rfl (fun x7 => ?_)
    refine r_icmp_eq (q := 34) (t := 68) dX7_goatGoes_31 rfl (by decide) (fun _ => ?_) (fun _ => ?_)
    · exact r_le (w_X7_goatGoes_b68 G h0 N _ _ _ _ _) (Nat.le_refl _) (And.intro rfl (And.intro rfl (And.intro rfl (And.intro rfl trivial))))
    · refine r_aload_n (q := 35) dX7_goatGoes_34 rfl rfl rfl ?_
      refine r_aload_n (q := 36) dX7_goatGoes_35 rfl rfl rfl ?_
      refine r_gR (q := 39) fl_X7_45 rfl dX7_goatGoes_36 rfl (fun x8 => ?_)
      refine r_iload_n (q := 40) dX7_goatGoes_39 rfl rfl rfl ?_
      refine r_iaload (q := 41) dX7_goatGoes_40 rfl (fun x9 => ?_)
      refine r_aload_n (q := 42) dX7_goatGoes_41 rfl rfl rfl ?_
      refine r_gR (q := 45) fl_X7_45 rfl dX7_goatGoes_42 rfl (fun x10 => ?_)
      refine r_iload (q := 47) dX7_goatGoes_45 rfl rfl ?_
      refine r_iaload (q := 48) dX7_goatGoes_47 rfl (fun x11 => ?_)
      refine r_ob (fun a14 ha14 => ?_)
      obtain ⟨hea14, hka14⟩ := o_at_eq ha14
      cases hea14
      refine r_callI (q := 51) (c_X7_isOpen G h0 N _ _ _ _) (cl_V (ci := 6) rfl rfl (lw_V q2475 q2477 qs129 q176 q2478) (hd_X7_isOpen) ⟨Nat.le_of_ble_eq_true rfl, Nat.le_of_ble_eq_true rfl⟩ (List.mem_singleton.mp hka14) rfl rfl rfl (Nat.le_of_ble_eq_true rfl) dX7_goatGoes_48) rfl (fun x12 σ13 => ?_)
      refine r_if_eq (q := 54) (t := 68) dX7_goatGoes_51 rfl (by decide) (fun _ => ?_) (fun _ => ?_)
      · exact r_le (w_X7_goatGoes_b68 G h0 N _ _ _ _ _) (Nat.le_refl _) (And.intro rfl (And.intro rfl (And.intro rfl (And.intro rfl trivial))))
      · refine r_aload_n (q := 55) dX7_goatGoes_54 rfl rfl rfl ?_
        refine r_gR (q := 58) fl_X7_45 rfl dX7_goatGoes_55 rfl (fun x15 => ?_)
        refine r_iload_n (q := 59) dX7_goatGoes_58 rfl rfl rfl ?_
        refine r_aload_n (q := 60) dX7_goatGoes_59 rfl rfl rfl ?_
        refine r_gR (q := 63) fl_X7_45 rfl dX7_goatGoes_60 rfl (fun x16 => ?_)
        refine r_iload (q := 65) dX7_goatGoes_63 rfl rfl ?_
        refine r_iaload (q := 66) dX7_goatGoes_65 rfl (fun x17 => ?_)
        refine r_iastore (q := 67) dX7_goatGoes_66 rfl (fun σ18 => ?_)
        exact r_return rfl dX7_goatGoes_67
theorem w_X7_day_b106B (G : Gx) (h0 : G0 G) (N : Nat) (K93 : Nat → Int32 → Int32 → Mem → Option (Unit × Mem)) (hK93 : ∀ (a0 : Nat) (l1 : Int32) (l2 : Int32) (σ : Mem), Runs G mX7_day rhoV σ 93 [some (vR (some a0)), some (vI l1), some (vI l2), none] [] (K93 a0 l1 l2 σ)) (K106 : Nat → Int32 → Int32 → Int32 → Mem → Option (Unit × Mem)) (hK106 : ∀ (a0 : Nat) (l1 : Int32) (l2 : Int32) (l3 : Int32) (σ : Mem), Runs G mX7_day rhoV σ 106 [some (vR (some a0)), some (vI l1), some (vI l2), some (vI l3)] [] (K106 a0 l1 l2 l3 σ)) (a0 : Nat) (l1 : Int32) (l2 : Int32) (l3 : Int32) (σ : Mem) : Runs G mX7_day rhoV σ 106 [some (vR (some a0)), some (vI l1), some (vI l2), some (vI l3)] [] (f_X7_day_b106B N K93 K106 a0 l1 l2 l3 σ) := by
  unfold f_X7_day_b106B
  refine r_iload_n (q := 107) dX7_day_106 rfl rfl rfl ?_
  refine r_aload_n (q := 108) dX7_day_107 rfl rfl rfl ?_
  refine r_gR (q := 111) fl_X7_442 rfl dX7_day_108 rfl (fun x1 => ?_)
  refine r_gI (q := 114) fl_X7_328 dX7_day_111 rfl (fun x2 => ?_)
  refine r_icmp_ge (q := 117) (t := 147) dX7_day_114 rfl (by decide) (fun _ => ?_) (fun _ => ?_)
  · refine r_iinc (q := 150) (v := (1 : Int32)) dX7_day_147 rfl rfl (by decide) (Nat.le_of_ble_eq_true rfl) rfl ?_
    refine r_goto (q := 93) dX7_day_150 (by decide) ?_
    exact r_le (hK93 _ _ _ _) (Nat.le_refl _) (And.intro rfl (And.intro rfl (And.intro rfl trivial)))
  · refine r_aload_n (q := 118) dX7_day_117 rfl rfl rfl ?_
    refine r_iload_n (q := 119) dX7_day_118 rfl rfl rfl ?_
    refine r_iload_n (q := 120) dX7_day_119 rfl rfl rfl ?_
    refine r_iload_n (q := 121) dX7_day_120 rfl rfl rfl ?_
    refine r_ob (fun a5 ha5 => ?_)
    obtain ⟨hea5, hka5⟩ := o_at_eq ha5
    cases hea5
    refine r_callV (q := 124) (c_X7_goatGoes G h0 N _ _ _ _ _) (cl_V (ci := 6) rfl rfl (lw_V q2471 q2473 qs128 q176 q2474) (hd_X7_goatGoes) ⟨Nat.le_of_ble_eq_true rfl, Nat.le_of_ble_eq_true rfl⟩ (List.mem_singleton.mp hka5) rfl rfl rfl (Nat.le_of_ble_eq_true rfl) dX7_day_121) rfl (fun u3 σ4 => ?_)
    refine r_aload_n (q := 125) dX7_day_124 rfl rfl rfl ?_
    refine r_gR (q := 128) fl_X7_30 rfl dX7_day_125 rfl (fun x6 => ?_)
    refine r_bipush (q := 130) (v := (12 : Int32)) dX7_day_128 rfl (by decide) ?_
    refine r_iload_n (q := 131) dX7_day_130 rfl rfl rfl ?_
    refine r_imul (q := 132) dX7_day_131 rfl ?_
    refine r_iload_n (q := 133) dX7_day_132 rfl rfl rfl ?_
    refine r_iadd (q := 134) dX7_day_133 rfl ?_
    refine r_aload_n (q := 135) dX7_day_134 rfl rfl rfl ?_
    refine r_gR (q := 138) fl_X7_45 rfl dX7_day_135 rfl (fun x7 => ?_)
    refine r_iload_n (q := 139) dX7_day_138 rfl rfl rfl ?_
    refine r_iaload (q := 140) dX7_day_139 rfl (fun x8 => ?_)
    refine r_iastore (q := 141) dX7_day_140 rfl (fun σ9 => ?_)
    refine r_iinc (q := 144) (v := (1 : Int32)) dX7_day_141 rfl rfl (by decide) (Nat.le_of_ble_eq_true rfl) rfl ?_
    refine r_goto (q := 106) dX7_day_144 (by decide) ?_
    exact r_le (hK106 _ _ _ _ _) (Nat.le_refl _) (And.intro rfl (And.intro rfl (And.intro rfl (And.intro rfl trivial))))
theorem w_X7_day_b106 (G : Gx) (h0 : G0 G) (N : Nat) (K93 : Nat → Int32 → Int32 → Mem → Option (Unit × Mem)) (hK93 : ∀ (a0 : Nat) (l1 : Int32) (l2 : Int32) (σ : Mem), Runs G mX7_day rhoV σ 93 [some (vR (some a0)), some (vI l1), some (vI l2), none] [] (K93 a0 l1 l2 σ)) : ∀ (z : Nat) (a0 : Nat) (l1 : Int32) (l2 : Int32) (l3 : Int32) (σ : Mem), Runs G mX7_day rhoV σ 106 [some (vR (some a0)), some (vI l1), some (vI l2), some (vI l3)] [] (f_X7_day_b106 N K93 z a0 l1 l2 l3 σ) := by
  intro z
  induction z with
  | zero => exact fun _ _ _ _ _ => r_none
  | succ z ih => exact fun a0 l1 l2 l3 σ => w_X7_day_b106B G h0 N K93 hK93 _ ih a0 l1 l2 l3 σ
theorem w_X7_day_b93B (G : Gx) (h0 : G0 G) (N : Nat)   (K93 : Nat → Int32 → Int32 → Mem → Option (Unit × Mem)) (hK93 : ∀ (a0 : Nat) (l1 : Int32) (l2 : Int32) (σ : Mem), Runs G mX7_day rhoV σ 93 [some (vR (some a0)), some (vI l1), some (vI l2), none] [] (K93 a0 l1 l2 σ)) (a0 : Nat) (l1 : Int32) (l2 : Int32) (σ : Mem) : Runs G mX7_day rhoV σ 93 [some (vR (some a0)), some (vI l1), some (vI l2), none] [] (f_X7_day_b93B N  K93 a0 l1 l2 σ) := by
  unfold f_X7_day_b93B
  refine r_iload_n (q := 94) dX7_day_93 rfl rfl rfl ?_
  refine r_aload_n (q := 95) dX7_day_94 rfl rfl rfl ?_
  refine r_gR (q := 98) fl_X7_442 rfl dX7_day_95 rfl (fun x1 => ?_)
  refine r_gI (q := 101) fl_X7_196 dX7_day_98 rfl (fun x2 => ?_)
  refine r_icmp_ge (q := 104) (t := 153) dX7_day_101 rfl (by decide) (fun _ => ?_) (fun _ => ?_)
  · exact r_return rfl dX7_day_153
  · refine r_iconst (q := 105) (v := (0 : Int32)) dX7_day_104 rfl (by decide) ?_
    refine r_istore_n (q := 106) dX7_day_105 rfl rfl (Nat.le_of_ble_eq_true rfl) rfl ?_
    exact r_le (w_X7_day_b106 G h0 N K93 hK93 N _ _ _ _ _) (Nat.le_refl _) (And.intro rfl (And.intro rfl (And.intro rfl (And.intro rfl trivial))))
theorem w_X7_day_b93 (G : Gx) (h0 : G0 G) (N : Nat)   : ∀ (z : Nat) (a0 : Nat) (l1 : Int32) (l2 : Int32) (σ : Mem), Runs G mX7_day rhoV σ 93 [some (vR (some a0)), some (vI l1), some (vI l2), none] [] (f_X7_day_b93 N  z a0 l1 l2 σ) := by
  intro z
  induction z with
  | zero => exact fun _ _ _ _ => r_none
  | succ z ih => exact fun a0 l1 l2 σ => w_X7_day_b93B G h0 N   _ ih a0 l1 l2 σ
theorem w_X7_day_b61B (G : Gx) (h0 : G0 G) (N : Nat) (K31 : Nat → Int32 → Int32 → Mem → Option (Unit × Mem)) (hK31 : ∀ (a0 : Nat) (l1 : Int32) (l2 : Int32) (σ : Mem), Runs G mX7_day rhoV σ 31 [some (vR (some a0)), some (vI l1), some (vI l2), none] [] (K31 a0 l1 l2 σ)) (K61 : Nat → Int32 → Int32 → Int32 → Mem → Option (Unit × Mem)) (hK61 : ∀ (a0 : Nat) (l1 : Int32) (l2 : Int32) (l3 : Int32) (σ : Mem), Runs G mX7_day rhoV σ 61 [some (vR (some a0)), some (vI l1), some (vI l2), some (vI l3)] [] (K61 a0 l1 l2 l3 σ)) (a0 : Nat) (l1 : Int32) (l2 : Int32) (l3 : Int32) (σ : Mem) : Runs G mX7_day rhoV σ 61 [some (vR (some a0)), some (vI l1), some (vI l2), some (vI l3)] [] (f_X7_day_b61B N K31 K61 a0 l1 l2 l3 σ) := by
  unfold f_X7_day_b61B
  refine r_iload_n (q := 62) dX7_day_61 rfl rfl rfl ?_
  refine r_bipush (q := 64) (v := (12 : Int32)) dX7_day_62 rfl (by decide) ?_
  refine r_icmp_ge (q := 67) (t := 85) dX7_day_64 rfl (by decide) (fun _ => ?_) (fun _ => ?_)
  · refine r_iinc (q := 88) (v := (1 : Int32)) dX7_day_85 rfl rfl (by decide) (Nat.le_of_ble_eq_true rfl) rfl ?_
    refine r_goto (q := 31) dX7_day_88 (by decide) ?_
    exact r_le (hK31 _ _ _ _) (Nat.le_refl _) (And.intro rfl (And.intro rfl (And.intro rfl trivial)))
  · refine r_aload_n (q := 68) dX7_day_67 rfl rfl rfl ?_
    refine r_gR (q := 71) fl_X7_36 rfl dX7_day_68 rfl (fun x1 => ?_)
    refine r_bipush (q := 73) (v := (12 : Int32)) dX7_day_71 rfl (by decide) ?_
    refine r_iload_n (q := 74) dX7_day_73 rfl rfl rfl ?_
    refine r_imul (q := 75) dX7_day_74 rfl ?_
    refine r_iload_n (q := 76) dX7_day_75 rfl rfl rfl ?_
    refine r_iadd (q := 77) dX7_day_76 rfl ?_
    refine r_iconst (q := 78) (v := (0 : Int32)) dX7_day_77 rfl (by decide) ?_
    refine r_iastore (q := 79) dX7_day_78 rfl (fun σ2 => ?_)
    refine r_iinc (q := 82) (v := (1 : Int32)) dX7_day_79 rfl rfl (by decide) (Nat.le_of_ble_eq_true rfl) rfl ?_
    refine r_goto (q := 61) dX7_day_82 (by decide) ?_
    exact r_le (hK61 _ _ _ _ _) (Nat.le_refl _) (And.intro rfl (And.intro rfl (And.intro rfl (And.intro rfl trivial))))
theorem w_X7_day_b61 (G : Gx) (h0 : G0 G) (N : Nat) (K31 : Nat → Int32 → Int32 → Mem → Option (Unit × Mem)) (hK31 : ∀ (a0 : Nat) (l1 : Int32) (l2 : Int32) (σ : Mem), Runs G mX7_day rhoV σ 31 [some (vR (some a0)), some (vI l1), some (vI l2), none] [] (K31 a0 l1 l2 σ)) : ∀ (z : Nat) (a0 : Nat) (l1 : Int32) (l2 : Int32) (l3 : Int32) (σ : Mem), Runs G mX7_day rhoV σ 61 [some (vR (some a0)), some (vI l1), some (vI l2), some (vI l3)] [] (f_X7_day_b61 N K31 z a0 l1 l2 l3 σ) := by
  intro z
  induction z with
  | zero => exact fun _ _ _ _ _ => r_none
  | succ z ih => exact fun a0 l1 l2 l3 σ => w_X7_day_b61B G h0 N K31 hK31 _ ih a0 l1 l2 l3 σ
theorem w_X7_day_b31B (G : Gx) (h0 : G0 G) (N : Nat)   (K31 : Nat → Int32 → Int32 → Mem → Option (Unit × Mem)) (hK31 : ∀ (a0 : Nat) (l1 : Int32) (l2 : Int32) (σ : Mem), Runs G mX7_day rhoV σ 31 [some (vR (some a0)), some (vI l1), some (vI l2), none] [] (K31 a0 l1 l2 σ)) (a0 : Nat) (l1 : Int32) (l2 : Int32) (σ : Mem) : Runs G mX7_day rhoV σ 31 [some (vR (some a0)), some (vI l1), some (vI l2), none] [] (f_X7_day_b31B N  K31 a0 l1 l2 σ) := by
  unfold f_X7_day_b31B
  refine r_iload_n (q := 32) dX7_day_31 rfl rfl rfl ?_
  refine r_bipush (q := 34) (v := (6 : Int32)) dX7_day_32 rfl (by decide) ?_
  refine r_icmp_ge (q := 37) (t := 91) dX7_day_34 rfl (by decide) (fun _ => ?_) (fun _ => ?_)
  · refine r_iconst (q := 92) (v := (0 : Int32)) dX7_day_91 rfl (by decide) ?_
    refine r_istore_n (q := 93) dX7_day_92 rfl rfl (Nat.le_of_ble_eq_true rfl) rfl ?_
    exact r_le (w_X7_day_b93 G h0 N N _ _ _ _) (Nat.le_refl _) (And.intro rfl (And.intro rfl (And.intro rfl trivial)))
  · refine r_aload_n (q := 38) dX7_day_37 rfl rfl rfl ?_
    refine r_gR (q := 41) fl_X7_42 rfl dX7_day_38 rfl (fun x1 => ?_)
    refine r_iload_n (q := 42) dX7_day_41 rfl rfl rfl ?_
    refine r_iconst (q := 43) (v := (0 : Int32)) dX7_day_42 rfl (by decide) ?_
    refine r_iastore (q := 44) dX7_day_43 rfl (fun σ2 => ?_)
    refine r_aload_n (q := 45) dX7_day_44 rfl rfl rfl ?_
    refine r_gR (q := 48) fl_X7_45 rfl dX7_day_45 rfl (fun x3 => ?_)
    refine r_iload_n (q := 49) dX7_day_48 rfl rfl rfl ?_
    refine r_aload_n (q := 50) dX7_day_49 rfl rfl rfl ?_
    refine r_gR (q := 53) fl_X7_442 rfl dX7_day_50 rfl (fun x4 => ?_)
    refine r_gR (q := 56) fl_X7_356 rfl dX7_day_53 rfl (fun x5 => ?_)
    refine r_iload_n (q := 57) dX7_day_56 rfl rfl rfl ?_
    refine r_iaload (q := 58) dX7_day_57 rfl (fun x6 => ?_)
    refine r_iastore (q := 59) dX7_day_58 rfl (fun σ7 => ?_)
    refine r_iconst (q := 60) (v := (0 : Int32)) dX7_day_59 rfl (by decide) ?_
    refine r_istore_n (q := 61) dX7_day_60 rfl rfl (Nat.le_of_ble_eq_true rfl) rfl ?_
    exact r_le (w_X7_day_b61 G h0 N K31 hK31 N _ _ _ _ _) (Nat.le_refl _) (And.intro rfl (And.intro rfl (And.intro rfl (And.intro rfl trivial))))
theorem w_X7_day_b31 (G : Gx) (h0 : G0 G) (N : Nat)   : ∀ (z : Nat) (a0 : Nat) (l1 : Int32) (l2 : Int32) (σ : Mem), Runs G mX7_day rhoV σ 31 [some (vR (some a0)), some (vI l1), some (vI l2), none] [] (f_X7_day_b31 N  z a0 l1 l2 σ) := by
  intro z
  induction z with
  | zero => exact fun _ _ _ _ => r_none
  | succ z ih => exact fun a0 l1 l2 σ => w_X7_day_b31B G h0 N   _ ih a0 l1 l2 σ
theorem w_X7_day_b2B (G : Gx) (h0 : G0 G) (N : Nat)   (K2 : Nat → Int32 → Int32 → Mem → Option (Unit × Mem)) (hK2 : ∀ (a0 : Nat) (l1 : Int32) (l2 : Int32) (σ : Mem), Runs G mX7_day rhoV σ 2 [some (vR (some a0)), some (vI l1), some (vI l2), none] [] (K2 a0 l1 l2 σ)) (a0 : Nat) (l1 : Int32) (l2 : Int32) (σ : Mem) : Runs G mX7_day rhoV σ 2 [some (vR (some a0)), some (vI l1), some (vI l2), none] [] (f_X7_day_b2B N  K2 a0 l1 l2 σ) := by
  unfold f_X7_day_b2B
  refine r_iload_n (q := 3) dX7_day_2 rfl rfl rfl ?_
  refine r_bipush (q := 5) (v := (32 : Int32)) dX7_day_3 rfl (by decide) ?_
  refine r_icmp_ge (q := 8) (t := 29) dX7_day_5 rfl (by decide) (fun _ => ?_) (fun _ => ?_)
  · refine r_iconst (q := 30) (v := (0 : Int32)) dX7_day_29 rfl (by decide) ?_
    refine r_istore_n (q := 31) dX7_day_30 rfl rfl (Nat.le_of_ble_eq_true rfl) rfl ?_
    exact r_le (w_X7_day_b31 G h0 N N _ _ _ _) (Nat.le_refl _) (And.intro rfl (And.intro rfl (And.intro rfl trivial)))
  · refine r_aload_n (q := 9) dX7_day_8 rfl rfl rfl ?_
    refine r_gR (q := 12) fl_X7_39 rfl dX7_day_9 rfl (fun x1 => ?_)
    refine r_iload_n (q := 13) dX7_day_12 rfl rfl rfl ?_
    refine r_aload_n (q := 14) dX7_day_13 rfl rfl rfl ?_
    refine r_gR (q := 17) fl_X7_442 rfl dX7_day_14 rfl (fun x2 => ?_)
    refine r_gR (q := 20) fl_X7_296 rfl dX7_day_17 rfl (fun x3 => ?_)
    refine r_iload_n (q := 21) dX7_day_20 rfl rfl rfl ?_
    refine r_iaload (q := 22) dX7_day_21 rfl (fun x4 => ?_)
    refine r_iastore (q := 23) dX7_day_22 rfl (fun σ5 => ?_)
    refine r_iinc (q := 26) (v := (1 : Int32)) dX7_day_23 rfl rfl (by decide) (Nat.le_of_ble_eq_true rfl) rfl ?_
    refine r_goto (q := 2) dX7_day_26 (by decide) ?_
    exact r_le (hK2 _ _ _ _) (Nat.le_refl _) (And.intro rfl (And.intro rfl (And.intro rfl trivial)))
theorem w_X7_day_b2 (G : Gx) (h0 : G0 G) (N : Nat)   : ∀ (z : Nat) (a0 : Nat) (l1 : Int32) (l2 : Int32) (σ : Mem), Runs G mX7_day rhoV σ 2 [some (vR (some a0)), some (vI l1), some (vI l2), none] [] (f_X7_day_b2 N  z a0 l1 l2 σ) := by
  intro z
  induction z with
  | zero => exact fun _ _ _ _ => r_none
  | succ z ih => exact fun a0 l1 l2 σ => w_X7_day_b2B G h0 N   _ ih a0 l1 l2 σ
theorem c_X7_day (G : Gx) (h0 : G0 G) (N : Nat) (a0 : Nat) (i1 : Int32) (σ : Mem) : Ct G mX7_day rhoV [vR (some a0), vI i1] σ (f_X7_day N a0 i1 σ) := by
  refine Ct_of h0 (by decide) rfl (Nat.le_of_ble_eq_true rfl) (L0 := [some (vR (some a0)), some (vI i1), none, none]) rfl ?_
  unfold f_X7_day
  refine r_iconst (q := 1) (v := (0 : Int32)) dX7_day_0 rfl (by decide) ?_
  refine r_istore_n (q := 2) dX7_day_1 rfl rfl (Nat.le_of_ble_eq_true rfl) rfl ?_
  exact r_le (w_X7_day_b2 G h0 N N _ _ _ _) (Nat.le_refl _) (And.intro rfl (And.intro rfl (And.intro rfl trivial)))
theorem w_X7_at_b21 (G : Gx) (h0 : G0 G) (N : Nat)   (a0 : Nat) (σ : Mem) : Runs G mX7_at rhoI σ 21 [some (vR (some a0)), none, none, none] [] (f_X7_at_b21 N  a0 σ) := by
  unfold f_X7_at_b21
  refine r_aload_n (q := 22) dX7_at_21 rfl rfl rfl ?_
  refine r_iconst (q := 23) (v := (1 : Int32)) dX7_at_22 rfl (by decide) ?_
  refine r_ob (fun a3 ha3 => ?_)
  obtain ⟨hea3, hka3⟩ := o_at_eq ha3
  cases hea3
  refine r_callI (q := 26) (c_X7_refused G h0 N _ _ _) (cl_V (ci := 6) rfl rfl (lw_V q2019 q2021 qs83 q176 q2022) (hd_X7_refused) ⟨Nat.le_of_ble_eq_true rfl, Nat.le_of_ble_eq_true rfl⟩ (List.mem_singleton.mp hka3) rfl rfl rfl (Nat.le_of_ble_eq_true rfl) dX7_at_23) rfl (fun x1 σ2 => ?_)
  exact r_ireturn rfl rfl dX7_at_26
theorem c_X7_at (G : Gx) (h0 : G0 G) (N : Nat) (a0 : Nat) (i1 : Int32) (i2 : Int32) (i3 : Int32) (σ : Mem) : Ct G mX7_at rhoI [vR (some a0), vI i1, vI i2, vI i3] σ (f_X7_at N a0 i1 i2 i3 σ) := by
  refine Ct_of h0 (by decide) rfl (Nat.le_of_ble_eq_true rfl) (L0 := [some (vR (some a0)), some (vI i1), some (vI i2), some (vI i3)]) rfl ?_
  unfold f_X7_at
  refine r_aload_n (q := 1) dX7_at_0 rfl rfl rfl ?_
  refine r_iconst (q := 2) (v := (0 : Int32)) dX7_at_1 rfl (by decide) ?_
  refine r_pI (q := 5) fp_X7_at_66 dX7_at_2 rfl (fun σ1 => ?_)
  refine r_aload_n (q := 6) dX7_at_5 rfl rfl rfl ?_
  refine r_iload_n (q := 7) dX7_at_6 rfl rfl rfl ?_
  refine r_ob (fun a4 ha4 => ?_)
  obtain ⟨hea4, hka4⟩ := o_at_eq ha4
  cases hea4
  refine r_callI (q := 10) (c_X7_isCase G h0 N _ _ _) (cl_V (ci := 6) rfl rfl (lw_V q2455 q2457 qs126 q176 q2458) (hd_X7_isCase) ⟨Nat.le_of_ble_eq_true rfl, Nat.le_of_ble_eq_true rfl⟩ (List.mem_singleton.mp hka4) rfl rfl rfl (Nat.le_of_ble_eq_true rfl) dX7_at_7) rfl (fun x2 σ3 => ?_)
  refine r_if_eq (q := 13) (t := 21) dX7_at_10 rfl (by decide) (fun _ => ?_) (fun _ => ?_)
  · exact r_le (w_X7_at_b21 G h0 N _ _) (Nat.le_refl _) (And.intro rfl trivial)
  · refine r_aload_n (q := 14) dX7_at_13 rfl rfl rfl ?_
    refine r_iload_n (q := 15) dX7_at_14 rfl rfl rfl ?_
    refine r_ob (fun a7 ha7 => ?_)
    obtain ⟨hea7, hka7⟩ := o_at_eq ha7
    cases hea7
    refine r_callI (q := 18) (c_X7_isGoat G h0 N _ _ _) (cl_V (ci := 6) rfl rfl (lw_V q2411 q2413 qs121 q176 q2414) (hd_X7_isGoat) ⟨Nat.le_of_ble_eq_true rfl, Nat.le_of_ble_eq_true rfl⟩ (List.mem_singleton.mp hka7) rfl rfl rfl (Nat.le_of_ble_eq_true rfl) dX7_at_15) rfl (fun x5 σ6 => ?_)
    refine r_if_ne (q := 21) (t := 27) dX7_at_18 rfl (by decide) (fun _ => ?_) (fun _ => ?_)
    · exact r_le (w_X7_at_b21 G h0 N _ _) (Nat.le_refl _) (And.intro rfl trivial)
    · refine r_aload_n (q := 28) dX7_at_27 rfl rfl rfl ?_
      refine r_iload_n (q := 29) dX7_at_28 rfl rfl rfl ?_
      refine r_ob (fun a10 ha10 => ?_)
      obtain ⟨hea10, hka10⟩ := o_at_eq ha10
      cases hea10
      refine r_callI (q := 32) (c_X7_isHour G h0 N _ _ _) (cl_V (ci := 6) rfl rfl (lw_V q2439 q2441 qs125 q176 q2442) (hd_X7_isHour) ⟨Nat.le_of_ble_eq_true rfl, Nat.le_of_ble_eq_true rfl⟩ (List.mem_singleton.mp hka10) rfl rfl rfl (Nat.le_of_ble_eq_true rfl) dX7_at_29) rfl (fun x8 σ9 => ?_)
      refine r_if_ne (q := 35) (t := 41) dX7_at_32 rfl (by decide) (fun _ => ?_) (fun _ => ?_)
      · refine r_aload_n (q := 36) dX7_at_35 rfl rfl rfl ?_
        refine r_iconst (q := 37) (v := (2 : Int32)) dX7_at_36 rfl (by decide) ?_
        refine r_ob (fun a21 ha21 => ?_)
        obtain ⟨hea21, hka21⟩ := o_at_eq ha21
        cases hea21
        refine r_callI (q := 40) (c_X7_refused G h0 N _ _ _) (cl_V (ci := 6) rfl rfl (lw_V q2019 q2021 qs83 q176 q2022) (hd_X7_refused) ⟨Nat.le_of_ble_eq_true rfl, Nat.le_of_ble_eq_true rfl⟩ (List.mem_singleton.mp hka21) rfl rfl rfl (Nat.le_of_ble_eq_true rfl) dX7_at_37) rfl (fun x19 σ20 => ?_)
        exact r_ireturn rfl rfl dX7_at_40
      · refine r_aload_n (q := 42) dX7_at_41 rfl rfl rfl ?_
        refine r_iload_n (q := 43) dX7_at_42 rfl rfl rfl ?_
        refine r_ob (fun a13 ha13 => ?_)
        obtain ⟨hea13, hka13⟩ := o_at_eq ha13
        cases hea13
        refine r_callV (q := 46) (c_X7_day G h0 N _ _ _) (cl_V (ci := 6) rfl rfl (lw_V q2467 q2469 qs127 q176 q2470) (hd_X7_day) ⟨Nat.le_of_ble_eq_true rfl, Nat.le_of_ble_eq_true rfl⟩ (List.mem_singleton.mp hka13) rfl rfl rfl (Nat.le_of_ble_eq_true rfl) dX7_at_43) rfl (fun u11 σ12 => ?_)
        refine r_aload_n (q := 47) dX7_at_46 rfl rfl rfl ?_
        refine r_aload_n (q := 48) dX7_at_47 rfl rfl rfl ?_
        refine r_gR (q := 51) fl_X7_30 rfl dX7_at_48 rfl (fun x14 => ?_)
        refine r_bipush (q := 53) (v := (12 : Int32)) dX7_at_51 rfl (by decide) ?_
        refine r_iload_n (q := 54) dX7_at_53 rfl rfl rfl ?_
        refine r_imul (q := 55) dX7_at_54 rfl ?_
        refine r_iload_n (q := 56) dX7_at_55 rfl rfl rfl ?_
        refine r_iadd (q := 57) dX7_at_56 rfl ?_
        refine r_iaload (q := 58) dX7_at_57 rfl (fun x15 => ?_)
        refine r_ob (fun a18 ha18 => ?_)
        obtain ⟨hea18, hka18⟩ := o_at_eq ha18
        cases hea18
        refine r_callI (q := 61) (c_X7_good G h0 N _ _ _) (cl_V (ci := 6) rfl rfl (lw_V q2379 q2381 qs118 q176 q2382) (hd_X7_good) ⟨Nat.le_of_ble_eq_true rfl, Nat.le_of_ble_eq_true rfl⟩ (List.mem_singleton.mp hka18) rfl rfl rfl (Nat.le_of_ble_eq_true rfl) dX7_at_58) rfl (fun x16 σ17 => ?_)
        exact r_ireturn rfl rfl dX7_at_61
theorem w_X5_ate_b50 (G : Gx) (h0 : G0 G) (N : Nat) (K5 : Nat → Int32 → Int32 → Int32 → Int32 → Mem → Option (Int32 × Mem)) (hK5 : ∀ (a0 : Nat) (l1 : Int32) (l2 : Int32) (l3 : Int32) (l4 : Int32) (σ : Mem), Runs G mX5_ate rhoI σ 5 [some (vR (some a0)), some (vI l1), some (vI l2), some (vI l3), some (vI l4)] [] (K5 a0 l1 l2 l3 l4 σ)) (a0 : Nat) (l1 : Int32) (l2 : Int32) (l4 : Int32) (t0 : Int32) (t1 : Int32) (σ : Mem) : Runs G mX5_ate rhoI σ 50 [some (vR (some a0)), some (vI l1), some (vI l2), none, some (vI l4)] [vI t1, vI t0] (f_X5_ate_b50 N K5 a0 l1 l2 l4 t0 t1 σ) := by
  unfold f_X5_ate_b50
  refine r_iadd (q := 51) dX5_ate_50 rfl ?_
  refine r_istore_n (q := 52) dX5_ate_51 rfl rfl (Nat.le_of_ble_eq_true rfl) rfl ?_
  refine r_iinc (q := 55) (v := (1 : Int32)) dX5_ate_52 rfl rfl (by decide) (Nat.le_of_ble_eq_true rfl) rfl ?_
  refine r_goto (q := 5) dX5_ate_55 (by decide) ?_
  exact r_le (hK5 _ _ _ _ _ _) (Nat.le_refl _) (And.intro rfl (And.intro rfl (And.intro rfl (And.intro rfl (And.intro rfl trivial)))))
theorem w_X5_ate_b5B (G : Gx) (h0 : G0 G) (N : Nat)   (K5 : Nat → Int32 → Int32 → Int32 → Int32 → Mem → Option (Int32 × Mem)) (hK5 : ∀ (a0 : Nat) (l1 : Int32) (l2 : Int32) (l3 : Int32) (l4 : Int32) (σ : Mem), Runs G mX5_ate rhoI σ 5 [some (vR (some a0)), some (vI l1), some (vI l2), some (vI l3), some (vI l4)] [] (K5 a0 l1 l2 l3 l4 σ)) (a0 : Nat) (l1 : Int32) (l2 : Int32) (l3 : Int32) (l4 : Int32) (σ : Mem) : Runs G mX5_ate rhoI σ 5 [some (vR (some a0)), some (vI l1), some (vI l2), some (vI l3), some (vI l4)] [] (f_X5_ate_b5B N  K5 a0 l1 l2 l3 l4 σ) := by
  unfold f_X5_ate_b5B
  refine r_iload (q := 7) dX5_ate_5 rfl rfl ?_
  refine r_aload_n (q := 8) dX5_ate_7 rfl rfl rfl ?_
  refine r_gR (q := 11) fl_X5_33 rfl dX5_ate_8 rfl (fun x1 => ?_)
  refine r_gI (q := 14) fl_X5_77 dX5_ate_11 rfl (fun x2 => ?_)
  refine r_icmp_ge (q := 17) (t := 58) dX5_ate_14 rfl (by decide) (fun _ => ?_) (fun _ => ?_)
  · refine r_iload_n (q := 59) dX5_ate_58 rfl rfl rfl ?_
    exact r_ireturn rfl rfl dX5_ate_59
  · refine r_iload_n (q := 18) dX5_ate_17 rfl rfl rfl ?_
    refine r_aload_n (q := 19) dX5_ate_18 rfl rfl rfl ?_
    refine r_gR (q := 22) fl_X5_21 rfl dX5_ate_19 rfl (fun x3 => ?_)
    refine r_bipush (q := 24) (v := (12 : Int32)) dX5_ate_22 rfl (by decide) ?_
    refine r_iload_n (q := 25) dX5_ate_24 rfl rfl rfl ?_
    refine r_imul (q := 26) dX5_ate_25 rfl ?_
    refine r_iload (q := 28) dX5_ate_26 rfl rfl ?_
    refine r_iadd (q := 29) dX5_ate_28 rfl ?_
    refine r_iaload (q := 30) dX5_ate_29 rfl (fun x4 => ?_)
    refine r_iload_n (q := 31) dX5_ate_30 rfl rfl rfl ?_
    refine r_icmp_ne (q := 34) (t := 49) dX5_ate_31 rfl (by decide) (fun _ => ?_) (fun _ => ?_)
    · refine r_aload_n (q := 35) dX5_ate_34 rfl rfl rfl ?_
      refine r_gR (q := 38) fl_X5_24 rfl dX5_ate_35 rfl (fun x5 => ?_)
      refine r_bipush (q := 40) (v := (12 : Int32)) dX5_ate_38 rfl (by decide) ?_
      refine r_iload_n (q := 41) dX5_ate_40 rfl rfl rfl ?_
      refine r_imul (q := 42) dX5_ate_41 rfl ?_
      refine r_iload (q := 44) dX5_ate_42 rfl rfl ?_
      refine r_iadd (q := 45) dX5_ate_44 rfl ?_
      refine r_iaload (q := 46) dX5_ate_45 rfl (fun x6 => ?_)
      refine r_goto (q := 50) dX5_ate_46 (by decide) ?_
      exact r_le (w_X5_ate_b50 G h0 N K5 hK5 _ _ _ _ _ _ _) (Nat.le_refl _) (And.intro rfl (And.intro rfl (And.intro rfl (And.intro rfl trivial))))
    · refine r_iconst (q := 50) (v := (0 : Int32)) dX5_ate_49 rfl (by decide) ?_
      exact r_le (w_X5_ate_b50 G h0 N K5 hK5 _ _ _ _ _ _ _) (Nat.le_refl _) (And.intro rfl (And.intro rfl (And.intro rfl (And.intro rfl trivial))))
theorem w_X5_ate_b5 (G : Gx) (h0 : G0 G) (N : Nat)   : ∀ (z : Nat) (a0 : Nat) (l1 : Int32) (l2 : Int32) (l3 : Int32) (l4 : Int32) (σ : Mem), Runs G mX5_ate rhoI σ 5 [some (vR (some a0)), some (vI l1), some (vI l2), some (vI l3), some (vI l4)] [] (f_X5_ate_b5 N  z a0 l1 l2 l3 l4 σ) := by
  intro z
  induction z with
  | zero => exact fun _ _ _ _ _ _ => r_none
  | succ z ih => exact fun a0 l1 l2 l3 l4 σ => w_X5_ate_b5B G h0 N   _ ih a0 l1 l2 l3 l4 σ
theorem c_X5_ate (G : Gx) (h0 : G0 G) (N : Nat) (a0 : Nat) (i1 : Int32) (i2 : Int32) (σ : Mem) : Ct G mX5_ate rhoI [vR (some a0), vI i1, vI i2] σ (f_X5_ate N a0 i1 i2 σ) := by
  refine Ct_of h0 (by decide) rfl (Nat.le_of_ble_eq_true rfl) (L0 := [some (vR (some a0)), some (vI i1), some (vI i2), none, none]) rfl ?_
  unfold f_X5_ate
  refine r_iconst (q := 1) (v := (0 : Int32)) dX5_ate_0 rfl (by decide) ?_
  refine r_istore_n (q := 2) dX5_ate_1 rfl rfl (Nat.le_of_ble_eq_true rfl) rfl ?_
  refine r_iconst (q := 3) (v := (0 : Int32)) dX5_ate_2 rfl (by decide) ?_
  refine r_istore (q := 5) dX5_ate_3 rfl (Nat.le_of_ble_eq_true rfl) rfl ?_
  exact r_le (w_X5_ate_b5 G h0 N N _ _ _ _ _ _) (Nat.le_refl _) (And.intro rfl (And.intro rfl (And.intro rfl (And.intro rfl (And.intro rfl trivial)))))
theorem w_X1_ate_b28 (G : Gx) (h0 : G0 G) (N : Nat)   (a0 : Nat) (σ : Mem) : Runs G mX1_ate rhoI σ 28 [some (vR (some a0)), none, none, none] [] (f_X1_ate_b28 N  a0 σ) := by
  unfold f_X1_ate_b28
  refine r_aload_n (q := 29) dX1_ate_28 rfl rfl rfl ?_
  refine r_iconst (q := 30) (v := (1 : Int32)) dX1_ate_29 rfl (by decide) ?_
  refine r_ob (fun a3 ha3 => ?_)
  obtain ⟨hea3, hka3⟩ := o_at_eq ha3
  cases hea3
  refine r_callI (q := 33) (c_X1_no G h0 N _ _ _) (cl_V (ci := 0) rfl rfl (lw_V q492 q494 qs3 q167 q495) (hd_X1_no) ⟨Nat.le_of_ble_eq_true rfl, Nat.le_of_ble_eq_true rfl⟩ (List.mem_singleton.mp hka3) rfl rfl rfl (Nat.le_of_ble_eq_true rfl) dX1_ate_30) rfl (fun x1 σ2 => ?_)
  exact r_ireturn rfl rfl dX1_ate_33
theorem c_X1_ate (G : Gx) (h0 : G0 G) (N : Nat) (a0 : Nat) (i1 : Int32) (i2 : Int32) (i3 : Int32) (σ : Mem) : Ct G mX1_ate rhoI [vR (some a0), vI i1, vI i2, vI i3] σ (f_X1_ate N a0 i1 i2 i3 σ) := by
  refine Ct_of h0 (by decide) rfl (Nat.le_of_ble_eq_true rfl) (L0 := [some (vR (some a0)), some (vI i1), some (vI i2), some (vI i3)]) rfl ?_
  unfold f_X1_ate
  refine r_aload_n (q := 1) dX1_ate_0 rfl rfl rfl ?_
  refine r_ob (fun a3 ha3 => ?_)
  obtain ⟨hea3, hka3⟩ := o_at_eq ha3
  cases hea3
  refine r_callV (q := 4) (c_X1_anew G h0 N _ _) (cl_V (ci := 0) rfl rfl (lw_V q485 q487 qs2 q167 q488) (hd_X1_anew) ⟨Nat.le_of_ble_eq_true rfl, Nat.le_of_ble_eq_true rfl⟩ (List.mem_singleton.mp hka3) rfl rfl rfl (Nat.le_of_ble_eq_true rfl) dX1_ate_1) rfl (fun u1 σ2 => ?_)
  refine r_aload_n (q := 5) dX1_ate_4 rfl rfl rfl ?_
  refine r_iload_n (q := 6) dX1_ate_5 rfl rfl rfl ?_
  refine r_ob (fun a6 ha6 => ?_)
  obtain ⟨hea6, hka6⟩ := o_at_eq ha6
  cases hea6
  refine r_callI (q := 9) (c_X1_isCase G h0 N _ _ _) (cl_V (ci := 0) rfl rfl (lw_V q1416 q1418 qs50 q167 q1419) (hd_X1_isCase) ⟨Nat.le_of_ble_eq_true rfl, Nat.le_of_ble_eq_true rfl⟩ (List.mem_singleton.mp hka6) rfl rfl rfl (Nat.le_of_ble_eq_true rfl) dX1_ate_6) rfl (fun x4 σ5 => ?_)
  refine r_if_eq (q := 12) (t := 28) dX1_ate_9 rfl (by decide) (fun _ => ?_) (fun _ => ?_)
  · exact r_le (w_X1_ate_b28 G h0 N _ _) (Nat.le_refl _) (And.intro rfl trivial)
  · refine r_aload_n (q := 13) dX1_ate_12 rfl rfl rfl ?_
    refine r_iload_n (q := 14) dX1_ate_13 rfl rfl rfl ?_
    refine r_ob (fun a9 ha9 => ?_)
    obtain ⟨hea9, hka9⟩ := o_at_eq ha9
    cases hea9
    refine r_callI (q := 17) (c_X1_isGoat G h0 N _ _ _) (cl_V (ci := 0) rfl rfl (lw_V q1331 q1333 qs45 q167 q1334) (hd_X1_isGoat) ⟨Nat.le_of_ble_eq_true rfl, Nat.le_of_ble_eq_true rfl⟩ (List.mem_singleton.mp hka9) rfl rfl rfl (Nat.le_of_ble_eq_true rfl) dX1_ate_14) rfl (fun x7 σ8 => ?_)
    refine r_if_eq (q := 20) (t := 28) dX1_ate_17 rfl (by decide) (fun _ => ?_) (fun _ => ?_)
    · exact r_le (w_X1_ate_b28 G h0 N _ _) (Nat.le_refl _) (And.intro rfl trivial)
    · refine r_aload_n (q := 21) dX1_ate_20 rfl rfl rfl ?_
      refine r_iload_n (q := 22) dX1_ate_21 rfl rfl rfl ?_
      refine r_ob (fun a12 ha12 => ?_)
      obtain ⟨hea12, hka12⟩ := o_at_eq ha12
      cases hea12
      refine r_callI (q := 25) (c_X1_isPlant G h0 N _ _ _) (cl_V (ci := 0) rfl rfl (lw_V q1319 q1321 qs44 q167 q1322) (hd_X1_isPlant) ⟨Nat.le_of_ble_eq_true rfl, Nat.le_of_ble_eq_true rfl⟩ (List.mem_singleton.mp hka12) rfl rfl rfl (Nat.le_of_ble_eq_true rfl) dX1_ate_22) rfl (fun x10 σ11 => ?_)
      refine r_if_ne (q := 28) (t := 34) dX1_ate_25 rfl (by decide) (fun _ => ?_) (fun _ => ?_)
      · exact r_le (w_X1_ate_b28 G h0 N _ _) (Nat.le_refl _) (And.intro rfl trivial)
      · refine r_aload_n (q := 35) dX1_ate_34 rfl rfl rfl ?_
        refine r_iload_n (q := 36) dX1_ate_35 rfl rfl rfl ?_
        refine r_ob (fun a15 ha15 => ?_)
        obtain ⟨hea15, hka15⟩ := o_at_eq ha15
        cases hea15
        refine r_callV (q := 39) (c_X1_run G h0 N _ _ _) (cl_V (ci := 0) rfl rfl (lw_V q1428 q1430 qs51 q167 q1431) (hd_X1_run) ⟨Nat.le_of_ble_eq_true rfl, Nat.le_of_ble_eq_true rfl⟩ (List.mem_singleton.mp hka15) rfl rfl rfl (Nat.le_of_ble_eq_true rfl) dX1_ate_36) rfl (fun u13 σ14 => ?_)
        refine r_aload_n (q := 40) dX1_ate_39 rfl rfl rfl ?_
        refine r_gR (q := 43) fl_X1_46 rfl dX1_ate_40 rfl (fun x16 => ?_)
        refine r_iload_n (q := 44) dX1_ate_43 rfl rfl rfl ?_
        refine r_iload_n (q := 45) dX1_ate_44 rfl rfl rfl ?_
        refine r_ob (fun a19 ha19 => ?_)
        obtain ⟨hea19, hka19⟩ := o_at_eq ha19
        cases hea19
        refine r_callI (q := 48) (c_X5_ate G h0 N _ _ _ _) (cl_V (ci := 4) rfl rfl (lw_V q1520 q1521 q1522 q174 q1523) (hd_X5_ate) ⟨Nat.le_of_ble_eq_true rfl, Nat.le_of_ble_eq_true rfl⟩ (List.mem_singleton.mp hka19) rfl rfl rfl (Nat.le_of_ble_eq_true rfl) dX1_ate_45) rfl (fun x17 σ18 => ?_)
        exact r_ireturn rfl rfl dX1_ate_48
