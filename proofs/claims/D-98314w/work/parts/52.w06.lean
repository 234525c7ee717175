/-! the walks of X7_goat X1_likes X7_likes X1_isClue X18_sort X19_sort X20_sort X1_clue X7_isClue X7_clue X1_isPerson X1_isHour X11_at X1_story X7_isPerson X7_isHour X24_place X7_story X1_stories X7_stories X1_isCase X8_storyOf X1_caseOf X7_isCase X24_storyOf X7_caseOf X5_layPeople X5_isOpen X4_isPut X12_fearsAt X14_fearsAt X15_fearsAt X5_isFeared X5_canGo X12_rank X5_worth X5_bestOf X12_bites X15_bites X5_eats -/
set_option maxRecDepth 100000
def dkwX7_goat_8 : List UInt8 := [29, 182, 0, 76, 172, 42, 42, 27, 182, 1, 244, 153, 0, 7, 4, 167, 0, 4, 3, 182, 0, 76, 172]
abbrev dktX7_goat_8 : List UInt8 := dkwX7_goat_8 ++ []
def dkwX7_goat_7 : List UInt8 := [180, 1, 103, 27, 46, 182, 0, 76, 172, 42, 42, 180, 1, 186, 180, 1, 107, 27, 46, 182, 0, 76, 172, 42]
abbrev dktX7_goat_7 : List UInt8 := dkwX7_goat_7 ++ dktX7_goat_8
def dkwX7_goat_6 : List UInt8 := [182, 0, 76, 172, 42, 42, 180, 1, 186, 180, 1, 100, 27, 46, 182, 0, 76, 172, 42, 42, 180, 1, 186]
abbrev dktX7_goat_6 : List UInt8 := dkwX7_goat_6 ++ dktX7_goat_7
def dkwX7_goat_5 : List UInt8 := [42, 42, 180, 1, 186, 180, 1, 91, 27, 46, 182, 0, 76, 172, 42, 42, 180, 1, 186, 180, 1, 94, 27, 46]
abbrev dktX7_goat_5 : List UInt8 := dkwX7_goat_5 ++ dktX7_goat_6
def dkwX7_goat_4 : List UInt8 := [170, 0, 0, 0, 113, 0, 0, 0, 0, 0, 0, 0, 5, 0, 0, 0, 37, 0, 0, 0, 51, 0, 0, 0, 65, 0, 0, 0, 79, 0, 0, 0, 93, 0, 0, 0, 107]
abbrev dktX7_goat_4 : List UInt8 := dkwX7_goat_4 ++ dktX7_goat_5
def dkwX7_goat_3 : List UInt8 := [167, 255, 219, 28]
abbrev dktX7_goat_3 : List UInt8 := dkwX7_goat_3 ++ dktX7_goat_4
def dkwX7_goat_2 : List UInt8 := [180, 1, 186, 180, 1, 123, 21, 4, 46, 27, 160, 0, 7, 4, 167, 0, 4, 3, 96, 62, 132, 4, 1]
abbrev dktX7_goat_2 : List UInt8 := dkwX7_goat_2 ++ dktX7_goat_3
def dkwX7_goat_1 : List UInt8 := [4, 182, 0, 72, 172, 3, 62, 3, 54, 4, 21, 4, 42, 180, 1, 186, 180, 1, 114, 162, 0, 31, 29, 42]
abbrev dktX7_goat_1 : List UInt8 := dkwX7_goat_1 ++ dktX7_goat_2
def dkwX7_goat_0 : List UInt8 := [42, 3, 181, 0, 66, 42, 27, 182, 1, 241, 153, 0, 13, 28, 3, 16, 6, 184, 0, 147, 154, 0, 9, 42]
abbrev dktX7_goat_0 : List UInt8 := dkwX7_goat_0 ++ dktX7_goat_1
theorem dksX7_goat_0 : cX7_goat.data.toList.drop 0 = dktX7_goat_0 := by decide +kernel
theorem dksX7_goat_1 : cX7_goat.data.toList.drop 24 = dktX7_goat_1 := dk_seg dksX7_goat_0 24 rfl rfl
theorem dksX7_goat_2 : cX7_goat.data.toList.drop 48 = dktX7_goat_2 := dk_seg dksX7_goat_1 24 rfl rfl
theorem dksX7_goat_3 : cX7_goat.data.toList.drop 71 = dktX7_goat_3 := dk_seg dksX7_goat_2 23 rfl rfl
theorem dksX7_goat_4 : cX7_goat.data.toList.drop 75 = dktX7_goat_4 := dk_seg dksX7_goat_3 4 rfl rfl
theorem dksX7_goat_5 : cX7_goat.data.toList.drop 112 = dktX7_goat_5 := dk_seg dksX7_goat_4 37 rfl rfl
theorem dksX7_goat_6 : cX7_goat.data.toList.drop 136 = dktX7_goat_6 := dk_seg dksX7_goat_5 24 rfl rfl
theorem dksX7_goat_7 : cX7_goat.data.toList.drop 159 = dktX7_goat_7 := dk_seg dksX7_goat_6 23 rfl rfl
theorem dksX7_goat_8 : cX7_goat.data.toList.drop 183 = dktX7_goat_8 := dk_seg dksX7_goat_7 24 rfl rfl
theorem dX7_goat_0 : decode cX7_goat 0 = .ok (.aload_n 0, 1) := dk_42 (dk_at dksX7_goat_0 0 rfl rfl)
theorem dX7_goat_1 : decode cX7_goat 1 = .ok (.iconst 0, 1) := dk_3 (dk_at dksX7_goat_0 1 rfl rfl)
theorem dX7_goat_2 : decode cX7_goat 2 = .ok (.putfield 66, 3) := dk_181 0 66 (dk_at dksX7_goat_0 2 rfl rfl)
theorem dX7_goat_5 : decode cX7_goat 5 = .ok (.aload_n 0, 1) := dk_42 (dk_at dksX7_goat_0 5 rfl rfl)
theorem dX7_goat_6 : decode cX7_goat 6 = .ok (.iload_n 1, 1) := dk_27 (dk_at dksX7_goat_0 6 rfl rfl)
theorem dX7_goat_7 : decode cX7_goat 7 = .ok (.invokevirtual 497, 3) := dk_182 1 241 (dk_at dksX7_goat_0 7 rfl rfl)
theorem dX7_goat_10 : decode cX7_goat 10 = .ok (.ifCond .eq 13, 3) := dk_153 0 13 (dk_at dksX7_goat_0 10 rfl rfl)
theorem dX7_goat_13 : decode cX7_goat 13 = .ok (.iload_n 2, 1) := dk_28 (dk_at dksX7_goat_0 13 rfl rfl)
theorem dX7_goat_14 : decode cX7_goat 14 = .ok (.iconst 0, 1) := dk_3 (dk_at dksX7_goat_0 14 rfl rfl)
theorem dX7_goat_15 : decode cX7_goat 15 = .ok (.bipush 6, 2) := dk_16 6 (dk_at dksX7_goat_0 15 rfl rfl)
theorem dX7_goat_17 : decode cX7_goat 17 = .ok (.invokestatic 147, 3) := dk_184 0 147 (dk_at dksX7_goat_0 17 rfl rfl)
theorem dX7_goat_20 : decode cX7_goat 20 = .ok (.ifCond .ne 9, 3) := dk_154 0 9 (dk_at dksX7_goat_0 20 rfl rfl)
theorem dX7_goat_23 : decode cX7_goat 23 = .ok (.aload_n 0, 1) := dk_42 (dk_at dksX7_goat_0 23 rfl rfl)
theorem dX7_goat_24 : decode cX7_goat 24 = .ok (.iconst 1, 1) := dk_4 (dk_at dksX7_goat_1 0 rfl rfl)
theorem dX7_goat_25 : decode cX7_goat 25 = .ok (.invokevirtual 72, 3) := dk_182 0 72 (dk_at dksX7_goat_1 1 rfl rfl)
theorem dX7_goat_28 : decode cX7_goat 28 = .ok (.ireturn, 1) := dk_172 (dk_at dksX7_goat_1 4 rfl rfl)
theorem dX7_goat_29 : decode cX7_goat 29 = .ok (.iconst 0, 1) := dk_3 (dk_at dksX7_goat_1 5 rfl rfl)
theorem dX7_goat_30 : decode cX7_goat 30 = .ok (.istore_n 3, 1) := dk_62 (dk_at dksX7_goat_1 6 rfl rfl)
theorem dX7_goat_31 : decode cX7_goat 31 = .ok (.iconst 0, 1) := dk_3 (dk_at dksX7_goat_1 7 rfl rfl)
theorem dX7_goat_32 : decode cX7_goat 32 = .ok (.istore 4, 2) := dk_54 4 (dk_at dksX7_goat_1 8 rfl rfl)
theorem dX7_goat_34 : decode cX7_goat 34 = .ok (.iload 4, 2) := dk_21 4 (dk_at dksX7_goat_1 10 rfl rfl)
theorem dX7_goat_36 : decode cX7_goat 36 = .ok (.aload_n 0, 1) := dk_42 (dk_at dksX7_goat_1 12 rfl rfl)
theorem dX7_goat_37 : decode cX7_goat 37 = .ok (.getfield 442, 3) := dk_180 1 186 (dk_at dksX7_goat_1 13 rfl rfl)
theorem dX7_goat_40 : decode cX7_goat 40 = .ok (.getfield 370, 3) := dk_180 1 114 (dk_at dksX7_goat_1 16 rfl rfl)
theorem dX7_goat_43 : decode cX7_goat 43 = .ok (.if_icmp .ge 31, 3) := dk_162 0 31 (dk_at dksX7_goat_1 19 rfl rfl)
theorem dX7_goat_46 : decode cX7_goat 46 = .ok (.iload_n 3, 1) := dk_29 (dk_at dksX7_goat_1 22 rfl rfl)
theorem dX7_goat_47 : decode cX7_goat 47 = .ok (.aload_n 0, 1) := dk_42 (dk_at dksX7_goat_1 23 rfl rfl)
theorem dX7_goat_48 : decode cX7_goat 48 = .ok (.getfield 442, 3) := dk_180 1 186 (dk_at dksX7_goat_2 0 rfl rfl)
theorem dX7_goat_51 : decode cX7_goat 51 = .ok (.getfield 379, 3) := dk_180 1 123 (dk_at dksX7_goat_2 3 rfl rfl)
theorem dX7_goat_54 : decode cX7_goat 54 = .ok (.iload 4, 2) := dk_21 4 (dk_at dksX7_goat_2 6 rfl rfl)
theorem dX7_goat_56 : decode cX7_goat 56 = .ok (.iaload, 1) := dk_46 (dk_at dksX7_goat_2 8 rfl rfl)
theorem dX7_goat_57 : decode cX7_goat 57 = .ok (.iload_n 1, 1) := dk_27 (dk_at dksX7_goat_2 9 rfl rfl)
theorem dX7_goat_58 : decode cX7_goat 58 = .ok (.if_icmp .ne 7, 3) := dk_160 0 7 (dk_at dksX7_goat_2 10 rfl rfl)
theorem dX7_goat_61 : decode cX7_goat 61 = .ok (.iconst 1, 1) := dk_4 (dk_at dksX7_goat_2 13 rfl rfl)
theorem dX7_goat_62 : decode cX7_goat 62 = .ok (.goto 4, 3) := dk_167 0 4 (dk_at dksX7_goat_2 14 rfl rfl)
theorem dX7_goat_65 : decode cX7_goat 65 = .ok (.iconst 0, 1) := dk_3 (dk_at dksX7_goat_2 17 rfl rfl)
theorem dX7_goat_66 : decode cX7_goat 66 = .ok (.iadd, 1) := dk_96 (dk_at dksX7_goat_2 18 rfl rfl)
theorem dX7_goat_67 : decode cX7_goat 67 = .ok (.istore_n 3, 1) := dk_62 (dk_at dksX7_goat_2 19 rfl rfl)
theorem dX7_goat_68 : decode cX7_goat 68 = .ok (.iinc 4 1, 3) := dk_132 4 1 (dk_at dksX7_goat_2 20 rfl rfl)
theorem dX7_goat_71 : decode cX7_goat 71 = .ok (.goto (-37), 3) := dk_167 255 219 (dk_at dksX7_goat_3 0 rfl rfl)
theorem dX7_goat_74 : decode cX7_goat 74 = .ok (.iload_n 2, 1) := dk_28 (dk_at dksX7_goat_3 3 rfl rfl)
theorem dX7_goat_75 : decode cX7_goat 75 = .ok (.tableswitch 113 0 5 #[37, 51, 65, 79, 93, 107], 37) := by decide +kernel
theorem dX7_goat_112 : decode cX7_goat 112 = .ok (.aload_n 0, 1) := dk_42 (dk_at dksX7_goat_5 0 rfl rfl)
theorem dX7_goat_113 : decode cX7_goat 113 = .ok (.aload_n 0, 1) := dk_42 (dk_at dksX7_goat_5 1 rfl rfl)
theorem dX7_goat_114 : decode cX7_goat 114 = .ok (.getfield 442, 3) := dk_180 1 186 (dk_at dksX7_goat_5 2 rfl rfl)
theorem dX7_goat_117 : decode cX7_goat 117 = .ok (.getfield 347, 3) := dk_180 1 91 (dk_at dksX7_goat_5 5 rfl rfl)
theorem dX7_goat_120 : decode cX7_goat 120 = .ok (.iload_n 1, 1) := dk_27 (dk_at dksX7_goat_5 8 rfl rfl)
theorem dX7_goat_121 : decode cX7_goat 121 = .ok (.iaload, 1) := dk_46 (dk_at dksX7_goat_5 9 rfl rfl)
theorem dX7_goat_122 : decode cX7_goat 122 = .ok (.invokevirtual 76, 3) := dk_182 0 76 (dk_at dksX7_goat_5 10 rfl rfl)
theorem dX7_goat_125 : decode cX7_goat 125 = .ok (.ireturn, 1) := dk_172 (dk_at dksX7_goat_5 13 rfl rfl)
theorem dX7_goat_126 : decode cX7_goat 126 = .ok (.aload_n 0, 1) := dk_42 (dk_at dksX7_goat_5 14 rfl rfl)
theorem dX7_goat_127 : decode cX7_goat 127 = .ok (.aload_n 0, 1) := dk_42 (dk_at dksX7_goat_5 15 rfl rfl)
theorem dX7_goat_128 : decode cX7_goat 128 = .ok (.getfield 442, 3) := dk_180 1 186 (dk_at dksX7_goat_5 16 rfl rfl)
theorem dX7_goat_131 : decode cX7_goat 131 = .ok (.getfield 350, 3) := dk_180 1 94 (dk_at dksX7_goat_5 19 rfl rfl)
theorem dX7_goat_134 : decode cX7_goat 134 = .ok (.iload_n 1, 1) := dk_27 (dk_at dksX7_goat_5 22 rfl rfl)
theorem dX7_goat_135 : decode cX7_goat 135 = .ok (.iaload, 1) := dk_46 (dk_at dksX7_goat_5 23 rfl rfl)
theorem dX7_goat_136 : decode cX7_goat 136 = .ok (.invokevirtual 76, 3) := dk_182 0 76 (dk_at dksX7_goat_6 0 rfl rfl)
theorem dX7_goat_139 : decode cX7_goat 139 = .ok (.ireturn, 1) := dk_172 (dk_at dksX7_goat_6 3 rfl rfl)
theorem dX7_goat_140 : decode cX7_goat 140 = .ok (.aload_n 0, 1) := dk_42 (dk_at dksX7_goat_6 4 rfl rfl)
theorem dX7_goat_141 : decode cX7_goat 141 = .ok (.aload_n 0, 1) := dk_42 (dk_at dksX7_goat_6 5 rfl rfl)
theorem dX7_goat_142 : decode cX7_goat 142 = .ok (.getfield 442, 3) := dk_180 1 186 (dk_at dksX7_goat_6 6 rfl rfl)
theorem dX7_goat_145 : decode cX7_goat 145 = .ok (.getfield 356, 3) := dk_180 1 100 (dk_at dksX7_goat_6 9 rfl rfl)
theorem dX7_goat_148 : decode cX7_goat 148 = .ok (.iload_n 1, 1) := dk_27 (dk_at dksX7_goat_6 12 rfl rfl)
theorem dX7_goat_149 : decode cX7_goat 149 = .ok (.iaload, 1) := dk_46 (dk_at dksX7_goat_6 13 rfl rfl)
theorem dX7_goat_150 : decode cX7_goat 150 = .ok (.invokevirtual 76, 3) := dk_182 0 76 (dk_at dksX7_goat_6 14 rfl rfl)
theorem dX7_goat_153 : decode cX7_goat 153 = .ok (.ireturn, 1) := dk_172 (dk_at dksX7_goat_6 17 rfl rfl)
theorem dX7_goat_154 : decode cX7_goat 154 = .ok (.aload_n 0, 1) := dk_42 (dk_at dksX7_goat_6 18 rfl rfl)
theorem dX7_goat_155 : decode cX7_goat 155 = .ok (.aload_n 0, 1) := dk_42 (dk_at dksX7_goat_6 19 rfl rfl)
theorem dX7_goat_156 : decode cX7_goat 156 = .ok (.getfield 442, 3) := dk_180 1 186 (dk_at dksX7_goat_6 20 rfl rfl)
theorem dX7_goat_159 : decode cX7_goat 159 = .ok (.getfield 359, 3) := dk_180 1 103 (dk_at dksX7_goat_7 0 rfl rfl)
theorem dX7_goat_162 : decode cX7_goat 162 = .ok (.iload_n 1, 1) := dk_27 (dk_at dksX7_goat_7 3 rfl rfl)
theorem dX7_goat_163 : decode cX7_goat 163 = .ok (.iaload, 1) := dk_46 (dk_at dksX7_goat_7 4 rfl rfl)
theorem dX7_goat_164 : decode cX7_goat 164 = .ok (.invokevirtual 76, 3) := dk_182 0 76 (dk_at dksX7_goat_7 5 rfl rfl)
theorem dX7_goat_167 : decode cX7_goat 167 = .ok (.ireturn, 1) := dk_172 (dk_at dksX7_goat_7 8 rfl rfl)
theorem dX7_goat_168 : decode cX7_goat 168 = .ok (.aload_n 0, 1) := dk_42 (dk_at dksX7_goat_7 9 rfl rfl)
theorem dX7_goat_169 : decode cX7_goat 169 = .ok (.aload_n 0, 1) := dk_42 (dk_at dksX7_goat_7 10 rfl rfl)
theorem dX7_goat_170 : decode cX7_goat 170 = .ok (.getfield 442, 3) := dk_180 1 186 (dk_at dksX7_goat_7 11 rfl rfl)
theorem dX7_goat_173 : decode cX7_goat 173 = .ok (.getfield 363, 3) := dk_180 1 107 (dk_at dksX7_goat_7 14 rfl rfl)
theorem dX7_goat_176 : decode cX7_goat 176 = .ok (.iload_n 1, 1) := dk_27 (dk_at dksX7_goat_7 17 rfl rfl)
theorem dX7_goat_177 : decode cX7_goat 177 = .ok (.iaload, 1) := dk_46 (dk_at dksX7_goat_7 18 rfl rfl)
theorem dX7_goat_178 : decode cX7_goat 178 = .ok (.invokevirtual 76, 3) := dk_182 0 76 (dk_at dksX7_goat_7 19 rfl rfl)
theorem dX7_goat_181 : decode cX7_goat 181 = .ok (.ireturn, 1) := dk_172 (dk_at dksX7_goat_7 22 rfl rfl)
theorem dX7_goat_182 : decode cX7_goat 182 = .ok (.aload_n 0, 1) := dk_42 (dk_at dksX7_goat_7 23 rfl rfl)
theorem dX7_goat_183 : decode cX7_goat 183 = .ok (.iload_n 3, 1) := dk_29 (dk_at dksX7_goat_8 0 rfl rfl)
theorem dX7_goat_184 : decode cX7_goat 184 = .ok (.invokevirtual 76, 3) := dk_182 0 76 (dk_at dksX7_goat_8 1 rfl rfl)
theorem dX7_goat_187 : decode cX7_goat 187 = .ok (.ireturn, 1) := dk_172 (dk_at dksX7_goat_8 4 rfl rfl)
theorem dX7_goat_188 : decode cX7_goat 188 = .ok (.aload_n 0, 1) := dk_42 (dk_at dksX7_goat_8 5 rfl rfl)
theorem dX7_goat_189 : decode cX7_goat 189 = .ok (.aload_n 0, 1) := dk_42 (dk_at dksX7_goat_8 6 rfl rfl)
theorem dX7_goat_190 : decode cX7_goat 190 = .ok (.iload_n 1, 1) := dk_27 (dk_at dksX7_goat_8 7 rfl rfl)
theorem dX7_goat_191 : decode cX7_goat 191 = .ok (.invokevirtual 500, 3) := dk_182 1 244 (dk_at dksX7_goat_8 8 rfl rfl)
theorem dX7_goat_194 : decode cX7_goat 194 = .ok (.ifCond .eq 7, 3) := dk_153 0 7 (dk_at dksX7_goat_8 11 rfl rfl)
theorem dX7_goat_197 : decode cX7_goat 197 = .ok (.iconst 1, 1) := dk_4 (dk_at dksX7_goat_8 14 rfl rfl)
theorem dX7_goat_198 : decode cX7_goat 198 = .ok (.goto 4, 3) := dk_167 0 4 (dk_at dksX7_goat_8 15 rfl rfl)
theorem dX7_goat_201 : decode cX7_goat 201 = .ok (.iconst 0, 1) := dk_3 (dk_at dksX7_goat_8 18 rfl rfl)
theorem dX7_goat_202 : decode cX7_goat 202 = .ok (.invokevirtual 76, 3) := dk_182 0 76 (dk_at dksX7_goat_8 19 rfl rfl)
theorem dX7_goat_205 : decode cX7_goat 205 = .ok (.ireturn, 1) := dk_172 (dk_at dksX7_goat_8 22 rfl rfl)
def dkwX1_likes_2 : List UInt8 := [46, 167, 0, 8, 42, 4, 182, 0, 94, 172]
abbrev dktX1_likes_2 : List UInt8 := dkwX1_likes_2 ++ []
def dkwX1_likes_1 : List UInt8 := [180, 0, 216, 4, 100, 184, 0, 90, 153, 0, 20, 42, 180, 0, 104, 180, 0, 172, 27, 50, 180, 0, 219, 28]
abbrev dktX1_likes_1 : List UInt8 := dkwX1_likes_1 ++ dktX1_likes_2
def dkwX1_likes_0 : List UInt8 := [42, 182, 0, 80, 42, 27, 182, 0, 169, 153, 0, 42, 28, 3, 42, 180, 0, 104, 180, 0, 172, 27, 50]
abbrev dktX1_likes_0 : List UInt8 := dkwX1_likes_0 ++ dktX1_likes_1
theorem dksX1_likes_0 : cX1_likes.data.toList.drop 0 = dktX1_likes_0 := by decide +kernel
theorem dksX1_likes_1 : cX1_likes.data.toList.drop 23 = dktX1_likes_1 := dk_seg dksX1_likes_0 23 rfl rfl
theorem dksX1_likes_2 : cX1_likes.data.toList.drop 47 = dktX1_likes_2 := dk_seg dksX1_likes_1 24 rfl rfl
theorem dX1_likes_0 : decode cX1_likes 0 = .ok (.aload_n 0, 1) := dk_42 (dk_at dksX1_likes_0 0 rfl rfl)
theorem dX1_likes_1 : decode cX1_likes 1 = .ok (.invokevirtual 80, 3) := dk_182 0 80 (dk_at dksX1_likes_0 1 rfl rfl)
theorem dX1_likes_4 : decode cX1_likes 4 = .ok (.aload_n 0, 1) := dk_42 (dk_at dksX1_likes_0 4 rfl rfl)
theorem dX1_likes_5 : decode cX1_likes 5 = .ok (.iload_n 1, 1) := dk_27 (dk_at dksX1_likes_0 5 rfl rfl)
theorem dX1_likes_6 : decode cX1_likes 6 = .ok (.invokevirtual 169, 3) := dk_182 0 169 (dk_at dksX1_likes_0 6 rfl rfl)
theorem dX1_likes_9 : decode cX1_likes 9 = .ok (.ifCond .eq 42, 3) := dk_153 0 42 (dk_at dksX1_likes_0 9 rfl rfl)
theorem dX1_likes_12 : decode cX1_likes 12 = .ok (.iload_n 2, 1) := dk_28 (dk_at dksX1_likes_0 12 rfl rfl)
theorem dX1_likes_13 : decode cX1_likes 13 = .ok (.iconst 0, 1) := dk_3 (dk_at dksX1_likes_0 13 rfl rfl)
theorem dX1_likes_14 : decode cX1_likes 14 = .ok (.aload_n 0, 1) := dk_42 (dk_at dksX1_likes_0 14 rfl rfl)
theorem dX1_likes_15 : decode cX1_likes 15 = .ok (.getfield 104, 3) := dk_180 0 104 (dk_at dksX1_likes_0 15 rfl rfl)
theorem dX1_likes_18 : decode cX1_likes 18 = .ok (.getfield 172, 3) := dk_180 0 172 (dk_at dksX1_likes_0 18 rfl rfl)
theorem dX1_likes_21 : decode cX1_likes 21 = .ok (.iload_n 1, 1) := dk_27 (dk_at dksX1_likes_0 21 rfl rfl)
theorem dX1_likes_22 : decode cX1_likes 22 = .ok (.aaload, 1) := dk_50 (dk_at dksX1_likes_0 22 rfl rfl)
theorem dX1_likes_23 : decode cX1_likes 23 = .ok (.getfield 216, 3) := dk_180 0 216 (dk_at dksX1_likes_1 0 rfl rfl)
theorem dX1_likes_26 : decode cX1_likes 26 = .ok (.iconst 1, 1) := dk_4 (dk_at dksX1_likes_1 3 rfl rfl)
theorem dX1_likes_27 : decode cX1_likes 27 = .ok (.isub, 1) := dk_100 (dk_at dksX1_likes_1 4 rfl rfl)
theorem dX1_likes_28 : decode cX1_likes 28 = .ok (.invokestatic 90, 3) := dk_184 0 90 (dk_at dksX1_likes_1 5 rfl rfl)
theorem dX1_likes_31 : decode cX1_likes 31 = .ok (.ifCond .eq 20, 3) := dk_153 0 20 (dk_at dksX1_likes_1 8 rfl rfl)
theorem dX1_likes_34 : decode cX1_likes 34 = .ok (.aload_n 0, 1) := dk_42 (dk_at dksX1_likes_1 11 rfl rfl)
theorem dX1_likes_35 : decode cX1_likes 35 = .ok (.getfield 104, 3) := dk_180 0 104 (dk_at dksX1_likes_1 12 rfl rfl)
theorem dX1_likes_38 : decode cX1_likes 38 = .ok (.getfield 172, 3) := dk_180 0 172 (dk_at dksX1_likes_1 15 rfl rfl)
theorem dX1_likes_41 : decode cX1_likes 41 = .ok (.iload_n 1, 1) := dk_27 (dk_at dksX1_likes_1 18 rfl rfl)
theorem dX1_likes_42 : decode cX1_likes 42 = .ok (.aaload, 1) := dk_50 (dk_at dksX1_likes_1 19 rfl rfl)
theorem dX1_likes_43 : decode cX1_likes 43 = .ok (.getfield 219, 3) := dk_180 0 219 (dk_at dksX1_likes_1 20 rfl rfl)
theorem dX1_likes_46 : decode cX1_likes 46 = .ok (.iload_n 2, 1) := dk_28 (dk_at dksX1_likes_1 23 rfl rfl)
theorem dX1_likes_47 : decode cX1_likes 47 = .ok (.iaload, 1) := dk_46 (dk_at dksX1_likes_2 0 rfl rfl)
theorem dX1_likes_48 : decode cX1_likes 48 = .ok (.goto 8, 3) := dk_167 0 8 (dk_at dksX1_likes_2 1 rfl rfl)
theorem dX1_likes_51 : decode cX1_likes 51 = .ok (.aload_n 0, 1) := dk_42 (dk_at dksX1_likes_2 4 rfl rfl)
theorem dX1_likes_52 : decode cX1_likes 52 = .ok (.iconst 1, 1) := dk_4 (dk_at dksX1_likes_2 5 rfl rfl)
theorem dX1_likes_53 : decode cX1_likes 53 = .ok (.invokevirtual 94, 3) := dk_182 0 94 (dk_at dksX1_likes_2 6 rfl rfl)
theorem dX1_likes_56 : decode cX1_likes 56 = .ok (.ireturn, 1) := dk_172 (dk_at dksX1_likes_2 9 rfl rfl)
def dkwX7_likes_2 : List UInt8 := [182, 0, 76, 167, 0, 8, 42, 4, 182, 0, 72, 172]
abbrev dktX7_likes_2 : List UInt8 := dkwX7_likes_2 ++ []
def dkwX7_likes_1 : List UInt8 := [180, 1, 97, 27, 46, 162, 0, 23, 42, 42, 180, 1, 186, 180, 1, 85, 7, 27, 104, 28, 96, 46]
abbrev dktX7_likes_1 : List UInt8 := dkwX7_likes_1 ++ dktX7_likes_2
def dkwX7_likes_0 : List UInt8 := [42, 3, 181, 0, 66, 42, 27, 182, 1, 241, 153, 0, 40, 28, 155, 0, 36, 28, 42, 180, 1, 186]
abbrev dktX7_likes_0 : List UInt8 := dkwX7_likes_0 ++ dktX7_likes_1
theorem dksX7_likes_0 : cX7_likes.data.toList.drop 0 = dktX7_likes_0 := by decide +kernel
theorem dksX7_likes_1 : cX7_likes.data.toList.drop 22 = dktX7_likes_1 := dk_seg dksX7_likes_0 22 rfl rfl
theorem dksX7_likes_2 : cX7_likes.data.toList.drop 44 = dktX7_likes_2 := dk_seg dksX7_likes_1 22 rfl rfl
theorem dX7_likes_0 : decode cX7_likes 0 = .ok (.aload_n 0, 1) := dk_42 (dk_at dksX7_likes_0 0 rfl rfl)
theorem dX7_likes_1 : decode cX7_likes 1 = .ok (.iconst 0, 1) := dk_3 (dk_at dksX7_likes_0 1 rfl rfl)
theorem dX7_likes_2 : decode cX7_likes 2 = .ok (.putfield 66, 3) := dk_181 0 66 (dk_at dksX7_likes_0 2 rfl rfl)
theorem dX7_likes_5 : decode cX7_likes 5 = .ok (.aload_n 0, 1) := dk_42 (dk_at dksX7_likes_0 5 rfl rfl)
theorem dX7_likes_6 : decode cX7_likes 6 = .ok (.iload_n 1, 1) := dk_27 (dk_at dksX7_likes_0 6 rfl rfl)
theorem dX7_likes_7 : decode cX7_likes 7 = .ok (.invokevirtual 497, 3) := dk_182 1 241 (dk_at dksX7_likes_0 7 rfl rfl)
theorem dX7_likes_10 : decode cX7_likes 10 = .ok (.ifCond .eq 40, 3) := dk_153 0 40 (dk_at dksX7_likes_0 10 rfl rfl)
theorem dX7_likes_13 : decode cX7_likes 13 = .ok (.iload_n 2, 1) := dk_28 (dk_at dksX7_likes_0 13 rfl rfl)
theorem dX7_likes_14 : decode cX7_likes 14 = .ok (.ifCond .lt 36, 3) := dk_155 0 36 (dk_at dksX7_likes_0 14 rfl rfl)
theorem dX7_likes_17 : decode cX7_likes 17 = .ok (.iload_n 2, 1) := dk_28 (dk_at dksX7_likes_0 17 rfl rfl)
theorem dX7_likes_18 : decode cX7_likes 18 = .ok (.aload_n 0, 1) := dk_42 (dk_at dksX7_likes_0 18 rfl rfl)
theorem dX7_likes_19 : decode cX7_likes 19 = .ok (.getfield 442, 3) := dk_180 1 186 (dk_at dksX7_likes_0 19 rfl rfl)
theorem dX7_likes_22 : decode cX7_likes 22 = .ok (.getfield 353, 3) := dk_180 1 97 (dk_at dksX7_likes_1 0 rfl rfl)
theorem dX7_likes_25 : decode cX7_likes 25 = .ok (.iload_n 1, 1) := dk_27 (dk_at dksX7_likes_1 3 rfl rfl)
theorem dX7_likes_26 : decode cX7_likes 26 = .ok (.iaload, 1) := dk_46 (dk_at dksX7_likes_1 4 rfl rfl)
theorem dX7_likes_27 : decode cX7_likes 27 = .ok (.if_icmp .ge 23, 3) := dk_162 0 23 (dk_at dksX7_likes_1 5 rfl rfl)
theorem dX7_likes_30 : decode cX7_likes 30 = .ok (.aload_n 0, 1) := dk_42 (dk_at dksX7_likes_1 8 rfl rfl)
theorem dX7_likes_31 : decode cX7_likes 31 = .ok (.aload_n 0, 1) := dk_42 (dk_at dksX7_likes_1 9 rfl rfl)
theorem dX7_likes_32 : decode cX7_likes 32 = .ok (.getfield 442, 3) := dk_180 1 186 (dk_at dksX7_likes_1 10 rfl rfl)
theorem dX7_likes_35 : decode cX7_likes 35 = .ok (.getfield 341, 3) := dk_180 1 85 (dk_at dksX7_likes_1 13 rfl rfl)
theorem dX7_likes_38 : decode cX7_likes 38 = .ok (.iconst 4, 1) := dk_7 (dk_at dksX7_likes_1 16 rfl rfl)
theorem dX7_likes_39 : decode cX7_likes 39 = .ok (.iload_n 1, 1) := dk_27 (dk_at dksX7_likes_1 17 rfl rfl)
theorem dX7_likes_40 : decode cX7_likes 40 = .ok (.imul, 1) := dk_104 (dk_at dksX7_likes_1 18 rfl rfl)
theorem dX7_likes_41 : decode cX7_likes 41 = .ok (.iload_n 2, 1) := dk_28 (dk_at dksX7_likes_1 19 rfl rfl)
theorem dX7_likes_42 : decode cX7_likes 42 = .ok (.iadd, 1) := dk_96 (dk_at dksX7_likes_1 20 rfl rfl)
theorem dX7_likes_43 : decode cX7_likes 43 = .ok (.iaload, 1) := dk_46 (dk_at dksX7_likes_1 21 rfl rfl)
theorem dX7_likes_44 : decode cX7_likes 44 = .ok (.invokevirtual 76, 3) := dk_182 0 76 (dk_at dksX7_likes_2 0 rfl rfl)
theorem dX7_likes_47 : decode cX7_likes 47 = .ok (.goto 8, 3) := dk_167 0 8 (dk_at dksX7_likes_2 3 rfl rfl)
theorem dX7_likes_50 : decode cX7_likes 50 = .ok (.aload_n 0, 1) := dk_42 (dk_at dksX7_likes_2 6 rfl rfl)
theorem dX7_likes_51 : decode cX7_likes 51 = .ok (.iconst 1, 1) := dk_4 (dk_at dksX7_likes_2 7 rfl rfl)
theorem dX7_likes_52 : decode cX7_likes 52 = .ok (.invokevirtual 72, 3) := dk_182 0 72 (dk_at dksX7_likes_2 8 rfl rfl)
theorem dX7_likes_55 : decode cX7_likes 55 = .ok (.ireturn, 1) := dk_172 (dk_at dksX7_likes_2 11 rfl rfl)
def dkwX1_isClue_1 : List UInt8 := [4, 167, 0, 4, 3, 172]
abbrev dktX1_isClue_1 : List UInt8 := dkwX1_isClue_1 ++ []
def dkwX1_isClue_0 : List UInt8 := [42, 180, 0, 104, 198, 0, 24, 27, 3, 42, 180, 0, 104, 180, 0, 142, 4, 100, 184, 0, 90, 153, 0, 7]
abbrev dktX1_isClue_0 : List UInt8 := dkwX1_isClue_0 ++ dktX1_isClue_1
theorem dksX1_isClue_0 : cX1_isClue.data.toList.drop 0 = dktX1_isClue_0 := by decide +kernel
theorem dksX1_isClue_1 : cX1_isClue.data.toList.drop 24 = dktX1_isClue_1 := dk_seg dksX1_isClue_0 24 rfl rfl
theorem dX1_isClue_0 : decode cX1_isClue 0 = .ok (.aload_n 0, 1) := dk_42 (dk_at dksX1_isClue_0 0 rfl rfl)
theorem dX1_isClue_1 : decode cX1_isClue 1 = .ok (.getfield 104, 3) := dk_180 0 104 (dk_at dksX1_isClue_0 1 rfl rfl)
theorem dX1_isClue_4 : decode cX1_isClue 4 = .ok (.ifnull 24, 3) := dk_198 0 24 (dk_at dksX1_isClue_0 4 rfl rfl)
theorem dX1_isClue_7 : decode cX1_isClue 7 = .ok (.iload_n 1, 1) := dk_27 (dk_at dksX1_isClue_0 7 rfl rfl)
theorem dX1_isClue_8 : decode cX1_isClue 8 = .ok (.iconst 0, 1) := dk_3 (dk_at dksX1_isClue_0 8 rfl rfl)
theorem dX1_isClue_9 : decode cX1_isClue 9 = .ok (.aload_n 0, 1) := dk_42 (dk_at dksX1_isClue_0 9 rfl rfl)
theorem dX1_isClue_10 : decode cX1_isClue 10 = .ok (.getfield 104, 3) := dk_180 0 104 (dk_at dksX1_isClue_0 10 rfl rfl)
theorem dX1_isClue_13 : decode cX1_isClue 13 = .ok (.getfield 142, 3) := dk_180 0 142 (dk_at dksX1_isClue_0 13 rfl rfl)
theorem dX1_isClue_16 : decode cX1_isClue 16 = .ok (.iconst 1, 1) := dk_4 (dk_at dksX1_isClue_0 16 rfl rfl)
theorem dX1_isClue_17 : decode cX1_isClue 17 = .ok (.isub, 1) := dk_100 (dk_at dksX1_isClue_0 17 rfl rfl)
theorem dX1_isClue_18 : decode cX1_isClue 18 = .ok (.invokestatic 90, 3) := dk_184 0 90 (dk_at dksX1_isClue_0 18 rfl rfl)
theorem dX1_isClue_21 : decode cX1_isClue 21 = .ok (.ifCond .eq 7, 3) := dk_153 0 7 (dk_at dksX1_isClue_0 21 rfl rfl)
theorem dX1_isClue_24 : decode cX1_isClue 24 = .ok (.iconst 1, 1) := dk_4 (dk_at dksX1_isClue_1 0 rfl rfl)
theorem dX1_isClue_25 : decode cX1_isClue 25 = .ok (.goto 4, 3) := dk_167 0 4 (dk_at dksX1_isClue_1 1 rfl rfl)
theorem dX1_isClue_28 : decode cX1_isClue 28 = .ok (.iconst 0, 1) := dk_3 (dk_at dksX1_isClue_1 4 rfl rfl)
theorem dX1_isClue_29 : decode cX1_isClue 29 = .ok (.ireturn, 1) := dk_172 (dk_at dksX1_isClue_1 5 rfl rfl)
theorem dX18_sort_0 : decode cX18_sort 0 = .ok (.iconst 0, 1) := by decide +kernel
theorem dX18_sort_1 : decode cX18_sort 1 = .ok (.ireturn, 1) := by decide +kernel
theorem dX19_sort_0 : decode cX19_sort 0 = .ok (.iconst 1, 1) := by decide +kernel
theorem dX19_sort_1 : decode cX19_sort 1 = .ok (.ireturn, 1) := by decide +kernel
theorem dX20_sort_0 : decode cX20_sort 0 = .ok (.iconst 2, 1) := by decide +kernel
theorem dX20_sort_1 : decode cX20_sort 1 = .ok (.ireturn, 1) := by decide +kernel
def dkwX1_clue_4 : List UInt8 := [182, 0, 94, 172]
abbrev dktX1_clue_4 : List UInt8 := dkwX1_clue_4 ++ []
def dkwX1_clue_3 : List UInt8 := [45, 182, 0, 225, 172, 45, 180, 0, 211, 172, 45, 180, 0, 228, 172, 45, 180, 0, 229, 172, 42, 4]
abbrev dktX1_clue_3 : List UInt8 := dkwX1_clue_3 ++ dktX1_clue_4
def dkwX1_clue_2 : List UInt8 := [170, 0, 0, 0, 0, 0, 51, 0, 0, 0, 0, 0, 0, 0, 3, 0, 0, 0, 31, 0, 0, 0, 36, 0, 0, 0, 41, 0, 0, 0, 46]
abbrev dktX1_clue_2 : List UInt8 := dkwX1_clue_2 ++ dktX1_clue_3
def dkwX1_clue_1 : List UInt8 := [180, 0, 207, 27, 50, 78, 28]
abbrev dktX1_clue_1 : List UInt8 := dkwX1_clue_1 ++ dktX1_clue_2
def dkwX1_clue_0 : List UInt8 := [42, 182, 0, 80, 42, 27, 182, 0, 222, 154, 0, 9, 42, 4, 182, 0, 94, 172, 42, 180, 0, 104]
abbrev dktX1_clue_0 : List UInt8 := dkwX1_clue_0 ++ dktX1_clue_1
theorem dksX1_clue_0 : cX1_clue.data.toList.drop 0 = dktX1_clue_0 := by decide +kernel
theorem dksX1_clue_1 : cX1_clue.data.toList.drop 22 = dktX1_clue_1 := dk_seg dksX1_clue_0 22 rfl rfl
theorem dksX1_clue_2 : cX1_clue.data.toList.drop 29 = dktX1_clue_2 := dk_seg dksX1_clue_1 7 rfl rfl
theorem dksX1_clue_3 : cX1_clue.data.toList.drop 60 = dktX1_clue_3 := dk_seg dksX1_clue_2 31 rfl rfl
theorem dksX1_clue_4 : cX1_clue.data.toList.drop 82 = dktX1_clue_4 := dk_seg dksX1_clue_3 22 rfl rfl
theorem dX1_clue_0 : decode cX1_clue 0 = .ok (.aload_n 0, 1) := dk_42 (dk_at dksX1_clue_0 0 rfl rfl)
theorem dX1_clue_1 : decode cX1_clue 1 = .ok (.invokevirtual 80, 3) := dk_182 0 80 (dk_at dksX1_clue_0 1 rfl rfl)
theorem dX1_clue_4 : decode cX1_clue 4 = .ok (.aload_n 0, 1) := dk_42 (dk_at dksX1_clue_0 4 rfl rfl)
theorem dX1_clue_5 : decode cX1_clue 5 = .ok (.iload_n 1, 1) := dk_27 (dk_at dksX1_clue_0 5 rfl rfl)
theorem dX1_clue_6 : decode cX1_clue 6 = .ok (.invokevirtual 222, 3) := dk_182 0 222 (dk_at dksX1_clue_0 6 rfl rfl)
theorem dX1_clue_9 : decode cX1_clue 9 = .ok (.ifCond .ne 9, 3) := dk_154 0 9 (dk_at dksX1_clue_0 9 rfl rfl)
theorem dX1_clue_12 : decode cX1_clue 12 = .ok (.aload_n 0, 1) := dk_42 (dk_at dksX1_clue_0 12 rfl rfl)
theorem dX1_clue_13 : decode cX1_clue 13 = .ok (.iconst 1, 1) := dk_4 (dk_at dksX1_clue_0 13 rfl rfl)
theorem dX1_clue_14 : decode cX1_clue 14 = .ok (.invokevirtual 94, 3) := dk_182 0 94 (dk_at dksX1_clue_0 14 rfl rfl)
theorem dX1_clue_17 : decode cX1_clue 17 = .ok (.ireturn, 1) := dk_172 (dk_at dksX1_clue_0 17 rfl rfl)
theorem dX1_clue_18 : decode cX1_clue 18 = .ok (.aload_n 0, 1) := dk_42 (dk_at dksX1_clue_0 18 rfl rfl)
theorem dX1_clue_19 : decode cX1_clue 19 = .ok (.getfield 104, 3) := dk_180 0 104 (dk_at dksX1_clue_0 19 rfl rfl)
theorem dX1_clue_22 : decode cX1_clue 22 = .ok (.getfield 207, 3) := dk_180 0 207 (dk_at dksX1_clue_1 0 rfl rfl)
theorem dX1_clue_25 : decode cX1_clue 25 = .ok (.iload_n 1, 1) := dk_27 (dk_at dksX1_clue_1 3 rfl rfl)
theorem dX1_clue_26 : decode cX1_clue 26 = .ok (.aaload, 1) := dk_50 (dk_at dksX1_clue_1 4 rfl rfl)
theorem dX1_clue_27 : decode cX1_clue 27 = .ok (.astore_n 3, 1) := dk_78 (dk_at dksX1_clue_1 5 rfl rfl)
theorem dX1_clue_28 : decode cX1_clue 28 = .ok (.iload_n 2, 1) := dk_28 (dk_at dksX1_clue_1 6 rfl rfl)
theorem dX1_clue_29 : decode cX1_clue 29 = .ok (.tableswitch 51 0 3 #[31, 36, 41, 46], 31) := by decide +kernel
theorem dX1_clue_60 : decode cX1_clue 60 = .ok (.aload_n 3, 1) := dk_45 (dk_at dksX1_clue_3 0 rfl rfl)
theorem dX1_clue_61 : decode cX1_clue 61 = .ok (.invokevirtual 225, 3) := dk_182 0 225 (dk_at dksX1_clue_3 1 rfl rfl)
theorem dX1_clue_64 : decode cX1_clue 64 = .ok (.ireturn, 1) := dk_172 (dk_at dksX1_clue_3 4 rfl rfl)
theorem dX1_clue_65 : decode cX1_clue 65 = .ok (.aload_n 3, 1) := dk_45 (dk_at dksX1_clue_3 5 rfl rfl)
theorem dX1_clue_66 : decode cX1_clue 66 = .ok (.getfield 211, 3) := dk_180 0 211 (dk_at dksX1_clue_3 6 rfl rfl)
theorem dX1_clue_69 : decode cX1_clue 69 = .ok (.ireturn, 1) := dk_172 (dk_at dksX1_clue_3 9 rfl rfl)
theorem dX1_clue_70 : decode cX1_clue 70 = .ok (.aload_n 3, 1) := dk_45 (dk_at dksX1_clue_3 10 rfl rfl)
theorem dX1_clue_71 : decode cX1_clue 71 = .ok (.getfield 228, 3) := dk_180 0 228 (dk_at dksX1_clue_3 11 rfl rfl)
theorem dX1_clue_74 : decode cX1_clue 74 = .ok (.ireturn, 1) := dk_172 (dk_at dksX1_clue_3 14 rfl rfl)
theorem dX1_clue_75 : decode cX1_clue 75 = .ok (.aload_n 3, 1) := dk_45 (dk_at dksX1_clue_3 15 rfl rfl)
theorem dX1_clue_76 : decode cX1_clue 76 = .ok (.getfield 229, 3) := dk_180 0 229 (dk_at dksX1_clue_3 16 rfl rfl)
theorem dX1_clue_79 : decode cX1_clue 79 = .ok (.ireturn, 1) := dk_172 (dk_at dksX1_clue_3 19 rfl rfl)
theorem dX1_clue_80 : decode cX1_clue 80 = .ok (.aload_n 0, 1) := dk_42 (dk_at dksX1_clue_3 20 rfl rfl)
theorem dX1_clue_81 : decode cX1_clue 81 = .ok (.iconst 1, 1) := dk_4 (dk_at dksX1_clue_3 21 rfl rfl)
theorem dX1_clue_82 : decode cX1_clue 82 = .ok (.invokevirtual 94, 3) := dk_182 0 94 (dk_at dksX1_clue_4 0 rfl rfl)
theorem dX1_clue_85 : decode cX1_clue 85 = .ok (.ireturn, 1) := dk_172 (dk_at dksX1_clue_4 3 rfl rfl)
def dkwX7_isClue_1 : List UInt8 := [167, 0, 4, 3, 172]
abbrev dktX7_isClue_1 : List UInt8 := dkwX7_isClue_1 ++ []
def dkwX7_isClue_0 : List UInt8 := [42, 180, 1, 186, 198, 0, 22, 27, 155, 0, 18, 27, 42, 180, 1, 186, 180, 1, 114, 162, 0, 7, 4]
abbrev dktX7_isClue_0 : List UInt8 := dkwX7_isClue_0 ++ dktX7_isClue_1
theorem dksX7_isClue_0 : cX7_isClue.data.toList.drop 0 = dktX7_isClue_0 := by decide +kernel
theorem dksX7_isClue_1 : cX7_isClue.data.toList.drop 23 = dktX7_isClue_1 := dk_seg dksX7_isClue_0 23 rfl rfl
theorem dX7_isClue_0 : decode cX7_isClue 0 = .ok (.aload_n 0, 1) := dk_42 (dk_at dksX7_isClue_0 0 rfl rfl)
theorem dX7_isClue_1 : decode cX7_isClue 1 = .ok (.getfield 442, 3) := dk_180 1 186 (dk_at dksX7_isClue_0 1 rfl rfl)
theorem dX7_isClue_4 : decode cX7_isClue 4 = .ok (.ifnull 22, 3) := dk_198 0 22 (dk_at dksX7_isClue_0 4 rfl rfl)
theorem dX7_isClue_7 : decode cX7_isClue 7 = .ok (.iload_n 1, 1) := dk_27 (dk_at dksX7_isClue_0 7 rfl rfl)
theorem dX7_isClue_8 : decode cX7_isClue 8 = .ok (.ifCond .lt 18, 3) := dk_155 0 18 (dk_at dksX7_isClue_0 8 rfl rfl)
theorem dX7_isClue_11 : decode cX7_isClue 11 = .ok (.iload_n 1, 1) := dk_27 (dk_at dksX7_isClue_0 11 rfl rfl)
theorem dX7_isClue_12 : decode cX7_isClue 12 = .ok (.aload_n 0, 1) := dk_42 (dk_at dksX7_isClue_0 12 rfl rfl)
theorem dX7_isClue_13 : decode cX7_isClue 13 = .ok (.getfield 442, 3) := dk_180 1 186 (dk_at dksX7_isClue_0 13 rfl rfl)
theorem dX7_isClue_16 : decode cX7_isClue 16 = .ok (.getfield 370, 3) := dk_180 1 114 (dk_at dksX7_isClue_0 16 rfl rfl)
theorem dX7_isClue_19 : decode cX7_isClue 19 = .ok (.if_icmp .ge 7, 3) := dk_162 0 7 (dk_at dksX7_isClue_0 19 rfl rfl)
theorem dX7_isClue_22 : decode cX7_isClue 22 = .ok (.iconst 1, 1) := dk_4 (dk_at dksX7_isClue_0 22 rfl rfl)
theorem dX7_isClue_23 : decode cX7_isClue 23 = .ok (.goto 4, 3) := dk_167 0 4 (dk_at dksX7_isClue_1 0 rfl rfl)
theorem dX7_isClue_26 : decode cX7_isClue 26 = .ok (.iconst 0, 1) := dk_3 (dk_at dksX7_isClue_1 3 rfl rfl)
theorem dX7_isClue_27 : decode cX7_isClue 27 = .ok (.ireturn, 1) := dk_172 (dk_at dksX7_isClue_1 4 rfl rfl)
def dkwX7_clue_3 : List UInt8 := [180, 1, 126, 27, 46, 167, 0, 12, 42, 180, 1, 186, 180, 1, 129, 27, 46, 182, 0, 76, 172]
abbrev dktX7_clue_3 : List UInt8 := dkwX7_clue_3 ++ []
def dkwX7_clue_2 : List UInt8 := [160, 0, 15, 42, 180, 1, 186, 180, 1, 123, 27, 46, 167, 0, 29, 28, 5, 160, 0, 15, 42, 180, 1, 186]
abbrev dktX7_clue_2 : List UInt8 := dkwX7_clue_2 ++ dktX7_clue_3
def dkwX7_clue_1 : List UInt8 := [182, 0, 72, 172, 42, 28, 154, 0, 15, 42, 180, 1, 186, 180, 1, 120, 27, 46, 167, 0, 46, 28, 4]
abbrev dktX7_clue_1 : List UInt8 := dkwX7_clue_1 ++ dktX7_clue_2
def dkwX7_clue_0 : List UInt8 := [42, 3, 181, 0, 66, 42, 27, 182, 1, 247, 153, 0, 12, 28, 3, 6, 184, 0, 147, 154, 0, 9, 42, 4]
abbrev dktX7_clue_0 : List UInt8 := dkwX7_clue_0 ++ dktX7_clue_1
theorem dksX7_clue_0 : cX7_clue.data.toList.drop 0 = dktX7_clue_0 := by decide +kernel
theorem dksX7_clue_1 : cX7_clue.data.toList.drop 24 = dktX7_clue_1 := dk_seg dksX7_clue_0 24 rfl rfl
theorem dksX7_clue_2 : cX7_clue.data.toList.drop 47 = dktX7_clue_2 := dk_seg dksX7_clue_1 23 rfl rfl
theorem dksX7_clue_3 : cX7_clue.data.toList.drop 71 = dktX7_clue_3 := dk_seg dksX7_clue_2 24 rfl rfl
theorem dX7_clue_0 : decode cX7_clue 0 = .ok (.aload_n 0, 1) := dk_42 (dk_at dksX7_clue_0 0 rfl rfl)
theorem dX7_clue_1 : decode cX7_clue 1 = .ok (.iconst 0, 1) := dk_3 (dk_at dksX7_clue_0 1 rfl rfl)
theorem dX7_clue_2 : decode cX7_clue 2 = .ok (.putfield 66, 3) := dk_181 0 66 (dk_at dksX7_clue_0 2 rfl rfl)
theorem dX7_clue_5 : decode cX7_clue 5 = .ok (.aload_n 0, 1) := dk_42 (dk_at dksX7_clue_0 5 rfl rfl)
theorem dX7_clue_6 : decode cX7_clue 6 = .ok (.iload_n 1, 1) := dk_27 (dk_at dksX7_clue_0 6 rfl rfl)
theorem dX7_clue_7 : decode cX7_clue 7 = .ok (.invokevirtual 503, 3) := dk_182 1 247 (dk_at dksX7_clue_0 7 rfl rfl)
theorem dX7_clue_10 : decode cX7_clue 10 = .ok (.ifCond .eq 12, 3) := dk_153 0 12 (dk_at dksX7_clue_0 10 rfl rfl)
theorem dX7_clue_13 : decode cX7_clue 13 = .ok (.iload_n 2, 1) := dk_28 (dk_at dksX7_clue_0 13 rfl rfl)
theorem dX7_clue_14 : decode cX7_clue 14 = .ok (.iconst 0, 1) := dk_3 (dk_at dksX7_clue_0 14 rfl rfl)
theorem dX7_clue_15 : decode cX7_clue 15 = .ok (.iconst 3, 1) := dk_6 (dk_at dksX7_clue_0 15 rfl rfl)
theorem dX7_clue_16 : decode cX7_clue 16 = .ok (.invokestatic 147, 3) := dk_184 0 147 (dk_at dksX7_clue_0 16 rfl rfl)
theorem dX7_clue_19 : decode cX7_clue 19 = .ok (.ifCond .ne 9, 3) := dk_154 0 9 (dk_at dksX7_clue_0 19 rfl rfl)
theorem dX7_clue_22 : decode cX7_clue 22 = .ok (.aload_n 0, 1) := dk_42 (dk_at dksX7_clue_0 22 rfl rfl)
theorem dX7_clue_23 : decode cX7_clue 23 = .ok (.iconst 1, 1) := dk_4 (dk_at dksX7_clue_0 23 rfl rfl)
theorem dX7_clue_24 : decode cX7_clue 24 = .ok (.invokevirtual 72, 3) := dk_182 0 72 (dk_at dksX7_clue_1 0 rfl rfl)
theorem dX7_clue_27 : decode cX7_clue 27 = .ok (.ireturn, 1) := dk_172 (dk_at dksX7_clue_1 3 rfl rfl)
theorem dX7_clue_28 : decode cX7_clue 28 = .ok (.aload_n 0, 1) := dk_42 (dk_at dksX7_clue_1 4 rfl rfl)
theorem dX7_clue_29 : decode cX7_clue 29 = .ok (.iload_n 2, 1) := dk_28 (dk_at dksX7_clue_1 5 rfl rfl)
theorem dX7_clue_30 : decode cX7_clue 30 = .ok (.ifCond .ne 15, 3) := dk_154 0 15 (dk_at dksX7_clue_1 6 rfl rfl)
theorem dX7_clue_33 : decode cX7_clue 33 = .ok (.aload_n 0, 1) := dk_42 (dk_at dksX7_clue_1 9 rfl rfl)
theorem dX7_clue_34 : decode cX7_clue 34 = .ok (.getfield 442, 3) := dk_180 1 186 (dk_at dksX7_clue_1 10 rfl rfl)
theorem dX7_clue_37 : decode cX7_clue 37 = .ok (.getfield 376, 3) := dk_180 1 120 (dk_at dksX7_clue_1 13 rfl rfl)
theorem dX7_clue_40 : decode cX7_clue 40 = .ok (.iload_n 1, 1) := dk_27 (dk_at dksX7_clue_1 16 rfl rfl)
theorem dX7_clue_41 : decode cX7_clue 41 = .ok (.iaload, 1) := dk_46 (dk_at dksX7_clue_1 17 rfl rfl)
theorem dX7_clue_42 : decode cX7_clue 42 = .ok (.goto 46, 3) := dk_167 0 46 (dk_at dksX7_clue_1 18 rfl rfl)
theorem dX7_clue_45 : decode cX7_clue 45 = .ok (.iload_n 2, 1) := dk_28 (dk_at dksX7_clue_1 21 rfl rfl)
theorem dX7_clue_46 : decode cX7_clue 46 = .ok (.iconst 1, 1) := dk_4 (dk_at dksX7_clue_1 22 rfl rfl)
theorem dX7_clue_47 : decode cX7_clue 47 = .ok (.if_icmp .ne 15, 3) := dk_160 0 15 (dk_at dksX7_clue_2 0 rfl rfl)
theorem dX7_clue_50 : decode cX7_clue 50 = .ok (.aload_n 0, 1) := dk_42 (dk_at dksX7_clue_2 3 rfl rfl)
theorem dX7_clue_51 : decode cX7_clue 51 = .ok (.getfield 442, 3) := dk_180 1 186 (dk_at dksX7_clue_2 4 rfl rfl)
theorem dX7_clue_54 : decode cX7_clue 54 = .ok (.getfield 379, 3) := dk_180 1 123 (dk_at dksX7_clue_2 7 rfl rfl)
theorem dX7_clue_57 : decode cX7_clue 57 = .ok (.iload_n 1, 1) := dk_27 (dk_at dksX7_clue_2 10 rfl rfl)
theorem dX7_clue_58 : decode cX7_clue 58 = .ok (.iaload, 1) := dk_46 (dk_at dksX7_clue_2 11 rfl rfl)
theorem dX7_clue_59 : decode cX7_clue 59 = .ok (.goto 29, 3) := dk_167 0 29 (dk_at dksX7_clue_2 12 rfl rfl)
theorem dX7_clue_62 : decode cX7_clue 62 = .ok (.iload_n 2, 1) := dk_28 (dk_at dksX7_clue_2 15 rfl rfl)
theorem dX7_clue_63 : decode cX7_clue 63 = .ok (.iconst 2, 1) := dk_5 (dk_at dksX7_clue_2 16 rfl rfl)
theorem dX7_clue_64 : decode cX7_clue 64 = .ok (.if_icmp .ne 15, 3) := dk_160 0 15 (dk_at dksX7_clue_2 17 rfl rfl)
theorem dX7_clue_67 : decode cX7_clue 67 = .ok (.aload_n 0, 1) := dk_42 (dk_at dksX7_clue_2 20 rfl rfl)
theorem dX7_clue_68 : decode cX7_clue 68 = .ok (.getfield 442, 3) := dk_180 1 186 (dk_at dksX7_clue_2 21 rfl rfl)
theorem dX7_clue_71 : decode cX7_clue 71 = .ok (.getfield 382, 3) := dk_180 1 126 (dk_at dksX7_clue_3 0 rfl rfl)
theorem dX7_clue_74 : decode cX7_clue 74 = .ok (.iload_n 1, 1) := dk_27 (dk_at dksX7_clue_3 3 rfl rfl)
theorem dX7_clue_75 : decode cX7_clue 75 = .ok (.iaload, 1) := dk_46 (dk_at dksX7_clue_3 4 rfl rfl)
theorem dX7_clue_76 : decode cX7_clue 76 = .ok (.goto 12, 3) := dk_167 0 12 (dk_at dksX7_clue_3 5 rfl rfl)
theorem dX7_clue_79 : decode cX7_clue 79 = .ok (.aload_n 0, 1) := dk_42 (dk_at dksX7_clue_3 8 rfl rfl)
theorem dX7_clue_80 : decode cX7_clue 80 = .ok (.getfield 442, 3) := dk_180 1 186 (dk_at dksX7_clue_3 9 rfl rfl)
theorem dX7_clue_83 : decode cX7_clue 83 = .ok (.getfield 385, 3) := dk_180 1 129 (dk_at dksX7_clue_3 12 rfl rfl)
theorem dX7_clue_86 : decode cX7_clue 86 = .ok (.iload_n 1, 1) := dk_27 (dk_at dksX7_clue_3 15 rfl rfl)
theorem dX7_clue_87 : decode cX7_clue 87 = .ok (.iaload, 1) := dk_46 (dk_at dksX7_clue_3 16 rfl rfl)
theorem dX7_clue_88 : decode cX7_clue 88 = .ok (.invokevirtual 76, 3) := dk_182 0 76 (dk_at dksX7_clue_3 17 rfl rfl)
theorem dX7_clue_91 : decode cX7_clue 91 = .ok (.ireturn, 1) := dk_172 (dk_at dksX7_clue_3 20 rfl rfl)
def dkwX1_isPerson_1 : List UInt8 := [4, 167, 0, 4, 3, 172]
abbrev dktX1_isPerson_1 : List UInt8 := dkwX1_isPerson_1 ++ []
def dkwX1_isPerson_0 : List UInt8 := [42, 180, 0, 104, 198, 0, 24, 27, 3, 42, 180, 0, 104, 180, 0, 136, 4, 100, 184, 0, 90, 153, 0, 7]
abbrev dktX1_isPerson_0 : List UInt8 := dkwX1_isPerson_0 ++ dktX1_isPerson_1
theorem dksX1_isPerson_0 : cX1_isPerson.data.toList.drop 0 = dktX1_isPerson_0 := by decide +kernel
theorem dksX1_isPerson_1 : cX1_isPerson.data.toList.drop 24 = dktX1_isPerson_1 := dk_seg dksX1_isPerson_0 24 rfl rfl
theorem dX1_isPerson_0 : decode cX1_isPerson 0 = .ok (.aload_n 0, 1) := dk_42 (dk_at dksX1_isPerson_0 0 rfl rfl)
theorem dX1_isPerson_1 : decode cX1_isPerson 1 = .ok (.getfield 104, 3) := dk_180 0 104 (dk_at dksX1_isPerson_0 1 rfl rfl)
theorem dX1_isPerson_4 : decode cX1_isPerson 4 = .ok (.ifnull 24, 3) := dk_198 0 24 (dk_at dksX1_isPerson_0 4 rfl rfl)
theorem dX1_isPerson_7 : decode cX1_isPerson 7 = .ok (.iload_n 1, 1) := dk_27 (dk_at dksX1_isPerson_0 7 rfl rfl)
theorem dX1_isPerson_8 : decode cX1_isPerson 8 = .ok (.iconst 0, 1) := dk_3 (dk_at dksX1_isPerson_0 8 rfl rfl)
theorem dX1_isPerson_9 : decode cX1_isPerson 9 = .ok (.aload_n 0, 1) := dk_42 (dk_at dksX1_isPerson_0 9 rfl rfl)
theorem dX1_isPerson_10 : decode cX1_isPerson 10 = .ok (.getfield 104, 3) := dk_180 0 104 (dk_at dksX1_isPerson_0 10 rfl rfl)
theorem dX1_isPerson_13 : decode cX1_isPerson 13 = .ok (.getfield 136, 3) := dk_180 0 136 (dk_at dksX1_isPerson_0 13 rfl rfl)
theorem dX1_isPerson_16 : decode cX1_isPerson 16 = .ok (.iconst 1, 1) := dk_4 (dk_at dksX1_isPerson_0 16 rfl rfl)
theorem dX1_isPerson_17 : decode cX1_isPerson 17 = .ok (.isub, 1) := dk_100 (dk_at dksX1_isPerson_0 17 rfl rfl)
theorem dX1_isPerson_18 : decode cX1_isPerson 18 = .ok (.invokestatic 90, 3) := dk_184 0 90 (dk_at dksX1_isPerson_0 18 rfl rfl)
theorem dX1_isPerson_21 : decode cX1_isPerson 21 = .ok (.ifCond .eq 7, 3) := dk_153 0 7 (dk_at dksX1_isPerson_0 21 rfl rfl)
theorem dX1_isPerson_24 : decode cX1_isPerson 24 = .ok (.iconst 1, 1) := dk_4 (dk_at dksX1_isPerson_1 0 rfl rfl)
theorem dX1_isPerson_25 : decode cX1_isPerson 25 = .ok (.goto 4, 3) := dk_167 0 4 (dk_at dksX1_isPerson_1 1 rfl rfl)
theorem dX1_isPerson_28 : decode cX1_isPerson 28 = .ok (.iconst 0, 1) := dk_3 (dk_at dksX1_isPerson_1 4 rfl rfl)
theorem dX1_isPerson_29 : decode cX1_isPerson 29 = .ok (.ireturn, 1) := dk_172 (dk_at dksX1_isPerson_1 5 rfl rfl)
def dkwX1_isHour_0 : List UInt8 := [27, 3, 42, 180, 0, 104, 180, 0, 148, 4, 100, 184, 0, 90, 172]
abbrev dktX1_isHour_0 : List UInt8 := dkwX1_isHour_0 ++ []
theorem dksX1_isHour_0 : cX1_isHour.data.toList.drop 0 = dktX1_isHour_0 := by decide +kernel
theorem dX1_isHour_0 : decode cX1_isHour 0 = .ok (.iload_n 1, 1) := dk_27 (dk_at dksX1_isHour_0 0 rfl rfl)
theorem dX1_isHour_1 : decode cX1_isHour 1 = .ok (.iconst 0, 1) := dk_3 (dk_at dksX1_isHour_0 1 rfl rfl)
theorem dX1_isHour_2 : decode cX1_isHour 2 = .ok (.aload_n 0, 1) := dk_42 (dk_at dksX1_isHour_0 2 rfl rfl)
theorem dX1_isHour_3 : decode cX1_isHour 3 = .ok (.getfield 104, 3) := dk_180 0 104 (dk_at dksX1_isHour_0 3 rfl rfl)
theorem dX1_isHour_6 : decode cX1_isHour 6 = .ok (.getfield 148, 3) := dk_180 0 148 (dk_at dksX1_isHour_0 6 rfl rfl)
theorem dX1_isHour_9 : decode cX1_isHour 9 = .ok (.iconst 1, 1) := dk_4 (dk_at dksX1_isHour_0 9 rfl rfl)
theorem dX1_isHour_10 : decode cX1_isHour 10 = .ok (.isub, 1) := dk_100 (dk_at dksX1_isHour_0 10 rfl rfl)
theorem dX1_isHour_11 : decode cX1_isHour 11 = .ok (.invokestatic 90, 3) := dk_184 0 90 (dk_at dksX1_isHour_0 11 rfl rfl)
theorem dX1_isHour_14 : decode cX1_isHour 14 = .ok (.ireturn, 1) := dk_172 (dk_at dksX1_isHour_0 14 rfl rfl)
def dkwX11_at_0 : List UInt8 := [42, 180, 0, 9, 16, 12, 27, 104, 28, 42, 180, 0, 15, 27, 46, 4, 100, 184, 0, 22, 96, 46, 172]
abbrev dktX11_at_0 : List UInt8 := dkwX11_at_0 ++ []
theorem dksX11_at_0 : cX11_at.data.toList.drop 0 = dktX11_at_0 := by decide +kernel
theorem dX11_at_0 : decode cX11_at 0 = .ok (.aload_n 0, 1) := dk_42 (dk_at dksX11_at_0 0 rfl rfl)
theorem dX11_at_1 : decode cX11_at 1 = .ok (.getfield 9, 3) := dk_180 0 9 (dk_at dksX11_at_0 1 rfl rfl)
theorem dX11_at_4 : decode cX11_at 4 = .ok (.bipush 12, 2) := dk_16 12 (dk_at dksX11_at_0 4 rfl rfl)
theorem dX11_at_6 : decode cX11_at 6 = .ok (.iload_n 1, 1) := dk_27 (dk_at dksX11_at_0 6 rfl rfl)
theorem dX11_at_7 : decode cX11_at 7 = .ok (.imul, 1) := dk_104 (dk_at dksX11_at_0 7 rfl rfl)
theorem dX11_at_8 : decode cX11_at 8 = .ok (.iload_n 2, 1) := dk_28 (dk_at dksX11_at_0 8 rfl rfl)
theorem dX11_at_9 : decode cX11_at 9 = .ok (.aload_n 0, 1) := dk_42 (dk_at dksX11_at_0 9 rfl rfl)
theorem dX11_at_10 : decode cX11_at 10 = .ok (.getfield 15, 3) := dk_180 0 15 (dk_at dksX11_at_0 10 rfl rfl)
theorem dX11_at_13 : decode cX11_at 13 = .ok (.iload_n 1, 1) := dk_27 (dk_at dksX11_at_0 13 rfl rfl)
theorem dX11_at_14 : decode cX11_at 14 = .ok (.iaload, 1) := dk_46 (dk_at dksX11_at_0 14 rfl rfl)
theorem dX11_at_15 : decode cX11_at 15 = .ok (.iconst 1, 1) := dk_4 (dk_at dksX11_at_0 15 rfl rfl)
theorem dX11_at_16 : decode cX11_at 16 = .ok (.isub, 1) := dk_100 (dk_at dksX11_at_0 16 rfl rfl)
theorem dX11_at_17 : decode cX11_at 17 = .ok (.invokestatic 22, 3) := dk_184 0 22 (dk_at dksX11_at_0 17 rfl rfl)
theorem dX11_at_20 : decode cX11_at 20 = .ok (.iadd, 1) := dk_96 (dk_at dksX11_at_0 20 rfl rfl)
theorem dX11_at_21 : decode cX11_at 21 = .ok (.iaload, 1) := dk_46 (dk_at dksX11_at_0 21 rfl rfl)
theorem dX11_at_22 : decode cX11_at 22 = .ok (.ireturn, 1) := dk_172 (dk_at dksX11_at_0 22 rfl rfl)
def dkwX1_story_3 : List UInt8 := [182, 0, 94, 172]
abbrev dktX1_story_3 : List UInt8 := dkwX1_story_3 ++ []
def dkwX1_story_2 : List UInt8 := [153, 0, 20, 42, 180, 0, 104, 180, 0, 235, 27, 50, 28, 29, 182, 0, 247, 167, 0, 8, 42, 5]
abbrev dktX1_story_2 : List UInt8 := dkwX1_story_2 ++ dktX1_story_3
def dkwX1_story_1 : List UInt8 := [180, 0, 239, 4, 100, 184, 0, 90, 154, 0, 9, 42, 4, 182, 0, 94, 172, 42, 29, 182, 0, 244]
abbrev dktX1_story_1 : List UInt8 := dkwX1_story_1 ++ dktX1_story_2
def dkwX1_story_0 : List UInt8 := [42, 182, 0, 80, 42, 27, 182, 0, 232, 153, 0, 25, 28, 3, 42, 180, 0, 104, 180, 0, 235, 27, 50]
abbrev dktX1_story_0 : List UInt8 := dkwX1_story_0 ++ dktX1_story_1
theorem dksX1_story_0 : cX1_story.data.toList.drop 0 = dktX1_story_0 := by decide +kernel
theorem dksX1_story_1 : cX1_story.data.toList.drop 23 = dktX1_story_1 := dk_seg dksX1_story_0 23 rfl rfl
theorem dksX1_story_2 : cX1_story.data.toList.drop 45 = dktX1_story_2 := dk_seg dksX1_story_1 22 rfl rfl
theorem dksX1_story_3 : cX1_story.data.toList.drop 67 = dktX1_story_3 := dk_seg dksX1_story_2 22 rfl rfl
theorem dX1_story_0 : decode cX1_story 0 = .ok (.aload_n 0, 1) := dk_42 (dk_at dksX1_story_0 0 rfl rfl)
theorem dX1_story_1 : decode cX1_story 1 = .ok (.invokevirtual 80, 3) := dk_182 0 80 (dk_at dksX1_story_0 1 rfl rfl)
theorem dX1_story_4 : decode cX1_story 4 = .ok (.aload_n 0, 1) := dk_42 (dk_at dksX1_story_0 4 rfl rfl)
theorem dX1_story_5 : decode cX1_story 5 = .ok (.iload_n 1, 1) := dk_27 (dk_at dksX1_story_0 5 rfl rfl)
theorem dX1_story_6 : decode cX1_story 6 = .ok (.invokevirtual 232, 3) := dk_182 0 232 (dk_at dksX1_story_0 6 rfl rfl)
theorem dX1_story_9 : decode cX1_story 9 = .ok (.ifCond .eq 25, 3) := dk_153 0 25 (dk_at dksX1_story_0 9 rfl rfl)
theorem dX1_story_12 : decode cX1_story 12 = .ok (.iload_n 2, 1) := dk_28 (dk_at dksX1_story_0 12 rfl rfl)
theorem dX1_story_13 : decode cX1_story 13 = .ok (.iconst 0, 1) := dk_3 (dk_at dksX1_story_0 13 rfl rfl)
theorem dX1_story_14 : decode cX1_story 14 = .ok (.aload_n 0, 1) := dk_42 (dk_at dksX1_story_0 14 rfl rfl)
theorem dX1_story_15 : decode cX1_story 15 = .ok (.getfield 104, 3) := dk_180 0 104 (dk_at dksX1_story_0 15 rfl rfl)
theorem dX1_story_18 : decode cX1_story 18 = .ok (.getfield 235, 3) := dk_180 0 235 (dk_at dksX1_story_0 18 rfl rfl)
theorem dX1_story_21 : decode cX1_story 21 = .ok (.iload_n 1, 1) := dk_27 (dk_at dksX1_story_0 21 rfl rfl)
theorem dX1_story_22 : decode cX1_story 22 = .ok (.aaload, 1) := dk_50 (dk_at dksX1_story_0 22 rfl rfl)
theorem dX1_story_23 : decode cX1_story 23 = .ok (.getfield 239, 3) := dk_180 0 239 (dk_at dksX1_story_1 0 rfl rfl)
theorem dX1_story_26 : decode cX1_story 26 = .ok (.iconst 1, 1) := dk_4 (dk_at dksX1_story_1 3 rfl rfl)
theorem dX1_story_27 : decode cX1_story 27 = .ok (.isub, 1) := dk_100 (dk_at dksX1_story_1 4 rfl rfl)
theorem dX1_story_28 : decode cX1_story 28 = .ok (.invokestatic 90, 3) := dk_184 0 90 (dk_at dksX1_story_1 5 rfl rfl)
theorem dX1_story_31 : decode cX1_story 31 = .ok (.ifCond .ne 9, 3) := dk_154 0 9 (dk_at dksX1_story_1 8 rfl rfl)
theorem dX1_story_34 : decode cX1_story 34 = .ok (.aload_n 0, 1) := dk_42 (dk_at dksX1_story_1 11 rfl rfl)
theorem dX1_story_35 : decode cX1_story 35 = .ok (.iconst 1, 1) := dk_4 (dk_at dksX1_story_1 12 rfl rfl)
theorem dX1_story_36 : decode cX1_story 36 = .ok (.invokevirtual 94, 3) := dk_182 0 94 (dk_at dksX1_story_1 13 rfl rfl)
theorem dX1_story_39 : decode cX1_story 39 = .ok (.ireturn, 1) := dk_172 (dk_at dksX1_story_1 16 rfl rfl)
theorem dX1_story_40 : decode cX1_story 40 = .ok (.aload_n 0, 1) := dk_42 (dk_at dksX1_story_1 17 rfl rfl)
theorem dX1_story_41 : decode cX1_story 41 = .ok (.iload_n 3, 1) := dk_29 (dk_at dksX1_story_1 18 rfl rfl)
theorem dX1_story_42 : decode cX1_story 42 = .ok (.invokevirtual 244, 3) := dk_182 0 244 (dk_at dksX1_story_1 19 rfl rfl)
theorem dX1_story_45 : decode cX1_story 45 = .ok (.ifCond .eq 20, 3) := dk_153 0 20 (dk_at dksX1_story_2 0 rfl rfl)
theorem dX1_story_48 : decode cX1_story 48 = .ok (.aload_n 0, 1) := dk_42 (dk_at dksX1_story_2 3 rfl rfl)
theorem dX1_story_49 : decode cX1_story 49 = .ok (.getfield 104, 3) := dk_180 0 104 (dk_at dksX1_story_2 4 rfl rfl)
theorem dX1_story_52 : decode cX1_story 52 = .ok (.getfield 235, 3) := dk_180 0 235 (dk_at dksX1_story_2 7 rfl rfl)
theorem dX1_story_55 : decode cX1_story 55 = .ok (.iload_n 1, 1) := dk_27 (dk_at dksX1_story_2 10 rfl rfl)
theorem dX1_story_56 : decode cX1_story 56 = .ok (.aaload, 1) := dk_50 (dk_at dksX1_story_2 11 rfl rfl)
theorem dX1_story_57 : decode cX1_story 57 = .ok (.iload_n 2, 1) := dk_28 (dk_at dksX1_story_2 12 rfl rfl)
theorem dX1_story_58 : decode cX1_story 58 = .ok (.iload_n 3, 1) := dk_29 (dk_at dksX1_story_2 13 rfl rfl)
theorem dX1_story_59 : decode cX1_story 59 = .ok (.invokevirtual 247, 3) := dk_182 0 247 (dk_at dksX1_story_2 14 rfl rfl)
theorem dX1_story_62 : decode cX1_story 62 = .ok (.goto 8, 3) := dk_167 0 8 (dk_at dksX1_story_2 17 rfl rfl)
theorem dX1_story_65 : decode cX1_story 65 = .ok (.aload_n 0, 1) := dk_42 (dk_at dksX1_story_2 20 rfl rfl)
theorem dX1_story_66 : decode cX1_story 66 = .ok (.iconst 2, 1) := dk_5 (dk_at dksX1_story_2 21 rfl rfl)
theorem dX1_story_67 : decode cX1_story 67 = .ok (.invokevirtual 94, 3) := dk_182 0 94 (dk_at dksX1_story_3 0 rfl rfl)
theorem dX1_story_70 : decode cX1_story 70 = .ok (.ireturn, 1) := dk_172 (dk_at dksX1_story_3 3 rfl rfl)
def dkwX7_isPerson_1 : List UInt8 := [167, 0, 4, 3, 172]
abbrev dktX7_isPerson_1 : List UInt8 := dkwX7_isPerson_1 ++ []
def dkwX7_isPerson_0 : List UInt8 := [42, 180, 1, 186, 198, 0, 22, 27, 155, 0, 18, 27, 42, 180, 1, 186, 180, 1, 64, 162, 0, 7, 4]
abbrev dktX7_isPerson_0 : List UInt8 := dkwX7_isPerson_0 ++ dktX7_isPerson_1
theorem dksX7_isPerson_0 : cX7_isPerson.data.toList.drop 0 = dktX7_isPerson_0 := by decide +kernel
theorem dksX7_isPerson_1 : cX7_isPerson.data.toList.drop 23 = dktX7_isPerson_1 := dk_seg dksX7_isPerson_0 23 rfl rfl
theorem dX7_isPerson_0 : decode cX7_isPerson 0 = .ok (.aload_n 0, 1) := dk_42 (dk_at dksX7_isPerson_0 0 rfl rfl)
theorem dX7_isPerson_1 : decode cX7_isPerson 1 = .ok (.getfield 442, 3) := dk_180 1 186 (dk_at dksX7_isPerson_0 1 rfl rfl)
theorem dX7_isPerson_4 : decode cX7_isPerson 4 = .ok (.ifnull 22, 3) := dk_198 0 22 (dk_at dksX7_isPerson_0 4 rfl rfl)
theorem dX7_isPerson_7 : decode cX7_isPerson 7 = .ok (.iload_n 1, 1) := dk_27 (dk_at dksX7_isPerson_0 7 rfl rfl)
theorem dX7_isPerson_8 : decode cX7_isPerson 8 = .ok (.ifCond .lt 18, 3) := dk_155 0 18 (dk_at dksX7_isPerson_0 8 rfl rfl)
theorem dX7_isPerson_11 : decode cX7_isPerson 11 = .ok (.iload_n 1, 1) := dk_27 (dk_at dksX7_isPerson_0 11 rfl rfl)
theorem dX7_isPerson_12 : decode cX7_isPerson 12 = .ok (.aload_n 0, 1) := dk_42 (dk_at dksX7_isPerson_0 12 rfl rfl)
theorem dX7_isPerson_13 : decode cX7_isPerson 13 = .ok (.getfield 442, 3) := dk_180 1 186 (dk_at dksX7_isPerson_0 13 rfl rfl)
theorem dX7_isPerson_16 : decode cX7_isPerson 16 = .ok (.getfield 320, 3) := dk_180 1 64 (dk_at dksX7_isPerson_0 16 rfl rfl)
theorem dX7_isPerson_19 : decode cX7_isPerson 19 = .ok (.if_icmp .ge 7, 3) := dk_162 0 7 (dk_at dksX7_isPerson_0 19 rfl rfl)
theorem dX7_isPerson_22 : decode cX7_isPerson 22 = .ok (.iconst 1, 1) := dk_4 (dk_at dksX7_isPerson_0 22 rfl rfl)
theorem dX7_isPerson_23 : decode cX7_isPerson 23 = .ok (.goto 4, 3) := dk_167 0 4 (dk_at dksX7_isPerson_1 0 rfl rfl)
theorem dX7_isPerson_26 : decode cX7_isPerson 26 = .ok (.iconst 0, 1) := dk_3 (dk_at dksX7_isPerson_1 3 rfl rfl)
theorem dX7_isPerson_27 : decode cX7_isPerson 27 = .ok (.ireturn, 1) := dk_172 (dk_at dksX7_isPerson_1 4 rfl rfl)
def dkwX7_isHour_0 : List UInt8 := [27, 155, 0, 18, 27, 42, 180, 1, 186, 180, 0, 196, 162, 0, 7, 4, 167, 0, 4, 3, 172]
abbrev dktX7_isHour_0 : List UInt8 := dkwX7_isHour_0 ++ []
theorem dksX7_isHour_0 : cX7_isHour.data.toList.drop 0 = dktX7_isHour_0 := by decide +kernel
theorem dX7_isHour_0 : decode cX7_isHour 0 = .ok (.iload_n 1, 1) := dk_27 (dk_at dksX7_isHour_0 0 rfl rfl)
theorem dX7_isHour_1 : decode cX7_isHour 1 = .ok (.ifCond .lt 18, 3) := dk_155 0 18 (dk_at dksX7_isHour_0 1 rfl rfl)
theorem dX7_isHour_4 : decode cX7_isHour 4 = .ok (.iload_n 1, 1) := dk_27 (dk_at dksX7_isHour_0 4 rfl rfl)
theorem dX7_isHour_5 : decode cX7_isHour 5 = .ok (.aload_n 0, 1) := dk_42 (dk_at dksX7_isHour_0 5 rfl rfl)
theorem dX7_isHour_6 : decode cX7_isHour 6 = .ok (.getfield 442, 3) := dk_180 1 186 (dk_at dksX7_isHour_0 6 rfl rfl)
theorem dX7_isHour_9 : decode cX7_isHour 9 = .ok (.getfield 196, 3) := dk_180 0 196 (dk_at dksX7_isHour_0 9 rfl rfl)
theorem dX7_isHour_12 : decode cX7_isHour 12 = .ok (.if_icmp .ge 7, 3) := dk_162 0 7 (dk_at dksX7_isHour_0 12 rfl rfl)
theorem dX7_isHour_15 : decode cX7_isHour 15 = .ok (.iconst 1, 1) := dk_4 (dk_at dksX7_isHour_0 15 rfl rfl)
theorem dX7_isHour_16 : decode cX7_isHour 16 = .ok (.goto 4, 3) := dk_167 0 4 (dk_at dksX7_isHour_0 16 rfl rfl)
theorem dX7_isHour_19 : decode cX7_isHour 19 = .ok (.iconst 0, 1) := dk_3 (dk_at dksX7_isHour_0 19 rfl rfl)
theorem dX7_isHour_20 : decode cX7_isHour 20 = .ok (.ireturn, 1) := dk_172 (dk_at dksX7_isHour_0 20 rfl rfl)
def dkwX24_place_0 : List UInt8 := [42, 180, 0, 24, 6, 27, 104, 28, 96, 16, 12, 104, 29, 96, 46, 172]
abbrev dktX24_place_0 : List UInt8 := dkwX24_place_0 ++ []
theorem dksX24_place_0 : cX24_place.data.toList.drop 0 = dktX24_place_0 := by decide +kernel
theorem dX24_place_0 : decode cX24_place 0 = .ok (.aload_n 0, 1) := dk_42 (dk_at dksX24_place_0 0 rfl rfl)
theorem dX24_place_1 : decode cX24_place 1 = .ok (.getfield 24, 3) := dk_180 0 24 (dk_at dksX24_place_0 1 rfl rfl)
theorem dX24_place_4 : decode cX24_place 4 = .ok (.iconst 3, 1) := dk_6 (dk_at dksX24_place_0 4 rfl rfl)
theorem dX24_place_5 : decode cX24_place 5 = .ok (.iload_n 1, 1) := dk_27 (dk_at dksX24_place_0 5 rfl rfl)
theorem dX24_place_6 : decode cX24_place 6 = .ok (.imul, 1) := dk_104 (dk_at dksX24_place_0 6 rfl rfl)
theorem dX24_place_7 : decode cX24_place 7 = .ok (.iload_n 2, 1) := dk_28 (dk_at dksX24_place_0 7 rfl rfl)
theorem dX24_place_8 : decode cX24_place 8 = .ok (.iadd, 1) := dk_96 (dk_at dksX24_place_0 8 rfl rfl)
theorem dX24_place_9 : decode cX24_place 9 = .ok (.bipush 12, 2) := dk_16 12 (dk_at dksX24_place_0 9 rfl rfl)
theorem dX24_place_11 : decode cX24_place 11 = .ok (.imul, 1) := dk_104 (dk_at dksX24_place_0 11 rfl rfl)
theorem dX24_place_12 : decode cX24_place 12 = .ok (.iload_n 3, 1) := dk_29 (dk_at dksX24_place_0 12 rfl rfl)
theorem dX24_place_13 : decode cX24_place 13 = .ok (.iadd, 1) := dk_96 (dk_at dksX24_place_0 13 rfl rfl)
theorem dX24_place_14 : decode cX24_place 14 = .ok (.iaload, 1) := dk_46 (dk_at dksX24_place_0 14 rfl rfl)
theorem dX24_place_15 : decode cX24_place 15 = .ok (.ireturn, 1) := dk_172 (dk_at dksX24_place_0 15 rfl rfl)
def dkwX7_story_2 : List UInt8 := [180, 1, 186, 27, 28, 29, 182, 2, 0, 182, 0, 76, 167, 0, 8, 42, 5, 182, 0, 72, 172]
abbrev dktX7_story_2 : List UInt8 := dkwX7_story_2 ++ []
def dkwX7_story_1 : List UInt8 := [180, 1, 67, 27, 46, 161, 0, 9, 42, 4, 182, 0, 72, 172, 42, 29, 182, 1, 253, 153, 0, 20, 42, 42]
abbrev dktX7_story_1 : List UInt8 := dkwX7_story_1 ++ dktX7_story_2
def dkwX7_story_0 : List UInt8 := [42, 3, 181, 0, 66, 42, 27, 182, 1, 250, 153, 0, 20, 28, 155, 0, 16, 28, 42, 180, 1, 186]
abbrev dktX7_story_0 : List UInt8 := dkwX7_story_0 ++ dktX7_story_1
theorem dksX7_story_0 : cX7_story.data.toList.drop 0 = dktX7_story_0 := by decide +kernel
theorem dksX7_story_1 : cX7_story.data.toList.drop 22 = dktX7_story_1 := dk_seg dksX7_story_0 22 rfl rfl
theorem dksX7_story_2 : cX7_story.data.toList.drop 46 = dktX7_story_2 := dk_seg dksX7_story_1 24 rfl rfl
theorem dX7_story_0 : decode cX7_story 0 = .ok (.aload_n 0, 1) := dk_42 (dk_at dksX7_story_0 0 rfl rfl)
theorem dX7_story_1 : decode cX7_story 1 = .ok (.iconst 0, 1) := dk_3 (dk_at dksX7_story_0 1 rfl rfl)
theorem dX7_story_2 : decode cX7_story 2 = .ok (.putfield 66, 3) := dk_181 0 66 (dk_at dksX7_story_0 2 rfl rfl)
theorem dX7_story_5 : decode cX7_story 5 = .ok (.aload_n 0, 1) := dk_42 (dk_at dksX7_story_0 5 rfl rfl)
theorem dX7_story_6 : decode cX7_story 6 = .ok (.iload_n 1, 1) := dk_27 (dk_at dksX7_story_0 6 rfl rfl)
theorem dX7_story_7 : decode cX7_story 7 = .ok (.invokevirtual 506, 3) := dk_182 1 250 (dk_at dksX7_story_0 7 rfl rfl)
theorem dX7_story_10 : decode cX7_story 10 = .ok (.ifCond .eq 20, 3) := dk_153 0 20 (dk_at dksX7_story_0 10 rfl rfl)
theorem dX7_story_13 : decode cX7_story 13 = .ok (.iload_n 2, 1) := dk_28 (dk_at dksX7_story_0 13 rfl rfl)
theorem dX7_story_14 : decode cX7_story 14 = .ok (.ifCond .lt 16, 3) := dk_155 0 16 (dk_at dksX7_story_0 14 rfl rfl)
theorem dX7_story_17 : decode cX7_story 17 = .ok (.iload_n 2, 1) := dk_28 (dk_at dksX7_story_0 17 rfl rfl)
theorem dX7_story_18 : decode cX7_story 18 = .ok (.aload_n 0, 1) := dk_42 (dk_at dksX7_story_0 18 rfl rfl)
theorem dX7_story_19 : decode cX7_story 19 = .ok (.getfield 442, 3) := dk_180 1 186 (dk_at dksX7_story_0 19 rfl rfl)
theorem dX7_story_22 : decode cX7_story 22 = .ok (.getfield 323, 3) := dk_180 1 67 (dk_at dksX7_story_1 0 rfl rfl)
theorem dX7_story_25 : decode cX7_story 25 = .ok (.iload_n 1, 1) := dk_27 (dk_at dksX7_story_1 3 rfl rfl)
theorem dX7_story_26 : decode cX7_story 26 = .ok (.iaload, 1) := dk_46 (dk_at dksX7_story_1 4 rfl rfl)
theorem dX7_story_27 : decode cX7_story 27 = .ok (.if_icmp .lt 9, 3) := dk_161 0 9 (dk_at dksX7_story_1 5 rfl rfl)
theorem dX7_story_30 : decode cX7_story 30 = .ok (.aload_n 0, 1) := dk_42 (dk_at dksX7_story_1 8 rfl rfl)
theorem dX7_story_31 : decode cX7_story 31 = .ok (.iconst 1, 1) := dk_4 (dk_at dksX7_story_1 9 rfl rfl)
theorem dX7_story_32 : decode cX7_story 32 = .ok (.invokevirtual 72, 3) := dk_182 0 72 (dk_at dksX7_story_1 10 rfl rfl)
theorem dX7_story_35 : decode cX7_story 35 = .ok (.ireturn, 1) := dk_172 (dk_at dksX7_story_1 13 rfl rfl)
theorem dX7_story_36 : decode cX7_story 36 = .ok (.aload_n 0, 1) := dk_42 (dk_at dksX7_story_1 14 rfl rfl)
theorem dX7_story_37 : decode cX7_story 37 = .ok (.iload_n 3, 1) := dk_29 (dk_at dksX7_story_1 15 rfl rfl)
theorem dX7_story_38 : decode cX7_story 38 = .ok (.invokevirtual 509, 3) := dk_182 1 253 (dk_at dksX7_story_1 16 rfl rfl)
theorem dX7_story_41 : decode cX7_story 41 = .ok (.ifCond .eq 20, 3) := dk_153 0 20 (dk_at dksX7_story_1 19 rfl rfl)
theorem dX7_story_44 : decode cX7_story 44 = .ok (.aload_n 0, 1) := dk_42 (dk_at dksX7_story_1 22 rfl rfl)
theorem dX7_story_45 : decode cX7_story 45 = .ok (.aload_n 0, 1) := dk_42 (dk_at dksX7_story_1 23 rfl rfl)
theorem dX7_story_46 : decode cX7_story 46 = .ok (.getfield 442, 3) := dk_180 1 186 (dk_at dksX7_story_2 0 rfl rfl)
theorem dX7_story_49 : decode cX7_story 49 = .ok (.iload_n 1, 1) := dk_27 (dk_at dksX7_story_2 3 rfl rfl)
theorem dX7_story_50 : decode cX7_story 50 = .ok (.iload_n 2, 1) := dk_28 (dk_at dksX7_story_2 4 rfl rfl)
theorem dX7_story_51 : decode cX7_story 51 = .ok (.iload_n 3, 1) := dk_29 (dk_at dksX7_story_2 5 rfl rfl)
theorem dX7_story_52 : decode cX7_story 52 = .ok (.invokevirtual 512, 3) := dk_182 2 0 (dk_at dksX7_story_2 6 rfl rfl)
theorem dX7_story_55 : decode cX7_story 55 = .ok (.invokevirtual 76, 3) := dk_182 0 76 (dk_at dksX7_story_2 9 rfl rfl)
theorem dX7_story_58 : decode cX7_story 58 = .ok (.goto 8, 3) := dk_167 0 8 (dk_at dksX7_story_2 12 rfl rfl)
theorem dX7_story_61 : decode cX7_story 61 = .ok (.aload_n 0, 1) := dk_42 (dk_at dksX7_story_2 15 rfl rfl)
theorem dX7_story_62 : decode cX7_story 62 = .ok (.iconst 2, 1) := dk_5 (dk_at dksX7_story_2 16 rfl rfl)
theorem dX7_story_63 : decode cX7_story 63 = .ok (.invokevirtual 72, 3) := dk_182 0 72 (dk_at dksX7_story_2 17 rfl rfl)
theorem dX7_story_66 : decode cX7_story 66 = .ok (.ireturn, 1) := dk_172 (dk_at dksX7_story_2 20 rfl rfl)
def dkwX1_stories_1 : List UInt8 := [167, 0, 8, 42, 4, 182, 0, 94, 172]
abbrev dktX1_stories_1 : List UInt8 := dkwX1_stories_1 ++ []
def dkwX1_stories_0 : List UInt8 := [42, 182, 0, 80, 42, 27, 182, 0, 232, 153, 0, 18, 42, 180, 0, 104, 180, 0, 235, 27, 50, 180, 0, 239]
abbrev dktX1_stories_0 : List UInt8 := dkwX1_stories_0 ++ dktX1_stories_1
theorem dksX1_stories_0 : cX1_stories.data.toList.drop 0 = dktX1_stories_0 := by decide +kernel
theorem dksX1_stories_1 : cX1_stories.data.toList.drop 24 = dktX1_stories_1 := dk_seg dksX1_stories_0 24 rfl rfl
theorem dX1_stories_0 : decode cX1_stories 0 = .ok (.aload_n 0, 1) := dk_42 (dk_at dksX1_stories_0 0 rfl rfl)
theorem dX1_stories_1 : decode cX1_stories 1 = .ok (.invokevirtual 80, 3) := dk_182 0 80 (dk_at dksX1_stories_0 1 rfl rfl)
theorem dX1_stories_4 : decode cX1_stories 4 = .ok (.aload_n 0, 1) := dk_42 (dk_at dksX1_stories_0 4 rfl rfl)
theorem dX1_stories_5 : decode cX1_stories 5 = .ok (.iload_n 1, 1) := dk_27 (dk_at dksX1_stories_0 5 rfl rfl)
theorem dX1_stories_6 : decode cX1_stories 6 = .ok (.invokevirtual 232, 3) := dk_182 0 232 (dk_at dksX1_stories_0 6 rfl rfl)
theorem dX1_stories_9 : decode cX1_stories 9 = .ok (.ifCond .eq 18, 3) := dk_153 0 18 (dk_at dksX1_stories_0 9 rfl rfl)
theorem dX1_stories_12 : decode cX1_stories 12 = .ok (.aload_n 0, 1) := dk_42 (dk_at dksX1_stories_0 12 rfl rfl)
theorem dX1_stories_13 : decode cX1_stories 13 = .ok (.getfield 104, 3) := dk_180 0 104 (dk_at dksX1_stories_0 13 rfl rfl)
theorem dX1_stories_16 : decode cX1_stories 16 = .ok (.getfield 235, 3) := dk_180 0 235 (dk_at dksX1_stories_0 16 rfl rfl)
theorem dX1_stories_19 : decode cX1_stories 19 = .ok (.iload_n 1, 1) := dk_27 (dk_at dksX1_stories_0 19 rfl rfl)
theorem dX1_stories_20 : decode cX1_stories 20 = .ok (.aaload, 1) := dk_50 (dk_at dksX1_stories_0 20 rfl rfl)
theorem dX1_stories_21 : decode cX1_stories 21 = .ok (.getfield 239, 3) := dk_180 0 239 (dk_at dksX1_stories_0 21 rfl rfl)
theorem dX1_stories_24 : decode cX1_stories 24 = .ok (.goto 8, 3) := dk_167 0 8 (dk_at dksX1_stories_1 0 rfl rfl)
theorem dX1_stories_27 : decode cX1_stories 27 = .ok (.aload_n 0, 1) := dk_42 (dk_at dksX1_stories_1 3 rfl rfl)
theorem dX1_stories_28 : decode cX1_stories 28 = .ok (.iconst 1, 1) := dk_4 (dk_at dksX1_stories_1 4 rfl rfl)
theorem dX1_stories_29 : decode cX1_stories 29 = .ok (.invokevirtual 94, 3) := dk_182 0 94 (dk_at dksX1_stories_1 5 rfl rfl)
theorem dX1_stories_32 : decode cX1_stories 32 = .ok (.ireturn, 1) := dk_172 (dk_at dksX1_stories_1 8 rfl rfl)
def dkwX7_stories_1 : List UInt8 := [182, 0, 76, 167, 0, 8, 42, 4, 182, 0, 72, 172]
abbrev dktX7_stories_1 : List UInt8 := dkwX7_stories_1 ++ []
def dkwX7_stories_0 : List UInt8 := [42, 3, 181, 0, 66, 42, 27, 182, 1, 250, 153, 0, 19, 42, 42, 180, 1, 186, 180, 1, 67, 27, 46]
abbrev dktX7_stories_0 : List UInt8 := dkwX7_stories_0 ++ dktX7_stories_1
theorem dksX7_stories_0 : cX7_stories.data.toList.drop 0 = dktX7_stories_0 := by decide +kernel
theorem dksX7_stories_1 : cX7_stories.data.toList.drop 23 = dktX7_stories_1 := dk_seg dksX7_stories_0 23 rfl rfl
theorem dX7_stories_0 : decode cX7_stories 0 = .ok (.aload_n 0, 1) := dk_42 (dk_at dksX7_stories_0 0 rfl rfl)
theorem dX7_stories_1 : decode cX7_stories 1 = .ok (.iconst 0, 1) := dk_3 (dk_at dksX7_stories_0 1 rfl rfl)
theorem dX7_stories_2 : decode cX7_stories 2 = .ok (.putfield 66, 3) := dk_181 0 66 (dk_at dksX7_stories_0 2 rfl rfl)
theorem dX7_stories_5 : decode cX7_stories 5 = .ok (.aload_n 0, 1) := dk_42 (dk_at dksX7_stories_0 5 rfl rfl)
theorem dX7_stories_6 : decode cX7_stories 6 = .ok (.iload_n 1, 1) := dk_27 (dk_at dksX7_stories_0 6 rfl rfl)
theorem dX7_stories_7 : decode cX7_stories 7 = .ok (.invokevirtual 506, 3) := dk_182 1 250 (dk_at dksX7_stories_0 7 rfl rfl)
theorem dX7_stories_10 : decode cX7_stories 10 = .ok (.ifCond .eq 19, 3) := dk_153 0 19 (dk_at dksX7_stories_0 10 rfl rfl)
theorem dX7_stories_13 : decode cX7_stories 13 = .ok (.aload_n 0, 1) := dk_42 (dk_at dksX7_stories_0 13 rfl rfl)
theorem dX7_stories_14 : decode cX7_stories 14 = .ok (.aload_n 0, 1) := dk_42 (dk_at dksX7_stories_0 14 rfl rfl)
theorem dX7_stories_15 : decode cX7_stories 15 = .ok (.getfield 442, 3) := dk_180 1 186 (dk_at dksX7_stories_0 15 rfl rfl)
theorem dX7_stories_18 : decode cX7_stories 18 = .ok (.getfield 323, 3) := dk_180 1 67 (dk_at dksX7_stories_0 18 rfl rfl)
theorem dX7_stories_21 : decode cX7_stories 21 = .ok (.iload_n 1, 1) := dk_27 (dk_at dksX7_stories_0 21 rfl rfl)
theorem dX7_stories_22 : decode cX7_stories 22 = .ok (.iaload, 1) := dk_46 (dk_at dksX7_stories_0 22 rfl rfl)
theorem dX7_stories_23 : decode cX7_stories 23 = .ok (.invokevirtual 76, 3) := dk_182 0 76 (dk_at dksX7_stories_1 0 rfl rfl)
theorem dX7_stories_26 : decode cX7_stories 26 = .ok (.goto 8, 3) := dk_167 0 8 (dk_at dksX7_stories_1 3 rfl rfl)
theorem dX7_stories_29 : decode cX7_stories 29 = .ok (.aload_n 0, 1) := dk_42 (dk_at dksX7_stories_1 6 rfl rfl)
theorem dX7_stories_30 : decode cX7_stories 30 = .ok (.iconst 1, 1) := dk_4 (dk_at dksX7_stories_1 7 rfl rfl)
theorem dX7_stories_31 : decode cX7_stories 31 = .ok (.invokevirtual 72, 3) := dk_182 0 72 (dk_at dksX7_stories_1 8 rfl rfl)
theorem dX7_stories_34 : decode cX7_stories 34 = .ok (.ireturn, 1) := dk_172 (dk_at dksX7_stories_1 11 rfl rfl)
def dkwX1_isCase_1 : List UInt8 := [4, 167, 0, 4, 3, 172]
abbrev dktX1_isCase_1 : List UInt8 := dkwX1_isCase_1 ++ []
def dkwX1_isCase_0 : List UInt8 := [42, 180, 0, 104, 198, 0, 24, 27, 3, 42, 180, 0, 104, 182, 0, 124, 4, 100, 184, 0, 90, 153, 0, 7]
abbrev dktX1_isCase_0 : List UInt8 := dkwX1_isCase_0 ++ dktX1_isCase_1
theorem dksX1_isCase_0 : cX1_isCase.data.toList.drop 0 = dktX1_isCase_0 := by decide +kernel
theorem dksX1_isCase_1 : cX1_isCase.data.toList.drop 24 = dktX1_isCase_1 := dk_seg dksX1_isCase_0 24 rfl rfl
theorem dX1_isCase_0 : decode cX1_isCase 0 = .ok (.aload_n 0, 1) := dk_42 (dk_at dksX1_isCase_0 0 rfl rfl)
theorem dX1_isCase_1 : decode cX1_isCase 1 = .ok (.getfield 104, 3) := dk_180 0 104 (dk_at dksX1_isCase_0 1 rfl rfl)
theorem dX1_isCase_4 : decode cX1_isCase 4 = .ok (.ifnull 24, 3) := dk_198 0 24 (dk_at dksX1_isCase_0 4 rfl rfl)
theorem dX1_isCase_7 : decode cX1_isCase 7 = .ok (.iload_n 1, 1) := dk_27 (dk_at dksX1_isCase_0 7 rfl rfl)
theorem dX1_isCase_8 : decode cX1_isCase 8 = .ok (.iconst 0, 1) := dk_3 (dk_at dksX1_isCase_0 8 rfl rfl)
theorem dX1_isCase_9 : decode cX1_isCase 9 = .ok (.aload_n 0, 1) := dk_42 (dk_at dksX1_isCase_0 9 rfl rfl)
theorem dX1_isCase_10 : decode cX1_isCase 10 = .ok (.getfield 104, 3) := dk_180 0 104 (dk_at dksX1_isCase_0 10 rfl rfl)
theorem dX1_isCase_13 : decode cX1_isCase 13 = .ok (.invokevirtual 124, 3) := dk_182 0 124 (dk_at dksX1_isCase_0 13 rfl rfl)
theorem dX1_isCase_16 : decode cX1_isCase 16 = .ok (.iconst 1, 1) := dk_4 (dk_at dksX1_isCase_0 16 rfl rfl)
theorem dX1_isCase_17 : decode cX1_isCase 17 = .ok (.isub, 1) := dk_100 (dk_at dksX1_isCase_0 17 rfl rfl)
theorem dX1_isCase_18 : decode cX1_isCase 18 = .ok (.invokestatic 90, 3) := dk_184 0 90 (dk_at dksX1_isCase_0 18 rfl rfl)
theorem dX1_isCase_21 : decode cX1_isCase 21 = .ok (.ifCond .eq 7, 3) := dk_153 0 7 (dk_at dksX1_isCase_0 21 rfl rfl)
theorem dX1_isCase_24 : decode cX1_isCase 24 = .ok (.iconst 1, 1) := dk_4 (dk_at dksX1_isCase_1 0 rfl rfl)
theorem dX1_isCase_25 : decode cX1_isCase 25 = .ok (.goto 4, 3) := dk_167 0 4 (dk_at dksX1_isCase_1 1 rfl rfl)
theorem dX1_isCase_28 : decode cX1_isCase 28 = .ok (.iconst 0, 1) := dk_3 (dk_at dksX1_isCase_1 4 rfl rfl)
theorem dX1_isCase_29 : decode cX1_isCase 29 = .ok (.ireturn, 1) := dk_172 (dk_at dksX1_isCase_1 5 rfl rfl)
def dkwX8_storyOf_2 : List UInt8 := [154, 0, 8, 16, 254, 167, 0, 14, 29, 42, 180, 0, 32, 28, 50, 180, 0, 101, 112, 172]
abbrev dktX8_storyOf_2 : List UInt8 := dkwX8_storyOf_2 ++ []
def dkwX8_storyOf_1 : List UInt8 := [50, 180, 0, 101, 184, 0, 104, 108, 62, 132, 4, 255, 167, 255, 230, 42, 180, 0, 32, 28, 50, 180, 0, 101]
abbrev dktX8_storyOf_1 : List UInt8 := dkwX8_storyOf_1 ++ dktX8_storyOf_2
def dkwX8_storyOf_0 : List UInt8 := [27, 62, 42, 180, 0, 86, 4, 100, 54, 4, 21, 4, 28, 164, 0, 26, 29, 4, 42, 180, 0, 32, 21, 4]
abbrev dktX8_storyOf_0 : List UInt8 := dkwX8_storyOf_0 ++ dktX8_storyOf_1
theorem dksX8_storyOf_0 : cX8_storyOf.data.toList.drop 0 = dktX8_storyOf_0 := by decide +kernel
theorem dksX8_storyOf_1 : cX8_storyOf.data.toList.drop 24 = dktX8_storyOf_1 := dk_seg dksX8_storyOf_0 24 rfl rfl
theorem dksX8_storyOf_2 : cX8_storyOf.data.toList.drop 48 = dktX8_storyOf_2 := dk_seg dksX8_storyOf_1 24 rfl rfl
theorem dX8_storyOf_0 : decode cX8_storyOf 0 = .ok (.iload_n 1, 1) := dk_27 (dk_at dksX8_storyOf_0 0 rfl rfl)
theorem dX8_storyOf_1 : decode cX8_storyOf 1 = .ok (.istore_n 3, 1) := dk_62 (dk_at dksX8_storyOf_0 1 rfl rfl)
theorem dX8_storyOf_2 : decode cX8_storyOf 2 = .ok (.aload_n 0, 1) := dk_42 (dk_at dksX8_storyOf_0 2 rfl rfl)
theorem dX8_storyOf_3 : decode cX8_storyOf 3 = .ok (.getfield 86, 3) := dk_180 0 86 (dk_at dksX8_storyOf_0 3 rfl rfl)
theorem dX8_storyOf_6 : decode cX8_storyOf 6 = .ok (.iconst 1, 1) := dk_4 (dk_at dksX8_storyOf_0 6 rfl rfl)
theorem dX8_storyOf_7 : decode cX8_storyOf 7 = .ok (.isub, 1) := dk_100 (dk_at dksX8_storyOf_0 7 rfl rfl)
theorem dX8_storyOf_8 : decode cX8_storyOf 8 = .ok (.istore 4, 2) := dk_54 4 (dk_at dksX8_storyOf_0 8 rfl rfl)
theorem dX8_storyOf_10 : decode cX8_storyOf 10 = .ok (.iload 4, 2) := dk_21 4 (dk_at dksX8_storyOf_0 10 rfl rfl)
theorem dX8_storyOf_12 : decode cX8_storyOf 12 = .ok (.iload_n 2, 1) := dk_28 (dk_at dksX8_storyOf_0 12 rfl rfl)
theorem dX8_storyOf_13 : decode cX8_storyOf 13 = .ok (.if_icmp .le 26, 3) := dk_164 0 26 (dk_at dksX8_storyOf_0 13 rfl rfl)
theorem dX8_storyOf_16 : decode cX8_storyOf 16 = .ok (.iload_n 3, 1) := dk_29 (dk_at dksX8_storyOf_0 16 rfl rfl)
theorem dX8_storyOf_17 : decode cX8_storyOf 17 = .ok (.iconst 1, 1) := dk_4 (dk_at dksX8_storyOf_0 17 rfl rfl)
theorem dX8_storyOf_18 : decode cX8_storyOf 18 = .ok (.aload_n 0, 1) := dk_42 (dk_at dksX8_storyOf_0 18 rfl rfl)
theorem dX8_storyOf_19 : decode cX8_storyOf 19 = .ok (.getfield 32, 3) := dk_180 0 32 (dk_at dksX8_storyOf_0 19 rfl rfl)
theorem dX8_storyOf_22 : decode cX8_storyOf 22 = .ok (.iload 4, 2) := dk_21 4 (dk_at dksX8_storyOf_0 22 rfl rfl)
theorem dX8_storyOf_24 : decode cX8_storyOf 24 = .ok (.aaload, 1) := dk_50 (dk_at dksX8_storyOf_1 0 rfl rfl)
theorem dX8_storyOf_25 : decode cX8_storyOf 25 = .ok (.getfield 101, 3) := dk_180 0 101 (dk_at dksX8_storyOf_1 1 rfl rfl)
theorem dX8_storyOf_28 : decode cX8_storyOf 28 = .ok (.invokestatic 104, 3) := dk_184 0 104 (dk_at dksX8_storyOf_1 4 rfl rfl)
theorem dX8_storyOf_31 : decode cX8_storyOf 31 = .ok (.idiv, 1) := dk_108 (dk_at dksX8_storyOf_1 7 rfl rfl)
theorem dX8_storyOf_32 : decode cX8_storyOf 32 = .ok (.istore_n 3, 1) := dk_62 (dk_at dksX8_storyOf_1 8 rfl rfl)
theorem dX8_storyOf_33 : decode cX8_storyOf 33 = .ok (.iinc 4 (-1), 3) := dk_132 4 255 (dk_at dksX8_storyOf_1 9 rfl rfl)
theorem dX8_storyOf_36 : decode cX8_storyOf 36 = .ok (.goto (-26), 3) := dk_167 255 230 (dk_at dksX8_storyOf_1 12 rfl rfl)
theorem dX8_storyOf_39 : decode cX8_storyOf 39 = .ok (.aload_n 0, 1) := dk_42 (dk_at dksX8_storyOf_1 15 rfl rfl)
theorem dX8_storyOf_40 : decode cX8_storyOf 40 = .ok (.getfield 32, 3) := dk_180 0 32 (dk_at dksX8_storyOf_1 16 rfl rfl)
theorem dX8_storyOf_43 : decode cX8_storyOf 43 = .ok (.iload_n 2, 1) := dk_28 (dk_at dksX8_storyOf_1 19 rfl rfl)
theorem dX8_storyOf_44 : decode cX8_storyOf 44 = .ok (.aaload, 1) := dk_50 (dk_at dksX8_storyOf_1 20 rfl rfl)
theorem dX8_storyOf_45 : decode cX8_storyOf 45 = .ok (.getfield 101, 3) := dk_180 0 101 (dk_at dksX8_storyOf_1 21 rfl rfl)
theorem dX8_storyOf_48 : decode cX8_storyOf 48 = .ok (.ifCond .ne 8, 3) := dk_154 0 8 (dk_at dksX8_storyOf_2 0 rfl rfl)
theorem dX8_storyOf_51 : decode cX8_storyOf 51 = .ok (.bipush (-2), 2) := dk_16 254 (dk_at dksX8_storyOf_2 3 rfl rfl)
theorem dX8_storyOf_53 : decode cX8_storyOf 53 = .ok (.goto 14, 3) := dk_167 0 14 (dk_at dksX8_storyOf_2 5 rfl rfl)
theorem dX8_storyOf_56 : decode cX8_storyOf 56 = .ok (.iload_n 3, 1) := dk_29 (dk_at dksX8_storyOf_2 8 rfl rfl)
theorem dX8_storyOf_57 : decode cX8_storyOf 57 = .ok (.aload_n 0, 1) := dk_42 (dk_at dksX8_storyOf_2 9 rfl rfl)
theorem dX8_storyOf_58 : decode cX8_storyOf 58 = .ok (.getfield 32, 3) := dk_180 0 32 (dk_at dksX8_storyOf_2 10 rfl rfl)
theorem dX8_storyOf_61 : decode cX8_storyOf 61 = .ok (.iload_n 2, 1) := dk_28 (dk_at dksX8_storyOf_2 13 rfl rfl)
theorem dX8_storyOf_62 : decode cX8_storyOf 62 = .ok (.aaload, 1) := dk_50 (dk_at dksX8_storyOf_2 14 rfl rfl)
theorem dX8_storyOf_63 : decode cX8_storyOf 63 = .ok (.getfield 101, 3) := dk_180 0 101 (dk_at dksX8_storyOf_2 15 rfl rfl)
theorem dX8_storyOf_66 : decode cX8_storyOf 66 = .ok (.irem, 1) := dk_112 (dk_at dksX8_storyOf_2 18 rfl rfl)
theorem dX8_storyOf_67 : decode cX8_storyOf 67 = .ok (.ireturn, 1) := dk_172 (dk_at dksX8_storyOf_2 19 rfl rfl)
def dkwX1_caseOf_1 : List UInt8 := [27, 28, 182, 1, 2, 167, 0, 8, 42, 4, 182, 0, 94, 172]
abbrev dktX1_caseOf_1 : List UInt8 := dkwX1_caseOf_1 ++ []
def dkwX1_caseOf_0 : List UInt8 := [42, 182, 0, 80, 42, 27, 182, 0, 255, 153, 0, 23, 42, 28, 182, 0, 232, 153, 0, 15, 42, 180, 0, 104]
abbrev dktX1_caseOf_0 : List UInt8 := dkwX1_caseOf_0 ++ dktX1_caseOf_1
theorem dksX1_caseOf_0 : cX1_caseOf.data.toList.drop 0 = dktX1_caseOf_0 := by decide +kernel
theorem dksX1_caseOf_1 : cX1_caseOf.data.toList.drop 24 = dktX1_caseOf_1 := dk_seg dksX1_caseOf_0 24 rfl rfl
theorem dX1_caseOf_0 : decode cX1_caseOf 0 = .ok (.aload_n 0, 1) := dk_42 (dk_at dksX1_caseOf_0 0 rfl rfl)
theorem dX1_caseOf_1 : decode cX1_caseOf 1 = .ok (.invokevirtual 80, 3) := dk_182 0 80 (dk_at dksX1_caseOf_0 1 rfl rfl)
theorem dX1_caseOf_4 : decode cX1_caseOf 4 = .ok (.aload_n 0, 1) := dk_42 (dk_at dksX1_caseOf_0 4 rfl rfl)
theorem dX1_caseOf_5 : decode cX1_caseOf 5 = .ok (.iload_n 1, 1) := dk_27 (dk_at dksX1_caseOf_0 5 rfl rfl)
theorem dX1_caseOf_6 : decode cX1_caseOf 6 = .ok (.invokevirtual 255, 3) := dk_182 0 255 (dk_at dksX1_caseOf_0 6 rfl rfl)
theorem dX1_caseOf_9 : decode cX1_caseOf 9 = .ok (.ifCond .eq 23, 3) := dk_153 0 23 (dk_at dksX1_caseOf_0 9 rfl rfl)
theorem dX1_caseOf_12 : decode cX1_caseOf 12 = .ok (.aload_n 0, 1) := dk_42 (dk_at dksX1_caseOf_0 12 rfl rfl)
theorem dX1_caseOf_13 : decode cX1_caseOf 13 = .ok (.iload_n 2, 1) := dk_28 (dk_at dksX1_caseOf_0 13 rfl rfl)
theorem dX1_caseOf_14 : decode cX1_caseOf 14 = .ok (.invokevirtual 232, 3) := dk_182 0 232 (dk_at dksX1_caseOf_0 14 rfl rfl)
theorem dX1_caseOf_17 : decode cX1_caseOf 17 = .ok (.ifCond .eq 15, 3) := dk_153 0 15 (dk_at dksX1_caseOf_0 17 rfl rfl)
theorem dX1_caseOf_20 : decode cX1_caseOf 20 = .ok (.aload_n 0, 1) := dk_42 (dk_at dksX1_caseOf_0 20 rfl rfl)
theorem dX1_caseOf_21 : decode cX1_caseOf 21 = .ok (.getfield 104, 3) := dk_180 0 104 (dk_at dksX1_caseOf_0 21 rfl rfl)
theorem dX1_caseOf_24 : decode cX1_caseOf 24 = .ok (.iload_n 1, 1) := dk_27 (dk_at dksX1_caseOf_1 0 rfl rfl)
theorem dX1_caseOf_25 : decode cX1_caseOf 25 = .ok (.iload_n 2, 1) := dk_28 (dk_at dksX1_caseOf_1 1 rfl rfl)
theorem dX1_caseOf_26 : decode cX1_caseOf 26 = .ok (.invokevirtual 258, 3) := dk_182 1 2 (dk_at dksX1_caseOf_1 2 rfl rfl)
theorem dX1_caseOf_29 : decode cX1_caseOf 29 = .ok (.goto 8, 3) := dk_167 0 8 (dk_at dksX1_caseOf_1 5 rfl rfl)
theorem dX1_caseOf_32 : decode cX1_caseOf 32 = .ok (.aload_n 0, 1) := dk_42 (dk_at dksX1_caseOf_1 8 rfl rfl)
theorem dX1_caseOf_33 : decode cX1_caseOf 33 = .ok (.iconst 1, 1) := dk_4 (dk_at dksX1_caseOf_1 9 rfl rfl)
theorem dX1_caseOf_34 : decode cX1_caseOf 34 = .ok (.invokevirtual 94, 3) := dk_182 0 94 (dk_at dksX1_caseOf_1 10 rfl rfl)
theorem dX1_caseOf_37 : decode cX1_caseOf 37 = .ok (.ireturn, 1) := dk_172 (dk_at dksX1_caseOf_1 13 rfl rfl)
def dkwX7_isCase_1 : List UInt8 := [167, 0, 4, 3, 172]
abbrev dktX7_isCase_1 : List UInt8 := dkwX7_isCase_1 ++ []
def dkwX7_isCase_0 : List UInt8 := [42, 180, 1, 186, 198, 0, 22, 27, 155, 0, 18, 27, 42, 180, 1, 186, 182, 1, 194, 162, 0, 7, 4]
abbrev dktX7_isCase_0 : List UInt8 := dkwX7_isCase_0 ++ dktX7_isCase_1
theorem dksX7_isCase_0 : cX7_isCase.data.toList.drop 0 = dktX7_isCase_0 := by decide +kernel
theorem dksX7_isCase_1 : cX7_isCase.data.toList.drop 23 = dktX7_isCase_1 := dk_seg dksX7_isCase_0 23 rfl rfl
theorem dX7_isCase_0 : decode cX7_isCase 0 = .ok (.aload_n 0, 1) := dk_42 (dk_at dksX7_isCase_0 0 rfl rfl)
theorem dX7_isCase_1 : decode cX7_isCase 1 = .ok (.getfield 442, 3) := dk_180 1 186 (dk_at dksX7_isCase_0 1 rfl rfl)
theorem dX7_isCase_4 : decode cX7_isCase 4 = .ok (.ifnull 22, 3) := dk_198 0 22 (dk_at dksX7_isCase_0 4 rfl rfl)
theorem dX7_isCase_7 : decode cX7_isCase 7 = .ok (.iload_n 1, 1) := dk_27 (dk_at dksX7_isCase_0 7 rfl rfl)
theorem dX7_isCase_8 : decode cX7_isCase 8 = .ok (.ifCond .lt 18, 3) := dk_155 0 18 (dk_at dksX7_isCase_0 8 rfl rfl)
theorem dX7_isCase_11 : decode cX7_isCase 11 = .ok (.iload_n 1, 1) := dk_27 (dk_at dksX7_isCase_0 11 rfl rfl)
theorem dX7_isCase_12 : decode cX7_isCase 12 = .ok (.aload_n 0, 1) := dk_42 (dk_at dksX7_isCase_0 12 rfl rfl)
theorem dX7_isCase_13 : decode cX7_isCase 13 = .ok (.getfield 442, 3) := dk_180 1 186 (dk_at dksX7_isCase_0 13 rfl rfl)
theorem dX7_isCase_16 : decode cX7_isCase 16 = .ok (.invokevirtual 450, 3) := dk_182 1 194 (dk_at dksX7_isCase_0 16 rfl rfl)
theorem dX7_isCase_19 : decode cX7_isCase 19 = .ok (.if_icmp .ge 7, 3) := dk_162 0 7 (dk_at dksX7_isCase_0 19 rfl rfl)
theorem dX7_isCase_22 : decode cX7_isCase 22 = .ok (.iconst 1, 1) := dk_4 (dk_at dksX7_isCase_0 22 rfl rfl)
theorem dX7_isCase_23 : decode cX7_isCase 23 = .ok (.goto 4, 3) := dk_167 0 4 (dk_at dksX7_isCase_1 0 rfl rfl)
theorem dX7_isCase_26 : decode cX7_isCase 26 = .ok (.iconst 0, 1) := dk_3 (dk_at dksX7_isCase_1 3 rfl rfl)
theorem dX7_isCase_27 : decode cX7_isCase 27 = .ok (.ireturn, 1) := dk_172 (dk_at dksX7_isCase_1 4 rfl rfl)
def dkwX24_storyOf_2 : List UInt8 := [167, 0, 4, 4, 104, 62, 132, 4, 1, 167, 255, 220, 27, 29, 108, 42, 180, 0, 21, 28, 46, 112, 172]
abbrev dktX24_storyOf_2 : List UInt8 := dkwX24_storyOf_2 ++ []
def dkwX24_storyOf_1 : List UInt8 := [180, 0, 95, 162, 0, 33, 29, 42, 180, 0, 21, 21, 4, 46, 158, 0, 13, 42, 180, 0, 21, 21, 4, 46]
abbrev dktX24_storyOf_1 : List UInt8 := dkwX24_storyOf_1 ++ dktX24_storyOf_2
def dkwX24_storyOf_0 : List UInt8 := [42, 180, 0, 21, 28, 46, 154, 0, 6, 16, 254, 172, 4, 62, 28, 4, 96, 54, 4, 21, 4, 42]
abbrev dktX24_storyOf_0 : List UInt8 := dkwX24_storyOf_0 ++ dktX24_storyOf_1
theorem dksX24_storyOf_0 : cX24_storyOf.data.toList.drop 0 = dktX24_storyOf_0 := by decide +kernel
theorem dksX24_storyOf_1 : cX24_storyOf.data.toList.drop 22 = dktX24_storyOf_1 := dk_seg dksX24_storyOf_0 22 rfl rfl
theorem dksX24_storyOf_2 : cX24_storyOf.data.toList.drop 46 = dktX24_storyOf_2 := dk_seg dksX24_storyOf_1 24 rfl rfl
theorem dX24_storyOf_0 : decode cX24_storyOf 0 = .ok (.aload_n 0, 1) := dk_42 (dk_at dksX24_storyOf_0 0 rfl rfl)
theorem dX24_storyOf_1 : decode cX24_storyOf 1 = .ok (.getfield 21, 3) := dk_180 0 21 (dk_at dksX24_storyOf_0 1 rfl rfl)
theorem dX24_storyOf_4 : decode cX24_storyOf 4 = .ok (.iload_n 2, 1) := dk_28 (dk_at dksX24_storyOf_0 4 rfl rfl)
theorem dX24_storyOf_5 : decode cX24_storyOf 5 = .ok (.iaload, 1) := dk_46 (dk_at dksX24_storyOf_0 5 rfl rfl)
theorem dX24_storyOf_6 : decode cX24_storyOf 6 = .ok (.ifCond .ne 6, 3) := dk_154 0 6 (dk_at dksX24_storyOf_0 6 rfl rfl)
theorem dX24_storyOf_9 : decode cX24_storyOf 9 = .ok (.bipush (-2), 2) := dk_16 254 (dk_at dksX24_storyOf_0 9 rfl rfl)
theorem dX24_storyOf_11 : decode cX24_storyOf 11 = .ok (.ireturn, 1) := dk_172 (dk_at dksX24_storyOf_0 11 rfl rfl)
theorem dX24_storyOf_12 : decode cX24_storyOf 12 = .ok (.iconst 1, 1) := dk_4 (dk_at dksX24_storyOf_0 12 rfl rfl)
theorem dX24_storyOf_13 : decode cX24_storyOf 13 = .ok (.istore_n 3, 1) := dk_62 (dk_at dksX24_storyOf_0 13 rfl rfl)
theorem dX24_storyOf_14 : decode cX24_storyOf 14 = .ok (.iload_n 2, 1) := dk_28 (dk_at dksX24_storyOf_0 14 rfl rfl)
theorem dX24_storyOf_15 : decode cX24_storyOf 15 = .ok (.iconst 1, 1) := dk_4 (dk_at dksX24_storyOf_0 15 rfl rfl)
theorem dX24_storyOf_16 : decode cX24_storyOf 16 = .ok (.iadd, 1) := dk_96 (dk_at dksX24_storyOf_0 16 rfl rfl)
theorem dX24_storyOf_17 : decode cX24_storyOf 17 = .ok (.istore 4, 2) := dk_54 4 (dk_at dksX24_storyOf_0 17 rfl rfl)
theorem dX24_storyOf_19 : decode cX24_storyOf 19 = .ok (.iload 4, 2) := dk_21 4 (dk_at dksX24_storyOf_0 19 rfl rfl)
theorem dX24_storyOf_21 : decode cX24_storyOf 21 = .ok (.aload_n 0, 1) := dk_42 (dk_at dksX24_storyOf_0 21 rfl rfl)
theorem dX24_storyOf_22 : decode cX24_storyOf 22 = .ok (.getfield 95, 3) := dk_180 0 95 (dk_at dksX24_storyOf_1 0 rfl rfl)
theorem dX24_storyOf_25 : decode cX24_storyOf 25 = .ok (.if_icmp .ge 33, 3) := dk_162 0 33 (dk_at dksX24_storyOf_1 3 rfl rfl)
theorem dX24_storyOf_28 : decode cX24_storyOf 28 = .ok (.iload_n 3, 1) := dk_29 (dk_at dksX24_storyOf_1 6 rfl rfl)
theorem dX24_storyOf_29 : decode cX24_storyOf 29 = .ok (.aload_n 0, 1) := dk_42 (dk_at dksX24_storyOf_1 7 rfl rfl)
theorem dX24_storyOf_30 : decode cX24_storyOf 30 = .ok (.getfield 21, 3) := dk_180 0 21 (dk_at dksX24_storyOf_1 8 rfl rfl)
theorem dX24_storyOf_33 : decode cX24_storyOf 33 = .ok (.iload 4, 2) := dk_21 4 (dk_at dksX24_storyOf_1 11 rfl rfl)
theorem dX24_storyOf_35 : decode cX24_storyOf 35 = .ok (.iaload, 1) := dk_46 (dk_at dksX24_storyOf_1 13 rfl rfl)
theorem dX24_storyOf_36 : decode cX24_storyOf 36 = .ok (.ifCond .le 13, 3) := dk_158 0 13 (dk_at dksX24_storyOf_1 14 rfl rfl)
theorem dX24_storyOf_39 : decode cX24_storyOf 39 = .ok (.aload_n 0, 1) := dk_42 (dk_at dksX24_storyOf_1 17 rfl rfl)
theorem dX24_storyOf_40 : decode cX24_storyOf 40 = .ok (.getfield 21, 3) := dk_180 0 21 (dk_at dksX24_storyOf_1 18 rfl rfl)
theorem dX24_storyOf_43 : decode cX24_storyOf 43 = .ok (.iload 4, 2) := dk_21 4 (dk_at dksX24_storyOf_1 21 rfl rfl)
theorem dX24_storyOf_45 : decode cX24_storyOf 45 = .ok (.iaload, 1) := dk_46 (dk_at dksX24_storyOf_1 23 rfl rfl)
theorem dX24_storyOf_46 : decode cX24_storyOf 46 = .ok (.goto 4, 3) := dk_167 0 4 (dk_at dksX24_storyOf_2 0 rfl rfl)
theorem dX24_storyOf_49 : decode cX24_storyOf 49 = .ok (.iconst 1, 1) := dk_4 (dk_at dksX24_storyOf_2 3 rfl rfl)
theorem dX24_storyOf_50 : decode cX24_storyOf 50 = .ok (.imul, 1) := dk_104 (dk_at dksX24_storyOf_2 4 rfl rfl)
theorem dX24_storyOf_51 : decode cX24_storyOf 51 = .ok (.istore_n 3, 1) := dk_62 (dk_at dksX24_storyOf_2 5 rfl rfl)
theorem dX24_storyOf_52 : decode cX24_storyOf 52 = .ok (.iinc 4 1, 3) := dk_132 4 1 (dk_at dksX24_storyOf_2 6 rfl rfl)
theorem dX24_storyOf_55 : decode cX24_storyOf 55 = .ok (.goto (-36), 3) := dk_167 255 220 (dk_at dksX24_storyOf_2 9 rfl rfl)
theorem dX24_storyOf_58 : decode cX24_storyOf 58 = .ok (.iload_n 1, 1) := dk_27 (dk_at dksX24_storyOf_2 12 rfl rfl)
theorem dX24_storyOf_59 : decode cX24_storyOf 59 = .ok (.iload_n 3, 1) := dk_29 (dk_at dksX24_storyOf_2 13 rfl rfl)
theorem dX24_storyOf_60 : decode cX24_storyOf 60 = .ok (.idiv, 1) := dk_108 (dk_at dksX24_storyOf_2 14 rfl rfl)
theorem dX24_storyOf_61 : decode cX24_storyOf 61 = .ok (.aload_n 0, 1) := dk_42 (dk_at dksX24_storyOf_2 15 rfl rfl)
theorem dX24_storyOf_62 : decode cX24_storyOf 62 = .ok (.getfield 21, 3) := dk_180 0 21 (dk_at dksX24_storyOf_2 16 rfl rfl)
theorem dX24_storyOf_65 : decode cX24_storyOf 65 = .ok (.iload_n 2, 1) := dk_28 (dk_at dksX24_storyOf_2 19 rfl rfl)
theorem dX24_storyOf_66 : decode cX24_storyOf 66 = .ok (.iaload, 1) := dk_46 (dk_at dksX24_storyOf_2 20 rfl rfl)
theorem dX24_storyOf_67 : decode cX24_storyOf 67 = .ok (.irem, 1) := dk_112 (dk_at dksX24_storyOf_2 21 rfl rfl)
theorem dX24_storyOf_68 : decode cX24_storyOf 68 = .ok (.ireturn, 1) := dk_172 (dk_at dksX24_storyOf_2 22 rfl rfl)
def dkwX7_caseOf_1 : List UInt8 := [180, 1, 186, 27, 28, 182, 2, 5, 182, 0, 76, 167, 0, 8, 42, 4, 182, 0, 72, 172]
abbrev dktX7_caseOf_1 : List UInt8 := dkwX7_caseOf_1 ++ []
def dkwX7_caseOf_0 : List UInt8 := [42, 3, 181, 0, 66, 42, 27, 182, 2, 2, 153, 0, 27, 42, 28, 182, 1, 250, 153, 0, 19, 42, 42]
abbrev dktX7_caseOf_0 : List UInt8 := dkwX7_caseOf_0 ++ dktX7_caseOf_1
theorem dksX7_caseOf_0 : cX7_caseOf.data.toList.drop 0 = dktX7_caseOf_0 := by decide +kernel
theorem dksX7_caseOf_1 : cX7_caseOf.data.toList.drop 23 = dktX7_caseOf_1 := dk_seg dksX7_caseOf_0 23 rfl rfl
theorem dX7_caseOf_0 : decode cX7_caseOf 0 = .ok (.aload_n 0, 1) := dk_42 (dk_at dksX7_caseOf_0 0 rfl rfl)
theorem dX7_caseOf_1 : decode cX7_caseOf 1 = .ok (.iconst 0, 1) := dk_3 (dk_at dksX7_caseOf_0 1 rfl rfl)
theorem dX7_caseOf_2 : decode cX7_caseOf 2 = .ok (.putfield 66, 3) := dk_181 0 66 (dk_at dksX7_caseOf_0 2 rfl rfl)
theorem dX7_caseOf_5 : decode cX7_caseOf 5 = .ok (.aload_n 0, 1) := dk_42 (dk_at dksX7_caseOf_0 5 rfl rfl)
theorem dX7_caseOf_6 : decode cX7_caseOf 6 = .ok (.iload_n 1, 1) := dk_27 (dk_at dksX7_caseOf_0 6 rfl rfl)
theorem dX7_caseOf_7 : decode cX7_caseOf 7 = .ok (.invokevirtual 514, 3) := dk_182 2 2 (dk_at dksX7_caseOf_0 7 rfl rfl)
theorem dX7_caseOf_10 : decode cX7_caseOf 10 = .ok (.ifCond .eq 27, 3) := dk_153 0 27 (dk_at dksX7_caseOf_0 10 rfl rfl)
theorem dX7_caseOf_13 : decode cX7_caseOf 13 = .ok (.aload_n 0, 1) := dk_42 (dk_at dksX7_caseOf_0 13 rfl rfl)
theorem dX7_caseOf_14 : decode cX7_caseOf 14 = .ok (.iload_n 2, 1) := dk_28 (dk_at dksX7_caseOf_0 14 rfl rfl)
theorem dX7_caseOf_15 : decode cX7_caseOf 15 = .ok (.invokevirtual 506, 3) := dk_182 1 250 (dk_at dksX7_caseOf_0 15 rfl rfl)
theorem dX7_caseOf_18 : decode cX7_caseOf 18 = .ok (.ifCond .eq 19, 3) := dk_153 0 19 (dk_at dksX7_caseOf_0 18 rfl rfl)
theorem dX7_caseOf_21 : decode cX7_caseOf 21 = .ok (.aload_n 0, 1) := dk_42 (dk_at dksX7_caseOf_0 21 rfl rfl)
theorem dX7_caseOf_22 : decode cX7_caseOf 22 = .ok (.aload_n 0, 1) := dk_42 (dk_at dksX7_caseOf_0 22 rfl rfl)
theorem dX7_caseOf_23 : decode cX7_caseOf 23 = .ok (.getfield 442, 3) := dk_180 1 186 (dk_at dksX7_caseOf_1 0 rfl rfl)
theorem dX7_caseOf_26 : decode cX7_caseOf 26 = .ok (.iload_n 1, 1) := dk_27 (dk_at dksX7_caseOf_1 3 rfl rfl)
theorem dX7_caseOf_27 : decode cX7_caseOf 27 = .ok (.iload_n 2, 1) := dk_28 (dk_at dksX7_caseOf_1 4 rfl rfl)
theorem dX7_caseOf_28 : decode cX7_caseOf 28 = .ok (.invokevirtual 517, 3) := dk_182 2 5 (dk_at dksX7_caseOf_1 5 rfl rfl)
theorem dX7_caseOf_31 : decode cX7_caseOf 31 = .ok (.invokevirtual 76, 3) := dk_182 0 76 (dk_at dksX7_caseOf_1 8 rfl rfl)
theorem dX7_caseOf_34 : decode cX7_caseOf 34 = .ok (.goto 8, 3) := dk_167 0 8 (dk_at dksX7_caseOf_1 11 rfl rfl)
theorem dX7_caseOf_37 : decode cX7_caseOf 37 = .ok (.aload_n 0, 1) := dk_42 (dk_at dksX7_caseOf_1 14 rfl rfl)
theorem dX7_caseOf_38 : decode cX7_caseOf 38 = .ok (.iconst 1, 1) := dk_4 (dk_at dksX7_caseOf_1 15 rfl rfl)
theorem dX7_caseOf_39 : decode cX7_caseOf 39 = .ok (.invokevirtual 72, 3) := dk_182 0 72 (dk_at dksX7_caseOf_1 16 rfl rfl)
theorem dX7_caseOf_42 : decode cX7_caseOf 42 = .ok (.ireturn, 1) := dk_172 (dk_at dksX7_caseOf_1 19 rfl rfl)
def dkwX5_layPeople_3 : List UInt8 := [42, 180, 0, 74, 182, 0, 98, 92, 46, 4, 28, 120, 128, 79, 132, 2, 1, 167, 255, 198, 177]
abbrev dktX5_layPeople_3 : List UInt8 := dkwX5_layPeople_3 ++ []
def dkwX5_layPeople_2 : List UInt8 := [182, 0, 91, 62, 29, 16, 254, 159, 0, 31, 42, 180, 0, 30, 42, 180, 0, 33, 180, 0, 95, 28, 50, 29]
abbrev dktX5_layPeople_2 : List UInt8 := dkwX5_layPeople_2 ++ dktX5_layPeople_3
def dkwX5_layPeople_1 : List UInt8 := [167, 255, 235, 3, 61, 28, 42, 180, 0, 33, 180, 0, 88, 162, 0, 53, 42, 180, 0, 33, 27, 28]
abbrev dktX5_layPeople_1 : List UInt8 := dkwX5_layPeople_1 ++ dktX5_layPeople_2
def dkwX5_layPeople_0 : List UInt8 := [3, 61, 28, 42, 180, 0, 33, 180, 0, 41, 162, 0, 16, 42, 180, 0, 30, 28, 3, 79, 132, 2, 1]
abbrev dktX5_layPeople_0 : List UInt8 := dkwX5_layPeople_0 ++ dktX5_layPeople_1
theorem dksX5_layPeople_0 : cX5_layPeople.data.toList.drop 0 = dktX5_layPeople_0 := by decide +kernel
theorem dksX5_layPeople_1 : cX5_layPeople.data.toList.drop 23 = dktX5_layPeople_1 := dk_seg dksX5_layPeople_0 23 rfl rfl
theorem dksX5_layPeople_2 : cX5_layPeople.data.toList.drop 45 = dktX5_layPeople_2 := dk_seg dksX5_layPeople_1 22 rfl rfl
theorem dksX5_layPeople_3 : cX5_layPeople.data.toList.drop 69 = dktX5_layPeople_3 := dk_seg dksX5_layPeople_2 24 rfl rfl
theorem dX5_layPeople_0 : decode cX5_layPeople 0 = .ok (.iconst 0, 1) := dk_3 (dk_at dksX5_layPeople_0 0 rfl rfl)
theorem dX5_layPeople_1 : decode cX5_layPeople 1 = .ok (.istore_n 2, 1) := dk_61 (dk_at dksX5_layPeople_0 1 rfl rfl)
theorem dX5_layPeople_2 : decode cX5_layPeople 2 = .ok (.iload_n 2, 1) := dk_28 (dk_at dksX5_layPeople_0 2 rfl rfl)
theorem dX5_layPeople_3 : decode cX5_layPeople 3 = .ok (.aload_n 0, 1) := dk_42 (dk_at dksX5_layPeople_0 3 rfl rfl)
theorem dX5_layPeople_4 : decode cX5_layPeople 4 = .ok (.getfield 33, 3) := dk_180 0 33 (dk_at dksX5_layPeople_0 4 rfl rfl)
theorem dX5_layPeople_7 : decode cX5_layPeople 7 = .ok (.getfield 41, 3) := dk_180 0 41 (dk_at dksX5_layPeople_0 7 rfl rfl)
theorem dX5_layPeople_10 : decode cX5_layPeople 10 = .ok (.if_icmp .ge 16, 3) := dk_162 0 16 (dk_at dksX5_layPeople_0 10 rfl rfl)
theorem dX5_layPeople_13 : decode cX5_layPeople 13 = .ok (.aload_n 0, 1) := dk_42 (dk_at dksX5_layPeople_0 13 rfl rfl)
theorem dX5_layPeople_14 : decode cX5_layPeople 14 = .ok (.getfield 30, 3) := dk_180 0 30 (dk_at dksX5_layPeople_0 14 rfl rfl)
theorem dX5_layPeople_17 : decode cX5_layPeople 17 = .ok (.iload_n 2, 1) := dk_28 (dk_at dksX5_layPeople_0 17 rfl rfl)
theorem dX5_layPeople_18 : decode cX5_layPeople 18 = .ok (.iconst 0, 1) := dk_3 (dk_at dksX5_layPeople_0 18 rfl rfl)
theorem dX5_layPeople_19 : decode cX5_layPeople 19 = .ok (.iastore, 1) := dk_79 (dk_at dksX5_layPeople_0 19 rfl rfl)
theorem dX5_layPeople_20 : decode cX5_layPeople 20 = .ok (.iinc 2 1, 3) := dk_132 2 1 (dk_at dksX5_layPeople_0 20 rfl rfl)
theorem dX5_layPeople_23 : decode cX5_layPeople 23 = .ok (.goto (-21), 3) := dk_167 255 235 (dk_at dksX5_layPeople_1 0 rfl rfl)
theorem dX5_layPeople_26 : decode cX5_layPeople 26 = .ok (.iconst 0, 1) := dk_3 (dk_at dksX5_layPeople_1 3 rfl rfl)
theorem dX5_layPeople_27 : decode cX5_layPeople 27 = .ok (.istore_n 2, 1) := dk_61 (dk_at dksX5_layPeople_1 4 rfl rfl)
theorem dX5_layPeople_28 : decode cX5_layPeople 28 = .ok (.iload_n 2, 1) := dk_28 (dk_at dksX5_layPeople_1 5 rfl rfl)
theorem dX5_layPeople_29 : decode cX5_layPeople 29 = .ok (.aload_n 0, 1) := dk_42 (dk_at dksX5_layPeople_1 6 rfl rfl)
theorem dX5_layPeople_30 : decode cX5_layPeople 30 = .ok (.getfield 33, 3) := dk_180 0 33 (dk_at dksX5_layPeople_1 7 rfl rfl)
theorem dX5_layPeople_33 : decode cX5_layPeople 33 = .ok (.getfield 88, 3) := dk_180 0 88 (dk_at dksX5_layPeople_1 10 rfl rfl)
theorem dX5_layPeople_36 : decode cX5_layPeople 36 = .ok (.if_icmp .ge 53, 3) := dk_162 0 53 (dk_at dksX5_layPeople_1 13 rfl rfl)
theorem dX5_layPeople_39 : decode cX5_layPeople 39 = .ok (.aload_n 0, 1) := dk_42 (dk_at dksX5_layPeople_1 16 rfl rfl)
theorem dX5_layPeople_40 : decode cX5_layPeople 40 = .ok (.getfield 33, 3) := dk_180 0 33 (dk_at dksX5_layPeople_1 17 rfl rfl)
theorem dX5_layPeople_43 : decode cX5_layPeople 43 = .ok (.iload_n 1, 1) := dk_27 (dk_at dksX5_layPeople_1 20 rfl rfl)
theorem dX5_layPeople_44 : decode cX5_layPeople 44 = .ok (.iload_n 2, 1) := dk_28 (dk_at dksX5_layPeople_1 21 rfl rfl)
theorem dX5_layPeople_45 : decode cX5_layPeople 45 = .ok (.invokevirtual 91, 3) := dk_182 0 91 (dk_at dksX5_layPeople_2 0 rfl rfl)
theorem dX5_layPeople_48 : decode cX5_layPeople 48 = .ok (.istore_n 3, 1) := dk_62 (dk_at dksX5_layPeople_2 3 rfl rfl)
theorem dX5_layPeople_49 : decode cX5_layPeople 49 = .ok (.iload_n 3, 1) := dk_29 (dk_at dksX5_layPeople_2 4 rfl rfl)
theorem dX5_layPeople_50 : decode cX5_layPeople 50 = .ok (.bipush (-2), 2) := dk_16 254 (dk_at dksX5_layPeople_2 5 rfl rfl)
theorem dX5_layPeople_52 : decode cX5_layPeople 52 = .ok (.if_icmp .eq 31, 3) := dk_159 0 31 (dk_at dksX5_layPeople_2 7 rfl rfl)
theorem dX5_layPeople_55 : decode cX5_layPeople 55 = .ok (.aload_n 0, 1) := dk_42 (dk_at dksX5_layPeople_2 10 rfl rfl)
theorem dX5_layPeople_56 : decode cX5_layPeople 56 = .ok (.getfield 30, 3) := dk_180 0 30 (dk_at dksX5_layPeople_2 11 rfl rfl)
theorem dX5_layPeople_59 : decode cX5_layPeople 59 = .ok (.aload_n 0, 1) := dk_42 (dk_at dksX5_layPeople_2 14 rfl rfl)
theorem dX5_layPeople_60 : decode cX5_layPeople 60 = .ok (.getfield 33, 3) := dk_180 0 33 (dk_at dksX5_layPeople_2 15 rfl rfl)
theorem dX5_layPeople_63 : decode cX5_layPeople 63 = .ok (.getfield 95, 3) := dk_180 0 95 (dk_at dksX5_layPeople_2 18 rfl rfl)
theorem dX5_layPeople_66 : decode cX5_layPeople 66 = .ok (.iload_n 2, 1) := dk_28 (dk_at dksX5_layPeople_2 21 rfl rfl)
theorem dX5_layPeople_67 : decode cX5_layPeople 67 = .ok (.aaload, 1) := dk_50 (dk_at dksX5_layPeople_2 22 rfl rfl)
theorem dX5_layPeople_68 : decode cX5_layPeople 68 = .ok (.iload_n 3, 1) := dk_29 (dk_at dksX5_layPeople_2 23 rfl rfl)
theorem dX5_layPeople_69 : decode cX5_layPeople 69 = .ok (.aload_n 0, 1) := dk_42 (dk_at dksX5_layPeople_3 0 rfl rfl)
theorem dX5_layPeople_70 : decode cX5_layPeople 70 = .ok (.getfield 74, 3) := dk_180 0 74 (dk_at dksX5_layPeople_3 1 rfl rfl)
theorem dX5_layPeople_73 : decode cX5_layPeople 73 = .ok (.invokevirtual 98, 3) := dk_182 0 98 (dk_at dksX5_layPeople_3 4 rfl rfl)
theorem dX5_layPeople_76 : decode cX5_layPeople 76 = .ok (.dup2, 1) := dk_92 (dk_at dksX5_layPeople_3 7 rfl rfl)
theorem dX5_layPeople_77 : decode cX5_layPeople 77 = .ok (.iaload, 1) := dk_46 (dk_at dksX5_layPeople_3 8 rfl rfl)
theorem dX5_layPeople_78 : decode cX5_layPeople 78 = .ok (.iconst 1, 1) := dk_4 (dk_at dksX5_layPeople_3 9 rfl rfl)
theorem dX5_layPeople_79 : decode cX5_layPeople 79 = .ok (.iload_n 2, 1) := dk_28 (dk_at dksX5_layPeople_3 10 rfl rfl)
theorem dX5_layPeople_80 : decode cX5_layPeople 80 = .ok (.ishl, 1) := dk_120 (dk_at dksX5_layPeople_3 11 rfl rfl)
theorem dX5_layPeople_81 : decode cX5_layPeople 81 = .ok (.ior, 1) := dk_128 (dk_at dksX5_layPeople_3 12 rfl rfl)
theorem dX5_layPeople_82 : decode cX5_layPeople 82 = .ok (.iastore, 1) := dk_79 (dk_at dksX5_layPeople_3 13 rfl rfl)
theorem dX5_layPeople_83 : decode cX5_layPeople 83 = .ok (.iinc 2 1, 3) := dk_132 2 1 (dk_at dksX5_layPeople_3 14 rfl rfl)
theorem dX5_layPeople_86 : decode cX5_layPeople 86 = .ok (.goto (-58), 3) := dk_167 255 198 (dk_at dksX5_layPeople_3 17 rfl rfl)
theorem dX5_layPeople_89 : decode cX5_layPeople 89 = .ok (.return_, 1) := dk_177 (dk_at dksX5_layPeople_3 20 rfl rfl)
def dkwX5_isOpen_1 : List UInt8 := [184, 0, 118, 154, 0, 7, 4, 167, 0, 4, 3, 172]
abbrev dktX5_isOpen_1 : List UInt8 := dkwX5_isOpen_1 ++ []
def dkwX5_isOpen_0 : List UInt8 := [42, 180, 0, 33, 27, 28, 182, 0, 112, 62, 29, 2, 159, 0, 21, 42, 180, 0, 37, 180, 0, 115, 29]
abbrev dktX5_isOpen_0 : List UInt8 := dkwX5_isOpen_0 ++ dktX5_isOpen_1
theorem dksX5_isOpen_0 : cX5_isOpen.data.toList.drop 0 = dktX5_isOpen_0 := by decide +kernel
theorem dksX5_isOpen_1 : cX5_isOpen.data.toList.drop 23 = dktX5_isOpen_1 := dk_seg dksX5_isOpen_0 23 rfl rfl
theorem dX5_isOpen_0 : decode cX5_isOpen 0 = .ok (.aload_n 0, 1) := dk_42 (dk_at dksX5_isOpen_0 0 rfl rfl)
theorem dX5_isOpen_1 : decode cX5_isOpen 1 = .ok (.getfield 33, 3) := dk_180 0 33 (dk_at dksX5_isOpen_0 1 rfl rfl)
theorem dX5_isOpen_4 : decode cX5_isOpen 4 = .ok (.iload_n 1, 1) := dk_27 (dk_at dksX5_isOpen_0 4 rfl rfl)
theorem dX5_isOpen_5 : decode cX5_isOpen 5 = .ok (.iload_n 2, 1) := dk_28 (dk_at dksX5_isOpen_0 5 rfl rfl)
theorem dX5_isOpen_6 : decode cX5_isOpen 6 = .ok (.invokevirtual 112, 3) := dk_182 0 112 (dk_at dksX5_isOpen_0 6 rfl rfl)
theorem dX5_isOpen_9 : decode cX5_isOpen 9 = .ok (.istore_n 3, 1) := dk_62 (dk_at dksX5_isOpen_0 9 rfl rfl)
theorem dX5_isOpen_10 : decode cX5_isOpen 10 = .ok (.iload_n 3, 1) := dk_29 (dk_at dksX5_isOpen_0 10 rfl rfl)
theorem dX5_isOpen_11 : decode cX5_isOpen 11 = .ok (.iconst (-1), 1) := dk_2 (dk_at dksX5_isOpen_0 11 rfl rfl)
theorem dX5_isOpen_12 : decode cX5_isOpen 12 = .ok (.if_icmp .eq 21, 3) := dk_159 0 21 (dk_at dksX5_isOpen_0 12 rfl rfl)
theorem dX5_isOpen_15 : decode cX5_isOpen 15 = .ok (.aload_n 0, 1) := dk_42 (dk_at dksX5_isOpen_0 15 rfl rfl)
theorem dX5_isOpen_16 : decode cX5_isOpen 16 = .ok (.getfield 37, 3) := dk_180 0 37 (dk_at dksX5_isOpen_0 16 rfl rfl)
theorem dX5_isOpen_19 : decode cX5_isOpen 19 = .ok (.getfield 115, 3) := dk_180 0 115 (dk_at dksX5_isOpen_0 19 rfl rfl)
theorem dX5_isOpen_22 : decode cX5_isOpen 22 = .ok (.iload_n 3, 1) := dk_29 (dk_at dksX5_isOpen_0 22 rfl rfl)
theorem dX5_isOpen_23 : decode cX5_isOpen 23 = .ok (.invokestatic 118, 3) := dk_184 0 118 (dk_at dksX5_isOpen_1 0 rfl rfl)
theorem dX5_isOpen_26 : decode cX5_isOpen 26 = .ok (.ifCond .ne 7, 3) := dk_154 0 7 (dk_at dksX5_isOpen_1 3 rfl rfl)
theorem dX5_isOpen_29 : decode cX5_isOpen 29 = .ok (.iconst 1, 1) := dk_4 (dk_at dksX5_isOpen_1 6 rfl rfl)
theorem dX5_isOpen_30 : decode cX5_isOpen 30 = .ok (.goto 4, 3) := dk_167 0 4 (dk_at dksX5_isOpen_1 7 rfl rfl)
theorem dX5_isOpen_33 : decode cX5_isOpen 33 = .ok (.iconst 0, 1) := dk_3 (dk_at dksX5_isOpen_1 10 rfl rfl)
theorem dX5_isOpen_34 : decode cX5_isOpen 34 = .ok (.ireturn, 1) := dk_172 (dk_at dksX5_isOpen_1 11 rfl rfl)
def dkwX4_isPut_0 : List UInt8 := [29, 153, 0, 10, 42, 180, 0, 15, 167, 0, 7, 42, 180, 0, 9, 28, 46, 27, 184, 0, 36, 172]
abbrev dktX4_isPut_0 : List UInt8 := dkwX4_isPut_0 ++ []
theorem dksX4_isPut_0 : cX4_isPut.data.toList.drop 0 = dktX4_isPut_0 := by decide +kernel
theorem dX4_isPut_0 : decode cX4_isPut 0 = .ok (.iload_n 3, 1) := dk_29 (dk_at dksX4_isPut_0 0 rfl rfl)
theorem dX4_isPut_1 : decode cX4_isPut 1 = .ok (.ifCond .eq 10, 3) := dk_153 0 10 (dk_at dksX4_isPut_0 1 rfl rfl)
theorem dX4_isPut_4 : decode cX4_isPut 4 = .ok (.aload_n 0, 1) := dk_42 (dk_at dksX4_isPut_0 4 rfl rfl)
theorem dX4_isPut_5 : decode cX4_isPut 5 = .ok (.getfield 15, 3) := dk_180 0 15 (dk_at dksX4_isPut_0 5 rfl rfl)
theorem dX4_isPut_8 : decode cX4_isPut 8 = .ok (.goto 7, 3) := dk_167 0 7 (dk_at dksX4_isPut_0 8 rfl rfl)
theorem dX4_isPut_11 : decode cX4_isPut 11 = .ok (.aload_n 0, 1) := dk_42 (dk_at dksX4_isPut_0 11 rfl rfl)
theorem dX4_isPut_12 : decode cX4_isPut 12 = .ok (.getfield 9, 3) := dk_180 0 9 (dk_at dksX4_isPut_0 12 rfl rfl)
theorem dX4_isPut_15 : decode cX4_isPut 15 = .ok (.iload_n 2, 1) := dk_28 (dk_at dksX4_isPut_0 15 rfl rfl)
theorem dX4_isPut_16 : decode cX4_isPut 16 = .ok (.iaload, 1) := dk_46 (dk_at dksX4_isPut_0 16 rfl rfl)
theorem dX4_isPut_17 : decode cX4_isPut 17 = .ok (.iload_n 1, 1) := dk_27 (dk_at dksX4_isPut_0 17 rfl rfl)
theorem dX4_isPut_18 : decode cX4_isPut 18 = .ok (.invokestatic 36, 3) := dk_184 0 36 (dk_at dksX4_isPut_0 18 rfl rfl)
theorem dX4_isPut_21 : decode cX4_isPut 21 = .ok (.ireturn, 1) := dk_172 (dk_at dksX4_isPut_0 21 rfl rfl)
def dkwX12_fearsAt_0 : List UInt8 := [28, 154, 0, 12, 27, 42, 180, 0, 15, 126, 153, 0, 7, 4, 167, 0, 4, 3, 172]
abbrev dktX12_fearsAt_0 : List UInt8 := dkwX12_fearsAt_0 ++ []
theorem dksX12_fearsAt_0 : cX12_fearsAt.data.toList.drop 0 = dktX12_fearsAt_0 := by decide +kernel
theorem dX12_fearsAt_0 : decode cX12_fearsAt 0 = .ok (.iload_n 2, 1) := dk_28 (dk_at dksX12_fearsAt_0 0 rfl rfl)
theorem dX12_fearsAt_1 : decode cX12_fearsAt 1 = .ok (.ifCond .ne 12, 3) := dk_154 0 12 (dk_at dksX12_fearsAt_0 1 rfl rfl)
theorem dX12_fearsAt_4 : decode cX12_fearsAt 4 = .ok (.iload_n 1, 1) := dk_27 (dk_at dksX12_fearsAt_0 4 rfl rfl)
theorem dX12_fearsAt_5 : decode cX12_fearsAt 5 = .ok (.aload_n 0, 1) := dk_42 (dk_at dksX12_fearsAt_0 5 rfl rfl)
theorem dX12_fearsAt_6 : decode cX12_fearsAt 6 = .ok (.getfield 15, 3) := dk_180 0 15 (dk_at dksX12_fearsAt_0 6 rfl rfl)
theorem dX12_fearsAt_9 : decode cX12_fearsAt 9 = .ok (.iand, 1) := dk_126 (dk_at dksX12_fearsAt_0 9 rfl rfl)
theorem dX12_fearsAt_10 : decode cX12_fearsAt 10 = .ok (.ifCond .eq 7, 3) := dk_153 0 7 (dk_at dksX12_fearsAt_0 10 rfl rfl)
theorem dX12_fearsAt_13 : decode cX12_fearsAt 13 = .ok (.iconst 1, 1) := dk_4 (dk_at dksX12_fearsAt_0 13 rfl rfl)
theorem dX12_fearsAt_14 : decode cX12_fearsAt 14 = .ok (.goto 4, 3) := dk_167 0 4 (dk_at dksX12_fearsAt_0 14 rfl rfl)
theorem dX12_fearsAt_17 : decode cX12_fearsAt 17 = .ok (.iconst 0, 1) := dk_3 (dk_at dksX12_fearsAt_0 17 rfl rfl)
theorem dX12_fearsAt_18 : decode cX12_fearsAt 18 = .ok (.ireturn, 1) := dk_172 (dk_at dksX12_fearsAt_0 18 rfl rfl)
def dkwX14_fearsAt_0 : List UInt8 := [28, 154, 0, 7, 27, 153, 0, 7, 4, 167, 0, 4, 3, 172]
abbrev dktX14_fearsAt_0 : List UInt8 := dkwX14_fearsAt_0 ++ []
theorem dksX14_fearsAt_0 : cX14_fearsAt.data.toList.drop 0 = dktX14_fearsAt_0 := by decide +kernel
theorem dX14_fearsAt_0 : decode cX14_fearsAt 0 = .ok (.iload_n 2, 1) := dk_28 (dk_at dksX14_fearsAt_0 0 rfl rfl)
theorem dX14_fearsAt_1 : decode cX14_fearsAt 1 = .ok (.ifCond .ne 7, 3) := dk_154 0 7 (dk_at dksX14_fearsAt_0 1 rfl rfl)
theorem dX14_fearsAt_4 : decode cX14_fearsAt 4 = .ok (.iload_n 1, 1) := dk_27 (dk_at dksX14_fearsAt_0 4 rfl rfl)
theorem dX14_fearsAt_5 : decode cX14_fearsAt 5 = .ok (.ifCond .eq 7, 3) := dk_153 0 7 (dk_at dksX14_fearsAt_0 5 rfl rfl)
theorem dX14_fearsAt_8 : decode cX14_fearsAt 8 = .ok (.iconst 1, 1) := dk_4 (dk_at dksX14_fearsAt_0 8 rfl rfl)
theorem dX14_fearsAt_9 : decode cX14_fearsAt 9 = .ok (.goto 4, 3) := dk_167 0 4 (dk_at dksX14_fearsAt_0 9 rfl rfl)
theorem dX14_fearsAt_12 : decode cX14_fearsAt 12 = .ok (.iconst 0, 1) := dk_3 (dk_at dksX14_fearsAt_0 12 rfl rfl)
theorem dX14_fearsAt_13 : decode cX14_fearsAt 13 = .ok (.ireturn, 1) := dk_172 (dk_at dksX14_fearsAt_0 13 rfl rfl)
theorem dX15_fearsAt_0 : decode cX15_fearsAt 0 = .ok (.iconst 0, 1) := by decide +kernel
theorem dX15_fearsAt_1 : decode cX15_fearsAt 1 = .ok (.ireturn, 1) := by decide +kernel
def dkwX5_isFeared_0 : List UInt8 := [43, 42, 180, 0, 30, 28, 46, 42, 180, 0, 37, 28, 42, 180, 0, 74, 4, 182, 0, 102, 182, 0, 108, 172]
abbrev dktX5_isFeared_0 : List UInt8 := dkwX5_isFeared_0 ++ []
theorem dksX5_isFeared_0 : cX5_isFeared.data.toList.drop 0 = dktX5_isFeared_0 := by decide +kernel
theorem dX5_isFeared_0 : decode cX5_isFeared 0 = .ok (.aload_n 1, 1) := dk_43 (dk_at dksX5_isFeared_0 0 rfl rfl)
theorem dX5_isFeared_1 : decode cX5_isFeared 1 = .ok (.aload_n 0, 1) := dk_42 (dk_at dksX5_isFeared_0 1 rfl rfl)
theorem dX5_isFeared_2 : decode cX5_isFeared 2 = .ok (.getfield 30, 3) := dk_180 0 30 (dk_at dksX5_isFeared_0 2 rfl rfl)
theorem dX5_isFeared_5 : decode cX5_isFeared 5 = .ok (.iload_n 2, 1) := dk_28 (dk_at dksX5_isFeared_0 5 rfl rfl)
theorem dX5_isFeared_6 : decode cX5_isFeared 6 = .ok (.iaload, 1) := dk_46 (dk_at dksX5_isFeared_0 6 rfl rfl)
theorem dX5_isFeared_7 : decode cX5_isFeared 7 = .ok (.aload_n 0, 1) := dk_42 (dk_at dksX5_isFeared_0 7 rfl rfl)
theorem dX5_isFeared_8 : decode cX5_isFeared 8 = .ok (.getfield 37, 3) := dk_180 0 37 (dk_at dksX5_isFeared_0 8 rfl rfl)
theorem dX5_isFeared_11 : decode cX5_isFeared 11 = .ok (.iload_n 2, 1) := dk_28 (dk_at dksX5_isFeared_0 11 rfl rfl)
theorem dX5_isFeared_12 : decode cX5_isFeared 12 = .ok (.aload_n 0, 1) := dk_42 (dk_at dksX5_isFeared_0 12 rfl rfl)
theorem dX5_isFeared_13 : decode cX5_isFeared 13 = .ok (.getfield 74, 3) := dk_180 0 74 (dk_at dksX5_isFeared_0 13 rfl rfl)
theorem dX5_isFeared_16 : decode cX5_isFeared 16 = .ok (.iconst 1, 1) := dk_4 (dk_at dksX5_isFeared_0 16 rfl rfl)
theorem dX5_isFeared_17 : decode cX5_isFeared 17 = .ok (.invokevirtual 102, 3) := dk_182 0 102 (dk_at dksX5_isFeared_0 17 rfl rfl)
theorem dX5_isFeared_20 : decode cX5_isFeared 20 = .ok (.invokevirtual 108, 3) := dk_182 0 108 (dk_at dksX5_isFeared_0 20 rfl rfl)
theorem dX5_isFeared_23 : decode cX5_isFeared 23 = .ok (.ireturn, 1) := dk_172 (dk_at dksX5_isFeared_0 23 rfl rfl)
def dkwX5_canGo_1 : List UInt8 := [154, 0, 7, 4, 167, 0, 4, 3, 172]
abbrev dktX5_canGo_1 : List UInt8 := dkwX5_canGo_1 ++ []
def dkwX5_canGo_0 : List UInt8 := [42, 42, 180, 0, 15, 43, 180, 0, 122, 46, 28, 182, 0, 125, 153, 0, 16, 42, 43, 28, 182, 0, 128]
abbrev dktX5_canGo_0 : List UInt8 := dkwX5_canGo_0 ++ dktX5_canGo_1
theorem dksX5_canGo_0 : cX5_canGo.data.toList.drop 0 = dktX5_canGo_0 := by decide +kernel
theorem dksX5_canGo_1 : cX5_canGo.data.toList.drop 23 = dktX5_canGo_1 := dk_seg dksX5_canGo_0 23 rfl rfl
theorem dX5_canGo_0 : decode cX5_canGo 0 = .ok (.aload_n 0, 1) := dk_42 (dk_at dksX5_canGo_0 0 rfl rfl)
theorem dX5_canGo_1 : decode cX5_canGo 1 = .ok (.aload_n 0, 1) := dk_42 (dk_at dksX5_canGo_0 1 rfl rfl)
theorem dX5_canGo_2 : decode cX5_canGo 2 = .ok (.getfield 15, 3) := dk_180 0 15 (dk_at dksX5_canGo_0 2 rfl rfl)
theorem dX5_canGo_5 : decode cX5_canGo 5 = .ok (.aload_n 1, 1) := dk_43 (dk_at dksX5_canGo_0 5 rfl rfl)
theorem dX5_canGo_6 : decode cX5_canGo 6 = .ok (.getfield 122, 3) := dk_180 0 122 (dk_at dksX5_canGo_0 6 rfl rfl)
theorem dX5_canGo_9 : decode cX5_canGo 9 = .ok (.iaload, 1) := dk_46 (dk_at dksX5_canGo_0 9 rfl rfl)
theorem dX5_canGo_10 : decode cX5_canGo 10 = .ok (.iload_n 2, 1) := dk_28 (dk_at dksX5_canGo_0 10 rfl rfl)
theorem dX5_canGo_11 : decode cX5_canGo 11 = .ok (.invokevirtual 125, 3) := dk_182 0 125 (dk_at dksX5_canGo_0 11 rfl rfl)
theorem dX5_canGo_14 : decode cX5_canGo 14 = .ok (.ifCond .eq 16, 3) := dk_153 0 16 (dk_at dksX5_canGo_0 14 rfl rfl)
theorem dX5_canGo_17 : decode cX5_canGo 17 = .ok (.aload_n 0, 1) := dk_42 (dk_at dksX5_canGo_0 17 rfl rfl)
theorem dX5_canGo_18 : decode cX5_canGo 18 = .ok (.aload_n 1, 1) := dk_43 (dk_at dksX5_canGo_0 18 rfl rfl)
theorem dX5_canGo_19 : decode cX5_canGo 19 = .ok (.iload_n 2, 1) := dk_28 (dk_at dksX5_canGo_0 19 rfl rfl)
theorem dX5_canGo_20 : decode cX5_canGo 20 = .ok (.invokevirtual 128, 3) := dk_182 0 128 (dk_at dksX5_canGo_0 20 rfl rfl)
theorem dX5_canGo_23 : decode cX5_canGo 23 = .ok (.ifCond .ne 7, 3) := dk_154 0 7 (dk_at dksX5_canGo_1 0 rfl rfl)
theorem dX5_canGo_26 : decode cX5_canGo 26 = .ok (.iconst 1, 1) := dk_4 (dk_at dksX5_canGo_1 3 rfl rfl)
theorem dX5_canGo_27 : decode cX5_canGo 27 = .ok (.goto 4, 3) := dk_167 0 4 (dk_at dksX5_canGo_1 4 rfl rfl)
theorem dX5_canGo_30 : decode cX5_canGo 30 = .ok (.iconst 0, 1) := dk_3 (dk_at dksX5_canGo_1 7 rfl rfl)
theorem dX5_canGo_31 : decode cX5_canGo 31 = .ok (.ireturn, 1) := dk_172 (dk_at dksX5_canGo_1 8 rfl rfl)
def dkwX12_rank_1 : List UInt8 := [158, 0, 5, 29, 172, 132, 3, 1, 167, 255, 228, 16, 9, 172]
abbrev dktX12_rank_1 : List UInt8 := dkwX12_rank_1 ++ []
def dkwX12_rank_0 : List UInt8 := [3, 62, 29, 42, 180, 0, 19, 162, 0, 26, 43, 7, 28, 104, 42, 180, 0, 9, 29, 46, 96, 46]
abbrev dktX12_rank_0 : List UInt8 := dkwX12_rank_0 ++ dktX12_rank_1
theorem dksX12_rank_0 : cX12_rank.data.toList.drop 0 = dktX12_rank_0 := by decide +kernel
theorem dksX12_rank_1 : cX12_rank.data.toList.drop 22 = dktX12_rank_1 := dk_seg dksX12_rank_0 22 rfl rfl
theorem dX12_rank_0 : decode cX12_rank 0 = .ok (.iconst 0, 1) := dk_3 (dk_at dksX12_rank_0 0 rfl rfl)
theorem dX12_rank_1 : decode cX12_rank 1 = .ok (.istore_n 3, 1) := dk_62 (dk_at dksX12_rank_0 1 rfl rfl)
theorem dX12_rank_2 : decode cX12_rank 2 = .ok (.iload_n 3, 1) := dk_29 (dk_at dksX12_rank_0 2 rfl rfl)
theorem dX12_rank_3 : decode cX12_rank 3 = .ok (.aload_n 0, 1) := dk_42 (dk_at dksX12_rank_0 3 rfl rfl)
theorem dX12_rank_4 : decode cX12_rank 4 = .ok (.getfield 19, 3) := dk_180 0 19 (dk_at dksX12_rank_0 4 rfl rfl)
theorem dX12_rank_7 : decode cX12_rank 7 = .ok (.if_icmp .ge 26, 3) := dk_162 0 26 (dk_at dksX12_rank_0 7 rfl rfl)
theorem dX12_rank_10 : decode cX12_rank 10 = .ok (.aload_n 1, 1) := dk_43 (dk_at dksX12_rank_0 10 rfl rfl)
theorem dX12_rank_11 : decode cX12_rank 11 = .ok (.iconst 4, 1) := dk_7 (dk_at dksX12_rank_0 11 rfl rfl)
theorem dX12_rank_12 : decode cX12_rank 12 = .ok (.iload_n 2, 1) := dk_28 (dk_at dksX12_rank_0 12 rfl rfl)
theorem dX12_rank_13 : decode cX12_rank 13 = .ok (.imul, 1) := dk_104 (dk_at dksX12_rank_0 13 rfl rfl)
theorem dX12_rank_14 : decode cX12_rank 14 = .ok (.aload_n 0, 1) := dk_42 (dk_at dksX12_rank_0 14 rfl rfl)
theorem dX12_rank_15 : decode cX12_rank 15 = .ok (.getfield 9, 3) := dk_180 0 9 (dk_at dksX12_rank_0 15 rfl rfl)
theorem dX12_rank_18 : decode cX12_rank 18 = .ok (.iload_n 3, 1) := dk_29 (dk_at dksX12_rank_0 18 rfl rfl)
theorem dX12_rank_19 : decode cX12_rank 19 = .ok (.iaload, 1) := dk_46 (dk_at dksX12_rank_0 19 rfl rfl)
theorem dX12_rank_20 : decode cX12_rank 20 = .ok (.iadd, 1) := dk_96 (dk_at dksX12_rank_0 20 rfl rfl)
theorem dX12_rank_21 : decode cX12_rank 21 = .ok (.iaload, 1) := dk_46 (dk_at dksX12_rank_0 21 rfl rfl)
theorem dX12_rank_22 : decode cX12_rank 22 = .ok (.ifCond .le 5, 3) := dk_158 0 5 (dk_at dksX12_rank_1 0 rfl rfl)
theorem dX12_rank_25 : decode cX12_rank 25 = .ok (.iload_n 3, 1) := dk_29 (dk_at dksX12_rank_1 3 rfl rfl)
theorem dX12_rank_26 : decode cX12_rank 26 = .ok (.ireturn, 1) := dk_172 (dk_at dksX12_rank_1 4 rfl rfl)
theorem dX12_rank_27 : decode cX12_rank 27 = .ok (.iinc 3 1, 3) := dk_132 3 1 (dk_at dksX12_rank_1 5 rfl rfl)
theorem dX12_rank_30 : decode cX12_rank 30 = .ok (.goto (-28), 3) := dk_167 255 228 (dk_at dksX12_rank_1 8 rfl rfl)
theorem dX12_rank_33 : decode cX12_rank 33 = .ok (.bipush 9, 2) := dk_16 9 (dk_at dksX12_rank_1 11 rfl rfl)
theorem dX12_rank_35 : decode cX12_rank 35 = .ok (.ireturn, 1) := dk_172 (dk_at dksX12_rank_1 13 rfl rfl)
def dkwX5_worth_1 : List UInt8 := [182, 0, 132, 62, 29, 16, 9, 160, 0, 8, 16, 9, 167, 0, 6, 4, 29, 96, 172]
abbrev dktX5_worth_1 : List UInt8 := dkwX5_worth_1 ++ []
def dkwX5_worth_0 : List UInt8 := [42, 180, 0, 37, 28, 42, 180, 0, 74, 3, 182, 0, 102, 153, 0, 5, 3, 172, 43, 42, 180, 0, 9, 28]
abbrev dktX5_worth_0 : List UInt8 := dkwX5_worth_0 ++ dktX5_worth_1
theorem dksX5_worth_0 : cX5_worth.data.toList.drop 0 = dktX5_worth_0 := by decide +kernel
theorem dksX5_worth_1 : cX5_worth.data.toList.drop 24 = dktX5_worth_1 := dk_seg dksX5_worth_0 24 rfl rfl
theorem dX5_worth_0 : decode cX5_worth 0 = .ok (.aload_n 0, 1) := dk_42 (dk_at dksX5_worth_0 0 rfl rfl)
theorem dX5_worth_1 : decode cX5_worth 1 = .ok (.getfield 37, 3) := dk_180 0 37 (dk_at dksX5_worth_0 1 rfl rfl)
theorem dX5_worth_4 : decode cX5_worth 4 = .ok (.iload_n 2, 1) := dk_28 (dk_at dksX5_worth_0 4 rfl rfl)
theorem dX5_worth_5 : decode cX5_worth 5 = .ok (.aload_n 0, 1) := dk_42 (dk_at dksX5_worth_0 5 rfl rfl)
theorem dX5_worth_6 : decode cX5_worth 6 = .ok (.getfield 74, 3) := dk_180 0 74 (dk_at dksX5_worth_0 6 rfl rfl)
theorem dX5_worth_9 : decode cX5_worth 9 = .ok (.iconst 0, 1) := dk_3 (dk_at dksX5_worth_0 9 rfl rfl)
theorem dX5_worth_10 : decode cX5_worth 10 = .ok (.invokevirtual 102, 3) := dk_182 0 102 (dk_at dksX5_worth_0 10 rfl rfl)
theorem dX5_worth_13 : decode cX5_worth 13 = .ok (.ifCond .eq 5, 3) := dk_153 0 5 (dk_at dksX5_worth_0 13 rfl rfl)
theorem dX5_worth_16 : decode cX5_worth 16 = .ok (.iconst 0, 1) := dk_3 (dk_at dksX5_worth_0 16 rfl rfl)
theorem dX5_worth_17 : decode cX5_worth 17 = .ok (.ireturn, 1) := dk_172 (dk_at dksX5_worth_0 17 rfl rfl)
theorem dX5_worth_18 : decode cX5_worth 18 = .ok (.aload_n 1, 1) := dk_43 (dk_at dksX5_worth_0 18 rfl rfl)
theorem dX5_worth_19 : decode cX5_worth 19 = .ok (.aload_n 0, 1) := dk_42 (dk_at dksX5_worth_0 19 rfl rfl)
theorem dX5_worth_20 : decode cX5_worth 20 = .ok (.getfield 9, 3) := dk_180 0 9 (dk_at dksX5_worth_0 20 rfl rfl)
theorem dX5_worth_23 : decode cX5_worth 23 = .ok (.iload_n 2, 1) := dk_28 (dk_at dksX5_worth_0 23 rfl rfl)
theorem dX5_worth_24 : decode cX5_worth 24 = .ok (.invokevirtual 132, 3) := dk_182 0 132 (dk_at dksX5_worth_1 0 rfl rfl)
theorem dX5_worth_27 : decode cX5_worth 27 = .ok (.istore_n 3, 1) := dk_62 (dk_at dksX5_worth_1 3 rfl rfl)
theorem dX5_worth_28 : decode cX5_worth 28 = .ok (.iload_n 3, 1) := dk_29 (dk_at dksX5_worth_1 4 rfl rfl)
theorem dX5_worth_29 : decode cX5_worth 29 = .ok (.bipush 9, 2) := dk_16 9 (dk_at dksX5_worth_1 5 rfl rfl)
theorem dX5_worth_31 : decode cX5_worth 31 = .ok (.if_icmp .ne 8, 3) := dk_160 0 8 (dk_at dksX5_worth_1 7 rfl rfl)
theorem dX5_worth_34 : decode cX5_worth 34 = .ok (.bipush 9, 2) := dk_16 9 (dk_at dksX5_worth_1 10 rfl rfl)
theorem dX5_worth_36 : decode cX5_worth 36 = .ok (.goto 6, 3) := dk_167 0 6 (dk_at dksX5_worth_1 12 rfl rfl)
theorem dX5_worth_39 : decode cX5_worth 39 = .ok (.iconst 1, 1) := dk_4 (dk_at dksX5_worth_1 15 rfl rfl)
theorem dX5_worth_40 : decode cX5_worth 40 = .ok (.iload_n 3, 1) := dk_29 (dk_at dksX5_worth_1 16 rfl rfl)
theorem dX5_worth_41 : decode cX5_worth 41 = .ok (.iadd, 1) := dk_96 (dk_at dksX5_worth_1 17 rfl rfl)
theorem dX5_worth_42 : decode cX5_worth 42 = .ok (.ireturn, 1) := dk_172 (dk_at dksX5_worth_1 18 rfl rfl)
def dkwX5_bestOf_2 : List UInt8 := [132, 3, 1, 167, 255, 211, 28, 172]
abbrev dktX5_bestOf_2 : List UInt8 := dkwX5_bestOf_2 ++ []
def dkwX5_bestOf_1 : List UInt8 := [28, 2, 159, 0, 18, 42, 43, 29, 182, 0, 139, 42, 43, 28, 182, 0, 139, 162, 0, 5, 29, 61]
abbrev dktX5_bestOf_1 : List UInt8 := dkwX5_bestOf_1 ++ dktX5_bestOf_2
def dkwX5_bestOf_0 : List UInt8 := [2, 61, 3, 62, 29, 42, 180, 0, 33, 180, 0, 41, 162, 0, 40, 42, 43, 29, 182, 0, 136, 153, 0, 25]
abbrev dktX5_bestOf_0 : List UInt8 := dkwX5_bestOf_0 ++ dktX5_bestOf_1
theorem dksX5_bestOf_0 : cX5_bestOf.data.toList.drop 0 = dktX5_bestOf_0 := by decide +kernel
theorem dksX5_bestOf_1 : cX5_bestOf.data.toList.drop 24 = dktX5_bestOf_1 := dk_seg dksX5_bestOf_0 24 rfl rfl
theorem dksX5_bestOf_2 : cX5_bestOf.data.toList.drop 46 = dktX5_bestOf_2 := dk_seg dksX5_bestOf_1 22 rfl rfl
theorem dX5_bestOf_0 : decode cX5_bestOf 0 = .ok (.iconst (-1), 1) := dk_2 (dk_at dksX5_bestOf_0 0 rfl rfl)
theorem dX5_bestOf_1 : decode cX5_bestOf 1 = .ok (.istore_n 2, 1) := dk_61 (dk_at dksX5_bestOf_0 1 rfl rfl)
theorem dX5_bestOf_2 : decode cX5_bestOf 2 = .ok (.iconst 0, 1) := dk_3 (dk_at dksX5_bestOf_0 2 rfl rfl)
theorem dX5_bestOf_3 : decode cX5_bestOf 3 = .ok (.istore_n 3, 1) := dk_62 (dk_at dksX5_bestOf_0 3 rfl rfl)
theorem dX5_bestOf_4 : decode cX5_bestOf 4 = .ok (.iload_n 3, 1) := dk_29 (dk_at dksX5_bestOf_0 4 rfl rfl)
theorem dX5_bestOf_5 : decode cX5_bestOf 5 = .ok (.aload_n 0, 1) := dk_42 (dk_at dksX5_bestOf_0 5 rfl rfl)
theorem dX5_bestOf_6 : decode cX5_bestOf 6 = .ok (.getfield 33, 3) := dk_180 0 33 (dk_at dksX5_bestOf_0 6 rfl rfl)
theorem dX5_bestOf_9 : decode cX5_bestOf 9 = .ok (.getfield 41, 3) := dk_180 0 41 (dk_at dksX5_bestOf_0 9 rfl rfl)
theorem dX5_bestOf_12 : decode cX5_bestOf 12 = .ok (.if_icmp .ge 40, 3) := dk_162 0 40 (dk_at dksX5_bestOf_0 12 rfl rfl)
theorem dX5_bestOf_15 : decode cX5_bestOf 15 = .ok (.aload_n 0, 1) := dk_42 (dk_at dksX5_bestOf_0 15 rfl rfl)
theorem dX5_bestOf_16 : decode cX5_bestOf 16 = .ok (.aload_n 1, 1) := dk_43 (dk_at dksX5_bestOf_0 16 rfl rfl)
theorem dX5_bestOf_17 : decode cX5_bestOf 17 = .ok (.iload_n 3, 1) := dk_29 (dk_at dksX5_bestOf_0 17 rfl rfl)
theorem dX5_bestOf_18 : decode cX5_bestOf 18 = .ok (.invokevirtual 136, 3) := dk_182 0 136 (dk_at dksX5_bestOf_0 18 rfl rfl)
theorem dX5_bestOf_21 : decode cX5_bestOf 21 = .ok (.ifCond .eq 25, 3) := dk_153 0 25 (dk_at dksX5_bestOf_0 21 rfl rfl)
theorem dX5_bestOf_24 : decode cX5_bestOf 24 = .ok (.iload_n 2, 1) := dk_28 (dk_at dksX5_bestOf_1 0 rfl rfl)
theorem dX5_bestOf_25 : decode cX5_bestOf 25 = .ok (.iconst (-1), 1) := dk_2 (dk_at dksX5_bestOf_1 1 rfl rfl)
theorem dX5_bestOf_26 : decode cX5_bestOf 26 = .ok (.if_icmp .eq 18, 3) := dk_159 0 18 (dk_at dksX5_bestOf_1 2 rfl rfl)
theorem dX5_bestOf_29 : decode cX5_bestOf 29 = .ok (.aload_n 0, 1) := dk_42 (dk_at dksX5_bestOf_1 5 rfl rfl)
theorem dX5_bestOf_30 : decode cX5_bestOf 30 = .ok (.aload_n 1, 1) := dk_43 (dk_at dksX5_bestOf_1 6 rfl rfl)
theorem dX5_bestOf_31 : decode cX5_bestOf 31 = .ok (.iload_n 3, 1) := dk_29 (dk_at dksX5_bestOf_1 7 rfl rfl)
theorem dX5_bestOf_32 : decode cX5_bestOf 32 = .ok (.invokevirtual 139, 3) := dk_182 0 139 (dk_at dksX5_bestOf_1 8 rfl rfl)
theorem dX5_bestOf_35 : decode cX5_bestOf 35 = .ok (.aload_n 0, 1) := dk_42 (dk_at dksX5_bestOf_1 11 rfl rfl)
theorem dX5_bestOf_36 : decode cX5_bestOf 36 = .ok (.aload_n 1, 1) := dk_43 (dk_at dksX5_bestOf_1 12 rfl rfl)
theorem dX5_bestOf_37 : decode cX5_bestOf 37 = .ok (.iload_n 2, 1) := dk_28 (dk_at dksX5_bestOf_1 13 rfl rfl)
theorem dX5_bestOf_38 : decode cX5_bestOf 38 = .ok (.invokevirtual 139, 3) := dk_182 0 139 (dk_at dksX5_bestOf_1 14 rfl rfl)
theorem dX5_bestOf_41 : decode cX5_bestOf 41 = .ok (.if_icmp .ge 5, 3) := dk_162 0 5 (dk_at dksX5_bestOf_1 17 rfl rfl)
theorem dX5_bestOf_44 : decode cX5_bestOf 44 = .ok (.iload_n 3, 1) := dk_29 (dk_at dksX5_bestOf_1 20 rfl rfl)
theorem dX5_bestOf_45 : decode cX5_bestOf 45 = .ok (.istore_n 2, 1) := dk_61 (dk_at dksX5_bestOf_1 21 rfl rfl)
theorem dX5_bestOf_46 : decode cX5_bestOf 46 = .ok (.iinc 3 1, 3) := dk_132 3 1 (dk_at dksX5_bestOf_2 0 rfl rfl)
theorem dX5_bestOf_49 : decode cX5_bestOf 49 = .ok (.goto (-45), 3) := dk_167 255 211 (dk_at dksX5_bestOf_2 3 rfl rfl)
theorem dX5_bestOf_52 : decode cX5_bestOf 52 = .ok (.iload_n 2, 1) := dk_28 (dk_at dksX5_bestOf_2 6 rfl rfl)
theorem dX5_bestOf_53 : decode cX5_bestOf 53 = .ok (.ireturn, 1) := dk_172 (dk_at dksX5_bestOf_2 7 rfl rfl)
theorem dX12_bites_0 : decode cX12_bites 0 = .ok (.iconst 1, 1) := by decide +kernel
theorem dX12_bites_1 : decode cX12_bites 1 = .ok (.ireturn, 1) := by decide +kernel
theorem dX15_bites_0 : decode cX15_bites 0 = .ok (.iconst 2, 1) := by decide +kernel
theorem dX15_bites_1 : decode cX15_bites 1 = .ok (.ireturn, 1) := by decide +kernel
def dkwX5_eats_3 : List UInt8 := [16, 12, 43, 180, 0, 122, 104, 42, 180, 0, 74, 96, 21, 4, 79, 177]
abbrev dktX5_eats_3 : List UInt8 := dkwX5_eats_3 ++ []
def dkwX5_eats_2 : List UInt8 := [79, 42, 180, 0, 21, 16, 12, 43, 180, 0, 122, 104, 42, 180, 0, 74, 96, 29, 79, 42, 180, 0, 24]
abbrev dktX5_eats_2 : List UInt8 := dkwX5_eats_2 ++ dktX5_eats_3
def dkwX5_eats_1 : List UInt8 := [28, 104, 29, 96, 46, 184, 0, 162, 54, 4, 42, 180, 0, 9, 7, 28, 104, 29, 96, 92, 46, 21, 4, 100]
abbrev dktX5_eats_1 : List UInt8 := dkwX5_eats_1 ++ dktX5_eats_2
def dkwX5_eats_0 : List UInt8 := [43, 180, 0, 155, 43, 42, 180, 0, 9, 28, 182, 0, 132, 46, 62, 43, 182, 0, 158, 42, 180, 0, 9, 7]
abbrev dktX5_eats_0 : List UInt8 := dkwX5_eats_0 ++ dktX5_eats_1
theorem dksX5_eats_0 : cX5_eats.data.toList.drop 0 = dktX5_eats_0 := by decide +kernel
theorem dksX5_eats_1 : cX5_eats.data.toList.drop 24 = dktX5_eats_1 := dk_seg dksX5_eats_0 24 rfl rfl
theorem dksX5_eats_2 : cX5_eats.data.toList.drop 48 = dktX5_eats_2 := dk_seg dksX5_eats_1 24 rfl rfl
theorem dksX5_eats_3 : cX5_eats.data.toList.drop 71 = dktX5_eats_3 := dk_seg dksX5_eats_2 23 rfl rfl
theorem dX5_eats_0 : decode cX5_eats 0 = .ok (.aload_n 1, 1) := dk_43 (dk_at dksX5_eats_0 0 rfl rfl)
theorem dX5_eats_1 : decode cX5_eats 1 = .ok (.getfield 155, 3) := dk_180 0 155 (dk_at dksX5_eats_0 1 rfl rfl)
theorem dX5_eats_4 : decode cX5_eats 4 = .ok (.aload_n 1, 1) := dk_43 (dk_at dksX5_eats_0 4 rfl rfl)
theorem dX5_eats_5 : decode cX5_eats 5 = .ok (.aload_n 0, 1) := dk_42 (dk_at dksX5_eats_0 5 rfl rfl)
theorem dX5_eats_6 : decode cX5_eats 6 = .ok (.getfield 9, 3) := dk_180 0 9 (dk_at dksX5_eats_0 6 rfl rfl)
theorem dX5_eats_9 : decode cX5_eats 9 = .ok (.iload_n 2, 1) := dk_28 (dk_at dksX5_eats_0 9 rfl rfl)
theorem dX5_eats_10 : decode cX5_eats 10 = .ok (.invokevirtual 132, 3) := dk_182 0 132 (dk_at dksX5_eats_0 10 rfl rfl)
theorem dX5_eats_13 : decode cX5_eats 13 = .ok (.iaload, 1) := dk_46 (dk_at dksX5_eats_0 13 rfl rfl)
theorem dX5_eats_14 : decode cX5_eats 14 = .ok (.istore_n 3, 1) := dk_62 (dk_at dksX5_eats_0 14 rfl rfl)
theorem dX5_eats_15 : decode cX5_eats 15 = .ok (.aload_n 1, 1) := dk_43 (dk_at dksX5_eats_0 15 rfl rfl)
theorem dX5_eats_16 : decode cX5_eats 16 = .ok (.invokevirtual 158, 3) := dk_182 0 158 (dk_at dksX5_eats_0 16 rfl rfl)
theorem dX5_eats_19 : decode cX5_eats 19 = .ok (.aload_n 0, 1) := dk_42 (dk_at dksX5_eats_0 19 rfl rfl)
theorem dX5_eats_20 : decode cX5_eats 20 = .ok (.getfield 9, 3) := dk_180 0 9 (dk_at dksX5_eats_0 20 rfl rfl)
theorem dX5_eats_23 : decode cX5_eats 23 = .ok (.iconst 4, 1) := dk_7 (dk_at dksX5_eats_0 23 rfl rfl)
theorem dX5_eats_24 : decode cX5_eats 24 = .ok (.iload_n 2, 1) := dk_28 (dk_at dksX5_eats_1 0 rfl rfl)
theorem dX5_eats_25 : decode cX5_eats 25 = .ok (.imul, 1) := dk_104 (dk_at dksX5_eats_1 1 rfl rfl)
theorem dX5_eats_26 : decode cX5_eats 26 = .ok (.iload_n 3, 1) := dk_29 (dk_at dksX5_eats_1 2 rfl rfl)
theorem dX5_eats_27 : decode cX5_eats 27 = .ok (.iadd, 1) := dk_96 (dk_at dksX5_eats_1 3 rfl rfl)
theorem dX5_eats_28 : decode cX5_eats 28 = .ok (.iaload, 1) := dk_46 (dk_at dksX5_eats_1 4 rfl rfl)
theorem dX5_eats_29 : decode cX5_eats 29 = .ok (.invokestatic 162, 3) := dk_184 0 162 (dk_at dksX5_eats_1 5 rfl rfl)
theorem dX5_eats_32 : decode cX5_eats 32 = .ok (.istore 4, 2) := dk_54 4 (dk_at dksX5_eats_1 8 rfl rfl)
theorem dX5_eats_34 : decode cX5_eats 34 = .ok (.aload_n 0, 1) := dk_42 (dk_at dksX5_eats_1 10 rfl rfl)
theorem dX5_eats_35 : decode cX5_eats 35 = .ok (.getfield 9, 3) := dk_180 0 9 (dk_at dksX5_eats_1 11 rfl rfl)
theorem dX5_eats_38 : decode cX5_eats 38 = .ok (.iconst 4, 1) := dk_7 (dk_at dksX5_eats_1 14 rfl rfl)
theorem dX5_eats_39 : decode cX5_eats 39 = .ok (.iload_n 2, 1) := dk_28 (dk_at dksX5_eats_1 15 rfl rfl)
theorem dX5_eats_40 : decode cX5_eats 40 = .ok (.imul, 1) := dk_104 (dk_at dksX5_eats_1 16 rfl rfl)
theorem dX5_eats_41 : decode cX5_eats 41 = .ok (.iload_n 3, 1) := dk_29 (dk_at dksX5_eats_1 17 rfl rfl)
theorem dX5_eats_42 : decode cX5_eats 42 = .ok (.iadd, 1) := dk_96 (dk_at dksX5_eats_1 18 rfl rfl)
theorem dX5_eats_43 : decode cX5_eats 43 = .ok (.dup2, 1) := dk_92 (dk_at dksX5_eats_1 19 rfl rfl)
theorem dX5_eats_44 : decode cX5_eats 44 = .ok (.iaload, 1) := dk_46 (dk_at dksX5_eats_1 20 rfl rfl)
theorem dX5_eats_45 : decode cX5_eats 45 = .ok (.iload 4, 2) := dk_21 4 (dk_at dksX5_eats_1 21 rfl rfl)
theorem dX5_eats_47 : decode cX5_eats 47 = .ok (.isub, 1) := dk_100 (dk_at dksX5_eats_1 23 rfl rfl)
theorem dX5_eats_48 : decode cX5_eats 48 = .ok (.iastore, 1) := dk_79 (dk_at dksX5_eats_2 0 rfl rfl)
theorem dX5_eats_49 : decode cX5_eats 49 = .ok (.aload_n 0, 1) := dk_42 (dk_at dksX5_eats_2 1 rfl rfl)
theorem dX5_eats_50 : decode cX5_eats 50 = .ok (.getfield 21, 3) := dk_180 0 21 (dk_at dksX5_eats_2 2 rfl rfl)
theorem dX5_eats_53 : decode cX5_eats 53 = .ok (.bipush 12, 2) := dk_16 12 (dk_at dksX5_eats_2 5 rfl rfl)
theorem dX5_eats_55 : decode cX5_eats 55 = .ok (.aload_n 1, 1) := dk_43 (dk_at dksX5_eats_2 7 rfl rfl)
theorem dX5_eats_56 : decode cX5_eats 56 = .ok (.getfield 122, 3) := dk_180 0 122 (dk_at dksX5_eats_2 8 rfl rfl)
theorem dX5_eats_59 : decode cX5_eats 59 = .ok (.imul, 1) := dk_104 (dk_at dksX5_eats_2 11 rfl rfl)
theorem dX5_eats_60 : decode cX5_eats 60 = .ok (.aload_n 0, 1) := dk_42 (dk_at dksX5_eats_2 12 rfl rfl)
theorem dX5_eats_61 : decode cX5_eats 61 = .ok (.getfield 74, 3) := dk_180 0 74 (dk_at dksX5_eats_2 13 rfl rfl)
theorem dX5_eats_64 : decode cX5_eats 64 = .ok (.iadd, 1) := dk_96 (dk_at dksX5_eats_2 16 rfl rfl)
theorem dX5_eats_65 : decode cX5_eats 65 = .ok (.iload_n 3, 1) := dk_29 (dk_at dksX5_eats_2 17 rfl rfl)
theorem dX5_eats_66 : decode cX5_eats 66 = .ok (.iastore, 1) := dk_79 (dk_at dksX5_eats_2 18 rfl rfl)
theorem dX5_eats_67 : decode cX5_eats 67 = .ok (.aload_n 0, 1) := dk_42 (dk_at dksX5_eats_2 19 rfl rfl)
theorem dX5_eats_68 : decode cX5_eats 68 = .ok (.getfield 24, 3) := dk_180 0 24 (dk_at dksX5_eats_2 20 rfl rfl)
theorem dX5_eats_71 : decode cX5_eats 71 = .ok (.bipush 12, 2) := dk_16 12 (dk_at dksX5_eats_3 0 rfl rfl)
theorem dX5_eats_73 : decode cX5_eats 73 = .ok (.aload_n 1, 1) := dk_43 (dk_at dksX5_eats_3 2 rfl rfl)
theorem dX5_eats_74 : decode cX5_eats 74 = .ok (.getfield 122, 3) := dk_180 0 122 (dk_at dksX5_eats_3 3 rfl rfl)
theorem dX5_eats_77 : decode cX5_eats 77 = .ok (.imul, 1) := dk_104 (dk_at dksX5_eats_3 6 rfl rfl)
theorem dX5_eats_78 : decode cX5_eats 78 = .ok (.aload_n 0, 1) := dk_42 (dk_at dksX5_eats_3 7 rfl rfl)
theorem dX5_eats_79 : decode cX5_eats 79 = .ok (.getfield 74, 3) := dk_180 0 74 (dk_at dksX5_eats_3 8 rfl rfl)
theorem dX5_eats_82 : decode cX5_eats 82 = .ok (.iadd, 1) := dk_96 (dk_at dksX5_eats_3 11 rfl rfl)
theorem dX5_eats_83 : decode cX5_eats 83 = .ok (.iload 4, 2) := dk_21 4 (dk_at dksX5_eats_3 12 rfl rfl)
theorem dX5_eats_85 : decode cX5_eats 85 = .ok (.iastore, 1) := dk_79 (dk_at dksX5_eats_3 14 rfl rfl)
theorem dX5_eats_86 : decode cX5_eats 86 = .ok (.return_, 1) := dk_177 (dk_at dksX5_eats_3 15 rfl rfl)
theorem fp_X7_goat_66 : FP mX7_goat 66 [26] 0 (tyOf 0) := fun kd h => (by cases List.mem_singleton.mp h; exact ⟨6, _, 0, "GoatCourtModel", rfl, rfl, by decide, rfl, rfl, Or.inl rfl, Or.inl ⟨rfl, Or.inl q1889⟩⟩)
theorem fl_X1_216 : FL "GoatCourt" 216 [30, 31, 32, 33] 103 (tyOf 0) := fun kd h => ((List.mem_cons.mp h).elim (fun e => by cases e; exact ⟨10, _, 1, "GoatCourt$Goat", rfl, rfl, by decide, rfl, rfl, Or.inl q1007, Or.inl rfl⟩) (fun h => ((List.mem_cons.mp h).elim (fun e => by cases e; exact ⟨11, _, 1, "GoatCourt$Goat", rfl, rfl, by decide, rfl, rfl, Or.inl q1007, Or.inl rfl⟩) (fun h => ((List.mem_cons.mp h).elim (fun e => by cases e; exact ⟨12, _, 1, "GoatCourt$Goat", rfl, rfl, by decide, rfl, rfl, Or.inl q1007, Or.inl rfl⟩) (fun h => (by cases List.mem_singleton.mp h; exact ⟨13, _, 1, "GoatCourt$Goat", rfl, rfl, by decide, rfl, rfl, Or.inl q1007, Or.inl rfl⟩)))))))
theorem fl_X1_219 : FL "GoatCourt" 219 [30, 31, 32, 33] 102 (.array (.int)) := fun kd h => ((List.mem_cons.mp h).elim (fun e => by cases e; exact ⟨10, _, 0, "GoatCourt$Goat", rfl, rfl, by decide, rfl, rfl, Or.inl q1004, Or.inl rfl⟩) (fun h => ((List.mem_cons.mp h).elim (fun e => by cases e; exact ⟨11, _, 0, "GoatCourt$Goat", rfl, rfl, by decide, rfl, rfl, Or.inl q1004, Or.inl rfl⟩) (fun h => ((List.mem_cons.mp h).elim (fun e => by cases e; exact ⟨12, _, 0, "GoatCourt$Goat", rfl, rfl, by decide, rfl, rfl, Or.inl q1004, Or.inl rfl⟩) (fun h => (by cases List.mem_singleton.mp h; exact ⟨13, _, 0, "GoatCourt$Goat", rfl, rfl, by decide, rfl, rfl, Or.inl q1004, Or.inl rfl⟩)))))))
theorem fp_X7_likes_66 : FP mX7_likes 66 [26] 0 (tyOf 0) := fun kd h => (by cases List.mem_singleton.mp h; exact ⟨6, _, 0, "GoatCourtModel", rfl, rfl, by decide, rfl, rfl, Or.inl rfl, Or.inl ⟨rfl, Or.inl q1889⟩⟩)
theorem fl_X1_228 : FL "GoatCourt" 228 [34, 35, 36] 108 (tyOf 0) := fun kd h => ((List.mem_cons.mp h).elim (fun e => by cases e; exact ⟨14, _, 1, "GoatCourt$Clue", rfl, rfl, by decide, rfl, rfl, Or.inl q1159, Or.inl rfl⟩) (fun h => ((List.mem_cons.mp h).elim (fun e => by cases e; exact ⟨15, _, 1, "GoatCourt$Clue", rfl, rfl, by decide, rfl, rfl, Or.inl q1159, Or.inl rfl⟩) (fun h => (by cases List.mem_singleton.mp h; exact ⟨16, _, 1, "GoatCourt$Clue", rfl, rfl, by decide, rfl, rfl, Or.inl q1159, Or.inl rfl⟩)))))
theorem fl_X1_229 : FL "GoatCourt" 229 [34, 35, 36] 109 (tyOf 0) := fun kd h => ((List.mem_cons.mp h).elim (fun e => by cases e; exact ⟨14, _, 2, "GoatCourt$Clue", rfl, rfl, by decide, rfl, rfl, Or.inl q1167, Or.inl rfl⟩) (fun h => ((List.mem_cons.mp h).elim (fun e => by cases e; exact ⟨15, _, 2, "GoatCourt$Clue", rfl, rfl, by decide, rfl, rfl, Or.inl q1167, Or.inl rfl⟩) (fun h => (by cases List.mem_singleton.mp h; exact ⟨16, _, 2, "GoatCourt$Clue", rfl, rfl, by decide, rfl, rfl, Or.inl q1167, Or.inl rfl⟩)))))
theorem fp_X7_clue_66 : FP mX7_clue 66 [26] 0 (tyOf 0) := fun kd h => (by cases List.mem_singleton.mp h; exact ⟨6, _, 0, "GoatCourtModel", rfl, rfl, by decide, rfl, rfl, Or.inl rfl, Or.inl ⟨rfl, Or.inl q1889⟩⟩)
theorem fl_X1_136 : FL "GoatCourt" 136 [27] 15 (tyOf 0) := fun kd h => (by cases List.mem_singleton.mp h; exact ⟨7, _, 15, "GoatCourt$Hill", rfl, rfl, by decide, rfl, rfl, Or.inl q569, Or.inl rfl⟩)
theorem fl_X1_148 : FL "GoatCourt" 148 [27] 11 (tyOf 0) := fun kd h => (by cases List.mem_singleton.mp h; exact ⟨7, _, 11, "GoatCourt$Hill", rfl, rfl, by decide, rfl, rfl, Or.inl q557, Or.inl rfl⟩)
theorem fl_X1_235 : FL "GoatCourt" 235 [27] 5 (.array (.object "GoatCourt$Person")) := fun kd h => (by cases List.mem_singleton.mp h; exact ⟨7, _, 5, "GoatCourt$Hill", rfl, rfl, by decide, rfl, rfl, Or.inl q536, Or.inl rfl⟩)
theorem fl_X1_239 : FL "GoatCourt" 239 [29] 2 (tyOf 0) := fun kd h => (by cases List.mem_singleton.mp h; exact ⟨9, _, 4, "GoatCourt$Person", rfl, rfl, by decide, rfl, rfl, Or.inl q953, Or.inl rfl⟩)
theorem fl_X24_24 : FL "GoatCourtModel$Hill" 24 [40] 20 (.array (.int)) := fun kd h => (by cases List.mem_singleton.mp h; exact ⟨20, _, 20, "GoatCourtModel$Hill", rfl, rfl, by decide, rfl, rfl, Or.inl q2056, Or.inl rfl⟩)
theorem fp_X7_story_66 : FP mX7_story 66 [26] 0 (tyOf 0) := fun kd h => (by cases List.mem_singleton.mp h; exact ⟨6, _, 0, "GoatCourtModel", rfl, rfl, by decide, rfl, rfl, Or.inl rfl, Or.inl ⟨rfl, Or.inl q1889⟩⟩)
theorem fp_X7_stories_66 : FP mX7_stories 66 [26] 0 (tyOf 0) := fun kd h => (by cases List.mem_singleton.mp h; exact ⟨6, _, 0, "GoatCourtModel", rfl, rfl, by decide, rfl, rfl, Or.inl rfl, Or.inl ⟨rfl, Or.inl q1889⟩⟩)
theorem fp_X7_caseOf_66 : FP mX7_caseOf 66 [26] 0 (tyOf 0) := fun kd h => (by cases List.mem_singleton.mp h; exact ⟨6, _, 0, "GoatCourtModel", rfl, rfl, by decide, rfl, rfl, Or.inl rfl, Or.inl ⟨rfl, Or.inl q1889⟩⟩)
theorem fl_X5_33 : FL "GoatCourt$Day" 33 [24] 7 (.object "GoatCourt$Hill") := fun kd h => (by cases List.mem_singleton.mp h; exact ⟨4, _, 7, "GoatCourt$Day", rfl, rfl, by decide, rfl, rfl, Or.inl q358, Or.inl rfl⟩)
theorem fl_X5_88 : FL "GoatCourt$Day" 88 [27] 15 (tyOf 0) := fun kd h => (by cases List.mem_singleton.mp h; exact ⟨7, _, 15, "GoatCourt$Hill", rfl, rfl, by decide, rfl, rfl, Or.inl q568, Or.inl rfl⟩)
theorem fl_X5_30 : FL "GoatCourt$Day" 30 [24] 6 (.array (.int)) := fun kd h => (by cases List.mem_singleton.mp h; exact ⟨4, _, 6, "GoatCourt$Day", rfl, rfl, by decide, rfl, rfl, Or.inl q357, Or.inl rfl⟩)
theorem fl_X5_95 : FL "GoatCourt$Day" 95 [27] 5 (.array (.object "GoatCourt$Person")) := fun kd h => (by cases List.mem_singleton.mp h; exact ⟨7, _, 5, "GoatCourt$Hill", rfl, rfl, by decide, rfl, rfl, Or.inl q535, Or.inl rfl⟩)
theorem fl_X5_74 : FL "GoatCourt$Day" 74 [24] 9 (tyOf 0) := fun kd h => (by cases List.mem_singleton.mp h; exact ⟨4, _, 9, "GoatCourt$Day", rfl, rfl, by decide, rfl, rfl, Or.inl q360, Or.inl rfl⟩)
theorem fl_X5_41 : FL "GoatCourt$Day" 41 [27] 13 (tyOf 0) := fun kd h => (by cases List.mem_singleton.mp h; exact ⟨7, _, 13, "GoatCourt$Hill", rfl, rfl, by decide, rfl, rfl, Or.inl q560, Or.inl rfl⟩)
theorem fl_X5_37 : FL "GoatCourt$Day" 37 [24] 8 (.object "GoatCourt$Ground") := fun kd h => (by cases List.mem_singleton.mp h; exact ⟨4, _, 8, "GoatCourt$Day", rfl, rfl, by decide, rfl, rfl, Or.inl q359, Or.inl rfl⟩)
theorem fl_X5_115 : FL "GoatCourt$Day" 115 [23] 2 (tyOf 0) := fun kd h => (by cases List.mem_singleton.mp h; exact ⟨3, _, 2, "GoatCourt$Ground", rfl, rfl, by decide, rfl, rfl, Or.inl q331, Or.inl rfl⟩)
theorem fl_X12_15 : FL "GoatCourt$Goat" 15 [30, 31, 32, 33] 106 (tyOf 0) := fun kd h => ((List.mem_cons.mp h).elim (fun e => by cases e; exact ⟨10, _, 4, "GoatCourt$Goat", rfl, rfl, by decide, rfl, rfl, Or.inl q1014, Or.inl rfl⟩) (fun h => ((List.mem_cons.mp h).elim (fun e => by cases e; exact ⟨11, _, 4, "GoatCourt$Goat", rfl, rfl, by decide, rfl, rfl, Or.inl q1014, Or.inl rfl⟩) (fun h => ((List.mem_cons.mp h).elim (fun e => by cases e; exact ⟨12, _, 4, "GoatCourt$Goat", rfl, rfl, by decide, rfl, rfl, Or.inl q1014, Or.inl rfl⟩) (fun h => (by cases List.mem_singleton.mp h; exact ⟨13, _, 4, "GoatCourt$Goat", rfl, rfl, by decide, rfl, rfl, Or.inl q1014, Or.inl rfl⟩)))))))
theorem fl_X5_15 : FL "GoatCourt$Day" 15 [24] 1 (.array (.int)) := fun kd h => (by cases List.mem_singleton.mp h; exact ⟨4, _, 1, "GoatCourt$Day", rfl, rfl, by decide, rfl, rfl, Or.inl q352, Or.inl rfl⟩)
theorem fl_X5_122 : FL "GoatCourt$Day" 122 [30, 31, 32, 33] 101 (tyOf 0) := fun kd h => ((List.mem_cons.mp h).elim (fun e => by cases e; exact ⟨10, _, 6, "GoatCourt$Goat", rfl, rfl, by decide, rfl, rfl, Or.inl q892, Or.inr q893⟩) (fun h => ((List.mem_cons.mp h).elim (fun e => by cases e; exact ⟨11, _, 6, "GoatCourt$Goat", rfl, rfl, by decide, rfl, rfl, Or.inl q892, Or.inr q893⟩) (fun h => ((List.mem_cons.mp h).elim (fun e => by cases e; exact ⟨12, _, 6, "GoatCourt$Goat", rfl, rfl, by decide, rfl, rfl, Or.inl q892, Or.inr q893⟩) (fun h => (by cases List.mem_singleton.mp h; exact ⟨13, _, 6, "GoatCourt$Goat", rfl, rfl, by decide, rfl, rfl, Or.inl q892, Or.inr q893⟩)))))))
theorem fl_X12_19 : FL "GoatCourt$Goat" 19 [30, 31, 32, 33] 103 (tyOf 0) := fun kd h => ((List.mem_cons.mp h).elim (fun e => by cases e; exact ⟨10, _, 1, "GoatCourt$Goat", rfl, rfl, by decide, rfl, rfl, Or.inl q1006, Or.inl rfl⟩) (fun h => ((List.mem_cons.mp h).elim (fun e => by cases e; exact ⟨11, _, 1, "GoatCourt$Goat", rfl, rfl, by decide, rfl, rfl, Or.inl q1006, Or.inl rfl⟩) (fun h => ((List.mem_cons.mp h).elim (fun e => by cases e; exact ⟨12, _, 1, "GoatCourt$Goat", rfl, rfl, by decide, rfl, rfl, Or.inl q1006, Or.inl rfl⟩) (fun h => (by cases List.mem_singleton.mp h; exact ⟨13, _, 1, "GoatCourt$Goat", rfl, rfl, by decide, rfl, rfl, Or.inl q1006, Or.inl rfl⟩)))))))
theorem fl_X12_9 : FL "GoatCourt$Goat" 9 [30, 31, 32, 33] 102 (.array (.int)) := fun kd h => ((List.mem_cons.mp h).elim (fun e => by cases e; exact ⟨10, _, 0, "GoatCourt$Goat", rfl, rfl, by decide, rfl, rfl, Or.inl q1002, Or.inl rfl⟩) (fun h => ((List.mem_cons.mp h).elim (fun e => by cases e; exact ⟨11, _, 0, "GoatCourt$Goat", rfl, rfl, by decide, rfl, rfl, Or.inl q1002, Or.inl rfl⟩) (fun h => ((List.mem_cons.mp h).elim (fun e => by cases e; exact ⟨12, _, 0, "GoatCourt$Goat", rfl, rfl, by decide, rfl, rfl, Or.inl q1002, Or.inl rfl⟩) (fun h => (by cases List.mem_singleton.mp h; exact ⟨13, _, 0, "GoatCourt$Goat", rfl, rfl, by decide, rfl, rfl, Or.inl q1002, Or.inl rfl⟩)))))))
theorem fl_X5_9 : FL "GoatCourt$Day" 9 [24] 0 (.array (.int)) := fun kd h => (by cases List.mem_singleton.mp h; exact ⟨4, _, 0, "GoatCourt$Day", rfl, rfl, by decide, rfl, rfl, Or.inl q351, Or.inl rfl⟩)
theorem fl_X5_155 : FL "GoatCourt$Day" 155 [30, 31, 32, 33] 102 (.array (.int)) := fun kd h => ((List.mem_cons.mp h).elim (fun e => by cases e; exact ⟨10, _, 0, "GoatCourt$Goat", rfl, rfl, by decide, rfl, rfl, Or.inl q1003, Or.inl rfl⟩) (fun h => ((List.mem_cons.mp h).elim (fun e => by cases e; exact ⟨11, _, 0, "GoatCourt$Goat", rfl, rfl, by decide, rfl, rfl, Or.inl q1003, Or.inl rfl⟩) (fun h => ((List.mem_cons.mp h).elim (fun e => by cases e; exact ⟨12, _, 0, "GoatCourt$Goat", rfl, rfl, by decide, rfl, rfl, Or.inl q1003, Or.inl rfl⟩) (fun h => (by cases List.mem_singleton.mp h; exact ⟨13, _, 0, "GoatCourt$Goat", rfl, rfl, by decide, rfl, rfl, Or.inl q1003, Or.inl rfl⟩)))))))
theorem fl_X5_21 : FL "GoatCourt$Day" 21 [24] 3 (.array (.int)) := fun kd h => (by cases List.mem_singleton.mp h; exact ⟨4, _, 3, "GoatCourt$Day", rfl, rfl, by decide, rfl, rfl, Or.inl q354, Or.inl rfl⟩)
theorem fl_X5_24 : FL "GoatCourt$Day" 24 [24] 4 (.array (.int)) := fun kd h => (by cases List.mem_singleton.mp h; exact ⟨4, _, 4, "GoatCourt$Day", rfl, rfl, by decide, rfl, rfl, Or.inl q355, Or.inl rfl⟩)
theorem w_X7_goat_b23 (G : Gx) (h0 : G0 G) (N : Nat)   (a0 : Nat) (σ : Mem) : Runs G mX7_goat rhoI σ 23 [some (vR (some a0)), none, none, none, none] [] (f_X7_goat_b23 N  a0 σ) := by
  unfold f_X7_goat_b23
  refine r_aload_n (q := 24) dX7_goat_23 rfl rfl rfl ?_
  refine r_iconst (q := 25) (v := (1 : Int32)) dX7_goat_24 rfl (by decide) ?_
  refine r_ob (fun a3 ha3 => ?_)
  obtain ⟨hea3, hka3⟩ := o_at_eq ha3
  cases hea3
  refine r_callI (q := 28) (c_X7_refused G h0 N _ _ _) (cl_V (ci := 6) rfl rfl (lw_V q2019 q2021 qs83 q176 q2022) (hd_X7_refused) ⟨Nat.le_of_ble_eq_true rfl, Nat.le_of_ble_eq_true rfl⟩ (List.mem_singleton.mp hka3) rfl rfl rfl (Nat.le_of_ble_eq_true rfl) dX7_goat_25) rfl (fun x1 σ2 => ?_)
  exact r_ireturn rfl rfl dX7_goat_28
theorem w_X7_goat_b66 (G : Gx) (h0 : G0 G) (N : Nat) (K34 : Nat → Int32 → Int32 → Int32 → Int32 → Mem → Option (Int32 × Mem)) (hK34 : ∀ (a0 : Nat) (l1 : Int32) (l2 : Int32) (l3 : Int32) (l4 : Int32) (σ : Mem), Runs G mX7_goat rhoI σ 34 [some (vR (some a0)), some (vI l1), some (vI l2), some (vI l3), some (vI l4)] [] (K34 a0 l1 l2 l3 l4 σ)) (a0 : Nat) (l1 : Int32) (l2 : Int32) (l4 : Int32) (t0 : Int32) (t1 : Int32) (σ : Mem) : Runs G mX7_goat rhoI σ 66 [some (vR (some a0)), some (vI l1), some (vI l2), none, some (vI l4)] [vI t1, vI t0] (f_X7_goat_b66 N K34 a0 l1 l2 l4 t0 t1 σ) := by
  unfold f_X7_goat_b66
  refine r_iadd (q := 67) dX7_goat_66 rfl ?_
  refine r_istore_n (q := 68) dX7_goat_67 rfl rfl (Nat.le_of_ble_eq_true rfl) rfl ?_
  refine r_iinc (q := 71) (v := (1 : Int32)) dX7_goat_68 rfl rfl (by decide) (Nat.le_of_ble_eq_true rfl) rfl ?_
  refine r_goto (q := 34) dX7_goat_71 (by decide) ?_
  exact r_le (hK34 _ _ _ _ _ _) (Nat.le_refl _) (And.intro rfl (And.intro rfl (And.intro rfl (And.intro rfl (And.intro rfl trivial)))))
theorem w_X7_goat_b34B (G : Gx) (h0 : G0 G) (N : Nat)   (K34 : Nat → Int32 → Int32 → Int32 → Int32 → Mem → Option (Int32 × Mem)) (hK34 : ∀ (a0 : Nat) (l1 : Int32) (l2 : Int32) (l3 : Int32) (l4 : Int32) (σ : Mem), Runs G mX7_goat rhoI σ 34 [some (vR (some a0)), some (vI l1), some (vI l2), some (vI l3), some (vI l4)] [] (K34 a0 l1 l2 l3 l4 σ)) (a0 : Nat) (l1 : Int32) (l2 : Int32) (l3 : Int32) (l4 : Int32) (σ : Mem) : Runs G mX7_goat rhoI σ 34 [some (vR (some a0)), some (vI l1), some (vI l2), some (vI l3), some (vI l4)] [] (f_X7_goat_b34B N  K34 a0 l1 l2 l3 l4 σ) := by
  unfold f_X7_goat_b34B
  refine r_iload (q := 36) dX7_goat_34 rfl rfl ?_
  refine r_aload_n (q := 37) dX7_goat_36 rfl rfl rfl ?_
  refine r_gR (q := 40) fl_X7_442 rfl dX7_goat_37 rfl (fun x1 => ?_)
  refine r_gI (q := 43) fl_X7_370 dX7_goat_40 rfl (fun x2 => ?_)
  refine r_icmp_ge (q := 46) (t := 74) dX7_goat_43 rfl (by decide) (fun _ => ?_) (fun _ => ?_)
  · refine r_iload_n (q := 75) dX7_goat_74 rfl rfl rfl ?_
    refine r_tswC (t := 112) (c0 := (0 : Int32)) dX7_goat_75 (by decide) (by decide) rfl (by decide) ?_ (fun hc0 => ?_)
    · refine r_aload_n (q := 113) dX7_goat_112 rfl rfl rfl ?_
      refine r_aload_n (q := 114) dX7_goat_113 rfl rfl rfl ?_
      refine r_gR (q := 117) fl_X7_442 rfl dX7_goat_114 rfl (fun x3 => ?_)
      refine r_gR (q := 120) fl_X7_347 rfl dX7_goat_117 rfl (fun x4 => ?_)
      refine r_iload_n (q := 121) dX7_goat_120 rfl rfl rfl ?_
      refine r_iaload (q := 122) dX7_goat_121 rfl (fun x5 => ?_)
      refine r_ob (fun a8 ha8 => ?_)
      obtain ⟨hea8, hka8⟩ := o_at_eq ha8
      cases hea8
      refine r_callI (q := 125) (c_X7_good G h0 N _ _ _) (cl_V (ci := 6) rfl rfl (lw_V q2379 q2381 qs118 q176 q2382) (hd_X7_good) ⟨Nat.le_of_ble_eq_true rfl, Nat.le_of_ble_eq_true rfl⟩ (List.mem_singleton.mp hka8) rfl rfl rfl (Nat.le_of_ble_eq_true rfl) dX7_goat_122) rfl (fun x6 σ7 => ?_)
      exact r_ireturn rfl rfl dX7_goat_125
    refine r_tswC (t := 126) (c0 := (1 : Int32)) dX7_goat_75 (by decide) (by decide) rfl (by decide) ?_ (fun hc1 => ?_)
    · refine r_aload_n (q := 127) dX7_goat_126 rfl rfl rfl ?_
      refine r_aload_n (q := 128) dX7_goat_127 rfl rfl rfl ?_
      refine r_gR (q := 131) fl_X7_442 rfl dX7_goat_128 rfl (fun x9 => ?_)
      refine r_gR (q := 134) fl_X7_350 rfl dX7_goat_131 rfl (fun x10 => ?_)
      refine r_iload_n (q := 135) dX7_goat_134 rfl rfl rfl ?_
      refine r_iaload (q := 136) dX7_goat_135 rfl (fun x11 => ?_)
      refine r_ob (fun a14 ha14 => ?_)
      obtain ⟨hea14, hka14⟩ := o_at_eq ha14
      cases hea14
      refine r_callI (q := 139) (c_X7_good G h0 N _ _ _) (cl_V (ci := 6) rfl rfl (lw_V q2379 q2381 qs118 q176 q2382) (hd_X7_good) ⟨Nat.le_of_ble_eq_true rfl, Nat.le_of_ble_eq_true rfl⟩ (List.mem_singleton.mp hka14) rfl rfl rfl (Nat.le_of_ble_eq_true rfl) dX7_goat_136) rfl (fun x12 σ13 => ?_)
      exact r_ireturn rfl rfl dX7_goat_139
    refine r_tswC (t := 140) (c0 := (2 : Int32)) dX7_goat_75 (by decide) (by decide) rfl (by decide) ?_ (fun hc2 => ?_)
    · refine r_aload_n (q := 141) dX7_goat_140 rfl rfl rfl ?_
      refine r_aload_n (q := 142) dX7_goat_141 rfl rfl rfl ?_
      refine r_gR (q := 145) fl_X7_442 rfl dX7_goat_142 rfl (fun x15 => ?_)
      refine r_gR (q := 148) fl_X7_356 rfl dX7_goat_145 rfl (fun x16 => ?_)
      refine r_iload_n (q := 149) dX7_goat_148 rfl rfl rfl ?_
      refine r_iaload (q := 150) dX7_goat_149 rfl (fun x17 => ?_)
      refine r_ob (fun a20 ha20 => ?_)
      obtain ⟨hea20, hka20⟩ := o_at_eq ha20
      cases hea20
      refine r_callI (q := 153) (c_X7_good G h0 N _ _ _) (cl_V (ci := 6) rfl rfl (lw_V q2379 q2381 qs118 q176 q2382) (hd_X7_good) ⟨Nat.le_of_ble_eq_true rfl, Nat.le_of_ble_eq_true rfl⟩ (List.mem_singleton.mp hka20) rfl rfl rfl (Nat.le_of_ble_eq_true rfl) dX7_goat_150) rfl (fun x18 σ19 => ?_)
      exact r_ireturn rfl rfl dX7_goat_153
    refine r_tswC (t := 154) (c0 := (3 : Int32)) dX7_goat_75 (by decide) (by decide) rfl (by decide) ?_ (fun hc3 => ?_)
    · refine r_aload_n (q := 155) dX7_goat_154 rfl rfl rfl ?_
      refine r_aload_n (q := 156) dX7_goat_155 rfl rfl rfl ?_
      refine r_gR (q := 159) fl_X7_442 rfl dX7_goat_156 rfl (fun x21 => ?_)
      refine r_gR (q := 162) fl_X7_359 rfl dX7_goat_159 rfl (fun x22 => ?_)
      refine r_iload_n (q := 163) dX7_goat_162 rfl rfl rfl ?_
      refine r_iaload (q := 164) dX7_goat_163 rfl (fun x23 => ?_)
      refine r_ob (fun a26 ha26 => ?_)
      obtain ⟨hea26, hka26⟩ := o_at_eq ha26
      cases hea26
      refine r_callI (q := 167) (c_X7_good G h0 N _ _ _) (cl_V (ci := 6) rfl rfl (lw_V q2379 q2381 qs118 q176 q2382) (hd_X7_good) ⟨Nat.le_of_ble_eq_true rfl, Nat.le_of_ble_eq_true rfl⟩ (List.mem_singleton.mp hka26) rfl rfl rfl (Nat.le_of_ble_eq_true rfl) dX7_goat_164) rfl (fun x24 σ25 => ?_)
      exact r_ireturn rfl rfl dX7_goat_167
    refine r_tswC (t := 168) (c0 := (4 : Int32)) dX7_goat_75 (by decide) (by decide) rfl (by decide) ?_ (fun hc4 => ?_)
    · refine r_aload_n (q := 169) dX7_goat_168 rfl rfl rfl ?_
      refine r_aload_n (q := 170) dX7_goat_169 rfl rfl rfl ?_
      refine r_gR (q := 173) fl_X7_442 rfl dX7_goat_170 rfl (fun x27 => ?_)
      refine r_gR (q := 176) fl_X7_363 rfl dX7_goat_173 rfl (fun x28 => ?_)
      refine r_iload_n (q := 177) dX7_goat_176 rfl rfl rfl ?_
      refine r_iaload (q := 178) dX7_goat_177 rfl (fun x29 => ?_)
      refine r_ob (fun a32 ha32 => ?_)
      obtain ⟨hea32, hka32⟩ := o_at_eq ha32
      cases hea32
      refine r_callI (q := 181) (c_X7_good G h0 N _ _ _) (cl_V (ci := 6) rfl rfl (lw_V q2379 q2381 qs118 q176 q2382) (hd_X7_good) ⟨Nat.le_of_ble_eq_true rfl, Nat.le_of_ble_eq_true rfl⟩ (List.mem_singleton.mp hka32) rfl rfl rfl (Nat.le_of_ble_eq_true rfl) dX7_goat_178) rfl (fun x30 σ31 => ?_)
      exact r_ireturn rfl rfl dX7_goat_181
    refine r_tswC (t := 182) (c0 := (5 : Int32)) dX7_goat_75 (by decide) (by decide) rfl (by decide) ?_ (fun hc5 => ?_)
    · refine r_aload_n (q := 183) dX7_goat_182 rfl rfl rfl ?_
      refine r_iload_n (q := 184) dX7_goat_183 rfl rfl rfl ?_
      refine r_ob (fun a35 ha35 => ?_)
      obtain ⟨hea35, hka35⟩ := o_at_eq ha35
      cases hea35
      refine r_callI (q := 187) (c_X7_good G h0 N _ _ _) (cl_V (ci := 6) rfl rfl (lw_V q2379 q2381 qs118 q176 q2382) (hd_X7_good) ⟨Nat.le_of_ble_eq_true rfl, Nat.le_of_ble_eq_true rfl⟩ (List.mem_singleton.mp hka35) rfl rfl rfl (Nat.le_of_ble_eq_true rfl) dX7_goat_184) rfl (fun x33 σ34 => ?_)
      exact r_ireturn rfl rfl dX7_goat_187
    refine r_tswD (t := 188) dX7_goat_75 (by have e0 := lv_neT (a := 0) hc0 (by decide); have e1 := lv_neT (a := 1) hc1 (by decide); have e2 := lv_neT (a := 2) hc2 (by decide); have e3 := lv_neT (a := 3) hc3 (by decide); have e4 := lv_neT (a := 4) hc4 (by decide); have e5 := lv_neT (a := 5) hc5 (by decide); omega) (by decide) ?_
    · refine r_aload_n (q := 189) dX7_goat_188 rfl rfl rfl ?_
      refine r_aload_n (q := 190) dX7_goat_189 rfl rfl rfl ?_
      refine r_iload_n (q := 191) dX7_goat_190 rfl rfl rfl ?_
      refine r_ob (fun a38 ha38 => ?_)
      obtain ⟨hea38, hka38⟩ := o_at_eq ha38
      cases hea38
      refine r_callI (q := 194) (c_X7_isHeard G h0 N _ _ _) (cl_V (ci := 6) rfl rfl (lw_V q2415 q2417 qs122 q176 q2418) (hd_X7_isHeard) ⟨Nat.le_of_ble_eq_true rfl, Nat.le_of_ble_eq_true rfl⟩ (List.mem_singleton.mp hka38) rfl rfl rfl (Nat.le_of_ble_eq_true rfl) dX7_goat_191) rfl (fun x36 σ37 => ?_)
      refine r_if_eq (q := 197) (t := 201) dX7_goat_194 rfl (by decide) (fun _ => ?_) (fun _ => ?_)
      · refine r_iconst (q := 202) (v := (0 : Int32)) dX7_goat_201 rfl (by decide) ?_
        refine r_ob (fun a41 ha41 => ?_)
        obtain ⟨hea41, hka41⟩ := o_at_eq ha41
        cases hea41
        refine r_callI (q := 205) (c_X7_good G h0 N _ _ _) (cl_V (ci := 6) rfl rfl (lw_V q2379 q2381 qs118 q176 q2382) (hd_X7_good) ⟨Nat.le_of_ble_eq_true rfl, Nat.le_of_ble_eq_true rfl⟩ (List.mem_singleton.mp hka41) rfl rfl rfl (Nat.le_of_ble_eq_true rfl) dX7_goat_202) rfl (fun x39 σ40 => ?_)
        exact r_ireturn rfl rfl dX7_goat_205
      · refine r_iconst (q := 198) (v := (1 : Int32)) dX7_goat_197 rfl (by decide) ?_
        refine r_goto (q := 202) dX7_goat_198 (by decide) ?_
        refine r_ob (fun a44 ha44 => ?_)
        obtain ⟨hea44, hka44⟩ := o_at_eq ha44
        cases hea44
        refine r_callI (q := 205) (c_X7_good G h0 N _ _ _) (cl_V (ci := 6) rfl rfl (lw_V q2379 q2381 qs118 q176 q2382) (hd_X7_good) ⟨Nat.le_of_ble_eq_true rfl, Nat.le_of_ble_eq_true rfl⟩ (List.mem_singleton.mp hka44) rfl rfl rfl (Nat.le_of_ble_eq_true rfl) dX7_goat_202) rfl (fun x42 σ43 => ?_)
        exact r_ireturn rfl rfl dX7_goat_205
  · refine r_iload_n (q := 47) dX7_goat_46 rfl rfl rfl ?_
    refine r_aload_n (q := 48) dX7_goat_47 rfl rfl rfl ?_
    refine r_gR (q := 51) fl_X7_442 rfl dX7_goat_48 rfl (fun x45 => ?_)
    refine r_gR (q := 54) fl_X7_379 rfl dX7_goat_51 rfl (fun x46 => ?_)
    refine r_iload (q := 56) dX7_goat_54 rfl rfl ?_
    refine r_iaload (q := 57) dX7_goat_56 rfl (fun x47 => ?_)
    refine r_iload_n (q := 58) dX7_goat_57 rfl rfl rfl ?_
    refine r_icmp_ne (q := 61) (t := 65) dX7_goat_58 rfl (by decide) (fun _ => ?_) (fun _ => ?_)
    · refine r_iconst (q := 62) (v := (1 : Int32)) dX7_goat_61 rfl (by decide) ?_
      refine r_goto (q := 66) dX7_goat_62 (by decide) ?_
      exact r_le (w_X7_goat_b66 G h0 N K34 hK34 _ _ _ _ _ _ _) (Nat.le_refl _) (And.intro rfl (And.intro rfl (And.intro rfl (And.intro rfl trivial))))
    · refine r_iconst (q := 66) (v := (0 : Int32)) dX7_goat_65 rfl (by decide) ?_
      exact r_le (w_X7_goat_b66 G h0 N K34 hK34 _ _ _ _ _ _ _) (Nat.le_refl _) (And.intro rfl (And.intro rfl (And.intro rfl (And.intro rfl trivial))))
theorem w_X7_goat_b34 (G : Gx) (h0 : G0 G) (N : Nat)   : ∀ (z : Nat) (a0 : Nat) (l1 : Int32) (l2 : Int32) (l3 : Int32) (l4 : Int32) (σ : Mem), Runs G mX7_goat rhoI σ 34 [some (vR (some a0)), some (vI l1), some (vI l2), some (vI l3), some (vI l4)] [] (f_X7_goat_b34 N  z a0 l1 l2 l3 l4 σ) := by
  intro z
  induction z with
  | zero => exact fun _ _ _ _ _ _ => r_none
  | succ z ih => exact fun a0 l1 l2 l3 l4 σ => w_X7_goat_b34B G h0 N   _ ih a0 l1 l2 l3 l4 σ
theorem c_X7_goat (G : Gx) (h0 : G0 G) (N : Nat) (a0 : Nat) (i1 : Int32) (i2 : Int32) (σ : Mem) : Ct G mX7_goat rhoI [vR (some a0), vI i1, vI i2] σ (f_X7_goat N a0 i1 i2 σ) := by
  refine Ct_of h0 (by decide) rfl (Nat.le_of_ble_eq_true rfl) (L0 := [some (vR (some a0)), some (vI i1), some (vI i2), none, none]) rfl ?_
  unfold f_X7_goat
  refine r_aload_n (q := 1) dX7_goat_0 rfl rfl rfl ?_
  refine r_iconst (q := 2) (v := (0 : Int32)) dX7_goat_1 rfl (by decide) ?_
  refine r_pI (q := 5) fp_X7_goat_66 dX7_goat_2 rfl (fun σ1 => ?_)
  refine r_aload_n (q := 6) dX7_goat_5 rfl rfl rfl ?_
  refine r_iload_n (q := 7) dX7_goat_6 rfl rfl rfl ?_
  refine r_ob (fun a4 ha4 => ?_)
  obtain ⟨hea4, hka4⟩ := o_at_eq ha4
  cases hea4
  refine r_callI (q := 10) (c_X7_isGoat G h0 N _ _ _) (cl_V (ci := 6) rfl rfl (lw_V q2411 q2413 qs121 q176 q2414) (hd_X7_isGoat) ⟨Nat.le_of_ble_eq_true rfl, Nat.le_of_ble_eq_true rfl⟩ (List.mem_singleton.mp hka4) rfl rfl rfl (Nat.le_of_ble_eq_true rfl) dX7_goat_7) rfl (fun x2 σ3 => ?_)
  refine r_if_eq (q := 13) (t := 23) dX7_goat_10 rfl (by decide) (fun _ => ?_) (fun _ => ?_)
  · exact r_le (w_X7_goat_b23 G h0 N _ _) (Nat.le_refl _) (And.intro rfl trivial)
  · refine r_iload_n (q := 14) dX7_goat_13 rfl rfl rfl ?_
    refine r_iconst (q := 15) (v := (0 : Int32)) dX7_goat_14 rfl (by decide) ?_
    refine r_bipush (q := 17) (v := (6 : Int32)) dX7_goat_15 rfl (by decide) ?_
    refine r_callI (q := 20) (c_X7_within G h0 N _ _ _ _) (cl_S rfl rfl (lw_S q2236 q2237 q176 q2238) (hd_X7_within) ⟨Nat.le_of_ble_eq_true rfl, Nat.le_of_ble_eq_true rfl⟩ rfl (Nat.le_of_ble_eq_true rfl) dX7_goat_17) rfl (fun x5 σ6 => ?_)
    refine r_if_ne (q := 23) (t := 29) dX7_goat_20 rfl (by decide) (fun _ => ?_) (fun _ => ?_)
    · exact r_le (w_X7_goat_b23 G h0 N _ _) (Nat.le_refl _) (And.intro rfl trivial)
    · refine r_iconst (q := 30) (v := (0 : Int32)) dX7_goat_29 rfl (by decide) ?_
      refine r_istore_n (q := 31) dX7_goat_30 rfl rfl (Nat.le_of_ble_eq_true rfl) rfl ?_
      refine r_iconst (q := 32) (v := (0 : Int32)) dX7_goat_31 rfl (by decide) ?_
      refine r_istore (q := 34) dX7_goat_32 rfl (Nat.le_of_ble_eq_true rfl) rfl ?_
      exact r_le (w_X7_goat_b34 G h0 N N _ _ _ _ _ _) (Nat.le_refl _) (And.intro rfl (And.intro rfl (And.intro rfl (And.intro rfl (And.intro rfl trivial)))))
theorem w_X1_likes_b51 (G : Gx) (h0 : G0 G) (N : Nat)   (a0 : Nat) (σ : Mem) : Runs G mX1_likes rhoI σ 51 [some (vR (some a0)), none, none] [] (f_X1_likes_b51 N  a0 σ) := by
  unfold f_X1_likes_b51
  refine r_aload_n (q := 52) dX1_likes_51 rfl rfl rfl ?_
  refine r_iconst (q := 53) (v := (1 : Int32)) dX1_likes_52 rfl (by decide) ?_
  refine r_ob (fun a3 ha3 => ?_)
  obtain ⟨hea3, hka3⟩ := o_at_eq ha3
  cases hea3
  refine r_callI (q := 56) (c_X1_no G h0 N _ _ _) (cl_V (ci := 0) rfl rfl (lw_V q492 q494 qs3 q167 q495) (hd_X1_no) ⟨Nat.le_of_ble_eq_true rfl, Nat.le_of_ble_eq_true rfl⟩ (List.mem_singleton.mp hka3) rfl rfl rfl (Nat.le_of_ble_eq_true rfl) dX1_likes_53) rfl (fun x1 σ2 => ?_)
  exact r_ireturn rfl rfl dX1_likes_56
theorem c_X1_likes (G : Gx) (h0 : G0 G) (N : Nat) (a0 : Nat) (i1 : Int32) (i2 : Int32) (σ : Mem) : Ct G mX1_likes rhoI [vR (some a0), vI i1, vI i2] σ (f_X1_likes N a0 i1 i2 σ) := by
  refine Ct_of h0 (by decide) rfl (Nat.le_of_ble_eq_true rfl) (L0 := [some (vR (some a0)), some (vI i1), some (vI i2)]) rfl ?_
  unfold f_X1_likes
  refine r_aload_n (q := 1) dX1_likes_0 rfl rfl rfl ?_
  refine r_ob (fun a3 ha3 => ?_)
  obtain ⟨hea3, hka3⟩ := o_at_eq ha3
  cases hea3
  refine r_callV (q := 4) (c_X1_anew G h0 N _ _) (cl_V (ci := 0) rfl rfl (lw_V q485 q487 qs2 q167 q488) (hd_X1_anew) ⟨Nat.le_of_ble_eq_true rfl, Nat.le_of_ble_eq_true rfl⟩ (List.mem_singleton.mp hka3) rfl rfl rfl (Nat.le_of_ble_eq_true rfl) dX1_likes_1) rfl (fun u1 σ2 => ?_)
  refine r_aload_n (q := 5) dX1_likes_4 rfl rfl rfl ?_
  refine r_iload_n (q := 6) dX1_likes_5 rfl rfl rfl ?_
  refine r_ob (fun a6 ha6 => ?_)
  obtain ⟨hea6, hka6⟩ := o_at_eq ha6
  cases hea6
  refine r_callI (q := 9) (c_X1_isGoat G h0 N _ _ _) (cl_V (ci := 0) rfl rfl (lw_V q1331 q1333 qs45 q167 q1334) (hd_X1_isGoat) ⟨Nat.le_of_ble_eq_true rfl, Nat.le_of_ble_eq_true rfl⟩ (List.mem_singleton.mp hka6) rfl rfl rfl (Nat.le_of_ble_eq_true rfl) dX1_likes_6) rfl (fun x4 σ5 => ?_)
  refine r_if_eq (q := 12) (t := 51) dX1_likes_9 rfl (by decide) (fun _ => ?_) (fun _ => ?_)
  · exact r_le (w_X1_likes_b51 G h0 N _ _) (Nat.le_refl _) (And.intro rfl trivial)
  · refine r_iload_n (q := 13) dX1_likes_12 rfl rfl rfl ?_
    refine r_iconst (q := 14) (v := (0 : Int32)) dX1_likes_13 rfl (by decide) ?_
    refine r_aload_n (q := 15) dX1_likes_14 rfl rfl rfl ?_
    refine r_gR (q := 18) fl_X1_104 rfl dX1_likes_15 rfl (fun x7 => ?_)
    refine r_gR (q := 21) fl_X1_172 rfl dX1_likes_18 rfl (fun x8 => ?_)
    refine r_iload_n (q := 22) dX1_likes_21 rfl rfl rfl ?_
    refine r_aaload (q := 23) (k0 := 8) (by decide) dX1_likes_22 rfl (fun x9 => ?_)
    refine r_gI (q := 26) fl_X1_216 dX1_likes_23 rfl (fun x10 => ?_)
    refine r_iconst (q := 27) (v := (1 : Int32)) dX1_likes_26 rfl (by decide) ?_
    refine r_isub (q := 28) dX1_likes_27 rfl ?_
    refine r_callI (q := 31) (c_X1_in G h0 N _ _ _ _) (cl_S rfl rfl (lw_S q489 q490 q167 q491) (hd_X1_in) ⟨Nat.le_of_ble_eq_true rfl, Nat.le_of_ble_eq_true rfl⟩ rfl (Nat.le_of_ble_eq_true rfl) dX1_likes_28) rfl (fun x11 σ12 => ?_)
    refine r_if_eq (q := 34) (t := 51) dX1_likes_31 rfl (by decide) (fun _ => ?_) (fun _ => ?_)
    · exact r_le (w_X1_likes_b51 G h0 N _ _) (Nat.le_refl _) (And.intro rfl trivial)
    · refine r_aload_n (q := 35) dX1_likes_34 rfl rfl rfl ?_
      refine r_gR (q := 38) fl_X1_104 rfl dX1_likes_35 rfl (fun x13 => ?_)
      refine r_gR (q := 41) fl_X1_172 rfl dX1_likes_38 rfl (fun x14 => ?_)
      refine r_iload_n (q := 42) dX1_likes_41 rfl rfl rfl ?_
      refine r_aaload (q := 43) (k0 := 8) (by decide) dX1_likes_42 rfl (fun x15 => ?_)
      refine r_gR (q := 46) fl_X1_219 rfl dX1_likes_43 rfl (fun x16 => ?_)
      refine r_iload_n (q := 47) dX1_likes_46 rfl rfl rfl ?_
      refine r_iaload (q := 48) dX1_likes_47 rfl (fun x17 => ?_)
      refine r_goto (q := 56) dX1_likes_48 (by decide) ?_
      exact r_ireturn rfl rfl dX1_likes_56
theorem w_X7_likes_b50 (G : Gx) (h0 : G0 G) (N : Nat)   (a0 : Nat) (σ : Mem) : Runs G mX7_likes rhoI σ 50 [some (vR (some a0)), none, none] [] (f_X7_likes_b50 N  a0 σ) := by
  unfold f_X7_likes_b50
  refine r_aload_n (q := 51) dX7_likes_50 rfl rfl rfl ?_
  refine r_iconst (q := 52) (v := (1 : Int32)) dX7_likes_51 rfl (by decide) ?_
  refine r_ob (fun a3 ha3 => ?_)
  obtain ⟨hea3, hka3⟩ := o_at_eq ha3
  cases hea3
  refine r_callI (q := 55) (c_X7_refused G h0 N _ _ _) (cl_V (ci := 6) rfl rfl (lw_V q2019 q2021 qs83 q176 q2022) (hd_X7_refused) ⟨Nat.le_of_ble_eq_true rfl, Nat.le_of_ble_eq_true rfl⟩ (List.mem_singleton.mp hka3) rfl rfl rfl (Nat.le_of_ble_eq_true rfl) dX7_likes_52) rfl (fun x1 σ2 => ?_)
  exact r_ireturn rfl rfl dX7_likes_55
theorem c_X7_likes (G : Gx) (h0 : G0 G) (N : Nat) (a0 : Nat) (i1 : Int32) (i2 : Int32) (σ : Mem) : Ct G mX7_likes rhoI [vR (some a0), vI i1, vI i2] σ (f_X7_likes N a0 i1 i2 σ) := by
  refine Ct_of h0 (by decide) rfl (Nat.le_of_ble_eq_true rfl) (L0 := [some (vR (some a0)), some (vI i1), some (vI i2)]) rfl ?_
  unfold f_X7_likes
  refine r_aload_n (q := 1) dX7_likes_0 rfl rfl rfl ?_
  refine r_iconst (q := 2) (v := (0 : Int32)) dX7_likes_1 rfl (by decide) ?_
  refine r_pI (q := 5) fp_X7_likes_66 dX7_likes_2 rfl (fun σ1 => ?_)
  refine r_aload_n (q := 6) dX7_likes_5 rfl rfl rfl ?_
  refine r_iload_n (q := 7) dX7_likes_6 rfl rfl rfl ?_
  refine r_ob (fun a4 ha4 => ?_)
  obtain ⟨hea4, hka4⟩ := o_at_eq ha4
  cases hea4
  refine r_callI (q := 10) (c_X7_isGoat G h0 N _ _ _) (cl_V (ci := 6) rfl rfl (lw_V q2411 q2413 qs121 q176 q2414) (hd_X7_isGoat) ⟨Nat.le_of_ble_eq_true rfl, Nat.le_of_ble_eq_true rfl⟩ (List.mem_singleton.mp hka4) rfl rfl rfl (Nat.le_of_ble_eq_true rfl) dX7_likes_7) rfl (fun x2 σ3 => ?_)
  refine r_if_eq (q := 13) (t := 50) dX7_likes_10 rfl (by decide) (fun _ => ?_) (fun _ => ?_)
  · exact r_le (w_X7_likes_b50 G h0 N _ _) (Nat.le_refl _) (And.intro rfl trivial)
  · refine r_iload_n (q := 14) dX7_likes_13 rfl rfl rfl ?_
    refine r_if_lt (q := 17) (t := 50) dX7_likes_14 rfl (by decide) (fun _ => ?_) (fun _ => ?_)
    · exact r_le (w_X7_likes_b50 G h0 N _ _) (Nat.le_refl _) (And.intro rfl trivial)
    · refine r_iload_n (q := 18) dX7_likes_17 rfl rfl rfl ?_
      refine r_aload_n (q := 19) dX7_likes_18 rfl rfl rfl ?_
      refine r_gR (q := 22) fl_X7_442 rfl dX7_likes_19 rfl (fun x5 => ?_)
      refine r_gR (q := 25) fl_X7_353 rfl dX7_likes_22 rfl (fun x6 => ?_)
      refine r_iload_n (q := 26) dX7_likes_25 rfl rfl rfl ?_
      refine r_iaload (q := 27) dX7_likes_26 rfl (fun x7 => ?_)
      refine r_icmp_ge (q := 30) (t := 50) dX7_likes_27 rfl (by decide) (fun _ => ?_) (fun _ => ?_)
      · exact r_le (w_X7_likes_b50 G h0 N _ _) (Nat.le_refl _) (And.intro rfl trivial)
      · refine r_aload_n (q := 31) dX7_likes_30 rfl rfl rfl ?_
        refine r_aload_n (q := 32) dX7_likes_31 rfl rfl rfl ?_
        refine r_gR (q := 35) fl_X7_442 rfl dX7_likes_32 rfl (fun x8 => ?_)
        refine r_gR (q := 38) fl_X7_341 rfl dX7_likes_35 rfl (fun x9 => ?_)
        refine r_iconst (q := 39) (v := (4 : Int32)) dX7_likes_38 rfl (by decide) ?_
        refine r_iload_n (q := 40) dX7_likes_39 rfl rfl rfl ?_
        refine r_imul (q := 41) dX7_likes_40 rfl ?_
        refine r_iload_n (q := 42) dX7_likes_41 rfl rfl rfl ?_
        refine r_iadd (q := 43) dX7_likes_42 rfl ?_
        refine r_iaload (q := 44) dX7_likes_43 rfl (fun x10 => ?_)
        refine r_ob (fun a13 ha13 => ?_)
        obtain ⟨hea13, hka13⟩ := o_at_eq ha13
        cases hea13
        refine r_callI (q := 47) (c_X7_good G h0 N _ _ _) (cl_V (ci := 6) rfl rfl (lw_V q2379 q2381 qs118 q176 q2382) (hd_X7_good) ⟨Nat.le_of_ble_eq_true rfl, Nat.le_of_ble_eq_true rfl⟩ (List.mem_singleton.mp hka13) rfl rfl rfl (Nat.le_of_ble_eq_true rfl) dX7_likes_44) rfl (fun x11 σ12 => ?_)
        refine r_goto (q := 55) dX7_likes_47 (by decide) ?_
        exact r_ireturn rfl rfl dX7_likes_55
theorem w_X1_isClue_b28 (G : Gx) (h0 : G0 G) (N : Nat)    (σ : Mem) : Runs G mX1_isClue rhoI σ 28 [none, none] [] (f_X1_isClue_b28 N   σ) := by
  unfold f_X1_isClue_b28
  refine r_iconst (q := 29) (v := (0 : Int32)) dX1_isClue_28 rfl (by decide) ?_
  exact r_ireturnN rfl dX1_isClue_29
theorem c_X1_isClue (G : Gx) (h0 : G0 G) (N : Nat) (a0 : Nat) (i1 : Int32) (σ : Mem) : Ct G mX1_isClue rhoI [vR (some a0), vI i1] σ (f_X1_isClue N a0 i1 σ) := by
  refine Ct_of h0 (by decide) rfl (Nat.le_of_ble_eq_true rfl) (L0 := [some (vR (some a0)), some (vI i1)]) rfl ?_
  unfold f_X1_isClue
  refine r_aload_n (q := 1) dX1_isClue_0 rfl rfl rfl ?_
  refine r_gR (q := 4) fl_X1_104 rfl dX1_isClue_1 rfl (fun x1 => ?_)
  refine r_ifnull (q := 7) (t := 28) dX1_isClue_4 rfl (by decide) (fun _ => ?_) (fun _ => ?_)
  · exact r_le (w_X1_isClue_b28 G h0 N  _) (Nat.le_refl _) trivial
  · refine r_iload_n (q := 8) dX1_isClue_7 rfl rfl rfl ?_
    refine r_iconst (q := 9) (v := (0 : Int32)) dX1_isClue_8 rfl (by decide) ?_
    refine r_aload_n (q := 10) dX1_isClue_9 rfl rfl rfl ?_
    refine r_gR (q := 13) fl_X1_104 rfl dX1_isClue_10 rfl (fun x2 => ?_)
    refine r_gI (q := 16) fl_X1_142 dX1_isClue_13 rfl (fun x3 => ?_)
    refine r_iconst (q := 17) (v := (1 : Int32)) dX1_isClue_16 rfl (by decide) ?_
    refine r_isub (q := 18) dX1_isClue_17 rfl ?_
    refine r_callI (q := 21) (c_X1_in G h0 N _ _ _ _) (cl_S rfl rfl (lw_S q489 q490 q167 q491) (hd_X1_in) ⟨Nat.le_of_ble_eq_true rfl, Nat.le_of_ble_eq_true rfl⟩ rfl (Nat.le_of_ble_eq_true rfl) dX1_isClue_18) rfl (fun x4 σ5 => ?_)
    refine r_if_eq (q := 24) (t := 28) dX1_isClue_21 rfl (by decide) (fun _ => ?_) (fun _ => ?_)
    · exact r_le (w_X1_isClue_b28 G h0 N  _) (Nat.le_refl _) trivial
    · refine r_iconst (q := 25) (v := (1 : Int32)) dX1_isClue_24 rfl (by decide) ?_
      refine r_goto (q := 29) dX1_isClue_25 (by decide) ?_
      exact r_ireturnN rfl dX1_isClue_29
theorem c_X18_sort (G : Gx) (h0 : G0 G) (N : Nat) (a0 : Nat) (σ : Mem) : Ct G mX18_sort rhoI [vR (some a0)] σ (f_X18_sort N a0 σ) := by
  refine Ct_of h0 (by decide) rfl (Nat.le_of_ble_eq_true rfl) (L0 := [some (vR (some a0))]) rfl ?_
  unfold f_X18_sort
  refine r_iconst (q := 1) (v := (0 : Int32)) dX18_sort_0 rfl (by decide) ?_
  exact r_ireturn rfl rfl dX18_sort_1
theorem c_X19_sort (G : Gx) (h0 : G0 G) (N : Nat) (a0 : Nat) (σ : Mem) : Ct G mX19_sort rhoI [vR (some a0)] σ (f_X19_sort N a0 σ) := by
  refine Ct_of h0 (by decide) rfl (Nat.le_of_ble_eq_true rfl) (L0 := [some (vR (some a0))]) rfl ?_
  unfold f_X19_sort
  refine r_iconst (q := 1) (v := (1 : Int32)) dX19_sort_0 rfl (by decide) ?_
  exact r_ireturn rfl rfl dX19_sort_1
theorem c_X20_sort (G : Gx) (h0 : G0 G) (N : Nat) (a0 : Nat) (σ : Mem) : Ct G mX20_sort rhoI [vR (some a0)] σ (f_X20_sort N a0 σ) := by
  refine Ct_of h0 (by decide) rfl (Nat.le_of_ble_eq_true rfl) (L0 := [some (vR (some a0))]) rfl ?_
  unfold f_X20_sort
  refine r_iconst (q := 1) (v := (2 : Int32)) dX20_sort_0 rfl (by decide) ?_
  exact r_ireturn rfl rfl dX20_sort_1
theorem c_X1_clue (G : Gx) (h0 : G0 G) (N : Nat) (a0 : Nat) (i1 : Int32) (i2 : Int32) (σ : Mem) : Ct G mX1_clue rhoI [vR (some a0), vI i1, vI i2] σ (f_X1_clue N a0 i1 i2 σ) := by
  refine Ct_of h0 (by decide) rfl (Nat.le_of_ble_eq_true rfl) (L0 := [some (vR (some a0)), some (vI i1), some (vI i2), none]) rfl ?_
  unfold f_X1_clue
  refine r_aload_n (q := 1) dX1_clue_0 rfl rfl rfl ?_
  refine r_ob (fun a3 ha3 => ?_)
  obtain ⟨hea3, hka3⟩ := o_at_eq ha3
  cases hea3
  refine r_callV (q := 4) (c_X1_anew G h0 N _ _) (cl_V (ci := 0) rfl rfl (lw_V q485 q487 qs2 q167 q488) (hd_X1_anew) ⟨Nat.le_of_ble_eq_true rfl, Nat.le_of_ble_eq_true rfl⟩ (List.mem_singleton.mp hka3) rfl rfl rfl (Nat.le_of_ble_eq_true rfl) dX1_clue_1) rfl (fun u1 σ2 => ?_)
  refine r_aload_n (q := 5) dX1_clue_4 rfl rfl rfl ?_
  refine r_iload_n (q := 6) dX1_clue_5 rfl rfl rfl ?_
  refine r_ob (fun a6 ha6 => ?_)
  obtain ⟨hea6, hka6⟩ := o_at_eq ha6
  cases hea6
  refine r_callI (q := 9) (c_X1_isClue G h0 N _ _ _) (cl_V (ci := 0) rfl rfl (lw_V q1373 q1375 qs47 q167 q1376) (hd_X1_isClue) ⟨Nat.le_of_ble_eq_true rfl, Nat.le_of_ble_eq_true rfl⟩ (List.mem_singleton.mp hka6) rfl rfl rfl (Nat.le_of_ble_eq_true rfl) dX1_clue_6) rfl (fun x4 σ5 => ?_)
  refine r_if_ne (q := 12) (t := 18) dX1_clue_9 rfl (by decide) (fun _ => ?_) (fun _ => ?_)
  · refine r_aload_n (q := 13) dX1_clue_12 rfl rfl rfl ?_
    refine r_iconst (q := 14) (v := (1 : Int32)) dX1_clue_13 rfl (by decide) ?_
    refine r_ob (fun a21 ha21 => ?_)
    obtain ⟨hea21, hka21⟩ := o_at_eq ha21
    cases hea21
    refine r_callI (q := 17) (c_X1_no G h0 N _ _ _) (cl_V (ci := 0) rfl rfl (lw_V q492 q494 qs3 q167 q495) (hd_X1_no) ⟨Nat.le_of_ble_eq_true rfl, Nat.le_of_ble_eq_true rfl⟩ (List.mem_singleton.mp hka21) rfl rfl rfl (Nat.le_of_ble_eq_true rfl) dX1_clue_14) rfl (fun x19 σ20 => ?_)
    exact r_ireturn rfl rfl dX1_clue_17
  · refine r_aload_n (q := 19) dX1_clue_18 rfl rfl rfl ?_
    refine r_gR (q := 22) fl_X1_104 rfl dX1_clue_19 rfl (fun x7 => ?_)
    refine r_gR (q := 25) fl_X1_207 rfl dX1_clue_22 rfl (fun x8 => ?_)
    refine r_iload_n (q := 26) dX1_clue_25 rfl rfl rfl ?_
    refine r_aaload (q := 27) (k0 := 9) (by decide) dX1_clue_26 rfl (fun x9 => ?_)
    refine r_astore_n (q := 28) dX1_clue_27 rfl rfl (Nat.le_of_ble_eq_true rfl) rfl ?_
    refine r_iload_n (q := 29) dX1_clue_28 rfl rfl rfl ?_
    refine r_tswC (t := 60) (c0 := (0 : Int32)) dX1_clue_29 (by decide) (by decide) rfl (by decide) ?_ (fun hc0 => ?_)
    · refine r_aload_n (q := 61) dX1_clue_60 rfl rfl rfl ?_
      refine r_ob (fun a12 ha12 => ?_)
      obtain ⟨hea12, hka12⟩ := o_at_eq ha12
      cases hea12
      refine r_callKI (q := 64) (Cb_ite (fun hq0 => ⟨_, _, (c_X18_sort G h0 N _ _), (cl_U (n := 0) (ci := 14) (x := ⟨"GoatCourt$Clue", "sort", "()I"⟩) (owner := "GoatCourt$Clue") rfl rfl q1377 q1379 (Or.inl q1378) q1380 q1381 q192 q1382 ⟨by decide, by decide, by decide +kernel⟩ ⟨Nat.le_of_ble_eq_true rfl, Nat.le_of_ble_eq_true rfl⟩ hq0 rfl rfl (Nat.le_of_ble_eq_true rfl) dX1_clue_61)⟩) (fun hq0 => Cb_ite (fun hq1 => ⟨_, _, (c_X19_sort G h0 N _ _), (cl_U (n := 0) (ci := 15) (x := ⟨"GoatCourt$Clue", "sort", "()I"⟩) (owner := "GoatCourt$Clue") rfl rfl q1377 q1379 (Or.inl q1378) q1383 q1384 q193 q1385 ⟨by decide, by decide, by decide +kernel⟩ ⟨Nat.le_of_ble_eq_true rfl, Nat.le_of_ble_eq_true rfl⟩ hq1 rfl rfl (Nat.le_of_ble_eq_true rfl) dX1_clue_61)⟩) (fun hq1 => ⟨_, _, (c_X20_sort G h0 N _ _), (cl_U (n := 0) (ci := 16) (x := ⟨"GoatCourt$Clue", "sort", "()I"⟩) (owner := "GoatCourt$Clue") rfl rfl q1377 q1379 (Or.inl q1378) q1386 q1387 q194 q1388 ⟨by decide, by decide, by decide +kernel⟩ ⟨Nat.le_of_ble_eq_true rfl, Nat.le_of_ble_eq_true rfl⟩ (by simp only [List.mem_cons, List.not_mem_nil, or_false] at hka12; omega) rfl rfl (Nat.le_of_ble_eq_true rfl) dX1_clue_61)⟩))) rfl (fun x10 σ11 => ?_)
      exact r_ireturn rfl rfl dX1_clue_64
    refine r_tswC (t := 65) (c0 := (1 : Int32)) dX1_clue_29 (by decide) (by decide) rfl (by decide) ?_ (fun hc1 => ?_)
    · refine r_aload_n (q := 66) dX1_clue_65 rfl rfl rfl ?_
      refine r_gI (q := 69) fl_X1_211 dX1_clue_66 rfl (fun x13 => ?_)
      exact r_ireturn rfl rfl dX1_clue_69
    refine r_tswC (t := 70) (c0 := (2 : Int32)) dX1_clue_29 (by decide) (by decide) rfl (by decide) ?_ (fun hc2 => ?_)
    · refine r_aload_n (q := 71) dX1_clue_70 rfl rfl rfl ?_
      refine r_gI (q := 74) fl_X1_228 dX1_clue_71 rfl (fun x14 => ?_)
      exact r_ireturn rfl rfl dX1_clue_74
    refine r_tswC (t := 75) (c0 := (3 : Int32)) dX1_clue_29 (by decide) (by decide) rfl (by decide) ?_ (fun hc3 => ?_)
    · refine r_aload_n (q := 76) dX1_clue_75 rfl rfl rfl ?_
      refine r_gI (q := 79) fl_X1_229 dX1_clue_76 rfl (fun x15 => ?_)
      exact r_ireturn rfl rfl dX1_clue_79
    refine r_tswD (t := 80) dX1_clue_29 (by have e0 := lv_neT (a := 0) hc0 (by decide); have e1 := lv_neT (a := 1) hc1 (by decide); have e2 := lv_neT (a := 2) hc2 (by decide); have e3 := lv_neT (a := 3) hc3 (by decide); omega) (by decide) ?_
    · refine r_aload_n (q := 81) dX1_clue_80 rfl rfl rfl ?_
      refine r_iconst (q := 82) (v := (1 : Int32)) dX1_clue_81 rfl (by decide) ?_
      refine r_ob (fun a18 ha18 => ?_)
      obtain ⟨hea18, hka18⟩ := o_at_eq ha18
      cases hea18
      refine r_callI (q := 85) (c_X1_no G h0 N _ _ _) (cl_V (ci := 0) rfl rfl (lw_V q492 q494 qs3 q167 q495) (hd_X1_no) ⟨Nat.le_of_ble_eq_true rfl, Nat.le_of_ble_eq_true rfl⟩ (List.mem_singleton.mp hka18) rfl rfl rfl (Nat.le_of_ble_eq_true rfl) dX1_clue_82) rfl (fun x16 σ17 => ?_)
      exact r_ireturn rfl rfl dX1_clue_85
theorem w_X7_isClue_b26 (G : Gx) (h0 : G0 G) (N : Nat)    (σ : Mem) : Runs G mX7_isClue rhoI σ 26 [none, none] [] (f_X7_isClue_b26 N   σ) := by
  unfold f_X7_isClue_b26
  refine r_iconst (q := 27) (v := (0 : Int32)) dX7_isClue_26 rfl (by decide) ?_
  exact r_ireturnN rfl dX7_isClue_27
theorem c_X7_isClue (G : Gx) (h0 : G0 G) (N : Nat) (a0 : Nat) (i1 : Int32) (σ : Mem) : Ct G mX7_isClue rhoI [vR (some a0), vI i1] σ (f_X7_isClue N a0 i1 σ) := by
  refine Ct_of h0 (by decide) rfl (Nat.le_of_ble_eq_true rfl) (L0 := [some (vR (some a0)), some (vI i1)]) rfl ?_
  unfold f_X7_isClue
  refine r_aload_n (q := 1) dX7_isClue_0 rfl rfl rfl ?_
  refine r_gR (q := 4) fl_X7_442 rfl dX7_isClue_1 rfl (fun x1 => ?_)
  refine r_ifnull (q := 7) (t := 26) dX7_isClue_4 rfl (by decide) (fun _ => ?_) (fun _ => ?_)
  · exact r_le (w_X7_isClue_b26 G h0 N  _) (Nat.le_refl _) trivial
  · refine r_iload_n (q := 8) dX7_isClue_7 rfl rfl rfl ?_
    refine r_if_lt (q := 11) (t := 26) dX7_isClue_8 rfl (by decide) (fun _ => ?_) (fun _ => ?_)
    · exact r_le (w_X7_isClue_b26 G h0 N  _) (Nat.le_refl _) trivial
    · refine r_iload_n (q := 12) dX7_isClue_11 rfl rfl rfl ?_
      refine r_aload_n (q := 13) dX7_isClue_12 rfl rfl rfl ?_
      refine r_gR (q := 16) fl_X7_442 rfl dX7_isClue_13 rfl (fun x2 => ?_)
      refine r_gI (q := 19) fl_X7_370 dX7_isClue_16 rfl (fun x3 => ?_)
      refine r_icmp_ge (q := 22) (t := 26) dX7_isClue_19 rfl (by decide) (fun _ => ?_) (fun _ => ?_)
      · exact r_le (w_X7_isClue_b26 G h0 N  _) (Nat.le_refl _) trivial
      · refine r_iconst (q := 23) (v := (1 : Int32)) dX7_isClue_22 rfl (by decide) ?_
        refine r_goto (q := 27) dX7_isClue_23 (by decide) ?_
        exact r_ireturnN rfl dX7_isClue_27
theorem w_X7_clue_b22 (G : Gx) (h0 : G0 G) (N : Nat)   (a0 : Nat) (σ : Mem) : Runs G mX7_clue rhoI σ 22 [some (vR (some a0)), none, none] [] (f_X7_clue_b22 N  a0 σ) := by
  unfold f_X7_clue_b22
  refine r_aload_n (q := 23) dX7_clue_22 rfl rfl rfl ?_
  refine r_iconst (q := 24) (v := (1 : Int32)) dX7_clue_23 rfl (by decide) ?_
  refine r_ob (fun a3 ha3 => ?_)
  obtain ⟨hea3, hka3⟩ := o_at_eq ha3
  cases hea3
  refine r_callI (q := 27) (c_X7_refused G h0 N _ _ _) (cl_V (ci := 6) rfl rfl (lw_V q2019 q2021 qs83 q176 q2022) (hd_X7_refused) ⟨Nat.le_of_ble_eq_true rfl, Nat.le_of_ble_eq_true rfl⟩ (List.mem_singleton.mp hka3) rfl rfl rfl (Nat.le_of_ble_eq_true rfl) dX7_clue_24) rfl (fun x1 σ2 => ?_)
  exact r_ireturn rfl rfl dX7_clue_27
theorem c_X7_clue (G : Gx) (h0 : G0 G) (N : Nat) (a0 : Nat) (i1 : Int32) (i2 : Int32) (σ : Mem) : Ct G mX7_clue rhoI [vR (some a0), vI i1, vI i2] σ (f_X7_clue N a0 i1 i2 σ) := by
  refine Ct_of h0 (by decide) rfl (Nat.le_of_ble_eq_true rfl) (L0 := [some (vR (some a0)), some (vI i1), some (vI i2)]) rfl ?_
  unfold f_X7_clue
  refine r_aload_n (q := 1) dX7_clue_0 rfl rfl rfl ?_
  refine r_iconst (q := 2) (v := (0 : Int32)) dX7_clue_1 rfl (by decide) ?_
  refine r_pI (q := 5) fp_X7_clue_66 dX7_clue_2 rfl (fun σ1 => ?_)
  refine r_aload_n (q := 6) dX7_clue_5 rfl rfl rfl ?_
  refine r_iload_n (q := 7) dX7_clue_6 rfl rfl rfl ?_
  refine r_ob (fun a4 ha4 => ?_)
  obtain ⟨hea4, hka4⟩ := o_at_eq ha4
  cases hea4
  refine r_callI (q := 10) (c_X7_isClue G h0 N _ _ _) (cl_V (ci := 6) rfl rfl (lw_V q2427 q2429 qs123 q176 q2430) (hd_X7_isClue) ⟨Nat.le_of_ble_eq_true rfl, Nat.le_of_ble_eq_true rfl⟩ (List.mem_singleton.mp hka4) rfl rfl rfl (Nat.le_of_ble_eq_true rfl) dX7_clue_7) rfl (fun x2 σ3 => ?_)
  refine r_if_eq (q := 13) (t := 22) dX7_clue_10 rfl (by decide) (fun _ => ?_) (fun _ => ?_)
  · exact r_le (w_X7_clue_b22 G h0 N _ _) (Nat.le_refl _) (And.intro rfl trivial)
  · refine r_iload_n (q := 14) dX7_clue_13 rfl rfl rfl ?_
    refine r_iconst (q := 15) (v := (0 : Int32)) dX7_clue_14 rfl (by decide) ?_
    refine r_iconst (q := 16) (v := (3 : Int32)) dX7_clue_15 rfl (by decide) ?_
    refine r_callI (q := 19) (c_X7_within G h0 N _ _ _ _) (cl_S rfl rfl (lw_S q2236 q2237 q176 q2238) (hd_X7_within) ⟨Nat.le_of_ble_eq_true rfl, Nat.le_of_ble_eq_true rfl⟩ rfl (Nat.le_of_ble_eq_true rfl) dX7_clue_16) rfl (fun x5 σ6 => ?_)
    refine r_if_ne (q := 22) (t := 28) dX7_clue_19 rfl (by decide) (fun _ => ?_) (fun _ => ?_)
    · exact r_le (w_X7_clue_b22 G h0 N _ _) (Nat.le_refl _) (And.intro rfl trivial)
    · refine r_aload_n (q := 29) dX7_clue_28 rfl rfl rfl ?_
      refine r_iload_n (q := 30) dX7_clue_29 rfl rfl rfl ?_
      refine r_if_ne (q := 33) (t := 45) dX7_clue_30 rfl (by decide) (fun _ => ?_) (fun _ => ?_)
      · refine r_aload_n (q := 34) dX7_clue_33 rfl rfl rfl ?_
        refine r_gR (q := 37) fl_X7_442 rfl dX7_clue_34 rfl (fun x25 => ?_)
        refine r_gR (q := 40) fl_X7_376 rfl dX7_clue_37 rfl (fun x26 => ?_)
        refine r_iload_n (q := 41) dX7_clue_40 rfl rfl rfl ?_
        refine r_iaload (q := 42) dX7_clue_41 rfl (fun x27 => ?_)
        refine r_goto (q := 88) dX7_clue_42 (by decide) ?_
        refine r_ob (fun a30 ha30 => ?_)
        obtain ⟨hea30, hka30⟩ := o_at_eq ha30
        cases hea30
        refine r_callI (q := 91) (c_X7_good G h0 N _ _ _) (cl_V (ci := 6) rfl rfl (lw_V q2379 q2381 qs118 q176 q2382) (hd_X7_good) ⟨Nat.le_of_ble_eq_true rfl, Nat.le_of_ble_eq_true rfl⟩ (List.mem_singleton.mp hka30) rfl rfl rfl (Nat.le_of_ble_eq_true rfl) dX7_clue_88) rfl (fun x28 σ29 => ?_)
        exact r_ireturn rfl rfl dX7_clue_91
      · refine r_iload_n (q := 46) dX7_clue_45 rfl rfl rfl ?_
        refine r_iconst (q := 47) (v := (1 : Int32)) dX7_clue_46 rfl (by decide) ?_
        refine r_icmp_ne (q := 50) (t := 62) dX7_clue_47 rfl (by decide) (fun _ => ?_) (fun _ => ?_)
        · refine r_aload_n (q := 51) dX7_clue_50 rfl rfl rfl ?_
          refine r_gR (q := 54) fl_X7_442 rfl dX7_clue_51 rfl (fun x19 => ?_)
          refine r_gR (q := 57) fl_X7_379 rfl dX7_clue_54 rfl (fun x20 => ?_)
          refine r_iload_n (q := 58) dX7_clue_57 rfl rfl rfl ?_
          refine r_iaload (q := 59) dX7_clue_58 rfl (fun x21 => ?_)
          refine r_goto (q := 88) dX7_clue_59 (by decide) ?_
          refine r_ob (fun a24 ha24 => ?_)
          obtain ⟨hea24, hka24⟩ := o_at_eq ha24
          cases hea24
          refine r_callI (q := 91) (c_X7_good G h0 N _ _ _) (cl_V (ci := 6) rfl rfl (lw_V q2379 q2381 qs118 q176 q2382) (hd_X7_good) ⟨Nat.le_of_ble_eq_true rfl, Nat.le_of_ble_eq_true rfl⟩ (List.mem_singleton.mp hka24) rfl rfl rfl (Nat.le_of_ble_eq_true rfl) dX7_clue_88) rfl (fun x22 σ23 => ?_)
          exact r_ireturn rfl rfl dX7_clue_91
        · refine r_iload_n (q := 63) dX7_clue_62 rfl rfl rfl ?_
          refine r_iconst (q := 64) (v := (2 : Int32)) dX7_clue_63 rfl (by decide) ?_
          refine r_icmp_ne (q := 67) (t := 79) dX7_clue_64 rfl (by decide) (fun _ => ?_) (fun _ => ?_)
          · refine r_aload_n (q := 68) dX7_clue_67 rfl rfl rfl ?_
            refine r_gR (q := 71) fl_X7_442 rfl dX7_clue_68 rfl (fun x13 => ?_)
            refine r_gR (q := 74) fl_X7_382 rfl dX7_clue_71 rfl (fun x14 => ?_)
            refine r_iload_n (q := 75) dX7_clue_74 rfl rfl rfl ?_
            refine r_iaload (q := 76) dX7_clue_75 rfl (fun x15 => ?_)
            refine r_goto (q := 88) dX7_clue_76 (by decide) ?_
            refine r_ob (fun a18 ha18 => ?_)
            obtain ⟨hea18, hka18⟩ := o_at_eq ha18
            cases hea18
            refine r_callI (q := 91) (c_X7_good G h0 N _ _ _) (cl_V (ci := 6) rfl rfl (lw_V q2379 q2381 qs118 q176 q2382) (hd_X7_good) ⟨Nat.le_of_ble_eq_true rfl, Nat.le_of_ble_eq_true rfl⟩ (List.mem_singleton.mp hka18) rfl rfl rfl (Nat.le_of_ble_eq_true rfl) dX7_clue_88) rfl (fun x16 σ17 => ?_)
            exact r_ireturn rfl rfl dX7_clue_91
          · refine r_aload_n (q := 80) dX7_clue_79 rfl rfl rfl ?_
            refine r_gR (q := 83) fl_X7_442 rfl dX7_clue_80 rfl (fun x7 => ?_)
            refine r_gR (q := 86) fl_X7_385 rfl dX7_clue_83 rfl (fun x8 => ?_)
            refine r_iload_n (q := 87) dX7_clue_86 rfl rfl rfl ?_
            refine r_iaload (q := 88) dX7_clue_87 rfl (fun x9 => ?_)
            refine r_ob (fun a12 ha12 => ?_)
            obtain ⟨hea12, hka12⟩ := o_at_eq ha12
            cases hea12
            refine r_callI (q := 91) (c_X7_good G h0 N _ _ _) (cl_V (ci := 6) rfl rfl (lw_V q2379 q2381 qs118 q176 q2382) (hd_X7_good) ⟨Nat.le_of_ble_eq_true rfl, Nat.le_of_ble_eq_true rfl⟩ (List.mem_singleton.mp hka12) rfl rfl rfl (Nat.le_of_ble_eq_true rfl) dX7_clue_88) rfl (fun x10 σ11 => ?_)
            exact r_ireturn rfl rfl dX7_clue_91
theorem w_X1_isPerson_b28 (G : Gx) (h0 : G0 G) (N : Nat)    (σ : Mem) : Runs G mX1_isPerson rhoI σ 28 [none, none] [] (f_X1_isPerson_b28 N   σ) := by
  unfold f_X1_isPerson_b28
  refine r_iconst (q := 29) (v := (0 : Int32)) dX1_isPerson_28 rfl (by decide) ?_
  exact r_ireturnN rfl dX1_isPerson_29
theorem c_X1_isPerson (G : Gx) (h0 : G0 G) (N : Nat) (a0 : Nat) (i1 : Int32) (σ : Mem) : Ct G mX1_isPerson rhoI [vR (some a0), vI i1] σ (f_X1_isPerson N a0 i1 σ) := by
  refine Ct_of h0 (by decide) rfl (Nat.le_of_ble_eq_true rfl) (L0 := [some (vR (some a0)), some (vI i1)]) rfl ?_
  unfold f_X1_isPerson
  refine r_aload_n (q := 1) dX1_isPerson_0 rfl rfl rfl ?_
  refine r_gR (q := 4) fl_X1_104 rfl dX1_isPerson_1 rfl (fun x1 => ?_)
  refine r_ifnull (q := 7) (t := 28) dX1_isPerson_4 rfl (by decide) (fun _ => ?_) (fun _ => ?_)
  · exact r_le (w_X1_isPerson_b28 G h0 N  _) (Nat.le_refl _) trivial
  · refine r_iload_n (q := 8) dX1_isPerson_7 rfl rfl rfl ?_
    refine r_iconst (q := 9) (v := (0 : Int32)) dX1_isPerson_8 rfl (by decide) ?_
    refine r_aload_n (q := 10) dX1_isPerson_9 rfl rfl rfl ?_
    refine r_gR (q := 13) fl_X1_104 rfl dX1_isPerson_10 rfl (fun x2 => ?_)
    refine r_gI (q := 16) fl_X1_136 dX1_isPerson_13 rfl (fun x3 => ?_)
    refine r_iconst (q := 17) (v := (1 : Int32)) dX1_isPerson_16 rfl (by decide) ?_
    refine r_isub (q := 18) dX1_isPerson_17 rfl ?_
    refine r_callI (q := 21) (c_X1_in G h0 N _ _ _ _) (cl_S rfl rfl (lw_S q489 q490 q167 q491) (hd_X1_in) ⟨Nat.le_of_ble_eq_true rfl, Nat.le_of_ble_eq_true rfl⟩ rfl (Nat.le_of_ble_eq_true rfl) dX1_isPerson_18) rfl (fun x4 σ5 => ?_)
    refine r_if_eq (q := 24) (t := 28) dX1_isPerson_21 rfl (by decide) (fun _ => ?_) (fun _ => ?_)
    · exact r_le (w_X1_isPerson_b28 G h0 N  _) (Nat.le_refl _) trivial
    · refine r_iconst (q := 25) (v := (1 : Int32)) dX1_isPerson_24 rfl (by decide) ?_
      refine r_goto (q := 29) dX1_isPerson_25 (by decide) ?_
      exact r_ireturnN rfl dX1_isPerson_29
theorem c_X1_isHour (G : Gx) (h0 : G0 G) (N : Nat) (a0 : Nat) (i1 : Int32) (σ : Mem) : Ct G mX1_isHour rhoI [vR (some a0), vI i1] σ (f_X1_isHour N a0 i1 σ) := by
  refine Ct_of h0 (by decide) rfl (Nat.le_of_ble_eq_true rfl) (L0 := [some (vR (some a0)), some (vI i1)]) rfl ?_
  unfold f_X1_isHour
  refine r_iload_n (q := 1) dX1_isHour_0 rfl rfl rfl ?_
  refine r_iconst (q := 2) (v := (0 : Int32)) dX1_isHour_1 rfl (by decide) ?_
  refine r_aload_n (q := 3) dX1_isHour_2 rfl rfl rfl ?_
  refine r_gR (q := 6) fl_X1_104 rfl dX1_isHour_3 rfl (fun x1 => ?_)
  refine r_gI (q := 9) fl_X1_148 dX1_isHour_6 rfl (fun x2 => ?_)
  refine r_iconst (q := 10) (v := (1 : Int32)) dX1_isHour_9 rfl (by decide) ?_
  refine r_isub (q := 11) dX1_isHour_10 rfl ?_
  refine r_callI (q := 14) (c_X1_in G h0 N _ _ _ _) (cl_S rfl rfl (lw_S q489 q490 q167 q491) (hd_X1_in) ⟨Nat.le_of_ble_eq_true rfl, Nat.le_of_ble_eq_true rfl⟩ rfl (Nat.le_of_ble_eq_true rfl) dX1_isHour_11) rfl (fun x3 σ4 => ?_)
  exact r_ireturnN rfl dX1_isHour_14
theorem c_X11_at (G : Gx) (h0 : G0 G) (N : Nat) (a0 : Nat) (i1 : Int32) (i2 : Int32) (σ : Mem) : Ct G mX11_at rhoI [vR (some a0), vI i1, vI i2] σ (f_X11_at N a0 i1 i2 σ) := by
  refine Ct_of h0 (by decide) rfl (Nat.le_of_ble_eq_true rfl) (L0 := [some (vR (some a0)), some (vI i1), some (vI i2)]) rfl ?_
  unfold f_X11_at
  refine r_aload_n (q := 1) dX11_at_0 rfl rfl rfl ?_
  refine r_gR (q := 4) fl_X11_9 rfl dX11_at_1 rfl (fun x1 => ?_)
  refine r_bipush (q := 6) (v := (12 : Int32)) dX11_at_4 rfl (by decide) ?_
  refine r_iload_n (q := 7) dX11_at_6 rfl rfl rfl ?_
  refine r_imul (q := 8) dX11_at_7 rfl ?_
  refine r_iload_n (q := 9) dX11_at_8 rfl rfl rfl ?_
  refine r_aload_n (q := 10) dX11_at_9 rfl rfl rfl ?_
  refine r_gR (q := 13) fl_X11_15 rfl dX11_at_10 rfl (fun x2 => ?_)
  refine r_iload_n (q := 14) dX11_at_13 rfl rfl rfl ?_
  refine r_iaload (q := 15) dX11_at_14 rfl (fun x3 => ?_)
  refine r_iconst (q := 16) (v := (1 : Int32)) dX11_at_15 rfl (by decide) ?_
  refine r_isub (q := 17) dX11_at_16 rfl ?_
  refine r_mmin (q := 20) q1405 q1406 q198 q1407 (Nat.le_of_ble_eq_true rfl) (Nat.le_of_ble_eq_true rfl) dX11_at_17 rfl ?_
  refine r_iadd (q := 21) dX11_at_20 rfl ?_
  refine r_iaload (q := 22) dX11_at_21 rfl (fun x4 => ?_)
  exact r_ireturn rfl rfl dX11_at_22
theorem w_X1_story_b34 (G : Gx) (h0 : G0 G) (N : Nat)   (a0 : Nat) (σ : Mem) : Runs G mX1_story rhoI σ 34 [some (vR (some a0)), none, none, none] [] (f_X1_story_b34 N  a0 σ) := by
  unfold f_X1_story_b34
  refine r_aload_n (q := 35) dX1_story_34 rfl rfl rfl ?_
  refine r_iconst (q := 36) (v := (1 : Int32)) dX1_story_35 rfl (by decide) ?_
  refine r_ob (fun a3 ha3 => ?_)
  obtain ⟨hea3, hka3⟩ := o_at_eq ha3
  cases hea3
  refine r_callI (q := 39) (c_X1_no G h0 N _ _ _) (cl_V (ci := 0) rfl rfl (lw_V q492 q494 qs3 q167 q495) (hd_X1_no) ⟨Nat.le_of_ble_eq_true rfl, Nat.le_of_ble_eq_true rfl⟩ (List.mem_singleton.mp hka3) rfl rfl rfl (Nat.le_of_ble_eq_true rfl) dX1_story_36) rfl (fun x1 σ2 => ?_)
  exact r_ireturn rfl rfl dX1_story_39
theorem c_X1_story (G : Gx) (h0 : G0 G) (N : Nat) (a0 : Nat) (i1 : Int32) (i2 : Int32) (i3 : Int32) (σ : Mem) : Ct G mX1_story rhoI [vR (some a0), vI i1, vI i2, vI i3] σ (f_X1_story N a0 i1 i2 i3 σ) := by
  refine Ct_of h0 (by decide) rfl (Nat.le_of_ble_eq_true rfl) (L0 := [some (vR (some a0)), some (vI i1), some (vI i2), some (vI i3)]) rfl ?_
  unfold f_X1_story
  refine r_aload_n (q := 1) dX1_story_0 rfl rfl rfl ?_
  refine r_ob (fun a3 ha3 => ?_)
  obtain ⟨hea3, hka3⟩ := o_at_eq ha3
  cases hea3
  refine r_callV (q := 4) (c_X1_anew G h0 N _ _) (cl_V (ci := 0) rfl rfl (lw_V q485 q487 qs2 q167 q488) (hd_X1_anew) ⟨Nat.le_of_ble_eq_true rfl, Nat.le_of_ble_eq_true rfl⟩ (List.mem_singleton.mp hka3) rfl rfl rfl (Nat.le_of_ble_eq_true rfl) dX1_story_1) rfl (fun u1 σ2 => ?_)
  refine r_aload_n (q := 5) dX1_story_4 rfl rfl rfl ?_
  refine r_iload_n (q := 6) dX1_story_5 rfl rfl rfl ?_
  refine r_ob (fun a6 ha6 => ?_)
  obtain ⟨hea6, hka6⟩ := o_at_eq ha6
  cases hea6
  refine r_callI (q := 9) (c_X1_isPerson G h0 N _ _ _) (cl_V (ci := 0) rfl rfl (lw_V q1393 q1395 qs48 q167 q1396) (hd_X1_isPerson) ⟨Nat.le_of_ble_eq_true rfl, Nat.le_of_ble_eq_true rfl⟩ (List.mem_singleton.mp hka6) rfl rfl rfl (Nat.le_of_ble_eq_true rfl) dX1_story_6) rfl (fun x4 σ5 => ?_)
  refine r_if_eq (q := 12) (t := 34) dX1_story_9 rfl (by decide) (fun _ => ?_) (fun _ => ?_)
  · exact r_le (w_X1_story_b34 G h0 N _ _) (Nat.le_refl _) (And.intro rfl trivial)
  · refine r_iload_n (q := 13) dX1_story_12 rfl rfl rfl ?_
    refine r_iconst (q := 14) (v := (0 : Int32)) dX1_story_13 rfl (by decide) ?_
    refine r_aload_n (q := 15) dX1_story_14 rfl rfl rfl ?_
    refine r_gR (q := 18) fl_X1_104 rfl dX1_story_15 rfl (fun x7 => ?_)
    refine r_gR (q := 21) fl_X1_235 rfl dX1_story_18 rfl (fun x8 => ?_)
    refine r_iload_n (q := 22) dX1_story_21 rfl rfl rfl ?_
    refine r_aaload (q := 23) (k0 := 7) (by decide) dX1_story_22 rfl (fun x9 => ?_)
    refine r_gI (q := 26) fl_X1_239 dX1_story_23 rfl (fun x10 => ?_)
    refine r_iconst (q := 27) (v := (1 : Int32)) dX1_story_26 rfl (by decide) ?_
    refine r_isub (q := 28) dX1_story_27 rfl ?_
    refine r_callI (q := 31) (c_X1_in G h0 N _ _ _ _) (cl_S rfl rfl (lw_S q489 q490 q167 q491) (hd_X1_in) ⟨Nat.le_of_ble_eq_true rfl, Nat.le_of_ble_eq_true rfl⟩ rfl (Nat.le_of_ble_eq_true rfl) dX1_story_28) rfl (fun x11 σ12 => ?_)
    refine r_if_ne (q := 34) (t := 40) dX1_story_31 rfl (by decide) (fun _ => ?_) (fun _ => ?_)
    · exact r_le (w_X1_story_b34 G h0 N _ _) (Nat.le_refl _) (And.intro rfl trivial)
    · refine r_aload_n (q := 41) dX1_story_40 rfl rfl rfl ?_
      refine r_iload_n (q := 42) dX1_story_41 rfl rfl rfl ?_
      refine r_ob (fun a15 ha15 => ?_)
      obtain ⟨hea15, hka15⟩ := o_at_eq ha15
      cases hea15
      refine r_callI (q := 45) (c_X1_isHour G h0 N _ _ _) (cl_V (ci := 0) rfl rfl (lw_V q1397 q1399 qs49 q167 q1400) (hd_X1_isHour) ⟨Nat.le_of_ble_eq_true rfl, Nat.le_of_ble_eq_true rfl⟩ (List.mem_singleton.mp hka15) rfl rfl rfl (Nat.le_of_ble_eq_true rfl) dX1_story_42) rfl (fun x13 σ14 => ?_)
      refine r_if_eq (q := 48) (t := 65) dX1_story_45 rfl (by decide) (fun _ => ?_) (fun _ => ?_)
      · refine r_aload_n (q := 66) dX1_story_65 rfl rfl rfl ?_
        refine r_iconst (q := 67) (v := (2 : Int32)) dX1_story_66 rfl (by decide) ?_
        refine r_ob (fun a18 ha18 => ?_)
        obtain ⟨hea18, hka18⟩ := o_at_eq ha18
        cases hea18
        refine r_callI (q := 70) (c_X1_no G h0 N _ _ _) (cl_V (ci := 0) rfl rfl (lw_V q492 q494 qs3 q167 q495) (hd_X1_no) ⟨Nat.le_of_ble_eq_true rfl, Nat.le_of_ble_eq_true rfl⟩ (List.mem_singleton.mp hka18) rfl rfl rfl (Nat.le_of_ble_eq_true rfl) dX1_story_67) rfl (fun x16 σ17 => ?_)
        exact r_ireturn rfl rfl dX1_story_70
      · refine r_aload_n (q := 49) dX1_story_48 rfl rfl rfl ?_
        refine r_gR (q := 52) fl_X1_104 rfl dX1_story_49 rfl (fun x19 => ?_)
        refine r_gR (q := 55) fl_X1_235 rfl dX1_story_52 rfl (fun x20 => ?_)
        refine r_iload_n (q := 56) dX1_story_55 rfl rfl rfl ?_
        refine r_aaload (q := 57) (k0 := 7) (by decide) dX1_story_56 rfl (fun x21 => ?_)
        refine r_iload_n (q := 58) dX1_story_57 rfl rfl rfl ?_
        refine r_iload_n (q := 59) dX1_story_58 rfl rfl rfl ?_
        refine r_ob (fun a24 ha24 => ?_)
        obtain ⟨hea24, hka24⟩ := o_at_eq ha24
        cases hea24
        refine r_callI (q := 62) (c_X11_at G h0 N _ _ _ _) (cl_V (ci := 9) rfl rfl (lw_V q1401 q1402 q1403 q185 q1404) (hd_X11_at) ⟨Nat.le_of_ble_eq_true rfl, Nat.le_of_ble_eq_true rfl⟩ (List.mem_singleton.mp hka24) rfl rfl rfl (Nat.le_of_ble_eq_true rfl) dX1_story_59) rfl (fun x22 σ23 => ?_)
        refine r_goto (q := 70) dX1_story_62 (by decide) ?_
        exact r_ireturn rfl rfl dX1_story_70
theorem w_X7_isPerson_b26 (G : Gx) (h0 : G0 G) (N : Nat)    (σ : Mem) : Runs G mX7_isPerson rhoI σ 26 [none, none] [] (f_X7_isPerson_b26 N   σ) := by
  unfold f_X7_isPerson_b26
  refine r_iconst (q := 27) (v := (0 : Int32)) dX7_isPerson_26 rfl (by decide) ?_
  exact r_ireturnN rfl dX7_isPerson_27
theorem c_X7_isPerson (G : Gx) (h0 : G0 G) (N : Nat) (a0 : Nat) (i1 : Int32) (σ : Mem) : Ct G mX7_isPerson rhoI [vR (some a0), vI i1] σ (f_X7_isPerson N a0 i1 σ) := by
  refine Ct_of h0 (by decide) rfl (Nat.le_of_ble_eq_true rfl) (L0 := [some (vR (some a0)), some (vI i1)]) rfl ?_
  unfold f_X7_isPerson
  refine r_aload_n (q := 1) dX7_isPerson_0 rfl rfl rfl ?_
  refine r_gR (q := 4) fl_X7_442 rfl dX7_isPerson_1 rfl (fun x1 => ?_)
  refine r_ifnull (q := 7) (t := 26) dX7_isPerson_4 rfl (by decide) (fun _ => ?_) (fun _ => ?_)
  · exact r_le (w_X7_isPerson_b26 G h0 N  _) (Nat.le_refl _) trivial
  · refine r_iload_n (q := 8) dX7_isPerson_7 rfl rfl rfl ?_
    refine r_if_lt (q := 11) (t := 26) dX7_isPerson_8 rfl (by decide) (fun _ => ?_) (fun _ => ?_)
    · exact r_le (w_X7_isPerson_b26 G h0 N  _) (Nat.le_refl _) trivial
    · refine r_iload_n (q := 12) dX7_isPerson_11 rfl rfl rfl ?_
      refine r_aload_n (q := 13) dX7_isPerson_12 rfl rfl rfl ?_
      refine r_gR (q := 16) fl_X7_442 rfl dX7_isPerson_13 rfl (fun x2 => ?_)
      refine r_gI (q := 19) fl_X7_320 dX7_isPerson_16 rfl (fun x3 => ?_)
      refine r_icmp_ge (q := 22) (t := 26) dX7_isPerson_19 rfl (by decide) (fun _ => ?_) (fun _ => ?_)
      · exact r_le (w_X7_isPerson_b26 G h0 N  _) (Nat.le_refl _) trivial
      · refine r_iconst (q := 23) (v := (1 : Int32)) dX7_isPerson_22 rfl (by decide) ?_
        refine r_goto (q := 27) dX7_isPerson_23 (by decide) ?_
        exact r_ireturnN rfl dX7_isPerson_27
theorem w_X7_isHour_b19 (G : Gx) (h0 : G0 G) (N : Nat)    (σ : Mem) : Runs G mX7_isHour rhoI σ 19 [none, none] [] (f_X7_isHour_b19 N   σ) := by
  unfold f_X7_isHour_b19
  refine r_iconst (q := 20) (v := (0 : Int32)) dX7_isHour_19 rfl (by decide) ?_
  exact r_ireturnN rfl dX7_isHour_20
theorem c_X7_isHour (G : Gx) (h0 : G0 G) (N : Nat) (a0 : Nat) (i1 : Int32) (σ : Mem) : Ct G mX7_isHour rhoI [vR (some a0), vI i1] σ (f_X7_isHour N a0 i1 σ) := by
  refine Ct_of h0 (by decide) rfl (Nat.le_of_ble_eq_true rfl) (L0 := [some (vR (some a0)), some (vI i1)]) rfl ?_
  unfold f_X7_isHour
  refine r_iload_n (q := 1) dX7_isHour_0 rfl rfl rfl ?_
  refine r_if_lt (q := 4) (t := 19) dX7_isHour_1 rfl (by decide) (fun _ => ?_) (fun _ => ?_)
  · exact r_le (w_X7_isHour_b19 G h0 N  _) (Nat.le_refl _) trivial
  · refine r_iload_n (q := 5) dX7_isHour_4 rfl rfl rfl ?_
    refine r_aload_n (q := 6) dX7_isHour_5 rfl rfl rfl ?_
    refine r_gR (q := 9) fl_X7_442 rfl dX7_isHour_6 rfl (fun x1 => ?_)
    refine r_gI (q := 12) fl_X7_196 dX7_isHour_9 rfl (fun x2 => ?_)
    refine r_icmp_ge (q := 15) (t := 19) dX7_isHour_12 rfl (by decide) (fun _ => ?_) (fun _ => ?_)
    · exact r_le (w_X7_isHour_b19 G h0 N  _) (Nat.le_refl _) trivial
    · refine r_iconst (q := 16) (v := (1 : Int32)) dX7_isHour_15 rfl (by decide) ?_
      refine r_goto (q := 20) dX7_isHour_16 (by decide) ?_
      exact r_ireturnN rfl dX7_isHour_20
theorem c_X24_place (G : Gx) (h0 : G0 G) (N : Nat) (a0 : Nat) (i1 : Int32) (i2 : Int32) (i3 : Int32) (σ : Mem) : Ct G mX24_place rhoI [vR (some a0), vI i1, vI i2, vI i3] σ (f_X24_place N a0 i1 i2 i3 σ) := by
  refine Ct_of h0 (by decide) rfl (Nat.le_of_ble_eq_true rfl) (L0 := [some (vR (some a0)), some (vI i1), some (vI i2), some (vI i3)]) rfl ?_
  unfold f_X24_place
  refine r_aload_n (q := 1) dX24_place_0 rfl rfl rfl ?_
  refine r_gR (q := 4) fl_X24_24 rfl dX24_place_1 rfl (fun x1 => ?_)
  refine r_iconst (q := 5) (v := (3 : Int32)) dX24_place_4 rfl (by decide) ?_
  refine r_iload_n (q := 6) dX24_place_5 rfl rfl rfl ?_
  refine r_imul (q := 7) dX24_place_6 rfl ?_
  refine r_iload_n (q := 8) dX24_place_7 rfl rfl rfl ?_
  refine r_iadd (q := 9) dX24_place_8 rfl ?_
  refine r_bipush (q := 11) (v := (12 : Int32)) dX24_place_9 rfl (by decide) ?_
  refine r_imul (q := 12) dX24_place_11 rfl ?_
  refine r_iload_n (q := 13) dX24_place_12 rfl rfl rfl ?_
  refine r_iadd (q := 14) dX24_place_13 rfl ?_
  refine r_iaload (q := 15) dX24_place_14 rfl (fun x2 => ?_)
  exact r_ireturn rfl rfl dX24_place_15
theorem w_X7_story_b30 (G : Gx) (h0 : G0 G) (N : Nat)   (a0 : Nat) (σ : Mem) : Runs G mX7_story rhoI σ 30 [some (vR (some a0)), none, none, none] [] (f_X7_story_b30 N  a0 σ) := by
  unfold f_X7_story_b30
  refine r_aload_n (q := 31) dX7_story_30 rfl rfl rfl ?_
  refine r_iconst (q := 32) (v := (1 : Int32)) dX7_story_31 rfl (by decide) ?_
  refine r_ob (fun a3 ha3 => ?_)
  obtain ⟨hea3, hka3⟩ := o_at_eq ha3
  cases hea3
  refine r_callI (q := 35) (c_X7_refused G h0 N _ _ _) (cl_V (ci := 6) rfl rfl (lw_V q2019 q2021 qs83 q176 q2022) (hd_X7_refused) ⟨Nat.le_of_ble_eq_true rfl, Nat.le_of_ble_eq_true rfl⟩ (List.mem_singleton.mp hka3) rfl rfl rfl (Nat.le_of_ble_eq_true rfl) dX7_story_32) rfl (fun x1 σ2 => ?_)
  exact r_ireturn rfl rfl dX7_story_35
theorem c_X7_story (G : Gx) (h0 : G0 G) (N : Nat) (a0 : Nat) (i1 : Int32) (i2 : Int32) (i3 : Int32) (σ : Mem) : Ct G mX7_story rhoI [vR (some a0), vI i1, vI i2, vI i3] σ (f_X7_story N a0 i1 i2 i3 σ) := by
  refine Ct_of h0 (by decide) rfl (Nat.le_of_ble_eq_true rfl) (L0 := [some (vR (some a0)), some (vI i1), some (vI i2), some (vI i3)]) rfl ?_
  unfold f_X7_story
  refine r_aload_n (q := 1) dX7_story_0 rfl rfl rfl ?_
  refine r_iconst (q := 2) (v := (0 : Int32)) dX7_story_1 rfl (by decide) ?_
  refine r_pI (q := 5) fp_X7_story_66 dX7_story_2 rfl (fun σ1 => ?_)
  refine r_aload_n (q := 6) dX7_story_5 rfl rfl rfl ?_
  refine r_iload_n (q := 7) dX7_story_6 rfl rfl rfl ?_
  refine r_ob (fun a4 ha4 => ?_)
  obtain ⟨hea4, hka4⟩ := o_at_eq ha4
  cases hea4
  refine r_callI (q := 10) (c_X7_isPerson G h0 N _ _ _) (cl_V (ci := 6) rfl rfl (lw_V q2435 q2437 qs124 q176 q2438) (hd_X7_isPerson) ⟨Nat.le_of_ble_eq_true rfl, Nat.le_of_ble_eq_true rfl⟩ (List.mem_singleton.mp hka4) rfl rfl rfl (Nat.le_of_ble_eq_true rfl) dX7_story_7) rfl (fun x2 σ3 => ?_)
  refine r_if_eq (q := 13) (t := 30) dX7_story_10 rfl (by decide) (fun _ => ?_) (fun _ => ?_)
  · exact r_le (w_X7_story_b30 G h0 N _ _) (Nat.le_refl _) (And.intro rfl trivial)
  · refine r_iload_n (q := 14) dX7_story_13 rfl rfl rfl ?_
    refine r_if_lt (q := 17) (t := 30) dX7_story_14 rfl (by decide) (fun _ => ?_) (fun _ => ?_)
    · exact r_le (w_X7_story_b30 G h0 N _ _) (Nat.le_refl _) (And.intro rfl trivial)
    · refine r_iload_n (q := 18) dX7_story_17 rfl rfl rfl ?_
      refine r_aload_n (q := 19) dX7_story_18 rfl rfl rfl ?_
      refine r_gR (q := 22) fl_X7_442 rfl dX7_story_19 rfl (fun x5 => ?_)
      refine r_gR (q := 25) fl_X7_323 rfl dX7_story_22 rfl (fun x6 => ?_)
      refine r_iload_n (q := 26) dX7_story_25 rfl rfl rfl ?_
      refine r_iaload (q := 27) dX7_story_26 rfl (fun x7 => ?_)
      refine r_icmp_lt (q := 30) (t := 36) dX7_story_27 rfl (by decide) (fun _ => ?_) (fun _ => ?_)
      · refine r_aload_n (q := 37) dX7_story_36 rfl rfl rfl ?_
        refine r_iload_n (q := 38) dX7_story_37 rfl rfl rfl ?_
        refine r_ob (fun a10 ha10 => ?_)
        obtain ⟨hea10, hka10⟩ := o_at_eq ha10
        cases hea10
        refine r_callI (q := 41) (c_X7_isHour G h0 N _ _ _) (cl_V (ci := 6) rfl rfl (lw_V q2439 q2441 qs125 q176 q2442) (hd_X7_isHour) ⟨Nat.le_of_ble_eq_true rfl, Nat.le_of_ble_eq_true rfl⟩ (List.mem_singleton.mp hka10) rfl rfl rfl (Nat.le_of_ble_eq_true rfl) dX7_story_38) rfl (fun x8 σ9 => ?_)
        refine r_if_eq (q := 44) (t := 61) dX7_story_41 rfl (by decide) (fun _ => ?_) (fun _ => ?_)
        · refine r_aload_n (q := 62) dX7_story_61 rfl rfl rfl ?_
          refine r_iconst (q := 63) (v := (2 : Int32)) dX7_story_62 rfl (by decide) ?_
          refine r_ob (fun a13 ha13 => ?_)
          obtain ⟨hea13, hka13⟩ := o_at_eq ha13
          cases hea13
          refine r_callI (q := 66) (c_X7_refused G h0 N _ _ _) (cl_V (ci := 6) rfl rfl (lw_V q2019 q2021 qs83 q176 q2022) (hd_X7_refused) ⟨Nat.le_of_ble_eq_true rfl, Nat.le_of_ble_eq_true rfl⟩ (List.mem_singleton.mp hka13) rfl rfl rfl (Nat.le_of_ble_eq_true rfl) dX7_story_63) rfl (fun x11 σ12 => ?_)
          exact r_ireturn rfl rfl dX7_story_66
        · refine r_aload_n (q := 45) dX7_story_44 rfl rfl rfl ?_
          refine r_aload_n (q := 46) dX7_story_45 rfl rfl rfl ?_
          refine r_gR (q := 49) fl_X7_442 rfl dX7_story_46 rfl (fun x14 => ?_)
          refine r_iload_n (q := 50) dX7_story_49 rfl rfl rfl ?_
          refine r_iload_n (q := 51) dX7_story_50 rfl rfl rfl ?_
          refine r_iload_n (q := 52) dX7_story_51 rfl rfl rfl ?_
          refine r_ob (fun a17 ha17 => ?_)
          obtain ⟨hea17, hka17⟩ := o_at_eq ha17
          cases hea17
          refine r_callI (q := 55) (c_X24_place G h0 N _ _ _ _ _) (cl_V (ci := 20) rfl rfl (lw_V q2443 q2444 q2445 q199 q2446) (hd_X24_place) ⟨Nat.le_of_ble_eq_true rfl, Nat.le_of_ble_eq_true rfl⟩ (List.mem_singleton.mp hka17) rfl rfl rfl (Nat.le_of_ble_eq_true rfl) dX7_story_52) rfl (fun x15 σ16 => ?_)
          refine r_ob (fun a20 ha20 => ?_)
          obtain ⟨hea20, hka20⟩ := o_at_eq ha20
          cases hea20
          refine r_callI (q := 58) (c_X7_good G h0 N _ _ _) (cl_V (ci := 6) rfl rfl (lw_V q2379 q2381 qs118 q176 q2382) (hd_X7_good) ⟨Nat.le_of_ble_eq_true rfl, Nat.le_of_ble_eq_true rfl⟩ (List.mem_singleton.mp hka20) rfl rfl rfl (Nat.le_of_ble_eq_true rfl) dX7_story_55) rfl (fun x18 σ19 => ?_)
          refine r_goto (q := 66) dX7_story_58 (by decide) ?_
          exact r_ireturn rfl rfl dX7_story_66
      · exact r_le (w_X7_story_b30 G h0 N _ _) (Nat.le_refl _) (And.intro rfl trivial)
theorem c_X1_stories (G : Gx) (h0 : G0 G) (N : Nat) (a0 : Nat) (i1 : Int32) (σ : Mem) : Ct G mX1_stories rhoI [vR (some a0), vI i1] σ (f_X1_stories N a0 i1 σ) := by
  refine Ct_of h0 (by decide) rfl (Nat.le_of_ble_eq_true rfl) (L0 := [some (vR (some a0)), some (vI i1)]) rfl ?_
  unfold f_X1_stories
  refine r_aload_n (q := 1) dX1_stories_0 rfl rfl rfl ?_
  refine r_ob (fun a3 ha3 => ?_)
  obtain ⟨hea3, hka3⟩ := o_at_eq ha3
  cases hea3
  refine r_callV (q := 4) (c_X1_anew G h0 N _ _) (cl_V (ci := 0) rfl rfl (lw_V q485 q487 qs2 q167 q488) (hd_X1_anew) ⟨Nat.le_of_ble_eq_true rfl, Nat.le_of_ble_eq_true rfl⟩ (List.mem_singleton.mp hka3) rfl rfl rfl (Nat.le_of_ble_eq_true rfl) dX1_stories_1) rfl (fun u1 σ2 => ?_)
  refine r_aload_n (q := 5) dX1_stories_4 rfl rfl rfl ?_
  refine r_iload_n (q := 6) dX1_stories_5 rfl rfl rfl ?_
  refine r_ob (fun a6 ha6 => ?_)
  obtain ⟨hea6, hka6⟩ := o_at_eq ha6
  cases hea6
  refine r_callI (q := 9) (c_X1_isPerson G h0 N _ _ _) (cl_V (ci := 0) rfl rfl (lw_V q1393 q1395 qs48 q167 q1396) (hd_X1_isPerson) ⟨Nat.le_of_ble_eq_true rfl, Nat.le_of_ble_eq_true rfl⟩ (List.mem_singleton.mp hka6) rfl rfl rfl (Nat.le_of_ble_eq_true rfl) dX1_stories_6) rfl (fun x4 σ5 => ?_)
  refine r_if_eq (q := 12) (t := 27) dX1_stories_9 rfl (by decide) (fun _ => ?_) (fun _ => ?_)
  · refine r_aload_n (q := 28) dX1_stories_27 rfl rfl rfl ?_
    refine r_iconst (q := 29) (v := (1 : Int32)) dX1_stories_28 rfl (by decide) ?_
    refine r_ob (fun a9 ha9 => ?_)
    obtain ⟨hea9, hka9⟩ := o_at_eq ha9
    cases hea9
    refine r_callI (q := 32) (c_X1_no G h0 N _ _ _) (cl_V (ci := 0) rfl rfl (lw_V q492 q494 qs3 q167 q495) (hd_X1_no) ⟨Nat.le_of_ble_eq_true rfl, Nat.le_of_ble_eq_true rfl⟩ (List.mem_singleton.mp hka9) rfl rfl rfl (Nat.le_of_ble_eq_true rfl) dX1_stories_29) rfl (fun x7 σ8 => ?_)
    exact r_ireturn rfl rfl dX1_stories_32
  · refine r_aload_n (q := 13) dX1_stories_12 rfl rfl rfl ?_
    refine r_gR (q := 16) fl_X1_104 rfl dX1_stories_13 rfl (fun x10 => ?_)
    refine r_gR (q := 19) fl_X1_235 rfl dX1_stories_16 rfl (fun x11 => ?_)
    refine r_iload_n (q := 20) dX1_stories_19 rfl rfl rfl ?_
    refine r_aaload (q := 21) (k0 := 7) (by decide) dX1_stories_20 rfl (fun x12 => ?_)
    refine r_gI (q := 24) fl_X1_239 dX1_stories_21 rfl (fun x13 => ?_)
    refine r_goto (q := 32) dX1_stories_24 (by decide) ?_
    exact r_ireturn rfl rfl dX1_stories_32
theorem c_X7_stories (G : Gx) (h0 : G0 G) (N : Nat) (a0 : Nat) (i1 : Int32) (σ : Mem) : Ct G mX7_stories rhoI [vR (some a0), vI i1] σ (f_X7_stories N a0 i1 σ) := by
  refine Ct_of h0 (by decide) rfl (Nat.le_of_ble_eq_true rfl) (L0 := [some (vR (some a0)), some (vI i1)]) rfl ?_
  unfold f_X7_stories
  refine r_aload_n (q := 1) dX7_stories_0 rfl rfl rfl ?_
  refine r_iconst (q := 2) (v := (0 : Int32)) dX7_stories_1 rfl (by decide) ?_
  refine r_pI (q := 5) fp_X7_stories_66 dX7_stories_2 rfl (fun σ1 => ?_)
  refine r_aload_n (q := 6) dX7_stories_5 rfl rfl rfl ?_
  refine r_iload_n (q := 7) dX7_stories_6 rfl rfl rfl ?_
  refine r_ob (fun a4 ha4 => ?_)
  obtain ⟨hea4, hka4⟩ := o_at_eq ha4
  cases hea4
  refine r_callI (q := 10) (c_X7_isPerson G h0 N _ _ _) (cl_V (ci := 6) rfl rfl (lw_V q2435 q2437 qs124 q176 q2438) (hd_X7_isPerson) ⟨Nat.le_of_ble_eq_true rfl, Nat.le_of_ble_eq_true rfl⟩ (List.mem_singleton.mp hka4) rfl rfl rfl (Nat.le_of_ble_eq_true rfl) dX7_stories_7) rfl (fun x2 σ3 => ?_)
  refine r_if_eq (q := 13) (t := 29) dX7_stories_10 rfl (by decide) (fun _ => ?_) (fun _ => ?_)
  · refine r_aload_n (q := 30) dX7_stories_29 rfl rfl rfl ?_
    refine r_iconst (q := 31) (v := (1 : Int32)) dX7_stories_30 rfl (by decide) ?_
    refine r_ob (fun a7 ha7 => ?_)
    obtain ⟨hea7, hka7⟩ := o_at_eq ha7
    cases hea7
    refine r_callI (q := 34) (c_X7_refused G h0 N _ _ _) (cl_V (ci := 6) rfl rfl (lw_V q2019 q2021 qs83 q176 q2022) (hd_X7_refused) ⟨Nat.le_of_ble_eq_true rfl, Nat.le_of_ble_eq_true rfl⟩ (List.mem_singleton.mp hka7) rfl rfl rfl (Nat.le_of_ble_eq_true rfl) dX7_stories_31) rfl (fun x5 σ6 => ?_)
    exact r_ireturn rfl rfl dX7_stories_34
  · refine r_aload_n (q := 14) dX7_stories_13 rfl rfl rfl ?_
    refine r_aload_n (q := 15) dX7_stories_14 rfl rfl rfl ?_
    refine r_gR (q := 18) fl_X7_442 rfl dX7_stories_15 rfl (fun x8 => ?_)
    refine r_gR (q := 21) fl_X7_323 rfl dX7_stories_18 rfl (fun x9 => ?_)
    refine r_iload_n (q := 22) dX7_stories_21 rfl rfl rfl ?_
    refine r_iaload (q := 23) dX7_stories_22 rfl (fun x10 => ?_)
    refine r_ob (fun a13 ha13 => ?_)
    obtain ⟨hea13, hka13⟩ := o_at_eq ha13
    cases hea13
    refine r_callI (q := 26) (c_X7_good G h0 N _ _ _) (cl_V (ci := 6) rfl rfl (lw_V q2379 q2381 qs118 q176 q2382) (hd_X7_good) ⟨Nat.le_of_ble_eq_true rfl, Nat.le_of_ble_eq_true rfl⟩ (List.mem_singleton.mp hka13) rfl rfl rfl (Nat.le_of_ble_eq_true rfl) dX7_stories_23) rfl (fun x11 σ12 => ?_)
    refine r_goto (q := 34) dX7_stories_26 (by decide) ?_
    exact r_ireturn rfl rfl dX7_stories_34
theorem w_X1_isCase_b28 (G : Gx) (h0 : G0 G) (N : Nat)    (σ : Mem) : Runs G mX1_isCase rhoI σ 28 [none, none] [] (f_X1_isCase_b28 N   σ) := by
  unfold f_X1_isCase_b28
  refine r_iconst (q := 29) (v := (0 : Int32)) dX1_isCase_28 rfl (by decide) ?_
  exact r_ireturnN rfl dX1_isCase_29
theorem c_X1_isCase (G : Gx) (h0 : G0 G) (N : Nat) (a0 : Nat) (i1 : Int32) (σ : Mem) : Ct G mX1_isCase rhoI [vR (some a0), vI i1] σ (f_X1_isCase N a0 i1 σ) := by
  refine Ct_of h0 (by decide) rfl (Nat.le_of_ble_eq_true rfl) (L0 := [some (vR (some a0)), some (vI i1)]) rfl ?_
  unfold f_X1_isCase
  refine r_aload_n (q := 1) dX1_isCase_0 rfl rfl rfl ?_
  refine r_gR (q := 4) fl_X1_104 rfl dX1_isCase_1 rfl (fun x1 => ?_)
  refine r_ifnull (q := 7) (t := 28) dX1_isCase_4 rfl (by decide) (fun _ => ?_) (fun _ => ?_)
  · exact r_le (w_X1_isCase_b28 G h0 N  _) (Nat.le_refl _) trivial
  · refine r_iload_n (q := 8) dX1_isCase_7 rfl rfl rfl ?_
    refine r_iconst (q := 9) (v := (0 : Int32)) dX1_isCase_8 rfl (by decide) ?_
    refine r_aload_n (q := 10) dX1_isCase_9 rfl rfl rfl ?_
    refine r_gR (q := 13) fl_X1_104 rfl dX1_isCase_10 rfl (fun x2 => ?_)
    refine r_ob (fun a5 ha5 => ?_)
    obtain ⟨hea5, hka5⟩ := o_at_eq ha5
    cases hea5
    refine r_callI (q := 16) (c_X8_cases G h0 N _ _) (cl_V (ci := 7) rfl rfl (lw_V q1296 q1297 q1298 q177 q1299) (hd_X8_cases) ⟨Nat.le_of_ble_eq_true rfl, Nat.le_of_ble_eq_true rfl⟩ (List.mem_singleton.mp hka5) rfl rfl rfl (Nat.le_of_ble_eq_true rfl) dX1_isCase_13) rfl (fun x3 σ4 => ?_)
    refine r_iconst (q := 17) (v := (1 : Int32)) dX1_isCase_16 rfl (by decide) ?_
    refine r_isub (q := 18) dX1_isCase_17 rfl ?_
    refine r_callI (q := 21) (c_X1_in G h0 N _ _ _ _) (cl_S rfl rfl (lw_S q489 q490 q167 q491) (hd_X1_in) ⟨Nat.le_of_ble_eq_true rfl, Nat.le_of_ble_eq_true rfl⟩ rfl (Nat.le_of_ble_eq_true rfl) dX1_isCase_18) rfl (fun x6 σ7 => ?_)
    refine r_if_eq (q := 24) (t := 28) dX1_isCase_21 rfl (by decide) (fun _ => ?_) (fun _ => ?_)
    · exact r_le (w_X1_isCase_b28 G h0 N  _) (Nat.le_refl _) trivial
    · refine r_iconst (q := 25) (v := (1 : Int32)) dX1_isCase_24 rfl (by decide) ?_
      refine r_goto (q := 29) dX1_isCase_25 (by decide) ?_
      exact r_ireturnN rfl dX1_isCase_29
theorem w_X8_storyOf_b10B (G : Gx) (h0 : G0 G) (N : Nat)   (K10 : Nat → Int32 → Int32 → Int32 → Mem → Option (Int32 × Mem)) (hK10 : ∀ (a0 : Nat) (l2 : Int32) (l3 : Int32) (l4 : Int32) (σ : Mem), Runs G mX8_storyOf rhoI σ 10 [some (vR (some a0)), none, some (vI l2), some (vI l3), some (vI l4)] [] (K10 a0 l2 l3 l4 σ)) (a0 : Nat) (l2 : Int32) (l3 : Int32) (l4 : Int32) (σ : Mem) : Runs G mX8_storyOf rhoI σ 10 [some (vR (some a0)), none, some (vI l2), some (vI l3), some (vI l4)] [] (f_X8_storyOf_b10B N  K10 a0 l2 l3 l4 σ) := by
  unfold f_X8_storyOf_b10B
  refine r_iload (q := 12) dX8_storyOf_10 rfl rfl ?_
  refine r_iload_n (q := 13) dX8_storyOf_12 rfl rfl rfl ?_
  refine r_icmp_le (q := 16) (t := 39) dX8_storyOf_13 rfl (by decide) (fun _ => ?_) (fun _ => ?_)
  · refine r_aload_n (q := 40) dX8_storyOf_39 rfl rfl rfl ?_
    refine r_gR (q := 43) fl_X8_32 rfl dX8_storyOf_40 rfl (fun x1 => ?_)
    refine r_iload_n (q := 44) dX8_storyOf_43 rfl rfl rfl ?_
    refine r_aaload (q := 45) (k0 := 7) (by decide) dX8_storyOf_44 rfl (fun x2 => ?_)
    refine r_gI (q := 48) fl_X8_101 dX8_storyOf_45 rfl (fun x3 => ?_)
    refine r_if_ne (q := 51) (t := 56) dX8_storyOf_48 rfl (by decide) (fun _ => ?_) (fun _ => ?_)
    · refine r_bipush (q := 53) (v := (-2 : Int32)) dX8_storyOf_51 rfl (by decide) ?_
      refine r_goto (q := 67) dX8_storyOf_53 (by decide) ?_
      exact r_ireturn rfl rfl dX8_storyOf_67
    · refine r_iload_n (q := 57) dX8_storyOf_56 rfl rfl rfl ?_
      refine r_aload_n (q := 58) dX8_storyOf_57 rfl rfl rfl ?_
      refine r_gR (q := 61) fl_X8_32 rfl dX8_storyOf_58 rfl (fun x4 => ?_)
      refine r_iload_n (q := 62) dX8_storyOf_61 rfl rfl rfl ?_
      refine r_aaload (q := 63) (k0 := 7) (by decide) dX8_storyOf_62 rfl (fun x5 => ?_)
      refine r_gI (q := 66) fl_X8_101 dX8_storyOf_63 rfl (fun x6 => ?_)
      refine r_irem (q := 67) dX8_storyOf_66 rfl (fun x7 _ => ?_)
      exact r_ireturn rfl rfl dX8_storyOf_67
  · refine r_iload_n (q := 17) dX8_storyOf_16 rfl rfl rfl ?_
    refine r_iconst (q := 18) (v := (1 : Int32)) dX8_storyOf_17 rfl (by decide) ?_
    refine r_aload_n (q := 19) dX8_storyOf_18 rfl rfl rfl ?_
    refine r_gR (q := 22) fl_X8_32 rfl dX8_storyOf_19 rfl (fun x8 => ?_)
    refine r_iload (q := 24) dX8_storyOf_22 rfl rfl ?_
    refine r_aaload (q := 25) (k0 := 7) (by decide) dX8_storyOf_24 rfl (fun x9 => ?_)
    refine r_gI (q := 28) fl_X8_101 dX8_storyOf_25 rfl (fun x10 => ?_)
    refine r_mmax (q := 31) q1300 q1301 q198 q1302 (Nat.le_of_ble_eq_true rfl) (Nat.le_of_ble_eq_true rfl) dX8_storyOf_28 rfl ?_
    refine r_idiv (q := 32) dX8_storyOf_31 rfl (fun x11 _ => ?_)
    refine r_istore_n (q := 33) dX8_storyOf_32 rfl rfl (Nat.le_of_ble_eq_true rfl) rfl ?_
    refine r_iinc (q := 36) (v := (-1 : Int32)) dX8_storyOf_33 rfl rfl (by decide) (Nat.le_of_ble_eq_true rfl) rfl ?_
    refine r_goto (q := 10) dX8_storyOf_36 (by decide) ?_
    exact r_le (hK10 _ _ _ _ _) (Nat.le_refl _) (And.intro rfl (And.intro rfl (And.intro rfl (And.intro rfl trivial))))
theorem w_X8_storyOf_b10 (G : Gx) (h0 : G0 G) (N : Nat)   : ∀ (z : Nat) (a0 : Nat) (l2 : Int32) (l3 : Int32) (l4 : Int32) (σ : Mem), Runs G mX8_storyOf rhoI σ 10 [some (vR (some a0)), none, some (vI l2), some (vI l3), some (vI l4)] [] (f_X8_storyOf_b10 N  z a0 l2 l3 l4 σ) := by
  intro z
  induction z with
  | zero => exact fun _ _ _ _ _ => r_none
  | succ z ih => exact fun a0 l2 l3 l4 σ => w_X8_storyOf_b10B G h0 N   _ ih a0 l2 l3 l4 σ
theorem c_X8_storyOf (G : Gx) (h0 : G0 G) (N : Nat) (a0 : Nat) (i1 : Int32) (i2 : Int32) (σ : Mem) : Ct G mX8_storyOf rhoI [vR (some a0), vI i1, vI i2] σ (f_X8_storyOf N a0 i1 i2 σ) := by
  refine Ct_of h0 (by decide) rfl (Nat.le_of_ble_eq_true rfl) (L0 := [some (vR (some a0)), some (vI i1), some (vI i2), none, none]) rfl ?_
  unfold f_X8_storyOf
  refine r_iload_n (q := 1) dX8_storyOf_0 rfl rfl rfl ?_
  refine r_istore_n (q := 2) dX8_storyOf_1 rfl rfl (Nat.le_of_ble_eq_true rfl) rfl ?_
  refine r_aload_n (q := 3) dX8_storyOf_2 rfl rfl rfl ?_
  refine r_gI (q := 6) fl_X8_86 dX8_storyOf_3 rfl (fun x1 => ?_)
  refine r_iconst (q := 7) (v := (1 : Int32)) dX8_storyOf_6 rfl (by decide) ?_
  refine r_isub (q := 8) dX8_storyOf_7 rfl ?_
  refine r_istore (q := 10) dX8_storyOf_8 rfl (Nat.le_of_ble_eq_true rfl) rfl ?_
  exact r_le (w_X8_storyOf_b10 G h0 N N _ _ _ _ _) (Nat.le_refl _) (And.intro rfl (And.intro rfl (And.intro rfl (And.intro rfl trivial))))
theorem w_X1_caseOf_b32 (G : Gx) (h0 : G0 G) (N : Nat)   (a0 : Nat) (σ : Mem) : Runs G mX1_caseOf rhoI σ 32 [some (vR (some a0)), none, none] [] (f_X1_caseOf_b32 N  a0 σ) := by
  unfold f_X1_caseOf_b32
  refine r_aload_n (q := 33) dX1_caseOf_32 rfl rfl rfl ?_
  refine r_iconst (q := 34) (v := (1 : Int32)) dX1_caseOf_33 rfl (by decide) ?_
  refine r_ob (fun a3 ha3 => ?_)
  obtain ⟨hea3, hka3⟩ := o_at_eq ha3
  cases hea3
  refine r_callI (q := 37) (c_X1_no G h0 N _ _ _) (cl_V (ci := 0) rfl rfl (lw_V q492 q494 qs3 q167 q495) (hd_X1_no) ⟨Nat.le_of_ble_eq_true rfl, Nat.le_of_ble_eq_true rfl⟩ (List.mem_singleton.mp hka3) rfl rfl rfl (Nat.le_of_ble_eq_true rfl) dX1_caseOf_34) rfl (fun x1 σ2 => ?_)
  exact r_ireturn rfl rfl dX1_caseOf_37
theorem c_X1_caseOf (G : Gx) (h0 : G0 G) (N : Nat) (a0 : Nat) (i1 : Int32) (i2 : Int32) (σ : Mem) : Ct G mX1_caseOf rhoI [vR (some a0), vI i1, vI i2] σ (f_X1_caseOf N a0 i1 i2 σ) := by
  refine Ct_of h0 (by decide) rfl (Nat.le_of_ble_eq_true rfl) (L0 := [some (vR (some a0)), some (vI i1), some (vI i2)]) rfl ?_
  unfold f_X1_caseOf
  refine r_aload_n (q := 1) dX1_caseOf_0 rfl rfl rfl ?_
  refine r_ob (fun a3 ha3 => ?_)
  obtain ⟨hea3, hka3⟩ := o_at_eq ha3
  cases hea3
  refine r_callV (q := 4) (c_X1_anew G h0 N _ _) (cl_V (ci := 0) rfl rfl (lw_V q485 q487 qs2 q167 q488) (hd_X1_anew) ⟨Nat.le_of_ble_eq_true rfl, Nat.le_of_ble_eq_true rfl⟩ (List.mem_singleton.mp hka3) rfl rfl rfl (Nat.le_of_ble_eq_true rfl) dX1_caseOf_1) rfl (fun u1 σ2 => ?_)
  refine r_aload_n (q := 5) dX1_caseOf_4 rfl rfl rfl ?_
  refine r_iload_n (q := 6) dX1_caseOf_5 rfl rfl rfl ?_
  refine r_ob (fun a6 ha6 => ?_)
  obtain ⟨hea6, hka6⟩ := o_at_eq ha6
  cases hea6
  refine r_callI (q := 9) (c_X1_isCase G h0 N _ _ _) (cl_V (ci := 0) rfl rfl (lw_V q1416 q1418 qs50 q167 q1419) (hd_X1_isCase) ⟨Nat.le_of_ble_eq_true rfl, Nat.le_of_ble_eq_true rfl⟩ (List.mem_singleton.mp hka6) rfl rfl rfl (Nat.le_of_ble_eq_true rfl) dX1_caseOf_6) rfl (fun x4 σ5 => ?_)
  refine r_if_eq (q := 12) (t := 32) dX1_caseOf_9 rfl (by decide) (fun _ => ?_) (fun _ => ?_)
  · exact r_le (w_X1_caseOf_b32 G h0 N _ _) (Nat.le_refl _) (And.intro rfl trivial)
  · refine r_aload_n (q := 13) dX1_caseOf_12 rfl rfl rfl ?_
    refine r_iload_n (q := 14) dX1_caseOf_13 rfl rfl rfl ?_
    refine r_ob (fun a9 ha9 => ?_)
    obtain ⟨hea9, hka9⟩ := o_at_eq ha9
    cases hea9
    refine r_callI (q := 17) (c_X1_isPerson G h0 N _ _ _) (cl_V (ci := 0) rfl rfl (lw_V q1393 q1395 qs48 q167 q1396) (hd_X1_isPerson) ⟨Nat.le_of_ble_eq_true rfl, Nat.le_of_ble_eq_true rfl⟩ (List.mem_singleton.mp hka9) rfl rfl rfl (Nat.le_of_ble_eq_true rfl) dX1_caseOf_14) rfl (fun x7 σ8 => ?_)
    refine r_if_eq (q := 20) (t := 32) dX1_caseOf_17 rfl (by decide) (fun _ => ?_) (fun _ => ?_)
    · exact r_le (w_X1_caseOf_b32 G h0 N _ _) (Nat.le_refl _) (And.intro rfl trivial)
    · refine r_aload_n (q := 21) dX1_caseOf_20 rfl rfl rfl ?_
      refine r_gR (q := 24) fl_X1_104 rfl dX1_caseOf_21 rfl (fun x10 => ?_)
      refine r_iload_n (q := 25) dX1_caseOf_24 rfl rfl rfl ?_
      refine r_iload_n (q := 26) dX1_caseOf_25 rfl rfl rfl ?_
      refine r_ob (fun a13 ha13 => ?_)
      obtain ⟨hea13, hka13⟩ := o_at_eq ha13
      cases hea13
      refine r_callI (q := 29) (c_X8_storyOf G h0 N _ _ _ _) (cl_V (ci := 7) rfl rfl (lw_V q1420 q1421 q1422 q177 q1423) (hd_X8_storyOf) ⟨Nat.le_of_ble_eq_true rfl, Nat.le_of_ble_eq_true rfl⟩ (List.mem_singleton.mp hka13) rfl rfl rfl (Nat.le_of_ble_eq_true rfl) dX1_caseOf_26) rfl (fun x11 σ12 => ?_)
      refine r_goto (q := 37) dX1_caseOf_29 (by decide) ?_
      exact r_ireturn rfl rfl dX1_caseOf_37
theorem w_X7_isCase_b26 (G : Gx) (h0 : G0 G) (N : Nat)    (σ : Mem) : Runs G mX7_isCase rhoI σ 26 [none, none] [] (f_X7_isCase_b26 N   σ) := by
  unfold f_X7_isCase_b26
  refine r_iconst (q := 27) (v := (0 : Int32)) dX7_isCase_26 rfl (by decide) ?_
  exact r_ireturnN rfl dX7_isCase_27
theorem c_X7_isCase (G : Gx) (h0 : G0 G) (N : Nat) (a0 : Nat) (i1 : Int32) (σ : Mem) : Ct G mX7_isCase rhoI [vR (some a0), vI i1] σ (f_X7_isCase N a0 i1 σ) := by
  refine Ct_of h0 (by decide) rfl (Nat.le_of_ble_eq_true rfl) (L0 := [some (vR (some a0)), some (vI i1)]) rfl ?_
  unfold f_X7_isCase
  refine r_aload_n (q := 1) dX7_isCase_0 rfl rfl rfl ?_
  refine r_gR (q := 4) fl_X7_442 rfl dX7_isCase_1 rfl (fun x1 => ?_)
  refine r_ifnull (q := 7) (t := 26) dX7_isCase_4 rfl (by decide) (fun _ => ?_) (fun _ => ?_)
  · exact r_le (w_X7_isCase_b26 G h0 N  _) (Nat.le_refl _) trivial
  · refine r_iload_n (q := 8) dX7_isCase_7 rfl rfl rfl ?_
    refine r_if_lt (q := 11) (t := 26) dX7_isCase_8 rfl (by decide) (fun _ => ?_) (fun _ => ?_)
    · exact r_le (w_X7_isCase_b26 G h0 N  _) (Nat.le_refl _) trivial
    · refine r_iload_n (q := 12) dX7_isCase_11 rfl rfl rfl ?_
      refine r_aload_n (q := 13) dX7_isCase_12 rfl rfl rfl ?_
      refine r_gR (q := 16) fl_X7_442 rfl dX7_isCase_13 rfl (fun x2 => ?_)
      refine r_ob (fun a5 ha5 => ?_)
      obtain ⟨hea5, hka5⟩ := o_at_eq ha5
      cases hea5
      refine r_callI (q := 19) (c_X24_cases G h0 N _ _) (cl_V (ci := 20) rfl rfl (lw_V q2375 q2376 q2377 q199 q2378) (hd_X24_cases) ⟨Nat.le_of_ble_eq_true rfl, Nat.le_of_ble_eq_true rfl⟩ (List.mem_singleton.mp hka5) rfl rfl rfl (Nat.le_of_ble_eq_true rfl) dX7_isCase_16) rfl (fun x3 σ4 => ?_)
      refine r_icmp_ge (q := 22) (t := 26) dX7_isCase_19 rfl (by decide) (fun _ => ?_) (fun _ => ?_)
      · exact r_le (w_X7_isCase_b26 G h0 N  _) (Nat.le_refl _) trivial
      · refine r_iconst (q := 23) (v := (1 : Int32)) dX7_isCase_22 rfl (by decide) ?_
        refine r_goto (q := 27) dX7_isCase_23 (by decide) ?_
        exact r_ireturnN rfl dX7_isCase_27
theorem w_X24_storyOf_b50 (G : Gx) (h0 : G0 G) (N : Nat) (K19 : Nat → Int32 → Int32 → Int32 → Int32 → Mem → Option (Int32 × Mem)) (hK19 : ∀ (a0 : Nat) (l1 : Int32) (l2 : Int32) (l3 : Int32) (l4 : Int32) (σ : Mem), Runs G mX24_storyOf rhoI σ 19 [some (vR (some a0)), some (vI l1), some (vI l2), some (vI l3), some (vI l4)] [] (K19 a0 l1 l2 l3 l4 σ)) (a0 : Nat) (l1 : Int32) (l2 : Int32) (l4 : Int32) (t0 : Int32) (t1 : Int32) (σ : Mem) : Runs G mX24_storyOf rhoI σ 50 [some (vR (some a0)), some (vI l1), some (vI l2), none, some (vI l4)] [vI t1, vI t0] (f_X24_storyOf_b50 N K19 a0 l1 l2 l4 t0 t1 σ) := by
  unfold f_X24_storyOf_b50
  refine r_imul (q := 51) dX24_storyOf_50 rfl ?_
  refine r_istore_n (q := 52) dX24_storyOf_51 rfl rfl (Nat.le_of_ble_eq_true rfl) rfl ?_
  refine r_iinc (q := 55) (v := (1 : Int32)) dX24_storyOf_52 rfl rfl (by decide) (Nat.le_of_ble_eq_true rfl) rfl ?_
  refine r_goto (q := 19) dX24_storyOf_55 (by decide) ?_
  exact r_le (hK19 _ _ _ _ _ _) (Nat.le_refl _) (And.intro rfl (And.intro rfl (And.intro rfl (And.intro rfl (And.intro rfl trivial)))))
theorem w_X24_storyOf_b19B (G : Gx) (h0 : G0 G) (N : Nat)   (K19 : Nat → Int32 → Int32 → Int32 → Int32 → Mem → Option (Int32 × Mem)) (hK19 : ∀ (a0 : Nat) (l1 : Int32) (l2 : Int32) (l3 : Int32) (l4 : Int32) (σ : Mem), Runs G mX24_storyOf rhoI σ 19 [some (vR (some a0)), some (vI l1), some (vI l2), some (vI l3), some (vI l4)] [] (K19 a0 l1 l2 l3 l4 σ)) (a0 : Nat) (l1 : Int32) (l2 : Int32) (l3 : Int32) (l4 : Int32) (σ : Mem) : Runs G mX24_storyOf rhoI σ 19 [some (vR (some a0)), some (vI l1), some (vI l2), some (vI l3), some (vI l4)] [] (f_X24_storyOf_b19B N  K19 a0 l1 l2 l3 l4 σ) := by
  unfold f_X24_storyOf_b19B
  refine r_iload (q := 21) dX24_storyOf_19 rfl rfl ?_
  refine r_aload_n (q := 22) dX24_storyOf_21 rfl rfl rfl ?_
  refine r_gI (q := 25) fl_X24_95 dX24_storyOf_22 rfl (fun x1 => ?_)
  refine r_icmp_ge (q := 28) (t := 58) dX24_storyOf_25 rfl (by decide) (fun _ => ?_) (fun _ => ?_)
  · refine r_iload_n (q := 59) dX24_storyOf_58 rfl rfl rfl ?_
    refine r_iload_n (q := 60) dX24_storyOf_59 rfl rfl rfl ?_
    refine r_idiv (q := 61) dX24_storyOf_60 rfl (fun x2 _ => ?_)
    refine r_aload_n (q := 62) dX24_storyOf_61 rfl rfl rfl ?_
    refine r_gR (q := 65) fl_X24_21 rfl dX24_storyOf_62 rfl (fun x3 => ?_)
    refine r_iload_n (q := 66) dX24_storyOf_65 rfl rfl rfl ?_
    refine r_iaload (q := 67) dX24_storyOf_66 rfl (fun x4 => ?_)
    refine r_irem (q := 68) dX24_storyOf_67 rfl (fun x5 _ => ?_)
    exact r_ireturn rfl rfl dX24_storyOf_68
  · refine r_iload_n (q := 29) dX24_storyOf_28 rfl rfl rfl ?_
    refine r_aload_n (q := 30) dX24_storyOf_29 rfl rfl rfl ?_
    refine r_gR (q := 33) fl_X24_21 rfl dX24_storyOf_30 rfl (fun x6 => ?_)
    refine r_iload (q := 35) dX24_storyOf_33 rfl rfl ?_
    refine r_iaload (q := 36) dX24_storyOf_35 rfl (fun x7 => ?_)
    refine r_if_le (q := 39) (t := 49) dX24_storyOf_36 rfl (by decide) (fun _ => ?_) (fun _ => ?_)
    · refine r_iconst (q := 50) (v := (1 : Int32)) dX24_storyOf_49 rfl (by decide) ?_
      exact r_le (w_X24_storyOf_b50 G h0 N K19 hK19 _ _ _ _ _ _ _) (Nat.le_refl _) (And.intro rfl (And.intro rfl (And.intro rfl (And.intro rfl trivial))))
    · refine r_aload_n (q := 40) dX24_storyOf_39 rfl rfl rfl ?_
      refine r_gR (q := 43) fl_X24_21 rfl dX24_storyOf_40 rfl (fun x8 => ?_)
      refine r_iload (q := 45) dX24_storyOf_43 rfl rfl ?_
      refine r_iaload (q := 46) dX24_storyOf_45 rfl (fun x9 => ?_)
      refine r_goto (q := 50) dX24_storyOf_46 (by decide) ?_
      exact r_le (w_X24_storyOf_b50 G h0 N K19 hK19 _ _ _ _ _ _ _) (Nat.le_refl _) (And.intro rfl (And.intro rfl (And.intro rfl (And.intro rfl trivial))))
theorem w_X24_storyOf_b19 (G : Gx) (h0 : G0 G) (N : Nat)   : ∀ (z : Nat) (a0 : Nat) (l1 : Int32) (l2 : Int32) (l3 : Int32) (l4 : Int32) (σ : Mem), Runs G mX24_storyOf rhoI σ 19 [some (vR (some a0)), some (vI l1), some (vI l2), some (vI l3), some (vI l4)] [] (f_X24_storyOf_b19 N  z a0 l1 l2 l3 l4 σ) := by
  intro z
  induction z with
  | zero => exact fun _ _ _ _ _ _ => r_none
  | succ z ih => exact fun a0 l1 l2 l3 l4 σ => w_X24_storyOf_b19B G h0 N   _ ih a0 l1 l2 l3 l4 σ
theorem c_X24_storyOf (G : Gx) (h0 : G0 G) (N : Nat) (a0 : Nat) (i1 : Int32) (i2 : Int32) (σ : Mem) : Ct G mX24_storyOf rhoI [vR (some a0), vI i1, vI i2] σ (f_X24_storyOf N a0 i1 i2 σ) := by
  refine Ct_of h0 (by decide) rfl (Nat.le_of_ble_eq_true rfl) (L0 := [some (vR (some a0)), some (vI i1), some (vI i2), none, none]) rfl ?_
  unfold f_X24_storyOf
  refine r_aload_n (q := 1) dX24_storyOf_0 rfl rfl rfl ?_
  refine r_gR (q := 4) fl_X24_21 rfl dX24_storyOf_1 rfl (fun x1 => ?_)
  refine r_iload_n (q := 5) dX24_storyOf_4 rfl rfl rfl ?_
  refine r_iaload (q := 6) dX24_storyOf_5 rfl (fun x2 => ?_)
  refine r_if_ne (q := 9) (t := 12) dX24_storyOf_6 rfl (by decide) (fun _ => ?_) (fun _ => ?_)
  · refine r_bipush (q := 11) (v := (-2 : Int32)) dX24_storyOf_9 rfl (by decide) ?_
    exact r_ireturn rfl rfl dX24_storyOf_11
  · refine r_iconst (q := 13) (v := (1 : Int32)) dX24_storyOf_12 rfl (by decide) ?_
    refine r_istore_n (q := 14) dX24_storyOf_13 rfl rfl (Nat.le_of_ble_eq_true rfl) rfl ?_
    refine r_iload_n (q := 15) dX24_storyOf_14 rfl rfl rfl ?_
    refine r_iconst (q := 16) (v := (1 : Int32)) dX24_storyOf_15 rfl (by decide) ?_
    refine r_iadd (q := 17) dX24_storyOf_16 rfl ?_
    refine r_istore (q := 19) dX24_storyOf_17 rfl (Nat.le_of_ble_eq_true rfl) rfl ?_
    exact r_le (w_X24_storyOf_b19 G h0 N N _ _ _ _ _ _) (Nat.le_refl _) (And.intro rfl (And.intro rfl (And.intro rfl (And.intro rfl (And.intro rfl trivial)))))
theorem w_X7_caseOf_b37 (G : Gx) (h0 : G0 G) (N : Nat)   (a0 : Nat) (σ : Mem) : Runs G mX7_caseOf rhoI σ 37 [some (vR (some a0)), none, none] [] (f_X7_caseOf_b37 N  a0 σ) := by
  unfold f_X7_caseOf_b37
  refine r_aload_n (q := 38) dX7_caseOf_37 rfl rfl rfl ?_
  refine r_iconst (q := 39) (v := (1 : Int32)) dX7_caseOf_38 rfl (by decide) ?_
  refine r_ob (fun a3 ha3 => ?_)
  obtain ⟨hea3, hka3⟩ := o_at_eq ha3
  cases hea3
  refine r_callI (q := 42) (c_X7_refused G h0 N _ _ _) (cl_V (ci := 6) rfl rfl (lw_V q2019 q2021 qs83 q176 q2022) (hd_X7_refused) ⟨Nat.le_of_ble_eq_true rfl, Nat.le_of_ble_eq_true rfl⟩ (List.mem_singleton.mp hka3) rfl rfl rfl (Nat.le_of_ble_eq_true rfl) dX7_caseOf_39) rfl (fun x1 σ2 => ?_)
  exact r_ireturn rfl rfl dX7_caseOf_42
theorem c_X7_caseOf (G : Gx) (h0 : G0 G) (N : Nat) (a0 : Nat) (i1 : Int32) (i2 : Int32) (σ : Mem) : Ct G mX7_caseOf rhoI [vR (some a0), vI i1, vI i2] σ (f_X7_caseOf N a0 i1 i2 σ) := by
  refine Ct_of h0 (by decide) rfl (Nat.le_of_ble_eq_true rfl) (L0 := [some (vR (some a0)), some (vI i1), some (vI i2)]) rfl ?_
  unfold f_X7_caseOf
  refine r_aload_n (q := 1) dX7_caseOf_0 rfl rfl rfl ?_
  refine r_iconst (q := 2) (v := (0 : Int32)) dX7_caseOf_1 rfl (by decide) ?_
  refine r_pI (q := 5) fp_X7_caseOf_66 dX7_caseOf_2 rfl (fun σ1 => ?_)
  refine r_aload_n (q := 6) dX7_caseOf_5 rfl rfl rfl ?_
  refine r_iload_n (q := 7) dX7_caseOf_6 rfl rfl rfl ?_
  refine r_ob (fun a4 ha4 => ?_)
  obtain ⟨hea4, hka4⟩ := o_at_eq ha4
  cases hea4
  refine r_callI (q := 10) (c_X7_isCase G h0 N _ _ _) (cl_V (ci := 6) rfl rfl (lw_V q2455 q2457 qs126 q176 q2458) (hd_X7_isCase) ⟨Nat.le_of_ble_eq_true rfl, Nat.le_of_ble_eq_true rfl⟩ (List.mem_singleton.mp hka4) rfl rfl rfl (Nat.le_of_ble_eq_true rfl) dX7_caseOf_7) rfl (fun x2 σ3 => ?_)
  refine r_if_eq (q := 13) (t := 37) dX7_caseOf_10 rfl (by decide) (fun _ => ?_) (fun _ => ?_)
  · exact r_le (w_X7_caseOf_b37 G h0 N _ _) (Nat.le_refl _) (And.intro rfl trivial)
  · refine r_aload_n (q := 14) dX7_caseOf_13 rfl rfl rfl ?_
    refine r_iload_n (q := 15) dX7_caseOf_14 rfl rfl rfl ?_
    refine r_ob (fun a7 ha7 => ?_)
    obtain ⟨hea7, hka7⟩ := o_at_eq ha7
    cases hea7
    refine r_callI (q := 18) (c_X7_isPerson G h0 N _ _ _) (cl_V (ci := 6) rfl rfl (lw_V q2435 q2437 qs124 q176 q2438) (hd_X7_isPerson) ⟨Nat.le_of_ble_eq_true rfl, Nat.le_of_ble_eq_true rfl⟩ (List.mem_singleton.mp hka7) rfl rfl rfl (Nat.le_of_ble_eq_true rfl) dX7_caseOf_15) rfl (fun x5 σ6 => ?_)
    refine r_if_eq (q := 21) (t := 37) dX7_caseOf_18 rfl (by decide) (fun _ => ?_) (fun _ => ?_)
    · exact r_le (w_X7_caseOf_b37 G h0 N _ _) (Nat.le_refl _) (And.intro rfl trivial)
    · refine r_aload_n (q := 22) dX7_caseOf_21 rfl rfl rfl ?_
      refine r_aload_n (q := 23) dX7_caseOf_22 rfl rfl rfl ?_
      refine r_gR (q := 26) fl_X7_442 rfl dX7_caseOf_23 rfl (fun x8 => ?_)
      refine r_iload_n (q := 27) dX7_caseOf_26 rfl rfl rfl ?_
      refine r_iload_n (q := 28) dX7_caseOf_27 rfl rfl rfl ?_
      refine r_ob (fun a11 ha11 => ?_)
      obtain ⟨hea11, hka11⟩ := o_at_eq ha11
      cases hea11
      refine r_callI (q := 31) (c_X24_storyOf G h0 N _ _ _ _) (cl_V (ci := 20) rfl rfl (lw_V q2459 q2460 q2461 q199 q2462) (hd_X24_storyOf) ⟨Nat.le_of_ble_eq_true rfl, Nat.le_of_ble_eq_true rfl⟩ (List.mem_singleton.mp hka11) rfl rfl rfl (Nat.le_of_ble_eq_true rfl) dX7_caseOf_28) rfl (fun x9 σ10 => ?_)
      refine r_ob (fun a14 ha14 => ?_)
      obtain ⟨hea14, hka14⟩ := o_at_eq ha14
      cases hea14
      refine r_callI (q := 34) (c_X7_good G h0 N _ _ _) (cl_V (ci := 6) rfl rfl (lw_V q2379 q2381 qs118 q176 q2382) (hd_X7_good) ⟨Nat.le_of_ble_eq_true rfl, Nat.le_of_ble_eq_true rfl⟩ (List.mem_singleton.mp hka14) rfl rfl rfl (Nat.le_of_ble_eq_true rfl) dX7_caseOf_31) rfl (fun x12 σ13 => ?_)
      refine r_goto (q := 42) dX7_caseOf_34 (by decide) ?_
      exact r_ireturn rfl rfl dX7_caseOf_42
theorem w_X5_layPeople_b83 (G : Gx) (h0 : G0 G) (N : Nat) (K28 : Nat → Int32 → Int32 → Mem → Option (Unit × Mem)) (hK28 : ∀ (a0 : Nat) (l1 : Int32) (l2 : Int32) (σ : Mem), Runs G mX5_layPeople rhoV σ 28 [some (vR (some a0)), some (vI l1), some (vI l2), none] [] (K28 a0 l1 l2 σ)) (a0 : Nat) (l1 : Int32) (l2 : Int32) (σ : Mem) : Runs G mX5_layPeople rhoV σ 83 [some (vR (some a0)), some (vI l1), some (vI l2), none] [] (f_X5_layPeople_b83 N K28 a0 l1 l2 σ) := by
  unfold f_X5_layPeople_b83
  refine r_iinc (q := 86) (v := (1 : Int32)) dX5_layPeople_83 rfl rfl (by decide) (Nat.le_of_ble_eq_true rfl) rfl ?_
  refine r_goto (q := 28) dX5_layPeople_86 (by decide) ?_
  exact r_le (hK28 _ _ _ _) (Nat.le_refl _) (And.intro rfl (And.intro rfl (And.intro rfl trivial)))
theorem w_X5_layPeople_b28B (G : Gx) (h0 : G0 G) (N : Nat)   (K28 : Nat → Int32 → Int32 → Mem → Option (Unit × Mem)) (hK28 : ∀ (a0 : Nat) (l1 : Int32) (l2 : Int32) (σ : Mem), Runs G mX5_layPeople rhoV σ 28 [some (vR (some a0)), some (vI l1), some (vI l2), none] [] (K28 a0 l1 l2 σ)) (a0 : Nat) (l1 : Int32) (l2 : Int32) (σ : Mem) : Runs G mX5_layPeople rhoV σ 28 [some (vR (some a0)), some (vI l1), some (vI l2), none] [] (f_X5_layPeople_b28B N  K28 a0 l1 l2 σ) := by
  unfold f_X5_layPeople_b28B
  refine r_iload_n (q := 29) dX5_layPeople_28 rfl rfl rfl ?_
  refine r_aload_n (q := 30) dX5_layPeople_29 rfl rfl rfl ?_
  refine r_gR (q := 33) fl_X5_33 rfl dX5_layPeople_30 rfl (fun x1 => ?_)
  refine r_gI (q := 36) fl_X5_88 dX5_layPeople_33 rfl (fun x2 => ?_)
  refine r_icmp_ge (q := 39) (t := 89) dX5_layPeople_36 rfl (by decide) (fun _ => ?_) (fun _ => ?_)
  · exact r_return rfl dX5_layPeople_89
  · refine r_aload_n (q := 40) dX5_layPeople_39 rfl rfl rfl ?_
    refine r_gR (q := 43) fl_X5_33 rfl dX5_layPeople_40 rfl (fun x3 => ?_)
    refine r_iload_n (q := 44) dX5_layPeople_43 rfl rfl rfl ?_
    refine r_iload_n (q := 45) dX5_layPeople_44 rfl rfl rfl ?_
    refine r_ob (fun a6 ha6 => ?_)
    obtain ⟨hea6, hka6⟩ := o_at_eq ha6
    cases hea6
    refine r_callI (q := 48) (c_X8_storyOf G h0 N _ _ _ _) (cl_V (ci := 7) rfl rfl (lw_V q1443 q1421 q1422 q177 q1423) (hd_X8_storyOf) ⟨Nat.le_of_ble_eq_true rfl, Nat.le_of_ble_eq_true rfl⟩ (List.mem_singleton.mp hka6) rfl rfl rfl (Nat.le_of_ble_eq_true rfl) dX5_layPeople_45) rfl (fun x4 σ5 => ?_)
    refine r_istore_n (q := 49) dX5_layPeople_48 rfl rfl (Nat.le_of_ble_eq_true rfl) rfl ?_
    refine r_iload_n (q := 50) dX5_layPeople_49 rfl rfl rfl ?_
    refine r_bipush (q := 52) (v := (-2 : Int32)) dX5_layPeople_50 rfl (by decide) ?_
    refine r_icmp_eq (q := 55) (t := 83) dX5_layPeople_52 rfl (by decide) (fun _ => ?_) (fun _ => ?_)
    · exact r_le (w_X5_layPeople_b83 G h0 N K28 hK28 _ _ _ _) (Nat.le_refl _) (And.intro rfl (And.intro rfl (And.intro rfl trivial)))
    · refine r_aload_n (q := 56) dX5_layPeople_55 rfl rfl rfl ?_
      refine r_gR (q := 59) fl_X5_30 rfl dX5_layPeople_56 rfl (fun x7 => ?_)
      refine r_aload_n (q := 60) dX5_layPeople_59 rfl rfl rfl ?_
      refine r_gR (q := 63) fl_X5_33 rfl dX5_layPeople_60 rfl (fun x8 => ?_)
      refine r_gR (q := 66) fl_X5_95 rfl dX5_layPeople_63 rfl (fun x9 => ?_)
      refine r_iload_n (q := 67) dX5_layPeople_66 rfl rfl rfl ?_
      refine r_aaload (q := 68) (k0 := 7) (by decide) dX5_layPeople_67 rfl (fun x10 => ?_)
      refine r_iload_n (q := 69) dX5_layPeople_68 rfl rfl rfl ?_
      refine r_aload_n (q := 70) dX5_layPeople_69 rfl rfl rfl ?_
      refine r_gI (q := 73) fl_X5_74 dX5_layPeople_70 rfl (fun x11 => ?_)
      refine r_ob (fun a14 ha14 => ?_)
      obtain ⟨hea14, hka14⟩ := o_at_eq ha14
      cases hea14
      refine r_callI (q := 76) (c_X11_at G h0 N _ _ _ _) (cl_V (ci := 9) rfl rfl (lw_V q1444 q1402 q1403 q185 q1404) (hd_X11_at) ⟨Nat.le_of_ble_eq_true rfl, Nat.le_of_ble_eq_true rfl⟩ (List.mem_singleton.mp hka14) rfl rfl rfl (Nat.le_of_ble_eq_true rfl) dX5_layPeople_73) rfl (fun x12 σ13 => ?_)
      refine r_dup2 (q := 77) dX5_layPeople_76 rfl rfl rfl ?_
      refine r_iaload (q := 78) dX5_layPeople_77 rfl (fun x15 => ?_)
      refine r_iconst (q := 79) (v := (1 : Int32)) dX5_layPeople_78 rfl (by decide) ?_
      refine r_iload_n (q := 80) dX5_layPeople_79 rfl rfl rfl ?_
      refine r_ishl (q := 81) dX5_layPeople_80 rfl ?_
      refine r_ior (q := 82) dX5_layPeople_81 rfl ?_
      refine r_iastore (q := 83) dX5_layPeople_82 rfl (fun σ16 => ?_)
      exact r_le (w_X5_layPeople_b83 G h0 N K28 hK28 _ _ _ _) (Nat.le_refl _) (And.intro rfl (And.intro rfl (And.intro rfl trivial)))
theorem w_X5_layPeople_b28 (G : Gx) (h0 : G0 G) (N : Nat)   : ∀ (z : Nat) (a0 : Nat) (l1 : Int32) (l2 : Int32) (σ : Mem), Runs G mX5_layPeople rhoV σ 28 [some (vR (some a0)), some (vI l1), some (vI l2), none] [] (f_X5_layPeople_b28 N  z a0 l1 l2 σ) := by
  intro z
  induction z with
  | zero => exact fun _ _ _ _ => r_none
  | succ z ih => exact fun a0 l1 l2 σ => w_X5_layPeople_b28B G h0 N   _ ih a0 l1 l2 σ
theorem w_X5_layPeople_b2B (G : Gx) (h0 : G0 G) (N : Nat)   (K2 : Nat → Int32 → Int32 → Mem → Option (Unit × Mem)) (hK2 : ∀ (a0 : Nat) (l1 : Int32) (l2 : Int32) (σ : Mem), Runs G mX5_layPeople rhoV σ 2 [some (vR (some a0)), some (vI l1), some (vI l2), none] [] (K2 a0 l1 l2 σ)) (a0 : Nat) (l1 : Int32) (l2 : Int32) (σ : Mem) : Runs G mX5_layPeople rhoV σ 2 [some (vR (some a0)), some (vI l1), some (vI l2), none] [] (f_X5_layPeople_b2B N  K2 a0 l1 l2 σ) := by
  unfold f_X5_layPeople_b2B
  refine r_iload_n (q := 3) dX5_layPeople_2 rfl rfl rfl ?_
  refine r_aload_n (q := 4) dX5_layPeople_3 rfl rfl rfl ?_
  refine r_gR (q := 7) fl_X5_33 rfl dX5_layPeople_4 rfl (fun x1 => ?_)
  refine r_gI (q := 10) fl_X5_41 dX5_layPeople_7 rfl (fun x2 => ?_)
  refine r_icmp_ge (q := 13) (t := 26) dX5_layPeople_10 rfl (by decide) (fun _ => ?_) (fun _ => ?_)
  · refine r_iconst (q := 27) (v := (0 : Int32)) dX5_layPeople_26 rfl (by decide) ?_
    refine r_istore_n (q := 28) dX5_layPeople_27 rfl rfl (Nat.le_of_ble_eq_true rfl) rfl ?_
    exact r_le (w_X5_layPeople_b28 G h0 N N _ _ _ _) (Nat.le_refl _) (And.intro rfl (And.intro rfl (And.intro rfl trivial)))
  · refine r_aload_n (q := 14) dX5_layPeople_13 rfl rfl rfl ?_
    refine r_gR (q := 17) fl_X5_30 rfl dX5_layPeople_14 rfl (fun x3 => ?_)
    refine r_iload_n (q := 18) dX5_layPeople_17 rfl rfl rfl ?_
    refine r_iconst (q := 19) (v := (0 : Int32)) dX5_layPeople_18 rfl (by decide) ?_
    refine r_iastore (q := 20) dX5_layPeople_19 rfl (fun σ4 => ?_)
    refine r_iinc (q := 23) (v := (1 : Int32)) dX5_layPeople_20 rfl rfl (by decide) (Nat.le_of_ble_eq_true rfl) rfl ?_
    refine r_goto (q := 2) dX5_layPeople_23 (by decide) ?_
    exact r_le (hK2 _ _ _ _) (Nat.le_refl _) (And.intro rfl (And.intro rfl (And.intro rfl trivial)))
theorem w_X5_layPeople_b2 (G : Gx) (h0 : G0 G) (N : Nat)   : ∀ (z : Nat) (a0 : Nat) (l1 : Int32) (l2 : Int32) (σ : Mem), Runs G mX5_layPeople rhoV σ 2 [some (vR (some a0)), some (vI l1), some (vI l2), none] [] (f_X5_layPeople_b2 N  z a0 l1 l2 σ) := by
  intro z
  induction z with
  | zero => exact fun _ _ _ _ => r_none
  | succ z ih => exact fun a0 l1 l2 σ => w_X5_layPeople_b2B G h0 N   _ ih a0 l1 l2 σ
theorem c_X5_layPeople (G : Gx) (h0 : G0 G) (N : Nat) (a0 : Nat) (i1 : Int32) (σ : Mem) : Ct G mX5_layPeople rhoV [vR (some a0), vI i1] σ (f_X5_layPeople N a0 i1 σ) := by
  refine Ct_of h0 (by decide) rfl (Nat.le_of_ble_eq_true rfl) (L0 := [some (vR (some a0)), some (vI i1), none, none]) rfl ?_
  unfold f_X5_layPeople
  refine r_iconst (q := 1) (v := (0 : Int32)) dX5_layPeople_0 rfl (by decide) ?_
  refine r_istore_n (q := 2) dX5_layPeople_1 rfl rfl (Nat.le_of_ble_eq_true rfl) rfl ?_
  exact r_le (w_X5_layPeople_b2 G h0 N N _ _ _ _) (Nat.le_refl _) (And.intro rfl (And.intro rfl (And.intro rfl trivial)))
theorem w_X5_isOpen_b33 (G : Gx) (h0 : G0 G) (N : Nat)    (σ : Mem) : Runs G mX5_isOpen rhoI σ 33 [none, none, none, none] [] (f_X5_isOpen_b33 N   σ) := by
  unfold f_X5_isOpen_b33
  refine r_iconst (q := 34) (v := (0 : Int32)) dX5_isOpen_33 rfl (by decide) ?_
  exact r_ireturnN rfl dX5_isOpen_34
theorem c_X5_isOpen (G : Gx) (h0 : G0 G) (N : Nat) (a0 : Nat) (i1 : Int32) (i2 : Int32) (σ : Mem) : Ct G mX5_isOpen rhoI [vR (some a0), vI i1, vI i2] σ (f_X5_isOpen N a0 i1 i2 σ) := by
  refine Ct_of h0 (by decide) rfl (Nat.le_of_ble_eq_true rfl) (L0 := [some (vR (some a0)), some (vI i1), some (vI i2), none]) rfl ?_
  unfold f_X5_isOpen
  refine r_aload_n (q := 1) dX5_isOpen_0 rfl rfl rfl ?_
  refine r_gR (q := 4) fl_X5_33 rfl dX5_isOpen_1 rfl (fun x1 => ?_)
  refine r_iload_n (q := 5) dX5_isOpen_4 rfl rfl rfl ?_
  refine r_iload_n (q := 6) dX5_isOpen_5 rfl rfl rfl ?_
  refine r_ob (fun a4 ha4 => ?_)
  obtain ⟨hea4, hka4⟩ := o_at_eq ha4
  cases hea4
  refine r_callI (q := 9) (c_X8_path G h0 N _ _ _ _) (cl_V (ci := 7) rfl rfl (lw_V q1454 q936 q937 q177 q938) (hd_X8_path) ⟨Nat.le_of_ble_eq_true rfl, Nat.le_of_ble_eq_true rfl⟩ (List.mem_singleton.mp hka4) rfl rfl rfl (Nat.le_of_ble_eq_true rfl) dX5_isOpen_6) rfl (fun x2 σ3 => ?_)
  refine r_istore_n (q := 10) dX5_isOpen_9 rfl rfl (Nat.le_of_ble_eq_true rfl) rfl ?_
  refine r_iload_n (q := 11) dX5_isOpen_10 rfl rfl rfl ?_
  refine r_iconst (q := 12) (v := (-1 : Int32)) dX5_isOpen_11 rfl (by decide) ?_
  refine r_icmp_eq (q := 15) (t := 33) dX5_isOpen_12 rfl (by decide) (fun _ => ?_) (fun _ => ?_)
  · exact r_le (w_X5_isOpen_b33 G h0 N  _) (Nat.le_refl _) trivial
  · refine r_aload_n (q := 16) dX5_isOpen_15 rfl rfl rfl ?_
    refine r_gR (q := 19) fl_X5_37 rfl dX5_isOpen_16 rfl (fun x5 => ?_)
    refine r_gI (q := 22) fl_X5_115 dX5_isOpen_19 rfl (fun x6 => ?_)
    refine r_iload_n (q := 23) dX5_isOpen_22 rfl rfl rfl ?_
    refine r_callI (q := 26) (c_X1_has G h0 N _ _ _) (cl_SN rfl rfl q1455 q1117 q167 q1118 (hd_X1_has) ⟨Nat.le_of_ble_eq_true rfl, Nat.le_of_ble_eq_true rfl⟩ rfl (Nat.le_of_ble_eq_true rfl) dX5_isOpen_23) rfl (fun x7 σ8 => ?_)
    refine r_if_ne (q := 29) (t := 33) dX5_isOpen_26 rfl (by decide) (fun _ => ?_) (fun _ => ?_)
    · refine r_iconst (q := 30) (v := (1 : Int32)) dX5_isOpen_29 rfl (by decide) ?_
      refine r_goto (q := 34) dX5_isOpen_30 (by decide) ?_
      exact r_ireturnN rfl dX5_isOpen_34
    · exact r_le (w_X5_isOpen_b33 G h0 N  _) (Nat.le_refl _) trivial
theorem w_X4_isPut_b15 (G : Gx) (h0 : G0 G) (N : Nat)   (l1 : Int32) (l2 : Int32) (t0 : Option Nat) (σ : Mem) : Runs G mX4_isPut rhoI σ 15 [none, some (vI l1), some (vI l2), none] [vR t0] (f_X4_isPut_b15 N  l1 l2 t0 σ) := by
  unfold f_X4_isPut_b15
  refine r_iload_n (q := 16) dX4_isPut_15 rfl rfl rfl ?_
  refine r_iaload (q := 17) dX4_isPut_16 rfl (fun x1 => ?_)
  refine r_iload_n (q := 18) dX4_isPut_17 rfl rfl rfl ?_
  refine r_callI (q := 21) (c_X1_has G h0 N _ _ _) (cl_SN rfl rfl q1472 q1117 q167 q1118 (hd_X1_has) ⟨Nat.le_of_ble_eq_true rfl, Nat.le_of_ble_eq_true rfl⟩ rfl (Nat.le_of_ble_eq_true rfl) dX4_isPut_18) rfl (fun x2 σ3 => ?_)
  exact r_ireturnN rfl dX4_isPut_21
theorem c_X4_isPut (G : Gx) (h0 : G0 G) (N : Nat) (a0 : Nat) (i1 : Int32) (i2 : Int32) (i3 : Int32) (σ : Mem) : Ct G mX4_isPut rhoI [vR (some a0), vI i1, vI i2, vI i3] σ (f_X4_isPut N a0 i1 i2 i3 σ) := by
  refine Ct_of h0 (by decide) rfl (Nat.le_of_ble_eq_true rfl) (L0 := [some (vR (some a0)), some (vI i1), some (vI i2), some (vI i3)]) rfl ?_
  unfold f_X4_isPut
  refine r_iload_n (q := 1) dX4_isPut_0 rfl rfl rfl ?_
  refine r_if_eq (q := 4) (t := 11) dX4_isPut_1 rfl (by decide) (fun _ => ?_) (fun _ => ?_)
  · refine r_aload_n (q := 12) dX4_isPut_11 rfl rfl rfl ?_
    refine r_gR (q := 15) fl_X4_9 rfl dX4_isPut_12 rfl (fun x1 => ?_)
    exact r_le (w_X4_isPut_b15 G h0 N _ _ _ _) (Nat.le_refl _) (And.intro rfl (And.intro rfl trivial))
  · refine r_aload_n (q := 5) dX4_isPut_4 rfl rfl rfl ?_
    refine r_gR (q := 8) fl_X4_15 rfl dX4_isPut_5 rfl (fun x2 => ?_)
    refine r_goto (q := 15) dX4_isPut_8 (by decide) ?_
    exact r_le (w_X4_isPut_b15 G h0 N _ _ _ _) (Nat.le_refl _) (And.intro rfl (And.intro rfl trivial))
theorem w_X12_fearsAt_b13 (G : Gx) (h0 : G0 G) (N : Nat)    (σ : Mem) : Runs G mX12_fearsAt rhoI σ 13 [none, none, none] [] (f_X12_fearsAt_b13 N   σ) := by
  unfold f_X12_fearsAt_b13
  refine r_iconst (q := 14) (v := (1 : Int32)) dX12_fearsAt_13 rfl (by decide) ?_
  refine r_goto (q := 18) dX12_fearsAt_14 (by decide) ?_
  exact r_ireturnN rfl dX12_fearsAt_18
theorem c_X12_fearsAt (G : Gx) (h0 : G0 G) (N : Nat) (a0 : Nat) (i1 : Int32) (i2 : Int32) (σ : Mem) : Ct G mX12_fearsAt rhoI [vR (some a0), vI i1, vI i2] σ (f_X12_fearsAt N a0 i1 i2 σ) := by
  refine Ct_of h0 (by decide) rfl (Nat.le_of_ble_eq_true rfl) (L0 := [some (vR (some a0)), some (vI i1), some (vI i2)]) rfl ?_
  unfold f_X12_fearsAt
  refine r_iload_n (q := 1) dX12_fearsAt_0 rfl rfl rfl ?_
  refine r_if_ne (q := 4) (t := 13) dX12_fearsAt_1 rfl (by decide) (fun _ => ?_) (fun _ => ?_)
  · refine r_iload_n (q := 5) dX12_fearsAt_4 rfl rfl rfl ?_
    refine r_aload_n (q := 6) dX12_fearsAt_5 rfl rfl rfl ?_
    refine r_gI (q := 9) fl_X12_15 dX12_fearsAt_6 rfl (fun x1 => ?_)
    refine r_iand (q := 10) dX12_fearsAt_9 rfl ?_
    refine r_if_eq (q := 13) (t := 17) dX12_fearsAt_10 rfl (by decide) (fun _ => ?_) (fun _ => ?_)
    · refine r_iconst (q := 18) (v := (0 : Int32)) dX12_fearsAt_17 rfl (by decide) ?_
      exact r_ireturnN rfl dX12_fearsAt_18
    · exact r_le (w_X12_fearsAt_b13 G h0 N  _) (Nat.le_refl _) trivial
  · exact r_le (w_X12_fearsAt_b13 G h0 N  _) (Nat.le_refl _) trivial
theorem w_X14_fearsAt_b8 (G : Gx) (h0 : G0 G) (N : Nat)    (σ : Mem) : Runs G mX14_fearsAt rhoI σ 8 [none, none, none] [] (f_X14_fearsAt_b8 N   σ) := by
  unfold f_X14_fearsAt_b8
  refine r_iconst (q := 9) (v := (1 : Int32)) dX14_fearsAt_8 rfl (by decide) ?_
  refine r_goto (q := 13) dX14_fearsAt_9 (by decide) ?_
  exact r_ireturnN rfl dX14_fearsAt_13
theorem c_X14_fearsAt (G : Gx) (h0 : G0 G) (N : Nat) (a0 : Nat) (i1 : Int32) (i2 : Int32) (σ : Mem) : Ct G mX14_fearsAt rhoI [vR (some a0), vI i1, vI i2] σ (f_X14_fearsAt N a0 i1 i2 σ) := by
  refine Ct_of h0 (by decide) rfl (Nat.le_of_ble_eq_true rfl) (L0 := [some (vR (some a0)), some (vI i1), some (vI i2)]) rfl ?_
  unfold f_X14_fearsAt
  refine r_iload_n (q := 1) dX14_fearsAt_0 rfl rfl rfl ?_
  refine r_if_ne (q := 4) (t := 8) dX14_fearsAt_1 rfl (by decide) (fun _ => ?_) (fun _ => ?_)
  · refine r_iload_n (q := 5) dX14_fearsAt_4 rfl rfl rfl ?_
    refine r_if_eq (q := 8) (t := 12) dX14_fearsAt_5 rfl (by decide) (fun _ => ?_) (fun _ => ?_)
    · refine r_iconst (q := 13) (v := (0 : Int32)) dX14_fearsAt_12 rfl (by decide) ?_
      exact r_ireturnN rfl dX14_fearsAt_13
    · exact r_le (w_X14_fearsAt_b8 G h0 N  _) (Nat.le_refl _) trivial
  · exact r_le (w_X14_fearsAt_b8 G h0 N  _) (Nat.le_refl _) trivial
theorem c_X15_fearsAt (G : Gx) (h0 : G0 G) (N : Nat) (a0 : Nat) (i1 : Int32) (i2 : Int32) (σ : Mem) : Ct G mX15_fearsAt rhoI [vR (some a0), vI i1, vI i2] σ (f_X15_fearsAt N a0 i1 i2 σ) := by
  refine Ct_of h0 (by decide) rfl (Nat.le_of_ble_eq_true rfl) (L0 := [some (vR (some a0)), some (vI i1), some (vI i2)]) rfl ?_
  unfold f_X15_fearsAt
  refine r_iconst (q := 1) (v := (0 : Int32)) dX15_fearsAt_0 rfl (by decide) ?_
  exact r_ireturnN rfl dX15_fearsAt_1
theorem c_X5_isFeared (G : Gx) (h0 : G0 G) (N : Nat) (a0 : Nat) (o1 : Option Nat) (i2 : Int32) (σ : Mem) : Ct G mX5_isFeared rhoI [vR (some a0), vR o1, vI i2] σ (f_X5_isFeared N a0 o1 i2 σ) := by
  refine Ct_of h0 (by decide) rfl (Nat.le_of_ble_eq_true rfl) (L0 := [some (vR (some a0)), some (vR o1), some (vI i2)]) rfl ?_
  unfold f_X5_isFeared
  refine r_aload_n (q := 1) dX5_isFeared_0 rfl rfl rfl ?_
  refine r_aload_n (q := 2) dX5_isFeared_1 rfl rfl rfl ?_
  refine r_gR (q := 5) fl_X5_30 rfl dX5_isFeared_2 rfl (fun x1 => ?_)
  refine r_iload_n (q := 6) dX5_isFeared_5 rfl rfl rfl ?_
  refine r_iaload (q := 7) dX5_isFeared_6 rfl (fun x2 => ?_)
  refine r_aload_n (q := 8) dX5_isFeared_7 rfl rfl rfl ?_
  refine r_gR (q := 11) fl_X5_37 rfl dX5_isFeared_8 rfl (fun x3 => ?_)
  refine r_iload_n (q := 12) dX5_isFeared_11 rfl rfl rfl ?_
  refine r_aload_n (q := 13) dX5_isFeared_12 rfl rfl rfl ?_
  refine r_gI (q := 16) fl_X5_74 dX5_isFeared_13 rfl (fun x4 => ?_)
  refine r_iconst (q := 17) (v := (1 : Int32)) dX5_isFeared_16 rfl (by decide) ?_
  refine r_ob (fun a7 ha7 => ?_)
  obtain ⟨hea7, hka7⟩ := o_at_eq ha7
  cases hea7
  refine r_callI (q := 20) (c_X4_isPut G h0 N _ _ _ _ _) (cl_V (ci := 3) rfl rfl (lw_V q1468 q1469 q1470 q173 q1471) (hd_X4_isPut) ⟨Nat.le_of_ble_eq_true rfl, Nat.le_of_ble_eq_true rfl⟩ (List.mem_singleton.mp hka7) rfl rfl rfl (Nat.le_of_ble_eq_true rfl) dX5_isFeared_17) rfl (fun x5 σ6 => ?_)
  refine r_ob (fun a10 ha10 => ?_)
  obtain ⟨hea10, hka10⟩ := o_at_eq ha10
  cases hea10
  refine r_callKI (q := 23) (Cb_ite (fun hq0 => ⟨_, _, (c_X12_fearsAt G h0 N _ _ _ _), (cl_U (n := 2) (ci := 10) (x := ⟨"GoatCourt$Goat", "fearsAt", "(IZ)Z"⟩) (owner := "GoatCourt$Goat") rfl rfl q1473 q1475 (Or.inr ⟨_, _, _, q1474, q1484⟩) q1480 q1474 q186 q1484 ⟨by decide, by decide, by decide +kernel⟩ ⟨Nat.le_of_ble_eq_true rfl, Nat.le_of_ble_eq_true rfl⟩ hq0 rfl rfl (Nat.le_of_ble_eq_true rfl) dX5_isFeared_20)⟩) (fun hq0 => Cb_ite (fun hq1 => ⟨_, _, (c_X14_fearsAt G h0 N _ _ _ _), (cl_U (n := 2) (ci := 11) (x := ⟨"GoatCourt$Goat", "fearsAt", "(IZ)Z"⟩) (owner := "GoatCourt$Goat") rfl rfl q1473 q1475 (Or.inr ⟨_, _, _, q1474, q1484⟩) q1481 q1482 q188 q1483 ⟨by decide, by decide, by decide +kernel⟩ ⟨Nat.le_of_ble_eq_true rfl, Nat.le_of_ble_eq_true rfl⟩ hq1 rfl rfl (Nat.le_of_ble_eq_true rfl) dX5_isFeared_20)⟩) (fun hq1 => Cb_ite (fun hq2 => ⟨_, _, (c_X15_fearsAt G h0 N _ _ _ _), (cl_U (n := 2) (ci := 12) (x := ⟨"GoatCourt$Goat", "fearsAt", "(IZ)Z"⟩) (owner := "GoatCourt$Goat") rfl rfl q1473 q1475 (Or.inr ⟨_, _, _, q1474, q1484⟩) q1476 q1477 q189 q1478 ⟨by decide, by decide, by decide +kernel⟩ ⟨Nat.le_of_ble_eq_true rfl, Nat.le_of_ble_eq_true rfl⟩ hq2 rfl rfl (Nat.le_of_ble_eq_true rfl) dX5_isFeared_20)⟩) (fun hq2 => ⟨_, _, (c_X12_fearsAt G h0 N _ _ _ _), (cl_U (n := 2) (ci := 13) (x := ⟨"GoatCourt$Goat", "fearsAt", "(IZ)Z"⟩) (owner := "GoatCourt$Goat") rfl rfl q1473 q1475 (Or.inr ⟨_, _, _, q1474, q1484⟩) q1479 q1474 q186 q1484 ⟨by decide, by decide, by decide +kernel⟩ ⟨Nat.le_of_ble_eq_true rfl, Nat.le_of_ble_eq_true rfl⟩ (by simp only [List.mem_cons, List.not_mem_nil, or_false] at hka10; omega) rfl rfl (Nat.le_of_ble_eq_true rfl) dX5_isFeared_20)⟩)))) rfl (fun x8 σ9 => ?_)
  exact r_ireturnN rfl dX5_isFeared_23
theorem w_X5_canGo_b30 (G : Gx) (h0 : G0 G) (N : Nat)    (σ : Mem) : Runs G mX5_canGo rhoI σ 30 [none, none, none] [] (f_X5_canGo_b30 N   σ) := by
  unfold f_X5_canGo_b30
  refine r_iconst (q := 31) (v := (0 : Int32)) dX5_canGo_30 rfl (by decide) ?_
  exact r_ireturnN rfl dX5_canGo_31
theorem c_X5_canGo (G : Gx) (h0 : G0 G) (N : Nat) (a0 : Nat) (o1 : Option Nat) (i2 : Int32) (σ : Mem) : Ct G mX5_canGo rhoI [vR (some a0), vR o1, vI i2] σ (f_X5_canGo N a0 o1 i2 σ) := by
  refine Ct_of h0 (by decide) rfl (Nat.le_of_ble_eq_true rfl) (L0 := [some (vR (some a0)), some (vR o1), some (vI i2)]) rfl ?_
  unfold f_X5_canGo
  refine r_aload_n (q := 1) dX5_canGo_0 rfl rfl rfl ?_
  refine r_aload_n (q := 2) dX5_canGo_1 rfl rfl rfl ?_
  refine r_gR (q := 5) fl_X5_15 rfl dX5_canGo_2 rfl (fun x1 => ?_)
  refine r_aload_n (q := 6) dX5_canGo_5 rfl rfl rfl ?_
  refine r_gI (q := 9) fl_X5_122 dX5_canGo_6 rfl (fun x2 => ?_)
  refine r_iaload (q := 10) dX5_canGo_9 rfl (fun x3 => ?_)
  refine r_iload_n (q := 11) dX5_canGo_10 rfl rfl rfl ?_
  refine r_ob (fun a6 ha6 => ?_)
  obtain ⟨hea6, hka6⟩ := o_at_eq ha6
  cases hea6
  refine r_callI (q := 14) (c_X5_isOpen G h0 N _ _ _ _) (cl_V (ci := 4) rfl rfl (lw_V q1450 q1452 qs54 q174 q1453) (hd_X5_isOpen) ⟨Nat.le_of_ble_eq_true rfl, Nat.le_of_ble_eq_true rfl⟩ (List.mem_singleton.mp hka6) rfl rfl rfl (Nat.le_of_ble_eq_true rfl) dX5_canGo_11) rfl (fun x4 σ5 => ?_)
  refine r_if_eq (q := 17) (t := 30) dX5_canGo_14 rfl (by decide) (fun _ => ?_) (fun _ => ?_)
  · exact r_le (w_X5_canGo_b30 G h0 N  _) (Nat.le_refl _) trivial
  · refine r_aload_n (q := 18) dX5_canGo_17 rfl rfl rfl ?_
    refine r_aload_n (q := 19) dX5_canGo_18 rfl rfl rfl ?_
    refine r_iload_n (q := 20) dX5_canGo_19 rfl rfl rfl ?_
    refine r_ob (fun a9 ha9 => ?_)
    obtain ⟨hea9, hka9⟩ := o_at_eq ha9
    cases hea9
    refine r_callI (q := 23) (c_X5_isFeared G h0 N _ _ _ _) (cl_V (ci := 4) rfl rfl (lw_V q1464 q1466 qs57 q174 q1467) (hd_X5_isFeared) ⟨Nat.le_of_ble_eq_true rfl, Nat.le_of_ble_eq_true rfl⟩ (List.mem_singleton.mp hka9) rfl rfl rfl (Nat.le_of_ble_eq_true rfl) dX5_canGo_20) rfl (fun x7 σ8 => ?_)
    refine r_if_ne (q := 26) (t := 30) dX5_canGo_23 rfl (by decide) (fun _ => ?_) (fun _ => ?_)
    · refine r_iconst (q := 27) (v := (1 : Int32)) dX5_canGo_26 rfl (by decide) ?_
      refine r_goto (q := 31) dX5_canGo_27 (by decide) ?_
      exact r_ireturnN rfl dX5_canGo_31
    · exact r_le (w_X5_canGo_b30 G h0 N  _) (Nat.le_refl _) trivial
theorem w_X12_rank_b2B (G : Gx) (h0 : G0 G) (N : Nat)   (K2 : Nat → Option Nat → Int32 → Int32 → Mem → Option (Int32 × Mem)) (hK2 : ∀ (a0 : Nat) (l1 : Option Nat) (l2 : Int32) (l3 : Int32) (σ : Mem), Runs G mX12_rank rhoI σ 2 [some (vR (some a0)), some (vR l1), some (vI l2), some (vI l3)] [] (K2 a0 l1 l2 l3 σ)) (a0 : Nat) (l1 : Option Nat) (l2 : Int32) (l3 : Int32) (σ : Mem) : Runs G mX12_rank rhoI σ 2 [some (vR (some a0)), some (vR l1), some (vI l2), some (vI l3)] [] (f_X12_rank_b2B N  K2 a0 l1 l2 l3 σ) := by
  unfold f_X12_rank_b2B
  refine r_iload_n (q := 3) dX12_rank_2 rfl rfl rfl ?_
  refine r_aload_n (q := 4) dX12_rank_3 rfl rfl rfl ?_
  refine r_gI (q := 7) fl_X12_19 dX12_rank_4 rfl (fun x1 => ?_)
  refine r_icmp_ge (q := 10) (t := 33) dX12_rank_7 rfl (by decide) (fun _ => ?_) (fun _ => ?_)
  · refine r_bipush (q := 35) (v := (9 : Int32)) dX12_rank_33 rfl (by decide) ?_
    exact r_ireturn rfl rfl dX12_rank_35
  · refine r_aload_n (q := 11) dX12_rank_10 rfl rfl rfl ?_
    refine r_iconst (q := 12) (v := (4 : Int32)) dX12_rank_11 rfl (by decide) ?_
    refine r_iload_n (q := 13) dX12_rank_12 rfl rfl rfl ?_
    refine r_imul (q := 14) dX12_rank_13 rfl ?_
    refine r_aload_n (q := 15) dX12_rank_14 rfl rfl rfl ?_
    refine r_gR (q := 18) fl_X12_9 rfl dX12_rank_15 rfl (fun x2 => ?_)
    refine r_iload_n (q := 19) dX12_rank_18 rfl rfl rfl ?_
    refine r_iaload (q := 20) dX12_rank_19 rfl (fun x3 => ?_)
    refine r_iadd (q := 21) dX12_rank_20 rfl ?_
    refine r_iaload (q := 22) dX12_rank_21 rfl (fun x4 => ?_)
    refine r_if_le (q := 25) (t := 27) dX12_rank_22 rfl (by decide) (fun _ => ?_) (fun _ => ?_)
    · refine r_iinc (q := 30) (v := (1 : Int32)) dX12_rank_27 rfl rfl (by decide) (Nat.le_of_ble_eq_true rfl) rfl ?_
      refine r_goto (q := 2) dX12_rank_30 (by decide) ?_
      exact r_le (hK2 _ _ _ _ _) (Nat.le_refl _) (And.intro rfl (And.intro rfl (And.intro rfl (And.intro rfl trivial))))
    · refine r_iload_n (q := 26) dX12_rank_25 rfl rfl rfl ?_
      exact r_ireturn rfl rfl dX12_rank_26
theorem w_X12_rank_b2 (G : Gx) (h0 : G0 G) (N : Nat)   : ∀ (z : Nat) (a0 : Nat) (l1 : Option Nat) (l2 : Int32) (l3 : Int32) (σ : Mem), Runs G mX12_rank rhoI σ 2 [some (vR (some a0)), some (vR l1), some (vI l2), some (vI l3)] [] (f_X12_rank_b2 N  z a0 l1 l2 l3 σ) := by
  intro z
  induction z with
  | zero => exact fun _ _ _ _ _ => r_none
  | succ z ih => exact fun a0 l1 l2 l3 σ => w_X12_rank_b2B G h0 N   _ ih a0 l1 l2 l3 σ
theorem c_X12_rank (G : Gx) (h0 : G0 G) (N : Nat) (a0 : Nat) (o1 : Option Nat) (i2 : Int32) (σ : Mem) : Ct G mX12_rank rhoI [vR (some a0), vR o1, vI i2] σ (f_X12_rank N a0 o1 i2 σ) := by
  refine Ct_of h0 (by decide) rfl (Nat.le_of_ble_eq_true rfl) (L0 := [some (vR (some a0)), some (vR o1), some (vI i2), none]) rfl ?_
  unfold f_X12_rank
  refine r_iconst (q := 1) (v := (0 : Int32)) dX12_rank_0 rfl (by decide) ?_
  refine r_istore_n (q := 2) dX12_rank_1 rfl rfl (Nat.le_of_ble_eq_true rfl) rfl ?_
  exact r_le (w_X12_rank_b2 G h0 N N _ _ _ _ _) (Nat.le_refl _) (And.intro rfl (And.intro rfl (And.intro rfl (And.intro rfl trivial))))
theorem c_X5_worth (G : Gx) (h0 : G0 G) (N : Nat) (a0 : Nat) (o1 : Option Nat) (i2 : Int32) (σ : Mem) : Ct G mX5_worth rhoI [vR (some a0), vR o1, vI i2] σ (f_X5_worth N a0 o1 i2 σ) := by
  refine Ct_of h0 (by decide) rfl (Nat.le_of_ble_eq_true rfl) (L0 := [some (vR (some a0)), some (vR o1), some (vI i2), none]) rfl ?_
  unfold f_X5_worth
  refine r_aload_n (q := 1) dX5_worth_0 rfl rfl rfl ?_
  refine r_gR (q := 4) fl_X5_37 rfl dX5_worth_1 rfl (fun x1 => ?_)
  refine r_iload_n (q := 5) dX5_worth_4 rfl rfl rfl ?_
  refine r_aload_n (q := 6) dX5_worth_5 rfl rfl rfl ?_
  refine r_gI (q := 9) fl_X5_74 dX5_worth_6 rfl (fun x2 => ?_)
  refine r_iconst (q := 10) (v := (0 : Int32)) dX5_worth_9 rfl (by decide) ?_
  refine r_ob (fun a5 ha5 => ?_)
  obtain ⟨hea5, hka5⟩ := o_at_eq ha5
  cases hea5
  refine r_callI (q := 13) (c_X4_isPut G h0 N _ _ _ _ _) (cl_V (ci := 3) rfl rfl (lw_V q1468 q1469 q1470 q173 q1471) (hd_X4_isPut) ⟨Nat.le_of_ble_eq_true rfl, Nat.le_of_ble_eq_true rfl⟩ (List.mem_singleton.mp hka5) rfl rfl rfl (Nat.le_of_ble_eq_true rfl) dX5_worth_10) rfl (fun x3 σ4 => ?_)
  refine r_if_eq (q := 16) (t := 18) dX5_worth_13 rfl (by decide) (fun _ => ?_) (fun _ => ?_)
  · refine r_aload_n (q := 19) dX5_worth_18 rfl rfl rfl ?_
    refine r_aload_n (q := 20) dX5_worth_19 rfl rfl rfl ?_
    refine r_gR (q := 23) fl_X5_9 rfl dX5_worth_20 rfl (fun x6 => ?_)
    refine r_iload_n (q := 24) dX5_worth_23 rfl rfl rfl ?_
    refine r_ob (fun a9 ha9 => ?_)
    obtain ⟨hea9, hka9⟩ := o_at_eq ha9
    cases hea9
    refine r_callKI (q := 27) (Cb_ite (fun hq0 => ⟨_, _, (c_X12_rank G h0 N _ _ _ _), (cl_U (n := 2) (ci := 10) (x := ⟨"GoatCourt$Goat", "rank", "([II)I"⟩) (owner := "GoatCourt$Goat") rfl rfl q1489 q1491 (Or.inr ⟨_, _, _, q1490, q1496⟩) q1494 q1490 q186 q1496 ⟨by decide, by decide, by decide +kernel⟩ ⟨Nat.le_of_ble_eq_true rfl, Nat.le_of_ble_eq_true rfl⟩ hq0 rfl rfl (Nat.le_of_ble_eq_true rfl) dX5_worth_24)⟩) (fun hq0 => Cb_ite (fun hq1 => ⟨_, _, (c_X12_rank G h0 N _ _ _ _), (cl_U (n := 2) (ci := 11) (x := ⟨"GoatCourt$Goat", "rank", "([II)I"⟩) (owner := "GoatCourt$Goat") rfl rfl q1489 q1491 (Or.inr ⟨_, _, _, q1490, q1496⟩) q1495 q1490 q186 q1496 ⟨by decide, by decide, by decide +kernel⟩ ⟨Nat.le_of_ble_eq_true rfl, Nat.le_of_ble_eq_true rfl⟩ hq1 rfl rfl (Nat.le_of_ble_eq_true rfl) dX5_worth_24)⟩) (fun hq1 => Cb_ite (fun hq2 => ⟨_, _, (c_X12_rank G h0 N _ _ _ _), (cl_U (n := 2) (ci := 12) (x := ⟨"GoatCourt$Goat", "rank", "([II)I"⟩) (owner := "GoatCourt$Goat") rfl rfl q1489 q1491 (Or.inr ⟨_, _, _, q1490, q1496⟩) q1492 q1490 q186 q1496 ⟨by decide, by decide, by decide +kernel⟩ ⟨Nat.le_of_ble_eq_true rfl, Nat.le_of_ble_eq_true rfl⟩ hq2 rfl rfl (Nat.le_of_ble_eq_true rfl) dX5_worth_24)⟩) (fun hq2 => ⟨_, _, (c_X12_rank G h0 N _ _ _ _), (cl_U (n := 2) (ci := 13) (x := ⟨"GoatCourt$Goat", "rank", "([II)I"⟩) (owner := "GoatCourt$Goat") rfl rfl q1489 q1491 (Or.inr ⟨_, _, _, q1490, q1496⟩) q1493 q1490 q186 q1496 ⟨by decide, by decide, by decide +kernel⟩ ⟨Nat.le_of_ble_eq_true rfl, Nat.le_of_ble_eq_true rfl⟩ (by simp only [List.mem_cons, List.not_mem_nil, or_false] at hka9; omega) rfl rfl (Nat.le_of_ble_eq_true rfl) dX5_worth_24)⟩)))) rfl (fun x7 σ8 => ?_)
    refine r_istore_n (q := 28) dX5_worth_27 rfl rfl (Nat.le_of_ble_eq_true rfl) rfl ?_
    refine r_iload_n (q := 29) dX5_worth_28 rfl rfl rfl ?_
    refine r_bipush (q := 31) (v := (9 : Int32)) dX5_worth_29 rfl (by decide) ?_
    refine r_icmp_ne (q := 34) (t := 39) dX5_worth_31 rfl (by decide) (fun _ => ?_) (fun _ => ?_)
    · refine r_bipush (q := 36) (v := (9 : Int32)) dX5_worth_34 rfl (by decide) ?_
      refine r_goto (q := 42) dX5_worth_36 (by decide) ?_
      exact r_ireturn rfl rfl dX5_worth_42
    · refine r_iconst (q := 40) (v := (1 : Int32)) dX5_worth_39 rfl (by decide) ?_
      refine r_iload_n (q := 41) dX5_worth_40 rfl rfl rfl ?_
      refine r_iadd (q := 42) dX5_worth_41 rfl ?_
      exact r_ireturn rfl rfl dX5_worth_42
  · refine r_iconst (q := 17) (v := (0 : Int32)) dX5_worth_16 rfl (by decide) ?_
    exact r_ireturn rfl rfl dX5_worth_17
theorem w_X5_bestOf_b46 (G : Gx) (h0 : G0 G) (N : Nat) (K4 : Nat → Option Nat → Int32 → Int32 → Mem → Option (Int32 × Mem)) (hK4 : ∀ (a0 : Nat) (l1 : Option Nat) (l2 : Int32) (l3 : Int32) (σ : Mem), Runs G mX5_bestOf rhoI σ 4 [some (vR (some a0)), some (vR l1), some (vI l2), some (vI l3)] [] (K4 a0 l1 l2 l3 σ)) (a0 : Nat) (l1 : Option Nat) (l2 : Int32) (l3 : Int32) (σ : Mem) : Runs G mX5_bestOf rhoI σ 46 [some (vR (some a0)), some (vR l1), some (vI l2), some (vI l3)] [] (f_X5_bestOf_b46 N K4 a0 l1 l2 l3 σ) := by
  unfold f_X5_bestOf_b46
  refine r_iinc (q := 49) (v := (1 : Int32)) dX5_bestOf_46 rfl rfl (by decide) (Nat.le_of_ble_eq_true rfl) rfl ?_
  refine r_goto (q := 4) dX5_bestOf_49 (by decide) ?_
  exact r_le (hK4 _ _ _ _ _) (Nat.le_refl _) (And.intro rfl (And.intro rfl (And.intro rfl (And.intro rfl trivial))))
theorem w_X5_bestOf_b44 (G : Gx) (h0 : G0 G) (N : Nat) (K4 : Nat → Option Nat → Int32 → Int32 → Mem → Option (Int32 × Mem)) (hK4 : ∀ (a0 : Nat) (l1 : Option Nat) (l2 : Int32) (l3 : Int32) (σ : Mem), Runs G mX5_bestOf rhoI σ 4 [some (vR (some a0)), some (vR l1), some (vI l2), some (vI l3)] [] (K4 a0 l1 l2 l3 σ)) (a0 : Nat) (l1 : Option Nat) (l3 : Int32) (σ : Mem) : Runs G mX5_bestOf rhoI σ 44 [some (vR (some a0)), some (vR l1), none, some (vI l3)] [] (f_X5_bestOf_b44 N K4 a0 l1 l3 σ) := by
  unfold f_X5_bestOf_b44
  refine r_iload_n (q := 45) dX5_bestOf_44 rfl rfl rfl ?_
  refine r_istore_n (q := 46) dX5_bestOf_45 rfl rfl (Nat.le_of_ble_eq_true rfl) rfl ?_
  exact r_le (w_X5_bestOf_b46 G h0 N K4 hK4 _ _ _ _ _) (Nat.le_refl _) (And.intro rfl (And.intro rfl (And.intro rfl (And.intro rfl trivial))))
theorem w_X5_bestOf_b4B (G : Gx) (h0 : G0 G) (N : Nat)   (K4 : Nat → Option Nat → Int32 → Int32 → Mem → Option (Int32 × Mem)) (hK4 : ∀ (a0 : Nat) (l1 : Option Nat) (l2 : Int32) (l3 : Int32) (σ : Mem), Runs G mX5_bestOf rhoI σ 4 [some (vR (some a0)), some (vR l1), some (vI l2), some (vI l3)] [] (K4 a0 l1 l2 l3 σ)) (a0 : Nat) (l1 : Option Nat) (l2 : Int32) (l3 : Int32) (σ : Mem) : Runs G mX5_bestOf rhoI σ 4 [some (vR (some a0)), some (vR l1), some (vI l2), some (vI l3)] [] (f_X5_bestOf_b4B N  K4 a0 l1 l2 l3 σ) := by
  unfold f_X5_bestOf_b4B
  refine r_iload_n (q := 5) dX5_bestOf_4 rfl rfl rfl ?_
  refine r_aload_n (q := 6) dX5_bestOf_5 rfl rfl rfl ?_
  refine r_gR (q := 9) fl_X5_33 rfl dX5_bestOf_6 rfl (fun x1 => ?_)
  refine r_gI (q := 12) fl_X5_41 dX5_bestOf_9 rfl (fun x2 => ?_)
  refine r_icmp_ge (q := 15) (t := 52) dX5_bestOf_12 rfl (by decide) (fun _ => ?_) (fun _ => ?_)
  · refine r_iload_n (q := 53) dX5_bestOf_52 rfl rfl rfl ?_
    exact r_ireturn rfl rfl dX5_bestOf_53
  · refine r_aload_n (q := 16) dX5_bestOf_15 rfl rfl rfl ?_
    refine r_aload_n (q := 17) dX5_bestOf_16 rfl rfl rfl ?_
    refine r_iload_n (q := 18) dX5_bestOf_17 rfl rfl rfl ?_
    refine r_ob (fun a5 ha5 => ?_)
    obtain ⟨hea5, hka5⟩ := o_at_eq ha5
    cases hea5
    refine r_callI (q := 21) (c_X5_canGo G h0 N _ _ _ _) (cl_V (ci := 4) rfl rfl (lw_V q1460 q1462 qs56 q174 q1463) (hd_X5_canGo) ⟨Nat.le_of_ble_eq_true rfl, Nat.le_of_ble_eq_true rfl⟩ (List.mem_singleton.mp hka5) rfl rfl rfl (Nat.le_of_ble_eq_true rfl) dX5_bestOf_18) rfl (fun x3 σ4 => ?_)
    refine r_if_eq (q := 24) (t := 46) dX5_bestOf_21 rfl (by decide) (fun _ => ?_) (fun _ => ?_)
    · exact r_le (w_X5_bestOf_b46 G h0 N K4 hK4 _ _ _ _ _) (Nat.le_refl _) (And.intro rfl (And.intro rfl (And.intro rfl (And.intro rfl trivial))))
    · refine r_iload_n (q := 25) dX5_bestOf_24 rfl rfl rfl ?_
      refine r_iconst (q := 26) (v := (-1 : Int32)) dX5_bestOf_25 rfl (by decide) ?_
      refine r_icmp_eq (q := 29) (t := 44) dX5_bestOf_26 rfl (by decide) (fun _ => ?_) (fun _ => ?_)
      · exact r_le (w_X5_bestOf_b44 G h0 N K4 hK4 _ _ _ _) (Nat.le_refl _) (And.intro rfl (And.intro rfl (And.intro rfl trivial)))
      · refine r_aload_n (q := 30) dX5_bestOf_29 rfl rfl rfl ?_
        refine r_aload_n (q := 31) dX5_bestOf_30 rfl rfl rfl ?_
        refine r_iload_n (q := 32) dX5_bestOf_31 rfl rfl rfl ?_
        refine r_ob (fun a8 ha8 => ?_)
        obtain ⟨hea8, hka8⟩ := o_at_eq ha8
        cases hea8
        refine r_callI (q := 35) (c_X5_worth G h0 N _ _ _ _) (cl_V (ci := 4) rfl rfl (lw_V q1485 q1487 qs58 q174 q1488) (hd_X5_worth) ⟨Nat.le_of_ble_eq_true rfl, Nat.le_of_ble_eq_true rfl⟩ (List.mem_singleton.mp hka8) rfl rfl rfl (Nat.le_of_ble_eq_true rfl) dX5_bestOf_32) rfl (fun x6 σ7 => ?_)
        refine r_aload_n (q := 36) dX5_bestOf_35 rfl rfl rfl ?_
        refine r_aload_n (q := 37) dX5_bestOf_36 rfl rfl rfl ?_
        refine r_iload_n (q := 38) dX5_bestOf_37 rfl rfl rfl ?_
        refine r_ob (fun a11 ha11 => ?_)
        obtain ⟨hea11, hka11⟩ := o_at_eq ha11
        cases hea11
        refine r_callI (q := 41) (c_X5_worth G h0 N _ _ _ _) (cl_V (ci := 4) rfl rfl (lw_V q1485 q1487 qs58 q174 q1488) (hd_X5_worth) ⟨Nat.le_of_ble_eq_true rfl, Nat.le_of_ble_eq_true rfl⟩ (List.mem_singleton.mp hka11) rfl rfl rfl (Nat.le_of_ble_eq_true rfl) dX5_bestOf_38) rfl (fun x9 σ10 => ?_)
        refine r_icmp_ge (q := 44) (t := 46) dX5_bestOf_41 rfl (by decide) (fun _ => ?_) (fun _ => ?_)
        · exact r_le (w_X5_bestOf_b46 G h0 N K4 hK4 _ _ _ _ _) (Nat.le_refl _) (And.intro rfl (And.intro rfl (And.intro rfl (And.intro rfl trivial))))
        · exact r_le (w_X5_bestOf_b44 G h0 N K4 hK4 _ _ _ _) (Nat.le_refl _) (And.intro rfl (And.intro rfl (And.intro rfl trivial)))
theorem w_X5_bestOf_b4 (G : Gx) (h0 : G0 G) (N : Nat)   : ∀ (z : Nat) (a0 : Nat) (l1 : Option Nat) (l2 : Int32) (l3 : Int32) (σ : Mem), Runs G mX5_bestOf rhoI σ 4 [some (vR (some a0)), some (vR l1), some (vI l2), some (vI l3)] [] (f_X5_bestOf_b4 N  z a0 l1 l2 l3 σ) := by
  intro z
  induction z with
  | zero => exact fun _ _ _ _ _ => r_none
  | succ z ih => exact fun a0 l1 l2 l3 σ => w_X5_bestOf_b4B G h0 N   _ ih a0 l1 l2 l3 σ
theorem c_X5_bestOf (G : Gx) (h0 : G0 G) (N : Nat) (a0 : Nat) (o1 : Option Nat) (σ : Mem) : Ct G mX5_bestOf rhoI [vR (some a0), vR o1] σ (f_X5_bestOf N a0 o1 σ) := by
  refine Ct_of h0 (by decide) rfl (Nat.le_of_ble_eq_true rfl) (L0 := [some (vR (some a0)), some (vR o1), none, none]) rfl ?_
  unfold f_X5_bestOf
  refine r_iconst (q := 1) (v := (-1 : Int32)) dX5_bestOf_0 rfl (by decide) ?_
  refine r_istore_n (q := 2) dX5_bestOf_1 rfl rfl (Nat.le_of_ble_eq_true rfl) rfl ?_
  refine r_iconst (q := 3) (v := (0 : Int32)) dX5_bestOf_2 rfl (by decide) ?_
  refine r_istore_n (q := 4) dX5_bestOf_3 rfl rfl (Nat.le_of_ble_eq_true rfl) rfl ?_
  exact r_le (w_X5_bestOf_b4 G h0 N N _ _ _ _ _) (Nat.le_refl _) (And.intro rfl (And.intro rfl (And.intro rfl (And.intro rfl trivial))))
theorem c_X12_bites (G : Gx) (h0 : G0 G) (N : Nat) (a0 : Nat) (σ : Mem) : Ct G mX12_bites rhoI [vR (some a0)] σ (f_X12_bites N a0 σ) := by
  refine Ct_of h0 (by decide) rfl (Nat.le_of_ble_eq_true rfl) (L0 := [some (vR (some a0))]) rfl ?_
  unfold f_X12_bites
  refine r_iconst (q := 1) (v := (1 : Int32)) dX12_bites_0 rfl (by decide) ?_
  exact r_ireturn rfl rfl dX12_bites_1
theorem c_X15_bites (G : Gx) (h0 : G0 G) (N : Nat) (a0 : Nat) (σ : Mem) : Ct G mX15_bites rhoI [vR (some a0)] σ (f_X15_bites N a0 σ) := by
  refine Ct_of h0 (by decide) rfl (Nat.le_of_ble_eq_true rfl) (L0 := [some (vR (some a0))]) rfl ?_
  unfold f_X15_bites
  refine r_iconst (q := 1) (v := (2 : Int32)) dX15_bites_0 rfl (by decide) ?_
  exact r_ireturn rfl rfl dX15_bites_1
theorem c_X5_eats (G : Gx) (h0 : G0 G) (N : Nat) (a0 : Nat) (o1 : Option Nat) (i2 : Int32) (σ : Mem) : Ct G mX5_eats rhoV [vR (some a0), vR o1, vI i2] σ (f_X5_eats N a0 o1 i2 σ) := by
  refine Ct_of h0 (by decide) rfl (Nat.le_of_ble_eq_true rfl) (L0 := [some (vR (some a0)), some (vR o1), some (vI i2), none, none]) rfl ?_
  unfold f_X5_eats
  refine r_aload_n (q := 1) dX5_eats_0 rfl rfl rfl ?_
  refine r_gR (q := 4) fl_X5_155 rfl dX5_eats_1 rfl (fun x1 => ?_)
  refine r_aload_n (q := 5) dX5_eats_4 rfl rfl rfl ?_
  refine r_aload_n (q := 6) dX5_eats_5 rfl rfl rfl ?_
  refine r_gR (q := 9) fl_X5_9 rfl dX5_eats_6 rfl (fun x2 => ?_)
  refine r_iload_n (q := 10) dX5_eats_9 rfl rfl rfl ?_
  refine r_ob (fun a5 ha5 => ?_)
  obtain ⟨hea5, hka5⟩ := o_at_eq ha5
  cases hea5
  refine r_callKI (q := 13) (Cb_ite (fun hq0 => ⟨_, _, (c_X12_rank G h0 N _ _ _ _), (cl_U (n := 2) (ci := 10) (x := ⟨"GoatCourt$Goat", "rank", "([II)I"⟩) (owner := "GoatCourt$Goat") rfl rfl q1489 q1491 (Or.inr ⟨_, _, _, q1490, q1496⟩) q1494 q1490 q186 q1496 ⟨by decide, by decide, by decide +kernel⟩ ⟨Nat.le_of_ble_eq_true rfl, Nat.le_of_ble_eq_true rfl⟩ hq0 rfl rfl (Nat.le_of_ble_eq_true rfl) dX5_eats_10)⟩) (fun hq0 => Cb_ite (fun hq1 => ⟨_, _, (c_X12_rank G h0 N _ _ _ _), (cl_U (n := 2) (ci := 11) (x := ⟨"GoatCourt$Goat", "rank", "([II)I"⟩) (owner := "GoatCourt$Goat") rfl rfl q1489 q1491 (Or.inr ⟨_, _, _, q1490, q1496⟩) q1495 q1490 q186 q1496 ⟨by decide, by decide, by decide +kernel⟩ ⟨Nat.le_of_ble_eq_true rfl, Nat.le_of_ble_eq_true rfl⟩ hq1 rfl rfl (Nat.le_of_ble_eq_true rfl) dX5_eats_10)⟩) (fun hq1 => Cb_ite (fun hq2 => ⟨_, _, (c_X12_rank G h0 N _ _ _ _), (cl_U (n := 2) (ci := 12) (x := ⟨"GoatCourt$Goat", "rank", "([II)I"⟩) (owner := "GoatCourt$Goat") rfl rfl q1489 q1491 (Or.inr ⟨_, _, _, q1490, q1496⟩) q1492 q1490 q186 q1496 ⟨by decide, by decide, by decide +kernel⟩ ⟨Nat.le_of_ble_eq_true rfl, Nat.le_of_ble_eq_true rfl⟩ hq2 rfl rfl (Nat.le_of_ble_eq_true rfl) dX5_eats_10)⟩) (fun hq2 => ⟨_, _, (c_X12_rank G h0 N _ _ _ _), (cl_U (n := 2) (ci := 13) (x := ⟨"GoatCourt$Goat", "rank", "([II)I"⟩) (owner := "GoatCourt$Goat") rfl rfl q1489 q1491 (Or.inr ⟨_, _, _, q1490, q1496⟩) q1493 q1490 q186 q1496 ⟨by decide, by decide, by decide +kernel⟩ ⟨Nat.le_of_ble_eq_true rfl, Nat.le_of_ble_eq_true rfl⟩ (by simp only [List.mem_cons, List.not_mem_nil, or_false] at hka5; omega) rfl rfl (Nat.le_of_ble_eq_true rfl) dX5_eats_10)⟩)))) rfl (fun x3 σ4 => ?_)
  refine r_iaload (q := 14) dX5_eats_13 rfl (fun x6 => ?_)
  refine r_istore_n (q := 15) dX5_eats_14 rfl rfl (Nat.le_of_ble_eq_true rfl) rfl ?_
  refine r_aload_n (q := 16) dX5_eats_15 rfl rfl rfl ?_
  refine r_ob (fun a9 ha9 => ?_)
  obtain ⟨hea9, hka9⟩ := o_at_eq ha9
  cases hea9
  refine r_callKI (q := 19) (Cb_ite (fun hq0 => ⟨_, _, (c_X12_bites G h0 N _ _), (cl_U (n := 0) (ci := 10) (x := ⟨"GoatCourt$Goat", "bites", "()I"⟩) (owner := "GoatCourt$Goat") rfl rfl q1501 q1503 (Or.inr ⟨_, _, _, q1502, q1510⟩) q1508 q1502 q186 q1510 ⟨by decide, by decide, by decide +kernel⟩ ⟨Nat.le_of_ble_eq_true rfl, Nat.le_of_ble_eq_true rfl⟩ hq0 rfl rfl (Nat.le_of_ble_eq_true rfl) dX5_eats_16)⟩) (fun hq0 => Cb_ite (fun hq1 => ⟨_, _, (c_X12_bites G h0 N _ _), (cl_U (n := 0) (ci := 11) (x := ⟨"GoatCourt$Goat", "bites", "()I"⟩) (owner := "GoatCourt$Goat") rfl rfl q1501 q1503 (Or.inr ⟨_, _, _, q1502, q1510⟩) q1509 q1502 q186 q1510 ⟨by decide, by decide, by decide +kernel⟩ ⟨Nat.le_of_ble_eq_true rfl, Nat.le_of_ble_eq_true rfl⟩ hq1 rfl rfl (Nat.le_of_ble_eq_true rfl) dX5_eats_16)⟩) (fun hq1 => Cb_ite (fun hq2 => ⟨_, _, (c_X15_bites G h0 N _ _), (cl_U (n := 0) (ci := 12) (x := ⟨"GoatCourt$Goat", "bites", "()I"⟩) (owner := "GoatCourt$Goat") rfl rfl q1501 q1503 (Or.inr ⟨_, _, _, q1502, q1510⟩) q1504 q1505 q189 q1506 ⟨by decide, by decide, by decide +kernel⟩ ⟨Nat.le_of_ble_eq_true rfl, Nat.le_of_ble_eq_true rfl⟩ hq2 rfl rfl (Nat.le_of_ble_eq_true rfl) dX5_eats_16)⟩) (fun hq2 => ⟨_, _, (c_X12_bites G h0 N _ _), (cl_U (n := 0) (ci := 13) (x := ⟨"GoatCourt$Goat", "bites", "()I"⟩) (owner := "GoatCourt$Goat") rfl rfl q1501 q1503 (Or.inr ⟨_, _, _, q1502, q1510⟩) q1507 q1502 q186 q1510 ⟨by decide, by decide, by decide +kernel⟩ ⟨Nat.le_of_ble_eq_true rfl, Nat.le_of_ble_eq_true rfl⟩ (by simp only [List.mem_cons, List.not_mem_nil, or_false] at hka9; omega) rfl rfl (Nat.le_of_ble_eq_true rfl) dX5_eats_16)⟩)))) rfl (fun x7 σ8 => ?_)
  refine r_aload_n (q := 20) dX5_eats_19 rfl rfl rfl ?_
  refine r_gR (q := 23) fl_X5_9 rfl dX5_eats_20 rfl (fun x10 => ?_)
  refine r_iconst (q := 24) (v := (4 : Int32)) dX5_eats_23 rfl (by decide) ?_
  refine r_iload_n (q := 25) dX5_eats_24 rfl rfl rfl ?_
  refine r_imul (q := 26) dX5_eats_25 rfl ?_
  refine r_iload_n (q := 27) dX5_eats_26 rfl rfl rfl ?_
  refine r_iadd (q := 28) dX5_eats_27 rfl ?_
  refine r_iaload (q := 29) dX5_eats_28 rfl (fun x11 => ?_)
  refine r_mmin (q := 32) q1511 q1406 q198 q1407 (Nat.le_of_ble_eq_true rfl) (Nat.le_of_ble_eq_true rfl) dX5_eats_29 rfl ?_
  refine r_istore (q := 34) dX5_eats_32 rfl (Nat.le_of_ble_eq_true rfl) rfl ?_
  refine r_aload_n (q := 35) dX5_eats_34 rfl rfl rfl ?_
  refine r_gR (q := 38) fl_X5_9 rfl dX5_eats_35 rfl (fun x12 => ?_)
  refine r_iconst (q := 39) (v := (4 : Int32)) dX5_eats_38 rfl (by decide) ?_
  refine r_iload_n (q := 40) dX5_eats_39 rfl rfl rfl ?_
  refine r_imul (q := 41) dX5_eats_40 rfl ?_
  refine r_iload_n (q := 42) dX5_eats_41 rfl rfl rfl ?_
  refine r_iadd (q := 43) dX5_eats_42 rfl ?_
  refine r_dup2 (q := 44) dX5_eats_43 rfl rfl rfl ?_
  refine r_iaload (q := 45) dX5_eats_44 rfl (fun x13 => ?_)
  refine r_iload (q := 47) dX5_eats_45 rfl rfl ?_
  refine r_isub (q := 48) dX5_eats_47 rfl ?_
  refine r_iastore (q := 49) dX5_eats_48 rfl (fun σ14 => ?_)
  refine r_aload_n (q := 50) dX5_eats_49 rfl rfl rfl ?_
  refine r_gR (q := 53) fl_X5_21 rfl dX5_eats_50 rfl (fun x15 => ?_)
  refine r_bipush (q := 55) (v := (12 : Int32)) dX5_eats_53 rfl (by decide) ?_
  refine r_aload_n (q := 56) dX5_eats_55 rfl rfl rfl ?_
  refine r_gI (q := 59) fl_X5_122 dX5_eats_56 rfl (fun x16 => ?_)
  refine r_imul (q := 60) dX5_eats_59 rfl ?_
  refine r_aload_n (q := 61) dX5_eats_60 rfl rfl rfl ?_
  refine r_gI (q := 64) fl_X5_74 dX5_eats_61 rfl (fun x17 => ?_)
  refine r_iadd (q := 65) dX5_eats_64 rfl ?_
  refine r_iload_n (q := 66) dX5_eats_65 rfl rfl rfl ?_
  refine r_iastore (q := 67) dX5_eats_66 rfl (fun σ18 => ?_)
  refine r_aload_n (q := 68) dX5_eats_67 rfl rfl rfl ?_
  refine r_gR (q := 71) fl_X5_24 rfl dX5_eats_68 rfl (fun x19 => ?_)
  refine r_bipush (q := 73) (v := (12 : Int32)) dX5_eats_71 rfl (by decide) ?_
  refine r_aload_n (q := 74) dX5_eats_73 rfl rfl rfl ?_
  refine r_gI (q := 77) fl_X5_122 dX5_eats_74 rfl (fun x20 => ?_)
  refine r_imul (q := 78) dX5_eats_77 rfl ?_
  refine r_aload_n (q := 79) dX5_eats_78 rfl rfl rfl ?_
  refine r_gI (q := 82) fl_X5_74 dX5_eats_79 rfl (fun x21 => ?_)
  refine r_iadd (q := 83) dX5_eats_82 rfl ?_
  refine r_iload (q := 85) dX5_eats_83 rfl rfl ?_
  refine r_iastore (q := 86) dX5_eats_85 rfl (fun σ22 => ?_)
  exact r_return rfl dX5_eats_86
