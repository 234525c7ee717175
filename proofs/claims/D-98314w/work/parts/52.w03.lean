/-! the walks of X2_line X2_read X4_begin X8_cases X1_hill X7_refused X24_init X7_byteAt X7_isLetter X7_isDigit X7_goesOn X7_wordOf X7_isWord X7_flaw X7_wants X7_within X7_readWhole X7_readPart X7_readHill X7_begins X7_isName X24_find -/
set_option maxRecDepth 100000
def dkwX2_line_18 : List UInt8 := [182, 0, 218, 167, 0, 9, 42, 4, 182, 0, 82, 191, 177]
abbrev dktX2_line_18 : List UInt8 := dkwX2_line_18 ++ []
def dkwX2_line_17 : List UInt8 := [42, 182, 0, 212, 167, 0, 30, 42, 182, 0, 214, 167, 0, 23, 42, 182, 0, 216, 167, 0, 16, 42]
abbrev dktX2_line_17 : List UInt8 := dkwX2_line_17 ++ dktX2_line_18
def dkwX2_line_16 : List UInt8 := [167, 0, 58, 42, 182, 0, 204, 167, 0, 51, 42, 182, 0, 207, 167, 0, 44, 42, 182, 0, 210, 167, 0, 37]
abbrev dktX2_line_16 : List UInt8 := dkwX2_line_16 ++ dktX2_line_17
def dkwX2_line_15 : List UInt8 := [182, 0, 195, 167, 0, 79, 42, 182, 0, 197, 167, 0, 72, 42, 182, 0, 199, 167, 0, 65, 42, 182, 0, 202]
abbrev dktX2_line_15 : List UInt8 := dkwX2_line_15 ++ dktX2_line_16
def dkwX2_line_14 : List UInt8 := [42, 182, 0, 187, 167, 0, 100, 42, 182, 0, 190, 167, 0, 93, 42, 182, 0, 193, 167, 0, 86, 42]
abbrev dktX2_line_14 : List UInt8 := dkwX2_line_14 ++ dktX2_line_15
def dkwX2_line_13 : List UInt8 := [170, 0, 0, 0, 0, 0, 0, 178, 0, 0, 0, 0, 0, 0, 0, 15, 0, 0, 0, 80, 0, 0, 0, 87, 0, 0, 0, 94, 0, 0, 0, 101, 0, 0, 0, 108, 0, 0, 0, 115, 0, 0, 0, 122, 0, 0, 0, 129, 0, 0, 0, 129, 0, 0, 0, 129, 0, 0, 0, 136, 0, 0, 0, 143, 0, 0, 0, 150, 0, 0, 0, 157, 0, 0, 0, 164, 0, 0, 0, 171]
abbrev dktX2_line_13 : List UInt8 := dkwX2_line_13 ++ dktX2_line_14
def dkwX2_line_12 : List UInt8 := [16, 14, 61, 167, 0, 15, 43, 18, 120, 182, 0, 71, 153, 0, 6, 16, 15, 61, 28]
abbrev dktX2_line_12 : List UInt8 := dkwX2_line_12 ++ dktX2_line_13
def dkwX2_line_11 : List UInt8 := [43, 18, 116, 182, 0, 71, 153, 0, 36, 16, 13, 61, 167, 0, 30, 43, 18, 118, 182, 0, 71, 153, 0, 21]
abbrev dktX2_line_11 : List UInt8 := dkwX2_line_11 ++ dktX2_line_12
def dkwX2_line_10 : List UInt8 := [153, 0, 66, 16, 11, 61, 167, 0, 60, 43, 18, 114, 182, 0, 71, 153, 0, 51, 16, 12, 61, 167, 0, 45]
abbrev dktX2_line_10 : List UInt8 := dkwX2_line_10 ++ dktX2_line_11
def dkwX2_line_9 : List UInt8 := [167, 0, 90, 43, 18, 110, 182, 0, 71, 153, 0, 81, 16, 10, 61, 167, 0, 75, 43, 18, 112, 182, 0, 71]
abbrev dktX2_line_9 : List UInt8 := dkwX2_line_9 ++ dktX2_line_10
def dkwX2_line_8 : List UInt8 := [182, 0, 71, 153, 0, 111, 16, 8, 61, 167, 0, 105, 43, 18, 108, 182, 0, 71, 153, 0, 96, 16, 9, 61]
abbrev dktX2_line_8 : List UInt8 := dkwX2_line_8 ++ dktX2_line_9
def dkwX2_line_7 : List UInt8 := [61, 167, 0, 135, 43, 18, 104, 182, 0, 71, 153, 0, 126, 16, 7, 61, 167, 0, 120, 43, 18, 106]
abbrev dktX2_line_7 : List UInt8 := dkwX2_line_7 ++ dktX2_line_8
def dkwX2_line_6 : List UInt8 := [18, 100, 182, 0, 71, 153, 0, 155, 8, 61, 167, 0, 150, 43, 18, 102, 182, 0, 71, 153, 0, 141, 16, 6]
abbrev dktX2_line_6 : List UInt8 := dkwX2_line_6 ++ dktX2_line_7
def dkwX2_line_5 : List UInt8 := [153, 0, 183, 6, 61, 167, 0, 178, 43, 18, 98, 182, 0, 71, 153, 0, 169, 7, 61, 167, 0, 164, 43]
abbrev dktX2_line_5 : List UInt8 := dkwX2_line_5 ++ dktX2_line_6
def dkwX2_line_4 : List UInt8 := [61, 167, 0, 206, 43, 18, 94, 182, 0, 71, 153, 0, 197, 5, 61, 167, 0, 192, 43, 18, 96, 182, 0, 71]
abbrev dktX2_line_4 : List UInt8 := dkwX2_line_4 ++ dktX2_line_5
def dkwX2_line_3 : List UInt8 := [43, 18, 90, 182, 0, 71, 153, 0, 225, 3, 61, 167, 0, 220, 43, 18, 92, 182, 0, 71, 153, 0, 211, 4]
abbrev dktX2_line_3 : List UInt8 := dkwX2_line_3 ++ dktX2_line_4
def dkwX2_line_2 : List UInt8 := [171, 0, 0, 0, 0, 1, 114, 0, 0, 0, 16, 174, 216, 196, 215, 0, 0, 1, 102, 196, 227, 155, 85, 0, 0, 0, 181, 0, 47, 214, 108, 0, 0, 1, 27, 0, 48, 127, 27, 0, 0, 0, 209, 0, 48, 222, 65, 0, 0, 0, 139, 0, 52, 100, 37, 0, 0, 0, 167, 0, 53, 150, 252, 0, 0, 1, 57, 0, 53, 206, 123, 0, 0, 0, 253, 5, 167, 81, 139, 0, 0, 1, 87, 5, 204, 193, 67, 0, 0, 0, 223, 5, 209, 151, 130, 0, 0, 0, 238, 5, 237, 163, 148, 0, 0, 1, 42, 6, 92, 217, 7, 0, 0, 0, 153, 6, 95, 201, 68, 0, 0, 1, 72, 6, 133, 108, 83, 0, 0, 1, 12, 6, 138, 248, 245, 0, 0, 0, 195]
abbrev dktX2_line_2 : List UInt8 := dkwX2_line_2 ++ dktX2_line_3
def dkwX2_line_1 : List UInt8 := [182, 0, 86]
abbrev dktX2_line_1 : List UInt8 := dkwX2_line_1 ++ dktX2_line_2
def dkwX2_line_0 : List UInt8 := [42, 180, 0, 47, 5, 159, 0, 9, 42, 4, 182, 0, 82, 191, 42, 180, 0, 61, 76, 2, 61, 43]
abbrev dktX2_line_0 : List UInt8 := dkwX2_line_0 ++ dktX2_line_1
theorem dksX2_line_0 : cX2_line.data.toList.drop 0 = dktX2_line_0 := by decide +kernel
theorem dksX2_line_1 : cX2_line.data.toList.drop 22 = dktX2_line_1 := dk_seg dksX2_line_0 22 rfl rfl
theorem dksX2_line_2 : cX2_line.data.toList.drop 25 = dktX2_line_2 := dk_seg dksX2_line_1 3 rfl rfl
theorem dksX2_line_3 : cX2_line.data.toList.drop 164 = dktX2_line_3 := dk_seg dksX2_line_2 139 rfl rfl
theorem dksX2_line_4 : cX2_line.data.toList.drop 188 = dktX2_line_4 := dk_seg dksX2_line_3 24 rfl rfl
theorem dksX2_line_5 : cX2_line.data.toList.drop 212 = dktX2_line_5 := dk_seg dksX2_line_4 24 rfl rfl
theorem dksX2_line_6 : cX2_line.data.toList.drop 235 = dktX2_line_6 := dk_seg dksX2_line_5 23 rfl rfl
theorem dksX2_line_7 : cX2_line.data.toList.drop 259 = dktX2_line_7 := dk_seg dksX2_line_6 24 rfl rfl
theorem dksX2_line_8 : cX2_line.data.toList.drop 281 = dktX2_line_8 := dk_seg dksX2_line_7 22 rfl rfl
theorem dksX2_line_9 : cX2_line.data.toList.drop 305 = dktX2_line_9 := dk_seg dksX2_line_8 24 rfl rfl
theorem dksX2_line_10 : cX2_line.data.toList.drop 329 = dktX2_line_10 := dk_seg dksX2_line_9 24 rfl rfl
theorem dksX2_line_11 : cX2_line.data.toList.drop 353 = dktX2_line_11 := dk_seg dksX2_line_10 24 rfl rfl
theorem dksX2_line_12 : cX2_line.data.toList.drop 377 = dktX2_line_12 := dk_seg dksX2_line_11 24 rfl rfl
theorem dksX2_line_13 : cX2_line.data.toList.drop 396 = dktX2_line_13 := dk_seg dksX2_line_12 19 rfl rfl
theorem dksX2_line_14 : cX2_line.data.toList.drop 476 = dktX2_line_14 := dk_seg dksX2_line_13 80 rfl rfl
theorem dksX2_line_15 : cX2_line.data.toList.drop 498 = dktX2_line_15 := dk_seg dksX2_line_14 22 rfl rfl
theorem dksX2_line_16 : cX2_line.data.toList.drop 522 = dktX2_line_16 := dk_seg dksX2_line_15 24 rfl rfl
theorem dksX2_line_17 : cX2_line.data.toList.drop 546 = dktX2_line_17 := dk_seg dksX2_line_16 24 rfl rfl
theorem dksX2_line_18 : cX2_line.data.toList.drop 568 = dktX2_line_18 := dk_seg dksX2_line_17 22 rfl rfl
theorem dX2_line_0 : decode cX2_line 0 = .ok (.aload_n 0, 1) := dk_42 (dk_at dksX2_line_0 0 rfl rfl)
theorem dX2_line_1 : decode cX2_line 1 = .ok (.getfield 47, 3) := dk_180 0 47 (dk_at dksX2_line_0 1 rfl rfl)
theorem dX2_line_4 : decode cX2_line 4 = .ok (.iconst 2, 1) := dk_5 (dk_at dksX2_line_0 4 rfl rfl)
theorem dX2_line_5 : decode cX2_line 5 = .ok (.if_icmp .eq 9, 3) := dk_159 0 9 (dk_at dksX2_line_0 5 rfl rfl)
theorem dX2_line_8 : decode cX2_line 8 = .ok (.aload_n 0, 1) := dk_42 (dk_at dksX2_line_0 8 rfl rfl)
theorem dX2_line_9 : decode cX2_line 9 = .ok (.iconst 1, 1) := dk_4 (dk_at dksX2_line_0 9 rfl rfl)
theorem dX2_line_10 : decode cX2_line 10 = .ok (.invokevirtual 82, 3) := dk_182 0 82 (dk_at dksX2_line_0 10 rfl rfl)
theorem dX2_line_13 : decode cX2_line 13 = .ok (.athrow, 1) := dk_191 (dk_at dksX2_line_0 13 rfl rfl)
theorem dX2_line_14 : decode cX2_line 14 = .ok (.aload_n 0, 1) := dk_42 (dk_at dksX2_line_0 14 rfl rfl)
theorem dX2_line_15 : decode cX2_line 15 = .ok (.getfield 61, 3) := dk_180 0 61 (dk_at dksX2_line_0 15 rfl rfl)
theorem dX2_line_18 : decode cX2_line 18 = .ok (.astore_n 1, 1) := dk_76 (dk_at dksX2_line_0 18 rfl rfl)
theorem dX2_line_19 : decode cX2_line 19 = .ok (.iconst (-1), 1) := dk_2 (dk_at dksX2_line_0 19 rfl rfl)
theorem dX2_line_20 : decode cX2_line 20 = .ok (.istore_n 2, 1) := dk_61 (dk_at dksX2_line_0 20 rfl rfl)
theorem dX2_line_21 : decode cX2_line 21 = .ok (.aload_n 1, 1) := dk_43 (dk_at dksX2_line_0 21 rfl rfl)
theorem dX2_line_22 : decode cX2_line 22 = .ok (.invokevirtual 86, 3) := dk_182 0 86 (dk_at dksX2_line_1 0 rfl rfl)
theorem dX2_line_25 : decode cX2_line 25 = .ok (.lookupswitch 370 #[(-1361525545, 358), (-991716523, 181), (3135084, 283), (3178267, 209), (3202625, 139), (3433509, 167), (3512060, 313), (3526267, 253), (94851467, 343), (97304899, 223), (97621890, 238), (99459988, 298), (106748167, 153), (106940740, 328), (109407315, 268), (109770997, 195)], 139) := by decide +kernel
theorem dX2_line_164 : decode cX2_line 164 = .ok (.aload_n 1, 1) := dk_43 (dk_at dksX2_line_3 0 rfl rfl)
theorem dX2_line_165 : decode cX2_line 165 = .ok (.ldc 90, 2) := dk_18 90 (dk_at dksX2_line_3 1 rfl rfl)
theorem dX2_line_167 : decode cX2_line 167 = .ok (.invokevirtual 71, 3) := dk_182 0 71 (dk_at dksX2_line_3 3 rfl rfl)
theorem dX2_line_170 : decode cX2_line 170 = .ok (.ifCond .eq 225, 3) := dk_153 0 225 (dk_at dksX2_line_3 6 rfl rfl)
theorem dX2_line_173 : decode cX2_line 173 = .ok (.iconst 0, 1) := dk_3 (dk_at dksX2_line_3 9 rfl rfl)
theorem dX2_line_174 : decode cX2_line 174 = .ok (.istore_n 2, 1) := dk_61 (dk_at dksX2_line_3 10 rfl rfl)
theorem dX2_line_175 : decode cX2_line 175 = .ok (.goto 220, 3) := dk_167 0 220 (dk_at dksX2_line_3 11 rfl rfl)
theorem dX2_line_178 : decode cX2_line 178 = .ok (.aload_n 1, 1) := dk_43 (dk_at dksX2_line_3 14 rfl rfl)
theorem dX2_line_179 : decode cX2_line 179 = .ok (.ldc 92, 2) := dk_18 92 (dk_at dksX2_line_3 15 rfl rfl)
theorem dX2_line_181 : decode cX2_line 181 = .ok (.invokevirtual 71, 3) := dk_182 0 71 (dk_at dksX2_line_3 17 rfl rfl)
theorem dX2_line_184 : decode cX2_line 184 = .ok (.ifCond .eq 211, 3) := dk_153 0 211 (dk_at dksX2_line_3 20 rfl rfl)
theorem dX2_line_187 : decode cX2_line 187 = .ok (.iconst 1, 1) := dk_4 (dk_at dksX2_line_3 23 rfl rfl)
theorem dX2_line_188 : decode cX2_line 188 = .ok (.istore_n 2, 1) := dk_61 (dk_at dksX2_line_4 0 rfl rfl)
theorem dX2_line_189 : decode cX2_line 189 = .ok (.goto 206, 3) := dk_167 0 206 (dk_at dksX2_line_4 1 rfl rfl)
theorem dX2_line_192 : decode cX2_line 192 = .ok (.aload_n 1, 1) := dk_43 (dk_at dksX2_line_4 4 rfl rfl)
theorem dX2_line_193 : decode cX2_line 193 = .ok (.ldc 94, 2) := dk_18 94 (dk_at dksX2_line_4 5 rfl rfl)
theorem dX2_line_195 : decode cX2_line 195 = .ok (.invokevirtual 71, 3) := dk_182 0 71 (dk_at dksX2_line_4 7 rfl rfl)
theorem dX2_line_198 : decode cX2_line 198 = .ok (.ifCond .eq 197, 3) := dk_153 0 197 (dk_at dksX2_line_4 10 rfl rfl)
theorem dX2_line_201 : decode cX2_line 201 = .ok (.iconst 2, 1) := dk_5 (dk_at dksX2_line_4 13 rfl rfl)
theorem dX2_line_202 : decode cX2_line 202 = .ok (.istore_n 2, 1) := dk_61 (dk_at dksX2_line_4 14 rfl rfl)
theorem dX2_line_203 : decode cX2_line 203 = .ok (.goto 192, 3) := dk_167 0 192 (dk_at dksX2_line_4 15 rfl rfl)
theorem dX2_line_206 : decode cX2_line 206 = .ok (.aload_n 1, 1) := dk_43 (dk_at dksX2_line_4 18 rfl rfl)
theorem dX2_line_207 : decode cX2_line 207 = .ok (.ldc 96, 2) := dk_18 96 (dk_at dksX2_line_4 19 rfl rfl)
theorem dX2_line_209 : decode cX2_line 209 = .ok (.invokevirtual 71, 3) := dk_182 0 71 (dk_at dksX2_line_4 21 rfl rfl)
theorem dX2_line_212 : decode cX2_line 212 = .ok (.ifCond .eq 183, 3) := dk_153 0 183 (dk_at dksX2_line_5 0 rfl rfl)
theorem dX2_line_215 : decode cX2_line 215 = .ok (.iconst 3, 1) := dk_6 (dk_at dksX2_line_5 3 rfl rfl)
theorem dX2_line_216 : decode cX2_line 216 = .ok (.istore_n 2, 1) := dk_61 (dk_at dksX2_line_5 4 rfl rfl)
theorem dX2_line_217 : decode cX2_line 217 = .ok (.goto 178, 3) := dk_167 0 178 (dk_at dksX2_line_5 5 rfl rfl)
theorem dX2_line_220 : decode cX2_line 220 = .ok (.aload_n 1, 1) := dk_43 (dk_at dksX2_line_5 8 rfl rfl)
theorem dX2_line_221 : decode cX2_line 221 = .ok (.ldc 98, 2) := dk_18 98 (dk_at dksX2_line_5 9 rfl rfl)
theorem dX2_line_223 : decode cX2_line 223 = .ok (.invokevirtual 71, 3) := dk_182 0 71 (dk_at dksX2_line_5 11 rfl rfl)
theorem dX2_line_226 : decode cX2_line 226 = .ok (.ifCond .eq 169, 3) := dk_153 0 169 (dk_at dksX2_line_5 14 rfl rfl)
theorem dX2_line_229 : decode cX2_line 229 = .ok (.iconst 4, 1) := dk_7 (dk_at dksX2_line_5 17 rfl rfl)
theorem dX2_line_230 : decode cX2_line 230 = .ok (.istore_n 2, 1) := dk_61 (dk_at dksX2_line_5 18 rfl rfl)
theorem dX2_line_231 : decode cX2_line 231 = .ok (.goto 164, 3) := dk_167 0 164 (dk_at dksX2_line_5 19 rfl rfl)
theorem dX2_line_234 : decode cX2_line 234 = .ok (.aload_n 1, 1) := dk_43 (dk_at dksX2_line_5 22 rfl rfl)
theorem dX2_line_235 : decode cX2_line 235 = .ok (.ldc 100, 2) := dk_18 100 (dk_at dksX2_line_6 0 rfl rfl)
theorem dX2_line_237 : decode cX2_line 237 = .ok (.invokevirtual 71, 3) := dk_182 0 71 (dk_at dksX2_line_6 2 rfl rfl)
theorem dX2_line_240 : decode cX2_line 240 = .ok (.ifCond .eq 155, 3) := dk_153 0 155 (dk_at dksX2_line_6 5 rfl rfl)
theorem dX2_line_243 : decode cX2_line 243 = .ok (.iconst 5, 1) := dk_8 (dk_at dksX2_line_6 8 rfl rfl)
theorem dX2_line_244 : decode cX2_line 244 = .ok (.istore_n 2, 1) := dk_61 (dk_at dksX2_line_6 9 rfl rfl)
theorem dX2_line_245 : decode cX2_line 245 = .ok (.goto 150, 3) := dk_167 0 150 (dk_at dksX2_line_6 10 rfl rfl)
theorem dX2_line_248 : decode cX2_line 248 = .ok (.aload_n 1, 1) := dk_43 (dk_at dksX2_line_6 13 rfl rfl)
theorem dX2_line_249 : decode cX2_line 249 = .ok (.ldc 102, 2) := dk_18 102 (dk_at dksX2_line_6 14 rfl rfl)
theorem dX2_line_251 : decode cX2_line 251 = .ok (.invokevirtual 71, 3) := dk_182 0 71 (dk_at dksX2_line_6 16 rfl rfl)
theorem dX2_line_254 : decode cX2_line 254 = .ok (.ifCond .eq 141, 3) := dk_153 0 141 (dk_at dksX2_line_6 19 rfl rfl)
theorem dX2_line_257 : decode cX2_line 257 = .ok (.bipush 6, 2) := dk_16 6 (dk_at dksX2_line_6 22 rfl rfl)
theorem dX2_line_259 : decode cX2_line 259 = .ok (.istore_n 2, 1) := dk_61 (dk_at dksX2_line_7 0 rfl rfl)
theorem dX2_line_260 : decode cX2_line 260 = .ok (.goto 135, 3) := dk_167 0 135 (dk_at dksX2_line_7 1 rfl rfl)
theorem dX2_line_263 : decode cX2_line 263 = .ok (.aload_n 1, 1) := dk_43 (dk_at dksX2_line_7 4 rfl rfl)
theorem dX2_line_264 : decode cX2_line 264 = .ok (.ldc 104, 2) := dk_18 104 (dk_at dksX2_line_7 5 rfl rfl)
theorem dX2_line_266 : decode cX2_line 266 = .ok (.invokevirtual 71, 3) := dk_182 0 71 (dk_at dksX2_line_7 7 rfl rfl)
theorem dX2_line_269 : decode cX2_line 269 = .ok (.ifCond .eq 126, 3) := dk_153 0 126 (dk_at dksX2_line_7 10 rfl rfl)
theorem dX2_line_272 : decode cX2_line 272 = .ok (.bipush 7, 2) := dk_16 7 (dk_at dksX2_line_7 13 rfl rfl)
theorem dX2_line_274 : decode cX2_line 274 = .ok (.istore_n 2, 1) := dk_61 (dk_at dksX2_line_7 15 rfl rfl)
theorem dX2_line_275 : decode cX2_line 275 = .ok (.goto 120, 3) := dk_167 0 120 (dk_at dksX2_line_7 16 rfl rfl)
theorem dX2_line_278 : decode cX2_line 278 = .ok (.aload_n 1, 1) := dk_43 (dk_at dksX2_line_7 19 rfl rfl)
theorem dX2_line_279 : decode cX2_line 279 = .ok (.ldc 106, 2) := dk_18 106 (dk_at dksX2_line_7 20 rfl rfl)
theorem dX2_line_281 : decode cX2_line 281 = .ok (.invokevirtual 71, 3) := dk_182 0 71 (dk_at dksX2_line_8 0 rfl rfl)
theorem dX2_line_284 : decode cX2_line 284 = .ok (.ifCond .eq 111, 3) := dk_153 0 111 (dk_at dksX2_line_8 3 rfl rfl)
theorem dX2_line_287 : decode cX2_line 287 = .ok (.bipush 8, 2) := dk_16 8 (dk_at dksX2_line_8 6 rfl rfl)
theorem dX2_line_289 : decode cX2_line 289 = .ok (.istore_n 2, 1) := dk_61 (dk_at dksX2_line_8 8 rfl rfl)
theorem dX2_line_290 : decode cX2_line 290 = .ok (.goto 105, 3) := dk_167 0 105 (dk_at dksX2_line_8 9 rfl rfl)
theorem dX2_line_293 : decode cX2_line 293 = .ok (.aload_n 1, 1) := dk_43 (dk_at dksX2_line_8 12 rfl rfl)
theorem dX2_line_294 : decode cX2_line 294 = .ok (.ldc 108, 2) := dk_18 108 (dk_at dksX2_line_8 13 rfl rfl)
theorem dX2_line_296 : decode cX2_line 296 = .ok (.invokevirtual 71, 3) := dk_182 0 71 (dk_at dksX2_line_8 15 rfl rfl)
theorem dX2_line_299 : decode cX2_line 299 = .ok (.ifCond .eq 96, 3) := dk_153 0 96 (dk_at dksX2_line_8 18 rfl rfl)
theorem dX2_line_302 : decode cX2_line 302 = .ok (.bipush 9, 2) := dk_16 9 (dk_at dksX2_line_8 21 rfl rfl)
theorem dX2_line_304 : decode cX2_line 304 = .ok (.istore_n 2, 1) := dk_61 (dk_at dksX2_line_8 23 rfl rfl)
theorem dX2_line_305 : decode cX2_line 305 = .ok (.goto 90, 3) := dk_167 0 90 (dk_at dksX2_line_9 0 rfl rfl)
theorem dX2_line_308 : decode cX2_line 308 = .ok (.aload_n 1, 1) := dk_43 (dk_at dksX2_line_9 3 rfl rfl)
theorem dX2_line_309 : decode cX2_line 309 = .ok (.ldc 110, 2) := dk_18 110 (dk_at dksX2_line_9 4 rfl rfl)
theorem dX2_line_311 : decode cX2_line 311 = .ok (.invokevirtual 71, 3) := dk_182 0 71 (dk_at dksX2_line_9 6 rfl rfl)
theorem dX2_line_314 : decode cX2_line 314 = .ok (.ifCond .eq 81, 3) := dk_153 0 81 (dk_at dksX2_line_9 9 rfl rfl)
theorem dX2_line_317 : decode cX2_line 317 = .ok (.bipush 10, 2) := dk_16 10 (dk_at dksX2_line_9 12 rfl rfl)
theorem dX2_line_319 : decode cX2_line 319 = .ok (.istore_n 2, 1) := dk_61 (dk_at dksX2_line_9 14 rfl rfl)
theorem dX2_line_320 : decode cX2_line 320 = .ok (.goto 75, 3) := dk_167 0 75 (dk_at dksX2_line_9 15 rfl rfl)
theorem dX2_line_323 : decode cX2_line 323 = .ok (.aload_n 1, 1) := dk_43 (dk_at dksX2_line_9 18 rfl rfl)
theorem dX2_line_324 : decode cX2_line 324 = .ok (.ldc 112, 2) := dk_18 112 (dk_at dksX2_line_9 19 rfl rfl)
theorem dX2_line_326 : decode cX2_line 326 = .ok (.invokevirtual 71, 3) := dk_182 0 71 (dk_at dksX2_line_9 21 rfl rfl)
theorem dX2_line_329 : decode cX2_line 329 = .ok (.ifCond .eq 66, 3) := dk_153 0 66 (dk_at dksX2_line_10 0 rfl rfl)
theorem dX2_line_332 : decode cX2_line 332 = .ok (.bipush 11, 2) := dk_16 11 (dk_at dksX2_line_10 3 rfl rfl)
theorem dX2_line_334 : decode cX2_line 334 = .ok (.istore_n 2, 1) := dk_61 (dk_at dksX2_line_10 5 rfl rfl)
theorem dX2_line_335 : decode cX2_line 335 = .ok (.goto 60, 3) := dk_167 0 60 (dk_at dksX2_line_10 6 rfl rfl)
theorem dX2_line_338 : decode cX2_line 338 = .ok (.aload_n 1, 1) := dk_43 (dk_at dksX2_line_10 9 rfl rfl)
theorem dX2_line_339 : decode cX2_line 339 = .ok (.ldc 114, 2) := dk_18 114 (dk_at dksX2_line_10 10 rfl rfl)
theorem dX2_line_341 : decode cX2_line 341 = .ok (.invokevirtual 71, 3) := dk_182 0 71 (dk_at dksX2_line_10 12 rfl rfl)
theorem dX2_line_344 : decode cX2_line 344 = .ok (.ifCond .eq 51, 3) := dk_153 0 51 (dk_at dksX2_line_10 15 rfl rfl)
theorem dX2_line_347 : decode cX2_line 347 = .ok (.bipush 12, 2) := dk_16 12 (dk_at dksX2_line_10 18 rfl rfl)
theorem dX2_line_349 : decode cX2_line 349 = .ok (.istore_n 2, 1) := dk_61 (dk_at dksX2_line_10 20 rfl rfl)
theorem dX2_line_350 : decode cX2_line 350 = .ok (.goto 45, 3) := dk_167 0 45 (dk_at dksX2_line_10 21 rfl rfl)
theorem dX2_line_353 : decode cX2_line 353 = .ok (.aload_n 1, 1) := dk_43 (dk_at dksX2_line_11 0 rfl rfl)
theorem dX2_line_354 : decode cX2_line 354 = .ok (.ldc 116, 2) := dk_18 116 (dk_at dksX2_line_11 1 rfl rfl)
theorem dX2_line_356 : decode cX2_line 356 = .ok (.invokevirtual 71, 3) := dk_182 0 71 (dk_at dksX2_line_11 3 rfl rfl)
theorem dX2_line_359 : decode cX2_line 359 = .ok (.ifCond .eq 36, 3) := dk_153 0 36 (dk_at dksX2_line_11 6 rfl rfl)
theorem dX2_line_362 : decode cX2_line 362 = .ok (.bipush 13, 2) := dk_16 13 (dk_at dksX2_line_11 9 rfl rfl)
theorem dX2_line_364 : decode cX2_line 364 = .ok (.istore_n 2, 1) := dk_61 (dk_at dksX2_line_11 11 rfl rfl)
theorem dX2_line_365 : decode cX2_line 365 = .ok (.goto 30, 3) := dk_167 0 30 (dk_at dksX2_line_11 12 rfl rfl)
theorem dX2_line_368 : decode cX2_line 368 = .ok (.aload_n 1, 1) := dk_43 (dk_at dksX2_line_11 15 rfl rfl)
theorem dX2_line_369 : decode cX2_line 369 = .ok (.ldc 118, 2) := dk_18 118 (dk_at dksX2_line_11 16 rfl rfl)
theorem dX2_line_371 : decode cX2_line 371 = .ok (.invokevirtual 71, 3) := dk_182 0 71 (dk_at dksX2_line_11 18 rfl rfl)
theorem dX2_line_374 : decode cX2_line 374 = .ok (.ifCond .eq 21, 3) := dk_153 0 21 (dk_at dksX2_line_11 21 rfl rfl)
theorem dX2_line_377 : decode cX2_line 377 = .ok (.bipush 14, 2) := dk_16 14 (dk_at dksX2_line_12 0 rfl rfl)
theorem dX2_line_379 : decode cX2_line 379 = .ok (.istore_n 2, 1) := dk_61 (dk_at dksX2_line_12 2 rfl rfl)
theorem dX2_line_380 : decode cX2_line 380 = .ok (.goto 15, 3) := dk_167 0 15 (dk_at dksX2_line_12 3 rfl rfl)
theorem dX2_line_383 : decode cX2_line 383 = .ok (.aload_n 1, 1) := dk_43 (dk_at dksX2_line_12 6 rfl rfl)
theorem dX2_line_384 : decode cX2_line 384 = .ok (.ldc 120, 2) := dk_18 120 (dk_at dksX2_line_12 7 rfl rfl)
theorem dX2_line_386 : decode cX2_line 386 = .ok (.invokevirtual 71, 3) := dk_182 0 71 (dk_at dksX2_line_12 9 rfl rfl)
theorem dX2_line_389 : decode cX2_line 389 = .ok (.ifCond .eq 6, 3) := dk_153 0 6 (dk_at dksX2_line_12 12 rfl rfl)
theorem dX2_line_392 : decode cX2_line 392 = .ok (.bipush 15, 2) := dk_16 15 (dk_at dksX2_line_12 15 rfl rfl)
theorem dX2_line_394 : decode cX2_line 394 = .ok (.istore_n 2, 1) := dk_61 (dk_at dksX2_line_12 17 rfl rfl)
theorem dX2_line_395 : decode cX2_line 395 = .ok (.iload_n 2, 1) := dk_28 (dk_at dksX2_line_12 18 rfl rfl)
theorem dX2_line_396 : decode cX2_line 396 = .ok (.tableswitch 178 0 15 #[80, 87, 94, 101, 108, 115, 122, 129, 129, 129, 136, 143, 150, 157, 164, 171], 80) := by decide +kernel
theorem dX2_line_476 : decode cX2_line 476 = .ok (.aload_n 0, 1) := dk_42 (dk_at dksX2_line_14 0 rfl rfl)
theorem dX2_line_477 : decode cX2_line 477 = .ok (.invokevirtual 187, 3) := dk_182 0 187 (dk_at dksX2_line_14 1 rfl rfl)
theorem dX2_line_480 : decode cX2_line 480 = .ok (.goto 100, 3) := dk_167 0 100 (dk_at dksX2_line_14 4 rfl rfl)
theorem dX2_line_483 : decode cX2_line 483 = .ok (.aload_n 0, 1) := dk_42 (dk_at dksX2_line_14 7 rfl rfl)
theorem dX2_line_484 : decode cX2_line 484 = .ok (.invokevirtual 190, 3) := dk_182 0 190 (dk_at dksX2_line_14 8 rfl rfl)
theorem dX2_line_487 : decode cX2_line 487 = .ok (.goto 93, 3) := dk_167 0 93 (dk_at dksX2_line_14 11 rfl rfl)
theorem dX2_line_490 : decode cX2_line 490 = .ok (.aload_n 0, 1) := dk_42 (dk_at dksX2_line_14 14 rfl rfl)
theorem dX2_line_491 : decode cX2_line 491 = .ok (.invokevirtual 193, 3) := dk_182 0 193 (dk_at dksX2_line_14 15 rfl rfl)
theorem dX2_line_494 : decode cX2_line 494 = .ok (.goto 86, 3) := dk_167 0 86 (dk_at dksX2_line_14 18 rfl rfl)
theorem dX2_line_497 : decode cX2_line 497 = .ok (.aload_n 0, 1) := dk_42 (dk_at dksX2_line_14 21 rfl rfl)
theorem dX2_line_498 : decode cX2_line 498 = .ok (.invokevirtual 195, 3) := dk_182 0 195 (dk_at dksX2_line_15 0 rfl rfl)
theorem dX2_line_501 : decode cX2_line 501 = .ok (.goto 79, 3) := dk_167 0 79 (dk_at dksX2_line_15 3 rfl rfl)
theorem dX2_line_504 : decode cX2_line 504 = .ok (.aload_n 0, 1) := dk_42 (dk_at dksX2_line_15 6 rfl rfl)
theorem dX2_line_505 : decode cX2_line 505 = .ok (.invokevirtual 197, 3) := dk_182 0 197 (dk_at dksX2_line_15 7 rfl rfl)
theorem dX2_line_508 : decode cX2_line 508 = .ok (.goto 72, 3) := dk_167 0 72 (dk_at dksX2_line_15 10 rfl rfl)
theorem dX2_line_511 : decode cX2_line 511 = .ok (.aload_n 0, 1) := dk_42 (dk_at dksX2_line_15 13 rfl rfl)
theorem dX2_line_512 : decode cX2_line 512 = .ok (.invokevirtual 199, 3) := dk_182 0 199 (dk_at dksX2_line_15 14 rfl rfl)
theorem dX2_line_515 : decode cX2_line 515 = .ok (.goto 65, 3) := dk_167 0 65 (dk_at dksX2_line_15 17 rfl rfl)
theorem dX2_line_518 : decode cX2_line 518 = .ok (.aload_n 0, 1) := dk_42 (dk_at dksX2_line_15 20 rfl rfl)
theorem dX2_line_519 : decode cX2_line 519 = .ok (.invokevirtual 202, 3) := dk_182 0 202 (dk_at dksX2_line_15 21 rfl rfl)
theorem dX2_line_522 : decode cX2_line 522 = .ok (.goto 58, 3) := dk_167 0 58 (dk_at dksX2_line_16 0 rfl rfl)
theorem dX2_line_525 : decode cX2_line 525 = .ok (.aload_n 0, 1) := dk_42 (dk_at dksX2_line_16 3 rfl rfl)
theorem dX2_line_526 : decode cX2_line 526 = .ok (.invokevirtual 204, 3) := dk_182 0 204 (dk_at dksX2_line_16 4 rfl rfl)
theorem dX2_line_529 : decode cX2_line 529 = .ok (.goto 51, 3) := dk_167 0 51 (dk_at dksX2_line_16 7 rfl rfl)
theorem dX2_line_532 : decode cX2_line 532 = .ok (.aload_n 0, 1) := dk_42 (dk_at dksX2_line_16 10 rfl rfl)
theorem dX2_line_533 : decode cX2_line 533 = .ok (.invokevirtual 207, 3) := dk_182 0 207 (dk_at dksX2_line_16 11 rfl rfl)
theorem dX2_line_536 : decode cX2_line 536 = .ok (.goto 44, 3) := dk_167 0 44 (dk_at dksX2_line_16 14 rfl rfl)
theorem dX2_line_539 : decode cX2_line 539 = .ok (.aload_n 0, 1) := dk_42 (dk_at dksX2_line_16 17 rfl rfl)
theorem dX2_line_540 : decode cX2_line 540 = .ok (.invokevirtual 210, 3) := dk_182 0 210 (dk_at dksX2_line_16 18 rfl rfl)
theorem dX2_line_543 : decode cX2_line 543 = .ok (.goto 37, 3) := dk_167 0 37 (dk_at dksX2_line_16 21 rfl rfl)
theorem dX2_line_546 : decode cX2_line 546 = .ok (.aload_n 0, 1) := dk_42 (dk_at dksX2_line_17 0 rfl rfl)
theorem dX2_line_547 : decode cX2_line 547 = .ok (.invokevirtual 212, 3) := dk_182 0 212 (dk_at dksX2_line_17 1 rfl rfl)
theorem dX2_line_550 : decode cX2_line 550 = .ok (.goto 30, 3) := dk_167 0 30 (dk_at dksX2_line_17 4 rfl rfl)
theorem dX2_line_553 : decode cX2_line 553 = .ok (.aload_n 0, 1) := dk_42 (dk_at dksX2_line_17 7 rfl rfl)
theorem dX2_line_554 : decode cX2_line 554 = .ok (.invokevirtual 214, 3) := dk_182 0 214 (dk_at dksX2_line_17 8 rfl rfl)
theorem dX2_line_557 : decode cX2_line 557 = .ok (.goto 23, 3) := dk_167 0 23 (dk_at dksX2_line_17 11 rfl rfl)
theorem dX2_line_560 : decode cX2_line 560 = .ok (.aload_n 0, 1) := dk_42 (dk_at dksX2_line_17 14 rfl rfl)
theorem dX2_line_561 : decode cX2_line 561 = .ok (.invokevirtual 216, 3) := dk_182 0 216 (dk_at dksX2_line_17 15 rfl rfl)
theorem dX2_line_564 : decode cX2_line 564 = .ok (.goto 16, 3) := dk_167 0 16 (dk_at dksX2_line_17 18 rfl rfl)
theorem dX2_line_567 : decode cX2_line 567 = .ok (.aload_n 0, 1) := dk_42 (dk_at dksX2_line_17 21 rfl rfl)
theorem dX2_line_568 : decode cX2_line 568 = .ok (.invokevirtual 218, 3) := dk_182 0 218 (dk_at dksX2_line_18 0 rfl rfl)
theorem dX2_line_571 : decode cX2_line 571 = .ok (.goto 9, 3) := dk_167 0 9 (dk_at dksX2_line_18 3 rfl rfl)
theorem dX2_line_574 : decode cX2_line 574 = .ok (.aload_n 0, 1) := dk_42 (dk_at dksX2_line_18 6 rfl rfl)
theorem dX2_line_575 : decode cX2_line 575 = .ok (.iconst 1, 1) := dk_4 (dk_at dksX2_line_18 7 rfl rfl)
theorem dX2_line_576 : decode cX2_line 576 = .ok (.invokevirtual 82, 3) := dk_182 0 82 (dk_at dksX2_line_18 8 rfl rfl)
theorem dX2_line_579 : decode cX2_line 579 = .ok (.athrow, 1) := dk_191 (dk_at dksX2_line_18 11 rfl rfl)
theorem dX2_line_580 : decode cX2_line 580 = .ok (.return_, 1) := dk_177 (dk_at dksX2_line_18 12 rfl rfl)
def dkwX2_read_4 : List UInt8 := [176]
abbrev dktX2_read_4 : List UInt8 := dkwX2_read_4 ++ []
def dkwX2_read_3 : List UInt8 := [153, 0, 13, 42, 180, 0, 127, 180, 0, 184, 154, 0, 10, 42, 16, 6, 182, 0, 82, 191, 42, 180, 0, 127]
abbrev dktX2_read_3 : List UInt8 := dkwX2_read_3 ++ dktX2_read_4
def dkwX2_read_2 : List UInt8 := [167, 255, 239, 42, 180, 0, 47, 153, 0, 9, 42, 4, 182, 0, 82, 191, 42, 180, 0, 127, 180, 0, 163]
abbrev dktX2_read_2 : List UInt8 := dkwX2_read_2 ++ dktX2_read_3
def dkwX2_read_1 : List UInt8 := [182, 0, 75, 42, 182, 0, 181, 42, 180, 0, 47, 16, 59, 160, 0, 14, 42, 182, 0, 75, 42, 182, 0, 181]
abbrev dktX2_read_1 : List UInt8 := dkwX2_read_1 ++ dktX2_read_2
def dkwX2_read_0 : List UInt8 := [42, 27, 181, 0, 33, 42, 3, 181, 0, 40, 42, 187, 0, 131, 89, 183, 0, 180, 181, 0, 127, 42]
abbrev dktX2_read_0 : List UInt8 := dkwX2_read_0 ++ dktX2_read_1
theorem dksX2_read_0 : cX2_read.data.toList.drop 0 = dktX2_read_0 := by decide +kernel
theorem dksX2_read_1 : cX2_read.data.toList.drop 22 = dktX2_read_1 := dk_seg dksX2_read_0 22 rfl rfl
theorem dksX2_read_2 : cX2_read.data.toList.drop 46 = dktX2_read_2 := dk_seg dksX2_read_1 24 rfl rfl
theorem dksX2_read_3 : cX2_read.data.toList.drop 69 = dktX2_read_3 := dk_seg dksX2_read_2 23 rfl rfl
theorem dksX2_read_4 : cX2_read.data.toList.drop 93 = dktX2_read_4 := dk_seg dksX2_read_3 24 rfl rfl
theorem dX2_read_0 : decode cX2_read 0 = .ok (.aload_n 0, 1) := dk_42 (dk_at dksX2_read_0 0 rfl rfl)
theorem dX2_read_1 : decode cX2_read 1 = .ok (.iload_n 1, 1) := dk_27 (dk_at dksX2_read_0 1 rfl rfl)
theorem dX2_read_2 : decode cX2_read 2 = .ok (.putfield 33, 3) := dk_181 0 33 (dk_at dksX2_read_0 2 rfl rfl)
theorem dX2_read_5 : decode cX2_read 5 = .ok (.aload_n 0, 1) := dk_42 (dk_at dksX2_read_0 5 rfl rfl)
theorem dX2_read_6 : decode cX2_read 6 = .ok (.iconst 0, 1) := dk_3 (dk_at dksX2_read_0 6 rfl rfl)
theorem dX2_read_7 : decode cX2_read 7 = .ok (.putfield 40, 3) := dk_181 0 40 (dk_at dksX2_read_0 7 rfl rfl)
theorem dX2_read_10 : decode cX2_read 10 = .ok (.aload_n 0, 1) := dk_42 (dk_at dksX2_read_0 10 rfl rfl)
theorem dX2_read_11 : decode cX2_read 11 = .ok (.new 131, 3) := dk_187 0 131 (dk_at dksX2_read_0 11 rfl rfl)
theorem dX2_read_14 : decode cX2_read 14 = .ok (.dup, 1) := dk_89 (dk_at dksX2_read_0 14 rfl rfl)
theorem dX2_read_15 : decode cX2_read 15 = .ok (.invokespecial 180, 3) := dk_183 0 180 (dk_at dksX2_read_0 15 rfl rfl)
theorem dX2_read_18 : decode cX2_read 18 = .ok (.putfield 127, 3) := dk_181 0 127 (dk_at dksX2_read_0 18 rfl rfl)
theorem dX2_read_21 : decode cX2_read 21 = .ok (.aload_n 0, 1) := dk_42 (dk_at dksX2_read_0 21 rfl rfl)
theorem dX2_read_22 : decode cX2_read 22 = .ok (.invokevirtual 75, 3) := dk_182 0 75 (dk_at dksX2_read_1 0 rfl rfl)
theorem dX2_read_25 : decode cX2_read 25 = .ok (.aload_n 0, 1) := dk_42 (dk_at dksX2_read_1 3 rfl rfl)
theorem dX2_read_26 : decode cX2_read 26 = .ok (.invokevirtual 181, 3) := dk_182 0 181 (dk_at dksX2_read_1 4 rfl rfl)
theorem dX2_read_29 : decode cX2_read 29 = .ok (.aload_n 0, 1) := dk_42 (dk_at dksX2_read_1 7 rfl rfl)
theorem dX2_read_30 : decode cX2_read 30 = .ok (.getfield 47, 3) := dk_180 0 47 (dk_at dksX2_read_1 8 rfl rfl)
theorem dX2_read_33 : decode cX2_read 33 = .ok (.bipush 59, 2) := dk_16 59 (dk_at dksX2_read_1 11 rfl rfl)
theorem dX2_read_35 : decode cX2_read 35 = .ok (.if_icmp .ne 14, 3) := dk_160 0 14 (dk_at dksX2_read_1 13 rfl rfl)
theorem dX2_read_38 : decode cX2_read 38 = .ok (.aload_n 0, 1) := dk_42 (dk_at dksX2_read_1 16 rfl rfl)
theorem dX2_read_39 : decode cX2_read 39 = .ok (.invokevirtual 75, 3) := dk_182 0 75 (dk_at dksX2_read_1 17 rfl rfl)
theorem dX2_read_42 : decode cX2_read 42 = .ok (.aload_n 0, 1) := dk_42 (dk_at dksX2_read_1 20 rfl rfl)
theorem dX2_read_43 : decode cX2_read 43 = .ok (.invokevirtual 181, 3) := dk_182 0 181 (dk_at dksX2_read_1 21 rfl rfl)
theorem dX2_read_46 : decode cX2_read 46 = .ok (.goto (-17), 3) := dk_167 255 239 (dk_at dksX2_read_2 0 rfl rfl)
theorem dX2_read_49 : decode cX2_read 49 = .ok (.aload_n 0, 1) := dk_42 (dk_at dksX2_read_2 3 rfl rfl)
theorem dX2_read_50 : decode cX2_read 50 = .ok (.getfield 47, 3) := dk_180 0 47 (dk_at dksX2_read_2 4 rfl rfl)
theorem dX2_read_53 : decode cX2_read 53 = .ok (.ifCond .eq 9, 3) := dk_153 0 9 (dk_at dksX2_read_2 7 rfl rfl)
theorem dX2_read_56 : decode cX2_read 56 = .ok (.aload_n 0, 1) := dk_42 (dk_at dksX2_read_2 10 rfl rfl)
theorem dX2_read_57 : decode cX2_read 57 = .ok (.iconst 1, 1) := dk_4 (dk_at dksX2_read_2 11 rfl rfl)
theorem dX2_read_58 : decode cX2_read 58 = .ok (.invokevirtual 82, 3) := dk_182 0 82 (dk_at dksX2_read_2 12 rfl rfl)
theorem dX2_read_61 : decode cX2_read 61 = .ok (.athrow, 1) := dk_191 (dk_at dksX2_read_2 15 rfl rfl)
theorem dX2_read_62 : decode cX2_read 62 = .ok (.aload_n 0, 1) := dk_42 (dk_at dksX2_read_2 16 rfl rfl)
theorem dX2_read_63 : decode cX2_read 63 = .ok (.getfield 127, 3) := dk_180 0 127 (dk_at dksX2_read_2 17 rfl rfl)
theorem dX2_read_66 : decode cX2_read 66 = .ok (.getfield 163, 3) := dk_180 0 163 (dk_at dksX2_read_2 20 rfl rfl)
theorem dX2_read_69 : decode cX2_read 69 = .ok (.ifCond .eq 13, 3) := dk_153 0 13 (dk_at dksX2_read_3 0 rfl rfl)
theorem dX2_read_72 : decode cX2_read 72 = .ok (.aload_n 0, 1) := dk_42 (dk_at dksX2_read_3 3 rfl rfl)
theorem dX2_read_73 : decode cX2_read 73 = .ok (.getfield 127, 3) := dk_180 0 127 (dk_at dksX2_read_3 4 rfl rfl)
theorem dX2_read_76 : decode cX2_read 76 = .ok (.getfield 184, 3) := dk_180 0 184 (dk_at dksX2_read_3 7 rfl rfl)
theorem dX2_read_79 : decode cX2_read 79 = .ok (.ifCond .ne 10, 3) := dk_154 0 10 (dk_at dksX2_read_3 10 rfl rfl)
theorem dX2_read_82 : decode cX2_read 82 = .ok (.aload_n 0, 1) := dk_42 (dk_at dksX2_read_3 13 rfl rfl)
theorem dX2_read_83 : decode cX2_read 83 = .ok (.bipush 6, 2) := dk_16 6 (dk_at dksX2_read_3 14 rfl rfl)
theorem dX2_read_85 : decode cX2_read 85 = .ok (.invokevirtual 82, 3) := dk_182 0 82 (dk_at dksX2_read_3 16 rfl rfl)
theorem dX2_read_88 : decode cX2_read 88 = .ok (.athrow, 1) := dk_191 (dk_at dksX2_read_3 19 rfl rfl)
theorem dX2_read_89 : decode cX2_read 89 = .ok (.aload_n 0, 1) := dk_42 (dk_at dksX2_read_3 20 rfl rfl)
theorem dX2_read_90 : decode cX2_read 90 = .ok (.getfield 127, 3) := dk_180 0 127 (dk_at dksX2_read_3 21 rfl rfl)
theorem dX2_read_93 : decode cX2_read 93 = .ok (.areturn, 1) := dk_176 (dk_at dksX2_read_4 0 rfl rfl)
def dkwX4_begin_1 : List UInt8 := [132, 2, 1, 167, 255, 233, 42, 3, 181, 0, 18, 42, 4, 43, 180, 0, 22, 120, 4, 100, 181, 0, 27, 177]
abbrev dktX4_begin_1 : List UInt8 := dkwX4_begin_1 ++ []
def dkwX4_begin_0 : List UInt8 := [3, 61, 28, 16, 12, 162, 0, 23, 42, 180, 0, 9, 28, 3, 79, 42, 180, 0, 15, 28, 3, 79]
abbrev dktX4_begin_0 : List UInt8 := dkwX4_begin_0 ++ dktX4_begin_1
theorem dksX4_begin_0 : cX4_begin.data.toList.drop 0 = dktX4_begin_0 := by decide +kernel
theorem dksX4_begin_1 : cX4_begin.data.toList.drop 22 = dktX4_begin_1 := dk_seg dksX4_begin_0 22 rfl rfl
theorem dX4_begin_0 : decode cX4_begin 0 = .ok (.iconst 0, 1) := dk_3 (dk_at dksX4_begin_0 0 rfl rfl)
theorem dX4_begin_1 : decode cX4_begin 1 = .ok (.istore_n 2, 1) := dk_61 (dk_at dksX4_begin_0 1 rfl rfl)
theorem dX4_begin_2 : decode cX4_begin 2 = .ok (.iload_n 2, 1) := dk_28 (dk_at dksX4_begin_0 2 rfl rfl)
theorem dX4_begin_3 : decode cX4_begin 3 = .ok (.bipush 12, 2) := dk_16 12 (dk_at dksX4_begin_0 3 rfl rfl)
theorem dX4_begin_5 : decode cX4_begin 5 = .ok (.if_icmp .ge 23, 3) := dk_162 0 23 (dk_at dksX4_begin_0 5 rfl rfl)
theorem dX4_begin_8 : decode cX4_begin 8 = .ok (.aload_n 0, 1) := dk_42 (dk_at dksX4_begin_0 8 rfl rfl)
theorem dX4_begin_9 : decode cX4_begin 9 = .ok (.getfield 9, 3) := dk_180 0 9 (dk_at dksX4_begin_0 9 rfl rfl)
theorem dX4_begin_12 : decode cX4_begin 12 = .ok (.iload_n 2, 1) := dk_28 (dk_at dksX4_begin_0 12 rfl rfl)
theorem dX4_begin_13 : decode cX4_begin 13 = .ok (.iconst 0, 1) := dk_3 (dk_at dksX4_begin_0 13 rfl rfl)
theorem dX4_begin_14 : decode cX4_begin 14 = .ok (.iastore, 1) := dk_79 (dk_at dksX4_begin_0 14 rfl rfl)
theorem dX4_begin_15 : decode cX4_begin 15 = .ok (.aload_n 0, 1) := dk_42 (dk_at dksX4_begin_0 15 rfl rfl)
theorem dX4_begin_16 : decode cX4_begin 16 = .ok (.getfield 15, 3) := dk_180 0 15 (dk_at dksX4_begin_0 16 rfl rfl)
theorem dX4_begin_19 : decode cX4_begin 19 = .ok (.iload_n 2, 1) := dk_28 (dk_at dksX4_begin_0 19 rfl rfl)
theorem dX4_begin_20 : decode cX4_begin 20 = .ok (.iconst 0, 1) := dk_3 (dk_at dksX4_begin_0 20 rfl rfl)
theorem dX4_begin_21 : decode cX4_begin 21 = .ok (.iastore, 1) := dk_79 (dk_at dksX4_begin_0 21 rfl rfl)
theorem dX4_begin_22 : decode cX4_begin 22 = .ok (.iinc 2 1, 3) := dk_132 2 1 (dk_at dksX4_begin_1 0 rfl rfl)
theorem dX4_begin_25 : decode cX4_begin 25 = .ok (.goto (-23), 3) := dk_167 255 233 (dk_at dksX4_begin_1 3 rfl rfl)
theorem dX4_begin_28 : decode cX4_begin 28 = .ok (.aload_n 0, 1) := dk_42 (dk_at dksX4_begin_1 6 rfl rfl)
theorem dX4_begin_29 : decode cX4_begin 29 = .ok (.iconst 0, 1) := dk_3 (dk_at dksX4_begin_1 7 rfl rfl)
theorem dX4_begin_30 : decode cX4_begin 30 = .ok (.putfield 18, 3) := dk_181 0 18 (dk_at dksX4_begin_1 8 rfl rfl)
theorem dX4_begin_33 : decode cX4_begin 33 = .ok (.aload_n 0, 1) := dk_42 (dk_at dksX4_begin_1 11 rfl rfl)
theorem dX4_begin_34 : decode cX4_begin 34 = .ok (.iconst 1, 1) := dk_4 (dk_at dksX4_begin_1 12 rfl rfl)
theorem dX4_begin_35 : decode cX4_begin 35 = .ok (.aload_n 1, 1) := dk_43 (dk_at dksX4_begin_1 13 rfl rfl)
theorem dX4_begin_36 : decode cX4_begin 36 = .ok (.getfield 22, 3) := dk_180 0 22 (dk_at dksX4_begin_1 14 rfl rfl)
theorem dX4_begin_39 : decode cX4_begin 39 = .ok (.ishl, 1) := dk_120 (dk_at dksX4_begin_1 17 rfl rfl)
theorem dX4_begin_40 : decode cX4_begin 40 = .ok (.iconst 1, 1) := dk_4 (dk_at dksX4_begin_1 18 rfl rfl)
theorem dX4_begin_41 : decode cX4_begin 41 = .ok (.isub, 1) := dk_100 (dk_at dksX4_begin_1 19 rfl rfl)
theorem dX4_begin_42 : decode cX4_begin 42 = .ok (.putfield 27, 3) := dk_181 0 27 (dk_at dksX4_begin_1 20 rfl rfl)
theorem dX4_begin_45 : decode cX4_begin 45 = .ok (.return_, 1) := dk_177 (dk_at dksX4_begin_1 23 rfl rfl)
def dkwX8_cases_1 : List UInt8 := [184, 0, 104, 104, 60, 132, 2, 1, 167, 255, 229, 27, 172]
abbrev dktX8_cases_1 : List UInt8 := dkwX8_cases_1 ++ []
def dkwX8_cases_0 : List UInt8 := [4, 60, 3, 61, 28, 42, 180, 0, 86, 162, 0, 25, 27, 4, 42, 180, 0, 32, 28, 50, 180, 0, 101]
abbrev dktX8_cases_0 : List UInt8 := dkwX8_cases_0 ++ dktX8_cases_1
theorem dksX8_cases_0 : cX8_cases.data.toList.drop 0 = dktX8_cases_0 := by decide +kernel
theorem dksX8_cases_1 : cX8_cases.data.toList.drop 23 = dktX8_cases_1 := dk_seg dksX8_cases_0 23 rfl rfl
theorem dX8_cases_0 : decode cX8_cases 0 = .ok (.iconst 1, 1) := dk_4 (dk_at dksX8_cases_0 0 rfl rfl)
theorem dX8_cases_1 : decode cX8_cases 1 = .ok (.istore_n 1, 1) := dk_60 (dk_at dksX8_cases_0 1 rfl rfl)
theorem dX8_cases_2 : decode cX8_cases 2 = .ok (.iconst 0, 1) := dk_3 (dk_at dksX8_cases_0 2 rfl rfl)
theorem dX8_cases_3 : decode cX8_cases 3 = .ok (.istore_n 2, 1) := dk_61 (dk_at dksX8_cases_0 3 rfl rfl)
theorem dX8_cases_4 : decode cX8_cases 4 = .ok (.iload_n 2, 1) := dk_28 (dk_at dksX8_cases_0 4 rfl rfl)
theorem dX8_cases_5 : decode cX8_cases 5 = .ok (.aload_n 0, 1) := dk_42 (dk_at dksX8_cases_0 5 rfl rfl)
theorem dX8_cases_6 : decode cX8_cases 6 = .ok (.getfield 86, 3) := dk_180 0 86 (dk_at dksX8_cases_0 6 rfl rfl)
theorem dX8_cases_9 : decode cX8_cases 9 = .ok (.if_icmp .ge 25, 3) := dk_162 0 25 (dk_at dksX8_cases_0 9 rfl rfl)
theorem dX8_cases_12 : decode cX8_cases 12 = .ok (.iload_n 1, 1) := dk_27 (dk_at dksX8_cases_0 12 rfl rfl)
theorem dX8_cases_13 : decode cX8_cases 13 = .ok (.iconst 1, 1) := dk_4 (dk_at dksX8_cases_0 13 rfl rfl)
theorem dX8_cases_14 : decode cX8_cases 14 = .ok (.aload_n 0, 1) := dk_42 (dk_at dksX8_cases_0 14 rfl rfl)
theorem dX8_cases_15 : decode cX8_cases 15 = .ok (.getfield 32, 3) := dk_180 0 32 (dk_at dksX8_cases_0 15 rfl rfl)
theorem dX8_cases_18 : decode cX8_cases 18 = .ok (.iload_n 2, 1) := dk_28 (dk_at dksX8_cases_0 18 rfl rfl)
theorem dX8_cases_19 : decode cX8_cases 19 = .ok (.aaload, 1) := dk_50 (dk_at dksX8_cases_0 19 rfl rfl)
theorem dX8_cases_20 : decode cX8_cases 20 = .ok (.getfield 101, 3) := dk_180 0 101 (dk_at dksX8_cases_0 20 rfl rfl)
theorem dX8_cases_23 : decode cX8_cases 23 = .ok (.invokestatic 104, 3) := dk_184 0 104 (dk_at dksX8_cases_1 0 rfl rfl)
theorem dX8_cases_26 : decode cX8_cases 26 = .ok (.imul, 1) := dk_104 (dk_at dksX8_cases_1 3 rfl rfl)
theorem dX8_cases_27 : decode cX8_cases 27 = .ok (.istore_n 1, 1) := dk_60 (dk_at dksX8_cases_1 4 rfl rfl)
theorem dX8_cases_28 : decode cX8_cases 28 = .ok (.iinc 2 1, 3) := dk_132 2 1 (dk_at dksX8_cases_1 5 rfl rfl)
theorem dX8_cases_31 : decode cX8_cases 31 = .ok (.goto (-27), 3) := dk_167 255 229 (dk_at dksX8_cases_1 8 rfl rfl)
theorem dX8_cases_34 : decode cX8_cases 34 = .ok (.iload_n 1, 1) := dk_27 (dk_at dksX8_cases_1 11 rfl rfl)
theorem dX8_cases_35 : decode cX8_cases 35 = .ok (.ireturn, 1) := dk_172 (dk_at dksX8_cases_1 12 rfl rfl)
def dkwX1_hill_4 : List UInt8 := [182, 0, 124, 172]
abbrev dktX1_hill_4 : List UInt8 := dkwX1_hill_4 ++ []
def dkwX1_hill_3 : List UInt8 := [180, 0, 33, 42, 180, 0, 104, 182, 0, 114, 42, 3, 181, 0, 118, 42, 3, 181, 0, 121, 42, 180, 0, 104]
abbrev dktX1_hill_3 : List UInt8 := dkwX1_hill_3 ++ dktX1_hill_4
def dkwX1_hill_2 : List UInt8 := [42, 44, 180, 0, 110, 181, 0, 97, 42, 44, 180, 0, 111, 181, 0, 26, 42, 7, 182, 0, 94, 172, 42]
abbrev dktX1_hill_2 : List UInt8 := dkwX1_hill_2 ++ dktX1_hill_3
def dkwX1_hill_1 : List UInt8 := [181, 0, 83, 42, 3, 181, 0, 97, 42, 42, 180, 0, 22, 27, 182, 0, 100, 181, 0, 104, 167, 0, 26, 77]
abbrev dktX1_hill_1 : List UInt8 := dkwX1_hill_1 ++ dktX1_hill_2
def dkwX1_hill_0 : List UInt8 := [42, 182, 0, 80, 27, 3, 42, 180, 0, 83, 184, 0, 90, 154, 0, 9, 42, 5, 182, 0, 94, 172, 42, 3]
abbrev dktX1_hill_0 : List UInt8 := dkwX1_hill_0 ++ dktX1_hill_1
theorem dksX1_hill_0 : cX1_hill.data.toList.drop 0 = dktX1_hill_0 := by decide +kernel
theorem dksX1_hill_1 : cX1_hill.data.toList.drop 24 = dktX1_hill_1 := dk_seg dksX1_hill_0 24 rfl rfl
theorem dksX1_hill_2 : cX1_hill.data.toList.drop 48 = dktX1_hill_2 := dk_seg dksX1_hill_1 24 rfl rfl
theorem dksX1_hill_3 : cX1_hill.data.toList.drop 71 = dktX1_hill_3 := dk_seg dksX1_hill_2 23 rfl rfl
theorem dksX1_hill_4 : cX1_hill.data.toList.drop 95 = dktX1_hill_4 := dk_seg dksX1_hill_3 24 rfl rfl
theorem dX1_hill_0 : decode cX1_hill 0 = .ok (.aload_n 0, 1) := dk_42 (dk_at dksX1_hill_0 0 rfl rfl)
theorem dX1_hill_1 : decode cX1_hill 1 = .ok (.invokevirtual 80, 3) := dk_182 0 80 (dk_at dksX1_hill_0 1 rfl rfl)
theorem dX1_hill_4 : decode cX1_hill 4 = .ok (.iload_n 1, 1) := dk_27 (dk_at dksX1_hill_0 4 rfl rfl)
theorem dX1_hill_5 : decode cX1_hill 5 = .ok (.iconst 0, 1) := dk_3 (dk_at dksX1_hill_0 5 rfl rfl)
theorem dX1_hill_6 : decode cX1_hill 6 = .ok (.aload_n 0, 1) := dk_42 (dk_at dksX1_hill_0 6 rfl rfl)
theorem dX1_hill_7 : decode cX1_hill 7 = .ok (.getfield 83, 3) := dk_180 0 83 (dk_at dksX1_hill_0 7 rfl rfl)
theorem dX1_hill_10 : decode cX1_hill 10 = .ok (.invokestatic 90, 3) := dk_184 0 90 (dk_at dksX1_hill_0 10 rfl rfl)
theorem dX1_hill_13 : decode cX1_hill 13 = .ok (.ifCond .ne 9, 3) := dk_154 0 9 (dk_at dksX1_hill_0 13 rfl rfl)
theorem dX1_hill_16 : decode cX1_hill 16 = .ok (.aload_n 0, 1) := dk_42 (dk_at dksX1_hill_0 16 rfl rfl)
theorem dX1_hill_17 : decode cX1_hill 17 = .ok (.iconst 2, 1) := dk_5 (dk_at dksX1_hill_0 17 rfl rfl)
theorem dX1_hill_18 : decode cX1_hill 18 = .ok (.invokevirtual 94, 3) := dk_182 0 94 (dk_at dksX1_hill_0 18 rfl rfl)
theorem dX1_hill_21 : decode cX1_hill 21 = .ok (.ireturn, 1) := dk_172 (dk_at dksX1_hill_0 21 rfl rfl)
theorem dX1_hill_22 : decode cX1_hill 22 = .ok (.aload_n 0, 1) := dk_42 (dk_at dksX1_hill_0 22 rfl rfl)
theorem dX1_hill_23 : decode cX1_hill 23 = .ok (.iconst 0, 1) := dk_3 (dk_at dksX1_hill_0 23 rfl rfl)
theorem dX1_hill_24 : decode cX1_hill 24 = .ok (.putfield 83, 3) := dk_181 0 83 (dk_at dksX1_hill_1 0 rfl rfl)
theorem dX1_hill_27 : decode cX1_hill 27 = .ok (.aload_n 0, 1) := dk_42 (dk_at dksX1_hill_1 3 rfl rfl)
theorem dX1_hill_28 : decode cX1_hill 28 = .ok (.iconst 0, 1) := dk_3 (dk_at dksX1_hill_1 4 rfl rfl)
theorem dX1_hill_29 : decode cX1_hill 29 = .ok (.putfield 97, 3) := dk_181 0 97 (dk_at dksX1_hill_1 5 rfl rfl)
theorem dX1_hill_32 : decode cX1_hill 32 = .ok (.aload_n 0, 1) := dk_42 (dk_at dksX1_hill_1 8 rfl rfl)
theorem dX1_hill_33 : decode cX1_hill 33 = .ok (.aload_n 0, 1) := dk_42 (dk_at dksX1_hill_1 9 rfl rfl)
theorem dX1_hill_34 : decode cX1_hill 34 = .ok (.getfield 22, 3) := dk_180 0 22 (dk_at dksX1_hill_1 10 rfl rfl)
theorem dX1_hill_37 : decode cX1_hill 37 = .ok (.iload_n 1, 1) := dk_27 (dk_at dksX1_hill_1 13 rfl rfl)
theorem dX1_hill_38 : decode cX1_hill 38 = .ok (.invokevirtual 100, 3) := dk_182 0 100 (dk_at dksX1_hill_1 14 rfl rfl)
theorem dX1_hill_41 : decode cX1_hill 41 = .ok (.putfield 104, 3) := dk_181 0 104 (dk_at dksX1_hill_1 17 rfl rfl)
theorem dX1_hill_44 : decode cX1_hill 44 = .ok (.goto 26, 3) := dk_167 0 26 (dk_at dksX1_hill_1 20 rfl rfl)
theorem dX1_hill_47 : decode cX1_hill 47 = .ok (.astore_n 2, 1) := dk_77 (dk_at dksX1_hill_1 23 rfl rfl)
theorem dX1_hill_48 : decode cX1_hill 48 = .ok (.aload_n 0, 1) := dk_42 (dk_at dksX1_hill_2 0 rfl rfl)
theorem dX1_hill_49 : decode cX1_hill 49 = .ok (.aload_n 2, 1) := dk_44 (dk_at dksX1_hill_2 1 rfl rfl)
theorem dX1_hill_50 : decode cX1_hill 50 = .ok (.getfield 110, 3) := dk_180 0 110 (dk_at dksX1_hill_2 2 rfl rfl)
theorem dX1_hill_53 : decode cX1_hill 53 = .ok (.putfield 97, 3) := dk_181 0 97 (dk_at dksX1_hill_2 5 rfl rfl)
theorem dX1_hill_56 : decode cX1_hill 56 = .ok (.aload_n 0, 1) := dk_42 (dk_at dksX1_hill_2 8 rfl rfl)
theorem dX1_hill_57 : decode cX1_hill 57 = .ok (.aload_n 2, 1) := dk_44 (dk_at dksX1_hill_2 9 rfl rfl)
theorem dX1_hill_58 : decode cX1_hill 58 = .ok (.getfield 111, 3) := dk_180 0 111 (dk_at dksX1_hill_2 10 rfl rfl)
theorem dX1_hill_61 : decode cX1_hill 61 = .ok (.putfield 26, 3) := dk_181 0 26 (dk_at dksX1_hill_2 13 rfl rfl)
theorem dX1_hill_64 : decode cX1_hill 64 = .ok (.aload_n 0, 1) := dk_42 (dk_at dksX1_hill_2 16 rfl rfl)
theorem dX1_hill_65 : decode cX1_hill 65 = .ok (.iconst 4, 1) := dk_7 (dk_at dksX1_hill_2 17 rfl rfl)
theorem dX1_hill_66 : decode cX1_hill 66 = .ok (.invokevirtual 94, 3) := dk_182 0 94 (dk_at dksX1_hill_2 18 rfl rfl)
theorem dX1_hill_69 : decode cX1_hill 69 = .ok (.ireturn, 1) := dk_172 (dk_at dksX1_hill_2 21 rfl rfl)
theorem dX1_hill_70 : decode cX1_hill 70 = .ok (.aload_n 0, 1) := dk_42 (dk_at dksX1_hill_2 22 rfl rfl)
theorem dX1_hill_71 : decode cX1_hill 71 = .ok (.getfield 33, 3) := dk_180 0 33 (dk_at dksX1_hill_3 0 rfl rfl)
theorem dX1_hill_74 : decode cX1_hill 74 = .ok (.aload_n 0, 1) := dk_42 (dk_at dksX1_hill_3 3 rfl rfl)
theorem dX1_hill_75 : decode cX1_hill 75 = .ok (.getfield 104, 3) := dk_180 0 104 (dk_at dksX1_hill_3 4 rfl rfl)
theorem dX1_hill_78 : decode cX1_hill 78 = .ok (.invokevirtual 114, 3) := dk_182 0 114 (dk_at dksX1_hill_3 7 rfl rfl)
theorem dX1_hill_81 : decode cX1_hill 81 = .ok (.aload_n 0, 1) := dk_42 (dk_at dksX1_hill_3 10 rfl rfl)
theorem dX1_hill_82 : decode cX1_hill 82 = .ok (.iconst 0, 1) := dk_3 (dk_at dksX1_hill_3 11 rfl rfl)
theorem dX1_hill_83 : decode cX1_hill 83 = .ok (.putfield 118, 3) := dk_181 0 118 (dk_at dksX1_hill_3 12 rfl rfl)
theorem dX1_hill_86 : decode cX1_hill 86 = .ok (.aload_n 0, 1) := dk_42 (dk_at dksX1_hill_3 15 rfl rfl)
theorem dX1_hill_87 : decode cX1_hill 87 = .ok (.iconst 0, 1) := dk_3 (dk_at dksX1_hill_3 16 rfl rfl)
theorem dX1_hill_88 : decode cX1_hill 88 = .ok (.putfield 121, 3) := dk_181 0 121 (dk_at dksX1_hill_3 17 rfl rfl)
theorem dX1_hill_91 : decode cX1_hill 91 = .ok (.aload_n 0, 1) := dk_42 (dk_at dksX1_hill_3 20 rfl rfl)
theorem dX1_hill_92 : decode cX1_hill 92 = .ok (.getfield 104, 3) := dk_180 0 104 (dk_at dksX1_hill_3 21 rfl rfl)
theorem dX1_hill_95 : decode cX1_hill 95 = .ok (.invokevirtual 124, 3) := dk_182 0 124 (dk_at dksX1_hill_4 0 rfl rfl)
theorem dX1_hill_98 : decode cX1_hill 98 = .ok (.ireturn, 1) := dk_172 (dk_at dksX1_hill_4 3 rfl rfl)
def dkwX7_refused_0 : List UInt8 := [42, 27, 181, 0, 69, 42, 2, 181, 0, 9, 2, 172]
abbrev dktX7_refused_0 : List UInt8 := dkwX7_refused_0 ++ []
theorem dksX7_refused_0 : cX7_refused.data.toList.drop 0 = dktX7_refused_0 := by decide +kernel
theorem dX7_refused_0 : decode cX7_refused 0 = .ok (.aload_n 0, 1) := dk_42 (dk_at dksX7_refused_0 0 rfl rfl)
theorem dX7_refused_1 : decode cX7_refused 1 = .ok (.iload_n 1, 1) := dk_27 (dk_at dksX7_refused_0 1 rfl rfl)
theorem dX7_refused_2 : decode cX7_refused 2 = .ok (.putfield 69, 3) := dk_181 0 69 (dk_at dksX7_refused_0 2 rfl rfl)
theorem dX7_refused_5 : decode cX7_refused 5 = .ok (.aload_n 0, 1) := dk_42 (dk_at dksX7_refused_0 5 rfl rfl)
theorem dX7_refused_6 : decode cX7_refused 6 = .ok (.iconst (-1), 1) := dk_2 (dk_at dksX7_refused_0 6 rfl rfl)
theorem dX7_refused_7 : decode cX7_refused 7 = .ok (.putfield 9, 3) := dk_181 0 9 (dk_at dksX7_refused_0 7 rfl rfl)
theorem dX7_refused_10 : decode cX7_refused 10 = .ok (.iconst (-1), 1) := dk_2 (dk_at dksX7_refused_0 10 rfl rfl)
theorem dX7_refused_11 : decode cX7_refused 11 = .ok (.ireturn, 1) := dk_172 (dk_at dksX7_refused_0 11 rfl rfl)
def dkwX24_init_8 : List UInt8 := [188, 10, 181, 0, 82, 42, 16, 40, 188, 10, 181, 0, 85, 177]
abbrev dktX24_init_8 : List UInt8 := dkwX24_init_8 ++ []
def dkwX24_init_7 : List UInt8 := [188, 10, 181, 0, 72, 42, 7, 188, 10, 181, 0, 75, 42, 16, 40, 188, 11, 181, 0, 78, 42, 16, 40]
abbrev dktX24_init_7 : List UInt8 := dkwX24_init_7 ++ dktX24_init_8
def dkwX24_init_6 : List UInt8 := [188, 10, 181, 0, 63, 42, 16, 8, 188, 10, 181, 0, 66, 42, 16, 6, 188, 10, 181, 0, 69, 42, 16, 6]
abbrev dktX24_init_6 : List UInt8 := dkwX24_init_6 ++ dktX24_init_7
def dkwX24_init_5 : List UInt8 := [188, 10, 181, 0, 54, 42, 16, 10, 188, 10, 181, 0, 57, 42, 16, 8, 188, 10, 181, 0, 60, 42, 16, 8]
abbrev dktX24_init_5 : List UInt8 := dkwX24_init_5 ++ dktX24_init_6
def dkwX24_init_4 : List UInt8 := [188, 10, 181, 0, 45, 42, 16, 10, 188, 10, 181, 0, 48, 42, 16, 10, 188, 10, 181, 0, 51, 42, 16, 10]
abbrev dktX24_init_4 : List UInt8 := dkwX24_init_4 ++ dktX24_init_5
def dkwX24_init_3 : List UInt8 := [188, 10, 181, 0, 36, 42, 16, 6, 188, 10, 181, 0, 39, 42, 16, 6, 188, 10, 181, 0, 42, 42, 16, 6]
abbrev dktX24_init_3 : List UInt8 := dkwX24_init_3 ++ dktX24_init_4
def dkwX24_init_2 : List UInt8 := [188, 10, 181, 0, 27, 42, 16, 6, 188, 10, 181, 0, 30, 42, 16, 6, 188, 10, 181, 0, 33, 42, 16, 24]
abbrev dktX24_init_2 : List UInt8 := dkwX24_init_2 ++ dktX24_init_3
def dkwX24_init_1 : List UInt8 := [188, 10, 181, 0, 18, 42, 7, 188, 10, 181, 0, 21, 42, 17, 0, 144, 188, 10, 181, 0, 24, 42, 16, 6]
abbrev dktX24_init_1 : List UInt8 := dkwX24_init_1 ++ dktX24_init_2
def dkwX24_init_0 : List UInt8 := [42, 183, 0, 3, 42, 16, 32, 188, 10, 181, 0, 9, 42, 16, 14, 188, 10, 181, 0, 15, 42, 16, 14]
abbrev dktX24_init_0 : List UInt8 := dkwX24_init_0 ++ dktX24_init_1
theorem dksX24_init_0 : cX24_init.data.toList.drop 0 = dktX24_init_0 := by decide +kernel
theorem dksX24_init_1 : cX24_init.data.toList.drop 23 = dktX24_init_1 := dk_seg dksX24_init_0 23 rfl rfl
theorem dksX24_init_2 : cX24_init.data.toList.drop 47 = dktX24_init_2 := dk_seg dksX24_init_1 24 rfl rfl
theorem dksX24_init_3 : cX24_init.data.toList.drop 71 = dktX24_init_3 := dk_seg dksX24_init_2 24 rfl rfl
theorem dksX24_init_4 : cX24_init.data.toList.drop 95 = dktX24_init_4 := dk_seg dksX24_init_3 24 rfl rfl
theorem dksX24_init_5 : cX24_init.data.toList.drop 119 = dktX24_init_5 := dk_seg dksX24_init_4 24 rfl rfl
theorem dksX24_init_6 : cX24_init.data.toList.drop 143 = dktX24_init_6 := dk_seg dksX24_init_5 24 rfl rfl
theorem dksX24_init_7 : cX24_init.data.toList.drop 167 = dktX24_init_7 := dk_seg dksX24_init_6 24 rfl rfl
theorem dksX24_init_8 : cX24_init.data.toList.drop 190 = dktX24_init_8 := dk_seg dksX24_init_7 23 rfl rfl
theorem dX24_init_0 : decode cX24_init 0 = .ok (.aload_n 0, 1) := dk_42 (dk_at dksX24_init_0 0 rfl rfl)
theorem dX24_init_1 : decode cX24_init 1 = .ok (.invokespecial 3, 3) := dk_183 0 3 (dk_at dksX24_init_0 1 rfl rfl)
theorem dX24_init_4 : decode cX24_init 4 = .ok (.aload_n 0, 1) := dk_42 (dk_at dksX24_init_0 4 rfl rfl)
theorem dX24_init_5 : decode cX24_init 5 = .ok (.bipush 32, 2) := dk_16 32 (dk_at dksX24_init_0 5 rfl rfl)
theorem dX24_init_7 : decode cX24_init 7 = .ok (.newarray .int, 2) := dk_188_10 (dk_at dksX24_init_0 7 rfl rfl)
theorem dX24_init_9 : decode cX24_init 9 = .ok (.putfield 9, 3) := dk_181 0 9 (dk_at dksX24_init_0 9 rfl rfl)
theorem dX24_init_12 : decode cX24_init 12 = .ok (.aload_n 0, 1) := dk_42 (dk_at dksX24_init_0 12 rfl rfl)
theorem dX24_init_13 : decode cX24_init 13 = .ok (.bipush 14, 2) := dk_16 14 (dk_at dksX24_init_0 13 rfl rfl)
theorem dX24_init_15 : decode cX24_init 15 = .ok (.newarray .int, 2) := dk_188_10 (dk_at dksX24_init_0 15 rfl rfl)
theorem dX24_init_17 : decode cX24_init 17 = .ok (.putfield 15, 3) := dk_181 0 15 (dk_at dksX24_init_0 17 rfl rfl)
theorem dX24_init_20 : decode cX24_init 20 = .ok (.aload_n 0, 1) := dk_42 (dk_at dksX24_init_0 20 rfl rfl)
theorem dX24_init_21 : decode cX24_init 21 = .ok (.bipush 14, 2) := dk_16 14 (dk_at dksX24_init_0 21 rfl rfl)
theorem dX24_init_23 : decode cX24_init 23 = .ok (.newarray .int, 2) := dk_188_10 (dk_at dksX24_init_1 0 rfl rfl)
theorem dX24_init_25 : decode cX24_init 25 = .ok (.putfield 18, 3) := dk_181 0 18 (dk_at dksX24_init_1 2 rfl rfl)
theorem dX24_init_28 : decode cX24_init 28 = .ok (.aload_n 0, 1) := dk_42 (dk_at dksX24_init_1 5 rfl rfl)
theorem dX24_init_29 : decode cX24_init 29 = .ok (.iconst 4, 1) := dk_7 (dk_at dksX24_init_1 6 rfl rfl)
theorem dX24_init_30 : decode cX24_init 30 = .ok (.newarray .int, 2) := dk_188_10 (dk_at dksX24_init_1 7 rfl rfl)
theorem dX24_init_32 : decode cX24_init 32 = .ok (.putfield 21, 3) := dk_181 0 21 (dk_at dksX24_init_1 9 rfl rfl)
theorem dX24_init_35 : decode cX24_init 35 = .ok (.aload_n 0, 1) := dk_42 (dk_at dksX24_init_1 12 rfl rfl)
theorem dX24_init_36 : decode cX24_init 36 = .ok (.sipush 144, 3) := dk_17 0 144 (dk_at dksX24_init_1 13 rfl rfl)
theorem dX24_init_39 : decode cX24_init 39 = .ok (.newarray .int, 2) := dk_188_10 (dk_at dksX24_init_1 16 rfl rfl)
theorem dX24_init_41 : decode cX24_init 41 = .ok (.putfield 24, 3) := dk_181 0 24 (dk_at dksX24_init_1 18 rfl rfl)
theorem dX24_init_44 : decode cX24_init 44 = .ok (.aload_n 0, 1) := dk_42 (dk_at dksX24_init_1 21 rfl rfl)
theorem dX24_init_45 : decode cX24_init 45 = .ok (.bipush 6, 2) := dk_16 6 (dk_at dksX24_init_1 22 rfl rfl)
theorem dX24_init_47 : decode cX24_init 47 = .ok (.newarray .int, 2) := dk_188_10 (dk_at dksX24_init_2 0 rfl rfl)
theorem dX24_init_49 : decode cX24_init 49 = .ok (.putfield 27, 3) := dk_181 0 27 (dk_at dksX24_init_2 2 rfl rfl)
theorem dX24_init_52 : decode cX24_init 52 = .ok (.aload_n 0, 1) := dk_42 (dk_at dksX24_init_2 5 rfl rfl)
theorem dX24_init_53 : decode cX24_init 53 = .ok (.bipush 6, 2) := dk_16 6 (dk_at dksX24_init_2 6 rfl rfl)
theorem dX24_init_55 : decode cX24_init 55 = .ok (.newarray .int, 2) := dk_188_10 (dk_at dksX24_init_2 8 rfl rfl)
theorem dX24_init_57 : decode cX24_init 57 = .ok (.putfield 30, 3) := dk_181 0 30 (dk_at dksX24_init_2 10 rfl rfl)
theorem dX24_init_60 : decode cX24_init 60 = .ok (.aload_n 0, 1) := dk_42 (dk_at dksX24_init_2 13 rfl rfl)
theorem dX24_init_61 : decode cX24_init 61 = .ok (.bipush 6, 2) := dk_16 6 (dk_at dksX24_init_2 14 rfl rfl)
theorem dX24_init_63 : decode cX24_init 63 = .ok (.newarray .int, 2) := dk_188_10 (dk_at dksX24_init_2 16 rfl rfl)
theorem dX24_init_65 : decode cX24_init 65 = .ok (.putfield 33, 3) := dk_181 0 33 (dk_at dksX24_init_2 18 rfl rfl)
theorem dX24_init_68 : decode cX24_init 68 = .ok (.aload_n 0, 1) := dk_42 (dk_at dksX24_init_2 21 rfl rfl)
theorem dX24_init_69 : decode cX24_init 69 = .ok (.bipush 24, 2) := dk_16 24 (dk_at dksX24_init_2 22 rfl rfl)
theorem dX24_init_71 : decode cX24_init 71 = .ok (.newarray .int, 2) := dk_188_10 (dk_at dksX24_init_3 0 rfl rfl)
theorem dX24_init_73 : decode cX24_init 73 = .ok (.putfield 36, 3) := dk_181 0 36 (dk_at dksX24_init_3 2 rfl rfl)
theorem dX24_init_76 : decode cX24_init 76 = .ok (.aload_n 0, 1) := dk_42 (dk_at dksX24_init_3 5 rfl rfl)
theorem dX24_init_77 : decode cX24_init 77 = .ok (.bipush 6, 2) := dk_16 6 (dk_at dksX24_init_3 6 rfl rfl)
theorem dX24_init_79 : decode cX24_init 79 = .ok (.newarray .int, 2) := dk_188_10 (dk_at dksX24_init_3 8 rfl rfl)
theorem dX24_init_81 : decode cX24_init 81 = .ok (.putfield 39, 3) := dk_181 0 39 (dk_at dksX24_init_3 10 rfl rfl)
theorem dX24_init_84 : decode cX24_init 84 = .ok (.aload_n 0, 1) := dk_42 (dk_at dksX24_init_3 13 rfl rfl)
theorem dX24_init_85 : decode cX24_init 85 = .ok (.bipush 6, 2) := dk_16 6 (dk_at dksX24_init_3 14 rfl rfl)
theorem dX24_init_87 : decode cX24_init 87 = .ok (.newarray .int, 2) := dk_188_10 (dk_at dksX24_init_3 16 rfl rfl)
theorem dX24_init_89 : decode cX24_init 89 = .ok (.putfield 42, 3) := dk_181 0 42 (dk_at dksX24_init_3 18 rfl rfl)
theorem dX24_init_92 : decode cX24_init 92 = .ok (.aload_n 0, 1) := dk_42 (dk_at dksX24_init_3 21 rfl rfl)
theorem dX24_init_93 : decode cX24_init 93 = .ok (.bipush 6, 2) := dk_16 6 (dk_at dksX24_init_3 22 rfl rfl)
theorem dX24_init_95 : decode cX24_init 95 = .ok (.newarray .int, 2) := dk_188_10 (dk_at dksX24_init_4 0 rfl rfl)
theorem dX24_init_97 : decode cX24_init 97 = .ok (.putfield 45, 3) := dk_181 0 45 (dk_at dksX24_init_4 2 rfl rfl)
theorem dX24_init_100 : decode cX24_init 100 = .ok (.aload_n 0, 1) := dk_42 (dk_at dksX24_init_4 5 rfl rfl)
theorem dX24_init_101 : decode cX24_init 101 = .ok (.bipush 10, 2) := dk_16 10 (dk_at dksX24_init_4 6 rfl rfl)
theorem dX24_init_103 : decode cX24_init 103 = .ok (.newarray .int, 2) := dk_188_10 (dk_at dksX24_init_4 8 rfl rfl)
theorem dX24_init_105 : decode cX24_init 105 = .ok (.putfield 48, 3) := dk_181 0 48 (dk_at dksX24_init_4 10 rfl rfl)
theorem dX24_init_108 : decode cX24_init 108 = .ok (.aload_n 0, 1) := dk_42 (dk_at dksX24_init_4 13 rfl rfl)
theorem dX24_init_109 : decode cX24_init 109 = .ok (.bipush 10, 2) := dk_16 10 (dk_at dksX24_init_4 14 rfl rfl)
theorem dX24_init_111 : decode cX24_init 111 = .ok (.newarray .int, 2) := dk_188_10 (dk_at dksX24_init_4 16 rfl rfl)
theorem dX24_init_113 : decode cX24_init 113 = .ok (.putfield 51, 3) := dk_181 0 51 (dk_at dksX24_init_4 18 rfl rfl)
theorem dX24_init_116 : decode cX24_init 116 = .ok (.aload_n 0, 1) := dk_42 (dk_at dksX24_init_4 21 rfl rfl)
theorem dX24_init_117 : decode cX24_init 117 = .ok (.bipush 10, 2) := dk_16 10 (dk_at dksX24_init_4 22 rfl rfl)
theorem dX24_init_119 : decode cX24_init 119 = .ok (.newarray .int, 2) := dk_188_10 (dk_at dksX24_init_5 0 rfl rfl)
theorem dX24_init_121 : decode cX24_init 121 = .ok (.putfield 54, 3) := dk_181 0 54 (dk_at dksX24_init_5 2 rfl rfl)
theorem dX24_init_124 : decode cX24_init 124 = .ok (.aload_n 0, 1) := dk_42 (dk_at dksX24_init_5 5 rfl rfl)
theorem dX24_init_125 : decode cX24_init 125 = .ok (.bipush 10, 2) := dk_16 10 (dk_at dksX24_init_5 6 rfl rfl)
theorem dX24_init_127 : decode cX24_init 127 = .ok (.newarray .int, 2) := dk_188_10 (dk_at dksX24_init_5 8 rfl rfl)
theorem dX24_init_129 : decode cX24_init 129 = .ok (.putfield 57, 3) := dk_181 0 57 (dk_at dksX24_init_5 10 rfl rfl)
theorem dX24_init_132 : decode cX24_init 132 = .ok (.aload_n 0, 1) := dk_42 (dk_at dksX24_init_5 13 rfl rfl)
theorem dX24_init_133 : decode cX24_init 133 = .ok (.bipush 8, 2) := dk_16 8 (dk_at dksX24_init_5 14 rfl rfl)
theorem dX24_init_135 : decode cX24_init 135 = .ok (.newarray .int, 2) := dk_188_10 (dk_at dksX24_init_5 16 rfl rfl)
theorem dX24_init_137 : decode cX24_init 137 = .ok (.putfield 60, 3) := dk_181 0 60 (dk_at dksX24_init_5 18 rfl rfl)
theorem dX24_init_140 : decode cX24_init 140 = .ok (.aload_n 0, 1) := dk_42 (dk_at dksX24_init_5 21 rfl rfl)
theorem dX24_init_141 : decode cX24_init 141 = .ok (.bipush 8, 2) := dk_16 8 (dk_at dksX24_init_5 22 rfl rfl)
theorem dX24_init_143 : decode cX24_init 143 = .ok (.newarray .int, 2) := dk_188_10 (dk_at dksX24_init_6 0 rfl rfl)
theorem dX24_init_145 : decode cX24_init 145 = .ok (.putfield 63, 3) := dk_181 0 63 (dk_at dksX24_init_6 2 rfl rfl)
theorem dX24_init_148 : decode cX24_init 148 = .ok (.aload_n 0, 1) := dk_42 (dk_at dksX24_init_6 5 rfl rfl)
theorem dX24_init_149 : decode cX24_init 149 = .ok (.bipush 8, 2) := dk_16 8 (dk_at dksX24_init_6 6 rfl rfl)
theorem dX24_init_151 : decode cX24_init 151 = .ok (.newarray .int, 2) := dk_188_10 (dk_at dksX24_init_6 8 rfl rfl)
theorem dX24_init_153 : decode cX24_init 153 = .ok (.putfield 66, 3) := dk_181 0 66 (dk_at dksX24_init_6 10 rfl rfl)
theorem dX24_init_156 : decode cX24_init 156 = .ok (.aload_n 0, 1) := dk_42 (dk_at dksX24_init_6 13 rfl rfl)
theorem dX24_init_157 : decode cX24_init 157 = .ok (.bipush 6, 2) := dk_16 6 (dk_at dksX24_init_6 14 rfl rfl)
theorem dX24_init_159 : decode cX24_init 159 = .ok (.newarray .int, 2) := dk_188_10 (dk_at dksX24_init_6 16 rfl rfl)
theorem dX24_init_161 : decode cX24_init 161 = .ok (.putfield 69, 3) := dk_181 0 69 (dk_at dksX24_init_6 18 rfl rfl)
theorem dX24_init_164 : decode cX24_init 164 = .ok (.aload_n 0, 1) := dk_42 (dk_at dksX24_init_6 21 rfl rfl)
theorem dX24_init_165 : decode cX24_init 165 = .ok (.bipush 6, 2) := dk_16 6 (dk_at dksX24_init_6 22 rfl rfl)
theorem dX24_init_167 : decode cX24_init 167 = .ok (.newarray .int, 2) := dk_188_10 (dk_at dksX24_init_7 0 rfl rfl)
theorem dX24_init_169 : decode cX24_init 169 = .ok (.putfield 72, 3) := dk_181 0 72 (dk_at dksX24_init_7 2 rfl rfl)
theorem dX24_init_172 : decode cX24_init 172 = .ok (.aload_n 0, 1) := dk_42 (dk_at dksX24_init_7 5 rfl rfl)
theorem dX24_init_173 : decode cX24_init 173 = .ok (.iconst 4, 1) := dk_7 (dk_at dksX24_init_7 6 rfl rfl)
theorem dX24_init_174 : decode cX24_init 174 = .ok (.newarray .int, 2) := dk_188_10 (dk_at dksX24_init_7 7 rfl rfl)
theorem dX24_init_176 : decode cX24_init 176 = .ok (.putfield 75, 3) := dk_181 0 75 (dk_at dksX24_init_7 9 rfl rfl)
theorem dX24_init_179 : decode cX24_init 179 = .ok (.aload_n 0, 1) := dk_42 (dk_at dksX24_init_7 12 rfl rfl)
theorem dX24_init_180 : decode cX24_init 180 = .ok (.bipush 40, 2) := dk_16 40 (dk_at dksX24_init_7 13 rfl rfl)
theorem dX24_init_182 : decode cX24_init 182 = .ok (.newarray .long, 2) := dk_188_11 (dk_at dksX24_init_7 15 rfl rfl)
theorem dX24_init_184 : decode cX24_init 184 = .ok (.putfield 78, 3) := dk_181 0 78 (dk_at dksX24_init_7 17 rfl rfl)
theorem dX24_init_187 : decode cX24_init 187 = .ok (.aload_n 0, 1) := dk_42 (dk_at dksX24_init_7 20 rfl rfl)
theorem dX24_init_188 : decode cX24_init 188 = .ok (.bipush 40, 2) := dk_16 40 (dk_at dksX24_init_7 21 rfl rfl)
theorem dX24_init_190 : decode cX24_init 190 = .ok (.newarray .int, 2) := dk_188_10 (dk_at dksX24_init_8 0 rfl rfl)
theorem dX24_init_192 : decode cX24_init 192 = .ok (.putfield 82, 3) := dk_181 0 82 (dk_at dksX24_init_8 2 rfl rfl)
theorem dX24_init_195 : decode cX24_init 195 = .ok (.aload_n 0, 1) := dk_42 (dk_at dksX24_init_8 5 rfl rfl)
theorem dX24_init_196 : decode cX24_init 196 = .ok (.bipush 40, 2) := dk_16 40 (dk_at dksX24_init_8 6 rfl rfl)
theorem dX24_init_198 : decode cX24_init 198 = .ok (.newarray .int, 2) := dk_188_10 (dk_at dksX24_init_8 8 rfl rfl)
theorem dX24_init_200 : decode cX24_init 200 = .ok (.putfield 85, 3) := dk_181 0 85 (dk_at dksX24_init_8 10 rfl rfl)
theorem dX24_init_203 : decode cX24_init 203 = .ok (.return_, 1) := dk_177 (dk_at dksX24_init_8 13 rfl rfl)
def dkwX7_byteAt_0 : List UInt8 := [27, 42, 180, 0, 79, 162, 0, 16, 42, 180, 0, 13, 27, 51, 17, 0, 255, 126, 167, 0, 4, 2, 172]
abbrev dktX7_byteAt_0 : List UInt8 := dkwX7_byteAt_0 ++ []
theorem dksX7_byteAt_0 : cX7_byteAt.data.toList.drop 0 = dktX7_byteAt_0 := by decide +kernel
theorem dX7_byteAt_0 : decode cX7_byteAt 0 = .ok (.iload_n 1, 1) := dk_27 (dk_at dksX7_byteAt_0 0 rfl rfl)
theorem dX7_byteAt_1 : decode cX7_byteAt 1 = .ok (.aload_n 0, 1) := dk_42 (dk_at dksX7_byteAt_0 1 rfl rfl)
theorem dX7_byteAt_2 : decode cX7_byteAt 2 = .ok (.getfield 79, 3) := dk_180 0 79 (dk_at dksX7_byteAt_0 2 rfl rfl)
theorem dX7_byteAt_5 : decode cX7_byteAt 5 = .ok (.if_icmp .ge 16, 3) := dk_162 0 16 (dk_at dksX7_byteAt_0 5 rfl rfl)
theorem dX7_byteAt_8 : decode cX7_byteAt 8 = .ok (.aload_n 0, 1) := dk_42 (dk_at dksX7_byteAt_0 8 rfl rfl)
theorem dX7_byteAt_9 : decode cX7_byteAt 9 = .ok (.getfield 13, 3) := dk_180 0 13 (dk_at dksX7_byteAt_0 9 rfl rfl)
theorem dX7_byteAt_12 : decode cX7_byteAt 12 = .ok (.iload_n 1, 1) := dk_27 (dk_at dksX7_byteAt_0 12 rfl rfl)
theorem dX7_byteAt_13 : decode cX7_byteAt 13 = .ok (.baload, 1) := dk_51 (dk_at dksX7_byteAt_0 13 rfl rfl)
theorem dX7_byteAt_14 : decode cX7_byteAt 14 = .ok (.sipush 255, 3) := dk_17 0 255 (dk_at dksX7_byteAt_0 14 rfl rfl)
theorem dX7_byteAt_17 : decode cX7_byteAt 17 = .ok (.iand, 1) := dk_126 (dk_at dksX7_byteAt_0 17 rfl rfl)
theorem dX7_byteAt_18 : decode cX7_byteAt 18 = .ok (.goto 4, 3) := dk_167 0 4 (dk_at dksX7_byteAt_0 18 rfl rfl)
theorem dX7_byteAt_21 : decode cX7_byteAt 21 = .ok (.iconst (-1), 1) := dk_2 (dk_at dksX7_byteAt_0 21 rfl rfl)
theorem dX7_byteAt_22 : decode cX7_byteAt 22 = .ok (.ireturn, 1) := dk_172 (dk_at dksX7_byteAt_0 22 rfl rfl)
def dkwX7_isLetter_0 : List UInt8 := [26, 16, 97, 161, 0, 13, 26, 16, 122, 163, 0, 7, 4, 167, 0, 4, 3, 172]
abbrev dktX7_isLetter_0 : List UInt8 := dkwX7_isLetter_0 ++ []
theorem dksX7_isLetter_0 : cX7_isLetter.data.toList.drop 0 = dktX7_isLetter_0 := by decide +kernel
theorem dX7_isLetter_0 : decode cX7_isLetter 0 = .ok (.iload_n 0, 1) := dk_26 (dk_at dksX7_isLetter_0 0 rfl rfl)
theorem dX7_isLetter_1 : decode cX7_isLetter 1 = .ok (.bipush 97, 2) := dk_16 97 (dk_at dksX7_isLetter_0 1 rfl rfl)
theorem dX7_isLetter_3 : decode cX7_isLetter 3 = .ok (.if_icmp .lt 13, 3) := dk_161 0 13 (dk_at dksX7_isLetter_0 3 rfl rfl)
theorem dX7_isLetter_6 : decode cX7_isLetter 6 = .ok (.iload_n 0, 1) := dk_26 (dk_at dksX7_isLetter_0 6 rfl rfl)
theorem dX7_isLetter_7 : decode cX7_isLetter 7 = .ok (.bipush 122, 2) := dk_16 122 (dk_at dksX7_isLetter_0 7 rfl rfl)
theorem dX7_isLetter_9 : decode cX7_isLetter 9 = .ok (.if_icmp .gt 7, 3) := dk_163 0 7 (dk_at dksX7_isLetter_0 9 rfl rfl)
theorem dX7_isLetter_12 : decode cX7_isLetter 12 = .ok (.iconst 1, 1) := dk_4 (dk_at dksX7_isLetter_0 12 rfl rfl)
theorem dX7_isLetter_13 : decode cX7_isLetter 13 = .ok (.goto 4, 3) := dk_167 0 4 (dk_at dksX7_isLetter_0 13 rfl rfl)
theorem dX7_isLetter_16 : decode cX7_isLetter 16 = .ok (.iconst 0, 1) := dk_3 (dk_at dksX7_isLetter_0 16 rfl rfl)
theorem dX7_isLetter_17 : decode cX7_isLetter 17 = .ok (.ireturn, 1) := dk_172 (dk_at dksX7_isLetter_0 17 rfl rfl)
def dkwX7_isDigit_0 : List UInt8 := [26, 16, 48, 161, 0, 13, 26, 16, 57, 163, 0, 7, 4, 167, 0, 4, 3, 172]
abbrev dktX7_isDigit_0 : List UInt8 := dkwX7_isDigit_0 ++ []
theorem dksX7_isDigit_0 : cX7_isDigit.data.toList.drop 0 = dktX7_isDigit_0 := by decide +kernel
theorem dX7_isDigit_0 : decode cX7_isDigit 0 = .ok (.iload_n 0, 1) := dk_26 (dk_at dksX7_isDigit_0 0 rfl rfl)
theorem dX7_isDigit_1 : decode cX7_isDigit 1 = .ok (.bipush 48, 2) := dk_16 48 (dk_at dksX7_isDigit_0 1 rfl rfl)
theorem dX7_isDigit_3 : decode cX7_isDigit 3 = .ok (.if_icmp .lt 13, 3) := dk_161 0 13 (dk_at dksX7_isDigit_0 3 rfl rfl)
theorem dX7_isDigit_6 : decode cX7_isDigit 6 = .ok (.iload_n 0, 1) := dk_26 (dk_at dksX7_isDigit_0 6 rfl rfl)
theorem dX7_isDigit_7 : decode cX7_isDigit 7 = .ok (.bipush 57, 2) := dk_16 57 (dk_at dksX7_isDigit_0 7 rfl rfl)
theorem dX7_isDigit_9 : decode cX7_isDigit 9 = .ok (.if_icmp .gt 7, 3) := dk_163 0 7 (dk_at dksX7_isDigit_0 9 rfl rfl)
theorem dX7_isDigit_12 : decode cX7_isDigit 12 = .ok (.iconst 1, 1) := dk_4 (dk_at dksX7_isDigit_0 12 rfl rfl)
theorem dX7_isDigit_13 : decode cX7_isDigit 13 = .ok (.goto 4, 3) := dk_167 0 4 (dk_at dksX7_isDigit_0 13 rfl rfl)
theorem dX7_isDigit_16 : decode cX7_isDigit 16 = .ok (.iconst 0, 1) := dk_3 (dk_at dksX7_isDigit_0 16 rfl rfl)
theorem dX7_isDigit_17 : decode cX7_isDigit 17 = .ok (.ireturn, 1) := dk_172 (dk_at dksX7_isDigit_0 17 rfl rfl)
def dkwX7_goesOn_12 : List UInt8 := [181, 0, 94, 42, 27, 181, 0, 106, 42, 89, 180, 0, 97, 4, 96, 181, 0, 97, 177]
abbrev dktX7_goesOn_12 : List UInt8 := dkwX7_goesOn_12 ++ []
def dkwX7_goesOn_11 : List UInt8 := [42, 6, 181, 0, 94, 167, 0, 35, 27, 16, 59, 159, 0, 9, 27, 16, 44, 160, 0, 23, 42, 7]
abbrev dktX7_goesOn_11 : List UInt8 := dkwX7_goesOn_11 ++ dktX7_goesOn_12
def dkwX7_goesOn_10 : List UInt8 := [181, 0, 123, 132, 2, 1, 42, 89, 180, 0, 97, 4, 96, 181, 0, 97, 167, 255, 201, 28, 6, 163, 0, 43]
abbrev dktX7_goesOn_10 : List UInt8 := dkwX7_goesOn_10 ++ dktX7_goesOn_11
def dkwX7_goesOn_9 : List UInt8 := [162, 0, 26, 42, 16, 10, 42, 180, 0, 123, 104, 42, 42, 180, 0, 97, 182, 0, 100, 96, 16, 48, 100]
abbrev dktX7_goesOn_9 : List UInt8 := dkwX7_goesOn_9 ++ dktX7_goesOn_10
def dkwX7_goesOn_8 : List UInt8 := [153, 0, 79, 42, 3, 181, 0, 123, 42, 42, 180, 0, 97, 182, 0, 100, 184, 0, 120, 153, 0, 47, 28, 6]
abbrev dktX7_goesOn_8 : List UInt8 := dkwX7_goesOn_8 ++ dktX7_goesOn_9
def dkwX7_goesOn_7 : List UInt8 := [42, 28, 181, 0, 117, 28, 16, 8, 163, 0, 126, 42, 5, 181, 0, 94, 167, 0, 118, 27, 184, 0, 120]
abbrev dktX7_goesOn_7 : List UInt8 := dkwX7_goesOn_7 ++ dktX7_goesOn_8
def dkwX7_goesOn_6 : List UInt8 := [100, 4, 96, 133, 97, 181, 0, 113, 132, 2, 1, 42, 89, 180, 0, 97, 4, 96, 181, 0, 97, 167, 255, 184]
abbrev dktX7_goesOn_6 : List UInt8 := dkwX7_goesOn_6 ++ dktX7_goesOn_7
def dkwX7_goesOn_5 : List UInt8 := [180, 0, 97, 182, 0, 100, 79, 42, 20, 0, 88, 42, 180, 0, 113, 105, 42, 180, 0, 17, 28, 46, 16, 97]
abbrev dktX7_goesOn_5 : List UInt8 := dkwX7_goesOn_5 ++ dktX7_goesOn_6
def dkwX7_goesOn_4 : List UInt8 := [182, 0, 100, 184, 0, 109, 153, 0, 64, 28, 16, 8, 162, 0, 42, 42, 180, 0, 17, 28, 42, 42]
abbrev dktX7_goesOn_4 : List UInt8 := dkwX7_goesOn_4 ++ dktX7_goesOn_5
def dkwX7_goesOn_3 : List UInt8 := [181, 0, 94, 167, 0, 224, 27, 184, 0, 109, 153, 0, 102, 42, 9, 181, 0, 113, 42, 42, 180, 0, 97]
abbrev dktX7_goesOn_3 : List UInt8 := dkwX7_goesOn_3 ++ dktX7_goesOn_4
def dkwX7_goesOn_2 : List UInt8 := [42, 3, 181, 0, 106, 42, 42, 180, 0, 97, 182, 0, 100, 60, 3, 61, 27, 2, 160, 0, 11, 42, 4]
abbrev dktX7_goesOn_2 : List UInt8 := dkwX7_goesOn_2 ++ dktX7_goesOn_3
def dkwX7_goesOn_1 : List UInt8 := [180, 0, 97, 4, 96, 181, 0, 97, 167, 255, 233, 42, 42, 180, 0, 97, 181, 0, 103, 42, 3, 181, 0, 94]
abbrev dktX7_goesOn_1 : List UInt8 := dkwX7_goesOn_1 ++ dktX7_goesOn_2
def dkwX7_goesOn_0 : List UInt8 := [42, 180, 0, 94, 8, 160, 0, 4, 177, 42, 42, 180, 0, 97, 182, 0, 100, 16, 32, 160, 0, 16, 42, 89]
abbrev dktX7_goesOn_0 : List UInt8 := dkwX7_goesOn_0 ++ dktX7_goesOn_1
theorem dksX7_goesOn_0 : cX7_goesOn.data.toList.drop 0 = dktX7_goesOn_0 := by decide +kernel
theorem dksX7_goesOn_1 : cX7_goesOn.data.toList.drop 24 = dktX7_goesOn_1 := dk_seg dksX7_goesOn_0 24 rfl rfl
theorem dksX7_goesOn_2 : cX7_goesOn.data.toList.drop 48 = dktX7_goesOn_2 := dk_seg dksX7_goesOn_1 24 rfl rfl
theorem dksX7_goesOn_3 : cX7_goesOn.data.toList.drop 71 = dktX7_goesOn_3 := dk_seg dksX7_goesOn_2 23 rfl rfl
theorem dksX7_goesOn_4 : cX7_goesOn.data.toList.drop 94 = dktX7_goesOn_4 := dk_seg dksX7_goesOn_3 23 rfl rfl
theorem dksX7_goesOn_5 : cX7_goesOn.data.toList.drop 116 = dktX7_goesOn_5 := dk_seg dksX7_goesOn_4 22 rfl rfl
theorem dksX7_goesOn_6 : cX7_goesOn.data.toList.drop 140 = dktX7_goesOn_6 := dk_seg dksX7_goesOn_5 24 rfl rfl
theorem dksX7_goesOn_7 : cX7_goesOn.data.toList.drop 164 = dktX7_goesOn_7 := dk_seg dksX7_goesOn_6 24 rfl rfl
theorem dksX7_goesOn_8 : cX7_goesOn.data.toList.drop 187 = dktX7_goesOn_8 := dk_seg dksX7_goesOn_7 23 rfl rfl
theorem dksX7_goesOn_9 : cX7_goesOn.data.toList.drop 211 = dktX7_goesOn_9 := dk_seg dksX7_goesOn_8 24 rfl rfl
theorem dksX7_goesOn_10 : cX7_goesOn.data.toList.drop 234 = dktX7_goesOn_10 := dk_seg dksX7_goesOn_9 23 rfl rfl
theorem dksX7_goesOn_11 : cX7_goesOn.data.toList.drop 258 = dktX7_goesOn_11 := dk_seg dksX7_goesOn_10 24 rfl rfl
theorem dksX7_goesOn_12 : cX7_goesOn.data.toList.drop 280 = dktX7_goesOn_12 := dk_seg dksX7_goesOn_11 22 rfl rfl
theorem dX7_goesOn_0 : decode cX7_goesOn 0 = .ok (.aload_n 0, 1) := dk_42 (dk_at dksX7_goesOn_0 0 rfl rfl)
theorem dX7_goesOn_1 : decode cX7_goesOn 1 = .ok (.getfield 94, 3) := dk_180 0 94 (dk_at dksX7_goesOn_0 1 rfl rfl)
theorem dX7_goesOn_4 : decode cX7_goesOn 4 = .ok (.iconst 5, 1) := dk_8 (dk_at dksX7_goesOn_0 4 rfl rfl)
theorem dX7_goesOn_5 : decode cX7_goesOn 5 = .ok (.if_icmp .ne 4, 3) := dk_160 0 4 (dk_at dksX7_goesOn_0 5 rfl rfl)
theorem dX7_goesOn_8 : decode cX7_goesOn 8 = .ok (.return_, 1) := dk_177 (dk_at dksX7_goesOn_0 8 rfl rfl)
theorem dX7_goesOn_9 : decode cX7_goesOn 9 = .ok (.aload_n 0, 1) := dk_42 (dk_at dksX7_goesOn_0 9 rfl rfl)
theorem dX7_goesOn_10 : decode cX7_goesOn 10 = .ok (.aload_n 0, 1) := dk_42 (dk_at dksX7_goesOn_0 10 rfl rfl)
theorem dX7_goesOn_11 : decode cX7_goesOn 11 = .ok (.getfield 97, 3) := dk_180 0 97 (dk_at dksX7_goesOn_0 11 rfl rfl)
theorem dX7_goesOn_14 : decode cX7_goesOn 14 = .ok (.invokevirtual 100, 3) := dk_182 0 100 (dk_at dksX7_goesOn_0 14 rfl rfl)
theorem dX7_goesOn_17 : decode cX7_goesOn 17 = .ok (.bipush 32, 2) := dk_16 32 (dk_at dksX7_goesOn_0 17 rfl rfl)
theorem dX7_goesOn_19 : decode cX7_goesOn 19 = .ok (.if_icmp .ne 16, 3) := dk_160 0 16 (dk_at dksX7_goesOn_0 19 rfl rfl)
theorem dX7_goesOn_22 : decode cX7_goesOn 22 = .ok (.aload_n 0, 1) := dk_42 (dk_at dksX7_goesOn_0 22 rfl rfl)
theorem dX7_goesOn_23 : decode cX7_goesOn 23 = .ok (.dup, 1) := dk_89 (dk_at dksX7_goesOn_0 23 rfl rfl)
theorem dX7_goesOn_24 : decode cX7_goesOn 24 = .ok (.getfield 97, 3) := dk_180 0 97 (dk_at dksX7_goesOn_1 0 rfl rfl)
theorem dX7_goesOn_27 : decode cX7_goesOn 27 = .ok (.iconst 1, 1) := dk_4 (dk_at dksX7_goesOn_1 3 rfl rfl)
theorem dX7_goesOn_28 : decode cX7_goesOn 28 = .ok (.iadd, 1) := dk_96 (dk_at dksX7_goesOn_1 4 rfl rfl)
theorem dX7_goesOn_29 : decode cX7_goesOn 29 = .ok (.putfield 97, 3) := dk_181 0 97 (dk_at dksX7_goesOn_1 5 rfl rfl)
theorem dX7_goesOn_32 : decode cX7_goesOn 32 = .ok (.goto (-23), 3) := dk_167 255 233 (dk_at dksX7_goesOn_1 8 rfl rfl)
theorem dX7_goesOn_35 : decode cX7_goesOn 35 = .ok (.aload_n 0, 1) := dk_42 (dk_at dksX7_goesOn_1 11 rfl rfl)
theorem dX7_goesOn_36 : decode cX7_goesOn 36 = .ok (.aload_n 0, 1) := dk_42 (dk_at dksX7_goesOn_1 12 rfl rfl)
theorem dX7_goesOn_37 : decode cX7_goesOn 37 = .ok (.getfield 97, 3) := dk_180 0 97 (dk_at dksX7_goesOn_1 13 rfl rfl)
theorem dX7_goesOn_40 : decode cX7_goesOn 40 = .ok (.putfield 103, 3) := dk_181 0 103 (dk_at dksX7_goesOn_1 16 rfl rfl)
theorem dX7_goesOn_43 : decode cX7_goesOn 43 = .ok (.aload_n 0, 1) := dk_42 (dk_at dksX7_goesOn_1 19 rfl rfl)
theorem dX7_goesOn_44 : decode cX7_goesOn 44 = .ok (.iconst 0, 1) := dk_3 (dk_at dksX7_goesOn_1 20 rfl rfl)
theorem dX7_goesOn_45 : decode cX7_goesOn 45 = .ok (.putfield 94, 3) := dk_181 0 94 (dk_at dksX7_goesOn_1 21 rfl rfl)
theorem dX7_goesOn_48 : decode cX7_goesOn 48 = .ok (.aload_n 0, 1) := dk_42 (dk_at dksX7_goesOn_2 0 rfl rfl)
theorem dX7_goesOn_49 : decode cX7_goesOn 49 = .ok (.iconst 0, 1) := dk_3 (dk_at dksX7_goesOn_2 1 rfl rfl)
theorem dX7_goesOn_50 : decode cX7_goesOn 50 = .ok (.putfield 106, 3) := dk_181 0 106 (dk_at dksX7_goesOn_2 2 rfl rfl)
theorem dX7_goesOn_53 : decode cX7_goesOn 53 = .ok (.aload_n 0, 1) := dk_42 (dk_at dksX7_goesOn_2 5 rfl rfl)
theorem dX7_goesOn_54 : decode cX7_goesOn 54 = .ok (.aload_n 0, 1) := dk_42 (dk_at dksX7_goesOn_2 6 rfl rfl)
theorem dX7_goesOn_55 : decode cX7_goesOn 55 = .ok (.getfield 97, 3) := dk_180 0 97 (dk_at dksX7_goesOn_2 7 rfl rfl)
theorem dX7_goesOn_58 : decode cX7_goesOn 58 = .ok (.invokevirtual 100, 3) := dk_182 0 100 (dk_at dksX7_goesOn_2 10 rfl rfl)
theorem dX7_goesOn_61 : decode cX7_goesOn 61 = .ok (.istore_n 1, 1) := dk_60 (dk_at dksX7_goesOn_2 13 rfl rfl)
theorem dX7_goesOn_62 : decode cX7_goesOn 62 = .ok (.iconst 0, 1) := dk_3 (dk_at dksX7_goesOn_2 14 rfl rfl)
theorem dX7_goesOn_63 : decode cX7_goesOn 63 = .ok (.istore_n 2, 1) := dk_61 (dk_at dksX7_goesOn_2 15 rfl rfl)
theorem dX7_goesOn_64 : decode cX7_goesOn 64 = .ok (.iload_n 1, 1) := dk_27 (dk_at dksX7_goesOn_2 16 rfl rfl)
theorem dX7_goesOn_65 : decode cX7_goesOn 65 = .ok (.iconst (-1), 1) := dk_2 (dk_at dksX7_goesOn_2 17 rfl rfl)
theorem dX7_goesOn_66 : decode cX7_goesOn 66 = .ok (.if_icmp .ne 11, 3) := dk_160 0 11 (dk_at dksX7_goesOn_2 18 rfl rfl)
theorem dX7_goesOn_69 : decode cX7_goesOn 69 = .ok (.aload_n 0, 1) := dk_42 (dk_at dksX7_goesOn_2 21 rfl rfl)
theorem dX7_goesOn_70 : decode cX7_goesOn 70 = .ok (.iconst 1, 1) := dk_4 (dk_at dksX7_goesOn_2 22 rfl rfl)
theorem dX7_goesOn_71 : decode cX7_goesOn 71 = .ok (.putfield 94, 3) := dk_181 0 94 (dk_at dksX7_goesOn_3 0 rfl rfl)
theorem dX7_goesOn_74 : decode cX7_goesOn 74 = .ok (.goto 224, 3) := dk_167 0 224 (dk_at dksX7_goesOn_3 3 rfl rfl)
theorem dX7_goesOn_77 : decode cX7_goesOn 77 = .ok (.iload_n 1, 1) := dk_27 (dk_at dksX7_goesOn_3 6 rfl rfl)
theorem dX7_goesOn_78 : decode cX7_goesOn 78 = .ok (.invokestatic 109, 3) := dk_184 0 109 (dk_at dksX7_goesOn_3 7 rfl rfl)
theorem dX7_goesOn_81 : decode cX7_goesOn 81 = .ok (.ifCond .eq 102, 3) := dk_153 0 102 (dk_at dksX7_goesOn_3 10 rfl rfl)
theorem dX7_goesOn_84 : decode cX7_goesOn 84 = .ok (.aload_n 0, 1) := dk_42 (dk_at dksX7_goesOn_3 13 rfl rfl)
theorem dX7_goesOn_85 : decode cX7_goesOn 85 = .ok (.lconst 0, 1) := dk_9 (dk_at dksX7_goesOn_3 14 rfl rfl)
theorem dX7_goesOn_86 : decode cX7_goesOn 86 = .ok (.putfield 113, 3) := dk_181 0 113 (dk_at dksX7_goesOn_3 15 rfl rfl)
theorem dX7_goesOn_89 : decode cX7_goesOn 89 = .ok (.aload_n 0, 1) := dk_42 (dk_at dksX7_goesOn_3 18 rfl rfl)
theorem dX7_goesOn_90 : decode cX7_goesOn 90 = .ok (.aload_n 0, 1) := dk_42 (dk_at dksX7_goesOn_3 19 rfl rfl)
theorem dX7_goesOn_91 : decode cX7_goesOn 91 = .ok (.getfield 97, 3) := dk_180 0 97 (dk_at dksX7_goesOn_3 20 rfl rfl)
theorem dX7_goesOn_94 : decode cX7_goesOn 94 = .ok (.invokevirtual 100, 3) := dk_182 0 100 (dk_at dksX7_goesOn_4 0 rfl rfl)
theorem dX7_goesOn_97 : decode cX7_goesOn 97 = .ok (.invokestatic 109, 3) := dk_184 0 109 (dk_at dksX7_goesOn_4 3 rfl rfl)
theorem dX7_goesOn_100 : decode cX7_goesOn 100 = .ok (.ifCond .eq 64, 3) := dk_153 0 64 (dk_at dksX7_goesOn_4 6 rfl rfl)
theorem dX7_goesOn_103 : decode cX7_goesOn 103 = .ok (.iload_n 2, 1) := dk_28 (dk_at dksX7_goesOn_4 9 rfl rfl)
theorem dX7_goesOn_104 : decode cX7_goesOn 104 = .ok (.bipush 8, 2) := dk_16 8 (dk_at dksX7_goesOn_4 10 rfl rfl)
theorem dX7_goesOn_106 : decode cX7_goesOn 106 = .ok (.if_icmp .ge 42, 3) := dk_162 0 42 (dk_at dksX7_goesOn_4 12 rfl rfl)
theorem dX7_goesOn_109 : decode cX7_goesOn 109 = .ok (.aload_n 0, 1) := dk_42 (dk_at dksX7_goesOn_4 15 rfl rfl)
theorem dX7_goesOn_110 : decode cX7_goesOn 110 = .ok (.getfield 17, 3) := dk_180 0 17 (dk_at dksX7_goesOn_4 16 rfl rfl)
theorem dX7_goesOn_113 : decode cX7_goesOn 113 = .ok (.iload_n 2, 1) := dk_28 (dk_at dksX7_goesOn_4 19 rfl rfl)
theorem dX7_goesOn_114 : decode cX7_goesOn 114 = .ok (.aload_n 0, 1) := dk_42 (dk_at dksX7_goesOn_4 20 rfl rfl)
theorem dX7_goesOn_115 : decode cX7_goesOn 115 = .ok (.aload_n 0, 1) := dk_42 (dk_at dksX7_goesOn_4 21 rfl rfl)
theorem dX7_goesOn_116 : decode cX7_goesOn 116 = .ok (.getfield 97, 3) := dk_180 0 97 (dk_at dksX7_goesOn_5 0 rfl rfl)
theorem dX7_goesOn_119 : decode cX7_goesOn 119 = .ok (.invokevirtual 100, 3) := dk_182 0 100 (dk_at dksX7_goesOn_5 3 rfl rfl)
theorem dX7_goesOn_122 : decode cX7_goesOn 122 = .ok (.iastore, 1) := dk_79 (dk_at dksX7_goesOn_5 6 rfl rfl)
theorem dX7_goesOn_123 : decode cX7_goesOn 123 = .ok (.aload_n 0, 1) := dk_42 (dk_at dksX7_goesOn_5 7 rfl rfl)
theorem dX7_goesOn_124 : decode cX7_goesOn 124 = .ok (.ldc2_w 88, 3) := dk_20 0 88 (dk_at dksX7_goesOn_5 8 rfl rfl)
theorem dX7_goesOn_127 : decode cX7_goesOn 127 = .ok (.aload_n 0, 1) := dk_42 (dk_at dksX7_goesOn_5 11 rfl rfl)
theorem dX7_goesOn_128 : decode cX7_goesOn 128 = .ok (.getfield 113, 3) := dk_180 0 113 (dk_at dksX7_goesOn_5 12 rfl rfl)
theorem dX7_goesOn_131 : decode cX7_goesOn 131 = .ok (.lmul, 1) := dk_105 (dk_at dksX7_goesOn_5 15 rfl rfl)
theorem dX7_goesOn_132 : decode cX7_goesOn 132 = .ok (.aload_n 0, 1) := dk_42 (dk_at dksX7_goesOn_5 16 rfl rfl)
theorem dX7_goesOn_133 : decode cX7_goesOn 133 = .ok (.getfield 17, 3) := dk_180 0 17 (dk_at dksX7_goesOn_5 17 rfl rfl)
theorem dX7_goesOn_136 : decode cX7_goesOn 136 = .ok (.iload_n 2, 1) := dk_28 (dk_at dksX7_goesOn_5 20 rfl rfl)
theorem dX7_goesOn_137 : decode cX7_goesOn 137 = .ok (.iaload, 1) := dk_46 (dk_at dksX7_goesOn_5 21 rfl rfl)
theorem dX7_goesOn_138 : decode cX7_goesOn 138 = .ok (.bipush 97, 2) := dk_16 97 (dk_at dksX7_goesOn_5 22 rfl rfl)
theorem dX7_goesOn_140 : decode cX7_goesOn 140 = .ok (.isub, 1) := dk_100 (dk_at dksX7_goesOn_6 0 rfl rfl)
theorem dX7_goesOn_141 : decode cX7_goesOn 141 = .ok (.iconst 1, 1) := dk_4 (dk_at dksX7_goesOn_6 1 rfl rfl)
theorem dX7_goesOn_142 : decode cX7_goesOn 142 = .ok (.iadd, 1) := dk_96 (dk_at dksX7_goesOn_6 2 rfl rfl)
theorem dX7_goesOn_143 : decode cX7_goesOn 143 = .ok (.i2l, 1) := dk_133 (dk_at dksX7_goesOn_6 3 rfl rfl)
theorem dX7_goesOn_144 : decode cX7_goesOn 144 = .ok (.ladd, 1) := dk_97 (dk_at dksX7_goesOn_6 4 rfl rfl)
theorem dX7_goesOn_145 : decode cX7_goesOn 145 = .ok (.putfield 113, 3) := dk_181 0 113 (dk_at dksX7_goesOn_6 5 rfl rfl)
theorem dX7_goesOn_148 : decode cX7_goesOn 148 = .ok (.iinc 2 1, 3) := dk_132 2 1 (dk_at dksX7_goesOn_6 8 rfl rfl)
theorem dX7_goesOn_151 : decode cX7_goesOn 151 = .ok (.aload_n 0, 1) := dk_42 (dk_at dksX7_goesOn_6 11 rfl rfl)
theorem dX7_goesOn_152 : decode cX7_goesOn 152 = .ok (.dup, 1) := dk_89 (dk_at dksX7_goesOn_6 12 rfl rfl)
theorem dX7_goesOn_153 : decode cX7_goesOn 153 = .ok (.getfield 97, 3) := dk_180 0 97 (dk_at dksX7_goesOn_6 13 rfl rfl)
theorem dX7_goesOn_156 : decode cX7_goesOn 156 = .ok (.iconst 1, 1) := dk_4 (dk_at dksX7_goesOn_6 16 rfl rfl)
theorem dX7_goesOn_157 : decode cX7_goesOn 157 = .ok (.iadd, 1) := dk_96 (dk_at dksX7_goesOn_6 17 rfl rfl)
theorem dX7_goesOn_158 : decode cX7_goesOn 158 = .ok (.putfield 97, 3) := dk_181 0 97 (dk_at dksX7_goesOn_6 18 rfl rfl)
theorem dX7_goesOn_161 : decode cX7_goesOn 161 = .ok (.goto (-72), 3) := dk_167 255 184 (dk_at dksX7_goesOn_6 21 rfl rfl)
theorem dX7_goesOn_164 : decode cX7_goesOn 164 = .ok (.aload_n 0, 1) := dk_42 (dk_at dksX7_goesOn_7 0 rfl rfl)
theorem dX7_goesOn_165 : decode cX7_goesOn 165 = .ok (.iload_n 2, 1) := dk_28 (dk_at dksX7_goesOn_7 1 rfl rfl)
theorem dX7_goesOn_166 : decode cX7_goesOn 166 = .ok (.putfield 117, 3) := dk_181 0 117 (dk_at dksX7_goesOn_7 2 rfl rfl)
theorem dX7_goesOn_169 : decode cX7_goesOn 169 = .ok (.iload_n 2, 1) := dk_28 (dk_at dksX7_goesOn_7 5 rfl rfl)
theorem dX7_goesOn_170 : decode cX7_goesOn 170 = .ok (.bipush 8, 2) := dk_16 8 (dk_at dksX7_goesOn_7 6 rfl rfl)
theorem dX7_goesOn_172 : decode cX7_goesOn 172 = .ok (.if_icmp .gt 126, 3) := dk_163 0 126 (dk_at dksX7_goesOn_7 8 rfl rfl)
theorem dX7_goesOn_175 : decode cX7_goesOn 175 = .ok (.aload_n 0, 1) := dk_42 (dk_at dksX7_goesOn_7 11 rfl rfl)
theorem dX7_goesOn_176 : decode cX7_goesOn 176 = .ok (.iconst 2, 1) := dk_5 (dk_at dksX7_goesOn_7 12 rfl rfl)
theorem dX7_goesOn_177 : decode cX7_goesOn 177 = .ok (.putfield 94, 3) := dk_181 0 94 (dk_at dksX7_goesOn_7 13 rfl rfl)
theorem dX7_goesOn_180 : decode cX7_goesOn 180 = .ok (.goto 118, 3) := dk_167 0 118 (dk_at dksX7_goesOn_7 16 rfl rfl)
theorem dX7_goesOn_183 : decode cX7_goesOn 183 = .ok (.iload_n 1, 1) := dk_27 (dk_at dksX7_goesOn_7 19 rfl rfl)
theorem dX7_goesOn_184 : decode cX7_goesOn 184 = .ok (.invokestatic 120, 3) := dk_184 0 120 (dk_at dksX7_goesOn_7 20 rfl rfl)
theorem dX7_goesOn_187 : decode cX7_goesOn 187 = .ok (.ifCond .eq 79, 3) := dk_153 0 79 (dk_at dksX7_goesOn_8 0 rfl rfl)
theorem dX7_goesOn_190 : decode cX7_goesOn 190 = .ok (.aload_n 0, 1) := dk_42 (dk_at dksX7_goesOn_8 3 rfl rfl)
theorem dX7_goesOn_191 : decode cX7_goesOn 191 = .ok (.iconst 0, 1) := dk_3 (dk_at dksX7_goesOn_8 4 rfl rfl)
theorem dX7_goesOn_192 : decode cX7_goesOn 192 = .ok (.putfield 123, 3) := dk_181 0 123 (dk_at dksX7_goesOn_8 5 rfl rfl)
theorem dX7_goesOn_195 : decode cX7_goesOn 195 = .ok (.aload_n 0, 1) := dk_42 (dk_at dksX7_goesOn_8 8 rfl rfl)
theorem dX7_goesOn_196 : decode cX7_goesOn 196 = .ok (.aload_n 0, 1) := dk_42 (dk_at dksX7_goesOn_8 9 rfl rfl)
theorem dX7_goesOn_197 : decode cX7_goesOn 197 = .ok (.getfield 97, 3) := dk_180 0 97 (dk_at dksX7_goesOn_8 10 rfl rfl)
theorem dX7_goesOn_200 : decode cX7_goesOn 200 = .ok (.invokevirtual 100, 3) := dk_182 0 100 (dk_at dksX7_goesOn_8 13 rfl rfl)
theorem dX7_goesOn_203 : decode cX7_goesOn 203 = .ok (.invokestatic 120, 3) := dk_184 0 120 (dk_at dksX7_goesOn_8 16 rfl rfl)
theorem dX7_goesOn_206 : decode cX7_goesOn 206 = .ok (.ifCond .eq 47, 3) := dk_153 0 47 (dk_at dksX7_goesOn_8 19 rfl rfl)
theorem dX7_goesOn_209 : decode cX7_goesOn 209 = .ok (.iload_n 2, 1) := dk_28 (dk_at dksX7_goesOn_8 22 rfl rfl)
theorem dX7_goesOn_210 : decode cX7_goesOn 210 = .ok (.iconst 3, 1) := dk_6 (dk_at dksX7_goesOn_8 23 rfl rfl)
theorem dX7_goesOn_211 : decode cX7_goesOn 211 = .ok (.if_icmp .ge 26, 3) := dk_162 0 26 (dk_at dksX7_goesOn_9 0 rfl rfl)
theorem dX7_goesOn_214 : decode cX7_goesOn 214 = .ok (.aload_n 0, 1) := dk_42 (dk_at dksX7_goesOn_9 3 rfl rfl)
theorem dX7_goesOn_215 : decode cX7_goesOn 215 = .ok (.bipush 10, 2) := dk_16 10 (dk_at dksX7_goesOn_9 4 rfl rfl)
theorem dX7_goesOn_217 : decode cX7_goesOn 217 = .ok (.aload_n 0, 1) := dk_42 (dk_at dksX7_goesOn_9 6 rfl rfl)
theorem dX7_goesOn_218 : decode cX7_goesOn 218 = .ok (.getfield 123, 3) := dk_180 0 123 (dk_at dksX7_goesOn_9 7 rfl rfl)
theorem dX7_goesOn_221 : decode cX7_goesOn 221 = .ok (.imul, 1) := dk_104 (dk_at dksX7_goesOn_9 10 rfl rfl)
theorem dX7_goesOn_222 : decode cX7_goesOn 222 = .ok (.aload_n 0, 1) := dk_42 (dk_at dksX7_goesOn_9 11 rfl rfl)
theorem dX7_goesOn_223 : decode cX7_goesOn 223 = .ok (.aload_n 0, 1) := dk_42 (dk_at dksX7_goesOn_9 12 rfl rfl)
theorem dX7_goesOn_224 : decode cX7_goesOn 224 = .ok (.getfield 97, 3) := dk_180 0 97 (dk_at dksX7_goesOn_9 13 rfl rfl)
theorem dX7_goesOn_227 : decode cX7_goesOn 227 = .ok (.invokevirtual 100, 3) := dk_182 0 100 (dk_at dksX7_goesOn_9 16 rfl rfl)
theorem dX7_goesOn_230 : decode cX7_goesOn 230 = .ok (.iadd, 1) := dk_96 (dk_at dksX7_goesOn_9 19 rfl rfl)
theorem dX7_goesOn_231 : decode cX7_goesOn 231 = .ok (.bipush 48, 2) := dk_16 48 (dk_at dksX7_goesOn_9 20 rfl rfl)
theorem dX7_goesOn_233 : decode cX7_goesOn 233 = .ok (.isub, 1) := dk_100 (dk_at dksX7_goesOn_9 22 rfl rfl)
theorem dX7_goesOn_234 : decode cX7_goesOn 234 = .ok (.putfield 123, 3) := dk_181 0 123 (dk_at dksX7_goesOn_10 0 rfl rfl)
theorem dX7_goesOn_237 : decode cX7_goesOn 237 = .ok (.iinc 2 1, 3) := dk_132 2 1 (dk_at dksX7_goesOn_10 3 rfl rfl)
theorem dX7_goesOn_240 : decode cX7_goesOn 240 = .ok (.aload_n 0, 1) := dk_42 (dk_at dksX7_goesOn_10 6 rfl rfl)
theorem dX7_goesOn_241 : decode cX7_goesOn 241 = .ok (.dup, 1) := dk_89 (dk_at dksX7_goesOn_10 7 rfl rfl)
theorem dX7_goesOn_242 : decode cX7_goesOn 242 = .ok (.getfield 97, 3) := dk_180 0 97 (dk_at dksX7_goesOn_10 8 rfl rfl)
theorem dX7_goesOn_245 : decode cX7_goesOn 245 = .ok (.iconst 1, 1) := dk_4 (dk_at dksX7_goesOn_10 11 rfl rfl)
theorem dX7_goesOn_246 : decode cX7_goesOn 246 = .ok (.iadd, 1) := dk_96 (dk_at dksX7_goesOn_10 12 rfl rfl)
theorem dX7_goesOn_247 : decode cX7_goesOn 247 = .ok (.putfield 97, 3) := dk_181 0 97 (dk_at dksX7_goesOn_10 13 rfl rfl)
theorem dX7_goesOn_250 : decode cX7_goesOn 250 = .ok (.goto (-55), 3) := dk_167 255 201 (dk_at dksX7_goesOn_10 16 rfl rfl)
theorem dX7_goesOn_253 : decode cX7_goesOn 253 = .ok (.iload_n 2, 1) := dk_28 (dk_at dksX7_goesOn_10 19 rfl rfl)
theorem dX7_goesOn_254 : decode cX7_goesOn 254 = .ok (.iconst 3, 1) := dk_6 (dk_at dksX7_goesOn_10 20 rfl rfl)
theorem dX7_goesOn_255 : decode cX7_goesOn 255 = .ok (.if_icmp .gt 43, 3) := dk_163 0 43 (dk_at dksX7_goesOn_10 21 rfl rfl)
theorem dX7_goesOn_258 : decode cX7_goesOn 258 = .ok (.aload_n 0, 1) := dk_42 (dk_at dksX7_goesOn_11 0 rfl rfl)
theorem dX7_goesOn_259 : decode cX7_goesOn 259 = .ok (.iconst 3, 1) := dk_6 (dk_at dksX7_goesOn_11 1 rfl rfl)
theorem dX7_goesOn_260 : decode cX7_goesOn 260 = .ok (.putfield 94, 3) := dk_181 0 94 (dk_at dksX7_goesOn_11 2 rfl rfl)
theorem dX7_goesOn_263 : decode cX7_goesOn 263 = .ok (.goto 35, 3) := dk_167 0 35 (dk_at dksX7_goesOn_11 5 rfl rfl)
theorem dX7_goesOn_266 : decode cX7_goesOn 266 = .ok (.iload_n 1, 1) := dk_27 (dk_at dksX7_goesOn_11 8 rfl rfl)
theorem dX7_goesOn_267 : decode cX7_goesOn 267 = .ok (.bipush 59, 2) := dk_16 59 (dk_at dksX7_goesOn_11 9 rfl rfl)
theorem dX7_goesOn_269 : decode cX7_goesOn 269 = .ok (.if_icmp .eq 9, 3) := dk_159 0 9 (dk_at dksX7_goesOn_11 11 rfl rfl)
theorem dX7_goesOn_272 : decode cX7_goesOn 272 = .ok (.iload_n 1, 1) := dk_27 (dk_at dksX7_goesOn_11 14 rfl rfl)
theorem dX7_goesOn_273 : decode cX7_goesOn 273 = .ok (.bipush 44, 2) := dk_16 44 (dk_at dksX7_goesOn_11 15 rfl rfl)
theorem dX7_goesOn_275 : decode cX7_goesOn 275 = .ok (.if_icmp .ne 23, 3) := dk_160 0 23 (dk_at dksX7_goesOn_11 17 rfl rfl)
theorem dX7_goesOn_278 : decode cX7_goesOn 278 = .ok (.aload_n 0, 1) := dk_42 (dk_at dksX7_goesOn_11 20 rfl rfl)
theorem dX7_goesOn_279 : decode cX7_goesOn 279 = .ok (.iconst 4, 1) := dk_7 (dk_at dksX7_goesOn_11 21 rfl rfl)
theorem dX7_goesOn_280 : decode cX7_goesOn 280 = .ok (.putfield 94, 3) := dk_181 0 94 (dk_at dksX7_goesOn_12 0 rfl rfl)
theorem dX7_goesOn_283 : decode cX7_goesOn 283 = .ok (.aload_n 0, 1) := dk_42 (dk_at dksX7_goesOn_12 3 rfl rfl)
theorem dX7_goesOn_284 : decode cX7_goesOn 284 = .ok (.iload_n 1, 1) := dk_27 (dk_at dksX7_goesOn_12 4 rfl rfl)
theorem dX7_goesOn_285 : decode cX7_goesOn 285 = .ok (.putfield 106, 3) := dk_181 0 106 (dk_at dksX7_goesOn_12 5 rfl rfl)
theorem dX7_goesOn_288 : decode cX7_goesOn 288 = .ok (.aload_n 0, 1) := dk_42 (dk_at dksX7_goesOn_12 8 rfl rfl)
theorem dX7_goesOn_289 : decode cX7_goesOn 289 = .ok (.dup, 1) := dk_89 (dk_at dksX7_goesOn_12 9 rfl rfl)
theorem dX7_goesOn_290 : decode cX7_goesOn 290 = .ok (.getfield 97, 3) := dk_180 0 97 (dk_at dksX7_goesOn_12 10 rfl rfl)
theorem dX7_goesOn_293 : decode cX7_goesOn 293 = .ok (.iconst 1, 1) := dk_4 (dk_at dksX7_goesOn_12 13 rfl rfl)
theorem dX7_goesOn_294 : decode cX7_goesOn 294 = .ok (.iadd, 1) := dk_96 (dk_at dksX7_goesOn_12 14 rfl rfl)
theorem dX7_goesOn_295 : decode cX7_goesOn 295 = .ok (.putfield 97, 3) := dk_181 0 97 (dk_at dksX7_goesOn_12 15 rfl rfl)
theorem dX7_goesOn_298 : decode cX7_goesOn 298 = .ok (.return_, 1) := dk_177 (dk_at dksX7_goesOn_12 18 rfl rfl)
def dkwX7_wordOf_1 : List UInt8 := [100, 4, 96, 133, 97, 64, 132, 3, 1, 167, 255, 227, 31, 173]
abbrev dktX7_wordOf_1 : List UInt8 := dkwX7_wordOf_1 ++ []
def dkwX7_wordOf_0 : List UInt8 := [9, 64, 3, 62, 29, 42, 182, 0, 82, 162, 0, 27, 20, 0, 88, 31, 105, 42, 29, 182, 0, 90, 16, 97]
abbrev dktX7_wordOf_0 : List UInt8 := dkwX7_wordOf_0 ++ dktX7_wordOf_1
theorem dksX7_wordOf_0 : cX7_wordOf.data.toList.drop 0 = dktX7_wordOf_0 := by decide +kernel
theorem dksX7_wordOf_1 : cX7_wordOf.data.toList.drop 24 = dktX7_wordOf_1 := dk_seg dksX7_wordOf_0 24 rfl rfl
theorem dX7_wordOf_0 : decode cX7_wordOf 0 = .ok (.lconst 0, 1) := dk_9 (dk_at dksX7_wordOf_0 0 rfl rfl)
theorem dX7_wordOf_1 : decode cX7_wordOf 1 = .ok (.lstore_n 1, 1) := dk_64 (dk_at dksX7_wordOf_0 1 rfl rfl)
theorem dX7_wordOf_2 : decode cX7_wordOf 2 = .ok (.iconst 0, 1) := dk_3 (dk_at dksX7_wordOf_0 2 rfl rfl)
theorem dX7_wordOf_3 : decode cX7_wordOf 3 = .ok (.istore_n 3, 1) := dk_62 (dk_at dksX7_wordOf_0 3 rfl rfl)
theorem dX7_wordOf_4 : decode cX7_wordOf 4 = .ok (.iload_n 3, 1) := dk_29 (dk_at dksX7_wordOf_0 4 rfl rfl)
theorem dX7_wordOf_5 : decode cX7_wordOf 5 = .ok (.aload_n 0, 1) := dk_42 (dk_at dksX7_wordOf_0 5 rfl rfl)
theorem dX7_wordOf_6 : decode cX7_wordOf 6 = .ok (.invokevirtual 82, 3) := dk_182 0 82 (dk_at dksX7_wordOf_0 6 rfl rfl)
theorem dX7_wordOf_9 : decode cX7_wordOf 9 = .ok (.if_icmp .ge 27, 3) := dk_162 0 27 (dk_at dksX7_wordOf_0 9 rfl rfl)
theorem dX7_wordOf_12 : decode cX7_wordOf 12 = .ok (.ldc2_w 88, 3) := dk_20 0 88 (dk_at dksX7_wordOf_0 12 rfl rfl)
theorem dX7_wordOf_15 : decode cX7_wordOf 15 = .ok (.lload_n 1, 1) := dk_31 (dk_at dksX7_wordOf_0 15 rfl rfl)
theorem dX7_wordOf_16 : decode cX7_wordOf 16 = .ok (.lmul, 1) := dk_105 (dk_at dksX7_wordOf_0 16 rfl rfl)
theorem dX7_wordOf_17 : decode cX7_wordOf 17 = .ok (.aload_n 0, 1) := dk_42 (dk_at dksX7_wordOf_0 17 rfl rfl)
theorem dX7_wordOf_18 : decode cX7_wordOf 18 = .ok (.iload_n 3, 1) := dk_29 (dk_at dksX7_wordOf_0 18 rfl rfl)
theorem dX7_wordOf_19 : decode cX7_wordOf 19 = .ok (.invokevirtual 90, 3) := dk_182 0 90 (dk_at dksX7_wordOf_0 19 rfl rfl)
theorem dX7_wordOf_22 : decode cX7_wordOf 22 = .ok (.bipush 97, 2) := dk_16 97 (dk_at dksX7_wordOf_0 22 rfl rfl)
theorem dX7_wordOf_24 : decode cX7_wordOf 24 = .ok (.isub, 1) := dk_100 (dk_at dksX7_wordOf_1 0 rfl rfl)
theorem dX7_wordOf_25 : decode cX7_wordOf 25 = .ok (.iconst 1, 1) := dk_4 (dk_at dksX7_wordOf_1 1 rfl rfl)
theorem dX7_wordOf_26 : decode cX7_wordOf 26 = .ok (.iadd, 1) := dk_96 (dk_at dksX7_wordOf_1 2 rfl rfl)
theorem dX7_wordOf_27 : decode cX7_wordOf 27 = .ok (.i2l, 1) := dk_133 (dk_at dksX7_wordOf_1 3 rfl rfl)
theorem dX7_wordOf_28 : decode cX7_wordOf 28 = .ok (.ladd, 1) := dk_97 (dk_at dksX7_wordOf_1 4 rfl rfl)
theorem dX7_wordOf_29 : decode cX7_wordOf 29 = .ok (.lstore_n 1, 1) := dk_64 (dk_at dksX7_wordOf_1 5 rfl rfl)
theorem dX7_wordOf_30 : decode cX7_wordOf 30 = .ok (.iinc 3 1, 3) := dk_132 3 1 (dk_at dksX7_wordOf_1 6 rfl rfl)
theorem dX7_wordOf_33 : decode cX7_wordOf 33 = .ok (.goto (-29), 3) := dk_167 255 227 (dk_at dksX7_wordOf_1 9 rfl rfl)
theorem dX7_wordOf_36 : decode cX7_wordOf 36 = .ok (.lload_n 1, 1) := dk_31 (dk_at dksX7_wordOf_1 12 rfl rfl)
theorem dX7_wordOf_37 : decode cX7_wordOf 37 = .ok (.lreturn, 1) := dk_173 (dk_at dksX7_wordOf_1 13 rfl rfl)
def dkwX7_isWord_1 : List UInt8 := [3, 172]
abbrev dktX7_isWord_1 : List UInt8 := dkwX7_isWord_1 ++ []
def dkwX7_isWord_0 : List UInt8 := [42, 180, 0, 94, 5, 160, 0, 19, 42, 180, 0, 113, 43, 184, 0, 132, 148, 154, 0, 7, 4, 167, 0, 4]
abbrev dktX7_isWord_0 : List UInt8 := dkwX7_isWord_0 ++ dktX7_isWord_1
theorem dksX7_isWord_0 : cX7_isWord.data.toList.drop 0 = dktX7_isWord_0 := by decide +kernel
theorem dksX7_isWord_1 : cX7_isWord.data.toList.drop 24 = dktX7_isWord_1 := dk_seg dksX7_isWord_0 24 rfl rfl
theorem dX7_isWord_0 : decode cX7_isWord 0 = .ok (.aload_n 0, 1) := dk_42 (dk_at dksX7_isWord_0 0 rfl rfl)
theorem dX7_isWord_1 : decode cX7_isWord 1 = .ok (.getfield 94, 3) := dk_180 0 94 (dk_at dksX7_isWord_0 1 rfl rfl)
theorem dX7_isWord_4 : decode cX7_isWord 4 = .ok (.iconst 2, 1) := dk_5 (dk_at dksX7_isWord_0 4 rfl rfl)
theorem dX7_isWord_5 : decode cX7_isWord 5 = .ok (.if_icmp .ne 19, 3) := dk_160 0 19 (dk_at dksX7_isWord_0 5 rfl rfl)
theorem dX7_isWord_8 : decode cX7_isWord 8 = .ok (.aload_n 0, 1) := dk_42 (dk_at dksX7_isWord_0 8 rfl rfl)
theorem dX7_isWord_9 : decode cX7_isWord 9 = .ok (.getfield 113, 3) := dk_180 0 113 (dk_at dksX7_isWord_0 9 rfl rfl)
theorem dX7_isWord_12 : decode cX7_isWord 12 = .ok (.aload_n 1, 1) := dk_43 (dk_at dksX7_isWord_0 12 rfl rfl)
theorem dX7_isWord_13 : decode cX7_isWord 13 = .ok (.invokestatic 132, 3) := dk_184 0 132 (dk_at dksX7_isWord_0 13 rfl rfl)
theorem dX7_isWord_16 : decode cX7_isWord 16 = .ok (.lcmp, 1) := dk_148 (dk_at dksX7_isWord_0 16 rfl rfl)
theorem dX7_isWord_17 : decode cX7_isWord 17 = .ok (.ifCond .ne 7, 3) := dk_154 0 7 (dk_at dksX7_isWord_0 17 rfl rfl)
theorem dX7_isWord_20 : decode cX7_isWord 20 = .ok (.iconst 1, 1) := dk_4 (dk_at dksX7_isWord_0 20 rfl rfl)
theorem dX7_isWord_21 : decode cX7_isWord 21 = .ok (.goto 4, 3) := dk_167 0 4 (dk_at dksX7_isWord_0 21 rfl rfl)
theorem dX7_isWord_24 : decode cX7_isWord 24 = .ok (.iconst 0, 1) := dk_3 (dk_at dksX7_isWord_1 0 rfl rfl)
theorem dX7_isWord_25 : decode cX7_isWord 25 = .ok (.ireturn, 1) := dk_172 (dk_at dksX7_isWord_1 1 rfl rfl)
def dkwX7_flaw_1 : List UInt8 := [181, 0, 94, 177]
abbrev dktX7_flaw_1 : List UInt8 := dkwX7_flaw_1 ++ []
def dkwX7_flaw_0 : List UInt8 := [42, 180, 0, 94, 8, 160, 0, 4, 177, 42, 27, 181, 0, 126, 42, 42, 180, 0, 103, 181, 0, 129, 42, 8]
abbrev dktX7_flaw_0 : List UInt8 := dkwX7_flaw_0 ++ dktX7_flaw_1
theorem dksX7_flaw_0 : cX7_flaw.data.toList.drop 0 = dktX7_flaw_0 := by decide +kernel
theorem dksX7_flaw_1 : cX7_flaw.data.toList.drop 24 = dktX7_flaw_1 := dk_seg dksX7_flaw_0 24 rfl rfl
theorem dX7_flaw_0 : decode cX7_flaw 0 = .ok (.aload_n 0, 1) := dk_42 (dk_at dksX7_flaw_0 0 rfl rfl)
theorem dX7_flaw_1 : decode cX7_flaw 1 = .ok (.getfield 94, 3) := dk_180 0 94 (dk_at dksX7_flaw_0 1 rfl rfl)
theorem dX7_flaw_4 : decode cX7_flaw 4 = .ok (.iconst 5, 1) := dk_8 (dk_at dksX7_flaw_0 4 rfl rfl)
theorem dX7_flaw_5 : decode cX7_flaw 5 = .ok (.if_icmp .ne 4, 3) := dk_160 0 4 (dk_at dksX7_flaw_0 5 rfl rfl)
theorem dX7_flaw_8 : decode cX7_flaw 8 = .ok (.return_, 1) := dk_177 (dk_at dksX7_flaw_0 8 rfl rfl)
theorem dX7_flaw_9 : decode cX7_flaw 9 = .ok (.aload_n 0, 1) := dk_42 (dk_at dksX7_flaw_0 9 rfl rfl)
theorem dX7_flaw_10 : decode cX7_flaw 10 = .ok (.iload_n 1, 1) := dk_27 (dk_at dksX7_flaw_0 10 rfl rfl)
theorem dX7_flaw_11 : decode cX7_flaw 11 = .ok (.putfield 126, 3) := dk_181 0 126 (dk_at dksX7_flaw_0 11 rfl rfl)
theorem dX7_flaw_14 : decode cX7_flaw 14 = .ok (.aload_n 0, 1) := dk_42 (dk_at dksX7_flaw_0 14 rfl rfl)
theorem dX7_flaw_15 : decode cX7_flaw 15 = .ok (.aload_n 0, 1) := dk_42 (dk_at dksX7_flaw_0 15 rfl rfl)
theorem dX7_flaw_16 : decode cX7_flaw 16 = .ok (.getfield 103, 3) := dk_180 0 103 (dk_at dksX7_flaw_0 16 rfl rfl)
theorem dX7_flaw_19 : decode cX7_flaw 19 = .ok (.putfield 129, 3) := dk_181 0 129 (dk_at dksX7_flaw_0 19 rfl rfl)
theorem dX7_flaw_22 : decode cX7_flaw 22 = .ok (.aload_n 0, 1) := dk_42 (dk_at dksX7_flaw_0 22 rfl rfl)
theorem dX7_flaw_23 : decode cX7_flaw 23 = .ok (.iconst 5, 1) := dk_8 (dk_at dksX7_flaw_0 23 rfl rfl)
theorem dX7_flaw_24 : decode cX7_flaw 24 = .ok (.putfield 94, 3) := dk_181 0 94 (dk_at dksX7_flaw_1 0 rfl rfl)
theorem dX7_flaw_27 : decode cX7_flaw 27 = .ok (.return_, 1) := dk_177 (dk_at dksX7_flaw_1 3 rfl rfl)
def dkwX7_wants_0 : List UInt8 := [42, 43, 182, 0, 139, 154, 0, 8, 42, 4, 182, 0, 143, 42, 182, 0, 136, 177]
abbrev dktX7_wants_0 : List UInt8 := dkwX7_wants_0 ++ []
theorem dksX7_wants_0 : cX7_wants.data.toList.drop 0 = dktX7_wants_0 := by decide +kernel
theorem dX7_wants_0 : decode cX7_wants 0 = .ok (.aload_n 0, 1) := dk_42 (dk_at dksX7_wants_0 0 rfl rfl)
theorem dX7_wants_1 : decode cX7_wants 1 = .ok (.aload_n 1, 1) := dk_43 (dk_at dksX7_wants_0 1 rfl rfl)
theorem dX7_wants_2 : decode cX7_wants 2 = .ok (.invokevirtual 139, 3) := dk_182 0 139 (dk_at dksX7_wants_0 2 rfl rfl)
theorem dX7_wants_5 : decode cX7_wants 5 = .ok (.ifCond .ne 8, 3) := dk_154 0 8 (dk_at dksX7_wants_0 5 rfl rfl)
theorem dX7_wants_8 : decode cX7_wants 8 = .ok (.aload_n 0, 1) := dk_42 (dk_at dksX7_wants_0 8 rfl rfl)
theorem dX7_wants_9 : decode cX7_wants 9 = .ok (.iconst 1, 1) := dk_4 (dk_at dksX7_wants_0 9 rfl rfl)
theorem dX7_wants_10 : decode cX7_wants 10 = .ok (.invokevirtual 143, 3) := dk_182 0 143 (dk_at dksX7_wants_0 10 rfl rfl)
theorem dX7_wants_13 : decode cX7_wants 13 = .ok (.aload_n 0, 1) := dk_42 (dk_at dksX7_wants_0 13 rfl rfl)
theorem dX7_wants_14 : decode cX7_wants 14 = .ok (.invokevirtual 136, 3) := dk_182 0 136 (dk_at dksX7_wants_0 14 rfl rfl)
theorem dX7_wants_17 : decode cX7_wants 17 = .ok (.return_, 1) := dk_177 (dk_at dksX7_wants_0 17 rfl rfl)
def dkwX7_within_0 : List UInt8 := [26, 27, 161, 0, 12, 26, 28, 163, 0, 7, 4, 167, 0, 4, 3, 172]
abbrev dktX7_within_0 : List UInt8 := dkwX7_within_0 ++ []
theorem dksX7_within_0 : cX7_within.data.toList.drop 0 = dktX7_within_0 := by decide +kernel
theorem dX7_within_0 : decode cX7_within 0 = .ok (.iload_n 0, 1) := dk_26 (dk_at dksX7_within_0 0 rfl rfl)
theorem dX7_within_1 : decode cX7_within 1 = .ok (.iload_n 1, 1) := dk_27 (dk_at dksX7_within_0 1 rfl rfl)
theorem dX7_within_2 : decode cX7_within 2 = .ok (.if_icmp .lt 12, 3) := dk_161 0 12 (dk_at dksX7_within_0 2 rfl rfl)
theorem dX7_within_5 : decode cX7_within 5 = .ok (.iload_n 0, 1) := dk_26 (dk_at dksX7_within_0 5 rfl rfl)
theorem dX7_within_6 : decode cX7_within 6 = .ok (.iload_n 2, 1) := dk_28 (dk_at dksX7_within_0 6 rfl rfl)
theorem dX7_within_7 : decode cX7_within 7 = .ok (.if_icmp .gt 7, 3) := dk_163 0 7 (dk_at dksX7_within_0 7 rfl rfl)
theorem dX7_within_10 : decode cX7_within 10 = .ok (.iconst 1, 1) := dk_4 (dk_at dksX7_within_0 10 rfl rfl)
theorem dX7_within_11 : decode cX7_within 11 = .ok (.goto 4, 3) := dk_167 0 4 (dk_at dksX7_within_0 11 rfl rfl)
theorem dX7_within_14 : decode cX7_within 14 = .ok (.iconst 0, 1) := dk_3 (dk_at dksX7_within_0 14 rfl rfl)
theorem dX7_within_15 : decode cX7_within 15 = .ok (.ireturn, 1) := dk_172 (dk_at dksX7_within_0 15 rfl rfl)
def dkwX7_readWhole_2 : List UInt8 := [180, 0, 123, 62, 42, 182, 0, 136, 29, 172]
abbrev dktX7_readWhole_2 : List UInt8 := dkwX7_readWhole_2 ++ []
def dkwX7_readWhole_1 : List UInt8 := [184, 0, 147, 154, 0, 8, 42, 7, 182, 0, 143, 42, 180, 0, 94, 8, 160, 0, 7, 27, 167, 0, 7, 42]
abbrev dktX7_readWhole_1 : List UInt8 := dkwX7_readWhole_1 ++ dktX7_readWhole_2
def dkwX7_readWhole_0 : List UInt8 := [42, 180, 0, 94, 6, 159, 0, 11, 42, 4, 182, 0, 143, 167, 0, 20, 42, 180, 0, 123, 27, 28]
abbrev dktX7_readWhole_0 : List UInt8 := dkwX7_readWhole_0 ++ dktX7_readWhole_1
theorem dksX7_readWhole_0 : cX7_readWhole.data.toList.drop 0 = dktX7_readWhole_0 := by decide +kernel
theorem dksX7_readWhole_1 : cX7_readWhole.data.toList.drop 22 = dktX7_readWhole_1 := dk_seg dksX7_readWhole_0 22 rfl rfl
theorem dksX7_readWhole_2 : cX7_readWhole.data.toList.drop 46 = dktX7_readWhole_2 := dk_seg dksX7_readWhole_1 24 rfl rfl
theorem dX7_readWhole_0 : decode cX7_readWhole 0 = .ok (.aload_n 0, 1) := dk_42 (dk_at dksX7_readWhole_0 0 rfl rfl)
theorem dX7_readWhole_1 : decode cX7_readWhole 1 = .ok (.getfield 94, 3) := dk_180 0 94 (dk_at dksX7_readWhole_0 1 rfl rfl)
theorem dX7_readWhole_4 : decode cX7_readWhole 4 = .ok (.iconst 3, 1) := dk_6 (dk_at dksX7_readWhole_0 4 rfl rfl)
theorem dX7_readWhole_5 : decode cX7_readWhole 5 = .ok (.if_icmp .eq 11, 3) := dk_159 0 11 (dk_at dksX7_readWhole_0 5 rfl rfl)
theorem dX7_readWhole_8 : decode cX7_readWhole 8 = .ok (.aload_n 0, 1) := dk_42 (dk_at dksX7_readWhole_0 8 rfl rfl)
theorem dX7_readWhole_9 : decode cX7_readWhole 9 = .ok (.iconst 1, 1) := dk_4 (dk_at dksX7_readWhole_0 9 rfl rfl)
theorem dX7_readWhole_10 : decode cX7_readWhole 10 = .ok (.invokevirtual 143, 3) := dk_182 0 143 (dk_at dksX7_readWhole_0 10 rfl rfl)
theorem dX7_readWhole_13 : decode cX7_readWhole 13 = .ok (.goto 20, 3) := dk_167 0 20 (dk_at dksX7_readWhole_0 13 rfl rfl)
theorem dX7_readWhole_16 : decode cX7_readWhole 16 = .ok (.aload_n 0, 1) := dk_42 (dk_at dksX7_readWhole_0 16 rfl rfl)
theorem dX7_readWhole_17 : decode cX7_readWhole 17 = .ok (.getfield 123, 3) := dk_180 0 123 (dk_at dksX7_readWhole_0 17 rfl rfl)
theorem dX7_readWhole_20 : decode cX7_readWhole 20 = .ok (.iload_n 1, 1) := dk_27 (dk_at dksX7_readWhole_0 20 rfl rfl)
theorem dX7_readWhole_21 : decode cX7_readWhole 21 = .ok (.iload_n 2, 1) := dk_28 (dk_at dksX7_readWhole_0 21 rfl rfl)
theorem dX7_readWhole_22 : decode cX7_readWhole 22 = .ok (.invokestatic 147, 3) := dk_184 0 147 (dk_at dksX7_readWhole_1 0 rfl rfl)
theorem dX7_readWhole_25 : decode cX7_readWhole 25 = .ok (.ifCond .ne 8, 3) := dk_154 0 8 (dk_at dksX7_readWhole_1 3 rfl rfl)
theorem dX7_readWhole_28 : decode cX7_readWhole 28 = .ok (.aload_n 0, 1) := dk_42 (dk_at dksX7_readWhole_1 6 rfl rfl)
theorem dX7_readWhole_29 : decode cX7_readWhole 29 = .ok (.iconst 4, 1) := dk_7 (dk_at dksX7_readWhole_1 7 rfl rfl)
theorem dX7_readWhole_30 : decode cX7_readWhole 30 = .ok (.invokevirtual 143, 3) := dk_182 0 143 (dk_at dksX7_readWhole_1 8 rfl rfl)
theorem dX7_readWhole_33 : decode cX7_readWhole 33 = .ok (.aload_n 0, 1) := dk_42 (dk_at dksX7_readWhole_1 11 rfl rfl)
theorem dX7_readWhole_34 : decode cX7_readWhole 34 = .ok (.getfield 94, 3) := dk_180 0 94 (dk_at dksX7_readWhole_1 12 rfl rfl)
theorem dX7_readWhole_37 : decode cX7_readWhole 37 = .ok (.iconst 5, 1) := dk_8 (dk_at dksX7_readWhole_1 15 rfl rfl)
theorem dX7_readWhole_38 : decode cX7_readWhole 38 = .ok (.if_icmp .ne 7, 3) := dk_160 0 7 (dk_at dksX7_readWhole_1 16 rfl rfl)
theorem dX7_readWhole_41 : decode cX7_readWhole 41 = .ok (.iload_n 1, 1) := dk_27 (dk_at dksX7_readWhole_1 19 rfl rfl)
theorem dX7_readWhole_42 : decode cX7_readWhole 42 = .ok (.goto 7, 3) := dk_167 0 7 (dk_at dksX7_readWhole_1 20 rfl rfl)
theorem dX7_readWhole_45 : decode cX7_readWhole 45 = .ok (.aload_n 0, 1) := dk_42 (dk_at dksX7_readWhole_1 23 rfl rfl)
theorem dX7_readWhole_46 : decode cX7_readWhole 46 = .ok (.getfield 123, 3) := dk_180 0 123 (dk_at dksX7_readWhole_2 0 rfl rfl)
theorem dX7_readWhole_49 : decode cX7_readWhole 49 = .ok (.istore_n 3, 1) := dk_62 (dk_at dksX7_readWhole_2 3 rfl rfl)
theorem dX7_readWhole_50 : decode cX7_readWhole 50 = .ok (.aload_n 0, 1) := dk_42 (dk_at dksX7_readWhole_2 4 rfl rfl)
theorem dX7_readWhole_51 : decode cX7_readWhole 51 = .ok (.invokevirtual 136, 3) := dk_182 0 136 (dk_at dksX7_readWhole_2 5 rfl rfl)
theorem dX7_readWhole_54 : decode cX7_readWhole 54 = .ok (.iload_n 3, 1) := dk_29 (dk_at dksX7_readWhole_2 8 rfl rfl)
theorem dX7_readWhole_55 : decode cX7_readWhole 55 = .ok (.ireturn, 1) := dk_172 (dk_at dksX7_readWhole_2 9 rfl rfl)
def dkwX7_readPart_0 : List UInt8 := [42, 43, 182, 0, 151, 42, 28, 29, 182, 0, 155, 172]
abbrev dktX7_readPart_0 : List UInt8 := dkwX7_readPart_0 ++ []
theorem dksX7_readPart_0 : cX7_readPart.data.toList.drop 0 = dktX7_readPart_0 := by decide +kernel
theorem dX7_readPart_0 : decode cX7_readPart 0 = .ok (.aload_n 0, 1) := dk_42 (dk_at dksX7_readPart_0 0 rfl rfl)
theorem dX7_readPart_1 : decode cX7_readPart 1 = .ok (.aload_n 1, 1) := dk_43 (dk_at dksX7_readPart_0 1 rfl rfl)
theorem dX7_readPart_2 : decode cX7_readPart 2 = .ok (.invokevirtual 151, 3) := dk_182 0 151 (dk_at dksX7_readPart_0 2 rfl rfl)
theorem dX7_readPart_5 : decode cX7_readPart 5 = .ok (.aload_n 0, 1) := dk_42 (dk_at dksX7_readPart_0 5 rfl rfl)
theorem dX7_readPart_6 : decode cX7_readPart 6 = .ok (.iload_n 2, 1) := dk_28 (dk_at dksX7_readPart_0 6 rfl rfl)
theorem dX7_readPart_7 : decode cX7_readPart 7 = .ok (.iload_n 3, 1) := dk_29 (dk_at dksX7_readPart_0 7 rfl rfl)
theorem dX7_readPart_8 : decode cX7_readPart 8 = .ok (.invokevirtual 155, 3) := dk_182 0 155 (dk_at dksX7_readPart_0 8 rfl rfl)
theorem dX7_readPart_11 : decode cX7_readPart 11 = .ok (.ireturn, 1) := dk_172 (dk_at dksX7_readPart_0 11 rfl rfl)
def dkwX7_readHill_2 : List UInt8 := [177, 42, 180, 0, 192, 27, 181, 0, 196, 42, 180, 0, 192, 28, 181, 0, 229, 177]
abbrev dktX7_readHill_2 : List UInt8 := dkwX7_readHill_2 ++ []
def dkwX7_readHill_1 : List UInt8 := [16, 12, 182, 1, 31, 60, 42, 19, 1, 35, 4, 7, 182, 1, 31, 61, 42, 180, 0, 94, 8, 160, 0, 4]
abbrev dktX7_readHill_1 : List UInt8 := dkwX7_readHill_1 ++ dktX7_readHill_2
def dkwX7_readHill_0 : List UInt8 := [42, 180, 0, 192, 180, 0, 196, 158, 0, 8, 42, 6, 182, 0, 143, 42, 182, 0, 136, 42, 19, 1, 30, 5]
abbrev dktX7_readHill_0 : List UInt8 := dkwX7_readHill_0 ++ dktX7_readHill_1
theorem dksX7_readHill_0 : cX7_readHill.data.toList.drop 0 = dktX7_readHill_0 := by decide +kernel
theorem dksX7_readHill_1 : cX7_readHill.data.toList.drop 24 = dktX7_readHill_1 := dk_seg dksX7_readHill_0 24 rfl rfl
theorem dksX7_readHill_2 : cX7_readHill.data.toList.drop 48 = dktX7_readHill_2 := dk_seg dksX7_readHill_1 24 rfl rfl
theorem dX7_readHill_0 : decode cX7_readHill 0 = .ok (.aload_n 0, 1) := dk_42 (dk_at dksX7_readHill_0 0 rfl rfl)
theorem dX7_readHill_1 : decode cX7_readHill 1 = .ok (.getfield 192, 3) := dk_180 0 192 (dk_at dksX7_readHill_0 1 rfl rfl)
theorem dX7_readHill_4 : decode cX7_readHill 4 = .ok (.getfield 196, 3) := dk_180 0 196 (dk_at dksX7_readHill_0 4 rfl rfl)
theorem dX7_readHill_7 : decode cX7_readHill 7 = .ok (.ifCond .le 8, 3) := dk_158 0 8 (dk_at dksX7_readHill_0 7 rfl rfl)
theorem dX7_readHill_10 : decode cX7_readHill 10 = .ok (.aload_n 0, 1) := dk_42 (dk_at dksX7_readHill_0 10 rfl rfl)
theorem dX7_readHill_11 : decode cX7_readHill 11 = .ok (.iconst 3, 1) := dk_6 (dk_at dksX7_readHill_0 11 rfl rfl)
theorem dX7_readHill_12 : decode cX7_readHill 12 = .ok (.invokevirtual 143, 3) := dk_182 0 143 (dk_at dksX7_readHill_0 12 rfl rfl)
theorem dX7_readHill_15 : decode cX7_readHill 15 = .ok (.aload_n 0, 1) := dk_42 (dk_at dksX7_readHill_0 15 rfl rfl)
theorem dX7_readHill_16 : decode cX7_readHill 16 = .ok (.invokevirtual 136, 3) := dk_182 0 136 (dk_at dksX7_readHill_0 16 rfl rfl)
theorem dX7_readHill_19 : decode cX7_readHill 19 = .ok (.aload_n 0, 1) := dk_42 (dk_at dksX7_readHill_0 19 rfl rfl)
theorem dX7_readHill_20 : decode cX7_readHill 20 = .ok (.ldc_w 286, 3) := dk_19 1 30 (dk_at dksX7_readHill_0 20 rfl rfl)
theorem dX7_readHill_23 : decode cX7_readHill 23 = .ok (.iconst 2, 1) := dk_5 (dk_at dksX7_readHill_0 23 rfl rfl)
theorem dX7_readHill_24 : decode cX7_readHill 24 = .ok (.bipush 12, 2) := dk_16 12 (dk_at dksX7_readHill_1 0 rfl rfl)
theorem dX7_readHill_26 : decode cX7_readHill 26 = .ok (.invokevirtual 287, 3) := dk_182 1 31 (dk_at dksX7_readHill_1 2 rfl rfl)
theorem dX7_readHill_29 : decode cX7_readHill 29 = .ok (.istore_n 1, 1) := dk_60 (dk_at dksX7_readHill_1 5 rfl rfl)
theorem dX7_readHill_30 : decode cX7_readHill 30 = .ok (.aload_n 0, 1) := dk_42 (dk_at dksX7_readHill_1 6 rfl rfl)
theorem dX7_readHill_31 : decode cX7_readHill 31 = .ok (.ldc_w 291, 3) := dk_19 1 35 (dk_at dksX7_readHill_1 7 rfl rfl)
theorem dX7_readHill_34 : decode cX7_readHill 34 = .ok (.iconst 1, 1) := dk_4 (dk_at dksX7_readHill_1 10 rfl rfl)
theorem dX7_readHill_35 : decode cX7_readHill 35 = .ok (.iconst 4, 1) := dk_7 (dk_at dksX7_readHill_1 11 rfl rfl)
theorem dX7_readHill_36 : decode cX7_readHill 36 = .ok (.invokevirtual 287, 3) := dk_182 1 31 (dk_at dksX7_readHill_1 12 rfl rfl)
theorem dX7_readHill_39 : decode cX7_readHill 39 = .ok (.istore_n 2, 1) := dk_61 (dk_at dksX7_readHill_1 15 rfl rfl)
theorem dX7_readHill_40 : decode cX7_readHill 40 = .ok (.aload_n 0, 1) := dk_42 (dk_at dksX7_readHill_1 16 rfl rfl)
theorem dX7_readHill_41 : decode cX7_readHill 41 = .ok (.getfield 94, 3) := dk_180 0 94 (dk_at dksX7_readHill_1 17 rfl rfl)
theorem dX7_readHill_44 : decode cX7_readHill 44 = .ok (.iconst 5, 1) := dk_8 (dk_at dksX7_readHill_1 20 rfl rfl)
theorem dX7_readHill_45 : decode cX7_readHill 45 = .ok (.if_icmp .ne 4, 3) := dk_160 0 4 (dk_at dksX7_readHill_1 21 rfl rfl)
theorem dX7_readHill_48 : decode cX7_readHill 48 = .ok (.return_, 1) := dk_177 (dk_at dksX7_readHill_2 0 rfl rfl)
theorem dX7_readHill_49 : decode cX7_readHill 49 = .ok (.aload_n 0, 1) := dk_42 (dk_at dksX7_readHill_2 1 rfl rfl)
theorem dX7_readHill_50 : decode cX7_readHill 50 = .ok (.getfield 192, 3) := dk_180 0 192 (dk_at dksX7_readHill_2 2 rfl rfl)
theorem dX7_readHill_53 : decode cX7_readHill 53 = .ok (.iload_n 1, 1) := dk_27 (dk_at dksX7_readHill_2 5 rfl rfl)
theorem dX7_readHill_54 : decode cX7_readHill 54 = .ok (.putfield 196, 3) := dk_181 0 196 (dk_at dksX7_readHill_2 6 rfl rfl)
theorem dX7_readHill_57 : decode cX7_readHill 57 = .ok (.aload_n 0, 1) := dk_42 (dk_at dksX7_readHill_2 9 rfl rfl)
theorem dX7_readHill_58 : decode cX7_readHill 58 = .ok (.getfield 192, 3) := dk_180 0 192 (dk_at dksX7_readHill_2 10 rfl rfl)
theorem dX7_readHill_61 : decode cX7_readHill 61 = .ok (.iload_n 2, 1) := dk_28 (dk_at dksX7_readHill_2 13 rfl rfl)
theorem dX7_readHill_62 : decode cX7_readHill 62 = .ok (.putfield 229, 3) := dk_181 0 229 (dk_at dksX7_readHill_2 14 rfl rfl)
theorem dX7_readHill_65 : decode cX7_readHill 65 = .ok (.return_, 1) := dk_177 (dk_at dksX7_readHill_2 17 rfl rfl)
def dkwX7_begins_1 : List UInt8 := [182, 0, 143, 42, 182, 0, 136, 177]
abbrev dktX7_begins_1 : List UInt8 := dkwX7_begins_1 ++ []
def dkwX7_begins_0 : List UInt8 := [27, 28, 160, 0, 8, 42, 8, 182, 0, 143, 42, 180, 0, 192, 180, 0, 196, 154, 0, 9, 42, 16, 6]
abbrev dktX7_begins_0 : List UInt8 := dkwX7_begins_0 ++ dktX7_begins_1
theorem dksX7_begins_0 : cX7_begins.data.toList.drop 0 = dktX7_begins_0 := by decide +kernel
theorem dksX7_begins_1 : cX7_begins.data.toList.drop 23 = dktX7_begins_1 := dk_seg dksX7_begins_0 23 rfl rfl
theorem dX7_begins_0 : decode cX7_begins 0 = .ok (.iload_n 1, 1) := dk_27 (dk_at dksX7_begins_0 0 rfl rfl)
theorem dX7_begins_1 : decode cX7_begins 1 = .ok (.iload_n 2, 1) := dk_28 (dk_at dksX7_begins_0 1 rfl rfl)
theorem dX7_begins_2 : decode cX7_begins 2 = .ok (.if_icmp .ne 8, 3) := dk_160 0 8 (dk_at dksX7_begins_0 2 rfl rfl)
theorem dX7_begins_5 : decode cX7_begins 5 = .ok (.aload_n 0, 1) := dk_42 (dk_at dksX7_begins_0 5 rfl rfl)
theorem dX7_begins_6 : decode cX7_begins 6 = .ok (.iconst 5, 1) := dk_8 (dk_at dksX7_begins_0 6 rfl rfl)
theorem dX7_begins_7 : decode cX7_begins 7 = .ok (.invokevirtual 143, 3) := dk_182 0 143 (dk_at dksX7_begins_0 7 rfl rfl)
theorem dX7_begins_10 : decode cX7_begins 10 = .ok (.aload_n 0, 1) := dk_42 (dk_at dksX7_begins_0 10 rfl rfl)
theorem dX7_begins_11 : decode cX7_begins 11 = .ok (.getfield 192, 3) := dk_180 0 192 (dk_at dksX7_begins_0 11 rfl rfl)
theorem dX7_begins_14 : decode cX7_begins 14 = .ok (.getfield 196, 3) := dk_180 0 196 (dk_at dksX7_begins_0 14 rfl rfl)
theorem dX7_begins_17 : decode cX7_begins 17 = .ok (.ifCond .ne 9, 3) := dk_154 0 9 (dk_at dksX7_begins_0 17 rfl rfl)
theorem dX7_begins_20 : decode cX7_begins 20 = .ok (.aload_n 0, 1) := dk_42 (dk_at dksX7_begins_0 20 rfl rfl)
theorem dX7_begins_21 : decode cX7_begins 21 = .ok (.bipush 6, 2) := dk_16 6 (dk_at dksX7_begins_0 21 rfl rfl)
theorem dX7_begins_23 : decode cX7_begins 23 = .ok (.invokevirtual 143, 3) := dk_182 0 143 (dk_at dksX7_begins_1 0 rfl rfl)
theorem dX7_begins_26 : decode cX7_begins 26 = .ok (.aload_n 0, 1) := dk_42 (dk_at dksX7_begins_1 3 rfl rfl)
theorem dX7_begins_27 : decode cX7_begins 27 = .ok (.invokevirtual 136, 3) := dk_182 0 136 (dk_at dksX7_begins_1 4 rfl rfl)
theorem dX7_begins_30 : decode cX7_begins 30 = .ok (.return_, 1) := dk_177 (dk_at dksX7_begins_1 7 rfl rfl)
def dkwX7_isName_7 : List UInt8 := [4, 167, 0, 4, 3, 172]
abbrev dktX7_isName_7 : List UInt8 := dkwX7_isName_7 ++ []
def dkwX7_isName_6 : List UInt8 := [182, 0, 139, 154, 0, 25, 42, 18, 188, 182, 0, 139, 154, 0, 16, 42, 18, 190, 182, 0, 139, 154, 0, 7]
abbrev dktX7_isName_6 : List UInt8 := dkwX7_isName_6 ++ dktX7_isName_7
def dkwX7_isName_5 : List UInt8 := [3, 172, 42, 18, 182, 182, 0, 139, 154, 0, 43, 42, 18, 184, 182, 0, 139, 154, 0, 34, 42, 18, 186]
abbrev dktX7_isName_5 : List UInt8 := dkwX7_isName_5 ++ dktX7_isName_6
def dkwX7_isName_4 : List UInt8 := [182, 0, 139, 154, 0, 21, 42, 18, 178, 182, 0, 139, 154, 0, 12, 42, 18, 180, 182, 0, 139, 153, 0, 5]
abbrev dktX7_isName_4 : List UInt8 := dkwX7_isName_4 ++ dktX7_isName_5
def dkwX7_isName_3 : List UInt8 := [154, 0, 48, 42, 18, 172, 182, 0, 139, 154, 0, 39, 42, 18, 174, 182, 0, 139, 154, 0, 30, 42, 18, 176]
abbrev dktX7_isName_3 : List UInt8 := dkwX7_isName_3 ++ dktX7_isName_4
def dkwX7_isName_2 : List UInt8 := [182, 0, 139, 154, 0, 12, 42, 18, 168, 182, 0, 139, 153, 0, 5, 3, 172, 42, 18, 170, 182, 0, 139]
abbrev dktX7_isName_2 : List UInt8 := dkwX7_isName_2 ++ dktX7_isName_3
def dkwX7_isName_1 : List UInt8 := [154, 0, 39, 42, 18, 162, 182, 0, 139, 154, 0, 30, 42, 18, 164, 182, 0, 139, 154, 0, 21, 42, 18, 166]
abbrev dktX7_isName_1 : List UInt8 := dkwX7_isName_1 ++ dktX7_isName_2
def dkwX7_isName_0 : List UInt8 := [42, 180, 0, 94, 5, 160, 0, 57, 42, 18, 159, 182, 0, 139, 154, 0, 48, 42, 18, 161, 182, 0, 139]
abbrev dktX7_isName_0 : List UInt8 := dkwX7_isName_0 ++ dktX7_isName_1
theorem dksX7_isName_0 : cX7_isName.data.toList.drop 0 = dktX7_isName_0 := by decide +kernel
theorem dksX7_isName_1 : cX7_isName.data.toList.drop 23 = dktX7_isName_1 := dk_seg dksX7_isName_0 23 rfl rfl
theorem dksX7_isName_2 : cX7_isName.data.toList.drop 47 = dktX7_isName_2 := dk_seg dksX7_isName_1 24 rfl rfl
theorem dksX7_isName_3 : cX7_isName.data.toList.drop 70 = dktX7_isName_3 := dk_seg dksX7_isName_2 23 rfl rfl
theorem dksX7_isName_4 : cX7_isName.data.toList.drop 94 = dktX7_isName_4 := dk_seg dksX7_isName_3 24 rfl rfl
theorem dksX7_isName_5 : cX7_isName.data.toList.drop 118 = dktX7_isName_5 := dk_seg dksX7_isName_4 24 rfl rfl
theorem dksX7_isName_6 : cX7_isName.data.toList.drop 141 = dktX7_isName_6 := dk_seg dksX7_isName_5 23 rfl rfl
theorem dksX7_isName_7 : cX7_isName.data.toList.drop 165 = dktX7_isName_7 := dk_seg dksX7_isName_6 24 rfl rfl
theorem dX7_isName_0 : decode cX7_isName 0 = .ok (.aload_n 0, 1) := dk_42 (dk_at dksX7_isName_0 0 rfl rfl)
theorem dX7_isName_1 : decode cX7_isName 1 = .ok (.getfield 94, 3) := dk_180 0 94 (dk_at dksX7_isName_0 1 rfl rfl)
theorem dX7_isName_4 : decode cX7_isName 4 = .ok (.iconst 2, 1) := dk_5 (dk_at dksX7_isName_0 4 rfl rfl)
theorem dX7_isName_5 : decode cX7_isName 5 = .ok (.if_icmp .ne 57, 3) := dk_160 0 57 (dk_at dksX7_isName_0 5 rfl rfl)
theorem dX7_isName_8 : decode cX7_isName 8 = .ok (.aload_n 0, 1) := dk_42 (dk_at dksX7_isName_0 8 rfl rfl)
theorem dX7_isName_9 : decode cX7_isName 9 = .ok (.ldc 159, 2) := dk_18 159 (dk_at dksX7_isName_0 9 rfl rfl)
theorem dX7_isName_11 : decode cX7_isName 11 = .ok (.invokevirtual 139, 3) := dk_182 0 139 (dk_at dksX7_isName_0 11 rfl rfl)
theorem dX7_isName_14 : decode cX7_isName 14 = .ok (.ifCond .ne 48, 3) := dk_154 0 48 (dk_at dksX7_isName_0 14 rfl rfl)
theorem dX7_isName_17 : decode cX7_isName 17 = .ok (.aload_n 0, 1) := dk_42 (dk_at dksX7_isName_0 17 rfl rfl)
theorem dX7_isName_18 : decode cX7_isName 18 = .ok (.ldc 161, 2) := dk_18 161 (dk_at dksX7_isName_0 18 rfl rfl)
theorem dX7_isName_20 : decode cX7_isName 20 = .ok (.invokevirtual 139, 3) := dk_182 0 139 (dk_at dksX7_isName_0 20 rfl rfl)
theorem dX7_isName_23 : decode cX7_isName 23 = .ok (.ifCond .ne 39, 3) := dk_154 0 39 (dk_at dksX7_isName_1 0 rfl rfl)
theorem dX7_isName_26 : decode cX7_isName 26 = .ok (.aload_n 0, 1) := dk_42 (dk_at dksX7_isName_1 3 rfl rfl)
theorem dX7_isName_27 : decode cX7_isName 27 = .ok (.ldc 162, 2) := dk_18 162 (dk_at dksX7_isName_1 4 rfl rfl)
theorem dX7_isName_29 : decode cX7_isName 29 = .ok (.invokevirtual 139, 3) := dk_182 0 139 (dk_at dksX7_isName_1 6 rfl rfl)
theorem dX7_isName_32 : decode cX7_isName 32 = .ok (.ifCond .ne 30, 3) := dk_154 0 30 (dk_at dksX7_isName_1 9 rfl rfl)
theorem dX7_isName_35 : decode cX7_isName 35 = .ok (.aload_n 0, 1) := dk_42 (dk_at dksX7_isName_1 12 rfl rfl)
theorem dX7_isName_36 : decode cX7_isName 36 = .ok (.ldc 164, 2) := dk_18 164 (dk_at dksX7_isName_1 13 rfl rfl)
theorem dX7_isName_38 : decode cX7_isName 38 = .ok (.invokevirtual 139, 3) := dk_182 0 139 (dk_at dksX7_isName_1 15 rfl rfl)
theorem dX7_isName_41 : decode cX7_isName 41 = .ok (.ifCond .ne 21, 3) := dk_154 0 21 (dk_at dksX7_isName_1 18 rfl rfl)
theorem dX7_isName_44 : decode cX7_isName 44 = .ok (.aload_n 0, 1) := dk_42 (dk_at dksX7_isName_1 21 rfl rfl)
theorem dX7_isName_45 : decode cX7_isName 45 = .ok (.ldc 166, 2) := dk_18 166 (dk_at dksX7_isName_1 22 rfl rfl)
theorem dX7_isName_47 : decode cX7_isName 47 = .ok (.invokevirtual 139, 3) := dk_182 0 139 (dk_at dksX7_isName_2 0 rfl rfl)
theorem dX7_isName_50 : decode cX7_isName 50 = .ok (.ifCond .ne 12, 3) := dk_154 0 12 (dk_at dksX7_isName_2 3 rfl rfl)
theorem dX7_isName_53 : decode cX7_isName 53 = .ok (.aload_n 0, 1) := dk_42 (dk_at dksX7_isName_2 6 rfl rfl)
theorem dX7_isName_54 : decode cX7_isName 54 = .ok (.ldc 168, 2) := dk_18 168 (dk_at dksX7_isName_2 7 rfl rfl)
theorem dX7_isName_56 : decode cX7_isName 56 = .ok (.invokevirtual 139, 3) := dk_182 0 139 (dk_at dksX7_isName_2 9 rfl rfl)
theorem dX7_isName_59 : decode cX7_isName 59 = .ok (.ifCond .eq 5, 3) := dk_153 0 5 (dk_at dksX7_isName_2 12 rfl rfl)
theorem dX7_isName_62 : decode cX7_isName 62 = .ok (.iconst 0, 1) := dk_3 (dk_at dksX7_isName_2 15 rfl rfl)
theorem dX7_isName_63 : decode cX7_isName 63 = .ok (.ireturn, 1) := dk_172 (dk_at dksX7_isName_2 16 rfl rfl)
theorem dX7_isName_64 : decode cX7_isName 64 = .ok (.aload_n 0, 1) := dk_42 (dk_at dksX7_isName_2 17 rfl rfl)
theorem dX7_isName_65 : decode cX7_isName 65 = .ok (.ldc 170, 2) := dk_18 170 (dk_at dksX7_isName_2 18 rfl rfl)
theorem dX7_isName_67 : decode cX7_isName 67 = .ok (.invokevirtual 139, 3) := dk_182 0 139 (dk_at dksX7_isName_2 20 rfl rfl)
theorem dX7_isName_70 : decode cX7_isName 70 = .ok (.ifCond .ne 48, 3) := dk_154 0 48 (dk_at dksX7_isName_3 0 rfl rfl)
theorem dX7_isName_73 : decode cX7_isName 73 = .ok (.aload_n 0, 1) := dk_42 (dk_at dksX7_isName_3 3 rfl rfl)
theorem dX7_isName_74 : decode cX7_isName 74 = .ok (.ldc 172, 2) := dk_18 172 (dk_at dksX7_isName_3 4 rfl rfl)
theorem dX7_isName_76 : decode cX7_isName 76 = .ok (.invokevirtual 139, 3) := dk_182 0 139 (dk_at dksX7_isName_3 6 rfl rfl)
theorem dX7_isName_79 : decode cX7_isName 79 = .ok (.ifCond .ne 39, 3) := dk_154 0 39 (dk_at dksX7_isName_3 9 rfl rfl)
theorem dX7_isName_82 : decode cX7_isName 82 = .ok (.aload_n 0, 1) := dk_42 (dk_at dksX7_isName_3 12 rfl rfl)
theorem dX7_isName_83 : decode cX7_isName 83 = .ok (.ldc 174, 2) := dk_18 174 (dk_at dksX7_isName_3 13 rfl rfl)
theorem dX7_isName_85 : decode cX7_isName 85 = .ok (.invokevirtual 139, 3) := dk_182 0 139 (dk_at dksX7_isName_3 15 rfl rfl)
theorem dX7_isName_88 : decode cX7_isName 88 = .ok (.ifCond .ne 30, 3) := dk_154 0 30 (dk_at dksX7_isName_3 18 rfl rfl)
theorem dX7_isName_91 : decode cX7_isName 91 = .ok (.aload_n 0, 1) := dk_42 (dk_at dksX7_isName_3 21 rfl rfl)
theorem dX7_isName_92 : decode cX7_isName 92 = .ok (.ldc 176, 2) := dk_18 176 (dk_at dksX7_isName_3 22 rfl rfl)
theorem dX7_isName_94 : decode cX7_isName 94 = .ok (.invokevirtual 139, 3) := dk_182 0 139 (dk_at dksX7_isName_4 0 rfl rfl)
theorem dX7_isName_97 : decode cX7_isName 97 = .ok (.ifCond .ne 21, 3) := dk_154 0 21 (dk_at dksX7_isName_4 3 rfl rfl)
theorem dX7_isName_100 : decode cX7_isName 100 = .ok (.aload_n 0, 1) := dk_42 (dk_at dksX7_isName_4 6 rfl rfl)
theorem dX7_isName_101 : decode cX7_isName 101 = .ok (.ldc 178, 2) := dk_18 178 (dk_at dksX7_isName_4 7 rfl rfl)
theorem dX7_isName_103 : decode cX7_isName 103 = .ok (.invokevirtual 139, 3) := dk_182 0 139 (dk_at dksX7_isName_4 9 rfl rfl)
theorem dX7_isName_106 : decode cX7_isName 106 = .ok (.ifCond .ne 12, 3) := dk_154 0 12 (dk_at dksX7_isName_4 12 rfl rfl)
theorem dX7_isName_109 : decode cX7_isName 109 = .ok (.aload_n 0, 1) := dk_42 (dk_at dksX7_isName_4 15 rfl rfl)
theorem dX7_isName_110 : decode cX7_isName 110 = .ok (.ldc 180, 2) := dk_18 180 (dk_at dksX7_isName_4 16 rfl rfl)
theorem dX7_isName_112 : decode cX7_isName 112 = .ok (.invokevirtual 139, 3) := dk_182 0 139 (dk_at dksX7_isName_4 18 rfl rfl)
theorem dX7_isName_115 : decode cX7_isName 115 = .ok (.ifCond .eq 5, 3) := dk_153 0 5 (dk_at dksX7_isName_4 21 rfl rfl)
theorem dX7_isName_118 : decode cX7_isName 118 = .ok (.iconst 0, 1) := dk_3 (dk_at dksX7_isName_5 0 rfl rfl)
theorem dX7_isName_119 : decode cX7_isName 119 = .ok (.ireturn, 1) := dk_172 (dk_at dksX7_isName_5 1 rfl rfl)
theorem dX7_isName_120 : decode cX7_isName 120 = .ok (.aload_n 0, 1) := dk_42 (dk_at dksX7_isName_5 2 rfl rfl)
theorem dX7_isName_121 : decode cX7_isName 121 = .ok (.ldc 182, 2) := dk_18 182 (dk_at dksX7_isName_5 3 rfl rfl)
theorem dX7_isName_123 : decode cX7_isName 123 = .ok (.invokevirtual 139, 3) := dk_182 0 139 (dk_at dksX7_isName_5 5 rfl rfl)
theorem dX7_isName_126 : decode cX7_isName 126 = .ok (.ifCond .ne 43, 3) := dk_154 0 43 (dk_at dksX7_isName_5 8 rfl rfl)
theorem dX7_isName_129 : decode cX7_isName 129 = .ok (.aload_n 0, 1) := dk_42 (dk_at dksX7_isName_5 11 rfl rfl)
theorem dX7_isName_130 : decode cX7_isName 130 = .ok (.ldc 184, 2) := dk_18 184 (dk_at dksX7_isName_5 12 rfl rfl)
theorem dX7_isName_132 : decode cX7_isName 132 = .ok (.invokevirtual 139, 3) := dk_182 0 139 (dk_at dksX7_isName_5 14 rfl rfl)
theorem dX7_isName_135 : decode cX7_isName 135 = .ok (.ifCond .ne 34, 3) := dk_154 0 34 (dk_at dksX7_isName_5 17 rfl rfl)
theorem dX7_isName_138 : decode cX7_isName 138 = .ok (.aload_n 0, 1) := dk_42 (dk_at dksX7_isName_5 20 rfl rfl)
theorem dX7_isName_139 : decode cX7_isName 139 = .ok (.ldc 186, 2) := dk_18 186 (dk_at dksX7_isName_5 21 rfl rfl)
theorem dX7_isName_141 : decode cX7_isName 141 = .ok (.invokevirtual 139, 3) := dk_182 0 139 (dk_at dksX7_isName_6 0 rfl rfl)
theorem dX7_isName_144 : decode cX7_isName 144 = .ok (.ifCond .ne 25, 3) := dk_154 0 25 (dk_at dksX7_isName_6 3 rfl rfl)
theorem dX7_isName_147 : decode cX7_isName 147 = .ok (.aload_n 0, 1) := dk_42 (dk_at dksX7_isName_6 6 rfl rfl)
theorem dX7_isName_148 : decode cX7_isName 148 = .ok (.ldc 188, 2) := dk_18 188 (dk_at dksX7_isName_6 7 rfl rfl)
theorem dX7_isName_150 : decode cX7_isName 150 = .ok (.invokevirtual 139, 3) := dk_182 0 139 (dk_at dksX7_isName_6 9 rfl rfl)
theorem dX7_isName_153 : decode cX7_isName 153 = .ok (.ifCond .ne 16, 3) := dk_154 0 16 (dk_at dksX7_isName_6 12 rfl rfl)
theorem dX7_isName_156 : decode cX7_isName 156 = .ok (.aload_n 0, 1) := dk_42 (dk_at dksX7_isName_6 15 rfl rfl)
theorem dX7_isName_157 : decode cX7_isName 157 = .ok (.ldc 190, 2) := dk_18 190 (dk_at dksX7_isName_6 16 rfl rfl)
theorem dX7_isName_159 : decode cX7_isName 159 = .ok (.invokevirtual 139, 3) := dk_182 0 139 (dk_at dksX7_isName_6 18 rfl rfl)
theorem dX7_isName_162 : decode cX7_isName 162 = .ok (.ifCond .ne 7, 3) := dk_154 0 7 (dk_at dksX7_isName_6 21 rfl rfl)
theorem dX7_isName_165 : decode cX7_isName 165 = .ok (.iconst 1, 1) := dk_4 (dk_at dksX7_isName_7 0 rfl rfl)
theorem dX7_isName_166 : decode cX7_isName 166 = .ok (.goto 4, 3) := dk_167 0 4 (dk_at dksX7_isName_7 1 rfl rfl)
theorem dX7_isName_169 : decode cX7_isName 169 = .ok (.iconst 0, 1) := dk_3 (dk_at dksX7_isName_7 4 rfl rfl)
theorem dX7_isName_170 : decode cX7_isName 170 = .ok (.ireturn, 1) := dk_172 (dk_at dksX7_isName_7 5 rfl rfl)
def dkwX24_find_1 : List UInt8 := [132, 3, 1, 167, 255, 232, 2, 172]
abbrev dktX24_find_1 : List UInt8 := dkwX24_find_1 ++ []
def dkwX24_find_0 : List UInt8 := [3, 62, 29, 42, 180, 0, 88, 162, 0, 22, 42, 180, 0, 78, 29, 47, 31, 148, 154, 0, 5, 29, 172]
abbrev dktX24_find_0 : List UInt8 := dkwX24_find_0 ++ dktX24_find_1
theorem dksX24_find_0 : cX24_find.data.toList.drop 0 = dktX24_find_0 := by decide +kernel
theorem dksX24_find_1 : cX24_find.data.toList.drop 23 = dktX24_find_1 := dk_seg dksX24_find_0 23 rfl rfl
theorem dX24_find_0 : decode cX24_find 0 = .ok (.iconst 0, 1) := dk_3 (dk_at dksX24_find_0 0 rfl rfl)
theorem dX24_find_1 : decode cX24_find 1 = .ok (.istore_n 3, 1) := dk_62 (dk_at dksX24_find_0 1 rfl rfl)
theorem dX24_find_2 : decode cX24_find 2 = .ok (.iload_n 3, 1) := dk_29 (dk_at dksX24_find_0 2 rfl rfl)
theorem dX24_find_3 : decode cX24_find 3 = .ok (.aload_n 0, 1) := dk_42 (dk_at dksX24_find_0 3 rfl rfl)
theorem dX24_find_4 : decode cX24_find 4 = .ok (.getfield 88, 3) := dk_180 0 88 (dk_at dksX24_find_0 4 rfl rfl)
theorem dX24_find_7 : decode cX24_find 7 = .ok (.if_icmp .ge 22, 3) := dk_162 0 22 (dk_at dksX24_find_0 7 rfl rfl)
theorem dX24_find_10 : decode cX24_find 10 = .ok (.aload_n 0, 1) := dk_42 (dk_at dksX24_find_0 10 rfl rfl)
theorem dX24_find_11 : decode cX24_find 11 = .ok (.getfield 78, 3) := dk_180 0 78 (dk_at dksX24_find_0 11 rfl rfl)
theorem dX24_find_14 : decode cX24_find 14 = .ok (.iload_n 3, 1) := dk_29 (dk_at dksX24_find_0 14 rfl rfl)
theorem dX24_find_15 : decode cX24_find 15 = .ok (.laload, 1) := dk_47 (dk_at dksX24_find_0 15 rfl rfl)
theorem dX24_find_16 : decode cX24_find 16 = .ok (.lload_n 1, 1) := dk_31 (dk_at dksX24_find_0 16 rfl rfl)
theorem dX24_find_17 : decode cX24_find 17 = .ok (.lcmp, 1) := dk_148 (dk_at dksX24_find_0 17 rfl rfl)
theorem dX24_find_18 : decode cX24_find 18 = .ok (.ifCond .ne 5, 3) := dk_154 0 5 (dk_at dksX24_find_0 18 rfl rfl)
theorem dX24_find_21 : decode cX24_find 21 = .ok (.iload_n 3, 1) := dk_29 (dk_at dksX24_find_0 21 rfl rfl)
theorem dX24_find_22 : decode cX24_find 22 = .ok (.ireturn, 1) := dk_172 (dk_at dksX24_find_0 22 rfl rfl)
theorem dX24_find_23 : decode cX24_find 23 = .ok (.iinc 3 1, 3) := dk_132 3 1 (dk_at dksX24_find_1 0 rfl rfl)
theorem dX24_find_26 : decode cX24_find 26 = .ok (.goto (-24), 3) := dk_167 255 232 (dk_at dksX24_find_1 3 rfl rfl)
theorem dX24_find_29 : decode cX24_find 29 = .ok (.iconst (-1), 1) := dk_2 (dk_at dksX24_find_1 6 rfl rfl)
theorem dX24_find_30 : decode cX24_find 30 = .ok (.ireturn, 1) := dk_172 (dk_at dksX24_find_1 7 rfl rfl)
theorem fp_X2_read_33 : FP mX2_read 33 [21] 3 (tyOf 0) := fun kd h => (by cases List.mem_singleton.mp h; exact ⟨1, _, 3, "GoatCourt$Reader", rfl, rfl, by decide, rfl, rfl, Or.inl rfl, Or.inl ⟨rfl, Or.inl q293⟩⟩)
theorem fp_X2_read_40 : FP mX2_read 40 [21] 4 (tyOf 0) := fun kd h => (by cases List.mem_singleton.mp h; exact ⟨1, _, 4, "GoatCourt$Reader", rfl, rfl, by decide, rfl, rfl, Or.inl rfl, Or.inl ⟨rfl, Or.inl q294⟩⟩)
theorem fp_X2_read_127 : FP mX2_read 127 [21] 9 (.object "GoatCourt$Hill") := fun kd h => (by cases List.mem_singleton.mp h; exact ⟨1, _, 9, "GoatCourt$Reader", rfl, rfl, by decide, rfl, rfl, Or.inl rfl, Or.inl ⟨rfl, Or.inl q299⟩⟩)
theorem fl_X4_22 : FL "GoatCourt$Ground" 22 [27] 16 (tyOf 0) := fun kd h => (by cases List.mem_singleton.mp h; exact ⟨7, _, 16, "GoatCourt$Hill", rfl, rfl, by decide, rfl, rfl, Or.inl q571, Or.inl rfl⟩)
theorem fl_X4_9 : FL "GoatCourt$Ground" 9 [23] 0 (.array (.int)) := fun kd h => (by cases List.mem_singleton.mp h; exact ⟨3, _, 0, "GoatCourt$Ground", rfl, rfl, by decide, rfl, rfl, Or.inl q328, Or.inl rfl⟩)
theorem fl_X4_15 : FL "GoatCourt$Ground" 15 [23] 1 (.array (.int)) := fun kd h => (by cases List.mem_singleton.mp h; exact ⟨3, _, 1, "GoatCourt$Ground", rfl, rfl, by decide, rfl, rfl, Or.inl q329, Or.inl rfl⟩)
theorem fp_X4_begin_18 : FP mX4_begin 18 [23] 2 (tyOf 0) := fun kd h => (by cases List.mem_singleton.mp h; exact ⟨3, _, 2, "GoatCourt$Ground", rfl, rfl, by decide, rfl, rfl, Or.inl rfl, Or.inl ⟨rfl, Or.inl q330⟩⟩)
theorem fp_X4_begin_27 : FP mX4_begin 27 [23] 3 (tyOf 0) := fun kd h => (by cases List.mem_singleton.mp h; exact ⟨3, _, 3, "GoatCourt$Ground", rfl, rfl, by decide, rfl, rfl, Or.inl rfl, Or.inl ⟨rfl, Or.inl q333⟩⟩)
theorem fl_X8_101 : FL "GoatCourt$Hill" 101 [29] 2 (tyOf 0) := fun kd h => (by cases List.mem_singleton.mp h; exact ⟨9, _, 4, "GoatCourt$Person", rfl, rfl, by decide, rfl, rfl, Or.inl q952, Or.inl rfl⟩)
theorem fl_X1_22 : FL "GoatCourt" 22 [20] 2 (.object "GoatCourt$Reader") := fun kd h => (by cases List.mem_singleton.mp h; exact ⟨0, _, 2, "GoatCourt", rfl, rfl, by decide, rfl, rfl, Or.inl q404, Or.inl rfl⟩)
theorem fl_X1_110 : FL "GoatCourt" 110 [22] 0 (tyOf 0) := fun kd h => (by cases List.mem_singleton.mp h; exact ⟨2, _, 6, "GoatCourt$Refused", rfl, rfl, by decide, rfl, rfl, Or.inl q269, Or.inl rfl⟩)
theorem fl_X1_111 : FL "GoatCourt" 111 [22] 1 (tyOf 0) := fun kd h => (by cases List.mem_singleton.mp h; exact ⟨2, _, 7, "GoatCourt$Refused", rfl, rfl, by decide, rfl, rfl, Or.inl q271, Or.inl rfl⟩)
theorem fl_X1_33 : FL "GoatCourt" 33 [20] 9 (.object "GoatCourt$Ground") := fun kd h => (by cases List.mem_singleton.mp h; exact ⟨0, _, 9, "GoatCourt", rfl, rfl, by decide, rfl, rfl, Or.inl q411, Or.inl rfl⟩)
theorem fl_X1_104 : FL "GoatCourt" 104 [20] 3 (.object "GoatCourt$Hill") := fun kd h => (by cases List.mem_singleton.mp h; exact ⟨0, _, 3, "GoatCourt", rfl, rfl, by decide, rfl, rfl, Or.inl q405, Or.inl rfl⟩)
theorem fp_X1_hill_83 : FP mX1_hill 83 [20] 1 (tyOf 0) := fun kd h => (by cases List.mem_singleton.mp h; exact ⟨0, _, 1, "GoatCourt", rfl, rfl, by decide, rfl, rfl, Or.inl rfl, Or.inl ⟨rfl, Or.inl q403⟩⟩)
theorem fp_X1_hill_97 : FP mX1_hill 97 [20] 5 (tyOf 0) := fun kd h => (by cases List.mem_singleton.mp h; exact ⟨0, _, 5, "GoatCourt", rfl, rfl, by decide, rfl, rfl, Or.inl rfl, Or.inl ⟨rfl, Or.inl q407⟩⟩)
theorem fp_X1_hill_26 : FP mX1_hill 26 [20] 6 (tyOf 0) := fun kd h => (by cases List.mem_singleton.mp h; exact ⟨0, _, 6, "GoatCourt", rfl, rfl, by decide, rfl, rfl, Or.inl rfl, Or.inl ⟨rfl, Or.inl q408⟩⟩)
theorem fp_X1_hill_104 : FP mX1_hill 104 [20] 3 (.object "GoatCourt$Hill") := fun kd h => (by cases List.mem_singleton.mp h; exact ⟨0, _, 3, "GoatCourt", rfl, rfl, by decide, rfl, rfl, Or.inl rfl, Or.inl ⟨rfl, Or.inl q405⟩⟩)
theorem fp_X1_hill_118 : FP mX1_hill 118 [20] 8 (tyOf 0) := fun kd h => (by cases List.mem_singleton.mp h; exact ⟨0, _, 8, "GoatCourt", rfl, rfl, by decide, rfl, rfl, Or.inl rfl, Or.inl ⟨rfl, Or.inl q410⟩⟩)
theorem fp_X1_hill_121 : FP mX1_hill 121 [20] 7 (tyOf 0) := fun kd h => (by cases List.mem_singleton.mp h; exact ⟨0, _, 7, "GoatCourt", rfl, rfl, by decide, rfl, rfl, Or.inl rfl, Or.inl ⟨rfl, Or.inl q409⟩⟩)
theorem hcatch_X1_hill_38 : HC mX1_hill 38 47 "GoatCourt$Refused" := ⟨32, 44, 108, rfl, by decide, by decide, by decide, q484, q218⟩
theorem fp_X7_refused_69 : FP mX7_refused 69 [26] 1 (tyOf 0) := fun kd h => (by cases List.mem_singleton.mp h; exact ⟨6, _, 1, "GoatCourtModel", rfl, rfl, by decide, rfl, rfl, Or.inl rfl, Or.inl ⟨rfl, Or.inl q1890⟩⟩)
theorem fp_X7_refused_9 : FP mX7_refused 9 [26] 2 (tyOf 0) := fun kd h => (by cases List.mem_singleton.mp h; exact ⟨6, _, 2, "GoatCourtModel", rfl, rfl, by decide, rfl, rfl, Or.inl rfl, Or.inl ⟨rfl, Or.inl q1891⟩⟩)
theorem fp_X24_init_9 : FP mX24_init 9 [40] 16 (.array (.int)) := fun kd h => (by cases List.mem_singleton.mp h; exact ⟨20, _, 16, "GoatCourtModel$Hill", rfl, rfl, by decide, rfl, rfl, Or.inl rfl, Or.inr ⟨rfl, q2048, rfl, rfl⟩⟩)
theorem fp_X24_init_15 : FP mX24_init 15 [40] 17 (.array (.int)) := fun kd h => (by cases List.mem_singleton.mp h; exact ⟨20, _, 17, "GoatCourtModel$Hill", rfl, rfl, by decide, rfl, rfl, Or.inl rfl, Or.inr ⟨rfl, q2050, rfl, rfl⟩⟩)
theorem fp_X24_init_18 : FP mX24_init 18 [40] 18 (.array (.int)) := fun kd h => (by cases List.mem_singleton.mp h; exact ⟨20, _, 18, "GoatCourtModel$Hill", rfl, rfl, by decide, rfl, rfl, Or.inl rfl, Or.inr ⟨rfl, q2052, rfl, rfl⟩⟩)
theorem fp_X24_init_21 : FP mX24_init 21 [40] 19 (.array (.int)) := fun kd h => (by cases List.mem_singleton.mp h; exact ⟨20, _, 19, "GoatCourtModel$Hill", rfl, rfl, by decide, rfl, rfl, Or.inl rfl, Or.inr ⟨rfl, q2054, rfl, rfl⟩⟩)
theorem fp_X24_init_24 : FP mX24_init 24 [40] 20 (.array (.int)) := fun kd h => (by cases List.mem_singleton.mp h; exact ⟨20, _, 20, "GoatCourtModel$Hill", rfl, rfl, by decide, rfl, rfl, Or.inl rfl, Or.inr ⟨rfl, q2056, rfl, rfl⟩⟩)
theorem fp_X24_init_27 : FP mX24_init 27 [40] 21 (.array (.int)) := fun kd h => (by cases List.mem_singleton.mp h; exact ⟨20, _, 21, "GoatCourtModel$Hill", rfl, rfl, by decide, rfl, rfl, Or.inl rfl, Or.inr ⟨rfl, q2058, rfl, rfl⟩⟩)
theorem fp_X24_init_30 : FP mX24_init 30 [40] 22 (.array (.int)) := fun kd h => (by cases List.mem_singleton.mp h; exact ⟨20, _, 22, "GoatCourtModel$Hill", rfl, rfl, by decide, rfl, rfl, Or.inl rfl, Or.inr ⟨rfl, q2060, rfl, rfl⟩⟩)
theorem fp_X24_init_33 : FP mX24_init 33 [40] 23 (.array (.int)) := fun kd h => (by cases List.mem_singleton.mp h; exact ⟨20, _, 23, "GoatCourtModel$Hill", rfl, rfl, by decide, rfl, rfl, Or.inl rfl, Or.inr ⟨rfl, q2062, rfl, rfl⟩⟩)
theorem fp_X24_init_36 : FP mX24_init 36 [40] 24 (.array (.int)) := fun kd h => (by cases List.mem_singleton.mp h; exact ⟨20, _, 24, "GoatCourtModel$Hill", rfl, rfl, by decide, rfl, rfl, Or.inl rfl, Or.inr ⟨rfl, q2064, rfl, rfl⟩⟩)
theorem fp_X24_init_39 : FP mX24_init 39 [40] 25 (.array (.int)) := fun kd h => (by cases List.mem_singleton.mp h; exact ⟨20, _, 25, "GoatCourtModel$Hill", rfl, rfl, by decide, rfl, rfl, Or.inl rfl, Or.inr ⟨rfl, q2066, rfl, rfl⟩⟩)
theorem fp_X24_init_42 : FP mX24_init 42 [40] 26 (.array (.int)) := fun kd h => (by cases List.mem_singleton.mp h; exact ⟨20, _, 26, "GoatCourtModel$Hill", rfl, rfl, by decide, rfl, rfl, Or.inl rfl, Or.inr ⟨rfl, q2068, rfl, rfl⟩⟩)
theorem fp_X24_init_45 : FP mX24_init 45 [40] 27 (.array (.int)) := fun kd h => (by cases List.mem_singleton.mp h; exact ⟨20, _, 27, "GoatCourtModel$Hill", rfl, rfl, by decide, rfl, rfl, Or.inl rfl, Or.inr ⟨rfl, q2070, rfl, rfl⟩⟩)
theorem fp_X24_init_48 : FP mX24_init 48 [40] 28 (.array (.int)) := fun kd h => (by cases List.mem_singleton.mp h; exact ⟨20, _, 28, "GoatCourtModel$Hill", rfl, rfl, by decide, rfl, rfl, Or.inl rfl, Or.inr ⟨rfl, q2072, rfl, rfl⟩⟩)
theorem fp_X24_init_51 : FP mX24_init 51 [40] 29 (.array (.int)) := fun kd h => (by cases List.mem_singleton.mp h; exact ⟨20, _, 29, "GoatCourtModel$Hill", rfl, rfl, by decide, rfl, rfl, Or.inl rfl, Or.inr ⟨rfl, q2074, rfl, rfl⟩⟩)
theorem fp_X24_init_54 : FP mX24_init 54 [40] 30 (.array (.int)) := fun kd h => (by cases List.mem_singleton.mp h; exact ⟨20, _, 30, "GoatCourtModel$Hill", rfl, rfl, by decide, rfl, rfl, Or.inl rfl, Or.inr ⟨rfl, q2076, rfl, rfl⟩⟩)
theorem fp_X24_init_57 : FP mX24_init 57 [40] 31 (.array (.int)) := fun kd h => (by cases List.mem_singleton.mp h; exact ⟨20, _, 31, "GoatCourtModel$Hill", rfl, rfl, by decide, rfl, rfl, Or.inl rfl, Or.inr ⟨rfl, q2078, rfl, rfl⟩⟩)
theorem fp_X24_init_60 : FP mX24_init 60 [40] 32 (.array (.int)) := fun kd h => (by cases List.mem_singleton.mp h; exact ⟨20, _, 32, "GoatCourtModel$Hill", rfl, rfl, by decide, rfl, rfl, Or.inl rfl, Or.inr ⟨rfl, q2080, rfl, rfl⟩⟩)
theorem fp_X24_init_63 : FP mX24_init 63 [40] 33 (.array (.int)) := fun kd h => (by cases List.mem_singleton.mp h; exact ⟨20, _, 33, "GoatCourtModel$Hill", rfl, rfl, by decide, rfl, rfl, Or.inl rfl, Or.inr ⟨rfl, q2082, rfl, rfl⟩⟩)
theorem fp_X24_init_66 : FP mX24_init 66 [40] 34 (.array (.int)) := fun kd h => (by cases List.mem_singleton.mp h; exact ⟨20, _, 34, "GoatCourtModel$Hill", rfl, rfl, by decide, rfl, rfl, Or.inl rfl, Or.inr ⟨rfl, q2084, rfl, rfl⟩⟩)
theorem fp_X24_init_69 : FP mX24_init 69 [40] 35 (.array (.int)) := fun kd h => (by cases List.mem_singleton.mp h; exact ⟨20, _, 35, "GoatCourtModel$Hill", rfl, rfl, by decide, rfl, rfl, Or.inl rfl, Or.inr ⟨rfl, q2086, rfl, rfl⟩⟩)
theorem fp_X24_init_72 : FP mX24_init 72 [40] 36 (.array (.int)) := fun kd h => (by cases List.mem_singleton.mp h; exact ⟨20, _, 36, "GoatCourtModel$Hill", rfl, rfl, by decide, rfl, rfl, Or.inl rfl, Or.inr ⟨rfl, q2088, rfl, rfl⟩⟩)
theorem fp_X24_init_75 : FP mX24_init 75 [40] 37 (.array (.int)) := fun kd h => (by cases List.mem_singleton.mp h; exact ⟨20, _, 37, "GoatCourtModel$Hill", rfl, rfl, by decide, rfl, rfl, Or.inl rfl, Or.inr ⟨rfl, q2090, rfl, rfl⟩⟩)
theorem fp_X24_init_78 : FP mX24_init 78 [40] 38 (.array (.long)) := fun kd h => (by cases List.mem_singleton.mp h; exact ⟨20, _, 38, "GoatCourtModel$Hill", rfl, rfl, by decide, rfl, rfl, Or.inl rfl, Or.inr ⟨rfl, q2092, rfl, rfl⟩⟩)
theorem fp_X24_init_82 : FP mX24_init 82 [40] 39 (.array (.int)) := fun kd h => (by cases List.mem_singleton.mp h; exact ⟨20, _, 39, "GoatCourtModel$Hill", rfl, rfl, by decide, rfl, rfl, Or.inl rfl, Or.inr ⟨rfl, q2094, rfl, rfl⟩⟩)
theorem fp_X24_init_85 : FP mX24_init 85 [40] 40 (.array (.int)) := fun kd h => (by cases List.mem_singleton.mp h; exact ⟨20, _, 40, "GoatCourtModel$Hill", rfl, rfl, by decide, rfl, rfl, Or.inl rfl, Or.inr ⟨rfl, q2096, rfl, rfl⟩⟩)
theorem fl_X7_79 : FL "GoatCourtModel" 79 [26] 7 (tyOf 0) := fun kd h => (by cases List.mem_singleton.mp h; exact ⟨6, _, 7, "GoatCourtModel", rfl, rfl, by decide, rfl, rfl, Or.inl q1896, Or.inl rfl⟩)
theorem fl_X7_97 : FL "GoatCourtModel" 97 [26] 8 (tyOf 0) := fun kd h => (by cases List.mem_singleton.mp h; exact ⟨6, _, 8, "GoatCourtModel", rfl, rfl, by decide, rfl, rfl, Or.inl q1897, Or.inl rfl⟩)
theorem fl_X7_123 : FL "GoatCourtModel" 123 [26] 12 (tyOf 0) := fun kd h => (by cases List.mem_singleton.mp h; exact ⟨6, _, 12, "GoatCourtModel", rfl, rfl, by decide, rfl, rfl, Or.inl q1901, Or.inl rfl⟩)
theorem fl_X7_17 : FL "GoatCourtModel" 17 [26] 16 (.array (.int)) := fun kd h => (by cases List.mem_singleton.mp h; exact ⟨6, _, 16, "GoatCourtModel", rfl, rfl, by decide, rfl, rfl, Or.inl q1905, Or.inl rfl⟩)
theorem fl_X7_113 : FL "GoatCourtModel" 113 [26] 17 (.long) := fun kd h => (by cases List.mem_singleton.mp h; exact ⟨6, _, 17, "GoatCourtModel", rfl, rfl, by decide, rfl, rfl, Or.inl q1906, Or.inl rfl⟩)
theorem fl_X7_94 : FL "GoatCourtModel" 94 [26] 9 (tyOf 0) := fun kd h => (by cases List.mem_singleton.mp h; exact ⟨6, _, 9, "GoatCourtModel", rfl, rfl, by decide, rfl, rfl, Or.inl q1898, Or.inl rfl⟩)
theorem fp_X7_goesOn_94 : FP mX7_goesOn 94 [26] 9 (tyOf 0) := fun kd h => (by cases List.mem_singleton.mp h; exact ⟨6, _, 9, "GoatCourtModel", rfl, rfl, by decide, rfl, rfl, Or.inl rfl, Or.inl ⟨rfl, Or.inl q1898⟩⟩)
theorem fp_X7_goesOn_106 : FP mX7_goesOn 106 [26] 11 (tyOf 0) := fun kd h => (by cases List.mem_singleton.mp h; exact ⟨6, _, 11, "GoatCourtModel", rfl, rfl, by decide, rfl, rfl, Or.inl rfl, Or.inl ⟨rfl, Or.inl q1900⟩⟩)
theorem fp_X7_goesOn_97 : FP mX7_goesOn 97 [26] 8 (tyOf 0) := fun kd h => (by cases List.mem_singleton.mp h; exact ⟨6, _, 8, "GoatCourtModel", rfl, rfl, by decide, rfl, rfl, Or.inl rfl, Or.inl ⟨rfl, Or.inl q1897⟩⟩)
theorem fp_X7_goesOn_123 : FP mX7_goesOn 123 [26] 12 (tyOf 0) := fun kd h => (by cases List.mem_singleton.mp h; exact ⟨6, _, 12, "GoatCourtModel", rfl, rfl, by decide, rfl, rfl, Or.inl rfl, Or.inl ⟨rfl, Or.inl q1901⟩⟩)
theorem fp_X7_goesOn_117 : FP mX7_goesOn 117 [26] 13 (tyOf 0) := fun kd h => (by cases List.mem_singleton.mp h; exact ⟨6, _, 13, "GoatCourtModel", rfl, rfl, by decide, rfl, rfl, Or.inl rfl, Or.inl ⟨rfl, Or.inl q1902⟩⟩)
theorem fp_X7_goesOn_113 : FP mX7_goesOn 113 [26] 17 (.long) := fun kd h => (by cases List.mem_singleton.mp h; exact ⟨6, _, 17, "GoatCourtModel", rfl, rfl, by decide, rfl, rfl, Or.inl rfl, Or.inl ⟨rfl, Or.inl q1906⟩⟩)
theorem fp_X7_goesOn_103 : FP mX7_goesOn 103 [26] 10 (tyOf 0) := fun kd h => (by cases List.mem_singleton.mp h; exact ⟨6, _, 10, "GoatCourtModel", rfl, rfl, by decide, rfl, rfl, Or.inl rfl, Or.inl ⟨rfl, Or.inl q1899⟩⟩)
theorem fl_X7_103 : FL "GoatCourtModel" 103 [26] 10 (tyOf 0) := fun kd h => (by cases List.mem_singleton.mp h; exact ⟨6, _, 10, "GoatCourtModel", rfl, rfl, by decide, rfl, rfl, Or.inl q1899, Or.inl rfl⟩)
theorem fp_X7_flaw_126 : FP mX7_flaw 126 [26] 14 (tyOf 0) := fun kd h => (by cases List.mem_singleton.mp h; exact ⟨6, _, 14, "GoatCourtModel", rfl, rfl, by decide, rfl, rfl, Or.inl rfl, Or.inl ⟨rfl, Or.inl q1903⟩⟩)
theorem fp_X7_flaw_129 : FP mX7_flaw 129 [26] 15 (tyOf 0) := fun kd h => (by cases List.mem_singleton.mp h; exact ⟨6, _, 15, "GoatCourtModel", rfl, rfl, by decide, rfl, rfl, Or.inl rfl, Or.inl ⟨rfl, Or.inl q1904⟩⟩)
theorem fp_X7_flaw_94 : FP mX7_flaw 94 [26] 9 (tyOf 0) := fun kd h => (by cases List.mem_singleton.mp h; exact ⟨6, _, 9, "GoatCourtModel", rfl, rfl, by decide, rfl, rfl, Or.inl rfl, Or.inl ⟨rfl, Or.inl q1898⟩⟩)
theorem fl_X7_192 : FL "GoatCourtModel" 192 [26] 4 (.object "GoatCourtModel$Hill") := fun kd h => (by cases List.mem_singleton.mp h; exact ⟨6, _, 4, "GoatCourtModel", rfl, rfl, by decide, rfl, rfl, Or.inl q1893, Or.inl rfl⟩)
theorem fl_X7_196 : FL "GoatCourtModel" 196 [40] 0 (tyOf 0) := fun kd h => (by cases List.mem_singleton.mp h; exact ⟨20, _, 0, "GoatCourtModel$Hill", rfl, rfl, by decide, rfl, rfl, Or.inr ⟨_, q2029⟩, Or.inl rfl⟩)
theorem fp_X7_readHill_196 : FP mX7_readHill 196 [40] 0 (tyOf 0) := fun kd h => (by cases List.mem_singleton.mp h; exact ⟨20, _, 0, "GoatCourtModel$Hill", rfl, rfl, by decide, rfl, rfl, Or.inl rfl, Or.inl ⟨rfl, Or.inr ⟨_, q2029⟩⟩⟩)
theorem fp_X7_readHill_229 : FP mX7_readHill 229 [40] 1 (tyOf 0) := fun kd h => (by cases List.mem_singleton.mp h; exact ⟨20, _, 1, "GoatCourtModel$Hill", rfl, rfl, by decide, rfl, rfl, Or.inl rfl, Or.inl ⟨rfl, Or.inr ⟨_, q2030⟩⟩⟩)
theorem fl_X24_88 : FL "GoatCourtModel$Hill" 88 [40] 12 (tyOf 0) := fun kd h => (by cases List.mem_singleton.mp h; exact ⟨20, _, 12, "GoatCourtModel$Hill", rfl, rfl, by decide, rfl, rfl, Or.inl q2043, Or.inl rfl⟩)
theorem fl_X24_78 : FL "GoatCourtModel$Hill" 78 [40] 38 (.array (.long)) := fun kd h => (by cases List.mem_singleton.mp h; exact ⟨20, _, 38, "GoatCourtModel$Hill", rfl, rfl, by decide, rfl, rfl, Or.inl q2092, Or.inl rfl⟩)
theorem w_X2_line_b525 (G : Gx) (h0 : G0 G) (N : Nat)   (a0 : Nat) (σ : Mem) : Runs G mX2_line (rhoX rhoV) σ 525 [some (vR (some a0)), none, none] [] (f_X2_line_b525 N  a0 σ) := by
  unfold f_X2_line_b525
  refine r_aload_n (q := 526) dX2_line_525 rfl rfl rfl ?_
  refine r_ob (fun a3 ha3 => ?_)
  obtain ⟨hea3, hka3⟩ := o_at_eq ha3
  cases hea3
  refine r_callXV (q := 529) (c_X2_clue G h0 N _ _) (cl_V (ci := 1) rfl rfl (lw_V q1125 q1127 qs31 q168 q1128) (hd_X2_clue) ⟨Nat.le_of_ble_eq_true rfl, Nat.le_of_ble_eq_true rfl⟩ (List.mem_singleton.mp hka3) rfl rfl rfl (Nat.le_of_ble_eq_true rfl) dX2_line_526) rfl rfl (fun u1 σ2 => ?_)
  refine r_goto (q := 580) dX2_line_529 (by decide) ?_
  exact r_returnX rfl dX2_line_580
theorem w_X2_line_b395 (G : Gx) (h0 : G0 G) (N : Nat)   (a0 : Nat) (l2 : Int32) (σ : Mem) : Runs G mX2_line (rhoX rhoV) σ 395 [some (vR (some a0)), none, some (vI l2)] [] (f_X2_line_b395 N  a0 l2 σ) := by
  unfold f_X2_line_b395
  refine r_iload_n (q := 396) dX2_line_395 rfl rfl rfl ?_
  refine r_tswC (t := 476) (c0 := (0 : Int32)) dX2_line_396 (by decide) (by decide) rfl (by decide) ?_ (fun hc0 => ?_)
  · refine r_aload_n (q := 477) dX2_line_476 rfl rfl rfl ?_
    refine r_ob (fun a3 ha3 => ?_)
    obtain ⟨hea3, hka3⟩ := o_at_eq ha3
    cases hea3
    refine r_callXV (q := 480) (c_X2_hillLine G h0 N _ _) (cl_V (ci := 1) rfl rfl (lw_V q827 q829 qs8 q168 q830) (hd_X2_hillLine) ⟨Nat.le_of_ble_eq_true rfl, Nat.le_of_ble_eq_true rfl⟩ (List.mem_singleton.mp hka3) rfl rfl rfl (Nat.le_of_ble_eq_true rfl) dX2_line_477) rfl rfl (fun u1 σ2 => ?_)
    refine r_goto (q := 580) dX2_line_480 (by decide) ?_
    exact r_returnX rfl dX2_line_580
  refine r_tswC (t := 483) (c0 := (1 : Int32)) dX2_line_396 (by decide) (by decide) rfl (by decide) ?_ (fun hc1 => ?_)
  · refine r_aload_n (q := 484) dX2_line_483 rfl rfl rfl ?_
    refine r_ob (fun a6 ha6 => ?_)
    obtain ⟨hea6, hka6⟩ := o_at_eq ha6
    cases hea6
    refine r_callXV (q := 487) (c_X2_placeLine G h0 N _ _) (cl_V (ci := 1) rfl rfl (lw_V q849 q851 qs13 q168 q852) (hd_X2_placeLine) ⟨Nat.le_of_ble_eq_true rfl, Nat.le_of_ble_eq_true rfl⟩ (List.mem_singleton.mp hka6) rfl rfl rfl (Nat.le_of_ble_eq_true rfl) dX2_line_484) rfl rfl (fun u4 σ5 => ?_)
    refine r_goto (q := 580) dX2_line_487 (by decide) ?_
    exact r_returnX rfl dX2_line_580
  refine r_tswC (t := 490) (c0 := (2 : Int32)) dX2_line_396 (by decide) (by decide) rfl (by decide) ?_ (fun hc2 => ?_)
  · refine r_aload_n (q := 491) dX2_line_490 rfl rfl rfl ?_
    refine r_ob (fun a9 ha9 => ?_)
    obtain ⟨hea9, hka9⟩ := o_at_eq ha9
    cases hea9
    refine r_callXV (q := 494) (c_X2_path G h0 N _ _) (cl_V (ci := 1) rfl rfl (lw_V q919 q921 qs19 q168 q922) (hd_X2_path) ⟨Nat.le_of_ble_eq_true rfl, Nat.le_of_ble_eq_true rfl⟩ (List.mem_singleton.mp hka9) rfl rfl rfl (Nat.le_of_ble_eq_true rfl) dX2_line_491) rfl rfl (fun u7 σ8 => ?_)
    refine r_goto (q := 580) dX2_line_494 (by decide) ?_
    exact r_returnX rfl dX2_line_580
  refine r_tswC (t := 497) (c0 := (3 : Int32)) dX2_line_396 (by decide) (by decide) rfl (by decide) ?_ (fun hc3 => ?_)
  · refine r_aload_n (q := 498) dX2_line_497 rfl rfl rfl ?_
    refine r_ob (fun a12 ha12 => ?_)
    obtain ⟨hea12, hka12⟩ := o_at_eq ha12
    cases hea12
    refine r_callXV (q := 501) (c_X2_person G h0 N _ _) (cl_V (ci := 1) rfl rfl (lw_V q939 q941 qs23 q168 q942) (hd_X2_person) ⟨Nat.le_of_ble_eq_true rfl, Nat.le_of_ble_eq_true rfl⟩ (List.mem_singleton.mp hka12) rfl rfl rfl (Nat.le_of_ble_eq_true rfl) dX2_line_498) rfl rfl (fun u10 σ11 => ?_)
    refine r_goto (q := 580) dX2_line_501 (by decide) ?_
    exact r_returnX rfl dX2_line_580
  refine r_tswC (t := 504) (c0 := (4 : Int32)) dX2_line_396 (by decide) (by decide) rfl (by decide) ?_ (fun hc4 => ?_)
  · refine r_aload_n (q := 505) dX2_line_504 rfl rfl rfl ?_
    refine r_ob (fun a15 ha15 => ?_)
    obtain ⟨hea15, hka15⟩ := o_at_eq ha15
    cases hea15
    refine r_callXV (q := 508) (c_X2_story G h0 N _ _) (cl_V (ci := 1) rfl rfl (lw_V q964 q966 qs24 q168 q967) (hd_X2_story) ⟨Nat.le_of_ble_eq_true rfl, Nat.le_of_ble_eq_true rfl⟩ (List.mem_singleton.mp hka15) rfl rfl rfl (Nat.le_of_ble_eq_true rfl) dX2_line_505) rfl rfl (fun u13 σ14 => ?_)
    refine r_goto (q := 580) dX2_line_508 (by decide) ?_
    exact r_returnX rfl dX2_line_580
  refine r_tswC (t := 511) (c0 := (5 : Int32)) dX2_line_396 (by decide) (by decide) rfl (by decide) ?_ (fun hc5 => ?_)
  · refine r_aload_n (q := 512) dX2_line_511 rfl rfl rfl ?_
    refine r_ob (fun a18 ha18 => ?_)
    obtain ⟨hea18, hka18⟩ := o_at_eq ha18
    cases hea18
    refine r_callXV (q := 515) (c_X2_goatLine G h0 N _ _) (cl_V (ci := 1) rfl rfl (lw_V q984 q986 qs26 q168 q987) (hd_X2_goatLine) ⟨Nat.le_of_ble_eq_true rfl, Nat.le_of_ble_eq_true rfl⟩ (List.mem_singleton.mp hka18) rfl rfl rfl (Nat.le_of_ble_eq_true rfl) dX2_line_512) rfl rfl (fun u16 σ17 => ?_)
    refine r_goto (q := 580) dX2_line_515 (by decide) ?_
    exact r_returnX rfl dX2_line_580
  refine r_tswC (t := 518) (c0 := (6 : Int32)) dX2_line_396 (by decide) (by decide) rfl (by decide) ?_ (fun hc6 => ?_)
  · refine r_aload_n (q := 519) dX2_line_518 rfl rfl rfl ?_
    refine r_ob (fun a21 ha21 => ?_)
    obtain ⟨hea21, hka21⟩ := o_at_eq ha21
    cases hea21
    refine r_callXV (q := 522) (c_X2_fears G h0 N _ _) (cl_V (ci := 1) rfl rfl (lw_V q1121 q1123 qs30 q168 q1124) (hd_X2_fears) ⟨Nat.le_of_ble_eq_true rfl, Nat.le_of_ble_eq_true rfl⟩ (List.mem_singleton.mp hka21) rfl rfl rfl (Nat.le_of_ble_eq_true rfl) dX2_line_519) rfl rfl (fun u19 σ20 => ?_)
    refine r_goto (q := 580) dX2_line_522 (by decide) ?_
    exact r_returnX rfl dX2_line_580
  refine r_tswC (t := 525) (c0 := (7 : Int32)) dX2_line_396 (by decide) (by decide) rfl (by decide) ?_ (fun hc7 => ?_)
  · exact r_le (w_X2_line_b525 G h0 N _ _) (Nat.le_refl _) (And.intro rfl trivial)
  refine r_tswC (t := 525) (c0 := (8 : Int32)) dX2_line_396 (by decide) (by decide) rfl (by decide) ?_ (fun hc8 => ?_)
  · exact r_le (w_X2_line_b525 G h0 N _ _) (Nat.le_refl _) (And.intro rfl trivial)
  refine r_tswC (t := 525) (c0 := (9 : Int32)) dX2_line_396 (by decide) (by decide) rfl (by decide) ?_ (fun hc9 => ?_)
  · exact r_le (w_X2_line_b525 G h0 N _ _) (Nat.le_refl _) (And.intro rfl trivial)
  refine r_tswC (t := 532) (c0 := (10 : Int32)) dX2_line_396 (by decide) (by decide) rfl (by decide) ?_ (fun hc10 => ?_)
  · refine r_aload_n (q := 533) dX2_line_532 rfl rfl rfl ?_
    refine r_ob (fun a24 ha24 => ?_)
    obtain ⟨hea24, hka24⟩ := o_at_eq ha24
    cases hea24
    refine r_callXV (q := 536) (c_X2_factLine G h0 N _ _) (cl_V (ci := 1) rfl rfl (lw_V q1199 q1201 qs34 q168 q1202) (hd_X2_factLine) ⟨Nat.le_of_ble_eq_true rfl, Nat.le_of_ble_eq_true rfl⟩ (List.mem_singleton.mp hka24) rfl rfl rfl (Nat.le_of_ble_eq_true rfl) dX2_line_533) rfl rfl (fun u22 σ23 => ?_)
    refine r_goto (q := 580) dX2_line_536 (by decide) ?_
    exact r_returnX rfl dX2_line_580
  refine r_tswC (t := 539) (c0 := (11 : Int32)) dX2_line_396 (by decide) (by decide) rfl (by decide) ?_ (fun hc11 => ?_)
  · refine r_aload_n (q := 540) dX2_line_539 rfl rfl rfl ?_
    refine r_ob (fun a27 ha27 => ?_)
    obtain ⟨hea27, hka27⟩ := o_at_eq ha27
    cases hea27
    refine r_callXV (q := 543) (c_X2_holds G h0 N _ _) (cl_V (ci := 1) rfl rfl (lw_V q1217 q1219 qs35 q168 q1220) (hd_X2_holds) ⟨Nat.le_of_ble_eq_true rfl, Nat.le_of_ble_eq_true rfl⟩ (List.mem_singleton.mp hka27) rfl rfl rfl (Nat.le_of_ble_eq_true rfl) dX2_line_540) rfl rfl (fun u25 σ26 => ?_)
    refine r_goto (q := 580) dX2_line_543 (by decide) ?_
    exact r_returnX rfl dX2_line_580
  refine r_tswC (t := 546) (c0 := (12 : Int32)) dX2_line_396 (by decide) (by decide) rfl (by decide) ?_ (fun hc12 => ?_)
  · refine r_aload_n (q := 547) dX2_line_546 rfl rfl rfl ?_
    refine r_ob (fun a30 ha30 => ?_)
    obtain ⟨hea30, hka30⟩ := o_at_eq ha30
    cases hea30
    refine r_callXV (q := 550) (c_X2_rule G h0 N _ _) (cl_V (ci := 1) rfl rfl (lw_V q1225 q1227 qs37 q168 q1228) (hd_X2_rule) ⟨Nat.le_of_ble_eq_true rfl, Nat.le_of_ble_eq_true rfl⟩ (List.mem_singleton.mp hka30) rfl rfl rfl (Nat.le_of_ble_eq_true rfl) dX2_line_547) rfl rfl (fun u28 σ29 => ?_)
    refine r_goto (q := 580) dX2_line_550 (by decide) ?_
    exact r_returnX rfl dX2_line_580
  refine r_tswC (t := 553) (c0 := (13 : Int32)) dX2_line_396 (by decide) (by decide) rfl (by decide) ?_ (fun hc13 => ?_)
  · refine r_aload_n (q := 554) dX2_line_553 rfl rfl rfl ?_
    refine r_ob (fun a33 ha33 => ?_)
    obtain ⟨hea33, hka33⟩ := o_at_eq ha33
    cases hea33
    refine r_callXV (q := 557) (c_X2_proof G h0 N _ _) (cl_V (ci := 1) rfl rfl (lw_V q1257 q1259 qs39 q168 q1260) (hd_X2_proof) ⟨Nat.le_of_ble_eq_true rfl, Nat.le_of_ble_eq_true rfl⟩ (List.mem_singleton.mp hka33) rfl rfl rfl (Nat.le_of_ble_eq_true rfl) dX2_line_554) rfl rfl (fun u31 σ32 => ?_)
    refine r_goto (q := 580) dX2_line_557 (by decide) ?_
    exact r_returnX rfl dX2_line_580
  refine r_tswC (t := 560) (c0 := (14 : Int32)) dX2_line_396 (by decide) (by decide) rfl (by decide) ?_ (fun hc14 => ?_)
  · refine r_aload_n (q := 561) dX2_line_560 rfl rfl rfl ?_
    refine r_ob (fun a36 ha36 => ?_)
    obtain ⟨hea36, hka36⟩ := o_at_eq ha36
    cases hea36
    refine r_callXV (q := 564) (c_X2_court G h0 N _ _) (cl_V (ci := 1) rfl rfl (lw_V q1265 q1267 qs41 q168 q1268) (hd_X2_court) ⟨Nat.le_of_ble_eq_true rfl, Nat.le_of_ble_eq_true rfl⟩ (List.mem_singleton.mp hka36) rfl rfl rfl (Nat.le_of_ble_eq_true rfl) dX2_line_561) rfl rfl (fun u34 σ35 => ?_)
    refine r_goto (q := 580) dX2_line_564 (by decide) ?_
    exact r_returnX rfl dX2_line_580
  refine r_tswC (t := 567) (c0 := (15 : Int32)) dX2_line_396 (by decide) (by decide) rfl (by decide) ?_ (fun hc15 => ?_)
  · refine r_aload_n (q := 568) dX2_line_567 rfl rfl rfl ?_
    refine r_ob (fun a39 ha39 => ?_)
    obtain ⟨hea39, hka39⟩ := o_at_eq ha39
    cases hea39
    refine r_callXV (q := 571) (c_X2_cheese G h0 N _ _) (cl_V (ci := 1) rfl rfl (lw_V q1288 q1290 qs42 q168 q1291) (hd_X2_cheese) ⟨Nat.le_of_ble_eq_true rfl, Nat.le_of_ble_eq_true rfl⟩ (List.mem_singleton.mp hka39) rfl rfl rfl (Nat.le_of_ble_eq_true rfl) dX2_line_568) rfl rfl (fun u37 σ38 => ?_)
    refine r_goto (q := 580) dX2_line_571 (by decide) ?_
    exact r_returnX rfl dX2_line_580
  refine r_tswD (t := 574) dX2_line_396 (tsw_out 16 _ (by decide) (fun k hk => match k, hk with | 0, _ => hc0 | 1, _ => hc1 | 2, _ => hc2 | 3, _ => hc3 | 4, _ => hc4 | 5, _ => hc5 | 6, _ => hc6 | 7, _ => hc7 | 8, _ => hc8 | 9, _ => hc9 | 10, _ => hc10 | 11, _ => hc11 | 12, _ => hc12 | 13, _ => hc13 | 14, _ => hc14 | 15, _ => hc15 | k + 16, hk => absurd hk (by omega)) : _) (by decide) ?_
  · refine r_aload_n (q := 575) dX2_line_574 rfl rfl rfl ?_
    refine r_iconst (q := 576) (v := (1 : Int32)) dX2_line_575 rfl (by decide) ?_
    refine r_ob (fun a42 ha42 => ?_)
    obtain ⟨hea42, hka42⟩ := o_at_eq ha42
    cases hea42
    refine r_callR (q := 579) (c_X2_fail G h0 N _ _ _) (cl_V (ci := 1) rfl rfl (lw_V q742 q744 qs7 q168 q745) (hd_X2_fail) ⟨Nat.le_of_ble_eq_true rfl, Nat.le_of_ble_eq_true rfl⟩ (List.mem_singleton.mp hka42) rfl rfl rfl (Nat.le_of_ble_eq_true rfl) dX2_line_576) rfl (fun x40 σ41 => ?_)
    exact r_athrow (ci := 2) (r0 := (RX3, TX3, 8)) rfl rfl dX2_line_579
theorem c_X2_line (G : Gx) (h0 : G0 G) (N : Nat) (a0 : Nat) (σ : Mem) : Ct G mX2_line (rhoX rhoV) [vR (some a0)] σ (f_X2_line N a0 σ) := by
  refine Ct_of h0 (by decide) rfl (Nat.le_of_ble_eq_true rfl) (L0 := [some (vR (some a0)), none, none]) rfl ?_
  unfold f_X2_line
  refine r_aload_n (q := 1) dX2_line_0 rfl rfl rfl ?_
  refine r_gI (q := 4) fl_X2_47 dX2_line_1 rfl (fun x1 => ?_)
  refine r_iconst (q := 5) (v := (2 : Int32)) dX2_line_4 rfl (by decide) ?_
  refine r_icmp_eq (q := 8) (t := 14) dX2_line_5 rfl (by decide) (fun _ => ?_) (fun _ => ?_)
  · refine r_aload_n (q := 15) dX2_line_14 rfl rfl rfl ?_
    refine r_gR (q := 18) fl_X2_61 rfl dX2_line_15 rfl (fun x2 => ?_)
    refine r_astore_n (q := 19) dX2_line_18 rfl rfl (Nat.le_of_ble_eq_true rfl) rfl ?_
    refine r_iconst (q := 20) (v := (-1 : Int32)) dX2_line_19 rfl (by decide) ?_
    refine r_istore_n (q := 21) dX2_line_20 rfl rfl (Nat.le_of_ble_eq_true rfl) rfl ?_
    refine r_aload_n (q := 22) dX2_line_21 rfl rfl rfl ?_
    refine r_ob (fun a5 ha5 => ?_)
    obtain ⟨hea5, hka5⟩ := o_at_eq ha5
    cases hea5
    refine r_callI (q := 25) (c_J3_hashCode G h0 N _ _) (cl_V (ci := 21) rfl rfl (lw_V q750 q751 q752 q178 q753) (hd_J3_hashCode) ⟨Nat.le_of_ble_eq_true rfl, Nat.le_of_ble_eq_true rfl⟩ (List.mem_singleton.mp hka5) rfl rfl rfl (Nat.le_of_ble_eq_true rfl) dX2_line_22) rfl (fun x3 σ4 => ?_)
    refine r_lswC (t := 383) (off := 358) (c0 := (-1361525545 : Int32)) dX2_line_25 (by decide) (by decide) (by decide) ?_ (fun hc0 => ?_)
    · refine r_aload_n (q := 384) dX2_line_383 rfl rfl rfl ?_
      refine r_ldcS (q := 386) (tx := "cheese") (cd := 32) (List.mem_of_getElem? (i := 17) rfl) (by decide) dX2_line_384 rfl ?_
      refine r_ob (fun a8 ha8 => ?_)
      obtain ⟨hea8, hka8⟩ := o_at_eq ha8
      cases hea8
      refine r_callI (q := 389) (c_J3_equals G h0 N _ _ _) (cl_V (ci := 21) rfl rfl (lw_V q804 q805 q806 q178 q807) (hd_J3_equals) ⟨Nat.le_of_ble_eq_true rfl, Nat.le_of_ble_eq_true rfl⟩ (List.mem_singleton.mp hka8) rfl rfl rfl (Nat.le_of_ble_eq_true rfl) dX2_line_386) rfl (fun x6 σ7 => ?_)
      refine r_if_eq (q := 392) (t := 395) dX2_line_389 rfl (by decide) (fun _ => ?_) (fun _ => ?_)
      · exact r_le (w_X2_line_b395 G h0 N _ _ _) (Nat.le_refl _) (And.intro rfl (And.intro rfl trivial))
      · refine r_bipush (q := 394) (v := (15 : Int32)) dX2_line_392 rfl (by decide) ?_
        refine r_istore_n (q := 395) dX2_line_394 rfl rfl (Nat.le_of_ble_eq_true rfl) rfl ?_
        exact r_le (w_X2_line_b395 G h0 N _ _ _) (Nat.le_refl _) (And.intro rfl (And.intro rfl trivial))
    refine r_lswC (t := 206) (off := 181) (c0 := (-991716523 : Int32)) dX2_line_25 (by decide) (by decide) (by decide) ?_ (fun hc1 => ?_)
    · refine r_aload_n (q := 207) dX2_line_206 rfl rfl rfl ?_
      refine r_ldcS (q := 209) (tx := "person") (cd := 8) (List.mem_of_getElem? (i := 5) rfl) (by decide) dX2_line_207 rfl ?_
      refine r_ob (fun a11 ha11 => ?_)
      obtain ⟨hea11, hka11⟩ := o_at_eq ha11
      cases hea11
      refine r_callI (q := 212) (c_J3_equals G h0 N _ _ _) (cl_V (ci := 21) rfl rfl (lw_V q804 q805 q806 q178 q807) (hd_J3_equals) ⟨Nat.le_of_ble_eq_true rfl, Nat.le_of_ble_eq_true rfl⟩ (List.mem_singleton.mp hka11) rfl rfl rfl (Nat.le_of_ble_eq_true rfl) dX2_line_209) rfl (fun x9 σ10 => ?_)
      refine r_if_eq (q := 215) (t := 395) dX2_line_212 rfl (by decide) (fun _ => ?_) (fun _ => ?_)
      · exact r_le (w_X2_line_b395 G h0 N _ _ _) (Nat.le_refl _) (And.intro rfl (And.intro rfl trivial))
      · refine r_iconst (q := 216) (v := (3 : Int32)) dX2_line_215 rfl (by decide) ?_
        refine r_istore_n (q := 217) dX2_line_216 rfl rfl (Nat.le_of_ble_eq_true rfl) rfl ?_
        refine r_goto (q := 395) dX2_line_217 (by decide) ?_
        exact r_le (w_X2_line_b395 G h0 N _ _ _) (Nat.le_refl _) (And.intro rfl (And.intro rfl trivial))
    refine r_lswC (t := 308) (off := 283) (c0 := (3135084 : Int32)) dX2_line_25 (by decide) (by decide) (by decide) ?_ (fun hc2 => ?_)
    · refine r_aload_n (q := 309) dX2_line_308 rfl rfl rfl ?_
      refine r_ldcS (q := 311) (tx := "fact") (cd := 22) (List.mem_of_getElem? (i := 12) rfl) (by decide) dX2_line_309 rfl ?_
      refine r_ob (fun a14 ha14 => ?_)
      obtain ⟨hea14, hka14⟩ := o_at_eq ha14
      cases hea14
      refine r_callI (q := 314) (c_J3_equals G h0 N _ _ _) (cl_V (ci := 21) rfl rfl (lw_V q804 q805 q806 q178 q807) (hd_J3_equals) ⟨Nat.le_of_ble_eq_true rfl, Nat.le_of_ble_eq_true rfl⟩ (List.mem_singleton.mp hka14) rfl rfl rfl (Nat.le_of_ble_eq_true rfl) dX2_line_311) rfl (fun x12 σ13 => ?_)
      refine r_if_eq (q := 317) (t := 395) dX2_line_314 rfl (by decide) (fun _ => ?_) (fun _ => ?_)
      · exact r_le (w_X2_line_b395 G h0 N _ _ _) (Nat.le_refl _) (And.intro rfl (And.intro rfl trivial))
      · refine r_bipush (q := 319) (v := (10 : Int32)) dX2_line_317 rfl (by decide) ?_
        refine r_istore_n (q := 320) dX2_line_319 rfl rfl (Nat.le_of_ble_eq_true rfl) rfl ?_
        refine r_goto (q := 395) dX2_line_320 (by decide) ?_
        exact r_le (w_X2_line_b395 G h0 N _ _ _) (Nat.le_refl _) (And.intro rfl (And.intro rfl trivial))
    refine r_lswC (t := 234) (off := 209) (c0 := (3178267 : Int32)) dX2_line_25 (by decide) (by decide) (by decide) ?_ (fun hc3 => ?_)
    · refine r_aload_n (q := 235) dX2_line_234 rfl rfl rfl ?_
      refine r_ldcS (q := 237) (tx := "goat") (cd := 12) (List.mem_of_getElem? (i := 7) rfl) (by decide) dX2_line_235 rfl ?_
      refine r_ob (fun a17 ha17 => ?_)
      obtain ⟨hea17, hka17⟩ := o_at_eq ha17
      cases hea17
      refine r_callI (q := 240) (c_J3_equals G h0 N _ _ _) (cl_V (ci := 21) rfl rfl (lw_V q804 q805 q806 q178 q807) (hd_J3_equals) ⟨Nat.le_of_ble_eq_true rfl, Nat.le_of_ble_eq_true rfl⟩ (List.mem_singleton.mp hka17) rfl rfl rfl (Nat.le_of_ble_eq_true rfl) dX2_line_237) rfl (fun x15 σ16 => ?_)
      refine r_if_eq (q := 243) (t := 395) dX2_line_240 rfl (by decide) (fun _ => ?_) (fun _ => ?_)
      · exact r_le (w_X2_line_b395 G h0 N _ _ _) (Nat.le_refl _) (And.intro rfl (And.intro rfl trivial))
      · refine r_iconst (q := 244) (v := (5 : Int32)) dX2_line_243 rfl (by decide) ?_
        refine r_istore_n (q := 245) dX2_line_244 rfl rfl (Nat.le_of_ble_eq_true rfl) rfl ?_
        refine r_goto (q := 395) dX2_line_245 (by decide) ?_
        exact r_le (w_X2_line_b395 G h0 N _ _ _) (Nat.le_refl _) (And.intro rfl (And.intro rfl trivial))
    refine r_lswC (t := 164) (off := 139) (c0 := (3202625 : Int32)) dX2_line_25 (by decide) (by decide) (by decide) ?_ (fun hc4 => ?_)
    · refine r_aload_n (q := 165) dX2_line_164 rfl rfl rfl ?_
      refine r_ldcS (q := 167) (tx := "hill") (cd := 2) (List.mem_of_getElem? (i := 2) rfl) (by decide) dX2_line_165 rfl ?_
      refine r_ob (fun a20 ha20 => ?_)
      obtain ⟨hea20, hka20⟩ := o_at_eq ha20
      cases hea20
      refine r_callI (q := 170) (c_J3_equals G h0 N _ _ _) (cl_V (ci := 21) rfl rfl (lw_V q804 q805 q806 q178 q807) (hd_J3_equals) ⟨Nat.le_of_ble_eq_true rfl, Nat.le_of_ble_eq_true rfl⟩ (List.mem_singleton.mp hka20) rfl rfl rfl (Nat.le_of_ble_eq_true rfl) dX2_line_167) rfl (fun x18 σ19 => ?_)
      refine r_if_eq (q := 173) (t := 395) dX2_line_170 rfl (by decide) (fun _ => ?_) (fun _ => ?_)
      · exact r_le (w_X2_line_b395 G h0 N _ _ _) (Nat.le_refl _) (And.intro rfl (And.intro rfl trivial))
      · refine r_iconst (q := 174) (v := (0 : Int32)) dX2_line_173 rfl (by decide) ?_
        refine r_istore_n (q := 175) dX2_line_174 rfl rfl (Nat.le_of_ble_eq_true rfl) rfl ?_
        refine r_goto (q := 395) dX2_line_175 (by decide) ?_
        exact r_le (w_X2_line_b395 G h0 N _ _ _) (Nat.le_refl _) (And.intro rfl (And.intro rfl trivial))
    refine r_lswC (t := 192) (off := 167) (c0 := (3433509 : Int32)) dX2_line_25 (by decide) (by decide) (by decide) ?_ (fun hc5 => ?_)
    · refine r_aload_n (q := 193) dX2_line_192 rfl rfl rfl ?_
      refine r_ldcS (q := 195) (tx := "path") (cd := 6) (List.mem_of_getElem? (i := 4) rfl) (by decide) dX2_line_193 rfl ?_
      refine r_ob (fun a23 ha23 => ?_)
      obtain ⟨hea23, hka23⟩ := o_at_eq ha23
      cases hea23
      refine r_callI (q := 198) (c_J3_equals G h0 N _ _ _) (cl_V (ci := 21) rfl rfl (lw_V q804 q805 q806 q178 q807) (hd_J3_equals) ⟨Nat.le_of_ble_eq_true rfl, Nat.le_of_ble_eq_true rfl⟩ (List.mem_singleton.mp hka23) rfl rfl rfl (Nat.le_of_ble_eq_true rfl) dX2_line_195) rfl (fun x21 σ22 => ?_)
      refine r_if_eq (q := 201) (t := 395) dX2_line_198 rfl (by decide) (fun _ => ?_) (fun _ => ?_)
      · exact r_le (w_X2_line_b395 G h0 N _ _ _) (Nat.le_refl _) (And.intro rfl (And.intro rfl trivial))
      · refine r_iconst (q := 202) (v := (2 : Int32)) dX2_line_201 rfl (by decide) ?_
        refine r_istore_n (q := 203) dX2_line_202 rfl rfl (Nat.le_of_ble_eq_true rfl) rfl ?_
        refine r_goto (q := 395) dX2_line_203 (by decide) ?_
        exact r_le (w_X2_line_b395 G h0 N _ _ _) (Nat.le_refl _) (And.intro rfl (And.intro rfl trivial))
    refine r_lswC (t := 338) (off := 313) (c0 := (3512060 : Int32)) dX2_line_25 (by decide) (by decide) (by decide) ?_ (fun hc6 => ?_)
    · refine r_aload_n (q := 339) dX2_line_338 rfl rfl rfl ?_
      refine r_ldcS (q := 341) (tx := "rule") (cd := 26) (List.mem_of_getElem? (i := 14) rfl) (by decide) dX2_line_339 rfl ?_
      refine r_ob (fun a26 ha26 => ?_)
      obtain ⟨hea26, hka26⟩ := o_at_eq ha26
      cases hea26
      refine r_callI (q := 344) (c_J3_equals G h0 N _ _ _) (cl_V (ci := 21) rfl rfl (lw_V q804 q805 q806 q178 q807) (hd_J3_equals) ⟨Nat.le_of_ble_eq_true rfl, Nat.le_of_ble_eq_true rfl⟩ (List.mem_singleton.mp hka26) rfl rfl rfl (Nat.le_of_ble_eq_true rfl) dX2_line_341) rfl (fun x24 σ25 => ?_)
      refine r_if_eq (q := 347) (t := 395) dX2_line_344 rfl (by decide) (fun _ => ?_) (fun _ => ?_)
      · exact r_le (w_X2_line_b395 G h0 N _ _ _) (Nat.le_refl _) (And.intro rfl (And.intro rfl trivial))
      · refine r_bipush (q := 349) (v := (12 : Int32)) dX2_line_347 rfl (by decide) ?_
        refine r_istore_n (q := 350) dX2_line_349 rfl rfl (Nat.le_of_ble_eq_true rfl) rfl ?_
        refine r_goto (q := 395) dX2_line_350 (by decide) ?_
        exact r_le (w_X2_line_b395 G h0 N _ _ _) (Nat.le_refl _) (And.intro rfl (And.intro rfl trivial))
    refine r_lswC (t := 278) (off := 253) (c0 := (3526267 : Int32)) dX2_line_25 (by decide) (by decide) (by decide) ?_ (fun hc7 => ?_)
    · refine r_aload_n (q := 279) dX2_line_278 rfl rfl rfl ?_
      refine r_ldcS (q := 281) (tx := "seen") (cd := 18) (List.mem_of_getElem? (i := 10) rfl) (by decide) dX2_line_279 rfl ?_
      refine r_ob (fun a29 ha29 => ?_)
      obtain ⟨hea29, hka29⟩ := o_at_eq ha29
      cases hea29
      refine r_callI (q := 284) (c_J3_equals G h0 N _ _ _) (cl_V (ci := 21) rfl rfl (lw_V q804 q805 q806 q178 q807) (hd_J3_equals) ⟨Nat.le_of_ble_eq_true rfl, Nat.le_of_ble_eq_true rfl⟩ (List.mem_singleton.mp hka29) rfl rfl rfl (Nat.le_of_ble_eq_true rfl) dX2_line_281) rfl (fun x27 σ28 => ?_)
      refine r_if_eq (q := 287) (t := 395) dX2_line_284 rfl (by decide) (fun _ => ?_) (fun _ => ?_)
      · exact r_le (w_X2_line_b395 G h0 N _ _ _) (Nat.le_refl _) (And.intro rfl (And.intro rfl trivial))
      · refine r_bipush (q := 289) (v := (8 : Int32)) dX2_line_287 rfl (by decide) ?_
        refine r_istore_n (q := 290) dX2_line_289 rfl rfl (Nat.le_of_ble_eq_true rfl) rfl ?_
        refine r_goto (q := 395) dX2_line_290 (by decide) ?_
        exact r_le (w_X2_line_b395 G h0 N _ _ _) (Nat.le_refl _) (And.intro rfl (And.intro rfl trivial))
    refine r_lswC (t := 368) (off := 343) (c0 := (94851467 : Int32)) dX2_line_25 (by decide) (by decide) (by decide) ?_ (fun hc8 => ?_)
    · refine r_aload_n (q := 369) dX2_line_368 rfl rfl rfl ?_
      refine r_ldcS (q := 371) (tx := "court") (cd := 30) (List.mem_of_getElem? (i := 16) rfl) (by decide) dX2_line_369 rfl ?_
      refine r_ob (fun a32 ha32 => ?_)
      obtain ⟨hea32, hka32⟩ := o_at_eq ha32
      cases hea32
      refine r_callI (q := 374) (c_J3_equals G h0 N _ _ _) (cl_V (ci := 21) rfl rfl (lw_V q804 q805 q806 q178 q807) (hd_J3_equals) ⟨Nat.le_of_ble_eq_true rfl, Nat.le_of_ble_eq_true rfl⟩ (List.mem_singleton.mp hka32) rfl rfl rfl (Nat.le_of_ble_eq_true rfl) dX2_line_371) rfl (fun x30 σ31 => ?_)
      refine r_if_eq (q := 377) (t := 395) dX2_line_374 rfl (by decide) (fun _ => ?_) (fun _ => ?_)
      · exact r_le (w_X2_line_b395 G h0 N _ _ _) (Nat.le_refl _) (And.intro rfl (And.intro rfl trivial))
      · refine r_bipush (q := 379) (v := (14 : Int32)) dX2_line_377 rfl (by decide) ?_
        refine r_istore_n (q := 380) dX2_line_379 rfl rfl (Nat.le_of_ble_eq_true rfl) rfl ?_
        refine r_goto (q := 395) dX2_line_380 (by decide) ?_
        exact r_le (w_X2_line_b395 G h0 N _ _ _) (Nat.le_refl _) (And.intro rfl (And.intro rfl trivial))
    refine r_lswC (t := 248) (off := 223) (c0 := (97304899 : Int32)) dX2_line_25 (by decide) (by decide) (by decide) ?_ (fun hc9 => ?_)
    · refine r_aload_n (q := 249) dX2_line_248 rfl rfl rfl ?_
      refine r_ldcS (q := 251) (tx := "fears") (cd := 14) (List.mem_of_getElem? (i := 8) rfl) (by decide) dX2_line_249 rfl ?_
      refine r_ob (fun a35 ha35 => ?_)
      obtain ⟨hea35, hka35⟩ := o_at_eq ha35
      cases hea35
      refine r_callI (q := 254) (c_J3_equals G h0 N _ _ _) (cl_V (ci := 21) rfl rfl (lw_V q804 q805 q806 q178 q807) (hd_J3_equals) ⟨Nat.le_of_ble_eq_true rfl, Nat.le_of_ble_eq_true rfl⟩ (List.mem_singleton.mp hka35) rfl rfl rfl (Nat.le_of_ble_eq_true rfl) dX2_line_251) rfl (fun x33 σ34 => ?_)
      refine r_if_eq (q := 257) (t := 395) dX2_line_254 rfl (by decide) (fun _ => ?_) (fun _ => ?_)
      · exact r_le (w_X2_line_b395 G h0 N _ _ _) (Nat.le_refl _) (And.intro rfl (And.intro rfl trivial))
      · refine r_bipush (q := 259) (v := (6 : Int32)) dX2_line_257 rfl (by decide) ?_
        refine r_istore_n (q := 260) dX2_line_259 rfl rfl (Nat.le_of_ble_eq_true rfl) rfl ?_
        refine r_goto (q := 395) dX2_line_260 (by decide) ?_
        exact r_le (w_X2_line_b395 G h0 N _ _ _) (Nat.le_refl _) (And.intro rfl (And.intro rfl trivial))
    refine r_lswC (t := 263) (off := 238) (c0 := (97621890 : Int32)) dX2_line_25 (by decide) (by decide) (by decide) ?_ (fun hc10 => ?_)
    · refine r_aload_n (q := 264) dX2_line_263 rfl rfl rfl ?_
      refine r_ldcS (q := 266) (tx := "found") (cd := 16) (List.mem_of_getElem? (i := 9) rfl) (by decide) dX2_line_264 rfl ?_
      refine r_ob (fun a38 ha38 => ?_)
      obtain ⟨hea38, hka38⟩ := o_at_eq ha38
      cases hea38
      refine r_callI (q := 269) (c_J3_equals G h0 N _ _ _) (cl_V (ci := 21) rfl rfl (lw_V q804 q805 q806 q178 q807) (hd_J3_equals) ⟨Nat.le_of_ble_eq_true rfl, Nat.le_of_ble_eq_true rfl⟩ (List.mem_singleton.mp hka38) rfl rfl rfl (Nat.le_of_ble_eq_true rfl) dX2_line_266) rfl (fun x36 σ37 => ?_)
      refine r_if_eq (q := 272) (t := 395) dX2_line_269 rfl (by decide) (fun _ => ?_) (fun _ => ?_)
      · exact r_le (w_X2_line_b395 G h0 N _ _ _) (Nat.le_refl _) (And.intro rfl (And.intro rfl trivial))
      · refine r_bipush (q := 274) (v := (7 : Int32)) dX2_line_272 rfl (by decide) ?_
        refine r_istore_n (q := 275) dX2_line_274 rfl rfl (Nat.le_of_ble_eq_true rfl) rfl ?_
        refine r_goto (q := 395) dX2_line_275 (by decide) ?_
        exact r_le (w_X2_line_b395 G h0 N _ _ _) (Nat.le_refl _) (And.intro rfl (And.intro rfl trivial))
    refine r_lswC (t := 323) (off := 298) (c0 := (99459988 : Int32)) dX2_line_25 (by decide) (by decide) (by decide) ?_ (fun hc11 => ?_)
    · refine r_aload_n (q := 324) dX2_line_323 rfl rfl rfl ?_
      refine r_ldcS (q := 326) (tx := "holds") (cd := 24) (List.mem_of_getElem? (i := 13) rfl) (by decide) dX2_line_324 rfl ?_
      refine r_ob (fun a41 ha41 => ?_)
      obtain ⟨hea41, hka41⟩ := o_at_eq ha41
      cases hea41
      refine r_callI (q := 329) (c_J3_equals G h0 N _ _ _) (cl_V (ci := 21) rfl rfl (lw_V q804 q805 q806 q178 q807) (hd_J3_equals) ⟨Nat.le_of_ble_eq_true rfl, Nat.le_of_ble_eq_true rfl⟩ (List.mem_singleton.mp hka41) rfl rfl rfl (Nat.le_of_ble_eq_true rfl) dX2_line_326) rfl (fun x39 σ40 => ?_)
      refine r_if_eq (q := 332) (t := 395) dX2_line_329 rfl (by decide) (fun _ => ?_) (fun _ => ?_)
      · exact r_le (w_X2_line_b395 G h0 N _ _ _) (Nat.le_refl _) (And.intro rfl (And.intro rfl trivial))
      · refine r_bipush (q := 334) (v := (11 : Int32)) dX2_line_332 rfl (by decide) ?_
        refine r_istore_n (q := 335) dX2_line_334 rfl rfl (Nat.le_of_ble_eq_true rfl) rfl ?_
        refine r_goto (q := 395) dX2_line_335 (by decide) ?_
        exact r_le (w_X2_line_b395 G h0 N _ _ _) (Nat.le_refl _) (And.intro rfl (And.intro rfl trivial))
    refine r_lswC (t := 178) (off := 153) (c0 := (106748167 : Int32)) dX2_line_25 (by decide) (by decide) (by decide) ?_ (fun hc12 => ?_)
    · refine r_aload_n (q := 179) dX2_line_178 rfl rfl rfl ?_
      refine r_ldcS (q := 181) (tx := "place") (cd := 4) (List.mem_of_getElem? (i := 3) rfl) (by decide) dX2_line_179 rfl ?_
      refine r_ob (fun a44 ha44 => ?_)
      obtain ⟨hea44, hka44⟩ := o_at_eq ha44
      cases hea44
      refine r_callI (q := 184) (c_J3_equals G h0 N _ _ _) (cl_V (ci := 21) rfl rfl (lw_V q804 q805 q806 q178 q807) (hd_J3_equals) ⟨Nat.le_of_ble_eq_true rfl, Nat.le_of_ble_eq_true rfl⟩ (List.mem_singleton.mp hka44) rfl rfl rfl (Nat.le_of_ble_eq_true rfl) dX2_line_181) rfl (fun x42 σ43 => ?_)
      refine r_if_eq (q := 187) (t := 395) dX2_line_184 rfl (by decide) (fun _ => ?_) (fun _ => ?_)
      · exact r_le (w_X2_line_b395 G h0 N _ _ _) (Nat.le_refl _) (And.intro rfl (And.intro rfl trivial))
      · refine r_iconst (q := 188) (v := (1 : Int32)) dX2_line_187 rfl (by decide) ?_
        refine r_istore_n (q := 189) dX2_line_188 rfl rfl (Nat.le_of_ble_eq_true rfl) rfl ?_
        refine r_goto (q := 395) dX2_line_189 (by decide) ?_
        exact r_le (w_X2_line_b395 G h0 N _ _ _) (Nat.le_refl _) (And.intro rfl (And.intro rfl trivial))
    refine r_lswC (t := 353) (off := 328) (c0 := (106940740 : Int32)) dX2_line_25 (by decide) (by decide) (by decide) ?_ (fun hc13 => ?_)
    · refine r_aload_n (q := 354) dX2_line_353 rfl rfl rfl ?_
      refine r_ldcS (q := 356) (tx := "proof") (cd := 28) (List.mem_of_getElem? (i := 15) rfl) (by decide) dX2_line_354 rfl ?_
      refine r_ob (fun a47 ha47 => ?_)
      obtain ⟨hea47, hka47⟩ := o_at_eq ha47
      cases hea47
      refine r_callI (q := 359) (c_J3_equals G h0 N _ _ _) (cl_V (ci := 21) rfl rfl (lw_V q804 q805 q806 q178 q807) (hd_J3_equals) ⟨Nat.le_of_ble_eq_true rfl, Nat.le_of_ble_eq_true rfl⟩ (List.mem_singleton.mp hka47) rfl rfl rfl (Nat.le_of_ble_eq_true rfl) dX2_line_356) rfl (fun x45 σ46 => ?_)
      refine r_if_eq (q := 362) (t := 395) dX2_line_359 rfl (by decide) (fun _ => ?_) (fun _ => ?_)
      · exact r_le (w_X2_line_b395 G h0 N _ _ _) (Nat.le_refl _) (And.intro rfl (And.intro rfl trivial))
      · refine r_bipush (q := 364) (v := (13 : Int32)) dX2_line_362 rfl (by decide) ?_
        refine r_istore_n (q := 365) dX2_line_364 rfl rfl (Nat.le_of_ble_eq_true rfl) rfl ?_
        refine r_goto (q := 395) dX2_line_365 (by decide) ?_
        exact r_le (w_X2_line_b395 G h0 N _ _ _) (Nat.le_refl _) (And.intro rfl (And.intro rfl trivial))
    refine r_lswC (t := 293) (off := 268) (c0 := (109407315 : Int32)) dX2_line_25 (by decide) (by decide) (by decide) ?_ (fun hc14 => ?_)
    · refine r_aload_n (q := 294) dX2_line_293 rfl rfl rfl ?_
      refine r_ldcS (q := 296) (tx := "shied") (cd := 20) (List.mem_of_getElem? (i := 11) rfl) (by decide) dX2_line_294 rfl ?_
      refine r_ob (fun a50 ha50 => ?_)
      obtain ⟨hea50, hka50⟩ := o_at_eq ha50
      cases hea50
      refine r_callI (q := 299) (c_J3_equals G h0 N _ _ _) (cl_V (ci := 21) rfl rfl (lw_V q804 q805 q806 q178 q807) (hd_J3_equals) ⟨Nat.le_of_ble_eq_true rfl, Nat.le_of_ble_eq_true rfl⟩ (List.mem_singleton.mp hka50) rfl rfl rfl (Nat.le_of_ble_eq_true rfl) dX2_line_296) rfl (fun x48 σ49 => ?_)
      refine r_if_eq (q := 302) (t := 395) dX2_line_299 rfl (by decide) (fun _ => ?_) (fun _ => ?_)
      · exact r_le (w_X2_line_b395 G h0 N _ _ _) (Nat.le_refl _) (And.intro rfl (And.intro rfl trivial))
      · refine r_bipush (q := 304) (v := (9 : Int32)) dX2_line_302 rfl (by decide) ?_
        refine r_istore_n (q := 305) dX2_line_304 rfl rfl (Nat.le_of_ble_eq_true rfl) rfl ?_
        refine r_goto (q := 395) dX2_line_305 (by decide) ?_
        exact r_le (w_X2_line_b395 G h0 N _ _ _) (Nat.le_refl _) (And.intro rfl (And.intro rfl trivial))
    refine r_lswC (t := 220) (off := 195) (c0 := (109770997 : Int32)) dX2_line_25 (by decide) (by decide) (by decide) ?_ (fun hc15 => ?_)
    · refine r_aload_n (q := 221) dX2_line_220 rfl rfl rfl ?_
      refine r_ldcS (q := 223) (tx := "story") (cd := 10) (List.mem_of_getElem? (i := 6) rfl) (by decide) dX2_line_221 rfl ?_
      refine r_ob (fun a53 ha53 => ?_)
      obtain ⟨hea53, hka53⟩ := o_at_eq ha53
      cases hea53
      refine r_callI (q := 226) (c_J3_equals G h0 N _ _ _) (cl_V (ci := 21) rfl rfl (lw_V q804 q805 q806 q178 q807) (hd_J3_equals) ⟨Nat.le_of_ble_eq_true rfl, Nat.le_of_ble_eq_true rfl⟩ (List.mem_singleton.mp hka53) rfl rfl rfl (Nat.le_of_ble_eq_true rfl) dX2_line_223) rfl (fun x51 σ52 => ?_)
      refine r_if_eq (q := 229) (t := 395) dX2_line_226 rfl (by decide) (fun _ => ?_) (fun _ => ?_)
      · exact r_le (w_X2_line_b395 G h0 N _ _ _) (Nat.le_refl _) (And.intro rfl (And.intro rfl trivial))
      · refine r_iconst (q := 230) (v := (4 : Int32)) dX2_line_229 rfl (by decide) ?_
        refine r_istore_n (q := 231) dX2_line_230 rfl rfl (Nat.le_of_ble_eq_true rfl) rfl ?_
        refine r_goto (q := 395) dX2_line_231 (by decide) ?_
        exact r_le (w_X2_line_b395 G h0 N _ _ _) (Nat.le_refl _) (And.intro rfl (And.intro rfl trivial))
    refine r_lswD (t := 395) dX2_line_25 (by decide) ((lv_osw hc0 (by decide)).trans ((lv_osw hc1 (by decide)).trans ((lv_osw hc2 (by decide)).trans ((lv_osw hc3 (by decide)).trans ((lv_osw hc4 (by decide)).trans ((lv_osw hc5 (by decide)).trans ((lv_osw hc6 (by decide)).trans ((lv_osw hc7 (by decide)).trans ((lv_osw hc8 (by decide)).trans ((lv_osw hc9 (by decide)).trans ((lv_osw hc10 (by decide)).trans ((lv_osw hc11 (by decide)).trans ((lv_osw hc12 (by decide)).trans ((lv_osw hc13 (by decide)).trans ((lv_osw hc14 (by decide)).trans ((lv_osw hc15 (by decide)).trans rfl)))))))))))))))) (by decide) ?_
    · exact r_le (w_X2_line_b395 G h0 N _ _ _) (Nat.le_refl _) (And.intro rfl (And.intro rfl trivial))
  · refine r_aload_n (q := 9) dX2_line_8 rfl rfl rfl ?_
    refine r_iconst (q := 10) (v := (1 : Int32)) dX2_line_9 rfl (by decide) ?_
    refine r_ob (fun a56 ha56 => ?_)
    obtain ⟨hea56, hka56⟩ := o_at_eq ha56
    cases hea56
    refine r_callR (q := 13) (c_X2_fail G h0 N _ _ _) (cl_V (ci := 1) rfl rfl (lw_V q742 q744 qs7 q168 q745) (hd_X2_fail) ⟨Nat.le_of_ble_eq_true rfl, Nat.le_of_ble_eq_true rfl⟩ (List.mem_singleton.mp hka56) rfl rfl rfl (Nat.le_of_ble_eq_true rfl) dX2_line_10) rfl (fun x54 σ55 => ?_)
    exact r_athrow (ci := 2) (r0 := (RX3, TX3, 8)) rfl rfl dX2_line_13
theorem w_X2_read_b82 (G : Gx) (h0 : G0 G) (N : Nat)   (a0 : Nat) (σ : Mem) : Runs G mX2_read (rhoX rhoR) σ 82 [some (vR (some a0)), none] [] (f_X2_read_b82 N  a0 σ) := by
  unfold f_X2_read_b82
  refine r_aload_n (q := 83) dX2_read_82 rfl rfl rfl ?_
  refine r_bipush (q := 85) (v := (6 : Int32)) dX2_read_83 rfl (by decide) ?_
  refine r_ob (fun a3 ha3 => ?_)
  obtain ⟨hea3, hka3⟩ := o_at_eq ha3
  cases hea3
  refine r_callR (q := 88) (c_X2_fail G h0 N _ _ _) (cl_V (ci := 1) rfl rfl (lw_V q742 q744 qs7 q168 q745) (hd_X2_fail) ⟨Nat.le_of_ble_eq_true rfl, Nat.le_of_ble_eq_true rfl⟩ (List.mem_singleton.mp hka3) rfl rfl rfl (Nat.le_of_ble_eq_true rfl) dX2_read_85) rfl (fun x1 σ2 => ?_)
  exact r_athrow (ci := 2) (r0 := (RX3, TX3, 8)) rfl rfl dX2_read_88
theorem w_X2_read_b29B (G : Gx) (h0 : G0 G) (N : Nat)   (K29 : Nat → Mem → Option (((Option Nat) ⊕ Ex) × Mem)) (hK29 : ∀ (a0 : Nat) (σ : Mem), Runs G mX2_read (rhoX rhoR) σ 29 [some (vR (some a0)), none] [] (K29 a0 σ)) (a0 : Nat) (σ : Mem) : Runs G mX2_read (rhoX rhoR) σ 29 [some (vR (some a0)), none] [] (f_X2_read_b29B N  K29 a0 σ) := by
  unfold f_X2_read_b29B
  refine r_aload_n (q := 30) dX2_read_29 rfl rfl rfl ?_
  refine r_gI (q := 33) fl_X2_47 dX2_read_30 rfl (fun x1 => ?_)
  refine r_bipush (q := 35) (v := (59 : Int32)) dX2_read_33 rfl (by decide) ?_
  refine r_icmp_ne (q := 38) (t := 49) dX2_read_35 rfl (by decide) (fun _ => ?_) (fun _ => ?_)
  · refine r_aload_n (q := 39) dX2_read_38 rfl rfl rfl ?_
    refine r_ob (fun a13 ha13 => ?_)
    obtain ⟨hea13, hka13⟩ := o_at_eq ha13
    cases hea13
    refine r_callV (q := 42) (c_X2_next G h0 N _ _) (cl_V (ci := 1) rfl rfl (lw_V q644 q646 qs4 q168 q647) (hd_X2_next) ⟨Nat.le_of_ble_eq_true rfl, Nat.le_of_ble_eq_true rfl⟩ (List.mem_singleton.mp hka13) rfl rfl rfl (Nat.le_of_ble_eq_true rfl) dX2_read_39) rfl (fun u11 σ12 => ?_)
    refine r_aload_n (q := 43) dX2_read_42 rfl rfl rfl ?_
    refine r_ob (fun a16 ha16 => ?_)
    obtain ⟨hea16, hka16⟩ := o_at_eq ha16
    cases hea16
    refine r_callXV (q := 46) (c_X2_line G h0 N _ _) (cl_V (ci := 1) rfl rfl (lw_V q738 q740 qs6 q168 q741) (hd_X2_line) ⟨Nat.le_of_ble_eq_true rfl, Nat.le_of_ble_eq_true rfl⟩ (List.mem_singleton.mp hka16) rfl rfl rfl (Nat.le_of_ble_eq_true rfl) dX2_read_43) rfl rfl (fun u14 σ15 => ?_)
    refine r_goto (q := 29) dX2_read_46 (by decide) ?_
    exact r_le (hK29 _ _) (Nat.le_refl _) (And.intro rfl trivial)
  · refine r_aload_n (q := 50) dX2_read_49 rfl rfl rfl ?_
    refine r_gI (q := 53) fl_X2_47 dX2_read_50 rfl (fun x2 => ?_)
    refine r_if_eq (q := 56) (t := 62) dX2_read_53 rfl (by decide) (fun _ => ?_) (fun _ => ?_)
    · refine r_aload_n (q := 63) dX2_read_62 rfl rfl rfl ?_
      refine r_gR (q := 66) fl_X2_127 rfl dX2_read_63 rfl (fun x3 => ?_)
      refine r_gI (q := 69) fl_X2_163 dX2_read_66 rfl (fun x4 => ?_)
      refine r_if_eq (q := 72) (t := 82) dX2_read_69 rfl (by decide) (fun _ => ?_) (fun _ => ?_)
      · exact r_le (w_X2_read_b82 G h0 N _ _) (Nat.le_refl _) (And.intro rfl trivial)
      · refine r_aload_n (q := 73) dX2_read_72 rfl rfl rfl ?_
        refine r_gR (q := 76) fl_X2_127 rfl dX2_read_73 rfl (fun x5 => ?_)
        refine r_gI (q := 79) fl_X2_184 dX2_read_76 rfl (fun x6 => ?_)
        refine r_if_ne (q := 82) (t := 89) dX2_read_79 rfl (by decide) (fun _ => ?_) (fun _ => ?_)
        · exact r_le (w_X2_read_b82 G h0 N _ _) (Nat.le_refl _) (And.intro rfl trivial)
        · refine r_aload_n (q := 90) dX2_read_89 rfl rfl rfl ?_
          refine r_gR (q := 93) fl_X2_127 rfl dX2_read_90 rfl (fun x7 => ?_)
          exact r_areturnX rfl (Or.inl ⟨_, rfl⟩) dX2_read_93
    · refine r_aload_n (q := 57) dX2_read_56 rfl rfl rfl ?_
      refine r_iconst (q := 58) (v := (1 : Int32)) dX2_read_57 rfl (by decide) ?_
      refine r_ob (fun a10 ha10 => ?_)
      obtain ⟨hea10, hka10⟩ := o_at_eq ha10
      cases hea10
      refine r_callR (q := 61) (c_X2_fail G h0 N _ _ _) (cl_V (ci := 1) rfl rfl (lw_V q742 q744 qs7 q168 q745) (hd_X2_fail) ⟨Nat.le_of_ble_eq_true rfl, Nat.le_of_ble_eq_true rfl⟩ (List.mem_singleton.mp hka10) rfl rfl rfl (Nat.le_of_ble_eq_true rfl) dX2_read_58) rfl (fun x8 σ9 => ?_)
      exact r_athrow (ci := 2) (r0 := (RX3, TX3, 8)) rfl rfl dX2_read_61
theorem w_X2_read_b29 (G : Gx) (h0 : G0 G) (N : Nat)   : ∀ (z : Nat) (a0 : Nat) (σ : Mem), Runs G mX2_read (rhoX rhoR) σ 29 [some (vR (some a0)), none] [] (f_X2_read_b29 N  z a0 σ) := by
  intro z
  induction z with
  | zero => exact fun _ _ => r_none
  | succ z ih => exact fun a0 σ => w_X2_read_b29B G h0 N   _ ih a0 σ
theorem c_X2_read (G : Gx) (h0 : G0 G) (N : Nat) (a0 : Nat) (i1 : Int32) (σ : Mem) : Ct G mX2_read (rhoX rhoR) [vR (some a0), vI i1] σ (f_X2_read N a0 i1 σ) := by
  refine Ct_of h0 (by decide) rfl (Nat.le_of_ble_eq_true rfl) (L0 := [some (vR (some a0)), some (vI i1)]) rfl ?_
  unfold f_X2_read
  refine r_aload_n (q := 1) dX2_read_0 rfl rfl rfl ?_
  refine r_iload_n (q := 2) dX2_read_1 rfl rfl rfl ?_
  refine r_pI (q := 5) fp_X2_read_33 dX2_read_2 rfl (fun σ1 => ?_)
  refine r_aload_n (q := 6) dX2_read_5 rfl rfl rfl ?_
  refine r_iconst (q := 7) (v := (0 : Int32)) dX2_read_6 rfl (by decide) ?_
  refine r_pI (q := 10) fp_X2_read_40 dX2_read_7 rfl (fun σ2 => ?_)
  refine r_aload_n (q := 11) dX2_read_10 rfl rfl rfl ?_
  refine r_new (q := 14) (ci := 7) rfl rfl q500 q501 q177 dX2_read_11 rfl (fun a3 σ4 => ?_)
  refine r_dup (q := 15) dX2_read_14 rfl rfl ?_
  refine r_callV (q := 18) (c_X8_init G h0 N _ _) (cl_IN rfl rfl rfl rfl q502 q503 q177 q504 (hd_X8_init) ⟨Nat.le_of_ble_eq_true rfl, Nat.le_of_ble_eq_true rfl⟩ rfl (Nat.le_of_ble_eq_true rfl) dX2_read_15) rfl (fun u5 σ6 => ?_)
  refine r_pR (q := 21) fp_X2_read_127 rfl dX2_read_18 rfl (fun σ7 => ?_)
  refine r_aload_n (q := 22) dX2_read_21 rfl rfl rfl ?_
  refine r_ob (fun a10 ha10 => ?_)
  obtain ⟨hea10, hka10⟩ := o_at_eq ha10
  cases hea10
  refine r_callV (q := 25) (c_X2_next G h0 N _ _) (cl_V (ci := 1) rfl rfl (lw_V q644 q646 qs4 q168 q647) (hd_X2_next) ⟨Nat.le_of_ble_eq_true rfl, Nat.le_of_ble_eq_true rfl⟩ (List.mem_singleton.mp hka10) rfl rfl rfl (Nat.le_of_ble_eq_true rfl) dX2_read_22) rfl (fun u8 σ9 => ?_)
  refine r_aload_n (q := 26) dX2_read_25 rfl rfl rfl ?_
  refine r_ob (fun a13 ha13 => ?_)
  obtain ⟨hea13, hka13⟩ := o_at_eq ha13
  cases hea13
  refine r_callXV (q := 29) (c_X2_line G h0 N _ _) (cl_V (ci := 1) rfl rfl (lw_V q738 q740 qs6 q168 q741) (hd_X2_line) ⟨Nat.le_of_ble_eq_true rfl, Nat.le_of_ble_eq_true rfl⟩ (List.mem_singleton.mp hka13) rfl rfl rfl (Nat.le_of_ble_eq_true rfl) dX2_read_26) rfl rfl (fun u11 σ12 => ?_)
  exact r_le (w_X2_read_b29 G h0 N N _ _) (Nat.le_refl _) (And.intro rfl trivial)
theorem w_X4_begin_b2B (G : Gx) (h0 : G0 G) (N : Nat)   (K2 : Nat → Option Nat → Int32 → Mem → Option (Unit × Mem)) (hK2 : ∀ (a0 : Nat) (l1 : Option Nat) (l2 : Int32) (σ : Mem), Runs G mX4_begin rhoV σ 2 [some (vR (some a0)), some (vR l1), some (vI l2)] [] (K2 a0 l1 l2 σ)) (a0 : Nat) (l1 : Option Nat) (l2 : Int32) (σ : Mem) : Runs G mX4_begin rhoV σ 2 [some (vR (some a0)), some (vR l1), some (vI l2)] [] (f_X4_begin_b2B N  K2 a0 l1 l2 σ) := by
  unfold f_X4_begin_b2B
  refine r_iload_n (q := 3) dX4_begin_2 rfl rfl rfl ?_
  refine r_bipush (q := 5) (v := (12 : Int32)) dX4_begin_3 rfl (by decide) ?_
  refine r_icmp_ge (q := 8) (t := 28) dX4_begin_5 rfl (by decide) (fun _ => ?_) (fun _ => ?_)
  · refine r_aload_n (q := 29) dX4_begin_28 rfl rfl rfl ?_
    refine r_iconst (q := 30) (v := (0 : Int32)) dX4_begin_29 rfl (by decide) ?_
    refine r_pI (q := 33) fp_X4_begin_18 dX4_begin_30 rfl (fun σ1 => ?_)
    refine r_aload_n (q := 34) dX4_begin_33 rfl rfl rfl ?_
    refine r_iconst (q := 35) (v := (1 : Int32)) dX4_begin_34 rfl (by decide) ?_
    refine r_aload_n (q := 36) dX4_begin_35 rfl rfl rfl ?_
    refine r_gI (q := 39) fl_X4_22 dX4_begin_36 rfl (fun x2 => ?_)
    refine r_ishl (q := 40) dX4_begin_39 rfl ?_
    refine r_iconst (q := 41) (v := (1 : Int32)) dX4_begin_40 rfl (by decide) ?_
    refine r_isub (q := 42) dX4_begin_41 rfl ?_
    refine r_pI (q := 45) fp_X4_begin_27 dX4_begin_42 rfl (fun σ3 => ?_)
    exact r_return rfl dX4_begin_45
  · refine r_aload_n (q := 9) dX4_begin_8 rfl rfl rfl ?_
    refine r_gR (q := 12) fl_X4_9 rfl dX4_begin_9 rfl (fun x4 => ?_)
    refine r_iload_n (q := 13) dX4_begin_12 rfl rfl rfl ?_
    refine r_iconst (q := 14) (v := (0 : Int32)) dX4_begin_13 rfl (by decide) ?_
    refine r_iastore (q := 15) dX4_begin_14 rfl (fun σ5 => ?_)
    refine r_aload_n (q := 16) dX4_begin_15 rfl rfl rfl ?_
    refine r_gR (q := 19) fl_X4_15 rfl dX4_begin_16 rfl (fun x6 => ?_)
    refine r_iload_n (q := 20) dX4_begin_19 rfl rfl rfl ?_
    refine r_iconst (q := 21) (v := (0 : Int32)) dX4_begin_20 rfl (by decide) ?_
    refine r_iastore (q := 22) dX4_begin_21 rfl (fun σ7 => ?_)
    refine r_iinc (q := 25) (v := (1 : Int32)) dX4_begin_22 rfl rfl (by decide) (Nat.le_of_ble_eq_true rfl) rfl ?_
    refine r_goto (q := 2) dX4_begin_25 (by decide) ?_
    exact r_le (hK2 _ _ _ _) (Nat.le_refl _) (And.intro rfl (And.intro rfl (And.intro rfl trivial)))
theorem w_X4_begin_b2 (G : Gx) (h0 : G0 G) (N : Nat)   : ∀ (z : Nat) (a0 : Nat) (l1 : Option Nat) (l2 : Int32) (σ : Mem), Runs G mX4_begin rhoV σ 2 [some (vR (some a0)), some (vR l1), some (vI l2)] [] (f_X4_begin_b2 N  z a0 l1 l2 σ) := by
  intro z
  induction z with
  | zero => exact fun _ _ _ _ => r_none
  | succ z ih => exact fun a0 l1 l2 σ => w_X4_begin_b2B G h0 N   _ ih a0 l1 l2 σ
theorem c_X4_begin (G : Gx) (h0 : G0 G) (N : Nat) (a0 : Nat) (o1 : Option Nat) (σ : Mem) : Ct G mX4_begin rhoV [vR (some a0), vR o1] σ (f_X4_begin N a0 o1 σ) := by
  refine Ct_of h0 (by decide) rfl (Nat.le_of_ble_eq_true rfl) (L0 := [some (vR (some a0)), some (vR o1), none]) rfl ?_
  unfold f_X4_begin
  refine r_iconst (q := 1) (v := (0 : Int32)) dX4_begin_0 rfl (by decide) ?_
  refine r_istore_n (q := 2) dX4_begin_1 rfl rfl (Nat.le_of_ble_eq_true rfl) rfl ?_
  exact r_le (w_X4_begin_b2 G h0 N N _ _ _ _) (Nat.le_refl _) (And.intro rfl (And.intro rfl (And.intro rfl trivial)))
theorem w_X8_cases_b4B (G : Gx) (h0 : G0 G) (N : Nat)   (K4 : Nat → Int32 → Int32 → Mem → Option (Int32 × Mem)) (hK4 : ∀ (a0 : Nat) (l1 : Int32) (l2 : Int32) (σ : Mem), Runs G mX8_cases rhoI σ 4 [some (vR (some a0)), some (vI l1), some (vI l2)] [] (K4 a0 l1 l2 σ)) (a0 : Nat) (l1 : Int32) (l2 : Int32) (σ : Mem) : Runs G mX8_cases rhoI σ 4 [some (vR (some a0)), some (vI l1), some (vI l2)] [] (f_X8_cases_b4B N  K4 a0 l1 l2 σ) := by
  unfold f_X8_cases_b4B
  refine r_iload_n (q := 5) dX8_cases_4 rfl rfl rfl ?_
  refine r_aload_n (q := 6) dX8_cases_5 rfl rfl rfl ?_
  refine r_gI (q := 9) fl_X8_86 dX8_cases_6 rfl (fun x1 => ?_)
  refine r_icmp_ge (q := 12) (t := 34) dX8_cases_9 rfl (by decide) (fun _ => ?_) (fun _ => ?_)
  · refine r_iload_n (q := 35) dX8_cases_34 rfl rfl rfl ?_
    exact r_ireturn rfl rfl dX8_cases_35
  · refine r_iload_n (q := 13) dX8_cases_12 rfl rfl rfl ?_
    refine r_iconst (q := 14) (v := (1 : Int32)) dX8_cases_13 rfl (by decide) ?_
    refine r_aload_n (q := 15) dX8_cases_14 rfl rfl rfl ?_
    refine r_gR (q := 18) fl_X8_32 rfl dX8_cases_15 rfl (fun x2 => ?_)
    refine r_iload_n (q := 19) dX8_cases_18 rfl rfl rfl ?_
    refine r_aaload (q := 20) (k0 := 7) (by decide) dX8_cases_19 rfl (fun x3 => ?_)
    refine r_gI (q := 23) fl_X8_101 dX8_cases_20 rfl (fun x4 => ?_)
    refine r_mmax (q := 26) q1300 q1301 q198 q1302 (Nat.le_of_ble_eq_true rfl) (Nat.le_of_ble_eq_true rfl) dX8_cases_23 rfl ?_
    refine r_imul (q := 27) dX8_cases_26 rfl ?_
    refine r_istore_n (q := 28) dX8_cases_27 rfl rfl (Nat.le_of_ble_eq_true rfl) rfl ?_
    refine r_iinc (q := 31) (v := (1 : Int32)) dX8_cases_28 rfl rfl (by decide) (Nat.le_of_ble_eq_true rfl) rfl ?_
    refine r_goto (q := 4) dX8_cases_31 (by decide) ?_
    exact r_le (hK4 _ _ _ _) (Nat.le_refl _) (And.intro rfl (And.intro rfl (And.intro rfl trivial)))
theorem w_X8_cases_b4 (G : Gx) (h0 : G0 G) (N : Nat)   : ∀ (z : Nat) (a0 : Nat) (l1 : Int32) (l2 : Int32) (σ : Mem), Runs G mX8_cases rhoI σ 4 [some (vR (some a0)), some (vI l1), some (vI l2)] [] (f_X8_cases_b4 N  z a0 l1 l2 σ) := by
  intro z
  induction z with
  | zero => exact fun _ _ _ _ => r_none
  | succ z ih => exact fun a0 l1 l2 σ => w_X8_cases_b4B G h0 N   _ ih a0 l1 l2 σ
theorem c_X8_cases (G : Gx) (h0 : G0 G) (N : Nat) (a0 : Nat) (σ : Mem) : Ct G mX8_cases rhoI [vR (some a0)] σ (f_X8_cases N a0 σ) := by
  refine Ct_of h0 (by decide) rfl (Nat.le_of_ble_eq_true rfl) (L0 := [some (vR (some a0)), none, none]) rfl ?_
  unfold f_X8_cases
  refine r_iconst (q := 1) (v := (1 : Int32)) dX8_cases_0 rfl (by decide) ?_
  refine r_istore_n (q := 2) dX8_cases_1 rfl rfl (Nat.le_of_ble_eq_true rfl) rfl ?_
  refine r_iconst (q := 3) (v := (0 : Int32)) dX8_cases_2 rfl (by decide) ?_
  refine r_istore_n (q := 4) dX8_cases_3 rfl rfl (Nat.le_of_ble_eq_true rfl) rfl ?_
  exact r_le (w_X8_cases_b4 G h0 N N _ _ _ _) (Nat.le_refl _) (And.intro rfl (And.intro rfl (And.intro rfl trivial)))
theorem c_X1_hill (G : Gx) (h0 : G0 G) (N : Nat) (a0 : Nat) (i1 : Int32) (σ : Mem) : Ct G mX1_hill rhoI [vR (some a0), vI i1] σ (f_X1_hill N a0 i1 σ) := by
  refine Ct_ofH h0 (by decide) (List.cons_ne_nil _ _) (Nat.le_of_ble_eq_true rfl) (L0 := [some (vR (some a0)), some (vI i1), none]) rfl ?_
  unfold f_X1_hill
  refine r_aload_n (q := 1) dX1_hill_0 rfl rfl rfl ?_
  refine r_ob (fun a3 ha3 => ?_)
  obtain ⟨hea3, hka3⟩ := o_at_eq ha3
  cases hea3
  refine r_callV (q := 4) (c_X1_anew G h0 N _ _) (cl_V (ci := 0) rfl rfl (lw_V q485 q487 qs2 q167 q488) (hd_X1_anew) ⟨Nat.le_of_ble_eq_true rfl, Nat.le_of_ble_eq_true rfl⟩ (List.mem_singleton.mp hka3) rfl rfl rfl (Nat.le_of_ble_eq_true rfl) dX1_hill_1) rfl (fun u1 σ2 => ?_)
  refine r_iload_n (q := 5) dX1_hill_4 rfl rfl rfl ?_
  refine r_iconst (q := 6) (v := (0 : Int32)) dX1_hill_5 rfl (by decide) ?_
  refine r_aload_n (q := 7) dX1_hill_6 rfl rfl rfl ?_
  refine r_gI (q := 10) fl_X1_83 dX1_hill_7 rfl (fun x4 => ?_)
  refine r_callI (q := 13) (c_X1_in G h0 N _ _ _ _) (cl_S rfl rfl (lw_S q489 q490 q167 q491) (hd_X1_in) ⟨Nat.le_of_ble_eq_true rfl, Nat.le_of_ble_eq_true rfl⟩ rfl (Nat.le_of_ble_eq_true rfl) dX1_hill_10) rfl (fun x5 σ6 => ?_)
  refine r_if_ne (q := 16) (t := 22) dX1_hill_13 rfl (by decide) (fun _ => ?_) (fun _ => ?_)
  · refine r_aload_n (q := 17) dX1_hill_16 rfl rfl rfl ?_
    refine r_iconst (q := 18) (v := (2 : Int32)) dX1_hill_17 rfl (by decide) ?_
    refine r_ob (fun a36 ha36 => ?_)
    obtain ⟨hea36, hka36⟩ := o_at_eq ha36
    cases hea36
    refine r_callI (q := 21) (c_X1_no G h0 N _ _ _) (cl_V (ci := 0) rfl rfl (lw_V q492 q494 qs3 q167 q495) (hd_X1_no) ⟨Nat.le_of_ble_eq_true rfl, Nat.le_of_ble_eq_true rfl⟩ (List.mem_singleton.mp hka36) rfl rfl rfl (Nat.le_of_ble_eq_true rfl) dX1_hill_18) rfl (fun x34 σ35 => ?_)
    exact r_ireturn rfl rfl dX1_hill_21
  · refine r_aload_n (q := 23) dX1_hill_22 rfl rfl rfl ?_
    refine r_iconst (q := 24) (v := (0 : Int32)) dX1_hill_23 rfl (by decide) ?_
    refine r_pI (q := 27) fp_X1_hill_83 dX1_hill_24 rfl (fun σ7 => ?_)
    refine r_aload_n (q := 28) dX1_hill_27 rfl rfl rfl ?_
    refine r_iconst (q := 29) (v := (0 : Int32)) dX1_hill_28 rfl (by decide) ?_
    refine r_pI (q := 32) fp_X1_hill_97 dX1_hill_29 rfl (fun σ8 => ?_)
    refine r_aload_n (q := 33) dX1_hill_32 rfl rfl rfl ?_
    refine r_aload_n (q := 34) dX1_hill_33 rfl rfl rfl ?_
    refine r_gR (q := 37) fl_X1_22 rfl dX1_hill_34 rfl (fun x9 => ?_)
    refine r_iload_n (q := 38) dX1_hill_37 rfl rfl rfl ?_
    refine r_ob (fun a12 ha12 => ?_)
    obtain ⟨hea12, hka12⟩ := o_at_eq ha12
    cases hea12
    refine r_bhR (q := 41) hcatch_X1_hill_38 (c_X2_read G h0 N _ _ _) (cl_V (ci := 1) rfl rfl (lw_V q496 q497 q498 q168 q499) (hd_X2_read) ⟨Nat.le_of_ble_eq_true rfl, Nat.le_of_ble_eq_true rfl⟩ (List.mem_singleton.mp hka12) rfl rfl rfl (Nat.le_of_ble_eq_true rfl) dX1_hill_38) rfl ?_ (fun x10 σ11 => ?_)
    · intro e13 σ14
      refine r_astore_n (q := 48) dX1_hill_47 rfl rfl (Nat.le_of_ble_eq_true rfl) rfl ?_
      refine r_aload_n (q := 49) dX1_hill_48 rfl rfl rfl ?_
      refine r_aload_n (q := 50) dX1_hill_49 rfl rfl rfl ?_
      refine r_gI (q := 53) fl_X1_110 dX1_hill_50 rfl (fun x15 => ?_)
      refine r_pI (q := 56) fp_X1_hill_97 dX1_hill_53 rfl (fun σ16 => ?_)
      refine r_aload_n (q := 57) dX1_hill_56 rfl rfl rfl ?_
      refine r_aload_n (q := 58) dX1_hill_57 rfl rfl rfl ?_
      refine r_gI (q := 61) fl_X1_111 dX1_hill_58 rfl (fun x17 => ?_)
      refine r_pI (q := 64) fp_X1_hill_26 dX1_hill_61 rfl (fun σ18 => ?_)
      refine r_aload_n (q := 65) dX1_hill_64 rfl rfl rfl ?_
      refine r_iconst (q := 66) (v := (4 : Int32)) dX1_hill_65 rfl (by decide) ?_
      refine r_ob (fun a21 ha21 => ?_)
      obtain ⟨hea21, hka21⟩ := o_at_eq ha21
      cases hea21
      refine r_callI (q := 69) (c_X1_no G h0 N _ _ _) (cl_V (ci := 0) rfl rfl (lw_V q492 q494 qs3 q167 q495) (hd_X1_no) ⟨Nat.le_of_ble_eq_true rfl, Nat.le_of_ble_eq_true rfl⟩ (List.mem_singleton.mp hka21) rfl rfl rfl (Nat.le_of_ble_eq_true rfl) dX1_hill_66) rfl (fun x19 σ20 => ?_)
      exact r_ireturn rfl rfl dX1_hill_69
    refine r_pR (q := 44) fp_X1_hill_104 rfl dX1_hill_41 rfl (fun σ22 => ?_)
    refine r_goto (q := 70) dX1_hill_44 (by decide) ?_
    refine r_aload_n (q := 71) dX1_hill_70 rfl rfl rfl ?_
    refine r_gR (q := 74) fl_X1_33 rfl dX1_hill_71 rfl (fun x23 => ?_)
    refine r_aload_n (q := 75) dX1_hill_74 rfl rfl rfl ?_
    refine r_gR (q := 78) fl_X1_104 rfl dX1_hill_75 rfl (fun x24 => ?_)
    refine r_ob (fun a27 ha27 => ?_)
    obtain ⟨hea27, hka27⟩ := o_at_eq ha27
    cases hea27
    refine r_callV (q := 81) (c_X4_begin G h0 N _ _ _) (cl_V (ci := 3) rfl rfl (lw_V q1292 q1293 q1294 q173 q1295) (hd_X4_begin) ⟨Nat.le_of_ble_eq_true rfl, Nat.le_of_ble_eq_true rfl⟩ (List.mem_singleton.mp hka27) rfl rfl rfl (Nat.le_of_ble_eq_true rfl) dX1_hill_78) rfl (fun u25 σ26 => ?_)
    refine r_aload_n (q := 82) dX1_hill_81 rfl rfl rfl ?_
    refine r_iconst (q := 83) (v := (0 : Int32)) dX1_hill_82 rfl (by decide) ?_
    refine r_pI (q := 86) fp_X1_hill_118 dX1_hill_83 rfl (fun σ28 => ?_)
    refine r_aload_n (q := 87) dX1_hill_86 rfl rfl rfl ?_
    refine r_iconst (q := 88) (v := (0 : Int32)) dX1_hill_87 rfl (by decide) ?_
    refine r_pI (q := 91) fp_X1_hill_121 dX1_hill_88 rfl (fun σ29 => ?_)
    refine r_aload_n (q := 92) dX1_hill_91 rfl rfl rfl ?_
    refine r_gR (q := 95) fl_X1_104 rfl dX1_hill_92 rfl (fun x30 => ?_)
    refine r_ob (fun a33 ha33 => ?_)
    obtain ⟨hea33, hka33⟩ := o_at_eq ha33
    cases hea33
    refine r_callI (q := 98) (c_X8_cases G h0 N _ _) (cl_V (ci := 7) rfl rfl (lw_V q1296 q1297 q1298 q177 q1299) (hd_X8_cases) ⟨Nat.le_of_ble_eq_true rfl, Nat.le_of_ble_eq_true rfl⟩ (List.mem_singleton.mp hka33) rfl rfl rfl (Nat.le_of_ble_eq_true rfl) dX1_hill_95) rfl (fun x31 σ32 => ?_)
    exact r_ireturn rfl rfl dX1_hill_98
theorem c_X7_refused (G : Gx) (h0 : G0 G) (N : Nat) (a0 : Nat) (i1 : Int32) (σ : Mem) : Ct G mX7_refused rhoI [vR (some a0), vI i1] σ (f_X7_refused N a0 i1 σ) := by
  refine Ct_of h0 (by decide) rfl (Nat.le_of_ble_eq_true rfl) (L0 := [some (vR (some a0)), some (vI i1)]) rfl ?_
  unfold f_X7_refused
  refine r_aload_n (q := 1) dX7_refused_0 rfl rfl rfl ?_
  refine r_iload_n (q := 2) dX7_refused_1 rfl rfl rfl ?_
  refine r_pI (q := 5) fp_X7_refused_69 dX7_refused_2 rfl (fun σ1 => ?_)
  refine r_aload_n (q := 6) dX7_refused_5 rfl rfl rfl ?_
  refine r_iconst (q := 7) (v := (-1 : Int32)) dX7_refused_6 rfl (by decide) ?_
  refine r_pI (q := 10) fp_X7_refused_9 dX7_refused_7 rfl (fun σ2 => ?_)
  refine r_iconst (q := 11) (v := (-1 : Int32)) dX7_refused_10 rfl (by decide) ?_
  exact r_ireturn rfl rfl dX7_refused_11
theorem c_X24_init (G : Gx) (h0 : G0 G) (N : Nat) (a0 : Nat) (σ : Mem) : Ct G mX24_init rhoV [vR (some a0)] σ (f_X24_init N a0 σ) := by
  refine Ct_of h0 (by decide) rfl (Nat.le_of_ble_eq_true rfl) (L0 := [some (vR (some a0))]) rfl ?_
  unfold f_X24_init
  refine r_aload_n (q := 1) dX24_init_0 rfl rfl rfl ?_
  refine r_objInit (q := 4) q2028 q208 q209 (by decide) (by decide) dX24_init_1 rfl ?_
  refine r_aload_n (q := 5) dX24_init_4 rfl rfl rfl ?_
  refine r_bipush (q := 7) (v := (32 : Int32)) dX24_init_5 rfl (by decide) ?_
  refine r_newarray (q := 9) (k0 := 1) (by decide) rfl q344 dX24_init_7 rfl (fun a1 σ2 => ?_)
  refine r_pR (q := 12) fp_X24_init_9 rfl dX24_init_9 rfl (fun σ3 => ?_)
  refine r_aload_n (q := 13) dX24_init_12 rfl rfl rfl ?_
  refine r_bipush (q := 15) (v := (14 : Int32)) dX24_init_13 rfl (by decide) ?_
  refine r_newarray (q := 17) (k0 := 1) (by decide) rfl q344 dX24_init_15 rfl (fun a4 σ5 => ?_)
  refine r_pR (q := 20) fp_X24_init_15 rfl dX24_init_17 rfl (fun σ6 => ?_)
  refine r_aload_n (q := 21) dX24_init_20 rfl rfl rfl ?_
  refine r_bipush (q := 23) (v := (14 : Int32)) dX24_init_21 rfl (by decide) ?_
  refine r_newarray (q := 25) (k0 := 1) (by decide) rfl q344 dX24_init_23 rfl (fun a7 σ8 => ?_)
  refine r_pR (q := 28) fp_X24_init_18 rfl dX24_init_25 rfl (fun σ9 => ?_)
  refine r_aload_n (q := 29) dX24_init_28 rfl rfl rfl ?_
  refine r_iconst (q := 30) (v := (4 : Int32)) dX24_init_29 rfl (by decide) ?_
  refine r_newarray (q := 32) (k0 := 1) (by decide) rfl q344 dX24_init_30 rfl (fun a10 σ11 => ?_)
  refine r_pR (q := 35) fp_X24_init_21 rfl dX24_init_32 rfl (fun σ12 => ?_)
  refine r_aload_n (q := 36) dX24_init_35 rfl rfl rfl ?_
  refine r_sipush (q := 39) (v := (144 : Int32)) dX24_init_36 rfl (by decide) ?_
  refine r_newarray (q := 41) (k0 := 1) (by decide) rfl q344 dX24_init_39 rfl (fun a13 σ14 => ?_)
  refine r_pR (q := 44) fp_X24_init_24 rfl dX24_init_41 rfl (fun σ15 => ?_)
  refine r_aload_n (q := 45) dX24_init_44 rfl rfl rfl ?_
  refine r_bipush (q := 47) (v := (6 : Int32)) dX24_init_45 rfl (by decide) ?_
  refine r_newarray (q := 49) (k0 := 1) (by decide) rfl q344 dX24_init_47 rfl (fun a16 σ17 => ?_)
  refine r_pR (q := 52) fp_X24_init_27 rfl dX24_init_49 rfl (fun σ18 => ?_)
  refine r_aload_n (q := 53) dX24_init_52 rfl rfl rfl ?_
  refine r_bipush (q := 55) (v := (6 : Int32)) dX24_init_53 rfl (by decide) ?_
  refine r_newarray (q := 57) (k0 := 1) (by decide) rfl q344 dX24_init_55 rfl (fun a19 σ20 => ?_)
  refine r_pR (q := 60) fp_X24_init_30 rfl dX24_init_57 rfl (fun σ21 => ?_)
  refine r_aload_n (q := 61) dX24_init_60 rfl rfl rfl ?_
  refine r_bipush (q := 63) (v := (6 : Int32)) dX24_init_61 rfl (by decide) ?_
  refine r_newarray (q := 65) (k0 := 1) (by decide) rfl q344 dX24_init_63 rfl (fun a22 σ23 => ?_)
  refine r_pR (q := 68) fp_X24_init_33 rfl dX24_init_65 rfl (fun σ24 => ?_)
  refine r_aload_n (q := 69) dX24_init_68 rfl rfl rfl ?_
  refine r_bipush (q := 71) (v := (24 : Int32)) dX24_init_69 rfl (by decide) ?_
  refine r_newarray (q := 73) (k0 := 1) (by decide) rfl q344 dX24_init_71 rfl (fun a25 σ26 => ?_)
  refine r_pR (q := 76) fp_X24_init_36 rfl dX24_init_73 rfl (fun σ27 => ?_)
  refine r_aload_n (q := 77) dX24_init_76 rfl rfl rfl ?_
  refine r_bipush (q := 79) (v := (6 : Int32)) dX24_init_77 rfl (by decide) ?_
  refine r_newarray (q := 81) (k0 := 1) (by decide) rfl q344 dX24_init_79 rfl (fun a28 σ29 => ?_)
  refine r_pR (q := 84) fp_X24_init_39 rfl dX24_init_81 rfl (fun σ30 => ?_)
  refine r_aload_n (q := 85) dX24_init_84 rfl rfl rfl ?_
  refine r_bipush (q := 87) (v := (6 : Int32)) dX24_init_85 rfl (by decide) ?_
  refine r_newarray (q := 89) (k0 := 1) (by decide) rfl q344 dX24_init_87 rfl (fun a31 σ32 => ?_)
  refine r_pR (q := 92) fp_X24_init_42 rfl dX24_init_89 rfl (fun σ33 => ?_)
  refine r_aload_n (q := 93) dX24_init_92 rfl rfl rfl ?_
  refine r_bipush (q := 95) (v := (6 : Int32)) dX24_init_93 rfl (by decide) ?_
  refine r_newarray (q := 97) (k0 := 1) (by decide) rfl q344 dX24_init_95 rfl (fun a34 σ35 => ?_)
  refine r_pR (q := 100) fp_X24_init_45 rfl dX24_init_97 rfl (fun σ36 => ?_)
  refine r_aload_n (q := 101) dX24_init_100 rfl rfl rfl ?_
  refine r_bipush (q := 103) (v := (10 : Int32)) dX24_init_101 rfl (by decide) ?_
  refine r_newarray (q := 105) (k0 := 1) (by decide) rfl q344 dX24_init_103 rfl (fun a37 σ38 => ?_)
  refine r_pR (q := 108) fp_X24_init_48 rfl dX24_init_105 rfl (fun σ39 => ?_)
  refine r_aload_n (q := 109) dX24_init_108 rfl rfl rfl ?_
  refine r_bipush (q := 111) (v := (10 : Int32)) dX24_init_109 rfl (by decide) ?_
  refine r_newarray (q := 113) (k0 := 1) (by decide) rfl q344 dX24_init_111 rfl (fun a40 σ41 => ?_)
  refine r_pR (q := 116) fp_X24_init_51 rfl dX24_init_113 rfl (fun σ42 => ?_)
  refine r_aload_n (q := 117) dX24_init_116 rfl rfl rfl ?_
  refine r_bipush (q := 119) (v := (10 : Int32)) dX24_init_117 rfl (by decide) ?_
  refine r_newarray (q := 121) (k0 := 1) (by decide) rfl q344 dX24_init_119 rfl (fun a43 σ44 => ?_)
  refine r_pR (q := 124) fp_X24_init_54 rfl dX24_init_121 rfl (fun σ45 => ?_)
  refine r_aload_n (q := 125) dX24_init_124 rfl rfl rfl ?_
  refine r_bipush (q := 127) (v := (10 : Int32)) dX24_init_125 rfl (by decide) ?_
  refine r_newarray (q := 129) (k0 := 1) (by decide) rfl q344 dX24_init_127 rfl (fun a46 σ47 => ?_)
  refine r_pR (q := 132) fp_X24_init_57 rfl dX24_init_129 rfl (fun σ48 => ?_)
  refine r_aload_n (q := 133) dX24_init_132 rfl rfl rfl ?_
  refine r_bipush (q := 135) (v := (8 : Int32)) dX24_init_133 rfl (by decide) ?_
  refine r_newarray (q := 137) (k0 := 1) (by decide) rfl q344 dX24_init_135 rfl (fun a49 σ50 => ?_)
  refine r_pR (q := 140) fp_X24_init_60 rfl dX24_init_137 rfl (fun σ51 => ?_)
  refine r_aload_n (q := 141) dX24_init_140 rfl rfl rfl ?_
  refine r_bipush (q := 143) (v := (8 : Int32)) dX24_init_141 rfl (by decide) ?_
  refine r_newarray (q := 145) (k0 := 1) (by decide) rfl q344 dX24_init_143 rfl (fun a52 σ53 => ?_)
  refine r_pR (q := 148) fp_X24_init_63 rfl dX24_init_145 rfl (fun σ54 => ?_)
  refine r_aload_n (q := 149) dX24_init_148 rfl rfl rfl ?_
  refine r_bipush (q := 151) (v := (8 : Int32)) dX24_init_149 rfl (by decide) ?_
  refine r_newarray (q := 153) (k0 := 1) (by decide) rfl q344 dX24_init_151 rfl (fun a55 σ56 => ?_)
  refine r_pR (q := 156) fp_X24_init_66 rfl dX24_init_153 rfl (fun σ57 => ?_)
  refine r_aload_n (q := 157) dX24_init_156 rfl rfl rfl ?_
  refine r_bipush (q := 159) (v := (6 : Int32)) dX24_init_157 rfl (by decide) ?_
  refine r_newarray (q := 161) (k0 := 1) (by decide) rfl q344 dX24_init_159 rfl (fun a58 σ59 => ?_)
  refine r_pR (q := 164) fp_X24_init_69 rfl dX24_init_161 rfl (fun σ60 => ?_)
  refine r_aload_n (q := 165) dX24_init_164 rfl rfl rfl ?_
  refine r_bipush (q := 167) (v := (6 : Int32)) dX24_init_165 rfl (by decide) ?_
  refine r_newarray (q := 169) (k0 := 1) (by decide) rfl q344 dX24_init_167 rfl (fun a61 σ62 => ?_)
  refine r_pR (q := 172) fp_X24_init_72 rfl dX24_init_169 rfl (fun σ63 => ?_)
  refine r_aload_n (q := 173) dX24_init_172 rfl rfl rfl ?_
  refine r_iconst (q := 174) (v := (4 : Int32)) dX24_init_173 rfl (by decide) ?_
  refine r_newarray (q := 176) (k0 := 1) (by decide) rfl q344 dX24_init_174 rfl (fun a64 σ65 => ?_)
  refine r_pR (q := 179) fp_X24_init_75 rfl dX24_init_176 rfl (fun σ66 => ?_)
  refine r_aload_n (q := 180) dX24_init_179 rfl rfl rfl ?_
  refine r_bipush (q := 182) (v := (40 : Int32)) dX24_init_180 rfl (by decide) ?_
  refine r_newarray (q := 184) (k0 := 4) (by decide) rfl q2181 dX24_init_182 rfl (fun a67 σ68 => ?_)
  refine r_pR (q := 187) fp_X24_init_78 rfl dX24_init_184 rfl (fun σ69 => ?_)
  refine r_aload_n (q := 188) dX24_init_187 rfl rfl rfl ?_
  refine r_bipush (q := 190) (v := (40 : Int32)) dX24_init_188 rfl (by decide) ?_
  refine r_newarray (q := 192) (k0 := 1) (by decide) rfl q344 dX24_init_190 rfl (fun a70 σ71 => ?_)
  refine r_pR (q := 195) fp_X24_init_82 rfl dX24_init_192 rfl (fun σ72 => ?_)
  refine r_aload_n (q := 196) dX24_init_195 rfl rfl rfl ?_
  refine r_bipush (q := 198) (v := (40 : Int32)) dX24_init_196 rfl (by decide) ?_
  refine r_newarray (q := 200) (k0 := 1) (by decide) rfl q344 dX24_init_198 rfl (fun a73 σ74 => ?_)
  refine r_pR (q := 203) fp_X24_init_85 rfl dX24_init_200 rfl (fun σ75 => ?_)
  exact r_return rfl dX24_init_203
theorem c_X7_byteAt (G : Gx) (h0 : G0 G) (N : Nat) (a0 : Nat) (i1 : Int32) (σ : Mem) : Ct G mX7_byteAt rhoI [vR (some a0), vI i1] σ (f_X7_byteAt N a0 i1 σ) := by
  refine Ct_of h0 (by decide) rfl (Nat.le_of_ble_eq_true rfl) (L0 := [some (vR (some a0)), some (vI i1)]) rfl ?_
  unfold f_X7_byteAt
  refine r_iload_n (q := 1) dX7_byteAt_0 rfl rfl rfl ?_
  refine r_aload_n (q := 2) dX7_byteAt_1 rfl rfl rfl ?_
  refine r_gI (q := 5) fl_X7_79 dX7_byteAt_2 rfl (fun x1 => ?_)
  refine r_icmp_ge (q := 8) (t := 21) dX7_byteAt_5 rfl (by decide) (fun _ => ?_) (fun _ => ?_)
  · refine r_iconst (q := 22) (v := (-1 : Int32)) dX7_byteAt_21 rfl (by decide) ?_
    exact r_ireturn rfl rfl dX7_byteAt_22
  · refine r_aload_n (q := 9) dX7_byteAt_8 rfl rfl rfl ?_
    refine r_gR (q := 12) fl_X7_13 rfl dX7_byteAt_9 rfl (fun x2 => ?_)
    refine r_iload_n (q := 13) dX7_byteAt_12 rfl rfl rfl ?_
    refine r_baload (q := 14) dX7_byteAt_13 rfl (fun x3 => ?_)
    refine r_sipush (q := 17) (v := (255 : Int32)) dX7_byteAt_14 rfl (by decide) ?_
    refine r_iand (q := 18) dX7_byteAt_17 rfl ?_
    refine r_goto (q := 22) dX7_byteAt_18 (by decide) ?_
    exact r_ireturn rfl rfl dX7_byteAt_22
theorem w_X7_isLetter_b16 (G : Gx) (h0 : G0 G) (N : Nat)    (σ : Mem) : Runs G mX7_isLetter rhoI σ 16 [none] [] (f_X7_isLetter_b16 N   σ) := by
  unfold f_X7_isLetter_b16
  refine r_iconst (q := 17) (v := (0 : Int32)) dX7_isLetter_16 rfl (by decide) ?_
  exact r_ireturnN rfl dX7_isLetter_17
theorem c_X7_isLetter (G : Gx) (h0 : G0 G) (N : Nat) (i0 : Int32) (σ : Mem) : Ct G mX7_isLetter rhoI [vI i0] σ (f_X7_isLetter N i0 σ) := by
  refine Ct_of h0 (by decide) rfl (Nat.le_of_ble_eq_true rfl) (L0 := [some (vI i0)]) rfl ?_
  unfold f_X7_isLetter
  refine r_iload_n (q := 1) dX7_isLetter_0 rfl rfl rfl ?_
  refine r_bipush (q := 3) (v := (97 : Int32)) dX7_isLetter_1 rfl (by decide) ?_
  refine r_icmp_lt (q := 6) (t := 16) dX7_isLetter_3 rfl (by decide) (fun _ => ?_) (fun _ => ?_)
  · exact r_le (w_X7_isLetter_b16 G h0 N  _) (Nat.le_refl _) trivial
  · refine r_iload_n (q := 7) dX7_isLetter_6 rfl rfl rfl ?_
    refine r_bipush (q := 9) (v := (122 : Int32)) dX7_isLetter_7 rfl (by decide) ?_
    refine r_icmp_gt (q := 12) (t := 16) dX7_isLetter_9 rfl (by decide) (fun _ => ?_) (fun _ => ?_)
    · exact r_le (w_X7_isLetter_b16 G h0 N  _) (Nat.le_refl _) trivial
    · refine r_iconst (q := 13) (v := (1 : Int32)) dX7_isLetter_12 rfl (by decide) ?_
      refine r_goto (q := 17) dX7_isLetter_13 (by decide) ?_
      exact r_ireturnN rfl dX7_isLetter_17
theorem w_X7_isDigit_b16 (G : Gx) (h0 : G0 G) (N : Nat)    (σ : Mem) : Runs G mX7_isDigit rhoI σ 16 [none] [] (f_X7_isDigit_b16 N   σ) := by
  unfold f_X7_isDigit_b16
  refine r_iconst (q := 17) (v := (0 : Int32)) dX7_isDigit_16 rfl (by decide) ?_
  exact r_ireturnN rfl dX7_isDigit_17
theorem c_X7_isDigit (G : Gx) (h0 : G0 G) (N : Nat) (i0 : Int32) (σ : Mem) : Ct G mX7_isDigit rhoI [vI i0] σ (f_X7_isDigit N i0 σ) := by
  refine Ct_of h0 (by decide) rfl (Nat.le_of_ble_eq_true rfl) (L0 := [some (vI i0)]) rfl ?_
  unfold f_X7_isDigit
  refine r_iload_n (q := 1) dX7_isDigit_0 rfl rfl rfl ?_
  refine r_bipush (q := 3) (v := (48 : Int32)) dX7_isDigit_1 rfl (by decide) ?_
  refine r_icmp_lt (q := 6) (t := 16) dX7_isDigit_3 rfl (by decide) (fun _ => ?_) (fun _ => ?_)
  · exact r_le (w_X7_isDigit_b16 G h0 N  _) (Nat.le_refl _) trivial
  · refine r_iload_n (q := 7) dX7_isDigit_6 rfl rfl rfl ?_
    refine r_bipush (q := 9) (v := (57 : Int32)) dX7_isDigit_7 rfl (by decide) ?_
    refine r_icmp_gt (q := 12) (t := 16) dX7_isDigit_9 rfl (by decide) (fun _ => ?_) (fun _ => ?_)
    · exact r_le (w_X7_isDigit_b16 G h0 N  _) (Nat.le_refl _) trivial
    · refine r_iconst (q := 13) (v := (1 : Int32)) dX7_isDigit_12 rfl (by decide) ?_
      refine r_goto (q := 17) dX7_isDigit_13 (by decide) ?_
      exact r_ireturnN rfl dX7_isDigit_17
theorem w_X7_goesOn_b278 (G : Gx) (h0 : G0 G) (N : Nat)   (a0 : Nat) (l1 : Int32) (σ : Mem) : Runs G mX7_goesOn rhoV σ 278 [some (vR (some a0)), some (vI l1), none] [] (f_X7_goesOn_b278 N  a0 l1 σ) := by
  unfold f_X7_goesOn_b278
  refine r_aload_n (q := 279) dX7_goesOn_278 rfl rfl rfl ?_
  refine r_iconst (q := 280) (v := (4 : Int32)) dX7_goesOn_279 rfl (by decide) ?_
  refine r_pI (q := 283) fp_X7_goesOn_94 dX7_goesOn_280 rfl (fun σ1 => ?_)
  refine r_aload_n (q := 284) dX7_goesOn_283 rfl rfl rfl ?_
  refine r_iload_n (q := 285) dX7_goesOn_284 rfl rfl rfl ?_
  refine r_pI (q := 288) fp_X7_goesOn_106 dX7_goesOn_285 rfl (fun σ2 => ?_)
  refine r_aload_n (q := 289) dX7_goesOn_288 rfl rfl rfl ?_
  refine r_dup (q := 290) dX7_goesOn_289 rfl rfl ?_
  refine r_gI (q := 293) fl_X7_97 dX7_goesOn_290 rfl (fun x3 => ?_)
  refine r_iconst (q := 294) (v := (1 : Int32)) dX7_goesOn_293 rfl (by decide) ?_
  refine r_iadd (q := 295) dX7_goesOn_294 rfl ?_
  refine r_pI (q := 298) fp_X7_goesOn_97 dX7_goesOn_295 rfl (fun σ4 => ?_)
  exact r_return rfl dX7_goesOn_298
theorem w_X7_goesOn_b237 (G : Gx) (h0 : G0 G) (N : Nat) (K195 : Nat → Int32 → Mem → Option (Unit × Mem)) (hK195 : ∀ (a0 : Nat) (l2 : Int32) (σ : Mem), Runs G mX7_goesOn rhoV σ 195 [some (vR (some a0)), none, some (vI l2)] [] (K195 a0 l2 σ)) (a0 : Nat) (l2 : Int32) (σ : Mem) : Runs G mX7_goesOn rhoV σ 237 [some (vR (some a0)), none, some (vI l2)] [] (f_X7_goesOn_b237 N K195 a0 l2 σ) := by
  unfold f_X7_goesOn_b237
  refine r_iinc (q := 240) (v := (1 : Int32)) dX7_goesOn_237 rfl rfl (by decide) (Nat.le_of_ble_eq_true rfl) rfl ?_
  refine r_aload_n (q := 241) dX7_goesOn_240 rfl rfl rfl ?_
  refine r_dup (q := 242) dX7_goesOn_241 rfl rfl ?_
  refine r_gI (q := 245) fl_X7_97 dX7_goesOn_242 rfl (fun x1 => ?_)
  refine r_iconst (q := 246) (v := (1 : Int32)) dX7_goesOn_245 rfl (by decide) ?_
  refine r_iadd (q := 247) dX7_goesOn_246 rfl ?_
  refine r_pI (q := 250) fp_X7_goesOn_97 dX7_goesOn_247 rfl (fun σ2 => ?_)
  refine r_goto (q := 195) dX7_goesOn_250 (by decide) ?_
  exact r_le (hK195 _ _ _) (Nat.le_refl _) (And.intro rfl (And.intro rfl trivial))
theorem w_X7_goesOn_b195B (G : Gx) (h0 : G0 G) (N : Nat)   (K195 : Nat → Int32 → Mem → Option (Unit × Mem)) (hK195 : ∀ (a0 : Nat) (l2 : Int32) (σ : Mem), Runs G mX7_goesOn rhoV σ 195 [some (vR (some a0)), none, some (vI l2)] [] (K195 a0 l2 σ)) (a0 : Nat) (l2 : Int32) (σ : Mem) : Runs G mX7_goesOn rhoV σ 195 [some (vR (some a0)), none, some (vI l2)] [] (f_X7_goesOn_b195B N  K195 a0 l2 σ) := by
  unfold f_X7_goesOn_b195B
  refine r_aload_n (q := 196) dX7_goesOn_195 rfl rfl rfl ?_
  refine r_aload_n (q := 197) dX7_goesOn_196 rfl rfl rfl ?_
  refine r_gI (q := 200) fl_X7_97 dX7_goesOn_197 rfl (fun x1 => ?_)
  refine r_ob (fun a4 ha4 => ?_)
  obtain ⟨hea4, hka4⟩ := o_at_eq ha4
  cases hea4
  refine r_callI (q := 203) (c_X7_byteAt G h0 N _ _ _) (cl_V (ci := 6) rfl rfl (lw_V q2186 q2188 qs85 q176 q2189) (hd_X7_byteAt) ⟨Nat.le_of_ble_eq_true rfl, Nat.le_of_ble_eq_true rfl⟩ (List.mem_singleton.mp hka4) rfl rfl rfl (Nat.le_of_ble_eq_true rfl) dX7_goesOn_200) rfl (fun x2 σ3 => ?_)
  refine r_callI (q := 206) (c_X7_isDigit G h0 N _ _) (cl_S rfl rfl (lw_S q2194 q2195 q176 q2196) (hd_X7_isDigit) ⟨Nat.le_of_ble_eq_true rfl, Nat.le_of_ble_eq_true rfl⟩ rfl (Nat.le_of_ble_eq_true rfl) dX7_goesOn_203) rfl (fun x5 σ6 => ?_)
  refine r_if_eq (q := 209) (t := 253) dX7_goesOn_206 rfl (by decide) (fun _ => ?_) (fun _ => ?_)
  · refine r_iload_n (q := 254) dX7_goesOn_253 rfl rfl rfl ?_
    refine r_iconst (q := 255) (v := (3 : Int32)) dX7_goesOn_254 rfl (by decide) ?_
    refine r_icmp_gt (q := 258) (t := 298) dX7_goesOn_255 rfl (by decide) (fun _ => ?_) (fun _ => ?_)
    · exact r_return rfl dX7_goesOn_298
    · refine r_aload_n (q := 259) dX7_goesOn_258 rfl rfl rfl ?_
      refine r_iconst (q := 260) (v := (3 : Int32)) dX7_goesOn_259 rfl (by decide) ?_
      refine r_pI (q := 263) fp_X7_goesOn_94 dX7_goesOn_260 rfl (fun σ7 => ?_)
      refine r_goto (q := 298) dX7_goesOn_263 (by decide) ?_
      exact r_return rfl dX7_goesOn_298
  · refine r_iload_n (q := 210) dX7_goesOn_209 rfl rfl rfl ?_
    refine r_iconst (q := 211) (v := (3 : Int32)) dX7_goesOn_210 rfl (by decide) ?_
    refine r_icmp_ge (q := 214) (t := 237) dX7_goesOn_211 rfl (by decide) (fun _ => ?_) (fun _ => ?_)
    · exact r_le (w_X7_goesOn_b237 G h0 N K195 hK195 _ _ _) (Nat.le_refl _) (And.intro rfl (And.intro rfl trivial))
    · refine r_aload_n (q := 215) dX7_goesOn_214 rfl rfl rfl ?_
      refine r_bipush (q := 217) (v := (10 : Int32)) dX7_goesOn_215 rfl (by decide) ?_
      refine r_aload_n (q := 218) dX7_goesOn_217 rfl rfl rfl ?_
      refine r_gI (q := 221) fl_X7_123 dX7_goesOn_218 rfl (fun x8 => ?_)
      refine r_imul (q := 222) dX7_goesOn_221 rfl ?_
      refine r_aload_n (q := 223) dX7_goesOn_222 rfl rfl rfl ?_
      refine r_aload_n (q := 224) dX7_goesOn_223 rfl rfl rfl ?_
      refine r_gI (q := 227) fl_X7_97 dX7_goesOn_224 rfl (fun x9 => ?_)
      refine r_ob (fun a12 ha12 => ?_)
      obtain ⟨hea12, hka12⟩ := o_at_eq ha12
      cases hea12
      refine r_callI (q := 230) (c_X7_byteAt G h0 N _ _ _) (cl_V (ci := 6) rfl rfl (lw_V q2186 q2188 qs85 q176 q2189) (hd_X7_byteAt) ⟨Nat.le_of_ble_eq_true rfl, Nat.le_of_ble_eq_true rfl⟩ (List.mem_singleton.mp hka12) rfl rfl rfl (Nat.le_of_ble_eq_true rfl) dX7_goesOn_227) rfl (fun x10 σ11 => ?_)
      refine r_iadd (q := 231) dX7_goesOn_230 rfl ?_
      refine r_bipush (q := 233) (v := (48 : Int32)) dX7_goesOn_231 rfl (by decide) ?_
      refine r_isub (q := 234) dX7_goesOn_233 rfl ?_
      refine r_pI (q := 237) fp_X7_goesOn_123 dX7_goesOn_234 rfl (fun σ13 => ?_)
      exact r_le (w_X7_goesOn_b237 G h0 N K195 hK195 _ _ _) (Nat.le_refl _) (And.intro rfl (And.intro rfl trivial))
theorem w_X7_goesOn_b195 (G : Gx) (h0 : G0 G) (N : Nat)   : ∀ (z : Nat) (a0 : Nat) (l2 : Int32) (σ : Mem), Runs G mX7_goesOn rhoV σ 195 [some (vR (some a0)), none, some (vI l2)] [] (f_X7_goesOn_b195 N  z a0 l2 σ) := by
  intro z
  induction z with
  | zero => exact fun _ _ _ => r_none
  | succ z ih => exact fun a0 l2 σ => w_X7_goesOn_b195B G h0 N   _ ih a0 l2 σ
theorem w_X7_goesOn_b148 (G : Gx) (h0 : G0 G) (N : Nat) (K89 : Nat → Int32 → Mem → Option (Unit × Mem)) (hK89 : ∀ (a0 : Nat) (l2 : Int32) (σ : Mem), Runs G mX7_goesOn rhoV σ 89 [some (vR (some a0)), none, some (vI l2)] [] (K89 a0 l2 σ)) (a0 : Nat) (l2 : Int32) (σ : Mem) : Runs G mX7_goesOn rhoV σ 148 [some (vR (some a0)), none, some (vI l2)] [] (f_X7_goesOn_b148 N K89 a0 l2 σ) := by
  unfold f_X7_goesOn_b148
  refine r_iinc (q := 151) (v := (1 : Int32)) dX7_goesOn_148 rfl rfl (by decide) (Nat.le_of_ble_eq_true rfl) rfl ?_
  refine r_aload_n (q := 152) dX7_goesOn_151 rfl rfl rfl ?_
  refine r_dup (q := 153) dX7_goesOn_152 rfl rfl ?_
  refine r_gI (q := 156) fl_X7_97 dX7_goesOn_153 rfl (fun x1 => ?_)
  refine r_iconst (q := 157) (v := (1 : Int32)) dX7_goesOn_156 rfl (by decide) ?_
  refine r_iadd (q := 158) dX7_goesOn_157 rfl ?_
  refine r_pI (q := 161) fp_X7_goesOn_97 dX7_goesOn_158 rfl (fun σ2 => ?_)
  refine r_goto (q := 89) dX7_goesOn_161 (by decide) ?_
  exact r_le (hK89 _ _ _) (Nat.le_refl _) (And.intro rfl (And.intro rfl trivial))
theorem w_X7_goesOn_b89B (G : Gx) (h0 : G0 G) (N : Nat)   (K89 : Nat → Int32 → Mem → Option (Unit × Mem)) (hK89 : ∀ (a0 : Nat) (l2 : Int32) (σ : Mem), Runs G mX7_goesOn rhoV σ 89 [some (vR (some a0)), none, some (vI l2)] [] (K89 a0 l2 σ)) (a0 : Nat) (l2 : Int32) (σ : Mem) : Runs G mX7_goesOn rhoV σ 89 [some (vR (some a0)), none, some (vI l2)] [] (f_X7_goesOn_b89B N  K89 a0 l2 σ) := by
  unfold f_X7_goesOn_b89B
  refine r_aload_n (q := 90) dX7_goesOn_89 rfl rfl rfl ?_
  refine r_aload_n (q := 91) dX7_goesOn_90 rfl rfl rfl ?_
  refine r_gI (q := 94) fl_X7_97 dX7_goesOn_91 rfl (fun x1 => ?_)
  refine r_ob (fun a4 ha4 => ?_)
  obtain ⟨hea4, hka4⟩ := o_at_eq ha4
  cases hea4
  refine r_callI (q := 97) (c_X7_byteAt G h0 N _ _ _) (cl_V (ci := 6) rfl rfl (lw_V q2186 q2188 qs85 q176 q2189) (hd_X7_byteAt) ⟨Nat.le_of_ble_eq_true rfl, Nat.le_of_ble_eq_true rfl⟩ (List.mem_singleton.mp hka4) rfl rfl rfl (Nat.le_of_ble_eq_true rfl) dX7_goesOn_94) rfl (fun x2 σ3 => ?_)
  refine r_callI (q := 100) (c_X7_isLetter G h0 N _ _) (cl_S rfl rfl (lw_S q2190 q2191 q176 q2192) (hd_X7_isLetter) ⟨Nat.le_of_ble_eq_true rfl, Nat.le_of_ble_eq_true rfl⟩ rfl (Nat.le_of_ble_eq_true rfl) dX7_goesOn_97) rfl (fun x5 σ6 => ?_)
  refine r_if_eq (q := 103) (t := 164) dX7_goesOn_100 rfl (by decide) (fun _ => ?_) (fun _ => ?_)
  · refine r_aload_n (q := 165) dX7_goesOn_164 rfl rfl rfl ?_
    refine r_iload_n (q := 166) dX7_goesOn_165 rfl rfl rfl ?_
    refine r_pI (q := 169) fp_X7_goesOn_117 dX7_goesOn_166 rfl (fun σ7 => ?_)
    refine r_iload_n (q := 170) dX7_goesOn_169 rfl rfl rfl ?_
    refine r_bipush (q := 172) (v := (8 : Int32)) dX7_goesOn_170 rfl (by decide) ?_
    refine r_icmp_gt (q := 175) (t := 298) dX7_goesOn_172 rfl (by decide) (fun _ => ?_) (fun _ => ?_)
    · exact r_return rfl dX7_goesOn_298
    · refine r_aload_n (q := 176) dX7_goesOn_175 rfl rfl rfl ?_
      refine r_iconst (q := 177) (v := (2 : Int32)) dX7_goesOn_176 rfl (by decide) ?_
      refine r_pI (q := 180) fp_X7_goesOn_94 dX7_goesOn_177 rfl (fun σ8 => ?_)
      refine r_goto (q := 298) dX7_goesOn_180 (by decide) ?_
      exact r_return rfl dX7_goesOn_298
  · refine r_iload_n (q := 104) dX7_goesOn_103 rfl rfl rfl ?_
    refine r_bipush (q := 106) (v := (8 : Int32)) dX7_goesOn_104 rfl (by decide) ?_
    refine r_icmp_ge (q := 109) (t := 148) dX7_goesOn_106 rfl (by decide) (fun _ => ?_) (fun _ => ?_)
    · exact r_le (w_X7_goesOn_b148 G h0 N K89 hK89 _ _ _) (Nat.le_refl _) (And.intro rfl (And.intro rfl trivial))
    · refine r_aload_n (q := 110) dX7_goesOn_109 rfl rfl rfl ?_
      refine r_gR (q := 113) fl_X7_17 rfl dX7_goesOn_110 rfl (fun x9 => ?_)
      refine r_iload_n (q := 114) dX7_goesOn_113 rfl rfl rfl ?_
      refine r_aload_n (q := 115) dX7_goesOn_114 rfl rfl rfl ?_
      refine r_aload_n (q := 116) dX7_goesOn_115 rfl rfl rfl ?_
      refine r_gI (q := 119) fl_X7_97 dX7_goesOn_116 rfl (fun x10 => ?_)
      refine r_ob (fun a13 ha13 => ?_)
      obtain ⟨hea13, hka13⟩ := o_at_eq ha13
      cases hea13
      refine r_callI (q := 122) (c_X7_byteAt G h0 N _ _ _) (cl_V (ci := 6) rfl rfl (lw_V q2186 q2188 qs85 q176 q2189) (hd_X7_byteAt) ⟨Nat.le_of_ble_eq_true rfl, Nat.le_of_ble_eq_true rfl⟩ (List.mem_singleton.mp hka13) rfl rfl rfl (Nat.le_of_ble_eq_true rfl) dX7_goesOn_119) rfl (fun x11 σ12 => ?_)
      refine r_iastore (q := 123) dX7_goesOn_122 rfl (fun σ14 => ?_)
      refine r_aload_n (q := 124) dX7_goesOn_123 rfl rfl rfl ?_
      refine r_ldc2 (q := 127) (v := (32 : Int64)) dX7_goesOn_124 rfl q2193 ?_
      refine r_aload_n (q := 128) dX7_goesOn_127 rfl rfl rfl ?_
      refine r_gJ (q := 131) fl_X7_113 dX7_goesOn_128 rfl (fun x15 => ?_)
      refine r_lmul (q := 132) dX7_goesOn_131 rfl ?_
      refine r_aload_n (q := 133) dX7_goesOn_132 rfl rfl rfl ?_
      refine r_gR (q := 136) fl_X7_17 rfl dX7_goesOn_133 rfl (fun x16 => ?_)
      refine r_iload_n (q := 137) dX7_goesOn_136 rfl rfl rfl ?_
      refine r_iaload (q := 138) dX7_goesOn_137 rfl (fun x17 => ?_)
      refine r_bipush (q := 140) (v := (97 : Int32)) dX7_goesOn_138 rfl (by decide) ?_
      refine r_isub (q := 141) dX7_goesOn_140 rfl ?_
      refine r_iconst (q := 142) (v := (1 : Int32)) dX7_goesOn_141 rfl (by decide) ?_
      refine r_iadd (q := 143) dX7_goesOn_142 rfl ?_
      refine r_i2l (q := 144) dX7_goesOn_143 rfl ?_
      refine r_ladd (q := 145) dX7_goesOn_144 rfl ?_
      refine r_pJ (q := 148) fp_X7_goesOn_113 dX7_goesOn_145 rfl (fun σ18 => ?_)
      exact r_le (w_X7_goesOn_b148 G h0 N K89 hK89 _ _ _) (Nat.le_refl _) (And.intro rfl (And.intro rfl trivial))
theorem w_X7_goesOn_b89 (G : Gx) (h0 : G0 G) (N : Nat)   : ∀ (z : Nat) (a0 : Nat) (l2 : Int32) (σ : Mem), Runs G mX7_goesOn rhoV σ 89 [some (vR (some a0)), none, some (vI l2)] [] (f_X7_goesOn_b89 N  z a0 l2 σ) := by
  intro z
  induction z with
  | zero => exact fun _ _ _ => r_none
  | succ z ih => exact fun a0 l2 σ => w_X7_goesOn_b89B G h0 N   _ ih a0 l2 σ
theorem w_X7_goesOn_b9B (G : Gx) (h0 : G0 G) (N : Nat)   (K9 : Nat → Mem → Option (Unit × Mem)) (hK9 : ∀ (a0 : Nat) (σ : Mem), Runs G mX7_goesOn rhoV σ 9 [some (vR (some a0)), none, none] [] (K9 a0 σ)) (a0 : Nat) (σ : Mem) : Runs G mX7_goesOn rhoV σ 9 [some (vR (some a0)), none, none] [] (f_X7_goesOn_b9B N  K9 a0 σ) := by
  unfold f_X7_goesOn_b9B
  refine r_aload_n (q := 10) dX7_goesOn_9 rfl rfl rfl ?_
  refine r_aload_n (q := 11) dX7_goesOn_10 rfl rfl rfl ?_
  refine r_gI (q := 14) fl_X7_97 dX7_goesOn_11 rfl (fun x1 => ?_)
  refine r_ob (fun a4 ha4 => ?_)
  obtain ⟨hea4, hka4⟩ := o_at_eq ha4
  cases hea4
  refine r_callI (q := 17) (c_X7_byteAt G h0 N _ _ _) (cl_V (ci := 6) rfl rfl (lw_V q2186 q2188 qs85 q176 q2189) (hd_X7_byteAt) ⟨Nat.le_of_ble_eq_true rfl, Nat.le_of_ble_eq_true rfl⟩ (List.mem_singleton.mp hka4) rfl rfl rfl (Nat.le_of_ble_eq_true rfl) dX7_goesOn_14) rfl (fun x2 σ3 => ?_)
  refine r_bipush (q := 19) (v := (32 : Int32)) dX7_goesOn_17 rfl (by decide) ?_
  refine r_icmp_ne (q := 22) (t := 35) dX7_goesOn_19 rfl (by decide) (fun _ => ?_) (fun _ => ?_)
  · refine r_aload_n (q := 23) dX7_goesOn_22 rfl rfl rfl ?_
    refine r_dup (q := 24) dX7_goesOn_23 rfl rfl ?_
    refine r_gI (q := 27) fl_X7_97 dX7_goesOn_24 rfl (fun x20 => ?_)
    refine r_iconst (q := 28) (v := (1 : Int32)) dX7_goesOn_27 rfl (by decide) ?_
    refine r_iadd (q := 29) dX7_goesOn_28 rfl ?_
    refine r_pI (q := 32) fp_X7_goesOn_97 dX7_goesOn_29 rfl (fun σ21 => ?_)
    refine r_goto (q := 9) dX7_goesOn_32 (by decide) ?_
    exact r_le (hK9 _ _) (Nat.le_refl _) (And.intro rfl trivial)
  · refine r_aload_n (q := 36) dX7_goesOn_35 rfl rfl rfl ?_
    refine r_aload_n (q := 37) dX7_goesOn_36 rfl rfl rfl ?_
    refine r_gI (q := 40) fl_X7_97 dX7_goesOn_37 rfl (fun x5 => ?_)
    refine r_pI (q := 43) fp_X7_goesOn_103 dX7_goesOn_40 rfl (fun σ6 => ?_)
    refine r_aload_n (q := 44) dX7_goesOn_43 rfl rfl rfl ?_
    refine r_iconst (q := 45) (v := (0 : Int32)) dX7_goesOn_44 rfl (by decide) ?_
    refine r_pI (q := 48) fp_X7_goesOn_94 dX7_goesOn_45 rfl (fun σ7 => ?_)
    refine r_aload_n (q := 49) dX7_goesOn_48 rfl rfl rfl ?_
    refine r_iconst (q := 50) (v := (0 : Int32)) dX7_goesOn_49 rfl (by decide) ?_
    refine r_pI (q := 53) fp_X7_goesOn_106 dX7_goesOn_50 rfl (fun σ8 => ?_)
    refine r_aload_n (q := 54) dX7_goesOn_53 rfl rfl rfl ?_
    refine r_aload_n (q := 55) dX7_goesOn_54 rfl rfl rfl ?_
    refine r_gI (q := 58) fl_X7_97 dX7_goesOn_55 rfl (fun x9 => ?_)
    refine r_ob (fun a12 ha12 => ?_)
    obtain ⟨hea12, hka12⟩ := o_at_eq ha12
    cases hea12
    refine r_callI (q := 61) (c_X7_byteAt G h0 N _ _ _) (cl_V (ci := 6) rfl rfl (lw_V q2186 q2188 qs85 q176 q2189) (hd_X7_byteAt) ⟨Nat.le_of_ble_eq_true rfl, Nat.le_of_ble_eq_true rfl⟩ (List.mem_singleton.mp hka12) rfl rfl rfl (Nat.le_of_ble_eq_true rfl) dX7_goesOn_58) rfl (fun x10 σ11 => ?_)
    refine r_istore_n (q := 62) dX7_goesOn_61 rfl rfl (Nat.le_of_ble_eq_true rfl) rfl ?_
    refine r_iconst (q := 63) (v := (0 : Int32)) dX7_goesOn_62 rfl (by decide) ?_
    refine r_istore_n (q := 64) dX7_goesOn_63 rfl rfl (Nat.le_of_ble_eq_true rfl) rfl ?_
    refine r_iload_n (q := 65) dX7_goesOn_64 rfl rfl rfl ?_
    refine r_iconst (q := 66) (v := (-1 : Int32)) dX7_goesOn_65 rfl (by decide) ?_
    refine r_icmp_ne (q := 69) (t := 77) dX7_goesOn_66 rfl (by decide) (fun _ => ?_) (fun _ => ?_)
    · refine r_aload_n (q := 70) dX7_goesOn_69 rfl rfl rfl ?_
      refine r_iconst (q := 71) (v := (1 : Int32)) dX7_goesOn_70 rfl (by decide) ?_
      refine r_pI (q := 74) fp_X7_goesOn_94 dX7_goesOn_71 rfl (fun σ19 => ?_)
      refine r_goto (q := 298) dX7_goesOn_74 (by decide) ?_
      exact r_return rfl dX7_goesOn_298
    · refine r_iload_n (q := 78) dX7_goesOn_77 rfl rfl rfl ?_
      refine r_callI (q := 81) (c_X7_isLetter G h0 N _ _) (cl_S rfl rfl (lw_S q2190 q2191 q176 q2192) (hd_X7_isLetter) ⟨Nat.le_of_ble_eq_true rfl, Nat.le_of_ble_eq_true rfl⟩ rfl (Nat.le_of_ble_eq_true rfl) dX7_goesOn_78) rfl (fun x13 σ14 => ?_)
      refine r_if_eq (q := 84) (t := 183) dX7_goesOn_81 rfl (by decide) (fun _ => ?_) (fun _ => ?_)
      · refine r_iload_n (q := 184) dX7_goesOn_183 rfl rfl rfl ?_
        refine r_callI (q := 187) (c_X7_isDigit G h0 N _ _) (cl_S rfl rfl (lw_S q2194 q2195 q176 q2196) (hd_X7_isDigit) ⟨Nat.le_of_ble_eq_true rfl, Nat.le_of_ble_eq_true rfl⟩ rfl (Nat.le_of_ble_eq_true rfl) dX7_goesOn_184) rfl (fun x15 σ16 => ?_)
        refine r_if_eq (q := 190) (t := 266) dX7_goesOn_187 rfl (by decide) (fun _ => ?_) (fun _ => ?_)
        · refine r_iload_n (q := 267) dX7_goesOn_266 rfl rfl rfl ?_
          refine r_bipush (q := 269) (v := (59 : Int32)) dX7_goesOn_267 rfl (by decide) ?_
          refine r_icmp_eq (q := 272) (t := 278) dX7_goesOn_269 rfl (by decide) (fun _ => ?_) (fun _ => ?_)
          · exact r_le (w_X7_goesOn_b278 G h0 N _ _ _) (Nat.le_refl _) (And.intro rfl (And.intro rfl trivial))
          · refine r_iload_n (q := 273) dX7_goesOn_272 rfl rfl rfl ?_
            refine r_bipush (q := 275) (v := (44 : Int32)) dX7_goesOn_273 rfl (by decide) ?_
            refine r_icmp_ne (q := 278) (t := 298) dX7_goesOn_275 rfl (by decide) (fun _ => ?_) (fun _ => ?_)
            · exact r_le (w_X7_goesOn_b278 G h0 N _ _ _) (Nat.le_refl _) (And.intro rfl (And.intro rfl trivial))
            · exact r_return rfl dX7_goesOn_298
        · refine r_aload_n (q := 191) dX7_goesOn_190 rfl rfl rfl ?_
          refine r_iconst (q := 192) (v := (0 : Int32)) dX7_goesOn_191 rfl (by decide) ?_
          refine r_pI (q := 195) fp_X7_goesOn_123 dX7_goesOn_192 rfl (fun σ17 => ?_)
          exact r_le (w_X7_goesOn_b195 G h0 N N _ _ _) (Nat.le_refl _) (And.intro rfl (And.intro rfl trivial))
      · refine r_aload_n (q := 85) dX7_goesOn_84 rfl rfl rfl ?_
        refine r_lconst (q := 86) (v := (0 : Int64)) dX7_goesOn_85 rfl (by decide) ?_
        refine r_pJ (q := 89) fp_X7_goesOn_113 dX7_goesOn_86 rfl (fun σ18 => ?_)
        exact r_le (w_X7_goesOn_b89 G h0 N N _ _ _) (Nat.le_refl _) (And.intro rfl (And.intro rfl trivial))
theorem w_X7_goesOn_b9 (G : Gx) (h0 : G0 G) (N : Nat)   : ∀ (z : Nat) (a0 : Nat) (σ : Mem), Runs G mX7_goesOn rhoV σ 9 [some (vR (some a0)), none, none] [] (f_X7_goesOn_b9 N  z a0 σ) := by
  intro z
  induction z with
  | zero => exact fun _ _ => r_none
  | succ z ih => exact fun a0 σ => w_X7_goesOn_b9B G h0 N   _ ih a0 σ
theorem c_X7_goesOn (G : Gx) (h0 : G0 G) (N : Nat) (a0 : Nat) (σ : Mem) : Ct G mX7_goesOn rhoV [vR (some a0)] σ (f_X7_goesOn N a0 σ) := by
  refine Ct_of h0 (by decide) rfl (Nat.le_of_ble_eq_true rfl) (L0 := [some (vR (some a0)), none, none]) rfl ?_
  unfold f_X7_goesOn
  refine r_aload_n (q := 1) dX7_goesOn_0 rfl rfl rfl ?_
  refine r_gI (q := 4) fl_X7_94 dX7_goesOn_1 rfl (fun x1 => ?_)
  refine r_iconst (q := 5) (v := (5 : Int32)) dX7_goesOn_4 rfl (by decide) ?_
  refine r_icmp_ne (q := 8) (t := 9) dX7_goesOn_5 rfl (by decide) (fun _ => ?_) (fun _ => ?_)
  · exact r_return rfl dX7_goesOn_8
  · exact r_le (w_X7_goesOn_b9 G h0 N N _ _) (Nat.le_refl _) (And.intro rfl trivial)
theorem w_X7_wordOf_b4B (G : Gx) (h0 : G0 G) (N : Nat)   (K4 : Option Nat → Int64 → Int32 → Mem → Option (Int64 × Mem)) (hK4 : ∀ (l0 : Option Nat) (l1 : Int64) (l3 : Int32) (σ : Mem), Runs G mX7_wordOf rhoL σ 4 [some (vR l0), some (vL l1), none, some (vI l3)] [] (K4 l0 l1 l3 σ)) (l0 : Option Nat) (l1 : Int64) (l3 : Int32) (σ : Mem) : Runs G mX7_wordOf rhoL σ 4 [some (vR l0), some (vL l1), none, some (vI l3)] [] (f_X7_wordOf_b4B N  K4 l0 l1 l3 σ) := by
  unfold f_X7_wordOf_b4B
  refine r_iload_n (q := 5) dX7_wordOf_4 rfl rfl rfl ?_
  refine r_aload_n (q := 6) dX7_wordOf_5 rfl rfl rfl ?_
  refine r_ob (fun a3 ha3 => ?_)
  obtain ⟨hea3, hka3⟩ := o_at_eq ha3
  cases hea3
  refine r_callI (q := 9) (c_J3_length G h0 N _ _) (cl_V (ci := 21) rfl rfl (lw_V q2213 q1089 q1090 q178 q1091) (hd_J3_length) ⟨Nat.le_of_ble_eq_true rfl, Nat.le_of_ble_eq_true rfl⟩ (List.mem_singleton.mp hka3) rfl rfl rfl (Nat.le_of_ble_eq_true rfl) dX7_wordOf_6) rfl (fun x1 σ2 => ?_)
  refine r_icmp_ge (q := 12) (t := 36) dX7_wordOf_9 rfl (by decide) (fun _ => ?_) (fun _ => ?_)
  · refine r_lload_n (q := 37) dX7_wordOf_36 rfl rfl rfl ?_
    exact r_lreturn rfl dX7_wordOf_37
  · refine r_ldc2 (q := 15) (v := (32 : Int64)) dX7_wordOf_12 rfl q2193 ?_
    refine r_lload_n (q := 16) dX7_wordOf_15 rfl rfl rfl ?_
    refine r_lmul (q := 17) dX7_wordOf_16 rfl ?_
    refine r_aload_n (q := 18) dX7_wordOf_17 rfl rfl rfl ?_
    refine r_iload_n (q := 19) dX7_wordOf_18 rfl rfl rfl ?_
    refine r_ob (fun a6 ha6 => ?_)
    obtain ⟨hea6, hka6⟩ := o_at_eq ha6
    cases hea6
    refine r_callI (q := 22) (c_J3_charAt G h0 N _ _ _) (cl_V (ci := 21) rfl rfl (lw_V q2214 q1097 q1098 q178 q1099) (hd_J3_charAt) ⟨Nat.le_of_ble_eq_true rfl, Nat.le_of_ble_eq_true rfl⟩ (List.mem_singleton.mp hka6) rfl rfl rfl (Nat.le_of_ble_eq_true rfl) dX7_wordOf_19) rfl (fun x4 σ5 => ?_)
    refine r_bipush (q := 24) (v := (97 : Int32)) dX7_wordOf_22 rfl (by decide) ?_
    refine r_isub (q := 25) dX7_wordOf_24 rfl ?_
    refine r_iconst (q := 26) (v := (1 : Int32)) dX7_wordOf_25 rfl (by decide) ?_
    refine r_iadd (q := 27) dX7_wordOf_26 rfl ?_
    refine r_i2l (q := 28) dX7_wordOf_27 rfl ?_
    refine r_ladd (q := 29) dX7_wordOf_28 rfl ?_
    refine r_lstore_n (q := 30) dX7_wordOf_29 rfl rfl (Nat.le_of_ble_eq_true rfl) rfl ?_
    refine r_iinc (q := 33) (v := (1 : Int32)) dX7_wordOf_30 rfl rfl (by decide) (Nat.le_of_ble_eq_true rfl) rfl ?_
    refine r_goto (q := 4) dX7_wordOf_33 (by decide) ?_
    exact r_le (hK4 _ _ _ _) (Nat.le_refl _) (And.intro rfl (And.intro rfl (And.intro rfl trivial)))
theorem w_X7_wordOf_b4 (G : Gx) (h0 : G0 G) (N : Nat)   : ∀ (z : Nat) (l0 : Option Nat) (l1 : Int64) (l3 : Int32) (σ : Mem), Runs G mX7_wordOf rhoL σ 4 [some (vR l0), some (vL l1), none, some (vI l3)] [] (f_X7_wordOf_b4 N  z l0 l1 l3 σ) := by
  intro z
  induction z with
  | zero => exact fun _ _ _ _ => r_none
  | succ z ih => exact fun l0 l1 l3 σ => w_X7_wordOf_b4B G h0 N   _ ih l0 l1 l3 σ
theorem c_X7_wordOf (G : Gx) (h0 : G0 G) (N : Nat) (o0 : Option Nat) (σ : Mem) : Ct G mX7_wordOf rhoL [vR o0] σ (f_X7_wordOf N o0 σ) := by
  refine Ct_of h0 (by decide) rfl (Nat.le_of_ble_eq_true rfl) (L0 := [some (vR o0), none, none, none]) rfl ?_
  unfold f_X7_wordOf
  refine r_lconst (q := 1) (v := (0 : Int64)) dX7_wordOf_0 rfl (by decide) ?_
  refine r_lstore_n (q := 2) dX7_wordOf_1 rfl rfl (Nat.le_of_ble_eq_true rfl) rfl ?_
  refine r_iconst (q := 3) (v := (0 : Int32)) dX7_wordOf_2 rfl (by decide) ?_
  refine r_istore_n (q := 4) dX7_wordOf_3 rfl rfl (Nat.le_of_ble_eq_true rfl) rfl ?_
  exact r_le (w_X7_wordOf_b4 G h0 N N _ _ _ _) (Nat.le_refl _) (And.intro rfl (And.intro rfl (And.intro rfl trivial)))
theorem w_X7_isWord_b24 (G : Gx) (h0 : G0 G) (N : Nat)    (σ : Mem) : Runs G mX7_isWord rhoI σ 24 [none, none] [] (f_X7_isWord_b24 N   σ) := by
  unfold f_X7_isWord_b24
  refine r_iconst (q := 25) (v := (0 : Int32)) dX7_isWord_24 rfl (by decide) ?_
  exact r_ireturnN rfl dX7_isWord_25
theorem c_X7_isWord (G : Gx) (h0 : G0 G) (N : Nat) (a0 : Nat) (o1 : Option Nat) (σ : Mem) : Ct G mX7_isWord rhoI [vR (some a0), vR o1] σ (f_X7_isWord N a0 o1 σ) := by
  refine Ct_of h0 (by decide) rfl (Nat.le_of_ble_eq_true rfl) (L0 := [some (vR (some a0)), some (vR o1)]) rfl ?_
  unfold f_X7_isWord
  refine r_aload_n (q := 1) dX7_isWord_0 rfl rfl rfl ?_
  refine r_gI (q := 4) fl_X7_94 dX7_isWord_1 rfl (fun x1 => ?_)
  refine r_iconst (q := 5) (v := (2 : Int32)) dX7_isWord_4 rfl (by decide) ?_
  refine r_icmp_ne (q := 8) (t := 24) dX7_isWord_5 rfl (by decide) (fun _ => ?_) (fun _ => ?_)
  · refine r_aload_n (q := 9) dX7_isWord_8 rfl rfl rfl ?_
    refine r_gJ (q := 12) fl_X7_113 dX7_isWord_9 rfl (fun x2 => ?_)
    refine r_aload_n (q := 13) dX7_isWord_12 rfl rfl rfl ?_
    refine r_callL (q := 16) (c_X7_wordOf G h0 N _ _) (cl_S rfl rfl (lw_S q2210 q2211 q176 q2212) (hd_X7_wordOf) ⟨Nat.le_of_ble_eq_true rfl, Nat.le_of_ble_eq_true rfl⟩ rfl (Nat.le_of_ble_eq_true rfl) dX7_isWord_13) rfl (fun y3 σ4 => ?_)
    refine r_lcmp (q := 17) dX7_isWord_16 rfl ?_
    refine r_if_ne (q := 20) (t := 24) dX7_isWord_17 rfl (by decide) (fun _ => ?_) (fun _ => ?_)
    · refine r_iconst (q := 21) (v := (1 : Int32)) dX7_isWord_20 rfl (by decide) ?_
      refine r_goto (q := 25) dX7_isWord_21 (by decide) ?_
      exact r_ireturnN rfl dX7_isWord_25
    · exact r_le (w_X7_isWord_b24 G h0 N  _) (Nat.le_refl _) trivial
  · exact r_le (w_X7_isWord_b24 G h0 N  _) (Nat.le_refl _) trivial
theorem c_X7_flaw (G : Gx) (h0 : G0 G) (N : Nat) (a0 : Nat) (i1 : Int32) (σ : Mem) : Ct G mX7_flaw rhoV [vR (some a0), vI i1] σ (f_X7_flaw N a0 i1 σ) := by
  refine Ct_of h0 (by decide) rfl (Nat.le_of_ble_eq_true rfl) (L0 := [some (vR (some a0)), some (vI i1)]) rfl ?_
  unfold f_X7_flaw
  refine r_aload_n (q := 1) dX7_flaw_0 rfl rfl rfl ?_
  refine r_gI (q := 4) fl_X7_94 dX7_flaw_1 rfl (fun x1 => ?_)
  refine r_iconst (q := 5) (v := (5 : Int32)) dX7_flaw_4 rfl (by decide) ?_
  refine r_icmp_ne (q := 8) (t := 9) dX7_flaw_5 rfl (by decide) (fun _ => ?_) (fun _ => ?_)
  · exact r_return rfl dX7_flaw_8
  · refine r_aload_n (q := 10) dX7_flaw_9 rfl rfl rfl ?_
    refine r_iload_n (q := 11) dX7_flaw_10 rfl rfl rfl ?_
    refine r_pI (q := 14) fp_X7_flaw_126 dX7_flaw_11 rfl (fun σ2 => ?_)
    refine r_aload_n (q := 15) dX7_flaw_14 rfl rfl rfl ?_
    refine r_aload_n (q := 16) dX7_flaw_15 rfl rfl rfl ?_
    refine r_gI (q := 19) fl_X7_103 dX7_flaw_16 rfl (fun x3 => ?_)
    refine r_pI (q := 22) fp_X7_flaw_129 dX7_flaw_19 rfl (fun σ4 => ?_)
    refine r_aload_n (q := 23) dX7_flaw_22 rfl rfl rfl ?_
    refine r_iconst (q := 24) (v := (5 : Int32)) dX7_flaw_23 rfl (by decide) ?_
    refine r_pI (q := 27) fp_X7_flaw_94 dX7_flaw_24 rfl (fun σ5 => ?_)
    exact r_return rfl dX7_flaw_27
theorem w_X7_wants_b13 (G : Gx) (h0 : G0 G) (N : Nat)   (a0 : Nat) (σ : Mem) : Runs G mX7_wants rhoV σ 13 [some (vR (some a0)), none] [] (f_X7_wants_b13 N  a0 σ) := by
  unfold f_X7_wants_b13
  refine r_aload_n (q := 14) dX7_wants_13 rfl rfl rfl ?_
  refine r_ob (fun a3 ha3 => ?_)
  obtain ⟨hea3, hka3⟩ := o_at_eq ha3
  cases hea3
  refine r_callV (q := 17) (c_X7_goesOn G h0 N _ _) (cl_V (ci := 6) rfl rfl (lw_V q2182 q2184 qs84 q176 q2185) (hd_X7_goesOn) ⟨Nat.le_of_ble_eq_true rfl, Nat.le_of_ble_eq_true rfl⟩ (List.mem_singleton.mp hka3) rfl rfl rfl (Nat.le_of_ble_eq_true rfl) dX7_wants_14) rfl (fun u1 σ2 => ?_)
  exact r_return rfl dX7_wants_17
theorem c_X7_wants (G : Gx) (h0 : G0 G) (N : Nat) (a0 : Nat) (o1 : Option Nat) (σ : Mem) : Ct G mX7_wants rhoV [vR (some a0), vR o1] σ (f_X7_wants N a0 o1 σ) := by
  refine Ct_of h0 (by decide) rfl (Nat.le_of_ble_eq_true rfl) (L0 := [some (vR (some a0)), some (vR o1)]) rfl ?_
  unfold f_X7_wants
  refine r_aload_n (q := 1) dX7_wants_0 rfl rfl rfl ?_
  refine r_aload_n (q := 2) dX7_wants_1 rfl rfl rfl ?_
  refine r_ob (fun a3 ha3 => ?_)
  obtain ⟨hea3, hka3⟩ := o_at_eq ha3
  cases hea3
  refine r_callI (q := 5) (c_X7_isWord G h0 N _ _ _) (cl_V (ci := 6) rfl rfl (lw_V q2206 q2208 qs88 q176 q2209) (hd_X7_isWord) ⟨Nat.le_of_ble_eq_true rfl, Nat.le_of_ble_eq_true rfl⟩ (List.mem_singleton.mp hka3) rfl rfl rfl (Nat.le_of_ble_eq_true rfl) dX7_wants_2) rfl (fun x1 σ2 => ?_)
  refine r_if_ne (q := 8) (t := 13) dX7_wants_5 rfl (by decide) (fun _ => ?_) (fun _ => ?_)
  · refine r_aload_n (q := 9) dX7_wants_8 rfl rfl rfl ?_
    refine r_iconst (q := 10) (v := (1 : Int32)) dX7_wants_9 rfl (by decide) ?_
    refine r_ob (fun a6 ha6 => ?_)
    obtain ⟨hea6, hka6⟩ := o_at_eq ha6
    cases hea6
    refine r_callV (q := 13) (c_X7_flaw G h0 N _ _ _) (cl_V (ci := 6) rfl rfl (lw_V q2219 q2221 qs90 q176 q2222) (hd_X7_flaw) ⟨Nat.le_of_ble_eq_true rfl, Nat.le_of_ble_eq_true rfl⟩ (List.mem_singleton.mp hka6) rfl rfl rfl (Nat.le_of_ble_eq_true rfl) dX7_wants_10) rfl (fun u4 σ5 => ?_)
    exact r_le (w_X7_wants_b13 G h0 N _ _) (Nat.le_refl _) (And.intro rfl trivial)
  · exact r_le (w_X7_wants_b13 G h0 N _ _) (Nat.le_refl _) (And.intro rfl trivial)
theorem w_X7_within_b14 (G : Gx) (h0 : G0 G) (N : Nat)    (σ : Mem) : Runs G mX7_within rhoI σ 14 [none, none, none] [] (f_X7_within_b14 N   σ) := by
  unfold f_X7_within_b14
  refine r_iconst (q := 15) (v := (0 : Int32)) dX7_within_14 rfl (by decide) ?_
  exact r_ireturnN rfl dX7_within_15
theorem c_X7_within (G : Gx) (h0 : G0 G) (N : Nat) (i0 : Int32) (i1 : Int32) (i2 : Int32) (σ : Mem) : Ct G mX7_within rhoI [vI i0, vI i1, vI i2] σ (f_X7_within N i0 i1 i2 σ) := by
  refine Ct_of h0 (by decide) rfl (Nat.le_of_ble_eq_true rfl) (L0 := [some (vI i0), some (vI i1), some (vI i2)]) rfl ?_
  unfold f_X7_within
  refine r_iload_n (q := 1) dX7_within_0 rfl rfl rfl ?_
  refine r_iload_n (q := 2) dX7_within_1 rfl rfl rfl ?_
  refine r_icmp_lt (q := 5) (t := 14) dX7_within_2 rfl (by decide) (fun _ => ?_) (fun _ => ?_)
  · exact r_le (w_X7_within_b14 G h0 N  _) (Nat.le_refl _) trivial
  · refine r_iload_n (q := 6) dX7_within_5 rfl rfl rfl ?_
    refine r_iload_n (q := 7) dX7_within_6 rfl rfl rfl ?_
    refine r_icmp_gt (q := 10) (t := 14) dX7_within_7 rfl (by decide) (fun _ => ?_) (fun _ => ?_)
    · exact r_le (w_X7_within_b14 G h0 N  _) (Nat.le_refl _) trivial
    · refine r_iconst (q := 11) (v := (1 : Int32)) dX7_within_10 rfl (by decide) ?_
      refine r_goto (q := 15) dX7_within_11 (by decide) ?_
      exact r_ireturnN rfl dX7_within_15
theorem w_X7_readWhole_b49 (G : Gx) (h0 : G0 G) (N : Nat)   (a0 : Nat) (t0 : Int32) (σ : Mem) : Runs G mX7_readWhole rhoI σ 49 [some (vR (some a0)), none, none, none] [vI t0] (f_X7_readWhole_b49 N  a0 t0 σ) := by
  unfold f_X7_readWhole_b49
  refine r_istore_n (q := 50) dX7_readWhole_49 rfl rfl (Nat.le_of_ble_eq_true rfl) rfl ?_
  refine r_aload_n (q := 51) dX7_readWhole_50 rfl rfl rfl ?_
  refine r_ob (fun a3 ha3 => ?_)
  obtain ⟨hea3, hka3⟩ := o_at_eq ha3
  cases hea3
  refine r_callV (q := 54) (c_X7_goesOn G h0 N _ _) (cl_V (ci := 6) rfl rfl (lw_V q2182 q2184 qs84 q176 q2185) (hd_X7_goesOn) ⟨Nat.le_of_ble_eq_true rfl, Nat.le_of_ble_eq_true rfl⟩ (List.mem_singleton.mp hka3) rfl rfl rfl (Nat.le_of_ble_eq_true rfl) dX7_readWhole_51) rfl (fun u1 σ2 => ?_)
  refine r_iload_n (q := 55) dX7_readWhole_54 rfl rfl rfl ?_
  exact r_ireturn rfl rfl dX7_readWhole_55
theorem w_X7_readWhole_b33 (G : Gx) (h0 : G0 G) (N : Nat)   (a0 : Nat) (l1 : Int32) (σ : Mem) : Runs G mX7_readWhole rhoI σ 33 [some (vR (some a0)), some (vI l1), none, none] [] (f_X7_readWhole_b33 N  a0 l1 σ) := by
  unfold f_X7_readWhole_b33
  refine r_aload_n (q := 34) dX7_readWhole_33 rfl rfl rfl ?_
  refine r_gI (q := 37) fl_X7_94 dX7_readWhole_34 rfl (fun x1 => ?_)
  refine r_iconst (q := 38) (v := (5 : Int32)) dX7_readWhole_37 rfl (by decide) ?_
  refine r_icmp_ne (q := 41) (t := 45) dX7_readWhole_38 rfl (by decide) (fun _ => ?_) (fun _ => ?_)
  · refine r_iload_n (q := 42) dX7_readWhole_41 rfl rfl rfl ?_
    refine r_goto (q := 49) dX7_readWhole_42 (by decide) ?_
    exact r_le (w_X7_readWhole_b49 G h0 N _ _ _) (Nat.le_refl _) (And.intro rfl trivial)
  · refine r_aload_n (q := 46) dX7_readWhole_45 rfl rfl rfl ?_
    refine r_gI (q := 49) fl_X7_123 dX7_readWhole_46 rfl (fun x2 => ?_)
    exact r_le (w_X7_readWhole_b49 G h0 N _ _ _) (Nat.le_refl _) (And.intro rfl trivial)
theorem c_X7_readWhole (G : Gx) (h0 : G0 G) (N : Nat) (a0 : Nat) (i1 : Int32) (i2 : Int32) (σ : Mem) : Ct G mX7_readWhole rhoI [vR (some a0), vI i1, vI i2] σ (f_X7_readWhole N a0 i1 i2 σ) := by
  refine Ct_of h0 (by decide) rfl (Nat.le_of_ble_eq_true rfl) (L0 := [some (vR (some a0)), some (vI i1), some (vI i2), none]) rfl ?_
  unfold f_X7_readWhole
  refine r_aload_n (q := 1) dX7_readWhole_0 rfl rfl rfl ?_
  refine r_gI (q := 4) fl_X7_94 dX7_readWhole_1 rfl (fun x1 => ?_)
  refine r_iconst (q := 5) (v := (3 : Int32)) dX7_readWhole_4 rfl (by decide) ?_
  refine r_icmp_eq (q := 8) (t := 16) dX7_readWhole_5 rfl (by decide) (fun _ => ?_) (fun _ => ?_)
  · refine r_aload_n (q := 17) dX7_readWhole_16 rfl rfl rfl ?_
    refine r_gI (q := 20) fl_X7_123 dX7_readWhole_17 rfl (fun x2 => ?_)
    refine r_iload_n (q := 21) dX7_readWhole_20 rfl rfl rfl ?_
    refine r_iload_n (q := 22) dX7_readWhole_21 rfl rfl rfl ?_
    refine r_callI (q := 25) (c_X7_within G h0 N _ _ _ _) (cl_S rfl rfl (lw_S q2236 q2237 q176 q2238) (hd_X7_within) ⟨Nat.le_of_ble_eq_true rfl, Nat.le_of_ble_eq_true rfl⟩ rfl (Nat.le_of_ble_eq_true rfl) dX7_readWhole_22) rfl (fun x3 σ4 => ?_)
    refine r_if_ne (q := 28) (t := 33) dX7_readWhole_25 rfl (by decide) (fun _ => ?_) (fun _ => ?_)
    · refine r_aload_n (q := 29) dX7_readWhole_28 rfl rfl rfl ?_
      refine r_iconst (q := 30) (v := (4 : Int32)) dX7_readWhole_29 rfl (by decide) ?_
      refine r_ob (fun a7 ha7 => ?_)
      obtain ⟨hea7, hka7⟩ := o_at_eq ha7
      cases hea7
      refine r_callV (q := 33) (c_X7_flaw G h0 N _ _ _) (cl_V (ci := 6) rfl rfl (lw_V q2219 q2221 qs90 q176 q2222) (hd_X7_flaw) ⟨Nat.le_of_ble_eq_true rfl, Nat.le_of_ble_eq_true rfl⟩ (List.mem_singleton.mp hka7) rfl rfl rfl (Nat.le_of_ble_eq_true rfl) dX7_readWhole_30) rfl (fun u5 σ6 => ?_)
      exact r_le (w_X7_readWhole_b33 G h0 N _ _ _) (Nat.le_refl _) (And.intro rfl (And.intro rfl trivial))
    · exact r_le (w_X7_readWhole_b33 G h0 N _ _ _) (Nat.le_refl _) (And.intro rfl (And.intro rfl trivial))
  · refine r_aload_n (q := 9) dX7_readWhole_8 rfl rfl rfl ?_
    refine r_iconst (q := 10) (v := (1 : Int32)) dX7_readWhole_9 rfl (by decide) ?_
    refine r_ob (fun a10 ha10 => ?_)
    obtain ⟨hea10, hka10⟩ := o_at_eq ha10
    cases hea10
    refine r_callV (q := 13) (c_X7_flaw G h0 N _ _ _) (cl_V (ci := 6) rfl rfl (lw_V q2219 q2221 qs90 q176 q2222) (hd_X7_flaw) ⟨Nat.le_of_ble_eq_true rfl, Nat.le_of_ble_eq_true rfl⟩ (List.mem_singleton.mp hka10) rfl rfl rfl (Nat.le_of_ble_eq_true rfl) dX7_readWhole_10) rfl (fun u8 σ9 => ?_)
    refine r_goto (q := 33) dX7_readWhole_13 (by decide) ?_
    exact r_le (w_X7_readWhole_b33 G h0 N _ _ _) (Nat.le_refl _) (And.intro rfl (And.intro rfl trivial))
theorem c_X7_readPart (G : Gx) (h0 : G0 G) (N : Nat) (a0 : Nat) (o1 : Option Nat) (i2 : Int32) (i3 : Int32) (σ : Mem) : Ct G mX7_readPart rhoI [vR (some a0), vR o1, vI i2, vI i3] σ (f_X7_readPart N a0 o1 i2 i3 σ) := by
  refine Ct_of h0 (by decide) rfl (Nat.le_of_ble_eq_true rfl) (L0 := [some (vR (some a0)), some (vR o1), some (vI i2), some (vI i3)]) rfl ?_
  unfold f_X7_readPart
  refine r_aload_n (q := 1) dX7_readPart_0 rfl rfl rfl ?_
  refine r_aload_n (q := 2) dX7_readPart_1 rfl rfl rfl ?_
  refine r_ob (fun a3 ha3 => ?_)
  obtain ⟨hea3, hka3⟩ := o_at_eq ha3
  cases hea3
  refine r_callV (q := 5) (c_X7_wants G h0 N _ _ _) (cl_V (ci := 6) rfl rfl (lw_V q2228 q2230 qs92 q176 q2231) (hd_X7_wants) ⟨Nat.le_of_ble_eq_true rfl, Nat.le_of_ble_eq_true rfl⟩ (List.mem_singleton.mp hka3) rfl rfl rfl (Nat.le_of_ble_eq_true rfl) dX7_readPart_2) rfl (fun u1 σ2 => ?_)
  refine r_aload_n (q := 6) dX7_readPart_5 rfl rfl rfl ?_
  refine r_iload_n (q := 7) dX7_readPart_6 rfl rfl rfl ?_
  refine r_iload_n (q := 8) dX7_readPart_7 rfl rfl rfl ?_
  refine r_ob (fun a6 ha6 => ?_)
  obtain ⟨hea6, hka6⟩ := o_at_eq ha6
  cases hea6
  refine r_callI (q := 11) (c_X7_readWhole G h0 N _ _ _ _) (cl_V (ci := 6) rfl rfl (lw_V q2232 q2234 qs93 q176 q2235) (hd_X7_readWhole) ⟨Nat.le_of_ble_eq_true rfl, Nat.le_of_ble_eq_true rfl⟩ (List.mem_singleton.mp hka6) rfl rfl rfl (Nat.le_of_ble_eq_true rfl) dX7_readPart_8) rfl (fun x4 σ5 => ?_)
  exact r_ireturn rfl rfl dX7_readPart_11
theorem w_X7_readHill_b15 (G : Gx) (h0 : G0 G) (N : Nat)   (a0 : Nat) (σ : Mem) : Runs G mX7_readHill rhoV σ 15 [some (vR (some a0)), none, none] [] (f_X7_readHill_b15 N  a0 σ) := by
  unfold f_X7_readHill_b15
  refine r_aload_n (q := 16) dX7_readHill_15 rfl rfl rfl ?_
  refine r_ob (fun a3 ha3 => ?_)
  obtain ⟨hea3, hka3⟩ := o_at_eq ha3
  cases hea3
  refine r_callV (q := 19) (c_X7_goesOn G h0 N _ _) (cl_V (ci := 6) rfl rfl (lw_V q2182 q2184 qs84 q176 q2185) (hd_X7_goesOn) ⟨Nat.le_of_ble_eq_true rfl, Nat.le_of_ble_eq_true rfl⟩ (List.mem_singleton.mp hka3) rfl rfl rfl (Nat.le_of_ble_eq_true rfl) dX7_readHill_16) rfl (fun u1 σ2 => ?_)
  refine r_aload_n (q := 20) dX7_readHill_19 rfl rfl rfl ?_
  refine r_ldcWS (q := 23) (tx := "hours") (cd := 34) (List.mem_of_getElem? (i := 31) rfl) (by decide) dX7_readHill_20 rfl ?_
  refine r_iconst (q := 24) (v := (2 : Int32)) dX7_readHill_23 rfl (by decide) ?_
  refine r_bipush (q := 26) (v := (12 : Int32)) dX7_readHill_24 rfl (by decide) ?_
  refine r_ob (fun a6 ha6 => ?_)
  obtain ⟨hea6, hka6⟩ := o_at_eq ha6
  cases hea6
  refine r_callI (q := 29) (c_X7_readPart G h0 N _ _ _ _ _) (cl_V (ci := 6) rfl rfl (lw_V q2224 q2226 qs91 q176 q2227) (hd_X7_readPart) ⟨Nat.le_of_ble_eq_true rfl, Nat.le_of_ble_eq_true rfl⟩ (List.mem_singleton.mp hka6) rfl rfl rfl (Nat.le_of_ble_eq_true rfl) dX7_readHill_26) rfl (fun x4 σ5 => ?_)
  refine r_istore_n (q := 30) dX7_readHill_29 rfl rfl (Nat.le_of_ble_eq_true rfl) rfl ?_
  refine r_aload_n (q := 31) dX7_readHill_30 rfl rfl rfl ?_
  refine r_ldcWS (q := 34) (tx := "plants") (cd := 36) (List.mem_of_getElem? (i := 32) rfl) (by decide) dX7_readHill_31 rfl ?_
  refine r_iconst (q := 35) (v := (1 : Int32)) dX7_readHill_34 rfl (by decide) ?_
  refine r_iconst (q := 36) (v := (4 : Int32)) dX7_readHill_35 rfl (by decide) ?_
  refine r_ob (fun a9 ha9 => ?_)
  obtain ⟨hea9, hka9⟩ := o_at_eq ha9
  cases hea9
  refine r_callI (q := 39) (c_X7_readPart G h0 N _ _ _ _ _) (cl_V (ci := 6) rfl rfl (lw_V q2224 q2226 qs91 q176 q2227) (hd_X7_readPart) ⟨Nat.le_of_ble_eq_true rfl, Nat.le_of_ble_eq_true rfl⟩ (List.mem_singleton.mp hka9) rfl rfl rfl (Nat.le_of_ble_eq_true rfl) dX7_readHill_36) rfl (fun x7 σ8 => ?_)
  refine r_istore_n (q := 40) dX7_readHill_39 rfl rfl (Nat.le_of_ble_eq_true rfl) rfl ?_
  refine r_aload_n (q := 41) dX7_readHill_40 rfl rfl rfl ?_
  refine r_gI (q := 44) fl_X7_94 dX7_readHill_41 rfl (fun x10 => ?_)
  refine r_iconst (q := 45) (v := (5 : Int32)) dX7_readHill_44 rfl (by decide) ?_
  refine r_icmp_ne (q := 48) (t := 49) dX7_readHill_45 rfl (by decide) (fun _ => ?_) (fun _ => ?_)
  · exact r_return rfl dX7_readHill_48
  · refine r_aload_n (q := 50) dX7_readHill_49 rfl rfl rfl ?_
    refine r_gR (q := 53) fl_X7_192 rfl dX7_readHill_50 rfl (fun x11 => ?_)
    refine r_iload_n (q := 54) dX7_readHill_53 rfl rfl rfl ?_
    refine r_pI (q := 57) fp_X7_readHill_196 dX7_readHill_54 rfl (fun σ12 => ?_)
    refine r_aload_n (q := 58) dX7_readHill_57 rfl rfl rfl ?_
    refine r_gR (q := 61) fl_X7_192 rfl dX7_readHill_58 rfl (fun x13 => ?_)
    refine r_iload_n (q := 62) dX7_readHill_61 rfl rfl rfl ?_
    refine r_pI (q := 65) fp_X7_readHill_229 dX7_readHill_62 rfl (fun σ14 => ?_)
    exact r_return rfl dX7_readHill_65
theorem c_X7_readHill (G : Gx) (h0 : G0 G) (N : Nat) (a0 : Nat) (σ : Mem) : Ct G mX7_readHill rhoV [vR (some a0)] σ (f_X7_readHill N a0 σ) := by
  refine Ct_of h0 (by decide) rfl (Nat.le_of_ble_eq_true rfl) (L0 := [some (vR (some a0)), none, none]) rfl ?_
  unfold f_X7_readHill
  refine r_aload_n (q := 1) dX7_readHill_0 rfl rfl rfl ?_
  refine r_gR (q := 4) fl_X7_192 rfl dX7_readHill_1 rfl (fun x1 => ?_)
  refine r_gI (q := 7) fl_X7_196 dX7_readHill_4 rfl (fun x2 => ?_)
  refine r_if_le (q := 10) (t := 15) dX7_readHill_7 rfl (by decide) (fun _ => ?_) (fun _ => ?_)
  · exact r_le (w_X7_readHill_b15 G h0 N _ _) (Nat.le_refl _) (And.intro rfl trivial)
  · refine r_aload_n (q := 11) dX7_readHill_10 rfl rfl rfl ?_
    refine r_iconst (q := 12) (v := (3 : Int32)) dX7_readHill_11 rfl (by decide) ?_
    refine r_ob (fun a5 ha5 => ?_)
    obtain ⟨hea5, hka5⟩ := o_at_eq ha5
    cases hea5
    refine r_callV (q := 15) (c_X7_flaw G h0 N _ _ _) (cl_V (ci := 6) rfl rfl (lw_V q2219 q2221 qs90 q176 q2222) (hd_X7_flaw) ⟨Nat.le_of_ble_eq_true rfl, Nat.le_of_ble_eq_true rfl⟩ (List.mem_singleton.mp hka5) rfl rfl rfl (Nat.le_of_ble_eq_true rfl) dX7_readHill_12) rfl (fun u3 σ4 => ?_)
    exact r_le (w_X7_readHill_b15 G h0 N _ _) (Nat.le_refl _) (And.intro rfl trivial)
theorem w_X7_begins_b26 (G : Gx) (h0 : G0 G) (N : Nat)   (a0 : Nat) (σ : Mem) : Runs G mX7_begins rhoV σ 26 [some (vR (some a0)), none, none] [] (f_X7_begins_b26 N  a0 σ) := by
  unfold f_X7_begins_b26
  refine r_aload_n (q := 27) dX7_begins_26 rfl rfl rfl ?_
  refine r_ob (fun a3 ha3 => ?_)
  obtain ⟨hea3, hka3⟩ := o_at_eq ha3
  cases hea3
  refine r_callV (q := 30) (c_X7_goesOn G h0 N _ _) (cl_V (ci := 6) rfl rfl (lw_V q2182 q2184 qs84 q176 q2185) (hd_X7_goesOn) ⟨Nat.le_of_ble_eq_true rfl, Nat.le_of_ble_eq_true rfl⟩ (List.mem_singleton.mp hka3) rfl rfl rfl (Nat.le_of_ble_eq_true rfl) dX7_begins_27) rfl (fun u1 σ2 => ?_)
  exact r_return rfl dX7_begins_30
theorem w_X7_begins_b10 (G : Gx) (h0 : G0 G) (N : Nat)   (a0 : Nat) (σ : Mem) : Runs G mX7_begins rhoV σ 10 [some (vR (some a0)), none, none] [] (f_X7_begins_b10 N  a0 σ) := by
  unfold f_X7_begins_b10
  refine r_aload_n (q := 11) dX7_begins_10 rfl rfl rfl ?_
  refine r_gR (q := 14) fl_X7_192 rfl dX7_begins_11 rfl (fun x1 => ?_)
  refine r_gI (q := 17) fl_X7_196 dX7_begins_14 rfl (fun x2 => ?_)
  refine r_if_ne (q := 20) (t := 26) dX7_begins_17 rfl (by decide) (fun _ => ?_) (fun _ => ?_)
  · refine r_aload_n (q := 21) dX7_begins_20 rfl rfl rfl ?_
    refine r_bipush (q := 23) (v := (6 : Int32)) dX7_begins_21 rfl (by decide) ?_
    refine r_ob (fun a5 ha5 => ?_)
    obtain ⟨hea5, hka5⟩ := o_at_eq ha5
    cases hea5
    refine r_callV (q := 26) (c_X7_flaw G h0 N _ _ _) (cl_V (ci := 6) rfl rfl (lw_V q2219 q2221 qs90 q176 q2222) (hd_X7_flaw) ⟨Nat.le_of_ble_eq_true rfl, Nat.le_of_ble_eq_true rfl⟩ (List.mem_singleton.mp hka5) rfl rfl rfl (Nat.le_of_ble_eq_true rfl) dX7_begins_23) rfl (fun u3 σ4 => ?_)
    exact r_le (w_X7_begins_b26 G h0 N _ _) (Nat.le_refl _) (And.intro rfl trivial)
  · exact r_le (w_X7_begins_b26 G h0 N _ _) (Nat.le_refl _) (And.intro rfl trivial)
theorem c_X7_begins (G : Gx) (h0 : G0 G) (N : Nat) (a0 : Nat) (i1 : Int32) (i2 : Int32) (σ : Mem) : Ct G mX7_begins rhoV [vR (some a0), vI i1, vI i2] σ (f_X7_begins N a0 i1 i2 σ) := by
  refine Ct_of h0 (by decide) rfl (Nat.le_of_ble_eq_true rfl) (L0 := [some (vR (some a0)), some (vI i1), some (vI i2)]) rfl ?_
  unfold f_X7_begins
  refine r_iload_n (q := 1) dX7_begins_0 rfl rfl rfl ?_
  refine r_iload_n (q := 2) dX7_begins_1 rfl rfl rfl ?_
  refine r_icmp_ne (q := 5) (t := 10) dX7_begins_2 rfl (by decide) (fun _ => ?_) (fun _ => ?_)
  · refine r_aload_n (q := 6) dX7_begins_5 rfl rfl rfl ?_
    refine r_iconst (q := 7) (v := (5 : Int32)) dX7_begins_6 rfl (by decide) ?_
    refine r_ob (fun a3 ha3 => ?_)
    obtain ⟨hea3, hka3⟩ := o_at_eq ha3
    cases hea3
    refine r_callV (q := 10) (c_X7_flaw G h0 N _ _ _) (cl_V (ci := 6) rfl rfl (lw_V q2219 q2221 qs90 q176 q2222) (hd_X7_flaw) ⟨Nat.le_of_ble_eq_true rfl, Nat.le_of_ble_eq_true rfl⟩ (List.mem_singleton.mp hka3) rfl rfl rfl (Nat.le_of_ble_eq_true rfl) dX7_begins_7) rfl (fun u1 σ2 => ?_)
    exact r_le (w_X7_begins_b10 G h0 N _ _) (Nat.le_refl _) (And.intro rfl trivial)
  · exact r_le (w_X7_begins_b10 G h0 N _ _) (Nat.le_refl _) (And.intro rfl trivial)
theorem w_X7_isName_b169 (G : Gx) (h0 : G0 G) (N : Nat)    (σ : Mem) : Runs G mX7_isName rhoI σ 169 [none] [] (f_X7_isName_b169 N   σ) := by
  unfold f_X7_isName_b169
  refine r_iconst (q := 170) (v := (0 : Int32)) dX7_isName_169 rfl (by decide) ?_
  exact r_ireturnN rfl dX7_isName_170
theorem c_X7_isName (G : Gx) (h0 : G0 G) (N : Nat) (a0 : Nat) (σ : Mem) : Ct G mX7_isName rhoI [vR (some a0)] σ (f_X7_isName N a0 σ) := by
  refine Ct_of h0 (by decide) rfl (Nat.le_of_ble_eq_true rfl) (L0 := [some (vR (some a0))]) rfl ?_
  unfold f_X7_isName
  refine r_aload_n (q := 1) dX7_isName_0 rfl rfl rfl ?_
  refine r_gI (q := 4) fl_X7_94 dX7_isName_1 rfl (fun x1 => ?_)
  refine r_iconst (q := 5) (v := (2 : Int32)) dX7_isName_4 rfl (by decide) ?_
  refine r_icmp_ne (q := 8) (t := 62) dX7_isName_5 rfl (by decide) (fun _ => ?_) (fun _ => ?_)
  · refine r_aload_n (q := 9) dX7_isName_8 rfl rfl rfl ?_
    refine r_ldcS (q := 11) (tx := "hill") (cd := 2) (List.mem_of_getElem? (i := 30) rfl) (by decide) dX7_isName_9 rfl ?_
    refine r_ob (fun a4 ha4 => ?_)
    obtain ⟨hea4, hka4⟩ := o_at_eq ha4
    cases hea4
    refine r_callI (q := 14) (c_X7_isWord G h0 N _ _ _) (cl_V (ci := 6) rfl rfl (lw_V q2206 q2208 qs88 q176 q2209) (hd_X7_isWord) ⟨Nat.le_of_ble_eq_true rfl, Nat.le_of_ble_eq_true rfl⟩ (List.mem_singleton.mp hka4) rfl rfl rfl (Nat.le_of_ble_eq_true rfl) dX7_isName_11) rfl (fun x2 σ3 => ?_)
    refine r_if_ne (q := 17) (t := 62) dX7_isName_14 rfl (by decide) (fun _ => ?_) (fun _ => ?_)
    · refine r_aload_n (q := 18) dX7_isName_17 rfl rfl rfl ?_
      refine r_ldcS (q := 20) (tx := "place") (cd := 4) (List.mem_of_getElem? (i := 33) rfl) (by decide) dX7_isName_18 rfl ?_
      refine r_ob (fun a7 ha7 => ?_)
      obtain ⟨hea7, hka7⟩ := o_at_eq ha7
      cases hea7
      refine r_callI (q := 23) (c_X7_isWord G h0 N _ _ _) (cl_V (ci := 6) rfl rfl (lw_V q2206 q2208 qs88 q176 q2209) (hd_X7_isWord) ⟨Nat.le_of_ble_eq_true rfl, Nat.le_of_ble_eq_true rfl⟩ (List.mem_singleton.mp hka7) rfl rfl rfl (Nat.le_of_ble_eq_true rfl) dX7_isName_20) rfl (fun x5 σ6 => ?_)
      refine r_if_ne (q := 26) (t := 62) dX7_isName_23 rfl (by decide) (fun _ => ?_) (fun _ => ?_)
      · refine r_aload_n (q := 27) dX7_isName_26 rfl rfl rfl ?_
        refine r_ldcS (q := 29) (tx := "path") (cd := 6) (List.mem_of_getElem? (i := 34) rfl) (by decide) dX7_isName_27 rfl ?_
        refine r_ob (fun a10 ha10 => ?_)
        obtain ⟨hea10, hka10⟩ := o_at_eq ha10
        cases hea10
        refine r_callI (q := 32) (c_X7_isWord G h0 N _ _ _) (cl_V (ci := 6) rfl rfl (lw_V q2206 q2208 qs88 q176 q2209) (hd_X7_isWord) ⟨Nat.le_of_ble_eq_true rfl, Nat.le_of_ble_eq_true rfl⟩ (List.mem_singleton.mp hka10) rfl rfl rfl (Nat.le_of_ble_eq_true rfl) dX7_isName_29) rfl (fun x8 σ9 => ?_)
        refine r_if_ne (q := 35) (t := 62) dX7_isName_32 rfl (by decide) (fun _ => ?_) (fun _ => ?_)
        · refine r_aload_n (q := 36) dX7_isName_35 rfl rfl rfl ?_
          refine r_ldcS (q := 38) (tx := "person") (cd := 8) (List.mem_of_getElem? (i := 35) rfl) (by decide) dX7_isName_36 rfl ?_
          refine r_ob (fun a13 ha13 => ?_)
          obtain ⟨hea13, hka13⟩ := o_at_eq ha13
          cases hea13
          refine r_callI (q := 41) (c_X7_isWord G h0 N _ _ _) (cl_V (ci := 6) rfl rfl (lw_V q2206 q2208 qs88 q176 q2209) (hd_X7_isWord) ⟨Nat.le_of_ble_eq_true rfl, Nat.le_of_ble_eq_true rfl⟩ (List.mem_singleton.mp hka13) rfl rfl rfl (Nat.le_of_ble_eq_true rfl) dX7_isName_38) rfl (fun x11 σ12 => ?_)
          refine r_if_ne (q := 44) (t := 62) dX7_isName_41 rfl (by decide) (fun _ => ?_) (fun _ => ?_)
          · refine r_aload_n (q := 45) dX7_isName_44 rfl rfl rfl ?_
            refine r_ldcS (q := 47) (tx := "story") (cd := 10) (List.mem_of_getElem? (i := 36) rfl) (by decide) dX7_isName_45 rfl ?_
            refine r_ob (fun a16 ha16 => ?_)
            obtain ⟨hea16, hka16⟩ := o_at_eq ha16
            cases hea16
            refine r_callI (q := 50) (c_X7_isWord G h0 N _ _ _) (cl_V (ci := 6) rfl rfl (lw_V q2206 q2208 qs88 q176 q2209) (hd_X7_isWord) ⟨Nat.le_of_ble_eq_true rfl, Nat.le_of_ble_eq_true rfl⟩ (List.mem_singleton.mp hka16) rfl rfl rfl (Nat.le_of_ble_eq_true rfl) dX7_isName_47) rfl (fun x14 σ15 => ?_)
            refine r_if_ne (q := 53) (t := 62) dX7_isName_50 rfl (by decide) (fun _ => ?_) (fun _ => ?_)
            · refine r_aload_n (q := 54) dX7_isName_53 rfl rfl rfl ?_
              refine r_ldcS (q := 56) (tx := "goat") (cd := 12) (List.mem_of_getElem? (i := 37) rfl) (by decide) dX7_isName_54 rfl ?_
              refine r_ob (fun a19 ha19 => ?_)
              obtain ⟨hea19, hka19⟩ := o_at_eq ha19
              cases hea19
              refine r_callI (q := 59) (c_X7_isWord G h0 N _ _ _) (cl_V (ci := 6) rfl rfl (lw_V q2206 q2208 qs88 q176 q2209) (hd_X7_isWord) ⟨Nat.le_of_ble_eq_true rfl, Nat.le_of_ble_eq_true rfl⟩ (List.mem_singleton.mp hka19) rfl rfl rfl (Nat.le_of_ble_eq_true rfl) dX7_isName_56) rfl (fun x17 σ18 => ?_)
              refine r_if_eq (q := 62) (t := 64) dX7_isName_59 rfl (by decide) (fun _ => ?_) (fun _ => ?_)
              · refine r_aload_n (q := 65) dX7_isName_64 rfl rfl rfl ?_
                refine r_ldcS (q := 67) (tx := "fears") (cd := 14) (List.mem_of_getElem? (i := 38) rfl) (by decide) dX7_isName_65 rfl ?_
                refine r_ob (fun a22 ha22 => ?_)
                obtain ⟨hea22, hka22⟩ := o_at_eq ha22
                cases hea22
                refine r_callI (q := 70) (c_X7_isWord G h0 N _ _ _) (cl_V (ci := 6) rfl rfl (lw_V q2206 q2208 qs88 q176 q2209) (hd_X7_isWord) ⟨Nat.le_of_ble_eq_true rfl, Nat.le_of_ble_eq_true rfl⟩ (List.mem_singleton.mp hka22) rfl rfl rfl (Nat.le_of_ble_eq_true rfl) dX7_isName_67) rfl (fun x20 σ21 => ?_)
                refine r_if_ne (q := 73) (t := 118) dX7_isName_70 rfl (by decide) (fun _ => ?_) (fun _ => ?_)
                · refine r_aload_n (q := 74) dX7_isName_73 rfl rfl rfl ?_
                  refine r_ldcS (q := 76) (tx := "found") (cd := 16) (List.mem_of_getElem? (i := 39) rfl) (by decide) dX7_isName_74 rfl ?_
                  refine r_ob (fun a25 ha25 => ?_)
                  obtain ⟨hea25, hka25⟩ := o_at_eq ha25
                  cases hea25
                  refine r_callI (q := 79) (c_X7_isWord G h0 N _ _ _) (cl_V (ci := 6) rfl rfl (lw_V q2206 q2208 qs88 q176 q2209) (hd_X7_isWord) ⟨Nat.le_of_ble_eq_true rfl, Nat.le_of_ble_eq_true rfl⟩ (List.mem_singleton.mp hka25) rfl rfl rfl (Nat.le_of_ble_eq_true rfl) dX7_isName_76) rfl (fun x23 σ24 => ?_)
                  refine r_if_ne (q := 82) (t := 118) dX7_isName_79 rfl (by decide) (fun _ => ?_) (fun _ => ?_)
                  · refine r_aload_n (q := 83) dX7_isName_82 rfl rfl rfl ?_
                    refine r_ldcS (q := 85) (tx := "seen") (cd := 18) (List.mem_of_getElem? (i := 40) rfl) (by decide) dX7_isName_83 rfl ?_
                    refine r_ob (fun a28 ha28 => ?_)
                    obtain ⟨hea28, hka28⟩ := o_at_eq ha28
                    cases hea28
                    refine r_callI (q := 88) (c_X7_isWord G h0 N _ _ _) (cl_V (ci := 6) rfl rfl (lw_V q2206 q2208 qs88 q176 q2209) (hd_X7_isWord) ⟨Nat.le_of_ble_eq_true rfl, Nat.le_of_ble_eq_true rfl⟩ (List.mem_singleton.mp hka28) rfl rfl rfl (Nat.le_of_ble_eq_true rfl) dX7_isName_85) rfl (fun x26 σ27 => ?_)
                    refine r_if_ne (q := 91) (t := 118) dX7_isName_88 rfl (by decide) (fun _ => ?_) (fun _ => ?_)
                    · refine r_aload_n (q := 92) dX7_isName_91 rfl rfl rfl ?_
                      refine r_ldcS (q := 94) (tx := "shied") (cd := 20) (List.mem_of_getElem? (i := 41) rfl) (by decide) dX7_isName_92 rfl ?_
                      refine r_ob (fun a31 ha31 => ?_)
                      obtain ⟨hea31, hka31⟩ := o_at_eq ha31
                      cases hea31
                      refine r_callI (q := 97) (c_X7_isWord G h0 N _ _ _) (cl_V (ci := 6) rfl rfl (lw_V q2206 q2208 qs88 q176 q2209) (hd_X7_isWord) ⟨Nat.le_of_ble_eq_true rfl, Nat.le_of_ble_eq_true rfl⟩ (List.mem_singleton.mp hka31) rfl rfl rfl (Nat.le_of_ble_eq_true rfl) dX7_isName_94) rfl (fun x29 σ30 => ?_)
                      refine r_if_ne (q := 100) (t := 118) dX7_isName_97 rfl (by decide) (fun _ => ?_) (fun _ => ?_)
                      · refine r_aload_n (q := 101) dX7_isName_100 rfl rfl rfl ?_
                        refine r_ldcS (q := 103) (tx := "fact") (cd := 22) (List.mem_of_getElem? (i := 42) rfl) (by decide) dX7_isName_101 rfl ?_
                        refine r_ob (fun a34 ha34 => ?_)
                        obtain ⟨hea34, hka34⟩ := o_at_eq ha34
                        cases hea34
                        refine r_callI (q := 106) (c_X7_isWord G h0 N _ _ _) (cl_V (ci := 6) rfl rfl (lw_V q2206 q2208 qs88 q176 q2209) (hd_X7_isWord) ⟨Nat.le_of_ble_eq_true rfl, Nat.le_of_ble_eq_true rfl⟩ (List.mem_singleton.mp hka34) rfl rfl rfl (Nat.le_of_ble_eq_true rfl) dX7_isName_103) rfl (fun x32 σ33 => ?_)
                        refine r_if_ne (q := 109) (t := 118) dX7_isName_106 rfl (by decide) (fun _ => ?_) (fun _ => ?_)
                        · refine r_aload_n (q := 110) dX7_isName_109 rfl rfl rfl ?_
                          refine r_ldcS (q := 112) (tx := "holds") (cd := 24) (List.mem_of_getElem? (i := 43) rfl) (by decide) dX7_isName_110 rfl ?_
                          refine r_ob (fun a37 ha37 => ?_)
                          obtain ⟨hea37, hka37⟩ := o_at_eq ha37
                          cases hea37
                          refine r_callI (q := 115) (c_X7_isWord G h0 N _ _ _) (cl_V (ci := 6) rfl rfl (lw_V q2206 q2208 qs88 q176 q2209) (hd_X7_isWord) ⟨Nat.le_of_ble_eq_true rfl, Nat.le_of_ble_eq_true rfl⟩ (List.mem_singleton.mp hka37) rfl rfl rfl (Nat.le_of_ble_eq_true rfl) dX7_isName_112) rfl (fun x35 σ36 => ?_)
                          refine r_if_eq (q := 118) (t := 120) dX7_isName_115 rfl (by decide) (fun _ => ?_) (fun _ => ?_)
                          · refine r_aload_n (q := 121) dX7_isName_120 rfl rfl rfl ?_
                            refine r_ldcS (q := 123) (tx := "rule") (cd := 26) (List.mem_of_getElem? (i := 44) rfl) (by decide) dX7_isName_121 rfl ?_
                            refine r_ob (fun a40 ha40 => ?_)
                            obtain ⟨hea40, hka40⟩ := o_at_eq ha40
                            cases hea40
                            refine r_callI (q := 126) (c_X7_isWord G h0 N _ _ _) (cl_V (ci := 6) rfl rfl (lw_V q2206 q2208 qs88 q176 q2209) (hd_X7_isWord) ⟨Nat.le_of_ble_eq_true rfl, Nat.le_of_ble_eq_true rfl⟩ (List.mem_singleton.mp hka40) rfl rfl rfl (Nat.le_of_ble_eq_true rfl) dX7_isName_123) rfl (fun x38 σ39 => ?_)
                            refine r_if_ne (q := 129) (t := 169) dX7_isName_126 rfl (by decide) (fun _ => ?_) (fun _ => ?_)
                            · refine r_aload_n (q := 130) dX7_isName_129 rfl rfl rfl ?_
                              refine r_ldcS (q := 132) (tx := "proof") (cd := 28) (List.mem_of_getElem? (i := 45) rfl) (by decide) dX7_isName_130 rfl ?_
                              refine r_ob (fun a43 ha43 => ?_)
                              obtain ⟨hea43, hka43⟩ := o_at_eq ha43
                              cases hea43
                              refine r_callI (q := 135) (c_X7_isWord G h0 N _ _ _) (cl_V (ci := 6) rfl rfl (lw_V q2206 q2208 qs88 q176 q2209) (hd_X7_isWord) ⟨Nat.le_of_ble_eq_true rfl, Nat.le_of_ble_eq_true rfl⟩ (List.mem_singleton.mp hka43) rfl rfl rfl (Nat.le_of_ble_eq_true rfl) dX7_isName_132) rfl (fun x41 σ42 => ?_)
                              refine r_if_ne (q := 138) (t := 169) dX7_isName_135 rfl (by decide) (fun _ => ?_) (fun _ => ?_)
                              · refine r_aload_n (q := 139) dX7_isName_138 rfl rfl rfl ?_
                                refine r_ldcS (q := 141) (tx := "court") (cd := 30) (List.mem_of_getElem? (i := 46) rfl) (by decide) dX7_isName_139 rfl ?_
                                refine r_ob (fun a46 ha46 => ?_)
                                obtain ⟨hea46, hka46⟩ := o_at_eq ha46
                                cases hea46
                                refine r_callI (q := 144) (c_X7_isWord G h0 N _ _ _) (cl_V (ci := 6) rfl rfl (lw_V q2206 q2208 qs88 q176 q2209) (hd_X7_isWord) ⟨Nat.le_of_ble_eq_true rfl, Nat.le_of_ble_eq_true rfl⟩ (List.mem_singleton.mp hka46) rfl rfl rfl (Nat.le_of_ble_eq_true rfl) dX7_isName_141) rfl (fun x44 σ45 => ?_)
                                refine r_if_ne (q := 147) (t := 169) dX7_isName_144 rfl (by decide) (fun _ => ?_) (fun _ => ?_)
                                · refine r_aload_n (q := 148) dX7_isName_147 rfl rfl rfl ?_
                                  refine r_ldcS (q := 150) (tx := "cheese") (cd := 32) (List.mem_of_getElem? (i := 47) rfl) (by decide) dX7_isName_148 rfl ?_
                                  refine r_ob (fun a49 ha49 => ?_)
                                  obtain ⟨hea49, hka49⟩ := o_at_eq ha49
                                  cases hea49
                                  refine r_callI (q := 153) (c_X7_isWord G h0 N _ _ _) (cl_V (ci := 6) rfl rfl (lw_V q2206 q2208 qs88 q176 q2209) (hd_X7_isWord) ⟨Nat.le_of_ble_eq_true rfl, Nat.le_of_ble_eq_true rfl⟩ (List.mem_singleton.mp hka49) rfl rfl rfl (Nat.le_of_ble_eq_true rfl) dX7_isName_150) rfl (fun x47 σ48 => ?_)
                                  refine r_if_ne (q := 156) (t := 169) dX7_isName_153 rfl (by decide) (fun _ => ?_) (fun _ => ?_)
                                  · refine r_aload_n (q := 157) dX7_isName_156 rfl rfl rfl ?_
                                    refine r_ldcS (q := 159) (tx := "if") (cd := 38) (List.mem_of_getElem? (i := 48) rfl) (by decide) dX7_isName_157 rfl ?_
                                    refine r_ob (fun a52 ha52 => ?_)
                                    obtain ⟨hea52, hka52⟩ := o_at_eq ha52
                                    cases hea52
                                    refine r_callI (q := 162) (c_X7_isWord G h0 N _ _ _) (cl_V (ci := 6) rfl rfl (lw_V q2206 q2208 qs88 q176 q2209) (hd_X7_isWord) ⟨Nat.le_of_ble_eq_true rfl, Nat.le_of_ble_eq_true rfl⟩ (List.mem_singleton.mp hka52) rfl rfl rfl (Nat.le_of_ble_eq_true rfl) dX7_isName_159) rfl (fun x50 σ51 => ?_)
                                    refine r_if_ne (q := 165) (t := 169) dX7_isName_162 rfl (by decide) (fun _ => ?_) (fun _ => ?_)
                                    · refine r_iconst (q := 166) (v := (1 : Int32)) dX7_isName_165 rfl (by decide) ?_
                                      refine r_goto (q := 170) dX7_isName_166 (by decide) ?_
                                      exact r_ireturnN rfl dX7_isName_170
                                    · exact r_le (w_X7_isName_b169 G h0 N  _) (Nat.le_refl _) trivial
                                  · exact r_le (w_X7_isName_b169 G h0 N  _) (Nat.le_refl _) trivial
                                · exact r_le (w_X7_isName_b169 G h0 N  _) (Nat.le_refl _) trivial
                              · exact r_le (w_X7_isName_b169 G h0 N  _) (Nat.le_refl _) trivial
                            · exact r_le (w_X7_isName_b169 G h0 N  _) (Nat.le_refl _) trivial
                          · refine r_iconst (q := 119) (v := (0 : Int32)) dX7_isName_118 rfl (by decide) ?_
                            exact r_ireturnN rfl dX7_isName_119
                        · refine r_iconst (q := 119) (v := (0 : Int32)) dX7_isName_118 rfl (by decide) ?_
                          exact r_ireturnN rfl dX7_isName_119
                      · refine r_iconst (q := 119) (v := (0 : Int32)) dX7_isName_118 rfl (by decide) ?_
                        exact r_ireturnN rfl dX7_isName_119
                    · refine r_iconst (q := 119) (v := (0 : Int32)) dX7_isName_118 rfl (by decide) ?_
                      exact r_ireturnN rfl dX7_isName_119
                  · refine r_iconst (q := 119) (v := (0 : Int32)) dX7_isName_118 rfl (by decide) ?_
                    exact r_ireturnN rfl dX7_isName_119
                · refine r_iconst (q := 119) (v := (0 : Int32)) dX7_isName_118 rfl (by decide) ?_
                  exact r_ireturnN rfl dX7_isName_119
              · refine r_iconst (q := 63) (v := (0 : Int32)) dX7_isName_62 rfl (by decide) ?_
                exact r_ireturnN rfl dX7_isName_63
            · refine r_iconst (q := 63) (v := (0 : Int32)) dX7_isName_62 rfl (by decide) ?_
              exact r_ireturnN rfl dX7_isName_63
          · refine r_iconst (q := 63) (v := (0 : Int32)) dX7_isName_62 rfl (by decide) ?_
            exact r_ireturnN rfl dX7_isName_63
        · refine r_iconst (q := 63) (v := (0 : Int32)) dX7_isName_62 rfl (by decide) ?_
          exact r_ireturnN rfl dX7_isName_63
      · refine r_iconst (q := 63) (v := (0 : Int32)) dX7_isName_62 rfl (by decide) ?_
        exact r_ireturnN rfl dX7_isName_63
    · refine r_iconst (q := 63) (v := (0 : Int32)) dX7_isName_62 rfl (by decide) ?_
      exact r_ireturnN rfl dX7_isName_63
  · refine r_iconst (q := 63) (v := (0 : Int32)) dX7_isName_62 rfl (by decide) ?_
    exact r_ireturnN rfl dX7_isName_63
theorem w_X24_find_b2B (G : Gx) (h0 : G0 G) (N : Nat)   (K2 : Nat → Int64 → Int32 → Mem → Option (Int32 × Mem)) (hK2 : ∀ (a0 : Nat) (l1 : Int64) (l3 : Int32) (σ : Mem), Runs G mX24_find rhoI σ 2 [some (vR (some a0)), some (vL l1), none, some (vI l3)] [] (K2 a0 l1 l3 σ)) (a0 : Nat) (l1 : Int64) (l3 : Int32) (σ : Mem) : Runs G mX24_find rhoI σ 2 [some (vR (some a0)), some (vL l1), none, some (vI l3)] [] (f_X24_find_b2B N  K2 a0 l1 l3 σ) := by
  unfold f_X24_find_b2B
  refine r_iload_n (q := 3) dX24_find_2 rfl rfl rfl ?_
  refine r_aload_n (q := 4) dX24_find_3 rfl rfl rfl ?_
  refine r_gI (q := 7) fl_X24_88 dX24_find_4 rfl (fun x1 => ?_)
  refine r_icmp_ge (q := 10) (t := 29) dX24_find_7 rfl (by decide) (fun _ => ?_) (fun _ => ?_)
  · refine r_iconst (q := 30) (v := (-1 : Int32)) dX24_find_29 rfl (by decide) ?_
    exact r_ireturn rfl rfl dX24_find_30
  · refine r_aload_n (q := 11) dX24_find_10 rfl rfl rfl ?_
    refine r_gR (q := 14) fl_X24_78 rfl dX24_find_11 rfl (fun x2 => ?_)
    refine r_iload_n (q := 15) dX24_find_14 rfl rfl rfl ?_
    refine r_laload (q := 16) dX24_find_15 rfl (fun x3 => ?_)
    refine r_lload_n (q := 17) dX24_find_16 rfl rfl rfl ?_
    refine r_lcmp (q := 18) dX24_find_17 rfl ?_
    refine r_if_ne (q := 21) (t := 23) dX24_find_18 rfl (by decide) (fun _ => ?_) (fun _ => ?_)
    · refine r_iload_n (q := 22) dX24_find_21 rfl rfl rfl ?_
      exact r_ireturn rfl rfl dX24_find_22
    · refine r_iinc (q := 26) (v := (1 : Int32)) dX24_find_23 rfl rfl (by decide) (Nat.le_of_ble_eq_true rfl) rfl ?_
      refine r_goto (q := 2) dX24_find_26 (by decide) ?_
      exact r_le (hK2 _ _ _ _) (Nat.le_refl _) (And.intro rfl (And.intro rfl (And.intro rfl trivial)))
theorem w_X24_find_b2 (G : Gx) (h0 : G0 G) (N : Nat)   : ∀ (z : Nat) (a0 : Nat) (l1 : Int64) (l3 : Int32) (σ : Mem), Runs G mX24_find rhoI σ 2 [some (vR (some a0)), some (vL l1), none, some (vI l3)] [] (f_X24_find_b2 N  z a0 l1 l3 σ) := by
  intro z
  induction z with
  | zero => exact fun _ _ _ _ => r_none
  | succ z ih => exact fun a0 l1 l3 σ => w_X24_find_b2B G h0 N   _ ih a0 l1 l3 σ
theorem c_X24_find (G : Gx) (h0 : G0 G) (N : Nat) (a0 : Nat) (j1 : Int64) (σ : Mem) : Ct G mX24_find rhoI [vR (some a0), vL j1] σ (f_X24_find N a0 j1 σ) := by
  refine Ct_of h0 (by decide) rfl (Nat.le_of_ble_eq_true rfl) (L0 := [some (vR (some a0)), some (vL j1), none, none]) rfl ?_
  unfold f_X24_find
  refine r_iconst (q := 1) (v := (0 : Int32)) dX24_find_0 rfl (by decide) ?_
  refine r_istore_n (q := 2) dX24_find_1 rfl rfl (Nat.le_of_ble_eq_true rfl) rfl ?_
  exact r_le (w_X24_find_b2 G h0 N N _ _ _ _) (Nat.le_refl _) (And.intro rfl (And.intro rfl (And.intro rfl trivial)))
