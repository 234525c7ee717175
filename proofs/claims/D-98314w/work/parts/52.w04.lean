/-! the walks of X7_readFresh X7_needsSign X7_readPlants X7_names X7_readPlace X7_known X7_readKnown X24_path X7_readPath X7_readPerson X7_eatsSign X7_readStory X7_readGoat X7_bit X7_readFears X7_readPlant X7_readClue X7_readFact X7_readHolds -/
set_option maxRecDepth 100000
def dkwX7_readFresh_1 : List UInt8 := [159, 0, 8, 42, 6, 182, 0, 143, 42, 180, 0, 113, 64, 42, 182, 0, 136, 31, 173]
abbrev dktX7_readFresh_1 : List UInt8 := dkwX7_readFresh_1 ++ []
def dkwX7_readFresh_0 : List UInt8 := [42, 182, 0, 205, 154, 0, 8, 42, 4, 182, 0, 143, 42, 180, 0, 192, 42, 180, 0, 113, 182, 0, 209, 2]
abbrev dktX7_readFresh_0 : List UInt8 := dkwX7_readFresh_0 ++ dktX7_readFresh_1
theorem dksX7_readFresh_0 : cX7_readFresh.data.toList.drop 0 = dktX7_readFresh_0 := by decide +kernel
theorem dksX7_readFresh_1 : cX7_readFresh.data.toList.drop 24 = dktX7_readFresh_1 := dk_seg dksX7_readFresh_0 24 rfl rfl
theorem dX7_readFresh_0 : decode cX7_readFresh 0 = .ok (.aload_n 0, 1) := dk_42 (dk_at dksX7_readFresh_0 0 rfl rfl)
theorem dX7_readFresh_1 : decode cX7_readFresh 1 = .ok (.invokevirtual 205, 3) := dk_182 0 205 (dk_at dksX7_readFresh_0 1 rfl rfl)
theorem dX7_readFresh_4 : decode cX7_readFresh 4 = .ok (.ifCond .ne 8, 3) := dk_154 0 8 (dk_at dksX7_readFresh_0 4 rfl rfl)
theorem dX7_readFresh_7 : decode cX7_readFresh 7 = .ok (.aload_n 0, 1) := dk_42 (dk_at dksX7_readFresh_0 7 rfl rfl)
theorem dX7_readFresh_8 : decode cX7_readFresh 8 = .ok (.iconst 1, 1) := dk_4 (dk_at dksX7_readFresh_0 8 rfl rfl)
theorem dX7_readFresh_9 : decode cX7_readFresh 9 = .ok (.invokevirtual 143, 3) := dk_182 0 143 (dk_at dksX7_readFresh_0 9 rfl rfl)
theorem dX7_readFresh_12 : decode cX7_readFresh 12 = .ok (.aload_n 0, 1) := dk_42 (dk_at dksX7_readFresh_0 12 rfl rfl)
theorem dX7_readFresh_13 : decode cX7_readFresh 13 = .ok (.getfield 192, 3) := dk_180 0 192 (dk_at dksX7_readFresh_0 13 rfl rfl)
theorem dX7_readFresh_16 : decode cX7_readFresh 16 = .ok (.aload_n 0, 1) := dk_42 (dk_at dksX7_readFresh_0 16 rfl rfl)
theorem dX7_readFresh_17 : decode cX7_readFresh 17 = .ok (.getfield 113, 3) := dk_180 0 113 (dk_at dksX7_readFresh_0 17 rfl rfl)
theorem dX7_readFresh_20 : decode cX7_readFresh 20 = .ok (.invokevirtual 209, 3) := dk_182 0 209 (dk_at dksX7_readFresh_0 20 rfl rfl)
theorem dX7_readFresh_23 : decode cX7_readFresh 23 = .ok (.iconst (-1), 1) := dk_2 (dk_at dksX7_readFresh_0 23 rfl rfl)
theorem dX7_readFresh_24 : decode cX7_readFresh 24 = .ok (.if_icmp .eq 8, 3) := dk_159 0 8 (dk_at dksX7_readFresh_1 0 rfl rfl)
theorem dX7_readFresh_27 : decode cX7_readFresh 27 = .ok (.aload_n 0, 1) := dk_42 (dk_at dksX7_readFresh_1 3 rfl rfl)
theorem dX7_readFresh_28 : decode cX7_readFresh 28 = .ok (.iconst 3, 1) := dk_6 (dk_at dksX7_readFresh_1 4 rfl rfl)
theorem dX7_readFresh_29 : decode cX7_readFresh 29 = .ok (.invokevirtual 143, 3) := dk_182 0 143 (dk_at dksX7_readFresh_1 5 rfl rfl)
theorem dX7_readFresh_32 : decode cX7_readFresh 32 = .ok (.aload_n 0, 1) := dk_42 (dk_at dksX7_readFresh_1 8 rfl rfl)
theorem dX7_readFresh_33 : decode cX7_readFresh 33 = .ok (.getfield 113, 3) := dk_180 0 113 (dk_at dksX7_readFresh_1 9 rfl rfl)
theorem dX7_readFresh_36 : decode cX7_readFresh 36 = .ok (.lstore_n 1, 1) := dk_64 (dk_at dksX7_readFresh_1 12 rfl rfl)
theorem dX7_readFresh_37 : decode cX7_readFresh 37 = .ok (.aload_n 0, 1) := dk_42 (dk_at dksX7_readFresh_1 13 rfl rfl)
theorem dX7_readFresh_38 : decode cX7_readFresh 38 = .ok (.invokevirtual 136, 3) := dk_182 0 136 (dk_at dksX7_readFresh_1 14 rfl rfl)
theorem dX7_readFresh_41 : decode cX7_readFresh 41 = .ok (.lload_n 1, 1) := dk_31 (dk_at dksX7_readFresh_1 17 rfl rfl)
theorem dX7_readFresh_42 : decode cX7_readFresh 42 = .ok (.lreturn, 1) := dk_173 (dk_at dksX7_readFresh_1 18 rfl rfl)
def dkwX7_needsSign_1 : List UInt8 := [182, 0, 136, 177]
abbrev dktX7_needsSign_1 : List UInt8 := dkwX7_needsSign_1 ++ []
def dkwX7_needsSign_0 : List UInt8 := [42, 180, 0, 94, 7, 160, 0, 11, 42, 180, 0, 106, 27, 159, 0, 8, 42, 4, 182, 0, 143, 42]
abbrev dktX7_needsSign_0 : List UInt8 := dkwX7_needsSign_0 ++ dktX7_needsSign_1
theorem dksX7_needsSign_0 : cX7_needsSign.data.toList.drop 0 = dktX7_needsSign_0 := by decide +kernel
theorem dksX7_needsSign_1 : cX7_needsSign.data.toList.drop 22 = dktX7_needsSign_1 := dk_seg dksX7_needsSign_0 22 rfl rfl
theorem dX7_needsSign_0 : decode cX7_needsSign 0 = .ok (.aload_n 0, 1) := dk_42 (dk_at dksX7_needsSign_0 0 rfl rfl)
theorem dX7_needsSign_1 : decode cX7_needsSign 1 = .ok (.getfield 94, 3) := dk_180 0 94 (dk_at dksX7_needsSign_0 1 rfl rfl)
theorem dX7_needsSign_4 : decode cX7_needsSign 4 = .ok (.iconst 4, 1) := dk_7 (dk_at dksX7_needsSign_0 4 rfl rfl)
theorem dX7_needsSign_5 : decode cX7_needsSign 5 = .ok (.if_icmp .ne 11, 3) := dk_160 0 11 (dk_at dksX7_needsSign_0 5 rfl rfl)
theorem dX7_needsSign_8 : decode cX7_needsSign 8 = .ok (.aload_n 0, 1) := dk_42 (dk_at dksX7_needsSign_0 8 rfl rfl)
theorem dX7_needsSign_9 : decode cX7_needsSign 9 = .ok (.getfield 106, 3) := dk_180 0 106 (dk_at dksX7_needsSign_0 9 rfl rfl)
theorem dX7_needsSign_12 : decode cX7_needsSign 12 = .ok (.iload_n 1, 1) := dk_27 (dk_at dksX7_needsSign_0 12 rfl rfl)
theorem dX7_needsSign_13 : decode cX7_needsSign 13 = .ok (.if_icmp .eq 8, 3) := dk_159 0 8 (dk_at dksX7_needsSign_0 13 rfl rfl)
theorem dX7_needsSign_16 : decode cX7_needsSign 16 = .ok (.aload_n 0, 1) := dk_42 (dk_at dksX7_needsSign_0 16 rfl rfl)
theorem dX7_needsSign_17 : decode cX7_needsSign 17 = .ok (.iconst 1, 1) := dk_4 (dk_at dksX7_needsSign_0 17 rfl rfl)
theorem dX7_needsSign_18 : decode cX7_needsSign 18 = .ok (.invokevirtual 143, 3) := dk_182 0 143 (dk_at dksX7_needsSign_0 18 rfl rfl)
theorem dX7_needsSign_21 : decode cX7_needsSign 21 = .ok (.aload_n 0, 1) := dk_42 (dk_at dksX7_needsSign_0 21 rfl rfl)
theorem dX7_needsSign_22 : decode cX7_needsSign 22 = .ok (.invokevirtual 136, 3) := dk_182 0 136 (dk_at dksX7_needsSign_1 0 rfl rfl)
theorem dX7_needsSign_25 : decode cX7_needsSign 25 = .ok (.return_, 1) := dk_177 (dk_at dksX7_needsSign_1 3 rfl rfl)
def dkwX7_readPlants_2 : List UInt8 := [132, 4, 1, 167, 255, 210, 177]
abbrev dktX7_readPlants_2 : List UInt8 := dkwX7_readPlants_2 ++ []
def dkwX7_readPlants_1 : List UInt8 := [21, 4, 158, 0, 9, 42, 16, 44, 182, 0, 232, 43, 28, 21, 4, 96, 42, 3, 29, 182, 0, 155, 79]
abbrev dktX7_readPlants_1 : List UInt8 := dkwX7_readPlants_1 ++ dktX7_readPlants_2
def dkwX7_readPlants_0 : List UInt8 := [3, 54, 4, 21, 4, 42, 180, 0, 192, 180, 0, 229, 162, 0, 40, 42, 180, 0, 94, 8, 159, 0, 32]
abbrev dktX7_readPlants_0 : List UInt8 := dkwX7_readPlants_0 ++ dktX7_readPlants_1
theorem dksX7_readPlants_0 : cX7_readPlants.data.toList.drop 0 = dktX7_readPlants_0 := by decide +kernel
theorem dksX7_readPlants_1 : cX7_readPlants.data.toList.drop 23 = dktX7_readPlants_1 := dk_seg dksX7_readPlants_0 23 rfl rfl
theorem dksX7_readPlants_2 : cX7_readPlants.data.toList.drop 46 = dktX7_readPlants_2 := dk_seg dksX7_readPlants_1 23 rfl rfl
theorem dX7_readPlants_0 : decode cX7_readPlants 0 = .ok (.iconst 0, 1) := dk_3 (dk_at dksX7_readPlants_0 0 rfl rfl)
theorem dX7_readPlants_1 : decode cX7_readPlants 1 = .ok (.istore 4, 2) := dk_54 4 (dk_at dksX7_readPlants_0 1 rfl rfl)
theorem dX7_readPlants_3 : decode cX7_readPlants 3 = .ok (.iload 4, 2) := dk_21 4 (dk_at dksX7_readPlants_0 3 rfl rfl)
theorem dX7_readPlants_5 : decode cX7_readPlants 5 = .ok (.aload_n 0, 1) := dk_42 (dk_at dksX7_readPlants_0 5 rfl rfl)
theorem dX7_readPlants_6 : decode cX7_readPlants 6 = .ok (.getfield 192, 3) := dk_180 0 192 (dk_at dksX7_readPlants_0 6 rfl rfl)
theorem dX7_readPlants_9 : decode cX7_readPlants 9 = .ok (.getfield 229, 3) := dk_180 0 229 (dk_at dksX7_readPlants_0 9 rfl rfl)
theorem dX7_readPlants_12 : decode cX7_readPlants 12 = .ok (.if_icmp .ge 40, 3) := dk_162 0 40 (dk_at dksX7_readPlants_0 12 rfl rfl)
theorem dX7_readPlants_15 : decode cX7_readPlants 15 = .ok (.aload_n 0, 1) := dk_42 (dk_at dksX7_readPlants_0 15 rfl rfl)
theorem dX7_readPlants_16 : decode cX7_readPlants 16 = .ok (.getfield 94, 3) := dk_180 0 94 (dk_at dksX7_readPlants_0 16 rfl rfl)
theorem dX7_readPlants_19 : decode cX7_readPlants 19 = .ok (.iconst 5, 1) := dk_8 (dk_at dksX7_readPlants_0 19 rfl rfl)
theorem dX7_readPlants_20 : decode cX7_readPlants 20 = .ok (.if_icmp .eq 32, 3) := dk_159 0 32 (dk_at dksX7_readPlants_0 20 rfl rfl)
theorem dX7_readPlants_23 : decode cX7_readPlants 23 = .ok (.iload 4, 2) := dk_21 4 (dk_at dksX7_readPlants_1 0 rfl rfl)
theorem dX7_readPlants_25 : decode cX7_readPlants 25 = .ok (.ifCond .le 9, 3) := dk_158 0 9 (dk_at dksX7_readPlants_1 2 rfl rfl)
theorem dX7_readPlants_28 : decode cX7_readPlants 28 = .ok (.aload_n 0, 1) := dk_42 (dk_at dksX7_readPlants_1 5 rfl rfl)
theorem dX7_readPlants_29 : decode cX7_readPlants 29 = .ok (.bipush 44, 2) := dk_16 44 (dk_at dksX7_readPlants_1 6 rfl rfl)
theorem dX7_readPlants_31 : decode cX7_readPlants 31 = .ok (.invokevirtual 232, 3) := dk_182 0 232 (dk_at dksX7_readPlants_1 8 rfl rfl)
theorem dX7_readPlants_34 : decode cX7_readPlants 34 = .ok (.aload_n 1, 1) := dk_43 (dk_at dksX7_readPlants_1 11 rfl rfl)
theorem dX7_readPlants_35 : decode cX7_readPlants 35 = .ok (.iload_n 2, 1) := dk_28 (dk_at dksX7_readPlants_1 12 rfl rfl)
theorem dX7_readPlants_36 : decode cX7_readPlants 36 = .ok (.iload 4, 2) := dk_21 4 (dk_at dksX7_readPlants_1 13 rfl rfl)
theorem dX7_readPlants_38 : decode cX7_readPlants 38 = .ok (.iadd, 1) := dk_96 (dk_at dksX7_readPlants_1 15 rfl rfl)
theorem dX7_readPlants_39 : decode cX7_readPlants 39 = .ok (.aload_n 0, 1) := dk_42 (dk_at dksX7_readPlants_1 16 rfl rfl)
theorem dX7_readPlants_40 : decode cX7_readPlants 40 = .ok (.iconst 0, 1) := dk_3 (dk_at dksX7_readPlants_1 17 rfl rfl)
theorem dX7_readPlants_41 : decode cX7_readPlants 41 = .ok (.iload_n 3, 1) := dk_29 (dk_at dksX7_readPlants_1 18 rfl rfl)
theorem dX7_readPlants_42 : decode cX7_readPlants 42 = .ok (.invokevirtual 155, 3) := dk_182 0 155 (dk_at dksX7_readPlants_1 19 rfl rfl)
theorem dX7_readPlants_45 : decode cX7_readPlants 45 = .ok (.iastore, 1) := dk_79 (dk_at dksX7_readPlants_1 22 rfl rfl)
theorem dX7_readPlants_46 : decode cX7_readPlants 46 = .ok (.iinc 4 1, 3) := dk_132 4 1 (dk_at dksX7_readPlants_2 0 rfl rfl)
theorem dX7_readPlants_49 : decode cX7_readPlants 49 = .ok (.goto (-46), 3) := dk_167 255 210 (dk_at dksX7_readPlants_2 3 rfl rfl)
theorem dX7_readPlants_52 : decode cX7_readPlants 52 = .ok (.return_, 1) := dk_177 (dk_at dksX7_readPlants_2 6 rfl rfl)
def dkwX7_names_2 : List UInt8 := [79, 42, 180, 0, 192, 89, 180, 0, 217, 4, 96, 181, 0, 217, 177]
abbrev dktX7_names_2 : List UInt8 := dkwX7_names_2 ++ []
def dkwX7_names_1 : List UInt8 := [180, 0, 192, 180, 0, 217, 29, 79, 42, 180, 0, 192, 180, 0, 223, 42, 180, 0, 192, 180, 0, 217, 21, 4]
abbrev dktX7_names_1 : List UInt8 := dkwX7_names_1 ++ dktX7_names_2
def dkwX7_names_0 : List UInt8 := [42, 180, 0, 192, 180, 0, 213, 42, 180, 0, 192, 180, 0, 217, 31, 80, 42, 180, 0, 192, 180, 0, 220, 42]
abbrev dktX7_names_0 : List UInt8 := dkwX7_names_0 ++ dktX7_names_1
theorem dksX7_names_0 : cX7_names.data.toList.drop 0 = dktX7_names_0 := by decide +kernel
theorem dksX7_names_1 : cX7_names.data.toList.drop 24 = dktX7_names_1 := dk_seg dksX7_names_0 24 rfl rfl
theorem dksX7_names_2 : cX7_names.data.toList.drop 48 = dktX7_names_2 := dk_seg dksX7_names_1 24 rfl rfl
theorem dX7_names_0 : decode cX7_names 0 = .ok (.aload_n 0, 1) := dk_42 (dk_at dksX7_names_0 0 rfl rfl)
theorem dX7_names_1 : decode cX7_names 1 = .ok (.getfield 192, 3) := dk_180 0 192 (dk_at dksX7_names_0 1 rfl rfl)
theorem dX7_names_4 : decode cX7_names 4 = .ok (.getfield 213, 3) := dk_180 0 213 (dk_at dksX7_names_0 4 rfl rfl)
theorem dX7_names_7 : decode cX7_names 7 = .ok (.aload_n 0, 1) := dk_42 (dk_at dksX7_names_0 7 rfl rfl)
theorem dX7_names_8 : decode cX7_names 8 = .ok (.getfield 192, 3) := dk_180 0 192 (dk_at dksX7_names_0 8 rfl rfl)
theorem dX7_names_11 : decode cX7_names 11 = .ok (.getfield 217, 3) := dk_180 0 217 (dk_at dksX7_names_0 11 rfl rfl)
theorem dX7_names_14 : decode cX7_names 14 = .ok (.lload_n 1, 1) := dk_31 (dk_at dksX7_names_0 14 rfl rfl)
theorem dX7_names_15 : decode cX7_names 15 = .ok (.lastore, 1) := dk_80 (dk_at dksX7_names_0 15 rfl rfl)
theorem dX7_names_16 : decode cX7_names 16 = .ok (.aload_n 0, 1) := dk_42 (dk_at dksX7_names_0 16 rfl rfl)
theorem dX7_names_17 : decode cX7_names 17 = .ok (.getfield 192, 3) := dk_180 0 192 (dk_at dksX7_names_0 17 rfl rfl)
theorem dX7_names_20 : decode cX7_names 20 = .ok (.getfield 220, 3) := dk_180 0 220 (dk_at dksX7_names_0 20 rfl rfl)
theorem dX7_names_23 : decode cX7_names 23 = .ok (.aload_n 0, 1) := dk_42 (dk_at dksX7_names_0 23 rfl rfl)
theorem dX7_names_24 : decode cX7_names 24 = .ok (.getfield 192, 3) := dk_180 0 192 (dk_at dksX7_names_1 0 rfl rfl)
theorem dX7_names_27 : decode cX7_names 27 = .ok (.getfield 217, 3) := dk_180 0 217 (dk_at dksX7_names_1 3 rfl rfl)
theorem dX7_names_30 : decode cX7_names 30 = .ok (.iload_n 3, 1) := dk_29 (dk_at dksX7_names_1 6 rfl rfl)
theorem dX7_names_31 : decode cX7_names 31 = .ok (.iastore, 1) := dk_79 (dk_at dksX7_names_1 7 rfl rfl)
theorem dX7_names_32 : decode cX7_names 32 = .ok (.aload_n 0, 1) := dk_42 (dk_at dksX7_names_1 8 rfl rfl)
theorem dX7_names_33 : decode cX7_names 33 = .ok (.getfield 192, 3) := dk_180 0 192 (dk_at dksX7_names_1 9 rfl rfl)
theorem dX7_names_36 : decode cX7_names 36 = .ok (.getfield 223, 3) := dk_180 0 223 (dk_at dksX7_names_1 12 rfl rfl)
theorem dX7_names_39 : decode cX7_names 39 = .ok (.aload_n 0, 1) := dk_42 (dk_at dksX7_names_1 15 rfl rfl)
theorem dX7_names_40 : decode cX7_names 40 = .ok (.getfield 192, 3) := dk_180 0 192 (dk_at dksX7_names_1 16 rfl rfl)
theorem dX7_names_43 : decode cX7_names 43 = .ok (.getfield 217, 3) := dk_180 0 217 (dk_at dksX7_names_1 19 rfl rfl)
theorem dX7_names_46 : decode cX7_names 46 = .ok (.iload 4, 2) := dk_21 4 (dk_at dksX7_names_1 22 rfl rfl)
theorem dX7_names_48 : decode cX7_names 48 = .ok (.iastore, 1) := dk_79 (dk_at dksX7_names_2 0 rfl rfl)
theorem dX7_names_49 : decode cX7_names 49 = .ok (.aload_n 0, 1) := dk_42 (dk_at dksX7_names_2 1 rfl rfl)
theorem dX7_names_50 : decode cX7_names 50 = .ok (.getfield 192, 3) := dk_180 0 192 (dk_at dksX7_names_2 2 rfl rfl)
theorem dX7_names_53 : decode cX7_names 53 = .ok (.dup, 1) := dk_89 (dk_at dksX7_names_2 5 rfl rfl)
theorem dX7_names_54 : decode cX7_names 54 = .ok (.getfield 217, 3) := dk_180 0 217 (dk_at dksX7_names_2 6 rfl rfl)
theorem dX7_names_57 : decode cX7_names 57 = .ok (.iconst 1, 1) := dk_4 (dk_at dksX7_names_2 9 rfl rfl)
theorem dX7_names_58 : decode cX7_names 58 = .ok (.iadd, 1) := dk_96 (dk_at dksX7_names_2 10 rfl rfl)
theorem dX7_names_59 : decode cX7_names 59 = .ok (.putfield 217, 3) := dk_181 0 217 (dk_at dksX7_names_2 11 rfl rfl)
theorem dX7_names_62 : decode cX7_names 62 = .ok (.return_, 1) := dk_177 (dk_at dksX7_names_2 14 rfl rfl)
def dkwX7_readPlace_3 : List UInt8 := [180, 0, 192, 180, 0, 241, 182, 1, 47, 42, 180, 0, 192, 89, 180, 0, 241, 4, 96, 181, 0, 241, 177]
abbrev dktX7_readPlace_3 : List UInt8 := dkwX7_readPlace_3 ++ []
def dkwX7_readPlace_2 : List UInt8 := [167, 0, 4, 3, 104, 16, 9, 182, 1, 43, 42, 180, 0, 94, 8, 160, 0, 4, 177, 42, 31, 3, 42]
abbrev dktX7_readPlace_2 : List UInt8 := dkwX7_readPlace_2 ++ dktX7_readPlace_3
def dkwX7_readPlace_1 : List UInt8 := [180, 1, 40, 7, 42, 180, 0, 192, 180, 0, 241, 16, 8, 162, 0, 13, 42, 180, 0, 192, 180, 0, 241]
abbrev dktX7_readPlace_1 : List UInt8 := dkwX7_readPlace_1 ++ dktX7_readPlace_2
def dkwX7_readPlace_0 : List UInt8 := [42, 42, 180, 0, 192, 180, 0, 241, 16, 8, 182, 0, 201, 42, 182, 1, 36, 64, 42, 42, 180, 0, 192]
abbrev dktX7_readPlace_0 : List UInt8 := dkwX7_readPlace_0 ++ dktX7_readPlace_1
theorem dksX7_readPlace_0 : cX7_readPlace.data.toList.drop 0 = dktX7_readPlace_0 := by decide +kernel
theorem dksX7_readPlace_1 : cX7_readPlace.data.toList.drop 23 = dktX7_readPlace_1 := dk_seg dksX7_readPlace_0 23 rfl rfl
theorem dksX7_readPlace_2 : cX7_readPlace.data.toList.drop 46 = dktX7_readPlace_2 := dk_seg dksX7_readPlace_1 23 rfl rfl
theorem dksX7_readPlace_3 : cX7_readPlace.data.toList.drop 69 = dktX7_readPlace_3 := dk_seg dksX7_readPlace_2 23 rfl rfl
theorem dX7_readPlace_0 : decode cX7_readPlace 0 = .ok (.aload_n 0, 1) := dk_42 (dk_at dksX7_readPlace_0 0 rfl rfl)
theorem dX7_readPlace_1 : decode cX7_readPlace 1 = .ok (.aload_n 0, 1) := dk_42 (dk_at dksX7_readPlace_0 1 rfl rfl)
theorem dX7_readPlace_2 : decode cX7_readPlace 2 = .ok (.getfield 192, 3) := dk_180 0 192 (dk_at dksX7_readPlace_0 2 rfl rfl)
theorem dX7_readPlace_5 : decode cX7_readPlace 5 = .ok (.getfield 241, 3) := dk_180 0 241 (dk_at dksX7_readPlace_0 5 rfl rfl)
theorem dX7_readPlace_8 : decode cX7_readPlace 8 = .ok (.bipush 8, 2) := dk_16 8 (dk_at dksX7_readPlace_0 8 rfl rfl)
theorem dX7_readPlace_10 : decode cX7_readPlace 10 = .ok (.invokevirtual 201, 3) := dk_182 0 201 (dk_at dksX7_readPlace_0 10 rfl rfl)
theorem dX7_readPlace_13 : decode cX7_readPlace 13 = .ok (.aload_n 0, 1) := dk_42 (dk_at dksX7_readPlace_0 13 rfl rfl)
theorem dX7_readPlace_14 : decode cX7_readPlace 14 = .ok (.invokevirtual 292, 3) := dk_182 1 36 (dk_at dksX7_readPlace_0 14 rfl rfl)
theorem dX7_readPlace_17 : decode cX7_readPlace 17 = .ok (.lstore_n 1, 1) := dk_64 (dk_at dksX7_readPlace_0 17 rfl rfl)
theorem dX7_readPlace_18 : decode cX7_readPlace 18 = .ok (.aload_n 0, 1) := dk_42 (dk_at dksX7_readPlace_0 18 rfl rfl)
theorem dX7_readPlace_19 : decode cX7_readPlace 19 = .ok (.aload_n 0, 1) := dk_42 (dk_at dksX7_readPlace_0 19 rfl rfl)
theorem dX7_readPlace_20 : decode cX7_readPlace 20 = .ok (.getfield 192, 3) := dk_180 0 192 (dk_at dksX7_readPlace_0 20 rfl rfl)
theorem dX7_readPlace_23 : decode cX7_readPlace 23 = .ok (.getfield 296, 3) := dk_180 1 40 (dk_at dksX7_readPlace_1 0 rfl rfl)
theorem dX7_readPlace_26 : decode cX7_readPlace 26 = .ok (.iconst 4, 1) := dk_7 (dk_at dksX7_readPlace_1 3 rfl rfl)
theorem dX7_readPlace_27 : decode cX7_readPlace 27 = .ok (.aload_n 0, 1) := dk_42 (dk_at dksX7_readPlace_1 4 rfl rfl)
theorem dX7_readPlace_28 : decode cX7_readPlace 28 = .ok (.getfield 192, 3) := dk_180 0 192 (dk_at dksX7_readPlace_1 5 rfl rfl)
theorem dX7_readPlace_31 : decode cX7_readPlace 31 = .ok (.getfield 241, 3) := dk_180 0 241 (dk_at dksX7_readPlace_1 8 rfl rfl)
theorem dX7_readPlace_34 : decode cX7_readPlace 34 = .ok (.bipush 8, 2) := dk_16 8 (dk_at dksX7_readPlace_1 11 rfl rfl)
theorem dX7_readPlace_36 : decode cX7_readPlace 36 = .ok (.if_icmp .ge 13, 3) := dk_162 0 13 (dk_at dksX7_readPlace_1 13 rfl rfl)
theorem dX7_readPlace_39 : decode cX7_readPlace 39 = .ok (.aload_n 0, 1) := dk_42 (dk_at dksX7_readPlace_1 16 rfl rfl)
theorem dX7_readPlace_40 : decode cX7_readPlace 40 = .ok (.getfield 192, 3) := dk_180 0 192 (dk_at dksX7_readPlace_1 17 rfl rfl)
theorem dX7_readPlace_43 : decode cX7_readPlace 43 = .ok (.getfield 241, 3) := dk_180 0 241 (dk_at dksX7_readPlace_1 20 rfl rfl)
theorem dX7_readPlace_46 : decode cX7_readPlace 46 = .ok (.goto 4, 3) := dk_167 0 4 (dk_at dksX7_readPlace_2 0 rfl rfl)
theorem dX7_readPlace_49 : decode cX7_readPlace 49 = .ok (.iconst 0, 1) := dk_3 (dk_at dksX7_readPlace_2 3 rfl rfl)
theorem dX7_readPlace_50 : decode cX7_readPlace 50 = .ok (.imul, 1) := dk_104 (dk_at dksX7_readPlace_2 4 rfl rfl)
theorem dX7_readPlace_51 : decode cX7_readPlace 51 = .ok (.bipush 9, 2) := dk_16 9 (dk_at dksX7_readPlace_2 5 rfl rfl)
theorem dX7_readPlace_53 : decode cX7_readPlace 53 = .ok (.invokevirtual 299, 3) := dk_182 1 43 (dk_at dksX7_readPlace_2 7 rfl rfl)
theorem dX7_readPlace_56 : decode cX7_readPlace 56 = .ok (.aload_n 0, 1) := dk_42 (dk_at dksX7_readPlace_2 10 rfl rfl)
theorem dX7_readPlace_57 : decode cX7_readPlace 57 = .ok (.getfield 94, 3) := dk_180 0 94 (dk_at dksX7_readPlace_2 11 rfl rfl)
theorem dX7_readPlace_60 : decode cX7_readPlace 60 = .ok (.iconst 5, 1) := dk_8 (dk_at dksX7_readPlace_2 14 rfl rfl)
theorem dX7_readPlace_61 : decode cX7_readPlace 61 = .ok (.if_icmp .ne 4, 3) := dk_160 0 4 (dk_at dksX7_readPlace_2 15 rfl rfl)
theorem dX7_readPlace_64 : decode cX7_readPlace 64 = .ok (.return_, 1) := dk_177 (dk_at dksX7_readPlace_2 18 rfl rfl)
theorem dX7_readPlace_65 : decode cX7_readPlace 65 = .ok (.aload_n 0, 1) := dk_42 (dk_at dksX7_readPlace_2 19 rfl rfl)
theorem dX7_readPlace_66 : decode cX7_readPlace 66 = .ok (.lload_n 1, 1) := dk_31 (dk_at dksX7_readPlace_2 20 rfl rfl)
theorem dX7_readPlace_67 : decode cX7_readPlace 67 = .ok (.iconst 0, 1) := dk_3 (dk_at dksX7_readPlace_2 21 rfl rfl)
theorem dX7_readPlace_68 : decode cX7_readPlace 68 = .ok (.aload_n 0, 1) := dk_42 (dk_at dksX7_readPlace_2 22 rfl rfl)
theorem dX7_readPlace_69 : decode cX7_readPlace 69 = .ok (.getfield 192, 3) := dk_180 0 192 (dk_at dksX7_readPlace_3 0 rfl rfl)
theorem dX7_readPlace_72 : decode cX7_readPlace 72 = .ok (.getfield 241, 3) := dk_180 0 241 (dk_at dksX7_readPlace_3 3 rfl rfl)
theorem dX7_readPlace_75 : decode cX7_readPlace 75 = .ok (.invokevirtual 303, 3) := dk_182 1 47 (dk_at dksX7_readPlace_3 6 rfl rfl)
theorem dX7_readPlace_78 : decode cX7_readPlace 78 = .ok (.aload_n 0, 1) := dk_42 (dk_at dksX7_readPlace_3 9 rfl rfl)
theorem dX7_readPlace_79 : decode cX7_readPlace 79 = .ok (.getfield 192, 3) := dk_180 0 192 (dk_at dksX7_readPlace_3 10 rfl rfl)
theorem dX7_readPlace_82 : decode cX7_readPlace 82 = .ok (.dup, 1) := dk_89 (dk_at dksX7_readPlace_3 13 rfl rfl)
theorem dX7_readPlace_83 : decode cX7_readPlace 83 = .ok (.getfield 241, 3) := dk_180 0 241 (dk_at dksX7_readPlace_3 14 rfl rfl)
theorem dX7_readPlace_86 : decode cX7_readPlace 86 = .ok (.iconst 1, 1) := dk_4 (dk_at dksX7_readPlace_3 17 rfl rfl)
theorem dX7_readPlace_87 : decode cX7_readPlace 87 = .ok (.iadd, 1) := dk_96 (dk_at dksX7_readPlace_3 18 rfl rfl)
theorem dX7_readPlace_88 : decode cX7_readPlace 88 = .ok (.putfield 241, 3) := dk_181 0 241 (dk_at dksX7_readPlace_3 19 rfl rfl)
theorem dX7_readPlace_91 : decode cX7_readPlace 91 = .ok (.return_, 1) := dk_177 (dk_at dksX7_readPlace_3 22 rfl rfl)
def dkwX7_known_2 : List UInt8 := [180, 0, 94, 8, 160, 0, 7, 3, 167, 0, 12, 42, 180, 0, 192, 180, 0, 223, 28, 46, 172]
abbrev dktX7_known_2 : List UInt8 := dkwX7_known_2 ++ []
def dkwX7_known_1 : List UInt8 := [28, 2, 159, 0, 16, 42, 180, 0, 192, 180, 0, 220, 28, 46, 27, 159, 0, 8, 42, 5, 182, 0, 143, 42]
abbrev dktX7_known_1 : List UInt8 := dkwX7_known_1 ++ dktX7_known_2
def dkwX7_known_0 : List UInt8 := [42, 182, 0, 205, 154, 0, 8, 42, 4, 182, 0, 143, 42, 180, 0, 192, 42, 180, 0, 113, 182, 0, 209, 61]
abbrev dktX7_known_0 : List UInt8 := dkwX7_known_0 ++ dktX7_known_1
theorem dksX7_known_0 : cX7_known.data.toList.drop 0 = dktX7_known_0 := by decide +kernel
theorem dksX7_known_1 : cX7_known.data.toList.drop 24 = dktX7_known_1 := dk_seg dksX7_known_0 24 rfl rfl
theorem dksX7_known_2 : cX7_known.data.toList.drop 48 = dktX7_known_2 := dk_seg dksX7_known_1 24 rfl rfl
theorem dX7_known_0 : decode cX7_known 0 = .ok (.aload_n 0, 1) := dk_42 (dk_at dksX7_known_0 0 rfl rfl)
theorem dX7_known_1 : decode cX7_known 1 = .ok (.invokevirtual 205, 3) := dk_182 0 205 (dk_at dksX7_known_0 1 rfl rfl)
theorem dX7_known_4 : decode cX7_known 4 = .ok (.ifCond .ne 8, 3) := dk_154 0 8 (dk_at dksX7_known_0 4 rfl rfl)
theorem dX7_known_7 : decode cX7_known 7 = .ok (.aload_n 0, 1) := dk_42 (dk_at dksX7_known_0 7 rfl rfl)
theorem dX7_known_8 : decode cX7_known 8 = .ok (.iconst 1, 1) := dk_4 (dk_at dksX7_known_0 8 rfl rfl)
theorem dX7_known_9 : decode cX7_known 9 = .ok (.invokevirtual 143, 3) := dk_182 0 143 (dk_at dksX7_known_0 9 rfl rfl)
theorem dX7_known_12 : decode cX7_known 12 = .ok (.aload_n 0, 1) := dk_42 (dk_at dksX7_known_0 12 rfl rfl)
theorem dX7_known_13 : decode cX7_known 13 = .ok (.getfield 192, 3) := dk_180 0 192 (dk_at dksX7_known_0 13 rfl rfl)
theorem dX7_known_16 : decode cX7_known 16 = .ok (.aload_n 0, 1) := dk_42 (dk_at dksX7_known_0 16 rfl rfl)
theorem dX7_known_17 : decode cX7_known 17 = .ok (.getfield 113, 3) := dk_180 0 113 (dk_at dksX7_known_0 17 rfl rfl)
theorem dX7_known_20 : decode cX7_known 20 = .ok (.invokevirtual 209, 3) := dk_182 0 209 (dk_at dksX7_known_0 20 rfl rfl)
theorem dX7_known_23 : decode cX7_known 23 = .ok (.istore_n 2, 1) := dk_61 (dk_at dksX7_known_0 23 rfl rfl)
theorem dX7_known_24 : decode cX7_known 24 = .ok (.iload_n 2, 1) := dk_28 (dk_at dksX7_known_1 0 rfl rfl)
theorem dX7_known_25 : decode cX7_known 25 = .ok (.iconst (-1), 1) := dk_2 (dk_at dksX7_known_1 1 rfl rfl)
theorem dX7_known_26 : decode cX7_known 26 = .ok (.if_icmp .eq 16, 3) := dk_159 0 16 (dk_at dksX7_known_1 2 rfl rfl)
theorem dX7_known_29 : decode cX7_known 29 = .ok (.aload_n 0, 1) := dk_42 (dk_at dksX7_known_1 5 rfl rfl)
theorem dX7_known_30 : decode cX7_known 30 = .ok (.getfield 192, 3) := dk_180 0 192 (dk_at dksX7_known_1 6 rfl rfl)
theorem dX7_known_33 : decode cX7_known 33 = .ok (.getfield 220, 3) := dk_180 0 220 (dk_at dksX7_known_1 9 rfl rfl)
theorem dX7_known_36 : decode cX7_known 36 = .ok (.iload_n 2, 1) := dk_28 (dk_at dksX7_known_1 12 rfl rfl)
theorem dX7_known_37 : decode cX7_known 37 = .ok (.iaload, 1) := dk_46 (dk_at dksX7_known_1 13 rfl rfl)
theorem dX7_known_38 : decode cX7_known 38 = .ok (.iload_n 1, 1) := dk_27 (dk_at dksX7_known_1 14 rfl rfl)
theorem dX7_known_39 : decode cX7_known 39 = .ok (.if_icmp .eq 8, 3) := dk_159 0 8 (dk_at dksX7_known_1 15 rfl rfl)
theorem dX7_known_42 : decode cX7_known 42 = .ok (.aload_n 0, 1) := dk_42 (dk_at dksX7_known_1 18 rfl rfl)
theorem dX7_known_43 : decode cX7_known 43 = .ok (.iconst 2, 1) := dk_5 (dk_at dksX7_known_1 19 rfl rfl)
theorem dX7_known_44 : decode cX7_known 44 = .ok (.invokevirtual 143, 3) := dk_182 0 143 (dk_at dksX7_known_1 20 rfl rfl)
theorem dX7_known_47 : decode cX7_known 47 = .ok (.aload_n 0, 1) := dk_42 (dk_at dksX7_known_1 23 rfl rfl)
theorem dX7_known_48 : decode cX7_known 48 = .ok (.getfield 94, 3) := dk_180 0 94 (dk_at dksX7_known_2 0 rfl rfl)
theorem dX7_known_51 : decode cX7_known 51 = .ok (.iconst 5, 1) := dk_8 (dk_at dksX7_known_2 3 rfl rfl)
theorem dX7_known_52 : decode cX7_known 52 = .ok (.if_icmp .ne 7, 3) := dk_160 0 7 (dk_at dksX7_known_2 4 rfl rfl)
theorem dX7_known_55 : decode cX7_known 55 = .ok (.iconst 0, 1) := dk_3 (dk_at dksX7_known_2 7 rfl rfl)
theorem dX7_known_56 : decode cX7_known 56 = .ok (.goto 12, 3) := dk_167 0 12 (dk_at dksX7_known_2 8 rfl rfl)
theorem dX7_known_59 : decode cX7_known 59 = .ok (.aload_n 0, 1) := dk_42 (dk_at dksX7_known_2 11 rfl rfl)
theorem dX7_known_60 : decode cX7_known 60 = .ok (.getfield 192, 3) := dk_180 0 192 (dk_at dksX7_known_2 12 rfl rfl)
theorem dX7_known_63 : decode cX7_known 63 = .ok (.getfield 223, 3) := dk_180 0 223 (dk_at dksX7_known_2 15 rfl rfl)
theorem dX7_known_66 : decode cX7_known 66 = .ok (.iload_n 2, 1) := dk_28 (dk_at dksX7_known_2 18 rfl rfl)
theorem dX7_known_67 : decode cX7_known 67 = .ok (.iaload, 1) := dk_46 (dk_at dksX7_known_2 19 rfl rfl)
theorem dX7_known_68 : decode cX7_known 68 = .ok (.ireturn, 1) := dk_172 (dk_at dksX7_known_2 20 rfl rfl)
def dkwX7_readKnown_0 : List UInt8 := [42, 27, 182, 0, 226, 61, 42, 182, 0, 136, 28, 172]
abbrev dktX7_readKnown_0 : List UInt8 := dkwX7_readKnown_0 ++ []
theorem dksX7_readKnown_0 : cX7_readKnown.data.toList.drop 0 = dktX7_readKnown_0 := by decide +kernel
theorem dX7_readKnown_0 : decode cX7_readKnown 0 = .ok (.aload_n 0, 1) := dk_42 (dk_at dksX7_readKnown_0 0 rfl rfl)
theorem dX7_readKnown_1 : decode cX7_readKnown 1 = .ok (.iload_n 1, 1) := dk_27 (dk_at dksX7_readKnown_0 1 rfl rfl)
theorem dX7_readKnown_2 : decode cX7_readKnown 2 = .ok (.invokevirtual 226, 3) := dk_182 0 226 (dk_at dksX7_readKnown_0 2 rfl rfl)
theorem dX7_readKnown_5 : decode cX7_readKnown 5 = .ok (.istore_n 2, 1) := dk_61 (dk_at dksX7_readKnown_0 5 rfl rfl)
theorem dX7_readKnown_6 : decode cX7_readKnown 6 = .ok (.aload_n 0, 1) := dk_42 (dk_at dksX7_readKnown_0 6 rfl rfl)
theorem dX7_readKnown_7 : decode cX7_readKnown 7 = .ok (.invokevirtual 136, 3) := dk_182 0 136 (dk_at dksX7_readKnown_0 7 rfl rfl)
theorem dX7_readKnown_10 : decode cX7_readKnown 10 = .ok (.iload_n 2, 1) := dk_28 (dk_at dksX7_readKnown_0 10 rfl rfl)
theorem dX7_readKnown_11 : decode cX7_readKnown 11 = .ok (.ireturn, 1) := dk_172 (dk_at dksX7_readKnown_0 11 rfl rfl)
def dkwX24_path_2 : List UInt8 := [160, 0, 5, 29, 172, 132, 3, 1, 167, 255, 203, 2, 172]
abbrev dktX24_path_2 : List UInt8 := dkwX24_path_2 ++ []
def dkwX24_path_1 : List UInt8 := [29, 46, 28, 159, 0, 23, 42, 180, 0, 15, 29, 46, 28, 160, 0, 15, 42, 180, 0, 18, 29, 46, 27]
abbrev dktX24_path_1 : List UInt8 := dkwX24_path_1 ++ dktX24_path_2
def dkwX24_path_0 : List UInt8 := [3, 62, 29, 42, 180, 0, 92, 162, 0, 51, 42, 180, 0, 15, 29, 46, 27, 160, 0, 13, 42, 180, 0, 18]
abbrev dktX24_path_0 : List UInt8 := dkwX24_path_0 ++ dktX24_path_1
theorem dksX24_path_0 : cX24_path.data.toList.drop 0 = dktX24_path_0 := by decide +kernel
theorem dksX24_path_1 : cX24_path.data.toList.drop 24 = dktX24_path_1 := dk_seg dksX24_path_0 24 rfl rfl
theorem dksX24_path_2 : cX24_path.data.toList.drop 47 = dktX24_path_2 := dk_seg dksX24_path_1 23 rfl rfl
theorem dX24_path_0 : decode cX24_path 0 = .ok (.iconst 0, 1) := dk_3 (dk_at dksX24_path_0 0 rfl rfl)
theorem dX24_path_1 : decode cX24_path 1 = .ok (.istore_n 3, 1) := dk_62 (dk_at dksX24_path_0 1 rfl rfl)
theorem dX24_path_2 : decode cX24_path 2 = .ok (.iload_n 3, 1) := dk_29 (dk_at dksX24_path_0 2 rfl rfl)
theorem dX24_path_3 : decode cX24_path 3 = .ok (.aload_n 0, 1) := dk_42 (dk_at dksX24_path_0 3 rfl rfl)
theorem dX24_path_4 : decode cX24_path 4 = .ok (.getfield 92, 3) := dk_180 0 92 (dk_at dksX24_path_0 4 rfl rfl)
theorem dX24_path_7 : decode cX24_path 7 = .ok (.if_icmp .ge 51, 3) := dk_162 0 51 (dk_at dksX24_path_0 7 rfl rfl)
theorem dX24_path_10 : decode cX24_path 10 = .ok (.aload_n 0, 1) := dk_42 (dk_at dksX24_path_0 10 rfl rfl)
theorem dX24_path_11 : decode cX24_path 11 = .ok (.getfield 15, 3) := dk_180 0 15 (dk_at dksX24_path_0 11 rfl rfl)
theorem dX24_path_14 : decode cX24_path 14 = .ok (.iload_n 3, 1) := dk_29 (dk_at dksX24_path_0 14 rfl rfl)
theorem dX24_path_15 : decode cX24_path 15 = .ok (.iaload, 1) := dk_46 (dk_at dksX24_path_0 15 rfl rfl)
theorem dX24_path_16 : decode cX24_path 16 = .ok (.iload_n 1, 1) := dk_27 (dk_at dksX24_path_0 16 rfl rfl)
theorem dX24_path_17 : decode cX24_path 17 = .ok (.if_icmp .ne 13, 3) := dk_160 0 13 (dk_at dksX24_path_0 17 rfl rfl)
theorem dX24_path_20 : decode cX24_path 20 = .ok (.aload_n 0, 1) := dk_42 (dk_at dksX24_path_0 20 rfl rfl)
theorem dX24_path_21 : decode cX24_path 21 = .ok (.getfield 18, 3) := dk_180 0 18 (dk_at dksX24_path_0 21 rfl rfl)
theorem dX24_path_24 : decode cX24_path 24 = .ok (.iload_n 3, 1) := dk_29 (dk_at dksX24_path_1 0 rfl rfl)
theorem dX24_path_25 : decode cX24_path 25 = .ok (.iaload, 1) := dk_46 (dk_at dksX24_path_1 1 rfl rfl)
theorem dX24_path_26 : decode cX24_path 26 = .ok (.iload_n 2, 1) := dk_28 (dk_at dksX24_path_1 2 rfl rfl)
theorem dX24_path_27 : decode cX24_path 27 = .ok (.if_icmp .eq 23, 3) := dk_159 0 23 (dk_at dksX24_path_1 3 rfl rfl)
theorem dX24_path_30 : decode cX24_path 30 = .ok (.aload_n 0, 1) := dk_42 (dk_at dksX24_path_1 6 rfl rfl)
theorem dX24_path_31 : decode cX24_path 31 = .ok (.getfield 15, 3) := dk_180 0 15 (dk_at dksX24_path_1 7 rfl rfl)
theorem dX24_path_34 : decode cX24_path 34 = .ok (.iload_n 3, 1) := dk_29 (dk_at dksX24_path_1 10 rfl rfl)
theorem dX24_path_35 : decode cX24_path 35 = .ok (.iaload, 1) := dk_46 (dk_at dksX24_path_1 11 rfl rfl)
theorem dX24_path_36 : decode cX24_path 36 = .ok (.iload_n 2, 1) := dk_28 (dk_at dksX24_path_1 12 rfl rfl)
theorem dX24_path_37 : decode cX24_path 37 = .ok (.if_icmp .ne 15, 3) := dk_160 0 15 (dk_at dksX24_path_1 13 rfl rfl)
theorem dX24_path_40 : decode cX24_path 40 = .ok (.aload_n 0, 1) := dk_42 (dk_at dksX24_path_1 16 rfl rfl)
theorem dX24_path_41 : decode cX24_path 41 = .ok (.getfield 18, 3) := dk_180 0 18 (dk_at dksX24_path_1 17 rfl rfl)
theorem dX24_path_44 : decode cX24_path 44 = .ok (.iload_n 3, 1) := dk_29 (dk_at dksX24_path_1 20 rfl rfl)
theorem dX24_path_45 : decode cX24_path 45 = .ok (.iaload, 1) := dk_46 (dk_at dksX24_path_1 21 rfl rfl)
theorem dX24_path_46 : decode cX24_path 46 = .ok (.iload_n 1, 1) := dk_27 (dk_at dksX24_path_1 22 rfl rfl)
theorem dX24_path_47 : decode cX24_path 47 = .ok (.if_icmp .ne 5, 3) := dk_160 0 5 (dk_at dksX24_path_2 0 rfl rfl)
theorem dX24_path_50 : decode cX24_path 50 = .ok (.iload_n 3, 1) := dk_29 (dk_at dksX24_path_2 3 rfl rfl)
theorem dX24_path_51 : decode cX24_path 51 = .ok (.ireturn, 1) := dk_172 (dk_at dksX24_path_2 4 rfl rfl)
theorem dX24_path_52 : decode cX24_path 52 = .ok (.iinc 3 1, 3) := dk_132 3 1 (dk_at dksX24_path_2 5 rfl rfl)
theorem dX24_path_55 : decode cX24_path 55 = .ok (.goto (-53), 3) := dk_167 255 203 (dk_at dksX24_path_2 8 rfl rfl)
theorem dX24_path_58 : decode cX24_path 58 = .ok (.iconst (-1), 1) := dk_2 (dk_at dksX24_path_2 11 rfl rfl)
theorem dX24_path_59 : decode cX24_path 59 = .ok (.ireturn, 1) := dk_172 (dk_at dksX24_path_2 12 rfl rfl)
def dkwX7_readPath_4 : List UInt8 := [180, 0, 192, 180, 1, 50, 28, 79, 42, 180, 0, 192, 89, 180, 1, 50, 4, 96, 181, 1, 50, 177]
abbrev dktX7_readPath_4 : List UInt8 := dkwX7_readPath_4 ++ []
def dkwX7_readPath_3 : List UInt8 := [180, 0, 192, 180, 1, 58, 42, 180, 0, 192, 180, 1, 50, 27, 79, 42, 180, 0, 192, 180, 1, 61, 42]
abbrev dktX7_readPath_3 : List UInt8 := dkwX7_readPath_3 ++ dktX7_readPath_4
def dkwX7_readPath_2 : List UInt8 := [159, 0, 8, 42, 6, 182, 0, 143, 42, 182, 0, 136, 42, 180, 0, 94, 8, 160, 0, 4, 177, 42]
abbrev dktX7_readPath_2 : List UInt8 := dkwX7_readPath_2 ++ dktX7_readPath_3
def dkwX7_readPath_1 : List UInt8 := [61, 42, 180, 0, 94, 8, 159, 0, 26, 27, 28, 159, 0, 16, 42, 180, 0, 192, 27, 28, 182, 1, 56, 2]
abbrev dktX7_readPath_1 : List UInt8 := dkwX7_readPath_1 ++ dktX7_readPath_2
def dkwX7_readPath_0 : List UInt8 := [42, 42, 180, 0, 192, 180, 1, 50, 16, 14, 182, 0, 201, 42, 3, 182, 1, 53, 60, 42, 3, 182, 0, 226]
abbrev dktX7_readPath_0 : List UInt8 := dkwX7_readPath_0 ++ dktX7_readPath_1
theorem dksX7_readPath_0 : cX7_readPath.data.toList.drop 0 = dktX7_readPath_0 := by decide +kernel
theorem dksX7_readPath_1 : cX7_readPath.data.toList.drop 24 = dktX7_readPath_1 := dk_seg dksX7_readPath_0 24 rfl rfl
theorem dksX7_readPath_2 : cX7_readPath.data.toList.drop 48 = dktX7_readPath_2 := dk_seg dksX7_readPath_1 24 rfl rfl
theorem dksX7_readPath_3 : cX7_readPath.data.toList.drop 70 = dktX7_readPath_3 := dk_seg dksX7_readPath_2 22 rfl rfl
theorem dksX7_readPath_4 : cX7_readPath.data.toList.drop 93 = dktX7_readPath_4 := dk_seg dksX7_readPath_3 23 rfl rfl
theorem dX7_readPath_0 : decode cX7_readPath 0 = .ok (.aload_n 0, 1) := dk_42 (dk_at dksX7_readPath_0 0 rfl rfl)
theorem dX7_readPath_1 : decode cX7_readPath 1 = .ok (.aload_n 0, 1) := dk_42 (dk_at dksX7_readPath_0 1 rfl rfl)
theorem dX7_readPath_2 : decode cX7_readPath 2 = .ok (.getfield 192, 3) := dk_180 0 192 (dk_at dksX7_readPath_0 2 rfl rfl)
theorem dX7_readPath_5 : decode cX7_readPath 5 = .ok (.getfield 306, 3) := dk_180 1 50 (dk_at dksX7_readPath_0 5 rfl rfl)
theorem dX7_readPath_8 : decode cX7_readPath 8 = .ok (.bipush 14, 2) := dk_16 14 (dk_at dksX7_readPath_0 8 rfl rfl)
theorem dX7_readPath_10 : decode cX7_readPath 10 = .ok (.invokevirtual 201, 3) := dk_182 0 201 (dk_at dksX7_readPath_0 10 rfl rfl)
theorem dX7_readPath_13 : decode cX7_readPath 13 = .ok (.aload_n 0, 1) := dk_42 (dk_at dksX7_readPath_0 13 rfl rfl)
theorem dX7_readPath_14 : decode cX7_readPath 14 = .ok (.iconst 0, 1) := dk_3 (dk_at dksX7_readPath_0 14 rfl rfl)
theorem dX7_readPath_15 : decode cX7_readPath 15 = .ok (.invokevirtual 309, 3) := dk_182 1 53 (dk_at dksX7_readPath_0 15 rfl rfl)
theorem dX7_readPath_18 : decode cX7_readPath 18 = .ok (.istore_n 1, 1) := dk_60 (dk_at dksX7_readPath_0 18 rfl rfl)
theorem dX7_readPath_19 : decode cX7_readPath 19 = .ok (.aload_n 0, 1) := dk_42 (dk_at dksX7_readPath_0 19 rfl rfl)
theorem dX7_readPath_20 : decode cX7_readPath 20 = .ok (.iconst 0, 1) := dk_3 (dk_at dksX7_readPath_0 20 rfl rfl)
theorem dX7_readPath_21 : decode cX7_readPath 21 = .ok (.invokevirtual 226, 3) := dk_182 0 226 (dk_at dksX7_readPath_0 21 rfl rfl)
theorem dX7_readPath_24 : decode cX7_readPath 24 = .ok (.istore_n 2, 1) := dk_61 (dk_at dksX7_readPath_1 0 rfl rfl)
theorem dX7_readPath_25 : decode cX7_readPath 25 = .ok (.aload_n 0, 1) := dk_42 (dk_at dksX7_readPath_1 1 rfl rfl)
theorem dX7_readPath_26 : decode cX7_readPath 26 = .ok (.getfield 94, 3) := dk_180 0 94 (dk_at dksX7_readPath_1 2 rfl rfl)
theorem dX7_readPath_29 : decode cX7_readPath 29 = .ok (.iconst 5, 1) := dk_8 (dk_at dksX7_readPath_1 5 rfl rfl)
theorem dX7_readPath_30 : decode cX7_readPath 30 = .ok (.if_icmp .eq 26, 3) := dk_159 0 26 (dk_at dksX7_readPath_1 6 rfl rfl)
theorem dX7_readPath_33 : decode cX7_readPath 33 = .ok (.iload_n 1, 1) := dk_27 (dk_at dksX7_readPath_1 9 rfl rfl)
theorem dX7_readPath_34 : decode cX7_readPath 34 = .ok (.iload_n 2, 1) := dk_28 (dk_at dksX7_readPath_1 10 rfl rfl)
theorem dX7_readPath_35 : decode cX7_readPath 35 = .ok (.if_icmp .eq 16, 3) := dk_159 0 16 (dk_at dksX7_readPath_1 11 rfl rfl)
theorem dX7_readPath_38 : decode cX7_readPath 38 = .ok (.aload_n 0, 1) := dk_42 (dk_at dksX7_readPath_1 14 rfl rfl)
theorem dX7_readPath_39 : decode cX7_readPath 39 = .ok (.getfield 192, 3) := dk_180 0 192 (dk_at dksX7_readPath_1 15 rfl rfl)
theorem dX7_readPath_42 : decode cX7_readPath 42 = .ok (.iload_n 1, 1) := dk_27 (dk_at dksX7_readPath_1 18 rfl rfl)
theorem dX7_readPath_43 : decode cX7_readPath 43 = .ok (.iload_n 2, 1) := dk_28 (dk_at dksX7_readPath_1 19 rfl rfl)
theorem dX7_readPath_44 : decode cX7_readPath 44 = .ok (.invokevirtual 312, 3) := dk_182 1 56 (dk_at dksX7_readPath_1 20 rfl rfl)
theorem dX7_readPath_47 : decode cX7_readPath 47 = .ok (.iconst (-1), 1) := dk_2 (dk_at dksX7_readPath_1 23 rfl rfl)
theorem dX7_readPath_48 : decode cX7_readPath 48 = .ok (.if_icmp .eq 8, 3) := dk_159 0 8 (dk_at dksX7_readPath_2 0 rfl rfl)
theorem dX7_readPath_51 : decode cX7_readPath 51 = .ok (.aload_n 0, 1) := dk_42 (dk_at dksX7_readPath_2 3 rfl rfl)
theorem dX7_readPath_52 : decode cX7_readPath 52 = .ok (.iconst 3, 1) := dk_6 (dk_at dksX7_readPath_2 4 rfl rfl)
theorem dX7_readPath_53 : decode cX7_readPath 53 = .ok (.invokevirtual 143, 3) := dk_182 0 143 (dk_at dksX7_readPath_2 5 rfl rfl)
theorem dX7_readPath_56 : decode cX7_readPath 56 = .ok (.aload_n 0, 1) := dk_42 (dk_at dksX7_readPath_2 8 rfl rfl)
theorem dX7_readPath_57 : decode cX7_readPath 57 = .ok (.invokevirtual 136, 3) := dk_182 0 136 (dk_at dksX7_readPath_2 9 rfl rfl)
theorem dX7_readPath_60 : decode cX7_readPath 60 = .ok (.aload_n 0, 1) := dk_42 (dk_at dksX7_readPath_2 12 rfl rfl)
theorem dX7_readPath_61 : decode cX7_readPath 61 = .ok (.getfield 94, 3) := dk_180 0 94 (dk_at dksX7_readPath_2 13 rfl rfl)
theorem dX7_readPath_64 : decode cX7_readPath 64 = .ok (.iconst 5, 1) := dk_8 (dk_at dksX7_readPath_2 16 rfl rfl)
theorem dX7_readPath_65 : decode cX7_readPath 65 = .ok (.if_icmp .ne 4, 3) := dk_160 0 4 (dk_at dksX7_readPath_2 17 rfl rfl)
theorem dX7_readPath_68 : decode cX7_readPath 68 = .ok (.return_, 1) := dk_177 (dk_at dksX7_readPath_2 20 rfl rfl)
theorem dX7_readPath_69 : decode cX7_readPath 69 = .ok (.aload_n 0, 1) := dk_42 (dk_at dksX7_readPath_2 21 rfl rfl)
theorem dX7_readPath_70 : decode cX7_readPath 70 = .ok (.getfield 192, 3) := dk_180 0 192 (dk_at dksX7_readPath_3 0 rfl rfl)
theorem dX7_readPath_73 : decode cX7_readPath 73 = .ok (.getfield 314, 3) := dk_180 1 58 (dk_at dksX7_readPath_3 3 rfl rfl)
theorem dX7_readPath_76 : decode cX7_readPath 76 = .ok (.aload_n 0, 1) := dk_42 (dk_at dksX7_readPath_3 6 rfl rfl)
theorem dX7_readPath_77 : decode cX7_readPath 77 = .ok (.getfield 192, 3) := dk_180 0 192 (dk_at dksX7_readPath_3 7 rfl rfl)
theorem dX7_readPath_80 : decode cX7_readPath 80 = .ok (.getfield 306, 3) := dk_180 1 50 (dk_at dksX7_readPath_3 10 rfl rfl)
theorem dX7_readPath_83 : decode cX7_readPath 83 = .ok (.iload_n 1, 1) := dk_27 (dk_at dksX7_readPath_3 13 rfl rfl)
theorem dX7_readPath_84 : decode cX7_readPath 84 = .ok (.iastore, 1) := dk_79 (dk_at dksX7_readPath_3 14 rfl rfl)
theorem dX7_readPath_85 : decode cX7_readPath 85 = .ok (.aload_n 0, 1) := dk_42 (dk_at dksX7_readPath_3 15 rfl rfl)
theorem dX7_readPath_86 : decode cX7_readPath 86 = .ok (.getfield 192, 3) := dk_180 0 192 (dk_at dksX7_readPath_3 16 rfl rfl)
theorem dX7_readPath_89 : decode cX7_readPath 89 = .ok (.getfield 317, 3) := dk_180 1 61 (dk_at dksX7_readPath_3 19 rfl rfl)
theorem dX7_readPath_92 : decode cX7_readPath 92 = .ok (.aload_n 0, 1) := dk_42 (dk_at dksX7_readPath_3 22 rfl rfl)
theorem dX7_readPath_93 : decode cX7_readPath 93 = .ok (.getfield 192, 3) := dk_180 0 192 (dk_at dksX7_readPath_4 0 rfl rfl)
theorem dX7_readPath_96 : decode cX7_readPath 96 = .ok (.getfield 306, 3) := dk_180 1 50 (dk_at dksX7_readPath_4 3 rfl rfl)
theorem dX7_readPath_99 : decode cX7_readPath 99 = .ok (.iload_n 2, 1) := dk_28 (dk_at dksX7_readPath_4 6 rfl rfl)
theorem dX7_readPath_100 : decode cX7_readPath 100 = .ok (.iastore, 1) := dk_79 (dk_at dksX7_readPath_4 7 rfl rfl)
theorem dX7_readPath_101 : decode cX7_readPath 101 = .ok (.aload_n 0, 1) := dk_42 (dk_at dksX7_readPath_4 8 rfl rfl)
theorem dX7_readPath_102 : decode cX7_readPath 102 = .ok (.getfield 192, 3) := dk_180 0 192 (dk_at dksX7_readPath_4 9 rfl rfl)
theorem dX7_readPath_105 : decode cX7_readPath 105 = .ok (.dup, 1) := dk_89 (dk_at dksX7_readPath_4 12 rfl rfl)
theorem dX7_readPath_106 : decode cX7_readPath 106 = .ok (.getfield 306, 3) := dk_180 1 50 (dk_at dksX7_readPath_4 13 rfl rfl)
theorem dX7_readPath_109 : decode cX7_readPath 109 = .ok (.iconst 1, 1) := dk_4 (dk_at dksX7_readPath_4 16 rfl rfl)
theorem dX7_readPath_110 : decode cX7_readPath 110 = .ok (.iadd, 1) := dk_96 (dk_at dksX7_readPath_4 17 rfl rfl)
theorem dX7_readPath_111 : decode cX7_readPath 111 = .ok (.putfield 306, 3) := dk_181 1 50 (dk_at dksX7_readPath_4 18 rfl rfl)
theorem dX7_readPath_114 : decode cX7_readPath 114 = .ok (.return_, 1) := dk_177 (dk_at dksX7_readPath_4 21 rfl rfl)
def dkwX7_readPerson_2 : List UInt8 := [180, 1, 64, 4, 96, 181, 1, 64, 177]
abbrev dktX7_readPerson_2 : List UInt8 := dkwX7_readPerson_2 ++ []
def dkwX7_readPerson_1 : List UInt8 := [160, 0, 4, 177, 42, 31, 4, 42, 180, 0, 192, 180, 1, 64, 182, 1, 47, 42, 180, 0, 192, 89]
abbrev dktX7_readPerson_1 : List UInt8 := dkwX7_readPerson_1 ++ dktX7_readPerson_2
def dkwX7_readPerson_0 : List UInt8 := [42, 42, 180, 0, 192, 180, 1, 64, 7, 182, 0, 201, 42, 182, 1, 36, 64, 42, 180, 0, 94, 8]
abbrev dktX7_readPerson_0 : List UInt8 := dkwX7_readPerson_0 ++ dktX7_readPerson_1
theorem dksX7_readPerson_0 : cX7_readPerson.data.toList.drop 0 = dktX7_readPerson_0 := by decide +kernel
theorem dksX7_readPerson_1 : cX7_readPerson.data.toList.drop 22 = dktX7_readPerson_1 := dk_seg dksX7_readPerson_0 22 rfl rfl
theorem dksX7_readPerson_2 : cX7_readPerson.data.toList.drop 44 = dktX7_readPerson_2 := dk_seg dksX7_readPerson_1 22 rfl rfl
theorem dX7_readPerson_0 : decode cX7_readPerson 0 = .ok (.aload_n 0, 1) := dk_42 (dk_at dksX7_readPerson_0 0 rfl rfl)
theorem dX7_readPerson_1 : decode cX7_readPerson 1 = .ok (.aload_n 0, 1) := dk_42 (dk_at dksX7_readPerson_0 1 rfl rfl)
theorem dX7_readPerson_2 : decode cX7_readPerson 2 = .ok (.getfield 192, 3) := dk_180 0 192 (dk_at dksX7_readPerson_0 2 rfl rfl)
theorem dX7_readPerson_5 : decode cX7_readPerson 5 = .ok (.getfield 320, 3) := dk_180 1 64 (dk_at dksX7_readPerson_0 5 rfl rfl)
theorem dX7_readPerson_8 : decode cX7_readPerson 8 = .ok (.iconst 4, 1) := dk_7 (dk_at dksX7_readPerson_0 8 rfl rfl)
theorem dX7_readPerson_9 : decode cX7_readPerson 9 = .ok (.invokevirtual 201, 3) := dk_182 0 201 (dk_at dksX7_readPerson_0 9 rfl rfl)
theorem dX7_readPerson_12 : decode cX7_readPerson 12 = .ok (.aload_n 0, 1) := dk_42 (dk_at dksX7_readPerson_0 12 rfl rfl)
theorem dX7_readPerson_13 : decode cX7_readPerson 13 = .ok (.invokevirtual 292, 3) := dk_182 1 36 (dk_at dksX7_readPerson_0 13 rfl rfl)
theorem dX7_readPerson_16 : decode cX7_readPerson 16 = .ok (.lstore_n 1, 1) := dk_64 (dk_at dksX7_readPerson_0 16 rfl rfl)
theorem dX7_readPerson_17 : decode cX7_readPerson 17 = .ok (.aload_n 0, 1) := dk_42 (dk_at dksX7_readPerson_0 17 rfl rfl)
theorem dX7_readPerson_18 : decode cX7_readPerson 18 = .ok (.getfield 94, 3) := dk_180 0 94 (dk_at dksX7_readPerson_0 18 rfl rfl)
theorem dX7_readPerson_21 : decode cX7_readPerson 21 = .ok (.iconst 5, 1) := dk_8 (dk_at dksX7_readPerson_0 21 rfl rfl)
theorem dX7_readPerson_22 : decode cX7_readPerson 22 = .ok (.if_icmp .ne 4, 3) := dk_160 0 4 (dk_at dksX7_readPerson_1 0 rfl rfl)
theorem dX7_readPerson_25 : decode cX7_readPerson 25 = .ok (.return_, 1) := dk_177 (dk_at dksX7_readPerson_1 3 rfl rfl)
theorem dX7_readPerson_26 : decode cX7_readPerson 26 = .ok (.aload_n 0, 1) := dk_42 (dk_at dksX7_readPerson_1 4 rfl rfl)
theorem dX7_readPerson_27 : decode cX7_readPerson 27 = .ok (.lload_n 1, 1) := dk_31 (dk_at dksX7_readPerson_1 5 rfl rfl)
theorem dX7_readPerson_28 : decode cX7_readPerson 28 = .ok (.iconst 1, 1) := dk_4 (dk_at dksX7_readPerson_1 6 rfl rfl)
theorem dX7_readPerson_29 : decode cX7_readPerson 29 = .ok (.aload_n 0, 1) := dk_42 (dk_at dksX7_readPerson_1 7 rfl rfl)
theorem dX7_readPerson_30 : decode cX7_readPerson 30 = .ok (.getfield 192, 3) := dk_180 0 192 (dk_at dksX7_readPerson_1 8 rfl rfl)
theorem dX7_readPerson_33 : decode cX7_readPerson 33 = .ok (.getfield 320, 3) := dk_180 1 64 (dk_at dksX7_readPerson_1 11 rfl rfl)
theorem dX7_readPerson_36 : decode cX7_readPerson 36 = .ok (.invokevirtual 303, 3) := dk_182 1 47 (dk_at dksX7_readPerson_1 14 rfl rfl)
theorem dX7_readPerson_39 : decode cX7_readPerson 39 = .ok (.aload_n 0, 1) := dk_42 (dk_at dksX7_readPerson_1 17 rfl rfl)
theorem dX7_readPerson_40 : decode cX7_readPerson 40 = .ok (.getfield 192, 3) := dk_180 0 192 (dk_at dksX7_readPerson_1 18 rfl rfl)
theorem dX7_readPerson_43 : decode cX7_readPerson 43 = .ok (.dup, 1) := dk_89 (dk_at dksX7_readPerson_1 21 rfl rfl)
theorem dX7_readPerson_44 : decode cX7_readPerson 44 = .ok (.getfield 320, 3) := dk_180 1 64 (dk_at dksX7_readPerson_2 0 rfl rfl)
theorem dX7_readPerson_47 : decode cX7_readPerson 47 = .ok (.iconst 1, 1) := dk_4 (dk_at dksX7_readPerson_2 3 rfl rfl)
theorem dX7_readPerson_48 : decode cX7_readPerson 48 = .ok (.iadd, 1) := dk_96 (dk_at dksX7_readPerson_2 4 rfl rfl)
theorem dX7_readPerson_49 : decode cX7_readPerson 49 = .ok (.putfield 320, 3) := dk_181 1 64 (dk_at dksX7_readPerson_2 5 rfl rfl)
theorem dX7_readPerson_52 : decode cX7_readPerson 52 = .ok (.return_, 1) := dk_177 (dk_at dksX7_readPerson_2 8 rfl rfl)
def dkwX7_eatsSign_1 : List UInt8 := [153, 0, 7, 42, 182, 0, 136, 28, 172]
abbrev dktX7_eatsSign_1 : List UInt8 := dkwX7_eatsSign_1 ++ []
def dkwX7_eatsSign_0 : List UInt8 := [42, 180, 0, 94, 7, 160, 0, 15, 42, 180, 0, 106, 27, 160, 0, 7, 4, 167, 0, 4, 3, 61, 28]
abbrev dktX7_eatsSign_0 : List UInt8 := dkwX7_eatsSign_0 ++ dktX7_eatsSign_1
theorem dksX7_eatsSign_0 : cX7_eatsSign.data.toList.drop 0 = dktX7_eatsSign_0 := by decide +kernel
theorem dksX7_eatsSign_1 : cX7_eatsSign.data.toList.drop 23 = dktX7_eatsSign_1 := dk_seg dksX7_eatsSign_0 23 rfl rfl
theorem dX7_eatsSign_0 : decode cX7_eatsSign 0 = .ok (.aload_n 0, 1) := dk_42 (dk_at dksX7_eatsSign_0 0 rfl rfl)
theorem dX7_eatsSign_1 : decode cX7_eatsSign 1 = .ok (.getfield 94, 3) := dk_180 0 94 (dk_at dksX7_eatsSign_0 1 rfl rfl)
theorem dX7_eatsSign_4 : decode cX7_eatsSign 4 = .ok (.iconst 4, 1) := dk_7 (dk_at dksX7_eatsSign_0 4 rfl rfl)
theorem dX7_eatsSign_5 : decode cX7_eatsSign 5 = .ok (.if_icmp .ne 15, 3) := dk_160 0 15 (dk_at dksX7_eatsSign_0 5 rfl rfl)
theorem dX7_eatsSign_8 : decode cX7_eatsSign 8 = .ok (.aload_n 0, 1) := dk_42 (dk_at dksX7_eatsSign_0 8 rfl rfl)
theorem dX7_eatsSign_9 : decode cX7_eatsSign 9 = .ok (.getfield 106, 3) := dk_180 0 106 (dk_at dksX7_eatsSign_0 9 rfl rfl)
theorem dX7_eatsSign_12 : decode cX7_eatsSign 12 = .ok (.iload_n 1, 1) := dk_27 (dk_at dksX7_eatsSign_0 12 rfl rfl)
theorem dX7_eatsSign_13 : decode cX7_eatsSign 13 = .ok (.if_icmp .ne 7, 3) := dk_160 0 7 (dk_at dksX7_eatsSign_0 13 rfl rfl)
theorem dX7_eatsSign_16 : decode cX7_eatsSign 16 = .ok (.iconst 1, 1) := dk_4 (dk_at dksX7_eatsSign_0 16 rfl rfl)
theorem dX7_eatsSign_17 : decode cX7_eatsSign 17 = .ok (.goto 4, 3) := dk_167 0 4 (dk_at dksX7_eatsSign_0 17 rfl rfl)
theorem dX7_eatsSign_20 : decode cX7_eatsSign 20 = .ok (.iconst 0, 1) := dk_3 (dk_at dksX7_eatsSign_0 20 rfl rfl)
theorem dX7_eatsSign_21 : decode cX7_eatsSign 21 = .ok (.istore_n 2, 1) := dk_61 (dk_at dksX7_eatsSign_0 21 rfl rfl)
theorem dX7_eatsSign_22 : decode cX7_eatsSign 22 = .ok (.iload_n 2, 1) := dk_28 (dk_at dksX7_eatsSign_0 22 rfl rfl)
theorem dX7_eatsSign_23 : decode cX7_eatsSign 23 = .ok (.ifCond .eq 7, 3) := dk_153 0 7 (dk_at dksX7_eatsSign_1 0 rfl rfl)
theorem dX7_eatsSign_26 : decode cX7_eatsSign 26 = .ok (.aload_n 0, 1) := dk_42 (dk_at dksX7_eatsSign_1 3 rfl rfl)
theorem dX7_eatsSign_27 : decode cX7_eatsSign 27 = .ok (.invokevirtual 136, 3) := dk_182 0 136 (dk_at dksX7_eatsSign_1 4 rfl rfl)
theorem dX7_eatsSign_30 : decode cX7_eatsSign 30 = .ok (.iload_n 2, 1) := dk_28 (dk_at dksX7_eatsSign_1 7 rfl rfl)
theorem dX7_eatsSign_31 : decode cX7_eatsSign 31 = .ok (.ireturn, 1) := dk_172 (dk_at dksX7_eatsSign_1 8 rfl rfl)
def dkwX7_readStory_7 : List UInt8 := [180, 1, 67, 27, 92, 46, 4, 96, 79, 177]
abbrev dktX7_readStory_7 : List UInt8 := dkwX7_readStory_7 ++ []
def dkwX7_readStory_6 : List UInt8 := [132, 6, 1, 167, 255, 232, 132, 3, 1, 42, 16, 44, 182, 0, 238, 54, 4, 167, 255, 174, 42, 180, 0, 192]
abbrev dktX7_readStory_6 : List UInt8 := dkwX7_readStory_6 ++ dktX7_readStory_7
def dkwX7_readStory_5 : List UInt8 := [29, 54, 6, 21, 6, 16, 12, 162, 0, 23, 42, 180, 0, 192, 180, 1, 70, 28, 21, 6, 96, 21, 5, 79]
abbrev dktX7_readStory_5 : List UInt8 := dkwX7_readStory_5 ++ dktX7_readStory_6
def dkwX7_readStory_4 : List UInt8 := [180, 0, 196, 160, 0, 8, 42, 8, 182, 0, 143, 42, 182, 0, 136, 42, 180, 0, 94, 8, 160, 0, 4, 177]
abbrev dktX7_readStory_4 : List UInt8 := dkwX7_readStory_4 ++ dktX7_readStory_5
def dkwX7_readStory_3 : List UInt8 := [61, 3, 62, 4, 54, 4, 21, 4, 153, 0, 83, 42, 3, 182, 0, 226, 54, 5, 29, 42, 180, 0, 192]
abbrev dktX7_readStory_3 : List UInt8 := dkwX7_readStory_3 ++ dktX7_readStory_4
def dkwX7_readStory_2 : List UInt8 := [180, 0, 94, 8, 160, 0, 7, 3, 167, 0, 12, 42, 180, 0, 192, 180, 1, 67, 27, 46, 96, 16, 12, 104]
abbrev dktX7_readStory_2 : List UInt8 := dkwX7_readStory_2 ++ dktX7_readStory_3
def dkwX7_readStory_1 : List UInt8 := [180, 1, 67, 27, 46, 6, 160, 0, 8, 42, 8, 182, 0, 143, 42, 182, 0, 136, 6, 27, 104, 42]
abbrev dktX7_readStory_1 : List UInt8 := dkwX7_readStory_1 ++ dktX7_readStory_2
def dkwX7_readStory_0 : List UInt8 := [42, 3, 4, 182, 0, 201, 42, 4, 182, 0, 226, 60, 42, 180, 0, 94, 8, 159, 0, 21, 42, 180, 0, 192]
abbrev dktX7_readStory_0 : List UInt8 := dkwX7_readStory_0 ++ dktX7_readStory_1
theorem dksX7_readStory_0 : cX7_readStory.data.toList.drop 0 = dktX7_readStory_0 := by decide +kernel
theorem dksX7_readStory_1 : cX7_readStory.data.toList.drop 24 = dktX7_readStory_1 := dk_seg dksX7_readStory_0 24 rfl rfl
theorem dksX7_readStory_2 : cX7_readStory.data.toList.drop 46 = dktX7_readStory_2 := dk_seg dksX7_readStory_1 22 rfl rfl
theorem dksX7_readStory_3 : cX7_readStory.data.toList.drop 70 = dktX7_readStory_3 := dk_seg dksX7_readStory_2 24 rfl rfl
theorem dksX7_readStory_4 : cX7_readStory.data.toList.drop 93 = dktX7_readStory_4 := dk_seg dksX7_readStory_3 23 rfl rfl
theorem dksX7_readStory_5 : cX7_readStory.data.toList.drop 117 = dktX7_readStory_5 := dk_seg dksX7_readStory_4 24 rfl rfl
theorem dksX7_readStory_6 : cX7_readStory.data.toList.drop 141 = dktX7_readStory_6 := dk_seg dksX7_readStory_5 24 rfl rfl
theorem dksX7_readStory_7 : cX7_readStory.data.toList.drop 165 = dktX7_readStory_7 := dk_seg dksX7_readStory_6 24 rfl rfl
theorem dX7_readStory_0 : decode cX7_readStory 0 = .ok (.aload_n 0, 1) := dk_42 (dk_at dksX7_readStory_0 0 rfl rfl)
theorem dX7_readStory_1 : decode cX7_readStory 1 = .ok (.iconst 0, 1) := dk_3 (dk_at dksX7_readStory_0 1 rfl rfl)
theorem dX7_readStory_2 : decode cX7_readStory 2 = .ok (.iconst 1, 1) := dk_4 (dk_at dksX7_readStory_0 2 rfl rfl)
theorem dX7_readStory_3 : decode cX7_readStory 3 = .ok (.invokevirtual 201, 3) := dk_182 0 201 (dk_at dksX7_readStory_0 3 rfl rfl)
theorem dX7_readStory_6 : decode cX7_readStory 6 = .ok (.aload_n 0, 1) := dk_42 (dk_at dksX7_readStory_0 6 rfl rfl)
theorem dX7_readStory_7 : decode cX7_readStory 7 = .ok (.iconst 1, 1) := dk_4 (dk_at dksX7_readStory_0 7 rfl rfl)
theorem dX7_readStory_8 : decode cX7_readStory 8 = .ok (.invokevirtual 226, 3) := dk_182 0 226 (dk_at dksX7_readStory_0 8 rfl rfl)
theorem dX7_readStory_11 : decode cX7_readStory 11 = .ok (.istore_n 1, 1) := dk_60 (dk_at dksX7_readStory_0 11 rfl rfl)
theorem dX7_readStory_12 : decode cX7_readStory 12 = .ok (.aload_n 0, 1) := dk_42 (dk_at dksX7_readStory_0 12 rfl rfl)
theorem dX7_readStory_13 : decode cX7_readStory 13 = .ok (.getfield 94, 3) := dk_180 0 94 (dk_at dksX7_readStory_0 13 rfl rfl)
theorem dX7_readStory_16 : decode cX7_readStory 16 = .ok (.iconst 5, 1) := dk_8 (dk_at dksX7_readStory_0 16 rfl rfl)
theorem dX7_readStory_17 : decode cX7_readStory 17 = .ok (.if_icmp .eq 21, 3) := dk_159 0 21 (dk_at dksX7_readStory_0 17 rfl rfl)
theorem dX7_readStory_20 : decode cX7_readStory 20 = .ok (.aload_n 0, 1) := dk_42 (dk_at dksX7_readStory_0 20 rfl rfl)
theorem dX7_readStory_21 : decode cX7_readStory 21 = .ok (.getfield 192, 3) := dk_180 0 192 (dk_at dksX7_readStory_0 21 rfl rfl)
theorem dX7_readStory_24 : decode cX7_readStory 24 = .ok (.getfield 323, 3) := dk_180 1 67 (dk_at dksX7_readStory_1 0 rfl rfl)
theorem dX7_readStory_27 : decode cX7_readStory 27 = .ok (.iload_n 1, 1) := dk_27 (dk_at dksX7_readStory_1 3 rfl rfl)
theorem dX7_readStory_28 : decode cX7_readStory 28 = .ok (.iaload, 1) := dk_46 (dk_at dksX7_readStory_1 4 rfl rfl)
theorem dX7_readStory_29 : decode cX7_readStory 29 = .ok (.iconst 3, 1) := dk_6 (dk_at dksX7_readStory_1 5 rfl rfl)
theorem dX7_readStory_30 : decode cX7_readStory 30 = .ok (.if_icmp .ne 8, 3) := dk_160 0 8 (dk_at dksX7_readStory_1 6 rfl rfl)
theorem dX7_readStory_33 : decode cX7_readStory 33 = .ok (.aload_n 0, 1) := dk_42 (dk_at dksX7_readStory_1 9 rfl rfl)
theorem dX7_readStory_34 : decode cX7_readStory 34 = .ok (.iconst 5, 1) := dk_8 (dk_at dksX7_readStory_1 10 rfl rfl)
theorem dX7_readStory_35 : decode cX7_readStory 35 = .ok (.invokevirtual 143, 3) := dk_182 0 143 (dk_at dksX7_readStory_1 11 rfl rfl)
theorem dX7_readStory_38 : decode cX7_readStory 38 = .ok (.aload_n 0, 1) := dk_42 (dk_at dksX7_readStory_1 14 rfl rfl)
theorem dX7_readStory_39 : decode cX7_readStory 39 = .ok (.invokevirtual 136, 3) := dk_182 0 136 (dk_at dksX7_readStory_1 15 rfl rfl)
theorem dX7_readStory_42 : decode cX7_readStory 42 = .ok (.iconst 3, 1) := dk_6 (dk_at dksX7_readStory_1 18 rfl rfl)
theorem dX7_readStory_43 : decode cX7_readStory 43 = .ok (.iload_n 1, 1) := dk_27 (dk_at dksX7_readStory_1 19 rfl rfl)
theorem dX7_readStory_44 : decode cX7_readStory 44 = .ok (.imul, 1) := dk_104 (dk_at dksX7_readStory_1 20 rfl rfl)
theorem dX7_readStory_45 : decode cX7_readStory 45 = .ok (.aload_n 0, 1) := dk_42 (dk_at dksX7_readStory_1 21 rfl rfl)
theorem dX7_readStory_46 : decode cX7_readStory 46 = .ok (.getfield 94, 3) := dk_180 0 94 (dk_at dksX7_readStory_2 0 rfl rfl)
theorem dX7_readStory_49 : decode cX7_readStory 49 = .ok (.iconst 5, 1) := dk_8 (dk_at dksX7_readStory_2 3 rfl rfl)
theorem dX7_readStory_50 : decode cX7_readStory 50 = .ok (.if_icmp .ne 7, 3) := dk_160 0 7 (dk_at dksX7_readStory_2 4 rfl rfl)
theorem dX7_readStory_53 : decode cX7_readStory 53 = .ok (.iconst 0, 1) := dk_3 (dk_at dksX7_readStory_2 7 rfl rfl)
theorem dX7_readStory_54 : decode cX7_readStory 54 = .ok (.goto 12, 3) := dk_167 0 12 (dk_at dksX7_readStory_2 8 rfl rfl)
theorem dX7_readStory_57 : decode cX7_readStory 57 = .ok (.aload_n 0, 1) := dk_42 (dk_at dksX7_readStory_2 11 rfl rfl)
theorem dX7_readStory_58 : decode cX7_readStory 58 = .ok (.getfield 192, 3) := dk_180 0 192 (dk_at dksX7_readStory_2 12 rfl rfl)
theorem dX7_readStory_61 : decode cX7_readStory 61 = .ok (.getfield 323, 3) := dk_180 1 67 (dk_at dksX7_readStory_2 15 rfl rfl)
theorem dX7_readStory_64 : decode cX7_readStory 64 = .ok (.iload_n 1, 1) := dk_27 (dk_at dksX7_readStory_2 18 rfl rfl)
theorem dX7_readStory_65 : decode cX7_readStory 65 = .ok (.iaload, 1) := dk_46 (dk_at dksX7_readStory_2 19 rfl rfl)
theorem dX7_readStory_66 : decode cX7_readStory 66 = .ok (.iadd, 1) := dk_96 (dk_at dksX7_readStory_2 20 rfl rfl)
theorem dX7_readStory_67 : decode cX7_readStory 67 = .ok (.bipush 12, 2) := dk_16 12 (dk_at dksX7_readStory_2 21 rfl rfl)
theorem dX7_readStory_69 : decode cX7_readStory 69 = .ok (.imul, 1) := dk_104 (dk_at dksX7_readStory_2 23 rfl rfl)
theorem dX7_readStory_70 : decode cX7_readStory 70 = .ok (.istore_n 2, 1) := dk_61 (dk_at dksX7_readStory_3 0 rfl rfl)
theorem dX7_readStory_71 : decode cX7_readStory 71 = .ok (.iconst 0, 1) := dk_3 (dk_at dksX7_readStory_3 1 rfl rfl)
theorem dX7_readStory_72 : decode cX7_readStory 72 = .ok (.istore_n 3, 1) := dk_62 (dk_at dksX7_readStory_3 2 rfl rfl)
theorem dX7_readStory_73 : decode cX7_readStory 73 = .ok (.iconst 1, 1) := dk_4 (dk_at dksX7_readStory_3 3 rfl rfl)
theorem dX7_readStory_74 : decode cX7_readStory 74 = .ok (.istore 4, 2) := dk_54 4 (dk_at dksX7_readStory_3 4 rfl rfl)
theorem dX7_readStory_76 : decode cX7_readStory 76 = .ok (.iload 4, 2) := dk_21 4 (dk_at dksX7_readStory_3 6 rfl rfl)
theorem dX7_readStory_78 : decode cX7_readStory 78 = .ok (.ifCond .eq 83, 3) := dk_153 0 83 (dk_at dksX7_readStory_3 8 rfl rfl)
theorem dX7_readStory_81 : decode cX7_readStory 81 = .ok (.aload_n 0, 1) := dk_42 (dk_at dksX7_readStory_3 11 rfl rfl)
theorem dX7_readStory_82 : decode cX7_readStory 82 = .ok (.iconst 0, 1) := dk_3 (dk_at dksX7_readStory_3 12 rfl rfl)
theorem dX7_readStory_83 : decode cX7_readStory 83 = .ok (.invokevirtual 226, 3) := dk_182 0 226 (dk_at dksX7_readStory_3 13 rfl rfl)
theorem dX7_readStory_86 : decode cX7_readStory 86 = .ok (.istore 5, 2) := dk_54 5 (dk_at dksX7_readStory_3 16 rfl rfl)
theorem dX7_readStory_88 : decode cX7_readStory 88 = .ok (.iload_n 3, 1) := dk_29 (dk_at dksX7_readStory_3 18 rfl rfl)
theorem dX7_readStory_89 : decode cX7_readStory 89 = .ok (.aload_n 0, 1) := dk_42 (dk_at dksX7_readStory_3 19 rfl rfl)
theorem dX7_readStory_90 : decode cX7_readStory 90 = .ok (.getfield 192, 3) := dk_180 0 192 (dk_at dksX7_readStory_3 20 rfl rfl)
theorem dX7_readStory_93 : decode cX7_readStory 93 = .ok (.getfield 196, 3) := dk_180 0 196 (dk_at dksX7_readStory_4 0 rfl rfl)
theorem dX7_readStory_96 : decode cX7_readStory 96 = .ok (.if_icmp .ne 8, 3) := dk_160 0 8 (dk_at dksX7_readStory_4 3 rfl rfl)
theorem dX7_readStory_99 : decode cX7_readStory 99 = .ok (.aload_n 0, 1) := dk_42 (dk_at dksX7_readStory_4 6 rfl rfl)
theorem dX7_readStory_100 : decode cX7_readStory 100 = .ok (.iconst 5, 1) := dk_8 (dk_at dksX7_readStory_4 7 rfl rfl)
theorem dX7_readStory_101 : decode cX7_readStory 101 = .ok (.invokevirtual 143, 3) := dk_182 0 143 (dk_at dksX7_readStory_4 8 rfl rfl)
theorem dX7_readStory_104 : decode cX7_readStory 104 = .ok (.aload_n 0, 1) := dk_42 (dk_at dksX7_readStory_4 11 rfl rfl)
theorem dX7_readStory_105 : decode cX7_readStory 105 = .ok (.invokevirtual 136, 3) := dk_182 0 136 (dk_at dksX7_readStory_4 12 rfl rfl)
theorem dX7_readStory_108 : decode cX7_readStory 108 = .ok (.aload_n 0, 1) := dk_42 (dk_at dksX7_readStory_4 15 rfl rfl)
theorem dX7_readStory_109 : decode cX7_readStory 109 = .ok (.getfield 94, 3) := dk_180 0 94 (dk_at dksX7_readStory_4 16 rfl rfl)
theorem dX7_readStory_112 : decode cX7_readStory 112 = .ok (.iconst 5, 1) := dk_8 (dk_at dksX7_readStory_4 19 rfl rfl)
theorem dX7_readStory_113 : decode cX7_readStory 113 = .ok (.if_icmp .ne 4, 3) := dk_160 0 4 (dk_at dksX7_readStory_4 20 rfl rfl)
theorem dX7_readStory_116 : decode cX7_readStory 116 = .ok (.return_, 1) := dk_177 (dk_at dksX7_readStory_4 23 rfl rfl)
theorem dX7_readStory_117 : decode cX7_readStory 117 = .ok (.iload_n 3, 1) := dk_29 (dk_at dksX7_readStory_5 0 rfl rfl)
theorem dX7_readStory_118 : decode cX7_readStory 118 = .ok (.istore 6, 2) := dk_54 6 (dk_at dksX7_readStory_5 1 rfl rfl)
theorem dX7_readStory_120 : decode cX7_readStory 120 = .ok (.iload 6, 2) := dk_21 6 (dk_at dksX7_readStory_5 3 rfl rfl)
theorem dX7_readStory_122 : decode cX7_readStory 122 = .ok (.bipush 12, 2) := dk_16 12 (dk_at dksX7_readStory_5 5 rfl rfl)
theorem dX7_readStory_124 : decode cX7_readStory 124 = .ok (.if_icmp .ge 23, 3) := dk_162 0 23 (dk_at dksX7_readStory_5 7 rfl rfl)
theorem dX7_readStory_127 : decode cX7_readStory 127 = .ok (.aload_n 0, 1) := dk_42 (dk_at dksX7_readStory_5 10 rfl rfl)
theorem dX7_readStory_128 : decode cX7_readStory 128 = .ok (.getfield 192, 3) := dk_180 0 192 (dk_at dksX7_readStory_5 11 rfl rfl)
theorem dX7_readStory_131 : decode cX7_readStory 131 = .ok (.getfield 326, 3) := dk_180 1 70 (dk_at dksX7_readStory_5 14 rfl rfl)
theorem dX7_readStory_134 : decode cX7_readStory 134 = .ok (.iload_n 2, 1) := dk_28 (dk_at dksX7_readStory_5 17 rfl rfl)
theorem dX7_readStory_135 : decode cX7_readStory 135 = .ok (.iload 6, 2) := dk_21 6 (dk_at dksX7_readStory_5 18 rfl rfl)
theorem dX7_readStory_137 : decode cX7_readStory 137 = .ok (.iadd, 1) := dk_96 (dk_at dksX7_readStory_5 20 rfl rfl)
theorem dX7_readStory_138 : decode cX7_readStory 138 = .ok (.iload 5, 2) := dk_21 5 (dk_at dksX7_readStory_5 21 rfl rfl)
theorem dX7_readStory_140 : decode cX7_readStory 140 = .ok (.iastore, 1) := dk_79 (dk_at dksX7_readStory_5 23 rfl rfl)
theorem dX7_readStory_141 : decode cX7_readStory 141 = .ok (.iinc 6 1, 3) := dk_132 6 1 (dk_at dksX7_readStory_6 0 rfl rfl)
theorem dX7_readStory_144 : decode cX7_readStory 144 = .ok (.goto (-24), 3) := dk_167 255 232 (dk_at dksX7_readStory_6 3 rfl rfl)
theorem dX7_readStory_147 : decode cX7_readStory 147 = .ok (.iinc 3 1, 3) := dk_132 3 1 (dk_at dksX7_readStory_6 6 rfl rfl)
theorem dX7_readStory_150 : decode cX7_readStory 150 = .ok (.aload_n 0, 1) := dk_42 (dk_at dksX7_readStory_6 9 rfl rfl)
theorem dX7_readStory_151 : decode cX7_readStory 151 = .ok (.bipush 44, 2) := dk_16 44 (dk_at dksX7_readStory_6 10 rfl rfl)
theorem dX7_readStory_153 : decode cX7_readStory 153 = .ok (.invokevirtual 238, 3) := dk_182 0 238 (dk_at dksX7_readStory_6 12 rfl rfl)
theorem dX7_readStory_156 : decode cX7_readStory 156 = .ok (.istore 4, 2) := dk_54 4 (dk_at dksX7_readStory_6 15 rfl rfl)
theorem dX7_readStory_158 : decode cX7_readStory 158 = .ok (.goto (-82), 3) := dk_167 255 174 (dk_at dksX7_readStory_6 17 rfl rfl)
theorem dX7_readStory_161 : decode cX7_readStory 161 = .ok (.aload_n 0, 1) := dk_42 (dk_at dksX7_readStory_6 20 rfl rfl)
theorem dX7_readStory_162 : decode cX7_readStory 162 = .ok (.getfield 192, 3) := dk_180 0 192 (dk_at dksX7_readStory_6 21 rfl rfl)
theorem dX7_readStory_165 : decode cX7_readStory 165 = .ok (.getfield 323, 3) := dk_180 1 67 (dk_at dksX7_readStory_7 0 rfl rfl)
theorem dX7_readStory_168 : decode cX7_readStory 168 = .ok (.iload_n 1, 1) := dk_27 (dk_at dksX7_readStory_7 3 rfl rfl)
theorem dX7_readStory_169 : decode cX7_readStory 169 = .ok (.dup2, 1) := dk_92 (dk_at dksX7_readStory_7 4 rfl rfl)
theorem dX7_readStory_170 : decode cX7_readStory 170 = .ok (.iaload, 1) := dk_46 (dk_at dksX7_readStory_7 5 rfl rfl)
theorem dX7_readStory_171 : decode cX7_readStory 171 = .ok (.iconst 1, 1) := dk_4 (dk_at dksX7_readStory_7 6 rfl rfl)
theorem dX7_readStory_172 : decode cX7_readStory 172 = .ok (.iadd, 1) := dk_96 (dk_at dksX7_readStory_7 7 rfl rfl)
theorem dX7_readStory_173 : decode cX7_readStory 173 = .ok (.iastore, 1) := dk_79 (dk_at dksX7_readStory_7 8 rfl rfl)
theorem dX7_readStory_174 : decode cX7_readStory 174 = .ok (.return_, 1) := dk_177 (dk_at dksX7_readStory_7 9 rfl rfl)
def dkwX7_readGoat_17 : List UInt8 := [21, 5, 21, 8, 79, 42, 180, 0, 192, 89, 180, 1, 72, 4, 96, 181, 1, 72, 177]
abbrev dktX7_readGoat_17 : List UInt8 := dkwX7_readGoat_17 ++ []
def dkwX7_readGoat_16 : List UInt8 := [21, 5, 21, 6, 79, 42, 180, 0, 192, 180, 1, 100, 21, 5, 21, 7, 79, 42, 180, 0, 192, 180, 1, 103]
abbrev dktX7_readGoat_16 : List UInt8 := dkwX7_readGoat_16 ++ dktX7_readGoat_17
def dkwX7_readGoat_15 : List UInt8 := [21, 5, 29, 79, 42, 180, 0, 192, 180, 1, 94, 21, 5, 21, 4, 79, 42, 180, 0, 192, 180, 1, 97]
abbrev dktX7_readGoat_15 : List UInt8 := dkwX7_readGoat_15 ++ dktX7_readGoat_16
def dkwX7_readGoat_14 : List UInt8 := [180, 0, 94, 8, 160, 0, 4, 177, 42, 31, 5, 21, 5, 182, 1, 47, 42, 180, 0, 192, 180, 1, 91]
abbrev dktX7_readGoat_14 : List UInt8 := dkwX7_readGoat_14 ++ dktX7_readGoat_15
def dkwX7_readGoat_13 : List UInt8 := [182, 0, 151, 42, 3, 182, 1, 53, 54, 7, 42, 19, 1, 89, 4, 16, 9, 182, 1, 31, 54, 8, 42]
abbrev dktX7_readGoat_13 : List UInt8 := dkwX7_readGoat_13 ++ dktX7_readGoat_14
def dkwX7_readGoat_12 : List UInt8 := [167, 0, 9, 42, 16, 7, 182, 0, 143, 132, 7, 1, 167, 255, 127, 42, 182, 0, 136, 42, 19, 1, 87]
abbrev dktX7_readGoat_12 : List UInt8 := dkwX7_readGoat_12 ++ dktX7_readGoat_13
def dkwX7_readGoat_11 : List UInt8 := [180, 0, 192, 180, 1, 85, 7, 21, 5, 104, 21, 7, 96, 42, 180, 0, 17, 21, 7, 46, 16, 97, 100, 79]
abbrev dktX7_readGoat_11 : List UInt8 := dkwX7_readGoat_11 ++ dktX7_readGoat_12
def dkwX7_readGoat_10 : List UInt8 := [159, 0, 7, 4, 167, 0, 4, 3, 54, 8, 132, 9, 1, 167, 255, 217, 21, 8, 153, 0, 31, 42]
abbrev dktX7_readGoat_10 : List UInt8 := dkwX7_readGoat_10 ++ dktX7_readGoat_11
def dkwX7_readGoat_9 : List UInt8 := [21, 7, 162, 0, 38, 21, 8, 153, 0, 24, 42, 180, 0, 17, 21, 9, 46, 42, 180, 0, 17, 21, 7, 46]
abbrev dktX7_readGoat_9 : List UInt8 := dkwX7_readGoat_9 ++ dktX7_readGoat_10
def dkwX7_readGoat_8 : List UInt8 := [16, 97, 100, 3, 42, 180, 0, 192, 180, 0, 229, 4, 100, 184, 0, 147, 54, 8, 3, 54, 9, 21, 9]
abbrev dktX7_readGoat_8 : List UInt8 := dkwX7_readGoat_8 ++ dktX7_readGoat_9
def dkwX7_readGoat_7 : List UInt8 := [180, 0, 94, 8, 159, 0, 127, 21, 7, 42, 180, 0, 117, 162, 0, 118, 42, 180, 0, 17, 21, 7, 46]
abbrev dktX7_readGoat_7 : List UInt8 := dkwX7_readGoat_7 ++ dktX7_readGoat_8
def dkwX7_readGoat_6 : List UInt8 := [42, 180, 0, 192, 180, 1, 72, 167, 0, 4, 3, 54, 5, 42, 180, 0, 117, 54, 6, 3, 54, 7, 42]
abbrev dktX7_readGoat_6 : List UInt8 := dkwX7_readGoat_6 ++ dktX7_readGoat_7
def dkwX7_readGoat_5 : List UInt8 := [180, 0, 94, 5, 159, 0, 8, 42, 4, 182, 0, 143, 42, 180, 0, 192, 180, 1, 72, 16, 6, 162, 0, 13]
abbrev dktX7_readGoat_5 : List UInt8 := dkwX7_readGoat_5 ++ dktX7_readGoat_6
def dkwX7_readGoat_4 : List UInt8 := [160, 0, 11, 42, 5, 182, 1, 53, 167, 0, 5, 16, 254, 54, 4, 42, 19, 1, 83, 182, 0, 151, 42]
abbrev dktX7_readGoat_4 : List UInt8 := dkwX7_readGoat_4 ++ dktX7_readGoat_5
def dkwX7_readGoat_3 : List UInt8 := [6, 167, 0, 4, 2, 62, 29, 2, 160, 0, 8, 42, 4, 182, 0, 143, 42, 182, 0, 136, 29, 6]
abbrev dktX7_readGoat_3 : List UInt8 := dkwX7_readGoat_3 ++ dktX7_readGoat_4
def dkwX7_readGoat_2 : List UInt8 := [42, 19, 1, 79, 182, 0, 139, 153, 0, 7, 5, 167, 0, 18, 42, 19, 1, 81, 182, 0, 139, 153, 0, 7]
abbrev dktX7_readGoat_2 : List UInt8 := dkwX7_readGoat_2 ++ dktX7_readGoat_3
def dkwX7_readGoat_1 : List UInt8 := [182, 0, 139, 153, 0, 7, 3, 167, 0, 46, 42, 19, 1, 77, 182, 0, 139, 153, 0, 7, 4, 167, 0, 32]
abbrev dktX7_readGoat_1 : List UInt8 := dkwX7_readGoat_1 ++ dktX7_readGoat_2
def dkwX7_readGoat_0 : List UInt8 := [42, 42, 180, 0, 192, 180, 1, 72, 16, 6, 182, 0, 201, 42, 182, 1, 36, 64, 42, 19, 1, 75]
abbrev dktX7_readGoat_0 : List UInt8 := dkwX7_readGoat_0 ++ dktX7_readGoat_1
theorem dksX7_readGoat_0 : cX7_readGoat.data.toList.drop 0 = dktX7_readGoat_0 := by decide +kernel
theorem dksX7_readGoat_1 : cX7_readGoat.data.toList.drop 22 = dktX7_readGoat_1 := dk_seg dksX7_readGoat_0 22 rfl rfl
theorem dksX7_readGoat_2 : cX7_readGoat.data.toList.drop 46 = dktX7_readGoat_2 := dk_seg dksX7_readGoat_1 24 rfl rfl
theorem dksX7_readGoat_3 : cX7_readGoat.data.toList.drop 70 = dktX7_readGoat_3 := dk_seg dksX7_readGoat_2 24 rfl rfl
theorem dksX7_readGoat_4 : cX7_readGoat.data.toList.drop 92 = dktX7_readGoat_4 := dk_seg dksX7_readGoat_3 22 rfl rfl
theorem dksX7_readGoat_5 : cX7_readGoat.data.toList.drop 115 = dktX7_readGoat_5 := dk_seg dksX7_readGoat_4 23 rfl rfl
theorem dksX7_readGoat_6 : cX7_readGoat.data.toList.drop 139 = dktX7_readGoat_6 := dk_seg dksX7_readGoat_5 24 rfl rfl
theorem dksX7_readGoat_7 : cX7_readGoat.data.toList.drop 162 = dktX7_readGoat_7 := dk_seg dksX7_readGoat_6 23 rfl rfl
theorem dksX7_readGoat_8 : cX7_readGoat.data.toList.drop 185 = dktX7_readGoat_8 := dk_seg dksX7_readGoat_7 23 rfl rfl
theorem dksX7_readGoat_9 : cX7_readGoat.data.toList.drop 208 = dktX7_readGoat_9 := dk_seg dksX7_readGoat_8 23 rfl rfl
theorem dksX7_readGoat_10 : cX7_readGoat.data.toList.drop 232 = dktX7_readGoat_10 := dk_seg dksX7_readGoat_9 24 rfl rfl
theorem dksX7_readGoat_11 : cX7_readGoat.data.toList.drop 254 = dktX7_readGoat_11 := dk_seg dksX7_readGoat_10 22 rfl rfl
theorem dksX7_readGoat_12 : cX7_readGoat.data.toList.drop 278 = dktX7_readGoat_12 := dk_seg dksX7_readGoat_11 24 rfl rfl
theorem dksX7_readGoat_13 : cX7_readGoat.data.toList.drop 301 = dktX7_readGoat_13 := dk_seg dksX7_readGoat_12 23 rfl rfl
theorem dksX7_readGoat_14 : cX7_readGoat.data.toList.drop 324 = dktX7_readGoat_14 := dk_seg dksX7_readGoat_13 23 rfl rfl
theorem dksX7_readGoat_15 : cX7_readGoat.data.toList.drop 347 = dktX7_readGoat_15 := dk_seg dksX7_readGoat_14 23 rfl rfl
theorem dksX7_readGoat_16 : cX7_readGoat.data.toList.drop 370 = dktX7_readGoat_16 := dk_seg dksX7_readGoat_15 23 rfl rfl
theorem dksX7_readGoat_17 : cX7_readGoat.data.toList.drop 394 = dktX7_readGoat_17 := dk_seg dksX7_readGoat_16 24 rfl rfl
theorem dX7_readGoat_0 : decode cX7_readGoat 0 = .ok (.aload_n 0, 1) := dk_42 (dk_at dksX7_readGoat_0 0 rfl rfl)
theorem dX7_readGoat_1 : decode cX7_readGoat 1 = .ok (.aload_n 0, 1) := dk_42 (dk_at dksX7_readGoat_0 1 rfl rfl)
theorem dX7_readGoat_2 : decode cX7_readGoat 2 = .ok (.getfield 192, 3) := dk_180 0 192 (dk_at dksX7_readGoat_0 2 rfl rfl)
theorem dX7_readGoat_5 : decode cX7_readGoat 5 = .ok (.getfield 328, 3) := dk_180 1 72 (dk_at dksX7_readGoat_0 5 rfl rfl)
theorem dX7_readGoat_8 : decode cX7_readGoat 8 = .ok (.bipush 6, 2) := dk_16 6 (dk_at dksX7_readGoat_0 8 rfl rfl)
theorem dX7_readGoat_10 : decode cX7_readGoat 10 = .ok (.invokevirtual 201, 3) := dk_182 0 201 (dk_at dksX7_readGoat_0 10 rfl rfl)
theorem dX7_readGoat_13 : decode cX7_readGoat 13 = .ok (.aload_n 0, 1) := dk_42 (dk_at dksX7_readGoat_0 13 rfl rfl)
theorem dX7_readGoat_14 : decode cX7_readGoat 14 = .ok (.invokevirtual 292, 3) := dk_182 1 36 (dk_at dksX7_readGoat_0 14 rfl rfl)
theorem dX7_readGoat_17 : decode cX7_readGoat 17 = .ok (.lstore_n 1, 1) := dk_64 (dk_at dksX7_readGoat_0 17 rfl rfl)
theorem dX7_readGoat_18 : decode cX7_readGoat 18 = .ok (.aload_n 0, 1) := dk_42 (dk_at dksX7_readGoat_0 18 rfl rfl)
theorem dX7_readGoat_19 : decode cX7_readGoat 19 = .ok (.ldc_w 331, 3) := dk_19 1 75 (dk_at dksX7_readGoat_0 19 rfl rfl)
theorem dX7_readGoat_22 : decode cX7_readGoat 22 = .ok (.invokevirtual 139, 3) := dk_182 0 139 (dk_at dksX7_readGoat_1 0 rfl rfl)
theorem dX7_readGoat_25 : decode cX7_readGoat 25 = .ok (.ifCond .eq 7, 3) := dk_153 0 7 (dk_at dksX7_readGoat_1 3 rfl rfl)
theorem dX7_readGoat_28 : decode cX7_readGoat 28 = .ok (.iconst 0, 1) := dk_3 (dk_at dksX7_readGoat_1 6 rfl rfl)
theorem dX7_readGoat_29 : decode cX7_readGoat 29 = .ok (.goto 46, 3) := dk_167 0 46 (dk_at dksX7_readGoat_1 7 rfl rfl)
theorem dX7_readGoat_32 : decode cX7_readGoat 32 = .ok (.aload_n 0, 1) := dk_42 (dk_at dksX7_readGoat_1 10 rfl rfl)
theorem dX7_readGoat_33 : decode cX7_readGoat 33 = .ok (.ldc_w 333, 3) := dk_19 1 77 (dk_at dksX7_readGoat_1 11 rfl rfl)
theorem dX7_readGoat_36 : decode cX7_readGoat 36 = .ok (.invokevirtual 139, 3) := dk_182 0 139 (dk_at dksX7_readGoat_1 14 rfl rfl)
theorem dX7_readGoat_39 : decode cX7_readGoat 39 = .ok (.ifCond .eq 7, 3) := dk_153 0 7 (dk_at dksX7_readGoat_1 17 rfl rfl)
theorem dX7_readGoat_42 : decode cX7_readGoat 42 = .ok (.iconst 1, 1) := dk_4 (dk_at dksX7_readGoat_1 20 rfl rfl)
theorem dX7_readGoat_43 : decode cX7_readGoat 43 = .ok (.goto 32, 3) := dk_167 0 32 (dk_at dksX7_readGoat_1 21 rfl rfl)
theorem dX7_readGoat_46 : decode cX7_readGoat 46 = .ok (.aload_n 0, 1) := dk_42 (dk_at dksX7_readGoat_2 0 rfl rfl)
theorem dX7_readGoat_47 : decode cX7_readGoat 47 = .ok (.ldc_w 335, 3) := dk_19 1 79 (dk_at dksX7_readGoat_2 1 rfl rfl)
theorem dX7_readGoat_50 : decode cX7_readGoat 50 = .ok (.invokevirtual 139, 3) := dk_182 0 139 (dk_at dksX7_readGoat_2 4 rfl rfl)
theorem dX7_readGoat_53 : decode cX7_readGoat 53 = .ok (.ifCond .eq 7, 3) := dk_153 0 7 (dk_at dksX7_readGoat_2 7 rfl rfl)
theorem dX7_readGoat_56 : decode cX7_readGoat 56 = .ok (.iconst 2, 1) := dk_5 (dk_at dksX7_readGoat_2 10 rfl rfl)
theorem dX7_readGoat_57 : decode cX7_readGoat 57 = .ok (.goto 18, 3) := dk_167 0 18 (dk_at dksX7_readGoat_2 11 rfl rfl)
theorem dX7_readGoat_60 : decode cX7_readGoat 60 = .ok (.aload_n 0, 1) := dk_42 (dk_at dksX7_readGoat_2 14 rfl rfl)
theorem dX7_readGoat_61 : decode cX7_readGoat 61 = .ok (.ldc_w 337, 3) := dk_19 1 81 (dk_at dksX7_readGoat_2 15 rfl rfl)
theorem dX7_readGoat_64 : decode cX7_readGoat 64 = .ok (.invokevirtual 139, 3) := dk_182 0 139 (dk_at dksX7_readGoat_2 18 rfl rfl)
theorem dX7_readGoat_67 : decode cX7_readGoat 67 = .ok (.ifCond .eq 7, 3) := dk_153 0 7 (dk_at dksX7_readGoat_2 21 rfl rfl)
theorem dX7_readGoat_70 : decode cX7_readGoat 70 = .ok (.iconst 3, 1) := dk_6 (dk_at dksX7_readGoat_3 0 rfl rfl)
theorem dX7_readGoat_71 : decode cX7_readGoat 71 = .ok (.goto 4, 3) := dk_167 0 4 (dk_at dksX7_readGoat_3 1 rfl rfl)
theorem dX7_readGoat_74 : decode cX7_readGoat 74 = .ok (.iconst (-1), 1) := dk_2 (dk_at dksX7_readGoat_3 4 rfl rfl)
theorem dX7_readGoat_75 : decode cX7_readGoat 75 = .ok (.istore_n 3, 1) := dk_62 (dk_at dksX7_readGoat_3 5 rfl rfl)
theorem dX7_readGoat_76 : decode cX7_readGoat 76 = .ok (.iload_n 3, 1) := dk_29 (dk_at dksX7_readGoat_3 6 rfl rfl)
theorem dX7_readGoat_77 : decode cX7_readGoat 77 = .ok (.iconst (-1), 1) := dk_2 (dk_at dksX7_readGoat_3 7 rfl rfl)
theorem dX7_readGoat_78 : decode cX7_readGoat 78 = .ok (.if_icmp .ne 8, 3) := dk_160 0 8 (dk_at dksX7_readGoat_3 8 rfl rfl)
theorem dX7_readGoat_81 : decode cX7_readGoat 81 = .ok (.aload_n 0, 1) := dk_42 (dk_at dksX7_readGoat_3 11 rfl rfl)
theorem dX7_readGoat_82 : decode cX7_readGoat 82 = .ok (.iconst 1, 1) := dk_4 (dk_at dksX7_readGoat_3 12 rfl rfl)
theorem dX7_readGoat_83 : decode cX7_readGoat 83 = .ok (.invokevirtual 143, 3) := dk_182 0 143 (dk_at dksX7_readGoat_3 13 rfl rfl)
theorem dX7_readGoat_86 : decode cX7_readGoat 86 = .ok (.aload_n 0, 1) := dk_42 (dk_at dksX7_readGoat_3 16 rfl rfl)
theorem dX7_readGoat_87 : decode cX7_readGoat 87 = .ok (.invokevirtual 136, 3) := dk_182 0 136 (dk_at dksX7_readGoat_3 17 rfl rfl)
theorem dX7_readGoat_90 : decode cX7_readGoat 90 = .ok (.iload_n 3, 1) := dk_29 (dk_at dksX7_readGoat_3 20 rfl rfl)
theorem dX7_readGoat_91 : decode cX7_readGoat 91 = .ok (.iconst 3, 1) := dk_6 (dk_at dksX7_readGoat_3 21 rfl rfl)
theorem dX7_readGoat_92 : decode cX7_readGoat 92 = .ok (.if_icmp .ne 11, 3) := dk_160 0 11 (dk_at dksX7_readGoat_4 0 rfl rfl)
theorem dX7_readGoat_95 : decode cX7_readGoat 95 = .ok (.aload_n 0, 1) := dk_42 (dk_at dksX7_readGoat_4 3 rfl rfl)
theorem dX7_readGoat_96 : decode cX7_readGoat 96 = .ok (.iconst 2, 1) := dk_5 (dk_at dksX7_readGoat_4 4 rfl rfl)
theorem dX7_readGoat_97 : decode cX7_readGoat 97 = .ok (.invokevirtual 309, 3) := dk_182 1 53 (dk_at dksX7_readGoat_4 5 rfl rfl)
theorem dX7_readGoat_100 : decode cX7_readGoat 100 = .ok (.goto 5, 3) := dk_167 0 5 (dk_at dksX7_readGoat_4 8 rfl rfl)
theorem dX7_readGoat_103 : decode cX7_readGoat 103 = .ok (.bipush (-2), 2) := dk_16 254 (dk_at dksX7_readGoat_4 11 rfl rfl)
theorem dX7_readGoat_105 : decode cX7_readGoat 105 = .ok (.istore 4, 2) := dk_54 4 (dk_at dksX7_readGoat_4 13 rfl rfl)
theorem dX7_readGoat_107 : decode cX7_readGoat 107 = .ok (.aload_n 0, 1) := dk_42 (dk_at dksX7_readGoat_4 15 rfl rfl)
theorem dX7_readGoat_108 : decode cX7_readGoat 108 = .ok (.ldc_w 339, 3) := dk_19 1 83 (dk_at dksX7_readGoat_4 16 rfl rfl)
theorem dX7_readGoat_111 : decode cX7_readGoat 111 = .ok (.invokevirtual 151, 3) := dk_182 0 151 (dk_at dksX7_readGoat_4 19 rfl rfl)
theorem dX7_readGoat_114 : decode cX7_readGoat 114 = .ok (.aload_n 0, 1) := dk_42 (dk_at dksX7_readGoat_4 22 rfl rfl)
theorem dX7_readGoat_115 : decode cX7_readGoat 115 = .ok (.getfield 94, 3) := dk_180 0 94 (dk_at dksX7_readGoat_5 0 rfl rfl)
theorem dX7_readGoat_118 : decode cX7_readGoat 118 = .ok (.iconst 2, 1) := dk_5 (dk_at dksX7_readGoat_5 3 rfl rfl)
theorem dX7_readGoat_119 : decode cX7_readGoat 119 = .ok (.if_icmp .eq 8, 3) := dk_159 0 8 (dk_at dksX7_readGoat_5 4 rfl rfl)
theorem dX7_readGoat_122 : decode cX7_readGoat 122 = .ok (.aload_n 0, 1) := dk_42 (dk_at dksX7_readGoat_5 7 rfl rfl)
theorem dX7_readGoat_123 : decode cX7_readGoat 123 = .ok (.iconst 1, 1) := dk_4 (dk_at dksX7_readGoat_5 8 rfl rfl)
theorem dX7_readGoat_124 : decode cX7_readGoat 124 = .ok (.invokevirtual 143, 3) := dk_182 0 143 (dk_at dksX7_readGoat_5 9 rfl rfl)
theorem dX7_readGoat_127 : decode cX7_readGoat 127 = .ok (.aload_n 0, 1) := dk_42 (dk_at dksX7_readGoat_5 12 rfl rfl)
theorem dX7_readGoat_128 : decode cX7_readGoat 128 = .ok (.getfield 192, 3) := dk_180 0 192 (dk_at dksX7_readGoat_5 13 rfl rfl)
theorem dX7_readGoat_131 : decode cX7_readGoat 131 = .ok (.getfield 328, 3) := dk_180 1 72 (dk_at dksX7_readGoat_5 16 rfl rfl)
theorem dX7_readGoat_134 : decode cX7_readGoat 134 = .ok (.bipush 6, 2) := dk_16 6 (dk_at dksX7_readGoat_5 19 rfl rfl)
theorem dX7_readGoat_136 : decode cX7_readGoat 136 = .ok (.if_icmp .ge 13, 3) := dk_162 0 13 (dk_at dksX7_readGoat_5 21 rfl rfl)
theorem dX7_readGoat_139 : decode cX7_readGoat 139 = .ok (.aload_n 0, 1) := dk_42 (dk_at dksX7_readGoat_6 0 rfl rfl)
theorem dX7_readGoat_140 : decode cX7_readGoat 140 = .ok (.getfield 192, 3) := dk_180 0 192 (dk_at dksX7_readGoat_6 1 rfl rfl)
theorem dX7_readGoat_143 : decode cX7_readGoat 143 = .ok (.getfield 328, 3) := dk_180 1 72 (dk_at dksX7_readGoat_6 4 rfl rfl)
theorem dX7_readGoat_146 : decode cX7_readGoat 146 = .ok (.goto 4, 3) := dk_167 0 4 (dk_at dksX7_readGoat_6 7 rfl rfl)
theorem dX7_readGoat_149 : decode cX7_readGoat 149 = .ok (.iconst 0, 1) := dk_3 (dk_at dksX7_readGoat_6 10 rfl rfl)
theorem dX7_readGoat_150 : decode cX7_readGoat 150 = .ok (.istore 5, 2) := dk_54 5 (dk_at dksX7_readGoat_6 11 rfl rfl)
theorem dX7_readGoat_152 : decode cX7_readGoat 152 = .ok (.aload_n 0, 1) := dk_42 (dk_at dksX7_readGoat_6 13 rfl rfl)
theorem dX7_readGoat_153 : decode cX7_readGoat 153 = .ok (.getfield 117, 3) := dk_180 0 117 (dk_at dksX7_readGoat_6 14 rfl rfl)
theorem dX7_readGoat_156 : decode cX7_readGoat 156 = .ok (.istore 6, 2) := dk_54 6 (dk_at dksX7_readGoat_6 17 rfl rfl)
theorem dX7_readGoat_158 : decode cX7_readGoat 158 = .ok (.iconst 0, 1) := dk_3 (dk_at dksX7_readGoat_6 19 rfl rfl)
theorem dX7_readGoat_159 : decode cX7_readGoat 159 = .ok (.istore 7, 2) := dk_54 7 (dk_at dksX7_readGoat_6 20 rfl rfl)
theorem dX7_readGoat_161 : decode cX7_readGoat 161 = .ok (.aload_n 0, 1) := dk_42 (dk_at dksX7_readGoat_6 22 rfl rfl)
theorem dX7_readGoat_162 : decode cX7_readGoat 162 = .ok (.getfield 94, 3) := dk_180 0 94 (dk_at dksX7_readGoat_7 0 rfl rfl)
theorem dX7_readGoat_165 : decode cX7_readGoat 165 = .ok (.iconst 5, 1) := dk_8 (dk_at dksX7_readGoat_7 3 rfl rfl)
theorem dX7_readGoat_166 : decode cX7_readGoat 166 = .ok (.if_icmp .eq 127, 3) := dk_159 0 127 (dk_at dksX7_readGoat_7 4 rfl rfl)
theorem dX7_readGoat_169 : decode cX7_readGoat 169 = .ok (.iload 7, 2) := dk_21 7 (dk_at dksX7_readGoat_7 7 rfl rfl)
theorem dX7_readGoat_171 : decode cX7_readGoat 171 = .ok (.aload_n 0, 1) := dk_42 (dk_at dksX7_readGoat_7 9 rfl rfl)
theorem dX7_readGoat_172 : decode cX7_readGoat 172 = .ok (.getfield 117, 3) := dk_180 0 117 (dk_at dksX7_readGoat_7 10 rfl rfl)
theorem dX7_readGoat_175 : decode cX7_readGoat 175 = .ok (.if_icmp .ge 118, 3) := dk_162 0 118 (dk_at dksX7_readGoat_7 13 rfl rfl)
theorem dX7_readGoat_178 : decode cX7_readGoat 178 = .ok (.aload_n 0, 1) := dk_42 (dk_at dksX7_readGoat_7 16 rfl rfl)
theorem dX7_readGoat_179 : decode cX7_readGoat 179 = .ok (.getfield 17, 3) := dk_180 0 17 (dk_at dksX7_readGoat_7 17 rfl rfl)
theorem dX7_readGoat_182 : decode cX7_readGoat 182 = .ok (.iload 7, 2) := dk_21 7 (dk_at dksX7_readGoat_7 20 rfl rfl)
theorem dX7_readGoat_184 : decode cX7_readGoat 184 = .ok (.iaload, 1) := dk_46 (dk_at dksX7_readGoat_7 22 rfl rfl)
theorem dX7_readGoat_185 : decode cX7_readGoat 185 = .ok (.bipush 97, 2) := dk_16 97 (dk_at dksX7_readGoat_8 0 rfl rfl)
theorem dX7_readGoat_187 : decode cX7_readGoat 187 = .ok (.isub, 1) := dk_100 (dk_at dksX7_readGoat_8 2 rfl rfl)
theorem dX7_readGoat_188 : decode cX7_readGoat 188 = .ok (.iconst 0, 1) := dk_3 (dk_at dksX7_readGoat_8 3 rfl rfl)
theorem dX7_readGoat_189 : decode cX7_readGoat 189 = .ok (.aload_n 0, 1) := dk_42 (dk_at dksX7_readGoat_8 4 rfl rfl)
theorem dX7_readGoat_190 : decode cX7_readGoat 190 = .ok (.getfield 192, 3) := dk_180 0 192 (dk_at dksX7_readGoat_8 5 rfl rfl)
theorem dX7_readGoat_193 : decode cX7_readGoat 193 = .ok (.getfield 229, 3) := dk_180 0 229 (dk_at dksX7_readGoat_8 8 rfl rfl)
theorem dX7_readGoat_196 : decode cX7_readGoat 196 = .ok (.iconst 1, 1) := dk_4 (dk_at dksX7_readGoat_8 11 rfl rfl)
theorem dX7_readGoat_197 : decode cX7_readGoat 197 = .ok (.isub, 1) := dk_100 (dk_at dksX7_readGoat_8 12 rfl rfl)
theorem dX7_readGoat_198 : decode cX7_readGoat 198 = .ok (.invokestatic 147, 3) := dk_184 0 147 (dk_at dksX7_readGoat_8 13 rfl rfl)
theorem dX7_readGoat_201 : decode cX7_readGoat 201 = .ok (.istore 8, 2) := dk_54 8 (dk_at dksX7_readGoat_8 16 rfl rfl)
theorem dX7_readGoat_203 : decode cX7_readGoat 203 = .ok (.iconst 0, 1) := dk_3 (dk_at dksX7_readGoat_8 18 rfl rfl)
theorem dX7_readGoat_204 : decode cX7_readGoat 204 = .ok (.istore 9, 2) := dk_54 9 (dk_at dksX7_readGoat_8 19 rfl rfl)
theorem dX7_readGoat_206 : decode cX7_readGoat 206 = .ok (.iload 9, 2) := dk_21 9 (dk_at dksX7_readGoat_8 21 rfl rfl)
theorem dX7_readGoat_208 : decode cX7_readGoat 208 = .ok (.iload 7, 2) := dk_21 7 (dk_at dksX7_readGoat_9 0 rfl rfl)
theorem dX7_readGoat_210 : decode cX7_readGoat 210 = .ok (.if_icmp .ge 38, 3) := dk_162 0 38 (dk_at dksX7_readGoat_9 2 rfl rfl)
theorem dX7_readGoat_213 : decode cX7_readGoat 213 = .ok (.iload 8, 2) := dk_21 8 (dk_at dksX7_readGoat_9 5 rfl rfl)
theorem dX7_readGoat_215 : decode cX7_readGoat 215 = .ok (.ifCond .eq 24, 3) := dk_153 0 24 (dk_at dksX7_readGoat_9 7 rfl rfl)
theorem dX7_readGoat_218 : decode cX7_readGoat 218 = .ok (.aload_n 0, 1) := dk_42 (dk_at dksX7_readGoat_9 10 rfl rfl)
theorem dX7_readGoat_219 : decode cX7_readGoat 219 = .ok (.getfield 17, 3) := dk_180 0 17 (dk_at dksX7_readGoat_9 11 rfl rfl)
theorem dX7_readGoat_222 : decode cX7_readGoat 222 = .ok (.iload 9, 2) := dk_21 9 (dk_at dksX7_readGoat_9 14 rfl rfl)
theorem dX7_readGoat_224 : decode cX7_readGoat 224 = .ok (.iaload, 1) := dk_46 (dk_at dksX7_readGoat_9 16 rfl rfl)
theorem dX7_readGoat_225 : decode cX7_readGoat 225 = .ok (.aload_n 0, 1) := dk_42 (dk_at dksX7_readGoat_9 17 rfl rfl)
theorem dX7_readGoat_226 : decode cX7_readGoat 226 = .ok (.getfield 17, 3) := dk_180 0 17 (dk_at dksX7_readGoat_9 18 rfl rfl)
theorem dX7_readGoat_229 : decode cX7_readGoat 229 = .ok (.iload 7, 2) := dk_21 7 (dk_at dksX7_readGoat_9 21 rfl rfl)
theorem dX7_readGoat_231 : decode cX7_readGoat 231 = .ok (.iaload, 1) := dk_46 (dk_at dksX7_readGoat_9 23 rfl rfl)
theorem dX7_readGoat_232 : decode cX7_readGoat 232 = .ok (.if_icmp .eq 7, 3) := dk_159 0 7 (dk_at dksX7_readGoat_10 0 rfl rfl)
theorem dX7_readGoat_235 : decode cX7_readGoat 235 = .ok (.iconst 1, 1) := dk_4 (dk_at dksX7_readGoat_10 3 rfl rfl)
theorem dX7_readGoat_236 : decode cX7_readGoat 236 = .ok (.goto 4, 3) := dk_167 0 4 (dk_at dksX7_readGoat_10 4 rfl rfl)
theorem dX7_readGoat_239 : decode cX7_readGoat 239 = .ok (.iconst 0, 1) := dk_3 (dk_at dksX7_readGoat_10 7 rfl rfl)
theorem dX7_readGoat_240 : decode cX7_readGoat 240 = .ok (.istore 8, 2) := dk_54 8 (dk_at dksX7_readGoat_10 8 rfl rfl)
theorem dX7_readGoat_242 : decode cX7_readGoat 242 = .ok (.iinc 9 1, 3) := dk_132 9 1 (dk_at dksX7_readGoat_10 10 rfl rfl)
theorem dX7_readGoat_245 : decode cX7_readGoat 245 = .ok (.goto (-39), 3) := dk_167 255 217 (dk_at dksX7_readGoat_10 13 rfl rfl)
theorem dX7_readGoat_248 : decode cX7_readGoat 248 = .ok (.iload 8, 2) := dk_21 8 (dk_at dksX7_readGoat_10 16 rfl rfl)
theorem dX7_readGoat_250 : decode cX7_readGoat 250 = .ok (.ifCond .eq 31, 3) := dk_153 0 31 (dk_at dksX7_readGoat_10 18 rfl rfl)
theorem dX7_readGoat_253 : decode cX7_readGoat 253 = .ok (.aload_n 0, 1) := dk_42 (dk_at dksX7_readGoat_10 21 rfl rfl)
theorem dX7_readGoat_254 : decode cX7_readGoat 254 = .ok (.getfield 192, 3) := dk_180 0 192 (dk_at dksX7_readGoat_11 0 rfl rfl)
theorem dX7_readGoat_257 : decode cX7_readGoat 257 = .ok (.getfield 341, 3) := dk_180 1 85 (dk_at dksX7_readGoat_11 3 rfl rfl)
theorem dX7_readGoat_260 : decode cX7_readGoat 260 = .ok (.iconst 4, 1) := dk_7 (dk_at dksX7_readGoat_11 6 rfl rfl)
theorem dX7_readGoat_261 : decode cX7_readGoat 261 = .ok (.iload 5, 2) := dk_21 5 (dk_at dksX7_readGoat_11 7 rfl rfl)
theorem dX7_readGoat_263 : decode cX7_readGoat 263 = .ok (.imul, 1) := dk_104 (dk_at dksX7_readGoat_11 9 rfl rfl)
theorem dX7_readGoat_264 : decode cX7_readGoat 264 = .ok (.iload 7, 2) := dk_21 7 (dk_at dksX7_readGoat_11 10 rfl rfl)
theorem dX7_readGoat_266 : decode cX7_readGoat 266 = .ok (.iadd, 1) := dk_96 (dk_at dksX7_readGoat_11 12 rfl rfl)
theorem dX7_readGoat_267 : decode cX7_readGoat 267 = .ok (.aload_n 0, 1) := dk_42 (dk_at dksX7_readGoat_11 13 rfl rfl)
theorem dX7_readGoat_268 : decode cX7_readGoat 268 = .ok (.getfield 17, 3) := dk_180 0 17 (dk_at dksX7_readGoat_11 14 rfl rfl)
theorem dX7_readGoat_271 : decode cX7_readGoat 271 = .ok (.iload 7, 2) := dk_21 7 (dk_at dksX7_readGoat_11 17 rfl rfl)
theorem dX7_readGoat_273 : decode cX7_readGoat 273 = .ok (.iaload, 1) := dk_46 (dk_at dksX7_readGoat_11 19 rfl rfl)
theorem dX7_readGoat_274 : decode cX7_readGoat 274 = .ok (.bipush 97, 2) := dk_16 97 (dk_at dksX7_readGoat_11 20 rfl rfl)
theorem dX7_readGoat_276 : decode cX7_readGoat 276 = .ok (.isub, 1) := dk_100 (dk_at dksX7_readGoat_11 22 rfl rfl)
theorem dX7_readGoat_277 : decode cX7_readGoat 277 = .ok (.iastore, 1) := dk_79 (dk_at dksX7_readGoat_11 23 rfl rfl)
theorem dX7_readGoat_278 : decode cX7_readGoat 278 = .ok (.goto 9, 3) := dk_167 0 9 (dk_at dksX7_readGoat_12 0 rfl rfl)
theorem dX7_readGoat_281 : decode cX7_readGoat 281 = .ok (.aload_n 0, 1) := dk_42 (dk_at dksX7_readGoat_12 3 rfl rfl)
theorem dX7_readGoat_282 : decode cX7_readGoat 282 = .ok (.bipush 7, 2) := dk_16 7 (dk_at dksX7_readGoat_12 4 rfl rfl)
theorem dX7_readGoat_284 : decode cX7_readGoat 284 = .ok (.invokevirtual 143, 3) := dk_182 0 143 (dk_at dksX7_readGoat_12 6 rfl rfl)
theorem dX7_readGoat_287 : decode cX7_readGoat 287 = .ok (.iinc 7 1, 3) := dk_132 7 1 (dk_at dksX7_readGoat_12 9 rfl rfl)
theorem dX7_readGoat_290 : decode cX7_readGoat 290 = .ok (.goto (-129), 3) := dk_167 255 127 (dk_at dksX7_readGoat_12 12 rfl rfl)
theorem dX7_readGoat_293 : decode cX7_readGoat 293 = .ok (.aload_n 0, 1) := dk_42 (dk_at dksX7_readGoat_12 15 rfl rfl)
theorem dX7_readGoat_294 : decode cX7_readGoat 294 = .ok (.invokevirtual 136, 3) := dk_182 0 136 (dk_at dksX7_readGoat_12 16 rfl rfl)
theorem dX7_readGoat_297 : decode cX7_readGoat 297 = .ok (.aload_n 0, 1) := dk_42 (dk_at dksX7_readGoat_12 19 rfl rfl)
theorem dX7_readGoat_298 : decode cX7_readGoat 298 = .ok (.ldc_w 343, 3) := dk_19 1 87 (dk_at dksX7_readGoat_12 20 rfl rfl)
theorem dX7_readGoat_301 : decode cX7_readGoat 301 = .ok (.invokevirtual 151, 3) := dk_182 0 151 (dk_at dksX7_readGoat_13 0 rfl rfl)
theorem dX7_readGoat_304 : decode cX7_readGoat 304 = .ok (.aload_n 0, 1) := dk_42 (dk_at dksX7_readGoat_13 3 rfl rfl)
theorem dX7_readGoat_305 : decode cX7_readGoat 305 = .ok (.iconst 0, 1) := dk_3 (dk_at dksX7_readGoat_13 4 rfl rfl)
theorem dX7_readGoat_306 : decode cX7_readGoat 306 = .ok (.invokevirtual 309, 3) := dk_182 1 53 (dk_at dksX7_readGoat_13 5 rfl rfl)
theorem dX7_readGoat_309 : decode cX7_readGoat 309 = .ok (.istore 7, 2) := dk_54 7 (dk_at dksX7_readGoat_13 8 rfl rfl)
theorem dX7_readGoat_311 : decode cX7_readGoat 311 = .ok (.aload_n 0, 1) := dk_42 (dk_at dksX7_readGoat_13 10 rfl rfl)
theorem dX7_readGoat_312 : decode cX7_readGoat 312 = .ok (.ldc_w 345, 3) := dk_19 1 89 (dk_at dksX7_readGoat_13 11 rfl rfl)
theorem dX7_readGoat_315 : decode cX7_readGoat 315 = .ok (.iconst 1, 1) := dk_4 (dk_at dksX7_readGoat_13 14 rfl rfl)
theorem dX7_readGoat_316 : decode cX7_readGoat 316 = .ok (.bipush 9, 2) := dk_16 9 (dk_at dksX7_readGoat_13 15 rfl rfl)
theorem dX7_readGoat_318 : decode cX7_readGoat 318 = .ok (.invokevirtual 287, 3) := dk_182 1 31 (dk_at dksX7_readGoat_13 17 rfl rfl)
theorem dX7_readGoat_321 : decode cX7_readGoat 321 = .ok (.istore 8, 2) := dk_54 8 (dk_at dksX7_readGoat_13 20 rfl rfl)
theorem dX7_readGoat_323 : decode cX7_readGoat 323 = .ok (.aload_n 0, 1) := dk_42 (dk_at dksX7_readGoat_13 22 rfl rfl)
theorem dX7_readGoat_324 : decode cX7_readGoat 324 = .ok (.getfield 94, 3) := dk_180 0 94 (dk_at dksX7_readGoat_14 0 rfl rfl)
theorem dX7_readGoat_327 : decode cX7_readGoat 327 = .ok (.iconst 5, 1) := dk_8 (dk_at dksX7_readGoat_14 3 rfl rfl)
theorem dX7_readGoat_328 : decode cX7_readGoat 328 = .ok (.if_icmp .ne 4, 3) := dk_160 0 4 (dk_at dksX7_readGoat_14 4 rfl rfl)
theorem dX7_readGoat_331 : decode cX7_readGoat 331 = .ok (.return_, 1) := dk_177 (dk_at dksX7_readGoat_14 7 rfl rfl)
theorem dX7_readGoat_332 : decode cX7_readGoat 332 = .ok (.aload_n 0, 1) := dk_42 (dk_at dksX7_readGoat_14 8 rfl rfl)
theorem dX7_readGoat_333 : decode cX7_readGoat 333 = .ok (.lload_n 1, 1) := dk_31 (dk_at dksX7_readGoat_14 9 rfl rfl)
theorem dX7_readGoat_334 : decode cX7_readGoat 334 = .ok (.iconst 2, 1) := dk_5 (dk_at dksX7_readGoat_14 10 rfl rfl)
theorem dX7_readGoat_335 : decode cX7_readGoat 335 = .ok (.iload 5, 2) := dk_21 5 (dk_at dksX7_readGoat_14 11 rfl rfl)
theorem dX7_readGoat_337 : decode cX7_readGoat 337 = .ok (.invokevirtual 303, 3) := dk_182 1 47 (dk_at dksX7_readGoat_14 13 rfl rfl)
theorem dX7_readGoat_340 : decode cX7_readGoat 340 = .ok (.aload_n 0, 1) := dk_42 (dk_at dksX7_readGoat_14 16 rfl rfl)
theorem dX7_readGoat_341 : decode cX7_readGoat 341 = .ok (.getfield 192, 3) := dk_180 0 192 (dk_at dksX7_readGoat_14 17 rfl rfl)
theorem dX7_readGoat_344 : decode cX7_readGoat 344 = .ok (.getfield 347, 3) := dk_180 1 91 (dk_at dksX7_readGoat_14 20 rfl rfl)
theorem dX7_readGoat_347 : decode cX7_readGoat 347 = .ok (.iload 5, 2) := dk_21 5 (dk_at dksX7_readGoat_15 0 rfl rfl)
theorem dX7_readGoat_349 : decode cX7_readGoat 349 = .ok (.iload_n 3, 1) := dk_29 (dk_at dksX7_readGoat_15 2 rfl rfl)
theorem dX7_readGoat_350 : decode cX7_readGoat 350 = .ok (.iastore, 1) := dk_79 (dk_at dksX7_readGoat_15 3 rfl rfl)
theorem dX7_readGoat_351 : decode cX7_readGoat 351 = .ok (.aload_n 0, 1) := dk_42 (dk_at dksX7_readGoat_15 4 rfl rfl)
theorem dX7_readGoat_352 : decode cX7_readGoat 352 = .ok (.getfield 192, 3) := dk_180 0 192 (dk_at dksX7_readGoat_15 5 rfl rfl)
theorem dX7_readGoat_355 : decode cX7_readGoat 355 = .ok (.getfield 350, 3) := dk_180 1 94 (dk_at dksX7_readGoat_15 8 rfl rfl)
theorem dX7_readGoat_358 : decode cX7_readGoat 358 = .ok (.iload 5, 2) := dk_21 5 (dk_at dksX7_readGoat_15 11 rfl rfl)
theorem dX7_readGoat_360 : decode cX7_readGoat 360 = .ok (.iload 4, 2) := dk_21 4 (dk_at dksX7_readGoat_15 13 rfl rfl)
theorem dX7_readGoat_362 : decode cX7_readGoat 362 = .ok (.iastore, 1) := dk_79 (dk_at dksX7_readGoat_15 15 rfl rfl)
theorem dX7_readGoat_363 : decode cX7_readGoat 363 = .ok (.aload_n 0, 1) := dk_42 (dk_at dksX7_readGoat_15 16 rfl rfl)
theorem dX7_readGoat_364 : decode cX7_readGoat 364 = .ok (.getfield 192, 3) := dk_180 0 192 (dk_at dksX7_readGoat_15 17 rfl rfl)
theorem dX7_readGoat_367 : decode cX7_readGoat 367 = .ok (.getfield 353, 3) := dk_180 1 97 (dk_at dksX7_readGoat_15 20 rfl rfl)
theorem dX7_readGoat_370 : decode cX7_readGoat 370 = .ok (.iload 5, 2) := dk_21 5 (dk_at dksX7_readGoat_16 0 rfl rfl)
theorem dX7_readGoat_372 : decode cX7_readGoat 372 = .ok (.iload 6, 2) := dk_21 6 (dk_at dksX7_readGoat_16 2 rfl rfl)
theorem dX7_readGoat_374 : decode cX7_readGoat 374 = .ok (.iastore, 1) := dk_79 (dk_at dksX7_readGoat_16 4 rfl rfl)
theorem dX7_readGoat_375 : decode cX7_readGoat 375 = .ok (.aload_n 0, 1) := dk_42 (dk_at dksX7_readGoat_16 5 rfl rfl)
theorem dX7_readGoat_376 : decode cX7_readGoat 376 = .ok (.getfield 192, 3) := dk_180 0 192 (dk_at dksX7_readGoat_16 6 rfl rfl)
theorem dX7_readGoat_379 : decode cX7_readGoat 379 = .ok (.getfield 356, 3) := dk_180 1 100 (dk_at dksX7_readGoat_16 9 rfl rfl)
theorem dX7_readGoat_382 : decode cX7_readGoat 382 = .ok (.iload 5, 2) := dk_21 5 (dk_at dksX7_readGoat_16 12 rfl rfl)
theorem dX7_readGoat_384 : decode cX7_readGoat 384 = .ok (.iload 7, 2) := dk_21 7 (dk_at dksX7_readGoat_16 14 rfl rfl)
theorem dX7_readGoat_386 : decode cX7_readGoat 386 = .ok (.iastore, 1) := dk_79 (dk_at dksX7_readGoat_16 16 rfl rfl)
theorem dX7_readGoat_387 : decode cX7_readGoat 387 = .ok (.aload_n 0, 1) := dk_42 (dk_at dksX7_readGoat_16 17 rfl rfl)
theorem dX7_readGoat_388 : decode cX7_readGoat 388 = .ok (.getfield 192, 3) := dk_180 0 192 (dk_at dksX7_readGoat_16 18 rfl rfl)
theorem dX7_readGoat_391 : decode cX7_readGoat 391 = .ok (.getfield 359, 3) := dk_180 1 103 (dk_at dksX7_readGoat_16 21 rfl rfl)
theorem dX7_readGoat_394 : decode cX7_readGoat 394 = .ok (.iload 5, 2) := dk_21 5 (dk_at dksX7_readGoat_17 0 rfl rfl)
theorem dX7_readGoat_396 : decode cX7_readGoat 396 = .ok (.iload 8, 2) := dk_21 8 (dk_at dksX7_readGoat_17 2 rfl rfl)
theorem dX7_readGoat_398 : decode cX7_readGoat 398 = .ok (.iastore, 1) := dk_79 (dk_at dksX7_readGoat_17 4 rfl rfl)
theorem dX7_readGoat_399 : decode cX7_readGoat 399 = .ok (.aload_n 0, 1) := dk_42 (dk_at dksX7_readGoat_17 5 rfl rfl)
theorem dX7_readGoat_400 : decode cX7_readGoat 400 = .ok (.getfield 192, 3) := dk_180 0 192 (dk_at dksX7_readGoat_17 6 rfl rfl)
theorem dX7_readGoat_403 : decode cX7_readGoat 403 = .ok (.dup, 1) := dk_89 (dk_at dksX7_readGoat_17 9 rfl rfl)
theorem dX7_readGoat_404 : decode cX7_readGoat 404 = .ok (.getfield 328, 3) := dk_180 1 72 (dk_at dksX7_readGoat_17 10 rfl rfl)
theorem dX7_readGoat_407 : decode cX7_readGoat 407 = .ok (.iconst 1, 1) := dk_4 (dk_at dksX7_readGoat_17 13 rfl rfl)
theorem dX7_readGoat_408 : decode cX7_readGoat 408 = .ok (.iadd, 1) := dk_96 (dk_at dksX7_readGoat_17 14 rfl rfl)
theorem dX7_readGoat_409 : decode cX7_readGoat 409 = .ok (.putfield 328, 3) := dk_181 1 72 (dk_at dksX7_readGoat_17 15 rfl rfl)
theorem dX7_readGoat_412 : decode cX7_readGoat 412 = .ok (.return_, 1) := dk_177 (dk_at dksX7_readGoat_17 18 rfl rfl)
def dkwX7_bit_0 : List UInt8 := [26, 27, 122, 4, 126, 4, 160, 0, 7, 4, 167, 0, 4, 3, 172]
abbrev dktX7_bit_0 : List UInt8 := dkwX7_bit_0 ++ []
theorem dksX7_bit_0 : cX7_bit.data.toList.drop 0 = dktX7_bit_0 := by decide +kernel
theorem dX7_bit_0 : decode cX7_bit 0 = .ok (.iload_n 0, 1) := dk_26 (dk_at dksX7_bit_0 0 rfl rfl)
theorem dX7_bit_1 : decode cX7_bit 1 = .ok (.iload_n 1, 1) := dk_27 (dk_at dksX7_bit_0 1 rfl rfl)
theorem dX7_bit_2 : decode cX7_bit 2 = .ok (.ishr, 1) := dk_122 (dk_at dksX7_bit_0 2 rfl rfl)
theorem dX7_bit_3 : decode cX7_bit 3 = .ok (.iconst 1, 1) := dk_4 (dk_at dksX7_bit_0 3 rfl rfl)
theorem dX7_bit_4 : decode cX7_bit 4 = .ok (.iand, 1) := dk_126 (dk_at dksX7_bit_0 4 rfl rfl)
theorem dX7_bit_5 : decode cX7_bit 5 = .ok (.iconst 1, 1) := dk_4 (dk_at dksX7_bit_0 5 rfl rfl)
theorem dX7_bit_6 : decode cX7_bit 6 = .ok (.if_icmp .ne 7, 3) := dk_160 0 7 (dk_at dksX7_bit_0 6 rfl rfl)
theorem dX7_bit_9 : decode cX7_bit 9 = .ok (.iconst 1, 1) := dk_4 (dk_at dksX7_bit_0 9 rfl rfl)
theorem dX7_bit_10 : decode cX7_bit 10 = .ok (.goto 4, 3) := dk_167 0 4 (dk_at dksX7_bit_0 10 rfl rfl)
theorem dX7_bit_13 : decode cX7_bit 13 = .ok (.iconst 0, 1) := dk_3 (dk_at dksX7_bit_0 13 rfl rfl)
theorem dX7_bit_14 : decode cX7_bit 14 = .ok (.ireturn, 1) := dk_172 (dk_at dksX7_bit_0 14 rfl rfl)
def dkwX7_readFears_4 : List UInt8 := [181, 1, 105, 177]
abbrev dktX7_readFears_4 : List UInt8 := dkwX7_readFears_4 ++ []
def dkwX7_readFears_3 : List UInt8 := [180, 0, 192, 180, 1, 107, 27, 92, 46, 4, 28, 120, 128, 79, 42, 180, 0, 192, 89, 180, 1, 105, 4, 96]
abbrev dktX7_readFears_3 : List UInt8 := dkwX7_readFears_3 ++ dktX7_readFears_4
def dkwX7_readFears_2 : List UInt8 := [153, 0, 8, 42, 6, 182, 0, 143, 42, 182, 0, 136, 42, 180, 0, 94, 8, 160, 0, 4, 177, 42]
abbrev dktX7_readFears_2 : List UInt8 := dkwX7_readFears_2 ++ dktX7_readFears_3
def dkwX7_readFears_1 : List UInt8 := [61, 42, 180, 0, 94, 8, 159, 0, 24, 42, 180, 0, 192, 180, 1, 107, 27, 46, 28, 184, 1, 110]
abbrev dktX7_readFears_1 : List UInt8 := dkwX7_readFears_1 ++ dktX7_readFears_2
def dkwX7_readFears_0 : List UInt8 := [42, 42, 180, 0, 192, 180, 1, 105, 16, 8, 182, 0, 201, 42, 5, 182, 1, 53, 60, 42, 4, 182, 0, 226]
abbrev dktX7_readFears_0 : List UInt8 := dkwX7_readFears_0 ++ dktX7_readFears_1
theorem dksX7_readFears_0 : cX7_readFears.data.toList.drop 0 = dktX7_readFears_0 := by decide +kernel
theorem dksX7_readFears_1 : cX7_readFears.data.toList.drop 24 = dktX7_readFears_1 := dk_seg dksX7_readFears_0 24 rfl rfl
theorem dksX7_readFears_2 : cX7_readFears.data.toList.drop 46 = dktX7_readFears_2 := dk_seg dksX7_readFears_1 22 rfl rfl
theorem dksX7_readFears_3 : cX7_readFears.data.toList.drop 68 = dktX7_readFears_3 := dk_seg dksX7_readFears_2 22 rfl rfl
theorem dksX7_readFears_4 : cX7_readFears.data.toList.drop 92 = dktX7_readFears_4 := dk_seg dksX7_readFears_3 24 rfl rfl
theorem dX7_readFears_0 : decode cX7_readFears 0 = .ok (.aload_n 0, 1) := dk_42 (dk_at dksX7_readFears_0 0 rfl rfl)
theorem dX7_readFears_1 : decode cX7_readFears 1 = .ok (.aload_n 0, 1) := dk_42 (dk_at dksX7_readFears_0 1 rfl rfl)
theorem dX7_readFears_2 : decode cX7_readFears 2 = .ok (.getfield 192, 3) := dk_180 0 192 (dk_at dksX7_readFears_0 2 rfl rfl)
theorem dX7_readFears_5 : decode cX7_readFears 5 = .ok (.getfield 361, 3) := dk_180 1 105 (dk_at dksX7_readFears_0 5 rfl rfl)
theorem dX7_readFears_8 : decode cX7_readFears 8 = .ok (.bipush 8, 2) := dk_16 8 (dk_at dksX7_readFears_0 8 rfl rfl)
theorem dX7_readFears_10 : decode cX7_readFears 10 = .ok (.invokevirtual 201, 3) := dk_182 0 201 (dk_at dksX7_readFears_0 10 rfl rfl)
theorem dX7_readFears_13 : decode cX7_readFears 13 = .ok (.aload_n 0, 1) := dk_42 (dk_at dksX7_readFears_0 13 rfl rfl)
theorem dX7_readFears_14 : decode cX7_readFears 14 = .ok (.iconst 2, 1) := dk_5 (dk_at dksX7_readFears_0 14 rfl rfl)
theorem dX7_readFears_15 : decode cX7_readFears 15 = .ok (.invokevirtual 309, 3) := dk_182 1 53 (dk_at dksX7_readFears_0 15 rfl rfl)
theorem dX7_readFears_18 : decode cX7_readFears 18 = .ok (.istore_n 1, 1) := dk_60 (dk_at dksX7_readFears_0 18 rfl rfl)
theorem dX7_readFears_19 : decode cX7_readFears 19 = .ok (.aload_n 0, 1) := dk_42 (dk_at dksX7_readFears_0 19 rfl rfl)
theorem dX7_readFears_20 : decode cX7_readFears 20 = .ok (.iconst 1, 1) := dk_4 (dk_at dksX7_readFears_0 20 rfl rfl)
theorem dX7_readFears_21 : decode cX7_readFears 21 = .ok (.invokevirtual 226, 3) := dk_182 0 226 (dk_at dksX7_readFears_0 21 rfl rfl)
theorem dX7_readFears_24 : decode cX7_readFears 24 = .ok (.istore_n 2, 1) := dk_61 (dk_at dksX7_readFears_1 0 rfl rfl)
theorem dX7_readFears_25 : decode cX7_readFears 25 = .ok (.aload_n 0, 1) := dk_42 (dk_at dksX7_readFears_1 1 rfl rfl)
theorem dX7_readFears_26 : decode cX7_readFears 26 = .ok (.getfield 94, 3) := dk_180 0 94 (dk_at dksX7_readFears_1 2 rfl rfl)
theorem dX7_readFears_29 : decode cX7_readFears 29 = .ok (.iconst 5, 1) := dk_8 (dk_at dksX7_readFears_1 5 rfl rfl)
theorem dX7_readFears_30 : decode cX7_readFears 30 = .ok (.if_icmp .eq 24, 3) := dk_159 0 24 (dk_at dksX7_readFears_1 6 rfl rfl)
theorem dX7_readFears_33 : decode cX7_readFears 33 = .ok (.aload_n 0, 1) := dk_42 (dk_at dksX7_readFears_1 9 rfl rfl)
theorem dX7_readFears_34 : decode cX7_readFears 34 = .ok (.getfield 192, 3) := dk_180 0 192 (dk_at dksX7_readFears_1 10 rfl rfl)
theorem dX7_readFears_37 : decode cX7_readFears 37 = .ok (.getfield 363, 3) := dk_180 1 107 (dk_at dksX7_readFears_1 13 rfl rfl)
theorem dX7_readFears_40 : decode cX7_readFears 40 = .ok (.iload_n 1, 1) := dk_27 (dk_at dksX7_readFears_1 16 rfl rfl)
theorem dX7_readFears_41 : decode cX7_readFears 41 = .ok (.iaload, 1) := dk_46 (dk_at dksX7_readFears_1 17 rfl rfl)
theorem dX7_readFears_42 : decode cX7_readFears 42 = .ok (.iload_n 2, 1) := dk_28 (dk_at dksX7_readFears_1 18 rfl rfl)
theorem dX7_readFears_43 : decode cX7_readFears 43 = .ok (.invokestatic 366, 3) := dk_184 1 110 (dk_at dksX7_readFears_1 19 rfl rfl)
theorem dX7_readFears_46 : decode cX7_readFears 46 = .ok (.ifCond .eq 8, 3) := dk_153 0 8 (dk_at dksX7_readFears_2 0 rfl rfl)
theorem dX7_readFears_49 : decode cX7_readFears 49 = .ok (.aload_n 0, 1) := dk_42 (dk_at dksX7_readFears_2 3 rfl rfl)
theorem dX7_readFears_50 : decode cX7_readFears 50 = .ok (.iconst 3, 1) := dk_6 (dk_at dksX7_readFears_2 4 rfl rfl)
theorem dX7_readFears_51 : decode cX7_readFears 51 = .ok (.invokevirtual 143, 3) := dk_182 0 143 (dk_at dksX7_readFears_2 5 rfl rfl)
theorem dX7_readFears_54 : decode cX7_readFears 54 = .ok (.aload_n 0, 1) := dk_42 (dk_at dksX7_readFears_2 8 rfl rfl)
theorem dX7_readFears_55 : decode cX7_readFears 55 = .ok (.invokevirtual 136, 3) := dk_182 0 136 (dk_at dksX7_readFears_2 9 rfl rfl)
theorem dX7_readFears_58 : decode cX7_readFears 58 = .ok (.aload_n 0, 1) := dk_42 (dk_at dksX7_readFears_2 12 rfl rfl)
theorem dX7_readFears_59 : decode cX7_readFears 59 = .ok (.getfield 94, 3) := dk_180 0 94 (dk_at dksX7_readFears_2 13 rfl rfl)
theorem dX7_readFears_62 : decode cX7_readFears 62 = .ok (.iconst 5, 1) := dk_8 (dk_at dksX7_readFears_2 16 rfl rfl)
theorem dX7_readFears_63 : decode cX7_readFears 63 = .ok (.if_icmp .ne 4, 3) := dk_160 0 4 (dk_at dksX7_readFears_2 17 rfl rfl)
theorem dX7_readFears_66 : decode cX7_readFears 66 = .ok (.return_, 1) := dk_177 (dk_at dksX7_readFears_2 20 rfl rfl)
theorem dX7_readFears_67 : decode cX7_readFears 67 = .ok (.aload_n 0, 1) := dk_42 (dk_at dksX7_readFears_2 21 rfl rfl)
theorem dX7_readFears_68 : decode cX7_readFears 68 = .ok (.getfield 192, 3) := dk_180 0 192 (dk_at dksX7_readFears_3 0 rfl rfl)
theorem dX7_readFears_71 : decode cX7_readFears 71 = .ok (.getfield 363, 3) := dk_180 1 107 (dk_at dksX7_readFears_3 3 rfl rfl)
theorem dX7_readFears_74 : decode cX7_readFears 74 = .ok (.iload_n 1, 1) := dk_27 (dk_at dksX7_readFears_3 6 rfl rfl)
theorem dX7_readFears_75 : decode cX7_readFears 75 = .ok (.dup2, 1) := dk_92 (dk_at dksX7_readFears_3 7 rfl rfl)
theorem dX7_readFears_76 : decode cX7_readFears 76 = .ok (.iaload, 1) := dk_46 (dk_at dksX7_readFears_3 8 rfl rfl)
theorem dX7_readFears_77 : decode cX7_readFears 77 = .ok (.iconst 1, 1) := dk_4 (dk_at dksX7_readFears_3 9 rfl rfl)
theorem dX7_readFears_78 : decode cX7_readFears 78 = .ok (.iload_n 2, 1) := dk_28 (dk_at dksX7_readFears_3 10 rfl rfl)
theorem dX7_readFears_79 : decode cX7_readFears 79 = .ok (.ishl, 1) := dk_120 (dk_at dksX7_readFears_3 11 rfl rfl)
theorem dX7_readFears_80 : decode cX7_readFears 80 = .ok (.ior, 1) := dk_128 (dk_at dksX7_readFears_3 12 rfl rfl)
theorem dX7_readFears_81 : decode cX7_readFears 81 = .ok (.iastore, 1) := dk_79 (dk_at dksX7_readFears_3 13 rfl rfl)
theorem dX7_readFears_82 : decode cX7_readFears 82 = .ok (.aload_n 0, 1) := dk_42 (dk_at dksX7_readFears_3 14 rfl rfl)
theorem dX7_readFears_83 : decode cX7_readFears 83 = .ok (.getfield 192, 3) := dk_180 0 192 (dk_at dksX7_readFears_3 15 rfl rfl)
theorem dX7_readFears_86 : decode cX7_readFears 86 = .ok (.dup, 1) := dk_89 (dk_at dksX7_readFears_3 18 rfl rfl)
theorem dX7_readFears_87 : decode cX7_readFears 87 = .ok (.getfield 361, 3) := dk_180 1 105 (dk_at dksX7_readFears_3 19 rfl rfl)
theorem dX7_readFears_90 : decode cX7_readFears 90 = .ok (.iconst 1, 1) := dk_4 (dk_at dksX7_readFears_3 22 rfl rfl)
theorem dX7_readFears_91 : decode cX7_readFears 91 = .ok (.iadd, 1) := dk_96 (dk_at dksX7_readFears_3 23 rfl rfl)
theorem dX7_readFears_92 : decode cX7_readFears 92 = .ok (.putfield 361, 3) := dk_181 1 105 (dk_at dksX7_readFears_4 0 rfl rfl)
theorem dX7_readFears_95 : decode cX7_readFears 95 = .ok (.return_, 1) := dk_177 (dk_at dksX7_readFears_4 3 rfl rfl)
def dkwX7_readPlant_3 : List UInt8 := [42, 16, 7, 182, 0, 143, 42, 182, 0, 136, 27, 172]
abbrev dktX7_readPlant_3 : List UInt8 := dkwX7_readPlant_3 ++ []
def dkwX7_readPlant_2 : List UInt8 := [180, 0, 117, 4, 160, 0, 20, 27, 3, 42, 180, 0, 192, 180, 0, 229, 4, 100, 184, 0, 147, 154, 0, 9]
abbrev dktX7_readPlant_2 : List UInt8 := dkwX7_readPlant_2 ++ dktX7_readPlant_3
def dkwX7_readPlant_1 : List UInt8 := [167, 0, 12, 42, 180, 0, 17, 3, 46, 16, 97, 100, 60, 42, 180, 0, 94, 8, 159, 0, 34, 42]
abbrev dktX7_readPlant_1 : List UInt8 := dkwX7_readPlant_1 ++ dktX7_readPlant_2
def dkwX7_readPlant_0 : List UInt8 := [42, 180, 0, 94, 5, 159, 0, 8, 42, 4, 182, 0, 143, 42, 180, 0, 94, 8, 160, 0, 7, 3]
abbrev dktX7_readPlant_0 : List UInt8 := dkwX7_readPlant_0 ++ dktX7_readPlant_1
theorem dksX7_readPlant_0 : cX7_readPlant.data.toList.drop 0 = dktX7_readPlant_0 := by decide +kernel
theorem dksX7_readPlant_1 : cX7_readPlant.data.toList.drop 22 = dktX7_readPlant_1 := dk_seg dksX7_readPlant_0 22 rfl rfl
theorem dksX7_readPlant_2 : cX7_readPlant.data.toList.drop 44 = dktX7_readPlant_2 := dk_seg dksX7_readPlant_1 22 rfl rfl
theorem dksX7_readPlant_3 : cX7_readPlant.data.toList.drop 68 = dktX7_readPlant_3 := dk_seg dksX7_readPlant_2 24 rfl rfl
theorem dX7_readPlant_0 : decode cX7_readPlant 0 = .ok (.aload_n 0, 1) := dk_42 (dk_at dksX7_readPlant_0 0 rfl rfl)
theorem dX7_readPlant_1 : decode cX7_readPlant 1 = .ok (.getfield 94, 3) := dk_180 0 94 (dk_at dksX7_readPlant_0 1 rfl rfl)
theorem dX7_readPlant_4 : decode cX7_readPlant 4 = .ok (.iconst 2, 1) := dk_5 (dk_at dksX7_readPlant_0 4 rfl rfl)
theorem dX7_readPlant_5 : decode cX7_readPlant 5 = .ok (.if_icmp .eq 8, 3) := dk_159 0 8 (dk_at dksX7_readPlant_0 5 rfl rfl)
theorem dX7_readPlant_8 : decode cX7_readPlant 8 = .ok (.aload_n 0, 1) := dk_42 (dk_at dksX7_readPlant_0 8 rfl rfl)
theorem dX7_readPlant_9 : decode cX7_readPlant 9 = .ok (.iconst 1, 1) := dk_4 (dk_at dksX7_readPlant_0 9 rfl rfl)
theorem dX7_readPlant_10 : decode cX7_readPlant 10 = .ok (.invokevirtual 143, 3) := dk_182 0 143 (dk_at dksX7_readPlant_0 10 rfl rfl)
theorem dX7_readPlant_13 : decode cX7_readPlant 13 = .ok (.aload_n 0, 1) := dk_42 (dk_at dksX7_readPlant_0 13 rfl rfl)
theorem dX7_readPlant_14 : decode cX7_readPlant 14 = .ok (.getfield 94, 3) := dk_180 0 94 (dk_at dksX7_readPlant_0 14 rfl rfl)
theorem dX7_readPlant_17 : decode cX7_readPlant 17 = .ok (.iconst 5, 1) := dk_8 (dk_at dksX7_readPlant_0 17 rfl rfl)
theorem dX7_readPlant_18 : decode cX7_readPlant 18 = .ok (.if_icmp .ne 7, 3) := dk_160 0 7 (dk_at dksX7_readPlant_0 18 rfl rfl)
theorem dX7_readPlant_21 : decode cX7_readPlant 21 = .ok (.iconst 0, 1) := dk_3 (dk_at dksX7_readPlant_0 21 rfl rfl)
theorem dX7_readPlant_22 : decode cX7_readPlant 22 = .ok (.goto 12, 3) := dk_167 0 12 (dk_at dksX7_readPlant_1 0 rfl rfl)
theorem dX7_readPlant_25 : decode cX7_readPlant 25 = .ok (.aload_n 0, 1) := dk_42 (dk_at dksX7_readPlant_1 3 rfl rfl)
theorem dX7_readPlant_26 : decode cX7_readPlant 26 = .ok (.getfield 17, 3) := dk_180 0 17 (dk_at dksX7_readPlant_1 4 rfl rfl)
theorem dX7_readPlant_29 : decode cX7_readPlant 29 = .ok (.iconst 0, 1) := dk_3 (dk_at dksX7_readPlant_1 7 rfl rfl)
theorem dX7_readPlant_30 : decode cX7_readPlant 30 = .ok (.iaload, 1) := dk_46 (dk_at dksX7_readPlant_1 8 rfl rfl)
theorem dX7_readPlant_31 : decode cX7_readPlant 31 = .ok (.bipush 97, 2) := dk_16 97 (dk_at dksX7_readPlant_1 9 rfl rfl)
theorem dX7_readPlant_33 : decode cX7_readPlant 33 = .ok (.isub, 1) := dk_100 (dk_at dksX7_readPlant_1 11 rfl rfl)
theorem dX7_readPlant_34 : decode cX7_readPlant 34 = .ok (.istore_n 1, 1) := dk_60 (dk_at dksX7_readPlant_1 12 rfl rfl)
theorem dX7_readPlant_35 : decode cX7_readPlant 35 = .ok (.aload_n 0, 1) := dk_42 (dk_at dksX7_readPlant_1 13 rfl rfl)
theorem dX7_readPlant_36 : decode cX7_readPlant 36 = .ok (.getfield 94, 3) := dk_180 0 94 (dk_at dksX7_readPlant_1 14 rfl rfl)
theorem dX7_readPlant_39 : decode cX7_readPlant 39 = .ok (.iconst 5, 1) := dk_8 (dk_at dksX7_readPlant_1 17 rfl rfl)
theorem dX7_readPlant_40 : decode cX7_readPlant 40 = .ok (.if_icmp .eq 34, 3) := dk_159 0 34 (dk_at dksX7_readPlant_1 18 rfl rfl)
theorem dX7_readPlant_43 : decode cX7_readPlant 43 = .ok (.aload_n 0, 1) := dk_42 (dk_at dksX7_readPlant_1 21 rfl rfl)
theorem dX7_readPlant_44 : decode cX7_readPlant 44 = .ok (.getfield 117, 3) := dk_180 0 117 (dk_at dksX7_readPlant_2 0 rfl rfl)
theorem dX7_readPlant_47 : decode cX7_readPlant 47 = .ok (.iconst 1, 1) := dk_4 (dk_at dksX7_readPlant_2 3 rfl rfl)
theorem dX7_readPlant_48 : decode cX7_readPlant 48 = .ok (.if_icmp .ne 20, 3) := dk_160 0 20 (dk_at dksX7_readPlant_2 4 rfl rfl)
theorem dX7_readPlant_51 : decode cX7_readPlant 51 = .ok (.iload_n 1, 1) := dk_27 (dk_at dksX7_readPlant_2 7 rfl rfl)
theorem dX7_readPlant_52 : decode cX7_readPlant 52 = .ok (.iconst 0, 1) := dk_3 (dk_at dksX7_readPlant_2 8 rfl rfl)
theorem dX7_readPlant_53 : decode cX7_readPlant 53 = .ok (.aload_n 0, 1) := dk_42 (dk_at dksX7_readPlant_2 9 rfl rfl)
theorem dX7_readPlant_54 : decode cX7_readPlant 54 = .ok (.getfield 192, 3) := dk_180 0 192 (dk_at dksX7_readPlant_2 10 rfl rfl)
theorem dX7_readPlant_57 : decode cX7_readPlant 57 = .ok (.getfield 229, 3) := dk_180 0 229 (dk_at dksX7_readPlant_2 13 rfl rfl)
theorem dX7_readPlant_60 : decode cX7_readPlant 60 = .ok (.iconst 1, 1) := dk_4 (dk_at dksX7_readPlant_2 16 rfl rfl)
theorem dX7_readPlant_61 : decode cX7_readPlant 61 = .ok (.isub, 1) := dk_100 (dk_at dksX7_readPlant_2 17 rfl rfl)
theorem dX7_readPlant_62 : decode cX7_readPlant 62 = .ok (.invokestatic 147, 3) := dk_184 0 147 (dk_at dksX7_readPlant_2 18 rfl rfl)
theorem dX7_readPlant_65 : decode cX7_readPlant 65 = .ok (.ifCond .ne 9, 3) := dk_154 0 9 (dk_at dksX7_readPlant_2 21 rfl rfl)
theorem dX7_readPlant_68 : decode cX7_readPlant 68 = .ok (.aload_n 0, 1) := dk_42 (dk_at dksX7_readPlant_3 0 rfl rfl)
theorem dX7_readPlant_69 : decode cX7_readPlant 69 = .ok (.bipush 7, 2) := dk_16 7 (dk_at dksX7_readPlant_3 1 rfl rfl)
theorem dX7_readPlant_71 : decode cX7_readPlant 71 = .ok (.invokevirtual 143, 3) := dk_182 0 143 (dk_at dksX7_readPlant_3 3 rfl rfl)
theorem dX7_readPlant_74 : decode cX7_readPlant 74 = .ok (.aload_n 0, 1) := dk_42 (dk_at dksX7_readPlant_3 6 rfl rfl)
theorem dX7_readPlant_75 : decode cX7_readPlant 75 = .ok (.invokevirtual 136, 3) := dk_182 0 136 (dk_at dksX7_readPlant_3 7 rfl rfl)
theorem dX7_readPlant_78 : decode cX7_readPlant 78 = .ok (.iload_n 1, 1) := dk_27 (dk_at dksX7_readPlant_3 10 rfl rfl)
theorem dX7_readPlant_79 : decode cX7_readPlant 79 = .ok (.ireturn, 1) := dk_172 (dk_at dksX7_readPlant_3 11 rfl rfl)
def dkwX7_readClue_5 : List UInt8 := [180, 1, 129, 21, 5, 29, 79, 42, 180, 0, 192, 89, 180, 1, 114, 4, 96, 181, 1, 114, 177]
abbrev dktX7_readClue_5 : List UInt8 := dkwX7_readClue_5 ++ []
def dkwX7_readClue_4 : List UInt8 := [180, 1, 123, 21, 5, 28, 79, 42, 180, 0, 192, 180, 1, 126, 21, 5, 21, 4, 79, 42, 180, 0, 192]
abbrev dktX7_readClue_4 : List UInt8 := dkwX7_readClue_4 ++ dktX7_readClue_5
def dkwX7_readClue_3 : List UInt8 := [180, 0, 192, 180, 1, 114, 54, 5, 42, 180, 0, 192, 180, 1, 120, 21, 5, 27, 79, 42, 180, 0, 192]
abbrev dktX7_readClue_3 : List UInt8 := dkwX7_readClue_3 ++ dktX7_readClue_4
def dkwX7_readClue_2 : List UInt8 := [180, 0, 192, 180, 0, 196, 4, 100, 182, 0, 155, 62, 42, 180, 0, 94, 8, 160, 0, 4, 177, 42]
abbrev dktX7_readClue_2 : List UInt8 := dkwX7_readClue_2 ++ dktX7_readClue_3
def dkwX7_readClue_1 : List UInt8 := [182, 1, 117, 167, 0, 4, 3, 62, 42, 3, 182, 1, 53, 54, 4, 27, 153, 0, 18, 42, 3, 42]
abbrev dktX7_readClue_1 : List UInt8 := dkwX7_readClue_1 ++ dktX7_readClue_2
def dkwX7_readClue_0 : List UInt8 := [42, 42, 180, 0, 192, 180, 1, 114, 16, 10, 182, 0, 201, 42, 5, 182, 1, 53, 61, 27, 154, 0, 10, 42]
abbrev dktX7_readClue_0 : List UInt8 := dkwX7_readClue_0 ++ dktX7_readClue_1
theorem dksX7_readClue_0 : cX7_readClue.data.toList.drop 0 = dktX7_readClue_0 := by decide +kernel
theorem dksX7_readClue_1 : cX7_readClue.data.toList.drop 24 = dktX7_readClue_1 := dk_seg dksX7_readClue_0 24 rfl rfl
theorem dksX7_readClue_2 : cX7_readClue.data.toList.drop 46 = dktX7_readClue_2 := dk_seg dksX7_readClue_1 22 rfl rfl
theorem dksX7_readClue_3 : cX7_readClue.data.toList.drop 68 = dktX7_readClue_3 := dk_seg dksX7_readClue_2 22 rfl rfl
theorem dksX7_readClue_4 : cX7_readClue.data.toList.drop 91 = dktX7_readClue_4 := dk_seg dksX7_readClue_3 23 rfl rfl
theorem dksX7_readClue_5 : cX7_readClue.data.toList.drop 114 = dktX7_readClue_5 := dk_seg dksX7_readClue_4 23 rfl rfl
theorem dX7_readClue_0 : decode cX7_readClue 0 = .ok (.aload_n 0, 1) := dk_42 (dk_at dksX7_readClue_0 0 rfl rfl)
theorem dX7_readClue_1 : decode cX7_readClue 1 = .ok (.aload_n 0, 1) := dk_42 (dk_at dksX7_readClue_0 1 rfl rfl)
theorem dX7_readClue_2 : decode cX7_readClue 2 = .ok (.getfield 192, 3) := dk_180 0 192 (dk_at dksX7_readClue_0 2 rfl rfl)
theorem dX7_readClue_5 : decode cX7_readClue 5 = .ok (.getfield 370, 3) := dk_180 1 114 (dk_at dksX7_readClue_0 5 rfl rfl)
theorem dX7_readClue_8 : decode cX7_readClue 8 = .ok (.bipush 10, 2) := dk_16 10 (dk_at dksX7_readClue_0 8 rfl rfl)
theorem dX7_readClue_10 : decode cX7_readClue 10 = .ok (.invokevirtual 201, 3) := dk_182 0 201 (dk_at dksX7_readClue_0 10 rfl rfl)
theorem dX7_readClue_13 : decode cX7_readClue 13 = .ok (.aload_n 0, 1) := dk_42 (dk_at dksX7_readClue_0 13 rfl rfl)
theorem dX7_readClue_14 : decode cX7_readClue 14 = .ok (.iconst 2, 1) := dk_5 (dk_at dksX7_readClue_0 14 rfl rfl)
theorem dX7_readClue_15 : decode cX7_readClue 15 = .ok (.invokevirtual 309, 3) := dk_182 1 53 (dk_at dksX7_readClue_0 15 rfl rfl)
theorem dX7_readClue_18 : decode cX7_readClue 18 = .ok (.istore_n 2, 1) := dk_61 (dk_at dksX7_readClue_0 18 rfl rfl)
theorem dX7_readClue_19 : decode cX7_readClue 19 = .ok (.iload_n 1, 1) := dk_27 (dk_at dksX7_readClue_0 19 rfl rfl)
theorem dX7_readClue_20 : decode cX7_readClue 20 = .ok (.ifCond .ne 10, 3) := dk_154 0 10 (dk_at dksX7_readClue_0 20 rfl rfl)
theorem dX7_readClue_23 : decode cX7_readClue 23 = .ok (.aload_n 0, 1) := dk_42 (dk_at dksX7_readClue_0 23 rfl rfl)
theorem dX7_readClue_24 : decode cX7_readClue 24 = .ok (.invokevirtual 373, 3) := dk_182 1 117 (dk_at dksX7_readClue_1 0 rfl rfl)
theorem dX7_readClue_27 : decode cX7_readClue 27 = .ok (.goto 4, 3) := dk_167 0 4 (dk_at dksX7_readClue_1 3 rfl rfl)
theorem dX7_readClue_30 : decode cX7_readClue 30 = .ok (.iconst 0, 1) := dk_3 (dk_at dksX7_readClue_1 6 rfl rfl)
theorem dX7_readClue_31 : decode cX7_readClue 31 = .ok (.istore_n 3, 1) := dk_62 (dk_at dksX7_readClue_1 7 rfl rfl)
theorem dX7_readClue_32 : decode cX7_readClue 32 = .ok (.aload_n 0, 1) := dk_42 (dk_at dksX7_readClue_1 8 rfl rfl)
theorem dX7_readClue_33 : decode cX7_readClue 33 = .ok (.iconst 0, 1) := dk_3 (dk_at dksX7_readClue_1 9 rfl rfl)
theorem dX7_readClue_34 : decode cX7_readClue 34 = .ok (.invokevirtual 309, 3) := dk_182 1 53 (dk_at dksX7_readClue_1 10 rfl rfl)
theorem dX7_readClue_37 : decode cX7_readClue 37 = .ok (.istore 4, 2) := dk_54 4 (dk_at dksX7_readClue_1 13 rfl rfl)
theorem dX7_readClue_39 : decode cX7_readClue 39 = .ok (.iload_n 1, 1) := dk_27 (dk_at dksX7_readClue_1 15 rfl rfl)
theorem dX7_readClue_40 : decode cX7_readClue 40 = .ok (.ifCond .eq 18, 3) := dk_153 0 18 (dk_at dksX7_readClue_1 16 rfl rfl)
theorem dX7_readClue_43 : decode cX7_readClue 43 = .ok (.aload_n 0, 1) := dk_42 (dk_at dksX7_readClue_1 19 rfl rfl)
theorem dX7_readClue_44 : decode cX7_readClue 44 = .ok (.iconst 0, 1) := dk_3 (dk_at dksX7_readClue_1 20 rfl rfl)
theorem dX7_readClue_45 : decode cX7_readClue 45 = .ok (.aload_n 0, 1) := dk_42 (dk_at dksX7_readClue_1 21 rfl rfl)
theorem dX7_readClue_46 : decode cX7_readClue 46 = .ok (.getfield 192, 3) := dk_180 0 192 (dk_at dksX7_readClue_2 0 rfl rfl)
theorem dX7_readClue_49 : decode cX7_readClue 49 = .ok (.getfield 196, 3) := dk_180 0 196 (dk_at dksX7_readClue_2 3 rfl rfl)
theorem dX7_readClue_52 : decode cX7_readClue 52 = .ok (.iconst 1, 1) := dk_4 (dk_at dksX7_readClue_2 6 rfl rfl)
theorem dX7_readClue_53 : decode cX7_readClue 53 = .ok (.isub, 1) := dk_100 (dk_at dksX7_readClue_2 7 rfl rfl)
theorem dX7_readClue_54 : decode cX7_readClue 54 = .ok (.invokevirtual 155, 3) := dk_182 0 155 (dk_at dksX7_readClue_2 8 rfl rfl)
theorem dX7_readClue_57 : decode cX7_readClue 57 = .ok (.istore_n 3, 1) := dk_62 (dk_at dksX7_readClue_2 11 rfl rfl)
theorem dX7_readClue_58 : decode cX7_readClue 58 = .ok (.aload_n 0, 1) := dk_42 (dk_at dksX7_readClue_2 12 rfl rfl)
theorem dX7_readClue_59 : decode cX7_readClue 59 = .ok (.getfield 94, 3) := dk_180 0 94 (dk_at dksX7_readClue_2 13 rfl rfl)
theorem dX7_readClue_62 : decode cX7_readClue 62 = .ok (.iconst 5, 1) := dk_8 (dk_at dksX7_readClue_2 16 rfl rfl)
theorem dX7_readClue_63 : decode cX7_readClue 63 = .ok (.if_icmp .ne 4, 3) := dk_160 0 4 (dk_at dksX7_readClue_2 17 rfl rfl)
theorem dX7_readClue_66 : decode cX7_readClue 66 = .ok (.return_, 1) := dk_177 (dk_at dksX7_readClue_2 20 rfl rfl)
theorem dX7_readClue_67 : decode cX7_readClue 67 = .ok (.aload_n 0, 1) := dk_42 (dk_at dksX7_readClue_2 21 rfl rfl)
theorem dX7_readClue_68 : decode cX7_readClue 68 = .ok (.getfield 192, 3) := dk_180 0 192 (dk_at dksX7_readClue_3 0 rfl rfl)
theorem dX7_readClue_71 : decode cX7_readClue 71 = .ok (.getfield 370, 3) := dk_180 1 114 (dk_at dksX7_readClue_3 3 rfl rfl)
theorem dX7_readClue_74 : decode cX7_readClue 74 = .ok (.istore 5, 2) := dk_54 5 (dk_at dksX7_readClue_3 6 rfl rfl)
theorem dX7_readClue_76 : decode cX7_readClue 76 = .ok (.aload_n 0, 1) := dk_42 (dk_at dksX7_readClue_3 8 rfl rfl)
theorem dX7_readClue_77 : decode cX7_readClue 77 = .ok (.getfield 192, 3) := dk_180 0 192 (dk_at dksX7_readClue_3 9 rfl rfl)
theorem dX7_readClue_80 : decode cX7_readClue 80 = .ok (.getfield 376, 3) := dk_180 1 120 (dk_at dksX7_readClue_3 12 rfl rfl)
theorem dX7_readClue_83 : decode cX7_readClue 83 = .ok (.iload 5, 2) := dk_21 5 (dk_at dksX7_readClue_3 15 rfl rfl)
theorem dX7_readClue_85 : decode cX7_readClue 85 = .ok (.iload_n 1, 1) := dk_27 (dk_at dksX7_readClue_3 17 rfl rfl)
theorem dX7_readClue_86 : decode cX7_readClue 86 = .ok (.iastore, 1) := dk_79 (dk_at dksX7_readClue_3 18 rfl rfl)
theorem dX7_readClue_87 : decode cX7_readClue 87 = .ok (.aload_n 0, 1) := dk_42 (dk_at dksX7_readClue_3 19 rfl rfl)
theorem dX7_readClue_88 : decode cX7_readClue 88 = .ok (.getfield 192, 3) := dk_180 0 192 (dk_at dksX7_readClue_3 20 rfl rfl)
theorem dX7_readClue_91 : decode cX7_readClue 91 = .ok (.getfield 379, 3) := dk_180 1 123 (dk_at dksX7_readClue_4 0 rfl rfl)
theorem dX7_readClue_94 : decode cX7_readClue 94 = .ok (.iload 5, 2) := dk_21 5 (dk_at dksX7_readClue_4 3 rfl rfl)
theorem dX7_readClue_96 : decode cX7_readClue 96 = .ok (.iload_n 2, 1) := dk_28 (dk_at dksX7_readClue_4 5 rfl rfl)
theorem dX7_readClue_97 : decode cX7_readClue 97 = .ok (.iastore, 1) := dk_79 (dk_at dksX7_readClue_4 6 rfl rfl)
theorem dX7_readClue_98 : decode cX7_readClue 98 = .ok (.aload_n 0, 1) := dk_42 (dk_at dksX7_readClue_4 7 rfl rfl)
theorem dX7_readClue_99 : decode cX7_readClue 99 = .ok (.getfield 192, 3) := dk_180 0 192 (dk_at dksX7_readClue_4 8 rfl rfl)
theorem dX7_readClue_102 : decode cX7_readClue 102 = .ok (.getfield 382, 3) := dk_180 1 126 (dk_at dksX7_readClue_4 11 rfl rfl)
theorem dX7_readClue_105 : decode cX7_readClue 105 = .ok (.iload 5, 2) := dk_21 5 (dk_at dksX7_readClue_4 14 rfl rfl)
theorem dX7_readClue_107 : decode cX7_readClue 107 = .ok (.iload 4, 2) := dk_21 4 (dk_at dksX7_readClue_4 16 rfl rfl)
theorem dX7_readClue_109 : decode cX7_readClue 109 = .ok (.iastore, 1) := dk_79 (dk_at dksX7_readClue_4 18 rfl rfl)
theorem dX7_readClue_110 : decode cX7_readClue 110 = .ok (.aload_n 0, 1) := dk_42 (dk_at dksX7_readClue_4 19 rfl rfl)
theorem dX7_readClue_111 : decode cX7_readClue 111 = .ok (.getfield 192, 3) := dk_180 0 192 (dk_at dksX7_readClue_4 20 rfl rfl)
theorem dX7_readClue_114 : decode cX7_readClue 114 = .ok (.getfield 385, 3) := dk_180 1 129 (dk_at dksX7_readClue_5 0 rfl rfl)
theorem dX7_readClue_117 : decode cX7_readClue 117 = .ok (.iload 5, 2) := dk_21 5 (dk_at dksX7_readClue_5 3 rfl rfl)
theorem dX7_readClue_119 : decode cX7_readClue 119 = .ok (.iload_n 3, 1) := dk_29 (dk_at dksX7_readClue_5 5 rfl rfl)
theorem dX7_readClue_120 : decode cX7_readClue 120 = .ok (.iastore, 1) := dk_79 (dk_at dksX7_readClue_5 6 rfl rfl)
theorem dX7_readClue_121 : decode cX7_readClue 121 = .ok (.aload_n 0, 1) := dk_42 (dk_at dksX7_readClue_5 7 rfl rfl)
theorem dX7_readClue_122 : decode cX7_readClue 122 = .ok (.getfield 192, 3) := dk_180 0 192 (dk_at dksX7_readClue_5 8 rfl rfl)
theorem dX7_readClue_125 : decode cX7_readClue 125 = .ok (.dup, 1) := dk_89 (dk_at dksX7_readClue_5 11 rfl rfl)
theorem dX7_readClue_126 : decode cX7_readClue 126 = .ok (.getfield 370, 3) := dk_180 1 114 (dk_at dksX7_readClue_5 12 rfl rfl)
theorem dX7_readClue_129 : decode cX7_readClue 129 = .ok (.iconst 1, 1) := dk_4 (dk_at dksX7_readClue_5 15 rfl rfl)
theorem dX7_readClue_130 : decode cX7_readClue 130 = .ok (.iadd, 1) := dk_96 (dk_at dksX7_readClue_5 16 rfl rfl)
theorem dX7_readClue_131 : decode cX7_readClue 131 = .ok (.putfield 370, 3) := dk_181 1 114 (dk_at dksX7_readClue_5 17 rfl rfl)
theorem dX7_readClue_134 : decode cX7_readClue 134 = .ok (.return_, 1) := dk_177 (dk_at dksX7_readClue_5 20 rfl rfl)
def dkwX7_readFact_2 : List UInt8 := [180, 1, 132, 4, 96, 181, 1, 132, 177]
abbrev dktX7_readFact_2 : List UInt8 := dkwX7_readFact_2 ++ []
def dkwX7_readFact_1 : List UInt8 := [160, 0, 4, 177, 42, 31, 6, 42, 180, 0, 192, 180, 1, 132, 182, 1, 47, 42, 180, 0, 192, 89]
abbrev dktX7_readFact_1 : List UInt8 := dkwX7_readFact_1 ++ dktX7_readFact_2
def dkwX7_readFact_0 : List UInt8 := [42, 42, 180, 0, 192, 180, 1, 132, 16, 8, 182, 0, 201, 42, 182, 1, 36, 64, 42, 180, 0, 94, 8]
abbrev dktX7_readFact_0 : List UInt8 := dkwX7_readFact_0 ++ dktX7_readFact_1
theorem dksX7_readFact_0 : cX7_readFact.data.toList.drop 0 = dktX7_readFact_0 := by decide +kernel
theorem dksX7_readFact_1 : cX7_readFact.data.toList.drop 23 = dktX7_readFact_1 := dk_seg dksX7_readFact_0 23 rfl rfl
theorem dksX7_readFact_2 : cX7_readFact.data.toList.drop 45 = dktX7_readFact_2 := dk_seg dksX7_readFact_1 22 rfl rfl
theorem dX7_readFact_0 : decode cX7_readFact 0 = .ok (.aload_n 0, 1) := dk_42 (dk_at dksX7_readFact_0 0 rfl rfl)
theorem dX7_readFact_1 : decode cX7_readFact 1 = .ok (.aload_n 0, 1) := dk_42 (dk_at dksX7_readFact_0 1 rfl rfl)
theorem dX7_readFact_2 : decode cX7_readFact 2 = .ok (.getfield 192, 3) := dk_180 0 192 (dk_at dksX7_readFact_0 2 rfl rfl)
theorem dX7_readFact_5 : decode cX7_readFact 5 = .ok (.getfield 388, 3) := dk_180 1 132 (dk_at dksX7_readFact_0 5 rfl rfl)
theorem dX7_readFact_8 : decode cX7_readFact 8 = .ok (.bipush 8, 2) := dk_16 8 (dk_at dksX7_readFact_0 8 rfl rfl)
theorem dX7_readFact_10 : decode cX7_readFact 10 = .ok (.invokevirtual 201, 3) := dk_182 0 201 (dk_at dksX7_readFact_0 10 rfl rfl)
theorem dX7_readFact_13 : decode cX7_readFact 13 = .ok (.aload_n 0, 1) := dk_42 (dk_at dksX7_readFact_0 13 rfl rfl)
theorem dX7_readFact_14 : decode cX7_readFact 14 = .ok (.invokevirtual 292, 3) := dk_182 1 36 (dk_at dksX7_readFact_0 14 rfl rfl)
theorem dX7_readFact_17 : decode cX7_readFact 17 = .ok (.lstore_n 1, 1) := dk_64 (dk_at dksX7_readFact_0 17 rfl rfl)
theorem dX7_readFact_18 : decode cX7_readFact 18 = .ok (.aload_n 0, 1) := dk_42 (dk_at dksX7_readFact_0 18 rfl rfl)
theorem dX7_readFact_19 : decode cX7_readFact 19 = .ok (.getfield 94, 3) := dk_180 0 94 (dk_at dksX7_readFact_0 19 rfl rfl)
theorem dX7_readFact_22 : decode cX7_readFact 22 = .ok (.iconst 5, 1) := dk_8 (dk_at dksX7_readFact_0 22 rfl rfl)
theorem dX7_readFact_23 : decode cX7_readFact 23 = .ok (.if_icmp .ne 4, 3) := dk_160 0 4 (dk_at dksX7_readFact_1 0 rfl rfl)
theorem dX7_readFact_26 : decode cX7_readFact 26 = .ok (.return_, 1) := dk_177 (dk_at dksX7_readFact_1 3 rfl rfl)
theorem dX7_readFact_27 : decode cX7_readFact 27 = .ok (.aload_n 0, 1) := dk_42 (dk_at dksX7_readFact_1 4 rfl rfl)
theorem dX7_readFact_28 : decode cX7_readFact 28 = .ok (.lload_n 1, 1) := dk_31 (dk_at dksX7_readFact_1 5 rfl rfl)
theorem dX7_readFact_29 : decode cX7_readFact 29 = .ok (.iconst 3, 1) := dk_6 (dk_at dksX7_readFact_1 6 rfl rfl)
theorem dX7_readFact_30 : decode cX7_readFact 30 = .ok (.aload_n 0, 1) := dk_42 (dk_at dksX7_readFact_1 7 rfl rfl)
theorem dX7_readFact_31 : decode cX7_readFact 31 = .ok (.getfield 192, 3) := dk_180 0 192 (dk_at dksX7_readFact_1 8 rfl rfl)
theorem dX7_readFact_34 : decode cX7_readFact 34 = .ok (.getfield 388, 3) := dk_180 1 132 (dk_at dksX7_readFact_1 11 rfl rfl)
theorem dX7_readFact_37 : decode cX7_readFact 37 = .ok (.invokevirtual 303, 3) := dk_182 1 47 (dk_at dksX7_readFact_1 14 rfl rfl)
theorem dX7_readFact_40 : decode cX7_readFact 40 = .ok (.aload_n 0, 1) := dk_42 (dk_at dksX7_readFact_1 17 rfl rfl)
theorem dX7_readFact_41 : decode cX7_readFact 41 = .ok (.getfield 192, 3) := dk_180 0 192 (dk_at dksX7_readFact_1 18 rfl rfl)
theorem dX7_readFact_44 : decode cX7_readFact 44 = .ok (.dup, 1) := dk_89 (dk_at dksX7_readFact_1 21 rfl rfl)
theorem dX7_readFact_45 : decode cX7_readFact 45 = .ok (.getfield 388, 3) := dk_180 1 132 (dk_at dksX7_readFact_2 0 rfl rfl)
theorem dX7_readFact_48 : decode cX7_readFact 48 = .ok (.iconst 1, 1) := dk_4 (dk_at dksX7_readFact_2 3 rfl rfl)
theorem dX7_readFact_49 : decode cX7_readFact 49 = .ok (.iadd, 1) := dk_96 (dk_at dksX7_readFact_2 4 rfl rfl)
theorem dX7_readFact_50 : decode cX7_readFact 50 = .ok (.putfield 388, 3) := dk_181 1 132 (dk_at dksX7_readFact_2 5 rfl rfl)
theorem dX7_readFact_53 : decode cX7_readFact 53 = .ok (.return_, 1) := dk_177 (dk_at dksX7_readFact_2 8 rfl rfl)
def dkwX7_readHolds_2 : List UInt8 := [159, 0, 18, 42, 180, 0, 192, 89, 180, 1, 135, 4, 27, 120, 128, 181, 1, 135, 177]
abbrev dktX7_readHolds_2 : List UInt8 := dkwX7_readHolds_2 ++ []
def dkwX7_readHolds_1 : List UInt8 := [180, 1, 135, 27, 184, 1, 110, 153, 0, 8, 42, 6, 182, 0, 143, 42, 182, 0, 136, 42, 180, 0, 94, 8]
abbrev dktX7_readHolds_1 : List UInt8 := dkwX7_readHolds_1 ++ dktX7_readHolds_2
def dkwX7_readHolds_0 : List UInt8 := [42, 3, 4, 182, 0, 201, 42, 6, 182, 0, 226, 60, 42, 180, 0, 94, 8, 159, 0, 22, 42, 180, 0, 192]
abbrev dktX7_readHolds_0 : List UInt8 := dkwX7_readHolds_0 ++ dktX7_readHolds_1
theorem dksX7_readHolds_0 : cX7_readHolds.data.toList.drop 0 = dktX7_readHolds_0 := by decide +kernel
theorem dksX7_readHolds_1 : cX7_readHolds.data.toList.drop 24 = dktX7_readHolds_1 := dk_seg dksX7_readHolds_0 24 rfl rfl
theorem dksX7_readHolds_2 : cX7_readHolds.data.toList.drop 48 = dktX7_readHolds_2 := dk_seg dksX7_readHolds_1 24 rfl rfl
theorem dX7_readHolds_0 : decode cX7_readHolds 0 = .ok (.aload_n 0, 1) := dk_42 (dk_at dksX7_readHolds_0 0 rfl rfl)
theorem dX7_readHolds_1 : decode cX7_readHolds 1 = .ok (.iconst 0, 1) := dk_3 (dk_at dksX7_readHolds_0 1 rfl rfl)
theorem dX7_readHolds_2 : decode cX7_readHolds 2 = .ok (.iconst 1, 1) := dk_4 (dk_at dksX7_readHolds_0 2 rfl rfl)
theorem dX7_readHolds_3 : decode cX7_readHolds 3 = .ok (.invokevirtual 201, 3) := dk_182 0 201 (dk_at dksX7_readHolds_0 3 rfl rfl)
theorem dX7_readHolds_6 : decode cX7_readHolds 6 = .ok (.aload_n 0, 1) := dk_42 (dk_at dksX7_readHolds_0 6 rfl rfl)
theorem dX7_readHolds_7 : decode cX7_readHolds 7 = .ok (.iconst 3, 1) := dk_6 (dk_at dksX7_readHolds_0 7 rfl rfl)
theorem dX7_readHolds_8 : decode cX7_readHolds 8 = .ok (.invokevirtual 226, 3) := dk_182 0 226 (dk_at dksX7_readHolds_0 8 rfl rfl)
theorem dX7_readHolds_11 : decode cX7_readHolds 11 = .ok (.istore_n 1, 1) := dk_60 (dk_at dksX7_readHolds_0 11 rfl rfl)
theorem dX7_readHolds_12 : decode cX7_readHolds 12 = .ok (.aload_n 0, 1) := dk_42 (dk_at dksX7_readHolds_0 12 rfl rfl)
theorem dX7_readHolds_13 : decode cX7_readHolds 13 = .ok (.getfield 94, 3) := dk_180 0 94 (dk_at dksX7_readHolds_0 13 rfl rfl)
theorem dX7_readHolds_16 : decode cX7_readHolds 16 = .ok (.iconst 5, 1) := dk_8 (dk_at dksX7_readHolds_0 16 rfl rfl)
theorem dX7_readHolds_17 : decode cX7_readHolds 17 = .ok (.if_icmp .eq 22, 3) := dk_159 0 22 (dk_at dksX7_readHolds_0 17 rfl rfl)
theorem dX7_readHolds_20 : decode cX7_readHolds 20 = .ok (.aload_n 0, 1) := dk_42 (dk_at dksX7_readHolds_0 20 rfl rfl)
theorem dX7_readHolds_21 : decode cX7_readHolds 21 = .ok (.getfield 192, 3) := dk_180 0 192 (dk_at dksX7_readHolds_0 21 rfl rfl)
theorem dX7_readHolds_24 : decode cX7_readHolds 24 = .ok (.getfield 391, 3) := dk_180 1 135 (dk_at dksX7_readHolds_1 0 rfl rfl)
theorem dX7_readHolds_27 : decode cX7_readHolds 27 = .ok (.iload_n 1, 1) := dk_27 (dk_at dksX7_readHolds_1 3 rfl rfl)
theorem dX7_readHolds_28 : decode cX7_readHolds 28 = .ok (.invokestatic 366, 3) := dk_184 1 110 (dk_at dksX7_readHolds_1 4 rfl rfl)
theorem dX7_readHolds_31 : decode cX7_readHolds 31 = .ok (.ifCond .eq 8, 3) := dk_153 0 8 (dk_at dksX7_readHolds_1 7 rfl rfl)
theorem dX7_readHolds_34 : decode cX7_readHolds 34 = .ok (.aload_n 0, 1) := dk_42 (dk_at dksX7_readHolds_1 10 rfl rfl)
theorem dX7_readHolds_35 : decode cX7_readHolds 35 = .ok (.iconst 3, 1) := dk_6 (dk_at dksX7_readHolds_1 11 rfl rfl)
theorem dX7_readHolds_36 : decode cX7_readHolds 36 = .ok (.invokevirtual 143, 3) := dk_182 0 143 (dk_at dksX7_readHolds_1 12 rfl rfl)
theorem dX7_readHolds_39 : decode cX7_readHolds 39 = .ok (.aload_n 0, 1) := dk_42 (dk_at dksX7_readHolds_1 15 rfl rfl)
theorem dX7_readHolds_40 : decode cX7_readHolds 40 = .ok (.invokevirtual 136, 3) := dk_182 0 136 (dk_at dksX7_readHolds_1 16 rfl rfl)
theorem dX7_readHolds_43 : decode cX7_readHolds 43 = .ok (.aload_n 0, 1) := dk_42 (dk_at dksX7_readHolds_1 19 rfl rfl)
theorem dX7_readHolds_44 : decode cX7_readHolds 44 = .ok (.getfield 94, 3) := dk_180 0 94 (dk_at dksX7_readHolds_1 20 rfl rfl)
theorem dX7_readHolds_47 : decode cX7_readHolds 47 = .ok (.iconst 5, 1) := dk_8 (dk_at dksX7_readHolds_1 23 rfl rfl)
theorem dX7_readHolds_48 : decode cX7_readHolds 48 = .ok (.if_icmp .eq 18, 3) := dk_159 0 18 (dk_at dksX7_readHolds_2 0 rfl rfl)
theorem dX7_readHolds_51 : decode cX7_readHolds 51 = .ok (.aload_n 0, 1) := dk_42 (dk_at dksX7_readHolds_2 3 rfl rfl)
theorem dX7_readHolds_52 : decode cX7_readHolds 52 = .ok (.getfield 192, 3) := dk_180 0 192 (dk_at dksX7_readHolds_2 4 rfl rfl)
theorem dX7_readHolds_55 : decode cX7_readHolds 55 = .ok (.dup, 1) := dk_89 (dk_at dksX7_readHolds_2 7 rfl rfl)
theorem dX7_readHolds_56 : decode cX7_readHolds 56 = .ok (.getfield 391, 3) := dk_180 1 135 (dk_at dksX7_readHolds_2 8 rfl rfl)
theorem dX7_readHolds_59 : decode cX7_readHolds 59 = .ok (.iconst 1, 1) := dk_4 (dk_at dksX7_readHolds_2 11 rfl rfl)
theorem dX7_readHolds_60 : decode cX7_readHolds 60 = .ok (.iload_n 1, 1) := dk_27 (dk_at dksX7_readHolds_2 12 rfl rfl)
theorem dX7_readHolds_61 : decode cX7_readHolds 61 = .ok (.ishl, 1) := dk_120 (dk_at dksX7_readHolds_2 13 rfl rfl)
theorem dX7_readHolds_62 : decode cX7_readHolds 62 = .ok (.ior, 1) := dk_128 (dk_at dksX7_readHolds_2 14 rfl rfl)
theorem dX7_readHolds_63 : decode cX7_readHolds 63 = .ok (.putfield 391, 3) := dk_181 1 135 (dk_at dksX7_readHolds_2 15 rfl rfl)
theorem dX7_readHolds_66 : decode cX7_readHolds 66 = .ok (.return_, 1) := dk_177 (dk_at dksX7_readHolds_2 18 rfl rfl)
theorem fl_X7_106 : FL "GoatCourtModel" 106 [26] 11 (tyOf 0) := fun kd h => (by cases List.mem_singleton.mp h; exact ⟨6, _, 11, "GoatCourtModel", rfl, rfl, by decide, rfl, rfl, Or.inl q1900, Or.inl rfl⟩)
theorem fl_X7_229 : FL "GoatCourtModel" 229 [40] 1 (tyOf 0) := fun kd h => (by cases List.mem_singleton.mp h; exact ⟨20, _, 1, "GoatCourtModel$Hill", rfl, rfl, by decide, rfl, rfl, Or.inr ⟨_, q2030⟩, Or.inl rfl⟩)
theorem fl_X7_213 : FL "GoatCourtModel" 213 [40] 38 (.array (.long)) := fun kd h => (by cases List.mem_singleton.mp h; exact ⟨20, _, 38, "GoatCourtModel$Hill", rfl, rfl, by decide, rfl, rfl, Or.inr ⟨_, q2093⟩, Or.inl rfl⟩)
theorem fl_X7_217 : FL "GoatCourtModel" 217 [40] 12 (tyOf 0) := fun kd h => (by cases List.mem_singleton.mp h; exact ⟨20, _, 12, "GoatCourtModel$Hill", rfl, rfl, by decide, rfl, rfl, Or.inr ⟨_, q2044⟩, Or.inl rfl⟩)
theorem fl_X7_220 : FL "GoatCourtModel" 220 [40] 39 (.array (.int)) := fun kd h => (by cases List.mem_singleton.mp h; exact ⟨20, _, 39, "GoatCourtModel$Hill", rfl, rfl, by decide, rfl, rfl, Or.inr ⟨_, q2095⟩, Or.inl rfl⟩)
theorem fl_X7_223 : FL "GoatCourtModel" 223 [40] 40 (.array (.int)) := fun kd h => (by cases List.mem_singleton.mp h; exact ⟨20, _, 40, "GoatCourtModel$Hill", rfl, rfl, by decide, rfl, rfl, Or.inr ⟨_, q2097⟩, Or.inl rfl⟩)
theorem fp_X7_names_217 : FP mX7_names 217 [40] 12 (tyOf 0) := fun kd h => (by cases List.mem_singleton.mp h; exact ⟨20, _, 12, "GoatCourtModel$Hill", rfl, rfl, by decide, rfl, rfl, Or.inl rfl, Or.inl ⟨rfl, Or.inr ⟨_, q2044⟩⟩⟩)
theorem fl_X7_241 : FL "GoatCourtModel" 241 [40] 2 (tyOf 0) := fun kd h => (by cases List.mem_singleton.mp h; exact ⟨20, _, 2, "GoatCourtModel$Hill", rfl, rfl, by decide, rfl, rfl, Or.inr ⟨_, q2031⟩, Or.inl rfl⟩)
theorem fl_X7_296 : FL "GoatCourtModel" 296 [40] 16 (.array (.int)) := fun kd h => (by cases List.mem_singleton.mp h; exact ⟨20, _, 16, "GoatCourtModel$Hill", rfl, rfl, by decide, rfl, rfl, Or.inr ⟨_, q2049⟩, Or.inl rfl⟩)
theorem fp_X7_readPlace_241 : FP mX7_readPlace 241 [40] 2 (tyOf 0) := fun kd h => (by cases List.mem_singleton.mp h; exact ⟨20, _, 2, "GoatCourtModel$Hill", rfl, rfl, by decide, rfl, rfl, Or.inl rfl, Or.inl ⟨rfl, Or.inr ⟨_, q2031⟩⟩⟩)
theorem fl_X24_15 : FL "GoatCourtModel$Hill" 15 [40] 17 (.array (.int)) := fun kd h => (by cases List.mem_singleton.mp h; exact ⟨20, _, 17, "GoatCourtModel$Hill", rfl, rfl, by decide, rfl, rfl, Or.inl q2050, Or.inl rfl⟩)
theorem fl_X24_18 : FL "GoatCourtModel$Hill" 18 [40] 18 (.array (.int)) := fun kd h => (by cases List.mem_singleton.mp h; exact ⟨20, _, 18, "GoatCourtModel$Hill", rfl, rfl, by decide, rfl, rfl, Or.inl q2052, Or.inl rfl⟩)
theorem fl_X24_92 : FL "GoatCourtModel$Hill" 92 [40] 3 (tyOf 0) := fun kd h => (by cases List.mem_singleton.mp h; exact ⟨20, _, 3, "GoatCourtModel$Hill", rfl, rfl, by decide, rfl, rfl, Or.inl q2032, Or.inl rfl⟩)
theorem fl_X7_314 : FL "GoatCourtModel" 314 [40] 17 (.array (.int)) := fun kd h => (by cases List.mem_singleton.mp h; exact ⟨20, _, 17, "GoatCourtModel$Hill", rfl, rfl, by decide, rfl, rfl, Or.inr ⟨_, q2051⟩, Or.inl rfl⟩)
theorem fl_X7_306 : FL "GoatCourtModel" 306 [40] 3 (tyOf 0) := fun kd h => (by cases List.mem_singleton.mp h; exact ⟨20, _, 3, "GoatCourtModel$Hill", rfl, rfl, by decide, rfl, rfl, Or.inr ⟨_, q2033⟩, Or.inl rfl⟩)
theorem fl_X7_317 : FL "GoatCourtModel" 317 [40] 18 (.array (.int)) := fun kd h => (by cases List.mem_singleton.mp h; exact ⟨20, _, 18, "GoatCourtModel$Hill", rfl, rfl, by decide, rfl, rfl, Or.inr ⟨_, q2053⟩, Or.inl rfl⟩)
theorem fp_X7_readPath_306 : FP mX7_readPath 306 [40] 3 (tyOf 0) := fun kd h => (by cases List.mem_singleton.mp h; exact ⟨20, _, 3, "GoatCourtModel$Hill", rfl, rfl, by decide, rfl, rfl, Or.inl rfl, Or.inl ⟨rfl, Or.inr ⟨_, q2033⟩⟩⟩)
theorem fl_X7_320 : FL "GoatCourtModel" 320 [40] 4 (tyOf 0) := fun kd h => (by cases List.mem_singleton.mp h; exact ⟨20, _, 4, "GoatCourtModel$Hill", rfl, rfl, by decide, rfl, rfl, Or.inr ⟨_, q2035⟩, Or.inl rfl⟩)
theorem fp_X7_readPerson_320 : FP mX7_readPerson 320 [40] 4 (tyOf 0) := fun kd h => (by cases List.mem_singleton.mp h; exact ⟨20, _, 4, "GoatCourtModel$Hill", rfl, rfl, by decide, rfl, rfl, Or.inl rfl, Or.inl ⟨rfl, Or.inr ⟨_, q2035⟩⟩⟩)
theorem fl_X7_326 : FL "GoatCourtModel" 326 [40] 20 (.array (.int)) := fun kd h => (by cases List.mem_singleton.mp h; exact ⟨20, _, 20, "GoatCourtModel$Hill", rfl, rfl, by decide, rfl, rfl, Or.inr ⟨_, q2057⟩, Or.inl rfl⟩)
theorem fl_X7_323 : FL "GoatCourtModel" 323 [40] 19 (.array (.int)) := fun kd h => (by cases List.mem_singleton.mp h; exact ⟨20, _, 19, "GoatCourtModel$Hill", rfl, rfl, by decide, rfl, rfl, Or.inr ⟨_, q2055⟩, Or.inl rfl⟩)
theorem fl_X7_347 : FL "GoatCourtModel" 347 [40] 21 (.array (.int)) := fun kd h => (by cases List.mem_singleton.mp h; exact ⟨20, _, 21, "GoatCourtModel$Hill", rfl, rfl, by decide, rfl, rfl, Or.inr ⟨_, q2059⟩, Or.inl rfl⟩)
theorem fl_X7_350 : FL "GoatCourtModel" 350 [40] 22 (.array (.int)) := fun kd h => (by cases List.mem_singleton.mp h; exact ⟨20, _, 22, "GoatCourtModel$Hill", rfl, rfl, by decide, rfl, rfl, Or.inr ⟨_, q2061⟩, Or.inl rfl⟩)
theorem fl_X7_353 : FL "GoatCourtModel" 353 [40] 23 (.array (.int)) := fun kd h => (by cases List.mem_singleton.mp h; exact ⟨20, _, 23, "GoatCourtModel$Hill", rfl, rfl, by decide, rfl, rfl, Or.inr ⟨_, q2063⟩, Or.inl rfl⟩)
theorem fl_X7_356 : FL "GoatCourtModel" 356 [40] 25 (.array (.int)) := fun kd h => (by cases List.mem_singleton.mp h; exact ⟨20, _, 25, "GoatCourtModel$Hill", rfl, rfl, by decide, rfl, rfl, Or.inr ⟨_, q2067⟩, Or.inl rfl⟩)
theorem fl_X7_359 : FL "GoatCourtModel" 359 [40] 26 (.array (.int)) := fun kd h => (by cases List.mem_singleton.mp h; exact ⟨20, _, 26, "GoatCourtModel$Hill", rfl, rfl, by decide, rfl, rfl, Or.inr ⟨_, q2069⟩, Or.inl rfl⟩)
theorem fl_X7_328 : FL "GoatCourtModel" 328 [40] 5 (tyOf 0) := fun kd h => (by cases List.mem_singleton.mp h; exact ⟨20, _, 5, "GoatCourtModel$Hill", rfl, rfl, by decide, rfl, rfl, Or.inr ⟨_, q2036⟩, Or.inl rfl⟩)
theorem fl_X7_341 : FL "GoatCourtModel" 341 [40] 24 (.array (.int)) := fun kd h => (by cases List.mem_singleton.mp h; exact ⟨20, _, 24, "GoatCourtModel$Hill", rfl, rfl, by decide, rfl, rfl, Or.inr ⟨_, q2065⟩, Or.inl rfl⟩)
theorem fl_X7_117 : FL "GoatCourtModel" 117 [26] 13 (tyOf 0) := fun kd h => (by cases List.mem_singleton.mp h; exact ⟨6, _, 13, "GoatCourtModel", rfl, rfl, by decide, rfl, rfl, Or.inl q1902, Or.inl rfl⟩)
theorem fp_X7_readGoat_328 : FP mX7_readGoat 328 [40] 5 (tyOf 0) := fun kd h => (by cases List.mem_singleton.mp h; exact ⟨20, _, 5, "GoatCourtModel$Hill", rfl, rfl, by decide, rfl, rfl, Or.inl rfl, Or.inl ⟨rfl, Or.inr ⟨_, q2036⟩⟩⟩)
theorem fl_X7_363 : FL "GoatCourtModel" 363 [40] 27 (.array (.int)) := fun kd h => (by cases List.mem_singleton.mp h; exact ⟨20, _, 27, "GoatCourtModel$Hill", rfl, rfl, by decide, rfl, rfl, Or.inr ⟨_, q2071⟩, Or.inl rfl⟩)
theorem fl_X7_361 : FL "GoatCourtModel" 361 [40] 6 (tyOf 0) := fun kd h => (by cases List.mem_singleton.mp h; exact ⟨20, _, 6, "GoatCourtModel$Hill", rfl, rfl, by decide, rfl, rfl, Or.inr ⟨_, q2037⟩, Or.inl rfl⟩)
theorem fp_X7_readFears_361 : FP mX7_readFears 361 [40] 6 (tyOf 0) := fun kd h => (by cases List.mem_singleton.mp h; exact ⟨20, _, 6, "GoatCourtModel$Hill", rfl, rfl, by decide, rfl, rfl, Or.inl rfl, Or.inl ⟨rfl, Or.inr ⟨_, q2037⟩⟩⟩)
theorem fl_X7_370 : FL "GoatCourtModel" 370 [40] 7 (tyOf 0) := fun kd h => (by cases List.mem_singleton.mp h; exact ⟨20, _, 7, "GoatCourtModel$Hill", rfl, rfl, by decide, rfl, rfl, Or.inr ⟨_, q2038⟩, Or.inl rfl⟩)
theorem fl_X7_376 : FL "GoatCourtModel" 376 [40] 28 (.array (.int)) := fun kd h => (by cases List.mem_singleton.mp h; exact ⟨20, _, 28, "GoatCourtModel$Hill", rfl, rfl, by decide, rfl, rfl, Or.inr ⟨_, q2073⟩, Or.inl rfl⟩)
theorem fl_X7_379 : FL "GoatCourtModel" 379 [40] 29 (.array (.int)) := fun kd h => (by cases List.mem_singleton.mp h; exact ⟨20, _, 29, "GoatCourtModel$Hill", rfl, rfl, by decide, rfl, rfl, Or.inr ⟨_, q2075⟩, Or.inl rfl⟩)
theorem fl_X7_382 : FL "GoatCourtModel" 382 [40] 30 (.array (.int)) := fun kd h => (by cases List.mem_singleton.mp h; exact ⟨20, _, 30, "GoatCourtModel$Hill", rfl, rfl, by decide, rfl, rfl, Or.inr ⟨_, q2077⟩, Or.inl rfl⟩)
theorem fl_X7_385 : FL "GoatCourtModel" 385 [40] 31 (.array (.int)) := fun kd h => (by cases List.mem_singleton.mp h; exact ⟨20, _, 31, "GoatCourtModel$Hill", rfl, rfl, by decide, rfl, rfl, Or.inr ⟨_, q2079⟩, Or.inl rfl⟩)
theorem fp_X7_readClue_370 : FP mX7_readClue 370 [40] 7 (tyOf 0) := fun kd h => (by cases List.mem_singleton.mp h; exact ⟨20, _, 7, "GoatCourtModel$Hill", rfl, rfl, by decide, rfl, rfl, Or.inl rfl, Or.inl ⟨rfl, Or.inr ⟨_, q2038⟩⟩⟩)
theorem fl_X7_388 : FL "GoatCourtModel" 388 [40] 8 (tyOf 0) := fun kd h => (by cases List.mem_singleton.mp h; exact ⟨20, _, 8, "GoatCourtModel$Hill", rfl, rfl, by decide, rfl, rfl, Or.inr ⟨_, q2039⟩, Or.inl rfl⟩)
theorem fp_X7_readFact_388 : FP mX7_readFact 388 [40] 8 (tyOf 0) := fun kd h => (by cases List.mem_singleton.mp h; exact ⟨20, _, 8, "GoatCourtModel$Hill", rfl, rfl, by decide, rfl, rfl, Or.inl rfl, Or.inl ⟨rfl, Or.inr ⟨_, q2039⟩⟩⟩)
theorem fl_X7_391 : FL "GoatCourtModel" 391 [40] 13 (tyOf 0) := fun kd h => (by cases List.mem_singleton.mp h; exact ⟨20, _, 13, "GoatCourtModel$Hill", rfl, rfl, by decide, rfl, rfl, Or.inr ⟨_, q2045⟩, Or.inl rfl⟩)
theorem fp_X7_readHolds_391 : FP mX7_readHolds 391 [40] 13 (tyOf 0) := fun kd h => (by cases List.mem_singleton.mp h; exact ⟨20, _, 13, "GoatCourtModel$Hill", rfl, rfl, by decide, rfl, rfl, Or.inl rfl, Or.inl ⟨rfl, Or.inr ⟨_, q2045⟩⟩⟩)
theorem w_X7_readFresh_b32 (G : Gx) (h0 : G0 G) (N : Nat)   (a0 : Nat) (σ : Mem) : Runs G mX7_readFresh rhoL σ 32 [some (vR (some a0)), none, none] [] (f_X7_readFresh_b32 N  a0 σ) := by
  unfold f_X7_readFresh_b32
  refine r_aload_n (q := 33) dX7_readFresh_32 rfl rfl rfl ?_
  refine r_gJ (q := 36) fl_X7_113 dX7_readFresh_33 rfl (fun x1 => ?_)
  refine r_lstore_n (q := 37) dX7_readFresh_36 rfl rfl (Nat.le_of_ble_eq_true rfl) rfl ?_
  refine r_aload_n (q := 38) dX7_readFresh_37 rfl rfl rfl ?_
  refine r_ob (fun a4 ha4 => ?_)
  obtain ⟨hea4, hka4⟩ := o_at_eq ha4
  cases hea4
  refine r_callV (q := 41) (c_X7_goesOn G h0 N _ _) (cl_V (ci := 6) rfl rfl (lw_V q2182 q2184 qs84 q176 q2185) (hd_X7_goesOn) ⟨Nat.le_of_ble_eq_true rfl, Nat.le_of_ble_eq_true rfl⟩ (List.mem_singleton.mp hka4) rfl rfl rfl (Nat.le_of_ble_eq_true rfl) dX7_readFresh_38) rfl (fun u2 σ3 => ?_)
  refine r_lload_n (q := 42) dX7_readFresh_41 rfl rfl rfl ?_
  exact r_lreturn rfl dX7_readFresh_42
theorem w_X7_readFresh_b12 (G : Gx) (h0 : G0 G) (N : Nat)   (a0 : Nat) (σ : Mem) : Runs G mX7_readFresh rhoL σ 12 [some (vR (some a0)), none, none] [] (f_X7_readFresh_b12 N  a0 σ) := by
  unfold f_X7_readFresh_b12
  refine r_aload_n (q := 13) dX7_readFresh_12 rfl rfl rfl ?_
  refine r_gR (q := 16) fl_X7_192 rfl dX7_readFresh_13 rfl (fun x1 => ?_)
  refine r_aload_n (q := 17) dX7_readFresh_16 rfl rfl rfl ?_
  refine r_gJ (q := 20) fl_X7_113 dX7_readFresh_17 rfl (fun x2 => ?_)
  refine r_ob (fun a5 ha5 => ?_)
  obtain ⟨hea5, hka5⟩ := o_at_eq ha5
  cases hea5
  refine r_callI (q := 23) (c_X24_find G h0 N _ _ _) (cl_V (ci := 20) rfl rfl (lw_V q2272 q2273 q2274 q199 q2275) (hd_X24_find) ⟨Nat.le_of_ble_eq_true rfl, Nat.le_of_ble_eq_true rfl⟩ (List.mem_singleton.mp hka5) rfl rfl rfl (Nat.le_of_ble_eq_true rfl) dX7_readFresh_20) rfl (fun x3 σ4 => ?_)
  refine r_iconst (q := 24) (v := (-1 : Int32)) dX7_readFresh_23 rfl (by decide) ?_
  refine r_icmp_eq (q := 27) (t := 32) dX7_readFresh_24 rfl (by decide) (fun _ => ?_) (fun _ => ?_)
  · exact r_le (w_X7_readFresh_b32 G h0 N _ _) (Nat.le_refl _) (And.intro rfl trivial)
  · refine r_aload_n (q := 28) dX7_readFresh_27 rfl rfl rfl ?_
    refine r_iconst (q := 29) (v := (3 : Int32)) dX7_readFresh_28 rfl (by decide) ?_
    refine r_ob (fun a8 ha8 => ?_)
    obtain ⟨hea8, hka8⟩ := o_at_eq ha8
    cases hea8
    refine r_callV (q := 32) (c_X7_flaw G h0 N _ _ _) (cl_V (ci := 6) rfl rfl (lw_V q2219 q2221 qs90 q176 q2222) (hd_X7_flaw) ⟨Nat.le_of_ble_eq_true rfl, Nat.le_of_ble_eq_true rfl⟩ (List.mem_singleton.mp hka8) rfl rfl rfl (Nat.le_of_ble_eq_true rfl) dX7_readFresh_29) rfl (fun u6 σ7 => ?_)
    exact r_le (w_X7_readFresh_b32 G h0 N _ _) (Nat.le_refl _) (And.intro rfl trivial)
theorem c_X7_readFresh (G : Gx) (h0 : G0 G) (N : Nat) (a0 : Nat) (σ : Mem) : Ct G mX7_readFresh rhoL [vR (some a0)] σ (f_X7_readFresh N a0 σ) := by
  refine Ct_of h0 (by decide) rfl (Nat.le_of_ble_eq_true rfl) (L0 := [some (vR (some a0)), none, none]) rfl ?_
  unfold f_X7_readFresh
  refine r_aload_n (q := 1) dX7_readFresh_0 rfl rfl rfl ?_
  refine r_ob (fun a3 ha3 => ?_)
  obtain ⟨hea3, hka3⟩ := o_at_eq ha3
  cases hea3
  refine r_callI (q := 4) (c_X7_isName G h0 N _ _) (cl_V (ci := 6) rfl rfl (lw_V q2253 q2255 qs97 q176 q2256) (hd_X7_isName) ⟨Nat.le_of_ble_eq_true rfl, Nat.le_of_ble_eq_true rfl⟩ (List.mem_singleton.mp hka3) rfl rfl rfl (Nat.le_of_ble_eq_true rfl) dX7_readFresh_1) rfl (fun x1 σ2 => ?_)
  refine r_if_ne (q := 7) (t := 12) dX7_readFresh_4 rfl (by decide) (fun _ => ?_) (fun _ => ?_)
  · refine r_aload_n (q := 8) dX7_readFresh_7 rfl rfl rfl ?_
    refine r_iconst (q := 9) (v := (1 : Int32)) dX7_readFresh_8 rfl (by decide) ?_
    refine r_ob (fun a6 ha6 => ?_)
    obtain ⟨hea6, hka6⟩ := o_at_eq ha6
    cases hea6
    refine r_callV (q := 12) (c_X7_flaw G h0 N _ _ _) (cl_V (ci := 6) rfl rfl (lw_V q2219 q2221 qs90 q176 q2222) (hd_X7_flaw) ⟨Nat.le_of_ble_eq_true rfl, Nat.le_of_ble_eq_true rfl⟩ (List.mem_singleton.mp hka6) rfl rfl rfl (Nat.le_of_ble_eq_true rfl) dX7_readFresh_9) rfl (fun u4 σ5 => ?_)
    exact r_le (w_X7_readFresh_b12 G h0 N _ _) (Nat.le_refl _) (And.intro rfl trivial)
  · exact r_le (w_X7_readFresh_b12 G h0 N _ _) (Nat.le_refl _) (And.intro rfl trivial)
theorem w_X7_needsSign_b21 (G : Gx) (h0 : G0 G) (N : Nat)   (a0 : Nat) (σ : Mem) : Runs G mX7_needsSign rhoV σ 21 [some (vR (some a0)), none] [] (f_X7_needsSign_b21 N  a0 σ) := by
  unfold f_X7_needsSign_b21
  refine r_aload_n (q := 22) dX7_needsSign_21 rfl rfl rfl ?_
  refine r_ob (fun a3 ha3 => ?_)
  obtain ⟨hea3, hka3⟩ := o_at_eq ha3
  cases hea3
  refine r_callV (q := 25) (c_X7_goesOn G h0 N _ _) (cl_V (ci := 6) rfl rfl (lw_V q2182 q2184 qs84 q176 q2185) (hd_X7_goesOn) ⟨Nat.le_of_ble_eq_true rfl, Nat.le_of_ble_eq_true rfl⟩ (List.mem_singleton.mp hka3) rfl rfl rfl (Nat.le_of_ble_eq_true rfl) dX7_needsSign_22) rfl (fun u1 σ2 => ?_)
  exact r_return rfl dX7_needsSign_25
theorem w_X7_needsSign_b16 (G : Gx) (h0 : G0 G) (N : Nat)   (a0 : Nat) (σ : Mem) : Runs G mX7_needsSign rhoV σ 16 [some (vR (some a0)), none] [] (f_X7_needsSign_b16 N  a0 σ) := by
  unfold f_X7_needsSign_b16
  refine r_aload_n (q := 17) dX7_needsSign_16 rfl rfl rfl ?_
  refine r_iconst (q := 18) (v := (1 : Int32)) dX7_needsSign_17 rfl (by decide) ?_
  refine r_ob (fun a3 ha3 => ?_)
  obtain ⟨hea3, hka3⟩ := o_at_eq ha3
  cases hea3
  refine r_callV (q := 21) (c_X7_flaw G h0 N _ _ _) (cl_V (ci := 6) rfl rfl (lw_V q2219 q2221 qs90 q176 q2222) (hd_X7_flaw) ⟨Nat.le_of_ble_eq_true rfl, Nat.le_of_ble_eq_true rfl⟩ (List.mem_singleton.mp hka3) rfl rfl rfl (Nat.le_of_ble_eq_true rfl) dX7_needsSign_18) rfl (fun u1 σ2 => ?_)
  exact r_le (w_X7_needsSign_b21 G h0 N _ _) (Nat.le_refl _) (And.intro rfl trivial)
theorem c_X7_needsSign (G : Gx) (h0 : G0 G) (N : Nat) (a0 : Nat) (i1 : Int32) (σ : Mem) : Ct G mX7_needsSign rhoV [vR (some a0), vI i1] σ (f_X7_needsSign N a0 i1 σ) := by
  refine Ct_of h0 (by decide) rfl (Nat.le_of_ble_eq_true rfl) (L0 := [some (vR (some a0)), some (vI i1)]) rfl ?_
  unfold f_X7_needsSign
  refine r_aload_n (q := 1) dX7_needsSign_0 rfl rfl rfl ?_
  refine r_gI (q := 4) fl_X7_94 dX7_needsSign_1 rfl (fun x1 => ?_)
  refine r_iconst (q := 5) (v := (4 : Int32)) dX7_needsSign_4 rfl (by decide) ?_
  refine r_icmp_ne (q := 8) (t := 16) dX7_needsSign_5 rfl (by decide) (fun _ => ?_) (fun _ => ?_)
  · refine r_aload_n (q := 9) dX7_needsSign_8 rfl rfl rfl ?_
    refine r_gI (q := 12) fl_X7_106 dX7_needsSign_9 rfl (fun x2 => ?_)
    refine r_iload_n (q := 13) dX7_needsSign_12 rfl rfl rfl ?_
    refine r_icmp_eq (q := 16) (t := 21) dX7_needsSign_13 rfl (by decide) (fun _ => ?_) (fun _ => ?_)
    · exact r_le (w_X7_needsSign_b21 G h0 N _ _) (Nat.le_refl _) (And.intro rfl trivial)
    · exact r_le (w_X7_needsSign_b16 G h0 N _ _) (Nat.le_refl _) (And.intro rfl trivial)
  · exact r_le (w_X7_needsSign_b16 G h0 N _ _) (Nat.le_refl _) (And.intro rfl trivial)
theorem w_X7_readPlants_b34 (G : Gx) (h0 : G0 G) (N : Nat) (K3 : Nat → Option Nat → Int32 → Int32 → Int32 → Mem → Option (Unit × Mem)) (hK3 : ∀ (a0 : Nat) (l1 : Option Nat) (l2 : Int32) (l3 : Int32) (l4 : Int32) (σ : Mem), Runs G mX7_readPlants rhoV σ 3 [some (vR (some a0)), some (vR l1), some (vI l2), some (vI l3), some (vI l4)] [] (K3 a0 l1 l2 l3 l4 σ)) (a0 : Nat) (l1 : Option Nat) (l2 : Int32) (l3 : Int32) (l4 : Int32) (σ : Mem) : Runs G mX7_readPlants rhoV σ 34 [some (vR (some a0)), some (vR l1), some (vI l2), some (vI l3), some (vI l4)] [] (f_X7_readPlants_b34 N K3 a0 l1 l2 l3 l4 σ) := by
  unfold f_X7_readPlants_b34
  refine r_aload_n (q := 35) dX7_readPlants_34 rfl rfl rfl ?_
  refine r_iload_n (q := 36) dX7_readPlants_35 rfl rfl rfl ?_
  refine r_iload (q := 38) dX7_readPlants_36 rfl rfl ?_
  refine r_iadd (q := 39) dX7_readPlants_38 rfl ?_
  refine r_aload_n (q := 40) dX7_readPlants_39 rfl rfl rfl ?_
  refine r_iconst (q := 41) (v := (0 : Int32)) dX7_readPlants_40 rfl (by decide) ?_
  refine r_iload_n (q := 42) dX7_readPlants_41 rfl rfl rfl ?_
  refine r_ob (fun a3 ha3 => ?_)
  obtain ⟨hea3, hka3⟩ := o_at_eq ha3
  cases hea3
  refine r_callI (q := 45) (c_X7_readWhole G h0 N _ _ _ _) (cl_V (ci := 6) rfl rfl (lw_V q2232 q2234 qs93 q176 q2235) (hd_X7_readWhole) ⟨Nat.le_of_ble_eq_true rfl, Nat.le_of_ble_eq_true rfl⟩ (List.mem_singleton.mp hka3) rfl rfl rfl (Nat.le_of_ble_eq_true rfl) dX7_readPlants_42) rfl (fun x1 σ2 => ?_)
  refine r_iastore (q := 46) dX7_readPlants_45 rfl (fun σ4 => ?_)
  refine r_iinc (q := 49) (v := (1 : Int32)) dX7_readPlants_46 rfl rfl (by decide) (Nat.le_of_ble_eq_true rfl) rfl ?_
  refine r_goto (q := 3) dX7_readPlants_49 (by decide) ?_
  exact r_le (hK3 _ _ _ _ _ _) (Nat.le_refl _) (And.intro rfl (And.intro rfl (And.intro rfl (And.intro rfl (And.intro rfl trivial)))))
theorem w_X7_readPlants_b3B (G : Gx) (h0 : G0 G) (N : Nat)   (K3 : Nat → Option Nat → Int32 → Int32 → Int32 → Mem → Option (Unit × Mem)) (hK3 : ∀ (a0 : Nat) (l1 : Option Nat) (l2 : Int32) (l3 : Int32) (l4 : Int32) (σ : Mem), Runs G mX7_readPlants rhoV σ 3 [some (vR (some a0)), some (vR l1), some (vI l2), some (vI l3), some (vI l4)] [] (K3 a0 l1 l2 l3 l4 σ)) (a0 : Nat) (l1 : Option Nat) (l2 : Int32) (l3 : Int32) (l4 : Int32) (σ : Mem) : Runs G mX7_readPlants rhoV σ 3 [some (vR (some a0)), some (vR l1), some (vI l2), some (vI l3), some (vI l4)] [] (f_X7_readPlants_b3B N  K3 a0 l1 l2 l3 l4 σ) := by
  unfold f_X7_readPlants_b3B
  refine r_iload (q := 5) dX7_readPlants_3 rfl rfl ?_
  refine r_aload_n (q := 6) dX7_readPlants_5 rfl rfl rfl ?_
  refine r_gR (q := 9) fl_X7_192 rfl dX7_readPlants_6 rfl (fun x1 => ?_)
  refine r_gI (q := 12) fl_X7_229 dX7_readPlants_9 rfl (fun x2 => ?_)
  refine r_icmp_ge (q := 15) (t := 52) dX7_readPlants_12 rfl (by decide) (fun _ => ?_) (fun _ => ?_)
  · exact r_return rfl dX7_readPlants_52
  · refine r_aload_n (q := 16) dX7_readPlants_15 rfl rfl rfl ?_
    refine r_gI (q := 19) fl_X7_94 dX7_readPlants_16 rfl (fun x3 => ?_)
    refine r_iconst (q := 20) (v := (5 : Int32)) dX7_readPlants_19 rfl (by decide) ?_
    refine r_icmp_eq (q := 23) (t := 52) dX7_readPlants_20 rfl (by decide) (fun _ => ?_) (fun _ => ?_)
    · exact r_return rfl dX7_readPlants_52
    · refine r_iload (q := 25) dX7_readPlants_23 rfl rfl ?_
      refine r_if_le (q := 28) (t := 34) dX7_readPlants_25 rfl (by decide) (fun _ => ?_) (fun _ => ?_)
      · exact r_le (w_X7_readPlants_b34 G h0 N K3 hK3 _ _ _ _ _ _) (Nat.le_refl _) (And.intro rfl (And.intro rfl (And.intro rfl (And.intro rfl (And.intro rfl trivial)))))
      · refine r_aload_n (q := 29) dX7_readPlants_28 rfl rfl rfl ?_
        refine r_bipush (q := 31) (v := (44 : Int32)) dX7_readPlants_29 rfl (by decide) ?_
        refine r_ob (fun a6 ha6 => ?_)
        obtain ⟨hea6, hka6⟩ := o_at_eq ha6
        cases hea6
        refine r_callV (q := 34) (c_X7_needsSign G h0 N _ _ _) (cl_V (ci := 6) rfl rfl (lw_V q2280 q2282 qs99 q176 q2283) (hd_X7_needsSign) ⟨Nat.le_of_ble_eq_true rfl, Nat.le_of_ble_eq_true rfl⟩ (List.mem_singleton.mp hka6) rfl rfl rfl (Nat.le_of_ble_eq_true rfl) dX7_readPlants_31) rfl (fun u4 σ5 => ?_)
        exact r_le (w_X7_readPlants_b34 G h0 N K3 hK3 _ _ _ _ _ _) (Nat.le_refl _) (And.intro rfl (And.intro rfl (And.intro rfl (And.intro rfl (And.intro rfl trivial)))))
theorem w_X7_readPlants_b3 (G : Gx) (h0 : G0 G) (N : Nat)   : ∀ (z : Nat) (a0 : Nat) (l1 : Option Nat) (l2 : Int32) (l3 : Int32) (l4 : Int32) (σ : Mem), Runs G mX7_readPlants rhoV σ 3 [some (vR (some a0)), some (vR l1), some (vI l2), some (vI l3), some (vI l4)] [] (f_X7_readPlants_b3 N  z a0 l1 l2 l3 l4 σ) := by
  intro z
  induction z with
  | zero => exact fun _ _ _ _ _ _ => r_none
  | succ z ih => exact fun a0 l1 l2 l3 l4 σ => w_X7_readPlants_b3B G h0 N   _ ih a0 l1 l2 l3 l4 σ
theorem c_X7_readPlants (G : Gx) (h0 : G0 G) (N : Nat) (a0 : Nat) (o1 : Option Nat) (i2 : Int32) (i3 : Int32) (σ : Mem) : Ct G mX7_readPlants rhoV [vR (some a0), vR o1, vI i2, vI i3] σ (f_X7_readPlants N a0 o1 i2 i3 σ) := by
  refine Ct_of h0 (by decide) rfl (Nat.le_of_ble_eq_true rfl) (L0 := [some (vR (some a0)), some (vR o1), some (vI i2), some (vI i3), none]) rfl ?_
  unfold f_X7_readPlants
  refine r_iconst (q := 1) (v := (0 : Int32)) dX7_readPlants_0 rfl (by decide) ?_
  refine r_istore (q := 3) dX7_readPlants_1 rfl (Nat.le_of_ble_eq_true rfl) rfl ?_
  exact r_le (w_X7_readPlants_b3 G h0 N N _ _ _ _ _ _) (Nat.le_refl _) (And.intro rfl (And.intro rfl (And.intro rfl (And.intro rfl (And.intro rfl trivial)))))
theorem c_X7_names (G : Gx) (h0 : G0 G) (N : Nat) (a0 : Nat) (j1 : Int64) (i3 : Int32) (i4 : Int32) (σ : Mem) : Ct G mX7_names rhoV [vR (some a0), vL j1, vI i3, vI i4] σ (f_X7_names N a0 j1 i3 i4 σ) := by
  refine Ct_of h0 (by decide) rfl (Nat.le_of_ble_eq_true rfl) (L0 := [some (vR (some a0)), some (vL j1), none, some (vI i3), some (vI i4)]) rfl ?_
  unfold f_X7_names
  refine r_aload_n (q := 1) dX7_names_0 rfl rfl rfl ?_
  refine r_gR (q := 4) fl_X7_192 rfl dX7_names_1 rfl (fun x1 => ?_)
  refine r_gR (q := 7) fl_X7_213 rfl dX7_names_4 rfl (fun x2 => ?_)
  refine r_aload_n (q := 8) dX7_names_7 rfl rfl rfl ?_
  refine r_gR (q := 11) fl_X7_192 rfl dX7_names_8 rfl (fun x3 => ?_)
  refine r_gI (q := 14) fl_X7_217 dX7_names_11 rfl (fun x4 => ?_)
  refine r_lload_n (q := 15) dX7_names_14 rfl rfl rfl ?_
  refine r_lastore (q := 16) dX7_names_15 rfl (fun σ5 => ?_)
  refine r_aload_n (q := 17) dX7_names_16 rfl rfl rfl ?_
  refine r_gR (q := 20) fl_X7_192 rfl dX7_names_17 rfl (fun x6 => ?_)
  refine r_gR (q := 23) fl_X7_220 rfl dX7_names_20 rfl (fun x7 => ?_)
  refine r_aload_n (q := 24) dX7_names_23 rfl rfl rfl ?_
  refine r_gR (q := 27) fl_X7_192 rfl dX7_names_24 rfl (fun x8 => ?_)
  refine r_gI (q := 30) fl_X7_217 dX7_names_27 rfl (fun x9 => ?_)
  refine r_iload_n (q := 31) dX7_names_30 rfl rfl rfl ?_
  refine r_iastore (q := 32) dX7_names_31 rfl (fun σ10 => ?_)
  refine r_aload_n (q := 33) dX7_names_32 rfl rfl rfl ?_
  refine r_gR (q := 36) fl_X7_192 rfl dX7_names_33 rfl (fun x11 => ?_)
  refine r_gR (q := 39) fl_X7_223 rfl dX7_names_36 rfl (fun x12 => ?_)
  refine r_aload_n (q := 40) dX7_names_39 rfl rfl rfl ?_
  refine r_gR (q := 43) fl_X7_192 rfl dX7_names_40 rfl (fun x13 => ?_)
  refine r_gI (q := 46) fl_X7_217 dX7_names_43 rfl (fun x14 => ?_)
  refine r_iload (q := 48) dX7_names_46 rfl rfl ?_
  refine r_iastore (q := 49) dX7_names_48 rfl (fun σ15 => ?_)
  refine r_aload_n (q := 50) dX7_names_49 rfl rfl rfl ?_
  refine r_gR (q := 53) fl_X7_192 rfl dX7_names_50 rfl (fun x16 => ?_)
  refine r_dup (q := 54) dX7_names_53 rfl rfl ?_
  refine r_gI (q := 57) fl_X7_217 dX7_names_54 rfl (fun x17 => ?_)
  refine r_iconst (q := 58) (v := (1 : Int32)) dX7_names_57 rfl (by decide) ?_
  refine r_iadd (q := 59) dX7_names_58 rfl ?_
  refine r_pI (q := 62) fp_X7_names_217 dX7_names_59 rfl (fun σ18 => ?_)
  exact r_return rfl dX7_names_62
theorem w_X7_readPlace_b50 (G : Gx) (h0 : G0 G) (N : Nat)   (a0 : Nat) (l1 : Int64) (t0 : Option Nat) (t1 : Option Nat) (t2 : Int32) (t3 : Int32) (σ : Mem) : Runs G mX7_readPlace rhoV σ 50 [some (vR (some a0)), some (vL l1), none] [vI t3, vI t2, vR t1, vR t0] (f_X7_readPlace_b50 N  a0 l1 t0 t1 t2 t3 σ) := by
  unfold f_X7_readPlace_b50
  refine r_imul (q := 51) dX7_readPlace_50 rfl ?_
  refine r_bipush (q := 53) (v := (9 : Int32)) dX7_readPlace_51 rfl (by decide) ?_
  refine r_ob (fun a3 ha3 => ?_)
  obtain ⟨hea3, hka3⟩ := o_at_eq ha3
  cases hea3
  refine r_callV (q := 56) (c_X7_readPlants G h0 N _ _ _ _ _) (cl_V (ci := 6) rfl rfl (lw_V q2276 q2278 qs98 q176 q2279) (hd_X7_readPlants) ⟨Nat.le_of_ble_eq_true rfl, Nat.le_of_ble_eq_true rfl⟩ (List.mem_singleton.mp hka3) rfl rfl rfl (Nat.le_of_ble_eq_true rfl) dX7_readPlace_53) rfl (fun u1 σ2 => ?_)
  refine r_aload_n (q := 57) dX7_readPlace_56 rfl rfl rfl ?_
  refine r_gI (q := 60) fl_X7_94 dX7_readPlace_57 rfl (fun x4 => ?_)
  refine r_iconst (q := 61) (v := (5 : Int32)) dX7_readPlace_60 rfl (by decide) ?_
  refine r_icmp_ne (q := 64) (t := 65) dX7_readPlace_61 rfl (by decide) (fun _ => ?_) (fun _ => ?_)
  · exact r_return rfl dX7_readPlace_64
  · refine r_aload_n (q := 66) dX7_readPlace_65 rfl rfl rfl ?_
    refine r_lload_n (q := 67) dX7_readPlace_66 rfl rfl rfl ?_
    refine r_iconst (q := 68) (v := (0 : Int32)) dX7_readPlace_67 rfl (by decide) ?_
    refine r_aload_n (q := 69) dX7_readPlace_68 rfl rfl rfl ?_
    refine r_gR (q := 72) fl_X7_192 rfl dX7_readPlace_69 rfl (fun x5 => ?_)
    refine r_gI (q := 75) fl_X7_241 dX7_readPlace_72 rfl (fun x6 => ?_)
    refine r_ob (fun a9 ha9 => ?_)
    obtain ⟨hea9, hka9⟩ := o_at_eq ha9
    cases hea9
    refine r_callV (q := 78) (c_X7_names G h0 N _ _ _ _ _) (cl_V (ci := 6) rfl rfl (lw_V q2284 q2286 qs100 q176 q2287) (hd_X7_names) ⟨Nat.le_of_ble_eq_true rfl, Nat.le_of_ble_eq_true rfl⟩ (List.mem_singleton.mp hka9) rfl rfl rfl (Nat.le_of_ble_eq_true rfl) dX7_readPlace_75) rfl (fun u7 σ8 => ?_)
    refine r_aload_n (q := 79) dX7_readPlace_78 rfl rfl rfl ?_
    refine r_gR (q := 82) fl_X7_192 rfl dX7_readPlace_79 rfl (fun x10 => ?_)
    refine r_dup (q := 83) dX7_readPlace_82 rfl rfl ?_
    refine r_gI (q := 86) fl_X7_241 dX7_readPlace_83 rfl (fun x11 => ?_)
    refine r_iconst (q := 87) (v := (1 : Int32)) dX7_readPlace_86 rfl (by decide) ?_
    refine r_iadd (q := 88) dX7_readPlace_87 rfl ?_
    refine r_pI (q := 91) fp_X7_readPlace_241 dX7_readPlace_88 rfl (fun σ12 => ?_)
    exact r_return rfl dX7_readPlace_91
theorem c_X7_readPlace (G : Gx) (h0 : G0 G) (N : Nat) (a0 : Nat) (σ : Mem) : Ct G mX7_readPlace rhoV [vR (some a0)] σ (f_X7_readPlace N a0 σ) := by
  refine Ct_of h0 (by decide) rfl (Nat.le_of_ble_eq_true rfl) (L0 := [some (vR (some a0)), none, none]) rfl ?_
  unfold f_X7_readPlace
  refine r_aload_n (q := 1) dX7_readPlace_0 rfl rfl rfl ?_
  refine r_aload_n (q := 2) dX7_readPlace_1 rfl rfl rfl ?_
  refine r_gR (q := 5) fl_X7_192 rfl dX7_readPlace_2 rfl (fun x1 => ?_)
  refine r_gI (q := 8) fl_X7_241 dX7_readPlace_5 rfl (fun x2 => ?_)
  refine r_bipush (q := 10) (v := (8 : Int32)) dX7_readPlace_8 rfl (by decide) ?_
  refine r_ob (fun a5 ha5 => ?_)
  obtain ⟨hea5, hka5⟩ := o_at_eq ha5
  cases hea5
  refine r_callV (q := 13) (c_X7_begins G h0 N _ _ _ _) (cl_V (ci := 6) rfl rfl (lw_V q2245 q2247 qs95 q176 q2248) (hd_X7_begins) ⟨Nat.le_of_ble_eq_true rfl, Nat.le_of_ble_eq_true rfl⟩ (List.mem_singleton.mp hka5) rfl rfl rfl (Nat.le_of_ble_eq_true rfl) dX7_readPlace_10) rfl (fun u3 σ4 => ?_)
  refine r_aload_n (q := 14) dX7_readPlace_13 rfl rfl rfl ?_
  refine r_ob (fun a8 ha8 => ?_)
  obtain ⟨hea8, hka8⟩ := o_at_eq ha8
  cases hea8
  refine r_callL (q := 17) (c_X7_readFresh G h0 N _ _) (cl_V (ci := 6) rfl rfl (lw_V q2249 q2251 qs96 q176 q2252) (hd_X7_readFresh) ⟨Nat.le_of_ble_eq_true rfl, Nat.le_of_ble_eq_true rfl⟩ (List.mem_singleton.mp hka8) rfl rfl rfl (Nat.le_of_ble_eq_true rfl) dX7_readPlace_14) rfl (fun y6 σ7 => ?_)
  refine r_lstore_n (q := 18) dX7_readPlace_17 rfl rfl (Nat.le_of_ble_eq_true rfl) rfl ?_
  refine r_aload_n (q := 19) dX7_readPlace_18 rfl rfl rfl ?_
  refine r_aload_n (q := 20) dX7_readPlace_19 rfl rfl rfl ?_
  refine r_gR (q := 23) fl_X7_192 rfl dX7_readPlace_20 rfl (fun x9 => ?_)
  refine r_gR (q := 26) fl_X7_296 rfl dX7_readPlace_23 rfl (fun x10 => ?_)
  refine r_iconst (q := 27) (v := (4 : Int32)) dX7_readPlace_26 rfl (by decide) ?_
  refine r_aload_n (q := 28) dX7_readPlace_27 rfl rfl rfl ?_
  refine r_gR (q := 31) fl_X7_192 rfl dX7_readPlace_28 rfl (fun x11 => ?_)
  refine r_gI (q := 34) fl_X7_241 dX7_readPlace_31 rfl (fun x12 => ?_)
  refine r_bipush (q := 36) (v := (8 : Int32)) dX7_readPlace_34 rfl (by decide) ?_
  refine r_icmp_ge (q := 39) (t := 49) dX7_readPlace_36 rfl (by decide) (fun _ => ?_) (fun _ => ?_)
  · refine r_iconst (q := 50) (v := (0 : Int32)) dX7_readPlace_49 rfl (by decide) ?_
    exact r_le (w_X7_readPlace_b50 G h0 N _ _ _ _ _ _ _) (Nat.le_refl _) (And.intro rfl (And.intro rfl trivial))
  · refine r_aload_n (q := 40) dX7_readPlace_39 rfl rfl rfl ?_
    refine r_gR (q := 43) fl_X7_192 rfl dX7_readPlace_40 rfl (fun x13 => ?_)
    refine r_gI (q := 46) fl_X7_241 dX7_readPlace_43 rfl (fun x14 => ?_)
    refine r_goto (q := 50) dX7_readPlace_46 (by decide) ?_
    exact r_le (w_X7_readPlace_b50 G h0 N _ _ _ _ _ _ _) (Nat.le_refl _) (And.intro rfl (And.intro rfl trivial))
theorem w_X7_known_b47 (G : Gx) (h0 : G0 G) (N : Nat)   (a0 : Nat) (l2 : Int32) (σ : Mem) : Runs G mX7_known rhoI σ 47 [some (vR (some a0)), none, some (vI l2)] [] (f_X7_known_b47 N  a0 l2 σ) := by
  unfold f_X7_known_b47
  refine r_aload_n (q := 48) dX7_known_47 rfl rfl rfl ?_
  refine r_gI (q := 51) fl_X7_94 dX7_known_48 rfl (fun x1 => ?_)
  refine r_iconst (q := 52) (v := (5 : Int32)) dX7_known_51 rfl (by decide) ?_
  refine r_icmp_ne (q := 55) (t := 59) dX7_known_52 rfl (by decide) (fun _ => ?_) (fun _ => ?_)
  · refine r_iconst (q := 56) (v := (0 : Int32)) dX7_known_55 rfl (by decide) ?_
    refine r_goto (q := 68) dX7_known_56 (by decide) ?_
    exact r_ireturn rfl rfl dX7_known_68
  · refine r_aload_n (q := 60) dX7_known_59 rfl rfl rfl ?_
    refine r_gR (q := 63) fl_X7_192 rfl dX7_known_60 rfl (fun x2 => ?_)
    refine r_gR (q := 66) fl_X7_223 rfl dX7_known_63 rfl (fun x3 => ?_)
    refine r_iload_n (q := 67) dX7_known_66 rfl rfl rfl ?_
    refine r_iaload (q := 68) dX7_known_67 rfl (fun x4 => ?_)
    exact r_ireturn rfl rfl dX7_known_68
theorem w_X7_known_b42 (G : Gx) (h0 : G0 G) (N : Nat)   (a0 : Nat) (l2 : Int32) (σ : Mem) : Runs G mX7_known rhoI σ 42 [some (vR (some a0)), none, some (vI l2)] [] (f_X7_known_b42 N  a0 l2 σ) := by
  unfold f_X7_known_b42
  refine r_aload_n (q := 43) dX7_known_42 rfl rfl rfl ?_
  refine r_iconst (q := 44) (v := (2 : Int32)) dX7_known_43 rfl (by decide) ?_
  refine r_ob (fun a3 ha3 => ?_)
  obtain ⟨hea3, hka3⟩ := o_at_eq ha3
  cases hea3
  refine r_callV (q := 47) (c_X7_flaw G h0 N _ _ _) (cl_V (ci := 6) rfl rfl (lw_V q2219 q2221 qs90 q176 q2222) (hd_X7_flaw) ⟨Nat.le_of_ble_eq_true rfl, Nat.le_of_ble_eq_true rfl⟩ (List.mem_singleton.mp hka3) rfl rfl rfl (Nat.le_of_ble_eq_true rfl) dX7_known_44) rfl (fun u1 σ2 => ?_)
  exact r_le (w_X7_known_b47 G h0 N _ _ _) (Nat.le_refl _) (And.intro rfl (And.intro rfl trivial))
theorem w_X7_known_b12 (G : Gx) (h0 : G0 G) (N : Nat)   (a0 : Nat) (l1 : Int32) (σ : Mem) : Runs G mX7_known rhoI σ 12 [some (vR (some a0)), some (vI l1), none] [] (f_X7_known_b12 N  a0 l1 σ) := by
  unfold f_X7_known_b12
  refine r_aload_n (q := 13) dX7_known_12 rfl rfl rfl ?_
  refine r_gR (q := 16) fl_X7_192 rfl dX7_known_13 rfl (fun x1 => ?_)
  refine r_aload_n (q := 17) dX7_known_16 rfl rfl rfl ?_
  refine r_gJ (q := 20) fl_X7_113 dX7_known_17 rfl (fun x2 => ?_)
  refine r_ob (fun a5 ha5 => ?_)
  obtain ⟨hea5, hka5⟩ := o_at_eq ha5
  cases hea5
  refine r_callI (q := 23) (c_X24_find G h0 N _ _ _) (cl_V (ci := 20) rfl rfl (lw_V q2272 q2273 q2274 q199 q2275) (hd_X24_find) ⟨Nat.le_of_ble_eq_true rfl, Nat.le_of_ble_eq_true rfl⟩ (List.mem_singleton.mp hka5) rfl rfl rfl (Nat.le_of_ble_eq_true rfl) dX7_known_20) rfl (fun x3 σ4 => ?_)
  refine r_istore_n (q := 24) dX7_known_23 rfl rfl (Nat.le_of_ble_eq_true rfl) rfl ?_
  refine r_iload_n (q := 25) dX7_known_24 rfl rfl rfl ?_
  refine r_iconst (q := 26) (v := (-1 : Int32)) dX7_known_25 rfl (by decide) ?_
  refine r_icmp_eq (q := 29) (t := 42) dX7_known_26 rfl (by decide) (fun _ => ?_) (fun _ => ?_)
  · exact r_le (w_X7_known_b42 G h0 N _ _ _) (Nat.le_refl _) (And.intro rfl (And.intro rfl trivial))
  · refine r_aload_n (q := 30) dX7_known_29 rfl rfl rfl ?_
    refine r_gR (q := 33) fl_X7_192 rfl dX7_known_30 rfl (fun x6 => ?_)
    refine r_gR (q := 36) fl_X7_220 rfl dX7_known_33 rfl (fun x7 => ?_)
    refine r_iload_n (q := 37) dX7_known_36 rfl rfl rfl ?_
    refine r_iaload (q := 38) dX7_known_37 rfl (fun x8 => ?_)
    refine r_iload_n (q := 39) dX7_known_38 rfl rfl rfl ?_
    refine r_icmp_eq (q := 42) (t := 47) dX7_known_39 rfl (by decide) (fun _ => ?_) (fun _ => ?_)
    · exact r_le (w_X7_known_b47 G h0 N _ _ _) (Nat.le_refl _) (And.intro rfl (And.intro rfl trivial))
    · exact r_le (w_X7_known_b42 G h0 N _ _ _) (Nat.le_refl _) (And.intro rfl (And.intro rfl trivial))
theorem c_X7_known (G : Gx) (h0 : G0 G) (N : Nat) (a0 : Nat) (i1 : Int32) (σ : Mem) : Ct G mX7_known rhoI [vR (some a0), vI i1] σ (f_X7_known N a0 i1 σ) := by
  refine Ct_of h0 (by decide) rfl (Nat.le_of_ble_eq_true rfl) (L0 := [some (vR (some a0)), some (vI i1), none]) rfl ?_
  unfold f_X7_known
  refine r_aload_n (q := 1) dX7_known_0 rfl rfl rfl ?_
  refine r_ob (fun a3 ha3 => ?_)
  obtain ⟨hea3, hka3⟩ := o_at_eq ha3
  cases hea3
  refine r_callI (q := 4) (c_X7_isName G h0 N _ _) (cl_V (ci := 6) rfl rfl (lw_V q2253 q2255 qs97 q176 q2256) (hd_X7_isName) ⟨Nat.le_of_ble_eq_true rfl, Nat.le_of_ble_eq_true rfl⟩ (List.mem_singleton.mp hka3) rfl rfl rfl (Nat.le_of_ble_eq_true rfl) dX7_known_1) rfl (fun x1 σ2 => ?_)
  refine r_if_ne (q := 7) (t := 12) dX7_known_4 rfl (by decide) (fun _ => ?_) (fun _ => ?_)
  · refine r_aload_n (q := 8) dX7_known_7 rfl rfl rfl ?_
    refine r_iconst (q := 9) (v := (1 : Int32)) dX7_known_8 rfl (by decide) ?_
    refine r_ob (fun a6 ha6 => ?_)
    obtain ⟨hea6, hka6⟩ := o_at_eq ha6
    cases hea6
    refine r_callV (q := 12) (c_X7_flaw G h0 N _ _ _) (cl_V (ci := 6) rfl rfl (lw_V q2219 q2221 qs90 q176 q2222) (hd_X7_flaw) ⟨Nat.le_of_ble_eq_true rfl, Nat.le_of_ble_eq_true rfl⟩ (List.mem_singleton.mp hka6) rfl rfl rfl (Nat.le_of_ble_eq_true rfl) dX7_known_9) rfl (fun u4 σ5 => ?_)
    exact r_le (w_X7_known_b12 G h0 N _ _ _) (Nat.le_refl _) (And.intro rfl (And.intro rfl trivial))
  · exact r_le (w_X7_known_b12 G h0 N _ _ _) (Nat.le_refl _) (And.intro rfl (And.intro rfl trivial))
theorem c_X7_readKnown (G : Gx) (h0 : G0 G) (N : Nat) (a0 : Nat) (i1 : Int32) (σ : Mem) : Ct G mX7_readKnown rhoI [vR (some a0), vI i1] σ (f_X7_readKnown N a0 i1 σ) := by
  refine Ct_of h0 (by decide) rfl (Nat.le_of_ble_eq_true rfl) (L0 := [some (vR (some a0)), some (vI i1), none]) rfl ?_
  unfold f_X7_readKnown
  refine r_aload_n (q := 1) dX7_readKnown_0 rfl rfl rfl ?_
  refine r_iload_n (q := 2) dX7_readKnown_1 rfl rfl rfl ?_
  refine r_ob (fun a3 ha3 => ?_)
  obtain ⟨hea3, hka3⟩ := o_at_eq ha3
  cases hea3
  refine r_callI (q := 5) (c_X7_known G h0 N _ _ _) (cl_V (ci := 6) rfl rfl (lw_V q2296 q2298 qs103 q176 q2299) (hd_X7_known) ⟨Nat.le_of_ble_eq_true rfl, Nat.le_of_ble_eq_true rfl⟩ (List.mem_singleton.mp hka3) rfl rfl rfl (Nat.le_of_ble_eq_true rfl) dX7_readKnown_2) rfl (fun x1 σ2 => ?_)
  refine r_istore_n (q := 6) dX7_readKnown_5 rfl rfl (Nat.le_of_ble_eq_true rfl) rfl ?_
  refine r_aload_n (q := 7) dX7_readKnown_6 rfl rfl rfl ?_
  refine r_ob (fun a6 ha6 => ?_)
  obtain ⟨hea6, hka6⟩ := o_at_eq ha6
  cases hea6
  refine r_callV (q := 10) (c_X7_goesOn G h0 N _ _) (cl_V (ci := 6) rfl rfl (lw_V q2182 q2184 qs84 q176 q2185) (hd_X7_goesOn) ⟨Nat.le_of_ble_eq_true rfl, Nat.le_of_ble_eq_true rfl⟩ (List.mem_singleton.mp hka6) rfl rfl rfl (Nat.le_of_ble_eq_true rfl) dX7_readKnown_7) rfl (fun u4 σ5 => ?_)
  refine r_iload_n (q := 11) dX7_readKnown_10 rfl rfl rfl ?_
  exact r_ireturn rfl rfl dX7_readKnown_11
theorem w_X24_path_b52 (G : Gx) (h0 : G0 G) (N : Nat) (K2 : Nat → Int32 → Int32 → Int32 → Mem → Option (Int32 × Mem)) (hK2 : ∀ (a0 : Nat) (l1 : Int32) (l2 : Int32) (l3 : Int32) (σ : Mem), Runs G mX24_path rhoI σ 2 [some (vR (some a0)), some (vI l1), some (vI l2), some (vI l3)] [] (K2 a0 l1 l2 l3 σ)) (a0 : Nat) (l1 : Int32) (l2 : Int32) (l3 : Int32) (σ : Mem) : Runs G mX24_path rhoI σ 52 [some (vR (some a0)), some (vI l1), some (vI l2), some (vI l3)] [] (f_X24_path_b52 N K2 a0 l1 l2 l3 σ) := by
  unfold f_X24_path_b52
  refine r_iinc (q := 55) (v := (1 : Int32)) dX24_path_52 rfl rfl (by decide) (Nat.le_of_ble_eq_true rfl) rfl ?_
  refine r_goto (q := 2) dX24_path_55 (by decide) ?_
  exact r_le (hK2 _ _ _ _ _) (Nat.le_refl _) (And.intro rfl (And.intro rfl (And.intro rfl (And.intro rfl trivial))))
theorem w_X24_path_b30 (G : Gx) (h0 : G0 G) (N : Nat) (K2 : Nat → Int32 → Int32 → Int32 → Mem → Option (Int32 × Mem)) (hK2 : ∀ (a0 : Nat) (l1 : Int32) (l2 : Int32) (l3 : Int32) (σ : Mem), Runs G mX24_path rhoI σ 2 [some (vR (some a0)), some (vI l1), some (vI l2), some (vI l3)] [] (K2 a0 l1 l2 l3 σ)) (a0 : Nat) (l1 : Int32) (l2 : Int32) (l3 : Int32) (σ : Mem) : Runs G mX24_path rhoI σ 30 [some (vR (some a0)), some (vI l1), some (vI l2), some (vI l3)] [] (f_X24_path_b30 N K2 a0 l1 l2 l3 σ) := by
  unfold f_X24_path_b30
  refine r_aload_n (q := 31) dX24_path_30 rfl rfl rfl ?_
  refine r_gR (q := 34) fl_X24_15 rfl dX24_path_31 rfl (fun x1 => ?_)
  refine r_iload_n (q := 35) dX24_path_34 rfl rfl rfl ?_
  refine r_iaload (q := 36) dX24_path_35 rfl (fun x2 => ?_)
  refine r_iload_n (q := 37) dX24_path_36 rfl rfl rfl ?_
  refine r_icmp_ne (q := 40) (t := 52) dX24_path_37 rfl (by decide) (fun _ => ?_) (fun _ => ?_)
  · refine r_aload_n (q := 41) dX24_path_40 rfl rfl rfl ?_
    refine r_gR (q := 44) fl_X24_18 rfl dX24_path_41 rfl (fun x3 => ?_)
    refine r_iload_n (q := 45) dX24_path_44 rfl rfl rfl ?_
    refine r_iaload (q := 46) dX24_path_45 rfl (fun x4 => ?_)
    refine r_iload_n (q := 47) dX24_path_46 rfl rfl rfl ?_
    refine r_icmp_ne (q := 50) (t := 52) dX24_path_47 rfl (by decide) (fun _ => ?_) (fun _ => ?_)
    · refine r_iload_n (q := 51) dX24_path_50 rfl rfl rfl ?_
      exact r_ireturn rfl rfl dX24_path_51
    · exact r_le (w_X24_path_b52 G h0 N K2 hK2 _ _ _ _ _) (Nat.le_refl _) (And.intro rfl (And.intro rfl (And.intro rfl (And.intro rfl trivial))))
  · exact r_le (w_X24_path_b52 G h0 N K2 hK2 _ _ _ _ _) (Nat.le_refl _) (And.intro rfl (And.intro rfl (And.intro rfl (And.intro rfl trivial))))
theorem w_X24_path_b2B (G : Gx) (h0 : G0 G) (N : Nat)   (K2 : Nat → Int32 → Int32 → Int32 → Mem → Option (Int32 × Mem)) (hK2 : ∀ (a0 : Nat) (l1 : Int32) (l2 : Int32) (l3 : Int32) (σ : Mem), Runs G mX24_path rhoI σ 2 [some (vR (some a0)), some (vI l1), some (vI l2), some (vI l3)] [] (K2 a0 l1 l2 l3 σ)) (a0 : Nat) (l1 : Int32) (l2 : Int32) (l3 : Int32) (σ : Mem) : Runs G mX24_path rhoI σ 2 [some (vR (some a0)), some (vI l1), some (vI l2), some (vI l3)] [] (f_X24_path_b2B N  K2 a0 l1 l2 l3 σ) := by
  unfold f_X24_path_b2B
  refine r_iload_n (q := 3) dX24_path_2 rfl rfl rfl ?_
  refine r_aload_n (q := 4) dX24_path_3 rfl rfl rfl ?_
  refine r_gI (q := 7) fl_X24_92 dX24_path_4 rfl (fun x1 => ?_)
  refine r_icmp_ge (q := 10) (t := 58) dX24_path_7 rfl (by decide) (fun _ => ?_) (fun _ => ?_)
  · refine r_iconst (q := 59) (v := (-1 : Int32)) dX24_path_58 rfl (by decide) ?_
    exact r_ireturn rfl rfl dX24_path_59
  · refine r_aload_n (q := 11) dX24_path_10 rfl rfl rfl ?_
    refine r_gR (q := 14) fl_X24_15 rfl dX24_path_11 rfl (fun x2 => ?_)
    refine r_iload_n (q := 15) dX24_path_14 rfl rfl rfl ?_
    refine r_iaload (q := 16) dX24_path_15 rfl (fun x3 => ?_)
    refine r_iload_n (q := 17) dX24_path_16 rfl rfl rfl ?_
    refine r_icmp_ne (q := 20) (t := 30) dX24_path_17 rfl (by decide) (fun _ => ?_) (fun _ => ?_)
    · refine r_aload_n (q := 21) dX24_path_20 rfl rfl rfl ?_
      refine r_gR (q := 24) fl_X24_18 rfl dX24_path_21 rfl (fun x4 => ?_)
      refine r_iload_n (q := 25) dX24_path_24 rfl rfl rfl ?_
      refine r_iaload (q := 26) dX24_path_25 rfl (fun x5 => ?_)
      refine r_iload_n (q := 27) dX24_path_26 rfl rfl rfl ?_
      refine r_icmp_eq (q := 30) (t := 50) dX24_path_27 rfl (by decide) (fun _ => ?_) (fun _ => ?_)
      · refine r_iload_n (q := 51) dX24_path_50 rfl rfl rfl ?_
        exact r_ireturn rfl rfl dX24_path_51
      · exact r_le (w_X24_path_b30 G h0 N K2 hK2 _ _ _ _ _) (Nat.le_refl _) (And.intro rfl (And.intro rfl (And.intro rfl (And.intro rfl trivial))))
    · exact r_le (w_X24_path_b30 G h0 N K2 hK2 _ _ _ _ _) (Nat.le_refl _) (And.intro rfl (And.intro rfl (And.intro rfl (And.intro rfl trivial))))
theorem w_X24_path_b2 (G : Gx) (h0 : G0 G) (N : Nat)   : ∀ (z : Nat) (a0 : Nat) (l1 : Int32) (l2 : Int32) (l3 : Int32) (σ : Mem), Runs G mX24_path rhoI σ 2 [some (vR (some a0)), some (vI l1), some (vI l2), some (vI l3)] [] (f_X24_path_b2 N  z a0 l1 l2 l3 σ) := by
  intro z
  induction z with
  | zero => exact fun _ _ _ _ _ => r_none
  | succ z ih => exact fun a0 l1 l2 l3 σ => w_X24_path_b2B G h0 N   _ ih a0 l1 l2 l3 σ
theorem c_X24_path (G : Gx) (h0 : G0 G) (N : Nat) (a0 : Nat) (i1 : Int32) (i2 : Int32) (σ : Mem) : Ct G mX24_path rhoI [vR (some a0), vI i1, vI i2] σ (f_X24_path N a0 i1 i2 σ) := by
  refine Ct_of h0 (by decide) rfl (Nat.le_of_ble_eq_true rfl) (L0 := [some (vR (some a0)), some (vI i1), some (vI i2), none]) rfl ?_
  unfold f_X24_path
  refine r_iconst (q := 1) (v := (0 : Int32)) dX24_path_0 rfl (by decide) ?_
  refine r_istore_n (q := 2) dX24_path_1 rfl rfl (Nat.le_of_ble_eq_true rfl) rfl ?_
  exact r_le (w_X24_path_b2 G h0 N N _ _ _ _ _) (Nat.le_refl _) (And.intro rfl (And.intro rfl (And.intro rfl (And.intro rfl trivial))))
theorem w_X7_readPath_b56 (G : Gx) (h0 : G0 G) (N : Nat)   (a0 : Nat) (l1 : Int32) (l2 : Int32) (σ : Mem) : Runs G mX7_readPath rhoV σ 56 [some (vR (some a0)), some (vI l1), some (vI l2)] [] (f_X7_readPath_b56 N  a0 l1 l2 σ) := by
  unfold f_X7_readPath_b56
  refine r_aload_n (q := 57) dX7_readPath_56 rfl rfl rfl ?_
  refine r_ob (fun a3 ha3 => ?_)
  obtain ⟨hea3, hka3⟩ := o_at_eq ha3
  cases hea3
  refine r_callV (q := 60) (c_X7_goesOn G h0 N _ _) (cl_V (ci := 6) rfl rfl (lw_V q2182 q2184 qs84 q176 q2185) (hd_X7_goesOn) ⟨Nat.le_of_ble_eq_true rfl, Nat.le_of_ble_eq_true rfl⟩ (List.mem_singleton.mp hka3) rfl rfl rfl (Nat.le_of_ble_eq_true rfl) dX7_readPath_57) rfl (fun u1 σ2 => ?_)
  refine r_aload_n (q := 61) dX7_readPath_60 rfl rfl rfl ?_
  refine r_gI (q := 64) fl_X7_94 dX7_readPath_61 rfl (fun x4 => ?_)
  refine r_iconst (q := 65) (v := (5 : Int32)) dX7_readPath_64 rfl (by decide) ?_
  refine r_icmp_ne (q := 68) (t := 69) dX7_readPath_65 rfl (by decide) (fun _ => ?_) (fun _ => ?_)
  · exact r_return rfl dX7_readPath_68
  · refine r_aload_n (q := 70) dX7_readPath_69 rfl rfl rfl ?_
    refine r_gR (q := 73) fl_X7_192 rfl dX7_readPath_70 rfl (fun x5 => ?_)
    refine r_gR (q := 76) fl_X7_314 rfl dX7_readPath_73 rfl (fun x6 => ?_)
    refine r_aload_n (q := 77) dX7_readPath_76 rfl rfl rfl ?_
    refine r_gR (q := 80) fl_X7_192 rfl dX7_readPath_77 rfl (fun x7 => ?_)
    refine r_gI (q := 83) fl_X7_306 dX7_readPath_80 rfl (fun x8 => ?_)
    refine r_iload_n (q := 84) dX7_readPath_83 rfl rfl rfl ?_
    refine r_iastore (q := 85) dX7_readPath_84 rfl (fun σ9 => ?_)
    refine r_aload_n (q := 86) dX7_readPath_85 rfl rfl rfl ?_
    refine r_gR (q := 89) fl_X7_192 rfl dX7_readPath_86 rfl (fun x10 => ?_)
    refine r_gR (q := 92) fl_X7_317 rfl dX7_readPath_89 rfl (fun x11 => ?_)
    refine r_aload_n (q := 93) dX7_readPath_92 rfl rfl rfl ?_
    refine r_gR (q := 96) fl_X7_192 rfl dX7_readPath_93 rfl (fun x12 => ?_)
    refine r_gI (q := 99) fl_X7_306 dX7_readPath_96 rfl (fun x13 => ?_)
    refine r_iload_n (q := 100) dX7_readPath_99 rfl rfl rfl ?_
    refine r_iastore (q := 101) dX7_readPath_100 rfl (fun σ14 => ?_)
    refine r_aload_n (q := 102) dX7_readPath_101 rfl rfl rfl ?_
    refine r_gR (q := 105) fl_X7_192 rfl dX7_readPath_102 rfl (fun x15 => ?_)
    refine r_dup (q := 106) dX7_readPath_105 rfl rfl ?_
    refine r_gI (q := 109) fl_X7_306 dX7_readPath_106 rfl (fun x16 => ?_)
    refine r_iconst (q := 110) (v := (1 : Int32)) dX7_readPath_109 rfl (by decide) ?_
    refine r_iadd (q := 111) dX7_readPath_110 rfl ?_
    refine r_pI (q := 114) fp_X7_readPath_306 dX7_readPath_111 rfl (fun σ17 => ?_)
    exact r_return rfl dX7_readPath_114
theorem w_X7_readPath_b51 (G : Gx) (h0 : G0 G) (N : Nat)   (a0 : Nat) (l1 : Int32) (l2 : Int32) (σ : Mem) : Runs G mX7_readPath rhoV σ 51 [some (vR (some a0)), some (vI l1), some (vI l2)] [] (f_X7_readPath_b51 N  a0 l1 l2 σ) := by
  unfold f_X7_readPath_b51
  refine r_aload_n (q := 52) dX7_readPath_51 rfl rfl rfl ?_
  refine r_iconst (q := 53) (v := (3 : Int32)) dX7_readPath_52 rfl (by decide) ?_
  refine r_ob (fun a3 ha3 => ?_)
  obtain ⟨hea3, hka3⟩ := o_at_eq ha3
  cases hea3
  refine r_callV (q := 56) (c_X7_flaw G h0 N _ _ _) (cl_V (ci := 6) rfl rfl (lw_V q2219 q2221 qs90 q176 q2222) (hd_X7_flaw) ⟨Nat.le_of_ble_eq_true rfl, Nat.le_of_ble_eq_true rfl⟩ (List.mem_singleton.mp hka3) rfl rfl rfl (Nat.le_of_ble_eq_true rfl) dX7_readPath_53) rfl (fun u1 σ2 => ?_)
  exact r_le (w_X7_readPath_b56 G h0 N _ _ _ _) (Nat.le_refl _) (And.intro rfl (And.intro rfl (And.intro rfl trivial)))
theorem c_X7_readPath (G : Gx) (h0 : G0 G) (N : Nat) (a0 : Nat) (σ : Mem) : Ct G mX7_readPath rhoV [vR (some a0)] σ (f_X7_readPath N a0 σ) := by
  refine Ct_of h0 (by decide) rfl (Nat.le_of_ble_eq_true rfl) (L0 := [some (vR (some a0)), none, none]) rfl ?_
  unfold f_X7_readPath
  refine r_aload_n (q := 1) dX7_readPath_0 rfl rfl rfl ?_
  refine r_aload_n (q := 2) dX7_readPath_1 rfl rfl rfl ?_
  refine r_gR (q := 5) fl_X7_192 rfl dX7_readPath_2 rfl (fun x1 => ?_)
  refine r_gI (q := 8) fl_X7_306 dX7_readPath_5 rfl (fun x2 => ?_)
  refine r_bipush (q := 10) (v := (14 : Int32)) dX7_readPath_8 rfl (by decide) ?_
  refine r_ob (fun a5 ha5 => ?_)
  obtain ⟨hea5, hka5⟩ := o_at_eq ha5
  cases hea5
  refine r_callV (q := 13) (c_X7_begins G h0 N _ _ _ _) (cl_V (ci := 6) rfl rfl (lw_V q2245 q2247 qs95 q176 q2248) (hd_X7_begins) ⟨Nat.le_of_ble_eq_true rfl, Nat.le_of_ble_eq_true rfl⟩ (List.mem_singleton.mp hka5) rfl rfl rfl (Nat.le_of_ble_eq_true rfl) dX7_readPath_10) rfl (fun u3 σ4 => ?_)
  refine r_aload_n (q := 14) dX7_readPath_13 rfl rfl rfl ?_
  refine r_iconst (q := 15) (v := (0 : Int32)) dX7_readPath_14 rfl (by decide) ?_
  refine r_ob (fun a8 ha8 => ?_)
  obtain ⟨hea8, hka8⟩ := o_at_eq ha8
  cases hea8
  refine r_callI (q := 18) (c_X7_readKnown G h0 N _ _ _) (cl_V (ci := 6) rfl rfl (lw_V q2292 q2294 qs102 q176 q2295) (hd_X7_readKnown) ⟨Nat.le_of_ble_eq_true rfl, Nat.le_of_ble_eq_true rfl⟩ (List.mem_singleton.mp hka8) rfl rfl rfl (Nat.le_of_ble_eq_true rfl) dX7_readPath_15) rfl (fun x6 σ7 => ?_)
  refine r_istore_n (q := 19) dX7_readPath_18 rfl rfl (Nat.le_of_ble_eq_true rfl) rfl ?_
  refine r_aload_n (q := 20) dX7_readPath_19 rfl rfl rfl ?_
  refine r_iconst (q := 21) (v := (0 : Int32)) dX7_readPath_20 rfl (by decide) ?_
  refine r_ob (fun a11 ha11 => ?_)
  obtain ⟨hea11, hka11⟩ := o_at_eq ha11
  cases hea11
  refine r_callI (q := 24) (c_X7_known G h0 N _ _ _) (cl_V (ci := 6) rfl rfl (lw_V q2296 q2298 qs103 q176 q2299) (hd_X7_known) ⟨Nat.le_of_ble_eq_true rfl, Nat.le_of_ble_eq_true rfl⟩ (List.mem_singleton.mp hka11) rfl rfl rfl (Nat.le_of_ble_eq_true rfl) dX7_readPath_21) rfl (fun x9 σ10 => ?_)
  refine r_istore_n (q := 25) dX7_readPath_24 rfl rfl (Nat.le_of_ble_eq_true rfl) rfl ?_
  refine r_aload_n (q := 26) dX7_readPath_25 rfl rfl rfl ?_
  refine r_gI (q := 29) fl_X7_94 dX7_readPath_26 rfl (fun x12 => ?_)
  refine r_iconst (q := 30) (v := (5 : Int32)) dX7_readPath_29 rfl (by decide) ?_
  refine r_icmp_eq (q := 33) (t := 56) dX7_readPath_30 rfl (by decide) (fun _ => ?_) (fun _ => ?_)
  · exact r_le (w_X7_readPath_b56 G h0 N _ _ _ _) (Nat.le_refl _) (And.intro rfl (And.intro rfl (And.intro rfl trivial)))
  · refine r_iload_n (q := 34) dX7_readPath_33 rfl rfl rfl ?_
    refine r_iload_n (q := 35) dX7_readPath_34 rfl rfl rfl ?_
    refine r_icmp_eq (q := 38) (t := 51) dX7_readPath_35 rfl (by decide) (fun _ => ?_) (fun _ => ?_)
    · exact r_le (w_X7_readPath_b51 G h0 N _ _ _ _) (Nat.le_refl _) (And.intro rfl (And.intro rfl (And.intro rfl trivial)))
    · refine r_aload_n (q := 39) dX7_readPath_38 rfl rfl rfl ?_
      refine r_gR (q := 42) fl_X7_192 rfl dX7_readPath_39 rfl (fun x13 => ?_)
      refine r_iload_n (q := 43) dX7_readPath_42 rfl rfl rfl ?_
      refine r_iload_n (q := 44) dX7_readPath_43 rfl rfl rfl ?_
      refine r_ob (fun a16 ha16 => ?_)
      obtain ⟨hea16, hka16⟩ := o_at_eq ha16
      cases hea16
      refine r_callI (q := 47) (c_X24_path G h0 N _ _ _ _) (cl_V (ci := 20) rfl rfl (lw_V q2300 q2301 q2302 q199 q2303) (hd_X24_path) ⟨Nat.le_of_ble_eq_true rfl, Nat.le_of_ble_eq_true rfl⟩ (List.mem_singleton.mp hka16) rfl rfl rfl (Nat.le_of_ble_eq_true rfl) dX7_readPath_44) rfl (fun x14 σ15 => ?_)
      refine r_iconst (q := 48) (v := (-1 : Int32)) dX7_readPath_47 rfl (by decide) ?_
      refine r_icmp_eq (q := 51) (t := 56) dX7_readPath_48 rfl (by decide) (fun _ => ?_) (fun _ => ?_)
      · exact r_le (w_X7_readPath_b56 G h0 N _ _ _ _) (Nat.le_refl _) (And.intro rfl (And.intro rfl (And.intro rfl trivial)))
      · exact r_le (w_X7_readPath_b51 G h0 N _ _ _ _) (Nat.le_refl _) (And.intro rfl (And.intro rfl (And.intro rfl trivial)))
theorem c_X7_readPerson (G : Gx) (h0 : G0 G) (N : Nat) (a0 : Nat) (σ : Mem) : Ct G mX7_readPerson rhoV [vR (some a0)] σ (f_X7_readPerson N a0 σ) := by
  refine Ct_of h0 (by decide) rfl (Nat.le_of_ble_eq_true rfl) (L0 := [some (vR (some a0)), none, none]) rfl ?_
  unfold f_X7_readPerson
  refine r_aload_n (q := 1) dX7_readPerson_0 rfl rfl rfl ?_
  refine r_aload_n (q := 2) dX7_readPerson_1 rfl rfl rfl ?_
  refine r_gR (q := 5) fl_X7_192 rfl dX7_readPerson_2 rfl (fun x1 => ?_)
  refine r_gI (q := 8) fl_X7_320 dX7_readPerson_5 rfl (fun x2 => ?_)
  refine r_iconst (q := 9) (v := (4 : Int32)) dX7_readPerson_8 rfl (by decide) ?_
  refine r_ob (fun a5 ha5 => ?_)
  obtain ⟨hea5, hka5⟩ := o_at_eq ha5
  cases hea5
  refine r_callV (q := 12) (c_X7_begins G h0 N _ _ _ _) (cl_V (ci := 6) rfl rfl (lw_V q2245 q2247 qs95 q176 q2248) (hd_X7_begins) ⟨Nat.le_of_ble_eq_true rfl, Nat.le_of_ble_eq_true rfl⟩ (List.mem_singleton.mp hka5) rfl rfl rfl (Nat.le_of_ble_eq_true rfl) dX7_readPerson_9) rfl (fun u3 σ4 => ?_)
  refine r_aload_n (q := 13) dX7_readPerson_12 rfl rfl rfl ?_
  refine r_ob (fun a8 ha8 => ?_)
  obtain ⟨hea8, hka8⟩ := o_at_eq ha8
  cases hea8
  refine r_callL (q := 16) (c_X7_readFresh G h0 N _ _) (cl_V (ci := 6) rfl rfl (lw_V q2249 q2251 qs96 q176 q2252) (hd_X7_readFresh) ⟨Nat.le_of_ble_eq_true rfl, Nat.le_of_ble_eq_true rfl⟩ (List.mem_singleton.mp hka8) rfl rfl rfl (Nat.le_of_ble_eq_true rfl) dX7_readPerson_13) rfl (fun y6 σ7 => ?_)
  refine r_lstore_n (q := 17) dX7_readPerson_16 rfl rfl (Nat.le_of_ble_eq_true rfl) rfl ?_
  refine r_aload_n (q := 18) dX7_readPerson_17 rfl rfl rfl ?_
  refine r_gI (q := 21) fl_X7_94 dX7_readPerson_18 rfl (fun x9 => ?_)
  refine r_iconst (q := 22) (v := (5 : Int32)) dX7_readPerson_21 rfl (by decide) ?_
  refine r_icmp_ne (q := 25) (t := 26) dX7_readPerson_22 rfl (by decide) (fun _ => ?_) (fun _ => ?_)
  · exact r_return rfl dX7_readPerson_25
  · refine r_aload_n (q := 27) dX7_readPerson_26 rfl rfl rfl ?_
    refine r_lload_n (q := 28) dX7_readPerson_27 rfl rfl rfl ?_
    refine r_iconst (q := 29) (v := (1 : Int32)) dX7_readPerson_28 rfl (by decide) ?_
    refine r_aload_n (q := 30) dX7_readPerson_29 rfl rfl rfl ?_
    refine r_gR (q := 33) fl_X7_192 rfl dX7_readPerson_30 rfl (fun x10 => ?_)
    refine r_gI (q := 36) fl_X7_320 dX7_readPerson_33 rfl (fun x11 => ?_)
    refine r_ob (fun a14 ha14 => ?_)
    obtain ⟨hea14, hka14⟩ := o_at_eq ha14
    cases hea14
    refine r_callV (q := 39) (c_X7_names G h0 N _ _ _ _ _) (cl_V (ci := 6) rfl rfl (lw_V q2284 q2286 qs100 q176 q2287) (hd_X7_names) ⟨Nat.le_of_ble_eq_true rfl, Nat.le_of_ble_eq_true rfl⟩ (List.mem_singleton.mp hka14) rfl rfl rfl (Nat.le_of_ble_eq_true rfl) dX7_readPerson_36) rfl (fun u12 σ13 => ?_)
    refine r_aload_n (q := 40) dX7_readPerson_39 rfl rfl rfl ?_
    refine r_gR (q := 43) fl_X7_192 rfl dX7_readPerson_40 rfl (fun x15 => ?_)
    refine r_dup (q := 44) dX7_readPerson_43 rfl rfl ?_
    refine r_gI (q := 47) fl_X7_320 dX7_readPerson_44 rfl (fun x16 => ?_)
    refine r_iconst (q := 48) (v := (1 : Int32)) dX7_readPerson_47 rfl (by decide) ?_
    refine r_iadd (q := 49) dX7_readPerson_48 rfl ?_
    refine r_pI (q := 52) fp_X7_readPerson_320 dX7_readPerson_49 rfl (fun σ17 => ?_)
    exact r_return rfl dX7_readPerson_52
theorem w_X7_eatsSign_b21 (G : Gx) (h0 : G0 G) (N : Nat)   (a0 : Nat) (t0 : Int32) (σ : Mem) : Runs G mX7_eatsSign rhoI σ 21 [some (vR (some a0)), none, none] [vI t0] (f_X7_eatsSign_b21 N  a0 t0 σ) := by
  unfold f_X7_eatsSign_b21
  refine r_istore_n (q := 22) dX7_eatsSign_21 rfl rfl (Nat.le_of_ble_eq_true rfl) rfl ?_
  refine r_iload_n (q := 23) dX7_eatsSign_22 rfl rfl rfl ?_
  refine r_if_eq (q := 26) (t := 30) dX7_eatsSign_23 rfl (by decide) (fun _ => ?_) (fun _ => ?_)
  · refine r_iload_n (q := 31) dX7_eatsSign_30 rfl rfl rfl ?_
    exact r_ireturnN rfl dX7_eatsSign_31
  · refine r_aload_n (q := 27) dX7_eatsSign_26 rfl rfl rfl ?_
    refine r_ob (fun a3 ha3 => ?_)
    obtain ⟨hea3, hka3⟩ := o_at_eq ha3
    cases hea3
    refine r_callV (q := 30) (c_X7_goesOn G h0 N _ _) (cl_V (ci := 6) rfl rfl (lw_V q2182 q2184 qs84 q176 q2185) (hd_X7_goesOn) ⟨Nat.le_of_ble_eq_true rfl, Nat.le_of_ble_eq_true rfl⟩ (List.mem_singleton.mp hka3) rfl rfl rfl (Nat.le_of_ble_eq_true rfl) dX7_eatsSign_27) rfl (fun u1 σ2 => ?_)
    refine r_iload_n (q := 31) dX7_eatsSign_30 rfl rfl rfl ?_
    exact r_ireturnN rfl dX7_eatsSign_31
theorem w_X7_eatsSign_b20 (G : Gx) (h0 : G0 G) (N : Nat)   (a0 : Nat) (σ : Mem) : Runs G mX7_eatsSign rhoI σ 20 [some (vR (some a0)), none, none] [] (f_X7_eatsSign_b20 N  a0 σ) := by
  unfold f_X7_eatsSign_b20
  refine r_iconst (q := 21) (v := (0 : Int32)) dX7_eatsSign_20 rfl (by decide) ?_
  exact r_le (w_X7_eatsSign_b21 G h0 N _ _ _) (Nat.le_refl _) (And.intro rfl trivial)
theorem c_X7_eatsSign (G : Gx) (h0 : G0 G) (N : Nat) (a0 : Nat) (i1 : Int32) (σ : Mem) : Ct G mX7_eatsSign rhoI [vR (some a0), vI i1] σ (f_X7_eatsSign N a0 i1 σ) := by
  refine Ct_of h0 (by decide) rfl (Nat.le_of_ble_eq_true rfl) (L0 := [some (vR (some a0)), some (vI i1), none]) rfl ?_
  unfold f_X7_eatsSign
  refine r_aload_n (q := 1) dX7_eatsSign_0 rfl rfl rfl ?_
  refine r_gI (q := 4) fl_X7_94 dX7_eatsSign_1 rfl (fun x1 => ?_)
  refine r_iconst (q := 5) (v := (4 : Int32)) dX7_eatsSign_4 rfl (by decide) ?_
  refine r_icmp_ne (q := 8) (t := 20) dX7_eatsSign_5 rfl (by decide) (fun _ => ?_) (fun _ => ?_)
  · refine r_aload_n (q := 9) dX7_eatsSign_8 rfl rfl rfl ?_
    refine r_gI (q := 12) fl_X7_106 dX7_eatsSign_9 rfl (fun x2 => ?_)
    refine r_iload_n (q := 13) dX7_eatsSign_12 rfl rfl rfl ?_
    refine r_icmp_ne (q := 16) (t := 20) dX7_eatsSign_13 rfl (by decide) (fun _ => ?_) (fun _ => ?_)
    · refine r_iconst (q := 17) (v := (1 : Int32)) dX7_eatsSign_16 rfl (by decide) ?_
      refine r_goto (q := 21) dX7_eatsSign_17 (by decide) ?_
      exact r_le (w_X7_eatsSign_b21 G h0 N _ _ _) (Nat.le_refl _) (And.intro rfl trivial)
    · exact r_le (w_X7_eatsSign_b20 G h0 N _ _) (Nat.le_refl _) (And.intro rfl trivial)
  · exact r_le (w_X7_eatsSign_b20 G h0 N _ _) (Nat.le_refl _) (And.intro rfl trivial)
theorem w_X7_readStory_b120B (G : Gx) (h0 : G0 G) (N : Nat) (K76 : Nat → Int32 → Int32 → Int32 → Int32 → Mem → Option (Unit × Mem)) (hK76 : ∀ (a0 : Nat) (l1 : Int32) (l2 : Int32) (l3 : Int32) (l4 : Int32) (σ : Mem), Runs G mX7_readStory rhoV σ 76 [some (vR (some a0)), some (vI l1), some (vI l2), some (vI l3), some (vI l4), none, none] [] (K76 a0 l1 l2 l3 l4 σ)) (K120 : Nat → Int32 → Int32 → Int32 → Int32 → Int32 → Mem → Option (Unit × Mem)) (hK120 : ∀ (a0 : Nat) (l1 : Int32) (l2 : Int32) (l3 : Int32) (l5 : Int32) (l6 : Int32) (σ : Mem), Runs G mX7_readStory rhoV σ 120 [some (vR (some a0)), some (vI l1), some (vI l2), some (vI l3), none, some (vI l5), some (vI l6)] [] (K120 a0 l1 l2 l3 l5 l6 σ)) (a0 : Nat) (l1 : Int32) (l2 : Int32) (l3 : Int32) (l5 : Int32) (l6 : Int32) (σ : Mem) : Runs G mX7_readStory rhoV σ 120 [some (vR (some a0)), some (vI l1), some (vI l2), some (vI l3), none, some (vI l5), some (vI l6)] [] (f_X7_readStory_b120B N K76 K120 a0 l1 l2 l3 l5 l6 σ) := by
  unfold f_X7_readStory_b120B
  refine r_iload (q := 122) dX7_readStory_120 rfl rfl ?_
  refine r_bipush (q := 124) (v := (12 : Int32)) dX7_readStory_122 rfl (by decide) ?_
  refine r_icmp_ge (q := 127) (t := 147) dX7_readStory_124 rfl (by decide) (fun _ => ?_) (fun _ => ?_)
  · refine r_iinc (q := 150) (v := (1 : Int32)) dX7_readStory_147 rfl rfl (by decide) (Nat.le_of_ble_eq_true rfl) rfl ?_
    refine r_aload_n (q := 151) dX7_readStory_150 rfl rfl rfl ?_
    refine r_bipush (q := 153) (v := (44 : Int32)) dX7_readStory_151 rfl (by decide) ?_
    refine r_ob (fun a3 ha3 => ?_)
    obtain ⟨hea3, hka3⟩ := o_at_eq ha3
    cases hea3
    refine r_callI (q := 156) (c_X7_eatsSign G h0 N _ _ _) (cl_V (ci := 6) rfl rfl (lw_V q2312 q2314 qs106 q176 q2315) (hd_X7_eatsSign) ⟨Nat.le_of_ble_eq_true rfl, Nat.le_of_ble_eq_true rfl⟩ (List.mem_singleton.mp hka3) rfl rfl rfl (Nat.le_of_ble_eq_true rfl) dX7_readStory_153) rfl (fun x1 σ2 => ?_)
    refine r_istore (q := 158) dX7_readStory_156 rfl (Nat.le_of_ble_eq_true rfl) rfl ?_
    refine r_goto (q := 76) dX7_readStory_158 (by decide) ?_
    exact r_le (hK76 _ _ _ _ _ _) (Nat.le_refl _) (And.intro rfl (And.intro rfl (And.intro rfl (And.intro rfl (And.intro rfl trivial)))))
  · refine r_aload_n (q := 128) dX7_readStory_127 rfl rfl rfl ?_
    refine r_gR (q := 131) fl_X7_192 rfl dX7_readStory_128 rfl (fun x4 => ?_)
    refine r_gR (q := 134) fl_X7_326 rfl dX7_readStory_131 rfl (fun x5 => ?_)
    refine r_iload_n (q := 135) dX7_readStory_134 rfl rfl rfl ?_
    refine r_iload (q := 137) dX7_readStory_135 rfl rfl ?_
    refine r_iadd (q := 138) dX7_readStory_137 rfl ?_
    refine r_iload (q := 140) dX7_readStory_138 rfl rfl ?_
    refine r_iastore (q := 141) dX7_readStory_140 rfl (fun σ6 => ?_)
    refine r_iinc (q := 144) (v := (1 : Int32)) dX7_readStory_141 rfl rfl (by decide) (Nat.le_of_ble_eq_true rfl) rfl ?_
    refine r_goto (q := 120) dX7_readStory_144 (by decide) ?_
    exact r_le (hK120 _ _ _ _ _ _ _) (Nat.le_refl _) (And.intro rfl (And.intro rfl (And.intro rfl (And.intro rfl (And.intro rfl (And.intro rfl trivial))))))
theorem w_X7_readStory_b120 (G : Gx) (h0 : G0 G) (N : Nat) (K76 : Nat → Int32 → Int32 → Int32 → Int32 → Mem → Option (Unit × Mem)) (hK76 : ∀ (a0 : Nat) (l1 : Int32) (l2 : Int32) (l3 : Int32) (l4 : Int32) (σ : Mem), Runs G mX7_readStory rhoV σ 76 [some (vR (some a0)), some (vI l1), some (vI l2), some (vI l3), some (vI l4), none, none] [] (K76 a0 l1 l2 l3 l4 σ)) : ∀ (z : Nat) (a0 : Nat) (l1 : Int32) (l2 : Int32) (l3 : Int32) (l5 : Int32) (l6 : Int32) (σ : Mem), Runs G mX7_readStory rhoV σ 120 [some (vR (some a0)), some (vI l1), some (vI l2), some (vI l3), none, some (vI l5), some (vI l6)] [] (f_X7_readStory_b120 N K76 z a0 l1 l2 l3 l5 l6 σ) := by
  intro z
  induction z with
  | zero => exact fun _ _ _ _ _ _ _ => r_none
  | succ z ih => exact fun a0 l1 l2 l3 l5 l6 σ => w_X7_readStory_b120B G h0 N K76 hK76 _ ih a0 l1 l2 l3 l5 l6 σ
theorem w_X7_readStory_b104 (G : Gx) (h0 : G0 G) (N : Nat) (K76 : Nat → Int32 → Int32 → Int32 → Int32 → Mem → Option (Unit × Mem)) (hK76 : ∀ (a0 : Nat) (l1 : Int32) (l2 : Int32) (l3 : Int32) (l4 : Int32) (σ : Mem), Runs G mX7_readStory rhoV σ 76 [some (vR (some a0)), some (vI l1), some (vI l2), some (vI l3), some (vI l4), none, none] [] (K76 a0 l1 l2 l3 l4 σ)) (a0 : Nat) (l1 : Int32) (l2 : Int32) (l3 : Int32) (l5 : Int32) (σ : Mem) : Runs G mX7_readStory rhoV σ 104 [some (vR (some a0)), some (vI l1), some (vI l2), some (vI l3), none, some (vI l5), none] [] (f_X7_readStory_b104 N K76 a0 l1 l2 l3 l5 σ) := by
  unfold f_X7_readStory_b104
  refine r_aload_n (q := 105) dX7_readStory_104 rfl rfl rfl ?_
  refine r_ob (fun a3 ha3 => ?_)
  obtain ⟨hea3, hka3⟩ := o_at_eq ha3
  cases hea3
  refine r_callV (q := 108) (c_X7_goesOn G h0 N _ _) (cl_V (ci := 6) rfl rfl (lw_V q2182 q2184 qs84 q176 q2185) (hd_X7_goesOn) ⟨Nat.le_of_ble_eq_true rfl, Nat.le_of_ble_eq_true rfl⟩ (List.mem_singleton.mp hka3) rfl rfl rfl (Nat.le_of_ble_eq_true rfl) dX7_readStory_105) rfl (fun u1 σ2 => ?_)
  refine r_aload_n (q := 109) dX7_readStory_108 rfl rfl rfl ?_
  refine r_gI (q := 112) fl_X7_94 dX7_readStory_109 rfl (fun x4 => ?_)
  refine r_iconst (q := 113) (v := (5 : Int32)) dX7_readStory_112 rfl (by decide) ?_
  refine r_icmp_ne (q := 116) (t := 117) dX7_readStory_113 rfl (by decide) (fun _ => ?_) (fun _ => ?_)
  · exact r_return rfl dX7_readStory_116
  · refine r_iload_n (q := 118) dX7_readStory_117 rfl rfl rfl ?_
    refine r_istore (q := 120) dX7_readStory_118 rfl (Nat.le_of_ble_eq_true rfl) rfl ?_
    exact r_le (w_X7_readStory_b120 G h0 N K76 hK76 N _ _ _ _ _ _ _) (Nat.le_refl _) (And.intro rfl (And.intro rfl (And.intro rfl (And.intro rfl (And.intro rfl (And.intro rfl trivial))))))
theorem w_X7_readStory_b76B (G : Gx) (h0 : G0 G) (N : Nat)   (K76 : Nat → Int32 → Int32 → Int32 → Int32 → Mem → Option (Unit × Mem)) (hK76 : ∀ (a0 : Nat) (l1 : Int32) (l2 : Int32) (l3 : Int32) (l4 : Int32) (σ : Mem), Runs G mX7_readStory rhoV σ 76 [some (vR (some a0)), some (vI l1), some (vI l2), some (vI l3), some (vI l4), none, none] [] (K76 a0 l1 l2 l3 l4 σ)) (a0 : Nat) (l1 : Int32) (l2 : Int32) (l3 : Int32) (l4 : Int32) (σ : Mem) : Runs G mX7_readStory rhoV σ 76 [some (vR (some a0)), some (vI l1), some (vI l2), some (vI l3), some (vI l4), none, none] [] (f_X7_readStory_b76B N  K76 a0 l1 l2 l3 l4 σ) := by
  unfold f_X7_readStory_b76B
  refine r_iload (q := 78) dX7_readStory_76 rfl rfl ?_
  refine r_if_eq (q := 81) (t := 161) dX7_readStory_78 rfl (by decide) (fun _ => ?_) (fun _ => ?_)
  · refine r_aload_n (q := 162) dX7_readStory_161 rfl rfl rfl ?_
    refine r_gR (q := 165) fl_X7_192 rfl dX7_readStory_162 rfl (fun x1 => ?_)
    refine r_gR (q := 168) fl_X7_323 rfl dX7_readStory_165 rfl (fun x2 => ?_)
    refine r_iload_n (q := 169) dX7_readStory_168 rfl rfl rfl ?_
    refine r_dup2 (q := 170) dX7_readStory_169 rfl rfl rfl ?_
    refine r_iaload (q := 171) dX7_readStory_170 rfl (fun x3 => ?_)
    refine r_iconst (q := 172) (v := (1 : Int32)) dX7_readStory_171 rfl (by decide) ?_
    refine r_iadd (q := 173) dX7_readStory_172 rfl ?_
    refine r_iastore (q := 174) dX7_readStory_173 rfl (fun σ4 => ?_)
    exact r_return rfl dX7_readStory_174
  · refine r_aload_n (q := 82) dX7_readStory_81 rfl rfl rfl ?_
    refine r_iconst (q := 83) (v := (0 : Int32)) dX7_readStory_82 rfl (by decide) ?_
    refine r_ob (fun a7 ha7 => ?_)
    obtain ⟨hea7, hka7⟩ := o_at_eq ha7
    cases hea7
    refine r_callI (q := 86) (c_X7_known G h0 N _ _ _) (cl_V (ci := 6) rfl rfl (lw_V q2296 q2298 qs103 q176 q2299) (hd_X7_known) ⟨Nat.le_of_ble_eq_true rfl, Nat.le_of_ble_eq_true rfl⟩ (List.mem_singleton.mp hka7) rfl rfl rfl (Nat.le_of_ble_eq_true rfl) dX7_readStory_83) rfl (fun x5 σ6 => ?_)
    refine r_istore (q := 88) dX7_readStory_86 rfl (Nat.le_of_ble_eq_true rfl) rfl ?_
    refine r_iload_n (q := 89) dX7_readStory_88 rfl rfl rfl ?_
    refine r_aload_n (q := 90) dX7_readStory_89 rfl rfl rfl ?_
    refine r_gR (q := 93) fl_X7_192 rfl dX7_readStory_90 rfl (fun x8 => ?_)
    refine r_gI (q := 96) fl_X7_196 dX7_readStory_93 rfl (fun x9 => ?_)
    refine r_icmp_ne (q := 99) (t := 104) dX7_readStory_96 rfl (by decide) (fun _ => ?_) (fun _ => ?_)
    · refine r_aload_n (q := 100) dX7_readStory_99 rfl rfl rfl ?_
      refine r_iconst (q := 101) (v := (5 : Int32)) dX7_readStory_100 rfl (by decide) ?_
      refine r_ob (fun a12 ha12 => ?_)
      obtain ⟨hea12, hka12⟩ := o_at_eq ha12
      cases hea12
      refine r_callV (q := 104) (c_X7_flaw G h0 N _ _ _) (cl_V (ci := 6) rfl rfl (lw_V q2219 q2221 qs90 q176 q2222) (hd_X7_flaw) ⟨Nat.le_of_ble_eq_true rfl, Nat.le_of_ble_eq_true rfl⟩ (List.mem_singleton.mp hka12) rfl rfl rfl (Nat.le_of_ble_eq_true rfl) dX7_readStory_101) rfl (fun u10 σ11 => ?_)
      exact r_le (w_X7_readStory_b104 G h0 N K76 hK76 _ _ _ _ _ _) (Nat.le_refl _) (And.intro rfl (And.intro rfl (And.intro rfl (And.intro rfl (And.intro rfl trivial)))))
    · exact r_le (w_X7_readStory_b104 G h0 N K76 hK76 _ _ _ _ _ _) (Nat.le_refl _) (And.intro rfl (And.intro rfl (And.intro rfl (And.intro rfl (And.intro rfl trivial)))))
theorem w_X7_readStory_b76 (G : Gx) (h0 : G0 G) (N : Nat)   : ∀ (z : Nat) (a0 : Nat) (l1 : Int32) (l2 : Int32) (l3 : Int32) (l4 : Int32) (σ : Mem), Runs G mX7_readStory rhoV σ 76 [some (vR (some a0)), some (vI l1), some (vI l2), some (vI l3), some (vI l4), none, none] [] (f_X7_readStory_b76 N  z a0 l1 l2 l3 l4 σ) := by
  intro z
  induction z with
  | zero => exact fun _ _ _ _ _ _ => r_none
  | succ z ih => exact fun a0 l1 l2 l3 l4 σ => w_X7_readStory_b76B G h0 N   _ ih a0 l1 l2 l3 l4 σ
theorem w_X7_readStory_b66 (G : Gx) (h0 : G0 G) (N : Nat)   (a0 : Nat) (l1 : Int32) (t0 : Int32) (t1 : Int32) (σ : Mem) : Runs G mX7_readStory rhoV σ 66 [some (vR (some a0)), some (vI l1), none, none, none, none, none] [vI t1, vI t0] (f_X7_readStory_b66 N  a0 l1 t0 t1 σ) := by
  unfold f_X7_readStory_b66
  refine r_iadd (q := 67) dX7_readStory_66 rfl ?_
  refine r_bipush (q := 69) (v := (12 : Int32)) dX7_readStory_67 rfl (by decide) ?_
  refine r_imul (q := 70) dX7_readStory_69 rfl ?_
  refine r_istore_n (q := 71) dX7_readStory_70 rfl rfl (Nat.le_of_ble_eq_true rfl) rfl ?_
  refine r_iconst (q := 72) (v := (0 : Int32)) dX7_readStory_71 rfl (by decide) ?_
  refine r_istore_n (q := 73) dX7_readStory_72 rfl rfl (Nat.le_of_ble_eq_true rfl) rfl ?_
  refine r_iconst (q := 74) (v := (1 : Int32)) dX7_readStory_73 rfl (by decide) ?_
  refine r_istore (q := 76) dX7_readStory_74 rfl (Nat.le_of_ble_eq_true rfl) rfl ?_
  exact r_le (w_X7_readStory_b76 G h0 N N _ _ _ _ _ _) (Nat.le_refl _) (And.intro rfl (And.intro rfl (And.intro rfl (And.intro rfl (And.intro rfl trivial)))))
theorem w_X7_readStory_b38 (G : Gx) (h0 : G0 G) (N : Nat)   (a0 : Nat) (l1 : Int32) (σ : Mem) : Runs G mX7_readStory rhoV σ 38 [some (vR (some a0)), some (vI l1), none, none, none, none, none] [] (f_X7_readStory_b38 N  a0 l1 σ) := by
  unfold f_X7_readStory_b38
  refine r_aload_n (q := 39) dX7_readStory_38 rfl rfl rfl ?_
  refine r_ob (fun a3 ha3 => ?_)
  obtain ⟨hea3, hka3⟩ := o_at_eq ha3
  cases hea3
  refine r_callV (q := 42) (c_X7_goesOn G h0 N _ _) (cl_V (ci := 6) rfl rfl (lw_V q2182 q2184 qs84 q176 q2185) (hd_X7_goesOn) ⟨Nat.le_of_ble_eq_true rfl, Nat.le_of_ble_eq_true rfl⟩ (List.mem_singleton.mp hka3) rfl rfl rfl (Nat.le_of_ble_eq_true rfl) dX7_readStory_39) rfl (fun u1 σ2 => ?_)
  refine r_iconst (q := 43) (v := (3 : Int32)) dX7_readStory_42 rfl (by decide) ?_
  refine r_iload_n (q := 44) dX7_readStory_43 rfl rfl rfl ?_
  refine r_imul (q := 45) dX7_readStory_44 rfl ?_
  refine r_aload_n (q := 46) dX7_readStory_45 rfl rfl rfl ?_
  refine r_gI (q := 49) fl_X7_94 dX7_readStory_46 rfl (fun x4 => ?_)
  refine r_iconst (q := 50) (v := (5 : Int32)) dX7_readStory_49 rfl (by decide) ?_
  refine r_icmp_ne (q := 53) (t := 57) dX7_readStory_50 rfl (by decide) (fun _ => ?_) (fun _ => ?_)
  · refine r_iconst (q := 54) (v := (0 : Int32)) dX7_readStory_53 rfl (by decide) ?_
    refine r_goto (q := 66) dX7_readStory_54 (by decide) ?_
    exact r_le (w_X7_readStory_b66 G h0 N _ _ _ _ _) (Nat.le_refl _) (And.intro rfl (And.intro rfl trivial))
  · refine r_aload_n (q := 58) dX7_readStory_57 rfl rfl rfl ?_
    refine r_gR (q := 61) fl_X7_192 rfl dX7_readStory_58 rfl (fun x5 => ?_)
    refine r_gR (q := 64) fl_X7_323 rfl dX7_readStory_61 rfl (fun x6 => ?_)
    refine r_iload_n (q := 65) dX7_readStory_64 rfl rfl rfl ?_
    refine r_iaload (q := 66) dX7_readStory_65 rfl (fun x7 => ?_)
    exact r_le (w_X7_readStory_b66 G h0 N _ _ _ _ _) (Nat.le_refl _) (And.intro rfl (And.intro rfl trivial))
theorem c_X7_readStory (G : Gx) (h0 : G0 G) (N : Nat) (a0 : Nat) (σ : Mem) : Ct G mX7_readStory rhoV [vR (some a0)] σ (f_X7_readStory N a0 σ) := by
  refine Ct_of h0 (by decide) rfl (Nat.le_of_ble_eq_true rfl) (L0 := [some (vR (some a0)), none, none, none, none, none, none]) rfl ?_
  unfold f_X7_readStory
  refine r_aload_n (q := 1) dX7_readStory_0 rfl rfl rfl ?_
  refine r_iconst (q := 2) (v := (0 : Int32)) dX7_readStory_1 rfl (by decide) ?_
  refine r_iconst (q := 3) (v := (1 : Int32)) dX7_readStory_2 rfl (by decide) ?_
  refine r_ob (fun a3 ha3 => ?_)
  obtain ⟨hea3, hka3⟩ := o_at_eq ha3
  cases hea3
  refine r_callV (q := 6) (c_X7_begins G h0 N _ _ _ _) (cl_V (ci := 6) rfl rfl (lw_V q2245 q2247 qs95 q176 q2248) (hd_X7_begins) ⟨Nat.le_of_ble_eq_true rfl, Nat.le_of_ble_eq_true rfl⟩ (List.mem_singleton.mp hka3) rfl rfl rfl (Nat.le_of_ble_eq_true rfl) dX7_readStory_3) rfl (fun u1 σ2 => ?_)
  refine r_aload_n (q := 7) dX7_readStory_6 rfl rfl rfl ?_
  refine r_iconst (q := 8) (v := (1 : Int32)) dX7_readStory_7 rfl (by decide) ?_
  refine r_ob (fun a6 ha6 => ?_)
  obtain ⟨hea6, hka6⟩ := o_at_eq ha6
  cases hea6
  refine r_callI (q := 11) (c_X7_known G h0 N _ _ _) (cl_V (ci := 6) rfl rfl (lw_V q2296 q2298 qs103 q176 q2299) (hd_X7_known) ⟨Nat.le_of_ble_eq_true rfl, Nat.le_of_ble_eq_true rfl⟩ (List.mem_singleton.mp hka6) rfl rfl rfl (Nat.le_of_ble_eq_true rfl) dX7_readStory_8) rfl (fun x4 σ5 => ?_)
  refine r_istore_n (q := 12) dX7_readStory_11 rfl rfl (Nat.le_of_ble_eq_true rfl) rfl ?_
  refine r_aload_n (q := 13) dX7_readStory_12 rfl rfl rfl ?_
  refine r_gI (q := 16) fl_X7_94 dX7_readStory_13 rfl (fun x7 => ?_)
  refine r_iconst (q := 17) (v := (5 : Int32)) dX7_readStory_16 rfl (by decide) ?_
  refine r_icmp_eq (q := 20) (t := 38) dX7_readStory_17 rfl (by decide) (fun _ => ?_) (fun _ => ?_)
  · exact r_le (w_X7_readStory_b38 G h0 N _ _ _) (Nat.le_refl _) (And.intro rfl (And.intro rfl trivial))
  · refine r_aload_n (q := 21) dX7_readStory_20 rfl rfl rfl ?_
    refine r_gR (q := 24) fl_X7_192 rfl dX7_readStory_21 rfl (fun x8 => ?_)
    refine r_gR (q := 27) fl_X7_323 rfl dX7_readStory_24 rfl (fun x9 => ?_)
    refine r_iload_n (q := 28) dX7_readStory_27 rfl rfl rfl ?_
    refine r_iaload (q := 29) dX7_readStory_28 rfl (fun x10 => ?_)
    refine r_iconst (q := 30) (v := (3 : Int32)) dX7_readStory_29 rfl (by decide) ?_
    refine r_icmp_ne (q := 33) (t := 38) dX7_readStory_30 rfl (by decide) (fun _ => ?_) (fun _ => ?_)
    · refine r_aload_n (q := 34) dX7_readStory_33 rfl rfl rfl ?_
      refine r_iconst (q := 35) (v := (5 : Int32)) dX7_readStory_34 rfl (by decide) ?_
      refine r_ob (fun a13 ha13 => ?_)
      obtain ⟨hea13, hka13⟩ := o_at_eq ha13
      cases hea13
      refine r_callV (q := 38) (c_X7_flaw G h0 N _ _ _) (cl_V (ci := 6) rfl rfl (lw_V q2219 q2221 qs90 q176 q2222) (hd_X7_flaw) ⟨Nat.le_of_ble_eq_true rfl, Nat.le_of_ble_eq_true rfl⟩ (List.mem_singleton.mp hka13) rfl rfl rfl (Nat.le_of_ble_eq_true rfl) dX7_readStory_35) rfl (fun u11 σ12 => ?_)
      exact r_le (w_X7_readStory_b38 G h0 N _ _ _) (Nat.le_refl _) (And.intro rfl (And.intro rfl trivial))
    · exact r_le (w_X7_readStory_b38 G h0 N _ _ _) (Nat.le_refl _) (And.intro rfl (And.intro rfl trivial))
theorem w_X7_readGoat_b293 (G : Gx) (h0 : G0 G) (N : Nat)   (a0 : Nat) (l1 : Int64) (l3 : Int32) (l4 : Int32) (l5 : Int32) (l6 : Int32) (σ : Mem) : Runs G mX7_readGoat rhoV σ 293 [some (vR (some a0)), some (vL l1), none, some (vI l3), some (vI l4), some (vI l5), some (vI l6), none, none, none] [] (f_X7_readGoat_b293 N  a0 l1 l3 l4 l5 l6 σ) := by
  unfold f_X7_readGoat_b293
  refine r_aload_n (q := 294) dX7_readGoat_293 rfl rfl rfl ?_
  refine r_ob (fun a3 ha3 => ?_)
  obtain ⟨hea3, hka3⟩ := o_at_eq ha3
  cases hea3
  refine r_callV (q := 297) (c_X7_goesOn G h0 N _ _) (cl_V (ci := 6) rfl rfl (lw_V q2182 q2184 qs84 q176 q2185) (hd_X7_goesOn) ⟨Nat.le_of_ble_eq_true rfl, Nat.le_of_ble_eq_true rfl⟩ (List.mem_singleton.mp hka3) rfl rfl rfl (Nat.le_of_ble_eq_true rfl) dX7_readGoat_294) rfl (fun u1 σ2 => ?_)
  refine r_aload_n (q := 298) dX7_readGoat_297 rfl rfl rfl ?_
  refine r_ldcWS (q := 301) (tx := "at") (cd := 50) (List.mem_of_getElem? (i := 54) rfl) (by decide) dX7_readGoat_298 rfl ?_
  refine r_ob (fun a6 ha6 => ?_)
  obtain ⟨hea6, hka6⟩ := o_at_eq ha6
  cases hea6
  refine r_callV (q := 304) (c_X7_wants G h0 N _ _ _) (cl_V (ci := 6) rfl rfl (lw_V q2228 q2230 qs92 q176 q2231) (hd_X7_wants) ⟨Nat.le_of_ble_eq_true rfl, Nat.le_of_ble_eq_true rfl⟩ (List.mem_singleton.mp hka6) rfl rfl rfl (Nat.le_of_ble_eq_true rfl) dX7_readGoat_301) rfl (fun u4 σ5 => ?_)
  refine r_aload_n (q := 305) dX7_readGoat_304 rfl rfl rfl ?_
  refine r_iconst (q := 306) (v := (0 : Int32)) dX7_readGoat_305 rfl (by decide) ?_
  refine r_ob (fun a9 ha9 => ?_)
  obtain ⟨hea9, hka9⟩ := o_at_eq ha9
  cases hea9
  refine r_callI (q := 309) (c_X7_readKnown G h0 N _ _ _) (cl_V (ci := 6) rfl rfl (lw_V q2292 q2294 qs102 q176 q2295) (hd_X7_readKnown) ⟨Nat.le_of_ble_eq_true rfl, Nat.le_of_ble_eq_true rfl⟩ (List.mem_singleton.mp hka9) rfl rfl rfl (Nat.le_of_ble_eq_true rfl) dX7_readGoat_306) rfl (fun x7 σ8 => ?_)
  refine r_istore (q := 311) dX7_readGoat_309 rfl (Nat.le_of_ble_eq_true rfl) rfl ?_
  refine r_aload_n (q := 312) dX7_readGoat_311 rfl rfl rfl ?_
  refine r_ldcWS (q := 315) (tx := "trust") (cd := 52) (List.mem_of_getElem? (i := 55) rfl) (by decide) dX7_readGoat_312 rfl ?_
  refine r_iconst (q := 316) (v := (1 : Int32)) dX7_readGoat_315 rfl (by decide) ?_
  refine r_bipush (q := 318) (v := (9 : Int32)) dX7_readGoat_316 rfl (by decide) ?_
  refine r_ob (fun a12 ha12 => ?_)
  obtain ⟨hea12, hka12⟩ := o_at_eq ha12
  cases hea12
  refine r_callI (q := 321) (c_X7_readPart G h0 N _ _ _ _ _) (cl_V (ci := 6) rfl rfl (lw_V q2224 q2226 qs91 q176 q2227) (hd_X7_readPart) ⟨Nat.le_of_ble_eq_true rfl, Nat.le_of_ble_eq_true rfl⟩ (List.mem_singleton.mp hka12) rfl rfl rfl (Nat.le_of_ble_eq_true rfl) dX7_readGoat_318) rfl (fun x10 σ11 => ?_)
  refine r_istore (q := 323) dX7_readGoat_321 rfl (Nat.le_of_ble_eq_true rfl) rfl ?_
  refine r_aload_n (q := 324) dX7_readGoat_323 rfl rfl rfl ?_
  refine r_gI (q := 327) fl_X7_94 dX7_readGoat_324 rfl (fun x13 => ?_)
  refine r_iconst (q := 328) (v := (5 : Int32)) dX7_readGoat_327 rfl (by decide) ?_
  refine r_icmp_ne (q := 331) (t := 332) dX7_readGoat_328 rfl (by decide) (fun _ => ?_) (fun _ => ?_)
  · exact r_return rfl dX7_readGoat_331
  · refine r_aload_n (q := 333) dX7_readGoat_332 rfl rfl rfl ?_
    refine r_lload_n (q := 334) dX7_readGoat_333 rfl rfl rfl ?_
    refine r_iconst (q := 335) (v := (2 : Int32)) dX7_readGoat_334 rfl (by decide) ?_
    refine r_iload (q := 337) dX7_readGoat_335 rfl rfl ?_
    refine r_ob (fun a16 ha16 => ?_)
    obtain ⟨hea16, hka16⟩ := o_at_eq ha16
    cases hea16
    refine r_callV (q := 340) (c_X7_names G h0 N _ _ _ _ _) (cl_V (ci := 6) rfl rfl (lw_V q2284 q2286 qs100 q176 q2287) (hd_X7_names) ⟨Nat.le_of_ble_eq_true rfl, Nat.le_of_ble_eq_true rfl⟩ (List.mem_singleton.mp hka16) rfl rfl rfl (Nat.le_of_ble_eq_true rfl) dX7_readGoat_337) rfl (fun u14 σ15 => ?_)
    refine r_aload_n (q := 341) dX7_readGoat_340 rfl rfl rfl ?_
    refine r_gR (q := 344) fl_X7_192 rfl dX7_readGoat_341 rfl (fun x17 => ?_)
    refine r_gR (q := 347) fl_X7_347 rfl dX7_readGoat_344 rfl (fun x18 => ?_)
    refine r_iload (q := 349) dX7_readGoat_347 rfl rfl ?_
    refine r_iload_n (q := 350) dX7_readGoat_349 rfl rfl rfl ?_
    refine r_iastore (q := 351) dX7_readGoat_350 rfl (fun σ19 => ?_)
    refine r_aload_n (q := 352) dX7_readGoat_351 rfl rfl rfl ?_
    refine r_gR (q := 355) fl_X7_192 rfl dX7_readGoat_352 rfl (fun x20 => ?_)
    refine r_gR (q := 358) fl_X7_350 rfl dX7_readGoat_355 rfl (fun x21 => ?_)
    refine r_iload (q := 360) dX7_readGoat_358 rfl rfl ?_
    refine r_iload (q := 362) dX7_readGoat_360 rfl rfl ?_
    refine r_iastore (q := 363) dX7_readGoat_362 rfl (fun σ22 => ?_)
    refine r_aload_n (q := 364) dX7_readGoat_363 rfl rfl rfl ?_
    refine r_gR (q := 367) fl_X7_192 rfl dX7_readGoat_364 rfl (fun x23 => ?_)
    refine r_gR (q := 370) fl_X7_353 rfl dX7_readGoat_367 rfl (fun x24 => ?_)
    refine r_iload (q := 372) dX7_readGoat_370 rfl rfl ?_
    refine r_iload (q := 374) dX7_readGoat_372 rfl rfl ?_
    refine r_iastore (q := 375) dX7_readGoat_374 rfl (fun σ25 => ?_)
    refine r_aload_n (q := 376) dX7_readGoat_375 rfl rfl rfl ?_
    refine r_gR (q := 379) fl_X7_192 rfl dX7_readGoat_376 rfl (fun x26 => ?_)
    refine r_gR (q := 382) fl_X7_356 rfl dX7_readGoat_379 rfl (fun x27 => ?_)
    refine r_iload (q := 384) dX7_readGoat_382 rfl rfl ?_
    refine r_iload (q := 386) dX7_readGoat_384 rfl rfl ?_
    refine r_iastore (q := 387) dX7_readGoat_386 rfl (fun σ28 => ?_)
    refine r_aload_n (q := 388) dX7_readGoat_387 rfl rfl rfl ?_
    refine r_gR (q := 391) fl_X7_192 rfl dX7_readGoat_388 rfl (fun x29 => ?_)
    refine r_gR (q := 394) fl_X7_359 rfl dX7_readGoat_391 rfl (fun x30 => ?_)
    refine r_iload (q := 396) dX7_readGoat_394 rfl rfl ?_
    refine r_iload (q := 398) dX7_readGoat_396 rfl rfl ?_
    refine r_iastore (q := 399) dX7_readGoat_398 rfl (fun σ31 => ?_)
    refine r_aload_n (q := 400) dX7_readGoat_399 rfl rfl rfl ?_
    refine r_gR (q := 403) fl_X7_192 rfl dX7_readGoat_400 rfl (fun x32 => ?_)
    refine r_dup (q := 404) dX7_readGoat_403 rfl rfl ?_
    refine r_gI (q := 407) fl_X7_328 dX7_readGoat_404 rfl (fun x33 => ?_)
    refine r_iconst (q := 408) (v := (1 : Int32)) dX7_readGoat_407 rfl (by decide) ?_
    refine r_iadd (q := 409) dX7_readGoat_408 rfl ?_
    refine r_pI (q := 412) fp_X7_readGoat_328 dX7_readGoat_409 rfl (fun σ34 => ?_)
    exact r_return rfl dX7_readGoat_412
theorem w_X7_readGoat_b287 (G : Gx) (h0 : G0 G) (N : Nat) (K161 : Nat → Int64 → Int32 → Int32 → Int32 → Int32 → Int32 → Mem → Option (Unit × Mem)) (hK161 : ∀ (a0 : Nat) (l1 : Int64) (l3 : Int32) (l4 : Int32) (l5 : Int32) (l6 : Int32) (l7 : Int32) (σ : Mem), Runs G mX7_readGoat rhoV σ 161 [some (vR (some a0)), some (vL l1), none, some (vI l3), some (vI l4), some (vI l5), some (vI l6), some (vI l7), none, none] [] (K161 a0 l1 l3 l4 l5 l6 l7 σ)) (a0 : Nat) (l1 : Int64) (l3 : Int32) (l4 : Int32) (l5 : Int32) (l6 : Int32) (l7 : Int32) (σ : Mem) : Runs G mX7_readGoat rhoV σ 287 [some (vR (some a0)), some (vL l1), none, some (vI l3), some (vI l4), some (vI l5), some (vI l6), some (vI l7), none, none] [] (f_X7_readGoat_b287 N K161 a0 l1 l3 l4 l5 l6 l7 σ) := by
  unfold f_X7_readGoat_b287
  refine r_iinc (q := 290) (v := (1 : Int32)) dX7_readGoat_287 rfl rfl (by decide) (Nat.le_of_ble_eq_true rfl) rfl ?_
  refine r_goto (q := 161) dX7_readGoat_290 (by decide) ?_
  exact r_le (hK161 _ _ _ _ _ _ _ _) (Nat.le_refl _) (And.intro rfl (And.intro rfl (And.intro rfl (And.intro rfl (And.intro rfl (And.intro rfl (And.intro rfl trivial)))))))
theorem w_X7_readGoat_b240 (G : Gx) (h0 : G0 G) (N : Nat) (K161 : Nat → Int64 → Int32 → Int32 → Int32 → Int32 → Int32 → Mem → Option (Unit × Mem)) (K206 : Nat → Int64 → Int32 → Int32 → Int32 → Int32 → Int32 → Int32 → Int32 → Mem → Option (Unit × Mem)) (hK161 : ∀ (a0 : Nat) (l1 : Int64) (l3 : Int32) (l4 : Int32) (l5 : Int32) (l6 : Int32) (l7 : Int32) (σ : Mem), Runs G mX7_readGoat rhoV σ 161 [some (vR (some a0)), some (vL l1), none, some (vI l3), some (vI l4), some (vI l5), some (vI l6), some (vI l7), none, none] [] (K161 a0 l1 l3 l4 l5 l6 l7 σ)) (hK206 : ∀ (a0 : Nat) (l1 : Int64) (l3 : Int32) (l4 : Int32) (l5 : Int32) (l6 : Int32) (l7 : Int32) (l8 : Int32) (l9 : Int32) (σ : Mem), Runs G mX7_readGoat rhoV σ 206 [some (vR (some a0)), some (vL l1), none, some (vI l3), some (vI l4), some (vI l5), some (vI l6), some (vI l7), some (vI l8), some (vI l9)] [] (K206 a0 l1 l3 l4 l5 l6 l7 l8 l9 σ)) (a0 : Nat) (l1 : Int64) (l3 : Int32) (l4 : Int32) (l5 : Int32) (l6 : Int32) (l7 : Int32) (l9 : Int32) (t0 : Int32) (σ : Mem) : Runs G mX7_readGoat rhoV σ 240 [some (vR (some a0)), some (vL l1), none, some (vI l3), some (vI l4), some (vI l5), some (vI l6), some (vI l7), none, some (vI l9)] [vI t0] (f_X7_readGoat_b240 N K161 K206 a0 l1 l3 l4 l5 l6 l7 l9 t0 σ) := by
  unfold f_X7_readGoat_b240
  refine r_istore (q := 242) dX7_readGoat_240 rfl (Nat.le_of_ble_eq_true rfl) rfl ?_
  refine r_iinc (q := 245) (v := (1 : Int32)) dX7_readGoat_242 rfl rfl (by decide) (Nat.le_of_ble_eq_true rfl) rfl ?_
  refine r_goto (q := 206) dX7_readGoat_245 (by decide) ?_
  exact r_le (hK206 _ _ _ _ _ _ _ _ _ _) (Nat.le_refl _) (And.intro rfl (And.intro rfl (And.intro rfl (And.intro rfl (And.intro rfl (And.intro rfl (And.intro rfl (And.intro rfl (And.intro rfl trivial)))))))))
theorem w_X7_readGoat_b239 (G : Gx) (h0 : G0 G) (N : Nat) (K161 : Nat → Int64 → Int32 → Int32 → Int32 → Int32 → Int32 → Mem → Option (Unit × Mem)) (K206 : Nat → Int64 → Int32 → Int32 → Int32 → Int32 → Int32 → Int32 → Int32 → Mem → Option (Unit × Mem)) (hK161 : ∀ (a0 : Nat) (l1 : Int64) (l3 : Int32) (l4 : Int32) (l5 : Int32) (l6 : Int32) (l7 : Int32) (σ : Mem), Runs G mX7_readGoat rhoV σ 161 [some (vR (some a0)), some (vL l1), none, some (vI l3), some (vI l4), some (vI l5), some (vI l6), some (vI l7), none, none] [] (K161 a0 l1 l3 l4 l5 l6 l7 σ)) (hK206 : ∀ (a0 : Nat) (l1 : Int64) (l3 : Int32) (l4 : Int32) (l5 : Int32) (l6 : Int32) (l7 : Int32) (l8 : Int32) (l9 : Int32) (σ : Mem), Runs G mX7_readGoat rhoV σ 206 [some (vR (some a0)), some (vL l1), none, some (vI l3), some (vI l4), some (vI l5), some (vI l6), some (vI l7), some (vI l8), some (vI l9)] [] (K206 a0 l1 l3 l4 l5 l6 l7 l8 l9 σ)) (a0 : Nat) (l1 : Int64) (l3 : Int32) (l4 : Int32) (l5 : Int32) (l6 : Int32) (l7 : Int32) (l9 : Int32) (σ : Mem) : Runs G mX7_readGoat rhoV σ 239 [some (vR (some a0)), some (vL l1), none, some (vI l3), some (vI l4), some (vI l5), some (vI l6), some (vI l7), none, some (vI l9)] [] (f_X7_readGoat_b239 N K161 K206 a0 l1 l3 l4 l5 l6 l7 l9 σ) := by
  unfold f_X7_readGoat_b239
  refine r_iconst (q := 240) (v := (0 : Int32)) dX7_readGoat_239 rfl (by decide) ?_
  exact r_le (w_X7_readGoat_b240 G h0 N K161 K206 hK161 hK206 _ _ _ _ _ _ _ _ _ _) (Nat.le_refl _) (And.intro rfl (And.intro rfl (And.intro rfl (And.intro rfl (And.intro rfl (And.intro rfl (And.intro rfl (And.intro rfl trivial))))))))
theorem w_X7_readGoat_b206B (G : Gx) (h0 : G0 G) (N : Nat) (K161 : Nat → Int64 → Int32 → Int32 → Int32 → Int32 → Int32 → Mem → Option (Unit × Mem)) (hK161 : ∀ (a0 : Nat) (l1 : Int64) (l3 : Int32) (l4 : Int32) (l5 : Int32) (l6 : Int32) (l7 : Int32) (σ : Mem), Runs G mX7_readGoat rhoV σ 161 [some (vR (some a0)), some (vL l1), none, some (vI l3), some (vI l4), some (vI l5), some (vI l6), some (vI l7), none, none] [] (K161 a0 l1 l3 l4 l5 l6 l7 σ)) (K206 : Nat → Int64 → Int32 → Int32 → Int32 → Int32 → Int32 → Int32 → Int32 → Mem → Option (Unit × Mem)) (hK206 : ∀ (a0 : Nat) (l1 : Int64) (l3 : Int32) (l4 : Int32) (l5 : Int32) (l6 : Int32) (l7 : Int32) (l8 : Int32) (l9 : Int32) (σ : Mem), Runs G mX7_readGoat rhoV σ 206 [some (vR (some a0)), some (vL l1), none, some (vI l3), some (vI l4), some (vI l5), some (vI l6), some (vI l7), some (vI l8), some (vI l9)] [] (K206 a0 l1 l3 l4 l5 l6 l7 l8 l9 σ)) (a0 : Nat) (l1 : Int64) (l3 : Int32) (l4 : Int32) (l5 : Int32) (l6 : Int32) (l7 : Int32) (l8 : Int32) (l9 : Int32) (σ : Mem) : Runs G mX7_readGoat rhoV σ 206 [some (vR (some a0)), some (vL l1), none, some (vI l3), some (vI l4), some (vI l5), some (vI l6), some (vI l7), some (vI l8), some (vI l9)] [] (f_X7_readGoat_b206B N K161 K206 a0 l1 l3 l4 l5 l6 l7 l8 l9 σ) := by
  unfold f_X7_readGoat_b206B
  refine r_iload (q := 208) dX7_readGoat_206 rfl rfl ?_
  refine r_iload (q := 210) dX7_readGoat_208 rfl rfl ?_
  refine r_icmp_ge (q := 213) (t := 248) dX7_readGoat_210 rfl (by decide) (fun _ => ?_) (fun _ => ?_)
  · refine r_iload (q := 250) dX7_readGoat_248 rfl rfl ?_
    refine r_if_eq (q := 253) (t := 281) dX7_readGoat_250 rfl (by decide) (fun _ => ?_) (fun _ => ?_)
    · refine r_aload_n (q := 282) dX7_readGoat_281 rfl rfl rfl ?_
      refine r_bipush (q := 284) (v := (7 : Int32)) dX7_readGoat_282 rfl (by decide) ?_
      refine r_ob (fun a3 ha3 => ?_)
      obtain ⟨hea3, hka3⟩ := o_at_eq ha3
      cases hea3
      refine r_callV (q := 287) (c_X7_flaw G h0 N _ _ _) (cl_V (ci := 6) rfl rfl (lw_V q2219 q2221 qs90 q176 q2222) (hd_X7_flaw) ⟨Nat.le_of_ble_eq_true rfl, Nat.le_of_ble_eq_true rfl⟩ (List.mem_singleton.mp hka3) rfl rfl rfl (Nat.le_of_ble_eq_true rfl) dX7_readGoat_284) rfl (fun u1 σ2 => ?_)
      exact r_le (w_X7_readGoat_b287 G h0 N K161 hK161 _ _ _ _ _ _ _ _) (Nat.le_refl _) (And.intro rfl (And.intro rfl (And.intro rfl (And.intro rfl (And.intro rfl (And.intro rfl (And.intro rfl trivial)))))))
    · refine r_aload_n (q := 254) dX7_readGoat_253 rfl rfl rfl ?_
      refine r_gR (q := 257) fl_X7_192 rfl dX7_readGoat_254 rfl (fun x4 => ?_)
      refine r_gR (q := 260) fl_X7_341 rfl dX7_readGoat_257 rfl (fun x5 => ?_)
      refine r_iconst (q := 261) (v := (4 : Int32)) dX7_readGoat_260 rfl (by decide) ?_
      refine r_iload (q := 263) dX7_readGoat_261 rfl rfl ?_
      refine r_imul (q := 264) dX7_readGoat_263 rfl ?_
      refine r_iload (q := 266) dX7_readGoat_264 rfl rfl ?_
      refine r_iadd (q := 267) dX7_readGoat_266 rfl ?_
      refine r_aload_n (q := 268) dX7_readGoat_267 rfl rfl rfl ?_
      refine r_gR (q := 271) fl_X7_17 rfl dX7_readGoat_268 rfl (fun x6 => ?_)
      refine r_iload (q := 273) dX7_readGoat_271 rfl rfl ?_
      refine r_iaload (q := 274) dX7_readGoat_273 rfl (fun x7 => ?_)
      refine r_bipush (q := 276) (v := (97 : Int32)) dX7_readGoat_274 rfl (by decide) ?_
      refine r_isub (q := 277) dX7_readGoat_276 rfl ?_
      refine r_iastore (q := 278) dX7_readGoat_277 rfl (fun σ8 => ?_)
      refine r_goto (q := 287) dX7_readGoat_278 (by decide) ?_
      exact r_le (w_X7_readGoat_b287 G h0 N K161 hK161 _ _ _ _ _ _ _ _) (Nat.le_refl _) (And.intro rfl (And.intro rfl (And.intro rfl (And.intro rfl (And.intro rfl (And.intro rfl (And.intro rfl trivial)))))))
  · refine r_iload (q := 215) dX7_readGoat_213 rfl rfl ?_
    refine r_if_eq (q := 218) (t := 239) dX7_readGoat_215 rfl (by decide) (fun _ => ?_) (fun _ => ?_)
    · exact r_le (w_X7_readGoat_b239 G h0 N K161 K206 hK161 hK206 _ _ _ _ _ _ _ _ _) (Nat.le_refl _) (And.intro rfl (And.intro rfl (And.intro rfl (And.intro rfl (And.intro rfl (And.intro rfl (And.intro rfl (And.intro rfl trivial))))))))
    · refine r_aload_n (q := 219) dX7_readGoat_218 rfl rfl rfl ?_
      refine r_gR (q := 222) fl_X7_17 rfl dX7_readGoat_219 rfl (fun x9 => ?_)
      refine r_iload (q := 224) dX7_readGoat_222 rfl rfl ?_
      refine r_iaload (q := 225) dX7_readGoat_224 rfl (fun x10 => ?_)
      refine r_aload_n (q := 226) dX7_readGoat_225 rfl rfl rfl ?_
      refine r_gR (q := 229) fl_X7_17 rfl dX7_readGoat_226 rfl (fun x11 => ?_)
      refine r_iload (q := 231) dX7_readGoat_229 rfl rfl ?_
      refine r_iaload (q := 232) dX7_readGoat_231 rfl (fun x12 => ?_)
      refine r_icmp_eq (q := 235) (t := 239) dX7_readGoat_232 rfl (by decide) (fun _ => ?_) (fun _ => ?_)
      · exact r_le (w_X7_readGoat_b239 G h0 N K161 K206 hK161 hK206 _ _ _ _ _ _ _ _ _) (Nat.le_refl _) (And.intro rfl (And.intro rfl (And.intro rfl (And.intro rfl (And.intro rfl (And.intro rfl (And.intro rfl (And.intro rfl trivial))))))))
      · refine r_iconst (q := 236) (v := (1 : Int32)) dX7_readGoat_235 rfl (by decide) ?_
        refine r_goto (q := 240) dX7_readGoat_236 (by decide) ?_
        exact r_le (w_X7_readGoat_b240 G h0 N K161 K206 hK161 hK206 _ _ _ _ _ _ _ _ _ _) (Nat.le_refl _) (And.intro rfl (And.intro rfl (And.intro rfl (And.intro rfl (And.intro rfl (And.intro rfl (And.intro rfl (And.intro rfl trivial))))))))
theorem w_X7_readGoat_b206 (G : Gx) (h0 : G0 G) (N : Nat) (K161 : Nat → Int64 → Int32 → Int32 → Int32 → Int32 → Int32 → Mem → Option (Unit × Mem)) (hK161 : ∀ (a0 : Nat) (l1 : Int64) (l3 : Int32) (l4 : Int32) (l5 : Int32) (l6 : Int32) (l7 : Int32) (σ : Mem), Runs G mX7_readGoat rhoV σ 161 [some (vR (some a0)), some (vL l1), none, some (vI l3), some (vI l4), some (vI l5), some (vI l6), some (vI l7), none, none] [] (K161 a0 l1 l3 l4 l5 l6 l7 σ)) : ∀ (z : Nat) (a0 : Nat) (l1 : Int64) (l3 : Int32) (l4 : Int32) (l5 : Int32) (l6 : Int32) (l7 : Int32) (l8 : Int32) (l9 : Int32) (σ : Mem), Runs G mX7_readGoat rhoV σ 206 [some (vR (some a0)), some (vL l1), none, some (vI l3), some (vI l4), some (vI l5), some (vI l6), some (vI l7), some (vI l8), some (vI l9)] [] (f_X7_readGoat_b206 N K161 z a0 l1 l3 l4 l5 l6 l7 l8 l9 σ) := by
  intro z
  induction z with
  | zero => exact fun _ _ _ _ _ _ _ _ _ _ => r_none
  | succ z ih => exact fun a0 l1 l3 l4 l5 l6 l7 l8 l9 σ => w_X7_readGoat_b206B G h0 N K161 hK161 _ ih a0 l1 l3 l4 l5 l6 l7 l8 l9 σ
theorem w_X7_readGoat_b161B (G : Gx) (h0 : G0 G) (N : Nat)   (K161 : Nat → Int64 → Int32 → Int32 → Int32 → Int32 → Int32 → Mem → Option (Unit × Mem)) (hK161 : ∀ (a0 : Nat) (l1 : Int64) (l3 : Int32) (l4 : Int32) (l5 : Int32) (l6 : Int32) (l7 : Int32) (σ : Mem), Runs G mX7_readGoat rhoV σ 161 [some (vR (some a0)), some (vL l1), none, some (vI l3), some (vI l4), some (vI l5), some (vI l6), some (vI l7), none, none] [] (K161 a0 l1 l3 l4 l5 l6 l7 σ)) (a0 : Nat) (l1 : Int64) (l3 : Int32) (l4 : Int32) (l5 : Int32) (l6 : Int32) (l7 : Int32) (σ : Mem) : Runs G mX7_readGoat rhoV σ 161 [some (vR (some a0)), some (vL l1), none, some (vI l3), some (vI l4), some (vI l5), some (vI l6), some (vI l7), none, none] [] (f_X7_readGoat_b161B N  K161 a0 l1 l3 l4 l5 l6 l7 σ) := by
  unfold f_X7_readGoat_b161B
  refine r_aload_n (q := 162) dX7_readGoat_161 rfl rfl rfl ?_
  refine r_gI (q := 165) fl_X7_94 dX7_readGoat_162 rfl (fun x1 => ?_)
  refine r_iconst (q := 166) (v := (5 : Int32)) dX7_readGoat_165 rfl (by decide) ?_
  refine r_icmp_eq (q := 169) (t := 293) dX7_readGoat_166 rfl (by decide) (fun _ => ?_) (fun _ => ?_)
  · exact r_le (w_X7_readGoat_b293 G h0 N _ _ _ _ _ _ _) (Nat.le_refl _) (And.intro rfl (And.intro rfl (And.intro rfl (And.intro rfl (And.intro rfl (And.intro rfl trivial))))))
  · refine r_iload (q := 171) dX7_readGoat_169 rfl rfl ?_
    refine r_aload_n (q := 172) dX7_readGoat_171 rfl rfl rfl ?_
    refine r_gI (q := 175) fl_X7_117 dX7_readGoat_172 rfl (fun x2 => ?_)
    refine r_icmp_ge (q := 178) (t := 293) dX7_readGoat_175 rfl (by decide) (fun _ => ?_) (fun _ => ?_)
    · exact r_le (w_X7_readGoat_b293 G h0 N _ _ _ _ _ _ _) (Nat.le_refl _) (And.intro rfl (And.intro rfl (And.intro rfl (And.intro rfl (And.intro rfl (And.intro rfl trivial))))))
    · refine r_aload_n (q := 179) dX7_readGoat_178 rfl rfl rfl ?_
      refine r_gR (q := 182) fl_X7_17 rfl dX7_readGoat_179 rfl (fun x3 => ?_)
      refine r_iload (q := 184) dX7_readGoat_182 rfl rfl ?_
      refine r_iaload (q := 185) dX7_readGoat_184 rfl (fun x4 => ?_)
      refine r_bipush (q := 187) (v := (97 : Int32)) dX7_readGoat_185 rfl (by decide) ?_
      refine r_isub (q := 188) dX7_readGoat_187 rfl ?_
      refine r_iconst (q := 189) (v := (0 : Int32)) dX7_readGoat_188 rfl (by decide) ?_
      refine r_aload_n (q := 190) dX7_readGoat_189 rfl rfl rfl ?_
      refine r_gR (q := 193) fl_X7_192 rfl dX7_readGoat_190 rfl (fun x5 => ?_)
      refine r_gI (q := 196) fl_X7_229 dX7_readGoat_193 rfl (fun x6 => ?_)
      refine r_iconst (q := 197) (v := (1 : Int32)) dX7_readGoat_196 rfl (by decide) ?_
      refine r_isub (q := 198) dX7_readGoat_197 rfl ?_
      refine r_callI (q := 201) (c_X7_within G h0 N _ _ _ _) (cl_S rfl rfl (lw_S q2236 q2237 q176 q2238) (hd_X7_within) ⟨Nat.le_of_ble_eq_true rfl, Nat.le_of_ble_eq_true rfl⟩ rfl (Nat.le_of_ble_eq_true rfl) dX7_readGoat_198) rfl (fun x7 σ8 => ?_)
      refine r_istore (q := 203) dX7_readGoat_201 rfl (Nat.le_of_ble_eq_true rfl) rfl ?_
      refine r_iconst (q := 204) (v := (0 : Int32)) dX7_readGoat_203 rfl (by decide) ?_
      refine r_istore (q := 206) dX7_readGoat_204 rfl (Nat.le_of_ble_eq_true rfl) rfl ?_
      exact r_le (w_X7_readGoat_b206 G h0 N K161 hK161 N _ _ _ _ _ _ _ _ _ _) (Nat.le_refl _) (And.intro rfl (And.intro rfl (And.intro rfl (And.intro rfl (And.intro rfl (And.intro rfl (And.intro rfl (And.intro rfl (And.intro rfl trivial)))))))))
theorem w_X7_readGoat_b161 (G : Gx) (h0 : G0 G) (N : Nat)   : ∀ (z : Nat) (a0 : Nat) (l1 : Int64) (l3 : Int32) (l4 : Int32) (l5 : Int32) (l6 : Int32) (l7 : Int32) (σ : Mem), Runs G mX7_readGoat rhoV σ 161 [some (vR (some a0)), some (vL l1), none, some (vI l3), some (vI l4), some (vI l5), some (vI l6), some (vI l7), none, none] [] (f_X7_readGoat_b161 N  z a0 l1 l3 l4 l5 l6 l7 σ) := by
  intro z
  induction z with
  | zero => exact fun _ _ _ _ _ _ _ _ => r_none
  | succ z ih => exact fun a0 l1 l3 l4 l5 l6 l7 σ => w_X7_readGoat_b161B G h0 N   _ ih a0 l1 l3 l4 l5 l6 l7 σ
theorem w_X7_readGoat_b150 (G : Gx) (h0 : G0 G) (N : Nat)   (a0 : Nat) (l1 : Int64) (l3 : Int32) (l4 : Int32) (t0 : Int32) (σ : Mem) : Runs G mX7_readGoat rhoV σ 150 [some (vR (some a0)), some (vL l1), none, some (vI l3), some (vI l4), none, none, none, none, none] [vI t0] (f_X7_readGoat_b150 N  a0 l1 l3 l4 t0 σ) := by
  unfold f_X7_readGoat_b150
  refine r_istore (q := 152) dX7_readGoat_150 rfl (Nat.le_of_ble_eq_true rfl) rfl ?_
  refine r_aload_n (q := 153) dX7_readGoat_152 rfl rfl rfl ?_
  refine r_gI (q := 156) fl_X7_117 dX7_readGoat_153 rfl (fun x1 => ?_)
  refine r_istore (q := 158) dX7_readGoat_156 rfl (Nat.le_of_ble_eq_true rfl) rfl ?_
  refine r_iconst (q := 159) (v := (0 : Int32)) dX7_readGoat_158 rfl (by decide) ?_
  refine r_istore (q := 161) dX7_readGoat_159 rfl (Nat.le_of_ble_eq_true rfl) rfl ?_
  exact r_le (w_X7_readGoat_b161 G h0 N N _ _ _ _ _ _ _ _) (Nat.le_refl _) (And.intro rfl (And.intro rfl (And.intro rfl (And.intro rfl (And.intro rfl (And.intro rfl (And.intro rfl trivial)))))))
theorem w_X7_readGoat_b127 (G : Gx) (h0 : G0 G) (N : Nat)   (a0 : Nat) (l1 : Int64) (l3 : Int32) (l4 : Int32) (σ : Mem) : Runs G mX7_readGoat rhoV σ 127 [some (vR (some a0)), some (vL l1), none, some (vI l3), some (vI l4), none, none, none, none, none] [] (f_X7_readGoat_b127 N  a0 l1 l3 l4 σ) := by
  unfold f_X7_readGoat_b127
  refine r_aload_n (q := 128) dX7_readGoat_127 rfl rfl rfl ?_
  refine r_gR (q := 131) fl_X7_192 rfl dX7_readGoat_128 rfl (fun x1 => ?_)
  refine r_gI (q := 134) fl_X7_328 dX7_readGoat_131 rfl (fun x2 => ?_)
  refine r_bipush (q := 136) (v := (6 : Int32)) dX7_readGoat_134 rfl (by decide) ?_
  refine r_icmp_ge (q := 139) (t := 149) dX7_readGoat_136 rfl (by decide) (fun _ => ?_) (fun _ => ?_)
  · refine r_iconst (q := 150) (v := (0 : Int32)) dX7_readGoat_149 rfl (by decide) ?_
    exact r_le (w_X7_readGoat_b150 G h0 N _ _ _ _ _ _) (Nat.le_refl _) (And.intro rfl (And.intro rfl (And.intro rfl (And.intro rfl trivial))))
  · refine r_aload_n (q := 140) dX7_readGoat_139 rfl rfl rfl ?_
    refine r_gR (q := 143) fl_X7_192 rfl dX7_readGoat_140 rfl (fun x3 => ?_)
    refine r_gI (q := 146) fl_X7_328 dX7_readGoat_143 rfl (fun x4 => ?_)
    refine r_goto (q := 150) dX7_readGoat_146 (by decide) ?_
    exact r_le (w_X7_readGoat_b150 G h0 N _ _ _ _ _ _) (Nat.le_refl _) (And.intro rfl (And.intro rfl (And.intro rfl (And.intro rfl trivial))))
theorem w_X7_readGoat_b105 (G : Gx) (h0 : G0 G) (N : Nat)   (a0 : Nat) (l1 : Int64) (l3 : Int32) (t0 : Int32) (σ : Mem) : Runs G mX7_readGoat rhoV σ 105 [some (vR (some a0)), some (vL l1), none, some (vI l3), none, none, none, none, none, none] [vI t0] (f_X7_readGoat_b105 N  a0 l1 l3 t0 σ) := by
  unfold f_X7_readGoat_b105
  refine r_istore (q := 107) dX7_readGoat_105 rfl (Nat.le_of_ble_eq_true rfl) rfl ?_
  refine r_aload_n (q := 108) dX7_readGoat_107 rfl rfl rfl ?_
  refine r_ldcWS (q := 111) (tx := "likes") (cd := 48) (List.mem_of_getElem? (i := 53) rfl) (by decide) dX7_readGoat_108 rfl ?_
  refine r_ob (fun a3 ha3 => ?_)
  obtain ⟨hea3, hka3⟩ := o_at_eq ha3
  cases hea3
  refine r_callV (q := 114) (c_X7_wants G h0 N _ _ _) (cl_V (ci := 6) rfl rfl (lw_V q2228 q2230 qs92 q176 q2231) (hd_X7_wants) ⟨Nat.le_of_ble_eq_true rfl, Nat.le_of_ble_eq_true rfl⟩ (List.mem_singleton.mp hka3) rfl rfl rfl (Nat.le_of_ble_eq_true rfl) dX7_readGoat_111) rfl (fun u1 σ2 => ?_)
  refine r_aload_n (q := 115) dX7_readGoat_114 rfl rfl rfl ?_
  refine r_gI (q := 118) fl_X7_94 dX7_readGoat_115 rfl (fun x4 => ?_)
  refine r_iconst (q := 119) (v := (2 : Int32)) dX7_readGoat_118 rfl (by decide) ?_
  refine r_icmp_eq (q := 122) (t := 127) dX7_readGoat_119 rfl (by decide) (fun _ => ?_) (fun _ => ?_)
  · exact r_le (w_X7_readGoat_b127 G h0 N _ _ _ _ _) (Nat.le_refl _) (And.intro rfl (And.intro rfl (And.intro rfl (And.intro rfl trivial))))
  · refine r_aload_n (q := 123) dX7_readGoat_122 rfl rfl rfl ?_
    refine r_iconst (q := 124) (v := (1 : Int32)) dX7_readGoat_123 rfl (by decide) ?_
    refine r_ob (fun a7 ha7 => ?_)
    obtain ⟨hea7, hka7⟩ := o_at_eq ha7
    cases hea7
    refine r_callV (q := 127) (c_X7_flaw G h0 N _ _ _) (cl_V (ci := 6) rfl rfl (lw_V q2219 q2221 qs90 q176 q2222) (hd_X7_flaw) ⟨Nat.le_of_ble_eq_true rfl, Nat.le_of_ble_eq_true rfl⟩ (List.mem_singleton.mp hka7) rfl rfl rfl (Nat.le_of_ble_eq_true rfl) dX7_readGoat_124) rfl (fun u5 σ6 => ?_)
    exact r_le (w_X7_readGoat_b127 G h0 N _ _ _ _ _) (Nat.le_refl _) (And.intro rfl (And.intro rfl (And.intro rfl (And.intro rfl trivial))))
theorem w_X7_readGoat_b86 (G : Gx) (h0 : G0 G) (N : Nat)   (a0 : Nat) (l1 : Int64) (l3 : Int32) (σ : Mem) : Runs G mX7_readGoat rhoV σ 86 [some (vR (some a0)), some (vL l1), none, some (vI l3), none, none, none, none, none, none] [] (f_X7_readGoat_b86 N  a0 l1 l3 σ) := by
  unfold f_X7_readGoat_b86
  refine r_aload_n (q := 87) dX7_readGoat_86 rfl rfl rfl ?_
  refine r_ob (fun a3 ha3 => ?_)
  obtain ⟨hea3, hka3⟩ := o_at_eq ha3
  cases hea3
  refine r_callV (q := 90) (c_X7_goesOn G h0 N _ _) (cl_V (ci := 6) rfl rfl (lw_V q2182 q2184 qs84 q176 q2185) (hd_X7_goesOn) ⟨Nat.le_of_ble_eq_true rfl, Nat.le_of_ble_eq_true rfl⟩ (List.mem_singleton.mp hka3) rfl rfl rfl (Nat.le_of_ble_eq_true rfl) dX7_readGoat_87) rfl (fun u1 σ2 => ?_)
  refine r_iload_n (q := 91) dX7_readGoat_90 rfl rfl rfl ?_
  refine r_iconst (q := 92) (v := (3 : Int32)) dX7_readGoat_91 rfl (by decide) ?_
  refine r_icmp_ne (q := 95) (t := 103) dX7_readGoat_92 rfl (by decide) (fun _ => ?_) (fun _ => ?_)
  · refine r_aload_n (q := 96) dX7_readGoat_95 rfl rfl rfl ?_
    refine r_iconst (q := 97) (v := (2 : Int32)) dX7_readGoat_96 rfl (by decide) ?_
    refine r_ob (fun a6 ha6 => ?_)
    obtain ⟨hea6, hka6⟩ := o_at_eq ha6
    cases hea6
    refine r_callI (q := 100) (c_X7_readKnown G h0 N _ _ _) (cl_V (ci := 6) rfl rfl (lw_V q2292 q2294 qs102 q176 q2295) (hd_X7_readKnown) ⟨Nat.le_of_ble_eq_true rfl, Nat.le_of_ble_eq_true rfl⟩ (List.mem_singleton.mp hka6) rfl rfl rfl (Nat.le_of_ble_eq_true rfl) dX7_readGoat_97) rfl (fun x4 σ5 => ?_)
    refine r_goto (q := 105) dX7_readGoat_100 (by decide) ?_
    exact r_le (w_X7_readGoat_b105 G h0 N _ _ _ _ _) (Nat.le_refl _) (And.intro rfl (And.intro rfl (And.intro rfl trivial)))
  · refine r_bipush (q := 105) (v := (-2 : Int32)) dX7_readGoat_103 rfl (by decide) ?_
    exact r_le (w_X7_readGoat_b105 G h0 N _ _ _ _ _) (Nat.le_refl _) (And.intro rfl (And.intro rfl (And.intro rfl trivial)))
theorem w_X7_readGoat_b75 (G : Gx) (h0 : G0 G) (N : Nat)   (a0 : Nat) (l1 : Int64) (t0 : Int32) (σ : Mem) : Runs G mX7_readGoat rhoV σ 75 [some (vR (some a0)), some (vL l1), none, none, none, none, none, none, none, none] [vI t0] (f_X7_readGoat_b75 N  a0 l1 t0 σ) := by
  unfold f_X7_readGoat_b75
  refine r_istore_n (q := 76) dX7_readGoat_75 rfl rfl (Nat.le_of_ble_eq_true rfl) rfl ?_
  refine r_iload_n (q := 77) dX7_readGoat_76 rfl rfl rfl ?_
  refine r_iconst (q := 78) (v := (-1 : Int32)) dX7_readGoat_77 rfl (by decide) ?_
  refine r_icmp_ne (q := 81) (t := 86) dX7_readGoat_78 rfl (by decide) (fun _ => ?_) (fun _ => ?_)
  · refine r_aload_n (q := 82) dX7_readGoat_81 rfl rfl rfl ?_
    refine r_iconst (q := 83) (v := (1 : Int32)) dX7_readGoat_82 rfl (by decide) ?_
    refine r_ob (fun a3 ha3 => ?_)
    obtain ⟨hea3, hka3⟩ := o_at_eq ha3
    cases hea3
    refine r_callV (q := 86) (c_X7_flaw G h0 N _ _ _) (cl_V (ci := 6) rfl rfl (lw_V q2219 q2221 qs90 q176 q2222) (hd_X7_flaw) ⟨Nat.le_of_ble_eq_true rfl, Nat.le_of_ble_eq_true rfl⟩ (List.mem_singleton.mp hka3) rfl rfl rfl (Nat.le_of_ble_eq_true rfl) dX7_readGoat_83) rfl (fun u1 σ2 => ?_)
    exact r_le (w_X7_readGoat_b86 G h0 N _ _ _ _) (Nat.le_refl _) (And.intro rfl (And.intro rfl (And.intro rfl trivial)))
  · exact r_le (w_X7_readGoat_b86 G h0 N _ _ _ _) (Nat.le_refl _) (And.intro rfl (And.intro rfl (And.intro rfl trivial)))
theorem c_X7_readGoat (G : Gx) (h0 : G0 G) (N : Nat) (a0 : Nat) (σ : Mem) : Ct G mX7_readGoat rhoV [vR (some a0)] σ (f_X7_readGoat N a0 σ) := by
  refine Ct_of h0 (by decide) rfl (Nat.le_of_ble_eq_true rfl) (L0 := [some (vR (some a0)), none, none, none, none, none, none, none, none, none]) rfl ?_
  unfold f_X7_readGoat
  refine r_aload_n (q := 1) dX7_readGoat_0 rfl rfl rfl ?_
  refine r_aload_n (q := 2) dX7_readGoat_1 rfl rfl rfl ?_
  refine r_gR (q := 5) fl_X7_192 rfl dX7_readGoat_2 rfl (fun x1 => ?_)
  refine r_gI (q := 8) fl_X7_328 dX7_readGoat_5 rfl (fun x2 => ?_)
  refine r_bipush (q := 10) (v := (6 : Int32)) dX7_readGoat_8 rfl (by decide) ?_
  refine r_ob (fun a5 ha5 => ?_)
  obtain ⟨hea5, hka5⟩ := o_at_eq ha5
  cases hea5
  refine r_callV (q := 13) (c_X7_begins G h0 N _ _ _ _) (cl_V (ci := 6) rfl rfl (lw_V q2245 q2247 qs95 q176 q2248) (hd_X7_begins) ⟨Nat.le_of_ble_eq_true rfl, Nat.le_of_ble_eq_true rfl⟩ (List.mem_singleton.mp hka5) rfl rfl rfl (Nat.le_of_ble_eq_true rfl) dX7_readGoat_10) rfl (fun u3 σ4 => ?_)
  refine r_aload_n (q := 14) dX7_readGoat_13 rfl rfl rfl ?_
  refine r_ob (fun a8 ha8 => ?_)
  obtain ⟨hea8, hka8⟩ := o_at_eq ha8
  cases hea8
  refine r_callL (q := 17) (c_X7_readFresh G h0 N _ _) (cl_V (ci := 6) rfl rfl (lw_V q2249 q2251 qs96 q176 q2252) (hd_X7_readFresh) ⟨Nat.le_of_ble_eq_true rfl, Nat.le_of_ble_eq_true rfl⟩ (List.mem_singleton.mp hka8) rfl rfl rfl (Nat.le_of_ble_eq_true rfl) dX7_readGoat_14) rfl (fun y6 σ7 => ?_)
  refine r_lstore_n (q := 18) dX7_readGoat_17 rfl rfl (Nat.le_of_ble_eq_true rfl) rfl ?_
  refine r_aload_n (q := 19) dX7_readGoat_18 rfl rfl rfl ?_
  refine r_ldcWS (q := 22) (tx := "plain") (cd := 40) (List.mem_of_getElem? (i := 49) rfl) (by decide) dX7_readGoat_19 rfl ?_
  refine r_ob (fun a11 ha11 => ?_)
  obtain ⟨hea11, hka11⟩ := o_at_eq ha11
  cases hea11
  refine r_callI (q := 25) (c_X7_isWord G h0 N _ _ _) (cl_V (ci := 6) rfl rfl (lw_V q2206 q2208 qs88 q176 q2209) (hd_X7_isWord) ⟨Nat.le_of_ble_eq_true rfl, Nat.le_of_ble_eq_true rfl⟩ (List.mem_singleton.mp hka11) rfl rfl rfl (Nat.le_of_ble_eq_true rfl) dX7_readGoat_22) rfl (fun x9 σ10 => ?_)
  refine r_if_eq (q := 28) (t := 32) dX7_readGoat_25 rfl (by decide) (fun _ => ?_) (fun _ => ?_)
  · refine r_aload_n (q := 33) dX7_readGoat_32 rfl rfl rfl ?_
    refine r_ldcWS (q := 36) (tx := "shy") (cd := 42) (List.mem_of_getElem? (i := 50) rfl) (by decide) dX7_readGoat_33 rfl ?_
    refine r_ob (fun a14 ha14 => ?_)
    obtain ⟨hea14, hka14⟩ := o_at_eq ha14
    cases hea14
    refine r_callI (q := 39) (c_X7_isWord G h0 N _ _ _) (cl_V (ci := 6) rfl rfl (lw_V q2206 q2208 qs88 q176 q2209) (hd_X7_isWord) ⟨Nat.le_of_ble_eq_true rfl, Nat.le_of_ble_eq_true rfl⟩ (List.mem_singleton.mp hka14) rfl rfl rfl (Nat.le_of_ble_eq_true rfl) dX7_readGoat_36) rfl (fun x12 σ13 => ?_)
    refine r_if_eq (q := 42) (t := 46) dX7_readGoat_39 rfl (by decide) (fun _ => ?_) (fun _ => ?_)
    · refine r_aload_n (q := 47) dX7_readGoat_46 rfl rfl rfl ?_
      refine r_ldcWS (q := 50) (tx := "billy") (cd := 44) (List.mem_of_getElem? (i := 51) rfl) (by decide) dX7_readGoat_47 rfl ?_
      refine r_ob (fun a17 ha17 => ?_)
      obtain ⟨hea17, hka17⟩ := o_at_eq ha17
      cases hea17
      refine r_callI (q := 53) (c_X7_isWord G h0 N _ _ _) (cl_V (ci := 6) rfl rfl (lw_V q2206 q2208 qs88 q176 q2209) (hd_X7_isWord) ⟨Nat.le_of_ble_eq_true rfl, Nat.le_of_ble_eq_true rfl⟩ (List.mem_singleton.mp hka17) rfl rfl rfl (Nat.le_of_ble_eq_true rfl) dX7_readGoat_50) rfl (fun x15 σ16 => ?_)
      refine r_if_eq (q := 56) (t := 60) dX7_readGoat_53 rfl (by decide) (fun _ => ?_) (fun _ => ?_)
      · refine r_aload_n (q := 61) dX7_readGoat_60 rfl rfl rfl ?_
        refine r_ldcWS (q := 64) (tx := "kid") (cd := 46) (List.mem_of_getElem? (i := 52) rfl) (by decide) dX7_readGoat_61 rfl ?_
        refine r_ob (fun a20 ha20 => ?_)
        obtain ⟨hea20, hka20⟩ := o_at_eq ha20
        cases hea20
        refine r_callI (q := 67) (c_X7_isWord G h0 N _ _ _) (cl_V (ci := 6) rfl rfl (lw_V q2206 q2208 qs88 q176 q2209) (hd_X7_isWord) ⟨Nat.le_of_ble_eq_true rfl, Nat.le_of_ble_eq_true rfl⟩ (List.mem_singleton.mp hka20) rfl rfl rfl (Nat.le_of_ble_eq_true rfl) dX7_readGoat_64) rfl (fun x18 σ19 => ?_)
        refine r_if_eq (q := 70) (t := 74) dX7_readGoat_67 rfl (by decide) (fun _ => ?_) (fun _ => ?_)
        · refine r_iconst (q := 75) (v := (-1 : Int32)) dX7_readGoat_74 rfl (by decide) ?_
          exact r_le (w_X7_readGoat_b75 G h0 N _ _ _ _) (Nat.le_refl _) (And.intro rfl (And.intro rfl trivial))
        · refine r_iconst (q := 71) (v := (3 : Int32)) dX7_readGoat_70 rfl (by decide) ?_
          refine r_goto (q := 75) dX7_readGoat_71 (by decide) ?_
          exact r_le (w_X7_readGoat_b75 G h0 N _ _ _ _) (Nat.le_refl _) (And.intro rfl (And.intro rfl trivial))
      · refine r_iconst (q := 57) (v := (2 : Int32)) dX7_readGoat_56 rfl (by decide) ?_
        refine r_goto (q := 75) dX7_readGoat_57 (by decide) ?_
        exact r_le (w_X7_readGoat_b75 G h0 N _ _ _ _) (Nat.le_refl _) (And.intro rfl (And.intro rfl trivial))
    · refine r_iconst (q := 43) (v := (1 : Int32)) dX7_readGoat_42 rfl (by decide) ?_
      refine r_goto (q := 75) dX7_readGoat_43 (by decide) ?_
      exact r_le (w_X7_readGoat_b75 G h0 N _ _ _ _) (Nat.le_refl _) (And.intro rfl (And.intro rfl trivial))
  · refine r_iconst (q := 29) (v := (0 : Int32)) dX7_readGoat_28 rfl (by decide) ?_
    refine r_goto (q := 75) dX7_readGoat_29 (by decide) ?_
    exact r_le (w_X7_readGoat_b75 G h0 N _ _ _ _) (Nat.le_refl _) (And.intro rfl (And.intro rfl trivial))
theorem c_X7_bit (G : Gx) (h0 : G0 G) (N : Nat) (i0 : Int32) (i1 : Int32) (σ : Mem) : Ct G mX7_bit rhoI [vI i0, vI i1] σ (f_X7_bit N i0 i1 σ) := by
  refine Ct_of h0 (by decide) rfl (Nat.le_of_ble_eq_true rfl) (L0 := [some (vI i0), some (vI i1)]) rfl ?_
  unfold f_X7_bit
  refine r_iload_n (q := 1) dX7_bit_0 rfl rfl rfl ?_
  refine r_iload_n (q := 2) dX7_bit_1 rfl rfl rfl ?_
  refine r_ishr (q := 3) dX7_bit_2 rfl ?_
  refine r_iconst (q := 4) (v := (1 : Int32)) dX7_bit_3 rfl (by decide) ?_
  refine r_iand (q := 5) dX7_bit_4 rfl ?_
  refine r_iconst (q := 6) (v := (1 : Int32)) dX7_bit_5 rfl (by decide) ?_
  refine r_icmp_ne (q := 9) (t := 13) dX7_bit_6 rfl (by decide) (fun _ => ?_) (fun _ => ?_)
  · refine r_iconst (q := 10) (v := (1 : Int32)) dX7_bit_9 rfl (by decide) ?_
    refine r_goto (q := 14) dX7_bit_10 (by decide) ?_
    exact r_ireturnN rfl dX7_bit_14
  · refine r_iconst (q := 14) (v := (0 : Int32)) dX7_bit_13 rfl (by decide) ?_
    exact r_ireturnN rfl dX7_bit_14
theorem w_X7_readFears_b54 (G : Gx) (h0 : G0 G) (N : Nat)   (a0 : Nat) (l1 : Int32) (l2 : Int32) (σ : Mem) : Runs G mX7_readFears rhoV σ 54 [some (vR (some a0)), some (vI l1), some (vI l2)] [] (f_X7_readFears_b54 N  a0 l1 l2 σ) := by
  unfold f_X7_readFears_b54
  refine r_aload_n (q := 55) dX7_readFears_54 rfl rfl rfl ?_
  refine r_ob (fun a3 ha3 => ?_)
  obtain ⟨hea3, hka3⟩ := o_at_eq ha3
  cases hea3
  refine r_callV (q := 58) (c_X7_goesOn G h0 N _ _) (cl_V (ci := 6) rfl rfl (lw_V q2182 q2184 qs84 q176 q2185) (hd_X7_goesOn) ⟨Nat.le_of_ble_eq_true rfl, Nat.le_of_ble_eq_true rfl⟩ (List.mem_singleton.mp hka3) rfl rfl rfl (Nat.le_of_ble_eq_true rfl) dX7_readFears_55) rfl (fun u1 σ2 => ?_)
  refine r_aload_n (q := 59) dX7_readFears_58 rfl rfl rfl ?_
  refine r_gI (q := 62) fl_X7_94 dX7_readFears_59 rfl (fun x4 => ?_)
  refine r_iconst (q := 63) (v := (5 : Int32)) dX7_readFears_62 rfl (by decide) ?_
  refine r_icmp_ne (q := 66) (t := 67) dX7_readFears_63 rfl (by decide) (fun _ => ?_) (fun _ => ?_)
  · exact r_return rfl dX7_readFears_66
  · refine r_aload_n (q := 68) dX7_readFears_67 rfl rfl rfl ?_
    refine r_gR (q := 71) fl_X7_192 rfl dX7_readFears_68 rfl (fun x5 => ?_)
    refine r_gR (q := 74) fl_X7_363 rfl dX7_readFears_71 rfl (fun x6 => ?_)
    refine r_iload_n (q := 75) dX7_readFears_74 rfl rfl rfl ?_
    refine r_dup2 (q := 76) dX7_readFears_75 rfl rfl rfl ?_
    refine r_iaload (q := 77) dX7_readFears_76 rfl (fun x7 => ?_)
    refine r_iconst (q := 78) (v := (1 : Int32)) dX7_readFears_77 rfl (by decide) ?_
    refine r_iload_n (q := 79) dX7_readFears_78 rfl rfl rfl ?_
    refine r_ishl (q := 80) dX7_readFears_79 rfl ?_
    refine r_ior (q := 81) dX7_readFears_80 rfl ?_
    refine r_iastore (q := 82) dX7_readFears_81 rfl (fun σ8 => ?_)
    refine r_aload_n (q := 83) dX7_readFears_82 rfl rfl rfl ?_
    refine r_gR (q := 86) fl_X7_192 rfl dX7_readFears_83 rfl (fun x9 => ?_)
    refine r_dup (q := 87) dX7_readFears_86 rfl rfl ?_
    refine r_gI (q := 90) fl_X7_361 dX7_readFears_87 rfl (fun x10 => ?_)
    refine r_iconst (q := 91) (v := (1 : Int32)) dX7_readFears_90 rfl (by decide) ?_
    refine r_iadd (q := 92) dX7_readFears_91 rfl ?_
    refine r_pI (q := 95) fp_X7_readFears_361 dX7_readFears_92 rfl (fun σ11 => ?_)
    exact r_return rfl dX7_readFears_95
theorem c_X7_readFears (G : Gx) (h0 : G0 G) (N : Nat) (a0 : Nat) (σ : Mem) : Ct G mX7_readFears rhoV [vR (some a0)] σ (f_X7_readFears N a0 σ) := by
  refine Ct_of h0 (by decide) rfl (Nat.le_of_ble_eq_true rfl) (L0 := [some (vR (some a0)), none, none]) rfl ?_
  unfold f_X7_readFears
  refine r_aload_n (q := 1) dX7_readFears_0 rfl rfl rfl ?_
  refine r_aload_n (q := 2) dX7_readFears_1 rfl rfl rfl ?_
  refine r_gR (q := 5) fl_X7_192 rfl dX7_readFears_2 rfl (fun x1 => ?_)
  refine r_gI (q := 8) fl_X7_361 dX7_readFears_5 rfl (fun x2 => ?_)
  refine r_bipush (q := 10) (v := (8 : Int32)) dX7_readFears_8 rfl (by decide) ?_
  refine r_ob (fun a5 ha5 => ?_)
  obtain ⟨hea5, hka5⟩ := o_at_eq ha5
  cases hea5
  refine r_callV (q := 13) (c_X7_begins G h0 N _ _ _ _) (cl_V (ci := 6) rfl rfl (lw_V q2245 q2247 qs95 q176 q2248) (hd_X7_begins) ⟨Nat.le_of_ble_eq_true rfl, Nat.le_of_ble_eq_true rfl⟩ (List.mem_singleton.mp hka5) rfl rfl rfl (Nat.le_of_ble_eq_true rfl) dX7_readFears_10) rfl (fun u3 σ4 => ?_)
  refine r_aload_n (q := 14) dX7_readFears_13 rfl rfl rfl ?_
  refine r_iconst (q := 15) (v := (2 : Int32)) dX7_readFears_14 rfl (by decide) ?_
  refine r_ob (fun a8 ha8 => ?_)
  obtain ⟨hea8, hka8⟩ := o_at_eq ha8
  cases hea8
  refine r_callI (q := 18) (c_X7_readKnown G h0 N _ _ _) (cl_V (ci := 6) rfl rfl (lw_V q2292 q2294 qs102 q176 q2295) (hd_X7_readKnown) ⟨Nat.le_of_ble_eq_true rfl, Nat.le_of_ble_eq_true rfl⟩ (List.mem_singleton.mp hka8) rfl rfl rfl (Nat.le_of_ble_eq_true rfl) dX7_readFears_15) rfl (fun x6 σ7 => ?_)
  refine r_istore_n (q := 19) dX7_readFears_18 rfl rfl (Nat.le_of_ble_eq_true rfl) rfl ?_
  refine r_aload_n (q := 20) dX7_readFears_19 rfl rfl rfl ?_
  refine r_iconst (q := 21) (v := (1 : Int32)) dX7_readFears_20 rfl (by decide) ?_
  refine r_ob (fun a11 ha11 => ?_)
  obtain ⟨hea11, hka11⟩ := o_at_eq ha11
  cases hea11
  refine r_callI (q := 24) (c_X7_known G h0 N _ _ _) (cl_V (ci := 6) rfl rfl (lw_V q2296 q2298 qs103 q176 q2299) (hd_X7_known) ⟨Nat.le_of_ble_eq_true rfl, Nat.le_of_ble_eq_true rfl⟩ (List.mem_singleton.mp hka11) rfl rfl rfl (Nat.le_of_ble_eq_true rfl) dX7_readFears_21) rfl (fun x9 σ10 => ?_)
  refine r_istore_n (q := 25) dX7_readFears_24 rfl rfl (Nat.le_of_ble_eq_true rfl) rfl ?_
  refine r_aload_n (q := 26) dX7_readFears_25 rfl rfl rfl ?_
  refine r_gI (q := 29) fl_X7_94 dX7_readFears_26 rfl (fun x12 => ?_)
  refine r_iconst (q := 30) (v := (5 : Int32)) dX7_readFears_29 rfl (by decide) ?_
  refine r_icmp_eq (q := 33) (t := 54) dX7_readFears_30 rfl (by decide) (fun _ => ?_) (fun _ => ?_)
  · exact r_le (w_X7_readFears_b54 G h0 N _ _ _ _) (Nat.le_refl _) (And.intro rfl (And.intro rfl (And.intro rfl trivial)))
  · refine r_aload_n (q := 34) dX7_readFears_33 rfl rfl rfl ?_
    refine r_gR (q := 37) fl_X7_192 rfl dX7_readFears_34 rfl (fun x13 => ?_)
    refine r_gR (q := 40) fl_X7_363 rfl dX7_readFears_37 rfl (fun x14 => ?_)
    refine r_iload_n (q := 41) dX7_readFears_40 rfl rfl rfl ?_
    refine r_iaload (q := 42) dX7_readFears_41 rfl (fun x15 => ?_)
    refine r_iload_n (q := 43) dX7_readFears_42 rfl rfl rfl ?_
    refine r_callI (q := 46) (c_X7_bit G h0 N _ _ _) (cl_S rfl rfl (lw_S q2331 q2332 q176 q2333) (hd_X7_bit) ⟨Nat.le_of_ble_eq_true rfl, Nat.le_of_ble_eq_true rfl⟩ rfl (Nat.le_of_ble_eq_true rfl) dX7_readFears_43) rfl (fun x16 σ17 => ?_)
    refine r_if_eq (q := 49) (t := 54) dX7_readFears_46 rfl (by decide) (fun _ => ?_) (fun _ => ?_)
    · exact r_le (w_X7_readFears_b54 G h0 N _ _ _ _) (Nat.le_refl _) (And.intro rfl (And.intro rfl (And.intro rfl trivial)))
    · refine r_aload_n (q := 50) dX7_readFears_49 rfl rfl rfl ?_
      refine r_iconst (q := 51) (v := (3 : Int32)) dX7_readFears_50 rfl (by decide) ?_
      refine r_ob (fun a20 ha20 => ?_)
      obtain ⟨hea20, hka20⟩ := o_at_eq ha20
      cases hea20
      refine r_callV (q := 54) (c_X7_flaw G h0 N _ _ _) (cl_V (ci := 6) rfl rfl (lw_V q2219 q2221 qs90 q176 q2222) (hd_X7_flaw) ⟨Nat.le_of_ble_eq_true rfl, Nat.le_of_ble_eq_true rfl⟩ (List.mem_singleton.mp hka20) rfl rfl rfl (Nat.le_of_ble_eq_true rfl) dX7_readFears_51) rfl (fun u18 σ19 => ?_)
      exact r_le (w_X7_readFears_b54 G h0 N _ _ _ _) (Nat.le_refl _) (And.intro rfl (And.intro rfl (And.intro rfl trivial)))
theorem w_X7_readPlant_b74 (G : Gx) (h0 : G0 G) (N : Nat)   (a0 : Nat) (l1 : Int32) (σ : Mem) : Runs G mX7_readPlant rhoI σ 74 [some (vR (some a0)), some (vI l1)] [] (f_X7_readPlant_b74 N  a0 l1 σ) := by
  unfold f_X7_readPlant_b74
  refine r_aload_n (q := 75) dX7_readPlant_74 rfl rfl rfl ?_
  refine r_ob (fun a3 ha3 => ?_)
  obtain ⟨hea3, hka3⟩ := o_at_eq ha3
  cases hea3
  refine r_callV (q := 78) (c_X7_goesOn G h0 N _ _) (cl_V (ci := 6) rfl rfl (lw_V q2182 q2184 qs84 q176 q2185) (hd_X7_goesOn) ⟨Nat.le_of_ble_eq_true rfl, Nat.le_of_ble_eq_true rfl⟩ (List.mem_singleton.mp hka3) rfl rfl rfl (Nat.le_of_ble_eq_true rfl) dX7_readPlant_75) rfl (fun u1 σ2 => ?_)
  refine r_iload_n (q := 79) dX7_readPlant_78 rfl rfl rfl ?_
  exact r_ireturn rfl rfl dX7_readPlant_79
theorem w_X7_readPlant_b68 (G : Gx) (h0 : G0 G) (N : Nat)   (a0 : Nat) (l1 : Int32) (σ : Mem) : Runs G mX7_readPlant rhoI σ 68 [some (vR (some a0)), some (vI l1)] [] (f_X7_readPlant_b68 N  a0 l1 σ) := by
  unfold f_X7_readPlant_b68
  refine r_aload_n (q := 69) dX7_readPlant_68 rfl rfl rfl ?_
  refine r_bipush (q := 71) (v := (7 : Int32)) dX7_readPlant_69 rfl (by decide) ?_
  refine r_ob (fun a3 ha3 => ?_)
  obtain ⟨hea3, hka3⟩ := o_at_eq ha3
  cases hea3
  refine r_callV (q := 74) (c_X7_flaw G h0 N _ _ _) (cl_V (ci := 6) rfl rfl (lw_V q2219 q2221 qs90 q176 q2222) (hd_X7_flaw) ⟨Nat.le_of_ble_eq_true rfl, Nat.le_of_ble_eq_true rfl⟩ (List.mem_singleton.mp hka3) rfl rfl rfl (Nat.le_of_ble_eq_true rfl) dX7_readPlant_71) rfl (fun u1 σ2 => ?_)
  exact r_le (w_X7_readPlant_b74 G h0 N _ _ _) (Nat.le_refl _) (And.intro rfl (And.intro rfl trivial))
theorem w_X7_readPlant_b34 (G : Gx) (h0 : G0 G) (N : Nat)   (a0 : Nat) (t0 : Int32) (σ : Mem) : Runs G mX7_readPlant rhoI σ 34 [some (vR (some a0)), none] [vI t0] (f_X7_readPlant_b34 N  a0 t0 σ) := by
  unfold f_X7_readPlant_b34
  refine r_istore_n (q := 35) dX7_readPlant_34 rfl rfl (Nat.le_of_ble_eq_true rfl) rfl ?_
  refine r_aload_n (q := 36) dX7_readPlant_35 rfl rfl rfl ?_
  refine r_gI (q := 39) fl_X7_94 dX7_readPlant_36 rfl (fun x1 => ?_)
  refine r_iconst (q := 40) (v := (5 : Int32)) dX7_readPlant_39 rfl (by decide) ?_
  refine r_icmp_eq (q := 43) (t := 74) dX7_readPlant_40 rfl (by decide) (fun _ => ?_) (fun _ => ?_)
  · exact r_le (w_X7_readPlant_b74 G h0 N _ _ _) (Nat.le_refl _) (And.intro rfl (And.intro rfl trivial))
  · refine r_aload_n (q := 44) dX7_readPlant_43 rfl rfl rfl ?_
    refine r_gI (q := 47) fl_X7_117 dX7_readPlant_44 rfl (fun x2 => ?_)
    refine r_iconst (q := 48) (v := (1 : Int32)) dX7_readPlant_47 rfl (by decide) ?_
    refine r_icmp_ne (q := 51) (t := 68) dX7_readPlant_48 rfl (by decide) (fun _ => ?_) (fun _ => ?_)
    · refine r_iload_n (q := 52) dX7_readPlant_51 rfl rfl rfl ?_
      refine r_iconst (q := 53) (v := (0 : Int32)) dX7_readPlant_52 rfl (by decide) ?_
      refine r_aload_n (q := 54) dX7_readPlant_53 rfl rfl rfl ?_
      refine r_gR (q := 57) fl_X7_192 rfl dX7_readPlant_54 rfl (fun x3 => ?_)
      refine r_gI (q := 60) fl_X7_229 dX7_readPlant_57 rfl (fun x4 => ?_)
      refine r_iconst (q := 61) (v := (1 : Int32)) dX7_readPlant_60 rfl (by decide) ?_
      refine r_isub (q := 62) dX7_readPlant_61 rfl ?_
      refine r_callI (q := 65) (c_X7_within G h0 N _ _ _ _) (cl_S rfl rfl (lw_S q2236 q2237 q176 q2238) (hd_X7_within) ⟨Nat.le_of_ble_eq_true rfl, Nat.le_of_ble_eq_true rfl⟩ rfl (Nat.le_of_ble_eq_true rfl) dX7_readPlant_62) rfl (fun x5 σ6 => ?_)
      refine r_if_ne (q := 68) (t := 74) dX7_readPlant_65 rfl (by decide) (fun _ => ?_) (fun _ => ?_)
      · exact r_le (w_X7_readPlant_b68 G h0 N _ _ _) (Nat.le_refl _) (And.intro rfl (And.intro rfl trivial))
      · exact r_le (w_X7_readPlant_b74 G h0 N _ _ _) (Nat.le_refl _) (And.intro rfl (And.intro rfl trivial))
    · exact r_le (w_X7_readPlant_b68 G h0 N _ _ _) (Nat.le_refl _) (And.intro rfl (And.intro rfl trivial))
theorem w_X7_readPlant_b13 (G : Gx) (h0 : G0 G) (N : Nat)   (a0 : Nat) (σ : Mem) : Runs G mX7_readPlant rhoI σ 13 [some (vR (some a0)), none] [] (f_X7_readPlant_b13 N  a0 σ) := by
  unfold f_X7_readPlant_b13
  refine r_aload_n (q := 14) dX7_readPlant_13 rfl rfl rfl ?_
  refine r_gI (q := 17) fl_X7_94 dX7_readPlant_14 rfl (fun x1 => ?_)
  refine r_iconst (q := 18) (v := (5 : Int32)) dX7_readPlant_17 rfl (by decide) ?_
  refine r_icmp_ne (q := 21) (t := 25) dX7_readPlant_18 rfl (by decide) (fun _ => ?_) (fun _ => ?_)
  · refine r_iconst (q := 22) (v := (0 : Int32)) dX7_readPlant_21 rfl (by decide) ?_
    refine r_goto (q := 34) dX7_readPlant_22 (by decide) ?_
    exact r_le (w_X7_readPlant_b34 G h0 N _ _ _) (Nat.le_refl _) (And.intro rfl trivial)
  · refine r_aload_n (q := 26) dX7_readPlant_25 rfl rfl rfl ?_
    refine r_gR (q := 29) fl_X7_17 rfl dX7_readPlant_26 rfl (fun x2 => ?_)
    refine r_iconst (q := 30) (v := (0 : Int32)) dX7_readPlant_29 rfl (by decide) ?_
    refine r_iaload (q := 31) dX7_readPlant_30 rfl (fun x3 => ?_)
    refine r_bipush (q := 33) (v := (97 : Int32)) dX7_readPlant_31 rfl (by decide) ?_
    refine r_isub (q := 34) dX7_readPlant_33 rfl ?_
    exact r_le (w_X7_readPlant_b34 G h0 N _ _ _) (Nat.le_refl _) (And.intro rfl trivial)
theorem c_X7_readPlant (G : Gx) (h0 : G0 G) (N : Nat) (a0 : Nat) (σ : Mem) : Ct G mX7_readPlant rhoI [vR (some a0)] σ (f_X7_readPlant N a0 σ) := by
  refine Ct_of h0 (by decide) rfl (Nat.le_of_ble_eq_true rfl) (L0 := [some (vR (some a0)), none]) rfl ?_
  unfold f_X7_readPlant
  refine r_aload_n (q := 1) dX7_readPlant_0 rfl rfl rfl ?_
  refine r_gI (q := 4) fl_X7_94 dX7_readPlant_1 rfl (fun x1 => ?_)
  refine r_iconst (q := 5) (v := (2 : Int32)) dX7_readPlant_4 rfl (by decide) ?_
  refine r_icmp_eq (q := 8) (t := 13) dX7_readPlant_5 rfl (by decide) (fun _ => ?_) (fun _ => ?_)
  · exact r_le (w_X7_readPlant_b13 G h0 N _ _) (Nat.le_refl _) (And.intro rfl trivial)
  · refine r_aload_n (q := 9) dX7_readPlant_8 rfl rfl rfl ?_
    refine r_iconst (q := 10) (v := (1 : Int32)) dX7_readPlant_9 rfl (by decide) ?_
    refine r_ob (fun a4 ha4 => ?_)
    obtain ⟨hea4, hka4⟩ := o_at_eq ha4
    cases hea4
    refine r_callV (q := 13) (c_X7_flaw G h0 N _ _ _) (cl_V (ci := 6) rfl rfl (lw_V q2219 q2221 qs90 q176 q2222) (hd_X7_flaw) ⟨Nat.le_of_ble_eq_true rfl, Nat.le_of_ble_eq_true rfl⟩ (List.mem_singleton.mp hka4) rfl rfl rfl (Nat.le_of_ble_eq_true rfl) dX7_readPlant_10) rfl (fun u2 σ3 => ?_)
    exact r_le (w_X7_readPlant_b13 G h0 N _ _) (Nat.le_refl _) (And.intro rfl trivial)
theorem w_X7_readClue_b58 (G : Gx) (h0 : G0 G) (N : Nat)   (a0 : Nat) (l1 : Int32) (l2 : Int32) (l3 : Int32) (l4 : Int32) (σ : Mem) : Runs G mX7_readClue rhoV σ 58 [some (vR (some a0)), some (vI l1), some (vI l2), some (vI l3), some (vI l4), none] [] (f_X7_readClue_b58 N  a0 l1 l2 l3 l4 σ) := by
  unfold f_X7_readClue_b58
  refine r_aload_n (q := 59) dX7_readClue_58 rfl rfl rfl ?_
  refine r_gI (q := 62) fl_X7_94 dX7_readClue_59 rfl (fun x1 => ?_)
  refine r_iconst (q := 63) (v := (5 : Int32)) dX7_readClue_62 rfl (by decide) ?_
  refine r_icmp_ne (q := 66) (t := 67) dX7_readClue_63 rfl (by decide) (fun _ => ?_) (fun _ => ?_)
  · exact r_return rfl dX7_readClue_66
  · refine r_aload_n (q := 68) dX7_readClue_67 rfl rfl rfl ?_
    refine r_gR (q := 71) fl_X7_192 rfl dX7_readClue_68 rfl (fun x2 => ?_)
    refine r_gI (q := 74) fl_X7_370 dX7_readClue_71 rfl (fun x3 => ?_)
    refine r_istore (q := 76) dX7_readClue_74 rfl (Nat.le_of_ble_eq_true rfl) rfl ?_
    refine r_aload_n (q := 77) dX7_readClue_76 rfl rfl rfl ?_
    refine r_gR (q := 80) fl_X7_192 rfl dX7_readClue_77 rfl (fun x4 => ?_)
    refine r_gR (q := 83) fl_X7_376 rfl dX7_readClue_80 rfl (fun x5 => ?_)
    refine r_iload (q := 85) dX7_readClue_83 rfl rfl ?_
    refine r_iload_n (q := 86) dX7_readClue_85 rfl rfl rfl ?_
    refine r_iastore (q := 87) dX7_readClue_86 rfl (fun σ6 => ?_)
    refine r_aload_n (q := 88) dX7_readClue_87 rfl rfl rfl ?_
    refine r_gR (q := 91) fl_X7_192 rfl dX7_readClue_88 rfl (fun x7 => ?_)
    refine r_gR (q := 94) fl_X7_379 rfl dX7_readClue_91 rfl (fun x8 => ?_)
    refine r_iload (q := 96) dX7_readClue_94 rfl rfl ?_
    refine r_iload_n (q := 97) dX7_readClue_96 rfl rfl rfl ?_
    refine r_iastore (q := 98) dX7_readClue_97 rfl (fun σ9 => ?_)
    refine r_aload_n (q := 99) dX7_readClue_98 rfl rfl rfl ?_
    refine r_gR (q := 102) fl_X7_192 rfl dX7_readClue_99 rfl (fun x10 => ?_)
    refine r_gR (q := 105) fl_X7_382 rfl dX7_readClue_102 rfl (fun x11 => ?_)
    refine r_iload (q := 107) dX7_readClue_105 rfl rfl ?_
    refine r_iload (q := 109) dX7_readClue_107 rfl rfl ?_
    refine r_iastore (q := 110) dX7_readClue_109 rfl (fun σ12 => ?_)
    refine r_aload_n (q := 111) dX7_readClue_110 rfl rfl rfl ?_
    refine r_gR (q := 114) fl_X7_192 rfl dX7_readClue_111 rfl (fun x13 => ?_)
    refine r_gR (q := 117) fl_X7_385 rfl dX7_readClue_114 rfl (fun x14 => ?_)
    refine r_iload (q := 119) dX7_readClue_117 rfl rfl ?_
    refine r_iload_n (q := 120) dX7_readClue_119 rfl rfl rfl ?_
    refine r_iastore (q := 121) dX7_readClue_120 rfl (fun σ15 => ?_)
    refine r_aload_n (q := 122) dX7_readClue_121 rfl rfl rfl ?_
    refine r_gR (q := 125) fl_X7_192 rfl dX7_readClue_122 rfl (fun x16 => ?_)
    refine r_dup (q := 126) dX7_readClue_125 rfl rfl ?_
    refine r_gI (q := 129) fl_X7_370 dX7_readClue_126 rfl (fun x17 => ?_)
    refine r_iconst (q := 130) (v := (1 : Int32)) dX7_readClue_129 rfl (by decide) ?_
    refine r_iadd (q := 131) dX7_readClue_130 rfl ?_
    refine r_pI (q := 134) fp_X7_readClue_370 dX7_readClue_131 rfl (fun σ18 => ?_)
    exact r_return rfl dX7_readClue_134
theorem w_X7_readClue_b31 (G : Gx) (h0 : G0 G) (N : Nat)   (a0 : Nat) (l1 : Int32) (l2 : Int32) (t0 : Int32) (σ : Mem) : Runs G mX7_readClue rhoV σ 31 [some (vR (some a0)), some (vI l1), some (vI l2), none, none, none] [vI t0] (f_X7_readClue_b31 N  a0 l1 l2 t0 σ) := by
  unfold f_X7_readClue_b31
  refine r_istore_n (q := 32) dX7_readClue_31 rfl rfl (Nat.le_of_ble_eq_true rfl) rfl ?_
  refine r_aload_n (q := 33) dX7_readClue_32 rfl rfl rfl ?_
  refine r_iconst (q := 34) (v := (0 : Int32)) dX7_readClue_33 rfl (by decide) ?_
  refine r_ob (fun a3 ha3 => ?_)
  obtain ⟨hea3, hka3⟩ := o_at_eq ha3
  cases hea3
  refine r_callI (q := 37) (c_X7_readKnown G h0 N _ _ _) (cl_V (ci := 6) rfl rfl (lw_V q2292 q2294 qs102 q176 q2295) (hd_X7_readKnown) ⟨Nat.le_of_ble_eq_true rfl, Nat.le_of_ble_eq_true rfl⟩ (List.mem_singleton.mp hka3) rfl rfl rfl (Nat.le_of_ble_eq_true rfl) dX7_readClue_34) rfl (fun x1 σ2 => ?_)
  refine r_istore (q := 39) dX7_readClue_37 rfl (Nat.le_of_ble_eq_true rfl) rfl ?_
  refine r_iload_n (q := 40) dX7_readClue_39 rfl rfl rfl ?_
  refine r_if_eq (q := 43) (t := 58) dX7_readClue_40 rfl (by decide) (fun _ => ?_) (fun _ => ?_)
  · exact r_le (w_X7_readClue_b58 G h0 N _ _ _ _ _ _) (Nat.le_refl _) (And.intro rfl (And.intro rfl (And.intro rfl (And.intro rfl (And.intro rfl trivial)))))
  · refine r_aload_n (q := 44) dX7_readClue_43 rfl rfl rfl ?_
    refine r_iconst (q := 45) (v := (0 : Int32)) dX7_readClue_44 rfl (by decide) ?_
    refine r_aload_n (q := 46) dX7_readClue_45 rfl rfl rfl ?_
    refine r_gR (q := 49) fl_X7_192 rfl dX7_readClue_46 rfl (fun x4 => ?_)
    refine r_gI (q := 52) fl_X7_196 dX7_readClue_49 rfl (fun x5 => ?_)
    refine r_iconst (q := 53) (v := (1 : Int32)) dX7_readClue_52 rfl (by decide) ?_
    refine r_isub (q := 54) dX7_readClue_53 rfl ?_
    refine r_ob (fun a8 ha8 => ?_)
    obtain ⟨hea8, hka8⟩ := o_at_eq ha8
    cases hea8
    refine r_callI (q := 57) (c_X7_readWhole G h0 N _ _ _ _) (cl_V (ci := 6) rfl rfl (lw_V q2232 q2234 qs93 q176 q2235) (hd_X7_readWhole) ⟨Nat.le_of_ble_eq_true rfl, Nat.le_of_ble_eq_true rfl⟩ (List.mem_singleton.mp hka8) rfl rfl rfl (Nat.le_of_ble_eq_true rfl) dX7_readClue_54) rfl (fun x6 σ7 => ?_)
    refine r_istore_n (q := 58) dX7_readClue_57 rfl rfl (Nat.le_of_ble_eq_true rfl) rfl ?_
    exact r_le (w_X7_readClue_b58 G h0 N _ _ _ _ _ _) (Nat.le_refl _) (And.intro rfl (And.intro rfl (And.intro rfl (And.intro rfl (And.intro rfl trivial)))))
theorem c_X7_readClue (G : Gx) (h0 : G0 G) (N : Nat) (a0 : Nat) (i1 : Int32) (σ : Mem) : Ct G mX7_readClue rhoV [vR (some a0), vI i1] σ (f_X7_readClue N a0 i1 σ) := by
  refine Ct_of h0 (by decide) rfl (Nat.le_of_ble_eq_true rfl) (L0 := [some (vR (some a0)), some (vI i1), none, none, none, none]) rfl ?_
  unfold f_X7_readClue
  refine r_aload_n (q := 1) dX7_readClue_0 rfl rfl rfl ?_
  refine r_aload_n (q := 2) dX7_readClue_1 rfl rfl rfl ?_
  refine r_gR (q := 5) fl_X7_192 rfl dX7_readClue_2 rfl (fun x1 => ?_)
  refine r_gI (q := 8) fl_X7_370 dX7_readClue_5 rfl (fun x2 => ?_)
  refine r_bipush (q := 10) (v := (10 : Int32)) dX7_readClue_8 rfl (by decide) ?_
  refine r_ob (fun a5 ha5 => ?_)
  obtain ⟨hea5, hka5⟩ := o_at_eq ha5
  cases hea5
  refine r_callV (q := 13) (c_X7_begins G h0 N _ _ _ _) (cl_V (ci := 6) rfl rfl (lw_V q2245 q2247 qs95 q176 q2248) (hd_X7_begins) ⟨Nat.le_of_ble_eq_true rfl, Nat.le_of_ble_eq_true rfl⟩ (List.mem_singleton.mp hka5) rfl rfl rfl (Nat.le_of_ble_eq_true rfl) dX7_readClue_10) rfl (fun u3 σ4 => ?_)
  refine r_aload_n (q := 14) dX7_readClue_13 rfl rfl rfl ?_
  refine r_iconst (q := 15) (v := (2 : Int32)) dX7_readClue_14 rfl (by decide) ?_
  refine r_ob (fun a8 ha8 => ?_)
  obtain ⟨hea8, hka8⟩ := o_at_eq ha8
  cases hea8
  refine r_callI (q := 18) (c_X7_readKnown G h0 N _ _ _) (cl_V (ci := 6) rfl rfl (lw_V q2292 q2294 qs102 q176 q2295) (hd_X7_readKnown) ⟨Nat.le_of_ble_eq_true rfl, Nat.le_of_ble_eq_true rfl⟩ (List.mem_singleton.mp hka8) rfl rfl rfl (Nat.le_of_ble_eq_true rfl) dX7_readClue_15) rfl (fun x6 σ7 => ?_)
  refine r_istore_n (q := 19) dX7_readClue_18 rfl rfl (Nat.le_of_ble_eq_true rfl) rfl ?_
  refine r_iload_n (q := 20) dX7_readClue_19 rfl rfl rfl ?_
  refine r_if_ne (q := 23) (t := 30) dX7_readClue_20 rfl (by decide) (fun _ => ?_) (fun _ => ?_)
  · refine r_aload_n (q := 24) dX7_readClue_23 rfl rfl rfl ?_
    refine r_ob (fun a11 ha11 => ?_)
    obtain ⟨hea11, hka11⟩ := o_at_eq ha11
    cases hea11
    refine r_callI (q := 27) (c_X7_readPlant G h0 N _ _) (cl_V (ci := 6) rfl rfl (lw_V q2338 q2340 qs110 q176 q2341) (hd_X7_readPlant) ⟨Nat.le_of_ble_eq_true rfl, Nat.le_of_ble_eq_true rfl⟩ (List.mem_singleton.mp hka11) rfl rfl rfl (Nat.le_of_ble_eq_true rfl) dX7_readClue_24) rfl (fun x9 σ10 => ?_)
    refine r_goto (q := 31) dX7_readClue_27 (by decide) ?_
    exact r_le (w_X7_readClue_b31 G h0 N _ _ _ _ _) (Nat.le_refl _) (And.intro rfl (And.intro rfl (And.intro rfl trivial)))
  · refine r_iconst (q := 31) (v := (0 : Int32)) dX7_readClue_30 rfl (by decide) ?_
    exact r_le (w_X7_readClue_b31 G h0 N _ _ _ _ _) (Nat.le_refl _) (And.intro rfl (And.intro rfl (And.intro rfl trivial)))
theorem c_X7_readFact (G : Gx) (h0 : G0 G) (N : Nat) (a0 : Nat) (σ : Mem) : Ct G mX7_readFact rhoV [vR (some a0)] σ (f_X7_readFact N a0 σ) := by
  refine Ct_of h0 (by decide) rfl (Nat.le_of_ble_eq_true rfl) (L0 := [some (vR (some a0)), none, none]) rfl ?_
  unfold f_X7_readFact
  refine r_aload_n (q := 1) dX7_readFact_0 rfl rfl rfl ?_
  refine r_aload_n (q := 2) dX7_readFact_1 rfl rfl rfl ?_
  refine r_gR (q := 5) fl_X7_192 rfl dX7_readFact_2 rfl (fun x1 => ?_)
  refine r_gI (q := 8) fl_X7_388 dX7_readFact_5 rfl (fun x2 => ?_)
  refine r_bipush (q := 10) (v := (8 : Int32)) dX7_readFact_8 rfl (by decide) ?_
  refine r_ob (fun a5 ha5 => ?_)
  obtain ⟨hea5, hka5⟩ := o_at_eq ha5
  cases hea5
  refine r_callV (q := 13) (c_X7_begins G h0 N _ _ _ _) (cl_V (ci := 6) rfl rfl (lw_V q2245 q2247 qs95 q176 q2248) (hd_X7_begins) ⟨Nat.le_of_ble_eq_true rfl, Nat.le_of_ble_eq_true rfl⟩ (List.mem_singleton.mp hka5) rfl rfl rfl (Nat.le_of_ble_eq_true rfl) dX7_readFact_10) rfl (fun u3 σ4 => ?_)
  refine r_aload_n (q := 14) dX7_readFact_13 rfl rfl rfl ?_
  refine r_ob (fun a8 ha8 => ?_)
  obtain ⟨hea8, hka8⟩ := o_at_eq ha8
  cases hea8
  refine r_callL (q := 17) (c_X7_readFresh G h0 N _ _) (cl_V (ci := 6) rfl rfl (lw_V q2249 q2251 qs96 q176 q2252) (hd_X7_readFresh) ⟨Nat.le_of_ble_eq_true rfl, Nat.le_of_ble_eq_true rfl⟩ (List.mem_singleton.mp hka8) rfl rfl rfl (Nat.le_of_ble_eq_true rfl) dX7_readFact_14) rfl (fun y6 σ7 => ?_)
  refine r_lstore_n (q := 18) dX7_readFact_17 rfl rfl (Nat.le_of_ble_eq_true rfl) rfl ?_
  refine r_aload_n (q := 19) dX7_readFact_18 rfl rfl rfl ?_
  refine r_gI (q := 22) fl_X7_94 dX7_readFact_19 rfl (fun x9 => ?_)
  refine r_iconst (q := 23) (v := (5 : Int32)) dX7_readFact_22 rfl (by decide) ?_
  refine r_icmp_ne (q := 26) (t := 27) dX7_readFact_23 rfl (by decide) (fun _ => ?_) (fun _ => ?_)
  · exact r_return rfl dX7_readFact_26
  · refine r_aload_n (q := 28) dX7_readFact_27 rfl rfl rfl ?_
    refine r_lload_n (q := 29) dX7_readFact_28 rfl rfl rfl ?_
    refine r_iconst (q := 30) (v := (3 : Int32)) dX7_readFact_29 rfl (by decide) ?_
    refine r_aload_n (q := 31) dX7_readFact_30 rfl rfl rfl ?_
    refine r_gR (q := 34) fl_X7_192 rfl dX7_readFact_31 rfl (fun x10 => ?_)
    refine r_gI (q := 37) fl_X7_388 dX7_readFact_34 rfl (fun x11 => ?_)
    refine r_ob (fun a14 ha14 => ?_)
    obtain ⟨hea14, hka14⟩ := o_at_eq ha14
    cases hea14
    refine r_callV (q := 40) (c_X7_names G h0 N _ _ _ _ _) (cl_V (ci := 6) rfl rfl (lw_V q2284 q2286 qs100 q176 q2287) (hd_X7_names) ⟨Nat.le_of_ble_eq_true rfl, Nat.le_of_ble_eq_true rfl⟩ (List.mem_singleton.mp hka14) rfl rfl rfl (Nat.le_of_ble_eq_true rfl) dX7_readFact_37) rfl (fun u12 σ13 => ?_)
    refine r_aload_n (q := 41) dX7_readFact_40 rfl rfl rfl ?_
    refine r_gR (q := 44) fl_X7_192 rfl dX7_readFact_41 rfl (fun x15 => ?_)
    refine r_dup (q := 45) dX7_readFact_44 rfl rfl ?_
    refine r_gI (q := 48) fl_X7_388 dX7_readFact_45 rfl (fun x16 => ?_)
    refine r_iconst (q := 49) (v := (1 : Int32)) dX7_readFact_48 rfl (by decide) ?_
    refine r_iadd (q := 50) dX7_readFact_49 rfl ?_
    refine r_pI (q := 53) fp_X7_readFact_388 dX7_readFact_50 rfl (fun σ17 => ?_)
    exact r_return rfl dX7_readFact_53
theorem w_X7_readHolds_b39 (G : Gx) (h0 : G0 G) (N : Nat)   (a0 : Nat) (l1 : Int32) (σ : Mem) : Runs G mX7_readHolds rhoV σ 39 [some (vR (some a0)), some (vI l1)] [] (f_X7_readHolds_b39 N  a0 l1 σ) := by
  unfold f_X7_readHolds_b39
  refine r_aload_n (q := 40) dX7_readHolds_39 rfl rfl rfl ?_
  refine r_ob (fun a3 ha3 => ?_)
  obtain ⟨hea3, hka3⟩ := o_at_eq ha3
  cases hea3
  refine r_callV (q := 43) (c_X7_goesOn G h0 N _ _) (cl_V (ci := 6) rfl rfl (lw_V q2182 q2184 qs84 q176 q2185) (hd_X7_goesOn) ⟨Nat.le_of_ble_eq_true rfl, Nat.le_of_ble_eq_true rfl⟩ (List.mem_singleton.mp hka3) rfl rfl rfl (Nat.le_of_ble_eq_true rfl) dX7_readHolds_40) rfl (fun u1 σ2 => ?_)
  refine r_aload_n (q := 44) dX7_readHolds_43 rfl rfl rfl ?_
  refine r_gI (q := 47) fl_X7_94 dX7_readHolds_44 rfl (fun x4 => ?_)
  refine r_iconst (q := 48) (v := (5 : Int32)) dX7_readHolds_47 rfl (by decide) ?_
  refine r_icmp_eq (q := 51) (t := 66) dX7_readHolds_48 rfl (by decide) (fun _ => ?_) (fun _ => ?_)
  · exact r_return rfl dX7_readHolds_66
  · refine r_aload_n (q := 52) dX7_readHolds_51 rfl rfl rfl ?_
    refine r_gR (q := 55) fl_X7_192 rfl dX7_readHolds_52 rfl (fun x5 => ?_)
    refine r_dup (q := 56) dX7_readHolds_55 rfl rfl ?_
    refine r_gI (q := 59) fl_X7_391 dX7_readHolds_56 rfl (fun x6 => ?_)
    refine r_iconst (q := 60) (v := (1 : Int32)) dX7_readHolds_59 rfl (by decide) ?_
    refine r_iload_n (q := 61) dX7_readHolds_60 rfl rfl rfl ?_
    refine r_ishl (q := 62) dX7_readHolds_61 rfl ?_
    refine r_ior (q := 63) dX7_readHolds_62 rfl ?_
    refine r_pI (q := 66) fp_X7_readHolds_391 dX7_readHolds_63 rfl (fun σ7 => ?_)
    exact r_return rfl dX7_readHolds_66
theorem c_X7_readHolds (G : Gx) (h0 : G0 G) (N : Nat) (a0 : Nat) (σ : Mem) : Ct G mX7_readHolds rhoV [vR (some a0)] σ (f_X7_readHolds N a0 σ) := by
  refine Ct_of h0 (by decide) rfl (Nat.le_of_ble_eq_true rfl) (L0 := [some (vR (some a0)), none]) rfl ?_
  unfold f_X7_readHolds
  refine r_aload_n (q := 1) dX7_readHolds_0 rfl rfl rfl ?_
  refine r_iconst (q := 2) (v := (0 : Int32)) dX7_readHolds_1 rfl (by decide) ?_
  refine r_iconst (q := 3) (v := (1 : Int32)) dX7_readHolds_2 rfl (by decide) ?_
  refine r_ob (fun a3 ha3 => ?_)
  obtain ⟨hea3, hka3⟩ := o_at_eq ha3
  cases hea3
  refine r_callV (q := 6) (c_X7_begins G h0 N _ _ _ _) (cl_V (ci := 6) rfl rfl (lw_V q2245 q2247 qs95 q176 q2248) (hd_X7_begins) ⟨Nat.le_of_ble_eq_true rfl, Nat.le_of_ble_eq_true rfl⟩ (List.mem_singleton.mp hka3) rfl rfl rfl (Nat.le_of_ble_eq_true rfl) dX7_readHolds_3) rfl (fun u1 σ2 => ?_)
  refine r_aload_n (q := 7) dX7_readHolds_6 rfl rfl rfl ?_
  refine r_iconst (q := 8) (v := (3 : Int32)) dX7_readHolds_7 rfl (by decide) ?_
  refine r_ob (fun a6 ha6 => ?_)
  obtain ⟨hea6, hka6⟩ := o_at_eq ha6
  cases hea6
  refine r_callI (q := 11) (c_X7_known G h0 N _ _ _) (cl_V (ci := 6) rfl rfl (lw_V q2296 q2298 qs103 q176 q2299) (hd_X7_known) ⟨Nat.le_of_ble_eq_true rfl, Nat.le_of_ble_eq_true rfl⟩ (List.mem_singleton.mp hka6) rfl rfl rfl (Nat.le_of_ble_eq_true rfl) dX7_readHolds_8) rfl (fun x4 σ5 => ?_)
  refine r_istore_n (q := 12) dX7_readHolds_11 rfl rfl (Nat.le_of_ble_eq_true rfl) rfl ?_
  refine r_aload_n (q := 13) dX7_readHolds_12 rfl rfl rfl ?_
  refine r_gI (q := 16) fl_X7_94 dX7_readHolds_13 rfl (fun x7 => ?_)
  refine r_iconst (q := 17) (v := (5 : Int32)) dX7_readHolds_16 rfl (by decide) ?_
  refine r_icmp_eq (q := 20) (t := 39) dX7_readHolds_17 rfl (by decide) (fun _ => ?_) (fun _ => ?_)
  · exact r_le (w_X7_readHolds_b39 G h0 N _ _ _) (Nat.le_refl _) (And.intro rfl (And.intro rfl trivial))
  · refine r_aload_n (q := 21) dX7_readHolds_20 rfl rfl rfl ?_
    refine r_gR (q := 24) fl_X7_192 rfl dX7_readHolds_21 rfl (fun x8 => ?_)
    refine r_gI (q := 27) fl_X7_391 dX7_readHolds_24 rfl (fun x9 => ?_)
    refine r_iload_n (q := 28) dX7_readHolds_27 rfl rfl rfl ?_
    refine r_callI (q := 31) (c_X7_bit G h0 N _ _ _) (cl_S rfl rfl (lw_S q2331 q2332 q176 q2333) (hd_X7_bit) ⟨Nat.le_of_ble_eq_true rfl, Nat.le_of_ble_eq_true rfl⟩ rfl (Nat.le_of_ble_eq_true rfl) dX7_readHolds_28) rfl (fun x10 σ11 => ?_)
    refine r_if_eq (q := 34) (t := 39) dX7_readHolds_31 rfl (by decide) (fun _ => ?_) (fun _ => ?_)
    · exact r_le (w_X7_readHolds_b39 G h0 N _ _ _) (Nat.le_refl _) (And.intro rfl (And.intro rfl trivial))
    · refine r_aload_n (q := 35) dX7_readHolds_34 rfl rfl rfl ?_
      refine r_iconst (q := 36) (v := (3 : Int32)) dX7_readHolds_35 rfl (by decide) ?_
      refine r_ob (fun a14 ha14 => ?_)
      obtain ⟨hea14, hka14⟩ := o_at_eq ha14
      cases hea14
      refine r_callV (q := 39) (c_X7_flaw G h0 N _ _ _) (cl_V (ci := 6) rfl rfl (lw_V q2219 q2221 qs90 q176 q2222) (hd_X7_flaw) ⟨Nat.le_of_ble_eq_true rfl, Nat.le_of_ble_eq_true rfl⟩ (List.mem_singleton.mp hka14) rfl rfl rfl (Nat.le_of_ble_eq_true rfl) dX7_readHolds_36) rfl (fun u12 σ13 => ?_)
      exact r_le (w_X7_readHolds_b39 G h0 N _ _ _) (Nat.le_refl _) (And.intro rfl (And.intro rfl trivial))
