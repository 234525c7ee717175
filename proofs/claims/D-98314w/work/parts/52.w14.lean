/-! the walks of L_law -/
set_option maxRecDepth 100000
def dkwL_law_79 : List UInt8 := [4, 172]
abbrev dktL_law_79 : List UInt8 := dkwL_law_79 ++ []
def dkwL_law_78 : List UInt8 := [159, 0, 18, 3, 172, 43, 182, 0, 235, 44, 182, 0, 238, 159, 0, 5, 3, 172, 132, 4, 6, 167, 248, 25]
abbrev dktL_law_78 : List UInt8 := dkwL_law_78 ++ dktL_law_79
def dkwL_law_77 : List UInt8 := [167, 0, 41, 43, 42, 21, 4, 4, 96, 46, 182, 0, 231, 44, 42, 21, 4, 4, 96, 46, 182, 0, 234]
abbrev dktL_law_77 : List UInt8 := dkwL_law_77 ++ dktL_law_78
def dkwL_law_76 : List UInt8 := [159, 0, 5, 3, 172, 21, 5, 154, 0, 15, 45, 3, 47, 21, 6, 133, 148, 153, 0, 5, 3, 172]
abbrev dktL_law_76 : List UInt8 := dkwL_law_76 ++ dktL_law_77
def dkwL_law_75 : List UInt8 := [5, 96, 46, 153, 0, 7, 4, 167, 0, 4, 3, 182, 0, 227, 54, 6, 44, 182, 0, 228, 21, 5]
abbrev dktL_law_75 : List UInt8 := dkwL_law_75 ++ dktL_law_76
def dkwL_law_74 : List UInt8 := [153, 0, 7, 4, 167, 0, 4, 3, 45, 184, 0, 222, 54, 5, 44, 42, 21, 4, 4, 96, 46, 42, 21, 4]
abbrev dktL_law_74 : List UInt8 := dkwL_law_74 ++ dktL_law_75
def dkwL_law_73 : List UInt8 := [46, 182, 0, 221, 159, 0, 127, 3, 172, 43, 42, 21, 4, 4, 96, 46, 42, 21, 4, 5, 96, 46]
abbrev dktL_law_73 : List UInt8 := dkwL_law_73 ++ dktL_law_74
def dkwL_law_72 : List UInt8 := [182, 0, 216, 159, 0, 152, 3, 172, 43, 42, 21, 4, 4, 96, 46, 182, 0, 217, 44, 42, 21, 4, 4, 96]
abbrev dktL_law_72 : List UInt8 := dkwL_law_72 ++ dktL_law_73
def dkwL_law_71 : List UInt8 := [159, 0, 178, 3, 172, 43, 182, 0, 208, 44, 182, 0, 212, 159, 0, 165, 3, 172, 43, 182, 0, 213, 44]
abbrev dktL_law_71 : List UInt8 := dkwL_law_71 ++ dktL_law_72
def dkwL_law_70 : List UInt8 := [21, 4, 4, 96, 46, 42, 21, 4, 5, 96, 46, 153, 0, 7, 4, 167, 0, 4, 3, 182, 0, 207]
abbrev dktL_law_70 : List UInt8 := dkwL_law_70 ++ dktL_law_71
def dkwL_law_69 : List UInt8 := [21, 4, 4, 96, 46, 42, 21, 4, 5, 96, 46, 153, 0, 7, 4, 167, 0, 4, 3, 182, 0, 204, 44, 42]
abbrev dktL_law_69 : List UInt8 := dkwL_law_69 ++ dktL_law_70
def dkwL_law_68 : List UInt8 := [21, 4, 5, 96, 46, 153, 0, 7, 4, 167, 0, 4, 3, 182, 0, 203, 159, 0, 231, 3, 172, 43, 42]
abbrev dktL_law_68 : List UInt8 := dkwL_law_68 ++ dktL_law_69
def dkwL_law_67 : List UInt8 := [21, 4, 5, 96, 46, 153, 0, 7, 4, 167, 0, 4, 3, 182, 0, 199, 44, 42, 21, 4, 4, 96, 46, 42]
abbrev dktL_law_67 : List UInt8 := dkwL_law_67 ++ dktL_law_68
def dkwL_law_66 : List UInt8 := [153, 0, 7, 4, 167, 0, 4, 3, 182, 0, 198, 159, 1, 28, 3, 172, 43, 42, 21, 4, 4, 96, 46, 42]
abbrev dktL_law_66 : List UInt8 := dkwL_law_66 ++ dktL_law_67
def dkwL_law_65 : List UInt8 := [182, 0, 195, 44, 42, 21, 4, 4, 96, 46, 42, 21, 4, 5, 96, 46, 42, 21, 4, 6, 96, 46]
abbrev dktL_law_65 : List UInt8 := dkwL_law_65 ++ dktL_law_66
def dkwL_law_64 : List UInt8 := [96, 46, 42, 21, 4, 5, 96, 46, 42, 21, 4, 6, 96, 46, 153, 0, 7, 4, 167, 0, 4, 3]
abbrev dktL_law_64 : List UInt8 := dkwL_law_64 ++ dktL_law_65
def dkwL_law_63 : List UInt8 := [6, 96, 46, 153, 0, 7, 4, 167, 0, 4, 3, 182, 0, 194, 159, 1, 93, 3, 172, 43, 42, 21, 4, 4]
abbrev dktL_law_63 : List UInt8 := dkwL_law_63 ++ dktL_law_64
def dkwL_law_62 : List UInt8 := [4, 167, 0, 4, 3, 182, 0, 190, 44, 42, 21, 4, 4, 96, 46, 42, 21, 4, 5, 96, 46, 42, 21, 4]
abbrev dktL_law_62 : List UInt8 := dkwL_law_62 ++ dktL_law_63
def dkwL_law_61 : List UInt8 := [3, 172, 43, 42, 21, 4, 4, 96, 46, 42, 21, 4, 5, 96, 46, 42, 21, 4, 6, 96, 46, 153, 0, 7]
abbrev dktL_law_61 : List UInt8 := dkwL_law_61 ++ dktL_law_62
def dkwL_law_60 : List UInt8 := [172, 43, 42, 21, 4, 4, 96, 46, 182, 0, 186, 44, 42, 21, 4, 4, 96, 46, 182, 0, 189, 159, 1, 158]
abbrev dktL_law_60 : List UInt8 := dkwL_law_60 ++ dktL_law_61
def dkwL_law_59 : List UInt8 := [4, 96, 46, 182, 0, 180, 159, 1, 197, 3, 172, 43, 182, 0, 181, 44, 182, 0, 185, 148, 153, 1, 183, 3]
abbrev dktL_law_59 : List UInt8 := dkwL_law_59 ++ dktL_law_60
def dkwL_law_58 : List UInt8 := [96, 46, 182, 0, 176, 159, 1, 222, 3, 172, 43, 42, 21, 4, 4, 96, 46, 182, 0, 177, 44, 42, 21, 4]
abbrev dktL_law_58 : List UInt8 := dkwL_law_58 ++ dktL_law_59
def dkwL_law_57 : List UInt8 := [46, 182, 0, 172, 159, 1, 247, 3, 172, 43, 42, 21, 4, 4, 96, 46, 182, 0, 173, 44, 42, 21, 4, 4]
abbrev dktL_law_57 : List UInt8 := dkwL_law_57 ++ dktL_law_58
def dkwL_law_56 : List UInt8 := [182, 0, 168, 159, 2, 16, 3, 172, 43, 42, 21, 4, 4, 96, 46, 182, 0, 169, 44, 42, 21, 4, 4, 96]
abbrev dktL_law_56 : List UInt8 := dkwL_law_56 ++ dktL_law_57
def dkwL_law_55 : List UInt8 := [159, 2, 41, 3, 172, 43, 42, 21, 4, 4, 96, 46, 182, 0, 165, 44, 42, 21, 4, 4, 96, 46]
abbrev dktL_law_55 : List UInt8 := dkwL_law_55 ++ dktL_law_56
def dkwL_law_54 : List UInt8 := [42, 21, 4, 4, 96, 46, 182, 0, 160, 159, 2, 54, 3, 172, 43, 182, 0, 161, 44, 182, 0, 164]
abbrev dktL_law_54 : List UInt8 := dkwL_law_54 ++ dktL_law_55
def dkwL_law_53 : List UInt8 := [21, 4, 7, 96, 46, 182, 0, 156, 159, 2, 79, 3, 172, 43, 42, 21, 4, 4, 96, 46, 182, 0, 157, 44]
abbrev dktL_law_53 : List UInt8 := dkwL_law_53 ++ dktL_law_54
def dkwL_law_52 : List UInt8 := [182, 0, 153, 44, 42, 21, 4, 4, 96, 46, 42, 21, 4, 5, 96, 46, 42, 21, 4, 6, 96, 46, 42]
abbrev dktL_law_52 : List UInt8 := dkwL_law_52 ++ dktL_law_53
def dkwL_law_51 : List UInt8 := [42, 21, 4, 4, 96, 46, 42, 21, 4, 5, 96, 46, 42, 21, 4, 6, 96, 46, 42, 21, 4, 7, 96, 46]
abbrev dktL_law_51 : List UInt8 := dkwL_law_51 ++ dktL_law_52
def dkwL_law_50 : List UInt8 := [6, 96, 46, 42, 21, 4, 7, 96, 46, 42, 21, 4, 8, 96, 46, 182, 0, 152, 159, 2, 140, 3, 172, 43]
abbrev dktL_law_50 : List UInt8 := dkwL_law_50 ++ dktL_law_51
def dkwL_law_49 : List UInt8 := [21, 4, 8, 96, 46, 182, 0, 149, 44, 42, 21, 4, 4, 96, 46, 42, 21, 4, 5, 96, 46, 42, 21, 4]
abbrev dktL_law_49 : List UInt8 := dkwL_law_49 ++ dktL_law_50
def dkwL_law_48 : List UInt8 := [21, 4, 4, 96, 46, 42, 21, 4, 5, 96, 46, 42, 21, 4, 6, 96, 46, 42, 21, 4, 7, 96, 46, 42]
abbrev dktL_law_48 : List UInt8 := dkwL_law_48 ++ dktL_law_49
def dkwL_law_47 : List UInt8 := [46, 42, 21, 4, 6, 96, 46, 42, 21, 4, 7, 96, 46, 182, 0, 148, 159, 2, 213, 3, 172, 43, 42]
abbrev dktL_law_47 : List UInt8 := dkwL_law_47 ++ dktL_law_48
def dkwL_law_46 : List UInt8 := [6, 96, 46, 42, 21, 4, 7, 96, 46, 182, 0, 145, 44, 42, 21, 4, 4, 96, 46, 42, 21, 4, 5, 96]
abbrev dktL_law_46 : List UInt8 := dkwL_law_46 ++ dktL_law_47
def dkwL_law_45 : List UInt8 := [182, 0, 144, 159, 3, 18, 3, 172, 43, 42, 21, 4, 4, 96, 46, 42, 21, 4, 5, 96, 46, 42, 21, 4]
abbrev dktL_law_45 : List UInt8 := dkwL_law_45 ++ dktL_law_46
def dkwL_law_44 : List UInt8 := [159, 3, 44, 3, 172, 43, 182, 0, 137, 44, 182, 0, 140, 159, 3, 31, 3, 172, 43, 182, 0, 141, 44]
abbrev dktL_law_44 : List UInt8 := dkwL_law_44 ++ dktL_law_45
def dkwL_law_43 : List UInt8 := [44, 42, 21, 4, 4, 96, 46, 42, 21, 4, 5, 96, 46, 42, 21, 4, 6, 96, 46, 182, 0, 136]
abbrev dktL_law_43 : List UInt8 := dkwL_law_43 ++ dktL_law_44
def dkwL_law_42 : List UInt8 := [3, 172, 43, 42, 21, 4, 4, 96, 46, 42, 21, 4, 5, 96, 46, 42, 21, 4, 6, 96, 46, 182, 0, 133]
abbrev dktL_law_42 : List UInt8 := dkwL_law_42 ++ dktL_law_43
def dkwL_law_41 : List UInt8 := [21, 4, 4, 96, 46, 182, 0, 128, 159, 3, 106, 3, 172, 43, 182, 0, 129, 44, 182, 0, 132, 159, 3, 93]
abbrev dktL_law_41 : List UInt8 := dkwL_law_41 ++ dktL_law_42
def dkwL_law_40 : List UInt8 := [182, 0, 121, 44, 182, 0, 124, 159, 3, 131, 3, 172, 43, 42, 21, 4, 4, 96, 46, 182, 0, 125, 44, 42]
abbrev dktL_law_40 : List UInt8 := dkwL_law_40 ++ dktL_law_41
def dkwL_law_39 : List UInt8 := [21, 4, 4, 96, 46, 182, 0, 117, 44, 42, 21, 4, 4, 96, 46, 182, 0, 120, 159, 3, 144, 3, 172, 43]
abbrev dktL_law_39 : List UInt8 := dkwL_law_39 ++ dktL_law_40
def dkwL_law_38 : List UInt8 := [44, 42, 21, 4, 4, 96, 46, 42, 21, 4, 5, 96, 46, 182, 0, 116, 159, 3, 169, 3, 172, 43, 42]
abbrev dktL_law_38 : List UInt8 := dkwL_law_38 ++ dktL_law_39
def dkwL_law_37 : List UInt8 := [182, 0, 112, 159, 3, 206, 3, 172, 43, 42, 21, 4, 4, 96, 46, 42, 21, 4, 5, 96, 46, 182, 0, 113]
abbrev dktL_law_37 : List UInt8 := dkwL_law_37 ++ dktL_law_38
def dkwL_law_36 : List UInt8 := [96, 46, 42, 21, 4, 5, 96, 46, 182, 0, 109, 44, 42, 21, 4, 4, 96, 46, 42, 21, 4, 5, 96, 46]
abbrev dktL_law_36 : List UInt8 := dkwL_law_36 ++ dktL_law_37
def dkwL_law_35 : List UInt8 := [46, 182, 0, 105, 44, 42, 21, 4, 4, 96, 46, 182, 0, 108, 159, 3, 243, 3, 172, 43, 42, 21, 4, 4]
abbrev dktL_law_35 : List UInt8 := dkwL_law_35 ++ dktL_law_36
def dkwL_law_34 : List UInt8 := [159, 4, 25, 3, 172, 43, 182, 0, 101, 44, 182, 0, 104, 159, 4, 12, 3, 172, 43, 42, 21, 4, 4, 96]
abbrev dktL_law_34 : List UInt8 := dkwL_law_34 ++ dktL_law_35
def dkwL_law_33 : List UInt8 := [21, 4, 5, 96, 46, 182, 0, 97, 44, 42, 21, 4, 4, 96, 46, 42, 21, 4, 5, 96, 46, 182, 0, 100]
abbrev dktL_law_33 : List UInt8 := dkwL_law_33 ++ dktL_law_34
def dkwL_law_32 : List UInt8 := [46, 42, 21, 4, 6, 96, 46, 182, 0, 96, 159, 4, 62, 3, 172, 43, 42, 21, 4, 4, 96, 46, 42]
abbrev dktL_law_32 : List UInt8 := dkwL_law_32 ++ dktL_law_33
def dkwL_law_31 : List UInt8 := [5, 96, 46, 42, 21, 4, 6, 96, 46, 182, 0, 93, 44, 42, 21, 4, 4, 96, 46, 42, 21, 4, 5, 96]
abbrev dktL_law_31 : List UInt8 := dkwL_law_31 ++ dktL_law_32
def dkwL_law_30 : List UInt8 := [42, 21, 4, 6, 96, 46, 182, 0, 92, 159, 4, 111, 3, 172, 43, 42, 21, 4, 4, 96, 46, 42, 21, 4]
abbrev dktL_law_30 : List UInt8 := dkwL_law_30 ++ dktL_law_31
def dkwL_law_29 : List UInt8 := [96, 46, 42, 21, 4, 6, 96, 46, 182, 0, 89, 44, 42, 21, 4, 4, 96, 46, 42, 21, 4, 5, 96, 46]
abbrev dktL_law_29 : List UInt8 := dkwL_law_29 ++ dktL_law_30
def dkwL_law_28 : List UInt8 := [21, 4, 5, 96, 46, 182, 0, 88, 159, 4, 160, 3, 172, 43, 42, 21, 4, 4, 96, 46, 42, 21, 4, 5]
abbrev dktL_law_28 : List UInt8 := dkwL_law_28 ++ dktL_law_29
def dkwL_law_27 : List UInt8 := [42, 21, 4, 4, 96, 46, 42, 21, 4, 5, 96, 46, 182, 0, 85, 44, 42, 21, 4, 4, 96, 46, 42]
abbrev dktL_law_27 : List UInt8 := dkwL_law_27 ++ dktL_law_28
def dkwL_law_26 : List UInt8 := [5, 96, 46, 42, 21, 4, 6, 96, 46, 42, 21, 4, 7, 96, 46, 182, 0, 84, 159, 4, 197, 3, 172, 43]
abbrev dktL_law_26 : List UInt8 := dkwL_law_26 ++ dktL_law_27
def dkwL_law_25 : List UInt8 := [21, 4, 6, 96, 46, 42, 21, 4, 7, 96, 46, 182, 0, 80, 44, 42, 21, 4, 4, 96, 46, 42, 21, 4]
abbrev dktL_law_25 : List UInt8 := dkwL_law_25 ++ dktL_law_26
def dkwL_law_24 : List UInt8 := [46, 182, 0, 79, 159, 5, 2, 3, 172, 43, 42, 21, 4, 4, 96, 46, 42, 21, 4, 5, 96, 46, 42]
abbrev dktL_law_24 : List UInt8 := dkwL_law_24 ++ dktL_law_25
def dkwL_law_23 : List UInt8 := [6, 96, 46, 182, 0, 76, 44, 42, 21, 4, 4, 96, 46, 42, 21, 4, 5, 96, 46, 42, 21, 4, 6, 96]
abbrev dktL_law_23 : List UInt8 := dkwL_law_23 ++ dktL_law_24
def dkwL_law_22 : List UInt8 := [182, 0, 75, 159, 5, 51, 3, 172, 43, 42, 21, 4, 4, 96, 46, 42, 21, 4, 5, 96, 46, 42, 21, 4]
abbrev dktL_law_22 : List UInt8 := dkwL_law_22 ++ dktL_law_23
def dkwL_law_21 : List UInt8 := [182, 0, 72, 44, 42, 21, 4, 4, 96, 46, 42, 21, 4, 5, 96, 46, 42, 21, 4, 6, 96, 46]
abbrev dktL_law_21 : List UInt8 := dkwL_law_21 ++ dktL_law_22
def dkwL_law_20 : List UInt8 := [159, 5, 100, 3, 172, 43, 42, 21, 4, 4, 96, 46, 42, 21, 4, 5, 96, 46, 42, 21, 4, 6, 96, 46]
abbrev dktL_law_20 : List UInt8 := dkwL_law_20 ++ dktL_law_21
def dkwL_law_19 : List UInt8 := [21, 4, 5, 96, 46, 182, 0, 68, 44, 42, 21, 4, 4, 96, 46, 42, 21, 4, 5, 96, 46, 182, 0, 71]
abbrev dktL_law_19 : List UInt8 := dkwL_law_19 ++ dktL_law_20
def dkwL_law_18 : List UInt8 := [44, 42, 21, 4, 4, 96, 46, 182, 0, 67, 159, 5, 137, 3, 172, 43, 42, 21, 4, 4, 96, 46, 42]
abbrev dktL_law_18 : List UInt8 := dkwL_law_18 ++ dktL_law_19
def dkwL_law_17 : List UInt8 := [42, 21, 4, 6, 96, 46, 182, 0, 63, 159, 5, 162, 3, 172, 43, 42, 21, 4, 4, 96, 46, 182, 0, 64]
abbrev dktL_law_17 : List UInt8 := dkwL_law_17 ++ dktL_law_18
def dkwL_law_16 : List UInt8 := [96, 46, 42, 21, 4, 6, 96, 46, 182, 0, 59, 44, 42, 21, 4, 4, 96, 46, 42, 21, 4, 5, 96, 46]
abbrev dktL_law_16 : List UInt8 := dkwL_law_16 ++ dktL_law_17
def dkwL_law_15 : List UInt8 := [21, 4, 5, 96, 46, 182, 0, 58, 159, 5, 211, 3, 172, 43, 42, 21, 4, 4, 96, 46, 42, 21, 4, 5]
abbrev dktL_law_15 : List UInt8 := dkwL_law_15 ++ dktL_law_16
def dkwL_law_14 : List UInt8 := [43, 42, 21, 4, 4, 96, 46, 42, 21, 4, 5, 96, 46, 182, 0, 55, 44, 42, 21, 4, 4, 96, 46, 42]
abbrev dktL_law_14 : List UInt8 := dkwL_law_14 ++ dktL_law_15
def dkwL_law_13 : List UInt8 := [182, 0, 51, 44, 42, 21, 4, 4, 96, 46, 42, 21, 4, 5, 96, 46, 182, 0, 54, 159, 5, 248, 3, 172]
abbrev dktL_law_13 : List UInt8 := dkwL_law_13 ++ dktL_law_14
def dkwL_law_12 : List UInt8 := [46, 182, 0, 50, 159, 6, 29, 3, 172, 43, 42, 21, 4, 4, 96, 46, 42, 21, 4, 5, 96, 46]
abbrev dktL_law_12 : List UInt8 := dkwL_law_12 ++ dktL_law_13
def dkwL_law_11 : List UInt8 := [4, 96, 46, 42, 21, 4, 5, 96, 46, 182, 0, 47, 44, 42, 21, 4, 4, 96, 46, 42, 21, 4, 5, 96]
abbrev dktL_law_11 : List UInt8 := dkwL_law_11 ++ dktL_law_12
def dkwL_law_10 : List UInt8 := [96, 46, 182, 0, 43, 44, 42, 21, 4, 4, 96, 46, 182, 0, 46, 159, 6, 66, 3, 172, 43, 42, 21, 4]
abbrev dktL_law_10 : List UInt8 := dkwL_law_10 ++ dktL_law_11
def dkwL_law_9 : List UInt8 := [21, 4, 4, 96, 46, 42, 21, 4, 5, 96, 46, 182, 0, 42, 159, 6, 91, 3, 172, 43, 42, 21, 4, 4]
abbrev dktL_law_9 : List UInt8 := dkwL_law_9 ++ dktL_law_10
def dkwL_law_8 : List UInt8 := [159, 6, 128, 3, 172, 43, 42, 21, 4, 4, 96, 46, 42, 21, 4, 5, 96, 46, 182, 0, 38, 44, 42]
abbrev dktL_law_8 : List UInt8 := dkwL_law_8 ++ dktL_law_9
def dkwL_law_7 : List UInt8 := [3, 172, 43, 182, 0, 29, 44, 182, 0, 33, 159, 6, 141, 3, 172, 43, 182, 0, 34, 44, 182, 0, 37]
abbrev dktL_law_7 : List UInt8 := dkwL_law_7 ++ dktL_law_8
def dkwL_law_6 : List UInt8 := [172, 43, 42, 21, 4, 4, 96, 46, 182, 0, 24, 44, 42, 21, 4, 4, 96, 46, 182, 0, 28, 159, 6, 154]
abbrev dktL_law_6 : List UInt8 := dkwL_law_6 ++ dktL_law_7
def dkwL_law_5 : List UInt8 := [21, 4, 6, 96, 46, 42, 21, 4, 7, 96, 46, 42, 21, 4, 8, 96, 46, 182, 0, 23, 159, 6, 179, 3]
abbrev dktL_law_5 : List UInt8 := dkwL_law_5 ++ dktL_law_6
def dkwL_law_4 : List UInt8 := [46, 42, 21, 4, 8, 96, 46, 182, 0, 19, 44, 42, 21, 4, 4, 96, 46, 42, 21, 4, 5, 96, 46, 42]
abbrev dktL_law_4 : List UInt8 := dkwL_law_4 ++ dktL_law_5
def dkwL_law_3 : List UInt8 := [43, 42, 21, 4, 4, 96, 46, 42, 21, 4, 5, 96, 46, 42, 21, 4, 6, 96, 46, 42, 21, 4, 7, 96]
abbrev dktL_law_3 : List UInt8 := dkwL_law_3 ++ dktL_law_4
def dkwL_law_2 : List UInt8 := [170, 0, 0, 0, 0, 0, 7, 211, 0, 0, 0, 0, 0, 0, 0, 50, 0, 0, 0, 220, 0, 0, 1, 37, 0, 0, 1, 62, 0, 0, 1, 75, 0, 0, 1, 88, 0, 0, 1, 125, 0, 0, 1, 150, 0, 0, 1, 187, 0, 0, 1, 224, 0, 0, 2, 5, 0, 0, 2, 54, 0, 0, 2, 79, 0, 0, 2, 116, 0, 0, 2, 165, 0, 0, 2, 214, 0, 0, 3, 19, 0, 0, 3, 56, 0, 0, 3, 105, 0, 0, 3, 154, 0, 0, 3, 191, 0, 0, 3, 204, 0, 0, 3, 229, 0, 0, 4, 10, 0, 0, 4, 47, 0, 0, 4, 72, 0, 0, 4, 85, 0, 0, 4, 110, 0, 0, 4, 123, 0, 0, 4, 172, 0, 0, 4, 185, 0, 0, 4, 198, 0, 0, 5, 3, 0, 0, 5, 76, 0, 0, 5, 137, 0, 0, 5, 162, 0, 0, 5, 175, 0, 0, 5, 200, 0, 0, 5, 225, 0, 0, 5, 250, 0, 0, 6, 19, 0, 0, 6, 33, 0, 0, 6, 58, 0, 0, 6, 123, 0, 0, 6, 188, 0, 0, 6, 241, 0, 0, 7, 38, 0, 0, 7, 51, 0, 0, 7, 64, 0, 0, 7, 89, 0, 0, 7, 173, 0, 0, 7, 198]
abbrev dktL_law_2 : List UInt8 := dkwL_law_2 ++ dktL_law_3
def dkwL_law_1 : List UInt8 := [21, 4, 42, 190, 16, 6, 100, 163, 7, 227, 42, 21, 4, 46, 16, 63, 126]
abbrev dktL_law_1 : List UInt8 := dkwL_law_1 ++ dktL_law_2
def dkwL_law_0 : List UInt8 := [187, 0, 8, 89, 183, 0, 15, 76, 187, 0, 16, 89, 183, 0, 18, 77, 4, 188, 11, 78, 3, 54, 4]
abbrev dktL_law_0 : List UInt8 := dkwL_law_0 ++ dktL_law_1
theorem dksL_law_0 : cL_law.data.toList.drop 0 = dktL_law_0 := by decide +kernel
theorem dksL_law_1 : cL_law.data.toList.drop 23 = dktL_law_1 := dk_seg dksL_law_0 23 rfl rfl
theorem dksL_law_2 : cL_law.data.toList.drop 40 = dktL_law_2 := dk_seg dksL_law_1 17 rfl rfl
theorem dksL_law_3 : cL_law.data.toList.drop 260 = dktL_law_3 := dk_seg dksL_law_2 220 rfl rfl
theorem dksL_law_4 : cL_law.data.toList.drop 284 = dktL_law_4 := dk_seg dksL_law_3 24 rfl rfl
theorem dksL_law_5 : cL_law.data.toList.drop 308 = dktL_law_5 := dk_seg dksL_law_4 24 rfl rfl
theorem dksL_law_6 : cL_law.data.toList.drop 332 = dktL_law_6 := dk_seg dksL_law_5 24 rfl rfl
theorem dksL_law_7 : cL_law.data.toList.drop 356 = dktL_law_7 := dk_seg dksL_law_6 24 rfl rfl
theorem dksL_law_8 : cL_law.data.toList.drop 379 = dktL_law_8 := dk_seg dksL_law_7 23 rfl rfl
theorem dksL_law_9 : cL_law.data.toList.drop 402 = dktL_law_9 := dk_seg dksL_law_8 23 rfl rfl
theorem dksL_law_10 : cL_law.data.toList.drop 426 = dktL_law_10 := dk_seg dksL_law_9 24 rfl rfl
theorem dksL_law_11 : cL_law.data.toList.drop 450 = dktL_law_11 := dk_seg dksL_law_10 24 rfl rfl
theorem dksL_law_12 : cL_law.data.toList.drop 474 = dktL_law_12 := dk_seg dksL_law_11 24 rfl rfl
theorem dksL_law_13 : cL_law.data.toList.drop 496 = dktL_law_13 := dk_seg dksL_law_12 22 rfl rfl
theorem dksL_law_14 : cL_law.data.toList.drop 520 = dktL_law_14 := dk_seg dksL_law_13 24 rfl rfl
theorem dksL_law_15 : cL_law.data.toList.drop 544 = dktL_law_15 := dk_seg dksL_law_14 24 rfl rfl
theorem dksL_law_16 : cL_law.data.toList.drop 568 = dktL_law_16 := dk_seg dksL_law_15 24 rfl rfl
theorem dksL_law_17 : cL_law.data.toList.drop 592 = dktL_law_17 := dk_seg dksL_law_16 24 rfl rfl
theorem dksL_law_18 : cL_law.data.toList.drop 616 = dktL_law_18 := dk_seg dksL_law_17 24 rfl rfl
theorem dksL_law_19 : cL_law.data.toList.drop 639 = dktL_law_19 := dk_seg dksL_law_18 23 rfl rfl
theorem dksL_law_20 : cL_law.data.toList.drop 663 = dktL_law_20 := dk_seg dksL_law_19 24 rfl rfl
theorem dksL_law_21 : cL_law.data.toList.drop 687 = dktL_law_21 := dk_seg dksL_law_20 24 rfl rfl
theorem dksL_law_22 : cL_law.data.toList.drop 709 = dktL_law_22 := dk_seg dksL_law_21 22 rfl rfl
theorem dksL_law_23 : cL_law.data.toList.drop 733 = dktL_law_23 := dk_seg dksL_law_22 24 rfl rfl
theorem dksL_law_24 : cL_law.data.toList.drop 757 = dktL_law_24 := dk_seg dksL_law_23 24 rfl rfl
theorem dksL_law_25 : cL_law.data.toList.drop 780 = dktL_law_25 := dk_seg dksL_law_24 23 rfl rfl
theorem dksL_law_26 : cL_law.data.toList.drop 804 = dktL_law_26 := dk_seg dksL_law_25 24 rfl rfl
theorem dksL_law_27 : cL_law.data.toList.drop 828 = dktL_law_27 := dk_seg dksL_law_26 24 rfl rfl
theorem dksL_law_28 : cL_law.data.toList.drop 851 = dktL_law_28 := dk_seg dksL_law_27 23 rfl rfl
theorem dksL_law_29 : cL_law.data.toList.drop 875 = dktL_law_29 := dk_seg dksL_law_28 24 rfl rfl
theorem dksL_law_30 : cL_law.data.toList.drop 899 = dktL_law_30 := dk_seg dksL_law_29 24 rfl rfl
theorem dksL_law_31 : cL_law.data.toList.drop 923 = dktL_law_31 := dk_seg dksL_law_30 24 rfl rfl
theorem dksL_law_32 : cL_law.data.toList.drop 947 = dktL_law_32 := dk_seg dksL_law_31 24 rfl rfl
theorem dksL_law_33 : cL_law.data.toList.drop 970 = dktL_law_33 := dk_seg dksL_law_32 23 rfl rfl
theorem dksL_law_34 : cL_law.data.toList.drop 994 = dktL_law_34 := dk_seg dksL_law_33 24 rfl rfl
theorem dksL_law_35 : cL_law.data.toList.drop 1018 = dktL_law_35 := dk_seg dksL_law_34 24 rfl rfl
theorem dksL_law_36 : cL_law.data.toList.drop 1042 = dktL_law_36 := dk_seg dksL_law_35 24 rfl rfl
theorem dksL_law_37 : cL_law.data.toList.drop 1066 = dktL_law_37 := dk_seg dksL_law_36 24 rfl rfl
theorem dksL_law_38 : cL_law.data.toList.drop 1090 = dktL_law_38 := dk_seg dksL_law_37 24 rfl rfl
theorem dksL_law_39 : cL_law.data.toList.drop 1113 = dktL_law_39 := dk_seg dksL_law_38 23 rfl rfl
theorem dksL_law_40 : cL_law.data.toList.drop 1137 = dktL_law_40 := dk_seg dksL_law_39 24 rfl rfl
theorem dksL_law_41 : cL_law.data.toList.drop 1161 = dktL_law_41 := dk_seg dksL_law_40 24 rfl rfl
theorem dksL_law_42 : cL_law.data.toList.drop 1185 = dktL_law_42 := dk_seg dksL_law_41 24 rfl rfl
theorem dksL_law_43 : cL_law.data.toList.drop 1209 = dktL_law_43 := dk_seg dksL_law_42 24 rfl rfl
theorem dksL_law_44 : cL_law.data.toList.drop 1231 = dktL_law_44 := dk_seg dksL_law_43 22 rfl rfl
theorem dksL_law_45 : cL_law.data.toList.drop 1254 = dktL_law_45 := dk_seg dksL_law_44 23 rfl rfl
theorem dksL_law_46 : cL_law.data.toList.drop 1278 = dktL_law_46 := dk_seg dksL_law_45 24 rfl rfl
theorem dksL_law_47 : cL_law.data.toList.drop 1302 = dktL_law_47 := dk_seg dksL_law_46 24 rfl rfl
theorem dksL_law_48 : cL_law.data.toList.drop 1325 = dktL_law_48 := dk_seg dksL_law_47 23 rfl rfl
theorem dksL_law_49 : cL_law.data.toList.drop 1349 = dktL_law_49 := dk_seg dksL_law_48 24 rfl rfl
theorem dksL_law_50 : cL_law.data.toList.drop 1373 = dktL_law_50 := dk_seg dksL_law_49 24 rfl rfl
theorem dksL_law_51 : cL_law.data.toList.drop 1397 = dktL_law_51 := dk_seg dksL_law_50 24 rfl rfl
theorem dksL_law_52 : cL_law.data.toList.drop 1421 = dktL_law_52 := dk_seg dksL_law_51 24 rfl rfl
theorem dksL_law_53 : cL_law.data.toList.drop 1444 = dktL_law_53 := dk_seg dksL_law_52 23 rfl rfl
theorem dksL_law_54 : cL_law.data.toList.drop 1468 = dktL_law_54 := dk_seg dksL_law_53 24 rfl rfl
theorem dksL_law_55 : cL_law.data.toList.drop 1490 = dktL_law_55 := dk_seg dksL_law_54 22 rfl rfl
theorem dksL_law_56 : cL_law.data.toList.drop 1512 = dktL_law_56 := dk_seg dksL_law_55 22 rfl rfl
theorem dksL_law_57 : cL_law.data.toList.drop 1536 = dktL_law_57 := dk_seg dksL_law_56 24 rfl rfl
theorem dksL_law_58 : cL_law.data.toList.drop 1560 = dktL_law_58 := dk_seg dksL_law_57 24 rfl rfl
theorem dksL_law_59 : cL_law.data.toList.drop 1584 = dktL_law_59 := dk_seg dksL_law_58 24 rfl rfl
theorem dksL_law_60 : cL_law.data.toList.drop 1608 = dktL_law_60 := dk_seg dksL_law_59 24 rfl rfl
theorem dksL_law_61 : cL_law.data.toList.drop 1632 = dktL_law_61 := dk_seg dksL_law_60 24 rfl rfl
theorem dksL_law_62 : cL_law.data.toList.drop 1656 = dktL_law_62 := dk_seg dksL_law_61 24 rfl rfl
theorem dksL_law_63 : cL_law.data.toList.drop 1680 = dktL_law_63 := dk_seg dksL_law_62 24 rfl rfl
theorem dksL_law_64 : cL_law.data.toList.drop 1704 = dktL_law_64 := dk_seg dksL_law_63 24 rfl rfl
theorem dksL_law_65 : cL_law.data.toList.drop 1726 = dktL_law_65 := dk_seg dksL_law_64 22 rfl rfl
theorem dksL_law_66 : cL_law.data.toList.drop 1748 = dktL_law_66 := dk_seg dksL_law_65 22 rfl rfl
theorem dksL_law_67 : cL_law.data.toList.drop 1772 = dktL_law_67 := dk_seg dksL_law_66 24 rfl rfl
theorem dksL_law_68 : cL_law.data.toList.drop 1796 = dktL_law_68 := dk_seg dksL_law_67 24 rfl rfl
theorem dksL_law_69 : cL_law.data.toList.drop 1819 = dktL_law_69 := dk_seg dksL_law_68 23 rfl rfl
theorem dksL_law_70 : cL_law.data.toList.drop 1843 = dktL_law_70 := dk_seg dksL_law_69 24 rfl rfl
theorem dksL_law_71 : cL_law.data.toList.drop 1865 = dktL_law_71 := dk_seg dksL_law_70 22 rfl rfl
theorem dksL_law_72 : cL_law.data.toList.drop 1888 = dktL_law_72 := dk_seg dksL_law_71 23 rfl rfl
theorem dksL_law_73 : cL_law.data.toList.drop 1912 = dktL_law_73 := dk_seg dksL_law_72 24 rfl rfl
theorem dksL_law_74 : cL_law.data.toList.drop 1934 = dktL_law_74 := dk_seg dksL_law_73 22 rfl rfl
theorem dksL_law_75 : cL_law.data.toList.drop 1958 = dktL_law_75 := dk_seg dksL_law_74 24 rfl rfl
theorem dksL_law_76 : cL_law.data.toList.drop 1980 = dktL_law_76 := dk_seg dksL_law_75 22 rfl rfl
theorem dksL_law_77 : cL_law.data.toList.drop 2002 = dktL_law_77 := dk_seg dksL_law_76 22 rfl rfl
theorem dksL_law_78 : cL_law.data.toList.drop 2025 = dktL_law_78 := dk_seg dksL_law_77 23 rfl rfl
theorem dksL_law_79 : cL_law.data.toList.drop 2049 = dktL_law_79 := dk_seg dksL_law_78 24 rfl rfl
theorem dL_law_0 : decode cL_law 0 = .ok (.new 8, 3) := dk_187 0 8 (dk_at dksL_law_0 0 rfl rfl)
theorem dL_law_3 : decode cL_law 3 = .ok (.dup, 1) := dk_89 (dk_at dksL_law_0 3 rfl rfl)
theorem dL_law_4 : decode cL_law 4 = .ok (.invokespecial 15, 3) := dk_183 0 15 (dk_at dksL_law_0 4 rfl rfl)
theorem dL_law_7 : decode cL_law 7 = .ok (.astore_n 1, 1) := dk_76 (dk_at dksL_law_0 7 rfl rfl)
theorem dL_law_8 : decode cL_law 8 = .ok (.new 16, 3) := dk_187 0 16 (dk_at dksL_law_0 8 rfl rfl)
theorem dL_law_11 : decode cL_law 11 = .ok (.dup, 1) := dk_89 (dk_at dksL_law_0 11 rfl rfl)
theorem dL_law_12 : decode cL_law 12 = .ok (.invokespecial 18, 3) := dk_183 0 18 (dk_at dksL_law_0 12 rfl rfl)
theorem dL_law_15 : decode cL_law 15 = .ok (.astore_n 2, 1) := dk_77 (dk_at dksL_law_0 15 rfl rfl)
theorem dL_law_16 : decode cL_law 16 = .ok (.iconst 1, 1) := dk_4 (dk_at dksL_law_0 16 rfl rfl)
theorem dL_law_17 : decode cL_law 17 = .ok (.newarray .long, 2) := dk_188_11 (dk_at dksL_law_0 17 rfl rfl)
theorem dL_law_19 : decode cL_law 19 = .ok (.astore_n 3, 1) := dk_78 (dk_at dksL_law_0 19 rfl rfl)
theorem dL_law_20 : decode cL_law 20 = .ok (.iconst 0, 1) := dk_3 (dk_at dksL_law_0 20 rfl rfl)
theorem dL_law_21 : decode cL_law 21 = .ok (.istore 4, 2) := dk_54 4 (dk_at dksL_law_0 21 rfl rfl)
theorem dL_law_23 : decode cL_law 23 = .ok (.iload 4, 2) := dk_21 4 (dk_at dksL_law_1 0 rfl rfl)
theorem dL_law_25 : decode cL_law 25 = .ok (.aload_n 0, 1) := dk_42 (dk_at dksL_law_1 2 rfl rfl)
theorem dL_law_26 : decode cL_law 26 = .ok (.arraylength, 1) := dk_190 (dk_at dksL_law_1 3 rfl rfl)
theorem dL_law_27 : decode cL_law 27 = .ok (.bipush 6, 2) := dk_16 6 (dk_at dksL_law_1 4 rfl rfl)
theorem dL_law_29 : decode cL_law 29 = .ok (.isub, 1) := dk_100 (dk_at dksL_law_1 6 rfl rfl)
theorem dL_law_30 : decode cL_law 30 = .ok (.if_icmp .gt 2019, 3) := dk_163 7 227 (dk_at dksL_law_1 7 rfl rfl)
theorem dL_law_33 : decode cL_law 33 = .ok (.aload_n 0, 1) := dk_42 (dk_at dksL_law_1 10 rfl rfl)
theorem dL_law_34 : decode cL_law 34 = .ok (.iload 4, 2) := dk_21 4 (dk_at dksL_law_1 11 rfl rfl)
theorem dL_law_36 : decode cL_law 36 = .ok (.iaload, 1) := dk_46 (dk_at dksL_law_1 13 rfl rfl)
theorem dL_law_37 : decode cL_law 37 = .ok (.bipush 63, 2) := dk_16 63 (dk_at dksL_law_1 14 rfl rfl)
theorem dL_law_39 : decode cL_law 39 = .ok (.iand, 1) := dk_126 (dk_at dksL_law_1 16 rfl rfl)
theorem dL_law_40 : decode cL_law 40 = .ok (.tableswitch 2003 0 50 #[220, 293, 318, 331, 344, 381, 406, 443, 480, 517, 566, 591, 628, 677, 726, 787, 824, 873, 922, 959, 972, 997, 1034, 1071, 1096, 1109, 1134, 1147, 1196, 1209, 1222, 1283, 1356, 1417, 1442, 1455, 1480, 1505, 1530, 1555, 1569, 1594, 1659, 1724, 1777, 1830, 1843, 1856, 1881, 1965, 1990], 220) := by decide +kernel
theorem dL_law_260 : decode cL_law 260 = .ok (.aload_n 1, 1) := dk_43 (dk_at dksL_law_3 0 rfl rfl)
theorem dL_law_261 : decode cL_law 261 = .ok (.aload_n 0, 1) := dk_42 (dk_at dksL_law_3 1 rfl rfl)
theorem dL_law_262 : decode cL_law 262 = .ok (.iload 4, 2) := dk_21 4 (dk_at dksL_law_3 2 rfl rfl)
theorem dL_law_264 : decode cL_law 264 = .ok (.iconst 1, 1) := dk_4 (dk_at dksL_law_3 4 rfl rfl)
theorem dL_law_265 : decode cL_law 265 = .ok (.iadd, 1) := dk_96 (dk_at dksL_law_3 5 rfl rfl)
theorem dL_law_266 : decode cL_law 266 = .ok (.iaload, 1) := dk_46 (dk_at dksL_law_3 6 rfl rfl)
theorem dL_law_267 : decode cL_law 267 = .ok (.aload_n 0, 1) := dk_42 (dk_at dksL_law_3 7 rfl rfl)
theorem dL_law_268 : decode cL_law 268 = .ok (.iload 4, 2) := dk_21 4 (dk_at dksL_law_3 8 rfl rfl)
theorem dL_law_270 : decode cL_law 270 = .ok (.iconst 2, 1) := dk_5 (dk_at dksL_law_3 10 rfl rfl)
theorem dL_law_271 : decode cL_law 271 = .ok (.iadd, 1) := dk_96 (dk_at dksL_law_3 11 rfl rfl)
theorem dL_law_272 : decode cL_law 272 = .ok (.iaload, 1) := dk_46 (dk_at dksL_law_3 12 rfl rfl)
theorem dL_law_273 : decode cL_law 273 = .ok (.aload_n 0, 1) := dk_42 (dk_at dksL_law_3 13 rfl rfl)
theorem dL_law_274 : decode cL_law 274 = .ok (.iload 4, 2) := dk_21 4 (dk_at dksL_law_3 14 rfl rfl)
theorem dL_law_276 : decode cL_law 276 = .ok (.iconst 3, 1) := dk_6 (dk_at dksL_law_3 16 rfl rfl)
theorem dL_law_277 : decode cL_law 277 = .ok (.iadd, 1) := dk_96 (dk_at dksL_law_3 17 rfl rfl)
theorem dL_law_278 : decode cL_law 278 = .ok (.iaload, 1) := dk_46 (dk_at dksL_law_3 18 rfl rfl)
theorem dL_law_279 : decode cL_law 279 = .ok (.aload_n 0, 1) := dk_42 (dk_at dksL_law_3 19 rfl rfl)
theorem dL_law_280 : decode cL_law 280 = .ok (.iload 4, 2) := dk_21 4 (dk_at dksL_law_3 20 rfl rfl)
theorem dL_law_282 : decode cL_law 282 = .ok (.iconst 4, 1) := dk_7 (dk_at dksL_law_3 22 rfl rfl)
theorem dL_law_283 : decode cL_law 283 = .ok (.iadd, 1) := dk_96 (dk_at dksL_law_3 23 rfl rfl)
theorem dL_law_284 : decode cL_law 284 = .ok (.iaload, 1) := dk_46 (dk_at dksL_law_4 0 rfl rfl)
theorem dL_law_285 : decode cL_law 285 = .ok (.aload_n 0, 1) := dk_42 (dk_at dksL_law_4 1 rfl rfl)
theorem dL_law_286 : decode cL_law 286 = .ok (.iload 4, 2) := dk_21 4 (dk_at dksL_law_4 2 rfl rfl)
theorem dL_law_288 : decode cL_law 288 = .ok (.iconst 5, 1) := dk_8 (dk_at dksL_law_4 4 rfl rfl)
theorem dL_law_289 : decode cL_law 289 = .ok (.iadd, 1) := dk_96 (dk_at dksL_law_4 5 rfl rfl)
theorem dL_law_290 : decode cL_law 290 = .ok (.iaload, 1) := dk_46 (dk_at dksL_law_4 6 rfl rfl)
theorem dL_law_291 : decode cL_law 291 = .ok (.invokevirtual 19, 3) := dk_182 0 19 (dk_at dksL_law_4 7 rfl rfl)
theorem dL_law_294 : decode cL_law 294 = .ok (.aload_n 2, 1) := dk_44 (dk_at dksL_law_4 10 rfl rfl)
theorem dL_law_295 : decode cL_law 295 = .ok (.aload_n 0, 1) := dk_42 (dk_at dksL_law_4 11 rfl rfl)
theorem dL_law_296 : decode cL_law 296 = .ok (.iload 4, 2) := dk_21 4 (dk_at dksL_law_4 12 rfl rfl)
theorem dL_law_298 : decode cL_law 298 = .ok (.iconst 1, 1) := dk_4 (dk_at dksL_law_4 14 rfl rfl)
theorem dL_law_299 : decode cL_law 299 = .ok (.iadd, 1) := dk_96 (dk_at dksL_law_4 15 rfl rfl)
theorem dL_law_300 : decode cL_law 300 = .ok (.iaload, 1) := dk_46 (dk_at dksL_law_4 16 rfl rfl)
theorem dL_law_301 : decode cL_law 301 = .ok (.aload_n 0, 1) := dk_42 (dk_at dksL_law_4 17 rfl rfl)
theorem dL_law_302 : decode cL_law 302 = .ok (.iload 4, 2) := dk_21 4 (dk_at dksL_law_4 18 rfl rfl)
theorem dL_law_304 : decode cL_law 304 = .ok (.iconst 2, 1) := dk_5 (dk_at dksL_law_4 20 rfl rfl)
theorem dL_law_305 : decode cL_law 305 = .ok (.iadd, 1) := dk_96 (dk_at dksL_law_4 21 rfl rfl)
theorem dL_law_306 : decode cL_law 306 = .ok (.iaload, 1) := dk_46 (dk_at dksL_law_4 22 rfl rfl)
theorem dL_law_307 : decode cL_law 307 = .ok (.aload_n 0, 1) := dk_42 (dk_at dksL_law_4 23 rfl rfl)
theorem dL_law_308 : decode cL_law 308 = .ok (.iload 4, 2) := dk_21 4 (dk_at dksL_law_5 0 rfl rfl)
theorem dL_law_310 : decode cL_law 310 = .ok (.iconst 3, 1) := dk_6 (dk_at dksL_law_5 2 rfl rfl)
theorem dL_law_311 : decode cL_law 311 = .ok (.iadd, 1) := dk_96 (dk_at dksL_law_5 3 rfl rfl)
theorem dL_law_312 : decode cL_law 312 = .ok (.iaload, 1) := dk_46 (dk_at dksL_law_5 4 rfl rfl)
theorem dL_law_313 : decode cL_law 313 = .ok (.aload_n 0, 1) := dk_42 (dk_at dksL_law_5 5 rfl rfl)
theorem dL_law_314 : decode cL_law 314 = .ok (.iload 4, 2) := dk_21 4 (dk_at dksL_law_5 6 rfl rfl)
theorem dL_law_316 : decode cL_law 316 = .ok (.iconst 4, 1) := dk_7 (dk_at dksL_law_5 8 rfl rfl)
theorem dL_law_317 : decode cL_law 317 = .ok (.iadd, 1) := dk_96 (dk_at dksL_law_5 9 rfl rfl)
theorem dL_law_318 : decode cL_law 318 = .ok (.iaload, 1) := dk_46 (dk_at dksL_law_5 10 rfl rfl)
theorem dL_law_319 : decode cL_law 319 = .ok (.aload_n 0, 1) := dk_42 (dk_at dksL_law_5 11 rfl rfl)
theorem dL_law_320 : decode cL_law 320 = .ok (.iload 4, 2) := dk_21 4 (dk_at dksL_law_5 12 rfl rfl)
theorem dL_law_322 : decode cL_law 322 = .ok (.iconst 5, 1) := dk_8 (dk_at dksL_law_5 14 rfl rfl)
theorem dL_law_323 : decode cL_law 323 = .ok (.iadd, 1) := dk_96 (dk_at dksL_law_5 15 rfl rfl)
theorem dL_law_324 : decode cL_law 324 = .ok (.iaload, 1) := dk_46 (dk_at dksL_law_5 16 rfl rfl)
theorem dL_law_325 : decode cL_law 325 = .ok (.invokevirtual 23, 3) := dk_182 0 23 (dk_at dksL_law_5 17 rfl rfl)
theorem dL_law_328 : decode cL_law 328 = .ok (.if_icmp .eq 1715, 3) := dk_159 6 179 (dk_at dksL_law_5 20 rfl rfl)
theorem dL_law_331 : decode cL_law 331 = .ok (.iconst 0, 1) := dk_3 (dk_at dksL_law_5 23 rfl rfl)
theorem dL_law_332 : decode cL_law 332 = .ok (.ireturn, 1) := dk_172 (dk_at dksL_law_6 0 rfl rfl)
theorem dL_law_333 : decode cL_law 333 = .ok (.aload_n 1, 1) := dk_43 (dk_at dksL_law_6 1 rfl rfl)
theorem dL_law_334 : decode cL_law 334 = .ok (.aload_n 0, 1) := dk_42 (dk_at dksL_law_6 2 rfl rfl)
theorem dL_law_335 : decode cL_law 335 = .ok (.iload 4, 2) := dk_21 4 (dk_at dksL_law_6 3 rfl rfl)
theorem dL_law_337 : decode cL_law 337 = .ok (.iconst 1, 1) := dk_4 (dk_at dksL_law_6 5 rfl rfl)
theorem dL_law_338 : decode cL_law 338 = .ok (.iadd, 1) := dk_96 (dk_at dksL_law_6 6 rfl rfl)
theorem dL_law_339 : decode cL_law 339 = .ok (.iaload, 1) := dk_46 (dk_at dksL_law_6 7 rfl rfl)
theorem dL_law_340 : decode cL_law 340 = .ok (.invokevirtual 24, 3) := dk_182 0 24 (dk_at dksL_law_6 8 rfl rfl)
theorem dL_law_343 : decode cL_law 343 = .ok (.aload_n 2, 1) := dk_44 (dk_at dksL_law_6 11 rfl rfl)
theorem dL_law_344 : decode cL_law 344 = .ok (.aload_n 0, 1) := dk_42 (dk_at dksL_law_6 12 rfl rfl)
theorem dL_law_345 : decode cL_law 345 = .ok (.iload 4, 2) := dk_21 4 (dk_at dksL_law_6 13 rfl rfl)
theorem dL_law_347 : decode cL_law 347 = .ok (.iconst 1, 1) := dk_4 (dk_at dksL_law_6 15 rfl rfl)
theorem dL_law_348 : decode cL_law 348 = .ok (.iadd, 1) := dk_96 (dk_at dksL_law_6 16 rfl rfl)
theorem dL_law_349 : decode cL_law 349 = .ok (.iaload, 1) := dk_46 (dk_at dksL_law_6 17 rfl rfl)
theorem dL_law_350 : decode cL_law 350 = .ok (.invokevirtual 28, 3) := dk_182 0 28 (dk_at dksL_law_6 18 rfl rfl)
theorem dL_law_353 : decode cL_law 353 = .ok (.if_icmp .eq 1690, 3) := dk_159 6 154 (dk_at dksL_law_6 21 rfl rfl)
theorem dL_law_356 : decode cL_law 356 = .ok (.iconst 0, 1) := dk_3 (dk_at dksL_law_7 0 rfl rfl)
theorem dL_law_357 : decode cL_law 357 = .ok (.ireturn, 1) := dk_172 (dk_at dksL_law_7 1 rfl rfl)
theorem dL_law_358 : decode cL_law 358 = .ok (.aload_n 1, 1) := dk_43 (dk_at dksL_law_7 2 rfl rfl)
theorem dL_law_359 : decode cL_law 359 = .ok (.invokevirtual 29, 3) := dk_182 0 29 (dk_at dksL_law_7 3 rfl rfl)
theorem dL_law_362 : decode cL_law 362 = .ok (.aload_n 2, 1) := dk_44 (dk_at dksL_law_7 6 rfl rfl)
theorem dL_law_363 : decode cL_law 363 = .ok (.invokevirtual 33, 3) := dk_182 0 33 (dk_at dksL_law_7 7 rfl rfl)
theorem dL_law_366 : decode cL_law 366 = .ok (.if_icmp .eq 1677, 3) := dk_159 6 141 (dk_at dksL_law_7 10 rfl rfl)
theorem dL_law_369 : decode cL_law 369 = .ok (.iconst 0, 1) := dk_3 (dk_at dksL_law_7 13 rfl rfl)
theorem dL_law_370 : decode cL_law 370 = .ok (.ireturn, 1) := dk_172 (dk_at dksL_law_7 14 rfl rfl)
theorem dL_law_371 : decode cL_law 371 = .ok (.aload_n 1, 1) := dk_43 (dk_at dksL_law_7 15 rfl rfl)
theorem dL_law_372 : decode cL_law 372 = .ok (.invokevirtual 34, 3) := dk_182 0 34 (dk_at dksL_law_7 16 rfl rfl)
theorem dL_law_375 : decode cL_law 375 = .ok (.aload_n 2, 1) := dk_44 (dk_at dksL_law_7 19 rfl rfl)
theorem dL_law_376 : decode cL_law 376 = .ok (.invokevirtual 37, 3) := dk_182 0 37 (dk_at dksL_law_7 20 rfl rfl)
theorem dL_law_379 : decode cL_law 379 = .ok (.if_icmp .eq 1664, 3) := dk_159 6 128 (dk_at dksL_law_8 0 rfl rfl)
theorem dL_law_382 : decode cL_law 382 = .ok (.iconst 0, 1) := dk_3 (dk_at dksL_law_8 3 rfl rfl)
theorem dL_law_383 : decode cL_law 383 = .ok (.ireturn, 1) := dk_172 (dk_at dksL_law_8 4 rfl rfl)
theorem dL_law_384 : decode cL_law 384 = .ok (.aload_n 1, 1) := dk_43 (dk_at dksL_law_8 5 rfl rfl)
theorem dL_law_385 : decode cL_law 385 = .ok (.aload_n 0, 1) := dk_42 (dk_at dksL_law_8 6 rfl rfl)
theorem dL_law_386 : decode cL_law 386 = .ok (.iload 4, 2) := dk_21 4 (dk_at dksL_law_8 7 rfl rfl)
theorem dL_law_388 : decode cL_law 388 = .ok (.iconst 1, 1) := dk_4 (dk_at dksL_law_8 9 rfl rfl)
theorem dL_law_389 : decode cL_law 389 = .ok (.iadd, 1) := dk_96 (dk_at dksL_law_8 10 rfl rfl)
theorem dL_law_390 : decode cL_law 390 = .ok (.iaload, 1) := dk_46 (dk_at dksL_law_8 11 rfl rfl)
theorem dL_law_391 : decode cL_law 391 = .ok (.aload_n 0, 1) := dk_42 (dk_at dksL_law_8 12 rfl rfl)
theorem dL_law_392 : decode cL_law 392 = .ok (.iload 4, 2) := dk_21 4 (dk_at dksL_law_8 13 rfl rfl)
theorem dL_law_394 : decode cL_law 394 = .ok (.iconst 2, 1) := dk_5 (dk_at dksL_law_8 15 rfl rfl)
theorem dL_law_395 : decode cL_law 395 = .ok (.iadd, 1) := dk_96 (dk_at dksL_law_8 16 rfl rfl)
theorem dL_law_396 : decode cL_law 396 = .ok (.iaload, 1) := dk_46 (dk_at dksL_law_8 17 rfl rfl)
theorem dL_law_397 : decode cL_law 397 = .ok (.invokevirtual 38, 3) := dk_182 0 38 (dk_at dksL_law_8 18 rfl rfl)
theorem dL_law_400 : decode cL_law 400 = .ok (.aload_n 2, 1) := dk_44 (dk_at dksL_law_8 21 rfl rfl)
theorem dL_law_401 : decode cL_law 401 = .ok (.aload_n 0, 1) := dk_42 (dk_at dksL_law_8 22 rfl rfl)
theorem dL_law_402 : decode cL_law 402 = .ok (.iload 4, 2) := dk_21 4 (dk_at dksL_law_9 0 rfl rfl)
theorem dL_law_404 : decode cL_law 404 = .ok (.iconst 1, 1) := dk_4 (dk_at dksL_law_9 2 rfl rfl)
theorem dL_law_405 : decode cL_law 405 = .ok (.iadd, 1) := dk_96 (dk_at dksL_law_9 3 rfl rfl)
theorem dL_law_406 : decode cL_law 406 = .ok (.iaload, 1) := dk_46 (dk_at dksL_law_9 4 rfl rfl)
theorem dL_law_407 : decode cL_law 407 = .ok (.aload_n 0, 1) := dk_42 (dk_at dksL_law_9 5 rfl rfl)
theorem dL_law_408 : decode cL_law 408 = .ok (.iload 4, 2) := dk_21 4 (dk_at dksL_law_9 6 rfl rfl)
theorem dL_law_410 : decode cL_law 410 = .ok (.iconst 2, 1) := dk_5 (dk_at dksL_law_9 8 rfl rfl)
theorem dL_law_411 : decode cL_law 411 = .ok (.iadd, 1) := dk_96 (dk_at dksL_law_9 9 rfl rfl)
theorem dL_law_412 : decode cL_law 412 = .ok (.iaload, 1) := dk_46 (dk_at dksL_law_9 10 rfl rfl)
theorem dL_law_413 : decode cL_law 413 = .ok (.invokevirtual 42, 3) := dk_182 0 42 (dk_at dksL_law_9 11 rfl rfl)
theorem dL_law_416 : decode cL_law 416 = .ok (.if_icmp .eq 1627, 3) := dk_159 6 91 (dk_at dksL_law_9 14 rfl rfl)
theorem dL_law_419 : decode cL_law 419 = .ok (.iconst 0, 1) := dk_3 (dk_at dksL_law_9 17 rfl rfl)
theorem dL_law_420 : decode cL_law 420 = .ok (.ireturn, 1) := dk_172 (dk_at dksL_law_9 18 rfl rfl)
theorem dL_law_421 : decode cL_law 421 = .ok (.aload_n 1, 1) := dk_43 (dk_at dksL_law_9 19 rfl rfl)
theorem dL_law_422 : decode cL_law 422 = .ok (.aload_n 0, 1) := dk_42 (dk_at dksL_law_9 20 rfl rfl)
theorem dL_law_423 : decode cL_law 423 = .ok (.iload 4, 2) := dk_21 4 (dk_at dksL_law_9 21 rfl rfl)
theorem dL_law_425 : decode cL_law 425 = .ok (.iconst 1, 1) := dk_4 (dk_at dksL_law_9 23 rfl rfl)
theorem dL_law_426 : decode cL_law 426 = .ok (.iadd, 1) := dk_96 (dk_at dksL_law_10 0 rfl rfl)
theorem dL_law_427 : decode cL_law 427 = .ok (.iaload, 1) := dk_46 (dk_at dksL_law_10 1 rfl rfl)
theorem dL_law_428 : decode cL_law 428 = .ok (.invokevirtual 43, 3) := dk_182 0 43 (dk_at dksL_law_10 2 rfl rfl)
theorem dL_law_431 : decode cL_law 431 = .ok (.aload_n 2, 1) := dk_44 (dk_at dksL_law_10 5 rfl rfl)
theorem dL_law_432 : decode cL_law 432 = .ok (.aload_n 0, 1) := dk_42 (dk_at dksL_law_10 6 rfl rfl)
theorem dL_law_433 : decode cL_law 433 = .ok (.iload 4, 2) := dk_21 4 (dk_at dksL_law_10 7 rfl rfl)
theorem dL_law_435 : decode cL_law 435 = .ok (.iconst 1, 1) := dk_4 (dk_at dksL_law_10 9 rfl rfl)
theorem dL_law_436 : decode cL_law 436 = .ok (.iadd, 1) := dk_96 (dk_at dksL_law_10 10 rfl rfl)
theorem dL_law_437 : decode cL_law 437 = .ok (.iaload, 1) := dk_46 (dk_at dksL_law_10 11 rfl rfl)
theorem dL_law_438 : decode cL_law 438 = .ok (.invokevirtual 46, 3) := dk_182 0 46 (dk_at dksL_law_10 12 rfl rfl)
theorem dL_law_441 : decode cL_law 441 = .ok (.if_icmp .eq 1602, 3) := dk_159 6 66 (dk_at dksL_law_10 15 rfl rfl)
theorem dL_law_444 : decode cL_law 444 = .ok (.iconst 0, 1) := dk_3 (dk_at dksL_law_10 18 rfl rfl)
theorem dL_law_445 : decode cL_law 445 = .ok (.ireturn, 1) := dk_172 (dk_at dksL_law_10 19 rfl rfl)
theorem dL_law_446 : decode cL_law 446 = .ok (.aload_n 1, 1) := dk_43 (dk_at dksL_law_10 20 rfl rfl)
theorem dL_law_447 : decode cL_law 447 = .ok (.aload_n 0, 1) := dk_42 (dk_at dksL_law_10 21 rfl rfl)
theorem dL_law_448 : decode cL_law 448 = .ok (.iload 4, 2) := dk_21 4 (dk_at dksL_law_10 22 rfl rfl)
theorem dL_law_450 : decode cL_law 450 = .ok (.iconst 1, 1) := dk_4 (dk_at dksL_law_11 0 rfl rfl)
theorem dL_law_451 : decode cL_law 451 = .ok (.iadd, 1) := dk_96 (dk_at dksL_law_11 1 rfl rfl)
theorem dL_law_452 : decode cL_law 452 = .ok (.iaload, 1) := dk_46 (dk_at dksL_law_11 2 rfl rfl)
theorem dL_law_453 : decode cL_law 453 = .ok (.aload_n 0, 1) := dk_42 (dk_at dksL_law_11 3 rfl rfl)
theorem dL_law_454 : decode cL_law 454 = .ok (.iload 4, 2) := dk_21 4 (dk_at dksL_law_11 4 rfl rfl)
theorem dL_law_456 : decode cL_law 456 = .ok (.iconst 2, 1) := dk_5 (dk_at dksL_law_11 6 rfl rfl)
theorem dL_law_457 : decode cL_law 457 = .ok (.iadd, 1) := dk_96 (dk_at dksL_law_11 7 rfl rfl)
theorem dL_law_458 : decode cL_law 458 = .ok (.iaload, 1) := dk_46 (dk_at dksL_law_11 8 rfl rfl)
theorem dL_law_459 : decode cL_law 459 = .ok (.invokevirtual 47, 3) := dk_182 0 47 (dk_at dksL_law_11 9 rfl rfl)
theorem dL_law_462 : decode cL_law 462 = .ok (.aload_n 2, 1) := dk_44 (dk_at dksL_law_11 12 rfl rfl)
theorem dL_law_463 : decode cL_law 463 = .ok (.aload_n 0, 1) := dk_42 (dk_at dksL_law_11 13 rfl rfl)
theorem dL_law_464 : decode cL_law 464 = .ok (.iload 4, 2) := dk_21 4 (dk_at dksL_law_11 14 rfl rfl)
theorem dL_law_466 : decode cL_law 466 = .ok (.iconst 1, 1) := dk_4 (dk_at dksL_law_11 16 rfl rfl)
theorem dL_law_467 : decode cL_law 467 = .ok (.iadd, 1) := dk_96 (dk_at dksL_law_11 17 rfl rfl)
theorem dL_law_468 : decode cL_law 468 = .ok (.iaload, 1) := dk_46 (dk_at dksL_law_11 18 rfl rfl)
theorem dL_law_469 : decode cL_law 469 = .ok (.aload_n 0, 1) := dk_42 (dk_at dksL_law_11 19 rfl rfl)
theorem dL_law_470 : decode cL_law 470 = .ok (.iload 4, 2) := dk_21 4 (dk_at dksL_law_11 20 rfl rfl)
theorem dL_law_472 : decode cL_law 472 = .ok (.iconst 2, 1) := dk_5 (dk_at dksL_law_11 22 rfl rfl)
theorem dL_law_473 : decode cL_law 473 = .ok (.iadd, 1) := dk_96 (dk_at dksL_law_11 23 rfl rfl)
theorem dL_law_474 : decode cL_law 474 = .ok (.iaload, 1) := dk_46 (dk_at dksL_law_12 0 rfl rfl)
theorem dL_law_475 : decode cL_law 475 = .ok (.invokevirtual 50, 3) := dk_182 0 50 (dk_at dksL_law_12 1 rfl rfl)
theorem dL_law_478 : decode cL_law 478 = .ok (.if_icmp .eq 1565, 3) := dk_159 6 29 (dk_at dksL_law_12 4 rfl rfl)
theorem dL_law_481 : decode cL_law 481 = .ok (.iconst 0, 1) := dk_3 (dk_at dksL_law_12 7 rfl rfl)
theorem dL_law_482 : decode cL_law 482 = .ok (.ireturn, 1) := dk_172 (dk_at dksL_law_12 8 rfl rfl)
theorem dL_law_483 : decode cL_law 483 = .ok (.aload_n 1, 1) := dk_43 (dk_at dksL_law_12 9 rfl rfl)
theorem dL_law_484 : decode cL_law 484 = .ok (.aload_n 0, 1) := dk_42 (dk_at dksL_law_12 10 rfl rfl)
theorem dL_law_485 : decode cL_law 485 = .ok (.iload 4, 2) := dk_21 4 (dk_at dksL_law_12 11 rfl rfl)
theorem dL_law_487 : decode cL_law 487 = .ok (.iconst 1, 1) := dk_4 (dk_at dksL_law_12 13 rfl rfl)
theorem dL_law_488 : decode cL_law 488 = .ok (.iadd, 1) := dk_96 (dk_at dksL_law_12 14 rfl rfl)
theorem dL_law_489 : decode cL_law 489 = .ok (.iaload, 1) := dk_46 (dk_at dksL_law_12 15 rfl rfl)
theorem dL_law_490 : decode cL_law 490 = .ok (.aload_n 0, 1) := dk_42 (dk_at dksL_law_12 16 rfl rfl)
theorem dL_law_491 : decode cL_law 491 = .ok (.iload 4, 2) := dk_21 4 (dk_at dksL_law_12 17 rfl rfl)
theorem dL_law_493 : decode cL_law 493 = .ok (.iconst 2, 1) := dk_5 (dk_at dksL_law_12 19 rfl rfl)
theorem dL_law_494 : decode cL_law 494 = .ok (.iadd, 1) := dk_96 (dk_at dksL_law_12 20 rfl rfl)
theorem dL_law_495 : decode cL_law 495 = .ok (.iaload, 1) := dk_46 (dk_at dksL_law_12 21 rfl rfl)
theorem dL_law_496 : decode cL_law 496 = .ok (.invokevirtual 51, 3) := dk_182 0 51 (dk_at dksL_law_13 0 rfl rfl)
theorem dL_law_499 : decode cL_law 499 = .ok (.aload_n 2, 1) := dk_44 (dk_at dksL_law_13 3 rfl rfl)
theorem dL_law_500 : decode cL_law 500 = .ok (.aload_n 0, 1) := dk_42 (dk_at dksL_law_13 4 rfl rfl)
theorem dL_law_501 : decode cL_law 501 = .ok (.iload 4, 2) := dk_21 4 (dk_at dksL_law_13 5 rfl rfl)
theorem dL_law_503 : decode cL_law 503 = .ok (.iconst 1, 1) := dk_4 (dk_at dksL_law_13 7 rfl rfl)
theorem dL_law_504 : decode cL_law 504 = .ok (.iadd, 1) := dk_96 (dk_at dksL_law_13 8 rfl rfl)
theorem dL_law_505 : decode cL_law 505 = .ok (.iaload, 1) := dk_46 (dk_at dksL_law_13 9 rfl rfl)
theorem dL_law_506 : decode cL_law 506 = .ok (.aload_n 0, 1) := dk_42 (dk_at dksL_law_13 10 rfl rfl)
theorem dL_law_507 : decode cL_law 507 = .ok (.iload 4, 2) := dk_21 4 (dk_at dksL_law_13 11 rfl rfl)
theorem dL_law_509 : decode cL_law 509 = .ok (.iconst 2, 1) := dk_5 (dk_at dksL_law_13 13 rfl rfl)
theorem dL_law_510 : decode cL_law 510 = .ok (.iadd, 1) := dk_96 (dk_at dksL_law_13 14 rfl rfl)
theorem dL_law_511 : decode cL_law 511 = .ok (.iaload, 1) := dk_46 (dk_at dksL_law_13 15 rfl rfl)
theorem dL_law_512 : decode cL_law 512 = .ok (.invokevirtual 54, 3) := dk_182 0 54 (dk_at dksL_law_13 16 rfl rfl)
theorem dL_law_515 : decode cL_law 515 = .ok (.if_icmp .eq 1528, 3) := dk_159 5 248 (dk_at dksL_law_13 19 rfl rfl)
theorem dL_law_518 : decode cL_law 518 = .ok (.iconst 0, 1) := dk_3 (dk_at dksL_law_13 22 rfl rfl)
theorem dL_law_519 : decode cL_law 519 = .ok (.ireturn, 1) := dk_172 (dk_at dksL_law_13 23 rfl rfl)
theorem dL_law_520 : decode cL_law 520 = .ok (.aload_n 1, 1) := dk_43 (dk_at dksL_law_14 0 rfl rfl)
theorem dL_law_521 : decode cL_law 521 = .ok (.aload_n 0, 1) := dk_42 (dk_at dksL_law_14 1 rfl rfl)
theorem dL_law_522 : decode cL_law 522 = .ok (.iload 4, 2) := dk_21 4 (dk_at dksL_law_14 2 rfl rfl)
theorem dL_law_524 : decode cL_law 524 = .ok (.iconst 1, 1) := dk_4 (dk_at dksL_law_14 4 rfl rfl)
theorem dL_law_525 : decode cL_law 525 = .ok (.iadd, 1) := dk_96 (dk_at dksL_law_14 5 rfl rfl)
theorem dL_law_526 : decode cL_law 526 = .ok (.iaload, 1) := dk_46 (dk_at dksL_law_14 6 rfl rfl)
theorem dL_law_527 : decode cL_law 527 = .ok (.aload_n 0, 1) := dk_42 (dk_at dksL_law_14 7 rfl rfl)
theorem dL_law_528 : decode cL_law 528 = .ok (.iload 4, 2) := dk_21 4 (dk_at dksL_law_14 8 rfl rfl)
theorem dL_law_530 : decode cL_law 530 = .ok (.iconst 2, 1) := dk_5 (dk_at dksL_law_14 10 rfl rfl)
theorem dL_law_531 : decode cL_law 531 = .ok (.iadd, 1) := dk_96 (dk_at dksL_law_14 11 rfl rfl)
theorem dL_law_532 : decode cL_law 532 = .ok (.iaload, 1) := dk_46 (dk_at dksL_law_14 12 rfl rfl)
theorem dL_law_533 : decode cL_law 533 = .ok (.invokevirtual 55, 3) := dk_182 0 55 (dk_at dksL_law_14 13 rfl rfl)
theorem dL_law_536 : decode cL_law 536 = .ok (.aload_n 2, 1) := dk_44 (dk_at dksL_law_14 16 rfl rfl)
theorem dL_law_537 : decode cL_law 537 = .ok (.aload_n 0, 1) := dk_42 (dk_at dksL_law_14 17 rfl rfl)
theorem dL_law_538 : decode cL_law 538 = .ok (.iload 4, 2) := dk_21 4 (dk_at dksL_law_14 18 rfl rfl)
theorem dL_law_540 : decode cL_law 540 = .ok (.iconst 1, 1) := dk_4 (dk_at dksL_law_14 20 rfl rfl)
theorem dL_law_541 : decode cL_law 541 = .ok (.iadd, 1) := dk_96 (dk_at dksL_law_14 21 rfl rfl)
theorem dL_law_542 : decode cL_law 542 = .ok (.iaload, 1) := dk_46 (dk_at dksL_law_14 22 rfl rfl)
theorem dL_law_543 : decode cL_law 543 = .ok (.aload_n 0, 1) := dk_42 (dk_at dksL_law_14 23 rfl rfl)
theorem dL_law_544 : decode cL_law 544 = .ok (.iload 4, 2) := dk_21 4 (dk_at dksL_law_15 0 rfl rfl)
theorem dL_law_546 : decode cL_law 546 = .ok (.iconst 2, 1) := dk_5 (dk_at dksL_law_15 2 rfl rfl)
theorem dL_law_547 : decode cL_law 547 = .ok (.iadd, 1) := dk_96 (dk_at dksL_law_15 3 rfl rfl)
theorem dL_law_548 : decode cL_law 548 = .ok (.iaload, 1) := dk_46 (dk_at dksL_law_15 4 rfl rfl)
theorem dL_law_549 : decode cL_law 549 = .ok (.invokevirtual 58, 3) := dk_182 0 58 (dk_at dksL_law_15 5 rfl rfl)
theorem dL_law_552 : decode cL_law 552 = .ok (.if_icmp .eq 1491, 3) := dk_159 5 211 (dk_at dksL_law_15 8 rfl rfl)
theorem dL_law_555 : decode cL_law 555 = .ok (.iconst 0, 1) := dk_3 (dk_at dksL_law_15 11 rfl rfl)
theorem dL_law_556 : decode cL_law 556 = .ok (.ireturn, 1) := dk_172 (dk_at dksL_law_15 12 rfl rfl)
theorem dL_law_557 : decode cL_law 557 = .ok (.aload_n 1, 1) := dk_43 (dk_at dksL_law_15 13 rfl rfl)
theorem dL_law_558 : decode cL_law 558 = .ok (.aload_n 0, 1) := dk_42 (dk_at dksL_law_15 14 rfl rfl)
theorem dL_law_559 : decode cL_law 559 = .ok (.iload 4, 2) := dk_21 4 (dk_at dksL_law_15 15 rfl rfl)
theorem dL_law_561 : decode cL_law 561 = .ok (.iconst 1, 1) := dk_4 (dk_at dksL_law_15 17 rfl rfl)
theorem dL_law_562 : decode cL_law 562 = .ok (.iadd, 1) := dk_96 (dk_at dksL_law_15 18 rfl rfl)
theorem dL_law_563 : decode cL_law 563 = .ok (.iaload, 1) := dk_46 (dk_at dksL_law_15 19 rfl rfl)
theorem dL_law_564 : decode cL_law 564 = .ok (.aload_n 0, 1) := dk_42 (dk_at dksL_law_15 20 rfl rfl)
theorem dL_law_565 : decode cL_law 565 = .ok (.iload 4, 2) := dk_21 4 (dk_at dksL_law_15 21 rfl rfl)
theorem dL_law_567 : decode cL_law 567 = .ok (.iconst 2, 1) := dk_5 (dk_at dksL_law_15 23 rfl rfl)
theorem dL_law_568 : decode cL_law 568 = .ok (.iadd, 1) := dk_96 (dk_at dksL_law_16 0 rfl rfl)
theorem dL_law_569 : decode cL_law 569 = .ok (.iaload, 1) := dk_46 (dk_at dksL_law_16 1 rfl rfl)
theorem dL_law_570 : decode cL_law 570 = .ok (.aload_n 0, 1) := dk_42 (dk_at dksL_law_16 2 rfl rfl)
theorem dL_law_571 : decode cL_law 571 = .ok (.iload 4, 2) := dk_21 4 (dk_at dksL_law_16 3 rfl rfl)
theorem dL_law_573 : decode cL_law 573 = .ok (.iconst 3, 1) := dk_6 (dk_at dksL_law_16 5 rfl rfl)
theorem dL_law_574 : decode cL_law 574 = .ok (.iadd, 1) := dk_96 (dk_at dksL_law_16 6 rfl rfl)
theorem dL_law_575 : decode cL_law 575 = .ok (.iaload, 1) := dk_46 (dk_at dksL_law_16 7 rfl rfl)
theorem dL_law_576 : decode cL_law 576 = .ok (.invokevirtual 59, 3) := dk_182 0 59 (dk_at dksL_law_16 8 rfl rfl)
theorem dL_law_579 : decode cL_law 579 = .ok (.aload_n 2, 1) := dk_44 (dk_at dksL_law_16 11 rfl rfl)
theorem dL_law_580 : decode cL_law 580 = .ok (.aload_n 0, 1) := dk_42 (dk_at dksL_law_16 12 rfl rfl)
theorem dL_law_581 : decode cL_law 581 = .ok (.iload 4, 2) := dk_21 4 (dk_at dksL_law_16 13 rfl rfl)
theorem dL_law_583 : decode cL_law 583 = .ok (.iconst 1, 1) := dk_4 (dk_at dksL_law_16 15 rfl rfl)
theorem dL_law_584 : decode cL_law 584 = .ok (.iadd, 1) := dk_96 (dk_at dksL_law_16 16 rfl rfl)
theorem dL_law_585 : decode cL_law 585 = .ok (.iaload, 1) := dk_46 (dk_at dksL_law_16 17 rfl rfl)
theorem dL_law_586 : decode cL_law 586 = .ok (.aload_n 0, 1) := dk_42 (dk_at dksL_law_16 18 rfl rfl)
theorem dL_law_587 : decode cL_law 587 = .ok (.iload 4, 2) := dk_21 4 (dk_at dksL_law_16 19 rfl rfl)
theorem dL_law_589 : decode cL_law 589 = .ok (.iconst 2, 1) := dk_5 (dk_at dksL_law_16 21 rfl rfl)
theorem dL_law_590 : decode cL_law 590 = .ok (.iadd, 1) := dk_96 (dk_at dksL_law_16 22 rfl rfl)
theorem dL_law_591 : decode cL_law 591 = .ok (.iaload, 1) := dk_46 (dk_at dksL_law_16 23 rfl rfl)
theorem dL_law_592 : decode cL_law 592 = .ok (.aload_n 0, 1) := dk_42 (dk_at dksL_law_17 0 rfl rfl)
theorem dL_law_593 : decode cL_law 593 = .ok (.iload 4, 2) := dk_21 4 (dk_at dksL_law_17 1 rfl rfl)
theorem dL_law_595 : decode cL_law 595 = .ok (.iconst 3, 1) := dk_6 (dk_at dksL_law_17 3 rfl rfl)
theorem dL_law_596 : decode cL_law 596 = .ok (.iadd, 1) := dk_96 (dk_at dksL_law_17 4 rfl rfl)
theorem dL_law_597 : decode cL_law 597 = .ok (.iaload, 1) := dk_46 (dk_at dksL_law_17 5 rfl rfl)
theorem dL_law_598 : decode cL_law 598 = .ok (.invokevirtual 63, 3) := dk_182 0 63 (dk_at dksL_law_17 6 rfl rfl)
theorem dL_law_601 : decode cL_law 601 = .ok (.if_icmp .eq 1442, 3) := dk_159 5 162 (dk_at dksL_law_17 9 rfl rfl)
theorem dL_law_604 : decode cL_law 604 = .ok (.iconst 0, 1) := dk_3 (dk_at dksL_law_17 12 rfl rfl)
theorem dL_law_605 : decode cL_law 605 = .ok (.ireturn, 1) := dk_172 (dk_at dksL_law_17 13 rfl rfl)
theorem dL_law_606 : decode cL_law 606 = .ok (.aload_n 1, 1) := dk_43 (dk_at dksL_law_17 14 rfl rfl)
theorem dL_law_607 : decode cL_law 607 = .ok (.aload_n 0, 1) := dk_42 (dk_at dksL_law_17 15 rfl rfl)
theorem dL_law_608 : decode cL_law 608 = .ok (.iload 4, 2) := dk_21 4 (dk_at dksL_law_17 16 rfl rfl)
theorem dL_law_610 : decode cL_law 610 = .ok (.iconst 1, 1) := dk_4 (dk_at dksL_law_17 18 rfl rfl)
theorem dL_law_611 : decode cL_law 611 = .ok (.iadd, 1) := dk_96 (dk_at dksL_law_17 19 rfl rfl)
theorem dL_law_612 : decode cL_law 612 = .ok (.iaload, 1) := dk_46 (dk_at dksL_law_17 20 rfl rfl)
theorem dL_law_613 : decode cL_law 613 = .ok (.invokevirtual 64, 3) := dk_182 0 64 (dk_at dksL_law_17 21 rfl rfl)
theorem dL_law_616 : decode cL_law 616 = .ok (.aload_n 2, 1) := dk_44 (dk_at dksL_law_18 0 rfl rfl)
theorem dL_law_617 : decode cL_law 617 = .ok (.aload_n 0, 1) := dk_42 (dk_at dksL_law_18 1 rfl rfl)
theorem dL_law_618 : decode cL_law 618 = .ok (.iload 4, 2) := dk_21 4 (dk_at dksL_law_18 2 rfl rfl)
theorem dL_law_620 : decode cL_law 620 = .ok (.iconst 1, 1) := dk_4 (dk_at dksL_law_18 4 rfl rfl)
theorem dL_law_621 : decode cL_law 621 = .ok (.iadd, 1) := dk_96 (dk_at dksL_law_18 5 rfl rfl)
theorem dL_law_622 : decode cL_law 622 = .ok (.iaload, 1) := dk_46 (dk_at dksL_law_18 6 rfl rfl)
theorem dL_law_623 : decode cL_law 623 = .ok (.invokevirtual 67, 3) := dk_182 0 67 (dk_at dksL_law_18 7 rfl rfl)
theorem dL_law_626 : decode cL_law 626 = .ok (.if_icmp .eq 1417, 3) := dk_159 5 137 (dk_at dksL_law_18 10 rfl rfl)
theorem dL_law_629 : decode cL_law 629 = .ok (.iconst 0, 1) := dk_3 (dk_at dksL_law_18 13 rfl rfl)
theorem dL_law_630 : decode cL_law 630 = .ok (.ireturn, 1) := dk_172 (dk_at dksL_law_18 14 rfl rfl)
theorem dL_law_631 : decode cL_law 631 = .ok (.aload_n 1, 1) := dk_43 (dk_at dksL_law_18 15 rfl rfl)
theorem dL_law_632 : decode cL_law 632 = .ok (.aload_n 0, 1) := dk_42 (dk_at dksL_law_18 16 rfl rfl)
theorem dL_law_633 : decode cL_law 633 = .ok (.iload 4, 2) := dk_21 4 (dk_at dksL_law_18 17 rfl rfl)
theorem dL_law_635 : decode cL_law 635 = .ok (.iconst 1, 1) := dk_4 (dk_at dksL_law_18 19 rfl rfl)
theorem dL_law_636 : decode cL_law 636 = .ok (.iadd, 1) := dk_96 (dk_at dksL_law_18 20 rfl rfl)
theorem dL_law_637 : decode cL_law 637 = .ok (.iaload, 1) := dk_46 (dk_at dksL_law_18 21 rfl rfl)
theorem dL_law_638 : decode cL_law 638 = .ok (.aload_n 0, 1) := dk_42 (dk_at dksL_law_18 22 rfl rfl)
theorem dL_law_639 : decode cL_law 639 = .ok (.iload 4, 2) := dk_21 4 (dk_at dksL_law_19 0 rfl rfl)
theorem dL_law_641 : decode cL_law 641 = .ok (.iconst 2, 1) := dk_5 (dk_at dksL_law_19 2 rfl rfl)
theorem dL_law_642 : decode cL_law 642 = .ok (.iadd, 1) := dk_96 (dk_at dksL_law_19 3 rfl rfl)
theorem dL_law_643 : decode cL_law 643 = .ok (.iaload, 1) := dk_46 (dk_at dksL_law_19 4 rfl rfl)
theorem dL_law_644 : decode cL_law 644 = .ok (.invokevirtual 68, 3) := dk_182 0 68 (dk_at dksL_law_19 5 rfl rfl)
theorem dL_law_647 : decode cL_law 647 = .ok (.aload_n 2, 1) := dk_44 (dk_at dksL_law_19 8 rfl rfl)
theorem dL_law_648 : decode cL_law 648 = .ok (.aload_n 0, 1) := dk_42 (dk_at dksL_law_19 9 rfl rfl)
theorem dL_law_649 : decode cL_law 649 = .ok (.iload 4, 2) := dk_21 4 (dk_at dksL_law_19 10 rfl rfl)
theorem dL_law_651 : decode cL_law 651 = .ok (.iconst 1, 1) := dk_4 (dk_at dksL_law_19 12 rfl rfl)
theorem dL_law_652 : decode cL_law 652 = .ok (.iadd, 1) := dk_96 (dk_at dksL_law_19 13 rfl rfl)
theorem dL_law_653 : decode cL_law 653 = .ok (.iaload, 1) := dk_46 (dk_at dksL_law_19 14 rfl rfl)
theorem dL_law_654 : decode cL_law 654 = .ok (.aload_n 0, 1) := dk_42 (dk_at dksL_law_19 15 rfl rfl)
theorem dL_law_655 : decode cL_law 655 = .ok (.iload 4, 2) := dk_21 4 (dk_at dksL_law_19 16 rfl rfl)
theorem dL_law_657 : decode cL_law 657 = .ok (.iconst 2, 1) := dk_5 (dk_at dksL_law_19 18 rfl rfl)
theorem dL_law_658 : decode cL_law 658 = .ok (.iadd, 1) := dk_96 (dk_at dksL_law_19 19 rfl rfl)
theorem dL_law_659 : decode cL_law 659 = .ok (.iaload, 1) := dk_46 (dk_at dksL_law_19 20 rfl rfl)
theorem dL_law_660 : decode cL_law 660 = .ok (.invokevirtual 71, 3) := dk_182 0 71 (dk_at dksL_law_19 21 rfl rfl)
theorem dL_law_663 : decode cL_law 663 = .ok (.if_icmp .eq 1380, 3) := dk_159 5 100 (dk_at dksL_law_20 0 rfl rfl)
theorem dL_law_666 : decode cL_law 666 = .ok (.iconst 0, 1) := dk_3 (dk_at dksL_law_20 3 rfl rfl)
theorem dL_law_667 : decode cL_law 667 = .ok (.ireturn, 1) := dk_172 (dk_at dksL_law_20 4 rfl rfl)
theorem dL_law_668 : decode cL_law 668 = .ok (.aload_n 1, 1) := dk_43 (dk_at dksL_law_20 5 rfl rfl)
theorem dL_law_669 : decode cL_law 669 = .ok (.aload_n 0, 1) := dk_42 (dk_at dksL_law_20 6 rfl rfl)
theorem dL_law_670 : decode cL_law 670 = .ok (.iload 4, 2) := dk_21 4 (dk_at dksL_law_20 7 rfl rfl)
theorem dL_law_672 : decode cL_law 672 = .ok (.iconst 1, 1) := dk_4 (dk_at dksL_law_20 9 rfl rfl)
theorem dL_law_673 : decode cL_law 673 = .ok (.iadd, 1) := dk_96 (dk_at dksL_law_20 10 rfl rfl)
theorem dL_law_674 : decode cL_law 674 = .ok (.iaload, 1) := dk_46 (dk_at dksL_law_20 11 rfl rfl)
theorem dL_law_675 : decode cL_law 675 = .ok (.aload_n 0, 1) := dk_42 (dk_at dksL_law_20 12 rfl rfl)
theorem dL_law_676 : decode cL_law 676 = .ok (.iload 4, 2) := dk_21 4 (dk_at dksL_law_20 13 rfl rfl)
theorem dL_law_678 : decode cL_law 678 = .ok (.iconst 2, 1) := dk_5 (dk_at dksL_law_20 15 rfl rfl)
theorem dL_law_679 : decode cL_law 679 = .ok (.iadd, 1) := dk_96 (dk_at dksL_law_20 16 rfl rfl)
theorem dL_law_680 : decode cL_law 680 = .ok (.iaload, 1) := dk_46 (dk_at dksL_law_20 17 rfl rfl)
theorem dL_law_681 : decode cL_law 681 = .ok (.aload_n 0, 1) := dk_42 (dk_at dksL_law_20 18 rfl rfl)
theorem dL_law_682 : decode cL_law 682 = .ok (.iload 4, 2) := dk_21 4 (dk_at dksL_law_20 19 rfl rfl)
theorem dL_law_684 : decode cL_law 684 = .ok (.iconst 3, 1) := dk_6 (dk_at dksL_law_20 21 rfl rfl)
theorem dL_law_685 : decode cL_law 685 = .ok (.iadd, 1) := dk_96 (dk_at dksL_law_20 22 rfl rfl)
theorem dL_law_686 : decode cL_law 686 = .ok (.iaload, 1) := dk_46 (dk_at dksL_law_20 23 rfl rfl)
theorem dL_law_687 : decode cL_law 687 = .ok (.invokevirtual 72, 3) := dk_182 0 72 (dk_at dksL_law_21 0 rfl rfl)
theorem dL_law_690 : decode cL_law 690 = .ok (.aload_n 2, 1) := dk_44 (dk_at dksL_law_21 3 rfl rfl)
theorem dL_law_691 : decode cL_law 691 = .ok (.aload_n 0, 1) := dk_42 (dk_at dksL_law_21 4 rfl rfl)
theorem dL_law_692 : decode cL_law 692 = .ok (.iload 4, 2) := dk_21 4 (dk_at dksL_law_21 5 rfl rfl)
theorem dL_law_694 : decode cL_law 694 = .ok (.iconst 1, 1) := dk_4 (dk_at dksL_law_21 7 rfl rfl)
theorem dL_law_695 : decode cL_law 695 = .ok (.iadd, 1) := dk_96 (dk_at dksL_law_21 8 rfl rfl)
theorem dL_law_696 : decode cL_law 696 = .ok (.iaload, 1) := dk_46 (dk_at dksL_law_21 9 rfl rfl)
theorem dL_law_697 : decode cL_law 697 = .ok (.aload_n 0, 1) := dk_42 (dk_at dksL_law_21 10 rfl rfl)
theorem dL_law_698 : decode cL_law 698 = .ok (.iload 4, 2) := dk_21 4 (dk_at dksL_law_21 11 rfl rfl)
theorem dL_law_700 : decode cL_law 700 = .ok (.iconst 2, 1) := dk_5 (dk_at dksL_law_21 13 rfl rfl)
theorem dL_law_701 : decode cL_law 701 = .ok (.iadd, 1) := dk_96 (dk_at dksL_law_21 14 rfl rfl)
theorem dL_law_702 : decode cL_law 702 = .ok (.iaload, 1) := dk_46 (dk_at dksL_law_21 15 rfl rfl)
theorem dL_law_703 : decode cL_law 703 = .ok (.aload_n 0, 1) := dk_42 (dk_at dksL_law_21 16 rfl rfl)
theorem dL_law_704 : decode cL_law 704 = .ok (.iload 4, 2) := dk_21 4 (dk_at dksL_law_21 17 rfl rfl)
theorem dL_law_706 : decode cL_law 706 = .ok (.iconst 3, 1) := dk_6 (dk_at dksL_law_21 19 rfl rfl)
theorem dL_law_707 : decode cL_law 707 = .ok (.iadd, 1) := dk_96 (dk_at dksL_law_21 20 rfl rfl)
theorem dL_law_708 : decode cL_law 708 = .ok (.iaload, 1) := dk_46 (dk_at dksL_law_21 21 rfl rfl)
theorem dL_law_709 : decode cL_law 709 = .ok (.invokevirtual 75, 3) := dk_182 0 75 (dk_at dksL_law_22 0 rfl rfl)
theorem dL_law_712 : decode cL_law 712 = .ok (.if_icmp .eq 1331, 3) := dk_159 5 51 (dk_at dksL_law_22 3 rfl rfl)
theorem dL_law_715 : decode cL_law 715 = .ok (.iconst 0, 1) := dk_3 (dk_at dksL_law_22 6 rfl rfl)
theorem dL_law_716 : decode cL_law 716 = .ok (.ireturn, 1) := dk_172 (dk_at dksL_law_22 7 rfl rfl)
theorem dL_law_717 : decode cL_law 717 = .ok (.aload_n 1, 1) := dk_43 (dk_at dksL_law_22 8 rfl rfl)
theorem dL_law_718 : decode cL_law 718 = .ok (.aload_n 0, 1) := dk_42 (dk_at dksL_law_22 9 rfl rfl)
theorem dL_law_719 : decode cL_law 719 = .ok (.iload 4, 2) := dk_21 4 (dk_at dksL_law_22 10 rfl rfl)
theorem dL_law_721 : decode cL_law 721 = .ok (.iconst 1, 1) := dk_4 (dk_at dksL_law_22 12 rfl rfl)
theorem dL_law_722 : decode cL_law 722 = .ok (.iadd, 1) := dk_96 (dk_at dksL_law_22 13 rfl rfl)
theorem dL_law_723 : decode cL_law 723 = .ok (.iaload, 1) := dk_46 (dk_at dksL_law_22 14 rfl rfl)
theorem dL_law_724 : decode cL_law 724 = .ok (.aload_n 0, 1) := dk_42 (dk_at dksL_law_22 15 rfl rfl)
theorem dL_law_725 : decode cL_law 725 = .ok (.iload 4, 2) := dk_21 4 (dk_at dksL_law_22 16 rfl rfl)
theorem dL_law_727 : decode cL_law 727 = .ok (.iconst 2, 1) := dk_5 (dk_at dksL_law_22 18 rfl rfl)
theorem dL_law_728 : decode cL_law 728 = .ok (.iadd, 1) := dk_96 (dk_at dksL_law_22 19 rfl rfl)
theorem dL_law_729 : decode cL_law 729 = .ok (.iaload, 1) := dk_46 (dk_at dksL_law_22 20 rfl rfl)
theorem dL_law_730 : decode cL_law 730 = .ok (.aload_n 0, 1) := dk_42 (dk_at dksL_law_22 21 rfl rfl)
theorem dL_law_731 : decode cL_law 731 = .ok (.iload 4, 2) := dk_21 4 (dk_at dksL_law_22 22 rfl rfl)
theorem dL_law_733 : decode cL_law 733 = .ok (.iconst 3, 1) := dk_6 (dk_at dksL_law_23 0 rfl rfl)
theorem dL_law_734 : decode cL_law 734 = .ok (.iadd, 1) := dk_96 (dk_at dksL_law_23 1 rfl rfl)
theorem dL_law_735 : decode cL_law 735 = .ok (.iaload, 1) := dk_46 (dk_at dksL_law_23 2 rfl rfl)
theorem dL_law_736 : decode cL_law 736 = .ok (.invokevirtual 76, 3) := dk_182 0 76 (dk_at dksL_law_23 3 rfl rfl)
theorem dL_law_739 : decode cL_law 739 = .ok (.aload_n 2, 1) := dk_44 (dk_at dksL_law_23 6 rfl rfl)
theorem dL_law_740 : decode cL_law 740 = .ok (.aload_n 0, 1) := dk_42 (dk_at dksL_law_23 7 rfl rfl)
theorem dL_law_741 : decode cL_law 741 = .ok (.iload 4, 2) := dk_21 4 (dk_at dksL_law_23 8 rfl rfl)
theorem dL_law_743 : decode cL_law 743 = .ok (.iconst 1, 1) := dk_4 (dk_at dksL_law_23 10 rfl rfl)
theorem dL_law_744 : decode cL_law 744 = .ok (.iadd, 1) := dk_96 (dk_at dksL_law_23 11 rfl rfl)
theorem dL_law_745 : decode cL_law 745 = .ok (.iaload, 1) := dk_46 (dk_at dksL_law_23 12 rfl rfl)
theorem dL_law_746 : decode cL_law 746 = .ok (.aload_n 0, 1) := dk_42 (dk_at dksL_law_23 13 rfl rfl)
theorem dL_law_747 : decode cL_law 747 = .ok (.iload 4, 2) := dk_21 4 (dk_at dksL_law_23 14 rfl rfl)
theorem dL_law_749 : decode cL_law 749 = .ok (.iconst 2, 1) := dk_5 (dk_at dksL_law_23 16 rfl rfl)
theorem dL_law_750 : decode cL_law 750 = .ok (.iadd, 1) := dk_96 (dk_at dksL_law_23 17 rfl rfl)
theorem dL_law_751 : decode cL_law 751 = .ok (.iaload, 1) := dk_46 (dk_at dksL_law_23 18 rfl rfl)
theorem dL_law_752 : decode cL_law 752 = .ok (.aload_n 0, 1) := dk_42 (dk_at dksL_law_23 19 rfl rfl)
theorem dL_law_753 : decode cL_law 753 = .ok (.iload 4, 2) := dk_21 4 (dk_at dksL_law_23 20 rfl rfl)
theorem dL_law_755 : decode cL_law 755 = .ok (.iconst 3, 1) := dk_6 (dk_at dksL_law_23 22 rfl rfl)
theorem dL_law_756 : decode cL_law 756 = .ok (.iadd, 1) := dk_96 (dk_at dksL_law_23 23 rfl rfl)
theorem dL_law_757 : decode cL_law 757 = .ok (.iaload, 1) := dk_46 (dk_at dksL_law_24 0 rfl rfl)
theorem dL_law_758 : decode cL_law 758 = .ok (.invokevirtual 79, 3) := dk_182 0 79 (dk_at dksL_law_24 1 rfl rfl)
theorem dL_law_761 : decode cL_law 761 = .ok (.if_icmp .eq 1282, 3) := dk_159 5 2 (dk_at dksL_law_24 4 rfl rfl)
theorem dL_law_764 : decode cL_law 764 = .ok (.iconst 0, 1) := dk_3 (dk_at dksL_law_24 7 rfl rfl)
theorem dL_law_765 : decode cL_law 765 = .ok (.ireturn, 1) := dk_172 (dk_at dksL_law_24 8 rfl rfl)
theorem dL_law_766 : decode cL_law 766 = .ok (.aload_n 1, 1) := dk_43 (dk_at dksL_law_24 9 rfl rfl)
theorem dL_law_767 : decode cL_law 767 = .ok (.aload_n 0, 1) := dk_42 (dk_at dksL_law_24 10 rfl rfl)
theorem dL_law_768 : decode cL_law 768 = .ok (.iload 4, 2) := dk_21 4 (dk_at dksL_law_24 11 rfl rfl)
theorem dL_law_770 : decode cL_law 770 = .ok (.iconst 1, 1) := dk_4 (dk_at dksL_law_24 13 rfl rfl)
theorem dL_law_771 : decode cL_law 771 = .ok (.iadd, 1) := dk_96 (dk_at dksL_law_24 14 rfl rfl)
theorem dL_law_772 : decode cL_law 772 = .ok (.iaload, 1) := dk_46 (dk_at dksL_law_24 15 rfl rfl)
theorem dL_law_773 : decode cL_law 773 = .ok (.aload_n 0, 1) := dk_42 (dk_at dksL_law_24 16 rfl rfl)
theorem dL_law_774 : decode cL_law 774 = .ok (.iload 4, 2) := dk_21 4 (dk_at dksL_law_24 17 rfl rfl)
theorem dL_law_776 : decode cL_law 776 = .ok (.iconst 2, 1) := dk_5 (dk_at dksL_law_24 19 rfl rfl)
theorem dL_law_777 : decode cL_law 777 = .ok (.iadd, 1) := dk_96 (dk_at dksL_law_24 20 rfl rfl)
theorem dL_law_778 : decode cL_law 778 = .ok (.iaload, 1) := dk_46 (dk_at dksL_law_24 21 rfl rfl)
theorem dL_law_779 : decode cL_law 779 = .ok (.aload_n 0, 1) := dk_42 (dk_at dksL_law_24 22 rfl rfl)
theorem dL_law_780 : decode cL_law 780 = .ok (.iload 4, 2) := dk_21 4 (dk_at dksL_law_25 0 rfl rfl)
theorem dL_law_782 : decode cL_law 782 = .ok (.iconst 3, 1) := dk_6 (dk_at dksL_law_25 2 rfl rfl)
theorem dL_law_783 : decode cL_law 783 = .ok (.iadd, 1) := dk_96 (dk_at dksL_law_25 3 rfl rfl)
theorem dL_law_784 : decode cL_law 784 = .ok (.iaload, 1) := dk_46 (dk_at dksL_law_25 4 rfl rfl)
theorem dL_law_785 : decode cL_law 785 = .ok (.aload_n 0, 1) := dk_42 (dk_at dksL_law_25 5 rfl rfl)
theorem dL_law_786 : decode cL_law 786 = .ok (.iload 4, 2) := dk_21 4 (dk_at dksL_law_25 6 rfl rfl)
theorem dL_law_788 : decode cL_law 788 = .ok (.iconst 4, 1) := dk_7 (dk_at dksL_law_25 8 rfl rfl)
theorem dL_law_789 : decode cL_law 789 = .ok (.iadd, 1) := dk_96 (dk_at dksL_law_25 9 rfl rfl)
theorem dL_law_790 : decode cL_law 790 = .ok (.iaload, 1) := dk_46 (dk_at dksL_law_25 10 rfl rfl)
theorem dL_law_791 : decode cL_law 791 = .ok (.invokevirtual 80, 3) := dk_182 0 80 (dk_at dksL_law_25 11 rfl rfl)
theorem dL_law_794 : decode cL_law 794 = .ok (.aload_n 2, 1) := dk_44 (dk_at dksL_law_25 14 rfl rfl)
theorem dL_law_795 : decode cL_law 795 = .ok (.aload_n 0, 1) := dk_42 (dk_at dksL_law_25 15 rfl rfl)
theorem dL_law_796 : decode cL_law 796 = .ok (.iload 4, 2) := dk_21 4 (dk_at dksL_law_25 16 rfl rfl)
theorem dL_law_798 : decode cL_law 798 = .ok (.iconst 1, 1) := dk_4 (dk_at dksL_law_25 18 rfl rfl)
theorem dL_law_799 : decode cL_law 799 = .ok (.iadd, 1) := dk_96 (dk_at dksL_law_25 19 rfl rfl)
theorem dL_law_800 : decode cL_law 800 = .ok (.iaload, 1) := dk_46 (dk_at dksL_law_25 20 rfl rfl)
theorem dL_law_801 : decode cL_law 801 = .ok (.aload_n 0, 1) := dk_42 (dk_at dksL_law_25 21 rfl rfl)
theorem dL_law_802 : decode cL_law 802 = .ok (.iload 4, 2) := dk_21 4 (dk_at dksL_law_25 22 rfl rfl)
theorem dL_law_804 : decode cL_law 804 = .ok (.iconst 2, 1) := dk_5 (dk_at dksL_law_26 0 rfl rfl)
theorem dL_law_805 : decode cL_law 805 = .ok (.iadd, 1) := dk_96 (dk_at dksL_law_26 1 rfl rfl)
theorem dL_law_806 : decode cL_law 806 = .ok (.iaload, 1) := dk_46 (dk_at dksL_law_26 2 rfl rfl)
theorem dL_law_807 : decode cL_law 807 = .ok (.aload_n 0, 1) := dk_42 (dk_at dksL_law_26 3 rfl rfl)
theorem dL_law_808 : decode cL_law 808 = .ok (.iload 4, 2) := dk_21 4 (dk_at dksL_law_26 4 rfl rfl)
theorem dL_law_810 : decode cL_law 810 = .ok (.iconst 3, 1) := dk_6 (dk_at dksL_law_26 6 rfl rfl)
theorem dL_law_811 : decode cL_law 811 = .ok (.iadd, 1) := dk_96 (dk_at dksL_law_26 7 rfl rfl)
theorem dL_law_812 : decode cL_law 812 = .ok (.iaload, 1) := dk_46 (dk_at dksL_law_26 8 rfl rfl)
theorem dL_law_813 : decode cL_law 813 = .ok (.aload_n 0, 1) := dk_42 (dk_at dksL_law_26 9 rfl rfl)
theorem dL_law_814 : decode cL_law 814 = .ok (.iload 4, 2) := dk_21 4 (dk_at dksL_law_26 10 rfl rfl)
theorem dL_law_816 : decode cL_law 816 = .ok (.iconst 4, 1) := dk_7 (dk_at dksL_law_26 12 rfl rfl)
theorem dL_law_817 : decode cL_law 817 = .ok (.iadd, 1) := dk_96 (dk_at dksL_law_26 13 rfl rfl)
theorem dL_law_818 : decode cL_law 818 = .ok (.iaload, 1) := dk_46 (dk_at dksL_law_26 14 rfl rfl)
theorem dL_law_819 : decode cL_law 819 = .ok (.invokevirtual 84, 3) := dk_182 0 84 (dk_at dksL_law_26 15 rfl rfl)
theorem dL_law_822 : decode cL_law 822 = .ok (.if_icmp .eq 1221, 3) := dk_159 4 197 (dk_at dksL_law_26 18 rfl rfl)
theorem dL_law_825 : decode cL_law 825 = .ok (.iconst 0, 1) := dk_3 (dk_at dksL_law_26 21 rfl rfl)
theorem dL_law_826 : decode cL_law 826 = .ok (.ireturn, 1) := dk_172 (dk_at dksL_law_26 22 rfl rfl)
theorem dL_law_827 : decode cL_law 827 = .ok (.aload_n 1, 1) := dk_43 (dk_at dksL_law_26 23 rfl rfl)
theorem dL_law_828 : decode cL_law 828 = .ok (.aload_n 0, 1) := dk_42 (dk_at dksL_law_27 0 rfl rfl)
theorem dL_law_829 : decode cL_law 829 = .ok (.iload 4, 2) := dk_21 4 (dk_at dksL_law_27 1 rfl rfl)
theorem dL_law_831 : decode cL_law 831 = .ok (.iconst 1, 1) := dk_4 (dk_at dksL_law_27 3 rfl rfl)
theorem dL_law_832 : decode cL_law 832 = .ok (.iadd, 1) := dk_96 (dk_at dksL_law_27 4 rfl rfl)
theorem dL_law_833 : decode cL_law 833 = .ok (.iaload, 1) := dk_46 (dk_at dksL_law_27 5 rfl rfl)
theorem dL_law_834 : decode cL_law 834 = .ok (.aload_n 0, 1) := dk_42 (dk_at dksL_law_27 6 rfl rfl)
theorem dL_law_835 : decode cL_law 835 = .ok (.iload 4, 2) := dk_21 4 (dk_at dksL_law_27 7 rfl rfl)
theorem dL_law_837 : decode cL_law 837 = .ok (.iconst 2, 1) := dk_5 (dk_at dksL_law_27 9 rfl rfl)
theorem dL_law_838 : decode cL_law 838 = .ok (.iadd, 1) := dk_96 (dk_at dksL_law_27 10 rfl rfl)
theorem dL_law_839 : decode cL_law 839 = .ok (.iaload, 1) := dk_46 (dk_at dksL_law_27 11 rfl rfl)
theorem dL_law_840 : decode cL_law 840 = .ok (.invokevirtual 85, 3) := dk_182 0 85 (dk_at dksL_law_27 12 rfl rfl)
theorem dL_law_843 : decode cL_law 843 = .ok (.aload_n 2, 1) := dk_44 (dk_at dksL_law_27 15 rfl rfl)
theorem dL_law_844 : decode cL_law 844 = .ok (.aload_n 0, 1) := dk_42 (dk_at dksL_law_27 16 rfl rfl)
theorem dL_law_845 : decode cL_law 845 = .ok (.iload 4, 2) := dk_21 4 (dk_at dksL_law_27 17 rfl rfl)
theorem dL_law_847 : decode cL_law 847 = .ok (.iconst 1, 1) := dk_4 (dk_at dksL_law_27 19 rfl rfl)
theorem dL_law_848 : decode cL_law 848 = .ok (.iadd, 1) := dk_96 (dk_at dksL_law_27 20 rfl rfl)
theorem dL_law_849 : decode cL_law 849 = .ok (.iaload, 1) := dk_46 (dk_at dksL_law_27 21 rfl rfl)
theorem dL_law_850 : decode cL_law 850 = .ok (.aload_n 0, 1) := dk_42 (dk_at dksL_law_27 22 rfl rfl)
theorem dL_law_851 : decode cL_law 851 = .ok (.iload 4, 2) := dk_21 4 (dk_at dksL_law_28 0 rfl rfl)
theorem dL_law_853 : decode cL_law 853 = .ok (.iconst 2, 1) := dk_5 (dk_at dksL_law_28 2 rfl rfl)
theorem dL_law_854 : decode cL_law 854 = .ok (.iadd, 1) := dk_96 (dk_at dksL_law_28 3 rfl rfl)
theorem dL_law_855 : decode cL_law 855 = .ok (.iaload, 1) := dk_46 (dk_at dksL_law_28 4 rfl rfl)
theorem dL_law_856 : decode cL_law 856 = .ok (.invokevirtual 88, 3) := dk_182 0 88 (dk_at dksL_law_28 5 rfl rfl)
theorem dL_law_859 : decode cL_law 859 = .ok (.if_icmp .eq 1184, 3) := dk_159 4 160 (dk_at dksL_law_28 8 rfl rfl)
theorem dL_law_862 : decode cL_law 862 = .ok (.iconst 0, 1) := dk_3 (dk_at dksL_law_28 11 rfl rfl)
theorem dL_law_863 : decode cL_law 863 = .ok (.ireturn, 1) := dk_172 (dk_at dksL_law_28 12 rfl rfl)
theorem dL_law_864 : decode cL_law 864 = .ok (.aload_n 1, 1) := dk_43 (dk_at dksL_law_28 13 rfl rfl)
theorem dL_law_865 : decode cL_law 865 = .ok (.aload_n 0, 1) := dk_42 (dk_at dksL_law_28 14 rfl rfl)
theorem dL_law_866 : decode cL_law 866 = .ok (.iload 4, 2) := dk_21 4 (dk_at dksL_law_28 15 rfl rfl)
theorem dL_law_868 : decode cL_law 868 = .ok (.iconst 1, 1) := dk_4 (dk_at dksL_law_28 17 rfl rfl)
theorem dL_law_869 : decode cL_law 869 = .ok (.iadd, 1) := dk_96 (dk_at dksL_law_28 18 rfl rfl)
theorem dL_law_870 : decode cL_law 870 = .ok (.iaload, 1) := dk_46 (dk_at dksL_law_28 19 rfl rfl)
theorem dL_law_871 : decode cL_law 871 = .ok (.aload_n 0, 1) := dk_42 (dk_at dksL_law_28 20 rfl rfl)
theorem dL_law_872 : decode cL_law 872 = .ok (.iload 4, 2) := dk_21 4 (dk_at dksL_law_28 21 rfl rfl)
theorem dL_law_874 : decode cL_law 874 = .ok (.iconst 2, 1) := dk_5 (dk_at dksL_law_28 23 rfl rfl)
theorem dL_law_875 : decode cL_law 875 = .ok (.iadd, 1) := dk_96 (dk_at dksL_law_29 0 rfl rfl)
theorem dL_law_876 : decode cL_law 876 = .ok (.iaload, 1) := dk_46 (dk_at dksL_law_29 1 rfl rfl)
theorem dL_law_877 : decode cL_law 877 = .ok (.aload_n 0, 1) := dk_42 (dk_at dksL_law_29 2 rfl rfl)
theorem dL_law_878 : decode cL_law 878 = .ok (.iload 4, 2) := dk_21 4 (dk_at dksL_law_29 3 rfl rfl)
theorem dL_law_880 : decode cL_law 880 = .ok (.iconst 3, 1) := dk_6 (dk_at dksL_law_29 5 rfl rfl)
theorem dL_law_881 : decode cL_law 881 = .ok (.iadd, 1) := dk_96 (dk_at dksL_law_29 6 rfl rfl)
theorem dL_law_882 : decode cL_law 882 = .ok (.iaload, 1) := dk_46 (dk_at dksL_law_29 7 rfl rfl)
theorem dL_law_883 : decode cL_law 883 = .ok (.invokevirtual 89, 3) := dk_182 0 89 (dk_at dksL_law_29 8 rfl rfl)
theorem dL_law_886 : decode cL_law 886 = .ok (.aload_n 2, 1) := dk_44 (dk_at dksL_law_29 11 rfl rfl)
theorem dL_law_887 : decode cL_law 887 = .ok (.aload_n 0, 1) := dk_42 (dk_at dksL_law_29 12 rfl rfl)
theorem dL_law_888 : decode cL_law 888 = .ok (.iload 4, 2) := dk_21 4 (dk_at dksL_law_29 13 rfl rfl)
theorem dL_law_890 : decode cL_law 890 = .ok (.iconst 1, 1) := dk_4 (dk_at dksL_law_29 15 rfl rfl)
theorem dL_law_891 : decode cL_law 891 = .ok (.iadd, 1) := dk_96 (dk_at dksL_law_29 16 rfl rfl)
theorem dL_law_892 : decode cL_law 892 = .ok (.iaload, 1) := dk_46 (dk_at dksL_law_29 17 rfl rfl)
theorem dL_law_893 : decode cL_law 893 = .ok (.aload_n 0, 1) := dk_42 (dk_at dksL_law_29 18 rfl rfl)
theorem dL_law_894 : decode cL_law 894 = .ok (.iload 4, 2) := dk_21 4 (dk_at dksL_law_29 19 rfl rfl)
theorem dL_law_896 : decode cL_law 896 = .ok (.iconst 2, 1) := dk_5 (dk_at dksL_law_29 21 rfl rfl)
theorem dL_law_897 : decode cL_law 897 = .ok (.iadd, 1) := dk_96 (dk_at dksL_law_29 22 rfl rfl)
theorem dL_law_898 : decode cL_law 898 = .ok (.iaload, 1) := dk_46 (dk_at dksL_law_29 23 rfl rfl)
theorem dL_law_899 : decode cL_law 899 = .ok (.aload_n 0, 1) := dk_42 (dk_at dksL_law_30 0 rfl rfl)
theorem dL_law_900 : decode cL_law 900 = .ok (.iload 4, 2) := dk_21 4 (dk_at dksL_law_30 1 rfl rfl)
theorem dL_law_902 : decode cL_law 902 = .ok (.iconst 3, 1) := dk_6 (dk_at dksL_law_30 3 rfl rfl)
theorem dL_law_903 : decode cL_law 903 = .ok (.iadd, 1) := dk_96 (dk_at dksL_law_30 4 rfl rfl)
theorem dL_law_904 : decode cL_law 904 = .ok (.iaload, 1) := dk_46 (dk_at dksL_law_30 5 rfl rfl)
theorem dL_law_905 : decode cL_law 905 = .ok (.invokevirtual 92, 3) := dk_182 0 92 (dk_at dksL_law_30 6 rfl rfl)
theorem dL_law_908 : decode cL_law 908 = .ok (.if_icmp .eq 1135, 3) := dk_159 4 111 (dk_at dksL_law_30 9 rfl rfl)
theorem dL_law_911 : decode cL_law 911 = .ok (.iconst 0, 1) := dk_3 (dk_at dksL_law_30 12 rfl rfl)
theorem dL_law_912 : decode cL_law 912 = .ok (.ireturn, 1) := dk_172 (dk_at dksL_law_30 13 rfl rfl)
theorem dL_law_913 : decode cL_law 913 = .ok (.aload_n 1, 1) := dk_43 (dk_at dksL_law_30 14 rfl rfl)
theorem dL_law_914 : decode cL_law 914 = .ok (.aload_n 0, 1) := dk_42 (dk_at dksL_law_30 15 rfl rfl)
theorem dL_law_915 : decode cL_law 915 = .ok (.iload 4, 2) := dk_21 4 (dk_at dksL_law_30 16 rfl rfl)
theorem dL_law_917 : decode cL_law 917 = .ok (.iconst 1, 1) := dk_4 (dk_at dksL_law_30 18 rfl rfl)
theorem dL_law_918 : decode cL_law 918 = .ok (.iadd, 1) := dk_96 (dk_at dksL_law_30 19 rfl rfl)
theorem dL_law_919 : decode cL_law 919 = .ok (.iaload, 1) := dk_46 (dk_at dksL_law_30 20 rfl rfl)
theorem dL_law_920 : decode cL_law 920 = .ok (.aload_n 0, 1) := dk_42 (dk_at dksL_law_30 21 rfl rfl)
theorem dL_law_921 : decode cL_law 921 = .ok (.iload 4, 2) := dk_21 4 (dk_at dksL_law_30 22 rfl rfl)
theorem dL_law_923 : decode cL_law 923 = .ok (.iconst 2, 1) := dk_5 (dk_at dksL_law_31 0 rfl rfl)
theorem dL_law_924 : decode cL_law 924 = .ok (.iadd, 1) := dk_96 (dk_at dksL_law_31 1 rfl rfl)
theorem dL_law_925 : decode cL_law 925 = .ok (.iaload, 1) := dk_46 (dk_at dksL_law_31 2 rfl rfl)
theorem dL_law_926 : decode cL_law 926 = .ok (.aload_n 0, 1) := dk_42 (dk_at dksL_law_31 3 rfl rfl)
theorem dL_law_927 : decode cL_law 927 = .ok (.iload 4, 2) := dk_21 4 (dk_at dksL_law_31 4 rfl rfl)
theorem dL_law_929 : decode cL_law 929 = .ok (.iconst 3, 1) := dk_6 (dk_at dksL_law_31 6 rfl rfl)
theorem dL_law_930 : decode cL_law 930 = .ok (.iadd, 1) := dk_96 (dk_at dksL_law_31 7 rfl rfl)
theorem dL_law_931 : decode cL_law 931 = .ok (.iaload, 1) := dk_46 (dk_at dksL_law_31 8 rfl rfl)
theorem dL_law_932 : decode cL_law 932 = .ok (.invokevirtual 93, 3) := dk_182 0 93 (dk_at dksL_law_31 9 rfl rfl)
theorem dL_law_935 : decode cL_law 935 = .ok (.aload_n 2, 1) := dk_44 (dk_at dksL_law_31 12 rfl rfl)
theorem dL_law_936 : decode cL_law 936 = .ok (.aload_n 0, 1) := dk_42 (dk_at dksL_law_31 13 rfl rfl)
theorem dL_law_937 : decode cL_law 937 = .ok (.iload 4, 2) := dk_21 4 (dk_at dksL_law_31 14 rfl rfl)
theorem dL_law_939 : decode cL_law 939 = .ok (.iconst 1, 1) := dk_4 (dk_at dksL_law_31 16 rfl rfl)
theorem dL_law_940 : decode cL_law 940 = .ok (.iadd, 1) := dk_96 (dk_at dksL_law_31 17 rfl rfl)
theorem dL_law_941 : decode cL_law 941 = .ok (.iaload, 1) := dk_46 (dk_at dksL_law_31 18 rfl rfl)
theorem dL_law_942 : decode cL_law 942 = .ok (.aload_n 0, 1) := dk_42 (dk_at dksL_law_31 19 rfl rfl)
theorem dL_law_943 : decode cL_law 943 = .ok (.iload 4, 2) := dk_21 4 (dk_at dksL_law_31 20 rfl rfl)
theorem dL_law_945 : decode cL_law 945 = .ok (.iconst 2, 1) := dk_5 (dk_at dksL_law_31 22 rfl rfl)
theorem dL_law_946 : decode cL_law 946 = .ok (.iadd, 1) := dk_96 (dk_at dksL_law_31 23 rfl rfl)
theorem dL_law_947 : decode cL_law 947 = .ok (.iaload, 1) := dk_46 (dk_at dksL_law_32 0 rfl rfl)
theorem dL_law_948 : decode cL_law 948 = .ok (.aload_n 0, 1) := dk_42 (dk_at dksL_law_32 1 rfl rfl)
theorem dL_law_949 : decode cL_law 949 = .ok (.iload 4, 2) := dk_21 4 (dk_at dksL_law_32 2 rfl rfl)
theorem dL_law_951 : decode cL_law 951 = .ok (.iconst 3, 1) := dk_6 (dk_at dksL_law_32 4 rfl rfl)
theorem dL_law_952 : decode cL_law 952 = .ok (.iadd, 1) := dk_96 (dk_at dksL_law_32 5 rfl rfl)
theorem dL_law_953 : decode cL_law 953 = .ok (.iaload, 1) := dk_46 (dk_at dksL_law_32 6 rfl rfl)
theorem dL_law_954 : decode cL_law 954 = .ok (.invokevirtual 96, 3) := dk_182 0 96 (dk_at dksL_law_32 7 rfl rfl)
theorem dL_law_957 : decode cL_law 957 = .ok (.if_icmp .eq 1086, 3) := dk_159 4 62 (dk_at dksL_law_32 10 rfl rfl)
theorem dL_law_960 : decode cL_law 960 = .ok (.iconst 0, 1) := dk_3 (dk_at dksL_law_32 13 rfl rfl)
theorem dL_law_961 : decode cL_law 961 = .ok (.ireturn, 1) := dk_172 (dk_at dksL_law_32 14 rfl rfl)
theorem dL_law_962 : decode cL_law 962 = .ok (.aload_n 1, 1) := dk_43 (dk_at dksL_law_32 15 rfl rfl)
theorem dL_law_963 : decode cL_law 963 = .ok (.aload_n 0, 1) := dk_42 (dk_at dksL_law_32 16 rfl rfl)
theorem dL_law_964 : decode cL_law 964 = .ok (.iload 4, 2) := dk_21 4 (dk_at dksL_law_32 17 rfl rfl)
theorem dL_law_966 : decode cL_law 966 = .ok (.iconst 1, 1) := dk_4 (dk_at dksL_law_32 19 rfl rfl)
theorem dL_law_967 : decode cL_law 967 = .ok (.iadd, 1) := dk_96 (dk_at dksL_law_32 20 rfl rfl)
theorem dL_law_968 : decode cL_law 968 = .ok (.iaload, 1) := dk_46 (dk_at dksL_law_32 21 rfl rfl)
theorem dL_law_969 : decode cL_law 969 = .ok (.aload_n 0, 1) := dk_42 (dk_at dksL_law_32 22 rfl rfl)
theorem dL_law_970 : decode cL_law 970 = .ok (.iload 4, 2) := dk_21 4 (dk_at dksL_law_33 0 rfl rfl)
theorem dL_law_972 : decode cL_law 972 = .ok (.iconst 2, 1) := dk_5 (dk_at dksL_law_33 2 rfl rfl)
theorem dL_law_973 : decode cL_law 973 = .ok (.iadd, 1) := dk_96 (dk_at dksL_law_33 3 rfl rfl)
theorem dL_law_974 : decode cL_law 974 = .ok (.iaload, 1) := dk_46 (dk_at dksL_law_33 4 rfl rfl)
theorem dL_law_975 : decode cL_law 975 = .ok (.invokevirtual 97, 3) := dk_182 0 97 (dk_at dksL_law_33 5 rfl rfl)
theorem dL_law_978 : decode cL_law 978 = .ok (.aload_n 2, 1) := dk_44 (dk_at dksL_law_33 8 rfl rfl)
theorem dL_law_979 : decode cL_law 979 = .ok (.aload_n 0, 1) := dk_42 (dk_at dksL_law_33 9 rfl rfl)
theorem dL_law_980 : decode cL_law 980 = .ok (.iload 4, 2) := dk_21 4 (dk_at dksL_law_33 10 rfl rfl)
theorem dL_law_982 : decode cL_law 982 = .ok (.iconst 1, 1) := dk_4 (dk_at dksL_law_33 12 rfl rfl)
theorem dL_law_983 : decode cL_law 983 = .ok (.iadd, 1) := dk_96 (dk_at dksL_law_33 13 rfl rfl)
theorem dL_law_984 : decode cL_law 984 = .ok (.iaload, 1) := dk_46 (dk_at dksL_law_33 14 rfl rfl)
theorem dL_law_985 : decode cL_law 985 = .ok (.aload_n 0, 1) := dk_42 (dk_at dksL_law_33 15 rfl rfl)
theorem dL_law_986 : decode cL_law 986 = .ok (.iload 4, 2) := dk_21 4 (dk_at dksL_law_33 16 rfl rfl)
theorem dL_law_988 : decode cL_law 988 = .ok (.iconst 2, 1) := dk_5 (dk_at dksL_law_33 18 rfl rfl)
theorem dL_law_989 : decode cL_law 989 = .ok (.iadd, 1) := dk_96 (dk_at dksL_law_33 19 rfl rfl)
theorem dL_law_990 : decode cL_law 990 = .ok (.iaload, 1) := dk_46 (dk_at dksL_law_33 20 rfl rfl)
theorem dL_law_991 : decode cL_law 991 = .ok (.invokevirtual 100, 3) := dk_182 0 100 (dk_at dksL_law_33 21 rfl rfl)
theorem dL_law_994 : decode cL_law 994 = .ok (.if_icmp .eq 1049, 3) := dk_159 4 25 (dk_at dksL_law_34 0 rfl rfl)
theorem dL_law_997 : decode cL_law 997 = .ok (.iconst 0, 1) := dk_3 (dk_at dksL_law_34 3 rfl rfl)
theorem dL_law_998 : decode cL_law 998 = .ok (.ireturn, 1) := dk_172 (dk_at dksL_law_34 4 rfl rfl)
theorem dL_law_999 : decode cL_law 999 = .ok (.aload_n 1, 1) := dk_43 (dk_at dksL_law_34 5 rfl rfl)
theorem dL_law_1000 : decode cL_law 1000 = .ok (.invokevirtual 101, 3) := dk_182 0 101 (dk_at dksL_law_34 6 rfl rfl)
theorem dL_law_1003 : decode cL_law 1003 = .ok (.aload_n 2, 1) := dk_44 (dk_at dksL_law_34 9 rfl rfl)
theorem dL_law_1004 : decode cL_law 1004 = .ok (.invokevirtual 104, 3) := dk_182 0 104 (dk_at dksL_law_34 10 rfl rfl)
theorem dL_law_1007 : decode cL_law 1007 = .ok (.if_icmp .eq 1036, 3) := dk_159 4 12 (dk_at dksL_law_34 13 rfl rfl)
theorem dL_law_1010 : decode cL_law 1010 = .ok (.iconst 0, 1) := dk_3 (dk_at dksL_law_34 16 rfl rfl)
theorem dL_law_1011 : decode cL_law 1011 = .ok (.ireturn, 1) := dk_172 (dk_at dksL_law_34 17 rfl rfl)
theorem dL_law_1012 : decode cL_law 1012 = .ok (.aload_n 1, 1) := dk_43 (dk_at dksL_law_34 18 rfl rfl)
theorem dL_law_1013 : decode cL_law 1013 = .ok (.aload_n 0, 1) := dk_42 (dk_at dksL_law_34 19 rfl rfl)
theorem dL_law_1014 : decode cL_law 1014 = .ok (.iload 4, 2) := dk_21 4 (dk_at dksL_law_34 20 rfl rfl)
theorem dL_law_1016 : decode cL_law 1016 = .ok (.iconst 1, 1) := dk_4 (dk_at dksL_law_34 22 rfl rfl)
theorem dL_law_1017 : decode cL_law 1017 = .ok (.iadd, 1) := dk_96 (dk_at dksL_law_34 23 rfl rfl)
theorem dL_law_1018 : decode cL_law 1018 = .ok (.iaload, 1) := dk_46 (dk_at dksL_law_35 0 rfl rfl)
theorem dL_law_1019 : decode cL_law 1019 = .ok (.invokevirtual 105, 3) := dk_182 0 105 (dk_at dksL_law_35 1 rfl rfl)
theorem dL_law_1022 : decode cL_law 1022 = .ok (.aload_n 2, 1) := dk_44 (dk_at dksL_law_35 4 rfl rfl)
theorem dL_law_1023 : decode cL_law 1023 = .ok (.aload_n 0, 1) := dk_42 (dk_at dksL_law_35 5 rfl rfl)
theorem dL_law_1024 : decode cL_law 1024 = .ok (.iload 4, 2) := dk_21 4 (dk_at dksL_law_35 6 rfl rfl)
theorem dL_law_1026 : decode cL_law 1026 = .ok (.iconst 1, 1) := dk_4 (dk_at dksL_law_35 8 rfl rfl)
theorem dL_law_1027 : decode cL_law 1027 = .ok (.iadd, 1) := dk_96 (dk_at dksL_law_35 9 rfl rfl)
theorem dL_law_1028 : decode cL_law 1028 = .ok (.iaload, 1) := dk_46 (dk_at dksL_law_35 10 rfl rfl)
theorem dL_law_1029 : decode cL_law 1029 = .ok (.invokevirtual 108, 3) := dk_182 0 108 (dk_at dksL_law_35 11 rfl rfl)
theorem dL_law_1032 : decode cL_law 1032 = .ok (.if_icmp .eq 1011, 3) := dk_159 3 243 (dk_at dksL_law_35 14 rfl rfl)
theorem dL_law_1035 : decode cL_law 1035 = .ok (.iconst 0, 1) := dk_3 (dk_at dksL_law_35 17 rfl rfl)
theorem dL_law_1036 : decode cL_law 1036 = .ok (.ireturn, 1) := dk_172 (dk_at dksL_law_35 18 rfl rfl)
theorem dL_law_1037 : decode cL_law 1037 = .ok (.aload_n 1, 1) := dk_43 (dk_at dksL_law_35 19 rfl rfl)
theorem dL_law_1038 : decode cL_law 1038 = .ok (.aload_n 0, 1) := dk_42 (dk_at dksL_law_35 20 rfl rfl)
theorem dL_law_1039 : decode cL_law 1039 = .ok (.iload 4, 2) := dk_21 4 (dk_at dksL_law_35 21 rfl rfl)
theorem dL_law_1041 : decode cL_law 1041 = .ok (.iconst 1, 1) := dk_4 (dk_at dksL_law_35 23 rfl rfl)
theorem dL_law_1042 : decode cL_law 1042 = .ok (.iadd, 1) := dk_96 (dk_at dksL_law_36 0 rfl rfl)
theorem dL_law_1043 : decode cL_law 1043 = .ok (.iaload, 1) := dk_46 (dk_at dksL_law_36 1 rfl rfl)
theorem dL_law_1044 : decode cL_law 1044 = .ok (.aload_n 0, 1) := dk_42 (dk_at dksL_law_36 2 rfl rfl)
theorem dL_law_1045 : decode cL_law 1045 = .ok (.iload 4, 2) := dk_21 4 (dk_at dksL_law_36 3 rfl rfl)
theorem dL_law_1047 : decode cL_law 1047 = .ok (.iconst 2, 1) := dk_5 (dk_at dksL_law_36 5 rfl rfl)
theorem dL_law_1048 : decode cL_law 1048 = .ok (.iadd, 1) := dk_96 (dk_at dksL_law_36 6 rfl rfl)
theorem dL_law_1049 : decode cL_law 1049 = .ok (.iaload, 1) := dk_46 (dk_at dksL_law_36 7 rfl rfl)
theorem dL_law_1050 : decode cL_law 1050 = .ok (.invokevirtual 109, 3) := dk_182 0 109 (dk_at dksL_law_36 8 rfl rfl)
theorem dL_law_1053 : decode cL_law 1053 = .ok (.aload_n 2, 1) := dk_44 (dk_at dksL_law_36 11 rfl rfl)
theorem dL_law_1054 : decode cL_law 1054 = .ok (.aload_n 0, 1) := dk_42 (dk_at dksL_law_36 12 rfl rfl)
theorem dL_law_1055 : decode cL_law 1055 = .ok (.iload 4, 2) := dk_21 4 (dk_at dksL_law_36 13 rfl rfl)
theorem dL_law_1057 : decode cL_law 1057 = .ok (.iconst 1, 1) := dk_4 (dk_at dksL_law_36 15 rfl rfl)
theorem dL_law_1058 : decode cL_law 1058 = .ok (.iadd, 1) := dk_96 (dk_at dksL_law_36 16 rfl rfl)
theorem dL_law_1059 : decode cL_law 1059 = .ok (.iaload, 1) := dk_46 (dk_at dksL_law_36 17 rfl rfl)
theorem dL_law_1060 : decode cL_law 1060 = .ok (.aload_n 0, 1) := dk_42 (dk_at dksL_law_36 18 rfl rfl)
theorem dL_law_1061 : decode cL_law 1061 = .ok (.iload 4, 2) := dk_21 4 (dk_at dksL_law_36 19 rfl rfl)
theorem dL_law_1063 : decode cL_law 1063 = .ok (.iconst 2, 1) := dk_5 (dk_at dksL_law_36 21 rfl rfl)
theorem dL_law_1064 : decode cL_law 1064 = .ok (.iadd, 1) := dk_96 (dk_at dksL_law_36 22 rfl rfl)
theorem dL_law_1065 : decode cL_law 1065 = .ok (.iaload, 1) := dk_46 (dk_at dksL_law_36 23 rfl rfl)
theorem dL_law_1066 : decode cL_law 1066 = .ok (.invokevirtual 112, 3) := dk_182 0 112 (dk_at dksL_law_37 0 rfl rfl)
theorem dL_law_1069 : decode cL_law 1069 = .ok (.if_icmp .eq 974, 3) := dk_159 3 206 (dk_at dksL_law_37 3 rfl rfl)
theorem dL_law_1072 : decode cL_law 1072 = .ok (.iconst 0, 1) := dk_3 (dk_at dksL_law_37 6 rfl rfl)
theorem dL_law_1073 : decode cL_law 1073 = .ok (.ireturn, 1) := dk_172 (dk_at dksL_law_37 7 rfl rfl)
theorem dL_law_1074 : decode cL_law 1074 = .ok (.aload_n 1, 1) := dk_43 (dk_at dksL_law_37 8 rfl rfl)
theorem dL_law_1075 : decode cL_law 1075 = .ok (.aload_n 0, 1) := dk_42 (dk_at dksL_law_37 9 rfl rfl)
theorem dL_law_1076 : decode cL_law 1076 = .ok (.iload 4, 2) := dk_21 4 (dk_at dksL_law_37 10 rfl rfl)
theorem dL_law_1078 : decode cL_law 1078 = .ok (.iconst 1, 1) := dk_4 (dk_at dksL_law_37 12 rfl rfl)
theorem dL_law_1079 : decode cL_law 1079 = .ok (.iadd, 1) := dk_96 (dk_at dksL_law_37 13 rfl rfl)
theorem dL_law_1080 : decode cL_law 1080 = .ok (.iaload, 1) := dk_46 (dk_at dksL_law_37 14 rfl rfl)
theorem dL_law_1081 : decode cL_law 1081 = .ok (.aload_n 0, 1) := dk_42 (dk_at dksL_law_37 15 rfl rfl)
theorem dL_law_1082 : decode cL_law 1082 = .ok (.iload 4, 2) := dk_21 4 (dk_at dksL_law_37 16 rfl rfl)
theorem dL_law_1084 : decode cL_law 1084 = .ok (.iconst 2, 1) := dk_5 (dk_at dksL_law_37 18 rfl rfl)
theorem dL_law_1085 : decode cL_law 1085 = .ok (.iadd, 1) := dk_96 (dk_at dksL_law_37 19 rfl rfl)
theorem dL_law_1086 : decode cL_law 1086 = .ok (.iaload, 1) := dk_46 (dk_at dksL_law_37 20 rfl rfl)
theorem dL_law_1087 : decode cL_law 1087 = .ok (.invokevirtual 113, 3) := dk_182 0 113 (dk_at dksL_law_37 21 rfl rfl)
theorem dL_law_1090 : decode cL_law 1090 = .ok (.aload_n 2, 1) := dk_44 (dk_at dksL_law_38 0 rfl rfl)
theorem dL_law_1091 : decode cL_law 1091 = .ok (.aload_n 0, 1) := dk_42 (dk_at dksL_law_38 1 rfl rfl)
theorem dL_law_1092 : decode cL_law 1092 = .ok (.iload 4, 2) := dk_21 4 (dk_at dksL_law_38 2 rfl rfl)
theorem dL_law_1094 : decode cL_law 1094 = .ok (.iconst 1, 1) := dk_4 (dk_at dksL_law_38 4 rfl rfl)
theorem dL_law_1095 : decode cL_law 1095 = .ok (.iadd, 1) := dk_96 (dk_at dksL_law_38 5 rfl rfl)
theorem dL_law_1096 : decode cL_law 1096 = .ok (.iaload, 1) := dk_46 (dk_at dksL_law_38 6 rfl rfl)
theorem dL_law_1097 : decode cL_law 1097 = .ok (.aload_n 0, 1) := dk_42 (dk_at dksL_law_38 7 rfl rfl)
theorem dL_law_1098 : decode cL_law 1098 = .ok (.iload 4, 2) := dk_21 4 (dk_at dksL_law_38 8 rfl rfl)
theorem dL_law_1100 : decode cL_law 1100 = .ok (.iconst 2, 1) := dk_5 (dk_at dksL_law_38 10 rfl rfl)
theorem dL_law_1101 : decode cL_law 1101 = .ok (.iadd, 1) := dk_96 (dk_at dksL_law_38 11 rfl rfl)
theorem dL_law_1102 : decode cL_law 1102 = .ok (.iaload, 1) := dk_46 (dk_at dksL_law_38 12 rfl rfl)
theorem dL_law_1103 : decode cL_law 1103 = .ok (.invokevirtual 116, 3) := dk_182 0 116 (dk_at dksL_law_38 13 rfl rfl)
theorem dL_law_1106 : decode cL_law 1106 = .ok (.if_icmp .eq 937, 3) := dk_159 3 169 (dk_at dksL_law_38 16 rfl rfl)
theorem dL_law_1109 : decode cL_law 1109 = .ok (.iconst 0, 1) := dk_3 (dk_at dksL_law_38 19 rfl rfl)
theorem dL_law_1110 : decode cL_law 1110 = .ok (.ireturn, 1) := dk_172 (dk_at dksL_law_38 20 rfl rfl)
theorem dL_law_1111 : decode cL_law 1111 = .ok (.aload_n 1, 1) := dk_43 (dk_at dksL_law_38 21 rfl rfl)
theorem dL_law_1112 : decode cL_law 1112 = .ok (.aload_n 0, 1) := dk_42 (dk_at dksL_law_38 22 rfl rfl)
theorem dL_law_1113 : decode cL_law 1113 = .ok (.iload 4, 2) := dk_21 4 (dk_at dksL_law_39 0 rfl rfl)
theorem dL_law_1115 : decode cL_law 1115 = .ok (.iconst 1, 1) := dk_4 (dk_at dksL_law_39 2 rfl rfl)
theorem dL_law_1116 : decode cL_law 1116 = .ok (.iadd, 1) := dk_96 (dk_at dksL_law_39 3 rfl rfl)
theorem dL_law_1117 : decode cL_law 1117 = .ok (.iaload, 1) := dk_46 (dk_at dksL_law_39 4 rfl rfl)
theorem dL_law_1118 : decode cL_law 1118 = .ok (.invokevirtual 117, 3) := dk_182 0 117 (dk_at dksL_law_39 5 rfl rfl)
theorem dL_law_1121 : decode cL_law 1121 = .ok (.aload_n 2, 1) := dk_44 (dk_at dksL_law_39 8 rfl rfl)
theorem dL_law_1122 : decode cL_law 1122 = .ok (.aload_n 0, 1) := dk_42 (dk_at dksL_law_39 9 rfl rfl)
theorem dL_law_1123 : decode cL_law 1123 = .ok (.iload 4, 2) := dk_21 4 (dk_at dksL_law_39 10 rfl rfl)
theorem dL_law_1125 : decode cL_law 1125 = .ok (.iconst 1, 1) := dk_4 (dk_at dksL_law_39 12 rfl rfl)
theorem dL_law_1126 : decode cL_law 1126 = .ok (.iadd, 1) := dk_96 (dk_at dksL_law_39 13 rfl rfl)
theorem dL_law_1127 : decode cL_law 1127 = .ok (.iaload, 1) := dk_46 (dk_at dksL_law_39 14 rfl rfl)
theorem dL_law_1128 : decode cL_law 1128 = .ok (.invokevirtual 120, 3) := dk_182 0 120 (dk_at dksL_law_39 15 rfl rfl)
theorem dL_law_1131 : decode cL_law 1131 = .ok (.if_icmp .eq 912, 3) := dk_159 3 144 (dk_at dksL_law_39 18 rfl rfl)
theorem dL_law_1134 : decode cL_law 1134 = .ok (.iconst 0, 1) := dk_3 (dk_at dksL_law_39 21 rfl rfl)
theorem dL_law_1135 : decode cL_law 1135 = .ok (.ireturn, 1) := dk_172 (dk_at dksL_law_39 22 rfl rfl)
theorem dL_law_1136 : decode cL_law 1136 = .ok (.aload_n 1, 1) := dk_43 (dk_at dksL_law_39 23 rfl rfl)
theorem dL_law_1137 : decode cL_law 1137 = .ok (.invokevirtual 121, 3) := dk_182 0 121 (dk_at dksL_law_40 0 rfl rfl)
theorem dL_law_1140 : decode cL_law 1140 = .ok (.aload_n 2, 1) := dk_44 (dk_at dksL_law_40 3 rfl rfl)
theorem dL_law_1141 : decode cL_law 1141 = .ok (.invokevirtual 124, 3) := dk_182 0 124 (dk_at dksL_law_40 4 rfl rfl)
theorem dL_law_1144 : decode cL_law 1144 = .ok (.if_icmp .eq 899, 3) := dk_159 3 131 (dk_at dksL_law_40 7 rfl rfl)
theorem dL_law_1147 : decode cL_law 1147 = .ok (.iconst 0, 1) := dk_3 (dk_at dksL_law_40 10 rfl rfl)
theorem dL_law_1148 : decode cL_law 1148 = .ok (.ireturn, 1) := dk_172 (dk_at dksL_law_40 11 rfl rfl)
theorem dL_law_1149 : decode cL_law 1149 = .ok (.aload_n 1, 1) := dk_43 (dk_at dksL_law_40 12 rfl rfl)
theorem dL_law_1150 : decode cL_law 1150 = .ok (.aload_n 0, 1) := dk_42 (dk_at dksL_law_40 13 rfl rfl)
theorem dL_law_1151 : decode cL_law 1151 = .ok (.iload 4, 2) := dk_21 4 (dk_at dksL_law_40 14 rfl rfl)
theorem dL_law_1153 : decode cL_law 1153 = .ok (.iconst 1, 1) := dk_4 (dk_at dksL_law_40 16 rfl rfl)
theorem dL_law_1154 : decode cL_law 1154 = .ok (.iadd, 1) := dk_96 (dk_at dksL_law_40 17 rfl rfl)
theorem dL_law_1155 : decode cL_law 1155 = .ok (.iaload, 1) := dk_46 (dk_at dksL_law_40 18 rfl rfl)
theorem dL_law_1156 : decode cL_law 1156 = .ok (.invokevirtual 125, 3) := dk_182 0 125 (dk_at dksL_law_40 19 rfl rfl)
theorem dL_law_1159 : decode cL_law 1159 = .ok (.aload_n 2, 1) := dk_44 (dk_at dksL_law_40 22 rfl rfl)
theorem dL_law_1160 : decode cL_law 1160 = .ok (.aload_n 0, 1) := dk_42 (dk_at dksL_law_40 23 rfl rfl)
theorem dL_law_1161 : decode cL_law 1161 = .ok (.iload 4, 2) := dk_21 4 (dk_at dksL_law_41 0 rfl rfl)
theorem dL_law_1163 : decode cL_law 1163 = .ok (.iconst 1, 1) := dk_4 (dk_at dksL_law_41 2 rfl rfl)
theorem dL_law_1164 : decode cL_law 1164 = .ok (.iadd, 1) := dk_96 (dk_at dksL_law_41 3 rfl rfl)
theorem dL_law_1165 : decode cL_law 1165 = .ok (.iaload, 1) := dk_46 (dk_at dksL_law_41 4 rfl rfl)
theorem dL_law_1166 : decode cL_law 1166 = .ok (.invokevirtual 128, 3) := dk_182 0 128 (dk_at dksL_law_41 5 rfl rfl)
theorem dL_law_1169 : decode cL_law 1169 = .ok (.if_icmp .eq 874, 3) := dk_159 3 106 (dk_at dksL_law_41 8 rfl rfl)
theorem dL_law_1172 : decode cL_law 1172 = .ok (.iconst 0, 1) := dk_3 (dk_at dksL_law_41 11 rfl rfl)
theorem dL_law_1173 : decode cL_law 1173 = .ok (.ireturn, 1) := dk_172 (dk_at dksL_law_41 12 rfl rfl)
theorem dL_law_1174 : decode cL_law 1174 = .ok (.aload_n 1, 1) := dk_43 (dk_at dksL_law_41 13 rfl rfl)
theorem dL_law_1175 : decode cL_law 1175 = .ok (.invokevirtual 129, 3) := dk_182 0 129 (dk_at dksL_law_41 14 rfl rfl)
theorem dL_law_1178 : decode cL_law 1178 = .ok (.aload_n 2, 1) := dk_44 (dk_at dksL_law_41 17 rfl rfl)
theorem dL_law_1179 : decode cL_law 1179 = .ok (.invokevirtual 132, 3) := dk_182 0 132 (dk_at dksL_law_41 18 rfl rfl)
theorem dL_law_1182 : decode cL_law 1182 = .ok (.if_icmp .eq 861, 3) := dk_159 3 93 (dk_at dksL_law_41 21 rfl rfl)
theorem dL_law_1185 : decode cL_law 1185 = .ok (.iconst 0, 1) := dk_3 (dk_at dksL_law_42 0 rfl rfl)
theorem dL_law_1186 : decode cL_law 1186 = .ok (.ireturn, 1) := dk_172 (dk_at dksL_law_42 1 rfl rfl)
theorem dL_law_1187 : decode cL_law 1187 = .ok (.aload_n 1, 1) := dk_43 (dk_at dksL_law_42 2 rfl rfl)
theorem dL_law_1188 : decode cL_law 1188 = .ok (.aload_n 0, 1) := dk_42 (dk_at dksL_law_42 3 rfl rfl)
theorem dL_law_1189 : decode cL_law 1189 = .ok (.iload 4, 2) := dk_21 4 (dk_at dksL_law_42 4 rfl rfl)
theorem dL_law_1191 : decode cL_law 1191 = .ok (.iconst 1, 1) := dk_4 (dk_at dksL_law_42 6 rfl rfl)
theorem dL_law_1192 : decode cL_law 1192 = .ok (.iadd, 1) := dk_96 (dk_at dksL_law_42 7 rfl rfl)
theorem dL_law_1193 : decode cL_law 1193 = .ok (.iaload, 1) := dk_46 (dk_at dksL_law_42 8 rfl rfl)
theorem dL_law_1194 : decode cL_law 1194 = .ok (.aload_n 0, 1) := dk_42 (dk_at dksL_law_42 9 rfl rfl)
theorem dL_law_1195 : decode cL_law 1195 = .ok (.iload 4, 2) := dk_21 4 (dk_at dksL_law_42 10 rfl rfl)
theorem dL_law_1197 : decode cL_law 1197 = .ok (.iconst 2, 1) := dk_5 (dk_at dksL_law_42 12 rfl rfl)
theorem dL_law_1198 : decode cL_law 1198 = .ok (.iadd, 1) := dk_96 (dk_at dksL_law_42 13 rfl rfl)
theorem dL_law_1199 : decode cL_law 1199 = .ok (.iaload, 1) := dk_46 (dk_at dksL_law_42 14 rfl rfl)
theorem dL_law_1200 : decode cL_law 1200 = .ok (.aload_n 0, 1) := dk_42 (dk_at dksL_law_42 15 rfl rfl)
theorem dL_law_1201 : decode cL_law 1201 = .ok (.iload 4, 2) := dk_21 4 (dk_at dksL_law_42 16 rfl rfl)
theorem dL_law_1203 : decode cL_law 1203 = .ok (.iconst 3, 1) := dk_6 (dk_at dksL_law_42 18 rfl rfl)
theorem dL_law_1204 : decode cL_law 1204 = .ok (.iadd, 1) := dk_96 (dk_at dksL_law_42 19 rfl rfl)
theorem dL_law_1205 : decode cL_law 1205 = .ok (.iaload, 1) := dk_46 (dk_at dksL_law_42 20 rfl rfl)
theorem dL_law_1206 : decode cL_law 1206 = .ok (.invokevirtual 133, 3) := dk_182 0 133 (dk_at dksL_law_42 21 rfl rfl)
theorem dL_law_1209 : decode cL_law 1209 = .ok (.aload_n 2, 1) := dk_44 (dk_at dksL_law_43 0 rfl rfl)
theorem dL_law_1210 : decode cL_law 1210 = .ok (.aload_n 0, 1) := dk_42 (dk_at dksL_law_43 1 rfl rfl)
theorem dL_law_1211 : decode cL_law 1211 = .ok (.iload 4, 2) := dk_21 4 (dk_at dksL_law_43 2 rfl rfl)
theorem dL_law_1213 : decode cL_law 1213 = .ok (.iconst 1, 1) := dk_4 (dk_at dksL_law_43 4 rfl rfl)
theorem dL_law_1214 : decode cL_law 1214 = .ok (.iadd, 1) := dk_96 (dk_at dksL_law_43 5 rfl rfl)
theorem dL_law_1215 : decode cL_law 1215 = .ok (.iaload, 1) := dk_46 (dk_at dksL_law_43 6 rfl rfl)
theorem dL_law_1216 : decode cL_law 1216 = .ok (.aload_n 0, 1) := dk_42 (dk_at dksL_law_43 7 rfl rfl)
theorem dL_law_1217 : decode cL_law 1217 = .ok (.iload 4, 2) := dk_21 4 (dk_at dksL_law_43 8 rfl rfl)
theorem dL_law_1219 : decode cL_law 1219 = .ok (.iconst 2, 1) := dk_5 (dk_at dksL_law_43 10 rfl rfl)
theorem dL_law_1220 : decode cL_law 1220 = .ok (.iadd, 1) := dk_96 (dk_at dksL_law_43 11 rfl rfl)
theorem dL_law_1221 : decode cL_law 1221 = .ok (.iaload, 1) := dk_46 (dk_at dksL_law_43 12 rfl rfl)
theorem dL_law_1222 : decode cL_law 1222 = .ok (.aload_n 0, 1) := dk_42 (dk_at dksL_law_43 13 rfl rfl)
theorem dL_law_1223 : decode cL_law 1223 = .ok (.iload 4, 2) := dk_21 4 (dk_at dksL_law_43 14 rfl rfl)
theorem dL_law_1225 : decode cL_law 1225 = .ok (.iconst 3, 1) := dk_6 (dk_at dksL_law_43 16 rfl rfl)
theorem dL_law_1226 : decode cL_law 1226 = .ok (.iadd, 1) := dk_96 (dk_at dksL_law_43 17 rfl rfl)
theorem dL_law_1227 : decode cL_law 1227 = .ok (.iaload, 1) := dk_46 (dk_at dksL_law_43 18 rfl rfl)
theorem dL_law_1228 : decode cL_law 1228 = .ok (.invokevirtual 136, 3) := dk_182 0 136 (dk_at dksL_law_43 19 rfl rfl)
theorem dL_law_1231 : decode cL_law 1231 = .ok (.if_icmp .eq 812, 3) := dk_159 3 44 (dk_at dksL_law_44 0 rfl rfl)
theorem dL_law_1234 : decode cL_law 1234 = .ok (.iconst 0, 1) := dk_3 (dk_at dksL_law_44 3 rfl rfl)
theorem dL_law_1235 : decode cL_law 1235 = .ok (.ireturn, 1) := dk_172 (dk_at dksL_law_44 4 rfl rfl)
theorem dL_law_1236 : decode cL_law 1236 = .ok (.aload_n 1, 1) := dk_43 (dk_at dksL_law_44 5 rfl rfl)
theorem dL_law_1237 : decode cL_law 1237 = .ok (.invokevirtual 137, 3) := dk_182 0 137 (dk_at dksL_law_44 6 rfl rfl)
theorem dL_law_1240 : decode cL_law 1240 = .ok (.aload_n 2, 1) := dk_44 (dk_at dksL_law_44 9 rfl rfl)
theorem dL_law_1241 : decode cL_law 1241 = .ok (.invokevirtual 140, 3) := dk_182 0 140 (dk_at dksL_law_44 10 rfl rfl)
theorem dL_law_1244 : decode cL_law 1244 = .ok (.if_icmp .eq 799, 3) := dk_159 3 31 (dk_at dksL_law_44 13 rfl rfl)
theorem dL_law_1247 : decode cL_law 1247 = .ok (.iconst 0, 1) := dk_3 (dk_at dksL_law_44 16 rfl rfl)
theorem dL_law_1248 : decode cL_law 1248 = .ok (.ireturn, 1) := dk_172 (dk_at dksL_law_44 17 rfl rfl)
theorem dL_law_1249 : decode cL_law 1249 = .ok (.aload_n 1, 1) := dk_43 (dk_at dksL_law_44 18 rfl rfl)
theorem dL_law_1250 : decode cL_law 1250 = .ok (.invokevirtual 141, 3) := dk_182 0 141 (dk_at dksL_law_44 19 rfl rfl)
theorem dL_law_1253 : decode cL_law 1253 = .ok (.aload_n 2, 1) := dk_44 (dk_at dksL_law_44 22 rfl rfl)
theorem dL_law_1254 : decode cL_law 1254 = .ok (.invokevirtual 144, 3) := dk_182 0 144 (dk_at dksL_law_45 0 rfl rfl)
theorem dL_law_1257 : decode cL_law 1257 = .ok (.if_icmp .eq 786, 3) := dk_159 3 18 (dk_at dksL_law_45 3 rfl rfl)
theorem dL_law_1260 : decode cL_law 1260 = .ok (.iconst 0, 1) := dk_3 (dk_at dksL_law_45 6 rfl rfl)
theorem dL_law_1261 : decode cL_law 1261 = .ok (.ireturn, 1) := dk_172 (dk_at dksL_law_45 7 rfl rfl)
theorem dL_law_1262 : decode cL_law 1262 = .ok (.aload_n 1, 1) := dk_43 (dk_at dksL_law_45 8 rfl rfl)
theorem dL_law_1263 : decode cL_law 1263 = .ok (.aload_n 0, 1) := dk_42 (dk_at dksL_law_45 9 rfl rfl)
theorem dL_law_1264 : decode cL_law 1264 = .ok (.iload 4, 2) := dk_21 4 (dk_at dksL_law_45 10 rfl rfl)
theorem dL_law_1266 : decode cL_law 1266 = .ok (.iconst 1, 1) := dk_4 (dk_at dksL_law_45 12 rfl rfl)
theorem dL_law_1267 : decode cL_law 1267 = .ok (.iadd, 1) := dk_96 (dk_at dksL_law_45 13 rfl rfl)
theorem dL_law_1268 : decode cL_law 1268 = .ok (.iaload, 1) := dk_46 (dk_at dksL_law_45 14 rfl rfl)
theorem dL_law_1269 : decode cL_law 1269 = .ok (.aload_n 0, 1) := dk_42 (dk_at dksL_law_45 15 rfl rfl)
theorem dL_law_1270 : decode cL_law 1270 = .ok (.iload 4, 2) := dk_21 4 (dk_at dksL_law_45 16 rfl rfl)
theorem dL_law_1272 : decode cL_law 1272 = .ok (.iconst 2, 1) := dk_5 (dk_at dksL_law_45 18 rfl rfl)
theorem dL_law_1273 : decode cL_law 1273 = .ok (.iadd, 1) := dk_96 (dk_at dksL_law_45 19 rfl rfl)
theorem dL_law_1274 : decode cL_law 1274 = .ok (.iaload, 1) := dk_46 (dk_at dksL_law_45 20 rfl rfl)
theorem dL_law_1275 : decode cL_law 1275 = .ok (.aload_n 0, 1) := dk_42 (dk_at dksL_law_45 21 rfl rfl)
theorem dL_law_1276 : decode cL_law 1276 = .ok (.iload 4, 2) := dk_21 4 (dk_at dksL_law_45 22 rfl rfl)
theorem dL_law_1278 : decode cL_law 1278 = .ok (.iconst 3, 1) := dk_6 (dk_at dksL_law_46 0 rfl rfl)
theorem dL_law_1279 : decode cL_law 1279 = .ok (.iadd, 1) := dk_96 (dk_at dksL_law_46 1 rfl rfl)
theorem dL_law_1280 : decode cL_law 1280 = .ok (.iaload, 1) := dk_46 (dk_at dksL_law_46 2 rfl rfl)
theorem dL_law_1281 : decode cL_law 1281 = .ok (.aload_n 0, 1) := dk_42 (dk_at dksL_law_46 3 rfl rfl)
theorem dL_law_1282 : decode cL_law 1282 = .ok (.iload 4, 2) := dk_21 4 (dk_at dksL_law_46 4 rfl rfl)
theorem dL_law_1284 : decode cL_law 1284 = .ok (.iconst 4, 1) := dk_7 (dk_at dksL_law_46 6 rfl rfl)
theorem dL_law_1285 : decode cL_law 1285 = .ok (.iadd, 1) := dk_96 (dk_at dksL_law_46 7 rfl rfl)
theorem dL_law_1286 : decode cL_law 1286 = .ok (.iaload, 1) := dk_46 (dk_at dksL_law_46 8 rfl rfl)
theorem dL_law_1287 : decode cL_law 1287 = .ok (.invokevirtual 145, 3) := dk_182 0 145 (dk_at dksL_law_46 9 rfl rfl)
theorem dL_law_1290 : decode cL_law 1290 = .ok (.aload_n 2, 1) := dk_44 (dk_at dksL_law_46 12 rfl rfl)
theorem dL_law_1291 : decode cL_law 1291 = .ok (.aload_n 0, 1) := dk_42 (dk_at dksL_law_46 13 rfl rfl)
theorem dL_law_1292 : decode cL_law 1292 = .ok (.iload 4, 2) := dk_21 4 (dk_at dksL_law_46 14 rfl rfl)
theorem dL_law_1294 : decode cL_law 1294 = .ok (.iconst 1, 1) := dk_4 (dk_at dksL_law_46 16 rfl rfl)
theorem dL_law_1295 : decode cL_law 1295 = .ok (.iadd, 1) := dk_96 (dk_at dksL_law_46 17 rfl rfl)
theorem dL_law_1296 : decode cL_law 1296 = .ok (.iaload, 1) := dk_46 (dk_at dksL_law_46 18 rfl rfl)
theorem dL_law_1297 : decode cL_law 1297 = .ok (.aload_n 0, 1) := dk_42 (dk_at dksL_law_46 19 rfl rfl)
theorem dL_law_1298 : decode cL_law 1298 = .ok (.iload 4, 2) := dk_21 4 (dk_at dksL_law_46 20 rfl rfl)
theorem dL_law_1300 : decode cL_law 1300 = .ok (.iconst 2, 1) := dk_5 (dk_at dksL_law_46 22 rfl rfl)
theorem dL_law_1301 : decode cL_law 1301 = .ok (.iadd, 1) := dk_96 (dk_at dksL_law_46 23 rfl rfl)
theorem dL_law_1302 : decode cL_law 1302 = .ok (.iaload, 1) := dk_46 (dk_at dksL_law_47 0 rfl rfl)
theorem dL_law_1303 : decode cL_law 1303 = .ok (.aload_n 0, 1) := dk_42 (dk_at dksL_law_47 1 rfl rfl)
theorem dL_law_1304 : decode cL_law 1304 = .ok (.iload 4, 2) := dk_21 4 (dk_at dksL_law_47 2 rfl rfl)
theorem dL_law_1306 : decode cL_law 1306 = .ok (.iconst 3, 1) := dk_6 (dk_at dksL_law_47 4 rfl rfl)
theorem dL_law_1307 : decode cL_law 1307 = .ok (.iadd, 1) := dk_96 (dk_at dksL_law_47 5 rfl rfl)
theorem dL_law_1308 : decode cL_law 1308 = .ok (.iaload, 1) := dk_46 (dk_at dksL_law_47 6 rfl rfl)
theorem dL_law_1309 : decode cL_law 1309 = .ok (.aload_n 0, 1) := dk_42 (dk_at dksL_law_47 7 rfl rfl)
theorem dL_law_1310 : decode cL_law 1310 = .ok (.iload 4, 2) := dk_21 4 (dk_at dksL_law_47 8 rfl rfl)
theorem dL_law_1312 : decode cL_law 1312 = .ok (.iconst 4, 1) := dk_7 (dk_at dksL_law_47 10 rfl rfl)
theorem dL_law_1313 : decode cL_law 1313 = .ok (.iadd, 1) := dk_96 (dk_at dksL_law_47 11 rfl rfl)
theorem dL_law_1314 : decode cL_law 1314 = .ok (.iaload, 1) := dk_46 (dk_at dksL_law_47 12 rfl rfl)
theorem dL_law_1315 : decode cL_law 1315 = .ok (.invokevirtual 148, 3) := dk_182 0 148 (dk_at dksL_law_47 13 rfl rfl)
theorem dL_law_1318 : decode cL_law 1318 = .ok (.if_icmp .eq 725, 3) := dk_159 2 213 (dk_at dksL_law_47 16 rfl rfl)
theorem dL_law_1321 : decode cL_law 1321 = .ok (.iconst 0, 1) := dk_3 (dk_at dksL_law_47 19 rfl rfl)
theorem dL_law_1322 : decode cL_law 1322 = .ok (.ireturn, 1) := dk_172 (dk_at dksL_law_47 20 rfl rfl)
theorem dL_law_1323 : decode cL_law 1323 = .ok (.aload_n 1, 1) := dk_43 (dk_at dksL_law_47 21 rfl rfl)
theorem dL_law_1324 : decode cL_law 1324 = .ok (.aload_n 0, 1) := dk_42 (dk_at dksL_law_47 22 rfl rfl)
theorem dL_law_1325 : decode cL_law 1325 = .ok (.iload 4, 2) := dk_21 4 (dk_at dksL_law_48 0 rfl rfl)
theorem dL_law_1327 : decode cL_law 1327 = .ok (.iconst 1, 1) := dk_4 (dk_at dksL_law_48 2 rfl rfl)
theorem dL_law_1328 : decode cL_law 1328 = .ok (.iadd, 1) := dk_96 (dk_at dksL_law_48 3 rfl rfl)
theorem dL_law_1329 : decode cL_law 1329 = .ok (.iaload, 1) := dk_46 (dk_at dksL_law_48 4 rfl rfl)
theorem dL_law_1330 : decode cL_law 1330 = .ok (.aload_n 0, 1) := dk_42 (dk_at dksL_law_48 5 rfl rfl)
theorem dL_law_1331 : decode cL_law 1331 = .ok (.iload 4, 2) := dk_21 4 (dk_at dksL_law_48 6 rfl rfl)
theorem dL_law_1333 : decode cL_law 1333 = .ok (.iconst 2, 1) := dk_5 (dk_at dksL_law_48 8 rfl rfl)
theorem dL_law_1334 : decode cL_law 1334 = .ok (.iadd, 1) := dk_96 (dk_at dksL_law_48 9 rfl rfl)
theorem dL_law_1335 : decode cL_law 1335 = .ok (.iaload, 1) := dk_46 (dk_at dksL_law_48 10 rfl rfl)
theorem dL_law_1336 : decode cL_law 1336 = .ok (.aload_n 0, 1) := dk_42 (dk_at dksL_law_48 11 rfl rfl)
theorem dL_law_1337 : decode cL_law 1337 = .ok (.iload 4, 2) := dk_21 4 (dk_at dksL_law_48 12 rfl rfl)
theorem dL_law_1339 : decode cL_law 1339 = .ok (.iconst 3, 1) := dk_6 (dk_at dksL_law_48 14 rfl rfl)
theorem dL_law_1340 : decode cL_law 1340 = .ok (.iadd, 1) := dk_96 (dk_at dksL_law_48 15 rfl rfl)
theorem dL_law_1341 : decode cL_law 1341 = .ok (.iaload, 1) := dk_46 (dk_at dksL_law_48 16 rfl rfl)
theorem dL_law_1342 : decode cL_law 1342 = .ok (.aload_n 0, 1) := dk_42 (dk_at dksL_law_48 17 rfl rfl)
theorem dL_law_1343 : decode cL_law 1343 = .ok (.iload 4, 2) := dk_21 4 (dk_at dksL_law_48 18 rfl rfl)
theorem dL_law_1345 : decode cL_law 1345 = .ok (.iconst 4, 1) := dk_7 (dk_at dksL_law_48 20 rfl rfl)
theorem dL_law_1346 : decode cL_law 1346 = .ok (.iadd, 1) := dk_96 (dk_at dksL_law_48 21 rfl rfl)
theorem dL_law_1347 : decode cL_law 1347 = .ok (.iaload, 1) := dk_46 (dk_at dksL_law_48 22 rfl rfl)
theorem dL_law_1348 : decode cL_law 1348 = .ok (.aload_n 0, 1) := dk_42 (dk_at dksL_law_48 23 rfl rfl)
theorem dL_law_1349 : decode cL_law 1349 = .ok (.iload 4, 2) := dk_21 4 (dk_at dksL_law_49 0 rfl rfl)
theorem dL_law_1351 : decode cL_law 1351 = .ok (.iconst 5, 1) := dk_8 (dk_at dksL_law_49 2 rfl rfl)
theorem dL_law_1352 : decode cL_law 1352 = .ok (.iadd, 1) := dk_96 (dk_at dksL_law_49 3 rfl rfl)
theorem dL_law_1353 : decode cL_law 1353 = .ok (.iaload, 1) := dk_46 (dk_at dksL_law_49 4 rfl rfl)
theorem dL_law_1354 : decode cL_law 1354 = .ok (.invokevirtual 149, 3) := dk_182 0 149 (dk_at dksL_law_49 5 rfl rfl)
theorem dL_law_1357 : decode cL_law 1357 = .ok (.aload_n 2, 1) := dk_44 (dk_at dksL_law_49 8 rfl rfl)
theorem dL_law_1358 : decode cL_law 1358 = .ok (.aload_n 0, 1) := dk_42 (dk_at dksL_law_49 9 rfl rfl)
theorem dL_law_1359 : decode cL_law 1359 = .ok (.iload 4, 2) := dk_21 4 (dk_at dksL_law_49 10 rfl rfl)
theorem dL_law_1361 : decode cL_law 1361 = .ok (.iconst 1, 1) := dk_4 (dk_at dksL_law_49 12 rfl rfl)
theorem dL_law_1362 : decode cL_law 1362 = .ok (.iadd, 1) := dk_96 (dk_at dksL_law_49 13 rfl rfl)
theorem dL_law_1363 : decode cL_law 1363 = .ok (.iaload, 1) := dk_46 (dk_at dksL_law_49 14 rfl rfl)
theorem dL_law_1364 : decode cL_law 1364 = .ok (.aload_n 0, 1) := dk_42 (dk_at dksL_law_49 15 rfl rfl)
theorem dL_law_1365 : decode cL_law 1365 = .ok (.iload 4, 2) := dk_21 4 (dk_at dksL_law_49 16 rfl rfl)
theorem dL_law_1367 : decode cL_law 1367 = .ok (.iconst 2, 1) := dk_5 (dk_at dksL_law_49 18 rfl rfl)
theorem dL_law_1368 : decode cL_law 1368 = .ok (.iadd, 1) := dk_96 (dk_at dksL_law_49 19 rfl rfl)
theorem dL_law_1369 : decode cL_law 1369 = .ok (.iaload, 1) := dk_46 (dk_at dksL_law_49 20 rfl rfl)
theorem dL_law_1370 : decode cL_law 1370 = .ok (.aload_n 0, 1) := dk_42 (dk_at dksL_law_49 21 rfl rfl)
theorem dL_law_1371 : decode cL_law 1371 = .ok (.iload 4, 2) := dk_21 4 (dk_at dksL_law_49 22 rfl rfl)
theorem dL_law_1373 : decode cL_law 1373 = .ok (.iconst 3, 1) := dk_6 (dk_at dksL_law_50 0 rfl rfl)
theorem dL_law_1374 : decode cL_law 1374 = .ok (.iadd, 1) := dk_96 (dk_at dksL_law_50 1 rfl rfl)
theorem dL_law_1375 : decode cL_law 1375 = .ok (.iaload, 1) := dk_46 (dk_at dksL_law_50 2 rfl rfl)
theorem dL_law_1376 : decode cL_law 1376 = .ok (.aload_n 0, 1) := dk_42 (dk_at dksL_law_50 3 rfl rfl)
theorem dL_law_1377 : decode cL_law 1377 = .ok (.iload 4, 2) := dk_21 4 (dk_at dksL_law_50 4 rfl rfl)
theorem dL_law_1379 : decode cL_law 1379 = .ok (.iconst 4, 1) := dk_7 (dk_at dksL_law_50 6 rfl rfl)
theorem dL_law_1380 : decode cL_law 1380 = .ok (.iadd, 1) := dk_96 (dk_at dksL_law_50 7 rfl rfl)
theorem dL_law_1381 : decode cL_law 1381 = .ok (.iaload, 1) := dk_46 (dk_at dksL_law_50 8 rfl rfl)
theorem dL_law_1382 : decode cL_law 1382 = .ok (.aload_n 0, 1) := dk_42 (dk_at dksL_law_50 9 rfl rfl)
theorem dL_law_1383 : decode cL_law 1383 = .ok (.iload 4, 2) := dk_21 4 (dk_at dksL_law_50 10 rfl rfl)
theorem dL_law_1385 : decode cL_law 1385 = .ok (.iconst 5, 1) := dk_8 (dk_at dksL_law_50 12 rfl rfl)
theorem dL_law_1386 : decode cL_law 1386 = .ok (.iadd, 1) := dk_96 (dk_at dksL_law_50 13 rfl rfl)
theorem dL_law_1387 : decode cL_law 1387 = .ok (.iaload, 1) := dk_46 (dk_at dksL_law_50 14 rfl rfl)
theorem dL_law_1388 : decode cL_law 1388 = .ok (.invokevirtual 152, 3) := dk_182 0 152 (dk_at dksL_law_50 15 rfl rfl)
theorem dL_law_1391 : decode cL_law 1391 = .ok (.if_icmp .eq 652, 3) := dk_159 2 140 (dk_at dksL_law_50 18 rfl rfl)
theorem dL_law_1394 : decode cL_law 1394 = .ok (.iconst 0, 1) := dk_3 (dk_at dksL_law_50 21 rfl rfl)
theorem dL_law_1395 : decode cL_law 1395 = .ok (.ireturn, 1) := dk_172 (dk_at dksL_law_50 22 rfl rfl)
theorem dL_law_1396 : decode cL_law 1396 = .ok (.aload_n 1, 1) := dk_43 (dk_at dksL_law_50 23 rfl rfl)
theorem dL_law_1397 : decode cL_law 1397 = .ok (.aload_n 0, 1) := dk_42 (dk_at dksL_law_51 0 rfl rfl)
theorem dL_law_1398 : decode cL_law 1398 = .ok (.iload 4, 2) := dk_21 4 (dk_at dksL_law_51 1 rfl rfl)
theorem dL_law_1400 : decode cL_law 1400 = .ok (.iconst 1, 1) := dk_4 (dk_at dksL_law_51 3 rfl rfl)
theorem dL_law_1401 : decode cL_law 1401 = .ok (.iadd, 1) := dk_96 (dk_at dksL_law_51 4 rfl rfl)
theorem dL_law_1402 : decode cL_law 1402 = .ok (.iaload, 1) := dk_46 (dk_at dksL_law_51 5 rfl rfl)
theorem dL_law_1403 : decode cL_law 1403 = .ok (.aload_n 0, 1) := dk_42 (dk_at dksL_law_51 6 rfl rfl)
theorem dL_law_1404 : decode cL_law 1404 = .ok (.iload 4, 2) := dk_21 4 (dk_at dksL_law_51 7 rfl rfl)
theorem dL_law_1406 : decode cL_law 1406 = .ok (.iconst 2, 1) := dk_5 (dk_at dksL_law_51 9 rfl rfl)
theorem dL_law_1407 : decode cL_law 1407 = .ok (.iadd, 1) := dk_96 (dk_at dksL_law_51 10 rfl rfl)
theorem dL_law_1408 : decode cL_law 1408 = .ok (.iaload, 1) := dk_46 (dk_at dksL_law_51 11 rfl rfl)
theorem dL_law_1409 : decode cL_law 1409 = .ok (.aload_n 0, 1) := dk_42 (dk_at dksL_law_51 12 rfl rfl)
theorem dL_law_1410 : decode cL_law 1410 = .ok (.iload 4, 2) := dk_21 4 (dk_at dksL_law_51 13 rfl rfl)
theorem dL_law_1412 : decode cL_law 1412 = .ok (.iconst 3, 1) := dk_6 (dk_at dksL_law_51 15 rfl rfl)
theorem dL_law_1413 : decode cL_law 1413 = .ok (.iadd, 1) := dk_96 (dk_at dksL_law_51 16 rfl rfl)
theorem dL_law_1414 : decode cL_law 1414 = .ok (.iaload, 1) := dk_46 (dk_at dksL_law_51 17 rfl rfl)
theorem dL_law_1415 : decode cL_law 1415 = .ok (.aload_n 0, 1) := dk_42 (dk_at dksL_law_51 18 rfl rfl)
theorem dL_law_1416 : decode cL_law 1416 = .ok (.iload 4, 2) := dk_21 4 (dk_at dksL_law_51 19 rfl rfl)
theorem dL_law_1418 : decode cL_law 1418 = .ok (.iconst 4, 1) := dk_7 (dk_at dksL_law_51 21 rfl rfl)
theorem dL_law_1419 : decode cL_law 1419 = .ok (.iadd, 1) := dk_96 (dk_at dksL_law_51 22 rfl rfl)
theorem dL_law_1420 : decode cL_law 1420 = .ok (.iaload, 1) := dk_46 (dk_at dksL_law_51 23 rfl rfl)
theorem dL_law_1421 : decode cL_law 1421 = .ok (.invokevirtual 153, 3) := dk_182 0 153 (dk_at dksL_law_52 0 rfl rfl)
theorem dL_law_1424 : decode cL_law 1424 = .ok (.aload_n 2, 1) := dk_44 (dk_at dksL_law_52 3 rfl rfl)
theorem dL_law_1425 : decode cL_law 1425 = .ok (.aload_n 0, 1) := dk_42 (dk_at dksL_law_52 4 rfl rfl)
theorem dL_law_1426 : decode cL_law 1426 = .ok (.iload 4, 2) := dk_21 4 (dk_at dksL_law_52 5 rfl rfl)
theorem dL_law_1428 : decode cL_law 1428 = .ok (.iconst 1, 1) := dk_4 (dk_at dksL_law_52 7 rfl rfl)
theorem dL_law_1429 : decode cL_law 1429 = .ok (.iadd, 1) := dk_96 (dk_at dksL_law_52 8 rfl rfl)
theorem dL_law_1430 : decode cL_law 1430 = .ok (.iaload, 1) := dk_46 (dk_at dksL_law_52 9 rfl rfl)
theorem dL_law_1431 : decode cL_law 1431 = .ok (.aload_n 0, 1) := dk_42 (dk_at dksL_law_52 10 rfl rfl)
theorem dL_law_1432 : decode cL_law 1432 = .ok (.iload 4, 2) := dk_21 4 (dk_at dksL_law_52 11 rfl rfl)
theorem dL_law_1434 : decode cL_law 1434 = .ok (.iconst 2, 1) := dk_5 (dk_at dksL_law_52 13 rfl rfl)
theorem dL_law_1435 : decode cL_law 1435 = .ok (.iadd, 1) := dk_96 (dk_at dksL_law_52 14 rfl rfl)
theorem dL_law_1436 : decode cL_law 1436 = .ok (.iaload, 1) := dk_46 (dk_at dksL_law_52 15 rfl rfl)
theorem dL_law_1437 : decode cL_law 1437 = .ok (.aload_n 0, 1) := dk_42 (dk_at dksL_law_52 16 rfl rfl)
theorem dL_law_1438 : decode cL_law 1438 = .ok (.iload 4, 2) := dk_21 4 (dk_at dksL_law_52 17 rfl rfl)
theorem dL_law_1440 : decode cL_law 1440 = .ok (.iconst 3, 1) := dk_6 (dk_at dksL_law_52 19 rfl rfl)
theorem dL_law_1441 : decode cL_law 1441 = .ok (.iadd, 1) := dk_96 (dk_at dksL_law_52 20 rfl rfl)
theorem dL_law_1442 : decode cL_law 1442 = .ok (.iaload, 1) := dk_46 (dk_at dksL_law_52 21 rfl rfl)
theorem dL_law_1443 : decode cL_law 1443 = .ok (.aload_n 0, 1) := dk_42 (dk_at dksL_law_52 22 rfl rfl)
theorem dL_law_1444 : decode cL_law 1444 = .ok (.iload 4, 2) := dk_21 4 (dk_at dksL_law_53 0 rfl rfl)
theorem dL_law_1446 : decode cL_law 1446 = .ok (.iconst 4, 1) := dk_7 (dk_at dksL_law_53 2 rfl rfl)
theorem dL_law_1447 : decode cL_law 1447 = .ok (.iadd, 1) := dk_96 (dk_at dksL_law_53 3 rfl rfl)
theorem dL_law_1448 : decode cL_law 1448 = .ok (.iaload, 1) := dk_46 (dk_at dksL_law_53 4 rfl rfl)
theorem dL_law_1449 : decode cL_law 1449 = .ok (.invokevirtual 156, 3) := dk_182 0 156 (dk_at dksL_law_53 5 rfl rfl)
theorem dL_law_1452 : decode cL_law 1452 = .ok (.if_icmp .eq 591, 3) := dk_159 2 79 (dk_at dksL_law_53 8 rfl rfl)
theorem dL_law_1455 : decode cL_law 1455 = .ok (.iconst 0, 1) := dk_3 (dk_at dksL_law_53 11 rfl rfl)
theorem dL_law_1456 : decode cL_law 1456 = .ok (.ireturn, 1) := dk_172 (dk_at dksL_law_53 12 rfl rfl)
theorem dL_law_1457 : decode cL_law 1457 = .ok (.aload_n 1, 1) := dk_43 (dk_at dksL_law_53 13 rfl rfl)
theorem dL_law_1458 : decode cL_law 1458 = .ok (.aload_n 0, 1) := dk_42 (dk_at dksL_law_53 14 rfl rfl)
theorem dL_law_1459 : decode cL_law 1459 = .ok (.iload 4, 2) := dk_21 4 (dk_at dksL_law_53 15 rfl rfl)
theorem dL_law_1461 : decode cL_law 1461 = .ok (.iconst 1, 1) := dk_4 (dk_at dksL_law_53 17 rfl rfl)
theorem dL_law_1462 : decode cL_law 1462 = .ok (.iadd, 1) := dk_96 (dk_at dksL_law_53 18 rfl rfl)
theorem dL_law_1463 : decode cL_law 1463 = .ok (.iaload, 1) := dk_46 (dk_at dksL_law_53 19 rfl rfl)
theorem dL_law_1464 : decode cL_law 1464 = .ok (.invokevirtual 157, 3) := dk_182 0 157 (dk_at dksL_law_53 20 rfl rfl)
theorem dL_law_1467 : decode cL_law 1467 = .ok (.aload_n 2, 1) := dk_44 (dk_at dksL_law_53 23 rfl rfl)
theorem dL_law_1468 : decode cL_law 1468 = .ok (.aload_n 0, 1) := dk_42 (dk_at dksL_law_54 0 rfl rfl)
theorem dL_law_1469 : decode cL_law 1469 = .ok (.iload 4, 2) := dk_21 4 (dk_at dksL_law_54 1 rfl rfl)
theorem dL_law_1471 : decode cL_law 1471 = .ok (.iconst 1, 1) := dk_4 (dk_at dksL_law_54 3 rfl rfl)
theorem dL_law_1472 : decode cL_law 1472 = .ok (.iadd, 1) := dk_96 (dk_at dksL_law_54 4 rfl rfl)
theorem dL_law_1473 : decode cL_law 1473 = .ok (.iaload, 1) := dk_46 (dk_at dksL_law_54 5 rfl rfl)
theorem dL_law_1474 : decode cL_law 1474 = .ok (.invokevirtual 160, 3) := dk_182 0 160 (dk_at dksL_law_54 6 rfl rfl)
theorem dL_law_1477 : decode cL_law 1477 = .ok (.if_icmp .eq 566, 3) := dk_159 2 54 (dk_at dksL_law_54 9 rfl rfl)
theorem dL_law_1480 : decode cL_law 1480 = .ok (.iconst 0, 1) := dk_3 (dk_at dksL_law_54 12 rfl rfl)
theorem dL_law_1481 : decode cL_law 1481 = .ok (.ireturn, 1) := dk_172 (dk_at dksL_law_54 13 rfl rfl)
theorem dL_law_1482 : decode cL_law 1482 = .ok (.aload_n 1, 1) := dk_43 (dk_at dksL_law_54 14 rfl rfl)
theorem dL_law_1483 : decode cL_law 1483 = .ok (.invokevirtual 161, 3) := dk_182 0 161 (dk_at dksL_law_54 15 rfl rfl)
theorem dL_law_1486 : decode cL_law 1486 = .ok (.aload_n 2, 1) := dk_44 (dk_at dksL_law_54 18 rfl rfl)
theorem dL_law_1487 : decode cL_law 1487 = .ok (.invokevirtual 164, 3) := dk_182 0 164 (dk_at dksL_law_54 19 rfl rfl)
theorem dL_law_1490 : decode cL_law 1490 = .ok (.if_icmp .eq 553, 3) := dk_159 2 41 (dk_at dksL_law_55 0 rfl rfl)
theorem dL_law_1493 : decode cL_law 1493 = .ok (.iconst 0, 1) := dk_3 (dk_at dksL_law_55 3 rfl rfl)
theorem dL_law_1494 : decode cL_law 1494 = .ok (.ireturn, 1) := dk_172 (dk_at dksL_law_55 4 rfl rfl)
theorem dL_law_1495 : decode cL_law 1495 = .ok (.aload_n 1, 1) := dk_43 (dk_at dksL_law_55 5 rfl rfl)
theorem dL_law_1496 : decode cL_law 1496 = .ok (.aload_n 0, 1) := dk_42 (dk_at dksL_law_55 6 rfl rfl)
theorem dL_law_1497 : decode cL_law 1497 = .ok (.iload 4, 2) := dk_21 4 (dk_at dksL_law_55 7 rfl rfl)
theorem dL_law_1499 : decode cL_law 1499 = .ok (.iconst 1, 1) := dk_4 (dk_at dksL_law_55 9 rfl rfl)
theorem dL_law_1500 : decode cL_law 1500 = .ok (.iadd, 1) := dk_96 (dk_at dksL_law_55 10 rfl rfl)
theorem dL_law_1501 : decode cL_law 1501 = .ok (.iaload, 1) := dk_46 (dk_at dksL_law_55 11 rfl rfl)
theorem dL_law_1502 : decode cL_law 1502 = .ok (.invokevirtual 165, 3) := dk_182 0 165 (dk_at dksL_law_55 12 rfl rfl)
theorem dL_law_1505 : decode cL_law 1505 = .ok (.aload_n 2, 1) := dk_44 (dk_at dksL_law_55 15 rfl rfl)
theorem dL_law_1506 : decode cL_law 1506 = .ok (.aload_n 0, 1) := dk_42 (dk_at dksL_law_55 16 rfl rfl)
theorem dL_law_1507 : decode cL_law 1507 = .ok (.iload 4, 2) := dk_21 4 (dk_at dksL_law_55 17 rfl rfl)
theorem dL_law_1509 : decode cL_law 1509 = .ok (.iconst 1, 1) := dk_4 (dk_at dksL_law_55 19 rfl rfl)
theorem dL_law_1510 : decode cL_law 1510 = .ok (.iadd, 1) := dk_96 (dk_at dksL_law_55 20 rfl rfl)
theorem dL_law_1511 : decode cL_law 1511 = .ok (.iaload, 1) := dk_46 (dk_at dksL_law_55 21 rfl rfl)
theorem dL_law_1512 : decode cL_law 1512 = .ok (.invokevirtual 168, 3) := dk_182 0 168 (dk_at dksL_law_56 0 rfl rfl)
theorem dL_law_1515 : decode cL_law 1515 = .ok (.if_icmp .eq 528, 3) := dk_159 2 16 (dk_at dksL_law_56 3 rfl rfl)
theorem dL_law_1518 : decode cL_law 1518 = .ok (.iconst 0, 1) := dk_3 (dk_at dksL_law_56 6 rfl rfl)
theorem dL_law_1519 : decode cL_law 1519 = .ok (.ireturn, 1) := dk_172 (dk_at dksL_law_56 7 rfl rfl)
theorem dL_law_1520 : decode cL_law 1520 = .ok (.aload_n 1, 1) := dk_43 (dk_at dksL_law_56 8 rfl rfl)
theorem dL_law_1521 : decode cL_law 1521 = .ok (.aload_n 0, 1) := dk_42 (dk_at dksL_law_56 9 rfl rfl)
theorem dL_law_1522 : decode cL_law 1522 = .ok (.iload 4, 2) := dk_21 4 (dk_at dksL_law_56 10 rfl rfl)
theorem dL_law_1524 : decode cL_law 1524 = .ok (.iconst 1, 1) := dk_4 (dk_at dksL_law_56 12 rfl rfl)
theorem dL_law_1525 : decode cL_law 1525 = .ok (.iadd, 1) := dk_96 (dk_at dksL_law_56 13 rfl rfl)
theorem dL_law_1526 : decode cL_law 1526 = .ok (.iaload, 1) := dk_46 (dk_at dksL_law_56 14 rfl rfl)
theorem dL_law_1527 : decode cL_law 1527 = .ok (.invokevirtual 169, 3) := dk_182 0 169 (dk_at dksL_law_56 15 rfl rfl)
theorem dL_law_1530 : decode cL_law 1530 = .ok (.aload_n 2, 1) := dk_44 (dk_at dksL_law_56 18 rfl rfl)
theorem dL_law_1531 : decode cL_law 1531 = .ok (.aload_n 0, 1) := dk_42 (dk_at dksL_law_56 19 rfl rfl)
theorem dL_law_1532 : decode cL_law 1532 = .ok (.iload 4, 2) := dk_21 4 (dk_at dksL_law_56 20 rfl rfl)
theorem dL_law_1534 : decode cL_law 1534 = .ok (.iconst 1, 1) := dk_4 (dk_at dksL_law_56 22 rfl rfl)
theorem dL_law_1535 : decode cL_law 1535 = .ok (.iadd, 1) := dk_96 (dk_at dksL_law_56 23 rfl rfl)
theorem dL_law_1536 : decode cL_law 1536 = .ok (.iaload, 1) := dk_46 (dk_at dksL_law_57 0 rfl rfl)
theorem dL_law_1537 : decode cL_law 1537 = .ok (.invokevirtual 172, 3) := dk_182 0 172 (dk_at dksL_law_57 1 rfl rfl)
theorem dL_law_1540 : decode cL_law 1540 = .ok (.if_icmp .eq 503, 3) := dk_159 1 247 (dk_at dksL_law_57 4 rfl rfl)
theorem dL_law_1543 : decode cL_law 1543 = .ok (.iconst 0, 1) := dk_3 (dk_at dksL_law_57 7 rfl rfl)
theorem dL_law_1544 : decode cL_law 1544 = .ok (.ireturn, 1) := dk_172 (dk_at dksL_law_57 8 rfl rfl)
theorem dL_law_1545 : decode cL_law 1545 = .ok (.aload_n 1, 1) := dk_43 (dk_at dksL_law_57 9 rfl rfl)
theorem dL_law_1546 : decode cL_law 1546 = .ok (.aload_n 0, 1) := dk_42 (dk_at dksL_law_57 10 rfl rfl)
theorem dL_law_1547 : decode cL_law 1547 = .ok (.iload 4, 2) := dk_21 4 (dk_at dksL_law_57 11 rfl rfl)
theorem dL_law_1549 : decode cL_law 1549 = .ok (.iconst 1, 1) := dk_4 (dk_at dksL_law_57 13 rfl rfl)
theorem dL_law_1550 : decode cL_law 1550 = .ok (.iadd, 1) := dk_96 (dk_at dksL_law_57 14 rfl rfl)
theorem dL_law_1551 : decode cL_law 1551 = .ok (.iaload, 1) := dk_46 (dk_at dksL_law_57 15 rfl rfl)
theorem dL_law_1552 : decode cL_law 1552 = .ok (.invokevirtual 173, 3) := dk_182 0 173 (dk_at dksL_law_57 16 rfl rfl)
theorem dL_law_1555 : decode cL_law 1555 = .ok (.aload_n 2, 1) := dk_44 (dk_at dksL_law_57 19 rfl rfl)
theorem dL_law_1556 : decode cL_law 1556 = .ok (.aload_n 0, 1) := dk_42 (dk_at dksL_law_57 20 rfl rfl)
theorem dL_law_1557 : decode cL_law 1557 = .ok (.iload 4, 2) := dk_21 4 (dk_at dksL_law_57 21 rfl rfl)
theorem dL_law_1559 : decode cL_law 1559 = .ok (.iconst 1, 1) := dk_4 (dk_at dksL_law_57 23 rfl rfl)
theorem dL_law_1560 : decode cL_law 1560 = .ok (.iadd, 1) := dk_96 (dk_at dksL_law_58 0 rfl rfl)
theorem dL_law_1561 : decode cL_law 1561 = .ok (.iaload, 1) := dk_46 (dk_at dksL_law_58 1 rfl rfl)
theorem dL_law_1562 : decode cL_law 1562 = .ok (.invokevirtual 176, 3) := dk_182 0 176 (dk_at dksL_law_58 2 rfl rfl)
theorem dL_law_1565 : decode cL_law 1565 = .ok (.if_icmp .eq 478, 3) := dk_159 1 222 (dk_at dksL_law_58 5 rfl rfl)
theorem dL_law_1568 : decode cL_law 1568 = .ok (.iconst 0, 1) := dk_3 (dk_at dksL_law_58 8 rfl rfl)
theorem dL_law_1569 : decode cL_law 1569 = .ok (.ireturn, 1) := dk_172 (dk_at dksL_law_58 9 rfl rfl)
theorem dL_law_1570 : decode cL_law 1570 = .ok (.aload_n 1, 1) := dk_43 (dk_at dksL_law_58 10 rfl rfl)
theorem dL_law_1571 : decode cL_law 1571 = .ok (.aload_n 0, 1) := dk_42 (dk_at dksL_law_58 11 rfl rfl)
theorem dL_law_1572 : decode cL_law 1572 = .ok (.iload 4, 2) := dk_21 4 (dk_at dksL_law_58 12 rfl rfl)
theorem dL_law_1574 : decode cL_law 1574 = .ok (.iconst 1, 1) := dk_4 (dk_at dksL_law_58 14 rfl rfl)
theorem dL_law_1575 : decode cL_law 1575 = .ok (.iadd, 1) := dk_96 (dk_at dksL_law_58 15 rfl rfl)
theorem dL_law_1576 : decode cL_law 1576 = .ok (.iaload, 1) := dk_46 (dk_at dksL_law_58 16 rfl rfl)
theorem dL_law_1577 : decode cL_law 1577 = .ok (.invokevirtual 177, 3) := dk_182 0 177 (dk_at dksL_law_58 17 rfl rfl)
theorem dL_law_1580 : decode cL_law 1580 = .ok (.aload_n 2, 1) := dk_44 (dk_at dksL_law_58 20 rfl rfl)
theorem dL_law_1581 : decode cL_law 1581 = .ok (.aload_n 0, 1) := dk_42 (dk_at dksL_law_58 21 rfl rfl)
theorem dL_law_1582 : decode cL_law 1582 = .ok (.iload 4, 2) := dk_21 4 (dk_at dksL_law_58 22 rfl rfl)
theorem dL_law_1584 : decode cL_law 1584 = .ok (.iconst 1, 1) := dk_4 (dk_at dksL_law_59 0 rfl rfl)
theorem dL_law_1585 : decode cL_law 1585 = .ok (.iadd, 1) := dk_96 (dk_at dksL_law_59 1 rfl rfl)
theorem dL_law_1586 : decode cL_law 1586 = .ok (.iaload, 1) := dk_46 (dk_at dksL_law_59 2 rfl rfl)
theorem dL_law_1587 : decode cL_law 1587 = .ok (.invokevirtual 180, 3) := dk_182 0 180 (dk_at dksL_law_59 3 rfl rfl)
theorem dL_law_1590 : decode cL_law 1590 = .ok (.if_icmp .eq 453, 3) := dk_159 1 197 (dk_at dksL_law_59 6 rfl rfl)
theorem dL_law_1593 : decode cL_law 1593 = .ok (.iconst 0, 1) := dk_3 (dk_at dksL_law_59 9 rfl rfl)
theorem dL_law_1594 : decode cL_law 1594 = .ok (.ireturn, 1) := dk_172 (dk_at dksL_law_59 10 rfl rfl)
theorem dL_law_1595 : decode cL_law 1595 = .ok (.aload_n 1, 1) := dk_43 (dk_at dksL_law_59 11 rfl rfl)
theorem dL_law_1596 : decode cL_law 1596 = .ok (.invokevirtual 181, 3) := dk_182 0 181 (dk_at dksL_law_59 12 rfl rfl)
theorem dL_law_1599 : decode cL_law 1599 = .ok (.aload_n 2, 1) := dk_44 (dk_at dksL_law_59 15 rfl rfl)
theorem dL_law_1600 : decode cL_law 1600 = .ok (.invokevirtual 185, 3) := dk_182 0 185 (dk_at dksL_law_59 16 rfl rfl)
theorem dL_law_1603 : decode cL_law 1603 = .ok (.lcmp, 1) := dk_148 (dk_at dksL_law_59 19 rfl rfl)
theorem dL_law_1604 : decode cL_law 1604 = .ok (.ifCond .eq 439, 3) := dk_153 1 183 (dk_at dksL_law_59 20 rfl rfl)
theorem dL_law_1607 : decode cL_law 1607 = .ok (.iconst 0, 1) := dk_3 (dk_at dksL_law_59 23 rfl rfl)
theorem dL_law_1608 : decode cL_law 1608 = .ok (.ireturn, 1) := dk_172 (dk_at dksL_law_60 0 rfl rfl)
theorem dL_law_1609 : decode cL_law 1609 = .ok (.aload_n 1, 1) := dk_43 (dk_at dksL_law_60 1 rfl rfl)
theorem dL_law_1610 : decode cL_law 1610 = .ok (.aload_n 0, 1) := dk_42 (dk_at dksL_law_60 2 rfl rfl)
theorem dL_law_1611 : decode cL_law 1611 = .ok (.iload 4, 2) := dk_21 4 (dk_at dksL_law_60 3 rfl rfl)
theorem dL_law_1613 : decode cL_law 1613 = .ok (.iconst 1, 1) := dk_4 (dk_at dksL_law_60 5 rfl rfl)
theorem dL_law_1614 : decode cL_law 1614 = .ok (.iadd, 1) := dk_96 (dk_at dksL_law_60 6 rfl rfl)
theorem dL_law_1615 : decode cL_law 1615 = .ok (.iaload, 1) := dk_46 (dk_at dksL_law_60 7 rfl rfl)
theorem dL_law_1616 : decode cL_law 1616 = .ok (.invokevirtual 186, 3) := dk_182 0 186 (dk_at dksL_law_60 8 rfl rfl)
theorem dL_law_1619 : decode cL_law 1619 = .ok (.aload_n 2, 1) := dk_44 (dk_at dksL_law_60 11 rfl rfl)
theorem dL_law_1620 : decode cL_law 1620 = .ok (.aload_n 0, 1) := dk_42 (dk_at dksL_law_60 12 rfl rfl)
theorem dL_law_1621 : decode cL_law 1621 = .ok (.iload 4, 2) := dk_21 4 (dk_at dksL_law_60 13 rfl rfl)
theorem dL_law_1623 : decode cL_law 1623 = .ok (.iconst 1, 1) := dk_4 (dk_at dksL_law_60 15 rfl rfl)
theorem dL_law_1624 : decode cL_law 1624 = .ok (.iadd, 1) := dk_96 (dk_at dksL_law_60 16 rfl rfl)
theorem dL_law_1625 : decode cL_law 1625 = .ok (.iaload, 1) := dk_46 (dk_at dksL_law_60 17 rfl rfl)
theorem dL_law_1626 : decode cL_law 1626 = .ok (.invokevirtual 189, 3) := dk_182 0 189 (dk_at dksL_law_60 18 rfl rfl)
theorem dL_law_1629 : decode cL_law 1629 = .ok (.if_icmp .eq 414, 3) := dk_159 1 158 (dk_at dksL_law_60 21 rfl rfl)
theorem dL_law_1632 : decode cL_law 1632 = .ok (.iconst 0, 1) := dk_3 (dk_at dksL_law_61 0 rfl rfl)
theorem dL_law_1633 : decode cL_law 1633 = .ok (.ireturn, 1) := dk_172 (dk_at dksL_law_61 1 rfl rfl)
theorem dL_law_1634 : decode cL_law 1634 = .ok (.aload_n 1, 1) := dk_43 (dk_at dksL_law_61 2 rfl rfl)
theorem dL_law_1635 : decode cL_law 1635 = .ok (.aload_n 0, 1) := dk_42 (dk_at dksL_law_61 3 rfl rfl)
theorem dL_law_1636 : decode cL_law 1636 = .ok (.iload 4, 2) := dk_21 4 (dk_at dksL_law_61 4 rfl rfl)
theorem dL_law_1638 : decode cL_law 1638 = .ok (.iconst 1, 1) := dk_4 (dk_at dksL_law_61 6 rfl rfl)
theorem dL_law_1639 : decode cL_law 1639 = .ok (.iadd, 1) := dk_96 (dk_at dksL_law_61 7 rfl rfl)
theorem dL_law_1640 : decode cL_law 1640 = .ok (.iaload, 1) := dk_46 (dk_at dksL_law_61 8 rfl rfl)
theorem dL_law_1641 : decode cL_law 1641 = .ok (.aload_n 0, 1) := dk_42 (dk_at dksL_law_61 9 rfl rfl)
theorem dL_law_1642 : decode cL_law 1642 = .ok (.iload 4, 2) := dk_21 4 (dk_at dksL_law_61 10 rfl rfl)
theorem dL_law_1644 : decode cL_law 1644 = .ok (.iconst 2, 1) := dk_5 (dk_at dksL_law_61 12 rfl rfl)
theorem dL_law_1645 : decode cL_law 1645 = .ok (.iadd, 1) := dk_96 (dk_at dksL_law_61 13 rfl rfl)
theorem dL_law_1646 : decode cL_law 1646 = .ok (.iaload, 1) := dk_46 (dk_at dksL_law_61 14 rfl rfl)
theorem dL_law_1647 : decode cL_law 1647 = .ok (.aload_n 0, 1) := dk_42 (dk_at dksL_law_61 15 rfl rfl)
theorem dL_law_1648 : decode cL_law 1648 = .ok (.iload 4, 2) := dk_21 4 (dk_at dksL_law_61 16 rfl rfl)
theorem dL_law_1650 : decode cL_law 1650 = .ok (.iconst 3, 1) := dk_6 (dk_at dksL_law_61 18 rfl rfl)
theorem dL_law_1651 : decode cL_law 1651 = .ok (.iadd, 1) := dk_96 (dk_at dksL_law_61 19 rfl rfl)
theorem dL_law_1652 : decode cL_law 1652 = .ok (.iaload, 1) := dk_46 (dk_at dksL_law_61 20 rfl rfl)
theorem dL_law_1653 : decode cL_law 1653 = .ok (.ifCond .eq 7, 3) := dk_153 0 7 (dk_at dksL_law_61 21 rfl rfl)
theorem dL_law_1656 : decode cL_law 1656 = .ok (.iconst 1, 1) := dk_4 (dk_at dksL_law_62 0 rfl rfl)
theorem dL_law_1657 : decode cL_law 1657 = .ok (.goto 4, 3) := dk_167 0 4 (dk_at dksL_law_62 1 rfl rfl)
theorem dL_law_1660 : decode cL_law 1660 = .ok (.iconst 0, 1) := dk_3 (dk_at dksL_law_62 4 rfl rfl)
theorem dL_law_1661 : decode cL_law 1661 = .ok (.invokevirtual 190, 3) := dk_182 0 190 (dk_at dksL_law_62 5 rfl rfl)
theorem dL_law_1664 : decode cL_law 1664 = .ok (.aload_n 2, 1) := dk_44 (dk_at dksL_law_62 8 rfl rfl)
theorem dL_law_1665 : decode cL_law 1665 = .ok (.aload_n 0, 1) := dk_42 (dk_at dksL_law_62 9 rfl rfl)
theorem dL_law_1666 : decode cL_law 1666 = .ok (.iload 4, 2) := dk_21 4 (dk_at dksL_law_62 10 rfl rfl)
theorem dL_law_1668 : decode cL_law 1668 = .ok (.iconst 1, 1) := dk_4 (dk_at dksL_law_62 12 rfl rfl)
theorem dL_law_1669 : decode cL_law 1669 = .ok (.iadd, 1) := dk_96 (dk_at dksL_law_62 13 rfl rfl)
theorem dL_law_1670 : decode cL_law 1670 = .ok (.iaload, 1) := dk_46 (dk_at dksL_law_62 14 rfl rfl)
theorem dL_law_1671 : decode cL_law 1671 = .ok (.aload_n 0, 1) := dk_42 (dk_at dksL_law_62 15 rfl rfl)
theorem dL_law_1672 : decode cL_law 1672 = .ok (.iload 4, 2) := dk_21 4 (dk_at dksL_law_62 16 rfl rfl)
theorem dL_law_1674 : decode cL_law 1674 = .ok (.iconst 2, 1) := dk_5 (dk_at dksL_law_62 18 rfl rfl)
theorem dL_law_1675 : decode cL_law 1675 = .ok (.iadd, 1) := dk_96 (dk_at dksL_law_62 19 rfl rfl)
theorem dL_law_1676 : decode cL_law 1676 = .ok (.iaload, 1) := dk_46 (dk_at dksL_law_62 20 rfl rfl)
theorem dL_law_1677 : decode cL_law 1677 = .ok (.aload_n 0, 1) := dk_42 (dk_at dksL_law_62 21 rfl rfl)
theorem dL_law_1678 : decode cL_law 1678 = .ok (.iload 4, 2) := dk_21 4 (dk_at dksL_law_62 22 rfl rfl)
theorem dL_law_1680 : decode cL_law 1680 = .ok (.iconst 3, 1) := dk_6 (dk_at dksL_law_63 0 rfl rfl)
theorem dL_law_1681 : decode cL_law 1681 = .ok (.iadd, 1) := dk_96 (dk_at dksL_law_63 1 rfl rfl)
theorem dL_law_1682 : decode cL_law 1682 = .ok (.iaload, 1) := dk_46 (dk_at dksL_law_63 2 rfl rfl)
theorem dL_law_1683 : decode cL_law 1683 = .ok (.ifCond .eq 7, 3) := dk_153 0 7 (dk_at dksL_law_63 3 rfl rfl)
theorem dL_law_1686 : decode cL_law 1686 = .ok (.iconst 1, 1) := dk_4 (dk_at dksL_law_63 6 rfl rfl)
theorem dL_law_1687 : decode cL_law 1687 = .ok (.goto 4, 3) := dk_167 0 4 (dk_at dksL_law_63 7 rfl rfl)
theorem dL_law_1690 : decode cL_law 1690 = .ok (.iconst 0, 1) := dk_3 (dk_at dksL_law_63 10 rfl rfl)
theorem dL_law_1691 : decode cL_law 1691 = .ok (.invokevirtual 194, 3) := dk_182 0 194 (dk_at dksL_law_63 11 rfl rfl)
theorem dL_law_1694 : decode cL_law 1694 = .ok (.if_icmp .eq 349, 3) := dk_159 1 93 (dk_at dksL_law_63 14 rfl rfl)
theorem dL_law_1697 : decode cL_law 1697 = .ok (.iconst 0, 1) := dk_3 (dk_at dksL_law_63 17 rfl rfl)
theorem dL_law_1698 : decode cL_law 1698 = .ok (.ireturn, 1) := dk_172 (dk_at dksL_law_63 18 rfl rfl)
theorem dL_law_1699 : decode cL_law 1699 = .ok (.aload_n 1, 1) := dk_43 (dk_at dksL_law_63 19 rfl rfl)
theorem dL_law_1700 : decode cL_law 1700 = .ok (.aload_n 0, 1) := dk_42 (dk_at dksL_law_63 20 rfl rfl)
theorem dL_law_1701 : decode cL_law 1701 = .ok (.iload 4, 2) := dk_21 4 (dk_at dksL_law_63 21 rfl rfl)
theorem dL_law_1703 : decode cL_law 1703 = .ok (.iconst 1, 1) := dk_4 (dk_at dksL_law_63 23 rfl rfl)
theorem dL_law_1704 : decode cL_law 1704 = .ok (.iadd, 1) := dk_96 (dk_at dksL_law_64 0 rfl rfl)
theorem dL_law_1705 : decode cL_law 1705 = .ok (.iaload, 1) := dk_46 (dk_at dksL_law_64 1 rfl rfl)
theorem dL_law_1706 : decode cL_law 1706 = .ok (.aload_n 0, 1) := dk_42 (dk_at dksL_law_64 2 rfl rfl)
theorem dL_law_1707 : decode cL_law 1707 = .ok (.iload 4, 2) := dk_21 4 (dk_at dksL_law_64 3 rfl rfl)
theorem dL_law_1709 : decode cL_law 1709 = .ok (.iconst 2, 1) := dk_5 (dk_at dksL_law_64 5 rfl rfl)
theorem dL_law_1710 : decode cL_law 1710 = .ok (.iadd, 1) := dk_96 (dk_at dksL_law_64 6 rfl rfl)
theorem dL_law_1711 : decode cL_law 1711 = .ok (.iaload, 1) := dk_46 (dk_at dksL_law_64 7 rfl rfl)
theorem dL_law_1712 : decode cL_law 1712 = .ok (.aload_n 0, 1) := dk_42 (dk_at dksL_law_64 8 rfl rfl)
theorem dL_law_1713 : decode cL_law 1713 = .ok (.iload 4, 2) := dk_21 4 (dk_at dksL_law_64 9 rfl rfl)
theorem dL_law_1715 : decode cL_law 1715 = .ok (.iconst 3, 1) := dk_6 (dk_at dksL_law_64 11 rfl rfl)
theorem dL_law_1716 : decode cL_law 1716 = .ok (.iadd, 1) := dk_96 (dk_at dksL_law_64 12 rfl rfl)
theorem dL_law_1717 : decode cL_law 1717 = .ok (.iaload, 1) := dk_46 (dk_at dksL_law_64 13 rfl rfl)
theorem dL_law_1718 : decode cL_law 1718 = .ok (.ifCond .eq 7, 3) := dk_153 0 7 (dk_at dksL_law_64 14 rfl rfl)
theorem dL_law_1721 : decode cL_law 1721 = .ok (.iconst 1, 1) := dk_4 (dk_at dksL_law_64 17 rfl rfl)
theorem dL_law_1722 : decode cL_law 1722 = .ok (.goto 4, 3) := dk_167 0 4 (dk_at dksL_law_64 18 rfl rfl)
theorem dL_law_1725 : decode cL_law 1725 = .ok (.iconst 0, 1) := dk_3 (dk_at dksL_law_64 21 rfl rfl)
theorem dL_law_1726 : decode cL_law 1726 = .ok (.invokevirtual 195, 3) := dk_182 0 195 (dk_at dksL_law_65 0 rfl rfl)
theorem dL_law_1729 : decode cL_law 1729 = .ok (.aload_n 2, 1) := dk_44 (dk_at dksL_law_65 3 rfl rfl)
theorem dL_law_1730 : decode cL_law 1730 = .ok (.aload_n 0, 1) := dk_42 (dk_at dksL_law_65 4 rfl rfl)
theorem dL_law_1731 : decode cL_law 1731 = .ok (.iload 4, 2) := dk_21 4 (dk_at dksL_law_65 5 rfl rfl)
theorem dL_law_1733 : decode cL_law 1733 = .ok (.iconst 1, 1) := dk_4 (dk_at dksL_law_65 7 rfl rfl)
theorem dL_law_1734 : decode cL_law 1734 = .ok (.iadd, 1) := dk_96 (dk_at dksL_law_65 8 rfl rfl)
theorem dL_law_1735 : decode cL_law 1735 = .ok (.iaload, 1) := dk_46 (dk_at dksL_law_65 9 rfl rfl)
theorem dL_law_1736 : decode cL_law 1736 = .ok (.aload_n 0, 1) := dk_42 (dk_at dksL_law_65 10 rfl rfl)
theorem dL_law_1737 : decode cL_law 1737 = .ok (.iload 4, 2) := dk_21 4 (dk_at dksL_law_65 11 rfl rfl)
theorem dL_law_1739 : decode cL_law 1739 = .ok (.iconst 2, 1) := dk_5 (dk_at dksL_law_65 13 rfl rfl)
theorem dL_law_1740 : decode cL_law 1740 = .ok (.iadd, 1) := dk_96 (dk_at dksL_law_65 14 rfl rfl)
theorem dL_law_1741 : decode cL_law 1741 = .ok (.iaload, 1) := dk_46 (dk_at dksL_law_65 15 rfl rfl)
theorem dL_law_1742 : decode cL_law 1742 = .ok (.aload_n 0, 1) := dk_42 (dk_at dksL_law_65 16 rfl rfl)
theorem dL_law_1743 : decode cL_law 1743 = .ok (.iload 4, 2) := dk_21 4 (dk_at dksL_law_65 17 rfl rfl)
theorem dL_law_1745 : decode cL_law 1745 = .ok (.iconst 3, 1) := dk_6 (dk_at dksL_law_65 19 rfl rfl)
theorem dL_law_1746 : decode cL_law 1746 = .ok (.iadd, 1) := dk_96 (dk_at dksL_law_65 20 rfl rfl)
theorem dL_law_1747 : decode cL_law 1747 = .ok (.iaload, 1) := dk_46 (dk_at dksL_law_65 21 rfl rfl)
theorem dL_law_1748 : decode cL_law 1748 = .ok (.ifCond .eq 7, 3) := dk_153 0 7 (dk_at dksL_law_66 0 rfl rfl)
theorem dL_law_1751 : decode cL_law 1751 = .ok (.iconst 1, 1) := dk_4 (dk_at dksL_law_66 3 rfl rfl)
theorem dL_law_1752 : decode cL_law 1752 = .ok (.goto 4, 3) := dk_167 0 4 (dk_at dksL_law_66 4 rfl rfl)
theorem dL_law_1755 : decode cL_law 1755 = .ok (.iconst 0, 1) := dk_3 (dk_at dksL_law_66 7 rfl rfl)
theorem dL_law_1756 : decode cL_law 1756 = .ok (.invokevirtual 198, 3) := dk_182 0 198 (dk_at dksL_law_66 8 rfl rfl)
theorem dL_law_1759 : decode cL_law 1759 = .ok (.if_icmp .eq 284, 3) := dk_159 1 28 (dk_at dksL_law_66 11 rfl rfl)
theorem dL_law_1762 : decode cL_law 1762 = .ok (.iconst 0, 1) := dk_3 (dk_at dksL_law_66 14 rfl rfl)
theorem dL_law_1763 : decode cL_law 1763 = .ok (.ireturn, 1) := dk_172 (dk_at dksL_law_66 15 rfl rfl)
theorem dL_law_1764 : decode cL_law 1764 = .ok (.aload_n 1, 1) := dk_43 (dk_at dksL_law_66 16 rfl rfl)
theorem dL_law_1765 : decode cL_law 1765 = .ok (.aload_n 0, 1) := dk_42 (dk_at dksL_law_66 17 rfl rfl)
theorem dL_law_1766 : decode cL_law 1766 = .ok (.iload 4, 2) := dk_21 4 (dk_at dksL_law_66 18 rfl rfl)
theorem dL_law_1768 : decode cL_law 1768 = .ok (.iconst 1, 1) := dk_4 (dk_at dksL_law_66 20 rfl rfl)
theorem dL_law_1769 : decode cL_law 1769 = .ok (.iadd, 1) := dk_96 (dk_at dksL_law_66 21 rfl rfl)
theorem dL_law_1770 : decode cL_law 1770 = .ok (.iaload, 1) := dk_46 (dk_at dksL_law_66 22 rfl rfl)
theorem dL_law_1771 : decode cL_law 1771 = .ok (.aload_n 0, 1) := dk_42 (dk_at dksL_law_66 23 rfl rfl)
theorem dL_law_1772 : decode cL_law 1772 = .ok (.iload 4, 2) := dk_21 4 (dk_at dksL_law_67 0 rfl rfl)
theorem dL_law_1774 : decode cL_law 1774 = .ok (.iconst 2, 1) := dk_5 (dk_at dksL_law_67 2 rfl rfl)
theorem dL_law_1775 : decode cL_law 1775 = .ok (.iadd, 1) := dk_96 (dk_at dksL_law_67 3 rfl rfl)
theorem dL_law_1776 : decode cL_law 1776 = .ok (.iaload, 1) := dk_46 (dk_at dksL_law_67 4 rfl rfl)
theorem dL_law_1777 : decode cL_law 1777 = .ok (.ifCond .eq 7, 3) := dk_153 0 7 (dk_at dksL_law_67 5 rfl rfl)
theorem dL_law_1780 : decode cL_law 1780 = .ok (.iconst 1, 1) := dk_4 (dk_at dksL_law_67 8 rfl rfl)
theorem dL_law_1781 : decode cL_law 1781 = .ok (.goto 4, 3) := dk_167 0 4 (dk_at dksL_law_67 9 rfl rfl)
theorem dL_law_1784 : decode cL_law 1784 = .ok (.iconst 0, 1) := dk_3 (dk_at dksL_law_67 12 rfl rfl)
theorem dL_law_1785 : decode cL_law 1785 = .ok (.invokevirtual 199, 3) := dk_182 0 199 (dk_at dksL_law_67 13 rfl rfl)
theorem dL_law_1788 : decode cL_law 1788 = .ok (.aload_n 2, 1) := dk_44 (dk_at dksL_law_67 16 rfl rfl)
theorem dL_law_1789 : decode cL_law 1789 = .ok (.aload_n 0, 1) := dk_42 (dk_at dksL_law_67 17 rfl rfl)
theorem dL_law_1790 : decode cL_law 1790 = .ok (.iload 4, 2) := dk_21 4 (dk_at dksL_law_67 18 rfl rfl)
theorem dL_law_1792 : decode cL_law 1792 = .ok (.iconst 1, 1) := dk_4 (dk_at dksL_law_67 20 rfl rfl)
theorem dL_law_1793 : decode cL_law 1793 = .ok (.iadd, 1) := dk_96 (dk_at dksL_law_67 21 rfl rfl)
theorem dL_law_1794 : decode cL_law 1794 = .ok (.iaload, 1) := dk_46 (dk_at dksL_law_67 22 rfl rfl)
theorem dL_law_1795 : decode cL_law 1795 = .ok (.aload_n 0, 1) := dk_42 (dk_at dksL_law_67 23 rfl rfl)
theorem dL_law_1796 : decode cL_law 1796 = .ok (.iload 4, 2) := dk_21 4 (dk_at dksL_law_68 0 rfl rfl)
theorem dL_law_1798 : decode cL_law 1798 = .ok (.iconst 2, 1) := dk_5 (dk_at dksL_law_68 2 rfl rfl)
theorem dL_law_1799 : decode cL_law 1799 = .ok (.iadd, 1) := dk_96 (dk_at dksL_law_68 3 rfl rfl)
theorem dL_law_1800 : decode cL_law 1800 = .ok (.iaload, 1) := dk_46 (dk_at dksL_law_68 4 rfl rfl)
theorem dL_law_1801 : decode cL_law 1801 = .ok (.ifCond .eq 7, 3) := dk_153 0 7 (dk_at dksL_law_68 5 rfl rfl)
theorem dL_law_1804 : decode cL_law 1804 = .ok (.iconst 1, 1) := dk_4 (dk_at dksL_law_68 8 rfl rfl)
theorem dL_law_1805 : decode cL_law 1805 = .ok (.goto 4, 3) := dk_167 0 4 (dk_at dksL_law_68 9 rfl rfl)
theorem dL_law_1808 : decode cL_law 1808 = .ok (.iconst 0, 1) := dk_3 (dk_at dksL_law_68 12 rfl rfl)
theorem dL_law_1809 : decode cL_law 1809 = .ok (.invokevirtual 203, 3) := dk_182 0 203 (dk_at dksL_law_68 13 rfl rfl)
theorem dL_law_1812 : decode cL_law 1812 = .ok (.if_icmp .eq 231, 3) := dk_159 0 231 (dk_at dksL_law_68 16 rfl rfl)
theorem dL_law_1815 : decode cL_law 1815 = .ok (.iconst 0, 1) := dk_3 (dk_at dksL_law_68 19 rfl rfl)
theorem dL_law_1816 : decode cL_law 1816 = .ok (.ireturn, 1) := dk_172 (dk_at dksL_law_68 20 rfl rfl)
theorem dL_law_1817 : decode cL_law 1817 = .ok (.aload_n 1, 1) := dk_43 (dk_at dksL_law_68 21 rfl rfl)
theorem dL_law_1818 : decode cL_law 1818 = .ok (.aload_n 0, 1) := dk_42 (dk_at dksL_law_68 22 rfl rfl)
theorem dL_law_1819 : decode cL_law 1819 = .ok (.iload 4, 2) := dk_21 4 (dk_at dksL_law_69 0 rfl rfl)
theorem dL_law_1821 : decode cL_law 1821 = .ok (.iconst 1, 1) := dk_4 (dk_at dksL_law_69 2 rfl rfl)
theorem dL_law_1822 : decode cL_law 1822 = .ok (.iadd, 1) := dk_96 (dk_at dksL_law_69 3 rfl rfl)
theorem dL_law_1823 : decode cL_law 1823 = .ok (.iaload, 1) := dk_46 (dk_at dksL_law_69 4 rfl rfl)
theorem dL_law_1824 : decode cL_law 1824 = .ok (.aload_n 0, 1) := dk_42 (dk_at dksL_law_69 5 rfl rfl)
theorem dL_law_1825 : decode cL_law 1825 = .ok (.iload 4, 2) := dk_21 4 (dk_at dksL_law_69 6 rfl rfl)
theorem dL_law_1827 : decode cL_law 1827 = .ok (.iconst 2, 1) := dk_5 (dk_at dksL_law_69 8 rfl rfl)
theorem dL_law_1828 : decode cL_law 1828 = .ok (.iadd, 1) := dk_96 (dk_at dksL_law_69 9 rfl rfl)
theorem dL_law_1829 : decode cL_law 1829 = .ok (.iaload, 1) := dk_46 (dk_at dksL_law_69 10 rfl rfl)
theorem dL_law_1830 : decode cL_law 1830 = .ok (.ifCond .eq 7, 3) := dk_153 0 7 (dk_at dksL_law_69 11 rfl rfl)
theorem dL_law_1833 : decode cL_law 1833 = .ok (.iconst 1, 1) := dk_4 (dk_at dksL_law_69 14 rfl rfl)
theorem dL_law_1834 : decode cL_law 1834 = .ok (.goto 4, 3) := dk_167 0 4 (dk_at dksL_law_69 15 rfl rfl)
theorem dL_law_1837 : decode cL_law 1837 = .ok (.iconst 0, 1) := dk_3 (dk_at dksL_law_69 18 rfl rfl)
theorem dL_law_1838 : decode cL_law 1838 = .ok (.invokevirtual 204, 3) := dk_182 0 204 (dk_at dksL_law_69 19 rfl rfl)
theorem dL_law_1841 : decode cL_law 1841 = .ok (.aload_n 2, 1) := dk_44 (dk_at dksL_law_69 22 rfl rfl)
theorem dL_law_1842 : decode cL_law 1842 = .ok (.aload_n 0, 1) := dk_42 (dk_at dksL_law_69 23 rfl rfl)
theorem dL_law_1843 : decode cL_law 1843 = .ok (.iload 4, 2) := dk_21 4 (dk_at dksL_law_70 0 rfl rfl)
theorem dL_law_1845 : decode cL_law 1845 = .ok (.iconst 1, 1) := dk_4 (dk_at dksL_law_70 2 rfl rfl)
theorem dL_law_1846 : decode cL_law 1846 = .ok (.iadd, 1) := dk_96 (dk_at dksL_law_70 3 rfl rfl)
theorem dL_law_1847 : decode cL_law 1847 = .ok (.iaload, 1) := dk_46 (dk_at dksL_law_70 4 rfl rfl)
theorem dL_law_1848 : decode cL_law 1848 = .ok (.aload_n 0, 1) := dk_42 (dk_at dksL_law_70 5 rfl rfl)
theorem dL_law_1849 : decode cL_law 1849 = .ok (.iload 4, 2) := dk_21 4 (dk_at dksL_law_70 6 rfl rfl)
theorem dL_law_1851 : decode cL_law 1851 = .ok (.iconst 2, 1) := dk_5 (dk_at dksL_law_70 8 rfl rfl)
theorem dL_law_1852 : decode cL_law 1852 = .ok (.iadd, 1) := dk_96 (dk_at dksL_law_70 9 rfl rfl)
theorem dL_law_1853 : decode cL_law 1853 = .ok (.iaload, 1) := dk_46 (dk_at dksL_law_70 10 rfl rfl)
theorem dL_law_1854 : decode cL_law 1854 = .ok (.ifCond .eq 7, 3) := dk_153 0 7 (dk_at dksL_law_70 11 rfl rfl)
theorem dL_law_1857 : decode cL_law 1857 = .ok (.iconst 1, 1) := dk_4 (dk_at dksL_law_70 14 rfl rfl)
theorem dL_law_1858 : decode cL_law 1858 = .ok (.goto 4, 3) := dk_167 0 4 (dk_at dksL_law_70 15 rfl rfl)
theorem dL_law_1861 : decode cL_law 1861 = .ok (.iconst 0, 1) := dk_3 (dk_at dksL_law_70 18 rfl rfl)
theorem dL_law_1862 : decode cL_law 1862 = .ok (.invokevirtual 207, 3) := dk_182 0 207 (dk_at dksL_law_70 19 rfl rfl)
theorem dL_law_1865 : decode cL_law 1865 = .ok (.if_icmp .eq 178, 3) := dk_159 0 178 (dk_at dksL_law_71 0 rfl rfl)
theorem dL_law_1868 : decode cL_law 1868 = .ok (.iconst 0, 1) := dk_3 (dk_at dksL_law_71 3 rfl rfl)
theorem dL_law_1869 : decode cL_law 1869 = .ok (.ireturn, 1) := dk_172 (dk_at dksL_law_71 4 rfl rfl)
theorem dL_law_1870 : decode cL_law 1870 = .ok (.aload_n 1, 1) := dk_43 (dk_at dksL_law_71 5 rfl rfl)
theorem dL_law_1871 : decode cL_law 1871 = .ok (.invokevirtual 208, 3) := dk_182 0 208 (dk_at dksL_law_71 6 rfl rfl)
theorem dL_law_1874 : decode cL_law 1874 = .ok (.aload_n 2, 1) := dk_44 (dk_at dksL_law_71 9 rfl rfl)
theorem dL_law_1875 : decode cL_law 1875 = .ok (.invokevirtual 212, 3) := dk_182 0 212 (dk_at dksL_law_71 10 rfl rfl)
theorem dL_law_1878 : decode cL_law 1878 = .ok (.if_icmp .eq 165, 3) := dk_159 0 165 (dk_at dksL_law_71 13 rfl rfl)
theorem dL_law_1881 : decode cL_law 1881 = .ok (.iconst 0, 1) := dk_3 (dk_at dksL_law_71 16 rfl rfl)
theorem dL_law_1882 : decode cL_law 1882 = .ok (.ireturn, 1) := dk_172 (dk_at dksL_law_71 17 rfl rfl)
theorem dL_law_1883 : decode cL_law 1883 = .ok (.aload_n 1, 1) := dk_43 (dk_at dksL_law_71 18 rfl rfl)
theorem dL_law_1884 : decode cL_law 1884 = .ok (.invokevirtual 213, 3) := dk_182 0 213 (dk_at dksL_law_71 19 rfl rfl)
theorem dL_law_1887 : decode cL_law 1887 = .ok (.aload_n 2, 1) := dk_44 (dk_at dksL_law_71 22 rfl rfl)
theorem dL_law_1888 : decode cL_law 1888 = .ok (.invokevirtual 216, 3) := dk_182 0 216 (dk_at dksL_law_72 0 rfl rfl)
theorem dL_law_1891 : decode cL_law 1891 = .ok (.if_icmp .eq 152, 3) := dk_159 0 152 (dk_at dksL_law_72 3 rfl rfl)
theorem dL_law_1894 : decode cL_law 1894 = .ok (.iconst 0, 1) := dk_3 (dk_at dksL_law_72 6 rfl rfl)
theorem dL_law_1895 : decode cL_law 1895 = .ok (.ireturn, 1) := dk_172 (dk_at dksL_law_72 7 rfl rfl)
theorem dL_law_1896 : decode cL_law 1896 = .ok (.aload_n 1, 1) := dk_43 (dk_at dksL_law_72 8 rfl rfl)
theorem dL_law_1897 : decode cL_law 1897 = .ok (.aload_n 0, 1) := dk_42 (dk_at dksL_law_72 9 rfl rfl)
theorem dL_law_1898 : decode cL_law 1898 = .ok (.iload 4, 2) := dk_21 4 (dk_at dksL_law_72 10 rfl rfl)
theorem dL_law_1900 : decode cL_law 1900 = .ok (.iconst 1, 1) := dk_4 (dk_at dksL_law_72 12 rfl rfl)
theorem dL_law_1901 : decode cL_law 1901 = .ok (.iadd, 1) := dk_96 (dk_at dksL_law_72 13 rfl rfl)
theorem dL_law_1902 : decode cL_law 1902 = .ok (.iaload, 1) := dk_46 (dk_at dksL_law_72 14 rfl rfl)
theorem dL_law_1903 : decode cL_law 1903 = .ok (.invokevirtual 217, 3) := dk_182 0 217 (dk_at dksL_law_72 15 rfl rfl)
theorem dL_law_1906 : decode cL_law 1906 = .ok (.aload_n 2, 1) := dk_44 (dk_at dksL_law_72 18 rfl rfl)
theorem dL_law_1907 : decode cL_law 1907 = .ok (.aload_n 0, 1) := dk_42 (dk_at dksL_law_72 19 rfl rfl)
theorem dL_law_1908 : decode cL_law 1908 = .ok (.iload 4, 2) := dk_21 4 (dk_at dksL_law_72 20 rfl rfl)
theorem dL_law_1910 : decode cL_law 1910 = .ok (.iconst 1, 1) := dk_4 (dk_at dksL_law_72 22 rfl rfl)
theorem dL_law_1911 : decode cL_law 1911 = .ok (.iadd, 1) := dk_96 (dk_at dksL_law_72 23 rfl rfl)
theorem dL_law_1912 : decode cL_law 1912 = .ok (.iaload, 1) := dk_46 (dk_at dksL_law_73 0 rfl rfl)
theorem dL_law_1913 : decode cL_law 1913 = .ok (.invokevirtual 221, 3) := dk_182 0 221 (dk_at dksL_law_73 1 rfl rfl)
theorem dL_law_1916 : decode cL_law 1916 = .ok (.if_icmp .eq 127, 3) := dk_159 0 127 (dk_at dksL_law_73 4 rfl rfl)
theorem dL_law_1919 : decode cL_law 1919 = .ok (.iconst 0, 1) := dk_3 (dk_at dksL_law_73 7 rfl rfl)
theorem dL_law_1920 : decode cL_law 1920 = .ok (.ireturn, 1) := dk_172 (dk_at dksL_law_73 8 rfl rfl)
theorem dL_law_1921 : decode cL_law 1921 = .ok (.aload_n 1, 1) := dk_43 (dk_at dksL_law_73 9 rfl rfl)
theorem dL_law_1922 : decode cL_law 1922 = .ok (.aload_n 0, 1) := dk_42 (dk_at dksL_law_73 10 rfl rfl)
theorem dL_law_1923 : decode cL_law 1923 = .ok (.iload 4, 2) := dk_21 4 (dk_at dksL_law_73 11 rfl rfl)
theorem dL_law_1925 : decode cL_law 1925 = .ok (.iconst 1, 1) := dk_4 (dk_at dksL_law_73 13 rfl rfl)
theorem dL_law_1926 : decode cL_law 1926 = .ok (.iadd, 1) := dk_96 (dk_at dksL_law_73 14 rfl rfl)
theorem dL_law_1927 : decode cL_law 1927 = .ok (.iaload, 1) := dk_46 (dk_at dksL_law_73 15 rfl rfl)
theorem dL_law_1928 : decode cL_law 1928 = .ok (.aload_n 0, 1) := dk_42 (dk_at dksL_law_73 16 rfl rfl)
theorem dL_law_1929 : decode cL_law 1929 = .ok (.iload 4, 2) := dk_21 4 (dk_at dksL_law_73 17 rfl rfl)
theorem dL_law_1931 : decode cL_law 1931 = .ok (.iconst 2, 1) := dk_5 (dk_at dksL_law_73 19 rfl rfl)
theorem dL_law_1932 : decode cL_law 1932 = .ok (.iadd, 1) := dk_96 (dk_at dksL_law_73 20 rfl rfl)
theorem dL_law_1933 : decode cL_law 1933 = .ok (.iaload, 1) := dk_46 (dk_at dksL_law_73 21 rfl rfl)
theorem dL_law_1934 : decode cL_law 1934 = .ok (.ifCond .eq 7, 3) := dk_153 0 7 (dk_at dksL_law_74 0 rfl rfl)
theorem dL_law_1937 : decode cL_law 1937 = .ok (.iconst 1, 1) := dk_4 (dk_at dksL_law_74 3 rfl rfl)
theorem dL_law_1938 : decode cL_law 1938 = .ok (.goto 4, 3) := dk_167 0 4 (dk_at dksL_law_74 4 rfl rfl)
theorem dL_law_1941 : decode cL_law 1941 = .ok (.iconst 0, 1) := dk_3 (dk_at dksL_law_74 7 rfl rfl)
theorem dL_law_1942 : decode cL_law 1942 = .ok (.aload_n 3, 1) := dk_45 (dk_at dksL_law_74 8 rfl rfl)
theorem dL_law_1943 : decode cL_law 1943 = .ok (.invokestatic 222, 3) := dk_184 0 222 (dk_at dksL_law_74 9 rfl rfl)
theorem dL_law_1946 : decode cL_law 1946 = .ok (.istore 5, 2) := dk_54 5 (dk_at dksL_law_74 12 rfl rfl)
theorem dL_law_1948 : decode cL_law 1948 = .ok (.aload_n 2, 1) := dk_44 (dk_at dksL_law_74 14 rfl rfl)
theorem dL_law_1949 : decode cL_law 1949 = .ok (.aload_n 0, 1) := dk_42 (dk_at dksL_law_74 15 rfl rfl)
theorem dL_law_1950 : decode cL_law 1950 = .ok (.iload 4, 2) := dk_21 4 (dk_at dksL_law_74 16 rfl rfl)
theorem dL_law_1952 : decode cL_law 1952 = .ok (.iconst 1, 1) := dk_4 (dk_at dksL_law_74 18 rfl rfl)
theorem dL_law_1953 : decode cL_law 1953 = .ok (.iadd, 1) := dk_96 (dk_at dksL_law_74 19 rfl rfl)
theorem dL_law_1954 : decode cL_law 1954 = .ok (.iaload, 1) := dk_46 (dk_at dksL_law_74 20 rfl rfl)
theorem dL_law_1955 : decode cL_law 1955 = .ok (.aload_n 0, 1) := dk_42 (dk_at dksL_law_74 21 rfl rfl)
theorem dL_law_1956 : decode cL_law 1956 = .ok (.iload 4, 2) := dk_21 4 (dk_at dksL_law_74 22 rfl rfl)
theorem dL_law_1958 : decode cL_law 1958 = .ok (.iconst 2, 1) := dk_5 (dk_at dksL_law_75 0 rfl rfl)
theorem dL_law_1959 : decode cL_law 1959 = .ok (.iadd, 1) := dk_96 (dk_at dksL_law_75 1 rfl rfl)
theorem dL_law_1960 : decode cL_law 1960 = .ok (.iaload, 1) := dk_46 (dk_at dksL_law_75 2 rfl rfl)
theorem dL_law_1961 : decode cL_law 1961 = .ok (.ifCond .eq 7, 3) := dk_153 0 7 (dk_at dksL_law_75 3 rfl rfl)
theorem dL_law_1964 : decode cL_law 1964 = .ok (.iconst 1, 1) := dk_4 (dk_at dksL_law_75 6 rfl rfl)
theorem dL_law_1965 : decode cL_law 1965 = .ok (.goto 4, 3) := dk_167 0 4 (dk_at dksL_law_75 7 rfl rfl)
theorem dL_law_1968 : decode cL_law 1968 = .ok (.iconst 0, 1) := dk_3 (dk_at dksL_law_75 10 rfl rfl)
theorem dL_law_1969 : decode cL_law 1969 = .ok (.invokevirtual 227, 3) := dk_182 0 227 (dk_at dksL_law_75 11 rfl rfl)
theorem dL_law_1972 : decode cL_law 1972 = .ok (.istore 6, 2) := dk_54 6 (dk_at dksL_law_75 14 rfl rfl)
theorem dL_law_1974 : decode cL_law 1974 = .ok (.aload_n 2, 1) := dk_44 (dk_at dksL_law_75 16 rfl rfl)
theorem dL_law_1975 : decode cL_law 1975 = .ok (.invokevirtual 228, 3) := dk_182 0 228 (dk_at dksL_law_75 17 rfl rfl)
theorem dL_law_1978 : decode cL_law 1978 = .ok (.iload 5, 2) := dk_21 5 (dk_at dksL_law_75 20 rfl rfl)
theorem dL_law_1980 : decode cL_law 1980 = .ok (.if_icmp .eq 5, 3) := dk_159 0 5 (dk_at dksL_law_76 0 rfl rfl)
theorem dL_law_1983 : decode cL_law 1983 = .ok (.iconst 0, 1) := dk_3 (dk_at dksL_law_76 3 rfl rfl)
theorem dL_law_1984 : decode cL_law 1984 = .ok (.ireturn, 1) := dk_172 (dk_at dksL_law_76 4 rfl rfl)
theorem dL_law_1985 : decode cL_law 1985 = .ok (.iload 5, 2) := dk_21 5 (dk_at dksL_law_76 5 rfl rfl)
theorem dL_law_1987 : decode cL_law 1987 = .ok (.ifCond .ne 15, 3) := dk_154 0 15 (dk_at dksL_law_76 7 rfl rfl)
theorem dL_law_1990 : decode cL_law 1990 = .ok (.aload_n 3, 1) := dk_45 (dk_at dksL_law_76 10 rfl rfl)
theorem dL_law_1991 : decode cL_law 1991 = .ok (.iconst 0, 1) := dk_3 (dk_at dksL_law_76 11 rfl rfl)
theorem dL_law_1992 : decode cL_law 1992 = .ok (.laload, 1) := dk_47 (dk_at dksL_law_76 12 rfl rfl)
theorem dL_law_1993 : decode cL_law 1993 = .ok (.iload 6, 2) := dk_21 6 (dk_at dksL_law_76 13 rfl rfl)
theorem dL_law_1995 : decode cL_law 1995 = .ok (.i2l, 1) := dk_133 (dk_at dksL_law_76 15 rfl rfl)
theorem dL_law_1996 : decode cL_law 1996 = .ok (.lcmp, 1) := dk_148 (dk_at dksL_law_76 16 rfl rfl)
theorem dL_law_1997 : decode cL_law 1997 = .ok (.ifCond .eq 5, 3) := dk_153 0 5 (dk_at dksL_law_76 17 rfl rfl)
theorem dL_law_2000 : decode cL_law 2000 = .ok (.iconst 0, 1) := dk_3 (dk_at dksL_law_76 20 rfl rfl)
theorem dL_law_2001 : decode cL_law 2001 = .ok (.ireturn, 1) := dk_172 (dk_at dksL_law_76 21 rfl rfl)
theorem dL_law_2002 : decode cL_law 2002 = .ok (.goto 41, 3) := dk_167 0 41 (dk_at dksL_law_77 0 rfl rfl)
theorem dL_law_2005 : decode cL_law 2005 = .ok (.aload_n 1, 1) := dk_43 (dk_at dksL_law_77 3 rfl rfl)
theorem dL_law_2006 : decode cL_law 2006 = .ok (.aload_n 0, 1) := dk_42 (dk_at dksL_law_77 4 rfl rfl)
theorem dL_law_2007 : decode cL_law 2007 = .ok (.iload 4, 2) := dk_21 4 (dk_at dksL_law_77 5 rfl rfl)
theorem dL_law_2009 : decode cL_law 2009 = .ok (.iconst 1, 1) := dk_4 (dk_at dksL_law_77 7 rfl rfl)
theorem dL_law_2010 : decode cL_law 2010 = .ok (.iadd, 1) := dk_96 (dk_at dksL_law_77 8 rfl rfl)
theorem dL_law_2011 : decode cL_law 2011 = .ok (.iaload, 1) := dk_46 (dk_at dksL_law_77 9 rfl rfl)
theorem dL_law_2012 : decode cL_law 2012 = .ok (.invokevirtual 231, 3) := dk_182 0 231 (dk_at dksL_law_77 10 rfl rfl)
theorem dL_law_2015 : decode cL_law 2015 = .ok (.aload_n 2, 1) := dk_44 (dk_at dksL_law_77 13 rfl rfl)
theorem dL_law_2016 : decode cL_law 2016 = .ok (.aload_n 0, 1) := dk_42 (dk_at dksL_law_77 14 rfl rfl)
theorem dL_law_2017 : decode cL_law 2017 = .ok (.iload 4, 2) := dk_21 4 (dk_at dksL_law_77 15 rfl rfl)
theorem dL_law_2019 : decode cL_law 2019 = .ok (.iconst 1, 1) := dk_4 (dk_at dksL_law_77 17 rfl rfl)
theorem dL_law_2020 : decode cL_law 2020 = .ok (.iadd, 1) := dk_96 (dk_at dksL_law_77 18 rfl rfl)
theorem dL_law_2021 : decode cL_law 2021 = .ok (.iaload, 1) := dk_46 (dk_at dksL_law_77 19 rfl rfl)
theorem dL_law_2022 : decode cL_law 2022 = .ok (.invokevirtual 234, 3) := dk_182 0 234 (dk_at dksL_law_77 20 rfl rfl)
theorem dL_law_2025 : decode cL_law 2025 = .ok (.if_icmp .eq 18, 3) := dk_159 0 18 (dk_at dksL_law_78 0 rfl rfl)
theorem dL_law_2028 : decode cL_law 2028 = .ok (.iconst 0, 1) := dk_3 (dk_at dksL_law_78 3 rfl rfl)
theorem dL_law_2029 : decode cL_law 2029 = .ok (.ireturn, 1) := dk_172 (dk_at dksL_law_78 4 rfl rfl)
theorem dL_law_2030 : decode cL_law 2030 = .ok (.aload_n 1, 1) := dk_43 (dk_at dksL_law_78 5 rfl rfl)
theorem dL_law_2031 : decode cL_law 2031 = .ok (.invokevirtual 235, 3) := dk_182 0 235 (dk_at dksL_law_78 6 rfl rfl)
theorem dL_law_2034 : decode cL_law 2034 = .ok (.aload_n 2, 1) := dk_44 (dk_at dksL_law_78 9 rfl rfl)
theorem dL_law_2035 : decode cL_law 2035 = .ok (.invokevirtual 238, 3) := dk_182 0 238 (dk_at dksL_law_78 10 rfl rfl)
theorem dL_law_2038 : decode cL_law 2038 = .ok (.if_icmp .eq 5, 3) := dk_159 0 5 (dk_at dksL_law_78 13 rfl rfl)
theorem dL_law_2041 : decode cL_law 2041 = .ok (.iconst 0, 1) := dk_3 (dk_at dksL_law_78 16 rfl rfl)
theorem dL_law_2042 : decode cL_law 2042 = .ok (.ireturn, 1) := dk_172 (dk_at dksL_law_78 17 rfl rfl)
theorem dL_law_2043 : decode cL_law 2043 = .ok (.iinc 4 6, 3) := dk_132 4 6 (dk_at dksL_law_78 18 rfl rfl)
theorem dL_law_2046 : decode cL_law 2046 = .ok (.goto (-2023), 3) := dk_167 248 25 (dk_at dksL_law_78 21 rfl rfl)
theorem dL_law_2049 : decode cL_law 2049 = .ok (.iconst 1, 1) := dk_4 (dk_at dksL_law_79 0 rfl rfl)
theorem dL_law_2050 : decode cL_law 2050 = .ok (.ireturn, 1) := dk_172 (dk_at dksL_law_79 1 rfl rfl)
theorem w_L_law_b2043 (G : Gx) (h0 : G0 G) (N : Nat) (K23 : Option Nat → Option Nat → Option Nat → Option Nat → Int32 → Mem → Option (Int32 × Mem)) (hK23 : ∀ (l0 : Option Nat) (l1 : Option Nat) (l2 : Option Nat) (l3 : Option Nat) (l4 : Int32) (σ : Mem), Runs G mL_law rhoI σ 23 [some (vR l0), some (vR l1), some (vR l2), some (vR l3), some (vI l4), none, none] [] (K23 l0 l1 l2 l3 l4 σ)) (l0 : Option Nat) (l1 : Option Nat) (l2 : Option Nat) (l3 : Option Nat) (l4 : Int32) (σ : Mem) : Runs G mL_law rhoI σ 2043 [some (vR l0), some (vR l1), some (vR l2), some (vR l3), some (vI l4), none, none] [] (f_L_law_b2043 N K23 l0 l1 l2 l3 l4 σ) := by
  unfold f_L_law_b2043
  refine r_iinc (q := 2046) (v := (6 : Int32)) dL_law_2043 rfl rfl (by decide) (Nat.le_of_ble_eq_true rfl) rfl ?_
  refine r_goto (q := 23) dL_law_2046 (by decide) ?_
  exact r_le (hK23 _ _ _ _ _ _) (Nat.le_refl _) (And.intro rfl (And.intro rfl (And.intro rfl (And.intro rfl (And.intro rfl trivial)))))
theorem w_L_law_b260 (G : Gx) (h0 : G0 G) (N : Nat) (K23 : Option Nat → Option Nat → Option Nat → Option Nat → Int32 → Mem → Option (Int32 × Mem)) (hK23 : ∀ (l0 : Option Nat) (l1 : Option Nat) (l2 : Option Nat) (l3 : Option Nat) (l4 : Int32) (σ : Mem), Runs G mL_law rhoI σ 23 [some (vR l0), some (vR l1), some (vR l2), some (vR l3), some (vI l4), none, none] [] (K23 l0 l1 l2 l3 l4 σ)) (l0 : Option Nat) (l1 : Option Nat) (l2 : Option Nat) (l3 : Option Nat) (l4 : Int32) (σ : Mem) : Runs G mL_law rhoI σ 260 [some (vR l0), some (vR l1), some (vR l2), some (vR l3), some (vI l4), none, none] [] (f_L_law_b260 N K23 l0 l1 l2 l3 l4 σ) := by
  unfold f_L_law_b260
  refine r_aload_n (q := 261) dL_law_260 rfl rfl rfl ?_
  refine r_aload_n (q := 262) dL_law_261 rfl rfl rfl ?_
  refine r_iload (q := 264) dL_law_262 rfl rfl ?_
  refine r_iconst (q := 265) (v := (1 : Int32)) dL_law_264 rfl (by decide) ?_
  refine r_iadd (q := 266) dL_law_265 rfl ?_
  refine r_iaload (q := 267) dL_law_266 rfl (fun x1 => ?_)
  refine r_aload_n (q := 268) dL_law_267 rfl rfl rfl ?_
  refine r_iload (q := 270) dL_law_268 rfl rfl ?_
  refine r_iconst (q := 271) (v := (2 : Int32)) dL_law_270 rfl (by decide) ?_
  refine r_iadd (q := 272) dL_law_271 rfl ?_
  refine r_iaload (q := 273) dL_law_272 rfl (fun x2 => ?_)
  refine r_aload_n (q := 274) dL_law_273 rfl rfl rfl ?_
  refine r_iload (q := 276) dL_law_274 rfl rfl ?_
  refine r_iconst (q := 277) (v := (3 : Int32)) dL_law_276 rfl (by decide) ?_
  refine r_iadd (q := 278) dL_law_277 rfl ?_
  refine r_iaload (q := 279) dL_law_278 rfl (fun x3 => ?_)
  refine r_aload_n (q := 280) dL_law_279 rfl rfl rfl ?_
  refine r_iload (q := 282) dL_law_280 rfl rfl ?_
  refine r_iconst (q := 283) (v := (4 : Int32)) dL_law_282 rfl (by decide) ?_
  refine r_iadd (q := 284) dL_law_283 rfl ?_
  refine r_iaload (q := 285) dL_law_284 rfl (fun x4 => ?_)
  refine r_aload_n (q := 286) dL_law_285 rfl rfl rfl ?_
  refine r_iload (q := 288) dL_law_286 rfl rfl ?_
  refine r_iconst (q := 289) (v := (5 : Int32)) dL_law_288 rfl (by decide) ?_
  refine r_iadd (q := 290) dL_law_289 rfl ?_
  refine r_iaload (q := 291) dL_law_290 rfl (fun x5 => ?_)
  refine r_ob (fun a8 ha8 => ?_)
  obtain ⟨hea8, hka8⟩ := o_at_eq ha8
  cases hea8
  refine r_callI (q := 294) (c_X1_feed G h0 N _ _ _ _ _ _ _) (cl_V (ci := 0) rfl rfl (lw_V q472 q473 q474 q167 q475) (hd_X1_feed) ⟨Nat.le_of_ble_eq_true rfl, Nat.le_of_ble_eq_true rfl⟩ (List.mem_singleton.mp hka8) rfl rfl rfl (Nat.le_of_ble_eq_true rfl) dL_law_291) rfl (fun x6 σ7 => ?_)
  refine r_aload_n (q := 295) dL_law_294 rfl rfl rfl ?_
  refine r_aload_n (q := 296) dL_law_295 rfl rfl rfl ?_
  refine r_iload (q := 298) dL_law_296 rfl rfl ?_
  refine r_iconst (q := 299) (v := (1 : Int32)) dL_law_298 rfl (by decide) ?_
  refine r_iadd (q := 300) dL_law_299 rfl ?_
  refine r_iaload (q := 301) dL_law_300 rfl (fun x9 => ?_)
  refine r_aload_n (q := 302) dL_law_301 rfl rfl rfl ?_
  refine r_iload (q := 304) dL_law_302 rfl rfl ?_
  refine r_iconst (q := 305) (v := (2 : Int32)) dL_law_304 rfl (by decide) ?_
  refine r_iadd (q := 306) dL_law_305 rfl ?_
  refine r_iaload (q := 307) dL_law_306 rfl (fun x10 => ?_)
  refine r_aload_n (q := 308) dL_law_307 rfl rfl rfl ?_
  refine r_iload (q := 310) dL_law_308 rfl rfl ?_
  refine r_iconst (q := 311) (v := (3 : Int32)) dL_law_310 rfl (by decide) ?_
  refine r_iadd (q := 312) dL_law_311 rfl ?_
  refine r_iaload (q := 313) dL_law_312 rfl (fun x11 => ?_)
  refine r_aload_n (q := 314) dL_law_313 rfl rfl rfl ?_
  refine r_iload (q := 316) dL_law_314 rfl rfl ?_
  refine r_iconst (q := 317) (v := (4 : Int32)) dL_law_316 rfl (by decide) ?_
  refine r_iadd (q := 318) dL_law_317 rfl ?_
  refine r_iaload (q := 319) dL_law_318 rfl (fun x12 => ?_)
  refine r_aload_n (q := 320) dL_law_319 rfl rfl rfl ?_
  refine r_iload (q := 322) dL_law_320 rfl rfl ?_
  refine r_iconst (q := 323) (v := (5 : Int32)) dL_law_322 rfl (by decide) ?_
  refine r_iadd (q := 324) dL_law_323 rfl ?_
  refine r_iaload (q := 325) dL_law_324 rfl (fun x13 => ?_)
  refine r_ob (fun a16 ha16 => ?_)
  obtain ⟨hea16, hka16⟩ := o_at_eq ha16
  cases hea16
  refine r_callI (q := 328) (c_X7_feed G h0 N _ _ _ _ _ _ _) (cl_V (ci := 6) rfl rfl (lw_V q2011 q2012 q2013 q176 q2014) (hd_X7_feed) ⟨Nat.le_of_ble_eq_true rfl, Nat.le_of_ble_eq_true rfl⟩ (List.mem_singleton.mp hka16) rfl rfl rfl (Nat.le_of_ble_eq_true rfl) dL_law_325) rfl (fun x14 σ15 => ?_)
  refine r_icmp_eq (q := 331) (t := 2043) dL_law_328 rfl (by decide) (fun _ => ?_) (fun _ => ?_)
  · exact r_le (w_L_law_b2043 G h0 N K23 hK23 _ _ _ _ _ _) (Nat.le_refl _) (And.intro rfl (And.intro rfl (And.intro rfl (And.intro rfl (And.intro rfl trivial)))))
  · refine r_iconst (q := 332) (v := (0 : Int32)) dL_law_331 rfl (by decide) ?_
    exact r_ireturnN rfl dL_law_332
theorem w_L_law_b333 (G : Gx) (h0 : G0 G) (N : Nat) (K23 : Option Nat → Option Nat → Option Nat → Option Nat → Int32 → Mem → Option (Int32 × Mem)) (hK23 : ∀ (l0 : Option Nat) (l1 : Option Nat) (l2 : Option Nat) (l3 : Option Nat) (l4 : Int32) (σ : Mem), Runs G mL_law rhoI σ 23 [some (vR l0), some (vR l1), some (vR l2), some (vR l3), some (vI l4), none, none] [] (K23 l0 l1 l2 l3 l4 σ)) (l0 : Option Nat) (l1 : Option Nat) (l2 : Option Nat) (l3 : Option Nat) (l4 : Int32) (σ : Mem) : Runs G mL_law rhoI σ 333 [some (vR l0), some (vR l1), some (vR l2), some (vR l3), some (vI l4), none, none] [] (f_L_law_b333 N K23 l0 l1 l2 l3 l4 σ) := by
  unfold f_L_law_b333
  refine r_aload_n (q := 334) dL_law_333 rfl rfl rfl ?_
  refine r_aload_n (q := 335) dL_law_334 rfl rfl rfl ?_
  refine r_iload (q := 337) dL_law_335 rfl rfl ?_
  refine r_iconst (q := 338) (v := (1 : Int32)) dL_law_337 rfl (by decide) ?_
  refine r_iadd (q := 339) dL_law_338 rfl ?_
  refine r_iaload (q := 340) dL_law_339 rfl (fun x1 => ?_)
  refine r_ob (fun a4 ha4 => ?_)
  obtain ⟨hea4, hka4⟩ := o_at_eq ha4
  cases hea4
  refine r_callI (q := 343) (c_X1_hill G h0 N _ _ _) (cl_VX (ci := 0) rfl (List.cons_ne_nil _ _) q480 q481 q482 q167 q483 (hd_X1_hill) ⟨Nat.le_of_ble_eq_true rfl, Nat.le_of_ble_eq_true rfl⟩ (List.mem_singleton.mp hka4) rfl rfl rfl (Nat.le_of_ble_eq_true rfl) dL_law_340) rfl (fun x2 σ3 => ?_)
  refine r_aload_n (q := 344) dL_law_343 rfl rfl rfl ?_
  refine r_aload_n (q := 345) dL_law_344 rfl rfl rfl ?_
  refine r_iload (q := 347) dL_law_345 rfl rfl ?_
  refine r_iconst (q := 348) (v := (1 : Int32)) dL_law_347 rfl (by decide) ?_
  refine r_iadd (q := 349) dL_law_348 rfl ?_
  refine r_iaload (q := 350) dL_law_349 rfl (fun x5 => ?_)
  refine r_ob (fun a8 ha8 => ?_)
  obtain ⟨hea8, hka8⟩ := o_at_eq ha8
  cases hea8
  refine r_callI (q := 353) (c_X7_hill G h0 N _ _ _) (cl_V (ci := 6) rfl rfl (lw_V q2015 q2016 q2017 q176 q2018) (hd_X7_hill) ⟨Nat.le_of_ble_eq_true rfl, Nat.le_of_ble_eq_true rfl⟩ (List.mem_singleton.mp hka8) rfl rfl rfl (Nat.le_of_ble_eq_true rfl) dL_law_350) rfl (fun x6 σ7 => ?_)
  refine r_icmp_eq (q := 356) (t := 2043) dL_law_353 rfl (by decide) (fun _ => ?_) (fun _ => ?_)
  · exact r_le (w_L_law_b2043 G h0 N K23 hK23 _ _ _ _ _ _) (Nat.le_refl _) (And.intro rfl (And.intro rfl (And.intro rfl (And.intro rfl (And.intro rfl trivial)))))
  · refine r_iconst (q := 357) (v := (0 : Int32)) dL_law_356 rfl (by decide) ?_
    exact r_ireturnN rfl dL_law_357
theorem w_L_law_b358 (G : Gx) (h0 : G0 G) (N : Nat) (K23 : Option Nat → Option Nat → Option Nat → Option Nat → Int32 → Mem → Option (Int32 × Mem)) (hK23 : ∀ (l0 : Option Nat) (l1 : Option Nat) (l2 : Option Nat) (l3 : Option Nat) (l4 : Int32) (σ : Mem), Runs G mL_law rhoI σ 23 [some (vR l0), some (vR l1), some (vR l2), some (vR l3), some (vI l4), none, none] [] (K23 l0 l1 l2 l3 l4 σ)) (l0 : Option Nat) (l1 : Option Nat) (l2 : Option Nat) (l3 : Option Nat) (l4 : Int32) (σ : Mem) : Runs G mL_law rhoI σ 358 [some (vR l0), some (vR l1), some (vR l2), some (vR l3), some (vI l4), none, none] [] (f_L_law_b358 N K23 l0 l1 l2 l3 l4 σ) := by
  unfold f_L_law_b358
  refine r_aload_n (q := 359) dL_law_358 rfl rfl rfl ?_
  refine r_ob (fun a3 ha3 => ?_)
  obtain ⟨hea3, hka3⟩ := o_at_eq ha3
  cases hea3
  refine r_callI (q := 362) (c_X1_fault G h0 N _ _) (cl_V (ci := 0) rfl rfl (lw_V q1303 q1304 q1305 q167 q1306) (hd_X1_fault) ⟨Nat.le_of_ble_eq_true rfl, Nat.le_of_ble_eq_true rfl⟩ (List.mem_singleton.mp hka3) rfl rfl rfl (Nat.le_of_ble_eq_true rfl) dL_law_359) rfl (fun x1 σ2 => ?_)
  refine r_aload_n (q := 363) dL_law_362 rfl rfl rfl ?_
  refine r_ob (fun a6 ha6 => ?_)
  obtain ⟨hea6, hka6⟩ := o_at_eq ha6
  cases hea6
  refine r_callI (q := 366) (c_X7_fault G h0 N _ _) (cl_V (ci := 6) rfl rfl (lw_V q2383 q2384 q2385 q176 q2386) (hd_X7_fault) ⟨Nat.le_of_ble_eq_true rfl, Nat.le_of_ble_eq_true rfl⟩ (List.mem_singleton.mp hka6) rfl rfl rfl (Nat.le_of_ble_eq_true rfl) dL_law_363) rfl (fun x4 σ5 => ?_)
  refine r_icmp_eq (q := 369) (t := 2043) dL_law_366 rfl (by decide) (fun _ => ?_) (fun _ => ?_)
  · exact r_le (w_L_law_b2043 G h0 N K23 hK23 _ _ _ _ _ _) (Nat.le_refl _) (And.intro rfl (And.intro rfl (And.intro rfl (And.intro rfl (And.intro rfl trivial)))))
  · refine r_iconst (q := 370) (v := (0 : Int32)) dL_law_369 rfl (by decide) ?_
    exact r_ireturnN rfl dL_law_370
theorem w_L_law_b371 (G : Gx) (h0 : G0 G) (N : Nat) (K23 : Option Nat → Option Nat → Option Nat → Option Nat → Int32 → Mem → Option (Int32 × Mem)) (hK23 : ∀ (l0 : Option Nat) (l1 : Option Nat) (l2 : Option Nat) (l3 : Option Nat) (l4 : Int32) (σ : Mem), Runs G mL_law rhoI σ 23 [some (vR l0), some (vR l1), some (vR l2), some (vR l3), some (vI l4), none, none] [] (K23 l0 l1 l2 l3 l4 σ)) (l0 : Option Nat) (l1 : Option Nat) (l2 : Option Nat) (l3 : Option Nat) (l4 : Int32) (σ : Mem) : Runs G mL_law rhoI σ 371 [some (vR l0), some (vR l1), some (vR l2), some (vR l3), some (vI l4), none, none] [] (f_L_law_b371 N K23 l0 l1 l2 l3 l4 σ) := by
  unfold f_L_law_b371
  refine r_aload_n (q := 372) dL_law_371 rfl rfl rfl ?_
  refine r_ob (fun a3 ha3 => ?_)
  obtain ⟨hea3, hka3⟩ := o_at_eq ha3
  cases hea3
  refine r_callI (q := 375) (c_X1_where G h0 N _ _) (cl_V (ci := 0) rfl rfl (lw_V q1307 q1308 q1309 q167 q1310) (hd_X1_where) ⟨Nat.le_of_ble_eq_true rfl, Nat.le_of_ble_eq_true rfl⟩ (List.mem_singleton.mp hka3) rfl rfl rfl (Nat.le_of_ble_eq_true rfl) dL_law_372) rfl (fun x1 σ2 => ?_)
  refine r_aload_n (q := 376) dL_law_375 rfl rfl rfl ?_
  refine r_ob (fun a6 ha6 => ?_)
  obtain ⟨hea6, hka6⟩ := o_at_eq ha6
  cases hea6
  refine r_callI (q := 379) (c_X7_where G h0 N _ _) (cl_V (ci := 6) rfl rfl (lw_V q2387 q2388 q2389 q176 q2390) (hd_X7_where) ⟨Nat.le_of_ble_eq_true rfl, Nat.le_of_ble_eq_true rfl⟩ (List.mem_singleton.mp hka6) rfl rfl rfl (Nat.le_of_ble_eq_true rfl) dL_law_376) rfl (fun x4 σ5 => ?_)
  refine r_icmp_eq (q := 382) (t := 2043) dL_law_379 rfl (by decide) (fun _ => ?_) (fun _ => ?_)
  · exact r_le (w_L_law_b2043 G h0 N K23 hK23 _ _ _ _ _ _) (Nat.le_refl _) (And.intro rfl (And.intro rfl (And.intro rfl (And.intro rfl (And.intro rfl trivial)))))
  · refine r_iconst (q := 383) (v := (0 : Int32)) dL_law_382 rfl (by decide) ?_
    exact r_ireturnN rfl dL_law_383
theorem w_L_law_b384 (G : Gx) (h0 : G0 G) (N : Nat) (K23 : Option Nat → Option Nat → Option Nat → Option Nat → Int32 → Mem → Option (Int32 × Mem)) (hK23 : ∀ (l0 : Option Nat) (l1 : Option Nat) (l2 : Option Nat) (l3 : Option Nat) (l4 : Int32) (σ : Mem), Runs G mL_law rhoI σ 23 [some (vR l0), some (vR l1), some (vR l2), some (vR l3), some (vI l4), none, none] [] (K23 l0 l1 l2 l3 l4 σ)) (l0 : Option Nat) (l1 : Option Nat) (l2 : Option Nat) (l3 : Option Nat) (l4 : Int32) (σ : Mem) : Runs G mL_law rhoI σ 384 [some (vR l0), some (vR l1), some (vR l2), some (vR l3), some (vI l4), none, none] [] (f_L_law_b384 N K23 l0 l1 l2 l3 l4 σ) := by
  unfold f_L_law_b384
  refine r_aload_n (q := 385) dL_law_384 rfl rfl rfl ?_
  refine r_aload_n (q := 386) dL_law_385 rfl rfl rfl ?_
  refine r_iload (q := 388) dL_law_386 rfl rfl ?_
  refine r_iconst (q := 389) (v := (1 : Int32)) dL_law_388 rfl (by decide) ?_
  refine r_iadd (q := 390) dL_law_389 rfl ?_
  refine r_iaload (q := 391) dL_law_390 rfl (fun x1 => ?_)
  refine r_aload_n (q := 392) dL_law_391 rfl rfl rfl ?_
  refine r_iload (q := 394) dL_law_392 rfl rfl ?_
  refine r_iconst (q := 395) (v := (2 : Int32)) dL_law_394 rfl (by decide) ?_
  refine r_iadd (q := 396) dL_law_395 rfl ?_
  refine r_iaload (q := 397) dL_law_396 rfl (fun x2 => ?_)
  refine r_ob (fun a5 ha5 => ?_)
  obtain ⟨hea5, hka5⟩ := o_at_eq ha5
  cases hea5
  refine r_callI (q := 400) (c_X1_plants G h0 N _ _ _ _) (cl_V (ci := 0) rfl rfl (lw_V q1311 q1312 q1313 q167 q1314) (hd_X1_plants) ⟨Nat.le_of_ble_eq_true rfl, Nat.le_of_ble_eq_true rfl⟩ (List.mem_singleton.mp hka5) rfl rfl rfl (Nat.le_of_ble_eq_true rfl) dL_law_397) rfl (fun x3 σ4 => ?_)
  refine r_aload_n (q := 401) dL_law_400 rfl rfl rfl ?_
  refine r_aload_n (q := 402) dL_law_401 rfl rfl rfl ?_
  refine r_iload (q := 404) dL_law_402 rfl rfl ?_
  refine r_iconst (q := 405) (v := (1 : Int32)) dL_law_404 rfl (by decide) ?_
  refine r_iadd (q := 406) dL_law_405 rfl ?_
  refine r_iaload (q := 407) dL_law_406 rfl (fun x6 => ?_)
  refine r_aload_n (q := 408) dL_law_407 rfl rfl rfl ?_
  refine r_iload (q := 410) dL_law_408 rfl rfl ?_
  refine r_iconst (q := 411) (v := (2 : Int32)) dL_law_410 rfl (by decide) ?_
  refine r_iadd (q := 412) dL_law_411 rfl ?_
  refine r_iaload (q := 413) dL_law_412 rfl (fun x7 => ?_)
  refine r_ob (fun a10 ha10 => ?_)
  obtain ⟨hea10, hka10⟩ := o_at_eq ha10
  cases hea10
  refine r_callI (q := 416) (c_X7_plants G h0 N _ _ _ _) (cl_V (ci := 6) rfl rfl (lw_V q2391 q2392 q2393 q176 q2394) (hd_X7_plants) ⟨Nat.le_of_ble_eq_true rfl, Nat.le_of_ble_eq_true rfl⟩ (List.mem_singleton.mp hka10) rfl rfl rfl (Nat.le_of_ble_eq_true rfl) dL_law_413) rfl (fun x8 σ9 => ?_)
  refine r_icmp_eq (q := 419) (t := 2043) dL_law_416 rfl (by decide) (fun _ => ?_) (fun _ => ?_)
  · exact r_le (w_L_law_b2043 G h0 N K23 hK23 _ _ _ _ _ _) (Nat.le_refl _) (And.intro rfl (And.intro rfl (And.intro rfl (And.intro rfl (And.intro rfl trivial)))))
  · refine r_iconst (q := 420) (v := (0 : Int32)) dL_law_419 rfl (by decide) ?_
    exact r_ireturnN rfl dL_law_420
theorem w_L_law_b421 (G : Gx) (h0 : G0 G) (N : Nat) (K23 : Option Nat → Option Nat → Option Nat → Option Nat → Int32 → Mem → Option (Int32 × Mem)) (hK23 : ∀ (l0 : Option Nat) (l1 : Option Nat) (l2 : Option Nat) (l3 : Option Nat) (l4 : Int32) (σ : Mem), Runs G mL_law rhoI σ 23 [some (vR l0), some (vR l1), some (vR l2), some (vR l3), some (vI l4), none, none] [] (K23 l0 l1 l2 l3 l4 σ)) (l0 : Option Nat) (l1 : Option Nat) (l2 : Option Nat) (l3 : Option Nat) (l4 : Int32) (σ : Mem) : Runs G mL_law rhoI σ 421 [some (vR l0), some (vR l1), some (vR l2), some (vR l3), some (vI l4), none, none] [] (f_L_law_b421 N K23 l0 l1 l2 l3 l4 σ) := by
  unfold f_L_law_b421
  refine r_aload_n (q := 422) dL_law_421 rfl rfl rfl ?_
  refine r_aload_n (q := 423) dL_law_422 rfl rfl rfl ?_
  refine r_iload (q := 425) dL_law_423 rfl rfl ?_
  refine r_iconst (q := 426) (v := (1 : Int32)) dL_law_425 rfl (by decide) ?_
  refine r_iadd (q := 427) dL_law_426 rfl ?_
  refine r_iaload (q := 428) dL_law_427 rfl (fun x1 => ?_)
  refine r_ob (fun a4 ha4 => ?_)
  obtain ⟨hea4, hka4⟩ := o_at_eq ha4
  cases hea4
  refine r_callI (q := 431) (c_X1_near G h0 N _ _ _) (cl_V (ci := 0) rfl rfl (lw_V q1323 q1324 q1325 q167 q1326) (hd_X1_near) ⟨Nat.le_of_ble_eq_true rfl, Nat.le_of_ble_eq_true rfl⟩ (List.mem_singleton.mp hka4) rfl rfl rfl (Nat.le_of_ble_eq_true rfl) dL_law_428) rfl (fun x2 σ3 => ?_)
  refine r_aload_n (q := 432) dL_law_431 rfl rfl rfl ?_
  refine r_aload_n (q := 433) dL_law_432 rfl rfl rfl ?_
  refine r_iload (q := 435) dL_law_433 rfl rfl ?_
  refine r_iconst (q := 436) (v := (1 : Int32)) dL_law_435 rfl (by decide) ?_
  refine r_iadd (q := 437) dL_law_436 rfl ?_
  refine r_iaload (q := 438) dL_law_437 rfl (fun x5 => ?_)
  refine r_ob (fun a8 ha8 => ?_)
  obtain ⟨hea8, hka8⟩ := o_at_eq ha8
  cases hea8
  refine r_callI (q := 441) (c_X7_near G h0 N _ _ _) (cl_V (ci := 6) rfl rfl (lw_V q2403 q2404 q2405 q176 q2406) (hd_X7_near) ⟨Nat.le_of_ble_eq_true rfl, Nat.le_of_ble_eq_true rfl⟩ (List.mem_singleton.mp hka8) rfl rfl rfl (Nat.le_of_ble_eq_true rfl) dL_law_438) rfl (fun x6 σ7 => ?_)
  refine r_icmp_eq (q := 444) (t := 2043) dL_law_441 rfl (by decide) (fun _ => ?_) (fun _ => ?_)
  · exact r_le (w_L_law_b2043 G h0 N K23 hK23 _ _ _ _ _ _) (Nat.le_refl _) (And.intro rfl (And.intro rfl (And.intro rfl (And.intro rfl (And.intro rfl trivial)))))
  · refine r_iconst (q := 445) (v := (0 : Int32)) dL_law_444 rfl (by decide) ?_
    exact r_ireturnN rfl dL_law_445
theorem w_L_law_b446 (G : Gx) (h0 : G0 G) (N : Nat) (K23 : Option Nat → Option Nat → Option Nat → Option Nat → Int32 → Mem → Option (Int32 × Mem)) (hK23 : ∀ (l0 : Option Nat) (l1 : Option Nat) (l2 : Option Nat) (l3 : Option Nat) (l4 : Int32) (σ : Mem), Runs G mL_law rhoI σ 23 [some (vR l0), some (vR l1), some (vR l2), some (vR l3), some (vI l4), none, none] [] (K23 l0 l1 l2 l3 l4 σ)) (l0 : Option Nat) (l1 : Option Nat) (l2 : Option Nat) (l3 : Option Nat) (l4 : Int32) (σ : Mem) : Runs G mL_law rhoI σ 446 [some (vR l0), some (vR l1), some (vR l2), some (vR l3), some (vI l4), none, none] [] (f_L_law_b446 N K23 l0 l1 l2 l3 l4 σ) := by
  unfold f_L_law_b446
  refine r_aload_n (q := 447) dL_law_446 rfl rfl rfl ?_
  refine r_aload_n (q := 448) dL_law_447 rfl rfl rfl ?_
  refine r_iload (q := 450) dL_law_448 rfl rfl ?_
  refine r_iconst (q := 451) (v := (1 : Int32)) dL_law_450 rfl (by decide) ?_
  refine r_iadd (q := 452) dL_law_451 rfl ?_
  refine r_iaload (q := 453) dL_law_452 rfl (fun x1 => ?_)
  refine r_aload_n (q := 454) dL_law_453 rfl rfl rfl ?_
  refine r_iload (q := 456) dL_law_454 rfl rfl ?_
  refine r_iconst (q := 457) (v := (2 : Int32)) dL_law_456 rfl (by decide) ?_
  refine r_iadd (q := 458) dL_law_457 rfl ?_
  refine r_iaload (q := 459) dL_law_458 rfl (fun x2 => ?_)
  refine r_ob (fun a5 ha5 => ?_)
  obtain ⟨hea5, hka5⟩ := o_at_eq ha5
  cases hea5
  refine r_callI (q := 462) (c_X1_goat G h0 N _ _ _ _) (cl_V (ci := 0) rfl rfl (lw_V q1327 q1328 q1329 q167 q1330) (hd_X1_goat) ⟨Nat.le_of_ble_eq_true rfl, Nat.le_of_ble_eq_true rfl⟩ (List.mem_singleton.mp hka5) rfl rfl rfl (Nat.le_of_ble_eq_true rfl) dL_law_459) rfl (fun x3 σ4 => ?_)
  refine r_aload_n (q := 463) dL_law_462 rfl rfl rfl ?_
  refine r_aload_n (q := 464) dL_law_463 rfl rfl rfl ?_
  refine r_iload (q := 466) dL_law_464 rfl rfl ?_
  refine r_iconst (q := 467) (v := (1 : Int32)) dL_law_466 rfl (by decide) ?_
  refine r_iadd (q := 468) dL_law_467 rfl ?_
  refine r_iaload (q := 469) dL_law_468 rfl (fun x6 => ?_)
  refine r_aload_n (q := 470) dL_law_469 rfl rfl rfl ?_
  refine r_iload (q := 472) dL_law_470 rfl rfl ?_
  refine r_iconst (q := 473) (v := (2 : Int32)) dL_law_472 rfl (by decide) ?_
  refine r_iadd (q := 474) dL_law_473 rfl ?_
  refine r_iaload (q := 475) dL_law_474 rfl (fun x7 => ?_)
  refine r_ob (fun a10 ha10 => ?_)
  obtain ⟨hea10, hka10⟩ := o_at_eq ha10
  cases hea10
  refine r_callI (q := 478) (c_X7_goat G h0 N _ _ _ _) (cl_V (ci := 6) rfl rfl (lw_V q2407 q2408 q2409 q176 q2410) (hd_X7_goat) ⟨Nat.le_of_ble_eq_true rfl, Nat.le_of_ble_eq_true rfl⟩ (List.mem_singleton.mp hka10) rfl rfl rfl (Nat.le_of_ble_eq_true rfl) dL_law_475) rfl (fun x8 σ9 => ?_)
  refine r_icmp_eq (q := 481) (t := 2043) dL_law_478 rfl (by decide) (fun _ => ?_) (fun _ => ?_)
  · exact r_le (w_L_law_b2043 G h0 N K23 hK23 _ _ _ _ _ _) (Nat.le_refl _) (And.intro rfl (And.intro rfl (And.intro rfl (And.intro rfl (And.intro rfl trivial)))))
  · refine r_iconst (q := 482) (v := (0 : Int32)) dL_law_481 rfl (by decide) ?_
    exact r_ireturnN rfl dL_law_482
theorem w_L_law_b483 (G : Gx) (h0 : G0 G) (N : Nat) (K23 : Option Nat → Option Nat → Option Nat → Option Nat → Int32 → Mem → Option (Int32 × Mem)) (hK23 : ∀ (l0 : Option Nat) (l1 : Option Nat) (l2 : Option Nat) (l3 : Option Nat) (l4 : Int32) (σ : Mem), Runs G mL_law rhoI σ 23 [some (vR l0), some (vR l1), some (vR l2), some (vR l3), some (vI l4), none, none] [] (K23 l0 l1 l2 l3 l4 σ)) (l0 : Option Nat) (l1 : Option Nat) (l2 : Option Nat) (l3 : Option Nat) (l4 : Int32) (σ : Mem) : Runs G mL_law rhoI σ 483 [some (vR l0), some (vR l1), some (vR l2), some (vR l3), some (vI l4), none, none] [] (f_L_law_b483 N K23 l0 l1 l2 l3 l4 σ) := by
  unfold f_L_law_b483
  refine r_aload_n (q := 484) dL_law_483 rfl rfl rfl ?_
  refine r_aload_n (q := 485) dL_law_484 rfl rfl rfl ?_
  refine r_iload (q := 487) dL_law_485 rfl rfl ?_
  refine r_iconst (q := 488) (v := (1 : Int32)) dL_law_487 rfl (by decide) ?_
  refine r_iadd (q := 489) dL_law_488 rfl ?_
  refine r_iaload (q := 490) dL_law_489 rfl (fun x1 => ?_)
  refine r_aload_n (q := 491) dL_law_490 rfl rfl rfl ?_
  refine r_iload (q := 493) dL_law_491 rfl rfl ?_
  refine r_iconst (q := 494) (v := (2 : Int32)) dL_law_493 rfl (by decide) ?_
  refine r_iadd (q := 495) dL_law_494 rfl ?_
  refine r_iaload (q := 496) dL_law_495 rfl (fun x2 => ?_)
  refine r_ob (fun a5 ha5 => ?_)
  obtain ⟨hea5, hka5⟩ := o_at_eq ha5
  cases hea5
  refine r_callI (q := 499) (c_X1_likes G h0 N _ _ _ _) (cl_V (ci := 0) rfl rfl (lw_V q1365 q1366 q1367 q167 q1368) (hd_X1_likes) ⟨Nat.le_of_ble_eq_true rfl, Nat.le_of_ble_eq_true rfl⟩ (List.mem_singleton.mp hka5) rfl rfl rfl (Nat.le_of_ble_eq_true rfl) dL_law_496) rfl (fun x3 σ4 => ?_)
  refine r_aload_n (q := 500) dL_law_499 rfl rfl rfl ?_
  refine r_aload_n (q := 501) dL_law_500 rfl rfl rfl ?_
  refine r_iload (q := 503) dL_law_501 rfl rfl ?_
  refine r_iconst (q := 504) (v := (1 : Int32)) dL_law_503 rfl (by decide) ?_
  refine r_iadd (q := 505) dL_law_504 rfl ?_
  refine r_iaload (q := 506) dL_law_505 rfl (fun x6 => ?_)
  refine r_aload_n (q := 507) dL_law_506 rfl rfl rfl ?_
  refine r_iload (q := 509) dL_law_507 rfl rfl ?_
  refine r_iconst (q := 510) (v := (2 : Int32)) dL_law_509 rfl (by decide) ?_
  refine r_iadd (q := 511) dL_law_510 rfl ?_
  refine r_iaload (q := 512) dL_law_511 rfl (fun x7 => ?_)
  refine r_ob (fun a10 ha10 => ?_)
  obtain ⟨hea10, hka10⟩ := o_at_eq ha10
  cases hea10
  refine r_callI (q := 515) (c_X7_likes G h0 N _ _ _ _) (cl_V (ci := 6) rfl rfl (lw_V q2419 q2420 q2421 q176 q2422) (hd_X7_likes) ⟨Nat.le_of_ble_eq_true rfl, Nat.le_of_ble_eq_true rfl⟩ (List.mem_singleton.mp hka10) rfl rfl rfl (Nat.le_of_ble_eq_true rfl) dL_law_512) rfl (fun x8 σ9 => ?_)
  refine r_icmp_eq (q := 518) (t := 2043) dL_law_515 rfl (by decide) (fun _ => ?_) (fun _ => ?_)
  · exact r_le (w_L_law_b2043 G h0 N K23 hK23 _ _ _ _ _ _) (Nat.le_refl _) (And.intro rfl (And.intro rfl (And.intro rfl (And.intro rfl (And.intro rfl trivial)))))
  · refine r_iconst (q := 519) (v := (0 : Int32)) dL_law_518 rfl (by decide) ?_
    exact r_ireturnN rfl dL_law_519
theorem w_L_law_b520 (G : Gx) (h0 : G0 G) (N : Nat) (K23 : Option Nat → Option Nat → Option Nat → Option Nat → Int32 → Mem → Option (Int32 × Mem)) (hK23 : ∀ (l0 : Option Nat) (l1 : Option Nat) (l2 : Option Nat) (l3 : Option Nat) (l4 : Int32) (σ : Mem), Runs G mL_law rhoI σ 23 [some (vR l0), some (vR l1), some (vR l2), some (vR l3), some (vI l4), none, none] [] (K23 l0 l1 l2 l3 l4 σ)) (l0 : Option Nat) (l1 : Option Nat) (l2 : Option Nat) (l3 : Option Nat) (l4 : Int32) (σ : Mem) : Runs G mL_law rhoI σ 520 [some (vR l0), some (vR l1), some (vR l2), some (vR l3), some (vI l4), none, none] [] (f_L_law_b520 N K23 l0 l1 l2 l3 l4 σ) := by
  unfold f_L_law_b520
  refine r_aload_n (q := 521) dL_law_520 rfl rfl rfl ?_
  refine r_aload_n (q := 522) dL_law_521 rfl rfl rfl ?_
  refine r_iload (q := 524) dL_law_522 rfl rfl ?_
  refine r_iconst (q := 525) (v := (1 : Int32)) dL_law_524 rfl (by decide) ?_
  refine r_iadd (q := 526) dL_law_525 rfl ?_
  refine r_iaload (q := 527) dL_law_526 rfl (fun x1 => ?_)
  refine r_aload_n (q := 528) dL_law_527 rfl rfl rfl ?_
  refine r_iload (q := 530) dL_law_528 rfl rfl ?_
  refine r_iconst (q := 531) (v := (2 : Int32)) dL_law_530 rfl (by decide) ?_
  refine r_iadd (q := 532) dL_law_531 rfl ?_
  refine r_iaload (q := 533) dL_law_532 rfl (fun x2 => ?_)
  refine r_ob (fun a5 ha5 => ?_)
  obtain ⟨hea5, hka5⟩ := o_at_eq ha5
  cases hea5
  refine r_callI (q := 536) (c_X1_clue G h0 N _ _ _ _) (cl_V (ci := 0) rfl rfl (lw_V q1369 q1370 q1371 q167 q1372) (hd_X1_clue) ⟨Nat.le_of_ble_eq_true rfl, Nat.le_of_ble_eq_true rfl⟩ (List.mem_singleton.mp hka5) rfl rfl rfl (Nat.le_of_ble_eq_true rfl) dL_law_533) rfl (fun x3 σ4 => ?_)
  refine r_aload_n (q := 537) dL_law_536 rfl rfl rfl ?_
  refine r_aload_n (q := 538) dL_law_537 rfl rfl rfl ?_
  refine r_iload (q := 540) dL_law_538 rfl rfl ?_
  refine r_iconst (q := 541) (v := (1 : Int32)) dL_law_540 rfl (by decide) ?_
  refine r_iadd (q := 542) dL_law_541 rfl ?_
  refine r_iaload (q := 543) dL_law_542 rfl (fun x6 => ?_)
  refine r_aload_n (q := 544) dL_law_543 rfl rfl rfl ?_
  refine r_iload (q := 546) dL_law_544 rfl rfl ?_
  refine r_iconst (q := 547) (v := (2 : Int32)) dL_law_546 rfl (by decide) ?_
  refine r_iadd (q := 548) dL_law_547 rfl ?_
  refine r_iaload (q := 549) dL_law_548 rfl (fun x7 => ?_)
  refine r_ob (fun a10 ha10 => ?_)
  obtain ⟨hea10, hka10⟩ := o_at_eq ha10
  cases hea10
  refine r_callI (q := 552) (c_X7_clue G h0 N _ _ _ _) (cl_V (ci := 6) rfl rfl (lw_V q2423 q2424 q2425 q176 q2426) (hd_X7_clue) ⟨Nat.le_of_ble_eq_true rfl, Nat.le_of_ble_eq_true rfl⟩ (List.mem_singleton.mp hka10) rfl rfl rfl (Nat.le_of_ble_eq_true rfl) dL_law_549) rfl (fun x8 σ9 => ?_)
  refine r_icmp_eq (q := 555) (t := 2043) dL_law_552 rfl (by decide) (fun _ => ?_) (fun _ => ?_)
  · exact r_le (w_L_law_b2043 G h0 N K23 hK23 _ _ _ _ _ _) (Nat.le_refl _) (And.intro rfl (And.intro rfl (And.intro rfl (And.intro rfl (And.intro rfl trivial)))))
  · refine r_iconst (q := 556) (v := (0 : Int32)) dL_law_555 rfl (by decide) ?_
    exact r_ireturnN rfl dL_law_556
theorem w_L_law_b557 (G : Gx) (h0 : G0 G) (N : Nat) (K23 : Option Nat → Option Nat → Option Nat → Option Nat → Int32 → Mem → Option (Int32 × Mem)) (hK23 : ∀ (l0 : Option Nat) (l1 : Option Nat) (l2 : Option Nat) (l3 : Option Nat) (l4 : Int32) (σ : Mem), Runs G mL_law rhoI σ 23 [some (vR l0), some (vR l1), some (vR l2), some (vR l3), some (vI l4), none, none] [] (K23 l0 l1 l2 l3 l4 σ)) (l0 : Option Nat) (l1 : Option Nat) (l2 : Option Nat) (l3 : Option Nat) (l4 : Int32) (σ : Mem) : Runs G mL_law rhoI σ 557 [some (vR l0), some (vR l1), some (vR l2), some (vR l3), some (vI l4), none, none] [] (f_L_law_b557 N K23 l0 l1 l2 l3 l4 σ) := by
  unfold f_L_law_b557
  refine r_aload_n (q := 558) dL_law_557 rfl rfl rfl ?_
  refine r_aload_n (q := 559) dL_law_558 rfl rfl rfl ?_
  refine r_iload (q := 561) dL_law_559 rfl rfl ?_
  refine r_iconst (q := 562) (v := (1 : Int32)) dL_law_561 rfl (by decide) ?_
  refine r_iadd (q := 563) dL_law_562 rfl ?_
  refine r_iaload (q := 564) dL_law_563 rfl (fun x1 => ?_)
  refine r_aload_n (q := 565) dL_law_564 rfl rfl rfl ?_
  refine r_iload (q := 567) dL_law_565 rfl rfl ?_
  refine r_iconst (q := 568) (v := (2 : Int32)) dL_law_567 rfl (by decide) ?_
  refine r_iadd (q := 569) dL_law_568 rfl ?_
  refine r_iaload (q := 570) dL_law_569 rfl (fun x2 => ?_)
  refine r_aload_n (q := 571) dL_law_570 rfl rfl rfl ?_
  refine r_iload (q := 573) dL_law_571 rfl rfl ?_
  refine r_iconst (q := 574) (v := (3 : Int32)) dL_law_573 rfl (by decide) ?_
  refine r_iadd (q := 575) dL_law_574 rfl ?_
  refine r_iaload (q := 576) dL_law_575 rfl (fun x3 => ?_)
  refine r_ob (fun a6 ha6 => ?_)
  obtain ⟨hea6, hka6⟩ := o_at_eq ha6
  cases hea6
  refine r_callI (q := 579) (c_X1_story G h0 N _ _ _ _ _) (cl_V (ci := 0) rfl rfl (lw_V q1389 q1390 q1391 q167 q1392) (hd_X1_story) ⟨Nat.le_of_ble_eq_true rfl, Nat.le_of_ble_eq_true rfl⟩ (List.mem_singleton.mp hka6) rfl rfl rfl (Nat.le_of_ble_eq_true rfl) dL_law_576) rfl (fun x4 σ5 => ?_)
  refine r_aload_n (q := 580) dL_law_579 rfl rfl rfl ?_
  refine r_aload_n (q := 581) dL_law_580 rfl rfl rfl ?_
  refine r_iload (q := 583) dL_law_581 rfl rfl ?_
  refine r_iconst (q := 584) (v := (1 : Int32)) dL_law_583 rfl (by decide) ?_
  refine r_iadd (q := 585) dL_law_584 rfl ?_
  refine r_iaload (q := 586) dL_law_585 rfl (fun x7 => ?_)
  refine r_aload_n (q := 587) dL_law_586 rfl rfl rfl ?_
  refine r_iload (q := 589) dL_law_587 rfl rfl ?_
  refine r_iconst (q := 590) (v := (2 : Int32)) dL_law_589 rfl (by decide) ?_
  refine r_iadd (q := 591) dL_law_590 rfl ?_
  refine r_iaload (q := 592) dL_law_591 rfl (fun x8 => ?_)
  refine r_aload_n (q := 593) dL_law_592 rfl rfl rfl ?_
  refine r_iload (q := 595) dL_law_593 rfl rfl ?_
  refine r_iconst (q := 596) (v := (3 : Int32)) dL_law_595 rfl (by decide) ?_
  refine r_iadd (q := 597) dL_law_596 rfl ?_
  refine r_iaload (q := 598) dL_law_597 rfl (fun x9 => ?_)
  refine r_ob (fun a12 ha12 => ?_)
  obtain ⟨hea12, hka12⟩ := o_at_eq ha12
  cases hea12
  refine r_callI (q := 601) (c_X7_story G h0 N _ _ _ _ _) (cl_V (ci := 6) rfl rfl (lw_V q2431 q2432 q2433 q176 q2434) (hd_X7_story) ⟨Nat.le_of_ble_eq_true rfl, Nat.le_of_ble_eq_true rfl⟩ (List.mem_singleton.mp hka12) rfl rfl rfl (Nat.le_of_ble_eq_true rfl) dL_law_598) rfl (fun x10 σ11 => ?_)
  refine r_icmp_eq (q := 604) (t := 2043) dL_law_601 rfl (by decide) (fun _ => ?_) (fun _ => ?_)
  · exact r_le (w_L_law_b2043 G h0 N K23 hK23 _ _ _ _ _ _) (Nat.le_refl _) (And.intro rfl (And.intro rfl (And.intro rfl (And.intro rfl (And.intro rfl trivial)))))
  · refine r_iconst (q := 605) (v := (0 : Int32)) dL_law_604 rfl (by decide) ?_
    exact r_ireturnN rfl dL_law_605
theorem w_L_law_b606 (G : Gx) (h0 : G0 G) (N : Nat) (K23 : Option Nat → Option Nat → Option Nat → Option Nat → Int32 → Mem → Option (Int32 × Mem)) (hK23 : ∀ (l0 : Option Nat) (l1 : Option Nat) (l2 : Option Nat) (l3 : Option Nat) (l4 : Int32) (σ : Mem), Runs G mL_law rhoI σ 23 [some (vR l0), some (vR l1), some (vR l2), some (vR l3), some (vI l4), none, none] [] (K23 l0 l1 l2 l3 l4 σ)) (l0 : Option Nat) (l1 : Option Nat) (l2 : Option Nat) (l3 : Option Nat) (l4 : Int32) (σ : Mem) : Runs G mL_law rhoI σ 606 [some (vR l0), some (vR l1), some (vR l2), some (vR l3), some (vI l4), none, none] [] (f_L_law_b606 N K23 l0 l1 l2 l3 l4 σ) := by
  unfold f_L_law_b606
  refine r_aload_n (q := 607) dL_law_606 rfl rfl rfl ?_
  refine r_aload_n (q := 608) dL_law_607 rfl rfl rfl ?_
  refine r_iload (q := 610) dL_law_608 rfl rfl ?_
  refine r_iconst (q := 611) (v := (1 : Int32)) dL_law_610 rfl (by decide) ?_
  refine r_iadd (q := 612) dL_law_611 rfl ?_
  refine r_iaload (q := 613) dL_law_612 rfl (fun x1 => ?_)
  refine r_ob (fun a4 ha4 => ?_)
  obtain ⟨hea4, hka4⟩ := o_at_eq ha4
  cases hea4
  refine r_callI (q := 616) (c_X1_stories G h0 N _ _ _) (cl_V (ci := 0) rfl rfl (lw_V q1408 q1409 q1410 q167 q1411) (hd_X1_stories) ⟨Nat.le_of_ble_eq_true rfl, Nat.le_of_ble_eq_true rfl⟩ (List.mem_singleton.mp hka4) rfl rfl rfl (Nat.le_of_ble_eq_true rfl) dL_law_613) rfl (fun x2 σ3 => ?_)
  refine r_aload_n (q := 617) dL_law_616 rfl rfl rfl ?_
  refine r_aload_n (q := 618) dL_law_617 rfl rfl rfl ?_
  refine r_iload (q := 620) dL_law_618 rfl rfl ?_
  refine r_iconst (q := 621) (v := (1 : Int32)) dL_law_620 rfl (by decide) ?_
  refine r_iadd (q := 622) dL_law_621 rfl ?_
  refine r_iaload (q := 623) dL_law_622 rfl (fun x5 => ?_)
  refine r_ob (fun a8 ha8 => ?_)
  obtain ⟨hea8, hka8⟩ := o_at_eq ha8
  cases hea8
  refine r_callI (q := 626) (c_X7_stories G h0 N _ _ _) (cl_V (ci := 6) rfl rfl (lw_V q2447 q2448 q2449 q176 q2450) (hd_X7_stories) ⟨Nat.le_of_ble_eq_true rfl, Nat.le_of_ble_eq_true rfl⟩ (List.mem_singleton.mp hka8) rfl rfl rfl (Nat.le_of_ble_eq_true rfl) dL_law_623) rfl (fun x6 σ7 => ?_)
  refine r_icmp_eq (q := 629) (t := 2043) dL_law_626 rfl (by decide) (fun _ => ?_) (fun _ => ?_)
  · exact r_le (w_L_law_b2043 G h0 N K23 hK23 _ _ _ _ _ _) (Nat.le_refl _) (And.intro rfl (And.intro rfl (And.intro rfl (And.intro rfl (And.intro rfl trivial)))))
  · refine r_iconst (q := 630) (v := (0 : Int32)) dL_law_629 rfl (by decide) ?_
    exact r_ireturnN rfl dL_law_630
theorem w_L_law_b631 (G : Gx) (h0 : G0 G) (N : Nat) (K23 : Option Nat → Option Nat → Option Nat → Option Nat → Int32 → Mem → Option (Int32 × Mem)) (hK23 : ∀ (l0 : Option Nat) (l1 : Option Nat) (l2 : Option Nat) (l3 : Option Nat) (l4 : Int32) (σ : Mem), Runs G mL_law rhoI σ 23 [some (vR l0), some (vR l1), some (vR l2), some (vR l3), some (vI l4), none, none] [] (K23 l0 l1 l2 l3 l4 σ)) (l0 : Option Nat) (l1 : Option Nat) (l2 : Option Nat) (l3 : Option Nat) (l4 : Int32) (σ : Mem) : Runs G mL_law rhoI σ 631 [some (vR l0), some (vR l1), some (vR l2), some (vR l3), some (vI l4), none, none] [] (f_L_law_b631 N K23 l0 l1 l2 l3 l4 σ) := by
  unfold f_L_law_b631
  refine r_aload_n (q := 632) dL_law_631 rfl rfl rfl ?_
  refine r_aload_n (q := 633) dL_law_632 rfl rfl rfl ?_
  refine r_iload (q := 635) dL_law_633 rfl rfl ?_
  refine r_iconst (q := 636) (v := (1 : Int32)) dL_law_635 rfl (by decide) ?_
  refine r_iadd (q := 637) dL_law_636 rfl ?_
  refine r_iaload (q := 638) dL_law_637 rfl (fun x1 => ?_)
  refine r_aload_n (q := 639) dL_law_638 rfl rfl rfl ?_
  refine r_iload (q := 641) dL_law_639 rfl rfl ?_
  refine r_iconst (q := 642) (v := (2 : Int32)) dL_law_641 rfl (by decide) ?_
  refine r_iadd (q := 643) dL_law_642 rfl ?_
  refine r_iaload (q := 644) dL_law_643 rfl (fun x2 => ?_)
  refine r_ob (fun a5 ha5 => ?_)
  obtain ⟨hea5, hka5⟩ := o_at_eq ha5
  cases hea5
  refine r_callI (q := 647) (c_X1_caseOf G h0 N _ _ _ _) (cl_V (ci := 0) rfl rfl (lw_V q1412 q1413 q1414 q167 q1415) (hd_X1_caseOf) ⟨Nat.le_of_ble_eq_true rfl, Nat.le_of_ble_eq_true rfl⟩ (List.mem_singleton.mp hka5) rfl rfl rfl (Nat.le_of_ble_eq_true rfl) dL_law_644) rfl (fun x3 σ4 => ?_)
  refine r_aload_n (q := 648) dL_law_647 rfl rfl rfl ?_
  refine r_aload_n (q := 649) dL_law_648 rfl rfl rfl ?_
  refine r_iload (q := 651) dL_law_649 rfl rfl ?_
  refine r_iconst (q := 652) (v := (1 : Int32)) dL_law_651 rfl (by decide) ?_
  refine r_iadd (q := 653) dL_law_652 rfl ?_
  refine r_iaload (q := 654) dL_law_653 rfl (fun x6 => ?_)
  refine r_aload_n (q := 655) dL_law_654 rfl rfl rfl ?_
  refine r_iload (q := 657) dL_law_655 rfl rfl ?_
  refine r_iconst (q := 658) (v := (2 : Int32)) dL_law_657 rfl (by decide) ?_
  refine r_iadd (q := 659) dL_law_658 rfl ?_
  refine r_iaload (q := 660) dL_law_659 rfl (fun x7 => ?_)
  refine r_ob (fun a10 ha10 => ?_)
  obtain ⟨hea10, hka10⟩ := o_at_eq ha10
  cases hea10
  refine r_callI (q := 663) (c_X7_caseOf G h0 N _ _ _ _) (cl_V (ci := 6) rfl rfl (lw_V q2451 q2452 q2453 q176 q2454) (hd_X7_caseOf) ⟨Nat.le_of_ble_eq_true rfl, Nat.le_of_ble_eq_true rfl⟩ (List.mem_singleton.mp hka10) rfl rfl rfl (Nat.le_of_ble_eq_true rfl) dL_law_660) rfl (fun x8 σ9 => ?_)
  refine r_icmp_eq (q := 666) (t := 2043) dL_law_663 rfl (by decide) (fun _ => ?_) (fun _ => ?_)
  · exact r_le (w_L_law_b2043 G h0 N K23 hK23 _ _ _ _ _ _) (Nat.le_refl _) (And.intro rfl (And.intro rfl (And.intro rfl (And.intro rfl (And.intro rfl trivial)))))
  · refine r_iconst (q := 667) (v := (0 : Int32)) dL_law_666 rfl (by decide) ?_
    exact r_ireturnN rfl dL_law_667
theorem w_L_law_b668 (G : Gx) (h0 : G0 G) (N : Nat) (K23 : Option Nat → Option Nat → Option Nat → Option Nat → Int32 → Mem → Option (Int32 × Mem)) (hK23 : ∀ (l0 : Option Nat) (l1 : Option Nat) (l2 : Option Nat) (l3 : Option Nat) (l4 : Int32) (σ : Mem), Runs G mL_law rhoI σ 23 [some (vR l0), some (vR l1), some (vR l2), some (vR l3), some (vI l4), none, none] [] (K23 l0 l1 l2 l3 l4 σ)) (l0 : Option Nat) (l1 : Option Nat) (l2 : Option Nat) (l3 : Option Nat) (l4 : Int32) (σ : Mem) : Runs G mL_law rhoI σ 668 [some (vR l0), some (vR l1), some (vR l2), some (vR l3), some (vI l4), none, none] [] (f_L_law_b668 N K23 l0 l1 l2 l3 l4 σ) := by
  unfold f_L_law_b668
  refine r_aload_n (q := 669) dL_law_668 rfl rfl rfl ?_
  refine r_aload_n (q := 670) dL_law_669 rfl rfl rfl ?_
  refine r_iload (q := 672) dL_law_670 rfl rfl ?_
  refine r_iconst (q := 673) (v := (1 : Int32)) dL_law_672 rfl (by decide) ?_
  refine r_iadd (q := 674) dL_law_673 rfl ?_
  refine r_iaload (q := 675) dL_law_674 rfl (fun x1 => ?_)
  refine r_aload_n (q := 676) dL_law_675 rfl rfl rfl ?_
  refine r_iload (q := 678) dL_law_676 rfl rfl ?_
  refine r_iconst (q := 679) (v := (2 : Int32)) dL_law_678 rfl (by decide) ?_
  refine r_iadd (q := 680) dL_law_679 rfl ?_
  refine r_iaload (q := 681) dL_law_680 rfl (fun x2 => ?_)
  refine r_aload_n (q := 682) dL_law_681 rfl rfl rfl ?_
  refine r_iload (q := 684) dL_law_682 rfl rfl ?_
  refine r_iconst (q := 685) (v := (3 : Int32)) dL_law_684 rfl (by decide) ?_
  refine r_iadd (q := 686) dL_law_685 rfl ?_
  refine r_iaload (q := 687) dL_law_686 rfl (fun x3 => ?_)
  refine r_ob (fun a6 ha6 => ?_)
  obtain ⟨hea6, hka6⟩ := o_at_eq ha6
  cases hea6
  refine r_callI (q := 690) (c_X1_at G h0 N _ _ _ _ _) (cl_V (ci := 0) rfl rfl (lw_V q1424 q1425 q1426 q167 q1427) (hd_X1_at) ⟨Nat.le_of_ble_eq_true rfl, Nat.le_of_ble_eq_true rfl⟩ (List.mem_singleton.mp hka6) rfl rfl rfl (Nat.le_of_ble_eq_true rfl) dL_law_687) rfl (fun x4 σ5 => ?_)
  refine r_aload_n (q := 691) dL_law_690 rfl rfl rfl ?_
  refine r_aload_n (q := 692) dL_law_691 rfl rfl rfl ?_
  refine r_iload (q := 694) dL_law_692 rfl rfl ?_
  refine r_iconst (q := 695) (v := (1 : Int32)) dL_law_694 rfl (by decide) ?_
  refine r_iadd (q := 696) dL_law_695 rfl ?_
  refine r_iaload (q := 697) dL_law_696 rfl (fun x7 => ?_)
  refine r_aload_n (q := 698) dL_law_697 rfl rfl rfl ?_
  refine r_iload (q := 700) dL_law_698 rfl rfl ?_
  refine r_iconst (q := 701) (v := (2 : Int32)) dL_law_700 rfl (by decide) ?_
  refine r_iadd (q := 702) dL_law_701 rfl ?_
  refine r_iaload (q := 703) dL_law_702 rfl (fun x8 => ?_)
  refine r_aload_n (q := 704) dL_law_703 rfl rfl rfl ?_
  refine r_iload (q := 706) dL_law_704 rfl rfl ?_
  refine r_iconst (q := 707) (v := (3 : Int32)) dL_law_706 rfl (by decide) ?_
  refine r_iadd (q := 708) dL_law_707 rfl ?_
  refine r_iaload (q := 709) dL_law_708 rfl (fun x9 => ?_)
  refine r_ob (fun a12 ha12 => ?_)
  obtain ⟨hea12, hka12⟩ := o_at_eq ha12
  cases hea12
  refine r_callI (q := 712) (c_X7_at G h0 N _ _ _ _ _) (cl_V (ci := 6) rfl rfl (lw_V q2463 q2464 q2465 q176 q2466) (hd_X7_at) ⟨Nat.le_of_ble_eq_true rfl, Nat.le_of_ble_eq_true rfl⟩ (List.mem_singleton.mp hka12) rfl rfl rfl (Nat.le_of_ble_eq_true rfl) dL_law_709) rfl (fun x10 σ11 => ?_)
  refine r_icmp_eq (q := 715) (t := 2043) dL_law_712 rfl (by decide) (fun _ => ?_) (fun _ => ?_)
  · exact r_le (w_L_law_b2043 G h0 N K23 hK23 _ _ _ _ _ _) (Nat.le_refl _) (And.intro rfl (And.intro rfl (And.intro rfl (And.intro rfl (And.intro rfl trivial)))))
  · refine r_iconst (q := 716) (v := (0 : Int32)) dL_law_715 rfl (by decide) ?_
    exact r_ireturnN rfl dL_law_716
theorem w_L_law_b717 (G : Gx) (h0 : G0 G) (N : Nat) (K23 : Option Nat → Option Nat → Option Nat → Option Nat → Int32 → Mem → Option (Int32 × Mem)) (hK23 : ∀ (l0 : Option Nat) (l1 : Option Nat) (l2 : Option Nat) (l3 : Option Nat) (l4 : Int32) (σ : Mem), Runs G mL_law rhoI σ 23 [some (vR l0), some (vR l1), some (vR l2), some (vR l3), some (vI l4), none, none] [] (K23 l0 l1 l2 l3 l4 σ)) (l0 : Option Nat) (l1 : Option Nat) (l2 : Option Nat) (l3 : Option Nat) (l4 : Int32) (σ : Mem) : Runs G mL_law rhoI σ 717 [some (vR l0), some (vR l1), some (vR l2), some (vR l3), some (vI l4), none, none] [] (f_L_law_b717 N K23 l0 l1 l2 l3 l4 σ) := by
  unfold f_L_law_b717
  refine r_aload_n (q := 718) dL_law_717 rfl rfl rfl ?_
  refine r_aload_n (q := 719) dL_law_718 rfl rfl rfl ?_
  refine r_iload (q := 721) dL_law_719 rfl rfl ?_
  refine r_iconst (q := 722) (v := (1 : Int32)) dL_law_721 rfl (by decide) ?_
  refine r_iadd (q := 723) dL_law_722 rfl ?_
  refine r_iaload (q := 724) dL_law_723 rfl (fun x1 => ?_)
  refine r_aload_n (q := 725) dL_law_724 rfl rfl rfl ?_
  refine r_iload (q := 727) dL_law_725 rfl rfl ?_
  refine r_iconst (q := 728) (v := (2 : Int32)) dL_law_727 rfl (by decide) ?_
  refine r_iadd (q := 729) dL_law_728 rfl ?_
  refine r_iaload (q := 730) dL_law_729 rfl (fun x2 => ?_)
  refine r_aload_n (q := 731) dL_law_730 rfl rfl rfl ?_
  refine r_iload (q := 733) dL_law_731 rfl rfl ?_
  refine r_iconst (q := 734) (v := (3 : Int32)) dL_law_733 rfl (by decide) ?_
  refine r_iadd (q := 735) dL_law_734 rfl ?_
  refine r_iaload (q := 736) dL_law_735 rfl (fun x3 => ?_)
  refine r_ob (fun a6 ha6 => ?_)
  obtain ⟨hea6, hka6⟩ := o_at_eq ha6
  cases hea6
  refine r_callI (q := 739) (c_X1_ate G h0 N _ _ _ _ _) (cl_V (ci := 0) rfl rfl (lw_V q1516 q1517 q1518 q167 q1519) (hd_X1_ate) ⟨Nat.le_of_ble_eq_true rfl, Nat.le_of_ble_eq_true rfl⟩ (List.mem_singleton.mp hka6) rfl rfl rfl (Nat.le_of_ble_eq_true rfl) dL_law_736) rfl (fun x4 σ5 => ?_)
  refine r_aload_n (q := 740) dL_law_739 rfl rfl rfl ?_
  refine r_aload_n (q := 741) dL_law_740 rfl rfl rfl ?_
  refine r_iload (q := 743) dL_law_741 rfl rfl ?_
  refine r_iconst (q := 744) (v := (1 : Int32)) dL_law_743 rfl (by decide) ?_
  refine r_iadd (q := 745) dL_law_744 rfl ?_
  refine r_iaload (q := 746) dL_law_745 rfl (fun x7 => ?_)
  refine r_aload_n (q := 747) dL_law_746 rfl rfl rfl ?_
  refine r_iload (q := 749) dL_law_747 rfl rfl ?_
  refine r_iconst (q := 750) (v := (2 : Int32)) dL_law_749 rfl (by decide) ?_
  refine r_iadd (q := 751) dL_law_750 rfl ?_
  refine r_iaload (q := 752) dL_law_751 rfl (fun x8 => ?_)
  refine r_aload_n (q := 753) dL_law_752 rfl rfl rfl ?_
  refine r_iload (q := 755) dL_law_753 rfl rfl ?_
  refine r_iconst (q := 756) (v := (3 : Int32)) dL_law_755 rfl (by decide) ?_
  refine r_iadd (q := 757) dL_law_756 rfl ?_
  refine r_iaload (q := 758) dL_law_757 rfl (fun x9 => ?_)
  refine r_ob (fun a12 ha12 => ?_)
  obtain ⟨hea12, hka12⟩ := o_at_eq ha12
  cases hea12
  refine r_callI (q := 761) (c_X7_ate G h0 N _ _ _ _ _) (cl_V (ci := 6) rfl rfl (lw_V q2505 q2506 q2507 q176 q2508) (hd_X7_ate) ⟨Nat.le_of_ble_eq_true rfl, Nat.le_of_ble_eq_true rfl⟩ (List.mem_singleton.mp hka12) rfl rfl rfl (Nat.le_of_ble_eq_true rfl) dL_law_758) rfl (fun x10 σ11 => ?_)
  refine r_icmp_eq (q := 764) (t := 2043) dL_law_761 rfl (by decide) (fun _ => ?_) (fun _ => ?_)
  · exact r_le (w_L_law_b2043 G h0 N K23 hK23 _ _ _ _ _ _) (Nat.le_refl _) (And.intro rfl (And.intro rfl (And.intro rfl (And.intro rfl (And.intro rfl trivial)))))
  · refine r_iconst (q := 765) (v := (0 : Int32)) dL_law_764 rfl (by decide) ?_
    exact r_ireturnN rfl dL_law_765
theorem w_L_law_b766 (G : Gx) (h0 : G0 G) (N : Nat) (K23 : Option Nat → Option Nat → Option Nat → Option Nat → Int32 → Mem → Option (Int32 × Mem)) (hK23 : ∀ (l0 : Option Nat) (l1 : Option Nat) (l2 : Option Nat) (l3 : Option Nat) (l4 : Int32) (σ : Mem), Runs G mL_law rhoI σ 23 [some (vR l0), some (vR l1), some (vR l2), some (vR l3), some (vI l4), none, none] [] (K23 l0 l1 l2 l3 l4 σ)) (l0 : Option Nat) (l1 : Option Nat) (l2 : Option Nat) (l3 : Option Nat) (l4 : Int32) (σ : Mem) : Runs G mL_law rhoI σ 766 [some (vR l0), some (vR l1), some (vR l2), some (vR l3), some (vI l4), none, none] [] (f_L_law_b766 N K23 l0 l1 l2 l3 l4 σ) := by
  unfold f_L_law_b766
  refine r_aload_n (q := 767) dL_law_766 rfl rfl rfl ?_
  refine r_aload_n (q := 768) dL_law_767 rfl rfl rfl ?_
  refine r_iload (q := 770) dL_law_768 rfl rfl ?_
  refine r_iconst (q := 771) (v := (1 : Int32)) dL_law_770 rfl (by decide) ?_
  refine r_iadd (q := 772) dL_law_771 rfl ?_
  refine r_iaload (q := 773) dL_law_772 rfl (fun x1 => ?_)
  refine r_aload_n (q := 774) dL_law_773 rfl rfl rfl ?_
  refine r_iload (q := 776) dL_law_774 rfl rfl ?_
  refine r_iconst (q := 777) (v := (2 : Int32)) dL_law_776 rfl (by decide) ?_
  refine r_iadd (q := 778) dL_law_777 rfl ?_
  refine r_iaload (q := 779) dL_law_778 rfl (fun x2 => ?_)
  refine r_aload_n (q := 780) dL_law_779 rfl rfl rfl ?_
  refine r_iload (q := 782) dL_law_780 rfl rfl ?_
  refine r_iconst (q := 783) (v := (3 : Int32)) dL_law_782 rfl (by decide) ?_
  refine r_iadd (q := 784) dL_law_783 rfl ?_
  refine r_iaload (q := 785) dL_law_784 rfl (fun x3 => ?_)
  refine r_aload_n (q := 786) dL_law_785 rfl rfl rfl ?_
  refine r_iload (q := 788) dL_law_786 rfl rfl ?_
  refine r_iconst (q := 789) (v := (4 : Int32)) dL_law_788 rfl (by decide) ?_
  refine r_iadd (q := 790) dL_law_789 rfl ?_
  refine r_iaload (q := 791) dL_law_790 rfl (fun x4 => ?_)
  refine r_ob (fun a7 ha7 => ?_)
  obtain ⟨hea7, hka7⟩ := o_at_eq ha7
  cases hea7
  refine r_callI (q := 794) (c_X1_drops G h0 N _ _ _ _ _ _) (cl_V (ci := 0) rfl rfl (lw_V q1524 q1525 q1526 q167 q1527) (hd_X1_drops) ⟨Nat.le_of_ble_eq_true rfl, Nat.le_of_ble_eq_true rfl⟩ (List.mem_singleton.mp hka7) rfl rfl rfl (Nat.le_of_ble_eq_true rfl) dL_law_791) rfl (fun x5 σ6 => ?_)
  refine r_aload_n (q := 795) dL_law_794 rfl rfl rfl ?_
  refine r_aload_n (q := 796) dL_law_795 rfl rfl rfl ?_
  refine r_iload (q := 798) dL_law_796 rfl rfl ?_
  refine r_iconst (q := 799) (v := (1 : Int32)) dL_law_798 rfl (by decide) ?_
  refine r_iadd (q := 800) dL_law_799 rfl ?_
  refine r_iaload (q := 801) dL_law_800 rfl (fun x8 => ?_)
  refine r_aload_n (q := 802) dL_law_801 rfl rfl rfl ?_
  refine r_iload (q := 804) dL_law_802 rfl rfl ?_
  refine r_iconst (q := 805) (v := (2 : Int32)) dL_law_804 rfl (by decide) ?_
  refine r_iadd (q := 806) dL_law_805 rfl ?_
  refine r_iaload (q := 807) dL_law_806 rfl (fun x9 => ?_)
  refine r_aload_n (q := 808) dL_law_807 rfl rfl rfl ?_
  refine r_iload (q := 810) dL_law_808 rfl rfl ?_
  refine r_iconst (q := 811) (v := (3 : Int32)) dL_law_810 rfl (by decide) ?_
  refine r_iadd (q := 812) dL_law_811 rfl ?_
  refine r_iaload (q := 813) dL_law_812 rfl (fun x10 => ?_)
  refine r_aload_n (q := 814) dL_law_813 rfl rfl rfl ?_
  refine r_iload (q := 816) dL_law_814 rfl rfl ?_
  refine r_iconst (q := 817) (v := (4 : Int32)) dL_law_816 rfl (by decide) ?_
  refine r_iadd (q := 818) dL_law_817 rfl ?_
  refine r_iaload (q := 819) dL_law_818 rfl (fun x11 => ?_)
  refine r_ob (fun a14 ha14 => ?_)
  obtain ⟨hea14, hka14⟩ := o_at_eq ha14
  cases hea14
  refine r_callI (q := 822) (c_X7_drops G h0 N _ _ _ _ _ _) (cl_V (ci := 6) rfl rfl (lw_V q2513 q2514 q2515 q176 q2516) (hd_X7_drops) ⟨Nat.le_of_ble_eq_true rfl, Nat.le_of_ble_eq_true rfl⟩ (List.mem_singleton.mp hka14) rfl rfl rfl (Nat.le_of_ble_eq_true rfl) dL_law_819) rfl (fun x12 σ13 => ?_)
  refine r_icmp_eq (q := 825) (t := 2043) dL_law_822 rfl (by decide) (fun _ => ?_) (fun _ => ?_)
  · exact r_le (w_L_law_b2043 G h0 N K23 hK23 _ _ _ _ _ _) (Nat.le_refl _) (And.intro rfl (And.intro rfl (And.intro rfl (And.intro rfl (And.intro rfl trivial)))))
  · refine r_iconst (q := 826) (v := (0 : Int32)) dL_law_825 rfl (by decide) ?_
    exact r_ireturnN rfl dL_law_826
theorem w_L_law_b827 (G : Gx) (h0 : G0 G) (N : Nat) (K23 : Option Nat → Option Nat → Option Nat → Option Nat → Int32 → Mem → Option (Int32 × Mem)) (hK23 : ∀ (l0 : Option Nat) (l1 : Option Nat) (l2 : Option Nat) (l3 : Option Nat) (l4 : Int32) (σ : Mem), Runs G mL_law rhoI σ 23 [some (vR l0), some (vR l1), some (vR l2), some (vR l3), some (vI l4), none, none] [] (K23 l0 l1 l2 l3 l4 σ)) (l0 : Option Nat) (l1 : Option Nat) (l2 : Option Nat) (l3 : Option Nat) (l4 : Int32) (σ : Mem) : Runs G mL_law rhoI σ 827 [some (vR l0), some (vR l1), some (vR l2), some (vR l3), some (vI l4), none, none] [] (f_L_law_b827 N K23 l0 l1 l2 l3 l4 σ) := by
  unfold f_L_law_b827
  refine r_aload_n (q := 828) dL_law_827 rfl rfl rfl ?_
  refine r_aload_n (q := 829) dL_law_828 rfl rfl rfl ?_
  refine r_iload (q := 831) dL_law_829 rfl rfl ?_
  refine r_iconst (q := 832) (v := (1 : Int32)) dL_law_831 rfl (by decide) ?_
  refine r_iadd (q := 833) dL_law_832 rfl ?_
  refine r_iaload (q := 834) dL_law_833 rfl (fun x1 => ?_)
  refine r_aload_n (q := 835) dL_law_834 rfl rfl rfl ?_
  refine r_iload (q := 837) dL_law_835 rfl rfl ?_
  refine r_iconst (q := 838) (v := (2 : Int32)) dL_law_837 rfl (by decide) ?_
  refine r_iadd (q := 839) dL_law_838 rfl ?_
  refine r_iaload (q := 840) dL_law_839 rfl (fun x2 => ?_)
  refine r_ob (fun a5 ha5 => ?_)
  obtain ⟨hea5, hka5⟩ := o_at_eq ha5
  cases hea5
  refine r_callI (q := 843) (c_X1_flees G h0 N _ _ _ _) (cl_V (ci := 0) rfl rfl (lw_V q1533 q1534 q1535 q167 q1536) (hd_X1_flees) ⟨Nat.le_of_ble_eq_true rfl, Nat.le_of_ble_eq_true rfl⟩ (List.mem_singleton.mp hka5) rfl rfl rfl (Nat.le_of_ble_eq_true rfl) dL_law_840) rfl (fun x3 σ4 => ?_)
  refine r_aload_n (q := 844) dL_law_843 rfl rfl rfl ?_
  refine r_aload_n (q := 845) dL_law_844 rfl rfl rfl ?_
  refine r_iload (q := 847) dL_law_845 rfl rfl ?_
  refine r_iconst (q := 848) (v := (1 : Int32)) dL_law_847 rfl (by decide) ?_
  refine r_iadd (q := 849) dL_law_848 rfl ?_
  refine r_iaload (q := 850) dL_law_849 rfl (fun x6 => ?_)
  refine r_aload_n (q := 851) dL_law_850 rfl rfl rfl ?_
  refine r_iload (q := 853) dL_law_851 rfl rfl ?_
  refine r_iconst (q := 854) (v := (2 : Int32)) dL_law_853 rfl (by decide) ?_
  refine r_iadd (q := 855) dL_law_854 rfl ?_
  refine r_iaload (q := 856) dL_law_855 rfl (fun x7 => ?_)
  refine r_ob (fun a10 ha10 => ?_)
  obtain ⟨hea10, hka10⟩ := o_at_eq ha10
  cases hea10
  refine r_callI (q := 859) (c_X7_flees G h0 N _ _ _ _) (cl_V (ci := 6) rfl rfl (lw_V q2521 q2522 q2523 q176 q2524) (hd_X7_flees) ⟨Nat.le_of_ble_eq_true rfl, Nat.le_of_ble_eq_true rfl⟩ (List.mem_singleton.mp hka10) rfl rfl rfl (Nat.le_of_ble_eq_true rfl) dL_law_856) rfl (fun x8 σ9 => ?_)
  refine r_icmp_eq (q := 862) (t := 2043) dL_law_859 rfl (by decide) (fun _ => ?_) (fun _ => ?_)
  · exact r_le (w_L_law_b2043 G h0 N K23 hK23 _ _ _ _ _ _) (Nat.le_refl _) (And.intro rfl (And.intro rfl (And.intro rfl (And.intro rfl (And.intro rfl trivial)))))
  · refine r_iconst (q := 863) (v := (0 : Int32)) dL_law_862 rfl (by decide) ?_
    exact r_ireturnN rfl dL_law_863
theorem w_L_law_b864 (G : Gx) (h0 : G0 G) (N : Nat) (K23 : Option Nat → Option Nat → Option Nat → Option Nat → Int32 → Mem → Option (Int32 × Mem)) (hK23 : ∀ (l0 : Option Nat) (l1 : Option Nat) (l2 : Option Nat) (l3 : Option Nat) (l4 : Int32) (σ : Mem), Runs G mL_law rhoI σ 23 [some (vR l0), some (vR l1), some (vR l2), some (vR l3), some (vI l4), none, none] [] (K23 l0 l1 l2 l3 l4 σ)) (l0 : Option Nat) (l1 : Option Nat) (l2 : Option Nat) (l3 : Option Nat) (l4 : Int32) (σ : Mem) : Runs G mL_law rhoI σ 864 [some (vR l0), some (vR l1), some (vR l2), some (vR l3), some (vI l4), none, none] [] (f_L_law_b864 N K23 l0 l1 l2 l3 l4 σ) := by
  unfold f_L_law_b864
  refine r_aload_n (q := 865) dL_law_864 rfl rfl rfl ?_
  refine r_aload_n (q := 866) dL_law_865 rfl rfl rfl ?_
  refine r_iload (q := 868) dL_law_866 rfl rfl ?_
  refine r_iconst (q := 869) (v := (1 : Int32)) dL_law_868 rfl (by decide) ?_
  refine r_iadd (q := 870) dL_law_869 rfl ?_
  refine r_iaload (q := 871) dL_law_870 rfl (fun x1 => ?_)
  refine r_aload_n (q := 872) dL_law_871 rfl rfl rfl ?_
  refine r_iload (q := 874) dL_law_872 rfl rfl ?_
  refine r_iconst (q := 875) (v := (2 : Int32)) dL_law_874 rfl (by decide) ?_
  refine r_iadd (q := 876) dL_law_875 rfl ?_
  refine r_iaload (q := 877) dL_law_876 rfl (fun x2 => ?_)
  refine r_aload_n (q := 878) dL_law_877 rfl rfl rfl ?_
  refine r_iload (q := 880) dL_law_878 rfl rfl ?_
  refine r_iconst (q := 881) (v := (3 : Int32)) dL_law_880 rfl (by decide) ?_
  refine r_iadd (q := 882) dL_law_881 rfl ?_
  refine r_iaload (q := 883) dL_law_882 rfl (fun x3 => ?_)
  refine r_ob (fun a6 ha6 => ?_)
  obtain ⟨hea6, hka6⟩ := o_at_eq ha6
  cases hea6
  refine r_callI (q := 886) (c_X1_left G h0 N _ _ _ _ _) (cl_V (ci := 0) rfl rfl (lw_V q1541 q1542 q1543 q167 q1544) (hd_X1_left) ⟨Nat.le_of_ble_eq_true rfl, Nat.le_of_ble_eq_true rfl⟩ (List.mem_singleton.mp hka6) rfl rfl rfl (Nat.le_of_ble_eq_true rfl) dL_law_883) rfl (fun x4 σ5 => ?_)
  refine r_aload_n (q := 887) dL_law_886 rfl rfl rfl ?_
  refine r_aload_n (q := 888) dL_law_887 rfl rfl rfl ?_
  refine r_iload (q := 890) dL_law_888 rfl rfl ?_
  refine r_iconst (q := 891) (v := (1 : Int32)) dL_law_890 rfl (by decide) ?_
  refine r_iadd (q := 892) dL_law_891 rfl ?_
  refine r_iaload (q := 893) dL_law_892 rfl (fun x7 => ?_)
  refine r_aload_n (q := 894) dL_law_893 rfl rfl rfl ?_
  refine r_iload (q := 896) dL_law_894 rfl rfl ?_
  refine r_iconst (q := 897) (v := (2 : Int32)) dL_law_896 rfl (by decide) ?_
  refine r_iadd (q := 898) dL_law_897 rfl ?_
  refine r_iaload (q := 899) dL_law_898 rfl (fun x8 => ?_)
  refine r_aload_n (q := 900) dL_law_899 rfl rfl rfl ?_
  refine r_iload (q := 902) dL_law_900 rfl rfl ?_
  refine r_iconst (q := 903) (v := (3 : Int32)) dL_law_902 rfl (by decide) ?_
  refine r_iadd (q := 904) dL_law_903 rfl ?_
  refine r_iaload (q := 905) dL_law_904 rfl (fun x9 => ?_)
  refine r_ob (fun a12 ha12 => ?_)
  obtain ⟨hea12, hka12⟩ := o_at_eq ha12
  cases hea12
  refine r_callI (q := 908) (c_X7_left G h0 N _ _ _ _ _) (cl_V (ci := 6) rfl rfl (lw_V q2525 q2526 q2527 q176 q2528) (hd_X7_left) ⟨Nat.le_of_ble_eq_true rfl, Nat.le_of_ble_eq_true rfl⟩ (List.mem_singleton.mp hka12) rfl rfl rfl (Nat.le_of_ble_eq_true rfl) dL_law_905) rfl (fun x10 σ11 => ?_)
  refine r_icmp_eq (q := 911) (t := 2043) dL_law_908 rfl (by decide) (fun _ => ?_) (fun _ => ?_)
  · exact r_le (w_L_law_b2043 G h0 N K23 hK23 _ _ _ _ _ _) (Nat.le_refl _) (And.intro rfl (And.intro rfl (And.intro rfl (And.intro rfl (And.intro rfl trivial)))))
  · refine r_iconst (q := 912) (v := (0 : Int32)) dL_law_911 rfl (by decide) ?_
    exact r_ireturnN rfl dL_law_912
theorem w_L_law_b913 (G : Gx) (h0 : G0 G) (N : Nat) (K23 : Option Nat → Option Nat → Option Nat → Option Nat → Int32 → Mem → Option (Int32 × Mem)) (hK23 : ∀ (l0 : Option Nat) (l1 : Option Nat) (l2 : Option Nat) (l3 : Option Nat) (l4 : Int32) (σ : Mem), Runs G mL_law rhoI σ 23 [some (vR l0), some (vR l1), some (vR l2), some (vR l3), some (vI l4), none, none] [] (K23 l0 l1 l2 l3 l4 σ)) (l0 : Option Nat) (l1 : Option Nat) (l2 : Option Nat) (l3 : Option Nat) (l4 : Int32) (σ : Mem) : Runs G mL_law rhoI σ 913 [some (vR l0), some (vR l1), some (vR l2), some (vR l3), some (vI l4), none, none] [] (f_L_law_b913 N K23 l0 l1 l2 l3 l4 σ) := by
  unfold f_L_law_b913
  refine r_aload_n (q := 914) dL_law_913 rfl rfl rfl ?_
  refine r_aload_n (q := 915) dL_law_914 rfl rfl rfl ?_
  refine r_iload (q := 917) dL_law_915 rfl rfl ?_
  refine r_iconst (q := 918) (v := (1 : Int32)) dL_law_917 rfl (by decide) ?_
  refine r_iadd (q := 919) dL_law_918 rfl ?_
  refine r_iaload (q := 920) dL_law_919 rfl (fun x1 => ?_)
  refine r_aload_n (q := 921) dL_law_920 rfl rfl rfl ?_
  refine r_iload (q := 923) dL_law_921 rfl rfl ?_
  refine r_iconst (q := 924) (v := (2 : Int32)) dL_law_923 rfl (by decide) ?_
  refine r_iadd (q := 925) dL_law_924 rfl ?_
  refine r_iaload (q := 926) dL_law_925 rfl (fun x2 => ?_)
  refine r_aload_n (q := 927) dL_law_926 rfl rfl rfl ?_
  refine r_iload (q := 929) dL_law_927 rfl rfl ?_
  refine r_iconst (q := 930) (v := (3 : Int32)) dL_law_929 rfl (by decide) ?_
  refine r_iadd (q := 931) dL_law_930 rfl ?_
  refine r_iaload (q := 932) dL_law_931 rfl (fun x3 => ?_)
  refine r_ob (fun a6 ha6 => ?_)
  obtain ⟨hea6, hka6⟩ := o_at_eq ha6
  cases hea6
  refine r_callI (q := 935) (c_X1_met G h0 N _ _ _ _ _) (cl_V (ci := 0) rfl rfl (lw_V q1549 q1550 q1551 q167 q1552) (hd_X1_met) ⟨Nat.le_of_ble_eq_true rfl, Nat.le_of_ble_eq_true rfl⟩ (List.mem_singleton.mp hka6) rfl rfl rfl (Nat.le_of_ble_eq_true rfl) dL_law_932) rfl (fun x4 σ5 => ?_)
  refine r_aload_n (q := 936) dL_law_935 rfl rfl rfl ?_
  refine r_aload_n (q := 937) dL_law_936 rfl rfl rfl ?_
  refine r_iload (q := 939) dL_law_937 rfl rfl ?_
  refine r_iconst (q := 940) (v := (1 : Int32)) dL_law_939 rfl (by decide) ?_
  refine r_iadd (q := 941) dL_law_940 rfl ?_
  refine r_iaload (q := 942) dL_law_941 rfl (fun x7 => ?_)
  refine r_aload_n (q := 943) dL_law_942 rfl rfl rfl ?_
  refine r_iload (q := 945) dL_law_943 rfl rfl ?_
  refine r_iconst (q := 946) (v := (2 : Int32)) dL_law_945 rfl (by decide) ?_
  refine r_iadd (q := 947) dL_law_946 rfl ?_
  refine r_iaload (q := 948) dL_law_947 rfl (fun x8 => ?_)
  refine r_aload_n (q := 949) dL_law_948 rfl rfl rfl ?_
  refine r_iload (q := 951) dL_law_949 rfl rfl ?_
  refine r_iconst (q := 952) (v := (3 : Int32)) dL_law_951 rfl (by decide) ?_
  refine r_iadd (q := 953) dL_law_952 rfl ?_
  refine r_iaload (q := 954) dL_law_953 rfl (fun x9 => ?_)
  refine r_ob (fun a12 ha12 => ?_)
  obtain ⟨hea12, hka12⟩ := o_at_eq ha12
  cases hea12
  refine r_callI (q := 957) (c_X7_met G h0 N _ _ _ _ _) (cl_V (ci := 6) rfl rfl (lw_V q2529 q2530 q2531 q176 q2532) (hd_X7_met) ⟨Nat.le_of_ble_eq_true rfl, Nat.le_of_ble_eq_true rfl⟩ (List.mem_singleton.mp hka12) rfl rfl rfl (Nat.le_of_ble_eq_true rfl) dL_law_954) rfl (fun x10 σ11 => ?_)
  refine r_icmp_eq (q := 960) (t := 2043) dL_law_957 rfl (by decide) (fun _ => ?_) (fun _ => ?_)
  · exact r_le (w_L_law_b2043 G h0 N K23 hK23 _ _ _ _ _ _) (Nat.le_refl _) (And.intro rfl (And.intro rfl (And.intro rfl (And.intro rfl (And.intro rfl trivial)))))
  · refine r_iconst (q := 961) (v := (0 : Int32)) dL_law_960 rfl (by decide) ?_
    exact r_ireturnN rfl dL_law_961
theorem w_L_law_b962 (G : Gx) (h0 : G0 G) (N : Nat) (K23 : Option Nat → Option Nat → Option Nat → Option Nat → Int32 → Mem → Option (Int32 × Mem)) (hK23 : ∀ (l0 : Option Nat) (l1 : Option Nat) (l2 : Option Nat) (l3 : Option Nat) (l4 : Int32) (σ : Mem), Runs G mL_law rhoI σ 23 [some (vR l0), some (vR l1), some (vR l2), some (vR l3), some (vI l4), none, none] [] (K23 l0 l1 l2 l3 l4 σ)) (l0 : Option Nat) (l1 : Option Nat) (l2 : Option Nat) (l3 : Option Nat) (l4 : Int32) (σ : Mem) : Runs G mL_law rhoI σ 962 [some (vR l0), some (vR l1), some (vR l2), some (vR l3), some (vI l4), none, none] [] (f_L_law_b962 N K23 l0 l1 l2 l3 l4 σ) := by
  unfold f_L_law_b962
  refine r_aload_n (q := 963) dL_law_962 rfl rfl rfl ?_
  refine r_aload_n (q := 964) dL_law_963 rfl rfl rfl ?_
  refine r_iload (q := 966) dL_law_964 rfl rfl ?_
  refine r_iconst (q := 967) (v := (1 : Int32)) dL_law_966 rfl (by decide) ?_
  refine r_iadd (q := 968) dL_law_967 rfl ?_
  refine r_iaload (q := 969) dL_law_968 rfl (fun x1 => ?_)
  refine r_aload_n (q := 970) dL_law_969 rfl rfl rfl ?_
  refine r_iload (q := 972) dL_law_970 rfl rfl ?_
  refine r_iconst (q := 973) (v := (2 : Int32)) dL_law_972 rfl (by decide) ?_
  refine r_iadd (q := 974) dL_law_973 rfl ?_
  refine r_iaload (q := 975) dL_law_974 rfl (fun x2 => ?_)
  refine r_ob (fun a5 ha5 => ?_)
  obtain ⟨hea5, hka5⟩ := o_at_eq ha5
  cases hea5
  refine r_callI (q := 978) (c_X1_isTrue G h0 N _ _ _ _) (cl_V (ci := 0) rfl rfl (lw_V q1553 q1554 q1555 q167 q1556) (hd_X1_isTrue) ⟨Nat.le_of_ble_eq_true rfl, Nat.le_of_ble_eq_true rfl⟩ (List.mem_singleton.mp hka5) rfl rfl rfl (Nat.le_of_ble_eq_true rfl) dL_law_975) rfl (fun x3 σ4 => ?_)
  refine r_aload_n (q := 979) dL_law_978 rfl rfl rfl ?_
  refine r_aload_n (q := 980) dL_law_979 rfl rfl rfl ?_
  refine r_iload (q := 982) dL_law_980 rfl rfl ?_
  refine r_iconst (q := 983) (v := (1 : Int32)) dL_law_982 rfl (by decide) ?_
  refine r_iadd (q := 984) dL_law_983 rfl ?_
  refine r_iaload (q := 985) dL_law_984 rfl (fun x6 => ?_)
  refine r_aload_n (q := 986) dL_law_985 rfl rfl rfl ?_
  refine r_iload (q := 988) dL_law_986 rfl rfl ?_
  refine r_iconst (q := 989) (v := (2 : Int32)) dL_law_988 rfl (by decide) ?_
  refine r_iadd (q := 990) dL_law_989 rfl ?_
  refine r_iaload (q := 991) dL_law_990 rfl (fun x7 => ?_)
  refine r_ob (fun a10 ha10 => ?_)
  obtain ⟨hea10, hka10⟩ := o_at_eq ha10
  cases hea10
  refine r_callI (q := 994) (c_X7_isTrue G h0 N _ _ _ _) (cl_V (ci := 6) rfl rfl (lw_V q2533 q2534 q2535 q176 q2536) (hd_X7_isTrue) ⟨Nat.le_of_ble_eq_true rfl, Nat.le_of_ble_eq_true rfl⟩ (List.mem_singleton.mp hka10) rfl rfl rfl (Nat.le_of_ble_eq_true rfl) dL_law_991) rfl (fun x8 σ9 => ?_)
  refine r_icmp_eq (q := 997) (t := 2043) dL_law_994 rfl (by decide) (fun _ => ?_) (fun _ => ?_)
  · exact r_le (w_L_law_b2043 G h0 N K23 hK23 _ _ _ _ _ _) (Nat.le_refl _) (And.intro rfl (And.intro rfl (And.intro rfl (And.intro rfl (And.intro rfl trivial)))))
  · refine r_iconst (q := 998) (v := (0 : Int32)) dL_law_997 rfl (by decide) ?_
    exact r_ireturnN rfl dL_law_998
theorem w_L_law_b999 (G : Gx) (h0 : G0 G) (N : Nat) (K23 : Option Nat → Option Nat → Option Nat → Option Nat → Int32 → Mem → Option (Int32 × Mem)) (hK23 : ∀ (l0 : Option Nat) (l1 : Option Nat) (l2 : Option Nat) (l3 : Option Nat) (l4 : Int32) (σ : Mem), Runs G mL_law rhoI σ 23 [some (vR l0), some (vR l1), some (vR l2), some (vR l3), some (vI l4), none, none] [] (K23 l0 l1 l2 l3 l4 σ)) (l0 : Option Nat) (l1 : Option Nat) (l2 : Option Nat) (l3 : Option Nat) (l4 : Int32) (σ : Mem) : Runs G mL_law rhoI σ 999 [some (vR l0), some (vR l1), some (vR l2), some (vR l3), some (vI l4), none, none] [] (f_L_law_b999 N K23 l0 l1 l2 l3 l4 σ) := by
  unfold f_L_law_b999
  refine r_aload_n (q := 1000) dL_law_999 rfl rfl rfl ?_
  refine r_ob (fun a3 ha3 => ?_)
  obtain ⟨hea3, hka3⟩ := o_at_eq ha3
  cases hea3
  refine r_callI (q := 1003) (c_X1_fits G h0 N _ _) (cl_V (ci := 0) rfl rfl (lw_V q1572 q1573 q1574 q167 q1575) (hd_X1_fits) ⟨Nat.le_of_ble_eq_true rfl, Nat.le_of_ble_eq_true rfl⟩ (List.mem_singleton.mp hka3) rfl rfl rfl (Nat.le_of_ble_eq_true rfl) dL_law_1000) rfl (fun x1 σ2 => ?_)
  refine r_aload_n (q := 1004) dL_law_1003 rfl rfl rfl ?_
  refine r_ob (fun a6 ha6 => ?_)
  obtain ⟨hea6, hka6⟩ := o_at_eq ha6
  cases hea6
  refine r_callI (q := 1007) (c_X7_fits G h0 N _ _) (cl_V (ci := 6) rfl rfl (lw_V q2541 q2542 q2543 q176 q2544) (hd_X7_fits) ⟨Nat.le_of_ble_eq_true rfl, Nat.le_of_ble_eq_true rfl⟩ (List.mem_singleton.mp hka6) rfl rfl rfl (Nat.le_of_ble_eq_true rfl) dL_law_1004) rfl (fun x4 σ5 => ?_)
  refine r_icmp_eq (q := 1010) (t := 2043) dL_law_1007 rfl (by decide) (fun _ => ?_) (fun _ => ?_)
  · exact r_le (w_L_law_b2043 G h0 N K23 hK23 _ _ _ _ _ _) (Nat.le_refl _) (And.intro rfl (And.intro rfl (And.intro rfl (And.intro rfl (And.intro rfl trivial)))))
  · refine r_iconst (q := 1011) (v := (0 : Int32)) dL_law_1010 rfl (by decide) ?_
    exact r_ireturnN rfl dL_law_1011
theorem w_L_law_b1012 (G : Gx) (h0 : G0 G) (N : Nat) (K23 : Option Nat → Option Nat → Option Nat → Option Nat → Int32 → Mem → Option (Int32 × Mem)) (hK23 : ∀ (l0 : Option Nat) (l1 : Option Nat) (l2 : Option Nat) (l3 : Option Nat) (l4 : Int32) (σ : Mem), Runs G mL_law rhoI σ 23 [some (vR l0), some (vR l1), some (vR l2), some (vR l3), some (vI l4), none, none] [] (K23 l0 l1 l2 l3 l4 σ)) (l0 : Option Nat) (l1 : Option Nat) (l2 : Option Nat) (l3 : Option Nat) (l4 : Int32) (σ : Mem) : Runs G mL_law rhoI σ 1012 [some (vR l0), some (vR l1), some (vR l2), some (vR l3), some (vI l4), none, none] [] (f_L_law_b1012 N K23 l0 l1 l2 l3 l4 σ) := by
  unfold f_L_law_b1012
  refine r_aload_n (q := 1013) dL_law_1012 rfl rfl rfl ?_
  refine r_aload_n (q := 1014) dL_law_1013 rfl rfl rfl ?_
  refine r_iload (q := 1016) dL_law_1014 rfl rfl ?_
  refine r_iconst (q := 1017) (v := (1 : Int32)) dL_law_1016 rfl (by decide) ?_
  refine r_iadd (q := 1018) dL_law_1017 rfl ?_
  refine r_iaload (q := 1019) dL_law_1018 rfl (fun x1 => ?_)
  refine r_ob (fun a4 ha4 => ?_)
  obtain ⟨hea4, hka4⟩ := o_at_eq ha4
  cases hea4
  refine r_callI (q := 1022) (c_X1_fit G h0 N _ _ _) (cl_V (ci := 0) rfl rfl (lw_V q1598 q1599 q1600 q167 q1601) (hd_X1_fit) ⟨Nat.le_of_ble_eq_true rfl, Nat.le_of_ble_eq_true rfl⟩ (List.mem_singleton.mp hka4) rfl rfl rfl (Nat.le_of_ble_eq_true rfl) dL_law_1019) rfl (fun x2 σ3 => ?_)
  refine r_aload_n (q := 1023) dL_law_1022 rfl rfl rfl ?_
  refine r_aload_n (q := 1024) dL_law_1023 rfl rfl rfl ?_
  refine r_iload (q := 1026) dL_law_1024 rfl rfl ?_
  refine r_iconst (q := 1027) (v := (1 : Int32)) dL_law_1026 rfl (by decide) ?_
  refine r_iadd (q := 1028) dL_law_1027 rfl ?_
  refine r_iaload (q := 1029) dL_law_1028 rfl (fun x5 => ?_)
  refine r_ob (fun a8 ha8 => ?_)
  obtain ⟨hea8, hka8⟩ := o_at_eq ha8
  cases hea8
  refine r_callI (q := 1032) (c_X7_fit G h0 N _ _ _) (cl_V (ci := 6) rfl rfl (lw_V q2561 q2562 q2563 q176 q2564) (hd_X7_fit) ⟨Nat.le_of_ble_eq_true rfl, Nat.le_of_ble_eq_true rfl⟩ (List.mem_singleton.mp hka8) rfl rfl rfl (Nat.le_of_ble_eq_true rfl) dL_law_1029) rfl (fun x6 σ7 => ?_)
  refine r_icmp_eq (q := 1035) (t := 2043) dL_law_1032 rfl (by decide) (fun _ => ?_) (fun _ => ?_)
  · exact r_le (w_L_law_b2043 G h0 N K23 hK23 _ _ _ _ _ _) (Nat.le_refl _) (And.intro rfl (And.intro rfl (And.intro rfl (And.intro rfl (And.intro rfl trivial)))))
  · refine r_iconst (q := 1036) (v := (0 : Int32)) dL_law_1035 rfl (by decide) ?_
    exact r_ireturnN rfl dL_law_1036
theorem w_L_law_b1037 (G : Gx) (h0 : G0 G) (N : Nat) (K23 : Option Nat → Option Nat → Option Nat → Option Nat → Int32 → Mem → Option (Int32 × Mem)) (hK23 : ∀ (l0 : Option Nat) (l1 : Option Nat) (l2 : Option Nat) (l3 : Option Nat) (l4 : Int32) (σ : Mem), Runs G mL_law rhoI σ 23 [some (vR l0), some (vR l1), some (vR l2), some (vR l3), some (vI l4), none, none] [] (K23 l0 l1 l2 l3 l4 σ)) (l0 : Option Nat) (l1 : Option Nat) (l2 : Option Nat) (l3 : Option Nat) (l4 : Int32) (σ : Mem) : Runs G mL_law rhoI σ 1037 [some (vR l0), some (vR l1), some (vR l2), some (vR l3), some (vI l4), none, none] [] (f_L_law_b1037 N K23 l0 l1 l2 l3 l4 σ) := by
  unfold f_L_law_b1037
  refine r_aload_n (q := 1038) dL_law_1037 rfl rfl rfl ?_
  refine r_aload_n (q := 1039) dL_law_1038 rfl rfl rfl ?_
  refine r_iload (q := 1041) dL_law_1039 rfl rfl ?_
  refine r_iconst (q := 1042) (v := (1 : Int32)) dL_law_1041 rfl (by decide) ?_
  refine r_iadd (q := 1043) dL_law_1042 rfl ?_
  refine r_iaload (q := 1044) dL_law_1043 rfl (fun x1 => ?_)
  refine r_aload_n (q := 1045) dL_law_1044 rfl rfl rfl ?_
  refine r_iload (q := 1047) dL_law_1045 rfl rfl ?_
  refine r_iconst (q := 1048) (v := (2 : Int32)) dL_law_1047 rfl (by decide) ?_
  refine r_iadd (q := 1049) dL_law_1048 rfl ?_
  refine r_iaload (q := 1050) dL_law_1049 rfl (fun x2 => ?_)
  refine r_ob (fun a5 ha5 => ?_)
  obtain ⟨hea5, hka5⟩ := o_at_eq ha5
  cases hea5
  refine r_callI (q := 1053) (c_X1_could G h0 N _ _ _ _) (cl_V (ci := 0) rfl rfl (lw_V q1602 q1603 q1604 q167 q1605) (hd_X1_could) ⟨Nat.le_of_ble_eq_true rfl, Nat.le_of_ble_eq_true rfl⟩ (List.mem_singleton.mp hka5) rfl rfl rfl (Nat.le_of_ble_eq_true rfl) dL_law_1050) rfl (fun x3 σ4 => ?_)
  refine r_aload_n (q := 1054) dL_law_1053 rfl rfl rfl ?_
  refine r_aload_n (q := 1055) dL_law_1054 rfl rfl rfl ?_
  refine r_iload (q := 1057) dL_law_1055 rfl rfl ?_
  refine r_iconst (q := 1058) (v := (1 : Int32)) dL_law_1057 rfl (by decide) ?_
  refine r_iadd (q := 1059) dL_law_1058 rfl ?_
  refine r_iaload (q := 1060) dL_law_1059 rfl (fun x6 => ?_)
  refine r_aload_n (q := 1061) dL_law_1060 rfl rfl rfl ?_
  refine r_iload (q := 1063) dL_law_1061 rfl rfl ?_
  refine r_iconst (q := 1064) (v := (2 : Int32)) dL_law_1063 rfl (by decide) ?_
  refine r_iadd (q := 1065) dL_law_1064 rfl ?_
  refine r_iaload (q := 1066) dL_law_1065 rfl (fun x7 => ?_)
  refine r_ob (fun a10 ha10 => ?_)
  obtain ⟨hea10, hka10⟩ := o_at_eq ha10
  cases hea10
  refine r_callI (q := 1069) (c_X7_could G h0 N _ _ _ _) (cl_V (ci := 6) rfl rfl (lw_V q2565 q2566 q2567 q176 q2568) (hd_X7_could) ⟨Nat.le_of_ble_eq_true rfl, Nat.le_of_ble_eq_true rfl⟩ (List.mem_singleton.mp hka10) rfl rfl rfl (Nat.le_of_ble_eq_true rfl) dL_law_1066) rfl (fun x8 σ9 => ?_)
  refine r_icmp_eq (q := 1072) (t := 2043) dL_law_1069 rfl (by decide) (fun _ => ?_) (fun _ => ?_)
  · exact r_le (w_L_law_b2043 G h0 N K23 hK23 _ _ _ _ _ _) (Nat.le_refl _) (And.intro rfl (And.intro rfl (And.intro rfl (And.intro rfl (And.intro rfl trivial)))))
  · refine r_iconst (q := 1073) (v := (0 : Int32)) dL_law_1072 rfl (by decide) ?_
    exact r_ireturnN rfl dL_law_1073
theorem w_L_law_b1074 (G : Gx) (h0 : G0 G) (N : Nat) (K23 : Option Nat → Option Nat → Option Nat → Option Nat → Int32 → Mem → Option (Int32 × Mem)) (hK23 : ∀ (l0 : Option Nat) (l1 : Option Nat) (l2 : Option Nat) (l3 : Option Nat) (l4 : Int32) (σ : Mem), Runs G mL_law rhoI σ 23 [some (vR l0), some (vR l1), some (vR l2), some (vR l3), some (vI l4), none, none] [] (K23 l0 l1 l2 l3 l4 σ)) (l0 : Option Nat) (l1 : Option Nat) (l2 : Option Nat) (l3 : Option Nat) (l4 : Int32) (σ : Mem) : Runs G mL_law rhoI σ 1074 [some (vR l0), some (vR l1), some (vR l2), some (vR l3), some (vI l4), none, none] [] (f_L_law_b1074 N K23 l0 l1 l2 l3 l4 σ) := by
  unfold f_L_law_b1074
  refine r_aload_n (q := 1075) dL_law_1074 rfl rfl rfl ?_
  refine r_aload_n (q := 1076) dL_law_1075 rfl rfl rfl ?_
  refine r_iload (q := 1078) dL_law_1076 rfl rfl ?_
  refine r_iconst (q := 1079) (v := (1 : Int32)) dL_law_1078 rfl (by decide) ?_
  refine r_iadd (q := 1080) dL_law_1079 rfl ?_
  refine r_iaload (q := 1081) dL_law_1080 rfl (fun x1 => ?_)
  refine r_aload_n (q := 1082) dL_law_1081 rfl rfl rfl ?_
  refine r_iload (q := 1084) dL_law_1082 rfl rfl ?_
  refine r_iconst (q := 1085) (v := (2 : Int32)) dL_law_1084 rfl (by decide) ?_
  refine r_iadd (q := 1086) dL_law_1085 rfl ?_
  refine r_iaload (q := 1087) dL_law_1086 rfl (fun x2 => ?_)
  refine r_ob (fun a5 ha5 => ?_)
  obtain ⟨hea5, hka5⟩ := o_at_eq ha5
  cases hea5
  refine r_callI (q := 1090) (c_X1_surely G h0 N _ _ _ _) (cl_V (ci := 0) rfl rfl (lw_V q1614 q1615 q1616 q167 q1617) (hd_X1_surely) ⟨Nat.le_of_ble_eq_true rfl, Nat.le_of_ble_eq_true rfl⟩ (List.mem_singleton.mp hka5) rfl rfl rfl (Nat.le_of_ble_eq_true rfl) dL_law_1087) rfl (fun x3 σ4 => ?_)
  refine r_aload_n (q := 1091) dL_law_1090 rfl rfl rfl ?_
  refine r_aload_n (q := 1092) dL_law_1091 rfl rfl rfl ?_
  refine r_iload (q := 1094) dL_law_1092 rfl rfl ?_
  refine r_iconst (q := 1095) (v := (1 : Int32)) dL_law_1094 rfl (by decide) ?_
  refine r_iadd (q := 1096) dL_law_1095 rfl ?_
  refine r_iaload (q := 1097) dL_law_1096 rfl (fun x6 => ?_)
  refine r_aload_n (q := 1098) dL_law_1097 rfl rfl rfl ?_
  refine r_iload (q := 1100) dL_law_1098 rfl rfl ?_
  refine r_iconst (q := 1101) (v := (2 : Int32)) dL_law_1100 rfl (by decide) ?_
  refine r_iadd (q := 1102) dL_law_1101 rfl ?_
  refine r_iaload (q := 1103) dL_law_1102 rfl (fun x7 => ?_)
  refine r_ob (fun a10 ha10 => ?_)
  obtain ⟨hea10, hka10⟩ := o_at_eq ha10
  cases hea10
  refine r_callI (q := 1106) (c_X7_surely G h0 N _ _ _ _) (cl_V (ci := 6) rfl rfl (lw_V q2577 q2578 q2579 q176 q2580) (hd_X7_surely) ⟨Nat.le_of_ble_eq_true rfl, Nat.le_of_ble_eq_true rfl⟩ (List.mem_singleton.mp hka10) rfl rfl rfl (Nat.le_of_ble_eq_true rfl) dL_law_1103) rfl (fun x8 σ9 => ?_)
  refine r_icmp_eq (q := 1109) (t := 2043) dL_law_1106 rfl (by decide) (fun _ => ?_) (fun _ => ?_)
  · exact r_le (w_L_law_b2043 G h0 N K23 hK23 _ _ _ _ _ _) (Nat.le_refl _) (And.intro rfl (And.intro rfl (And.intro rfl (And.intro rfl (And.intro rfl trivial)))))
  · refine r_iconst (q := 1110) (v := (0 : Int32)) dL_law_1109 rfl (by decide) ?_
    exact r_ireturnN rfl dL_law_1110
theorem w_L_law_b1111 (G : Gx) (h0 : G0 G) (N : Nat) (K23 : Option Nat → Option Nat → Option Nat → Option Nat → Int32 → Mem → Option (Int32 × Mem)) (hK23 : ∀ (l0 : Option Nat) (l1 : Option Nat) (l2 : Option Nat) (l3 : Option Nat) (l4 : Int32) (σ : Mem), Runs G mL_law rhoI σ 23 [some (vR l0), some (vR l1), some (vR l2), some (vR l3), some (vI l4), none, none] [] (K23 l0 l1 l2 l3 l4 σ)) (l0 : Option Nat) (l1 : Option Nat) (l2 : Option Nat) (l3 : Option Nat) (l4 : Int32) (σ : Mem) : Runs G mL_law rhoI σ 1111 [some (vR l0), some (vR l1), some (vR l2), some (vR l3), some (vI l4), none, none] [] (f_L_law_b1111 N K23 l0 l1 l2 l3 l4 σ) := by
  unfold f_L_law_b1111
  refine r_aload_n (q := 1112) dL_law_1111 rfl rfl rfl ?_
  refine r_aload_n (q := 1113) dL_law_1112 rfl rfl rfl ?_
  refine r_iload (q := 1115) dL_law_1113 rfl rfl ?_
  refine r_iconst (q := 1116) (v := (1 : Int32)) dL_law_1115 rfl (by decide) ?_
  refine r_iadd (q := 1117) dL_law_1116 rfl ?_
  refine r_iaload (q := 1118) dL_law_1117 rfl (fun x1 => ?_)
  refine r_ob (fun a4 ha4 => ?_)
  obtain ⟨hea4, hka4⟩ := o_at_eq ha4
  cases hea4
  refine r_callI (q := 1121) (c_X1_lies G h0 N _ _ _) (cl_V (ci := 0) rfl rfl (lw_V q1618 q1619 q1620 q167 q1621) (hd_X1_lies) ⟨Nat.le_of_ble_eq_true rfl, Nat.le_of_ble_eq_true rfl⟩ (List.mem_singleton.mp hka4) rfl rfl rfl (Nat.le_of_ble_eq_true rfl) dL_law_1118) rfl (fun x2 σ3 => ?_)
  refine r_aload_n (q := 1122) dL_law_1121 rfl rfl rfl ?_
  refine r_aload_n (q := 1123) dL_law_1122 rfl rfl rfl ?_
  refine r_iload (q := 1125) dL_law_1123 rfl rfl ?_
  refine r_iconst (q := 1126) (v := (1 : Int32)) dL_law_1125 rfl (by decide) ?_
  refine r_iadd (q := 1127) dL_law_1126 rfl ?_
  refine r_iaload (q := 1128) dL_law_1127 rfl (fun x5 => ?_)
  refine r_ob (fun a8 ha8 => ?_)
  obtain ⟨hea8, hka8⟩ := o_at_eq ha8
  cases hea8
  refine r_callI (q := 1131) (c_X7_lies G h0 N _ _ _) (cl_V (ci := 6) rfl rfl (lw_V q2581 q2582 q2583 q176 q2584) (hd_X7_lies) ⟨Nat.le_of_ble_eq_true rfl, Nat.le_of_ble_eq_true rfl⟩ (List.mem_singleton.mp hka8) rfl rfl rfl (Nat.le_of_ble_eq_true rfl) dL_law_1128) rfl (fun x6 σ7 => ?_)
  refine r_icmp_eq (q := 1134) (t := 2043) dL_law_1131 rfl (by decide) (fun _ => ?_) (fun _ => ?_)
  · exact r_le (w_L_law_b2043 G h0 N K23 hK23 _ _ _ _ _ _) (Nat.le_refl _) (And.intro rfl (And.intro rfl (And.intro rfl (And.intro rfl (And.intro rfl trivial)))))
  · refine r_iconst (q := 1135) (v := (0 : Int32)) dL_law_1134 rfl (by decide) ?_
    exact r_ireturnN rfl dL_law_1135
theorem w_L_law_b1136 (G : Gx) (h0 : G0 G) (N : Nat) (K23 : Option Nat → Option Nat → Option Nat → Option Nat → Int32 → Mem → Option (Int32 × Mem)) (hK23 : ∀ (l0 : Option Nat) (l1 : Option Nat) (l2 : Option Nat) (l3 : Option Nat) (l4 : Int32) (σ : Mem), Runs G mL_law rhoI σ 23 [some (vR l0), some (vR l1), some (vR l2), some (vR l3), some (vI l4), none, none] [] (K23 l0 l1 l2 l3 l4 σ)) (l0 : Option Nat) (l1 : Option Nat) (l2 : Option Nat) (l3 : Option Nat) (l4 : Int32) (σ : Mem) : Runs G mL_law rhoI σ 1136 [some (vR l0), some (vR l1), some (vR l2), some (vR l3), some (vI l4), none, none] [] (f_L_law_b1136 N K23 l0 l1 l2 l3 l4 σ) := by
  unfold f_L_law_b1136
  refine r_aload_n (q := 1137) dL_law_1136 rfl rfl rfl ?_
  refine r_ob (fun a3 ha3 => ?_)
  obtain ⟨hea3, hka3⟩ := o_at_eq ha3
  cases hea3
  refine r_callI (q := 1140) (c_X1_falseOnes G h0 N _ _) (cl_V (ci := 0) rfl rfl (lw_V q1622 q1623 q1624 q167 q1625) (hd_X1_falseOnes) ⟨Nat.le_of_ble_eq_true rfl, Nat.le_of_ble_eq_true rfl⟩ (List.mem_singleton.mp hka3) rfl rfl rfl (Nat.le_of_ble_eq_true rfl) dL_law_1137) rfl (fun x1 σ2 => ?_)
  refine r_aload_n (q := 1141) dL_law_1140 rfl rfl rfl ?_
  refine r_ob (fun a6 ha6 => ?_)
  obtain ⟨hea6, hka6⟩ := o_at_eq ha6
  cases hea6
  refine r_callI (q := 1144) (c_X7_falseOnes G h0 N _ _) (cl_V (ci := 6) rfl rfl (lw_V q2585 q2586 q2587 q176 q2588) (hd_X7_falseOnes) ⟨Nat.le_of_ble_eq_true rfl, Nat.le_of_ble_eq_true rfl⟩ (List.mem_singleton.mp hka6) rfl rfl rfl (Nat.le_of_ble_eq_true rfl) dL_law_1141) rfl (fun x4 σ5 => ?_)
  refine r_icmp_eq (q := 1147) (t := 2043) dL_law_1144 rfl (by decide) (fun _ => ?_) (fun _ => ?_)
  · exact r_le (w_L_law_b2043 G h0 N K23 hK23 _ _ _ _ _ _) (Nat.le_refl _) (And.intro rfl (And.intro rfl (And.intro rfl (And.intro rfl (And.intro rfl trivial)))))
  · refine r_iconst (q := 1148) (v := (0 : Int32)) dL_law_1147 rfl (by decide) ?_
    exact r_ireturnN rfl dL_law_1148
theorem w_L_law_b1149 (G : Gx) (h0 : G0 G) (N : Nat) (K23 : Option Nat → Option Nat → Option Nat → Option Nat → Int32 → Mem → Option (Int32 × Mem)) (hK23 : ∀ (l0 : Option Nat) (l1 : Option Nat) (l2 : Option Nat) (l3 : Option Nat) (l4 : Int32) (σ : Mem), Runs G mL_law rhoI σ 23 [some (vR l0), some (vR l1), some (vR l2), some (vR l3), some (vI l4), none, none] [] (K23 l0 l1 l2 l3 l4 σ)) (l0 : Option Nat) (l1 : Option Nat) (l2 : Option Nat) (l3 : Option Nat) (l4 : Int32) (σ : Mem) : Runs G mL_law rhoI σ 1149 [some (vR l0), some (vR l1), some (vR l2), some (vR l3), some (vI l4), none, none] [] (f_L_law_b1149 N K23 l0 l1 l2 l3 l4 σ) := by
  unfold f_L_law_b1149
  refine r_aload_n (q := 1150) dL_law_1149 rfl rfl rfl ?_
  refine r_aload_n (q := 1151) dL_law_1150 rfl rfl rfl ?_
  refine r_iload (q := 1153) dL_law_1151 rfl rfl ?_
  refine r_iconst (q := 1154) (v := (1 : Int32)) dL_law_1153 rfl (by decide) ?_
  refine r_iadd (q := 1155) dL_law_1154 rfl ?_
  refine r_iaload (q := 1156) dL_law_1155 rfl (fun x1 => ?_)
  refine r_ob (fun a4 ha4 => ?_)
  obtain ⟨hea4, hka4⟩ := o_at_eq ha4
  cases hea4
  refine r_callI (q := 1159) (c_X1_odds G h0 N _ _ _) (cl_V (ci := 0) rfl rfl (lw_V q1632 q1633 q1634 q167 q1635) (hd_X1_odds) ⟨Nat.le_of_ble_eq_true rfl, Nat.le_of_ble_eq_true rfl⟩ (List.mem_singleton.mp hka4) rfl rfl rfl (Nat.le_of_ble_eq_true rfl) dL_law_1156) rfl (fun x2 σ3 => ?_)
  refine r_aload_n (q := 1160) dL_law_1159 rfl rfl rfl ?_
  refine r_aload_n (q := 1161) dL_law_1160 rfl rfl rfl ?_
  refine r_iload (q := 1163) dL_law_1161 rfl rfl ?_
  refine r_iconst (q := 1164) (v := (1 : Int32)) dL_law_1163 rfl (by decide) ?_
  refine r_iadd (q := 1165) dL_law_1164 rfl ?_
  refine r_iaload (q := 1166) dL_law_1165 rfl (fun x5 => ?_)
  refine r_ob (fun a8 ha8 => ?_)
  obtain ⟨hea8, hka8⟩ := o_at_eq ha8
  cases hea8
  refine r_callI (q := 1169) (c_X7_odds G h0 N _ _ _) (cl_V (ci := 6) rfl rfl (lw_V q2593 q2594 q2595 q176 q2596) (hd_X7_odds) ⟨Nat.le_of_ble_eq_true rfl, Nat.le_of_ble_eq_true rfl⟩ (List.mem_singleton.mp hka8) rfl rfl rfl (Nat.le_of_ble_eq_true rfl) dL_law_1166) rfl (fun x6 σ7 => ?_)
  refine r_icmp_eq (q := 1172) (t := 2043) dL_law_1169 rfl (by decide) (fun _ => ?_) (fun _ => ?_)
  · exact r_le (w_L_law_b2043 G h0 N K23 hK23 _ _ _ _ _ _) (Nat.le_refl _) (And.intro rfl (And.intro rfl (And.intro rfl (And.intro rfl (And.intro rfl trivial)))))
  · refine r_iconst (q := 1173) (v := (0 : Int32)) dL_law_1172 rfl (by decide) ?_
    exact r_ireturnN rfl dL_law_1173
theorem w_L_law_b1174 (G : Gx) (h0 : G0 G) (N : Nat) (K23 : Option Nat → Option Nat → Option Nat → Option Nat → Int32 → Mem → Option (Int32 × Mem)) (hK23 : ∀ (l0 : Option Nat) (l1 : Option Nat) (l2 : Option Nat) (l3 : Option Nat) (l4 : Int32) (σ : Mem), Runs G mL_law rhoI σ 23 [some (vR l0), some (vR l1), some (vR l2), some (vR l3), some (vI l4), none, none] [] (K23 l0 l1 l2 l3 l4 σ)) (l0 : Option Nat) (l1 : Option Nat) (l2 : Option Nat) (l3 : Option Nat) (l4 : Int32) (σ : Mem) : Runs G mL_law rhoI σ 1174 [some (vR l0), some (vR l1), some (vR l2), some (vR l3), some (vI l4), none, none] [] (f_L_law_b1174 N K23 l0 l1 l2 l3 l4 σ) := by
  unfold f_L_law_b1174
  refine r_aload_n (q := 1175) dL_law_1174 rfl rfl rfl ?_
  refine r_ob (fun a3 ha3 => ?_)
  obtain ⟨hea3, hka3⟩ := o_at_eq ha3
  cases hea3
  refine r_callI (q := 1178) (c_X1_likeliest G h0 N _ _) (cl_V (ci := 0) rfl rfl (lw_V q1640 q1641 q1642 q167 q1643) (hd_X1_likeliest) ⟨Nat.le_of_ble_eq_true rfl, Nat.le_of_ble_eq_true rfl⟩ (List.mem_singleton.mp hka3) rfl rfl rfl (Nat.le_of_ble_eq_true rfl) dL_law_1175) rfl (fun x1 σ2 => ?_)
  refine r_aload_n (q := 1179) dL_law_1178 rfl rfl rfl ?_
  refine r_ob (fun a6 ha6 => ?_)
  obtain ⟨hea6, hka6⟩ := o_at_eq ha6
  cases hea6
  refine r_callI (q := 1182) (c_X7_likeliest G h0 N _ _) (cl_V (ci := 6) rfl rfl (lw_V q2601 q2602 q2603 q176 q2604) (hd_X7_likeliest) ⟨Nat.le_of_ble_eq_true rfl, Nat.le_of_ble_eq_true rfl⟩ (List.mem_singleton.mp hka6) rfl rfl rfl (Nat.le_of_ble_eq_true rfl) dL_law_1179) rfl (fun x4 σ5 => ?_)
  refine r_icmp_eq (q := 1185) (t := 2043) dL_law_1182 rfl (by decide) (fun _ => ?_) (fun _ => ?_)
  · exact r_le (w_L_law_b2043 G h0 N K23 hK23 _ _ _ _ _ _) (Nat.le_refl _) (And.intro rfl (And.intro rfl (And.intro rfl (And.intro rfl (And.intro rfl trivial)))))
  · refine r_iconst (q := 1186) (v := (0 : Int32)) dL_law_1185 rfl (by decide) ?_
    exact r_ireturnN rfl dL_law_1186
theorem w_L_law_b1187 (G : Gx) (h0 : G0 G) (N : Nat) (K23 : Option Nat → Option Nat → Option Nat → Option Nat → Int32 → Mem → Option (Int32 × Mem)) (hK23 : ∀ (l0 : Option Nat) (l1 : Option Nat) (l2 : Option Nat) (l3 : Option Nat) (l4 : Int32) (σ : Mem), Runs G mL_law rhoI σ 23 [some (vR l0), some (vR l1), some (vR l2), some (vR l3), some (vI l4), none, none] [] (K23 l0 l1 l2 l3 l4 σ)) (l0 : Option Nat) (l1 : Option Nat) (l2 : Option Nat) (l3 : Option Nat) (l4 : Int32) (σ : Mem) : Runs G mL_law rhoI σ 1187 [some (vR l0), some (vR l1), some (vR l2), some (vR l3), some (vI l4), none, none] [] (f_L_law_b1187 N K23 l0 l1 l2 l3 l4 σ) := by
  unfold f_L_law_b1187
  refine r_aload_n (q := 1188) dL_law_1187 rfl rfl rfl ?_
  refine r_aload_n (q := 1189) dL_law_1188 rfl rfl rfl ?_
  refine r_iload (q := 1191) dL_law_1189 rfl rfl ?_
  refine r_iconst (q := 1192) (v := (1 : Int32)) dL_law_1191 rfl (by decide) ?_
  refine r_iadd (q := 1193) dL_law_1192 rfl ?_
  refine r_iaload (q := 1194) dL_law_1193 rfl (fun x1 => ?_)
  refine r_aload_n (q := 1195) dL_law_1194 rfl rfl rfl ?_
  refine r_iload (q := 1197) dL_law_1195 rfl rfl ?_
  refine r_iconst (q := 1198) (v := (2 : Int32)) dL_law_1197 rfl (by decide) ?_
  refine r_iadd (q := 1199) dL_law_1198 rfl ?_
  refine r_iaload (q := 1200) dL_law_1199 rfl (fun x2 => ?_)
  refine r_aload_n (q := 1201) dL_law_1200 rfl rfl rfl ?_
  refine r_iload (q := 1203) dL_law_1201 rfl rfl ?_
  refine r_iconst (q := 1204) (v := (3 : Int32)) dL_law_1203 rfl (by decide) ?_
  refine r_iadd (q := 1205) dL_law_1204 rfl ?_
  refine r_iaload (q := 1206) dL_law_1205 rfl (fun x3 => ?_)
  refine r_ob (fun a6 ha6 => ?_)
  obtain ⟨hea6, hka6⟩ := o_at_eq ha6
  cases hea6
  refine r_callI (q := 1209) (c_X1_proved G h0 N _ _ _ _ _) (cl_V (ci := 0) rfl rfl (lw_V q1644 q1645 q1646 q167 q1647) (hd_X1_proved) ⟨Nat.le_of_ble_eq_true rfl, Nat.le_of_ble_eq_true rfl⟩ (List.mem_singleton.mp hka6) rfl rfl rfl (Nat.le_of_ble_eq_true rfl) dL_law_1206) rfl (fun x4 σ5 => ?_)
  refine r_aload_n (q := 1210) dL_law_1209 rfl rfl rfl ?_
  refine r_aload_n (q := 1211) dL_law_1210 rfl rfl rfl ?_
  refine r_iload (q := 1213) dL_law_1211 rfl rfl ?_
  refine r_iconst (q := 1214) (v := (1 : Int32)) dL_law_1213 rfl (by decide) ?_
  refine r_iadd (q := 1215) dL_law_1214 rfl ?_
  refine r_iaload (q := 1216) dL_law_1215 rfl (fun x7 => ?_)
  refine r_aload_n (q := 1217) dL_law_1216 rfl rfl rfl ?_
  refine r_iload (q := 1219) dL_law_1217 rfl rfl ?_
  refine r_iconst (q := 1220) (v := (2 : Int32)) dL_law_1219 rfl (by decide) ?_
  refine r_iadd (q := 1221) dL_law_1220 rfl ?_
  refine r_iaload (q := 1222) dL_law_1221 rfl (fun x8 => ?_)
  refine r_aload_n (q := 1223) dL_law_1222 rfl rfl rfl ?_
  refine r_iload (q := 1225) dL_law_1223 rfl rfl ?_
  refine r_iconst (q := 1226) (v := (3 : Int32)) dL_law_1225 rfl (by decide) ?_
  refine r_iadd (q := 1227) dL_law_1226 rfl ?_
  refine r_iaload (q := 1228) dL_law_1227 rfl (fun x9 => ?_)
  refine r_ob (fun a12 ha12 => ?_)
  obtain ⟨hea12, hka12⟩ := o_at_eq ha12
  cases hea12
  refine r_callI (q := 1231) (c_X7_proved G h0 N _ _ _ _ _) (cl_V (ci := 6) rfl rfl (lw_V q2605 q2606 q2607 q176 q2608) (hd_X7_proved) ⟨Nat.le_of_ble_eq_true rfl, Nat.le_of_ble_eq_true rfl⟩ (List.mem_singleton.mp hka12) rfl rfl rfl (Nat.le_of_ble_eq_true rfl) dL_law_1228) rfl (fun x10 σ11 => ?_)
  refine r_icmp_eq (q := 1234) (t := 2043) dL_law_1231 rfl (by decide) (fun _ => ?_) (fun _ => ?_)
  · exact r_le (w_L_law_b2043 G h0 N K23 hK23 _ _ _ _ _ _) (Nat.le_refl _) (And.intro rfl (And.intro rfl (And.intro rfl (And.intro rfl (And.intro rfl trivial)))))
  · refine r_iconst (q := 1235) (v := (0 : Int32)) dL_law_1234 rfl (by decide) ?_
    exact r_ireturnN rfl dL_law_1235
theorem w_L_law_b1236 (G : Gx) (h0 : G0 G) (N : Nat) (K23 : Option Nat → Option Nat → Option Nat → Option Nat → Int32 → Mem → Option (Int32 × Mem)) (hK23 : ∀ (l0 : Option Nat) (l1 : Option Nat) (l2 : Option Nat) (l3 : Option Nat) (l4 : Int32) (σ : Mem), Runs G mL_law rhoI σ 23 [some (vR l0), some (vR l1), some (vR l2), some (vR l3), some (vI l4), none, none] [] (K23 l0 l1 l2 l3 l4 σ)) (l0 : Option Nat) (l1 : Option Nat) (l2 : Option Nat) (l3 : Option Nat) (l4 : Int32) (σ : Mem) : Runs G mL_law rhoI σ 1236 [some (vR l0), some (vR l1), some (vR l2), some (vR l3), some (vI l4), none, none] [] (f_L_law_b1236 N K23 l0 l1 l2 l3 l4 σ) := by
  unfold f_L_law_b1236
  refine r_aload_n (q := 1237) dL_law_1236 rfl rfl rfl ?_
  refine r_ob (fun a3 ha3 => ?_)
  obtain ⟨hea3, hka3⟩ := o_at_eq ha3
  cases hea3
  refine r_callI (q := 1240) (c_X1_ask G h0 N _ _) (cl_V (ci := 0) rfl rfl (lw_V q1648 q1649 q1650 q167 q1651) (hd_X1_ask) ⟨Nat.le_of_ble_eq_true rfl, Nat.le_of_ble_eq_true rfl⟩ (List.mem_singleton.mp hka3) rfl rfl rfl (Nat.le_of_ble_eq_true rfl) dL_law_1237) rfl (fun x1 σ2 => ?_)
  refine r_aload_n (q := 1241) dL_law_1240 rfl rfl rfl ?_
  refine r_ob (fun a6 ha6 => ?_)
  obtain ⟨hea6, hka6⟩ := o_at_eq ha6
  cases hea6
  refine r_callI (q := 1244) (c_X7_ask G h0 N _ _) (cl_V (ci := 6) rfl rfl (lw_V q2609 q2610 q2611 q176 q2612) (hd_X7_ask) ⟨Nat.le_of_ble_eq_true rfl, Nat.le_of_ble_eq_true rfl⟩ (List.mem_singleton.mp hka6) rfl rfl rfl (Nat.le_of_ble_eq_true rfl) dL_law_1241) rfl (fun x4 σ5 => ?_)
  refine r_icmp_eq (q := 1247) (t := 2043) dL_law_1244 rfl (by decide) (fun _ => ?_) (fun _ => ?_)
  · exact r_le (w_L_law_b2043 G h0 N K23 hK23 _ _ _ _ _ _) (Nat.le_refl _) (And.intro rfl (And.intro rfl (And.intro rfl (And.intro rfl (And.intro rfl trivial)))))
  · refine r_iconst (q := 1248) (v := (0 : Int32)) dL_law_1247 rfl (by decide) ?_
    exact r_ireturnN rfl dL_law_1248
theorem w_L_law_b1249 (G : Gx) (h0 : G0 G) (N : Nat) (K23 : Option Nat → Option Nat → Option Nat → Option Nat → Int32 → Mem → Option (Int32 × Mem)) (hK23 : ∀ (l0 : Option Nat) (l1 : Option Nat) (l2 : Option Nat) (l3 : Option Nat) (l4 : Int32) (σ : Mem), Runs G mL_law rhoI σ 23 [some (vR l0), some (vR l1), some (vR l2), some (vR l3), some (vI l4), none, none] [] (K23 l0 l1 l2 l3 l4 σ)) (l0 : Option Nat) (l1 : Option Nat) (l2 : Option Nat) (l3 : Option Nat) (l4 : Int32) (σ : Mem) : Runs G mL_law rhoI σ 1249 [some (vR l0), some (vR l1), some (vR l2), some (vR l3), some (vI l4), none, none] [] (f_L_law_b1249 N K23 l0 l1 l2 l3 l4 σ) := by
  unfold f_L_law_b1249
  refine r_aload_n (q := 1250) dL_law_1249 rfl rfl rfl ?_
  refine r_ob (fun a3 ha3 => ?_)
  obtain ⟨hea3, hka3⟩ := o_at_eq ha3
  cases hea3
  refine r_callI (q := 1253) (c_X1_askMost G h0 N _ _) (cl_V (ci := 0) rfl rfl (lw_V q1661 q1662 q1663 q167 q1664) (hd_X1_askMost) ⟨Nat.le_of_ble_eq_true rfl, Nat.le_of_ble_eq_true rfl⟩ (List.mem_singleton.mp hka3) rfl rfl rfl (Nat.le_of_ble_eq_true rfl) dL_law_1250) rfl (fun x1 σ2 => ?_)
  refine r_aload_n (q := 1254) dL_law_1253 rfl rfl rfl ?_
  refine r_ob (fun a6 ha6 => ?_)
  obtain ⟨hea6, hka6⟩ := o_at_eq ha6
  cases hea6
  refine r_callI (q := 1257) (c_X7_askMost G h0 N _ _) (cl_V (ci := 6) rfl rfl (lw_V q2617 q2618 q2619 q176 q2620) (hd_X7_askMost) ⟨Nat.le_of_ble_eq_true rfl, Nat.le_of_ble_eq_true rfl⟩ (List.mem_singleton.mp hka6) rfl rfl rfl (Nat.le_of_ble_eq_true rfl) dL_law_1254) rfl (fun x4 σ5 => ?_)
  refine r_icmp_eq (q := 1260) (t := 2043) dL_law_1257 rfl (by decide) (fun _ => ?_) (fun _ => ?_)
  · exact r_le (w_L_law_b2043 G h0 N K23 hK23 _ _ _ _ _ _) (Nat.le_refl _) (And.intro rfl (And.intro rfl (And.intro rfl (And.intro rfl (And.intro rfl trivial)))))
  · refine r_iconst (q := 1261) (v := (0 : Int32)) dL_law_1260 rfl (by decide) ?_
    exact r_ireturnN rfl dL_law_1261
theorem w_L_law_b1262 (G : Gx) (h0 : G0 G) (N : Nat) (K23 : Option Nat → Option Nat → Option Nat → Option Nat → Int32 → Mem → Option (Int32 × Mem)) (hK23 : ∀ (l0 : Option Nat) (l1 : Option Nat) (l2 : Option Nat) (l3 : Option Nat) (l4 : Int32) (σ : Mem), Runs G mL_law rhoI σ 23 [some (vR l0), some (vR l1), some (vR l2), some (vR l3), some (vI l4), none, none] [] (K23 l0 l1 l2 l3 l4 σ)) (l0 : Option Nat) (l1 : Option Nat) (l2 : Option Nat) (l3 : Option Nat) (l4 : Int32) (σ : Mem) : Runs G mL_law rhoI σ 1262 [some (vR l0), some (vR l1), some (vR l2), some (vR l3), some (vI l4), none, none] [] (f_L_law_b1262 N K23 l0 l1 l2 l3 l4 σ) := by
  unfold f_L_law_b1262
  refine r_aload_n (q := 1263) dL_law_1262 rfl rfl rfl ?_
  refine r_aload_n (q := 1264) dL_law_1263 rfl rfl rfl ?_
  refine r_iload (q := 1266) dL_law_1264 rfl rfl ?_
  refine r_iconst (q := 1267) (v := (1 : Int32)) dL_law_1266 rfl (by decide) ?_
  refine r_iadd (q := 1268) dL_law_1267 rfl ?_
  refine r_iaload (q := 1269) dL_law_1268 rfl (fun x1 => ?_)
  refine r_aload_n (q := 1270) dL_law_1269 rfl rfl rfl ?_
  refine r_iload (q := 1272) dL_law_1270 rfl rfl ?_
  refine r_iconst (q := 1273) (v := (2 : Int32)) dL_law_1272 rfl (by decide) ?_
  refine r_iadd (q := 1274) dL_law_1273 rfl ?_
  refine r_iaload (q := 1275) dL_law_1274 rfl (fun x2 => ?_)
  refine r_aload_n (q := 1276) dL_law_1275 rfl rfl rfl ?_
  refine r_iload (q := 1278) dL_law_1276 rfl rfl ?_
  refine r_iconst (q := 1279) (v := (3 : Int32)) dL_law_1278 rfl (by decide) ?_
  refine r_iadd (q := 1280) dL_law_1279 rfl ?_
  refine r_iaload (q := 1281) dL_law_1280 rfl (fun x3 => ?_)
  refine r_aload_n (q := 1282) dL_law_1281 rfl rfl rfl ?_
  refine r_iload (q := 1284) dL_law_1282 rfl rfl ?_
  refine r_iconst (q := 1285) (v := (4 : Int32)) dL_law_1284 rfl (by decide) ?_
  refine r_iadd (q := 1286) dL_law_1285 rfl ?_
  refine r_iaload (q := 1287) dL_law_1286 rfl (fun x4 => ?_)
  refine r_ob (fun a7 ha7 => ?_)
  obtain ⟨hea7, hka7⟩ := o_at_eq ha7
  cases hea7
  refine r_callI (q := 1290) (c_X1_led G h0 N _ _ _ _ _ _) (cl_V (ci := 0) rfl rfl (lw_V q1665 q1666 q1667 q167 q1668) (hd_X1_led) ⟨Nat.le_of_ble_eq_true rfl, Nat.le_of_ble_eq_true rfl⟩ (List.mem_singleton.mp hka7) rfl rfl rfl (Nat.le_of_ble_eq_true rfl) dL_law_1287) rfl (fun x5 σ6 => ?_)
  refine r_aload_n (q := 1291) dL_law_1290 rfl rfl rfl ?_
  refine r_aload_n (q := 1292) dL_law_1291 rfl rfl rfl ?_
  refine r_iload (q := 1294) dL_law_1292 rfl rfl ?_
  refine r_iconst (q := 1295) (v := (1 : Int32)) dL_law_1294 rfl (by decide) ?_
  refine r_iadd (q := 1296) dL_law_1295 rfl ?_
  refine r_iaload (q := 1297) dL_law_1296 rfl (fun x8 => ?_)
  refine r_aload_n (q := 1298) dL_law_1297 rfl rfl rfl ?_
  refine r_iload (q := 1300) dL_law_1298 rfl rfl ?_
  refine r_iconst (q := 1301) (v := (2 : Int32)) dL_law_1300 rfl (by decide) ?_
  refine r_iadd (q := 1302) dL_law_1301 rfl ?_
  refine r_iaload (q := 1303) dL_law_1302 rfl (fun x9 => ?_)
  refine r_aload_n (q := 1304) dL_law_1303 rfl rfl rfl ?_
  refine r_iload (q := 1306) dL_law_1304 rfl rfl ?_
  refine r_iconst (q := 1307) (v := (3 : Int32)) dL_law_1306 rfl (by decide) ?_
  refine r_iadd (q := 1308) dL_law_1307 rfl ?_
  refine r_iaload (q := 1309) dL_law_1308 rfl (fun x10 => ?_)
  refine r_aload_n (q := 1310) dL_law_1309 rfl rfl rfl ?_
  refine r_iload (q := 1312) dL_law_1310 rfl rfl ?_
  refine r_iconst (q := 1313) (v := (4 : Int32)) dL_law_1312 rfl (by decide) ?_
  refine r_iadd (q := 1314) dL_law_1313 rfl ?_
  refine r_iaload (q := 1315) dL_law_1314 rfl (fun x11 => ?_)
  refine r_ob (fun a14 ha14 => ?_)
  obtain ⟨hea14, hka14⟩ := o_at_eq ha14
  cases hea14
  refine r_callI (q := 1318) (c_X7_led G h0 N _ _ _ _ _ _) (cl_V (ci := 6) rfl rfl (lw_V q2621 q2622 q2623 q176 q2624) (hd_X7_led) ⟨Nat.le_of_ble_eq_true rfl, Nat.le_of_ble_eq_true rfl⟩ (List.mem_singleton.mp hka14) rfl rfl rfl (Nat.le_of_ble_eq_true rfl) dL_law_1315) rfl (fun x12 σ13 => ?_)
  refine r_icmp_eq (q := 1321) (t := 2043) dL_law_1318 rfl (by decide) (fun _ => ?_) (fun _ => ?_)
  · exact r_le (w_L_law_b2043 G h0 N K23 hK23 _ _ _ _ _ _) (Nat.le_refl _) (And.intro rfl (And.intro rfl (And.intro rfl (And.intro rfl (And.intro rfl trivial)))))
  · refine r_iconst (q := 1322) (v := (0 : Int32)) dL_law_1321 rfl (by decide) ?_
    exact r_ireturnN rfl dL_law_1322
theorem w_L_law_b1323 (G : Gx) (h0 : G0 G) (N : Nat) (K23 : Option Nat → Option Nat → Option Nat → Option Nat → Int32 → Mem → Option (Int32 × Mem)) (hK23 : ∀ (l0 : Option Nat) (l1 : Option Nat) (l2 : Option Nat) (l3 : Option Nat) (l4 : Int32) (σ : Mem), Runs G mL_law rhoI σ 23 [some (vR l0), some (vR l1), some (vR l2), some (vR l3), some (vI l4), none, none] [] (K23 l0 l1 l2 l3 l4 σ)) (l0 : Option Nat) (l1 : Option Nat) (l2 : Option Nat) (l3 : Option Nat) (l4 : Int32) (σ : Mem) : Runs G mL_law rhoI σ 1323 [some (vR l0), some (vR l1), some (vR l2), some (vR l3), some (vI l4), none, none] [] (f_L_law_b1323 N K23 l0 l1 l2 l3 l4 σ) := by
  unfold f_L_law_b1323
  refine r_aload_n (q := 1324) dL_law_1323 rfl rfl rfl ?_
  refine r_aload_n (q := 1325) dL_law_1324 rfl rfl rfl ?_
  refine r_iload (q := 1327) dL_law_1325 rfl rfl ?_
  refine r_iconst (q := 1328) (v := (1 : Int32)) dL_law_1327 rfl (by decide) ?_
  refine r_iadd (q := 1329) dL_law_1328 rfl ?_
  refine r_iaload (q := 1330) dL_law_1329 rfl (fun x1 => ?_)
  refine r_aload_n (q := 1331) dL_law_1330 rfl rfl rfl ?_
  refine r_iload (q := 1333) dL_law_1331 rfl rfl ?_
  refine r_iconst (q := 1334) (v := (2 : Int32)) dL_law_1333 rfl (by decide) ?_
  refine r_iadd (q := 1335) dL_law_1334 rfl ?_
  refine r_iaload (q := 1336) dL_law_1335 rfl (fun x2 => ?_)
  refine r_aload_n (q := 1337) dL_law_1336 rfl rfl rfl ?_
  refine r_iload (q := 1339) dL_law_1337 rfl rfl ?_
  refine r_iconst (q := 1340) (v := (3 : Int32)) dL_law_1339 rfl (by decide) ?_
  refine r_iadd (q := 1341) dL_law_1340 rfl ?_
  refine r_iaload (q := 1342) dL_law_1341 rfl (fun x3 => ?_)
  refine r_aload_n (q := 1343) dL_law_1342 rfl rfl rfl ?_
  refine r_iload (q := 1345) dL_law_1343 rfl rfl ?_
  refine r_iconst (q := 1346) (v := (4 : Int32)) dL_law_1345 rfl (by decide) ?_
  refine r_iadd (q := 1347) dL_law_1346 rfl ?_
  refine r_iaload (q := 1348) dL_law_1347 rfl (fun x4 => ?_)
  refine r_aload_n (q := 1349) dL_law_1348 rfl rfl rfl ?_
  refine r_iload (q := 1351) dL_law_1349 rfl rfl ?_
  refine r_iconst (q := 1352) (v := (5 : Int32)) dL_law_1351 rfl (by decide) ?_
  refine r_iadd (q := 1353) dL_law_1352 rfl ?_
  refine r_iaload (q := 1354) dL_law_1353 rfl (fun x5 => ?_)
  refine r_ob (fun a8 ha8 => ?_)
  obtain ⟨hea8, hka8⟩ := o_at_eq ha8
  cases hea8
  refine r_callI (q := 1357) (c_X1_ledAt G h0 N _ _ _ _ _ _ _) (cl_V (ci := 0) rfl rfl (lw_V q1694 q1695 q1696 q167 q1697) (hd_X1_ledAt) ⟨Nat.le_of_ble_eq_true rfl, Nat.le_of_ble_eq_true rfl⟩ (List.mem_singleton.mp hka8) rfl rfl rfl (Nat.le_of_ble_eq_true rfl) dL_law_1354) rfl (fun x6 σ7 => ?_)
  refine r_aload_n (q := 1358) dL_law_1357 rfl rfl rfl ?_
  refine r_aload_n (q := 1359) dL_law_1358 rfl rfl rfl ?_
  refine r_iload (q := 1361) dL_law_1359 rfl rfl ?_
  refine r_iconst (q := 1362) (v := (1 : Int32)) dL_law_1361 rfl (by decide) ?_
  refine r_iadd (q := 1363) dL_law_1362 rfl ?_
  refine r_iaload (q := 1364) dL_law_1363 rfl (fun x9 => ?_)
  refine r_aload_n (q := 1365) dL_law_1364 rfl rfl rfl ?_
  refine r_iload (q := 1367) dL_law_1365 rfl rfl ?_
  refine r_iconst (q := 1368) (v := (2 : Int32)) dL_law_1367 rfl (by decide) ?_
  refine r_iadd (q := 1369) dL_law_1368 rfl ?_
  refine r_iaload (q := 1370) dL_law_1369 rfl (fun x10 => ?_)
  refine r_aload_n (q := 1371) dL_law_1370 rfl rfl rfl ?_
  refine r_iload (q := 1373) dL_law_1371 rfl rfl ?_
  refine r_iconst (q := 1374) (v := (3 : Int32)) dL_law_1373 rfl (by decide) ?_
  refine r_iadd (q := 1375) dL_law_1374 rfl ?_
  refine r_iaload (q := 1376) dL_law_1375 rfl (fun x11 => ?_)
  refine r_aload_n (q := 1377) dL_law_1376 rfl rfl rfl ?_
  refine r_iload (q := 1379) dL_law_1377 rfl rfl ?_
  refine r_iconst (q := 1380) (v := (4 : Int32)) dL_law_1379 rfl (by decide) ?_
  refine r_iadd (q := 1381) dL_law_1380 rfl ?_
  refine r_iaload (q := 1382) dL_law_1381 rfl (fun x12 => ?_)
  refine r_aload_n (q := 1383) dL_law_1382 rfl rfl rfl ?_
  refine r_iload (q := 1385) dL_law_1383 rfl rfl ?_
  refine r_iconst (q := 1386) (v := (5 : Int32)) dL_law_1385 rfl (by decide) ?_
  refine r_iadd (q := 1387) dL_law_1386 rfl ?_
  refine r_iaload (q := 1388) dL_law_1387 rfl (fun x13 => ?_)
  refine r_ob (fun a16 ha16 => ?_)
  obtain ⟨hea16, hka16⟩ := o_at_eq ha16
  cases hea16
  refine r_callI (q := 1391) (c_X7_ledAt G h0 N _ _ _ _ _ _ _) (cl_V (ci := 6) rfl rfl (lw_V q2645 q2646 q2647 q176 q2648) (hd_X7_ledAt) ⟨Nat.le_of_ble_eq_true rfl, Nat.le_of_ble_eq_true rfl⟩ (List.mem_singleton.mp hka16) rfl rfl rfl (Nat.le_of_ble_eq_true rfl) dL_law_1388) rfl (fun x14 σ15 => ?_)
  refine r_icmp_eq (q := 1394) (t := 2043) dL_law_1391 rfl (by decide) (fun _ => ?_) (fun _ => ?_)
  · exact r_le (w_L_law_b2043 G h0 N K23 hK23 _ _ _ _ _ _) (Nat.le_refl _) (And.intro rfl (And.intro rfl (And.intro rfl (And.intro rfl (And.intro rfl trivial)))))
  · refine r_iconst (q := 1395) (v := (0 : Int32)) dL_law_1394 rfl (by decide) ?_
    exact r_ireturnN rfl dL_law_1395
theorem w_L_law_b1396 (G : Gx) (h0 : G0 G) (N : Nat) (K23 : Option Nat → Option Nat → Option Nat → Option Nat → Int32 → Mem → Option (Int32 × Mem)) (hK23 : ∀ (l0 : Option Nat) (l1 : Option Nat) (l2 : Option Nat) (l3 : Option Nat) (l4 : Int32) (σ : Mem), Runs G mL_law rhoI σ 23 [some (vR l0), some (vR l1), some (vR l2), some (vR l3), some (vI l4), none, none] [] (K23 l0 l1 l2 l3 l4 σ)) (l0 : Option Nat) (l1 : Option Nat) (l2 : Option Nat) (l3 : Option Nat) (l4 : Int32) (σ : Mem) : Runs G mL_law rhoI σ 1396 [some (vR l0), some (vR l1), some (vR l2), some (vR l3), some (vI l4), none, none] [] (f_L_law_b1396 N K23 l0 l1 l2 l3 l4 σ) := by
  unfold f_L_law_b1396
  refine r_aload_n (q := 1397) dL_law_1396 rfl rfl rfl ?_
  refine r_aload_n (q := 1398) dL_law_1397 rfl rfl rfl ?_
  refine r_iload (q := 1400) dL_law_1398 rfl rfl ?_
  refine r_iconst (q := 1401) (v := (1 : Int32)) dL_law_1400 rfl (by decide) ?_
  refine r_iadd (q := 1402) dL_law_1401 rfl ?_
  refine r_iaload (q := 1403) dL_law_1402 rfl (fun x1 => ?_)
  refine r_aload_n (q := 1404) dL_law_1403 rfl rfl rfl ?_
  refine r_iload (q := 1406) dL_law_1404 rfl rfl ?_
  refine r_iconst (q := 1407) (v := (2 : Int32)) dL_law_1406 rfl (by decide) ?_
  refine r_iadd (q := 1408) dL_law_1407 rfl ?_
  refine r_iaload (q := 1409) dL_law_1408 rfl (fun x2 => ?_)
  refine r_aload_n (q := 1410) dL_law_1409 rfl rfl rfl ?_
  refine r_iload (q := 1412) dL_law_1410 rfl rfl ?_
  refine r_iconst (q := 1413) (v := (3 : Int32)) dL_law_1412 rfl (by decide) ?_
  refine r_iadd (q := 1414) dL_law_1413 rfl ?_
  refine r_iaload (q := 1415) dL_law_1414 rfl (fun x3 => ?_)
  refine r_aload_n (q := 1416) dL_law_1415 rfl rfl rfl ?_
  refine r_iload (q := 1418) dL_law_1416 rfl rfl ?_
  refine r_iconst (q := 1419) (v := (4 : Int32)) dL_law_1418 rfl (by decide) ?_
  refine r_iadd (q := 1420) dL_law_1419 rfl ?_
  refine r_iaload (q := 1421) dL_law_1420 rfl (fun x4 => ?_)
  refine r_ob (fun a7 ha7 => ?_)
  obtain ⟨hea7, hka7⟩ := o_at_eq ha7
  cases hea7
  refine r_callI (q := 1424) (c_X1_scared G h0 N _ _ _ _ _ _) (cl_V (ci := 0) rfl rfl (lw_V q1698 q1699 q1700 q167 q1701) (hd_X1_scared) ⟨Nat.le_of_ble_eq_true rfl, Nat.le_of_ble_eq_true rfl⟩ (List.mem_singleton.mp hka7) rfl rfl rfl (Nat.le_of_ble_eq_true rfl) dL_law_1421) rfl (fun x5 σ6 => ?_)
  refine r_aload_n (q := 1425) dL_law_1424 rfl rfl rfl ?_
  refine r_aload_n (q := 1426) dL_law_1425 rfl rfl rfl ?_
  refine r_iload (q := 1428) dL_law_1426 rfl rfl ?_
  refine r_iconst (q := 1429) (v := (1 : Int32)) dL_law_1428 rfl (by decide) ?_
  refine r_iadd (q := 1430) dL_law_1429 rfl ?_
  refine r_iaload (q := 1431) dL_law_1430 rfl (fun x8 => ?_)
  refine r_aload_n (q := 1432) dL_law_1431 rfl rfl rfl ?_
  refine r_iload (q := 1434) dL_law_1432 rfl rfl ?_
  refine r_iconst (q := 1435) (v := (2 : Int32)) dL_law_1434 rfl (by decide) ?_
  refine r_iadd (q := 1436) dL_law_1435 rfl ?_
  refine r_iaload (q := 1437) dL_law_1436 rfl (fun x9 => ?_)
  refine r_aload_n (q := 1438) dL_law_1437 rfl rfl rfl ?_
  refine r_iload (q := 1440) dL_law_1438 rfl rfl ?_
  refine r_iconst (q := 1441) (v := (3 : Int32)) dL_law_1440 rfl (by decide) ?_
  refine r_iadd (q := 1442) dL_law_1441 rfl ?_
  refine r_iaload (q := 1443) dL_law_1442 rfl (fun x10 => ?_)
  refine r_aload_n (q := 1444) dL_law_1443 rfl rfl rfl ?_
  refine r_iload (q := 1446) dL_law_1444 rfl rfl ?_
  refine r_iconst (q := 1447) (v := (4 : Int32)) dL_law_1446 rfl (by decide) ?_
  refine r_iadd (q := 1448) dL_law_1447 rfl ?_
  refine r_iaload (q := 1449) dL_law_1448 rfl (fun x11 => ?_)
  refine r_ob (fun a14 ha14 => ?_)
  obtain ⟨hea14, hka14⟩ := o_at_eq ha14
  cases hea14
  refine r_callI (q := 1452) (c_X7_scared G h0 N _ _ _ _ _ _) (cl_V (ci := 6) rfl rfl (lw_V q2649 q2650 q2651 q176 q2652) (hd_X7_scared) ⟨Nat.le_of_ble_eq_true rfl, Nat.le_of_ble_eq_true rfl⟩ (List.mem_singleton.mp hka14) rfl rfl rfl (Nat.le_of_ble_eq_true rfl) dL_law_1449) rfl (fun x12 σ13 => ?_)
  refine r_icmp_eq (q := 1455) (t := 2043) dL_law_1452 rfl (by decide) (fun _ => ?_) (fun _ => ?_)
  · exact r_le (w_L_law_b2043 G h0 N K23 hK23 _ _ _ _ _ _) (Nat.le_refl _) (And.intro rfl (And.intro rfl (And.intro rfl (And.intro rfl (And.intro rfl trivial)))))
  · refine r_iconst (q := 1456) (v := (0 : Int32)) dL_law_1455 rfl (by decide) ?_
    exact r_ireturnN rfl dL_law_1456
theorem w_L_law_b1457 (G : Gx) (h0 : G0 G) (N : Nat) (K23 : Option Nat → Option Nat → Option Nat → Option Nat → Int32 → Mem → Option (Int32 × Mem)) (hK23 : ∀ (l0 : Option Nat) (l1 : Option Nat) (l2 : Option Nat) (l3 : Option Nat) (l4 : Int32) (σ : Mem), Runs G mL_law rhoI σ 23 [some (vR l0), some (vR l1), some (vR l2), some (vR l3), some (vI l4), none, none] [] (K23 l0 l1 l2 l3 l4 σ)) (l0 : Option Nat) (l1 : Option Nat) (l2 : Option Nat) (l3 : Option Nat) (l4 : Int32) (σ : Mem) : Runs G mL_law rhoI σ 1457 [some (vR l0), some (vR l1), some (vR l2), some (vR l3), some (vI l4), none, none] [] (f_L_law_b1457 N K23 l0 l1 l2 l3 l4 σ) := by
  unfold f_L_law_b1457
  refine r_aload_n (q := 1458) dL_law_1457 rfl rfl rfl ?_
  refine r_aload_n (q := 1459) dL_law_1458 rfl rfl rfl ?_
  refine r_iload (q := 1461) dL_law_1459 rfl rfl ?_
  refine r_iconst (q := 1462) (v := (1 : Int32)) dL_law_1461 rfl (by decide) ?_
  refine r_iadd (q := 1463) dL_law_1462 rfl ?_
  refine r_iaload (q := 1464) dL_law_1463 rfl (fun x1 => ?_)
  refine r_ob (fun a4 ha4 => ?_)
  obtain ⟨hea4, hka4⟩ := o_at_eq ha4
  cases hea4
  refine r_callI (q := 1467) (c_X1_follows G h0 N _ _ _) (cl_V (ci := 0) rfl rfl (lw_V q1702 q1703 q1704 q167 q1705) (hd_X1_follows) ⟨Nat.le_of_ble_eq_true rfl, Nat.le_of_ble_eq_true rfl⟩ (List.mem_singleton.mp hka4) rfl rfl rfl (Nat.le_of_ble_eq_true rfl) dL_law_1464) rfl (fun x2 σ3 => ?_)
  refine r_aload_n (q := 1468) dL_law_1467 rfl rfl rfl ?_
  refine r_aload_n (q := 1469) dL_law_1468 rfl rfl rfl ?_
  refine r_iload (q := 1471) dL_law_1469 rfl rfl ?_
  refine r_iconst (q := 1472) (v := (1 : Int32)) dL_law_1471 rfl (by decide) ?_
  refine r_iadd (q := 1473) dL_law_1472 rfl ?_
  refine r_iaload (q := 1474) dL_law_1473 rfl (fun x5 => ?_)
  refine r_ob (fun a8 ha8 => ?_)
  obtain ⟨hea8, hka8⟩ := o_at_eq ha8
  cases hea8
  refine r_callI (q := 1477) (c_X7_follows G h0 N _ _ _) (cl_V (ci := 6) rfl rfl (lw_V q2653 q2654 q2655 q176 q2656) (hd_X7_follows) ⟨Nat.le_of_ble_eq_true rfl, Nat.le_of_ble_eq_true rfl⟩ (List.mem_singleton.mp hka8) rfl rfl rfl (Nat.le_of_ble_eq_true rfl) dL_law_1474) rfl (fun x6 σ7 => ?_)
  refine r_icmp_eq (q := 1480) (t := 2043) dL_law_1477 rfl (by decide) (fun _ => ?_) (fun _ => ?_)
  · exact r_le (w_L_law_b2043 G h0 N K23 hK23 _ _ _ _ _ _) (Nat.le_refl _) (And.intro rfl (And.intro rfl (And.intro rfl (And.intro rfl (And.intro rfl trivial)))))
  · refine r_iconst (q := 1481) (v := (0 : Int32)) dL_law_1480 rfl (by decide) ?_
    exact r_ireturnN rfl dL_law_1481
theorem w_L_law_b1482 (G : Gx) (h0 : G0 G) (N : Nat) (K23 : Option Nat → Option Nat → Option Nat → Option Nat → Int32 → Mem → Option (Int32 × Mem)) (hK23 : ∀ (l0 : Option Nat) (l1 : Option Nat) (l2 : Option Nat) (l3 : Option Nat) (l4 : Int32) (σ : Mem), Runs G mL_law rhoI σ 23 [some (vR l0), some (vR l1), some (vR l2), some (vR l3), some (vI l4), none, none] [] (K23 l0 l1 l2 l3 l4 σ)) (l0 : Option Nat) (l1 : Option Nat) (l2 : Option Nat) (l3 : Option Nat) (l4 : Int32) (σ : Mem) : Runs G mL_law rhoI σ 1482 [some (vR l0), some (vR l1), some (vR l2), some (vR l3), some (vI l4), none, none] [] (f_L_law_b1482 N K23 l0 l1 l2 l3 l4 σ) := by
  unfold f_L_law_b1482
  refine r_aload_n (q := 1483) dL_law_1482 rfl rfl rfl ?_
  refine r_ob (fun a3 ha3 => ?_)
  obtain ⟨hea3, hka3⟩ := o_at_eq ha3
  cases hea3
  refine r_callI (q := 1486) (c_X1_step G h0 N _ _) (cl_V (ci := 0) rfl rfl (lw_V q1731 q1732 q1733 q167 q1734) (hd_X1_step) ⟨Nat.le_of_ble_eq_true rfl, Nat.le_of_ble_eq_true rfl⟩ (List.mem_singleton.mp hka3) rfl rfl rfl (Nat.le_of_ble_eq_true rfl) dL_law_1483) rfl (fun x1 σ2 => ?_)
  refine r_aload_n (q := 1487) dL_law_1486 rfl rfl rfl ?_
  refine r_ob (fun a6 ha6 => ?_)
  obtain ⟨hea6, hka6⟩ := o_at_eq ha6
  cases hea6
  refine r_callI (q := 1490) (c_X7_step G h0 N _ _) (cl_V (ci := 6) rfl rfl (lw_V q2669 q2670 q2671 q176 q2672) (hd_X7_step) ⟨Nat.le_of_ble_eq_true rfl, Nat.le_of_ble_eq_true rfl⟩ (List.mem_singleton.mp hka6) rfl rfl rfl (Nat.le_of_ble_eq_true rfl) dL_law_1487) rfl (fun x4 σ5 => ?_)
  refine r_icmp_eq (q := 1493) (t := 2043) dL_law_1490 rfl (by decide) (fun _ => ?_) (fun _ => ?_)
  · exact r_le (w_L_law_b2043 G h0 N K23 hK23 _ _ _ _ _ _) (Nat.le_refl _) (And.intro rfl (And.intro rfl (And.intro rfl (And.intro rfl (And.intro rfl trivial)))))
  · refine r_iconst (q := 1494) (v := (0 : Int32)) dL_law_1493 rfl (by decide) ?_
    exact r_ireturnN rfl dL_law_1494
theorem w_L_law_b1495 (G : Gx) (h0 : G0 G) (N : Nat) (K23 : Option Nat → Option Nat → Option Nat → Option Nat → Int32 → Mem → Option (Int32 × Mem)) (hK23 : ∀ (l0 : Option Nat) (l1 : Option Nat) (l2 : Option Nat) (l3 : Option Nat) (l4 : Int32) (σ : Mem), Runs G mL_law rhoI σ 23 [some (vR l0), some (vR l1), some (vR l2), some (vR l3), some (vI l4), none, none] [] (K23 l0 l1 l2 l3 l4 σ)) (l0 : Option Nat) (l1 : Option Nat) (l2 : Option Nat) (l3 : Option Nat) (l4 : Int32) (σ : Mem) : Runs G mL_law rhoI σ 1495 [some (vR l0), some (vR l1), some (vR l2), some (vR l3), some (vI l4), none, none] [] (f_L_law_b1495 N K23 l0 l1 l2 l3 l4 σ) := by
  unfold f_L_law_b1495
  refine r_aload_n (q := 1496) dL_law_1495 rfl rfl rfl ?_
  refine r_aload_n (q := 1497) dL_law_1496 rfl rfl rfl ?_
  refine r_iload (q := 1499) dL_law_1497 rfl rfl ?_
  refine r_iconst (q := 1500) (v := (1 : Int32)) dL_law_1499 rfl (by decide) ?_
  refine r_iadd (q := 1501) dL_law_1500 rfl ?_
  refine r_iaload (q := 1502) dL_law_1501 rfl (fun x1 => ?_)
  refine r_ob (fun a4 ha4 => ?_)
  obtain ⟨hea4, hka4⟩ := o_at_eq ha4
  cases hea4
  refine r_callI (q := 1505) (c_X1_needs G h0 N _ _ _) (cl_V (ci := 0) rfl rfl (lw_V q1740 q1741 q1742 q167 q1743) (hd_X1_needs) ⟨Nat.le_of_ble_eq_true rfl, Nat.le_of_ble_eq_true rfl⟩ (List.mem_singleton.mp hka4) rfl rfl rfl (Nat.le_of_ble_eq_true rfl) dL_law_1502) rfl (fun x2 σ3 => ?_)
  refine r_aload_n (q := 1506) dL_law_1505 rfl rfl rfl ?_
  refine r_aload_n (q := 1507) dL_law_1506 rfl rfl rfl ?_
  refine r_iload (q := 1509) dL_law_1507 rfl rfl ?_
  refine r_iconst (q := 1510) (v := (1 : Int32)) dL_law_1509 rfl (by decide) ?_
  refine r_iadd (q := 1511) dL_law_1510 rfl ?_
  refine r_iaload (q := 1512) dL_law_1511 rfl (fun x5 => ?_)
  refine r_ob (fun a8 ha8 => ?_)
  obtain ⟨hea8, hka8⟩ := o_at_eq ha8
  cases hea8
  refine r_callI (q := 1515) (c_X7_needs G h0 N _ _ _) (cl_V (ci := 6) rfl rfl (lw_V q2673 q2674 q2675 q176 q2676) (hd_X7_needs) ⟨Nat.le_of_ble_eq_true rfl, Nat.le_of_ble_eq_true rfl⟩ (List.mem_singleton.mp hka8) rfl rfl rfl (Nat.le_of_ble_eq_true rfl) dL_law_1512) rfl (fun x6 σ7 => ?_)
  refine r_icmp_eq (q := 1518) (t := 2043) dL_law_1515 rfl (by decide) (fun _ => ?_) (fun _ => ?_)
  · exact r_le (w_L_law_b2043 G h0 N K23 hK23 _ _ _ _ _ _) (Nat.le_refl _) (And.intro rfl (And.intro rfl (And.intro rfl (And.intro rfl (And.intro rfl trivial)))))
  · refine r_iconst (q := 1519) (v := (0 : Int32)) dL_law_1518 rfl (by decide) ?_
    exact r_ireturnN rfl dL_law_1519
theorem w_L_law_b1520 (G : Gx) (h0 : G0 G) (N : Nat) (K23 : Option Nat → Option Nat → Option Nat → Option Nat → Int32 → Mem → Option (Int32 × Mem)) (hK23 : ∀ (l0 : Option Nat) (l1 : Option Nat) (l2 : Option Nat) (l3 : Option Nat) (l4 : Int32) (σ : Mem), Runs G mL_law rhoI σ 23 [some (vR l0), some (vR l1), some (vR l2), some (vR l3), some (vI l4), none, none] [] (K23 l0 l1 l2 l3 l4 σ)) (l0 : Option Nat) (l1 : Option Nat) (l2 : Option Nat) (l3 : Option Nat) (l4 : Int32) (σ : Mem) : Runs G mL_law rhoI σ 1520 [some (vR l0), some (vR l1), some (vR l2), some (vR l3), some (vI l4), none, none] [] (f_L_law_b1520 N K23 l0 l1 l2 l3 l4 σ) := by
  unfold f_L_law_b1520
  refine r_aload_n (q := 1521) dL_law_1520 rfl rfl rfl ?_
  refine r_aload_n (q := 1522) dL_law_1521 rfl rfl rfl ?_
  refine r_iload (q := 1524) dL_law_1522 rfl rfl ?_
  refine r_iconst (q := 1525) (v := (1 : Int32)) dL_law_1524 rfl (by decide) ?_
  refine r_iadd (q := 1526) dL_law_1525 rfl ?_
  refine r_iaload (q := 1527) dL_law_1526 rfl (fun x1 => ?_)
  refine r_ob (fun a4 ha4 => ?_)
  obtain ⟨hea4, hka4⟩ := o_at_eq ha4
  cases hea4
  refine r_callI (q := 1530) (c_X1_enough G h0 N _ _ _) (cl_V (ci := 0) rfl rfl (lw_V q1744 q1745 q1746 q167 q1747) (hd_X1_enough) ⟨Nat.le_of_ble_eq_true rfl, Nat.le_of_ble_eq_true rfl⟩ (List.mem_singleton.mp hka4) rfl rfl rfl (Nat.le_of_ble_eq_true rfl) dL_law_1527) rfl (fun x2 σ3 => ?_)
  refine r_aload_n (q := 1531) dL_law_1530 rfl rfl rfl ?_
  refine r_aload_n (q := 1532) dL_law_1531 rfl rfl rfl ?_
  refine r_iload (q := 1534) dL_law_1532 rfl rfl ?_
  refine r_iconst (q := 1535) (v := (1 : Int32)) dL_law_1534 rfl (by decide) ?_
  refine r_iadd (q := 1536) dL_law_1535 rfl ?_
  refine r_iaload (q := 1537) dL_law_1536 rfl (fun x5 => ?_)
  refine r_ob (fun a8 ha8 => ?_)
  obtain ⟨hea8, hka8⟩ := o_at_eq ha8
  cases hea8
  refine r_callI (q := 1540) (c_X7_enough G h0 N _ _ _) (cl_V (ci := 6) rfl rfl (lw_V q2677 q2678 q2679 q176 q2680) (hd_X7_enough) ⟨Nat.le_of_ble_eq_true rfl, Nat.le_of_ble_eq_true rfl⟩ (List.mem_singleton.mp hka8) rfl rfl rfl (Nat.le_of_ble_eq_true rfl) dL_law_1537) rfl (fun x6 σ7 => ?_)
  refine r_icmp_eq (q := 1543) (t := 2043) dL_law_1540 rfl (by decide) (fun _ => ?_) (fun _ => ?_)
  · exact r_le (w_L_law_b2043 G h0 N K23 hK23 _ _ _ _ _ _) (Nat.le_refl _) (And.intro rfl (And.intro rfl (And.intro rfl (And.intro rfl (And.intro rfl trivial)))))
  · refine r_iconst (q := 1544) (v := (0 : Int32)) dL_law_1543 rfl (by decide) ?_
    exact r_ireturnN rfl dL_law_1544
theorem w_L_law_b1545 (G : Gx) (h0 : G0 G) (N : Nat) (K23 : Option Nat → Option Nat → Option Nat → Option Nat → Int32 → Mem → Option (Int32 × Mem)) (hK23 : ∀ (l0 : Option Nat) (l1 : Option Nat) (l2 : Option Nat) (l3 : Option Nat) (l4 : Int32) (σ : Mem), Runs G mL_law rhoI σ 23 [some (vR l0), some (vR l1), some (vR l2), some (vR l3), some (vI l4), none, none] [] (K23 l0 l1 l2 l3 l4 σ)) (l0 : Option Nat) (l1 : Option Nat) (l2 : Option Nat) (l3 : Option Nat) (l4 : Int32) (σ : Mem) : Runs G mL_law rhoI σ 1545 [some (vR l0), some (vR l1), some (vR l2), some (vR l3), some (vI l4), none, none] [] (f_L_law_b1545 N K23 l0 l1 l2 l3 l4 σ) := by
  unfold f_L_law_b1545
  refine r_aload_n (q := 1546) dL_law_1545 rfl rfl rfl ?_
  refine r_aload_n (q := 1547) dL_law_1546 rfl rfl rfl ?_
  refine r_iload (q := 1549) dL_law_1547 rfl rfl ?_
  refine r_iconst (q := 1550) (v := (1 : Int32)) dL_law_1549 rfl (by decide) ?_
  refine r_iadd (q := 1551) dL_law_1550 rfl ?_
  refine r_iaload (q := 1552) dL_law_1551 rfl (fun x1 => ?_)
  refine r_ob (fun a4 ha4 => ?_)
  obtain ⟨hea4, hka4⟩ := o_at_eq ha4
  cases hea4
  refine r_callI (q := 1555) (c_X1_cheese G h0 N _ _ _) (cl_V (ci := 0) rfl rfl (lw_V q1748 q1749 q1750 q167 q1751) (hd_X1_cheese) ⟨Nat.le_of_ble_eq_true rfl, Nat.le_of_ble_eq_true rfl⟩ (List.mem_singleton.mp hka4) rfl rfl rfl (Nat.le_of_ble_eq_true rfl) dL_law_1552) rfl (fun x2 σ3 => ?_)
  refine r_aload_n (q := 1556) dL_law_1555 rfl rfl rfl ?_
  refine r_aload_n (q := 1557) dL_law_1556 rfl rfl rfl ?_
  refine r_iload (q := 1559) dL_law_1557 rfl rfl ?_
  refine r_iconst (q := 1560) (v := (1 : Int32)) dL_law_1559 rfl (by decide) ?_
  refine r_iadd (q := 1561) dL_law_1560 rfl ?_
  refine r_iaload (q := 1562) dL_law_1561 rfl (fun x5 => ?_)
  refine r_ob (fun a8 ha8 => ?_)
  obtain ⟨hea8, hka8⟩ := o_at_eq ha8
  cases hea8
  refine r_callI (q := 1565) (c_X7_cheese G h0 N _ _ _) (cl_V (ci := 6) rfl rfl (lw_V q2681 q2682 q2683 q176 q2684) (hd_X7_cheese) ⟨Nat.le_of_ble_eq_true rfl, Nat.le_of_ble_eq_true rfl⟩ (List.mem_singleton.mp hka8) rfl rfl rfl (Nat.le_of_ble_eq_true rfl) dL_law_1562) rfl (fun x6 σ7 => ?_)
  refine r_icmp_eq (q := 1568) (t := 2043) dL_law_1565 rfl (by decide) (fun _ => ?_) (fun _ => ?_)
  · exact r_le (w_L_law_b2043 G h0 N K23 hK23 _ _ _ _ _ _) (Nat.le_refl _) (And.intro rfl (And.intro rfl (And.intro rfl (And.intro rfl (And.intro rfl trivial)))))
  · refine r_iconst (q := 1569) (v := (0 : Int32)) dL_law_1568 rfl (by decide) ?_
    exact r_ireturnN rfl dL_law_1569
theorem w_L_law_b1570 (G : Gx) (h0 : G0 G) (N : Nat) (K23 : Option Nat → Option Nat → Option Nat → Option Nat → Int32 → Mem → Option (Int32 × Mem)) (hK23 : ∀ (l0 : Option Nat) (l1 : Option Nat) (l2 : Option Nat) (l3 : Option Nat) (l4 : Int32) (σ : Mem), Runs G mL_law rhoI σ 23 [some (vR l0), some (vR l1), some (vR l2), some (vR l3), some (vI l4), none, none] [] (K23 l0 l1 l2 l3 l4 σ)) (l0 : Option Nat) (l1 : Option Nat) (l2 : Option Nat) (l3 : Option Nat) (l4 : Int32) (σ : Mem) : Runs G mL_law rhoI σ 1570 [some (vR l0), some (vR l1), some (vR l2), some (vR l3), some (vI l4), none, none] [] (f_L_law_b1570 N K23 l0 l1 l2 l3 l4 σ) := by
  unfold f_L_law_b1570
  refine r_aload_n (q := 1571) dL_law_1570 rfl rfl rfl ?_
  refine r_aload_n (q := 1572) dL_law_1571 rfl rfl rfl ?_
  refine r_iload (q := 1574) dL_law_1572 rfl rfl ?_
  refine r_iconst (q := 1575) (v := (1 : Int32)) dL_law_1574 rfl (by decide) ?_
  refine r_iadd (q := 1576) dL_law_1575 rfl ?_
  refine r_iaload (q := 1577) dL_law_1576 rfl (fun x1 => ?_)
  refine r_ob (fun a4 ha4 => ?_)
  obtain ⟨hea4, hka4⟩ := o_at_eq ha4
  cases hea4
  refine r_callI (q := 1580) (c_X1_cheeseOf G h0 N _ _ _) (cl_V (ci := 0) rfl rfl (lw_V q1760 q1761 q1762 q167 q1763) (hd_X1_cheeseOf) ⟨Nat.le_of_ble_eq_true rfl, Nat.le_of_ble_eq_true rfl⟩ (List.mem_singleton.mp hka4) rfl rfl rfl (Nat.le_of_ble_eq_true rfl) dL_law_1577) rfl (fun x2 σ3 => ?_)
  refine r_aload_n (q := 1581) dL_law_1580 rfl rfl rfl ?_
  refine r_aload_n (q := 1582) dL_law_1581 rfl rfl rfl ?_
  refine r_iload (q := 1584) dL_law_1582 rfl rfl ?_
  refine r_iconst (q := 1585) (v := (1 : Int32)) dL_law_1584 rfl (by decide) ?_
  refine r_iadd (q := 1586) dL_law_1585 rfl ?_
  refine r_iaload (q := 1587) dL_law_1586 rfl (fun x5 => ?_)
  refine r_ob (fun a8 ha8 => ?_)
  obtain ⟨hea8, hka8⟩ := o_at_eq ha8
  cases hea8
  refine r_callI (q := 1590) (c_X7_cheeseOf G h0 N _ _ _) (cl_V (ci := 6) rfl rfl (lw_V q2693 q2694 q2695 q176 q2696) (hd_X7_cheeseOf) ⟨Nat.le_of_ble_eq_true rfl, Nat.le_of_ble_eq_true rfl⟩ (List.mem_singleton.mp hka8) rfl rfl rfl (Nat.le_of_ble_eq_true rfl) dL_law_1587) rfl (fun x6 σ7 => ?_)
  refine r_icmp_eq (q := 1593) (t := 2043) dL_law_1590 rfl (by decide) (fun _ => ?_) (fun _ => ?_)
  · exact r_le (w_L_law_b2043 G h0 N K23 hK23 _ _ _ _ _ _) (Nat.le_refl _) (And.intro rfl (And.intro rfl (And.intro rfl (And.intro rfl (And.intro rfl trivial)))))
  · refine r_iconst (q := 1594) (v := (0 : Int32)) dL_law_1593 rfl (by decide) ?_
    exact r_ireturnN rfl dL_law_1594
theorem w_L_law_b1595 (G : Gx) (h0 : G0 G) (N : Nat) (K23 : Option Nat → Option Nat → Option Nat → Option Nat → Int32 → Mem → Option (Int32 × Mem)) (hK23 : ∀ (l0 : Option Nat) (l1 : Option Nat) (l2 : Option Nat) (l3 : Option Nat) (l4 : Int32) (σ : Mem), Runs G mL_law rhoI σ 23 [some (vR l0), some (vR l1), some (vR l2), some (vR l3), some (vI l4), none, none] [] (K23 l0 l1 l2 l3 l4 σ)) (l0 : Option Nat) (l1 : Option Nat) (l2 : Option Nat) (l3 : Option Nat) (l4 : Int32) (σ : Mem) : Runs G mL_law rhoI σ 1595 [some (vR l0), some (vR l1), some (vR l2), some (vR l3), some (vI l4), none, none] [] (f_L_law_b1595 N K23 l0 l1 l2 l3 l4 σ) := by
  unfold f_L_law_b1595
  refine r_aload_n (q := 1596) dL_law_1595 rfl rfl rfl ?_
  refine r_ob (fun a3 ha3 => ?_)
  obtain ⟨hea3, hka3⟩ := o_at_eq ha3
  cases hea3
  refine r_callL (q := 1599) (c_X1_appeals G h0 N _ _) (cl_V (ci := 0) rfl rfl (lw_V q1764 q1765 q1766 q167 q1767) (hd_X1_appeals) ⟨Nat.le_of_ble_eq_true rfl, Nat.le_of_ble_eq_true rfl⟩ (List.mem_singleton.mp hka3) rfl rfl rfl (Nat.le_of_ble_eq_true rfl) dL_law_1596) rfl (fun y1 σ2 => ?_)
  refine r_aload_n (q := 1600) dL_law_1599 rfl rfl rfl ?_
  refine r_ob (fun a6 ha6 => ?_)
  obtain ⟨hea6, hka6⟩ := o_at_eq ha6
  cases hea6
  refine r_callL (q := 1603) (c_X7_appeals G h0 N _ _) (cl_V (ci := 6) rfl rfl (lw_V q2697 q2698 q2699 q176 q2700) (hd_X7_appeals) ⟨Nat.le_of_ble_eq_true rfl, Nat.le_of_ble_eq_true rfl⟩ (List.mem_singleton.mp hka6) rfl rfl rfl (Nat.le_of_ble_eq_true rfl) dL_law_1600) rfl (fun y4 σ5 => ?_)
  refine r_lcmp (q := 1604) dL_law_1603 rfl ?_
  refine r_if_eq (q := 1607) (t := 2043) dL_law_1604 rfl (by decide) (fun _ => ?_) (fun _ => ?_)
  · exact r_le (w_L_law_b2043 G h0 N K23 hK23 _ _ _ _ _ _) (Nat.le_refl _) (And.intro rfl (And.intro rfl (And.intro rfl (And.intro rfl (And.intro rfl trivial)))))
  · refine r_iconst (q := 1608) (v := (0 : Int32)) dL_law_1607 rfl (by decide) ?_
    exact r_ireturnN rfl dL_law_1608
theorem w_L_law_b1609 (G : Gx) (h0 : G0 G) (N : Nat) (K23 : Option Nat → Option Nat → Option Nat → Option Nat → Int32 → Mem → Option (Int32 × Mem)) (hK23 : ∀ (l0 : Option Nat) (l1 : Option Nat) (l2 : Option Nat) (l3 : Option Nat) (l4 : Int32) (σ : Mem), Runs G mL_law rhoI σ 23 [some (vR l0), some (vR l1), some (vR l2), some (vR l3), some (vI l4), none, none] [] (K23 l0 l1 l2 l3 l4 σ)) (l0 : Option Nat) (l1 : Option Nat) (l2 : Option Nat) (l3 : Option Nat) (l4 : Int32) (σ : Mem) : Runs G mL_law rhoI σ 1609 [some (vR l0), some (vR l1), some (vR l2), some (vR l3), some (vI l4), none, none] [] (f_L_law_b1609 N K23 l0 l1 l2 l3 l4 σ) := by
  unfold f_L_law_b1609
  refine r_aload_n (q := 1610) dL_law_1609 rfl rfl rfl ?_
  refine r_aload_n (q := 1611) dL_law_1610 rfl rfl rfl ?_
  refine r_iload (q := 1613) dL_law_1611 rfl rfl ?_
  refine r_iconst (q := 1614) (v := (1 : Int32)) dL_law_1613 rfl (by decide) ?_
  refine r_iadd (q := 1615) dL_law_1614 rfl ?_
  refine r_iaload (q := 1616) dL_law_1615 rfl (fun x1 => ?_)
  refine r_ob (fun a4 ha4 => ?_)
  obtain ⟨hea4, hka4⟩ := o_at_eq ha4
  cases hea4
  refine r_callI (q := 1619) (c_X1_appealAt G h0 N _ _ _) (cl_V (ci := 0) rfl rfl (lw_V q1784 q1785 q1786 q167 q1787) (hd_X1_appealAt) ⟨Nat.le_of_ble_eq_true rfl, Nat.le_of_ble_eq_true rfl⟩ (List.mem_singleton.mp hka4) rfl rfl rfl (Nat.le_of_ble_eq_true rfl) dL_law_1616) rfl (fun x2 σ3 => ?_)
  refine r_aload_n (q := 1620) dL_law_1619 rfl rfl rfl ?_
  refine r_aload_n (q := 1621) dL_law_1620 rfl rfl rfl ?_
  refine r_iload (q := 1623) dL_law_1621 rfl rfl ?_
  refine r_iconst (q := 1624) (v := (1 : Int32)) dL_law_1623 rfl (by decide) ?_
  refine r_iadd (q := 1625) dL_law_1624 rfl ?_
  refine r_iaload (q := 1626) dL_law_1625 rfl (fun x5 => ?_)
  refine r_ob (fun a8 ha8 => ?_)
  obtain ⟨hea8, hka8⟩ := o_at_eq ha8
  cases hea8
  refine r_callI (q := 1629) (c_X7_appealAt G h0 N _ _ _) (cl_V (ci := 6) rfl rfl (lw_V q2719 q2720 q2721 q176 q2722) (hd_X7_appealAt) ⟨Nat.le_of_ble_eq_true rfl, Nat.le_of_ble_eq_true rfl⟩ (List.mem_singleton.mp hka8) rfl rfl rfl (Nat.le_of_ble_eq_true rfl) dL_law_1626) rfl (fun x6 σ7 => ?_)
  refine r_icmp_eq (q := 1632) (t := 2043) dL_law_1629 rfl (by decide) (fun _ => ?_) (fun _ => ?_)
  · exact r_le (w_L_law_b2043 G h0 N K23 hK23 _ _ _ _ _ _) (Nat.le_refl _) (And.intro rfl (And.intro rfl (And.intro rfl (And.intro rfl (And.intro rfl trivial)))))
  · refine r_iconst (q := 1633) (v := (0 : Int32)) dL_law_1632 rfl (by decide) ?_
    exact r_ireturnN rfl dL_law_1633
theorem w_L_law_b1691 (G : Gx) (h0 : G0 G) (N : Nat) (K23 : Option Nat → Option Nat → Option Nat → Option Nat → Int32 → Mem → Option (Int32 × Mem)) (hK23 : ∀ (l0 : Option Nat) (l1 : Option Nat) (l2 : Option Nat) (l3 : Option Nat) (l4 : Int32) (σ : Mem), Runs G mL_law rhoI σ 23 [some (vR l0), some (vR l1), some (vR l2), some (vR l3), some (vI l4), none, none] [] (K23 l0 l1 l2 l3 l4 σ)) (l0 : Option Nat) (l1 : Option Nat) (l2 : Option Nat) (l3 : Option Nat) (l4 : Int32) (t0 : Int32) (t1 : Option Nat) (t2 : Int32) (t3 : Int32) (t4 : Int32) (σ : Mem) : Runs G mL_law rhoI σ 1691 [some (vR l0), some (vR l1), some (vR l2), some (vR l3), some (vI l4), none, none] [vI t4, vI t3, vI t2, vR t1, vI t0] (f_L_law_b1691 N K23 l0 l1 l2 l3 l4 t0 t1 t2 t3 t4 σ) := by
  unfold f_L_law_b1691
  refine r_ob (fun a3 ha3 => ?_)
  obtain ⟨hea3, hka3⟩ := o_at_eq ha3
  cases hea3
  refine r_callI (q := 1694) (c_X7_salt G h0 N _ _ _ _ _) (cl_V (ci := 6) rfl rfl (lw_V q2723 q2724 q2725 q176 q2726) (hd_X7_salt) ⟨Nat.le_of_ble_eq_true rfl, Nat.le_of_ble_eq_true rfl⟩ (List.mem_singleton.mp hka3) rfl rfl rfl (Nat.le_of_ble_eq_true rfl) dL_law_1691) rfl (fun x1 σ2 => ?_)
  refine r_icmp_eq (q := 1697) (t := 2043) dL_law_1694 rfl (by decide) (fun _ => ?_) (fun _ => ?_)
  · exact r_le (w_L_law_b2043 G h0 N K23 hK23 _ _ _ _ _ _) (Nat.le_refl _) (And.intro rfl (And.intro rfl (And.intro rfl (And.intro rfl (And.intro rfl trivial)))))
  · refine r_iconst (q := 1698) (v := (0 : Int32)) dL_law_1697 rfl (by decide) ?_
    exact r_ireturnN rfl dL_law_1698
theorem w_L_law_b1661 (G : Gx) (h0 : G0 G) (N : Nat) (K23 : Option Nat → Option Nat → Option Nat → Option Nat → Int32 → Mem → Option (Int32 × Mem)) (hK23 : ∀ (l0 : Option Nat) (l1 : Option Nat) (l2 : Option Nat) (l3 : Option Nat) (l4 : Int32) (σ : Mem), Runs G mL_law rhoI σ 23 [some (vR l0), some (vR l1), some (vR l2), some (vR l3), some (vI l4), none, none] [] (K23 l0 l1 l2 l3 l4 σ)) (l0 : Option Nat) (l1 : Option Nat) (l2 : Option Nat) (l3 : Option Nat) (l4 : Int32) (t0 : Option Nat) (t1 : Int32) (t2 : Int32) (t3 : Int32) (σ : Mem) : Runs G mL_law rhoI σ 1661 [some (vR l0), some (vR l1), some (vR l2), some (vR l3), some (vI l4), none, none] [vI t3, vI t2, vI t1, vR t0] (f_L_law_b1661 N K23 l0 l1 l2 l3 l4 t0 t1 t2 t3 σ) := by
  unfold f_L_law_b1661
  refine r_ob (fun a3 ha3 => ?_)
  obtain ⟨hea3, hka3⟩ := o_at_eq ha3
  cases hea3
  refine r_callI (q := 1664) (c_X1_salt G h0 N _ _ _ _ _) (cl_V (ci := 0) rfl rfl (lw_V q1792 q1793 q1794 q167 q1795) (hd_X1_salt) ⟨Nat.le_of_ble_eq_true rfl, Nat.le_of_ble_eq_true rfl⟩ (List.mem_singleton.mp hka3) rfl rfl rfl (Nat.le_of_ble_eq_true rfl) dL_law_1661) rfl (fun x1 σ2 => ?_)
  refine r_aload_n (q := 1665) dL_law_1664 rfl rfl rfl ?_
  refine r_aload_n (q := 1666) dL_law_1665 rfl rfl rfl ?_
  refine r_iload (q := 1668) dL_law_1666 rfl rfl ?_
  refine r_iconst (q := 1669) (v := (1 : Int32)) dL_law_1668 rfl (by decide) ?_
  refine r_iadd (q := 1670) dL_law_1669 rfl ?_
  refine r_iaload (q := 1671) dL_law_1670 rfl (fun x4 => ?_)
  refine r_aload_n (q := 1672) dL_law_1671 rfl rfl rfl ?_
  refine r_iload (q := 1674) dL_law_1672 rfl rfl ?_
  refine r_iconst (q := 1675) (v := (2 : Int32)) dL_law_1674 rfl (by decide) ?_
  refine r_iadd (q := 1676) dL_law_1675 rfl ?_
  refine r_iaload (q := 1677) dL_law_1676 rfl (fun x5 => ?_)
  refine r_aload_n (q := 1678) dL_law_1677 rfl rfl rfl ?_
  refine r_iload (q := 1680) dL_law_1678 rfl rfl ?_
  refine r_iconst (q := 1681) (v := (3 : Int32)) dL_law_1680 rfl (by decide) ?_
  refine r_iadd (q := 1682) dL_law_1681 rfl ?_
  refine r_iaload (q := 1683) dL_law_1682 rfl (fun x6 => ?_)
  refine r_if_eq (q := 1686) (t := 1690) dL_law_1683 rfl (by decide) (fun _ => ?_) (fun _ => ?_)
  · refine r_iconst (q := 1691) (v := (0 : Int32)) dL_law_1690 rfl (by decide) ?_
    exact r_le (w_L_law_b1691 G h0 N K23 hK23 _ _ _ _ _ _ _ _ _ _ _) (Nat.le_refl _) (And.intro rfl (And.intro rfl (And.intro rfl (And.intro rfl (And.intro rfl trivial)))))
  · refine r_iconst (q := 1687) (v := (1 : Int32)) dL_law_1686 rfl (by decide) ?_
    refine r_goto (q := 1691) dL_law_1687 (by decide) ?_
    exact r_le (w_L_law_b1691 G h0 N K23 hK23 _ _ _ _ _ _ _ _ _ _ _) (Nat.le_refl _) (And.intro rfl (And.intro rfl (And.intro rfl (And.intro rfl (And.intro rfl trivial)))))
theorem w_L_law_b1634 (G : Gx) (h0 : G0 G) (N : Nat) (K23 : Option Nat → Option Nat → Option Nat → Option Nat → Int32 → Mem → Option (Int32 × Mem)) (hK23 : ∀ (l0 : Option Nat) (l1 : Option Nat) (l2 : Option Nat) (l3 : Option Nat) (l4 : Int32) (σ : Mem), Runs G mL_law rhoI σ 23 [some (vR l0), some (vR l1), some (vR l2), some (vR l3), some (vI l4), none, none] [] (K23 l0 l1 l2 l3 l4 σ)) (l0 : Option Nat) (l1 : Option Nat) (l2 : Option Nat) (l3 : Option Nat) (l4 : Int32) (σ : Mem) : Runs G mL_law rhoI σ 1634 [some (vR l0), some (vR l1), some (vR l2), some (vR l3), some (vI l4), none, none] [] (f_L_law_b1634 N K23 l0 l1 l2 l3 l4 σ) := by
  unfold f_L_law_b1634
  refine r_aload_n (q := 1635) dL_law_1634 rfl rfl rfl ?_
  refine r_aload_n (q := 1636) dL_law_1635 rfl rfl rfl ?_
  refine r_iload (q := 1638) dL_law_1636 rfl rfl ?_
  refine r_iconst (q := 1639) (v := (1 : Int32)) dL_law_1638 rfl (by decide) ?_
  refine r_iadd (q := 1640) dL_law_1639 rfl ?_
  refine r_iaload (q := 1641) dL_law_1640 rfl (fun x1 => ?_)
  refine r_aload_n (q := 1642) dL_law_1641 rfl rfl rfl ?_
  refine r_iload (q := 1644) dL_law_1642 rfl rfl ?_
  refine r_iconst (q := 1645) (v := (2 : Int32)) dL_law_1644 rfl (by decide) ?_
  refine r_iadd (q := 1646) dL_law_1645 rfl ?_
  refine r_iaload (q := 1647) dL_law_1646 rfl (fun x2 => ?_)
  refine r_aload_n (q := 1648) dL_law_1647 rfl rfl rfl ?_
  refine r_iload (q := 1650) dL_law_1648 rfl rfl ?_
  refine r_iconst (q := 1651) (v := (3 : Int32)) dL_law_1650 rfl (by decide) ?_
  refine r_iadd (q := 1652) dL_law_1651 rfl ?_
  refine r_iaload (q := 1653) dL_law_1652 rfl (fun x3 => ?_)
  refine r_if_eq (q := 1656) (t := 1660) dL_law_1653 rfl (by decide) (fun _ => ?_) (fun _ => ?_)
  · refine r_iconst (q := 1661) (v := (0 : Int32)) dL_law_1660 rfl (by decide) ?_
    exact r_le (w_L_law_b1661 G h0 N K23 hK23 _ _ _ _ _ _ _ _ _ _) (Nat.le_refl _) (And.intro rfl (And.intro rfl (And.intro rfl (And.intro rfl (And.intro rfl trivial)))))
  · refine r_iconst (q := 1657) (v := (1 : Int32)) dL_law_1656 rfl (by decide) ?_
    refine r_goto (q := 1661) dL_law_1657 (by decide) ?_
    exact r_le (w_L_law_b1661 G h0 N K23 hK23 _ _ _ _ _ _ _ _ _ _) (Nat.le_refl _) (And.intro rfl (And.intro rfl (And.intro rfl (And.intro rfl (And.intro rfl trivial)))))
theorem w_L_law_b1756 (G : Gx) (h0 : G0 G) (N : Nat) (K23 : Option Nat → Option Nat → Option Nat → Option Nat → Int32 → Mem → Option (Int32 × Mem)) (hK23 : ∀ (l0 : Option Nat) (l1 : Option Nat) (l2 : Option Nat) (l3 : Option Nat) (l4 : Int32) (σ : Mem), Runs G mL_law rhoI σ 23 [some (vR l0), some (vR l1), some (vR l2), some (vR l3), some (vI l4), none, none] [] (K23 l0 l1 l2 l3 l4 σ)) (l0 : Option Nat) (l1 : Option Nat) (l2 : Option Nat) (l3 : Option Nat) (l4 : Int32) (t0 : Int32) (t1 : Option Nat) (t2 : Int32) (t3 : Int32) (t4 : Int32) (σ : Mem) : Runs G mL_law rhoI σ 1756 [some (vR l0), some (vR l1), some (vR l2), some (vR l3), some (vI l4), none, none] [vI t4, vI t3, vI t2, vR t1, vI t0] (f_L_law_b1756 N K23 l0 l1 l2 l3 l4 t0 t1 t2 t3 t4 σ) := by
  unfold f_L_law_b1756
  refine r_ob (fun a3 ha3 => ?_)
  obtain ⟨hea3, hka3⟩ := o_at_eq ha3
  cases hea3
  refine r_callI (q := 1759) (c_X7_dog G h0 N _ _ _ _ _) (cl_V (ci := 6) rfl rfl (lw_V q2747 q2748 q2749 q176 q2750) (hd_X7_dog) ⟨Nat.le_of_ble_eq_true rfl, Nat.le_of_ble_eq_true rfl⟩ (List.mem_singleton.mp hka3) rfl rfl rfl (Nat.le_of_ble_eq_true rfl) dL_law_1756) rfl (fun x1 σ2 => ?_)
  refine r_icmp_eq (q := 1762) (t := 2043) dL_law_1759 rfl (by decide) (fun _ => ?_) (fun _ => ?_)
  · exact r_le (w_L_law_b2043 G h0 N K23 hK23 _ _ _ _ _ _) (Nat.le_refl _) (And.intro rfl (And.intro rfl (And.intro rfl (And.intro rfl (And.intro rfl trivial)))))
  · refine r_iconst (q := 1763) (v := (0 : Int32)) dL_law_1762 rfl (by decide) ?_
    exact r_ireturnN rfl dL_law_1763
theorem w_L_law_b1726 (G : Gx) (h0 : G0 G) (N : Nat) (K23 : Option Nat → Option Nat → Option Nat → Option Nat → Int32 → Mem → Option (Int32 × Mem)) (hK23 : ∀ (l0 : Option Nat) (l1 : Option Nat) (l2 : Option Nat) (l3 : Option Nat) (l4 : Int32) (σ : Mem), Runs G mL_law rhoI σ 23 [some (vR l0), some (vR l1), some (vR l2), some (vR l3), some (vI l4), none, none] [] (K23 l0 l1 l2 l3 l4 σ)) (l0 : Option Nat) (l1 : Option Nat) (l2 : Option Nat) (l3 : Option Nat) (l4 : Int32) (t0 : Option Nat) (t1 : Int32) (t2 : Int32) (t3 : Int32) (σ : Mem) : Runs G mL_law rhoI σ 1726 [some (vR l0), some (vR l1), some (vR l2), some (vR l3), some (vI l4), none, none] [vI t3, vI t2, vI t1, vR t0] (f_L_law_b1726 N K23 l0 l1 l2 l3 l4 t0 t1 t2 t3 σ) := by
  unfold f_L_law_b1726
  refine r_ob (fun a3 ha3 => ?_)
  obtain ⟨hea3, hka3⟩ := o_at_eq ha3
  cases hea3
  refine r_callI (q := 1729) (c_X1_dog G h0 N _ _ _ _ _) (cl_V (ci := 0) rfl rfl (lw_V q1822 q1823 q1824 q167 q1825) (hd_X1_dog) ⟨Nat.le_of_ble_eq_true rfl, Nat.le_of_ble_eq_true rfl⟩ (List.mem_singleton.mp hka3) rfl rfl rfl (Nat.le_of_ble_eq_true rfl) dL_law_1726) rfl (fun x1 σ2 => ?_)
  refine r_aload_n (q := 1730) dL_law_1729 rfl rfl rfl ?_
  refine r_aload_n (q := 1731) dL_law_1730 rfl rfl rfl ?_
  refine r_iload (q := 1733) dL_law_1731 rfl rfl ?_
  refine r_iconst (q := 1734) (v := (1 : Int32)) dL_law_1733 rfl (by decide) ?_
  refine r_iadd (q := 1735) dL_law_1734 rfl ?_
  refine r_iaload (q := 1736) dL_law_1735 rfl (fun x4 => ?_)
  refine r_aload_n (q := 1737) dL_law_1736 rfl rfl rfl ?_
  refine r_iload (q := 1739) dL_law_1737 rfl rfl ?_
  refine r_iconst (q := 1740) (v := (2 : Int32)) dL_law_1739 rfl (by decide) ?_
  refine r_iadd (q := 1741) dL_law_1740 rfl ?_
  refine r_iaload (q := 1742) dL_law_1741 rfl (fun x5 => ?_)
  refine r_aload_n (q := 1743) dL_law_1742 rfl rfl rfl ?_
  refine r_iload (q := 1745) dL_law_1743 rfl rfl ?_
  refine r_iconst (q := 1746) (v := (3 : Int32)) dL_law_1745 rfl (by decide) ?_
  refine r_iadd (q := 1747) dL_law_1746 rfl ?_
  refine r_iaload (q := 1748) dL_law_1747 rfl (fun x6 => ?_)
  refine r_if_eq (q := 1751) (t := 1755) dL_law_1748 rfl (by decide) (fun _ => ?_) (fun _ => ?_)
  · refine r_iconst (q := 1756) (v := (0 : Int32)) dL_law_1755 rfl (by decide) ?_
    exact r_le (w_L_law_b1756 G h0 N K23 hK23 _ _ _ _ _ _ _ _ _ _ _) (Nat.le_refl _) (And.intro rfl (And.intro rfl (And.intro rfl (And.intro rfl (And.intro rfl trivial)))))
  · refine r_iconst (q := 1752) (v := (1 : Int32)) dL_law_1751 rfl (by decide) ?_
    refine r_goto (q := 1756) dL_law_1752 (by decide) ?_
    exact r_le (w_L_law_b1756 G h0 N K23 hK23 _ _ _ _ _ _ _ _ _ _ _) (Nat.le_refl _) (And.intro rfl (And.intro rfl (And.intro rfl (And.intro rfl (And.intro rfl trivial)))))
theorem w_L_law_b1699 (G : Gx) (h0 : G0 G) (N : Nat) (K23 : Option Nat → Option Nat → Option Nat → Option Nat → Int32 → Mem → Option (Int32 × Mem)) (hK23 : ∀ (l0 : Option Nat) (l1 : Option Nat) (l2 : Option Nat) (l3 : Option Nat) (l4 : Int32) (σ : Mem), Runs G mL_law rhoI σ 23 [some (vR l0), some (vR l1), some (vR l2), some (vR l3), some (vI l4), none, none] [] (K23 l0 l1 l2 l3 l4 σ)) (l0 : Option Nat) (l1 : Option Nat) (l2 : Option Nat) (l3 : Option Nat) (l4 : Int32) (σ : Mem) : Runs G mL_law rhoI σ 1699 [some (vR l0), some (vR l1), some (vR l2), some (vR l3), some (vI l4), none, none] [] (f_L_law_b1699 N K23 l0 l1 l2 l3 l4 σ) := by
  unfold f_L_law_b1699
  refine r_aload_n (q := 1700) dL_law_1699 rfl rfl rfl ?_
  refine r_aload_n (q := 1701) dL_law_1700 rfl rfl rfl ?_
  refine r_iload (q := 1703) dL_law_1701 rfl rfl ?_
  refine r_iconst (q := 1704) (v := (1 : Int32)) dL_law_1703 rfl (by decide) ?_
  refine r_iadd (q := 1705) dL_law_1704 rfl ?_
  refine r_iaload (q := 1706) dL_law_1705 rfl (fun x1 => ?_)
  refine r_aload_n (q := 1707) dL_law_1706 rfl rfl rfl ?_
  refine r_iload (q := 1709) dL_law_1707 rfl rfl ?_
  refine r_iconst (q := 1710) (v := (2 : Int32)) dL_law_1709 rfl (by decide) ?_
  refine r_iadd (q := 1711) dL_law_1710 rfl ?_
  refine r_iaload (q := 1712) dL_law_1711 rfl (fun x2 => ?_)
  refine r_aload_n (q := 1713) dL_law_1712 rfl rfl rfl ?_
  refine r_iload (q := 1715) dL_law_1713 rfl rfl ?_
  refine r_iconst (q := 1716) (v := (3 : Int32)) dL_law_1715 rfl (by decide) ?_
  refine r_iadd (q := 1717) dL_law_1716 rfl ?_
  refine r_iaload (q := 1718) dL_law_1717 rfl (fun x3 => ?_)
  refine r_if_eq (q := 1721) (t := 1725) dL_law_1718 rfl (by decide) (fun _ => ?_) (fun _ => ?_)
  · refine r_iconst (q := 1726) (v := (0 : Int32)) dL_law_1725 rfl (by decide) ?_
    exact r_le (w_L_law_b1726 G h0 N K23 hK23 _ _ _ _ _ _ _ _ _ _) (Nat.le_refl _) (And.intro rfl (And.intro rfl (And.intro rfl (And.intro rfl (And.intro rfl trivial)))))
  · refine r_iconst (q := 1722) (v := (1 : Int32)) dL_law_1721 rfl (by decide) ?_
    refine r_goto (q := 1726) dL_law_1722 (by decide) ?_
    exact r_le (w_L_law_b1726 G h0 N K23 hK23 _ _ _ _ _ _ _ _ _ _) (Nat.le_refl _) (And.intro rfl (And.intro rfl (And.intro rfl (And.intro rfl (And.intro rfl trivial)))))
theorem w_L_law_b1809 (G : Gx) (h0 : G0 G) (N : Nat) (K23 : Option Nat → Option Nat → Option Nat → Option Nat → Int32 → Mem → Option (Int32 × Mem)) (hK23 : ∀ (l0 : Option Nat) (l1 : Option Nat) (l2 : Option Nat) (l3 : Option Nat) (l4 : Int32) (σ : Mem), Runs G mL_law rhoI σ 23 [some (vR l0), some (vR l1), some (vR l2), some (vR l3), some (vI l4), none, none] [] (K23 l0 l1 l2 l3 l4 σ)) (l0 : Option Nat) (l1 : Option Nat) (l2 : Option Nat) (l3 : Option Nat) (l4 : Int32) (t0 : Int32) (t1 : Option Nat) (t2 : Int32) (t3 : Int32) (σ : Mem) : Runs G mL_law rhoI σ 1809 [some (vR l0), some (vR l1), some (vR l2), some (vR l3), some (vI l4), none, none] [vI t3, vI t2, vR t1, vI t0] (f_L_law_b1809 N K23 l0 l1 l2 l3 l4 t0 t1 t2 t3 σ) := by
  unfold f_L_law_b1809
  refine r_ob (fun a3 ha3 => ?_)
  obtain ⟨hea3, hka3⟩ := o_at_eq ha3
  cases hea3
  refine r_callI (q := 1812) (c_X7_hedge G h0 N _ _ _ _) (cl_V (ci := 6) rfl rfl (lw_V q2751 q2752 q2753 q176 q2754) (hd_X7_hedge) ⟨Nat.le_of_ble_eq_true rfl, Nat.le_of_ble_eq_true rfl⟩ (List.mem_singleton.mp hka3) rfl rfl rfl (Nat.le_of_ble_eq_true rfl) dL_law_1809) rfl (fun x1 σ2 => ?_)
  refine r_icmp_eq (q := 1815) (t := 2043) dL_law_1812 rfl (by decide) (fun _ => ?_) (fun _ => ?_)
  · exact r_le (w_L_law_b2043 G h0 N K23 hK23 _ _ _ _ _ _) (Nat.le_refl _) (And.intro rfl (And.intro rfl (And.intro rfl (And.intro rfl (And.intro rfl trivial)))))
  · refine r_iconst (q := 1816) (v := (0 : Int32)) dL_law_1815 rfl (by decide) ?_
    exact r_ireturnN rfl dL_law_1816
theorem w_L_law_b1785 (G : Gx) (h0 : G0 G) (N : Nat) (K23 : Option Nat → Option Nat → Option Nat → Option Nat → Int32 → Mem → Option (Int32 × Mem)) (hK23 : ∀ (l0 : Option Nat) (l1 : Option Nat) (l2 : Option Nat) (l3 : Option Nat) (l4 : Int32) (σ : Mem), Runs G mL_law rhoI σ 23 [some (vR l0), some (vR l1), some (vR l2), some (vR l3), some (vI l4), none, none] [] (K23 l0 l1 l2 l3 l4 σ)) (l0 : Option Nat) (l1 : Option Nat) (l2 : Option Nat) (l3 : Option Nat) (l4 : Int32) (t0 : Option Nat) (t1 : Int32) (t2 : Int32) (σ : Mem) : Runs G mL_law rhoI σ 1785 [some (vR l0), some (vR l1), some (vR l2), some (vR l3), some (vI l4), none, none] [vI t2, vI t1, vR t0] (f_L_law_b1785 N K23 l0 l1 l2 l3 l4 t0 t1 t2 σ) := by
  unfold f_L_law_b1785
  refine r_ob (fun a3 ha3 => ?_)
  obtain ⟨hea3, hka3⟩ := o_at_eq ha3
  cases hea3
  refine r_callI (q := 1788) (c_X1_hedge G h0 N _ _ _ _) (cl_V (ci := 0) rfl rfl (lw_V q1826 q1827 q1828 q167 q1829) (hd_X1_hedge) ⟨Nat.le_of_ble_eq_true rfl, Nat.le_of_ble_eq_true rfl⟩ (List.mem_singleton.mp hka3) rfl rfl rfl (Nat.le_of_ble_eq_true rfl) dL_law_1785) rfl (fun x1 σ2 => ?_)
  refine r_aload_n (q := 1789) dL_law_1788 rfl rfl rfl ?_
  refine r_aload_n (q := 1790) dL_law_1789 rfl rfl rfl ?_
  refine r_iload (q := 1792) dL_law_1790 rfl rfl ?_
  refine r_iconst (q := 1793) (v := (1 : Int32)) dL_law_1792 rfl (by decide) ?_
  refine r_iadd (q := 1794) dL_law_1793 rfl ?_
  refine r_iaload (q := 1795) dL_law_1794 rfl (fun x4 => ?_)
  refine r_aload_n (q := 1796) dL_law_1795 rfl rfl rfl ?_
  refine r_iload (q := 1798) dL_law_1796 rfl rfl ?_
  refine r_iconst (q := 1799) (v := (2 : Int32)) dL_law_1798 rfl (by decide) ?_
  refine r_iadd (q := 1800) dL_law_1799 rfl ?_
  refine r_iaload (q := 1801) dL_law_1800 rfl (fun x5 => ?_)
  refine r_if_eq (q := 1804) (t := 1808) dL_law_1801 rfl (by decide) (fun _ => ?_) (fun _ => ?_)
  · refine r_iconst (q := 1809) (v := (0 : Int32)) dL_law_1808 rfl (by decide) ?_
    exact r_le (w_L_law_b1809 G h0 N K23 hK23 _ _ _ _ _ _ _ _ _ _) (Nat.le_refl _) (And.intro rfl (And.intro rfl (And.intro rfl (And.intro rfl (And.intro rfl trivial)))))
  · refine r_iconst (q := 1805) (v := (1 : Int32)) dL_law_1804 rfl (by decide) ?_
    refine r_goto (q := 1809) dL_law_1805 (by decide) ?_
    exact r_le (w_L_law_b1809 G h0 N K23 hK23 _ _ _ _ _ _ _ _ _ _) (Nat.le_refl _) (And.intro rfl (And.intro rfl (And.intro rfl (And.intro rfl (And.intro rfl trivial)))))
theorem w_L_law_b1764 (G : Gx) (h0 : G0 G) (N : Nat) (K23 : Option Nat → Option Nat → Option Nat → Option Nat → Int32 → Mem → Option (Int32 × Mem)) (hK23 : ∀ (l0 : Option Nat) (l1 : Option Nat) (l2 : Option Nat) (l3 : Option Nat) (l4 : Int32) (σ : Mem), Runs G mL_law rhoI σ 23 [some (vR l0), some (vR l1), some (vR l2), some (vR l3), some (vI l4), none, none] [] (K23 l0 l1 l2 l3 l4 σ)) (l0 : Option Nat) (l1 : Option Nat) (l2 : Option Nat) (l3 : Option Nat) (l4 : Int32) (σ : Mem) : Runs G mL_law rhoI σ 1764 [some (vR l0), some (vR l1), some (vR l2), some (vR l3), some (vI l4), none, none] [] (f_L_law_b1764 N K23 l0 l1 l2 l3 l4 σ) := by
  unfold f_L_law_b1764
  refine r_aload_n (q := 1765) dL_law_1764 rfl rfl rfl ?_
  refine r_aload_n (q := 1766) dL_law_1765 rfl rfl rfl ?_
  refine r_iload (q := 1768) dL_law_1766 rfl rfl ?_
  refine r_iconst (q := 1769) (v := (1 : Int32)) dL_law_1768 rfl (by decide) ?_
  refine r_iadd (q := 1770) dL_law_1769 rfl ?_
  refine r_iaload (q := 1771) dL_law_1770 rfl (fun x1 => ?_)
  refine r_aload_n (q := 1772) dL_law_1771 rfl rfl rfl ?_
  refine r_iload (q := 1774) dL_law_1772 rfl rfl ?_
  refine r_iconst (q := 1775) (v := (2 : Int32)) dL_law_1774 rfl (by decide) ?_
  refine r_iadd (q := 1776) dL_law_1775 rfl ?_
  refine r_iaload (q := 1777) dL_law_1776 rfl (fun x2 => ?_)
  refine r_if_eq (q := 1780) (t := 1784) dL_law_1777 rfl (by decide) (fun _ => ?_) (fun _ => ?_)
  · refine r_iconst (q := 1785) (v := (0 : Int32)) dL_law_1784 rfl (by decide) ?_
    exact r_le (w_L_law_b1785 G h0 N K23 hK23 _ _ _ _ _ _ _ _ _) (Nat.le_refl _) (And.intro rfl (And.intro rfl (And.intro rfl (And.intro rfl (And.intro rfl trivial)))))
  · refine r_iconst (q := 1781) (v := (1 : Int32)) dL_law_1780 rfl (by decide) ?_
    refine r_goto (q := 1785) dL_law_1781 (by decide) ?_
    exact r_le (w_L_law_b1785 G h0 N K23 hK23 _ _ _ _ _ _ _ _ _) (Nat.le_refl _) (And.intro rfl (And.intro rfl (And.intro rfl (And.intro rfl (And.intro rfl trivial)))))
theorem w_L_law_b1862 (G : Gx) (h0 : G0 G) (N : Nat) (K23 : Option Nat → Option Nat → Option Nat → Option Nat → Int32 → Mem → Option (Int32 × Mem)) (hK23 : ∀ (l0 : Option Nat) (l1 : Option Nat) (l2 : Option Nat) (l3 : Option Nat) (l4 : Int32) (σ : Mem), Runs G mL_law rhoI σ 23 [some (vR l0), some (vR l1), some (vR l2), some (vR l3), some (vI l4), none, none] [] (K23 l0 l1 l2 l3 l4 σ)) (l0 : Option Nat) (l1 : Option Nat) (l2 : Option Nat) (l3 : Option Nat) (l4 : Int32) (t0 : Int32) (t1 : Option Nat) (t2 : Int32) (t3 : Int32) (σ : Mem) : Runs G mL_law rhoI σ 1862 [some (vR l0), some (vR l1), some (vR l2), some (vR l3), some (vI l4), none, none] [vI t3, vI t2, vR t1, vI t0] (f_L_law_b1862 N K23 l0 l1 l2 l3 l4 t0 t1 t2 t3 σ) := by
  unfold f_L_law_b1862
  refine r_ob (fun a3 ha3 => ?_)
  obtain ⟨hea3, hka3⟩ := o_at_eq ha3
  cases hea3
  refine r_callI (q := 1865) (c_X7_hear G h0 N _ _ _ _) (cl_V (ci := 6) rfl rfl (lw_V q2755 q2756 q2757 q176 q2758) (hd_X7_hear) ⟨Nat.le_of_ble_eq_true rfl, Nat.le_of_ble_eq_true rfl⟩ (List.mem_singleton.mp hka3) rfl rfl rfl (Nat.le_of_ble_eq_true rfl) dL_law_1862) rfl (fun x1 σ2 => ?_)
  refine r_icmp_eq (q := 1868) (t := 2043) dL_law_1865 rfl (by decide) (fun _ => ?_) (fun _ => ?_)
  · exact r_le (w_L_law_b2043 G h0 N K23 hK23 _ _ _ _ _ _) (Nat.le_refl _) (And.intro rfl (And.intro rfl (And.intro rfl (And.intro rfl (And.intro rfl trivial)))))
  · refine r_iconst (q := 1869) (v := (0 : Int32)) dL_law_1868 rfl (by decide) ?_
    exact r_ireturnN rfl dL_law_1869
theorem w_L_law_b1838 (G : Gx) (h0 : G0 G) (N : Nat) (K23 : Option Nat → Option Nat → Option Nat → Option Nat → Int32 → Mem → Option (Int32 × Mem)) (hK23 : ∀ (l0 : Option Nat) (l1 : Option Nat) (l2 : Option Nat) (l3 : Option Nat) (l4 : Int32) (σ : Mem), Runs G mL_law rhoI σ 23 [some (vR l0), some (vR l1), some (vR l2), some (vR l3), some (vI l4), none, none] [] (K23 l0 l1 l2 l3 l4 σ)) (l0 : Option Nat) (l1 : Option Nat) (l2 : Option Nat) (l3 : Option Nat) (l4 : Int32) (t0 : Option Nat) (t1 : Int32) (t2 : Int32) (σ : Mem) : Runs G mL_law rhoI σ 1838 [some (vR l0), some (vR l1), some (vR l2), some (vR l3), some (vI l4), none, none] [vI t2, vI t1, vR t0] (f_L_law_b1838 N K23 l0 l1 l2 l3 l4 t0 t1 t2 σ) := by
  unfold f_L_law_b1838
  refine r_ob (fun a3 ha3 => ?_)
  obtain ⟨hea3, hka3⟩ := o_at_eq ha3
  cases hea3
  refine r_callI (q := 1841) (c_X1_hear G h0 N _ _ _ _) (cl_V (ci := 0) rfl rfl (lw_V q1830 q1831 q1832 q167 q1833) (hd_X1_hear) ⟨Nat.le_of_ble_eq_true rfl, Nat.le_of_ble_eq_true rfl⟩ (List.mem_singleton.mp hka3) rfl rfl rfl (Nat.le_of_ble_eq_true rfl) dL_law_1838) rfl (fun x1 σ2 => ?_)
  refine r_aload_n (q := 1842) dL_law_1841 rfl rfl rfl ?_
  refine r_aload_n (q := 1843) dL_law_1842 rfl rfl rfl ?_
  refine r_iload (q := 1845) dL_law_1843 rfl rfl ?_
  refine r_iconst (q := 1846) (v := (1 : Int32)) dL_law_1845 rfl (by decide) ?_
  refine r_iadd (q := 1847) dL_law_1846 rfl ?_
  refine r_iaload (q := 1848) dL_law_1847 rfl (fun x4 => ?_)
  refine r_aload_n (q := 1849) dL_law_1848 rfl rfl rfl ?_
  refine r_iload (q := 1851) dL_law_1849 rfl rfl ?_
  refine r_iconst (q := 1852) (v := (2 : Int32)) dL_law_1851 rfl (by decide) ?_
  refine r_iadd (q := 1853) dL_law_1852 rfl ?_
  refine r_iaload (q := 1854) dL_law_1853 rfl (fun x5 => ?_)
  refine r_if_eq (q := 1857) (t := 1861) dL_law_1854 rfl (by decide) (fun _ => ?_) (fun _ => ?_)
  · refine r_iconst (q := 1862) (v := (0 : Int32)) dL_law_1861 rfl (by decide) ?_
    exact r_le (w_L_law_b1862 G h0 N K23 hK23 _ _ _ _ _ _ _ _ _ _) (Nat.le_refl _) (And.intro rfl (And.intro rfl (And.intro rfl (And.intro rfl (And.intro rfl trivial)))))
  · refine r_iconst (q := 1858) (v := (1 : Int32)) dL_law_1857 rfl (by decide) ?_
    refine r_goto (q := 1862) dL_law_1858 (by decide) ?_
    exact r_le (w_L_law_b1862 G h0 N K23 hK23 _ _ _ _ _ _ _ _ _ _) (Nat.le_refl _) (And.intro rfl (And.intro rfl (And.intro rfl (And.intro rfl (And.intro rfl trivial)))))
theorem w_L_law_b1817 (G : Gx) (h0 : G0 G) (N : Nat) (K23 : Option Nat → Option Nat → Option Nat → Option Nat → Int32 → Mem → Option (Int32 × Mem)) (hK23 : ∀ (l0 : Option Nat) (l1 : Option Nat) (l2 : Option Nat) (l3 : Option Nat) (l4 : Int32) (σ : Mem), Runs G mL_law rhoI σ 23 [some (vR l0), some (vR l1), some (vR l2), some (vR l3), some (vI l4), none, none] [] (K23 l0 l1 l2 l3 l4 σ)) (l0 : Option Nat) (l1 : Option Nat) (l2 : Option Nat) (l3 : Option Nat) (l4 : Int32) (σ : Mem) : Runs G mL_law rhoI σ 1817 [some (vR l0), some (vR l1), some (vR l2), some (vR l3), some (vI l4), none, none] [] (f_L_law_b1817 N K23 l0 l1 l2 l3 l4 σ) := by
  unfold f_L_law_b1817
  refine r_aload_n (q := 1818) dL_law_1817 rfl rfl rfl ?_
  refine r_aload_n (q := 1819) dL_law_1818 rfl rfl rfl ?_
  refine r_iload (q := 1821) dL_law_1819 rfl rfl ?_
  refine r_iconst (q := 1822) (v := (1 : Int32)) dL_law_1821 rfl (by decide) ?_
  refine r_iadd (q := 1823) dL_law_1822 rfl ?_
  refine r_iaload (q := 1824) dL_law_1823 rfl (fun x1 => ?_)
  refine r_aload_n (q := 1825) dL_law_1824 rfl rfl rfl ?_
  refine r_iload (q := 1827) dL_law_1825 rfl rfl ?_
  refine r_iconst (q := 1828) (v := (2 : Int32)) dL_law_1827 rfl (by decide) ?_
  refine r_iadd (q := 1829) dL_law_1828 rfl ?_
  refine r_iaload (q := 1830) dL_law_1829 rfl (fun x2 => ?_)
  refine r_if_eq (q := 1833) (t := 1837) dL_law_1830 rfl (by decide) (fun _ => ?_) (fun _ => ?_)
  · refine r_iconst (q := 1838) (v := (0 : Int32)) dL_law_1837 rfl (by decide) ?_
    exact r_le (w_L_law_b1838 G h0 N K23 hK23 _ _ _ _ _ _ _ _ _) (Nat.le_refl _) (And.intro rfl (And.intro rfl (And.intro rfl (And.intro rfl (And.intro rfl trivial)))))
  · refine r_iconst (q := 1834) (v := (1 : Int32)) dL_law_1833 rfl (by decide) ?_
    refine r_goto (q := 1838) dL_law_1834 (by decide) ?_
    exact r_le (w_L_law_b1838 G h0 N K23 hK23 _ _ _ _ _ _ _ _ _) (Nat.le_refl _) (And.intro rfl (And.intro rfl (And.intro rfl (And.intro rfl (And.intro rfl trivial)))))
theorem w_L_law_b1870 (G : Gx) (h0 : G0 G) (N : Nat) (K23 : Option Nat → Option Nat → Option Nat → Option Nat → Int32 → Mem → Option (Int32 × Mem)) (hK23 : ∀ (l0 : Option Nat) (l1 : Option Nat) (l2 : Option Nat) (l3 : Option Nat) (l4 : Int32) (σ : Mem), Runs G mL_law rhoI σ 23 [some (vR l0), some (vR l1), some (vR l2), some (vR l3), some (vI l4), none, none] [] (K23 l0 l1 l2 l3 l4 σ)) (l0 : Option Nat) (l1 : Option Nat) (l2 : Option Nat) (l3 : Option Nat) (l4 : Int32) (σ : Mem) : Runs G mL_law rhoI σ 1870 [some (vR l0), some (vR l1), some (vR l2), some (vR l3), some (vI l4), none, none] [] (f_L_law_b1870 N K23 l0 l1 l2 l3 l4 σ) := by
  unfold f_L_law_b1870
  refine r_aload_n (q := 1871) dL_law_1870 rfl rfl rfl ?_
  refine r_ob (fun a3 ha3 => ?_)
  obtain ⟨hea3, hka3⟩ := o_at_eq ha3
  cases hea3
  refine r_callI (q := 1874) (c_X1_undo G h0 N _ _) (cl_V (ci := 0) rfl rfl (lw_V q1834 q1835 q1836 q167 q1837) (hd_X1_undo) ⟨Nat.le_of_ble_eq_true rfl, Nat.le_of_ble_eq_true rfl⟩ (List.mem_singleton.mp hka3) rfl rfl rfl (Nat.le_of_ble_eq_true rfl) dL_law_1871) rfl (fun x1 σ2 => ?_)
  refine r_aload_n (q := 1875) dL_law_1874 rfl rfl rfl ?_
  refine r_ob (fun a6 ha6 => ?_)
  obtain ⟨hea6, hka6⟩ := o_at_eq ha6
  cases hea6
  refine r_callI (q := 1878) (c_X7_undo G h0 N _ _) (cl_V (ci := 6) rfl rfl (lw_V q2759 q2760 q2761 q176 q2762) (hd_X7_undo) ⟨Nat.le_of_ble_eq_true rfl, Nat.le_of_ble_eq_true rfl⟩ (List.mem_singleton.mp hka6) rfl rfl rfl (Nat.le_of_ble_eq_true rfl) dL_law_1875) rfl (fun x4 σ5 => ?_)
  refine r_icmp_eq (q := 1881) (t := 2043) dL_law_1878 rfl (by decide) (fun _ => ?_) (fun _ => ?_)
  · exact r_le (w_L_law_b2043 G h0 N K23 hK23 _ _ _ _ _ _) (Nat.le_refl _) (And.intro rfl (And.intro rfl (And.intro rfl (And.intro rfl (And.intro rfl trivial)))))
  · refine r_iconst (q := 1882) (v := (0 : Int32)) dL_law_1881 rfl (by decide) ?_
    exact r_ireturnN rfl dL_law_1882
theorem w_L_law_b1883 (G : Gx) (h0 : G0 G) (N : Nat) (K23 : Option Nat → Option Nat → Option Nat → Option Nat → Int32 → Mem → Option (Int32 × Mem)) (hK23 : ∀ (l0 : Option Nat) (l1 : Option Nat) (l2 : Option Nat) (l3 : Option Nat) (l4 : Int32) (σ : Mem), Runs G mL_law rhoI σ 23 [some (vR l0), some (vR l1), some (vR l2), some (vR l3), some (vI l4), none, none] [] (K23 l0 l1 l2 l3 l4 σ)) (l0 : Option Nat) (l1 : Option Nat) (l2 : Option Nat) (l3 : Option Nat) (l4 : Int32) (σ : Mem) : Runs G mL_law rhoI σ 1883 [some (vR l0), some (vR l1), some (vR l2), some (vR l3), some (vI l4), none, none] [] (f_L_law_b1883 N K23 l0 l1 l2 l3 l4 σ) := by
  unfold f_L_law_b1883
  refine r_aload_n (q := 1884) dL_law_1883 rfl rfl rfl ?_
  refine r_ob (fun a3 ha3 => ?_)
  obtain ⟨hea3, hka3⟩ := o_at_eq ha3
  cases hea3
  refine r_callI (q := 1887) (c_X1_mark G h0 N _ _) (cl_V (ci := 0) rfl rfl (lw_V q1838 q1839 q1840 q167 q1841) (hd_X1_mark) ⟨Nat.le_of_ble_eq_true rfl, Nat.le_of_ble_eq_true rfl⟩ (List.mem_singleton.mp hka3) rfl rfl rfl (Nat.le_of_ble_eq_true rfl) dL_law_1884) rfl (fun x1 σ2 => ?_)
  refine r_aload_n (q := 1888) dL_law_1887 rfl rfl rfl ?_
  refine r_ob (fun a6 ha6 => ?_)
  obtain ⟨hea6, hka6⟩ := o_at_eq ha6
  cases hea6
  refine r_callI (q := 1891) (c_X7_mark G h0 N _ _) (cl_V (ci := 6) rfl rfl (lw_V q2763 q2764 q2765 q176 q2766) (hd_X7_mark) ⟨Nat.le_of_ble_eq_true rfl, Nat.le_of_ble_eq_true rfl⟩ (List.mem_singleton.mp hka6) rfl rfl rfl (Nat.le_of_ble_eq_true rfl) dL_law_1888) rfl (fun x4 σ5 => ?_)
  refine r_icmp_eq (q := 1894) (t := 2043) dL_law_1891 rfl (by decide) (fun _ => ?_) (fun _ => ?_)
  · exact r_le (w_L_law_b2043 G h0 N K23 hK23 _ _ _ _ _ _) (Nat.le_refl _) (And.intro rfl (And.intro rfl (And.intro rfl (And.intro rfl (And.intro rfl trivial)))))
  · refine r_iconst (q := 1895) (v := (0 : Int32)) dL_law_1894 rfl (by decide) ?_
    exact r_ireturnN rfl dL_law_1895
theorem w_L_law_b1896 (G : Gx) (h0 : G0 G) (N : Nat) (K23 : Option Nat → Option Nat → Option Nat → Option Nat → Int32 → Mem → Option (Int32 × Mem)) (hK23 : ∀ (l0 : Option Nat) (l1 : Option Nat) (l2 : Option Nat) (l3 : Option Nat) (l4 : Int32) (σ : Mem), Runs G mL_law rhoI σ 23 [some (vR l0), some (vR l1), some (vR l2), some (vR l3), some (vI l4), none, none] [] (K23 l0 l1 l2 l3 l4 σ)) (l0 : Option Nat) (l1 : Option Nat) (l2 : Option Nat) (l3 : Option Nat) (l4 : Int32) (σ : Mem) : Runs G mL_law rhoI σ 1896 [some (vR l0), some (vR l1), some (vR l2), some (vR l3), some (vI l4), none, none] [] (f_L_law_b1896 N K23 l0 l1 l2 l3 l4 σ) := by
  unfold f_L_law_b1896
  refine r_aload_n (q := 1897) dL_law_1896 rfl rfl rfl ?_
  refine r_aload_n (q := 1898) dL_law_1897 rfl rfl rfl ?_
  refine r_iload (q := 1900) dL_law_1898 rfl rfl ?_
  refine r_iconst (q := 1901) (v := (1 : Int32)) dL_law_1900 rfl (by decide) ?_
  refine r_iadd (q := 1902) dL_law_1901 rfl ?_
  refine r_iaload (q := 1903) dL_law_1902 rfl (fun x1 => ?_)
  refine r_ob (fun a4 ha4 => ?_)
  obtain ⟨hea4, hka4⟩ := o_at_eq ha4
  cases hea4
  refine r_callI (q := 1906) (c_X1_back G h0 N _ _ _) (cl_V (ci := 0) rfl rfl (lw_V q1842 q1843 q1844 q167 q1845) (hd_X1_back) ⟨Nat.le_of_ble_eq_true rfl, Nat.le_of_ble_eq_true rfl⟩ (List.mem_singleton.mp hka4) rfl rfl rfl (Nat.le_of_ble_eq_true rfl) dL_law_1903) rfl (fun x2 σ3 => ?_)
  refine r_aload_n (q := 1907) dL_law_1906 rfl rfl rfl ?_
  refine r_aload_n (q := 1908) dL_law_1907 rfl rfl rfl ?_
  refine r_iload (q := 1910) dL_law_1908 rfl rfl ?_
  refine r_iconst (q := 1911) (v := (1 : Int32)) dL_law_1910 rfl (by decide) ?_
  refine r_iadd (q := 1912) dL_law_1911 rfl ?_
  refine r_iaload (q := 1913) dL_law_1912 rfl (fun x5 => ?_)
  refine r_ob (fun a8 ha8 => ?_)
  obtain ⟨hea8, hka8⟩ := o_at_eq ha8
  cases hea8
  refine r_callI (q := 1916) (c_X7_back G h0 N _ _ _) (cl_V (ci := 6) rfl rfl (lw_V q2767 q2768 q2769 q176 q2770) (hd_X7_back) ⟨Nat.le_of_ble_eq_true rfl, Nat.le_of_ble_eq_true rfl⟩ (List.mem_singleton.mp hka8) rfl rfl rfl (Nat.le_of_ble_eq_true rfl) dL_law_1913) rfl (fun x6 σ7 => ?_)
  refine r_icmp_eq (q := 1919) (t := 2043) dL_law_1916 rfl (by decide) (fun _ => ?_) (fun _ => ?_)
  · exact r_le (w_L_law_b2043 G h0 N K23 hK23 _ _ _ _ _ _) (Nat.le_refl _) (And.intro rfl (And.intro rfl (And.intro rfl (And.intro rfl (And.intro rfl trivial)))))
  · refine r_iconst (q := 1920) (v := (0 : Int32)) dL_law_1919 rfl (by decide) ?_
    exact r_ireturnN rfl dL_law_1920
theorem w_L_law_b2002 (G : Gx) (h0 : G0 G) (N : Nat) (K23 : Option Nat → Option Nat → Option Nat → Option Nat → Int32 → Mem → Option (Int32 × Mem)) (hK23 : ∀ (l0 : Option Nat) (l1 : Option Nat) (l2 : Option Nat) (l3 : Option Nat) (l4 : Int32) (σ : Mem), Runs G mL_law rhoI σ 23 [some (vR l0), some (vR l1), some (vR l2), some (vR l3), some (vI l4), none, none] [] (K23 l0 l1 l2 l3 l4 σ)) (l0 : Option Nat) (l1 : Option Nat) (l2 : Option Nat) (l3 : Option Nat) (l4 : Int32) (σ : Mem) : Runs G mL_law rhoI σ 2002 [some (vR l0), some (vR l1), some (vR l2), some (vR l3), some (vI l4), none, none] [] (f_L_law_b2002 N K23 l0 l1 l2 l3 l4 σ) := by
  unfold f_L_law_b2002
  refine r_goto (q := 2043) dL_law_2002 (by decide) ?_
  exact r_le (w_L_law_b2043 G h0 N K23 hK23 _ _ _ _ _ _) (Nat.le_refl _) (And.intro rfl (And.intro rfl (And.intro rfl (And.intro rfl (And.intro rfl trivial)))))
theorem w_L_law_b1969 (G : Gx) (h0 : G0 G) (N : Nat) (K23 : Option Nat → Option Nat → Option Nat → Option Nat → Int32 → Mem → Option (Int32 × Mem)) (hK23 : ∀ (l0 : Option Nat) (l1 : Option Nat) (l2 : Option Nat) (l3 : Option Nat) (l4 : Int32) (σ : Mem), Runs G mL_law rhoI σ 23 [some (vR l0), some (vR l1), some (vR l2), some (vR l3), some (vI l4), none, none] [] (K23 l0 l1 l2 l3 l4 σ)) (l0 : Option Nat) (l1 : Option Nat) (l2 : Option Nat) (l3 : Option Nat) (l4 : Int32) (l5 : Int32) (t0 : Option Nat) (t1 : Int32) (t2 : Int32) (σ : Mem) : Runs G mL_law rhoI σ 1969 [some (vR l0), some (vR l1), some (vR l2), some (vR l3), some (vI l4), some (vI l5), none] [vI t2, vI t1, vR t0] (f_L_law_b1969 N K23 l0 l1 l2 l3 l4 l5 t0 t1 t2 σ) := by
  unfold f_L_law_b1969
  refine r_ob (fun a3 ha3 => ?_)
  obtain ⟨hea3, hka3⟩ := o_at_eq ha3
  cases hea3
  refine r_callI (q := 1972) (c_X7_put G h0 N _ _ _ _) (cl_V (ci := 6) rfl rfl (lw_V q2771 q2772 q2773 q176 q2774) (hd_X7_put) ⟨Nat.le_of_ble_eq_true rfl, Nat.le_of_ble_eq_true rfl⟩ (List.mem_singleton.mp hka3) rfl rfl rfl (Nat.le_of_ble_eq_true rfl) dL_law_1969) rfl (fun x1 σ2 => ?_)
  refine r_istore (q := 1974) dL_law_1972 rfl (Nat.le_of_ble_eq_true rfl) rfl ?_
  refine r_aload_n (q := 1975) dL_law_1974 rfl rfl rfl ?_
  refine r_ob (fun a6 ha6 => ?_)
  obtain ⟨hea6, hka6⟩ := o_at_eq ha6
  cases hea6
  refine r_callI (q := 1978) (c_X7_thrown G h0 N _ _) (cl_V (ci := 6) rfl rfl (lw_V q2007 q2008 q2009 q176 q2010) (hd_X7_thrown) ⟨Nat.le_of_ble_eq_true rfl, Nat.le_of_ble_eq_true rfl⟩ (List.mem_singleton.mp hka6) rfl rfl rfl (Nat.le_of_ble_eq_true rfl) dL_law_1975) rfl (fun x4 σ5 => ?_)
  refine r_iload (q := 1980) dL_law_1978 rfl rfl ?_
  refine r_icmp_eq (q := 1983) (t := 1985) dL_law_1980 rfl (by decide) (fun _ => ?_) (fun _ => ?_)
  · refine r_iload (q := 1987) dL_law_1985 rfl rfl ?_
    refine r_if_ne (q := 1990) (t := 2002) dL_law_1987 rfl (by decide) (fun _ => ?_) (fun _ => ?_)
    · refine r_aload_n (q := 1991) dL_law_1990 rfl rfl rfl ?_
      refine r_iconst (q := 1992) (v := (0 : Int32)) dL_law_1991 rfl (by decide) ?_
      refine r_laload (q := 1993) dL_law_1992 rfl (fun x7 => ?_)
      refine r_iload (q := 1995) dL_law_1993 rfl rfl ?_
      refine r_i2l (q := 1996) dL_law_1995 rfl ?_
      refine r_lcmp (q := 1997) dL_law_1996 rfl ?_
      refine r_if_eq (q := 2000) (t := 2002) dL_law_1997 rfl (by decide) (fun _ => ?_) (fun _ => ?_)
      · exact r_le (w_L_law_b2002 G h0 N K23 hK23 _ _ _ _ _ _) (Nat.le_refl _) (And.intro rfl (And.intro rfl (And.intro rfl (And.intro rfl (And.intro rfl trivial)))))
      · refine r_iconst (q := 2001) (v := (0 : Int32)) dL_law_2000 rfl (by decide) ?_
        exact r_ireturnN rfl dL_law_2001
    · exact r_le (w_L_law_b2002 G h0 N K23 hK23 _ _ _ _ _ _) (Nat.le_refl _) (And.intro rfl (And.intro rfl (And.intro rfl (And.intro rfl (And.intro rfl trivial)))))
  · refine r_iconst (q := 1984) (v := (0 : Int32)) dL_law_1983 rfl (by decide) ?_
    exact r_ireturnN rfl dL_law_1984
theorem w_L_law_b1942 (G : Gx) (h0 : G0 G) (N : Nat) (K23 : Option Nat → Option Nat → Option Nat → Option Nat → Int32 → Mem → Option (Int32 × Mem)) (hK23 : ∀ (l0 : Option Nat) (l1 : Option Nat) (l2 : Option Nat) (l3 : Option Nat) (l4 : Int32) (σ : Mem), Runs G mL_law rhoI σ 23 [some (vR l0), some (vR l1), some (vR l2), some (vR l3), some (vI l4), none, none] [] (K23 l0 l1 l2 l3 l4 σ)) (l0 : Option Nat) (l1 : Option Nat) (l2 : Option Nat) (l3 : Option Nat) (l4 : Int32) (t0 : Option Nat) (t1 : Int32) (t2 : Int32) (σ : Mem) : Runs G mL_law rhoI σ 1942 [some (vR l0), some (vR l1), some (vR l2), some (vR l3), some (vI l4), none, none] [vI t2, vI t1, vR t0] (f_L_law_b1942 N K23 l0 l1 l2 l3 l4 t0 t1 t2 σ) := by
  unfold f_L_law_b1942
  refine r_aload_n (q := 1943) dL_law_1942 rfl rfl rfl ?_
  refine r_callI (q := 1946) (c_X0_put G h0 N _ _ _ _ _) (cl_SX rfl (List.cons_ne_nil _ _) q1854 q1855 q166 q1856 (hd_X0_put) ⟨Nat.le_of_ble_eq_true rfl, Nat.le_of_ble_eq_true rfl⟩ rfl (Nat.le_of_ble_eq_true rfl) dL_law_1943) rfl (fun x1 σ2 => ?_)
  refine r_istore (q := 1948) dL_law_1946 rfl (Nat.le_of_ble_eq_true rfl) rfl ?_
  refine r_aload_n (q := 1949) dL_law_1948 rfl rfl rfl ?_
  refine r_aload_n (q := 1950) dL_law_1949 rfl rfl rfl ?_
  refine r_iload (q := 1952) dL_law_1950 rfl rfl ?_
  refine r_iconst (q := 1953) (v := (1 : Int32)) dL_law_1952 rfl (by decide) ?_
  refine r_iadd (q := 1954) dL_law_1953 rfl ?_
  refine r_iaload (q := 1955) dL_law_1954 rfl (fun x3 => ?_)
  refine r_aload_n (q := 1956) dL_law_1955 rfl rfl rfl ?_
  refine r_iload (q := 1958) dL_law_1956 rfl rfl ?_
  refine r_iconst (q := 1959) (v := (2 : Int32)) dL_law_1958 rfl (by decide) ?_
  refine r_iadd (q := 1960) dL_law_1959 rfl ?_
  refine r_iaload (q := 1961) dL_law_1960 rfl (fun x4 => ?_)
  refine r_if_eq (q := 1964) (t := 1968) dL_law_1961 rfl (by decide) (fun _ => ?_) (fun _ => ?_)
  · refine r_iconst (q := 1969) (v := (0 : Int32)) dL_law_1968 rfl (by decide) ?_
    exact r_le (w_L_law_b1969 G h0 N K23 hK23 _ _ _ _ _ _ _ _ _ _) (Nat.le_refl _) (And.intro rfl (And.intro rfl (And.intro rfl (And.intro rfl (And.intro rfl (And.intro rfl trivial))))))
  · refine r_iconst (q := 1965) (v := (1 : Int32)) dL_law_1964 rfl (by decide) ?_
    refine r_goto (q := 1969) dL_law_1965 (by decide) ?_
    exact r_le (w_L_law_b1969 G h0 N K23 hK23 _ _ _ _ _ _ _ _ _ _) (Nat.le_refl _) (And.intro rfl (And.intro rfl (And.intro rfl (And.intro rfl (And.intro rfl (And.intro rfl trivial))))))
theorem w_L_law_b1921 (G : Gx) (h0 : G0 G) (N : Nat) (K23 : Option Nat → Option Nat → Option Nat → Option Nat → Int32 → Mem → Option (Int32 × Mem)) (hK23 : ∀ (l0 : Option Nat) (l1 : Option Nat) (l2 : Option Nat) (l3 : Option Nat) (l4 : Int32) (σ : Mem), Runs G mL_law rhoI σ 23 [some (vR l0), some (vR l1), some (vR l2), some (vR l3), some (vI l4), none, none] [] (K23 l0 l1 l2 l3 l4 σ)) (l0 : Option Nat) (l1 : Option Nat) (l2 : Option Nat) (l3 : Option Nat) (l4 : Int32) (σ : Mem) : Runs G mL_law rhoI σ 1921 [some (vR l0), some (vR l1), some (vR l2), some (vR l3), some (vI l4), none, none] [] (f_L_law_b1921 N K23 l0 l1 l2 l3 l4 σ) := by
  unfold f_L_law_b1921
  refine r_aload_n (q := 1922) dL_law_1921 rfl rfl rfl ?_
  refine r_aload_n (q := 1923) dL_law_1922 rfl rfl rfl ?_
  refine r_iload (q := 1925) dL_law_1923 rfl rfl ?_
  refine r_iconst (q := 1926) (v := (1 : Int32)) dL_law_1925 rfl (by decide) ?_
  refine r_iadd (q := 1927) dL_law_1926 rfl ?_
  refine r_iaload (q := 1928) dL_law_1927 rfl (fun x1 => ?_)
  refine r_aload_n (q := 1929) dL_law_1928 rfl rfl rfl ?_
  refine r_iload (q := 1931) dL_law_1929 rfl rfl ?_
  refine r_iconst (q := 1932) (v := (2 : Int32)) dL_law_1931 rfl (by decide) ?_
  refine r_iadd (q := 1933) dL_law_1932 rfl ?_
  refine r_iaload (q := 1934) dL_law_1933 rfl (fun x2 => ?_)
  refine r_if_eq (q := 1937) (t := 1941) dL_law_1934 rfl (by decide) (fun _ => ?_) (fun _ => ?_)
  · refine r_iconst (q := 1942) (v := (0 : Int32)) dL_law_1941 rfl (by decide) ?_
    exact r_le (w_L_law_b1942 G h0 N K23 hK23 _ _ _ _ _ _ _ _ _) (Nat.le_refl _) (And.intro rfl (And.intro rfl (And.intro rfl (And.intro rfl (And.intro rfl trivial)))))
  · refine r_iconst (q := 1938) (v := (1 : Int32)) dL_law_1937 rfl (by decide) ?_
    refine r_goto (q := 1942) dL_law_1938 (by decide) ?_
    exact r_le (w_L_law_b1942 G h0 N K23 hK23 _ _ _ _ _ _ _ _ _) (Nat.le_refl _) (And.intro rfl (And.intro rfl (And.intro rfl (And.intro rfl (And.intro rfl trivial)))))
theorem w_L_law_b2005 (G : Gx) (h0 : G0 G) (N : Nat) (K23 : Option Nat → Option Nat → Option Nat → Option Nat → Int32 → Mem → Option (Int32 × Mem)) (hK23 : ∀ (l0 : Option Nat) (l1 : Option Nat) (l2 : Option Nat) (l3 : Option Nat) (l4 : Int32) (σ : Mem), Runs G mL_law rhoI σ 23 [some (vR l0), some (vR l1), some (vR l2), some (vR l3), some (vI l4), none, none] [] (K23 l0 l1 l2 l3 l4 σ)) (l0 : Option Nat) (l1 : Option Nat) (l2 : Option Nat) (l3 : Option Nat) (l4 : Int32) (σ : Mem) : Runs G mL_law rhoI σ 2005 [some (vR l0), some (vR l1), some (vR l2), some (vR l3), some (vI l4), none, none] [] (f_L_law_b2005 N K23 l0 l1 l2 l3 l4 σ) := by
  unfold f_L_law_b2005
  refine r_aload_n (q := 2006) dL_law_2005 rfl rfl rfl ?_
  refine r_aload_n (q := 2007) dL_law_2006 rfl rfl rfl ?_
  refine r_iload (q := 2009) dL_law_2007 rfl rfl ?_
  refine r_iconst (q := 2010) (v := (1 : Int32)) dL_law_2009 rfl (by decide) ?_
  refine r_iadd (q := 2011) dL_law_2010 rfl ?_
  refine r_iaload (q := 2012) dL_law_2011 rfl (fun x1 => ?_)
  refine r_ob (fun a4 ha4 => ?_)
  obtain ⟨hea4, hka4⟩ := o_at_eq ha4
  cases hea4
  refine r_callI (q := 2015) (c_X1_size G h0 N _ _ _) (cl_V (ci := 0) rfl rfl (lw_V q1846 q1847 q1848 q167 q1849) (hd_X1_size) ⟨Nat.le_of_ble_eq_true rfl, Nat.le_of_ble_eq_true rfl⟩ (List.mem_singleton.mp hka4) rfl rfl rfl (Nat.le_of_ble_eq_true rfl) dL_law_2012) rfl (fun x2 σ3 => ?_)
  refine r_aload_n (q := 2016) dL_law_2015 rfl rfl rfl ?_
  refine r_aload_n (q := 2017) dL_law_2016 rfl rfl rfl ?_
  refine r_iload (q := 2019) dL_law_2017 rfl rfl ?_
  refine r_iconst (q := 2020) (v := (1 : Int32)) dL_law_2019 rfl (by decide) ?_
  refine r_iadd (q := 2021) dL_law_2020 rfl ?_
  refine r_iaload (q := 2022) dL_law_2021 rfl (fun x5 => ?_)
  refine r_ob (fun a8 ha8 => ?_)
  obtain ⟨hea8, hka8⟩ := o_at_eq ha8
  cases hea8
  refine r_callI (q := 2025) (c_X7_size G h0 N _ _ _) (cl_V (ci := 6) rfl rfl (lw_V q2775 q2776 q2777 q176 q2778) (hd_X7_size) ⟨Nat.le_of_ble_eq_true rfl, Nat.le_of_ble_eq_true rfl⟩ (List.mem_singleton.mp hka8) rfl rfl rfl (Nat.le_of_ble_eq_true rfl) dL_law_2022) rfl (fun x6 σ7 => ?_)
  refine r_icmp_eq (q := 2028) (t := 2043) dL_law_2025 rfl (by decide) (fun _ => ?_) (fun _ => ?_)
  · exact r_le (w_L_law_b2043 G h0 N K23 hK23 _ _ _ _ _ _) (Nat.le_refl _) (And.intro rfl (And.intro rfl (And.intro rfl (And.intro rfl (And.intro rfl trivial)))))
  · refine r_iconst (q := 2029) (v := (0 : Int32)) dL_law_2028 rfl (by decide) ?_
    exact r_ireturnN rfl dL_law_2029
theorem w_L_law_b2030 (G : Gx) (h0 : G0 G) (N : Nat) (K23 : Option Nat → Option Nat → Option Nat → Option Nat → Int32 → Mem → Option (Int32 × Mem)) (hK23 : ∀ (l0 : Option Nat) (l1 : Option Nat) (l2 : Option Nat) (l3 : Option Nat) (l4 : Int32) (σ : Mem), Runs G mL_law rhoI σ 23 [some (vR l0), some (vR l1), some (vR l2), some (vR l3), some (vI l4), none, none] [] (K23 l0 l1 l2 l3 l4 σ)) (l0 : Option Nat) (l1 : Option Nat) (l2 : Option Nat) (l3 : Option Nat) (l4 : Int32) (σ : Mem) : Runs G mL_law rhoI σ 2030 [some (vR l0), some (vR l1), some (vR l2), some (vR l3), some (vI l4), none, none] [] (f_L_law_b2030 N K23 l0 l1 l2 l3 l4 σ) := by
  unfold f_L_law_b2030
  refine r_aload_n (q := 2031) dL_law_2030 rfl rfl rfl ?_
  refine r_ob (fun a3 ha3 => ?_)
  obtain ⟨hea3, hka3⟩ := o_at_eq ha3
  cases hea3
  refine r_callI (q := 2034) (c_X1_trouble G h0 N _ _) (cl_V (ci := 0) rfl rfl (lw_V q1850 q1851 q1852 q167 q1853) (hd_X1_trouble) ⟨Nat.le_of_ble_eq_true rfl, Nat.le_of_ble_eq_true rfl⟩ (List.mem_singleton.mp hka3) rfl rfl rfl (Nat.le_of_ble_eq_true rfl) dL_law_2031) rfl (fun x1 σ2 => ?_)
  refine r_aload_n (q := 2035) dL_law_2034 rfl rfl rfl ?_
  refine r_ob (fun a6 ha6 => ?_)
  obtain ⟨hea6, hka6⟩ := o_at_eq ha6
  cases hea6
  refine r_callI (q := 2038) (c_X7_trouble G h0 N _ _) (cl_V (ci := 6) rfl rfl (lw_V q2779 q2780 q2781 q176 q2782) (hd_X7_trouble) ⟨Nat.le_of_ble_eq_true rfl, Nat.le_of_ble_eq_true rfl⟩ (List.mem_singleton.mp hka6) rfl rfl rfl (Nat.le_of_ble_eq_true rfl) dL_law_2035) rfl (fun x4 σ5 => ?_)
  refine r_icmp_eq (q := 2041) (t := 2043) dL_law_2038 rfl (by decide) (fun _ => ?_) (fun _ => ?_)
  · exact r_le (w_L_law_b2043 G h0 N K23 hK23 _ _ _ _ _ _) (Nat.le_refl _) (And.intro rfl (And.intro rfl (And.intro rfl (And.intro rfl (And.intro rfl trivial)))))
  · refine r_iconst (q := 2042) (v := (0 : Int32)) dL_law_2041 rfl (by decide) ?_
    exact r_ireturnN rfl dL_law_2042
theorem w_L_law_b23B (G : Gx) (h0 : G0 G) (N : Nat)   (K23 : Option Nat → Option Nat → Option Nat → Option Nat → Int32 → Mem → Option (Int32 × Mem)) (hK23 : ∀ (l0 : Option Nat) (l1 : Option Nat) (l2 : Option Nat) (l3 : Option Nat) (l4 : Int32) (σ : Mem), Runs G mL_law rhoI σ 23 [some (vR l0), some (vR l1), some (vR l2), some (vR l3), some (vI l4), none, none] [] (K23 l0 l1 l2 l3 l4 σ)) (l0 : Option Nat) (l1 : Option Nat) (l2 : Option Nat) (l3 : Option Nat) (l4 : Int32) (σ : Mem) : Runs G mL_law rhoI σ 23 [some (vR l0), some (vR l1), some (vR l2), some (vR l3), some (vI l4), none, none] [] (f_L_law_b23B N  K23 l0 l1 l2 l3 l4 σ) := by
  unfold f_L_law_b23B
  refine r_iload (q := 25) dL_law_23 rfl rfl ?_
  refine r_aload_n (q := 26) dL_law_25 rfl rfl rfl ?_
  refine r_len (q := 27) dL_law_26 rfl (fun x1 => ?_)
  refine r_bipush (q := 29) (v := (6 : Int32)) dL_law_27 rfl (by decide) ?_
  refine r_isub (q := 30) dL_law_29 rfl ?_
  refine r_icmp_gt (q := 33) (t := 2049) dL_law_30 rfl (by decide) (fun _ => ?_) (fun _ => ?_)
  · refine r_iconst (q := 2050) (v := (1 : Int32)) dL_law_2049 rfl (by decide) ?_
    exact r_ireturnN rfl dL_law_2050
  · refine r_aload_n (q := 34) dL_law_33 rfl rfl rfl ?_
    refine r_iload (q := 36) dL_law_34 rfl rfl ?_
    refine r_iaload (q := 37) dL_law_36 rfl (fun x2 => ?_)
    refine r_bipush (q := 39) (v := (63 : Int32)) dL_law_37 rfl (by decide) ?_
    refine r_iand (q := 40) dL_law_39 rfl ?_
    refine r_tswC (t := 260) (c0 := (0 : Int32)) dL_law_40 (by decide) (by decide) rfl (by decide) ?_ (fun hc0 => ?_)
    · exact r_le (w_L_law_b260 G h0 N K23 hK23 _ _ _ _ _ _) (Nat.le_refl _) (And.intro rfl (And.intro rfl (And.intro rfl (And.intro rfl (And.intro rfl trivial)))))
    refine r_tswC (t := 333) (c0 := (1 : Int32)) dL_law_40 (by decide) (by decide) rfl (by decide) ?_ (fun hc1 => ?_)
    · exact r_le (w_L_law_b333 G h0 N K23 hK23 _ _ _ _ _ _) (Nat.le_refl _) (And.intro rfl (And.intro rfl (And.intro rfl (And.intro rfl (And.intro rfl trivial)))))
    refine r_tswC (t := 358) (c0 := (2 : Int32)) dL_law_40 (by decide) (by decide) rfl (by decide) ?_ (fun hc2 => ?_)
    · exact r_le (w_L_law_b358 G h0 N K23 hK23 _ _ _ _ _ _) (Nat.le_refl _) (And.intro rfl (And.intro rfl (And.intro rfl (And.intro rfl (And.intro rfl trivial)))))
    refine r_tswC (t := 371) (c0 := (3 : Int32)) dL_law_40 (by decide) (by decide) rfl (by decide) ?_ (fun hc3 => ?_)
    · exact r_le (w_L_law_b371 G h0 N K23 hK23 _ _ _ _ _ _) (Nat.le_refl _) (And.intro rfl (And.intro rfl (And.intro rfl (And.intro rfl (And.intro rfl trivial)))))
    refine r_tswC (t := 384) (c0 := (4 : Int32)) dL_law_40 (by decide) (by decide) rfl (by decide) ?_ (fun hc4 => ?_)
    · exact r_le (w_L_law_b384 G h0 N K23 hK23 _ _ _ _ _ _) (Nat.le_refl _) (And.intro rfl (And.intro rfl (And.intro rfl (And.intro rfl (And.intro rfl trivial)))))
    refine r_tswC (t := 421) (c0 := (5 : Int32)) dL_law_40 (by decide) (by decide) rfl (by decide) ?_ (fun hc5 => ?_)
    · exact r_le (w_L_law_b421 G h0 N K23 hK23 _ _ _ _ _ _) (Nat.le_refl _) (And.intro rfl (And.intro rfl (And.intro rfl (And.intro rfl (And.intro rfl trivial)))))
    refine r_tswC (t := 446) (c0 := (6 : Int32)) dL_law_40 (by decide) (by decide) rfl (by decide) ?_ (fun hc6 => ?_)
    · exact r_le (w_L_law_b446 G h0 N K23 hK23 _ _ _ _ _ _) (Nat.le_refl _) (And.intro rfl (And.intro rfl (And.intro rfl (And.intro rfl (And.intro rfl trivial)))))
    refine r_tswC (t := 483) (c0 := (7 : Int32)) dL_law_40 (by decide) (by decide) rfl (by decide) ?_ (fun hc7 => ?_)
    · exact r_le (w_L_law_b483 G h0 N K23 hK23 _ _ _ _ _ _) (Nat.le_refl _) (And.intro rfl (And.intro rfl (And.intro rfl (And.intro rfl (And.intro rfl trivial)))))
    refine r_tswC (t := 520) (c0 := (8 : Int32)) dL_law_40 (by decide) (by decide) rfl (by decide) ?_ (fun hc8 => ?_)
    · exact r_le (w_L_law_b520 G h0 N K23 hK23 _ _ _ _ _ _) (Nat.le_refl _) (And.intro rfl (And.intro rfl (And.intro rfl (And.intro rfl (And.intro rfl trivial)))))
    refine r_tswC (t := 557) (c0 := (9 : Int32)) dL_law_40 (by decide) (by decide) rfl (by decide) ?_ (fun hc9 => ?_)
    · exact r_le (w_L_law_b557 G h0 N K23 hK23 _ _ _ _ _ _) (Nat.le_refl _) (And.intro rfl (And.intro rfl (And.intro rfl (And.intro rfl (And.intro rfl trivial)))))
    refine r_tswC (t := 606) (c0 := (10 : Int32)) dL_law_40 (by decide) (by decide) rfl (by decide) ?_ (fun hc10 => ?_)
    · exact r_le (w_L_law_b606 G h0 N K23 hK23 _ _ _ _ _ _) (Nat.le_refl _) (And.intro rfl (And.intro rfl (And.intro rfl (And.intro rfl (And.intro rfl trivial)))))
    refine r_tswC (t := 631) (c0 := (11 : Int32)) dL_law_40 (by decide) (by decide) rfl (by decide) ?_ (fun hc11 => ?_)
    · exact r_le (w_L_law_b631 G h0 N K23 hK23 _ _ _ _ _ _) (Nat.le_refl _) (And.intro rfl (And.intro rfl (And.intro rfl (And.intro rfl (And.intro rfl trivial)))))
    refine r_tswC (t := 668) (c0 := (12 : Int32)) dL_law_40 (by decide) (by decide) rfl (by decide) ?_ (fun hc12 => ?_)
    · exact r_le (w_L_law_b668 G h0 N K23 hK23 _ _ _ _ _ _) (Nat.le_refl _) (And.intro rfl (And.intro rfl (And.intro rfl (And.intro rfl (And.intro rfl trivial)))))
    refine r_tswC (t := 717) (c0 := (13 : Int32)) dL_law_40 (by decide) (by decide) rfl (by decide) ?_ (fun hc13 => ?_)
    · exact r_le (w_L_law_b717 G h0 N K23 hK23 _ _ _ _ _ _) (Nat.le_refl _) (And.intro rfl (And.intro rfl (And.intro rfl (And.intro rfl (And.intro rfl trivial)))))
    refine r_tswC (t := 766) (c0 := (14 : Int32)) dL_law_40 (by decide) (by decide) rfl (by decide) ?_ (fun hc14 => ?_)
    · exact r_le (w_L_law_b766 G h0 N K23 hK23 _ _ _ _ _ _) (Nat.le_refl _) (And.intro rfl (And.intro rfl (And.intro rfl (And.intro rfl (And.intro rfl trivial)))))
    refine r_tswC (t := 827) (c0 := (15 : Int32)) dL_law_40 (by decide) (by decide) rfl (by decide) ?_ (fun hc15 => ?_)
    · exact r_le (w_L_law_b827 G h0 N K23 hK23 _ _ _ _ _ _) (Nat.le_refl _) (And.intro rfl (And.intro rfl (And.intro rfl (And.intro rfl (And.intro rfl trivial)))))
    refine r_tswC (t := 864) (c0 := (16 : Int32)) dL_law_40 (by decide) (by decide) rfl (by decide) ?_ (fun hc16 => ?_)
    · exact r_le (w_L_law_b864 G h0 N K23 hK23 _ _ _ _ _ _) (Nat.le_refl _) (And.intro rfl (And.intro rfl (And.intro rfl (And.intro rfl (And.intro rfl trivial)))))
    refine r_tswC (t := 913) (c0 := (17 : Int32)) dL_law_40 (by decide) (by decide) rfl (by decide) ?_ (fun hc17 => ?_)
    · exact r_le (w_L_law_b913 G h0 N K23 hK23 _ _ _ _ _ _) (Nat.le_refl _) (And.intro rfl (And.intro rfl (And.intro rfl (And.intro rfl (And.intro rfl trivial)))))
    refine r_tswC (t := 962) (c0 := (18 : Int32)) dL_law_40 (by decide) (by decide) rfl (by decide) ?_ (fun hc18 => ?_)
    · exact r_le (w_L_law_b962 G h0 N K23 hK23 _ _ _ _ _ _) (Nat.le_refl _) (And.intro rfl (And.intro rfl (And.intro rfl (And.intro rfl (And.intro rfl trivial)))))
    refine r_tswC (t := 999) (c0 := (19 : Int32)) dL_law_40 (by decide) (by decide) rfl (by decide) ?_ (fun hc19 => ?_)
    · exact r_le (w_L_law_b999 G h0 N K23 hK23 _ _ _ _ _ _) (Nat.le_refl _) (And.intro rfl (And.intro rfl (And.intro rfl (And.intro rfl (And.intro rfl trivial)))))
    refine r_tswC (t := 1012) (c0 := (20 : Int32)) dL_law_40 (by decide) (by decide) rfl (by decide) ?_ (fun hc20 => ?_)
    · exact r_le (w_L_law_b1012 G h0 N K23 hK23 _ _ _ _ _ _) (Nat.le_refl _) (And.intro rfl (And.intro rfl (And.intro rfl (And.intro rfl (And.intro rfl trivial)))))
    refine r_tswC (t := 1037) (c0 := (21 : Int32)) dL_law_40 (by decide) (by decide) rfl (by decide) ?_ (fun hc21 => ?_)
    · exact r_le (w_L_law_b1037 G h0 N K23 hK23 _ _ _ _ _ _) (Nat.le_refl _) (And.intro rfl (And.intro rfl (And.intro rfl (And.intro rfl (And.intro rfl trivial)))))
    refine r_tswC (t := 1074) (c0 := (22 : Int32)) dL_law_40 (by decide) (by decide) rfl (by decide) ?_ (fun hc22 => ?_)
    · exact r_le (w_L_law_b1074 G h0 N K23 hK23 _ _ _ _ _ _) (Nat.le_refl _) (And.intro rfl (And.intro rfl (And.intro rfl (And.intro rfl (And.intro rfl trivial)))))
    refine r_tswC (t := 1111) (c0 := (23 : Int32)) dL_law_40 (by decide) (by decide) rfl (by decide) ?_ (fun hc23 => ?_)
    · exact r_le (w_L_law_b1111 G h0 N K23 hK23 _ _ _ _ _ _) (Nat.le_refl _) (And.intro rfl (And.intro rfl (And.intro rfl (And.intro rfl (And.intro rfl trivial)))))
    refine r_tswC (t := 1136) (c0 := (24 : Int32)) dL_law_40 (by decide) (by decide) rfl (by decide) ?_ (fun hc24 => ?_)
    · exact r_le (w_L_law_b1136 G h0 N K23 hK23 _ _ _ _ _ _) (Nat.le_refl _) (And.intro rfl (And.intro rfl (And.intro rfl (And.intro rfl (And.intro rfl trivial)))))
    refine r_tswC (t := 1149) (c0 := (25 : Int32)) dL_law_40 (by decide) (by decide) rfl (by decide) ?_ (fun hc25 => ?_)
    · exact r_le (w_L_law_b1149 G h0 N K23 hK23 _ _ _ _ _ _) (Nat.le_refl _) (And.intro rfl (And.intro rfl (And.intro rfl (And.intro rfl (And.intro rfl trivial)))))
    refine r_tswC (t := 1174) (c0 := (26 : Int32)) dL_law_40 (by decide) (by decide) rfl (by decide) ?_ (fun hc26 => ?_)
    · exact r_le (w_L_law_b1174 G h0 N K23 hK23 _ _ _ _ _ _) (Nat.le_refl _) (And.intro rfl (And.intro rfl (And.intro rfl (And.intro rfl (And.intro rfl trivial)))))
    refine r_tswC (t := 1187) (c0 := (27 : Int32)) dL_law_40 (by decide) (by decide) rfl (by decide) ?_ (fun hc27 => ?_)
    · exact r_le (w_L_law_b1187 G h0 N K23 hK23 _ _ _ _ _ _) (Nat.le_refl _) (And.intro rfl (And.intro rfl (And.intro rfl (And.intro rfl (And.intro rfl trivial)))))
    refine r_tswC (t := 1236) (c0 := (28 : Int32)) dL_law_40 (by decide) (by decide) rfl (by decide) ?_ (fun hc28 => ?_)
    · exact r_le (w_L_law_b1236 G h0 N K23 hK23 _ _ _ _ _ _) (Nat.le_refl _) (And.intro rfl (And.intro rfl (And.intro rfl (And.intro rfl (And.intro rfl trivial)))))
    refine r_tswC (t := 1249) (c0 := (29 : Int32)) dL_law_40 (by decide) (by decide) rfl (by decide) ?_ (fun hc29 => ?_)
    · exact r_le (w_L_law_b1249 G h0 N K23 hK23 _ _ _ _ _ _) (Nat.le_refl _) (And.intro rfl (And.intro rfl (And.intro rfl (And.intro rfl (And.intro rfl trivial)))))
    refine r_tswC (t := 1262) (c0 := (30 : Int32)) dL_law_40 (by decide) (by decide) rfl (by decide) ?_ (fun hc30 => ?_)
    · exact r_le (w_L_law_b1262 G h0 N K23 hK23 _ _ _ _ _ _) (Nat.le_refl _) (And.intro rfl (And.intro rfl (And.intro rfl (And.intro rfl (And.intro rfl trivial)))))
    refine r_tswC (t := 1323) (c0 := (31 : Int32)) dL_law_40 (by decide) (by decide) rfl (by decide) ?_ (fun hc31 => ?_)
    · exact r_le (w_L_law_b1323 G h0 N K23 hK23 _ _ _ _ _ _) (Nat.le_refl _) (And.intro rfl (And.intro rfl (And.intro rfl (And.intro rfl (And.intro rfl trivial)))))
    refine r_tswC (t := 1396) (c0 := (32 : Int32)) dL_law_40 (by decide) (by decide) rfl (by decide) ?_ (fun hc32 => ?_)
    · exact r_le (w_L_law_b1396 G h0 N K23 hK23 _ _ _ _ _ _) (Nat.le_refl _) (And.intro rfl (And.intro rfl (And.intro rfl (And.intro rfl (And.intro rfl trivial)))))
    refine r_tswC (t := 1457) (c0 := (33 : Int32)) dL_law_40 (by decide) (by decide) rfl (by decide) ?_ (fun hc33 => ?_)
    · exact r_le (w_L_law_b1457 G h0 N K23 hK23 _ _ _ _ _ _) (Nat.le_refl _) (And.intro rfl (And.intro rfl (And.intro rfl (And.intro rfl (And.intro rfl trivial)))))
    refine r_tswC (t := 1482) (c0 := (34 : Int32)) dL_law_40 (by decide) (by decide) rfl (by decide) ?_ (fun hc34 => ?_)
    · exact r_le (w_L_law_b1482 G h0 N K23 hK23 _ _ _ _ _ _) (Nat.le_refl _) (And.intro rfl (And.intro rfl (And.intro rfl (And.intro rfl (And.intro rfl trivial)))))
    refine r_tswC (t := 1495) (c0 := (35 : Int32)) dL_law_40 (by decide) (by decide) rfl (by decide) ?_ (fun hc35 => ?_)
    · exact r_le (w_L_law_b1495 G h0 N K23 hK23 _ _ _ _ _ _) (Nat.le_refl _) (And.intro rfl (And.intro rfl (And.intro rfl (And.intro rfl (And.intro rfl trivial)))))
    refine r_tswC (t := 1520) (c0 := (36 : Int32)) dL_law_40 (by decide) (by decide) rfl (by decide) ?_ (fun hc36 => ?_)
    · exact r_le (w_L_law_b1520 G h0 N K23 hK23 _ _ _ _ _ _) (Nat.le_refl _) (And.intro rfl (And.intro rfl (And.intro rfl (And.intro rfl (And.intro rfl trivial)))))
    refine r_tswC (t := 1545) (c0 := (37 : Int32)) dL_law_40 (by decide) (by decide) rfl (by decide) ?_ (fun hc37 => ?_)
    · exact r_le (w_L_law_b1545 G h0 N K23 hK23 _ _ _ _ _ _) (Nat.le_refl _) (And.intro rfl (And.intro rfl (And.intro rfl (And.intro rfl (And.intro rfl trivial)))))
    refine r_tswC (t := 1570) (c0 := (38 : Int32)) dL_law_40 (by decide) (by decide) rfl (by decide) ?_ (fun hc38 => ?_)
    · exact r_le (w_L_law_b1570 G h0 N K23 hK23 _ _ _ _ _ _) (Nat.le_refl _) (And.intro rfl (And.intro rfl (And.intro rfl (And.intro rfl (And.intro rfl trivial)))))
    refine r_tswC (t := 1595) (c0 := (39 : Int32)) dL_law_40 (by decide) (by decide) rfl (by decide) ?_ (fun hc39 => ?_)
    · exact r_le (w_L_law_b1595 G h0 N K23 hK23 _ _ _ _ _ _) (Nat.le_refl _) (And.intro rfl (And.intro rfl (And.intro rfl (And.intro rfl (And.intro rfl trivial)))))
    refine r_tswC (t := 1609) (c0 := (40 : Int32)) dL_law_40 (by decide) (by decide) rfl (by decide) ?_ (fun hc40 => ?_)
    · exact r_le (w_L_law_b1609 G h0 N K23 hK23 _ _ _ _ _ _) (Nat.le_refl _) (And.intro rfl (And.intro rfl (And.intro rfl (And.intro rfl (And.intro rfl trivial)))))
    refine r_tswC (t := 1634) (c0 := (41 : Int32)) dL_law_40 (by decide) (by decide) rfl (by decide) ?_ (fun hc41 => ?_)
    · exact r_le (w_L_law_b1634 G h0 N K23 hK23 _ _ _ _ _ _) (Nat.le_refl _) (And.intro rfl (And.intro rfl (And.intro rfl (And.intro rfl (And.intro rfl trivial)))))
    refine r_tswC (t := 1699) (c0 := (42 : Int32)) dL_law_40 (by decide) (by decide) rfl (by decide) ?_ (fun hc42 => ?_)
    · exact r_le (w_L_law_b1699 G h0 N K23 hK23 _ _ _ _ _ _) (Nat.le_refl _) (And.intro rfl (And.intro rfl (And.intro rfl (And.intro rfl (And.intro rfl trivial)))))
    refine r_tswC (t := 1764) (c0 := (43 : Int32)) dL_law_40 (by decide) (by decide) rfl (by decide) ?_ (fun hc43 => ?_)
    · exact r_le (w_L_law_b1764 G h0 N K23 hK23 _ _ _ _ _ _) (Nat.le_refl _) (And.intro rfl (And.intro rfl (And.intro rfl (And.intro rfl (And.intro rfl trivial)))))
    refine r_tswC (t := 1817) (c0 := (44 : Int32)) dL_law_40 (by decide) (by decide) rfl (by decide) ?_ (fun hc44 => ?_)
    · exact r_le (w_L_law_b1817 G h0 N K23 hK23 _ _ _ _ _ _) (Nat.le_refl _) (And.intro rfl (And.intro rfl (And.intro rfl (And.intro rfl (And.intro rfl trivial)))))
    refine r_tswC (t := 1870) (c0 := (45 : Int32)) dL_law_40 (by decide) (by decide) rfl (by decide) ?_ (fun hc45 => ?_)
    · exact r_le (w_L_law_b1870 G h0 N K23 hK23 _ _ _ _ _ _) (Nat.le_refl _) (And.intro rfl (And.intro rfl (And.intro rfl (And.intro rfl (And.intro rfl trivial)))))
    refine r_tswC (t := 1883) (c0 := (46 : Int32)) dL_law_40 (by decide) (by decide) rfl (by decide) ?_ (fun hc46 => ?_)
    · exact r_le (w_L_law_b1883 G h0 N K23 hK23 _ _ _ _ _ _) (Nat.le_refl _) (And.intro rfl (And.intro rfl (And.intro rfl (And.intro rfl (And.intro rfl trivial)))))
    refine r_tswC (t := 1896) (c0 := (47 : Int32)) dL_law_40 (by decide) (by decide) rfl (by decide) ?_ (fun hc47 => ?_)
    · exact r_le (w_L_law_b1896 G h0 N K23 hK23 _ _ _ _ _ _) (Nat.le_refl _) (And.intro rfl (And.intro rfl (And.intro rfl (And.intro rfl (And.intro rfl trivial)))))
    refine r_tswC (t := 1921) (c0 := (48 : Int32)) dL_law_40 (by decide) (by decide) rfl (by decide) ?_ (fun hc48 => ?_)
    · exact r_le (w_L_law_b1921 G h0 N K23 hK23 _ _ _ _ _ _) (Nat.le_refl _) (And.intro rfl (And.intro rfl (And.intro rfl (And.intro rfl (And.intro rfl trivial)))))
    refine r_tswC (t := 2005) (c0 := (49 : Int32)) dL_law_40 (by decide) (by decide) rfl (by decide) ?_ (fun hc49 => ?_)
    · exact r_le (w_L_law_b2005 G h0 N K23 hK23 _ _ _ _ _ _) (Nat.le_refl _) (And.intro rfl (And.intro rfl (And.intro rfl (And.intro rfl (And.intro rfl trivial)))))
    refine r_tswC (t := 2030) (c0 := (50 : Int32)) dL_law_40 (by decide) (by decide) rfl (by decide) ?_ (fun hc50 => ?_)
    · exact r_le (w_L_law_b2030 G h0 N K23 hK23 _ _ _ _ _ _) (Nat.le_refl _) (And.intro rfl (And.intro rfl (And.intro rfl (And.intro rfl (And.intro rfl trivial)))))
    refine r_tswD (t := 2043) dL_law_40 (tsw_out 51 _ (by decide) (fun k hk => match k, hk with | 0, _ => hc0 | 1, _ => hc1 | 2, _ => hc2 | 3, _ => hc3 | 4, _ => hc4 | 5, _ => hc5 | 6, _ => hc6 | 7, _ => hc7 | 8, _ => hc8 | 9, _ => hc9 | 10, _ => hc10 | 11, _ => hc11 | 12, _ => hc12 | 13, _ => hc13 | 14, _ => hc14 | 15, _ => hc15 | 16, _ => hc16 | 17, _ => hc17 | 18, _ => hc18 | 19, _ => hc19 | 20, _ => hc20 | 21, _ => hc21 | 22, _ => hc22 | 23, _ => hc23 | 24, _ => hc24 | 25, _ => hc25 | 26, _ => hc26 | 27, _ => hc27 | 28, _ => hc28 | 29, _ => hc29 | 30, _ => hc30 | 31, _ => hc31 | 32, _ => hc32 | 33, _ => hc33 | 34, _ => hc34 | 35, _ => hc35 | 36, _ => hc36 | 37, _ => hc37 | 38, _ => hc38 | 39, _ => hc39 | 40, _ => hc40 | 41, _ => hc41 | 42, _ => hc42 | 43, _ => hc43 | 44, _ => hc44 | 45, _ => hc45 | 46, _ => hc46 | 47, _ => hc47 | 48, _ => hc48 | 49, _ => hc49 | 50, _ => hc50 | k + 51, hk => absurd hk (by omega)) : _) (by decide) ?_
    · exact r_le (w_L_law_b2043 G h0 N K23 hK23 _ _ _ _ _ _) (Nat.le_refl _) (And.intro rfl (And.intro rfl (And.intro rfl (And.intro rfl (And.intro rfl trivial)))))
theorem w_L_law_b23 (G : Gx) (h0 : G0 G) (N : Nat)   : ∀ (z : Nat) (l0 : Option Nat) (l1 : Option Nat) (l2 : Option Nat) (l3 : Option Nat) (l4 : Int32) (σ : Mem), Runs G mL_law rhoI σ 23 [some (vR l0), some (vR l1), some (vR l2), some (vR l3), some (vI l4), none, none] [] (f_L_law_b23 N  z l0 l1 l2 l3 l4 σ) := by
  intro z
  induction z with
  | zero => exact fun _ _ _ _ _ _ => r_none
  | succ z ih => exact fun l0 l1 l2 l3 l4 σ => w_L_law_b23B G h0 N   _ ih l0 l1 l2 l3 l4 σ
theorem w_L_law (G : Gx) (h0 : G0 G) (N : Nat) (o0 : Option Nat) (σ : Mem) : Runs G mL_law rhoI σ 0 [some (vR o0), none, none, none, none, none, none] [] (f_L_law N o0 σ) := by
  unfold f_L_law
  refine r_new (q := 3) (ci := 0) rfl rfl q202 q203 q167 dL_law_0 rfl (fun a1 σ2 => ?_)
  refine r_dup (q := 4) dL_law_3 rfl rfl ?_
  refine r_callV (q := 7) (c_X1_init G h0 N _ _) (cl_I rfl rfl rfl rfl q204 q205 q167 q206 (hd_X1_init) ⟨Nat.le_of_ble_eq_true rfl, Nat.le_of_ble_eq_true rfl⟩ rfl (Nat.le_of_ble_eq_true rfl) dL_law_4) rfl (fun u3 σ4 => ?_)
  refine r_astore_n (q := 8) dL_law_7 rfl rfl (Nat.le_of_ble_eq_true rfl) rfl ?_
  refine r_new (q := 11) (ci := 6) rfl rfl q1883 q1884 q176 dL_law_8 rfl (fun a5 σ6 => ?_)
  refine r_dup (q := 12) dL_law_11 rfl rfl ?_
  refine r_callV (q := 15) (c_X7_init G h0 N _ _) (cl_I rfl rfl rfl rfl q1885 q1886 q176 q1887 (hd_X7_init) ⟨Nat.le_of_ble_eq_true rfl, Nat.le_of_ble_eq_true rfl⟩ rfl (Nat.le_of_ble_eq_true rfl) dL_law_12) rfl (fun u7 σ8 => ?_)
  refine r_astore_n (q := 16) dL_law_15 rfl rfl (Nat.le_of_ble_eq_true rfl) rfl ?_
  refine r_iconst (q := 17) (v := (1 : Int32)) dL_law_16 rfl (by decide) ?_
  refine r_newarray (q := 19) (k0 := 4) (by decide) rfl q2181 dL_law_17 rfl (fun a9 σ10 => ?_)
  refine r_astore_n (q := 20) dL_law_19 rfl rfl (Nat.le_of_ble_eq_true rfl) rfl ?_
  refine r_iconst (q := 21) (v := (0 : Int32)) dL_law_20 rfl (by decide) ?_
  refine r_istore (q := 23) dL_law_21 rfl (Nat.le_of_ble_eq_true rfl) rfl ?_
  exact r_le (w_L_law_b23 G h0 N N _ _ _ _ _ _) (Nat.le_refl _) (And.intro rfl (And.intro rfl (And.intro rfl (And.intro rfl (And.intro rfl trivial)))))
