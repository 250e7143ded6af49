/-! the cases of the law -/
set_option maxRecDepth 100000
abbrev cL_law : ByteArray := code
def dkwL_law_97 : List UInt8 := [159, 0, 5, 3, 172, 132, 4, 6, 167, 246, 167, 4, 172]
abbrev dktL_law_97 : List UInt8 := dkwL_law_97 ++ []
def dkwL_law_96 : List UInt8 := [167, 0, 27, 43, 182, 0, 249, 44, 182, 0, 252, 167, 0, 16, 43, 182, 0, 253, 44, 182, 1, 1]
abbrev dktL_law_96 : List UInt8 := dkwL_law_96 ++ dktL_law_97
def dkwL_law_95 : List UInt8 := [159, 0, 5, 3, 172, 21, 5, 154, 0, 15, 45, 3, 47, 21, 6, 133, 148, 153, 0, 5, 3, 172]
abbrev dktL_law_95 : List UInt8 := dkwL_law_95 ++ dktL_law_96
def dkwL_law_94 : List UInt8 := [21, 4, 4, 96, 46, 42, 21, 4, 5, 96, 46, 182, 0, 248, 54, 6, 44, 182, 0, 125, 21, 5]
abbrev dktL_law_94 : List UInt8 := dkwL_law_94 ++ dktL_law_95
def dkwL_law_93 : List UInt8 := [167, 0, 95, 43, 42, 21, 4, 4, 96, 46, 42, 21, 4, 5, 96, 46, 45, 184, 0, 246, 54, 5, 44, 42]
abbrev dktL_law_93 : List UInt8 := dkwL_law_93 ++ dktL_law_94
def dkwL_law_92 : List UInt8 := [159, 0, 5, 3, 172, 21, 5, 154, 0, 15, 45, 3, 47, 21, 6, 133, 148, 153, 0, 5, 3, 172]
abbrev dktL_law_92 : List UInt8 := dkwL_law_92 ++ dktL_law_93
def dkwL_law_91 : List UInt8 := [184, 0, 243, 54, 5, 44, 42, 21, 4, 4, 96, 46, 182, 0, 245, 54, 6, 44, 182, 0, 125, 21, 5]
abbrev dktL_law_91 : List UInt8 := dkwL_law_91 ++ dktL_law_92
def dkwL_law_90 : List UInt8 := [3, 47, 21, 6, 133, 148, 153, 0, 5, 3, 172, 167, 0, 151, 43, 42, 21, 4, 4, 96, 46, 45]
abbrev dktL_law_90 : List UInt8 := dkwL_law_90 ++ dktL_law_91
def dkwL_law_89 : List UInt8 := [96, 46, 182, 0, 242, 54, 6, 44, 182, 0, 125, 21, 5, 159, 0, 5, 3, 172, 21, 5, 154, 0, 15, 45]
abbrev dktL_law_89 : List UInt8 := dkwL_law_89 ++ dktL_law_90
def dkwL_law_88 : List UInt8 := [46, 42, 21, 4, 5, 96, 46, 45, 184, 0, 240, 54, 5, 44, 42, 21, 4, 4, 96, 46, 42, 21, 4, 5]
abbrev dktL_law_88 : List UInt8 := dkwL_law_88 ++ dktL_law_89
def dkwL_law_87 : List UInt8 := [154, 0, 15, 45, 3, 47, 21, 6, 133, 148, 153, 0, 5, 3, 172, 167, 0, 219, 43, 42, 21, 4, 4, 96]
abbrev dktL_law_87 : List UInt8 := dkwL_law_87 ++ dktL_law_88
def dkwL_law_86 : List UInt8 := [21, 4, 4, 96, 46, 182, 0, 239, 54, 6, 44, 182, 0, 125, 21, 5, 159, 0, 5, 3, 172, 21, 5]
abbrev dktL_law_86 : List UInt8 := dkwL_law_86 ++ dktL_law_87
def dkwL_law_85 : List UInt8 := [153, 0, 5, 3, 172, 167, 1, 19, 43, 42, 21, 4, 4, 96, 46, 45, 184, 0, 237, 54, 5, 44, 42]
abbrev dktL_law_85 : List UInt8 := dkwL_law_85 ++ dktL_law_86
def dkwL_law_84 : List UInt8 := [182, 0, 125, 21, 5, 159, 0, 5, 3, 172, 21, 5, 154, 0, 15, 45, 3, 47, 21, 6, 133, 148]
abbrev dktL_law_84 : List UInt8 := dkwL_law_84 ++ dktL_law_85
def dkwL_law_83 : List UInt8 := [21, 4, 4, 96, 46, 45, 184, 0, 234, 54, 5, 44, 42, 21, 4, 4, 96, 46, 182, 0, 236, 54, 6, 44]
abbrev dktL_law_83 : List UInt8 := dkwL_law_83 ++ dktL_law_84
def dkwL_law_82 : List UInt8 := [172, 21, 5, 154, 0, 15, 45, 3, 47, 21, 6, 133, 148, 153, 0, 5, 3, 172, 167, 1, 75, 43, 42]
abbrev dktL_law_82 : List UInt8 := dkwL_law_82 ++ dktL_law_83
def dkwL_law_81 : List UInt8 := [54, 5, 44, 42, 21, 4, 4, 96, 46, 182, 0, 233, 54, 6, 44, 182, 0, 125, 21, 5, 159, 0, 5, 3]
abbrev dktL_law_81 : List UInt8 := dkwL_law_81 ++ dktL_law_82
def dkwL_law_80 : List UInt8 := [21, 6, 133, 148, 153, 0, 5, 3, 172, 167, 1, 131, 43, 42, 21, 4, 4, 96, 46, 45, 184, 0, 231]
abbrev dktL_law_80 : List UInt8 := dkwL_law_80 ++ dktL_law_81
def dkwL_law_79 : List UInt8 := [182, 0, 230, 54, 6, 44, 182, 0, 125, 21, 5, 159, 0, 5, 3, 172, 21, 5, 154, 0, 15, 45, 3, 47]
abbrev dktL_law_79 : List UInt8 := dkwL_law_79 ++ dktL_law_80
def dkwL_law_78 : List UInt8 := [167, 1, 187, 43, 42, 21, 4, 4, 96, 46, 45, 184, 0, 228, 54, 5, 44, 42, 21, 4, 4, 96, 46]
abbrev dktL_law_78 : List UInt8 := dkwL_law_78 ++ dktL_law_79
def dkwL_law_77 : List UInt8 := [21, 5, 159, 0, 5, 3, 172, 21, 5, 154, 0, 15, 45, 3, 47, 21, 6, 133, 148, 153, 0, 5, 3, 172]
abbrev dktL_law_77 : List UInt8 := dkwL_law_77 ++ dktL_law_78
def dkwL_law_76 : List UInt8 := [46, 45, 184, 0, 225, 54, 5, 44, 42, 21, 4, 4, 96, 46, 182, 0, 227, 54, 6, 44, 182, 0, 125]
abbrev dktL_law_76 : List UInt8 := dkwL_law_76 ++ dktL_law_77
def dkwL_law_75 : List UInt8 := [154, 0, 15, 45, 3, 47, 21, 6, 133, 148, 153, 0, 5, 3, 172, 167, 1, 243, 43, 42, 21, 4, 4, 96]
abbrev dktL_law_75 : List UInt8 := dkwL_law_75 ++ dktL_law_76
def dkwL_law_74 : List UInt8 := [21, 4, 6, 96, 46, 182, 0, 224, 54, 6, 44, 182, 0, 125, 21, 5, 159, 0, 5, 3, 172, 21, 5]
abbrev dktL_law_74 : List UInt8 := dkwL_law_74 ++ dktL_law_75
def dkwL_law_73 : List UInt8 := [6, 96, 46, 45, 184, 0, 222, 54, 5, 44, 42, 21, 4, 4, 96, 46, 42, 21, 4, 5, 96, 46, 42]
abbrev dktL_law_73 : List UInt8 := dkwL_law_73 ++ dktL_law_74
def dkwL_law_72 : List UInt8 := [153, 0, 5, 3, 172, 167, 2, 67, 43, 42, 21, 4, 4, 96, 46, 42, 21, 4, 5, 96, 46, 42, 21, 4]
abbrev dktL_law_72 : List UInt8 := dkwL_law_72 ++ dktL_law_73
def dkwL_law_71 : List UInt8 := [182, 0, 125, 21, 5, 159, 0, 5, 3, 172, 21, 5, 154, 0, 15, 45, 3, 47, 21, 6, 133, 148]
abbrev dktL_law_71 : List UInt8 := dkwL_law_71 ++ dktL_law_72
def dkwL_law_70 : List UInt8 := [21, 4, 4, 96, 46, 42, 21, 4, 5, 96, 46, 42, 21, 4, 6, 96, 46, 182, 0, 221, 54, 6, 44]
abbrev dktL_law_70 : List UInt8 := dkwL_law_70 ++ dktL_law_71
def dkwL_law_69 : List UInt8 := [4, 96, 46, 42, 21, 4, 5, 96, 46, 42, 21, 4, 6, 96, 46, 45, 184, 0, 219, 54, 5, 44, 42]
abbrev dktL_law_69 : List UInt8 := dkwL_law_69 ++ dktL_law_70
def dkwL_law_68 : List UInt8 := [21, 5, 154, 0, 15, 45, 3, 47, 21, 6, 133, 148, 153, 0, 5, 3, 172, 167, 2, 147, 43, 42, 21, 4]
abbrev dktL_law_68 : List UInt8 := dkwL_law_68 ++ dktL_law_69
def dkwL_law_67 : List UInt8 := [96, 46, 42, 21, 4, 6, 96, 46, 182, 0, 218, 54, 6, 44, 182, 0, 125, 21, 5, 159, 0, 5, 3, 172]
abbrev dktL_law_67 : List UInt8 := dkwL_law_67 ++ dktL_law_68
def dkwL_law_66 : List UInt8 := [46, 42, 21, 4, 6, 96, 46, 45, 184, 0, 216, 54, 5, 44, 42, 21, 4, 4, 96, 46, 42, 21, 4, 5]
abbrev dktL_law_66 : List UInt8 := dkwL_law_66 ++ dktL_law_67
def dkwL_law_65 : List UInt8 := [21, 6, 133, 148, 153, 0, 5, 3, 172, 167, 2, 227, 43, 42, 21, 4, 4, 96, 46, 42, 21, 4, 5, 96]
abbrev dktL_law_65 : List UInt8 := dkwL_law_65 ++ dktL_law_66
def dkwL_law_64 : List UInt8 := [182, 0, 215, 54, 6, 44, 182, 0, 125, 21, 5, 159, 0, 5, 3, 172, 21, 5, 154, 0, 15, 45, 3, 47]
abbrev dktL_law_64 : List UInt8 := dkwL_law_64 ++ dktL_law_65
def dkwL_law_63 : List UInt8 := [167, 3, 27, 43, 42, 21, 4, 4, 96, 46, 45, 184, 0, 213, 54, 5, 44, 42, 21, 4, 4, 96, 46]
abbrev dktL_law_63 : List UInt8 := dkwL_law_63 ++ dktL_law_64
def dkwL_law_62 : List UInt8 := [21, 5, 159, 0, 5, 3, 172, 21, 5, 154, 0, 15, 45, 3, 47, 21, 6, 133, 148, 153, 0, 5, 3, 172]
abbrev dktL_law_62 : List UInt8 := dkwL_law_62 ++ dktL_law_63
def dkwL_law_61 : List UInt8 := [96, 46, 45, 184, 0, 210, 54, 5, 44, 42, 21, 4, 4, 96, 46, 182, 0, 212, 54, 6, 44, 182, 0, 125]
abbrev dktL_law_61 : List UInt8 := dkwL_law_61 ++ dktL_law_62
def dkwL_law_60 : List UInt8 := [153, 0, 5, 3, 172, 167, 3, 94, 43, 182, 0, 206, 44, 182, 0, 209, 167, 3, 83, 43, 42, 21, 4, 4]
abbrev dktL_law_60 : List UInt8 := dkwL_law_60 ++ dktL_law_61
def dkwL_law_59 : List UInt8 := [182, 0, 125, 21, 5, 159, 0, 5, 3, 172, 21, 5, 154, 0, 15, 45, 3, 47, 21, 6, 133, 148]
abbrev dktL_law_59 : List UInt8 := dkwL_law_59 ++ dktL_law_60
def dkwL_law_58 : List UInt8 := [42, 21, 4, 4, 96, 46, 42, 21, 4, 5, 96, 46, 42, 21, 4, 6, 96, 46, 182, 0, 205, 54, 6, 44]
abbrev dktL_law_58 : List UInt8 := dkwL_law_58 ++ dktL_law_59
def dkwL_law_57 : List UInt8 := [21, 4, 4, 96, 46, 42, 21, 4, 5, 96, 46, 42, 21, 4, 6, 96, 46, 45, 184, 0, 203, 54, 5, 44]
abbrev dktL_law_57 : List UInt8 := dkwL_law_57 ++ dktL_law_58
def dkwL_law_56 : List UInt8 := [172, 21, 5, 154, 0, 15, 45, 3, 47, 21, 6, 133, 148, 153, 0, 5, 3, 172, 167, 3, 174, 43, 42]
abbrev dktL_law_56 : List UInt8 := dkwL_law_56 ++ dktL_law_57
def dkwL_law_55 : List UInt8 := [54, 5, 44, 42, 21, 4, 4, 96, 46, 182, 0, 202, 54, 6, 44, 182, 0, 125, 21, 5, 159, 0, 5, 3]
abbrev dktL_law_55 : List UInt8 := dkwL_law_55 ++ dktL_law_56
def dkwL_law_54 : List UInt8 := [182, 0, 196, 44, 182, 0, 199, 159, 3, 232, 3, 172, 43, 42, 21, 4, 4, 96, 46, 45, 184, 0, 200]
abbrev dktL_law_54 : List UInt8 := dkwL_law_54 ++ dktL_law_55
def dkwL_law_53 : List UInt8 := [153, 0, 5, 3, 172, 167, 4, 0, 43, 182, 0, 192, 44, 182, 0, 195, 159, 3, 245, 3, 172, 43]
abbrev dktL_law_53 : List UInt8 := dkwL_law_53 ++ dktL_law_54
def dkwL_law_52 : List UInt8 := [182, 0, 125, 21, 5, 159, 0, 5, 3, 172, 21, 5, 154, 0, 15, 45, 3, 47, 21, 6, 133, 148]
abbrev dktL_law_52 : List UInt8 := dkwL_law_52 ++ dktL_law_53
def dkwL_law_51 : List UInt8 := [184, 0, 189, 54, 5, 44, 42, 21, 4, 4, 96, 46, 42, 21, 4, 5, 96, 46, 182, 0, 191, 54, 6, 44]
abbrev dktL_law_51 : List UInt8 := dkwL_law_51 ++ dktL_law_52
def dkwL_law_50 : List UInt8 := [153, 0, 5, 3, 172, 167, 4, 68, 43, 42, 21, 4, 4, 96, 46, 42, 21, 4, 5, 96, 46, 45]
abbrev dktL_law_50 : List UInt8 := dkwL_law_50 ++ dktL_law_51
def dkwL_law_49 : List UInt8 := [182, 0, 125, 21, 5, 159, 0, 5, 3, 172, 21, 5, 154, 0, 15, 45, 3, 47, 21, 6, 133, 148]
abbrev dktL_law_49 : List UInt8 := dkwL_law_49 ++ dktL_law_50
def dkwL_law_48 : List UInt8 := [184, 0, 186, 54, 5, 44, 42, 21, 4, 4, 96, 46, 42, 21, 4, 5, 96, 46, 182, 0, 188, 54, 6, 44]
abbrev dktL_law_48 : List UInt8 := dkwL_law_48 ++ dktL_law_49
def dkwL_law_47 : List UInt8 := [148, 153, 0, 5, 3, 172, 167, 4, 136, 43, 42, 21, 4, 4, 96, 46, 42, 21, 4, 5, 96, 46, 45]
abbrev dktL_law_47 : List UInt8 := dkwL_law_47 ++ dktL_law_48
def dkwL_law_46 : List UInt8 := [54, 6, 44, 182, 0, 125, 21, 5, 159, 0, 5, 3, 172, 21, 5, 154, 0, 15, 45, 3, 47, 21, 6, 133]
abbrev dktL_law_46 : List UInt8 := dkwL_law_46 ++ dktL_law_47
def dkwL_law_45 : List UInt8 := [54, 5, 44, 42, 21, 4, 4, 96, 46, 42, 21, 4, 5, 96, 46, 42, 21, 4, 6, 96, 46, 182, 0, 185]
abbrev dktL_law_45 : List UInt8 := dkwL_law_45 ++ dktL_law_46
def dkwL_law_44 : List UInt8 := [172, 43, 42, 21, 4, 4, 96, 46, 42, 21, 4, 5, 96, 46, 42, 21, 4, 6, 96, 46, 45, 184, 0, 183]
abbrev dktL_law_44 : List UInt8 := dkwL_law_44 ++ dktL_law_45
def dkwL_law_43 : List UInt8 := [21, 6, 133, 148, 153, 0, 5, 3, 172, 167, 4, 229, 43, 182, 0, 179, 44, 182, 0, 182, 159, 4, 218, 3]
abbrev dktL_law_43 : List UInt8 := dkwL_law_43 ++ dktL_law_44
def dkwL_law_42 : List UInt8 := [182, 0, 178, 54, 6, 44, 182, 0, 125, 21, 5, 159, 0, 5, 3, 172, 21, 5, 154, 0, 15, 45, 3, 47]
abbrev dktL_law_42 : List UInt8 := dkwL_law_42 ++ dktL_law_43
def dkwL_law_41 : List UInt8 := [167, 5, 29, 43, 42, 21, 4, 4, 96, 46, 45, 184, 0, 176, 54, 5, 44, 42, 21, 4, 4, 96, 46]
abbrev dktL_law_41 : List UInt8 := dkwL_law_41 ++ dktL_law_42
def dkwL_law_40 : List UInt8 := [159, 0, 5, 3, 172, 21, 5, 154, 0, 15, 45, 3, 47, 21, 6, 133, 148, 153, 0, 5, 3, 172]
abbrev dktL_law_40 : List UInt8 := dkwL_law_40 ++ dktL_law_41
def dkwL_law_39 : List UInt8 := [184, 0, 173, 54, 5, 44, 42, 21, 4, 4, 96, 46, 182, 0, 175, 54, 6, 44, 182, 0, 125, 21, 5]
abbrev dktL_law_39 : List UInt8 := dkwL_law_39 ++ dktL_law_40
def dkwL_law_38 : List UInt8 := [3, 47, 21, 6, 133, 148, 153, 0, 5, 3, 172, 167, 5, 85, 43, 42, 21, 4, 4, 96, 46, 45]
abbrev dktL_law_38 : List UInt8 := dkwL_law_38 ++ dktL_law_39
def dkwL_law_37 : List UInt8 := [96, 46, 182, 0, 172, 54, 6, 44, 182, 0, 125, 21, 5, 159, 0, 5, 3, 172, 21, 5, 154, 0, 15, 45]
abbrev dktL_law_37 : List UInt8 := dkwL_law_37 ++ dktL_law_38
def dkwL_law_36 : List UInt8 := [46, 42, 21, 4, 5, 96, 46, 45, 184, 0, 170, 54, 5, 44, 42, 21, 4, 4, 96, 46, 42, 21, 4, 5]
abbrev dktL_law_36 : List UInt8 := dkwL_law_36 ++ dktL_law_37
def dkwL_law_35 : List UInt8 := [154, 0, 15, 45, 3, 47, 21, 6, 133, 148, 153, 0, 5, 3, 172, 167, 5, 153, 43, 42, 21, 4, 4, 96]
abbrev dktL_law_35 : List UInt8 := dkwL_law_35 ++ dktL_law_36
def dkwL_law_34 : List UInt8 := [21, 4, 6, 96, 46, 182, 0, 169, 54, 6, 44, 182, 0, 125, 21, 5, 159, 0, 5, 3, 172, 21, 5]
abbrev dktL_law_34 : List UInt8 := dkwL_law_34 ++ dktL_law_35
def dkwL_law_33 : List UInt8 := [6, 96, 46, 45, 184, 0, 166, 54, 5, 44, 42, 21, 4, 4, 96, 46, 42, 21, 4, 5, 96, 46, 42]
abbrev dktL_law_33 : List UInt8 := dkwL_law_33 ++ dktL_law_34
def dkwL_law_32 : List UInt8 := [182, 0, 165, 159, 5, 235, 3, 172, 43, 42, 21, 4, 4, 96, 46, 42, 21, 4, 5, 96, 46, 42, 21, 4]
abbrev dktL_law_32 : List UInt8 := dkwL_law_32 ++ dktL_law_33
def dkwL_law_31 : List UInt8 := [154, 0, 15, 45, 3, 47, 21, 6, 133, 148, 153, 0, 5, 3, 172, 167, 5, 246, 43, 182, 0, 162, 44]
abbrev dktL_law_31 : List UInt8 := dkwL_law_31 ++ dktL_law_32
def dkwL_law_30 : List UInt8 := [21, 4, 4, 96, 46, 182, 0, 161, 54, 6, 44, 182, 0, 125, 21, 5, 159, 0, 5, 3, 172, 21, 5]
abbrev dktL_law_30 : List UInt8 := dkwL_law_30 ++ dktL_law_31
def dkwL_law_29 : List UInt8 := [153, 0, 5, 3, 172, 167, 6, 46, 43, 42, 21, 4, 4, 96, 46, 45, 184, 0, 159, 54, 5, 44, 42]
abbrev dktL_law_29 : List UInt8 := dkwL_law_29 ++ dktL_law_30
def dkwL_law_28 : List UInt8 := [159, 0, 5, 3, 172, 21, 5, 154, 0, 22, 45, 3, 47, 21, 6, 153, 0, 7, 10, 167, 0, 4, 9, 148]
abbrev dktL_law_28 : List UInt8 := dkwL_law_28 ++ dktL_law_29
def dkwL_law_27 : List UInt8 := [21, 4, 4, 96, 46, 42, 21, 4, 5, 96, 46, 182, 0, 158, 54, 6, 44, 182, 0, 125, 21, 5]
abbrev dktL_law_27 : List UInt8 := dkwL_law_27 ++ dktL_law_28
def dkwL_law_26 : List UInt8 := [167, 6, 121, 43, 42, 21, 4, 4, 96, 46, 42, 21, 4, 5, 96, 46, 45, 184, 0, 156, 54, 5, 44, 42]
abbrev dktL_law_26 : List UInt8 := dkwL_law_26 ++ dktL_law_27
def dkwL_law_25 : List UInt8 := [159, 0, 5, 3, 172, 21, 5, 154, 0, 15, 45, 3, 47, 21, 6, 133, 148, 153, 0, 5, 3, 172]
abbrev dktL_law_25 : List UInt8 := dkwL_law_25 ++ dktL_law_26
def dkwL_law_24 : List UInt8 := [21, 4, 4, 96, 46, 42, 21, 4, 5, 96, 46, 182, 0, 155, 54, 6, 44, 182, 0, 125, 21, 5]
abbrev dktL_law_24 : List UInt8 := dkwL_law_24 ++ dktL_law_25
def dkwL_law_23 : List UInt8 := [167, 6, 189, 43, 42, 21, 4, 4, 96, 46, 42, 21, 4, 5, 96, 46, 45, 184, 0, 153, 54, 5, 44, 42]
abbrev dktL_law_23 : List UInt8 := dkwL_law_23 ++ dktL_law_24
def dkwL_law_22 : List UInt8 := [159, 0, 5, 3, 172, 21, 5, 154, 0, 15, 45, 3, 47, 21, 6, 133, 148, 153, 0, 5, 3, 172]
abbrev dktL_law_22 : List UInt8 := dkwL_law_22 ++ dktL_law_23
def dkwL_law_21 : List UInt8 := [44, 42, 21, 4, 4, 96, 46, 42, 21, 4, 5, 96, 46, 182, 0, 152, 54, 6, 44, 182, 0, 125, 21, 5]
abbrev dktL_law_21 : List UInt8 := dkwL_law_21 ++ dktL_law_22
def dkwL_law_20 : List UInt8 := [159, 7, 3, 3, 172, 43, 42, 21, 4, 4, 96, 46, 42, 21, 4, 5, 96, 46, 45, 184, 0, 150, 54, 5]
abbrev dktL_law_20 : List UInt8 := dkwL_law_20 ++ dktL_law_21
def dkwL_law_19 : List UInt8 := [167, 7, 26, 43, 42, 21, 4, 4, 96, 46, 182, 0, 146, 44, 42, 21, 4, 4, 96, 46, 182, 0, 149]
abbrev dktL_law_19 : List UInt8 := dkwL_law_19 ++ dktL_law_20
def dkwL_law_18 : List UInt8 := [21, 5, 159, 0, 5, 3, 172, 21, 5, 154, 0, 15, 45, 3, 47, 21, 6, 133, 148, 153, 0, 5, 3, 172]
abbrev dktL_law_18 : List UInt8 := dkwL_law_18 ++ dktL_law_19
def dkwL_law_17 : List UInt8 := [46, 45, 184, 0, 143, 54, 5, 44, 42, 21, 4, 4, 96, 46, 182, 0, 145, 54, 6, 44, 182, 0, 125]
abbrev dktL_law_17 : List UInt8 := dkwL_law_17 ++ dktL_law_18
def dkwL_law_16 : List UInt8 := [154, 0, 15, 45, 3, 47, 21, 6, 133, 148, 153, 0, 5, 3, 172, 167, 7, 82, 43, 42, 21, 4, 4, 96]
abbrev dktL_law_16 : List UInt8 := dkwL_law_16 ++ dktL_law_17
def dkwL_law_15 : List UInt8 := [21, 4, 4, 96, 46, 182, 0, 142, 54, 6, 44, 182, 0, 125, 21, 5, 159, 0, 5, 3, 172, 21, 5]
abbrev dktL_law_15 : List UInt8 := dkwL_law_15 ++ dktL_law_16
def dkwL_law_14 : List UInt8 := [153, 0, 5, 3, 172, 167, 7, 138, 43, 42, 21, 4, 4, 96, 46, 45, 184, 0, 140, 54, 5, 44, 42]
abbrev dktL_law_14 : List UInt8 := dkwL_law_14 ++ dktL_law_15
def dkwL_law_13 : List UInt8 := [182, 0, 125, 21, 5, 159, 0, 5, 3, 172, 21, 5, 154, 0, 15, 45, 3, 47, 21, 6, 133, 148]
abbrev dktL_law_13 : List UInt8 := dkwL_law_13 ++ dktL_law_14
def dkwL_law_12 : List UInt8 := [184, 0, 136, 54, 5, 44, 42, 21, 4, 4, 96, 46, 42, 21, 4, 5, 96, 46, 182, 0, 139, 54, 6, 44]
abbrev dktL_law_12 : List UInt8 := dkwL_law_12 ++ dktL_law_13
def dkwL_law_11 : List UInt8 := [153, 0, 5, 3, 172, 167, 7, 206, 43, 42, 21, 4, 4, 96, 46, 42, 21, 4, 5, 96, 46, 45]
abbrev dktL_law_11 : List UInt8 := dkwL_law_11 ++ dktL_law_12
def dkwL_law_10 : List UInt8 := [182, 0, 125, 21, 5, 159, 0, 5, 3, 172, 21, 5, 154, 0, 15, 45, 3, 47, 21, 6, 133, 148]
abbrev dktL_law_10 : List UInt8 := dkwL_law_10 ++ dktL_law_11
def dkwL_law_9 : List UInt8 := [21, 4, 4, 96, 46, 45, 184, 0, 133, 54, 5, 44, 42, 21, 4, 4, 96, 46, 182, 0, 135, 54, 6, 44]
abbrev dktL_law_9 : List UInt8 := dkwL_law_9 ++ dktL_law_10
def dkwL_law_8 : List UInt8 := [148, 153, 0, 5, 3, 172, 167, 8, 19, 43, 182, 0, 129, 44, 182, 0, 132, 159, 8, 8, 3, 172, 43, 42]
abbrev dktL_law_8 : List UInt8 := dkwL_law_8 ++ dktL_law_9
def dkwL_law_7 : List UInt8 := [54, 6, 44, 182, 0, 125, 21, 5, 159, 0, 5, 3, 172, 21, 5, 154, 0, 15, 45, 3, 47, 21, 6, 133]
abbrev dktL_law_7 : List UInt8 := dkwL_law_7 ++ dktL_law_8
def dkwL_law_6 : List UInt8 := [172, 43, 42, 21, 4, 4, 96, 46, 45, 184, 0, 119, 54, 5, 44, 42, 21, 4, 4, 96, 46, 182, 0, 124]
abbrev dktL_law_6 : List UInt8 := dkwL_law_6 ++ dktL_law_7
def dkwL_law_5 : List UInt8 := [21, 4, 6, 96, 46, 42, 21, 4, 7, 96, 46, 42, 21, 4, 8, 96, 46, 182, 0, 118, 159, 8, 77, 3]
abbrev dktL_law_5 : List UInt8 := dkwL_law_5 ++ dktL_law_6
def dkwL_law_4 : List UInt8 := [46, 42, 21, 4, 8, 96, 46, 182, 0, 114, 44, 42, 21, 4, 4, 96, 46, 42, 21, 4, 5, 96, 46, 42]
abbrev dktL_law_4 : List UInt8 := dkwL_law_4 ++ dktL_law_5
def dkwL_law_3 : List UInt8 := [43, 42, 21, 4, 4, 96, 46, 42, 21, 4, 5, 96, 46, 42, 21, 4, 6, 96, 46, 42, 21, 4, 7, 96]
abbrev dktL_law_3 : List UInt8 := dkwL_law_3 ++ dktL_law_4
def dkwL_law_2 : List UInt8 := [170, 0, 0, 0, 0, 0, 9, 69, 0, 0, 0, 0, 0, 0, 0, 40, 0, 0, 0, 180, 0, 0, 0, 253, 0, 0, 1, 53, 0, 0, 1, 66, 0, 0, 1, 122, 0, 0, 1, 190, 0, 0, 1, 246, 0, 0, 2, 46, 0, 0, 2, 71, 0, 0, 2, 139, 0, 0, 2, 207, 0, 0, 3, 26, 0, 0, 3, 82, 0, 0, 3, 95, 0, 0, 3, 175, 0, 0, 3, 243, 0, 0, 4, 43, 0, 0, 4, 99, 0, 0, 4, 112, 0, 0, 4, 192, 0, 0, 5, 4, 0, 0, 5, 72, 0, 0, 5, 85, 0, 0, 5, 98, 0, 0, 5, 154, 0, 0, 5, 234, 0, 0, 5, 245, 0, 0, 6, 45, 0, 0, 6, 101, 0, 0, 6, 181, 0, 0, 7, 5, 0, 0, 7, 85, 0, 0, 7, 141, 0, 0, 7, 197, 0, 0, 7, 253, 0, 0, 8, 53, 0, 0, 8, 109, 0, 0, 8, 177, 0, 0, 8, 233, 0, 0, 9, 45, 0, 0, 9, 56]
abbrev dktL_law_2 : List UInt8 := dkwL_law_2 ++ dktL_law_3
def dkwL_law_1 : List UInt8 := [21, 4, 42, 190, 16, 6, 100, 163, 9, 85, 42, 21, 4, 46, 16, 63, 126]
abbrev dktL_law_1 : List UInt8 := dkwL_law_1 ++ dktL_law_2
def dkwL_law_0 : List UInt8 := [187, 0, 8, 89, 183, 0, 110, 76, 187, 0, 111, 89, 183, 0, 113, 77, 4, 188, 11, 78, 3, 54, 4]
abbrev dktL_law_0 : List UInt8 := dkwL_law_0 ++ dktL_law_1
theorem dksL_law_0 : cL_law.data.toList.drop 0 = dktL_law_0 := by decide +kernel
theorem dksL_law_1 : cL_law.data.toList.drop 23 = dktL_law_1 := dk_seg dksL_law_0 23 rfl rfl
theorem dksL_law_2 : cL_law.data.toList.drop 40 = dktL_law_2 := dk_seg dksL_law_1 17 rfl rfl
theorem dksL_law_3 : cL_law.data.toList.drop 220 = dktL_law_3 := dk_seg dksL_law_2 180 rfl rfl
theorem dksL_law_4 : cL_law.data.toList.drop 244 = dktL_law_4 := dk_seg dksL_law_3 24 rfl rfl
theorem dksL_law_5 : cL_law.data.toList.drop 268 = dktL_law_5 := dk_seg dksL_law_4 24 rfl rfl
theorem dksL_law_6 : cL_law.data.toList.drop 292 = dktL_law_6 := dk_seg dksL_law_5 24 rfl rfl
theorem dksL_law_7 : cL_law.data.toList.drop 316 = dktL_law_7 := dk_seg dksL_law_6 24 rfl rfl
theorem dksL_law_8 : cL_law.data.toList.drop 340 = dktL_law_8 := dk_seg dksL_law_7 24 rfl rfl
theorem dksL_law_9 : cL_law.data.toList.drop 364 = dktL_law_9 := dk_seg dksL_law_8 24 rfl rfl
theorem dksL_law_10 : cL_law.data.toList.drop 388 = dktL_law_10 := dk_seg dksL_law_9 24 rfl rfl
theorem dksL_law_11 : cL_law.data.toList.drop 410 = dktL_law_11 := dk_seg dksL_law_10 22 rfl rfl
theorem dksL_law_12 : cL_law.data.toList.drop 432 = dktL_law_12 := dk_seg dksL_law_11 22 rfl rfl
theorem dksL_law_13 : cL_law.data.toList.drop 456 = dktL_law_13 := dk_seg dksL_law_12 24 rfl rfl
theorem dksL_law_14 : cL_law.data.toList.drop 478 = dktL_law_14 := dk_seg dksL_law_13 22 rfl rfl
theorem dksL_law_15 : cL_law.data.toList.drop 501 = dktL_law_15 := dk_seg dksL_law_14 23 rfl rfl
theorem dksL_law_16 : cL_law.data.toList.drop 524 = dktL_law_16 := dk_seg dksL_law_15 23 rfl rfl
theorem dksL_law_17 : cL_law.data.toList.drop 548 = dktL_law_17 := dk_seg dksL_law_16 24 rfl rfl
theorem dksL_law_18 : cL_law.data.toList.drop 571 = dktL_law_18 := dk_seg dksL_law_17 23 rfl rfl
theorem dksL_law_19 : cL_law.data.toList.drop 595 = dktL_law_19 := dk_seg dksL_law_18 24 rfl rfl
theorem dksL_law_20 : cL_law.data.toList.drop 618 = dktL_law_20 := dk_seg dksL_law_19 23 rfl rfl
theorem dksL_law_21 : cL_law.data.toList.drop 642 = dktL_law_21 := dk_seg dksL_law_20 24 rfl rfl
theorem dksL_law_22 : cL_law.data.toList.drop 666 = dktL_law_22 := dk_seg dksL_law_21 24 rfl rfl
theorem dksL_law_23 : cL_law.data.toList.drop 688 = dktL_law_23 := dk_seg dksL_law_22 22 rfl rfl
theorem dksL_law_24 : cL_law.data.toList.drop 712 = dktL_law_24 := dk_seg dksL_law_23 24 rfl rfl
theorem dksL_law_25 : cL_law.data.toList.drop 734 = dktL_law_25 := dk_seg dksL_law_24 22 rfl rfl
theorem dksL_law_26 : cL_law.data.toList.drop 756 = dktL_law_26 := dk_seg dksL_law_25 22 rfl rfl
theorem dksL_law_27 : cL_law.data.toList.drop 780 = dktL_law_27 := dk_seg dksL_law_26 24 rfl rfl
theorem dksL_law_28 : cL_law.data.toList.drop 802 = dktL_law_28 := dk_seg dksL_law_27 22 rfl rfl
theorem dksL_law_29 : cL_law.data.toList.drop 826 = dktL_law_29 := dk_seg dksL_law_28 24 rfl rfl
theorem dksL_law_30 : cL_law.data.toList.drop 849 = dktL_law_30 := dk_seg dksL_law_29 23 rfl rfl
theorem dksL_law_31 : cL_law.data.toList.drop 872 = dktL_law_31 := dk_seg dksL_law_30 23 rfl rfl
theorem dksL_law_32 : cL_law.data.toList.drop 895 = dktL_law_32 := dk_seg dksL_law_31 23 rfl rfl
theorem dksL_law_33 : cL_law.data.toList.drop 919 = dktL_law_33 := dk_seg dksL_law_32 24 rfl rfl
theorem dksL_law_34 : cL_law.data.toList.drop 942 = dktL_law_34 := dk_seg dksL_law_33 23 rfl rfl
theorem dksL_law_35 : cL_law.data.toList.drop 965 = dktL_law_35 := dk_seg dksL_law_34 23 rfl rfl
theorem dksL_law_36 : cL_law.data.toList.drop 989 = dktL_law_36 := dk_seg dksL_law_35 24 rfl rfl
theorem dksL_law_37 : cL_law.data.toList.drop 1013 = dktL_law_37 := dk_seg dksL_law_36 24 rfl rfl
theorem dksL_law_38 : cL_law.data.toList.drop 1037 = dktL_law_38 := dk_seg dksL_law_37 24 rfl rfl
theorem dksL_law_39 : cL_law.data.toList.drop 1059 = dktL_law_39 := dk_seg dksL_law_38 22 rfl rfl
theorem dksL_law_40 : cL_law.data.toList.drop 1082 = dktL_law_40 := dk_seg dksL_law_39 23 rfl rfl
theorem dksL_law_41 : cL_law.data.toList.drop 1104 = dktL_law_41 := dk_seg dksL_law_40 22 rfl rfl
theorem dksL_law_42 : cL_law.data.toList.drop 1127 = dktL_law_42 := dk_seg dksL_law_41 23 rfl rfl
theorem dksL_law_43 : cL_law.data.toList.drop 1151 = dktL_law_43 := dk_seg dksL_law_42 24 rfl rfl
theorem dksL_law_44 : cL_law.data.toList.drop 1175 = dktL_law_44 := dk_seg dksL_law_43 24 rfl rfl
theorem dksL_law_45 : cL_law.data.toList.drop 1199 = dktL_law_45 := dk_seg dksL_law_44 24 rfl rfl
theorem dksL_law_46 : cL_law.data.toList.drop 1223 = dktL_law_46 := dk_seg dksL_law_45 24 rfl rfl
theorem dksL_law_47 : cL_law.data.toList.drop 1247 = dktL_law_47 := dk_seg dksL_law_46 24 rfl rfl
theorem dksL_law_48 : cL_law.data.toList.drop 1270 = dktL_law_48 := dk_seg dksL_law_47 23 rfl rfl
theorem dksL_law_49 : cL_law.data.toList.drop 1294 = dktL_law_49 := dk_seg dksL_law_48 24 rfl rfl
theorem dksL_law_50 : cL_law.data.toList.drop 1316 = dktL_law_50 := dk_seg dksL_law_49 22 rfl rfl
theorem dksL_law_51 : cL_law.data.toList.drop 1338 = dktL_law_51 := dk_seg dksL_law_50 22 rfl rfl
theorem dksL_law_52 : cL_law.data.toList.drop 1362 = dktL_law_52 := dk_seg dksL_law_51 24 rfl rfl
theorem dksL_law_53 : cL_law.data.toList.drop 1384 = dktL_law_53 := dk_seg dksL_law_52 22 rfl rfl
theorem dksL_law_54 : cL_law.data.toList.drop 1406 = dktL_law_54 := dk_seg dksL_law_53 22 rfl rfl
theorem dksL_law_55 : cL_law.data.toList.drop 1429 = dktL_law_55 := dk_seg dksL_law_54 23 rfl rfl
theorem dksL_law_56 : cL_law.data.toList.drop 1453 = dktL_law_56 := dk_seg dksL_law_55 24 rfl rfl
theorem dksL_law_57 : cL_law.data.toList.drop 1476 = dktL_law_57 := dk_seg dksL_law_56 23 rfl rfl
theorem dksL_law_58 : cL_law.data.toList.drop 1500 = dktL_law_58 := dk_seg dksL_law_57 24 rfl rfl
theorem dksL_law_59 : cL_law.data.toList.drop 1524 = dktL_law_59 := dk_seg dksL_law_58 24 rfl rfl
theorem dksL_law_60 : cL_law.data.toList.drop 1546 = dktL_law_60 := dk_seg dksL_law_59 22 rfl rfl
theorem dksL_law_61 : cL_law.data.toList.drop 1570 = dktL_law_61 := dk_seg dksL_law_60 24 rfl rfl
theorem dksL_law_62 : cL_law.data.toList.drop 1594 = dktL_law_62 := dk_seg dksL_law_61 24 rfl rfl
theorem dksL_law_63 : cL_law.data.toList.drop 1618 = dktL_law_63 := dk_seg dksL_law_62 24 rfl rfl
theorem dksL_law_64 : cL_law.data.toList.drop 1641 = dktL_law_64 := dk_seg dksL_law_63 23 rfl rfl
theorem dksL_law_65 : cL_law.data.toList.drop 1665 = dktL_law_65 := dk_seg dksL_law_64 24 rfl rfl
theorem dksL_law_66 : cL_law.data.toList.drop 1689 = dktL_law_66 := dk_seg dksL_law_65 24 rfl rfl
theorem dksL_law_67 : cL_law.data.toList.drop 1713 = dktL_law_67 := dk_seg dksL_law_66 24 rfl rfl
theorem dksL_law_68 : cL_law.data.toList.drop 1737 = dktL_law_68 := dk_seg dksL_law_67 24 rfl rfl
theorem dksL_law_69 : cL_law.data.toList.drop 1761 = dktL_law_69 := dk_seg dksL_law_68 24 rfl rfl
theorem dksL_law_70 : cL_law.data.toList.drop 1784 = dktL_law_70 := dk_seg dksL_law_69 23 rfl rfl
theorem dksL_law_71 : cL_law.data.toList.drop 1807 = dktL_law_71 := dk_seg dksL_law_70 23 rfl rfl
theorem dksL_law_72 : cL_law.data.toList.drop 1829 = dktL_law_72 := dk_seg dksL_law_71 22 rfl rfl
theorem dksL_law_73 : cL_law.data.toList.drop 1853 = dktL_law_73 := dk_seg dksL_law_72 24 rfl rfl
theorem dksL_law_74 : cL_law.data.toList.drop 1876 = dktL_law_74 := dk_seg dksL_law_73 23 rfl rfl
theorem dksL_law_75 : cL_law.data.toList.drop 1899 = dktL_law_75 := dk_seg dksL_law_74 23 rfl rfl
theorem dksL_law_76 : cL_law.data.toList.drop 1923 = dktL_law_76 := dk_seg dksL_law_75 24 rfl rfl
theorem dksL_law_77 : cL_law.data.toList.drop 1946 = dktL_law_77 := dk_seg dksL_law_76 23 rfl rfl
theorem dksL_law_78 : cL_law.data.toList.drop 1970 = dktL_law_78 := dk_seg dksL_law_77 24 rfl rfl
theorem dksL_law_79 : cL_law.data.toList.drop 1993 = dktL_law_79 := dk_seg dksL_law_78 23 rfl rfl
theorem dksL_law_80 : cL_law.data.toList.drop 2017 = dktL_law_80 := dk_seg dksL_law_79 24 rfl rfl
theorem dksL_law_81 : cL_law.data.toList.drop 2040 = dktL_law_81 := dk_seg dksL_law_80 23 rfl rfl
theorem dksL_law_82 : cL_law.data.toList.drop 2064 = dktL_law_82 := dk_seg dksL_law_81 24 rfl rfl
theorem dksL_law_83 : cL_law.data.toList.drop 2087 = dktL_law_83 := dk_seg dksL_law_82 23 rfl rfl
theorem dksL_law_84 : cL_law.data.toList.drop 2111 = dktL_law_84 := dk_seg dksL_law_83 24 rfl rfl
theorem dksL_law_85 : cL_law.data.toList.drop 2133 = dktL_law_85 := dk_seg dksL_law_84 22 rfl rfl
theorem dksL_law_86 : cL_law.data.toList.drop 2156 = dktL_law_86 := dk_seg dksL_law_85 23 rfl rfl
theorem dksL_law_87 : cL_law.data.toList.drop 2179 = dktL_law_87 := dk_seg dksL_law_86 23 rfl rfl
theorem dksL_law_88 : cL_law.data.toList.drop 2203 = dktL_law_88 := dk_seg dksL_law_87 24 rfl rfl
theorem dksL_law_89 : cL_law.data.toList.drop 2227 = dktL_law_89 := dk_seg dksL_law_88 24 rfl rfl
theorem dksL_law_90 : cL_law.data.toList.drop 2251 = dktL_law_90 := dk_seg dksL_law_89 24 rfl rfl
theorem dksL_law_91 : cL_law.data.toList.drop 2273 = dktL_law_91 := dk_seg dksL_law_90 22 rfl rfl
theorem dksL_law_92 : cL_law.data.toList.drop 2296 = dktL_law_92 := dk_seg dksL_law_91 23 rfl rfl
theorem dksL_law_93 : cL_law.data.toList.drop 2318 = dktL_law_93 := dk_seg dksL_law_92 22 rfl rfl
theorem dksL_law_94 : cL_law.data.toList.drop 2342 = dktL_law_94 := dk_seg dksL_law_93 24 rfl rfl
theorem dksL_law_95 : cL_law.data.toList.drop 2364 = dktL_law_95 := dk_seg dksL_law_94 22 rfl rfl
theorem dksL_law_96 : cL_law.data.toList.drop 2386 = dktL_law_96 := dk_seg dksL_law_95 22 rfl rfl
theorem dksL_law_97 : cL_law.data.toList.drop 2408 = dktL_law_97 := dk_seg dksL_law_96 22 rfl rfl
theorem dL_law_0 : decode cL_law 0 = .ok (.new 8, 3) := dk_187 0 8 (dk_at dksL_law_0 0 rfl rfl)
theorem dL_law_3 : decode cL_law 3 = .ok (.dup, 1) := dk_89 (dk_at dksL_law_0 3 rfl rfl)
theorem dL_law_4 : decode cL_law 4 = .ok (.invokespecial 110, 3) := dk_183 0 110 (dk_at dksL_law_0 4 rfl rfl)
theorem dL_law_7 : decode cL_law 7 = .ok (.astore_n 1, 1) := dk_76 (dk_at dksL_law_0 7 rfl rfl)
theorem dL_law_8 : decode cL_law 8 = .ok (.new 111, 3) := dk_187 0 111 (dk_at dksL_law_0 8 rfl rfl)
theorem dL_law_11 : decode cL_law 11 = .ok (.dup, 1) := dk_89 (dk_at dksL_law_0 11 rfl rfl)
theorem dL_law_12 : decode cL_law 12 = .ok (.invokespecial 113, 3) := dk_183 0 113 (dk_at dksL_law_0 12 rfl rfl)
theorem dL_law_15 : decode cL_law 15 = .ok (.astore_n 2, 1) := dk_77 (dk_at dksL_law_0 15 rfl rfl)
theorem dL_law_16 : decode cL_law 16 = .ok (.iconst 1, 1) := dk_4 (dk_at dksL_law_0 16 rfl rfl)
theorem dL_law_17 : decode cL_law 17 = .ok (.newarray .long, 2) := dk_188_11 (dk_at dksL_law_0 17 rfl rfl)
theorem dL_law_19 : decode cL_law 19 = .ok (.astore_n 3, 1) := dk_78 (dk_at dksL_law_0 19 rfl rfl)
theorem dL_law_20 : decode cL_law 20 = .ok (.iconst 0, 1) := dk_3 (dk_at dksL_law_0 20 rfl rfl)
theorem dL_law_21 : decode cL_law 21 = .ok (.istore 4, 2) := dk_54 4 (dk_at dksL_law_0 21 rfl rfl)
theorem dL_law_23 : decode cL_law 23 = .ok (.iload 4, 2) := dk_21 4 (dk_at dksL_law_1 0 rfl rfl)
theorem dL_law_25 : decode cL_law 25 = .ok (.aload_n 0, 1) := dk_42 (dk_at dksL_law_1 2 rfl rfl)
theorem dL_law_26 : decode cL_law 26 = .ok (.arraylength, 1) := dk_190 (dk_at dksL_law_1 3 rfl rfl)
theorem dL_law_27 : decode cL_law 27 = .ok (.bipush 6, 2) := dk_16 6 (dk_at dksL_law_1 4 rfl rfl)
theorem dL_law_29 : decode cL_law 29 = .ok (.isub, 1) := dk_100 (dk_at dksL_law_1 6 rfl rfl)
theorem dL_law_30 : decode cL_law 30 = .ok (.if_icmp .gt 2389, 3) := dk_163 9 85 (dk_at dksL_law_1 7 rfl rfl)
theorem dL_law_33 : decode cL_law 33 = .ok (.aload_n 0, 1) := dk_42 (dk_at dksL_law_1 10 rfl rfl)
theorem dL_law_34 : decode cL_law 34 = .ok (.iload 4, 2) := dk_21 4 (dk_at dksL_law_1 11 rfl rfl)
theorem dL_law_36 : decode cL_law 36 = .ok (.iaload, 1) := dk_46 (dk_at dksL_law_1 13 rfl rfl)
theorem dL_law_37 : decode cL_law 37 = .ok (.bipush 63, 2) := dk_16 63 (dk_at dksL_law_1 14 rfl rfl)
theorem dL_law_39 : decode cL_law 39 = .ok (.iand, 1) := dk_126 (dk_at dksL_law_1 16 rfl rfl)
theorem dL_law_40 : decode cL_law 40 = .ok (.tableswitch 2373 0 40 #[180, 253, 309, 322, 378, 446, 502, 558, 583, 651, 719, 794, 850, 863, 943, 1011, 1067, 1123, 1136, 1216, 1284, 1352, 1365, 1378, 1434, 1514, 1525, 1581, 1637, 1717, 1797, 1877, 1933, 1989, 2045, 2101, 2157, 2225, 2281, 2349, 2360], 180) := by decide +kernel
theorem dL_law_220 : decode cL_law 220 = .ok (.aload_n 1, 1) := dk_43 (dk_at dksL_law_3 0 rfl rfl)
theorem dL_law_221 : decode cL_law 221 = .ok (.aload_n 0, 1) := dk_42 (dk_at dksL_law_3 1 rfl rfl)
theorem dL_law_222 : decode cL_law 222 = .ok (.iload 4, 2) := dk_21 4 (dk_at dksL_law_3 2 rfl rfl)
theorem dL_law_224 : decode cL_law 224 = .ok (.iconst 1, 1) := dk_4 (dk_at dksL_law_3 4 rfl rfl)
theorem dL_law_225 : decode cL_law 225 = .ok (.iadd, 1) := dk_96 (dk_at dksL_law_3 5 rfl rfl)
theorem dL_law_226 : decode cL_law 226 = .ok (.iaload, 1) := dk_46 (dk_at dksL_law_3 6 rfl rfl)
theorem dL_law_227 : decode cL_law 227 = .ok (.aload_n 0, 1) := dk_42 (dk_at dksL_law_3 7 rfl rfl)
theorem dL_law_228 : decode cL_law 228 = .ok (.iload 4, 2) := dk_21 4 (dk_at dksL_law_3 8 rfl rfl)
theorem dL_law_230 : decode cL_law 230 = .ok (.iconst 2, 1) := dk_5 (dk_at dksL_law_3 10 rfl rfl)
theorem dL_law_231 : decode cL_law 231 = .ok (.iadd, 1) := dk_96 (dk_at dksL_law_3 11 rfl rfl)
theorem dL_law_232 : decode cL_law 232 = .ok (.iaload, 1) := dk_46 (dk_at dksL_law_3 12 rfl rfl)
theorem dL_law_233 : decode cL_law 233 = .ok (.aload_n 0, 1) := dk_42 (dk_at dksL_law_3 13 rfl rfl)
theorem dL_law_234 : decode cL_law 234 = .ok (.iload 4, 2) := dk_21 4 (dk_at dksL_law_3 14 rfl rfl)
theorem dL_law_236 : decode cL_law 236 = .ok (.iconst 3, 1) := dk_6 (dk_at dksL_law_3 16 rfl rfl)
theorem dL_law_237 : decode cL_law 237 = .ok (.iadd, 1) := dk_96 (dk_at dksL_law_3 17 rfl rfl)
theorem dL_law_238 : decode cL_law 238 = .ok (.iaload, 1) := dk_46 (dk_at dksL_law_3 18 rfl rfl)
theorem dL_law_239 : decode cL_law 239 = .ok (.aload_n 0, 1) := dk_42 (dk_at dksL_law_3 19 rfl rfl)
theorem dL_law_240 : decode cL_law 240 = .ok (.iload 4, 2) := dk_21 4 (dk_at dksL_law_3 20 rfl rfl)
theorem dL_law_242 : decode cL_law 242 = .ok (.iconst 4, 1) := dk_7 (dk_at dksL_law_3 22 rfl rfl)
theorem dL_law_243 : decode cL_law 243 = .ok (.iadd, 1) := dk_96 (dk_at dksL_law_3 23 rfl rfl)
theorem dL_law_244 : decode cL_law 244 = .ok (.iaload, 1) := dk_46 (dk_at dksL_law_4 0 rfl rfl)
theorem dL_law_245 : decode cL_law 245 = .ok (.aload_n 0, 1) := dk_42 (dk_at dksL_law_4 1 rfl rfl)
theorem dL_law_246 : decode cL_law 246 = .ok (.iload 4, 2) := dk_21 4 (dk_at dksL_law_4 2 rfl rfl)
theorem dL_law_248 : decode cL_law 248 = .ok (.iconst 5, 1) := dk_8 (dk_at dksL_law_4 4 rfl rfl)
theorem dL_law_249 : decode cL_law 249 = .ok (.iadd, 1) := dk_96 (dk_at dksL_law_4 5 rfl rfl)
theorem dL_law_250 : decode cL_law 250 = .ok (.iaload, 1) := dk_46 (dk_at dksL_law_4 6 rfl rfl)
theorem dL_law_251 : decode cL_law 251 = .ok (.invokevirtual 114, 3) := dk_182 0 114 (dk_at dksL_law_4 7 rfl rfl)
theorem dL_law_254 : decode cL_law 254 = .ok (.aload_n 2, 1) := dk_44 (dk_at dksL_law_4 10 rfl rfl)
theorem dL_law_255 : decode cL_law 255 = .ok (.aload_n 0, 1) := dk_42 (dk_at dksL_law_4 11 rfl rfl)
theorem dL_law_256 : decode cL_law 256 = .ok (.iload 4, 2) := dk_21 4 (dk_at dksL_law_4 12 rfl rfl)
theorem dL_law_258 : decode cL_law 258 = .ok (.iconst 1, 1) := dk_4 (dk_at dksL_law_4 14 rfl rfl)
theorem dL_law_259 : decode cL_law 259 = .ok (.iadd, 1) := dk_96 (dk_at dksL_law_4 15 rfl rfl)
theorem dL_law_260 : decode cL_law 260 = .ok (.iaload, 1) := dk_46 (dk_at dksL_law_4 16 rfl rfl)
theorem dL_law_261 : decode cL_law 261 = .ok (.aload_n 0, 1) := dk_42 (dk_at dksL_law_4 17 rfl rfl)
theorem dL_law_262 : decode cL_law 262 = .ok (.iload 4, 2) := dk_21 4 (dk_at dksL_law_4 18 rfl rfl)
theorem dL_law_264 : decode cL_law 264 = .ok (.iconst 2, 1) := dk_5 (dk_at dksL_law_4 20 rfl rfl)
theorem dL_law_265 : decode cL_law 265 = .ok (.iadd, 1) := dk_96 (dk_at dksL_law_4 21 rfl rfl)
theorem dL_law_266 : decode cL_law 266 = .ok (.iaload, 1) := dk_46 (dk_at dksL_law_4 22 rfl rfl)
theorem dL_law_267 : decode cL_law 267 = .ok (.aload_n 0, 1) := dk_42 (dk_at dksL_law_4 23 rfl rfl)
theorem dL_law_268 : decode cL_law 268 = .ok (.iload 4, 2) := dk_21 4 (dk_at dksL_law_5 0 rfl rfl)
theorem dL_law_270 : decode cL_law 270 = .ok (.iconst 3, 1) := dk_6 (dk_at dksL_law_5 2 rfl rfl)
theorem dL_law_271 : decode cL_law 271 = .ok (.iadd, 1) := dk_96 (dk_at dksL_law_5 3 rfl rfl)
theorem dL_law_272 : decode cL_law 272 = .ok (.iaload, 1) := dk_46 (dk_at dksL_law_5 4 rfl rfl)
theorem dL_law_273 : decode cL_law 273 = .ok (.aload_n 0, 1) := dk_42 (dk_at dksL_law_5 5 rfl rfl)
theorem dL_law_274 : decode cL_law 274 = .ok (.iload 4, 2) := dk_21 4 (dk_at dksL_law_5 6 rfl rfl)
theorem dL_law_276 : decode cL_law 276 = .ok (.iconst 4, 1) := dk_7 (dk_at dksL_law_5 8 rfl rfl)
theorem dL_law_277 : decode cL_law 277 = .ok (.iadd, 1) := dk_96 (dk_at dksL_law_5 9 rfl rfl)
theorem dL_law_278 : decode cL_law 278 = .ok (.iaload, 1) := dk_46 (dk_at dksL_law_5 10 rfl rfl)
theorem dL_law_279 : decode cL_law 279 = .ok (.aload_n 0, 1) := dk_42 (dk_at dksL_law_5 11 rfl rfl)
theorem dL_law_280 : decode cL_law 280 = .ok (.iload 4, 2) := dk_21 4 (dk_at dksL_law_5 12 rfl rfl)
theorem dL_law_282 : decode cL_law 282 = .ok (.iconst 5, 1) := dk_8 (dk_at dksL_law_5 14 rfl rfl)
theorem dL_law_283 : decode cL_law 283 = .ok (.iadd, 1) := dk_96 (dk_at dksL_law_5 15 rfl rfl)
theorem dL_law_284 : decode cL_law 284 = .ok (.iaload, 1) := dk_46 (dk_at dksL_law_5 16 rfl rfl)
theorem dL_law_285 : decode cL_law 285 = .ok (.invokevirtual 118, 3) := dk_182 0 118 (dk_at dksL_law_5 17 rfl rfl)
theorem dL_law_288 : decode cL_law 288 = .ok (.if_icmp .eq 2125, 3) := dk_159 8 77 (dk_at dksL_law_5 20 rfl rfl)
theorem dL_law_291 : decode cL_law 291 = .ok (.iconst 0, 1) := dk_3 (dk_at dksL_law_5 23 rfl rfl)
theorem dL_law_292 : decode cL_law 292 = .ok (.ireturn, 1) := dk_172 (dk_at dksL_law_6 0 rfl rfl)
theorem dL_law_293 : decode cL_law 293 = .ok (.aload_n 1, 1) := dk_43 (dk_at dksL_law_6 1 rfl rfl)
theorem dL_law_294 : decode cL_law 294 = .ok (.aload_n 0, 1) := dk_42 (dk_at dksL_law_6 2 rfl rfl)
theorem dL_law_295 : decode cL_law 295 = .ok (.iload 4, 2) := dk_21 4 (dk_at dksL_law_6 3 rfl rfl)
theorem dL_law_297 : decode cL_law 297 = .ok (.iconst 1, 1) := dk_4 (dk_at dksL_law_6 5 rfl rfl)
theorem dL_law_298 : decode cL_law 298 = .ok (.iadd, 1) := dk_96 (dk_at dksL_law_6 6 rfl rfl)
theorem dL_law_299 : decode cL_law 299 = .ok (.iaload, 1) := dk_46 (dk_at dksL_law_6 7 rfl rfl)
theorem dL_law_300 : decode cL_law 300 = .ok (.aload_n 3, 1) := dk_45 (dk_at dksL_law_6 8 rfl rfl)
theorem dL_law_301 : decode cL_law 301 = .ok (.invokestatic 119, 3) := dk_184 0 119 (dk_at dksL_law_6 9 rfl rfl)
theorem dL_law_304 : decode cL_law 304 = .ok (.istore 5, 2) := dk_54 5 (dk_at dksL_law_6 12 rfl rfl)
theorem dL_law_306 : decode cL_law 306 = .ok (.aload_n 2, 1) := dk_44 (dk_at dksL_law_6 14 rfl rfl)
theorem dL_law_307 : decode cL_law 307 = .ok (.aload_n 0, 1) := dk_42 (dk_at dksL_law_6 15 rfl rfl)
theorem dL_law_308 : decode cL_law 308 = .ok (.iload 4, 2) := dk_21 4 (dk_at dksL_law_6 16 rfl rfl)
theorem dL_law_310 : decode cL_law 310 = .ok (.iconst 1, 1) := dk_4 (dk_at dksL_law_6 18 rfl rfl)
theorem dL_law_311 : decode cL_law 311 = .ok (.iadd, 1) := dk_96 (dk_at dksL_law_6 19 rfl rfl)
theorem dL_law_312 : decode cL_law 312 = .ok (.iaload, 1) := dk_46 (dk_at dksL_law_6 20 rfl rfl)
theorem dL_law_313 : decode cL_law 313 = .ok (.invokevirtual 124, 3) := dk_182 0 124 (dk_at dksL_law_6 21 rfl rfl)
theorem dL_law_316 : decode cL_law 316 = .ok (.istore 6, 2) := dk_54 6 (dk_at dksL_law_7 0 rfl rfl)
theorem dL_law_318 : decode cL_law 318 = .ok (.aload_n 2, 1) := dk_44 (dk_at dksL_law_7 2 rfl rfl)
theorem dL_law_319 : decode cL_law 319 = .ok (.invokevirtual 125, 3) := dk_182 0 125 (dk_at dksL_law_7 3 rfl rfl)
theorem dL_law_322 : decode cL_law 322 = .ok (.iload 5, 2) := dk_21 5 (dk_at dksL_law_7 6 rfl rfl)
theorem dL_law_324 : decode cL_law 324 = .ok (.if_icmp .eq 5, 3) := dk_159 0 5 (dk_at dksL_law_7 8 rfl rfl)
theorem dL_law_327 : decode cL_law 327 = .ok (.iconst 0, 1) := dk_3 (dk_at dksL_law_7 11 rfl rfl)
theorem dL_law_328 : decode cL_law 328 = .ok (.ireturn, 1) := dk_172 (dk_at dksL_law_7 12 rfl rfl)
theorem dL_law_329 : decode cL_law 329 = .ok (.iload 5, 2) := dk_21 5 (dk_at dksL_law_7 13 rfl rfl)
theorem dL_law_331 : decode cL_law 331 = .ok (.ifCond .ne 15, 3) := dk_154 0 15 (dk_at dksL_law_7 15 rfl rfl)
theorem dL_law_334 : decode cL_law 334 = .ok (.aload_n 3, 1) := dk_45 (dk_at dksL_law_7 18 rfl rfl)
theorem dL_law_335 : decode cL_law 335 = .ok (.iconst 0, 1) := dk_3 (dk_at dksL_law_7 19 rfl rfl)
theorem dL_law_336 : decode cL_law 336 = .ok (.laload, 1) := dk_47 (dk_at dksL_law_7 20 rfl rfl)
theorem dL_law_337 : decode cL_law 337 = .ok (.iload 6, 2) := dk_21 6 (dk_at dksL_law_7 21 rfl rfl)
theorem dL_law_339 : decode cL_law 339 = .ok (.i2l, 1) := dk_133 (dk_at dksL_law_7 23 rfl rfl)
theorem dL_law_340 : decode cL_law 340 = .ok (.lcmp, 1) := dk_148 (dk_at dksL_law_8 0 rfl rfl)
theorem dL_law_341 : decode cL_law 341 = .ok (.ifCond .eq 5, 3) := dk_153 0 5 (dk_at dksL_law_8 1 rfl rfl)
theorem dL_law_344 : decode cL_law 344 = .ok (.iconst 0, 1) := dk_3 (dk_at dksL_law_8 4 rfl rfl)
theorem dL_law_345 : decode cL_law 345 = .ok (.ireturn, 1) := dk_172 (dk_at dksL_law_8 5 rfl rfl)
theorem dL_law_346 : decode cL_law 346 = .ok (.goto 2067, 3) := dk_167 8 19 (dk_at dksL_law_8 6 rfl rfl)
theorem dL_law_349 : decode cL_law 349 = .ok (.aload_n 1, 1) := dk_43 (dk_at dksL_law_8 9 rfl rfl)
theorem dL_law_350 : decode cL_law 350 = .ok (.invokevirtual 129, 3) := dk_182 0 129 (dk_at dksL_law_8 10 rfl rfl)
theorem dL_law_353 : decode cL_law 353 = .ok (.aload_n 2, 1) := dk_44 (dk_at dksL_law_8 13 rfl rfl)
theorem dL_law_354 : decode cL_law 354 = .ok (.invokevirtual 132, 3) := dk_182 0 132 (dk_at dksL_law_8 14 rfl rfl)
theorem dL_law_357 : decode cL_law 357 = .ok (.if_icmp .eq 2056, 3) := dk_159 8 8 (dk_at dksL_law_8 17 rfl rfl)
theorem dL_law_360 : decode cL_law 360 = .ok (.iconst 0, 1) := dk_3 (dk_at dksL_law_8 20 rfl rfl)
theorem dL_law_361 : decode cL_law 361 = .ok (.ireturn, 1) := dk_172 (dk_at dksL_law_8 21 rfl rfl)
theorem dL_law_362 : decode cL_law 362 = .ok (.aload_n 1, 1) := dk_43 (dk_at dksL_law_8 22 rfl rfl)
theorem dL_law_363 : decode cL_law 363 = .ok (.aload_n 0, 1) := dk_42 (dk_at dksL_law_8 23 rfl rfl)
theorem dL_law_364 : decode cL_law 364 = .ok (.iload 4, 2) := dk_21 4 (dk_at dksL_law_9 0 rfl rfl)
theorem dL_law_366 : decode cL_law 366 = .ok (.iconst 1, 1) := dk_4 (dk_at dksL_law_9 2 rfl rfl)
theorem dL_law_367 : decode cL_law 367 = .ok (.iadd, 1) := dk_96 (dk_at dksL_law_9 3 rfl rfl)
theorem dL_law_368 : decode cL_law 368 = .ok (.iaload, 1) := dk_46 (dk_at dksL_law_9 4 rfl rfl)
theorem dL_law_369 : decode cL_law 369 = .ok (.aload_n 3, 1) := dk_45 (dk_at dksL_law_9 5 rfl rfl)
theorem dL_law_370 : decode cL_law 370 = .ok (.invokestatic 133, 3) := dk_184 0 133 (dk_at dksL_law_9 6 rfl rfl)
theorem dL_law_373 : decode cL_law 373 = .ok (.istore 5, 2) := dk_54 5 (dk_at dksL_law_9 9 rfl rfl)
theorem dL_law_375 : decode cL_law 375 = .ok (.aload_n 2, 1) := dk_44 (dk_at dksL_law_9 11 rfl rfl)
theorem dL_law_376 : decode cL_law 376 = .ok (.aload_n 0, 1) := dk_42 (dk_at dksL_law_9 12 rfl rfl)
theorem dL_law_377 : decode cL_law 377 = .ok (.iload 4, 2) := dk_21 4 (dk_at dksL_law_9 13 rfl rfl)
theorem dL_law_379 : decode cL_law 379 = .ok (.iconst 1, 1) := dk_4 (dk_at dksL_law_9 15 rfl rfl)
theorem dL_law_380 : decode cL_law 380 = .ok (.iadd, 1) := dk_96 (dk_at dksL_law_9 16 rfl rfl)
theorem dL_law_381 : decode cL_law 381 = .ok (.iaload, 1) := dk_46 (dk_at dksL_law_9 17 rfl rfl)
theorem dL_law_382 : decode cL_law 382 = .ok (.invokevirtual 135, 3) := dk_182 0 135 (dk_at dksL_law_9 18 rfl rfl)
theorem dL_law_385 : decode cL_law 385 = .ok (.istore 6, 2) := dk_54 6 (dk_at dksL_law_9 21 rfl rfl)
theorem dL_law_387 : decode cL_law 387 = .ok (.aload_n 2, 1) := dk_44 (dk_at dksL_law_9 23 rfl rfl)
theorem dL_law_388 : decode cL_law 388 = .ok (.invokevirtual 125, 3) := dk_182 0 125 (dk_at dksL_law_10 0 rfl rfl)
theorem dL_law_391 : decode cL_law 391 = .ok (.iload 5, 2) := dk_21 5 (dk_at dksL_law_10 3 rfl rfl)
theorem dL_law_393 : decode cL_law 393 = .ok (.if_icmp .eq 5, 3) := dk_159 0 5 (dk_at dksL_law_10 5 rfl rfl)
theorem dL_law_396 : decode cL_law 396 = .ok (.iconst 0, 1) := dk_3 (dk_at dksL_law_10 8 rfl rfl)
theorem dL_law_397 : decode cL_law 397 = .ok (.ireturn, 1) := dk_172 (dk_at dksL_law_10 9 rfl rfl)
theorem dL_law_398 : decode cL_law 398 = .ok (.iload 5, 2) := dk_21 5 (dk_at dksL_law_10 10 rfl rfl)
theorem dL_law_400 : decode cL_law 400 = .ok (.ifCond .ne 15, 3) := dk_154 0 15 (dk_at dksL_law_10 12 rfl rfl)
theorem dL_law_403 : decode cL_law 403 = .ok (.aload_n 3, 1) := dk_45 (dk_at dksL_law_10 15 rfl rfl)
theorem dL_law_404 : decode cL_law 404 = .ok (.iconst 0, 1) := dk_3 (dk_at dksL_law_10 16 rfl rfl)
theorem dL_law_405 : decode cL_law 405 = .ok (.laload, 1) := dk_47 (dk_at dksL_law_10 17 rfl rfl)
theorem dL_law_406 : decode cL_law 406 = .ok (.iload 6, 2) := dk_21 6 (dk_at dksL_law_10 18 rfl rfl)
theorem dL_law_408 : decode cL_law 408 = .ok (.i2l, 1) := dk_133 (dk_at dksL_law_10 20 rfl rfl)
theorem dL_law_409 : decode cL_law 409 = .ok (.lcmp, 1) := dk_148 (dk_at dksL_law_10 21 rfl rfl)
theorem dL_law_410 : decode cL_law 410 = .ok (.ifCond .eq 5, 3) := dk_153 0 5 (dk_at dksL_law_11 0 rfl rfl)
theorem dL_law_413 : decode cL_law 413 = .ok (.iconst 0, 1) := dk_3 (dk_at dksL_law_11 3 rfl rfl)
theorem dL_law_414 : decode cL_law 414 = .ok (.ireturn, 1) := dk_172 (dk_at dksL_law_11 4 rfl rfl)
theorem dL_law_415 : decode cL_law 415 = .ok (.goto 1998, 3) := dk_167 7 206 (dk_at dksL_law_11 5 rfl rfl)
theorem dL_law_418 : decode cL_law 418 = .ok (.aload_n 1, 1) := dk_43 (dk_at dksL_law_11 8 rfl rfl)
theorem dL_law_419 : decode cL_law 419 = .ok (.aload_n 0, 1) := dk_42 (dk_at dksL_law_11 9 rfl rfl)
theorem dL_law_420 : decode cL_law 420 = .ok (.iload 4, 2) := dk_21 4 (dk_at dksL_law_11 10 rfl rfl)
theorem dL_law_422 : decode cL_law 422 = .ok (.iconst 1, 1) := dk_4 (dk_at dksL_law_11 12 rfl rfl)
theorem dL_law_423 : decode cL_law 423 = .ok (.iadd, 1) := dk_96 (dk_at dksL_law_11 13 rfl rfl)
theorem dL_law_424 : decode cL_law 424 = .ok (.iaload, 1) := dk_46 (dk_at dksL_law_11 14 rfl rfl)
theorem dL_law_425 : decode cL_law 425 = .ok (.aload_n 0, 1) := dk_42 (dk_at dksL_law_11 15 rfl rfl)
theorem dL_law_426 : decode cL_law 426 = .ok (.iload 4, 2) := dk_21 4 (dk_at dksL_law_11 16 rfl rfl)
theorem dL_law_428 : decode cL_law 428 = .ok (.iconst 2, 1) := dk_5 (dk_at dksL_law_11 18 rfl rfl)
theorem dL_law_429 : decode cL_law 429 = .ok (.iadd, 1) := dk_96 (dk_at dksL_law_11 19 rfl rfl)
theorem dL_law_430 : decode cL_law 430 = .ok (.iaload, 1) := dk_46 (dk_at dksL_law_11 20 rfl rfl)
theorem dL_law_431 : decode cL_law 431 = .ok (.aload_n 3, 1) := dk_45 (dk_at dksL_law_11 21 rfl rfl)
theorem dL_law_432 : decode cL_law 432 = .ok (.invokestatic 136, 3) := dk_184 0 136 (dk_at dksL_law_12 0 rfl rfl)
theorem dL_law_435 : decode cL_law 435 = .ok (.istore 5, 2) := dk_54 5 (dk_at dksL_law_12 3 rfl rfl)
theorem dL_law_437 : decode cL_law 437 = .ok (.aload_n 2, 1) := dk_44 (dk_at dksL_law_12 5 rfl rfl)
theorem dL_law_438 : decode cL_law 438 = .ok (.aload_n 0, 1) := dk_42 (dk_at dksL_law_12 6 rfl rfl)
theorem dL_law_439 : decode cL_law 439 = .ok (.iload 4, 2) := dk_21 4 (dk_at dksL_law_12 7 rfl rfl)
theorem dL_law_441 : decode cL_law 441 = .ok (.iconst 1, 1) := dk_4 (dk_at dksL_law_12 9 rfl rfl)
theorem dL_law_442 : decode cL_law 442 = .ok (.iadd, 1) := dk_96 (dk_at dksL_law_12 10 rfl rfl)
theorem dL_law_443 : decode cL_law 443 = .ok (.iaload, 1) := dk_46 (dk_at dksL_law_12 11 rfl rfl)
theorem dL_law_444 : decode cL_law 444 = .ok (.aload_n 0, 1) := dk_42 (dk_at dksL_law_12 12 rfl rfl)
theorem dL_law_445 : decode cL_law 445 = .ok (.iload 4, 2) := dk_21 4 (dk_at dksL_law_12 13 rfl rfl)
theorem dL_law_447 : decode cL_law 447 = .ok (.iconst 2, 1) := dk_5 (dk_at dksL_law_12 15 rfl rfl)
theorem dL_law_448 : decode cL_law 448 = .ok (.iadd, 1) := dk_96 (dk_at dksL_law_12 16 rfl rfl)
theorem dL_law_449 : decode cL_law 449 = .ok (.iaload, 1) := dk_46 (dk_at dksL_law_12 17 rfl rfl)
theorem dL_law_450 : decode cL_law 450 = .ok (.invokevirtual 139, 3) := dk_182 0 139 (dk_at dksL_law_12 18 rfl rfl)
theorem dL_law_453 : decode cL_law 453 = .ok (.istore 6, 2) := dk_54 6 (dk_at dksL_law_12 21 rfl rfl)
theorem dL_law_455 : decode cL_law 455 = .ok (.aload_n 2, 1) := dk_44 (dk_at dksL_law_12 23 rfl rfl)
theorem dL_law_456 : decode cL_law 456 = .ok (.invokevirtual 125, 3) := dk_182 0 125 (dk_at dksL_law_13 0 rfl rfl)
theorem dL_law_459 : decode cL_law 459 = .ok (.iload 5, 2) := dk_21 5 (dk_at dksL_law_13 3 rfl rfl)
theorem dL_law_461 : decode cL_law 461 = .ok (.if_icmp .eq 5, 3) := dk_159 0 5 (dk_at dksL_law_13 5 rfl rfl)
theorem dL_law_464 : decode cL_law 464 = .ok (.iconst 0, 1) := dk_3 (dk_at dksL_law_13 8 rfl rfl)
theorem dL_law_465 : decode cL_law 465 = .ok (.ireturn, 1) := dk_172 (dk_at dksL_law_13 9 rfl rfl)
theorem dL_law_466 : decode cL_law 466 = .ok (.iload 5, 2) := dk_21 5 (dk_at dksL_law_13 10 rfl rfl)
theorem dL_law_468 : decode cL_law 468 = .ok (.ifCond .ne 15, 3) := dk_154 0 15 (dk_at dksL_law_13 12 rfl rfl)
theorem dL_law_471 : decode cL_law 471 = .ok (.aload_n 3, 1) := dk_45 (dk_at dksL_law_13 15 rfl rfl)
theorem dL_law_472 : decode cL_law 472 = .ok (.iconst 0, 1) := dk_3 (dk_at dksL_law_13 16 rfl rfl)
theorem dL_law_473 : decode cL_law 473 = .ok (.laload, 1) := dk_47 (dk_at dksL_law_13 17 rfl rfl)
theorem dL_law_474 : decode cL_law 474 = .ok (.iload 6, 2) := dk_21 6 (dk_at dksL_law_13 18 rfl rfl)
theorem dL_law_476 : decode cL_law 476 = .ok (.i2l, 1) := dk_133 (dk_at dksL_law_13 20 rfl rfl)
theorem dL_law_477 : decode cL_law 477 = .ok (.lcmp, 1) := dk_148 (dk_at dksL_law_13 21 rfl rfl)
theorem dL_law_478 : decode cL_law 478 = .ok (.ifCond .eq 5, 3) := dk_153 0 5 (dk_at dksL_law_14 0 rfl rfl)
theorem dL_law_481 : decode cL_law 481 = .ok (.iconst 0, 1) := dk_3 (dk_at dksL_law_14 3 rfl rfl)
theorem dL_law_482 : decode cL_law 482 = .ok (.ireturn, 1) := dk_172 (dk_at dksL_law_14 4 rfl rfl)
theorem dL_law_483 : decode cL_law 483 = .ok (.goto 1930, 3) := dk_167 7 138 (dk_at dksL_law_14 5 rfl rfl)
theorem dL_law_486 : decode cL_law 486 = .ok (.aload_n 1, 1) := dk_43 (dk_at dksL_law_14 8 rfl rfl)
theorem dL_law_487 : decode cL_law 487 = .ok (.aload_n 0, 1) := dk_42 (dk_at dksL_law_14 9 rfl rfl)
theorem dL_law_488 : decode cL_law 488 = .ok (.iload 4, 2) := dk_21 4 (dk_at dksL_law_14 10 rfl rfl)
theorem dL_law_490 : decode cL_law 490 = .ok (.iconst 1, 1) := dk_4 (dk_at dksL_law_14 12 rfl rfl)
theorem dL_law_491 : decode cL_law 491 = .ok (.iadd, 1) := dk_96 (dk_at dksL_law_14 13 rfl rfl)
theorem dL_law_492 : decode cL_law 492 = .ok (.iaload, 1) := dk_46 (dk_at dksL_law_14 14 rfl rfl)
theorem dL_law_493 : decode cL_law 493 = .ok (.aload_n 3, 1) := dk_45 (dk_at dksL_law_14 15 rfl rfl)
theorem dL_law_494 : decode cL_law 494 = .ok (.invokestatic 140, 3) := dk_184 0 140 (dk_at dksL_law_14 16 rfl rfl)
theorem dL_law_497 : decode cL_law 497 = .ok (.istore 5, 2) := dk_54 5 (dk_at dksL_law_14 19 rfl rfl)
theorem dL_law_499 : decode cL_law 499 = .ok (.aload_n 2, 1) := dk_44 (dk_at dksL_law_14 21 rfl rfl)
theorem dL_law_500 : decode cL_law 500 = .ok (.aload_n 0, 1) := dk_42 (dk_at dksL_law_14 22 rfl rfl)
theorem dL_law_501 : decode cL_law 501 = .ok (.iload 4, 2) := dk_21 4 (dk_at dksL_law_15 0 rfl rfl)
theorem dL_law_503 : decode cL_law 503 = .ok (.iconst 1, 1) := dk_4 (dk_at dksL_law_15 2 rfl rfl)
theorem dL_law_504 : decode cL_law 504 = .ok (.iadd, 1) := dk_96 (dk_at dksL_law_15 3 rfl rfl)
theorem dL_law_505 : decode cL_law 505 = .ok (.iaload, 1) := dk_46 (dk_at dksL_law_15 4 rfl rfl)
theorem dL_law_506 : decode cL_law 506 = .ok (.invokevirtual 142, 3) := dk_182 0 142 (dk_at dksL_law_15 5 rfl rfl)
theorem dL_law_509 : decode cL_law 509 = .ok (.istore 6, 2) := dk_54 6 (dk_at dksL_law_15 8 rfl rfl)
theorem dL_law_511 : decode cL_law 511 = .ok (.aload_n 2, 1) := dk_44 (dk_at dksL_law_15 10 rfl rfl)
theorem dL_law_512 : decode cL_law 512 = .ok (.invokevirtual 125, 3) := dk_182 0 125 (dk_at dksL_law_15 11 rfl rfl)
theorem dL_law_515 : decode cL_law 515 = .ok (.iload 5, 2) := dk_21 5 (dk_at dksL_law_15 14 rfl rfl)
theorem dL_law_517 : decode cL_law 517 = .ok (.if_icmp .eq 5, 3) := dk_159 0 5 (dk_at dksL_law_15 16 rfl rfl)
theorem dL_law_520 : decode cL_law 520 = .ok (.iconst 0, 1) := dk_3 (dk_at dksL_law_15 19 rfl rfl)
theorem dL_law_521 : decode cL_law 521 = .ok (.ireturn, 1) := dk_172 (dk_at dksL_law_15 20 rfl rfl)
theorem dL_law_522 : decode cL_law 522 = .ok (.iload 5, 2) := dk_21 5 (dk_at dksL_law_15 21 rfl rfl)
theorem dL_law_524 : decode cL_law 524 = .ok (.ifCond .ne 15, 3) := dk_154 0 15 (dk_at dksL_law_16 0 rfl rfl)
theorem dL_law_527 : decode cL_law 527 = .ok (.aload_n 3, 1) := dk_45 (dk_at dksL_law_16 3 rfl rfl)
theorem dL_law_528 : decode cL_law 528 = .ok (.iconst 0, 1) := dk_3 (dk_at dksL_law_16 4 rfl rfl)
theorem dL_law_529 : decode cL_law 529 = .ok (.laload, 1) := dk_47 (dk_at dksL_law_16 5 rfl rfl)
theorem dL_law_530 : decode cL_law 530 = .ok (.iload 6, 2) := dk_21 6 (dk_at dksL_law_16 6 rfl rfl)
theorem dL_law_532 : decode cL_law 532 = .ok (.i2l, 1) := dk_133 (dk_at dksL_law_16 8 rfl rfl)
theorem dL_law_533 : decode cL_law 533 = .ok (.lcmp, 1) := dk_148 (dk_at dksL_law_16 9 rfl rfl)
theorem dL_law_534 : decode cL_law 534 = .ok (.ifCond .eq 5, 3) := dk_153 0 5 (dk_at dksL_law_16 10 rfl rfl)
theorem dL_law_537 : decode cL_law 537 = .ok (.iconst 0, 1) := dk_3 (dk_at dksL_law_16 13 rfl rfl)
theorem dL_law_538 : decode cL_law 538 = .ok (.ireturn, 1) := dk_172 (dk_at dksL_law_16 14 rfl rfl)
theorem dL_law_539 : decode cL_law 539 = .ok (.goto 1874, 3) := dk_167 7 82 (dk_at dksL_law_16 15 rfl rfl)
theorem dL_law_542 : decode cL_law 542 = .ok (.aload_n 1, 1) := dk_43 (dk_at dksL_law_16 18 rfl rfl)
theorem dL_law_543 : decode cL_law 543 = .ok (.aload_n 0, 1) := dk_42 (dk_at dksL_law_16 19 rfl rfl)
theorem dL_law_544 : decode cL_law 544 = .ok (.iload 4, 2) := dk_21 4 (dk_at dksL_law_16 20 rfl rfl)
theorem dL_law_546 : decode cL_law 546 = .ok (.iconst 1, 1) := dk_4 (dk_at dksL_law_16 22 rfl rfl)
theorem dL_law_547 : decode cL_law 547 = .ok (.iadd, 1) := dk_96 (dk_at dksL_law_16 23 rfl rfl)
theorem dL_law_548 : decode cL_law 548 = .ok (.iaload, 1) := dk_46 (dk_at dksL_law_17 0 rfl rfl)
theorem dL_law_549 : decode cL_law 549 = .ok (.aload_n 3, 1) := dk_45 (dk_at dksL_law_17 1 rfl rfl)
theorem dL_law_550 : decode cL_law 550 = .ok (.invokestatic 143, 3) := dk_184 0 143 (dk_at dksL_law_17 2 rfl rfl)
theorem dL_law_553 : decode cL_law 553 = .ok (.istore 5, 2) := dk_54 5 (dk_at dksL_law_17 5 rfl rfl)
theorem dL_law_555 : decode cL_law 555 = .ok (.aload_n 2, 1) := dk_44 (dk_at dksL_law_17 7 rfl rfl)
theorem dL_law_556 : decode cL_law 556 = .ok (.aload_n 0, 1) := dk_42 (dk_at dksL_law_17 8 rfl rfl)
theorem dL_law_557 : decode cL_law 557 = .ok (.iload 4, 2) := dk_21 4 (dk_at dksL_law_17 9 rfl rfl)
theorem dL_law_559 : decode cL_law 559 = .ok (.iconst 1, 1) := dk_4 (dk_at dksL_law_17 11 rfl rfl)
theorem dL_law_560 : decode cL_law 560 = .ok (.iadd, 1) := dk_96 (dk_at dksL_law_17 12 rfl rfl)
theorem dL_law_561 : decode cL_law 561 = .ok (.iaload, 1) := dk_46 (dk_at dksL_law_17 13 rfl rfl)
theorem dL_law_562 : decode cL_law 562 = .ok (.invokevirtual 145, 3) := dk_182 0 145 (dk_at dksL_law_17 14 rfl rfl)
theorem dL_law_565 : decode cL_law 565 = .ok (.istore 6, 2) := dk_54 6 (dk_at dksL_law_17 17 rfl rfl)
theorem dL_law_567 : decode cL_law 567 = .ok (.aload_n 2, 1) := dk_44 (dk_at dksL_law_17 19 rfl rfl)
theorem dL_law_568 : decode cL_law 568 = .ok (.invokevirtual 125, 3) := dk_182 0 125 (dk_at dksL_law_17 20 rfl rfl)
theorem dL_law_571 : decode cL_law 571 = .ok (.iload 5, 2) := dk_21 5 (dk_at dksL_law_18 0 rfl rfl)
theorem dL_law_573 : decode cL_law 573 = .ok (.if_icmp .eq 5, 3) := dk_159 0 5 (dk_at dksL_law_18 2 rfl rfl)
theorem dL_law_576 : decode cL_law 576 = .ok (.iconst 0, 1) := dk_3 (dk_at dksL_law_18 5 rfl rfl)
theorem dL_law_577 : decode cL_law 577 = .ok (.ireturn, 1) := dk_172 (dk_at dksL_law_18 6 rfl rfl)
theorem dL_law_578 : decode cL_law 578 = .ok (.iload 5, 2) := dk_21 5 (dk_at dksL_law_18 7 rfl rfl)
theorem dL_law_580 : decode cL_law 580 = .ok (.ifCond .ne 15, 3) := dk_154 0 15 (dk_at dksL_law_18 9 rfl rfl)
theorem dL_law_583 : decode cL_law 583 = .ok (.aload_n 3, 1) := dk_45 (dk_at dksL_law_18 12 rfl rfl)
theorem dL_law_584 : decode cL_law 584 = .ok (.iconst 0, 1) := dk_3 (dk_at dksL_law_18 13 rfl rfl)
theorem dL_law_585 : decode cL_law 585 = .ok (.laload, 1) := dk_47 (dk_at dksL_law_18 14 rfl rfl)
theorem dL_law_586 : decode cL_law 586 = .ok (.iload 6, 2) := dk_21 6 (dk_at dksL_law_18 15 rfl rfl)
theorem dL_law_588 : decode cL_law 588 = .ok (.i2l, 1) := dk_133 (dk_at dksL_law_18 17 rfl rfl)
theorem dL_law_589 : decode cL_law 589 = .ok (.lcmp, 1) := dk_148 (dk_at dksL_law_18 18 rfl rfl)
theorem dL_law_590 : decode cL_law 590 = .ok (.ifCond .eq 5, 3) := dk_153 0 5 (dk_at dksL_law_18 19 rfl rfl)
theorem dL_law_593 : decode cL_law 593 = .ok (.iconst 0, 1) := dk_3 (dk_at dksL_law_18 22 rfl rfl)
theorem dL_law_594 : decode cL_law 594 = .ok (.ireturn, 1) := dk_172 (dk_at dksL_law_18 23 rfl rfl)
theorem dL_law_595 : decode cL_law 595 = .ok (.goto 1818, 3) := dk_167 7 26 (dk_at dksL_law_19 0 rfl rfl)
theorem dL_law_598 : decode cL_law 598 = .ok (.aload_n 1, 1) := dk_43 (dk_at dksL_law_19 3 rfl rfl)
theorem dL_law_599 : decode cL_law 599 = .ok (.aload_n 0, 1) := dk_42 (dk_at dksL_law_19 4 rfl rfl)
theorem dL_law_600 : decode cL_law 600 = .ok (.iload 4, 2) := dk_21 4 (dk_at dksL_law_19 5 rfl rfl)
theorem dL_law_602 : decode cL_law 602 = .ok (.iconst 1, 1) := dk_4 (dk_at dksL_law_19 7 rfl rfl)
theorem dL_law_603 : decode cL_law 603 = .ok (.iadd, 1) := dk_96 (dk_at dksL_law_19 8 rfl rfl)
theorem dL_law_604 : decode cL_law 604 = .ok (.iaload, 1) := dk_46 (dk_at dksL_law_19 9 rfl rfl)
theorem dL_law_605 : decode cL_law 605 = .ok (.invokevirtual 146, 3) := dk_182 0 146 (dk_at dksL_law_19 10 rfl rfl)
theorem dL_law_608 : decode cL_law 608 = .ok (.aload_n 2, 1) := dk_44 (dk_at dksL_law_19 13 rfl rfl)
theorem dL_law_609 : decode cL_law 609 = .ok (.aload_n 0, 1) := dk_42 (dk_at dksL_law_19 14 rfl rfl)
theorem dL_law_610 : decode cL_law 610 = .ok (.iload 4, 2) := dk_21 4 (dk_at dksL_law_19 15 rfl rfl)
theorem dL_law_612 : decode cL_law 612 = .ok (.iconst 1, 1) := dk_4 (dk_at dksL_law_19 17 rfl rfl)
theorem dL_law_613 : decode cL_law 613 = .ok (.iadd, 1) := dk_96 (dk_at dksL_law_19 18 rfl rfl)
theorem dL_law_614 : decode cL_law 614 = .ok (.iaload, 1) := dk_46 (dk_at dksL_law_19 19 rfl rfl)
theorem dL_law_615 : decode cL_law 615 = .ok (.invokevirtual 149, 3) := dk_182 0 149 (dk_at dksL_law_19 20 rfl rfl)
theorem dL_law_618 : decode cL_law 618 = .ok (.if_icmp .eq 1795, 3) := dk_159 7 3 (dk_at dksL_law_20 0 rfl rfl)
theorem dL_law_621 : decode cL_law 621 = .ok (.iconst 0, 1) := dk_3 (dk_at dksL_law_20 3 rfl rfl)
theorem dL_law_622 : decode cL_law 622 = .ok (.ireturn, 1) := dk_172 (dk_at dksL_law_20 4 rfl rfl)
theorem dL_law_623 : decode cL_law 623 = .ok (.aload_n 1, 1) := dk_43 (dk_at dksL_law_20 5 rfl rfl)
theorem dL_law_624 : decode cL_law 624 = .ok (.aload_n 0, 1) := dk_42 (dk_at dksL_law_20 6 rfl rfl)
theorem dL_law_625 : decode cL_law 625 = .ok (.iload 4, 2) := dk_21 4 (dk_at dksL_law_20 7 rfl rfl)
theorem dL_law_627 : decode cL_law 627 = .ok (.iconst 1, 1) := dk_4 (dk_at dksL_law_20 9 rfl rfl)
theorem dL_law_628 : decode cL_law 628 = .ok (.iadd, 1) := dk_96 (dk_at dksL_law_20 10 rfl rfl)
theorem dL_law_629 : decode cL_law 629 = .ok (.iaload, 1) := dk_46 (dk_at dksL_law_20 11 rfl rfl)
theorem dL_law_630 : decode cL_law 630 = .ok (.aload_n 0, 1) := dk_42 (dk_at dksL_law_20 12 rfl rfl)
theorem dL_law_631 : decode cL_law 631 = .ok (.iload 4, 2) := dk_21 4 (dk_at dksL_law_20 13 rfl rfl)
theorem dL_law_633 : decode cL_law 633 = .ok (.iconst 2, 1) := dk_5 (dk_at dksL_law_20 15 rfl rfl)
theorem dL_law_634 : decode cL_law 634 = .ok (.iadd, 1) := dk_96 (dk_at dksL_law_20 16 rfl rfl)
theorem dL_law_635 : decode cL_law 635 = .ok (.iaload, 1) := dk_46 (dk_at dksL_law_20 17 rfl rfl)
theorem dL_law_636 : decode cL_law 636 = .ok (.aload_n 3, 1) := dk_45 (dk_at dksL_law_20 18 rfl rfl)
theorem dL_law_637 : decode cL_law 637 = .ok (.invokestatic 150, 3) := dk_184 0 150 (dk_at dksL_law_20 19 rfl rfl)
theorem dL_law_640 : decode cL_law 640 = .ok (.istore 5, 2) := dk_54 5 (dk_at dksL_law_20 22 rfl rfl)
theorem dL_law_642 : decode cL_law 642 = .ok (.aload_n 2, 1) := dk_44 (dk_at dksL_law_21 0 rfl rfl)
theorem dL_law_643 : decode cL_law 643 = .ok (.aload_n 0, 1) := dk_42 (dk_at dksL_law_21 1 rfl rfl)
theorem dL_law_644 : decode cL_law 644 = .ok (.iload 4, 2) := dk_21 4 (dk_at dksL_law_21 2 rfl rfl)
theorem dL_law_646 : decode cL_law 646 = .ok (.iconst 1, 1) := dk_4 (dk_at dksL_law_21 4 rfl rfl)
theorem dL_law_647 : decode cL_law 647 = .ok (.iadd, 1) := dk_96 (dk_at dksL_law_21 5 rfl rfl)
theorem dL_law_648 : decode cL_law 648 = .ok (.iaload, 1) := dk_46 (dk_at dksL_law_21 6 rfl rfl)
theorem dL_law_649 : decode cL_law 649 = .ok (.aload_n 0, 1) := dk_42 (dk_at dksL_law_21 7 rfl rfl)
theorem dL_law_650 : decode cL_law 650 = .ok (.iload 4, 2) := dk_21 4 (dk_at dksL_law_21 8 rfl rfl)
theorem dL_law_652 : decode cL_law 652 = .ok (.iconst 2, 1) := dk_5 (dk_at dksL_law_21 10 rfl rfl)
theorem dL_law_653 : decode cL_law 653 = .ok (.iadd, 1) := dk_96 (dk_at dksL_law_21 11 rfl rfl)
theorem dL_law_654 : decode cL_law 654 = .ok (.iaload, 1) := dk_46 (dk_at dksL_law_21 12 rfl rfl)
theorem dL_law_655 : decode cL_law 655 = .ok (.invokevirtual 152, 3) := dk_182 0 152 (dk_at dksL_law_21 13 rfl rfl)
theorem dL_law_658 : decode cL_law 658 = .ok (.istore 6, 2) := dk_54 6 (dk_at dksL_law_21 16 rfl rfl)
theorem dL_law_660 : decode cL_law 660 = .ok (.aload_n 2, 1) := dk_44 (dk_at dksL_law_21 18 rfl rfl)
theorem dL_law_661 : decode cL_law 661 = .ok (.invokevirtual 125, 3) := dk_182 0 125 (dk_at dksL_law_21 19 rfl rfl)
theorem dL_law_664 : decode cL_law 664 = .ok (.iload 5, 2) := dk_21 5 (dk_at dksL_law_21 22 rfl rfl)
theorem dL_law_666 : decode cL_law 666 = .ok (.if_icmp .eq 5, 3) := dk_159 0 5 (dk_at dksL_law_22 0 rfl rfl)
theorem dL_law_669 : decode cL_law 669 = .ok (.iconst 0, 1) := dk_3 (dk_at dksL_law_22 3 rfl rfl)
theorem dL_law_670 : decode cL_law 670 = .ok (.ireturn, 1) := dk_172 (dk_at dksL_law_22 4 rfl rfl)
theorem dL_law_671 : decode cL_law 671 = .ok (.iload 5, 2) := dk_21 5 (dk_at dksL_law_22 5 rfl rfl)
theorem dL_law_673 : decode cL_law 673 = .ok (.ifCond .ne 15, 3) := dk_154 0 15 (dk_at dksL_law_22 7 rfl rfl)
theorem dL_law_676 : decode cL_law 676 = .ok (.aload_n 3, 1) := dk_45 (dk_at dksL_law_22 10 rfl rfl)
theorem dL_law_677 : decode cL_law 677 = .ok (.iconst 0, 1) := dk_3 (dk_at dksL_law_22 11 rfl rfl)
theorem dL_law_678 : decode cL_law 678 = .ok (.laload, 1) := dk_47 (dk_at dksL_law_22 12 rfl rfl)
theorem dL_law_679 : decode cL_law 679 = .ok (.iload 6, 2) := dk_21 6 (dk_at dksL_law_22 13 rfl rfl)
theorem dL_law_681 : decode cL_law 681 = .ok (.i2l, 1) := dk_133 (dk_at dksL_law_22 15 rfl rfl)
theorem dL_law_682 : decode cL_law 682 = .ok (.lcmp, 1) := dk_148 (dk_at dksL_law_22 16 rfl rfl)
theorem dL_law_683 : decode cL_law 683 = .ok (.ifCond .eq 5, 3) := dk_153 0 5 (dk_at dksL_law_22 17 rfl rfl)
theorem dL_law_686 : decode cL_law 686 = .ok (.iconst 0, 1) := dk_3 (dk_at dksL_law_22 20 rfl rfl)
theorem dL_law_687 : decode cL_law 687 = .ok (.ireturn, 1) := dk_172 (dk_at dksL_law_22 21 rfl rfl)
theorem dL_law_688 : decode cL_law 688 = .ok (.goto 1725, 3) := dk_167 6 189 (dk_at dksL_law_23 0 rfl rfl)
theorem dL_law_691 : decode cL_law 691 = .ok (.aload_n 1, 1) := dk_43 (dk_at dksL_law_23 3 rfl rfl)
theorem dL_law_692 : decode cL_law 692 = .ok (.aload_n 0, 1) := dk_42 (dk_at dksL_law_23 4 rfl rfl)
theorem dL_law_693 : decode cL_law 693 = .ok (.iload 4, 2) := dk_21 4 (dk_at dksL_law_23 5 rfl rfl)
theorem dL_law_695 : decode cL_law 695 = .ok (.iconst 1, 1) := dk_4 (dk_at dksL_law_23 7 rfl rfl)
theorem dL_law_696 : decode cL_law 696 = .ok (.iadd, 1) := dk_96 (dk_at dksL_law_23 8 rfl rfl)
theorem dL_law_697 : decode cL_law 697 = .ok (.iaload, 1) := dk_46 (dk_at dksL_law_23 9 rfl rfl)
theorem dL_law_698 : decode cL_law 698 = .ok (.aload_n 0, 1) := dk_42 (dk_at dksL_law_23 10 rfl rfl)
theorem dL_law_699 : decode cL_law 699 = .ok (.iload 4, 2) := dk_21 4 (dk_at dksL_law_23 11 rfl rfl)
theorem dL_law_701 : decode cL_law 701 = .ok (.iconst 2, 1) := dk_5 (dk_at dksL_law_23 13 rfl rfl)
theorem dL_law_702 : decode cL_law 702 = .ok (.iadd, 1) := dk_96 (dk_at dksL_law_23 14 rfl rfl)
theorem dL_law_703 : decode cL_law 703 = .ok (.iaload, 1) := dk_46 (dk_at dksL_law_23 15 rfl rfl)
theorem dL_law_704 : decode cL_law 704 = .ok (.aload_n 3, 1) := dk_45 (dk_at dksL_law_23 16 rfl rfl)
theorem dL_law_705 : decode cL_law 705 = .ok (.invokestatic 153, 3) := dk_184 0 153 (dk_at dksL_law_23 17 rfl rfl)
theorem dL_law_708 : decode cL_law 708 = .ok (.istore 5, 2) := dk_54 5 (dk_at dksL_law_23 20 rfl rfl)
theorem dL_law_710 : decode cL_law 710 = .ok (.aload_n 2, 1) := dk_44 (dk_at dksL_law_23 22 rfl rfl)
theorem dL_law_711 : decode cL_law 711 = .ok (.aload_n 0, 1) := dk_42 (dk_at dksL_law_23 23 rfl rfl)
theorem dL_law_712 : decode cL_law 712 = .ok (.iload 4, 2) := dk_21 4 (dk_at dksL_law_24 0 rfl rfl)
theorem dL_law_714 : decode cL_law 714 = .ok (.iconst 1, 1) := dk_4 (dk_at dksL_law_24 2 rfl rfl)
theorem dL_law_715 : decode cL_law 715 = .ok (.iadd, 1) := dk_96 (dk_at dksL_law_24 3 rfl rfl)
theorem dL_law_716 : decode cL_law 716 = .ok (.iaload, 1) := dk_46 (dk_at dksL_law_24 4 rfl rfl)
theorem dL_law_717 : decode cL_law 717 = .ok (.aload_n 0, 1) := dk_42 (dk_at dksL_law_24 5 rfl rfl)
theorem dL_law_718 : decode cL_law 718 = .ok (.iload 4, 2) := dk_21 4 (dk_at dksL_law_24 6 rfl rfl)
theorem dL_law_720 : decode cL_law 720 = .ok (.iconst 2, 1) := dk_5 (dk_at dksL_law_24 8 rfl rfl)
theorem dL_law_721 : decode cL_law 721 = .ok (.iadd, 1) := dk_96 (dk_at dksL_law_24 9 rfl rfl)
theorem dL_law_722 : decode cL_law 722 = .ok (.iaload, 1) := dk_46 (dk_at dksL_law_24 10 rfl rfl)
theorem dL_law_723 : decode cL_law 723 = .ok (.invokevirtual 155, 3) := dk_182 0 155 (dk_at dksL_law_24 11 rfl rfl)
theorem dL_law_726 : decode cL_law 726 = .ok (.istore 6, 2) := dk_54 6 (dk_at dksL_law_24 14 rfl rfl)
theorem dL_law_728 : decode cL_law 728 = .ok (.aload_n 2, 1) := dk_44 (dk_at dksL_law_24 16 rfl rfl)
theorem dL_law_729 : decode cL_law 729 = .ok (.invokevirtual 125, 3) := dk_182 0 125 (dk_at dksL_law_24 17 rfl rfl)
theorem dL_law_732 : decode cL_law 732 = .ok (.iload 5, 2) := dk_21 5 (dk_at dksL_law_24 20 rfl rfl)
theorem dL_law_734 : decode cL_law 734 = .ok (.if_icmp .eq 5, 3) := dk_159 0 5 (dk_at dksL_law_25 0 rfl rfl)
theorem dL_law_737 : decode cL_law 737 = .ok (.iconst 0, 1) := dk_3 (dk_at dksL_law_25 3 rfl rfl)
theorem dL_law_738 : decode cL_law 738 = .ok (.ireturn, 1) := dk_172 (dk_at dksL_law_25 4 rfl rfl)
theorem dL_law_739 : decode cL_law 739 = .ok (.iload 5, 2) := dk_21 5 (dk_at dksL_law_25 5 rfl rfl)
theorem dL_law_741 : decode cL_law 741 = .ok (.ifCond .ne 15, 3) := dk_154 0 15 (dk_at dksL_law_25 7 rfl rfl)
theorem dL_law_744 : decode cL_law 744 = .ok (.aload_n 3, 1) := dk_45 (dk_at dksL_law_25 10 rfl rfl)
theorem dL_law_745 : decode cL_law 745 = .ok (.iconst 0, 1) := dk_3 (dk_at dksL_law_25 11 rfl rfl)
theorem dL_law_746 : decode cL_law 746 = .ok (.laload, 1) := dk_47 (dk_at dksL_law_25 12 rfl rfl)
theorem dL_law_747 : decode cL_law 747 = .ok (.iload 6, 2) := dk_21 6 (dk_at dksL_law_25 13 rfl rfl)
theorem dL_law_749 : decode cL_law 749 = .ok (.i2l, 1) := dk_133 (dk_at dksL_law_25 15 rfl rfl)
theorem dL_law_750 : decode cL_law 750 = .ok (.lcmp, 1) := dk_148 (dk_at dksL_law_25 16 rfl rfl)
theorem dL_law_751 : decode cL_law 751 = .ok (.ifCond .eq 5, 3) := dk_153 0 5 (dk_at dksL_law_25 17 rfl rfl)
theorem dL_law_754 : decode cL_law 754 = .ok (.iconst 0, 1) := dk_3 (dk_at dksL_law_25 20 rfl rfl)
theorem dL_law_755 : decode cL_law 755 = .ok (.ireturn, 1) := dk_172 (dk_at dksL_law_25 21 rfl rfl)
theorem dL_law_756 : decode cL_law 756 = .ok (.goto 1657, 3) := dk_167 6 121 (dk_at dksL_law_26 0 rfl rfl)
theorem dL_law_759 : decode cL_law 759 = .ok (.aload_n 1, 1) := dk_43 (dk_at dksL_law_26 3 rfl rfl)
theorem dL_law_760 : decode cL_law 760 = .ok (.aload_n 0, 1) := dk_42 (dk_at dksL_law_26 4 rfl rfl)
theorem dL_law_761 : decode cL_law 761 = .ok (.iload 4, 2) := dk_21 4 (dk_at dksL_law_26 5 rfl rfl)
theorem dL_law_763 : decode cL_law 763 = .ok (.iconst 1, 1) := dk_4 (dk_at dksL_law_26 7 rfl rfl)
theorem dL_law_764 : decode cL_law 764 = .ok (.iadd, 1) := dk_96 (dk_at dksL_law_26 8 rfl rfl)
theorem dL_law_765 : decode cL_law 765 = .ok (.iaload, 1) := dk_46 (dk_at dksL_law_26 9 rfl rfl)
theorem dL_law_766 : decode cL_law 766 = .ok (.aload_n 0, 1) := dk_42 (dk_at dksL_law_26 10 rfl rfl)
theorem dL_law_767 : decode cL_law 767 = .ok (.iload 4, 2) := dk_21 4 (dk_at dksL_law_26 11 rfl rfl)
theorem dL_law_769 : decode cL_law 769 = .ok (.iconst 2, 1) := dk_5 (dk_at dksL_law_26 13 rfl rfl)
theorem dL_law_770 : decode cL_law 770 = .ok (.iadd, 1) := dk_96 (dk_at dksL_law_26 14 rfl rfl)
theorem dL_law_771 : decode cL_law 771 = .ok (.iaload, 1) := dk_46 (dk_at dksL_law_26 15 rfl rfl)
theorem dL_law_772 : decode cL_law 772 = .ok (.aload_n 3, 1) := dk_45 (dk_at dksL_law_26 16 rfl rfl)
theorem dL_law_773 : decode cL_law 773 = .ok (.invokestatic 156, 3) := dk_184 0 156 (dk_at dksL_law_26 17 rfl rfl)
theorem dL_law_776 : decode cL_law 776 = .ok (.istore 5, 2) := dk_54 5 (dk_at dksL_law_26 20 rfl rfl)
theorem dL_law_778 : decode cL_law 778 = .ok (.aload_n 2, 1) := dk_44 (dk_at dksL_law_26 22 rfl rfl)
theorem dL_law_779 : decode cL_law 779 = .ok (.aload_n 0, 1) := dk_42 (dk_at dksL_law_26 23 rfl rfl)
theorem dL_law_780 : decode cL_law 780 = .ok (.iload 4, 2) := dk_21 4 (dk_at dksL_law_27 0 rfl rfl)
theorem dL_law_782 : decode cL_law 782 = .ok (.iconst 1, 1) := dk_4 (dk_at dksL_law_27 2 rfl rfl)
theorem dL_law_783 : decode cL_law 783 = .ok (.iadd, 1) := dk_96 (dk_at dksL_law_27 3 rfl rfl)
theorem dL_law_784 : decode cL_law 784 = .ok (.iaload, 1) := dk_46 (dk_at dksL_law_27 4 rfl rfl)
theorem dL_law_785 : decode cL_law 785 = .ok (.aload_n 0, 1) := dk_42 (dk_at dksL_law_27 5 rfl rfl)
theorem dL_law_786 : decode cL_law 786 = .ok (.iload 4, 2) := dk_21 4 (dk_at dksL_law_27 6 rfl rfl)
theorem dL_law_788 : decode cL_law 788 = .ok (.iconst 2, 1) := dk_5 (dk_at dksL_law_27 8 rfl rfl)
theorem dL_law_789 : decode cL_law 789 = .ok (.iadd, 1) := dk_96 (dk_at dksL_law_27 9 rfl rfl)
theorem dL_law_790 : decode cL_law 790 = .ok (.iaload, 1) := dk_46 (dk_at dksL_law_27 10 rfl rfl)
theorem dL_law_791 : decode cL_law 791 = .ok (.invokevirtual 158, 3) := dk_182 0 158 (dk_at dksL_law_27 11 rfl rfl)
theorem dL_law_794 : decode cL_law 794 = .ok (.istore 6, 2) := dk_54 6 (dk_at dksL_law_27 14 rfl rfl)
theorem dL_law_796 : decode cL_law 796 = .ok (.aload_n 2, 1) := dk_44 (dk_at dksL_law_27 16 rfl rfl)
theorem dL_law_797 : decode cL_law 797 = .ok (.invokevirtual 125, 3) := dk_182 0 125 (dk_at dksL_law_27 17 rfl rfl)
theorem dL_law_800 : decode cL_law 800 = .ok (.iload 5, 2) := dk_21 5 (dk_at dksL_law_27 20 rfl rfl)
theorem dL_law_802 : decode cL_law 802 = .ok (.if_icmp .eq 5, 3) := dk_159 0 5 (dk_at dksL_law_28 0 rfl rfl)
theorem dL_law_805 : decode cL_law 805 = .ok (.iconst 0, 1) := dk_3 (dk_at dksL_law_28 3 rfl rfl)
theorem dL_law_806 : decode cL_law 806 = .ok (.ireturn, 1) := dk_172 (dk_at dksL_law_28 4 rfl rfl)
theorem dL_law_807 : decode cL_law 807 = .ok (.iload 5, 2) := dk_21 5 (dk_at dksL_law_28 5 rfl rfl)
theorem dL_law_809 : decode cL_law 809 = .ok (.ifCond .ne 22, 3) := dk_154 0 22 (dk_at dksL_law_28 7 rfl rfl)
theorem dL_law_812 : decode cL_law 812 = .ok (.aload_n 3, 1) := dk_45 (dk_at dksL_law_28 10 rfl rfl)
theorem dL_law_813 : decode cL_law 813 = .ok (.iconst 0, 1) := dk_3 (dk_at dksL_law_28 11 rfl rfl)
theorem dL_law_814 : decode cL_law 814 = .ok (.laload, 1) := dk_47 (dk_at dksL_law_28 12 rfl rfl)
theorem dL_law_815 : decode cL_law 815 = .ok (.iload 6, 2) := dk_21 6 (dk_at dksL_law_28 13 rfl rfl)
theorem dL_law_817 : decode cL_law 817 = .ok (.ifCond .eq 7, 3) := dk_153 0 7 (dk_at dksL_law_28 15 rfl rfl)
theorem dL_law_820 : decode cL_law 820 = .ok (.lconst 1, 1) := dk_10 (dk_at dksL_law_28 18 rfl rfl)
theorem dL_law_821 : decode cL_law 821 = .ok (.goto 4, 3) := dk_167 0 4 (dk_at dksL_law_28 19 rfl rfl)
theorem dL_law_824 : decode cL_law 824 = .ok (.lconst 0, 1) := dk_9 (dk_at dksL_law_28 22 rfl rfl)
theorem dL_law_825 : decode cL_law 825 = .ok (.lcmp, 1) := dk_148 (dk_at dksL_law_28 23 rfl rfl)
theorem dL_law_826 : decode cL_law 826 = .ok (.ifCond .eq 5, 3) := dk_153 0 5 (dk_at dksL_law_29 0 rfl rfl)
theorem dL_law_829 : decode cL_law 829 = .ok (.iconst 0, 1) := dk_3 (dk_at dksL_law_29 3 rfl rfl)
theorem dL_law_830 : decode cL_law 830 = .ok (.ireturn, 1) := dk_172 (dk_at dksL_law_29 4 rfl rfl)
theorem dL_law_831 : decode cL_law 831 = .ok (.goto 1582, 3) := dk_167 6 46 (dk_at dksL_law_29 5 rfl rfl)
theorem dL_law_834 : decode cL_law 834 = .ok (.aload_n 1, 1) := dk_43 (dk_at dksL_law_29 8 rfl rfl)
theorem dL_law_835 : decode cL_law 835 = .ok (.aload_n 0, 1) := dk_42 (dk_at dksL_law_29 9 rfl rfl)
theorem dL_law_836 : decode cL_law 836 = .ok (.iload 4, 2) := dk_21 4 (dk_at dksL_law_29 10 rfl rfl)
theorem dL_law_838 : decode cL_law 838 = .ok (.iconst 1, 1) := dk_4 (dk_at dksL_law_29 12 rfl rfl)
theorem dL_law_839 : decode cL_law 839 = .ok (.iadd, 1) := dk_96 (dk_at dksL_law_29 13 rfl rfl)
theorem dL_law_840 : decode cL_law 840 = .ok (.iaload, 1) := dk_46 (dk_at dksL_law_29 14 rfl rfl)
theorem dL_law_841 : decode cL_law 841 = .ok (.aload_n 3, 1) := dk_45 (dk_at dksL_law_29 15 rfl rfl)
theorem dL_law_842 : decode cL_law 842 = .ok (.invokestatic 159, 3) := dk_184 0 159 (dk_at dksL_law_29 16 rfl rfl)
theorem dL_law_845 : decode cL_law 845 = .ok (.istore 5, 2) := dk_54 5 (dk_at dksL_law_29 19 rfl rfl)
theorem dL_law_847 : decode cL_law 847 = .ok (.aload_n 2, 1) := dk_44 (dk_at dksL_law_29 21 rfl rfl)
theorem dL_law_848 : decode cL_law 848 = .ok (.aload_n 0, 1) := dk_42 (dk_at dksL_law_29 22 rfl rfl)
theorem dL_law_849 : decode cL_law 849 = .ok (.iload 4, 2) := dk_21 4 (dk_at dksL_law_30 0 rfl rfl)
theorem dL_law_851 : decode cL_law 851 = .ok (.iconst 1, 1) := dk_4 (dk_at dksL_law_30 2 rfl rfl)
theorem dL_law_852 : decode cL_law 852 = .ok (.iadd, 1) := dk_96 (dk_at dksL_law_30 3 rfl rfl)
theorem dL_law_853 : decode cL_law 853 = .ok (.iaload, 1) := dk_46 (dk_at dksL_law_30 4 rfl rfl)
theorem dL_law_854 : decode cL_law 854 = .ok (.invokevirtual 161, 3) := dk_182 0 161 (dk_at dksL_law_30 5 rfl rfl)
theorem dL_law_857 : decode cL_law 857 = .ok (.istore 6, 2) := dk_54 6 (dk_at dksL_law_30 8 rfl rfl)
theorem dL_law_859 : decode cL_law 859 = .ok (.aload_n 2, 1) := dk_44 (dk_at dksL_law_30 10 rfl rfl)
theorem dL_law_860 : decode cL_law 860 = .ok (.invokevirtual 125, 3) := dk_182 0 125 (dk_at dksL_law_30 11 rfl rfl)
theorem dL_law_863 : decode cL_law 863 = .ok (.iload 5, 2) := dk_21 5 (dk_at dksL_law_30 14 rfl rfl)
theorem dL_law_865 : decode cL_law 865 = .ok (.if_icmp .eq 5, 3) := dk_159 0 5 (dk_at dksL_law_30 16 rfl rfl)
theorem dL_law_868 : decode cL_law 868 = .ok (.iconst 0, 1) := dk_3 (dk_at dksL_law_30 19 rfl rfl)
theorem dL_law_869 : decode cL_law 869 = .ok (.ireturn, 1) := dk_172 (dk_at dksL_law_30 20 rfl rfl)
theorem dL_law_870 : decode cL_law 870 = .ok (.iload 5, 2) := dk_21 5 (dk_at dksL_law_30 21 rfl rfl)
theorem dL_law_872 : decode cL_law 872 = .ok (.ifCond .ne 15, 3) := dk_154 0 15 (dk_at dksL_law_31 0 rfl rfl)
theorem dL_law_875 : decode cL_law 875 = .ok (.aload_n 3, 1) := dk_45 (dk_at dksL_law_31 3 rfl rfl)
theorem dL_law_876 : decode cL_law 876 = .ok (.iconst 0, 1) := dk_3 (dk_at dksL_law_31 4 rfl rfl)
theorem dL_law_877 : decode cL_law 877 = .ok (.laload, 1) := dk_47 (dk_at dksL_law_31 5 rfl rfl)
theorem dL_law_878 : decode cL_law 878 = .ok (.iload 6, 2) := dk_21 6 (dk_at dksL_law_31 6 rfl rfl)
theorem dL_law_880 : decode cL_law 880 = .ok (.i2l, 1) := dk_133 (dk_at dksL_law_31 8 rfl rfl)
theorem dL_law_881 : decode cL_law 881 = .ok (.lcmp, 1) := dk_148 (dk_at dksL_law_31 9 rfl rfl)
theorem dL_law_882 : decode cL_law 882 = .ok (.ifCond .eq 5, 3) := dk_153 0 5 (dk_at dksL_law_31 10 rfl rfl)
theorem dL_law_885 : decode cL_law 885 = .ok (.iconst 0, 1) := dk_3 (dk_at dksL_law_31 13 rfl rfl)
theorem dL_law_886 : decode cL_law 886 = .ok (.ireturn, 1) := dk_172 (dk_at dksL_law_31 14 rfl rfl)
theorem dL_law_887 : decode cL_law 887 = .ok (.goto 1526, 3) := dk_167 5 246 (dk_at dksL_law_31 15 rfl rfl)
theorem dL_law_890 : decode cL_law 890 = .ok (.aload_n 1, 1) := dk_43 (dk_at dksL_law_31 18 rfl rfl)
theorem dL_law_891 : decode cL_law 891 = .ok (.invokevirtual 162, 3) := dk_182 0 162 (dk_at dksL_law_31 19 rfl rfl)
theorem dL_law_894 : decode cL_law 894 = .ok (.aload_n 2, 1) := dk_44 (dk_at dksL_law_31 22 rfl rfl)
theorem dL_law_895 : decode cL_law 895 = .ok (.invokevirtual 165, 3) := dk_182 0 165 (dk_at dksL_law_32 0 rfl rfl)
theorem dL_law_898 : decode cL_law 898 = .ok (.if_icmp .eq 1515, 3) := dk_159 5 235 (dk_at dksL_law_32 3 rfl rfl)
theorem dL_law_901 : decode cL_law 901 = .ok (.iconst 0, 1) := dk_3 (dk_at dksL_law_32 6 rfl rfl)
theorem dL_law_902 : decode cL_law 902 = .ok (.ireturn, 1) := dk_172 (dk_at dksL_law_32 7 rfl rfl)
theorem dL_law_903 : decode cL_law 903 = .ok (.aload_n 1, 1) := dk_43 (dk_at dksL_law_32 8 rfl rfl)
theorem dL_law_904 : decode cL_law 904 = .ok (.aload_n 0, 1) := dk_42 (dk_at dksL_law_32 9 rfl rfl)
theorem dL_law_905 : decode cL_law 905 = .ok (.iload 4, 2) := dk_21 4 (dk_at dksL_law_32 10 rfl rfl)
theorem dL_law_907 : decode cL_law 907 = .ok (.iconst 1, 1) := dk_4 (dk_at dksL_law_32 12 rfl rfl)
theorem dL_law_908 : decode cL_law 908 = .ok (.iadd, 1) := dk_96 (dk_at dksL_law_32 13 rfl rfl)
theorem dL_law_909 : decode cL_law 909 = .ok (.iaload, 1) := dk_46 (dk_at dksL_law_32 14 rfl rfl)
theorem dL_law_910 : decode cL_law 910 = .ok (.aload_n 0, 1) := dk_42 (dk_at dksL_law_32 15 rfl rfl)
theorem dL_law_911 : decode cL_law 911 = .ok (.iload 4, 2) := dk_21 4 (dk_at dksL_law_32 16 rfl rfl)
theorem dL_law_913 : decode cL_law 913 = .ok (.iconst 2, 1) := dk_5 (dk_at dksL_law_32 18 rfl rfl)
theorem dL_law_914 : decode cL_law 914 = .ok (.iadd, 1) := dk_96 (dk_at dksL_law_32 19 rfl rfl)
theorem dL_law_915 : decode cL_law 915 = .ok (.iaload, 1) := dk_46 (dk_at dksL_law_32 20 rfl rfl)
theorem dL_law_916 : decode cL_law 916 = .ok (.aload_n 0, 1) := dk_42 (dk_at dksL_law_32 21 rfl rfl)
theorem dL_law_917 : decode cL_law 917 = .ok (.iload 4, 2) := dk_21 4 (dk_at dksL_law_32 22 rfl rfl)
theorem dL_law_919 : decode cL_law 919 = .ok (.iconst 3, 1) := dk_6 (dk_at dksL_law_33 0 rfl rfl)
theorem dL_law_920 : decode cL_law 920 = .ok (.iadd, 1) := dk_96 (dk_at dksL_law_33 1 rfl rfl)
theorem dL_law_921 : decode cL_law 921 = .ok (.iaload, 1) := dk_46 (dk_at dksL_law_33 2 rfl rfl)
theorem dL_law_922 : decode cL_law 922 = .ok (.aload_n 3, 1) := dk_45 (dk_at dksL_law_33 3 rfl rfl)
theorem dL_law_923 : decode cL_law 923 = .ok (.invokestatic 166, 3) := dk_184 0 166 (dk_at dksL_law_33 4 rfl rfl)
theorem dL_law_926 : decode cL_law 926 = .ok (.istore 5, 2) := dk_54 5 (dk_at dksL_law_33 7 rfl rfl)
theorem dL_law_928 : decode cL_law 928 = .ok (.aload_n 2, 1) := dk_44 (dk_at dksL_law_33 9 rfl rfl)
theorem dL_law_929 : decode cL_law 929 = .ok (.aload_n 0, 1) := dk_42 (dk_at dksL_law_33 10 rfl rfl)
theorem dL_law_930 : decode cL_law 930 = .ok (.iload 4, 2) := dk_21 4 (dk_at dksL_law_33 11 rfl rfl)
theorem dL_law_932 : decode cL_law 932 = .ok (.iconst 1, 1) := dk_4 (dk_at dksL_law_33 13 rfl rfl)
theorem dL_law_933 : decode cL_law 933 = .ok (.iadd, 1) := dk_96 (dk_at dksL_law_33 14 rfl rfl)
theorem dL_law_934 : decode cL_law 934 = .ok (.iaload, 1) := dk_46 (dk_at dksL_law_33 15 rfl rfl)
theorem dL_law_935 : decode cL_law 935 = .ok (.aload_n 0, 1) := dk_42 (dk_at dksL_law_33 16 rfl rfl)
theorem dL_law_936 : decode cL_law 936 = .ok (.iload 4, 2) := dk_21 4 (dk_at dksL_law_33 17 rfl rfl)
theorem dL_law_938 : decode cL_law 938 = .ok (.iconst 2, 1) := dk_5 (dk_at dksL_law_33 19 rfl rfl)
theorem dL_law_939 : decode cL_law 939 = .ok (.iadd, 1) := dk_96 (dk_at dksL_law_33 20 rfl rfl)
theorem dL_law_940 : decode cL_law 940 = .ok (.iaload, 1) := dk_46 (dk_at dksL_law_33 21 rfl rfl)
theorem dL_law_941 : decode cL_law 941 = .ok (.aload_n 0, 1) := dk_42 (dk_at dksL_law_33 22 rfl rfl)
theorem dL_law_942 : decode cL_law 942 = .ok (.iload 4, 2) := dk_21 4 (dk_at dksL_law_34 0 rfl rfl)
theorem dL_law_944 : decode cL_law 944 = .ok (.iconst 3, 1) := dk_6 (dk_at dksL_law_34 2 rfl rfl)
theorem dL_law_945 : decode cL_law 945 = .ok (.iadd, 1) := dk_96 (dk_at dksL_law_34 3 rfl rfl)
theorem dL_law_946 : decode cL_law 946 = .ok (.iaload, 1) := dk_46 (dk_at dksL_law_34 4 rfl rfl)
theorem dL_law_947 : decode cL_law 947 = .ok (.invokevirtual 169, 3) := dk_182 0 169 (dk_at dksL_law_34 5 rfl rfl)
theorem dL_law_950 : decode cL_law 950 = .ok (.istore 6, 2) := dk_54 6 (dk_at dksL_law_34 8 rfl rfl)
theorem dL_law_952 : decode cL_law 952 = .ok (.aload_n 2, 1) := dk_44 (dk_at dksL_law_34 10 rfl rfl)
theorem dL_law_953 : decode cL_law 953 = .ok (.invokevirtual 125, 3) := dk_182 0 125 (dk_at dksL_law_34 11 rfl rfl)
theorem dL_law_956 : decode cL_law 956 = .ok (.iload 5, 2) := dk_21 5 (dk_at dksL_law_34 14 rfl rfl)
theorem dL_law_958 : decode cL_law 958 = .ok (.if_icmp .eq 5, 3) := dk_159 0 5 (dk_at dksL_law_34 16 rfl rfl)
theorem dL_law_961 : decode cL_law 961 = .ok (.iconst 0, 1) := dk_3 (dk_at dksL_law_34 19 rfl rfl)
theorem dL_law_962 : decode cL_law 962 = .ok (.ireturn, 1) := dk_172 (dk_at dksL_law_34 20 rfl rfl)
theorem dL_law_963 : decode cL_law 963 = .ok (.iload 5, 2) := dk_21 5 (dk_at dksL_law_34 21 rfl rfl)
theorem dL_law_965 : decode cL_law 965 = .ok (.ifCond .ne 15, 3) := dk_154 0 15 (dk_at dksL_law_35 0 rfl rfl)
theorem dL_law_968 : decode cL_law 968 = .ok (.aload_n 3, 1) := dk_45 (dk_at dksL_law_35 3 rfl rfl)
theorem dL_law_969 : decode cL_law 969 = .ok (.iconst 0, 1) := dk_3 (dk_at dksL_law_35 4 rfl rfl)
theorem dL_law_970 : decode cL_law 970 = .ok (.laload, 1) := dk_47 (dk_at dksL_law_35 5 rfl rfl)
theorem dL_law_971 : decode cL_law 971 = .ok (.iload 6, 2) := dk_21 6 (dk_at dksL_law_35 6 rfl rfl)
theorem dL_law_973 : decode cL_law 973 = .ok (.i2l, 1) := dk_133 (dk_at dksL_law_35 8 rfl rfl)
theorem dL_law_974 : decode cL_law 974 = .ok (.lcmp, 1) := dk_148 (dk_at dksL_law_35 9 rfl rfl)
theorem dL_law_975 : decode cL_law 975 = .ok (.ifCond .eq 5, 3) := dk_153 0 5 (dk_at dksL_law_35 10 rfl rfl)
theorem dL_law_978 : decode cL_law 978 = .ok (.iconst 0, 1) := dk_3 (dk_at dksL_law_35 13 rfl rfl)
theorem dL_law_979 : decode cL_law 979 = .ok (.ireturn, 1) := dk_172 (dk_at dksL_law_35 14 rfl rfl)
theorem dL_law_980 : decode cL_law 980 = .ok (.goto 1433, 3) := dk_167 5 153 (dk_at dksL_law_35 15 rfl rfl)
theorem dL_law_983 : decode cL_law 983 = .ok (.aload_n 1, 1) := dk_43 (dk_at dksL_law_35 18 rfl rfl)
theorem dL_law_984 : decode cL_law 984 = .ok (.aload_n 0, 1) := dk_42 (dk_at dksL_law_35 19 rfl rfl)
theorem dL_law_985 : decode cL_law 985 = .ok (.iload 4, 2) := dk_21 4 (dk_at dksL_law_35 20 rfl rfl)
theorem dL_law_987 : decode cL_law 987 = .ok (.iconst 1, 1) := dk_4 (dk_at dksL_law_35 22 rfl rfl)
theorem dL_law_988 : decode cL_law 988 = .ok (.iadd, 1) := dk_96 (dk_at dksL_law_35 23 rfl rfl)
theorem dL_law_989 : decode cL_law 989 = .ok (.iaload, 1) := dk_46 (dk_at dksL_law_36 0 rfl rfl)
theorem dL_law_990 : decode cL_law 990 = .ok (.aload_n 0, 1) := dk_42 (dk_at dksL_law_36 1 rfl rfl)
theorem dL_law_991 : decode cL_law 991 = .ok (.iload 4, 2) := dk_21 4 (dk_at dksL_law_36 2 rfl rfl)
theorem dL_law_993 : decode cL_law 993 = .ok (.iconst 2, 1) := dk_5 (dk_at dksL_law_36 4 rfl rfl)
theorem dL_law_994 : decode cL_law 994 = .ok (.iadd, 1) := dk_96 (dk_at dksL_law_36 5 rfl rfl)
theorem dL_law_995 : decode cL_law 995 = .ok (.iaload, 1) := dk_46 (dk_at dksL_law_36 6 rfl rfl)
theorem dL_law_996 : decode cL_law 996 = .ok (.aload_n 3, 1) := dk_45 (dk_at dksL_law_36 7 rfl rfl)
theorem dL_law_997 : decode cL_law 997 = .ok (.invokestatic 170, 3) := dk_184 0 170 (dk_at dksL_law_36 8 rfl rfl)
theorem dL_law_1000 : decode cL_law 1000 = .ok (.istore 5, 2) := dk_54 5 (dk_at dksL_law_36 11 rfl rfl)
theorem dL_law_1002 : decode cL_law 1002 = .ok (.aload_n 2, 1) := dk_44 (dk_at dksL_law_36 13 rfl rfl)
theorem dL_law_1003 : decode cL_law 1003 = .ok (.aload_n 0, 1) := dk_42 (dk_at dksL_law_36 14 rfl rfl)
theorem dL_law_1004 : decode cL_law 1004 = .ok (.iload 4, 2) := dk_21 4 (dk_at dksL_law_36 15 rfl rfl)
theorem dL_law_1006 : decode cL_law 1006 = .ok (.iconst 1, 1) := dk_4 (dk_at dksL_law_36 17 rfl rfl)
theorem dL_law_1007 : decode cL_law 1007 = .ok (.iadd, 1) := dk_96 (dk_at dksL_law_36 18 rfl rfl)
theorem dL_law_1008 : decode cL_law 1008 = .ok (.iaload, 1) := dk_46 (dk_at dksL_law_36 19 rfl rfl)
theorem dL_law_1009 : decode cL_law 1009 = .ok (.aload_n 0, 1) := dk_42 (dk_at dksL_law_36 20 rfl rfl)
theorem dL_law_1010 : decode cL_law 1010 = .ok (.iload 4, 2) := dk_21 4 (dk_at dksL_law_36 21 rfl rfl)
theorem dL_law_1012 : decode cL_law 1012 = .ok (.iconst 2, 1) := dk_5 (dk_at dksL_law_36 23 rfl rfl)
theorem dL_law_1013 : decode cL_law 1013 = .ok (.iadd, 1) := dk_96 (dk_at dksL_law_37 0 rfl rfl)
theorem dL_law_1014 : decode cL_law 1014 = .ok (.iaload, 1) := dk_46 (dk_at dksL_law_37 1 rfl rfl)
theorem dL_law_1015 : decode cL_law 1015 = .ok (.invokevirtual 172, 3) := dk_182 0 172 (dk_at dksL_law_37 2 rfl rfl)
theorem dL_law_1018 : decode cL_law 1018 = .ok (.istore 6, 2) := dk_54 6 (dk_at dksL_law_37 5 rfl rfl)
theorem dL_law_1020 : decode cL_law 1020 = .ok (.aload_n 2, 1) := dk_44 (dk_at dksL_law_37 7 rfl rfl)
theorem dL_law_1021 : decode cL_law 1021 = .ok (.invokevirtual 125, 3) := dk_182 0 125 (dk_at dksL_law_37 8 rfl rfl)
theorem dL_law_1024 : decode cL_law 1024 = .ok (.iload 5, 2) := dk_21 5 (dk_at dksL_law_37 11 rfl rfl)
theorem dL_law_1026 : decode cL_law 1026 = .ok (.if_icmp .eq 5, 3) := dk_159 0 5 (dk_at dksL_law_37 13 rfl rfl)
theorem dL_law_1029 : decode cL_law 1029 = .ok (.iconst 0, 1) := dk_3 (dk_at dksL_law_37 16 rfl rfl)
theorem dL_law_1030 : decode cL_law 1030 = .ok (.ireturn, 1) := dk_172 (dk_at dksL_law_37 17 rfl rfl)
theorem dL_law_1031 : decode cL_law 1031 = .ok (.iload 5, 2) := dk_21 5 (dk_at dksL_law_37 18 rfl rfl)
theorem dL_law_1033 : decode cL_law 1033 = .ok (.ifCond .ne 15, 3) := dk_154 0 15 (dk_at dksL_law_37 20 rfl rfl)
theorem dL_law_1036 : decode cL_law 1036 = .ok (.aload_n 3, 1) := dk_45 (dk_at dksL_law_37 23 rfl rfl)
theorem dL_law_1037 : decode cL_law 1037 = .ok (.iconst 0, 1) := dk_3 (dk_at dksL_law_38 0 rfl rfl)
theorem dL_law_1038 : decode cL_law 1038 = .ok (.laload, 1) := dk_47 (dk_at dksL_law_38 1 rfl rfl)
theorem dL_law_1039 : decode cL_law 1039 = .ok (.iload 6, 2) := dk_21 6 (dk_at dksL_law_38 2 rfl rfl)
theorem dL_law_1041 : decode cL_law 1041 = .ok (.i2l, 1) := dk_133 (dk_at dksL_law_38 4 rfl rfl)
theorem dL_law_1042 : decode cL_law 1042 = .ok (.lcmp, 1) := dk_148 (dk_at dksL_law_38 5 rfl rfl)
theorem dL_law_1043 : decode cL_law 1043 = .ok (.ifCond .eq 5, 3) := dk_153 0 5 (dk_at dksL_law_38 6 rfl rfl)
theorem dL_law_1046 : decode cL_law 1046 = .ok (.iconst 0, 1) := dk_3 (dk_at dksL_law_38 9 rfl rfl)
theorem dL_law_1047 : decode cL_law 1047 = .ok (.ireturn, 1) := dk_172 (dk_at dksL_law_38 10 rfl rfl)
theorem dL_law_1048 : decode cL_law 1048 = .ok (.goto 1365, 3) := dk_167 5 85 (dk_at dksL_law_38 11 rfl rfl)
theorem dL_law_1051 : decode cL_law 1051 = .ok (.aload_n 1, 1) := dk_43 (dk_at dksL_law_38 14 rfl rfl)
theorem dL_law_1052 : decode cL_law 1052 = .ok (.aload_n 0, 1) := dk_42 (dk_at dksL_law_38 15 rfl rfl)
theorem dL_law_1053 : decode cL_law 1053 = .ok (.iload 4, 2) := dk_21 4 (dk_at dksL_law_38 16 rfl rfl)
theorem dL_law_1055 : decode cL_law 1055 = .ok (.iconst 1, 1) := dk_4 (dk_at dksL_law_38 18 rfl rfl)
theorem dL_law_1056 : decode cL_law 1056 = .ok (.iadd, 1) := dk_96 (dk_at dksL_law_38 19 rfl rfl)
theorem dL_law_1057 : decode cL_law 1057 = .ok (.iaload, 1) := dk_46 (dk_at dksL_law_38 20 rfl rfl)
theorem dL_law_1058 : decode cL_law 1058 = .ok (.aload_n 3, 1) := dk_45 (dk_at dksL_law_38 21 rfl rfl)
theorem dL_law_1059 : decode cL_law 1059 = .ok (.invokestatic 173, 3) := dk_184 0 173 (dk_at dksL_law_39 0 rfl rfl)
theorem dL_law_1062 : decode cL_law 1062 = .ok (.istore 5, 2) := dk_54 5 (dk_at dksL_law_39 3 rfl rfl)
theorem dL_law_1064 : decode cL_law 1064 = .ok (.aload_n 2, 1) := dk_44 (dk_at dksL_law_39 5 rfl rfl)
theorem dL_law_1065 : decode cL_law 1065 = .ok (.aload_n 0, 1) := dk_42 (dk_at dksL_law_39 6 rfl rfl)
theorem dL_law_1066 : decode cL_law 1066 = .ok (.iload 4, 2) := dk_21 4 (dk_at dksL_law_39 7 rfl rfl)
theorem dL_law_1068 : decode cL_law 1068 = .ok (.iconst 1, 1) := dk_4 (dk_at dksL_law_39 9 rfl rfl)
theorem dL_law_1069 : decode cL_law 1069 = .ok (.iadd, 1) := dk_96 (dk_at dksL_law_39 10 rfl rfl)
theorem dL_law_1070 : decode cL_law 1070 = .ok (.iaload, 1) := dk_46 (dk_at dksL_law_39 11 rfl rfl)
theorem dL_law_1071 : decode cL_law 1071 = .ok (.invokevirtual 175, 3) := dk_182 0 175 (dk_at dksL_law_39 12 rfl rfl)
theorem dL_law_1074 : decode cL_law 1074 = .ok (.istore 6, 2) := dk_54 6 (dk_at dksL_law_39 15 rfl rfl)
theorem dL_law_1076 : decode cL_law 1076 = .ok (.aload_n 2, 1) := dk_44 (dk_at dksL_law_39 17 rfl rfl)
theorem dL_law_1077 : decode cL_law 1077 = .ok (.invokevirtual 125, 3) := dk_182 0 125 (dk_at dksL_law_39 18 rfl rfl)
theorem dL_law_1080 : decode cL_law 1080 = .ok (.iload 5, 2) := dk_21 5 (dk_at dksL_law_39 21 rfl rfl)
theorem dL_law_1082 : decode cL_law 1082 = .ok (.if_icmp .eq 5, 3) := dk_159 0 5 (dk_at dksL_law_40 0 rfl rfl)
theorem dL_law_1085 : decode cL_law 1085 = .ok (.iconst 0, 1) := dk_3 (dk_at dksL_law_40 3 rfl rfl)
theorem dL_law_1086 : decode cL_law 1086 = .ok (.ireturn, 1) := dk_172 (dk_at dksL_law_40 4 rfl rfl)
theorem dL_law_1087 : decode cL_law 1087 = .ok (.iload 5, 2) := dk_21 5 (dk_at dksL_law_40 5 rfl rfl)
theorem dL_law_1089 : decode cL_law 1089 = .ok (.ifCond .ne 15, 3) := dk_154 0 15 (dk_at dksL_law_40 7 rfl rfl)
theorem dL_law_1092 : decode cL_law 1092 = .ok (.aload_n 3, 1) := dk_45 (dk_at dksL_law_40 10 rfl rfl)
theorem dL_law_1093 : decode cL_law 1093 = .ok (.iconst 0, 1) := dk_3 (dk_at dksL_law_40 11 rfl rfl)
theorem dL_law_1094 : decode cL_law 1094 = .ok (.laload, 1) := dk_47 (dk_at dksL_law_40 12 rfl rfl)
theorem dL_law_1095 : decode cL_law 1095 = .ok (.iload 6, 2) := dk_21 6 (dk_at dksL_law_40 13 rfl rfl)
theorem dL_law_1097 : decode cL_law 1097 = .ok (.i2l, 1) := dk_133 (dk_at dksL_law_40 15 rfl rfl)
theorem dL_law_1098 : decode cL_law 1098 = .ok (.lcmp, 1) := dk_148 (dk_at dksL_law_40 16 rfl rfl)
theorem dL_law_1099 : decode cL_law 1099 = .ok (.ifCond .eq 5, 3) := dk_153 0 5 (dk_at dksL_law_40 17 rfl rfl)
theorem dL_law_1102 : decode cL_law 1102 = .ok (.iconst 0, 1) := dk_3 (dk_at dksL_law_40 20 rfl rfl)
theorem dL_law_1103 : decode cL_law 1103 = .ok (.ireturn, 1) := dk_172 (dk_at dksL_law_40 21 rfl rfl)
theorem dL_law_1104 : decode cL_law 1104 = .ok (.goto 1309, 3) := dk_167 5 29 (dk_at dksL_law_41 0 rfl rfl)
theorem dL_law_1107 : decode cL_law 1107 = .ok (.aload_n 1, 1) := dk_43 (dk_at dksL_law_41 3 rfl rfl)
theorem dL_law_1108 : decode cL_law 1108 = .ok (.aload_n 0, 1) := dk_42 (dk_at dksL_law_41 4 rfl rfl)
theorem dL_law_1109 : decode cL_law 1109 = .ok (.iload 4, 2) := dk_21 4 (dk_at dksL_law_41 5 rfl rfl)
theorem dL_law_1111 : decode cL_law 1111 = .ok (.iconst 1, 1) := dk_4 (dk_at dksL_law_41 7 rfl rfl)
theorem dL_law_1112 : decode cL_law 1112 = .ok (.iadd, 1) := dk_96 (dk_at dksL_law_41 8 rfl rfl)
theorem dL_law_1113 : decode cL_law 1113 = .ok (.iaload, 1) := dk_46 (dk_at dksL_law_41 9 rfl rfl)
theorem dL_law_1114 : decode cL_law 1114 = .ok (.aload_n 3, 1) := dk_45 (dk_at dksL_law_41 10 rfl rfl)
theorem dL_law_1115 : decode cL_law 1115 = .ok (.invokestatic 176, 3) := dk_184 0 176 (dk_at dksL_law_41 11 rfl rfl)
theorem dL_law_1118 : decode cL_law 1118 = .ok (.istore 5, 2) := dk_54 5 (dk_at dksL_law_41 14 rfl rfl)
theorem dL_law_1120 : decode cL_law 1120 = .ok (.aload_n 2, 1) := dk_44 (dk_at dksL_law_41 16 rfl rfl)
theorem dL_law_1121 : decode cL_law 1121 = .ok (.aload_n 0, 1) := dk_42 (dk_at dksL_law_41 17 rfl rfl)
theorem dL_law_1122 : decode cL_law 1122 = .ok (.iload 4, 2) := dk_21 4 (dk_at dksL_law_41 18 rfl rfl)
theorem dL_law_1124 : decode cL_law 1124 = .ok (.iconst 1, 1) := dk_4 (dk_at dksL_law_41 20 rfl rfl)
theorem dL_law_1125 : decode cL_law 1125 = .ok (.iadd, 1) := dk_96 (dk_at dksL_law_41 21 rfl rfl)
theorem dL_law_1126 : decode cL_law 1126 = .ok (.iaload, 1) := dk_46 (dk_at dksL_law_41 22 rfl rfl)
theorem dL_law_1127 : decode cL_law 1127 = .ok (.invokevirtual 178, 3) := dk_182 0 178 (dk_at dksL_law_42 0 rfl rfl)
theorem dL_law_1130 : decode cL_law 1130 = .ok (.istore 6, 2) := dk_54 6 (dk_at dksL_law_42 3 rfl rfl)
theorem dL_law_1132 : decode cL_law 1132 = .ok (.aload_n 2, 1) := dk_44 (dk_at dksL_law_42 5 rfl rfl)
theorem dL_law_1133 : decode cL_law 1133 = .ok (.invokevirtual 125, 3) := dk_182 0 125 (dk_at dksL_law_42 6 rfl rfl)
theorem dL_law_1136 : decode cL_law 1136 = .ok (.iload 5, 2) := dk_21 5 (dk_at dksL_law_42 9 rfl rfl)
theorem dL_law_1138 : decode cL_law 1138 = .ok (.if_icmp .eq 5, 3) := dk_159 0 5 (dk_at dksL_law_42 11 rfl rfl)
theorem dL_law_1141 : decode cL_law 1141 = .ok (.iconst 0, 1) := dk_3 (dk_at dksL_law_42 14 rfl rfl)
theorem dL_law_1142 : decode cL_law 1142 = .ok (.ireturn, 1) := dk_172 (dk_at dksL_law_42 15 rfl rfl)
theorem dL_law_1143 : decode cL_law 1143 = .ok (.iload 5, 2) := dk_21 5 (dk_at dksL_law_42 16 rfl rfl)
theorem dL_law_1145 : decode cL_law 1145 = .ok (.ifCond .ne 15, 3) := dk_154 0 15 (dk_at dksL_law_42 18 rfl rfl)
theorem dL_law_1148 : decode cL_law 1148 = .ok (.aload_n 3, 1) := dk_45 (dk_at dksL_law_42 21 rfl rfl)
theorem dL_law_1149 : decode cL_law 1149 = .ok (.iconst 0, 1) := dk_3 (dk_at dksL_law_42 22 rfl rfl)
theorem dL_law_1150 : decode cL_law 1150 = .ok (.laload, 1) := dk_47 (dk_at dksL_law_42 23 rfl rfl)
theorem dL_law_1151 : decode cL_law 1151 = .ok (.iload 6, 2) := dk_21 6 (dk_at dksL_law_43 0 rfl rfl)
theorem dL_law_1153 : decode cL_law 1153 = .ok (.i2l, 1) := dk_133 (dk_at dksL_law_43 2 rfl rfl)
theorem dL_law_1154 : decode cL_law 1154 = .ok (.lcmp, 1) := dk_148 (dk_at dksL_law_43 3 rfl rfl)
theorem dL_law_1155 : decode cL_law 1155 = .ok (.ifCond .eq 5, 3) := dk_153 0 5 (dk_at dksL_law_43 4 rfl rfl)
theorem dL_law_1158 : decode cL_law 1158 = .ok (.iconst 0, 1) := dk_3 (dk_at dksL_law_43 7 rfl rfl)
theorem dL_law_1159 : decode cL_law 1159 = .ok (.ireturn, 1) := dk_172 (dk_at dksL_law_43 8 rfl rfl)
theorem dL_law_1160 : decode cL_law 1160 = .ok (.goto 1253, 3) := dk_167 4 229 (dk_at dksL_law_43 9 rfl rfl)
theorem dL_law_1163 : decode cL_law 1163 = .ok (.aload_n 1, 1) := dk_43 (dk_at dksL_law_43 12 rfl rfl)
theorem dL_law_1164 : decode cL_law 1164 = .ok (.invokevirtual 179, 3) := dk_182 0 179 (dk_at dksL_law_43 13 rfl rfl)
theorem dL_law_1167 : decode cL_law 1167 = .ok (.aload_n 2, 1) := dk_44 (dk_at dksL_law_43 16 rfl rfl)
theorem dL_law_1168 : decode cL_law 1168 = .ok (.invokevirtual 182, 3) := dk_182 0 182 (dk_at dksL_law_43 17 rfl rfl)
theorem dL_law_1171 : decode cL_law 1171 = .ok (.if_icmp .eq 1242, 3) := dk_159 4 218 (dk_at dksL_law_43 20 rfl rfl)
theorem dL_law_1174 : decode cL_law 1174 = .ok (.iconst 0, 1) := dk_3 (dk_at dksL_law_43 23 rfl rfl)
theorem dL_law_1175 : decode cL_law 1175 = .ok (.ireturn, 1) := dk_172 (dk_at dksL_law_44 0 rfl rfl)
theorem dL_law_1176 : decode cL_law 1176 = .ok (.aload_n 1, 1) := dk_43 (dk_at dksL_law_44 1 rfl rfl)
theorem dL_law_1177 : decode cL_law 1177 = .ok (.aload_n 0, 1) := dk_42 (dk_at dksL_law_44 2 rfl rfl)
theorem dL_law_1178 : decode cL_law 1178 = .ok (.iload 4, 2) := dk_21 4 (dk_at dksL_law_44 3 rfl rfl)
theorem dL_law_1180 : decode cL_law 1180 = .ok (.iconst 1, 1) := dk_4 (dk_at dksL_law_44 5 rfl rfl)
theorem dL_law_1181 : decode cL_law 1181 = .ok (.iadd, 1) := dk_96 (dk_at dksL_law_44 6 rfl rfl)
theorem dL_law_1182 : decode cL_law 1182 = .ok (.iaload, 1) := dk_46 (dk_at dksL_law_44 7 rfl rfl)
theorem dL_law_1183 : decode cL_law 1183 = .ok (.aload_n 0, 1) := dk_42 (dk_at dksL_law_44 8 rfl rfl)
theorem dL_law_1184 : decode cL_law 1184 = .ok (.iload 4, 2) := dk_21 4 (dk_at dksL_law_44 9 rfl rfl)
theorem dL_law_1186 : decode cL_law 1186 = .ok (.iconst 2, 1) := dk_5 (dk_at dksL_law_44 11 rfl rfl)
theorem dL_law_1187 : decode cL_law 1187 = .ok (.iadd, 1) := dk_96 (dk_at dksL_law_44 12 rfl rfl)
theorem dL_law_1188 : decode cL_law 1188 = .ok (.iaload, 1) := dk_46 (dk_at dksL_law_44 13 rfl rfl)
theorem dL_law_1189 : decode cL_law 1189 = .ok (.aload_n 0, 1) := dk_42 (dk_at dksL_law_44 14 rfl rfl)
theorem dL_law_1190 : decode cL_law 1190 = .ok (.iload 4, 2) := dk_21 4 (dk_at dksL_law_44 15 rfl rfl)
theorem dL_law_1192 : decode cL_law 1192 = .ok (.iconst 3, 1) := dk_6 (dk_at dksL_law_44 17 rfl rfl)
theorem dL_law_1193 : decode cL_law 1193 = .ok (.iadd, 1) := dk_96 (dk_at dksL_law_44 18 rfl rfl)
theorem dL_law_1194 : decode cL_law 1194 = .ok (.iaload, 1) := dk_46 (dk_at dksL_law_44 19 rfl rfl)
theorem dL_law_1195 : decode cL_law 1195 = .ok (.aload_n 3, 1) := dk_45 (dk_at dksL_law_44 20 rfl rfl)
theorem dL_law_1196 : decode cL_law 1196 = .ok (.invokestatic 183, 3) := dk_184 0 183 (dk_at dksL_law_44 21 rfl rfl)
theorem dL_law_1199 : decode cL_law 1199 = .ok (.istore 5, 2) := dk_54 5 (dk_at dksL_law_45 0 rfl rfl)
theorem dL_law_1201 : decode cL_law 1201 = .ok (.aload_n 2, 1) := dk_44 (dk_at dksL_law_45 2 rfl rfl)
theorem dL_law_1202 : decode cL_law 1202 = .ok (.aload_n 0, 1) := dk_42 (dk_at dksL_law_45 3 rfl rfl)
theorem dL_law_1203 : decode cL_law 1203 = .ok (.iload 4, 2) := dk_21 4 (dk_at dksL_law_45 4 rfl rfl)
theorem dL_law_1205 : decode cL_law 1205 = .ok (.iconst 1, 1) := dk_4 (dk_at dksL_law_45 6 rfl rfl)
theorem dL_law_1206 : decode cL_law 1206 = .ok (.iadd, 1) := dk_96 (dk_at dksL_law_45 7 rfl rfl)
theorem dL_law_1207 : decode cL_law 1207 = .ok (.iaload, 1) := dk_46 (dk_at dksL_law_45 8 rfl rfl)
theorem dL_law_1208 : decode cL_law 1208 = .ok (.aload_n 0, 1) := dk_42 (dk_at dksL_law_45 9 rfl rfl)
theorem dL_law_1209 : decode cL_law 1209 = .ok (.iload 4, 2) := dk_21 4 (dk_at dksL_law_45 10 rfl rfl)
theorem dL_law_1211 : decode cL_law 1211 = .ok (.iconst 2, 1) := dk_5 (dk_at dksL_law_45 12 rfl rfl)
theorem dL_law_1212 : decode cL_law 1212 = .ok (.iadd, 1) := dk_96 (dk_at dksL_law_45 13 rfl rfl)
theorem dL_law_1213 : decode cL_law 1213 = .ok (.iaload, 1) := dk_46 (dk_at dksL_law_45 14 rfl rfl)
theorem dL_law_1214 : decode cL_law 1214 = .ok (.aload_n 0, 1) := dk_42 (dk_at dksL_law_45 15 rfl rfl)
theorem dL_law_1215 : decode cL_law 1215 = .ok (.iload 4, 2) := dk_21 4 (dk_at dksL_law_45 16 rfl rfl)
theorem dL_law_1217 : decode cL_law 1217 = .ok (.iconst 3, 1) := dk_6 (dk_at dksL_law_45 18 rfl rfl)
theorem dL_law_1218 : decode cL_law 1218 = .ok (.iadd, 1) := dk_96 (dk_at dksL_law_45 19 rfl rfl)
theorem dL_law_1219 : decode cL_law 1219 = .ok (.iaload, 1) := dk_46 (dk_at dksL_law_45 20 rfl rfl)
theorem dL_law_1220 : decode cL_law 1220 = .ok (.invokevirtual 185, 3) := dk_182 0 185 (dk_at dksL_law_45 21 rfl rfl)
theorem dL_law_1223 : decode cL_law 1223 = .ok (.istore 6, 2) := dk_54 6 (dk_at dksL_law_46 0 rfl rfl)
theorem dL_law_1225 : decode cL_law 1225 = .ok (.aload_n 2, 1) := dk_44 (dk_at dksL_law_46 2 rfl rfl)
theorem dL_law_1226 : decode cL_law 1226 = .ok (.invokevirtual 125, 3) := dk_182 0 125 (dk_at dksL_law_46 3 rfl rfl)
theorem dL_law_1229 : decode cL_law 1229 = .ok (.iload 5, 2) := dk_21 5 (dk_at dksL_law_46 6 rfl rfl)
theorem dL_law_1231 : decode cL_law 1231 = .ok (.if_icmp .eq 5, 3) := dk_159 0 5 (dk_at dksL_law_46 8 rfl rfl)
theorem dL_law_1234 : decode cL_law 1234 = .ok (.iconst 0, 1) := dk_3 (dk_at dksL_law_46 11 rfl rfl)
theorem dL_law_1235 : decode cL_law 1235 = .ok (.ireturn, 1) := dk_172 (dk_at dksL_law_46 12 rfl rfl)
theorem dL_law_1236 : decode cL_law 1236 = .ok (.iload 5, 2) := dk_21 5 (dk_at dksL_law_46 13 rfl rfl)
theorem dL_law_1238 : decode cL_law 1238 = .ok (.ifCond .ne 15, 3) := dk_154 0 15 (dk_at dksL_law_46 15 rfl rfl)
theorem dL_law_1241 : decode cL_law 1241 = .ok (.aload_n 3, 1) := dk_45 (dk_at dksL_law_46 18 rfl rfl)
theorem dL_law_1242 : decode cL_law 1242 = .ok (.iconst 0, 1) := dk_3 (dk_at dksL_law_46 19 rfl rfl)
theorem dL_law_1243 : decode cL_law 1243 = .ok (.laload, 1) := dk_47 (dk_at dksL_law_46 20 rfl rfl)
theorem dL_law_1244 : decode cL_law 1244 = .ok (.iload 6, 2) := dk_21 6 (dk_at dksL_law_46 21 rfl rfl)
theorem dL_law_1246 : decode cL_law 1246 = .ok (.i2l, 1) := dk_133 (dk_at dksL_law_46 23 rfl rfl)
theorem dL_law_1247 : decode cL_law 1247 = .ok (.lcmp, 1) := dk_148 (dk_at dksL_law_47 0 rfl rfl)
theorem dL_law_1248 : decode cL_law 1248 = .ok (.ifCond .eq 5, 3) := dk_153 0 5 (dk_at dksL_law_47 1 rfl rfl)
theorem dL_law_1251 : decode cL_law 1251 = .ok (.iconst 0, 1) := dk_3 (dk_at dksL_law_47 4 rfl rfl)
theorem dL_law_1252 : decode cL_law 1252 = .ok (.ireturn, 1) := dk_172 (dk_at dksL_law_47 5 rfl rfl)
theorem dL_law_1253 : decode cL_law 1253 = .ok (.goto 1160, 3) := dk_167 4 136 (dk_at dksL_law_47 6 rfl rfl)
theorem dL_law_1256 : decode cL_law 1256 = .ok (.aload_n 1, 1) := dk_43 (dk_at dksL_law_47 9 rfl rfl)
theorem dL_law_1257 : decode cL_law 1257 = .ok (.aload_n 0, 1) := dk_42 (dk_at dksL_law_47 10 rfl rfl)
theorem dL_law_1258 : decode cL_law 1258 = .ok (.iload 4, 2) := dk_21 4 (dk_at dksL_law_47 11 rfl rfl)
theorem dL_law_1260 : decode cL_law 1260 = .ok (.iconst 1, 1) := dk_4 (dk_at dksL_law_47 13 rfl rfl)
theorem dL_law_1261 : decode cL_law 1261 = .ok (.iadd, 1) := dk_96 (dk_at dksL_law_47 14 rfl rfl)
theorem dL_law_1262 : decode cL_law 1262 = .ok (.iaload, 1) := dk_46 (dk_at dksL_law_47 15 rfl rfl)
theorem dL_law_1263 : decode cL_law 1263 = .ok (.aload_n 0, 1) := dk_42 (dk_at dksL_law_47 16 rfl rfl)
theorem dL_law_1264 : decode cL_law 1264 = .ok (.iload 4, 2) := dk_21 4 (dk_at dksL_law_47 17 rfl rfl)
theorem dL_law_1266 : decode cL_law 1266 = .ok (.iconst 2, 1) := dk_5 (dk_at dksL_law_47 19 rfl rfl)
theorem dL_law_1267 : decode cL_law 1267 = .ok (.iadd, 1) := dk_96 (dk_at dksL_law_47 20 rfl rfl)
theorem dL_law_1268 : decode cL_law 1268 = .ok (.iaload, 1) := dk_46 (dk_at dksL_law_47 21 rfl rfl)
theorem dL_law_1269 : decode cL_law 1269 = .ok (.aload_n 3, 1) := dk_45 (dk_at dksL_law_47 22 rfl rfl)
theorem dL_law_1270 : decode cL_law 1270 = .ok (.invokestatic 186, 3) := dk_184 0 186 (dk_at dksL_law_48 0 rfl rfl)
theorem dL_law_1273 : decode cL_law 1273 = .ok (.istore 5, 2) := dk_54 5 (dk_at dksL_law_48 3 rfl rfl)
theorem dL_law_1275 : decode cL_law 1275 = .ok (.aload_n 2, 1) := dk_44 (dk_at dksL_law_48 5 rfl rfl)
theorem dL_law_1276 : decode cL_law 1276 = .ok (.aload_n 0, 1) := dk_42 (dk_at dksL_law_48 6 rfl rfl)
theorem dL_law_1277 : decode cL_law 1277 = .ok (.iload 4, 2) := dk_21 4 (dk_at dksL_law_48 7 rfl rfl)
theorem dL_law_1279 : decode cL_law 1279 = .ok (.iconst 1, 1) := dk_4 (dk_at dksL_law_48 9 rfl rfl)
theorem dL_law_1280 : decode cL_law 1280 = .ok (.iadd, 1) := dk_96 (dk_at dksL_law_48 10 rfl rfl)
theorem dL_law_1281 : decode cL_law 1281 = .ok (.iaload, 1) := dk_46 (dk_at dksL_law_48 11 rfl rfl)
theorem dL_law_1282 : decode cL_law 1282 = .ok (.aload_n 0, 1) := dk_42 (dk_at dksL_law_48 12 rfl rfl)
theorem dL_law_1283 : decode cL_law 1283 = .ok (.iload 4, 2) := dk_21 4 (dk_at dksL_law_48 13 rfl rfl)
theorem dL_law_1285 : decode cL_law 1285 = .ok (.iconst 2, 1) := dk_5 (dk_at dksL_law_48 15 rfl rfl)
theorem dL_law_1286 : decode cL_law 1286 = .ok (.iadd, 1) := dk_96 (dk_at dksL_law_48 16 rfl rfl)
theorem dL_law_1287 : decode cL_law 1287 = .ok (.iaload, 1) := dk_46 (dk_at dksL_law_48 17 rfl rfl)
theorem dL_law_1288 : decode cL_law 1288 = .ok (.invokevirtual 188, 3) := dk_182 0 188 (dk_at dksL_law_48 18 rfl rfl)
theorem dL_law_1291 : decode cL_law 1291 = .ok (.istore 6, 2) := dk_54 6 (dk_at dksL_law_48 21 rfl rfl)
theorem dL_law_1293 : decode cL_law 1293 = .ok (.aload_n 2, 1) := dk_44 (dk_at dksL_law_48 23 rfl rfl)
theorem dL_law_1294 : decode cL_law 1294 = .ok (.invokevirtual 125, 3) := dk_182 0 125 (dk_at dksL_law_49 0 rfl rfl)
theorem dL_law_1297 : decode cL_law 1297 = .ok (.iload 5, 2) := dk_21 5 (dk_at dksL_law_49 3 rfl rfl)
theorem dL_law_1299 : decode cL_law 1299 = .ok (.if_icmp .eq 5, 3) := dk_159 0 5 (dk_at dksL_law_49 5 rfl rfl)
theorem dL_law_1302 : decode cL_law 1302 = .ok (.iconst 0, 1) := dk_3 (dk_at dksL_law_49 8 rfl rfl)
theorem dL_law_1303 : decode cL_law 1303 = .ok (.ireturn, 1) := dk_172 (dk_at dksL_law_49 9 rfl rfl)
theorem dL_law_1304 : decode cL_law 1304 = .ok (.iload 5, 2) := dk_21 5 (dk_at dksL_law_49 10 rfl rfl)
theorem dL_law_1306 : decode cL_law 1306 = .ok (.ifCond .ne 15, 3) := dk_154 0 15 (dk_at dksL_law_49 12 rfl rfl)
theorem dL_law_1309 : decode cL_law 1309 = .ok (.aload_n 3, 1) := dk_45 (dk_at dksL_law_49 15 rfl rfl)
theorem dL_law_1310 : decode cL_law 1310 = .ok (.iconst 0, 1) := dk_3 (dk_at dksL_law_49 16 rfl rfl)
theorem dL_law_1311 : decode cL_law 1311 = .ok (.laload, 1) := dk_47 (dk_at dksL_law_49 17 rfl rfl)
theorem dL_law_1312 : decode cL_law 1312 = .ok (.iload 6, 2) := dk_21 6 (dk_at dksL_law_49 18 rfl rfl)
theorem dL_law_1314 : decode cL_law 1314 = .ok (.i2l, 1) := dk_133 (dk_at dksL_law_49 20 rfl rfl)
theorem dL_law_1315 : decode cL_law 1315 = .ok (.lcmp, 1) := dk_148 (dk_at dksL_law_49 21 rfl rfl)
theorem dL_law_1316 : decode cL_law 1316 = .ok (.ifCond .eq 5, 3) := dk_153 0 5 (dk_at dksL_law_50 0 rfl rfl)
theorem dL_law_1319 : decode cL_law 1319 = .ok (.iconst 0, 1) := dk_3 (dk_at dksL_law_50 3 rfl rfl)
theorem dL_law_1320 : decode cL_law 1320 = .ok (.ireturn, 1) := dk_172 (dk_at dksL_law_50 4 rfl rfl)
theorem dL_law_1321 : decode cL_law 1321 = .ok (.goto 1092, 3) := dk_167 4 68 (dk_at dksL_law_50 5 rfl rfl)
theorem dL_law_1324 : decode cL_law 1324 = .ok (.aload_n 1, 1) := dk_43 (dk_at dksL_law_50 8 rfl rfl)
theorem dL_law_1325 : decode cL_law 1325 = .ok (.aload_n 0, 1) := dk_42 (dk_at dksL_law_50 9 rfl rfl)
theorem dL_law_1326 : decode cL_law 1326 = .ok (.iload 4, 2) := dk_21 4 (dk_at dksL_law_50 10 rfl rfl)
theorem dL_law_1328 : decode cL_law 1328 = .ok (.iconst 1, 1) := dk_4 (dk_at dksL_law_50 12 rfl rfl)
theorem dL_law_1329 : decode cL_law 1329 = .ok (.iadd, 1) := dk_96 (dk_at dksL_law_50 13 rfl rfl)
theorem dL_law_1330 : decode cL_law 1330 = .ok (.iaload, 1) := dk_46 (dk_at dksL_law_50 14 rfl rfl)
theorem dL_law_1331 : decode cL_law 1331 = .ok (.aload_n 0, 1) := dk_42 (dk_at dksL_law_50 15 rfl rfl)
theorem dL_law_1332 : decode cL_law 1332 = .ok (.iload 4, 2) := dk_21 4 (dk_at dksL_law_50 16 rfl rfl)
theorem dL_law_1334 : decode cL_law 1334 = .ok (.iconst 2, 1) := dk_5 (dk_at dksL_law_50 18 rfl rfl)
theorem dL_law_1335 : decode cL_law 1335 = .ok (.iadd, 1) := dk_96 (dk_at dksL_law_50 19 rfl rfl)
theorem dL_law_1336 : decode cL_law 1336 = .ok (.iaload, 1) := dk_46 (dk_at dksL_law_50 20 rfl rfl)
theorem dL_law_1337 : decode cL_law 1337 = .ok (.aload_n 3, 1) := dk_45 (dk_at dksL_law_50 21 rfl rfl)
theorem dL_law_1338 : decode cL_law 1338 = .ok (.invokestatic 189, 3) := dk_184 0 189 (dk_at dksL_law_51 0 rfl rfl)
theorem dL_law_1341 : decode cL_law 1341 = .ok (.istore 5, 2) := dk_54 5 (dk_at dksL_law_51 3 rfl rfl)
theorem dL_law_1343 : decode cL_law 1343 = .ok (.aload_n 2, 1) := dk_44 (dk_at dksL_law_51 5 rfl rfl)
theorem dL_law_1344 : decode cL_law 1344 = .ok (.aload_n 0, 1) := dk_42 (dk_at dksL_law_51 6 rfl rfl)
theorem dL_law_1345 : decode cL_law 1345 = .ok (.iload 4, 2) := dk_21 4 (dk_at dksL_law_51 7 rfl rfl)
theorem dL_law_1347 : decode cL_law 1347 = .ok (.iconst 1, 1) := dk_4 (dk_at dksL_law_51 9 rfl rfl)
theorem dL_law_1348 : decode cL_law 1348 = .ok (.iadd, 1) := dk_96 (dk_at dksL_law_51 10 rfl rfl)
theorem dL_law_1349 : decode cL_law 1349 = .ok (.iaload, 1) := dk_46 (dk_at dksL_law_51 11 rfl rfl)
theorem dL_law_1350 : decode cL_law 1350 = .ok (.aload_n 0, 1) := dk_42 (dk_at dksL_law_51 12 rfl rfl)
theorem dL_law_1351 : decode cL_law 1351 = .ok (.iload 4, 2) := dk_21 4 (dk_at dksL_law_51 13 rfl rfl)
theorem dL_law_1353 : decode cL_law 1353 = .ok (.iconst 2, 1) := dk_5 (dk_at dksL_law_51 15 rfl rfl)
theorem dL_law_1354 : decode cL_law 1354 = .ok (.iadd, 1) := dk_96 (dk_at dksL_law_51 16 rfl rfl)
theorem dL_law_1355 : decode cL_law 1355 = .ok (.iaload, 1) := dk_46 (dk_at dksL_law_51 17 rfl rfl)
theorem dL_law_1356 : decode cL_law 1356 = .ok (.invokevirtual 191, 3) := dk_182 0 191 (dk_at dksL_law_51 18 rfl rfl)
theorem dL_law_1359 : decode cL_law 1359 = .ok (.istore 6, 2) := dk_54 6 (dk_at dksL_law_51 21 rfl rfl)
theorem dL_law_1361 : decode cL_law 1361 = .ok (.aload_n 2, 1) := dk_44 (dk_at dksL_law_51 23 rfl rfl)
theorem dL_law_1362 : decode cL_law 1362 = .ok (.invokevirtual 125, 3) := dk_182 0 125 (dk_at dksL_law_52 0 rfl rfl)
theorem dL_law_1365 : decode cL_law 1365 = .ok (.iload 5, 2) := dk_21 5 (dk_at dksL_law_52 3 rfl rfl)
theorem dL_law_1367 : decode cL_law 1367 = .ok (.if_icmp .eq 5, 3) := dk_159 0 5 (dk_at dksL_law_52 5 rfl rfl)
theorem dL_law_1370 : decode cL_law 1370 = .ok (.iconst 0, 1) := dk_3 (dk_at dksL_law_52 8 rfl rfl)
theorem dL_law_1371 : decode cL_law 1371 = .ok (.ireturn, 1) := dk_172 (dk_at dksL_law_52 9 rfl rfl)
theorem dL_law_1372 : decode cL_law 1372 = .ok (.iload 5, 2) := dk_21 5 (dk_at dksL_law_52 10 rfl rfl)
theorem dL_law_1374 : decode cL_law 1374 = .ok (.ifCond .ne 15, 3) := dk_154 0 15 (dk_at dksL_law_52 12 rfl rfl)
theorem dL_law_1377 : decode cL_law 1377 = .ok (.aload_n 3, 1) := dk_45 (dk_at dksL_law_52 15 rfl rfl)
theorem dL_law_1378 : decode cL_law 1378 = .ok (.iconst 0, 1) := dk_3 (dk_at dksL_law_52 16 rfl rfl)
theorem dL_law_1379 : decode cL_law 1379 = .ok (.laload, 1) := dk_47 (dk_at dksL_law_52 17 rfl rfl)
theorem dL_law_1380 : decode cL_law 1380 = .ok (.iload 6, 2) := dk_21 6 (dk_at dksL_law_52 18 rfl rfl)
theorem dL_law_1382 : decode cL_law 1382 = .ok (.i2l, 1) := dk_133 (dk_at dksL_law_52 20 rfl rfl)
theorem dL_law_1383 : decode cL_law 1383 = .ok (.lcmp, 1) := dk_148 (dk_at dksL_law_52 21 rfl rfl)
theorem dL_law_1384 : decode cL_law 1384 = .ok (.ifCond .eq 5, 3) := dk_153 0 5 (dk_at dksL_law_53 0 rfl rfl)
theorem dL_law_1387 : decode cL_law 1387 = .ok (.iconst 0, 1) := dk_3 (dk_at dksL_law_53 3 rfl rfl)
theorem dL_law_1388 : decode cL_law 1388 = .ok (.ireturn, 1) := dk_172 (dk_at dksL_law_53 4 rfl rfl)
theorem dL_law_1389 : decode cL_law 1389 = .ok (.goto 1024, 3) := dk_167 4 0 (dk_at dksL_law_53 5 rfl rfl)
theorem dL_law_1392 : decode cL_law 1392 = .ok (.aload_n 1, 1) := dk_43 (dk_at dksL_law_53 8 rfl rfl)
theorem dL_law_1393 : decode cL_law 1393 = .ok (.invokevirtual 192, 3) := dk_182 0 192 (dk_at dksL_law_53 9 rfl rfl)
theorem dL_law_1396 : decode cL_law 1396 = .ok (.aload_n 2, 1) := dk_44 (dk_at dksL_law_53 12 rfl rfl)
theorem dL_law_1397 : decode cL_law 1397 = .ok (.invokevirtual 195, 3) := dk_182 0 195 (dk_at dksL_law_53 13 rfl rfl)
theorem dL_law_1400 : decode cL_law 1400 = .ok (.if_icmp .eq 1013, 3) := dk_159 3 245 (dk_at dksL_law_53 16 rfl rfl)
theorem dL_law_1403 : decode cL_law 1403 = .ok (.iconst 0, 1) := dk_3 (dk_at dksL_law_53 19 rfl rfl)
theorem dL_law_1404 : decode cL_law 1404 = .ok (.ireturn, 1) := dk_172 (dk_at dksL_law_53 20 rfl rfl)
theorem dL_law_1405 : decode cL_law 1405 = .ok (.aload_n 1, 1) := dk_43 (dk_at dksL_law_53 21 rfl rfl)
theorem dL_law_1406 : decode cL_law 1406 = .ok (.invokevirtual 196, 3) := dk_182 0 196 (dk_at dksL_law_54 0 rfl rfl)
theorem dL_law_1409 : decode cL_law 1409 = .ok (.aload_n 2, 1) := dk_44 (dk_at dksL_law_54 3 rfl rfl)
theorem dL_law_1410 : decode cL_law 1410 = .ok (.invokevirtual 199, 3) := dk_182 0 199 (dk_at dksL_law_54 4 rfl rfl)
theorem dL_law_1413 : decode cL_law 1413 = .ok (.if_icmp .eq 1000, 3) := dk_159 3 232 (dk_at dksL_law_54 7 rfl rfl)
theorem dL_law_1416 : decode cL_law 1416 = .ok (.iconst 0, 1) := dk_3 (dk_at dksL_law_54 10 rfl rfl)
theorem dL_law_1417 : decode cL_law 1417 = .ok (.ireturn, 1) := dk_172 (dk_at dksL_law_54 11 rfl rfl)
theorem dL_law_1418 : decode cL_law 1418 = .ok (.aload_n 1, 1) := dk_43 (dk_at dksL_law_54 12 rfl rfl)
theorem dL_law_1419 : decode cL_law 1419 = .ok (.aload_n 0, 1) := dk_42 (dk_at dksL_law_54 13 rfl rfl)
theorem dL_law_1420 : decode cL_law 1420 = .ok (.iload 4, 2) := dk_21 4 (dk_at dksL_law_54 14 rfl rfl)
theorem dL_law_1422 : decode cL_law 1422 = .ok (.iconst 1, 1) := dk_4 (dk_at dksL_law_54 16 rfl rfl)
theorem dL_law_1423 : decode cL_law 1423 = .ok (.iadd, 1) := dk_96 (dk_at dksL_law_54 17 rfl rfl)
theorem dL_law_1424 : decode cL_law 1424 = .ok (.iaload, 1) := dk_46 (dk_at dksL_law_54 18 rfl rfl)
theorem dL_law_1425 : decode cL_law 1425 = .ok (.aload_n 3, 1) := dk_45 (dk_at dksL_law_54 19 rfl rfl)
theorem dL_law_1426 : decode cL_law 1426 = .ok (.invokestatic 200, 3) := dk_184 0 200 (dk_at dksL_law_54 20 rfl rfl)
theorem dL_law_1429 : decode cL_law 1429 = .ok (.istore 5, 2) := dk_54 5 (dk_at dksL_law_55 0 rfl rfl)
theorem dL_law_1431 : decode cL_law 1431 = .ok (.aload_n 2, 1) := dk_44 (dk_at dksL_law_55 2 rfl rfl)
theorem dL_law_1432 : decode cL_law 1432 = .ok (.aload_n 0, 1) := dk_42 (dk_at dksL_law_55 3 rfl rfl)
theorem dL_law_1433 : decode cL_law 1433 = .ok (.iload 4, 2) := dk_21 4 (dk_at dksL_law_55 4 rfl rfl)
theorem dL_law_1435 : decode cL_law 1435 = .ok (.iconst 1, 1) := dk_4 (dk_at dksL_law_55 6 rfl rfl)
theorem dL_law_1436 : decode cL_law 1436 = .ok (.iadd, 1) := dk_96 (dk_at dksL_law_55 7 rfl rfl)
theorem dL_law_1437 : decode cL_law 1437 = .ok (.iaload, 1) := dk_46 (dk_at dksL_law_55 8 rfl rfl)
theorem dL_law_1438 : decode cL_law 1438 = .ok (.invokevirtual 202, 3) := dk_182 0 202 (dk_at dksL_law_55 9 rfl rfl)
theorem dL_law_1441 : decode cL_law 1441 = .ok (.istore 6, 2) := dk_54 6 (dk_at dksL_law_55 12 rfl rfl)
theorem dL_law_1443 : decode cL_law 1443 = .ok (.aload_n 2, 1) := dk_44 (dk_at dksL_law_55 14 rfl rfl)
theorem dL_law_1444 : decode cL_law 1444 = .ok (.invokevirtual 125, 3) := dk_182 0 125 (dk_at dksL_law_55 15 rfl rfl)
theorem dL_law_1447 : decode cL_law 1447 = .ok (.iload 5, 2) := dk_21 5 (dk_at dksL_law_55 18 rfl rfl)
theorem dL_law_1449 : decode cL_law 1449 = .ok (.if_icmp .eq 5, 3) := dk_159 0 5 (dk_at dksL_law_55 20 rfl rfl)
theorem dL_law_1452 : decode cL_law 1452 = .ok (.iconst 0, 1) := dk_3 (dk_at dksL_law_55 23 rfl rfl)
theorem dL_law_1453 : decode cL_law 1453 = .ok (.ireturn, 1) := dk_172 (dk_at dksL_law_56 0 rfl rfl)
theorem dL_law_1454 : decode cL_law 1454 = .ok (.iload 5, 2) := dk_21 5 (dk_at dksL_law_56 1 rfl rfl)
theorem dL_law_1456 : decode cL_law 1456 = .ok (.ifCond .ne 15, 3) := dk_154 0 15 (dk_at dksL_law_56 3 rfl rfl)
theorem dL_law_1459 : decode cL_law 1459 = .ok (.aload_n 3, 1) := dk_45 (dk_at dksL_law_56 6 rfl rfl)
theorem dL_law_1460 : decode cL_law 1460 = .ok (.iconst 0, 1) := dk_3 (dk_at dksL_law_56 7 rfl rfl)
theorem dL_law_1461 : decode cL_law 1461 = .ok (.laload, 1) := dk_47 (dk_at dksL_law_56 8 rfl rfl)
theorem dL_law_1462 : decode cL_law 1462 = .ok (.iload 6, 2) := dk_21 6 (dk_at dksL_law_56 9 rfl rfl)
theorem dL_law_1464 : decode cL_law 1464 = .ok (.i2l, 1) := dk_133 (dk_at dksL_law_56 11 rfl rfl)
theorem dL_law_1465 : decode cL_law 1465 = .ok (.lcmp, 1) := dk_148 (dk_at dksL_law_56 12 rfl rfl)
theorem dL_law_1466 : decode cL_law 1466 = .ok (.ifCond .eq 5, 3) := dk_153 0 5 (dk_at dksL_law_56 13 rfl rfl)
theorem dL_law_1469 : decode cL_law 1469 = .ok (.iconst 0, 1) := dk_3 (dk_at dksL_law_56 16 rfl rfl)
theorem dL_law_1470 : decode cL_law 1470 = .ok (.ireturn, 1) := dk_172 (dk_at dksL_law_56 17 rfl rfl)
theorem dL_law_1471 : decode cL_law 1471 = .ok (.goto 942, 3) := dk_167 3 174 (dk_at dksL_law_56 18 rfl rfl)
theorem dL_law_1474 : decode cL_law 1474 = .ok (.aload_n 1, 1) := dk_43 (dk_at dksL_law_56 21 rfl rfl)
theorem dL_law_1475 : decode cL_law 1475 = .ok (.aload_n 0, 1) := dk_42 (dk_at dksL_law_56 22 rfl rfl)
theorem dL_law_1476 : decode cL_law 1476 = .ok (.iload 4, 2) := dk_21 4 (dk_at dksL_law_57 0 rfl rfl)
theorem dL_law_1478 : decode cL_law 1478 = .ok (.iconst 1, 1) := dk_4 (dk_at dksL_law_57 2 rfl rfl)
theorem dL_law_1479 : decode cL_law 1479 = .ok (.iadd, 1) := dk_96 (dk_at dksL_law_57 3 rfl rfl)
theorem dL_law_1480 : decode cL_law 1480 = .ok (.iaload, 1) := dk_46 (dk_at dksL_law_57 4 rfl rfl)
theorem dL_law_1481 : decode cL_law 1481 = .ok (.aload_n 0, 1) := dk_42 (dk_at dksL_law_57 5 rfl rfl)
theorem dL_law_1482 : decode cL_law 1482 = .ok (.iload 4, 2) := dk_21 4 (dk_at dksL_law_57 6 rfl rfl)
theorem dL_law_1484 : decode cL_law 1484 = .ok (.iconst 2, 1) := dk_5 (dk_at dksL_law_57 8 rfl rfl)
theorem dL_law_1485 : decode cL_law 1485 = .ok (.iadd, 1) := dk_96 (dk_at dksL_law_57 9 rfl rfl)
theorem dL_law_1486 : decode cL_law 1486 = .ok (.iaload, 1) := dk_46 (dk_at dksL_law_57 10 rfl rfl)
theorem dL_law_1487 : decode cL_law 1487 = .ok (.aload_n 0, 1) := dk_42 (dk_at dksL_law_57 11 rfl rfl)
theorem dL_law_1488 : decode cL_law 1488 = .ok (.iload 4, 2) := dk_21 4 (dk_at dksL_law_57 12 rfl rfl)
theorem dL_law_1490 : decode cL_law 1490 = .ok (.iconst 3, 1) := dk_6 (dk_at dksL_law_57 14 rfl rfl)
theorem dL_law_1491 : decode cL_law 1491 = .ok (.iadd, 1) := dk_96 (dk_at dksL_law_57 15 rfl rfl)
theorem dL_law_1492 : decode cL_law 1492 = .ok (.iaload, 1) := dk_46 (dk_at dksL_law_57 16 rfl rfl)
theorem dL_law_1493 : decode cL_law 1493 = .ok (.aload_n 3, 1) := dk_45 (dk_at dksL_law_57 17 rfl rfl)
theorem dL_law_1494 : decode cL_law 1494 = .ok (.invokestatic 203, 3) := dk_184 0 203 (dk_at dksL_law_57 18 rfl rfl)
theorem dL_law_1497 : decode cL_law 1497 = .ok (.istore 5, 2) := dk_54 5 (dk_at dksL_law_57 21 rfl rfl)
theorem dL_law_1499 : decode cL_law 1499 = .ok (.aload_n 2, 1) := dk_44 (dk_at dksL_law_57 23 rfl rfl)
theorem dL_law_1500 : decode cL_law 1500 = .ok (.aload_n 0, 1) := dk_42 (dk_at dksL_law_58 0 rfl rfl)
theorem dL_law_1501 : decode cL_law 1501 = .ok (.iload 4, 2) := dk_21 4 (dk_at dksL_law_58 1 rfl rfl)
theorem dL_law_1503 : decode cL_law 1503 = .ok (.iconst 1, 1) := dk_4 (dk_at dksL_law_58 3 rfl rfl)
theorem dL_law_1504 : decode cL_law 1504 = .ok (.iadd, 1) := dk_96 (dk_at dksL_law_58 4 rfl rfl)
theorem dL_law_1505 : decode cL_law 1505 = .ok (.iaload, 1) := dk_46 (dk_at dksL_law_58 5 rfl rfl)
theorem dL_law_1506 : decode cL_law 1506 = .ok (.aload_n 0, 1) := dk_42 (dk_at dksL_law_58 6 rfl rfl)
theorem dL_law_1507 : decode cL_law 1507 = .ok (.iload 4, 2) := dk_21 4 (dk_at dksL_law_58 7 rfl rfl)
theorem dL_law_1509 : decode cL_law 1509 = .ok (.iconst 2, 1) := dk_5 (dk_at dksL_law_58 9 rfl rfl)
theorem dL_law_1510 : decode cL_law 1510 = .ok (.iadd, 1) := dk_96 (dk_at dksL_law_58 10 rfl rfl)
theorem dL_law_1511 : decode cL_law 1511 = .ok (.iaload, 1) := dk_46 (dk_at dksL_law_58 11 rfl rfl)
theorem dL_law_1512 : decode cL_law 1512 = .ok (.aload_n 0, 1) := dk_42 (dk_at dksL_law_58 12 rfl rfl)
theorem dL_law_1513 : decode cL_law 1513 = .ok (.iload 4, 2) := dk_21 4 (dk_at dksL_law_58 13 rfl rfl)
theorem dL_law_1515 : decode cL_law 1515 = .ok (.iconst 3, 1) := dk_6 (dk_at dksL_law_58 15 rfl rfl)
theorem dL_law_1516 : decode cL_law 1516 = .ok (.iadd, 1) := dk_96 (dk_at dksL_law_58 16 rfl rfl)
theorem dL_law_1517 : decode cL_law 1517 = .ok (.iaload, 1) := dk_46 (dk_at dksL_law_58 17 rfl rfl)
theorem dL_law_1518 : decode cL_law 1518 = .ok (.invokevirtual 205, 3) := dk_182 0 205 (dk_at dksL_law_58 18 rfl rfl)
theorem dL_law_1521 : decode cL_law 1521 = .ok (.istore 6, 2) := dk_54 6 (dk_at dksL_law_58 21 rfl rfl)
theorem dL_law_1523 : decode cL_law 1523 = .ok (.aload_n 2, 1) := dk_44 (dk_at dksL_law_58 23 rfl rfl)
theorem dL_law_1524 : decode cL_law 1524 = .ok (.invokevirtual 125, 3) := dk_182 0 125 (dk_at dksL_law_59 0 rfl rfl)
theorem dL_law_1527 : decode cL_law 1527 = .ok (.iload 5, 2) := dk_21 5 (dk_at dksL_law_59 3 rfl rfl)
theorem dL_law_1529 : decode cL_law 1529 = .ok (.if_icmp .eq 5, 3) := dk_159 0 5 (dk_at dksL_law_59 5 rfl rfl)
theorem dL_law_1532 : decode cL_law 1532 = .ok (.iconst 0, 1) := dk_3 (dk_at dksL_law_59 8 rfl rfl)
theorem dL_law_1533 : decode cL_law 1533 = .ok (.ireturn, 1) := dk_172 (dk_at dksL_law_59 9 rfl rfl)
theorem dL_law_1534 : decode cL_law 1534 = .ok (.iload 5, 2) := dk_21 5 (dk_at dksL_law_59 10 rfl rfl)
theorem dL_law_1536 : decode cL_law 1536 = .ok (.ifCond .ne 15, 3) := dk_154 0 15 (dk_at dksL_law_59 12 rfl rfl)
theorem dL_law_1539 : decode cL_law 1539 = .ok (.aload_n 3, 1) := dk_45 (dk_at dksL_law_59 15 rfl rfl)
theorem dL_law_1540 : decode cL_law 1540 = .ok (.iconst 0, 1) := dk_3 (dk_at dksL_law_59 16 rfl rfl)
theorem dL_law_1541 : decode cL_law 1541 = .ok (.laload, 1) := dk_47 (dk_at dksL_law_59 17 rfl rfl)
theorem dL_law_1542 : decode cL_law 1542 = .ok (.iload 6, 2) := dk_21 6 (dk_at dksL_law_59 18 rfl rfl)
theorem dL_law_1544 : decode cL_law 1544 = .ok (.i2l, 1) := dk_133 (dk_at dksL_law_59 20 rfl rfl)
theorem dL_law_1545 : decode cL_law 1545 = .ok (.lcmp, 1) := dk_148 (dk_at dksL_law_59 21 rfl rfl)
theorem dL_law_1546 : decode cL_law 1546 = .ok (.ifCond .eq 5, 3) := dk_153 0 5 (dk_at dksL_law_60 0 rfl rfl)
theorem dL_law_1549 : decode cL_law 1549 = .ok (.iconst 0, 1) := dk_3 (dk_at dksL_law_60 3 rfl rfl)
theorem dL_law_1550 : decode cL_law 1550 = .ok (.ireturn, 1) := dk_172 (dk_at dksL_law_60 4 rfl rfl)
theorem dL_law_1551 : decode cL_law 1551 = .ok (.goto 862, 3) := dk_167 3 94 (dk_at dksL_law_60 5 rfl rfl)
theorem dL_law_1554 : decode cL_law 1554 = .ok (.aload_n 1, 1) := dk_43 (dk_at dksL_law_60 8 rfl rfl)
theorem dL_law_1555 : decode cL_law 1555 = .ok (.invokevirtual 206, 3) := dk_182 0 206 (dk_at dksL_law_60 9 rfl rfl)
theorem dL_law_1558 : decode cL_law 1558 = .ok (.aload_n 2, 1) := dk_44 (dk_at dksL_law_60 12 rfl rfl)
theorem dL_law_1559 : decode cL_law 1559 = .ok (.invokevirtual 209, 3) := dk_182 0 209 (dk_at dksL_law_60 13 rfl rfl)
theorem dL_law_1562 : decode cL_law 1562 = .ok (.goto 851, 3) := dk_167 3 83 (dk_at dksL_law_60 16 rfl rfl)
theorem dL_law_1565 : decode cL_law 1565 = .ok (.aload_n 1, 1) := dk_43 (dk_at dksL_law_60 19 rfl rfl)
theorem dL_law_1566 : decode cL_law 1566 = .ok (.aload_n 0, 1) := dk_42 (dk_at dksL_law_60 20 rfl rfl)
theorem dL_law_1567 : decode cL_law 1567 = .ok (.iload 4, 2) := dk_21 4 (dk_at dksL_law_60 21 rfl rfl)
theorem dL_law_1569 : decode cL_law 1569 = .ok (.iconst 1, 1) := dk_4 (dk_at dksL_law_60 23 rfl rfl)
theorem dL_law_1570 : decode cL_law 1570 = .ok (.iadd, 1) := dk_96 (dk_at dksL_law_61 0 rfl rfl)
theorem dL_law_1571 : decode cL_law 1571 = .ok (.iaload, 1) := dk_46 (dk_at dksL_law_61 1 rfl rfl)
theorem dL_law_1572 : decode cL_law 1572 = .ok (.aload_n 3, 1) := dk_45 (dk_at dksL_law_61 2 rfl rfl)
theorem dL_law_1573 : decode cL_law 1573 = .ok (.invokestatic 210, 3) := dk_184 0 210 (dk_at dksL_law_61 3 rfl rfl)
theorem dL_law_1576 : decode cL_law 1576 = .ok (.istore 5, 2) := dk_54 5 (dk_at dksL_law_61 6 rfl rfl)
theorem dL_law_1578 : decode cL_law 1578 = .ok (.aload_n 2, 1) := dk_44 (dk_at dksL_law_61 8 rfl rfl)
theorem dL_law_1579 : decode cL_law 1579 = .ok (.aload_n 0, 1) := dk_42 (dk_at dksL_law_61 9 rfl rfl)
theorem dL_law_1580 : decode cL_law 1580 = .ok (.iload 4, 2) := dk_21 4 (dk_at dksL_law_61 10 rfl rfl)
theorem dL_law_1582 : decode cL_law 1582 = .ok (.iconst 1, 1) := dk_4 (dk_at dksL_law_61 12 rfl rfl)
theorem dL_law_1583 : decode cL_law 1583 = .ok (.iadd, 1) := dk_96 (dk_at dksL_law_61 13 rfl rfl)
theorem dL_law_1584 : decode cL_law 1584 = .ok (.iaload, 1) := dk_46 (dk_at dksL_law_61 14 rfl rfl)
theorem dL_law_1585 : decode cL_law 1585 = .ok (.invokevirtual 212, 3) := dk_182 0 212 (dk_at dksL_law_61 15 rfl rfl)
theorem dL_law_1588 : decode cL_law 1588 = .ok (.istore 6, 2) := dk_54 6 (dk_at dksL_law_61 18 rfl rfl)
theorem dL_law_1590 : decode cL_law 1590 = .ok (.aload_n 2, 1) := dk_44 (dk_at dksL_law_61 20 rfl rfl)
theorem dL_law_1591 : decode cL_law 1591 = .ok (.invokevirtual 125, 3) := dk_182 0 125 (dk_at dksL_law_61 21 rfl rfl)
theorem dL_law_1594 : decode cL_law 1594 = .ok (.iload 5, 2) := dk_21 5 (dk_at dksL_law_62 0 rfl rfl)
theorem dL_law_1596 : decode cL_law 1596 = .ok (.if_icmp .eq 5, 3) := dk_159 0 5 (dk_at dksL_law_62 2 rfl rfl)
theorem dL_law_1599 : decode cL_law 1599 = .ok (.iconst 0, 1) := dk_3 (dk_at dksL_law_62 5 rfl rfl)
theorem dL_law_1600 : decode cL_law 1600 = .ok (.ireturn, 1) := dk_172 (dk_at dksL_law_62 6 rfl rfl)
theorem dL_law_1601 : decode cL_law 1601 = .ok (.iload 5, 2) := dk_21 5 (dk_at dksL_law_62 7 rfl rfl)
theorem dL_law_1603 : decode cL_law 1603 = .ok (.ifCond .ne 15, 3) := dk_154 0 15 (dk_at dksL_law_62 9 rfl rfl)
theorem dL_law_1606 : decode cL_law 1606 = .ok (.aload_n 3, 1) := dk_45 (dk_at dksL_law_62 12 rfl rfl)
theorem dL_law_1607 : decode cL_law 1607 = .ok (.iconst 0, 1) := dk_3 (dk_at dksL_law_62 13 rfl rfl)
theorem dL_law_1608 : decode cL_law 1608 = .ok (.laload, 1) := dk_47 (dk_at dksL_law_62 14 rfl rfl)
theorem dL_law_1609 : decode cL_law 1609 = .ok (.iload 6, 2) := dk_21 6 (dk_at dksL_law_62 15 rfl rfl)
theorem dL_law_1611 : decode cL_law 1611 = .ok (.i2l, 1) := dk_133 (dk_at dksL_law_62 17 rfl rfl)
theorem dL_law_1612 : decode cL_law 1612 = .ok (.lcmp, 1) := dk_148 (dk_at dksL_law_62 18 rfl rfl)
theorem dL_law_1613 : decode cL_law 1613 = .ok (.ifCond .eq 5, 3) := dk_153 0 5 (dk_at dksL_law_62 19 rfl rfl)
theorem dL_law_1616 : decode cL_law 1616 = .ok (.iconst 0, 1) := dk_3 (dk_at dksL_law_62 22 rfl rfl)
theorem dL_law_1617 : decode cL_law 1617 = .ok (.ireturn, 1) := dk_172 (dk_at dksL_law_62 23 rfl rfl)
theorem dL_law_1618 : decode cL_law 1618 = .ok (.goto 795, 3) := dk_167 3 27 (dk_at dksL_law_63 0 rfl rfl)
theorem dL_law_1621 : decode cL_law 1621 = .ok (.aload_n 1, 1) := dk_43 (dk_at dksL_law_63 3 rfl rfl)
theorem dL_law_1622 : decode cL_law 1622 = .ok (.aload_n 0, 1) := dk_42 (dk_at dksL_law_63 4 rfl rfl)
theorem dL_law_1623 : decode cL_law 1623 = .ok (.iload 4, 2) := dk_21 4 (dk_at dksL_law_63 5 rfl rfl)
theorem dL_law_1625 : decode cL_law 1625 = .ok (.iconst 1, 1) := dk_4 (dk_at dksL_law_63 7 rfl rfl)
theorem dL_law_1626 : decode cL_law 1626 = .ok (.iadd, 1) := dk_96 (dk_at dksL_law_63 8 rfl rfl)
theorem dL_law_1627 : decode cL_law 1627 = .ok (.iaload, 1) := dk_46 (dk_at dksL_law_63 9 rfl rfl)
theorem dL_law_1628 : decode cL_law 1628 = .ok (.aload_n 3, 1) := dk_45 (dk_at dksL_law_63 10 rfl rfl)
theorem dL_law_1629 : decode cL_law 1629 = .ok (.invokestatic 213, 3) := dk_184 0 213 (dk_at dksL_law_63 11 rfl rfl)
theorem dL_law_1632 : decode cL_law 1632 = .ok (.istore 5, 2) := dk_54 5 (dk_at dksL_law_63 14 rfl rfl)
theorem dL_law_1634 : decode cL_law 1634 = .ok (.aload_n 2, 1) := dk_44 (dk_at dksL_law_63 16 rfl rfl)
theorem dL_law_1635 : decode cL_law 1635 = .ok (.aload_n 0, 1) := dk_42 (dk_at dksL_law_63 17 rfl rfl)
theorem dL_law_1636 : decode cL_law 1636 = .ok (.iload 4, 2) := dk_21 4 (dk_at dksL_law_63 18 rfl rfl)
theorem dL_law_1638 : decode cL_law 1638 = .ok (.iconst 1, 1) := dk_4 (dk_at dksL_law_63 20 rfl rfl)
theorem dL_law_1639 : decode cL_law 1639 = .ok (.iadd, 1) := dk_96 (dk_at dksL_law_63 21 rfl rfl)
theorem dL_law_1640 : decode cL_law 1640 = .ok (.iaload, 1) := dk_46 (dk_at dksL_law_63 22 rfl rfl)
theorem dL_law_1641 : decode cL_law 1641 = .ok (.invokevirtual 215, 3) := dk_182 0 215 (dk_at dksL_law_64 0 rfl rfl)
theorem dL_law_1644 : decode cL_law 1644 = .ok (.istore 6, 2) := dk_54 6 (dk_at dksL_law_64 3 rfl rfl)
theorem dL_law_1646 : decode cL_law 1646 = .ok (.aload_n 2, 1) := dk_44 (dk_at dksL_law_64 5 rfl rfl)
theorem dL_law_1647 : decode cL_law 1647 = .ok (.invokevirtual 125, 3) := dk_182 0 125 (dk_at dksL_law_64 6 rfl rfl)
theorem dL_law_1650 : decode cL_law 1650 = .ok (.iload 5, 2) := dk_21 5 (dk_at dksL_law_64 9 rfl rfl)
theorem dL_law_1652 : decode cL_law 1652 = .ok (.if_icmp .eq 5, 3) := dk_159 0 5 (dk_at dksL_law_64 11 rfl rfl)
theorem dL_law_1655 : decode cL_law 1655 = .ok (.iconst 0, 1) := dk_3 (dk_at dksL_law_64 14 rfl rfl)
theorem dL_law_1656 : decode cL_law 1656 = .ok (.ireturn, 1) := dk_172 (dk_at dksL_law_64 15 rfl rfl)
theorem dL_law_1657 : decode cL_law 1657 = .ok (.iload 5, 2) := dk_21 5 (dk_at dksL_law_64 16 rfl rfl)
theorem dL_law_1659 : decode cL_law 1659 = .ok (.ifCond .ne 15, 3) := dk_154 0 15 (dk_at dksL_law_64 18 rfl rfl)
theorem dL_law_1662 : decode cL_law 1662 = .ok (.aload_n 3, 1) := dk_45 (dk_at dksL_law_64 21 rfl rfl)
theorem dL_law_1663 : decode cL_law 1663 = .ok (.iconst 0, 1) := dk_3 (dk_at dksL_law_64 22 rfl rfl)
theorem dL_law_1664 : decode cL_law 1664 = .ok (.laload, 1) := dk_47 (dk_at dksL_law_64 23 rfl rfl)
theorem dL_law_1665 : decode cL_law 1665 = .ok (.iload 6, 2) := dk_21 6 (dk_at dksL_law_65 0 rfl rfl)
theorem dL_law_1667 : decode cL_law 1667 = .ok (.i2l, 1) := dk_133 (dk_at dksL_law_65 2 rfl rfl)
theorem dL_law_1668 : decode cL_law 1668 = .ok (.lcmp, 1) := dk_148 (dk_at dksL_law_65 3 rfl rfl)
theorem dL_law_1669 : decode cL_law 1669 = .ok (.ifCond .eq 5, 3) := dk_153 0 5 (dk_at dksL_law_65 4 rfl rfl)
theorem dL_law_1672 : decode cL_law 1672 = .ok (.iconst 0, 1) := dk_3 (dk_at dksL_law_65 7 rfl rfl)
theorem dL_law_1673 : decode cL_law 1673 = .ok (.ireturn, 1) := dk_172 (dk_at dksL_law_65 8 rfl rfl)
theorem dL_law_1674 : decode cL_law 1674 = .ok (.goto 739, 3) := dk_167 2 227 (dk_at dksL_law_65 9 rfl rfl)
theorem dL_law_1677 : decode cL_law 1677 = .ok (.aload_n 1, 1) := dk_43 (dk_at dksL_law_65 12 rfl rfl)
theorem dL_law_1678 : decode cL_law 1678 = .ok (.aload_n 0, 1) := dk_42 (dk_at dksL_law_65 13 rfl rfl)
theorem dL_law_1679 : decode cL_law 1679 = .ok (.iload 4, 2) := dk_21 4 (dk_at dksL_law_65 14 rfl rfl)
theorem dL_law_1681 : decode cL_law 1681 = .ok (.iconst 1, 1) := dk_4 (dk_at dksL_law_65 16 rfl rfl)
theorem dL_law_1682 : decode cL_law 1682 = .ok (.iadd, 1) := dk_96 (dk_at dksL_law_65 17 rfl rfl)
theorem dL_law_1683 : decode cL_law 1683 = .ok (.iaload, 1) := dk_46 (dk_at dksL_law_65 18 rfl rfl)
theorem dL_law_1684 : decode cL_law 1684 = .ok (.aload_n 0, 1) := dk_42 (dk_at dksL_law_65 19 rfl rfl)
theorem dL_law_1685 : decode cL_law 1685 = .ok (.iload 4, 2) := dk_21 4 (dk_at dksL_law_65 20 rfl rfl)
theorem dL_law_1687 : decode cL_law 1687 = .ok (.iconst 2, 1) := dk_5 (dk_at dksL_law_65 22 rfl rfl)
theorem dL_law_1688 : decode cL_law 1688 = .ok (.iadd, 1) := dk_96 (dk_at dksL_law_65 23 rfl rfl)
theorem dL_law_1689 : decode cL_law 1689 = .ok (.iaload, 1) := dk_46 (dk_at dksL_law_66 0 rfl rfl)
theorem dL_law_1690 : decode cL_law 1690 = .ok (.aload_n 0, 1) := dk_42 (dk_at dksL_law_66 1 rfl rfl)
theorem dL_law_1691 : decode cL_law 1691 = .ok (.iload 4, 2) := dk_21 4 (dk_at dksL_law_66 2 rfl rfl)
theorem dL_law_1693 : decode cL_law 1693 = .ok (.iconst 3, 1) := dk_6 (dk_at dksL_law_66 4 rfl rfl)
theorem dL_law_1694 : decode cL_law 1694 = .ok (.iadd, 1) := dk_96 (dk_at dksL_law_66 5 rfl rfl)
theorem dL_law_1695 : decode cL_law 1695 = .ok (.iaload, 1) := dk_46 (dk_at dksL_law_66 6 rfl rfl)
theorem dL_law_1696 : decode cL_law 1696 = .ok (.aload_n 3, 1) := dk_45 (dk_at dksL_law_66 7 rfl rfl)
theorem dL_law_1697 : decode cL_law 1697 = .ok (.invokestatic 216, 3) := dk_184 0 216 (dk_at dksL_law_66 8 rfl rfl)
theorem dL_law_1700 : decode cL_law 1700 = .ok (.istore 5, 2) := dk_54 5 (dk_at dksL_law_66 11 rfl rfl)
theorem dL_law_1702 : decode cL_law 1702 = .ok (.aload_n 2, 1) := dk_44 (dk_at dksL_law_66 13 rfl rfl)
theorem dL_law_1703 : decode cL_law 1703 = .ok (.aload_n 0, 1) := dk_42 (dk_at dksL_law_66 14 rfl rfl)
theorem dL_law_1704 : decode cL_law 1704 = .ok (.iload 4, 2) := dk_21 4 (dk_at dksL_law_66 15 rfl rfl)
theorem dL_law_1706 : decode cL_law 1706 = .ok (.iconst 1, 1) := dk_4 (dk_at dksL_law_66 17 rfl rfl)
theorem dL_law_1707 : decode cL_law 1707 = .ok (.iadd, 1) := dk_96 (dk_at dksL_law_66 18 rfl rfl)
theorem dL_law_1708 : decode cL_law 1708 = .ok (.iaload, 1) := dk_46 (dk_at dksL_law_66 19 rfl rfl)
theorem dL_law_1709 : decode cL_law 1709 = .ok (.aload_n 0, 1) := dk_42 (dk_at dksL_law_66 20 rfl rfl)
theorem dL_law_1710 : decode cL_law 1710 = .ok (.iload 4, 2) := dk_21 4 (dk_at dksL_law_66 21 rfl rfl)
theorem dL_law_1712 : decode cL_law 1712 = .ok (.iconst 2, 1) := dk_5 (dk_at dksL_law_66 23 rfl rfl)
theorem dL_law_1713 : decode cL_law 1713 = .ok (.iadd, 1) := dk_96 (dk_at dksL_law_67 0 rfl rfl)
theorem dL_law_1714 : decode cL_law 1714 = .ok (.iaload, 1) := dk_46 (dk_at dksL_law_67 1 rfl rfl)
theorem dL_law_1715 : decode cL_law 1715 = .ok (.aload_n 0, 1) := dk_42 (dk_at dksL_law_67 2 rfl rfl)
theorem dL_law_1716 : decode cL_law 1716 = .ok (.iload 4, 2) := dk_21 4 (dk_at dksL_law_67 3 rfl rfl)
theorem dL_law_1718 : decode cL_law 1718 = .ok (.iconst 3, 1) := dk_6 (dk_at dksL_law_67 5 rfl rfl)
theorem dL_law_1719 : decode cL_law 1719 = .ok (.iadd, 1) := dk_96 (dk_at dksL_law_67 6 rfl rfl)
theorem dL_law_1720 : decode cL_law 1720 = .ok (.iaload, 1) := dk_46 (dk_at dksL_law_67 7 rfl rfl)
theorem dL_law_1721 : decode cL_law 1721 = .ok (.invokevirtual 218, 3) := dk_182 0 218 (dk_at dksL_law_67 8 rfl rfl)
theorem dL_law_1724 : decode cL_law 1724 = .ok (.istore 6, 2) := dk_54 6 (dk_at dksL_law_67 11 rfl rfl)
theorem dL_law_1726 : decode cL_law 1726 = .ok (.aload_n 2, 1) := dk_44 (dk_at dksL_law_67 13 rfl rfl)
theorem dL_law_1727 : decode cL_law 1727 = .ok (.invokevirtual 125, 3) := dk_182 0 125 (dk_at dksL_law_67 14 rfl rfl)
theorem dL_law_1730 : decode cL_law 1730 = .ok (.iload 5, 2) := dk_21 5 (dk_at dksL_law_67 17 rfl rfl)
theorem dL_law_1732 : decode cL_law 1732 = .ok (.if_icmp .eq 5, 3) := dk_159 0 5 (dk_at dksL_law_67 19 rfl rfl)
theorem dL_law_1735 : decode cL_law 1735 = .ok (.iconst 0, 1) := dk_3 (dk_at dksL_law_67 22 rfl rfl)
theorem dL_law_1736 : decode cL_law 1736 = .ok (.ireturn, 1) := dk_172 (dk_at dksL_law_67 23 rfl rfl)
theorem dL_law_1737 : decode cL_law 1737 = .ok (.iload 5, 2) := dk_21 5 (dk_at dksL_law_68 0 rfl rfl)
theorem dL_law_1739 : decode cL_law 1739 = .ok (.ifCond .ne 15, 3) := dk_154 0 15 (dk_at dksL_law_68 2 rfl rfl)
theorem dL_law_1742 : decode cL_law 1742 = .ok (.aload_n 3, 1) := dk_45 (dk_at dksL_law_68 5 rfl rfl)
theorem dL_law_1743 : decode cL_law 1743 = .ok (.iconst 0, 1) := dk_3 (dk_at dksL_law_68 6 rfl rfl)
theorem dL_law_1744 : decode cL_law 1744 = .ok (.laload, 1) := dk_47 (dk_at dksL_law_68 7 rfl rfl)
theorem dL_law_1745 : decode cL_law 1745 = .ok (.iload 6, 2) := dk_21 6 (dk_at dksL_law_68 8 rfl rfl)
theorem dL_law_1747 : decode cL_law 1747 = .ok (.i2l, 1) := dk_133 (dk_at dksL_law_68 10 rfl rfl)
theorem dL_law_1748 : decode cL_law 1748 = .ok (.lcmp, 1) := dk_148 (dk_at dksL_law_68 11 rfl rfl)
theorem dL_law_1749 : decode cL_law 1749 = .ok (.ifCond .eq 5, 3) := dk_153 0 5 (dk_at dksL_law_68 12 rfl rfl)
theorem dL_law_1752 : decode cL_law 1752 = .ok (.iconst 0, 1) := dk_3 (dk_at dksL_law_68 15 rfl rfl)
theorem dL_law_1753 : decode cL_law 1753 = .ok (.ireturn, 1) := dk_172 (dk_at dksL_law_68 16 rfl rfl)
theorem dL_law_1754 : decode cL_law 1754 = .ok (.goto 659, 3) := dk_167 2 147 (dk_at dksL_law_68 17 rfl rfl)
theorem dL_law_1757 : decode cL_law 1757 = .ok (.aload_n 1, 1) := dk_43 (dk_at dksL_law_68 20 rfl rfl)
theorem dL_law_1758 : decode cL_law 1758 = .ok (.aload_n 0, 1) := dk_42 (dk_at dksL_law_68 21 rfl rfl)
theorem dL_law_1759 : decode cL_law 1759 = .ok (.iload 4, 2) := dk_21 4 (dk_at dksL_law_68 22 rfl rfl)
theorem dL_law_1761 : decode cL_law 1761 = .ok (.iconst 1, 1) := dk_4 (dk_at dksL_law_69 0 rfl rfl)
theorem dL_law_1762 : decode cL_law 1762 = .ok (.iadd, 1) := dk_96 (dk_at dksL_law_69 1 rfl rfl)
theorem dL_law_1763 : decode cL_law 1763 = .ok (.iaload, 1) := dk_46 (dk_at dksL_law_69 2 rfl rfl)
theorem dL_law_1764 : decode cL_law 1764 = .ok (.aload_n 0, 1) := dk_42 (dk_at dksL_law_69 3 rfl rfl)
theorem dL_law_1765 : decode cL_law 1765 = .ok (.iload 4, 2) := dk_21 4 (dk_at dksL_law_69 4 rfl rfl)
theorem dL_law_1767 : decode cL_law 1767 = .ok (.iconst 2, 1) := dk_5 (dk_at dksL_law_69 6 rfl rfl)
theorem dL_law_1768 : decode cL_law 1768 = .ok (.iadd, 1) := dk_96 (dk_at dksL_law_69 7 rfl rfl)
theorem dL_law_1769 : decode cL_law 1769 = .ok (.iaload, 1) := dk_46 (dk_at dksL_law_69 8 rfl rfl)
theorem dL_law_1770 : decode cL_law 1770 = .ok (.aload_n 0, 1) := dk_42 (dk_at dksL_law_69 9 rfl rfl)
theorem dL_law_1771 : decode cL_law 1771 = .ok (.iload 4, 2) := dk_21 4 (dk_at dksL_law_69 10 rfl rfl)
theorem dL_law_1773 : decode cL_law 1773 = .ok (.iconst 3, 1) := dk_6 (dk_at dksL_law_69 12 rfl rfl)
theorem dL_law_1774 : decode cL_law 1774 = .ok (.iadd, 1) := dk_96 (dk_at dksL_law_69 13 rfl rfl)
theorem dL_law_1775 : decode cL_law 1775 = .ok (.iaload, 1) := dk_46 (dk_at dksL_law_69 14 rfl rfl)
theorem dL_law_1776 : decode cL_law 1776 = .ok (.aload_n 3, 1) := dk_45 (dk_at dksL_law_69 15 rfl rfl)
theorem dL_law_1777 : decode cL_law 1777 = .ok (.invokestatic 219, 3) := dk_184 0 219 (dk_at dksL_law_69 16 rfl rfl)
theorem dL_law_1780 : decode cL_law 1780 = .ok (.istore 5, 2) := dk_54 5 (dk_at dksL_law_69 19 rfl rfl)
theorem dL_law_1782 : decode cL_law 1782 = .ok (.aload_n 2, 1) := dk_44 (dk_at dksL_law_69 21 rfl rfl)
theorem dL_law_1783 : decode cL_law 1783 = .ok (.aload_n 0, 1) := dk_42 (dk_at dksL_law_69 22 rfl rfl)
theorem dL_law_1784 : decode cL_law 1784 = .ok (.iload 4, 2) := dk_21 4 (dk_at dksL_law_70 0 rfl rfl)
theorem dL_law_1786 : decode cL_law 1786 = .ok (.iconst 1, 1) := dk_4 (dk_at dksL_law_70 2 rfl rfl)
theorem dL_law_1787 : decode cL_law 1787 = .ok (.iadd, 1) := dk_96 (dk_at dksL_law_70 3 rfl rfl)
theorem dL_law_1788 : decode cL_law 1788 = .ok (.iaload, 1) := dk_46 (dk_at dksL_law_70 4 rfl rfl)
theorem dL_law_1789 : decode cL_law 1789 = .ok (.aload_n 0, 1) := dk_42 (dk_at dksL_law_70 5 rfl rfl)
theorem dL_law_1790 : decode cL_law 1790 = .ok (.iload 4, 2) := dk_21 4 (dk_at dksL_law_70 6 rfl rfl)
theorem dL_law_1792 : decode cL_law 1792 = .ok (.iconst 2, 1) := dk_5 (dk_at dksL_law_70 8 rfl rfl)
theorem dL_law_1793 : decode cL_law 1793 = .ok (.iadd, 1) := dk_96 (dk_at dksL_law_70 9 rfl rfl)
theorem dL_law_1794 : decode cL_law 1794 = .ok (.iaload, 1) := dk_46 (dk_at dksL_law_70 10 rfl rfl)
theorem dL_law_1795 : decode cL_law 1795 = .ok (.aload_n 0, 1) := dk_42 (dk_at dksL_law_70 11 rfl rfl)
theorem dL_law_1796 : decode cL_law 1796 = .ok (.iload 4, 2) := dk_21 4 (dk_at dksL_law_70 12 rfl rfl)
theorem dL_law_1798 : decode cL_law 1798 = .ok (.iconst 3, 1) := dk_6 (dk_at dksL_law_70 14 rfl rfl)
theorem dL_law_1799 : decode cL_law 1799 = .ok (.iadd, 1) := dk_96 (dk_at dksL_law_70 15 rfl rfl)
theorem dL_law_1800 : decode cL_law 1800 = .ok (.iaload, 1) := dk_46 (dk_at dksL_law_70 16 rfl rfl)
theorem dL_law_1801 : decode cL_law 1801 = .ok (.invokevirtual 221, 3) := dk_182 0 221 (dk_at dksL_law_70 17 rfl rfl)
theorem dL_law_1804 : decode cL_law 1804 = .ok (.istore 6, 2) := dk_54 6 (dk_at dksL_law_70 20 rfl rfl)
theorem dL_law_1806 : decode cL_law 1806 = .ok (.aload_n 2, 1) := dk_44 (dk_at dksL_law_70 22 rfl rfl)
theorem dL_law_1807 : decode cL_law 1807 = .ok (.invokevirtual 125, 3) := dk_182 0 125 (dk_at dksL_law_71 0 rfl rfl)
theorem dL_law_1810 : decode cL_law 1810 = .ok (.iload 5, 2) := dk_21 5 (dk_at dksL_law_71 3 rfl rfl)
theorem dL_law_1812 : decode cL_law 1812 = .ok (.if_icmp .eq 5, 3) := dk_159 0 5 (dk_at dksL_law_71 5 rfl rfl)
theorem dL_law_1815 : decode cL_law 1815 = .ok (.iconst 0, 1) := dk_3 (dk_at dksL_law_71 8 rfl rfl)
theorem dL_law_1816 : decode cL_law 1816 = .ok (.ireturn, 1) := dk_172 (dk_at dksL_law_71 9 rfl rfl)
theorem dL_law_1817 : decode cL_law 1817 = .ok (.iload 5, 2) := dk_21 5 (dk_at dksL_law_71 10 rfl rfl)
theorem dL_law_1819 : decode cL_law 1819 = .ok (.ifCond .ne 15, 3) := dk_154 0 15 (dk_at dksL_law_71 12 rfl rfl)
theorem dL_law_1822 : decode cL_law 1822 = .ok (.aload_n 3, 1) := dk_45 (dk_at dksL_law_71 15 rfl rfl)
theorem dL_law_1823 : decode cL_law 1823 = .ok (.iconst 0, 1) := dk_3 (dk_at dksL_law_71 16 rfl rfl)
theorem dL_law_1824 : decode cL_law 1824 = .ok (.laload, 1) := dk_47 (dk_at dksL_law_71 17 rfl rfl)
theorem dL_law_1825 : decode cL_law 1825 = .ok (.iload 6, 2) := dk_21 6 (dk_at dksL_law_71 18 rfl rfl)
theorem dL_law_1827 : decode cL_law 1827 = .ok (.i2l, 1) := dk_133 (dk_at dksL_law_71 20 rfl rfl)
theorem dL_law_1828 : decode cL_law 1828 = .ok (.lcmp, 1) := dk_148 (dk_at dksL_law_71 21 rfl rfl)
theorem dL_law_1829 : decode cL_law 1829 = .ok (.ifCond .eq 5, 3) := dk_153 0 5 (dk_at dksL_law_72 0 rfl rfl)
theorem dL_law_1832 : decode cL_law 1832 = .ok (.iconst 0, 1) := dk_3 (dk_at dksL_law_72 3 rfl rfl)
theorem dL_law_1833 : decode cL_law 1833 = .ok (.ireturn, 1) := dk_172 (dk_at dksL_law_72 4 rfl rfl)
theorem dL_law_1834 : decode cL_law 1834 = .ok (.goto 579, 3) := dk_167 2 67 (dk_at dksL_law_72 5 rfl rfl)
theorem dL_law_1837 : decode cL_law 1837 = .ok (.aload_n 1, 1) := dk_43 (dk_at dksL_law_72 8 rfl rfl)
theorem dL_law_1838 : decode cL_law 1838 = .ok (.aload_n 0, 1) := dk_42 (dk_at dksL_law_72 9 rfl rfl)
theorem dL_law_1839 : decode cL_law 1839 = .ok (.iload 4, 2) := dk_21 4 (dk_at dksL_law_72 10 rfl rfl)
theorem dL_law_1841 : decode cL_law 1841 = .ok (.iconst 1, 1) := dk_4 (dk_at dksL_law_72 12 rfl rfl)
theorem dL_law_1842 : decode cL_law 1842 = .ok (.iadd, 1) := dk_96 (dk_at dksL_law_72 13 rfl rfl)
theorem dL_law_1843 : decode cL_law 1843 = .ok (.iaload, 1) := dk_46 (dk_at dksL_law_72 14 rfl rfl)
theorem dL_law_1844 : decode cL_law 1844 = .ok (.aload_n 0, 1) := dk_42 (dk_at dksL_law_72 15 rfl rfl)
theorem dL_law_1845 : decode cL_law 1845 = .ok (.iload 4, 2) := dk_21 4 (dk_at dksL_law_72 16 rfl rfl)
theorem dL_law_1847 : decode cL_law 1847 = .ok (.iconst 2, 1) := dk_5 (dk_at dksL_law_72 18 rfl rfl)
theorem dL_law_1848 : decode cL_law 1848 = .ok (.iadd, 1) := dk_96 (dk_at dksL_law_72 19 rfl rfl)
theorem dL_law_1849 : decode cL_law 1849 = .ok (.iaload, 1) := dk_46 (dk_at dksL_law_72 20 rfl rfl)
theorem dL_law_1850 : decode cL_law 1850 = .ok (.aload_n 0, 1) := dk_42 (dk_at dksL_law_72 21 rfl rfl)
theorem dL_law_1851 : decode cL_law 1851 = .ok (.iload 4, 2) := dk_21 4 (dk_at dksL_law_72 22 rfl rfl)
theorem dL_law_1853 : decode cL_law 1853 = .ok (.iconst 3, 1) := dk_6 (dk_at dksL_law_73 0 rfl rfl)
theorem dL_law_1854 : decode cL_law 1854 = .ok (.iadd, 1) := dk_96 (dk_at dksL_law_73 1 rfl rfl)
theorem dL_law_1855 : decode cL_law 1855 = .ok (.iaload, 1) := dk_46 (dk_at dksL_law_73 2 rfl rfl)
theorem dL_law_1856 : decode cL_law 1856 = .ok (.aload_n 3, 1) := dk_45 (dk_at dksL_law_73 3 rfl rfl)
theorem dL_law_1857 : decode cL_law 1857 = .ok (.invokestatic 222, 3) := dk_184 0 222 (dk_at dksL_law_73 4 rfl rfl)
theorem dL_law_1860 : decode cL_law 1860 = .ok (.istore 5, 2) := dk_54 5 (dk_at dksL_law_73 7 rfl rfl)
theorem dL_law_1862 : decode cL_law 1862 = .ok (.aload_n 2, 1) := dk_44 (dk_at dksL_law_73 9 rfl rfl)
theorem dL_law_1863 : decode cL_law 1863 = .ok (.aload_n 0, 1) := dk_42 (dk_at dksL_law_73 10 rfl rfl)
theorem dL_law_1864 : decode cL_law 1864 = .ok (.iload 4, 2) := dk_21 4 (dk_at dksL_law_73 11 rfl rfl)
theorem dL_law_1866 : decode cL_law 1866 = .ok (.iconst 1, 1) := dk_4 (dk_at dksL_law_73 13 rfl rfl)
theorem dL_law_1867 : decode cL_law 1867 = .ok (.iadd, 1) := dk_96 (dk_at dksL_law_73 14 rfl rfl)
theorem dL_law_1868 : decode cL_law 1868 = .ok (.iaload, 1) := dk_46 (dk_at dksL_law_73 15 rfl rfl)
theorem dL_law_1869 : decode cL_law 1869 = .ok (.aload_n 0, 1) := dk_42 (dk_at dksL_law_73 16 rfl rfl)
theorem dL_law_1870 : decode cL_law 1870 = .ok (.iload 4, 2) := dk_21 4 (dk_at dksL_law_73 17 rfl rfl)
theorem dL_law_1872 : decode cL_law 1872 = .ok (.iconst 2, 1) := dk_5 (dk_at dksL_law_73 19 rfl rfl)
theorem dL_law_1873 : decode cL_law 1873 = .ok (.iadd, 1) := dk_96 (dk_at dksL_law_73 20 rfl rfl)
theorem dL_law_1874 : decode cL_law 1874 = .ok (.iaload, 1) := dk_46 (dk_at dksL_law_73 21 rfl rfl)
theorem dL_law_1875 : decode cL_law 1875 = .ok (.aload_n 0, 1) := dk_42 (dk_at dksL_law_73 22 rfl rfl)
theorem dL_law_1876 : decode cL_law 1876 = .ok (.iload 4, 2) := dk_21 4 (dk_at dksL_law_74 0 rfl rfl)
theorem dL_law_1878 : decode cL_law 1878 = .ok (.iconst 3, 1) := dk_6 (dk_at dksL_law_74 2 rfl rfl)
theorem dL_law_1879 : decode cL_law 1879 = .ok (.iadd, 1) := dk_96 (dk_at dksL_law_74 3 rfl rfl)
theorem dL_law_1880 : decode cL_law 1880 = .ok (.iaload, 1) := dk_46 (dk_at dksL_law_74 4 rfl rfl)
theorem dL_law_1881 : decode cL_law 1881 = .ok (.invokevirtual 224, 3) := dk_182 0 224 (dk_at dksL_law_74 5 rfl rfl)
theorem dL_law_1884 : decode cL_law 1884 = .ok (.istore 6, 2) := dk_54 6 (dk_at dksL_law_74 8 rfl rfl)
theorem dL_law_1886 : decode cL_law 1886 = .ok (.aload_n 2, 1) := dk_44 (dk_at dksL_law_74 10 rfl rfl)
theorem dL_law_1887 : decode cL_law 1887 = .ok (.invokevirtual 125, 3) := dk_182 0 125 (dk_at dksL_law_74 11 rfl rfl)
theorem dL_law_1890 : decode cL_law 1890 = .ok (.iload 5, 2) := dk_21 5 (dk_at dksL_law_74 14 rfl rfl)
theorem dL_law_1892 : decode cL_law 1892 = .ok (.if_icmp .eq 5, 3) := dk_159 0 5 (dk_at dksL_law_74 16 rfl rfl)
theorem dL_law_1895 : decode cL_law 1895 = .ok (.iconst 0, 1) := dk_3 (dk_at dksL_law_74 19 rfl rfl)
theorem dL_law_1896 : decode cL_law 1896 = .ok (.ireturn, 1) := dk_172 (dk_at dksL_law_74 20 rfl rfl)
theorem dL_law_1897 : decode cL_law 1897 = .ok (.iload 5, 2) := dk_21 5 (dk_at dksL_law_74 21 rfl rfl)
theorem dL_law_1899 : decode cL_law 1899 = .ok (.ifCond .ne 15, 3) := dk_154 0 15 (dk_at dksL_law_75 0 rfl rfl)
theorem dL_law_1902 : decode cL_law 1902 = .ok (.aload_n 3, 1) := dk_45 (dk_at dksL_law_75 3 rfl rfl)
theorem dL_law_1903 : decode cL_law 1903 = .ok (.iconst 0, 1) := dk_3 (dk_at dksL_law_75 4 rfl rfl)
theorem dL_law_1904 : decode cL_law 1904 = .ok (.laload, 1) := dk_47 (dk_at dksL_law_75 5 rfl rfl)
theorem dL_law_1905 : decode cL_law 1905 = .ok (.iload 6, 2) := dk_21 6 (dk_at dksL_law_75 6 rfl rfl)
theorem dL_law_1907 : decode cL_law 1907 = .ok (.i2l, 1) := dk_133 (dk_at dksL_law_75 8 rfl rfl)
theorem dL_law_1908 : decode cL_law 1908 = .ok (.lcmp, 1) := dk_148 (dk_at dksL_law_75 9 rfl rfl)
theorem dL_law_1909 : decode cL_law 1909 = .ok (.ifCond .eq 5, 3) := dk_153 0 5 (dk_at dksL_law_75 10 rfl rfl)
theorem dL_law_1912 : decode cL_law 1912 = .ok (.iconst 0, 1) := dk_3 (dk_at dksL_law_75 13 rfl rfl)
theorem dL_law_1913 : decode cL_law 1913 = .ok (.ireturn, 1) := dk_172 (dk_at dksL_law_75 14 rfl rfl)
theorem dL_law_1914 : decode cL_law 1914 = .ok (.goto 499, 3) := dk_167 1 243 (dk_at dksL_law_75 15 rfl rfl)
theorem dL_law_1917 : decode cL_law 1917 = .ok (.aload_n 1, 1) := dk_43 (dk_at dksL_law_75 18 rfl rfl)
theorem dL_law_1918 : decode cL_law 1918 = .ok (.aload_n 0, 1) := dk_42 (dk_at dksL_law_75 19 rfl rfl)
theorem dL_law_1919 : decode cL_law 1919 = .ok (.iload 4, 2) := dk_21 4 (dk_at dksL_law_75 20 rfl rfl)
theorem dL_law_1921 : decode cL_law 1921 = .ok (.iconst 1, 1) := dk_4 (dk_at dksL_law_75 22 rfl rfl)
theorem dL_law_1922 : decode cL_law 1922 = .ok (.iadd, 1) := dk_96 (dk_at dksL_law_75 23 rfl rfl)
theorem dL_law_1923 : decode cL_law 1923 = .ok (.iaload, 1) := dk_46 (dk_at dksL_law_76 0 rfl rfl)
theorem dL_law_1924 : decode cL_law 1924 = .ok (.aload_n 3, 1) := dk_45 (dk_at dksL_law_76 1 rfl rfl)
theorem dL_law_1925 : decode cL_law 1925 = .ok (.invokestatic 225, 3) := dk_184 0 225 (dk_at dksL_law_76 2 rfl rfl)
theorem dL_law_1928 : decode cL_law 1928 = .ok (.istore 5, 2) := dk_54 5 (dk_at dksL_law_76 5 rfl rfl)
theorem dL_law_1930 : decode cL_law 1930 = .ok (.aload_n 2, 1) := dk_44 (dk_at dksL_law_76 7 rfl rfl)
theorem dL_law_1931 : decode cL_law 1931 = .ok (.aload_n 0, 1) := dk_42 (dk_at dksL_law_76 8 rfl rfl)
theorem dL_law_1932 : decode cL_law 1932 = .ok (.iload 4, 2) := dk_21 4 (dk_at dksL_law_76 9 rfl rfl)
theorem dL_law_1934 : decode cL_law 1934 = .ok (.iconst 1, 1) := dk_4 (dk_at dksL_law_76 11 rfl rfl)
theorem dL_law_1935 : decode cL_law 1935 = .ok (.iadd, 1) := dk_96 (dk_at dksL_law_76 12 rfl rfl)
theorem dL_law_1936 : decode cL_law 1936 = .ok (.iaload, 1) := dk_46 (dk_at dksL_law_76 13 rfl rfl)
theorem dL_law_1937 : decode cL_law 1937 = .ok (.invokevirtual 227, 3) := dk_182 0 227 (dk_at dksL_law_76 14 rfl rfl)
theorem dL_law_1940 : decode cL_law 1940 = .ok (.istore 6, 2) := dk_54 6 (dk_at dksL_law_76 17 rfl rfl)
theorem dL_law_1942 : decode cL_law 1942 = .ok (.aload_n 2, 1) := dk_44 (dk_at dksL_law_76 19 rfl rfl)
theorem dL_law_1943 : decode cL_law 1943 = .ok (.invokevirtual 125, 3) := dk_182 0 125 (dk_at dksL_law_76 20 rfl rfl)
theorem dL_law_1946 : decode cL_law 1946 = .ok (.iload 5, 2) := dk_21 5 (dk_at dksL_law_77 0 rfl rfl)
theorem dL_law_1948 : decode cL_law 1948 = .ok (.if_icmp .eq 5, 3) := dk_159 0 5 (dk_at dksL_law_77 2 rfl rfl)
theorem dL_law_1951 : decode cL_law 1951 = .ok (.iconst 0, 1) := dk_3 (dk_at dksL_law_77 5 rfl rfl)
theorem dL_law_1952 : decode cL_law 1952 = .ok (.ireturn, 1) := dk_172 (dk_at dksL_law_77 6 rfl rfl)
theorem dL_law_1953 : decode cL_law 1953 = .ok (.iload 5, 2) := dk_21 5 (dk_at dksL_law_77 7 rfl rfl)
theorem dL_law_1955 : decode cL_law 1955 = .ok (.ifCond .ne 15, 3) := dk_154 0 15 (dk_at dksL_law_77 9 rfl rfl)
theorem dL_law_1958 : decode cL_law 1958 = .ok (.aload_n 3, 1) := dk_45 (dk_at dksL_law_77 12 rfl rfl)
theorem dL_law_1959 : decode cL_law 1959 = .ok (.iconst 0, 1) := dk_3 (dk_at dksL_law_77 13 rfl rfl)
theorem dL_law_1960 : decode cL_law 1960 = .ok (.laload, 1) := dk_47 (dk_at dksL_law_77 14 rfl rfl)
theorem dL_law_1961 : decode cL_law 1961 = .ok (.iload 6, 2) := dk_21 6 (dk_at dksL_law_77 15 rfl rfl)
theorem dL_law_1963 : decode cL_law 1963 = .ok (.i2l, 1) := dk_133 (dk_at dksL_law_77 17 rfl rfl)
theorem dL_law_1964 : decode cL_law 1964 = .ok (.lcmp, 1) := dk_148 (dk_at dksL_law_77 18 rfl rfl)
theorem dL_law_1965 : decode cL_law 1965 = .ok (.ifCond .eq 5, 3) := dk_153 0 5 (dk_at dksL_law_77 19 rfl rfl)
theorem dL_law_1968 : decode cL_law 1968 = .ok (.iconst 0, 1) := dk_3 (dk_at dksL_law_77 22 rfl rfl)
theorem dL_law_1969 : decode cL_law 1969 = .ok (.ireturn, 1) := dk_172 (dk_at dksL_law_77 23 rfl rfl)
theorem dL_law_1970 : decode cL_law 1970 = .ok (.goto 443, 3) := dk_167 1 187 (dk_at dksL_law_78 0 rfl rfl)
theorem dL_law_1973 : decode cL_law 1973 = .ok (.aload_n 1, 1) := dk_43 (dk_at dksL_law_78 3 rfl rfl)
theorem dL_law_1974 : decode cL_law 1974 = .ok (.aload_n 0, 1) := dk_42 (dk_at dksL_law_78 4 rfl rfl)
theorem dL_law_1975 : decode cL_law 1975 = .ok (.iload 4, 2) := dk_21 4 (dk_at dksL_law_78 5 rfl rfl)
theorem dL_law_1977 : decode cL_law 1977 = .ok (.iconst 1, 1) := dk_4 (dk_at dksL_law_78 7 rfl rfl)
theorem dL_law_1978 : decode cL_law 1978 = .ok (.iadd, 1) := dk_96 (dk_at dksL_law_78 8 rfl rfl)
theorem dL_law_1979 : decode cL_law 1979 = .ok (.iaload, 1) := dk_46 (dk_at dksL_law_78 9 rfl rfl)
theorem dL_law_1980 : decode cL_law 1980 = .ok (.aload_n 3, 1) := dk_45 (dk_at dksL_law_78 10 rfl rfl)
theorem dL_law_1981 : decode cL_law 1981 = .ok (.invokestatic 228, 3) := dk_184 0 228 (dk_at dksL_law_78 11 rfl rfl)
theorem dL_law_1984 : decode cL_law 1984 = .ok (.istore 5, 2) := dk_54 5 (dk_at dksL_law_78 14 rfl rfl)
theorem dL_law_1986 : decode cL_law 1986 = .ok (.aload_n 2, 1) := dk_44 (dk_at dksL_law_78 16 rfl rfl)
theorem dL_law_1987 : decode cL_law 1987 = .ok (.aload_n 0, 1) := dk_42 (dk_at dksL_law_78 17 rfl rfl)
theorem dL_law_1988 : decode cL_law 1988 = .ok (.iload 4, 2) := dk_21 4 (dk_at dksL_law_78 18 rfl rfl)
theorem dL_law_1990 : decode cL_law 1990 = .ok (.iconst 1, 1) := dk_4 (dk_at dksL_law_78 20 rfl rfl)
theorem dL_law_1991 : decode cL_law 1991 = .ok (.iadd, 1) := dk_96 (dk_at dksL_law_78 21 rfl rfl)
theorem dL_law_1992 : decode cL_law 1992 = .ok (.iaload, 1) := dk_46 (dk_at dksL_law_78 22 rfl rfl)
theorem dL_law_1993 : decode cL_law 1993 = .ok (.invokevirtual 230, 3) := dk_182 0 230 (dk_at dksL_law_79 0 rfl rfl)
theorem dL_law_1996 : decode cL_law 1996 = .ok (.istore 6, 2) := dk_54 6 (dk_at dksL_law_79 3 rfl rfl)
theorem dL_law_1998 : decode cL_law 1998 = .ok (.aload_n 2, 1) := dk_44 (dk_at dksL_law_79 5 rfl rfl)
theorem dL_law_1999 : decode cL_law 1999 = .ok (.invokevirtual 125, 3) := dk_182 0 125 (dk_at dksL_law_79 6 rfl rfl)
theorem dL_law_2002 : decode cL_law 2002 = .ok (.iload 5, 2) := dk_21 5 (dk_at dksL_law_79 9 rfl rfl)
theorem dL_law_2004 : decode cL_law 2004 = .ok (.if_icmp .eq 5, 3) := dk_159 0 5 (dk_at dksL_law_79 11 rfl rfl)
theorem dL_law_2007 : decode cL_law 2007 = .ok (.iconst 0, 1) := dk_3 (dk_at dksL_law_79 14 rfl rfl)
theorem dL_law_2008 : decode cL_law 2008 = .ok (.ireturn, 1) := dk_172 (dk_at dksL_law_79 15 rfl rfl)
theorem dL_law_2009 : decode cL_law 2009 = .ok (.iload 5, 2) := dk_21 5 (dk_at dksL_law_79 16 rfl rfl)
theorem dL_law_2011 : decode cL_law 2011 = .ok (.ifCond .ne 15, 3) := dk_154 0 15 (dk_at dksL_law_79 18 rfl rfl)
theorem dL_law_2014 : decode cL_law 2014 = .ok (.aload_n 3, 1) := dk_45 (dk_at dksL_law_79 21 rfl rfl)
theorem dL_law_2015 : decode cL_law 2015 = .ok (.iconst 0, 1) := dk_3 (dk_at dksL_law_79 22 rfl rfl)
theorem dL_law_2016 : decode cL_law 2016 = .ok (.laload, 1) := dk_47 (dk_at dksL_law_79 23 rfl rfl)
theorem dL_law_2017 : decode cL_law 2017 = .ok (.iload 6, 2) := dk_21 6 (dk_at dksL_law_80 0 rfl rfl)
theorem dL_law_2019 : decode cL_law 2019 = .ok (.i2l, 1) := dk_133 (dk_at dksL_law_80 2 rfl rfl)
theorem dL_law_2020 : decode cL_law 2020 = .ok (.lcmp, 1) := dk_148 (dk_at dksL_law_80 3 rfl rfl)
theorem dL_law_2021 : decode cL_law 2021 = .ok (.ifCond .eq 5, 3) := dk_153 0 5 (dk_at dksL_law_80 4 rfl rfl)
theorem dL_law_2024 : decode cL_law 2024 = .ok (.iconst 0, 1) := dk_3 (dk_at dksL_law_80 7 rfl rfl)
theorem dL_law_2025 : decode cL_law 2025 = .ok (.ireturn, 1) := dk_172 (dk_at dksL_law_80 8 rfl rfl)
theorem dL_law_2026 : decode cL_law 2026 = .ok (.goto 387, 3) := dk_167 1 131 (dk_at dksL_law_80 9 rfl rfl)
theorem dL_law_2029 : decode cL_law 2029 = .ok (.aload_n 1, 1) := dk_43 (dk_at dksL_law_80 12 rfl rfl)
theorem dL_law_2030 : decode cL_law 2030 = .ok (.aload_n 0, 1) := dk_42 (dk_at dksL_law_80 13 rfl rfl)
theorem dL_law_2031 : decode cL_law 2031 = .ok (.iload 4, 2) := dk_21 4 (dk_at dksL_law_80 14 rfl rfl)
theorem dL_law_2033 : decode cL_law 2033 = .ok (.iconst 1, 1) := dk_4 (dk_at dksL_law_80 16 rfl rfl)
theorem dL_law_2034 : decode cL_law 2034 = .ok (.iadd, 1) := dk_96 (dk_at dksL_law_80 17 rfl rfl)
theorem dL_law_2035 : decode cL_law 2035 = .ok (.iaload, 1) := dk_46 (dk_at dksL_law_80 18 rfl rfl)
theorem dL_law_2036 : decode cL_law 2036 = .ok (.aload_n 3, 1) := dk_45 (dk_at dksL_law_80 19 rfl rfl)
theorem dL_law_2037 : decode cL_law 2037 = .ok (.invokestatic 231, 3) := dk_184 0 231 (dk_at dksL_law_80 20 rfl rfl)
theorem dL_law_2040 : decode cL_law 2040 = .ok (.istore 5, 2) := dk_54 5 (dk_at dksL_law_81 0 rfl rfl)
theorem dL_law_2042 : decode cL_law 2042 = .ok (.aload_n 2, 1) := dk_44 (dk_at dksL_law_81 2 rfl rfl)
theorem dL_law_2043 : decode cL_law 2043 = .ok (.aload_n 0, 1) := dk_42 (dk_at dksL_law_81 3 rfl rfl)
theorem dL_law_2044 : decode cL_law 2044 = .ok (.iload 4, 2) := dk_21 4 (dk_at dksL_law_81 4 rfl rfl)
theorem dL_law_2046 : decode cL_law 2046 = .ok (.iconst 1, 1) := dk_4 (dk_at dksL_law_81 6 rfl rfl)
theorem dL_law_2047 : decode cL_law 2047 = .ok (.iadd, 1) := dk_96 (dk_at dksL_law_81 7 rfl rfl)
theorem dL_law_2048 : decode cL_law 2048 = .ok (.iaload, 1) := dk_46 (dk_at dksL_law_81 8 rfl rfl)
theorem dL_law_2049 : decode cL_law 2049 = .ok (.invokevirtual 233, 3) := dk_182 0 233 (dk_at dksL_law_81 9 rfl rfl)
theorem dL_law_2052 : decode cL_law 2052 = .ok (.istore 6, 2) := dk_54 6 (dk_at dksL_law_81 12 rfl rfl)
theorem dL_law_2054 : decode cL_law 2054 = .ok (.aload_n 2, 1) := dk_44 (dk_at dksL_law_81 14 rfl rfl)
theorem dL_law_2055 : decode cL_law 2055 = .ok (.invokevirtual 125, 3) := dk_182 0 125 (dk_at dksL_law_81 15 rfl rfl)
theorem dL_law_2058 : decode cL_law 2058 = .ok (.iload 5, 2) := dk_21 5 (dk_at dksL_law_81 18 rfl rfl)
theorem dL_law_2060 : decode cL_law 2060 = .ok (.if_icmp .eq 5, 3) := dk_159 0 5 (dk_at dksL_law_81 20 rfl rfl)
theorem dL_law_2063 : decode cL_law 2063 = .ok (.iconst 0, 1) := dk_3 (dk_at dksL_law_81 23 rfl rfl)
theorem dL_law_2064 : decode cL_law 2064 = .ok (.ireturn, 1) := dk_172 (dk_at dksL_law_82 0 rfl rfl)
theorem dL_law_2065 : decode cL_law 2065 = .ok (.iload 5, 2) := dk_21 5 (dk_at dksL_law_82 1 rfl rfl)
theorem dL_law_2067 : decode cL_law 2067 = .ok (.ifCond .ne 15, 3) := dk_154 0 15 (dk_at dksL_law_82 3 rfl rfl)
theorem dL_law_2070 : decode cL_law 2070 = .ok (.aload_n 3, 1) := dk_45 (dk_at dksL_law_82 6 rfl rfl)
theorem dL_law_2071 : decode cL_law 2071 = .ok (.iconst 0, 1) := dk_3 (dk_at dksL_law_82 7 rfl rfl)
theorem dL_law_2072 : decode cL_law 2072 = .ok (.laload, 1) := dk_47 (dk_at dksL_law_82 8 rfl rfl)
theorem dL_law_2073 : decode cL_law 2073 = .ok (.iload 6, 2) := dk_21 6 (dk_at dksL_law_82 9 rfl rfl)
theorem dL_law_2075 : decode cL_law 2075 = .ok (.i2l, 1) := dk_133 (dk_at dksL_law_82 11 rfl rfl)
theorem dL_law_2076 : decode cL_law 2076 = .ok (.lcmp, 1) := dk_148 (dk_at dksL_law_82 12 rfl rfl)
theorem dL_law_2077 : decode cL_law 2077 = .ok (.ifCond .eq 5, 3) := dk_153 0 5 (dk_at dksL_law_82 13 rfl rfl)
theorem dL_law_2080 : decode cL_law 2080 = .ok (.iconst 0, 1) := dk_3 (dk_at dksL_law_82 16 rfl rfl)
theorem dL_law_2081 : decode cL_law 2081 = .ok (.ireturn, 1) := dk_172 (dk_at dksL_law_82 17 rfl rfl)
theorem dL_law_2082 : decode cL_law 2082 = .ok (.goto 331, 3) := dk_167 1 75 (dk_at dksL_law_82 18 rfl rfl)
theorem dL_law_2085 : decode cL_law 2085 = .ok (.aload_n 1, 1) := dk_43 (dk_at dksL_law_82 21 rfl rfl)
theorem dL_law_2086 : decode cL_law 2086 = .ok (.aload_n 0, 1) := dk_42 (dk_at dksL_law_82 22 rfl rfl)
theorem dL_law_2087 : decode cL_law 2087 = .ok (.iload 4, 2) := dk_21 4 (dk_at dksL_law_83 0 rfl rfl)
theorem dL_law_2089 : decode cL_law 2089 = .ok (.iconst 1, 1) := dk_4 (dk_at dksL_law_83 2 rfl rfl)
theorem dL_law_2090 : decode cL_law 2090 = .ok (.iadd, 1) := dk_96 (dk_at dksL_law_83 3 rfl rfl)
theorem dL_law_2091 : decode cL_law 2091 = .ok (.iaload, 1) := dk_46 (dk_at dksL_law_83 4 rfl rfl)
theorem dL_law_2092 : decode cL_law 2092 = .ok (.aload_n 3, 1) := dk_45 (dk_at dksL_law_83 5 rfl rfl)
theorem dL_law_2093 : decode cL_law 2093 = .ok (.invokestatic 234, 3) := dk_184 0 234 (dk_at dksL_law_83 6 rfl rfl)
theorem dL_law_2096 : decode cL_law 2096 = .ok (.istore 5, 2) := dk_54 5 (dk_at dksL_law_83 9 rfl rfl)
theorem dL_law_2098 : decode cL_law 2098 = .ok (.aload_n 2, 1) := dk_44 (dk_at dksL_law_83 11 rfl rfl)
theorem dL_law_2099 : decode cL_law 2099 = .ok (.aload_n 0, 1) := dk_42 (dk_at dksL_law_83 12 rfl rfl)
theorem dL_law_2100 : decode cL_law 2100 = .ok (.iload 4, 2) := dk_21 4 (dk_at dksL_law_83 13 rfl rfl)
theorem dL_law_2102 : decode cL_law 2102 = .ok (.iconst 1, 1) := dk_4 (dk_at dksL_law_83 15 rfl rfl)
theorem dL_law_2103 : decode cL_law 2103 = .ok (.iadd, 1) := dk_96 (dk_at dksL_law_83 16 rfl rfl)
theorem dL_law_2104 : decode cL_law 2104 = .ok (.iaload, 1) := dk_46 (dk_at dksL_law_83 17 rfl rfl)
theorem dL_law_2105 : decode cL_law 2105 = .ok (.invokevirtual 236, 3) := dk_182 0 236 (dk_at dksL_law_83 18 rfl rfl)
theorem dL_law_2108 : decode cL_law 2108 = .ok (.istore 6, 2) := dk_54 6 (dk_at dksL_law_83 21 rfl rfl)
theorem dL_law_2110 : decode cL_law 2110 = .ok (.aload_n 2, 1) := dk_44 (dk_at dksL_law_83 23 rfl rfl)
theorem dL_law_2111 : decode cL_law 2111 = .ok (.invokevirtual 125, 3) := dk_182 0 125 (dk_at dksL_law_84 0 rfl rfl)
theorem dL_law_2114 : decode cL_law 2114 = .ok (.iload 5, 2) := dk_21 5 (dk_at dksL_law_84 3 rfl rfl)
theorem dL_law_2116 : decode cL_law 2116 = .ok (.if_icmp .eq 5, 3) := dk_159 0 5 (dk_at dksL_law_84 5 rfl rfl)
theorem dL_law_2119 : decode cL_law 2119 = .ok (.iconst 0, 1) := dk_3 (dk_at dksL_law_84 8 rfl rfl)
theorem dL_law_2120 : decode cL_law 2120 = .ok (.ireturn, 1) := dk_172 (dk_at dksL_law_84 9 rfl rfl)
theorem dL_law_2121 : decode cL_law 2121 = .ok (.iload 5, 2) := dk_21 5 (dk_at dksL_law_84 10 rfl rfl)
theorem dL_law_2123 : decode cL_law 2123 = .ok (.ifCond .ne 15, 3) := dk_154 0 15 (dk_at dksL_law_84 12 rfl rfl)
theorem dL_law_2126 : decode cL_law 2126 = .ok (.aload_n 3, 1) := dk_45 (dk_at dksL_law_84 15 rfl rfl)
theorem dL_law_2127 : decode cL_law 2127 = .ok (.iconst 0, 1) := dk_3 (dk_at dksL_law_84 16 rfl rfl)
theorem dL_law_2128 : decode cL_law 2128 = .ok (.laload, 1) := dk_47 (dk_at dksL_law_84 17 rfl rfl)
theorem dL_law_2129 : decode cL_law 2129 = .ok (.iload 6, 2) := dk_21 6 (dk_at dksL_law_84 18 rfl rfl)
theorem dL_law_2131 : decode cL_law 2131 = .ok (.i2l, 1) := dk_133 (dk_at dksL_law_84 20 rfl rfl)
theorem dL_law_2132 : decode cL_law 2132 = .ok (.lcmp, 1) := dk_148 (dk_at dksL_law_84 21 rfl rfl)
theorem dL_law_2133 : decode cL_law 2133 = .ok (.ifCond .eq 5, 3) := dk_153 0 5 (dk_at dksL_law_85 0 rfl rfl)
theorem dL_law_2136 : decode cL_law 2136 = .ok (.iconst 0, 1) := dk_3 (dk_at dksL_law_85 3 rfl rfl)
theorem dL_law_2137 : decode cL_law 2137 = .ok (.ireturn, 1) := dk_172 (dk_at dksL_law_85 4 rfl rfl)
theorem dL_law_2138 : decode cL_law 2138 = .ok (.goto 275, 3) := dk_167 1 19 (dk_at dksL_law_85 5 rfl rfl)
theorem dL_law_2141 : decode cL_law 2141 = .ok (.aload_n 1, 1) := dk_43 (dk_at dksL_law_85 8 rfl rfl)
theorem dL_law_2142 : decode cL_law 2142 = .ok (.aload_n 0, 1) := dk_42 (dk_at dksL_law_85 9 rfl rfl)
theorem dL_law_2143 : decode cL_law 2143 = .ok (.iload 4, 2) := dk_21 4 (dk_at dksL_law_85 10 rfl rfl)
theorem dL_law_2145 : decode cL_law 2145 = .ok (.iconst 1, 1) := dk_4 (dk_at dksL_law_85 12 rfl rfl)
theorem dL_law_2146 : decode cL_law 2146 = .ok (.iadd, 1) := dk_96 (dk_at dksL_law_85 13 rfl rfl)
theorem dL_law_2147 : decode cL_law 2147 = .ok (.iaload, 1) := dk_46 (dk_at dksL_law_85 14 rfl rfl)
theorem dL_law_2148 : decode cL_law 2148 = .ok (.aload_n 3, 1) := dk_45 (dk_at dksL_law_85 15 rfl rfl)
theorem dL_law_2149 : decode cL_law 2149 = .ok (.invokestatic 237, 3) := dk_184 0 237 (dk_at dksL_law_85 16 rfl rfl)
theorem dL_law_2152 : decode cL_law 2152 = .ok (.istore 5, 2) := dk_54 5 (dk_at dksL_law_85 19 rfl rfl)
theorem dL_law_2154 : decode cL_law 2154 = .ok (.aload_n 2, 1) := dk_44 (dk_at dksL_law_85 21 rfl rfl)
theorem dL_law_2155 : decode cL_law 2155 = .ok (.aload_n 0, 1) := dk_42 (dk_at dksL_law_85 22 rfl rfl)
theorem dL_law_2156 : decode cL_law 2156 = .ok (.iload 4, 2) := dk_21 4 (dk_at dksL_law_86 0 rfl rfl)
theorem dL_law_2158 : decode cL_law 2158 = .ok (.iconst 1, 1) := dk_4 (dk_at dksL_law_86 2 rfl rfl)
theorem dL_law_2159 : decode cL_law 2159 = .ok (.iadd, 1) := dk_96 (dk_at dksL_law_86 3 rfl rfl)
theorem dL_law_2160 : decode cL_law 2160 = .ok (.iaload, 1) := dk_46 (dk_at dksL_law_86 4 rfl rfl)
theorem dL_law_2161 : decode cL_law 2161 = .ok (.invokevirtual 239, 3) := dk_182 0 239 (dk_at dksL_law_86 5 rfl rfl)
theorem dL_law_2164 : decode cL_law 2164 = .ok (.istore 6, 2) := dk_54 6 (dk_at dksL_law_86 8 rfl rfl)
theorem dL_law_2166 : decode cL_law 2166 = .ok (.aload_n 2, 1) := dk_44 (dk_at dksL_law_86 10 rfl rfl)
theorem dL_law_2167 : decode cL_law 2167 = .ok (.invokevirtual 125, 3) := dk_182 0 125 (dk_at dksL_law_86 11 rfl rfl)
theorem dL_law_2170 : decode cL_law 2170 = .ok (.iload 5, 2) := dk_21 5 (dk_at dksL_law_86 14 rfl rfl)
theorem dL_law_2172 : decode cL_law 2172 = .ok (.if_icmp .eq 5, 3) := dk_159 0 5 (dk_at dksL_law_86 16 rfl rfl)
theorem dL_law_2175 : decode cL_law 2175 = .ok (.iconst 0, 1) := dk_3 (dk_at dksL_law_86 19 rfl rfl)
theorem dL_law_2176 : decode cL_law 2176 = .ok (.ireturn, 1) := dk_172 (dk_at dksL_law_86 20 rfl rfl)
theorem dL_law_2177 : decode cL_law 2177 = .ok (.iload 5, 2) := dk_21 5 (dk_at dksL_law_86 21 rfl rfl)
theorem dL_law_2179 : decode cL_law 2179 = .ok (.ifCond .ne 15, 3) := dk_154 0 15 (dk_at dksL_law_87 0 rfl rfl)
theorem dL_law_2182 : decode cL_law 2182 = .ok (.aload_n 3, 1) := dk_45 (dk_at dksL_law_87 3 rfl rfl)
theorem dL_law_2183 : decode cL_law 2183 = .ok (.iconst 0, 1) := dk_3 (dk_at dksL_law_87 4 rfl rfl)
theorem dL_law_2184 : decode cL_law 2184 = .ok (.laload, 1) := dk_47 (dk_at dksL_law_87 5 rfl rfl)
theorem dL_law_2185 : decode cL_law 2185 = .ok (.iload 6, 2) := dk_21 6 (dk_at dksL_law_87 6 rfl rfl)
theorem dL_law_2187 : decode cL_law 2187 = .ok (.i2l, 1) := dk_133 (dk_at dksL_law_87 8 rfl rfl)
theorem dL_law_2188 : decode cL_law 2188 = .ok (.lcmp, 1) := dk_148 (dk_at dksL_law_87 9 rfl rfl)
theorem dL_law_2189 : decode cL_law 2189 = .ok (.ifCond .eq 5, 3) := dk_153 0 5 (dk_at dksL_law_87 10 rfl rfl)
theorem dL_law_2192 : decode cL_law 2192 = .ok (.iconst 0, 1) := dk_3 (dk_at dksL_law_87 13 rfl rfl)
theorem dL_law_2193 : decode cL_law 2193 = .ok (.ireturn, 1) := dk_172 (dk_at dksL_law_87 14 rfl rfl)
theorem dL_law_2194 : decode cL_law 2194 = .ok (.goto 219, 3) := dk_167 0 219 (dk_at dksL_law_87 15 rfl rfl)
theorem dL_law_2197 : decode cL_law 2197 = .ok (.aload_n 1, 1) := dk_43 (dk_at dksL_law_87 18 rfl rfl)
theorem dL_law_2198 : decode cL_law 2198 = .ok (.aload_n 0, 1) := dk_42 (dk_at dksL_law_87 19 rfl rfl)
theorem dL_law_2199 : decode cL_law 2199 = .ok (.iload 4, 2) := dk_21 4 (dk_at dksL_law_87 20 rfl rfl)
theorem dL_law_2201 : decode cL_law 2201 = .ok (.iconst 1, 1) := dk_4 (dk_at dksL_law_87 22 rfl rfl)
theorem dL_law_2202 : decode cL_law 2202 = .ok (.iadd, 1) := dk_96 (dk_at dksL_law_87 23 rfl rfl)
theorem dL_law_2203 : decode cL_law 2203 = .ok (.iaload, 1) := dk_46 (dk_at dksL_law_88 0 rfl rfl)
theorem dL_law_2204 : decode cL_law 2204 = .ok (.aload_n 0, 1) := dk_42 (dk_at dksL_law_88 1 rfl rfl)
theorem dL_law_2205 : decode cL_law 2205 = .ok (.iload 4, 2) := dk_21 4 (dk_at dksL_law_88 2 rfl rfl)
theorem dL_law_2207 : decode cL_law 2207 = .ok (.iconst 2, 1) := dk_5 (dk_at dksL_law_88 4 rfl rfl)
theorem dL_law_2208 : decode cL_law 2208 = .ok (.iadd, 1) := dk_96 (dk_at dksL_law_88 5 rfl rfl)
theorem dL_law_2209 : decode cL_law 2209 = .ok (.iaload, 1) := dk_46 (dk_at dksL_law_88 6 rfl rfl)
theorem dL_law_2210 : decode cL_law 2210 = .ok (.aload_n 3, 1) := dk_45 (dk_at dksL_law_88 7 rfl rfl)
theorem dL_law_2211 : decode cL_law 2211 = .ok (.invokestatic 240, 3) := dk_184 0 240 (dk_at dksL_law_88 8 rfl rfl)
theorem dL_law_2214 : decode cL_law 2214 = .ok (.istore 5, 2) := dk_54 5 (dk_at dksL_law_88 11 rfl rfl)
theorem dL_law_2216 : decode cL_law 2216 = .ok (.aload_n 2, 1) := dk_44 (dk_at dksL_law_88 13 rfl rfl)
theorem dL_law_2217 : decode cL_law 2217 = .ok (.aload_n 0, 1) := dk_42 (dk_at dksL_law_88 14 rfl rfl)
theorem dL_law_2218 : decode cL_law 2218 = .ok (.iload 4, 2) := dk_21 4 (dk_at dksL_law_88 15 rfl rfl)
theorem dL_law_2220 : decode cL_law 2220 = .ok (.iconst 1, 1) := dk_4 (dk_at dksL_law_88 17 rfl rfl)
theorem dL_law_2221 : decode cL_law 2221 = .ok (.iadd, 1) := dk_96 (dk_at dksL_law_88 18 rfl rfl)
theorem dL_law_2222 : decode cL_law 2222 = .ok (.iaload, 1) := dk_46 (dk_at dksL_law_88 19 rfl rfl)
theorem dL_law_2223 : decode cL_law 2223 = .ok (.aload_n 0, 1) := dk_42 (dk_at dksL_law_88 20 rfl rfl)
theorem dL_law_2224 : decode cL_law 2224 = .ok (.iload 4, 2) := dk_21 4 (dk_at dksL_law_88 21 rfl rfl)
theorem dL_law_2226 : decode cL_law 2226 = .ok (.iconst 2, 1) := dk_5 (dk_at dksL_law_88 23 rfl rfl)
theorem dL_law_2227 : decode cL_law 2227 = .ok (.iadd, 1) := dk_96 (dk_at dksL_law_89 0 rfl rfl)
theorem dL_law_2228 : decode cL_law 2228 = .ok (.iaload, 1) := dk_46 (dk_at dksL_law_89 1 rfl rfl)
theorem dL_law_2229 : decode cL_law 2229 = .ok (.invokevirtual 242, 3) := dk_182 0 242 (dk_at dksL_law_89 2 rfl rfl)
theorem dL_law_2232 : decode cL_law 2232 = .ok (.istore 6, 2) := dk_54 6 (dk_at dksL_law_89 5 rfl rfl)
theorem dL_law_2234 : decode cL_law 2234 = .ok (.aload_n 2, 1) := dk_44 (dk_at dksL_law_89 7 rfl rfl)
theorem dL_law_2235 : decode cL_law 2235 = .ok (.invokevirtual 125, 3) := dk_182 0 125 (dk_at dksL_law_89 8 rfl rfl)
theorem dL_law_2238 : decode cL_law 2238 = .ok (.iload 5, 2) := dk_21 5 (dk_at dksL_law_89 11 rfl rfl)
theorem dL_law_2240 : decode cL_law 2240 = .ok (.if_icmp .eq 5, 3) := dk_159 0 5 (dk_at dksL_law_89 13 rfl rfl)
theorem dL_law_2243 : decode cL_law 2243 = .ok (.iconst 0, 1) := dk_3 (dk_at dksL_law_89 16 rfl rfl)
theorem dL_law_2244 : decode cL_law 2244 = .ok (.ireturn, 1) := dk_172 (dk_at dksL_law_89 17 rfl rfl)
theorem dL_law_2245 : decode cL_law 2245 = .ok (.iload 5, 2) := dk_21 5 (dk_at dksL_law_89 18 rfl rfl)
theorem dL_law_2247 : decode cL_law 2247 = .ok (.ifCond .ne 15, 3) := dk_154 0 15 (dk_at dksL_law_89 20 rfl rfl)
theorem dL_law_2250 : decode cL_law 2250 = .ok (.aload_n 3, 1) := dk_45 (dk_at dksL_law_89 23 rfl rfl)
theorem dL_law_2251 : decode cL_law 2251 = .ok (.iconst 0, 1) := dk_3 (dk_at dksL_law_90 0 rfl rfl)
theorem dL_law_2252 : decode cL_law 2252 = .ok (.laload, 1) := dk_47 (dk_at dksL_law_90 1 rfl rfl)
theorem dL_law_2253 : decode cL_law 2253 = .ok (.iload 6, 2) := dk_21 6 (dk_at dksL_law_90 2 rfl rfl)
theorem dL_law_2255 : decode cL_law 2255 = .ok (.i2l, 1) := dk_133 (dk_at dksL_law_90 4 rfl rfl)
theorem dL_law_2256 : decode cL_law 2256 = .ok (.lcmp, 1) := dk_148 (dk_at dksL_law_90 5 rfl rfl)
theorem dL_law_2257 : decode cL_law 2257 = .ok (.ifCond .eq 5, 3) := dk_153 0 5 (dk_at dksL_law_90 6 rfl rfl)
theorem dL_law_2260 : decode cL_law 2260 = .ok (.iconst 0, 1) := dk_3 (dk_at dksL_law_90 9 rfl rfl)
theorem dL_law_2261 : decode cL_law 2261 = .ok (.ireturn, 1) := dk_172 (dk_at dksL_law_90 10 rfl rfl)
theorem dL_law_2262 : decode cL_law 2262 = .ok (.goto 151, 3) := dk_167 0 151 (dk_at dksL_law_90 11 rfl rfl)
theorem dL_law_2265 : decode cL_law 2265 = .ok (.aload_n 1, 1) := dk_43 (dk_at dksL_law_90 14 rfl rfl)
theorem dL_law_2266 : decode cL_law 2266 = .ok (.aload_n 0, 1) := dk_42 (dk_at dksL_law_90 15 rfl rfl)
theorem dL_law_2267 : decode cL_law 2267 = .ok (.iload 4, 2) := dk_21 4 (dk_at dksL_law_90 16 rfl rfl)
theorem dL_law_2269 : decode cL_law 2269 = .ok (.iconst 1, 1) := dk_4 (dk_at dksL_law_90 18 rfl rfl)
theorem dL_law_2270 : decode cL_law 2270 = .ok (.iadd, 1) := dk_96 (dk_at dksL_law_90 19 rfl rfl)
theorem dL_law_2271 : decode cL_law 2271 = .ok (.iaload, 1) := dk_46 (dk_at dksL_law_90 20 rfl rfl)
theorem dL_law_2272 : decode cL_law 2272 = .ok (.aload_n 3, 1) := dk_45 (dk_at dksL_law_90 21 rfl rfl)
theorem dL_law_2273 : decode cL_law 2273 = .ok (.invokestatic 243, 3) := dk_184 0 243 (dk_at dksL_law_91 0 rfl rfl)
theorem dL_law_2276 : decode cL_law 2276 = .ok (.istore 5, 2) := dk_54 5 (dk_at dksL_law_91 3 rfl rfl)
theorem dL_law_2278 : decode cL_law 2278 = .ok (.aload_n 2, 1) := dk_44 (dk_at dksL_law_91 5 rfl rfl)
theorem dL_law_2279 : decode cL_law 2279 = .ok (.aload_n 0, 1) := dk_42 (dk_at dksL_law_91 6 rfl rfl)
theorem dL_law_2280 : decode cL_law 2280 = .ok (.iload 4, 2) := dk_21 4 (dk_at dksL_law_91 7 rfl rfl)
theorem dL_law_2282 : decode cL_law 2282 = .ok (.iconst 1, 1) := dk_4 (dk_at dksL_law_91 9 rfl rfl)
theorem dL_law_2283 : decode cL_law 2283 = .ok (.iadd, 1) := dk_96 (dk_at dksL_law_91 10 rfl rfl)
theorem dL_law_2284 : decode cL_law 2284 = .ok (.iaload, 1) := dk_46 (dk_at dksL_law_91 11 rfl rfl)
theorem dL_law_2285 : decode cL_law 2285 = .ok (.invokevirtual 245, 3) := dk_182 0 245 (dk_at dksL_law_91 12 rfl rfl)
theorem dL_law_2288 : decode cL_law 2288 = .ok (.istore 6, 2) := dk_54 6 (dk_at dksL_law_91 15 rfl rfl)
theorem dL_law_2290 : decode cL_law 2290 = .ok (.aload_n 2, 1) := dk_44 (dk_at dksL_law_91 17 rfl rfl)
theorem dL_law_2291 : decode cL_law 2291 = .ok (.invokevirtual 125, 3) := dk_182 0 125 (dk_at dksL_law_91 18 rfl rfl)
theorem dL_law_2294 : decode cL_law 2294 = .ok (.iload 5, 2) := dk_21 5 (dk_at dksL_law_91 21 rfl rfl)
theorem dL_law_2296 : decode cL_law 2296 = .ok (.if_icmp .eq 5, 3) := dk_159 0 5 (dk_at dksL_law_92 0 rfl rfl)
theorem dL_law_2299 : decode cL_law 2299 = .ok (.iconst 0, 1) := dk_3 (dk_at dksL_law_92 3 rfl rfl)
theorem dL_law_2300 : decode cL_law 2300 = .ok (.ireturn, 1) := dk_172 (dk_at dksL_law_92 4 rfl rfl)
theorem dL_law_2301 : decode cL_law 2301 = .ok (.iload 5, 2) := dk_21 5 (dk_at dksL_law_92 5 rfl rfl)
theorem dL_law_2303 : decode cL_law 2303 = .ok (.ifCond .ne 15, 3) := dk_154 0 15 (dk_at dksL_law_92 7 rfl rfl)
theorem dL_law_2306 : decode cL_law 2306 = .ok (.aload_n 3, 1) := dk_45 (dk_at dksL_law_92 10 rfl rfl)
theorem dL_law_2307 : decode cL_law 2307 = .ok (.iconst 0, 1) := dk_3 (dk_at dksL_law_92 11 rfl rfl)
theorem dL_law_2308 : decode cL_law 2308 = .ok (.laload, 1) := dk_47 (dk_at dksL_law_92 12 rfl rfl)
theorem dL_law_2309 : decode cL_law 2309 = .ok (.iload 6, 2) := dk_21 6 (dk_at dksL_law_92 13 rfl rfl)
theorem dL_law_2311 : decode cL_law 2311 = .ok (.i2l, 1) := dk_133 (dk_at dksL_law_92 15 rfl rfl)
theorem dL_law_2312 : decode cL_law 2312 = .ok (.lcmp, 1) := dk_148 (dk_at dksL_law_92 16 rfl rfl)
theorem dL_law_2313 : decode cL_law 2313 = .ok (.ifCond .eq 5, 3) := dk_153 0 5 (dk_at dksL_law_92 17 rfl rfl)
theorem dL_law_2316 : decode cL_law 2316 = .ok (.iconst 0, 1) := dk_3 (dk_at dksL_law_92 20 rfl rfl)
theorem dL_law_2317 : decode cL_law 2317 = .ok (.ireturn, 1) := dk_172 (dk_at dksL_law_92 21 rfl rfl)
theorem dL_law_2318 : decode cL_law 2318 = .ok (.goto 95, 3) := dk_167 0 95 (dk_at dksL_law_93 0 rfl rfl)
theorem dL_law_2321 : decode cL_law 2321 = .ok (.aload_n 1, 1) := dk_43 (dk_at dksL_law_93 3 rfl rfl)
theorem dL_law_2322 : decode cL_law 2322 = .ok (.aload_n 0, 1) := dk_42 (dk_at dksL_law_93 4 rfl rfl)
theorem dL_law_2323 : decode cL_law 2323 = .ok (.iload 4, 2) := dk_21 4 (dk_at dksL_law_93 5 rfl rfl)
theorem dL_law_2325 : decode cL_law 2325 = .ok (.iconst 1, 1) := dk_4 (dk_at dksL_law_93 7 rfl rfl)
theorem dL_law_2326 : decode cL_law 2326 = .ok (.iadd, 1) := dk_96 (dk_at dksL_law_93 8 rfl rfl)
theorem dL_law_2327 : decode cL_law 2327 = .ok (.iaload, 1) := dk_46 (dk_at dksL_law_93 9 rfl rfl)
theorem dL_law_2328 : decode cL_law 2328 = .ok (.aload_n 0, 1) := dk_42 (dk_at dksL_law_93 10 rfl rfl)
theorem dL_law_2329 : decode cL_law 2329 = .ok (.iload 4, 2) := dk_21 4 (dk_at dksL_law_93 11 rfl rfl)
theorem dL_law_2331 : decode cL_law 2331 = .ok (.iconst 2, 1) := dk_5 (dk_at dksL_law_93 13 rfl rfl)
theorem dL_law_2332 : decode cL_law 2332 = .ok (.iadd, 1) := dk_96 (dk_at dksL_law_93 14 rfl rfl)
theorem dL_law_2333 : decode cL_law 2333 = .ok (.iaload, 1) := dk_46 (dk_at dksL_law_93 15 rfl rfl)
theorem dL_law_2334 : decode cL_law 2334 = .ok (.aload_n 3, 1) := dk_45 (dk_at dksL_law_93 16 rfl rfl)
theorem dL_law_2335 : decode cL_law 2335 = .ok (.invokestatic 246, 3) := dk_184 0 246 (dk_at dksL_law_93 17 rfl rfl)
theorem dL_law_2338 : decode cL_law 2338 = .ok (.istore 5, 2) := dk_54 5 (dk_at dksL_law_93 20 rfl rfl)
theorem dL_law_2340 : decode cL_law 2340 = .ok (.aload_n 2, 1) := dk_44 (dk_at dksL_law_93 22 rfl rfl)
theorem dL_law_2341 : decode cL_law 2341 = .ok (.aload_n 0, 1) := dk_42 (dk_at dksL_law_93 23 rfl rfl)
theorem dL_law_2342 : decode cL_law 2342 = .ok (.iload 4, 2) := dk_21 4 (dk_at dksL_law_94 0 rfl rfl)
theorem dL_law_2344 : decode cL_law 2344 = .ok (.iconst 1, 1) := dk_4 (dk_at dksL_law_94 2 rfl rfl)
theorem dL_law_2345 : decode cL_law 2345 = .ok (.iadd, 1) := dk_96 (dk_at dksL_law_94 3 rfl rfl)
theorem dL_law_2346 : decode cL_law 2346 = .ok (.iaload, 1) := dk_46 (dk_at dksL_law_94 4 rfl rfl)
theorem dL_law_2347 : decode cL_law 2347 = .ok (.aload_n 0, 1) := dk_42 (dk_at dksL_law_94 5 rfl rfl)
theorem dL_law_2348 : decode cL_law 2348 = .ok (.iload 4, 2) := dk_21 4 (dk_at dksL_law_94 6 rfl rfl)
theorem dL_law_2350 : decode cL_law 2350 = .ok (.iconst 2, 1) := dk_5 (dk_at dksL_law_94 8 rfl rfl)
theorem dL_law_2351 : decode cL_law 2351 = .ok (.iadd, 1) := dk_96 (dk_at dksL_law_94 9 rfl rfl)
theorem dL_law_2352 : decode cL_law 2352 = .ok (.iaload, 1) := dk_46 (dk_at dksL_law_94 10 rfl rfl)
theorem dL_law_2353 : decode cL_law 2353 = .ok (.invokevirtual 248, 3) := dk_182 0 248 (dk_at dksL_law_94 11 rfl rfl)
theorem dL_law_2356 : decode cL_law 2356 = .ok (.istore 6, 2) := dk_54 6 (dk_at dksL_law_94 14 rfl rfl)
theorem dL_law_2358 : decode cL_law 2358 = .ok (.aload_n 2, 1) := dk_44 (dk_at dksL_law_94 16 rfl rfl)
theorem dL_law_2359 : decode cL_law 2359 = .ok (.invokevirtual 125, 3) := dk_182 0 125 (dk_at dksL_law_94 17 rfl rfl)
theorem dL_law_2362 : decode cL_law 2362 = .ok (.iload 5, 2) := dk_21 5 (dk_at dksL_law_94 20 rfl rfl)
theorem dL_law_2364 : decode cL_law 2364 = .ok (.if_icmp .eq 5, 3) := dk_159 0 5 (dk_at dksL_law_95 0 rfl rfl)
theorem dL_law_2367 : decode cL_law 2367 = .ok (.iconst 0, 1) := dk_3 (dk_at dksL_law_95 3 rfl rfl)
theorem dL_law_2368 : decode cL_law 2368 = .ok (.ireturn, 1) := dk_172 (dk_at dksL_law_95 4 rfl rfl)
theorem dL_law_2369 : decode cL_law 2369 = .ok (.iload 5, 2) := dk_21 5 (dk_at dksL_law_95 5 rfl rfl)
theorem dL_law_2371 : decode cL_law 2371 = .ok (.ifCond .ne 15, 3) := dk_154 0 15 (dk_at dksL_law_95 7 rfl rfl)
theorem dL_law_2374 : decode cL_law 2374 = .ok (.aload_n 3, 1) := dk_45 (dk_at dksL_law_95 10 rfl rfl)
theorem dL_law_2375 : decode cL_law 2375 = .ok (.iconst 0, 1) := dk_3 (dk_at dksL_law_95 11 rfl rfl)
theorem dL_law_2376 : decode cL_law 2376 = .ok (.laload, 1) := dk_47 (dk_at dksL_law_95 12 rfl rfl)
theorem dL_law_2377 : decode cL_law 2377 = .ok (.iload 6, 2) := dk_21 6 (dk_at dksL_law_95 13 rfl rfl)
theorem dL_law_2379 : decode cL_law 2379 = .ok (.i2l, 1) := dk_133 (dk_at dksL_law_95 15 rfl rfl)
theorem dL_law_2380 : decode cL_law 2380 = .ok (.lcmp, 1) := dk_148 (dk_at dksL_law_95 16 rfl rfl)
theorem dL_law_2381 : decode cL_law 2381 = .ok (.ifCond .eq 5, 3) := dk_153 0 5 (dk_at dksL_law_95 17 rfl rfl)
theorem dL_law_2384 : decode cL_law 2384 = .ok (.iconst 0, 1) := dk_3 (dk_at dksL_law_95 20 rfl rfl)
theorem dL_law_2385 : decode cL_law 2385 = .ok (.ireturn, 1) := dk_172 (dk_at dksL_law_95 21 rfl rfl)
theorem dL_law_2386 : decode cL_law 2386 = .ok (.goto 27, 3) := dk_167 0 27 (dk_at dksL_law_96 0 rfl rfl)
theorem dL_law_2389 : decode cL_law 2389 = .ok (.aload_n 1, 1) := dk_43 (dk_at dksL_law_96 3 rfl rfl)
theorem dL_law_2390 : decode cL_law 2390 = .ok (.invokevirtual 249, 3) := dk_182 0 249 (dk_at dksL_law_96 4 rfl rfl)
theorem dL_law_2393 : decode cL_law 2393 = .ok (.aload_n 2, 1) := dk_44 (dk_at dksL_law_96 7 rfl rfl)
theorem dL_law_2394 : decode cL_law 2394 = .ok (.invokevirtual 252, 3) := dk_182 0 252 (dk_at dksL_law_96 8 rfl rfl)
theorem dL_law_2397 : decode cL_law 2397 = .ok (.goto 16, 3) := dk_167 0 16 (dk_at dksL_law_96 11 rfl rfl)
theorem dL_law_2400 : decode cL_law 2400 = .ok (.aload_n 1, 1) := dk_43 (dk_at dksL_law_96 14 rfl rfl)
theorem dL_law_2401 : decode cL_law 2401 = .ok (.invokevirtual 253, 3) := dk_182 0 253 (dk_at dksL_law_96 15 rfl rfl)
theorem dL_law_2404 : decode cL_law 2404 = .ok (.aload_n 2, 1) := dk_44 (dk_at dksL_law_96 18 rfl rfl)
theorem dL_law_2405 : decode cL_law 2405 = .ok (.invokevirtual 257, 3) := dk_182 1 1 (dk_at dksL_law_96 19 rfl rfl)
theorem dL_law_2408 : decode cL_law 2408 = .ok (.if_icmp .eq 5, 3) := dk_159 0 5 (dk_at dksL_law_97 0 rfl rfl)
theorem dL_law_2411 : decode cL_law 2411 = .ok (.iconst 0, 1) := dk_3 (dk_at dksL_law_97 3 rfl rfl)
theorem dL_law_2412 : decode cL_law 2412 = .ok (.ireturn, 1) := dk_172 (dk_at dksL_law_97 4 rfl rfl)
theorem dL_law_2413 : decode cL_law 2413 = .ok (.iinc 4 6, 3) := dk_132 4 6 (dk_at dksL_law_97 5 rfl rfl)
theorem dL_law_2416 : decode cL_law 2416 = .ok (.goto (-2393), 3) := dk_167 246 167 (dk_at dksL_law_97 8 rfl rfl)
theorem dL_law_2419 : decode cL_law 2419 = .ok (.iconst 1, 1) := dk_4 (dk_at dksL_law_97 11 rfl rfl)
theorem dL_law_2420 : decode cL_law 2420 = .ok (.ireturn, 1) := dk_172 (dk_at dksL_law_97 12 rfl rfl)
abbrev mL_law : xM := (x, cL_law, 7, some .boolean, [])
def sc (L : xL) (i j : Int32) : Int32 := L.2.2.2.2 ((i + j).toNatClampNeg)
def bL (L : xL) (r : Option Nat) (i : Int32) : List (Nat × Value) := [(0, .ref (ls_ L)), (1, va_rf r), (2, .ref (lm L)), (3, .ref (lo_ L)), (4, .int i)]
theorem lc_0 {L : xL} {S : MS} {v : Nat → Int64} {T : xF} (hL : LOK L) (h : NN L T) : (LWo (lc L S v) T).1 (lm L) = some (true, .inr (3, mfl (lm L) S)) := by
  show ol (lc L S v) T.1 (lm L) = _
  rw [← lc_m (S := S) hL h]
  exact mh_0
theorem lgc (a : Int64) : lg_cmp a a = 0 := by
  unfold lg_cmp
  simp
theorem cL_114 : xCV RX0 114 mX1_feed 5 := ⟨lw_V q322 q323 q324 q121 q325, rfl, ⟨by decide +kernel, by decide +kernel, by decide +kernel⟩, Nat.le_of_ble_eq_true rfl⟩
theorem cL_118 : xCV RX0 118 mX4_feed 5 := ⟨lw_V q1761 q1762 q1763 q127 q1764, rfl, ⟨by decide +kernel, by decide +kernel, by decide +kernel⟩, Nat.le_of_ble_eq_true rfl⟩
theorem lk_0 {G : xG} {Y : xR} {L : xL} {S S1 : MS} {v v1 : Nat → Int64} {T T1 : xF} {r : Option Nat} {i a b kd : Int32} (hg : gR G = fun _ => none) (hM : Y.1 = mL_law) (hD : 300 ≤ Y.2.1.frames ∧ 64 * 300 ≤ Y.2.1.locals) (hL : LOK L) (hn : NN L T) (hi : ∀ j ∈ ([1, 2, 3, 4, 5] : List Int32), vp_in (i + j) L.2.2.2.1) (hr : isO T r 0 = true) (hn1 : NN L T1) (hx : xle T T1) (hle : xle T1 Y.2.2.2.2) (hs : Ct G mX1_feed 1 (LWo (lc L S v) T) (va_rf r :: [.int (sc L i 1), .int (sc L i 2), .int (sc L i 3), .int (sc L i 4), .int (sc L i 5)]) (.inl (some (.int a))) (LWo (lc L S v) T1)) (hm : m_feed (sc L i 1) (sc L i 2) (sc L i 3) (sc L i 4) (sc L i 5) S = some (a, S1)) (kk : Xr G Y 2413 (bL L r i) [] (LWo (lc L S1 v) T1)) : Xr G Y 220 (bL L r i) [] (LWo (lc L S v) T) := by
  obtain ⟨M9, R9, T09, o9, T19⟩ := Y
  dsimp only at hM hD hle
  subst hM
  refine C.aload_n dL_law_220 rfl 1 rfl ?_
  refine X.aload_n dL_law_221 rfl 0 rfl ?_
  refine X.iload dL_law_222 4 rfl ?_
  refine X.iconst (v := 1) dL_law_224 (by decide) ?_
  refine X.iadd dL_law_225 ?_
  refine X.iald (f := L.2.2.2.2) (n := L.2.2.2.1) dL_law_226 (lc_s hL hn) (hi 1 (by decide)) ?_
  refine X.aload_n dL_law_227 rfl 0 rfl ?_
  refine X.iload dL_law_228 4 rfl ?_
  refine X.iconst (v := 2) dL_law_230 (by decide) ?_
  refine X.iadd dL_law_231 ?_
  refine X.iald (f := L.2.2.2.2) (n := L.2.2.2.1) dL_law_232 (lc_s hL hn) (hi 2 (by decide)) ?_
  refine X.aload_n dL_law_233 rfl 0 rfl ?_
  refine X.iload dL_law_234 4 rfl ?_
  refine X.iconst (v := 3) dL_law_236 (by decide) ?_
  refine X.iadd dL_law_237 ?_
  refine X.iald (f := L.2.2.2.2) (n := L.2.2.2.1) dL_law_238 (lc_s hL hn) (hi 3 (by decide)) ?_
  refine X.aload_n dL_law_239 rfl 0 rfl ?_
  refine X.iload dL_law_240 4 rfl ?_
  refine X.iconst (v := 4) dL_law_242 (by decide) ?_
  refine X.iadd dL_law_243 ?_
  refine X.iald (f := L.2.2.2.2) (n := L.2.2.2.1) dL_law_244 (lc_s hL hn) (hi 4 (by decide)) ?_
  refine X.aload_n dL_law_245 rfl 0 rfl ?_
  refine X.iload dL_law_246 4 rfl ?_
  refine X.iconst (v := 5) dL_law_248 (by decide) ?_
  refine X.iadd dL_law_249 ?_
  refine X.iald (f := L.2.2.2.2) (n := L.2.2.2.1) dL_law_250 (lc_s hL hn) (hi 5 (by decide)) ?_
  refine C.Vi (As := [.int (sc L i 1), .int (sc L i 2), .int (sc L i 3), .int (sc L i 4), .int (sc L i 5)]) (rest := []) dL_law_251 hs cL_114 (isO_LW hr) rfl rfl (Nat.le_of_ble_eq_true rfl) rfl rfl ⟨by dsimp only; omega, by dsimp only; omega⟩ hx hle ?_
  refine X.aload_n dL_law_254 rfl 2 rfl ?_
  refine X.aload_n dL_law_255 rfl 0 rfl ?_
  refine X.iload dL_law_256 4 rfl ?_
  refine X.iconst (v := 1) dL_law_258 (by decide) ?_
  refine X.iadd dL_law_259 ?_
  refine X.iald (f := L.2.2.2.2) (n := L.2.2.2.1) dL_law_260 (lc_s hL hn1) (hi 1 (by decide)) ?_
  refine X.aload_n dL_law_261 rfl 0 rfl ?_
  refine X.iload dL_law_262 4 rfl ?_
  refine X.iconst (v := 2) dL_law_264 (by decide) ?_
  refine X.iadd dL_law_265 ?_
  refine X.iald (f := L.2.2.2.2) (n := L.2.2.2.1) dL_law_266 (lc_s hL hn1) (hi 2 (by decide)) ?_
  refine X.aload_n dL_law_267 rfl 0 rfl ?_
  refine X.iload dL_law_268 4 rfl ?_
  refine X.iconst (v := 3) dL_law_270 (by decide) ?_
  refine X.iadd dL_law_271 ?_
  refine X.iald (f := L.2.2.2.2) (n := L.2.2.2.1) dL_law_272 (lc_s hL hn1) (hi 3 (by decide)) ?_
  refine X.aload_n dL_law_273 rfl 0 rfl ?_
  refine X.iload dL_law_274 4 rfl ?_
  refine X.iconst (v := 4) dL_law_276 (by decide) ?_
  refine X.iadd dL_law_277 ?_
  refine X.iald (f := L.2.2.2.2) (n := L.2.2.2.1) dL_law_278 (lc_s hL hn1) (hi 4 (by decide)) ?_
  refine X.aload_n dL_law_279 rfl 0 rfl ?_
  refine X.iload dL_law_280 4 rfl ?_
  refine X.iconst (v := 5) dL_law_282 (by decide) ?_
  refine X.iadd dL_law_283 ?_
  refine X.iald (f := L.2.2.2.2) (n := L.2.2.2.1) dL_law_284 (lc_s hL hn1) (hi 5 (by decide)) ?_
  refine X.callVi (As := [.int (sc L i 1), .int (sc L i 2), .int (sc L i 3), .int (sc L i 4), .int (sc L i 5)]) (rest := [.int a]) dL_law_285 (CtM.law (w_feed hm) (v := v) (T := T1) hL hn1) cL_118 rfl rfl (Nat.le_of_ble_eq_true rfl) (lc_0 hL hn1) rfl rfl ⟨by dsimp only; omega, by dsimp only; omega⟩ xle.rf hle ?_
  refine X.icmp_eq (tgt := 2413) dL_law_288 (by decide) (fun c => ?_) (fun c => absurd rfl c)
  refine X.sub [0, 1, 2, 3, 4] (L' := bL L r i) rfl ?_
  exact kk
theorem cL_119 : xCSW RX0 119 mX0_roll 3 := ⟨_, _, rfl, lw_SW q730 q731 q120 q732, ⟨by decide +kernel, by decide +kernel, by decide +kernel⟩, Nat.le_of_ble_eq_true rfl⟩
theorem cL_124 : xCV RX0 124 mX4_roll 1 := ⟨lw_V q1769 q1770 q1771 q127 q1772, rfl, ⟨by decide +kernel, by decide +kernel, by decide +kernel⟩, Nat.le_of_ble_eq_true rfl⟩
theorem cL_125 : xCV RX0 125 mX4_thrown 0 := ⟨lw_V q1757 q1758 q1759 q127 q1760, rfl, ⟨by decide +kernel, by decide +kernel, by decide +kernel⟩, Nat.le_of_ble_eq_true rfl⟩
theorem lk_1 {G : xG} {Y : xR} {L : xL} {S S1 : MS} {v v1 : Nat → Int64} {T T1 : xF} {r : Option Nat} {i a b kd : Int32} (hg : gR G = fun _ => none) (hM : Y.1 = mL_law) (hD : 300 ≤ Y.2.1.frames ∧ 64 * 300 ≤ Y.2.1.locals) (hL : LOK L) (hn : NN L T) (hi : ∀ j ∈ ([1, 2, 3, 4, 5] : List Int32), vp_in (i + j) L.2.2.2.1) (hr : isO T r 0 = true) (hn1 : NN L T1) (hx : xle T T1) (hle : xle T1 Y.2.2.2.2) (hs : Ct G mX0_roll 73 (LWo (lc L S v) T) [va_rf r, .int (sc L i 1), .ref (lo_ L)] (.inl (some (.int kd))) (LWo (lc L S v1) T1)) (hm : m_roll (sc L i 1) S = some (b, S1)) (hth : m_thrown S1 = some kd) (hag : kd = 0 → v1 0 = b.toInt64) (kk : Xr G Y 2413 (bL L r i) [] (LWo (lc L S1 v1) T1)) : Xr G Y 293 (bL L r i) [] (LWo (lc L S v) T) := by
  obtain ⟨M9, R9, T09, o9, T19⟩ := Y
  dsimp only at hM hD hle
  subst hM
  refine C.aload_n dL_law_293 rfl 1 rfl ?_
  refine X.aload_n dL_law_294 rfl 0 rfl ?_
  refine X.iload dL_law_295 4 rfl ?_
  refine X.iconst (v := 1) dL_law_297 (by decide) ?_
  refine X.iadd dL_law_298 ?_
  refine X.iald (f := L.2.2.2.2) (n := L.2.2.2.1) dL_law_299 (lc_s hL hn) (hi 1 (by decide)) ?_
  refine X.aload_n dL_law_300 rfl 3 rfl ?_
  refine X.callSW (v := some (.int kd)) (As := [va_rf r, .int (sc L i 1), .ref (lo_ L)]) (rest := []) dL_law_301 hs cL_119 rfl rfl (Nat.le_of_ble_eq_true rfl) ⟨by dsimp only; omega, by dsimp only; omega⟩ hx hle ?_
  refine C.ist (L' := [(5, .int kd), (0, .ref (ls_ L)), (1, va_rf r), (2, .ref (lm L)), (3, .ref (lo_ L)), (4, .int i)]) dL_law_304 (Nat.le_of_ble_eq_true rfl) (xcQ (r := some _) (xcQ (xcQ (r := some _) (xcQ (r := some _) (xcI xcN))))) rfl ?_
  refine X.aload_n dL_law_306 rfl 3 rfl ?_
  refine X.aload_n dL_law_307 rfl 1 rfl ?_
  refine X.iload dL_law_308 5 rfl ?_
  refine X.iconst (v := 1) dL_law_310 (by decide) ?_
  refine X.iadd dL_law_311 ?_
  refine X.iald (f := L.2.2.2.2) (n := L.2.2.2.1) dL_law_312 (lc_s hL hn1) (hi 1 (by decide)) ?_
  refine X.callVi (As := [.int (sc L i 1)]) (rest := []) dL_law_313 (CtM.law (w_roll hm) (v := v1) (T := T1) hL hn1) cL_124 rfl rfl (Nat.le_of_ble_eq_true rfl) (lc_0 hL hn1) rfl rfl ⟨by dsimp only; omega, by dsimp only; omega⟩ xle.rf hle ?_
  refine C.ist (L' := [(6, .int b), (5, .int kd), (0, .ref (ls_ L)), (1, va_rf r), (2, .ref (lm L)), (3, .ref (lo_ L)), (4, .int i)]) dL_law_316 (Nat.le_of_ble_eq_true rfl) (xcI (xcQ (r := some _) (xcQ (xcQ (r := some _) (xcQ (r := some _) (xcI xcN)))))) rfl ?_
  refine X.aload_n dL_law_318 rfl 4 rfl ?_
  refine X.callVi (As := []) (rest := []) dL_law_319 (CtM.law (w_thrown hth) (v := v1) (T := T1) hL hn1) cL_125 rfl rfl (Nat.le_of_ble_eq_true rfl) (lc_0 hL hn1) rfl rfl ⟨by dsimp only; omega, by dsimp only; omega⟩ xle.rf hle ?_
  refine X.iload dL_law_322 1 rfl ?_
  refine X.icmp_eq (tgt := 329) dL_law_324 (by decide) (fun c => ?_) (fun c => absurd rfl c)
  refine X.iload dL_law_329 1 rfl ?_
  refine X.if_ne (tgt := 346) dL_law_331 (by decide) (fun c => ?_) (fun c => ?_)
  · refine X.goto (tgt := 2413) dL_law_346 (by decide) ?_
    refine X.sub [2, 3, 4, 5, 6] (L' := bL L r i) rfl ?_
    exact kk
  refine X.aload_n dL_law_334 rfl 5 rfl ?_
  refine X.iconst (v := 0) dL_law_335 (by decide) ?_
  refine X.lald dL_law_336 (lc_o hn1) (fun q => by rcases q with q | q <;> revert q <;> decide) ?_
  refine X.iload dL_law_337 0 rfl ?_
  refine X.i2l dL_law_339 rfl ?_
  refine X.lcmp dL_law_340 ?_
  refine X.if_eq (tgt := 346) dL_law_341 (by decide) (fun _ => ?_) (fun c3 => absurd (by show lg_cmp (v1 0) _ = 0; rw [hag c]; exact lgc _) c3)
  refine X.goto (tgt := 2413) dL_law_346 (by decide) ?_
  refine X.sub [2, 3, 4, 5, 6] (L' := bL L r i) rfl ?_
  exact kk
theorem cL_129 : xCV RX0 129 mX1_fault 0 := ⟨lw_V q326 q327 q328 q121 q329, rfl, ⟨by decide +kernel, by decide +kernel, by decide +kernel⟩, Nat.le_of_ble_eq_true rfl⟩
theorem cL_132 : xCV RX0 132 mX4_fault 0 := ⟨lw_V q1900 q1901 q1902 q127 q1903, rfl, ⟨by decide +kernel, by decide +kernel, by decide +kernel⟩, Nat.le_of_ble_eq_true rfl⟩
theorem lk_2 {G : xG} {Y : xR} {L : xL} {S S1 : MS} {v v1 : Nat → Int64} {T T1 : xF} {r : Option Nat} {i a b kd : Int32} (hg : gR G = fun _ => none) (hM : Y.1 = mL_law) (hD : 300 ≤ Y.2.1.frames ∧ 64 * 300 ≤ Y.2.1.locals) (hL : LOK L) (hn : NN L T) (hi : ∀ j ∈ ([1, 2, 3, 4, 5] : List Int32), vp_in (i + j) L.2.2.2.1) (hr : isO T r 0 = true) (hn1 : NN L T1) (hx : xle T T1) (hle : xle T1 Y.2.2.2.2) (hs : Ct G mX1_fault 1 (LWo (lc L S v) T) (va_rf r :: []) (.inl (some (.int a))) (LWo (lc L S v) T1)) (hm : m_fault S = some (a, S1)) (kk : Xr G Y 2413 (bL L r i) [] (LWo (lc L S1 v) T1)) : Xr G Y 349 (bL L r i) [] (LWo (lc L S v) T) := by
  obtain ⟨M9, R9, T09, o9, T19⟩ := Y
  dsimp only at hM hD hle
  subst hM
  refine C.aload_n dL_law_349 rfl 1 rfl ?_
  refine C.Vi (As := []) (rest := []) dL_law_350 hs cL_129 (isO_LW hr) rfl rfl (Nat.le_of_ble_eq_true rfl) rfl rfl ⟨by dsimp only; omega, by dsimp only; omega⟩ hx hle ?_
  refine X.aload_n dL_law_353 rfl 2 rfl ?_
  refine X.callVi (As := []) (rest := [.int a]) dL_law_354 (CtM.law (w_fault hm) (v := v) (T := T1) hL hn1) cL_132 rfl rfl (Nat.le_of_ble_eq_true rfl) (lc_0 hL hn1) rfl rfl ⟨by dsimp only; omega, by dsimp only; omega⟩ xle.rf hle ?_
  refine X.icmp_eq (tgt := 2413) dL_law_357 (by decide) (fun c => ?_) (fun c => absurd rfl c)
  refine X.sub [0, 1, 2, 3, 4] (L' := bL L r i) rfl ?_
  exact kk
theorem cL_133 : xCSW RX0 133 mX0_count 3 := ⟨_, _, rfl, lw_SW q1251 q1252 q120 q1253, ⟨by decide +kernel, by decide +kernel, by decide +kernel⟩, Nat.le_of_ble_eq_true rfl⟩
theorem cL_135 : xCV RX0 135 mX4_count 1 := ⟨lw_V q1908 q1909 q1910 q127 q1911, rfl, ⟨by decide +kernel, by decide +kernel, by decide +kernel⟩, Nat.le_of_ble_eq_true rfl⟩
theorem lk_3 {G : xG} {Y : xR} {L : xL} {S S1 : MS} {v v1 : Nat → Int64} {T T1 : xF} {r : Option Nat} {i a b kd : Int32} (hg : gR G = fun _ => none) (hM : Y.1 = mL_law) (hD : 300 ≤ Y.2.1.frames ∧ 64 * 300 ≤ Y.2.1.locals) (hL : LOK L) (hn : NN L T) (hi : ∀ j ∈ ([1, 2, 3, 4, 5] : List Int32), vp_in (i + j) L.2.2.2.1) (hr : isO T r 0 = true) (hn1 : NN L T1) (hx : xle T T1) (hle : xle T1 Y.2.2.2.2) (hs : Ct G mX0_count 9 (LWo (lc L S v) T) [va_rf r, .int (sc L i 1), .ref (lo_ L)] (.inl (some (.int kd))) (LWo (lc L S v1) T1)) (hm : m_count (sc L i 1) S = some (b, S1)) (hth : m_thrown S1 = some kd) (hag : kd = 0 → v1 0 = b.toInt64) (kk : Xr G Y 2413 (bL L r i) [] (LWo (lc L S1 v1) T1)) : Xr G Y 362 (bL L r i) [] (LWo (lc L S v) T) := by
  obtain ⟨M9, R9, T09, o9, T19⟩ := Y
  dsimp only at hM hD hle
  subst hM
  refine C.aload_n dL_law_362 rfl 1 rfl ?_
  refine X.aload_n dL_law_363 rfl 0 rfl ?_
  refine X.iload dL_law_364 4 rfl ?_
  refine X.iconst (v := 1) dL_law_366 (by decide) ?_
  refine X.iadd dL_law_367 ?_
  refine X.iald (f := L.2.2.2.2) (n := L.2.2.2.1) dL_law_368 (lc_s hL hn) (hi 1 (by decide)) ?_
  refine X.aload_n dL_law_369 rfl 3 rfl ?_
  refine X.callSW (v := some (.int kd)) (As := [va_rf r, .int (sc L i 1), .ref (lo_ L)]) (rest := []) dL_law_370 hs cL_133 rfl rfl (Nat.le_of_ble_eq_true rfl) ⟨by dsimp only; omega, by dsimp only; omega⟩ hx hle ?_
  refine C.ist (L' := [(5, .int kd), (0, .ref (ls_ L)), (1, va_rf r), (2, .ref (lm L)), (3, .ref (lo_ L)), (4, .int i)]) dL_law_373 (Nat.le_of_ble_eq_true rfl) (xcQ (r := some _) (xcQ (xcQ (r := some _) (xcQ (r := some _) (xcI xcN))))) rfl ?_
  refine X.aload_n dL_law_375 rfl 3 rfl ?_
  refine X.aload_n dL_law_376 rfl 1 rfl ?_
  refine X.iload dL_law_377 5 rfl ?_
  refine X.iconst (v := 1) dL_law_379 (by decide) ?_
  refine X.iadd dL_law_380 ?_
  refine X.iald (f := L.2.2.2.2) (n := L.2.2.2.1) dL_law_381 (lc_s hL hn1) (hi 1 (by decide)) ?_
  refine X.callVi (As := [.int (sc L i 1)]) (rest := []) dL_law_382 (CtM.law (w_count hm) (v := v1) (T := T1) hL hn1) cL_135 rfl rfl (Nat.le_of_ble_eq_true rfl) (lc_0 hL hn1) rfl rfl ⟨by dsimp only; omega, by dsimp only; omega⟩ xle.rf hle ?_
  refine C.ist (L' := [(6, .int b), (5, .int kd), (0, .ref (ls_ L)), (1, va_rf r), (2, .ref (lm L)), (3, .ref (lo_ L)), (4, .int i)]) dL_law_385 (Nat.le_of_ble_eq_true rfl) (xcI (xcQ (r := some _) (xcQ (xcQ (r := some _) (xcQ (r := some _) (xcI xcN)))))) rfl ?_
  refine X.aload_n dL_law_387 rfl 4 rfl ?_
  refine X.callVi (As := []) (rest := []) dL_law_388 (CtM.law (w_thrown hth) (v := v1) (T := T1) hL hn1) cL_125 rfl rfl (Nat.le_of_ble_eq_true rfl) (lc_0 hL hn1) rfl rfl ⟨by dsimp only; omega, by dsimp only; omega⟩ xle.rf hle ?_
  refine X.iload dL_law_391 1 rfl ?_
  refine X.icmp_eq (tgt := 398) dL_law_393 (by decide) (fun c => ?_) (fun c => absurd rfl c)
  refine X.iload dL_law_398 1 rfl ?_
  refine X.if_ne (tgt := 415) dL_law_400 (by decide) (fun c => ?_) (fun c => ?_)
  · refine X.goto (tgt := 2413) dL_law_415 (by decide) ?_
    refine X.sub [2, 3, 4, 5, 6] (L' := bL L r i) rfl ?_
    exact kk
  refine X.aload_n dL_law_403 rfl 5 rfl ?_
  refine X.iconst (v := 0) dL_law_404 (by decide) ?_
  refine X.lald dL_law_405 (lc_o hn1) (fun q => by rcases q with q | q <;> revert q <;> decide) ?_
  refine X.iload dL_law_406 0 rfl ?_
  refine X.i2l dL_law_408 rfl ?_
  refine X.lcmp dL_law_409 ?_
  refine X.if_eq (tgt := 415) dL_law_410 (by decide) (fun _ => ?_) (fun c3 => absurd (by show lg_cmp (v1 0) _ = 0; rw [hag c]; exact lgc _) c3)
  refine X.goto (tgt := 2413) dL_law_415 (by decide) ?_
  refine X.sub [2, 3, 4, 5, 6] (L' := bL L r i) rfl ?_
  exact kk
theorem cL_136 : xCSW RX0 136 mX0_cell 4 := ⟨_, _, rfl, lw_SW q1286 q1287 q120 q1288, ⟨by decide +kernel, by decide +kernel, by decide +kernel⟩, Nat.le_of_ble_eq_true rfl⟩
theorem cL_139 : xCV RX0 139 mX4_cell 2 := ⟨lw_V q1943 q1944 q1945 q127 q1946, rfl, ⟨by decide +kernel, by decide +kernel, by decide +kernel⟩, Nat.le_of_ble_eq_true rfl⟩
theorem lk_4 {G : xG} {Y : xR} {L : xL} {S S1 : MS} {v v1 : Nat → Int64} {T T1 : xF} {r : Option Nat} {i a b kd : Int32} (hg : gR G = fun _ => none) (hM : Y.1 = mL_law) (hD : 300 ≤ Y.2.1.frames ∧ 64 * 300 ≤ Y.2.1.locals) (hL : LOK L) (hn : NN L T) (hi : ∀ j ∈ ([1, 2, 3, 4, 5] : List Int32), vp_in (i + j) L.2.2.2.1) (hr : isO T r 0 = true) (hn1 : NN L T1) (hx : xle T T1) (hle : xle T1 Y.2.2.2.2) (hs : Ct G mX0_cell 123 (LWo (lc L S v) T) [va_rf r, .int (sc L i 1), .int (sc L i 2), .ref (lo_ L)] (.inl (some (.int kd))) (LWo (lc L S v1) T1)) (hm : m_cell (sc L i 1) (sc L i 2) S = some (b, S1)) (hth : m_thrown S1 = some kd) (hag : kd = 0 → v1 0 = b.toInt64) (kk : Xr G Y 2413 (bL L r i) [] (LWo (lc L S1 v1) T1)) : Xr G Y 418 (bL L r i) [] (LWo (lc L S v) T) := by
  obtain ⟨M9, R9, T09, o9, T19⟩ := Y
  dsimp only at hM hD hle
  subst hM
  refine C.aload_n dL_law_418 rfl 1 rfl ?_
  refine X.aload_n dL_law_419 rfl 0 rfl ?_
  refine X.iload dL_law_420 4 rfl ?_
  refine X.iconst (v := 1) dL_law_422 (by decide) ?_
  refine X.iadd dL_law_423 ?_
  refine X.iald (f := L.2.2.2.2) (n := L.2.2.2.1) dL_law_424 (lc_s hL hn) (hi 1 (by decide)) ?_
  refine X.aload_n dL_law_425 rfl 0 rfl ?_
  refine X.iload dL_law_426 4 rfl ?_
  refine X.iconst (v := 2) dL_law_428 (by decide) ?_
  refine X.iadd dL_law_429 ?_
  refine X.iald (f := L.2.2.2.2) (n := L.2.2.2.1) dL_law_430 (lc_s hL hn) (hi 2 (by decide)) ?_
  refine X.aload_n dL_law_431 rfl 3 rfl ?_
  refine X.callSW (v := some (.int kd)) (As := [va_rf r, .int (sc L i 1), .int (sc L i 2), .ref (lo_ L)]) (rest := []) dL_law_432 hs cL_136 rfl rfl (Nat.le_of_ble_eq_true rfl) ⟨by dsimp only; omega, by dsimp only; omega⟩ hx hle ?_
  refine C.ist (L' := [(5, .int kd), (0, .ref (ls_ L)), (1, va_rf r), (2, .ref (lm L)), (3, .ref (lo_ L)), (4, .int i)]) dL_law_435 (Nat.le_of_ble_eq_true rfl) (xcQ (r := some _) (xcQ (xcQ (r := some _) (xcQ (r := some _) (xcI xcN))))) rfl ?_
  refine X.aload_n dL_law_437 rfl 3 rfl ?_
  refine X.aload_n dL_law_438 rfl 1 rfl ?_
  refine X.iload dL_law_439 5 rfl ?_
  refine X.iconst (v := 1) dL_law_441 (by decide) ?_
  refine X.iadd dL_law_442 ?_
  refine X.iald (f := L.2.2.2.2) (n := L.2.2.2.1) dL_law_443 (lc_s hL hn1) (hi 1 (by decide)) ?_
  refine X.aload_n dL_law_444 rfl 1 rfl ?_
  refine X.iload dL_law_445 5 rfl ?_
  refine X.iconst (v := 2) dL_law_447 (by decide) ?_
  refine X.iadd dL_law_448 ?_
  refine X.iald (f := L.2.2.2.2) (n := L.2.2.2.1) dL_law_449 (lc_s hL hn1) (hi 2 (by decide)) ?_
  refine X.callVi (As := [.int (sc L i 1), .int (sc L i 2)]) (rest := []) dL_law_450 (CtM.law (w_cell hm) (v := v1) (T := T1) hL hn1) cL_139 rfl rfl (Nat.le_of_ble_eq_true rfl) (lc_0 hL hn1) rfl rfl ⟨by dsimp only; omega, by dsimp only; omega⟩ xle.rf hle ?_
  refine C.ist (L' := [(6, .int b), (5, .int kd), (0, .ref (ls_ L)), (1, va_rf r), (2, .ref (lm L)), (3, .ref (lo_ L)), (4, .int i)]) dL_law_453 (Nat.le_of_ble_eq_true rfl) (xcI (xcQ (r := some _) (xcQ (xcQ (r := some _) (xcQ (r := some _) (xcI xcN)))))) rfl ?_
  refine X.aload_n dL_law_455 rfl 4 rfl ?_
  refine X.callVi (As := []) (rest := []) dL_law_456 (CtM.law (w_thrown hth) (v := v1) (T := T1) hL hn1) cL_125 rfl rfl (Nat.le_of_ble_eq_true rfl) (lc_0 hL hn1) rfl rfl ⟨by dsimp only; omega, by dsimp only; omega⟩ xle.rf hle ?_
  refine X.iload dL_law_459 1 rfl ?_
  refine X.icmp_eq (tgt := 466) dL_law_461 (by decide) (fun c => ?_) (fun c => absurd rfl c)
  refine X.iload dL_law_466 1 rfl ?_
  refine X.if_ne (tgt := 483) dL_law_468 (by decide) (fun c => ?_) (fun c => ?_)
  · refine X.goto (tgt := 2413) dL_law_483 (by decide) ?_
    refine X.sub [2, 3, 4, 5, 6] (L' := bL L r i) rfl ?_
    exact kk
  refine X.aload_n dL_law_471 rfl 5 rfl ?_
  refine X.iconst (v := 0) dL_law_472 (by decide) ?_
  refine X.lald dL_law_473 (lc_o hn1) (fun q => by rcases q with q | q <;> revert q <;> decide) ?_
  refine X.iload dL_law_474 0 rfl ?_
  refine X.i2l dL_law_476 rfl ?_
  refine X.lcmp dL_law_477 ?_
  refine X.if_eq (tgt := 483) dL_law_478 (by decide) (fun _ => ?_) (fun c3 => absurd (by show lg_cmp (v1 0) _ = 0; rw [hag c]; exact lgc _) c3)
  refine X.goto (tgt := 2413) dL_law_483 (by decide) ?_
  refine X.sub [2, 3, 4, 5, 6] (L' := bL L r i) rfl ?_
  exact kk
theorem cL_140 : xCSW RX0 140 mX0_party 3 := ⟨_, _, rfl, lw_SW q1302 q1303 q120 q1304, ⟨by decide +kernel, by decide +kernel, by decide +kernel⟩, Nat.le_of_ble_eq_true rfl⟩
theorem cL_142 : xCV RX0 142 mX4_party 1 := ⟨lw_V q1980 q1981 q1982 q127 q1983, rfl, ⟨by decide +kernel, by decide +kernel, by decide +kernel⟩, Nat.le_of_ble_eq_true rfl⟩
theorem lk_5 {G : xG} {Y : xR} {L : xL} {S S1 : MS} {v v1 : Nat → Int64} {T T1 : xF} {r : Option Nat} {i a b kd : Int32} (hg : gR G = fun _ => none) (hM : Y.1 = mL_law) (hD : 300 ≤ Y.2.1.frames ∧ 64 * 300 ≤ Y.2.1.locals) (hL : LOK L) (hn : NN L T) (hi : ∀ j ∈ ([1, 2, 3, 4, 5] : List Int32), vp_in (i + j) L.2.2.2.1) (hr : isO T r 0 = true) (hn1 : NN L T1) (hx : xle T T1) (hle : xle T1 Y.2.2.2.2) (hs : Ct G mX0_party 10 (LWo (lc L S v) T) [va_rf r, .int (sc L i 1), .ref (lo_ L)] (.inl (some (.int kd))) (LWo (lc L S v1) T1)) (hm : m_party (sc L i 1) S = some (b, S1)) (hth : m_thrown S1 = some kd) (hag : kd = 0 → v1 0 = b.toInt64) (kk : Xr G Y 2413 (bL L r i) [] (LWo (lc L S1 v1) T1)) : Xr G Y 486 (bL L r i) [] (LWo (lc L S v) T) := by
  obtain ⟨M9, R9, T09, o9, T19⟩ := Y
  dsimp only at hM hD hle
  subst hM
  refine C.aload_n dL_law_486 rfl 1 rfl ?_
  refine X.aload_n dL_law_487 rfl 0 rfl ?_
  refine X.iload dL_law_488 4 rfl ?_
  refine X.iconst (v := 1) dL_law_490 (by decide) ?_
  refine X.iadd dL_law_491 ?_
  refine X.iald (f := L.2.2.2.2) (n := L.2.2.2.1) dL_law_492 (lc_s hL hn) (hi 1 (by decide)) ?_
  refine X.aload_n dL_law_493 rfl 3 rfl ?_
  refine X.callSW (v := some (.int kd)) (As := [va_rf r, .int (sc L i 1), .ref (lo_ L)]) (rest := []) dL_law_494 hs cL_140 rfl rfl (Nat.le_of_ble_eq_true rfl) ⟨by dsimp only; omega, by dsimp only; omega⟩ hx hle ?_
  refine C.ist (L' := [(5, .int kd), (0, .ref (ls_ L)), (1, va_rf r), (2, .ref (lm L)), (3, .ref (lo_ L)), (4, .int i)]) dL_law_497 (Nat.le_of_ble_eq_true rfl) (xcQ (r := some _) (xcQ (xcQ (r := some _) (xcQ (r := some _) (xcI xcN))))) rfl ?_
  refine X.aload_n dL_law_499 rfl 3 rfl ?_
  refine X.aload_n dL_law_500 rfl 1 rfl ?_
  refine X.iload dL_law_501 5 rfl ?_
  refine X.iconst (v := 1) dL_law_503 (by decide) ?_
  refine X.iadd dL_law_504 ?_
  refine X.iald (f := L.2.2.2.2) (n := L.2.2.2.1) dL_law_505 (lc_s hL hn1) (hi 1 (by decide)) ?_
  refine X.callVi (As := [.int (sc L i 1)]) (rest := []) dL_law_506 (CtM.law (w_party hm) (v := v1) (T := T1) hL hn1) cL_142 rfl rfl (Nat.le_of_ble_eq_true rfl) (lc_0 hL hn1) rfl rfl ⟨by dsimp only; omega, by dsimp only; omega⟩ xle.rf hle ?_
  refine C.ist (L' := [(6, .int b), (5, .int kd), (0, .ref (ls_ L)), (1, va_rf r), (2, .ref (lm L)), (3, .ref (lo_ L)), (4, .int i)]) dL_law_509 (Nat.le_of_ble_eq_true rfl) (xcI (xcQ (r := some _) (xcQ (xcQ (r := some _) (xcQ (r := some _) (xcI xcN)))))) rfl ?_
  refine X.aload_n dL_law_511 rfl 4 rfl ?_
  refine X.callVi (As := []) (rest := []) dL_law_512 (CtM.law (w_thrown hth) (v := v1) (T := T1) hL hn1) cL_125 rfl rfl (Nat.le_of_ble_eq_true rfl) (lc_0 hL hn1) rfl rfl ⟨by dsimp only; omega, by dsimp only; omega⟩ xle.rf hle ?_
  refine X.iload dL_law_515 1 rfl ?_
  refine X.icmp_eq (tgt := 522) dL_law_517 (by decide) (fun c => ?_) (fun c => absurd rfl c)
  refine X.iload dL_law_522 1 rfl ?_
  refine X.if_ne (tgt := 539) dL_law_524 (by decide) (fun c => ?_) (fun c => ?_)
  · refine X.goto (tgt := 2413) dL_law_539 (by decide) ?_
    refine X.sub [2, 3, 4, 5, 6] (L' := bL L r i) rfl ?_
    exact kk
  refine X.aload_n dL_law_527 rfl 5 rfl ?_
  refine X.iconst (v := 0) dL_law_528 (by decide) ?_
  refine X.lald dL_law_529 (lc_o hn1) (fun q => by rcases q with q | q <;> revert q <;> decide) ?_
  refine X.iload dL_law_530 0 rfl ?_
  refine X.i2l dL_law_532 rfl ?_
  refine X.lcmp dL_law_533 ?_
  refine X.if_eq (tgt := 539) dL_law_534 (by decide) (fun _ => ?_) (fun c3 => absurd (by show lg_cmp (v1 0) _ = 0; rw [hag c]; exact lgc _) c3)
  refine X.goto (tgt := 2413) dL_law_539 (by decide) ?_
  refine X.sub [2, 3, 4, 5, 6] (L' := bL L r i) rfl ?_
  exact kk
theorem cL_143 : xCSW RX0 143 mX0_votes 3 := ⟨_, _, rfl, lw_SW q1312 q1313 q120 q1314, ⟨by decide +kernel, by decide +kernel, by decide +kernel⟩, Nat.le_of_ble_eq_true rfl⟩
theorem cL_145 : xCV RX0 145 mX4_votes 1 := ⟨lw_V q1988 q1989 q1990 q127 q1991, rfl, ⟨by decide +kernel, by decide +kernel, by decide +kernel⟩, Nat.le_of_ble_eq_true rfl⟩
theorem lk_6 {G : xG} {Y : xR} {L : xL} {S S1 : MS} {v v1 : Nat → Int64} {T T1 : xF} {r : Option Nat} {i a b kd : Int32} (hg : gR G = fun _ => none) (hM : Y.1 = mL_law) (hD : 300 ≤ Y.2.1.frames ∧ 64 * 300 ≤ Y.2.1.locals) (hL : LOK L) (hn : NN L T) (hi : ∀ j ∈ ([1, 2, 3, 4, 5] : List Int32), vp_in (i + j) L.2.2.2.1) (hr : isO T r 0 = true) (hn1 : NN L T1) (hx : xle T T1) (hle : xle T1 Y.2.2.2.2) (hs : Ct G mX0_votes 11 (LWo (lc L S v) T) [va_rf r, .int (sc L i 1), .ref (lo_ L)] (.inl (some (.int kd))) (LWo (lc L S v1) T1)) (hm : m_votes (sc L i 1) S = some (b, S1)) (hth : m_thrown S1 = some kd) (hag : kd = 0 → v1 0 = b.toInt64) (kk : Xr G Y 2413 (bL L r i) [] (LWo (lc L S1 v1) T1)) : Xr G Y 542 (bL L r i) [] (LWo (lc L S v) T) := by
  obtain ⟨M9, R9, T09, o9, T19⟩ := Y
  dsimp only at hM hD hle
  subst hM
  refine C.aload_n dL_law_542 rfl 1 rfl ?_
  refine X.aload_n dL_law_543 rfl 0 rfl ?_
  refine X.iload dL_law_544 4 rfl ?_
  refine X.iconst (v := 1) dL_law_546 (by decide) ?_
  refine X.iadd dL_law_547 ?_
  refine X.iald (f := L.2.2.2.2) (n := L.2.2.2.1) dL_law_548 (lc_s hL hn) (hi 1 (by decide)) ?_
  refine X.aload_n dL_law_549 rfl 3 rfl ?_
  refine X.callSW (v := some (.int kd)) (As := [va_rf r, .int (sc L i 1), .ref (lo_ L)]) (rest := []) dL_law_550 hs cL_143 rfl rfl (Nat.le_of_ble_eq_true rfl) ⟨by dsimp only; omega, by dsimp only; omega⟩ hx hle ?_
  refine C.ist (L' := [(5, .int kd), (0, .ref (ls_ L)), (1, va_rf r), (2, .ref (lm L)), (3, .ref (lo_ L)), (4, .int i)]) dL_law_553 (Nat.le_of_ble_eq_true rfl) (xcQ (r := some _) (xcQ (xcQ (r := some _) (xcQ (r := some _) (xcI xcN))))) rfl ?_
  refine X.aload_n dL_law_555 rfl 3 rfl ?_
  refine X.aload_n dL_law_556 rfl 1 rfl ?_
  refine X.iload dL_law_557 5 rfl ?_
  refine X.iconst (v := 1) dL_law_559 (by decide) ?_
  refine X.iadd dL_law_560 ?_
  refine X.iald (f := L.2.2.2.2) (n := L.2.2.2.1) dL_law_561 (lc_s hL hn1) (hi 1 (by decide)) ?_
  refine X.callVi (As := [.int (sc L i 1)]) (rest := []) dL_law_562 (CtM.law (w_votes hm) (v := v1) (T := T1) hL hn1) cL_145 rfl rfl (Nat.le_of_ble_eq_true rfl) (lc_0 hL hn1) rfl rfl ⟨by dsimp only; omega, by dsimp only; omega⟩ xle.rf hle ?_
  refine C.ist (L' := [(6, .int b), (5, .int kd), (0, .ref (ls_ L)), (1, va_rf r), (2, .ref (lm L)), (3, .ref (lo_ L)), (4, .int i)]) dL_law_565 (Nat.le_of_ble_eq_true rfl) (xcI (xcQ (r := some _) (xcQ (xcQ (r := some _) (xcQ (r := some _) (xcI xcN)))))) rfl ?_
  refine X.aload_n dL_law_567 rfl 4 rfl ?_
  refine X.callVi (As := []) (rest := []) dL_law_568 (CtM.law (w_thrown hth) (v := v1) (T := T1) hL hn1) cL_125 rfl rfl (Nat.le_of_ble_eq_true rfl) (lc_0 hL hn1) rfl rfl ⟨by dsimp only; omega, by dsimp only; omega⟩ xle.rf hle ?_
  refine X.iload dL_law_571 1 rfl ?_
  refine X.icmp_eq (tgt := 578) dL_law_573 (by decide) (fun c => ?_) (fun c => absurd rfl c)
  refine X.iload dL_law_578 1 rfl ?_
  refine X.if_ne (tgt := 595) dL_law_580 (by decide) (fun c => ?_) (fun c => ?_)
  · refine X.goto (tgt := 2413) dL_law_595 (by decide) ?_
    refine X.sub [2, 3, 4, 5, 6] (L' := bL L r i) rfl ?_
    exact kk
  refine X.aload_n dL_law_583 rfl 5 rfl ?_
  refine X.iconst (v := 0) dL_law_584 (by decide) ?_
  refine X.lald dL_law_585 (lc_o hn1) (fun q => by rcases q with q | q <;> revert q <;> decide) ?_
  refine X.iload dL_law_586 0 rfl ?_
  refine X.i2l dL_law_588 rfl ?_
  refine X.lcmp dL_law_589 ?_
  refine X.if_eq (tgt := 595) dL_law_590 (by decide) (fun _ => ?_) (fun c3 => absurd (by show lg_cmp (v1 0) _ = 0; rw [hag c]; exact lgc _) c3)
  refine X.goto (tgt := 2413) dL_law_595 (by decide) ?_
  refine X.sub [2, 3, 4, 5, 6] (L' := bL L r i) rfl ?_
  exact kk
theorem cL_146 : xCV RX0 146 mX1_days 1 := ⟨lw_V q330 q331 q332 q121 q333, rfl, ⟨by decide +kernel, by decide +kernel, by decide +kernel⟩, Nat.le_of_ble_eq_true rfl⟩
theorem cL_149 : xCV RX0 149 mX4_days 1 := ⟨lw_V q1996 q1997 q1998 q127 q1999, rfl, ⟨by decide +kernel, by decide +kernel, by decide +kernel⟩, Nat.le_of_ble_eq_true rfl⟩
theorem lk_7 {G : xG} {Y : xR} {L : xL} {S S1 : MS} {v v1 : Nat → Int64} {T T1 : xF} {r : Option Nat} {i a b kd : Int32} (hg : gR G = fun _ => none) (hM : Y.1 = mL_law) (hD : 300 ≤ Y.2.1.frames ∧ 64 * 300 ≤ Y.2.1.locals) (hL : LOK L) (hn : NN L T) (hi : ∀ j ∈ ([1, 2, 3, 4, 5] : List Int32), vp_in (i + j) L.2.2.2.1) (hr : isO T r 0 = true) (hn1 : NN L T1) (hx : xle T T1) (hle : xle T1 Y.2.2.2.2) (hs : Ct G mX1_days 126 (LWo (lc L S v) T) (va_rf r :: [.int (sc L i 1)]) (.inl (some (.int a))) (LWo (lc L S v) T1)) (hm : m_days (sc L i 1) S = some (a, S1)) (kk : Xr G Y 2413 (bL L r i) [] (LWo (lc L S1 v) T1)) : Xr G Y 598 (bL L r i) [] (LWo (lc L S v) T) := by
  obtain ⟨M9, R9, T09, o9, T19⟩ := Y
  dsimp only at hM hD hle
  subst hM
  refine C.aload_n dL_law_598 rfl 1 rfl ?_
  refine X.aload_n dL_law_599 rfl 0 rfl ?_
  refine X.iload dL_law_600 4 rfl ?_
  refine X.iconst (v := 1) dL_law_602 (by decide) ?_
  refine X.iadd dL_law_603 ?_
  refine X.iald (f := L.2.2.2.2) (n := L.2.2.2.1) dL_law_604 (lc_s hL hn) (hi 1 (by decide)) ?_
  refine C.Vi (As := [.int (sc L i 1)]) (rest := []) dL_law_605 hs cL_146 (isO_LW hr) rfl rfl (Nat.le_of_ble_eq_true rfl) rfl rfl ⟨by dsimp only; omega, by dsimp only; omega⟩ hx hle ?_
  refine X.aload_n dL_law_608 rfl 2 rfl ?_
  refine X.aload_n dL_law_609 rfl 0 rfl ?_
  refine X.iload dL_law_610 4 rfl ?_
  refine X.iconst (v := 1) dL_law_612 (by decide) ?_
  refine X.iadd dL_law_613 ?_
  refine X.iald (f := L.2.2.2.2) (n := L.2.2.2.1) dL_law_614 (lc_s hL hn1) (hi 1 (by decide)) ?_
  refine X.callVi (As := [.int (sc L i 1)]) (rest := [.int a]) dL_law_615 (CtM.law (w_days hm) (v := v) (T := T1) hL hn1) cL_149 rfl rfl (Nat.le_of_ble_eq_true rfl) (lc_0 hL hn1) rfl rfl ⟨by dsimp only; omega, by dsimp only; omega⟩ xle.rf hle ?_
  refine X.icmp_eq (tgt := 2413) dL_law_618 (by decide) (fun c => ?_) (fun c => absurd rfl c)
  refine X.sub [0, 1, 2, 3, 4] (L' := bL L r i) rfl ?_
  exact kk
theorem cL_150 : xCSW RX0 150 mX0_bread 4 := ⟨_, _, rfl, lw_SW q1323 q1324 q120 q1325, ⟨by decide +kernel, by decide +kernel, by decide +kernel⟩, Nat.le_of_ble_eq_true rfl⟩
theorem cL_152 : xCV RX0 152 mX4_bread 2 := ⟨lw_V q2032 q2033 q2034 q127 q2035, rfl, ⟨by decide +kernel, by decide +kernel, by decide +kernel⟩, Nat.le_of_ble_eq_true rfl⟩
theorem lk_8 {G : xG} {Y : xR} {L : xL} {S S1 : MS} {v v1 : Nat → Int64} {T T1 : xF} {r : Option Nat} {i a b kd : Int32} (hg : gR G = fun _ => none) (hM : Y.1 = mL_law) (hD : 300 ≤ Y.2.1.frames ∧ 64 * 300 ≤ Y.2.1.locals) (hL : LOK L) (hn : NN L T) (hi : ∀ j ∈ ([1, 2, 3, 4, 5] : List Int32), vp_in (i + j) L.2.2.2.1) (hr : isO T r 0 = true) (hn1 : NN L T1) (hx : xle T T1) (hle : xle T1 Y.2.2.2.2) (hs : Ct G mX0_bread 10 (LWo (lc L S v) T) [va_rf r, .int (sc L i 1), .int (sc L i 2), .ref (lo_ L)] (.inl (some (.int kd))) (LWo (lc L S v1) T1)) (hm : m_bread (sc L i 1) (sc L i 2) S = some (b, S1)) (hth : m_thrown S1 = some kd) (hag : kd = 0 → v1 0 = b.toInt64) (kk : Xr G Y 2413 (bL L r i) [] (LWo (lc L S1 v1) T1)) : Xr G Y 623 (bL L r i) [] (LWo (lc L S v) T) := by
  obtain ⟨M9, R9, T09, o9, T19⟩ := Y
  dsimp only at hM hD hle
  subst hM
  refine C.aload_n dL_law_623 rfl 1 rfl ?_
  refine X.aload_n dL_law_624 rfl 0 rfl ?_
  refine X.iload dL_law_625 4 rfl ?_
  refine X.iconst (v := 1) dL_law_627 (by decide) ?_
  refine X.iadd dL_law_628 ?_
  refine X.iald (f := L.2.2.2.2) (n := L.2.2.2.1) dL_law_629 (lc_s hL hn) (hi 1 (by decide)) ?_
  refine X.aload_n dL_law_630 rfl 0 rfl ?_
  refine X.iload dL_law_631 4 rfl ?_
  refine X.iconst (v := 2) dL_law_633 (by decide) ?_
  refine X.iadd dL_law_634 ?_
  refine X.iald (f := L.2.2.2.2) (n := L.2.2.2.1) dL_law_635 (lc_s hL hn) (hi 2 (by decide)) ?_
  refine X.aload_n dL_law_636 rfl 3 rfl ?_
  refine X.callSW (v := some (.int kd)) (As := [va_rf r, .int (sc L i 1), .int (sc L i 2), .ref (lo_ L)]) (rest := []) dL_law_637 hs cL_150 rfl rfl (Nat.le_of_ble_eq_true rfl) ⟨by dsimp only; omega, by dsimp only; omega⟩ hx hle ?_
  refine C.ist (L' := [(5, .int kd), (0, .ref (ls_ L)), (1, va_rf r), (2, .ref (lm L)), (3, .ref (lo_ L)), (4, .int i)]) dL_law_640 (Nat.le_of_ble_eq_true rfl) (xcQ (r := some _) (xcQ (xcQ (r := some _) (xcQ (r := some _) (xcI xcN))))) rfl ?_
  refine X.aload_n dL_law_642 rfl 3 rfl ?_
  refine X.aload_n dL_law_643 rfl 1 rfl ?_
  refine X.iload dL_law_644 5 rfl ?_
  refine X.iconst (v := 1) dL_law_646 (by decide) ?_
  refine X.iadd dL_law_647 ?_
  refine X.iald (f := L.2.2.2.2) (n := L.2.2.2.1) dL_law_648 (lc_s hL hn1) (hi 1 (by decide)) ?_
  refine X.aload_n dL_law_649 rfl 1 rfl ?_
  refine X.iload dL_law_650 5 rfl ?_
  refine X.iconst (v := 2) dL_law_652 (by decide) ?_
  refine X.iadd dL_law_653 ?_
  refine X.iald (f := L.2.2.2.2) (n := L.2.2.2.1) dL_law_654 (lc_s hL hn1) (hi 2 (by decide)) ?_
  refine X.callVi (As := [.int (sc L i 1), .int (sc L i 2)]) (rest := []) dL_law_655 (CtM.law (w_bread hm) (v := v1) (T := T1) hL hn1) cL_152 rfl rfl (Nat.le_of_ble_eq_true rfl) (lc_0 hL hn1) rfl rfl ⟨by dsimp only; omega, by dsimp only; omega⟩ xle.rf hle ?_
  refine C.ist (L' := [(6, .int b), (5, .int kd), (0, .ref (ls_ L)), (1, va_rf r), (2, .ref (lm L)), (3, .ref (lo_ L)), (4, .int i)]) dL_law_658 (Nat.le_of_ble_eq_true rfl) (xcI (xcQ (r := some _) (xcQ (xcQ (r := some _) (xcQ (r := some _) (xcI xcN)))))) rfl ?_
  refine X.aload_n dL_law_660 rfl 4 rfl ?_
  refine X.callVi (As := []) (rest := []) dL_law_661 (CtM.law (w_thrown hth) (v := v1) (T := T1) hL hn1) cL_125 rfl rfl (Nat.le_of_ble_eq_true rfl) (lc_0 hL hn1) rfl rfl ⟨by dsimp only; omega, by dsimp only; omega⟩ xle.rf hle ?_
  refine X.iload dL_law_664 1 rfl ?_
  refine X.icmp_eq (tgt := 671) dL_law_666 (by decide) (fun c => ?_) (fun c => absurd rfl c)
  refine X.iload dL_law_671 1 rfl ?_
  refine X.if_ne (tgt := 688) dL_law_673 (by decide) (fun c => ?_) (fun c => ?_)
  · refine X.goto (tgt := 2413) dL_law_688 (by decide) ?_
    refine X.sub [2, 3, 4, 5, 6] (L' := bL L r i) rfl ?_
    exact kk
  refine X.aload_n dL_law_676 rfl 5 rfl ?_
  refine X.iconst (v := 0) dL_law_677 (by decide) ?_
  refine X.lald dL_law_678 (lc_o hn1) (fun q => by rcases q with q | q <;> revert q <;> decide) ?_
  refine X.iload dL_law_679 0 rfl ?_
  refine X.i2l dL_law_681 rfl ?_
  refine X.lcmp dL_law_682 ?_
  refine X.if_eq (tgt := 688) dL_law_683 (by decide) (fun _ => ?_) (fun c3 => absurd (by show lg_cmp (v1 0) _ = 0; rw [hag c]; exact lgc _) c3)
  refine X.goto (tgt := 2413) dL_law_688 (by decide) ?_
  refine X.sub [2, 3, 4, 5, 6] (L' := bL L r i) rfl ?_
  exact kk
theorem cL_153 : xCSW RX0 153 mX0_damp 4 := ⟨_, _, rfl, lw_SW q1334 q1335 q120 q1336, ⟨by decide +kernel, by decide +kernel, by decide +kernel⟩, Nat.le_of_ble_eq_true rfl⟩
theorem cL_155 : xCV RX0 155 mX4_damp 2 := ⟨lw_V q2036 q2037 q2038 q127 q2039, rfl, ⟨by decide +kernel, by decide +kernel, by decide +kernel⟩, Nat.le_of_ble_eq_true rfl⟩
theorem lk_9 {G : xG} {Y : xR} {L : xL} {S S1 : MS} {v v1 : Nat → Int64} {T T1 : xF} {r : Option Nat} {i a b kd : Int32} (hg : gR G = fun _ => none) (hM : Y.1 = mL_law) (hD : 300 ≤ Y.2.1.frames ∧ 64 * 300 ≤ Y.2.1.locals) (hL : LOK L) (hn : NN L T) (hi : ∀ j ∈ ([1, 2, 3, 4, 5] : List Int32), vp_in (i + j) L.2.2.2.1) (hr : isO T r 0 = true) (hn1 : NN L T1) (hx : xle T T1) (hle : xle T1 Y.2.2.2.2) (hs : Ct G mX0_damp 10 (LWo (lc L S v) T) [va_rf r, .int (sc L i 1), .int (sc L i 2), .ref (lo_ L)] (.inl (some (.int kd))) (LWo (lc L S v1) T1)) (hm : m_damp (sc L i 1) (sc L i 2) S = some (b, S1)) (hth : m_thrown S1 = some kd) (hag : kd = 0 → v1 0 = b.toInt64) (kk : Xr G Y 2413 (bL L r i) [] (LWo (lc L S1 v1) T1)) : Xr G Y 691 (bL L r i) [] (LWo (lc L S v) T) := by
  obtain ⟨M9, R9, T09, o9, T19⟩ := Y
  dsimp only at hM hD hle
  subst hM
  refine C.aload_n dL_law_691 rfl 1 rfl ?_
  refine X.aload_n dL_law_692 rfl 0 rfl ?_
  refine X.iload dL_law_693 4 rfl ?_
  refine X.iconst (v := 1) dL_law_695 (by decide) ?_
  refine X.iadd dL_law_696 ?_
  refine X.iald (f := L.2.2.2.2) (n := L.2.2.2.1) dL_law_697 (lc_s hL hn) (hi 1 (by decide)) ?_
  refine X.aload_n dL_law_698 rfl 0 rfl ?_
  refine X.iload dL_law_699 4 rfl ?_
  refine X.iconst (v := 2) dL_law_701 (by decide) ?_
  refine X.iadd dL_law_702 ?_
  refine X.iald (f := L.2.2.2.2) (n := L.2.2.2.1) dL_law_703 (lc_s hL hn) (hi 2 (by decide)) ?_
  refine X.aload_n dL_law_704 rfl 3 rfl ?_
  refine X.callSW (v := some (.int kd)) (As := [va_rf r, .int (sc L i 1), .int (sc L i 2), .ref (lo_ L)]) (rest := []) dL_law_705 hs cL_153 rfl rfl (Nat.le_of_ble_eq_true rfl) ⟨by dsimp only; omega, by dsimp only; omega⟩ hx hle ?_
  refine C.ist (L' := [(5, .int kd), (0, .ref (ls_ L)), (1, va_rf r), (2, .ref (lm L)), (3, .ref (lo_ L)), (4, .int i)]) dL_law_708 (Nat.le_of_ble_eq_true rfl) (xcQ (r := some _) (xcQ (xcQ (r := some _) (xcQ (r := some _) (xcI xcN))))) rfl ?_
  refine X.aload_n dL_law_710 rfl 3 rfl ?_
  refine X.aload_n dL_law_711 rfl 1 rfl ?_
  refine X.iload dL_law_712 5 rfl ?_
  refine X.iconst (v := 1) dL_law_714 (by decide) ?_
  refine X.iadd dL_law_715 ?_
  refine X.iald (f := L.2.2.2.2) (n := L.2.2.2.1) dL_law_716 (lc_s hL hn1) (hi 1 (by decide)) ?_
  refine X.aload_n dL_law_717 rfl 1 rfl ?_
  refine X.iload dL_law_718 5 rfl ?_
  refine X.iconst (v := 2) dL_law_720 (by decide) ?_
  refine X.iadd dL_law_721 ?_
  refine X.iald (f := L.2.2.2.2) (n := L.2.2.2.1) dL_law_722 (lc_s hL hn1) (hi 2 (by decide)) ?_
  refine X.callVi (As := [.int (sc L i 1), .int (sc L i 2)]) (rest := []) dL_law_723 (CtM.law (w_damp hm) (v := v1) (T := T1) hL hn1) cL_155 rfl rfl (Nat.le_of_ble_eq_true rfl) (lc_0 hL hn1) rfl rfl ⟨by dsimp only; omega, by dsimp only; omega⟩ xle.rf hle ?_
  refine C.ist (L' := [(6, .int b), (5, .int kd), (0, .ref (ls_ L)), (1, va_rf r), (2, .ref (lm L)), (3, .ref (lo_ L)), (4, .int i)]) dL_law_726 (Nat.le_of_ble_eq_true rfl) (xcI (xcQ (r := some _) (xcQ (xcQ (r := some _) (xcQ (r := some _) (xcI xcN)))))) rfl ?_
  refine X.aload_n dL_law_728 rfl 4 rfl ?_
  refine X.callVi (As := []) (rest := []) dL_law_729 (CtM.law (w_thrown hth) (v := v1) (T := T1) hL hn1) cL_125 rfl rfl (Nat.le_of_ble_eq_true rfl) (lc_0 hL hn1) rfl rfl ⟨by dsimp only; omega, by dsimp only; omega⟩ xle.rf hle ?_
  refine X.iload dL_law_732 1 rfl ?_
  refine X.icmp_eq (tgt := 739) dL_law_734 (by decide) (fun c => ?_) (fun c => absurd rfl c)
  refine X.iload dL_law_739 1 rfl ?_
  refine X.if_ne (tgt := 756) dL_law_741 (by decide) (fun c => ?_) (fun c => ?_)
  · refine X.goto (tgt := 2413) dL_law_756 (by decide) ?_
    refine X.sub [2, 3, 4, 5, 6] (L' := bL L r i) rfl ?_
    exact kk
  refine X.aload_n dL_law_744 rfl 5 rfl ?_
  refine X.iconst (v := 0) dL_law_745 (by decide) ?_
  refine X.lald dL_law_746 (lc_o hn1) (fun q => by rcases q with q | q <;> revert q <;> decide) ?_
  refine X.iload dL_law_747 0 rfl ?_
  refine X.i2l dL_law_749 rfl ?_
  refine X.lcmp dL_law_750 ?_
  refine X.if_eq (tgt := 756) dL_law_751 (by decide) (fun _ => ?_) (fun c3 => absurd (by show lg_cmp (v1 0) _ = 0; rw [hag c]; exact lgc _) c3)
  refine X.goto (tgt := 2413) dL_law_756 (by decide) ?_
  refine X.sub [2, 3, 4, 5, 6] (L' := bL L r i) rfl ?_
  exact kk
theorem cL_156 : xCSW RX0 156 mX0_sow 4 := ⟨_, _, rfl, lw_SW q1341 q1342 q120 q1343, ⟨by decide +kernel, by decide +kernel, by decide +kernel⟩, Nat.le_of_ble_eq_true rfl⟩
theorem cL_158 : xCV RX0 158 mX4_sow 2 := ⟨lw_V q2040 q2041 q2042 q127 q2043, rfl, ⟨by decide +kernel, by decide +kernel, by decide +kernel⟩, Nat.le_of_ble_eq_true rfl⟩
theorem lk_10 {G : xG} {Y : xR} {L : xL} {S S1 : MS} {v v1 : Nat → Int64} {T T1 : xF} {r : Option Nat} {i a b kd : Int32} (hg : gR G = fun _ => none) (hM : Y.1 = mL_law) (hD : 300 ≤ Y.2.1.frames ∧ 64 * 300 ≤ Y.2.1.locals) (hL : LOK L) (hn : NN L T) (hi : ∀ j ∈ ([1, 2, 3, 4, 5] : List Int32), vp_in (i + j) L.2.2.2.1) (hr : isO T r 0 = true) (hn1 : NN L T1) (hx : xle T T1) (hle : xle T1 Y.2.2.2.2) (hs : Ct G mX0_sow 10 (LWo (lc L S v) T) [va_rf r, .int (sc L i 1), .int (sc L i 2), .ref (lo_ L)] (.inl (some (.int kd))) (LWo (lc L S v1) T1)) (hm : m_sow (sc L i 1) (sc L i 2) S = some (b, S1)) (hth : m_thrown S1 = some kd) (hag : kd = 0 → v1 0 = (if b = 0 then 0 else 1)) (kk : Xr G Y 2413 (bL L r i) [] (LWo (lc L S1 v1) T1)) : Xr G Y 759 (bL L r i) [] (LWo (lc L S v) T) := by
  obtain ⟨M9, R9, T09, o9, T19⟩ := Y
  dsimp only at hM hD hle
  subst hM
  refine C.aload_n dL_law_759 rfl 1 rfl ?_
  refine X.aload_n dL_law_760 rfl 0 rfl ?_
  refine X.iload dL_law_761 4 rfl ?_
  refine X.iconst (v := 1) dL_law_763 (by decide) ?_
  refine X.iadd dL_law_764 ?_
  refine X.iald (f := L.2.2.2.2) (n := L.2.2.2.1) dL_law_765 (lc_s hL hn) (hi 1 (by decide)) ?_
  refine X.aload_n dL_law_766 rfl 0 rfl ?_
  refine X.iload dL_law_767 4 rfl ?_
  refine X.iconst (v := 2) dL_law_769 (by decide) ?_
  refine X.iadd dL_law_770 ?_
  refine X.iald (f := L.2.2.2.2) (n := L.2.2.2.1) dL_law_771 (lc_s hL hn) (hi 2 (by decide)) ?_
  refine X.aload_n dL_law_772 rfl 3 rfl ?_
  refine X.callSW (v := some (.int kd)) (As := [va_rf r, .int (sc L i 1), .int (sc L i 2), .ref (lo_ L)]) (rest := []) dL_law_773 hs cL_156 rfl rfl (Nat.le_of_ble_eq_true rfl) ⟨by dsimp only; omega, by dsimp only; omega⟩ hx hle ?_
  refine C.ist (L' := [(5, .int kd), (0, .ref (ls_ L)), (1, va_rf r), (2, .ref (lm L)), (3, .ref (lo_ L)), (4, .int i)]) dL_law_776 (Nat.le_of_ble_eq_true rfl) (xcQ (r := some _) (xcQ (xcQ (r := some _) (xcQ (r := some _) (xcI xcN))))) rfl ?_
  refine X.aload_n dL_law_778 rfl 3 rfl ?_
  refine X.aload_n dL_law_779 rfl 1 rfl ?_
  refine X.iload dL_law_780 5 rfl ?_
  refine X.iconst (v := 1) dL_law_782 (by decide) ?_
  refine X.iadd dL_law_783 ?_
  refine X.iald (f := L.2.2.2.2) (n := L.2.2.2.1) dL_law_784 (lc_s hL hn1) (hi 1 (by decide)) ?_
  refine X.aload_n dL_law_785 rfl 1 rfl ?_
  refine X.iload dL_law_786 5 rfl ?_
  refine X.iconst (v := 2) dL_law_788 (by decide) ?_
  refine X.iadd dL_law_789 ?_
  refine X.iald (f := L.2.2.2.2) (n := L.2.2.2.1) dL_law_790 (lc_s hL hn1) (hi 2 (by decide)) ?_
  refine X.callVi (As := [.int (sc L i 1), .int (sc L i 2)]) (rest := []) dL_law_791 (CtM.law (w_sow hm) (v := v1) (T := T1) hL hn1) cL_158 rfl rfl (Nat.le_of_ble_eq_true rfl) (lc_0 hL hn1) rfl rfl ⟨by dsimp only; omega, by dsimp only; omega⟩ xle.rf hle ?_
  refine C.ist (L' := [(6, .int b), (5, .int kd), (0, .ref (ls_ L)), (1, va_rf r), (2, .ref (lm L)), (3, .ref (lo_ L)), (4, .int i)]) dL_law_794 (Nat.le_of_ble_eq_true rfl) (xcI (xcQ (r := some _) (xcQ (xcQ (r := some _) (xcQ (r := some _) (xcI xcN)))))) rfl ?_
  refine X.aload_n dL_law_796 rfl 4 rfl ?_
  refine X.callVi (As := []) (rest := []) dL_law_797 (CtM.law (w_thrown hth) (v := v1) (T := T1) hL hn1) cL_125 rfl rfl (Nat.le_of_ble_eq_true rfl) (lc_0 hL hn1) rfl rfl ⟨by dsimp only; omega, by dsimp only; omega⟩ xle.rf hle ?_
  refine X.iload dL_law_800 1 rfl ?_
  refine X.icmp_eq (tgt := 807) dL_law_802 (by decide) (fun c => ?_) (fun c => absurd rfl c)
  refine X.iload dL_law_807 1 rfl ?_
  refine X.if_ne (tgt := 831) dL_law_809 (by decide) (fun c => ?_) (fun c => ?_)
  · refine X.goto (tgt := 2413) dL_law_831 (by decide) ?_
    refine X.sub [2, 3, 4, 5, 6] (L' := bL L r i) rfl ?_
    exact kk
  refine X.aload_n dL_law_812 rfl 5 rfl ?_
  refine X.iconst (v := 0) dL_law_813 (by decide) ?_
  refine X.lald dL_law_814 (lc_o hn1) (fun q => by rcases q with q | q <;> revert q <;> decide) ?_
  refine X.iload dL_law_815 0 rfl ?_
  refine X.if_eq (tgt := 824) dL_law_817 (by decide) (fun c2 => ?_) (fun c2 => ?_)
  · refine X.lconst (v := 0) dL_law_824 (by decide) ?_
    refine X.lcmp dL_law_825 ?_
    have hag2 := hag c
    rw [if_pos c2] at hag2
    refine X.if_eq (tgt := 831) dL_law_826 (by decide) (fun _ => ?_) (fun c3 => absurd (by show lg_cmp (v1 0) _ = 0; rw [hag2]; exact lgc _) c3)
    refine X.goto (tgt := 2413) dL_law_831 (by decide) ?_
    refine X.sub [2, 3, 4, 5, 6] (L' := bL L r i) rfl ?_
    exact kk
  · refine X.lconst (v := 1) dL_law_820 (by decide) ?_
    refine X.goto (tgt := 825) dL_law_821 (by decide) ?_
    refine X.lcmp dL_law_825 ?_
    have hag2 := hag c
    rw [if_neg c2] at hag2
    refine X.if_eq (tgt := 831) dL_law_826 (by decide) (fun _ => ?_) (fun c3 => absurd (by show lg_cmp (v1 0) _ = 0; rw [hag2]; exact lgc _) c3)
    refine X.goto (tgt := 2413) dL_law_831 (by decide) ?_
    refine X.sub [2, 3, 4, 5, 6] (L' := bL L r i) rfl ?_
    exact kk
theorem cL_159 : xCSW RX0 159 mX0_scrape 3 := ⟨_, _, rfl, lw_SW q1348 q1349 q120 q1350, ⟨by decide +kernel, by decide +kernel, by decide +kernel⟩, Nat.le_of_ble_eq_true rfl⟩
theorem cL_161 : xCV RX0 161 mX4_scrape 1 := ⟨lw_V q2044 q2045 q2046 q127 q2047, rfl, ⟨by decide +kernel, by decide +kernel, by decide +kernel⟩, Nat.le_of_ble_eq_true rfl⟩
theorem lk_11 {G : xG} {Y : xR} {L : xL} {S S1 : MS} {v v1 : Nat → Int64} {T T1 : xF} {r : Option Nat} {i a b kd : Int32} (hg : gR G = fun _ => none) (hM : Y.1 = mL_law) (hD : 300 ≤ Y.2.1.frames ∧ 64 * 300 ≤ Y.2.1.locals) (hL : LOK L) (hn : NN L T) (hi : ∀ j ∈ ([1, 2, 3, 4, 5] : List Int32), vp_in (i + j) L.2.2.2.1) (hr : isO T r 0 = true) (hn1 : NN L T1) (hx : xle T T1) (hle : xle T1 Y.2.2.2.2) (hs : Ct G mX0_scrape 10 (LWo (lc L S v) T) [va_rf r, .int (sc L i 1), .ref (lo_ L)] (.inl (some (.int kd))) (LWo (lc L S v1) T1)) (hm : m_scrape (sc L i 1) S = some (b, S1)) (hth : m_thrown S1 = some kd) (hag : kd = 0 → v1 0 = b.toInt64) (kk : Xr G Y 2413 (bL L r i) [] (LWo (lc L S1 v1) T1)) : Xr G Y 834 (bL L r i) [] (LWo (lc L S v) T) := by
  obtain ⟨M9, R9, T09, o9, T19⟩ := Y
  dsimp only at hM hD hle
  subst hM
  refine C.aload_n dL_law_834 rfl 1 rfl ?_
  refine X.aload_n dL_law_835 rfl 0 rfl ?_
  refine X.iload dL_law_836 4 rfl ?_
  refine X.iconst (v := 1) dL_law_838 (by decide) ?_
  refine X.iadd dL_law_839 ?_
  refine X.iald (f := L.2.2.2.2) (n := L.2.2.2.1) dL_law_840 (lc_s hL hn) (hi 1 (by decide)) ?_
  refine X.aload_n dL_law_841 rfl 3 rfl ?_
  refine X.callSW (v := some (.int kd)) (As := [va_rf r, .int (sc L i 1), .ref (lo_ L)]) (rest := []) dL_law_842 hs cL_159 rfl rfl (Nat.le_of_ble_eq_true rfl) ⟨by dsimp only; omega, by dsimp only; omega⟩ hx hle ?_
  refine C.ist (L' := [(5, .int kd), (0, .ref (ls_ L)), (1, va_rf r), (2, .ref (lm L)), (3, .ref (lo_ L)), (4, .int i)]) dL_law_845 (Nat.le_of_ble_eq_true rfl) (xcQ (r := some _) (xcQ (xcQ (r := some _) (xcQ (r := some _) (xcI xcN))))) rfl ?_
  refine X.aload_n dL_law_847 rfl 3 rfl ?_
  refine X.aload_n dL_law_848 rfl 1 rfl ?_
  refine X.iload dL_law_849 5 rfl ?_
  refine X.iconst (v := 1) dL_law_851 (by decide) ?_
  refine X.iadd dL_law_852 ?_
  refine X.iald (f := L.2.2.2.2) (n := L.2.2.2.1) dL_law_853 (lc_s hL hn1) (hi 1 (by decide)) ?_
  refine X.callVi (As := [.int (sc L i 1)]) (rest := []) dL_law_854 (CtM.law (w_scrape hm) (v := v1) (T := T1) hL hn1) cL_161 rfl rfl (Nat.le_of_ble_eq_true rfl) (lc_0 hL hn1) rfl rfl ⟨by dsimp only; omega, by dsimp only; omega⟩ xle.rf hle ?_
  refine C.ist (L' := [(6, .int b), (5, .int kd), (0, .ref (ls_ L)), (1, va_rf r), (2, .ref (lm L)), (3, .ref (lo_ L)), (4, .int i)]) dL_law_857 (Nat.le_of_ble_eq_true rfl) (xcI (xcQ (r := some _) (xcQ (xcQ (r := some _) (xcQ (r := some _) (xcI xcN)))))) rfl ?_
  refine X.aload_n dL_law_859 rfl 4 rfl ?_
  refine X.callVi (As := []) (rest := []) dL_law_860 (CtM.law (w_thrown hth) (v := v1) (T := T1) hL hn1) cL_125 rfl rfl (Nat.le_of_ble_eq_true rfl) (lc_0 hL hn1) rfl rfl ⟨by dsimp only; omega, by dsimp only; omega⟩ xle.rf hle ?_
  refine X.iload dL_law_863 1 rfl ?_
  refine X.icmp_eq (tgt := 870) dL_law_865 (by decide) (fun c => ?_) (fun c => absurd rfl c)
  refine X.iload dL_law_870 1 rfl ?_
  refine X.if_ne (tgt := 887) dL_law_872 (by decide) (fun c => ?_) (fun c => ?_)
  · refine X.goto (tgt := 2413) dL_law_887 (by decide) ?_
    refine X.sub [2, 3, 4, 5, 6] (L' := bL L r i) rfl ?_
    exact kk
  refine X.aload_n dL_law_875 rfl 5 rfl ?_
  refine X.iconst (v := 0) dL_law_876 (by decide) ?_
  refine X.lald dL_law_877 (lc_o hn1) (fun q => by rcases q with q | q <;> revert q <;> decide) ?_
  refine X.iload dL_law_878 0 rfl ?_
  refine X.i2l dL_law_880 rfl ?_
  refine X.lcmp dL_law_881 ?_
  refine X.if_eq (tgt := 887) dL_law_882 (by decide) (fun _ => ?_) (fun c3 => absurd (by show lg_cmp (v1 0) _ = 0; rw [hag c]; exact lgc _) c3)
  refine X.goto (tgt := 2413) dL_law_887 (by decide) ?_
  refine X.sub [2, 3, 4, 5, 6] (L' := bL L r i) rfl ?_
  exact kk
theorem cL_162 : xCV RX0 162 mX1_undo 0 := ⟨lw_V q606 q607 q608 q121 q609, rfl, ⟨by decide +kernel, by decide +kernel, by decide +kernel⟩, Nat.le_of_ble_eq_true rfl⟩
theorem cL_165 : xCV RX0 165 mX4_undo 0 := ⟨lw_V q1904 q1905 q1906 q127 q1907, rfl, ⟨by decide +kernel, by decide +kernel, by decide +kernel⟩, Nat.le_of_ble_eq_true rfl⟩
theorem lk_12 {G : xG} {Y : xR} {L : xL} {S S1 : MS} {v v1 : Nat → Int64} {T T1 : xF} {r : Option Nat} {i a b kd : Int32} (hg : gR G = fun _ => none) (hM : Y.1 = mL_law) (hD : 300 ≤ Y.2.1.frames ∧ 64 * 300 ≤ Y.2.1.locals) (hL : LOK L) (hn : NN L T) (hi : ∀ j ∈ ([1, 2, 3, 4, 5] : List Int32), vp_in (i + j) L.2.2.2.1) (hr : isO T r 0 = true) (hn1 : NN L T1) (hx : xle T T1) (hle : xle T1 Y.2.2.2.2) (hs : Ct G mX1_undo 4 (LWo (lc L S v) T) (va_rf r :: []) (.inl (some (.int a))) (LWo (lc L S v) T1)) (hm : m_undo S = some (a, S1)) (kk : Xr G Y 2413 (bL L r i) [] (LWo (lc L S1 v) T1)) : Xr G Y 890 (bL L r i) [] (LWo (lc L S v) T) := by
  obtain ⟨M9, R9, T09, o9, T19⟩ := Y
  dsimp only at hM hD hle
  subst hM
  refine C.aload_n dL_law_890 rfl 1 rfl ?_
  refine C.Vi (As := []) (rest := []) dL_law_891 hs cL_162 (isO_LW hr) rfl rfl (Nat.le_of_ble_eq_true rfl) rfl rfl ⟨by dsimp only; omega, by dsimp only; omega⟩ hx hle ?_
  refine X.aload_n dL_law_894 rfl 2 rfl ?_
  refine X.callVi (As := []) (rest := [.int a]) dL_law_895 (CtM.law (w_undo hm) (v := v) (T := T1) hL hn1) cL_165 rfl rfl (Nat.le_of_ble_eq_true rfl) (lc_0 hL hn1) rfl rfl ⟨by dsimp only; omega, by dsimp only; omega⟩ xle.rf hle ?_
  refine X.icmp_eq (tgt := 2413) dL_law_898 (by decide) (fun c => ?_) (fun c => absurd rfl c)
  refine X.sub [0, 1, 2, 3, 4] (L' := bL L r i) rfl ?_
  exact kk
theorem cL_166 : xCSW RX0 166 mX0_then 5 := ⟨_, _, rfl, lw_SW q1356 q1357 q120 q1358, ⟨by decide +kernel, by decide +kernel, by decide +kernel⟩, Nat.le_of_ble_eq_true rfl⟩
theorem cL_169 : xCV RX0 169 mX4_then 3 := ⟨lw_V q2048 q2049 q2050 q127 q2051, rfl, ⟨by decide +kernel, by decide +kernel, by decide +kernel⟩, Nat.le_of_ble_eq_true rfl⟩
theorem lk_13 {G : xG} {Y : xR} {L : xL} {S S1 : MS} {v v1 : Nat → Int64} {T T1 : xF} {r : Option Nat} {i a b kd : Int32} (hg : gR G = fun _ => none) (hM : Y.1 = mL_law) (hD : 300 ≤ Y.2.1.frames ∧ 64 * 300 ≤ Y.2.1.locals) (hL : LOK L) (hn : NN L T) (hi : ∀ j ∈ ([1, 2, 3, 4, 5] : List Int32), vp_in (i + j) L.2.2.2.1) (hr : isO T r 0 = true) (hn1 : NN L T1) (hx : xle T T1) (hle : xle T1 Y.2.2.2.2) (hs : Ct G mX0_then 128 (LWo (lc L S v) T) [va_rf r, .int (sc L i 1), .int (sc L i 2), .int (sc L i 3), .ref (lo_ L)] (.inl (some (.int kd))) (LWo (lc L S v1) T1)) (hm : m_then (sc L i 1) (sc L i 2) (sc L i 3) S = some (b, S1)) (hth : m_thrown S1 = some kd) (hag : kd = 0 → v1 0 = b.toInt64) (kk : Xr G Y 2413 (bL L r i) [] (LWo (lc L S1 v1) T1)) : Xr G Y 903 (bL L r i) [] (LWo (lc L S v) T) := by
  obtain ⟨M9, R9, T09, o9, T19⟩ := Y
  dsimp only at hM hD hle
  subst hM
  refine C.aload_n dL_law_903 rfl 1 rfl ?_
  refine X.aload_n dL_law_904 rfl 0 rfl ?_
  refine X.iload dL_law_905 4 rfl ?_
  refine X.iconst (v := 1) dL_law_907 (by decide) ?_
  refine X.iadd dL_law_908 ?_
  refine X.iald (f := L.2.2.2.2) (n := L.2.2.2.1) dL_law_909 (lc_s hL hn) (hi 1 (by decide)) ?_
  refine X.aload_n dL_law_910 rfl 0 rfl ?_
  refine X.iload dL_law_911 4 rfl ?_
  refine X.iconst (v := 2) dL_law_913 (by decide) ?_
  refine X.iadd dL_law_914 ?_
  refine X.iald (f := L.2.2.2.2) (n := L.2.2.2.1) dL_law_915 (lc_s hL hn) (hi 2 (by decide)) ?_
  refine X.aload_n dL_law_916 rfl 0 rfl ?_
  refine X.iload dL_law_917 4 rfl ?_
  refine X.iconst (v := 3) dL_law_919 (by decide) ?_
  refine X.iadd dL_law_920 ?_
  refine X.iald (f := L.2.2.2.2) (n := L.2.2.2.1) dL_law_921 (lc_s hL hn) (hi 3 (by decide)) ?_
  refine X.aload_n dL_law_922 rfl 3 rfl ?_
  refine X.callSW (v := some (.int kd)) (As := [va_rf r, .int (sc L i 1), .int (sc L i 2), .int (sc L i 3), .ref (lo_ L)]) (rest := []) dL_law_923 hs cL_166 rfl rfl (Nat.le_of_ble_eq_true rfl) ⟨by dsimp only; omega, by dsimp only; omega⟩ hx hle ?_
  refine C.ist (L' := [(5, .int kd), (0, .ref (ls_ L)), (1, va_rf r), (2, .ref (lm L)), (3, .ref (lo_ L)), (4, .int i)]) dL_law_926 (Nat.le_of_ble_eq_true rfl) (xcQ (r := some _) (xcQ (xcQ (r := some _) (xcQ (r := some _) (xcI xcN))))) rfl ?_
  refine X.aload_n dL_law_928 rfl 3 rfl ?_
  refine X.aload_n dL_law_929 rfl 1 rfl ?_
  refine X.iload dL_law_930 5 rfl ?_
  refine X.iconst (v := 1) dL_law_932 (by decide) ?_
  refine X.iadd dL_law_933 ?_
  refine X.iald (f := L.2.2.2.2) (n := L.2.2.2.1) dL_law_934 (lc_s hL hn1) (hi 1 (by decide)) ?_
  refine X.aload_n dL_law_935 rfl 1 rfl ?_
  refine X.iload dL_law_936 5 rfl ?_
  refine X.iconst (v := 2) dL_law_938 (by decide) ?_
  refine X.iadd dL_law_939 ?_
  refine X.iald (f := L.2.2.2.2) (n := L.2.2.2.1) dL_law_940 (lc_s hL hn1) (hi 2 (by decide)) ?_
  refine X.aload_n dL_law_941 rfl 1 rfl ?_
  refine X.iload dL_law_942 5 rfl ?_
  refine X.iconst (v := 3) dL_law_944 (by decide) ?_
  refine X.iadd dL_law_945 ?_
  refine X.iald (f := L.2.2.2.2) (n := L.2.2.2.1) dL_law_946 (lc_s hL hn1) (hi 3 (by decide)) ?_
  refine X.callVi (As := [.int (sc L i 1), .int (sc L i 2), .int (sc L i 3)]) (rest := []) dL_law_947 (CtM.law (w_then hm) (v := v1) (T := T1) hL hn1) cL_169 rfl rfl (Nat.le_of_ble_eq_true rfl) (lc_0 hL hn1) rfl rfl ⟨by dsimp only; omega, by dsimp only; omega⟩ xle.rf hle ?_
  refine C.ist (L' := [(6, .int b), (5, .int kd), (0, .ref (ls_ L)), (1, va_rf r), (2, .ref (lm L)), (3, .ref (lo_ L)), (4, .int i)]) dL_law_950 (Nat.le_of_ble_eq_true rfl) (xcI (xcQ (r := some _) (xcQ (xcQ (r := some _) (xcQ (r := some _) (xcI xcN)))))) rfl ?_
  refine X.aload_n dL_law_952 rfl 4 rfl ?_
  refine X.callVi (As := []) (rest := []) dL_law_953 (CtM.law (w_thrown hth) (v := v1) (T := T1) hL hn1) cL_125 rfl rfl (Nat.le_of_ble_eq_true rfl) (lc_0 hL hn1) rfl rfl ⟨by dsimp only; omega, by dsimp only; omega⟩ xle.rf hle ?_
  refine X.iload dL_law_956 1 rfl ?_
  refine X.icmp_eq (tgt := 963) dL_law_958 (by decide) (fun c => ?_) (fun c => absurd rfl c)
  refine X.iload dL_law_963 1 rfl ?_
  refine X.if_ne (tgt := 980) dL_law_965 (by decide) (fun c => ?_) (fun c => ?_)
  · refine X.goto (tgt := 2413) dL_law_980 (by decide) ?_
    refine X.sub [2, 3, 4, 5, 6] (L' := bL L r i) rfl ?_
    exact kk
  refine X.aload_n dL_law_968 rfl 5 rfl ?_
  refine X.iconst (v := 0) dL_law_969 (by decide) ?_
  refine X.lald dL_law_970 (lc_o hn1) (fun q => by rcases q with q | q <;> revert q <;> decide) ?_
  refine X.iload dL_law_971 0 rfl ?_
  refine X.i2l dL_law_973 rfl ?_
  refine X.lcmp dL_law_974 ?_
  refine X.if_eq (tgt := 980) dL_law_975 (by decide) (fun _ => ?_) (fun c3 => absurd (by show lg_cmp (v1 0) _ = 0; rw [hag c]; exact lgc _) c3)
  refine X.goto (tgt := 2413) dL_law_980 (by decide) ?_
  refine X.sub [2, 3, 4, 5, 6] (L' := bL L r i) rfl ?_
  exact kk
theorem cL_170 : xCSW RX0 170 mX0_voting 4 := ⟨_, _, rfl, lw_SW q1367 q1368 q120 q1369, ⟨by decide +kernel, by decide +kernel, by decide +kernel⟩, Nat.le_of_ble_eq_true rfl⟩
theorem cL_172 : xCV RX0 172 mX4_voting 2 := ⟨lw_V q2068 q2069 q2070 q127 q2071, rfl, ⟨by decide +kernel, by decide +kernel, by decide +kernel⟩, Nat.le_of_ble_eq_true rfl⟩
theorem lk_14 {G : xG} {Y : xR} {L : xL} {S S1 : MS} {v v1 : Nat → Int64} {T T1 : xF} {r : Option Nat} {i a b kd : Int32} (hg : gR G = fun _ => none) (hM : Y.1 = mL_law) (hD : 300 ≤ Y.2.1.frames ∧ 64 * 300 ≤ Y.2.1.locals) (hL : LOK L) (hn : NN L T) (hi : ∀ j ∈ ([1, 2, 3, 4, 5] : List Int32), vp_in (i + j) L.2.2.2.1) (hr : isO T r 0 = true) (hn1 : NN L T1) (hx : xle T T1) (hle : xle T1 Y.2.2.2.2) (hs : Ct G mX0_voting 128 (LWo (lc L S v) T) [va_rf r, .int (sc L i 1), .int (sc L i 2), .ref (lo_ L)] (.inl (some (.int kd))) (LWo (lc L S v1) T1)) (hm : m_voting (sc L i 1) (sc L i 2) S = some (b, S1)) (hth : m_thrown S1 = some kd) (hag : kd = 0 → v1 0 = b.toInt64) (kk : Xr G Y 2413 (bL L r i) [] (LWo (lc L S1 v1) T1)) : Xr G Y 983 (bL L r i) [] (LWo (lc L S v) T) := by
  obtain ⟨M9, R9, T09, o9, T19⟩ := Y
  dsimp only at hM hD hle
  subst hM
  refine C.aload_n dL_law_983 rfl 1 rfl ?_
  refine X.aload_n dL_law_984 rfl 0 rfl ?_
  refine X.iload dL_law_985 4 rfl ?_
  refine X.iconst (v := 1) dL_law_987 (by decide) ?_
  refine X.iadd dL_law_988 ?_
  refine X.iald (f := L.2.2.2.2) (n := L.2.2.2.1) dL_law_989 (lc_s hL hn) (hi 1 (by decide)) ?_
  refine X.aload_n dL_law_990 rfl 0 rfl ?_
  refine X.iload dL_law_991 4 rfl ?_
  refine X.iconst (v := 2) dL_law_993 (by decide) ?_
  refine X.iadd dL_law_994 ?_
  refine X.iald (f := L.2.2.2.2) (n := L.2.2.2.1) dL_law_995 (lc_s hL hn) (hi 2 (by decide)) ?_
  refine X.aload_n dL_law_996 rfl 3 rfl ?_
  refine X.callSW (v := some (.int kd)) (As := [va_rf r, .int (sc L i 1), .int (sc L i 2), .ref (lo_ L)]) (rest := []) dL_law_997 hs cL_170 rfl rfl (Nat.le_of_ble_eq_true rfl) ⟨by dsimp only; omega, by dsimp only; omega⟩ hx hle ?_
  refine C.ist (L' := [(5, .int kd), (0, .ref (ls_ L)), (1, va_rf r), (2, .ref (lm L)), (3, .ref (lo_ L)), (4, .int i)]) dL_law_1000 (Nat.le_of_ble_eq_true rfl) (xcQ (r := some _) (xcQ (xcQ (r := some _) (xcQ (r := some _) (xcI xcN))))) rfl ?_
  refine X.aload_n dL_law_1002 rfl 3 rfl ?_
  refine X.aload_n dL_law_1003 rfl 1 rfl ?_
  refine X.iload dL_law_1004 5 rfl ?_
  refine X.iconst (v := 1) dL_law_1006 (by decide) ?_
  refine X.iadd dL_law_1007 ?_
  refine X.iald (f := L.2.2.2.2) (n := L.2.2.2.1) dL_law_1008 (lc_s hL hn1) (hi 1 (by decide)) ?_
  refine X.aload_n dL_law_1009 rfl 1 rfl ?_
  refine X.iload dL_law_1010 5 rfl ?_
  refine X.iconst (v := 2) dL_law_1012 (by decide) ?_
  refine X.iadd dL_law_1013 ?_
  refine X.iald (f := L.2.2.2.2) (n := L.2.2.2.1) dL_law_1014 (lc_s hL hn1) (hi 2 (by decide)) ?_
  refine X.callVi (As := [.int (sc L i 1), .int (sc L i 2)]) (rest := []) dL_law_1015 (CtM.law (w_voting hm) (v := v1) (T := T1) hL hn1) cL_172 rfl rfl (Nat.le_of_ble_eq_true rfl) (lc_0 hL hn1) rfl rfl ⟨by dsimp only; omega, by dsimp only; omega⟩ xle.rf hle ?_
  refine C.ist (L' := [(6, .int b), (5, .int kd), (0, .ref (ls_ L)), (1, va_rf r), (2, .ref (lm L)), (3, .ref (lo_ L)), (4, .int i)]) dL_law_1018 (Nat.le_of_ble_eq_true rfl) (xcI (xcQ (r := some _) (xcQ (xcQ (r := some _) (xcQ (r := some _) (xcI xcN)))))) rfl ?_
  refine X.aload_n dL_law_1020 rfl 4 rfl ?_
  refine X.callVi (As := []) (rest := []) dL_law_1021 (CtM.law (w_thrown hth) (v := v1) (T := T1) hL hn1) cL_125 rfl rfl (Nat.le_of_ble_eq_true rfl) (lc_0 hL hn1) rfl rfl ⟨by dsimp only; omega, by dsimp only; omega⟩ xle.rf hle ?_
  refine X.iload dL_law_1024 1 rfl ?_
  refine X.icmp_eq (tgt := 1031) dL_law_1026 (by decide) (fun c => ?_) (fun c => absurd rfl c)
  refine X.iload dL_law_1031 1 rfl ?_
  refine X.if_ne (tgt := 1048) dL_law_1033 (by decide) (fun c => ?_) (fun c => ?_)
  · refine X.goto (tgt := 2413) dL_law_1048 (by decide) ?_
    refine X.sub [2, 3, 4, 5, 6] (L' := bL L r i) rfl ?_
    exact kk
  refine X.aload_n dL_law_1036 rfl 5 rfl ?_
  refine X.iconst (v := 0) dL_law_1037 (by decide) ?_
  refine X.lald dL_law_1038 (lc_o hn1) (fun q => by rcases q with q | q <;> revert q <;> decide) ?_
  refine X.iload dL_law_1039 0 rfl ?_
  refine X.i2l dL_law_1041 rfl ?_
  refine X.lcmp dL_law_1042 ?_
  refine X.if_eq (tgt := 1048) dL_law_1043 (by decide) (fun _ => ?_) (fun c3 => absurd (by show lg_cmp (v1 0) _ = 0; rw [hag c]; exact lgc _) c3)
  refine X.goto (tgt := 2413) dL_law_1048 (by decide) ?_
  refine X.sub [2, 3, 4, 5, 6] (L' := bL L r i) rfl ?_
  exact kk
theorem cL_173 : xCSW RX0 173 mX0_winner 3 := ⟨_, _, rfl, lw_SW q1374 q1375 q120 q1376, ⟨by decide +kernel, by decide +kernel, by decide +kernel⟩, Nat.le_of_ble_eq_true rfl⟩
theorem cL_175 : xCV RX0 175 mX4_winner 1 := ⟨lw_V q2072 q2073 q2074 q127 q2075, rfl, ⟨by decide +kernel, by decide +kernel, by decide +kernel⟩, Nat.le_of_ble_eq_true rfl⟩
theorem lk_15 {G : xG} {Y : xR} {L : xL} {S S1 : MS} {v v1 : Nat → Int64} {T T1 : xF} {r : Option Nat} {i a b kd : Int32} (hg : gR G = fun _ => none) (hM : Y.1 = mL_law) (hD : 300 ≤ Y.2.1.frames ∧ 64 * 300 ≤ Y.2.1.locals) (hL : LOK L) (hn : NN L T) (hi : ∀ j ∈ ([1, 2, 3, 4, 5] : List Int32), vp_in (i + j) L.2.2.2.1) (hr : isO T r 0 = true) (hn1 : NN L T1) (hx : xle T T1) (hle : xle T1 Y.2.2.2.2) (hs : Ct G mX0_winner 128 (LWo (lc L S v) T) [va_rf r, .int (sc L i 1), .ref (lo_ L)] (.inl (some (.int kd))) (LWo (lc L S v1) T1)) (hm : m_winner (sc L i 1) S = some (b, S1)) (hth : m_thrown S1 = some kd) (hag : kd = 0 → v1 0 = b.toInt64) (kk : Xr G Y 2413 (bL L r i) [] (LWo (lc L S1 v1) T1)) : Xr G Y 1051 (bL L r i) [] (LWo (lc L S v) T) := by
  obtain ⟨M9, R9, T09, o9, T19⟩ := Y
  dsimp only at hM hD hle
  subst hM
  refine C.aload_n dL_law_1051 rfl 1 rfl ?_
  refine X.aload_n dL_law_1052 rfl 0 rfl ?_
  refine X.iload dL_law_1053 4 rfl ?_
  refine X.iconst (v := 1) dL_law_1055 (by decide) ?_
  refine X.iadd dL_law_1056 ?_
  refine X.iald (f := L.2.2.2.2) (n := L.2.2.2.1) dL_law_1057 (lc_s hL hn) (hi 1 (by decide)) ?_
  refine X.aload_n dL_law_1058 rfl 3 rfl ?_
  refine X.callSW (v := some (.int kd)) (As := [va_rf r, .int (sc L i 1), .ref (lo_ L)]) (rest := []) dL_law_1059 hs cL_173 rfl rfl (Nat.le_of_ble_eq_true rfl) ⟨by dsimp only; omega, by dsimp only; omega⟩ hx hle ?_
  refine C.ist (L' := [(5, .int kd), (0, .ref (ls_ L)), (1, va_rf r), (2, .ref (lm L)), (3, .ref (lo_ L)), (4, .int i)]) dL_law_1062 (Nat.le_of_ble_eq_true rfl) (xcQ (r := some _) (xcQ (xcQ (r := some _) (xcQ (r := some _) (xcI xcN))))) rfl ?_
  refine X.aload_n dL_law_1064 rfl 3 rfl ?_
  refine X.aload_n dL_law_1065 rfl 1 rfl ?_
  refine X.iload dL_law_1066 5 rfl ?_
  refine X.iconst (v := 1) dL_law_1068 (by decide) ?_
  refine X.iadd dL_law_1069 ?_
  refine X.iald (f := L.2.2.2.2) (n := L.2.2.2.1) dL_law_1070 (lc_s hL hn1) (hi 1 (by decide)) ?_
  refine X.callVi (As := [.int (sc L i 1)]) (rest := []) dL_law_1071 (CtM.law (w_winner hm) (v := v1) (T := T1) hL hn1) cL_175 rfl rfl (Nat.le_of_ble_eq_true rfl) (lc_0 hL hn1) rfl rfl ⟨by dsimp only; omega, by dsimp only; omega⟩ xle.rf hle ?_
  refine C.ist (L' := [(6, .int b), (5, .int kd), (0, .ref (ls_ L)), (1, va_rf r), (2, .ref (lm L)), (3, .ref (lo_ L)), (4, .int i)]) dL_law_1074 (Nat.le_of_ble_eq_true rfl) (xcI (xcQ (r := some _) (xcQ (xcQ (r := some _) (xcQ (r := some _) (xcI xcN)))))) rfl ?_
  refine X.aload_n dL_law_1076 rfl 4 rfl ?_
  refine X.callVi (As := []) (rest := []) dL_law_1077 (CtM.law (w_thrown hth) (v := v1) (T := T1) hL hn1) cL_125 rfl rfl (Nat.le_of_ble_eq_true rfl) (lc_0 hL hn1) rfl rfl ⟨by dsimp only; omega, by dsimp only; omega⟩ xle.rf hle ?_
  refine X.iload dL_law_1080 1 rfl ?_
  refine X.icmp_eq (tgt := 1087) dL_law_1082 (by decide) (fun c => ?_) (fun c => absurd rfl c)
  refine X.iload dL_law_1087 1 rfl ?_
  refine X.if_ne (tgt := 1104) dL_law_1089 (by decide) (fun c => ?_) (fun c => ?_)
  · refine X.goto (tgt := 2413) dL_law_1104 (by decide) ?_
    refine X.sub [2, 3, 4, 5, 6] (L' := bL L r i) rfl ?_
    exact kk
  refine X.aload_n dL_law_1092 rfl 5 rfl ?_
  refine X.iconst (v := 0) dL_law_1093 (by decide) ?_
  refine X.lald dL_law_1094 (lc_o hn1) (fun q => by rcases q with q | q <;> revert q <;> decide) ?_
  refine X.iload dL_law_1095 0 rfl ?_
  refine X.i2l dL_law_1097 rfl ?_
  refine X.lcmp dL_law_1098 ?_
  refine X.if_eq (tgt := 1104) dL_law_1099 (by decide) (fun _ => ?_) (fun c3 => absurd (by show lg_cmp (v1 0) _ = 0; rw [hag c]; exact lgc _) c3)
  refine X.goto (tgt := 2413) dL_law_1104 (by decide) ?_
  refine X.sub [2, 3, 4, 5, 6] (L' := bL L r i) rfl ?_
  exact kk
theorem cL_176 : xCSW RX0 176 mX0_first 3 := ⟨_, _, rfl, lw_SW q1381 q1382 q120 q1383, ⟨by decide +kernel, by decide +kernel, by decide +kernel⟩, Nat.le_of_ble_eq_true rfl⟩
theorem cL_178 : xCV RX0 178 mX4_first 1 := ⟨lw_V q2076 q2077 q2078 q127 q2079, rfl, ⟨by decide +kernel, by decide +kernel, by decide +kernel⟩, Nat.le_of_ble_eq_true rfl⟩
theorem lk_16 {G : xG} {Y : xR} {L : xL} {S S1 : MS} {v v1 : Nat → Int64} {T T1 : xF} {r : Option Nat} {i a b kd : Int32} (hg : gR G = fun _ => none) (hM : Y.1 = mL_law) (hD : 300 ≤ Y.2.1.frames ∧ 64 * 300 ≤ Y.2.1.locals) (hL : LOK L) (hn : NN L T) (hi : ∀ j ∈ ([1, 2, 3, 4, 5] : List Int32), vp_in (i + j) L.2.2.2.1) (hr : isO T r 0 = true) (hn1 : NN L T1) (hx : xle T T1) (hle : xle T1 Y.2.2.2.2) (hs : Ct G mX0_first 126 (LWo (lc L S v) T) [va_rf r, .int (sc L i 1), .ref (lo_ L)] (.inl (some (.int kd))) (LWo (lc L S v1) T1)) (hm : m_first (sc L i 1) S = some (b, S1)) (hth : m_thrown S1 = some kd) (hag : kd = 0 → v1 0 = b.toInt64) (kk : Xr G Y 2413 (bL L r i) [] (LWo (lc L S1 v1) T1)) : Xr G Y 1107 (bL L r i) [] (LWo (lc L S v) T) := by
  obtain ⟨M9, R9, T09, o9, T19⟩ := Y
  dsimp only at hM hD hle
  subst hM
  refine C.aload_n dL_law_1107 rfl 1 rfl ?_
  refine X.aload_n dL_law_1108 rfl 0 rfl ?_
  refine X.iload dL_law_1109 4 rfl ?_
  refine X.iconst (v := 1) dL_law_1111 (by decide) ?_
  refine X.iadd dL_law_1112 ?_
  refine X.iald (f := L.2.2.2.2) (n := L.2.2.2.1) dL_law_1113 (lc_s hL hn) (hi 1 (by decide)) ?_
  refine X.aload_n dL_law_1114 rfl 3 rfl ?_
  refine X.callSW (v := some (.int kd)) (As := [va_rf r, .int (sc L i 1), .ref (lo_ L)]) (rest := []) dL_law_1115 hs cL_176 rfl rfl (Nat.le_of_ble_eq_true rfl) ⟨by dsimp only; omega, by dsimp only; omega⟩ hx hle ?_
  refine C.ist (L' := [(5, .int kd), (0, .ref (ls_ L)), (1, va_rf r), (2, .ref (lm L)), (3, .ref (lo_ L)), (4, .int i)]) dL_law_1118 (Nat.le_of_ble_eq_true rfl) (xcQ (r := some _) (xcQ (xcQ (r := some _) (xcQ (r := some _) (xcI xcN))))) rfl ?_
  refine X.aload_n dL_law_1120 rfl 3 rfl ?_
  refine X.aload_n dL_law_1121 rfl 1 rfl ?_
  refine X.iload dL_law_1122 5 rfl ?_
  refine X.iconst (v := 1) dL_law_1124 (by decide) ?_
  refine X.iadd dL_law_1125 ?_
  refine X.iald (f := L.2.2.2.2) (n := L.2.2.2.1) dL_law_1126 (lc_s hL hn1) (hi 1 (by decide)) ?_
  refine X.callVi (As := [.int (sc L i 1)]) (rest := []) dL_law_1127 (CtM.law (w_first hm) (v := v1) (T := T1) hL hn1) cL_178 rfl rfl (Nat.le_of_ble_eq_true rfl) (lc_0 hL hn1) rfl rfl ⟨by dsimp only; omega, by dsimp only; omega⟩ xle.rf hle ?_
  refine C.ist (L' := [(6, .int b), (5, .int kd), (0, .ref (ls_ L)), (1, va_rf r), (2, .ref (lm L)), (3, .ref (lo_ L)), (4, .int i)]) dL_law_1130 (Nat.le_of_ble_eq_true rfl) (xcI (xcQ (r := some _) (xcQ (xcQ (r := some _) (xcQ (r := some _) (xcI xcN)))))) rfl ?_
  refine X.aload_n dL_law_1132 rfl 4 rfl ?_
  refine X.callVi (As := []) (rest := []) dL_law_1133 (CtM.law (w_thrown hth) (v := v1) (T := T1) hL hn1) cL_125 rfl rfl (Nat.le_of_ble_eq_true rfl) (lc_0 hL hn1) rfl rfl ⟨by dsimp only; omega, by dsimp only; omega⟩ xle.rf hle ?_
  refine X.iload dL_law_1136 1 rfl ?_
  refine X.icmp_eq (tgt := 1143) dL_law_1138 (by decide) (fun c => ?_) (fun c => absurd rfl c)
  refine X.iload dL_law_1143 1 rfl ?_
  refine X.if_ne (tgt := 1160) dL_law_1145 (by decide) (fun c => ?_) (fun c => ?_)
  · refine X.goto (tgt := 2413) dL_law_1160 (by decide) ?_
    refine X.sub [2, 3, 4, 5, 6] (L' := bL L r i) rfl ?_
    exact kk
  refine X.aload_n dL_law_1148 rfl 5 rfl ?_
  refine X.iconst (v := 0) dL_law_1149 (by decide) ?_
  refine X.lald dL_law_1150 (lc_o hn1) (fun q => by rcases q with q | q <;> revert q <;> decide) ?_
  refine X.iload dL_law_1151 0 rfl ?_
  refine X.i2l dL_law_1153 rfl ?_
  refine X.lcmp dL_law_1154 ?_
  refine X.if_eq (tgt := 1160) dL_law_1155 (by decide) (fun _ => ?_) (fun c3 => absurd (by show lg_cmp (v1 0) _ = 0; rw [hag c]; exact lgc _) c3)
  refine X.goto (tgt := 2413) dL_law_1160 (by decide) ?_
  refine X.sub [2, 3, 4, 5, 6] (L' := bL L r i) rfl ?_
  exact kk
theorem cL_179 : xCV RX0 179 mX1_rest 0 := ⟨lw_V q612 q613 q614 q121 q615, rfl, ⟨by decide +kernel, by decide +kernel, by decide +kernel⟩, Nat.le_of_ble_eq_true rfl⟩
theorem cL_182 : xCV RX0 182 mX4_rest 0 := ⟨lw_V q2080 q2081 q2082 q127 q2083, rfl, ⟨by decide +kernel, by decide +kernel, by decide +kernel⟩, Nat.le_of_ble_eq_true rfl⟩
theorem lk_17 {G : xG} {Y : xR} {L : xL} {S S1 : MS} {v v1 : Nat → Int64} {T T1 : xF} {r : Option Nat} {i a b kd : Int32} (hg : gR G = fun _ => none) (hM : Y.1 = mL_law) (hD : 300 ≤ Y.2.1.frames ∧ 64 * 300 ≤ Y.2.1.locals) (hL : LOK L) (hn : NN L T) (hi : ∀ j ∈ ([1, 2, 3, 4, 5] : List Int32), vp_in (i + j) L.2.2.2.1) (hr : isO T r 0 = true) (hn1 : NN L T1) (hx : xle T T1) (hle : xle T1 Y.2.2.2.2) (hs : Ct G mX1_rest 125 (LWo (lc L S v) T) (va_rf r :: []) (.inl (some (.int a))) (LWo (lc L S v) T1)) (hm : m_rest S = some (a, S1)) (kk : Xr G Y 2413 (bL L r i) [] (LWo (lc L S1 v) T1)) : Xr G Y 1163 (bL L r i) [] (LWo (lc L S v) T) := by
  obtain ⟨M9, R9, T09, o9, T19⟩ := Y
  dsimp only at hM hD hle
  subst hM
  refine C.aload_n dL_law_1163 rfl 1 rfl ?_
  refine C.Vi (As := []) (rest := []) dL_law_1164 hs cL_179 (isO_LW hr) rfl rfl (Nat.le_of_ble_eq_true rfl) rfl rfl ⟨by dsimp only; omega, by dsimp only; omega⟩ hx hle ?_
  refine X.aload_n dL_law_1167 rfl 2 rfl ?_
  refine X.callVi (As := []) (rest := [.int a]) dL_law_1168 (CtM.law (w_rest hm) (v := v) (T := T1) hL hn1) cL_182 rfl rfl (Nat.le_of_ble_eq_true rfl) (lc_0 hL hn1) rfl rfl ⟨by dsimp only; omega, by dsimp only; omega⟩ xle.rf hle ?_
  refine X.icmp_eq (tgt := 2413) dL_law_1171 (by decide) (fun c => ?_) (fun c => absurd rfl c)
  refine X.sub [0, 1, 2, 3, 4] (L' := bL L r i) rfl ?_
  exact kk
theorem cL_183 : xCSW RX0 183 mX0_least 5 := ⟨_, _, rfl, lw_SW q1388 q1389 q120 q1390, ⟨by decide +kernel, by decide +kernel, by decide +kernel⟩, Nat.le_of_ble_eq_true rfl⟩
theorem cL_185 : xCV RX0 185 mX4_least 3 := ⟨lw_V q2084 q2085 q2086 q127 q2087, rfl, ⟨by decide +kernel, by decide +kernel, by decide +kernel⟩, Nat.le_of_ble_eq_true rfl⟩
theorem lk_18 {G : xG} {Y : xR} {L : xL} {S S1 : MS} {v v1 : Nat → Int64} {T T1 : xF} {r : Option Nat} {i a b kd : Int32} (hg : gR G = fun _ => none) (hM : Y.1 = mL_law) (hD : 300 ≤ Y.2.1.frames ∧ 64 * 300 ≤ Y.2.1.locals) (hL : LOK L) (hn : NN L T) (hi : ∀ j ∈ ([1, 2, 3, 4, 5] : List Int32), vp_in (i + j) L.2.2.2.1) (hr : isO T r 0 = true) (hn1 : NN L T1) (hx : xle T T1) (hle : xle T1 Y.2.2.2.2) (hs : Ct G mX0_least 127 (LWo (lc L S v) T) [va_rf r, .int (sc L i 1), .int (sc L i 2), .int (sc L i 3), .ref (lo_ L)] (.inl (some (.int kd))) (LWo (lc L S v1) T1)) (hm : m_least (sc L i 1) (sc L i 2) (sc L i 3) S = some (b, S1)) (hth : m_thrown S1 = some kd) (hag : kd = 0 → v1 0 = b.toInt64) (kk : Xr G Y 2413 (bL L r i) [] (LWo (lc L S1 v1) T1)) : Xr G Y 1176 (bL L r i) [] (LWo (lc L S v) T) := by
  obtain ⟨M9, R9, T09, o9, T19⟩ := Y
  dsimp only at hM hD hle
  subst hM
  refine C.aload_n dL_law_1176 rfl 1 rfl ?_
  refine X.aload_n dL_law_1177 rfl 0 rfl ?_
  refine X.iload dL_law_1178 4 rfl ?_
  refine X.iconst (v := 1) dL_law_1180 (by decide) ?_
  refine X.iadd dL_law_1181 ?_
  refine X.iald (f := L.2.2.2.2) (n := L.2.2.2.1) dL_law_1182 (lc_s hL hn) (hi 1 (by decide)) ?_
  refine X.aload_n dL_law_1183 rfl 0 rfl ?_
  refine X.iload dL_law_1184 4 rfl ?_
  refine X.iconst (v := 2) dL_law_1186 (by decide) ?_
  refine X.iadd dL_law_1187 ?_
  refine X.iald (f := L.2.2.2.2) (n := L.2.2.2.1) dL_law_1188 (lc_s hL hn) (hi 2 (by decide)) ?_
  refine X.aload_n dL_law_1189 rfl 0 rfl ?_
  refine X.iload dL_law_1190 4 rfl ?_
  refine X.iconst (v := 3) dL_law_1192 (by decide) ?_
  refine X.iadd dL_law_1193 ?_
  refine X.iald (f := L.2.2.2.2) (n := L.2.2.2.1) dL_law_1194 (lc_s hL hn) (hi 3 (by decide)) ?_
  refine X.aload_n dL_law_1195 rfl 3 rfl ?_
  refine X.callSW (v := some (.int kd)) (As := [va_rf r, .int (sc L i 1), .int (sc L i 2), .int (sc L i 3), .ref (lo_ L)]) (rest := []) dL_law_1196 hs cL_183 rfl rfl (Nat.le_of_ble_eq_true rfl) ⟨by dsimp only; omega, by dsimp only; omega⟩ hx hle ?_
  refine C.ist (L' := [(5, .int kd), (0, .ref (ls_ L)), (1, va_rf r), (2, .ref (lm L)), (3, .ref (lo_ L)), (4, .int i)]) dL_law_1199 (Nat.le_of_ble_eq_true rfl) (xcQ (r := some _) (xcQ (xcQ (r := some _) (xcQ (r := some _) (xcI xcN))))) rfl ?_
  refine X.aload_n dL_law_1201 rfl 3 rfl ?_
  refine X.aload_n dL_law_1202 rfl 1 rfl ?_
  refine X.iload dL_law_1203 5 rfl ?_
  refine X.iconst (v := 1) dL_law_1205 (by decide) ?_
  refine X.iadd dL_law_1206 ?_
  refine X.iald (f := L.2.2.2.2) (n := L.2.2.2.1) dL_law_1207 (lc_s hL hn1) (hi 1 (by decide)) ?_
  refine X.aload_n dL_law_1208 rfl 1 rfl ?_
  refine X.iload dL_law_1209 5 rfl ?_
  refine X.iconst (v := 2) dL_law_1211 (by decide) ?_
  refine X.iadd dL_law_1212 ?_
  refine X.iald (f := L.2.2.2.2) (n := L.2.2.2.1) dL_law_1213 (lc_s hL hn1) (hi 2 (by decide)) ?_
  refine X.aload_n dL_law_1214 rfl 1 rfl ?_
  refine X.iload dL_law_1215 5 rfl ?_
  refine X.iconst (v := 3) dL_law_1217 (by decide) ?_
  refine X.iadd dL_law_1218 ?_
  refine X.iald (f := L.2.2.2.2) (n := L.2.2.2.1) dL_law_1219 (lc_s hL hn1) (hi 3 (by decide)) ?_
  refine X.callVi (As := [.int (sc L i 1), .int (sc L i 2), .int (sc L i 3)]) (rest := []) dL_law_1220 (CtM.law (w_least hm) (v := v1) (T := T1) hL hn1) cL_185 rfl rfl (Nat.le_of_ble_eq_true rfl) (lc_0 hL hn1) rfl rfl ⟨by dsimp only; omega, by dsimp only; omega⟩ xle.rf hle ?_
  refine C.ist (L' := [(6, .int b), (5, .int kd), (0, .ref (ls_ L)), (1, va_rf r), (2, .ref (lm L)), (3, .ref (lo_ L)), (4, .int i)]) dL_law_1223 (Nat.le_of_ble_eq_true rfl) (xcI (xcQ (r := some _) (xcQ (xcQ (r := some _) (xcQ (r := some _) (xcI xcN)))))) rfl ?_
  refine X.aload_n dL_law_1225 rfl 4 rfl ?_
  refine X.callVi (As := []) (rest := []) dL_law_1226 (CtM.law (w_thrown hth) (v := v1) (T := T1) hL hn1) cL_125 rfl rfl (Nat.le_of_ble_eq_true rfl) (lc_0 hL hn1) rfl rfl ⟨by dsimp only; omega, by dsimp only; omega⟩ xle.rf hle ?_
  refine X.iload dL_law_1229 1 rfl ?_
  refine X.icmp_eq (tgt := 1236) dL_law_1231 (by decide) (fun c => ?_) (fun c => absurd rfl c)
  refine X.iload dL_law_1236 1 rfl ?_
  refine X.if_ne (tgt := 1253) dL_law_1238 (by decide) (fun c => ?_) (fun c => ?_)
  · refine X.goto (tgt := 2413) dL_law_1253 (by decide) ?_
    refine X.sub [2, 3, 4, 5, 6] (L' := bL L r i) rfl ?_
    exact kk
  refine X.aload_n dL_law_1241 rfl 5 rfl ?_
  refine X.iconst (v := 0) dL_law_1242 (by decide) ?_
  refine X.lald dL_law_1243 (lc_o hn1) (fun q => by rcases q with q | q <;> revert q <;> decide) ?_
  refine X.iload dL_law_1244 0 rfl ?_
  refine X.i2l dL_law_1246 rfl ?_
  refine X.lcmp dL_law_1247 ?_
  refine X.if_eq (tgt := 1253) dL_law_1248 (by decide) (fun _ => ?_) (fun c3 => absurd (by show lg_cmp (v1 0) _ = 0; rw [hag c]; exact lgc _) c3)
  refine X.goto (tgt := 2413) dL_law_1253 (by decide) ?_
  refine X.sub [2, 3, 4, 5, 6] (L' := bL L r i) rfl ?_
  exact kk
theorem cL_186 : xCSW RX0 186 mX0_best 4 := ⟨_, _, rfl, lw_SW q1395 q1396 q120 q1397, ⟨by decide +kernel, by decide +kernel, by decide +kernel⟩, Nat.le_of_ble_eq_true rfl⟩
theorem cL_188 : xCV RX0 188 mX4_best 2 := ⟨lw_V q2092 q2093 q2094 q127 q2095, rfl, ⟨by decide +kernel, by decide +kernel, by decide +kernel⟩, Nat.le_of_ble_eq_true rfl⟩
theorem lk_19 {G : xG} {Y : xR} {L : xL} {S S1 : MS} {v v1 : Nat → Int64} {T T1 : xF} {r : Option Nat} {i a b kd : Int32} (hg : gR G = fun _ => none) (hM : Y.1 = mL_law) (hD : 300 ≤ Y.2.1.frames ∧ 64 * 300 ≤ Y.2.1.locals) (hL : LOK L) (hn : NN L T) (hi : ∀ j ∈ ([1, 2, 3, 4, 5] : List Int32), vp_in (i + j) L.2.2.2.1) (hr : isO T r 0 = true) (hn1 : NN L T1) (hx : xle T T1) (hle : xle T1 Y.2.2.2.2) (hs : Ct G mX0_best 128 (LWo (lc L S v) T) [va_rf r, .int (sc L i 1), .int (sc L i 2), .ref (lo_ L)] (.inl (some (.int kd))) (LWo (lc L S v1) T1)) (hm : m_best (sc L i 1) (sc L i 2) S = some (b, S1)) (hth : m_thrown S1 = some kd) (hag : kd = 0 → v1 0 = b.toInt64) (kk : Xr G Y 2413 (bL L r i) [] (LWo (lc L S1 v1) T1)) : Xr G Y 1256 (bL L r i) [] (LWo (lc L S v) T) := by
  obtain ⟨M9, R9, T09, o9, T19⟩ := Y
  dsimp only at hM hD hle
  subst hM
  refine C.aload_n dL_law_1256 rfl 1 rfl ?_
  refine X.aload_n dL_law_1257 rfl 0 rfl ?_
  refine X.iload dL_law_1258 4 rfl ?_
  refine X.iconst (v := 1) dL_law_1260 (by decide) ?_
  refine X.iadd dL_law_1261 ?_
  refine X.iald (f := L.2.2.2.2) (n := L.2.2.2.1) dL_law_1262 (lc_s hL hn) (hi 1 (by decide)) ?_
  refine X.aload_n dL_law_1263 rfl 0 rfl ?_
  refine X.iload dL_law_1264 4 rfl ?_
  refine X.iconst (v := 2) dL_law_1266 (by decide) ?_
  refine X.iadd dL_law_1267 ?_
  refine X.iald (f := L.2.2.2.2) (n := L.2.2.2.1) dL_law_1268 (lc_s hL hn) (hi 2 (by decide)) ?_
  refine X.aload_n dL_law_1269 rfl 3 rfl ?_
  refine X.callSW (v := some (.int kd)) (As := [va_rf r, .int (sc L i 1), .int (sc L i 2), .ref (lo_ L)]) (rest := []) dL_law_1270 hs cL_186 rfl rfl (Nat.le_of_ble_eq_true rfl) ⟨by dsimp only; omega, by dsimp only; omega⟩ hx hle ?_
  refine C.ist (L' := [(5, .int kd), (0, .ref (ls_ L)), (1, va_rf r), (2, .ref (lm L)), (3, .ref (lo_ L)), (4, .int i)]) dL_law_1273 (Nat.le_of_ble_eq_true rfl) (xcQ (r := some _) (xcQ (xcQ (r := some _) (xcQ (r := some _) (xcI xcN))))) rfl ?_
  refine X.aload_n dL_law_1275 rfl 3 rfl ?_
  refine X.aload_n dL_law_1276 rfl 1 rfl ?_
  refine X.iload dL_law_1277 5 rfl ?_
  refine X.iconst (v := 1) dL_law_1279 (by decide) ?_
  refine X.iadd dL_law_1280 ?_
  refine X.iald (f := L.2.2.2.2) (n := L.2.2.2.1) dL_law_1281 (lc_s hL hn1) (hi 1 (by decide)) ?_
  refine X.aload_n dL_law_1282 rfl 1 rfl ?_
  refine X.iload dL_law_1283 5 rfl ?_
  refine X.iconst (v := 2) dL_law_1285 (by decide) ?_
  refine X.iadd dL_law_1286 ?_
  refine X.iald (f := L.2.2.2.2) (n := L.2.2.2.1) dL_law_1287 (lc_s hL hn1) (hi 2 (by decide)) ?_
  refine X.callVi (As := [.int (sc L i 1), .int (sc L i 2)]) (rest := []) dL_law_1288 (CtM.law (w_best hm) (v := v1) (T := T1) hL hn1) cL_188 rfl rfl (Nat.le_of_ble_eq_true rfl) (lc_0 hL hn1) rfl rfl ⟨by dsimp only; omega, by dsimp only; omega⟩ xle.rf hle ?_
  refine C.ist (L' := [(6, .int b), (5, .int kd), (0, .ref (ls_ L)), (1, va_rf r), (2, .ref (lm L)), (3, .ref (lo_ L)), (4, .int i)]) dL_law_1291 (Nat.le_of_ble_eq_true rfl) (xcI (xcQ (r := some _) (xcQ (xcQ (r := some _) (xcQ (r := some _) (xcI xcN)))))) rfl ?_
  refine X.aload_n dL_law_1293 rfl 4 rfl ?_
  refine X.callVi (As := []) (rest := []) dL_law_1294 (CtM.law (w_thrown hth) (v := v1) (T := T1) hL hn1) cL_125 rfl rfl (Nat.le_of_ble_eq_true rfl) (lc_0 hL hn1) rfl rfl ⟨by dsimp only; omega, by dsimp only; omega⟩ xle.rf hle ?_
  refine X.iload dL_law_1297 1 rfl ?_
  refine X.icmp_eq (tgt := 1304) dL_law_1299 (by decide) (fun c => ?_) (fun c => absurd rfl c)
  refine X.iload dL_law_1304 1 rfl ?_
  refine X.if_ne (tgt := 1321) dL_law_1306 (by decide) (fun c => ?_) (fun c => ?_)
  · refine X.goto (tgt := 2413) dL_law_1321 (by decide) ?_
    refine X.sub [2, 3, 4, 5, 6] (L' := bL L r i) rfl ?_
    exact kk
  refine X.aload_n dL_law_1309 rfl 5 rfl ?_
  refine X.iconst (v := 0) dL_law_1310 (by decide) ?_
  refine X.lald dL_law_1311 (lc_o hn1) (fun q => by rcases q with q | q <;> revert q <;> decide) ?_
  refine X.iload dL_law_1312 0 rfl ?_
  refine X.i2l dL_law_1314 rfl ?_
  refine X.lcmp dL_law_1315 ?_
  refine X.if_eq (tgt := 1321) dL_law_1316 (by decide) (fun _ => ?_) (fun c3 => absurd (by show lg_cmp (v1 0) _ = 0; rw [hag c]; exact lgc _) c3)
  refine X.goto (tgt := 2413) dL_law_1321 (by decide) ?_
  refine X.sub [2, 3, 4, 5, 6] (L' := bL L r i) rfl ?_
  exact kk
theorem cL_189 : xCSW RX0 189 mX0_frost 4 := ⟨_, _, rfl, lw_SW q1402 q1403 q120 q1404, ⟨by decide +kernel, by decide +kernel, by decide +kernel⟩, Nat.le_of_ble_eq_true rfl⟩
theorem cL_191 : xCV RX0 191 mX4_frost 2 := ⟨lw_V q2096 q2097 q2098 q127 q2099, rfl, ⟨by decide +kernel, by decide +kernel, by decide +kernel⟩, Nat.le_of_ble_eq_true rfl⟩
theorem lk_20 {G : xG} {Y : xR} {L : xL} {S S1 : MS} {v v1 : Nat → Int64} {T T1 : xF} {r : Option Nat} {i a b kd : Int32} (hg : gR G = fun _ => none) (hM : Y.1 = mL_law) (hD : 300 ≤ Y.2.1.frames ∧ 64 * 300 ≤ Y.2.1.locals) (hL : LOK L) (hn : NN L T) (hi : ∀ j ∈ ([1, 2, 3, 4, 5] : List Int32), vp_in (i + j) L.2.2.2.1) (hr : isO T r 0 = true) (hn1 : NN L T1) (hx : xle T T1) (hle : xle T1 Y.2.2.2.2) (hs : Ct G mX0_frost 127 (LWo (lc L S v) T) [va_rf r, .int (sc L i 1), .int (sc L i 2), .ref (lo_ L)] (.inl (some (.int kd))) (LWo (lc L S v1) T1)) (hm : m_frost (sc L i 1) (sc L i 2) S = some (b, S1)) (hth : m_thrown S1 = some kd) (hag : kd = 0 → v1 0 = b.toInt64) (kk : Xr G Y 2413 (bL L r i) [] (LWo (lc L S1 v1) T1)) : Xr G Y 1324 (bL L r i) [] (LWo (lc L S v) T) := by
  obtain ⟨M9, R9, T09, o9, T19⟩ := Y
  dsimp only at hM hD hle
  subst hM
  refine C.aload_n dL_law_1324 rfl 1 rfl ?_
  refine X.aload_n dL_law_1325 rfl 0 rfl ?_
  refine X.iload dL_law_1326 4 rfl ?_
  refine X.iconst (v := 1) dL_law_1328 (by decide) ?_
  refine X.iadd dL_law_1329 ?_
  refine X.iald (f := L.2.2.2.2) (n := L.2.2.2.1) dL_law_1330 (lc_s hL hn) (hi 1 (by decide)) ?_
  refine X.aload_n dL_law_1331 rfl 0 rfl ?_
  refine X.iload dL_law_1332 4 rfl ?_
  refine X.iconst (v := 2) dL_law_1334 (by decide) ?_
  refine X.iadd dL_law_1335 ?_
  refine X.iald (f := L.2.2.2.2) (n := L.2.2.2.1) dL_law_1336 (lc_s hL hn) (hi 2 (by decide)) ?_
  refine X.aload_n dL_law_1337 rfl 3 rfl ?_
  refine X.callSW (v := some (.int kd)) (As := [va_rf r, .int (sc L i 1), .int (sc L i 2), .ref (lo_ L)]) (rest := []) dL_law_1338 hs cL_189 rfl rfl (Nat.le_of_ble_eq_true rfl) ⟨by dsimp only; omega, by dsimp only; omega⟩ hx hle ?_
  refine C.ist (L' := [(5, .int kd), (0, .ref (ls_ L)), (1, va_rf r), (2, .ref (lm L)), (3, .ref (lo_ L)), (4, .int i)]) dL_law_1341 (Nat.le_of_ble_eq_true rfl) (xcQ (r := some _) (xcQ (xcQ (r := some _) (xcQ (r := some _) (xcI xcN))))) rfl ?_
  refine X.aload_n dL_law_1343 rfl 3 rfl ?_
  refine X.aload_n dL_law_1344 rfl 1 rfl ?_
  refine X.iload dL_law_1345 5 rfl ?_
  refine X.iconst (v := 1) dL_law_1347 (by decide) ?_
  refine X.iadd dL_law_1348 ?_
  refine X.iald (f := L.2.2.2.2) (n := L.2.2.2.1) dL_law_1349 (lc_s hL hn1) (hi 1 (by decide)) ?_
  refine X.aload_n dL_law_1350 rfl 1 rfl ?_
  refine X.iload dL_law_1351 5 rfl ?_
  refine X.iconst (v := 2) dL_law_1353 (by decide) ?_
  refine X.iadd dL_law_1354 ?_
  refine X.iald (f := L.2.2.2.2) (n := L.2.2.2.1) dL_law_1355 (lc_s hL hn1) (hi 2 (by decide)) ?_
  refine X.callVi (As := [.int (sc L i 1), .int (sc L i 2)]) (rest := []) dL_law_1356 (CtM.law (w_frost hm) (v := v1) (T := T1) hL hn1) cL_191 rfl rfl (Nat.le_of_ble_eq_true rfl) (lc_0 hL hn1) rfl rfl ⟨by dsimp only; omega, by dsimp only; omega⟩ xle.rf hle ?_
  refine C.ist (L' := [(6, .int b), (5, .int kd), (0, .ref (ls_ L)), (1, va_rf r), (2, .ref (lm L)), (3, .ref (lo_ L)), (4, .int i)]) dL_law_1359 (Nat.le_of_ble_eq_true rfl) (xcI (xcQ (r := some _) (xcQ (xcQ (r := some _) (xcQ (r := some _) (xcI xcN)))))) rfl ?_
  refine X.aload_n dL_law_1361 rfl 4 rfl ?_
  refine X.callVi (As := []) (rest := []) dL_law_1362 (CtM.law (w_thrown hth) (v := v1) (T := T1) hL hn1) cL_125 rfl rfl (Nat.le_of_ble_eq_true rfl) (lc_0 hL hn1) rfl rfl ⟨by dsimp only; omega, by dsimp only; omega⟩ xle.rf hle ?_
  refine X.iload dL_law_1365 1 rfl ?_
  refine X.icmp_eq (tgt := 1372) dL_law_1367 (by decide) (fun c => ?_) (fun c => absurd rfl c)
  refine X.iload dL_law_1372 1 rfl ?_
  refine X.if_ne (tgt := 1389) dL_law_1374 (by decide) (fun c => ?_) (fun c => ?_)
  · refine X.goto (tgt := 2413) dL_law_1389 (by decide) ?_
    refine X.sub [2, 3, 4, 5, 6] (L' := bL L r i) rfl ?_
    exact kk
  refine X.aload_n dL_law_1377 rfl 5 rfl ?_
  refine X.iconst (v := 0) dL_law_1378 (by decide) ?_
  refine X.lald dL_law_1379 (lc_o hn1) (fun q => by rcases q with q | q <;> revert q <;> decide) ?_
  refine X.iload dL_law_1380 0 rfl ?_
  refine X.i2l dL_law_1382 rfl ?_
  refine X.lcmp dL_law_1383 ?_
  refine X.if_eq (tgt := 1389) dL_law_1384 (by decide) (fun _ => ?_) (fun c3 => absurd (by show lg_cmp (v1 0) _ = 0; rw [hag c]; exact lgc _) c3)
  refine X.goto (tgt := 2413) dL_law_1389 (by decide) ?_
  refine X.sub [2, 3, 4, 5, 6] (L' := bL L r i) rfl ?_
  exact kk
theorem cL_192 : xCV RX0 192 mX1_counting 0 := ⟨lw_V q619 q620 q621 q121 q622, rfl, ⟨by decide +kernel, by decide +kernel, by decide +kernel⟩, Nat.le_of_ble_eq_true rfl⟩
theorem cL_195 : xCV RX0 195 mX4_counting 0 := ⟨lw_V q2104 q2105 q2106 q127 q2107, rfl, ⟨by decide +kernel, by decide +kernel, by decide +kernel⟩, Nat.le_of_ble_eq_true rfl⟩
theorem lk_21 {G : xG} {Y : xR} {L : xL} {S S1 : MS} {v v1 : Nat → Int64} {T T1 : xF} {r : Option Nat} {i a b kd : Int32} (hg : gR G = fun _ => none) (hM : Y.1 = mL_law) (hD : 300 ≤ Y.2.1.frames ∧ 64 * 300 ≤ Y.2.1.locals) (hL : LOK L) (hn : NN L T) (hi : ∀ j ∈ ([1, 2, 3, 4, 5] : List Int32), vp_in (i + j) L.2.2.2.1) (hr : isO T r 0 = true) (hn1 : NN L T1) (hx : xle T T1) (hle : xle T1 Y.2.2.2.2) (hs : Ct G mX1_counting 9 (LWo (lc L S v) T) (va_rf r :: []) (.inl (some (.int a))) (LWo (lc L S v) T1)) (hm : m_counting S = some (a, S1)) (kk : Xr G Y 2413 (bL L r i) [] (LWo (lc L S1 v) T1)) : Xr G Y 1392 (bL L r i) [] (LWo (lc L S v) T) := by
  obtain ⟨M9, R9, T09, o9, T19⟩ := Y
  dsimp only at hM hD hle
  subst hM
  refine C.aload_n dL_law_1392 rfl 1 rfl ?_
  refine C.Vi (As := []) (rest := []) dL_law_1393 hs cL_192 (isO_LW hr) rfl rfl (Nat.le_of_ble_eq_true rfl) rfl rfl ⟨by dsimp only; omega, by dsimp only; omega⟩ hx hle ?_
  refine X.aload_n dL_law_1396 rfl 2 rfl ?_
  refine X.callVi (As := []) (rest := [.int a]) dL_law_1397 (CtM.law (w_counting hm) (v := v) (T := T1) hL hn1) cL_195 rfl rfl (Nat.le_of_ble_eq_true rfl) (lc_0 hL hn1) rfl rfl ⟨by dsimp only; omega, by dsimp only; omega⟩ xle.rf hle ?_
  refine X.icmp_eq (tgt := 2413) dL_law_1400 (by decide) (fun c => ?_) (fun c => absurd rfl c)
  refine X.sub [0, 1, 2, 3, 4] (L' := bL L r i) rfl ?_
  exact kk
theorem cL_196 : xCV RX0 196 mX1_carry 0 := ⟨lw_V q663 q664 q665 q121 q666, rfl, ⟨by decide +kernel, by decide +kernel, by decide +kernel⟩, Nat.le_of_ble_eq_true rfl⟩
theorem cL_199 : xCV RX0 199 mX4_carry 0 := ⟨lw_V q2109 q2110 q2111 q127 q2112, rfl, ⟨by decide +kernel, by decide +kernel, by decide +kernel⟩, Nat.le_of_ble_eq_true rfl⟩
theorem lk_22 {G : xG} {Y : xR} {L : xL} {S S1 : MS} {v v1 : Nat → Int64} {T T1 : xF} {r : Option Nat} {i a b kd : Int32} (hg : gR G = fun _ => none) (hM : Y.1 = mL_law) (hD : 300 ≤ Y.2.1.frames ∧ 64 * 300 ≤ Y.2.1.locals) (hL : LOK L) (hn : NN L T) (hi : ∀ j ∈ ([1, 2, 3, 4, 5] : List Int32), vp_in (i + j) L.2.2.2.1) (hr : isO T r 0 = true) (hn1 : NN L T1) (hx : xle T T1) (hle : xle T1 Y.2.2.2.2) (hs : Ct G mX1_carry 7 (LWo (lc L S v) T) (va_rf r :: []) (.inl (some (.int a))) (LWo (lc L S v) T1)) (hm : m_carry S = some (a, S1)) (kk : Xr G Y 2413 (bL L r i) [] (LWo (lc L S1 v) T1)) : Xr G Y 1405 (bL L r i) [] (LWo (lc L S v) T) := by
  obtain ⟨M9, R9, T09, o9, T19⟩ := Y
  dsimp only at hM hD hle
  subst hM
  refine C.aload_n dL_law_1405 rfl 1 rfl ?_
  refine C.Vi (As := []) (rest := []) dL_law_1406 hs cL_196 (isO_LW hr) rfl rfl (Nat.le_of_ble_eq_true rfl) rfl rfl ⟨by dsimp only; omega, by dsimp only; omega⟩ hx hle ?_
  refine X.aload_n dL_law_1409 rfl 2 rfl ?_
  refine X.callVi (As := []) (rest := [.int a]) dL_law_1410 (CtM.law (w_carry hm) (v := v) (T := T1) hL hn1) cL_199 rfl rfl (Nat.le_of_ble_eq_true rfl) (lc_0 hL hn1) rfl rfl ⟨by dsimp only; omega, by dsimp only; omega⟩ xle.rf hle ?_
  refine X.icmp_eq (tgt := 2413) dL_law_1413 (by decide) (fun c => ?_) (fun c => absurd rfl c)
  refine X.sub [0, 1, 2, 3, 4] (L' := bL L r i) rfl ?_
  exact kk
theorem cL_200 : xCSW RX0 200 mX0_decisive 3 := ⟨_, _, rfl, lw_SW q1413 q1414 q120 q1415, ⟨by decide +kernel, by decide +kernel, by decide +kernel⟩, Nat.le_of_ble_eq_true rfl⟩
theorem cL_202 : xCV RX0 202 mX4_decisive 1 := ⟨lw_V q2124 q2125 q2126 q127 q2127, rfl, ⟨by decide +kernel, by decide +kernel, by decide +kernel⟩, Nat.le_of_ble_eq_true rfl⟩
theorem lk_23 {G : xG} {Y : xR} {L : xL} {S S1 : MS} {v v1 : Nat → Int64} {T T1 : xF} {r : Option Nat} {i a b kd : Int32} (hg : gR G = fun _ => none) (hM : Y.1 = mL_law) (hD : 300 ≤ Y.2.1.frames ∧ 64 * 300 ≤ Y.2.1.locals) (hL : LOK L) (hn : NN L T) (hi : ∀ j ∈ ([1, 2, 3, 4, 5] : List Int32), vp_in (i + j) L.2.2.2.1) (hr : isO T r 0 = true) (hn1 : NN L T1) (hx : xle T T1) (hle : xle T1 Y.2.2.2.2) (hs : Ct G mX0_decisive 11 (LWo (lc L S v) T) [va_rf r, .int (sc L i 1), .ref (lo_ L)] (.inl (some (.int kd))) (LWo (lc L S v1) T1)) (hm : m_decisive (sc L i 1) S = some (b, S1)) (hth : m_thrown S1 = some kd) (hag : kd = 0 → v1 0 = b.toInt64) (kk : Xr G Y 2413 (bL L r i) [] (LWo (lc L S1 v1) T1)) : Xr G Y 1418 (bL L r i) [] (LWo (lc L S v) T) := by
  obtain ⟨M9, R9, T09, o9, T19⟩ := Y
  dsimp only at hM hD hle
  subst hM
  refine C.aload_n dL_law_1418 rfl 1 rfl ?_
  refine X.aload_n dL_law_1419 rfl 0 rfl ?_
  refine X.iload dL_law_1420 4 rfl ?_
  refine X.iconst (v := 1) dL_law_1422 (by decide) ?_
  refine X.iadd dL_law_1423 ?_
  refine X.iald (f := L.2.2.2.2) (n := L.2.2.2.1) dL_law_1424 (lc_s hL hn) (hi 1 (by decide)) ?_
  refine X.aload_n dL_law_1425 rfl 3 rfl ?_
  refine X.callSW (v := some (.int kd)) (As := [va_rf r, .int (sc L i 1), .ref (lo_ L)]) (rest := []) dL_law_1426 hs cL_200 rfl rfl (Nat.le_of_ble_eq_true rfl) ⟨by dsimp only; omega, by dsimp only; omega⟩ hx hle ?_
  refine C.ist (L' := [(5, .int kd), (0, .ref (ls_ L)), (1, va_rf r), (2, .ref (lm L)), (3, .ref (lo_ L)), (4, .int i)]) dL_law_1429 (Nat.le_of_ble_eq_true rfl) (xcQ (r := some _) (xcQ (xcQ (r := some _) (xcQ (r := some _) (xcI xcN))))) rfl ?_
  refine X.aload_n dL_law_1431 rfl 3 rfl ?_
  refine X.aload_n dL_law_1432 rfl 1 rfl ?_
  refine X.iload dL_law_1433 5 rfl ?_
  refine X.iconst (v := 1) dL_law_1435 (by decide) ?_
  refine X.iadd dL_law_1436 ?_
  refine X.iald (f := L.2.2.2.2) (n := L.2.2.2.1) dL_law_1437 (lc_s hL hn1) (hi 1 (by decide)) ?_
  refine X.callVi (As := [.int (sc L i 1)]) (rest := []) dL_law_1438 (CtM.law (w_decisive hm) (v := v1) (T := T1) hL hn1) cL_202 rfl rfl (Nat.le_of_ble_eq_true rfl) (lc_0 hL hn1) rfl rfl ⟨by dsimp only; omega, by dsimp only; omega⟩ xle.rf hle ?_
  refine C.ist (L' := [(6, .int b), (5, .int kd), (0, .ref (ls_ L)), (1, va_rf r), (2, .ref (lm L)), (3, .ref (lo_ L)), (4, .int i)]) dL_law_1441 (Nat.le_of_ble_eq_true rfl) (xcI (xcQ (r := some _) (xcQ (xcQ (r := some _) (xcQ (r := some _) (xcI xcN)))))) rfl ?_
  refine X.aload_n dL_law_1443 rfl 4 rfl ?_
  refine X.callVi (As := []) (rest := []) dL_law_1444 (CtM.law (w_thrown hth) (v := v1) (T := T1) hL hn1) cL_125 rfl rfl (Nat.le_of_ble_eq_true rfl) (lc_0 hL hn1) rfl rfl ⟨by dsimp only; omega, by dsimp only; omega⟩ xle.rf hle ?_
  refine X.iload dL_law_1447 1 rfl ?_
  refine X.icmp_eq (tgt := 1454) dL_law_1449 (by decide) (fun c => ?_) (fun c => absurd rfl c)
  refine X.iload dL_law_1454 1 rfl ?_
  refine X.if_ne (tgt := 1471) dL_law_1456 (by decide) (fun c => ?_) (fun c => ?_)
  · refine X.goto (tgt := 2413) dL_law_1471 (by decide) ?_
    refine X.sub [2, 3, 4, 5, 6] (L' := bL L r i) rfl ?_
    exact kk
  refine X.aload_n dL_law_1459 rfl 5 rfl ?_
  refine X.iconst (v := 0) dL_law_1460 (by decide) ?_
  refine X.lald dL_law_1461 (lc_o hn1) (fun q => by rcases q with q | q <;> revert q <;> decide) ?_
  refine X.iload dL_law_1462 0 rfl ?_
  refine X.i2l dL_law_1464 rfl ?_
  refine X.lcmp dL_law_1465 ?_
  refine X.if_eq (tgt := 1471) dL_law_1466 (by decide) (fun _ => ?_) (fun c3 => absurd (by show lg_cmp (v1 0) _ = 0; rw [hag c]; exact lgc _) c3)
  refine X.goto (tgt := 2413) dL_law_1471 (by decide) ?_
  refine X.sub [2, 3, 4, 5, 6] (L' := bL L r i) rfl ?_
  exact kk
theorem cL_203 : xCSW RX0 203 mX0_see 5 := ⟨_, _, rfl, lw_SW q1420 q1421 q120 q1422, ⟨by decide +kernel, by decide +kernel, by decide +kernel⟩, Nat.le_of_ble_eq_true rfl⟩
theorem cL_205 : xCV RX0 205 mX4_see 3 := ⟨lw_V q2128 q2129 q2130 q127 q2131, rfl, ⟨by decide +kernel, by decide +kernel, by decide +kernel⟩, Nat.le_of_ble_eq_true rfl⟩
theorem lk_24 {G : xG} {Y : xR} {L : xL} {S S1 : MS} {v v1 : Nat → Int64} {T T1 : xF} {r : Option Nat} {i a b kd : Int32} (hg : gR G = fun _ => none) (hM : Y.1 = mL_law) (hD : 300 ≤ Y.2.1.frames ∧ 64 * 300 ≤ Y.2.1.locals) (hL : LOK L) (hn : NN L T) (hi : ∀ j ∈ ([1, 2, 3, 4, 5] : List Int32), vp_in (i + j) L.2.2.2.1) (hr : isO T r 0 = true) (hn1 : NN L T1) (hx : xle T T1) (hle : xle T1 Y.2.2.2.2) (hs : Ct G mX0_see 10 (LWo (lc L S v) T) [va_rf r, .int (sc L i 1), .int (sc L i 2), .int (sc L i 3), .ref (lo_ L)] (.inl (some (.int kd))) (LWo (lc L S v1) T1)) (hm : m_see (sc L i 1) (sc L i 2) (sc L i 3) S = some (b, S1)) (hth : m_thrown S1 = some kd) (hag : kd = 0 → v1 0 = b.toInt64) (kk : Xr G Y 2413 (bL L r i) [] (LWo (lc L S1 v1) T1)) : Xr G Y 1474 (bL L r i) [] (LWo (lc L S v) T) := by
  obtain ⟨M9, R9, T09, o9, T19⟩ := Y
  dsimp only at hM hD hle
  subst hM
  refine C.aload_n dL_law_1474 rfl 1 rfl ?_
  refine X.aload_n dL_law_1475 rfl 0 rfl ?_
  refine X.iload dL_law_1476 4 rfl ?_
  refine X.iconst (v := 1) dL_law_1478 (by decide) ?_
  refine X.iadd dL_law_1479 ?_
  refine X.iald (f := L.2.2.2.2) (n := L.2.2.2.1) dL_law_1480 (lc_s hL hn) (hi 1 (by decide)) ?_
  refine X.aload_n dL_law_1481 rfl 0 rfl ?_
  refine X.iload dL_law_1482 4 rfl ?_
  refine X.iconst (v := 2) dL_law_1484 (by decide) ?_
  refine X.iadd dL_law_1485 ?_
  refine X.iald (f := L.2.2.2.2) (n := L.2.2.2.1) dL_law_1486 (lc_s hL hn) (hi 2 (by decide)) ?_
  refine X.aload_n dL_law_1487 rfl 0 rfl ?_
  refine X.iload dL_law_1488 4 rfl ?_
  refine X.iconst (v := 3) dL_law_1490 (by decide) ?_
  refine X.iadd dL_law_1491 ?_
  refine X.iald (f := L.2.2.2.2) (n := L.2.2.2.1) dL_law_1492 (lc_s hL hn) (hi 3 (by decide)) ?_
  refine X.aload_n dL_law_1493 rfl 3 rfl ?_
  refine X.callSW (v := some (.int kd)) (As := [va_rf r, .int (sc L i 1), .int (sc L i 2), .int (sc L i 3), .ref (lo_ L)]) (rest := []) dL_law_1494 hs cL_203 rfl rfl (Nat.le_of_ble_eq_true rfl) ⟨by dsimp only; omega, by dsimp only; omega⟩ hx hle ?_
  refine C.ist (L' := [(5, .int kd), (0, .ref (ls_ L)), (1, va_rf r), (2, .ref (lm L)), (3, .ref (lo_ L)), (4, .int i)]) dL_law_1497 (Nat.le_of_ble_eq_true rfl) (xcQ (r := some _) (xcQ (xcQ (r := some _) (xcQ (r := some _) (xcI xcN))))) rfl ?_
  refine X.aload_n dL_law_1499 rfl 3 rfl ?_
  refine X.aload_n dL_law_1500 rfl 1 rfl ?_
  refine X.iload dL_law_1501 5 rfl ?_
  refine X.iconst (v := 1) dL_law_1503 (by decide) ?_
  refine X.iadd dL_law_1504 ?_
  refine X.iald (f := L.2.2.2.2) (n := L.2.2.2.1) dL_law_1505 (lc_s hL hn1) (hi 1 (by decide)) ?_
  refine X.aload_n dL_law_1506 rfl 1 rfl ?_
  refine X.iload dL_law_1507 5 rfl ?_
  refine X.iconst (v := 2) dL_law_1509 (by decide) ?_
  refine X.iadd dL_law_1510 ?_
  refine X.iald (f := L.2.2.2.2) (n := L.2.2.2.1) dL_law_1511 (lc_s hL hn1) (hi 2 (by decide)) ?_
  refine X.aload_n dL_law_1512 rfl 1 rfl ?_
  refine X.iload dL_law_1513 5 rfl ?_
  refine X.iconst (v := 3) dL_law_1515 (by decide) ?_
  refine X.iadd dL_law_1516 ?_
  refine X.iald (f := L.2.2.2.2) (n := L.2.2.2.1) dL_law_1517 (lc_s hL hn1) (hi 3 (by decide)) ?_
  refine X.callVi (As := [.int (sc L i 1), .int (sc L i 2), .int (sc L i 3)]) (rest := []) dL_law_1518 (CtM.law (w_see hm) (v := v1) (T := T1) hL hn1) cL_205 rfl rfl (Nat.le_of_ble_eq_true rfl) (lc_0 hL hn1) rfl rfl ⟨by dsimp only; omega, by dsimp only; omega⟩ xle.rf hle ?_
  refine C.ist (L' := [(6, .int b), (5, .int kd), (0, .ref (ls_ L)), (1, va_rf r), (2, .ref (lm L)), (3, .ref (lo_ L)), (4, .int i)]) dL_law_1521 (Nat.le_of_ble_eq_true rfl) (xcI (xcQ (r := some _) (xcQ (xcQ (r := some _) (xcQ (r := some _) (xcI xcN)))))) rfl ?_
  refine X.aload_n dL_law_1523 rfl 4 rfl ?_
  refine X.callVi (As := []) (rest := []) dL_law_1524 (CtM.law (w_thrown hth) (v := v1) (T := T1) hL hn1) cL_125 rfl rfl (Nat.le_of_ble_eq_true rfl) (lc_0 hL hn1) rfl rfl ⟨by dsimp only; omega, by dsimp only; omega⟩ xle.rf hle ?_
  refine X.iload dL_law_1527 1 rfl ?_
  refine X.icmp_eq (tgt := 1534) dL_law_1529 (by decide) (fun c => ?_) (fun c => absurd rfl c)
  refine X.iload dL_law_1534 1 rfl ?_
  refine X.if_ne (tgt := 1551) dL_law_1536 (by decide) (fun c => ?_) (fun c => ?_)
  · refine X.goto (tgt := 2413) dL_law_1551 (by decide) ?_
    refine X.sub [2, 3, 4, 5, 6] (L' := bL L r i) rfl ?_
    exact kk
  refine X.aload_n dL_law_1539 rfl 5 rfl ?_
  refine X.iconst (v := 0) dL_law_1540 (by decide) ?_
  refine X.lald dL_law_1541 (lc_o hn1) (fun q => by rcases q with q | q <;> revert q <;> decide) ?_
  refine X.iload dL_law_1542 0 rfl ?_
  refine X.i2l dL_law_1544 rfl ?_
  refine X.lcmp dL_law_1545 ?_
  refine X.if_eq (tgt := 1551) dL_law_1546 (by decide) (fun _ => ?_) (fun c3 => absurd (by show lg_cmp (v1 0) _ = 0; rw [hag c]; exact lgc _) c3)
  refine X.goto (tgt := 2413) dL_law_1551 (by decide) ?_
  refine X.sub [2, 3, 4, 5, 6] (L' := bL L r i) rfl ?_
  exact kk
theorem cL_206 : xCV RX0 206 mX1_forget 0 := ⟨lw_V q694 q695 q696 q121 q697, rfl, ⟨by decide +kernel, by decide +kernel, by decide +kernel⟩, Nat.le_of_ble_eq_true rfl⟩
theorem cL_209 : xCV RX0 209 mX4_forget 0 := ⟨lw_V q2132 q2133 q2134 q127 q2135, rfl, ⟨by decide +kernel, by decide +kernel, by decide +kernel⟩, Nat.le_of_ble_eq_true rfl⟩
theorem lk_25 {G : xG} {Y : xR} {L : xL} {S S1 : MS} {v v1 : Nat → Int64} {T T1 : xF} {r : Option Nat} {i a b kd : Int32} (hg : gR G = fun _ => none) (hM : Y.1 = mL_law) (hD : 300 ≤ Y.2.1.frames ∧ 64 * 300 ≤ Y.2.1.locals) (hL : LOK L) (hn : NN L T) (hi : ∀ j ∈ ([1, 2, 3, 4, 5] : List Int32), vp_in (i + j) L.2.2.2.1) (hr : isO T r 0 = true) (hn1 : NN L T1) (hx : xle T T1) (hle : xle T1 Y.2.2.2.2) (hs : Ct G mX1_forget 4 (LWo (lc L S v) T) (va_rf r :: []) (.inl none) (LWo (lc L S v) T1)) (hm : m_forget S = some S1) (kk : Xr G Y 2413 (bL L r i) [] (LWo (lc L S1 v) T1)) : Xr G Y 1554 (bL L r i) [] (LWo (lc L S v) T) := by
  obtain ⟨M9, R9, T09, o9, T19⟩ := Y
  dsimp only at hM hD hle
  subst hM
  refine C.aload_n dL_law_1554 rfl 1 rfl ?_
  refine C.Vv (As := []) (rest := []) dL_law_1555 hs cL_206 (isO_LW hr) rfl rfl (Nat.le_of_ble_eq_true rfl) rfl rfl ⟨by dsimp only; omega, by dsimp only; omega⟩ hx hle ?_
  refine X.aload_n dL_law_1558 rfl 2 rfl ?_
  refine X.callVv (As := []) (rest := []) dL_law_1559 (CtM.law (w_forget hm) (v := v) (T := T1) hL hn1) cL_209 rfl rfl (Nat.le_of_ble_eq_true rfl) (lc_0 hL hn1) rfl rfl ⟨by dsimp only; omega, by dsimp only; omega⟩ xle.rf hle ?_
  refine X.goto (tgt := 2413) dL_law_1562 (by decide) ?_
  refine X.sub [0, 1, 2, 3, 4] (L' := bL L r i) rfl ?_
  exact kk
theorem cL_210 : xCSW RX0 210 mX0_sown 3 := ⟨_, _, rfl, lw_SW q1427 q1428 q120 q1429, ⟨by decide +kernel, by decide +kernel, by decide +kernel⟩, Nat.le_of_ble_eq_true rfl⟩
theorem cL_212 : xCV RX0 212 mX4_sown 1 := ⟨lw_V q2136 q2137 q2138 q127 q2139, rfl, ⟨by decide +kernel, by decide +kernel, by decide +kernel⟩, Nat.le_of_ble_eq_true rfl⟩
theorem lk_26 {G : xG} {Y : xR} {L : xL} {S S1 : MS} {v v1 : Nat → Int64} {T T1 : xF} {r : Option Nat} {i a b kd : Int32} (hg : gR G = fun _ => none) (hM : Y.1 = mL_law) (hD : 300 ≤ Y.2.1.frames ∧ 64 * 300 ≤ Y.2.1.locals) (hL : LOK L) (hn : NN L T) (hi : ∀ j ∈ ([1, 2, 3, 4, 5] : List Int32), vp_in (i + j) L.2.2.2.1) (hr : isO T r 0 = true) (hn1 : NN L T1) (hx : xle T T1) (hle : xle T1 Y.2.2.2.2) (hs : Ct G mX0_sown 128 (LWo (lc L S v) T) [va_rf r, .int (sc L i 1), .ref (lo_ L)] (.inl (some (.int kd))) (LWo (lc L S v1) T1)) (hm : m_sown (sc L i 1) S = some (b, S1)) (hth : m_thrown S1 = some kd) (hag : kd = 0 → v1 0 = b.toInt64) (kk : Xr G Y 2413 (bL L r i) [] (LWo (lc L S1 v1) T1)) : Xr G Y 1565 (bL L r i) [] (LWo (lc L S v) T) := by
  obtain ⟨M9, R9, T09, o9, T19⟩ := Y
  dsimp only at hM hD hle
  subst hM
  refine C.aload_n dL_law_1565 rfl 1 rfl ?_
  refine X.aload_n dL_law_1566 rfl 0 rfl ?_
  refine X.iload dL_law_1567 4 rfl ?_
  refine X.iconst (v := 1) dL_law_1569 (by decide) ?_
  refine X.iadd dL_law_1570 ?_
  refine X.iald (f := L.2.2.2.2) (n := L.2.2.2.1) dL_law_1571 (lc_s hL hn) (hi 1 (by decide)) ?_
  refine X.aload_n dL_law_1572 rfl 3 rfl ?_
  refine X.callSW (v := some (.int kd)) (As := [va_rf r, .int (sc L i 1), .ref (lo_ L)]) (rest := []) dL_law_1573 hs cL_210 rfl rfl (Nat.le_of_ble_eq_true rfl) ⟨by dsimp only; omega, by dsimp only; omega⟩ hx hle ?_
  refine C.ist (L' := [(5, .int kd), (0, .ref (ls_ L)), (1, va_rf r), (2, .ref (lm L)), (3, .ref (lo_ L)), (4, .int i)]) dL_law_1576 (Nat.le_of_ble_eq_true rfl) (xcQ (r := some _) (xcQ (xcQ (r := some _) (xcQ (r := some _) (xcI xcN))))) rfl ?_
  refine X.aload_n dL_law_1578 rfl 3 rfl ?_
  refine X.aload_n dL_law_1579 rfl 1 rfl ?_
  refine X.iload dL_law_1580 5 rfl ?_
  refine X.iconst (v := 1) dL_law_1582 (by decide) ?_
  refine X.iadd dL_law_1583 ?_
  refine X.iald (f := L.2.2.2.2) (n := L.2.2.2.1) dL_law_1584 (lc_s hL hn1) (hi 1 (by decide)) ?_
  refine X.callVi (As := [.int (sc L i 1)]) (rest := []) dL_law_1585 (CtM.law (w_sown hm) (v := v1) (T := T1) hL hn1) cL_212 rfl rfl (Nat.le_of_ble_eq_true rfl) (lc_0 hL hn1) rfl rfl ⟨by dsimp only; omega, by dsimp only; omega⟩ xle.rf hle ?_
  refine C.ist (L' := [(6, .int b), (5, .int kd), (0, .ref (ls_ L)), (1, va_rf r), (2, .ref (lm L)), (3, .ref (lo_ L)), (4, .int i)]) dL_law_1588 (Nat.le_of_ble_eq_true rfl) (xcI (xcQ (r := some _) (xcQ (xcQ (r := some _) (xcQ (r := some _) (xcI xcN)))))) rfl ?_
  refine X.aload_n dL_law_1590 rfl 4 rfl ?_
  refine X.callVi (As := []) (rest := []) dL_law_1591 (CtM.law (w_thrown hth) (v := v1) (T := T1) hL hn1) cL_125 rfl rfl (Nat.le_of_ble_eq_true rfl) (lc_0 hL hn1) rfl rfl ⟨by dsimp only; omega, by dsimp only; omega⟩ xle.rf hle ?_
  refine X.iload dL_law_1594 1 rfl ?_
  refine X.icmp_eq (tgt := 1601) dL_law_1596 (by decide) (fun c => ?_) (fun c => absurd rfl c)
  refine X.iload dL_law_1601 1 rfl ?_
  refine X.if_ne (tgt := 1618) dL_law_1603 (by decide) (fun c => ?_) (fun c => ?_)
  · refine X.goto (tgt := 2413) dL_law_1618 (by decide) ?_
    refine X.sub [2, 3, 4, 5, 6] (L' := bL L r i) rfl ?_
    exact kk
  refine X.aload_n dL_law_1606 rfl 5 rfl ?_
  refine X.iconst (v := 0) dL_law_1607 (by decide) ?_
  refine X.lald dL_law_1608 (lc_o hn1) (fun q => by rcases q with q | q <;> revert q <;> decide) ?_
  refine X.iload dL_law_1609 0 rfl ?_
  refine X.i2l dL_law_1611 rfl ?_
  refine X.lcmp dL_law_1612 ?_
  refine X.if_eq (tgt := 1618) dL_law_1613 (by decide) (fun _ => ?_) (fun c3 => absurd (by show lg_cmp (v1 0) _ = 0; rw [hag c]; exact lgc _) c3)
  refine X.goto (tgt := 2413) dL_law_1618 (by decide) ?_
  refine X.sub [2, 3, 4, 5, 6] (L' := bL L r i) rfl ?_
  exact kk
theorem cL_213 : xCSW RX0 213 mX0_next 3 := ⟨_, _, rfl, lw_SW q1448 q1449 q120 q1450, ⟨by decide +kernel, by decide +kernel, by decide +kernel⟩, Nat.le_of_ble_eq_true rfl⟩
theorem cL_215 : xCV RX0 215 mX4_next 1 := ⟨lw_V q2148 q2149 q2150 q127 q2151, rfl, ⟨by decide +kernel, by decide +kernel, by decide +kernel⟩, Nat.le_of_ble_eq_true rfl⟩
theorem lk_27 {G : xG} {Y : xR} {L : xL} {S S1 : MS} {v v1 : Nat → Int64} {T T1 : xF} {r : Option Nat} {i a b kd : Int32} (hg : gR G = fun _ => none) (hM : Y.1 = mL_law) (hD : 300 ≤ Y.2.1.frames ∧ 64 * 300 ≤ Y.2.1.locals) (hL : LOK L) (hn : NN L T) (hi : ∀ j ∈ ([1, 2, 3, 4, 5] : List Int32), vp_in (i + j) L.2.2.2.1) (hr : isO T r 0 = true) (hn1 : NN L T1) (hx : xle T T1) (hle : xle T1 Y.2.2.2.2) (hs : Ct G mX0_next 128 (LWo (lc L S v) T) [va_rf r, .int (sc L i 1), .ref (lo_ L)] (.inl (some (.int kd))) (LWo (lc L S v1) T1)) (hm : m_next (sc L i 1) S = some (b, S1)) (hth : m_thrown S1 = some kd) (hag : kd = 0 → v1 0 = b.toInt64) (kk : Xr G Y 2413 (bL L r i) [] (LWo (lc L S1 v1) T1)) : Xr G Y 1621 (bL L r i) [] (LWo (lc L S v) T) := by
  obtain ⟨M9, R9, T09, o9, T19⟩ := Y
  dsimp only at hM hD hle
  subst hM
  refine C.aload_n dL_law_1621 rfl 1 rfl ?_
  refine X.aload_n dL_law_1622 rfl 0 rfl ?_
  refine X.iload dL_law_1623 4 rfl ?_
  refine X.iconst (v := 1) dL_law_1625 (by decide) ?_
  refine X.iadd dL_law_1626 ?_
  refine X.iald (f := L.2.2.2.2) (n := L.2.2.2.1) dL_law_1627 (lc_s hL hn) (hi 1 (by decide)) ?_
  refine X.aload_n dL_law_1628 rfl 3 rfl ?_
  refine X.callSW (v := some (.int kd)) (As := [va_rf r, .int (sc L i 1), .ref (lo_ L)]) (rest := []) dL_law_1629 hs cL_213 rfl rfl (Nat.le_of_ble_eq_true rfl) ⟨by dsimp only; omega, by dsimp only; omega⟩ hx hle ?_
  refine C.ist (L' := [(5, .int kd), (0, .ref (ls_ L)), (1, va_rf r), (2, .ref (lm L)), (3, .ref (lo_ L)), (4, .int i)]) dL_law_1632 (Nat.le_of_ble_eq_true rfl) (xcQ (r := some _) (xcQ (xcQ (r := some _) (xcQ (r := some _) (xcI xcN))))) rfl ?_
  refine X.aload_n dL_law_1634 rfl 3 rfl ?_
  refine X.aload_n dL_law_1635 rfl 1 rfl ?_
  refine X.iload dL_law_1636 5 rfl ?_
  refine X.iconst (v := 1) dL_law_1638 (by decide) ?_
  refine X.iadd dL_law_1639 ?_
  refine X.iald (f := L.2.2.2.2) (n := L.2.2.2.1) dL_law_1640 (lc_s hL hn1) (hi 1 (by decide)) ?_
  refine X.callVi (As := [.int (sc L i 1)]) (rest := []) dL_law_1641 (CtM.law (w_next hm) (v := v1) (T := T1) hL hn1) cL_215 rfl rfl (Nat.le_of_ble_eq_true rfl) (lc_0 hL hn1) rfl rfl ⟨by dsimp only; omega, by dsimp only; omega⟩ xle.rf hle ?_
  refine C.ist (L' := [(6, .int b), (5, .int kd), (0, .ref (ls_ L)), (1, va_rf r), (2, .ref (lm L)), (3, .ref (lo_ L)), (4, .int i)]) dL_law_1644 (Nat.le_of_ble_eq_true rfl) (xcI (xcQ (r := some _) (xcQ (xcQ (r := some _) (xcQ (r := some _) (xcI xcN)))))) rfl ?_
  refine X.aload_n dL_law_1646 rfl 4 rfl ?_
  refine X.callVi (As := []) (rest := []) dL_law_1647 (CtM.law (w_thrown hth) (v := v1) (T := T1) hL hn1) cL_125 rfl rfl (Nat.le_of_ble_eq_true rfl) (lc_0 hL hn1) rfl rfl ⟨by dsimp only; omega, by dsimp only; omega⟩ xle.rf hle ?_
  refine X.iload dL_law_1650 1 rfl ?_
  refine X.icmp_eq (tgt := 1657) dL_law_1652 (by decide) (fun c => ?_) (fun c => absurd rfl c)
  refine X.iload dL_law_1657 1 rfl ?_
  refine X.if_ne (tgt := 1674) dL_law_1659 (by decide) (fun c => ?_) (fun c => ?_)
  · refine X.goto (tgt := 2413) dL_law_1674 (by decide) ?_
    refine X.sub [2, 3, 4, 5, 6] (L' := bL L r i) rfl ?_
    exact kk
  refine X.aload_n dL_law_1662 rfl 5 rfl ?_
  refine X.iconst (v := 0) dL_law_1663 (by decide) ?_
  refine X.lald dL_law_1664 (lc_o hn1) (fun q => by rcases q with q | q <;> revert q <;> decide) ?_
  refine X.iload dL_law_1665 0 rfl ?_
  refine X.i2l dL_law_1667 rfl ?_
  refine X.lcmp dL_law_1668 ?_
  refine X.if_eq (tgt := 1674) dL_law_1669 (by decide) (fun _ => ?_) (fun c3 => absurd (by show lg_cmp (v1 0) _ = 0; rw [hag c]; exact lgc _) c3)
  refine X.goto (tgt := 2413) dL_law_1674 (by decide) ?_
  refine X.sub [2, 3, 4, 5, 6] (L' := bL L r i) rfl ?_
  exact kk
theorem cL_216 : xCSW RX0 216 mX0_frosts 5 := ⟨_, _, rfl, lw_SW q1455 q1456 q120 q1457, ⟨by decide +kernel, by decide +kernel, by decide +kernel⟩, Nat.le_of_ble_eq_true rfl⟩
theorem cL_218 : xCV RX0 218 mX4_frosts 3 := ⟨lw_V q2152 q2153 q2154 q127 q2155, rfl, ⟨by decide +kernel, by decide +kernel, by decide +kernel⟩, Nat.le_of_ble_eq_true rfl⟩
theorem lk_28 {G : xG} {Y : xR} {L : xL} {S S1 : MS} {v v1 : Nat → Int64} {T T1 : xF} {r : Option Nat} {i a b kd : Int32} (hg : gR G = fun _ => none) (hM : Y.1 = mL_law) (hD : 300 ≤ Y.2.1.frames ∧ 64 * 300 ≤ Y.2.1.locals) (hL : LOK L) (hn : NN L T) (hi : ∀ j ∈ ([1, 2, 3, 4, 5] : List Int32), vp_in (i + j) L.2.2.2.1) (hr : isO T r 0 = true) (hn1 : NN L T1) (hx : xle T T1) (hle : xle T1 Y.2.2.2.2) (hs : Ct G mX0_frosts 126 (LWo (lc L S v) T) [va_rf r, .int (sc L i 1), .int (sc L i 2), .int (sc L i 3), .ref (lo_ L)] (.inl (some (.int kd))) (LWo (lc L S v1) T1)) (hm : m_frosts (sc L i 1) (sc L i 2) (sc L i 3) S = some (b, S1)) (hth : m_thrown S1 = some kd) (hag : kd = 0 → v1 0 = b.toInt64) (kk : Xr G Y 2413 (bL L r i) [] (LWo (lc L S1 v1) T1)) : Xr G Y 1677 (bL L r i) [] (LWo (lc L S v) T) := by
  obtain ⟨M9, R9, T09, o9, T19⟩ := Y
  dsimp only at hM hD hle
  subst hM
  refine C.aload_n dL_law_1677 rfl 1 rfl ?_
  refine X.aload_n dL_law_1678 rfl 0 rfl ?_
  refine X.iload dL_law_1679 4 rfl ?_
  refine X.iconst (v := 1) dL_law_1681 (by decide) ?_
  refine X.iadd dL_law_1682 ?_
  refine X.iald (f := L.2.2.2.2) (n := L.2.2.2.1) dL_law_1683 (lc_s hL hn) (hi 1 (by decide)) ?_
  refine X.aload_n dL_law_1684 rfl 0 rfl ?_
  refine X.iload dL_law_1685 4 rfl ?_
  refine X.iconst (v := 2) dL_law_1687 (by decide) ?_
  refine X.iadd dL_law_1688 ?_
  refine X.iald (f := L.2.2.2.2) (n := L.2.2.2.1) dL_law_1689 (lc_s hL hn) (hi 2 (by decide)) ?_
  refine X.aload_n dL_law_1690 rfl 0 rfl ?_
  refine X.iload dL_law_1691 4 rfl ?_
  refine X.iconst (v := 3) dL_law_1693 (by decide) ?_
  refine X.iadd dL_law_1694 ?_
  refine X.iald (f := L.2.2.2.2) (n := L.2.2.2.1) dL_law_1695 (lc_s hL hn) (hi 3 (by decide)) ?_
  refine X.aload_n dL_law_1696 rfl 3 rfl ?_
  refine X.callSW (v := some (.int kd)) (As := [va_rf r, .int (sc L i 1), .int (sc L i 2), .int (sc L i 3), .ref (lo_ L)]) (rest := []) dL_law_1697 hs cL_216 rfl rfl (Nat.le_of_ble_eq_true rfl) ⟨by dsimp only; omega, by dsimp only; omega⟩ hx hle ?_
  refine C.ist (L' := [(5, .int kd), (0, .ref (ls_ L)), (1, va_rf r), (2, .ref (lm L)), (3, .ref (lo_ L)), (4, .int i)]) dL_law_1700 (Nat.le_of_ble_eq_true rfl) (xcQ (r := some _) (xcQ (xcQ (r := some _) (xcQ (r := some _) (xcI xcN))))) rfl ?_
  refine X.aload_n dL_law_1702 rfl 3 rfl ?_
  refine X.aload_n dL_law_1703 rfl 1 rfl ?_
  refine X.iload dL_law_1704 5 rfl ?_
  refine X.iconst (v := 1) dL_law_1706 (by decide) ?_
  refine X.iadd dL_law_1707 ?_
  refine X.iald (f := L.2.2.2.2) (n := L.2.2.2.1) dL_law_1708 (lc_s hL hn1) (hi 1 (by decide)) ?_
  refine X.aload_n dL_law_1709 rfl 1 rfl ?_
  refine X.iload dL_law_1710 5 rfl ?_
  refine X.iconst (v := 2) dL_law_1712 (by decide) ?_
  refine X.iadd dL_law_1713 ?_
  refine X.iald (f := L.2.2.2.2) (n := L.2.2.2.1) dL_law_1714 (lc_s hL hn1) (hi 2 (by decide)) ?_
  refine X.aload_n dL_law_1715 rfl 1 rfl ?_
  refine X.iload dL_law_1716 5 rfl ?_
  refine X.iconst (v := 3) dL_law_1718 (by decide) ?_
  refine X.iadd dL_law_1719 ?_
  refine X.iald (f := L.2.2.2.2) (n := L.2.2.2.1) dL_law_1720 (lc_s hL hn1) (hi 3 (by decide)) ?_
  refine X.callVi (As := [.int (sc L i 1), .int (sc L i 2), .int (sc L i 3)]) (rest := []) dL_law_1721 (CtM.law (w_frosts hm) (v := v1) (T := T1) hL hn1) cL_218 rfl rfl (Nat.le_of_ble_eq_true rfl) (lc_0 hL hn1) rfl rfl ⟨by dsimp only; omega, by dsimp only; omega⟩ xle.rf hle ?_
  refine C.ist (L' := [(6, .int b), (5, .int kd), (0, .ref (ls_ L)), (1, va_rf r), (2, .ref (lm L)), (3, .ref (lo_ L)), (4, .int i)]) dL_law_1724 (Nat.le_of_ble_eq_true rfl) (xcI (xcQ (r := some _) (xcQ (xcQ (r := some _) (xcQ (r := some _) (xcI xcN)))))) rfl ?_
  refine X.aload_n dL_law_1726 rfl 4 rfl ?_
  refine X.callVi (As := []) (rest := []) dL_law_1727 (CtM.law (w_thrown hth) (v := v1) (T := T1) hL hn1) cL_125 rfl rfl (Nat.le_of_ble_eq_true rfl) (lc_0 hL hn1) rfl rfl ⟨by dsimp only; omega, by dsimp only; omega⟩ xle.rf hle ?_
  refine X.iload dL_law_1730 1 rfl ?_
  refine X.icmp_eq (tgt := 1737) dL_law_1732 (by decide) (fun c => ?_) (fun c => absurd rfl c)
  refine X.iload dL_law_1737 1 rfl ?_
  refine X.if_ne (tgt := 1754) dL_law_1739 (by decide) (fun c => ?_) (fun c => ?_)
  · refine X.goto (tgt := 2413) dL_law_1754 (by decide) ?_
    refine X.sub [2, 3, 4, 5, 6] (L' := bL L r i) rfl ?_
    exact kk
  refine X.aload_n dL_law_1742 rfl 5 rfl ?_
  refine X.iconst (v := 0) dL_law_1743 (by decide) ?_
  refine X.lald dL_law_1744 (lc_o hn1) (fun q => by rcases q with q | q <;> revert q <;> decide) ?_
  refine X.iload dL_law_1745 0 rfl ?_
  refine X.i2l dL_law_1747 rfl ?_
  refine X.lcmp dL_law_1748 ?_
  refine X.if_eq (tgt := 1754) dL_law_1749 (by decide) (fun _ => ?_) (fun c3 => absurd (by show lg_cmp (v1 0) _ = 0; rw [hag c]; exact lgc _) c3)
  refine X.goto (tgt := 2413) dL_law_1754 (by decide) ?_
  refine X.sub [2, 3, 4, 5, 6] (L' := bL L r i) rfl ?_
  exact kk
theorem cL_219 : xCSW RX0 219 mX0_game 5 := ⟨_, _, rfl, lw_SW q1462 q1463 q120 q1464, ⟨by decide +kernel, by decide +kernel, by decide +kernel⟩, Nat.le_of_ble_eq_true rfl⟩
theorem cL_221 : xCV RX0 221 mX4_game 3 := ⟨lw_V q2156 q2157 q2158 q127 q2159, rfl, ⟨by decide +kernel, by decide +kernel, by decide +kernel⟩, Nat.le_of_ble_eq_true rfl⟩
theorem lk_29 {G : xG} {Y : xR} {L : xL} {S S1 : MS} {v v1 : Nat → Int64} {T T1 : xF} {r : Option Nat} {i a b kd : Int32} (hg : gR G = fun _ => none) (hM : Y.1 = mL_law) (hD : 300 ≤ Y.2.1.frames ∧ 64 * 300 ≤ Y.2.1.locals) (hL : LOK L) (hn : NN L T) (hi : ∀ j ∈ ([1, 2, 3, 4, 5] : List Int32), vp_in (i + j) L.2.2.2.1) (hr : isO T r 0 = true) (hn1 : NN L T1) (hx : xle T T1) (hle : xle T1 Y.2.2.2.2) (hs : Ct G mX0_game 128 (LWo (lc L S v) T) [va_rf r, .int (sc L i 1), .int (sc L i 2), .int (sc L i 3), .ref (lo_ L)] (.inl (some (.int kd))) (LWo (lc L S v1) T1)) (hm : m_game (sc L i 1) (sc L i 2) (sc L i 3) S = some (b, S1)) (hth : m_thrown S1 = some kd) (hag : kd = 0 → v1 0 = b.toInt64) (kk : Xr G Y 2413 (bL L r i) [] (LWo (lc L S1 v1) T1)) : Xr G Y 1757 (bL L r i) [] (LWo (lc L S v) T) := by
  obtain ⟨M9, R9, T09, o9, T19⟩ := Y
  dsimp only at hM hD hle
  subst hM
  refine C.aload_n dL_law_1757 rfl 1 rfl ?_
  refine X.aload_n dL_law_1758 rfl 0 rfl ?_
  refine X.iload dL_law_1759 4 rfl ?_
  refine X.iconst (v := 1) dL_law_1761 (by decide) ?_
  refine X.iadd dL_law_1762 ?_
  refine X.iald (f := L.2.2.2.2) (n := L.2.2.2.1) dL_law_1763 (lc_s hL hn) (hi 1 (by decide)) ?_
  refine X.aload_n dL_law_1764 rfl 0 rfl ?_
  refine X.iload dL_law_1765 4 rfl ?_
  refine X.iconst (v := 2) dL_law_1767 (by decide) ?_
  refine X.iadd dL_law_1768 ?_
  refine X.iald (f := L.2.2.2.2) (n := L.2.2.2.1) dL_law_1769 (lc_s hL hn) (hi 2 (by decide)) ?_
  refine X.aload_n dL_law_1770 rfl 0 rfl ?_
  refine X.iload dL_law_1771 4 rfl ?_
  refine X.iconst (v := 3) dL_law_1773 (by decide) ?_
  refine X.iadd dL_law_1774 ?_
  refine X.iald (f := L.2.2.2.2) (n := L.2.2.2.1) dL_law_1775 (lc_s hL hn) (hi 3 (by decide)) ?_
  refine X.aload_n dL_law_1776 rfl 3 rfl ?_
  refine X.callSW (v := some (.int kd)) (As := [va_rf r, .int (sc L i 1), .int (sc L i 2), .int (sc L i 3), .ref (lo_ L)]) (rest := []) dL_law_1777 hs cL_219 rfl rfl (Nat.le_of_ble_eq_true rfl) ⟨by dsimp only; omega, by dsimp only; omega⟩ hx hle ?_
  refine C.ist (L' := [(5, .int kd), (0, .ref (ls_ L)), (1, va_rf r), (2, .ref (lm L)), (3, .ref (lo_ L)), (4, .int i)]) dL_law_1780 (Nat.le_of_ble_eq_true rfl) (xcQ (r := some _) (xcQ (xcQ (r := some _) (xcQ (r := some _) (xcI xcN))))) rfl ?_
  refine X.aload_n dL_law_1782 rfl 3 rfl ?_
  refine X.aload_n dL_law_1783 rfl 1 rfl ?_
  refine X.iload dL_law_1784 5 rfl ?_
  refine X.iconst (v := 1) dL_law_1786 (by decide) ?_
  refine X.iadd dL_law_1787 ?_
  refine X.iald (f := L.2.2.2.2) (n := L.2.2.2.1) dL_law_1788 (lc_s hL hn1) (hi 1 (by decide)) ?_
  refine X.aload_n dL_law_1789 rfl 1 rfl ?_
  refine X.iload dL_law_1790 5 rfl ?_
  refine X.iconst (v := 2) dL_law_1792 (by decide) ?_
  refine X.iadd dL_law_1793 ?_
  refine X.iald (f := L.2.2.2.2) (n := L.2.2.2.1) dL_law_1794 (lc_s hL hn1) (hi 2 (by decide)) ?_
  refine X.aload_n dL_law_1795 rfl 1 rfl ?_
  refine X.iload dL_law_1796 5 rfl ?_
  refine X.iconst (v := 3) dL_law_1798 (by decide) ?_
  refine X.iadd dL_law_1799 ?_
  refine X.iald (f := L.2.2.2.2) (n := L.2.2.2.1) dL_law_1800 (lc_s hL hn1) (hi 3 (by decide)) ?_
  refine X.callVi (As := [.int (sc L i 1), .int (sc L i 2), .int (sc L i 3)]) (rest := []) dL_law_1801 (CtM.law (w_game hm) (v := v1) (T := T1) hL hn1) cL_221 rfl rfl (Nat.le_of_ble_eq_true rfl) (lc_0 hL hn1) rfl rfl ⟨by dsimp only; omega, by dsimp only; omega⟩ xle.rf hle ?_
  refine C.ist (L' := [(6, .int b), (5, .int kd), (0, .ref (ls_ L)), (1, va_rf r), (2, .ref (lm L)), (3, .ref (lo_ L)), (4, .int i)]) dL_law_1804 (Nat.le_of_ble_eq_true rfl) (xcI (xcQ (r := some _) (xcQ (xcQ (r := some _) (xcQ (r := some _) (xcI xcN)))))) rfl ?_
  refine X.aload_n dL_law_1806 rfl 4 rfl ?_
  refine X.callVi (As := []) (rest := []) dL_law_1807 (CtM.law (w_thrown hth) (v := v1) (T := T1) hL hn1) cL_125 rfl rfl (Nat.le_of_ble_eq_true rfl) (lc_0 hL hn1) rfl rfl ⟨by dsimp only; omega, by dsimp only; omega⟩ xle.rf hle ?_
  refine X.iload dL_law_1810 1 rfl ?_
  refine X.icmp_eq (tgt := 1817) dL_law_1812 (by decide) (fun c => ?_) (fun c => absurd rfl c)
  refine X.iload dL_law_1817 1 rfl ?_
  refine X.if_ne (tgt := 1834) dL_law_1819 (by decide) (fun c => ?_) (fun c => ?_)
  · refine X.goto (tgt := 2413) dL_law_1834 (by decide) ?_
    refine X.sub [2, 3, 4, 5, 6] (L' := bL L r i) rfl ?_
    exact kk
  refine X.aload_n dL_law_1822 rfl 5 rfl ?_
  refine X.iconst (v := 0) dL_law_1823 (by decide) ?_
  refine X.lald dL_law_1824 (lc_o hn1) (fun q => by rcases q with q | q <;> revert q <;> decide) ?_
  refine X.iload dL_law_1825 0 rfl ?_
  refine X.i2l dL_law_1827 rfl ?_
  refine X.lcmp dL_law_1828 ?_
  refine X.if_eq (tgt := 1834) dL_law_1829 (by decide) (fun _ => ?_) (fun c3 => absurd (by show lg_cmp (v1 0) _ = 0; rw [hag c]; exact lgc _) c3)
  refine X.goto (tgt := 2413) dL_law_1834 (by decide) ?_
  refine X.sub [2, 3, 4, 5, 6] (L' := bL L r i) rfl ?_
  exact kk
theorem cL_222 : xCSW RX0 222 mX0_drawn 5 := ⟨_, _, rfl, lw_SW q1477 q1478 q120 q1479, ⟨by decide +kernel, by decide +kernel, by decide +kernel⟩, Nat.le_of_ble_eq_true rfl⟩
theorem cL_224 : xCV RX0 224 mX4_drawn 3 := ⟨lw_V q2172 q2173 q2174 q127 q2175, rfl, ⟨by decide +kernel, by decide +kernel, by decide +kernel⟩, Nat.le_of_ble_eq_true rfl⟩
theorem lk_30 {G : xG} {Y : xR} {L : xL} {S S1 : MS} {v v1 : Nat → Int64} {T T1 : xF} {r : Option Nat} {i a b kd : Int32} (hg : gR G = fun _ => none) (hM : Y.1 = mL_law) (hD : 300 ≤ Y.2.1.frames ∧ 64 * 300 ≤ Y.2.1.locals) (hL : LOK L) (hn : NN L T) (hi : ∀ j ∈ ([1, 2, 3, 4, 5] : List Int32), vp_in (i + j) L.2.2.2.1) (hr : isO T r 0 = true) (hn1 : NN L T1) (hx : xle T T1) (hle : xle T1 Y.2.2.2.2) (hs : Ct G mX0_drawn 126 (LWo (lc L S v) T) [va_rf r, .int (sc L i 1), .int (sc L i 2), .int (sc L i 3), .ref (lo_ L)] (.inl (some (.int kd))) (LWo (lc L S v1) T1)) (hm : m_drawn (sc L i 1) (sc L i 2) (sc L i 3) S = some (b, S1)) (hth : m_thrown S1 = some kd) (hag : kd = 0 → v1 0 = b.toInt64) (kk : Xr G Y 2413 (bL L r i) [] (LWo (lc L S1 v1) T1)) : Xr G Y 1837 (bL L r i) [] (LWo (lc L S v) T) := by
  obtain ⟨M9, R9, T09, o9, T19⟩ := Y
  dsimp only at hM hD hle
  subst hM
  refine C.aload_n dL_law_1837 rfl 1 rfl ?_
  refine X.aload_n dL_law_1838 rfl 0 rfl ?_
  refine X.iload dL_law_1839 4 rfl ?_
  refine X.iconst (v := 1) dL_law_1841 (by decide) ?_
  refine X.iadd dL_law_1842 ?_
  refine X.iald (f := L.2.2.2.2) (n := L.2.2.2.1) dL_law_1843 (lc_s hL hn) (hi 1 (by decide)) ?_
  refine X.aload_n dL_law_1844 rfl 0 rfl ?_
  refine X.iload dL_law_1845 4 rfl ?_
  refine X.iconst (v := 2) dL_law_1847 (by decide) ?_
  refine X.iadd dL_law_1848 ?_
  refine X.iald (f := L.2.2.2.2) (n := L.2.2.2.1) dL_law_1849 (lc_s hL hn) (hi 2 (by decide)) ?_
  refine X.aload_n dL_law_1850 rfl 0 rfl ?_
  refine X.iload dL_law_1851 4 rfl ?_
  refine X.iconst (v := 3) dL_law_1853 (by decide) ?_
  refine X.iadd dL_law_1854 ?_
  refine X.iald (f := L.2.2.2.2) (n := L.2.2.2.1) dL_law_1855 (lc_s hL hn) (hi 3 (by decide)) ?_
  refine X.aload_n dL_law_1856 rfl 3 rfl ?_
  refine X.callSW (v := some (.int kd)) (As := [va_rf r, .int (sc L i 1), .int (sc L i 2), .int (sc L i 3), .ref (lo_ L)]) (rest := []) dL_law_1857 hs cL_222 rfl rfl (Nat.le_of_ble_eq_true rfl) ⟨by dsimp only; omega, by dsimp only; omega⟩ hx hle ?_
  refine C.ist (L' := [(5, .int kd), (0, .ref (ls_ L)), (1, va_rf r), (2, .ref (lm L)), (3, .ref (lo_ L)), (4, .int i)]) dL_law_1860 (Nat.le_of_ble_eq_true rfl) (xcQ (r := some _) (xcQ (xcQ (r := some _) (xcQ (r := some _) (xcI xcN))))) rfl ?_
  refine X.aload_n dL_law_1862 rfl 3 rfl ?_
  refine X.aload_n dL_law_1863 rfl 1 rfl ?_
  refine X.iload dL_law_1864 5 rfl ?_
  refine X.iconst (v := 1) dL_law_1866 (by decide) ?_
  refine X.iadd dL_law_1867 ?_
  refine X.iald (f := L.2.2.2.2) (n := L.2.2.2.1) dL_law_1868 (lc_s hL hn1) (hi 1 (by decide)) ?_
  refine X.aload_n dL_law_1869 rfl 1 rfl ?_
  refine X.iload dL_law_1870 5 rfl ?_
  refine X.iconst (v := 2) dL_law_1872 (by decide) ?_
  refine X.iadd dL_law_1873 ?_
  refine X.iald (f := L.2.2.2.2) (n := L.2.2.2.1) dL_law_1874 (lc_s hL hn1) (hi 2 (by decide)) ?_
  refine X.aload_n dL_law_1875 rfl 1 rfl ?_
  refine X.iload dL_law_1876 5 rfl ?_
  refine X.iconst (v := 3) dL_law_1878 (by decide) ?_
  refine X.iadd dL_law_1879 ?_
  refine X.iald (f := L.2.2.2.2) (n := L.2.2.2.1) dL_law_1880 (lc_s hL hn1) (hi 3 (by decide)) ?_
  refine X.callVi (As := [.int (sc L i 1), .int (sc L i 2), .int (sc L i 3)]) (rest := []) dL_law_1881 (CtM.law (w_drawn hm) (v := v1) (T := T1) hL hn1) cL_224 rfl rfl (Nat.le_of_ble_eq_true rfl) (lc_0 hL hn1) rfl rfl ⟨by dsimp only; omega, by dsimp only; omega⟩ xle.rf hle ?_
  refine C.ist (L' := [(6, .int b), (5, .int kd), (0, .ref (ls_ L)), (1, va_rf r), (2, .ref (lm L)), (3, .ref (lo_ L)), (4, .int i)]) dL_law_1884 (Nat.le_of_ble_eq_true rfl) (xcI (xcQ (r := some _) (xcQ (xcQ (r := some _) (xcQ (r := some _) (xcI xcN)))))) rfl ?_
  refine X.aload_n dL_law_1886 rfl 4 rfl ?_
  refine X.callVi (As := []) (rest := []) dL_law_1887 (CtM.law (w_thrown hth) (v := v1) (T := T1) hL hn1) cL_125 rfl rfl (Nat.le_of_ble_eq_true rfl) (lc_0 hL hn1) rfl rfl ⟨by dsimp only; omega, by dsimp only; omega⟩ xle.rf hle ?_
  refine X.iload dL_law_1890 1 rfl ?_
  refine X.icmp_eq (tgt := 1897) dL_law_1892 (by decide) (fun c => ?_) (fun c => absurd rfl c)
  refine X.iload dL_law_1897 1 rfl ?_
  refine X.if_ne (tgt := 1914) dL_law_1899 (by decide) (fun c => ?_) (fun c => ?_)
  · refine X.goto (tgt := 2413) dL_law_1914 (by decide) ?_
    refine X.sub [2, 3, 4, 5, 6] (L' := bL L r i) rfl ?_
    exact kk
  refine X.aload_n dL_law_1902 rfl 5 rfl ?_
  refine X.iconst (v := 0) dL_law_1903 (by decide) ?_
  refine X.lald dL_law_1904 (lc_o hn1) (fun q => by rcases q with q | q <;> revert q <;> decide) ?_
  refine X.iload dL_law_1905 0 rfl ?_
  refine X.i2l dL_law_1907 rfl ?_
  refine X.lcmp dL_law_1908 ?_
  refine X.if_eq (tgt := 1914) dL_law_1909 (by decide) (fun _ => ?_) (fun c3 => absurd (by show lg_cmp (v1 0) _ = 0; rw [hag c]; exact lgc _) c3)
  refine X.goto (tgt := 2413) dL_law_1914 (by decide) ?_
  refine X.sub [2, 3, 4, 5, 6] (L' := bL L r i) rfl ?_
  exact kk
theorem cL_225 : xCSW RX0 225 mX0_fronts 3 := ⟨_, _, rfl, lw_SW q1493 q1494 q120 q1495, ⟨by decide +kernel, by decide +kernel, by decide +kernel⟩, Nat.le_of_ble_eq_true rfl⟩
theorem cL_227 : xCV RX0 227 mX4_fronts 1 := ⟨lw_V q2185 q2186 q2187 q127 q2188, rfl, ⟨by decide +kernel, by decide +kernel, by decide +kernel⟩, Nat.le_of_ble_eq_true rfl⟩
theorem lk_31 {G : xG} {Y : xR} {L : xL} {S S1 : MS} {v v1 : Nat → Int64} {T T1 : xF} {r : Option Nat} {i a b kd : Int32} (hg : gR G = fun _ => none) (hM : Y.1 = mL_law) (hD : 300 ≤ Y.2.1.frames ∧ 64 * 300 ≤ Y.2.1.locals) (hL : LOK L) (hn : NN L T) (hi : ∀ j ∈ ([1, 2, 3, 4, 5] : List Int32), vp_in (i + j) L.2.2.2.1) (hr : isO T r 0 = true) (hn1 : NN L T1) (hx : xle T T1) (hle : xle T1 Y.2.2.2.2) (hs : Ct G mX0_fronts 128 (LWo (lc L S v) T) [va_rf r, .int (sc L i 1), .ref (lo_ L)] (.inl (some (.int kd))) (LWo (lc L S v1) T1)) (hm : m_fronts (sc L i 1) S = some (b, S1)) (hth : m_thrown S1 = some kd) (hag : kd = 0 → v1 0 = b.toInt64) (kk : Xr G Y 2413 (bL L r i) [] (LWo (lc L S1 v1) T1)) : Xr G Y 1917 (bL L r i) [] (LWo (lc L S v) T) := by
  obtain ⟨M9, R9, T09, o9, T19⟩ := Y
  dsimp only at hM hD hle
  subst hM
  refine C.aload_n dL_law_1917 rfl 1 rfl ?_
  refine X.aload_n dL_law_1918 rfl 0 rfl ?_
  refine X.iload dL_law_1919 4 rfl ?_
  refine X.iconst (v := 1) dL_law_1921 (by decide) ?_
  refine X.iadd dL_law_1922 ?_
  refine X.iald (f := L.2.2.2.2) (n := L.2.2.2.1) dL_law_1923 (lc_s hL hn) (hi 1 (by decide)) ?_
  refine X.aload_n dL_law_1924 rfl 3 rfl ?_
  refine X.callSW (v := some (.int kd)) (As := [va_rf r, .int (sc L i 1), .ref (lo_ L)]) (rest := []) dL_law_1925 hs cL_225 rfl rfl (Nat.le_of_ble_eq_true rfl) ⟨by dsimp only; omega, by dsimp only; omega⟩ hx hle ?_
  refine C.ist (L' := [(5, .int kd), (0, .ref (ls_ L)), (1, va_rf r), (2, .ref (lm L)), (3, .ref (lo_ L)), (4, .int i)]) dL_law_1928 (Nat.le_of_ble_eq_true rfl) (xcQ (r := some _) (xcQ (xcQ (r := some _) (xcQ (r := some _) (xcI xcN))))) rfl ?_
  refine X.aload_n dL_law_1930 rfl 3 rfl ?_
  refine X.aload_n dL_law_1931 rfl 1 rfl ?_
  refine X.iload dL_law_1932 5 rfl ?_
  refine X.iconst (v := 1) dL_law_1934 (by decide) ?_
  refine X.iadd dL_law_1935 ?_
  refine X.iald (f := L.2.2.2.2) (n := L.2.2.2.1) dL_law_1936 (lc_s hL hn1) (hi 1 (by decide)) ?_
  refine X.callVi (As := [.int (sc L i 1)]) (rest := []) dL_law_1937 (CtM.law (w_fronts hm) (v := v1) (T := T1) hL hn1) cL_227 rfl rfl (Nat.le_of_ble_eq_true rfl) (lc_0 hL hn1) rfl rfl ⟨by dsimp only; omega, by dsimp only; omega⟩ xle.rf hle ?_
  refine C.ist (L' := [(6, .int b), (5, .int kd), (0, .ref (ls_ L)), (1, va_rf r), (2, .ref (lm L)), (3, .ref (lo_ L)), (4, .int i)]) dL_law_1940 (Nat.le_of_ble_eq_true rfl) (xcI (xcQ (r := some _) (xcQ (xcQ (r := some _) (xcQ (r := some _) (xcI xcN)))))) rfl ?_
  refine X.aload_n dL_law_1942 rfl 4 rfl ?_
  refine X.callVi (As := []) (rest := []) dL_law_1943 (CtM.law (w_thrown hth) (v := v1) (T := T1) hL hn1) cL_125 rfl rfl (Nat.le_of_ble_eq_true rfl) (lc_0 hL hn1) rfl rfl ⟨by dsimp only; omega, by dsimp only; omega⟩ xle.rf hle ?_
  refine X.iload dL_law_1946 1 rfl ?_
  refine X.icmp_eq (tgt := 1953) dL_law_1948 (by decide) (fun c => ?_) (fun c => absurd rfl c)
  refine X.iload dL_law_1953 1 rfl ?_
  refine X.if_ne (tgt := 1970) dL_law_1955 (by decide) (fun c => ?_) (fun c => ?_)
  · refine X.goto (tgt := 2413) dL_law_1970 (by decide) ?_
    refine X.sub [2, 3, 4, 5, 6] (L' := bL L r i) rfl ?_
    exact kk
  refine X.aload_n dL_law_1958 rfl 5 rfl ?_
  refine X.iconst (v := 0) dL_law_1959 (by decide) ?_
  refine X.lald dL_law_1960 (lc_o hn1) (fun q => by rcases q with q | q <;> revert q <;> decide) ?_
  refine X.iload dL_law_1961 0 rfl ?_
  refine X.i2l dL_law_1963 rfl ?_
  refine X.lcmp dL_law_1964 ?_
  refine X.if_eq (tgt := 1970) dL_law_1965 (by decide) (fun _ => ?_) (fun c3 => absurd (by show lg_cmp (v1 0) _ = 0; rw [hag c]; exact lgc _) c3)
  refine X.goto (tgt := 2413) dL_law_1970 (by decide) ?_
  refine X.sub [2, 3, 4, 5, 6] (L' := bL L r i) rfl ?_
  exact kk
theorem cL_228 : xCSW RX0 228 mX0_lost 3 := ⟨_, _, rfl, lw_SW q1500 q1501 q120 q1502, ⟨by decide +kernel, by decide +kernel, by decide +kernel⟩, Nat.le_of_ble_eq_true rfl⟩
theorem cL_230 : xCV RX0 230 mX4_lost 1 := ⟨lw_V q2189 q2190 q2191 q127 q2192, rfl, ⟨by decide +kernel, by decide +kernel, by decide +kernel⟩, Nat.le_of_ble_eq_true rfl⟩
theorem lk_32 {G : xG} {Y : xR} {L : xL} {S S1 : MS} {v v1 : Nat → Int64} {T T1 : xF} {r : Option Nat} {i a b kd : Int32} (hg : gR G = fun _ => none) (hM : Y.1 = mL_law) (hD : 300 ≤ Y.2.1.frames ∧ 64 * 300 ≤ Y.2.1.locals) (hL : LOK L) (hn : NN L T) (hi : ∀ j ∈ ([1, 2, 3, 4, 5] : List Int32), vp_in (i + j) L.2.2.2.1) (hr : isO T r 0 = true) (hn1 : NN L T1) (hx : xle T T1) (hle : xle T1 Y.2.2.2.2) (hs : Ct G mX0_lost 128 (LWo (lc L S v) T) [va_rf r, .int (sc L i 1), .ref (lo_ L)] (.inl (some (.int kd))) (LWo (lc L S v1) T1)) (hm : m_lost (sc L i 1) S = some (b, S1)) (hth : m_thrown S1 = some kd) (hag : kd = 0 → v1 0 = b.toInt64) (kk : Xr G Y 2413 (bL L r i) [] (LWo (lc L S1 v1) T1)) : Xr G Y 1973 (bL L r i) [] (LWo (lc L S v) T) := by
  obtain ⟨M9, R9, T09, o9, T19⟩ := Y
  dsimp only at hM hD hle
  subst hM
  refine C.aload_n dL_law_1973 rfl 1 rfl ?_
  refine X.aload_n dL_law_1974 rfl 0 rfl ?_
  refine X.iload dL_law_1975 4 rfl ?_
  refine X.iconst (v := 1) dL_law_1977 (by decide) ?_
  refine X.iadd dL_law_1978 ?_
  refine X.iald (f := L.2.2.2.2) (n := L.2.2.2.1) dL_law_1979 (lc_s hL hn) (hi 1 (by decide)) ?_
  refine X.aload_n dL_law_1980 rfl 3 rfl ?_
  refine X.callSW (v := some (.int kd)) (As := [va_rf r, .int (sc L i 1), .ref (lo_ L)]) (rest := []) dL_law_1981 hs cL_228 rfl rfl (Nat.le_of_ble_eq_true rfl) ⟨by dsimp only; omega, by dsimp only; omega⟩ hx hle ?_
  refine C.ist (L' := [(5, .int kd), (0, .ref (ls_ L)), (1, va_rf r), (2, .ref (lm L)), (3, .ref (lo_ L)), (4, .int i)]) dL_law_1984 (Nat.le_of_ble_eq_true rfl) (xcQ (r := some _) (xcQ (xcQ (r := some _) (xcQ (r := some _) (xcI xcN))))) rfl ?_
  refine X.aload_n dL_law_1986 rfl 3 rfl ?_
  refine X.aload_n dL_law_1987 rfl 1 rfl ?_
  refine X.iload dL_law_1988 5 rfl ?_
  refine X.iconst (v := 1) dL_law_1990 (by decide) ?_
  refine X.iadd dL_law_1991 ?_
  refine X.iald (f := L.2.2.2.2) (n := L.2.2.2.1) dL_law_1992 (lc_s hL hn1) (hi 1 (by decide)) ?_
  refine X.callVi (As := [.int (sc L i 1)]) (rest := []) dL_law_1993 (CtM.law (w_lost hm) (v := v1) (T := T1) hL hn1) cL_230 rfl rfl (Nat.le_of_ble_eq_true rfl) (lc_0 hL hn1) rfl rfl ⟨by dsimp only; omega, by dsimp only; omega⟩ xle.rf hle ?_
  refine C.ist (L' := [(6, .int b), (5, .int kd), (0, .ref (ls_ L)), (1, va_rf r), (2, .ref (lm L)), (3, .ref (lo_ L)), (4, .int i)]) dL_law_1996 (Nat.le_of_ble_eq_true rfl) (xcI (xcQ (r := some _) (xcQ (xcQ (r := some _) (xcQ (r := some _) (xcI xcN)))))) rfl ?_
  refine X.aload_n dL_law_1998 rfl 4 rfl ?_
  refine X.callVi (As := []) (rest := []) dL_law_1999 (CtM.law (w_thrown hth) (v := v1) (T := T1) hL hn1) cL_125 rfl rfl (Nat.le_of_ble_eq_true rfl) (lc_0 hL hn1) rfl rfl ⟨by dsimp only; omega, by dsimp only; omega⟩ xle.rf hle ?_
  refine X.iload dL_law_2002 1 rfl ?_
  refine X.icmp_eq (tgt := 2009) dL_law_2004 (by decide) (fun c => ?_) (fun c => absurd rfl c)
  refine X.iload dL_law_2009 1 rfl ?_
  refine X.if_ne (tgt := 2026) dL_law_2011 (by decide) (fun c => ?_) (fun c => ?_)
  · refine X.goto (tgt := 2413) dL_law_2026 (by decide) ?_
    refine X.sub [2, 3, 4, 5, 6] (L' := bL L r i) rfl ?_
    exact kk
  refine X.aload_n dL_law_2014 rfl 5 rfl ?_
  refine X.iconst (v := 0) dL_law_2015 (by decide) ?_
  refine X.lald dL_law_2016 (lc_o hn1) (fun q => by rcases q with q | q <;> revert q <;> decide) ?_
  refine X.iload dL_law_2017 0 rfl ?_
  refine X.i2l dL_law_2019 rfl ?_
  refine X.lcmp dL_law_2020 ?_
  refine X.if_eq (tgt := 2026) dL_law_2021 (by decide) (fun _ => ?_) (fun c3 => absurd (by show lg_cmp (v1 0) _ = 0; rw [hag c]; exact lgc _) c3)
  refine X.goto (tgt := 2413) dL_law_2026 (by decide) ?_
  refine X.sub [2, 3, 4, 5, 6] (L' := bL L r i) rfl ?_
  exact kk
theorem cL_231 : xCSW RX0 231 mX0_starved 3 := ⟨_, _, rfl, lw_SW q1507 q1508 q120 q1509, ⟨by decide +kernel, by decide +kernel, by decide +kernel⟩, Nat.le_of_ble_eq_true rfl⟩
theorem cL_233 : xCV RX0 233 mX4_starved 1 := ⟨lw_V q2193 q2194 q2195 q127 q2196, rfl, ⟨by decide +kernel, by decide +kernel, by decide +kernel⟩, Nat.le_of_ble_eq_true rfl⟩
theorem lk_33 {G : xG} {Y : xR} {L : xL} {S S1 : MS} {v v1 : Nat → Int64} {T T1 : xF} {r : Option Nat} {i a b kd : Int32} (hg : gR G = fun _ => none) (hM : Y.1 = mL_law) (hD : 300 ≤ Y.2.1.frames ∧ 64 * 300 ≤ Y.2.1.locals) (hL : LOK L) (hn : NN L T) (hi : ∀ j ∈ ([1, 2, 3, 4, 5] : List Int32), vp_in (i + j) L.2.2.2.1) (hr : isO T r 0 = true) (hn1 : NN L T1) (hx : xle T T1) (hle : xle T1 Y.2.2.2.2) (hs : Ct G mX0_starved 128 (LWo (lc L S v) T) [va_rf r, .int (sc L i 1), .ref (lo_ L)] (.inl (some (.int kd))) (LWo (lc L S v1) T1)) (hm : m_starved (sc L i 1) S = some (b, S1)) (hth : m_thrown S1 = some kd) (hag : kd = 0 → v1 0 = b.toInt64) (kk : Xr G Y 2413 (bL L r i) [] (LWo (lc L S1 v1) T1)) : Xr G Y 2029 (bL L r i) [] (LWo (lc L S v) T) := by
  obtain ⟨M9, R9, T09, o9, T19⟩ := Y
  dsimp only at hM hD hle
  subst hM
  refine C.aload_n dL_law_2029 rfl 1 rfl ?_
  refine X.aload_n dL_law_2030 rfl 0 rfl ?_
  refine X.iload dL_law_2031 4 rfl ?_
  refine X.iconst (v := 1) dL_law_2033 (by decide) ?_
  refine X.iadd dL_law_2034 ?_
  refine X.iald (f := L.2.2.2.2) (n := L.2.2.2.1) dL_law_2035 (lc_s hL hn) (hi 1 (by decide)) ?_
  refine X.aload_n dL_law_2036 rfl 3 rfl ?_
  refine X.callSW (v := some (.int kd)) (As := [va_rf r, .int (sc L i 1), .ref (lo_ L)]) (rest := []) dL_law_2037 hs cL_231 rfl rfl (Nat.le_of_ble_eq_true rfl) ⟨by dsimp only; omega, by dsimp only; omega⟩ hx hle ?_
  refine C.ist (L' := [(5, .int kd), (0, .ref (ls_ L)), (1, va_rf r), (2, .ref (lm L)), (3, .ref (lo_ L)), (4, .int i)]) dL_law_2040 (Nat.le_of_ble_eq_true rfl) (xcQ (r := some _) (xcQ (xcQ (r := some _) (xcQ (r := some _) (xcI xcN))))) rfl ?_
  refine X.aload_n dL_law_2042 rfl 3 rfl ?_
  refine X.aload_n dL_law_2043 rfl 1 rfl ?_
  refine X.iload dL_law_2044 5 rfl ?_
  refine X.iconst (v := 1) dL_law_2046 (by decide) ?_
  refine X.iadd dL_law_2047 ?_
  refine X.iald (f := L.2.2.2.2) (n := L.2.2.2.1) dL_law_2048 (lc_s hL hn1) (hi 1 (by decide)) ?_
  refine X.callVi (As := [.int (sc L i 1)]) (rest := []) dL_law_2049 (CtM.law (w_starved hm) (v := v1) (T := T1) hL hn1) cL_233 rfl rfl (Nat.le_of_ble_eq_true rfl) (lc_0 hL hn1) rfl rfl ⟨by dsimp only; omega, by dsimp only; omega⟩ xle.rf hle ?_
  refine C.ist (L' := [(6, .int b), (5, .int kd), (0, .ref (ls_ L)), (1, va_rf r), (2, .ref (lm L)), (3, .ref (lo_ L)), (4, .int i)]) dL_law_2052 (Nat.le_of_ble_eq_true rfl) (xcI (xcQ (r := some _) (xcQ (xcQ (r := some _) (xcQ (r := some _) (xcI xcN)))))) rfl ?_
  refine X.aload_n dL_law_2054 rfl 4 rfl ?_
  refine X.callVi (As := []) (rest := []) dL_law_2055 (CtM.law (w_thrown hth) (v := v1) (T := T1) hL hn1) cL_125 rfl rfl (Nat.le_of_ble_eq_true rfl) (lc_0 hL hn1) rfl rfl ⟨by dsimp only; omega, by dsimp only; omega⟩ xle.rf hle ?_
  refine X.iload dL_law_2058 1 rfl ?_
  refine X.icmp_eq (tgt := 2065) dL_law_2060 (by decide) (fun c => ?_) (fun c => absurd rfl c)
  refine X.iload dL_law_2065 1 rfl ?_
  refine X.if_ne (tgt := 2082) dL_law_2067 (by decide) (fun c => ?_) (fun c => ?_)
  · refine X.goto (tgt := 2413) dL_law_2082 (by decide) ?_
    refine X.sub [2, 3, 4, 5, 6] (L' := bL L r i) rfl ?_
    exact kk
  refine X.aload_n dL_law_2070 rfl 5 rfl ?_
  refine X.iconst (v := 0) dL_law_2071 (by decide) ?_
  refine X.lald dL_law_2072 (lc_o hn1) (fun q => by rcases q with q | q <;> revert q <;> decide) ?_
  refine X.iload dL_law_2073 0 rfl ?_
  refine X.i2l dL_law_2075 rfl ?_
  refine X.lcmp dL_law_2076 ?_
  refine X.if_eq (tgt := 2082) dL_law_2077 (by decide) (fun _ => ?_) (fun c3 => absurd (by show lg_cmp (v1 0) _ = 0; rw [hag c]; exact lgc _) c3)
  refine X.goto (tgt := 2413) dL_law_2082 (by decide) ?_
  refine X.sub [2, 3, 4, 5, 6] (L' := bL L r i) rfl ?_
  exact kk
theorem cL_234 : xCSW RX0 234 mX0_margin 3 := ⟨_, _, rfl, lw_SW q1514 q1515 q120 q1516, ⟨by decide +kernel, by decide +kernel, by decide +kernel⟩, Nat.le_of_ble_eq_true rfl⟩
theorem cL_236 : xCV RX0 236 mX4_margin 1 := ⟨lw_V q2197 q2198 q2199 q127 q2200, rfl, ⟨by decide +kernel, by decide +kernel, by decide +kernel⟩, Nat.le_of_ble_eq_true rfl⟩
theorem lk_34 {G : xG} {Y : xR} {L : xL} {S S1 : MS} {v v1 : Nat → Int64} {T T1 : xF} {r : Option Nat} {i a b kd : Int32} (hg : gR G = fun _ => none) (hM : Y.1 = mL_law) (hD : 300 ≤ Y.2.1.frames ∧ 64 * 300 ≤ Y.2.1.locals) (hL : LOK L) (hn : NN L T) (hi : ∀ j ∈ ([1, 2, 3, 4, 5] : List Int32), vp_in (i + j) L.2.2.2.1) (hr : isO T r 0 = true) (hn1 : NN L T1) (hx : xle T T1) (hle : xle T1 Y.2.2.2.2) (hs : Ct G mX0_margin 128 (LWo (lc L S v) T) [va_rf r, .int (sc L i 1), .ref (lo_ L)] (.inl (some (.int kd))) (LWo (lc L S v1) T1)) (hm : m_margin (sc L i 1) S = some (b, S1)) (hth : m_thrown S1 = some kd) (hag : kd = 0 → v1 0 = b.toInt64) (kk : Xr G Y 2413 (bL L r i) [] (LWo (lc L S1 v1) T1)) : Xr G Y 2085 (bL L r i) [] (LWo (lc L S v) T) := by
  obtain ⟨M9, R9, T09, o9, T19⟩ := Y
  dsimp only at hM hD hle
  subst hM
  refine C.aload_n dL_law_2085 rfl 1 rfl ?_
  refine X.aload_n dL_law_2086 rfl 0 rfl ?_
  refine X.iload dL_law_2087 4 rfl ?_
  refine X.iconst (v := 1) dL_law_2089 (by decide) ?_
  refine X.iadd dL_law_2090 ?_
  refine X.iald (f := L.2.2.2.2) (n := L.2.2.2.1) dL_law_2091 (lc_s hL hn) (hi 1 (by decide)) ?_
  refine X.aload_n dL_law_2092 rfl 3 rfl ?_
  refine X.callSW (v := some (.int kd)) (As := [va_rf r, .int (sc L i 1), .ref (lo_ L)]) (rest := []) dL_law_2093 hs cL_234 rfl rfl (Nat.le_of_ble_eq_true rfl) ⟨by dsimp only; omega, by dsimp only; omega⟩ hx hle ?_
  refine C.ist (L' := [(5, .int kd), (0, .ref (ls_ L)), (1, va_rf r), (2, .ref (lm L)), (3, .ref (lo_ L)), (4, .int i)]) dL_law_2096 (Nat.le_of_ble_eq_true rfl) (xcQ (r := some _) (xcQ (xcQ (r := some _) (xcQ (r := some _) (xcI xcN))))) rfl ?_
  refine X.aload_n dL_law_2098 rfl 3 rfl ?_
  refine X.aload_n dL_law_2099 rfl 1 rfl ?_
  refine X.iload dL_law_2100 5 rfl ?_
  refine X.iconst (v := 1) dL_law_2102 (by decide) ?_
  refine X.iadd dL_law_2103 ?_
  refine X.iald (f := L.2.2.2.2) (n := L.2.2.2.1) dL_law_2104 (lc_s hL hn1) (hi 1 (by decide)) ?_
  refine X.callVi (As := [.int (sc L i 1)]) (rest := []) dL_law_2105 (CtM.law (w_margin hm) (v := v1) (T := T1) hL hn1) cL_236 rfl rfl (Nat.le_of_ble_eq_true rfl) (lc_0 hL hn1) rfl rfl ⟨by dsimp only; omega, by dsimp only; omega⟩ xle.rf hle ?_
  refine C.ist (L' := [(6, .int b), (5, .int kd), (0, .ref (ls_ L)), (1, va_rf r), (2, .ref (lm L)), (3, .ref (lo_ L)), (4, .int i)]) dL_law_2108 (Nat.le_of_ble_eq_true rfl) (xcI (xcQ (r := some _) (xcQ (xcQ (r := some _) (xcQ (r := some _) (xcI xcN)))))) rfl ?_
  refine X.aload_n dL_law_2110 rfl 4 rfl ?_
  refine X.callVi (As := []) (rest := []) dL_law_2111 (CtM.law (w_thrown hth) (v := v1) (T := T1) hL hn1) cL_125 rfl rfl (Nat.le_of_ble_eq_true rfl) (lc_0 hL hn1) rfl rfl ⟨by dsimp only; omega, by dsimp only; omega⟩ xle.rf hle ?_
  refine X.iload dL_law_2114 1 rfl ?_
  refine X.icmp_eq (tgt := 2121) dL_law_2116 (by decide) (fun c => ?_) (fun c => absurd rfl c)
  refine X.iload dL_law_2121 1 rfl ?_
  refine X.if_ne (tgt := 2138) dL_law_2123 (by decide) (fun c => ?_) (fun c => ?_)
  · refine X.goto (tgt := 2413) dL_law_2138 (by decide) ?_
    refine X.sub [2, 3, 4, 5, 6] (L' := bL L r i) rfl ?_
    exact kk
  refine X.aload_n dL_law_2126 rfl 5 rfl ?_
  refine X.iconst (v := 0) dL_law_2127 (by decide) ?_
  refine X.lald dL_law_2128 (lc_o hn1) (fun q => by rcases q with q | q <;> revert q <;> decide) ?_
  refine X.iload dL_law_2129 0 rfl ?_
  refine X.i2l dL_law_2131 rfl ?_
  refine X.lcmp dL_law_2132 ?_
  refine X.if_eq (tgt := 2138) dL_law_2133 (by decide) (fun _ => ?_) (fun c3 => absurd (by show lg_cmp (v1 0) _ = 0; rw [hag c]; exact lgc _) c3)
  refine X.goto (tgt := 2413) dL_law_2138 (by decide) ?_
  refine X.sub [2, 3, 4, 5, 6] (L' := bL L r i) rfl ?_
  exact kk
theorem cL_237 : xCSW RX0 237 mX0_patch 3 := ⟨_, _, rfl, lw_SW q1521 q1522 q120 q1523, ⟨by decide +kernel, by decide +kernel, by decide +kernel⟩, Nat.le_of_ble_eq_true rfl⟩
theorem cL_239 : xCV RX0 239 mX4_patch 1 := ⟨lw_V q2201 q2202 q2203 q127 q2204, rfl, ⟨by decide +kernel, by decide +kernel, by decide +kernel⟩, Nat.le_of_ble_eq_true rfl⟩
theorem lk_35 {G : xG} {Y : xR} {L : xL} {S S1 : MS} {v v1 : Nat → Int64} {T T1 : xF} {r : Option Nat} {i a b kd : Int32} (hg : gR G = fun _ => none) (hM : Y.1 = mL_law) (hD : 300 ≤ Y.2.1.frames ∧ 64 * 300 ≤ Y.2.1.locals) (hL : LOK L) (hn : NN L T) (hi : ∀ j ∈ ([1, 2, 3, 4, 5] : List Int32), vp_in (i + j) L.2.2.2.1) (hr : isO T r 0 = true) (hn1 : NN L T1) (hx : xle T T1) (hle : xle T1 Y.2.2.2.2) (hs : Ct G mX0_patch 62 (LWo (lc L S v) T) [va_rf r, .int (sc L i 1), .ref (lo_ L)] (.inl (some (.int kd))) (LWo (lc L S v1) T1)) (hm : m_patch (sc L i 1) S = some (b, S1)) (hth : m_thrown S1 = some kd) (hag : kd = 0 → v1 0 = b.toInt64) (kk : Xr G Y 2413 (bL L r i) [] (LWo (lc L S1 v1) T1)) : Xr G Y 2141 (bL L r i) [] (LWo (lc L S v) T) := by
  obtain ⟨M9, R9, T09, o9, T19⟩ := Y
  dsimp only at hM hD hle
  subst hM
  refine C.aload_n dL_law_2141 rfl 1 rfl ?_
  refine X.aload_n dL_law_2142 rfl 0 rfl ?_
  refine X.iload dL_law_2143 4 rfl ?_
  refine X.iconst (v := 1) dL_law_2145 (by decide) ?_
  refine X.iadd dL_law_2146 ?_
  refine X.iald (f := L.2.2.2.2) (n := L.2.2.2.1) dL_law_2147 (lc_s hL hn) (hi 1 (by decide)) ?_
  refine X.aload_n dL_law_2148 rfl 3 rfl ?_
  refine X.callSW (v := some (.int kd)) (As := [va_rf r, .int (sc L i 1), .ref (lo_ L)]) (rest := []) dL_law_2149 hs cL_237 rfl rfl (Nat.le_of_ble_eq_true rfl) ⟨by dsimp only; omega, by dsimp only; omega⟩ hx hle ?_
  refine C.ist (L' := [(5, .int kd), (0, .ref (ls_ L)), (1, va_rf r), (2, .ref (lm L)), (3, .ref (lo_ L)), (4, .int i)]) dL_law_2152 (Nat.le_of_ble_eq_true rfl) (xcQ (r := some _) (xcQ (xcQ (r := some _) (xcQ (r := some _) (xcI xcN))))) rfl ?_
  refine X.aload_n dL_law_2154 rfl 3 rfl ?_
  refine X.aload_n dL_law_2155 rfl 1 rfl ?_
  refine X.iload dL_law_2156 5 rfl ?_
  refine X.iconst (v := 1) dL_law_2158 (by decide) ?_
  refine X.iadd dL_law_2159 ?_
  refine X.iald (f := L.2.2.2.2) (n := L.2.2.2.1) dL_law_2160 (lc_s hL hn1) (hi 1 (by decide)) ?_
  refine X.callVi (As := [.int (sc L i 1)]) (rest := []) dL_law_2161 (CtM.law (w_patch hm) (v := v1) (T := T1) hL hn1) cL_239 rfl rfl (Nat.le_of_ble_eq_true rfl) (lc_0 hL hn1) rfl rfl ⟨by dsimp only; omega, by dsimp only; omega⟩ xle.rf hle ?_
  refine C.ist (L' := [(6, .int b), (5, .int kd), (0, .ref (ls_ L)), (1, va_rf r), (2, .ref (lm L)), (3, .ref (lo_ L)), (4, .int i)]) dL_law_2164 (Nat.le_of_ble_eq_true rfl) (xcI (xcQ (r := some _) (xcQ (xcQ (r := some _) (xcQ (r := some _) (xcI xcN)))))) rfl ?_
  refine X.aload_n dL_law_2166 rfl 4 rfl ?_
  refine X.callVi (As := []) (rest := []) dL_law_2167 (CtM.law (w_thrown hth) (v := v1) (T := T1) hL hn1) cL_125 rfl rfl (Nat.le_of_ble_eq_true rfl) (lc_0 hL hn1) rfl rfl ⟨by dsimp only; omega, by dsimp only; omega⟩ xle.rf hle ?_
  refine X.iload dL_law_2170 1 rfl ?_
  refine X.icmp_eq (tgt := 2177) dL_law_2172 (by decide) (fun c => ?_) (fun c => absurd rfl c)
  refine X.iload dL_law_2177 1 rfl ?_
  refine X.if_ne (tgt := 2194) dL_law_2179 (by decide) (fun c => ?_) (fun c => ?_)
  · refine X.goto (tgt := 2413) dL_law_2194 (by decide) ?_
    refine X.sub [2, 3, 4, 5, 6] (L' := bL L r i) rfl ?_
    exact kk
  refine X.aload_n dL_law_2182 rfl 5 rfl ?_
  refine X.iconst (v := 0) dL_law_2183 (by decide) ?_
  refine X.lald dL_law_2184 (lc_o hn1) (fun q => by rcases q with q | q <;> revert q <;> decide) ?_
  refine X.iload dL_law_2185 0 rfl ?_
  refine X.i2l dL_law_2187 rfl ?_
  refine X.lcmp dL_law_2188 ?_
  refine X.if_eq (tgt := 2194) dL_law_2189 (by decide) (fun _ => ?_) (fun c3 => absurd (by show lg_cmp (v1 0) _ = 0; rw [hag c]; exact lgc _) c3)
  refine X.goto (tgt := 2413) dL_law_2194 (by decide) ?_
  refine X.sub [2, 3, 4, 5, 6] (L' := bL L r i) rfl ?_
  exact kk
theorem cL_240 : xCSW RX0 240 mX0_greatest 4 := ⟨_, _, rfl, lw_SW q1532 q1533 q120 q1534, ⟨by decide +kernel, by decide +kernel, by decide +kernel⟩, Nat.le_of_ble_eq_true rfl⟩
theorem cL_242 : xCV RX0 242 mX4_greatest 2 := ⟨lw_V q2209 q2210 q2211 q127 q2212, rfl, ⟨by decide +kernel, by decide +kernel, by decide +kernel⟩, Nat.le_of_ble_eq_true rfl⟩
theorem lk_36 {G : xG} {Y : xR} {L : xL} {S S1 : MS} {v v1 : Nat → Int64} {T T1 : xF} {r : Option Nat} {i a b kd : Int32} (hg : gR G = fun _ => none) (hM : Y.1 = mL_law) (hD : 300 ≤ Y.2.1.frames ∧ 64 * 300 ≤ Y.2.1.locals) (hL : LOK L) (hn : NN L T) (hi : ∀ j ∈ ([1, 2, 3, 4, 5] : List Int32), vp_in (i + j) L.2.2.2.1) (hr : isO T r 0 = true) (hn1 : NN L T1) (hx : xle T T1) (hle : xle T1 Y.2.2.2.2) (hs : Ct G mX0_greatest 62 (LWo (lc L S v) T) [va_rf r, .int (sc L i 1), .int (sc L i 2), .ref (lo_ L)] (.inl (some (.int kd))) (LWo (lc L S v1) T1)) (hm : m_greatest (sc L i 1) (sc L i 2) S = some (b, S1)) (hth : m_thrown S1 = some kd) (hag : kd = 0 → v1 0 = b.toInt64) (kk : Xr G Y 2413 (bL L r i) [] (LWo (lc L S1 v1) T1)) : Xr G Y 2197 (bL L r i) [] (LWo (lc L S v) T) := by
  obtain ⟨M9, R9, T09, o9, T19⟩ := Y
  dsimp only at hM hD hle
  subst hM
  refine C.aload_n dL_law_2197 rfl 1 rfl ?_
  refine X.aload_n dL_law_2198 rfl 0 rfl ?_
  refine X.iload dL_law_2199 4 rfl ?_
  refine X.iconst (v := 1) dL_law_2201 (by decide) ?_
  refine X.iadd dL_law_2202 ?_
  refine X.iald (f := L.2.2.2.2) (n := L.2.2.2.1) dL_law_2203 (lc_s hL hn) (hi 1 (by decide)) ?_
  refine X.aload_n dL_law_2204 rfl 0 rfl ?_
  refine X.iload dL_law_2205 4 rfl ?_
  refine X.iconst (v := 2) dL_law_2207 (by decide) ?_
  refine X.iadd dL_law_2208 ?_
  refine X.iald (f := L.2.2.2.2) (n := L.2.2.2.1) dL_law_2209 (lc_s hL hn) (hi 2 (by decide)) ?_
  refine X.aload_n dL_law_2210 rfl 3 rfl ?_
  refine X.callSW (v := some (.int kd)) (As := [va_rf r, .int (sc L i 1), .int (sc L i 2), .ref (lo_ L)]) (rest := []) dL_law_2211 hs cL_240 rfl rfl (Nat.le_of_ble_eq_true rfl) ⟨by dsimp only; omega, by dsimp only; omega⟩ hx hle ?_
  refine C.ist (L' := [(5, .int kd), (0, .ref (ls_ L)), (1, va_rf r), (2, .ref (lm L)), (3, .ref (lo_ L)), (4, .int i)]) dL_law_2214 (Nat.le_of_ble_eq_true rfl) (xcQ (r := some _) (xcQ (xcQ (r := some _) (xcQ (r := some _) (xcI xcN))))) rfl ?_
  refine X.aload_n dL_law_2216 rfl 3 rfl ?_
  refine X.aload_n dL_law_2217 rfl 1 rfl ?_
  refine X.iload dL_law_2218 5 rfl ?_
  refine X.iconst (v := 1) dL_law_2220 (by decide) ?_
  refine X.iadd dL_law_2221 ?_
  refine X.iald (f := L.2.2.2.2) (n := L.2.2.2.1) dL_law_2222 (lc_s hL hn1) (hi 1 (by decide)) ?_
  refine X.aload_n dL_law_2223 rfl 1 rfl ?_
  refine X.iload dL_law_2224 5 rfl ?_
  refine X.iconst (v := 2) dL_law_2226 (by decide) ?_
  refine X.iadd dL_law_2227 ?_
  refine X.iald (f := L.2.2.2.2) (n := L.2.2.2.1) dL_law_2228 (lc_s hL hn1) (hi 2 (by decide)) ?_
  refine X.callVi (As := [.int (sc L i 1), .int (sc L i 2)]) (rest := []) dL_law_2229 (CtM.law (w_greatest hm) (v := v1) (T := T1) hL hn1) cL_242 rfl rfl (Nat.le_of_ble_eq_true rfl) (lc_0 hL hn1) rfl rfl ⟨by dsimp only; omega, by dsimp only; omega⟩ xle.rf hle ?_
  refine C.ist (L' := [(6, .int b), (5, .int kd), (0, .ref (ls_ L)), (1, va_rf r), (2, .ref (lm L)), (3, .ref (lo_ L)), (4, .int i)]) dL_law_2232 (Nat.le_of_ble_eq_true rfl) (xcI (xcQ (r := some _) (xcQ (xcQ (r := some _) (xcQ (r := some _) (xcI xcN)))))) rfl ?_
  refine X.aload_n dL_law_2234 rfl 4 rfl ?_
  refine X.callVi (As := []) (rest := []) dL_law_2235 (CtM.law (w_thrown hth) (v := v1) (T := T1) hL hn1) cL_125 rfl rfl (Nat.le_of_ble_eq_true rfl) (lc_0 hL hn1) rfl rfl ⟨by dsimp only; omega, by dsimp only; omega⟩ xle.rf hle ?_
  refine X.iload dL_law_2238 1 rfl ?_
  refine X.icmp_eq (tgt := 2245) dL_law_2240 (by decide) (fun c => ?_) (fun c => absurd rfl c)
  refine X.iload dL_law_2245 1 rfl ?_
  refine X.if_ne (tgt := 2262) dL_law_2247 (by decide) (fun c => ?_) (fun c => ?_)
  · refine X.goto (tgt := 2413) dL_law_2262 (by decide) ?_
    refine X.sub [2, 3, 4, 5, 6] (L' := bL L r i) rfl ?_
    exact kk
  refine X.aload_n dL_law_2250 rfl 5 rfl ?_
  refine X.iconst (v := 0) dL_law_2251 (by decide) ?_
  refine X.lald dL_law_2252 (lc_o hn1) (fun q => by rcases q with q | q <;> revert q <;> decide) ?_
  refine X.iload dL_law_2253 0 rfl ?_
  refine X.i2l dL_law_2255 rfl ?_
  refine X.lcmp dL_law_2256 ?_
  refine X.if_eq (tgt := 2262) dL_law_2257 (by decide) (fun _ => ?_) (fun c3 => absurd (by show lg_cmp (v1 0) _ = 0; rw [hag c]; exact lgc _) c3)
  refine X.goto (tgt := 2413) dL_law_2262 (by decide) ?_
  refine X.sub [2, 3, 4, 5, 6] (L' := bL L r i) rfl ?_
  exact kk
theorem cL_243 : xCSW RX0 243 mX0_keep 3 := ⟨_, _, rfl, lw_SW q1539 q1540 q120 q1541, ⟨by decide +kernel, by decide +kernel, by decide +kernel⟩, Nat.le_of_ble_eq_true rfl⟩
theorem cL_245 : xCV RX0 245 mX4_keep 1 := ⟨lw_V q2213 q2214 q2215 q127 q2216, rfl, ⟨by decide +kernel, by decide +kernel, by decide +kernel⟩, Nat.le_of_ble_eq_true rfl⟩
theorem lk_37 {G : xG} {Y : xR} {L : xL} {S S1 : MS} {v v1 : Nat → Int64} {T T1 : xF} {r : Option Nat} {i a b kd : Int32} (hg : gR G = fun _ => none) (hM : Y.1 = mL_law) (hD : 300 ≤ Y.2.1.frames ∧ 64 * 300 ≤ Y.2.1.locals) (hL : LOK L) (hn : NN L T) (hi : ∀ j ∈ ([1, 2, 3, 4, 5] : List Int32), vp_in (i + j) L.2.2.2.1) (hr : isO T r 0 = true) (hn1 : NN L T1) (hx : xle T T1) (hle : xle T1 Y.2.2.2.2) (hs : Ct G mX0_keep 123 (LWo (lc L S v) T) [va_rf r, .int (sc L i 1), .ref (lo_ L)] (.inl (some (.int kd))) (LWo (lc L S v1) T1)) (hm : m_keep (sc L i 1) S = some (b, S1)) (hth : m_thrown S1 = some kd) (hag : kd = 0 → v1 0 = b.toInt64) (kk : Xr G Y 2413 (bL L r i) [] (LWo (lc L S1 v1) T1)) : Xr G Y 2265 (bL L r i) [] (LWo (lc L S v) T) := by
  obtain ⟨M9, R9, T09, o9, T19⟩ := Y
  dsimp only at hM hD hle
  subst hM
  refine C.aload_n dL_law_2265 rfl 1 rfl ?_
  refine X.aload_n dL_law_2266 rfl 0 rfl ?_
  refine X.iload dL_law_2267 4 rfl ?_
  refine X.iconst (v := 1) dL_law_2269 (by decide) ?_
  refine X.iadd dL_law_2270 ?_
  refine X.iald (f := L.2.2.2.2) (n := L.2.2.2.1) dL_law_2271 (lc_s hL hn) (hi 1 (by decide)) ?_
  refine X.aload_n dL_law_2272 rfl 3 rfl ?_
  refine X.callSW (v := some (.int kd)) (As := [va_rf r, .int (sc L i 1), .ref (lo_ L)]) (rest := []) dL_law_2273 hs cL_243 rfl rfl (Nat.le_of_ble_eq_true rfl) ⟨by dsimp only; omega, by dsimp only; omega⟩ hx hle ?_
  refine C.ist (L' := [(5, .int kd), (0, .ref (ls_ L)), (1, va_rf r), (2, .ref (lm L)), (3, .ref (lo_ L)), (4, .int i)]) dL_law_2276 (Nat.le_of_ble_eq_true rfl) (xcQ (r := some _) (xcQ (xcQ (r := some _) (xcQ (r := some _) (xcI xcN))))) rfl ?_
  refine X.aload_n dL_law_2278 rfl 3 rfl ?_
  refine X.aload_n dL_law_2279 rfl 1 rfl ?_
  refine X.iload dL_law_2280 5 rfl ?_
  refine X.iconst (v := 1) dL_law_2282 (by decide) ?_
  refine X.iadd dL_law_2283 ?_
  refine X.iald (f := L.2.2.2.2) (n := L.2.2.2.1) dL_law_2284 (lc_s hL hn1) (hi 1 (by decide)) ?_
  refine X.callVi (As := [.int (sc L i 1)]) (rest := []) dL_law_2285 (CtM.law (w_keep hm) (v := v1) (T := T1) hL hn1) cL_245 rfl rfl (Nat.le_of_ble_eq_true rfl) (lc_0 hL hn1) rfl rfl ⟨by dsimp only; omega, by dsimp only; omega⟩ xle.rf hle ?_
  refine C.ist (L' := [(6, .int b), (5, .int kd), (0, .ref (ls_ L)), (1, va_rf r), (2, .ref (lm L)), (3, .ref (lo_ L)), (4, .int i)]) dL_law_2288 (Nat.le_of_ble_eq_true rfl) (xcI (xcQ (r := some _) (xcQ (xcQ (r := some _) (xcQ (r := some _) (xcI xcN)))))) rfl ?_
  refine X.aload_n dL_law_2290 rfl 4 rfl ?_
  refine X.callVi (As := []) (rest := []) dL_law_2291 (CtM.law (w_thrown hth) (v := v1) (T := T1) hL hn1) cL_125 rfl rfl (Nat.le_of_ble_eq_true rfl) (lc_0 hL hn1) rfl rfl ⟨by dsimp only; omega, by dsimp only; omega⟩ xle.rf hle ?_
  refine X.iload dL_law_2294 1 rfl ?_
  refine X.icmp_eq (tgt := 2301) dL_law_2296 (by decide) (fun c => ?_) (fun c => absurd rfl c)
  refine X.iload dL_law_2301 1 rfl ?_
  refine X.if_ne (tgt := 2318) dL_law_2303 (by decide) (fun c => ?_) (fun c => ?_)
  · refine X.goto (tgt := 2413) dL_law_2318 (by decide) ?_
    refine X.sub [2, 3, 4, 5, 6] (L' := bL L r i) rfl ?_
    exact kk
  refine X.aload_n dL_law_2306 rfl 5 rfl ?_
  refine X.iconst (v := 0) dL_law_2307 (by decide) ?_
  refine X.lald dL_law_2308 (lc_o hn1) (fun q => by rcases q with q | q <;> revert q <;> decide) ?_
  refine X.iload dL_law_2309 0 rfl ?_
  refine X.i2l dL_law_2311 rfl ?_
  refine X.lcmp dL_law_2312 ?_
  refine X.if_eq (tgt := 2318) dL_law_2313 (by decide) (fun _ => ?_) (fun c3 => absurd (by show lg_cmp (v1 0) _ = 0; rw [hag c]; exact lgc _) c3)
  refine X.goto (tgt := 2413) dL_law_2318 (by decide) ?_
  refine X.sub [2, 3, 4, 5, 6] (L' := bL L r i) rfl ?_
  exact kk
theorem cL_246 : xCSW RX0 246 mX0_harm 4 := ⟨_, _, rfl, lw_SW q1546 q1547 q120 q1548, ⟨by decide +kernel, by decide +kernel, by decide +kernel⟩, Nat.le_of_ble_eq_true rfl⟩
theorem cL_248 : xCV RX0 248 mX4_harm 2 := ⟨lw_V q2217 q2218 q2219 q127 q2220, rfl, ⟨by decide +kernel, by decide +kernel, by decide +kernel⟩, Nat.le_of_ble_eq_true rfl⟩
theorem lk_38 {G : xG} {Y : xR} {L : xL} {S S1 : MS} {v v1 : Nat → Int64} {T T1 : xF} {r : Option Nat} {i a b kd : Int32} (hg : gR G = fun _ => none) (hM : Y.1 = mL_law) (hD : 300 ≤ Y.2.1.frames ∧ 64 * 300 ≤ Y.2.1.locals) (hL : LOK L) (hn : NN L T) (hi : ∀ j ∈ ([1, 2, 3, 4, 5] : List Int32), vp_in (i + j) L.2.2.2.1) (hr : isO T r 0 = true) (hn1 : NN L T1) (hx : xle T T1) (hle : xle T1 Y.2.2.2.2) (hs : Ct G mX0_harm 128 (LWo (lc L S v) T) [va_rf r, .int (sc L i 1), .int (sc L i 2), .ref (lo_ L)] (.inl (some (.int kd))) (LWo (lc L S v1) T1)) (hm : m_harm (sc L i 1) (sc L i 2) S = some (b, S1)) (hth : m_thrown S1 = some kd) (hag : kd = 0 → v1 0 = b.toInt64) (kk : Xr G Y 2413 (bL L r i) [] (LWo (lc L S1 v1) T1)) : Xr G Y 2321 (bL L r i) [] (LWo (lc L S v) T) := by
  obtain ⟨M9, R9, T09, o9, T19⟩ := Y
  dsimp only at hM hD hle
  subst hM
  refine C.aload_n dL_law_2321 rfl 1 rfl ?_
  refine X.aload_n dL_law_2322 rfl 0 rfl ?_
  refine X.iload dL_law_2323 4 rfl ?_
  refine X.iconst (v := 1) dL_law_2325 (by decide) ?_
  refine X.iadd dL_law_2326 ?_
  refine X.iald (f := L.2.2.2.2) (n := L.2.2.2.1) dL_law_2327 (lc_s hL hn) (hi 1 (by decide)) ?_
  refine X.aload_n dL_law_2328 rfl 0 rfl ?_
  refine X.iload dL_law_2329 4 rfl ?_
  refine X.iconst (v := 2) dL_law_2331 (by decide) ?_
  refine X.iadd dL_law_2332 ?_
  refine X.iald (f := L.2.2.2.2) (n := L.2.2.2.1) dL_law_2333 (lc_s hL hn) (hi 2 (by decide)) ?_
  refine X.aload_n dL_law_2334 rfl 3 rfl ?_
  refine X.callSW (v := some (.int kd)) (As := [va_rf r, .int (sc L i 1), .int (sc L i 2), .ref (lo_ L)]) (rest := []) dL_law_2335 hs cL_246 rfl rfl (Nat.le_of_ble_eq_true rfl) ⟨by dsimp only; omega, by dsimp only; omega⟩ hx hle ?_
  refine C.ist (L' := [(5, .int kd), (0, .ref (ls_ L)), (1, va_rf r), (2, .ref (lm L)), (3, .ref (lo_ L)), (4, .int i)]) dL_law_2338 (Nat.le_of_ble_eq_true rfl) (xcQ (r := some _) (xcQ (xcQ (r := some _) (xcQ (r := some _) (xcI xcN))))) rfl ?_
  refine X.aload_n dL_law_2340 rfl 3 rfl ?_
  refine X.aload_n dL_law_2341 rfl 1 rfl ?_
  refine X.iload dL_law_2342 5 rfl ?_
  refine X.iconst (v := 1) dL_law_2344 (by decide) ?_
  refine X.iadd dL_law_2345 ?_
  refine X.iald (f := L.2.2.2.2) (n := L.2.2.2.1) dL_law_2346 (lc_s hL hn1) (hi 1 (by decide)) ?_
  refine X.aload_n dL_law_2347 rfl 1 rfl ?_
  refine X.iload dL_law_2348 5 rfl ?_
  refine X.iconst (v := 2) dL_law_2350 (by decide) ?_
  refine X.iadd dL_law_2351 ?_
  refine X.iald (f := L.2.2.2.2) (n := L.2.2.2.1) dL_law_2352 (lc_s hL hn1) (hi 2 (by decide)) ?_
  refine X.callVi (As := [.int (sc L i 1), .int (sc L i 2)]) (rest := []) dL_law_2353 (CtM.law (w_harm hm) (v := v1) (T := T1) hL hn1) cL_248 rfl rfl (Nat.le_of_ble_eq_true rfl) (lc_0 hL hn1) rfl rfl ⟨by dsimp only; omega, by dsimp only; omega⟩ xle.rf hle ?_
  refine C.ist (L' := [(6, .int b), (5, .int kd), (0, .ref (ls_ L)), (1, va_rf r), (2, .ref (lm L)), (3, .ref (lo_ L)), (4, .int i)]) dL_law_2356 (Nat.le_of_ble_eq_true rfl) (xcI (xcQ (r := some _) (xcQ (xcQ (r := some _) (xcQ (r := some _) (xcI xcN)))))) rfl ?_
  refine X.aload_n dL_law_2358 rfl 4 rfl ?_
  refine X.callVi (As := []) (rest := []) dL_law_2359 (CtM.law (w_thrown hth) (v := v1) (T := T1) hL hn1) cL_125 rfl rfl (Nat.le_of_ble_eq_true rfl) (lc_0 hL hn1) rfl rfl ⟨by dsimp only; omega, by dsimp only; omega⟩ xle.rf hle ?_
  refine X.iload dL_law_2362 1 rfl ?_
  refine X.icmp_eq (tgt := 2369) dL_law_2364 (by decide) (fun c => ?_) (fun c => absurd rfl c)
  refine X.iload dL_law_2369 1 rfl ?_
  refine X.if_ne (tgt := 2386) dL_law_2371 (by decide) (fun c => ?_) (fun c => ?_)
  · refine X.goto (tgt := 2413) dL_law_2386 (by decide) ?_
    refine X.sub [2, 3, 4, 5, 6] (L' := bL L r i) rfl ?_
    exact kk
  refine X.aload_n dL_law_2374 rfl 5 rfl ?_
  refine X.iconst (v := 0) dL_law_2375 (by decide) ?_
  refine X.lald dL_law_2376 (lc_o hn1) (fun q => by rcases q with q | q <;> revert q <;> decide) ?_
  refine X.iload dL_law_2377 0 rfl ?_
  refine X.i2l dL_law_2379 rfl ?_
  refine X.lcmp dL_law_2380 ?_
  refine X.if_eq (tgt := 2386) dL_law_2381 (by decide) (fun _ => ?_) (fun c3 => absurd (by show lg_cmp (v1 0) _ = 0; rw [hag c]; exact lgc _) c3)
  refine X.goto (tgt := 2413) dL_law_2386 (by decide) ?_
  refine X.sub [2, 3, 4, 5, 6] (L' := bL L r i) rfl ?_
  exact kk
theorem cL_249 : xCV RX0 249 mX1_image 0 := ⟨lw_V q698 q699 q700 q121 q701, rfl, ⟨by decide +kernel, by decide +kernel, by decide +kernel⟩, Nat.le_of_ble_eq_true rfl⟩
theorem cL_252 : xCV RX0 252 mX4_image 0 := ⟨lw_V q2221 q2222 q2223 q127 q2224, rfl, ⟨by decide +kernel, by decide +kernel, by decide +kernel⟩, Nat.le_of_ble_eq_true rfl⟩
theorem lk_39 {G : xG} {Y : xR} {L : xL} {S S1 : MS} {v v1 : Nat → Int64} {T T1 : xF} {r : Option Nat} {i a b kd : Int32} (hg : gR G = fun _ => none) (hM : Y.1 = mL_law) (hD : 300 ≤ Y.2.1.frames ∧ 64 * 300 ≤ Y.2.1.locals) (hL : LOK L) (hn : NN L T) (hi : ∀ j ∈ ([1, 2, 3, 4, 5] : List Int32), vp_in (i + j) L.2.2.2.1) (hr : isO T r 0 = true) (hn1 : NN L T1) (hx : xle T T1) (hle : xle T1 Y.2.2.2.2) (hs : Ct G mX1_image 6 (LWo (lc L S v) T) (va_rf r :: []) (.inl none) (LWo (lc L S v) T1)) (hm : m_image S = some S1) (kk : Xr G Y 2413 (bL L r i) [] (LWo (lc L S1 v) T1)) : Xr G Y 2389 (bL L r i) [] (LWo (lc L S v) T) := by
  obtain ⟨M9, R9, T09, o9, T19⟩ := Y
  dsimp only at hM hD hle
  subst hM
  refine C.aload_n dL_law_2389 rfl 1 rfl ?_
  refine C.Vv (As := []) (rest := []) dL_law_2390 hs cL_249 (isO_LW hr) rfl rfl (Nat.le_of_ble_eq_true rfl) rfl rfl ⟨by dsimp only; omega, by dsimp only; omega⟩ hx hle ?_
  refine X.aload_n dL_law_2393 rfl 2 rfl ?_
  refine X.callVv (As := []) (rest := []) dL_law_2394 (CtM.law (w_image hm) (v := v) (T := T1) hL hn1) cL_252 rfl rfl (Nat.le_of_ble_eq_true rfl) (lc_0 hL hn1) rfl rfl ⟨by dsimp only; omega, by dsimp only; omega⟩ xle.rf hle ?_
  refine X.goto (tgt := 2413) dL_law_2397 (by decide) ?_
  refine X.sub [0, 1, 2, 3, 4] (L' := bL L r i) rfl ?_
  exact kk
theorem cL_253 : xCV RX0 253 mX1_restore 0 := ⟨lw_V q726 q727 q728 q121 q729, rfl, ⟨by decide +kernel, by decide +kernel, by decide +kernel⟩, Nat.le_of_ble_eq_true rfl⟩
theorem cL_257 : xCV RX0 257 mX4_restore 0 := ⟨lw_V q2225 q2226 q2227 q127 q2228, rfl, ⟨by decide +kernel, by decide +kernel, by decide +kernel⟩, Nat.le_of_ble_eq_true rfl⟩
theorem lk_40 {G : xG} {Y : xR} {L : xL} {S S1 : MS} {v v1 : Nat → Int64} {T T1 : xF} {r : Option Nat} {i a b kd : Int32} (hg : gR G = fun _ => none) (hM : Y.1 = mL_law) (hD : 300 ≤ Y.2.1.frames ∧ 64 * 300 ≤ Y.2.1.locals) (hL : LOK L) (hn : NN L T) (hi : ∀ j ∈ ([1, 2, 3, 4, 5] : List Int32), vp_in (i + j) L.2.2.2.1) (hr : isO T r 0 = true) (hn1 : NN L T1) (hx : xle T T1) (hle : xle T1 Y.2.2.2.2) (hs : Ct G mX1_restore 6 (LWo (lc L S v) T) (va_rf r :: []) (.inl (some (.int a))) (LWo (lc L S v) T1)) (hm : m_restore S = some (a, S1)) (kk : Xr G Y 2413 (bL L r i) [] (LWo (lc L S1 v) T1)) : Xr G Y 2400 (bL L r i) [] (LWo (lc L S v) T) := by
  obtain ⟨M9, R9, T09, o9, T19⟩ := Y
  dsimp only at hM hD hle
  subst hM
  refine C.aload_n dL_law_2400 rfl 1 rfl ?_
  refine C.Vi (As := []) (rest := []) dL_law_2401 hs cL_253 (isO_LW hr) rfl rfl (Nat.le_of_ble_eq_true rfl) rfl rfl ⟨by dsimp only; omega, by dsimp only; omega⟩ hx hle ?_
  refine X.aload_n dL_law_2404 rfl 2 rfl ?_
  refine X.callVi (As := []) (rest := [.int a]) dL_law_2405 (CtM.law (w_restore hm) (v := v) (T := T1) hL hn1) cL_257 rfl rfl (Nat.le_of_ble_eq_true rfl) (lc_0 hL hn1) rfl rfl ⟨by dsimp only; omega, by dsimp only; omega⟩ xle.rf hle ?_
  refine X.icmp_eq (tgt := 2413) dL_law_2408 (by decide) (fun c => ?_) (fun c => absurd rfl c)
  refine X.sub [0, 1, 2, 3, 4] (L' := bL L r i) rfl ?_
  exact kk
