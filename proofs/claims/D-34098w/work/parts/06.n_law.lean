/-! the law's own entry -/
set_option maxRecDepth 100000
abbrev cL_law : ByteArray := code
def dkwL_law_79 : List UInt8 := [4, 172]
abbrev dktL_law_79 : List UInt8 := dkwL_law_79 ++ []
def dkwL_law_78 : List UInt8 := [154, 0, 15, 45, 3, 47, 21, 7, 133, 148, 153, 0, 5, 3, 172, 167, 0, 3, 132, 5, 5, 167, 248, 146]
abbrev dktL_law_78 : List UInt8 := dkwL_law_78 ++ dktL_law_79
def dkwL_law_77 : List UInt8 := [21, 5, 4, 96, 46, 182, 0, 187, 54, 7, 44, 182, 0, 108, 21, 6, 159, 0, 5, 3, 172, 21, 6]
abbrev dktL_law_77 : List UInt8 := dkwL_law_77 ++ dktL_law_78
def dkwL_law_76 : List UInt8 := [153, 0, 5, 3, 172, 167, 0, 59, 43, 42, 21, 5, 4, 96, 46, 45, 184, 0, 185, 54, 6, 44, 42]
abbrev dktL_law_76 : List UInt8 := dkwL_law_76 ++ dktL_law_77
def dkwL_law_75 : List UInt8 := [182, 0, 108, 21, 6, 159, 0, 5, 3, 172, 21, 6, 154, 0, 15, 45, 3, 47, 21, 7, 133, 148]
abbrev dktL_law_75 : List UInt8 := dkwL_law_75 ++ dktL_law_76
def dkwL_law_74 : List UInt8 := [184, 0, 182, 54, 6, 44, 42, 21, 5, 4, 96, 46, 42, 21, 5, 5, 96, 46, 182, 0, 184, 54, 7, 44]
abbrev dktL_law_74 : List UInt8 := dkwL_law_74 ++ dktL_law_75
def dkwL_law_73 : List UInt8 := [148, 153, 0, 5, 3, 172, 167, 0, 127, 43, 42, 21, 5, 4, 96, 46, 42, 21, 5, 5, 96, 46, 45]
abbrev dktL_law_73 : List UInt8 := dkwL_law_73 ++ dktL_law_74
def dkwL_law_72 : List UInt8 := [54, 7, 44, 182, 0, 108, 21, 6, 159, 0, 5, 3, 172, 21, 6, 154, 0, 15, 45, 3, 47, 21, 7, 133]
abbrev dktL_law_72 : List UInt8 := dkwL_law_72 ++ dktL_law_73
def dkwL_law_71 : List UInt8 := [96, 46, 45, 184, 0, 179, 54, 6, 44, 42, 21, 5, 4, 96, 46, 42, 21, 5, 5, 96, 46, 182, 0, 181]
abbrev dktL_law_71 : List UInt8 := dkwL_law_71 ++ dktL_law_72
def dkwL_law_70 : List UInt8 := [47, 21, 7, 133, 148, 153, 0, 5, 3, 172, 167, 0, 195, 43, 42, 21, 5, 4, 96, 46, 42, 21, 5, 5]
abbrev dktL_law_70 : List UInt8 := dkwL_law_70 ++ dktL_law_71
def dkwL_law_69 : List UInt8 := [46, 182, 0, 178, 54, 7, 44, 182, 0, 108, 21, 6, 159, 0, 5, 3, 172, 21, 6, 154, 0, 15, 45, 3]
abbrev dktL_law_69 : List UInt8 := dkwL_law_69 ++ dktL_law_70
def dkwL_law_68 : List UInt8 := [3, 172, 167, 0, 251, 43, 42, 21, 5, 4, 96, 46, 45, 184, 0, 176, 54, 6, 44, 42, 21, 5, 4, 96]
abbrev dktL_law_68 : List UInt8 := dkwL_law_68 ++ dktL_law_69
def dkwL_law_67 : List UInt8 := [182, 0, 108, 21, 6, 159, 0, 5, 3, 172, 21, 6, 154, 0, 14, 45, 3, 47, 22, 7, 148, 153, 0, 5]
abbrev dktL_law_67 : List UInt8 := dkwL_law_67 ++ dktL_law_68
def dkwL_law_66 : List UInt8 := [184, 0, 173, 54, 6, 44, 42, 21, 5, 4, 96, 46, 42, 21, 5, 5, 96, 46, 182, 0, 175, 55, 7, 44]
abbrev dktL_law_66 : List UInt8 := dkwL_law_66 ++ dktL_law_67
def dkwL_law_65 : List UInt8 := [148, 153, 0, 5, 3, 172, 167, 1, 62, 43, 42, 21, 5, 4, 96, 46, 42, 21, 5, 5, 96, 46, 45]
abbrev dktL_law_65 : List UInt8 := dkwL_law_65 ++ dktL_law_66
def dkwL_law_64 : List UInt8 := [54, 7, 44, 182, 0, 108, 21, 6, 159, 0, 5, 3, 172, 21, 6, 154, 0, 15, 45, 3, 47, 21, 7, 133]
abbrev dktL_law_64 : List UInt8 := dkwL_law_64 ++ dktL_law_65
def dkwL_law_63 : List UInt8 := [46, 45, 184, 0, 170, 54, 6, 44, 42, 21, 5, 4, 96, 46, 42, 21, 5, 5, 96, 46, 182, 0, 172]
abbrev dktL_law_63 : List UInt8 := dkwL_law_63 ++ dktL_law_64
def dkwL_law_62 : List UInt8 := [21, 7, 133, 148, 153, 0, 5, 3, 172, 167, 1, 130, 43, 42, 21, 5, 4, 96, 46, 42, 21, 5, 5, 96]
abbrev dktL_law_62 : List UInt8 := dkwL_law_62 ++ dktL_law_63
def dkwL_law_61 : List UInt8 := [182, 0, 169, 54, 7, 44, 182, 0, 108, 21, 6, 159, 0, 5, 3, 172, 21, 6, 154, 0, 15, 45, 3, 47]
abbrev dktL_law_61 : List UInt8 := dkwL_law_61 ++ dktL_law_62
def dkwL_law_60 : List UInt8 := [184, 0, 167, 54, 6, 44, 42, 21, 5, 4, 96, 46, 42, 21, 5, 5, 96, 46, 42, 21, 5, 6, 96, 46]
abbrev dktL_law_60 : List UInt8 := dkwL_law_60 ++ dktL_law_61
def dkwL_law_59 : List UInt8 := [167, 1, 210, 43, 42, 21, 5, 4, 96, 46, 42, 21, 5, 5, 96, 46, 42, 21, 5, 6, 96, 46, 45]
abbrev dktL_law_59 : List UInt8 := dkwL_law_59 ++ dktL_law_60
def dkwL_law_58 : List UInt8 := [159, 0, 5, 3, 172, 21, 6, 154, 0, 15, 45, 3, 47, 21, 7, 133, 148, 153, 0, 5, 3, 172]
abbrev dktL_law_58 : List UInt8 := dkwL_law_58 ++ dktL_law_59
def dkwL_law_57 : List UInt8 := [21, 5, 4, 96, 46, 42, 21, 5, 5, 96, 46, 182, 0, 166, 54, 7, 44, 182, 0, 108, 21, 6]
abbrev dktL_law_57 : List UInt8 := dkwL_law_57 ++ dktL_law_58
def dkwL_law_56 : List UInt8 := [167, 2, 22, 43, 42, 21, 5, 4, 96, 46, 42, 21, 5, 5, 96, 46, 45, 184, 0, 164, 54, 6, 44, 42]
abbrev dktL_law_56 : List UInt8 := dkwL_law_56 ++ dktL_law_57
def dkwL_law_55 : List UInt8 := [159, 0, 5, 3, 172, 21, 6, 154, 0, 15, 45, 3, 47, 21, 7, 133, 148, 153, 0, 5, 3, 172]
abbrev dktL_law_55 : List UInt8 := dkwL_law_55 ++ dktL_law_56
def dkwL_law_54 : List UInt8 := [21, 5, 4, 96, 46, 42, 21, 5, 5, 96, 46, 182, 0, 163, 54, 7, 44, 182, 0, 108, 21, 6]
abbrev dktL_law_54 : List UInt8 := dkwL_law_54 ++ dktL_law_55
def dkwL_law_53 : List UInt8 := [167, 2, 90, 43, 42, 21, 5, 4, 96, 46, 42, 21, 5, 5, 96, 46, 45, 184, 0, 161, 54, 6, 44, 42]
abbrev dktL_law_53 : List UInt8 := dkwL_law_53 ++ dktL_law_54
def dkwL_law_52 : List UInt8 := [159, 0, 5, 3, 172, 21, 6, 154, 0, 15, 45, 3, 47, 21, 7, 133, 148, 153, 0, 5, 3, 172]
abbrev dktL_law_52 : List UInt8 := dkwL_law_52 ++ dktL_law_53
def dkwL_law_51 : List UInt8 := [21, 5, 4, 96, 46, 42, 21, 5, 5, 96, 46, 182, 0, 160, 54, 7, 44, 182, 0, 108, 21, 6]
abbrev dktL_law_51 : List UInt8 := dkwL_law_51 ++ dktL_law_52
def dkwL_law_50 : List UInt8 := [167, 2, 158, 43, 42, 21, 5, 4, 96, 46, 42, 21, 5, 5, 96, 46, 45, 184, 0, 158, 54, 6, 44, 42]
abbrev dktL_law_50 : List UInt8 := dkwL_law_50 ++ dktL_law_51
def dkwL_law_49 : List UInt8 := [159, 0, 5, 3, 172, 21, 6, 154, 0, 15, 45, 3, 47, 21, 7, 133, 148, 153, 0, 5, 3, 172]
abbrev dktL_law_49 : List UInt8 := dkwL_law_49 ++ dktL_law_50
def dkwL_law_48 : List UInt8 := [21, 5, 5, 96, 46, 42, 21, 5, 6, 96, 46, 182, 0, 157, 54, 7, 44, 182, 0, 108, 21, 6]
abbrev dktL_law_48 : List UInt8 := dkwL_law_48 ++ dktL_law_49
def dkwL_law_47 : List UInt8 := [5, 96, 46, 42, 21, 5, 6, 96, 46, 45, 184, 0, 155, 54, 6, 44, 42, 21, 5, 4, 96, 46, 42]
abbrev dktL_law_47 : List UInt8 := dkwL_law_47 ++ dktL_law_48
def dkwL_law_46 : List UInt8 := [3, 47, 21, 7, 133, 148, 153, 0, 5, 3, 172, 167, 2, 238, 43, 42, 21, 5, 4, 96, 46, 42, 21, 5]
abbrev dktL_law_46 : List UInt8 := dkwL_law_46 ++ dktL_law_47
def dkwL_law_45 : List UInt8 := [96, 46, 182, 0, 154, 54, 7, 44, 182, 0, 108, 21, 6, 159, 0, 5, 3, 172, 21, 6, 154, 0, 15, 45]
abbrev dktL_law_45 : List UInt8 := dkwL_law_45 ++ dktL_law_46
def dkwL_law_44 : List UInt8 := [46, 42, 21, 5, 5, 96, 46, 45, 184, 0, 152, 54, 6, 44, 42, 21, 5, 4, 96, 46, 42, 21, 5, 5]
abbrev dktL_law_44 : List UInt8 := dkwL_law_44 ++ dktL_law_45
def dkwL_law_43 : List UInt8 := [154, 0, 15, 45, 3, 47, 21, 7, 133, 148, 153, 0, 5, 3, 172, 167, 3, 50, 43, 42, 21, 5, 4, 96]
abbrev dktL_law_43 : List UInt8 := dkwL_law_43 ++ dktL_law_44
def dkwL_law_42 : List UInt8 := [21, 5, 6, 96, 46, 182, 0, 151, 54, 7, 44, 182, 0, 108, 21, 6, 159, 0, 5, 3, 172, 21, 6]
abbrev dktL_law_42 : List UInt8 := dkwL_law_42 ++ dktL_law_43
def dkwL_law_41 : List UInt8 := [6, 96, 46, 45, 184, 0, 149, 54, 6, 44, 42, 21, 5, 4, 96, 46, 42, 21, 5, 5, 96, 46, 42]
abbrev dktL_law_41 : List UInt8 := dkwL_law_41 ++ dktL_law_42
def dkwL_law_40 : List UInt8 := [153, 0, 5, 3, 172, 167, 3, 130, 43, 42, 21, 5, 4, 96, 46, 42, 21, 5, 5, 96, 46, 42, 21, 5]
abbrev dktL_law_40 : List UInt8 := dkwL_law_40 ++ dktL_law_41
def dkwL_law_39 : List UInt8 := [44, 182, 0, 108, 21, 6, 159, 0, 5, 3, 172, 21, 6, 154, 0, 15, 45, 3, 47, 21, 7, 133, 148]
abbrev dktL_law_39 : List UInt8 := dkwL_law_39 ++ dktL_law_40
def dkwL_law_38 : List UInt8 := [45, 184, 0, 146, 54, 6, 44, 42, 21, 5, 4, 96, 46, 42, 21, 5, 5, 96, 46, 182, 0, 148, 54, 7]
abbrev dktL_law_38 : List UInt8 := dkwL_law_38 ++ dktL_law_39
def dkwL_law_37 : List UInt8 := [24, 7, 151, 154, 0, 5, 3, 172, 167, 3, 198, 43, 42, 21, 5, 4, 96, 46, 42, 21, 5, 5, 96, 46]
abbrev dktL_law_37 : List UInt8 := dkwL_law_37 ++ dktL_law_38
def dkwL_law_36 : List UInt8 := [25, 4, 3, 49, 24, 7, 151, 153, 0, 25, 25, 4, 3, 49, 25, 4, 3, 49, 151, 153, 0, 11, 24, 7]
abbrev dktL_law_36 : List UInt8 := dkwL_law_36 ++ dktL_law_37
def dkwL_law_35 : List UInt8 := [5, 96, 46, 182, 0, 145, 57, 7, 44, 182, 0, 108, 21, 6, 159, 0, 5, 3, 172, 21, 6, 154, 0, 35]
abbrev dktL_law_35 : List UInt8 := dkwL_law_35 ++ dktL_law_36
def dkwL_law_34 : List UInt8 := [46, 42, 21, 5, 5, 96, 46, 25, 4, 184, 0, 142, 54, 6, 44, 42, 21, 5, 4, 96, 46, 42, 21, 5]
abbrev dktL_law_34 : List UInt8 := dkwL_law_34 ++ dktL_law_35
def dkwL_law_33 : List UInt8 := [154, 0, 15, 45, 3, 47, 21, 7, 133, 148, 153, 0, 5, 3, 172, 167, 4, 31, 43, 42, 21, 5, 4, 96]
abbrev dktL_law_33 : List UInt8 := dkwL_law_33 ++ dktL_law_34
def dkwL_law_32 : List UInt8 := [21, 5, 6, 96, 46, 182, 0, 141, 54, 7, 44, 182, 0, 108, 21, 6, 159, 0, 5, 3, 172, 21, 6]
abbrev dktL_law_32 : List UInt8 := dkwL_law_32 ++ dktL_law_33
def dkwL_law_31 : List UInt8 := [6, 96, 46, 45, 184, 0, 139, 54, 6, 44, 42, 21, 5, 4, 96, 46, 42, 21, 5, 5, 96, 46, 42]
abbrev dktL_law_31 : List UInt8 := dkwL_law_31 ++ dktL_law_32
def dkwL_law_30 : List UInt8 := [153, 0, 5, 3, 172, 167, 4, 111, 43, 42, 21, 5, 4, 96, 46, 42, 21, 5, 5, 96, 46, 42, 21, 5]
abbrev dktL_law_30 : List UInt8 := dkwL_law_30 ++ dktL_law_31
def dkwL_law_29 : List UInt8 := [182, 0, 108, 21, 6, 159, 0, 5, 3, 172, 21, 6, 154, 0, 15, 45, 3, 47, 21, 7, 133, 148]
abbrev dktL_law_29 : List UInt8 := dkwL_law_29 ++ dktL_law_30
def dkwL_law_28 : List UInt8 := [21, 5, 5, 96, 46, 42, 21, 5, 6, 96, 46, 42, 21, 5, 7, 96, 46, 182, 0, 138, 54, 7, 44]
abbrev dktL_law_28 : List UInt8 := dkwL_law_28 ++ dktL_law_29
def dkwL_law_27 : List UInt8 := [6, 96, 46, 42, 21, 5, 7, 96, 46, 45, 184, 0, 135, 54, 6, 44, 42, 21, 5, 4, 96, 46, 42]
abbrev dktL_law_27 : List UInt8 := dkwL_law_27 ++ dktL_law_28
def dkwL_law_26 : List UInt8 := [153, 0, 5, 3, 172, 167, 4, 203, 43, 42, 21, 5, 4, 96, 46, 42, 21, 5, 5, 96, 46, 42, 21, 5]
abbrev dktL_law_26 : List UInt8 := dkwL_law_26 ++ dktL_law_27
def dkwL_law_25 : List UInt8 := [182, 0, 108, 21, 6, 159, 0, 5, 3, 172, 21, 6, 154, 0, 15, 45, 3, 47, 21, 7, 133, 148]
abbrev dktL_law_25 : List UInt8 := dkwL_law_25 ++ dktL_law_26
def dkwL_law_24 : List UInt8 := [184, 0, 132, 54, 6, 44, 42, 21, 5, 4, 96, 46, 42, 21, 5, 5, 96, 46, 182, 0, 134, 54, 7, 44]
abbrev dktL_law_24 : List UInt8 := dkwL_law_24 ++ dktL_law_25
def dkwL_law_23 : List UInt8 := [153, 0, 5, 3, 172, 167, 5, 15, 43, 42, 21, 5, 4, 96, 46, 42, 21, 5, 5, 96, 46, 45]
abbrev dktL_law_23 : List UInt8 := dkwL_law_23 ++ dktL_law_24
def dkwL_law_22 : List UInt8 := [55, 7, 44, 182, 0, 108, 21, 6, 159, 0, 5, 3, 172, 21, 6, 154, 0, 14, 45, 3, 47, 22, 7, 148]
abbrev dktL_law_22 : List UInt8 := dkwL_law_22 ++ dktL_law_23
def dkwL_law_21 : List UInt8 := [46, 45, 184, 0, 129, 54, 6, 44, 42, 21, 5, 4, 96, 46, 42, 21, 5, 5, 96, 46, 182, 0, 131]
abbrev dktL_law_21 : List UInt8 := dkwL_law_21 ++ dktL_law_22
def dkwL_law_20 : List UInt8 := [21, 7, 133, 148, 153, 0, 5, 3, 172, 167, 5, 82, 43, 42, 21, 5, 4, 96, 46, 42, 21, 5, 5, 96]
abbrev dktL_law_20 : List UInt8 := dkwL_law_20 ++ dktL_law_21
def dkwL_law_19 : List UInt8 := [182, 0, 128, 54, 7, 44, 182, 0, 108, 21, 6, 159, 0, 5, 3, 172, 21, 6, 154, 0, 15, 45, 3, 47]
abbrev dktL_law_19 : List UInt8 := dkwL_law_19 ++ dktL_law_20
def dkwL_law_18 : List UInt8 := [184, 0, 126, 54, 6, 44, 42, 21, 5, 4, 96, 46, 42, 21, 5, 5, 96, 46, 42, 21, 5, 6, 96, 46]
abbrev dktL_law_18 : List UInt8 := dkwL_law_18 ++ dktL_law_19
def dkwL_law_17 : List UInt8 := [167, 5, 162, 43, 42, 21, 5, 4, 96, 46, 42, 21, 5, 5, 96, 46, 42, 21, 5, 6, 96, 46, 45]
abbrev dktL_law_17 : List UInt8 := dkwL_law_17 ++ dktL_law_18
def dkwL_law_16 : List UInt8 := [159, 0, 5, 3, 172, 21, 6, 154, 0, 15, 45, 3, 47, 21, 7, 133, 148, 153, 0, 5, 3, 172]
abbrev dktL_law_16 : List UInt8 := dkwL_law_16 ++ dktL_law_17
def dkwL_law_15 : List UInt8 := [21, 5, 4, 96, 46, 42, 21, 5, 5, 96, 46, 182, 0, 125, 54, 7, 44, 182, 0, 108, 21, 6]
abbrev dktL_law_15 : List UInt8 := dkwL_law_15 ++ dktL_law_16
def dkwL_law_14 : List UInt8 := [167, 5, 230, 43, 42, 21, 5, 4, 96, 46, 42, 21, 5, 5, 96, 46, 45, 184, 0, 123, 54, 6, 44, 42]
abbrev dktL_law_14 : List UInt8 := dkwL_law_14 ++ dktL_law_15
def dkwL_law_13 : List UInt8 := [21, 6, 159, 0, 5, 3, 172, 21, 6, 154, 0, 15, 45, 3, 47, 21, 7, 133, 148, 153, 0, 5, 3, 172]
abbrev dktL_law_13 : List UInt8 := dkwL_law_13 ++ dktL_law_14
def dkwL_law_12 : List UInt8 := [46, 45, 184, 0, 120, 54, 6, 44, 42, 21, 5, 4, 96, 46, 182, 0, 122, 54, 7, 44, 182, 0, 108]
abbrev dktL_law_12 : List UInt8 := dkwL_law_12 ++ dktL_law_13
def dkwL_law_11 : List UInt8 := [154, 0, 15, 45, 3, 47, 21, 7, 133, 148, 153, 0, 5, 3, 172, 167, 6, 30, 43, 42, 21, 5, 4, 96]
abbrev dktL_law_11 : List UInt8 := dkwL_law_11 ++ dktL_law_12
def dkwL_law_10 : List UInt8 := [21, 5, 4, 96, 46, 182, 0, 119, 54, 7, 44, 182, 0, 108, 21, 6, 159, 0, 5, 3, 172, 21, 6]
abbrev dktL_law_10 : List UInt8 := dkwL_law_10 ++ dktL_law_11
def dkwL_law_9 : List UInt8 := [153, 0, 5, 3, 172, 167, 6, 86, 43, 42, 21, 5, 4, 96, 46, 45, 184, 0, 116, 54, 6, 44, 42]
abbrev dktL_law_9 : List UInt8 := dkwL_law_9 ++ dktL_law_10
def dkwL_law_8 : List UInt8 := [182, 0, 108, 21, 6, 159, 0, 5, 3, 172, 21, 6, 154, 0, 15, 45, 3, 47, 21, 7, 133, 148]
abbrev dktL_law_8 : List UInt8 := dkwL_law_8 ++ dktL_law_9
def dkwL_law_7 : List UInt8 := [184, 0, 112, 54, 6, 44, 42, 21, 5, 4, 96, 46, 42, 21, 5, 5, 96, 46, 182, 0, 115, 54, 7, 44]
abbrev dktL_law_7 : List UInt8 := dkwL_law_7 ++ dktL_law_8
def dkwL_law_6 : List UInt8 := [148, 153, 0, 5, 3, 172, 167, 6, 154, 43, 42, 21, 5, 4, 96, 46, 42, 21, 5, 5, 96, 46, 45]
abbrev dktL_law_6 : List UInt8 := dkwL_law_6 ++ dktL_law_7
def dkwL_law_5 : List UInt8 := [54, 7, 44, 182, 0, 108, 21, 6, 159, 0, 5, 3, 172, 21, 6, 154, 0, 15, 45, 3, 47, 21, 7, 133]
abbrev dktL_law_5 : List UInt8 := dkwL_law_5 ++ dktL_law_6
def dkwL_law_4 : List UInt8 := [54, 6, 44, 42, 21, 5, 4, 96, 46, 42, 21, 5, 5, 96, 46, 42, 21, 5, 6, 96, 46, 182, 0, 107]
abbrev dktL_law_4 : List UInt8 := dkwL_law_4 ++ dktL_law_5
def dkwL_law_3 : List UInt8 := [43, 42, 21, 5, 4, 96, 46, 42, 21, 5, 5, 96, 46, 42, 21, 5, 6, 96, 46, 45, 184, 0, 102]
abbrev dktL_law_3 : List UInt8 := dkwL_law_3 ++ dktL_law_4
def dkwL_law_2 : List UInt8 := [170, 0, 0, 0, 0, 0, 7, 91, 0, 0, 0, 0, 0, 0, 0, 24, 0, 0, 0, 116, 0, 0, 0, 196, 0, 0, 1, 8, 0, 0, 1, 64, 0, 0, 1, 120, 0, 0, 1, 188, 0, 0, 2, 12, 0, 0, 2, 79, 0, 0, 2, 147, 0, 0, 2, 239, 0, 0, 3, 63, 0, 0, 3, 152, 0, 0, 3, 220, 0, 0, 4, 44, 0, 0, 4, 112, 0, 0, 4, 192, 0, 0, 5, 4, 0, 0, 5, 72, 0, 0, 5, 140, 0, 0, 5, 220, 0, 0, 6, 32, 0, 0, 6, 99, 0, 0, 6, 155, 0, 0, 6, 223, 0, 0, 7, 35]
abbrev dktL_law_2 : List UInt8 := dkwL_law_2 ++ dktL_law_3
def dkwL_law_1 : List UInt8 := [58, 4, 3, 54, 5, 21, 5, 42, 190, 8, 100, 163, 7, 107, 42, 21, 5, 46, 16, 31, 126]
abbrev dktL_law_1 : List UInt8 := dkwL_law_1 ++ dktL_law_2
def dkwL_law_0 : List UInt8 := [187, 0, 8, 89, 183, 0, 98, 76, 187, 0, 99, 89, 183, 0, 101, 77, 4, 188, 11, 78, 4, 188, 7]
abbrev dktL_law_0 : List UInt8 := dkwL_law_0 ++ dktL_law_1
theorem dksL_law_0 : cL_law.data.toList.drop 0 = dktL_law_0 := by decide +kernel
theorem dksL_law_1 : cL_law.data.toList.drop 23 = dktL_law_1 := dk_seg dksL_law_0 23 rfl rfl
theorem dksL_law_2 : cL_law.data.toList.drop 44 = dktL_law_2 := dk_seg dksL_law_1 21 rfl rfl
theorem dksL_law_3 : cL_law.data.toList.drop 160 = dktL_law_3 := dk_seg dksL_law_2 116 rfl rfl
theorem dksL_law_4 : cL_law.data.toList.drop 183 = dktL_law_4 := dk_seg dksL_law_3 23 rfl rfl
theorem dksL_law_5 : cL_law.data.toList.drop 207 = dktL_law_5 := dk_seg dksL_law_4 24 rfl rfl
theorem dksL_law_6 : cL_law.data.toList.drop 231 = dktL_law_6 := dk_seg dksL_law_5 24 rfl rfl
theorem dksL_law_7 : cL_law.data.toList.drop 254 = dktL_law_7 := dk_seg dksL_law_6 23 rfl rfl
theorem dksL_law_8 : cL_law.data.toList.drop 278 = dktL_law_8 := dk_seg dksL_law_7 24 rfl rfl
theorem dksL_law_9 : cL_law.data.toList.drop 300 = dktL_law_9 := dk_seg dksL_law_8 22 rfl rfl
theorem dksL_law_10 : cL_law.data.toList.drop 323 = dktL_law_10 := dk_seg dksL_law_9 23 rfl rfl
theorem dksL_law_11 : cL_law.data.toList.drop 346 = dktL_law_11 := dk_seg dksL_law_10 23 rfl rfl
theorem dksL_law_12 : cL_law.data.toList.drop 370 = dktL_law_12 := dk_seg dksL_law_11 24 rfl rfl
theorem dksL_law_13 : cL_law.data.toList.drop 393 = dktL_law_13 := dk_seg dksL_law_12 23 rfl rfl
theorem dksL_law_14 : cL_law.data.toList.drop 417 = dktL_law_14 := dk_seg dksL_law_13 24 rfl rfl
theorem dksL_law_15 : cL_law.data.toList.drop 441 = dktL_law_15 := dk_seg dksL_law_14 24 rfl rfl
theorem dksL_law_16 : cL_law.data.toList.drop 463 = dktL_law_16 := dk_seg dksL_law_15 22 rfl rfl
theorem dksL_law_17 : cL_law.data.toList.drop 485 = dktL_law_17 := dk_seg dksL_law_16 22 rfl rfl
theorem dksL_law_18 : cL_law.data.toList.drop 508 = dktL_law_18 := dk_seg dksL_law_17 23 rfl rfl
theorem dksL_law_19 : cL_law.data.toList.drop 532 = dktL_law_19 := dk_seg dksL_law_18 24 rfl rfl
theorem dksL_law_20 : cL_law.data.toList.drop 556 = dktL_law_20 := dk_seg dksL_law_19 24 rfl rfl
theorem dksL_law_21 : cL_law.data.toList.drop 580 = dktL_law_21 := dk_seg dksL_law_20 24 rfl rfl
theorem dksL_law_22 : cL_law.data.toList.drop 603 = dktL_law_22 := dk_seg dksL_law_21 23 rfl rfl
theorem dksL_law_23 : cL_law.data.toList.drop 627 = dktL_law_23 := dk_seg dksL_law_22 24 rfl rfl
theorem dksL_law_24 : cL_law.data.toList.drop 649 = dktL_law_24 := dk_seg dksL_law_23 22 rfl rfl
theorem dksL_law_25 : cL_law.data.toList.drop 673 = dktL_law_25 := dk_seg dksL_law_24 24 rfl rfl
theorem dksL_law_26 : cL_law.data.toList.drop 695 = dktL_law_26 := dk_seg dksL_law_25 22 rfl rfl
theorem dksL_law_27 : cL_law.data.toList.drop 719 = dktL_law_27 := dk_seg dksL_law_26 24 rfl rfl
theorem dksL_law_28 : cL_law.data.toList.drop 742 = dktL_law_28 := dk_seg dksL_law_27 23 rfl rfl
theorem dksL_law_29 : cL_law.data.toList.drop 765 = dktL_law_29 := dk_seg dksL_law_28 23 rfl rfl
theorem dksL_law_30 : cL_law.data.toList.drop 787 = dktL_law_30 := dk_seg dksL_law_29 22 rfl rfl
theorem dksL_law_31 : cL_law.data.toList.drop 811 = dktL_law_31 := dk_seg dksL_law_30 24 rfl rfl
theorem dksL_law_32 : cL_law.data.toList.drop 834 = dktL_law_32 := dk_seg dksL_law_31 23 rfl rfl
theorem dksL_law_33 : cL_law.data.toList.drop 857 = dktL_law_33 := dk_seg dksL_law_32 23 rfl rfl
theorem dksL_law_34 : cL_law.data.toList.drop 881 = dktL_law_34 := dk_seg dksL_law_33 24 rfl rfl
theorem dksL_law_35 : cL_law.data.toList.drop 905 = dktL_law_35 := dk_seg dksL_law_34 24 rfl rfl
theorem dksL_law_36 : cL_law.data.toList.drop 929 = dktL_law_36 := dk_seg dksL_law_35 24 rfl rfl
theorem dksL_law_37 : cL_law.data.toList.drop 953 = dktL_law_37 := dk_seg dksL_law_36 24 rfl rfl
theorem dksL_law_38 : cL_law.data.toList.drop 977 = dktL_law_38 := dk_seg dksL_law_37 24 rfl rfl
theorem dksL_law_39 : cL_law.data.toList.drop 1001 = dktL_law_39 := dk_seg dksL_law_38 24 rfl rfl
theorem dksL_law_40 : cL_law.data.toList.drop 1024 = dktL_law_40 := dk_seg dksL_law_39 23 rfl rfl
theorem dksL_law_41 : cL_law.data.toList.drop 1048 = dktL_law_41 := dk_seg dksL_law_40 24 rfl rfl
theorem dksL_law_42 : cL_law.data.toList.drop 1071 = dktL_law_42 := dk_seg dksL_law_41 23 rfl rfl
theorem dksL_law_43 : cL_law.data.toList.drop 1094 = dktL_law_43 := dk_seg dksL_law_42 23 rfl rfl
theorem dksL_law_44 : cL_law.data.toList.drop 1118 = dktL_law_44 := dk_seg dksL_law_43 24 rfl rfl
theorem dksL_law_45 : cL_law.data.toList.drop 1142 = dktL_law_45 := dk_seg dksL_law_44 24 rfl rfl
theorem dksL_law_46 : cL_law.data.toList.drop 1166 = dktL_law_46 := dk_seg dksL_law_45 24 rfl rfl
theorem dksL_law_47 : cL_law.data.toList.drop 1190 = dktL_law_47 := dk_seg dksL_law_46 24 rfl rfl
theorem dksL_law_48 : cL_law.data.toList.drop 1213 = dktL_law_48 := dk_seg dksL_law_47 23 rfl rfl
theorem dksL_law_49 : cL_law.data.toList.drop 1235 = dktL_law_49 := dk_seg dksL_law_48 22 rfl rfl
theorem dksL_law_50 : cL_law.data.toList.drop 1257 = dktL_law_50 := dk_seg dksL_law_49 22 rfl rfl
theorem dksL_law_51 : cL_law.data.toList.drop 1281 = dktL_law_51 := dk_seg dksL_law_50 24 rfl rfl
theorem dksL_law_52 : cL_law.data.toList.drop 1303 = dktL_law_52 := dk_seg dksL_law_51 22 rfl rfl
theorem dksL_law_53 : cL_law.data.toList.drop 1325 = dktL_law_53 := dk_seg dksL_law_52 22 rfl rfl
theorem dksL_law_54 : cL_law.data.toList.drop 1349 = dktL_law_54 := dk_seg dksL_law_53 24 rfl rfl
theorem dksL_law_55 : cL_law.data.toList.drop 1371 = dktL_law_55 := dk_seg dksL_law_54 22 rfl rfl
theorem dksL_law_56 : cL_law.data.toList.drop 1393 = dktL_law_56 := dk_seg dksL_law_55 22 rfl rfl
theorem dksL_law_57 : cL_law.data.toList.drop 1417 = dktL_law_57 := dk_seg dksL_law_56 24 rfl rfl
theorem dksL_law_58 : cL_law.data.toList.drop 1439 = dktL_law_58 := dk_seg dksL_law_57 22 rfl rfl
theorem dksL_law_59 : cL_law.data.toList.drop 1461 = dktL_law_59 := dk_seg dksL_law_58 22 rfl rfl
theorem dksL_law_60 : cL_law.data.toList.drop 1484 = dktL_law_60 := dk_seg dksL_law_59 23 rfl rfl
theorem dksL_law_61 : cL_law.data.toList.drop 1508 = dktL_law_61 := dk_seg dksL_law_60 24 rfl rfl
theorem dksL_law_62 : cL_law.data.toList.drop 1532 = dktL_law_62 := dk_seg dksL_law_61 24 rfl rfl
theorem dksL_law_63 : cL_law.data.toList.drop 1556 = dktL_law_63 := dk_seg dksL_law_62 24 rfl rfl
theorem dksL_law_64 : cL_law.data.toList.drop 1579 = dktL_law_64 := dk_seg dksL_law_63 23 rfl rfl
theorem dksL_law_65 : cL_law.data.toList.drop 1603 = dktL_law_65 := dk_seg dksL_law_64 24 rfl rfl
theorem dksL_law_66 : cL_law.data.toList.drop 1626 = dktL_law_66 := dk_seg dksL_law_65 23 rfl rfl
theorem dksL_law_67 : cL_law.data.toList.drop 1650 = dktL_law_67 := dk_seg dksL_law_66 24 rfl rfl
theorem dksL_law_68 : cL_law.data.toList.drop 1674 = dktL_law_68 := dk_seg dksL_law_67 24 rfl rfl
theorem dksL_law_69 : cL_law.data.toList.drop 1698 = dktL_law_69 := dk_seg dksL_law_68 24 rfl rfl
theorem dksL_law_70 : cL_law.data.toList.drop 1722 = dktL_law_70 := dk_seg dksL_law_69 24 rfl rfl
theorem dksL_law_71 : cL_law.data.toList.drop 1746 = dktL_law_71 := dk_seg dksL_law_70 24 rfl rfl
theorem dksL_law_72 : cL_law.data.toList.drop 1770 = dktL_law_72 := dk_seg dksL_law_71 24 rfl rfl
theorem dksL_law_73 : cL_law.data.toList.drop 1794 = dktL_law_73 := dk_seg dksL_law_72 24 rfl rfl
theorem dksL_law_74 : cL_law.data.toList.drop 1817 = dktL_law_74 := dk_seg dksL_law_73 23 rfl rfl
theorem dksL_law_75 : cL_law.data.toList.drop 1841 = dktL_law_75 := dk_seg dksL_law_74 24 rfl rfl
theorem dksL_law_76 : cL_law.data.toList.drop 1863 = dktL_law_76 := dk_seg dksL_law_75 22 rfl rfl
theorem dksL_law_77 : cL_law.data.toList.drop 1886 = dktL_law_77 := dk_seg dksL_law_76 23 rfl rfl
theorem dksL_law_78 : cL_law.data.toList.drop 1909 = dktL_law_78 := dk_seg dksL_law_77 23 rfl rfl
theorem dksL_law_79 : cL_law.data.toList.drop 1933 = dktL_law_79 := dk_seg dksL_law_78 24 rfl rfl
theorem dL_law_0 : decode cL_law 0 = .ok (.new 8, 3) := dk_187 0 8 (dk_at dksL_law_0 0 rfl rfl)
theorem dL_law_3 : decode cL_law 3 = .ok (.dup, 1) := dk_89 (dk_at dksL_law_0 3 rfl rfl)
theorem dL_law_4 : decode cL_law 4 = .ok (.invokespecial 98, 3) := dk_183 0 98 (dk_at dksL_law_0 4 rfl rfl)
theorem dL_law_7 : decode cL_law 7 = .ok (.astore_n 1, 1) := dk_76 (dk_at dksL_law_0 7 rfl rfl)
theorem dL_law_8 : decode cL_law 8 = .ok (.new 99, 3) := dk_187 0 99 (dk_at dksL_law_0 8 rfl rfl)
theorem dL_law_11 : decode cL_law 11 = .ok (.dup, 1) := dk_89 (dk_at dksL_law_0 11 rfl rfl)
theorem dL_law_12 : decode cL_law 12 = .ok (.invokespecial 101, 3) := dk_183 0 101 (dk_at dksL_law_0 12 rfl rfl)
theorem dL_law_15 : decode cL_law 15 = .ok (.astore_n 2, 1) := dk_77 (dk_at dksL_law_0 15 rfl rfl)
theorem dL_law_16 : decode cL_law 16 = .ok (.iconst 1, 1) := dk_4 (dk_at dksL_law_0 16 rfl rfl)
theorem dL_law_17 : decode cL_law 17 = .ok (.newarray .long, 2) := dk_188_11 (dk_at dksL_law_0 17 rfl rfl)
theorem dL_law_19 : decode cL_law 19 = .ok (.astore_n 3, 1) := dk_78 (dk_at dksL_law_0 19 rfl rfl)
theorem dL_law_20 : decode cL_law 20 = .ok (.iconst 1, 1) := dk_4 (dk_at dksL_law_0 20 rfl rfl)
theorem dL_law_21 : decode cL_law 21 = .ok (.newarray .double, 2) := dk_188_7 (dk_at dksL_law_0 21 rfl rfl)
theorem dL_law_23 : decode cL_law 23 = .ok (.astore 4, 2) := dk_58 4 (dk_at dksL_law_1 0 rfl rfl)
theorem dL_law_25 : decode cL_law 25 = .ok (.iconst 0, 1) := dk_3 (dk_at dksL_law_1 2 rfl rfl)
theorem dL_law_26 : decode cL_law 26 = .ok (.istore 5, 2) := dk_54 5 (dk_at dksL_law_1 3 rfl rfl)
theorem dL_law_28 : decode cL_law 28 = .ok (.iload 5, 2) := dk_21 5 (dk_at dksL_law_1 5 rfl rfl)
theorem dL_law_30 : decode cL_law 30 = .ok (.aload_n 0, 1) := dk_42 (dk_at dksL_law_1 7 rfl rfl)
theorem dL_law_31 : decode cL_law 31 = .ok (.arraylength, 1) := dk_190 (dk_at dksL_law_1 8 rfl rfl)
theorem dL_law_32 : decode cL_law 32 = .ok (.iconst 5, 1) := dk_8 (dk_at dksL_law_1 9 rfl rfl)
theorem dL_law_33 : decode cL_law 33 = .ok (.isub, 1) := dk_100 (dk_at dksL_law_1 10 rfl rfl)
theorem dL_law_34 : decode cL_law 34 = .ok (.if_icmp .gt 1899, 3) := dk_163 7 107 (dk_at dksL_law_1 11 rfl rfl)
theorem dL_law_37 : decode cL_law 37 = .ok (.aload_n 0, 1) := dk_42 (dk_at dksL_law_1 14 rfl rfl)
theorem dL_law_38 : decode cL_law 38 = .ok (.iload 5, 2) := dk_21 5 (dk_at dksL_law_1 15 rfl rfl)
theorem dL_law_40 : decode cL_law 40 = .ok (.iaload, 1) := dk_46 (dk_at dksL_law_1 17 rfl rfl)
theorem dL_law_41 : decode cL_law 41 = .ok (.bipush 31, 2) := dk_16 31 (dk_at dksL_law_1 18 rfl rfl)
theorem dL_law_43 : decode cL_law 43 = .ok (.iand, 1) := dk_126 (dk_at dksL_law_1 20 rfl rfl)
theorem dL_law_44 : decode cL_law 44 = .ok (.tableswitch 1883 0 24 #[116, 196, 264, 320, 376, 444, 524, 591, 659, 751, 831, 920, 988, 1068, 1136, 1216, 1284, 1352, 1420, 1500, 1568, 1635, 1691, 1759, 1827], 116) := by decide +kernel
theorem dL_law_160 : decode cL_law 160 = .ok (.aload_n 1, 1) := dk_43 (dk_at dksL_law_3 0 rfl rfl)
theorem dL_law_161 : decode cL_law 161 = .ok (.aload_n 0, 1) := dk_42 (dk_at dksL_law_3 1 rfl rfl)
theorem dL_law_162 : decode cL_law 162 = .ok (.iload 5, 2) := dk_21 5 (dk_at dksL_law_3 2 rfl rfl)
theorem dL_law_164 : decode cL_law 164 = .ok (.iconst 1, 1) := dk_4 (dk_at dksL_law_3 4 rfl rfl)
theorem dL_law_165 : decode cL_law 165 = .ok (.iadd, 1) := dk_96 (dk_at dksL_law_3 5 rfl rfl)
theorem dL_law_166 : decode cL_law 166 = .ok (.iaload, 1) := dk_46 (dk_at dksL_law_3 6 rfl rfl)
theorem dL_law_167 : decode cL_law 167 = .ok (.aload_n 0, 1) := dk_42 (dk_at dksL_law_3 7 rfl rfl)
theorem dL_law_168 : decode cL_law 168 = .ok (.iload 5, 2) := dk_21 5 (dk_at dksL_law_3 8 rfl rfl)
theorem dL_law_170 : decode cL_law 170 = .ok (.iconst 2, 1) := dk_5 (dk_at dksL_law_3 10 rfl rfl)
theorem dL_law_171 : decode cL_law 171 = .ok (.iadd, 1) := dk_96 (dk_at dksL_law_3 11 rfl rfl)
theorem dL_law_172 : decode cL_law 172 = .ok (.iaload, 1) := dk_46 (dk_at dksL_law_3 12 rfl rfl)
theorem dL_law_173 : decode cL_law 173 = .ok (.aload_n 0, 1) := dk_42 (dk_at dksL_law_3 13 rfl rfl)
theorem dL_law_174 : decode cL_law 174 = .ok (.iload 5, 2) := dk_21 5 (dk_at dksL_law_3 14 rfl rfl)
theorem dL_law_176 : decode cL_law 176 = .ok (.iconst 3, 1) := dk_6 (dk_at dksL_law_3 16 rfl rfl)
theorem dL_law_177 : decode cL_law 177 = .ok (.iadd, 1) := dk_96 (dk_at dksL_law_3 17 rfl rfl)
theorem dL_law_178 : decode cL_law 178 = .ok (.iaload, 1) := dk_46 (dk_at dksL_law_3 18 rfl rfl)
theorem dL_law_179 : decode cL_law 179 = .ok (.aload_n 3, 1) := dk_45 (dk_at dksL_law_3 19 rfl rfl)
theorem dL_law_180 : decode cL_law 180 = .ok (.invokestatic 102, 3) := dk_184 0 102 (dk_at dksL_law_3 20 rfl rfl)
theorem dL_law_183 : decode cL_law 183 = .ok (.istore 6, 2) := dk_54 6 (dk_at dksL_law_4 0 rfl rfl)
theorem dL_law_185 : decode cL_law 185 = .ok (.aload_n 2, 1) := dk_44 (dk_at dksL_law_4 2 rfl rfl)
theorem dL_law_186 : decode cL_law 186 = .ok (.aload_n 0, 1) := dk_42 (dk_at dksL_law_4 3 rfl rfl)
theorem dL_law_187 : decode cL_law 187 = .ok (.iload 5, 2) := dk_21 5 (dk_at dksL_law_4 4 rfl rfl)
theorem dL_law_189 : decode cL_law 189 = .ok (.iconst 1, 1) := dk_4 (dk_at dksL_law_4 6 rfl rfl)
theorem dL_law_190 : decode cL_law 190 = .ok (.iadd, 1) := dk_96 (dk_at dksL_law_4 7 rfl rfl)
theorem dL_law_191 : decode cL_law 191 = .ok (.iaload, 1) := dk_46 (dk_at dksL_law_4 8 rfl rfl)
theorem dL_law_192 : decode cL_law 192 = .ok (.aload_n 0, 1) := dk_42 (dk_at dksL_law_4 9 rfl rfl)
theorem dL_law_193 : decode cL_law 193 = .ok (.iload 5, 2) := dk_21 5 (dk_at dksL_law_4 10 rfl rfl)
theorem dL_law_195 : decode cL_law 195 = .ok (.iconst 2, 1) := dk_5 (dk_at dksL_law_4 12 rfl rfl)
theorem dL_law_196 : decode cL_law 196 = .ok (.iadd, 1) := dk_96 (dk_at dksL_law_4 13 rfl rfl)
theorem dL_law_197 : decode cL_law 197 = .ok (.iaload, 1) := dk_46 (dk_at dksL_law_4 14 rfl rfl)
theorem dL_law_198 : decode cL_law 198 = .ok (.aload_n 0, 1) := dk_42 (dk_at dksL_law_4 15 rfl rfl)
theorem dL_law_199 : decode cL_law 199 = .ok (.iload 5, 2) := dk_21 5 (dk_at dksL_law_4 16 rfl rfl)
theorem dL_law_201 : decode cL_law 201 = .ok (.iconst 3, 1) := dk_6 (dk_at dksL_law_4 18 rfl rfl)
theorem dL_law_202 : decode cL_law 202 = .ok (.iadd, 1) := dk_96 (dk_at dksL_law_4 19 rfl rfl)
theorem dL_law_203 : decode cL_law 203 = .ok (.iaload, 1) := dk_46 (dk_at dksL_law_4 20 rfl rfl)
theorem dL_law_204 : decode cL_law 204 = .ok (.invokevirtual 107, 3) := dk_182 0 107 (dk_at dksL_law_4 21 rfl rfl)
theorem dL_law_207 : decode cL_law 207 = .ok (.istore 7, 2) := dk_54 7 (dk_at dksL_law_5 0 rfl rfl)
theorem dL_law_209 : decode cL_law 209 = .ok (.aload_n 2, 1) := dk_44 (dk_at dksL_law_5 2 rfl rfl)
theorem dL_law_210 : decode cL_law 210 = .ok (.invokevirtual 108, 3) := dk_182 0 108 (dk_at dksL_law_5 3 rfl rfl)
theorem dL_law_213 : decode cL_law 213 = .ok (.iload 6, 2) := dk_21 6 (dk_at dksL_law_5 6 rfl rfl)
theorem dL_law_215 : decode cL_law 215 = .ok (.if_icmp .eq 5, 3) := dk_159 0 5 (dk_at dksL_law_5 8 rfl rfl)
theorem dL_law_218 : decode cL_law 218 = .ok (.iconst 0, 1) := dk_3 (dk_at dksL_law_5 11 rfl rfl)
theorem dL_law_219 : decode cL_law 219 = .ok (.ireturn, 1) := dk_172 (dk_at dksL_law_5 12 rfl rfl)
theorem dL_law_220 : decode cL_law 220 = .ok (.iload 6, 2) := dk_21 6 (dk_at dksL_law_5 13 rfl rfl)
theorem dL_law_222 : decode cL_law 222 = .ok (.ifCond .ne 15, 3) := dk_154 0 15 (dk_at dksL_law_5 15 rfl rfl)
theorem dL_law_225 : decode cL_law 225 = .ok (.aload_n 3, 1) := dk_45 (dk_at dksL_law_5 18 rfl rfl)
theorem dL_law_226 : decode cL_law 226 = .ok (.iconst 0, 1) := dk_3 (dk_at dksL_law_5 19 rfl rfl)
theorem dL_law_227 : decode cL_law 227 = .ok (.laload, 1) := dk_47 (dk_at dksL_law_5 20 rfl rfl)
theorem dL_law_228 : decode cL_law 228 = .ok (.iload 7, 2) := dk_21 7 (dk_at dksL_law_5 21 rfl rfl)
theorem dL_law_230 : decode cL_law 230 = .ok (.i2l, 1) := dk_133 (dk_at dksL_law_5 23 rfl rfl)
theorem dL_law_231 : decode cL_law 231 = .ok (.lcmp, 1) := dk_148 (dk_at dksL_law_6 0 rfl rfl)
theorem dL_law_232 : decode cL_law 232 = .ok (.ifCond .eq 5, 3) := dk_153 0 5 (dk_at dksL_law_6 1 rfl rfl)
theorem dL_law_235 : decode cL_law 235 = .ok (.iconst 0, 1) := dk_3 (dk_at dksL_law_6 4 rfl rfl)
theorem dL_law_236 : decode cL_law 236 = .ok (.ireturn, 1) := dk_172 (dk_at dksL_law_6 5 rfl rfl)
theorem dL_law_237 : decode cL_law 237 = .ok (.goto 1690, 3) := dk_167 6 154 (dk_at dksL_law_6 6 rfl rfl)
theorem dL_law_240 : decode cL_law 240 = .ok (.aload_n 1, 1) := dk_43 (dk_at dksL_law_6 9 rfl rfl)
theorem dL_law_241 : decode cL_law 241 = .ok (.aload_n 0, 1) := dk_42 (dk_at dksL_law_6 10 rfl rfl)
theorem dL_law_242 : decode cL_law 242 = .ok (.iload 5, 2) := dk_21 5 (dk_at dksL_law_6 11 rfl rfl)
theorem dL_law_244 : decode cL_law 244 = .ok (.iconst 1, 1) := dk_4 (dk_at dksL_law_6 13 rfl rfl)
theorem dL_law_245 : decode cL_law 245 = .ok (.iadd, 1) := dk_96 (dk_at dksL_law_6 14 rfl rfl)
theorem dL_law_246 : decode cL_law 246 = .ok (.iaload, 1) := dk_46 (dk_at dksL_law_6 15 rfl rfl)
theorem dL_law_247 : decode cL_law 247 = .ok (.aload_n 0, 1) := dk_42 (dk_at dksL_law_6 16 rfl rfl)
theorem dL_law_248 : decode cL_law 248 = .ok (.iload 5, 2) := dk_21 5 (dk_at dksL_law_6 17 rfl rfl)
theorem dL_law_250 : decode cL_law 250 = .ok (.iconst 2, 1) := dk_5 (dk_at dksL_law_6 19 rfl rfl)
theorem dL_law_251 : decode cL_law 251 = .ok (.iadd, 1) := dk_96 (dk_at dksL_law_6 20 rfl rfl)
theorem dL_law_252 : decode cL_law 252 = .ok (.iaload, 1) := dk_46 (dk_at dksL_law_6 21 rfl rfl)
theorem dL_law_253 : decode cL_law 253 = .ok (.aload_n 3, 1) := dk_45 (dk_at dksL_law_6 22 rfl rfl)
theorem dL_law_254 : decode cL_law 254 = .ok (.invokestatic 112, 3) := dk_184 0 112 (dk_at dksL_law_7 0 rfl rfl)
theorem dL_law_257 : decode cL_law 257 = .ok (.istore 6, 2) := dk_54 6 (dk_at dksL_law_7 3 rfl rfl)
theorem dL_law_259 : decode cL_law 259 = .ok (.aload_n 2, 1) := dk_44 (dk_at dksL_law_7 5 rfl rfl)
theorem dL_law_260 : decode cL_law 260 = .ok (.aload_n 0, 1) := dk_42 (dk_at dksL_law_7 6 rfl rfl)
theorem dL_law_261 : decode cL_law 261 = .ok (.iload 5, 2) := dk_21 5 (dk_at dksL_law_7 7 rfl rfl)
theorem dL_law_263 : decode cL_law 263 = .ok (.iconst 1, 1) := dk_4 (dk_at dksL_law_7 9 rfl rfl)
theorem dL_law_264 : decode cL_law 264 = .ok (.iadd, 1) := dk_96 (dk_at dksL_law_7 10 rfl rfl)
theorem dL_law_265 : decode cL_law 265 = .ok (.iaload, 1) := dk_46 (dk_at dksL_law_7 11 rfl rfl)
theorem dL_law_266 : decode cL_law 266 = .ok (.aload_n 0, 1) := dk_42 (dk_at dksL_law_7 12 rfl rfl)
theorem dL_law_267 : decode cL_law 267 = .ok (.iload 5, 2) := dk_21 5 (dk_at dksL_law_7 13 rfl rfl)
theorem dL_law_269 : decode cL_law 269 = .ok (.iconst 2, 1) := dk_5 (dk_at dksL_law_7 15 rfl rfl)
theorem dL_law_270 : decode cL_law 270 = .ok (.iadd, 1) := dk_96 (dk_at dksL_law_7 16 rfl rfl)
theorem dL_law_271 : decode cL_law 271 = .ok (.iaload, 1) := dk_46 (dk_at dksL_law_7 17 rfl rfl)
theorem dL_law_272 : decode cL_law 272 = .ok (.invokevirtual 115, 3) := dk_182 0 115 (dk_at dksL_law_7 18 rfl rfl)
theorem dL_law_275 : decode cL_law 275 = .ok (.istore 7, 2) := dk_54 7 (dk_at dksL_law_7 21 rfl rfl)
theorem dL_law_277 : decode cL_law 277 = .ok (.aload_n 2, 1) := dk_44 (dk_at dksL_law_7 23 rfl rfl)
theorem dL_law_278 : decode cL_law 278 = .ok (.invokevirtual 108, 3) := dk_182 0 108 (dk_at dksL_law_8 0 rfl rfl)
theorem dL_law_281 : decode cL_law 281 = .ok (.iload 6, 2) := dk_21 6 (dk_at dksL_law_8 3 rfl rfl)
theorem dL_law_283 : decode cL_law 283 = .ok (.if_icmp .eq 5, 3) := dk_159 0 5 (dk_at dksL_law_8 5 rfl rfl)
theorem dL_law_286 : decode cL_law 286 = .ok (.iconst 0, 1) := dk_3 (dk_at dksL_law_8 8 rfl rfl)
theorem dL_law_287 : decode cL_law 287 = .ok (.ireturn, 1) := dk_172 (dk_at dksL_law_8 9 rfl rfl)
theorem dL_law_288 : decode cL_law 288 = .ok (.iload 6, 2) := dk_21 6 (dk_at dksL_law_8 10 rfl rfl)
theorem dL_law_290 : decode cL_law 290 = .ok (.ifCond .ne 15, 3) := dk_154 0 15 (dk_at dksL_law_8 12 rfl rfl)
theorem dL_law_293 : decode cL_law 293 = .ok (.aload_n 3, 1) := dk_45 (dk_at dksL_law_8 15 rfl rfl)
theorem dL_law_294 : decode cL_law 294 = .ok (.iconst 0, 1) := dk_3 (dk_at dksL_law_8 16 rfl rfl)
theorem dL_law_295 : decode cL_law 295 = .ok (.laload, 1) := dk_47 (dk_at dksL_law_8 17 rfl rfl)
theorem dL_law_296 : decode cL_law 296 = .ok (.iload 7, 2) := dk_21 7 (dk_at dksL_law_8 18 rfl rfl)
theorem dL_law_298 : decode cL_law 298 = .ok (.i2l, 1) := dk_133 (dk_at dksL_law_8 20 rfl rfl)
theorem dL_law_299 : decode cL_law 299 = .ok (.lcmp, 1) := dk_148 (dk_at dksL_law_8 21 rfl rfl)
theorem dL_law_300 : decode cL_law 300 = .ok (.ifCond .eq 5, 3) := dk_153 0 5 (dk_at dksL_law_9 0 rfl rfl)
theorem dL_law_303 : decode cL_law 303 = .ok (.iconst 0, 1) := dk_3 (dk_at dksL_law_9 3 rfl rfl)
theorem dL_law_304 : decode cL_law 304 = .ok (.ireturn, 1) := dk_172 (dk_at dksL_law_9 4 rfl rfl)
theorem dL_law_305 : decode cL_law 305 = .ok (.goto 1622, 3) := dk_167 6 86 (dk_at dksL_law_9 5 rfl rfl)
theorem dL_law_308 : decode cL_law 308 = .ok (.aload_n 1, 1) := dk_43 (dk_at dksL_law_9 8 rfl rfl)
theorem dL_law_309 : decode cL_law 309 = .ok (.aload_n 0, 1) := dk_42 (dk_at dksL_law_9 9 rfl rfl)
theorem dL_law_310 : decode cL_law 310 = .ok (.iload 5, 2) := dk_21 5 (dk_at dksL_law_9 10 rfl rfl)
theorem dL_law_312 : decode cL_law 312 = .ok (.iconst 1, 1) := dk_4 (dk_at dksL_law_9 12 rfl rfl)
theorem dL_law_313 : decode cL_law 313 = .ok (.iadd, 1) := dk_96 (dk_at dksL_law_9 13 rfl rfl)
theorem dL_law_314 : decode cL_law 314 = .ok (.iaload, 1) := dk_46 (dk_at dksL_law_9 14 rfl rfl)
theorem dL_law_315 : decode cL_law 315 = .ok (.aload_n 3, 1) := dk_45 (dk_at dksL_law_9 15 rfl rfl)
theorem dL_law_316 : decode cL_law 316 = .ok (.invokestatic 116, 3) := dk_184 0 116 (dk_at dksL_law_9 16 rfl rfl)
theorem dL_law_319 : decode cL_law 319 = .ok (.istore 6, 2) := dk_54 6 (dk_at dksL_law_9 19 rfl rfl)
theorem dL_law_321 : decode cL_law 321 = .ok (.aload_n 2, 1) := dk_44 (dk_at dksL_law_9 21 rfl rfl)
theorem dL_law_322 : decode cL_law 322 = .ok (.aload_n 0, 1) := dk_42 (dk_at dksL_law_9 22 rfl rfl)
theorem dL_law_323 : decode cL_law 323 = .ok (.iload 5, 2) := dk_21 5 (dk_at dksL_law_10 0 rfl rfl)
theorem dL_law_325 : decode cL_law 325 = .ok (.iconst 1, 1) := dk_4 (dk_at dksL_law_10 2 rfl rfl)
theorem dL_law_326 : decode cL_law 326 = .ok (.iadd, 1) := dk_96 (dk_at dksL_law_10 3 rfl rfl)
theorem dL_law_327 : decode cL_law 327 = .ok (.iaload, 1) := dk_46 (dk_at dksL_law_10 4 rfl rfl)
theorem dL_law_328 : decode cL_law 328 = .ok (.invokevirtual 119, 3) := dk_182 0 119 (dk_at dksL_law_10 5 rfl rfl)
theorem dL_law_331 : decode cL_law 331 = .ok (.istore 7, 2) := dk_54 7 (dk_at dksL_law_10 8 rfl rfl)
theorem dL_law_333 : decode cL_law 333 = .ok (.aload_n 2, 1) := dk_44 (dk_at dksL_law_10 10 rfl rfl)
theorem dL_law_334 : decode cL_law 334 = .ok (.invokevirtual 108, 3) := dk_182 0 108 (dk_at dksL_law_10 11 rfl rfl)
theorem dL_law_337 : decode cL_law 337 = .ok (.iload 6, 2) := dk_21 6 (dk_at dksL_law_10 14 rfl rfl)
theorem dL_law_339 : decode cL_law 339 = .ok (.if_icmp .eq 5, 3) := dk_159 0 5 (dk_at dksL_law_10 16 rfl rfl)
theorem dL_law_342 : decode cL_law 342 = .ok (.iconst 0, 1) := dk_3 (dk_at dksL_law_10 19 rfl rfl)
theorem dL_law_343 : decode cL_law 343 = .ok (.ireturn, 1) := dk_172 (dk_at dksL_law_10 20 rfl rfl)
theorem dL_law_344 : decode cL_law 344 = .ok (.iload 6, 2) := dk_21 6 (dk_at dksL_law_10 21 rfl rfl)
theorem dL_law_346 : decode cL_law 346 = .ok (.ifCond .ne 15, 3) := dk_154 0 15 (dk_at dksL_law_11 0 rfl rfl)
theorem dL_law_349 : decode cL_law 349 = .ok (.aload_n 3, 1) := dk_45 (dk_at dksL_law_11 3 rfl rfl)
theorem dL_law_350 : decode cL_law 350 = .ok (.iconst 0, 1) := dk_3 (dk_at dksL_law_11 4 rfl rfl)
theorem dL_law_351 : decode cL_law 351 = .ok (.laload, 1) := dk_47 (dk_at dksL_law_11 5 rfl rfl)
theorem dL_law_352 : decode cL_law 352 = .ok (.iload 7, 2) := dk_21 7 (dk_at dksL_law_11 6 rfl rfl)
theorem dL_law_354 : decode cL_law 354 = .ok (.i2l, 1) := dk_133 (dk_at dksL_law_11 8 rfl rfl)
theorem dL_law_355 : decode cL_law 355 = .ok (.lcmp, 1) := dk_148 (dk_at dksL_law_11 9 rfl rfl)
theorem dL_law_356 : decode cL_law 356 = .ok (.ifCond .eq 5, 3) := dk_153 0 5 (dk_at dksL_law_11 10 rfl rfl)
theorem dL_law_359 : decode cL_law 359 = .ok (.iconst 0, 1) := dk_3 (dk_at dksL_law_11 13 rfl rfl)
theorem dL_law_360 : decode cL_law 360 = .ok (.ireturn, 1) := dk_172 (dk_at dksL_law_11 14 rfl rfl)
theorem dL_law_361 : decode cL_law 361 = .ok (.goto 1566, 3) := dk_167 6 30 (dk_at dksL_law_11 15 rfl rfl)
theorem dL_law_364 : decode cL_law 364 = .ok (.aload_n 1, 1) := dk_43 (dk_at dksL_law_11 18 rfl rfl)
theorem dL_law_365 : decode cL_law 365 = .ok (.aload_n 0, 1) := dk_42 (dk_at dksL_law_11 19 rfl rfl)
theorem dL_law_366 : decode cL_law 366 = .ok (.iload 5, 2) := dk_21 5 (dk_at dksL_law_11 20 rfl rfl)
theorem dL_law_368 : decode cL_law 368 = .ok (.iconst 1, 1) := dk_4 (dk_at dksL_law_11 22 rfl rfl)
theorem dL_law_369 : decode cL_law 369 = .ok (.iadd, 1) := dk_96 (dk_at dksL_law_11 23 rfl rfl)
theorem dL_law_370 : decode cL_law 370 = .ok (.iaload, 1) := dk_46 (dk_at dksL_law_12 0 rfl rfl)
theorem dL_law_371 : decode cL_law 371 = .ok (.aload_n 3, 1) := dk_45 (dk_at dksL_law_12 1 rfl rfl)
theorem dL_law_372 : decode cL_law 372 = .ok (.invokestatic 120, 3) := dk_184 0 120 (dk_at dksL_law_12 2 rfl rfl)
theorem dL_law_375 : decode cL_law 375 = .ok (.istore 6, 2) := dk_54 6 (dk_at dksL_law_12 5 rfl rfl)
theorem dL_law_377 : decode cL_law 377 = .ok (.aload_n 2, 1) := dk_44 (dk_at dksL_law_12 7 rfl rfl)
theorem dL_law_378 : decode cL_law 378 = .ok (.aload_n 0, 1) := dk_42 (dk_at dksL_law_12 8 rfl rfl)
theorem dL_law_379 : decode cL_law 379 = .ok (.iload 5, 2) := dk_21 5 (dk_at dksL_law_12 9 rfl rfl)
theorem dL_law_381 : decode cL_law 381 = .ok (.iconst 1, 1) := dk_4 (dk_at dksL_law_12 11 rfl rfl)
theorem dL_law_382 : decode cL_law 382 = .ok (.iadd, 1) := dk_96 (dk_at dksL_law_12 12 rfl rfl)
theorem dL_law_383 : decode cL_law 383 = .ok (.iaload, 1) := dk_46 (dk_at dksL_law_12 13 rfl rfl)
theorem dL_law_384 : decode cL_law 384 = .ok (.invokevirtual 122, 3) := dk_182 0 122 (dk_at dksL_law_12 14 rfl rfl)
theorem dL_law_387 : decode cL_law 387 = .ok (.istore 7, 2) := dk_54 7 (dk_at dksL_law_12 17 rfl rfl)
theorem dL_law_389 : decode cL_law 389 = .ok (.aload_n 2, 1) := dk_44 (dk_at dksL_law_12 19 rfl rfl)
theorem dL_law_390 : decode cL_law 390 = .ok (.invokevirtual 108, 3) := dk_182 0 108 (dk_at dksL_law_12 20 rfl rfl)
theorem dL_law_393 : decode cL_law 393 = .ok (.iload 6, 2) := dk_21 6 (dk_at dksL_law_13 0 rfl rfl)
theorem dL_law_395 : decode cL_law 395 = .ok (.if_icmp .eq 5, 3) := dk_159 0 5 (dk_at dksL_law_13 2 rfl rfl)
theorem dL_law_398 : decode cL_law 398 = .ok (.iconst 0, 1) := dk_3 (dk_at dksL_law_13 5 rfl rfl)
theorem dL_law_399 : decode cL_law 399 = .ok (.ireturn, 1) := dk_172 (dk_at dksL_law_13 6 rfl rfl)
theorem dL_law_400 : decode cL_law 400 = .ok (.iload 6, 2) := dk_21 6 (dk_at dksL_law_13 7 rfl rfl)
theorem dL_law_402 : decode cL_law 402 = .ok (.ifCond .ne 15, 3) := dk_154 0 15 (dk_at dksL_law_13 9 rfl rfl)
theorem dL_law_405 : decode cL_law 405 = .ok (.aload_n 3, 1) := dk_45 (dk_at dksL_law_13 12 rfl rfl)
theorem dL_law_406 : decode cL_law 406 = .ok (.iconst 0, 1) := dk_3 (dk_at dksL_law_13 13 rfl rfl)
theorem dL_law_407 : decode cL_law 407 = .ok (.laload, 1) := dk_47 (dk_at dksL_law_13 14 rfl rfl)
theorem dL_law_408 : decode cL_law 408 = .ok (.iload 7, 2) := dk_21 7 (dk_at dksL_law_13 15 rfl rfl)
theorem dL_law_410 : decode cL_law 410 = .ok (.i2l, 1) := dk_133 (dk_at dksL_law_13 17 rfl rfl)
theorem dL_law_411 : decode cL_law 411 = .ok (.lcmp, 1) := dk_148 (dk_at dksL_law_13 18 rfl rfl)
theorem dL_law_412 : decode cL_law 412 = .ok (.ifCond .eq 5, 3) := dk_153 0 5 (dk_at dksL_law_13 19 rfl rfl)
theorem dL_law_415 : decode cL_law 415 = .ok (.iconst 0, 1) := dk_3 (dk_at dksL_law_13 22 rfl rfl)
theorem dL_law_416 : decode cL_law 416 = .ok (.ireturn, 1) := dk_172 (dk_at dksL_law_13 23 rfl rfl)
theorem dL_law_417 : decode cL_law 417 = .ok (.goto 1510, 3) := dk_167 5 230 (dk_at dksL_law_14 0 rfl rfl)
theorem dL_law_420 : decode cL_law 420 = .ok (.aload_n 1, 1) := dk_43 (dk_at dksL_law_14 3 rfl rfl)
theorem dL_law_421 : decode cL_law 421 = .ok (.aload_n 0, 1) := dk_42 (dk_at dksL_law_14 4 rfl rfl)
theorem dL_law_422 : decode cL_law 422 = .ok (.iload 5, 2) := dk_21 5 (dk_at dksL_law_14 5 rfl rfl)
theorem dL_law_424 : decode cL_law 424 = .ok (.iconst 1, 1) := dk_4 (dk_at dksL_law_14 7 rfl rfl)
theorem dL_law_425 : decode cL_law 425 = .ok (.iadd, 1) := dk_96 (dk_at dksL_law_14 8 rfl rfl)
theorem dL_law_426 : decode cL_law 426 = .ok (.iaload, 1) := dk_46 (dk_at dksL_law_14 9 rfl rfl)
theorem dL_law_427 : decode cL_law 427 = .ok (.aload_n 0, 1) := dk_42 (dk_at dksL_law_14 10 rfl rfl)
theorem dL_law_428 : decode cL_law 428 = .ok (.iload 5, 2) := dk_21 5 (dk_at dksL_law_14 11 rfl rfl)
theorem dL_law_430 : decode cL_law 430 = .ok (.iconst 2, 1) := dk_5 (dk_at dksL_law_14 13 rfl rfl)
theorem dL_law_431 : decode cL_law 431 = .ok (.iadd, 1) := dk_96 (dk_at dksL_law_14 14 rfl rfl)
theorem dL_law_432 : decode cL_law 432 = .ok (.iaload, 1) := dk_46 (dk_at dksL_law_14 15 rfl rfl)
theorem dL_law_433 : decode cL_law 433 = .ok (.aload_n 3, 1) := dk_45 (dk_at dksL_law_14 16 rfl rfl)
theorem dL_law_434 : decode cL_law 434 = .ok (.invokestatic 123, 3) := dk_184 0 123 (dk_at dksL_law_14 17 rfl rfl)
theorem dL_law_437 : decode cL_law 437 = .ok (.istore 6, 2) := dk_54 6 (dk_at dksL_law_14 20 rfl rfl)
theorem dL_law_439 : decode cL_law 439 = .ok (.aload_n 2, 1) := dk_44 (dk_at dksL_law_14 22 rfl rfl)
theorem dL_law_440 : decode cL_law 440 = .ok (.aload_n 0, 1) := dk_42 (dk_at dksL_law_14 23 rfl rfl)
theorem dL_law_441 : decode cL_law 441 = .ok (.iload 5, 2) := dk_21 5 (dk_at dksL_law_15 0 rfl rfl)
theorem dL_law_443 : decode cL_law 443 = .ok (.iconst 1, 1) := dk_4 (dk_at dksL_law_15 2 rfl rfl)
theorem dL_law_444 : decode cL_law 444 = .ok (.iadd, 1) := dk_96 (dk_at dksL_law_15 3 rfl rfl)
theorem dL_law_445 : decode cL_law 445 = .ok (.iaload, 1) := dk_46 (dk_at dksL_law_15 4 rfl rfl)
theorem dL_law_446 : decode cL_law 446 = .ok (.aload_n 0, 1) := dk_42 (dk_at dksL_law_15 5 rfl rfl)
theorem dL_law_447 : decode cL_law 447 = .ok (.iload 5, 2) := dk_21 5 (dk_at dksL_law_15 6 rfl rfl)
theorem dL_law_449 : decode cL_law 449 = .ok (.iconst 2, 1) := dk_5 (dk_at dksL_law_15 8 rfl rfl)
theorem dL_law_450 : decode cL_law 450 = .ok (.iadd, 1) := dk_96 (dk_at dksL_law_15 9 rfl rfl)
theorem dL_law_451 : decode cL_law 451 = .ok (.iaload, 1) := dk_46 (dk_at dksL_law_15 10 rfl rfl)
theorem dL_law_452 : decode cL_law 452 = .ok (.invokevirtual 125, 3) := dk_182 0 125 (dk_at dksL_law_15 11 rfl rfl)
theorem dL_law_455 : decode cL_law 455 = .ok (.istore 7, 2) := dk_54 7 (dk_at dksL_law_15 14 rfl rfl)
theorem dL_law_457 : decode cL_law 457 = .ok (.aload_n 2, 1) := dk_44 (dk_at dksL_law_15 16 rfl rfl)
theorem dL_law_458 : decode cL_law 458 = .ok (.invokevirtual 108, 3) := dk_182 0 108 (dk_at dksL_law_15 17 rfl rfl)
theorem dL_law_461 : decode cL_law 461 = .ok (.iload 6, 2) := dk_21 6 (dk_at dksL_law_15 20 rfl rfl)
theorem dL_law_463 : decode cL_law 463 = .ok (.if_icmp .eq 5, 3) := dk_159 0 5 (dk_at dksL_law_16 0 rfl rfl)
theorem dL_law_466 : decode cL_law 466 = .ok (.iconst 0, 1) := dk_3 (dk_at dksL_law_16 3 rfl rfl)
theorem dL_law_467 : decode cL_law 467 = .ok (.ireturn, 1) := dk_172 (dk_at dksL_law_16 4 rfl rfl)
theorem dL_law_468 : decode cL_law 468 = .ok (.iload 6, 2) := dk_21 6 (dk_at dksL_law_16 5 rfl rfl)
theorem dL_law_470 : decode cL_law 470 = .ok (.ifCond .ne 15, 3) := dk_154 0 15 (dk_at dksL_law_16 7 rfl rfl)
theorem dL_law_473 : decode cL_law 473 = .ok (.aload_n 3, 1) := dk_45 (dk_at dksL_law_16 10 rfl rfl)
theorem dL_law_474 : decode cL_law 474 = .ok (.iconst 0, 1) := dk_3 (dk_at dksL_law_16 11 rfl rfl)
theorem dL_law_475 : decode cL_law 475 = .ok (.laload, 1) := dk_47 (dk_at dksL_law_16 12 rfl rfl)
theorem dL_law_476 : decode cL_law 476 = .ok (.iload 7, 2) := dk_21 7 (dk_at dksL_law_16 13 rfl rfl)
theorem dL_law_478 : decode cL_law 478 = .ok (.i2l, 1) := dk_133 (dk_at dksL_law_16 15 rfl rfl)
theorem dL_law_479 : decode cL_law 479 = .ok (.lcmp, 1) := dk_148 (dk_at dksL_law_16 16 rfl rfl)
theorem dL_law_480 : decode cL_law 480 = .ok (.ifCond .eq 5, 3) := dk_153 0 5 (dk_at dksL_law_16 17 rfl rfl)
theorem dL_law_483 : decode cL_law 483 = .ok (.iconst 0, 1) := dk_3 (dk_at dksL_law_16 20 rfl rfl)
theorem dL_law_484 : decode cL_law 484 = .ok (.ireturn, 1) := dk_172 (dk_at dksL_law_16 21 rfl rfl)
theorem dL_law_485 : decode cL_law 485 = .ok (.goto 1442, 3) := dk_167 5 162 (dk_at dksL_law_17 0 rfl rfl)
theorem dL_law_488 : decode cL_law 488 = .ok (.aload_n 1, 1) := dk_43 (dk_at dksL_law_17 3 rfl rfl)
theorem dL_law_489 : decode cL_law 489 = .ok (.aload_n 0, 1) := dk_42 (dk_at dksL_law_17 4 rfl rfl)
theorem dL_law_490 : decode cL_law 490 = .ok (.iload 5, 2) := dk_21 5 (dk_at dksL_law_17 5 rfl rfl)
theorem dL_law_492 : decode cL_law 492 = .ok (.iconst 1, 1) := dk_4 (dk_at dksL_law_17 7 rfl rfl)
theorem dL_law_493 : decode cL_law 493 = .ok (.iadd, 1) := dk_96 (dk_at dksL_law_17 8 rfl rfl)
theorem dL_law_494 : decode cL_law 494 = .ok (.iaload, 1) := dk_46 (dk_at dksL_law_17 9 rfl rfl)
theorem dL_law_495 : decode cL_law 495 = .ok (.aload_n 0, 1) := dk_42 (dk_at dksL_law_17 10 rfl rfl)
theorem dL_law_496 : decode cL_law 496 = .ok (.iload 5, 2) := dk_21 5 (dk_at dksL_law_17 11 rfl rfl)
theorem dL_law_498 : decode cL_law 498 = .ok (.iconst 2, 1) := dk_5 (dk_at dksL_law_17 13 rfl rfl)
theorem dL_law_499 : decode cL_law 499 = .ok (.iadd, 1) := dk_96 (dk_at dksL_law_17 14 rfl rfl)
theorem dL_law_500 : decode cL_law 500 = .ok (.iaload, 1) := dk_46 (dk_at dksL_law_17 15 rfl rfl)
theorem dL_law_501 : decode cL_law 501 = .ok (.aload_n 0, 1) := dk_42 (dk_at dksL_law_17 16 rfl rfl)
theorem dL_law_502 : decode cL_law 502 = .ok (.iload 5, 2) := dk_21 5 (dk_at dksL_law_17 17 rfl rfl)
theorem dL_law_504 : decode cL_law 504 = .ok (.iconst 3, 1) := dk_6 (dk_at dksL_law_17 19 rfl rfl)
theorem dL_law_505 : decode cL_law 505 = .ok (.iadd, 1) := dk_96 (dk_at dksL_law_17 20 rfl rfl)
theorem dL_law_506 : decode cL_law 506 = .ok (.iaload, 1) := dk_46 (dk_at dksL_law_17 21 rfl rfl)
theorem dL_law_507 : decode cL_law 507 = .ok (.aload_n 3, 1) := dk_45 (dk_at dksL_law_17 22 rfl rfl)
theorem dL_law_508 : decode cL_law 508 = .ok (.invokestatic 126, 3) := dk_184 0 126 (dk_at dksL_law_18 0 rfl rfl)
theorem dL_law_511 : decode cL_law 511 = .ok (.istore 6, 2) := dk_54 6 (dk_at dksL_law_18 3 rfl rfl)
theorem dL_law_513 : decode cL_law 513 = .ok (.aload_n 2, 1) := dk_44 (dk_at dksL_law_18 5 rfl rfl)
theorem dL_law_514 : decode cL_law 514 = .ok (.aload_n 0, 1) := dk_42 (dk_at dksL_law_18 6 rfl rfl)
theorem dL_law_515 : decode cL_law 515 = .ok (.iload 5, 2) := dk_21 5 (dk_at dksL_law_18 7 rfl rfl)
theorem dL_law_517 : decode cL_law 517 = .ok (.iconst 1, 1) := dk_4 (dk_at dksL_law_18 9 rfl rfl)
theorem dL_law_518 : decode cL_law 518 = .ok (.iadd, 1) := dk_96 (dk_at dksL_law_18 10 rfl rfl)
theorem dL_law_519 : decode cL_law 519 = .ok (.iaload, 1) := dk_46 (dk_at dksL_law_18 11 rfl rfl)
theorem dL_law_520 : decode cL_law 520 = .ok (.aload_n 0, 1) := dk_42 (dk_at dksL_law_18 12 rfl rfl)
theorem dL_law_521 : decode cL_law 521 = .ok (.iload 5, 2) := dk_21 5 (dk_at dksL_law_18 13 rfl rfl)
theorem dL_law_523 : decode cL_law 523 = .ok (.iconst 2, 1) := dk_5 (dk_at dksL_law_18 15 rfl rfl)
theorem dL_law_524 : decode cL_law 524 = .ok (.iadd, 1) := dk_96 (dk_at dksL_law_18 16 rfl rfl)
theorem dL_law_525 : decode cL_law 525 = .ok (.iaload, 1) := dk_46 (dk_at dksL_law_18 17 rfl rfl)
theorem dL_law_526 : decode cL_law 526 = .ok (.aload_n 0, 1) := dk_42 (dk_at dksL_law_18 18 rfl rfl)
theorem dL_law_527 : decode cL_law 527 = .ok (.iload 5, 2) := dk_21 5 (dk_at dksL_law_18 19 rfl rfl)
theorem dL_law_529 : decode cL_law 529 = .ok (.iconst 3, 1) := dk_6 (dk_at dksL_law_18 21 rfl rfl)
theorem dL_law_530 : decode cL_law 530 = .ok (.iadd, 1) := dk_96 (dk_at dksL_law_18 22 rfl rfl)
theorem dL_law_531 : decode cL_law 531 = .ok (.iaload, 1) := dk_46 (dk_at dksL_law_18 23 rfl rfl)
theorem dL_law_532 : decode cL_law 532 = .ok (.invokevirtual 128, 3) := dk_182 0 128 (dk_at dksL_law_19 0 rfl rfl)
theorem dL_law_535 : decode cL_law 535 = .ok (.istore 7, 2) := dk_54 7 (dk_at dksL_law_19 3 rfl rfl)
theorem dL_law_537 : decode cL_law 537 = .ok (.aload_n 2, 1) := dk_44 (dk_at dksL_law_19 5 rfl rfl)
theorem dL_law_538 : decode cL_law 538 = .ok (.invokevirtual 108, 3) := dk_182 0 108 (dk_at dksL_law_19 6 rfl rfl)
theorem dL_law_541 : decode cL_law 541 = .ok (.iload 6, 2) := dk_21 6 (dk_at dksL_law_19 9 rfl rfl)
theorem dL_law_543 : decode cL_law 543 = .ok (.if_icmp .eq 5, 3) := dk_159 0 5 (dk_at dksL_law_19 11 rfl rfl)
theorem dL_law_546 : decode cL_law 546 = .ok (.iconst 0, 1) := dk_3 (dk_at dksL_law_19 14 rfl rfl)
theorem dL_law_547 : decode cL_law 547 = .ok (.ireturn, 1) := dk_172 (dk_at dksL_law_19 15 rfl rfl)
theorem dL_law_548 : decode cL_law 548 = .ok (.iload 6, 2) := dk_21 6 (dk_at dksL_law_19 16 rfl rfl)
theorem dL_law_550 : decode cL_law 550 = .ok (.ifCond .ne 15, 3) := dk_154 0 15 (dk_at dksL_law_19 18 rfl rfl)
theorem dL_law_553 : decode cL_law 553 = .ok (.aload_n 3, 1) := dk_45 (dk_at dksL_law_19 21 rfl rfl)
theorem dL_law_554 : decode cL_law 554 = .ok (.iconst 0, 1) := dk_3 (dk_at dksL_law_19 22 rfl rfl)
theorem dL_law_555 : decode cL_law 555 = .ok (.laload, 1) := dk_47 (dk_at dksL_law_19 23 rfl rfl)
theorem dL_law_556 : decode cL_law 556 = .ok (.iload 7, 2) := dk_21 7 (dk_at dksL_law_20 0 rfl rfl)
theorem dL_law_558 : decode cL_law 558 = .ok (.i2l, 1) := dk_133 (dk_at dksL_law_20 2 rfl rfl)
theorem dL_law_559 : decode cL_law 559 = .ok (.lcmp, 1) := dk_148 (dk_at dksL_law_20 3 rfl rfl)
theorem dL_law_560 : decode cL_law 560 = .ok (.ifCond .eq 5, 3) := dk_153 0 5 (dk_at dksL_law_20 4 rfl rfl)
theorem dL_law_563 : decode cL_law 563 = .ok (.iconst 0, 1) := dk_3 (dk_at dksL_law_20 7 rfl rfl)
theorem dL_law_564 : decode cL_law 564 = .ok (.ireturn, 1) := dk_172 (dk_at dksL_law_20 8 rfl rfl)
theorem dL_law_565 : decode cL_law 565 = .ok (.goto 1362, 3) := dk_167 5 82 (dk_at dksL_law_20 9 rfl rfl)
theorem dL_law_568 : decode cL_law 568 = .ok (.aload_n 1, 1) := dk_43 (dk_at dksL_law_20 12 rfl rfl)
theorem dL_law_569 : decode cL_law 569 = .ok (.aload_n 0, 1) := dk_42 (dk_at dksL_law_20 13 rfl rfl)
theorem dL_law_570 : decode cL_law 570 = .ok (.iload 5, 2) := dk_21 5 (dk_at dksL_law_20 14 rfl rfl)
theorem dL_law_572 : decode cL_law 572 = .ok (.iconst 1, 1) := dk_4 (dk_at dksL_law_20 16 rfl rfl)
theorem dL_law_573 : decode cL_law 573 = .ok (.iadd, 1) := dk_96 (dk_at dksL_law_20 17 rfl rfl)
theorem dL_law_574 : decode cL_law 574 = .ok (.iaload, 1) := dk_46 (dk_at dksL_law_20 18 rfl rfl)
theorem dL_law_575 : decode cL_law 575 = .ok (.aload_n 0, 1) := dk_42 (dk_at dksL_law_20 19 rfl rfl)
theorem dL_law_576 : decode cL_law 576 = .ok (.iload 5, 2) := dk_21 5 (dk_at dksL_law_20 20 rfl rfl)
theorem dL_law_578 : decode cL_law 578 = .ok (.iconst 2, 1) := dk_5 (dk_at dksL_law_20 22 rfl rfl)
theorem dL_law_579 : decode cL_law 579 = .ok (.iadd, 1) := dk_96 (dk_at dksL_law_20 23 rfl rfl)
theorem dL_law_580 : decode cL_law 580 = .ok (.iaload, 1) := dk_46 (dk_at dksL_law_21 0 rfl rfl)
theorem dL_law_581 : decode cL_law 581 = .ok (.aload_n 3, 1) := dk_45 (dk_at dksL_law_21 1 rfl rfl)
theorem dL_law_582 : decode cL_law 582 = .ok (.invokestatic 129, 3) := dk_184 0 129 (dk_at dksL_law_21 2 rfl rfl)
theorem dL_law_585 : decode cL_law 585 = .ok (.istore 6, 2) := dk_54 6 (dk_at dksL_law_21 5 rfl rfl)
theorem dL_law_587 : decode cL_law 587 = .ok (.aload_n 2, 1) := dk_44 (dk_at dksL_law_21 7 rfl rfl)
theorem dL_law_588 : decode cL_law 588 = .ok (.aload_n 0, 1) := dk_42 (dk_at dksL_law_21 8 rfl rfl)
theorem dL_law_589 : decode cL_law 589 = .ok (.iload 5, 2) := dk_21 5 (dk_at dksL_law_21 9 rfl rfl)
theorem dL_law_591 : decode cL_law 591 = .ok (.iconst 1, 1) := dk_4 (dk_at dksL_law_21 11 rfl rfl)
theorem dL_law_592 : decode cL_law 592 = .ok (.iadd, 1) := dk_96 (dk_at dksL_law_21 12 rfl rfl)
theorem dL_law_593 : decode cL_law 593 = .ok (.iaload, 1) := dk_46 (dk_at dksL_law_21 13 rfl rfl)
theorem dL_law_594 : decode cL_law 594 = .ok (.aload_n 0, 1) := dk_42 (dk_at dksL_law_21 14 rfl rfl)
theorem dL_law_595 : decode cL_law 595 = .ok (.iload 5, 2) := dk_21 5 (dk_at dksL_law_21 15 rfl rfl)
theorem dL_law_597 : decode cL_law 597 = .ok (.iconst 2, 1) := dk_5 (dk_at dksL_law_21 17 rfl rfl)
theorem dL_law_598 : decode cL_law 598 = .ok (.iadd, 1) := dk_96 (dk_at dksL_law_21 18 rfl rfl)
theorem dL_law_599 : decode cL_law 599 = .ok (.iaload, 1) := dk_46 (dk_at dksL_law_21 19 rfl rfl)
theorem dL_law_600 : decode cL_law 600 = .ok (.invokevirtual 131, 3) := dk_182 0 131 (dk_at dksL_law_21 20 rfl rfl)
theorem dL_law_603 : decode cL_law 603 = .ok (.lstore 7, 2) := dk_55 7 (dk_at dksL_law_22 0 rfl rfl)
theorem dL_law_605 : decode cL_law 605 = .ok (.aload_n 2, 1) := dk_44 (dk_at dksL_law_22 2 rfl rfl)
theorem dL_law_606 : decode cL_law 606 = .ok (.invokevirtual 108, 3) := dk_182 0 108 (dk_at dksL_law_22 3 rfl rfl)
theorem dL_law_609 : decode cL_law 609 = .ok (.iload 6, 2) := dk_21 6 (dk_at dksL_law_22 6 rfl rfl)
theorem dL_law_611 : decode cL_law 611 = .ok (.if_icmp .eq 5, 3) := dk_159 0 5 (dk_at dksL_law_22 8 rfl rfl)
theorem dL_law_614 : decode cL_law 614 = .ok (.iconst 0, 1) := dk_3 (dk_at dksL_law_22 11 rfl rfl)
theorem dL_law_615 : decode cL_law 615 = .ok (.ireturn, 1) := dk_172 (dk_at dksL_law_22 12 rfl rfl)
theorem dL_law_616 : decode cL_law 616 = .ok (.iload 6, 2) := dk_21 6 (dk_at dksL_law_22 13 rfl rfl)
theorem dL_law_618 : decode cL_law 618 = .ok (.ifCond .ne 14, 3) := dk_154 0 14 (dk_at dksL_law_22 15 rfl rfl)
theorem dL_law_621 : decode cL_law 621 = .ok (.aload_n 3, 1) := dk_45 (dk_at dksL_law_22 18 rfl rfl)
theorem dL_law_622 : decode cL_law 622 = .ok (.iconst 0, 1) := dk_3 (dk_at dksL_law_22 19 rfl rfl)
theorem dL_law_623 : decode cL_law 623 = .ok (.laload, 1) := dk_47 (dk_at dksL_law_22 20 rfl rfl)
theorem dL_law_624 : decode cL_law 624 = .ok (.lload 7, 2) := dk_22 7 (dk_at dksL_law_22 21 rfl rfl)
theorem dL_law_626 : decode cL_law 626 = .ok (.lcmp, 1) := dk_148 (dk_at dksL_law_22 23 rfl rfl)
theorem dL_law_627 : decode cL_law 627 = .ok (.ifCond .eq 5, 3) := dk_153 0 5 (dk_at dksL_law_23 0 rfl rfl)
theorem dL_law_630 : decode cL_law 630 = .ok (.iconst 0, 1) := dk_3 (dk_at dksL_law_23 3 rfl rfl)
theorem dL_law_631 : decode cL_law 631 = .ok (.ireturn, 1) := dk_172 (dk_at dksL_law_23 4 rfl rfl)
theorem dL_law_632 : decode cL_law 632 = .ok (.goto 1295, 3) := dk_167 5 15 (dk_at dksL_law_23 5 rfl rfl)
theorem dL_law_635 : decode cL_law 635 = .ok (.aload_n 1, 1) := dk_43 (dk_at dksL_law_23 8 rfl rfl)
theorem dL_law_636 : decode cL_law 636 = .ok (.aload_n 0, 1) := dk_42 (dk_at dksL_law_23 9 rfl rfl)
theorem dL_law_637 : decode cL_law 637 = .ok (.iload 5, 2) := dk_21 5 (dk_at dksL_law_23 10 rfl rfl)
theorem dL_law_639 : decode cL_law 639 = .ok (.iconst 1, 1) := dk_4 (dk_at dksL_law_23 12 rfl rfl)
theorem dL_law_640 : decode cL_law 640 = .ok (.iadd, 1) := dk_96 (dk_at dksL_law_23 13 rfl rfl)
theorem dL_law_641 : decode cL_law 641 = .ok (.iaload, 1) := dk_46 (dk_at dksL_law_23 14 rfl rfl)
theorem dL_law_642 : decode cL_law 642 = .ok (.aload_n 0, 1) := dk_42 (dk_at dksL_law_23 15 rfl rfl)
theorem dL_law_643 : decode cL_law 643 = .ok (.iload 5, 2) := dk_21 5 (dk_at dksL_law_23 16 rfl rfl)
theorem dL_law_645 : decode cL_law 645 = .ok (.iconst 2, 1) := dk_5 (dk_at dksL_law_23 18 rfl rfl)
theorem dL_law_646 : decode cL_law 646 = .ok (.iadd, 1) := dk_96 (dk_at dksL_law_23 19 rfl rfl)
theorem dL_law_647 : decode cL_law 647 = .ok (.iaload, 1) := dk_46 (dk_at dksL_law_23 20 rfl rfl)
theorem dL_law_648 : decode cL_law 648 = .ok (.aload_n 3, 1) := dk_45 (dk_at dksL_law_23 21 rfl rfl)
theorem dL_law_649 : decode cL_law 649 = .ok (.invokestatic 132, 3) := dk_184 0 132 (dk_at dksL_law_24 0 rfl rfl)
theorem dL_law_652 : decode cL_law 652 = .ok (.istore 6, 2) := dk_54 6 (dk_at dksL_law_24 3 rfl rfl)
theorem dL_law_654 : decode cL_law 654 = .ok (.aload_n 2, 1) := dk_44 (dk_at dksL_law_24 5 rfl rfl)
theorem dL_law_655 : decode cL_law 655 = .ok (.aload_n 0, 1) := dk_42 (dk_at dksL_law_24 6 rfl rfl)
theorem dL_law_656 : decode cL_law 656 = .ok (.iload 5, 2) := dk_21 5 (dk_at dksL_law_24 7 rfl rfl)
theorem dL_law_658 : decode cL_law 658 = .ok (.iconst 1, 1) := dk_4 (dk_at dksL_law_24 9 rfl rfl)
theorem dL_law_659 : decode cL_law 659 = .ok (.iadd, 1) := dk_96 (dk_at dksL_law_24 10 rfl rfl)
theorem dL_law_660 : decode cL_law 660 = .ok (.iaload, 1) := dk_46 (dk_at dksL_law_24 11 rfl rfl)
theorem dL_law_661 : decode cL_law 661 = .ok (.aload_n 0, 1) := dk_42 (dk_at dksL_law_24 12 rfl rfl)
theorem dL_law_662 : decode cL_law 662 = .ok (.iload 5, 2) := dk_21 5 (dk_at dksL_law_24 13 rfl rfl)
theorem dL_law_664 : decode cL_law 664 = .ok (.iconst 2, 1) := dk_5 (dk_at dksL_law_24 15 rfl rfl)
theorem dL_law_665 : decode cL_law 665 = .ok (.iadd, 1) := dk_96 (dk_at dksL_law_24 16 rfl rfl)
theorem dL_law_666 : decode cL_law 666 = .ok (.iaload, 1) := dk_46 (dk_at dksL_law_24 17 rfl rfl)
theorem dL_law_667 : decode cL_law 667 = .ok (.invokevirtual 134, 3) := dk_182 0 134 (dk_at dksL_law_24 18 rfl rfl)
theorem dL_law_670 : decode cL_law 670 = .ok (.istore 7, 2) := dk_54 7 (dk_at dksL_law_24 21 rfl rfl)
theorem dL_law_672 : decode cL_law 672 = .ok (.aload_n 2, 1) := dk_44 (dk_at dksL_law_24 23 rfl rfl)
theorem dL_law_673 : decode cL_law 673 = .ok (.invokevirtual 108, 3) := dk_182 0 108 (dk_at dksL_law_25 0 rfl rfl)
theorem dL_law_676 : decode cL_law 676 = .ok (.iload 6, 2) := dk_21 6 (dk_at dksL_law_25 3 rfl rfl)
theorem dL_law_678 : decode cL_law 678 = .ok (.if_icmp .eq 5, 3) := dk_159 0 5 (dk_at dksL_law_25 5 rfl rfl)
theorem dL_law_681 : decode cL_law 681 = .ok (.iconst 0, 1) := dk_3 (dk_at dksL_law_25 8 rfl rfl)
theorem dL_law_682 : decode cL_law 682 = .ok (.ireturn, 1) := dk_172 (dk_at dksL_law_25 9 rfl rfl)
theorem dL_law_683 : decode cL_law 683 = .ok (.iload 6, 2) := dk_21 6 (dk_at dksL_law_25 10 rfl rfl)
theorem dL_law_685 : decode cL_law 685 = .ok (.ifCond .ne 15, 3) := dk_154 0 15 (dk_at dksL_law_25 12 rfl rfl)
theorem dL_law_688 : decode cL_law 688 = .ok (.aload_n 3, 1) := dk_45 (dk_at dksL_law_25 15 rfl rfl)
theorem dL_law_689 : decode cL_law 689 = .ok (.iconst 0, 1) := dk_3 (dk_at dksL_law_25 16 rfl rfl)
theorem dL_law_690 : decode cL_law 690 = .ok (.laload, 1) := dk_47 (dk_at dksL_law_25 17 rfl rfl)
theorem dL_law_691 : decode cL_law 691 = .ok (.iload 7, 2) := dk_21 7 (dk_at dksL_law_25 18 rfl rfl)
theorem dL_law_693 : decode cL_law 693 = .ok (.i2l, 1) := dk_133 (dk_at dksL_law_25 20 rfl rfl)
theorem dL_law_694 : decode cL_law 694 = .ok (.lcmp, 1) := dk_148 (dk_at dksL_law_25 21 rfl rfl)
theorem dL_law_695 : decode cL_law 695 = .ok (.ifCond .eq 5, 3) := dk_153 0 5 (dk_at dksL_law_26 0 rfl rfl)
theorem dL_law_698 : decode cL_law 698 = .ok (.iconst 0, 1) := dk_3 (dk_at dksL_law_26 3 rfl rfl)
theorem dL_law_699 : decode cL_law 699 = .ok (.ireturn, 1) := dk_172 (dk_at dksL_law_26 4 rfl rfl)
theorem dL_law_700 : decode cL_law 700 = .ok (.goto 1227, 3) := dk_167 4 203 (dk_at dksL_law_26 5 rfl rfl)
theorem dL_law_703 : decode cL_law 703 = .ok (.aload_n 1, 1) := dk_43 (dk_at dksL_law_26 8 rfl rfl)
theorem dL_law_704 : decode cL_law 704 = .ok (.aload_n 0, 1) := dk_42 (dk_at dksL_law_26 9 rfl rfl)
theorem dL_law_705 : decode cL_law 705 = .ok (.iload 5, 2) := dk_21 5 (dk_at dksL_law_26 10 rfl rfl)
theorem dL_law_707 : decode cL_law 707 = .ok (.iconst 1, 1) := dk_4 (dk_at dksL_law_26 12 rfl rfl)
theorem dL_law_708 : decode cL_law 708 = .ok (.iadd, 1) := dk_96 (dk_at dksL_law_26 13 rfl rfl)
theorem dL_law_709 : decode cL_law 709 = .ok (.iaload, 1) := dk_46 (dk_at dksL_law_26 14 rfl rfl)
theorem dL_law_710 : decode cL_law 710 = .ok (.aload_n 0, 1) := dk_42 (dk_at dksL_law_26 15 rfl rfl)
theorem dL_law_711 : decode cL_law 711 = .ok (.iload 5, 2) := dk_21 5 (dk_at dksL_law_26 16 rfl rfl)
theorem dL_law_713 : decode cL_law 713 = .ok (.iconst 2, 1) := dk_5 (dk_at dksL_law_26 18 rfl rfl)
theorem dL_law_714 : decode cL_law 714 = .ok (.iadd, 1) := dk_96 (dk_at dksL_law_26 19 rfl rfl)
theorem dL_law_715 : decode cL_law 715 = .ok (.iaload, 1) := dk_46 (dk_at dksL_law_26 20 rfl rfl)
theorem dL_law_716 : decode cL_law 716 = .ok (.aload_n 0, 1) := dk_42 (dk_at dksL_law_26 21 rfl rfl)
theorem dL_law_717 : decode cL_law 717 = .ok (.iload 5, 2) := dk_21 5 (dk_at dksL_law_26 22 rfl rfl)
theorem dL_law_719 : decode cL_law 719 = .ok (.iconst 3, 1) := dk_6 (dk_at dksL_law_27 0 rfl rfl)
theorem dL_law_720 : decode cL_law 720 = .ok (.iadd, 1) := dk_96 (dk_at dksL_law_27 1 rfl rfl)
theorem dL_law_721 : decode cL_law 721 = .ok (.iaload, 1) := dk_46 (dk_at dksL_law_27 2 rfl rfl)
theorem dL_law_722 : decode cL_law 722 = .ok (.aload_n 0, 1) := dk_42 (dk_at dksL_law_27 3 rfl rfl)
theorem dL_law_723 : decode cL_law 723 = .ok (.iload 5, 2) := dk_21 5 (dk_at dksL_law_27 4 rfl rfl)
theorem dL_law_725 : decode cL_law 725 = .ok (.iconst 4, 1) := dk_7 (dk_at dksL_law_27 6 rfl rfl)
theorem dL_law_726 : decode cL_law 726 = .ok (.iadd, 1) := dk_96 (dk_at dksL_law_27 7 rfl rfl)
theorem dL_law_727 : decode cL_law 727 = .ok (.iaload, 1) := dk_46 (dk_at dksL_law_27 8 rfl rfl)
theorem dL_law_728 : decode cL_law 728 = .ok (.aload_n 3, 1) := dk_45 (dk_at dksL_law_27 9 rfl rfl)
theorem dL_law_729 : decode cL_law 729 = .ok (.invokestatic 135, 3) := dk_184 0 135 (dk_at dksL_law_27 10 rfl rfl)
theorem dL_law_732 : decode cL_law 732 = .ok (.istore 6, 2) := dk_54 6 (dk_at dksL_law_27 13 rfl rfl)
theorem dL_law_734 : decode cL_law 734 = .ok (.aload_n 2, 1) := dk_44 (dk_at dksL_law_27 15 rfl rfl)
theorem dL_law_735 : decode cL_law 735 = .ok (.aload_n 0, 1) := dk_42 (dk_at dksL_law_27 16 rfl rfl)
theorem dL_law_736 : decode cL_law 736 = .ok (.iload 5, 2) := dk_21 5 (dk_at dksL_law_27 17 rfl rfl)
theorem dL_law_738 : decode cL_law 738 = .ok (.iconst 1, 1) := dk_4 (dk_at dksL_law_27 19 rfl rfl)
theorem dL_law_739 : decode cL_law 739 = .ok (.iadd, 1) := dk_96 (dk_at dksL_law_27 20 rfl rfl)
theorem dL_law_740 : decode cL_law 740 = .ok (.iaload, 1) := dk_46 (dk_at dksL_law_27 21 rfl rfl)
theorem dL_law_741 : decode cL_law 741 = .ok (.aload_n 0, 1) := dk_42 (dk_at dksL_law_27 22 rfl rfl)
theorem dL_law_742 : decode cL_law 742 = .ok (.iload 5, 2) := dk_21 5 (dk_at dksL_law_28 0 rfl rfl)
theorem dL_law_744 : decode cL_law 744 = .ok (.iconst 2, 1) := dk_5 (dk_at dksL_law_28 2 rfl rfl)
theorem dL_law_745 : decode cL_law 745 = .ok (.iadd, 1) := dk_96 (dk_at dksL_law_28 3 rfl rfl)
theorem dL_law_746 : decode cL_law 746 = .ok (.iaload, 1) := dk_46 (dk_at dksL_law_28 4 rfl rfl)
theorem dL_law_747 : decode cL_law 747 = .ok (.aload_n 0, 1) := dk_42 (dk_at dksL_law_28 5 rfl rfl)
theorem dL_law_748 : decode cL_law 748 = .ok (.iload 5, 2) := dk_21 5 (dk_at dksL_law_28 6 rfl rfl)
theorem dL_law_750 : decode cL_law 750 = .ok (.iconst 3, 1) := dk_6 (dk_at dksL_law_28 8 rfl rfl)
theorem dL_law_751 : decode cL_law 751 = .ok (.iadd, 1) := dk_96 (dk_at dksL_law_28 9 rfl rfl)
theorem dL_law_752 : decode cL_law 752 = .ok (.iaload, 1) := dk_46 (dk_at dksL_law_28 10 rfl rfl)
theorem dL_law_753 : decode cL_law 753 = .ok (.aload_n 0, 1) := dk_42 (dk_at dksL_law_28 11 rfl rfl)
theorem dL_law_754 : decode cL_law 754 = .ok (.iload 5, 2) := dk_21 5 (dk_at dksL_law_28 12 rfl rfl)
theorem dL_law_756 : decode cL_law 756 = .ok (.iconst 4, 1) := dk_7 (dk_at dksL_law_28 14 rfl rfl)
theorem dL_law_757 : decode cL_law 757 = .ok (.iadd, 1) := dk_96 (dk_at dksL_law_28 15 rfl rfl)
theorem dL_law_758 : decode cL_law 758 = .ok (.iaload, 1) := dk_46 (dk_at dksL_law_28 16 rfl rfl)
theorem dL_law_759 : decode cL_law 759 = .ok (.invokevirtual 138, 3) := dk_182 0 138 (dk_at dksL_law_28 17 rfl rfl)
theorem dL_law_762 : decode cL_law 762 = .ok (.istore 7, 2) := dk_54 7 (dk_at dksL_law_28 20 rfl rfl)
theorem dL_law_764 : decode cL_law 764 = .ok (.aload_n 2, 1) := dk_44 (dk_at dksL_law_28 22 rfl rfl)
theorem dL_law_765 : decode cL_law 765 = .ok (.invokevirtual 108, 3) := dk_182 0 108 (dk_at dksL_law_29 0 rfl rfl)
theorem dL_law_768 : decode cL_law 768 = .ok (.iload 6, 2) := dk_21 6 (dk_at dksL_law_29 3 rfl rfl)
theorem dL_law_770 : decode cL_law 770 = .ok (.if_icmp .eq 5, 3) := dk_159 0 5 (dk_at dksL_law_29 5 rfl rfl)
theorem dL_law_773 : decode cL_law 773 = .ok (.iconst 0, 1) := dk_3 (dk_at dksL_law_29 8 rfl rfl)
theorem dL_law_774 : decode cL_law 774 = .ok (.ireturn, 1) := dk_172 (dk_at dksL_law_29 9 rfl rfl)
theorem dL_law_775 : decode cL_law 775 = .ok (.iload 6, 2) := dk_21 6 (dk_at dksL_law_29 10 rfl rfl)
theorem dL_law_777 : decode cL_law 777 = .ok (.ifCond .ne 15, 3) := dk_154 0 15 (dk_at dksL_law_29 12 rfl rfl)
theorem dL_law_780 : decode cL_law 780 = .ok (.aload_n 3, 1) := dk_45 (dk_at dksL_law_29 15 rfl rfl)
theorem dL_law_781 : decode cL_law 781 = .ok (.iconst 0, 1) := dk_3 (dk_at dksL_law_29 16 rfl rfl)
theorem dL_law_782 : decode cL_law 782 = .ok (.laload, 1) := dk_47 (dk_at dksL_law_29 17 rfl rfl)
theorem dL_law_783 : decode cL_law 783 = .ok (.iload 7, 2) := dk_21 7 (dk_at dksL_law_29 18 rfl rfl)
theorem dL_law_785 : decode cL_law 785 = .ok (.i2l, 1) := dk_133 (dk_at dksL_law_29 20 rfl rfl)
theorem dL_law_786 : decode cL_law 786 = .ok (.lcmp, 1) := dk_148 (dk_at dksL_law_29 21 rfl rfl)
theorem dL_law_787 : decode cL_law 787 = .ok (.ifCond .eq 5, 3) := dk_153 0 5 (dk_at dksL_law_30 0 rfl rfl)
theorem dL_law_790 : decode cL_law 790 = .ok (.iconst 0, 1) := dk_3 (dk_at dksL_law_30 3 rfl rfl)
theorem dL_law_791 : decode cL_law 791 = .ok (.ireturn, 1) := dk_172 (dk_at dksL_law_30 4 rfl rfl)
theorem dL_law_792 : decode cL_law 792 = .ok (.goto 1135, 3) := dk_167 4 111 (dk_at dksL_law_30 5 rfl rfl)
theorem dL_law_795 : decode cL_law 795 = .ok (.aload_n 1, 1) := dk_43 (dk_at dksL_law_30 8 rfl rfl)
theorem dL_law_796 : decode cL_law 796 = .ok (.aload_n 0, 1) := dk_42 (dk_at dksL_law_30 9 rfl rfl)
theorem dL_law_797 : decode cL_law 797 = .ok (.iload 5, 2) := dk_21 5 (dk_at dksL_law_30 10 rfl rfl)
theorem dL_law_799 : decode cL_law 799 = .ok (.iconst 1, 1) := dk_4 (dk_at dksL_law_30 12 rfl rfl)
theorem dL_law_800 : decode cL_law 800 = .ok (.iadd, 1) := dk_96 (dk_at dksL_law_30 13 rfl rfl)
theorem dL_law_801 : decode cL_law 801 = .ok (.iaload, 1) := dk_46 (dk_at dksL_law_30 14 rfl rfl)
theorem dL_law_802 : decode cL_law 802 = .ok (.aload_n 0, 1) := dk_42 (dk_at dksL_law_30 15 rfl rfl)
theorem dL_law_803 : decode cL_law 803 = .ok (.iload 5, 2) := dk_21 5 (dk_at dksL_law_30 16 rfl rfl)
theorem dL_law_805 : decode cL_law 805 = .ok (.iconst 2, 1) := dk_5 (dk_at dksL_law_30 18 rfl rfl)
theorem dL_law_806 : decode cL_law 806 = .ok (.iadd, 1) := dk_96 (dk_at dksL_law_30 19 rfl rfl)
theorem dL_law_807 : decode cL_law 807 = .ok (.iaload, 1) := dk_46 (dk_at dksL_law_30 20 rfl rfl)
theorem dL_law_808 : decode cL_law 808 = .ok (.aload_n 0, 1) := dk_42 (dk_at dksL_law_30 21 rfl rfl)
theorem dL_law_809 : decode cL_law 809 = .ok (.iload 5, 2) := dk_21 5 (dk_at dksL_law_30 22 rfl rfl)
theorem dL_law_811 : decode cL_law 811 = .ok (.iconst 3, 1) := dk_6 (dk_at dksL_law_31 0 rfl rfl)
theorem dL_law_812 : decode cL_law 812 = .ok (.iadd, 1) := dk_96 (dk_at dksL_law_31 1 rfl rfl)
theorem dL_law_813 : decode cL_law 813 = .ok (.iaload, 1) := dk_46 (dk_at dksL_law_31 2 rfl rfl)
theorem dL_law_814 : decode cL_law 814 = .ok (.aload_n 3, 1) := dk_45 (dk_at dksL_law_31 3 rfl rfl)
theorem dL_law_815 : decode cL_law 815 = .ok (.invokestatic 139, 3) := dk_184 0 139 (dk_at dksL_law_31 4 rfl rfl)
theorem dL_law_818 : decode cL_law 818 = .ok (.istore 6, 2) := dk_54 6 (dk_at dksL_law_31 7 rfl rfl)
theorem dL_law_820 : decode cL_law 820 = .ok (.aload_n 2, 1) := dk_44 (dk_at dksL_law_31 9 rfl rfl)
theorem dL_law_821 : decode cL_law 821 = .ok (.aload_n 0, 1) := dk_42 (dk_at dksL_law_31 10 rfl rfl)
theorem dL_law_822 : decode cL_law 822 = .ok (.iload 5, 2) := dk_21 5 (dk_at dksL_law_31 11 rfl rfl)
theorem dL_law_824 : decode cL_law 824 = .ok (.iconst 1, 1) := dk_4 (dk_at dksL_law_31 13 rfl rfl)
theorem dL_law_825 : decode cL_law 825 = .ok (.iadd, 1) := dk_96 (dk_at dksL_law_31 14 rfl rfl)
theorem dL_law_826 : decode cL_law 826 = .ok (.iaload, 1) := dk_46 (dk_at dksL_law_31 15 rfl rfl)
theorem dL_law_827 : decode cL_law 827 = .ok (.aload_n 0, 1) := dk_42 (dk_at dksL_law_31 16 rfl rfl)
theorem dL_law_828 : decode cL_law 828 = .ok (.iload 5, 2) := dk_21 5 (dk_at dksL_law_31 17 rfl rfl)
theorem dL_law_830 : decode cL_law 830 = .ok (.iconst 2, 1) := dk_5 (dk_at dksL_law_31 19 rfl rfl)
theorem dL_law_831 : decode cL_law 831 = .ok (.iadd, 1) := dk_96 (dk_at dksL_law_31 20 rfl rfl)
theorem dL_law_832 : decode cL_law 832 = .ok (.iaload, 1) := dk_46 (dk_at dksL_law_31 21 rfl rfl)
theorem dL_law_833 : decode cL_law 833 = .ok (.aload_n 0, 1) := dk_42 (dk_at dksL_law_31 22 rfl rfl)
theorem dL_law_834 : decode cL_law 834 = .ok (.iload 5, 2) := dk_21 5 (dk_at dksL_law_32 0 rfl rfl)
theorem dL_law_836 : decode cL_law 836 = .ok (.iconst 3, 1) := dk_6 (dk_at dksL_law_32 2 rfl rfl)
theorem dL_law_837 : decode cL_law 837 = .ok (.iadd, 1) := dk_96 (dk_at dksL_law_32 3 rfl rfl)
theorem dL_law_838 : decode cL_law 838 = .ok (.iaload, 1) := dk_46 (dk_at dksL_law_32 4 rfl rfl)
theorem dL_law_839 : decode cL_law 839 = .ok (.invokevirtual 141, 3) := dk_182 0 141 (dk_at dksL_law_32 5 rfl rfl)
theorem dL_law_842 : decode cL_law 842 = .ok (.istore 7, 2) := dk_54 7 (dk_at dksL_law_32 8 rfl rfl)
theorem dL_law_844 : decode cL_law 844 = .ok (.aload_n 2, 1) := dk_44 (dk_at dksL_law_32 10 rfl rfl)
theorem dL_law_845 : decode cL_law 845 = .ok (.invokevirtual 108, 3) := dk_182 0 108 (dk_at dksL_law_32 11 rfl rfl)
theorem dL_law_848 : decode cL_law 848 = .ok (.iload 6, 2) := dk_21 6 (dk_at dksL_law_32 14 rfl rfl)
theorem dL_law_850 : decode cL_law 850 = .ok (.if_icmp .eq 5, 3) := dk_159 0 5 (dk_at dksL_law_32 16 rfl rfl)
theorem dL_law_853 : decode cL_law 853 = .ok (.iconst 0, 1) := dk_3 (dk_at dksL_law_32 19 rfl rfl)
theorem dL_law_854 : decode cL_law 854 = .ok (.ireturn, 1) := dk_172 (dk_at dksL_law_32 20 rfl rfl)
theorem dL_law_855 : decode cL_law 855 = .ok (.iload 6, 2) := dk_21 6 (dk_at dksL_law_32 21 rfl rfl)
theorem dL_law_857 : decode cL_law 857 = .ok (.ifCond .ne 15, 3) := dk_154 0 15 (dk_at dksL_law_33 0 rfl rfl)
theorem dL_law_860 : decode cL_law 860 = .ok (.aload_n 3, 1) := dk_45 (dk_at dksL_law_33 3 rfl rfl)
theorem dL_law_861 : decode cL_law 861 = .ok (.iconst 0, 1) := dk_3 (dk_at dksL_law_33 4 rfl rfl)
theorem dL_law_862 : decode cL_law 862 = .ok (.laload, 1) := dk_47 (dk_at dksL_law_33 5 rfl rfl)
theorem dL_law_863 : decode cL_law 863 = .ok (.iload 7, 2) := dk_21 7 (dk_at dksL_law_33 6 rfl rfl)
theorem dL_law_865 : decode cL_law 865 = .ok (.i2l, 1) := dk_133 (dk_at dksL_law_33 8 rfl rfl)
theorem dL_law_866 : decode cL_law 866 = .ok (.lcmp, 1) := dk_148 (dk_at dksL_law_33 9 rfl rfl)
theorem dL_law_867 : decode cL_law 867 = .ok (.ifCond .eq 5, 3) := dk_153 0 5 (dk_at dksL_law_33 10 rfl rfl)
theorem dL_law_870 : decode cL_law 870 = .ok (.iconst 0, 1) := dk_3 (dk_at dksL_law_33 13 rfl rfl)
theorem dL_law_871 : decode cL_law 871 = .ok (.ireturn, 1) := dk_172 (dk_at dksL_law_33 14 rfl rfl)
theorem dL_law_872 : decode cL_law 872 = .ok (.goto 1055, 3) := dk_167 4 31 (dk_at dksL_law_33 15 rfl rfl)
theorem dL_law_875 : decode cL_law 875 = .ok (.aload_n 1, 1) := dk_43 (dk_at dksL_law_33 18 rfl rfl)
theorem dL_law_876 : decode cL_law 876 = .ok (.aload_n 0, 1) := dk_42 (dk_at dksL_law_33 19 rfl rfl)
theorem dL_law_877 : decode cL_law 877 = .ok (.iload 5, 2) := dk_21 5 (dk_at dksL_law_33 20 rfl rfl)
theorem dL_law_879 : decode cL_law 879 = .ok (.iconst 1, 1) := dk_4 (dk_at dksL_law_33 22 rfl rfl)
theorem dL_law_880 : decode cL_law 880 = .ok (.iadd, 1) := dk_96 (dk_at dksL_law_33 23 rfl rfl)
theorem dL_law_881 : decode cL_law 881 = .ok (.iaload, 1) := dk_46 (dk_at dksL_law_34 0 rfl rfl)
theorem dL_law_882 : decode cL_law 882 = .ok (.aload_n 0, 1) := dk_42 (dk_at dksL_law_34 1 rfl rfl)
theorem dL_law_883 : decode cL_law 883 = .ok (.iload 5, 2) := dk_21 5 (dk_at dksL_law_34 2 rfl rfl)
theorem dL_law_885 : decode cL_law 885 = .ok (.iconst 2, 1) := dk_5 (dk_at dksL_law_34 4 rfl rfl)
theorem dL_law_886 : decode cL_law 886 = .ok (.iadd, 1) := dk_96 (dk_at dksL_law_34 5 rfl rfl)
theorem dL_law_887 : decode cL_law 887 = .ok (.iaload, 1) := dk_46 (dk_at dksL_law_34 6 rfl rfl)
theorem dL_law_888 : decode cL_law 888 = .ok (.aload 4, 2) := dk_25 4 (dk_at dksL_law_34 7 rfl rfl)
theorem dL_law_890 : decode cL_law 890 = .ok (.invokestatic 142, 3) := dk_184 0 142 (dk_at dksL_law_34 9 rfl rfl)
theorem dL_law_893 : decode cL_law 893 = .ok (.istore 6, 2) := dk_54 6 (dk_at dksL_law_34 12 rfl rfl)
theorem dL_law_895 : decode cL_law 895 = .ok (.aload_n 2, 1) := dk_44 (dk_at dksL_law_34 14 rfl rfl)
theorem dL_law_896 : decode cL_law 896 = .ok (.aload_n 0, 1) := dk_42 (dk_at dksL_law_34 15 rfl rfl)
theorem dL_law_897 : decode cL_law 897 = .ok (.iload 5, 2) := dk_21 5 (dk_at dksL_law_34 16 rfl rfl)
theorem dL_law_899 : decode cL_law 899 = .ok (.iconst 1, 1) := dk_4 (dk_at dksL_law_34 18 rfl rfl)
theorem dL_law_900 : decode cL_law 900 = .ok (.iadd, 1) := dk_96 (dk_at dksL_law_34 19 rfl rfl)
theorem dL_law_901 : decode cL_law 901 = .ok (.iaload, 1) := dk_46 (dk_at dksL_law_34 20 rfl rfl)
theorem dL_law_902 : decode cL_law 902 = .ok (.aload_n 0, 1) := dk_42 (dk_at dksL_law_34 21 rfl rfl)
theorem dL_law_903 : decode cL_law 903 = .ok (.iload 5, 2) := dk_21 5 (dk_at dksL_law_34 22 rfl rfl)
theorem dL_law_905 : decode cL_law 905 = .ok (.iconst 2, 1) := dk_5 (dk_at dksL_law_35 0 rfl rfl)
theorem dL_law_906 : decode cL_law 906 = .ok (.iadd, 1) := dk_96 (dk_at dksL_law_35 1 rfl rfl)
theorem dL_law_907 : decode cL_law 907 = .ok (.iaload, 1) := dk_46 (dk_at dksL_law_35 2 rfl rfl)
theorem dL_law_908 : decode cL_law 908 = .ok (.invokevirtual 145, 3) := dk_182 0 145 (dk_at dksL_law_35 3 rfl rfl)
theorem dL_law_911 : decode cL_law 911 = .ok (.dstore 7, 2) := dk_57 7 (dk_at dksL_law_35 6 rfl rfl)
theorem dL_law_913 : decode cL_law 913 = .ok (.aload_n 2, 1) := dk_44 (dk_at dksL_law_35 8 rfl rfl)
theorem dL_law_914 : decode cL_law 914 = .ok (.invokevirtual 108, 3) := dk_182 0 108 (dk_at dksL_law_35 9 rfl rfl)
theorem dL_law_917 : decode cL_law 917 = .ok (.iload 6, 2) := dk_21 6 (dk_at dksL_law_35 12 rfl rfl)
theorem dL_law_919 : decode cL_law 919 = .ok (.if_icmp .eq 5, 3) := dk_159 0 5 (dk_at dksL_law_35 14 rfl rfl)
theorem dL_law_922 : decode cL_law 922 = .ok (.iconst 0, 1) := dk_3 (dk_at dksL_law_35 17 rfl rfl)
theorem dL_law_923 : decode cL_law 923 = .ok (.ireturn, 1) := dk_172 (dk_at dksL_law_35 18 rfl rfl)
theorem dL_law_924 : decode cL_law 924 = .ok (.iload 6, 2) := dk_21 6 (dk_at dksL_law_35 19 rfl rfl)
theorem dL_law_926 : decode cL_law 926 = .ok (.ifCond .ne 35, 3) := dk_154 0 35 (dk_at dksL_law_35 21 rfl rfl)
theorem dL_law_929 : decode cL_law 929 = .ok (.aload 4, 2) := dk_25 4 (dk_at dksL_law_36 0 rfl rfl)
theorem dL_law_931 : decode cL_law 931 = .ok (.iconst 0, 1) := dk_3 (dk_at dksL_law_36 2 rfl rfl)
theorem dL_law_932 : decode cL_law 932 = .ok (.daload, 1) := dk_49 (dk_at dksL_law_36 3 rfl rfl)
theorem dL_law_933 : decode cL_law 933 = .ok (.dload 7, 2) := dk_24 7 (dk_at dksL_law_36 4 rfl rfl)
theorem dL_law_935 : decode cL_law 935 = .ok (.dcmp .l, 1) := dk_151 (dk_at dksL_law_36 6 rfl rfl)
theorem dL_law_936 : decode cL_law 936 = .ok (.ifCond .eq 25, 3) := dk_153 0 25 (dk_at dksL_law_36 7 rfl rfl)
theorem dL_law_939 : decode cL_law 939 = .ok (.aload 4, 2) := dk_25 4 (dk_at dksL_law_36 10 rfl rfl)
theorem dL_law_941 : decode cL_law 941 = .ok (.iconst 0, 1) := dk_3 (dk_at dksL_law_36 12 rfl rfl)
theorem dL_law_942 : decode cL_law 942 = .ok (.daload, 1) := dk_49 (dk_at dksL_law_36 13 rfl rfl)
theorem dL_law_943 : decode cL_law 943 = .ok (.aload 4, 2) := dk_25 4 (dk_at dksL_law_36 14 rfl rfl)
theorem dL_law_945 : decode cL_law 945 = .ok (.iconst 0, 1) := dk_3 (dk_at dksL_law_36 16 rfl rfl)
theorem dL_law_946 : decode cL_law 946 = .ok (.daload, 1) := dk_49 (dk_at dksL_law_36 17 rfl rfl)
theorem dL_law_947 : decode cL_law 947 = .ok (.dcmp .l, 1) := dk_151 (dk_at dksL_law_36 18 rfl rfl)
theorem dL_law_948 : decode cL_law 948 = .ok (.ifCond .eq 11, 3) := dk_153 0 11 (dk_at dksL_law_36 19 rfl rfl)
theorem dL_law_951 : decode cL_law 951 = .ok (.dload 7, 2) := dk_24 7 (dk_at dksL_law_36 22 rfl rfl)
theorem dL_law_953 : decode cL_law 953 = .ok (.dload 7, 2) := dk_24 7 (dk_at dksL_law_37 0 rfl rfl)
theorem dL_law_955 : decode cL_law 955 = .ok (.dcmp .l, 1) := dk_151 (dk_at dksL_law_37 2 rfl rfl)
theorem dL_law_956 : decode cL_law 956 = .ok (.ifCond .ne 5, 3) := dk_154 0 5 (dk_at dksL_law_37 3 rfl rfl)
theorem dL_law_959 : decode cL_law 959 = .ok (.iconst 0, 1) := dk_3 (dk_at dksL_law_37 6 rfl rfl)
theorem dL_law_960 : decode cL_law 960 = .ok (.ireturn, 1) := dk_172 (dk_at dksL_law_37 7 rfl rfl)
theorem dL_law_961 : decode cL_law 961 = .ok (.goto 966, 3) := dk_167 3 198 (dk_at dksL_law_37 8 rfl rfl)
theorem dL_law_964 : decode cL_law 964 = .ok (.aload_n 1, 1) := dk_43 (dk_at dksL_law_37 11 rfl rfl)
theorem dL_law_965 : decode cL_law 965 = .ok (.aload_n 0, 1) := dk_42 (dk_at dksL_law_37 12 rfl rfl)
theorem dL_law_966 : decode cL_law 966 = .ok (.iload 5, 2) := dk_21 5 (dk_at dksL_law_37 13 rfl rfl)
theorem dL_law_968 : decode cL_law 968 = .ok (.iconst 1, 1) := dk_4 (dk_at dksL_law_37 15 rfl rfl)
theorem dL_law_969 : decode cL_law 969 = .ok (.iadd, 1) := dk_96 (dk_at dksL_law_37 16 rfl rfl)
theorem dL_law_970 : decode cL_law 970 = .ok (.iaload, 1) := dk_46 (dk_at dksL_law_37 17 rfl rfl)
theorem dL_law_971 : decode cL_law 971 = .ok (.aload_n 0, 1) := dk_42 (dk_at dksL_law_37 18 rfl rfl)
theorem dL_law_972 : decode cL_law 972 = .ok (.iload 5, 2) := dk_21 5 (dk_at dksL_law_37 19 rfl rfl)
theorem dL_law_974 : decode cL_law 974 = .ok (.iconst 2, 1) := dk_5 (dk_at dksL_law_37 21 rfl rfl)
theorem dL_law_975 : decode cL_law 975 = .ok (.iadd, 1) := dk_96 (dk_at dksL_law_37 22 rfl rfl)
theorem dL_law_976 : decode cL_law 976 = .ok (.iaload, 1) := dk_46 (dk_at dksL_law_37 23 rfl rfl)
theorem dL_law_977 : decode cL_law 977 = .ok (.aload_n 3, 1) := dk_45 (dk_at dksL_law_38 0 rfl rfl)
theorem dL_law_978 : decode cL_law 978 = .ok (.invokestatic 146, 3) := dk_184 0 146 (dk_at dksL_law_38 1 rfl rfl)
theorem dL_law_981 : decode cL_law 981 = .ok (.istore 6, 2) := dk_54 6 (dk_at dksL_law_38 4 rfl rfl)
theorem dL_law_983 : decode cL_law 983 = .ok (.aload_n 2, 1) := dk_44 (dk_at dksL_law_38 6 rfl rfl)
theorem dL_law_984 : decode cL_law 984 = .ok (.aload_n 0, 1) := dk_42 (dk_at dksL_law_38 7 rfl rfl)
theorem dL_law_985 : decode cL_law 985 = .ok (.iload 5, 2) := dk_21 5 (dk_at dksL_law_38 8 rfl rfl)
theorem dL_law_987 : decode cL_law 987 = .ok (.iconst 1, 1) := dk_4 (dk_at dksL_law_38 10 rfl rfl)
theorem dL_law_988 : decode cL_law 988 = .ok (.iadd, 1) := dk_96 (dk_at dksL_law_38 11 rfl rfl)
theorem dL_law_989 : decode cL_law 989 = .ok (.iaload, 1) := dk_46 (dk_at dksL_law_38 12 rfl rfl)
theorem dL_law_990 : decode cL_law 990 = .ok (.aload_n 0, 1) := dk_42 (dk_at dksL_law_38 13 rfl rfl)
theorem dL_law_991 : decode cL_law 991 = .ok (.iload 5, 2) := dk_21 5 (dk_at dksL_law_38 14 rfl rfl)
theorem dL_law_993 : decode cL_law 993 = .ok (.iconst 2, 1) := dk_5 (dk_at dksL_law_38 16 rfl rfl)
theorem dL_law_994 : decode cL_law 994 = .ok (.iadd, 1) := dk_96 (dk_at dksL_law_38 17 rfl rfl)
theorem dL_law_995 : decode cL_law 995 = .ok (.iaload, 1) := dk_46 (dk_at dksL_law_38 18 rfl rfl)
theorem dL_law_996 : decode cL_law 996 = .ok (.invokevirtual 148, 3) := dk_182 0 148 (dk_at dksL_law_38 19 rfl rfl)
theorem dL_law_999 : decode cL_law 999 = .ok (.istore 7, 2) := dk_54 7 (dk_at dksL_law_38 22 rfl rfl)
theorem dL_law_1001 : decode cL_law 1001 = .ok (.aload_n 2, 1) := dk_44 (dk_at dksL_law_39 0 rfl rfl)
theorem dL_law_1002 : decode cL_law 1002 = .ok (.invokevirtual 108, 3) := dk_182 0 108 (dk_at dksL_law_39 1 rfl rfl)
theorem dL_law_1005 : decode cL_law 1005 = .ok (.iload 6, 2) := dk_21 6 (dk_at dksL_law_39 4 rfl rfl)
theorem dL_law_1007 : decode cL_law 1007 = .ok (.if_icmp .eq 5, 3) := dk_159 0 5 (dk_at dksL_law_39 6 rfl rfl)
theorem dL_law_1010 : decode cL_law 1010 = .ok (.iconst 0, 1) := dk_3 (dk_at dksL_law_39 9 rfl rfl)
theorem dL_law_1011 : decode cL_law 1011 = .ok (.ireturn, 1) := dk_172 (dk_at dksL_law_39 10 rfl rfl)
theorem dL_law_1012 : decode cL_law 1012 = .ok (.iload 6, 2) := dk_21 6 (dk_at dksL_law_39 11 rfl rfl)
theorem dL_law_1014 : decode cL_law 1014 = .ok (.ifCond .ne 15, 3) := dk_154 0 15 (dk_at dksL_law_39 13 rfl rfl)
theorem dL_law_1017 : decode cL_law 1017 = .ok (.aload_n 3, 1) := dk_45 (dk_at dksL_law_39 16 rfl rfl)
theorem dL_law_1018 : decode cL_law 1018 = .ok (.iconst 0, 1) := dk_3 (dk_at dksL_law_39 17 rfl rfl)
theorem dL_law_1019 : decode cL_law 1019 = .ok (.laload, 1) := dk_47 (dk_at dksL_law_39 18 rfl rfl)
theorem dL_law_1020 : decode cL_law 1020 = .ok (.iload 7, 2) := dk_21 7 (dk_at dksL_law_39 19 rfl rfl)
theorem dL_law_1022 : decode cL_law 1022 = .ok (.i2l, 1) := dk_133 (dk_at dksL_law_39 21 rfl rfl)
theorem dL_law_1023 : decode cL_law 1023 = .ok (.lcmp, 1) := dk_148 (dk_at dksL_law_39 22 rfl rfl)
theorem dL_law_1024 : decode cL_law 1024 = .ok (.ifCond .eq 5, 3) := dk_153 0 5 (dk_at dksL_law_40 0 rfl rfl)
theorem dL_law_1027 : decode cL_law 1027 = .ok (.iconst 0, 1) := dk_3 (dk_at dksL_law_40 3 rfl rfl)
theorem dL_law_1028 : decode cL_law 1028 = .ok (.ireturn, 1) := dk_172 (dk_at dksL_law_40 4 rfl rfl)
theorem dL_law_1029 : decode cL_law 1029 = .ok (.goto 898, 3) := dk_167 3 130 (dk_at dksL_law_40 5 rfl rfl)
theorem dL_law_1032 : decode cL_law 1032 = .ok (.aload_n 1, 1) := dk_43 (dk_at dksL_law_40 8 rfl rfl)
theorem dL_law_1033 : decode cL_law 1033 = .ok (.aload_n 0, 1) := dk_42 (dk_at dksL_law_40 9 rfl rfl)
theorem dL_law_1034 : decode cL_law 1034 = .ok (.iload 5, 2) := dk_21 5 (dk_at dksL_law_40 10 rfl rfl)
theorem dL_law_1036 : decode cL_law 1036 = .ok (.iconst 1, 1) := dk_4 (dk_at dksL_law_40 12 rfl rfl)
theorem dL_law_1037 : decode cL_law 1037 = .ok (.iadd, 1) := dk_96 (dk_at dksL_law_40 13 rfl rfl)
theorem dL_law_1038 : decode cL_law 1038 = .ok (.iaload, 1) := dk_46 (dk_at dksL_law_40 14 rfl rfl)
theorem dL_law_1039 : decode cL_law 1039 = .ok (.aload_n 0, 1) := dk_42 (dk_at dksL_law_40 15 rfl rfl)
theorem dL_law_1040 : decode cL_law 1040 = .ok (.iload 5, 2) := dk_21 5 (dk_at dksL_law_40 16 rfl rfl)
theorem dL_law_1042 : decode cL_law 1042 = .ok (.iconst 2, 1) := dk_5 (dk_at dksL_law_40 18 rfl rfl)
theorem dL_law_1043 : decode cL_law 1043 = .ok (.iadd, 1) := dk_96 (dk_at dksL_law_40 19 rfl rfl)
theorem dL_law_1044 : decode cL_law 1044 = .ok (.iaload, 1) := dk_46 (dk_at dksL_law_40 20 rfl rfl)
theorem dL_law_1045 : decode cL_law 1045 = .ok (.aload_n 0, 1) := dk_42 (dk_at dksL_law_40 21 rfl rfl)
theorem dL_law_1046 : decode cL_law 1046 = .ok (.iload 5, 2) := dk_21 5 (dk_at dksL_law_40 22 rfl rfl)
theorem dL_law_1048 : decode cL_law 1048 = .ok (.iconst 3, 1) := dk_6 (dk_at dksL_law_41 0 rfl rfl)
theorem dL_law_1049 : decode cL_law 1049 = .ok (.iadd, 1) := dk_96 (dk_at dksL_law_41 1 rfl rfl)
theorem dL_law_1050 : decode cL_law 1050 = .ok (.iaload, 1) := dk_46 (dk_at dksL_law_41 2 rfl rfl)
theorem dL_law_1051 : decode cL_law 1051 = .ok (.aload_n 3, 1) := dk_45 (dk_at dksL_law_41 3 rfl rfl)
theorem dL_law_1052 : decode cL_law 1052 = .ok (.invokestatic 149, 3) := dk_184 0 149 (dk_at dksL_law_41 4 rfl rfl)
theorem dL_law_1055 : decode cL_law 1055 = .ok (.istore 6, 2) := dk_54 6 (dk_at dksL_law_41 7 rfl rfl)
theorem dL_law_1057 : decode cL_law 1057 = .ok (.aload_n 2, 1) := dk_44 (dk_at dksL_law_41 9 rfl rfl)
theorem dL_law_1058 : decode cL_law 1058 = .ok (.aload_n 0, 1) := dk_42 (dk_at dksL_law_41 10 rfl rfl)
theorem dL_law_1059 : decode cL_law 1059 = .ok (.iload 5, 2) := dk_21 5 (dk_at dksL_law_41 11 rfl rfl)
theorem dL_law_1061 : decode cL_law 1061 = .ok (.iconst 1, 1) := dk_4 (dk_at dksL_law_41 13 rfl rfl)
theorem dL_law_1062 : decode cL_law 1062 = .ok (.iadd, 1) := dk_96 (dk_at dksL_law_41 14 rfl rfl)
theorem dL_law_1063 : decode cL_law 1063 = .ok (.iaload, 1) := dk_46 (dk_at dksL_law_41 15 rfl rfl)
theorem dL_law_1064 : decode cL_law 1064 = .ok (.aload_n 0, 1) := dk_42 (dk_at dksL_law_41 16 rfl rfl)
theorem dL_law_1065 : decode cL_law 1065 = .ok (.iload 5, 2) := dk_21 5 (dk_at dksL_law_41 17 rfl rfl)
theorem dL_law_1067 : decode cL_law 1067 = .ok (.iconst 2, 1) := dk_5 (dk_at dksL_law_41 19 rfl rfl)
theorem dL_law_1068 : decode cL_law 1068 = .ok (.iadd, 1) := dk_96 (dk_at dksL_law_41 20 rfl rfl)
theorem dL_law_1069 : decode cL_law 1069 = .ok (.iaload, 1) := dk_46 (dk_at dksL_law_41 21 rfl rfl)
theorem dL_law_1070 : decode cL_law 1070 = .ok (.aload_n 0, 1) := dk_42 (dk_at dksL_law_41 22 rfl rfl)
theorem dL_law_1071 : decode cL_law 1071 = .ok (.iload 5, 2) := dk_21 5 (dk_at dksL_law_42 0 rfl rfl)
theorem dL_law_1073 : decode cL_law 1073 = .ok (.iconst 3, 1) := dk_6 (dk_at dksL_law_42 2 rfl rfl)
theorem dL_law_1074 : decode cL_law 1074 = .ok (.iadd, 1) := dk_96 (dk_at dksL_law_42 3 rfl rfl)
theorem dL_law_1075 : decode cL_law 1075 = .ok (.iaload, 1) := dk_46 (dk_at dksL_law_42 4 rfl rfl)
theorem dL_law_1076 : decode cL_law 1076 = .ok (.invokevirtual 151, 3) := dk_182 0 151 (dk_at dksL_law_42 5 rfl rfl)
theorem dL_law_1079 : decode cL_law 1079 = .ok (.istore 7, 2) := dk_54 7 (dk_at dksL_law_42 8 rfl rfl)
theorem dL_law_1081 : decode cL_law 1081 = .ok (.aload_n 2, 1) := dk_44 (dk_at dksL_law_42 10 rfl rfl)
theorem dL_law_1082 : decode cL_law 1082 = .ok (.invokevirtual 108, 3) := dk_182 0 108 (dk_at dksL_law_42 11 rfl rfl)
theorem dL_law_1085 : decode cL_law 1085 = .ok (.iload 6, 2) := dk_21 6 (dk_at dksL_law_42 14 rfl rfl)
theorem dL_law_1087 : decode cL_law 1087 = .ok (.if_icmp .eq 5, 3) := dk_159 0 5 (dk_at dksL_law_42 16 rfl rfl)
theorem dL_law_1090 : decode cL_law 1090 = .ok (.iconst 0, 1) := dk_3 (dk_at dksL_law_42 19 rfl rfl)
theorem dL_law_1091 : decode cL_law 1091 = .ok (.ireturn, 1) := dk_172 (dk_at dksL_law_42 20 rfl rfl)
theorem dL_law_1092 : decode cL_law 1092 = .ok (.iload 6, 2) := dk_21 6 (dk_at dksL_law_42 21 rfl rfl)
theorem dL_law_1094 : decode cL_law 1094 = .ok (.ifCond .ne 15, 3) := dk_154 0 15 (dk_at dksL_law_43 0 rfl rfl)
theorem dL_law_1097 : decode cL_law 1097 = .ok (.aload_n 3, 1) := dk_45 (dk_at dksL_law_43 3 rfl rfl)
theorem dL_law_1098 : decode cL_law 1098 = .ok (.iconst 0, 1) := dk_3 (dk_at dksL_law_43 4 rfl rfl)
theorem dL_law_1099 : decode cL_law 1099 = .ok (.laload, 1) := dk_47 (dk_at dksL_law_43 5 rfl rfl)
theorem dL_law_1100 : decode cL_law 1100 = .ok (.iload 7, 2) := dk_21 7 (dk_at dksL_law_43 6 rfl rfl)
theorem dL_law_1102 : decode cL_law 1102 = .ok (.i2l, 1) := dk_133 (dk_at dksL_law_43 8 rfl rfl)
theorem dL_law_1103 : decode cL_law 1103 = .ok (.lcmp, 1) := dk_148 (dk_at dksL_law_43 9 rfl rfl)
theorem dL_law_1104 : decode cL_law 1104 = .ok (.ifCond .eq 5, 3) := dk_153 0 5 (dk_at dksL_law_43 10 rfl rfl)
theorem dL_law_1107 : decode cL_law 1107 = .ok (.iconst 0, 1) := dk_3 (dk_at dksL_law_43 13 rfl rfl)
theorem dL_law_1108 : decode cL_law 1108 = .ok (.ireturn, 1) := dk_172 (dk_at dksL_law_43 14 rfl rfl)
theorem dL_law_1109 : decode cL_law 1109 = .ok (.goto 818, 3) := dk_167 3 50 (dk_at dksL_law_43 15 rfl rfl)
theorem dL_law_1112 : decode cL_law 1112 = .ok (.aload_n 1, 1) := dk_43 (dk_at dksL_law_43 18 rfl rfl)
theorem dL_law_1113 : decode cL_law 1113 = .ok (.aload_n 0, 1) := dk_42 (dk_at dksL_law_43 19 rfl rfl)
theorem dL_law_1114 : decode cL_law 1114 = .ok (.iload 5, 2) := dk_21 5 (dk_at dksL_law_43 20 rfl rfl)
theorem dL_law_1116 : decode cL_law 1116 = .ok (.iconst 1, 1) := dk_4 (dk_at dksL_law_43 22 rfl rfl)
theorem dL_law_1117 : decode cL_law 1117 = .ok (.iadd, 1) := dk_96 (dk_at dksL_law_43 23 rfl rfl)
theorem dL_law_1118 : decode cL_law 1118 = .ok (.iaload, 1) := dk_46 (dk_at dksL_law_44 0 rfl rfl)
theorem dL_law_1119 : decode cL_law 1119 = .ok (.aload_n 0, 1) := dk_42 (dk_at dksL_law_44 1 rfl rfl)
theorem dL_law_1120 : decode cL_law 1120 = .ok (.iload 5, 2) := dk_21 5 (dk_at dksL_law_44 2 rfl rfl)
theorem dL_law_1122 : decode cL_law 1122 = .ok (.iconst 2, 1) := dk_5 (dk_at dksL_law_44 4 rfl rfl)
theorem dL_law_1123 : decode cL_law 1123 = .ok (.iadd, 1) := dk_96 (dk_at dksL_law_44 5 rfl rfl)
theorem dL_law_1124 : decode cL_law 1124 = .ok (.iaload, 1) := dk_46 (dk_at dksL_law_44 6 rfl rfl)
theorem dL_law_1125 : decode cL_law 1125 = .ok (.aload_n 3, 1) := dk_45 (dk_at dksL_law_44 7 rfl rfl)
theorem dL_law_1126 : decode cL_law 1126 = .ok (.invokestatic 152, 3) := dk_184 0 152 (dk_at dksL_law_44 8 rfl rfl)
theorem dL_law_1129 : decode cL_law 1129 = .ok (.istore 6, 2) := dk_54 6 (dk_at dksL_law_44 11 rfl rfl)
theorem dL_law_1131 : decode cL_law 1131 = .ok (.aload_n 2, 1) := dk_44 (dk_at dksL_law_44 13 rfl rfl)
theorem dL_law_1132 : decode cL_law 1132 = .ok (.aload_n 0, 1) := dk_42 (dk_at dksL_law_44 14 rfl rfl)
theorem dL_law_1133 : decode cL_law 1133 = .ok (.iload 5, 2) := dk_21 5 (dk_at dksL_law_44 15 rfl rfl)
theorem dL_law_1135 : decode cL_law 1135 = .ok (.iconst 1, 1) := dk_4 (dk_at dksL_law_44 17 rfl rfl)
theorem dL_law_1136 : decode cL_law 1136 = .ok (.iadd, 1) := dk_96 (dk_at dksL_law_44 18 rfl rfl)
theorem dL_law_1137 : decode cL_law 1137 = .ok (.iaload, 1) := dk_46 (dk_at dksL_law_44 19 rfl rfl)
theorem dL_law_1138 : decode cL_law 1138 = .ok (.aload_n 0, 1) := dk_42 (dk_at dksL_law_44 20 rfl rfl)
theorem dL_law_1139 : decode cL_law 1139 = .ok (.iload 5, 2) := dk_21 5 (dk_at dksL_law_44 21 rfl rfl)
theorem dL_law_1141 : decode cL_law 1141 = .ok (.iconst 2, 1) := dk_5 (dk_at dksL_law_44 23 rfl rfl)
theorem dL_law_1142 : decode cL_law 1142 = .ok (.iadd, 1) := dk_96 (dk_at dksL_law_45 0 rfl rfl)
theorem dL_law_1143 : decode cL_law 1143 = .ok (.iaload, 1) := dk_46 (dk_at dksL_law_45 1 rfl rfl)
theorem dL_law_1144 : decode cL_law 1144 = .ok (.invokevirtual 154, 3) := dk_182 0 154 (dk_at dksL_law_45 2 rfl rfl)
theorem dL_law_1147 : decode cL_law 1147 = .ok (.istore 7, 2) := dk_54 7 (dk_at dksL_law_45 5 rfl rfl)
theorem dL_law_1149 : decode cL_law 1149 = .ok (.aload_n 2, 1) := dk_44 (dk_at dksL_law_45 7 rfl rfl)
theorem dL_law_1150 : decode cL_law 1150 = .ok (.invokevirtual 108, 3) := dk_182 0 108 (dk_at dksL_law_45 8 rfl rfl)
theorem dL_law_1153 : decode cL_law 1153 = .ok (.iload 6, 2) := dk_21 6 (dk_at dksL_law_45 11 rfl rfl)
theorem dL_law_1155 : decode cL_law 1155 = .ok (.if_icmp .eq 5, 3) := dk_159 0 5 (dk_at dksL_law_45 13 rfl rfl)
theorem dL_law_1158 : decode cL_law 1158 = .ok (.iconst 0, 1) := dk_3 (dk_at dksL_law_45 16 rfl rfl)
theorem dL_law_1159 : decode cL_law 1159 = .ok (.ireturn, 1) := dk_172 (dk_at dksL_law_45 17 rfl rfl)
theorem dL_law_1160 : decode cL_law 1160 = .ok (.iload 6, 2) := dk_21 6 (dk_at dksL_law_45 18 rfl rfl)
theorem dL_law_1162 : decode cL_law 1162 = .ok (.ifCond .ne 15, 3) := dk_154 0 15 (dk_at dksL_law_45 20 rfl rfl)
theorem dL_law_1165 : decode cL_law 1165 = .ok (.aload_n 3, 1) := dk_45 (dk_at dksL_law_45 23 rfl rfl)
theorem dL_law_1166 : decode cL_law 1166 = .ok (.iconst 0, 1) := dk_3 (dk_at dksL_law_46 0 rfl rfl)
theorem dL_law_1167 : decode cL_law 1167 = .ok (.laload, 1) := dk_47 (dk_at dksL_law_46 1 rfl rfl)
theorem dL_law_1168 : decode cL_law 1168 = .ok (.iload 7, 2) := dk_21 7 (dk_at dksL_law_46 2 rfl rfl)
theorem dL_law_1170 : decode cL_law 1170 = .ok (.i2l, 1) := dk_133 (dk_at dksL_law_46 4 rfl rfl)
theorem dL_law_1171 : decode cL_law 1171 = .ok (.lcmp, 1) := dk_148 (dk_at dksL_law_46 5 rfl rfl)
theorem dL_law_1172 : decode cL_law 1172 = .ok (.ifCond .eq 5, 3) := dk_153 0 5 (dk_at dksL_law_46 6 rfl rfl)
theorem dL_law_1175 : decode cL_law 1175 = .ok (.iconst 0, 1) := dk_3 (dk_at dksL_law_46 9 rfl rfl)
theorem dL_law_1176 : decode cL_law 1176 = .ok (.ireturn, 1) := dk_172 (dk_at dksL_law_46 10 rfl rfl)
theorem dL_law_1177 : decode cL_law 1177 = .ok (.goto 750, 3) := dk_167 2 238 (dk_at dksL_law_46 11 rfl rfl)
theorem dL_law_1180 : decode cL_law 1180 = .ok (.aload_n 1, 1) := dk_43 (dk_at dksL_law_46 14 rfl rfl)
theorem dL_law_1181 : decode cL_law 1181 = .ok (.aload_n 0, 1) := dk_42 (dk_at dksL_law_46 15 rfl rfl)
theorem dL_law_1182 : decode cL_law 1182 = .ok (.iload 5, 2) := dk_21 5 (dk_at dksL_law_46 16 rfl rfl)
theorem dL_law_1184 : decode cL_law 1184 = .ok (.iconst 1, 1) := dk_4 (dk_at dksL_law_46 18 rfl rfl)
theorem dL_law_1185 : decode cL_law 1185 = .ok (.iadd, 1) := dk_96 (dk_at dksL_law_46 19 rfl rfl)
theorem dL_law_1186 : decode cL_law 1186 = .ok (.iaload, 1) := dk_46 (dk_at dksL_law_46 20 rfl rfl)
theorem dL_law_1187 : decode cL_law 1187 = .ok (.aload_n 0, 1) := dk_42 (dk_at dksL_law_46 21 rfl rfl)
theorem dL_law_1188 : decode cL_law 1188 = .ok (.iload 5, 2) := dk_21 5 (dk_at dksL_law_46 22 rfl rfl)
theorem dL_law_1190 : decode cL_law 1190 = .ok (.iconst 2, 1) := dk_5 (dk_at dksL_law_47 0 rfl rfl)
theorem dL_law_1191 : decode cL_law 1191 = .ok (.iadd, 1) := dk_96 (dk_at dksL_law_47 1 rfl rfl)
theorem dL_law_1192 : decode cL_law 1192 = .ok (.iaload, 1) := dk_46 (dk_at dksL_law_47 2 rfl rfl)
theorem dL_law_1193 : decode cL_law 1193 = .ok (.aload_n 0, 1) := dk_42 (dk_at dksL_law_47 3 rfl rfl)
theorem dL_law_1194 : decode cL_law 1194 = .ok (.iload 5, 2) := dk_21 5 (dk_at dksL_law_47 4 rfl rfl)
theorem dL_law_1196 : decode cL_law 1196 = .ok (.iconst 3, 1) := dk_6 (dk_at dksL_law_47 6 rfl rfl)
theorem dL_law_1197 : decode cL_law 1197 = .ok (.iadd, 1) := dk_96 (dk_at dksL_law_47 7 rfl rfl)
theorem dL_law_1198 : decode cL_law 1198 = .ok (.iaload, 1) := dk_46 (dk_at dksL_law_47 8 rfl rfl)
theorem dL_law_1199 : decode cL_law 1199 = .ok (.aload_n 3, 1) := dk_45 (dk_at dksL_law_47 9 rfl rfl)
theorem dL_law_1200 : decode cL_law 1200 = .ok (.invokestatic 155, 3) := dk_184 0 155 (dk_at dksL_law_47 10 rfl rfl)
theorem dL_law_1203 : decode cL_law 1203 = .ok (.istore 6, 2) := dk_54 6 (dk_at dksL_law_47 13 rfl rfl)
theorem dL_law_1205 : decode cL_law 1205 = .ok (.aload_n 2, 1) := dk_44 (dk_at dksL_law_47 15 rfl rfl)
theorem dL_law_1206 : decode cL_law 1206 = .ok (.aload_n 0, 1) := dk_42 (dk_at dksL_law_47 16 rfl rfl)
theorem dL_law_1207 : decode cL_law 1207 = .ok (.iload 5, 2) := dk_21 5 (dk_at dksL_law_47 17 rfl rfl)
theorem dL_law_1209 : decode cL_law 1209 = .ok (.iconst 1, 1) := dk_4 (dk_at dksL_law_47 19 rfl rfl)
theorem dL_law_1210 : decode cL_law 1210 = .ok (.iadd, 1) := dk_96 (dk_at dksL_law_47 20 rfl rfl)
theorem dL_law_1211 : decode cL_law 1211 = .ok (.iaload, 1) := dk_46 (dk_at dksL_law_47 21 rfl rfl)
theorem dL_law_1212 : decode cL_law 1212 = .ok (.aload_n 0, 1) := dk_42 (dk_at dksL_law_47 22 rfl rfl)
theorem dL_law_1213 : decode cL_law 1213 = .ok (.iload 5, 2) := dk_21 5 (dk_at dksL_law_48 0 rfl rfl)
theorem dL_law_1215 : decode cL_law 1215 = .ok (.iconst 2, 1) := dk_5 (dk_at dksL_law_48 2 rfl rfl)
theorem dL_law_1216 : decode cL_law 1216 = .ok (.iadd, 1) := dk_96 (dk_at dksL_law_48 3 rfl rfl)
theorem dL_law_1217 : decode cL_law 1217 = .ok (.iaload, 1) := dk_46 (dk_at dksL_law_48 4 rfl rfl)
theorem dL_law_1218 : decode cL_law 1218 = .ok (.aload_n 0, 1) := dk_42 (dk_at dksL_law_48 5 rfl rfl)
theorem dL_law_1219 : decode cL_law 1219 = .ok (.iload 5, 2) := dk_21 5 (dk_at dksL_law_48 6 rfl rfl)
theorem dL_law_1221 : decode cL_law 1221 = .ok (.iconst 3, 1) := dk_6 (dk_at dksL_law_48 8 rfl rfl)
theorem dL_law_1222 : decode cL_law 1222 = .ok (.iadd, 1) := dk_96 (dk_at dksL_law_48 9 rfl rfl)
theorem dL_law_1223 : decode cL_law 1223 = .ok (.iaload, 1) := dk_46 (dk_at dksL_law_48 10 rfl rfl)
theorem dL_law_1224 : decode cL_law 1224 = .ok (.invokevirtual 157, 3) := dk_182 0 157 (dk_at dksL_law_48 11 rfl rfl)
theorem dL_law_1227 : decode cL_law 1227 = .ok (.istore 7, 2) := dk_54 7 (dk_at dksL_law_48 14 rfl rfl)
theorem dL_law_1229 : decode cL_law 1229 = .ok (.aload_n 2, 1) := dk_44 (dk_at dksL_law_48 16 rfl rfl)
theorem dL_law_1230 : decode cL_law 1230 = .ok (.invokevirtual 108, 3) := dk_182 0 108 (dk_at dksL_law_48 17 rfl rfl)
theorem dL_law_1233 : decode cL_law 1233 = .ok (.iload 6, 2) := dk_21 6 (dk_at dksL_law_48 20 rfl rfl)
theorem dL_law_1235 : decode cL_law 1235 = .ok (.if_icmp .eq 5, 3) := dk_159 0 5 (dk_at dksL_law_49 0 rfl rfl)
theorem dL_law_1238 : decode cL_law 1238 = .ok (.iconst 0, 1) := dk_3 (dk_at dksL_law_49 3 rfl rfl)
theorem dL_law_1239 : decode cL_law 1239 = .ok (.ireturn, 1) := dk_172 (dk_at dksL_law_49 4 rfl rfl)
theorem dL_law_1240 : decode cL_law 1240 = .ok (.iload 6, 2) := dk_21 6 (dk_at dksL_law_49 5 rfl rfl)
theorem dL_law_1242 : decode cL_law 1242 = .ok (.ifCond .ne 15, 3) := dk_154 0 15 (dk_at dksL_law_49 7 rfl rfl)
theorem dL_law_1245 : decode cL_law 1245 = .ok (.aload_n 3, 1) := dk_45 (dk_at dksL_law_49 10 rfl rfl)
theorem dL_law_1246 : decode cL_law 1246 = .ok (.iconst 0, 1) := dk_3 (dk_at dksL_law_49 11 rfl rfl)
theorem dL_law_1247 : decode cL_law 1247 = .ok (.laload, 1) := dk_47 (dk_at dksL_law_49 12 rfl rfl)
theorem dL_law_1248 : decode cL_law 1248 = .ok (.iload 7, 2) := dk_21 7 (dk_at dksL_law_49 13 rfl rfl)
theorem dL_law_1250 : decode cL_law 1250 = .ok (.i2l, 1) := dk_133 (dk_at dksL_law_49 15 rfl rfl)
theorem dL_law_1251 : decode cL_law 1251 = .ok (.lcmp, 1) := dk_148 (dk_at dksL_law_49 16 rfl rfl)
theorem dL_law_1252 : decode cL_law 1252 = .ok (.ifCond .eq 5, 3) := dk_153 0 5 (dk_at dksL_law_49 17 rfl rfl)
theorem dL_law_1255 : decode cL_law 1255 = .ok (.iconst 0, 1) := dk_3 (dk_at dksL_law_49 20 rfl rfl)
theorem dL_law_1256 : decode cL_law 1256 = .ok (.ireturn, 1) := dk_172 (dk_at dksL_law_49 21 rfl rfl)
theorem dL_law_1257 : decode cL_law 1257 = .ok (.goto 670, 3) := dk_167 2 158 (dk_at dksL_law_50 0 rfl rfl)
theorem dL_law_1260 : decode cL_law 1260 = .ok (.aload_n 1, 1) := dk_43 (dk_at dksL_law_50 3 rfl rfl)
theorem dL_law_1261 : decode cL_law 1261 = .ok (.aload_n 0, 1) := dk_42 (dk_at dksL_law_50 4 rfl rfl)
theorem dL_law_1262 : decode cL_law 1262 = .ok (.iload 5, 2) := dk_21 5 (dk_at dksL_law_50 5 rfl rfl)
theorem dL_law_1264 : decode cL_law 1264 = .ok (.iconst 1, 1) := dk_4 (dk_at dksL_law_50 7 rfl rfl)
theorem dL_law_1265 : decode cL_law 1265 = .ok (.iadd, 1) := dk_96 (dk_at dksL_law_50 8 rfl rfl)
theorem dL_law_1266 : decode cL_law 1266 = .ok (.iaload, 1) := dk_46 (dk_at dksL_law_50 9 rfl rfl)
theorem dL_law_1267 : decode cL_law 1267 = .ok (.aload_n 0, 1) := dk_42 (dk_at dksL_law_50 10 rfl rfl)
theorem dL_law_1268 : decode cL_law 1268 = .ok (.iload 5, 2) := dk_21 5 (dk_at dksL_law_50 11 rfl rfl)
theorem dL_law_1270 : decode cL_law 1270 = .ok (.iconst 2, 1) := dk_5 (dk_at dksL_law_50 13 rfl rfl)
theorem dL_law_1271 : decode cL_law 1271 = .ok (.iadd, 1) := dk_96 (dk_at dksL_law_50 14 rfl rfl)
theorem dL_law_1272 : decode cL_law 1272 = .ok (.iaload, 1) := dk_46 (dk_at dksL_law_50 15 rfl rfl)
theorem dL_law_1273 : decode cL_law 1273 = .ok (.aload_n 3, 1) := dk_45 (dk_at dksL_law_50 16 rfl rfl)
theorem dL_law_1274 : decode cL_law 1274 = .ok (.invokestatic 158, 3) := dk_184 0 158 (dk_at dksL_law_50 17 rfl rfl)
theorem dL_law_1277 : decode cL_law 1277 = .ok (.istore 6, 2) := dk_54 6 (dk_at dksL_law_50 20 rfl rfl)
theorem dL_law_1279 : decode cL_law 1279 = .ok (.aload_n 2, 1) := dk_44 (dk_at dksL_law_50 22 rfl rfl)
theorem dL_law_1280 : decode cL_law 1280 = .ok (.aload_n 0, 1) := dk_42 (dk_at dksL_law_50 23 rfl rfl)
theorem dL_law_1281 : decode cL_law 1281 = .ok (.iload 5, 2) := dk_21 5 (dk_at dksL_law_51 0 rfl rfl)
theorem dL_law_1283 : decode cL_law 1283 = .ok (.iconst 1, 1) := dk_4 (dk_at dksL_law_51 2 rfl rfl)
theorem dL_law_1284 : decode cL_law 1284 = .ok (.iadd, 1) := dk_96 (dk_at dksL_law_51 3 rfl rfl)
theorem dL_law_1285 : decode cL_law 1285 = .ok (.iaload, 1) := dk_46 (dk_at dksL_law_51 4 rfl rfl)
theorem dL_law_1286 : decode cL_law 1286 = .ok (.aload_n 0, 1) := dk_42 (dk_at dksL_law_51 5 rfl rfl)
theorem dL_law_1287 : decode cL_law 1287 = .ok (.iload 5, 2) := dk_21 5 (dk_at dksL_law_51 6 rfl rfl)
theorem dL_law_1289 : decode cL_law 1289 = .ok (.iconst 2, 1) := dk_5 (dk_at dksL_law_51 8 rfl rfl)
theorem dL_law_1290 : decode cL_law 1290 = .ok (.iadd, 1) := dk_96 (dk_at dksL_law_51 9 rfl rfl)
theorem dL_law_1291 : decode cL_law 1291 = .ok (.iaload, 1) := dk_46 (dk_at dksL_law_51 10 rfl rfl)
theorem dL_law_1292 : decode cL_law 1292 = .ok (.invokevirtual 160, 3) := dk_182 0 160 (dk_at dksL_law_51 11 rfl rfl)
theorem dL_law_1295 : decode cL_law 1295 = .ok (.istore 7, 2) := dk_54 7 (dk_at dksL_law_51 14 rfl rfl)
theorem dL_law_1297 : decode cL_law 1297 = .ok (.aload_n 2, 1) := dk_44 (dk_at dksL_law_51 16 rfl rfl)
theorem dL_law_1298 : decode cL_law 1298 = .ok (.invokevirtual 108, 3) := dk_182 0 108 (dk_at dksL_law_51 17 rfl rfl)
theorem dL_law_1301 : decode cL_law 1301 = .ok (.iload 6, 2) := dk_21 6 (dk_at dksL_law_51 20 rfl rfl)
theorem dL_law_1303 : decode cL_law 1303 = .ok (.if_icmp .eq 5, 3) := dk_159 0 5 (dk_at dksL_law_52 0 rfl rfl)
theorem dL_law_1306 : decode cL_law 1306 = .ok (.iconst 0, 1) := dk_3 (dk_at dksL_law_52 3 rfl rfl)
theorem dL_law_1307 : decode cL_law 1307 = .ok (.ireturn, 1) := dk_172 (dk_at dksL_law_52 4 rfl rfl)
theorem dL_law_1308 : decode cL_law 1308 = .ok (.iload 6, 2) := dk_21 6 (dk_at dksL_law_52 5 rfl rfl)
theorem dL_law_1310 : decode cL_law 1310 = .ok (.ifCond .ne 15, 3) := dk_154 0 15 (dk_at dksL_law_52 7 rfl rfl)
theorem dL_law_1313 : decode cL_law 1313 = .ok (.aload_n 3, 1) := dk_45 (dk_at dksL_law_52 10 rfl rfl)
theorem dL_law_1314 : decode cL_law 1314 = .ok (.iconst 0, 1) := dk_3 (dk_at dksL_law_52 11 rfl rfl)
theorem dL_law_1315 : decode cL_law 1315 = .ok (.laload, 1) := dk_47 (dk_at dksL_law_52 12 rfl rfl)
theorem dL_law_1316 : decode cL_law 1316 = .ok (.iload 7, 2) := dk_21 7 (dk_at dksL_law_52 13 rfl rfl)
theorem dL_law_1318 : decode cL_law 1318 = .ok (.i2l, 1) := dk_133 (dk_at dksL_law_52 15 rfl rfl)
theorem dL_law_1319 : decode cL_law 1319 = .ok (.lcmp, 1) := dk_148 (dk_at dksL_law_52 16 rfl rfl)
theorem dL_law_1320 : decode cL_law 1320 = .ok (.ifCond .eq 5, 3) := dk_153 0 5 (dk_at dksL_law_52 17 rfl rfl)
theorem dL_law_1323 : decode cL_law 1323 = .ok (.iconst 0, 1) := dk_3 (dk_at dksL_law_52 20 rfl rfl)
theorem dL_law_1324 : decode cL_law 1324 = .ok (.ireturn, 1) := dk_172 (dk_at dksL_law_52 21 rfl rfl)
theorem dL_law_1325 : decode cL_law 1325 = .ok (.goto 602, 3) := dk_167 2 90 (dk_at dksL_law_53 0 rfl rfl)
theorem dL_law_1328 : decode cL_law 1328 = .ok (.aload_n 1, 1) := dk_43 (dk_at dksL_law_53 3 rfl rfl)
theorem dL_law_1329 : decode cL_law 1329 = .ok (.aload_n 0, 1) := dk_42 (dk_at dksL_law_53 4 rfl rfl)
theorem dL_law_1330 : decode cL_law 1330 = .ok (.iload 5, 2) := dk_21 5 (dk_at dksL_law_53 5 rfl rfl)
theorem dL_law_1332 : decode cL_law 1332 = .ok (.iconst 1, 1) := dk_4 (dk_at dksL_law_53 7 rfl rfl)
theorem dL_law_1333 : decode cL_law 1333 = .ok (.iadd, 1) := dk_96 (dk_at dksL_law_53 8 rfl rfl)
theorem dL_law_1334 : decode cL_law 1334 = .ok (.iaload, 1) := dk_46 (dk_at dksL_law_53 9 rfl rfl)
theorem dL_law_1335 : decode cL_law 1335 = .ok (.aload_n 0, 1) := dk_42 (dk_at dksL_law_53 10 rfl rfl)
theorem dL_law_1336 : decode cL_law 1336 = .ok (.iload 5, 2) := dk_21 5 (dk_at dksL_law_53 11 rfl rfl)
theorem dL_law_1338 : decode cL_law 1338 = .ok (.iconst 2, 1) := dk_5 (dk_at dksL_law_53 13 rfl rfl)
theorem dL_law_1339 : decode cL_law 1339 = .ok (.iadd, 1) := dk_96 (dk_at dksL_law_53 14 rfl rfl)
theorem dL_law_1340 : decode cL_law 1340 = .ok (.iaload, 1) := dk_46 (dk_at dksL_law_53 15 rfl rfl)
theorem dL_law_1341 : decode cL_law 1341 = .ok (.aload_n 3, 1) := dk_45 (dk_at dksL_law_53 16 rfl rfl)
theorem dL_law_1342 : decode cL_law 1342 = .ok (.invokestatic 161, 3) := dk_184 0 161 (dk_at dksL_law_53 17 rfl rfl)
theorem dL_law_1345 : decode cL_law 1345 = .ok (.istore 6, 2) := dk_54 6 (dk_at dksL_law_53 20 rfl rfl)
theorem dL_law_1347 : decode cL_law 1347 = .ok (.aload_n 2, 1) := dk_44 (dk_at dksL_law_53 22 rfl rfl)
theorem dL_law_1348 : decode cL_law 1348 = .ok (.aload_n 0, 1) := dk_42 (dk_at dksL_law_53 23 rfl rfl)
theorem dL_law_1349 : decode cL_law 1349 = .ok (.iload 5, 2) := dk_21 5 (dk_at dksL_law_54 0 rfl rfl)
theorem dL_law_1351 : decode cL_law 1351 = .ok (.iconst 1, 1) := dk_4 (dk_at dksL_law_54 2 rfl rfl)
theorem dL_law_1352 : decode cL_law 1352 = .ok (.iadd, 1) := dk_96 (dk_at dksL_law_54 3 rfl rfl)
theorem dL_law_1353 : decode cL_law 1353 = .ok (.iaload, 1) := dk_46 (dk_at dksL_law_54 4 rfl rfl)
theorem dL_law_1354 : decode cL_law 1354 = .ok (.aload_n 0, 1) := dk_42 (dk_at dksL_law_54 5 rfl rfl)
theorem dL_law_1355 : decode cL_law 1355 = .ok (.iload 5, 2) := dk_21 5 (dk_at dksL_law_54 6 rfl rfl)
theorem dL_law_1357 : decode cL_law 1357 = .ok (.iconst 2, 1) := dk_5 (dk_at dksL_law_54 8 rfl rfl)
theorem dL_law_1358 : decode cL_law 1358 = .ok (.iadd, 1) := dk_96 (dk_at dksL_law_54 9 rfl rfl)
theorem dL_law_1359 : decode cL_law 1359 = .ok (.iaload, 1) := dk_46 (dk_at dksL_law_54 10 rfl rfl)
theorem dL_law_1360 : decode cL_law 1360 = .ok (.invokevirtual 163, 3) := dk_182 0 163 (dk_at dksL_law_54 11 rfl rfl)
theorem dL_law_1363 : decode cL_law 1363 = .ok (.istore 7, 2) := dk_54 7 (dk_at dksL_law_54 14 rfl rfl)
theorem dL_law_1365 : decode cL_law 1365 = .ok (.aload_n 2, 1) := dk_44 (dk_at dksL_law_54 16 rfl rfl)
theorem dL_law_1366 : decode cL_law 1366 = .ok (.invokevirtual 108, 3) := dk_182 0 108 (dk_at dksL_law_54 17 rfl rfl)
theorem dL_law_1369 : decode cL_law 1369 = .ok (.iload 6, 2) := dk_21 6 (dk_at dksL_law_54 20 rfl rfl)
theorem dL_law_1371 : decode cL_law 1371 = .ok (.if_icmp .eq 5, 3) := dk_159 0 5 (dk_at dksL_law_55 0 rfl rfl)
theorem dL_law_1374 : decode cL_law 1374 = .ok (.iconst 0, 1) := dk_3 (dk_at dksL_law_55 3 rfl rfl)
theorem dL_law_1375 : decode cL_law 1375 = .ok (.ireturn, 1) := dk_172 (dk_at dksL_law_55 4 rfl rfl)
theorem dL_law_1376 : decode cL_law 1376 = .ok (.iload 6, 2) := dk_21 6 (dk_at dksL_law_55 5 rfl rfl)
theorem dL_law_1378 : decode cL_law 1378 = .ok (.ifCond .ne 15, 3) := dk_154 0 15 (dk_at dksL_law_55 7 rfl rfl)
theorem dL_law_1381 : decode cL_law 1381 = .ok (.aload_n 3, 1) := dk_45 (dk_at dksL_law_55 10 rfl rfl)
theorem dL_law_1382 : decode cL_law 1382 = .ok (.iconst 0, 1) := dk_3 (dk_at dksL_law_55 11 rfl rfl)
theorem dL_law_1383 : decode cL_law 1383 = .ok (.laload, 1) := dk_47 (dk_at dksL_law_55 12 rfl rfl)
theorem dL_law_1384 : decode cL_law 1384 = .ok (.iload 7, 2) := dk_21 7 (dk_at dksL_law_55 13 rfl rfl)
theorem dL_law_1386 : decode cL_law 1386 = .ok (.i2l, 1) := dk_133 (dk_at dksL_law_55 15 rfl rfl)
theorem dL_law_1387 : decode cL_law 1387 = .ok (.lcmp, 1) := dk_148 (dk_at dksL_law_55 16 rfl rfl)
theorem dL_law_1388 : decode cL_law 1388 = .ok (.ifCond .eq 5, 3) := dk_153 0 5 (dk_at dksL_law_55 17 rfl rfl)
theorem dL_law_1391 : decode cL_law 1391 = .ok (.iconst 0, 1) := dk_3 (dk_at dksL_law_55 20 rfl rfl)
theorem dL_law_1392 : decode cL_law 1392 = .ok (.ireturn, 1) := dk_172 (dk_at dksL_law_55 21 rfl rfl)
theorem dL_law_1393 : decode cL_law 1393 = .ok (.goto 534, 3) := dk_167 2 22 (dk_at dksL_law_56 0 rfl rfl)
theorem dL_law_1396 : decode cL_law 1396 = .ok (.aload_n 1, 1) := dk_43 (dk_at dksL_law_56 3 rfl rfl)
theorem dL_law_1397 : decode cL_law 1397 = .ok (.aload_n 0, 1) := dk_42 (dk_at dksL_law_56 4 rfl rfl)
theorem dL_law_1398 : decode cL_law 1398 = .ok (.iload 5, 2) := dk_21 5 (dk_at dksL_law_56 5 rfl rfl)
theorem dL_law_1400 : decode cL_law 1400 = .ok (.iconst 1, 1) := dk_4 (dk_at dksL_law_56 7 rfl rfl)
theorem dL_law_1401 : decode cL_law 1401 = .ok (.iadd, 1) := dk_96 (dk_at dksL_law_56 8 rfl rfl)
theorem dL_law_1402 : decode cL_law 1402 = .ok (.iaload, 1) := dk_46 (dk_at dksL_law_56 9 rfl rfl)
theorem dL_law_1403 : decode cL_law 1403 = .ok (.aload_n 0, 1) := dk_42 (dk_at dksL_law_56 10 rfl rfl)
theorem dL_law_1404 : decode cL_law 1404 = .ok (.iload 5, 2) := dk_21 5 (dk_at dksL_law_56 11 rfl rfl)
theorem dL_law_1406 : decode cL_law 1406 = .ok (.iconst 2, 1) := dk_5 (dk_at dksL_law_56 13 rfl rfl)
theorem dL_law_1407 : decode cL_law 1407 = .ok (.iadd, 1) := dk_96 (dk_at dksL_law_56 14 rfl rfl)
theorem dL_law_1408 : decode cL_law 1408 = .ok (.iaload, 1) := dk_46 (dk_at dksL_law_56 15 rfl rfl)
theorem dL_law_1409 : decode cL_law 1409 = .ok (.aload_n 3, 1) := dk_45 (dk_at dksL_law_56 16 rfl rfl)
theorem dL_law_1410 : decode cL_law 1410 = .ok (.invokestatic 164, 3) := dk_184 0 164 (dk_at dksL_law_56 17 rfl rfl)
theorem dL_law_1413 : decode cL_law 1413 = .ok (.istore 6, 2) := dk_54 6 (dk_at dksL_law_56 20 rfl rfl)
theorem dL_law_1415 : decode cL_law 1415 = .ok (.aload_n 2, 1) := dk_44 (dk_at dksL_law_56 22 rfl rfl)
theorem dL_law_1416 : decode cL_law 1416 = .ok (.aload_n 0, 1) := dk_42 (dk_at dksL_law_56 23 rfl rfl)
theorem dL_law_1417 : decode cL_law 1417 = .ok (.iload 5, 2) := dk_21 5 (dk_at dksL_law_57 0 rfl rfl)
theorem dL_law_1419 : decode cL_law 1419 = .ok (.iconst 1, 1) := dk_4 (dk_at dksL_law_57 2 rfl rfl)
theorem dL_law_1420 : decode cL_law 1420 = .ok (.iadd, 1) := dk_96 (dk_at dksL_law_57 3 rfl rfl)
theorem dL_law_1421 : decode cL_law 1421 = .ok (.iaload, 1) := dk_46 (dk_at dksL_law_57 4 rfl rfl)
theorem dL_law_1422 : decode cL_law 1422 = .ok (.aload_n 0, 1) := dk_42 (dk_at dksL_law_57 5 rfl rfl)
theorem dL_law_1423 : decode cL_law 1423 = .ok (.iload 5, 2) := dk_21 5 (dk_at dksL_law_57 6 rfl rfl)
theorem dL_law_1425 : decode cL_law 1425 = .ok (.iconst 2, 1) := dk_5 (dk_at dksL_law_57 8 rfl rfl)
theorem dL_law_1426 : decode cL_law 1426 = .ok (.iadd, 1) := dk_96 (dk_at dksL_law_57 9 rfl rfl)
theorem dL_law_1427 : decode cL_law 1427 = .ok (.iaload, 1) := dk_46 (dk_at dksL_law_57 10 rfl rfl)
theorem dL_law_1428 : decode cL_law 1428 = .ok (.invokevirtual 166, 3) := dk_182 0 166 (dk_at dksL_law_57 11 rfl rfl)
theorem dL_law_1431 : decode cL_law 1431 = .ok (.istore 7, 2) := dk_54 7 (dk_at dksL_law_57 14 rfl rfl)
theorem dL_law_1433 : decode cL_law 1433 = .ok (.aload_n 2, 1) := dk_44 (dk_at dksL_law_57 16 rfl rfl)
theorem dL_law_1434 : decode cL_law 1434 = .ok (.invokevirtual 108, 3) := dk_182 0 108 (dk_at dksL_law_57 17 rfl rfl)
theorem dL_law_1437 : decode cL_law 1437 = .ok (.iload 6, 2) := dk_21 6 (dk_at dksL_law_57 20 rfl rfl)
theorem dL_law_1439 : decode cL_law 1439 = .ok (.if_icmp .eq 5, 3) := dk_159 0 5 (dk_at dksL_law_58 0 rfl rfl)
theorem dL_law_1442 : decode cL_law 1442 = .ok (.iconst 0, 1) := dk_3 (dk_at dksL_law_58 3 rfl rfl)
theorem dL_law_1443 : decode cL_law 1443 = .ok (.ireturn, 1) := dk_172 (dk_at dksL_law_58 4 rfl rfl)
theorem dL_law_1444 : decode cL_law 1444 = .ok (.iload 6, 2) := dk_21 6 (dk_at dksL_law_58 5 rfl rfl)
theorem dL_law_1446 : decode cL_law 1446 = .ok (.ifCond .ne 15, 3) := dk_154 0 15 (dk_at dksL_law_58 7 rfl rfl)
theorem dL_law_1449 : decode cL_law 1449 = .ok (.aload_n 3, 1) := dk_45 (dk_at dksL_law_58 10 rfl rfl)
theorem dL_law_1450 : decode cL_law 1450 = .ok (.iconst 0, 1) := dk_3 (dk_at dksL_law_58 11 rfl rfl)
theorem dL_law_1451 : decode cL_law 1451 = .ok (.laload, 1) := dk_47 (dk_at dksL_law_58 12 rfl rfl)
theorem dL_law_1452 : decode cL_law 1452 = .ok (.iload 7, 2) := dk_21 7 (dk_at dksL_law_58 13 rfl rfl)
theorem dL_law_1454 : decode cL_law 1454 = .ok (.i2l, 1) := dk_133 (dk_at dksL_law_58 15 rfl rfl)
theorem dL_law_1455 : decode cL_law 1455 = .ok (.lcmp, 1) := dk_148 (dk_at dksL_law_58 16 rfl rfl)
theorem dL_law_1456 : decode cL_law 1456 = .ok (.ifCond .eq 5, 3) := dk_153 0 5 (dk_at dksL_law_58 17 rfl rfl)
theorem dL_law_1459 : decode cL_law 1459 = .ok (.iconst 0, 1) := dk_3 (dk_at dksL_law_58 20 rfl rfl)
theorem dL_law_1460 : decode cL_law 1460 = .ok (.ireturn, 1) := dk_172 (dk_at dksL_law_58 21 rfl rfl)
theorem dL_law_1461 : decode cL_law 1461 = .ok (.goto 466, 3) := dk_167 1 210 (dk_at dksL_law_59 0 rfl rfl)
theorem dL_law_1464 : decode cL_law 1464 = .ok (.aload_n 1, 1) := dk_43 (dk_at dksL_law_59 3 rfl rfl)
theorem dL_law_1465 : decode cL_law 1465 = .ok (.aload_n 0, 1) := dk_42 (dk_at dksL_law_59 4 rfl rfl)
theorem dL_law_1466 : decode cL_law 1466 = .ok (.iload 5, 2) := dk_21 5 (dk_at dksL_law_59 5 rfl rfl)
theorem dL_law_1468 : decode cL_law 1468 = .ok (.iconst 1, 1) := dk_4 (dk_at dksL_law_59 7 rfl rfl)
theorem dL_law_1469 : decode cL_law 1469 = .ok (.iadd, 1) := dk_96 (dk_at dksL_law_59 8 rfl rfl)
theorem dL_law_1470 : decode cL_law 1470 = .ok (.iaload, 1) := dk_46 (dk_at dksL_law_59 9 rfl rfl)
theorem dL_law_1471 : decode cL_law 1471 = .ok (.aload_n 0, 1) := dk_42 (dk_at dksL_law_59 10 rfl rfl)
theorem dL_law_1472 : decode cL_law 1472 = .ok (.iload 5, 2) := dk_21 5 (dk_at dksL_law_59 11 rfl rfl)
theorem dL_law_1474 : decode cL_law 1474 = .ok (.iconst 2, 1) := dk_5 (dk_at dksL_law_59 13 rfl rfl)
theorem dL_law_1475 : decode cL_law 1475 = .ok (.iadd, 1) := dk_96 (dk_at dksL_law_59 14 rfl rfl)
theorem dL_law_1476 : decode cL_law 1476 = .ok (.iaload, 1) := dk_46 (dk_at dksL_law_59 15 rfl rfl)
theorem dL_law_1477 : decode cL_law 1477 = .ok (.aload_n 0, 1) := dk_42 (dk_at dksL_law_59 16 rfl rfl)
theorem dL_law_1478 : decode cL_law 1478 = .ok (.iload 5, 2) := dk_21 5 (dk_at dksL_law_59 17 rfl rfl)
theorem dL_law_1480 : decode cL_law 1480 = .ok (.iconst 3, 1) := dk_6 (dk_at dksL_law_59 19 rfl rfl)
theorem dL_law_1481 : decode cL_law 1481 = .ok (.iadd, 1) := dk_96 (dk_at dksL_law_59 20 rfl rfl)
theorem dL_law_1482 : decode cL_law 1482 = .ok (.iaload, 1) := dk_46 (dk_at dksL_law_59 21 rfl rfl)
theorem dL_law_1483 : decode cL_law 1483 = .ok (.aload_n 3, 1) := dk_45 (dk_at dksL_law_59 22 rfl rfl)
theorem dL_law_1484 : decode cL_law 1484 = .ok (.invokestatic 167, 3) := dk_184 0 167 (dk_at dksL_law_60 0 rfl rfl)
theorem dL_law_1487 : decode cL_law 1487 = .ok (.istore 6, 2) := dk_54 6 (dk_at dksL_law_60 3 rfl rfl)
theorem dL_law_1489 : decode cL_law 1489 = .ok (.aload_n 2, 1) := dk_44 (dk_at dksL_law_60 5 rfl rfl)
theorem dL_law_1490 : decode cL_law 1490 = .ok (.aload_n 0, 1) := dk_42 (dk_at dksL_law_60 6 rfl rfl)
theorem dL_law_1491 : decode cL_law 1491 = .ok (.iload 5, 2) := dk_21 5 (dk_at dksL_law_60 7 rfl rfl)
theorem dL_law_1493 : decode cL_law 1493 = .ok (.iconst 1, 1) := dk_4 (dk_at dksL_law_60 9 rfl rfl)
theorem dL_law_1494 : decode cL_law 1494 = .ok (.iadd, 1) := dk_96 (dk_at dksL_law_60 10 rfl rfl)
theorem dL_law_1495 : decode cL_law 1495 = .ok (.iaload, 1) := dk_46 (dk_at dksL_law_60 11 rfl rfl)
theorem dL_law_1496 : decode cL_law 1496 = .ok (.aload_n 0, 1) := dk_42 (dk_at dksL_law_60 12 rfl rfl)
theorem dL_law_1497 : decode cL_law 1497 = .ok (.iload 5, 2) := dk_21 5 (dk_at dksL_law_60 13 rfl rfl)
theorem dL_law_1499 : decode cL_law 1499 = .ok (.iconst 2, 1) := dk_5 (dk_at dksL_law_60 15 rfl rfl)
theorem dL_law_1500 : decode cL_law 1500 = .ok (.iadd, 1) := dk_96 (dk_at dksL_law_60 16 rfl rfl)
theorem dL_law_1501 : decode cL_law 1501 = .ok (.iaload, 1) := dk_46 (dk_at dksL_law_60 17 rfl rfl)
theorem dL_law_1502 : decode cL_law 1502 = .ok (.aload_n 0, 1) := dk_42 (dk_at dksL_law_60 18 rfl rfl)
theorem dL_law_1503 : decode cL_law 1503 = .ok (.iload 5, 2) := dk_21 5 (dk_at dksL_law_60 19 rfl rfl)
theorem dL_law_1505 : decode cL_law 1505 = .ok (.iconst 3, 1) := dk_6 (dk_at dksL_law_60 21 rfl rfl)
theorem dL_law_1506 : decode cL_law 1506 = .ok (.iadd, 1) := dk_96 (dk_at dksL_law_60 22 rfl rfl)
theorem dL_law_1507 : decode cL_law 1507 = .ok (.iaload, 1) := dk_46 (dk_at dksL_law_60 23 rfl rfl)
theorem dL_law_1508 : decode cL_law 1508 = .ok (.invokevirtual 169, 3) := dk_182 0 169 (dk_at dksL_law_61 0 rfl rfl)
theorem dL_law_1511 : decode cL_law 1511 = .ok (.istore 7, 2) := dk_54 7 (dk_at dksL_law_61 3 rfl rfl)
theorem dL_law_1513 : decode cL_law 1513 = .ok (.aload_n 2, 1) := dk_44 (dk_at dksL_law_61 5 rfl rfl)
theorem dL_law_1514 : decode cL_law 1514 = .ok (.invokevirtual 108, 3) := dk_182 0 108 (dk_at dksL_law_61 6 rfl rfl)
theorem dL_law_1517 : decode cL_law 1517 = .ok (.iload 6, 2) := dk_21 6 (dk_at dksL_law_61 9 rfl rfl)
theorem dL_law_1519 : decode cL_law 1519 = .ok (.if_icmp .eq 5, 3) := dk_159 0 5 (dk_at dksL_law_61 11 rfl rfl)
theorem dL_law_1522 : decode cL_law 1522 = .ok (.iconst 0, 1) := dk_3 (dk_at dksL_law_61 14 rfl rfl)
theorem dL_law_1523 : decode cL_law 1523 = .ok (.ireturn, 1) := dk_172 (dk_at dksL_law_61 15 rfl rfl)
theorem dL_law_1524 : decode cL_law 1524 = .ok (.iload 6, 2) := dk_21 6 (dk_at dksL_law_61 16 rfl rfl)
theorem dL_law_1526 : decode cL_law 1526 = .ok (.ifCond .ne 15, 3) := dk_154 0 15 (dk_at dksL_law_61 18 rfl rfl)
theorem dL_law_1529 : decode cL_law 1529 = .ok (.aload_n 3, 1) := dk_45 (dk_at dksL_law_61 21 rfl rfl)
theorem dL_law_1530 : decode cL_law 1530 = .ok (.iconst 0, 1) := dk_3 (dk_at dksL_law_61 22 rfl rfl)
theorem dL_law_1531 : decode cL_law 1531 = .ok (.laload, 1) := dk_47 (dk_at dksL_law_61 23 rfl rfl)
theorem dL_law_1532 : decode cL_law 1532 = .ok (.iload 7, 2) := dk_21 7 (dk_at dksL_law_62 0 rfl rfl)
theorem dL_law_1534 : decode cL_law 1534 = .ok (.i2l, 1) := dk_133 (dk_at dksL_law_62 2 rfl rfl)
theorem dL_law_1535 : decode cL_law 1535 = .ok (.lcmp, 1) := dk_148 (dk_at dksL_law_62 3 rfl rfl)
theorem dL_law_1536 : decode cL_law 1536 = .ok (.ifCond .eq 5, 3) := dk_153 0 5 (dk_at dksL_law_62 4 rfl rfl)
theorem dL_law_1539 : decode cL_law 1539 = .ok (.iconst 0, 1) := dk_3 (dk_at dksL_law_62 7 rfl rfl)
theorem dL_law_1540 : decode cL_law 1540 = .ok (.ireturn, 1) := dk_172 (dk_at dksL_law_62 8 rfl rfl)
theorem dL_law_1541 : decode cL_law 1541 = .ok (.goto 386, 3) := dk_167 1 130 (dk_at dksL_law_62 9 rfl rfl)
theorem dL_law_1544 : decode cL_law 1544 = .ok (.aload_n 1, 1) := dk_43 (dk_at dksL_law_62 12 rfl rfl)
theorem dL_law_1545 : decode cL_law 1545 = .ok (.aload_n 0, 1) := dk_42 (dk_at dksL_law_62 13 rfl rfl)
theorem dL_law_1546 : decode cL_law 1546 = .ok (.iload 5, 2) := dk_21 5 (dk_at dksL_law_62 14 rfl rfl)
theorem dL_law_1548 : decode cL_law 1548 = .ok (.iconst 1, 1) := dk_4 (dk_at dksL_law_62 16 rfl rfl)
theorem dL_law_1549 : decode cL_law 1549 = .ok (.iadd, 1) := dk_96 (dk_at dksL_law_62 17 rfl rfl)
theorem dL_law_1550 : decode cL_law 1550 = .ok (.iaload, 1) := dk_46 (dk_at dksL_law_62 18 rfl rfl)
theorem dL_law_1551 : decode cL_law 1551 = .ok (.aload_n 0, 1) := dk_42 (dk_at dksL_law_62 19 rfl rfl)
theorem dL_law_1552 : decode cL_law 1552 = .ok (.iload 5, 2) := dk_21 5 (dk_at dksL_law_62 20 rfl rfl)
theorem dL_law_1554 : decode cL_law 1554 = .ok (.iconst 2, 1) := dk_5 (dk_at dksL_law_62 22 rfl rfl)
theorem dL_law_1555 : decode cL_law 1555 = .ok (.iadd, 1) := dk_96 (dk_at dksL_law_62 23 rfl rfl)
theorem dL_law_1556 : decode cL_law 1556 = .ok (.iaload, 1) := dk_46 (dk_at dksL_law_63 0 rfl rfl)
theorem dL_law_1557 : decode cL_law 1557 = .ok (.aload_n 3, 1) := dk_45 (dk_at dksL_law_63 1 rfl rfl)
theorem dL_law_1558 : decode cL_law 1558 = .ok (.invokestatic 170, 3) := dk_184 0 170 (dk_at dksL_law_63 2 rfl rfl)
theorem dL_law_1561 : decode cL_law 1561 = .ok (.istore 6, 2) := dk_54 6 (dk_at dksL_law_63 5 rfl rfl)
theorem dL_law_1563 : decode cL_law 1563 = .ok (.aload_n 2, 1) := dk_44 (dk_at dksL_law_63 7 rfl rfl)
theorem dL_law_1564 : decode cL_law 1564 = .ok (.aload_n 0, 1) := dk_42 (dk_at dksL_law_63 8 rfl rfl)
theorem dL_law_1565 : decode cL_law 1565 = .ok (.iload 5, 2) := dk_21 5 (dk_at dksL_law_63 9 rfl rfl)
theorem dL_law_1567 : decode cL_law 1567 = .ok (.iconst 1, 1) := dk_4 (dk_at dksL_law_63 11 rfl rfl)
theorem dL_law_1568 : decode cL_law 1568 = .ok (.iadd, 1) := dk_96 (dk_at dksL_law_63 12 rfl rfl)
theorem dL_law_1569 : decode cL_law 1569 = .ok (.iaload, 1) := dk_46 (dk_at dksL_law_63 13 rfl rfl)
theorem dL_law_1570 : decode cL_law 1570 = .ok (.aload_n 0, 1) := dk_42 (dk_at dksL_law_63 14 rfl rfl)
theorem dL_law_1571 : decode cL_law 1571 = .ok (.iload 5, 2) := dk_21 5 (dk_at dksL_law_63 15 rfl rfl)
theorem dL_law_1573 : decode cL_law 1573 = .ok (.iconst 2, 1) := dk_5 (dk_at dksL_law_63 17 rfl rfl)
theorem dL_law_1574 : decode cL_law 1574 = .ok (.iadd, 1) := dk_96 (dk_at dksL_law_63 18 rfl rfl)
theorem dL_law_1575 : decode cL_law 1575 = .ok (.iaload, 1) := dk_46 (dk_at dksL_law_63 19 rfl rfl)
theorem dL_law_1576 : decode cL_law 1576 = .ok (.invokevirtual 172, 3) := dk_182 0 172 (dk_at dksL_law_63 20 rfl rfl)
theorem dL_law_1579 : decode cL_law 1579 = .ok (.istore 7, 2) := dk_54 7 (dk_at dksL_law_64 0 rfl rfl)
theorem dL_law_1581 : decode cL_law 1581 = .ok (.aload_n 2, 1) := dk_44 (dk_at dksL_law_64 2 rfl rfl)
theorem dL_law_1582 : decode cL_law 1582 = .ok (.invokevirtual 108, 3) := dk_182 0 108 (dk_at dksL_law_64 3 rfl rfl)
theorem dL_law_1585 : decode cL_law 1585 = .ok (.iload 6, 2) := dk_21 6 (dk_at dksL_law_64 6 rfl rfl)
theorem dL_law_1587 : decode cL_law 1587 = .ok (.if_icmp .eq 5, 3) := dk_159 0 5 (dk_at dksL_law_64 8 rfl rfl)
theorem dL_law_1590 : decode cL_law 1590 = .ok (.iconst 0, 1) := dk_3 (dk_at dksL_law_64 11 rfl rfl)
theorem dL_law_1591 : decode cL_law 1591 = .ok (.ireturn, 1) := dk_172 (dk_at dksL_law_64 12 rfl rfl)
theorem dL_law_1592 : decode cL_law 1592 = .ok (.iload 6, 2) := dk_21 6 (dk_at dksL_law_64 13 rfl rfl)
theorem dL_law_1594 : decode cL_law 1594 = .ok (.ifCond .ne 15, 3) := dk_154 0 15 (dk_at dksL_law_64 15 rfl rfl)
theorem dL_law_1597 : decode cL_law 1597 = .ok (.aload_n 3, 1) := dk_45 (dk_at dksL_law_64 18 rfl rfl)
theorem dL_law_1598 : decode cL_law 1598 = .ok (.iconst 0, 1) := dk_3 (dk_at dksL_law_64 19 rfl rfl)
theorem dL_law_1599 : decode cL_law 1599 = .ok (.laload, 1) := dk_47 (dk_at dksL_law_64 20 rfl rfl)
theorem dL_law_1600 : decode cL_law 1600 = .ok (.iload 7, 2) := dk_21 7 (dk_at dksL_law_64 21 rfl rfl)
theorem dL_law_1602 : decode cL_law 1602 = .ok (.i2l, 1) := dk_133 (dk_at dksL_law_64 23 rfl rfl)
theorem dL_law_1603 : decode cL_law 1603 = .ok (.lcmp, 1) := dk_148 (dk_at dksL_law_65 0 rfl rfl)
theorem dL_law_1604 : decode cL_law 1604 = .ok (.ifCond .eq 5, 3) := dk_153 0 5 (dk_at dksL_law_65 1 rfl rfl)
theorem dL_law_1607 : decode cL_law 1607 = .ok (.iconst 0, 1) := dk_3 (dk_at dksL_law_65 4 rfl rfl)
theorem dL_law_1608 : decode cL_law 1608 = .ok (.ireturn, 1) := dk_172 (dk_at dksL_law_65 5 rfl rfl)
theorem dL_law_1609 : decode cL_law 1609 = .ok (.goto 318, 3) := dk_167 1 62 (dk_at dksL_law_65 6 rfl rfl)
theorem dL_law_1612 : decode cL_law 1612 = .ok (.aload_n 1, 1) := dk_43 (dk_at dksL_law_65 9 rfl rfl)
theorem dL_law_1613 : decode cL_law 1613 = .ok (.aload_n 0, 1) := dk_42 (dk_at dksL_law_65 10 rfl rfl)
theorem dL_law_1614 : decode cL_law 1614 = .ok (.iload 5, 2) := dk_21 5 (dk_at dksL_law_65 11 rfl rfl)
theorem dL_law_1616 : decode cL_law 1616 = .ok (.iconst 1, 1) := dk_4 (dk_at dksL_law_65 13 rfl rfl)
theorem dL_law_1617 : decode cL_law 1617 = .ok (.iadd, 1) := dk_96 (dk_at dksL_law_65 14 rfl rfl)
theorem dL_law_1618 : decode cL_law 1618 = .ok (.iaload, 1) := dk_46 (dk_at dksL_law_65 15 rfl rfl)
theorem dL_law_1619 : decode cL_law 1619 = .ok (.aload_n 0, 1) := dk_42 (dk_at dksL_law_65 16 rfl rfl)
theorem dL_law_1620 : decode cL_law 1620 = .ok (.iload 5, 2) := dk_21 5 (dk_at dksL_law_65 17 rfl rfl)
theorem dL_law_1622 : decode cL_law 1622 = .ok (.iconst 2, 1) := dk_5 (dk_at dksL_law_65 19 rfl rfl)
theorem dL_law_1623 : decode cL_law 1623 = .ok (.iadd, 1) := dk_96 (dk_at dksL_law_65 20 rfl rfl)
theorem dL_law_1624 : decode cL_law 1624 = .ok (.iaload, 1) := dk_46 (dk_at dksL_law_65 21 rfl rfl)
theorem dL_law_1625 : decode cL_law 1625 = .ok (.aload_n 3, 1) := dk_45 (dk_at dksL_law_65 22 rfl rfl)
theorem dL_law_1626 : decode cL_law 1626 = .ok (.invokestatic 173, 3) := dk_184 0 173 (dk_at dksL_law_66 0 rfl rfl)
theorem dL_law_1629 : decode cL_law 1629 = .ok (.istore 6, 2) := dk_54 6 (dk_at dksL_law_66 3 rfl rfl)
theorem dL_law_1631 : decode cL_law 1631 = .ok (.aload_n 2, 1) := dk_44 (dk_at dksL_law_66 5 rfl rfl)
theorem dL_law_1632 : decode cL_law 1632 = .ok (.aload_n 0, 1) := dk_42 (dk_at dksL_law_66 6 rfl rfl)
theorem dL_law_1633 : decode cL_law 1633 = .ok (.iload 5, 2) := dk_21 5 (dk_at dksL_law_66 7 rfl rfl)
theorem dL_law_1635 : decode cL_law 1635 = .ok (.iconst 1, 1) := dk_4 (dk_at dksL_law_66 9 rfl rfl)
theorem dL_law_1636 : decode cL_law 1636 = .ok (.iadd, 1) := dk_96 (dk_at dksL_law_66 10 rfl rfl)
theorem dL_law_1637 : decode cL_law 1637 = .ok (.iaload, 1) := dk_46 (dk_at dksL_law_66 11 rfl rfl)
theorem dL_law_1638 : decode cL_law 1638 = .ok (.aload_n 0, 1) := dk_42 (dk_at dksL_law_66 12 rfl rfl)
theorem dL_law_1639 : decode cL_law 1639 = .ok (.iload 5, 2) := dk_21 5 (dk_at dksL_law_66 13 rfl rfl)
theorem dL_law_1641 : decode cL_law 1641 = .ok (.iconst 2, 1) := dk_5 (dk_at dksL_law_66 15 rfl rfl)
theorem dL_law_1642 : decode cL_law 1642 = .ok (.iadd, 1) := dk_96 (dk_at dksL_law_66 16 rfl rfl)
theorem dL_law_1643 : decode cL_law 1643 = .ok (.iaload, 1) := dk_46 (dk_at dksL_law_66 17 rfl rfl)
theorem dL_law_1644 : decode cL_law 1644 = .ok (.invokevirtual 175, 3) := dk_182 0 175 (dk_at dksL_law_66 18 rfl rfl)
theorem dL_law_1647 : decode cL_law 1647 = .ok (.lstore 7, 2) := dk_55 7 (dk_at dksL_law_66 21 rfl rfl)
theorem dL_law_1649 : decode cL_law 1649 = .ok (.aload_n 2, 1) := dk_44 (dk_at dksL_law_66 23 rfl rfl)
theorem dL_law_1650 : decode cL_law 1650 = .ok (.invokevirtual 108, 3) := dk_182 0 108 (dk_at dksL_law_67 0 rfl rfl)
theorem dL_law_1653 : decode cL_law 1653 = .ok (.iload 6, 2) := dk_21 6 (dk_at dksL_law_67 3 rfl rfl)
theorem dL_law_1655 : decode cL_law 1655 = .ok (.if_icmp .eq 5, 3) := dk_159 0 5 (dk_at dksL_law_67 5 rfl rfl)
theorem dL_law_1658 : decode cL_law 1658 = .ok (.iconst 0, 1) := dk_3 (dk_at dksL_law_67 8 rfl rfl)
theorem dL_law_1659 : decode cL_law 1659 = .ok (.ireturn, 1) := dk_172 (dk_at dksL_law_67 9 rfl rfl)
theorem dL_law_1660 : decode cL_law 1660 = .ok (.iload 6, 2) := dk_21 6 (dk_at dksL_law_67 10 rfl rfl)
theorem dL_law_1662 : decode cL_law 1662 = .ok (.ifCond .ne 14, 3) := dk_154 0 14 (dk_at dksL_law_67 12 rfl rfl)
theorem dL_law_1665 : decode cL_law 1665 = .ok (.aload_n 3, 1) := dk_45 (dk_at dksL_law_67 15 rfl rfl)
theorem dL_law_1666 : decode cL_law 1666 = .ok (.iconst 0, 1) := dk_3 (dk_at dksL_law_67 16 rfl rfl)
theorem dL_law_1667 : decode cL_law 1667 = .ok (.laload, 1) := dk_47 (dk_at dksL_law_67 17 rfl rfl)
theorem dL_law_1668 : decode cL_law 1668 = .ok (.lload 7, 2) := dk_22 7 (dk_at dksL_law_67 18 rfl rfl)
theorem dL_law_1670 : decode cL_law 1670 = .ok (.lcmp, 1) := dk_148 (dk_at dksL_law_67 20 rfl rfl)
theorem dL_law_1671 : decode cL_law 1671 = .ok (.ifCond .eq 5, 3) := dk_153 0 5 (dk_at dksL_law_67 21 rfl rfl)
theorem dL_law_1674 : decode cL_law 1674 = .ok (.iconst 0, 1) := dk_3 (dk_at dksL_law_68 0 rfl rfl)
theorem dL_law_1675 : decode cL_law 1675 = .ok (.ireturn, 1) := dk_172 (dk_at dksL_law_68 1 rfl rfl)
theorem dL_law_1676 : decode cL_law 1676 = .ok (.goto 251, 3) := dk_167 0 251 (dk_at dksL_law_68 2 rfl rfl)
theorem dL_law_1679 : decode cL_law 1679 = .ok (.aload_n 1, 1) := dk_43 (dk_at dksL_law_68 5 rfl rfl)
theorem dL_law_1680 : decode cL_law 1680 = .ok (.aload_n 0, 1) := dk_42 (dk_at dksL_law_68 6 rfl rfl)
theorem dL_law_1681 : decode cL_law 1681 = .ok (.iload 5, 2) := dk_21 5 (dk_at dksL_law_68 7 rfl rfl)
theorem dL_law_1683 : decode cL_law 1683 = .ok (.iconst 1, 1) := dk_4 (dk_at dksL_law_68 9 rfl rfl)
theorem dL_law_1684 : decode cL_law 1684 = .ok (.iadd, 1) := dk_96 (dk_at dksL_law_68 10 rfl rfl)
theorem dL_law_1685 : decode cL_law 1685 = .ok (.iaload, 1) := dk_46 (dk_at dksL_law_68 11 rfl rfl)
theorem dL_law_1686 : decode cL_law 1686 = .ok (.aload_n 3, 1) := dk_45 (dk_at dksL_law_68 12 rfl rfl)
theorem dL_law_1687 : decode cL_law 1687 = .ok (.invokestatic 176, 3) := dk_184 0 176 (dk_at dksL_law_68 13 rfl rfl)
theorem dL_law_1690 : decode cL_law 1690 = .ok (.istore 6, 2) := dk_54 6 (dk_at dksL_law_68 16 rfl rfl)
theorem dL_law_1692 : decode cL_law 1692 = .ok (.aload_n 2, 1) := dk_44 (dk_at dksL_law_68 18 rfl rfl)
theorem dL_law_1693 : decode cL_law 1693 = .ok (.aload_n 0, 1) := dk_42 (dk_at dksL_law_68 19 rfl rfl)
theorem dL_law_1694 : decode cL_law 1694 = .ok (.iload 5, 2) := dk_21 5 (dk_at dksL_law_68 20 rfl rfl)
theorem dL_law_1696 : decode cL_law 1696 = .ok (.iconst 1, 1) := dk_4 (dk_at dksL_law_68 22 rfl rfl)
theorem dL_law_1697 : decode cL_law 1697 = .ok (.iadd, 1) := dk_96 (dk_at dksL_law_68 23 rfl rfl)
theorem dL_law_1698 : decode cL_law 1698 = .ok (.iaload, 1) := dk_46 (dk_at dksL_law_69 0 rfl rfl)
theorem dL_law_1699 : decode cL_law 1699 = .ok (.invokevirtual 178, 3) := dk_182 0 178 (dk_at dksL_law_69 1 rfl rfl)
theorem dL_law_1702 : decode cL_law 1702 = .ok (.istore 7, 2) := dk_54 7 (dk_at dksL_law_69 4 rfl rfl)
theorem dL_law_1704 : decode cL_law 1704 = .ok (.aload_n 2, 1) := dk_44 (dk_at dksL_law_69 6 rfl rfl)
theorem dL_law_1705 : decode cL_law 1705 = .ok (.invokevirtual 108, 3) := dk_182 0 108 (dk_at dksL_law_69 7 rfl rfl)
theorem dL_law_1708 : decode cL_law 1708 = .ok (.iload 6, 2) := dk_21 6 (dk_at dksL_law_69 10 rfl rfl)
theorem dL_law_1710 : decode cL_law 1710 = .ok (.if_icmp .eq 5, 3) := dk_159 0 5 (dk_at dksL_law_69 12 rfl rfl)
theorem dL_law_1713 : decode cL_law 1713 = .ok (.iconst 0, 1) := dk_3 (dk_at dksL_law_69 15 rfl rfl)
theorem dL_law_1714 : decode cL_law 1714 = .ok (.ireturn, 1) := dk_172 (dk_at dksL_law_69 16 rfl rfl)
theorem dL_law_1715 : decode cL_law 1715 = .ok (.iload 6, 2) := dk_21 6 (dk_at dksL_law_69 17 rfl rfl)
theorem dL_law_1717 : decode cL_law 1717 = .ok (.ifCond .ne 15, 3) := dk_154 0 15 (dk_at dksL_law_69 19 rfl rfl)
theorem dL_law_1720 : decode cL_law 1720 = .ok (.aload_n 3, 1) := dk_45 (dk_at dksL_law_69 22 rfl rfl)
theorem dL_law_1721 : decode cL_law 1721 = .ok (.iconst 0, 1) := dk_3 (dk_at dksL_law_69 23 rfl rfl)
theorem dL_law_1722 : decode cL_law 1722 = .ok (.laload, 1) := dk_47 (dk_at dksL_law_70 0 rfl rfl)
theorem dL_law_1723 : decode cL_law 1723 = .ok (.iload 7, 2) := dk_21 7 (dk_at dksL_law_70 1 rfl rfl)
theorem dL_law_1725 : decode cL_law 1725 = .ok (.i2l, 1) := dk_133 (dk_at dksL_law_70 3 rfl rfl)
theorem dL_law_1726 : decode cL_law 1726 = .ok (.lcmp, 1) := dk_148 (dk_at dksL_law_70 4 rfl rfl)
theorem dL_law_1727 : decode cL_law 1727 = .ok (.ifCond .eq 5, 3) := dk_153 0 5 (dk_at dksL_law_70 5 rfl rfl)
theorem dL_law_1730 : decode cL_law 1730 = .ok (.iconst 0, 1) := dk_3 (dk_at dksL_law_70 8 rfl rfl)
theorem dL_law_1731 : decode cL_law 1731 = .ok (.ireturn, 1) := dk_172 (dk_at dksL_law_70 9 rfl rfl)
theorem dL_law_1732 : decode cL_law 1732 = .ok (.goto 195, 3) := dk_167 0 195 (dk_at dksL_law_70 10 rfl rfl)
theorem dL_law_1735 : decode cL_law 1735 = .ok (.aload_n 1, 1) := dk_43 (dk_at dksL_law_70 13 rfl rfl)
theorem dL_law_1736 : decode cL_law 1736 = .ok (.aload_n 0, 1) := dk_42 (dk_at dksL_law_70 14 rfl rfl)
theorem dL_law_1737 : decode cL_law 1737 = .ok (.iload 5, 2) := dk_21 5 (dk_at dksL_law_70 15 rfl rfl)
theorem dL_law_1739 : decode cL_law 1739 = .ok (.iconst 1, 1) := dk_4 (dk_at dksL_law_70 17 rfl rfl)
theorem dL_law_1740 : decode cL_law 1740 = .ok (.iadd, 1) := dk_96 (dk_at dksL_law_70 18 rfl rfl)
theorem dL_law_1741 : decode cL_law 1741 = .ok (.iaload, 1) := dk_46 (dk_at dksL_law_70 19 rfl rfl)
theorem dL_law_1742 : decode cL_law 1742 = .ok (.aload_n 0, 1) := dk_42 (dk_at dksL_law_70 20 rfl rfl)
theorem dL_law_1743 : decode cL_law 1743 = .ok (.iload 5, 2) := dk_21 5 (dk_at dksL_law_70 21 rfl rfl)
theorem dL_law_1745 : decode cL_law 1745 = .ok (.iconst 2, 1) := dk_5 (dk_at dksL_law_70 23 rfl rfl)
theorem dL_law_1746 : decode cL_law 1746 = .ok (.iadd, 1) := dk_96 (dk_at dksL_law_71 0 rfl rfl)
theorem dL_law_1747 : decode cL_law 1747 = .ok (.iaload, 1) := dk_46 (dk_at dksL_law_71 1 rfl rfl)
theorem dL_law_1748 : decode cL_law 1748 = .ok (.aload_n 3, 1) := dk_45 (dk_at dksL_law_71 2 rfl rfl)
theorem dL_law_1749 : decode cL_law 1749 = .ok (.invokestatic 179, 3) := dk_184 0 179 (dk_at dksL_law_71 3 rfl rfl)
theorem dL_law_1752 : decode cL_law 1752 = .ok (.istore 6, 2) := dk_54 6 (dk_at dksL_law_71 6 rfl rfl)
theorem dL_law_1754 : decode cL_law 1754 = .ok (.aload_n 2, 1) := dk_44 (dk_at dksL_law_71 8 rfl rfl)
theorem dL_law_1755 : decode cL_law 1755 = .ok (.aload_n 0, 1) := dk_42 (dk_at dksL_law_71 9 rfl rfl)
theorem dL_law_1756 : decode cL_law 1756 = .ok (.iload 5, 2) := dk_21 5 (dk_at dksL_law_71 10 rfl rfl)
theorem dL_law_1758 : decode cL_law 1758 = .ok (.iconst 1, 1) := dk_4 (dk_at dksL_law_71 12 rfl rfl)
theorem dL_law_1759 : decode cL_law 1759 = .ok (.iadd, 1) := dk_96 (dk_at dksL_law_71 13 rfl rfl)
theorem dL_law_1760 : decode cL_law 1760 = .ok (.iaload, 1) := dk_46 (dk_at dksL_law_71 14 rfl rfl)
theorem dL_law_1761 : decode cL_law 1761 = .ok (.aload_n 0, 1) := dk_42 (dk_at dksL_law_71 15 rfl rfl)
theorem dL_law_1762 : decode cL_law 1762 = .ok (.iload 5, 2) := dk_21 5 (dk_at dksL_law_71 16 rfl rfl)
theorem dL_law_1764 : decode cL_law 1764 = .ok (.iconst 2, 1) := dk_5 (dk_at dksL_law_71 18 rfl rfl)
theorem dL_law_1765 : decode cL_law 1765 = .ok (.iadd, 1) := dk_96 (dk_at dksL_law_71 19 rfl rfl)
theorem dL_law_1766 : decode cL_law 1766 = .ok (.iaload, 1) := dk_46 (dk_at dksL_law_71 20 rfl rfl)
theorem dL_law_1767 : decode cL_law 1767 = .ok (.invokevirtual 181, 3) := dk_182 0 181 (dk_at dksL_law_71 21 rfl rfl)
theorem dL_law_1770 : decode cL_law 1770 = .ok (.istore 7, 2) := dk_54 7 (dk_at dksL_law_72 0 rfl rfl)
theorem dL_law_1772 : decode cL_law 1772 = .ok (.aload_n 2, 1) := dk_44 (dk_at dksL_law_72 2 rfl rfl)
theorem dL_law_1773 : decode cL_law 1773 = .ok (.invokevirtual 108, 3) := dk_182 0 108 (dk_at dksL_law_72 3 rfl rfl)
theorem dL_law_1776 : decode cL_law 1776 = .ok (.iload 6, 2) := dk_21 6 (dk_at dksL_law_72 6 rfl rfl)
theorem dL_law_1778 : decode cL_law 1778 = .ok (.if_icmp .eq 5, 3) := dk_159 0 5 (dk_at dksL_law_72 8 rfl rfl)
theorem dL_law_1781 : decode cL_law 1781 = .ok (.iconst 0, 1) := dk_3 (dk_at dksL_law_72 11 rfl rfl)
theorem dL_law_1782 : decode cL_law 1782 = .ok (.ireturn, 1) := dk_172 (dk_at dksL_law_72 12 rfl rfl)
theorem dL_law_1783 : decode cL_law 1783 = .ok (.iload 6, 2) := dk_21 6 (dk_at dksL_law_72 13 rfl rfl)
theorem dL_law_1785 : decode cL_law 1785 = .ok (.ifCond .ne 15, 3) := dk_154 0 15 (dk_at dksL_law_72 15 rfl rfl)
theorem dL_law_1788 : decode cL_law 1788 = .ok (.aload_n 3, 1) := dk_45 (dk_at dksL_law_72 18 rfl rfl)
theorem dL_law_1789 : decode cL_law 1789 = .ok (.iconst 0, 1) := dk_3 (dk_at dksL_law_72 19 rfl rfl)
theorem dL_law_1790 : decode cL_law 1790 = .ok (.laload, 1) := dk_47 (dk_at dksL_law_72 20 rfl rfl)
theorem dL_law_1791 : decode cL_law 1791 = .ok (.iload 7, 2) := dk_21 7 (dk_at dksL_law_72 21 rfl rfl)
theorem dL_law_1793 : decode cL_law 1793 = .ok (.i2l, 1) := dk_133 (dk_at dksL_law_72 23 rfl rfl)
theorem dL_law_1794 : decode cL_law 1794 = .ok (.lcmp, 1) := dk_148 (dk_at dksL_law_73 0 rfl rfl)
theorem dL_law_1795 : decode cL_law 1795 = .ok (.ifCond .eq 5, 3) := dk_153 0 5 (dk_at dksL_law_73 1 rfl rfl)
theorem dL_law_1798 : decode cL_law 1798 = .ok (.iconst 0, 1) := dk_3 (dk_at dksL_law_73 4 rfl rfl)
theorem dL_law_1799 : decode cL_law 1799 = .ok (.ireturn, 1) := dk_172 (dk_at dksL_law_73 5 rfl rfl)
theorem dL_law_1800 : decode cL_law 1800 = .ok (.goto 127, 3) := dk_167 0 127 (dk_at dksL_law_73 6 rfl rfl)
theorem dL_law_1803 : decode cL_law 1803 = .ok (.aload_n 1, 1) := dk_43 (dk_at dksL_law_73 9 rfl rfl)
theorem dL_law_1804 : decode cL_law 1804 = .ok (.aload_n 0, 1) := dk_42 (dk_at dksL_law_73 10 rfl rfl)
theorem dL_law_1805 : decode cL_law 1805 = .ok (.iload 5, 2) := dk_21 5 (dk_at dksL_law_73 11 rfl rfl)
theorem dL_law_1807 : decode cL_law 1807 = .ok (.iconst 1, 1) := dk_4 (dk_at dksL_law_73 13 rfl rfl)
theorem dL_law_1808 : decode cL_law 1808 = .ok (.iadd, 1) := dk_96 (dk_at dksL_law_73 14 rfl rfl)
theorem dL_law_1809 : decode cL_law 1809 = .ok (.iaload, 1) := dk_46 (dk_at dksL_law_73 15 rfl rfl)
theorem dL_law_1810 : decode cL_law 1810 = .ok (.aload_n 0, 1) := dk_42 (dk_at dksL_law_73 16 rfl rfl)
theorem dL_law_1811 : decode cL_law 1811 = .ok (.iload 5, 2) := dk_21 5 (dk_at dksL_law_73 17 rfl rfl)
theorem dL_law_1813 : decode cL_law 1813 = .ok (.iconst 2, 1) := dk_5 (dk_at dksL_law_73 19 rfl rfl)
theorem dL_law_1814 : decode cL_law 1814 = .ok (.iadd, 1) := dk_96 (dk_at dksL_law_73 20 rfl rfl)
theorem dL_law_1815 : decode cL_law 1815 = .ok (.iaload, 1) := dk_46 (dk_at dksL_law_73 21 rfl rfl)
theorem dL_law_1816 : decode cL_law 1816 = .ok (.aload_n 3, 1) := dk_45 (dk_at dksL_law_73 22 rfl rfl)
theorem dL_law_1817 : decode cL_law 1817 = .ok (.invokestatic 182, 3) := dk_184 0 182 (dk_at dksL_law_74 0 rfl rfl)
theorem dL_law_1820 : decode cL_law 1820 = .ok (.istore 6, 2) := dk_54 6 (dk_at dksL_law_74 3 rfl rfl)
theorem dL_law_1822 : decode cL_law 1822 = .ok (.aload_n 2, 1) := dk_44 (dk_at dksL_law_74 5 rfl rfl)
theorem dL_law_1823 : decode cL_law 1823 = .ok (.aload_n 0, 1) := dk_42 (dk_at dksL_law_74 6 rfl rfl)
theorem dL_law_1824 : decode cL_law 1824 = .ok (.iload 5, 2) := dk_21 5 (dk_at dksL_law_74 7 rfl rfl)
theorem dL_law_1826 : decode cL_law 1826 = .ok (.iconst 1, 1) := dk_4 (dk_at dksL_law_74 9 rfl rfl)
theorem dL_law_1827 : decode cL_law 1827 = .ok (.iadd, 1) := dk_96 (dk_at dksL_law_74 10 rfl rfl)
theorem dL_law_1828 : decode cL_law 1828 = .ok (.iaload, 1) := dk_46 (dk_at dksL_law_74 11 rfl rfl)
theorem dL_law_1829 : decode cL_law 1829 = .ok (.aload_n 0, 1) := dk_42 (dk_at dksL_law_74 12 rfl rfl)
theorem dL_law_1830 : decode cL_law 1830 = .ok (.iload 5, 2) := dk_21 5 (dk_at dksL_law_74 13 rfl rfl)
theorem dL_law_1832 : decode cL_law 1832 = .ok (.iconst 2, 1) := dk_5 (dk_at dksL_law_74 15 rfl rfl)
theorem dL_law_1833 : decode cL_law 1833 = .ok (.iadd, 1) := dk_96 (dk_at dksL_law_74 16 rfl rfl)
theorem dL_law_1834 : decode cL_law 1834 = .ok (.iaload, 1) := dk_46 (dk_at dksL_law_74 17 rfl rfl)
theorem dL_law_1835 : decode cL_law 1835 = .ok (.invokevirtual 184, 3) := dk_182 0 184 (dk_at dksL_law_74 18 rfl rfl)
theorem dL_law_1838 : decode cL_law 1838 = .ok (.istore 7, 2) := dk_54 7 (dk_at dksL_law_74 21 rfl rfl)
theorem dL_law_1840 : decode cL_law 1840 = .ok (.aload_n 2, 1) := dk_44 (dk_at dksL_law_74 23 rfl rfl)
theorem dL_law_1841 : decode cL_law 1841 = .ok (.invokevirtual 108, 3) := dk_182 0 108 (dk_at dksL_law_75 0 rfl rfl)
theorem dL_law_1844 : decode cL_law 1844 = .ok (.iload 6, 2) := dk_21 6 (dk_at dksL_law_75 3 rfl rfl)
theorem dL_law_1846 : decode cL_law 1846 = .ok (.if_icmp .eq 5, 3) := dk_159 0 5 (dk_at dksL_law_75 5 rfl rfl)
theorem dL_law_1849 : decode cL_law 1849 = .ok (.iconst 0, 1) := dk_3 (dk_at dksL_law_75 8 rfl rfl)
theorem dL_law_1850 : decode cL_law 1850 = .ok (.ireturn, 1) := dk_172 (dk_at dksL_law_75 9 rfl rfl)
theorem dL_law_1851 : decode cL_law 1851 = .ok (.iload 6, 2) := dk_21 6 (dk_at dksL_law_75 10 rfl rfl)
theorem dL_law_1853 : decode cL_law 1853 = .ok (.ifCond .ne 15, 3) := dk_154 0 15 (dk_at dksL_law_75 12 rfl rfl)
theorem dL_law_1856 : decode cL_law 1856 = .ok (.aload_n 3, 1) := dk_45 (dk_at dksL_law_75 15 rfl rfl)
theorem dL_law_1857 : decode cL_law 1857 = .ok (.iconst 0, 1) := dk_3 (dk_at dksL_law_75 16 rfl rfl)
theorem dL_law_1858 : decode cL_law 1858 = .ok (.laload, 1) := dk_47 (dk_at dksL_law_75 17 rfl rfl)
theorem dL_law_1859 : decode cL_law 1859 = .ok (.iload 7, 2) := dk_21 7 (dk_at dksL_law_75 18 rfl rfl)
theorem dL_law_1861 : decode cL_law 1861 = .ok (.i2l, 1) := dk_133 (dk_at dksL_law_75 20 rfl rfl)
theorem dL_law_1862 : decode cL_law 1862 = .ok (.lcmp, 1) := dk_148 (dk_at dksL_law_75 21 rfl rfl)
theorem dL_law_1863 : decode cL_law 1863 = .ok (.ifCond .eq 5, 3) := dk_153 0 5 (dk_at dksL_law_76 0 rfl rfl)
theorem dL_law_1866 : decode cL_law 1866 = .ok (.iconst 0, 1) := dk_3 (dk_at dksL_law_76 3 rfl rfl)
theorem dL_law_1867 : decode cL_law 1867 = .ok (.ireturn, 1) := dk_172 (dk_at dksL_law_76 4 rfl rfl)
theorem dL_law_1868 : decode cL_law 1868 = .ok (.goto 59, 3) := dk_167 0 59 (dk_at dksL_law_76 5 rfl rfl)
theorem dL_law_1871 : decode cL_law 1871 = .ok (.aload_n 1, 1) := dk_43 (dk_at dksL_law_76 8 rfl rfl)
theorem dL_law_1872 : decode cL_law 1872 = .ok (.aload_n 0, 1) := dk_42 (dk_at dksL_law_76 9 rfl rfl)
theorem dL_law_1873 : decode cL_law 1873 = .ok (.iload 5, 2) := dk_21 5 (dk_at dksL_law_76 10 rfl rfl)
theorem dL_law_1875 : decode cL_law 1875 = .ok (.iconst 1, 1) := dk_4 (dk_at dksL_law_76 12 rfl rfl)
theorem dL_law_1876 : decode cL_law 1876 = .ok (.iadd, 1) := dk_96 (dk_at dksL_law_76 13 rfl rfl)
theorem dL_law_1877 : decode cL_law 1877 = .ok (.iaload, 1) := dk_46 (dk_at dksL_law_76 14 rfl rfl)
theorem dL_law_1878 : decode cL_law 1878 = .ok (.aload_n 3, 1) := dk_45 (dk_at dksL_law_76 15 rfl rfl)
theorem dL_law_1879 : decode cL_law 1879 = .ok (.invokestatic 185, 3) := dk_184 0 185 (dk_at dksL_law_76 16 rfl rfl)
theorem dL_law_1882 : decode cL_law 1882 = .ok (.istore 6, 2) := dk_54 6 (dk_at dksL_law_76 19 rfl rfl)
theorem dL_law_1884 : decode cL_law 1884 = .ok (.aload_n 2, 1) := dk_44 (dk_at dksL_law_76 21 rfl rfl)
theorem dL_law_1885 : decode cL_law 1885 = .ok (.aload_n 0, 1) := dk_42 (dk_at dksL_law_76 22 rfl rfl)
theorem dL_law_1886 : decode cL_law 1886 = .ok (.iload 5, 2) := dk_21 5 (dk_at dksL_law_77 0 rfl rfl)
theorem dL_law_1888 : decode cL_law 1888 = .ok (.iconst 1, 1) := dk_4 (dk_at dksL_law_77 2 rfl rfl)
theorem dL_law_1889 : decode cL_law 1889 = .ok (.iadd, 1) := dk_96 (dk_at dksL_law_77 3 rfl rfl)
theorem dL_law_1890 : decode cL_law 1890 = .ok (.iaload, 1) := dk_46 (dk_at dksL_law_77 4 rfl rfl)
theorem dL_law_1891 : decode cL_law 1891 = .ok (.invokevirtual 187, 3) := dk_182 0 187 (dk_at dksL_law_77 5 rfl rfl)
theorem dL_law_1894 : decode cL_law 1894 = .ok (.istore 7, 2) := dk_54 7 (dk_at dksL_law_77 8 rfl rfl)
theorem dL_law_1896 : decode cL_law 1896 = .ok (.aload_n 2, 1) := dk_44 (dk_at dksL_law_77 10 rfl rfl)
theorem dL_law_1897 : decode cL_law 1897 = .ok (.invokevirtual 108, 3) := dk_182 0 108 (dk_at dksL_law_77 11 rfl rfl)
theorem dL_law_1900 : decode cL_law 1900 = .ok (.iload 6, 2) := dk_21 6 (dk_at dksL_law_77 14 rfl rfl)
theorem dL_law_1902 : decode cL_law 1902 = .ok (.if_icmp .eq 5, 3) := dk_159 0 5 (dk_at dksL_law_77 16 rfl rfl)
theorem dL_law_1905 : decode cL_law 1905 = .ok (.iconst 0, 1) := dk_3 (dk_at dksL_law_77 19 rfl rfl)
theorem dL_law_1906 : decode cL_law 1906 = .ok (.ireturn, 1) := dk_172 (dk_at dksL_law_77 20 rfl rfl)
theorem dL_law_1907 : decode cL_law 1907 = .ok (.iload 6, 2) := dk_21 6 (dk_at dksL_law_77 21 rfl rfl)
theorem dL_law_1909 : decode cL_law 1909 = .ok (.ifCond .ne 15, 3) := dk_154 0 15 (dk_at dksL_law_78 0 rfl rfl)
theorem dL_law_1912 : decode cL_law 1912 = .ok (.aload_n 3, 1) := dk_45 (dk_at dksL_law_78 3 rfl rfl)
theorem dL_law_1913 : decode cL_law 1913 = .ok (.iconst 0, 1) := dk_3 (dk_at dksL_law_78 4 rfl rfl)
theorem dL_law_1914 : decode cL_law 1914 = .ok (.laload, 1) := dk_47 (dk_at dksL_law_78 5 rfl rfl)
theorem dL_law_1915 : decode cL_law 1915 = .ok (.iload 7, 2) := dk_21 7 (dk_at dksL_law_78 6 rfl rfl)
theorem dL_law_1917 : decode cL_law 1917 = .ok (.i2l, 1) := dk_133 (dk_at dksL_law_78 8 rfl rfl)
theorem dL_law_1918 : decode cL_law 1918 = .ok (.lcmp, 1) := dk_148 (dk_at dksL_law_78 9 rfl rfl)
theorem dL_law_1919 : decode cL_law 1919 = .ok (.ifCond .eq 5, 3) := dk_153 0 5 (dk_at dksL_law_78 10 rfl rfl)
theorem dL_law_1922 : decode cL_law 1922 = .ok (.iconst 0, 1) := dk_3 (dk_at dksL_law_78 13 rfl rfl)
theorem dL_law_1923 : decode cL_law 1923 = .ok (.ireturn, 1) := dk_172 (dk_at dksL_law_78 14 rfl rfl)
theorem dL_law_1924 : decode cL_law 1924 = .ok (.goto 3, 3) := dk_167 0 3 (dk_at dksL_law_78 15 rfl rfl)
theorem dL_law_1927 : decode cL_law 1927 = .ok (.iinc 5 5, 3) := dk_132 5 5 (dk_at dksL_law_78 18 rfl rfl)
theorem dL_law_1930 : decode cL_law 1930 = .ok (.goto (-1902), 3) := dk_167 248 146 (dk_at dksL_law_78 21 rfl rfl)
theorem dL_law_1933 : decode cL_law 1933 = .ok (.iconst 1, 1) := dk_4 (dk_at dksL_law_79 0 rfl rfl)
theorem dL_law_1934 : decode cL_law 1934 = .ok (.ireturn, 1) := dk_172 (dk_at dksL_law_79 1 rfl rfl)
/-! CountcoteLaw -/
set_option maxRecDepth 100000
def RX0 : String := "CountcoteLaw"
abbrev cX0_add : ByteArray := method_3_code
def yX0_add : MethodName := ⟨RX0, "add", "(LCountcote;III[J)I"⟩
def dkwX0_add_1 : List UInt8 := [58, 5, 6, 172, 3, 172]
abbrev dktX0_add_1 : List UInt8 := dkwX0_add_1 ++ []
def dkwX0_add_0 : List UInt8 := [25, 4, 3, 42, 27, 28, 29, 182, 0, 7, 133, 80, 167, 0, 15, 58, 5, 4, 172, 58, 5, 5, 172]
abbrev dktX0_add_0 : List UInt8 := dkwX0_add_0 ++ dktX0_add_1
theorem dksX0_add_0 : cX0_add.data.toList.drop 0 = dktX0_add_0 := by decide +kernel
theorem dksX0_add_1 : cX0_add.data.toList.drop 23 = dktX0_add_1 := dk_seg dksX0_add_0 23 rfl rfl
theorem dX0_add_0 : decode cX0_add 0 = .ok (.aload 4, 2) := dk_25 4 (dk_at dksX0_add_0 0 rfl rfl)
theorem dX0_add_2 : decode cX0_add 2 = .ok (.iconst 0, 1) := dk_3 (dk_at dksX0_add_0 2 rfl rfl)
theorem dX0_add_3 : decode cX0_add 3 = .ok (.aload_n 0, 1) := dk_42 (dk_at dksX0_add_0 3 rfl rfl)
theorem dX0_add_4 : decode cX0_add 4 = .ok (.iload_n 1, 1) := dk_27 (dk_at dksX0_add_0 4 rfl rfl)
theorem dX0_add_5 : decode cX0_add 5 = .ok (.iload_n 2, 1) := dk_28 (dk_at dksX0_add_0 5 rfl rfl)
theorem dX0_add_6 : decode cX0_add 6 = .ok (.iload_n 3, 1) := dk_29 (dk_at dksX0_add_0 6 rfl rfl)
theorem dX0_add_7 : decode cX0_add 7 = .ok (.invokevirtual 7, 3) := dk_182 0 7 (dk_at dksX0_add_0 7 rfl rfl)
theorem dX0_add_10 : decode cX0_add 10 = .ok (.i2l, 1) := dk_133 (dk_at dksX0_add_0 10 rfl rfl)
theorem dX0_add_11 : decode cX0_add 11 = .ok (.lastore, 1) := dk_80 (dk_at dksX0_add_0 11 rfl rfl)
theorem dX0_add_12 : decode cX0_add 12 = .ok (.goto 15, 3) := dk_167 0 15 (dk_at dksX0_add_0 12 rfl rfl)
theorem dX0_add_15 : decode cX0_add 15 = .ok (.astore 5, 2) := dk_58 5 (dk_at dksX0_add_0 15 rfl rfl)
theorem dX0_add_17 : decode cX0_add 17 = .ok (.iconst 1, 1) := dk_4 (dk_at dksX0_add_0 17 rfl rfl)
theorem dX0_add_18 : decode cX0_add 18 = .ok (.ireturn, 1) := dk_172 (dk_at dksX0_add_0 18 rfl rfl)
theorem dX0_add_19 : decode cX0_add 19 = .ok (.astore 5, 2) := dk_58 5 (dk_at dksX0_add_0 19 rfl rfl)
theorem dX0_add_21 : decode cX0_add 21 = .ok (.iconst 2, 1) := dk_5 (dk_at dksX0_add_0 21 rfl rfl)
theorem dX0_add_22 : decode cX0_add 22 = .ok (.ireturn, 1) := dk_172 (dk_at dksX0_add_0 22 rfl rfl)
theorem dX0_add_23 : decode cX0_add 23 = .ok (.astore 5, 2) := dk_58 5 (dk_at dksX0_add_1 0 rfl rfl)
theorem dX0_add_25 : decode cX0_add 25 = .ok (.iconst 3, 1) := dk_6 (dk_at dksX0_add_1 2 rfl rfl)
theorem dX0_add_26 : decode cX0_add 26 = .ok (.ireturn, 1) := dk_172 (dk_at dksX0_add_1 3 rfl rfl)
theorem dX0_add_27 : decode cX0_add 27 = .ok (.iconst 0, 1) := dk_3 (dk_at dksX0_add_1 4 rfl rfl)
theorem dX0_add_28 : decode cX0_add 28 = .ok (.ireturn, 1) := dk_172 (dk_at dksX0_add_1 5 rfl rfl)
abbrev cX0_merge : ByteArray := method_4_code
def yX0_merge : MethodName := ⟨RX0, "merge", "(LCountcote;II[J)I"⟩
def dkwX0_merge_1 : List UInt8 := [172, 3, 172]
abbrev dktX0_merge_1 : List UInt8 := dkwX0_merge_1 ++ []
def dkwX0_merge_0 : List UInt8 := [45, 3, 42, 27, 28, 182, 0, 19, 133, 80, 167, 0, 15, 58, 4, 4, 172, 58, 4, 5, 172, 58, 4, 6]
abbrev dktX0_merge_0 : List UInt8 := dkwX0_merge_0 ++ dktX0_merge_1
theorem dksX0_merge_0 : cX0_merge.data.toList.drop 0 = dktX0_merge_0 := by decide +kernel
theorem dksX0_merge_1 : cX0_merge.data.toList.drop 24 = dktX0_merge_1 := dk_seg dksX0_merge_0 24 rfl rfl
theorem dX0_merge_0 : decode cX0_merge 0 = .ok (.aload_n 3, 1) := dk_45 (dk_at dksX0_merge_0 0 rfl rfl)
theorem dX0_merge_1 : decode cX0_merge 1 = .ok (.iconst 0, 1) := dk_3 (dk_at dksX0_merge_0 1 rfl rfl)
theorem dX0_merge_2 : decode cX0_merge 2 = .ok (.aload_n 0, 1) := dk_42 (dk_at dksX0_merge_0 2 rfl rfl)
theorem dX0_merge_3 : decode cX0_merge 3 = .ok (.iload_n 1, 1) := dk_27 (dk_at dksX0_merge_0 3 rfl rfl)
theorem dX0_merge_4 : decode cX0_merge 4 = .ok (.iload_n 2, 1) := dk_28 (dk_at dksX0_merge_0 4 rfl rfl)
theorem dX0_merge_5 : decode cX0_merge 5 = .ok (.invokevirtual 19, 3) := dk_182 0 19 (dk_at dksX0_merge_0 5 rfl rfl)
theorem dX0_merge_8 : decode cX0_merge 8 = .ok (.i2l, 1) := dk_133 (dk_at dksX0_merge_0 8 rfl rfl)
theorem dX0_merge_9 : decode cX0_merge 9 = .ok (.lastore, 1) := dk_80 (dk_at dksX0_merge_0 9 rfl rfl)
theorem dX0_merge_10 : decode cX0_merge 10 = .ok (.goto 15, 3) := dk_167 0 15 (dk_at dksX0_merge_0 10 rfl rfl)
theorem dX0_merge_13 : decode cX0_merge 13 = .ok (.astore 4, 2) := dk_58 4 (dk_at dksX0_merge_0 13 rfl rfl)
theorem dX0_merge_15 : decode cX0_merge 15 = .ok (.iconst 1, 1) := dk_4 (dk_at dksX0_merge_0 15 rfl rfl)
theorem dX0_merge_16 : decode cX0_merge 16 = .ok (.ireturn, 1) := dk_172 (dk_at dksX0_merge_0 16 rfl rfl)
theorem dX0_merge_17 : decode cX0_merge 17 = .ok (.astore 4, 2) := dk_58 4 (dk_at dksX0_merge_0 17 rfl rfl)
theorem dX0_merge_19 : decode cX0_merge 19 = .ok (.iconst 2, 1) := dk_5 (dk_at dksX0_merge_0 19 rfl rfl)
theorem dX0_merge_20 : decode cX0_merge 20 = .ok (.ireturn, 1) := dk_172 (dk_at dksX0_merge_0 20 rfl rfl)
theorem dX0_merge_21 : decode cX0_merge 21 = .ok (.astore 4, 2) := dk_58 4 (dk_at dksX0_merge_0 21 rfl rfl)
theorem dX0_merge_23 : decode cX0_merge 23 = .ok (.iconst 3, 1) := dk_6 (dk_at dksX0_merge_0 23 rfl rfl)
theorem dX0_merge_24 : decode cX0_merge 24 = .ok (.ireturn, 1) := dk_172 (dk_at dksX0_merge_1 0 rfl rfl)
theorem dX0_merge_25 : decode cX0_merge 25 = .ok (.iconst 0, 1) := dk_3 (dk_at dksX0_merge_1 1 rfl rfl)
theorem dX0_merge_26 : decode cX0_merge 26 = .ok (.ireturn, 1) := dk_172 (dk_at dksX0_merge_1 2 rfl rfl)
abbrev cX0_clear : ByteArray := method_5_code
def yX0_clear : MethodName := ⟨RX0, "clear", "(LCountcote;I[J)I"⟩
def dkwX0_clear_0 : List UInt8 := [44, 3, 42, 27, 182, 0, 23, 133, 80, 167, 0, 6, 78, 4, 172, 3, 172]
abbrev dktX0_clear_0 : List UInt8 := dkwX0_clear_0 ++ []
theorem dksX0_clear_0 : cX0_clear.data.toList.drop 0 = dktX0_clear_0 := by decide +kernel
theorem dX0_clear_0 : decode cX0_clear 0 = .ok (.aload_n 2, 1) := dk_44 (dk_at dksX0_clear_0 0 rfl rfl)
theorem dX0_clear_1 : decode cX0_clear 1 = .ok (.iconst 0, 1) := dk_3 (dk_at dksX0_clear_0 1 rfl rfl)
theorem dX0_clear_2 : decode cX0_clear 2 = .ok (.aload_n 0, 1) := dk_42 (dk_at dksX0_clear_0 2 rfl rfl)
theorem dX0_clear_3 : decode cX0_clear 3 = .ok (.iload_n 1, 1) := dk_27 (dk_at dksX0_clear_0 3 rfl rfl)
theorem dX0_clear_4 : decode cX0_clear 4 = .ok (.invokevirtual 23, 3) := dk_182 0 23 (dk_at dksX0_clear_0 4 rfl rfl)
theorem dX0_clear_7 : decode cX0_clear 7 = .ok (.i2l, 1) := dk_133 (dk_at dksX0_clear_0 7 rfl rfl)
theorem dX0_clear_8 : decode cX0_clear 8 = .ok (.lastore, 1) := dk_80 (dk_at dksX0_clear_0 8 rfl rfl)
theorem dX0_clear_9 : decode cX0_clear 9 = .ok (.goto 6, 3) := dk_167 0 6 (dk_at dksX0_clear_0 9 rfl rfl)
theorem dX0_clear_12 : decode cX0_clear 12 = .ok (.astore_n 3, 1) := dk_78 (dk_at dksX0_clear_0 12 rfl rfl)
theorem dX0_clear_13 : decode cX0_clear 13 = .ok (.iconst 1, 1) := dk_4 (dk_at dksX0_clear_0 13 rfl rfl)
theorem dX0_clear_14 : decode cX0_clear 14 = .ok (.ireturn, 1) := dk_172 (dk_at dksX0_clear_0 14 rfl rfl)
theorem dX0_clear_15 : decode cX0_clear 15 = .ok (.iconst 0, 1) := dk_3 (dk_at dksX0_clear_0 15 rfl rfl)
theorem dX0_clear_16 : decode cX0_clear 16 = .ok (.ireturn, 1) := dk_172 (dk_at dksX0_clear_0 16 rfl rfl)
abbrev cX0_total : ByteArray := method_6_code
def yX0_total : MethodName := ⟨RX0, "total", "(LCountcote;I[J)I"⟩
def dkwX0_total_0 : List UInt8 := [44, 3, 42, 27, 182, 0, 27, 133, 80, 167, 0, 6, 78, 4, 172, 3, 172]
abbrev dktX0_total_0 : List UInt8 := dkwX0_total_0 ++ []
theorem dksX0_total_0 : cX0_total.data.toList.drop 0 = dktX0_total_0 := by decide +kernel
theorem dX0_total_0 : decode cX0_total 0 = .ok (.aload_n 2, 1) := dk_44 (dk_at dksX0_total_0 0 rfl rfl)
theorem dX0_total_1 : decode cX0_total 1 = .ok (.iconst 0, 1) := dk_3 (dk_at dksX0_total_0 1 rfl rfl)
theorem dX0_total_2 : decode cX0_total 2 = .ok (.aload_n 0, 1) := dk_42 (dk_at dksX0_total_0 2 rfl rfl)
theorem dX0_total_3 : decode cX0_total 3 = .ok (.iload_n 1, 1) := dk_27 (dk_at dksX0_total_0 3 rfl rfl)
theorem dX0_total_4 : decode cX0_total 4 = .ok (.invokevirtual 27, 3) := dk_182 0 27 (dk_at dksX0_total_0 4 rfl rfl)
theorem dX0_total_7 : decode cX0_total 7 = .ok (.i2l, 1) := dk_133 (dk_at dksX0_total_0 7 rfl rfl)
theorem dX0_total_8 : decode cX0_total 8 = .ok (.lastore, 1) := dk_80 (dk_at dksX0_total_0 8 rfl rfl)
theorem dX0_total_9 : decode cX0_total 9 = .ok (.goto 6, 3) := dk_167 0 6 (dk_at dksX0_total_0 9 rfl rfl)
theorem dX0_total_12 : decode cX0_total 12 = .ok (.astore_n 3, 1) := dk_78 (dk_at dksX0_total_0 12 rfl rfl)
theorem dX0_total_13 : decode cX0_total 13 = .ok (.iconst 1, 1) := dk_4 (dk_at dksX0_total_0 13 rfl rfl)
theorem dX0_total_14 : decode cX0_total 14 = .ok (.ireturn, 1) := dk_172 (dk_at dksX0_total_0 14 rfl rfl)
theorem dX0_total_15 : decode cX0_total 15 = .ok (.iconst 0, 1) := dk_3 (dk_at dksX0_total_0 15 rfl rfl)
theorem dX0_total_16 : decode cX0_total 16 = .ok (.ireturn, 1) := dk_172 (dk_at dksX0_total_0 16 rfl rfl)
abbrev cX0_count : ByteArray := method_7_code
def yX0_count : MethodName := ⟨RX0, "count", "(LCountcote;II[J)I"⟩
def dkwX0_count_0 : List UInt8 := [45, 3, 42, 27, 28, 182, 0, 30, 133, 80, 167, 0, 7, 58, 4, 4, 172, 3, 172]
abbrev dktX0_count_0 : List UInt8 := dkwX0_count_0 ++ []
theorem dksX0_count_0 : cX0_count.data.toList.drop 0 = dktX0_count_0 := by decide +kernel
theorem dX0_count_0 : decode cX0_count 0 = .ok (.aload_n 3, 1) := dk_45 (dk_at dksX0_count_0 0 rfl rfl)
theorem dX0_count_1 : decode cX0_count 1 = .ok (.iconst 0, 1) := dk_3 (dk_at dksX0_count_0 1 rfl rfl)
theorem dX0_count_2 : decode cX0_count 2 = .ok (.aload_n 0, 1) := dk_42 (dk_at dksX0_count_0 2 rfl rfl)
theorem dX0_count_3 : decode cX0_count 3 = .ok (.iload_n 1, 1) := dk_27 (dk_at dksX0_count_0 3 rfl rfl)
theorem dX0_count_4 : decode cX0_count 4 = .ok (.iload_n 2, 1) := dk_28 (dk_at dksX0_count_0 4 rfl rfl)
theorem dX0_count_5 : decode cX0_count 5 = .ok (.invokevirtual 30, 3) := dk_182 0 30 (dk_at dksX0_count_0 5 rfl rfl)
theorem dX0_count_8 : decode cX0_count 8 = .ok (.i2l, 1) := dk_133 (dk_at dksX0_count_0 8 rfl rfl)
theorem dX0_count_9 : decode cX0_count 9 = .ok (.lastore, 1) := dk_80 (dk_at dksX0_count_0 9 rfl rfl)
theorem dX0_count_10 : decode cX0_count 10 = .ok (.goto 7, 3) := dk_167 0 7 (dk_at dksX0_count_0 10 rfl rfl)
theorem dX0_count_13 : decode cX0_count 13 = .ok (.astore 4, 2) := dk_58 4 (dk_at dksX0_count_0 13 rfl rfl)
theorem dX0_count_15 : decode cX0_count 15 = .ok (.iconst 1, 1) := dk_4 (dk_at dksX0_count_0 15 rfl rfl)
theorem dX0_count_16 : decode cX0_count 16 = .ok (.ireturn, 1) := dk_172 (dk_at dksX0_count_0 16 rfl rfl)
theorem dX0_count_17 : decode cX0_count 17 = .ok (.iconst 0, 1) := dk_3 (dk_at dksX0_count_0 17 rfl rfl)
theorem dX0_count_18 : decode cX0_count 18 = .ok (.ireturn, 1) := dk_172 (dk_at dksX0_count_0 18 rfl rfl)
abbrev cX0_countOfRange : ByteArray := method_8_code
def yX0_countOfRange : MethodName := ⟨RX0, "countOfRange", "(LCountcote;III[J)I"⟩
def dkwX0_countOfRange_1 : List UInt8 := [172]
abbrev dktX0_countOfRange_1 : List UInt8 := dkwX0_countOfRange_1 ++ []
def dkwX0_countOfRange_0 : List UInt8 := [25, 4, 3, 42, 27, 28, 29, 182, 0, 33, 133, 80, 167, 0, 11, 58, 5, 4, 172, 58, 5, 5, 172, 3]
abbrev dktX0_countOfRange_0 : List UInt8 := dkwX0_countOfRange_0 ++ dktX0_countOfRange_1
theorem dksX0_countOfRange_0 : cX0_countOfRange.data.toList.drop 0 = dktX0_countOfRange_0 := by decide +kernel
theorem dksX0_countOfRange_1 : cX0_countOfRange.data.toList.drop 24 = dktX0_countOfRange_1 := dk_seg dksX0_countOfRange_0 24 rfl rfl
theorem dX0_countOfRange_0 : decode cX0_countOfRange 0 = .ok (.aload 4, 2) := dk_25 4 (dk_at dksX0_countOfRange_0 0 rfl rfl)
theorem dX0_countOfRange_2 : decode cX0_countOfRange 2 = .ok (.iconst 0, 1) := dk_3 (dk_at dksX0_countOfRange_0 2 rfl rfl)
theorem dX0_countOfRange_3 : decode cX0_countOfRange 3 = .ok (.aload_n 0, 1) := dk_42 (dk_at dksX0_countOfRange_0 3 rfl rfl)
theorem dX0_countOfRange_4 : decode cX0_countOfRange 4 = .ok (.iload_n 1, 1) := dk_27 (dk_at dksX0_countOfRange_0 4 rfl rfl)
theorem dX0_countOfRange_5 : decode cX0_countOfRange 5 = .ok (.iload_n 2, 1) := dk_28 (dk_at dksX0_countOfRange_0 5 rfl rfl)
theorem dX0_countOfRange_6 : decode cX0_countOfRange 6 = .ok (.iload_n 3, 1) := dk_29 (dk_at dksX0_countOfRange_0 6 rfl rfl)
theorem dX0_countOfRange_7 : decode cX0_countOfRange 7 = .ok (.invokevirtual 33, 3) := dk_182 0 33 (dk_at dksX0_countOfRange_0 7 rfl rfl)
theorem dX0_countOfRange_10 : decode cX0_countOfRange 10 = .ok (.i2l, 1) := dk_133 (dk_at dksX0_countOfRange_0 10 rfl rfl)
theorem dX0_countOfRange_11 : decode cX0_countOfRange 11 = .ok (.lastore, 1) := dk_80 (dk_at dksX0_countOfRange_0 11 rfl rfl)
theorem dX0_countOfRange_12 : decode cX0_countOfRange 12 = .ok (.goto 11, 3) := dk_167 0 11 (dk_at dksX0_countOfRange_0 12 rfl rfl)
theorem dX0_countOfRange_15 : decode cX0_countOfRange 15 = .ok (.astore 5, 2) := dk_58 5 (dk_at dksX0_countOfRange_0 15 rfl rfl)
theorem dX0_countOfRange_17 : decode cX0_countOfRange 17 = .ok (.iconst 1, 1) := dk_4 (dk_at dksX0_countOfRange_0 17 rfl rfl)
theorem dX0_countOfRange_18 : decode cX0_countOfRange 18 = .ok (.ireturn, 1) := dk_172 (dk_at dksX0_countOfRange_0 18 rfl rfl)
theorem dX0_countOfRange_19 : decode cX0_countOfRange 19 = .ok (.astore 5, 2) := dk_58 5 (dk_at dksX0_countOfRange_0 19 rfl rfl)
theorem dX0_countOfRange_21 : decode cX0_countOfRange 21 = .ok (.iconst 2, 1) := dk_5 (dk_at dksX0_countOfRange_0 21 rfl rfl)
theorem dX0_countOfRange_22 : decode cX0_countOfRange 22 = .ok (.ireturn, 1) := dk_172 (dk_at dksX0_countOfRange_0 22 rfl rfl)
theorem dX0_countOfRange_23 : decode cX0_countOfRange 23 = .ok (.iconst 0, 1) := dk_3 (dk_at dksX0_countOfRange_0 23 rfl rfl)
theorem dX0_countOfRange_24 : decode cX0_countOfRange 24 = .ok (.ireturn, 1) := dk_172 (dk_at dksX0_countOfRange_1 0 rfl rfl)
abbrev cX0_product : ByteArray := method_9_code
def yX0_product : MethodName := ⟨RX0, "product", "(LCountcote;II[J)I"⟩
def dkwX0_product_0 : List UInt8 := [45, 3, 42, 27, 28, 182, 0, 36, 80, 167, 0, 7, 58, 4, 4, 172, 3, 172]
abbrev dktX0_product_0 : List UInt8 := dkwX0_product_0 ++ []
theorem dksX0_product_0 : cX0_product.data.toList.drop 0 = dktX0_product_0 := by decide +kernel
theorem dX0_product_0 : decode cX0_product 0 = .ok (.aload_n 3, 1) := dk_45 (dk_at dksX0_product_0 0 rfl rfl)
theorem dX0_product_1 : decode cX0_product 1 = .ok (.iconst 0, 1) := dk_3 (dk_at dksX0_product_0 1 rfl rfl)
theorem dX0_product_2 : decode cX0_product 2 = .ok (.aload_n 0, 1) := dk_42 (dk_at dksX0_product_0 2 rfl rfl)
theorem dX0_product_3 : decode cX0_product 3 = .ok (.iload_n 1, 1) := dk_27 (dk_at dksX0_product_0 3 rfl rfl)
theorem dX0_product_4 : decode cX0_product 4 = .ok (.iload_n 2, 1) := dk_28 (dk_at dksX0_product_0 4 rfl rfl)
theorem dX0_product_5 : decode cX0_product 5 = .ok (.invokevirtual 36, 3) := dk_182 0 36 (dk_at dksX0_product_0 5 rfl rfl)
theorem dX0_product_8 : decode cX0_product 8 = .ok (.lastore, 1) := dk_80 (dk_at dksX0_product_0 8 rfl rfl)
theorem dX0_product_9 : decode cX0_product 9 = .ok (.goto 7, 3) := dk_167 0 7 (dk_at dksX0_product_0 9 rfl rfl)
theorem dX0_product_12 : decode cX0_product 12 = .ok (.astore 4, 2) := dk_58 4 (dk_at dksX0_product_0 12 rfl rfl)
theorem dX0_product_14 : decode cX0_product 14 = .ok (.iconst 1, 1) := dk_4 (dk_at dksX0_product_0 14 rfl rfl)
theorem dX0_product_15 : decode cX0_product 15 = .ok (.ireturn, 1) := dk_172 (dk_at dksX0_product_0 15 rfl rfl)
theorem dX0_product_16 : decode cX0_product 16 = .ok (.iconst 0, 1) := dk_3 (dk_at dksX0_product_0 16 rfl rfl)
theorem dX0_product_17 : decode cX0_product 17 = .ok (.ireturn, 1) := dk_172 (dk_at dksX0_product_0 17 rfl rfl)
abbrev cX0_column : ByteArray := method_10_code
def yX0_column : MethodName := ⟨RX0, "column", "(LCountcote;II[J)I"⟩
def dkwX0_column_0 : List UInt8 := [45, 3, 42, 27, 28, 182, 0, 40, 133, 80, 167, 0, 7, 58, 4, 4, 172, 3, 172]
abbrev dktX0_column_0 : List UInt8 := dkwX0_column_0 ++ []
theorem dksX0_column_0 : cX0_column.data.toList.drop 0 = dktX0_column_0 := by decide +kernel
theorem dX0_column_0 : decode cX0_column 0 = .ok (.aload_n 3, 1) := dk_45 (dk_at dksX0_column_0 0 rfl rfl)
theorem dX0_column_1 : decode cX0_column 1 = .ok (.iconst 0, 1) := dk_3 (dk_at dksX0_column_0 1 rfl rfl)
theorem dX0_column_2 : decode cX0_column 2 = .ok (.aload_n 0, 1) := dk_42 (dk_at dksX0_column_0 2 rfl rfl)
theorem dX0_column_3 : decode cX0_column 3 = .ok (.iload_n 1, 1) := dk_27 (dk_at dksX0_column_0 3 rfl rfl)
theorem dX0_column_4 : decode cX0_column 4 = .ok (.iload_n 2, 1) := dk_28 (dk_at dksX0_column_0 4 rfl rfl)
theorem dX0_column_5 : decode cX0_column 5 = .ok (.invokevirtual 40, 3) := dk_182 0 40 (dk_at dksX0_column_0 5 rfl rfl)
theorem dX0_column_8 : decode cX0_column 8 = .ok (.i2l, 1) := dk_133 (dk_at dksX0_column_0 8 rfl rfl)
theorem dX0_column_9 : decode cX0_column 9 = .ok (.lastore, 1) := dk_80 (dk_at dksX0_column_0 9 rfl rfl)
theorem dX0_column_10 : decode cX0_column 10 = .ok (.goto 7, 3) := dk_167 0 7 (dk_at dksX0_column_0 10 rfl rfl)
theorem dX0_column_13 : decode cX0_column 13 = .ok (.astore 4, 2) := dk_58 4 (dk_at dksX0_column_0 13 rfl rfl)
theorem dX0_column_15 : decode cX0_column 15 = .ok (.iconst 1, 1) := dk_4 (dk_at dksX0_column_0 15 rfl rfl)
theorem dX0_column_16 : decode cX0_column 16 = .ok (.ireturn, 1) := dk_172 (dk_at dksX0_column_0 16 rfl rfl)
theorem dX0_column_17 : decode cX0_column 17 = .ok (.iconst 0, 1) := dk_3 (dk_at dksX0_column_0 17 rfl rfl)
theorem dX0_column_18 : decode cX0_column 18 = .ok (.ireturn, 1) := dk_172 (dk_at dksX0_column_0 18 rfl rfl)
abbrev cX0_cell : ByteArray := method_11_code
def yX0_cell : MethodName := ⟨RX0, "cell", "(LCountcote;IIII[J)I"⟩
def dkwX0_cell_0 : List UInt8 := [25, 5, 3, 42, 27, 28, 29, 21, 4, 182, 0, 43, 133, 80, 167, 0, 7, 58, 6, 4, 172, 3, 172]
abbrev dktX0_cell_0 : List UInt8 := dkwX0_cell_0 ++ []
theorem dksX0_cell_0 : cX0_cell.data.toList.drop 0 = dktX0_cell_0 := by decide +kernel
theorem dX0_cell_0 : decode cX0_cell 0 = .ok (.aload 5, 2) := dk_25 5 (dk_at dksX0_cell_0 0 rfl rfl)
theorem dX0_cell_2 : decode cX0_cell 2 = .ok (.iconst 0, 1) := dk_3 (dk_at dksX0_cell_0 2 rfl rfl)
theorem dX0_cell_3 : decode cX0_cell 3 = .ok (.aload_n 0, 1) := dk_42 (dk_at dksX0_cell_0 3 rfl rfl)
theorem dX0_cell_4 : decode cX0_cell 4 = .ok (.iload_n 1, 1) := dk_27 (dk_at dksX0_cell_0 4 rfl rfl)
theorem dX0_cell_5 : decode cX0_cell 5 = .ok (.iload_n 2, 1) := dk_28 (dk_at dksX0_cell_0 5 rfl rfl)
theorem dX0_cell_6 : decode cX0_cell 6 = .ok (.iload_n 3, 1) := dk_29 (dk_at dksX0_cell_0 6 rfl rfl)
theorem dX0_cell_7 : decode cX0_cell 7 = .ok (.iload 4, 2) := dk_21 4 (dk_at dksX0_cell_0 7 rfl rfl)
theorem dX0_cell_9 : decode cX0_cell 9 = .ok (.invokevirtual 43, 3) := dk_182 0 43 (dk_at dksX0_cell_0 9 rfl rfl)
theorem dX0_cell_12 : decode cX0_cell 12 = .ok (.i2l, 1) := dk_133 (dk_at dksX0_cell_0 12 rfl rfl)
theorem dX0_cell_13 : decode cX0_cell 13 = .ok (.lastore, 1) := dk_80 (dk_at dksX0_cell_0 13 rfl rfl)
theorem dX0_cell_14 : decode cX0_cell 14 = .ok (.goto 7, 3) := dk_167 0 7 (dk_at dksX0_cell_0 14 rfl rfl)
theorem dX0_cell_17 : decode cX0_cell 17 = .ok (.astore 6, 2) := dk_58 6 (dk_at dksX0_cell_0 17 rfl rfl)
theorem dX0_cell_19 : decode cX0_cell 19 = .ok (.iconst 1, 1) := dk_4 (dk_at dksX0_cell_0 19 rfl rfl)
theorem dX0_cell_20 : decode cX0_cell 20 = .ok (.ireturn, 1) := dk_172 (dk_at dksX0_cell_0 20 rfl rfl)
theorem dX0_cell_21 : decode cX0_cell 21 = .ok (.iconst 0, 1) := dk_3 (dk_at dksX0_cell_0 21 rfl rfl)
theorem dX0_cell_22 : decode cX0_cell 22 = .ok (.ireturn, 1) := dk_172 (dk_at dksX0_cell_0 22 rfl rfl)
abbrev cX0_estimate : ByteArray := method_12_code
def yX0_estimate : MethodName := ⟨RX0, "estimate", "(LCountcote;III[J)I"⟩
def dkwX0_estimate_0 : List UInt8 := [25, 4, 3, 42, 27, 28, 29, 182, 0, 47, 133, 80, 167, 0, 7, 58, 5, 4, 172, 3, 172]
abbrev dktX0_estimate_0 : List UInt8 := dkwX0_estimate_0 ++ []
theorem dksX0_estimate_0 : cX0_estimate.data.toList.drop 0 = dktX0_estimate_0 := by decide +kernel
theorem dX0_estimate_0 : decode cX0_estimate 0 = .ok (.aload 4, 2) := dk_25 4 (dk_at dksX0_estimate_0 0 rfl rfl)
theorem dX0_estimate_2 : decode cX0_estimate 2 = .ok (.iconst 0, 1) := dk_3 (dk_at dksX0_estimate_0 2 rfl rfl)
theorem dX0_estimate_3 : decode cX0_estimate 3 = .ok (.aload_n 0, 1) := dk_42 (dk_at dksX0_estimate_0 3 rfl rfl)
theorem dX0_estimate_4 : decode cX0_estimate 4 = .ok (.iload_n 1, 1) := dk_27 (dk_at dksX0_estimate_0 4 rfl rfl)
theorem dX0_estimate_5 : decode cX0_estimate 5 = .ok (.iload_n 2, 1) := dk_28 (dk_at dksX0_estimate_0 5 rfl rfl)
theorem dX0_estimate_6 : decode cX0_estimate 6 = .ok (.iload_n 3, 1) := dk_29 (dk_at dksX0_estimate_0 6 rfl rfl)
theorem dX0_estimate_7 : decode cX0_estimate 7 = .ok (.invokevirtual 47, 3) := dk_182 0 47 (dk_at dksX0_estimate_0 7 rfl rfl)
theorem dX0_estimate_10 : decode cX0_estimate 10 = .ok (.i2l, 1) := dk_133 (dk_at dksX0_estimate_0 10 rfl rfl)
theorem dX0_estimate_11 : decode cX0_estimate 11 = .ok (.lastore, 1) := dk_80 (dk_at dksX0_estimate_0 11 rfl rfl)
theorem dX0_estimate_12 : decode cX0_estimate 12 = .ok (.goto 7, 3) := dk_167 0 7 (dk_at dksX0_estimate_0 12 rfl rfl)
theorem dX0_estimate_15 : decode cX0_estimate 15 = .ok (.astore 5, 2) := dk_58 5 (dk_at dksX0_estimate_0 15 rfl rfl)
theorem dX0_estimate_17 : decode cX0_estimate 17 = .ok (.iconst 1, 1) := dk_4 (dk_at dksX0_estimate_0 17 rfl rfl)
theorem dX0_estimate_18 : decode cX0_estimate 18 = .ok (.ireturn, 1) := dk_172 (dk_at dksX0_estimate_0 18 rfl rfl)
theorem dX0_estimate_19 : decode cX0_estimate 19 = .ok (.iconst 0, 1) := dk_3 (dk_at dksX0_estimate_0 19 rfl rfl)
theorem dX0_estimate_20 : decode cX0_estimate 20 = .ok (.ireturn, 1) := dk_172 (dk_at dksX0_estimate_0 20 rfl rfl)
abbrev cX0_share : ByteArray := method_13_code
def yX0_share : MethodName := ⟨RX0, "share", "(LCountcote;II[D)I"⟩
def dkwX0_share_0 : List UInt8 := [45, 3, 42, 27, 28, 182, 0, 50, 82, 167, 0, 7, 58, 4, 4, 172, 3, 172]
abbrev dktX0_share_0 : List UInt8 := dkwX0_share_0 ++ []
theorem dksX0_share_0 : cX0_share.data.toList.drop 0 = dktX0_share_0 := by decide +kernel
theorem dX0_share_0 : decode cX0_share 0 = .ok (.aload_n 3, 1) := dk_45 (dk_at dksX0_share_0 0 rfl rfl)
theorem dX0_share_1 : decode cX0_share 1 = .ok (.iconst 0, 1) := dk_3 (dk_at dksX0_share_0 1 rfl rfl)
theorem dX0_share_2 : decode cX0_share 2 = .ok (.aload_n 0, 1) := dk_42 (dk_at dksX0_share_0 2 rfl rfl)
theorem dX0_share_3 : decode cX0_share 3 = .ok (.iload_n 1, 1) := dk_27 (dk_at dksX0_share_0 3 rfl rfl)
theorem dX0_share_4 : decode cX0_share 4 = .ok (.iload_n 2, 1) := dk_28 (dk_at dksX0_share_0 4 rfl rfl)
theorem dX0_share_5 : decode cX0_share 5 = .ok (.invokevirtual 50, 3) := dk_182 0 50 (dk_at dksX0_share_0 5 rfl rfl)
theorem dX0_share_8 : decode cX0_share 8 = .ok (.dastore, 1) := dk_82 (dk_at dksX0_share_0 8 rfl rfl)
theorem dX0_share_9 : decode cX0_share 9 = .ok (.goto 7, 3) := dk_167 0 7 (dk_at dksX0_share_0 9 rfl rfl)
theorem dX0_share_12 : decode cX0_share 12 = .ok (.astore 4, 2) := dk_58 4 (dk_at dksX0_share_0 12 rfl rfl)
theorem dX0_share_14 : decode cX0_share 14 = .ok (.iconst 1, 1) := dk_4 (dk_at dksX0_share_0 14 rfl rfl)
theorem dX0_share_15 : decode cX0_share 15 = .ok (.ireturn, 1) := dk_172 (dk_at dksX0_share_0 15 rfl rfl)
theorem dX0_share_16 : decode cX0_share 16 = .ok (.iconst 0, 1) := dk_3 (dk_at dksX0_share_0 16 rfl rfl)
theorem dX0_share_17 : decode cX0_share 17 = .ok (.ireturn, 1) := dk_172 (dk_at dksX0_share_0 17 rfl rfl)
abbrev cX0_parts : ByteArray := method_14_code
def yX0_parts : MethodName := ⟨RX0, "parts", "(LCountcote;II[J)I"⟩
def dkwX0_parts_0 : List UInt8 := [45, 3, 42, 27, 28, 182, 0, 54, 133, 80, 167, 0, 11, 58, 4, 4, 172, 58, 4, 5, 172, 3, 172]
abbrev dktX0_parts_0 : List UInt8 := dkwX0_parts_0 ++ []
theorem dksX0_parts_0 : cX0_parts.data.toList.drop 0 = dktX0_parts_0 := by decide +kernel
theorem dX0_parts_0 : decode cX0_parts 0 = .ok (.aload_n 3, 1) := dk_45 (dk_at dksX0_parts_0 0 rfl rfl)
theorem dX0_parts_1 : decode cX0_parts 1 = .ok (.iconst 0, 1) := dk_3 (dk_at dksX0_parts_0 1 rfl rfl)
theorem dX0_parts_2 : decode cX0_parts 2 = .ok (.aload_n 0, 1) := dk_42 (dk_at dksX0_parts_0 2 rfl rfl)
theorem dX0_parts_3 : decode cX0_parts 3 = .ok (.iload_n 1, 1) := dk_27 (dk_at dksX0_parts_0 3 rfl rfl)
theorem dX0_parts_4 : decode cX0_parts 4 = .ok (.iload_n 2, 1) := dk_28 (dk_at dksX0_parts_0 4 rfl rfl)
theorem dX0_parts_5 : decode cX0_parts 5 = .ok (.invokevirtual 54, 3) := dk_182 0 54 (dk_at dksX0_parts_0 5 rfl rfl)
theorem dX0_parts_8 : decode cX0_parts 8 = .ok (.i2l, 1) := dk_133 (dk_at dksX0_parts_0 8 rfl rfl)
theorem dX0_parts_9 : decode cX0_parts 9 = .ok (.lastore, 1) := dk_80 (dk_at dksX0_parts_0 9 rfl rfl)
theorem dX0_parts_10 : decode cX0_parts 10 = .ok (.goto 11, 3) := dk_167 0 11 (dk_at dksX0_parts_0 10 rfl rfl)
theorem dX0_parts_13 : decode cX0_parts 13 = .ok (.astore 4, 2) := dk_58 4 (dk_at dksX0_parts_0 13 rfl rfl)
theorem dX0_parts_15 : decode cX0_parts 15 = .ok (.iconst 1, 1) := dk_4 (dk_at dksX0_parts_0 15 rfl rfl)
theorem dX0_parts_16 : decode cX0_parts 16 = .ok (.ireturn, 1) := dk_172 (dk_at dksX0_parts_0 16 rfl rfl)
theorem dX0_parts_17 : decode cX0_parts 17 = .ok (.astore 4, 2) := dk_58 4 (dk_at dksX0_parts_0 17 rfl rfl)
theorem dX0_parts_19 : decode cX0_parts 19 = .ok (.iconst 2, 1) := dk_5 (dk_at dksX0_parts_0 19 rfl rfl)
theorem dX0_parts_20 : decode cX0_parts 20 = .ok (.ireturn, 1) := dk_172 (dk_at dksX0_parts_0 20 rfl rfl)
theorem dX0_parts_21 : decode cX0_parts 21 = .ok (.iconst 0, 1) := dk_3 (dk_at dksX0_parts_0 21 rfl rfl)
theorem dX0_parts_22 : decode cX0_parts 22 = .ok (.ireturn, 1) := dk_172 (dk_at dksX0_parts_0 22 rfl rfl)
abbrev cX0_estimateOfRange : ByteArray := method_15_code
def yX0_estimateOfRange : MethodName := ⟨RX0, "estimateOfRange", "(LCountcote;III[J)I"⟩
def dkwX0_estimateOfRange_1 : List UInt8 := [172]
abbrev dktX0_estimateOfRange_1 : List UInt8 := dkwX0_estimateOfRange_1 ++ []
def dkwX0_estimateOfRange_0 : List UInt8 := [25, 4, 3, 42, 27, 28, 29, 182, 0, 57, 133, 80, 167, 0, 11, 58, 5, 4, 172, 58, 5, 5, 172, 3]
abbrev dktX0_estimateOfRange_0 : List UInt8 := dkwX0_estimateOfRange_0 ++ dktX0_estimateOfRange_1
theorem dksX0_estimateOfRange_0 : cX0_estimateOfRange.data.toList.drop 0 = dktX0_estimateOfRange_0 := by decide +kernel
theorem dksX0_estimateOfRange_1 : cX0_estimateOfRange.data.toList.drop 24 = dktX0_estimateOfRange_1 := dk_seg dksX0_estimateOfRange_0 24 rfl rfl
theorem dX0_estimateOfRange_0 : decode cX0_estimateOfRange 0 = .ok (.aload 4, 2) := dk_25 4 (dk_at dksX0_estimateOfRange_0 0 rfl rfl)
theorem dX0_estimateOfRange_2 : decode cX0_estimateOfRange 2 = .ok (.iconst 0, 1) := dk_3 (dk_at dksX0_estimateOfRange_0 2 rfl rfl)
theorem dX0_estimateOfRange_3 : decode cX0_estimateOfRange 3 = .ok (.aload_n 0, 1) := dk_42 (dk_at dksX0_estimateOfRange_0 3 rfl rfl)
theorem dX0_estimateOfRange_4 : decode cX0_estimateOfRange 4 = .ok (.iload_n 1, 1) := dk_27 (dk_at dksX0_estimateOfRange_0 4 rfl rfl)
theorem dX0_estimateOfRange_5 : decode cX0_estimateOfRange 5 = .ok (.iload_n 2, 1) := dk_28 (dk_at dksX0_estimateOfRange_0 5 rfl rfl)
theorem dX0_estimateOfRange_6 : decode cX0_estimateOfRange 6 = .ok (.iload_n 3, 1) := dk_29 (dk_at dksX0_estimateOfRange_0 6 rfl rfl)
theorem dX0_estimateOfRange_7 : decode cX0_estimateOfRange 7 = .ok (.invokevirtual 57, 3) := dk_182 0 57 (dk_at dksX0_estimateOfRange_0 7 rfl rfl)
theorem dX0_estimateOfRange_10 : decode cX0_estimateOfRange 10 = .ok (.i2l, 1) := dk_133 (dk_at dksX0_estimateOfRange_0 10 rfl rfl)
theorem dX0_estimateOfRange_11 : decode cX0_estimateOfRange 11 = .ok (.lastore, 1) := dk_80 (dk_at dksX0_estimateOfRange_0 11 rfl rfl)
theorem dX0_estimateOfRange_12 : decode cX0_estimateOfRange 12 = .ok (.goto 11, 3) := dk_167 0 11 (dk_at dksX0_estimateOfRange_0 12 rfl rfl)
theorem dX0_estimateOfRange_15 : decode cX0_estimateOfRange 15 = .ok (.astore 5, 2) := dk_58 5 (dk_at dksX0_estimateOfRange_0 15 rfl rfl)
theorem dX0_estimateOfRange_17 : decode cX0_estimateOfRange 17 = .ok (.iconst 1, 1) := dk_4 (dk_at dksX0_estimateOfRange_0 17 rfl rfl)
theorem dX0_estimateOfRange_18 : decode cX0_estimateOfRange 18 = .ok (.ireturn, 1) := dk_172 (dk_at dksX0_estimateOfRange_0 18 rfl rfl)
theorem dX0_estimateOfRange_19 : decode cX0_estimateOfRange 19 = .ok (.astore 5, 2) := dk_58 5 (dk_at dksX0_estimateOfRange_0 19 rfl rfl)
theorem dX0_estimateOfRange_21 : decode cX0_estimateOfRange 21 = .ok (.iconst 2, 1) := dk_5 (dk_at dksX0_estimateOfRange_0 21 rfl rfl)
theorem dX0_estimateOfRange_22 : decode cX0_estimateOfRange 22 = .ok (.ireturn, 1) := dk_172 (dk_at dksX0_estimateOfRange_0 22 rfl rfl)
theorem dX0_estimateOfRange_23 : decode cX0_estimateOfRange 23 = .ok (.iconst 0, 1) := dk_3 (dk_at dksX0_estimateOfRange_0 23 rfl rfl)
theorem dX0_estimateOfRange_24 : decode cX0_estimateOfRange 24 = .ok (.ireturn, 1) := dk_172 (dk_at dksX0_estimateOfRange_1 0 rfl rfl)
abbrev cX0_frequent : ByteArray := method_16_code
def yX0_frequent : MethodName := ⟨RX0, "frequent", "(LCountcote;II[J)I"⟩
def dkwX0_frequent_0 : List UInt8 := [45, 3, 42, 27, 28, 182, 0, 60, 133, 80, 167, 0, 11, 58, 4, 4, 172, 58, 4, 5, 172, 3, 172]
abbrev dktX0_frequent_0 : List UInt8 := dkwX0_frequent_0 ++ []
theorem dksX0_frequent_0 : cX0_frequent.data.toList.drop 0 = dktX0_frequent_0 := by decide +kernel
theorem dX0_frequent_0 : decode cX0_frequent 0 = .ok (.aload_n 3, 1) := dk_45 (dk_at dksX0_frequent_0 0 rfl rfl)
theorem dX0_frequent_1 : decode cX0_frequent 1 = .ok (.iconst 0, 1) := dk_3 (dk_at dksX0_frequent_0 1 rfl rfl)
theorem dX0_frequent_2 : decode cX0_frequent 2 = .ok (.aload_n 0, 1) := dk_42 (dk_at dksX0_frequent_0 2 rfl rfl)
theorem dX0_frequent_3 : decode cX0_frequent 3 = .ok (.iload_n 1, 1) := dk_27 (dk_at dksX0_frequent_0 3 rfl rfl)
theorem dX0_frequent_4 : decode cX0_frequent 4 = .ok (.iload_n 2, 1) := dk_28 (dk_at dksX0_frequent_0 4 rfl rfl)
theorem dX0_frequent_5 : decode cX0_frequent 5 = .ok (.invokevirtual 60, 3) := dk_182 0 60 (dk_at dksX0_frequent_0 5 rfl rfl)
theorem dX0_frequent_8 : decode cX0_frequent 8 = .ok (.i2l, 1) := dk_133 (dk_at dksX0_frequent_0 8 rfl rfl)
theorem dX0_frequent_9 : decode cX0_frequent 9 = .ok (.lastore, 1) := dk_80 (dk_at dksX0_frequent_0 9 rfl rfl)
theorem dX0_frequent_10 : decode cX0_frequent 10 = .ok (.goto 11, 3) := dk_167 0 11 (dk_at dksX0_frequent_0 10 rfl rfl)
theorem dX0_frequent_13 : decode cX0_frequent 13 = .ok (.astore 4, 2) := dk_58 4 (dk_at dksX0_frequent_0 13 rfl rfl)
theorem dX0_frequent_15 : decode cX0_frequent 15 = .ok (.iconst 1, 1) := dk_4 (dk_at dksX0_frequent_0 15 rfl rfl)
theorem dX0_frequent_16 : decode cX0_frequent 16 = .ok (.ireturn, 1) := dk_172 (dk_at dksX0_frequent_0 16 rfl rfl)
theorem dX0_frequent_17 : decode cX0_frequent 17 = .ok (.astore 4, 2) := dk_58 4 (dk_at dksX0_frequent_0 17 rfl rfl)
theorem dX0_frequent_19 : decode cX0_frequent 19 = .ok (.iconst 2, 1) := dk_5 (dk_at dksX0_frequent_0 19 rfl rfl)
theorem dX0_frequent_20 : decode cX0_frequent 20 = .ok (.ireturn, 1) := dk_172 (dk_at dksX0_frequent_0 20 rfl rfl)
theorem dX0_frequent_21 : decode cX0_frequent 21 = .ok (.iconst 0, 1) := dk_3 (dk_at dksX0_frequent_0 21 rfl rfl)
theorem dX0_frequent_22 : decode cX0_frequent 22 = .ok (.ireturn, 1) := dk_172 (dk_at dksX0_frequent_0 22 rfl rfl)
abbrev cX0_frequentAt : ByteArray := method_17_code
def yX0_frequentAt : MethodName := ⟨RX0, "frequentAt", "(LCountcote;III[J)I"⟩
def dkwX0_frequentAt_1 : List UInt8 := [58, 5, 6, 172, 3, 172]
abbrev dktX0_frequentAt_1 : List UInt8 := dkwX0_frequentAt_1 ++ []
def dkwX0_frequentAt_0 : List UInt8 := [25, 4, 3, 42, 27, 28, 29, 182, 0, 63, 133, 80, 167, 0, 15, 58, 5, 4, 172, 58, 5, 5, 172]
abbrev dktX0_frequentAt_0 : List UInt8 := dkwX0_frequentAt_0 ++ dktX0_frequentAt_1
theorem dksX0_frequentAt_0 : cX0_frequentAt.data.toList.drop 0 = dktX0_frequentAt_0 := by decide +kernel
theorem dksX0_frequentAt_1 : cX0_frequentAt.data.toList.drop 23 = dktX0_frequentAt_1 := dk_seg dksX0_frequentAt_0 23 rfl rfl
theorem dX0_frequentAt_0 : decode cX0_frequentAt 0 = .ok (.aload 4, 2) := dk_25 4 (dk_at dksX0_frequentAt_0 0 rfl rfl)
theorem dX0_frequentAt_2 : decode cX0_frequentAt 2 = .ok (.iconst 0, 1) := dk_3 (dk_at dksX0_frequentAt_0 2 rfl rfl)
theorem dX0_frequentAt_3 : decode cX0_frequentAt 3 = .ok (.aload_n 0, 1) := dk_42 (dk_at dksX0_frequentAt_0 3 rfl rfl)
theorem dX0_frequentAt_4 : decode cX0_frequentAt 4 = .ok (.iload_n 1, 1) := dk_27 (dk_at dksX0_frequentAt_0 4 rfl rfl)
theorem dX0_frequentAt_5 : decode cX0_frequentAt 5 = .ok (.iload_n 2, 1) := dk_28 (dk_at dksX0_frequentAt_0 5 rfl rfl)
theorem dX0_frequentAt_6 : decode cX0_frequentAt 6 = .ok (.iload_n 3, 1) := dk_29 (dk_at dksX0_frequentAt_0 6 rfl rfl)
theorem dX0_frequentAt_7 : decode cX0_frequentAt 7 = .ok (.invokevirtual 63, 3) := dk_182 0 63 (dk_at dksX0_frequentAt_0 7 rfl rfl)
theorem dX0_frequentAt_10 : decode cX0_frequentAt 10 = .ok (.i2l, 1) := dk_133 (dk_at dksX0_frequentAt_0 10 rfl rfl)
theorem dX0_frequentAt_11 : decode cX0_frequentAt 11 = .ok (.lastore, 1) := dk_80 (dk_at dksX0_frequentAt_0 11 rfl rfl)
theorem dX0_frequentAt_12 : decode cX0_frequentAt 12 = .ok (.goto 15, 3) := dk_167 0 15 (dk_at dksX0_frequentAt_0 12 rfl rfl)
theorem dX0_frequentAt_15 : decode cX0_frequentAt 15 = .ok (.astore 5, 2) := dk_58 5 (dk_at dksX0_frequentAt_0 15 rfl rfl)
theorem dX0_frequentAt_17 : decode cX0_frequentAt 17 = .ok (.iconst 1, 1) := dk_4 (dk_at dksX0_frequentAt_0 17 rfl rfl)
theorem dX0_frequentAt_18 : decode cX0_frequentAt 18 = .ok (.ireturn, 1) := dk_172 (dk_at dksX0_frequentAt_0 18 rfl rfl)
theorem dX0_frequentAt_19 : decode cX0_frequentAt 19 = .ok (.astore 5, 2) := dk_58 5 (dk_at dksX0_frequentAt_0 19 rfl rfl)
theorem dX0_frequentAt_21 : decode cX0_frequentAt 21 = .ok (.iconst 2, 1) := dk_5 (dk_at dksX0_frequentAt_0 21 rfl rfl)
theorem dX0_frequentAt_22 : decode cX0_frequentAt 22 = .ok (.ireturn, 1) := dk_172 (dk_at dksX0_frequentAt_0 22 rfl rfl)
theorem dX0_frequentAt_23 : decode cX0_frequentAt 23 = .ok (.astore 5, 2) := dk_58 5 (dk_at dksX0_frequentAt_1 0 rfl rfl)
theorem dX0_frequentAt_25 : decode cX0_frequentAt 25 = .ok (.iconst 3, 1) := dk_6 (dk_at dksX0_frequentAt_1 2 rfl rfl)
theorem dX0_frequentAt_26 : decode cX0_frequentAt 26 = .ok (.ireturn, 1) := dk_172 (dk_at dksX0_frequentAt_1 3 rfl rfl)
theorem dX0_frequentAt_27 : decode cX0_frequentAt 27 = .ok (.iconst 0, 1) := dk_3 (dk_at dksX0_frequentAt_1 4 rfl rfl)
theorem dX0_frequentAt_28 : decode cX0_frequentAt 28 = .ok (.ireturn, 1) := dk_172 (dk_at dksX0_frequentAt_1 5 rfl rfl)
abbrev cX0_itemOfRank : ByteArray := method_18_code
def yX0_itemOfRank : MethodName := ⟨RX0, "itemOfRank", "(LCountcote;II[J)I"⟩
def dkwX0_itemOfRank_0 : List UInt8 := [45, 3, 42, 27, 28, 182, 0, 68, 133, 80, 167, 0, 11, 58, 4, 4, 172, 58, 4, 5, 172, 3, 172]
abbrev dktX0_itemOfRank_0 : List UInt8 := dkwX0_itemOfRank_0 ++ []
theorem dksX0_itemOfRank_0 : cX0_itemOfRank.data.toList.drop 0 = dktX0_itemOfRank_0 := by decide +kernel
theorem dX0_itemOfRank_0 : decode cX0_itemOfRank 0 = .ok (.aload_n 3, 1) := dk_45 (dk_at dksX0_itemOfRank_0 0 rfl rfl)
theorem dX0_itemOfRank_1 : decode cX0_itemOfRank 1 = .ok (.iconst 0, 1) := dk_3 (dk_at dksX0_itemOfRank_0 1 rfl rfl)
theorem dX0_itemOfRank_2 : decode cX0_itemOfRank 2 = .ok (.aload_n 0, 1) := dk_42 (dk_at dksX0_itemOfRank_0 2 rfl rfl)
theorem dX0_itemOfRank_3 : decode cX0_itemOfRank 3 = .ok (.iload_n 1, 1) := dk_27 (dk_at dksX0_itemOfRank_0 3 rfl rfl)
theorem dX0_itemOfRank_4 : decode cX0_itemOfRank 4 = .ok (.iload_n 2, 1) := dk_28 (dk_at dksX0_itemOfRank_0 4 rfl rfl)
theorem dX0_itemOfRank_5 : decode cX0_itemOfRank 5 = .ok (.invokevirtual 68, 3) := dk_182 0 68 (dk_at dksX0_itemOfRank_0 5 rfl rfl)
theorem dX0_itemOfRank_8 : decode cX0_itemOfRank 8 = .ok (.i2l, 1) := dk_133 (dk_at dksX0_itemOfRank_0 8 rfl rfl)
theorem dX0_itemOfRank_9 : decode cX0_itemOfRank 9 = .ok (.lastore, 1) := dk_80 (dk_at dksX0_itemOfRank_0 9 rfl rfl)
theorem dX0_itemOfRank_10 : decode cX0_itemOfRank 10 = .ok (.goto 11, 3) := dk_167 0 11 (dk_at dksX0_itemOfRank_0 10 rfl rfl)
theorem dX0_itemOfRank_13 : decode cX0_itemOfRank 13 = .ok (.astore 4, 2) := dk_58 4 (dk_at dksX0_itemOfRank_0 13 rfl rfl)
theorem dX0_itemOfRank_15 : decode cX0_itemOfRank 15 = .ok (.iconst 1, 1) := dk_4 (dk_at dksX0_itemOfRank_0 15 rfl rfl)
theorem dX0_itemOfRank_16 : decode cX0_itemOfRank 16 = .ok (.ireturn, 1) := dk_172 (dk_at dksX0_itemOfRank_0 16 rfl rfl)
theorem dX0_itemOfRank_17 : decode cX0_itemOfRank 17 = .ok (.astore 4, 2) := dk_58 4 (dk_at dksX0_itemOfRank_0 17 rfl rfl)
theorem dX0_itemOfRank_19 : decode cX0_itemOfRank 19 = .ok (.iconst 2, 1) := dk_5 (dk_at dksX0_itemOfRank_0 19 rfl rfl)
theorem dX0_itemOfRank_20 : decode cX0_itemOfRank 20 = .ok (.ireturn, 1) := dk_172 (dk_at dksX0_itemOfRank_0 20 rfl rfl)
theorem dX0_itemOfRank_21 : decode cX0_itemOfRank 21 = .ok (.iconst 0, 1) := dk_3 (dk_at dksX0_itemOfRank_0 21 rfl rfl)
theorem dX0_itemOfRank_22 : decode cX0_itemOfRank 22 = .ok (.ireturn, 1) := dk_172 (dk_at dksX0_itemOfRank_0 22 rfl rfl)
abbrev cX0_signedColumn : ByteArray := method_19_code
def yX0_signedColumn : MethodName := ⟨RX0, "signedColumn", "(LCountcote;II[J)I"⟩
def dkwX0_signedColumn_0 : List UInt8 := [45, 3, 42, 27, 28, 182, 0, 71, 133, 80, 167, 0, 7, 58, 4, 4, 172, 3, 172]
abbrev dktX0_signedColumn_0 : List UInt8 := dkwX0_signedColumn_0 ++ []
theorem dksX0_signedColumn_0 : cX0_signedColumn.data.toList.drop 0 = dktX0_signedColumn_0 := by decide +kernel
theorem dX0_signedColumn_0 : decode cX0_signedColumn 0 = .ok (.aload_n 3, 1) := dk_45 (dk_at dksX0_signedColumn_0 0 rfl rfl)
theorem dX0_signedColumn_1 : decode cX0_signedColumn 1 = .ok (.iconst 0, 1) := dk_3 (dk_at dksX0_signedColumn_0 1 rfl rfl)
theorem dX0_signedColumn_2 : decode cX0_signedColumn 2 = .ok (.aload_n 0, 1) := dk_42 (dk_at dksX0_signedColumn_0 2 rfl rfl)
theorem dX0_signedColumn_3 : decode cX0_signedColumn 3 = .ok (.iload_n 1, 1) := dk_27 (dk_at dksX0_signedColumn_0 3 rfl rfl)
theorem dX0_signedColumn_4 : decode cX0_signedColumn 4 = .ok (.iload_n 2, 1) := dk_28 (dk_at dksX0_signedColumn_0 4 rfl rfl)
theorem dX0_signedColumn_5 : decode cX0_signedColumn 5 = .ok (.invokevirtual 71, 3) := dk_182 0 71 (dk_at dksX0_signedColumn_0 5 rfl rfl)
theorem dX0_signedColumn_8 : decode cX0_signedColumn 8 = .ok (.i2l, 1) := dk_133 (dk_at dksX0_signedColumn_0 8 rfl rfl)
theorem dX0_signedColumn_9 : decode cX0_signedColumn 9 = .ok (.lastore, 1) := dk_80 (dk_at dksX0_signedColumn_0 9 rfl rfl)
theorem dX0_signedColumn_10 : decode cX0_signedColumn 10 = .ok (.goto 7, 3) := dk_167 0 7 (dk_at dksX0_signedColumn_0 10 rfl rfl)
theorem dX0_signedColumn_13 : decode cX0_signedColumn 13 = .ok (.astore 4, 2) := dk_58 4 (dk_at dksX0_signedColumn_0 13 rfl rfl)
theorem dX0_signedColumn_15 : decode cX0_signedColumn 15 = .ok (.iconst 1, 1) := dk_4 (dk_at dksX0_signedColumn_0 15 rfl rfl)
theorem dX0_signedColumn_16 : decode cX0_signedColumn 16 = .ok (.ireturn, 1) := dk_172 (dk_at dksX0_signedColumn_0 16 rfl rfl)
theorem dX0_signedColumn_17 : decode cX0_signedColumn 17 = .ok (.iconst 0, 1) := dk_3 (dk_at dksX0_signedColumn_0 17 rfl rfl)
theorem dX0_signedColumn_18 : decode cX0_signedColumn 18 = .ok (.ireturn, 1) := dk_172 (dk_at dksX0_signedColumn_0 18 rfl rfl)
abbrev cX0_sign : ByteArray := method_20_code
def yX0_sign : MethodName := ⟨RX0, "sign", "(LCountcote;II[J)I"⟩
def dkwX0_sign_0 : List UInt8 := [45, 3, 42, 27, 28, 182, 0, 74, 133, 80, 167, 0, 7, 58, 4, 4, 172, 3, 172]
abbrev dktX0_sign_0 : List UInt8 := dkwX0_sign_0 ++ []
theorem dksX0_sign_0 : cX0_sign.data.toList.drop 0 = dktX0_sign_0 := by decide +kernel
theorem dX0_sign_0 : decode cX0_sign 0 = .ok (.aload_n 3, 1) := dk_45 (dk_at dksX0_sign_0 0 rfl rfl)
theorem dX0_sign_1 : decode cX0_sign 1 = .ok (.iconst 0, 1) := dk_3 (dk_at dksX0_sign_0 1 rfl rfl)
theorem dX0_sign_2 : decode cX0_sign 2 = .ok (.aload_n 0, 1) := dk_42 (dk_at dksX0_sign_0 2 rfl rfl)
theorem dX0_sign_3 : decode cX0_sign 3 = .ok (.iload_n 1, 1) := dk_27 (dk_at dksX0_sign_0 3 rfl rfl)
theorem dX0_sign_4 : decode cX0_sign 4 = .ok (.iload_n 2, 1) := dk_28 (dk_at dksX0_sign_0 4 rfl rfl)
theorem dX0_sign_5 : decode cX0_sign 5 = .ok (.invokevirtual 74, 3) := dk_182 0 74 (dk_at dksX0_sign_0 5 rfl rfl)
theorem dX0_sign_8 : decode cX0_sign 8 = .ok (.i2l, 1) := dk_133 (dk_at dksX0_sign_0 8 rfl rfl)
theorem dX0_sign_9 : decode cX0_sign 9 = .ok (.lastore, 1) := dk_80 (dk_at dksX0_sign_0 9 rfl rfl)
theorem dX0_sign_10 : decode cX0_sign 10 = .ok (.goto 7, 3) := dk_167 0 7 (dk_at dksX0_sign_0 10 rfl rfl)
theorem dX0_sign_13 : decode cX0_sign 13 = .ok (.astore 4, 2) := dk_58 4 (dk_at dksX0_sign_0 13 rfl rfl)
theorem dX0_sign_15 : decode cX0_sign 15 = .ok (.iconst 1, 1) := dk_4 (dk_at dksX0_sign_0 15 rfl rfl)
theorem dX0_sign_16 : decode cX0_sign 16 = .ok (.ireturn, 1) := dk_172 (dk_at dksX0_sign_0 16 rfl rfl)
theorem dX0_sign_17 : decode cX0_sign 17 = .ok (.iconst 0, 1) := dk_3 (dk_at dksX0_sign_0 17 rfl rfl)
theorem dX0_sign_18 : decode cX0_sign 18 = .ok (.ireturn, 1) := dk_172 (dk_at dksX0_sign_0 18 rfl rfl)
abbrev cX0_signedCell : ByteArray := method_21_code
def yX0_signedCell : MethodName := ⟨RX0, "signedCell", "(LCountcote;III[J)I"⟩
def dkwX0_signedCell_0 : List UInt8 := [25, 4, 3, 42, 27, 28, 29, 182, 0, 77, 133, 80, 167, 0, 7, 58, 5, 4, 172, 3, 172]
abbrev dktX0_signedCell_0 : List UInt8 := dkwX0_signedCell_0 ++ []
theorem dksX0_signedCell_0 : cX0_signedCell.data.toList.drop 0 = dktX0_signedCell_0 := by decide +kernel
theorem dX0_signedCell_0 : decode cX0_signedCell 0 = .ok (.aload 4, 2) := dk_25 4 (dk_at dksX0_signedCell_0 0 rfl rfl)
theorem dX0_signedCell_2 : decode cX0_signedCell 2 = .ok (.iconst 0, 1) := dk_3 (dk_at dksX0_signedCell_0 2 rfl rfl)
theorem dX0_signedCell_3 : decode cX0_signedCell 3 = .ok (.aload_n 0, 1) := dk_42 (dk_at dksX0_signedCell_0 3 rfl rfl)
theorem dX0_signedCell_4 : decode cX0_signedCell 4 = .ok (.iload_n 1, 1) := dk_27 (dk_at dksX0_signedCell_0 4 rfl rfl)
theorem dX0_signedCell_5 : decode cX0_signedCell 5 = .ok (.iload_n 2, 1) := dk_28 (dk_at dksX0_signedCell_0 5 rfl rfl)
theorem dX0_signedCell_6 : decode cX0_signedCell 6 = .ok (.iload_n 3, 1) := dk_29 (dk_at dksX0_signedCell_0 6 rfl rfl)
theorem dX0_signedCell_7 : decode cX0_signedCell 7 = .ok (.invokevirtual 77, 3) := dk_182 0 77 (dk_at dksX0_signedCell_0 7 rfl rfl)
theorem dX0_signedCell_10 : decode cX0_signedCell 10 = .ok (.i2l, 1) := dk_133 (dk_at dksX0_signedCell_0 10 rfl rfl)
theorem dX0_signedCell_11 : decode cX0_signedCell 11 = .ok (.lastore, 1) := dk_80 (dk_at dksX0_signedCell_0 11 rfl rfl)
theorem dX0_signedCell_12 : decode cX0_signedCell 12 = .ok (.goto 7, 3) := dk_167 0 7 (dk_at dksX0_signedCell_0 12 rfl rfl)
theorem dX0_signedCell_15 : decode cX0_signedCell 15 = .ok (.astore 5, 2) := dk_58 5 (dk_at dksX0_signedCell_0 15 rfl rfl)
theorem dX0_signedCell_17 : decode cX0_signedCell 17 = .ok (.iconst 1, 1) := dk_4 (dk_at dksX0_signedCell_0 17 rfl rfl)
theorem dX0_signedCell_18 : decode cX0_signedCell 18 = .ok (.ireturn, 1) := dk_172 (dk_at dksX0_signedCell_0 18 rfl rfl)
theorem dX0_signedCell_19 : decode cX0_signedCell 19 = .ok (.iconst 0, 1) := dk_3 (dk_at dksX0_signedCell_0 19 rfl rfl)
theorem dX0_signedCell_20 : decode cX0_signedCell 20 = .ok (.ireturn, 1) := dk_172 (dk_at dksX0_signedCell_0 20 rfl rfl)
abbrev cX0_signedEstimate : ByteArray := method_22_code
def yX0_signedEstimate : MethodName := ⟨RX0, "signedEstimate", "(LCountcote;II[J)I"⟩
def dkwX0_signedEstimate_0 : List UInt8 := [45, 3, 42, 27, 28, 182, 0, 80, 133, 80, 167, 0, 7, 58, 4, 4, 172, 3, 172]
abbrev dktX0_signedEstimate_0 : List UInt8 := dkwX0_signedEstimate_0 ++ []
theorem dksX0_signedEstimate_0 : cX0_signedEstimate.data.toList.drop 0 = dktX0_signedEstimate_0 := by decide +kernel
theorem dX0_signedEstimate_0 : decode cX0_signedEstimate 0 = .ok (.aload_n 3, 1) := dk_45 (dk_at dksX0_signedEstimate_0 0 rfl rfl)
theorem dX0_signedEstimate_1 : decode cX0_signedEstimate 1 = .ok (.iconst 0, 1) := dk_3 (dk_at dksX0_signedEstimate_0 1 rfl rfl)
theorem dX0_signedEstimate_2 : decode cX0_signedEstimate 2 = .ok (.aload_n 0, 1) := dk_42 (dk_at dksX0_signedEstimate_0 2 rfl rfl)
theorem dX0_signedEstimate_3 : decode cX0_signedEstimate 3 = .ok (.iload_n 1, 1) := dk_27 (dk_at dksX0_signedEstimate_0 3 rfl rfl)
theorem dX0_signedEstimate_4 : decode cX0_signedEstimate 4 = .ok (.iload_n 2, 1) := dk_28 (dk_at dksX0_signedEstimate_0 4 rfl rfl)
theorem dX0_signedEstimate_5 : decode cX0_signedEstimate 5 = .ok (.invokevirtual 80, 3) := dk_182 0 80 (dk_at dksX0_signedEstimate_0 5 rfl rfl)
theorem dX0_signedEstimate_8 : decode cX0_signedEstimate 8 = .ok (.i2l, 1) := dk_133 (dk_at dksX0_signedEstimate_0 8 rfl rfl)
theorem dX0_signedEstimate_9 : decode cX0_signedEstimate 9 = .ok (.lastore, 1) := dk_80 (dk_at dksX0_signedEstimate_0 9 rfl rfl)
theorem dX0_signedEstimate_10 : decode cX0_signedEstimate 10 = .ok (.goto 7, 3) := dk_167 0 7 (dk_at dksX0_signedEstimate_0 10 rfl rfl)
theorem dX0_signedEstimate_13 : decode cX0_signedEstimate 13 = .ok (.astore 4, 2) := dk_58 4 (dk_at dksX0_signedEstimate_0 13 rfl rfl)
theorem dX0_signedEstimate_15 : decode cX0_signedEstimate 15 = .ok (.iconst 1, 1) := dk_4 (dk_at dksX0_signedEstimate_0 15 rfl rfl)
theorem dX0_signedEstimate_16 : decode cX0_signedEstimate 16 = .ok (.ireturn, 1) := dk_172 (dk_at dksX0_signedEstimate_0 16 rfl rfl)
theorem dX0_signedEstimate_17 : decode cX0_signedEstimate 17 = .ok (.iconst 0, 1) := dk_3 (dk_at dksX0_signedEstimate_0 17 rfl rfl)
theorem dX0_signedEstimate_18 : decode cX0_signedEstimate 18 = .ok (.ireturn, 1) := dk_172 (dk_at dksX0_signedEstimate_0 18 rfl rfl)
abbrev cX0_signedProduct : ByteArray := method_23_code
def yX0_signedProduct : MethodName := ⟨RX0, "signedProduct", "(LCountcote;II[J)I"⟩
def dkwX0_signedProduct_0 : List UInt8 := [45, 3, 42, 27, 28, 182, 0, 83, 80, 167, 0, 7, 58, 4, 4, 172, 3, 172]
abbrev dktX0_signedProduct_0 : List UInt8 := dkwX0_signedProduct_0 ++ []
theorem dksX0_signedProduct_0 : cX0_signedProduct.data.toList.drop 0 = dktX0_signedProduct_0 := by decide +kernel
theorem dX0_signedProduct_0 : decode cX0_signedProduct 0 = .ok (.aload_n 3, 1) := dk_45 (dk_at dksX0_signedProduct_0 0 rfl rfl)
theorem dX0_signedProduct_1 : decode cX0_signedProduct 1 = .ok (.iconst 0, 1) := dk_3 (dk_at dksX0_signedProduct_0 1 rfl rfl)
theorem dX0_signedProduct_2 : decode cX0_signedProduct 2 = .ok (.aload_n 0, 1) := dk_42 (dk_at dksX0_signedProduct_0 2 rfl rfl)
theorem dX0_signedProduct_3 : decode cX0_signedProduct 3 = .ok (.iload_n 1, 1) := dk_27 (dk_at dksX0_signedProduct_0 3 rfl rfl)
theorem dX0_signedProduct_4 : decode cX0_signedProduct 4 = .ok (.iload_n 2, 1) := dk_28 (dk_at dksX0_signedProduct_0 4 rfl rfl)
theorem dX0_signedProduct_5 : decode cX0_signedProduct 5 = .ok (.invokevirtual 83, 3) := dk_182 0 83 (dk_at dksX0_signedProduct_0 5 rfl rfl)
theorem dX0_signedProduct_8 : decode cX0_signedProduct 8 = .ok (.lastore, 1) := dk_80 (dk_at dksX0_signedProduct_0 8 rfl rfl)
theorem dX0_signedProduct_9 : decode cX0_signedProduct 9 = .ok (.goto 7, 3) := dk_167 0 7 (dk_at dksX0_signedProduct_0 9 rfl rfl)
theorem dX0_signedProduct_12 : decode cX0_signedProduct 12 = .ok (.astore 4, 2) := dk_58 4 (dk_at dksX0_signedProduct_0 12 rfl rfl)
theorem dX0_signedProduct_14 : decode cX0_signedProduct 14 = .ok (.iconst 1, 1) := dk_4 (dk_at dksX0_signedProduct_0 14 rfl rfl)
theorem dX0_signedProduct_15 : decode cX0_signedProduct 15 = .ok (.ireturn, 1) := dk_172 (dk_at dksX0_signedProduct_0 15 rfl rfl)
theorem dX0_signedProduct_16 : decode cX0_signedProduct 16 = .ok (.iconst 0, 1) := dk_3 (dk_at dksX0_signedProduct_0 16 rfl rfl)
theorem dX0_signedProduct_17 : decode cX0_signedProduct 17 = .ok (.ireturn, 1) := dk_172 (dk_at dksX0_signedProduct_0 17 rfl rfl)
abbrev cX0_counters : ByteArray := method_24_code
def yX0_counters : MethodName := ⟨RX0, "counters", "(LCountcote;I[J)I"⟩
def dkwX0_counters_0 : List UInt8 := [44, 3, 42, 27, 182, 0, 86, 133, 80, 167, 0, 6, 78, 4, 172, 3, 172]
abbrev dktX0_counters_0 : List UInt8 := dkwX0_counters_0 ++ []
theorem dksX0_counters_0 : cX0_counters.data.toList.drop 0 = dktX0_counters_0 := by decide +kernel
theorem dX0_counters_0 : decode cX0_counters 0 = .ok (.aload_n 2, 1) := dk_44 (dk_at dksX0_counters_0 0 rfl rfl)
theorem dX0_counters_1 : decode cX0_counters 1 = .ok (.iconst 0, 1) := dk_3 (dk_at dksX0_counters_0 1 rfl rfl)
theorem dX0_counters_2 : decode cX0_counters 2 = .ok (.aload_n 0, 1) := dk_42 (dk_at dksX0_counters_0 2 rfl rfl)
theorem dX0_counters_3 : decode cX0_counters 3 = .ok (.iload_n 1, 1) := dk_27 (dk_at dksX0_counters_0 3 rfl rfl)
theorem dX0_counters_4 : decode cX0_counters 4 = .ok (.invokevirtual 86, 3) := dk_182 0 86 (dk_at dksX0_counters_0 4 rfl rfl)
theorem dX0_counters_7 : decode cX0_counters 7 = .ok (.i2l, 1) := dk_133 (dk_at dksX0_counters_0 7 rfl rfl)
theorem dX0_counters_8 : decode cX0_counters 8 = .ok (.lastore, 1) := dk_80 (dk_at dksX0_counters_0 8 rfl rfl)
theorem dX0_counters_9 : decode cX0_counters 9 = .ok (.goto 6, 3) := dk_167 0 6 (dk_at dksX0_counters_0 9 rfl rfl)
theorem dX0_counters_12 : decode cX0_counters 12 = .ok (.astore_n 3, 1) := dk_78 (dk_at dksX0_counters_0 12 rfl rfl)
theorem dX0_counters_13 : decode cX0_counters 13 = .ok (.iconst 1, 1) := dk_4 (dk_at dksX0_counters_0 13 rfl rfl)
theorem dX0_counters_14 : decode cX0_counters 14 = .ok (.ireturn, 1) := dk_172 (dk_at dksX0_counters_0 14 rfl rfl)
theorem dX0_counters_15 : decode cX0_counters 15 = .ok (.iconst 0, 1) := dk_3 (dk_at dksX0_counters_0 15 rfl rfl)
theorem dX0_counters_16 : decode cX0_counters 16 = .ok (.ireturn, 1) := dk_172 (dk_at dksX0_counters_0 16 rfl rfl)
abbrev cX0_counterItem : ByteArray := method_25_code
def yX0_counterItem : MethodName := ⟨RX0, "counterItem", "(LCountcote;II[J)I"⟩
def dkwX0_counterItem_0 : List UInt8 := [45, 3, 42, 27, 28, 182, 0, 89, 133, 80, 167, 0, 7, 58, 4, 4, 172, 3, 172]
abbrev dktX0_counterItem_0 : List UInt8 := dkwX0_counterItem_0 ++ []
theorem dksX0_counterItem_0 : cX0_counterItem.data.toList.drop 0 = dktX0_counterItem_0 := by decide +kernel
theorem dX0_counterItem_0 : decode cX0_counterItem 0 = .ok (.aload_n 3, 1) := dk_45 (dk_at dksX0_counterItem_0 0 rfl rfl)
theorem dX0_counterItem_1 : decode cX0_counterItem 1 = .ok (.iconst 0, 1) := dk_3 (dk_at dksX0_counterItem_0 1 rfl rfl)
theorem dX0_counterItem_2 : decode cX0_counterItem 2 = .ok (.aload_n 0, 1) := dk_42 (dk_at dksX0_counterItem_0 2 rfl rfl)
theorem dX0_counterItem_3 : decode cX0_counterItem 3 = .ok (.iload_n 1, 1) := dk_27 (dk_at dksX0_counterItem_0 3 rfl rfl)
theorem dX0_counterItem_4 : decode cX0_counterItem 4 = .ok (.iload_n 2, 1) := dk_28 (dk_at dksX0_counterItem_0 4 rfl rfl)
theorem dX0_counterItem_5 : decode cX0_counterItem 5 = .ok (.invokevirtual 89, 3) := dk_182 0 89 (dk_at dksX0_counterItem_0 5 rfl rfl)
theorem dX0_counterItem_8 : decode cX0_counterItem 8 = .ok (.i2l, 1) := dk_133 (dk_at dksX0_counterItem_0 8 rfl rfl)
theorem dX0_counterItem_9 : decode cX0_counterItem 9 = .ok (.lastore, 1) := dk_80 (dk_at dksX0_counterItem_0 9 rfl rfl)
theorem dX0_counterItem_10 : decode cX0_counterItem 10 = .ok (.goto 7, 3) := dk_167 0 7 (dk_at dksX0_counterItem_0 10 rfl rfl)
theorem dX0_counterItem_13 : decode cX0_counterItem 13 = .ok (.astore 4, 2) := dk_58 4 (dk_at dksX0_counterItem_0 13 rfl rfl)
theorem dX0_counterItem_15 : decode cX0_counterItem 15 = .ok (.iconst 1, 1) := dk_4 (dk_at dksX0_counterItem_0 15 rfl rfl)
theorem dX0_counterItem_16 : decode cX0_counterItem 16 = .ok (.ireturn, 1) := dk_172 (dk_at dksX0_counterItem_0 16 rfl rfl)
theorem dX0_counterItem_17 : decode cX0_counterItem 17 = .ok (.iconst 0, 1) := dk_3 (dk_at dksX0_counterItem_0 17 rfl rfl)
theorem dX0_counterItem_18 : decode cX0_counterItem 18 = .ok (.ireturn, 1) := dk_172 (dk_at dksX0_counterItem_0 18 rfl rfl)
abbrev cX0_counterOf : ByteArray := method_26_code
def yX0_counterOf : MethodName := ⟨RX0, "counterOf", "(LCountcote;II[J)I"⟩
def dkwX0_counterOf_0 : List UInt8 := [45, 3, 42, 27, 28, 182, 0, 92, 133, 80, 167, 0, 7, 58, 4, 4, 172, 3, 172]
abbrev dktX0_counterOf_0 : List UInt8 := dkwX0_counterOf_0 ++ []
theorem dksX0_counterOf_0 : cX0_counterOf.data.toList.drop 0 = dktX0_counterOf_0 := by decide +kernel
theorem dX0_counterOf_0 : decode cX0_counterOf 0 = .ok (.aload_n 3, 1) := dk_45 (dk_at dksX0_counterOf_0 0 rfl rfl)
theorem dX0_counterOf_1 : decode cX0_counterOf 1 = .ok (.iconst 0, 1) := dk_3 (dk_at dksX0_counterOf_0 1 rfl rfl)
theorem dX0_counterOf_2 : decode cX0_counterOf 2 = .ok (.aload_n 0, 1) := dk_42 (dk_at dksX0_counterOf_0 2 rfl rfl)
theorem dX0_counterOf_3 : decode cX0_counterOf 3 = .ok (.iload_n 1, 1) := dk_27 (dk_at dksX0_counterOf_0 3 rfl rfl)
theorem dX0_counterOf_4 : decode cX0_counterOf 4 = .ok (.iload_n 2, 1) := dk_28 (dk_at dksX0_counterOf_0 4 rfl rfl)
theorem dX0_counterOf_5 : decode cX0_counterOf 5 = .ok (.invokevirtual 92, 3) := dk_182 0 92 (dk_at dksX0_counterOf_0 5 rfl rfl)
theorem dX0_counterOf_8 : decode cX0_counterOf 8 = .ok (.i2l, 1) := dk_133 (dk_at dksX0_counterOf_0 8 rfl rfl)
theorem dX0_counterOf_9 : decode cX0_counterOf 9 = .ok (.lastore, 1) := dk_80 (dk_at dksX0_counterOf_0 9 rfl rfl)
theorem dX0_counterOf_10 : decode cX0_counterOf 10 = .ok (.goto 7, 3) := dk_167 0 7 (dk_at dksX0_counterOf_0 10 rfl rfl)
theorem dX0_counterOf_13 : decode cX0_counterOf 13 = .ok (.astore 4, 2) := dk_58 4 (dk_at dksX0_counterOf_0 13 rfl rfl)
theorem dX0_counterOf_15 : decode cX0_counterOf 15 = .ok (.iconst 1, 1) := dk_4 (dk_at dksX0_counterOf_0 15 rfl rfl)
theorem dX0_counterOf_16 : decode cX0_counterOf 16 = .ok (.ireturn, 1) := dk_172 (dk_at dksX0_counterOf_0 16 rfl rfl)
theorem dX0_counterOf_17 : decode cX0_counterOf 17 = .ok (.iconst 0, 1) := dk_3 (dk_at dksX0_counterOf_0 17 rfl rfl)
theorem dX0_counterOf_18 : decode cX0_counterOf 18 = .ok (.ireturn, 1) := dk_172 (dk_at dksX0_counterOf_0 18 rfl rfl)
abbrev cX0_taken : ByteArray := method_27_code
def yX0_taken : MethodName := ⟨RX0, "taken", "(LCountcote;I[J)I"⟩
def dkwX0_taken_0 : List UInt8 := [44, 3, 42, 27, 182, 0, 95, 133, 80, 167, 0, 6, 78, 4, 172, 3, 172]
abbrev dktX0_taken_0 : List UInt8 := dkwX0_taken_0 ++ []
theorem dksX0_taken_0 : cX0_taken.data.toList.drop 0 = dktX0_taken_0 := by decide +kernel
theorem dX0_taken_0 : decode cX0_taken 0 = .ok (.aload_n 2, 1) := dk_44 (dk_at dksX0_taken_0 0 rfl rfl)
theorem dX0_taken_1 : decode cX0_taken 1 = .ok (.iconst 0, 1) := dk_3 (dk_at dksX0_taken_0 1 rfl rfl)
theorem dX0_taken_2 : decode cX0_taken 2 = .ok (.aload_n 0, 1) := dk_42 (dk_at dksX0_taken_0 2 rfl rfl)
theorem dX0_taken_3 : decode cX0_taken 3 = .ok (.iload_n 1, 1) := dk_27 (dk_at dksX0_taken_0 3 rfl rfl)
theorem dX0_taken_4 : decode cX0_taken 4 = .ok (.invokevirtual 95, 3) := dk_182 0 95 (dk_at dksX0_taken_0 4 rfl rfl)
theorem dX0_taken_7 : decode cX0_taken 7 = .ok (.i2l, 1) := dk_133 (dk_at dksX0_taken_0 7 rfl rfl)
theorem dX0_taken_8 : decode cX0_taken 8 = .ok (.lastore, 1) := dk_80 (dk_at dksX0_taken_0 8 rfl rfl)
theorem dX0_taken_9 : decode cX0_taken 9 = .ok (.goto 6, 3) := dk_167 0 6 (dk_at dksX0_taken_0 9 rfl rfl)
theorem dX0_taken_12 : decode cX0_taken 12 = .ok (.astore_n 3, 1) := dk_78 (dk_at dksX0_taken_0 12 rfl rfl)
theorem dX0_taken_13 : decode cX0_taken 13 = .ok (.iconst 1, 1) := dk_4 (dk_at dksX0_taken_0 13 rfl rfl)
theorem dX0_taken_14 : decode cX0_taken 14 = .ok (.ireturn, 1) := dk_172 (dk_at dksX0_taken_0 14 rfl rfl)
theorem dX0_taken_15 : decode cX0_taken 15 = .ok (.iconst 0, 1) := dk_3 (dk_at dksX0_taken_0 15 rfl rfl)
theorem dX0_taken_16 : decode cX0_taken 16 = .ok (.ireturn, 1) := dk_172 (dk_at dksX0_taken_0 16 rfl rfl)
theorem q27 : (Jvm.Cond.initialized "CountcoteLaw") ∈ lw_all := lw_g (lw_at lw_m1 0 rfl) rfl
theorem q54 : (Jvm.Cond.classLink "CountcoteLaw" (8 : Nat) "Countcote") ∈ lw_all := lw_g (lw_at lw_m1 27 rfl) rfl
theorem q56 : (Jvm.Cond.methodLink "CountcoteLaw" (98 : Nat) ({ cls := "Countcote", name := "<init>", desc := "()V" } : Jvm.MethodName)) ∈ lw_all := lw_g (lw_at lw_m1 29 rfl) rfl
theorem q175 : (Jvm.Cond.methodLink "CountcoteLaw" (102 : Nat) ({ cls := "CountcoteLaw", name := "add", desc := "(LCountcote;III[J)I" } : Jvm.MethodName)) ∈ lw_all := lw_g (lw_at lw_m1 148 rfl) rfl
theorem q176 : (Jvm.Cond.static ({ cls := "CountcoteLaw", name := "add", desc := "(LCountcote;III[J)I" } : Jvm.MethodName)) ∈ lw_all := lw_g (lw_at lw_m1 149 rfl) rfl
theorem q177 : (Jvm.Cond.codeWith ({ cls := "CountcoteLaw", name := "add", desc := "(LCountcote;III[J)I" } : Jvm.MethodName) method_3_code (6 : Nat) (Option.some Jvm.ClassFile.FieldType.int) [((0 : Nat), (12 : Nat), (15 : Nat), (13 : Nat)), ((0 : Nat), (12 : Nat), (19 : Nat), (15 : Nat)), ((0 : Nat), (12 : Nat), (23 : Nat), (17 : Nat))]) ∈ lw_all := lw_g (lw_at lw_m1 150 rfl) rfl
theorem q178 : (Jvm.Cond.classLink "CountcoteLaw" (13 : Nat) "java/lang/IndexOutOfBoundsException") ∈ lw_all := lw_g (lw_at lw_m1 151 rfl) rfl
theorem q256 : (Jvm.Cond.classLink "CountcoteLaw" (15 : Nat) "java/lang/IllegalArgumentException") ∈ lw_all := lw_g (lw_at lw_m1 229 rfl) rfl
theorem q257 : (Jvm.Cond.classLink "CountcoteLaw" (17 : Nat) "java/lang/IllegalStateException") ∈ lw_all := lw_g (lw_at lw_m1 230 rfl) rfl
theorem q258 : (Jvm.Cond.methodLink "CountcoteLaw" (7 : Nat) ({ cls := "Countcote", name := "add", desc := "(III)I" } : Jvm.MethodName)) ∈ lw_all := lw_g (lw_at lw_m1 231 rfl) rfl
theorem q482 : (Jvm.Cond.methodLink "CountcoteLaw" (112 : Nat) ({ cls := "CountcoteLaw", name := "merge", desc := "(LCountcote;II[J)I" } : Jvm.MethodName)) ∈ lw_all := lw_g (lw_at lw_m2 215 rfl) rfl
theorem q483 : (Jvm.Cond.static ({ cls := "CountcoteLaw", name := "merge", desc := "(LCountcote;II[J)I" } : Jvm.MethodName)) ∈ lw_all := lw_g (lw_at lw_m2 216 rfl) rfl
theorem q484 : (Jvm.Cond.codeWith ({ cls := "CountcoteLaw", name := "merge", desc := "(LCountcote;II[J)I" } : Jvm.MethodName) method_4_code (5 : Nat) (Option.some Jvm.ClassFile.FieldType.int) [((0 : Nat), (10 : Nat), (13 : Nat), (13 : Nat)), ((0 : Nat), (10 : Nat), (17 : Nat), (15 : Nat)), ((0 : Nat), (10 : Nat), (21 : Nat), (17 : Nat))]) ∈ lw_all := lw_g (lw_at lw_m2 217 rfl) rfl
theorem q485 : (Jvm.Cond.methodLink "CountcoteLaw" (19 : Nat) ({ cls := "Countcote", name := "merge", desc := "(II)I" } : Jvm.MethodName)) ∈ lw_all := lw_g (lw_at lw_m2 218 rfl) rfl
theorem q499 : (Jvm.Cond.methodLink "CountcoteLaw" (116 : Nat) ({ cls := "CountcoteLaw", name := "clear", desc := "(LCountcote;I[J)I" } : Jvm.MethodName)) ∈ lw_all := lw_g (lw_at lw_m2 232 rfl) rfl
theorem q500 : (Jvm.Cond.static ({ cls := "CountcoteLaw", name := "clear", desc := "(LCountcote;I[J)I" } : Jvm.MethodName)) ∈ lw_all := lw_g (lw_at lw_m2 233 rfl) rfl
theorem q501 : (Jvm.Cond.codeWith ({ cls := "CountcoteLaw", name := "clear", desc := "(LCountcote;I[J)I" } : Jvm.MethodName) method_5_code (4 : Nat) (Option.some Jvm.ClassFile.FieldType.int) [((0 : Nat), (9 : Nat), (12 : Nat), (13 : Nat))]) ∈ lw_all := lw_g (lw_at lw_m2 234 rfl) rfl
theorem q502 : (Jvm.Cond.methodLink "CountcoteLaw" (23 : Nat) ({ cls := "Countcote", name := "clear", desc := "(I)I" } : Jvm.MethodName)) ∈ lw_all := lw_g (lw_at lw_m2 235 rfl) rfl
theorem q506 : (Jvm.Cond.methodLink "CountcoteLaw" (120 : Nat) ({ cls := "CountcoteLaw", name := "total", desc := "(LCountcote;I[J)I" } : Jvm.MethodName)) ∈ lw_all := lw_g (lw_at lw_m2 239 rfl) rfl
theorem q507 : (Jvm.Cond.static ({ cls := "CountcoteLaw", name := "total", desc := "(LCountcote;I[J)I" } : Jvm.MethodName)) ∈ lw_all := lw_g (lw_at lw_m3 0 rfl) rfl
theorem q508 : (Jvm.Cond.codeWith ({ cls := "CountcoteLaw", name := "total", desc := "(LCountcote;I[J)I" } : Jvm.MethodName) method_6_code (4 : Nat) (Option.some Jvm.ClassFile.FieldType.int) [((0 : Nat), (9 : Nat), (12 : Nat), (13 : Nat))]) ∈ lw_all := lw_g (lw_at lw_m3 1 rfl) rfl
theorem q509 : (Jvm.Cond.methodLink "CountcoteLaw" (27 : Nat) ({ cls := "Countcote", name := "total", desc := "(I)I" } : Jvm.MethodName)) ∈ lw_all := lw_g (lw_at lw_m3 2 rfl) rfl
theorem q513 : (Jvm.Cond.methodLink "CountcoteLaw" (123 : Nat) ({ cls := "CountcoteLaw", name := "count", desc := "(LCountcote;II[J)I" } : Jvm.MethodName)) ∈ lw_all := lw_g (lw_at lw_m3 6 rfl) rfl
theorem q514 : (Jvm.Cond.static ({ cls := "CountcoteLaw", name := "count", desc := "(LCountcote;II[J)I" } : Jvm.MethodName)) ∈ lw_all := lw_g (lw_at lw_m3 7 rfl) rfl
theorem q515 : (Jvm.Cond.codeWith ({ cls := "CountcoteLaw", name := "count", desc := "(LCountcote;II[J)I" } : Jvm.MethodName) method_7_code (5 : Nat) (Option.some Jvm.ClassFile.FieldType.int) [((0 : Nat), (10 : Nat), (13 : Nat), (13 : Nat))]) ∈ lw_all := lw_g (lw_at lw_m3 8 rfl) rfl
theorem q516 : (Jvm.Cond.methodLink "CountcoteLaw" (30 : Nat) ({ cls := "Countcote", name := "count", desc := "(II)I" } : Jvm.MethodName)) ∈ lw_all := lw_g (lw_at lw_m3 9 rfl) rfl
theorem q520 : (Jvm.Cond.methodLink "CountcoteLaw" (126 : Nat) ({ cls := "CountcoteLaw", name := "countOfRange", desc := "(LCountcote;III[J)I" } : Jvm.MethodName)) ∈ lw_all := lw_g (lw_at lw_m3 13 rfl) rfl
theorem q521 : (Jvm.Cond.static ({ cls := "CountcoteLaw", name := "countOfRange", desc := "(LCountcote;III[J)I" } : Jvm.MethodName)) ∈ lw_all := lw_g (lw_at lw_m3 14 rfl) rfl
theorem q522 : (Jvm.Cond.codeWith ({ cls := "CountcoteLaw", name := "countOfRange", desc := "(LCountcote;III[J)I" } : Jvm.MethodName) method_8_code (6 : Nat) (Option.some Jvm.ClassFile.FieldType.int) [((0 : Nat), (12 : Nat), (15 : Nat), (13 : Nat)), ((0 : Nat), (12 : Nat), (19 : Nat), (15 : Nat))]) ∈ lw_all := lw_g (lw_at lw_m3 15 rfl) rfl
theorem q523 : (Jvm.Cond.methodLink "CountcoteLaw" (33 : Nat) ({ cls := "Countcote", name := "countOfRange", desc := "(III)I" } : Jvm.MethodName)) ∈ lw_all := lw_g (lw_at lw_m3 16 rfl) rfl
theorem q530 : (Jvm.Cond.methodLink "CountcoteLaw" (129 : Nat) ({ cls := "CountcoteLaw", name := "product", desc := "(LCountcote;II[J)I" } : Jvm.MethodName)) ∈ lw_all := lw_g (lw_at lw_m3 23 rfl) rfl
theorem q531 : (Jvm.Cond.static ({ cls := "CountcoteLaw", name := "product", desc := "(LCountcote;II[J)I" } : Jvm.MethodName)) ∈ lw_all := lw_g (lw_at lw_m3 24 rfl) rfl
theorem q532 : (Jvm.Cond.codeWith ({ cls := "CountcoteLaw", name := "product", desc := "(LCountcote;II[J)I" } : Jvm.MethodName) method_9_code (5 : Nat) (Option.some Jvm.ClassFile.FieldType.int) [((0 : Nat), (9 : Nat), (12 : Nat), (13 : Nat))]) ∈ lw_all := lw_g (lw_at lw_m3 25 rfl) rfl
theorem q533 : (Jvm.Cond.methodLink "CountcoteLaw" (36 : Nat) ({ cls := "Countcote", name := "product", desc := "(II)J" } : Jvm.MethodName)) ∈ lw_all := lw_g (lw_at lw_m3 26 rfl) rfl
theorem q537 : (Jvm.Cond.methodLink "CountcoteLaw" (132 : Nat) ({ cls := "CountcoteLaw", name := "column", desc := "(LCountcote;II[J)I" } : Jvm.MethodName)) ∈ lw_all := lw_g (lw_at lw_m3 30 rfl) rfl
theorem q538 : (Jvm.Cond.static ({ cls := "CountcoteLaw", name := "column", desc := "(LCountcote;II[J)I" } : Jvm.MethodName)) ∈ lw_all := lw_g (lw_at lw_m3 31 rfl) rfl
theorem q539 : (Jvm.Cond.codeWith ({ cls := "CountcoteLaw", name := "column", desc := "(LCountcote;II[J)I" } : Jvm.MethodName) method_10_code (5 : Nat) (Option.some Jvm.ClassFile.FieldType.int) [((0 : Nat), (10 : Nat), (13 : Nat), (13 : Nat))]) ∈ lw_all := lw_g (lw_at lw_m3 32 rfl) rfl
theorem q540 : (Jvm.Cond.methodLink "CountcoteLaw" (40 : Nat) ({ cls := "Countcote", name := "column", desc := "(II)I" } : Jvm.MethodName)) ∈ lw_all := lw_g (lw_at lw_m3 33 rfl) rfl
theorem q544 : (Jvm.Cond.methodLink "CountcoteLaw" (135 : Nat) ({ cls := "CountcoteLaw", name := "cell", desc := "(LCountcote;IIII[J)I" } : Jvm.MethodName)) ∈ lw_all := lw_g (lw_at lw_m3 37 rfl) rfl
theorem q545 : (Jvm.Cond.static ({ cls := "CountcoteLaw", name := "cell", desc := "(LCountcote;IIII[J)I" } : Jvm.MethodName)) ∈ lw_all := lw_g (lw_at lw_m3 38 rfl) rfl
theorem q546 : (Jvm.Cond.codeWith ({ cls := "CountcoteLaw", name := "cell", desc := "(LCountcote;IIII[J)I" } : Jvm.MethodName) method_11_code (7 : Nat) (Option.some Jvm.ClassFile.FieldType.int) [((0 : Nat), (14 : Nat), (17 : Nat), (13 : Nat))]) ∈ lw_all := lw_g (lw_at lw_m3 39 rfl) rfl
theorem q547 : (Jvm.Cond.methodLink "CountcoteLaw" (43 : Nat) ({ cls := "Countcote", name := "cell", desc := "(IIII)I" } : Jvm.MethodName)) ∈ lw_all := lw_g (lw_at lw_m3 40 rfl) rfl
theorem q551 : (Jvm.Cond.methodLink "CountcoteLaw" (139 : Nat) ({ cls := "CountcoteLaw", name := "estimate", desc := "(LCountcote;III[J)I" } : Jvm.MethodName)) ∈ lw_all := lw_g (lw_at lw_m3 44 rfl) rfl
theorem q552 : (Jvm.Cond.static ({ cls := "CountcoteLaw", name := "estimate", desc := "(LCountcote;III[J)I" } : Jvm.MethodName)) ∈ lw_all := lw_g (lw_at lw_m3 45 rfl) rfl
theorem q553 : (Jvm.Cond.codeWith ({ cls := "CountcoteLaw", name := "estimate", desc := "(LCountcote;III[J)I" } : Jvm.MethodName) method_12_code (6 : Nat) (Option.some Jvm.ClassFile.FieldType.int) [((0 : Nat), (12 : Nat), (15 : Nat), (13 : Nat))]) ∈ lw_all := lw_g (lw_at lw_m3 46 rfl) rfl
theorem q554 : (Jvm.Cond.methodLink "CountcoteLaw" (47 : Nat) ({ cls := "Countcote", name := "estimate", desc := "(III)I" } : Jvm.MethodName)) ∈ lw_all := lw_g (lw_at lw_m3 47 rfl) rfl
theorem q559 : (Jvm.Cond.methodLink "CountcoteLaw" (142 : Nat) ({ cls := "CountcoteLaw", name := "share", desc := "(LCountcote;II[D)I" } : Jvm.MethodName)) ∈ lw_all := lw_g (lw_at lw_m3 52 rfl) rfl
theorem q560 : (Jvm.Cond.static ({ cls := "CountcoteLaw", name := "share", desc := "(LCountcote;II[D)I" } : Jvm.MethodName)) ∈ lw_all := lw_g (lw_at lw_m3 53 rfl) rfl
theorem q561 : (Jvm.Cond.codeWith ({ cls := "CountcoteLaw", name := "share", desc := "(LCountcote;II[D)I" } : Jvm.MethodName) method_13_code (5 : Nat) (Option.some Jvm.ClassFile.FieldType.int) [((0 : Nat), (9 : Nat), (12 : Nat), (13 : Nat))]) ∈ lw_all := lw_g (lw_at lw_m3 54 rfl) rfl
theorem q562 : (Jvm.Cond.methodLink "CountcoteLaw" (50 : Nat) ({ cls := "Countcote", name := "share", desc := "(II)D" } : Jvm.MethodName)) ∈ lw_all := lw_g (lw_at lw_m3 55 rfl) rfl
theorem q566 : (Jvm.Cond.methodLink "CountcoteLaw" (146 : Nat) ({ cls := "CountcoteLaw", name := "parts", desc := "(LCountcote;II[J)I" } : Jvm.MethodName)) ∈ lw_all := lw_g (lw_at lw_m3 59 rfl) rfl
theorem q567 : (Jvm.Cond.static ({ cls := "CountcoteLaw", name := "parts", desc := "(LCountcote;II[J)I" } : Jvm.MethodName)) ∈ lw_all := lw_g (lw_at lw_m3 60 rfl) rfl
theorem q568 : (Jvm.Cond.codeWith ({ cls := "CountcoteLaw", name := "parts", desc := "(LCountcote;II[J)I" } : Jvm.MethodName) method_14_code (5 : Nat) (Option.some Jvm.ClassFile.FieldType.int) [((0 : Nat), (10 : Nat), (13 : Nat), (13 : Nat)), ((0 : Nat), (10 : Nat), (17 : Nat), (15 : Nat))]) ∈ lw_all := lw_g (lw_at lw_m3 61 rfl) rfl
theorem q569 : (Jvm.Cond.methodLink "CountcoteLaw" (54 : Nat) ({ cls := "Countcote", name := "parts", desc := "(II)I" } : Jvm.MethodName)) ∈ lw_all := lw_g (lw_at lw_m3 62 rfl) rfl
theorem q670 : (Jvm.Cond.methodLink "CountcoteLaw" (149 : Nat) ({ cls := "CountcoteLaw", name := "estimateOfRange", desc := "(LCountcote;III[J)I" } : Jvm.MethodName)) ∈ lw_all := lw_g (lw_at lw_m3 163 rfl) rfl
theorem q671 : (Jvm.Cond.static ({ cls := "CountcoteLaw", name := "estimateOfRange", desc := "(LCountcote;III[J)I" } : Jvm.MethodName)) ∈ lw_all := lw_g (lw_at lw_m3 164 rfl) rfl
theorem q672 : (Jvm.Cond.codeWith ({ cls := "CountcoteLaw", name := "estimateOfRange", desc := "(LCountcote;III[J)I" } : Jvm.MethodName) method_15_code (6 : Nat) (Option.some Jvm.ClassFile.FieldType.int) [((0 : Nat), (12 : Nat), (15 : Nat), (13 : Nat)), ((0 : Nat), (12 : Nat), (19 : Nat), (15 : Nat))]) ∈ lw_all := lw_g (lw_at lw_m3 165 rfl) rfl
theorem q673 : (Jvm.Cond.methodLink "CountcoteLaw" (57 : Nat) ({ cls := "Countcote", name := "estimateOfRange", desc := "(III)I" } : Jvm.MethodName)) ∈ lw_all := lw_g (lw_at lw_m3 166 rfl) rfl
theorem q685 : (Jvm.Cond.methodLink "CountcoteLaw" (152 : Nat) ({ cls := "CountcoteLaw", name := "frequent", desc := "(LCountcote;II[J)I" } : Jvm.MethodName)) ∈ lw_all := lw_g (lw_at lw_m3 178 rfl) rfl
theorem q686 : (Jvm.Cond.static ({ cls := "CountcoteLaw", name := "frequent", desc := "(LCountcote;II[J)I" } : Jvm.MethodName)) ∈ lw_all := lw_g (lw_at lw_m3 179 rfl) rfl
theorem q687 : (Jvm.Cond.codeWith ({ cls := "CountcoteLaw", name := "frequent", desc := "(LCountcote;II[J)I" } : Jvm.MethodName) method_16_code (5 : Nat) (Option.some Jvm.ClassFile.FieldType.int) [((0 : Nat), (10 : Nat), (13 : Nat), (13 : Nat)), ((0 : Nat), (10 : Nat), (17 : Nat), (15 : Nat))]) ∈ lw_all := lw_g (lw_at lw_m3 180 rfl) rfl
theorem q688 : (Jvm.Cond.methodLink "CountcoteLaw" (60 : Nat) ({ cls := "Countcote", name := "frequent", desc := "(II)I" } : Jvm.MethodName)) ∈ lw_all := lw_g (lw_at lw_m3 181 rfl) rfl
theorem q700 : (Jvm.Cond.methodLink "CountcoteLaw" (155 : Nat) ({ cls := "CountcoteLaw", name := "frequentAt", desc := "(LCountcote;III[J)I" } : Jvm.MethodName)) ∈ lw_all := lw_g (lw_at lw_m3 193 rfl) rfl
theorem q701 : (Jvm.Cond.static ({ cls := "CountcoteLaw", name := "frequentAt", desc := "(LCountcote;III[J)I" } : Jvm.MethodName)) ∈ lw_all := lw_g (lw_at lw_m3 194 rfl) rfl
theorem q702 : (Jvm.Cond.codeWith ({ cls := "CountcoteLaw", name := "frequentAt", desc := "(LCountcote;III[J)I" } : Jvm.MethodName) method_17_code (6 : Nat) (Option.some Jvm.ClassFile.FieldType.int) [((0 : Nat), (12 : Nat), (15 : Nat), (13 : Nat)), ((0 : Nat), (12 : Nat), (19 : Nat), (15 : Nat)), ((0 : Nat), (12 : Nat), (23 : Nat), (66 : Nat))]) ∈ lw_all := lw_g (lw_at lw_m3 195 rfl) rfl
theorem q703 : (Jvm.Cond.classLink "CountcoteLaw" (66 : Nat) "java/util/NoSuchElementException") ∈ lw_all := lw_g (lw_at lw_m3 196 rfl) rfl
theorem q704 : (Jvm.Cond.methodLink "CountcoteLaw" (63 : Nat) ({ cls := "Countcote", name := "frequentAt", desc := "(III)I" } : Jvm.MethodName)) ∈ lw_all := lw_g (lw_at lw_m3 197 rfl) rfl
theorem q710 : (Jvm.Cond.methodLink "CountcoteLaw" (158 : Nat) ({ cls := "CountcoteLaw", name := "itemOfRank", desc := "(LCountcote;II[J)I" } : Jvm.MethodName)) ∈ lw_all := lw_g (lw_at lw_m3 203 rfl) rfl
theorem q711 : (Jvm.Cond.static ({ cls := "CountcoteLaw", name := "itemOfRank", desc := "(LCountcote;II[J)I" } : Jvm.MethodName)) ∈ lw_all := lw_g (lw_at lw_m3 204 rfl) rfl
theorem q712 : (Jvm.Cond.codeWith ({ cls := "CountcoteLaw", name := "itemOfRank", desc := "(LCountcote;II[J)I" } : Jvm.MethodName) method_18_code (5 : Nat) (Option.some Jvm.ClassFile.FieldType.int) [((0 : Nat), (10 : Nat), (13 : Nat), (13 : Nat)), ((0 : Nat), (10 : Nat), (17 : Nat), (15 : Nat))]) ∈ lw_all := lw_g (lw_at lw_m3 205 rfl) rfl
theorem q713 : (Jvm.Cond.methodLink "CountcoteLaw" (68 : Nat) ({ cls := "Countcote", name := "itemOfRank", desc := "(II)I" } : Jvm.MethodName)) ∈ lw_all := lw_g (lw_at lw_m3 206 rfl) rfl
theorem q717 : (Jvm.Cond.methodLink "CountcoteLaw" (161 : Nat) ({ cls := "CountcoteLaw", name := "signedColumn", desc := "(LCountcote;II[J)I" } : Jvm.MethodName)) ∈ lw_all := lw_g (lw_at lw_m3 210 rfl) rfl
theorem q718 : (Jvm.Cond.static ({ cls := "CountcoteLaw", name := "signedColumn", desc := "(LCountcote;II[J)I" } : Jvm.MethodName)) ∈ lw_all := lw_g (lw_at lw_m3 211 rfl) rfl
theorem q719 : (Jvm.Cond.codeWith ({ cls := "CountcoteLaw", name := "signedColumn", desc := "(LCountcote;II[J)I" } : Jvm.MethodName) method_19_code (5 : Nat) (Option.some Jvm.ClassFile.FieldType.int) [((0 : Nat), (10 : Nat), (13 : Nat), (13 : Nat))]) ∈ lw_all := lw_g (lw_at lw_m3 212 rfl) rfl
theorem q720 : (Jvm.Cond.methodLink "CountcoteLaw" (71 : Nat) ({ cls := "Countcote", name := "signedColumn", desc := "(II)I" } : Jvm.MethodName)) ∈ lw_all := lw_g (lw_at lw_m3 213 rfl) rfl
theorem q724 : (Jvm.Cond.methodLink "CountcoteLaw" (164 : Nat) ({ cls := "CountcoteLaw", name := "sign", desc := "(LCountcote;II[J)I" } : Jvm.MethodName)) ∈ lw_all := lw_g (lw_at lw_m3 217 rfl) rfl
theorem q725 : (Jvm.Cond.static ({ cls := "CountcoteLaw", name := "sign", desc := "(LCountcote;II[J)I" } : Jvm.MethodName)) ∈ lw_all := lw_g (lw_at lw_m3 218 rfl) rfl
theorem q726 : (Jvm.Cond.codeWith ({ cls := "CountcoteLaw", name := "sign", desc := "(LCountcote;II[J)I" } : Jvm.MethodName) method_20_code (5 : Nat) (Option.some Jvm.ClassFile.FieldType.int) [((0 : Nat), (10 : Nat), (13 : Nat), (13 : Nat))]) ∈ lw_all := lw_g (lw_at lw_m3 219 rfl) rfl
theorem q727 : (Jvm.Cond.methodLink "CountcoteLaw" (74 : Nat) ({ cls := "Countcote", name := "sign", desc := "(II)I" } : Jvm.MethodName)) ∈ lw_all := lw_g (lw_at lw_m3 220 rfl) rfl
theorem q732 : (Jvm.Cond.methodLink "CountcoteLaw" (167 : Nat) ({ cls := "CountcoteLaw", name := "signedCell", desc := "(LCountcote;III[J)I" } : Jvm.MethodName)) ∈ lw_all := lw_g (lw_at lw_m3 225 rfl) rfl
theorem q733 : (Jvm.Cond.static ({ cls := "CountcoteLaw", name := "signedCell", desc := "(LCountcote;III[J)I" } : Jvm.MethodName)) ∈ lw_all := lw_g (lw_at lw_m3 226 rfl) rfl
theorem q734 : (Jvm.Cond.codeWith ({ cls := "CountcoteLaw", name := "signedCell", desc := "(LCountcote;III[J)I" } : Jvm.MethodName) method_21_code (6 : Nat) (Option.some Jvm.ClassFile.FieldType.int) [((0 : Nat), (12 : Nat), (15 : Nat), (13 : Nat))]) ∈ lw_all := lw_g (lw_at lw_m3 227 rfl) rfl
theorem q735 : (Jvm.Cond.methodLink "CountcoteLaw" (77 : Nat) ({ cls := "Countcote", name := "signedCell", desc := "(III)I" } : Jvm.MethodName)) ∈ lw_all := lw_g (lw_at lw_m3 228 rfl) rfl
theorem q739 : (Jvm.Cond.methodLink "CountcoteLaw" (170 : Nat) ({ cls := "CountcoteLaw", name := "signedEstimate", desc := "(LCountcote;II[J)I" } : Jvm.MethodName)) ∈ lw_all := lw_g (lw_at lw_m3 232 rfl) rfl
theorem q740 : (Jvm.Cond.static ({ cls := "CountcoteLaw", name := "signedEstimate", desc := "(LCountcote;II[J)I" } : Jvm.MethodName)) ∈ lw_all := lw_g (lw_at lw_m3 233 rfl) rfl
theorem q741 : (Jvm.Cond.codeWith ({ cls := "CountcoteLaw", name := "signedEstimate", desc := "(LCountcote;II[J)I" } : Jvm.MethodName) method_22_code (5 : Nat) (Option.some Jvm.ClassFile.FieldType.int) [((0 : Nat), (10 : Nat), (13 : Nat), (13 : Nat))]) ∈ lw_all := lw_g (lw_at lw_m3 234 rfl) rfl
theorem q742 : (Jvm.Cond.methodLink "CountcoteLaw" (80 : Nat) ({ cls := "Countcote", name := "signedEstimate", desc := "(II)I" } : Jvm.MethodName)) ∈ lw_all := lw_g (lw_at lw_m3 235 rfl) rfl
theorem q747 : (Jvm.Cond.methodLink "CountcoteLaw" (173 : Nat) ({ cls := "CountcoteLaw", name := "signedProduct", desc := "(LCountcote;II[J)I" } : Jvm.MethodName)) ∈ lw_all := lw_g (lw_at lw_m4 0 rfl) rfl
theorem q748 : (Jvm.Cond.static ({ cls := "CountcoteLaw", name := "signedProduct", desc := "(LCountcote;II[J)I" } : Jvm.MethodName)) ∈ lw_all := lw_g (lw_at lw_m4 1 rfl) rfl
theorem q749 : (Jvm.Cond.codeWith ({ cls := "CountcoteLaw", name := "signedProduct", desc := "(LCountcote;II[J)I" } : Jvm.MethodName) method_23_code (5 : Nat) (Option.some Jvm.ClassFile.FieldType.int) [((0 : Nat), (9 : Nat), (12 : Nat), (13 : Nat))]) ∈ lw_all := lw_g (lw_at lw_m4 2 rfl) rfl
theorem q750 : (Jvm.Cond.methodLink "CountcoteLaw" (83 : Nat) ({ cls := "Countcote", name := "signedProduct", desc := "(II)J" } : Jvm.MethodName)) ∈ lw_all := lw_g (lw_at lw_m4 3 rfl) rfl
theorem q755 : (Jvm.Cond.methodLink "CountcoteLaw" (176 : Nat) ({ cls := "CountcoteLaw", name := "counters", desc := "(LCountcote;I[J)I" } : Jvm.MethodName)) ∈ lw_all := lw_g (lw_at lw_m4 8 rfl) rfl
theorem q756 : (Jvm.Cond.static ({ cls := "CountcoteLaw", name := "counters", desc := "(LCountcote;I[J)I" } : Jvm.MethodName)) ∈ lw_all := lw_g (lw_at lw_m4 9 rfl) rfl
theorem q757 : (Jvm.Cond.codeWith ({ cls := "CountcoteLaw", name := "counters", desc := "(LCountcote;I[J)I" } : Jvm.MethodName) method_24_code (4 : Nat) (Option.some Jvm.ClassFile.FieldType.int) [((0 : Nat), (9 : Nat), (12 : Nat), (13 : Nat))]) ∈ lw_all := lw_g (lw_at lw_m4 10 rfl) rfl
theorem q758 : (Jvm.Cond.methodLink "CountcoteLaw" (86 : Nat) ({ cls := "Countcote", name := "counters", desc := "(I)I" } : Jvm.MethodName)) ∈ lw_all := lw_g (lw_at lw_m4 11 rfl) rfl
theorem q764 : (Jvm.Cond.methodLink "CountcoteLaw" (179 : Nat) ({ cls := "CountcoteLaw", name := "counterItem", desc := "(LCountcote;II[J)I" } : Jvm.MethodName)) ∈ lw_all := lw_g (lw_at lw_m4 17 rfl) rfl
theorem q765 : (Jvm.Cond.static ({ cls := "CountcoteLaw", name := "counterItem", desc := "(LCountcote;II[J)I" } : Jvm.MethodName)) ∈ lw_all := lw_g (lw_at lw_m4 18 rfl) rfl
theorem q766 : (Jvm.Cond.codeWith ({ cls := "CountcoteLaw", name := "counterItem", desc := "(LCountcote;II[J)I" } : Jvm.MethodName) method_25_code (5 : Nat) (Option.some Jvm.ClassFile.FieldType.int) [((0 : Nat), (10 : Nat), (13 : Nat), (13 : Nat))]) ∈ lw_all := lw_g (lw_at lw_m4 19 rfl) rfl
theorem q767 : (Jvm.Cond.methodLink "CountcoteLaw" (89 : Nat) ({ cls := "Countcote", name := "counterItem", desc := "(II)I" } : Jvm.MethodName)) ∈ lw_all := lw_g (lw_at lw_m4 20 rfl) rfl
theorem q774 : (Jvm.Cond.methodLink "CountcoteLaw" (182 : Nat) ({ cls := "CountcoteLaw", name := "counterOf", desc := "(LCountcote;II[J)I" } : Jvm.MethodName)) ∈ lw_all := lw_g (lw_at lw_m4 27 rfl) rfl
theorem q775 : (Jvm.Cond.static ({ cls := "CountcoteLaw", name := "counterOf", desc := "(LCountcote;II[J)I" } : Jvm.MethodName)) ∈ lw_all := lw_g (lw_at lw_m4 28 rfl) rfl
theorem q776 : (Jvm.Cond.codeWith ({ cls := "CountcoteLaw", name := "counterOf", desc := "(LCountcote;II[J)I" } : Jvm.MethodName) method_26_code (5 : Nat) (Option.some Jvm.ClassFile.FieldType.int) [((0 : Nat), (10 : Nat), (13 : Nat), (13 : Nat))]) ∈ lw_all := lw_g (lw_at lw_m4 29 rfl) rfl
theorem q777 : (Jvm.Cond.methodLink "CountcoteLaw" (92 : Nat) ({ cls := "Countcote", name := "counterOf", desc := "(II)I" } : Jvm.MethodName)) ∈ lw_all := lw_g (lw_at lw_m4 30 rfl) rfl
theorem q782 : (Jvm.Cond.methodLink "CountcoteLaw" (185 : Nat) ({ cls := "CountcoteLaw", name := "taken", desc := "(LCountcote;I[J)I" } : Jvm.MethodName)) ∈ lw_all := lw_g (lw_at lw_m4 35 rfl) rfl
theorem q783 : (Jvm.Cond.static ({ cls := "CountcoteLaw", name := "taken", desc := "(LCountcote;I[J)I" } : Jvm.MethodName)) ∈ lw_all := lw_g (lw_at lw_m4 36 rfl) rfl
theorem q784 : (Jvm.Cond.codeWith ({ cls := "CountcoteLaw", name := "taken", desc := "(LCountcote;I[J)I" } : Jvm.MethodName) method_27_code (4 : Nat) (Option.some Jvm.ClassFile.FieldType.int) [((0 : Nat), (9 : Nat), (12 : Nat), (13 : Nat))]) ∈ lw_all := lw_g (lw_at lw_m4 37 rfl) rfl
theorem q785 : (Jvm.Cond.methodLink "CountcoteLaw" (95 : Nat) ({ cls := "Countcote", name := "taken", desc := "(I)I" } : Jvm.MethodName)) ∈ lw_all := lw_g (lw_at lw_m4 38 rfl) rfl
theorem q789 : (Jvm.Cond.classLink "CountcoteLaw" (99 : Nat) "CountcoteModel") ∈ lw_all := lw_g (lw_at lw_m4 42 rfl) rfl
theorem q791 : (Jvm.Cond.methodLink "CountcoteLaw" (101 : Nat) ({ cls := "CountcoteModel", name := "<init>", desc := "()V" } : Jvm.MethodName)) ∈ lw_all := lw_g (lw_at lw_m4 44 rfl) rfl
theorem q823 : (Jvm.Cond.methodLink "CountcoteLaw" (108 : Nat) ({ cls := "CountcoteModel", name := "thrown", desc := "()I" } : Jvm.MethodName)) ∈ lw_all := lw_g (lw_at lw_m4 76 rfl) rfl
theorem q827 : (Jvm.Cond.methodLink "CountcoteLaw" (107 : Nat) ({ cls := "CountcoteModel", name := "add", desc := "(III)I" } : Jvm.MethodName)) ∈ lw_all := lw_g (lw_at lw_m4 80 rfl) rfl
theorem q882 : (Jvm.Cond.methodLink "CountcoteLaw" (115 : Nat) ({ cls := "CountcoteModel", name := "merge", desc := "(II)I" } : Jvm.MethodName)) ∈ lw_all := lw_g (lw_at lw_m4 135 rfl) rfl
theorem q894 : (Jvm.Cond.methodLink "CountcoteLaw" (119 : Nat) ({ cls := "CountcoteModel", name := "clear", desc := "(I)I" } : Jvm.MethodName)) ∈ lw_all := lw_g (lw_at lw_m4 147 rfl) rfl
theorem q898 : (Jvm.Cond.methodLink "CountcoteLaw" (122 : Nat) ({ cls := "CountcoteModel", name := "total", desc := "(I)I" } : Jvm.MethodName)) ∈ lw_all := lw_g (lw_at lw_m4 151 rfl) rfl
theorem q902 : (Jvm.Cond.methodLink "CountcoteLaw" (125 : Nat) ({ cls := "CountcoteModel", name := "count", desc := "(II)I" } : Jvm.MethodName)) ∈ lw_all := lw_g (lw_at lw_m4 155 rfl) rfl
theorem q910 : (Jvm.Cond.methodLink "CountcoteLaw" (128 : Nat) ({ cls := "CountcoteModel", name := "countOfRange", desc := "(III)I" } : Jvm.MethodName)) ∈ lw_all := lw_g (lw_at lw_m4 163 rfl) rfl
theorem q918 : (Jvm.Cond.methodLink "CountcoteLaw" (131 : Nat) ({ cls := "CountcoteModel", name := "product", desc := "(II)J" } : Jvm.MethodName)) ∈ lw_all := lw_g (lw_at lw_m4 171 rfl) rfl
theorem q922 : (Jvm.Cond.methodLink "CountcoteLaw" (134 : Nat) ({ cls := "CountcoteModel", name := "column", desc := "(II)I" } : Jvm.MethodName)) ∈ lw_all := lw_g (lw_at lw_m4 175 rfl) rfl
theorem q926 : (Jvm.Cond.methodLink "CountcoteLaw" (138 : Nat) ({ cls := "CountcoteModel", name := "cell", desc := "(IIII)I" } : Jvm.MethodName)) ∈ lw_all := lw_g (lw_at lw_m4 179 rfl) rfl
theorem q930 : (Jvm.Cond.methodLink "CountcoteLaw" (141 : Nat) ({ cls := "CountcoteModel", name := "estimate", desc := "(III)I" } : Jvm.MethodName)) ∈ lw_all := lw_g (lw_at lw_m4 183 rfl) rfl
theorem q934 : (Jvm.Cond.methodLink "CountcoteLaw" (145 : Nat) ({ cls := "CountcoteModel", name := "share", desc := "(II)D" } : Jvm.MethodName)) ∈ lw_all := lw_g (lw_at lw_m4 187 rfl) rfl
theorem q938 : (Jvm.Cond.methodLink "CountcoteLaw" (148 : Nat) ({ cls := "CountcoteModel", name := "parts", desc := "(II)I" } : Jvm.MethodName)) ∈ lw_all := lw_g (lw_at lw_m4 191 rfl) rfl
theorem q945 : (Jvm.Cond.methodLink "CountcoteLaw" (151 : Nat) ({ cls := "CountcoteModel", name := "estimateOfRange", desc := "(III)I" } : Jvm.MethodName)) ∈ lw_all := lw_g (lw_at lw_m4 198 rfl) rfl
theorem q949 : (Jvm.Cond.methodLink "CountcoteLaw" (154 : Nat) ({ cls := "CountcoteModel", name := "frequent", desc := "(II)I" } : Jvm.MethodName)) ∈ lw_all := lw_g (lw_at lw_m4 202 rfl) rfl
theorem q961 : (Jvm.Cond.methodLink "CountcoteLaw" (157 : Nat) ({ cls := "CountcoteModel", name := "frequentAt", desc := "(III)I" } : Jvm.MethodName)) ∈ lw_all := lw_g (lw_at lw_m4 214 rfl) rfl
theorem q965 : (Jvm.Cond.methodLink "CountcoteLaw" (160 : Nat) ({ cls := "CountcoteModel", name := "itemOfRank", desc := "(II)I" } : Jvm.MethodName)) ∈ lw_all := lw_g (lw_at lw_m4 218 rfl) rfl
theorem q969 : (Jvm.Cond.methodLink "CountcoteLaw" (163 : Nat) ({ cls := "CountcoteModel", name := "signedColumn", desc := "(II)I" } : Jvm.MethodName)) ∈ lw_all := lw_g (lw_at lw_m4 222 rfl) rfl
theorem q976 : (Jvm.Cond.methodLink "CountcoteLaw" (166 : Nat) ({ cls := "CountcoteModel", name := "sign", desc := "(II)I" } : Jvm.MethodName)) ∈ lw_all := lw_g (lw_at lw_m4 229 rfl) rfl
theorem q983 : (Jvm.Cond.methodLink "CountcoteLaw" (169 : Nat) ({ cls := "CountcoteModel", name := "signedCell", desc := "(III)I" } : Jvm.MethodName)) ∈ lw_all := lw_g (lw_at lw_m4 236 rfl) rfl
theorem q991 : (Jvm.Cond.methodLink "CountcoteLaw" (172 : Nat) ({ cls := "CountcoteModel", name := "signedEstimate", desc := "(II)I" } : Jvm.MethodName)) ∈ lw_all := lw_g (lw_at lw_m5 4 rfl) rfl
theorem q999 : (Jvm.Cond.methodLink "CountcoteLaw" (175 : Nat) ({ cls := "CountcoteModel", name := "signedProduct", desc := "(II)J" } : Jvm.MethodName)) ∈ lw_all := lw_g (lw_at lw_m5 12 rfl) rfl
theorem q1003 : (Jvm.Cond.methodLink "CountcoteLaw" (178 : Nat) ({ cls := "CountcoteModel", name := "counters", desc := "(I)I" } : Jvm.MethodName)) ∈ lw_all := lw_g (lw_at lw_m5 16 rfl) rfl
theorem q1007 : (Jvm.Cond.methodLink "CountcoteLaw" (181 : Nat) ({ cls := "CountcoteModel", name := "counterItem", desc := "(II)I" } : Jvm.MethodName)) ∈ lw_all := lw_g (lw_at lw_m5 20 rfl) rfl
theorem q1011 : (Jvm.Cond.methodLink "CountcoteLaw" (184 : Nat) ({ cls := "CountcoteModel", name := "counterOf", desc := "(II)I" } : Jvm.MethodName)) ∈ lw_all := lw_g (lw_at lw_m5 24 rfl) rfl
theorem q1015 : (Jvm.Cond.methodLink "CountcoteLaw" (187 : Nat) ({ cls := "CountcoteModel", name := "taken", desc := "(I)I" } : Jvm.MethodName)) ∈ lw_all := lw_g (lw_at lw_m5 28 rfl) rfl
