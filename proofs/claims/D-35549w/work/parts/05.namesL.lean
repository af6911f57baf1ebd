set_option maxRecDepth 100000
/-! the law's own entry -/
set_option maxRecDepth 100000
abbrev cL_law : ByteArray := code
def dkwL_law_66 : List UInt8 := [167, 249, 208, 4, 172]
abbrev dktL_law_66 : List UInt8 := dkwL_law_66 ++ []
def dkwL_law_65 : List UInt8 := [153, 0, 5, 3, 172, 167, 0, 16, 43, 182, 0, 168, 44, 182, 0, 171, 159, 0, 5, 3, 172, 132, 4, 5]
abbrev dktL_law_65 : List UInt8 := dkwL_law_65 ++ dktL_law_66
def dkwL_law_64 : List UInt8 := [159, 0, 5, 3, 172, 21, 5, 154, 0, 22, 45, 3, 47, 21, 6, 153, 0, 7, 10, 167, 0, 4, 9, 148]
abbrev dktL_law_64 : List UInt8 := dkwL_law_64 ++ dktL_law_65
def dkwL_law_63 : List UInt8 := [21, 4, 4, 96, 46, 42, 21, 4, 5, 96, 46, 182, 0, 167, 54, 6, 44, 182, 0, 97, 21, 5]
abbrev dktL_law_63 : List UInt8 := dkwL_law_63 ++ dktL_law_64
def dkwL_law_62 : List UInt8 := [167, 0, 91, 43, 42, 21, 4, 4, 96, 46, 42, 21, 4, 5, 96, 46, 45, 184, 0, 165, 54, 5, 44, 42]
abbrev dktL_law_62 : List UInt8 := dkwL_law_62 ++ dktL_law_63
def dkwL_law_61 : List UInt8 := [159, 0, 5, 3, 172, 21, 5, 154, 0, 15, 45, 3, 47, 21, 6, 133, 148, 153, 0, 5, 3, 172]
abbrev dktL_law_61 : List UInt8 := dkwL_law_61 ++ dktL_law_62
def dkwL_law_60 : List UInt8 := [21, 4, 4, 96, 46, 42, 21, 4, 5, 96, 46, 182, 0, 164, 54, 6, 44, 182, 0, 97, 21, 5]
abbrev dktL_law_60 : List UInt8 := dkwL_law_60 ++ dktL_law_61
def dkwL_law_59 : List UInt8 := [167, 0, 159, 43, 42, 21, 4, 4, 96, 46, 42, 21, 4, 5, 96, 46, 45, 184, 0, 162, 54, 5, 44, 42]
abbrev dktL_law_59 : List UInt8 := dkwL_law_59 ++ dktL_law_60
def dkwL_law_58 : List UInt8 := [159, 0, 5, 3, 172, 21, 5, 154, 0, 15, 45, 3, 47, 21, 6, 133, 148, 153, 0, 5, 3, 172]
abbrev dktL_law_58 : List UInt8 := dkwL_law_58 ++ dktL_law_59
def dkwL_law_57 : List UInt8 := [42, 21, 4, 6, 96, 46, 42, 21, 4, 7, 96, 46, 182, 0, 161, 54, 6, 44, 182, 0, 97, 21, 5]
abbrev dktL_law_57 : List UInt8 := dkwL_law_57 ++ dktL_law_58
def dkwL_law_56 : List UInt8 := [21, 4, 7, 96, 46, 45, 184, 0, 159, 54, 5, 44, 42, 21, 4, 4, 96, 46, 42, 21, 4, 5, 96, 46]
abbrev dktL_law_56 : List UInt8 := dkwL_law_56 ++ dktL_law_57
def dkwL_law_55 : List UInt8 := [167, 0, 251, 43, 42, 21, 4, 4, 96, 46, 42, 21, 4, 5, 96, 46, 42, 21, 4, 6, 96, 46, 42]
abbrev dktL_law_55 : List UInt8 := dkwL_law_55 ++ dktL_law_56
def dkwL_law_54 : List UInt8 := [159, 0, 5, 3, 172, 21, 5, 154, 0, 15, 45, 3, 47, 21, 6, 133, 148, 153, 0, 5, 3, 172]
abbrev dktL_law_54 : List UInt8 := dkwL_law_54 ++ dktL_law_55
def dkwL_law_53 : List UInt8 := [21, 4, 4, 96, 46, 42, 21, 4, 5, 96, 46, 182, 0, 158, 54, 6, 44, 182, 0, 97, 21, 5]
abbrev dktL_law_53 : List UInt8 := dkwL_law_53 ++ dktL_law_54
def dkwL_law_52 : List UInt8 := [167, 1, 63, 43, 42, 21, 4, 4, 96, 46, 42, 21, 4, 5, 96, 46, 45, 184, 0, 156, 54, 5, 44, 42]
abbrev dktL_law_52 : List UInt8 := dkwL_law_52 ++ dktL_law_53
def dkwL_law_51 : List UInt8 := [21, 5, 159, 0, 5, 3, 172, 21, 5, 154, 0, 15, 45, 3, 47, 21, 6, 133, 148, 153, 0, 5, 3, 172]
abbrev dktL_law_51 : List UInt8 := dkwL_law_51 ++ dktL_law_52
def dkwL_law_50 : List UInt8 := [96, 46, 42, 21, 4, 5, 96, 46, 42, 21, 4, 6, 96, 46, 182, 0, 155, 54, 6, 44, 182, 0, 97]
abbrev dktL_law_50 : List UInt8 := dkwL_law_50 ++ dktL_law_51
def dkwL_law_49 : List UInt8 := [46, 42, 21, 4, 5, 96, 46, 42, 21, 4, 6, 96, 46, 45, 184, 0, 153, 54, 5, 44, 42, 21, 4, 4]
abbrev dktL_law_49 : List UInt8 := dkwL_law_49 ++ dktL_law_50
def dkwL_law_48 : List UInt8 := [154, 0, 15, 45, 3, 47, 21, 6, 133, 148, 153, 0, 5, 3, 172, 167, 1, 143, 43, 42, 21, 4, 4, 96]
abbrev dktL_law_48 : List UInt8 := dkwL_law_48 ++ dktL_law_49
def dkwL_law_47 : List UInt8 := [42, 21, 4, 5, 96, 46, 182, 0, 152, 54, 6, 44, 182, 0, 97, 21, 5, 159, 0, 5, 3, 172, 21, 5]
abbrev dktL_law_47 : List UInt8 := dkwL_law_47 ++ dktL_law_48
def dkwL_law_46 : List UInt8 := [21, 4, 4, 96, 46, 42, 21, 4, 5, 96, 46, 45, 184, 0, 150, 54, 5, 44, 42, 21, 4, 4, 96, 46]
abbrev dktL_law_46 : List UInt8 := dkwL_law_46 ++ dktL_law_47
def dkwL_law_45 : List UInt8 := [172, 21, 5, 154, 0, 15, 45, 3, 47, 21, 6, 133, 148, 153, 0, 5, 3, 172, 167, 1, 211, 43, 42]
abbrev dktL_law_45 : List UInt8 := dkwL_law_45 ++ dktL_law_46
def dkwL_law_44 : List UInt8 := [54, 5, 44, 42, 21, 4, 4, 96, 46, 182, 0, 149, 54, 6, 44, 182, 0, 97, 21, 5, 159, 0, 5, 3]
abbrev dktL_law_44 : List UInt8 := dkwL_law_44 ++ dktL_law_45
def dkwL_law_43 : List UInt8 := [21, 6, 133, 148, 153, 0, 5, 3, 172, 167, 2, 11, 43, 42, 21, 4, 4, 96, 46, 45, 184, 0, 147]
abbrev dktL_law_43 : List UInt8 := dkwL_law_43 ++ dktL_law_44
def dkwL_law_42 : List UInt8 := [182, 0, 146, 54, 6, 44, 182, 0, 97, 21, 5, 159, 0, 5, 3, 172, 21, 5, 154, 0, 15, 45, 3, 47]
abbrev dktL_law_42 : List UInt8 := dkwL_law_42 ++ dktL_law_43
def dkwL_law_41 : List UInt8 := [167, 2, 67, 43, 42, 21, 4, 4, 96, 46, 45, 184, 0, 144, 54, 5, 44, 42, 21, 4, 4, 96, 46]
abbrev dktL_law_41 : List UInt8 := dkwL_law_41 ++ dktL_law_42
def dkwL_law_40 : List UInt8 := [159, 0, 5, 3, 172, 21, 5, 154, 0, 15, 45, 3, 47, 21, 6, 133, 148, 153, 0, 5, 3, 172]
abbrev dktL_law_40 : List UInt8 := dkwL_law_40 ++ dktL_law_41
def dkwL_law_39 : List UInt8 := [21, 4, 4, 96, 46, 42, 21, 4, 5, 96, 46, 182, 0, 143, 54, 6, 44, 182, 0, 97, 21, 5]
abbrev dktL_law_39 : List UInt8 := dkwL_law_39 ++ dktL_law_40
def dkwL_law_38 : List UInt8 := [167, 2, 135, 43, 42, 21, 4, 4, 96, 46, 42, 21, 4, 5, 96, 46, 45, 184, 0, 141, 54, 5, 44, 42]
abbrev dktL_law_38 : List UInt8 := dkwL_law_38 ++ dktL_law_39
def dkwL_law_37 : List UInt8 := [159, 0, 5, 3, 172, 21, 5, 154, 0, 15, 45, 3, 47, 21, 6, 133, 148, 153, 0, 5, 3, 172]
abbrev dktL_law_37 : List UInt8 := dkwL_law_37 ++ dktL_law_38
def dkwL_law_36 : List UInt8 := [21, 4, 4, 96, 46, 42, 21, 4, 5, 96, 46, 182, 0, 140, 54, 6, 44, 182, 0, 97, 21, 5]
abbrev dktL_law_36 : List UInt8 := dkwL_law_36 ++ dktL_law_37
def dkwL_law_35 : List UInt8 := [167, 2, 203, 43, 42, 21, 4, 4, 96, 46, 42, 21, 4, 5, 96, 46, 45, 184, 0, 138, 54, 5, 44, 42]
abbrev dktL_law_35 : List UInt8 := dkwL_law_35 ++ dktL_law_36
def dkwL_law_34 : List UInt8 := [21, 5, 159, 0, 5, 3, 172, 21, 5, 154, 0, 15, 45, 3, 47, 21, 6, 133, 148, 153, 0, 5, 3, 172]
abbrev dktL_law_34 : List UInt8 := dkwL_law_34 ++ dktL_law_35
def dkwL_law_33 : List UInt8 := [46, 153, 0, 7, 4, 167, 0, 4, 3, 42, 21, 4, 6, 96, 46, 182, 0, 137, 54, 6, 44, 182, 0, 97]
abbrev dktL_law_33 : List UInt8 := dkwL_law_33 ++ dktL_law_34
def dkwL_law_32 : List UInt8 := [42, 21, 4, 6, 96, 46, 45, 184, 0, 134, 54, 5, 44, 42, 21, 4, 4, 96, 46, 42, 21, 4, 5, 96]
abbrev dktL_law_32 : List UInt8 := dkwL_law_32 ++ dktL_law_33
def dkwL_law_31 : List UInt8 := [167, 3, 43, 43, 42, 21, 4, 4, 96, 46, 42, 21, 4, 5, 96, 46, 153, 0, 7, 4, 167, 0, 4, 3]
abbrev dktL_law_31 : List UInt8 := dkwL_law_31 ++ dktL_law_32
def dkwL_law_30 : List UInt8 := [159, 0, 5, 3, 172, 21, 5, 154, 0, 15, 45, 3, 47, 21, 6, 133, 148, 153, 0, 5, 3, 172]
abbrev dktL_law_30 : List UInt8 := dkwL_law_30 ++ dktL_law_31
def dkwL_law_29 : List UInt8 := [21, 4, 4, 96, 46, 42, 21, 4, 5, 96, 46, 182, 0, 133, 54, 6, 44, 182, 0, 97, 21, 5]
abbrev dktL_law_29 : List UInt8 := dkwL_law_29 ++ dktL_law_30
def dkwL_law_28 : List UInt8 := [167, 3, 111, 43, 42, 21, 4, 4, 96, 46, 42, 21, 4, 5, 96, 46, 45, 184, 0, 131, 54, 5, 44, 42]
abbrev dktL_law_28 : List UInt8 := dkwL_law_28 ++ dktL_law_29
def dkwL_law_27 : List UInt8 := [21, 5, 159, 0, 5, 3, 172, 21, 5, 154, 0, 15, 45, 3, 47, 21, 6, 133, 148, 153, 0, 5, 3, 172]
abbrev dktL_law_27 : List UInt8 := dkwL_law_27 ++ dktL_law_28
def dkwL_law_26 : List UInt8 := [46, 45, 184, 0, 128, 54, 5, 44, 42, 21, 4, 4, 96, 46, 182, 0, 130, 54, 6, 44, 182, 0, 97]
abbrev dktL_law_26 : List UInt8 := dkwL_law_26 ++ dktL_law_27
def dkwL_law_25 : List UInt8 := [154, 0, 15, 45, 3, 47, 21, 6, 133, 148, 153, 0, 5, 3, 172, 167, 3, 167, 43, 42, 21, 4, 4, 96]
abbrev dktL_law_25 : List UInt8 := dkwL_law_25 ++ dktL_law_26
def dkwL_law_24 : List UInt8 := [21, 4, 4, 96, 46, 182, 0, 127, 54, 6, 44, 182, 0, 97, 21, 5, 159, 0, 5, 3, 172, 21, 5]
abbrev dktL_law_24 : List UInt8 := dkwL_law_24 ++ dktL_law_25
def dkwL_law_23 : List UInt8 := [159, 0, 5, 3, 172, 167, 3, 223, 43, 42, 21, 4, 4, 96, 46, 45, 184, 0, 125, 54, 5, 44, 42]
abbrev dktL_law_23 : List UInt8 := dkwL_law_23 ++ dktL_law_24
def dkwL_law_22 : List UInt8 := [54, 5, 44, 42, 21, 4, 4, 96, 46, 42, 21, 4, 5, 96, 46, 182, 0, 124, 44, 182, 0, 97, 21, 5]
abbrev dktL_law_22 : List UInt8 := dkwL_law_22 ++ dktL_law_23
def dkwL_law_21 : List UInt8 := [153, 0, 5, 3, 172, 167, 4, 15, 43, 42, 21, 4, 4, 96, 46, 42, 21, 4, 5, 96, 46, 184, 0, 121]
abbrev dktL_law_21 : List UInt8 := dkwL_law_21 ++ dktL_law_22
def dkwL_law_20 : List UInt8 := [182, 0, 97, 21, 5, 159, 0, 5, 3, 172, 21, 5, 154, 0, 15, 45, 3, 47, 21, 6, 133, 148]
abbrev dktL_law_20 : List UInt8 := dkwL_law_20 ++ dktL_law_21
def dkwL_law_19 : List UInt8 := [184, 0, 117, 54, 5, 44, 42, 21, 4, 4, 96, 46, 42, 21, 4, 5, 96, 46, 182, 0, 120, 54, 6, 44]
abbrev dktL_law_19 : List UInt8 := dkwL_law_19 ++ dktL_law_20
def dkwL_law_18 : List UInt8 := [159, 0, 5, 3, 172, 167, 4, 83, 43, 42, 21, 4, 4, 96, 46, 42, 21, 4, 5, 96, 46, 45]
abbrev dktL_law_18 : List UInt8 := dkwL_law_18 ++ dktL_law_19
def dkwL_law_17 : List UInt8 := [46, 42, 21, 4, 5, 96, 46, 42, 21, 4, 6, 96, 46, 182, 0, 116, 44, 182, 0, 97, 21, 5]
abbrev dktL_law_17 : List UInt8 := dkwL_law_17 ++ dktL_law_18
def dkwL_law_16 : List UInt8 := [46, 42, 21, 4, 5, 96, 46, 42, 21, 4, 6, 96, 46, 184, 0, 113, 54, 5, 44, 42, 21, 4, 4, 96]
abbrev dktL_law_16 : List UInt8 := dkwL_law_16 ++ dktL_law_17
def dkwL_law_15 : List UInt8 := [154, 0, 15, 45, 3, 47, 21, 6, 133, 148, 153, 0, 5, 3, 172, 167, 4, 143, 43, 42, 21, 4, 4, 96]
abbrev dktL_law_15 : List UInt8 := dkwL_law_15 ++ dktL_law_16
def dkwL_law_14 : List UInt8 := [21, 4, 6, 96, 46, 182, 0, 112, 54, 6, 44, 182, 0, 97, 21, 5, 159, 0, 5, 3, 172, 21, 5]
abbrev dktL_law_14 : List UInt8 := dkwL_law_14 ++ dktL_law_15
def dkwL_law_13 : List UInt8 := [6, 96, 46, 45, 184, 0, 109, 54, 5, 44, 42, 21, 4, 4, 96, 46, 42, 21, 4, 5, 96, 46, 42]
abbrev dktL_law_13 : List UInt8 := dkwL_law_13 ++ dktL_law_14
def dkwL_law_12 : List UInt8 := [159, 0, 5, 3, 172, 167, 4, 223, 43, 42, 21, 4, 4, 96, 46, 42, 21, 4, 5, 96, 46, 42, 21, 4]
abbrev dktL_law_12 : List UInt8 := dkwL_law_12 ++ dktL_law_13
def dkwL_law_11 : List UInt8 := [5, 96, 46, 42, 21, 4, 6, 96, 46, 42, 21, 4, 7, 96, 46, 182, 0, 108, 44, 182, 0, 97, 21, 5]
abbrev dktL_law_11 : List UInt8 := dkwL_law_11 ++ dktL_law_12
def dkwL_law_10 : List UInt8 := [6, 96, 46, 42, 21, 4, 7, 96, 46, 184, 0, 105, 54, 5, 44, 42, 21, 4, 4, 96, 46, 42, 21, 4]
abbrev dktL_law_10 : List UInt8 := dkwL_law_10 ++ dktL_law_11
def dkwL_law_9 : List UInt8 := [153, 0, 5, 3, 172, 167, 5, 39, 43, 42, 21, 4, 4, 96, 46, 42, 21, 4, 5, 96, 46, 42, 21, 4]
abbrev dktL_law_9 : List UInt8 := dkwL_law_9 ++ dktL_law_10
def dkwL_law_8 : List UInt8 := [182, 0, 97, 21, 5, 159, 0, 5, 3, 172, 21, 5, 154, 0, 15, 45, 3, 47, 21, 6, 133, 148]
abbrev dktL_law_8 : List UInt8 := dkwL_law_8 ++ dktL_law_9
def dkwL_law_7 : List UInt8 := [4, 96, 46, 45, 184, 0, 101, 54, 5, 44, 42, 21, 4, 4, 96, 46, 182, 0, 104, 54, 6, 44]
abbrev dktL_law_7 : List UInt8 := dkwL_law_7 ++ dktL_law_8
def dkwL_law_6 : List UInt8 := [21, 5, 154, 0, 15, 45, 3, 47, 21, 6, 133, 148, 153, 0, 5, 3, 172, 167, 5, 95, 43, 42, 21, 4]
abbrev dktL_law_6 : List UInt8 := dkwL_law_6 ++ dktL_law_7
def dkwL_law_5 : List UInt8 := [96, 46, 42, 21, 4, 7, 96, 46, 182, 0, 96, 54, 6, 44, 182, 0, 97, 21, 5, 159, 0, 5, 3, 172]
abbrev dktL_law_5 : List UInt8 := dkwL_law_5 ++ dktL_law_6
def dkwL_law_4 : List UInt8 := [46, 45, 184, 0, 91, 54, 5, 44, 42, 21, 4, 4, 96, 46, 42, 21, 4, 5, 96, 46, 42, 21, 4, 6]
abbrev dktL_law_4 : List UInt8 := dkwL_law_4 ++ dktL_law_5
def dkwL_law_3 : List UInt8 := [43, 42, 21, 4, 4, 96, 46, 42, 21, 4, 5, 96, 46, 42, 21, 4, 6, 96, 46, 42, 21, 4, 7, 96]
abbrev dktL_law_3 : List UInt8 := dkwL_law_3 ++ dktL_law_4
def dkwL_law_2 : List UInt8 := [170, 0, 0, 6, 29, 0, 0, 0, 0, 0, 0, 0, 21, 0, 0, 0, 101, 0, 0, 0, 193, 0, 0, 0, 249, 0, 0, 1, 65, 0, 0, 1, 145, 0, 0, 1, 205, 0, 0, 2, 17, 0, 0, 2, 65, 0, 0, 2, 121, 0, 0, 2, 177, 0, 0, 2, 245, 0, 0, 3, 85, 0, 0, 3, 153, 0, 0, 3, 221, 0, 0, 4, 21, 0, 0, 4, 77, 0, 0, 4, 145, 0, 0, 4, 225, 0, 0, 5, 37, 0, 0, 5, 129, 0, 0, 5, 197, 0, 0, 6, 16]
abbrev dktL_law_2 : List UInt8 := dkwL_law_2 ++ dktL_law_3
def dkwL_law_1 : List UInt8 := [21, 4, 42, 190, 8, 100, 163, 6, 45, 42, 21, 4, 46, 16, 31, 126]
abbrev dktL_law_1 : List UInt8 := dkwL_law_1 ++ dktL_law_2
def dkwL_law_0 : List UInt8 := [187, 0, 8, 89, 183, 0, 87, 76, 187, 0, 88, 89, 183, 0, 90, 77, 4, 188, 11, 78, 3, 54, 4]
abbrev dktL_law_0 : List UInt8 := dkwL_law_0 ++ dktL_law_1
theorem dksL_law_0 : cL_law.data.toList.drop 0 = dktL_law_0 := by decide +kernel
theorem dksL_law_1 : cL_law.data.toList.drop 23 = dktL_law_1 := dk_seg dksL_law_0 23 rfl rfl
theorem dksL_law_2 : cL_law.data.toList.drop 39 = dktL_law_2 := dk_seg dksL_law_1 16 rfl rfl
theorem dksL_law_3 : cL_law.data.toList.drop 140 = dktL_law_3 := dk_seg dksL_law_2 101 rfl rfl
theorem dksL_law_4 : cL_law.data.toList.drop 164 = dktL_law_4 := dk_seg dksL_law_3 24 rfl rfl
theorem dksL_law_5 : cL_law.data.toList.drop 188 = dktL_law_5 := dk_seg dksL_law_4 24 rfl rfl
theorem dksL_law_6 : cL_law.data.toList.drop 212 = dktL_law_6 := dk_seg dksL_law_5 24 rfl rfl
theorem dksL_law_7 : cL_law.data.toList.drop 236 = dktL_law_7 := dk_seg dksL_law_6 24 rfl rfl
theorem dksL_law_8 : cL_law.data.toList.drop 258 = dktL_law_8 := dk_seg dksL_law_7 22 rfl rfl
theorem dksL_law_9 : cL_law.data.toList.drop 280 = dktL_law_9 := dk_seg dksL_law_8 22 rfl rfl
theorem dksL_law_10 : cL_law.data.toList.drop 304 = dktL_law_10 := dk_seg dksL_law_9 24 rfl rfl
theorem dksL_law_11 : cL_law.data.toList.drop 328 = dktL_law_11 := dk_seg dksL_law_10 24 rfl rfl
theorem dksL_law_12 : cL_law.data.toList.drop 352 = dktL_law_12 := dk_seg dksL_law_11 24 rfl rfl
theorem dksL_law_13 : cL_law.data.toList.drop 376 = dktL_law_13 := dk_seg dksL_law_12 24 rfl rfl
theorem dksL_law_14 : cL_law.data.toList.drop 399 = dktL_law_14 := dk_seg dksL_law_13 23 rfl rfl
theorem dksL_law_15 : cL_law.data.toList.drop 422 = dktL_law_15 := dk_seg dksL_law_14 23 rfl rfl
theorem dksL_law_16 : cL_law.data.toList.drop 446 = dktL_law_16 := dk_seg dksL_law_15 24 rfl rfl
theorem dksL_law_17 : cL_law.data.toList.drop 470 = dktL_law_17 := dk_seg dksL_law_16 24 rfl rfl
theorem dksL_law_18 : cL_law.data.toList.drop 492 = dktL_law_18 := dk_seg dksL_law_17 22 rfl rfl
theorem dksL_law_19 : cL_law.data.toList.drop 514 = dktL_law_19 := dk_seg dksL_law_18 22 rfl rfl
theorem dksL_law_20 : cL_law.data.toList.drop 538 = dktL_law_20 := dk_seg dksL_law_19 24 rfl rfl
theorem dksL_law_21 : cL_law.data.toList.drop 560 = dktL_law_21 := dk_seg dksL_law_20 22 rfl rfl
theorem dksL_law_22 : cL_law.data.toList.drop 584 = dktL_law_22 := dk_seg dksL_law_21 24 rfl rfl
theorem dksL_law_23 : cL_law.data.toList.drop 608 = dktL_law_23 := dk_seg dksL_law_22 24 rfl rfl
theorem dksL_law_24 : cL_law.data.toList.drop 631 = dktL_law_24 := dk_seg dksL_law_23 23 rfl rfl
theorem dksL_law_25 : cL_law.data.toList.drop 654 = dktL_law_25 := dk_seg dksL_law_24 23 rfl rfl
theorem dksL_law_26 : cL_law.data.toList.drop 678 = dktL_law_26 := dk_seg dksL_law_25 24 rfl rfl
theorem dksL_law_27 : cL_law.data.toList.drop 701 = dktL_law_27 := dk_seg dksL_law_26 23 rfl rfl
theorem dksL_law_28 : cL_law.data.toList.drop 725 = dktL_law_28 := dk_seg dksL_law_27 24 rfl rfl
theorem dksL_law_29 : cL_law.data.toList.drop 749 = dktL_law_29 := dk_seg dksL_law_28 24 rfl rfl
theorem dksL_law_30 : cL_law.data.toList.drop 771 = dktL_law_30 := dk_seg dksL_law_29 22 rfl rfl
theorem dksL_law_31 : cL_law.data.toList.drop 793 = dktL_law_31 := dk_seg dksL_law_30 22 rfl rfl
theorem dksL_law_32 : cL_law.data.toList.drop 817 = dktL_law_32 := dk_seg dksL_law_31 24 rfl rfl
theorem dksL_law_33 : cL_law.data.toList.drop 841 = dktL_law_33 := dk_seg dksL_law_32 24 rfl rfl
theorem dksL_law_34 : cL_law.data.toList.drop 865 = dktL_law_34 := dk_seg dksL_law_33 24 rfl rfl
theorem dksL_law_35 : cL_law.data.toList.drop 889 = dktL_law_35 := dk_seg dksL_law_34 24 rfl rfl
theorem dksL_law_36 : cL_law.data.toList.drop 913 = dktL_law_36 := dk_seg dksL_law_35 24 rfl rfl
theorem dksL_law_37 : cL_law.data.toList.drop 935 = dktL_law_37 := dk_seg dksL_law_36 22 rfl rfl
theorem dksL_law_38 : cL_law.data.toList.drop 957 = dktL_law_38 := dk_seg dksL_law_37 22 rfl rfl
theorem dksL_law_39 : cL_law.data.toList.drop 981 = dktL_law_39 := dk_seg dksL_law_38 24 rfl rfl
theorem dksL_law_40 : cL_law.data.toList.drop 1003 = dktL_law_40 := dk_seg dksL_law_39 22 rfl rfl
theorem dksL_law_41 : cL_law.data.toList.drop 1025 = dktL_law_41 := dk_seg dksL_law_40 22 rfl rfl
theorem dksL_law_42 : cL_law.data.toList.drop 1048 = dktL_law_42 := dk_seg dksL_law_41 23 rfl rfl
theorem dksL_law_43 : cL_law.data.toList.drop 1072 = dktL_law_43 := dk_seg dksL_law_42 24 rfl rfl
theorem dksL_law_44 : cL_law.data.toList.drop 1095 = dktL_law_44 := dk_seg dksL_law_43 23 rfl rfl
theorem dksL_law_45 : cL_law.data.toList.drop 1119 = dktL_law_45 := dk_seg dksL_law_44 24 rfl rfl
theorem dksL_law_46 : cL_law.data.toList.drop 1142 = dktL_law_46 := dk_seg dksL_law_45 23 rfl rfl
theorem dksL_law_47 : cL_law.data.toList.drop 1166 = dktL_law_47 := dk_seg dksL_law_46 24 rfl rfl
theorem dksL_law_48 : cL_law.data.toList.drop 1190 = dktL_law_48 := dk_seg dksL_law_47 24 rfl rfl
theorem dksL_law_49 : cL_law.data.toList.drop 1214 = dktL_law_49 := dk_seg dksL_law_48 24 rfl rfl
theorem dksL_law_50 : cL_law.data.toList.drop 1238 = dktL_law_50 := dk_seg dksL_law_49 24 rfl rfl
theorem dksL_law_51 : cL_law.data.toList.drop 1261 = dktL_law_51 := dk_seg dksL_law_50 23 rfl rfl
theorem dksL_law_52 : cL_law.data.toList.drop 1285 = dktL_law_52 := dk_seg dksL_law_51 24 rfl rfl
theorem dksL_law_53 : cL_law.data.toList.drop 1309 = dktL_law_53 := dk_seg dksL_law_52 24 rfl rfl
theorem dksL_law_54 : cL_law.data.toList.drop 1331 = dktL_law_54 := dk_seg dksL_law_53 22 rfl rfl
theorem dksL_law_55 : cL_law.data.toList.drop 1353 = dktL_law_55 := dk_seg dksL_law_54 22 rfl rfl
theorem dksL_law_56 : cL_law.data.toList.drop 1376 = dktL_law_56 := dk_seg dksL_law_55 23 rfl rfl
theorem dksL_law_57 : cL_law.data.toList.drop 1400 = dktL_law_57 := dk_seg dksL_law_56 24 rfl rfl
theorem dksL_law_58 : cL_law.data.toList.drop 1423 = dktL_law_58 := dk_seg dksL_law_57 23 rfl rfl
theorem dksL_law_59 : cL_law.data.toList.drop 1445 = dktL_law_59 := dk_seg dksL_law_58 22 rfl rfl
theorem dksL_law_60 : cL_law.data.toList.drop 1469 = dktL_law_60 := dk_seg dksL_law_59 24 rfl rfl
theorem dksL_law_61 : cL_law.data.toList.drop 1491 = dktL_law_61 := dk_seg dksL_law_60 22 rfl rfl
theorem dksL_law_62 : cL_law.data.toList.drop 1513 = dktL_law_62 := dk_seg dksL_law_61 22 rfl rfl
theorem dksL_law_63 : cL_law.data.toList.drop 1537 = dktL_law_63 := dk_seg dksL_law_62 24 rfl rfl
theorem dksL_law_64 : cL_law.data.toList.drop 1559 = dktL_law_64 := dk_seg dksL_law_63 22 rfl rfl
theorem dksL_law_65 : cL_law.data.toList.drop 1583 = dktL_law_65 := dk_seg dksL_law_64 24 rfl rfl
theorem dksL_law_66 : cL_law.data.toList.drop 1607 = dktL_law_66 := dk_seg dksL_law_65 24 rfl rfl
theorem dL_law_0 : decode cL_law 0 = .ok (.new 8, 3) := dk_187 0 8 (dk_at dksL_law_0 0 rfl rfl)
theorem dL_law_3 : decode cL_law 3 = .ok (.dup, 1) := dk_89 (dk_at dksL_law_0 3 rfl rfl)
theorem dL_law_4 : decode cL_law 4 = .ok (.invokespecial 87, 3) := dk_183 0 87 (dk_at dksL_law_0 4 rfl rfl)
theorem dL_law_7 : decode cL_law 7 = .ok (.astore_n 1, 1) := dk_76 (dk_at dksL_law_0 7 rfl rfl)
theorem dL_law_8 : decode cL_law 8 = .ok (.new 88, 3) := dk_187 0 88 (dk_at dksL_law_0 8 rfl rfl)
theorem dL_law_11 : decode cL_law 11 = .ok (.dup, 1) := dk_89 (dk_at dksL_law_0 11 rfl rfl)
theorem dL_law_12 : decode cL_law 12 = .ok (.invokespecial 90, 3) := dk_183 0 90 (dk_at dksL_law_0 12 rfl rfl)
theorem dL_law_15 : decode cL_law 15 = .ok (.astore_n 2, 1) := dk_77 (dk_at dksL_law_0 15 rfl rfl)
theorem dL_law_16 : decode cL_law 16 = .ok (.iconst 1, 1) := dk_4 (dk_at dksL_law_0 16 rfl rfl)
theorem dL_law_17 : decode cL_law 17 = .ok (.newarray .long, 2) := dk_188_11 (dk_at dksL_law_0 17 rfl rfl)
theorem dL_law_19 : decode cL_law 19 = .ok (.astore_n 3, 1) := dk_78 (dk_at dksL_law_0 19 rfl rfl)
theorem dL_law_20 : decode cL_law 20 = .ok (.iconst 0, 1) := dk_3 (dk_at dksL_law_0 20 rfl rfl)
theorem dL_law_21 : decode cL_law 21 = .ok (.istore 4, 2) := dk_54 4 (dk_at dksL_law_0 21 rfl rfl)
theorem dL_law_23 : decode cL_law 23 = .ok (.iload 4, 2) := dk_21 4 (dk_at dksL_law_1 0 rfl rfl)
theorem dL_law_25 : decode cL_law 25 = .ok (.aload_n 0, 1) := dk_42 (dk_at dksL_law_1 2 rfl rfl)
theorem dL_law_26 : decode cL_law 26 = .ok (.arraylength, 1) := dk_190 (dk_at dksL_law_1 3 rfl rfl)
theorem dL_law_27 : decode cL_law 27 = .ok (.iconst 5, 1) := dk_8 (dk_at dksL_law_1 4 rfl rfl)
theorem dL_law_28 : decode cL_law 28 = .ok (.isub, 1) := dk_100 (dk_at dksL_law_1 5 rfl rfl)
theorem dL_law_29 : decode cL_law 29 = .ok (.if_icmp .gt 1581, 3) := dk_163 6 45 (dk_at dksL_law_1 6 rfl rfl)
theorem dL_law_32 : decode cL_law 32 = .ok (.aload_n 0, 1) := dk_42 (dk_at dksL_law_1 9 rfl rfl)
theorem dL_law_33 : decode cL_law 33 = .ok (.iload 4, 2) := dk_21 4 (dk_at dksL_law_1 10 rfl rfl)
theorem dL_law_35 : decode cL_law 35 = .ok (.iaload, 1) := dk_46 (dk_at dksL_law_1 12 rfl rfl)
theorem dL_law_36 : decode cL_law 36 = .ok (.bipush 31, 2) := dk_16 31 (dk_at dksL_law_1 13 rfl rfl)
theorem dL_law_38 : decode cL_law 38 = .ok (.iand, 1) := dk_126 (dk_at dksL_law_1 15 rfl rfl)
theorem dL_law_39 : decode cL_law 39 = .ok (.tableswitch 1565 0 21 #[101, 193, 249, 321, 401, 461, 529, 577, 633, 689, 757, 853, 921, 989, 1045, 1101, 1169, 1249, 1317, 1409, 1477, 1552], 101) := by decide +kernel
theorem dL_law_140 : decode cL_law 140 = .ok (.aload_n 1, 1) := dk_43 (dk_at dksL_law_3 0 rfl rfl)
theorem dL_law_141 : decode cL_law 141 = .ok (.aload_n 0, 1) := dk_42 (dk_at dksL_law_3 1 rfl rfl)
theorem dL_law_142 : decode cL_law 142 = .ok (.iload 4, 2) := dk_21 4 (dk_at dksL_law_3 2 rfl rfl)
theorem dL_law_144 : decode cL_law 144 = .ok (.iconst 1, 1) := dk_4 (dk_at dksL_law_3 4 rfl rfl)
theorem dL_law_145 : decode cL_law 145 = .ok (.iadd, 1) := dk_96 (dk_at dksL_law_3 5 rfl rfl)
theorem dL_law_146 : decode cL_law 146 = .ok (.iaload, 1) := dk_46 (dk_at dksL_law_3 6 rfl rfl)
theorem dL_law_147 : decode cL_law 147 = .ok (.aload_n 0, 1) := dk_42 (dk_at dksL_law_3 7 rfl rfl)
theorem dL_law_148 : decode cL_law 148 = .ok (.iload 4, 2) := dk_21 4 (dk_at dksL_law_3 8 rfl rfl)
theorem dL_law_150 : decode cL_law 150 = .ok (.iconst 2, 1) := dk_5 (dk_at dksL_law_3 10 rfl rfl)
theorem dL_law_151 : decode cL_law 151 = .ok (.iadd, 1) := dk_96 (dk_at dksL_law_3 11 rfl rfl)
theorem dL_law_152 : decode cL_law 152 = .ok (.iaload, 1) := dk_46 (dk_at dksL_law_3 12 rfl rfl)
theorem dL_law_153 : decode cL_law 153 = .ok (.aload_n 0, 1) := dk_42 (dk_at dksL_law_3 13 rfl rfl)
theorem dL_law_154 : decode cL_law 154 = .ok (.iload 4, 2) := dk_21 4 (dk_at dksL_law_3 14 rfl rfl)
theorem dL_law_156 : decode cL_law 156 = .ok (.iconst 3, 1) := dk_6 (dk_at dksL_law_3 16 rfl rfl)
theorem dL_law_157 : decode cL_law 157 = .ok (.iadd, 1) := dk_96 (dk_at dksL_law_3 17 rfl rfl)
theorem dL_law_158 : decode cL_law 158 = .ok (.iaload, 1) := dk_46 (dk_at dksL_law_3 18 rfl rfl)
theorem dL_law_159 : decode cL_law 159 = .ok (.aload_n 0, 1) := dk_42 (dk_at dksL_law_3 19 rfl rfl)
theorem dL_law_160 : decode cL_law 160 = .ok (.iload 4, 2) := dk_21 4 (dk_at dksL_law_3 20 rfl rfl)
theorem dL_law_162 : decode cL_law 162 = .ok (.iconst 4, 1) := dk_7 (dk_at dksL_law_3 22 rfl rfl)
theorem dL_law_163 : decode cL_law 163 = .ok (.iadd, 1) := dk_96 (dk_at dksL_law_3 23 rfl rfl)
theorem dL_law_164 : decode cL_law 164 = .ok (.iaload, 1) := dk_46 (dk_at dksL_law_4 0 rfl rfl)
theorem dL_law_165 : decode cL_law 165 = .ok (.aload_n 3, 1) := dk_45 (dk_at dksL_law_4 1 rfl rfl)
theorem dL_law_166 : decode cL_law 166 = .ok (.invokestatic 91, 3) := dk_184 0 91 (dk_at dksL_law_4 2 rfl rfl)
theorem dL_law_169 : decode cL_law 169 = .ok (.istore 5, 2) := dk_54 5 (dk_at dksL_law_4 5 rfl rfl)
theorem dL_law_171 : decode cL_law 171 = .ok (.aload_n 2, 1) := dk_44 (dk_at dksL_law_4 7 rfl rfl)
theorem dL_law_172 : decode cL_law 172 = .ok (.aload_n 0, 1) := dk_42 (dk_at dksL_law_4 8 rfl rfl)
theorem dL_law_173 : decode cL_law 173 = .ok (.iload 4, 2) := dk_21 4 (dk_at dksL_law_4 9 rfl rfl)
theorem dL_law_175 : decode cL_law 175 = .ok (.iconst 1, 1) := dk_4 (dk_at dksL_law_4 11 rfl rfl)
theorem dL_law_176 : decode cL_law 176 = .ok (.iadd, 1) := dk_96 (dk_at dksL_law_4 12 rfl rfl)
theorem dL_law_177 : decode cL_law 177 = .ok (.iaload, 1) := dk_46 (dk_at dksL_law_4 13 rfl rfl)
theorem dL_law_178 : decode cL_law 178 = .ok (.aload_n 0, 1) := dk_42 (dk_at dksL_law_4 14 rfl rfl)
theorem dL_law_179 : decode cL_law 179 = .ok (.iload 4, 2) := dk_21 4 (dk_at dksL_law_4 15 rfl rfl)
theorem dL_law_181 : decode cL_law 181 = .ok (.iconst 2, 1) := dk_5 (dk_at dksL_law_4 17 rfl rfl)
theorem dL_law_182 : decode cL_law 182 = .ok (.iadd, 1) := dk_96 (dk_at dksL_law_4 18 rfl rfl)
theorem dL_law_183 : decode cL_law 183 = .ok (.iaload, 1) := dk_46 (dk_at dksL_law_4 19 rfl rfl)
theorem dL_law_184 : decode cL_law 184 = .ok (.aload_n 0, 1) := dk_42 (dk_at dksL_law_4 20 rfl rfl)
theorem dL_law_185 : decode cL_law 185 = .ok (.iload 4, 2) := dk_21 4 (dk_at dksL_law_4 21 rfl rfl)
theorem dL_law_187 : decode cL_law 187 = .ok (.iconst 3, 1) := dk_6 (dk_at dksL_law_4 23 rfl rfl)
theorem dL_law_188 : decode cL_law 188 = .ok (.iadd, 1) := dk_96 (dk_at dksL_law_5 0 rfl rfl)
theorem dL_law_189 : decode cL_law 189 = .ok (.iaload, 1) := dk_46 (dk_at dksL_law_5 1 rfl rfl)
theorem dL_law_190 : decode cL_law 190 = .ok (.aload_n 0, 1) := dk_42 (dk_at dksL_law_5 2 rfl rfl)
theorem dL_law_191 : decode cL_law 191 = .ok (.iload 4, 2) := dk_21 4 (dk_at dksL_law_5 3 rfl rfl)
theorem dL_law_193 : decode cL_law 193 = .ok (.iconst 4, 1) := dk_7 (dk_at dksL_law_5 5 rfl rfl)
theorem dL_law_194 : decode cL_law 194 = .ok (.iadd, 1) := dk_96 (dk_at dksL_law_5 6 rfl rfl)
theorem dL_law_195 : decode cL_law 195 = .ok (.iaload, 1) := dk_46 (dk_at dksL_law_5 7 rfl rfl)
theorem dL_law_196 : decode cL_law 196 = .ok (.invokevirtual 96, 3) := dk_182 0 96 (dk_at dksL_law_5 8 rfl rfl)
theorem dL_law_199 : decode cL_law 199 = .ok (.istore 6, 2) := dk_54 6 (dk_at dksL_law_5 11 rfl rfl)
theorem dL_law_201 : decode cL_law 201 = .ok (.aload_n 2, 1) := dk_44 (dk_at dksL_law_5 13 rfl rfl)
theorem dL_law_202 : decode cL_law 202 = .ok (.invokevirtual 97, 3) := dk_182 0 97 (dk_at dksL_law_5 14 rfl rfl)
theorem dL_law_205 : decode cL_law 205 = .ok (.iload 5, 2) := dk_21 5 (dk_at dksL_law_5 17 rfl rfl)
theorem dL_law_207 : decode cL_law 207 = .ok (.if_icmp .eq 5, 3) := dk_159 0 5 (dk_at dksL_law_5 19 rfl rfl)
theorem dL_law_210 : decode cL_law 210 = .ok (.iconst 0, 1) := dk_3 (dk_at dksL_law_5 22 rfl rfl)
theorem dL_law_211 : decode cL_law 211 = .ok (.ireturn, 1) := dk_172 (dk_at dksL_law_5 23 rfl rfl)
theorem dL_law_212 : decode cL_law 212 = .ok (.iload 5, 2) := dk_21 5 (dk_at dksL_law_6 0 rfl rfl)
theorem dL_law_214 : decode cL_law 214 = .ok (.ifCond .ne 15, 3) := dk_154 0 15 (dk_at dksL_law_6 2 rfl rfl)
theorem dL_law_217 : decode cL_law 217 = .ok (.aload_n 3, 1) := dk_45 (dk_at dksL_law_6 5 rfl rfl)
theorem dL_law_218 : decode cL_law 218 = .ok (.iconst 0, 1) := dk_3 (dk_at dksL_law_6 6 rfl rfl)
theorem dL_law_219 : decode cL_law 219 = .ok (.laload, 1) := dk_47 (dk_at dksL_law_6 7 rfl rfl)
theorem dL_law_220 : decode cL_law 220 = .ok (.iload 6, 2) := dk_21 6 (dk_at dksL_law_6 8 rfl rfl)
theorem dL_law_222 : decode cL_law 222 = .ok (.i2l, 1) := dk_133 (dk_at dksL_law_6 10 rfl rfl)
theorem dL_law_223 : decode cL_law 223 = .ok (.lcmp, 1) := dk_148 (dk_at dksL_law_6 11 rfl rfl)
theorem dL_law_224 : decode cL_law 224 = .ok (.ifCond .eq 5, 3) := dk_153 0 5 (dk_at dksL_law_6 12 rfl rfl)
theorem dL_law_227 : decode cL_law 227 = .ok (.iconst 0, 1) := dk_3 (dk_at dksL_law_6 15 rfl rfl)
theorem dL_law_228 : decode cL_law 228 = .ok (.ireturn, 1) := dk_172 (dk_at dksL_law_6 16 rfl rfl)
theorem dL_law_229 : decode cL_law 229 = .ok (.goto 1375, 3) := dk_167 5 95 (dk_at dksL_law_6 17 rfl rfl)
theorem dL_law_232 : decode cL_law 232 = .ok (.aload_n 1, 1) := dk_43 (dk_at dksL_law_6 20 rfl rfl)
theorem dL_law_233 : decode cL_law 233 = .ok (.aload_n 0, 1) := dk_42 (dk_at dksL_law_6 21 rfl rfl)
theorem dL_law_234 : decode cL_law 234 = .ok (.iload 4, 2) := dk_21 4 (dk_at dksL_law_6 22 rfl rfl)
theorem dL_law_236 : decode cL_law 236 = .ok (.iconst 1, 1) := dk_4 (dk_at dksL_law_7 0 rfl rfl)
theorem dL_law_237 : decode cL_law 237 = .ok (.iadd, 1) := dk_96 (dk_at dksL_law_7 1 rfl rfl)
theorem dL_law_238 : decode cL_law 238 = .ok (.iaload, 1) := dk_46 (dk_at dksL_law_7 2 rfl rfl)
theorem dL_law_239 : decode cL_law 239 = .ok (.aload_n 3, 1) := dk_45 (dk_at dksL_law_7 3 rfl rfl)
theorem dL_law_240 : decode cL_law 240 = .ok (.invokestatic 101, 3) := dk_184 0 101 (dk_at dksL_law_7 4 rfl rfl)
theorem dL_law_243 : decode cL_law 243 = .ok (.istore 5, 2) := dk_54 5 (dk_at dksL_law_7 7 rfl rfl)
theorem dL_law_245 : decode cL_law 245 = .ok (.aload_n 2, 1) := dk_44 (dk_at dksL_law_7 9 rfl rfl)
theorem dL_law_246 : decode cL_law 246 = .ok (.aload_n 0, 1) := dk_42 (dk_at dksL_law_7 10 rfl rfl)
theorem dL_law_247 : decode cL_law 247 = .ok (.iload 4, 2) := dk_21 4 (dk_at dksL_law_7 11 rfl rfl)
theorem dL_law_249 : decode cL_law 249 = .ok (.iconst 1, 1) := dk_4 (dk_at dksL_law_7 13 rfl rfl)
theorem dL_law_250 : decode cL_law 250 = .ok (.iadd, 1) := dk_96 (dk_at dksL_law_7 14 rfl rfl)
theorem dL_law_251 : decode cL_law 251 = .ok (.iaload, 1) := dk_46 (dk_at dksL_law_7 15 rfl rfl)
theorem dL_law_252 : decode cL_law 252 = .ok (.invokevirtual 104, 3) := dk_182 0 104 (dk_at dksL_law_7 16 rfl rfl)
theorem dL_law_255 : decode cL_law 255 = .ok (.istore 6, 2) := dk_54 6 (dk_at dksL_law_7 19 rfl rfl)
theorem dL_law_257 : decode cL_law 257 = .ok (.aload_n 2, 1) := dk_44 (dk_at dksL_law_7 21 rfl rfl)
theorem dL_law_258 : decode cL_law 258 = .ok (.invokevirtual 97, 3) := dk_182 0 97 (dk_at dksL_law_8 0 rfl rfl)
theorem dL_law_261 : decode cL_law 261 = .ok (.iload 5, 2) := dk_21 5 (dk_at dksL_law_8 3 rfl rfl)
theorem dL_law_263 : decode cL_law 263 = .ok (.if_icmp .eq 5, 3) := dk_159 0 5 (dk_at dksL_law_8 5 rfl rfl)
theorem dL_law_266 : decode cL_law 266 = .ok (.iconst 0, 1) := dk_3 (dk_at dksL_law_8 8 rfl rfl)
theorem dL_law_267 : decode cL_law 267 = .ok (.ireturn, 1) := dk_172 (dk_at dksL_law_8 9 rfl rfl)
theorem dL_law_268 : decode cL_law 268 = .ok (.iload 5, 2) := dk_21 5 (dk_at dksL_law_8 10 rfl rfl)
theorem dL_law_270 : decode cL_law 270 = .ok (.ifCond .ne 15, 3) := dk_154 0 15 (dk_at dksL_law_8 12 rfl rfl)
theorem dL_law_273 : decode cL_law 273 = .ok (.aload_n 3, 1) := dk_45 (dk_at dksL_law_8 15 rfl rfl)
theorem dL_law_274 : decode cL_law 274 = .ok (.iconst 0, 1) := dk_3 (dk_at dksL_law_8 16 rfl rfl)
theorem dL_law_275 : decode cL_law 275 = .ok (.laload, 1) := dk_47 (dk_at dksL_law_8 17 rfl rfl)
theorem dL_law_276 : decode cL_law 276 = .ok (.iload 6, 2) := dk_21 6 (dk_at dksL_law_8 18 rfl rfl)
theorem dL_law_278 : decode cL_law 278 = .ok (.i2l, 1) := dk_133 (dk_at dksL_law_8 20 rfl rfl)
theorem dL_law_279 : decode cL_law 279 = .ok (.lcmp, 1) := dk_148 (dk_at dksL_law_8 21 rfl rfl)
theorem dL_law_280 : decode cL_law 280 = .ok (.ifCond .eq 5, 3) := dk_153 0 5 (dk_at dksL_law_9 0 rfl rfl)
theorem dL_law_283 : decode cL_law 283 = .ok (.iconst 0, 1) := dk_3 (dk_at dksL_law_9 3 rfl rfl)
theorem dL_law_284 : decode cL_law 284 = .ok (.ireturn, 1) := dk_172 (dk_at dksL_law_9 4 rfl rfl)
theorem dL_law_285 : decode cL_law 285 = .ok (.goto 1319, 3) := dk_167 5 39 (dk_at dksL_law_9 5 rfl rfl)
theorem dL_law_288 : decode cL_law 288 = .ok (.aload_n 1, 1) := dk_43 (dk_at dksL_law_9 8 rfl rfl)
theorem dL_law_289 : decode cL_law 289 = .ok (.aload_n 0, 1) := dk_42 (dk_at dksL_law_9 9 rfl rfl)
theorem dL_law_290 : decode cL_law 290 = .ok (.iload 4, 2) := dk_21 4 (dk_at dksL_law_9 10 rfl rfl)
theorem dL_law_292 : decode cL_law 292 = .ok (.iconst 1, 1) := dk_4 (dk_at dksL_law_9 12 rfl rfl)
theorem dL_law_293 : decode cL_law 293 = .ok (.iadd, 1) := dk_96 (dk_at dksL_law_9 13 rfl rfl)
theorem dL_law_294 : decode cL_law 294 = .ok (.iaload, 1) := dk_46 (dk_at dksL_law_9 14 rfl rfl)
theorem dL_law_295 : decode cL_law 295 = .ok (.aload_n 0, 1) := dk_42 (dk_at dksL_law_9 15 rfl rfl)
theorem dL_law_296 : decode cL_law 296 = .ok (.iload 4, 2) := dk_21 4 (dk_at dksL_law_9 16 rfl rfl)
theorem dL_law_298 : decode cL_law 298 = .ok (.iconst 2, 1) := dk_5 (dk_at dksL_law_9 18 rfl rfl)
theorem dL_law_299 : decode cL_law 299 = .ok (.iadd, 1) := dk_96 (dk_at dksL_law_9 19 rfl rfl)
theorem dL_law_300 : decode cL_law 300 = .ok (.iaload, 1) := dk_46 (dk_at dksL_law_9 20 rfl rfl)
theorem dL_law_301 : decode cL_law 301 = .ok (.aload_n 0, 1) := dk_42 (dk_at dksL_law_9 21 rfl rfl)
theorem dL_law_302 : decode cL_law 302 = .ok (.iload 4, 2) := dk_21 4 (dk_at dksL_law_9 22 rfl rfl)
theorem dL_law_304 : decode cL_law 304 = .ok (.iconst 3, 1) := dk_6 (dk_at dksL_law_10 0 rfl rfl)
theorem dL_law_305 : decode cL_law 305 = .ok (.iadd, 1) := dk_96 (dk_at dksL_law_10 1 rfl rfl)
theorem dL_law_306 : decode cL_law 306 = .ok (.iaload, 1) := dk_46 (dk_at dksL_law_10 2 rfl rfl)
theorem dL_law_307 : decode cL_law 307 = .ok (.aload_n 0, 1) := dk_42 (dk_at dksL_law_10 3 rfl rfl)
theorem dL_law_308 : decode cL_law 308 = .ok (.iload 4, 2) := dk_21 4 (dk_at dksL_law_10 4 rfl rfl)
theorem dL_law_310 : decode cL_law 310 = .ok (.iconst 4, 1) := dk_7 (dk_at dksL_law_10 6 rfl rfl)
theorem dL_law_311 : decode cL_law 311 = .ok (.iadd, 1) := dk_96 (dk_at dksL_law_10 7 rfl rfl)
theorem dL_law_312 : decode cL_law 312 = .ok (.iaload, 1) := dk_46 (dk_at dksL_law_10 8 rfl rfl)
theorem dL_law_313 : decode cL_law 313 = .ok (.invokestatic 105, 3) := dk_184 0 105 (dk_at dksL_law_10 9 rfl rfl)
theorem dL_law_316 : decode cL_law 316 = .ok (.istore 5, 2) := dk_54 5 (dk_at dksL_law_10 12 rfl rfl)
theorem dL_law_318 : decode cL_law 318 = .ok (.aload_n 2, 1) := dk_44 (dk_at dksL_law_10 14 rfl rfl)
theorem dL_law_319 : decode cL_law 319 = .ok (.aload_n 0, 1) := dk_42 (dk_at dksL_law_10 15 rfl rfl)
theorem dL_law_320 : decode cL_law 320 = .ok (.iload 4, 2) := dk_21 4 (dk_at dksL_law_10 16 rfl rfl)
theorem dL_law_322 : decode cL_law 322 = .ok (.iconst 1, 1) := dk_4 (dk_at dksL_law_10 18 rfl rfl)
theorem dL_law_323 : decode cL_law 323 = .ok (.iadd, 1) := dk_96 (dk_at dksL_law_10 19 rfl rfl)
theorem dL_law_324 : decode cL_law 324 = .ok (.iaload, 1) := dk_46 (dk_at dksL_law_10 20 rfl rfl)
theorem dL_law_325 : decode cL_law 325 = .ok (.aload_n 0, 1) := dk_42 (dk_at dksL_law_10 21 rfl rfl)
theorem dL_law_326 : decode cL_law 326 = .ok (.iload 4, 2) := dk_21 4 (dk_at dksL_law_10 22 rfl rfl)
theorem dL_law_328 : decode cL_law 328 = .ok (.iconst 2, 1) := dk_5 (dk_at dksL_law_11 0 rfl rfl)
theorem dL_law_329 : decode cL_law 329 = .ok (.iadd, 1) := dk_96 (dk_at dksL_law_11 1 rfl rfl)
theorem dL_law_330 : decode cL_law 330 = .ok (.iaload, 1) := dk_46 (dk_at dksL_law_11 2 rfl rfl)
theorem dL_law_331 : decode cL_law 331 = .ok (.aload_n 0, 1) := dk_42 (dk_at dksL_law_11 3 rfl rfl)
theorem dL_law_332 : decode cL_law 332 = .ok (.iload 4, 2) := dk_21 4 (dk_at dksL_law_11 4 rfl rfl)
theorem dL_law_334 : decode cL_law 334 = .ok (.iconst 3, 1) := dk_6 (dk_at dksL_law_11 6 rfl rfl)
theorem dL_law_335 : decode cL_law 335 = .ok (.iadd, 1) := dk_96 (dk_at dksL_law_11 7 rfl rfl)
theorem dL_law_336 : decode cL_law 336 = .ok (.iaload, 1) := dk_46 (dk_at dksL_law_11 8 rfl rfl)
theorem dL_law_337 : decode cL_law 337 = .ok (.aload_n 0, 1) := dk_42 (dk_at dksL_law_11 9 rfl rfl)
theorem dL_law_338 : decode cL_law 338 = .ok (.iload 4, 2) := dk_21 4 (dk_at dksL_law_11 10 rfl rfl)
theorem dL_law_340 : decode cL_law 340 = .ok (.iconst 4, 1) := dk_7 (dk_at dksL_law_11 12 rfl rfl)
theorem dL_law_341 : decode cL_law 341 = .ok (.iadd, 1) := dk_96 (dk_at dksL_law_11 13 rfl rfl)
theorem dL_law_342 : decode cL_law 342 = .ok (.iaload, 1) := dk_46 (dk_at dksL_law_11 14 rfl rfl)
theorem dL_law_343 : decode cL_law 343 = .ok (.invokevirtual 108, 3) := dk_182 0 108 (dk_at dksL_law_11 15 rfl rfl)
theorem dL_law_346 : decode cL_law 346 = .ok (.aload_n 2, 1) := dk_44 (dk_at dksL_law_11 18 rfl rfl)
theorem dL_law_347 : decode cL_law 347 = .ok (.invokevirtual 97, 3) := dk_182 0 97 (dk_at dksL_law_11 19 rfl rfl)
theorem dL_law_350 : decode cL_law 350 = .ok (.iload 5, 2) := dk_21 5 (dk_at dksL_law_11 22 rfl rfl)
theorem dL_law_352 : decode cL_law 352 = .ok (.if_icmp .eq 5, 3) := dk_159 0 5 (dk_at dksL_law_12 0 rfl rfl)
theorem dL_law_355 : decode cL_law 355 = .ok (.iconst 0, 1) := dk_3 (dk_at dksL_law_12 3 rfl rfl)
theorem dL_law_356 : decode cL_law 356 = .ok (.ireturn, 1) := dk_172 (dk_at dksL_law_12 4 rfl rfl)
theorem dL_law_357 : decode cL_law 357 = .ok (.goto 1247, 3) := dk_167 4 223 (dk_at dksL_law_12 5 rfl rfl)
theorem dL_law_360 : decode cL_law 360 = .ok (.aload_n 1, 1) := dk_43 (dk_at dksL_law_12 8 rfl rfl)
theorem dL_law_361 : decode cL_law 361 = .ok (.aload_n 0, 1) := dk_42 (dk_at dksL_law_12 9 rfl rfl)
theorem dL_law_362 : decode cL_law 362 = .ok (.iload 4, 2) := dk_21 4 (dk_at dksL_law_12 10 rfl rfl)
theorem dL_law_364 : decode cL_law 364 = .ok (.iconst 1, 1) := dk_4 (dk_at dksL_law_12 12 rfl rfl)
theorem dL_law_365 : decode cL_law 365 = .ok (.iadd, 1) := dk_96 (dk_at dksL_law_12 13 rfl rfl)
theorem dL_law_366 : decode cL_law 366 = .ok (.iaload, 1) := dk_46 (dk_at dksL_law_12 14 rfl rfl)
theorem dL_law_367 : decode cL_law 367 = .ok (.aload_n 0, 1) := dk_42 (dk_at dksL_law_12 15 rfl rfl)
theorem dL_law_368 : decode cL_law 368 = .ok (.iload 4, 2) := dk_21 4 (dk_at dksL_law_12 16 rfl rfl)
theorem dL_law_370 : decode cL_law 370 = .ok (.iconst 2, 1) := dk_5 (dk_at dksL_law_12 18 rfl rfl)
theorem dL_law_371 : decode cL_law 371 = .ok (.iadd, 1) := dk_96 (dk_at dksL_law_12 19 rfl rfl)
theorem dL_law_372 : decode cL_law 372 = .ok (.iaload, 1) := dk_46 (dk_at dksL_law_12 20 rfl rfl)
theorem dL_law_373 : decode cL_law 373 = .ok (.aload_n 0, 1) := dk_42 (dk_at dksL_law_12 21 rfl rfl)
theorem dL_law_374 : decode cL_law 374 = .ok (.iload 4, 2) := dk_21 4 (dk_at dksL_law_12 22 rfl rfl)
theorem dL_law_376 : decode cL_law 376 = .ok (.iconst 3, 1) := dk_6 (dk_at dksL_law_13 0 rfl rfl)
theorem dL_law_377 : decode cL_law 377 = .ok (.iadd, 1) := dk_96 (dk_at dksL_law_13 1 rfl rfl)
theorem dL_law_378 : decode cL_law 378 = .ok (.iaload, 1) := dk_46 (dk_at dksL_law_13 2 rfl rfl)
theorem dL_law_379 : decode cL_law 379 = .ok (.aload_n 3, 1) := dk_45 (dk_at dksL_law_13 3 rfl rfl)
theorem dL_law_380 : decode cL_law 380 = .ok (.invokestatic 109, 3) := dk_184 0 109 (dk_at dksL_law_13 4 rfl rfl)
theorem dL_law_383 : decode cL_law 383 = .ok (.istore 5, 2) := dk_54 5 (dk_at dksL_law_13 7 rfl rfl)
theorem dL_law_385 : decode cL_law 385 = .ok (.aload_n 2, 1) := dk_44 (dk_at dksL_law_13 9 rfl rfl)
theorem dL_law_386 : decode cL_law 386 = .ok (.aload_n 0, 1) := dk_42 (dk_at dksL_law_13 10 rfl rfl)
theorem dL_law_387 : decode cL_law 387 = .ok (.iload 4, 2) := dk_21 4 (dk_at dksL_law_13 11 rfl rfl)
theorem dL_law_389 : decode cL_law 389 = .ok (.iconst 1, 1) := dk_4 (dk_at dksL_law_13 13 rfl rfl)
theorem dL_law_390 : decode cL_law 390 = .ok (.iadd, 1) := dk_96 (dk_at dksL_law_13 14 rfl rfl)
theorem dL_law_391 : decode cL_law 391 = .ok (.iaload, 1) := dk_46 (dk_at dksL_law_13 15 rfl rfl)
theorem dL_law_392 : decode cL_law 392 = .ok (.aload_n 0, 1) := dk_42 (dk_at dksL_law_13 16 rfl rfl)
theorem dL_law_393 : decode cL_law 393 = .ok (.iload 4, 2) := dk_21 4 (dk_at dksL_law_13 17 rfl rfl)
theorem dL_law_395 : decode cL_law 395 = .ok (.iconst 2, 1) := dk_5 (dk_at dksL_law_13 19 rfl rfl)
theorem dL_law_396 : decode cL_law 396 = .ok (.iadd, 1) := dk_96 (dk_at dksL_law_13 20 rfl rfl)
theorem dL_law_397 : decode cL_law 397 = .ok (.iaload, 1) := dk_46 (dk_at dksL_law_13 21 rfl rfl)
theorem dL_law_398 : decode cL_law 398 = .ok (.aload_n 0, 1) := dk_42 (dk_at dksL_law_13 22 rfl rfl)
theorem dL_law_399 : decode cL_law 399 = .ok (.iload 4, 2) := dk_21 4 (dk_at dksL_law_14 0 rfl rfl)
theorem dL_law_401 : decode cL_law 401 = .ok (.iconst 3, 1) := dk_6 (dk_at dksL_law_14 2 rfl rfl)
theorem dL_law_402 : decode cL_law 402 = .ok (.iadd, 1) := dk_96 (dk_at dksL_law_14 3 rfl rfl)
theorem dL_law_403 : decode cL_law 403 = .ok (.iaload, 1) := dk_46 (dk_at dksL_law_14 4 rfl rfl)
theorem dL_law_404 : decode cL_law 404 = .ok (.invokevirtual 112, 3) := dk_182 0 112 (dk_at dksL_law_14 5 rfl rfl)
theorem dL_law_407 : decode cL_law 407 = .ok (.istore 6, 2) := dk_54 6 (dk_at dksL_law_14 8 rfl rfl)
theorem dL_law_409 : decode cL_law 409 = .ok (.aload_n 2, 1) := dk_44 (dk_at dksL_law_14 10 rfl rfl)
theorem dL_law_410 : decode cL_law 410 = .ok (.invokevirtual 97, 3) := dk_182 0 97 (dk_at dksL_law_14 11 rfl rfl)
theorem dL_law_413 : decode cL_law 413 = .ok (.iload 5, 2) := dk_21 5 (dk_at dksL_law_14 14 rfl rfl)
theorem dL_law_415 : decode cL_law 415 = .ok (.if_icmp .eq 5, 3) := dk_159 0 5 (dk_at dksL_law_14 16 rfl rfl)
theorem dL_law_418 : decode cL_law 418 = .ok (.iconst 0, 1) := dk_3 (dk_at dksL_law_14 19 rfl rfl)
theorem dL_law_419 : decode cL_law 419 = .ok (.ireturn, 1) := dk_172 (dk_at dksL_law_14 20 rfl rfl)
theorem dL_law_420 : decode cL_law 420 = .ok (.iload 5, 2) := dk_21 5 (dk_at dksL_law_14 21 rfl rfl)
theorem dL_law_422 : decode cL_law 422 = .ok (.ifCond .ne 15, 3) := dk_154 0 15 (dk_at dksL_law_15 0 rfl rfl)
theorem dL_law_425 : decode cL_law 425 = .ok (.aload_n 3, 1) := dk_45 (dk_at dksL_law_15 3 rfl rfl)
theorem dL_law_426 : decode cL_law 426 = .ok (.iconst 0, 1) := dk_3 (dk_at dksL_law_15 4 rfl rfl)
theorem dL_law_427 : decode cL_law 427 = .ok (.laload, 1) := dk_47 (dk_at dksL_law_15 5 rfl rfl)
theorem dL_law_428 : decode cL_law 428 = .ok (.iload 6, 2) := dk_21 6 (dk_at dksL_law_15 6 rfl rfl)
theorem dL_law_430 : decode cL_law 430 = .ok (.i2l, 1) := dk_133 (dk_at dksL_law_15 8 rfl rfl)
theorem dL_law_431 : decode cL_law 431 = .ok (.lcmp, 1) := dk_148 (dk_at dksL_law_15 9 rfl rfl)
theorem dL_law_432 : decode cL_law 432 = .ok (.ifCond .eq 5, 3) := dk_153 0 5 (dk_at dksL_law_15 10 rfl rfl)
theorem dL_law_435 : decode cL_law 435 = .ok (.iconst 0, 1) := dk_3 (dk_at dksL_law_15 13 rfl rfl)
theorem dL_law_436 : decode cL_law 436 = .ok (.ireturn, 1) := dk_172 (dk_at dksL_law_15 14 rfl rfl)
theorem dL_law_437 : decode cL_law 437 = .ok (.goto 1167, 3) := dk_167 4 143 (dk_at dksL_law_15 15 rfl rfl)
theorem dL_law_440 : decode cL_law 440 = .ok (.aload_n 1, 1) := dk_43 (dk_at dksL_law_15 18 rfl rfl)
theorem dL_law_441 : decode cL_law 441 = .ok (.aload_n 0, 1) := dk_42 (dk_at dksL_law_15 19 rfl rfl)
theorem dL_law_442 : decode cL_law 442 = .ok (.iload 4, 2) := dk_21 4 (dk_at dksL_law_15 20 rfl rfl)
theorem dL_law_444 : decode cL_law 444 = .ok (.iconst 1, 1) := dk_4 (dk_at dksL_law_15 22 rfl rfl)
theorem dL_law_445 : decode cL_law 445 = .ok (.iadd, 1) := dk_96 (dk_at dksL_law_15 23 rfl rfl)
theorem dL_law_446 : decode cL_law 446 = .ok (.iaload, 1) := dk_46 (dk_at dksL_law_16 0 rfl rfl)
theorem dL_law_447 : decode cL_law 447 = .ok (.aload_n 0, 1) := dk_42 (dk_at dksL_law_16 1 rfl rfl)
theorem dL_law_448 : decode cL_law 448 = .ok (.iload 4, 2) := dk_21 4 (dk_at dksL_law_16 2 rfl rfl)
theorem dL_law_450 : decode cL_law 450 = .ok (.iconst 2, 1) := dk_5 (dk_at dksL_law_16 4 rfl rfl)
theorem dL_law_451 : decode cL_law 451 = .ok (.iadd, 1) := dk_96 (dk_at dksL_law_16 5 rfl rfl)
theorem dL_law_452 : decode cL_law 452 = .ok (.iaload, 1) := dk_46 (dk_at dksL_law_16 6 rfl rfl)
theorem dL_law_453 : decode cL_law 453 = .ok (.aload_n 0, 1) := dk_42 (dk_at dksL_law_16 7 rfl rfl)
theorem dL_law_454 : decode cL_law 454 = .ok (.iload 4, 2) := dk_21 4 (dk_at dksL_law_16 8 rfl rfl)
theorem dL_law_456 : decode cL_law 456 = .ok (.iconst 3, 1) := dk_6 (dk_at dksL_law_16 10 rfl rfl)
theorem dL_law_457 : decode cL_law 457 = .ok (.iadd, 1) := dk_96 (dk_at dksL_law_16 11 rfl rfl)
theorem dL_law_458 : decode cL_law 458 = .ok (.iaload, 1) := dk_46 (dk_at dksL_law_16 12 rfl rfl)
theorem dL_law_459 : decode cL_law 459 = .ok (.invokestatic 113, 3) := dk_184 0 113 (dk_at dksL_law_16 13 rfl rfl)
theorem dL_law_462 : decode cL_law 462 = .ok (.istore 5, 2) := dk_54 5 (dk_at dksL_law_16 16 rfl rfl)
theorem dL_law_464 : decode cL_law 464 = .ok (.aload_n 2, 1) := dk_44 (dk_at dksL_law_16 18 rfl rfl)
theorem dL_law_465 : decode cL_law 465 = .ok (.aload_n 0, 1) := dk_42 (dk_at dksL_law_16 19 rfl rfl)
theorem dL_law_466 : decode cL_law 466 = .ok (.iload 4, 2) := dk_21 4 (dk_at dksL_law_16 20 rfl rfl)
theorem dL_law_468 : decode cL_law 468 = .ok (.iconst 1, 1) := dk_4 (dk_at dksL_law_16 22 rfl rfl)
theorem dL_law_469 : decode cL_law 469 = .ok (.iadd, 1) := dk_96 (dk_at dksL_law_16 23 rfl rfl)
theorem dL_law_470 : decode cL_law 470 = .ok (.iaload, 1) := dk_46 (dk_at dksL_law_17 0 rfl rfl)
theorem dL_law_471 : decode cL_law 471 = .ok (.aload_n 0, 1) := dk_42 (dk_at dksL_law_17 1 rfl rfl)
theorem dL_law_472 : decode cL_law 472 = .ok (.iload 4, 2) := dk_21 4 (dk_at dksL_law_17 2 rfl rfl)
theorem dL_law_474 : decode cL_law 474 = .ok (.iconst 2, 1) := dk_5 (dk_at dksL_law_17 4 rfl rfl)
theorem dL_law_475 : decode cL_law 475 = .ok (.iadd, 1) := dk_96 (dk_at dksL_law_17 5 rfl rfl)
theorem dL_law_476 : decode cL_law 476 = .ok (.iaload, 1) := dk_46 (dk_at dksL_law_17 6 rfl rfl)
theorem dL_law_477 : decode cL_law 477 = .ok (.aload_n 0, 1) := dk_42 (dk_at dksL_law_17 7 rfl rfl)
theorem dL_law_478 : decode cL_law 478 = .ok (.iload 4, 2) := dk_21 4 (dk_at dksL_law_17 8 rfl rfl)
theorem dL_law_480 : decode cL_law 480 = .ok (.iconst 3, 1) := dk_6 (dk_at dksL_law_17 10 rfl rfl)
theorem dL_law_481 : decode cL_law 481 = .ok (.iadd, 1) := dk_96 (dk_at dksL_law_17 11 rfl rfl)
theorem dL_law_482 : decode cL_law 482 = .ok (.iaload, 1) := dk_46 (dk_at dksL_law_17 12 rfl rfl)
theorem dL_law_483 : decode cL_law 483 = .ok (.invokevirtual 116, 3) := dk_182 0 116 (dk_at dksL_law_17 13 rfl rfl)
theorem dL_law_486 : decode cL_law 486 = .ok (.aload_n 2, 1) := dk_44 (dk_at dksL_law_17 16 rfl rfl)
theorem dL_law_487 : decode cL_law 487 = .ok (.invokevirtual 97, 3) := dk_182 0 97 (dk_at dksL_law_17 17 rfl rfl)
theorem dL_law_490 : decode cL_law 490 = .ok (.iload 5, 2) := dk_21 5 (dk_at dksL_law_17 20 rfl rfl)
theorem dL_law_492 : decode cL_law 492 = .ok (.if_icmp .eq 5, 3) := dk_159 0 5 (dk_at dksL_law_18 0 rfl rfl)
theorem dL_law_495 : decode cL_law 495 = .ok (.iconst 0, 1) := dk_3 (dk_at dksL_law_18 3 rfl rfl)
theorem dL_law_496 : decode cL_law 496 = .ok (.ireturn, 1) := dk_172 (dk_at dksL_law_18 4 rfl rfl)
theorem dL_law_497 : decode cL_law 497 = .ok (.goto 1107, 3) := dk_167 4 83 (dk_at dksL_law_18 5 rfl rfl)
theorem dL_law_500 : decode cL_law 500 = .ok (.aload_n 1, 1) := dk_43 (dk_at dksL_law_18 8 rfl rfl)
theorem dL_law_501 : decode cL_law 501 = .ok (.aload_n 0, 1) := dk_42 (dk_at dksL_law_18 9 rfl rfl)
theorem dL_law_502 : decode cL_law 502 = .ok (.iload 4, 2) := dk_21 4 (dk_at dksL_law_18 10 rfl rfl)
theorem dL_law_504 : decode cL_law 504 = .ok (.iconst 1, 1) := dk_4 (dk_at dksL_law_18 12 rfl rfl)
theorem dL_law_505 : decode cL_law 505 = .ok (.iadd, 1) := dk_96 (dk_at dksL_law_18 13 rfl rfl)
theorem dL_law_506 : decode cL_law 506 = .ok (.iaload, 1) := dk_46 (dk_at dksL_law_18 14 rfl rfl)
theorem dL_law_507 : decode cL_law 507 = .ok (.aload_n 0, 1) := dk_42 (dk_at dksL_law_18 15 rfl rfl)
theorem dL_law_508 : decode cL_law 508 = .ok (.iload 4, 2) := dk_21 4 (dk_at dksL_law_18 16 rfl rfl)
theorem dL_law_510 : decode cL_law 510 = .ok (.iconst 2, 1) := dk_5 (dk_at dksL_law_18 18 rfl rfl)
theorem dL_law_511 : decode cL_law 511 = .ok (.iadd, 1) := dk_96 (dk_at dksL_law_18 19 rfl rfl)
theorem dL_law_512 : decode cL_law 512 = .ok (.iaload, 1) := dk_46 (dk_at dksL_law_18 20 rfl rfl)
theorem dL_law_513 : decode cL_law 513 = .ok (.aload_n 3, 1) := dk_45 (dk_at dksL_law_18 21 rfl rfl)
theorem dL_law_514 : decode cL_law 514 = .ok (.invokestatic 117, 3) := dk_184 0 117 (dk_at dksL_law_19 0 rfl rfl)
theorem dL_law_517 : decode cL_law 517 = .ok (.istore 5, 2) := dk_54 5 (dk_at dksL_law_19 3 rfl rfl)
theorem dL_law_519 : decode cL_law 519 = .ok (.aload_n 2, 1) := dk_44 (dk_at dksL_law_19 5 rfl rfl)
theorem dL_law_520 : decode cL_law 520 = .ok (.aload_n 0, 1) := dk_42 (dk_at dksL_law_19 6 rfl rfl)
theorem dL_law_521 : decode cL_law 521 = .ok (.iload 4, 2) := dk_21 4 (dk_at dksL_law_19 7 rfl rfl)
theorem dL_law_523 : decode cL_law 523 = .ok (.iconst 1, 1) := dk_4 (dk_at dksL_law_19 9 rfl rfl)
theorem dL_law_524 : decode cL_law 524 = .ok (.iadd, 1) := dk_96 (dk_at dksL_law_19 10 rfl rfl)
theorem dL_law_525 : decode cL_law 525 = .ok (.iaload, 1) := dk_46 (dk_at dksL_law_19 11 rfl rfl)
theorem dL_law_526 : decode cL_law 526 = .ok (.aload_n 0, 1) := dk_42 (dk_at dksL_law_19 12 rfl rfl)
theorem dL_law_527 : decode cL_law 527 = .ok (.iload 4, 2) := dk_21 4 (dk_at dksL_law_19 13 rfl rfl)
theorem dL_law_529 : decode cL_law 529 = .ok (.iconst 2, 1) := dk_5 (dk_at dksL_law_19 15 rfl rfl)
theorem dL_law_530 : decode cL_law 530 = .ok (.iadd, 1) := dk_96 (dk_at dksL_law_19 16 rfl rfl)
theorem dL_law_531 : decode cL_law 531 = .ok (.iaload, 1) := dk_46 (dk_at dksL_law_19 17 rfl rfl)
theorem dL_law_532 : decode cL_law 532 = .ok (.invokevirtual 120, 3) := dk_182 0 120 (dk_at dksL_law_19 18 rfl rfl)
theorem dL_law_535 : decode cL_law 535 = .ok (.istore 6, 2) := dk_54 6 (dk_at dksL_law_19 21 rfl rfl)
theorem dL_law_537 : decode cL_law 537 = .ok (.aload_n 2, 1) := dk_44 (dk_at dksL_law_19 23 rfl rfl)
theorem dL_law_538 : decode cL_law 538 = .ok (.invokevirtual 97, 3) := dk_182 0 97 (dk_at dksL_law_20 0 rfl rfl)
theorem dL_law_541 : decode cL_law 541 = .ok (.iload 5, 2) := dk_21 5 (dk_at dksL_law_20 3 rfl rfl)
theorem dL_law_543 : decode cL_law 543 = .ok (.if_icmp .eq 5, 3) := dk_159 0 5 (dk_at dksL_law_20 5 rfl rfl)
theorem dL_law_546 : decode cL_law 546 = .ok (.iconst 0, 1) := dk_3 (dk_at dksL_law_20 8 rfl rfl)
theorem dL_law_547 : decode cL_law 547 = .ok (.ireturn, 1) := dk_172 (dk_at dksL_law_20 9 rfl rfl)
theorem dL_law_548 : decode cL_law 548 = .ok (.iload 5, 2) := dk_21 5 (dk_at dksL_law_20 10 rfl rfl)
theorem dL_law_550 : decode cL_law 550 = .ok (.ifCond .ne 15, 3) := dk_154 0 15 (dk_at dksL_law_20 12 rfl rfl)
theorem dL_law_553 : decode cL_law 553 = .ok (.aload_n 3, 1) := dk_45 (dk_at dksL_law_20 15 rfl rfl)
theorem dL_law_554 : decode cL_law 554 = .ok (.iconst 0, 1) := dk_3 (dk_at dksL_law_20 16 rfl rfl)
theorem dL_law_555 : decode cL_law 555 = .ok (.laload, 1) := dk_47 (dk_at dksL_law_20 17 rfl rfl)
theorem dL_law_556 : decode cL_law 556 = .ok (.iload 6, 2) := dk_21 6 (dk_at dksL_law_20 18 rfl rfl)
theorem dL_law_558 : decode cL_law 558 = .ok (.i2l, 1) := dk_133 (dk_at dksL_law_20 20 rfl rfl)
theorem dL_law_559 : decode cL_law 559 = .ok (.lcmp, 1) := dk_148 (dk_at dksL_law_20 21 rfl rfl)
theorem dL_law_560 : decode cL_law 560 = .ok (.ifCond .eq 5, 3) := dk_153 0 5 (dk_at dksL_law_21 0 rfl rfl)
theorem dL_law_563 : decode cL_law 563 = .ok (.iconst 0, 1) := dk_3 (dk_at dksL_law_21 3 rfl rfl)
theorem dL_law_564 : decode cL_law 564 = .ok (.ireturn, 1) := dk_172 (dk_at dksL_law_21 4 rfl rfl)
theorem dL_law_565 : decode cL_law 565 = .ok (.goto 1039, 3) := dk_167 4 15 (dk_at dksL_law_21 5 rfl rfl)
theorem dL_law_568 : decode cL_law 568 = .ok (.aload_n 1, 1) := dk_43 (dk_at dksL_law_21 8 rfl rfl)
theorem dL_law_569 : decode cL_law 569 = .ok (.aload_n 0, 1) := dk_42 (dk_at dksL_law_21 9 rfl rfl)
theorem dL_law_570 : decode cL_law 570 = .ok (.iload 4, 2) := dk_21 4 (dk_at dksL_law_21 10 rfl rfl)
theorem dL_law_572 : decode cL_law 572 = .ok (.iconst 1, 1) := dk_4 (dk_at dksL_law_21 12 rfl rfl)
theorem dL_law_573 : decode cL_law 573 = .ok (.iadd, 1) := dk_96 (dk_at dksL_law_21 13 rfl rfl)
theorem dL_law_574 : decode cL_law 574 = .ok (.iaload, 1) := dk_46 (dk_at dksL_law_21 14 rfl rfl)
theorem dL_law_575 : decode cL_law 575 = .ok (.aload_n 0, 1) := dk_42 (dk_at dksL_law_21 15 rfl rfl)
theorem dL_law_576 : decode cL_law 576 = .ok (.iload 4, 2) := dk_21 4 (dk_at dksL_law_21 16 rfl rfl)
theorem dL_law_578 : decode cL_law 578 = .ok (.iconst 2, 1) := dk_5 (dk_at dksL_law_21 18 rfl rfl)
theorem dL_law_579 : decode cL_law 579 = .ok (.iadd, 1) := dk_96 (dk_at dksL_law_21 19 rfl rfl)
theorem dL_law_580 : decode cL_law 580 = .ok (.iaload, 1) := dk_46 (dk_at dksL_law_21 20 rfl rfl)
theorem dL_law_581 : decode cL_law 581 = .ok (.invokestatic 121, 3) := dk_184 0 121 (dk_at dksL_law_21 21 rfl rfl)
theorem dL_law_584 : decode cL_law 584 = .ok (.istore 5, 2) := dk_54 5 (dk_at dksL_law_22 0 rfl rfl)
theorem dL_law_586 : decode cL_law 586 = .ok (.aload_n 2, 1) := dk_44 (dk_at dksL_law_22 2 rfl rfl)
theorem dL_law_587 : decode cL_law 587 = .ok (.aload_n 0, 1) := dk_42 (dk_at dksL_law_22 3 rfl rfl)
theorem dL_law_588 : decode cL_law 588 = .ok (.iload 4, 2) := dk_21 4 (dk_at dksL_law_22 4 rfl rfl)
theorem dL_law_590 : decode cL_law 590 = .ok (.iconst 1, 1) := dk_4 (dk_at dksL_law_22 6 rfl rfl)
theorem dL_law_591 : decode cL_law 591 = .ok (.iadd, 1) := dk_96 (dk_at dksL_law_22 7 rfl rfl)
theorem dL_law_592 : decode cL_law 592 = .ok (.iaload, 1) := dk_46 (dk_at dksL_law_22 8 rfl rfl)
theorem dL_law_593 : decode cL_law 593 = .ok (.aload_n 0, 1) := dk_42 (dk_at dksL_law_22 9 rfl rfl)
theorem dL_law_594 : decode cL_law 594 = .ok (.iload 4, 2) := dk_21 4 (dk_at dksL_law_22 10 rfl rfl)
theorem dL_law_596 : decode cL_law 596 = .ok (.iconst 2, 1) := dk_5 (dk_at dksL_law_22 12 rfl rfl)
theorem dL_law_597 : decode cL_law 597 = .ok (.iadd, 1) := dk_96 (dk_at dksL_law_22 13 rfl rfl)
theorem dL_law_598 : decode cL_law 598 = .ok (.iaload, 1) := dk_46 (dk_at dksL_law_22 14 rfl rfl)
theorem dL_law_599 : decode cL_law 599 = .ok (.invokevirtual 124, 3) := dk_182 0 124 (dk_at dksL_law_22 15 rfl rfl)
theorem dL_law_602 : decode cL_law 602 = .ok (.aload_n 2, 1) := dk_44 (dk_at dksL_law_22 18 rfl rfl)
theorem dL_law_603 : decode cL_law 603 = .ok (.invokevirtual 97, 3) := dk_182 0 97 (dk_at dksL_law_22 19 rfl rfl)
theorem dL_law_606 : decode cL_law 606 = .ok (.iload 5, 2) := dk_21 5 (dk_at dksL_law_22 22 rfl rfl)
theorem dL_law_608 : decode cL_law 608 = .ok (.if_icmp .eq 5, 3) := dk_159 0 5 (dk_at dksL_law_23 0 rfl rfl)
theorem dL_law_611 : decode cL_law 611 = .ok (.iconst 0, 1) := dk_3 (dk_at dksL_law_23 3 rfl rfl)
theorem dL_law_612 : decode cL_law 612 = .ok (.ireturn, 1) := dk_172 (dk_at dksL_law_23 4 rfl rfl)
theorem dL_law_613 : decode cL_law 613 = .ok (.goto 991, 3) := dk_167 3 223 (dk_at dksL_law_23 5 rfl rfl)
theorem dL_law_616 : decode cL_law 616 = .ok (.aload_n 1, 1) := dk_43 (dk_at dksL_law_23 8 rfl rfl)
theorem dL_law_617 : decode cL_law 617 = .ok (.aload_n 0, 1) := dk_42 (dk_at dksL_law_23 9 rfl rfl)
theorem dL_law_618 : decode cL_law 618 = .ok (.iload 4, 2) := dk_21 4 (dk_at dksL_law_23 10 rfl rfl)
theorem dL_law_620 : decode cL_law 620 = .ok (.iconst 1, 1) := dk_4 (dk_at dksL_law_23 12 rfl rfl)
theorem dL_law_621 : decode cL_law 621 = .ok (.iadd, 1) := dk_96 (dk_at dksL_law_23 13 rfl rfl)
theorem dL_law_622 : decode cL_law 622 = .ok (.iaload, 1) := dk_46 (dk_at dksL_law_23 14 rfl rfl)
theorem dL_law_623 : decode cL_law 623 = .ok (.aload_n 3, 1) := dk_45 (dk_at dksL_law_23 15 rfl rfl)
theorem dL_law_624 : decode cL_law 624 = .ok (.invokestatic 125, 3) := dk_184 0 125 (dk_at dksL_law_23 16 rfl rfl)
theorem dL_law_627 : decode cL_law 627 = .ok (.istore 5, 2) := dk_54 5 (dk_at dksL_law_23 19 rfl rfl)
theorem dL_law_629 : decode cL_law 629 = .ok (.aload_n 2, 1) := dk_44 (dk_at dksL_law_23 21 rfl rfl)
theorem dL_law_630 : decode cL_law 630 = .ok (.aload_n 0, 1) := dk_42 (dk_at dksL_law_23 22 rfl rfl)
theorem dL_law_631 : decode cL_law 631 = .ok (.iload 4, 2) := dk_21 4 (dk_at dksL_law_24 0 rfl rfl)
theorem dL_law_633 : decode cL_law 633 = .ok (.iconst 1, 1) := dk_4 (dk_at dksL_law_24 2 rfl rfl)
theorem dL_law_634 : decode cL_law 634 = .ok (.iadd, 1) := dk_96 (dk_at dksL_law_24 3 rfl rfl)
theorem dL_law_635 : decode cL_law 635 = .ok (.iaload, 1) := dk_46 (dk_at dksL_law_24 4 rfl rfl)
theorem dL_law_636 : decode cL_law 636 = .ok (.invokevirtual 127, 3) := dk_182 0 127 (dk_at dksL_law_24 5 rfl rfl)
theorem dL_law_639 : decode cL_law 639 = .ok (.istore 6, 2) := dk_54 6 (dk_at dksL_law_24 8 rfl rfl)
theorem dL_law_641 : decode cL_law 641 = .ok (.aload_n 2, 1) := dk_44 (dk_at dksL_law_24 10 rfl rfl)
theorem dL_law_642 : decode cL_law 642 = .ok (.invokevirtual 97, 3) := dk_182 0 97 (dk_at dksL_law_24 11 rfl rfl)
theorem dL_law_645 : decode cL_law 645 = .ok (.iload 5, 2) := dk_21 5 (dk_at dksL_law_24 14 rfl rfl)
theorem dL_law_647 : decode cL_law 647 = .ok (.if_icmp .eq 5, 3) := dk_159 0 5 (dk_at dksL_law_24 16 rfl rfl)
theorem dL_law_650 : decode cL_law 650 = .ok (.iconst 0, 1) := dk_3 (dk_at dksL_law_24 19 rfl rfl)
theorem dL_law_651 : decode cL_law 651 = .ok (.ireturn, 1) := dk_172 (dk_at dksL_law_24 20 rfl rfl)
theorem dL_law_652 : decode cL_law 652 = .ok (.iload 5, 2) := dk_21 5 (dk_at dksL_law_24 21 rfl rfl)
theorem dL_law_654 : decode cL_law 654 = .ok (.ifCond .ne 15, 3) := dk_154 0 15 (dk_at dksL_law_25 0 rfl rfl)
theorem dL_law_657 : decode cL_law 657 = .ok (.aload_n 3, 1) := dk_45 (dk_at dksL_law_25 3 rfl rfl)
theorem dL_law_658 : decode cL_law 658 = .ok (.iconst 0, 1) := dk_3 (dk_at dksL_law_25 4 rfl rfl)
theorem dL_law_659 : decode cL_law 659 = .ok (.laload, 1) := dk_47 (dk_at dksL_law_25 5 rfl rfl)
theorem dL_law_660 : decode cL_law 660 = .ok (.iload 6, 2) := dk_21 6 (dk_at dksL_law_25 6 rfl rfl)
theorem dL_law_662 : decode cL_law 662 = .ok (.i2l, 1) := dk_133 (dk_at dksL_law_25 8 rfl rfl)
theorem dL_law_663 : decode cL_law 663 = .ok (.lcmp, 1) := dk_148 (dk_at dksL_law_25 9 rfl rfl)
theorem dL_law_664 : decode cL_law 664 = .ok (.ifCond .eq 5, 3) := dk_153 0 5 (dk_at dksL_law_25 10 rfl rfl)
theorem dL_law_667 : decode cL_law 667 = .ok (.iconst 0, 1) := dk_3 (dk_at dksL_law_25 13 rfl rfl)
theorem dL_law_668 : decode cL_law 668 = .ok (.ireturn, 1) := dk_172 (dk_at dksL_law_25 14 rfl rfl)
theorem dL_law_669 : decode cL_law 669 = .ok (.goto 935, 3) := dk_167 3 167 (dk_at dksL_law_25 15 rfl rfl)
theorem dL_law_672 : decode cL_law 672 = .ok (.aload_n 1, 1) := dk_43 (dk_at dksL_law_25 18 rfl rfl)
theorem dL_law_673 : decode cL_law 673 = .ok (.aload_n 0, 1) := dk_42 (dk_at dksL_law_25 19 rfl rfl)
theorem dL_law_674 : decode cL_law 674 = .ok (.iload 4, 2) := dk_21 4 (dk_at dksL_law_25 20 rfl rfl)
theorem dL_law_676 : decode cL_law 676 = .ok (.iconst 1, 1) := dk_4 (dk_at dksL_law_25 22 rfl rfl)
theorem dL_law_677 : decode cL_law 677 = .ok (.iadd, 1) := dk_96 (dk_at dksL_law_25 23 rfl rfl)
theorem dL_law_678 : decode cL_law 678 = .ok (.iaload, 1) := dk_46 (dk_at dksL_law_26 0 rfl rfl)
theorem dL_law_679 : decode cL_law 679 = .ok (.aload_n 3, 1) := dk_45 (dk_at dksL_law_26 1 rfl rfl)
theorem dL_law_680 : decode cL_law 680 = .ok (.invokestatic 128, 3) := dk_184 0 128 (dk_at dksL_law_26 2 rfl rfl)
theorem dL_law_683 : decode cL_law 683 = .ok (.istore 5, 2) := dk_54 5 (dk_at dksL_law_26 5 rfl rfl)
theorem dL_law_685 : decode cL_law 685 = .ok (.aload_n 2, 1) := dk_44 (dk_at dksL_law_26 7 rfl rfl)
theorem dL_law_686 : decode cL_law 686 = .ok (.aload_n 0, 1) := dk_42 (dk_at dksL_law_26 8 rfl rfl)
theorem dL_law_687 : decode cL_law 687 = .ok (.iload 4, 2) := dk_21 4 (dk_at dksL_law_26 9 rfl rfl)
theorem dL_law_689 : decode cL_law 689 = .ok (.iconst 1, 1) := dk_4 (dk_at dksL_law_26 11 rfl rfl)
theorem dL_law_690 : decode cL_law 690 = .ok (.iadd, 1) := dk_96 (dk_at dksL_law_26 12 rfl rfl)
theorem dL_law_691 : decode cL_law 691 = .ok (.iaload, 1) := dk_46 (dk_at dksL_law_26 13 rfl rfl)
theorem dL_law_692 : decode cL_law 692 = .ok (.invokevirtual 130, 3) := dk_182 0 130 (dk_at dksL_law_26 14 rfl rfl)
theorem dL_law_695 : decode cL_law 695 = .ok (.istore 6, 2) := dk_54 6 (dk_at dksL_law_26 17 rfl rfl)
theorem dL_law_697 : decode cL_law 697 = .ok (.aload_n 2, 1) := dk_44 (dk_at dksL_law_26 19 rfl rfl)
theorem dL_law_698 : decode cL_law 698 = .ok (.invokevirtual 97, 3) := dk_182 0 97 (dk_at dksL_law_26 20 rfl rfl)
theorem dL_law_701 : decode cL_law 701 = .ok (.iload 5, 2) := dk_21 5 (dk_at dksL_law_27 0 rfl rfl)
theorem dL_law_703 : decode cL_law 703 = .ok (.if_icmp .eq 5, 3) := dk_159 0 5 (dk_at dksL_law_27 2 rfl rfl)
theorem dL_law_706 : decode cL_law 706 = .ok (.iconst 0, 1) := dk_3 (dk_at dksL_law_27 5 rfl rfl)
theorem dL_law_707 : decode cL_law 707 = .ok (.ireturn, 1) := dk_172 (dk_at dksL_law_27 6 rfl rfl)
theorem dL_law_708 : decode cL_law 708 = .ok (.iload 5, 2) := dk_21 5 (dk_at dksL_law_27 7 rfl rfl)
theorem dL_law_710 : decode cL_law 710 = .ok (.ifCond .ne 15, 3) := dk_154 0 15 (dk_at dksL_law_27 9 rfl rfl)
theorem dL_law_713 : decode cL_law 713 = .ok (.aload_n 3, 1) := dk_45 (dk_at dksL_law_27 12 rfl rfl)
theorem dL_law_714 : decode cL_law 714 = .ok (.iconst 0, 1) := dk_3 (dk_at dksL_law_27 13 rfl rfl)
theorem dL_law_715 : decode cL_law 715 = .ok (.laload, 1) := dk_47 (dk_at dksL_law_27 14 rfl rfl)
theorem dL_law_716 : decode cL_law 716 = .ok (.iload 6, 2) := dk_21 6 (dk_at dksL_law_27 15 rfl rfl)
theorem dL_law_718 : decode cL_law 718 = .ok (.i2l, 1) := dk_133 (dk_at dksL_law_27 17 rfl rfl)
theorem dL_law_719 : decode cL_law 719 = .ok (.lcmp, 1) := dk_148 (dk_at dksL_law_27 18 rfl rfl)
theorem dL_law_720 : decode cL_law 720 = .ok (.ifCond .eq 5, 3) := dk_153 0 5 (dk_at dksL_law_27 19 rfl rfl)
theorem dL_law_723 : decode cL_law 723 = .ok (.iconst 0, 1) := dk_3 (dk_at dksL_law_27 22 rfl rfl)
theorem dL_law_724 : decode cL_law 724 = .ok (.ireturn, 1) := dk_172 (dk_at dksL_law_27 23 rfl rfl)
theorem dL_law_725 : decode cL_law 725 = .ok (.goto 879, 3) := dk_167 3 111 (dk_at dksL_law_28 0 rfl rfl)
theorem dL_law_728 : decode cL_law 728 = .ok (.aload_n 1, 1) := dk_43 (dk_at dksL_law_28 3 rfl rfl)
theorem dL_law_729 : decode cL_law 729 = .ok (.aload_n 0, 1) := dk_42 (dk_at dksL_law_28 4 rfl rfl)
theorem dL_law_730 : decode cL_law 730 = .ok (.iload 4, 2) := dk_21 4 (dk_at dksL_law_28 5 rfl rfl)
theorem dL_law_732 : decode cL_law 732 = .ok (.iconst 1, 1) := dk_4 (dk_at dksL_law_28 7 rfl rfl)
theorem dL_law_733 : decode cL_law 733 = .ok (.iadd, 1) := dk_96 (dk_at dksL_law_28 8 rfl rfl)
theorem dL_law_734 : decode cL_law 734 = .ok (.iaload, 1) := dk_46 (dk_at dksL_law_28 9 rfl rfl)
theorem dL_law_735 : decode cL_law 735 = .ok (.aload_n 0, 1) := dk_42 (dk_at dksL_law_28 10 rfl rfl)
theorem dL_law_736 : decode cL_law 736 = .ok (.iload 4, 2) := dk_21 4 (dk_at dksL_law_28 11 rfl rfl)
theorem dL_law_738 : decode cL_law 738 = .ok (.iconst 2, 1) := dk_5 (dk_at dksL_law_28 13 rfl rfl)
theorem dL_law_739 : decode cL_law 739 = .ok (.iadd, 1) := dk_96 (dk_at dksL_law_28 14 rfl rfl)
theorem dL_law_740 : decode cL_law 740 = .ok (.iaload, 1) := dk_46 (dk_at dksL_law_28 15 rfl rfl)
theorem dL_law_741 : decode cL_law 741 = .ok (.aload_n 3, 1) := dk_45 (dk_at dksL_law_28 16 rfl rfl)
theorem dL_law_742 : decode cL_law 742 = .ok (.invokestatic 131, 3) := dk_184 0 131 (dk_at dksL_law_28 17 rfl rfl)
theorem dL_law_745 : decode cL_law 745 = .ok (.istore 5, 2) := dk_54 5 (dk_at dksL_law_28 20 rfl rfl)
theorem dL_law_747 : decode cL_law 747 = .ok (.aload_n 2, 1) := dk_44 (dk_at dksL_law_28 22 rfl rfl)
theorem dL_law_748 : decode cL_law 748 = .ok (.aload_n 0, 1) := dk_42 (dk_at dksL_law_28 23 rfl rfl)
theorem dL_law_749 : decode cL_law 749 = .ok (.iload 4, 2) := dk_21 4 (dk_at dksL_law_29 0 rfl rfl)
theorem dL_law_751 : decode cL_law 751 = .ok (.iconst 1, 1) := dk_4 (dk_at dksL_law_29 2 rfl rfl)
theorem dL_law_752 : decode cL_law 752 = .ok (.iadd, 1) := dk_96 (dk_at dksL_law_29 3 rfl rfl)
theorem dL_law_753 : decode cL_law 753 = .ok (.iaload, 1) := dk_46 (dk_at dksL_law_29 4 rfl rfl)
theorem dL_law_754 : decode cL_law 754 = .ok (.aload_n 0, 1) := dk_42 (dk_at dksL_law_29 5 rfl rfl)
theorem dL_law_755 : decode cL_law 755 = .ok (.iload 4, 2) := dk_21 4 (dk_at dksL_law_29 6 rfl rfl)
theorem dL_law_757 : decode cL_law 757 = .ok (.iconst 2, 1) := dk_5 (dk_at dksL_law_29 8 rfl rfl)
theorem dL_law_758 : decode cL_law 758 = .ok (.iadd, 1) := dk_96 (dk_at dksL_law_29 9 rfl rfl)
theorem dL_law_759 : decode cL_law 759 = .ok (.iaload, 1) := dk_46 (dk_at dksL_law_29 10 rfl rfl)
theorem dL_law_760 : decode cL_law 760 = .ok (.invokevirtual 133, 3) := dk_182 0 133 (dk_at dksL_law_29 11 rfl rfl)
theorem dL_law_763 : decode cL_law 763 = .ok (.istore 6, 2) := dk_54 6 (dk_at dksL_law_29 14 rfl rfl)
theorem dL_law_765 : decode cL_law 765 = .ok (.aload_n 2, 1) := dk_44 (dk_at dksL_law_29 16 rfl rfl)
theorem dL_law_766 : decode cL_law 766 = .ok (.invokevirtual 97, 3) := dk_182 0 97 (dk_at dksL_law_29 17 rfl rfl)
theorem dL_law_769 : decode cL_law 769 = .ok (.iload 5, 2) := dk_21 5 (dk_at dksL_law_29 20 rfl rfl)
theorem dL_law_771 : decode cL_law 771 = .ok (.if_icmp .eq 5, 3) := dk_159 0 5 (dk_at dksL_law_30 0 rfl rfl)
theorem dL_law_774 : decode cL_law 774 = .ok (.iconst 0, 1) := dk_3 (dk_at dksL_law_30 3 rfl rfl)
theorem dL_law_775 : decode cL_law 775 = .ok (.ireturn, 1) := dk_172 (dk_at dksL_law_30 4 rfl rfl)
theorem dL_law_776 : decode cL_law 776 = .ok (.iload 5, 2) := dk_21 5 (dk_at dksL_law_30 5 rfl rfl)
theorem dL_law_778 : decode cL_law 778 = .ok (.ifCond .ne 15, 3) := dk_154 0 15 (dk_at dksL_law_30 7 rfl rfl)
theorem dL_law_781 : decode cL_law 781 = .ok (.aload_n 3, 1) := dk_45 (dk_at dksL_law_30 10 rfl rfl)
theorem dL_law_782 : decode cL_law 782 = .ok (.iconst 0, 1) := dk_3 (dk_at dksL_law_30 11 rfl rfl)
theorem dL_law_783 : decode cL_law 783 = .ok (.laload, 1) := dk_47 (dk_at dksL_law_30 12 rfl rfl)
theorem dL_law_784 : decode cL_law 784 = .ok (.iload 6, 2) := dk_21 6 (dk_at dksL_law_30 13 rfl rfl)
theorem dL_law_786 : decode cL_law 786 = .ok (.i2l, 1) := dk_133 (dk_at dksL_law_30 15 rfl rfl)
theorem dL_law_787 : decode cL_law 787 = .ok (.lcmp, 1) := dk_148 (dk_at dksL_law_30 16 rfl rfl)
theorem dL_law_788 : decode cL_law 788 = .ok (.ifCond .eq 5, 3) := dk_153 0 5 (dk_at dksL_law_30 17 rfl rfl)
theorem dL_law_791 : decode cL_law 791 = .ok (.iconst 0, 1) := dk_3 (dk_at dksL_law_30 20 rfl rfl)
theorem dL_law_792 : decode cL_law 792 = .ok (.ireturn, 1) := dk_172 (dk_at dksL_law_30 21 rfl rfl)
theorem dL_law_793 : decode cL_law 793 = .ok (.goto 811, 3) := dk_167 3 43 (dk_at dksL_law_31 0 rfl rfl)
theorem dL_law_796 : decode cL_law 796 = .ok (.aload_n 1, 1) := dk_43 (dk_at dksL_law_31 3 rfl rfl)
theorem dL_law_797 : decode cL_law 797 = .ok (.aload_n 0, 1) := dk_42 (dk_at dksL_law_31 4 rfl rfl)
theorem dL_law_798 : decode cL_law 798 = .ok (.iload 4, 2) := dk_21 4 (dk_at dksL_law_31 5 rfl rfl)
theorem dL_law_800 : decode cL_law 800 = .ok (.iconst 1, 1) := dk_4 (dk_at dksL_law_31 7 rfl rfl)
theorem dL_law_801 : decode cL_law 801 = .ok (.iadd, 1) := dk_96 (dk_at dksL_law_31 8 rfl rfl)
theorem dL_law_802 : decode cL_law 802 = .ok (.iaload, 1) := dk_46 (dk_at dksL_law_31 9 rfl rfl)
theorem dL_law_803 : decode cL_law 803 = .ok (.aload_n 0, 1) := dk_42 (dk_at dksL_law_31 10 rfl rfl)
theorem dL_law_804 : decode cL_law 804 = .ok (.iload 4, 2) := dk_21 4 (dk_at dksL_law_31 11 rfl rfl)
theorem dL_law_806 : decode cL_law 806 = .ok (.iconst 2, 1) := dk_5 (dk_at dksL_law_31 13 rfl rfl)
theorem dL_law_807 : decode cL_law 807 = .ok (.iadd, 1) := dk_96 (dk_at dksL_law_31 14 rfl rfl)
theorem dL_law_808 : decode cL_law 808 = .ok (.iaload, 1) := dk_46 (dk_at dksL_law_31 15 rfl rfl)
theorem dL_law_809 : decode cL_law 809 = .ok (.ifCond .eq 7, 3) := dk_153 0 7 (dk_at dksL_law_31 16 rfl rfl)
theorem dL_law_812 : decode cL_law 812 = .ok (.iconst 1, 1) := dk_4 (dk_at dksL_law_31 19 rfl rfl)
theorem dL_law_813 : decode cL_law 813 = .ok (.goto 4, 3) := dk_167 0 4 (dk_at dksL_law_31 20 rfl rfl)
theorem dL_law_816 : decode cL_law 816 = .ok (.iconst 0, 1) := dk_3 (dk_at dksL_law_31 23 rfl rfl)
theorem dL_law_817 : decode cL_law 817 = .ok (.aload_n 0, 1) := dk_42 (dk_at dksL_law_32 0 rfl rfl)
theorem dL_law_818 : decode cL_law 818 = .ok (.iload 4, 2) := dk_21 4 (dk_at dksL_law_32 1 rfl rfl)
theorem dL_law_820 : decode cL_law 820 = .ok (.iconst 3, 1) := dk_6 (dk_at dksL_law_32 3 rfl rfl)
theorem dL_law_821 : decode cL_law 821 = .ok (.iadd, 1) := dk_96 (dk_at dksL_law_32 4 rfl rfl)
theorem dL_law_822 : decode cL_law 822 = .ok (.iaload, 1) := dk_46 (dk_at dksL_law_32 5 rfl rfl)
theorem dL_law_823 : decode cL_law 823 = .ok (.aload_n 3, 1) := dk_45 (dk_at dksL_law_32 6 rfl rfl)
theorem dL_law_824 : decode cL_law 824 = .ok (.invokestatic 134, 3) := dk_184 0 134 (dk_at dksL_law_32 7 rfl rfl)
theorem dL_law_827 : decode cL_law 827 = .ok (.istore 5, 2) := dk_54 5 (dk_at dksL_law_32 10 rfl rfl)
theorem dL_law_829 : decode cL_law 829 = .ok (.aload_n 2, 1) := dk_44 (dk_at dksL_law_32 12 rfl rfl)
theorem dL_law_830 : decode cL_law 830 = .ok (.aload_n 0, 1) := dk_42 (dk_at dksL_law_32 13 rfl rfl)
theorem dL_law_831 : decode cL_law 831 = .ok (.iload 4, 2) := dk_21 4 (dk_at dksL_law_32 14 rfl rfl)
theorem dL_law_833 : decode cL_law 833 = .ok (.iconst 1, 1) := dk_4 (dk_at dksL_law_32 16 rfl rfl)
theorem dL_law_834 : decode cL_law 834 = .ok (.iadd, 1) := dk_96 (dk_at dksL_law_32 17 rfl rfl)
theorem dL_law_835 : decode cL_law 835 = .ok (.iaload, 1) := dk_46 (dk_at dksL_law_32 18 rfl rfl)
theorem dL_law_836 : decode cL_law 836 = .ok (.aload_n 0, 1) := dk_42 (dk_at dksL_law_32 19 rfl rfl)
theorem dL_law_837 : decode cL_law 837 = .ok (.iload 4, 2) := dk_21 4 (dk_at dksL_law_32 20 rfl rfl)
theorem dL_law_839 : decode cL_law 839 = .ok (.iconst 2, 1) := dk_5 (dk_at dksL_law_32 22 rfl rfl)
theorem dL_law_840 : decode cL_law 840 = .ok (.iadd, 1) := dk_96 (dk_at dksL_law_32 23 rfl rfl)
theorem dL_law_841 : decode cL_law 841 = .ok (.iaload, 1) := dk_46 (dk_at dksL_law_33 0 rfl rfl)
theorem dL_law_842 : decode cL_law 842 = .ok (.ifCond .eq 7, 3) := dk_153 0 7 (dk_at dksL_law_33 1 rfl rfl)
theorem dL_law_845 : decode cL_law 845 = .ok (.iconst 1, 1) := dk_4 (dk_at dksL_law_33 4 rfl rfl)
theorem dL_law_846 : decode cL_law 846 = .ok (.goto 4, 3) := dk_167 0 4 (dk_at dksL_law_33 5 rfl rfl)
theorem dL_law_849 : decode cL_law 849 = .ok (.iconst 0, 1) := dk_3 (dk_at dksL_law_33 8 rfl rfl)
theorem dL_law_850 : decode cL_law 850 = .ok (.aload_n 0, 1) := dk_42 (dk_at dksL_law_33 9 rfl rfl)
theorem dL_law_851 : decode cL_law 851 = .ok (.iload 4, 2) := dk_21 4 (dk_at dksL_law_33 10 rfl rfl)
theorem dL_law_853 : decode cL_law 853 = .ok (.iconst 3, 1) := dk_6 (dk_at dksL_law_33 12 rfl rfl)
theorem dL_law_854 : decode cL_law 854 = .ok (.iadd, 1) := dk_96 (dk_at dksL_law_33 13 rfl rfl)
theorem dL_law_855 : decode cL_law 855 = .ok (.iaload, 1) := dk_46 (dk_at dksL_law_33 14 rfl rfl)
theorem dL_law_856 : decode cL_law 856 = .ok (.invokevirtual 137, 3) := dk_182 0 137 (dk_at dksL_law_33 15 rfl rfl)
theorem dL_law_859 : decode cL_law 859 = .ok (.istore 6, 2) := dk_54 6 (dk_at dksL_law_33 18 rfl rfl)
theorem dL_law_861 : decode cL_law 861 = .ok (.aload_n 2, 1) := dk_44 (dk_at dksL_law_33 20 rfl rfl)
theorem dL_law_862 : decode cL_law 862 = .ok (.invokevirtual 97, 3) := dk_182 0 97 (dk_at dksL_law_33 21 rfl rfl)
theorem dL_law_865 : decode cL_law 865 = .ok (.iload 5, 2) := dk_21 5 (dk_at dksL_law_34 0 rfl rfl)
theorem dL_law_867 : decode cL_law 867 = .ok (.if_icmp .eq 5, 3) := dk_159 0 5 (dk_at dksL_law_34 2 rfl rfl)
theorem dL_law_870 : decode cL_law 870 = .ok (.iconst 0, 1) := dk_3 (dk_at dksL_law_34 5 rfl rfl)
theorem dL_law_871 : decode cL_law 871 = .ok (.ireturn, 1) := dk_172 (dk_at dksL_law_34 6 rfl rfl)
theorem dL_law_872 : decode cL_law 872 = .ok (.iload 5, 2) := dk_21 5 (dk_at dksL_law_34 7 rfl rfl)
theorem dL_law_874 : decode cL_law 874 = .ok (.ifCond .ne 15, 3) := dk_154 0 15 (dk_at dksL_law_34 9 rfl rfl)
theorem dL_law_877 : decode cL_law 877 = .ok (.aload_n 3, 1) := dk_45 (dk_at dksL_law_34 12 rfl rfl)
theorem dL_law_878 : decode cL_law 878 = .ok (.iconst 0, 1) := dk_3 (dk_at dksL_law_34 13 rfl rfl)
theorem dL_law_879 : decode cL_law 879 = .ok (.laload, 1) := dk_47 (dk_at dksL_law_34 14 rfl rfl)
theorem dL_law_880 : decode cL_law 880 = .ok (.iload 6, 2) := dk_21 6 (dk_at dksL_law_34 15 rfl rfl)
theorem dL_law_882 : decode cL_law 882 = .ok (.i2l, 1) := dk_133 (dk_at dksL_law_34 17 rfl rfl)
theorem dL_law_883 : decode cL_law 883 = .ok (.lcmp, 1) := dk_148 (dk_at dksL_law_34 18 rfl rfl)
theorem dL_law_884 : decode cL_law 884 = .ok (.ifCond .eq 5, 3) := dk_153 0 5 (dk_at dksL_law_34 19 rfl rfl)
theorem dL_law_887 : decode cL_law 887 = .ok (.iconst 0, 1) := dk_3 (dk_at dksL_law_34 22 rfl rfl)
theorem dL_law_888 : decode cL_law 888 = .ok (.ireturn, 1) := dk_172 (dk_at dksL_law_34 23 rfl rfl)
theorem dL_law_889 : decode cL_law 889 = .ok (.goto 715, 3) := dk_167 2 203 (dk_at dksL_law_35 0 rfl rfl)
theorem dL_law_892 : decode cL_law 892 = .ok (.aload_n 1, 1) := dk_43 (dk_at dksL_law_35 3 rfl rfl)
theorem dL_law_893 : decode cL_law 893 = .ok (.aload_n 0, 1) := dk_42 (dk_at dksL_law_35 4 rfl rfl)
theorem dL_law_894 : decode cL_law 894 = .ok (.iload 4, 2) := dk_21 4 (dk_at dksL_law_35 5 rfl rfl)
theorem dL_law_896 : decode cL_law 896 = .ok (.iconst 1, 1) := dk_4 (dk_at dksL_law_35 7 rfl rfl)
theorem dL_law_897 : decode cL_law 897 = .ok (.iadd, 1) := dk_96 (dk_at dksL_law_35 8 rfl rfl)
theorem dL_law_898 : decode cL_law 898 = .ok (.iaload, 1) := dk_46 (dk_at dksL_law_35 9 rfl rfl)
theorem dL_law_899 : decode cL_law 899 = .ok (.aload_n 0, 1) := dk_42 (dk_at dksL_law_35 10 rfl rfl)
theorem dL_law_900 : decode cL_law 900 = .ok (.iload 4, 2) := dk_21 4 (dk_at dksL_law_35 11 rfl rfl)
theorem dL_law_902 : decode cL_law 902 = .ok (.iconst 2, 1) := dk_5 (dk_at dksL_law_35 13 rfl rfl)
theorem dL_law_903 : decode cL_law 903 = .ok (.iadd, 1) := dk_96 (dk_at dksL_law_35 14 rfl rfl)
theorem dL_law_904 : decode cL_law 904 = .ok (.iaload, 1) := dk_46 (dk_at dksL_law_35 15 rfl rfl)
theorem dL_law_905 : decode cL_law 905 = .ok (.aload_n 3, 1) := dk_45 (dk_at dksL_law_35 16 rfl rfl)
theorem dL_law_906 : decode cL_law 906 = .ok (.invokestatic 138, 3) := dk_184 0 138 (dk_at dksL_law_35 17 rfl rfl)
theorem dL_law_909 : decode cL_law 909 = .ok (.istore 5, 2) := dk_54 5 (dk_at dksL_law_35 20 rfl rfl)
theorem dL_law_911 : decode cL_law 911 = .ok (.aload_n 2, 1) := dk_44 (dk_at dksL_law_35 22 rfl rfl)
theorem dL_law_912 : decode cL_law 912 = .ok (.aload_n 0, 1) := dk_42 (dk_at dksL_law_35 23 rfl rfl)
theorem dL_law_913 : decode cL_law 913 = .ok (.iload 4, 2) := dk_21 4 (dk_at dksL_law_36 0 rfl rfl)
theorem dL_law_915 : decode cL_law 915 = .ok (.iconst 1, 1) := dk_4 (dk_at dksL_law_36 2 rfl rfl)
theorem dL_law_916 : decode cL_law 916 = .ok (.iadd, 1) := dk_96 (dk_at dksL_law_36 3 rfl rfl)
theorem dL_law_917 : decode cL_law 917 = .ok (.iaload, 1) := dk_46 (dk_at dksL_law_36 4 rfl rfl)
theorem dL_law_918 : decode cL_law 918 = .ok (.aload_n 0, 1) := dk_42 (dk_at dksL_law_36 5 rfl rfl)
theorem dL_law_919 : decode cL_law 919 = .ok (.iload 4, 2) := dk_21 4 (dk_at dksL_law_36 6 rfl rfl)
theorem dL_law_921 : decode cL_law 921 = .ok (.iconst 2, 1) := dk_5 (dk_at dksL_law_36 8 rfl rfl)
theorem dL_law_922 : decode cL_law 922 = .ok (.iadd, 1) := dk_96 (dk_at dksL_law_36 9 rfl rfl)
theorem dL_law_923 : decode cL_law 923 = .ok (.iaload, 1) := dk_46 (dk_at dksL_law_36 10 rfl rfl)
theorem dL_law_924 : decode cL_law 924 = .ok (.invokevirtual 140, 3) := dk_182 0 140 (dk_at dksL_law_36 11 rfl rfl)
theorem dL_law_927 : decode cL_law 927 = .ok (.istore 6, 2) := dk_54 6 (dk_at dksL_law_36 14 rfl rfl)
theorem dL_law_929 : decode cL_law 929 = .ok (.aload_n 2, 1) := dk_44 (dk_at dksL_law_36 16 rfl rfl)
theorem dL_law_930 : decode cL_law 930 = .ok (.invokevirtual 97, 3) := dk_182 0 97 (dk_at dksL_law_36 17 rfl rfl)
theorem dL_law_933 : decode cL_law 933 = .ok (.iload 5, 2) := dk_21 5 (dk_at dksL_law_36 20 rfl rfl)
theorem dL_law_935 : decode cL_law 935 = .ok (.if_icmp .eq 5, 3) := dk_159 0 5 (dk_at dksL_law_37 0 rfl rfl)
theorem dL_law_938 : decode cL_law 938 = .ok (.iconst 0, 1) := dk_3 (dk_at dksL_law_37 3 rfl rfl)
theorem dL_law_939 : decode cL_law 939 = .ok (.ireturn, 1) := dk_172 (dk_at dksL_law_37 4 rfl rfl)
theorem dL_law_940 : decode cL_law 940 = .ok (.iload 5, 2) := dk_21 5 (dk_at dksL_law_37 5 rfl rfl)
theorem dL_law_942 : decode cL_law 942 = .ok (.ifCond .ne 15, 3) := dk_154 0 15 (dk_at dksL_law_37 7 rfl rfl)
theorem dL_law_945 : decode cL_law 945 = .ok (.aload_n 3, 1) := dk_45 (dk_at dksL_law_37 10 rfl rfl)
theorem dL_law_946 : decode cL_law 946 = .ok (.iconst 0, 1) := dk_3 (dk_at dksL_law_37 11 rfl rfl)
theorem dL_law_947 : decode cL_law 947 = .ok (.laload, 1) := dk_47 (dk_at dksL_law_37 12 rfl rfl)
theorem dL_law_948 : decode cL_law 948 = .ok (.iload 6, 2) := dk_21 6 (dk_at dksL_law_37 13 rfl rfl)
theorem dL_law_950 : decode cL_law 950 = .ok (.i2l, 1) := dk_133 (dk_at dksL_law_37 15 rfl rfl)
theorem dL_law_951 : decode cL_law 951 = .ok (.lcmp, 1) := dk_148 (dk_at dksL_law_37 16 rfl rfl)
theorem dL_law_952 : decode cL_law 952 = .ok (.ifCond .eq 5, 3) := dk_153 0 5 (dk_at dksL_law_37 17 rfl rfl)
theorem dL_law_955 : decode cL_law 955 = .ok (.iconst 0, 1) := dk_3 (dk_at dksL_law_37 20 rfl rfl)
theorem dL_law_956 : decode cL_law 956 = .ok (.ireturn, 1) := dk_172 (dk_at dksL_law_37 21 rfl rfl)
theorem dL_law_957 : decode cL_law 957 = .ok (.goto 647, 3) := dk_167 2 135 (dk_at dksL_law_38 0 rfl rfl)
theorem dL_law_960 : decode cL_law 960 = .ok (.aload_n 1, 1) := dk_43 (dk_at dksL_law_38 3 rfl rfl)
theorem dL_law_961 : decode cL_law 961 = .ok (.aload_n 0, 1) := dk_42 (dk_at dksL_law_38 4 rfl rfl)
theorem dL_law_962 : decode cL_law 962 = .ok (.iload 4, 2) := dk_21 4 (dk_at dksL_law_38 5 rfl rfl)
theorem dL_law_964 : decode cL_law 964 = .ok (.iconst 1, 1) := dk_4 (dk_at dksL_law_38 7 rfl rfl)
theorem dL_law_965 : decode cL_law 965 = .ok (.iadd, 1) := dk_96 (dk_at dksL_law_38 8 rfl rfl)
theorem dL_law_966 : decode cL_law 966 = .ok (.iaload, 1) := dk_46 (dk_at dksL_law_38 9 rfl rfl)
theorem dL_law_967 : decode cL_law 967 = .ok (.aload_n 0, 1) := dk_42 (dk_at dksL_law_38 10 rfl rfl)
theorem dL_law_968 : decode cL_law 968 = .ok (.iload 4, 2) := dk_21 4 (dk_at dksL_law_38 11 rfl rfl)
theorem dL_law_970 : decode cL_law 970 = .ok (.iconst 2, 1) := dk_5 (dk_at dksL_law_38 13 rfl rfl)
theorem dL_law_971 : decode cL_law 971 = .ok (.iadd, 1) := dk_96 (dk_at dksL_law_38 14 rfl rfl)
theorem dL_law_972 : decode cL_law 972 = .ok (.iaload, 1) := dk_46 (dk_at dksL_law_38 15 rfl rfl)
theorem dL_law_973 : decode cL_law 973 = .ok (.aload_n 3, 1) := dk_45 (dk_at dksL_law_38 16 rfl rfl)
theorem dL_law_974 : decode cL_law 974 = .ok (.invokestatic 141, 3) := dk_184 0 141 (dk_at dksL_law_38 17 rfl rfl)
theorem dL_law_977 : decode cL_law 977 = .ok (.istore 5, 2) := dk_54 5 (dk_at dksL_law_38 20 rfl rfl)
theorem dL_law_979 : decode cL_law 979 = .ok (.aload_n 2, 1) := dk_44 (dk_at dksL_law_38 22 rfl rfl)
theorem dL_law_980 : decode cL_law 980 = .ok (.aload_n 0, 1) := dk_42 (dk_at dksL_law_38 23 rfl rfl)
theorem dL_law_981 : decode cL_law 981 = .ok (.iload 4, 2) := dk_21 4 (dk_at dksL_law_39 0 rfl rfl)
theorem dL_law_983 : decode cL_law 983 = .ok (.iconst 1, 1) := dk_4 (dk_at dksL_law_39 2 rfl rfl)
theorem dL_law_984 : decode cL_law 984 = .ok (.iadd, 1) := dk_96 (dk_at dksL_law_39 3 rfl rfl)
theorem dL_law_985 : decode cL_law 985 = .ok (.iaload, 1) := dk_46 (dk_at dksL_law_39 4 rfl rfl)
theorem dL_law_986 : decode cL_law 986 = .ok (.aload_n 0, 1) := dk_42 (dk_at dksL_law_39 5 rfl rfl)
theorem dL_law_987 : decode cL_law 987 = .ok (.iload 4, 2) := dk_21 4 (dk_at dksL_law_39 6 rfl rfl)
theorem dL_law_989 : decode cL_law 989 = .ok (.iconst 2, 1) := dk_5 (dk_at dksL_law_39 8 rfl rfl)
theorem dL_law_990 : decode cL_law 990 = .ok (.iadd, 1) := dk_96 (dk_at dksL_law_39 9 rfl rfl)
theorem dL_law_991 : decode cL_law 991 = .ok (.iaload, 1) := dk_46 (dk_at dksL_law_39 10 rfl rfl)
theorem dL_law_992 : decode cL_law 992 = .ok (.invokevirtual 143, 3) := dk_182 0 143 (dk_at dksL_law_39 11 rfl rfl)
theorem dL_law_995 : decode cL_law 995 = .ok (.istore 6, 2) := dk_54 6 (dk_at dksL_law_39 14 rfl rfl)
theorem dL_law_997 : decode cL_law 997 = .ok (.aload_n 2, 1) := dk_44 (dk_at dksL_law_39 16 rfl rfl)
theorem dL_law_998 : decode cL_law 998 = .ok (.invokevirtual 97, 3) := dk_182 0 97 (dk_at dksL_law_39 17 rfl rfl)
theorem dL_law_1001 : decode cL_law 1001 = .ok (.iload 5, 2) := dk_21 5 (dk_at dksL_law_39 20 rfl rfl)
theorem dL_law_1003 : decode cL_law 1003 = .ok (.if_icmp .eq 5, 3) := dk_159 0 5 (dk_at dksL_law_40 0 rfl rfl)
theorem dL_law_1006 : decode cL_law 1006 = .ok (.iconst 0, 1) := dk_3 (dk_at dksL_law_40 3 rfl rfl)
theorem dL_law_1007 : decode cL_law 1007 = .ok (.ireturn, 1) := dk_172 (dk_at dksL_law_40 4 rfl rfl)
theorem dL_law_1008 : decode cL_law 1008 = .ok (.iload 5, 2) := dk_21 5 (dk_at dksL_law_40 5 rfl rfl)
theorem dL_law_1010 : decode cL_law 1010 = .ok (.ifCond .ne 15, 3) := dk_154 0 15 (dk_at dksL_law_40 7 rfl rfl)
theorem dL_law_1013 : decode cL_law 1013 = .ok (.aload_n 3, 1) := dk_45 (dk_at dksL_law_40 10 rfl rfl)
theorem dL_law_1014 : decode cL_law 1014 = .ok (.iconst 0, 1) := dk_3 (dk_at dksL_law_40 11 rfl rfl)
theorem dL_law_1015 : decode cL_law 1015 = .ok (.laload, 1) := dk_47 (dk_at dksL_law_40 12 rfl rfl)
theorem dL_law_1016 : decode cL_law 1016 = .ok (.iload 6, 2) := dk_21 6 (dk_at dksL_law_40 13 rfl rfl)
theorem dL_law_1018 : decode cL_law 1018 = .ok (.i2l, 1) := dk_133 (dk_at dksL_law_40 15 rfl rfl)
theorem dL_law_1019 : decode cL_law 1019 = .ok (.lcmp, 1) := dk_148 (dk_at dksL_law_40 16 rfl rfl)
theorem dL_law_1020 : decode cL_law 1020 = .ok (.ifCond .eq 5, 3) := dk_153 0 5 (dk_at dksL_law_40 17 rfl rfl)
theorem dL_law_1023 : decode cL_law 1023 = .ok (.iconst 0, 1) := dk_3 (dk_at dksL_law_40 20 rfl rfl)
theorem dL_law_1024 : decode cL_law 1024 = .ok (.ireturn, 1) := dk_172 (dk_at dksL_law_40 21 rfl rfl)
theorem dL_law_1025 : decode cL_law 1025 = .ok (.goto 579, 3) := dk_167 2 67 (dk_at dksL_law_41 0 rfl rfl)
theorem dL_law_1028 : decode cL_law 1028 = .ok (.aload_n 1, 1) := dk_43 (dk_at dksL_law_41 3 rfl rfl)
theorem dL_law_1029 : decode cL_law 1029 = .ok (.aload_n 0, 1) := dk_42 (dk_at dksL_law_41 4 rfl rfl)
theorem dL_law_1030 : decode cL_law 1030 = .ok (.iload 4, 2) := dk_21 4 (dk_at dksL_law_41 5 rfl rfl)
theorem dL_law_1032 : decode cL_law 1032 = .ok (.iconst 1, 1) := dk_4 (dk_at dksL_law_41 7 rfl rfl)
theorem dL_law_1033 : decode cL_law 1033 = .ok (.iadd, 1) := dk_96 (dk_at dksL_law_41 8 rfl rfl)
theorem dL_law_1034 : decode cL_law 1034 = .ok (.iaload, 1) := dk_46 (dk_at dksL_law_41 9 rfl rfl)
theorem dL_law_1035 : decode cL_law 1035 = .ok (.aload_n 3, 1) := dk_45 (dk_at dksL_law_41 10 rfl rfl)
theorem dL_law_1036 : decode cL_law 1036 = .ok (.invokestatic 144, 3) := dk_184 0 144 (dk_at dksL_law_41 11 rfl rfl)
theorem dL_law_1039 : decode cL_law 1039 = .ok (.istore 5, 2) := dk_54 5 (dk_at dksL_law_41 14 rfl rfl)
theorem dL_law_1041 : decode cL_law 1041 = .ok (.aload_n 2, 1) := dk_44 (dk_at dksL_law_41 16 rfl rfl)
theorem dL_law_1042 : decode cL_law 1042 = .ok (.aload_n 0, 1) := dk_42 (dk_at dksL_law_41 17 rfl rfl)
theorem dL_law_1043 : decode cL_law 1043 = .ok (.iload 4, 2) := dk_21 4 (dk_at dksL_law_41 18 rfl rfl)
theorem dL_law_1045 : decode cL_law 1045 = .ok (.iconst 1, 1) := dk_4 (dk_at dksL_law_41 20 rfl rfl)
theorem dL_law_1046 : decode cL_law 1046 = .ok (.iadd, 1) := dk_96 (dk_at dksL_law_41 21 rfl rfl)
theorem dL_law_1047 : decode cL_law 1047 = .ok (.iaload, 1) := dk_46 (dk_at dksL_law_41 22 rfl rfl)
theorem dL_law_1048 : decode cL_law 1048 = .ok (.invokevirtual 146, 3) := dk_182 0 146 (dk_at dksL_law_42 0 rfl rfl)
theorem dL_law_1051 : decode cL_law 1051 = .ok (.istore 6, 2) := dk_54 6 (dk_at dksL_law_42 3 rfl rfl)
theorem dL_law_1053 : decode cL_law 1053 = .ok (.aload_n 2, 1) := dk_44 (dk_at dksL_law_42 5 rfl rfl)
theorem dL_law_1054 : decode cL_law 1054 = .ok (.invokevirtual 97, 3) := dk_182 0 97 (dk_at dksL_law_42 6 rfl rfl)
theorem dL_law_1057 : decode cL_law 1057 = .ok (.iload 5, 2) := dk_21 5 (dk_at dksL_law_42 9 rfl rfl)
theorem dL_law_1059 : decode cL_law 1059 = .ok (.if_icmp .eq 5, 3) := dk_159 0 5 (dk_at dksL_law_42 11 rfl rfl)
theorem dL_law_1062 : decode cL_law 1062 = .ok (.iconst 0, 1) := dk_3 (dk_at dksL_law_42 14 rfl rfl)
theorem dL_law_1063 : decode cL_law 1063 = .ok (.ireturn, 1) := dk_172 (dk_at dksL_law_42 15 rfl rfl)
theorem dL_law_1064 : decode cL_law 1064 = .ok (.iload 5, 2) := dk_21 5 (dk_at dksL_law_42 16 rfl rfl)
theorem dL_law_1066 : decode cL_law 1066 = .ok (.ifCond .ne 15, 3) := dk_154 0 15 (dk_at dksL_law_42 18 rfl rfl)
theorem dL_law_1069 : decode cL_law 1069 = .ok (.aload_n 3, 1) := dk_45 (dk_at dksL_law_42 21 rfl rfl)
theorem dL_law_1070 : decode cL_law 1070 = .ok (.iconst 0, 1) := dk_3 (dk_at dksL_law_42 22 rfl rfl)
theorem dL_law_1071 : decode cL_law 1071 = .ok (.laload, 1) := dk_47 (dk_at dksL_law_42 23 rfl rfl)
theorem dL_law_1072 : decode cL_law 1072 = .ok (.iload 6, 2) := dk_21 6 (dk_at dksL_law_43 0 rfl rfl)
theorem dL_law_1074 : decode cL_law 1074 = .ok (.i2l, 1) := dk_133 (dk_at dksL_law_43 2 rfl rfl)
theorem dL_law_1075 : decode cL_law 1075 = .ok (.lcmp, 1) := dk_148 (dk_at dksL_law_43 3 rfl rfl)
theorem dL_law_1076 : decode cL_law 1076 = .ok (.ifCond .eq 5, 3) := dk_153 0 5 (dk_at dksL_law_43 4 rfl rfl)
theorem dL_law_1079 : decode cL_law 1079 = .ok (.iconst 0, 1) := dk_3 (dk_at dksL_law_43 7 rfl rfl)
theorem dL_law_1080 : decode cL_law 1080 = .ok (.ireturn, 1) := dk_172 (dk_at dksL_law_43 8 rfl rfl)
theorem dL_law_1081 : decode cL_law 1081 = .ok (.goto 523, 3) := dk_167 2 11 (dk_at dksL_law_43 9 rfl rfl)
theorem dL_law_1084 : decode cL_law 1084 = .ok (.aload_n 1, 1) := dk_43 (dk_at dksL_law_43 12 rfl rfl)
theorem dL_law_1085 : decode cL_law 1085 = .ok (.aload_n 0, 1) := dk_42 (dk_at dksL_law_43 13 rfl rfl)
theorem dL_law_1086 : decode cL_law 1086 = .ok (.iload 4, 2) := dk_21 4 (dk_at dksL_law_43 14 rfl rfl)
theorem dL_law_1088 : decode cL_law 1088 = .ok (.iconst 1, 1) := dk_4 (dk_at dksL_law_43 16 rfl rfl)
theorem dL_law_1089 : decode cL_law 1089 = .ok (.iadd, 1) := dk_96 (dk_at dksL_law_43 17 rfl rfl)
theorem dL_law_1090 : decode cL_law 1090 = .ok (.iaload, 1) := dk_46 (dk_at dksL_law_43 18 rfl rfl)
theorem dL_law_1091 : decode cL_law 1091 = .ok (.aload_n 3, 1) := dk_45 (dk_at dksL_law_43 19 rfl rfl)
theorem dL_law_1092 : decode cL_law 1092 = .ok (.invokestatic 147, 3) := dk_184 0 147 (dk_at dksL_law_43 20 rfl rfl)
theorem dL_law_1095 : decode cL_law 1095 = .ok (.istore 5, 2) := dk_54 5 (dk_at dksL_law_44 0 rfl rfl)
theorem dL_law_1097 : decode cL_law 1097 = .ok (.aload_n 2, 1) := dk_44 (dk_at dksL_law_44 2 rfl rfl)
theorem dL_law_1098 : decode cL_law 1098 = .ok (.aload_n 0, 1) := dk_42 (dk_at dksL_law_44 3 rfl rfl)
theorem dL_law_1099 : decode cL_law 1099 = .ok (.iload 4, 2) := dk_21 4 (dk_at dksL_law_44 4 rfl rfl)
theorem dL_law_1101 : decode cL_law 1101 = .ok (.iconst 1, 1) := dk_4 (dk_at dksL_law_44 6 rfl rfl)
theorem dL_law_1102 : decode cL_law 1102 = .ok (.iadd, 1) := dk_96 (dk_at dksL_law_44 7 rfl rfl)
theorem dL_law_1103 : decode cL_law 1103 = .ok (.iaload, 1) := dk_46 (dk_at dksL_law_44 8 rfl rfl)
theorem dL_law_1104 : decode cL_law 1104 = .ok (.invokevirtual 149, 3) := dk_182 0 149 (dk_at dksL_law_44 9 rfl rfl)
theorem dL_law_1107 : decode cL_law 1107 = .ok (.istore 6, 2) := dk_54 6 (dk_at dksL_law_44 12 rfl rfl)
theorem dL_law_1109 : decode cL_law 1109 = .ok (.aload_n 2, 1) := dk_44 (dk_at dksL_law_44 14 rfl rfl)
theorem dL_law_1110 : decode cL_law 1110 = .ok (.invokevirtual 97, 3) := dk_182 0 97 (dk_at dksL_law_44 15 rfl rfl)
theorem dL_law_1113 : decode cL_law 1113 = .ok (.iload 5, 2) := dk_21 5 (dk_at dksL_law_44 18 rfl rfl)
theorem dL_law_1115 : decode cL_law 1115 = .ok (.if_icmp .eq 5, 3) := dk_159 0 5 (dk_at dksL_law_44 20 rfl rfl)
theorem dL_law_1118 : decode cL_law 1118 = .ok (.iconst 0, 1) := dk_3 (dk_at dksL_law_44 23 rfl rfl)
theorem dL_law_1119 : decode cL_law 1119 = .ok (.ireturn, 1) := dk_172 (dk_at dksL_law_45 0 rfl rfl)
theorem dL_law_1120 : decode cL_law 1120 = .ok (.iload 5, 2) := dk_21 5 (dk_at dksL_law_45 1 rfl rfl)
theorem dL_law_1122 : decode cL_law 1122 = .ok (.ifCond .ne 15, 3) := dk_154 0 15 (dk_at dksL_law_45 3 rfl rfl)
theorem dL_law_1125 : decode cL_law 1125 = .ok (.aload_n 3, 1) := dk_45 (dk_at dksL_law_45 6 rfl rfl)
theorem dL_law_1126 : decode cL_law 1126 = .ok (.iconst 0, 1) := dk_3 (dk_at dksL_law_45 7 rfl rfl)
theorem dL_law_1127 : decode cL_law 1127 = .ok (.laload, 1) := dk_47 (dk_at dksL_law_45 8 rfl rfl)
theorem dL_law_1128 : decode cL_law 1128 = .ok (.iload 6, 2) := dk_21 6 (dk_at dksL_law_45 9 rfl rfl)
theorem dL_law_1130 : decode cL_law 1130 = .ok (.i2l, 1) := dk_133 (dk_at dksL_law_45 11 rfl rfl)
theorem dL_law_1131 : decode cL_law 1131 = .ok (.lcmp, 1) := dk_148 (dk_at dksL_law_45 12 rfl rfl)
theorem dL_law_1132 : decode cL_law 1132 = .ok (.ifCond .eq 5, 3) := dk_153 0 5 (dk_at dksL_law_45 13 rfl rfl)
theorem dL_law_1135 : decode cL_law 1135 = .ok (.iconst 0, 1) := dk_3 (dk_at dksL_law_45 16 rfl rfl)
theorem dL_law_1136 : decode cL_law 1136 = .ok (.ireturn, 1) := dk_172 (dk_at dksL_law_45 17 rfl rfl)
theorem dL_law_1137 : decode cL_law 1137 = .ok (.goto 467, 3) := dk_167 1 211 (dk_at dksL_law_45 18 rfl rfl)
theorem dL_law_1140 : decode cL_law 1140 = .ok (.aload_n 1, 1) := dk_43 (dk_at dksL_law_45 21 rfl rfl)
theorem dL_law_1141 : decode cL_law 1141 = .ok (.aload_n 0, 1) := dk_42 (dk_at dksL_law_45 22 rfl rfl)
theorem dL_law_1142 : decode cL_law 1142 = .ok (.iload 4, 2) := dk_21 4 (dk_at dksL_law_46 0 rfl rfl)
theorem dL_law_1144 : decode cL_law 1144 = .ok (.iconst 1, 1) := dk_4 (dk_at dksL_law_46 2 rfl rfl)
theorem dL_law_1145 : decode cL_law 1145 = .ok (.iadd, 1) := dk_96 (dk_at dksL_law_46 3 rfl rfl)
theorem dL_law_1146 : decode cL_law 1146 = .ok (.iaload, 1) := dk_46 (dk_at dksL_law_46 4 rfl rfl)
theorem dL_law_1147 : decode cL_law 1147 = .ok (.aload_n 0, 1) := dk_42 (dk_at dksL_law_46 5 rfl rfl)
theorem dL_law_1148 : decode cL_law 1148 = .ok (.iload 4, 2) := dk_21 4 (dk_at dksL_law_46 6 rfl rfl)
theorem dL_law_1150 : decode cL_law 1150 = .ok (.iconst 2, 1) := dk_5 (dk_at dksL_law_46 8 rfl rfl)
theorem dL_law_1151 : decode cL_law 1151 = .ok (.iadd, 1) := dk_96 (dk_at dksL_law_46 9 rfl rfl)
theorem dL_law_1152 : decode cL_law 1152 = .ok (.iaload, 1) := dk_46 (dk_at dksL_law_46 10 rfl rfl)
theorem dL_law_1153 : decode cL_law 1153 = .ok (.aload_n 3, 1) := dk_45 (dk_at dksL_law_46 11 rfl rfl)
theorem dL_law_1154 : decode cL_law 1154 = .ok (.invokestatic 150, 3) := dk_184 0 150 (dk_at dksL_law_46 12 rfl rfl)
theorem dL_law_1157 : decode cL_law 1157 = .ok (.istore 5, 2) := dk_54 5 (dk_at dksL_law_46 15 rfl rfl)
theorem dL_law_1159 : decode cL_law 1159 = .ok (.aload_n 2, 1) := dk_44 (dk_at dksL_law_46 17 rfl rfl)
theorem dL_law_1160 : decode cL_law 1160 = .ok (.aload_n 0, 1) := dk_42 (dk_at dksL_law_46 18 rfl rfl)
theorem dL_law_1161 : decode cL_law 1161 = .ok (.iload 4, 2) := dk_21 4 (dk_at dksL_law_46 19 rfl rfl)
theorem dL_law_1163 : decode cL_law 1163 = .ok (.iconst 1, 1) := dk_4 (dk_at dksL_law_46 21 rfl rfl)
theorem dL_law_1164 : decode cL_law 1164 = .ok (.iadd, 1) := dk_96 (dk_at dksL_law_46 22 rfl rfl)
theorem dL_law_1165 : decode cL_law 1165 = .ok (.iaload, 1) := dk_46 (dk_at dksL_law_46 23 rfl rfl)
theorem dL_law_1166 : decode cL_law 1166 = .ok (.aload_n 0, 1) := dk_42 (dk_at dksL_law_47 0 rfl rfl)
theorem dL_law_1167 : decode cL_law 1167 = .ok (.iload 4, 2) := dk_21 4 (dk_at dksL_law_47 1 rfl rfl)
theorem dL_law_1169 : decode cL_law 1169 = .ok (.iconst 2, 1) := dk_5 (dk_at dksL_law_47 3 rfl rfl)
theorem dL_law_1170 : decode cL_law 1170 = .ok (.iadd, 1) := dk_96 (dk_at dksL_law_47 4 rfl rfl)
theorem dL_law_1171 : decode cL_law 1171 = .ok (.iaload, 1) := dk_46 (dk_at dksL_law_47 5 rfl rfl)
theorem dL_law_1172 : decode cL_law 1172 = .ok (.invokevirtual 152, 3) := dk_182 0 152 (dk_at dksL_law_47 6 rfl rfl)
theorem dL_law_1175 : decode cL_law 1175 = .ok (.istore 6, 2) := dk_54 6 (dk_at dksL_law_47 9 rfl rfl)
theorem dL_law_1177 : decode cL_law 1177 = .ok (.aload_n 2, 1) := dk_44 (dk_at dksL_law_47 11 rfl rfl)
theorem dL_law_1178 : decode cL_law 1178 = .ok (.invokevirtual 97, 3) := dk_182 0 97 (dk_at dksL_law_47 12 rfl rfl)
theorem dL_law_1181 : decode cL_law 1181 = .ok (.iload 5, 2) := dk_21 5 (dk_at dksL_law_47 15 rfl rfl)
theorem dL_law_1183 : decode cL_law 1183 = .ok (.if_icmp .eq 5, 3) := dk_159 0 5 (dk_at dksL_law_47 17 rfl rfl)
theorem dL_law_1186 : decode cL_law 1186 = .ok (.iconst 0, 1) := dk_3 (dk_at dksL_law_47 20 rfl rfl)
theorem dL_law_1187 : decode cL_law 1187 = .ok (.ireturn, 1) := dk_172 (dk_at dksL_law_47 21 rfl rfl)
theorem dL_law_1188 : decode cL_law 1188 = .ok (.iload 5, 2) := dk_21 5 (dk_at dksL_law_47 22 rfl rfl)
theorem dL_law_1190 : decode cL_law 1190 = .ok (.ifCond .ne 15, 3) := dk_154 0 15 (dk_at dksL_law_48 0 rfl rfl)
theorem dL_law_1193 : decode cL_law 1193 = .ok (.aload_n 3, 1) := dk_45 (dk_at dksL_law_48 3 rfl rfl)
theorem dL_law_1194 : decode cL_law 1194 = .ok (.iconst 0, 1) := dk_3 (dk_at dksL_law_48 4 rfl rfl)
theorem dL_law_1195 : decode cL_law 1195 = .ok (.laload, 1) := dk_47 (dk_at dksL_law_48 5 rfl rfl)
theorem dL_law_1196 : decode cL_law 1196 = .ok (.iload 6, 2) := dk_21 6 (dk_at dksL_law_48 6 rfl rfl)
theorem dL_law_1198 : decode cL_law 1198 = .ok (.i2l, 1) := dk_133 (dk_at dksL_law_48 8 rfl rfl)
theorem dL_law_1199 : decode cL_law 1199 = .ok (.lcmp, 1) := dk_148 (dk_at dksL_law_48 9 rfl rfl)
theorem dL_law_1200 : decode cL_law 1200 = .ok (.ifCond .eq 5, 3) := dk_153 0 5 (dk_at dksL_law_48 10 rfl rfl)
theorem dL_law_1203 : decode cL_law 1203 = .ok (.iconst 0, 1) := dk_3 (dk_at dksL_law_48 13 rfl rfl)
theorem dL_law_1204 : decode cL_law 1204 = .ok (.ireturn, 1) := dk_172 (dk_at dksL_law_48 14 rfl rfl)
theorem dL_law_1205 : decode cL_law 1205 = .ok (.goto 399, 3) := dk_167 1 143 (dk_at dksL_law_48 15 rfl rfl)
theorem dL_law_1208 : decode cL_law 1208 = .ok (.aload_n 1, 1) := dk_43 (dk_at dksL_law_48 18 rfl rfl)
theorem dL_law_1209 : decode cL_law 1209 = .ok (.aload_n 0, 1) := dk_42 (dk_at dksL_law_48 19 rfl rfl)
theorem dL_law_1210 : decode cL_law 1210 = .ok (.iload 4, 2) := dk_21 4 (dk_at dksL_law_48 20 rfl rfl)
theorem dL_law_1212 : decode cL_law 1212 = .ok (.iconst 1, 1) := dk_4 (dk_at dksL_law_48 22 rfl rfl)
theorem dL_law_1213 : decode cL_law 1213 = .ok (.iadd, 1) := dk_96 (dk_at dksL_law_48 23 rfl rfl)
theorem dL_law_1214 : decode cL_law 1214 = .ok (.iaload, 1) := dk_46 (dk_at dksL_law_49 0 rfl rfl)
theorem dL_law_1215 : decode cL_law 1215 = .ok (.aload_n 0, 1) := dk_42 (dk_at dksL_law_49 1 rfl rfl)
theorem dL_law_1216 : decode cL_law 1216 = .ok (.iload 4, 2) := dk_21 4 (dk_at dksL_law_49 2 rfl rfl)
theorem dL_law_1218 : decode cL_law 1218 = .ok (.iconst 2, 1) := dk_5 (dk_at dksL_law_49 4 rfl rfl)
theorem dL_law_1219 : decode cL_law 1219 = .ok (.iadd, 1) := dk_96 (dk_at dksL_law_49 5 rfl rfl)
theorem dL_law_1220 : decode cL_law 1220 = .ok (.iaload, 1) := dk_46 (dk_at dksL_law_49 6 rfl rfl)
theorem dL_law_1221 : decode cL_law 1221 = .ok (.aload_n 0, 1) := dk_42 (dk_at dksL_law_49 7 rfl rfl)
theorem dL_law_1222 : decode cL_law 1222 = .ok (.iload 4, 2) := dk_21 4 (dk_at dksL_law_49 8 rfl rfl)
theorem dL_law_1224 : decode cL_law 1224 = .ok (.iconst 3, 1) := dk_6 (dk_at dksL_law_49 10 rfl rfl)
theorem dL_law_1225 : decode cL_law 1225 = .ok (.iadd, 1) := dk_96 (dk_at dksL_law_49 11 rfl rfl)
theorem dL_law_1226 : decode cL_law 1226 = .ok (.iaload, 1) := dk_46 (dk_at dksL_law_49 12 rfl rfl)
theorem dL_law_1227 : decode cL_law 1227 = .ok (.aload_n 3, 1) := dk_45 (dk_at dksL_law_49 13 rfl rfl)
theorem dL_law_1228 : decode cL_law 1228 = .ok (.invokestatic 153, 3) := dk_184 0 153 (dk_at dksL_law_49 14 rfl rfl)
theorem dL_law_1231 : decode cL_law 1231 = .ok (.istore 5, 2) := dk_54 5 (dk_at dksL_law_49 17 rfl rfl)
theorem dL_law_1233 : decode cL_law 1233 = .ok (.aload_n 2, 1) := dk_44 (dk_at dksL_law_49 19 rfl rfl)
theorem dL_law_1234 : decode cL_law 1234 = .ok (.aload_n 0, 1) := dk_42 (dk_at dksL_law_49 20 rfl rfl)
theorem dL_law_1235 : decode cL_law 1235 = .ok (.iload 4, 2) := dk_21 4 (dk_at dksL_law_49 21 rfl rfl)
theorem dL_law_1237 : decode cL_law 1237 = .ok (.iconst 1, 1) := dk_4 (dk_at dksL_law_49 23 rfl rfl)
theorem dL_law_1238 : decode cL_law 1238 = .ok (.iadd, 1) := dk_96 (dk_at dksL_law_50 0 rfl rfl)
theorem dL_law_1239 : decode cL_law 1239 = .ok (.iaload, 1) := dk_46 (dk_at dksL_law_50 1 rfl rfl)
theorem dL_law_1240 : decode cL_law 1240 = .ok (.aload_n 0, 1) := dk_42 (dk_at dksL_law_50 2 rfl rfl)
theorem dL_law_1241 : decode cL_law 1241 = .ok (.iload 4, 2) := dk_21 4 (dk_at dksL_law_50 3 rfl rfl)
theorem dL_law_1243 : decode cL_law 1243 = .ok (.iconst 2, 1) := dk_5 (dk_at dksL_law_50 5 rfl rfl)
theorem dL_law_1244 : decode cL_law 1244 = .ok (.iadd, 1) := dk_96 (dk_at dksL_law_50 6 rfl rfl)
theorem dL_law_1245 : decode cL_law 1245 = .ok (.iaload, 1) := dk_46 (dk_at dksL_law_50 7 rfl rfl)
theorem dL_law_1246 : decode cL_law 1246 = .ok (.aload_n 0, 1) := dk_42 (dk_at dksL_law_50 8 rfl rfl)
theorem dL_law_1247 : decode cL_law 1247 = .ok (.iload 4, 2) := dk_21 4 (dk_at dksL_law_50 9 rfl rfl)
theorem dL_law_1249 : decode cL_law 1249 = .ok (.iconst 3, 1) := dk_6 (dk_at dksL_law_50 11 rfl rfl)
theorem dL_law_1250 : decode cL_law 1250 = .ok (.iadd, 1) := dk_96 (dk_at dksL_law_50 12 rfl rfl)
theorem dL_law_1251 : decode cL_law 1251 = .ok (.iaload, 1) := dk_46 (dk_at dksL_law_50 13 rfl rfl)
theorem dL_law_1252 : decode cL_law 1252 = .ok (.invokevirtual 155, 3) := dk_182 0 155 (dk_at dksL_law_50 14 rfl rfl)
theorem dL_law_1255 : decode cL_law 1255 = .ok (.istore 6, 2) := dk_54 6 (dk_at dksL_law_50 17 rfl rfl)
theorem dL_law_1257 : decode cL_law 1257 = .ok (.aload_n 2, 1) := dk_44 (dk_at dksL_law_50 19 rfl rfl)
theorem dL_law_1258 : decode cL_law 1258 = .ok (.invokevirtual 97, 3) := dk_182 0 97 (dk_at dksL_law_50 20 rfl rfl)
theorem dL_law_1261 : decode cL_law 1261 = .ok (.iload 5, 2) := dk_21 5 (dk_at dksL_law_51 0 rfl rfl)
theorem dL_law_1263 : decode cL_law 1263 = .ok (.if_icmp .eq 5, 3) := dk_159 0 5 (dk_at dksL_law_51 2 rfl rfl)
theorem dL_law_1266 : decode cL_law 1266 = .ok (.iconst 0, 1) := dk_3 (dk_at dksL_law_51 5 rfl rfl)
theorem dL_law_1267 : decode cL_law 1267 = .ok (.ireturn, 1) := dk_172 (dk_at dksL_law_51 6 rfl rfl)
theorem dL_law_1268 : decode cL_law 1268 = .ok (.iload 5, 2) := dk_21 5 (dk_at dksL_law_51 7 rfl rfl)
theorem dL_law_1270 : decode cL_law 1270 = .ok (.ifCond .ne 15, 3) := dk_154 0 15 (dk_at dksL_law_51 9 rfl rfl)
theorem dL_law_1273 : decode cL_law 1273 = .ok (.aload_n 3, 1) := dk_45 (dk_at dksL_law_51 12 rfl rfl)
theorem dL_law_1274 : decode cL_law 1274 = .ok (.iconst 0, 1) := dk_3 (dk_at dksL_law_51 13 rfl rfl)
theorem dL_law_1275 : decode cL_law 1275 = .ok (.laload, 1) := dk_47 (dk_at dksL_law_51 14 rfl rfl)
theorem dL_law_1276 : decode cL_law 1276 = .ok (.iload 6, 2) := dk_21 6 (dk_at dksL_law_51 15 rfl rfl)
theorem dL_law_1278 : decode cL_law 1278 = .ok (.i2l, 1) := dk_133 (dk_at dksL_law_51 17 rfl rfl)
theorem dL_law_1279 : decode cL_law 1279 = .ok (.lcmp, 1) := dk_148 (dk_at dksL_law_51 18 rfl rfl)
theorem dL_law_1280 : decode cL_law 1280 = .ok (.ifCond .eq 5, 3) := dk_153 0 5 (dk_at dksL_law_51 19 rfl rfl)
theorem dL_law_1283 : decode cL_law 1283 = .ok (.iconst 0, 1) := dk_3 (dk_at dksL_law_51 22 rfl rfl)
theorem dL_law_1284 : decode cL_law 1284 = .ok (.ireturn, 1) := dk_172 (dk_at dksL_law_51 23 rfl rfl)
theorem dL_law_1285 : decode cL_law 1285 = .ok (.goto 319, 3) := dk_167 1 63 (dk_at dksL_law_52 0 rfl rfl)
theorem dL_law_1288 : decode cL_law 1288 = .ok (.aload_n 1, 1) := dk_43 (dk_at dksL_law_52 3 rfl rfl)
theorem dL_law_1289 : decode cL_law 1289 = .ok (.aload_n 0, 1) := dk_42 (dk_at dksL_law_52 4 rfl rfl)
theorem dL_law_1290 : decode cL_law 1290 = .ok (.iload 4, 2) := dk_21 4 (dk_at dksL_law_52 5 rfl rfl)
theorem dL_law_1292 : decode cL_law 1292 = .ok (.iconst 1, 1) := dk_4 (dk_at dksL_law_52 7 rfl rfl)
theorem dL_law_1293 : decode cL_law 1293 = .ok (.iadd, 1) := dk_96 (dk_at dksL_law_52 8 rfl rfl)
theorem dL_law_1294 : decode cL_law 1294 = .ok (.iaload, 1) := dk_46 (dk_at dksL_law_52 9 rfl rfl)
theorem dL_law_1295 : decode cL_law 1295 = .ok (.aload_n 0, 1) := dk_42 (dk_at dksL_law_52 10 rfl rfl)
theorem dL_law_1296 : decode cL_law 1296 = .ok (.iload 4, 2) := dk_21 4 (dk_at dksL_law_52 11 rfl rfl)
theorem dL_law_1298 : decode cL_law 1298 = .ok (.iconst 2, 1) := dk_5 (dk_at dksL_law_52 13 rfl rfl)
theorem dL_law_1299 : decode cL_law 1299 = .ok (.iadd, 1) := dk_96 (dk_at dksL_law_52 14 rfl rfl)
theorem dL_law_1300 : decode cL_law 1300 = .ok (.iaload, 1) := dk_46 (dk_at dksL_law_52 15 rfl rfl)
theorem dL_law_1301 : decode cL_law 1301 = .ok (.aload_n 3, 1) := dk_45 (dk_at dksL_law_52 16 rfl rfl)
theorem dL_law_1302 : decode cL_law 1302 = .ok (.invokestatic 156, 3) := dk_184 0 156 (dk_at dksL_law_52 17 rfl rfl)
theorem dL_law_1305 : decode cL_law 1305 = .ok (.istore 5, 2) := dk_54 5 (dk_at dksL_law_52 20 rfl rfl)
theorem dL_law_1307 : decode cL_law 1307 = .ok (.aload_n 2, 1) := dk_44 (dk_at dksL_law_52 22 rfl rfl)
theorem dL_law_1308 : decode cL_law 1308 = .ok (.aload_n 0, 1) := dk_42 (dk_at dksL_law_52 23 rfl rfl)
theorem dL_law_1309 : decode cL_law 1309 = .ok (.iload 4, 2) := dk_21 4 (dk_at dksL_law_53 0 rfl rfl)
theorem dL_law_1311 : decode cL_law 1311 = .ok (.iconst 1, 1) := dk_4 (dk_at dksL_law_53 2 rfl rfl)
theorem dL_law_1312 : decode cL_law 1312 = .ok (.iadd, 1) := dk_96 (dk_at dksL_law_53 3 rfl rfl)
theorem dL_law_1313 : decode cL_law 1313 = .ok (.iaload, 1) := dk_46 (dk_at dksL_law_53 4 rfl rfl)
theorem dL_law_1314 : decode cL_law 1314 = .ok (.aload_n 0, 1) := dk_42 (dk_at dksL_law_53 5 rfl rfl)
theorem dL_law_1315 : decode cL_law 1315 = .ok (.iload 4, 2) := dk_21 4 (dk_at dksL_law_53 6 rfl rfl)
theorem dL_law_1317 : decode cL_law 1317 = .ok (.iconst 2, 1) := dk_5 (dk_at dksL_law_53 8 rfl rfl)
theorem dL_law_1318 : decode cL_law 1318 = .ok (.iadd, 1) := dk_96 (dk_at dksL_law_53 9 rfl rfl)
theorem dL_law_1319 : decode cL_law 1319 = .ok (.iaload, 1) := dk_46 (dk_at dksL_law_53 10 rfl rfl)
theorem dL_law_1320 : decode cL_law 1320 = .ok (.invokevirtual 158, 3) := dk_182 0 158 (dk_at dksL_law_53 11 rfl rfl)
theorem dL_law_1323 : decode cL_law 1323 = .ok (.istore 6, 2) := dk_54 6 (dk_at dksL_law_53 14 rfl rfl)
theorem dL_law_1325 : decode cL_law 1325 = .ok (.aload_n 2, 1) := dk_44 (dk_at dksL_law_53 16 rfl rfl)
theorem dL_law_1326 : decode cL_law 1326 = .ok (.invokevirtual 97, 3) := dk_182 0 97 (dk_at dksL_law_53 17 rfl rfl)
theorem dL_law_1329 : decode cL_law 1329 = .ok (.iload 5, 2) := dk_21 5 (dk_at dksL_law_53 20 rfl rfl)
theorem dL_law_1331 : decode cL_law 1331 = .ok (.if_icmp .eq 5, 3) := dk_159 0 5 (dk_at dksL_law_54 0 rfl rfl)
theorem dL_law_1334 : decode cL_law 1334 = .ok (.iconst 0, 1) := dk_3 (dk_at dksL_law_54 3 rfl rfl)
theorem dL_law_1335 : decode cL_law 1335 = .ok (.ireturn, 1) := dk_172 (dk_at dksL_law_54 4 rfl rfl)
theorem dL_law_1336 : decode cL_law 1336 = .ok (.iload 5, 2) := dk_21 5 (dk_at dksL_law_54 5 rfl rfl)
theorem dL_law_1338 : decode cL_law 1338 = .ok (.ifCond .ne 15, 3) := dk_154 0 15 (dk_at dksL_law_54 7 rfl rfl)
theorem dL_law_1341 : decode cL_law 1341 = .ok (.aload_n 3, 1) := dk_45 (dk_at dksL_law_54 10 rfl rfl)
theorem dL_law_1342 : decode cL_law 1342 = .ok (.iconst 0, 1) := dk_3 (dk_at dksL_law_54 11 rfl rfl)
theorem dL_law_1343 : decode cL_law 1343 = .ok (.laload, 1) := dk_47 (dk_at dksL_law_54 12 rfl rfl)
theorem dL_law_1344 : decode cL_law 1344 = .ok (.iload 6, 2) := dk_21 6 (dk_at dksL_law_54 13 rfl rfl)
theorem dL_law_1346 : decode cL_law 1346 = .ok (.i2l, 1) := dk_133 (dk_at dksL_law_54 15 rfl rfl)
theorem dL_law_1347 : decode cL_law 1347 = .ok (.lcmp, 1) := dk_148 (dk_at dksL_law_54 16 rfl rfl)
theorem dL_law_1348 : decode cL_law 1348 = .ok (.ifCond .eq 5, 3) := dk_153 0 5 (dk_at dksL_law_54 17 rfl rfl)
theorem dL_law_1351 : decode cL_law 1351 = .ok (.iconst 0, 1) := dk_3 (dk_at dksL_law_54 20 rfl rfl)
theorem dL_law_1352 : decode cL_law 1352 = .ok (.ireturn, 1) := dk_172 (dk_at dksL_law_54 21 rfl rfl)
theorem dL_law_1353 : decode cL_law 1353 = .ok (.goto 251, 3) := dk_167 0 251 (dk_at dksL_law_55 0 rfl rfl)
theorem dL_law_1356 : decode cL_law 1356 = .ok (.aload_n 1, 1) := dk_43 (dk_at dksL_law_55 3 rfl rfl)
theorem dL_law_1357 : decode cL_law 1357 = .ok (.aload_n 0, 1) := dk_42 (dk_at dksL_law_55 4 rfl rfl)
theorem dL_law_1358 : decode cL_law 1358 = .ok (.iload 4, 2) := dk_21 4 (dk_at dksL_law_55 5 rfl rfl)
theorem dL_law_1360 : decode cL_law 1360 = .ok (.iconst 1, 1) := dk_4 (dk_at dksL_law_55 7 rfl rfl)
theorem dL_law_1361 : decode cL_law 1361 = .ok (.iadd, 1) := dk_96 (dk_at dksL_law_55 8 rfl rfl)
theorem dL_law_1362 : decode cL_law 1362 = .ok (.iaload, 1) := dk_46 (dk_at dksL_law_55 9 rfl rfl)
theorem dL_law_1363 : decode cL_law 1363 = .ok (.aload_n 0, 1) := dk_42 (dk_at dksL_law_55 10 rfl rfl)
theorem dL_law_1364 : decode cL_law 1364 = .ok (.iload 4, 2) := dk_21 4 (dk_at dksL_law_55 11 rfl rfl)
theorem dL_law_1366 : decode cL_law 1366 = .ok (.iconst 2, 1) := dk_5 (dk_at dksL_law_55 13 rfl rfl)
theorem dL_law_1367 : decode cL_law 1367 = .ok (.iadd, 1) := dk_96 (dk_at dksL_law_55 14 rfl rfl)
theorem dL_law_1368 : decode cL_law 1368 = .ok (.iaload, 1) := dk_46 (dk_at dksL_law_55 15 rfl rfl)
theorem dL_law_1369 : decode cL_law 1369 = .ok (.aload_n 0, 1) := dk_42 (dk_at dksL_law_55 16 rfl rfl)
theorem dL_law_1370 : decode cL_law 1370 = .ok (.iload 4, 2) := dk_21 4 (dk_at dksL_law_55 17 rfl rfl)
theorem dL_law_1372 : decode cL_law 1372 = .ok (.iconst 3, 1) := dk_6 (dk_at dksL_law_55 19 rfl rfl)
theorem dL_law_1373 : decode cL_law 1373 = .ok (.iadd, 1) := dk_96 (dk_at dksL_law_55 20 rfl rfl)
theorem dL_law_1374 : decode cL_law 1374 = .ok (.iaload, 1) := dk_46 (dk_at dksL_law_55 21 rfl rfl)
theorem dL_law_1375 : decode cL_law 1375 = .ok (.aload_n 0, 1) := dk_42 (dk_at dksL_law_55 22 rfl rfl)
theorem dL_law_1376 : decode cL_law 1376 = .ok (.iload 4, 2) := dk_21 4 (dk_at dksL_law_56 0 rfl rfl)
theorem dL_law_1378 : decode cL_law 1378 = .ok (.iconst 4, 1) := dk_7 (dk_at dksL_law_56 2 rfl rfl)
theorem dL_law_1379 : decode cL_law 1379 = .ok (.iadd, 1) := dk_96 (dk_at dksL_law_56 3 rfl rfl)
theorem dL_law_1380 : decode cL_law 1380 = .ok (.iaload, 1) := dk_46 (dk_at dksL_law_56 4 rfl rfl)
theorem dL_law_1381 : decode cL_law 1381 = .ok (.aload_n 3, 1) := dk_45 (dk_at dksL_law_56 5 rfl rfl)
theorem dL_law_1382 : decode cL_law 1382 = .ok (.invokestatic 159, 3) := dk_184 0 159 (dk_at dksL_law_56 6 rfl rfl)
theorem dL_law_1385 : decode cL_law 1385 = .ok (.istore 5, 2) := dk_54 5 (dk_at dksL_law_56 9 rfl rfl)
theorem dL_law_1387 : decode cL_law 1387 = .ok (.aload_n 2, 1) := dk_44 (dk_at dksL_law_56 11 rfl rfl)
theorem dL_law_1388 : decode cL_law 1388 = .ok (.aload_n 0, 1) := dk_42 (dk_at dksL_law_56 12 rfl rfl)
theorem dL_law_1389 : decode cL_law 1389 = .ok (.iload 4, 2) := dk_21 4 (dk_at dksL_law_56 13 rfl rfl)
theorem dL_law_1391 : decode cL_law 1391 = .ok (.iconst 1, 1) := dk_4 (dk_at dksL_law_56 15 rfl rfl)
theorem dL_law_1392 : decode cL_law 1392 = .ok (.iadd, 1) := dk_96 (dk_at dksL_law_56 16 rfl rfl)
theorem dL_law_1393 : decode cL_law 1393 = .ok (.iaload, 1) := dk_46 (dk_at dksL_law_56 17 rfl rfl)
theorem dL_law_1394 : decode cL_law 1394 = .ok (.aload_n 0, 1) := dk_42 (dk_at dksL_law_56 18 rfl rfl)
theorem dL_law_1395 : decode cL_law 1395 = .ok (.iload 4, 2) := dk_21 4 (dk_at dksL_law_56 19 rfl rfl)
theorem dL_law_1397 : decode cL_law 1397 = .ok (.iconst 2, 1) := dk_5 (dk_at dksL_law_56 21 rfl rfl)
theorem dL_law_1398 : decode cL_law 1398 = .ok (.iadd, 1) := dk_96 (dk_at dksL_law_56 22 rfl rfl)
theorem dL_law_1399 : decode cL_law 1399 = .ok (.iaload, 1) := dk_46 (dk_at dksL_law_56 23 rfl rfl)
theorem dL_law_1400 : decode cL_law 1400 = .ok (.aload_n 0, 1) := dk_42 (dk_at dksL_law_57 0 rfl rfl)
theorem dL_law_1401 : decode cL_law 1401 = .ok (.iload 4, 2) := dk_21 4 (dk_at dksL_law_57 1 rfl rfl)
theorem dL_law_1403 : decode cL_law 1403 = .ok (.iconst 3, 1) := dk_6 (dk_at dksL_law_57 3 rfl rfl)
theorem dL_law_1404 : decode cL_law 1404 = .ok (.iadd, 1) := dk_96 (dk_at dksL_law_57 4 rfl rfl)
theorem dL_law_1405 : decode cL_law 1405 = .ok (.iaload, 1) := dk_46 (dk_at dksL_law_57 5 rfl rfl)
theorem dL_law_1406 : decode cL_law 1406 = .ok (.aload_n 0, 1) := dk_42 (dk_at dksL_law_57 6 rfl rfl)
theorem dL_law_1407 : decode cL_law 1407 = .ok (.iload 4, 2) := dk_21 4 (dk_at dksL_law_57 7 rfl rfl)
theorem dL_law_1409 : decode cL_law 1409 = .ok (.iconst 4, 1) := dk_7 (dk_at dksL_law_57 9 rfl rfl)
theorem dL_law_1410 : decode cL_law 1410 = .ok (.iadd, 1) := dk_96 (dk_at dksL_law_57 10 rfl rfl)
theorem dL_law_1411 : decode cL_law 1411 = .ok (.iaload, 1) := dk_46 (dk_at dksL_law_57 11 rfl rfl)
theorem dL_law_1412 : decode cL_law 1412 = .ok (.invokevirtual 161, 3) := dk_182 0 161 (dk_at dksL_law_57 12 rfl rfl)
theorem dL_law_1415 : decode cL_law 1415 = .ok (.istore 6, 2) := dk_54 6 (dk_at dksL_law_57 15 rfl rfl)
theorem dL_law_1417 : decode cL_law 1417 = .ok (.aload_n 2, 1) := dk_44 (dk_at dksL_law_57 17 rfl rfl)
theorem dL_law_1418 : decode cL_law 1418 = .ok (.invokevirtual 97, 3) := dk_182 0 97 (dk_at dksL_law_57 18 rfl rfl)
theorem dL_law_1421 : decode cL_law 1421 = .ok (.iload 5, 2) := dk_21 5 (dk_at dksL_law_57 21 rfl rfl)
theorem dL_law_1423 : decode cL_law 1423 = .ok (.if_icmp .eq 5, 3) := dk_159 0 5 (dk_at dksL_law_58 0 rfl rfl)
theorem dL_law_1426 : decode cL_law 1426 = .ok (.iconst 0, 1) := dk_3 (dk_at dksL_law_58 3 rfl rfl)
theorem dL_law_1427 : decode cL_law 1427 = .ok (.ireturn, 1) := dk_172 (dk_at dksL_law_58 4 rfl rfl)
theorem dL_law_1428 : decode cL_law 1428 = .ok (.iload 5, 2) := dk_21 5 (dk_at dksL_law_58 5 rfl rfl)
theorem dL_law_1430 : decode cL_law 1430 = .ok (.ifCond .ne 15, 3) := dk_154 0 15 (dk_at dksL_law_58 7 rfl rfl)
theorem dL_law_1433 : decode cL_law 1433 = .ok (.aload_n 3, 1) := dk_45 (dk_at dksL_law_58 10 rfl rfl)
theorem dL_law_1434 : decode cL_law 1434 = .ok (.iconst 0, 1) := dk_3 (dk_at dksL_law_58 11 rfl rfl)
theorem dL_law_1435 : decode cL_law 1435 = .ok (.laload, 1) := dk_47 (dk_at dksL_law_58 12 rfl rfl)
theorem dL_law_1436 : decode cL_law 1436 = .ok (.iload 6, 2) := dk_21 6 (dk_at dksL_law_58 13 rfl rfl)
theorem dL_law_1438 : decode cL_law 1438 = .ok (.i2l, 1) := dk_133 (dk_at dksL_law_58 15 rfl rfl)
theorem dL_law_1439 : decode cL_law 1439 = .ok (.lcmp, 1) := dk_148 (dk_at dksL_law_58 16 rfl rfl)
theorem dL_law_1440 : decode cL_law 1440 = .ok (.ifCond .eq 5, 3) := dk_153 0 5 (dk_at dksL_law_58 17 rfl rfl)
theorem dL_law_1443 : decode cL_law 1443 = .ok (.iconst 0, 1) := dk_3 (dk_at dksL_law_58 20 rfl rfl)
theorem dL_law_1444 : decode cL_law 1444 = .ok (.ireturn, 1) := dk_172 (dk_at dksL_law_58 21 rfl rfl)
theorem dL_law_1445 : decode cL_law 1445 = .ok (.goto 159, 3) := dk_167 0 159 (dk_at dksL_law_59 0 rfl rfl)
theorem dL_law_1448 : decode cL_law 1448 = .ok (.aload_n 1, 1) := dk_43 (dk_at dksL_law_59 3 rfl rfl)
theorem dL_law_1449 : decode cL_law 1449 = .ok (.aload_n 0, 1) := dk_42 (dk_at dksL_law_59 4 rfl rfl)
theorem dL_law_1450 : decode cL_law 1450 = .ok (.iload 4, 2) := dk_21 4 (dk_at dksL_law_59 5 rfl rfl)
theorem dL_law_1452 : decode cL_law 1452 = .ok (.iconst 1, 1) := dk_4 (dk_at dksL_law_59 7 rfl rfl)
theorem dL_law_1453 : decode cL_law 1453 = .ok (.iadd, 1) := dk_96 (dk_at dksL_law_59 8 rfl rfl)
theorem dL_law_1454 : decode cL_law 1454 = .ok (.iaload, 1) := dk_46 (dk_at dksL_law_59 9 rfl rfl)
theorem dL_law_1455 : decode cL_law 1455 = .ok (.aload_n 0, 1) := dk_42 (dk_at dksL_law_59 10 rfl rfl)
theorem dL_law_1456 : decode cL_law 1456 = .ok (.iload 4, 2) := dk_21 4 (dk_at dksL_law_59 11 rfl rfl)
theorem dL_law_1458 : decode cL_law 1458 = .ok (.iconst 2, 1) := dk_5 (dk_at dksL_law_59 13 rfl rfl)
theorem dL_law_1459 : decode cL_law 1459 = .ok (.iadd, 1) := dk_96 (dk_at dksL_law_59 14 rfl rfl)
theorem dL_law_1460 : decode cL_law 1460 = .ok (.iaload, 1) := dk_46 (dk_at dksL_law_59 15 rfl rfl)
theorem dL_law_1461 : decode cL_law 1461 = .ok (.aload_n 3, 1) := dk_45 (dk_at dksL_law_59 16 rfl rfl)
theorem dL_law_1462 : decode cL_law 1462 = .ok (.invokestatic 162, 3) := dk_184 0 162 (dk_at dksL_law_59 17 rfl rfl)
theorem dL_law_1465 : decode cL_law 1465 = .ok (.istore 5, 2) := dk_54 5 (dk_at dksL_law_59 20 rfl rfl)
theorem dL_law_1467 : decode cL_law 1467 = .ok (.aload_n 2, 1) := dk_44 (dk_at dksL_law_59 22 rfl rfl)
theorem dL_law_1468 : decode cL_law 1468 = .ok (.aload_n 0, 1) := dk_42 (dk_at dksL_law_59 23 rfl rfl)
theorem dL_law_1469 : decode cL_law 1469 = .ok (.iload 4, 2) := dk_21 4 (dk_at dksL_law_60 0 rfl rfl)
theorem dL_law_1471 : decode cL_law 1471 = .ok (.iconst 1, 1) := dk_4 (dk_at dksL_law_60 2 rfl rfl)
theorem dL_law_1472 : decode cL_law 1472 = .ok (.iadd, 1) := dk_96 (dk_at dksL_law_60 3 rfl rfl)
theorem dL_law_1473 : decode cL_law 1473 = .ok (.iaload, 1) := dk_46 (dk_at dksL_law_60 4 rfl rfl)
theorem dL_law_1474 : decode cL_law 1474 = .ok (.aload_n 0, 1) := dk_42 (dk_at dksL_law_60 5 rfl rfl)
theorem dL_law_1475 : decode cL_law 1475 = .ok (.iload 4, 2) := dk_21 4 (dk_at dksL_law_60 6 rfl rfl)
theorem dL_law_1477 : decode cL_law 1477 = .ok (.iconst 2, 1) := dk_5 (dk_at dksL_law_60 8 rfl rfl)
theorem dL_law_1478 : decode cL_law 1478 = .ok (.iadd, 1) := dk_96 (dk_at dksL_law_60 9 rfl rfl)
theorem dL_law_1479 : decode cL_law 1479 = .ok (.iaload, 1) := dk_46 (dk_at dksL_law_60 10 rfl rfl)
theorem dL_law_1480 : decode cL_law 1480 = .ok (.invokevirtual 164, 3) := dk_182 0 164 (dk_at dksL_law_60 11 rfl rfl)
theorem dL_law_1483 : decode cL_law 1483 = .ok (.istore 6, 2) := dk_54 6 (dk_at dksL_law_60 14 rfl rfl)
theorem dL_law_1485 : decode cL_law 1485 = .ok (.aload_n 2, 1) := dk_44 (dk_at dksL_law_60 16 rfl rfl)
theorem dL_law_1486 : decode cL_law 1486 = .ok (.invokevirtual 97, 3) := dk_182 0 97 (dk_at dksL_law_60 17 rfl rfl)
theorem dL_law_1489 : decode cL_law 1489 = .ok (.iload 5, 2) := dk_21 5 (dk_at dksL_law_60 20 rfl rfl)
theorem dL_law_1491 : decode cL_law 1491 = .ok (.if_icmp .eq 5, 3) := dk_159 0 5 (dk_at dksL_law_61 0 rfl rfl)
theorem dL_law_1494 : decode cL_law 1494 = .ok (.iconst 0, 1) := dk_3 (dk_at dksL_law_61 3 rfl rfl)
theorem dL_law_1495 : decode cL_law 1495 = .ok (.ireturn, 1) := dk_172 (dk_at dksL_law_61 4 rfl rfl)
theorem dL_law_1496 : decode cL_law 1496 = .ok (.iload 5, 2) := dk_21 5 (dk_at dksL_law_61 5 rfl rfl)
theorem dL_law_1498 : decode cL_law 1498 = .ok (.ifCond .ne 15, 3) := dk_154 0 15 (dk_at dksL_law_61 7 rfl rfl)
theorem dL_law_1501 : decode cL_law 1501 = .ok (.aload_n 3, 1) := dk_45 (dk_at dksL_law_61 10 rfl rfl)
theorem dL_law_1502 : decode cL_law 1502 = .ok (.iconst 0, 1) := dk_3 (dk_at dksL_law_61 11 rfl rfl)
theorem dL_law_1503 : decode cL_law 1503 = .ok (.laload, 1) := dk_47 (dk_at dksL_law_61 12 rfl rfl)
theorem dL_law_1504 : decode cL_law 1504 = .ok (.iload 6, 2) := dk_21 6 (dk_at dksL_law_61 13 rfl rfl)
theorem dL_law_1506 : decode cL_law 1506 = .ok (.i2l, 1) := dk_133 (dk_at dksL_law_61 15 rfl rfl)
theorem dL_law_1507 : decode cL_law 1507 = .ok (.lcmp, 1) := dk_148 (dk_at dksL_law_61 16 rfl rfl)
theorem dL_law_1508 : decode cL_law 1508 = .ok (.ifCond .eq 5, 3) := dk_153 0 5 (dk_at dksL_law_61 17 rfl rfl)
theorem dL_law_1511 : decode cL_law 1511 = .ok (.iconst 0, 1) := dk_3 (dk_at dksL_law_61 20 rfl rfl)
theorem dL_law_1512 : decode cL_law 1512 = .ok (.ireturn, 1) := dk_172 (dk_at dksL_law_61 21 rfl rfl)
theorem dL_law_1513 : decode cL_law 1513 = .ok (.goto 91, 3) := dk_167 0 91 (dk_at dksL_law_62 0 rfl rfl)
theorem dL_law_1516 : decode cL_law 1516 = .ok (.aload_n 1, 1) := dk_43 (dk_at dksL_law_62 3 rfl rfl)
theorem dL_law_1517 : decode cL_law 1517 = .ok (.aload_n 0, 1) := dk_42 (dk_at dksL_law_62 4 rfl rfl)
theorem dL_law_1518 : decode cL_law 1518 = .ok (.iload 4, 2) := dk_21 4 (dk_at dksL_law_62 5 rfl rfl)
theorem dL_law_1520 : decode cL_law 1520 = .ok (.iconst 1, 1) := dk_4 (dk_at dksL_law_62 7 rfl rfl)
theorem dL_law_1521 : decode cL_law 1521 = .ok (.iadd, 1) := dk_96 (dk_at dksL_law_62 8 rfl rfl)
theorem dL_law_1522 : decode cL_law 1522 = .ok (.iaload, 1) := dk_46 (dk_at dksL_law_62 9 rfl rfl)
theorem dL_law_1523 : decode cL_law 1523 = .ok (.aload_n 0, 1) := dk_42 (dk_at dksL_law_62 10 rfl rfl)
theorem dL_law_1524 : decode cL_law 1524 = .ok (.iload 4, 2) := dk_21 4 (dk_at dksL_law_62 11 rfl rfl)
theorem dL_law_1526 : decode cL_law 1526 = .ok (.iconst 2, 1) := dk_5 (dk_at dksL_law_62 13 rfl rfl)
theorem dL_law_1527 : decode cL_law 1527 = .ok (.iadd, 1) := dk_96 (dk_at dksL_law_62 14 rfl rfl)
theorem dL_law_1528 : decode cL_law 1528 = .ok (.iaload, 1) := dk_46 (dk_at dksL_law_62 15 rfl rfl)
theorem dL_law_1529 : decode cL_law 1529 = .ok (.aload_n 3, 1) := dk_45 (dk_at dksL_law_62 16 rfl rfl)
theorem dL_law_1530 : decode cL_law 1530 = .ok (.invokestatic 165, 3) := dk_184 0 165 (dk_at dksL_law_62 17 rfl rfl)
theorem dL_law_1533 : decode cL_law 1533 = .ok (.istore 5, 2) := dk_54 5 (dk_at dksL_law_62 20 rfl rfl)
theorem dL_law_1535 : decode cL_law 1535 = .ok (.aload_n 2, 1) := dk_44 (dk_at dksL_law_62 22 rfl rfl)
theorem dL_law_1536 : decode cL_law 1536 = .ok (.aload_n 0, 1) := dk_42 (dk_at dksL_law_62 23 rfl rfl)
theorem dL_law_1537 : decode cL_law 1537 = .ok (.iload 4, 2) := dk_21 4 (dk_at dksL_law_63 0 rfl rfl)
theorem dL_law_1539 : decode cL_law 1539 = .ok (.iconst 1, 1) := dk_4 (dk_at dksL_law_63 2 rfl rfl)
theorem dL_law_1540 : decode cL_law 1540 = .ok (.iadd, 1) := dk_96 (dk_at dksL_law_63 3 rfl rfl)
theorem dL_law_1541 : decode cL_law 1541 = .ok (.iaload, 1) := dk_46 (dk_at dksL_law_63 4 rfl rfl)
theorem dL_law_1542 : decode cL_law 1542 = .ok (.aload_n 0, 1) := dk_42 (dk_at dksL_law_63 5 rfl rfl)
theorem dL_law_1543 : decode cL_law 1543 = .ok (.iload 4, 2) := dk_21 4 (dk_at dksL_law_63 6 rfl rfl)
theorem dL_law_1545 : decode cL_law 1545 = .ok (.iconst 2, 1) := dk_5 (dk_at dksL_law_63 8 rfl rfl)
theorem dL_law_1546 : decode cL_law 1546 = .ok (.iadd, 1) := dk_96 (dk_at dksL_law_63 9 rfl rfl)
theorem dL_law_1547 : decode cL_law 1547 = .ok (.iaload, 1) := dk_46 (dk_at dksL_law_63 10 rfl rfl)
theorem dL_law_1548 : decode cL_law 1548 = .ok (.invokevirtual 167, 3) := dk_182 0 167 (dk_at dksL_law_63 11 rfl rfl)
theorem dL_law_1551 : decode cL_law 1551 = .ok (.istore 6, 2) := dk_54 6 (dk_at dksL_law_63 14 rfl rfl)
theorem dL_law_1553 : decode cL_law 1553 = .ok (.aload_n 2, 1) := dk_44 (dk_at dksL_law_63 16 rfl rfl)
theorem dL_law_1554 : decode cL_law 1554 = .ok (.invokevirtual 97, 3) := dk_182 0 97 (dk_at dksL_law_63 17 rfl rfl)
theorem dL_law_1557 : decode cL_law 1557 = .ok (.iload 5, 2) := dk_21 5 (dk_at dksL_law_63 20 rfl rfl)
theorem dL_law_1559 : decode cL_law 1559 = .ok (.if_icmp .eq 5, 3) := dk_159 0 5 (dk_at dksL_law_64 0 rfl rfl)
theorem dL_law_1562 : decode cL_law 1562 = .ok (.iconst 0, 1) := dk_3 (dk_at dksL_law_64 3 rfl rfl)
theorem dL_law_1563 : decode cL_law 1563 = .ok (.ireturn, 1) := dk_172 (dk_at dksL_law_64 4 rfl rfl)
theorem dL_law_1564 : decode cL_law 1564 = .ok (.iload 5, 2) := dk_21 5 (dk_at dksL_law_64 5 rfl rfl)
theorem dL_law_1566 : decode cL_law 1566 = .ok (.ifCond .ne 22, 3) := dk_154 0 22 (dk_at dksL_law_64 7 rfl rfl)
theorem dL_law_1569 : decode cL_law 1569 = .ok (.aload_n 3, 1) := dk_45 (dk_at dksL_law_64 10 rfl rfl)
theorem dL_law_1570 : decode cL_law 1570 = .ok (.iconst 0, 1) := dk_3 (dk_at dksL_law_64 11 rfl rfl)
theorem dL_law_1571 : decode cL_law 1571 = .ok (.laload, 1) := dk_47 (dk_at dksL_law_64 12 rfl rfl)
theorem dL_law_1572 : decode cL_law 1572 = .ok (.iload 6, 2) := dk_21 6 (dk_at dksL_law_64 13 rfl rfl)
theorem dL_law_1574 : decode cL_law 1574 = .ok (.ifCond .eq 7, 3) := dk_153 0 7 (dk_at dksL_law_64 15 rfl rfl)
theorem dL_law_1577 : decode cL_law 1577 = .ok (.lconst 1, 1) := dk_10 (dk_at dksL_law_64 18 rfl rfl)
theorem dL_law_1578 : decode cL_law 1578 = .ok (.goto 4, 3) := dk_167 0 4 (dk_at dksL_law_64 19 rfl rfl)
theorem dL_law_1581 : decode cL_law 1581 = .ok (.lconst 0, 1) := dk_9 (dk_at dksL_law_64 22 rfl rfl)
theorem dL_law_1582 : decode cL_law 1582 = .ok (.lcmp, 1) := dk_148 (dk_at dksL_law_64 23 rfl rfl)
theorem dL_law_1583 : decode cL_law 1583 = .ok (.ifCond .eq 5, 3) := dk_153 0 5 (dk_at dksL_law_65 0 rfl rfl)
theorem dL_law_1586 : decode cL_law 1586 = .ok (.iconst 0, 1) := dk_3 (dk_at dksL_law_65 3 rfl rfl)
theorem dL_law_1587 : decode cL_law 1587 = .ok (.ireturn, 1) := dk_172 (dk_at dksL_law_65 4 rfl rfl)
theorem dL_law_1588 : decode cL_law 1588 = .ok (.goto 16, 3) := dk_167 0 16 (dk_at dksL_law_65 5 rfl rfl)
theorem dL_law_1591 : decode cL_law 1591 = .ok (.aload_n 1, 1) := dk_43 (dk_at dksL_law_65 8 rfl rfl)
theorem dL_law_1592 : decode cL_law 1592 = .ok (.invokevirtual 168, 3) := dk_182 0 168 (dk_at dksL_law_65 9 rfl rfl)
theorem dL_law_1595 : decode cL_law 1595 = .ok (.aload_n 2, 1) := dk_44 (dk_at dksL_law_65 12 rfl rfl)
theorem dL_law_1596 : decode cL_law 1596 = .ok (.invokevirtual 171, 3) := dk_182 0 171 (dk_at dksL_law_65 13 rfl rfl)
theorem dL_law_1599 : decode cL_law 1599 = .ok (.if_icmp .eq 5, 3) := dk_159 0 5 (dk_at dksL_law_65 16 rfl rfl)
theorem dL_law_1602 : decode cL_law 1602 = .ok (.iconst 0, 1) := dk_3 (dk_at dksL_law_65 19 rfl rfl)
theorem dL_law_1603 : decode cL_law 1603 = .ok (.ireturn, 1) := dk_172 (dk_at dksL_law_65 20 rfl rfl)
theorem dL_law_1604 : decode cL_law 1604 = .ok (.iinc 4 5, 3) := dk_132 4 5 (dk_at dksL_law_65 21 rfl rfl)
theorem dL_law_1607 : decode cL_law 1607 = .ok (.goto (-1584), 3) := dk_167 249 208 (dk_at dksL_law_66 0 rfl rfl)
theorem dL_law_1610 : decode cL_law 1610 = .ok (.iconst 1, 1) := dk_4 (dk_at dksL_law_66 3 rfl rfl)
theorem dL_law_1611 : decode cL_law 1611 = .ok (.ireturn, 1) := dk_172 (dk_at dksL_law_66 4 rfl rfl)

/-! QuirefoldLaw -/
set_option maxRecDepth 100000
def RX0 : String := "QuirefoldLaw"
abbrev cX0_put : ByteArray := method_3_code
def yX0_put : MethodName := ⟨RX0, "put", "(LQuirefold;IIII[J)I"⟩
def dkwX0_put_1 : List UInt8 := [172, 58, 6, 6, 172, 3, 172]
abbrev dktX0_put_1 : List UInt8 := dkwX0_put_1 ++ []
def dkwX0_put_0 : List UInt8 := [25, 5, 3, 42, 27, 28, 29, 21, 4, 182, 0, 7, 133, 80, 167, 0, 15, 58, 6, 4, 172, 58, 6, 5]
abbrev dktX0_put_0 : List UInt8 := dkwX0_put_0 ++ dktX0_put_1
theorem dksX0_put_0 : cX0_put.data.toList.drop 0 = dktX0_put_0 := by decide +kernel
theorem dksX0_put_1 : cX0_put.data.toList.drop 24 = dktX0_put_1 := dk_seg dksX0_put_0 24 rfl rfl
theorem dX0_put_0 : decode cX0_put 0 = .ok (.aload 5, 2) := dk_25 5 (dk_at dksX0_put_0 0 rfl rfl)
theorem dX0_put_2 : decode cX0_put 2 = .ok (.iconst 0, 1) := dk_3 (dk_at dksX0_put_0 2 rfl rfl)
theorem dX0_put_3 : decode cX0_put 3 = .ok (.aload_n 0, 1) := dk_42 (dk_at dksX0_put_0 3 rfl rfl)
theorem dX0_put_4 : decode cX0_put 4 = .ok (.iload_n 1, 1) := dk_27 (dk_at dksX0_put_0 4 rfl rfl)
theorem dX0_put_5 : decode cX0_put 5 = .ok (.iload_n 2, 1) := dk_28 (dk_at dksX0_put_0 5 rfl rfl)
theorem dX0_put_6 : decode cX0_put 6 = .ok (.iload_n 3, 1) := dk_29 (dk_at dksX0_put_0 6 rfl rfl)
theorem dX0_put_7 : decode cX0_put 7 = .ok (.iload 4, 2) := dk_21 4 (dk_at dksX0_put_0 7 rfl rfl)
theorem dX0_put_9 : decode cX0_put 9 = .ok (.invokevirtual 7, 3) := dk_182 0 7 (dk_at dksX0_put_0 9 rfl rfl)
theorem dX0_put_12 : decode cX0_put 12 = .ok (.i2l, 1) := dk_133 (dk_at dksX0_put_0 12 rfl rfl)
theorem dX0_put_13 : decode cX0_put 13 = .ok (.lastore, 1) := dk_80 (dk_at dksX0_put_0 13 rfl rfl)
theorem dX0_put_14 : decode cX0_put 14 = .ok (.goto 15, 3) := dk_167 0 15 (dk_at dksX0_put_0 14 rfl rfl)
theorem dX0_put_17 : decode cX0_put 17 = .ok (.astore 6, 2) := dk_58 6 (dk_at dksX0_put_0 17 rfl rfl)
theorem dX0_put_19 : decode cX0_put 19 = .ok (.iconst 1, 1) := dk_4 (dk_at dksX0_put_0 19 rfl rfl)
theorem dX0_put_20 : decode cX0_put 20 = .ok (.ireturn, 1) := dk_172 (dk_at dksX0_put_0 20 rfl rfl)
theorem dX0_put_21 : decode cX0_put 21 = .ok (.astore 6, 2) := dk_58 6 (dk_at dksX0_put_0 21 rfl rfl)
theorem dX0_put_23 : decode cX0_put 23 = .ok (.iconst 2, 1) := dk_5 (dk_at dksX0_put_0 23 rfl rfl)
theorem dX0_put_24 : decode cX0_put 24 = .ok (.ireturn, 1) := dk_172 (dk_at dksX0_put_1 0 rfl rfl)
theorem dX0_put_25 : decode cX0_put 25 = .ok (.astore 6, 2) := dk_58 6 (dk_at dksX0_put_1 1 rfl rfl)
theorem dX0_put_27 : decode cX0_put 27 = .ok (.iconst 3, 1) := dk_6 (dk_at dksX0_put_1 3 rfl rfl)
theorem dX0_put_28 : decode cX0_put 28 = .ok (.ireturn, 1) := dk_172 (dk_at dksX0_put_1 4 rfl rfl)
theorem dX0_put_29 : decode cX0_put 29 = .ok (.iconst 0, 1) := dk_3 (dk_at dksX0_put_1 5 rfl rfl)
theorem dX0_put_30 : decode cX0_put 30 = .ok (.ireturn, 1) := dk_172 (dk_at dksX0_put_1 6 rfl rfl)
abbrev cX0_take : ByteArray := method_4_code
def yX0_take : MethodName := ⟨RX0, "take", "(LQuirefold;I[J)I"⟩
def dkwX0_take_0 : List UInt8 := [44, 3, 42, 27, 182, 0, 19, 133, 80, 167, 0, 6, 78, 4, 172, 3, 172]
abbrev dktX0_take_0 : List UInt8 := dkwX0_take_0 ++ []
theorem dksX0_take_0 : cX0_take.data.toList.drop 0 = dktX0_take_0 := by decide +kernel
theorem dX0_take_0 : decode cX0_take 0 = .ok (.aload_n 2, 1) := dk_44 (dk_at dksX0_take_0 0 rfl rfl)
theorem dX0_take_1 : decode cX0_take 1 = .ok (.iconst 0, 1) := dk_3 (dk_at dksX0_take_0 1 rfl rfl)
theorem dX0_take_2 : decode cX0_take 2 = .ok (.aload_n 0, 1) := dk_42 (dk_at dksX0_take_0 2 rfl rfl)
theorem dX0_take_3 : decode cX0_take 3 = .ok (.iload_n 1, 1) := dk_27 (dk_at dksX0_take_0 3 rfl rfl)
theorem dX0_take_4 : decode cX0_take 4 = .ok (.invokevirtual 19, 3) := dk_182 0 19 (dk_at dksX0_take_0 4 rfl rfl)
theorem dX0_take_7 : decode cX0_take 7 = .ok (.i2l, 1) := dk_133 (dk_at dksX0_take_0 7 rfl rfl)
theorem dX0_take_8 : decode cX0_take 8 = .ok (.lastore, 1) := dk_80 (dk_at dksX0_take_0 8 rfl rfl)
theorem dX0_take_9 : decode cX0_take 9 = .ok (.goto 6, 3) := dk_167 0 6 (dk_at dksX0_take_0 9 rfl rfl)
theorem dX0_take_12 : decode cX0_take 12 = .ok (.astore_n 3, 1) := dk_78 (dk_at dksX0_take_0 12 rfl rfl)
theorem dX0_take_13 : decode cX0_take 13 = .ok (.iconst 1, 1) := dk_4 (dk_at dksX0_take_0 13 rfl rfl)
theorem dX0_take_14 : decode cX0_take 14 = .ok (.ireturn, 1) := dk_172 (dk_at dksX0_take_0 14 rfl rfl)
theorem dX0_take_15 : decode cX0_take 15 = .ok (.iconst 0, 1) := dk_3 (dk_at dksX0_take_0 15 rfl rfl)
theorem dX0_take_16 : decode cX0_take 16 = .ok (.ireturn, 1) := dk_172 (dk_at dksX0_take_0 16 rfl rfl)
abbrev cX0_style : ByteArray := method_5_code
def yX0_style : MethodName := ⟨RX0, "style", "(LQuirefold;IIII)I"⟩
def dkwX0_style_1 : List UInt8 := [3, 172]
abbrev dktX0_style_1 : List UInt8 := dkwX0_style_1 ++ []
def dkwX0_style_0 : List UInt8 := [42, 27, 28, 29, 21, 4, 182, 0, 23, 167, 0, 15, 58, 5, 4, 172, 58, 5, 5, 172, 58, 5, 6, 172]
abbrev dktX0_style_0 : List UInt8 := dkwX0_style_0 ++ dktX0_style_1
theorem dksX0_style_0 : cX0_style.data.toList.drop 0 = dktX0_style_0 := by decide +kernel
theorem dksX0_style_1 : cX0_style.data.toList.drop 24 = dktX0_style_1 := dk_seg dksX0_style_0 24 rfl rfl
theorem dX0_style_0 : decode cX0_style 0 = .ok (.aload_n 0, 1) := dk_42 (dk_at dksX0_style_0 0 rfl rfl)
theorem dX0_style_1 : decode cX0_style 1 = .ok (.iload_n 1, 1) := dk_27 (dk_at dksX0_style_0 1 rfl rfl)
theorem dX0_style_2 : decode cX0_style 2 = .ok (.iload_n 2, 1) := dk_28 (dk_at dksX0_style_0 2 rfl rfl)
theorem dX0_style_3 : decode cX0_style 3 = .ok (.iload_n 3, 1) := dk_29 (dk_at dksX0_style_0 3 rfl rfl)
theorem dX0_style_4 : decode cX0_style 4 = .ok (.iload 4, 2) := dk_21 4 (dk_at dksX0_style_0 4 rfl rfl)
theorem dX0_style_6 : decode cX0_style 6 = .ok (.invokevirtual 23, 3) := dk_182 0 23 (dk_at dksX0_style_0 6 rfl rfl)
theorem dX0_style_9 : decode cX0_style 9 = .ok (.goto 15, 3) := dk_167 0 15 (dk_at dksX0_style_0 9 rfl rfl)
theorem dX0_style_12 : decode cX0_style 12 = .ok (.astore 5, 2) := dk_58 5 (dk_at dksX0_style_0 12 rfl rfl)
theorem dX0_style_14 : decode cX0_style 14 = .ok (.iconst 1, 1) := dk_4 (dk_at dksX0_style_0 14 rfl rfl)
theorem dX0_style_15 : decode cX0_style 15 = .ok (.ireturn, 1) := dk_172 (dk_at dksX0_style_0 15 rfl rfl)
theorem dX0_style_16 : decode cX0_style 16 = .ok (.astore 5, 2) := dk_58 5 (dk_at dksX0_style_0 16 rfl rfl)
theorem dX0_style_18 : decode cX0_style 18 = .ok (.iconst 2, 1) := dk_5 (dk_at dksX0_style_0 18 rfl rfl)
theorem dX0_style_19 : decode cX0_style 19 = .ok (.ireturn, 1) := dk_172 (dk_at dksX0_style_0 19 rfl rfl)
theorem dX0_style_20 : decode cX0_style 20 = .ok (.astore 5, 2) := dk_58 5 (dk_at dksX0_style_0 20 rfl rfl)
theorem dX0_style_22 : decode cX0_style 22 = .ok (.iconst 3, 1) := dk_6 (dk_at dksX0_style_0 22 rfl rfl)
theorem dX0_style_23 : decode cX0_style 23 = .ok (.ireturn, 1) := dk_172 (dk_at dksX0_style_0 23 rfl rfl)
theorem dX0_style_24 : decode cX0_style 24 = .ok (.iconst 0, 1) := dk_3 (dk_at dksX0_style_1 0 rfl rfl)
theorem dX0_style_25 : decode cX0_style 25 = .ok (.ireturn, 1) := dk_172 (dk_at dksX0_style_1 1 rfl rfl)
abbrev cX0_data : ByteArray := method_6_code
def yX0_data : MethodName := ⟨RX0, "data", "(LQuirefold;III[J)I"⟩
def dkwX0_data_1 : List UInt8 := [172]
abbrev dktX0_data_1 : List UInt8 := dkwX0_data_1 ++ []
def dkwX0_data_0 : List UInt8 := [25, 4, 3, 42, 27, 28, 29, 182, 0, 27, 133, 80, 167, 0, 11, 58, 5, 4, 172, 58, 5, 5, 172, 3]
abbrev dktX0_data_0 : List UInt8 := dkwX0_data_0 ++ dktX0_data_1
theorem dksX0_data_0 : cX0_data.data.toList.drop 0 = dktX0_data_0 := by decide +kernel
theorem dksX0_data_1 : cX0_data.data.toList.drop 24 = dktX0_data_1 := dk_seg dksX0_data_0 24 rfl rfl
theorem dX0_data_0 : decode cX0_data 0 = .ok (.aload 4, 2) := dk_25 4 (dk_at dksX0_data_0 0 rfl rfl)
theorem dX0_data_2 : decode cX0_data 2 = .ok (.iconst 0, 1) := dk_3 (dk_at dksX0_data_0 2 rfl rfl)
theorem dX0_data_3 : decode cX0_data 3 = .ok (.aload_n 0, 1) := dk_42 (dk_at dksX0_data_0 3 rfl rfl)
theorem dX0_data_4 : decode cX0_data 4 = .ok (.iload_n 1, 1) := dk_27 (dk_at dksX0_data_0 4 rfl rfl)
theorem dX0_data_5 : decode cX0_data 5 = .ok (.iload_n 2, 1) := dk_28 (dk_at dksX0_data_0 5 rfl rfl)
theorem dX0_data_6 : decode cX0_data 6 = .ok (.iload_n 3, 1) := dk_29 (dk_at dksX0_data_0 6 rfl rfl)
theorem dX0_data_7 : decode cX0_data 7 = .ok (.invokevirtual 27, 3) := dk_182 0 27 (dk_at dksX0_data_0 7 rfl rfl)
theorem dX0_data_10 : decode cX0_data 10 = .ok (.i2l, 1) := dk_133 (dk_at dksX0_data_0 10 rfl rfl)
theorem dX0_data_11 : decode cX0_data 11 = .ok (.lastore, 1) := dk_80 (dk_at dksX0_data_0 11 rfl rfl)
theorem dX0_data_12 : decode cX0_data 12 = .ok (.goto 11, 3) := dk_167 0 11 (dk_at dksX0_data_0 12 rfl rfl)
theorem dX0_data_15 : decode cX0_data 15 = .ok (.astore 5, 2) := dk_58 5 (dk_at dksX0_data_0 15 rfl rfl)
theorem dX0_data_17 : decode cX0_data 17 = .ok (.iconst 1, 1) := dk_4 (dk_at dksX0_data_0 17 rfl rfl)
theorem dX0_data_18 : decode cX0_data 18 = .ok (.ireturn, 1) := dk_172 (dk_at dksX0_data_0 18 rfl rfl)
theorem dX0_data_19 : decode cX0_data 19 = .ok (.astore 5, 2) := dk_58 5 (dk_at dksX0_data_0 19 rfl rfl)
theorem dX0_data_21 : decode cX0_data 21 = .ok (.iconst 2, 1) := dk_5 (dk_at dksX0_data_0 21 rfl rfl)
theorem dX0_data_22 : decode cX0_data 22 = .ok (.ireturn, 1) := dk_172 (dk_at dksX0_data_0 22 rfl rfl)
theorem dX0_data_23 : decode cX0_data 23 = .ok (.iconst 0, 1) := dk_3 (dk_at dksX0_data_0 23 rfl rfl)
theorem dX0_data_24 : decode cX0_data 24 = .ok (.ireturn, 1) := dk_172 (dk_at dksX0_data_1 0 rfl rfl)
abbrev cX0_grid : ByteArray := method_7_code
def yX0_grid : MethodName := ⟨RX0, "grid", "(LQuirefold;III)I"⟩
def dkwX0_grid_0 : List UInt8 := [42, 27, 28, 29, 182, 0, 31, 167, 0, 7, 58, 4, 4, 172, 3, 172]
abbrev dktX0_grid_0 : List UInt8 := dkwX0_grid_0 ++ []
theorem dksX0_grid_0 : cX0_grid.data.toList.drop 0 = dktX0_grid_0 := by decide +kernel
theorem dX0_grid_0 : decode cX0_grid 0 = .ok (.aload_n 0, 1) := dk_42 (dk_at dksX0_grid_0 0 rfl rfl)
theorem dX0_grid_1 : decode cX0_grid 1 = .ok (.iload_n 1, 1) := dk_27 (dk_at dksX0_grid_0 1 rfl rfl)
theorem dX0_grid_2 : decode cX0_grid 2 = .ok (.iload_n 2, 1) := dk_28 (dk_at dksX0_grid_0 2 rfl rfl)
theorem dX0_grid_3 : decode cX0_grid 3 = .ok (.iload_n 3, 1) := dk_29 (dk_at dksX0_grid_0 3 rfl rfl)
theorem dX0_grid_4 : decode cX0_grid 4 = .ok (.invokevirtual 31, 3) := dk_182 0 31 (dk_at dksX0_grid_0 4 rfl rfl)
theorem dX0_grid_7 : decode cX0_grid 7 = .ok (.goto 7, 3) := dk_167 0 7 (dk_at dksX0_grid_0 7 rfl rfl)
theorem dX0_grid_10 : decode cX0_grid 10 = .ok (.astore 4, 2) := dk_58 4 (dk_at dksX0_grid_0 10 rfl rfl)
theorem dX0_grid_12 : decode cX0_grid 12 = .ok (.iconst 1, 1) := dk_4 (dk_at dksX0_grid_0 12 rfl rfl)
theorem dX0_grid_13 : decode cX0_grid 13 = .ok (.ireturn, 1) := dk_172 (dk_at dksX0_grid_0 13 rfl rfl)
theorem dX0_grid_14 : decode cX0_grid 14 = .ok (.iconst 0, 1) := dk_3 (dk_at dksX0_grid_0 14 rfl rfl)
theorem dX0_grid_15 : decode cX0_grid 15 = .ok (.ireturn, 1) := dk_172 (dk_at dksX0_grid_0 15 rfl rfl)
abbrev cX0_see : ByteArray := method_8_code
def yX0_see : MethodName := ⟨RX0, "see", "(LQuirefold;II[J)I"⟩
def dkwX0_see_0 : List UInt8 := [45, 3, 42, 27, 28, 182, 0, 35, 133, 80, 167, 0, 11, 58, 4, 4, 172, 58, 4, 5, 172, 3, 172]
abbrev dktX0_see_0 : List UInt8 := dkwX0_see_0 ++ []
theorem dksX0_see_0 : cX0_see.data.toList.drop 0 = dktX0_see_0 := by decide +kernel
theorem dX0_see_0 : decode cX0_see 0 = .ok (.aload_n 3, 1) := dk_45 (dk_at dksX0_see_0 0 rfl rfl)
theorem dX0_see_1 : decode cX0_see 1 = .ok (.iconst 0, 1) := dk_3 (dk_at dksX0_see_0 1 rfl rfl)
theorem dX0_see_2 : decode cX0_see 2 = .ok (.aload_n 0, 1) := dk_42 (dk_at dksX0_see_0 2 rfl rfl)
theorem dX0_see_3 : decode cX0_see 3 = .ok (.iload_n 1, 1) := dk_27 (dk_at dksX0_see_0 3 rfl rfl)
theorem dX0_see_4 : decode cX0_see 4 = .ok (.iload_n 2, 1) := dk_28 (dk_at dksX0_see_0 4 rfl rfl)
theorem dX0_see_5 : decode cX0_see 5 = .ok (.invokevirtual 35, 3) := dk_182 0 35 (dk_at dksX0_see_0 5 rfl rfl)
theorem dX0_see_8 : decode cX0_see 8 = .ok (.i2l, 1) := dk_133 (dk_at dksX0_see_0 8 rfl rfl)
theorem dX0_see_9 : decode cX0_see 9 = .ok (.lastore, 1) := dk_80 (dk_at dksX0_see_0 9 rfl rfl)
theorem dX0_see_10 : decode cX0_see 10 = .ok (.goto 11, 3) := dk_167 0 11 (dk_at dksX0_see_0 10 rfl rfl)
theorem dX0_see_13 : decode cX0_see 13 = .ok (.astore 4, 2) := dk_58 4 (dk_at dksX0_see_0 13 rfl rfl)
theorem dX0_see_15 : decode cX0_see 15 = .ok (.iconst 1, 1) := dk_4 (dk_at dksX0_see_0 15 rfl rfl)
theorem dX0_see_16 : decode cX0_see 16 = .ok (.ireturn, 1) := dk_172 (dk_at dksX0_see_0 16 rfl rfl)
theorem dX0_see_17 : decode cX0_see 17 = .ok (.astore 4, 2) := dk_58 4 (dk_at dksX0_see_0 17 rfl rfl)
theorem dX0_see_19 : decode cX0_see 19 = .ok (.iconst 2, 1) := dk_5 (dk_at dksX0_see_0 19 rfl rfl)
theorem dX0_see_20 : decode cX0_see 20 = .ok (.ireturn, 1) := dk_172 (dk_at dksX0_see_0 20 rfl rfl)
theorem dX0_see_21 : decode cX0_see 21 = .ok (.iconst 0, 1) := dk_3 (dk_at dksX0_see_0 21 rfl rfl)
theorem dX0_see_22 : decode cX0_see 22 = .ok (.ireturn, 1) := dk_172 (dk_at dksX0_see_0 22 rfl rfl)
abbrev cX0_fold : ByteArray := method_9_code
def yX0_fold : MethodName := ⟨RX0, "fold", "(LQuirefold;II)I"⟩
def dkwX0_fold_0 : List UInt8 := [42, 27, 28, 182, 0, 39, 167, 0, 6, 78, 4, 172, 3, 172]
abbrev dktX0_fold_0 : List UInt8 := dkwX0_fold_0 ++ []
theorem dksX0_fold_0 : cX0_fold.data.toList.drop 0 = dktX0_fold_0 := by decide +kernel
theorem dX0_fold_0 : decode cX0_fold 0 = .ok (.aload_n 0, 1) := dk_42 (dk_at dksX0_fold_0 0 rfl rfl)
theorem dX0_fold_1 : decode cX0_fold 1 = .ok (.iload_n 1, 1) := dk_27 (dk_at dksX0_fold_0 1 rfl rfl)
theorem dX0_fold_2 : decode cX0_fold 2 = .ok (.iload_n 2, 1) := dk_28 (dk_at dksX0_fold_0 2 rfl rfl)
theorem dX0_fold_3 : decode cX0_fold 3 = .ok (.invokevirtual 39, 3) := dk_182 0 39 (dk_at dksX0_fold_0 3 rfl rfl)
theorem dX0_fold_6 : decode cX0_fold 6 = .ok (.goto 6, 3) := dk_167 0 6 (dk_at dksX0_fold_0 6 rfl rfl)
theorem dX0_fold_9 : decode cX0_fold 9 = .ok (.astore_n 3, 1) := dk_78 (dk_at dksX0_fold_0 9 rfl rfl)
theorem dX0_fold_10 : decode cX0_fold 10 = .ok (.iconst 1, 1) := dk_4 (dk_at dksX0_fold_0 10 rfl rfl)
theorem dX0_fold_11 : decode cX0_fold 11 = .ok (.ireturn, 1) := dk_172 (dk_at dksX0_fold_0 11 rfl rfl)
theorem dX0_fold_12 : decode cX0_fold 12 = .ok (.iconst 0, 1) := dk_3 (dk_at dksX0_fold_0 12 rfl rfl)
theorem dX0_fold_13 : decode cX0_fold 13 = .ok (.ireturn, 1) := dk_172 (dk_at dksX0_fold_0 13 rfl rfl)
abbrev cX0_keep : ByteArray := method_10_code
def yX0_keep : MethodName := ⟨RX0, "keep", "(LQuirefold;I[J)I"⟩
def dkwX0_keep_0 : List UInt8 := [44, 3, 42, 27, 182, 0, 43, 133, 80, 167, 0, 6, 78, 4, 172, 3, 172]
abbrev dktX0_keep_0 : List UInt8 := dkwX0_keep_0 ++ []
theorem dksX0_keep_0 : cX0_keep.data.toList.drop 0 = dktX0_keep_0 := by decide +kernel
theorem dX0_keep_0 : decode cX0_keep 0 = .ok (.aload_n 2, 1) := dk_44 (dk_at dksX0_keep_0 0 rfl rfl)
theorem dX0_keep_1 : decode cX0_keep 1 = .ok (.iconst 0, 1) := dk_3 (dk_at dksX0_keep_0 1 rfl rfl)
theorem dX0_keep_2 : decode cX0_keep 2 = .ok (.aload_n 0, 1) := dk_42 (dk_at dksX0_keep_0 2 rfl rfl)
theorem dX0_keep_3 : decode cX0_keep 3 = .ok (.iload_n 1, 1) := dk_27 (dk_at dksX0_keep_0 3 rfl rfl)
theorem dX0_keep_4 : decode cX0_keep 4 = .ok (.invokevirtual 43, 3) := dk_182 0 43 (dk_at dksX0_keep_0 4 rfl rfl)
theorem dX0_keep_7 : decode cX0_keep 7 = .ok (.i2l, 1) := dk_133 (dk_at dksX0_keep_0 7 rfl rfl)
theorem dX0_keep_8 : decode cX0_keep 8 = .ok (.lastore, 1) := dk_80 (dk_at dksX0_keep_0 8 rfl rfl)
theorem dX0_keep_9 : decode cX0_keep 9 = .ok (.goto 6, 3) := dk_167 0 6 (dk_at dksX0_keep_0 9 rfl rfl)
theorem dX0_keep_12 : decode cX0_keep 12 = .ok (.astore_n 3, 1) := dk_78 (dk_at dksX0_keep_0 12 rfl rfl)
theorem dX0_keep_13 : decode cX0_keep 13 = .ok (.iconst 1, 1) := dk_4 (dk_at dksX0_keep_0 13 rfl rfl)
theorem dX0_keep_14 : decode cX0_keep 14 = .ok (.ireturn, 1) := dk_172 (dk_at dksX0_keep_0 14 rfl rfl)
theorem dX0_keep_15 : decode cX0_keep 15 = .ok (.iconst 0, 1) := dk_3 (dk_at dksX0_keep_0 15 rfl rfl)
theorem dX0_keep_16 : decode cX0_keep 16 = .ok (.ireturn, 1) := dk_172 (dk_at dksX0_keep_0 16 rfl rfl)
abbrev cX0_lines : ByteArray := method_11_code
def yX0_lines : MethodName := ⟨RX0, "lines", "(LQuirefold;I[J)I"⟩
def dkwX0_lines_0 : List UInt8 := [44, 3, 42, 27, 182, 0, 46, 133, 80, 167, 0, 6, 78, 4, 172, 3, 172]
abbrev dktX0_lines_0 : List UInt8 := dkwX0_lines_0 ++ []
theorem dksX0_lines_0 : cX0_lines.data.toList.drop 0 = dktX0_lines_0 := by decide +kernel
theorem dX0_lines_0 : decode cX0_lines 0 = .ok (.aload_n 2, 1) := dk_44 (dk_at dksX0_lines_0 0 rfl rfl)
theorem dX0_lines_1 : decode cX0_lines 1 = .ok (.iconst 0, 1) := dk_3 (dk_at dksX0_lines_0 1 rfl rfl)
theorem dX0_lines_2 : decode cX0_lines 2 = .ok (.aload_n 0, 1) := dk_42 (dk_at dksX0_lines_0 2 rfl rfl)
theorem dX0_lines_3 : decode cX0_lines 3 = .ok (.iload_n 1, 1) := dk_27 (dk_at dksX0_lines_0 3 rfl rfl)
theorem dX0_lines_4 : decode cX0_lines 4 = .ok (.invokevirtual 46, 3) := dk_182 0 46 (dk_at dksX0_lines_0 4 rfl rfl)
theorem dX0_lines_7 : decode cX0_lines 7 = .ok (.i2l, 1) := dk_133 (dk_at dksX0_lines_0 7 rfl rfl)
theorem dX0_lines_8 : decode cX0_lines 8 = .ok (.lastore, 1) := dk_80 (dk_at dksX0_lines_0 8 rfl rfl)
theorem dX0_lines_9 : decode cX0_lines 9 = .ok (.goto 6, 3) := dk_167 0 6 (dk_at dksX0_lines_0 9 rfl rfl)
theorem dX0_lines_12 : decode cX0_lines 12 = .ok (.astore_n 3, 1) := dk_78 (dk_at dksX0_lines_0 12 rfl rfl)
theorem dX0_lines_13 : decode cX0_lines 13 = .ok (.iconst 1, 1) := dk_4 (dk_at dksX0_lines_0 13 rfl rfl)
theorem dX0_lines_14 : decode cX0_lines 14 = .ok (.ireturn, 1) := dk_172 (dk_at dksX0_lines_0 14 rfl rfl)
theorem dX0_lines_15 : decode cX0_lines 15 = .ok (.iconst 0, 1) := dk_3 (dk_at dksX0_lines_0 15 rfl rfl)
theorem dX0_lines_16 : decode cX0_lines 16 = .ok (.ireturn, 1) := dk_172 (dk_at dksX0_lines_0 16 rfl rfl)
abbrev cX0_lineOf : ByteArray := method_12_code
def yX0_lineOf : MethodName := ⟨RX0, "lineOf", "(LQuirefold;II[J)I"⟩
def dkwX0_lineOf_0 : List UInt8 := [45, 3, 42, 27, 28, 182, 0, 49, 133, 80, 167, 0, 7, 58, 4, 4, 172, 3, 172]
abbrev dktX0_lineOf_0 : List UInt8 := dkwX0_lineOf_0 ++ []
theorem dksX0_lineOf_0 : cX0_lineOf.data.toList.drop 0 = dktX0_lineOf_0 := by decide +kernel
theorem dX0_lineOf_0 : decode cX0_lineOf 0 = .ok (.aload_n 3, 1) := dk_45 (dk_at dksX0_lineOf_0 0 rfl rfl)
theorem dX0_lineOf_1 : decode cX0_lineOf 1 = .ok (.iconst 0, 1) := dk_3 (dk_at dksX0_lineOf_0 1 rfl rfl)
theorem dX0_lineOf_2 : decode cX0_lineOf 2 = .ok (.aload_n 0, 1) := dk_42 (dk_at dksX0_lineOf_0 2 rfl rfl)
theorem dX0_lineOf_3 : decode cX0_lineOf 3 = .ok (.iload_n 1, 1) := dk_27 (dk_at dksX0_lineOf_0 3 rfl rfl)
theorem dX0_lineOf_4 : decode cX0_lineOf 4 = .ok (.iload_n 2, 1) := dk_28 (dk_at dksX0_lineOf_0 4 rfl rfl)
theorem dX0_lineOf_5 : decode cX0_lineOf 5 = .ok (.invokevirtual 49, 3) := dk_182 0 49 (dk_at dksX0_lineOf_0 5 rfl rfl)
theorem dX0_lineOf_8 : decode cX0_lineOf 8 = .ok (.i2l, 1) := dk_133 (dk_at dksX0_lineOf_0 8 rfl rfl)
theorem dX0_lineOf_9 : decode cX0_lineOf 9 = .ok (.lastore, 1) := dk_80 (dk_at dksX0_lineOf_0 9 rfl rfl)
theorem dX0_lineOf_10 : decode cX0_lineOf 10 = .ok (.goto 7, 3) := dk_167 0 7 (dk_at dksX0_lineOf_0 10 rfl rfl)
theorem dX0_lineOf_13 : decode cX0_lineOf 13 = .ok (.astore 4, 2) := dk_58 4 (dk_at dksX0_lineOf_0 13 rfl rfl)
theorem dX0_lineOf_15 : decode cX0_lineOf 15 = .ok (.iconst 1, 1) := dk_4 (dk_at dksX0_lineOf_0 15 rfl rfl)
theorem dX0_lineOf_16 : decode cX0_lineOf 16 = .ok (.ireturn, 1) := dk_172 (dk_at dksX0_lineOf_0 16 rfl rfl)
theorem dX0_lineOf_17 : decode cX0_lineOf 17 = .ok (.iconst 0, 1) := dk_3 (dk_at dksX0_lineOf_0 17 rfl rfl)
theorem dX0_lineOf_18 : decode cX0_lineOf 18 = .ok (.ireturn, 1) := dk_172 (dk_at dksX0_lineOf_0 18 rfl rfl)
abbrev cX0_columnOf : ByteArray := method_13_code
def yX0_columnOf : MethodName := ⟨RX0, "columnOf", "(LQuirefold;IZI[J)I"⟩
def dkwX0_columnOf_0 : List UInt8 := [25, 4, 3, 42, 27, 28, 29, 182, 0, 52, 133, 80, 167, 0, 7, 58, 5, 4, 172, 3, 172]
abbrev dktX0_columnOf_0 : List UInt8 := dkwX0_columnOf_0 ++ []
theorem dksX0_columnOf_0 : cX0_columnOf.data.toList.drop 0 = dktX0_columnOf_0 := by decide +kernel
theorem dX0_columnOf_0 : decode cX0_columnOf 0 = .ok (.aload 4, 2) := dk_25 4 (dk_at dksX0_columnOf_0 0 rfl rfl)
theorem dX0_columnOf_2 : decode cX0_columnOf 2 = .ok (.iconst 0, 1) := dk_3 (dk_at dksX0_columnOf_0 2 rfl rfl)
theorem dX0_columnOf_3 : decode cX0_columnOf 3 = .ok (.aload_n 0, 1) := dk_42 (dk_at dksX0_columnOf_0 3 rfl rfl)
theorem dX0_columnOf_4 : decode cX0_columnOf 4 = .ok (.iload_n 1, 1) := dk_27 (dk_at dksX0_columnOf_0 4 rfl rfl)
theorem dX0_columnOf_5 : decode cX0_columnOf 5 = .ok (.iload_n 2, 1) := dk_28 (dk_at dksX0_columnOf_0 5 rfl rfl)
theorem dX0_columnOf_6 : decode cX0_columnOf 6 = .ok (.iload_n 3, 1) := dk_29 (dk_at dksX0_columnOf_0 6 rfl rfl)
theorem dX0_columnOf_7 : decode cX0_columnOf 7 = .ok (.invokevirtual 52, 3) := dk_182 0 52 (dk_at dksX0_columnOf_0 7 rfl rfl)
theorem dX0_columnOf_10 : decode cX0_columnOf 10 = .ok (.i2l, 1) := dk_133 (dk_at dksX0_columnOf_0 10 rfl rfl)
theorem dX0_columnOf_11 : decode cX0_columnOf 11 = .ok (.lastore, 1) := dk_80 (dk_at dksX0_columnOf_0 11 rfl rfl)
theorem dX0_columnOf_12 : decode cX0_columnOf 12 = .ok (.goto 7, 3) := dk_167 0 7 (dk_at dksX0_columnOf_0 12 rfl rfl)
theorem dX0_columnOf_15 : decode cX0_columnOf 15 = .ok (.astore 5, 2) := dk_58 5 (dk_at dksX0_columnOf_0 15 rfl rfl)
theorem dX0_columnOf_17 : decode cX0_columnOf 17 = .ok (.iconst 1, 1) := dk_4 (dk_at dksX0_columnOf_0 17 rfl rfl)
theorem dX0_columnOf_18 : decode cX0_columnOf 18 = .ok (.ireturn, 1) := dk_172 (dk_at dksX0_columnOf_0 18 rfl rfl)
theorem dX0_columnOf_19 : decode cX0_columnOf 19 = .ok (.iconst 0, 1) := dk_3 (dk_at dksX0_columnOf_0 19 rfl rfl)
theorem dX0_columnOf_20 : decode cX0_columnOf 20 = .ok (.ireturn, 1) := dk_172 (dk_at dksX0_columnOf_0 20 rfl rfl)
abbrev cX0_pageOf : ByteArray := method_14_code
def yX0_pageOf : MethodName := ⟨RX0, "pageOf", "(LQuirefold;II[J)I"⟩
def dkwX0_pageOf_0 : List UInt8 := [45, 3, 42, 27, 28, 182, 0, 56, 133, 80, 167, 0, 7, 58, 4, 4, 172, 3, 172]
abbrev dktX0_pageOf_0 : List UInt8 := dkwX0_pageOf_0 ++ []
theorem dksX0_pageOf_0 : cX0_pageOf.data.toList.drop 0 = dktX0_pageOf_0 := by decide +kernel
theorem dX0_pageOf_0 : decode cX0_pageOf 0 = .ok (.aload_n 3, 1) := dk_45 (dk_at dksX0_pageOf_0 0 rfl rfl)
theorem dX0_pageOf_1 : decode cX0_pageOf 1 = .ok (.iconst 0, 1) := dk_3 (dk_at dksX0_pageOf_0 1 rfl rfl)
theorem dX0_pageOf_2 : decode cX0_pageOf 2 = .ok (.aload_n 0, 1) := dk_42 (dk_at dksX0_pageOf_0 2 rfl rfl)
theorem dX0_pageOf_3 : decode cX0_pageOf 3 = .ok (.iload_n 1, 1) := dk_27 (dk_at dksX0_pageOf_0 3 rfl rfl)
theorem dX0_pageOf_4 : decode cX0_pageOf 4 = .ok (.iload_n 2, 1) := dk_28 (dk_at dksX0_pageOf_0 4 rfl rfl)
theorem dX0_pageOf_5 : decode cX0_pageOf 5 = .ok (.invokevirtual 56, 3) := dk_182 0 56 (dk_at dksX0_pageOf_0 5 rfl rfl)
theorem dX0_pageOf_8 : decode cX0_pageOf 8 = .ok (.i2l, 1) := dk_133 (dk_at dksX0_pageOf_0 8 rfl rfl)
theorem dX0_pageOf_9 : decode cX0_pageOf 9 = .ok (.lastore, 1) := dk_80 (dk_at dksX0_pageOf_0 9 rfl rfl)
theorem dX0_pageOf_10 : decode cX0_pageOf 10 = .ok (.goto 7, 3) := dk_167 0 7 (dk_at dksX0_pageOf_0 10 rfl rfl)
theorem dX0_pageOf_13 : decode cX0_pageOf 13 = .ok (.astore 4, 2) := dk_58 4 (dk_at dksX0_pageOf_0 13 rfl rfl)
theorem dX0_pageOf_15 : decode cX0_pageOf 15 = .ok (.iconst 1, 1) := dk_4 (dk_at dksX0_pageOf_0 15 rfl rfl)
theorem dX0_pageOf_16 : decode cX0_pageOf 16 = .ok (.ireturn, 1) := dk_172 (dk_at dksX0_pageOf_0 16 rfl rfl)
theorem dX0_pageOf_17 : decode cX0_pageOf 17 = .ok (.iconst 0, 1) := dk_3 (dk_at dksX0_pageOf_0 17 rfl rfl)
theorem dX0_pageOf_18 : decode cX0_pageOf 18 = .ok (.ireturn, 1) := dk_172 (dk_at dksX0_pageOf_0 18 rfl rfl)
abbrev cX0_pageAnew : ByteArray := method_15_code
def yX0_pageAnew : MethodName := ⟨RX0, "pageAnew", "(LQuirefold;II[J)I"⟩
def dkwX0_pageAnew_0 : List UInt8 := [45, 3, 42, 27, 28, 182, 0, 59, 133, 80, 167, 0, 7, 58, 4, 4, 172, 3, 172]
abbrev dktX0_pageAnew_0 : List UInt8 := dkwX0_pageAnew_0 ++ []
theorem dksX0_pageAnew_0 : cX0_pageAnew.data.toList.drop 0 = dktX0_pageAnew_0 := by decide +kernel
theorem dX0_pageAnew_0 : decode cX0_pageAnew 0 = .ok (.aload_n 3, 1) := dk_45 (dk_at dksX0_pageAnew_0 0 rfl rfl)
theorem dX0_pageAnew_1 : decode cX0_pageAnew 1 = .ok (.iconst 0, 1) := dk_3 (dk_at dksX0_pageAnew_0 1 rfl rfl)
theorem dX0_pageAnew_2 : decode cX0_pageAnew 2 = .ok (.aload_n 0, 1) := dk_42 (dk_at dksX0_pageAnew_0 2 rfl rfl)
theorem dX0_pageAnew_3 : decode cX0_pageAnew 3 = .ok (.iload_n 1, 1) := dk_27 (dk_at dksX0_pageAnew_0 3 rfl rfl)
theorem dX0_pageAnew_4 : decode cX0_pageAnew 4 = .ok (.iload_n 2, 1) := dk_28 (dk_at dksX0_pageAnew_0 4 rfl rfl)
theorem dX0_pageAnew_5 : decode cX0_pageAnew 5 = .ok (.invokevirtual 59, 3) := dk_182 0 59 (dk_at dksX0_pageAnew_0 5 rfl rfl)
theorem dX0_pageAnew_8 : decode cX0_pageAnew 8 = .ok (.i2l, 1) := dk_133 (dk_at dksX0_pageAnew_0 8 rfl rfl)
theorem dX0_pageAnew_9 : decode cX0_pageAnew 9 = .ok (.lastore, 1) := dk_80 (dk_at dksX0_pageAnew_0 9 rfl rfl)
theorem dX0_pageAnew_10 : decode cX0_pageAnew 10 = .ok (.goto 7, 3) := dk_167 0 7 (dk_at dksX0_pageAnew_0 10 rfl rfl)
theorem dX0_pageAnew_13 : decode cX0_pageAnew 13 = .ok (.astore 4, 2) := dk_58 4 (dk_at dksX0_pageAnew_0 13 rfl rfl)
theorem dX0_pageAnew_15 : decode cX0_pageAnew 15 = .ok (.iconst 1, 1) := dk_4 (dk_at dksX0_pageAnew_0 15 rfl rfl)
theorem dX0_pageAnew_16 : decode cX0_pageAnew 16 = .ok (.ireturn, 1) := dk_172 (dk_at dksX0_pageAnew_0 16 rfl rfl)
theorem dX0_pageAnew_17 : decode cX0_pageAnew 17 = .ok (.iconst 0, 1) := dk_3 (dk_at dksX0_pageAnew_0 17 rfl rfl)
theorem dX0_pageAnew_18 : decode cX0_pageAnew 18 = .ok (.ireturn, 1) := dk_172 (dk_at dksX0_pageAnew_0 18 rfl rfl)
abbrev cX0_pages : ByteArray := method_16_code
def yX0_pages : MethodName := ⟨RX0, "pages", "(LQuirefold;I[J)I"⟩
def dkwX0_pages_0 : List UInt8 := [44, 3, 42, 27, 182, 0, 62, 133, 80, 167, 0, 6, 78, 4, 172, 3, 172]
abbrev dktX0_pages_0 : List UInt8 := dkwX0_pages_0 ++ []
theorem dksX0_pages_0 : cX0_pages.data.toList.drop 0 = dktX0_pages_0 := by decide +kernel
theorem dX0_pages_0 : decode cX0_pages 0 = .ok (.aload_n 2, 1) := dk_44 (dk_at dksX0_pages_0 0 rfl rfl)
theorem dX0_pages_1 : decode cX0_pages 1 = .ok (.iconst 0, 1) := dk_3 (dk_at dksX0_pages_0 1 rfl rfl)
theorem dX0_pages_2 : decode cX0_pages 2 = .ok (.aload_n 0, 1) := dk_42 (dk_at dksX0_pages_0 2 rfl rfl)
theorem dX0_pages_3 : decode cX0_pages 3 = .ok (.iload_n 1, 1) := dk_27 (dk_at dksX0_pages_0 3 rfl rfl)
theorem dX0_pages_4 : decode cX0_pages 4 = .ok (.invokevirtual 62, 3) := dk_182 0 62 (dk_at dksX0_pages_0 4 rfl rfl)
theorem dX0_pages_7 : decode cX0_pages 7 = .ok (.i2l, 1) := dk_133 (dk_at dksX0_pages_0 7 rfl rfl)
theorem dX0_pages_8 : decode cX0_pages 8 = .ok (.lastore, 1) := dk_80 (dk_at dksX0_pages_0 8 rfl rfl)
theorem dX0_pages_9 : decode cX0_pages 9 = .ok (.goto 6, 3) := dk_167 0 6 (dk_at dksX0_pages_0 9 rfl rfl)
theorem dX0_pages_12 : decode cX0_pages 12 = .ok (.astore_n 3, 1) := dk_78 (dk_at dksX0_pages_0 12 rfl rfl)
theorem dX0_pages_13 : decode cX0_pages 13 = .ok (.iconst 1, 1) := dk_4 (dk_at dksX0_pages_0 13 rfl rfl)
theorem dX0_pages_14 : decode cX0_pages 14 = .ok (.ireturn, 1) := dk_172 (dk_at dksX0_pages_0 14 rfl rfl)
theorem dX0_pages_15 : decode cX0_pages 15 = .ok (.iconst 0, 1) := dk_3 (dk_at dksX0_pages_0 15 rfl rfl)
theorem dX0_pages_16 : decode cX0_pages 16 = .ok (.ireturn, 1) := dk_172 (dk_at dksX0_pages_0 16 rfl rfl)
abbrev cX0_front : ByteArray := method_17_code
def yX0_front : MethodName := ⟨RX0, "front", "(LQuirefold;I[J)I"⟩
def dkwX0_front_0 : List UInt8 := [44, 3, 42, 27, 182, 0, 65, 133, 80, 167, 0, 6, 78, 4, 172, 3, 172]
abbrev dktX0_front_0 : List UInt8 := dkwX0_front_0 ++ []
theorem dksX0_front_0 : cX0_front.data.toList.drop 0 = dktX0_front_0 := by decide +kernel
theorem dX0_front_0 : decode cX0_front 0 = .ok (.aload_n 2, 1) := dk_44 (dk_at dksX0_front_0 0 rfl rfl)
theorem dX0_front_1 : decode cX0_front 1 = .ok (.iconst 0, 1) := dk_3 (dk_at dksX0_front_0 1 rfl rfl)
theorem dX0_front_2 : decode cX0_front 2 = .ok (.aload_n 0, 1) := dk_42 (dk_at dksX0_front_0 2 rfl rfl)
theorem dX0_front_3 : decode cX0_front 3 = .ok (.iload_n 1, 1) := dk_27 (dk_at dksX0_front_0 3 rfl rfl)
theorem dX0_front_4 : decode cX0_front 4 = .ok (.invokevirtual 65, 3) := dk_182 0 65 (dk_at dksX0_front_0 4 rfl rfl)
theorem dX0_front_7 : decode cX0_front 7 = .ok (.i2l, 1) := dk_133 (dk_at dksX0_front_0 7 rfl rfl)
theorem dX0_front_8 : decode cX0_front 8 = .ok (.lastore, 1) := dk_80 (dk_at dksX0_front_0 8 rfl rfl)
theorem dX0_front_9 : decode cX0_front 9 = .ok (.goto 6, 3) := dk_167 0 6 (dk_at dksX0_front_0 9 rfl rfl)
theorem dX0_front_12 : decode cX0_front 12 = .ok (.astore_n 3, 1) := dk_78 (dk_at dksX0_front_0 12 rfl rfl)
theorem dX0_front_13 : decode cX0_front 13 = .ok (.iconst 1, 1) := dk_4 (dk_at dksX0_front_0 13 rfl rfl)
theorem dX0_front_14 : decode cX0_front 14 = .ok (.ireturn, 1) := dk_172 (dk_at dksX0_front_0 14 rfl rfl)
theorem dX0_front_15 : decode cX0_front 15 = .ok (.iconst 0, 1) := dk_3 (dk_at dksX0_front_0 15 rfl rfl)
theorem dX0_front_16 : decode cX0_front 16 = .ok (.ireturn, 1) := dk_172 (dk_at dksX0_front_0 16 rfl rfl)
abbrev cX0_entry : ByteArray := method_18_code
def yX0_entry : MethodName := ⟨RX0, "entry", "(LQuirefold;II[J)I"⟩
def dkwX0_entry_0 : List UInt8 := [45, 3, 42, 27, 28, 182, 0, 68, 133, 80, 167, 0, 7, 58, 4, 4, 172, 3, 172]
abbrev dktX0_entry_0 : List UInt8 := dkwX0_entry_0 ++ []
theorem dksX0_entry_0 : cX0_entry.data.toList.drop 0 = dktX0_entry_0 := by decide +kernel
theorem dX0_entry_0 : decode cX0_entry 0 = .ok (.aload_n 3, 1) := dk_45 (dk_at dksX0_entry_0 0 rfl rfl)
theorem dX0_entry_1 : decode cX0_entry 1 = .ok (.iconst 0, 1) := dk_3 (dk_at dksX0_entry_0 1 rfl rfl)
theorem dX0_entry_2 : decode cX0_entry 2 = .ok (.aload_n 0, 1) := dk_42 (dk_at dksX0_entry_0 2 rfl rfl)
theorem dX0_entry_3 : decode cX0_entry 3 = .ok (.iload_n 1, 1) := dk_27 (dk_at dksX0_entry_0 3 rfl rfl)
theorem dX0_entry_4 : decode cX0_entry 4 = .ok (.iload_n 2, 1) := dk_28 (dk_at dksX0_entry_0 4 rfl rfl)
theorem dX0_entry_5 : decode cX0_entry 5 = .ok (.invokevirtual 68, 3) := dk_182 0 68 (dk_at dksX0_entry_0 5 rfl rfl)
theorem dX0_entry_8 : decode cX0_entry 8 = .ok (.i2l, 1) := dk_133 (dk_at dksX0_entry_0 8 rfl rfl)
theorem dX0_entry_9 : decode cX0_entry 9 = .ok (.lastore, 1) := dk_80 (dk_at dksX0_entry_0 9 rfl rfl)
theorem dX0_entry_10 : decode cX0_entry 10 = .ok (.goto 7, 3) := dk_167 0 7 (dk_at dksX0_entry_0 10 rfl rfl)
theorem dX0_entry_13 : decode cX0_entry 13 = .ok (.astore 4, 2) := dk_58 4 (dk_at dksX0_entry_0 13 rfl rfl)
theorem dX0_entry_15 : decode cX0_entry 15 = .ok (.iconst 1, 1) := dk_4 (dk_at dksX0_entry_0 15 rfl rfl)
theorem dX0_entry_16 : decode cX0_entry 16 = .ok (.ireturn, 1) := dk_172 (dk_at dksX0_entry_0 16 rfl rfl)
theorem dX0_entry_17 : decode cX0_entry 17 = .ok (.iconst 0, 1) := dk_3 (dk_at dksX0_entry_0 17 rfl rfl)
theorem dX0_entry_18 : decode cX0_entry 18 = .ok (.ireturn, 1) := dk_172 (dk_at dksX0_entry_0 18 rfl rfl)
abbrev cX0_index : ByteArray := method_19_code
def yX0_index : MethodName := ⟨RX0, "index", "(LQuirefold;III[J)I"⟩
def dkwX0_index_0 : List UInt8 := [25, 4, 3, 42, 27, 28, 29, 182, 0, 71, 133, 80, 167, 0, 7, 58, 5, 4, 172, 3, 172]
abbrev dktX0_index_0 : List UInt8 := dkwX0_index_0 ++ []
theorem dksX0_index_0 : cX0_index.data.toList.drop 0 = dktX0_index_0 := by decide +kernel
theorem dX0_index_0 : decode cX0_index 0 = .ok (.aload 4, 2) := dk_25 4 (dk_at dksX0_index_0 0 rfl rfl)
theorem dX0_index_2 : decode cX0_index 2 = .ok (.iconst 0, 1) := dk_3 (dk_at dksX0_index_0 2 rfl rfl)
theorem dX0_index_3 : decode cX0_index 3 = .ok (.aload_n 0, 1) := dk_42 (dk_at dksX0_index_0 3 rfl rfl)
theorem dX0_index_4 : decode cX0_index 4 = .ok (.iload_n 1, 1) := dk_27 (dk_at dksX0_index_0 4 rfl rfl)
theorem dX0_index_5 : decode cX0_index 5 = .ok (.iload_n 2, 1) := dk_28 (dk_at dksX0_index_0 5 rfl rfl)
theorem dX0_index_6 : decode cX0_index 6 = .ok (.iload_n 3, 1) := dk_29 (dk_at dksX0_index_0 6 rfl rfl)
theorem dX0_index_7 : decode cX0_index 7 = .ok (.invokevirtual 71, 3) := dk_182 0 71 (dk_at dksX0_index_0 7 rfl rfl)
theorem dX0_index_10 : decode cX0_index 10 = .ok (.i2l, 1) := dk_133 (dk_at dksX0_index_0 10 rfl rfl)
theorem dX0_index_11 : decode cX0_index 11 = .ok (.lastore, 1) := dk_80 (dk_at dksX0_index_0 11 rfl rfl)
theorem dX0_index_12 : decode cX0_index 12 = .ok (.goto 7, 3) := dk_167 0 7 (dk_at dksX0_index_0 12 rfl rfl)
theorem dX0_index_15 : decode cX0_index 15 = .ok (.astore 5, 2) := dk_58 5 (dk_at dksX0_index_0 15 rfl rfl)
theorem dX0_index_17 : decode cX0_index 17 = .ok (.iconst 1, 1) := dk_4 (dk_at dksX0_index_0 17 rfl rfl)
theorem dX0_index_18 : decode cX0_index 18 = .ok (.ireturn, 1) := dk_172 (dk_at dksX0_index_0 18 rfl rfl)
theorem dX0_index_19 : decode cX0_index 19 = .ok (.iconst 0, 1) := dk_3 (dk_at dksX0_index_0 19 rfl rfl)
theorem dX0_index_20 : decode cX0_index 20 = .ok (.ireturn, 1) := dk_172 (dk_at dksX0_index_0 20 rfl rfl)
abbrev cX0_sheet : ByteArray := method_20_code
def yX0_sheet : MethodName := ⟨RX0, "sheet", "(LQuirefold;II[J)I"⟩
def dkwX0_sheet_0 : List UInt8 := [45, 3, 42, 27, 28, 182, 0, 74, 133, 80, 167, 0, 7, 58, 4, 4, 172, 3, 172]
abbrev dktX0_sheet_0 : List UInt8 := dkwX0_sheet_0 ++ []
theorem dksX0_sheet_0 : cX0_sheet.data.toList.drop 0 = dktX0_sheet_0 := by decide +kernel
theorem dX0_sheet_0 : decode cX0_sheet 0 = .ok (.aload_n 3, 1) := dk_45 (dk_at dksX0_sheet_0 0 rfl rfl)
theorem dX0_sheet_1 : decode cX0_sheet 1 = .ok (.iconst 0, 1) := dk_3 (dk_at dksX0_sheet_0 1 rfl rfl)
theorem dX0_sheet_2 : decode cX0_sheet 2 = .ok (.aload_n 0, 1) := dk_42 (dk_at dksX0_sheet_0 2 rfl rfl)
theorem dX0_sheet_3 : decode cX0_sheet 3 = .ok (.iload_n 1, 1) := dk_27 (dk_at dksX0_sheet_0 3 rfl rfl)
theorem dX0_sheet_4 : decode cX0_sheet 4 = .ok (.iload_n 2, 1) := dk_28 (dk_at dksX0_sheet_0 4 rfl rfl)
theorem dX0_sheet_5 : decode cX0_sheet 5 = .ok (.invokevirtual 74, 3) := dk_182 0 74 (dk_at dksX0_sheet_0 5 rfl rfl)
theorem dX0_sheet_8 : decode cX0_sheet 8 = .ok (.i2l, 1) := dk_133 (dk_at dksX0_sheet_0 8 rfl rfl)
theorem dX0_sheet_9 : decode cX0_sheet 9 = .ok (.lastore, 1) := dk_80 (dk_at dksX0_sheet_0 9 rfl rfl)
theorem dX0_sheet_10 : decode cX0_sheet 10 = .ok (.goto 7, 3) := dk_167 0 7 (dk_at dksX0_sheet_0 10 rfl rfl)
theorem dX0_sheet_13 : decode cX0_sheet 13 = .ok (.astore 4, 2) := dk_58 4 (dk_at dksX0_sheet_0 13 rfl rfl)
theorem dX0_sheet_15 : decode cX0_sheet 15 = .ok (.iconst 1, 1) := dk_4 (dk_at dksX0_sheet_0 15 rfl rfl)
theorem dX0_sheet_16 : decode cX0_sheet 16 = .ok (.ireturn, 1) := dk_172 (dk_at dksX0_sheet_0 16 rfl rfl)
theorem dX0_sheet_17 : decode cX0_sheet 17 = .ok (.iconst 0, 1) := dk_3 (dk_at dksX0_sheet_0 17 rfl rfl)
theorem dX0_sheet_18 : decode cX0_sheet 18 = .ok (.ireturn, 1) := dk_172 (dk_at dksX0_sheet_0 18 rfl rfl)
abbrev cX0_plate : ByteArray := method_21_code
def yX0_plate : MethodName := ⟨RX0, "plate", "(LQuirefold;IIII[J)I"⟩
def dkwX0_plate_0 : List UInt8 := [25, 5, 3, 42, 27, 28, 29, 21, 4, 182, 0, 77, 133, 80, 167, 0, 7, 58, 6, 4, 172, 3, 172]
abbrev dktX0_plate_0 : List UInt8 := dkwX0_plate_0 ++ []
theorem dksX0_plate_0 : cX0_plate.data.toList.drop 0 = dktX0_plate_0 := by decide +kernel
theorem dX0_plate_0 : decode cX0_plate 0 = .ok (.aload 5, 2) := dk_25 5 (dk_at dksX0_plate_0 0 rfl rfl)
theorem dX0_plate_2 : decode cX0_plate 2 = .ok (.iconst 0, 1) := dk_3 (dk_at dksX0_plate_0 2 rfl rfl)
theorem dX0_plate_3 : decode cX0_plate 3 = .ok (.aload_n 0, 1) := dk_42 (dk_at dksX0_plate_0 3 rfl rfl)
theorem dX0_plate_4 : decode cX0_plate 4 = .ok (.iload_n 1, 1) := dk_27 (dk_at dksX0_plate_0 4 rfl rfl)
theorem dX0_plate_5 : decode cX0_plate 5 = .ok (.iload_n 2, 1) := dk_28 (dk_at dksX0_plate_0 5 rfl rfl)
theorem dX0_plate_6 : decode cX0_plate 6 = .ok (.iload_n 3, 1) := dk_29 (dk_at dksX0_plate_0 6 rfl rfl)
theorem dX0_plate_7 : decode cX0_plate 7 = .ok (.iload 4, 2) := dk_21 4 (dk_at dksX0_plate_0 7 rfl rfl)
theorem dX0_plate_9 : decode cX0_plate 9 = .ok (.invokevirtual 77, 3) := dk_182 0 77 (dk_at dksX0_plate_0 9 rfl rfl)
theorem dX0_plate_12 : decode cX0_plate 12 = .ok (.i2l, 1) := dk_133 (dk_at dksX0_plate_0 12 rfl rfl)
theorem dX0_plate_13 : decode cX0_plate 13 = .ok (.lastore, 1) := dk_80 (dk_at dksX0_plate_0 13 rfl rfl)
theorem dX0_plate_14 : decode cX0_plate 14 = .ok (.goto 7, 3) := dk_167 0 7 (dk_at dksX0_plate_0 14 rfl rfl)
theorem dX0_plate_17 : decode cX0_plate 17 = .ok (.astore 6, 2) := dk_58 6 (dk_at dksX0_plate_0 17 rfl rfl)
theorem dX0_plate_19 : decode cX0_plate 19 = .ok (.iconst 1, 1) := dk_4 (dk_at dksX0_plate_0 19 rfl rfl)
theorem dX0_plate_20 : decode cX0_plate 20 = .ok (.ireturn, 1) := dk_172 (dk_at dksX0_plate_0 20 rfl rfl)
theorem dX0_plate_21 : decode cX0_plate 21 = .ok (.iconst 0, 1) := dk_3 (dk_at dksX0_plate_0 21 rfl rfl)
theorem dX0_plate_22 : decode cX0_plate 22 = .ok (.ireturn, 1) := dk_172 (dk_at dksX0_plate_0 22 rfl rfl)
abbrev cX0_faults : ByteArray := method_22_code
def yX0_faults : MethodName := ⟨RX0, "faults", "(LQuirefold;II[J)I"⟩
def dkwX0_faults_0 : List UInt8 := [45, 3, 42, 27, 28, 182, 0, 80, 133, 80, 167, 0, 7, 58, 4, 4, 172, 3, 172]
abbrev dktX0_faults_0 : List UInt8 := dkwX0_faults_0 ++ []
theorem dksX0_faults_0 : cX0_faults.data.toList.drop 0 = dktX0_faults_0 := by decide +kernel
theorem dX0_faults_0 : decode cX0_faults 0 = .ok (.aload_n 3, 1) := dk_45 (dk_at dksX0_faults_0 0 rfl rfl)
theorem dX0_faults_1 : decode cX0_faults 1 = .ok (.iconst 0, 1) := dk_3 (dk_at dksX0_faults_0 1 rfl rfl)
theorem dX0_faults_2 : decode cX0_faults 2 = .ok (.aload_n 0, 1) := dk_42 (dk_at dksX0_faults_0 2 rfl rfl)
theorem dX0_faults_3 : decode cX0_faults 3 = .ok (.iload_n 1, 1) := dk_27 (dk_at dksX0_faults_0 3 rfl rfl)
theorem dX0_faults_4 : decode cX0_faults 4 = .ok (.iload_n 2, 1) := dk_28 (dk_at dksX0_faults_0 4 rfl rfl)
theorem dX0_faults_5 : decode cX0_faults 5 = .ok (.invokevirtual 80, 3) := dk_182 0 80 (dk_at dksX0_faults_0 5 rfl rfl)
theorem dX0_faults_8 : decode cX0_faults 8 = .ok (.i2l, 1) := dk_133 (dk_at dksX0_faults_0 8 rfl rfl)
theorem dX0_faults_9 : decode cX0_faults 9 = .ok (.lastore, 1) := dk_80 (dk_at dksX0_faults_0 9 rfl rfl)
theorem dX0_faults_10 : decode cX0_faults 10 = .ok (.goto 7, 3) := dk_167 0 7 (dk_at dksX0_faults_0 10 rfl rfl)
theorem dX0_faults_13 : decode cX0_faults 13 = .ok (.astore 4, 2) := dk_58 4 (dk_at dksX0_faults_0 13 rfl rfl)
theorem dX0_faults_15 : decode cX0_faults 15 = .ok (.iconst 1, 1) := dk_4 (dk_at dksX0_faults_0 15 rfl rfl)
theorem dX0_faults_16 : decode cX0_faults 16 = .ok (.ireturn, 1) := dk_172 (dk_at dksX0_faults_0 16 rfl rfl)
theorem dX0_faults_17 : decode cX0_faults 17 = .ok (.iconst 0, 1) := dk_3 (dk_at dksX0_faults_0 17 rfl rfl)
theorem dX0_faults_18 : decode cX0_faults 18 = .ok (.ireturn, 1) := dk_172 (dk_at dksX0_faults_0 18 rfl rfl)
abbrev cX0_isNew : ByteArray := method_23_code
def yX0_isNew : MethodName := ⟨RX0, "isNew", "(LQuirefold;II[J)I"⟩
def dkwX0_isNew_1 : List UInt8 := [3, 172]
abbrev dktX0_isNew_1 : List UInt8 := dkwX0_isNew_1 ++ []
def dkwX0_isNew_0 : List UInt8 := [45, 3, 42, 27, 28, 182, 0, 83, 153, 0, 7, 10, 167, 0, 4, 9, 80, 167, 0, 7, 58, 4, 4, 172]
abbrev dktX0_isNew_0 : List UInt8 := dkwX0_isNew_0 ++ dktX0_isNew_1
theorem dksX0_isNew_0 : cX0_isNew.data.toList.drop 0 = dktX0_isNew_0 := by decide +kernel
theorem dksX0_isNew_1 : cX0_isNew.data.toList.drop 24 = dktX0_isNew_1 := dk_seg dksX0_isNew_0 24 rfl rfl
theorem dX0_isNew_0 : decode cX0_isNew 0 = .ok (.aload_n 3, 1) := dk_45 (dk_at dksX0_isNew_0 0 rfl rfl)
theorem dX0_isNew_1 : decode cX0_isNew 1 = .ok (.iconst 0, 1) := dk_3 (dk_at dksX0_isNew_0 1 rfl rfl)
theorem dX0_isNew_2 : decode cX0_isNew 2 = .ok (.aload_n 0, 1) := dk_42 (dk_at dksX0_isNew_0 2 rfl rfl)
theorem dX0_isNew_3 : decode cX0_isNew 3 = .ok (.iload_n 1, 1) := dk_27 (dk_at dksX0_isNew_0 3 rfl rfl)
theorem dX0_isNew_4 : decode cX0_isNew 4 = .ok (.iload_n 2, 1) := dk_28 (dk_at dksX0_isNew_0 4 rfl rfl)
theorem dX0_isNew_5 : decode cX0_isNew 5 = .ok (.invokevirtual 83, 3) := dk_182 0 83 (dk_at dksX0_isNew_0 5 rfl rfl)
theorem dX0_isNew_8 : decode cX0_isNew 8 = .ok (.ifCond .eq 7, 3) := dk_153 0 7 (dk_at dksX0_isNew_0 8 rfl rfl)
theorem dX0_isNew_11 : decode cX0_isNew 11 = .ok (.lconst 1, 1) := dk_10 (dk_at dksX0_isNew_0 11 rfl rfl)
theorem dX0_isNew_12 : decode cX0_isNew 12 = .ok (.goto 4, 3) := dk_167 0 4 (dk_at dksX0_isNew_0 12 rfl rfl)
theorem dX0_isNew_15 : decode cX0_isNew 15 = .ok (.lconst 0, 1) := dk_9 (dk_at dksX0_isNew_0 15 rfl rfl)
theorem dX0_isNew_16 : decode cX0_isNew 16 = .ok (.lastore, 1) := dk_80 (dk_at dksX0_isNew_0 16 rfl rfl)
theorem dX0_isNew_17 : decode cX0_isNew 17 = .ok (.goto 7, 3) := dk_167 0 7 (dk_at dksX0_isNew_0 17 rfl rfl)
theorem dX0_isNew_20 : decode cX0_isNew 20 = .ok (.astore 4, 2) := dk_58 4 (dk_at dksX0_isNew_0 20 rfl rfl)
theorem dX0_isNew_22 : decode cX0_isNew 22 = .ok (.iconst 1, 1) := dk_4 (dk_at dksX0_isNew_0 22 rfl rfl)
theorem dX0_isNew_23 : decode cX0_isNew 23 = .ok (.ireturn, 1) := dk_172 (dk_at dksX0_isNew_0 23 rfl rfl)
theorem dX0_isNew_24 : decode cX0_isNew 24 = .ok (.iconst 0, 1) := dk_3 (dk_at dksX0_isNew_1 0 rfl rfl)
theorem dX0_isNew_25 : decode cX0_isNew 25 = .ok (.ireturn, 1) := dk_172 (dk_at dksX0_isNew_1 1 rfl rfl)
theorem q53 : (Jvm.Cond.initialized "QuirefoldLaw") ∈ lw_all := lw_g (lw_at lw_m1 0 rfl) rfl
theorem q85 : (Jvm.Cond.classLink "QuirefoldLaw" (8 : Nat) "Quirefold") ∈ lw_all := lw_g (lw_at lw_m1 32 rfl) rfl
theorem q87 : (Jvm.Cond.methodLink "QuirefoldLaw" (87 : Nat) ({ cls := "Quirefold", name := "<init>", desc := "()V" } : Jvm.MethodName)) ∈ lw_all := lw_g (lw_at lw_m1 34 rfl) rfl
theorem q187 : (Jvm.Cond.methodLink "QuirefoldLaw" (168 : Nat) ({ cls := "Quirefold", name := "tokens", desc := "()I" } : Jvm.MethodName)) ∈ lw_all := lw_g (lw_at lw_m1 134 rfl) rfl
theorem q201 : (Jvm.Cond.methodLink "QuirefoldLaw" (91 : Nat) ({ cls := "QuirefoldLaw", name := "put", desc := "(LQuirefold;IIII[J)I" } : Jvm.MethodName)) ∈ lw_all := lw_g (lw_at lw_m1 148 rfl) rfl
theorem q202 : (Jvm.Cond.static ({ cls := "QuirefoldLaw", name := "put", desc := "(LQuirefold;IIII[J)I" } : Jvm.MethodName)) ∈ lw_all := lw_g (lw_at lw_m1 149 rfl) rfl
theorem q203 : (Jvm.Cond.codeWith ({ cls := "QuirefoldLaw", name := "put", desc := "(LQuirefold;IIII[J)I" } : Jvm.MethodName) method_3_code (7 : Nat) (Option.some Jvm.ClassFile.FieldType.int) [((0 : Nat), (14 : Nat), (17 : Nat), (13 : Nat)), ((0 : Nat), (14 : Nat), (21 : Nat), (15 : Nat)), ((0 : Nat), (14 : Nat), (25 : Nat), (17 : Nat))]) ∈ lw_all := lw_g (lw_at lw_m1 150 rfl) rfl
theorem q204 : (Jvm.Cond.classLink "QuirefoldLaw" (13 : Nat) "java/lang/IndexOutOfBoundsException") ∈ lw_all := lw_g (lw_at lw_m1 151 rfl) rfl
theorem q281 : (Jvm.Cond.classLink "QuirefoldLaw" (15 : Nat) "java/lang/IllegalArgumentException") ∈ lw_all := lw_g (lw_at lw_m1 228 rfl) rfl
theorem q282 : (Jvm.Cond.classLink "QuirefoldLaw" (17 : Nat) "java/lang/IllegalStateException") ∈ lw_all := lw_g (lw_at lw_m1 229 rfl) rfl
theorem q283 : (Jvm.Cond.methodLink "QuirefoldLaw" (7 : Nat) ({ cls := "Quirefold", name := "put", desc := "(IIII)I" } : Jvm.MethodName)) ∈ lw_all := lw_g (lw_at lw_m1 230 rfl) rfl
theorem q678 : (Jvm.Cond.methodLink "QuirefoldLaw" (101 : Nat) ({ cls := "QuirefoldLaw", name := "take", desc := "(LQuirefold;I[J)I" } : Jvm.MethodName)) ∈ lw_all := lw_g (lw_at lw_m3 145 rfl) rfl
theorem q679 : (Jvm.Cond.static ({ cls := "QuirefoldLaw", name := "take", desc := "(LQuirefold;I[J)I" } : Jvm.MethodName)) ∈ lw_all := lw_g (lw_at lw_m3 146 rfl) rfl
theorem q680 : (Jvm.Cond.codeWith ({ cls := "QuirefoldLaw", name := "take", desc := "(LQuirefold;I[J)I" } : Jvm.MethodName) method_4_code (4 : Nat) (Option.some Jvm.ClassFile.FieldType.int) [((0 : Nat), (9 : Nat), (12 : Nat), (13 : Nat))]) ∈ lw_all := lw_g (lw_at lw_m3 147 rfl) rfl
theorem q681 : (Jvm.Cond.methodLink "QuirefoldLaw" (19 : Nat) ({ cls := "Quirefold", name := "take", desc := "(I)I" } : Jvm.MethodName)) ∈ lw_all := lw_g (lw_at lw_m3 148 rfl) rfl
theorem q705 : (Jvm.Cond.methodLink "QuirefoldLaw" (105 : Nat) ({ cls := "QuirefoldLaw", name := "style", desc := "(LQuirefold;IIII)I" } : Jvm.MethodName)) ∈ lw_all := lw_g (lw_at lw_m3 172 rfl) rfl
theorem q706 : (Jvm.Cond.static ({ cls := "QuirefoldLaw", name := "style", desc := "(LQuirefold;IIII)I" } : Jvm.MethodName)) ∈ lw_all := lw_g (lw_at lw_m3 173 rfl) rfl
theorem q707 : (Jvm.Cond.codeWith ({ cls := "QuirefoldLaw", name := "style", desc := "(LQuirefold;IIII)I" } : Jvm.MethodName) method_5_code (6 : Nat) (Option.some Jvm.ClassFile.FieldType.int) [((0 : Nat), (9 : Nat), (12 : Nat), (13 : Nat)), ((0 : Nat), (9 : Nat), (16 : Nat), (15 : Nat)), ((0 : Nat), (9 : Nat), (20 : Nat), (17 : Nat))]) ∈ lw_all := lw_g (lw_at lw_m3 174 rfl) rfl
theorem q708 : (Jvm.Cond.methodLink "QuirefoldLaw" (23 : Nat) ({ cls := "Quirefold", name := "style", desc := "(IIII)V" } : Jvm.MethodName)) ∈ lw_all := lw_g (lw_at lw_m3 175 rfl) rfl
theorem q714 : (Jvm.Cond.methodLink "QuirefoldLaw" (109 : Nat) ({ cls := "QuirefoldLaw", name := "data", desc := "(LQuirefold;III[J)I" } : Jvm.MethodName)) ∈ lw_all := lw_g (lw_at lw_m3 181 rfl) rfl
theorem q715 : (Jvm.Cond.static ({ cls := "QuirefoldLaw", name := "data", desc := "(LQuirefold;III[J)I" } : Jvm.MethodName)) ∈ lw_all := lw_g (lw_at lw_m3 182 rfl) rfl
theorem q716 : (Jvm.Cond.codeWith ({ cls := "QuirefoldLaw", name := "data", desc := "(LQuirefold;III[J)I" } : Jvm.MethodName) method_6_code (6 : Nat) (Option.some Jvm.ClassFile.FieldType.int) [((0 : Nat), (12 : Nat), (15 : Nat), (13 : Nat)), ((0 : Nat), (12 : Nat), (19 : Nat), (15 : Nat))]) ∈ lw_all := lw_g (lw_at lw_m3 183 rfl) rfl
theorem q717 : (Jvm.Cond.methodLink "QuirefoldLaw" (27 : Nat) ({ cls := "Quirefold", name := "data", desc := "(III)I" } : Jvm.MethodName)) ∈ lw_all := lw_g (lw_at lw_m3 184 rfl) rfl
theorem q723 : (Jvm.Cond.methodLink "QuirefoldLaw" (113 : Nat) ({ cls := "QuirefoldLaw", name := "grid", desc := "(LQuirefold;III)I" } : Jvm.MethodName)) ∈ lw_all := lw_g (lw_at lw_m3 190 rfl) rfl
theorem q724 : (Jvm.Cond.static ({ cls := "QuirefoldLaw", name := "grid", desc := "(LQuirefold;III)I" } : Jvm.MethodName)) ∈ lw_all := lw_g (lw_at lw_m3 191 rfl) rfl
theorem q725 : (Jvm.Cond.codeWith ({ cls := "QuirefoldLaw", name := "grid", desc := "(LQuirefold;III)I" } : Jvm.MethodName) method_7_code (5 : Nat) (Option.some Jvm.ClassFile.FieldType.int) [((0 : Nat), (7 : Nat), (10 : Nat), (15 : Nat))]) ∈ lw_all := lw_g (lw_at lw_m3 192 rfl) rfl
theorem q726 : (Jvm.Cond.methodLink "QuirefoldLaw" (31 : Nat) ({ cls := "Quirefold", name := "grid", desc := "(III)V" } : Jvm.MethodName)) ∈ lw_all := lw_g (lw_at lw_m3 193 rfl) rfl
theorem q730 : (Jvm.Cond.methodLink "QuirefoldLaw" (117 : Nat) ({ cls := "QuirefoldLaw", name := "see", desc := "(LQuirefold;II[J)I" } : Jvm.MethodName)) ∈ lw_all := lw_g (lw_at lw_m3 197 rfl) rfl
theorem q731 : (Jvm.Cond.static ({ cls := "QuirefoldLaw", name := "see", desc := "(LQuirefold;II[J)I" } : Jvm.MethodName)) ∈ lw_all := lw_g (lw_at lw_m3 198 rfl) rfl
theorem q732 : (Jvm.Cond.codeWith ({ cls := "QuirefoldLaw", name := "see", desc := "(LQuirefold;II[J)I" } : Jvm.MethodName) method_8_code (5 : Nat) (Option.some Jvm.ClassFile.FieldType.int) [((0 : Nat), (10 : Nat), (13 : Nat), (13 : Nat)), ((0 : Nat), (10 : Nat), (17 : Nat), (17 : Nat))]) ∈ lw_all := lw_g (lw_at lw_m3 199 rfl) rfl
theorem q733 : (Jvm.Cond.methodLink "QuirefoldLaw" (35 : Nat) ({ cls := "Quirefold", name := "see", desc := "(II)I" } : Jvm.MethodName)) ∈ lw_all := lw_g (lw_at lw_m3 200 rfl) rfl
theorem q739 : (Jvm.Cond.methodLink "QuirefoldLaw" (121 : Nat) ({ cls := "QuirefoldLaw", name := "fold", desc := "(LQuirefold;II)I" } : Jvm.MethodName)) ∈ lw_all := lw_g (lw_at lw_m3 206 rfl) rfl
theorem q740 : (Jvm.Cond.static ({ cls := "QuirefoldLaw", name := "fold", desc := "(LQuirefold;II)I" } : Jvm.MethodName)) ∈ lw_all := lw_g (lw_at lw_m3 207 rfl) rfl
theorem q741 : (Jvm.Cond.codeWith ({ cls := "QuirefoldLaw", name := "fold", desc := "(LQuirefold;II)I" } : Jvm.MethodName) method_9_code (4 : Nat) (Option.some Jvm.ClassFile.FieldType.int) [((0 : Nat), (6 : Nat), (9 : Nat), (15 : Nat))]) ∈ lw_all := lw_g (lw_at lw_m3 208 rfl) rfl
theorem q742 : (Jvm.Cond.methodLink "QuirefoldLaw" (39 : Nat) ({ cls := "Quirefold", name := "fold", desc := "(II)V" } : Jvm.MethodName)) ∈ lw_all := lw_g (lw_at lw_m3 209 rfl) rfl
theorem q748 : (Jvm.Cond.methodLink "QuirefoldLaw" (125 : Nat) ({ cls := "QuirefoldLaw", name := "keep", desc := "(LQuirefold;I[J)I" } : Jvm.MethodName)) ∈ lw_all := lw_g (lw_at lw_m3 215 rfl) rfl
theorem q749 : (Jvm.Cond.static ({ cls := "QuirefoldLaw", name := "keep", desc := "(LQuirefold;I[J)I" } : Jvm.MethodName)) ∈ lw_all := lw_g (lw_at lw_m3 216 rfl) rfl
theorem q750 : (Jvm.Cond.codeWith ({ cls := "QuirefoldLaw", name := "keep", desc := "(LQuirefold;I[J)I" } : Jvm.MethodName) method_10_code (4 : Nat) (Option.some Jvm.ClassFile.FieldType.int) [((0 : Nat), (9 : Nat), (12 : Nat), (13 : Nat))]) ∈ lw_all := lw_g (lw_at lw_m3 217 rfl) rfl
theorem q751 : (Jvm.Cond.methodLink "QuirefoldLaw" (43 : Nat) ({ cls := "Quirefold", name := "keep", desc := "(I)I" } : Jvm.MethodName)) ∈ lw_all := lw_g (lw_at lw_m3 218 rfl) rfl
theorem q1032 : (Jvm.Cond.methodLink "QuirefoldLaw" (128 : Nat) ({ cls := "QuirefoldLaw", name := "lines", desc := "(LQuirefold;I[J)I" } : Jvm.MethodName)) ∈ lw_all := lw_g (lw_at lw_m5 19 rfl) rfl
theorem q1033 : (Jvm.Cond.static ({ cls := "QuirefoldLaw", name := "lines", desc := "(LQuirefold;I[J)I" } : Jvm.MethodName)) ∈ lw_all := lw_g (lw_at lw_m5 20 rfl) rfl
theorem q1034 : (Jvm.Cond.codeWith ({ cls := "QuirefoldLaw", name := "lines", desc := "(LQuirefold;I[J)I" } : Jvm.MethodName) method_11_code (4 : Nat) (Option.some Jvm.ClassFile.FieldType.int) [((0 : Nat), (9 : Nat), (12 : Nat), (13 : Nat))]) ∈ lw_all := lw_g (lw_at lw_m5 21 rfl) rfl
theorem q1035 : (Jvm.Cond.methodLink "QuirefoldLaw" (46 : Nat) ({ cls := "Quirefold", name := "lines", desc := "(I)I" } : Jvm.MethodName)) ∈ lw_all := lw_g (lw_at lw_m5 22 rfl) rfl
theorem q1039 : (Jvm.Cond.methodLink "QuirefoldLaw" (131 : Nat) ({ cls := "QuirefoldLaw", name := "lineOf", desc := "(LQuirefold;II[J)I" } : Jvm.MethodName)) ∈ lw_all := lw_g (lw_at lw_m5 26 rfl) rfl
theorem q1040 : (Jvm.Cond.static ({ cls := "QuirefoldLaw", name := "lineOf", desc := "(LQuirefold;II[J)I" } : Jvm.MethodName)) ∈ lw_all := lw_g (lw_at lw_m5 27 rfl) rfl
theorem q1041 : (Jvm.Cond.codeWith ({ cls := "QuirefoldLaw", name := "lineOf", desc := "(LQuirefold;II[J)I" } : Jvm.MethodName) method_12_code (5 : Nat) (Option.some Jvm.ClassFile.FieldType.int) [((0 : Nat), (10 : Nat), (13 : Nat), (13 : Nat))]) ∈ lw_all := lw_g (lw_at lw_m5 28 rfl) rfl
theorem q1042 : (Jvm.Cond.methodLink "QuirefoldLaw" (49 : Nat) ({ cls := "Quirefold", name := "lineOf", desc := "(II)I" } : Jvm.MethodName)) ∈ lw_all := lw_g (lw_at lw_m5 29 rfl) rfl
theorem q1046 : (Jvm.Cond.methodLink "QuirefoldLaw" (134 : Nat) ({ cls := "QuirefoldLaw", name := "columnOf", desc := "(LQuirefold;IZI[J)I" } : Jvm.MethodName)) ∈ lw_all := lw_g (lw_at lw_m5 33 rfl) rfl
theorem q1047 : (Jvm.Cond.static ({ cls := "QuirefoldLaw", name := "columnOf", desc := "(LQuirefold;IZI[J)I" } : Jvm.MethodName)) ∈ lw_all := lw_g (lw_at lw_m5 34 rfl) rfl
theorem q1048 : (Jvm.Cond.codeWith ({ cls := "QuirefoldLaw", name := "columnOf", desc := "(LQuirefold;IZI[J)I" } : Jvm.MethodName) method_13_code (6 : Nat) (Option.some Jvm.ClassFile.FieldType.int) [((0 : Nat), (12 : Nat), (15 : Nat), (13 : Nat))]) ∈ lw_all := lw_g (lw_at lw_m5 35 rfl) rfl
theorem q1049 : (Jvm.Cond.methodLink "QuirefoldLaw" (52 : Nat) ({ cls := "Quirefold", name := "columnOf", desc := "(IZI)I" } : Jvm.MethodName)) ∈ lw_all := lw_g (lw_at lw_m5 36 rfl) rfl
theorem q1058 : (Jvm.Cond.methodLink "QuirefoldLaw" (138 : Nat) ({ cls := "QuirefoldLaw", name := "pageOf", desc := "(LQuirefold;II[J)I" } : Jvm.MethodName)) ∈ lw_all := lw_g (lw_at lw_m5 45 rfl) rfl
theorem q1059 : (Jvm.Cond.static ({ cls := "QuirefoldLaw", name := "pageOf", desc := "(LQuirefold;II[J)I" } : Jvm.MethodName)) ∈ lw_all := lw_g (lw_at lw_m5 46 rfl) rfl
theorem q1060 : (Jvm.Cond.codeWith ({ cls := "QuirefoldLaw", name := "pageOf", desc := "(LQuirefold;II[J)I" } : Jvm.MethodName) method_14_code (5 : Nat) (Option.some Jvm.ClassFile.FieldType.int) [((0 : Nat), (10 : Nat), (13 : Nat), (13 : Nat))]) ∈ lw_all := lw_g (lw_at lw_m5 47 rfl) rfl
theorem q1061 : (Jvm.Cond.methodLink "QuirefoldLaw" (56 : Nat) ({ cls := "Quirefold", name := "pageOf", desc := "(II)I" } : Jvm.MethodName)) ∈ lw_all := lw_g (lw_at lw_m5 48 rfl) rfl
theorem q1073 : (Jvm.Cond.methodLink "QuirefoldLaw" (141 : Nat) ({ cls := "QuirefoldLaw", name := "pageAnew", desc := "(LQuirefold;II[J)I" } : Jvm.MethodName)) ∈ lw_all := lw_g (lw_at lw_m5 60 rfl) rfl
theorem q1074 : (Jvm.Cond.static ({ cls := "QuirefoldLaw", name := "pageAnew", desc := "(LQuirefold;II[J)I" } : Jvm.MethodName)) ∈ lw_all := lw_g (lw_at lw_m5 61 rfl) rfl
theorem q1075 : (Jvm.Cond.codeWith ({ cls := "QuirefoldLaw", name := "pageAnew", desc := "(LQuirefold;II[J)I" } : Jvm.MethodName) method_15_code (5 : Nat) (Option.some Jvm.ClassFile.FieldType.int) [((0 : Nat), (10 : Nat), (13 : Nat), (13 : Nat))]) ∈ lw_all := lw_g (lw_at lw_m5 62 rfl) rfl
theorem q1076 : (Jvm.Cond.methodLink "QuirefoldLaw" (59 : Nat) ({ cls := "Quirefold", name := "pageAnew", desc := "(II)I" } : Jvm.MethodName)) ∈ lw_all := lw_g (lw_at lw_m5 63 rfl) rfl
theorem q1080 : (Jvm.Cond.methodLink "QuirefoldLaw" (144 : Nat) ({ cls := "QuirefoldLaw", name := "pages", desc := "(LQuirefold;I[J)I" } : Jvm.MethodName)) ∈ lw_all := lw_g (lw_at lw_m5 67 rfl) rfl
theorem q1081 : (Jvm.Cond.static ({ cls := "QuirefoldLaw", name := "pages", desc := "(LQuirefold;I[J)I" } : Jvm.MethodName)) ∈ lw_all := lw_g (lw_at lw_m5 68 rfl) rfl
theorem q1082 : (Jvm.Cond.codeWith ({ cls := "QuirefoldLaw", name := "pages", desc := "(LQuirefold;I[J)I" } : Jvm.MethodName) method_16_code (4 : Nat) (Option.some Jvm.ClassFile.FieldType.int) [((0 : Nat), (9 : Nat), (12 : Nat), (13 : Nat))]) ∈ lw_all := lw_g (lw_at lw_m5 69 rfl) rfl
theorem q1083 : (Jvm.Cond.methodLink "QuirefoldLaw" (62 : Nat) ({ cls := "Quirefold", name := "pages", desc := "(I)I" } : Jvm.MethodName)) ∈ lw_all := lw_g (lw_at lw_m5 70 rfl) rfl
theorem q1091 : (Jvm.Cond.methodLink "QuirefoldLaw" (147 : Nat) ({ cls := "QuirefoldLaw", name := "front", desc := "(LQuirefold;I[J)I" } : Jvm.MethodName)) ∈ lw_all := lw_g (lw_at lw_m5 78 rfl) rfl
theorem q1092 : (Jvm.Cond.static ({ cls := "QuirefoldLaw", name := "front", desc := "(LQuirefold;I[J)I" } : Jvm.MethodName)) ∈ lw_all := lw_g (lw_at lw_m5 79 rfl) rfl
theorem q1093 : (Jvm.Cond.codeWith ({ cls := "QuirefoldLaw", name := "front", desc := "(LQuirefold;I[J)I" } : Jvm.MethodName) method_17_code (4 : Nat) (Option.some Jvm.ClassFile.FieldType.int) [((0 : Nat), (9 : Nat), (12 : Nat), (13 : Nat))]) ∈ lw_all := lw_g (lw_at lw_m5 80 rfl) rfl
theorem q1094 : (Jvm.Cond.methodLink "QuirefoldLaw" (65 : Nat) ({ cls := "Quirefold", name := "front", desc := "(I)I" } : Jvm.MethodName)) ∈ lw_all := lw_g (lw_at lw_m5 81 rfl) rfl
theorem q1098 : (Jvm.Cond.methodLink "QuirefoldLaw" (150 : Nat) ({ cls := "QuirefoldLaw", name := "entry", desc := "(LQuirefold;II[J)I" } : Jvm.MethodName)) ∈ lw_all := lw_g (lw_at lw_m5 85 rfl) rfl
theorem q1099 : (Jvm.Cond.static ({ cls := "QuirefoldLaw", name := "entry", desc := "(LQuirefold;II[J)I" } : Jvm.MethodName)) ∈ lw_all := lw_g (lw_at lw_m5 86 rfl) rfl
theorem q1100 : (Jvm.Cond.codeWith ({ cls := "QuirefoldLaw", name := "entry", desc := "(LQuirefold;II[J)I" } : Jvm.MethodName) method_18_code (5 : Nat) (Option.some Jvm.ClassFile.FieldType.int) [((0 : Nat), (10 : Nat), (13 : Nat), (13 : Nat))]) ∈ lw_all := lw_g (lw_at lw_m5 87 rfl) rfl
theorem q1101 : (Jvm.Cond.methodLink "QuirefoldLaw" (68 : Nat) ({ cls := "Quirefold", name := "entry", desc := "(II)I" } : Jvm.MethodName)) ∈ lw_all := lw_g (lw_at lw_m5 88 rfl) rfl
theorem q1106 : (Jvm.Cond.methodLink "QuirefoldLaw" (153 : Nat) ({ cls := "QuirefoldLaw", name := "index", desc := "(LQuirefold;III[J)I" } : Jvm.MethodName)) ∈ lw_all := lw_g (lw_at lw_m5 93 rfl) rfl
theorem q1107 : (Jvm.Cond.static ({ cls := "QuirefoldLaw", name := "index", desc := "(LQuirefold;III[J)I" } : Jvm.MethodName)) ∈ lw_all := lw_g (lw_at lw_m5 94 rfl) rfl
theorem q1108 : (Jvm.Cond.codeWith ({ cls := "QuirefoldLaw", name := "index", desc := "(LQuirefold;III[J)I" } : Jvm.MethodName) method_19_code (6 : Nat) (Option.some Jvm.ClassFile.FieldType.int) [((0 : Nat), (12 : Nat), (15 : Nat), (13 : Nat))]) ∈ lw_all := lw_g (lw_at lw_m5 95 rfl) rfl
theorem q1109 : (Jvm.Cond.methodLink "QuirefoldLaw" (71 : Nat) ({ cls := "Quirefold", name := "index", desc := "(III)I" } : Jvm.MethodName)) ∈ lw_all := lw_g (lw_at lw_m5 96 rfl) rfl
theorem q1127 : (Jvm.Cond.methodLink "QuirefoldLaw" (156 : Nat) ({ cls := "QuirefoldLaw", name := "sheet", desc := "(LQuirefold;II[J)I" } : Jvm.MethodName)) ∈ lw_all := lw_g (lw_at lw_m5 114 rfl) rfl
theorem q1128 : (Jvm.Cond.static ({ cls := "QuirefoldLaw", name := "sheet", desc := "(LQuirefold;II[J)I" } : Jvm.MethodName)) ∈ lw_all := lw_g (lw_at lw_m5 115 rfl) rfl
theorem q1129 : (Jvm.Cond.codeWith ({ cls := "QuirefoldLaw", name := "sheet", desc := "(LQuirefold;II[J)I" } : Jvm.MethodName) method_20_code (5 : Nat) (Option.some Jvm.ClassFile.FieldType.int) [((0 : Nat), (10 : Nat), (13 : Nat), (13 : Nat))]) ∈ lw_all := lw_g (lw_at lw_m5 116 rfl) rfl
theorem q1130 : (Jvm.Cond.methodLink "QuirefoldLaw" (74 : Nat) ({ cls := "Quirefold", name := "sheet", desc := "(II)I" } : Jvm.MethodName)) ∈ lw_all := lw_g (lw_at lw_m5 117 rfl) rfl
theorem q1141 : (Jvm.Cond.methodLink "QuirefoldLaw" (159 : Nat) ({ cls := "QuirefoldLaw", name := "plate", desc := "(LQuirefold;IIII[J)I" } : Jvm.MethodName)) ∈ lw_all := lw_g (lw_at lw_m5 128 rfl) rfl
theorem q1142 : (Jvm.Cond.static ({ cls := "QuirefoldLaw", name := "plate", desc := "(LQuirefold;IIII[J)I" } : Jvm.MethodName)) ∈ lw_all := lw_g (lw_at lw_m5 129 rfl) rfl
theorem q1143 : (Jvm.Cond.codeWith ({ cls := "QuirefoldLaw", name := "plate", desc := "(LQuirefold;IIII[J)I" } : Jvm.MethodName) method_21_code (7 : Nat) (Option.some Jvm.ClassFile.FieldType.int) [((0 : Nat), (14 : Nat), (17 : Nat), (13 : Nat))]) ∈ lw_all := lw_g (lw_at lw_m5 130 rfl) rfl
theorem q1144 : (Jvm.Cond.methodLink "QuirefoldLaw" (77 : Nat) ({ cls := "Quirefold", name := "plate", desc := "(IIII)I" } : Jvm.MethodName)) ∈ lw_all := lw_g (lw_at lw_m5 131 rfl) rfl
theorem q1158 : (Jvm.Cond.methodLink "QuirefoldLaw" (162 : Nat) ({ cls := "QuirefoldLaw", name := "faults", desc := "(LQuirefold;II[J)I" } : Jvm.MethodName)) ∈ lw_all := lw_g (lw_at lw_m5 145 rfl) rfl
theorem q1159 : (Jvm.Cond.static ({ cls := "QuirefoldLaw", name := "faults", desc := "(LQuirefold;II[J)I" } : Jvm.MethodName)) ∈ lw_all := lw_g (lw_at lw_m5 146 rfl) rfl
theorem q1160 : (Jvm.Cond.codeWith ({ cls := "QuirefoldLaw", name := "faults", desc := "(LQuirefold;II[J)I" } : Jvm.MethodName) method_22_code (5 : Nat) (Option.some Jvm.ClassFile.FieldType.int) [((0 : Nat), (10 : Nat), (13 : Nat), (13 : Nat))]) ∈ lw_all := lw_g (lw_at lw_m5 147 rfl) rfl
theorem q1161 : (Jvm.Cond.methodLink "QuirefoldLaw" (80 : Nat) ({ cls := "Quirefold", name := "faults", desc := "(II)I" } : Jvm.MethodName)) ∈ lw_all := lw_g (lw_at lw_m5 148 rfl) rfl
theorem q1173 : (Jvm.Cond.methodLink "QuirefoldLaw" (165 : Nat) ({ cls := "QuirefoldLaw", name := "isNew", desc := "(LQuirefold;II[J)I" } : Jvm.MethodName)) ∈ lw_all := lw_g (lw_at lw_m5 160 rfl) rfl
theorem q1174 : (Jvm.Cond.static ({ cls := "QuirefoldLaw", name := "isNew", desc := "(LQuirefold;II[J)I" } : Jvm.MethodName)) ∈ lw_all := lw_g (lw_at lw_m5 161 rfl) rfl
theorem q1175 : (Jvm.Cond.codeWith ({ cls := "QuirefoldLaw", name := "isNew", desc := "(LQuirefold;II[J)I" } : Jvm.MethodName) method_23_code (5 : Nat) (Option.some Jvm.ClassFile.FieldType.int) [((0 : Nat), (17 : Nat), (20 : Nat), (13 : Nat))]) ∈ lw_all := lw_g (lw_at lw_m5 162 rfl) rfl
theorem q1176 : (Jvm.Cond.methodLink "QuirefoldLaw" (83 : Nat) ({ cls := "Quirefold", name := "isNew", desc := "(II)Z" } : Jvm.MethodName)) ∈ lw_all := lw_g (lw_at lw_m5 163 rfl) rfl
theorem q1186 : (Jvm.Cond.classLink "QuirefoldLaw" (88 : Nat) "QuirefoldModel") ∈ lw_all := lw_g (lw_at lw_m5 173 rfl) rfl
theorem q1188 : (Jvm.Cond.methodLink "QuirefoldLaw" (90 : Nat) ({ cls := "QuirefoldModel", name := "<init>", desc := "()V" } : Jvm.MethodName)) ∈ lw_all := lw_g (lw_at lw_m5 175 rfl) rfl
theorem q1308 : (Jvm.Cond.methodLink "QuirefoldLaw" (97 : Nat) ({ cls := "QuirefoldModel", name := "thrown", desc := "()I" } : Jvm.MethodName)) ∈ lw_all := lw_g (lw_at lw_m6 55 rfl) rfl
theorem q1312 : (Jvm.Cond.methodLink "QuirefoldLaw" (96 : Nat) ({ cls := "QuirefoldModel", name := "put", desc := "(IIII)I" } : Jvm.MethodName)) ∈ lw_all := lw_g (lw_at lw_m6 59 rfl) rfl
theorem q1332 : (Jvm.Cond.methodLink "QuirefoldLaw" (104 : Nat) ({ cls := "QuirefoldModel", name := "take", desc := "(I)I" } : Jvm.MethodName)) ∈ lw_all := lw_g (lw_at lw_m6 79 rfl) rfl
theorem q1336 : (Jvm.Cond.methodLink "QuirefoldLaw" (108 : Nat) ({ cls := "QuirefoldModel", name := "style", desc := "(IIII)V" } : Jvm.MethodName)) ∈ lw_all := lw_g (lw_at lw_m6 83 rfl) rfl
theorem q1341 : (Jvm.Cond.methodLink "QuirefoldLaw" (112 : Nat) ({ cls := "QuirefoldModel", name := "data", desc := "(III)I" } : Jvm.MethodName)) ∈ lw_all := lw_g (lw_at lw_m6 88 rfl) rfl
theorem q1345 : (Jvm.Cond.methodLink "QuirefoldLaw" (116 : Nat) ({ cls := "QuirefoldModel", name := "grid", desc := "(III)V" } : Jvm.MethodName)) ∈ lw_all := lw_g (lw_at lw_m6 92 rfl) rfl
theorem q1351 : (Jvm.Cond.methodLink "QuirefoldLaw" (120 : Nat) ({ cls := "QuirefoldModel", name := "see", desc := "(II)I" } : Jvm.MethodName)) ∈ lw_all := lw_g (lw_at lw_m6 98 rfl) rfl
theorem q1355 : (Jvm.Cond.methodLink "QuirefoldLaw" (124 : Nat) ({ cls := "QuirefoldModel", name := "fold", desc := "(II)V" } : Jvm.MethodName)) ∈ lw_all := lw_g (lw_at lw_m6 102 rfl) rfl
theorem q1359 : (Jvm.Cond.methodLink "QuirefoldLaw" (127 : Nat) ({ cls := "QuirefoldModel", name := "keep", desc := "(I)I" } : Jvm.MethodName)) ∈ lw_all := lw_g (lw_at lw_m6 106 rfl) rfl
theorem q1395 : (Jvm.Cond.methodLink "QuirefoldLaw" (130 : Nat) ({ cls := "QuirefoldModel", name := "lines", desc := "(I)I" } : Jvm.MethodName)) ∈ lw_all := lw_g (lw_at lw_m6 142 rfl) rfl
theorem q1399 : (Jvm.Cond.methodLink "QuirefoldLaw" (133 : Nat) ({ cls := "QuirefoldModel", name := "lineOf", desc := "(II)I" } : Jvm.MethodName)) ∈ lw_all := lw_g (lw_at lw_m6 146 rfl) rfl
theorem q1403 : (Jvm.Cond.methodLink "QuirefoldLaw" (137 : Nat) ({ cls := "QuirefoldModel", name := "columnOf", desc := "(IZI)I" } : Jvm.MethodName)) ∈ lw_all := lw_g (lw_at lw_m6 150 rfl) rfl
theorem q1450 : (Jvm.Cond.methodLink "QuirefoldLaw" (140 : Nat) ({ cls := "QuirefoldModel", name := "pageOf", desc := "(II)I" } : Jvm.MethodName)) ∈ lw_all := lw_g (lw_at lw_m6 197 rfl) rfl
theorem q1458 : (Jvm.Cond.methodLink "QuirefoldLaw" (143 : Nat) ({ cls := "QuirefoldModel", name := "pageAnew", desc := "(II)I" } : Jvm.MethodName)) ∈ lw_all := lw_g (lw_at lw_m6 205 rfl) rfl
theorem q1463 : (Jvm.Cond.methodLink "QuirefoldLaw" (146 : Nat) ({ cls := "QuirefoldModel", name := "pages", desc := "(I)I" } : Jvm.MethodName)) ∈ lw_all := lw_g (lw_at lw_m6 210 rfl) rfl
theorem q1467 : (Jvm.Cond.methodLink "QuirefoldLaw" (149 : Nat) ({ cls := "QuirefoldModel", name := "front", desc := "(I)I" } : Jvm.MethodName)) ∈ lw_all := lw_g (lw_at lw_m6 214 rfl) rfl
theorem q1471 : (Jvm.Cond.methodLink "QuirefoldLaw" (152 : Nat) ({ cls := "QuirefoldModel", name := "entry", desc := "(II)I" } : Jvm.MethodName)) ∈ lw_all := lw_g (lw_at lw_m6 218 rfl) rfl
theorem q1475 : (Jvm.Cond.methodLink "QuirefoldLaw" (155 : Nat) ({ cls := "QuirefoldModel", name := "index", desc := "(III)I" } : Jvm.MethodName)) ∈ lw_all := lw_g (lw_at lw_m6 222 rfl) rfl
theorem q1487 : (Jvm.Cond.methodLink "QuirefoldLaw" (158 : Nat) ({ cls := "QuirefoldModel", name := "sheet", desc := "(II)I" } : Jvm.MethodName)) ∈ lw_all := lw_g (lw_at lw_m6 234 rfl) rfl
theorem q1504 : (Jvm.Cond.methodLink "QuirefoldLaw" (161 : Nat) ({ cls := "QuirefoldModel", name := "plate", desc := "(IIII)I" } : Jvm.MethodName)) ∈ lw_all := lw_g (lw_at lw_m7 11 rfl) rfl
theorem q1509 : (Jvm.Cond.methodLink "QuirefoldLaw" (164 : Nat) ({ cls := "QuirefoldModel", name := "faults", desc := "(II)I" } : Jvm.MethodName)) ∈ lw_all := lw_g (lw_at lw_m7 16 rfl) rfl
theorem q1517 : (Jvm.Cond.methodLink "QuirefoldLaw" (167 : Nat) ({ cls := "QuirefoldModel", name := "isNew", desc := "(II)Z" } : Jvm.MethodName)) ∈ lw_all := lw_g (lw_at lw_m7 24 rfl) rfl
theorem q1533 : (Jvm.Cond.methodLink "QuirefoldLaw" (171 : Nat) ({ cls := "QuirefoldModel", name := "tokens", desc := "()I" } : Jvm.MethodName)) ∈ lw_all := lw_g (lw_at lw_m7 40 rfl) rfl
