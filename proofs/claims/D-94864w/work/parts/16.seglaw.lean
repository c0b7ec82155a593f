set_option maxRecDepth 100000
abbrev cL_law : ByteArray := code
/-! TwoTonguesLaw.law ([I)Z -/
def dkwL_law_50 : List UInt8 := [44, 42, 21, 4, 4, 96, 46, 182, 0, 160, 159, 0, 5, 3, 172, 132, 4, 6, 167, 250, 249, 4, 172]
abbrev dktL_law_50 : List UInt8 := dkwL_law_50 ++ []
def dkwL_law_49 : List UInt8 := [172, 43, 182, 0, 153, 44, 182, 0, 156, 159, 0, 30, 3, 172, 43, 42, 21, 4, 4, 96, 46, 182, 0, 157]
abbrev dktL_law_49 : List UInt8 := dkwL_law_49 ++ dktL_law_50
def dkwL_law_48 : List UInt8 := [182, 0, 145, 44, 182, 0, 148, 159, 0, 56, 3, 172, 43, 182, 0, 149, 44, 182, 0, 152, 159, 0, 43, 3]
abbrev dktL_law_48 : List UInt8 := dkwL_law_48 ++ dktL_law_49
def dkwL_law_47 : List UInt8 := [44, 42, 21, 4, 4, 96, 46, 42, 21, 4, 5, 96, 46, 182, 0, 144, 159, 0, 69, 3, 172, 43]
abbrev dktL_law_47 : List UInt8 := dkwL_law_47 ++ dktL_law_48
def dkwL_law_46 : List UInt8 := [182, 0, 140, 159, 0, 106, 3, 172, 43, 42, 21, 4, 4, 96, 46, 42, 21, 4, 5, 96, 46, 182, 0, 141]
abbrev dktL_law_46 : List UInt8 := dkwL_law_46 ++ dktL_law_47
def dkwL_law_45 : List UInt8 := [46, 42, 21, 4, 5, 96, 46, 182, 0, 137, 44, 42, 21, 4, 4, 96, 46, 42, 21, 4, 5, 96, 46]
abbrev dktL_law_45 : List UInt8 := dkwL_law_45 ++ dktL_law_46
def dkwL_law_44 : List UInt8 := [182, 0, 133, 44, 42, 21, 4, 4, 96, 46, 182, 0, 136, 159, 0, 143, 3, 172, 43, 42, 21, 4, 4, 96]
abbrev dktL_law_44 : List UInt8 := dkwL_law_44 ++ dktL_law_45
def dkwL_law_43 : List UInt8 := [3, 172, 43, 182, 0, 129, 44, 182, 0, 132, 159, 0, 168, 3, 172, 43, 42, 21, 4, 4, 96, 46]
abbrev dktL_law_43 : List UInt8 := dkwL_law_43 ++ dktL_law_44
def dkwL_law_42 : List UInt8 := [21, 4, 4, 96, 46, 182, 0, 124, 159, 0, 194, 3, 172, 43, 182, 0, 125, 44, 182, 0, 128, 159, 0, 181]
abbrev dktL_law_42 : List UInt8 := dkwL_law_42 ++ dktL_law_43
def dkwL_law_41 : List UInt8 := [5, 96, 46, 182, 0, 120, 159, 0, 219, 3, 172, 43, 42, 21, 4, 4, 96, 46, 182, 0, 121, 44, 42]
abbrev dktL_law_41 : List UInt8 := dkwL_law_41 ++ dktL_law_42
def dkwL_law_40 : List UInt8 := [21, 4, 4, 96, 46, 42, 21, 4, 5, 96, 46, 182, 0, 117, 44, 42, 21, 4, 4, 96, 46, 42, 21, 4]
abbrev dktL_law_40 : List UInt8 := dkwL_law_40 ++ dktL_law_41
def dkwL_law_39 : List UInt8 := [44, 42, 21, 4, 4, 96, 46, 42, 21, 4, 5, 96, 46, 182, 0, 116, 148, 153, 1, 0, 3, 172, 43, 42]
abbrev dktL_law_39 : List UInt8 := dkwL_law_39 ++ dktL_law_40
def dkwL_law_38 : List UInt8 := [182, 0, 112, 159, 1, 38, 3, 172, 43, 42, 21, 4, 4, 96, 46, 42, 21, 4, 5, 96, 46, 182, 0, 113]
abbrev dktL_law_38 : List UInt8 := dkwL_law_38 ++ dktL_law_39
def dkwL_law_37 : List UInt8 := [148, 153, 1, 63, 3, 172, 43, 42, 21, 4, 4, 96, 46, 182, 0, 109, 44, 42, 21, 4, 4, 96, 46]
abbrev dktL_law_37 : List UInt8 := dkwL_law_37 ++ dktL_law_38
def dkwL_law_36 : List UInt8 := [21, 4, 5, 96, 46, 182, 0, 105, 44, 42, 21, 4, 4, 96, 46, 42, 21, 4, 5, 96, 46, 182, 0, 108]
abbrev dktL_law_36 : List UInt8 := dkwL_law_36 ++ dktL_law_37
def dkwL_law_35 : List UInt8 := [46, 42, 21, 4, 5, 96, 46, 182, 0, 104, 159, 1, 101, 3, 172, 43, 42, 21, 4, 4, 96, 46, 42]
abbrev dktL_law_35 : List UInt8 := dkwL_law_35 ++ dktL_law_36
def dkwL_law_34 : List UInt8 := [3, 172, 43, 42, 21, 4, 4, 96, 46, 42, 21, 4, 5, 96, 46, 182, 0, 101, 44, 42, 21, 4, 4, 96]
abbrev dktL_law_34 : List UInt8 := dkwL_law_34 ++ dktL_law_35
def dkwL_law_33 : List UInt8 := [21, 4, 4, 96, 46, 42, 21, 4, 5, 96, 46, 42, 21, 4, 6, 96, 46, 182, 0, 100, 148, 153, 1, 138]
abbrev dktL_law_33 : List UInt8 := dkwL_law_33 ++ dktL_law_34
def dkwL_law_32 : List UInt8 := [43, 42, 21, 4, 4, 96, 46, 42, 21, 4, 5, 96, 46, 42, 21, 4, 6, 96, 46, 182, 0, 96, 44, 42]
abbrev dktL_law_32 : List UInt8 := dkwL_law_32 ++ dktL_law_33
def dkwL_law_31 : List UInt8 := [182, 0, 92, 44, 42, 21, 4, 4, 96, 46, 42, 21, 4, 5, 96, 46, 182, 0, 95, 159, 1, 188, 3, 172]
abbrev dktL_law_31 : List UInt8 := dkwL_law_31 ++ dktL_law_32
def dkwL_law_30 : List UInt8 := [46, 182, 0, 91, 159, 1, 225, 3, 172, 43, 42, 21, 4, 4, 96, 46, 42, 21, 4, 5, 96, 46]
abbrev dktL_law_30 : List UInt8 := dkwL_law_30 ++ dktL_law_31
def dkwL_law_29 : List UInt8 := [6, 96, 46, 182, 0, 88, 44, 42, 21, 4, 4, 96, 46, 42, 21, 4, 5, 96, 46, 42, 21, 4, 6, 96]
abbrev dktL_law_29 : List UInt8 := dkwL_law_29 ++ dktL_law_30
def dkwL_law_28 : List UInt8 := [182, 0, 87, 159, 2, 18, 3, 172, 43, 42, 21, 4, 4, 96, 46, 42, 21, 4, 5, 96, 46, 42, 21, 4]
abbrev dktL_law_28 : List UInt8 := dkwL_law_28 ++ dktL_law_29
def dkwL_law_27 : List UInt8 := [42, 21, 4, 5, 96, 46, 182, 0, 83, 44, 42, 21, 4, 4, 96, 46, 42, 21, 4, 5, 96, 46]
abbrev dktL_law_27 : List UInt8 := dkwL_law_27 ++ dktL_law_28
def dkwL_law_26 : List UInt8 := [5, 96, 46, 42, 21, 4, 6, 96, 46, 182, 0, 82, 159, 2, 55, 3, 172, 43, 42, 21, 4, 4, 96, 46]
abbrev dktL_law_26 : List UInt8 := dkwL_law_26 ++ dktL_law_27
def dkwL_law_25 : List UInt8 := [21, 4, 5, 96, 46, 42, 21, 4, 6, 96, 46, 182, 0, 79, 44, 42, 21, 4, 4, 96, 46, 42, 21, 4]
abbrev dktL_law_25 : List UInt8 := dkwL_law_25 ++ dktL_law_26
def dkwL_law_24 : List UInt8 := [44, 42, 21, 4, 4, 96, 46, 182, 0, 78, 159, 2, 104, 3, 172, 43, 42, 21, 4, 4, 96, 46, 42]
abbrev dktL_law_24 : List UInt8 := dkwL_law_24 ++ dktL_law_25
def dkwL_law_23 : List UInt8 := [42, 21, 4, 6, 96, 46, 182, 0, 74, 159, 2, 129, 3, 172, 43, 42, 21, 4, 4, 96, 46, 182, 0, 75]
abbrev dktL_law_23 : List UInt8 := dkwL_law_23 ++ dktL_law_24
def dkwL_law_22 : List UInt8 := [96, 46, 42, 21, 4, 6, 96, 46, 182, 0, 71, 44, 42, 21, 4, 4, 96, 46, 42, 21, 4, 5, 96, 46]
abbrev dktL_law_22 : List UInt8 := dkwL_law_22 ++ dktL_law_23
def dkwL_law_21 : List UInt8 := [21, 4, 6, 96, 46, 182, 0, 70, 159, 2, 178, 3, 172, 43, 42, 21, 4, 4, 96, 46, 42, 21, 4, 5]
abbrev dktL_law_21 : List UInt8 := dkwL_law_21 ++ dktL_law_22
def dkwL_law_20 : List UInt8 := [42, 21, 4, 6, 96, 46, 182, 0, 67, 44, 42, 21, 4, 4, 96, 46, 42, 21, 4, 5, 96, 46, 42]
abbrev dktL_law_20 : List UInt8 := dkwL_law_20 ++ dktL_law_21
def dkwL_law_19 : List UInt8 := [5, 96, 46, 182, 0, 66, 159, 2, 227, 3, 172, 43, 42, 21, 4, 4, 96, 46, 42, 21, 4, 5, 96, 46]
abbrev dktL_law_19 : List UInt8 := dkwL_law_19 ++ dktL_law_20
def dkwL_law_18 : List UInt8 := [21, 4, 4, 96, 46, 42, 21, 4, 5, 96, 46, 182, 0, 63, 44, 42, 21, 4, 4, 96, 46, 42, 21, 4]
abbrev dktL_law_18 : List UInt8 := dkwL_law_18 ++ dktL_law_19
def dkwL_law_17 : List UInt8 := [44, 42, 21, 4, 4, 96, 46, 42, 21, 4, 5, 96, 46, 182, 0, 62, 148, 153, 3, 8, 3, 172, 43, 42]
abbrev dktL_law_17 : List UInt8 := dkwL_law_17 ++ dktL_law_18
def dkwL_law_16 : List UInt8 := [182, 0, 57, 159, 3, 46, 3, 172, 43, 42, 21, 4, 4, 96, 46, 42, 21, 4, 5, 96, 46, 182, 0, 58]
abbrev dktL_law_16 : List UInt8 := dkwL_law_16 ++ dktL_law_17
def dkwL_law_15 : List UInt8 := [182, 0, 53, 44, 42, 21, 4, 4, 96, 46, 42, 21, 4, 5, 96, 46, 42, 21, 4, 6, 96, 46]
abbrev dktL_law_15 : List UInt8 := dkwL_law_15 ++ dktL_law_16
def dkwL_law_14 : List UInt8 := [159, 3, 95, 3, 172, 43, 42, 21, 4, 4, 96, 46, 42, 21, 4, 5, 96, 46, 42, 21, 4, 6, 96, 46]
abbrev dktL_law_14 : List UInt8 := dkwL_law_14 ++ dktL_law_15
def dkwL_law_13 : List UInt8 := [21, 4, 5, 96, 46, 182, 0, 49, 44, 42, 21, 4, 4, 96, 46, 42, 21, 4, 5, 96, 46, 182, 0, 52]
abbrev dktL_law_13 : List UInt8 := dkwL_law_13 ++ dktL_law_14
def dkwL_law_12 : List UInt8 := [45, 3, 47, 21, 6, 133, 148, 153, 0, 5, 3, 172, 167, 3, 130, 43, 42, 21, 4, 4, 96, 46, 42]
abbrev dktL_law_12 : List UInt8 := dkwL_law_12 ++ dktL_law_13
def dkwL_law_11 : List UInt8 := [5, 96, 46, 182, 0, 44, 54, 6, 44, 182, 0, 45, 21, 5, 159, 0, 5, 3, 172, 21, 5, 154, 0, 15]
abbrev dktL_law_11 : List UInt8 := dkwL_law_11 ++ dktL_law_12
def dkwL_law_10 : List UInt8 := [96, 46, 42, 21, 4, 5, 96, 46, 45, 184, 0, 39, 54, 5, 44, 42, 21, 4, 4, 96, 46, 42, 21, 4]
abbrev dktL_law_10 : List UInt8 := dkwL_law_10 ++ dktL_law_11
def dkwL_law_9 : List UInt8 := [21, 4, 4, 96, 46, 42, 21, 4, 5, 96, 46, 182, 0, 38, 159, 3, 200, 3, 172, 43, 42, 21, 4, 4]
abbrev dktL_law_9 : List UInt8 := dkwL_law_9 ++ dktL_law_10
def dkwL_law_8 : List UInt8 := [159, 3, 237, 3, 172, 43, 42, 21, 4, 4, 96, 46, 42, 21, 4, 5, 96, 46, 182, 0, 35, 44, 42]
abbrev dktL_law_8 : List UInt8 := dkwL_law_8 ++ dktL_law_9
def dkwL_law_7 : List UInt8 := [3, 172, 43, 42, 21, 4, 4, 96, 46, 182, 0, 31, 44, 42, 21, 4, 4, 96, 46, 182, 0, 34]
abbrev dktL_law_7 : List UInt8 := dkwL_law_7 ++ dktL_law_8
def dkwL_law_6 : List UInt8 := [172, 43, 42, 21, 4, 4, 96, 46, 182, 0, 26, 44, 42, 21, 4, 4, 96, 46, 182, 0, 30, 159, 4, 6]
abbrev dktL_law_6 : List UInt8 := dkwL_law_6 ++ dktL_law_7
def dkwL_law_5 : List UInt8 := [21, 4, 6, 96, 46, 42, 21, 4, 7, 96, 46, 42, 21, 4, 8, 96, 46, 182, 0, 25, 159, 4, 31, 3]
abbrev dktL_law_5 : List UInt8 := dkwL_law_5 ++ dktL_law_6
def dkwL_law_4 : List UInt8 := [46, 42, 21, 4, 8, 96, 46, 182, 0, 21, 44, 42, 21, 4, 4, 96, 46, 42, 21, 4, 5, 96, 46, 42]
abbrev dktL_law_4 : List UInt8 := dkwL_law_4 ++ dktL_law_5
def dkwL_law_3 : List UInt8 := [43, 42, 21, 4, 4, 96, 46, 42, 21, 4, 5, 96, 46, 42, 21, 4, 6, 96, 46, 42, 21, 4, 7, 96]
abbrev dktL_law_3 : List UInt8 := dkwL_law_3 ++ dktL_law_4
def dkwL_law_2 : List UInt8 := [170, 0, 0, 0, 0, 0, 4, 243, 0, 0, 0, 0, 0, 0, 0, 31, 0, 0, 0, 144, 0, 0, 0, 217, 0, 0, 0, 242, 0, 0, 1, 11, 0, 0, 1, 48, 0, 0, 1, 116, 0, 0, 1, 153, 0, 0, 1, 202, 0, 0, 1, 240, 0, 0, 2, 21, 0, 0, 2, 70, 0, 0, 2, 119, 0, 0, 2, 144, 0, 0, 2, 193, 0, 0, 2, 230, 0, 0, 3, 23, 0, 0, 3, 60, 0, 0, 3, 110, 0, 0, 3, 147, 0, 0, 3, 185, 0, 0, 3, 210, 0, 0, 3, 248, 0, 0, 4, 29, 0, 0, 4, 54, 0, 0, 4, 67, 0, 0, 4, 80, 0, 0, 4, 105, 0, 0, 4, 142, 0, 0, 4, 179, 0, 0, 4, 192, 0, 0, 4, 205, 0, 0, 4, 218]
abbrev dktL_law_2 : List UInt8 := dkwL_law_2 ++ dktL_law_3
def dkwL_law_1 : List UInt8 := [21, 4, 42, 190, 16, 6, 100, 163, 5, 3, 42, 21, 4, 46, 16, 31, 126]
abbrev dktL_law_1 : List UInt8 := dkwL_law_1 ++ dktL_law_2
def dkwL_law_0 : List UInt8 := [187, 0, 8, 89, 183, 0, 17, 76, 187, 0, 18, 89, 183, 0, 20, 77, 4, 188, 11, 78, 3, 54, 4]
abbrev dktL_law_0 : List UInt8 := dkwL_law_0 ++ dktL_law_1
theorem dksL_law_0 : cL_law.data.toList.drop 0 = dktL_law_0 := by decide +kernel
theorem dksL_law_1 : cL_law.data.toList.drop 23 = dktL_law_1 := dk_seg dksL_law_0 23 rfl rfl
theorem dksL_law_2 : cL_law.data.toList.drop 40 = dktL_law_2 := dk_seg dksL_law_1 17 rfl rfl
theorem dksL_law_3 : cL_law.data.toList.drop 184 = dktL_law_3 := dk_seg dksL_law_2 144 rfl rfl
theorem dksL_law_4 : cL_law.data.toList.drop 208 = dktL_law_4 := dk_seg dksL_law_3 24 rfl rfl
theorem dksL_law_5 : cL_law.data.toList.drop 232 = dktL_law_5 := dk_seg dksL_law_4 24 rfl rfl
theorem dksL_law_6 : cL_law.data.toList.drop 256 = dktL_law_6 := dk_seg dksL_law_5 24 rfl rfl
theorem dksL_law_7 : cL_law.data.toList.drop 280 = dktL_law_7 := dk_seg dksL_law_6 24 rfl rfl
theorem dksL_law_8 : cL_law.data.toList.drop 302 = dktL_law_8 := dk_seg dksL_law_7 22 rfl rfl
theorem dksL_law_9 : cL_law.data.toList.drop 325 = dktL_law_9 := dk_seg dksL_law_8 23 rfl rfl
theorem dksL_law_10 : cL_law.data.toList.drop 349 = dktL_law_10 := dk_seg dksL_law_9 24 rfl rfl
theorem dksL_law_11 : cL_law.data.toList.drop 373 = dktL_law_11 := dk_seg dksL_law_10 24 rfl rfl
theorem dksL_law_12 : cL_law.data.toList.drop 397 = dktL_law_12 := dk_seg dksL_law_11 24 rfl rfl
theorem dksL_law_13 : cL_law.data.toList.drop 420 = dktL_law_13 := dk_seg dksL_law_12 23 rfl rfl
theorem dksL_law_14 : cL_law.data.toList.drop 444 = dktL_law_14 := dk_seg dksL_law_13 24 rfl rfl
theorem dksL_law_15 : cL_law.data.toList.drop 468 = dktL_law_15 := dk_seg dksL_law_14 24 rfl rfl
theorem dksL_law_16 : cL_law.data.toList.drop 490 = dktL_law_16 := dk_seg dksL_law_15 22 rfl rfl
theorem dksL_law_17 : cL_law.data.toList.drop 514 = dktL_law_17 := dk_seg dksL_law_16 24 rfl rfl
theorem dksL_law_18 : cL_law.data.toList.drop 538 = dktL_law_18 := dk_seg dksL_law_17 24 rfl rfl
theorem dksL_law_19 : cL_law.data.toList.drop 562 = dktL_law_19 := dk_seg dksL_law_18 24 rfl rfl
theorem dksL_law_20 : cL_law.data.toList.drop 586 = dktL_law_20 := dk_seg dksL_law_19 24 rfl rfl
theorem dksL_law_21 : cL_law.data.toList.drop 609 = dktL_law_21 := dk_seg dksL_law_20 23 rfl rfl
theorem dksL_law_22 : cL_law.data.toList.drop 633 = dktL_law_22 := dk_seg dksL_law_21 24 rfl rfl
theorem dksL_law_23 : cL_law.data.toList.drop 657 = dktL_law_23 := dk_seg dksL_law_22 24 rfl rfl
theorem dksL_law_24 : cL_law.data.toList.drop 681 = dktL_law_24 := dk_seg dksL_law_23 24 rfl rfl
theorem dksL_law_25 : cL_law.data.toList.drop 704 = dktL_law_25 := dk_seg dksL_law_24 23 rfl rfl
theorem dksL_law_26 : cL_law.data.toList.drop 728 = dktL_law_26 := dk_seg dksL_law_25 24 rfl rfl
theorem dksL_law_27 : cL_law.data.toList.drop 752 = dktL_law_27 := dk_seg dksL_law_26 24 rfl rfl
theorem dksL_law_28 : cL_law.data.toList.drop 774 = dktL_law_28 := dk_seg dksL_law_27 22 rfl rfl
theorem dksL_law_29 : cL_law.data.toList.drop 798 = dktL_law_29 := dk_seg dksL_law_28 24 rfl rfl
theorem dksL_law_30 : cL_law.data.toList.drop 822 = dktL_law_30 := dk_seg dksL_law_29 24 rfl rfl
theorem dksL_law_31 : cL_law.data.toList.drop 844 = dktL_law_31 := dk_seg dksL_law_30 22 rfl rfl
theorem dksL_law_32 : cL_law.data.toList.drop 868 = dktL_law_32 := dk_seg dksL_law_31 24 rfl rfl
theorem dksL_law_33 : cL_law.data.toList.drop 892 = dktL_law_33 := dk_seg dksL_law_32 24 rfl rfl
theorem dksL_law_34 : cL_law.data.toList.drop 916 = dktL_law_34 := dk_seg dksL_law_33 24 rfl rfl
theorem dksL_law_35 : cL_law.data.toList.drop 940 = dktL_law_35 := dk_seg dksL_law_34 24 rfl rfl
theorem dksL_law_36 : cL_law.data.toList.drop 963 = dktL_law_36 := dk_seg dksL_law_35 23 rfl rfl
theorem dksL_law_37 : cL_law.data.toList.drop 987 = dktL_law_37 := dk_seg dksL_law_36 24 rfl rfl
theorem dksL_law_38 : cL_law.data.toList.drop 1010 = dktL_law_38 := dk_seg dksL_law_37 23 rfl rfl
theorem dksL_law_39 : cL_law.data.toList.drop 1034 = dktL_law_39 := dk_seg dksL_law_38 24 rfl rfl
theorem dksL_law_40 : cL_law.data.toList.drop 1058 = dktL_law_40 := dk_seg dksL_law_39 24 rfl rfl
theorem dksL_law_41 : cL_law.data.toList.drop 1082 = dktL_law_41 := dk_seg dksL_law_40 24 rfl rfl
theorem dksL_law_42 : cL_law.data.toList.drop 1105 = dktL_law_42 := dk_seg dksL_law_41 23 rfl rfl
theorem dksL_law_43 : cL_law.data.toList.drop 1129 = dktL_law_43 := dk_seg dksL_law_42 24 rfl rfl
theorem dksL_law_44 : cL_law.data.toList.drop 1151 = dktL_law_44 := dk_seg dksL_law_43 22 rfl rfl
theorem dksL_law_45 : cL_law.data.toList.drop 1175 = dktL_law_45 := dk_seg dksL_law_44 24 rfl rfl
theorem dksL_law_46 : cL_law.data.toList.drop 1198 = dktL_law_46 := dk_seg dksL_law_45 23 rfl rfl
theorem dksL_law_47 : cL_law.data.toList.drop 1222 = dktL_law_47 := dk_seg dksL_law_46 24 rfl rfl
theorem dksL_law_48 : cL_law.data.toList.drop 1244 = dktL_law_48 := dk_seg dksL_law_47 22 rfl rfl
theorem dksL_law_49 : cL_law.data.toList.drop 1268 = dktL_law_49 := dk_seg dksL_law_48 24 rfl rfl
theorem dksL_law_50 : cL_law.data.toList.drop 1292 = dktL_law_50 := dk_seg dksL_law_49 24 rfl rfl
theorem dL_law_0 : decode cL_law 0 = .ok (.new 8, 3) := dk_187 0 8 (dk_at dksL_law_0 0 rfl rfl)
theorem dL_law_3 : decode cL_law 3 = .ok (.dup, 1) := dk_89 (dk_at dksL_law_0 3 rfl rfl)
theorem dL_law_4 : decode cL_law 4 = .ok (.invokespecial 17, 3) := dk_183 0 17 (dk_at dksL_law_0 4 rfl rfl)
theorem dL_law_7 : decode cL_law 7 = .ok (.astore_n 1, 1) := dk_76 (dk_at dksL_law_0 7 rfl rfl)
theorem dL_law_8 : decode cL_law 8 = .ok (.new 18, 3) := dk_187 0 18 (dk_at dksL_law_0 8 rfl rfl)
theorem dL_law_11 : decode cL_law 11 = .ok (.dup, 1) := dk_89 (dk_at dksL_law_0 11 rfl rfl)
theorem dL_law_12 : decode cL_law 12 = .ok (.invokespecial 20, 3) := dk_183 0 20 (dk_at dksL_law_0 12 rfl rfl)
theorem dL_law_15 : decode cL_law 15 = .ok (.astore_n 2, 1) := dk_77 (dk_at dksL_law_0 15 rfl rfl)
theorem dL_law_16 : decode cL_law 16 = .ok (.iconst 1, 1) := dk_4 (dk_at dksL_law_0 16 rfl rfl)
theorem dL_law_17 : decode cL_law 17 = .ok (.newarray .long, 2) := dk_188_11 (dk_at dksL_law_0 17 rfl rfl)
theorem dL_law_19 : decode cL_law 19 = .ok (.astore_n 3, 1) := dk_78 (dk_at dksL_law_0 19 rfl rfl)
theorem dL_law_20 : decode cL_law 20 = .ok (.iconst 0, 1) := dk_3 (dk_at dksL_law_0 20 rfl rfl)
theorem dL_law_21 : decode cL_law 21 = .ok (.istore 4, 2) := dk_54 4 (dk_at dksL_law_0 21 rfl rfl)
theorem dL_law_23 : decode cL_law 23 = .ok (.iload 4, 2) := dk_21 4 (dk_at dksL_law_1 0 rfl rfl)
theorem dL_law_25 : decode cL_law 25 = .ok (.aload_n 0, 1) := dk_42 (dk_at dksL_law_1 2 rfl rfl)
theorem dL_law_26 : decode cL_law 26 = .ok (.arraylength, 1) := dk_190 (dk_at dksL_law_1 3 rfl rfl)
theorem dL_law_27 : decode cL_law 27 = .ok (.bipush 6, 2) := dk_16 6 (dk_at dksL_law_1 4 rfl rfl)
theorem dL_law_29 : decode cL_law 29 = .ok (.isub, 1) := dk_100 (dk_at dksL_law_1 6 rfl rfl)
theorem dL_law_30 : decode cL_law 30 = .ok (.if_icmp .gt 1283, 3) := dk_163 5 3 (dk_at dksL_law_1 7 rfl rfl)
theorem dL_law_33 : decode cL_law 33 = .ok (.aload_n 0, 1) := dk_42 (dk_at dksL_law_1 10 rfl rfl)
theorem dL_law_34 : decode cL_law 34 = .ok (.iload 4, 2) := dk_21 4 (dk_at dksL_law_1 11 rfl rfl)
theorem dL_law_36 : decode cL_law 36 = .ok (.iaload, 1) := dk_46 (dk_at dksL_law_1 13 rfl rfl)
theorem dL_law_37 : decode cL_law 37 = .ok (.bipush 31, 2) := dk_16 31 (dk_at dksL_law_1 14 rfl rfl)
theorem dL_law_39 : decode cL_law 39 = .ok (.iand, 1) := dk_126 (dk_at dksL_law_1 16 rfl rfl)
theorem dL_law_40 : decode cL_law 40 = .ok (.tableswitch 1267 0 31 #[144, 217, 242, 267, 304, 372, 409, 458, 496, 533, 582, 631, 656, 705, 742, 791, 828, 878, 915, 953, 978, 1016, 1053, 1078, 1091, 1104, 1129, 1166, 1203, 1216, 1229, 1242], 144) := by decide +kernel
theorem dL_law_184 : decode cL_law 184 = .ok (.aload_n 1, 1) := dk_43 (dk_at dksL_law_3 0 rfl rfl)
theorem dL_law_185 : decode cL_law 185 = .ok (.aload_n 0, 1) := dk_42 (dk_at dksL_law_3 1 rfl rfl)
theorem dL_law_186 : decode cL_law 186 = .ok (.iload 4, 2) := dk_21 4 (dk_at dksL_law_3 2 rfl rfl)
theorem dL_law_188 : decode cL_law 188 = .ok (.iconst 1, 1) := dk_4 (dk_at dksL_law_3 4 rfl rfl)
theorem dL_law_189 : decode cL_law 189 = .ok (.iadd, 1) := dk_96 (dk_at dksL_law_3 5 rfl rfl)
theorem dL_law_190 : decode cL_law 190 = .ok (.iaload, 1) := dk_46 (dk_at dksL_law_3 6 rfl rfl)
theorem dL_law_191 : decode cL_law 191 = .ok (.aload_n 0, 1) := dk_42 (dk_at dksL_law_3 7 rfl rfl)
theorem dL_law_192 : decode cL_law 192 = .ok (.iload 4, 2) := dk_21 4 (dk_at dksL_law_3 8 rfl rfl)
theorem dL_law_194 : decode cL_law 194 = .ok (.iconst 2, 1) := dk_5 (dk_at dksL_law_3 10 rfl rfl)
theorem dL_law_195 : decode cL_law 195 = .ok (.iadd, 1) := dk_96 (dk_at dksL_law_3 11 rfl rfl)
theorem dL_law_196 : decode cL_law 196 = .ok (.iaload, 1) := dk_46 (dk_at dksL_law_3 12 rfl rfl)
theorem dL_law_197 : decode cL_law 197 = .ok (.aload_n 0, 1) := dk_42 (dk_at dksL_law_3 13 rfl rfl)
theorem dL_law_198 : decode cL_law 198 = .ok (.iload 4, 2) := dk_21 4 (dk_at dksL_law_3 14 rfl rfl)
theorem dL_law_200 : decode cL_law 200 = .ok (.iconst 3, 1) := dk_6 (dk_at dksL_law_3 16 rfl rfl)
theorem dL_law_201 : decode cL_law 201 = .ok (.iadd, 1) := dk_96 (dk_at dksL_law_3 17 rfl rfl)
theorem dL_law_202 : decode cL_law 202 = .ok (.iaload, 1) := dk_46 (dk_at dksL_law_3 18 rfl rfl)
theorem dL_law_203 : decode cL_law 203 = .ok (.aload_n 0, 1) := dk_42 (dk_at dksL_law_3 19 rfl rfl)
theorem dL_law_204 : decode cL_law 204 = .ok (.iload 4, 2) := dk_21 4 (dk_at dksL_law_3 20 rfl rfl)
theorem dL_law_206 : decode cL_law 206 = .ok (.iconst 4, 1) := dk_7 (dk_at dksL_law_3 22 rfl rfl)
theorem dL_law_207 : decode cL_law 207 = .ok (.iadd, 1) := dk_96 (dk_at dksL_law_3 23 rfl rfl)
theorem dL_law_208 : decode cL_law 208 = .ok (.iaload, 1) := dk_46 (dk_at dksL_law_4 0 rfl rfl)
theorem dL_law_209 : decode cL_law 209 = .ok (.aload_n 0, 1) := dk_42 (dk_at dksL_law_4 1 rfl rfl)
theorem dL_law_210 : decode cL_law 210 = .ok (.iload 4, 2) := dk_21 4 (dk_at dksL_law_4 2 rfl rfl)
theorem dL_law_212 : decode cL_law 212 = .ok (.iconst 5, 1) := dk_8 (dk_at dksL_law_4 4 rfl rfl)
theorem dL_law_213 : decode cL_law 213 = .ok (.iadd, 1) := dk_96 (dk_at dksL_law_4 5 rfl rfl)
theorem dL_law_214 : decode cL_law 214 = .ok (.iaload, 1) := dk_46 (dk_at dksL_law_4 6 rfl rfl)
theorem dL_law_215 : decode cL_law 215 = .ok (.invokevirtual 21, 3) := dk_182 0 21 (dk_at dksL_law_4 7 rfl rfl)
theorem dL_law_218 : decode cL_law 218 = .ok (.aload_n 2, 1) := dk_44 (dk_at dksL_law_4 10 rfl rfl)
theorem dL_law_219 : decode cL_law 219 = .ok (.aload_n 0, 1) := dk_42 (dk_at dksL_law_4 11 rfl rfl)
theorem dL_law_220 : decode cL_law 220 = .ok (.iload 4, 2) := dk_21 4 (dk_at dksL_law_4 12 rfl rfl)
theorem dL_law_222 : decode cL_law 222 = .ok (.iconst 1, 1) := dk_4 (dk_at dksL_law_4 14 rfl rfl)
theorem dL_law_223 : decode cL_law 223 = .ok (.iadd, 1) := dk_96 (dk_at dksL_law_4 15 rfl rfl)
theorem dL_law_224 : decode cL_law 224 = .ok (.iaload, 1) := dk_46 (dk_at dksL_law_4 16 rfl rfl)
theorem dL_law_225 : decode cL_law 225 = .ok (.aload_n 0, 1) := dk_42 (dk_at dksL_law_4 17 rfl rfl)
theorem dL_law_226 : decode cL_law 226 = .ok (.iload 4, 2) := dk_21 4 (dk_at dksL_law_4 18 rfl rfl)
theorem dL_law_228 : decode cL_law 228 = .ok (.iconst 2, 1) := dk_5 (dk_at dksL_law_4 20 rfl rfl)
theorem dL_law_229 : decode cL_law 229 = .ok (.iadd, 1) := dk_96 (dk_at dksL_law_4 21 rfl rfl)
theorem dL_law_230 : decode cL_law 230 = .ok (.iaload, 1) := dk_46 (dk_at dksL_law_4 22 rfl rfl)
theorem dL_law_231 : decode cL_law 231 = .ok (.aload_n 0, 1) := dk_42 (dk_at dksL_law_4 23 rfl rfl)
theorem dL_law_232 : decode cL_law 232 = .ok (.iload 4, 2) := dk_21 4 (dk_at dksL_law_5 0 rfl rfl)
theorem dL_law_234 : decode cL_law 234 = .ok (.iconst 3, 1) := dk_6 (dk_at dksL_law_5 2 rfl rfl)
theorem dL_law_235 : decode cL_law 235 = .ok (.iadd, 1) := dk_96 (dk_at dksL_law_5 3 rfl rfl)
theorem dL_law_236 : decode cL_law 236 = .ok (.iaload, 1) := dk_46 (dk_at dksL_law_5 4 rfl rfl)
theorem dL_law_237 : decode cL_law 237 = .ok (.aload_n 0, 1) := dk_42 (dk_at dksL_law_5 5 rfl rfl)
theorem dL_law_238 : decode cL_law 238 = .ok (.iload 4, 2) := dk_21 4 (dk_at dksL_law_5 6 rfl rfl)
theorem dL_law_240 : decode cL_law 240 = .ok (.iconst 4, 1) := dk_7 (dk_at dksL_law_5 8 rfl rfl)
theorem dL_law_241 : decode cL_law 241 = .ok (.iadd, 1) := dk_96 (dk_at dksL_law_5 9 rfl rfl)
theorem dL_law_242 : decode cL_law 242 = .ok (.iaload, 1) := dk_46 (dk_at dksL_law_5 10 rfl rfl)
theorem dL_law_243 : decode cL_law 243 = .ok (.aload_n 0, 1) := dk_42 (dk_at dksL_law_5 11 rfl rfl)
theorem dL_law_244 : decode cL_law 244 = .ok (.iload 4, 2) := dk_21 4 (dk_at dksL_law_5 12 rfl rfl)
theorem dL_law_246 : decode cL_law 246 = .ok (.iconst 5, 1) := dk_8 (dk_at dksL_law_5 14 rfl rfl)
theorem dL_law_247 : decode cL_law 247 = .ok (.iadd, 1) := dk_96 (dk_at dksL_law_5 15 rfl rfl)
theorem dL_law_248 : decode cL_law 248 = .ok (.iaload, 1) := dk_46 (dk_at dksL_law_5 16 rfl rfl)
theorem dL_law_249 : decode cL_law 249 = .ok (.invokevirtual 25, 3) := dk_182 0 25 (dk_at dksL_law_5 17 rfl rfl)
theorem dL_law_252 : decode cL_law 252 = .ok (.if_icmp .eq 1055, 3) := dk_159 4 31 (dk_at dksL_law_5 20 rfl rfl)
theorem dL_law_255 : decode cL_law 255 = .ok (.iconst 0, 1) := dk_3 (dk_at dksL_law_5 23 rfl rfl)
theorem dL_law_256 : decode cL_law 256 = .ok (.ireturn, 1) := dk_172 (dk_at dksL_law_6 0 rfl rfl)
theorem dL_law_257 : decode cL_law 257 = .ok (.aload_n 1, 1) := dk_43 (dk_at dksL_law_6 1 rfl rfl)
theorem dL_law_258 : decode cL_law 258 = .ok (.aload_n 0, 1) := dk_42 (dk_at dksL_law_6 2 rfl rfl)
theorem dL_law_259 : decode cL_law 259 = .ok (.iload 4, 2) := dk_21 4 (dk_at dksL_law_6 3 rfl rfl)
theorem dL_law_261 : decode cL_law 261 = .ok (.iconst 1, 1) := dk_4 (dk_at dksL_law_6 5 rfl rfl)
theorem dL_law_262 : decode cL_law 262 = .ok (.iadd, 1) := dk_96 (dk_at dksL_law_6 6 rfl rfl)
theorem dL_law_263 : decode cL_law 263 = .ok (.iaload, 1) := dk_46 (dk_at dksL_law_6 7 rfl rfl)
theorem dL_law_264 : decode cL_law 264 = .ok (.invokevirtual 26, 3) := dk_182 0 26 (dk_at dksL_law_6 8 rfl rfl)
theorem dL_law_267 : decode cL_law 267 = .ok (.aload_n 2, 1) := dk_44 (dk_at dksL_law_6 11 rfl rfl)
theorem dL_law_268 : decode cL_law 268 = .ok (.aload_n 0, 1) := dk_42 (dk_at dksL_law_6 12 rfl rfl)
theorem dL_law_269 : decode cL_law 269 = .ok (.iload 4, 2) := dk_21 4 (dk_at dksL_law_6 13 rfl rfl)
theorem dL_law_271 : decode cL_law 271 = .ok (.iconst 1, 1) := dk_4 (dk_at dksL_law_6 15 rfl rfl)
theorem dL_law_272 : decode cL_law 272 = .ok (.iadd, 1) := dk_96 (dk_at dksL_law_6 16 rfl rfl)
theorem dL_law_273 : decode cL_law 273 = .ok (.iaload, 1) := dk_46 (dk_at dksL_law_6 17 rfl rfl)
theorem dL_law_274 : decode cL_law 274 = .ok (.invokevirtual 30, 3) := dk_182 0 30 (dk_at dksL_law_6 18 rfl rfl)
theorem dL_law_277 : decode cL_law 277 = .ok (.if_icmp .eq 1030, 3) := dk_159 4 6 (dk_at dksL_law_6 21 rfl rfl)
theorem dL_law_280 : decode cL_law 280 = .ok (.iconst 0, 1) := dk_3 (dk_at dksL_law_7 0 rfl rfl)
theorem dL_law_281 : decode cL_law 281 = .ok (.ireturn, 1) := dk_172 (dk_at dksL_law_7 1 rfl rfl)
theorem dL_law_282 : decode cL_law 282 = .ok (.aload_n 1, 1) := dk_43 (dk_at dksL_law_7 2 rfl rfl)
theorem dL_law_283 : decode cL_law 283 = .ok (.aload_n 0, 1) := dk_42 (dk_at dksL_law_7 3 rfl rfl)
theorem dL_law_284 : decode cL_law 284 = .ok (.iload 4, 2) := dk_21 4 (dk_at dksL_law_7 4 rfl rfl)
theorem dL_law_286 : decode cL_law 286 = .ok (.iconst 1, 1) := dk_4 (dk_at dksL_law_7 6 rfl rfl)
theorem dL_law_287 : decode cL_law 287 = .ok (.iadd, 1) := dk_96 (dk_at dksL_law_7 7 rfl rfl)
theorem dL_law_288 : decode cL_law 288 = .ok (.iaload, 1) := dk_46 (dk_at dksL_law_7 8 rfl rfl)
theorem dL_law_289 : decode cL_law 289 = .ok (.invokevirtual 31, 3) := dk_182 0 31 (dk_at dksL_law_7 9 rfl rfl)
theorem dL_law_292 : decode cL_law 292 = .ok (.aload_n 2, 1) := dk_44 (dk_at dksL_law_7 12 rfl rfl)
theorem dL_law_293 : decode cL_law 293 = .ok (.aload_n 0, 1) := dk_42 (dk_at dksL_law_7 13 rfl rfl)
theorem dL_law_294 : decode cL_law 294 = .ok (.iload 4, 2) := dk_21 4 (dk_at dksL_law_7 14 rfl rfl)
theorem dL_law_296 : decode cL_law 296 = .ok (.iconst 1, 1) := dk_4 (dk_at dksL_law_7 16 rfl rfl)
theorem dL_law_297 : decode cL_law 297 = .ok (.iadd, 1) := dk_96 (dk_at dksL_law_7 17 rfl rfl)
theorem dL_law_298 : decode cL_law 298 = .ok (.iaload, 1) := dk_46 (dk_at dksL_law_7 18 rfl rfl)
theorem dL_law_299 : decode cL_law 299 = .ok (.invokevirtual 34, 3) := dk_182 0 34 (dk_at dksL_law_7 19 rfl rfl)
theorem dL_law_302 : decode cL_law 302 = .ok (.if_icmp .eq 1005, 3) := dk_159 3 237 (dk_at dksL_law_8 0 rfl rfl)
theorem dL_law_305 : decode cL_law 305 = .ok (.iconst 0, 1) := dk_3 (dk_at dksL_law_8 3 rfl rfl)
theorem dL_law_306 : decode cL_law 306 = .ok (.ireturn, 1) := dk_172 (dk_at dksL_law_8 4 rfl rfl)
theorem dL_law_307 : decode cL_law 307 = .ok (.aload_n 1, 1) := dk_43 (dk_at dksL_law_8 5 rfl rfl)
theorem dL_law_308 : decode cL_law 308 = .ok (.aload_n 0, 1) := dk_42 (dk_at dksL_law_8 6 rfl rfl)
theorem dL_law_309 : decode cL_law 309 = .ok (.iload 4, 2) := dk_21 4 (dk_at dksL_law_8 7 rfl rfl)
theorem dL_law_311 : decode cL_law 311 = .ok (.iconst 1, 1) := dk_4 (dk_at dksL_law_8 9 rfl rfl)
theorem dL_law_312 : decode cL_law 312 = .ok (.iadd, 1) := dk_96 (dk_at dksL_law_8 10 rfl rfl)
theorem dL_law_313 : decode cL_law 313 = .ok (.iaload, 1) := dk_46 (dk_at dksL_law_8 11 rfl rfl)
theorem dL_law_314 : decode cL_law 314 = .ok (.aload_n 0, 1) := dk_42 (dk_at dksL_law_8 12 rfl rfl)
theorem dL_law_315 : decode cL_law 315 = .ok (.iload 4, 2) := dk_21 4 (dk_at dksL_law_8 13 rfl rfl)
theorem dL_law_317 : decode cL_law 317 = .ok (.iconst 2, 1) := dk_5 (dk_at dksL_law_8 15 rfl rfl)
theorem dL_law_318 : decode cL_law 318 = .ok (.iadd, 1) := dk_96 (dk_at dksL_law_8 16 rfl rfl)
theorem dL_law_319 : decode cL_law 319 = .ok (.iaload, 1) := dk_46 (dk_at dksL_law_8 17 rfl rfl)
theorem dL_law_320 : decode cL_law 320 = .ok (.invokevirtual 35, 3) := dk_182 0 35 (dk_at dksL_law_8 18 rfl rfl)
theorem dL_law_323 : decode cL_law 323 = .ok (.aload_n 2, 1) := dk_44 (dk_at dksL_law_8 21 rfl rfl)
theorem dL_law_324 : decode cL_law 324 = .ok (.aload_n 0, 1) := dk_42 (dk_at dksL_law_8 22 rfl rfl)
theorem dL_law_325 : decode cL_law 325 = .ok (.iload 4, 2) := dk_21 4 (dk_at dksL_law_9 0 rfl rfl)
theorem dL_law_327 : decode cL_law 327 = .ok (.iconst 1, 1) := dk_4 (dk_at dksL_law_9 2 rfl rfl)
theorem dL_law_328 : decode cL_law 328 = .ok (.iadd, 1) := dk_96 (dk_at dksL_law_9 3 rfl rfl)
theorem dL_law_329 : decode cL_law 329 = .ok (.iaload, 1) := dk_46 (dk_at dksL_law_9 4 rfl rfl)
theorem dL_law_330 : decode cL_law 330 = .ok (.aload_n 0, 1) := dk_42 (dk_at dksL_law_9 5 rfl rfl)
theorem dL_law_331 : decode cL_law 331 = .ok (.iload 4, 2) := dk_21 4 (dk_at dksL_law_9 6 rfl rfl)
theorem dL_law_333 : decode cL_law 333 = .ok (.iconst 2, 1) := dk_5 (dk_at dksL_law_9 8 rfl rfl)
theorem dL_law_334 : decode cL_law 334 = .ok (.iadd, 1) := dk_96 (dk_at dksL_law_9 9 rfl rfl)
theorem dL_law_335 : decode cL_law 335 = .ok (.iaload, 1) := dk_46 (dk_at dksL_law_9 10 rfl rfl)
theorem dL_law_336 : decode cL_law 336 = .ok (.invokevirtual 38, 3) := dk_182 0 38 (dk_at dksL_law_9 11 rfl rfl)
theorem dL_law_339 : decode cL_law 339 = .ok (.if_icmp .eq 968, 3) := dk_159 3 200 (dk_at dksL_law_9 14 rfl rfl)
theorem dL_law_342 : decode cL_law 342 = .ok (.iconst 0, 1) := dk_3 (dk_at dksL_law_9 17 rfl rfl)
theorem dL_law_343 : decode cL_law 343 = .ok (.ireturn, 1) := dk_172 (dk_at dksL_law_9 18 rfl rfl)
theorem dL_law_344 : decode cL_law 344 = .ok (.aload_n 1, 1) := dk_43 (dk_at dksL_law_9 19 rfl rfl)
theorem dL_law_345 : decode cL_law 345 = .ok (.aload_n 0, 1) := dk_42 (dk_at dksL_law_9 20 rfl rfl)
theorem dL_law_346 : decode cL_law 346 = .ok (.iload 4, 2) := dk_21 4 (dk_at dksL_law_9 21 rfl rfl)
theorem dL_law_348 : decode cL_law 348 = .ok (.iconst 1, 1) := dk_4 (dk_at dksL_law_9 23 rfl rfl)
theorem dL_law_349 : decode cL_law 349 = .ok (.iadd, 1) := dk_96 (dk_at dksL_law_10 0 rfl rfl)
theorem dL_law_350 : decode cL_law 350 = .ok (.iaload, 1) := dk_46 (dk_at dksL_law_10 1 rfl rfl)
theorem dL_law_351 : decode cL_law 351 = .ok (.aload_n 0, 1) := dk_42 (dk_at dksL_law_10 2 rfl rfl)
theorem dL_law_352 : decode cL_law 352 = .ok (.iload 4, 2) := dk_21 4 (dk_at dksL_law_10 3 rfl rfl)
theorem dL_law_354 : decode cL_law 354 = .ok (.iconst 2, 1) := dk_5 (dk_at dksL_law_10 5 rfl rfl)
theorem dL_law_355 : decode cL_law 355 = .ok (.iadd, 1) := dk_96 (dk_at dksL_law_10 6 rfl rfl)
theorem dL_law_356 : decode cL_law 356 = .ok (.iaload, 1) := dk_46 (dk_at dksL_law_10 7 rfl rfl)
theorem dL_law_357 : decode cL_law 357 = .ok (.aload_n 3, 1) := dk_45 (dk_at dksL_law_10 8 rfl rfl)
theorem dL_law_358 : decode cL_law 358 = .ok (.invokestatic 39, 3) := dk_184 0 39 (dk_at dksL_law_10 9 rfl rfl)
theorem dL_law_361 : decode cL_law 361 = .ok (.istore 5, 2) := dk_54 5 (dk_at dksL_law_10 12 rfl rfl)
theorem dL_law_363 : decode cL_law 363 = .ok (.aload_n 2, 1) := dk_44 (dk_at dksL_law_10 14 rfl rfl)
theorem dL_law_364 : decode cL_law 364 = .ok (.aload_n 0, 1) := dk_42 (dk_at dksL_law_10 15 rfl rfl)
theorem dL_law_365 : decode cL_law 365 = .ok (.iload 4, 2) := dk_21 4 (dk_at dksL_law_10 16 rfl rfl)
theorem dL_law_367 : decode cL_law 367 = .ok (.iconst 1, 1) := dk_4 (dk_at dksL_law_10 18 rfl rfl)
theorem dL_law_368 : decode cL_law 368 = .ok (.iadd, 1) := dk_96 (dk_at dksL_law_10 19 rfl rfl)
theorem dL_law_369 : decode cL_law 369 = .ok (.iaload, 1) := dk_46 (dk_at dksL_law_10 20 rfl rfl)
theorem dL_law_370 : decode cL_law 370 = .ok (.aload_n 0, 1) := dk_42 (dk_at dksL_law_10 21 rfl rfl)
theorem dL_law_371 : decode cL_law 371 = .ok (.iload 4, 2) := dk_21 4 (dk_at dksL_law_10 22 rfl rfl)
theorem dL_law_373 : decode cL_law 373 = .ok (.iconst 2, 1) := dk_5 (dk_at dksL_law_11 0 rfl rfl)
theorem dL_law_374 : decode cL_law 374 = .ok (.iadd, 1) := dk_96 (dk_at dksL_law_11 1 rfl rfl)
theorem dL_law_375 : decode cL_law 375 = .ok (.iaload, 1) := dk_46 (dk_at dksL_law_11 2 rfl rfl)
theorem dL_law_376 : decode cL_law 376 = .ok (.invokevirtual 44, 3) := dk_182 0 44 (dk_at dksL_law_11 3 rfl rfl)
theorem dL_law_379 : decode cL_law 379 = .ok (.istore 6, 2) := dk_54 6 (dk_at dksL_law_11 6 rfl rfl)
theorem dL_law_381 : decode cL_law 381 = .ok (.aload_n 2, 1) := dk_44 (dk_at dksL_law_11 8 rfl rfl)
theorem dL_law_382 : decode cL_law 382 = .ok (.invokevirtual 45, 3) := dk_182 0 45 (dk_at dksL_law_11 9 rfl rfl)
theorem dL_law_385 : decode cL_law 385 = .ok (.iload 5, 2) := dk_21 5 (dk_at dksL_law_11 12 rfl rfl)
theorem dL_law_387 : decode cL_law 387 = .ok (.if_icmp .eq 5, 3) := dk_159 0 5 (dk_at dksL_law_11 14 rfl rfl)
theorem dL_law_390 : decode cL_law 390 = .ok (.iconst 0, 1) := dk_3 (dk_at dksL_law_11 17 rfl rfl)
theorem dL_law_391 : decode cL_law 391 = .ok (.ireturn, 1) := dk_172 (dk_at dksL_law_11 18 rfl rfl)
theorem dL_law_392 : decode cL_law 392 = .ok (.iload 5, 2) := dk_21 5 (dk_at dksL_law_11 19 rfl rfl)
theorem dL_law_394 : decode cL_law 394 = .ok (.ifCond .ne 15, 3) := dk_154 0 15 (dk_at dksL_law_11 21 rfl rfl)
theorem dL_law_397 : decode cL_law 397 = .ok (.aload_n 3, 1) := dk_45 (dk_at dksL_law_12 0 rfl rfl)
theorem dL_law_398 : decode cL_law 398 = .ok (.iconst 0, 1) := dk_3 (dk_at dksL_law_12 1 rfl rfl)
theorem dL_law_399 : decode cL_law 399 = .ok (.laload, 1) := dk_47 (dk_at dksL_law_12 2 rfl rfl)
theorem dL_law_400 : decode cL_law 400 = .ok (.iload 6, 2) := dk_21 6 (dk_at dksL_law_12 3 rfl rfl)
theorem dL_law_402 : decode cL_law 402 = .ok (.i2l, 1) := dk_133 (dk_at dksL_law_12 5 rfl rfl)
theorem dL_law_403 : decode cL_law 403 = .ok (.lcmp, 1) := dk_148 (dk_at dksL_law_12 6 rfl rfl)
theorem dL_law_404 : decode cL_law 404 = .ok (.ifCond .eq 5, 3) := dk_153 0 5 (dk_at dksL_law_12 7 rfl rfl)
theorem dL_law_407 : decode cL_law 407 = .ok (.iconst 0, 1) := dk_3 (dk_at dksL_law_12 10 rfl rfl)
theorem dL_law_408 : decode cL_law 408 = .ok (.ireturn, 1) := dk_172 (dk_at dksL_law_12 11 rfl rfl)
theorem dL_law_409 : decode cL_law 409 = .ok (.goto 898, 3) := dk_167 3 130 (dk_at dksL_law_12 12 rfl rfl)
theorem dL_law_412 : decode cL_law 412 = .ok (.aload_n 1, 1) := dk_43 (dk_at dksL_law_12 15 rfl rfl)
theorem dL_law_413 : decode cL_law 413 = .ok (.aload_n 0, 1) := dk_42 (dk_at dksL_law_12 16 rfl rfl)
theorem dL_law_414 : decode cL_law 414 = .ok (.iload 4, 2) := dk_21 4 (dk_at dksL_law_12 17 rfl rfl)
theorem dL_law_416 : decode cL_law 416 = .ok (.iconst 1, 1) := dk_4 (dk_at dksL_law_12 19 rfl rfl)
theorem dL_law_417 : decode cL_law 417 = .ok (.iadd, 1) := dk_96 (dk_at dksL_law_12 20 rfl rfl)
theorem dL_law_418 : decode cL_law 418 = .ok (.iaload, 1) := dk_46 (dk_at dksL_law_12 21 rfl rfl)
theorem dL_law_419 : decode cL_law 419 = .ok (.aload_n 0, 1) := dk_42 (dk_at dksL_law_12 22 rfl rfl)
theorem dL_law_420 : decode cL_law 420 = .ok (.iload 4, 2) := dk_21 4 (dk_at dksL_law_13 0 rfl rfl)
theorem dL_law_422 : decode cL_law 422 = .ok (.iconst 2, 1) := dk_5 (dk_at dksL_law_13 2 rfl rfl)
theorem dL_law_423 : decode cL_law 423 = .ok (.iadd, 1) := dk_96 (dk_at dksL_law_13 3 rfl rfl)
theorem dL_law_424 : decode cL_law 424 = .ok (.iaload, 1) := dk_46 (dk_at dksL_law_13 4 rfl rfl)
theorem dL_law_425 : decode cL_law 425 = .ok (.invokevirtual 49, 3) := dk_182 0 49 (dk_at dksL_law_13 5 rfl rfl)
theorem dL_law_428 : decode cL_law 428 = .ok (.aload_n 2, 1) := dk_44 (dk_at dksL_law_13 8 rfl rfl)
theorem dL_law_429 : decode cL_law 429 = .ok (.aload_n 0, 1) := dk_42 (dk_at dksL_law_13 9 rfl rfl)
theorem dL_law_430 : decode cL_law 430 = .ok (.iload 4, 2) := dk_21 4 (dk_at dksL_law_13 10 rfl rfl)
theorem dL_law_432 : decode cL_law 432 = .ok (.iconst 1, 1) := dk_4 (dk_at dksL_law_13 12 rfl rfl)
theorem dL_law_433 : decode cL_law 433 = .ok (.iadd, 1) := dk_96 (dk_at dksL_law_13 13 rfl rfl)
theorem dL_law_434 : decode cL_law 434 = .ok (.iaload, 1) := dk_46 (dk_at dksL_law_13 14 rfl rfl)
theorem dL_law_435 : decode cL_law 435 = .ok (.aload_n 0, 1) := dk_42 (dk_at dksL_law_13 15 rfl rfl)
theorem dL_law_436 : decode cL_law 436 = .ok (.iload 4, 2) := dk_21 4 (dk_at dksL_law_13 16 rfl rfl)
theorem dL_law_438 : decode cL_law 438 = .ok (.iconst 2, 1) := dk_5 (dk_at dksL_law_13 18 rfl rfl)
theorem dL_law_439 : decode cL_law 439 = .ok (.iadd, 1) := dk_96 (dk_at dksL_law_13 19 rfl rfl)
theorem dL_law_440 : decode cL_law 440 = .ok (.iaload, 1) := dk_46 (dk_at dksL_law_13 20 rfl rfl)
theorem dL_law_441 : decode cL_law 441 = .ok (.invokevirtual 52, 3) := dk_182 0 52 (dk_at dksL_law_13 21 rfl rfl)
theorem dL_law_444 : decode cL_law 444 = .ok (.if_icmp .eq 863, 3) := dk_159 3 95 (dk_at dksL_law_14 0 rfl rfl)
theorem dL_law_447 : decode cL_law 447 = .ok (.iconst 0, 1) := dk_3 (dk_at dksL_law_14 3 rfl rfl)
theorem dL_law_448 : decode cL_law 448 = .ok (.ireturn, 1) := dk_172 (dk_at dksL_law_14 4 rfl rfl)
theorem dL_law_449 : decode cL_law 449 = .ok (.aload_n 1, 1) := dk_43 (dk_at dksL_law_14 5 rfl rfl)
theorem dL_law_450 : decode cL_law 450 = .ok (.aload_n 0, 1) := dk_42 (dk_at dksL_law_14 6 rfl rfl)
theorem dL_law_451 : decode cL_law 451 = .ok (.iload 4, 2) := dk_21 4 (dk_at dksL_law_14 7 rfl rfl)
theorem dL_law_453 : decode cL_law 453 = .ok (.iconst 1, 1) := dk_4 (dk_at dksL_law_14 9 rfl rfl)
theorem dL_law_454 : decode cL_law 454 = .ok (.iadd, 1) := dk_96 (dk_at dksL_law_14 10 rfl rfl)
theorem dL_law_455 : decode cL_law 455 = .ok (.iaload, 1) := dk_46 (dk_at dksL_law_14 11 rfl rfl)
theorem dL_law_456 : decode cL_law 456 = .ok (.aload_n 0, 1) := dk_42 (dk_at dksL_law_14 12 rfl rfl)
theorem dL_law_457 : decode cL_law 457 = .ok (.iload 4, 2) := dk_21 4 (dk_at dksL_law_14 13 rfl rfl)
theorem dL_law_459 : decode cL_law 459 = .ok (.iconst 2, 1) := dk_5 (dk_at dksL_law_14 15 rfl rfl)
theorem dL_law_460 : decode cL_law 460 = .ok (.iadd, 1) := dk_96 (dk_at dksL_law_14 16 rfl rfl)
theorem dL_law_461 : decode cL_law 461 = .ok (.iaload, 1) := dk_46 (dk_at dksL_law_14 17 rfl rfl)
theorem dL_law_462 : decode cL_law 462 = .ok (.aload_n 0, 1) := dk_42 (dk_at dksL_law_14 18 rfl rfl)
theorem dL_law_463 : decode cL_law 463 = .ok (.iload 4, 2) := dk_21 4 (dk_at dksL_law_14 19 rfl rfl)
theorem dL_law_465 : decode cL_law 465 = .ok (.iconst 3, 1) := dk_6 (dk_at dksL_law_14 21 rfl rfl)
theorem dL_law_466 : decode cL_law 466 = .ok (.iadd, 1) := dk_96 (dk_at dksL_law_14 22 rfl rfl)
theorem dL_law_467 : decode cL_law 467 = .ok (.iaload, 1) := dk_46 (dk_at dksL_law_14 23 rfl rfl)
theorem dL_law_468 : decode cL_law 468 = .ok (.invokevirtual 53, 3) := dk_182 0 53 (dk_at dksL_law_15 0 rfl rfl)
theorem dL_law_471 : decode cL_law 471 = .ok (.aload_n 2, 1) := dk_44 (dk_at dksL_law_15 3 rfl rfl)
theorem dL_law_472 : decode cL_law 472 = .ok (.aload_n 0, 1) := dk_42 (dk_at dksL_law_15 4 rfl rfl)
theorem dL_law_473 : decode cL_law 473 = .ok (.iload 4, 2) := dk_21 4 (dk_at dksL_law_15 5 rfl rfl)
theorem dL_law_475 : decode cL_law 475 = .ok (.iconst 1, 1) := dk_4 (dk_at dksL_law_15 7 rfl rfl)
theorem dL_law_476 : decode cL_law 476 = .ok (.iadd, 1) := dk_96 (dk_at dksL_law_15 8 rfl rfl)
theorem dL_law_477 : decode cL_law 477 = .ok (.iaload, 1) := dk_46 (dk_at dksL_law_15 9 rfl rfl)
theorem dL_law_478 : decode cL_law 478 = .ok (.aload_n 0, 1) := dk_42 (dk_at dksL_law_15 10 rfl rfl)
theorem dL_law_479 : decode cL_law 479 = .ok (.iload 4, 2) := dk_21 4 (dk_at dksL_law_15 11 rfl rfl)
theorem dL_law_481 : decode cL_law 481 = .ok (.iconst 2, 1) := dk_5 (dk_at dksL_law_15 13 rfl rfl)
theorem dL_law_482 : decode cL_law 482 = .ok (.iadd, 1) := dk_96 (dk_at dksL_law_15 14 rfl rfl)
theorem dL_law_483 : decode cL_law 483 = .ok (.iaload, 1) := dk_46 (dk_at dksL_law_15 15 rfl rfl)
theorem dL_law_484 : decode cL_law 484 = .ok (.aload_n 0, 1) := dk_42 (dk_at dksL_law_15 16 rfl rfl)
theorem dL_law_485 : decode cL_law 485 = .ok (.iload 4, 2) := dk_21 4 (dk_at dksL_law_15 17 rfl rfl)
theorem dL_law_487 : decode cL_law 487 = .ok (.iconst 3, 1) := dk_6 (dk_at dksL_law_15 19 rfl rfl)
theorem dL_law_488 : decode cL_law 488 = .ok (.iadd, 1) := dk_96 (dk_at dksL_law_15 20 rfl rfl)
theorem dL_law_489 : decode cL_law 489 = .ok (.iaload, 1) := dk_46 (dk_at dksL_law_15 21 rfl rfl)
theorem dL_law_490 : decode cL_law 490 = .ok (.invokevirtual 57, 3) := dk_182 0 57 (dk_at dksL_law_16 0 rfl rfl)
theorem dL_law_493 : decode cL_law 493 = .ok (.if_icmp .eq 814, 3) := dk_159 3 46 (dk_at dksL_law_16 3 rfl rfl)
theorem dL_law_496 : decode cL_law 496 = .ok (.iconst 0, 1) := dk_3 (dk_at dksL_law_16 6 rfl rfl)
theorem dL_law_497 : decode cL_law 497 = .ok (.ireturn, 1) := dk_172 (dk_at dksL_law_16 7 rfl rfl)
theorem dL_law_498 : decode cL_law 498 = .ok (.aload_n 1, 1) := dk_43 (dk_at dksL_law_16 8 rfl rfl)
theorem dL_law_499 : decode cL_law 499 = .ok (.aload_n 0, 1) := dk_42 (dk_at dksL_law_16 9 rfl rfl)
theorem dL_law_500 : decode cL_law 500 = .ok (.iload 4, 2) := dk_21 4 (dk_at dksL_law_16 10 rfl rfl)
theorem dL_law_502 : decode cL_law 502 = .ok (.iconst 1, 1) := dk_4 (dk_at dksL_law_16 12 rfl rfl)
theorem dL_law_503 : decode cL_law 503 = .ok (.iadd, 1) := dk_96 (dk_at dksL_law_16 13 rfl rfl)
theorem dL_law_504 : decode cL_law 504 = .ok (.iaload, 1) := dk_46 (dk_at dksL_law_16 14 rfl rfl)
theorem dL_law_505 : decode cL_law 505 = .ok (.aload_n 0, 1) := dk_42 (dk_at dksL_law_16 15 rfl rfl)
theorem dL_law_506 : decode cL_law 506 = .ok (.iload 4, 2) := dk_21 4 (dk_at dksL_law_16 16 rfl rfl)
theorem dL_law_508 : decode cL_law 508 = .ok (.iconst 2, 1) := dk_5 (dk_at dksL_law_16 18 rfl rfl)
theorem dL_law_509 : decode cL_law 509 = .ok (.iadd, 1) := dk_96 (dk_at dksL_law_16 19 rfl rfl)
theorem dL_law_510 : decode cL_law 510 = .ok (.iaload, 1) := dk_46 (dk_at dksL_law_16 20 rfl rfl)
theorem dL_law_511 : decode cL_law 511 = .ok (.invokevirtual 58, 3) := dk_182 0 58 (dk_at dksL_law_16 21 rfl rfl)
theorem dL_law_514 : decode cL_law 514 = .ok (.aload_n 2, 1) := dk_44 (dk_at dksL_law_17 0 rfl rfl)
theorem dL_law_515 : decode cL_law 515 = .ok (.aload_n 0, 1) := dk_42 (dk_at dksL_law_17 1 rfl rfl)
theorem dL_law_516 : decode cL_law 516 = .ok (.iload 4, 2) := dk_21 4 (dk_at dksL_law_17 2 rfl rfl)
theorem dL_law_518 : decode cL_law 518 = .ok (.iconst 1, 1) := dk_4 (dk_at dksL_law_17 4 rfl rfl)
theorem dL_law_519 : decode cL_law 519 = .ok (.iadd, 1) := dk_96 (dk_at dksL_law_17 5 rfl rfl)
theorem dL_law_520 : decode cL_law 520 = .ok (.iaload, 1) := dk_46 (dk_at dksL_law_17 6 rfl rfl)
theorem dL_law_521 : decode cL_law 521 = .ok (.aload_n 0, 1) := dk_42 (dk_at dksL_law_17 7 rfl rfl)
theorem dL_law_522 : decode cL_law 522 = .ok (.iload 4, 2) := dk_21 4 (dk_at dksL_law_17 8 rfl rfl)
theorem dL_law_524 : decode cL_law 524 = .ok (.iconst 2, 1) := dk_5 (dk_at dksL_law_17 10 rfl rfl)
theorem dL_law_525 : decode cL_law 525 = .ok (.iadd, 1) := dk_96 (dk_at dksL_law_17 11 rfl rfl)
theorem dL_law_526 : decode cL_law 526 = .ok (.iaload, 1) := dk_46 (dk_at dksL_law_17 12 rfl rfl)
theorem dL_law_527 : decode cL_law 527 = .ok (.invokevirtual 62, 3) := dk_182 0 62 (dk_at dksL_law_17 13 rfl rfl)
theorem dL_law_530 : decode cL_law 530 = .ok (.lcmp, 1) := dk_148 (dk_at dksL_law_17 16 rfl rfl)
theorem dL_law_531 : decode cL_law 531 = .ok (.ifCond .eq 776, 3) := dk_153 3 8 (dk_at dksL_law_17 17 rfl rfl)
theorem dL_law_534 : decode cL_law 534 = .ok (.iconst 0, 1) := dk_3 (dk_at dksL_law_17 20 rfl rfl)
theorem dL_law_535 : decode cL_law 535 = .ok (.ireturn, 1) := dk_172 (dk_at dksL_law_17 21 rfl rfl)
theorem dL_law_536 : decode cL_law 536 = .ok (.aload_n 1, 1) := dk_43 (dk_at dksL_law_17 22 rfl rfl)
theorem dL_law_537 : decode cL_law 537 = .ok (.aload_n 0, 1) := dk_42 (dk_at dksL_law_17 23 rfl rfl)
theorem dL_law_538 : decode cL_law 538 = .ok (.iload 4, 2) := dk_21 4 (dk_at dksL_law_18 0 rfl rfl)
theorem dL_law_540 : decode cL_law 540 = .ok (.iconst 1, 1) := dk_4 (dk_at dksL_law_18 2 rfl rfl)
theorem dL_law_541 : decode cL_law 541 = .ok (.iadd, 1) := dk_96 (dk_at dksL_law_18 3 rfl rfl)
theorem dL_law_542 : decode cL_law 542 = .ok (.iaload, 1) := dk_46 (dk_at dksL_law_18 4 rfl rfl)
theorem dL_law_543 : decode cL_law 543 = .ok (.aload_n 0, 1) := dk_42 (dk_at dksL_law_18 5 rfl rfl)
theorem dL_law_544 : decode cL_law 544 = .ok (.iload 4, 2) := dk_21 4 (dk_at dksL_law_18 6 rfl rfl)
theorem dL_law_546 : decode cL_law 546 = .ok (.iconst 2, 1) := dk_5 (dk_at dksL_law_18 8 rfl rfl)
theorem dL_law_547 : decode cL_law 547 = .ok (.iadd, 1) := dk_96 (dk_at dksL_law_18 9 rfl rfl)
theorem dL_law_548 : decode cL_law 548 = .ok (.iaload, 1) := dk_46 (dk_at dksL_law_18 10 rfl rfl)
theorem dL_law_549 : decode cL_law 549 = .ok (.invokevirtual 63, 3) := dk_182 0 63 (dk_at dksL_law_18 11 rfl rfl)
theorem dL_law_552 : decode cL_law 552 = .ok (.aload_n 2, 1) := dk_44 (dk_at dksL_law_18 14 rfl rfl)
theorem dL_law_553 : decode cL_law 553 = .ok (.aload_n 0, 1) := dk_42 (dk_at dksL_law_18 15 rfl rfl)
theorem dL_law_554 : decode cL_law 554 = .ok (.iload 4, 2) := dk_21 4 (dk_at dksL_law_18 16 rfl rfl)
theorem dL_law_556 : decode cL_law 556 = .ok (.iconst 1, 1) := dk_4 (dk_at dksL_law_18 18 rfl rfl)
theorem dL_law_557 : decode cL_law 557 = .ok (.iadd, 1) := dk_96 (dk_at dksL_law_18 19 rfl rfl)
theorem dL_law_558 : decode cL_law 558 = .ok (.iaload, 1) := dk_46 (dk_at dksL_law_18 20 rfl rfl)
theorem dL_law_559 : decode cL_law 559 = .ok (.aload_n 0, 1) := dk_42 (dk_at dksL_law_18 21 rfl rfl)
theorem dL_law_560 : decode cL_law 560 = .ok (.iload 4, 2) := dk_21 4 (dk_at dksL_law_18 22 rfl rfl)
theorem dL_law_562 : decode cL_law 562 = .ok (.iconst 2, 1) := dk_5 (dk_at dksL_law_19 0 rfl rfl)
theorem dL_law_563 : decode cL_law 563 = .ok (.iadd, 1) := dk_96 (dk_at dksL_law_19 1 rfl rfl)
theorem dL_law_564 : decode cL_law 564 = .ok (.iaload, 1) := dk_46 (dk_at dksL_law_19 2 rfl rfl)
theorem dL_law_565 : decode cL_law 565 = .ok (.invokevirtual 66, 3) := dk_182 0 66 (dk_at dksL_law_19 3 rfl rfl)
theorem dL_law_568 : decode cL_law 568 = .ok (.if_icmp .eq 739, 3) := dk_159 2 227 (dk_at dksL_law_19 6 rfl rfl)
theorem dL_law_571 : decode cL_law 571 = .ok (.iconst 0, 1) := dk_3 (dk_at dksL_law_19 9 rfl rfl)
theorem dL_law_572 : decode cL_law 572 = .ok (.ireturn, 1) := dk_172 (dk_at dksL_law_19 10 rfl rfl)
theorem dL_law_573 : decode cL_law 573 = .ok (.aload_n 1, 1) := dk_43 (dk_at dksL_law_19 11 rfl rfl)
theorem dL_law_574 : decode cL_law 574 = .ok (.aload_n 0, 1) := dk_42 (dk_at dksL_law_19 12 rfl rfl)
theorem dL_law_575 : decode cL_law 575 = .ok (.iload 4, 2) := dk_21 4 (dk_at dksL_law_19 13 rfl rfl)
theorem dL_law_577 : decode cL_law 577 = .ok (.iconst 1, 1) := dk_4 (dk_at dksL_law_19 15 rfl rfl)
theorem dL_law_578 : decode cL_law 578 = .ok (.iadd, 1) := dk_96 (dk_at dksL_law_19 16 rfl rfl)
theorem dL_law_579 : decode cL_law 579 = .ok (.iaload, 1) := dk_46 (dk_at dksL_law_19 17 rfl rfl)
theorem dL_law_580 : decode cL_law 580 = .ok (.aload_n 0, 1) := dk_42 (dk_at dksL_law_19 18 rfl rfl)
theorem dL_law_581 : decode cL_law 581 = .ok (.iload 4, 2) := dk_21 4 (dk_at dksL_law_19 19 rfl rfl)
theorem dL_law_583 : decode cL_law 583 = .ok (.iconst 2, 1) := dk_5 (dk_at dksL_law_19 21 rfl rfl)
theorem dL_law_584 : decode cL_law 584 = .ok (.iadd, 1) := dk_96 (dk_at dksL_law_19 22 rfl rfl)
theorem dL_law_585 : decode cL_law 585 = .ok (.iaload, 1) := dk_46 (dk_at dksL_law_19 23 rfl rfl)
theorem dL_law_586 : decode cL_law 586 = .ok (.aload_n 0, 1) := dk_42 (dk_at dksL_law_20 0 rfl rfl)
theorem dL_law_587 : decode cL_law 587 = .ok (.iload 4, 2) := dk_21 4 (dk_at dksL_law_20 1 rfl rfl)
theorem dL_law_589 : decode cL_law 589 = .ok (.iconst 3, 1) := dk_6 (dk_at dksL_law_20 3 rfl rfl)
theorem dL_law_590 : decode cL_law 590 = .ok (.iadd, 1) := dk_96 (dk_at dksL_law_20 4 rfl rfl)
theorem dL_law_591 : decode cL_law 591 = .ok (.iaload, 1) := dk_46 (dk_at dksL_law_20 5 rfl rfl)
theorem dL_law_592 : decode cL_law 592 = .ok (.invokevirtual 67, 3) := dk_182 0 67 (dk_at dksL_law_20 6 rfl rfl)
theorem dL_law_595 : decode cL_law 595 = .ok (.aload_n 2, 1) := dk_44 (dk_at dksL_law_20 9 rfl rfl)
theorem dL_law_596 : decode cL_law 596 = .ok (.aload_n 0, 1) := dk_42 (dk_at dksL_law_20 10 rfl rfl)
theorem dL_law_597 : decode cL_law 597 = .ok (.iload 4, 2) := dk_21 4 (dk_at dksL_law_20 11 rfl rfl)
theorem dL_law_599 : decode cL_law 599 = .ok (.iconst 1, 1) := dk_4 (dk_at dksL_law_20 13 rfl rfl)
theorem dL_law_600 : decode cL_law 600 = .ok (.iadd, 1) := dk_96 (dk_at dksL_law_20 14 rfl rfl)
theorem dL_law_601 : decode cL_law 601 = .ok (.iaload, 1) := dk_46 (dk_at dksL_law_20 15 rfl rfl)
theorem dL_law_602 : decode cL_law 602 = .ok (.aload_n 0, 1) := dk_42 (dk_at dksL_law_20 16 rfl rfl)
theorem dL_law_603 : decode cL_law 603 = .ok (.iload 4, 2) := dk_21 4 (dk_at dksL_law_20 17 rfl rfl)
theorem dL_law_605 : decode cL_law 605 = .ok (.iconst 2, 1) := dk_5 (dk_at dksL_law_20 19 rfl rfl)
theorem dL_law_606 : decode cL_law 606 = .ok (.iadd, 1) := dk_96 (dk_at dksL_law_20 20 rfl rfl)
theorem dL_law_607 : decode cL_law 607 = .ok (.iaload, 1) := dk_46 (dk_at dksL_law_20 21 rfl rfl)
theorem dL_law_608 : decode cL_law 608 = .ok (.aload_n 0, 1) := dk_42 (dk_at dksL_law_20 22 rfl rfl)
theorem dL_law_609 : decode cL_law 609 = .ok (.iload 4, 2) := dk_21 4 (dk_at dksL_law_21 0 rfl rfl)
theorem dL_law_611 : decode cL_law 611 = .ok (.iconst 3, 1) := dk_6 (dk_at dksL_law_21 2 rfl rfl)
theorem dL_law_612 : decode cL_law 612 = .ok (.iadd, 1) := dk_96 (dk_at dksL_law_21 3 rfl rfl)
theorem dL_law_613 : decode cL_law 613 = .ok (.iaload, 1) := dk_46 (dk_at dksL_law_21 4 rfl rfl)
theorem dL_law_614 : decode cL_law 614 = .ok (.invokevirtual 70, 3) := dk_182 0 70 (dk_at dksL_law_21 5 rfl rfl)
theorem dL_law_617 : decode cL_law 617 = .ok (.if_icmp .eq 690, 3) := dk_159 2 178 (dk_at dksL_law_21 8 rfl rfl)
theorem dL_law_620 : decode cL_law 620 = .ok (.iconst 0, 1) := dk_3 (dk_at dksL_law_21 11 rfl rfl)
theorem dL_law_621 : decode cL_law 621 = .ok (.ireturn, 1) := dk_172 (dk_at dksL_law_21 12 rfl rfl)
theorem dL_law_622 : decode cL_law 622 = .ok (.aload_n 1, 1) := dk_43 (dk_at dksL_law_21 13 rfl rfl)
theorem dL_law_623 : decode cL_law 623 = .ok (.aload_n 0, 1) := dk_42 (dk_at dksL_law_21 14 rfl rfl)
theorem dL_law_624 : decode cL_law 624 = .ok (.iload 4, 2) := dk_21 4 (dk_at dksL_law_21 15 rfl rfl)
theorem dL_law_626 : decode cL_law 626 = .ok (.iconst 1, 1) := dk_4 (dk_at dksL_law_21 17 rfl rfl)
theorem dL_law_627 : decode cL_law 627 = .ok (.iadd, 1) := dk_96 (dk_at dksL_law_21 18 rfl rfl)
theorem dL_law_628 : decode cL_law 628 = .ok (.iaload, 1) := dk_46 (dk_at dksL_law_21 19 rfl rfl)
theorem dL_law_629 : decode cL_law 629 = .ok (.aload_n 0, 1) := dk_42 (dk_at dksL_law_21 20 rfl rfl)
theorem dL_law_630 : decode cL_law 630 = .ok (.iload 4, 2) := dk_21 4 (dk_at dksL_law_21 21 rfl rfl)
theorem dL_law_632 : decode cL_law 632 = .ok (.iconst 2, 1) := dk_5 (dk_at dksL_law_21 23 rfl rfl)
theorem dL_law_633 : decode cL_law 633 = .ok (.iadd, 1) := dk_96 (dk_at dksL_law_22 0 rfl rfl)
theorem dL_law_634 : decode cL_law 634 = .ok (.iaload, 1) := dk_46 (dk_at dksL_law_22 1 rfl rfl)
theorem dL_law_635 : decode cL_law 635 = .ok (.aload_n 0, 1) := dk_42 (dk_at dksL_law_22 2 rfl rfl)
theorem dL_law_636 : decode cL_law 636 = .ok (.iload 4, 2) := dk_21 4 (dk_at dksL_law_22 3 rfl rfl)
theorem dL_law_638 : decode cL_law 638 = .ok (.iconst 3, 1) := dk_6 (dk_at dksL_law_22 5 rfl rfl)
theorem dL_law_639 : decode cL_law 639 = .ok (.iadd, 1) := dk_96 (dk_at dksL_law_22 6 rfl rfl)
theorem dL_law_640 : decode cL_law 640 = .ok (.iaload, 1) := dk_46 (dk_at dksL_law_22 7 rfl rfl)
theorem dL_law_641 : decode cL_law 641 = .ok (.invokevirtual 71, 3) := dk_182 0 71 (dk_at dksL_law_22 8 rfl rfl)
theorem dL_law_644 : decode cL_law 644 = .ok (.aload_n 2, 1) := dk_44 (dk_at dksL_law_22 11 rfl rfl)
theorem dL_law_645 : decode cL_law 645 = .ok (.aload_n 0, 1) := dk_42 (dk_at dksL_law_22 12 rfl rfl)
theorem dL_law_646 : decode cL_law 646 = .ok (.iload 4, 2) := dk_21 4 (dk_at dksL_law_22 13 rfl rfl)
theorem dL_law_648 : decode cL_law 648 = .ok (.iconst 1, 1) := dk_4 (dk_at dksL_law_22 15 rfl rfl)
theorem dL_law_649 : decode cL_law 649 = .ok (.iadd, 1) := dk_96 (dk_at dksL_law_22 16 rfl rfl)
theorem dL_law_650 : decode cL_law 650 = .ok (.iaload, 1) := dk_46 (dk_at dksL_law_22 17 rfl rfl)
theorem dL_law_651 : decode cL_law 651 = .ok (.aload_n 0, 1) := dk_42 (dk_at dksL_law_22 18 rfl rfl)
theorem dL_law_652 : decode cL_law 652 = .ok (.iload 4, 2) := dk_21 4 (dk_at dksL_law_22 19 rfl rfl)
theorem dL_law_654 : decode cL_law 654 = .ok (.iconst 2, 1) := dk_5 (dk_at dksL_law_22 21 rfl rfl)
theorem dL_law_655 : decode cL_law 655 = .ok (.iadd, 1) := dk_96 (dk_at dksL_law_22 22 rfl rfl)
theorem dL_law_656 : decode cL_law 656 = .ok (.iaload, 1) := dk_46 (dk_at dksL_law_22 23 rfl rfl)
theorem dL_law_657 : decode cL_law 657 = .ok (.aload_n 0, 1) := dk_42 (dk_at dksL_law_23 0 rfl rfl)
theorem dL_law_658 : decode cL_law 658 = .ok (.iload 4, 2) := dk_21 4 (dk_at dksL_law_23 1 rfl rfl)
theorem dL_law_660 : decode cL_law 660 = .ok (.iconst 3, 1) := dk_6 (dk_at dksL_law_23 3 rfl rfl)
theorem dL_law_661 : decode cL_law 661 = .ok (.iadd, 1) := dk_96 (dk_at dksL_law_23 4 rfl rfl)
theorem dL_law_662 : decode cL_law 662 = .ok (.iaload, 1) := dk_46 (dk_at dksL_law_23 5 rfl rfl)
theorem dL_law_663 : decode cL_law 663 = .ok (.invokevirtual 74, 3) := dk_182 0 74 (dk_at dksL_law_23 6 rfl rfl)
theorem dL_law_666 : decode cL_law 666 = .ok (.if_icmp .eq 641, 3) := dk_159 2 129 (dk_at dksL_law_23 9 rfl rfl)
theorem dL_law_669 : decode cL_law 669 = .ok (.iconst 0, 1) := dk_3 (dk_at dksL_law_23 12 rfl rfl)
theorem dL_law_670 : decode cL_law 670 = .ok (.ireturn, 1) := dk_172 (dk_at dksL_law_23 13 rfl rfl)
theorem dL_law_671 : decode cL_law 671 = .ok (.aload_n 1, 1) := dk_43 (dk_at dksL_law_23 14 rfl rfl)
theorem dL_law_672 : decode cL_law 672 = .ok (.aload_n 0, 1) := dk_42 (dk_at dksL_law_23 15 rfl rfl)
theorem dL_law_673 : decode cL_law 673 = .ok (.iload 4, 2) := dk_21 4 (dk_at dksL_law_23 16 rfl rfl)
theorem dL_law_675 : decode cL_law 675 = .ok (.iconst 1, 1) := dk_4 (dk_at dksL_law_23 18 rfl rfl)
theorem dL_law_676 : decode cL_law 676 = .ok (.iadd, 1) := dk_96 (dk_at dksL_law_23 19 rfl rfl)
theorem dL_law_677 : decode cL_law 677 = .ok (.iaload, 1) := dk_46 (dk_at dksL_law_23 20 rfl rfl)
theorem dL_law_678 : decode cL_law 678 = .ok (.invokevirtual 75, 3) := dk_182 0 75 (dk_at dksL_law_23 21 rfl rfl)
theorem dL_law_681 : decode cL_law 681 = .ok (.aload_n 2, 1) := dk_44 (dk_at dksL_law_24 0 rfl rfl)
theorem dL_law_682 : decode cL_law 682 = .ok (.aload_n 0, 1) := dk_42 (dk_at dksL_law_24 1 rfl rfl)
theorem dL_law_683 : decode cL_law 683 = .ok (.iload 4, 2) := dk_21 4 (dk_at dksL_law_24 2 rfl rfl)
theorem dL_law_685 : decode cL_law 685 = .ok (.iconst 1, 1) := dk_4 (dk_at dksL_law_24 4 rfl rfl)
theorem dL_law_686 : decode cL_law 686 = .ok (.iadd, 1) := dk_96 (dk_at dksL_law_24 5 rfl rfl)
theorem dL_law_687 : decode cL_law 687 = .ok (.iaload, 1) := dk_46 (dk_at dksL_law_24 6 rfl rfl)
theorem dL_law_688 : decode cL_law 688 = .ok (.invokevirtual 78, 3) := dk_182 0 78 (dk_at dksL_law_24 7 rfl rfl)
theorem dL_law_691 : decode cL_law 691 = .ok (.if_icmp .eq 616, 3) := dk_159 2 104 (dk_at dksL_law_24 10 rfl rfl)
theorem dL_law_694 : decode cL_law 694 = .ok (.iconst 0, 1) := dk_3 (dk_at dksL_law_24 13 rfl rfl)
theorem dL_law_695 : decode cL_law 695 = .ok (.ireturn, 1) := dk_172 (dk_at dksL_law_24 14 rfl rfl)
theorem dL_law_696 : decode cL_law 696 = .ok (.aload_n 1, 1) := dk_43 (dk_at dksL_law_24 15 rfl rfl)
theorem dL_law_697 : decode cL_law 697 = .ok (.aload_n 0, 1) := dk_42 (dk_at dksL_law_24 16 rfl rfl)
theorem dL_law_698 : decode cL_law 698 = .ok (.iload 4, 2) := dk_21 4 (dk_at dksL_law_24 17 rfl rfl)
theorem dL_law_700 : decode cL_law 700 = .ok (.iconst 1, 1) := dk_4 (dk_at dksL_law_24 19 rfl rfl)
theorem dL_law_701 : decode cL_law 701 = .ok (.iadd, 1) := dk_96 (dk_at dksL_law_24 20 rfl rfl)
theorem dL_law_702 : decode cL_law 702 = .ok (.iaload, 1) := dk_46 (dk_at dksL_law_24 21 rfl rfl)
theorem dL_law_703 : decode cL_law 703 = .ok (.aload_n 0, 1) := dk_42 (dk_at dksL_law_24 22 rfl rfl)
theorem dL_law_704 : decode cL_law 704 = .ok (.iload 4, 2) := dk_21 4 (dk_at dksL_law_25 0 rfl rfl)
theorem dL_law_706 : decode cL_law 706 = .ok (.iconst 2, 1) := dk_5 (dk_at dksL_law_25 2 rfl rfl)
theorem dL_law_707 : decode cL_law 707 = .ok (.iadd, 1) := dk_96 (dk_at dksL_law_25 3 rfl rfl)
theorem dL_law_708 : decode cL_law 708 = .ok (.iaload, 1) := dk_46 (dk_at dksL_law_25 4 rfl rfl)
theorem dL_law_709 : decode cL_law 709 = .ok (.aload_n 0, 1) := dk_42 (dk_at dksL_law_25 5 rfl rfl)
theorem dL_law_710 : decode cL_law 710 = .ok (.iload 4, 2) := dk_21 4 (dk_at dksL_law_25 6 rfl rfl)
theorem dL_law_712 : decode cL_law 712 = .ok (.iconst 3, 1) := dk_6 (dk_at dksL_law_25 8 rfl rfl)
theorem dL_law_713 : decode cL_law 713 = .ok (.iadd, 1) := dk_96 (dk_at dksL_law_25 9 rfl rfl)
theorem dL_law_714 : decode cL_law 714 = .ok (.iaload, 1) := dk_46 (dk_at dksL_law_25 10 rfl rfl)
theorem dL_law_715 : decode cL_law 715 = .ok (.invokevirtual 79, 3) := dk_182 0 79 (dk_at dksL_law_25 11 rfl rfl)
theorem dL_law_718 : decode cL_law 718 = .ok (.aload_n 2, 1) := dk_44 (dk_at dksL_law_25 14 rfl rfl)
theorem dL_law_719 : decode cL_law 719 = .ok (.aload_n 0, 1) := dk_42 (dk_at dksL_law_25 15 rfl rfl)
theorem dL_law_720 : decode cL_law 720 = .ok (.iload 4, 2) := dk_21 4 (dk_at dksL_law_25 16 rfl rfl)
theorem dL_law_722 : decode cL_law 722 = .ok (.iconst 1, 1) := dk_4 (dk_at dksL_law_25 18 rfl rfl)
theorem dL_law_723 : decode cL_law 723 = .ok (.iadd, 1) := dk_96 (dk_at dksL_law_25 19 rfl rfl)
theorem dL_law_724 : decode cL_law 724 = .ok (.iaload, 1) := dk_46 (dk_at dksL_law_25 20 rfl rfl)
theorem dL_law_725 : decode cL_law 725 = .ok (.aload_n 0, 1) := dk_42 (dk_at dksL_law_25 21 rfl rfl)
theorem dL_law_726 : decode cL_law 726 = .ok (.iload 4, 2) := dk_21 4 (dk_at dksL_law_25 22 rfl rfl)
theorem dL_law_728 : decode cL_law 728 = .ok (.iconst 2, 1) := dk_5 (dk_at dksL_law_26 0 rfl rfl)
theorem dL_law_729 : decode cL_law 729 = .ok (.iadd, 1) := dk_96 (dk_at dksL_law_26 1 rfl rfl)
theorem dL_law_730 : decode cL_law 730 = .ok (.iaload, 1) := dk_46 (dk_at dksL_law_26 2 rfl rfl)
theorem dL_law_731 : decode cL_law 731 = .ok (.aload_n 0, 1) := dk_42 (dk_at dksL_law_26 3 rfl rfl)
theorem dL_law_732 : decode cL_law 732 = .ok (.iload 4, 2) := dk_21 4 (dk_at dksL_law_26 4 rfl rfl)
theorem dL_law_734 : decode cL_law 734 = .ok (.iconst 3, 1) := dk_6 (dk_at dksL_law_26 6 rfl rfl)
theorem dL_law_735 : decode cL_law 735 = .ok (.iadd, 1) := dk_96 (dk_at dksL_law_26 7 rfl rfl)
theorem dL_law_736 : decode cL_law 736 = .ok (.iaload, 1) := dk_46 (dk_at dksL_law_26 8 rfl rfl)
theorem dL_law_737 : decode cL_law 737 = .ok (.invokevirtual 82, 3) := dk_182 0 82 (dk_at dksL_law_26 9 rfl rfl)
theorem dL_law_740 : decode cL_law 740 = .ok (.if_icmp .eq 567, 3) := dk_159 2 55 (dk_at dksL_law_26 12 rfl rfl)
theorem dL_law_743 : decode cL_law 743 = .ok (.iconst 0, 1) := dk_3 (dk_at dksL_law_26 15 rfl rfl)
theorem dL_law_744 : decode cL_law 744 = .ok (.ireturn, 1) := dk_172 (dk_at dksL_law_26 16 rfl rfl)
theorem dL_law_745 : decode cL_law 745 = .ok (.aload_n 1, 1) := dk_43 (dk_at dksL_law_26 17 rfl rfl)
theorem dL_law_746 : decode cL_law 746 = .ok (.aload_n 0, 1) := dk_42 (dk_at dksL_law_26 18 rfl rfl)
theorem dL_law_747 : decode cL_law 747 = .ok (.iload 4, 2) := dk_21 4 (dk_at dksL_law_26 19 rfl rfl)
theorem dL_law_749 : decode cL_law 749 = .ok (.iconst 1, 1) := dk_4 (dk_at dksL_law_26 21 rfl rfl)
theorem dL_law_750 : decode cL_law 750 = .ok (.iadd, 1) := dk_96 (dk_at dksL_law_26 22 rfl rfl)
theorem dL_law_751 : decode cL_law 751 = .ok (.iaload, 1) := dk_46 (dk_at dksL_law_26 23 rfl rfl)
theorem dL_law_752 : decode cL_law 752 = .ok (.aload_n 0, 1) := dk_42 (dk_at dksL_law_27 0 rfl rfl)
theorem dL_law_753 : decode cL_law 753 = .ok (.iload 4, 2) := dk_21 4 (dk_at dksL_law_27 1 rfl rfl)
theorem dL_law_755 : decode cL_law 755 = .ok (.iconst 2, 1) := dk_5 (dk_at dksL_law_27 3 rfl rfl)
theorem dL_law_756 : decode cL_law 756 = .ok (.iadd, 1) := dk_96 (dk_at dksL_law_27 4 rfl rfl)
theorem dL_law_757 : decode cL_law 757 = .ok (.iaload, 1) := dk_46 (dk_at dksL_law_27 5 rfl rfl)
theorem dL_law_758 : decode cL_law 758 = .ok (.invokevirtual 83, 3) := dk_182 0 83 (dk_at dksL_law_27 6 rfl rfl)
theorem dL_law_761 : decode cL_law 761 = .ok (.aload_n 2, 1) := dk_44 (dk_at dksL_law_27 9 rfl rfl)
theorem dL_law_762 : decode cL_law 762 = .ok (.aload_n 0, 1) := dk_42 (dk_at dksL_law_27 10 rfl rfl)
theorem dL_law_763 : decode cL_law 763 = .ok (.iload 4, 2) := dk_21 4 (dk_at dksL_law_27 11 rfl rfl)
theorem dL_law_765 : decode cL_law 765 = .ok (.iconst 1, 1) := dk_4 (dk_at dksL_law_27 13 rfl rfl)
theorem dL_law_766 : decode cL_law 766 = .ok (.iadd, 1) := dk_96 (dk_at dksL_law_27 14 rfl rfl)
theorem dL_law_767 : decode cL_law 767 = .ok (.iaload, 1) := dk_46 (dk_at dksL_law_27 15 rfl rfl)
theorem dL_law_768 : decode cL_law 768 = .ok (.aload_n 0, 1) := dk_42 (dk_at dksL_law_27 16 rfl rfl)
theorem dL_law_769 : decode cL_law 769 = .ok (.iload 4, 2) := dk_21 4 (dk_at dksL_law_27 17 rfl rfl)
theorem dL_law_771 : decode cL_law 771 = .ok (.iconst 2, 1) := dk_5 (dk_at dksL_law_27 19 rfl rfl)
theorem dL_law_772 : decode cL_law 772 = .ok (.iadd, 1) := dk_96 (dk_at dksL_law_27 20 rfl rfl)
theorem dL_law_773 : decode cL_law 773 = .ok (.iaload, 1) := dk_46 (dk_at dksL_law_27 21 rfl rfl)
theorem dL_law_774 : decode cL_law 774 = .ok (.invokevirtual 87, 3) := dk_182 0 87 (dk_at dksL_law_28 0 rfl rfl)
theorem dL_law_777 : decode cL_law 777 = .ok (.if_icmp .eq 530, 3) := dk_159 2 18 (dk_at dksL_law_28 3 rfl rfl)
theorem dL_law_780 : decode cL_law 780 = .ok (.iconst 0, 1) := dk_3 (dk_at dksL_law_28 6 rfl rfl)
theorem dL_law_781 : decode cL_law 781 = .ok (.ireturn, 1) := dk_172 (dk_at dksL_law_28 7 rfl rfl)
theorem dL_law_782 : decode cL_law 782 = .ok (.aload_n 1, 1) := dk_43 (dk_at dksL_law_28 8 rfl rfl)
theorem dL_law_783 : decode cL_law 783 = .ok (.aload_n 0, 1) := dk_42 (dk_at dksL_law_28 9 rfl rfl)
theorem dL_law_784 : decode cL_law 784 = .ok (.iload 4, 2) := dk_21 4 (dk_at dksL_law_28 10 rfl rfl)
theorem dL_law_786 : decode cL_law 786 = .ok (.iconst 1, 1) := dk_4 (dk_at dksL_law_28 12 rfl rfl)
theorem dL_law_787 : decode cL_law 787 = .ok (.iadd, 1) := dk_96 (dk_at dksL_law_28 13 rfl rfl)
theorem dL_law_788 : decode cL_law 788 = .ok (.iaload, 1) := dk_46 (dk_at dksL_law_28 14 rfl rfl)
theorem dL_law_789 : decode cL_law 789 = .ok (.aload_n 0, 1) := dk_42 (dk_at dksL_law_28 15 rfl rfl)
theorem dL_law_790 : decode cL_law 790 = .ok (.iload 4, 2) := dk_21 4 (dk_at dksL_law_28 16 rfl rfl)
theorem dL_law_792 : decode cL_law 792 = .ok (.iconst 2, 1) := dk_5 (dk_at dksL_law_28 18 rfl rfl)
theorem dL_law_793 : decode cL_law 793 = .ok (.iadd, 1) := dk_96 (dk_at dksL_law_28 19 rfl rfl)
theorem dL_law_794 : decode cL_law 794 = .ok (.iaload, 1) := dk_46 (dk_at dksL_law_28 20 rfl rfl)
theorem dL_law_795 : decode cL_law 795 = .ok (.aload_n 0, 1) := dk_42 (dk_at dksL_law_28 21 rfl rfl)
theorem dL_law_796 : decode cL_law 796 = .ok (.iload 4, 2) := dk_21 4 (dk_at dksL_law_28 22 rfl rfl)
theorem dL_law_798 : decode cL_law 798 = .ok (.iconst 3, 1) := dk_6 (dk_at dksL_law_29 0 rfl rfl)
theorem dL_law_799 : decode cL_law 799 = .ok (.iadd, 1) := dk_96 (dk_at dksL_law_29 1 rfl rfl)
theorem dL_law_800 : decode cL_law 800 = .ok (.iaload, 1) := dk_46 (dk_at dksL_law_29 2 rfl rfl)
theorem dL_law_801 : decode cL_law 801 = .ok (.invokevirtual 88, 3) := dk_182 0 88 (dk_at dksL_law_29 3 rfl rfl)
theorem dL_law_804 : decode cL_law 804 = .ok (.aload_n 2, 1) := dk_44 (dk_at dksL_law_29 6 rfl rfl)
theorem dL_law_805 : decode cL_law 805 = .ok (.aload_n 0, 1) := dk_42 (dk_at dksL_law_29 7 rfl rfl)
theorem dL_law_806 : decode cL_law 806 = .ok (.iload 4, 2) := dk_21 4 (dk_at dksL_law_29 8 rfl rfl)
theorem dL_law_808 : decode cL_law 808 = .ok (.iconst 1, 1) := dk_4 (dk_at dksL_law_29 10 rfl rfl)
theorem dL_law_809 : decode cL_law 809 = .ok (.iadd, 1) := dk_96 (dk_at dksL_law_29 11 rfl rfl)
theorem dL_law_810 : decode cL_law 810 = .ok (.iaload, 1) := dk_46 (dk_at dksL_law_29 12 rfl rfl)
theorem dL_law_811 : decode cL_law 811 = .ok (.aload_n 0, 1) := dk_42 (dk_at dksL_law_29 13 rfl rfl)
theorem dL_law_812 : decode cL_law 812 = .ok (.iload 4, 2) := dk_21 4 (dk_at dksL_law_29 14 rfl rfl)
theorem dL_law_814 : decode cL_law 814 = .ok (.iconst 2, 1) := dk_5 (dk_at dksL_law_29 16 rfl rfl)
theorem dL_law_815 : decode cL_law 815 = .ok (.iadd, 1) := dk_96 (dk_at dksL_law_29 17 rfl rfl)
theorem dL_law_816 : decode cL_law 816 = .ok (.iaload, 1) := dk_46 (dk_at dksL_law_29 18 rfl rfl)
theorem dL_law_817 : decode cL_law 817 = .ok (.aload_n 0, 1) := dk_42 (dk_at dksL_law_29 19 rfl rfl)
theorem dL_law_818 : decode cL_law 818 = .ok (.iload 4, 2) := dk_21 4 (dk_at dksL_law_29 20 rfl rfl)
theorem dL_law_820 : decode cL_law 820 = .ok (.iconst 3, 1) := dk_6 (dk_at dksL_law_29 22 rfl rfl)
theorem dL_law_821 : decode cL_law 821 = .ok (.iadd, 1) := dk_96 (dk_at dksL_law_29 23 rfl rfl)
theorem dL_law_822 : decode cL_law 822 = .ok (.iaload, 1) := dk_46 (dk_at dksL_law_30 0 rfl rfl)
theorem dL_law_823 : decode cL_law 823 = .ok (.invokevirtual 91, 3) := dk_182 0 91 (dk_at dksL_law_30 1 rfl rfl)
theorem dL_law_826 : decode cL_law 826 = .ok (.if_icmp .eq 481, 3) := dk_159 1 225 (dk_at dksL_law_30 4 rfl rfl)
theorem dL_law_829 : decode cL_law 829 = .ok (.iconst 0, 1) := dk_3 (dk_at dksL_law_30 7 rfl rfl)
theorem dL_law_830 : decode cL_law 830 = .ok (.ireturn, 1) := dk_172 (dk_at dksL_law_30 8 rfl rfl)
theorem dL_law_831 : decode cL_law 831 = .ok (.aload_n 1, 1) := dk_43 (dk_at dksL_law_30 9 rfl rfl)
theorem dL_law_832 : decode cL_law 832 = .ok (.aload_n 0, 1) := dk_42 (dk_at dksL_law_30 10 rfl rfl)
theorem dL_law_833 : decode cL_law 833 = .ok (.iload 4, 2) := dk_21 4 (dk_at dksL_law_30 11 rfl rfl)
theorem dL_law_835 : decode cL_law 835 = .ok (.iconst 1, 1) := dk_4 (dk_at dksL_law_30 13 rfl rfl)
theorem dL_law_836 : decode cL_law 836 = .ok (.iadd, 1) := dk_96 (dk_at dksL_law_30 14 rfl rfl)
theorem dL_law_837 : decode cL_law 837 = .ok (.iaload, 1) := dk_46 (dk_at dksL_law_30 15 rfl rfl)
theorem dL_law_838 : decode cL_law 838 = .ok (.aload_n 0, 1) := dk_42 (dk_at dksL_law_30 16 rfl rfl)
theorem dL_law_839 : decode cL_law 839 = .ok (.iload 4, 2) := dk_21 4 (dk_at dksL_law_30 17 rfl rfl)
theorem dL_law_841 : decode cL_law 841 = .ok (.iconst 2, 1) := dk_5 (dk_at dksL_law_30 19 rfl rfl)
theorem dL_law_842 : decode cL_law 842 = .ok (.iadd, 1) := dk_96 (dk_at dksL_law_30 20 rfl rfl)
theorem dL_law_843 : decode cL_law 843 = .ok (.iaload, 1) := dk_46 (dk_at dksL_law_30 21 rfl rfl)
theorem dL_law_844 : decode cL_law 844 = .ok (.invokevirtual 92, 3) := dk_182 0 92 (dk_at dksL_law_31 0 rfl rfl)
theorem dL_law_847 : decode cL_law 847 = .ok (.aload_n 2, 1) := dk_44 (dk_at dksL_law_31 3 rfl rfl)
theorem dL_law_848 : decode cL_law 848 = .ok (.aload_n 0, 1) := dk_42 (dk_at dksL_law_31 4 rfl rfl)
theorem dL_law_849 : decode cL_law 849 = .ok (.iload 4, 2) := dk_21 4 (dk_at dksL_law_31 5 rfl rfl)
theorem dL_law_851 : decode cL_law 851 = .ok (.iconst 1, 1) := dk_4 (dk_at dksL_law_31 7 rfl rfl)
theorem dL_law_852 : decode cL_law 852 = .ok (.iadd, 1) := dk_96 (dk_at dksL_law_31 8 rfl rfl)
theorem dL_law_853 : decode cL_law 853 = .ok (.iaload, 1) := dk_46 (dk_at dksL_law_31 9 rfl rfl)
theorem dL_law_854 : decode cL_law 854 = .ok (.aload_n 0, 1) := dk_42 (dk_at dksL_law_31 10 rfl rfl)
theorem dL_law_855 : decode cL_law 855 = .ok (.iload 4, 2) := dk_21 4 (dk_at dksL_law_31 11 rfl rfl)
theorem dL_law_857 : decode cL_law 857 = .ok (.iconst 2, 1) := dk_5 (dk_at dksL_law_31 13 rfl rfl)
theorem dL_law_858 : decode cL_law 858 = .ok (.iadd, 1) := dk_96 (dk_at dksL_law_31 14 rfl rfl)
theorem dL_law_859 : decode cL_law 859 = .ok (.iaload, 1) := dk_46 (dk_at dksL_law_31 15 rfl rfl)
theorem dL_law_860 : decode cL_law 860 = .ok (.invokevirtual 95, 3) := dk_182 0 95 (dk_at dksL_law_31 16 rfl rfl)
theorem dL_law_863 : decode cL_law 863 = .ok (.if_icmp .eq 444, 3) := dk_159 1 188 (dk_at dksL_law_31 19 rfl rfl)
theorem dL_law_866 : decode cL_law 866 = .ok (.iconst 0, 1) := dk_3 (dk_at dksL_law_31 22 rfl rfl)
theorem dL_law_867 : decode cL_law 867 = .ok (.ireturn, 1) := dk_172 (dk_at dksL_law_31 23 rfl rfl)
theorem dL_law_868 : decode cL_law 868 = .ok (.aload_n 1, 1) := dk_43 (dk_at dksL_law_32 0 rfl rfl)
theorem dL_law_869 : decode cL_law 869 = .ok (.aload_n 0, 1) := dk_42 (dk_at dksL_law_32 1 rfl rfl)
theorem dL_law_870 : decode cL_law 870 = .ok (.iload 4, 2) := dk_21 4 (dk_at dksL_law_32 2 rfl rfl)
theorem dL_law_872 : decode cL_law 872 = .ok (.iconst 1, 1) := dk_4 (dk_at dksL_law_32 4 rfl rfl)
theorem dL_law_873 : decode cL_law 873 = .ok (.iadd, 1) := dk_96 (dk_at dksL_law_32 5 rfl rfl)
theorem dL_law_874 : decode cL_law 874 = .ok (.iaload, 1) := dk_46 (dk_at dksL_law_32 6 rfl rfl)
theorem dL_law_875 : decode cL_law 875 = .ok (.aload_n 0, 1) := dk_42 (dk_at dksL_law_32 7 rfl rfl)
theorem dL_law_876 : decode cL_law 876 = .ok (.iload 4, 2) := dk_21 4 (dk_at dksL_law_32 8 rfl rfl)
theorem dL_law_878 : decode cL_law 878 = .ok (.iconst 2, 1) := dk_5 (dk_at dksL_law_32 10 rfl rfl)
theorem dL_law_879 : decode cL_law 879 = .ok (.iadd, 1) := dk_96 (dk_at dksL_law_32 11 rfl rfl)
theorem dL_law_880 : decode cL_law 880 = .ok (.iaload, 1) := dk_46 (dk_at dksL_law_32 12 rfl rfl)
theorem dL_law_881 : decode cL_law 881 = .ok (.aload_n 0, 1) := dk_42 (dk_at dksL_law_32 13 rfl rfl)
theorem dL_law_882 : decode cL_law 882 = .ok (.iload 4, 2) := dk_21 4 (dk_at dksL_law_32 14 rfl rfl)
theorem dL_law_884 : decode cL_law 884 = .ok (.iconst 3, 1) := dk_6 (dk_at dksL_law_32 16 rfl rfl)
theorem dL_law_885 : decode cL_law 885 = .ok (.iadd, 1) := dk_96 (dk_at dksL_law_32 17 rfl rfl)
theorem dL_law_886 : decode cL_law 886 = .ok (.iaload, 1) := dk_46 (dk_at dksL_law_32 18 rfl rfl)
theorem dL_law_887 : decode cL_law 887 = .ok (.invokevirtual 96, 3) := dk_182 0 96 (dk_at dksL_law_32 19 rfl rfl)
theorem dL_law_890 : decode cL_law 890 = .ok (.aload_n 2, 1) := dk_44 (dk_at dksL_law_32 22 rfl rfl)
theorem dL_law_891 : decode cL_law 891 = .ok (.aload_n 0, 1) := dk_42 (dk_at dksL_law_32 23 rfl rfl)
theorem dL_law_892 : decode cL_law 892 = .ok (.iload 4, 2) := dk_21 4 (dk_at dksL_law_33 0 rfl rfl)
theorem dL_law_894 : decode cL_law 894 = .ok (.iconst 1, 1) := dk_4 (dk_at dksL_law_33 2 rfl rfl)
theorem dL_law_895 : decode cL_law 895 = .ok (.iadd, 1) := dk_96 (dk_at dksL_law_33 3 rfl rfl)
theorem dL_law_896 : decode cL_law 896 = .ok (.iaload, 1) := dk_46 (dk_at dksL_law_33 4 rfl rfl)
theorem dL_law_897 : decode cL_law 897 = .ok (.aload_n 0, 1) := dk_42 (dk_at dksL_law_33 5 rfl rfl)
theorem dL_law_898 : decode cL_law 898 = .ok (.iload 4, 2) := dk_21 4 (dk_at dksL_law_33 6 rfl rfl)
theorem dL_law_900 : decode cL_law 900 = .ok (.iconst 2, 1) := dk_5 (dk_at dksL_law_33 8 rfl rfl)
theorem dL_law_901 : decode cL_law 901 = .ok (.iadd, 1) := dk_96 (dk_at dksL_law_33 9 rfl rfl)
theorem dL_law_902 : decode cL_law 902 = .ok (.iaload, 1) := dk_46 (dk_at dksL_law_33 10 rfl rfl)
theorem dL_law_903 : decode cL_law 903 = .ok (.aload_n 0, 1) := dk_42 (dk_at dksL_law_33 11 rfl rfl)
theorem dL_law_904 : decode cL_law 904 = .ok (.iload 4, 2) := dk_21 4 (dk_at dksL_law_33 12 rfl rfl)
theorem dL_law_906 : decode cL_law 906 = .ok (.iconst 3, 1) := dk_6 (dk_at dksL_law_33 14 rfl rfl)
theorem dL_law_907 : decode cL_law 907 = .ok (.iadd, 1) := dk_96 (dk_at dksL_law_33 15 rfl rfl)
theorem dL_law_908 : decode cL_law 908 = .ok (.iaload, 1) := dk_46 (dk_at dksL_law_33 16 rfl rfl)
theorem dL_law_909 : decode cL_law 909 = .ok (.invokevirtual 100, 3) := dk_182 0 100 (dk_at dksL_law_33 17 rfl rfl)
theorem dL_law_912 : decode cL_law 912 = .ok (.lcmp, 1) := dk_148 (dk_at dksL_law_33 20 rfl rfl)
theorem dL_law_913 : decode cL_law 913 = .ok (.ifCond .eq 394, 3) := dk_153 1 138 (dk_at dksL_law_33 21 rfl rfl)
theorem dL_law_916 : decode cL_law 916 = .ok (.iconst 0, 1) := dk_3 (dk_at dksL_law_34 0 rfl rfl)
theorem dL_law_917 : decode cL_law 917 = .ok (.ireturn, 1) := dk_172 (dk_at dksL_law_34 1 rfl rfl)
theorem dL_law_918 : decode cL_law 918 = .ok (.aload_n 1, 1) := dk_43 (dk_at dksL_law_34 2 rfl rfl)
theorem dL_law_919 : decode cL_law 919 = .ok (.aload_n 0, 1) := dk_42 (dk_at dksL_law_34 3 rfl rfl)
theorem dL_law_920 : decode cL_law 920 = .ok (.iload 4, 2) := dk_21 4 (dk_at dksL_law_34 4 rfl rfl)
theorem dL_law_922 : decode cL_law 922 = .ok (.iconst 1, 1) := dk_4 (dk_at dksL_law_34 6 rfl rfl)
theorem dL_law_923 : decode cL_law 923 = .ok (.iadd, 1) := dk_96 (dk_at dksL_law_34 7 rfl rfl)
theorem dL_law_924 : decode cL_law 924 = .ok (.iaload, 1) := dk_46 (dk_at dksL_law_34 8 rfl rfl)
theorem dL_law_925 : decode cL_law 925 = .ok (.aload_n 0, 1) := dk_42 (dk_at dksL_law_34 9 rfl rfl)
theorem dL_law_926 : decode cL_law 926 = .ok (.iload 4, 2) := dk_21 4 (dk_at dksL_law_34 10 rfl rfl)
theorem dL_law_928 : decode cL_law 928 = .ok (.iconst 2, 1) := dk_5 (dk_at dksL_law_34 12 rfl rfl)
theorem dL_law_929 : decode cL_law 929 = .ok (.iadd, 1) := dk_96 (dk_at dksL_law_34 13 rfl rfl)
theorem dL_law_930 : decode cL_law 930 = .ok (.iaload, 1) := dk_46 (dk_at dksL_law_34 14 rfl rfl)
theorem dL_law_931 : decode cL_law 931 = .ok (.invokevirtual 101, 3) := dk_182 0 101 (dk_at dksL_law_34 15 rfl rfl)
theorem dL_law_934 : decode cL_law 934 = .ok (.aload_n 2, 1) := dk_44 (dk_at dksL_law_34 18 rfl rfl)
theorem dL_law_935 : decode cL_law 935 = .ok (.aload_n 0, 1) := dk_42 (dk_at dksL_law_34 19 rfl rfl)
theorem dL_law_936 : decode cL_law 936 = .ok (.iload 4, 2) := dk_21 4 (dk_at dksL_law_34 20 rfl rfl)
theorem dL_law_938 : decode cL_law 938 = .ok (.iconst 1, 1) := dk_4 (dk_at dksL_law_34 22 rfl rfl)
theorem dL_law_939 : decode cL_law 939 = .ok (.iadd, 1) := dk_96 (dk_at dksL_law_34 23 rfl rfl)
theorem dL_law_940 : decode cL_law 940 = .ok (.iaload, 1) := dk_46 (dk_at dksL_law_35 0 rfl rfl)
theorem dL_law_941 : decode cL_law 941 = .ok (.aload_n 0, 1) := dk_42 (dk_at dksL_law_35 1 rfl rfl)
theorem dL_law_942 : decode cL_law 942 = .ok (.iload 4, 2) := dk_21 4 (dk_at dksL_law_35 2 rfl rfl)
theorem dL_law_944 : decode cL_law 944 = .ok (.iconst 2, 1) := dk_5 (dk_at dksL_law_35 4 rfl rfl)
theorem dL_law_945 : decode cL_law 945 = .ok (.iadd, 1) := dk_96 (dk_at dksL_law_35 5 rfl rfl)
theorem dL_law_946 : decode cL_law 946 = .ok (.iaload, 1) := dk_46 (dk_at dksL_law_35 6 rfl rfl)
theorem dL_law_947 : decode cL_law 947 = .ok (.invokevirtual 104, 3) := dk_182 0 104 (dk_at dksL_law_35 7 rfl rfl)
theorem dL_law_950 : decode cL_law 950 = .ok (.if_icmp .eq 357, 3) := dk_159 1 101 (dk_at dksL_law_35 10 rfl rfl)
theorem dL_law_953 : decode cL_law 953 = .ok (.iconst 0, 1) := dk_3 (dk_at dksL_law_35 13 rfl rfl)
theorem dL_law_954 : decode cL_law 954 = .ok (.ireturn, 1) := dk_172 (dk_at dksL_law_35 14 rfl rfl)
theorem dL_law_955 : decode cL_law 955 = .ok (.aload_n 1, 1) := dk_43 (dk_at dksL_law_35 15 rfl rfl)
theorem dL_law_956 : decode cL_law 956 = .ok (.aload_n 0, 1) := dk_42 (dk_at dksL_law_35 16 rfl rfl)
theorem dL_law_957 : decode cL_law 957 = .ok (.iload 4, 2) := dk_21 4 (dk_at dksL_law_35 17 rfl rfl)
theorem dL_law_959 : decode cL_law 959 = .ok (.iconst 1, 1) := dk_4 (dk_at dksL_law_35 19 rfl rfl)
theorem dL_law_960 : decode cL_law 960 = .ok (.iadd, 1) := dk_96 (dk_at dksL_law_35 20 rfl rfl)
theorem dL_law_961 : decode cL_law 961 = .ok (.iaload, 1) := dk_46 (dk_at dksL_law_35 21 rfl rfl)
theorem dL_law_962 : decode cL_law 962 = .ok (.aload_n 0, 1) := dk_42 (dk_at dksL_law_35 22 rfl rfl)
theorem dL_law_963 : decode cL_law 963 = .ok (.iload 4, 2) := dk_21 4 (dk_at dksL_law_36 0 rfl rfl)
theorem dL_law_965 : decode cL_law 965 = .ok (.iconst 2, 1) := dk_5 (dk_at dksL_law_36 2 rfl rfl)
theorem dL_law_966 : decode cL_law 966 = .ok (.iadd, 1) := dk_96 (dk_at dksL_law_36 3 rfl rfl)
theorem dL_law_967 : decode cL_law 967 = .ok (.iaload, 1) := dk_46 (dk_at dksL_law_36 4 rfl rfl)
theorem dL_law_968 : decode cL_law 968 = .ok (.invokevirtual 105, 3) := dk_182 0 105 (dk_at dksL_law_36 5 rfl rfl)
theorem dL_law_971 : decode cL_law 971 = .ok (.aload_n 2, 1) := dk_44 (dk_at dksL_law_36 8 rfl rfl)
theorem dL_law_972 : decode cL_law 972 = .ok (.aload_n 0, 1) := dk_42 (dk_at dksL_law_36 9 rfl rfl)
theorem dL_law_973 : decode cL_law 973 = .ok (.iload 4, 2) := dk_21 4 (dk_at dksL_law_36 10 rfl rfl)
theorem dL_law_975 : decode cL_law 975 = .ok (.iconst 1, 1) := dk_4 (dk_at dksL_law_36 12 rfl rfl)
theorem dL_law_976 : decode cL_law 976 = .ok (.iadd, 1) := dk_96 (dk_at dksL_law_36 13 rfl rfl)
theorem dL_law_977 : decode cL_law 977 = .ok (.iaload, 1) := dk_46 (dk_at dksL_law_36 14 rfl rfl)
theorem dL_law_978 : decode cL_law 978 = .ok (.aload_n 0, 1) := dk_42 (dk_at dksL_law_36 15 rfl rfl)
theorem dL_law_979 : decode cL_law 979 = .ok (.iload 4, 2) := dk_21 4 (dk_at dksL_law_36 16 rfl rfl)
theorem dL_law_981 : decode cL_law 981 = .ok (.iconst 2, 1) := dk_5 (dk_at dksL_law_36 18 rfl rfl)
theorem dL_law_982 : decode cL_law 982 = .ok (.iadd, 1) := dk_96 (dk_at dksL_law_36 19 rfl rfl)
theorem dL_law_983 : decode cL_law 983 = .ok (.iaload, 1) := dk_46 (dk_at dksL_law_36 20 rfl rfl)
theorem dL_law_984 : decode cL_law 984 = .ok (.invokevirtual 108, 3) := dk_182 0 108 (dk_at dksL_law_36 21 rfl rfl)
theorem dL_law_987 : decode cL_law 987 = .ok (.lcmp, 1) := dk_148 (dk_at dksL_law_37 0 rfl rfl)
theorem dL_law_988 : decode cL_law 988 = .ok (.ifCond .eq 319, 3) := dk_153 1 63 (dk_at dksL_law_37 1 rfl rfl)
theorem dL_law_991 : decode cL_law 991 = .ok (.iconst 0, 1) := dk_3 (dk_at dksL_law_37 4 rfl rfl)
theorem dL_law_992 : decode cL_law 992 = .ok (.ireturn, 1) := dk_172 (dk_at dksL_law_37 5 rfl rfl)
theorem dL_law_993 : decode cL_law 993 = .ok (.aload_n 1, 1) := dk_43 (dk_at dksL_law_37 6 rfl rfl)
theorem dL_law_994 : decode cL_law 994 = .ok (.aload_n 0, 1) := dk_42 (dk_at dksL_law_37 7 rfl rfl)
theorem dL_law_995 : decode cL_law 995 = .ok (.iload 4, 2) := dk_21 4 (dk_at dksL_law_37 8 rfl rfl)
theorem dL_law_997 : decode cL_law 997 = .ok (.iconst 1, 1) := dk_4 (dk_at dksL_law_37 10 rfl rfl)
theorem dL_law_998 : decode cL_law 998 = .ok (.iadd, 1) := dk_96 (dk_at dksL_law_37 11 rfl rfl)
theorem dL_law_999 : decode cL_law 999 = .ok (.iaload, 1) := dk_46 (dk_at dksL_law_37 12 rfl rfl)
theorem dL_law_1000 : decode cL_law 1000 = .ok (.invokevirtual 109, 3) := dk_182 0 109 (dk_at dksL_law_37 13 rfl rfl)
theorem dL_law_1003 : decode cL_law 1003 = .ok (.aload_n 2, 1) := dk_44 (dk_at dksL_law_37 16 rfl rfl)
theorem dL_law_1004 : decode cL_law 1004 = .ok (.aload_n 0, 1) := dk_42 (dk_at dksL_law_37 17 rfl rfl)
theorem dL_law_1005 : decode cL_law 1005 = .ok (.iload 4, 2) := dk_21 4 (dk_at dksL_law_37 18 rfl rfl)
theorem dL_law_1007 : decode cL_law 1007 = .ok (.iconst 1, 1) := dk_4 (dk_at dksL_law_37 20 rfl rfl)
theorem dL_law_1008 : decode cL_law 1008 = .ok (.iadd, 1) := dk_96 (dk_at dksL_law_37 21 rfl rfl)
theorem dL_law_1009 : decode cL_law 1009 = .ok (.iaload, 1) := dk_46 (dk_at dksL_law_37 22 rfl rfl)
theorem dL_law_1010 : decode cL_law 1010 = .ok (.invokevirtual 112, 3) := dk_182 0 112 (dk_at dksL_law_38 0 rfl rfl)
theorem dL_law_1013 : decode cL_law 1013 = .ok (.if_icmp .eq 294, 3) := dk_159 1 38 (dk_at dksL_law_38 3 rfl rfl)
theorem dL_law_1016 : decode cL_law 1016 = .ok (.iconst 0, 1) := dk_3 (dk_at dksL_law_38 6 rfl rfl)
theorem dL_law_1017 : decode cL_law 1017 = .ok (.ireturn, 1) := dk_172 (dk_at dksL_law_38 7 rfl rfl)
theorem dL_law_1018 : decode cL_law 1018 = .ok (.aload_n 1, 1) := dk_43 (dk_at dksL_law_38 8 rfl rfl)
theorem dL_law_1019 : decode cL_law 1019 = .ok (.aload_n 0, 1) := dk_42 (dk_at dksL_law_38 9 rfl rfl)
theorem dL_law_1020 : decode cL_law 1020 = .ok (.iload 4, 2) := dk_21 4 (dk_at dksL_law_38 10 rfl rfl)
theorem dL_law_1022 : decode cL_law 1022 = .ok (.iconst 1, 1) := dk_4 (dk_at dksL_law_38 12 rfl rfl)
theorem dL_law_1023 : decode cL_law 1023 = .ok (.iadd, 1) := dk_96 (dk_at dksL_law_38 13 rfl rfl)
theorem dL_law_1024 : decode cL_law 1024 = .ok (.iaload, 1) := dk_46 (dk_at dksL_law_38 14 rfl rfl)
theorem dL_law_1025 : decode cL_law 1025 = .ok (.aload_n 0, 1) := dk_42 (dk_at dksL_law_38 15 rfl rfl)
theorem dL_law_1026 : decode cL_law 1026 = .ok (.iload 4, 2) := dk_21 4 (dk_at dksL_law_38 16 rfl rfl)
theorem dL_law_1028 : decode cL_law 1028 = .ok (.iconst 2, 1) := dk_5 (dk_at dksL_law_38 18 rfl rfl)
theorem dL_law_1029 : decode cL_law 1029 = .ok (.iadd, 1) := dk_96 (dk_at dksL_law_38 19 rfl rfl)
theorem dL_law_1030 : decode cL_law 1030 = .ok (.iaload, 1) := dk_46 (dk_at dksL_law_38 20 rfl rfl)
theorem dL_law_1031 : decode cL_law 1031 = .ok (.invokevirtual 113, 3) := dk_182 0 113 (dk_at dksL_law_38 21 rfl rfl)
theorem dL_law_1034 : decode cL_law 1034 = .ok (.aload_n 2, 1) := dk_44 (dk_at dksL_law_39 0 rfl rfl)
theorem dL_law_1035 : decode cL_law 1035 = .ok (.aload_n 0, 1) := dk_42 (dk_at dksL_law_39 1 rfl rfl)
theorem dL_law_1036 : decode cL_law 1036 = .ok (.iload 4, 2) := dk_21 4 (dk_at dksL_law_39 2 rfl rfl)
theorem dL_law_1038 : decode cL_law 1038 = .ok (.iconst 1, 1) := dk_4 (dk_at dksL_law_39 4 rfl rfl)
theorem dL_law_1039 : decode cL_law 1039 = .ok (.iadd, 1) := dk_96 (dk_at dksL_law_39 5 rfl rfl)
theorem dL_law_1040 : decode cL_law 1040 = .ok (.iaload, 1) := dk_46 (dk_at dksL_law_39 6 rfl rfl)
theorem dL_law_1041 : decode cL_law 1041 = .ok (.aload_n 0, 1) := dk_42 (dk_at dksL_law_39 7 rfl rfl)
theorem dL_law_1042 : decode cL_law 1042 = .ok (.iload 4, 2) := dk_21 4 (dk_at dksL_law_39 8 rfl rfl)
theorem dL_law_1044 : decode cL_law 1044 = .ok (.iconst 2, 1) := dk_5 (dk_at dksL_law_39 10 rfl rfl)
theorem dL_law_1045 : decode cL_law 1045 = .ok (.iadd, 1) := dk_96 (dk_at dksL_law_39 11 rfl rfl)
theorem dL_law_1046 : decode cL_law 1046 = .ok (.iaload, 1) := dk_46 (dk_at dksL_law_39 12 rfl rfl)
theorem dL_law_1047 : decode cL_law 1047 = .ok (.invokevirtual 116, 3) := dk_182 0 116 (dk_at dksL_law_39 13 rfl rfl)
theorem dL_law_1050 : decode cL_law 1050 = .ok (.lcmp, 1) := dk_148 (dk_at dksL_law_39 16 rfl rfl)
theorem dL_law_1051 : decode cL_law 1051 = .ok (.ifCond .eq 256, 3) := dk_153 1 0 (dk_at dksL_law_39 17 rfl rfl)
theorem dL_law_1054 : decode cL_law 1054 = .ok (.iconst 0, 1) := dk_3 (dk_at dksL_law_39 20 rfl rfl)
theorem dL_law_1055 : decode cL_law 1055 = .ok (.ireturn, 1) := dk_172 (dk_at dksL_law_39 21 rfl rfl)
theorem dL_law_1056 : decode cL_law 1056 = .ok (.aload_n 1, 1) := dk_43 (dk_at dksL_law_39 22 rfl rfl)
theorem dL_law_1057 : decode cL_law 1057 = .ok (.aload_n 0, 1) := dk_42 (dk_at dksL_law_39 23 rfl rfl)
theorem dL_law_1058 : decode cL_law 1058 = .ok (.iload 4, 2) := dk_21 4 (dk_at dksL_law_40 0 rfl rfl)
theorem dL_law_1060 : decode cL_law 1060 = .ok (.iconst 1, 1) := dk_4 (dk_at dksL_law_40 2 rfl rfl)
theorem dL_law_1061 : decode cL_law 1061 = .ok (.iadd, 1) := dk_96 (dk_at dksL_law_40 3 rfl rfl)
theorem dL_law_1062 : decode cL_law 1062 = .ok (.iaload, 1) := dk_46 (dk_at dksL_law_40 4 rfl rfl)
theorem dL_law_1063 : decode cL_law 1063 = .ok (.aload_n 0, 1) := dk_42 (dk_at dksL_law_40 5 rfl rfl)
theorem dL_law_1064 : decode cL_law 1064 = .ok (.iload 4, 2) := dk_21 4 (dk_at dksL_law_40 6 rfl rfl)
theorem dL_law_1066 : decode cL_law 1066 = .ok (.iconst 2, 1) := dk_5 (dk_at dksL_law_40 8 rfl rfl)
theorem dL_law_1067 : decode cL_law 1067 = .ok (.iadd, 1) := dk_96 (dk_at dksL_law_40 9 rfl rfl)
theorem dL_law_1068 : decode cL_law 1068 = .ok (.iaload, 1) := dk_46 (dk_at dksL_law_40 10 rfl rfl)
theorem dL_law_1069 : decode cL_law 1069 = .ok (.invokevirtual 117, 3) := dk_182 0 117 (dk_at dksL_law_40 11 rfl rfl)
theorem dL_law_1072 : decode cL_law 1072 = .ok (.aload_n 2, 1) := dk_44 (dk_at dksL_law_40 14 rfl rfl)
theorem dL_law_1073 : decode cL_law 1073 = .ok (.aload_n 0, 1) := dk_42 (dk_at dksL_law_40 15 rfl rfl)
theorem dL_law_1074 : decode cL_law 1074 = .ok (.iload 4, 2) := dk_21 4 (dk_at dksL_law_40 16 rfl rfl)
theorem dL_law_1076 : decode cL_law 1076 = .ok (.iconst 1, 1) := dk_4 (dk_at dksL_law_40 18 rfl rfl)
theorem dL_law_1077 : decode cL_law 1077 = .ok (.iadd, 1) := dk_96 (dk_at dksL_law_40 19 rfl rfl)
theorem dL_law_1078 : decode cL_law 1078 = .ok (.iaload, 1) := dk_46 (dk_at dksL_law_40 20 rfl rfl)
theorem dL_law_1079 : decode cL_law 1079 = .ok (.aload_n 0, 1) := dk_42 (dk_at dksL_law_40 21 rfl rfl)
theorem dL_law_1080 : decode cL_law 1080 = .ok (.iload 4, 2) := dk_21 4 (dk_at dksL_law_40 22 rfl rfl)
theorem dL_law_1082 : decode cL_law 1082 = .ok (.iconst 2, 1) := dk_5 (dk_at dksL_law_41 0 rfl rfl)
theorem dL_law_1083 : decode cL_law 1083 = .ok (.iadd, 1) := dk_96 (dk_at dksL_law_41 1 rfl rfl)
theorem dL_law_1084 : decode cL_law 1084 = .ok (.iaload, 1) := dk_46 (dk_at dksL_law_41 2 rfl rfl)
theorem dL_law_1085 : decode cL_law 1085 = .ok (.invokevirtual 120, 3) := dk_182 0 120 (dk_at dksL_law_41 3 rfl rfl)
theorem dL_law_1088 : decode cL_law 1088 = .ok (.if_icmp .eq 219, 3) := dk_159 0 219 (dk_at dksL_law_41 6 rfl rfl)
theorem dL_law_1091 : decode cL_law 1091 = .ok (.iconst 0, 1) := dk_3 (dk_at dksL_law_41 9 rfl rfl)
theorem dL_law_1092 : decode cL_law 1092 = .ok (.ireturn, 1) := dk_172 (dk_at dksL_law_41 10 rfl rfl)
theorem dL_law_1093 : decode cL_law 1093 = .ok (.aload_n 1, 1) := dk_43 (dk_at dksL_law_41 11 rfl rfl)
theorem dL_law_1094 : decode cL_law 1094 = .ok (.aload_n 0, 1) := dk_42 (dk_at dksL_law_41 12 rfl rfl)
theorem dL_law_1095 : decode cL_law 1095 = .ok (.iload 4, 2) := dk_21 4 (dk_at dksL_law_41 13 rfl rfl)
theorem dL_law_1097 : decode cL_law 1097 = .ok (.iconst 1, 1) := dk_4 (dk_at dksL_law_41 15 rfl rfl)
theorem dL_law_1098 : decode cL_law 1098 = .ok (.iadd, 1) := dk_96 (dk_at dksL_law_41 16 rfl rfl)
theorem dL_law_1099 : decode cL_law 1099 = .ok (.iaload, 1) := dk_46 (dk_at dksL_law_41 17 rfl rfl)
theorem dL_law_1100 : decode cL_law 1100 = .ok (.invokevirtual 121, 3) := dk_182 0 121 (dk_at dksL_law_41 18 rfl rfl)
theorem dL_law_1103 : decode cL_law 1103 = .ok (.aload_n 2, 1) := dk_44 (dk_at dksL_law_41 21 rfl rfl)
theorem dL_law_1104 : decode cL_law 1104 = .ok (.aload_n 0, 1) := dk_42 (dk_at dksL_law_41 22 rfl rfl)
theorem dL_law_1105 : decode cL_law 1105 = .ok (.iload 4, 2) := dk_21 4 (dk_at dksL_law_42 0 rfl rfl)
theorem dL_law_1107 : decode cL_law 1107 = .ok (.iconst 1, 1) := dk_4 (dk_at dksL_law_42 2 rfl rfl)
theorem dL_law_1108 : decode cL_law 1108 = .ok (.iadd, 1) := dk_96 (dk_at dksL_law_42 3 rfl rfl)
theorem dL_law_1109 : decode cL_law 1109 = .ok (.iaload, 1) := dk_46 (dk_at dksL_law_42 4 rfl rfl)
theorem dL_law_1110 : decode cL_law 1110 = .ok (.invokevirtual 124, 3) := dk_182 0 124 (dk_at dksL_law_42 5 rfl rfl)
theorem dL_law_1113 : decode cL_law 1113 = .ok (.if_icmp .eq 194, 3) := dk_159 0 194 (dk_at dksL_law_42 8 rfl rfl)
theorem dL_law_1116 : decode cL_law 1116 = .ok (.iconst 0, 1) := dk_3 (dk_at dksL_law_42 11 rfl rfl)
theorem dL_law_1117 : decode cL_law 1117 = .ok (.ireturn, 1) := dk_172 (dk_at dksL_law_42 12 rfl rfl)
theorem dL_law_1118 : decode cL_law 1118 = .ok (.aload_n 1, 1) := dk_43 (dk_at dksL_law_42 13 rfl rfl)
theorem dL_law_1119 : decode cL_law 1119 = .ok (.invokevirtual 125, 3) := dk_182 0 125 (dk_at dksL_law_42 14 rfl rfl)
theorem dL_law_1122 : decode cL_law 1122 = .ok (.aload_n 2, 1) := dk_44 (dk_at dksL_law_42 17 rfl rfl)
theorem dL_law_1123 : decode cL_law 1123 = .ok (.invokevirtual 128, 3) := dk_182 0 128 (dk_at dksL_law_42 18 rfl rfl)
theorem dL_law_1126 : decode cL_law 1126 = .ok (.if_icmp .eq 181, 3) := dk_159 0 181 (dk_at dksL_law_42 21 rfl rfl)
theorem dL_law_1129 : decode cL_law 1129 = .ok (.iconst 0, 1) := dk_3 (dk_at dksL_law_43 0 rfl rfl)
theorem dL_law_1130 : decode cL_law 1130 = .ok (.ireturn, 1) := dk_172 (dk_at dksL_law_43 1 rfl rfl)
theorem dL_law_1131 : decode cL_law 1131 = .ok (.aload_n 1, 1) := dk_43 (dk_at dksL_law_43 2 rfl rfl)
theorem dL_law_1132 : decode cL_law 1132 = .ok (.invokevirtual 129, 3) := dk_182 0 129 (dk_at dksL_law_43 3 rfl rfl)
theorem dL_law_1135 : decode cL_law 1135 = .ok (.aload_n 2, 1) := dk_44 (dk_at dksL_law_43 6 rfl rfl)
theorem dL_law_1136 : decode cL_law 1136 = .ok (.invokevirtual 132, 3) := dk_182 0 132 (dk_at dksL_law_43 7 rfl rfl)
theorem dL_law_1139 : decode cL_law 1139 = .ok (.if_icmp .eq 168, 3) := dk_159 0 168 (dk_at dksL_law_43 10 rfl rfl)
theorem dL_law_1142 : decode cL_law 1142 = .ok (.iconst 0, 1) := dk_3 (dk_at dksL_law_43 13 rfl rfl)
theorem dL_law_1143 : decode cL_law 1143 = .ok (.ireturn, 1) := dk_172 (dk_at dksL_law_43 14 rfl rfl)
theorem dL_law_1144 : decode cL_law 1144 = .ok (.aload_n 1, 1) := dk_43 (dk_at dksL_law_43 15 rfl rfl)
theorem dL_law_1145 : decode cL_law 1145 = .ok (.aload_n 0, 1) := dk_42 (dk_at dksL_law_43 16 rfl rfl)
theorem dL_law_1146 : decode cL_law 1146 = .ok (.iload 4, 2) := dk_21 4 (dk_at dksL_law_43 17 rfl rfl)
theorem dL_law_1148 : decode cL_law 1148 = .ok (.iconst 1, 1) := dk_4 (dk_at dksL_law_43 19 rfl rfl)
theorem dL_law_1149 : decode cL_law 1149 = .ok (.iadd, 1) := dk_96 (dk_at dksL_law_43 20 rfl rfl)
theorem dL_law_1150 : decode cL_law 1150 = .ok (.iaload, 1) := dk_46 (dk_at dksL_law_43 21 rfl rfl)
theorem dL_law_1151 : decode cL_law 1151 = .ok (.invokevirtual 133, 3) := dk_182 0 133 (dk_at dksL_law_44 0 rfl rfl)
theorem dL_law_1154 : decode cL_law 1154 = .ok (.aload_n 2, 1) := dk_44 (dk_at dksL_law_44 3 rfl rfl)
theorem dL_law_1155 : decode cL_law 1155 = .ok (.aload_n 0, 1) := dk_42 (dk_at dksL_law_44 4 rfl rfl)
theorem dL_law_1156 : decode cL_law 1156 = .ok (.iload 4, 2) := dk_21 4 (dk_at dksL_law_44 5 rfl rfl)
theorem dL_law_1158 : decode cL_law 1158 = .ok (.iconst 1, 1) := dk_4 (dk_at dksL_law_44 7 rfl rfl)
theorem dL_law_1159 : decode cL_law 1159 = .ok (.iadd, 1) := dk_96 (dk_at dksL_law_44 8 rfl rfl)
theorem dL_law_1160 : decode cL_law 1160 = .ok (.iaload, 1) := dk_46 (dk_at dksL_law_44 9 rfl rfl)
theorem dL_law_1161 : decode cL_law 1161 = .ok (.invokevirtual 136, 3) := dk_182 0 136 (dk_at dksL_law_44 10 rfl rfl)
theorem dL_law_1164 : decode cL_law 1164 = .ok (.if_icmp .eq 143, 3) := dk_159 0 143 (dk_at dksL_law_44 13 rfl rfl)
theorem dL_law_1167 : decode cL_law 1167 = .ok (.iconst 0, 1) := dk_3 (dk_at dksL_law_44 16 rfl rfl)
theorem dL_law_1168 : decode cL_law 1168 = .ok (.ireturn, 1) := dk_172 (dk_at dksL_law_44 17 rfl rfl)
theorem dL_law_1169 : decode cL_law 1169 = .ok (.aload_n 1, 1) := dk_43 (dk_at dksL_law_44 18 rfl rfl)
theorem dL_law_1170 : decode cL_law 1170 = .ok (.aload_n 0, 1) := dk_42 (dk_at dksL_law_44 19 rfl rfl)
theorem dL_law_1171 : decode cL_law 1171 = .ok (.iload 4, 2) := dk_21 4 (dk_at dksL_law_44 20 rfl rfl)
theorem dL_law_1173 : decode cL_law 1173 = .ok (.iconst 1, 1) := dk_4 (dk_at dksL_law_44 22 rfl rfl)
theorem dL_law_1174 : decode cL_law 1174 = .ok (.iadd, 1) := dk_96 (dk_at dksL_law_44 23 rfl rfl)
theorem dL_law_1175 : decode cL_law 1175 = .ok (.iaload, 1) := dk_46 (dk_at dksL_law_45 0 rfl rfl)
theorem dL_law_1176 : decode cL_law 1176 = .ok (.aload_n 0, 1) := dk_42 (dk_at dksL_law_45 1 rfl rfl)
theorem dL_law_1177 : decode cL_law 1177 = .ok (.iload 4, 2) := dk_21 4 (dk_at dksL_law_45 2 rfl rfl)
theorem dL_law_1179 : decode cL_law 1179 = .ok (.iconst 2, 1) := dk_5 (dk_at dksL_law_45 4 rfl rfl)
theorem dL_law_1180 : decode cL_law 1180 = .ok (.iadd, 1) := dk_96 (dk_at dksL_law_45 5 rfl rfl)
theorem dL_law_1181 : decode cL_law 1181 = .ok (.iaload, 1) := dk_46 (dk_at dksL_law_45 6 rfl rfl)
theorem dL_law_1182 : decode cL_law 1182 = .ok (.invokevirtual 137, 3) := dk_182 0 137 (dk_at dksL_law_45 7 rfl rfl)
theorem dL_law_1185 : decode cL_law 1185 = .ok (.aload_n 2, 1) := dk_44 (dk_at dksL_law_45 10 rfl rfl)
theorem dL_law_1186 : decode cL_law 1186 = .ok (.aload_n 0, 1) := dk_42 (dk_at dksL_law_45 11 rfl rfl)
theorem dL_law_1187 : decode cL_law 1187 = .ok (.iload 4, 2) := dk_21 4 (dk_at dksL_law_45 12 rfl rfl)
theorem dL_law_1189 : decode cL_law 1189 = .ok (.iconst 1, 1) := dk_4 (dk_at dksL_law_45 14 rfl rfl)
theorem dL_law_1190 : decode cL_law 1190 = .ok (.iadd, 1) := dk_96 (dk_at dksL_law_45 15 rfl rfl)
theorem dL_law_1191 : decode cL_law 1191 = .ok (.iaload, 1) := dk_46 (dk_at dksL_law_45 16 rfl rfl)
theorem dL_law_1192 : decode cL_law 1192 = .ok (.aload_n 0, 1) := dk_42 (dk_at dksL_law_45 17 rfl rfl)
theorem dL_law_1193 : decode cL_law 1193 = .ok (.iload 4, 2) := dk_21 4 (dk_at dksL_law_45 18 rfl rfl)
theorem dL_law_1195 : decode cL_law 1195 = .ok (.iconst 2, 1) := dk_5 (dk_at dksL_law_45 20 rfl rfl)
theorem dL_law_1196 : decode cL_law 1196 = .ok (.iadd, 1) := dk_96 (dk_at dksL_law_45 21 rfl rfl)
theorem dL_law_1197 : decode cL_law 1197 = .ok (.iaload, 1) := dk_46 (dk_at dksL_law_45 22 rfl rfl)
theorem dL_law_1198 : decode cL_law 1198 = .ok (.invokevirtual 140, 3) := dk_182 0 140 (dk_at dksL_law_46 0 rfl rfl)
theorem dL_law_1201 : decode cL_law 1201 = .ok (.if_icmp .eq 106, 3) := dk_159 0 106 (dk_at dksL_law_46 3 rfl rfl)
theorem dL_law_1204 : decode cL_law 1204 = .ok (.iconst 0, 1) := dk_3 (dk_at dksL_law_46 6 rfl rfl)
theorem dL_law_1205 : decode cL_law 1205 = .ok (.ireturn, 1) := dk_172 (dk_at dksL_law_46 7 rfl rfl)
theorem dL_law_1206 : decode cL_law 1206 = .ok (.aload_n 1, 1) := dk_43 (dk_at dksL_law_46 8 rfl rfl)
theorem dL_law_1207 : decode cL_law 1207 = .ok (.aload_n 0, 1) := dk_42 (dk_at dksL_law_46 9 rfl rfl)
theorem dL_law_1208 : decode cL_law 1208 = .ok (.iload 4, 2) := dk_21 4 (dk_at dksL_law_46 10 rfl rfl)
theorem dL_law_1210 : decode cL_law 1210 = .ok (.iconst 1, 1) := dk_4 (dk_at dksL_law_46 12 rfl rfl)
theorem dL_law_1211 : decode cL_law 1211 = .ok (.iadd, 1) := dk_96 (dk_at dksL_law_46 13 rfl rfl)
theorem dL_law_1212 : decode cL_law 1212 = .ok (.iaload, 1) := dk_46 (dk_at dksL_law_46 14 rfl rfl)
theorem dL_law_1213 : decode cL_law 1213 = .ok (.aload_n 0, 1) := dk_42 (dk_at dksL_law_46 15 rfl rfl)
theorem dL_law_1214 : decode cL_law 1214 = .ok (.iload 4, 2) := dk_21 4 (dk_at dksL_law_46 16 rfl rfl)
theorem dL_law_1216 : decode cL_law 1216 = .ok (.iconst 2, 1) := dk_5 (dk_at dksL_law_46 18 rfl rfl)
theorem dL_law_1217 : decode cL_law 1217 = .ok (.iadd, 1) := dk_96 (dk_at dksL_law_46 19 rfl rfl)
theorem dL_law_1218 : decode cL_law 1218 = .ok (.iaload, 1) := dk_46 (dk_at dksL_law_46 20 rfl rfl)
theorem dL_law_1219 : decode cL_law 1219 = .ok (.invokevirtual 141, 3) := dk_182 0 141 (dk_at dksL_law_46 21 rfl rfl)
theorem dL_law_1222 : decode cL_law 1222 = .ok (.aload_n 2, 1) := dk_44 (dk_at dksL_law_47 0 rfl rfl)
theorem dL_law_1223 : decode cL_law 1223 = .ok (.aload_n 0, 1) := dk_42 (dk_at dksL_law_47 1 rfl rfl)
theorem dL_law_1224 : decode cL_law 1224 = .ok (.iload 4, 2) := dk_21 4 (dk_at dksL_law_47 2 rfl rfl)
theorem dL_law_1226 : decode cL_law 1226 = .ok (.iconst 1, 1) := dk_4 (dk_at dksL_law_47 4 rfl rfl)
theorem dL_law_1227 : decode cL_law 1227 = .ok (.iadd, 1) := dk_96 (dk_at dksL_law_47 5 rfl rfl)
theorem dL_law_1228 : decode cL_law 1228 = .ok (.iaload, 1) := dk_46 (dk_at dksL_law_47 6 rfl rfl)
theorem dL_law_1229 : decode cL_law 1229 = .ok (.aload_n 0, 1) := dk_42 (dk_at dksL_law_47 7 rfl rfl)
theorem dL_law_1230 : decode cL_law 1230 = .ok (.iload 4, 2) := dk_21 4 (dk_at dksL_law_47 8 rfl rfl)
theorem dL_law_1232 : decode cL_law 1232 = .ok (.iconst 2, 1) := dk_5 (dk_at dksL_law_47 10 rfl rfl)
theorem dL_law_1233 : decode cL_law 1233 = .ok (.iadd, 1) := dk_96 (dk_at dksL_law_47 11 rfl rfl)
theorem dL_law_1234 : decode cL_law 1234 = .ok (.iaload, 1) := dk_46 (dk_at dksL_law_47 12 rfl rfl)
theorem dL_law_1235 : decode cL_law 1235 = .ok (.invokevirtual 144, 3) := dk_182 0 144 (dk_at dksL_law_47 13 rfl rfl)
theorem dL_law_1238 : decode cL_law 1238 = .ok (.if_icmp .eq 69, 3) := dk_159 0 69 (dk_at dksL_law_47 16 rfl rfl)
theorem dL_law_1241 : decode cL_law 1241 = .ok (.iconst 0, 1) := dk_3 (dk_at dksL_law_47 19 rfl rfl)
theorem dL_law_1242 : decode cL_law 1242 = .ok (.ireturn, 1) := dk_172 (dk_at dksL_law_47 20 rfl rfl)
theorem dL_law_1243 : decode cL_law 1243 = .ok (.aload_n 1, 1) := dk_43 (dk_at dksL_law_47 21 rfl rfl)
theorem dL_law_1244 : decode cL_law 1244 = .ok (.invokevirtual 145, 3) := dk_182 0 145 (dk_at dksL_law_48 0 rfl rfl)
theorem dL_law_1247 : decode cL_law 1247 = .ok (.aload_n 2, 1) := dk_44 (dk_at dksL_law_48 3 rfl rfl)
theorem dL_law_1248 : decode cL_law 1248 = .ok (.invokevirtual 148, 3) := dk_182 0 148 (dk_at dksL_law_48 4 rfl rfl)
theorem dL_law_1251 : decode cL_law 1251 = .ok (.if_icmp .eq 56, 3) := dk_159 0 56 (dk_at dksL_law_48 7 rfl rfl)
theorem dL_law_1254 : decode cL_law 1254 = .ok (.iconst 0, 1) := dk_3 (dk_at dksL_law_48 10 rfl rfl)
theorem dL_law_1255 : decode cL_law 1255 = .ok (.ireturn, 1) := dk_172 (dk_at dksL_law_48 11 rfl rfl)
theorem dL_law_1256 : decode cL_law 1256 = .ok (.aload_n 1, 1) := dk_43 (dk_at dksL_law_48 12 rfl rfl)
theorem dL_law_1257 : decode cL_law 1257 = .ok (.invokevirtual 149, 3) := dk_182 0 149 (dk_at dksL_law_48 13 rfl rfl)
theorem dL_law_1260 : decode cL_law 1260 = .ok (.aload_n 2, 1) := dk_44 (dk_at dksL_law_48 16 rfl rfl)
theorem dL_law_1261 : decode cL_law 1261 = .ok (.invokevirtual 152, 3) := dk_182 0 152 (dk_at dksL_law_48 17 rfl rfl)
theorem dL_law_1264 : decode cL_law 1264 = .ok (.if_icmp .eq 43, 3) := dk_159 0 43 (dk_at dksL_law_48 20 rfl rfl)
theorem dL_law_1267 : decode cL_law 1267 = .ok (.iconst 0, 1) := dk_3 (dk_at dksL_law_48 23 rfl rfl)
theorem dL_law_1268 : decode cL_law 1268 = .ok (.ireturn, 1) := dk_172 (dk_at dksL_law_49 0 rfl rfl)
theorem dL_law_1269 : decode cL_law 1269 = .ok (.aload_n 1, 1) := dk_43 (dk_at dksL_law_49 1 rfl rfl)
theorem dL_law_1270 : decode cL_law 1270 = .ok (.invokevirtual 153, 3) := dk_182 0 153 (dk_at dksL_law_49 2 rfl rfl)
theorem dL_law_1273 : decode cL_law 1273 = .ok (.aload_n 2, 1) := dk_44 (dk_at dksL_law_49 5 rfl rfl)
theorem dL_law_1274 : decode cL_law 1274 = .ok (.invokevirtual 156, 3) := dk_182 0 156 (dk_at dksL_law_49 6 rfl rfl)
theorem dL_law_1277 : decode cL_law 1277 = .ok (.if_icmp .eq 30, 3) := dk_159 0 30 (dk_at dksL_law_49 9 rfl rfl)
theorem dL_law_1280 : decode cL_law 1280 = .ok (.iconst 0, 1) := dk_3 (dk_at dksL_law_49 12 rfl rfl)
theorem dL_law_1281 : decode cL_law 1281 = .ok (.ireturn, 1) := dk_172 (dk_at dksL_law_49 13 rfl rfl)
theorem dL_law_1282 : decode cL_law 1282 = .ok (.aload_n 1, 1) := dk_43 (dk_at dksL_law_49 14 rfl rfl)
theorem dL_law_1283 : decode cL_law 1283 = .ok (.aload_n 0, 1) := dk_42 (dk_at dksL_law_49 15 rfl rfl)
theorem dL_law_1284 : decode cL_law 1284 = .ok (.iload 4, 2) := dk_21 4 (dk_at dksL_law_49 16 rfl rfl)
theorem dL_law_1286 : decode cL_law 1286 = .ok (.iconst 1, 1) := dk_4 (dk_at dksL_law_49 18 rfl rfl)
theorem dL_law_1287 : decode cL_law 1287 = .ok (.iadd, 1) := dk_96 (dk_at dksL_law_49 19 rfl rfl)
theorem dL_law_1288 : decode cL_law 1288 = .ok (.iaload, 1) := dk_46 (dk_at dksL_law_49 20 rfl rfl)
theorem dL_law_1289 : decode cL_law 1289 = .ok (.invokevirtual 157, 3) := dk_182 0 157 (dk_at dksL_law_49 21 rfl rfl)
theorem dL_law_1292 : decode cL_law 1292 = .ok (.aload_n 2, 1) := dk_44 (dk_at dksL_law_50 0 rfl rfl)
theorem dL_law_1293 : decode cL_law 1293 = .ok (.aload_n 0, 1) := dk_42 (dk_at dksL_law_50 1 rfl rfl)
theorem dL_law_1294 : decode cL_law 1294 = .ok (.iload 4, 2) := dk_21 4 (dk_at dksL_law_50 2 rfl rfl)
theorem dL_law_1296 : decode cL_law 1296 = .ok (.iconst 1, 1) := dk_4 (dk_at dksL_law_50 4 rfl rfl)
theorem dL_law_1297 : decode cL_law 1297 = .ok (.iadd, 1) := dk_96 (dk_at dksL_law_50 5 rfl rfl)
theorem dL_law_1298 : decode cL_law 1298 = .ok (.iaload, 1) := dk_46 (dk_at dksL_law_50 6 rfl rfl)
theorem dL_law_1299 : decode cL_law 1299 = .ok (.invokevirtual 160, 3) := dk_182 0 160 (dk_at dksL_law_50 7 rfl rfl)
theorem dL_law_1302 : decode cL_law 1302 = .ok (.if_icmp .eq 5, 3) := dk_159 0 5 (dk_at dksL_law_50 10 rfl rfl)
theorem dL_law_1305 : decode cL_law 1305 = .ok (.iconst 0, 1) := dk_3 (dk_at dksL_law_50 13 rfl rfl)
theorem dL_law_1306 : decode cL_law 1306 = .ok (.ireturn, 1) := dk_172 (dk_at dksL_law_50 14 rfl rfl)
theorem dL_law_1307 : decode cL_law 1307 = .ok (.iinc 4 6, 3) := dk_132 4 6 (dk_at dksL_law_50 15 rfl rfl)
theorem dL_law_1310 : decode cL_law 1310 = .ok (.goto (-1287), 3) := dk_167 250 249 (dk_at dksL_law_50 18 rfl rfl)
theorem dL_law_1313 : decode cL_law 1313 = .ok (.iconst 1, 1) := dk_4 (dk_at dksL_law_50 21 rfl rfl)
theorem dL_law_1314 : decode cL_law 1314 = .ok (.ireturn, 1) := dk_172 (dk_at dksL_law_50 22 rfl rfl)
theorem gL_law_0 {x9 : Nat × (Nat → Int32)} {b : Nat}  {T : zT} {I : zI} {L : zL} {R : zR} {P : zP} (h : ∃ κ1, 100 ≤ κ1 ∧ (T κ1).1 = 0 ∧ 28 + 1 ≤ b ∧ ∃ b9, b9 ≤ (b - (28 + 1)) ∧ zMet mX1_init 5 b9 [.ref κ1] (z1 T κ1 (1, 0)) (z1 I κ1 fun _ => 0) (z1 L κ1 fun _ => 0) (z1 R κ1 fun _ => 0) (zqV_TILR   (fun (T5 : zT) (I6 : zI) (L7 : zL) (R8 : zR)  => ∃ κ11, 100 ≤ κ11 ∧ (T5 κ11).1 = 0 ∧ 89 + 1 ≤ ((b - (28 + 1)) - b9) ∧ ∃ b19, b19 ≤ (((b - (28 + 1)) - b9) - (89 + 1)) ∧ zMet mX13_init 3 b19 [.ref κ11] (z1 T5 κ11 (13, 0)) (z1 I6 κ11 fun _ => 0) (z1 L7 κ11 fun _ => 0) (z1 R8 κ11 fun _ => 0) (zqV_TILR   (fun (T15 : zT) (I16 : zI) (L17 : zL) (R18 : zR)  => ∃ κ21, 100 ≤ κ21 ∧ (T15 κ21).1 = 0 ∧ 1 + 1 ≤ ((((b - (28 + 1)) - b9) - (89 + 1)) - b19) ∧ zAW (mL_law x9) 404 (((((b - (28 + 1)) - b9) - (89 + 1)) - b19) - (1 + 1)) 23 [(0, .ref 1), (1, .ref κ1), (2, .ref κ11), (3, .ref κ21), (4, .int (0 : Int32))] [] (z1 T15 κ21 (101, 1)) (z1 I16 κ21 fun _ => 0) (z1 L17 κ21 fun _ => 0) (z1 R18 κ21 fun _ => 0) P))))) : zAW (mL_law x9) 404 b 0 [(0, .ref 1)] [] T I L R P := by
  obtain ⟨κ1, hk2, hf3, hb4, h⟩ := h
  refine za_new (κ := κ1) (pc' := 3) dL_law_0 zc0 (by decide) in_X1 zok0 zdf0 q171 q172 q131 hk2 hf3 hb4 rfl ?_
  refine za_dup (pc' := 4) dL_law_3 rfl rfl ?_
  obtain ⟨b9, hb10, h⟩ := h
  refine za_callI (κ := κ1) (M2 := mX1_init) (d2 := 5) (b2 := b9) (n := 0) (As := []) (st := [.ref κ1]) (pc' := 7) (by rw [(congrArg Prod.fst z1_s)]; decide) dL_law_4 rfl (lw_meth q175) rfl q173 q174 q131 rfl hd_X1_init rfl (by decide) (by decide) hb10 (Or.inl rfl) (Nat.le_of_ble_eq_true rfl) h (zqV_TILR_k rfl (fun T5 I6 L7 R8 h => ?_)) (fun _ _ _ _ _ _ h9 h8 => absurd h8.1 h9) rfl
  refine za_astore_n (pc' := 8) (l' := [(1, .ref κ1), (0, .ref 1)]) dL_law_7 rfl (Nat.le_of_ble_eq_true rfl) rfl rfl ?_
  obtain ⟨κ11, hk12, hf13, hb14, h⟩ := h
  refine za_new (κ := κ11) (pc' := 11) dL_law_8 zc12 (by decide) in_X13 zok12 zdf12 q1506 q1507 q148 hk12 hf13 hb14 rfl ?_
  refine za_dup (pc' := 12) dL_law_11 rfl rfl ?_
  obtain ⟨b19, hb20, h⟩ := h
  refine za_callI (κ := κ11) (M2 := mX13_init) (d2 := 3) (b2 := b19) (n := 0) (As := []) (st := [.ref κ11]) (pc' := 15) (by rw [(congrArg Prod.fst z1_s)]; decide) dL_law_12 rfl (lw_meth q1510) rfl q1508 q1509 q148 rfl hd_X13_init rfl (by decide) (by decide) hb20 (Or.inl rfl) (Nat.le_of_ble_eq_true rfl) h (zqV_TILR_k rfl (fun T15 I16 L17 R18 h => ?_)) (fun _ _ _ _ _ _ h9 h8 => absurd h8.1 h9) rfl
  refine za_astore_n (pc' := 16) (l' := [(2, .ref κ11), (1, .ref κ1), (0, .ref 1)]) dL_law_15 rfl (Nat.le_of_ble_eq_true rfl) rfl rfl ?_
  refine za_iconst (pc' := 17) dL_law_16 zi_1 rfl ?_
  obtain ⟨κ21, hk22, hf23, hb24, h⟩ := h
  refine za_newa_long (κ := κ21) (N := 1) (pc' := 19) dL_law_17 q453 (by decide) zn_1 (by decide) hk22 hf23 hb24 rfl ?_
  refine za_astore_n (pc' := 20) (l' := [(3, .ref κ21), (2, .ref κ11), (1, .ref κ1), (0, .ref 1)]) dL_law_19 rfl (Nat.le_of_ble_eq_true rfl) rfl rfl ?_
  refine za_iconst (pc' := 21) dL_law_20 zi_0 rfl ?_
  refine za_istore (pc' := 23) (l' := [(4, .int (0 : Int32)), (3, .ref κ21), (2, .ref κ11), (1, .ref κ1), (0, .ref 1)]) dL_law_21 (Nat.le_of_ble_eq_true rfl) rfl rfl ?_
  exact zAW_sub [4, 3, 2, 1, 0] rfl h
theorem gL_law_23 {x9 : Nat × (Nat → Int32)} {b : Nat} {v1 : Nat} {v2 : Nat} {v3 : Nat} {v4 : Int32} {T : zT} {I : zI} {L : zL} {R : zR} {P : zP} (h : ((((nI x9.1) - (6 : Int32)) < v4 → P 0 (.int (1 : Int32)) T I L R) ∧ (¬ ((nI x9.1) - (6 : Int32)) < v4 → vp_in v4 (x9.1) ∧ ((((x9.2 v4.toNatClampNeg) &&& (31 : Int32)) = (0 : Int32) → zAW (mL_law x9) 404 b 184 [(0, .ref 1), (1, .ref v1), (2, .ref v2), (3, .ref v3), (4, .int v4)] [] T I L R P) ∧ (¬ ((x9.2 v4.toNatClampNeg) &&& (31 : Int32)) = (0 : Int32) → ((((x9.2 v4.toNatClampNeg) &&& (31 : Int32)) = (1 : Int32) → zAW (mL_law x9) 404 b 257 [(0, .ref 1), (1, .ref v1), (2, .ref v2), (3, .ref v3), (4, .int v4)] [] T I L R P) ∧ (¬ ((x9.2 v4.toNatClampNeg) &&& (31 : Int32)) = (1 : Int32) → ((((x9.2 v4.toNatClampNeg) &&& (31 : Int32)) = (2 : Int32) → zAW (mL_law x9) 404 b 282 [(0, .ref 1), (1, .ref v1), (2, .ref v2), (3, .ref v3), (4, .int v4)] [] T I L R P) ∧ (¬ ((x9.2 v4.toNatClampNeg) &&& (31 : Int32)) = (2 : Int32) → ((((x9.2 v4.toNatClampNeg) &&& (31 : Int32)) = (3 : Int32) → zAW (mL_law x9) 404 b 307 [(0, .ref 1), (1, .ref v1), (2, .ref v2), (3, .ref v3), (4, .int v4)] [] T I L R P) ∧ (¬ ((x9.2 v4.toNatClampNeg) &&& (31 : Int32)) = (3 : Int32) → ((((x9.2 v4.toNatClampNeg) &&& (31 : Int32)) = (4 : Int32) → zAW (mL_law x9) 404 b 344 [(0, .ref 1), (1, .ref v1), (2, .ref v2), (3, .ref v3), (4, .int v4)] [] T I L R P) ∧ (¬ ((x9.2 v4.toNatClampNeg) &&& (31 : Int32)) = (4 : Int32) → ((((x9.2 v4.toNatClampNeg) &&& (31 : Int32)) = (5 : Int32) → zAW (mL_law x9) 404 b 412 [(0, .ref 1), (1, .ref v1), (2, .ref v2), (3, .ref v3), (4, .int v4)] [] T I L R P) ∧ (¬ ((x9.2 v4.toNatClampNeg) &&& (31 : Int32)) = (5 : Int32) → ((((x9.2 v4.toNatClampNeg) &&& (31 : Int32)) = (6 : Int32) → zAW (mL_law x9) 404 b 449 [(0, .ref 1), (1, .ref v1), (2, .ref v2), (3, .ref v3), (4, .int v4)] [] T I L R P) ∧ (¬ ((x9.2 v4.toNatClampNeg) &&& (31 : Int32)) = (6 : Int32) → ((((x9.2 v4.toNatClampNeg) &&& (31 : Int32)) = (7 : Int32) → zAW (mL_law x9) 404 b 498 [(0, .ref 1), (1, .ref v1), (2, .ref v2), (3, .ref v3), (4, .int v4)] [] T I L R P) ∧ (¬ ((x9.2 v4.toNatClampNeg) &&& (31 : Int32)) = (7 : Int32) → ((((x9.2 v4.toNatClampNeg) &&& (31 : Int32)) = (8 : Int32) → zAW (mL_law x9) 404 b 536 [(0, .ref 1), (1, .ref v1), (2, .ref v2), (3, .ref v3), (4, .int v4)] [] T I L R P) ∧ (¬ ((x9.2 v4.toNatClampNeg) &&& (31 : Int32)) = (8 : Int32) → ((((x9.2 v4.toNatClampNeg) &&& (31 : Int32)) = (9 : Int32) → zAW (mL_law x9) 404 b 573 [(0, .ref 1), (1, .ref v1), (2, .ref v2), (3, .ref v3), (4, .int v4)] [] T I L R P) ∧ (¬ ((x9.2 v4.toNatClampNeg) &&& (31 : Int32)) = (9 : Int32) → ((((x9.2 v4.toNatClampNeg) &&& (31 : Int32)) = (10 : Int32) → zAW (mL_law x9) 404 b 622 [(0, .ref 1), (1, .ref v1), (2, .ref v2), (3, .ref v3), (4, .int v4)] [] T I L R P) ∧ (¬ ((x9.2 v4.toNatClampNeg) &&& (31 : Int32)) = (10 : Int32) → ((((x9.2 v4.toNatClampNeg) &&& (31 : Int32)) = (11 : Int32) → zAW (mL_law x9) 404 b 671 [(0, .ref 1), (1, .ref v1), (2, .ref v2), (3, .ref v3), (4, .int v4)] [] T I L R P) ∧ (¬ ((x9.2 v4.toNatClampNeg) &&& (31 : Int32)) = (11 : Int32) → ((((x9.2 v4.toNatClampNeg) &&& (31 : Int32)) = (12 : Int32) → zAW (mL_law x9) 404 b 696 [(0, .ref 1), (1, .ref v1), (2, .ref v2), (3, .ref v3), (4, .int v4)] [] T I L R P) ∧ (¬ ((x9.2 v4.toNatClampNeg) &&& (31 : Int32)) = (12 : Int32) → ((((x9.2 v4.toNatClampNeg) &&& (31 : Int32)) = (13 : Int32) → zAW (mL_law x9) 404 b 745 [(0, .ref 1), (1, .ref v1), (2, .ref v2), (3, .ref v3), (4, .int v4)] [] T I L R P) ∧ (¬ ((x9.2 v4.toNatClampNeg) &&& (31 : Int32)) = (13 : Int32) → ((((x9.2 v4.toNatClampNeg) &&& (31 : Int32)) = (14 : Int32) → zAW (mL_law x9) 404 b 782 [(0, .ref 1), (1, .ref v1), (2, .ref v2), (3, .ref v3), (4, .int v4)] [] T I L R P) ∧ (¬ ((x9.2 v4.toNatClampNeg) &&& (31 : Int32)) = (14 : Int32) → ((((x9.2 v4.toNatClampNeg) &&& (31 : Int32)) = (15 : Int32) → zAW (mL_law x9) 404 b 831 [(0, .ref 1), (1, .ref v1), (2, .ref v2), (3, .ref v3), (4, .int v4)] [] T I L R P) ∧ (¬ ((x9.2 v4.toNatClampNeg) &&& (31 : Int32)) = (15 : Int32) → ((((x9.2 v4.toNatClampNeg) &&& (31 : Int32)) = (16 : Int32) → zAW (mL_law x9) 404 b 868 [(0, .ref 1), (1, .ref v1), (2, .ref v2), (3, .ref v3), (4, .int v4)] [] T I L R P) ∧ (¬ ((x9.2 v4.toNatClampNeg) &&& (31 : Int32)) = (16 : Int32) → ((((x9.2 v4.toNatClampNeg) &&& (31 : Int32)) = (17 : Int32) → zAW (mL_law x9) 404 b 918 [(0, .ref 1), (1, .ref v1), (2, .ref v2), (3, .ref v3), (4, .int v4)] [] T I L R P) ∧ (¬ ((x9.2 v4.toNatClampNeg) &&& (31 : Int32)) = (17 : Int32) → ((((x9.2 v4.toNatClampNeg) &&& (31 : Int32)) = (18 : Int32) → zAW (mL_law x9) 404 b 955 [(0, .ref 1), (1, .ref v1), (2, .ref v2), (3, .ref v3), (4, .int v4)] [] T I L R P) ∧ (¬ ((x9.2 v4.toNatClampNeg) &&& (31 : Int32)) = (18 : Int32) → ((((x9.2 v4.toNatClampNeg) &&& (31 : Int32)) = (19 : Int32) → zAW (mL_law x9) 404 b 993 [(0, .ref 1), (1, .ref v1), (2, .ref v2), (3, .ref v3), (4, .int v4)] [] T I L R P) ∧ (¬ ((x9.2 v4.toNatClampNeg) &&& (31 : Int32)) = (19 : Int32) → ((((x9.2 v4.toNatClampNeg) &&& (31 : Int32)) = (20 : Int32) → zAW (mL_law x9) 404 b 1018 [(0, .ref 1), (1, .ref v1), (2, .ref v2), (3, .ref v3), (4, .int v4)] [] T I L R P) ∧ (¬ ((x9.2 v4.toNatClampNeg) &&& (31 : Int32)) = (20 : Int32) → ((((x9.2 v4.toNatClampNeg) &&& (31 : Int32)) = (21 : Int32) → zAW (mL_law x9) 404 b 1056 [(0, .ref 1), (1, .ref v1), (2, .ref v2), (3, .ref v3), (4, .int v4)] [] T I L R P) ∧ (¬ ((x9.2 v4.toNatClampNeg) &&& (31 : Int32)) = (21 : Int32) → ((((x9.2 v4.toNatClampNeg) &&& (31 : Int32)) = (22 : Int32) → zAW (mL_law x9) 404 b 1093 [(0, .ref 1), (1, .ref v1), (2, .ref v2), (3, .ref v3), (4, .int v4)] [] T I L R P) ∧ (¬ ((x9.2 v4.toNatClampNeg) &&& (31 : Int32)) = (22 : Int32) → ((((x9.2 v4.toNatClampNeg) &&& (31 : Int32)) = (23 : Int32) → zAW (mL_law x9) 404 b 1118 [(0, .ref 1), (1, .ref v1), (2, .ref v2), (3, .ref v3), (4, .int v4)] [] T I L R P) ∧ (¬ ((x9.2 v4.toNatClampNeg) &&& (31 : Int32)) = (23 : Int32) → ((((x9.2 v4.toNatClampNeg) &&& (31 : Int32)) = (24 : Int32) → zAW (mL_law x9) 404 b 1131 [(0, .ref 1), (1, .ref v1), (2, .ref v2), (3, .ref v3), (4, .int v4)] [] T I L R P) ∧ (¬ ((x9.2 v4.toNatClampNeg) &&& (31 : Int32)) = (24 : Int32) → ((((x9.2 v4.toNatClampNeg) &&& (31 : Int32)) = (25 : Int32) → zAW (mL_law x9) 404 b 1144 [(0, .ref 1), (1, .ref v1), (2, .ref v2), (3, .ref v3), (4, .int v4)] [] T I L R P) ∧ (¬ ((x9.2 v4.toNatClampNeg) &&& (31 : Int32)) = (25 : Int32) → ((((x9.2 v4.toNatClampNeg) &&& (31 : Int32)) = (26 : Int32) → zAW (mL_law x9) 404 b 1169 [(0, .ref 1), (1, .ref v1), (2, .ref v2), (3, .ref v3), (4, .int v4)] [] T I L R P) ∧ (¬ ((x9.2 v4.toNatClampNeg) &&& (31 : Int32)) = (26 : Int32) → ((((x9.2 v4.toNatClampNeg) &&& (31 : Int32)) = (27 : Int32) → zAW (mL_law x9) 404 b 1206 [(0, .ref 1), (1, .ref v1), (2, .ref v2), (3, .ref v3), (4, .int v4)] [] T I L R P) ∧ (¬ ((x9.2 v4.toNatClampNeg) &&& (31 : Int32)) = (27 : Int32) → ((((x9.2 v4.toNatClampNeg) &&& (31 : Int32)) = (28 : Int32) → zAW (mL_law x9) 404 b 1243 [(0, .ref 1), (1, .ref v1), (2, .ref v2), (3, .ref v3), (4, .int v4)] [] T I L R P) ∧ (¬ ((x9.2 v4.toNatClampNeg) &&& (31 : Int32)) = (28 : Int32) → ((((x9.2 v4.toNatClampNeg) &&& (31 : Int32)) = (29 : Int32) → zAW (mL_law x9) 404 b 1256 [(0, .ref 1), (1, .ref v1), (2, .ref v2), (3, .ref v3), (4, .int v4)] [] T I L R P) ∧ (¬ ((x9.2 v4.toNatClampNeg) &&& (31 : Int32)) = (29 : Int32) → ((((x9.2 v4.toNatClampNeg) &&& (31 : Int32)) = (30 : Int32) → zAW (mL_law x9) 404 b 1269 [(0, .ref 1), (1, .ref v1), (2, .ref v2), (3, .ref v3), (4, .int v4)] [] T I L R P) ∧ (¬ ((x9.2 v4.toNatClampNeg) &&& (31 : Int32)) = (30 : Int32) → ((((x9.2 v4.toNatClampNeg) &&& (31 : Int32)) = (31 : Int32) → zAW (mL_law x9) 404 b 1282 [(0, .ref 1), (1, .ref v1), (2, .ref v2), (3, .ref v3), (4, .int v4)] [] T I L R P) ∧ (¬ ((x9.2 v4.toNatClampNeg) &&& (31 : Int32)) = (31 : Int32) → zAW (mL_law x9) 404 b 1307 [(0, .ref 1), (1, .ref v1), (2, .ref v2), (3, .ref v3), (4, .int v4)] [] T I L R P))))))))))))))))))))))))))))))))))))))))))))))))))))))))))))))))))) : zAW (mL_law x9) 404 b 23 [(0, .ref 1), (1, .ref v1), (2, .ref v2), (3, .ref v3), (4, .int v4)] [] T I L R P := by
  refine za_iload (pc' := 25) 4 dL_law_23 rfl rfl ?_
  refine za_aload_n (pc' := 26) 0 dL_law_25 rfl rfl rfl ?_
  refine za_scrLen (pc' := 27) dL_law_26 rfl rfl rfl ?_
  refine za_bipush (pc' := 29) dL_law_27 zb8_6 rfl ?_
  refine za_isub (pc' := 30) dL_law_29 rfl ?_
  refine za_icmp_gt (pc' := 33) (tgt := 1313) dL_law_30 (by decide) rfl (fun c9 => ?_) (fun c9 => ?_)
  · replace h := h.1 c9
    refine za_iconst (pc' := 1314) dL_law_1313 zi_1 rfl ?_
    exact za_zreturn rfl dL_law_1314 (by decide) h
  · replace h := h.2 c9
    refine za_aload_n (pc' := 34) 0 dL_law_33 rfl rfl rfl ?_
    refine za_iload (pc' := 36) 4 dL_law_34 rfl rfl ?_
    obtain ⟨hi25, h⟩ := h
    refine za_scrAt (pc' := 37) dL_law_36 rfl hi25 rfl rfl ?_
    refine za_bipush (pc' := 39) dL_law_37 zb8_31 rfl ?_
    refine za_iand (pc' := 40) dL_law_39 rfl ?_
    by_cases hs26 : ((x9.2 v4.toNatClampNeg) &&& (31 : Int32)) = (0 : Int32)
    · replace h := h.1 hs26
      refine za_tableIn (off := 144) (tgt := 184) dL_law_40 (by rw [hs26]; decide) (by rw [hs26]; decide) (by rw [hs26]; rfl) (by decide) ?_
      exact zAW_sub [0, 1, 2, 3, 4] rfl h
    replace h := h.2 hs26
    by_cases hs27 : ((x9.2 v4.toNatClampNeg) &&& (31 : Int32)) = (1 : Int32)
    · replace h := h.1 hs27
      refine za_tableIn (off := 217) (tgt := 257) dL_law_40 (by rw [hs27]; decide) (by rw [hs27]; decide) (by rw [hs27]; rfl) (by decide) ?_
      exact zAW_sub [0, 1, 2, 3, 4] rfl h
    replace h := h.2 hs27
    by_cases hs28 : ((x9.2 v4.toNatClampNeg) &&& (31 : Int32)) = (2 : Int32)
    · replace h := h.1 hs28
      refine za_tableIn (off := 242) (tgt := 282) dL_law_40 (by rw [hs28]; decide) (by rw [hs28]; decide) (by rw [hs28]; rfl) (by decide) ?_
      exact zAW_sub [0, 1, 2, 3, 4] rfl h
    replace h := h.2 hs28
    by_cases hs29 : ((x9.2 v4.toNatClampNeg) &&& (31 : Int32)) = (3 : Int32)
    · replace h := h.1 hs29
      refine za_tableIn (off := 267) (tgt := 307) dL_law_40 (by rw [hs29]; decide) (by rw [hs29]; decide) (by rw [hs29]; rfl) (by decide) ?_
      exact zAW_sub [0, 1, 2, 3, 4] rfl h
    replace h := h.2 hs29
    by_cases hs30 : ((x9.2 v4.toNatClampNeg) &&& (31 : Int32)) = (4 : Int32)
    · replace h := h.1 hs30
      refine za_tableIn (off := 304) (tgt := 344) dL_law_40 (by rw [hs30]; decide) (by rw [hs30]; decide) (by rw [hs30]; rfl) (by decide) ?_
      exact zAW_sub [0, 1, 2, 3, 4] rfl h
    replace h := h.2 hs30
    by_cases hs31 : ((x9.2 v4.toNatClampNeg) &&& (31 : Int32)) = (5 : Int32)
    · replace h := h.1 hs31
      refine za_tableIn (off := 372) (tgt := 412) dL_law_40 (by rw [hs31]; decide) (by rw [hs31]; decide) (by rw [hs31]; rfl) (by decide) ?_
      exact zAW_sub [0, 1, 2, 3, 4] rfl h
    replace h := h.2 hs31
    by_cases hs32 : ((x9.2 v4.toNatClampNeg) &&& (31 : Int32)) = (6 : Int32)
    · replace h := h.1 hs32
      refine za_tableIn (off := 409) (tgt := 449) dL_law_40 (by rw [hs32]; decide) (by rw [hs32]; decide) (by rw [hs32]; rfl) (by decide) ?_
      exact zAW_sub [0, 1, 2, 3, 4] rfl h
    replace h := h.2 hs32
    by_cases hs33 : ((x9.2 v4.toNatClampNeg) &&& (31 : Int32)) = (7 : Int32)
    · replace h := h.1 hs33
      refine za_tableIn (off := 458) (tgt := 498) dL_law_40 (by rw [hs33]; decide) (by rw [hs33]; decide) (by rw [hs33]; rfl) (by decide) ?_
      exact zAW_sub [0, 1, 2, 3, 4] rfl h
    replace h := h.2 hs33
    by_cases hs34 : ((x9.2 v4.toNatClampNeg) &&& (31 : Int32)) = (8 : Int32)
    · replace h := h.1 hs34
      refine za_tableIn (off := 496) (tgt := 536) dL_law_40 (by rw [hs34]; decide) (by rw [hs34]; decide) (by rw [hs34]; rfl) (by decide) ?_
      exact zAW_sub [0, 1, 2, 3, 4] rfl h
    replace h := h.2 hs34
    by_cases hs35 : ((x9.2 v4.toNatClampNeg) &&& (31 : Int32)) = (9 : Int32)
    · replace h := h.1 hs35
      refine za_tableIn (off := 533) (tgt := 573) dL_law_40 (by rw [hs35]; decide) (by rw [hs35]; decide) (by rw [hs35]; rfl) (by decide) ?_
      exact zAW_sub [0, 1, 2, 3, 4] rfl h
    replace h := h.2 hs35
    by_cases hs36 : ((x9.2 v4.toNatClampNeg) &&& (31 : Int32)) = (10 : Int32)
    · replace h := h.1 hs36
      refine za_tableIn (off := 582) (tgt := 622) dL_law_40 (by rw [hs36]; decide) (by rw [hs36]; decide) (by rw [hs36]; rfl) (by decide) ?_
      exact zAW_sub [0, 1, 2, 3, 4] rfl h
    replace h := h.2 hs36
    by_cases hs37 : ((x9.2 v4.toNatClampNeg) &&& (31 : Int32)) = (11 : Int32)
    · replace h := h.1 hs37
      refine za_tableIn (off := 631) (tgt := 671) dL_law_40 (by rw [hs37]; decide) (by rw [hs37]; decide) (by rw [hs37]; rfl) (by decide) ?_
      exact zAW_sub [0, 1, 2, 3, 4] rfl h
    replace h := h.2 hs37
    by_cases hs38 : ((x9.2 v4.toNatClampNeg) &&& (31 : Int32)) = (12 : Int32)
    · replace h := h.1 hs38
      refine za_tableIn (off := 656) (tgt := 696) dL_law_40 (by rw [hs38]; decide) (by rw [hs38]; decide) (by rw [hs38]; rfl) (by decide) ?_
      exact zAW_sub [0, 1, 2, 3, 4] rfl h
    replace h := h.2 hs38
    by_cases hs39 : ((x9.2 v4.toNatClampNeg) &&& (31 : Int32)) = (13 : Int32)
    · replace h := h.1 hs39
      refine za_tableIn (off := 705) (tgt := 745) dL_law_40 (by rw [hs39]; decide) (by rw [hs39]; decide) (by rw [hs39]; rfl) (by decide) ?_
      exact zAW_sub [0, 1, 2, 3, 4] rfl h
    replace h := h.2 hs39
    by_cases hs40 : ((x9.2 v4.toNatClampNeg) &&& (31 : Int32)) = (14 : Int32)
    · replace h := h.1 hs40
      refine za_tableIn (off := 742) (tgt := 782) dL_law_40 (by rw [hs40]; decide) (by rw [hs40]; decide) (by rw [hs40]; rfl) (by decide) ?_
      exact zAW_sub [0, 1, 2, 3, 4] rfl h
    replace h := h.2 hs40
    by_cases hs41 : ((x9.2 v4.toNatClampNeg) &&& (31 : Int32)) = (15 : Int32)
    · replace h := h.1 hs41
      refine za_tableIn (off := 791) (tgt := 831) dL_law_40 (by rw [hs41]; decide) (by rw [hs41]; decide) (by rw [hs41]; rfl) (by decide) ?_
      exact zAW_sub [0, 1, 2, 3, 4] rfl h
    replace h := h.2 hs41
    by_cases hs42 : ((x9.2 v4.toNatClampNeg) &&& (31 : Int32)) = (16 : Int32)
    · replace h := h.1 hs42
      refine za_tableIn (off := 828) (tgt := 868) dL_law_40 (by rw [hs42]; decide) (by rw [hs42]; decide) (by rw [hs42]; rfl) (by decide) ?_
      exact zAW_sub [0, 1, 2, 3, 4] rfl h
    replace h := h.2 hs42
    by_cases hs43 : ((x9.2 v4.toNatClampNeg) &&& (31 : Int32)) = (17 : Int32)
    · replace h := h.1 hs43
      refine za_tableIn (off := 878) (tgt := 918) dL_law_40 (by rw [hs43]; decide) (by rw [hs43]; decide) (by rw [hs43]; rfl) (by decide) ?_
      exact zAW_sub [0, 1, 2, 3, 4] rfl h
    replace h := h.2 hs43
    by_cases hs44 : ((x9.2 v4.toNatClampNeg) &&& (31 : Int32)) = (18 : Int32)
    · replace h := h.1 hs44
      refine za_tableIn (off := 915) (tgt := 955) dL_law_40 (by rw [hs44]; decide) (by rw [hs44]; decide) (by rw [hs44]; rfl) (by decide) ?_
      exact zAW_sub [0, 1, 2, 3, 4] rfl h
    replace h := h.2 hs44
    by_cases hs45 : ((x9.2 v4.toNatClampNeg) &&& (31 : Int32)) = (19 : Int32)
    · replace h := h.1 hs45
      refine za_tableIn (off := 953) (tgt := 993) dL_law_40 (by rw [hs45]; decide) (by rw [hs45]; decide) (by rw [hs45]; rfl) (by decide) ?_
      exact zAW_sub [0, 1, 2, 3, 4] rfl h
    replace h := h.2 hs45
    by_cases hs46 : ((x9.2 v4.toNatClampNeg) &&& (31 : Int32)) = (20 : Int32)
    · replace h := h.1 hs46
      refine za_tableIn (off := 978) (tgt := 1018) dL_law_40 (by rw [hs46]; decide) (by rw [hs46]; decide) (by rw [hs46]; rfl) (by decide) ?_
      exact zAW_sub [0, 1, 2, 3, 4] rfl h
    replace h := h.2 hs46
    by_cases hs47 : ((x9.2 v4.toNatClampNeg) &&& (31 : Int32)) = (21 : Int32)
    · replace h := h.1 hs47
      refine za_tableIn (off := 1016) (tgt := 1056) dL_law_40 (by rw [hs47]; decide) (by rw [hs47]; decide) (by rw [hs47]; rfl) (by decide) ?_
      exact zAW_sub [0, 1, 2, 3, 4] rfl h
    replace h := h.2 hs47
    by_cases hs48 : ((x9.2 v4.toNatClampNeg) &&& (31 : Int32)) = (22 : Int32)
    · replace h := h.1 hs48
      refine za_tableIn (off := 1053) (tgt := 1093) dL_law_40 (by rw [hs48]; decide) (by rw [hs48]; decide) (by rw [hs48]; rfl) (by decide) ?_
      exact zAW_sub [0, 1, 2, 3, 4] rfl h
    replace h := h.2 hs48
    by_cases hs49 : ((x9.2 v4.toNatClampNeg) &&& (31 : Int32)) = (23 : Int32)
    · replace h := h.1 hs49
      refine za_tableIn (off := 1078) (tgt := 1118) dL_law_40 (by rw [hs49]; decide) (by rw [hs49]; decide) (by rw [hs49]; rfl) (by decide) ?_
      exact zAW_sub [0, 1, 2, 3, 4] rfl h
    replace h := h.2 hs49
    by_cases hs50 : ((x9.2 v4.toNatClampNeg) &&& (31 : Int32)) = (24 : Int32)
    · replace h := h.1 hs50
      refine za_tableIn (off := 1091) (tgt := 1131) dL_law_40 (by rw [hs50]; decide) (by rw [hs50]; decide) (by rw [hs50]; rfl) (by decide) ?_
      exact zAW_sub [0, 1, 2, 3, 4] rfl h
    replace h := h.2 hs50
    by_cases hs51 : ((x9.2 v4.toNatClampNeg) &&& (31 : Int32)) = (25 : Int32)
    · replace h := h.1 hs51
      refine za_tableIn (off := 1104) (tgt := 1144) dL_law_40 (by rw [hs51]; decide) (by rw [hs51]; decide) (by rw [hs51]; rfl) (by decide) ?_
      exact zAW_sub [0, 1, 2, 3, 4] rfl h
    replace h := h.2 hs51
    by_cases hs52 : ((x9.2 v4.toNatClampNeg) &&& (31 : Int32)) = (26 : Int32)
    · replace h := h.1 hs52
      refine za_tableIn (off := 1129) (tgt := 1169) dL_law_40 (by rw [hs52]; decide) (by rw [hs52]; decide) (by rw [hs52]; rfl) (by decide) ?_
      exact zAW_sub [0, 1, 2, 3, 4] rfl h
    replace h := h.2 hs52
    by_cases hs53 : ((x9.2 v4.toNatClampNeg) &&& (31 : Int32)) = (27 : Int32)
    · replace h := h.1 hs53
      refine za_tableIn (off := 1166) (tgt := 1206) dL_law_40 (by rw [hs53]; decide) (by rw [hs53]; decide) (by rw [hs53]; rfl) (by decide) ?_
      exact zAW_sub [0, 1, 2, 3, 4] rfl h
    replace h := h.2 hs53
    by_cases hs54 : ((x9.2 v4.toNatClampNeg) &&& (31 : Int32)) = (28 : Int32)
    · replace h := h.1 hs54
      refine za_tableIn (off := 1203) (tgt := 1243) dL_law_40 (by rw [hs54]; decide) (by rw [hs54]; decide) (by rw [hs54]; rfl) (by decide) ?_
      exact zAW_sub [0, 1, 2, 3, 4] rfl h
    replace h := h.2 hs54
    by_cases hs55 : ((x9.2 v4.toNatClampNeg) &&& (31 : Int32)) = (29 : Int32)
    · replace h := h.1 hs55
      refine za_tableIn (off := 1216) (tgt := 1256) dL_law_40 (by rw [hs55]; decide) (by rw [hs55]; decide) (by rw [hs55]; rfl) (by decide) ?_
      exact zAW_sub [0, 1, 2, 3, 4] rfl h
    replace h := h.2 hs55
    by_cases hs56 : ((x9.2 v4.toNatClampNeg) &&& (31 : Int32)) = (30 : Int32)
    · replace h := h.1 hs56
      refine za_tableIn (off := 1229) (tgt := 1269) dL_law_40 (by rw [hs56]; decide) (by rw [hs56]; decide) (by rw [hs56]; rfl) (by decide) ?_
      exact zAW_sub [0, 1, 2, 3, 4] rfl h
    replace h := h.2 hs56
    by_cases hs57 : ((x9.2 v4.toNatClampNeg) &&& (31 : Int32)) = (31 : Int32)
    · replace h := h.1 hs57
      refine za_tableIn (off := 1242) (tgt := 1282) dL_law_40 (by rw [hs57]; decide) (by rw [hs57]; decide) (by rw [hs57]; rfl) (by decide) ?_
      exact zAW_sub [0, 1, 2, 3, 4] rfl h
    replace h := h.2 hs57
    refine za_tableOut (tgt := 1307) dL_law_40 (ztabOut (lo := 0) (hi := 31) (by omega) (fun k9 h8 h7 => by have q0 := zsw_n (0) (by decide) hs26; have q1 := zsw_n (1) (by decide) hs27; have q2 := zsw_n (2) (by decide) hs28; have q3 := zsw_n (3) (by decide) hs29; have q4 := zsw_n (4) (by decide) hs30; have q5 := zsw_n (5) (by decide) hs31; have q6 := zsw_n (6) (by decide) hs32; have q7 := zsw_n (7) (by decide) hs33; have q8 := zsw_n (8) (by decide) hs34; have q9 := zsw_n (9) (by decide) hs35; have q10 := zsw_n (10) (by decide) hs36; have q11 := zsw_n (11) (by decide) hs37; have q12 := zsw_n (12) (by decide) hs38; have q13 := zsw_n (13) (by decide) hs39; have q14 := zsw_n (14) (by decide) hs40; have q15 := zsw_n (15) (by decide) hs41; have q16 := zsw_n (16) (by decide) hs42; have q17 := zsw_n (17) (by decide) hs43; have q18 := zsw_n (18) (by decide) hs44; have q19 := zsw_n (19) (by decide) hs45; have q20 := zsw_n (20) (by decide) hs46; have q21 := zsw_n (21) (by decide) hs47; have q22 := zsw_n (22) (by decide) hs48; have q23 := zsw_n (23) (by decide) hs49; have q24 := zsw_n (24) (by decide) hs50; have q25 := zsw_n (25) (by decide) hs51; have q26 := zsw_n (26) (by decide) hs52; have q27 := zsw_n (27) (by decide) hs53; have q28 := zsw_n (28) (by decide) hs54; have q29 := zsw_n (29) (by decide) hs55; have q30 := zsw_n (30) (by decide) hs56; have q31 := zsw_n (31) (by decide) hs57; omega)) (by decide) ?_
    exact zAW_sub [0, 1, 2, 3, 4] rfl h
theorem gL_law_184 {x9 : Nat × (Nat → Int32)} {b : Nat} {v1 : Nat} {v2 : Nat} {v3 : Nat} {v4 : Int32} {T : zT} {I : zI} {L : zL} {R : zR} {P : zP} (h : vp_in (v4 + (1 : Int32)) (x9.1) ∧ vp_in (v4 + (2 : Int32)) (x9.1) ∧ vp_in (v4 + (3 : Int32)) (x9.1) ∧ vp_in (v4 + (4 : Int32)) (x9.1) ∧ vp_in (v4 + (5 : Int32)) (x9.1) ∧ (T v1).1 = 1 ∧ zMet mX1_feed 2 0 [.ref v1, .int (x9.2 (v4 + (1 : Int32)).toNatClampNeg), .int (x9.2 (v4 + (2 : Int32)).toNatClampNeg), .int (x9.2 (v4 + (3 : Int32)).toNatClampNeg), .int (x9.2 (v4 + (4 : Int32)).toNatClampNeg), .int (x9.2 (v4 + (5 : Int32)).toNatClampNeg)] T I L R (zqI_I T L R  (fun (r63 : Int32) (I64 : zI)  => (T v2).1 = 13 ∧ zMet mX13_feed 1 0 [.ref v2, .int (x9.2 (v4 + (1 : Int32)).toNatClampNeg), .int (x9.2 (v4 + (2 : Int32)).toNatClampNeg), .int (x9.2 (v4 + (3 : Int32)).toNatClampNeg), .int (x9.2 (v4 + (4 : Int32)).toNatClampNeg), .int (x9.2 (v4 + (5 : Int32)).toNatClampNeg)] T I64 L R (zqI_I T L R  (fun (r66 : Int32) (I67 : zI)  => ((r63 = r66 → zAW (mL_law x9) 404 ((b - 0) - 0) 1307 [(0, .ref 1), (1, .ref v1), (2, .ref v2), (3, .ref v3), (4, .int v4)] [] T I67 L R P) ∧ (¬ r63 = r66 → P 0 (.int (0 : Int32)) T I67 L R))))))) : zAW (mL_law x9) 404 b 184 [(0, .ref 1), (1, .ref v1), (2, .ref v2), (3, .ref v3), (4, .int v4)] [] T I L R P := by
  refine za_aload_n (pc' := 185) 1 dL_law_184 rfl rfl rfl ?_
  refine za_aload_n (pc' := 186) 0 dL_law_185 rfl rfl rfl ?_
  refine za_iload (pc' := 188) 4 dL_law_186 rfl rfl ?_
  refine za_iconst (pc' := 189) dL_law_188 zi_1 rfl ?_
  refine za_iadd (pc' := 190) dL_law_189 rfl ?_
  obtain ⟨hi58, h⟩ := h
  refine za_scrAt (pc' := 191) dL_law_190 rfl hi58 rfl rfl ?_
  refine za_aload_n (pc' := 192) 0 dL_law_191 rfl rfl rfl ?_
  refine za_iload (pc' := 194) 4 dL_law_192 rfl rfl ?_
  refine za_iconst (pc' := 195) dL_law_194 zi_2 rfl ?_
  refine za_iadd (pc' := 196) dL_law_195 rfl ?_
  obtain ⟨hi59, h⟩ := h
  refine za_scrAt (pc' := 197) dL_law_196 rfl hi59 rfl rfl ?_
  refine za_aload_n (pc' := 198) 0 dL_law_197 rfl rfl rfl ?_
  refine za_iload (pc' := 200) 4 dL_law_198 rfl rfl ?_
  refine za_iconst (pc' := 201) dL_law_200 zi_3 rfl ?_
  refine za_iadd (pc' := 202) dL_law_201 rfl ?_
  obtain ⟨hi60, h⟩ := h
  refine za_scrAt (pc' := 203) dL_law_202 rfl hi60 rfl rfl ?_
  refine za_aload_n (pc' := 204) 0 dL_law_203 rfl rfl rfl ?_
  refine za_iload (pc' := 206) 4 dL_law_204 rfl rfl ?_
  refine za_iconst (pc' := 207) dL_law_206 zi_4 rfl ?_
  refine za_iadd (pc' := 208) dL_law_207 rfl ?_
  obtain ⟨hi61, h⟩ := h
  refine za_scrAt (pc' := 209) dL_law_208 rfl hi61 rfl rfl ?_
  refine za_aload_n (pc' := 210) 0 dL_law_209 rfl rfl rfl ?_
  refine za_iload (pc' := 212) 4 dL_law_210 rfl rfl ?_
  refine za_iconst (pc' := 213) dL_law_212 zi_5 rfl ?_
  refine za_iadd (pc' := 214) dL_law_213 rfl ?_
  obtain ⟨hi62, h⟩ := h
  refine za_scrAt (pc' := 215) dL_law_214 rfl hi62 rfl rfl ?_
  obtain ⟨ht65, h⟩ := h
  refine za_callV (κ := v1) (M2 := mX1_feed) (d2 := 2) (b2 := 0) (n := 5) (As := [.int (x9.2 (v4 + (1 : Int32)).toNatClampNeg), .int (x9.2 (v4 + (2 : Int32)).toNatClampNeg), .int (x9.2 (v4 + (3 : Int32)).toNatClampNeg), .int (x9.2 (v4 + (4 : Int32)).toNatClampNeg), .int (x9.2 (v4 + (5 : Int32)).toNatClampNeg)]) (st := []) (pc' := 218) zc0 (by decide) ht65 dL_law_215 rfl (lw_V q575 q576 q577 q131 q578) ⟨rfl, hd_X1_feed⟩ rfl (by decide) (by decide) (Nat.zero_le _) (Or.inl rfl) (Nat.le_of_ble_eq_true rfl) h (zqI_I_k rfl (fun r63 I64 h => ?_)) (fun _ _ _ _ _ _ h9 h8 => absurd h8.1 h9) rfl
  refine za_aload_n (pc' := 219) 2 dL_law_218 rfl rfl rfl ?_
  refine za_aload_n (pc' := 220) 0 dL_law_219 rfl rfl rfl ?_
  refine za_iload (pc' := 222) 4 dL_law_220 rfl rfl ?_
  refine za_iconst (pc' := 223) dL_law_222 zi_1 rfl ?_
  refine za_iadd (pc' := 224) dL_law_223 rfl ?_
  refine za_scrAt (pc' := 225) dL_law_224 rfl hi58 rfl rfl ?_
  refine za_aload_n (pc' := 226) 0 dL_law_225 rfl rfl rfl ?_
  refine za_iload (pc' := 228) 4 dL_law_226 rfl rfl ?_
  refine za_iconst (pc' := 229) dL_law_228 zi_2 rfl ?_
  refine za_iadd (pc' := 230) dL_law_229 rfl ?_
  refine za_scrAt (pc' := 231) dL_law_230 rfl hi59 rfl rfl ?_
  refine za_aload_n (pc' := 232) 0 dL_law_231 rfl rfl rfl ?_
  refine za_iload (pc' := 234) 4 dL_law_232 rfl rfl ?_
  refine za_iconst (pc' := 235) dL_law_234 zi_3 rfl ?_
  refine za_iadd (pc' := 236) dL_law_235 rfl ?_
  refine za_scrAt (pc' := 237) dL_law_236 rfl hi60 rfl rfl ?_
  refine za_aload_n (pc' := 238) 0 dL_law_237 rfl rfl rfl ?_
  refine za_iload (pc' := 240) 4 dL_law_238 rfl rfl ?_
  refine za_iconst (pc' := 241) dL_law_240 zi_4 rfl ?_
  refine za_iadd (pc' := 242) dL_law_241 rfl ?_
  refine za_scrAt (pc' := 243) dL_law_242 rfl hi61 rfl rfl ?_
  refine za_aload_n (pc' := 244) 0 dL_law_243 rfl rfl rfl ?_
  refine za_iload (pc' := 246) 4 dL_law_244 rfl rfl ?_
  refine za_iconst (pc' := 247) dL_law_246 zi_5 rfl ?_
  refine za_iadd (pc' := 248) dL_law_247 rfl ?_
  refine za_scrAt (pc' := 249) dL_law_248 rfl hi62 rfl rfl ?_
  obtain ⟨ht68, h⟩ := h
  refine za_callV (κ := v2) (M2 := mX13_feed) (d2 := 1) (b2 := 0) (n := 5) (As := [.int (x9.2 (v4 + (1 : Int32)).toNatClampNeg), .int (x9.2 (v4 + (2 : Int32)).toNatClampNeg), .int (x9.2 (v4 + (3 : Int32)).toNatClampNeg), .int (x9.2 (v4 + (4 : Int32)).toNatClampNeg), .int (x9.2 (v4 + (5 : Int32)).toNatClampNeg)]) (st := [.int r63]) (pc' := 252) zc12 (by decide) ht68 dL_law_249 rfl (lw_V q1801 q1802 q1803 q148 q1804) ⟨rfl, hd_X13_feed⟩ rfl (by decide) (by decide) (Nat.zero_le _) (Or.inl rfl) (Nat.le_of_ble_eq_true rfl) h (zqI_I_k rfl (fun r66 I67 h => ?_)) (fun _ _ _ _ _ _ h9 h8 => absurd h8.1 h9) rfl
  refine za_icmp_eq (pc' := 255) (tgt := 1307) dL_law_252 (by decide) rfl (fun c9 => ?_) (fun c9 => ?_)
  · replace h := h.1 c9
    exact zAW_sub [0, 1, 2, 3, 4] rfl h
  · replace h := h.2 c9
    refine za_iconst (pc' := 256) dL_law_255 zi_0 rfl ?_
    exact za_zreturn rfl dL_law_256 (by decide) h
theorem gL_law_257 {x9 : Nat × (Nat → Int32)} {b : Nat} {v1 : Nat} {v2 : Nat} {v3 : Nat} {v4 : Int32} {T : zT} {I : zI} {L : zL} {R : zR} {P : zP} (h : vp_in (v4 + (1 : Int32)) (x9.1) ∧ (T v1).1 = 1 ∧ ∃ b75, b75 ≤ b ∧ zMet mX1_text 403 b75 [.ref v1, .int (x9.2 (v4 + (1 : Int32)).toNatClampNeg)] T I L R (zqI_TILR   (fun (r70 : Int32) (T71 : zT) (I72 : zI) (L73 : zL) (R74 : zR)  => (T71 v2).1 = 13 ∧ zMet mX13_text 6 0 [.ref v2, .int (x9.2 (v4 + (1 : Int32)).toNatClampNeg)] T71 I72 L73 R74 (zqI_IL T71 R74  (fun (r78 : Int32) (I79 : zI) (L80 : zL)  => ((r70 = r78 → zAW (mL_law x9) 404 ((b - b75) - 0) 1307 [(0, .ref 1), (1, .ref v1), (2, .ref v2), (3, .ref v3), (4, .int v4)] [] T71 I79 L80 R74 P) ∧ (¬ r70 = r78 → P 0 (.int (0 : Int32)) T71 I79 L80 R74))))))) : zAW (mL_law x9) 404 b 257 [(0, .ref 1), (1, .ref v1), (2, .ref v2), (3, .ref v3), (4, .int v4)] [] T I L R P := by
  refine za_aload_n (pc' := 258) 1 dL_law_257 rfl rfl rfl ?_
  refine za_aload_n (pc' := 259) 0 dL_law_258 rfl rfl rfl ?_
  refine za_iload (pc' := 261) 4 dL_law_259 rfl rfl ?_
  refine za_iconst (pc' := 262) dL_law_261 zi_1 rfl ?_
  refine za_iadd (pc' := 263) dL_law_262 rfl ?_
  obtain ⟨hi69, h⟩ := h
  refine za_scrAt (pc' := 264) dL_law_263 rfl hi69 rfl rfl ?_
  obtain ⟨ht77, h⟩ := h
  obtain ⟨b75, hb76, h⟩ := h
  refine za_callVW (κ := v1) (M2 := mX1_text) (d2 := 403) (b2 := b75) (n := 1) (As := [.int (x9.2 (v4 + (1 : Int32)).toNatClampNeg)]) (st := []) (pc' := 267) zc0 (by decide) ht77 dL_law_264 rfl (lw_VW q583 q584 q585 q131 q586) ⟨rfl, hd_X1_text⟩ rfl (by decide) (by decide) hb76 (Or.inl rfl) (Nat.le_of_ble_eq_true rfl) h (zqI_TILR_k rfl (fun r70 T71 I72 L73 R74 h => ?_)) (fun _ _ _ _ _ _ h9 h8 => absurd h8.1 h9) rfl
  refine za_aload_n (pc' := 268) 2 dL_law_267 rfl rfl rfl ?_
  refine za_aload_n (pc' := 269) 0 dL_law_268 rfl rfl rfl ?_
  refine za_iload (pc' := 271) 4 dL_law_269 rfl rfl ?_
  refine za_iconst (pc' := 272) dL_law_271 zi_1 rfl ?_
  refine za_iadd (pc' := 273) dL_law_272 rfl ?_
  refine za_scrAt (pc' := 274) dL_law_273 rfl hi69 rfl rfl ?_
  obtain ⟨ht81, h⟩ := h
  refine za_callV (κ := v2) (M2 := mX13_text) (d2 := 6) (b2 := 0) (n := 1) (As := [.int (x9.2 (v4 + (1 : Int32)).toNatClampNeg)]) (st := [.int r70]) (pc' := 277) zc12 (by decide) ht81 dL_law_274 rfl (lw_V q1805 q1806 q1807 q148 q1808) ⟨rfl, hd_X13_text⟩ rfl (by decide) (by decide) (Nat.zero_le _) (Or.inl rfl) (Nat.le_of_ble_eq_true rfl) h (zqI_IL_k rfl (fun r78 I79 L80 h => ?_)) (fun _ _ _ _ _ _ h9 h8 => absurd h8.1 h9) rfl
  refine za_icmp_eq (pc' := 280) (tgt := 1307) dL_law_277 (by decide) rfl (fun c9 => ?_) (fun c9 => ?_)
  · replace h := h.1 c9
    exact zAW_sub [0, 1, 2, 3, 4] rfl h
  · replace h := h.2 c9
    refine za_iconst (pc' := 281) dL_law_280 zi_0 rfl ?_
    exact za_zreturn rfl dL_law_281 (by decide) h
theorem gL_law_282 {x9 : Nat × (Nat → Int32)} {b : Nat} {v1 : Nat} {v2 : Nat} {v3 : Nat} {v4 : Int32} {T : zT} {I : zI} {L : zL} {R : zR} {P : zP} (h : vp_in (v4 + (1 : Int32)) (x9.1) ∧ (T v1).1 = 1 ∧ zMet mX1_fault 1 0 [.ref v1, .int (x9.2 (v4 + (1 : Int32)).toNatClampNeg)] T I L R (zqI_ T I L R  (fun (r83 : Int32)  => (T v2).1 = 13 ∧ zMet mX13_fault 1 0 [.ref v2, .int (x9.2 (v4 + (1 : Int32)).toNatClampNeg)] T I L R (zqI_I T L R  (fun (r85 : Int32) (I86 : zI)  => ((r83 = r85 → zAW (mL_law x9) 404 ((b - 0) - 0) 1307 [(0, .ref 1), (1, .ref v1), (2, .ref v2), (3, .ref v3), (4, .int v4)] [] T I86 L R P) ∧ (¬ r83 = r85 → P 0 (.int (0 : Int32)) T I86 L R))))))) : zAW (mL_law x9) 404 b 282 [(0, .ref 1), (1, .ref v1), (2, .ref v2), (3, .ref v3), (4, .int v4)] [] T I L R P := by
  refine za_aload_n (pc' := 283) 1 dL_law_282 rfl rfl rfl ?_
  refine za_aload_n (pc' := 284) 0 dL_law_283 rfl rfl rfl ?_
  refine za_iload (pc' := 286) 4 dL_law_284 rfl rfl ?_
  refine za_iconst (pc' := 287) dL_law_286 zi_1 rfl ?_
  refine za_iadd (pc' := 288) dL_law_287 rfl ?_
  obtain ⟨hi82, h⟩ := h
  refine za_scrAt (pc' := 289) dL_law_288 rfl hi82 rfl rfl ?_
  obtain ⟨ht84, h⟩ := h
  refine za_callV (κ := v1) (M2 := mX1_fault) (d2 := 1) (b2 := 0) (n := 1) (As := [.int (x9.2 (v4 + (1 : Int32)).toNatClampNeg)]) (st := []) (pc' := 292) zc0 (by decide) ht84 dL_law_289 rfl (lw_V q1048 q1049 q1050 q131 q1051) ⟨rfl, hd_X1_fault⟩ rfl (by decide) (by decide) (Nat.zero_le _) (Or.inl rfl) (Nat.le_of_ble_eq_true rfl) h (zqI__k rfl (fun r83 h => ?_)) (fun _ _ _ _ _ _ h9 h8 => absurd h8.1 h9) rfl
  refine za_aload_n (pc' := 293) 2 dL_law_292 rfl rfl rfl ?_
  refine za_aload_n (pc' := 294) 0 dL_law_293 rfl rfl rfl ?_
  refine za_iload (pc' := 296) 4 dL_law_294 rfl rfl ?_
  refine za_iconst (pc' := 297) dL_law_296 zi_1 rfl ?_
  refine za_iadd (pc' := 298) dL_law_297 rfl ?_
  refine za_scrAt (pc' := 299) dL_law_298 rfl hi82 rfl rfl ?_
  obtain ⟨ht87, h⟩ := h
  refine za_callV (κ := v2) (M2 := mX13_fault) (d2 := 1) (b2 := 0) (n := 1) (As := [.int (x9.2 (v4 + (1 : Int32)).toNatClampNeg)]) (st := [.int r83]) (pc' := 302) zc12 (by decide) ht87 dL_law_299 rfl (lw_V q1933 q1934 q1935 q148 q1936) ⟨rfl, hd_X13_fault⟩ rfl (by decide) (by decide) (Nat.zero_le _) (Or.inl rfl) (Nat.le_of_ble_eq_true rfl) h (zqI_I_k rfl (fun r85 I86 h => ?_)) (fun _ _ _ _ _ _ h9 h8 => absurd h8.1 h9) rfl
  refine za_icmp_eq (pc' := 305) (tgt := 1307) dL_law_302 (by decide) rfl (fun c9 => ?_) (fun c9 => ?_)
  · replace h := h.1 c9
    exact zAW_sub [0, 1, 2, 3, 4] rfl h
  · replace h := h.2 c9
    refine za_iconst (pc' := 306) dL_law_305 zi_0 rfl ?_
    exact za_zreturn rfl dL_law_306 (by decide) h
theorem gL_law_307 {x9 : Nat × (Nat → Int32)} {b : Nat} {v1 : Nat} {v2 : Nat} {v3 : Nat} {v4 : Int32} {T : zT} {I : zI} {L : zL} {R : zR} {P : zP} (h : vp_in (v4 + (1 : Int32)) (x9.1) ∧ vp_in (v4 + (2 : Int32)) (x9.1) ∧ (T v1).1 = 1 ∧ zMet mX1_named 5 0 [.ref v1, .int (x9.2 (v4 + (1 : Int32)).toNatClampNeg), .int (x9.2 (v4 + (2 : Int32)).toNatClampNeg)] T I L R (zqI_ T I L R  (fun (r90 : Int32)  => (T v2).1 = 13 ∧ zMet mX13_named 2 0 [.ref v2, .int (x9.2 (v4 + (1 : Int32)).toNatClampNeg), .int (x9.2 (v4 + (2 : Int32)).toNatClampNeg)] T I L R (zqI_I T L R  (fun (r92 : Int32) (I93 : zI)  => zAW (mL_law x9) 404 ((b - 0) - 0) 339 [(0, .ref 1), (1, .ref v1), (2, .ref v2), (3, .ref v3), (4, .int v4)] [.int r92, .int r90] T I93 L R P))))) : zAW (mL_law x9) 404 b 307 [(0, .ref 1), (1, .ref v1), (2, .ref v2), (3, .ref v3), (4, .int v4)] [] T I L R P := by
  refine za_aload_n (pc' := 308) 1 dL_law_307 rfl rfl rfl ?_
  refine za_aload_n (pc' := 309) 0 dL_law_308 rfl rfl rfl ?_
  refine za_iload (pc' := 311) 4 dL_law_309 rfl rfl ?_
  refine za_iconst (pc' := 312) dL_law_311 zi_1 rfl ?_
  refine za_iadd (pc' := 313) dL_law_312 rfl ?_
  obtain ⟨hi88, h⟩ := h
  refine za_scrAt (pc' := 314) dL_law_313 rfl hi88 rfl rfl ?_
  refine za_aload_n (pc' := 315) 0 dL_law_314 rfl rfl rfl ?_
  refine za_iload (pc' := 317) 4 dL_law_315 rfl rfl ?_
  refine za_iconst (pc' := 318) dL_law_317 zi_2 rfl ?_
  refine za_iadd (pc' := 319) dL_law_318 rfl ?_
  obtain ⟨hi89, h⟩ := h
  refine za_scrAt (pc' := 320) dL_law_319 rfl hi89 rfl rfl ?_
  obtain ⟨ht91, h⟩ := h
  refine za_callV (κ := v1) (M2 := mX1_named) (d2 := 5) (b2 := 0) (n := 2) (As := [.int (x9.2 (v4 + (1 : Int32)).toNatClampNeg), .int (x9.2 (v4 + (2 : Int32)).toNatClampNeg)]) (st := []) (pc' := 323) zc0 (by decide) ht91 dL_law_320 rfl (lw_V q1052 q1053 q1054 q131 q1055) ⟨rfl, hd_X1_named⟩ rfl (by decide) (by decide) (Nat.zero_le _) (Or.inl rfl) (Nat.le_of_ble_eq_true rfl) h (zqI__k rfl (fun r90 h => ?_)) (fun _ _ _ _ _ _ h9 h8 => absurd h8.1 h9) rfl
  refine za_aload_n (pc' := 324) 2 dL_law_323 rfl rfl rfl ?_
  refine za_aload_n (pc' := 325) 0 dL_law_324 rfl rfl rfl ?_
  refine za_iload (pc' := 327) 4 dL_law_325 rfl rfl ?_
  refine za_iconst (pc' := 328) dL_law_327 zi_1 rfl ?_
  refine za_iadd (pc' := 329) dL_law_328 rfl ?_
  refine za_scrAt (pc' := 330) dL_law_329 rfl hi88 rfl rfl ?_
  refine za_aload_n (pc' := 331) 0 dL_law_330 rfl rfl rfl ?_
  refine za_iload (pc' := 333) 4 dL_law_331 rfl rfl ?_
  refine za_iconst (pc' := 334) dL_law_333 zi_2 rfl ?_
  refine za_iadd (pc' := 335) dL_law_334 rfl ?_
  refine za_scrAt (pc' := 336) dL_law_335 rfl hi89 rfl rfl ?_
  obtain ⟨ht94, h⟩ := h
  refine za_callV (κ := v2) (M2 := mX13_named) (d2 := 2) (b2 := 0) (n := 2) (As := [.int (x9.2 (v4 + (1 : Int32)).toNatClampNeg), .int (x9.2 (v4 + (2 : Int32)).toNatClampNeg)]) (st := [.int r90]) (pc' := 339) zc12 (by decide) ht94 dL_law_336 rfl (lw_V q1937 q1938 q1939 q148 q1940) ⟨rfl, hd_X13_named⟩ rfl (by decide) (by decide) (Nat.zero_le _) (Or.inl rfl) (Nat.le_of_ble_eq_true rfl) h (zqI_I_k rfl (fun r92 I93 h => ?_)) (fun _ _ _ _ _ _ h9 h8 => absurd h8.1 h9) rfl
  exact zAW_sub [0, 1, 2, 3, 4] rfl h
theorem gL_law_339 {x9 : Nat × (Nat → Int32)} {b : Nat} {v1 : Nat} {v2 : Nat} {v3 : Nat} {v4 : Int32} {s0 : Int32} {s1 : Int32} {T : zT} {I : zI} {L : zL} {R : zR} {P : zP} (h : ((s1 = s0 → zAW (mL_law x9) 404 b 1307 [(0, .ref 1), (1, .ref v1), (2, .ref v2), (3, .ref v3), (4, .int v4)] [] T I L R P) ∧ (¬ s1 = s0 → P 0 (.int (0 : Int32)) T I L R))) : zAW (mL_law x9) 404 b 339 [(0, .ref 1), (1, .ref v1), (2, .ref v2), (3, .ref v3), (4, .int v4)] [.int s0, .int s1] T I L R P := by
  refine za_icmp_eq (pc' := 342) (tgt := 1307) dL_law_339 (by decide) rfl (fun c9 => ?_) (fun c9 => ?_)
  · replace h := h.1 c9
    exact zAW_sub [0, 1, 2, 3, 4] rfl h
  · replace h := h.2 c9
    refine za_iconst (pc' := 343) dL_law_342 zi_0 rfl ?_
    exact za_zreturn rfl dL_law_343 (by decide) h
theorem gL_law_344 {x9 : Nat × (Nat → Int32)} {b : Nat} {v1 : Nat} {v2 : Nat} {v3 : Nat} {v4 : Int32} {T : zT} {I : zI} {L : zL} {R : zR} {P : zP} (h : vp_in (v4 + (1 : Int32)) (x9.1) ∧ vp_in (v4 + (2 : Int32)) (x9.1) ∧ ∃ b102, b102 ≤ b ∧ zMet mX0_look 13 b102 [.ref v1, .int (x9.2 (v4 + (1 : Int32)).toNatClampNeg), .int (x9.2 (v4 + (2 : Int32)).toNatClampNeg), .ref v3] T I L R (zqI_TILR   (fun (r97 : Int32) (T98 : zT) (I99 : zI) (L100 : zL) (R101 : zR)  => (T98 v2).1 = 13 ∧ zMet mX13_look 2 0 [.ref v2, .int (x9.2 (v4 + (1 : Int32)).toNatClampNeg), .int (x9.2 (v4 + (2 : Int32)).toNatClampNeg)] T98 I99 L100 R101 (zqI_I T98 L100 R101  (fun (r104 : Int32) (I105 : zI)  => zMet mX13_thrown 1 0 [.ref v2] T98 I105 L100 R101 (zqI_ T98 I105 L100 R101  (fun (r107 : Int32)  => ((r107 = r97 → ((r97 = 0 → (T98 v3).1 = 101 ∧ vp_in (0 : Int32) ((T98 v3).2) ∧ (((L100 v3 0) = (r104.toInt64) → zAW (mL_law x9) 404 (((b - b102) - 0) - 0) 1307 [(0, .ref 1), (1, .ref v1), (2, .ref v2), (3, .ref v3), (4, .int v4)] [] T98 I105 L100 R101 P) ∧ (¬ (L100 v3 0) = (r104.toInt64) → P 0 (.int (0 : Int32)) T98 I105 L100 R101))) ∧ (¬ r97 = 0 → zAW (mL_law x9) 404 (((b - b102) - 0) - 0) 1307 [(0, .ref 1), (1, .ref v1), (2, .ref v2), (3, .ref v3), (4, .int v4)] [] T98 I105 L100 R101 P))) ∧ (¬ r107 = r97 → P 0 (.int (0 : Int32)) T98 I105 L100 R101))))))))) : zAW (mL_law x9) 404 b 344 [(0, .ref 1), (1, .ref v1), (2, .ref v2), (3, .ref v3), (4, .int v4)] [] T I L R P := by
  refine za_aload_n (pc' := 345) 1 dL_law_344 rfl rfl rfl ?_
  refine za_aload_n (pc' := 346) 0 dL_law_345 rfl rfl rfl ?_
  refine za_iload (pc' := 348) 4 dL_law_346 rfl rfl ?_
  refine za_iconst (pc' := 349) dL_law_348 zi_1 rfl ?_
  refine za_iadd (pc' := 350) dL_law_349 rfl ?_
  obtain ⟨hi95, h⟩ := h
  refine za_scrAt (pc' := 351) dL_law_350 rfl hi95 rfl rfl ?_
  refine za_aload_n (pc' := 352) 0 dL_law_351 rfl rfl rfl ?_
  refine za_iload (pc' := 354) 4 dL_law_352 rfl rfl ?_
  refine za_iconst (pc' := 355) dL_law_354 zi_2 rfl ?_
  refine za_iadd (pc' := 356) dL_law_355 rfl ?_
  obtain ⟨hi96, h⟩ := h
  refine za_scrAt (pc' := 357) dL_law_356 rfl hi96 rfl rfl ?_
  refine za_aload_n (pc' := 358) 3 dL_law_357 rfl rfl rfl ?_
  obtain ⟨b102, hb103, h⟩ := h
  refine za_callSW (M2 := mX0_look) (d2 := 13) (b2 := b102) (n := 4) (As := [.ref v1, .int (x9.2 (v4 + (1 : Int32)).toNatClampNeg), .int (x9.2 (v4 + (2 : Int32)).toNatClampNeg), .ref v3]) (st := []) (pc' := 361) dL_law_358 rfl (lw_SW q1428 q1429 q130 q1430) hd_X0_look rfl (by decide) (by decide) hb103 (Or.inl rfl) (Nat.le_of_ble_eq_true rfl) h (zqI_TILR_k rfl (fun r97 T98 I99 L100 R101 h => ?_)) (fun _ _ _ _ _ _ h9 h8 => absurd h8.1 h9) rfl
  refine za_istore (pc' := 363) (l' := [(5, .int r97), (0, .ref 1), (1, .ref v1), (2, .ref v2), (3, .ref v3), (4, .int v4)]) dL_law_361 (Nat.le_of_ble_eq_true rfl) rfl rfl ?_
  refine za_aload_n (pc' := 364) 3 dL_law_363 rfl rfl rfl ?_
  refine za_aload_n (pc' := 365) 1 dL_law_364 rfl rfl rfl ?_
  refine za_iload (pc' := 367) 5 dL_law_365 rfl rfl ?_
  refine za_iconst (pc' := 368) dL_law_367 zi_1 rfl ?_
  refine za_iadd (pc' := 369) dL_law_368 rfl ?_
  refine za_scrAt (pc' := 370) dL_law_369 rfl hi95 rfl rfl ?_
  refine za_aload_n (pc' := 371) 1 dL_law_370 rfl rfl rfl ?_
  refine za_iload (pc' := 373) 5 dL_law_371 rfl rfl ?_
  refine za_iconst (pc' := 374) dL_law_373 zi_2 rfl ?_
  refine za_iadd (pc' := 375) dL_law_374 rfl ?_
  refine za_scrAt (pc' := 376) dL_law_375 rfl hi96 rfl rfl ?_
  obtain ⟨ht106, h⟩ := h
  refine za_callV (κ := v2) (M2 := mX13_look) (d2 := 2) (b2 := 0) (n := 2) (As := [.int (x9.2 (v4 + (1 : Int32)).toNatClampNeg), .int (x9.2 (v4 + (2 : Int32)).toNatClampNeg)]) (st := []) (pc' := 379) zc12 (by decide) ht106 dL_law_376 rfl (lw_V q1941 q1942 q1943 q148 q1944) ⟨rfl, hd_X13_look⟩ rfl (by decide) (by decide) (Nat.zero_le _) (Or.inl rfl) (Nat.le_of_ble_eq_true rfl) h (zqI_I_k rfl (fun r104 I105 h => ?_)) (fun _ _ _ _ _ _ h9 h8 => absurd h8.1 h9) rfl
  refine za_istore (pc' := 381) (l' := [(6, .int r104), (5, .int r97), (0, .ref 1), (1, .ref v1), (2, .ref v2), (3, .ref v3), (4, .int v4)]) dL_law_379 (Nat.le_of_ble_eq_true rfl) rfl rfl ?_
  refine za_aload_n (pc' := 382) 4 dL_law_381 rfl rfl rfl ?_
  refine za_callV (κ := v2) (M2 := mX13_thrown) (d2 := 1) (b2 := 0) (n := 0) (As := []) (st := []) (pc' := 385) zc12 (by decide) ht106 dL_law_382 rfl (lw_V q1797 q1798 q1799 q148 q1800) ⟨rfl, hd_X13_thrown⟩ rfl (by decide) (by decide) (Nat.zero_le _) (Or.inl rfl) (Nat.le_of_ble_eq_true rfl) h (zqI__k rfl (fun r107 h => ?_)) (fun _ _ _ _ _ _ h9 h8 => absurd h8.1 h9) rfl
  refine za_iload (pc' := 387) 1 dL_law_385 rfl rfl ?_
  refine za_icmp_eq (pc' := 390) (tgt := 392) dL_law_387 (by decide) rfl (fun c9 => ?_) (fun c9 => ?_)
  · replace h := h.1 c9
    refine za_iload (pc' := 394) 1 dL_law_392 rfl rfl ?_
    refine za_if_ne (pc' := 397) (tgt := 409) dL_law_394 (by decide) rfl (fun c9 => ?_) (fun c9 => ?_)
    · replace h := h.2 c9
      refine za_goto (tgt := 1307) dL_law_409 (by decide) ?_
      exact zAW_sub [2, 3, 4, 5, 6] rfl h
    · replace h := h.1 c9
      refine za_aload_n (pc' := 398) 5 dL_law_397 rfl rfl rfl ?_
      refine za_iconst (pc' := 399) dL_law_398 zi_0 rfl ?_
      obtain ⟨ht108, h⟩ := h
      obtain ⟨hi109, h⟩ := h
      refine za_lald (v := .long (L100 v3 0)) (pc' := 400) dL_law_399 (zpair ht108) hi109 (congrArg Value.long (zix zn_0 (rfl))) rfl ?_
      refine za_iload (pc' := 402) 0 dL_law_400 rfl rfl ?_
      refine za_i2l (pc' := 403) dL_law_402 rfl rfl ?_
      refine za_lcmp (pc' := 404) dL_law_403 rfl ?_
      refine za_if_eq (pc' := 407) (tgt := 409) dL_law_404 (by decide) rfl (fun c9 => ?_) (fun c9 => ?_)
      · replace h := h.1 ((lg_cmp_eq (L100 v3 0) (r104.toInt64)).mp c9)
        refine za_goto (tgt := 1307) dL_law_409 (by decide) ?_
        exact zAW_sub [2, 3, 4, 5, 6] rfl h
      · replace h := h.2 (fun c8 => c9 ((lg_cmp_eq (L100 v3 0) (r104.toInt64)).mpr c8))
        refine za_iconst (pc' := 408) dL_law_407 zi_0 rfl ?_
        exact za_zreturn rfl dL_law_408 (by decide) h
  · replace h := h.2 c9
    refine za_iconst (pc' := 391) dL_law_390 zi_0 rfl ?_
    exact za_zreturn rfl dL_law_391 (by decide) h
theorem gL_law_412 {x9 : Nat × (Nat → Int32)} {b : Nat} {v1 : Nat} {v2 : Nat} {v3 : Nat} {v4 : Int32} {T : zT} {I : zI} {L : zL} {R : zR} {P : zP} (h : vp_in (v4 + (1 : Int32)) (x9.1) ∧ vp_in (v4 + (2 : Int32)) (x9.1) ∧ (T v1).1 = 1 ∧ zMet mX1_letter 4 0 [.ref v1, .int (x9.2 (v4 + (1 : Int32)).toNatClampNeg), .int (x9.2 (v4 + (2 : Int32)).toNatClampNeg)] T I L R (zqI_ T I L R  (fun (r112 : Int32)  => (T v2).1 = 13 ∧ zMet mX13_letter 3 0 [.ref v2, .int (x9.2 (v4 + (1 : Int32)).toNatClampNeg), .int (x9.2 (v4 + (2 : Int32)).toNatClampNeg)] T I L R (zqI_I T L R  (fun (r114 : Int32) (I115 : zI)  => ((r112 = r114 → zAW (mL_law x9) 404 ((b - 0) - 0) 1307 [(0, .ref 1), (1, .ref v1), (2, .ref v2), (3, .ref v3), (4, .int v4)] [] T I115 L R P) ∧ (¬ r112 = r114 → P 0 (.int (0 : Int32)) T I115 L R))))))) : zAW (mL_law x9) 404 b 412 [(0, .ref 1), (1, .ref v1), (2, .ref v2), (3, .ref v3), (4, .int v4)] [] T I L R P := by
  refine za_aload_n (pc' := 413) 1 dL_law_412 rfl rfl rfl ?_
  refine za_aload_n (pc' := 414) 0 dL_law_413 rfl rfl rfl ?_
  refine za_iload (pc' := 416) 4 dL_law_414 rfl rfl ?_
  refine za_iconst (pc' := 417) dL_law_416 zi_1 rfl ?_
  refine za_iadd (pc' := 418) dL_law_417 rfl ?_
  obtain ⟨hi110, h⟩ := h
  refine za_scrAt (pc' := 419) dL_law_418 rfl hi110 rfl rfl ?_
  refine za_aload_n (pc' := 420) 0 dL_law_419 rfl rfl rfl ?_
  refine za_iload (pc' := 422) 4 dL_law_420 rfl rfl ?_
  refine za_iconst (pc' := 423) dL_law_422 zi_2 rfl ?_
  refine za_iadd (pc' := 424) dL_law_423 rfl ?_
  obtain ⟨hi111, h⟩ := h
  refine za_scrAt (pc' := 425) dL_law_424 rfl hi111 rfl rfl ?_
  obtain ⟨ht113, h⟩ := h
  refine za_callV (κ := v1) (M2 := mX1_letter) (d2 := 4) (b2 := 0) (n := 2) (As := [.int (x9.2 (v4 + (1 : Int32)).toNatClampNeg), .int (x9.2 (v4 + (2 : Int32)).toNatClampNeg)]) (st := []) (pc' := 428) zc0 (by decide) ht113 dL_law_425 rfl (lw_V q1058 q1059 q1060 q131 q1061) ⟨rfl, hd_X1_letter⟩ rfl (by decide) (by decide) (Nat.zero_le _) (Or.inl rfl) (Nat.le_of_ble_eq_true rfl) h (zqI__k rfl (fun r112 h => ?_)) (fun _ _ _ _ _ _ h9 h8 => absurd h8.1 h9) rfl
  refine za_aload_n (pc' := 429) 2 dL_law_428 rfl rfl rfl ?_
  refine za_aload_n (pc' := 430) 0 dL_law_429 rfl rfl rfl ?_
  refine za_iload (pc' := 432) 4 dL_law_430 rfl rfl ?_
  refine za_iconst (pc' := 433) dL_law_432 zi_1 rfl ?_
  refine za_iadd (pc' := 434) dL_law_433 rfl ?_
  refine za_scrAt (pc' := 435) dL_law_434 rfl hi110 rfl rfl ?_
  refine za_aload_n (pc' := 436) 0 dL_law_435 rfl rfl rfl ?_
  refine za_iload (pc' := 438) 4 dL_law_436 rfl rfl ?_
  refine za_iconst (pc' := 439) dL_law_438 zi_2 rfl ?_
  refine za_iadd (pc' := 440) dL_law_439 rfl ?_
  refine za_scrAt (pc' := 441) dL_law_440 rfl hi111 rfl rfl ?_
  obtain ⟨ht116, h⟩ := h
  refine za_callV (κ := v2) (M2 := mX13_letter) (d2 := 3) (b2 := 0) (n := 2) (As := [.int (x9.2 (v4 + (1 : Int32)).toNatClampNeg), .int (x9.2 (v4 + (2 : Int32)).toNatClampNeg)]) (st := [.int r112]) (pc' := 444) zc12 (by decide) ht116 dL_law_441 rfl (lw_V q1961 q1962 q1963 q148 q1964) ⟨rfl, hd_X13_letter⟩ rfl (by decide) (by decide) (Nat.zero_le _) (Or.inl rfl) (Nat.le_of_ble_eq_true rfl) h (zqI_I_k rfl (fun r114 I115 h => ?_)) (fun _ _ _ _ _ _ h9 h8 => absurd h8.1 h9) rfl
  refine za_icmp_eq (pc' := 447) (tgt := 1307) dL_law_444 (by decide) rfl (fun c9 => ?_) (fun c9 => ?_)
  · replace h := h.1 c9
    exact zAW_sub [0, 1, 2, 3, 4] rfl h
  · replace h := h.2 c9
    refine za_iconst (pc' := 448) dL_law_447 zi_0 rfl ?_
    exact za_zreturn rfl dL_law_448 (by decide) h
theorem gL_law_449 {x9 : Nat × (Nat → Int32)} {b : Nat} {v1 : Nat} {v2 : Nat} {v3 : Nat} {v4 : Int32} {T : zT} {I : zI} {L : zL} {R : zR} {P : zP} (h : vp_in (v4 + (1 : Int32)) (x9.1) ∧ vp_in (v4 + (2 : Int32)) (x9.1) ∧ vp_in (v4 + (3 : Int32)) (x9.1) ∧ (T v1).1 = 1 ∧ zMet mX1_word 3 0 [.ref v1, .int (x9.2 (v4 + (1 : Int32)).toNatClampNeg), .int (x9.2 (v4 + (2 : Int32)).toNatClampNeg), .int (x9.2 (v4 + (3 : Int32)).toNatClampNeg)] T I L R (zqI_ T I L R  (fun (r120 : Int32)  => (T v2).1 = 13 ∧ zMet mX13_word 2 0 [.ref v2, .int (x9.2 (v4 + (1 : Int32)).toNatClampNeg), .int (x9.2 (v4 + (2 : Int32)).toNatClampNeg), .int (x9.2 (v4 + (3 : Int32)).toNatClampNeg)] T I L R (zqI_I T L R  (fun (r122 : Int32) (I123 : zI)  => ((r120 = r122 → zAW (mL_law x9) 404 ((b - 0) - 0) 1307 [(0, .ref 1), (1, .ref v1), (2, .ref v2), (3, .ref v3), (4, .int v4)] [] T I123 L R P) ∧ (¬ r120 = r122 → P 0 (.int (0 : Int32)) T I123 L R))))))) : zAW (mL_law x9) 404 b 449 [(0, .ref 1), (1, .ref v1), (2, .ref v2), (3, .ref v3), (4, .int v4)] [] T I L R P := by
  refine za_aload_n (pc' := 450) 1 dL_law_449 rfl rfl rfl ?_
  refine za_aload_n (pc' := 451) 0 dL_law_450 rfl rfl rfl ?_
  refine za_iload (pc' := 453) 4 dL_law_451 rfl rfl ?_
  refine za_iconst (pc' := 454) dL_law_453 zi_1 rfl ?_
  refine za_iadd (pc' := 455) dL_law_454 rfl ?_
  obtain ⟨hi117, h⟩ := h
  refine za_scrAt (pc' := 456) dL_law_455 rfl hi117 rfl rfl ?_
  refine za_aload_n (pc' := 457) 0 dL_law_456 rfl rfl rfl ?_
  refine za_iload (pc' := 459) 4 dL_law_457 rfl rfl ?_
  refine za_iconst (pc' := 460) dL_law_459 zi_2 rfl ?_
  refine za_iadd (pc' := 461) dL_law_460 rfl ?_
  obtain ⟨hi118, h⟩ := h
  refine za_scrAt (pc' := 462) dL_law_461 rfl hi118 rfl rfl ?_
  refine za_aload_n (pc' := 463) 0 dL_law_462 rfl rfl rfl ?_
  refine za_iload (pc' := 465) 4 dL_law_463 rfl rfl ?_
  refine za_iconst (pc' := 466) dL_law_465 zi_3 rfl ?_
  refine za_iadd (pc' := 467) dL_law_466 rfl ?_
  obtain ⟨hi119, h⟩ := h
  refine za_scrAt (pc' := 468) dL_law_467 rfl hi119 rfl rfl ?_
  obtain ⟨ht121, h⟩ := h
  refine za_callV (κ := v1) (M2 := mX1_word) (d2 := 3) (b2 := 0) (n := 3) (As := [.int (x9.2 (v4 + (1 : Int32)).toNatClampNeg), .int (x9.2 (v4 + (2 : Int32)).toNatClampNeg), .int (x9.2 (v4 + (3 : Int32)).toNatClampNeg)]) (st := []) (pc' := 471) zc0 (by decide) ht121 dL_law_468 rfl (lw_V q1071 q1072 q1073 q131 q1074) ⟨rfl, hd_X1_word⟩ rfl (by decide) (by decide) (Nat.zero_le _) (Or.inl rfl) (Nat.le_of_ble_eq_true rfl) h (zqI__k rfl (fun r120 h => ?_)) (fun _ _ _ _ _ _ h9 h8 => absurd h8.1 h9) rfl
  refine za_aload_n (pc' := 472) 2 dL_law_471 rfl rfl rfl ?_
  refine za_aload_n (pc' := 473) 0 dL_law_472 rfl rfl rfl ?_
  refine za_iload (pc' := 475) 4 dL_law_473 rfl rfl ?_
  refine za_iconst (pc' := 476) dL_law_475 zi_1 rfl ?_
  refine za_iadd (pc' := 477) dL_law_476 rfl ?_
  refine za_scrAt (pc' := 478) dL_law_477 rfl hi117 rfl rfl ?_
  refine za_aload_n (pc' := 479) 0 dL_law_478 rfl rfl rfl ?_
  refine za_iload (pc' := 481) 4 dL_law_479 rfl rfl ?_
  refine za_iconst (pc' := 482) dL_law_481 zi_2 rfl ?_
  refine za_iadd (pc' := 483) dL_law_482 rfl ?_
  refine za_scrAt (pc' := 484) dL_law_483 rfl hi118 rfl rfl ?_
  refine za_aload_n (pc' := 485) 0 dL_law_484 rfl rfl rfl ?_
  refine za_iload (pc' := 487) 4 dL_law_485 rfl rfl ?_
  refine za_iconst (pc' := 488) dL_law_487 zi_3 rfl ?_
  refine za_iadd (pc' := 489) dL_law_488 rfl ?_
  refine za_scrAt (pc' := 490) dL_law_489 rfl hi119 rfl rfl ?_
  obtain ⟨ht124, h⟩ := h
  refine za_callV (κ := v2) (M2 := mX13_word) (d2 := 2) (b2 := 0) (n := 3) (As := [.int (x9.2 (v4 + (1 : Int32)).toNatClampNeg), .int (x9.2 (v4 + (2 : Int32)).toNatClampNeg), .int (x9.2 (v4 + (3 : Int32)).toNatClampNeg)]) (st := [.int r120]) (pc' := 493) zc12 (by decide) ht124 dL_law_490 rfl (lw_V q1969 q1970 q1971 q148 q1972) ⟨rfl, hd_X13_word⟩ rfl (by decide) (by decide) (Nat.zero_le _) (Or.inl rfl) (Nat.le_of_ble_eq_true rfl) h (zqI_I_k rfl (fun r122 I123 h => ?_)) (fun _ _ _ _ _ _ h9 h8 => absurd h8.1 h9) rfl
  refine za_icmp_eq (pc' := 496) (tgt := 1307) dL_law_493 (by decide) rfl (fun c9 => ?_) (fun c9 => ?_)
  · replace h := h.1 c9
    exact zAW_sub [0, 1, 2, 3, 4] rfl h
  · replace h := h.2 c9
    refine za_iconst (pc' := 497) dL_law_496 zi_0 rfl ?_
    exact za_zreturn rfl dL_law_497 (by decide) h
theorem gL_law_498 {x9 : Nat × (Nat → Int32)} {b : Nat} {v1 : Nat} {v2 : Nat} {v3 : Nat} {v4 : Int32} {T : zT} {I : zI} {L : zL} {R : zR} {P : zP} (h : vp_in (v4 + (1 : Int32)) (x9.1) ∧ vp_in (v4 + (2 : Int32)) (x9.1) ∧ (T v1).1 = 1 ∧ zMet mX1_ways 6 0 [.ref v1, .int (x9.2 (v4 + (1 : Int32)).toNatClampNeg), .int (x9.2 (v4 + (2 : Int32)).toNatClampNeg)] T I L R (zqJ_IL T R  (fun (r127 : Int64) (I128 : zI) (L129 : zL)  => zAW (mL_law x9) 404 (b - 0) 514 [(0, .ref 1), (1, .ref v1), (2, .ref v2), (3, .ref v3), (4, .int v4)] [.long r127] T I128 L129 R P))) : zAW (mL_law x9) 404 b 498 [(0, .ref 1), (1, .ref v1), (2, .ref v2), (3, .ref v3), (4, .int v4)] [] T I L R P := by
  refine za_aload_n (pc' := 499) 1 dL_law_498 rfl rfl rfl ?_
  refine za_aload_n (pc' := 500) 0 dL_law_499 rfl rfl rfl ?_
  refine za_iload (pc' := 502) 4 dL_law_500 rfl rfl ?_
  refine za_iconst (pc' := 503) dL_law_502 zi_1 rfl ?_
  refine za_iadd (pc' := 504) dL_law_503 rfl ?_
  obtain ⟨hi125, h⟩ := h
  refine za_scrAt (pc' := 505) dL_law_504 rfl hi125 rfl rfl ?_
  refine za_aload_n (pc' := 506) 0 dL_law_505 rfl rfl rfl ?_
  refine za_iload (pc' := 508) 4 dL_law_506 rfl rfl ?_
  refine za_iconst (pc' := 509) dL_law_508 zi_2 rfl ?_
  refine za_iadd (pc' := 510) dL_law_509 rfl ?_
  obtain ⟨hi126, h⟩ := h
  refine za_scrAt (pc' := 511) dL_law_510 rfl hi126 rfl rfl ?_
  obtain ⟨ht130, h⟩ := h
  refine za_callV (κ := v1) (M2 := mX1_ways) (d2 := 6) (b2 := 0) (n := 2) (As := [.int (x9.2 (v4 + (1 : Int32)).toNatClampNeg), .int (x9.2 (v4 + (2 : Int32)).toNatClampNeg)]) (st := []) (pc' := 514) zc0 (by decide) ht130 dL_law_511 rfl (lw_V q1078 q1079 q1080 q131 q1081) ⟨rfl, hd_X1_ways⟩ rfl (by decide) (by decide) (Nat.zero_le _) (Or.inl rfl) (Nat.le_of_ble_eq_true rfl) h (zqJ_IL_k rfl (fun r127 I128 L129 h => ?_)) (fun _ _ _ _ _ _ h9 h8 => absurd h8.1 h9) rfl
  exact zAW_sub [0, 1, 2, 3, 4] rfl h
theorem gL_law_514 {x9 : Nat × (Nat → Int32)} {b : Nat} {v1 : Nat} {v2 : Nat} {v3 : Nat} {v4 : Int32} {s0 : Int64} {T : zT} {I : zI} {L : zL} {R : zR} {P : zP} (h : vp_in (v4 + (1 : Int32)) (x9.1) ∧ vp_in (v4 + (2 : Int32)) (x9.1) ∧ (T v2).1 = 13 ∧ zMet mX13_ways 5 0 [.ref v2, .int (x9.2 (v4 + (1 : Int32)).toNatClampNeg), .int (x9.2 (v4 + (2 : Int32)).toNatClampNeg)] T I L R (zqJ_IL T R  (fun (r133 : Int64) (I134 : zI) (L135 : zL)  => ((s0 = r133 → zAW (mL_law x9) 404 (b - 0) 1307 [(0, .ref 1), (1, .ref v1), (2, .ref v2), (3, .ref v3), (4, .int v4)] [] T I134 L135 R P) ∧ (¬ s0 = r133 → P 0 (.int (0 : Int32)) T I134 L135 R))))) : zAW (mL_law x9) 404 b 514 [(0, .ref 1), (1, .ref v1), (2, .ref v2), (3, .ref v3), (4, .int v4)] [.long s0] T I L R P := by
  refine za_aload_n (pc' := 515) 2 dL_law_514 rfl rfl rfl ?_
  refine za_aload_n (pc' := 516) 0 dL_law_515 rfl rfl rfl ?_
  refine za_iload (pc' := 518) 4 dL_law_516 rfl rfl ?_
  refine za_iconst (pc' := 519) dL_law_518 zi_1 rfl ?_
  refine za_iadd (pc' := 520) dL_law_519 rfl ?_
  obtain ⟨hi131, h⟩ := h
  refine za_scrAt (pc' := 521) dL_law_520 rfl hi131 rfl rfl ?_
  refine za_aload_n (pc' := 522) 0 dL_law_521 rfl rfl rfl ?_
  refine za_iload (pc' := 524) 4 dL_law_522 rfl rfl ?_
  refine za_iconst (pc' := 525) dL_law_524 zi_2 rfl ?_
  refine za_iadd (pc' := 526) dL_law_525 rfl ?_
  obtain ⟨hi132, h⟩ := h
  refine za_scrAt (pc' := 527) dL_law_526 rfl hi132 rfl rfl ?_
  obtain ⟨ht136, h⟩ := h
  refine za_callV (κ := v2) (M2 := mX13_ways) (d2 := 5) (b2 := 0) (n := 2) (As := [.int (x9.2 (v4 + (1 : Int32)).toNatClampNeg), .int (x9.2 (v4 + (2 : Int32)).toNatClampNeg)]) (st := [.long s0]) (pc' := 530) zc12 (by decide) ht136 dL_law_527 rfl (lw_V q1976 q1977 q1978 q148 q1979) ⟨rfl, hd_X13_ways⟩ rfl (by decide) (by decide) (Nat.zero_le _) (Or.inl rfl) (Nat.le_of_ble_eq_true rfl) h (zqJ_IL_k rfl (fun r133 I134 L135 h => ?_)) (fun _ _ _ _ _ _ h9 h8 => absurd h8.1 h9) rfl
  refine za_lcmp (pc' := 531) dL_law_530 rfl ?_
  refine za_if_eq (pc' := 534) (tgt := 1307) dL_law_531 (by decide) rfl (fun c9 => ?_) (fun c9 => ?_)
  · replace h := h.1 ((lg_cmp_eq s0 r133).mp c9)
    exact zAW_sub [0, 1, 2, 3, 4] rfl h
  · replace h := h.2 (fun c8 => c9 ((lg_cmp_eq s0 r133).mpr c8))
    refine za_iconst (pc' := 535) dL_law_534 zi_0 rfl ?_
    exact za_zreturn rfl dL_law_535 (by decide) h
theorem gL_law_536 {x9 : Nat × (Nat → Int32)} {b : Nat} {v1 : Nat} {v2 : Nat} {v3 : Nat} {v4 : Int32} {T : zT} {I : zI} {L : zL} {R : zR} {P : zP} (h : vp_in (v4 + (1 : Int32)) (x9.1) ∧ vp_in (v4 + (2 : Int32)) (x9.1) ∧ (T v1).1 = 1 ∧ zMet mX1_worth 6 0 [.ref v1, .int (x9.2 (v4 + (1 : Int32)).toNatClampNeg), .int (x9.2 (v4 + (2 : Int32)).toNatClampNeg)] T I L R (zqI_IL T R  (fun (r139 : Int32) (I140 : zI) (L141 : zL)  => (T v2).1 = 13 ∧ zMet mX13_worth 5 0 [.ref v2, .int (x9.2 (v4 + (1 : Int32)).toNatClampNeg), .int (x9.2 (v4 + (2 : Int32)).toNatClampNeg)] T I140 L141 R (zqI_IL T R  (fun (r143 : Int32) (I144 : zI) (L145 : zL)  => ((r139 = r143 → zAW (mL_law x9) 404 ((b - 0) - 0) 1307 [(0, .ref 1), (1, .ref v1), (2, .ref v2), (3, .ref v3), (4, .int v4)] [] T I144 L145 R P) ∧ (¬ r139 = r143 → P 0 (.int (0 : Int32)) T I144 L145 R))))))) : zAW (mL_law x9) 404 b 536 [(0, .ref 1), (1, .ref v1), (2, .ref v2), (3, .ref v3), (4, .int v4)] [] T I L R P := by
  refine za_aload_n (pc' := 537) 1 dL_law_536 rfl rfl rfl ?_
  refine za_aload_n (pc' := 538) 0 dL_law_537 rfl rfl rfl ?_
  refine za_iload (pc' := 540) 4 dL_law_538 rfl rfl ?_
  refine za_iconst (pc' := 541) dL_law_540 zi_1 rfl ?_
  refine za_iadd (pc' := 542) dL_law_541 rfl ?_
  obtain ⟨hi137, h⟩ := h
  refine za_scrAt (pc' := 543) dL_law_542 rfl hi137 rfl rfl ?_
  refine za_aload_n (pc' := 544) 0 dL_law_543 rfl rfl rfl ?_
  refine za_iload (pc' := 546) 4 dL_law_544 rfl rfl ?_
  refine za_iconst (pc' := 547) dL_law_546 zi_2 rfl ?_
  refine za_iadd (pc' := 548) dL_law_547 rfl ?_
  obtain ⟨hi138, h⟩ := h
  refine za_scrAt (pc' := 549) dL_law_548 rfl hi138 rfl rfl ?_
  obtain ⟨ht142, h⟩ := h
  refine za_callV (κ := v1) (M2 := mX1_worth) (d2 := 6) (b2 := 0) (n := 2) (As := [.int (x9.2 (v4 + (1 : Int32)).toNatClampNeg), .int (x9.2 (v4 + (2 : Int32)).toNatClampNeg)]) (st := []) (pc' := 552) zc0 (by decide) ht142 dL_law_549 rfl (lw_V q1126 q1127 q1128 q131 q1129) ⟨rfl, hd_X1_worth⟩ rfl (by decide) (by decide) (Nat.zero_le _) (Or.inl rfl) (Nat.le_of_ble_eq_true rfl) h (zqI_IL_k rfl (fun r139 I140 L141 h => ?_)) (fun _ _ _ _ _ _ h9 h8 => absurd h8.1 h9) rfl
  refine za_aload_n (pc' := 553) 2 dL_law_552 rfl rfl rfl ?_
  refine za_aload_n (pc' := 554) 0 dL_law_553 rfl rfl rfl ?_
  refine za_iload (pc' := 556) 4 dL_law_554 rfl rfl ?_
  refine za_iconst (pc' := 557) dL_law_556 zi_1 rfl ?_
  refine za_iadd (pc' := 558) dL_law_557 rfl ?_
  refine za_scrAt (pc' := 559) dL_law_558 rfl hi137 rfl rfl ?_
  refine za_aload_n (pc' := 560) 0 dL_law_559 rfl rfl rfl ?_
  refine za_iload (pc' := 562) 4 dL_law_560 rfl rfl ?_
  refine za_iconst (pc' := 563) dL_law_562 zi_2 rfl ?_
  refine za_iadd (pc' := 564) dL_law_563 rfl ?_
  refine za_scrAt (pc' := 565) dL_law_564 rfl hi138 rfl rfl ?_
  obtain ⟨ht146, h⟩ := h
  refine za_callV (κ := v2) (M2 := mX13_worth) (d2 := 5) (b2 := 0) (n := 2) (As := [.int (x9.2 (v4 + (1 : Int32)).toNatClampNeg), .int (x9.2 (v4 + (2 : Int32)).toNatClampNeg)]) (st := [.int r139]) (pc' := 568) zc12 (by decide) ht146 dL_law_565 rfl (lw_V q2000 q2001 q2002 q148 q2003) ⟨rfl, hd_X13_worth⟩ rfl (by decide) (by decide) (Nat.zero_le _) (Or.inl rfl) (Nat.le_of_ble_eq_true rfl) h (zqI_IL_k rfl (fun r143 I144 L145 h => ?_)) (fun _ _ _ _ _ _ h9 h8 => absurd h8.1 h9) rfl
  refine za_icmp_eq (pc' := 571) (tgt := 1307) dL_law_568 (by decide) rfl (fun c9 => ?_) (fun c9 => ?_)
  · replace h := h.1 c9
    exact zAW_sub [0, 1, 2, 3, 4] rfl h
  · replace h := h.2 c9
    refine za_iconst (pc' := 572) dL_law_571 zi_0 rfl ?_
    exact za_zreturn rfl dL_law_572 (by decide) h
theorem gL_law_573 {x9 : Nat × (Nat → Int32)} {b : Nat} {v1 : Nat} {v2 : Nat} {v3 : Nat} {v4 : Int32} {T : zT} {I : zI} {L : zL} {R : zR} {P : zP} (h : vp_in (v4 + (1 : Int32)) (x9.1) ∧ vp_in (v4 + (2 : Int32)) (x9.1) ∧ vp_in (v4 + (3 : Int32)) (x9.1) ∧ (T v1).1 = 1 ∧ zMet mX1_said 6 0 [.ref v1, .int (x9.2 (v4 + (1 : Int32)).toNatClampNeg), .int (x9.2 (v4 + (2 : Int32)).toNatClampNeg), .int (x9.2 (v4 + (3 : Int32)).toNatClampNeg)] T I L R (zqI_IL T R  (fun (r150 : Int32) (I151 : zI) (L152 : zL)  => (T v2).1 = 13 ∧ zMet mX13_said 5 0 [.ref v2, .int (x9.2 (v4 + (1 : Int32)).toNatClampNeg), .int (x9.2 (v4 + (2 : Int32)).toNatClampNeg), .int (x9.2 (v4 + (3 : Int32)).toNatClampNeg)] T I151 L152 R (zqI_IL T R  (fun (r154 : Int32) (I155 : zI) (L156 : zL)  => ((r150 = r154 → zAW (mL_law x9) 404 ((b - 0) - 0) 1307 [(0, .ref 1), (1, .ref v1), (2, .ref v2), (3, .ref v3), (4, .int v4)] [] T I155 L156 R P) ∧ (¬ r150 = r154 → P 0 (.int (0 : Int32)) T I155 L156 R))))))) : zAW (mL_law x9) 404 b 573 [(0, .ref 1), (1, .ref v1), (2, .ref v2), (3, .ref v3), (4, .int v4)] [] T I L R P := by
  refine za_aload_n (pc' := 574) 1 dL_law_573 rfl rfl rfl ?_
  refine za_aload_n (pc' := 575) 0 dL_law_574 rfl rfl rfl ?_
  refine za_iload (pc' := 577) 4 dL_law_575 rfl rfl ?_
  refine za_iconst (pc' := 578) dL_law_577 zi_1 rfl ?_
  refine za_iadd (pc' := 579) dL_law_578 rfl ?_
  obtain ⟨hi147, h⟩ := h
  refine za_scrAt (pc' := 580) dL_law_579 rfl hi147 rfl rfl ?_
  refine za_aload_n (pc' := 581) 0 dL_law_580 rfl rfl rfl ?_
  refine za_iload (pc' := 583) 4 dL_law_581 rfl rfl ?_
  refine za_iconst (pc' := 584) dL_law_583 zi_2 rfl ?_
  refine za_iadd (pc' := 585) dL_law_584 rfl ?_
  obtain ⟨hi148, h⟩ := h
  refine za_scrAt (pc' := 586) dL_law_585 rfl hi148 rfl rfl ?_
  refine za_aload_n (pc' := 587) 0 dL_law_586 rfl rfl rfl ?_
  refine za_iload (pc' := 589) 4 dL_law_587 rfl rfl ?_
  refine za_iconst (pc' := 590) dL_law_589 zi_3 rfl ?_
  refine za_iadd (pc' := 591) dL_law_590 rfl ?_
  obtain ⟨hi149, h⟩ := h
  refine za_scrAt (pc' := 592) dL_law_591 rfl hi149 rfl rfl ?_
  obtain ⟨ht153, h⟩ := h
  refine za_callV (κ := v1) (M2 := mX1_said) (d2 := 6) (b2 := 0) (n := 3) (As := [.int (x9.2 (v4 + (1 : Int32)).toNatClampNeg), .int (x9.2 (v4 + (2 : Int32)).toNatClampNeg), .int (x9.2 (v4 + (3 : Int32)).toNatClampNeg)]) (st := []) (pc' := 595) zc0 (by decide) ht153 dL_law_592 rfl (lw_V q1130 q1131 q1132 q131 q1133) ⟨rfl, hd_X1_said⟩ rfl (by decide) (by decide) (Nat.zero_le _) (Or.inl rfl) (Nat.le_of_ble_eq_true rfl) h (zqI_IL_k rfl (fun r150 I151 L152 h => ?_)) (fun _ _ _ _ _ _ h9 h8 => absurd h8.1 h9) rfl
  refine za_aload_n (pc' := 596) 2 dL_law_595 rfl rfl rfl ?_
  refine za_aload_n (pc' := 597) 0 dL_law_596 rfl rfl rfl ?_
  refine za_iload (pc' := 599) 4 dL_law_597 rfl rfl ?_
  refine za_iconst (pc' := 600) dL_law_599 zi_1 rfl ?_
  refine za_iadd (pc' := 601) dL_law_600 rfl ?_
  refine za_scrAt (pc' := 602) dL_law_601 rfl hi147 rfl rfl ?_
  refine za_aload_n (pc' := 603) 0 dL_law_602 rfl rfl rfl ?_
  refine za_iload (pc' := 605) 4 dL_law_603 rfl rfl ?_
  refine za_iconst (pc' := 606) dL_law_605 zi_2 rfl ?_
  refine za_iadd (pc' := 607) dL_law_606 rfl ?_
  refine za_scrAt (pc' := 608) dL_law_607 rfl hi148 rfl rfl ?_
  refine za_aload_n (pc' := 609) 0 dL_law_608 rfl rfl rfl ?_
  refine za_iload (pc' := 611) 4 dL_law_609 rfl rfl ?_
  refine za_iconst (pc' := 612) dL_law_611 zi_3 rfl ?_
  refine za_iadd (pc' := 613) dL_law_612 rfl ?_
  refine za_scrAt (pc' := 614) dL_law_613 rfl hi149 rfl rfl ?_
  obtain ⟨ht157, h⟩ := h
  refine za_callV (κ := v2) (M2 := mX13_said) (d2 := 5) (b2 := 0) (n := 3) (As := [.int (x9.2 (v4 + (1 : Int32)).toNatClampNeg), .int (x9.2 (v4 + (2 : Int32)).toNatClampNeg), .int (x9.2 (v4 + (3 : Int32)).toNatClampNeg)]) (st := [.int r150]) (pc' := 617) zc12 (by decide) ht157 dL_law_614 rfl (lw_V q2004 q2005 q2006 q148 q2007) ⟨rfl, hd_X13_said⟩ rfl (by decide) (by decide) (Nat.zero_le _) (Or.inl rfl) (Nat.le_of_ble_eq_true rfl) h (zqI_IL_k rfl (fun r154 I155 L156 h => ?_)) (fun _ _ _ _ _ _ h9 h8 => absurd h8.1 h9) rfl
  refine za_icmp_eq (pc' := 620) (tgt := 1307) dL_law_617 (by decide) rfl (fun c9 => ?_) (fun c9 => ?_)
  · replace h := h.1 c9
    exact zAW_sub [0, 1, 2, 3, 4] rfl h
  · replace h := h.2 c9
    refine za_iconst (pc' := 621) dL_law_620 zi_0 rfl ?_
    exact za_zreturn rfl dL_law_621 (by decide) h
theorem gL_law_622 {x9 : Nat × (Nat → Int32)} {b : Nat} {v1 : Nat} {v2 : Nat} {v3 : Nat} {v4 : Int32} {T : zT} {I : zI} {L : zL} {R : zR} {P : zP} (h : vp_in (v4 + (1 : Int32)) (x9.1) ∧ vp_in (v4 + (2 : Int32)) (x9.1) ∧ vp_in (v4 + (3 : Int32)) (x9.1) ∧ (T v1).1 = 1 ∧ zMet mX1_says 7 0 [.ref v1, .int (x9.2 (v4 + (1 : Int32)).toNatClampNeg), .int (x9.2 (v4 + (2 : Int32)).toNatClampNeg), .int (x9.2 (v4 + (3 : Int32)).toNatClampNeg)] T I L R (zqI_IL T R  (fun (r161 : Int32) (I162 : zI) (L163 : zL)  => (T v2).1 = 13 ∧ zMet mX13_says 6 0 [.ref v2, .int (x9.2 (v4 + (1 : Int32)).toNatClampNeg), .int (x9.2 (v4 + (2 : Int32)).toNatClampNeg), .int (x9.2 (v4 + (3 : Int32)).toNatClampNeg)] T I162 L163 R (zqI_IL T R  (fun (r165 : Int32) (I166 : zI) (L167 : zL)  => ((r161 = r165 → zAW (mL_law x9) 404 ((b - 0) - 0) 1307 [(0, .ref 1), (1, .ref v1), (2, .ref v2), (3, .ref v3), (4, .int v4)] [] T I166 L167 R P) ∧ (¬ r161 = r165 → P 0 (.int (0 : Int32)) T I166 L167 R))))))) : zAW (mL_law x9) 404 b 622 [(0, .ref 1), (1, .ref v1), (2, .ref v2), (3, .ref v3), (4, .int v4)] [] T I L R P := by
  refine za_aload_n (pc' := 623) 1 dL_law_622 rfl rfl rfl ?_
  refine za_aload_n (pc' := 624) 0 dL_law_623 rfl rfl rfl ?_
  refine za_iload (pc' := 626) 4 dL_law_624 rfl rfl ?_
  refine za_iconst (pc' := 627) dL_law_626 zi_1 rfl ?_
  refine za_iadd (pc' := 628) dL_law_627 rfl ?_
  obtain ⟨hi158, h⟩ := h
  refine za_scrAt (pc' := 629) dL_law_628 rfl hi158 rfl rfl ?_
  refine za_aload_n (pc' := 630) 0 dL_law_629 rfl rfl rfl ?_
  refine za_iload (pc' := 632) 4 dL_law_630 rfl rfl ?_
  refine za_iconst (pc' := 633) dL_law_632 zi_2 rfl ?_
  refine za_iadd (pc' := 634) dL_law_633 rfl ?_
  obtain ⟨hi159, h⟩ := h
  refine za_scrAt (pc' := 635) dL_law_634 rfl hi159 rfl rfl ?_
  refine za_aload_n (pc' := 636) 0 dL_law_635 rfl rfl rfl ?_
  refine za_iload (pc' := 638) 4 dL_law_636 rfl rfl ?_
  refine za_iconst (pc' := 639) dL_law_638 zi_3 rfl ?_
  refine za_iadd (pc' := 640) dL_law_639 rfl ?_
  obtain ⟨hi160, h⟩ := h
  refine za_scrAt (pc' := 641) dL_law_640 rfl hi160 rfl rfl ?_
  obtain ⟨ht164, h⟩ := h
  refine za_callV (κ := v1) (M2 := mX1_says) (d2 := 7) (b2 := 0) (n := 3) (As := [.int (x9.2 (v4 + (1 : Int32)).toNatClampNeg), .int (x9.2 (v4 + (2 : Int32)).toNatClampNeg), .int (x9.2 (v4 + (3 : Int32)).toNatClampNeg)]) (st := []) (pc' := 644) zc0 (by decide) ht164 dL_law_641 rfl (lw_V q1134 q1135 q1136 q131 q1137) ⟨rfl, hd_X1_says⟩ rfl (by decide) (by decide) (Nat.zero_le _) (Or.inl rfl) (Nat.le_of_ble_eq_true rfl) h (zqI_IL_k rfl (fun r161 I162 L163 h => ?_)) (fun _ _ _ _ _ _ h9 h8 => absurd h8.1 h9) rfl
  refine za_aload_n (pc' := 645) 2 dL_law_644 rfl rfl rfl ?_
  refine za_aload_n (pc' := 646) 0 dL_law_645 rfl rfl rfl ?_
  refine za_iload (pc' := 648) 4 dL_law_646 rfl rfl ?_
  refine za_iconst (pc' := 649) dL_law_648 zi_1 rfl ?_
  refine za_iadd (pc' := 650) dL_law_649 rfl ?_
  refine za_scrAt (pc' := 651) dL_law_650 rfl hi158 rfl rfl ?_
  refine za_aload_n (pc' := 652) 0 dL_law_651 rfl rfl rfl ?_
  refine za_iload (pc' := 654) 4 dL_law_652 rfl rfl ?_
  refine za_iconst (pc' := 655) dL_law_654 zi_2 rfl ?_
  refine za_iadd (pc' := 656) dL_law_655 rfl ?_
  refine za_scrAt (pc' := 657) dL_law_656 rfl hi159 rfl rfl ?_
  refine za_aload_n (pc' := 658) 0 dL_law_657 rfl rfl rfl ?_
  refine za_iload (pc' := 660) 4 dL_law_658 rfl rfl ?_
  refine za_iconst (pc' := 661) dL_law_660 zi_3 rfl ?_
  refine za_iadd (pc' := 662) dL_law_661 rfl ?_
  refine za_scrAt (pc' := 663) dL_law_662 rfl hi160 rfl rfl ?_
  obtain ⟨ht168, h⟩ := h
  refine za_callV (κ := v2) (M2 := mX13_says) (d2 := 6) (b2 := 0) (n := 3) (As := [.int (x9.2 (v4 + (1 : Int32)).toNatClampNeg), .int (x9.2 (v4 + (2 : Int32)).toNatClampNeg), .int (x9.2 (v4 + (3 : Int32)).toNatClampNeg)]) (st := [.int r161]) (pc' := 666) zc12 (by decide) ht168 dL_law_663 rfl (lw_V q2008 q2009 q2010 q148 q2011) ⟨rfl, hd_X13_says⟩ rfl (by decide) (by decide) (Nat.zero_le _) (Or.inl rfl) (Nat.le_of_ble_eq_true rfl) h (zqI_IL_k rfl (fun r165 I166 L167 h => ?_)) (fun _ _ _ _ _ _ h9 h8 => absurd h8.1 h9) rfl
  refine za_icmp_eq (pc' := 669) (tgt := 1307) dL_law_666 (by decide) rfl (fun c9 => ?_) (fun c9 => ?_)
  · replace h := h.1 c9
    exact zAW_sub [0, 1, 2, 3, 4] rfl h
  · replace h := h.2 c9
    refine za_iconst (pc' := 670) dL_law_669 zi_0 rfl ?_
    exact za_zreturn rfl dL_law_670 (by decide) h
theorem gL_law_671 {x9 : Nat × (Nat → Int32)} {b : Nat} {v1 : Nat} {v2 : Nat} {v3 : Nat} {v4 : Int32} {T : zT} {I : zI} {L : zL} {R : zR} {P : zP} (h : vp_in (v4 + (1 : Int32)) (x9.1) ∧ (T v1).1 = 1 ∧ zMet mX1_nights 2 0 [.ref v1, .int (x9.2 (v4 + (1 : Int32)).toNatClampNeg)] T I L R (zqI_I T L R  (fun (r170 : Int32) (I171 : zI)  => zAW (mL_law x9) 404 (b - 0) 681 [(0, .ref 1), (1, .ref v1), (2, .ref v2), (3, .ref v3), (4, .int v4)] [.int r170] T I171 L R P))) : zAW (mL_law x9) 404 b 671 [(0, .ref 1), (1, .ref v1), (2, .ref v2), (3, .ref v3), (4, .int v4)] [] T I L R P := by
  refine za_aload_n (pc' := 672) 1 dL_law_671 rfl rfl rfl ?_
  refine za_aload_n (pc' := 673) 0 dL_law_672 rfl rfl rfl ?_
  refine za_iload (pc' := 675) 4 dL_law_673 rfl rfl ?_
  refine za_iconst (pc' := 676) dL_law_675 zi_1 rfl ?_
  refine za_iadd (pc' := 677) dL_law_676 rfl ?_
  obtain ⟨hi169, h⟩ := h
  refine za_scrAt (pc' := 678) dL_law_677 rfl hi169 rfl rfl ?_
  obtain ⟨ht172, h⟩ := h
  refine za_callV (κ := v1) (M2 := mX1_nights) (d2 := 2) (b2 := 0) (n := 1) (As := [.int (x9.2 (v4 + (1 : Int32)).toNatClampNeg)]) (st := []) (pc' := 681) zc0 (by decide) ht172 dL_law_678 rfl (lw_V q1147 q1148 q1149 q131 q1150) ⟨rfl, hd_X1_nights⟩ rfl (by decide) (by decide) (Nat.zero_le _) (Or.inl rfl) (Nat.le_of_ble_eq_true rfl) h (zqI_I_k rfl (fun r170 I171 h => ?_)) (fun _ _ _ _ _ _ h9 h8 => absurd h8.1 h9) rfl
  exact zAW_sub [0, 1, 2, 3, 4] rfl h
theorem gL_law_681 {x9 : Nat × (Nat → Int32)} {b : Nat} {v1 : Nat} {v2 : Nat} {v3 : Nat} {v4 : Int32} {s0 : Int32} {T : zT} {I : zI} {L : zL} {R : zR} {P : zP} (h : vp_in (v4 + (1 : Int32)) (x9.1) ∧ (T v2).1 = 13 ∧ zMet mX13_nights 2 0 [.ref v2, .int (x9.2 (v4 + (1 : Int32)).toNatClampNeg)] T I L R (zqI_IL T R  (fun (r174 : Int32) (I175 : zI) (L176 : zL)  => ((s0 = r174 → zAW (mL_law x9) 404 (b - 0) 1307 [(0, .ref 1), (1, .ref v1), (2, .ref v2), (3, .ref v3), (4, .int v4)] [] T I175 L176 R P) ∧ (¬ s0 = r174 → P 0 (.int (0 : Int32)) T I175 L176 R))))) : zAW (mL_law x9) 404 b 681 [(0, .ref 1), (1, .ref v1), (2, .ref v2), (3, .ref v3), (4, .int v4)] [.int s0] T I L R P := by
  refine za_aload_n (pc' := 682) 2 dL_law_681 rfl rfl rfl ?_
  refine za_aload_n (pc' := 683) 0 dL_law_682 rfl rfl rfl ?_
  refine za_iload (pc' := 685) 4 dL_law_683 rfl rfl ?_
  refine za_iconst (pc' := 686) dL_law_685 zi_1 rfl ?_
  refine za_iadd (pc' := 687) dL_law_686 rfl ?_
  obtain ⟨hi173, h⟩ := h
  refine za_scrAt (pc' := 688) dL_law_687 rfl hi173 rfl rfl ?_
  obtain ⟨ht177, h⟩ := h
  refine za_callV (κ := v2) (M2 := mX13_nights) (d2 := 2) (b2 := 0) (n := 1) (As := [.int (x9.2 (v4 + (1 : Int32)).toNatClampNeg)]) (st := [.int s0]) (pc' := 691) zc12 (by decide) ht177 dL_law_688 rfl (lw_V q2023 q2024 q2025 q148 q2026) ⟨rfl, hd_X13_nights⟩ rfl (by decide) (by decide) (Nat.zero_le _) (Or.inl rfl) (Nat.le_of_ble_eq_true rfl) h (zqI_IL_k rfl (fun r174 I175 L176 h => ?_)) (fun _ _ _ _ _ _ h9 h8 => absurd h8.1 h9) rfl
  refine za_icmp_eq (pc' := 694) (tgt := 1307) dL_law_691 (by decide) rfl (fun c9 => ?_) (fun c9 => ?_)
  · replace h := h.1 c9
    exact zAW_sub [0, 1, 2, 3, 4] rfl h
  · replace h := h.2 c9
    refine za_iconst (pc' := 695) dL_law_694 zi_0 rfl ?_
    exact za_zreturn rfl dL_law_695 (by decide) h
theorem gL_law_696 {x9 : Nat × (Nat → Int32)} {b : Nat} {v1 : Nat} {v2 : Nat} {v3 : Nat} {v4 : Int32} {T : zT} {I : zI} {L : zL} {R : zR} {P : zP} (h : vp_in (v4 + (1 : Int32)) (x9.1) ∧ vp_in (v4 + (2 : Int32)) (x9.1) ∧ vp_in (v4 + (3 : Int32)) (x9.1) ∧ (T v1).1 = 1 ∧ ∃ b186, b186 ≤ b ∧ zMet mX1_put_2 4 b186 [.ref v1, .int (x9.2 (v4 + (1 : Int32)).toNatClampNeg), .int (x9.2 (v4 + (2 : Int32)).toNatClampNeg), .int (x9.2 (v4 + (3 : Int32)).toNatClampNeg)] T I L R (zqI_TILR   (fun (r181 : Int32) (T182 : zT) (I183 : zI) (L184 : zL) (R185 : zR)  => (T182 v2).1 = 13 ∧ zMet mX13_put 3 0 [.ref v2, .int (x9.2 (v4 + (1 : Int32)).toNatClampNeg), .int (x9.2 (v4 + (2 : Int32)).toNatClampNeg), .int (x9.2 (v4 + (3 : Int32)).toNatClampNeg)] T182 I183 L184 R185 (zqI_I T182 L184 R185  (fun (r189 : Int32) (I190 : zI)  => ((r181 = r189 → zAW (mL_law x9) 404 ((b - b186) - 0) 1307 [(0, .ref 1), (1, .ref v1), (2, .ref v2), (3, .ref v3), (4, .int v4)] [] T182 I190 L184 R185 P) ∧ (¬ r181 = r189 → P 0 (.int (0 : Int32)) T182 I190 L184 R185))))))) : zAW (mL_law x9) 404 b 696 [(0, .ref 1), (1, .ref v1), (2, .ref v2), (3, .ref v3), (4, .int v4)] [] T I L R P := by
  refine za_aload_n (pc' := 697) 1 dL_law_696 rfl rfl rfl ?_
  refine za_aload_n (pc' := 698) 0 dL_law_697 rfl rfl rfl ?_
  refine za_iload (pc' := 700) 4 dL_law_698 rfl rfl ?_
  refine za_iconst (pc' := 701) dL_law_700 zi_1 rfl ?_
  refine za_iadd (pc' := 702) dL_law_701 rfl ?_
  obtain ⟨hi178, h⟩ := h
  refine za_scrAt (pc' := 703) dL_law_702 rfl hi178 rfl rfl ?_
  refine za_aload_n (pc' := 704) 0 dL_law_703 rfl rfl rfl ?_
  refine za_iload (pc' := 706) 4 dL_law_704 rfl rfl ?_
  refine za_iconst (pc' := 707) dL_law_706 zi_2 rfl ?_
  refine za_iadd (pc' := 708) dL_law_707 rfl ?_
  obtain ⟨hi179, h⟩ := h
  refine za_scrAt (pc' := 709) dL_law_708 rfl hi179 rfl rfl ?_
  refine za_aload_n (pc' := 710) 0 dL_law_709 rfl rfl rfl ?_
  refine za_iload (pc' := 712) 4 dL_law_710 rfl rfl ?_
  refine za_iconst (pc' := 713) dL_law_712 zi_3 rfl ?_
  refine za_iadd (pc' := 714) dL_law_713 rfl ?_
  obtain ⟨hi180, h⟩ := h
  refine za_scrAt (pc' := 715) dL_law_714 rfl hi180 rfl rfl ?_
  obtain ⟨ht188, h⟩ := h
  obtain ⟨b186, hb187, h⟩ := h
  refine za_callV (κ := v1) (M2 := mX1_put_2) (d2 := 4) (b2 := b186) (n := 3) (As := [.int (x9.2 (v4 + (1 : Int32)).toNatClampNeg), .int (x9.2 (v4 + (2 : Int32)).toNatClampNeg), .int (x9.2 (v4 + (3 : Int32)).toNatClampNeg)]) (st := []) (pc' := 718) zc0 (by decide) ht188 dL_law_715 rfl (lw_V q1162 q1163 q1164 q131 q1165) ⟨rfl, hd_X1_put_2⟩ rfl (by decide) (by decide) hb187 (Or.inl rfl) (Nat.le_of_ble_eq_true rfl) h (zqI_TILR_k rfl (fun r181 T182 I183 L184 R185 h => ?_)) (fun _ _ _ _ _ _ h9 h8 => absurd h8.1 h9) rfl
  refine za_aload_n (pc' := 719) 2 dL_law_718 rfl rfl rfl ?_
  refine za_aload_n (pc' := 720) 0 dL_law_719 rfl rfl rfl ?_
  refine za_iload (pc' := 722) 4 dL_law_720 rfl rfl ?_
  refine za_iconst (pc' := 723) dL_law_722 zi_1 rfl ?_
  refine za_iadd (pc' := 724) dL_law_723 rfl ?_
  refine za_scrAt (pc' := 725) dL_law_724 rfl hi178 rfl rfl ?_
  refine za_aload_n (pc' := 726) 0 dL_law_725 rfl rfl rfl ?_
  refine za_iload (pc' := 728) 4 dL_law_726 rfl rfl ?_
  refine za_iconst (pc' := 729) dL_law_728 zi_2 rfl ?_
  refine za_iadd (pc' := 730) dL_law_729 rfl ?_
  refine za_scrAt (pc' := 731) dL_law_730 rfl hi179 rfl rfl ?_
  refine za_aload_n (pc' := 732) 0 dL_law_731 rfl rfl rfl ?_
  refine za_iload (pc' := 734) 4 dL_law_732 rfl rfl ?_
  refine za_iconst (pc' := 735) dL_law_734 zi_3 rfl ?_
  refine za_iadd (pc' := 736) dL_law_735 rfl ?_
  refine za_scrAt (pc' := 737) dL_law_736 rfl hi180 rfl rfl ?_
  obtain ⟨ht191, h⟩ := h
  refine za_callV (κ := v2) (M2 := mX13_put) (d2 := 3) (b2 := 0) (n := 3) (As := [.int (x9.2 (v4 + (1 : Int32)).toNatClampNeg), .int (x9.2 (v4 + (2 : Int32)).toNatClampNeg), .int (x9.2 (v4 + (3 : Int32)).toNatClampNeg)]) (st := [.int r181]) (pc' := 740) zc12 (by decide) ht191 dL_law_737 rfl (lw_V q2035 q2036 q2037 q148 q2038) ⟨rfl, hd_X13_put⟩ rfl (by decide) (by decide) (Nat.zero_le _) (Or.inl rfl) (Nat.le_of_ble_eq_true rfl) h (zqI_I_k rfl (fun r189 I190 h => ?_)) (fun _ _ _ _ _ _ h9 h8 => absurd h8.1 h9) rfl
  refine za_icmp_eq (pc' := 743) (tgt := 1307) dL_law_740 (by decide) rfl (fun c9 => ?_) (fun c9 => ?_)
  · replace h := h.1 c9
    exact zAW_sub [0, 1, 2, 3, 4] rfl h
  · replace h := h.2 c9
    refine za_iconst (pc' := 744) dL_law_743 zi_0 rfl ?_
    exact za_zreturn rfl dL_law_744 (by decide) h
theorem gL_law_745 {x9 : Nat × (Nat → Int32)} {b : Nat} {v1 : Nat} {v2 : Nat} {v3 : Nat} {v4 : Int32} {T : zT} {I : zI} {L : zL} {R : zR} {P : zP} (h : vp_in (v4 + (1 : Int32)) (x9.1) ∧ vp_in (v4 + (2 : Int32)) (x9.1) ∧ (T v1).1 = 1 ∧ ∃ b199, b199 ≤ b ∧ zMet mX1_lose 4 b199 [.ref v1, .int (x9.2 (v4 + (1 : Int32)).toNatClampNeg), .int (x9.2 (v4 + (2 : Int32)).toNatClampNeg)] T I L R (zqI_TILR   (fun (r194 : Int32) (T195 : zT) (I196 : zI) (L197 : zL) (R198 : zR)  => (T195 v2).1 = 13 ∧ zMet mX13_lose 3 0 [.ref v2, .int (x9.2 (v4 + (1 : Int32)).toNatClampNeg), .int (x9.2 (v4 + (2 : Int32)).toNatClampNeg)] T195 I196 L197 R198 (zqI_I T195 L197 R198  (fun (r202 : Int32) (I203 : zI)  => ((r194 = r202 → zAW (mL_law x9) 404 ((b - b199) - 0) 1307 [(0, .ref 1), (1, .ref v1), (2, .ref v2), (3, .ref v3), (4, .int v4)] [] T195 I203 L197 R198 P) ∧ (¬ r194 = r202 → P 0 (.int (0 : Int32)) T195 I203 L197 R198))))))) : zAW (mL_law x9) 404 b 745 [(0, .ref 1), (1, .ref v1), (2, .ref v2), (3, .ref v3), (4, .int v4)] [] T I L R P := by
  refine za_aload_n (pc' := 746) 1 dL_law_745 rfl rfl rfl ?_
  refine za_aload_n (pc' := 747) 0 dL_law_746 rfl rfl rfl ?_
  refine za_iload (pc' := 749) 4 dL_law_747 rfl rfl ?_
  refine za_iconst (pc' := 750) dL_law_749 zi_1 rfl ?_
  refine za_iadd (pc' := 751) dL_law_750 rfl ?_
  obtain ⟨hi192, h⟩ := h
  refine za_scrAt (pc' := 752) dL_law_751 rfl hi192 rfl rfl ?_
  refine za_aload_n (pc' := 753) 0 dL_law_752 rfl rfl rfl ?_
  refine za_iload (pc' := 755) 4 dL_law_753 rfl rfl ?_
  refine za_iconst (pc' := 756) dL_law_755 zi_2 rfl ?_
  refine za_iadd (pc' := 757) dL_law_756 rfl ?_
  obtain ⟨hi193, h⟩ := h
  refine za_scrAt (pc' := 758) dL_law_757 rfl hi193 rfl rfl ?_
  obtain ⟨ht201, h⟩ := h
  obtain ⟨b199, hb200, h⟩ := h
  refine za_callV (κ := v1) (M2 := mX1_lose) (d2 := 4) (b2 := b199) (n := 2) (As := [.int (x9.2 (v4 + (1 : Int32)).toNatClampNeg), .int (x9.2 (v4 + (2 : Int32)).toNatClampNeg)]) (st := []) (pc' := 761) zc0 (by decide) ht201 dL_law_758 rfl (lw_V q1175 q1176 q1177 q131 q1178) ⟨rfl, hd_X1_lose⟩ rfl (by decide) (by decide) hb200 (Or.inl rfl) (Nat.le_of_ble_eq_true rfl) h (zqI_TILR_k rfl (fun r194 T195 I196 L197 R198 h => ?_)) (fun _ _ _ _ _ _ h9 h8 => absurd h8.1 h9) rfl
  refine za_aload_n (pc' := 762) 2 dL_law_761 rfl rfl rfl ?_
  refine za_aload_n (pc' := 763) 0 dL_law_762 rfl rfl rfl ?_
  refine za_iload (pc' := 765) 4 dL_law_763 rfl rfl ?_
  refine za_iconst (pc' := 766) dL_law_765 zi_1 rfl ?_
  refine za_iadd (pc' := 767) dL_law_766 rfl ?_
  refine za_scrAt (pc' := 768) dL_law_767 rfl hi192 rfl rfl ?_
  refine za_aload_n (pc' := 769) 0 dL_law_768 rfl rfl rfl ?_
  refine za_iload (pc' := 771) 4 dL_law_769 rfl rfl ?_
  refine za_iconst (pc' := 772) dL_law_771 zi_2 rfl ?_
  refine za_iadd (pc' := 773) dL_law_772 rfl ?_
  refine za_scrAt (pc' := 774) dL_law_773 rfl hi193 rfl rfl ?_
  obtain ⟨ht204, h⟩ := h
  refine za_callV (κ := v2) (M2 := mX13_lose) (d2 := 3) (b2 := 0) (n := 2) (As := [.int (x9.2 (v4 + (1 : Int32)).toNatClampNeg), .int (x9.2 (v4 + (2 : Int32)).toNatClampNeg)]) (st := [.int r194]) (pc' := 777) zc12 (by decide) ht204 dL_law_774 rfl (lw_V q2043 q2044 q2045 q148 q2046) ⟨rfl, hd_X13_lose⟩ rfl (by decide) (by decide) (Nat.zero_le _) (Or.inl rfl) (Nat.le_of_ble_eq_true rfl) h (zqI_I_k rfl (fun r202 I203 h => ?_)) (fun _ _ _ _ _ _ h9 h8 => absurd h8.1 h9) rfl
  refine za_icmp_eq (pc' := 780) (tgt := 1307) dL_law_777 (by decide) rfl (fun c9 => ?_) (fun c9 => ?_)
  · replace h := h.1 c9
    exact zAW_sub [0, 1, 2, 3, 4] rfl h
  · replace h := h.2 c9
    refine za_iconst (pc' := 781) dL_law_780 zi_0 rfl ?_
    exact za_zreturn rfl dL_law_781 (by decide) h
theorem gL_law_782 {x9 : Nat × (Nat → Int32)} {b : Nat} {v1 : Nat} {v2 : Nat} {v3 : Nat} {v4 : Int32} {T : zT} {I : zI} {L : zL} {R : zR} {P : zP} (h : vp_in (v4 + (1 : Int32)) (x9.1) ∧ vp_in (v4 + (2 : Int32)) (x9.1) ∧ vp_in (v4 + (3 : Int32)) (x9.1) ∧ (T v1).1 = 1 ∧ ∃ b213, b213 ≤ b ∧ zMet mX1_coin 4 b213 [.ref v1, .int (x9.2 (v4 + (1 : Int32)).toNatClampNeg), .int (x9.2 (v4 + (2 : Int32)).toNatClampNeg), .int (x9.2 (v4 + (3 : Int32)).toNatClampNeg)] T I L R (zqI_TILR   (fun (r208 : Int32) (T209 : zT) (I210 : zI) (L211 : zL) (R212 : zR)  => (T209 v2).1 = 13 ∧ zMet mX13_coin 3 0 [.ref v2, .int (x9.2 (v4 + (1 : Int32)).toNatClampNeg), .int (x9.2 (v4 + (2 : Int32)).toNatClampNeg), .int (x9.2 (v4 + (3 : Int32)).toNatClampNeg)] T209 I210 L211 R212 (zqI_I T209 L211 R212  (fun (r216 : Int32) (I217 : zI)  => ((r208 = r216 → zAW (mL_law x9) 404 ((b - b213) - 0) 1307 [(0, .ref 1), (1, .ref v1), (2, .ref v2), (3, .ref v3), (4, .int v4)] [] T209 I217 L211 R212 P) ∧ (¬ r208 = r216 → P 0 (.int (0 : Int32)) T209 I217 L211 R212))))))) : zAW (mL_law x9) 404 b 782 [(0, .ref 1), (1, .ref v1), (2, .ref v2), (3, .ref v3), (4, .int v4)] [] T I L R P := by
  refine za_aload_n (pc' := 783) 1 dL_law_782 rfl rfl rfl ?_
  refine za_aload_n (pc' := 784) 0 dL_law_783 rfl rfl rfl ?_
  refine za_iload (pc' := 786) 4 dL_law_784 rfl rfl ?_
  refine za_iconst (pc' := 787) dL_law_786 zi_1 rfl ?_
  refine za_iadd (pc' := 788) dL_law_787 rfl ?_
  obtain ⟨hi205, h⟩ := h
  refine za_scrAt (pc' := 789) dL_law_788 rfl hi205 rfl rfl ?_
  refine za_aload_n (pc' := 790) 0 dL_law_789 rfl rfl rfl ?_
  refine za_iload (pc' := 792) 4 dL_law_790 rfl rfl ?_
  refine za_iconst (pc' := 793) dL_law_792 zi_2 rfl ?_
  refine za_iadd (pc' := 794) dL_law_793 rfl ?_
  obtain ⟨hi206, h⟩ := h
  refine za_scrAt (pc' := 795) dL_law_794 rfl hi206 rfl rfl ?_
  refine za_aload_n (pc' := 796) 0 dL_law_795 rfl rfl rfl ?_
  refine za_iload (pc' := 798) 4 dL_law_796 rfl rfl ?_
  refine za_iconst (pc' := 799) dL_law_798 zi_3 rfl ?_
  refine za_iadd (pc' := 800) dL_law_799 rfl ?_
  obtain ⟨hi207, h⟩ := h
  refine za_scrAt (pc' := 801) dL_law_800 rfl hi207 rfl rfl ?_
  obtain ⟨ht215, h⟩ := h
  obtain ⟨b213, hb214, h⟩ := h
  refine za_callV (κ := v1) (M2 := mX1_coin) (d2 := 4) (b2 := b213) (n := 3) (As := [.int (x9.2 (v4 + (1 : Int32)).toNatClampNeg), .int (x9.2 (v4 + (2 : Int32)).toNatClampNeg), .int (x9.2 (v4 + (3 : Int32)).toNatClampNeg)]) (st := []) (pc' := 804) zc0 (by decide) ht215 dL_law_801 rfl (lw_V q1179 q1180 q1181 q131 q1182) ⟨rfl, hd_X1_coin⟩ rfl (by decide) (by decide) hb214 (Or.inl rfl) (Nat.le_of_ble_eq_true rfl) h (zqI_TILR_k rfl (fun r208 T209 I210 L211 R212 h => ?_)) (fun _ _ _ _ _ _ h9 h8 => absurd h8.1 h9) rfl
  refine za_aload_n (pc' := 805) 2 dL_law_804 rfl rfl rfl ?_
  refine za_aload_n (pc' := 806) 0 dL_law_805 rfl rfl rfl ?_
  refine za_iload (pc' := 808) 4 dL_law_806 rfl rfl ?_
  refine za_iconst (pc' := 809) dL_law_808 zi_1 rfl ?_
  refine za_iadd (pc' := 810) dL_law_809 rfl ?_
  refine za_scrAt (pc' := 811) dL_law_810 rfl hi205 rfl rfl ?_
  refine za_aload_n (pc' := 812) 0 dL_law_811 rfl rfl rfl ?_
  refine za_iload (pc' := 814) 4 dL_law_812 rfl rfl ?_
  refine za_iconst (pc' := 815) dL_law_814 zi_2 rfl ?_
  refine za_iadd (pc' := 816) dL_law_815 rfl ?_
  refine za_scrAt (pc' := 817) dL_law_816 rfl hi206 rfl rfl ?_
  refine za_aload_n (pc' := 818) 0 dL_law_817 rfl rfl rfl ?_
  refine za_iload (pc' := 820) 4 dL_law_818 rfl rfl ?_
  refine za_iconst (pc' := 821) dL_law_820 zi_3 rfl ?_
  refine za_iadd (pc' := 822) dL_law_821 rfl ?_
  refine za_scrAt (pc' := 823) dL_law_822 rfl hi207 rfl rfl ?_
  obtain ⟨ht218, h⟩ := h
  refine za_callV (κ := v2) (M2 := mX13_coin) (d2 := 3) (b2 := 0) (n := 3) (As := [.int (x9.2 (v4 + (1 : Int32)).toNatClampNeg), .int (x9.2 (v4 + (2 : Int32)).toNatClampNeg), .int (x9.2 (v4 + (3 : Int32)).toNatClampNeg)]) (st := [.int r208]) (pc' := 826) zc12 (by decide) ht218 dL_law_823 rfl (lw_V q2047 q2048 q2049 q148 q2050) ⟨rfl, hd_X13_coin⟩ rfl (by decide) (by decide) (Nat.zero_le _) (Or.inl rfl) (Nat.le_of_ble_eq_true rfl) h (zqI_I_k rfl (fun r216 I217 h => ?_)) (fun _ _ _ _ _ _ h9 h8 => absurd h8.1 h9) rfl
  refine za_icmp_eq (pc' := 829) (tgt := 1307) dL_law_826 (by decide) rfl (fun c9 => ?_) (fun c9 => ?_)
  · replace h := h.1 c9
    exact zAW_sub [0, 1, 2, 3, 4] rfl h
  · replace h := h.2 c9
    refine za_iconst (pc' := 830) dL_law_829 zi_0 rfl ?_
    exact za_zreturn rfl dL_law_830 (by decide) h
theorem gL_law_831 {x9 : Nat × (Nat → Int32)} {b : Nat} {v1 : Nat} {v2 : Nat} {v3 : Nat} {v4 : Int32} {T : zT} {I : zI} {L : zL} {R : zR} {P : zP} (h : vp_in (v4 + (1 : Int32)) (x9.1) ∧ vp_in (v4 + (2 : Int32)) (x9.1) ∧ (T v1).1 = 1 ∧ zMet mX1_serving 42 0 [.ref v1, .int (x9.2 (v4 + (1 : Int32)).toNatClampNeg), .int (x9.2 (v4 + (2 : Int32)).toNatClampNeg)] T I L R (zqI_ILR T  (fun (r221 : Int32) (I222 : zI) (L223 : zL) (R224 : zR)  => zAW (mL_law x9) 404 (b - 0) 847 [(0, .ref 1), (1, .ref v1), (2, .ref v2), (3, .ref v3), (4, .int v4)] [.int r221] T I222 L223 R224 P))) : zAW (mL_law x9) 404 b 831 [(0, .ref 1), (1, .ref v1), (2, .ref v2), (3, .ref v3), (4, .int v4)] [] T I L R P := by
  refine za_aload_n (pc' := 832) 1 dL_law_831 rfl rfl rfl ?_
  refine za_aload_n (pc' := 833) 0 dL_law_832 rfl rfl rfl ?_
  refine za_iload (pc' := 835) 4 dL_law_833 rfl rfl ?_
  refine za_iconst (pc' := 836) dL_law_835 zi_1 rfl ?_
  refine za_iadd (pc' := 837) dL_law_836 rfl ?_
  obtain ⟨hi219, h⟩ := h
  refine za_scrAt (pc' := 838) dL_law_837 rfl hi219 rfl rfl ?_
  refine za_aload_n (pc' := 839) 0 dL_law_838 rfl rfl rfl ?_
  refine za_iload (pc' := 841) 4 dL_law_839 rfl rfl ?_
  refine za_iconst (pc' := 842) dL_law_841 zi_2 rfl ?_
  refine za_iadd (pc' := 843) dL_law_842 rfl ?_
  obtain ⟨hi220, h⟩ := h
  refine za_scrAt (pc' := 844) dL_law_843 rfl hi220 rfl rfl ?_
  obtain ⟨ht225, h⟩ := h
  refine za_callV (κ := v1) (M2 := mX1_serving) (d2 := 42) (b2 := 0) (n := 2) (As := [.int (x9.2 (v4 + (1 : Int32)).toNatClampNeg), .int (x9.2 (v4 + (2 : Int32)).toNatClampNeg)]) (st := []) (pc' := 847) zc0 (by decide) ht225 dL_law_844 rfl (lw_V q1187 q1188 q1189 q131 q1190) ⟨rfl, hd_X1_serving⟩ rfl (by decide) (by decide) (Nat.zero_le _) (Or.inl rfl) (Nat.le_of_ble_eq_true rfl) h (zqI_ILR_k rfl (fun r221 I222 L223 R224 h => ?_)) (fun _ _ _ _ _ _ h9 h8 => absurd h8.1 h9) rfl
  exact zAW_sub [0, 1, 2, 3, 4] rfl h
theorem gL_law_847 {x9 : Nat × (Nat → Int32)} {b : Nat} {v1 : Nat} {v2 : Nat} {v3 : Nat} {v4 : Int32} {s0 : Int32} {T : zT} {I : zI} {L : zL} {R : zR} {P : zP} (h : vp_in (v4 + (1 : Int32)) (x9.1) ∧ vp_in (v4 + (2 : Int32)) (x9.1) ∧ (T v2).1 = 13 ∧ zMet mX13_serving 8 0 [.ref v2, .int (x9.2 (v4 + (1 : Int32)).toNatClampNeg), .int (x9.2 (v4 + (2 : Int32)).toNatClampNeg)] T I L R (zqI_IL T R  (fun (r228 : Int32) (I229 : zI) (L230 : zL)  => ((s0 = r228 → zAW (mL_law x9) 404 (b - 0) 1307 [(0, .ref 1), (1, .ref v1), (2, .ref v2), (3, .ref v3), (4, .int v4)] [] T I229 L230 R P) ∧ (¬ s0 = r228 → P 0 (.int (0 : Int32)) T I229 L230 R))))) : zAW (mL_law x9) 404 b 847 [(0, .ref 1), (1, .ref v1), (2, .ref v2), (3, .ref v3), (4, .int v4)] [.int s0] T I L R P := by
  refine za_aload_n (pc' := 848) 2 dL_law_847 rfl rfl rfl ?_
  refine za_aload_n (pc' := 849) 0 dL_law_848 rfl rfl rfl ?_
  refine za_iload (pc' := 851) 4 dL_law_849 rfl rfl ?_
  refine za_iconst (pc' := 852) dL_law_851 zi_1 rfl ?_
  refine za_iadd (pc' := 853) dL_law_852 rfl ?_
  obtain ⟨hi226, h⟩ := h
  refine za_scrAt (pc' := 854) dL_law_853 rfl hi226 rfl rfl ?_
  refine za_aload_n (pc' := 855) 0 dL_law_854 rfl rfl rfl ?_
  refine za_iload (pc' := 857) 4 dL_law_855 rfl rfl ?_
  refine za_iconst (pc' := 858) dL_law_857 zi_2 rfl ?_
  refine za_iadd (pc' := 859) dL_law_858 rfl ?_
  obtain ⟨hi227, h⟩ := h
  refine za_scrAt (pc' := 860) dL_law_859 rfl hi227 rfl rfl ?_
  obtain ⟨ht231, h⟩ := h
  refine za_callV (κ := v2) (M2 := mX13_serving) (d2 := 8) (b2 := 0) (n := 2) (As := [.int (x9.2 (v4 + (1 : Int32)).toNatClampNeg), .int (x9.2 (v4 + (2 : Int32)).toNatClampNeg)]) (st := [.int s0]) (pc' := 863) zc12 (by decide) ht231 dL_law_860 rfl (lw_V q2058 q2059 q2060 q148 q2061) ⟨rfl, hd_X13_serving⟩ rfl (by decide) (by decide) (Nat.zero_le _) (Or.inl rfl) (Nat.le_of_ble_eq_true rfl) h (zqI_IL_k rfl (fun r228 I229 L230 h => ?_)) (fun _ _ _ _ _ _ h9 h8 => absurd h8.1 h9) rfl
  refine za_icmp_eq (pc' := 866) (tgt := 1307) dL_law_863 (by decide) rfl (fun c9 => ?_) (fun c9 => ?_)
  · replace h := h.1 c9
    exact zAW_sub [0, 1, 2, 3, 4] rfl h
  · replace h := h.2 c9
    refine za_iconst (pc' := 867) dL_law_866 zi_0 rfl ?_
    exact za_zreturn rfl dL_law_867 (by decide) h
theorem gL_law_868 {x9 : Nat × (Nat → Int32)} {b : Nat} {v1 : Nat} {v2 : Nat} {v3 : Nat} {v4 : Int32} {T : zT} {I : zI} {L : zL} {R : zR} {P : zP} (h : vp_in (v4 + (1 : Int32)) (x9.1) ∧ vp_in (v4 + (2 : Int32)) (x9.1) ∧ vp_in (v4 + (3 : Int32)) (x9.1) ∧ (T v1).1 = 1 ∧ zMet mX1_serves 43 0 [.ref v1, .int (x9.2 (v4 + (1 : Int32)).toNatClampNeg), .int (x9.2 (v4 + (2 : Int32)).toNatClampNeg), .int (x9.2 (v4 + (3 : Int32)).toNatClampNeg)] T I L R (zqJ_ILR T  (fun (r235 : Int64) (I236 : zI) (L237 : zL) (R238 : zR)  => (T v2).1 = 13 ∧ zMet mX13_serves 8 0 [.ref v2, .int (x9.2 (v4 + (1 : Int32)).toNatClampNeg), .int (x9.2 (v4 + (2 : Int32)).toNatClampNeg), .int (x9.2 (v4 + (3 : Int32)).toNatClampNeg)] T I236 L237 R238 (zqJ_IL T R238  (fun (r240 : Int64) (I241 : zI) (L242 : zL)  => ((r235 = r240 → zAW (mL_law x9) 404 ((b - 0) - 0) 1307 [(0, .ref 1), (1, .ref v1), (2, .ref v2), (3, .ref v3), (4, .int v4)] [] T I241 L242 R238 P) ∧ (¬ r235 = r240 → P 0 (.int (0 : Int32)) T I241 L242 R238))))))) : zAW (mL_law x9) 404 b 868 [(0, .ref 1), (1, .ref v1), (2, .ref v2), (3, .ref v3), (4, .int v4)] [] T I L R P := by
  refine za_aload_n (pc' := 869) 1 dL_law_868 rfl rfl rfl ?_
  refine za_aload_n (pc' := 870) 0 dL_law_869 rfl rfl rfl ?_
  refine za_iload (pc' := 872) 4 dL_law_870 rfl rfl ?_
  refine za_iconst (pc' := 873) dL_law_872 zi_1 rfl ?_
  refine za_iadd (pc' := 874) dL_law_873 rfl ?_
  obtain ⟨hi232, h⟩ := h
  refine za_scrAt (pc' := 875) dL_law_874 rfl hi232 rfl rfl ?_
  refine za_aload_n (pc' := 876) 0 dL_law_875 rfl rfl rfl ?_
  refine za_iload (pc' := 878) 4 dL_law_876 rfl rfl ?_
  refine za_iconst (pc' := 879) dL_law_878 zi_2 rfl ?_
  refine za_iadd (pc' := 880) dL_law_879 rfl ?_
  obtain ⟨hi233, h⟩ := h
  refine za_scrAt (pc' := 881) dL_law_880 rfl hi233 rfl rfl ?_
  refine za_aload_n (pc' := 882) 0 dL_law_881 rfl rfl rfl ?_
  refine za_iload (pc' := 884) 4 dL_law_882 rfl rfl ?_
  refine za_iconst (pc' := 885) dL_law_884 zi_3 rfl ?_
  refine za_iadd (pc' := 886) dL_law_885 rfl ?_
  obtain ⟨hi234, h⟩ := h
  refine za_scrAt (pc' := 887) dL_law_886 rfl hi234 rfl rfl ?_
  obtain ⟨ht239, h⟩ := h
  refine za_callV (κ := v1) (M2 := mX1_serves) (d2 := 43) (b2 := 0) (n := 3) (As := [.int (x9.2 (v4 + (1 : Int32)).toNatClampNeg), .int (x9.2 (v4 + (2 : Int32)).toNatClampNeg), .int (x9.2 (v4 + (3 : Int32)).toNatClampNeg)]) (st := []) (pc' := 890) zc0 (by decide) ht239 dL_law_887 rfl (lw_V q1263 q1264 q1265 q131 q1266) ⟨rfl, hd_X1_serves⟩ rfl (by decide) (by decide) (Nat.zero_le _) (Or.inl rfl) (Nat.le_of_ble_eq_true rfl) h (zqJ_ILR_k rfl (fun r235 I236 L237 R238 h => ?_)) (fun _ _ _ _ _ _ h9 h8 => absurd h8.1 h9) rfl
  refine za_aload_n (pc' := 891) 2 dL_law_890 rfl rfl rfl ?_
  refine za_aload_n (pc' := 892) 0 dL_law_891 rfl rfl rfl ?_
  refine za_iload (pc' := 894) 4 dL_law_892 rfl rfl ?_
  refine za_iconst (pc' := 895) dL_law_894 zi_1 rfl ?_
  refine za_iadd (pc' := 896) dL_law_895 rfl ?_
  refine za_scrAt (pc' := 897) dL_law_896 rfl hi232 rfl rfl ?_
  refine za_aload_n (pc' := 898) 0 dL_law_897 rfl rfl rfl ?_
  refine za_iload (pc' := 900) 4 dL_law_898 rfl rfl ?_
  refine za_iconst (pc' := 901) dL_law_900 zi_2 rfl ?_
  refine za_iadd (pc' := 902) dL_law_901 rfl ?_
  refine za_scrAt (pc' := 903) dL_law_902 rfl hi233 rfl rfl ?_
  refine za_aload_n (pc' := 904) 0 dL_law_903 rfl rfl rfl ?_
  refine za_iload (pc' := 906) 4 dL_law_904 rfl rfl ?_
  refine za_iconst (pc' := 907) dL_law_906 zi_3 rfl ?_
  refine za_iadd (pc' := 908) dL_law_907 rfl ?_
  refine za_scrAt (pc' := 909) dL_law_908 rfl hi234 rfl rfl ?_
  obtain ⟨ht243, h⟩ := h
  refine za_callV (κ := v2) (M2 := mX13_serves) (d2 := 8) (b2 := 0) (n := 3) (As := [.int (x9.2 (v4 + (1 : Int32)).toNatClampNeg), .int (x9.2 (v4 + (2 : Int32)).toNatClampNeg), .int (x9.2 (v4 + (3 : Int32)).toNatClampNeg)]) (st := [.long r235]) (pc' := 912) zc12 (by decide) ht243 dL_law_909 rfl (lw_V q2120 q2121 q2122 q148 q2123) ⟨rfl, hd_X13_serves⟩ rfl (by decide) (by decide) (Nat.zero_le _) (Or.inl rfl) (Nat.le_of_ble_eq_true rfl) h (zqJ_IL_k rfl (fun r240 I241 L242 h => ?_)) (fun _ _ _ _ _ _ h9 h8 => absurd h8.1 h9) rfl
  refine za_lcmp (pc' := 913) dL_law_912 rfl ?_
  refine za_if_eq (pc' := 916) (tgt := 1307) dL_law_913 (by decide) rfl (fun c9 => ?_) (fun c9 => ?_)
  · replace h := h.1 ((lg_cmp_eq r235 r240).mp c9)
    exact zAW_sub [0, 1, 2, 3, 4] rfl h
  · replace h := h.2 (fun c8 => c9 ((lg_cmp_eq r235 r240).mpr c8))
    refine za_iconst (pc' := 917) dL_law_916 zi_0 rfl ?_
    exact za_zreturn rfl dL_law_917 (by decide) h
theorem gL_law_918 {x9 : Nat × (Nat → Int32)} {b : Nat} {v1 : Nat} {v2 : Nat} {v3 : Nat} {v4 : Int32} {T : zT} {I : zI} {L : zL} {R : zR} {P : zP} (h : vp_in (v4 + (1 : Int32)) (x9.1) ∧ vp_in (v4 + (2 : Int32)) (x9.1) ∧ (T v1).1 = 1 ∧ zMet mX1_lightest 8 0 [.ref v1, .int (x9.2 (v4 + (1 : Int32)).toNatClampNeg), .int (x9.2 (v4 + (2 : Int32)).toNatClampNeg)] T I L R (zqI_IR T L  (fun (r246 : Int32) (I247 : zI) (R248 : zR)  => (T v2).1 = 13 ∧ zMet mX13_lightest 6 0 [.ref v2, .int (x9.2 (v4 + (1 : Int32)).toNatClampNeg), .int (x9.2 (v4 + (2 : Int32)).toNatClampNeg)] T I247 L R248 (zqI_I T L R248  (fun (r250 : Int32) (I251 : zI)  => ((r246 = r250 → zAW (mL_law x9) 404 ((b - 0) - 0) 1307 [(0, .ref 1), (1, .ref v1), (2, .ref v2), (3, .ref v3), (4, .int v4)] [] T I251 L R248 P) ∧ (¬ r246 = r250 → P 0 (.int (0 : Int32)) T I251 L R248))))))) : zAW (mL_law x9) 404 b 918 [(0, .ref 1), (1, .ref v1), (2, .ref v2), (3, .ref v3), (4, .int v4)] [] T I L R P := by
  refine za_aload_n (pc' := 919) 1 dL_law_918 rfl rfl rfl ?_
  refine za_aload_n (pc' := 920) 0 dL_law_919 rfl rfl rfl ?_
  refine za_iload (pc' := 922) 4 dL_law_920 rfl rfl ?_
  refine za_iconst (pc' := 923) dL_law_922 zi_1 rfl ?_
  refine za_iadd (pc' := 924) dL_law_923 rfl ?_
  obtain ⟨hi244, h⟩ := h
  refine za_scrAt (pc' := 925) dL_law_924 rfl hi244 rfl rfl ?_
  refine za_aload_n (pc' := 926) 0 dL_law_925 rfl rfl rfl ?_
  refine za_iload (pc' := 928) 4 dL_law_926 rfl rfl ?_
  refine za_iconst (pc' := 929) dL_law_928 zi_2 rfl ?_
  refine za_iadd (pc' := 930) dL_law_929 rfl ?_
  obtain ⟨hi245, h⟩ := h
  refine za_scrAt (pc' := 931) dL_law_930 rfl hi245 rfl rfl ?_
  obtain ⟨ht249, h⟩ := h
  refine za_callV (κ := v1) (M2 := mX1_lightest) (d2 := 8) (b2 := 0) (n := 2) (As := [.int (x9.2 (v4 + (1 : Int32)).toNatClampNeg), .int (x9.2 (v4 + (2 : Int32)).toNatClampNeg)]) (st := []) (pc' := 934) zc0 (by decide) ht249 dL_law_931 rfl (lw_V q1273 q1274 q1275 q131 q1276) ⟨rfl, hd_X1_lightest⟩ rfl (by decide) (by decide) (Nat.zero_le _) (Or.inl rfl) (Nat.le_of_ble_eq_true rfl) h (zqI_IR_k rfl (fun r246 I247 R248 h => ?_)) (fun _ _ _ _ _ _ h9 h8 => absurd h8.1 h9) rfl
  refine za_aload_n (pc' := 935) 2 dL_law_934 rfl rfl rfl ?_
  refine za_aload_n (pc' := 936) 0 dL_law_935 rfl rfl rfl ?_
  refine za_iload (pc' := 938) 4 dL_law_936 rfl rfl ?_
  refine za_iconst (pc' := 939) dL_law_938 zi_1 rfl ?_
  refine za_iadd (pc' := 940) dL_law_939 rfl ?_
  refine za_scrAt (pc' := 941) dL_law_940 rfl hi244 rfl rfl ?_
  refine za_aload_n (pc' := 942) 0 dL_law_941 rfl rfl rfl ?_
  refine za_iload (pc' := 944) 4 dL_law_942 rfl rfl ?_
  refine za_iconst (pc' := 945) dL_law_944 zi_2 rfl ?_
  refine za_iadd (pc' := 946) dL_law_945 rfl ?_
  refine za_scrAt (pc' := 947) dL_law_946 rfl hi245 rfl rfl ?_
  obtain ⟨ht252, h⟩ := h
  refine za_callV (κ := v2) (M2 := mX13_lightest) (d2 := 6) (b2 := 0) (n := 2) (As := [.int (x9.2 (v4 + (1 : Int32)).toNatClampNeg), .int (x9.2 (v4 + (2 : Int32)).toNatClampNeg)]) (st := [.int r246]) (pc' := 950) zc12 (by decide) ht252 dL_law_947 rfl (lw_V q2129 q2130 q2131 q148 q2132) ⟨rfl, hd_X13_lightest⟩ rfl (by decide) (by decide) (Nat.zero_le _) (Or.inl rfl) (Nat.le_of_ble_eq_true rfl) h (zqI_I_k rfl (fun r250 I251 h => ?_)) (fun _ _ _ _ _ _ h9 h8 => absurd h8.1 h9) rfl
  refine za_icmp_eq (pc' := 953) (tgt := 1307) dL_law_950 (by decide) rfl (fun c9 => ?_) (fun c9 => ?_)
  · replace h := h.1 c9
    exact zAW_sub [0, 1, 2, 3, 4] rfl h
  · replace h := h.2 c9
    refine za_iconst (pc' := 954) dL_law_953 zi_0 rfl ?_
    exact za_zreturn rfl dL_law_954 (by decide) h
theorem gL_law_955 {x9 : Nat × (Nat → Int32)} {b : Nat} {v1 : Nat} {v2 : Nat} {v3 : Nat} {v4 : Int32} {T : zT} {I : zI} {L : zL} {R : zR} {P : zP} (h : vp_in (v4 + (1 : Int32)) (x9.1) ∧ vp_in (v4 + (2 : Int32)) (x9.1) ∧ (T v1).1 = 1 ∧ zMet mX1_light 9 0 [.ref v1, .int (x9.2 (v4 + (1 : Int32)).toNatClampNeg), .int (x9.2 (v4 + (2 : Int32)).toNatClampNeg)] T I L R (zqJ_IR T L  (fun (r255 : Int64) (I256 : zI) (R257 : zR)  => (T v2).1 = 13 ∧ zMet mX13_light 6 0 [.ref v2, .int (x9.2 (v4 + (1 : Int32)).toNatClampNeg), .int (x9.2 (v4 + (2 : Int32)).toNatClampNeg)] T I256 L R257 (zqJ_I T L R257  (fun (r259 : Int64) (I260 : zI)  => ((r255 = r259 → zAW (mL_law x9) 404 ((b - 0) - 0) 1307 [(0, .ref 1), (1, .ref v1), (2, .ref v2), (3, .ref v3), (4, .int v4)] [] T I260 L R257 P) ∧ (¬ r255 = r259 → P 0 (.int (0 : Int32)) T I260 L R257))))))) : zAW (mL_law x9) 404 b 955 [(0, .ref 1), (1, .ref v1), (2, .ref v2), (3, .ref v3), (4, .int v4)] [] T I L R P := by
  refine za_aload_n (pc' := 956) 1 dL_law_955 rfl rfl rfl ?_
  refine za_aload_n (pc' := 957) 0 dL_law_956 rfl rfl rfl ?_
  refine za_iload (pc' := 959) 4 dL_law_957 rfl rfl ?_
  refine za_iconst (pc' := 960) dL_law_959 zi_1 rfl ?_
  refine za_iadd (pc' := 961) dL_law_960 rfl ?_
  obtain ⟨hi253, h⟩ := h
  refine za_scrAt (pc' := 962) dL_law_961 rfl hi253 rfl rfl ?_
  refine za_aload_n (pc' := 963) 0 dL_law_962 rfl rfl rfl ?_
  refine za_iload (pc' := 965) 4 dL_law_963 rfl rfl ?_
  refine za_iconst (pc' := 966) dL_law_965 zi_2 rfl ?_
  refine za_iadd (pc' := 967) dL_law_966 rfl ?_
  obtain ⟨hi254, h⟩ := h
  refine za_scrAt (pc' := 968) dL_law_967 rfl hi254 rfl rfl ?_
  obtain ⟨ht258, h⟩ := h
  refine za_callV (κ := v1) (M2 := mX1_light) (d2 := 9) (b2 := 0) (n := 2) (As := [.int (x9.2 (v4 + (1 : Int32)).toNatClampNeg), .int (x9.2 (v4 + (2 : Int32)).toNatClampNeg)]) (st := []) (pc' := 971) zc0 (by decide) ht258 dL_law_968 rfl (lw_V q1277 q1278 q1279 q131 q1280) ⟨rfl, hd_X1_light⟩ rfl (by decide) (by decide) (Nat.zero_le _) (Or.inl rfl) (Nat.le_of_ble_eq_true rfl) h (zqJ_IR_k rfl (fun r255 I256 R257 h => ?_)) (fun _ _ _ _ _ _ h9 h8 => absurd h8.1 h9) rfl
  refine za_aload_n (pc' := 972) 2 dL_law_971 rfl rfl rfl ?_
  refine za_aload_n (pc' := 973) 0 dL_law_972 rfl rfl rfl ?_
  refine za_iload (pc' := 975) 4 dL_law_973 rfl rfl ?_
  refine za_iconst (pc' := 976) dL_law_975 zi_1 rfl ?_
  refine za_iadd (pc' := 977) dL_law_976 rfl ?_
  refine za_scrAt (pc' := 978) dL_law_977 rfl hi253 rfl rfl ?_
  refine za_aload_n (pc' := 979) 0 dL_law_978 rfl rfl rfl ?_
  refine za_iload (pc' := 981) 4 dL_law_979 rfl rfl ?_
  refine za_iconst (pc' := 982) dL_law_981 zi_2 rfl ?_
  refine za_iadd (pc' := 983) dL_law_982 rfl ?_
  refine za_scrAt (pc' := 984) dL_law_983 rfl hi254 rfl rfl ?_
  obtain ⟨ht261, h⟩ := h
  refine za_callV (κ := v2) (M2 := mX13_light) (d2 := 6) (b2 := 0) (n := 2) (As := [.int (x9.2 (v4 + (1 : Int32)).toNatClampNeg), .int (x9.2 (v4 + (2 : Int32)).toNatClampNeg)]) (st := [.long r255]) (pc' := 987) zc12 (by decide) ht261 dL_law_984 rfl (lw_V q2133 q2134 q2135 q148 q2136) ⟨rfl, hd_X13_light⟩ rfl (by decide) (by decide) (Nat.zero_le _) (Or.inl rfl) (Nat.le_of_ble_eq_true rfl) h (zqJ_I_k rfl (fun r259 I260 h => ?_)) (fun _ _ _ _ _ _ h9 h8 => absurd h8.1 h9) rfl
  refine za_lcmp (pc' := 988) dL_law_987 rfl ?_
  refine za_if_eq (pc' := 991) (tgt := 1307) dL_law_988 (by decide) rfl (fun c9 => ?_) (fun c9 => ?_)
  · replace h := h.1 ((lg_cmp_eq r255 r259).mp c9)
    exact zAW_sub [0, 1, 2, 3, 4] rfl h
  · replace h := h.2 (fun c8 => c9 ((lg_cmp_eq r255 r259).mpr c8))
    refine za_iconst (pc' := 992) dL_law_991 zi_0 rfl ?_
    exact za_zreturn rfl dL_law_992 (by decide) h
theorem gL_law_993 {x9 : Nat × (Nat → Int32)} {b : Nat} {v1 : Nat} {v2 : Nat} {v3 : Nat} {v4 : Int32} {T : zT} {I : zI} {L : zL} {R : zR} {P : zP} (h : vp_in (v4 + (1 : Int32)) (x9.1) ∧ (T v1).1 = 1 ∧ zMet mX1_charred 42 0 [.ref v1, .int (x9.2 (v4 + (1 : Int32)).toNatClampNeg)] T I L R (zqI_ILR T  (fun (r263 : Int32) (I264 : zI) (L265 : zL) (R266 : zR)  => zAW (mL_law x9) 404 (b - 0) 1003 [(0, .ref 1), (1, .ref v1), (2, .ref v2), (3, .ref v3), (4, .int v4)] [.int r263] T I264 L265 R266 P))) : zAW (mL_law x9) 404 b 993 [(0, .ref 1), (1, .ref v1), (2, .ref v2), (3, .ref v3), (4, .int v4)] [] T I L R P := by
  refine za_aload_n (pc' := 994) 1 dL_law_993 rfl rfl rfl ?_
  refine za_aload_n (pc' := 995) 0 dL_law_994 rfl rfl rfl ?_
  refine za_iload (pc' := 997) 4 dL_law_995 rfl rfl ?_
  refine za_iconst (pc' := 998) dL_law_997 zi_1 rfl ?_
  refine za_iadd (pc' := 999) dL_law_998 rfl ?_
  obtain ⟨hi262, h⟩ := h
  refine za_scrAt (pc' := 1000) dL_law_999 rfl hi262 rfl rfl ?_
  obtain ⟨ht267, h⟩ := h
  refine za_callV (κ := v1) (M2 := mX1_charred) (d2 := 42) (b2 := 0) (n := 1) (As := [.int (x9.2 (v4 + (1 : Int32)).toNatClampNeg)]) (st := []) (pc' := 1003) zc0 (by decide) ht267 dL_law_1000 rfl (lw_V q1282 q1283 q1284 q131 q1285) ⟨rfl, hd_X1_charred⟩ rfl (by decide) (by decide) (Nat.zero_le _) (Or.inl rfl) (Nat.le_of_ble_eq_true rfl) h (zqI_ILR_k rfl (fun r263 I264 L265 R266 h => ?_)) (fun _ _ _ _ _ _ h9 h8 => absurd h8.1 h9) rfl
  exact zAW_sub [0, 1, 2, 3, 4] rfl h
theorem gL_law_1003 {x9 : Nat × (Nat → Int32)} {b : Nat} {v1 : Nat} {v2 : Nat} {v3 : Nat} {v4 : Int32} {s0 : Int32} {T : zT} {I : zI} {L : zL} {R : zR} {P : zP} (h : vp_in (v4 + (1 : Int32)) (x9.1) ∧ (T v2).1 = 13 ∧ zMet mX13_charred 8 0 [.ref v2, .int (x9.2 (v4 + (1 : Int32)).toNatClampNeg)] T I L R (zqI_IL T R  (fun (r269 : Int32) (I270 : zI) (L271 : zL)  => ((s0 = r269 → zAW (mL_law x9) 404 (b - 0) 1307 [(0, .ref 1), (1, .ref v1), (2, .ref v2), (3, .ref v3), (4, .int v4)] [] T I270 L271 R P) ∧ (¬ s0 = r269 → P 0 (.int (0 : Int32)) T I270 L271 R))))) : zAW (mL_law x9) 404 b 1003 [(0, .ref 1), (1, .ref v1), (2, .ref v2), (3, .ref v3), (4, .int v4)] [.int s0] T I L R P := by
  refine za_aload_n (pc' := 1004) 2 dL_law_1003 rfl rfl rfl ?_
  refine za_aload_n (pc' := 1005) 0 dL_law_1004 rfl rfl rfl ?_
  refine za_iload (pc' := 1007) 4 dL_law_1005 rfl rfl ?_
  refine za_iconst (pc' := 1008) dL_law_1007 zi_1 rfl ?_
  refine za_iadd (pc' := 1009) dL_law_1008 rfl ?_
  obtain ⟨hi268, h⟩ := h
  refine za_scrAt (pc' := 1010) dL_law_1009 rfl hi268 rfl rfl ?_
  obtain ⟨ht272, h⟩ := h
  refine za_callV (κ := v2) (M2 := mX13_charred) (d2 := 8) (b2 := 0) (n := 1) (As := [.int (x9.2 (v4 + (1 : Int32)).toNatClampNeg)]) (st := [.int s0]) (pc' := 1013) zc12 (by decide) ht272 dL_law_1010 rfl (lw_V q2137 q2138 q2139 q148 q2140) ⟨rfl, hd_X13_charred⟩ rfl (by decide) (by decide) (Nat.zero_le _) (Or.inl rfl) (Nat.le_of_ble_eq_true rfl) h (zqI_IL_k rfl (fun r269 I270 L271 h => ?_)) (fun _ _ _ _ _ _ h9 h8 => absurd h8.1 h9) rfl
  refine za_icmp_eq (pc' := 1016) (tgt := 1307) dL_law_1013 (by decide) rfl (fun c9 => ?_) (fun c9 => ?_)
  · replace h := h.1 c9
    exact zAW_sub [0, 1, 2, 3, 4] rfl h
  · replace h := h.2 c9
    refine za_iconst (pc' := 1017) dL_law_1016 zi_0 rfl ?_
    exact za_zreturn rfl dL_law_1017 (by decide) h
theorem gL_law_1018 {x9 : Nat × (Nat → Int32)} {b : Nat} {v1 : Nat} {v2 : Nat} {v3 : Nat} {v4 : Int32} {T : zT} {I : zI} {L : zL} {R : zR} {P : zP} (h : vp_in (v4 + (1 : Int32)) (x9.1) ∧ vp_in (v4 + (2 : Int32)) (x9.1) ∧ (T v1).1 = 1 ∧ zMet mX1_filled 43 0 [.ref v1, .int (x9.2 (v4 + (1 : Int32)).toNatClampNeg), .int (x9.2 (v4 + (2 : Int32)).toNatClampNeg)] T I L R (zqJ_ILR T  (fun (r275 : Int64) (I276 : zI) (L277 : zL) (R278 : zR)  => (T v2).1 = 13 ∧ zMet mX13_filled 8 0 [.ref v2, .int (x9.2 (v4 + (1 : Int32)).toNatClampNeg), .int (x9.2 (v4 + (2 : Int32)).toNatClampNeg)] T I276 L277 R278 (zqJ_IL T R278  (fun (r280 : Int64) (I281 : zI) (L282 : zL)  => ((r275 = r280 → zAW (mL_law x9) 404 ((b - 0) - 0) 1307 [(0, .ref 1), (1, .ref v1), (2, .ref v2), (3, .ref v3), (4, .int v4)] [] T I281 L282 R278 P) ∧ (¬ r275 = r280 → P 0 (.int (0 : Int32)) T I281 L282 R278))))))) : zAW (mL_law x9) 404 b 1018 [(0, .ref 1), (1, .ref v1), (2, .ref v2), (3, .ref v3), (4, .int v4)] [] T I L R P := by
  refine za_aload_n (pc' := 1019) 1 dL_law_1018 rfl rfl rfl ?_
  refine za_aload_n (pc' := 1020) 0 dL_law_1019 rfl rfl rfl ?_
  refine za_iload (pc' := 1022) 4 dL_law_1020 rfl rfl ?_
  refine za_iconst (pc' := 1023) dL_law_1022 zi_1 rfl ?_
  refine za_iadd (pc' := 1024) dL_law_1023 rfl ?_
  obtain ⟨hi273, h⟩ := h
  refine za_scrAt (pc' := 1025) dL_law_1024 rfl hi273 rfl rfl ?_
  refine za_aload_n (pc' := 1026) 0 dL_law_1025 rfl rfl rfl ?_
  refine za_iload (pc' := 1028) 4 dL_law_1026 rfl rfl ?_
  refine za_iconst (pc' := 1029) dL_law_1028 zi_2 rfl ?_
  refine za_iadd (pc' := 1030) dL_law_1029 rfl ?_
  obtain ⟨hi274, h⟩ := h
  refine za_scrAt (pc' := 1031) dL_law_1030 rfl hi274 rfl rfl ?_
  obtain ⟨ht279, h⟩ := h
  refine za_callV (κ := v1) (M2 := mX1_filled) (d2 := 43) (b2 := 0) (n := 2) (As := [.int (x9.2 (v4 + (1 : Int32)).toNatClampNeg), .int (x9.2 (v4 + (2 : Int32)).toNatClampNeg)]) (st := []) (pc' := 1034) zc0 (by decide) ht279 dL_law_1031 rfl (lw_V q1286 q1287 q1288 q131 q1289) ⟨rfl, hd_X1_filled⟩ rfl (by decide) (by decide) (Nat.zero_le _) (Or.inl rfl) (Nat.le_of_ble_eq_true rfl) h (zqJ_ILR_k rfl (fun r275 I276 L277 R278 h => ?_)) (fun _ _ _ _ _ _ h9 h8 => absurd h8.1 h9) rfl
  refine za_aload_n (pc' := 1035) 2 dL_law_1034 rfl rfl rfl ?_
  refine za_aload_n (pc' := 1036) 0 dL_law_1035 rfl rfl rfl ?_
  refine za_iload (pc' := 1038) 4 dL_law_1036 rfl rfl ?_
  refine za_iconst (pc' := 1039) dL_law_1038 zi_1 rfl ?_
  refine za_iadd (pc' := 1040) dL_law_1039 rfl ?_
  refine za_scrAt (pc' := 1041) dL_law_1040 rfl hi273 rfl rfl ?_
  refine za_aload_n (pc' := 1042) 0 dL_law_1041 rfl rfl rfl ?_
  refine za_iload (pc' := 1044) 4 dL_law_1042 rfl rfl ?_
  refine za_iconst (pc' := 1045) dL_law_1044 zi_2 rfl ?_
  refine za_iadd (pc' := 1046) dL_law_1045 rfl ?_
  refine za_scrAt (pc' := 1047) dL_law_1046 rfl hi274 rfl rfl ?_
  obtain ⟨ht283, h⟩ := h
  refine za_callV (κ := v2) (M2 := mX13_filled) (d2 := 8) (b2 := 0) (n := 2) (As := [.int (x9.2 (v4 + (1 : Int32)).toNatClampNeg), .int (x9.2 (v4 + (2 : Int32)).toNatClampNeg)]) (st := [.long r275]) (pc' := 1050) zc12 (by decide) ht283 dL_law_1047 rfl (lw_V q2145 q2146 q2147 q148 q2148) ⟨rfl, hd_X13_filled⟩ rfl (by decide) (by decide) (Nat.zero_le _) (Or.inl rfl) (Nat.le_of_ble_eq_true rfl) h (zqJ_IL_k rfl (fun r280 I281 L282 h => ?_)) (fun _ _ _ _ _ _ h9 h8 => absurd h8.1 h9) rfl
  refine za_lcmp (pc' := 1051) dL_law_1050 rfl ?_
  refine za_if_eq (pc' := 1054) (tgt := 1307) dL_law_1051 (by decide) rfl (fun c9 => ?_) (fun c9 => ?_)
  · replace h := h.1 ((lg_cmp_eq r275 r280).mp c9)
    exact zAW_sub [0, 1, 2, 3, 4] rfl h
  · replace h := h.2 (fun c8 => c9 ((lg_cmp_eq r275 r280).mpr c8))
    refine za_iconst (pc' := 1055) dL_law_1054 zi_0 rfl ?_
    exact za_zreturn rfl dL_law_1055 (by decide) h
theorem gL_law_1056 {x9 : Nat × (Nat → Int32)} {b : Nat} {v1 : Nat} {v2 : Nat} {v3 : Nat} {v4 : Int32} {T : zT} {I : zI} {L : zL} {R : zR} {P : zP} (h : vp_in (v4 + (1 : Int32)) (x9.1) ∧ vp_in (v4 + (2 : Int32)) (x9.1) ∧ (T v1).1 = 1 ∧ zMet mX1_told 7 0 [.ref v1, .int (x9.2 (v4 + (1 : Int32)).toNatClampNeg), .int (x9.2 (v4 + (2 : Int32)).toNatClampNeg)] T I L R (zqI_IL T R  (fun (r286 : Int32) (I287 : zI) (L288 : zL)  => (T v2).1 = 13 ∧ zMet mX13_told 6 0 [.ref v2, .int (x9.2 (v4 + (1 : Int32)).toNatClampNeg), .int (x9.2 (v4 + (2 : Int32)).toNatClampNeg)] T I287 L288 R (zqI_IL T R  (fun (r290 : Int32) (I291 : zI) (L292 : zL)  => ((r286 = r290 → zAW (mL_law x9) 404 ((b - 0) - 0) 1307 [(0, .ref 1), (1, .ref v1), (2, .ref v2), (3, .ref v3), (4, .int v4)] [] T I291 L292 R P) ∧ (¬ r286 = r290 → P 0 (.int (0 : Int32)) T I291 L292 R))))))) : zAW (mL_law x9) 404 b 1056 [(0, .ref 1), (1, .ref v1), (2, .ref v2), (3, .ref v3), (4, .int v4)] [] T I L R P := by
  refine za_aload_n (pc' := 1057) 1 dL_law_1056 rfl rfl rfl ?_
  refine za_aload_n (pc' := 1058) 0 dL_law_1057 rfl rfl rfl ?_
  refine za_iload (pc' := 1060) 4 dL_law_1058 rfl rfl ?_
  refine za_iconst (pc' := 1061) dL_law_1060 zi_1 rfl ?_
  refine za_iadd (pc' := 1062) dL_law_1061 rfl ?_
  obtain ⟨hi284, h⟩ := h
  refine za_scrAt (pc' := 1063) dL_law_1062 rfl hi284 rfl rfl ?_
  refine za_aload_n (pc' := 1064) 0 dL_law_1063 rfl rfl rfl ?_
  refine za_iload (pc' := 1066) 4 dL_law_1064 rfl rfl ?_
  refine za_iconst (pc' := 1067) dL_law_1066 zi_2 rfl ?_
  refine za_iadd (pc' := 1068) dL_law_1067 rfl ?_
  obtain ⟨hi285, h⟩ := h
  refine za_scrAt (pc' := 1069) dL_law_1068 rfl hi285 rfl rfl ?_
  obtain ⟨ht289, h⟩ := h
  refine za_callV (κ := v1) (M2 := mX1_told) (d2 := 7) (b2 := 0) (n := 2) (As := [.int (x9.2 (v4 + (1 : Int32)).toNatClampNeg), .int (x9.2 (v4 + (2 : Int32)).toNatClampNeg)]) (st := []) (pc' := 1072) zc0 (by decide) ht289 dL_law_1069 rfl (lw_V q1290 q1291 q1292 q131 q1293) ⟨rfl, hd_X1_told⟩ rfl (by decide) (by decide) (Nat.zero_le _) (Or.inl rfl) (Nat.le_of_ble_eq_true rfl) h (zqI_IL_k rfl (fun r286 I287 L288 h => ?_)) (fun _ _ _ _ _ _ h9 h8 => absurd h8.1 h9) rfl
  refine za_aload_n (pc' := 1073) 2 dL_law_1072 rfl rfl rfl ?_
  refine za_aload_n (pc' := 1074) 0 dL_law_1073 rfl rfl rfl ?_
  refine za_iload (pc' := 1076) 4 dL_law_1074 rfl rfl ?_
  refine za_iconst (pc' := 1077) dL_law_1076 zi_1 rfl ?_
  refine za_iadd (pc' := 1078) dL_law_1077 rfl ?_
  refine za_scrAt (pc' := 1079) dL_law_1078 rfl hi284 rfl rfl ?_
  refine za_aload_n (pc' := 1080) 0 dL_law_1079 rfl rfl rfl ?_
  refine za_iload (pc' := 1082) 4 dL_law_1080 rfl rfl ?_
  refine za_iconst (pc' := 1083) dL_law_1082 zi_2 rfl ?_
  refine za_iadd (pc' := 1084) dL_law_1083 rfl ?_
  refine za_scrAt (pc' := 1085) dL_law_1084 rfl hi285 rfl rfl ?_
  obtain ⟨ht293, h⟩ := h
  refine za_callV (κ := v2) (M2 := mX13_told) (d2 := 6) (b2 := 0) (n := 2) (As := [.int (x9.2 (v4 + (1 : Int32)).toNatClampNeg), .int (x9.2 (v4 + (2 : Int32)).toNatClampNeg)]) (st := [.int r286]) (pc' := 1088) zc12 (by decide) ht293 dL_law_1085 rfl (lw_V q2149 q2150 q2151 q148 q2152) ⟨rfl, hd_X13_told⟩ rfl (by decide) (by decide) (Nat.zero_le _) (Or.inl rfl) (Nat.le_of_ble_eq_true rfl) h (zqI_IL_k rfl (fun r290 I291 L292 h => ?_)) (fun _ _ _ _ _ _ h9 h8 => absurd h8.1 h9) rfl
  refine za_icmp_eq (pc' := 1091) (tgt := 1307) dL_law_1088 (by decide) rfl (fun c9 => ?_) (fun c9 => ?_)
  · replace h := h.1 c9
    exact zAW_sub [0, 1, 2, 3, 4] rfl h
  · replace h := h.2 c9
    refine za_iconst (pc' := 1092) dL_law_1091 zi_0 rfl ?_
    exact za_zreturn rfl dL_law_1092 (by decide) h
theorem gL_law_1093 {x9 : Nat × (Nat → Int32)} {b : Nat} {v1 : Nat} {v2 : Nat} {v3 : Nat} {v4 : Int32} {T : zT} {I : zI} {L : zL} {R : zR} {P : zP} (h : vp_in (v4 + (1 : Int32)) (x9.1) ∧ (T v1).1 = 1 ∧ zMet mX1_sure 7 0 [.ref v1, .int (x9.2 (v4 + (1 : Int32)).toNatClampNeg)] T I L R (zqI_IL T R  (fun (r295 : Int32) (I296 : zI) (L297 : zL)  => (T v2).1 = 13 ∧ zMet mX13_sure 6 0 [.ref v2, .int (x9.2 (v4 + (1 : Int32)).toNatClampNeg)] T I296 L297 R (zqI_IL T R  (fun (r299 : Int32) (I300 : zI) (L301 : zL)  => ((r295 = r299 → zAW (mL_law x9) 404 ((b - 0) - 0) 1307 [(0, .ref 1), (1, .ref v1), (2, .ref v2), (3, .ref v3), (4, .int v4)] [] T I300 L301 R P) ∧ (¬ r295 = r299 → P 0 (.int (0 : Int32)) T I300 L301 R))))))) : zAW (mL_law x9) 404 b 1093 [(0, .ref 1), (1, .ref v1), (2, .ref v2), (3, .ref v3), (4, .int v4)] [] T I L R P := by
  refine za_aload_n (pc' := 1094) 1 dL_law_1093 rfl rfl rfl ?_
  refine za_aload_n (pc' := 1095) 0 dL_law_1094 rfl rfl rfl ?_
  refine za_iload (pc' := 1097) 4 dL_law_1095 rfl rfl ?_
  refine za_iconst (pc' := 1098) dL_law_1097 zi_1 rfl ?_
  refine za_iadd (pc' := 1099) dL_law_1098 rfl ?_
  obtain ⟨hi294, h⟩ := h
  refine za_scrAt (pc' := 1100) dL_law_1099 rfl hi294 rfl rfl ?_
  obtain ⟨ht298, h⟩ := h
  refine za_callV (κ := v1) (M2 := mX1_sure) (d2 := 7) (b2 := 0) (n := 1) (As := [.int (x9.2 (v4 + (1 : Int32)).toNatClampNeg)]) (st := []) (pc' := 1103) zc0 (by decide) ht298 dL_law_1100 rfl (lw_V q1302 q1303 q1304 q131 q1305) ⟨rfl, hd_X1_sure⟩ rfl (by decide) (by decide) (Nat.zero_le _) (Or.inl rfl) (Nat.le_of_ble_eq_true rfl) h (zqI_IL_k rfl (fun r295 I296 L297 h => ?_)) (fun _ _ _ _ _ _ h9 h8 => absurd h8.1 h9) rfl
  refine za_aload_n (pc' := 1104) 2 dL_law_1103 rfl rfl rfl ?_
  refine za_aload_n (pc' := 1105) 0 dL_law_1104 rfl rfl rfl ?_
  refine za_iload (pc' := 1107) 4 dL_law_1105 rfl rfl ?_
  refine za_iconst (pc' := 1108) dL_law_1107 zi_1 rfl ?_
  refine za_iadd (pc' := 1109) dL_law_1108 rfl ?_
  refine za_scrAt (pc' := 1110) dL_law_1109 rfl hi294 rfl rfl ?_
  obtain ⟨ht302, h⟩ := h
  refine za_callV (κ := v2) (M2 := mX13_sure) (d2 := 6) (b2 := 0) (n := 1) (As := [.int (x9.2 (v4 + (1 : Int32)).toNatClampNeg)]) (st := [.int r295]) (pc' := 1113) zc12 (by decide) ht302 dL_law_1110 rfl (lw_V q2161 q2162 q2163 q148 q2164) ⟨rfl, hd_X13_sure⟩ rfl (by decide) (by decide) (Nat.zero_le _) (Or.inl rfl) (Nat.le_of_ble_eq_true rfl) h (zqI_IL_k rfl (fun r299 I300 L301 h => ?_)) (fun _ _ _ _ _ _ h9 h8 => absurd h8.1 h9) rfl
  refine za_icmp_eq (pc' := 1116) (tgt := 1307) dL_law_1113 (by decide) rfl (fun c9 => ?_) (fun c9 => ?_)
  · replace h := h.1 c9
    exact zAW_sub [0, 1, 2, 3, 4] rfl h
  · replace h := h.2 c9
    refine za_iconst (pc' := 1117) dL_law_1116 zi_0 rfl ?_
    exact za_zreturn rfl dL_law_1117 (by decide) h
theorem gL_law_1118 {x9 : Nat × (Nat → Int32)} {b : Nat} {v1 : Nat} {v2 : Nat} {v3 : Nat} {v4 : Int32} {T : zT} {I : zI} {L : zL} {R : zR} {P : zP} (h : (T v1).1 = 1 ∧ zMet mX1_broken 6 0 [.ref v1] T I L R (zqI_I T L R  (fun (r303 : Int32) (I304 : zI)  => zAW (mL_law x9) 404 (b - 0) 1122 [(0, .ref 1), (1, .ref v1), (2, .ref v2), (3, .ref v3), (4, .int v4)] [.int r303] T I304 L R P))) : zAW (mL_law x9) 404 b 1118 [(0, .ref 1), (1, .ref v1), (2, .ref v2), (3, .ref v3), (4, .int v4)] [] T I L R P := by
  refine za_aload_n (pc' := 1119) 1 dL_law_1118 rfl rfl rfl ?_
  obtain ⟨ht305, h⟩ := h
  refine za_callV (κ := v1) (M2 := mX1_broken) (d2 := 6) (b2 := 0) (n := 0) (As := []) (st := []) (pc' := 1122) zc0 (by decide) ht305 dL_law_1119 rfl (lw_V q1312 q1313 q1314 q131 q1315) ⟨rfl, hd_X1_broken⟩ rfl (by decide) (by decide) (Nat.zero_le _) (Or.inl rfl) (Nat.le_of_ble_eq_true rfl) h (zqI_I_k rfl (fun r303 I304 h => ?_)) (fun _ _ _ _ _ _ h9 h8 => absurd h8.1 h9) rfl
  exact zAW_sub [0, 1, 2, 3, 4] rfl h
theorem gL_law_1122 {x9 : Nat × (Nat → Int32)} {b : Nat} {v1 : Nat} {v2 : Nat} {v3 : Nat} {v4 : Int32} {s0 : Int32} {T : zT} {I : zI} {L : zL} {R : zR} {P : zP} (h : (T v2).1 = 13 ∧ zMet mX13_broken 4 0 [.ref v2] T I L R (zqI_I T L R  (fun (r306 : Int32) (I307 : zI)  => ((s0 = r306 → zAW (mL_law x9) 404 (b - 0) 1307 [(0, .ref 1), (1, .ref v1), (2, .ref v2), (3, .ref v3), (4, .int v4)] [] T I307 L R P) ∧ (¬ s0 = r306 → P 0 (.int (0 : Int32)) T I307 L R))))) : zAW (mL_law x9) 404 b 1122 [(0, .ref 1), (1, .ref v1), (2, .ref v2), (3, .ref v3), (4, .int v4)] [.int s0] T I L R P := by
  refine za_aload_n (pc' := 1123) 2 dL_law_1122 rfl rfl rfl ?_
  obtain ⟨ht308, h⟩ := h
  refine za_callV (κ := v2) (M2 := mX13_broken) (d2 := 4) (b2 := 0) (n := 0) (As := []) (st := [.int s0]) (pc' := 1126) zc12 (by decide) ht308 dL_law_1123 rfl (lw_V q2165 q2166 q2167 q148 q2168) ⟨rfl, hd_X13_broken⟩ rfl (by decide) (by decide) (Nat.zero_le _) (Or.inl rfl) (Nat.le_of_ble_eq_true rfl) h (zqI_I_k rfl (fun r306 I307 h => ?_)) (fun _ _ _ _ _ _ h9 h8 => absurd h8.1 h9) rfl
  refine za_icmp_eq (pc' := 1129) (tgt := 1307) dL_law_1126 (by decide) rfl (fun c9 => ?_) (fun c9 => ?_)
  · replace h := h.1 c9
    exact zAW_sub [0, 1, 2, 3, 4] rfl h
  · replace h := h.2 c9
    refine za_iconst (pc' := 1130) dL_law_1129 zi_0 rfl ?_
    exact za_zreturn rfl dL_law_1130 (by decide) h
theorem gL_law_1131 {x9 : Nat × (Nat → Int32)} {b : Nat} {v1 : Nat} {v2 : Nat} {v3 : Nat} {v4 : Int32} {T : zT} {I : zI} {L : zL} {R : zR} {P : zP} (h : (T v1).1 = 1 ∧ zMet mX1_renamed 42 0 [.ref v1] T I L R (zqI_IL T R  (fun (r309 : Int32) (I310 : zI) (L311 : zL)  => (T v2).1 = 13 ∧ zMet mX13_renamed 6 0 [.ref v2] T I310 L311 R (zqI_IL T R  (fun (r313 : Int32) (I314 : zI) (L315 : zL)  => ((r309 = r313 → zAW (mL_law x9) 404 ((b - 0) - 0) 1307 [(0, .ref 1), (1, .ref v1), (2, .ref v2), (3, .ref v3), (4, .int v4)] [] T I314 L315 R P) ∧ (¬ r309 = r313 → P 0 (.int (0 : Int32)) T I314 L315 R))))))) : zAW (mL_law x9) 404 b 1131 [(0, .ref 1), (1, .ref v1), (2, .ref v2), (3, .ref v3), (4, .int v4)] [] T I L R P := by
  refine za_aload_n (pc' := 1132) 1 dL_law_1131 rfl rfl rfl ?_
  obtain ⟨ht312, h⟩ := h
  refine za_callV (κ := v1) (M2 := mX1_renamed) (d2 := 42) (b2 := 0) (n := 0) (As := []) (st := []) (pc' := 1135) zc0 (by decide) ht312 dL_law_1132 rfl (lw_V q1328 q1329 q1330 q131 q1331) ⟨rfl, hd_X1_renamed⟩ rfl (by decide) (by decide) (Nat.zero_le _) (Or.inl rfl) (Nat.le_of_ble_eq_true rfl) h (zqI_IL_k rfl (fun r309 I310 L311 h => ?_)) (fun _ _ _ _ _ _ h9 h8 => absurd h8.1 h9) rfl
  refine za_aload_n (pc' := 1136) 2 dL_law_1135 rfl rfl rfl ?_
  obtain ⟨ht316, h⟩ := h
  refine za_callV (κ := v2) (M2 := mX13_renamed) (d2 := 6) (b2 := 0) (n := 0) (As := []) (st := [.int r309]) (pc' := 1139) zc12 (by decide) ht316 dL_law_1136 rfl (lw_V q2185 q2186 q2187 q148 q2188) ⟨rfl, hd_X13_renamed⟩ rfl (by decide) (by decide) (Nat.zero_le _) (Or.inl rfl) (Nat.le_of_ble_eq_true rfl) h (zqI_IL_k rfl (fun r313 I314 L315 h => ?_)) (fun _ _ _ _ _ _ h9 h8 => absurd h8.1 h9) rfl
  refine za_icmp_eq (pc' := 1142) (tgt := 1307) dL_law_1139 (by decide) rfl (fun c9 => ?_) (fun c9 => ?_)
  · replace h := h.1 c9
    exact zAW_sub [0, 1, 2, 3, 4] rfl h
  · replace h := h.2 c9
    refine za_iconst (pc' := 1143) dL_law_1142 zi_0 rfl ?_
    exact za_zreturn rfl dL_law_1143 (by decide) h
theorem gL_law_1144 {x9 : Nat × (Nat → Int32)} {b : Nat} {v1 : Nat} {v2 : Nat} {v3 : Nat} {v4 : Int32} {T : zT} {I : zI} {L : zL} {R : zR} {P : zP} (h : vp_in (v4 + (1 : Int32)) (x9.1) ∧ (T v1).1 = 1 ∧ zMet mX1_renames 42 0 [.ref v1, .int (x9.2 (v4 + (1 : Int32)).toNatClampNeg)] T I L R (zqI_IL T R  (fun (r318 : Int32) (I319 : zI) (L320 : zL)  => (T v2).1 = 13 ∧ zMet mX13_renames 6 0 [.ref v2, .int (x9.2 (v4 + (1 : Int32)).toNatClampNeg)] T I319 L320 R (zqI_IL T R  (fun (r322 : Int32) (I323 : zI) (L324 : zL)  => ((r318 = r322 → zAW (mL_law x9) 404 ((b - 0) - 0) 1307 [(0, .ref 1), (1, .ref v1), (2, .ref v2), (3, .ref v3), (4, .int v4)] [] T I323 L324 R P) ∧ (¬ r318 = r322 → P 0 (.int (0 : Int32)) T I323 L324 R))))))) : zAW (mL_law x9) 404 b 1144 [(0, .ref 1), (1, .ref v1), (2, .ref v2), (3, .ref v3), (4, .int v4)] [] T I L R P := by
  refine za_aload_n (pc' := 1145) 1 dL_law_1144 rfl rfl rfl ?_
  refine za_aload_n (pc' := 1146) 0 dL_law_1145 rfl rfl rfl ?_
  refine za_iload (pc' := 1148) 4 dL_law_1146 rfl rfl ?_
  refine za_iconst (pc' := 1149) dL_law_1148 zi_1 rfl ?_
  refine za_iadd (pc' := 1150) dL_law_1149 rfl ?_
  obtain ⟨hi317, h⟩ := h
  refine za_scrAt (pc' := 1151) dL_law_1150 rfl hi317 rfl rfl ?_
  obtain ⟨ht321, h⟩ := h
  refine za_callV (κ := v1) (M2 := mX1_renames) (d2 := 42) (b2 := 0) (n := 1) (As := [.int (x9.2 (v4 + (1 : Int32)).toNatClampNeg)]) (st := []) (pc' := 1154) zc0 (by decide) ht321 dL_law_1151 rfl (lw_V q1344 q1345 q1346 q131 q1347) ⟨rfl, hd_X1_renames⟩ rfl (by decide) (by decide) (Nat.zero_le _) (Or.inl rfl) (Nat.le_of_ble_eq_true rfl) h (zqI_IL_k rfl (fun r318 I319 L320 h => ?_)) (fun _ _ _ _ _ _ h9 h8 => absurd h8.1 h9) rfl
  refine za_aload_n (pc' := 1155) 2 dL_law_1154 rfl rfl rfl ?_
  refine za_aload_n (pc' := 1156) 0 dL_law_1155 rfl rfl rfl ?_
  refine za_iload (pc' := 1158) 4 dL_law_1156 rfl rfl ?_
  refine za_iconst (pc' := 1159) dL_law_1158 zi_1 rfl ?_
  refine za_iadd (pc' := 1160) dL_law_1159 rfl ?_
  refine za_scrAt (pc' := 1161) dL_law_1160 rfl hi317 rfl rfl ?_
  obtain ⟨ht325, h⟩ := h
  refine za_callV (κ := v2) (M2 := mX13_renames) (d2 := 6) (b2 := 0) (n := 1) (As := [.int (x9.2 (v4 + (1 : Int32)).toNatClampNeg)]) (st := [.int r318]) (pc' := 1164) zc12 (by decide) ht325 dL_law_1161 rfl (lw_V q2205 q2206 q2207 q148 q2208) ⟨rfl, hd_X13_renames⟩ rfl (by decide) (by decide) (Nat.zero_le _) (Or.inl rfl) (Nat.le_of_ble_eq_true rfl) h (zqI_IL_k rfl (fun r322 I323 L324 h => ?_)) (fun _ _ _ _ _ _ h9 h8 => absurd h8.1 h9) rfl
  refine za_icmp_eq (pc' := 1167) (tgt := 1307) dL_law_1164 (by decide) rfl (fun c9 => ?_) (fun c9 => ?_)
  · replace h := h.1 c9
    exact zAW_sub [0, 1, 2, 3, 4] rfl h
  · replace h := h.2 c9
    refine za_iconst (pc' := 1168) dL_law_1167 zi_0 rfl ?_
    exact za_zreturn rfl dL_law_1168 (by decide) h
theorem gL_law_1169 {x9 : Nat × (Nat → Int32)} {b : Nat} {v1 : Nat} {v2 : Nat} {v3 : Nat} {v4 : Int32} {T : zT} {I : zI} {L : zL} {R : zR} {P : zP} (h : vp_in (v4 + (1 : Int32)) (x9.1) ∧ vp_in (v4 + (2 : Int32)) (x9.1) ∧ (T v1).1 = 1 ∧ zMet mX1_fine 202 0 [.ref v1, .int (x9.2 (v4 + (1 : Int32)).toNatClampNeg), .int (x9.2 (v4 + (2 : Int32)).toNatClampNeg)] T I L R (zqI_IL T R  (fun (r328 : Int32) (I329 : zI) (L330 : zL)  => (T v2).1 = 13 ∧ zMet mX13_fine 7 0 [.ref v2, .int (x9.2 (v4 + (1 : Int32)).toNatClampNeg), .int (x9.2 (v4 + (2 : Int32)).toNatClampNeg)] T I329 L330 R (zqI_IL T R  (fun (r332 : Int32) (I333 : zI) (L334 : zL)  => ((r328 = r332 → zAW (mL_law x9) 404 ((b - 0) - 0) 1307 [(0, .ref 1), (1, .ref v1), (2, .ref v2), (3, .ref v3), (4, .int v4)] [] T I333 L334 R P) ∧ (¬ r328 = r332 → P 0 (.int (0 : Int32)) T I333 L334 R))))))) : zAW (mL_law x9) 404 b 1169 [(0, .ref 1), (1, .ref v1), (2, .ref v2), (3, .ref v3), (4, .int v4)] [] T I L R P := by
  refine za_aload_n (pc' := 1170) 1 dL_law_1169 rfl rfl rfl ?_
  refine za_aload_n (pc' := 1171) 0 dL_law_1170 rfl rfl rfl ?_
  refine za_iload (pc' := 1173) 4 dL_law_1171 rfl rfl ?_
  refine za_iconst (pc' := 1174) dL_law_1173 zi_1 rfl ?_
  refine za_iadd (pc' := 1175) dL_law_1174 rfl ?_
  obtain ⟨hi326, h⟩ := h
  refine za_scrAt (pc' := 1176) dL_law_1175 rfl hi326 rfl rfl ?_
  refine za_aload_n (pc' := 1177) 0 dL_law_1176 rfl rfl rfl ?_
  refine za_iload (pc' := 1179) 4 dL_law_1177 rfl rfl ?_
  refine za_iconst (pc' := 1180) dL_law_1179 zi_2 rfl ?_
  refine za_iadd (pc' := 1181) dL_law_1180 rfl ?_
  obtain ⟨hi327, h⟩ := h
  refine za_scrAt (pc' := 1182) dL_law_1181 rfl hi327 rfl rfl ?_
  obtain ⟨ht331, h⟩ := h
  refine za_callV (κ := v1) (M2 := mX1_fine) (d2 := 202) (b2 := 0) (n := 2) (As := [.int (x9.2 (v4 + (1 : Int32)).toNatClampNeg), .int (x9.2 (v4 + (2 : Int32)).toNatClampNeg)]) (st := []) (pc' := 1185) zc0 (by decide) ht331 dL_law_1182 rfl (lw_V q1348 q1349 q1350 q131 q1351) ⟨rfl, hd_X1_fine⟩ rfl (by decide) (by decide) (Nat.zero_le _) (Or.inl rfl) (Nat.le_of_ble_eq_true rfl) h (zqI_IL_k rfl (fun r328 I329 L330 h => ?_)) (fun _ _ _ _ _ _ h9 h8 => absurd h8.1 h9) rfl
  refine za_aload_n (pc' := 1186) 2 dL_law_1185 rfl rfl rfl ?_
  refine za_aload_n (pc' := 1187) 0 dL_law_1186 rfl rfl rfl ?_
  refine za_iload (pc' := 1189) 4 dL_law_1187 rfl rfl ?_
  refine za_iconst (pc' := 1190) dL_law_1189 zi_1 rfl ?_
  refine za_iadd (pc' := 1191) dL_law_1190 rfl ?_
  refine za_scrAt (pc' := 1192) dL_law_1191 rfl hi326 rfl rfl ?_
  refine za_aload_n (pc' := 1193) 0 dL_law_1192 rfl rfl rfl ?_
  refine za_iload (pc' := 1195) 4 dL_law_1193 rfl rfl ?_
  refine za_iconst (pc' := 1196) dL_law_1195 zi_2 rfl ?_
  refine za_iadd (pc' := 1197) dL_law_1196 rfl ?_
  refine za_scrAt (pc' := 1198) dL_law_1197 rfl hi327 rfl rfl ?_
  obtain ⟨ht335, h⟩ := h
  refine za_callV (κ := v2) (M2 := mX13_fine) (d2 := 7) (b2 := 0) (n := 2) (As := [.int (x9.2 (v4 + (1 : Int32)).toNatClampNeg), .int (x9.2 (v4 + (2 : Int32)).toNatClampNeg)]) (st := [.int r328]) (pc' := 1201) zc12 (by decide) ht335 dL_law_1198 rfl (lw_V q2209 q2210 q2211 q148 q2212) ⟨rfl, hd_X13_fine⟩ rfl (by decide) (by decide) (Nat.zero_le _) (Or.inl rfl) (Nat.le_of_ble_eq_true rfl) h (zqI_IL_k rfl (fun r332 I333 L334 h => ?_)) (fun _ _ _ _ _ _ h9 h8 => absurd h8.1 h9) rfl
  refine za_icmp_eq (pc' := 1204) (tgt := 1307) dL_law_1201 (by decide) rfl (fun c9 => ?_) (fun c9 => ?_)
  · replace h := h.1 c9
    exact zAW_sub [0, 1, 2, 3, 4] rfl h
  · replace h := h.2 c9
    refine za_iconst (pc' := 1205) dL_law_1204 zi_0 rfl ?_
    exact za_zreturn rfl dL_law_1205 (by decide) h
theorem gL_law_1206 {x9 : Nat × (Nat → Int32)} {b : Nat} {v1 : Nat} {v2 : Nat} {v3 : Nat} {v4 : Int32} {T : zT} {I : zI} {L : zL} {R : zR} {P : zP} (h : vp_in (v4 + (1 : Int32)) (x9.1) ∧ vp_in (v4 + (2 : Int32)) (x9.1) ∧ (T v1).1 = 1 ∧ zMet mX1_bought 202 0 [.ref v1, .int (x9.2 (v4 + (1 : Int32)).toNatClampNeg), .int (x9.2 (v4 + (2 : Int32)).toNatClampNeg)] T I L R (zqI_IL T R  (fun (r338 : Int32) (I339 : zI) (L340 : zL)  => zAW (mL_law x9) 404 (b - 0) 1222 [(0, .ref 1), (1, .ref v1), (2, .ref v2), (3, .ref v3), (4, .int v4)] [.int r338] T I339 L340 R P))) : zAW (mL_law x9) 404 b 1206 [(0, .ref 1), (1, .ref v1), (2, .ref v2), (3, .ref v3), (4, .int v4)] [] T I L R P := by
  refine za_aload_n (pc' := 1207) 1 dL_law_1206 rfl rfl rfl ?_
  refine za_aload_n (pc' := 1208) 0 dL_law_1207 rfl rfl rfl ?_
  refine za_iload (pc' := 1210) 4 dL_law_1208 rfl rfl ?_
  refine za_iconst (pc' := 1211) dL_law_1210 zi_1 rfl ?_
  refine za_iadd (pc' := 1212) dL_law_1211 rfl ?_
  obtain ⟨hi336, h⟩ := h
  refine za_scrAt (pc' := 1213) dL_law_1212 rfl hi336 rfl rfl ?_
  refine za_aload_n (pc' := 1214) 0 dL_law_1213 rfl rfl rfl ?_
  refine za_iload (pc' := 1216) 4 dL_law_1214 rfl rfl ?_
  refine za_iconst (pc' := 1217) dL_law_1216 zi_2 rfl ?_
  refine za_iadd (pc' := 1218) dL_law_1217 rfl ?_
  obtain ⟨hi337, h⟩ := h
  refine za_scrAt (pc' := 1219) dL_law_1218 rfl hi337 rfl rfl ?_
  obtain ⟨ht341, h⟩ := h
  refine za_callV (κ := v1) (M2 := mX1_bought) (d2 := 202) (b2 := 0) (n := 2) (As := [.int (x9.2 (v4 + (1 : Int32)).toNatClampNeg), .int (x9.2 (v4 + (2 : Int32)).toNatClampNeg)]) (st := []) (pc' := 1222) zc0 (by decide) ht341 dL_law_1219 rfl (lw_V q1407 q1408 q1409 q131 q1410) ⟨rfl, hd_X1_bought⟩ rfl (by decide) (by decide) (Nat.zero_le _) (Or.inl rfl) (Nat.le_of_ble_eq_true rfl) h (zqI_IL_k rfl (fun r338 I339 L340 h => ?_)) (fun _ _ _ _ _ _ h9 h8 => absurd h8.1 h9) rfl
  exact zAW_sub [0, 1, 2, 3, 4] rfl h
theorem gL_law_1222 {x9 : Nat × (Nat → Int32)} {b : Nat} {v1 : Nat} {v2 : Nat} {v3 : Nat} {v4 : Int32} {s0 : Int32} {T : zT} {I : zI} {L : zL} {R : zR} {P : zP} (h : vp_in (v4 + (1 : Int32)) (x9.1) ∧ vp_in (v4 + (2 : Int32)) (x9.1) ∧ (T v2).1 = 13 ∧ zMet mX13_bought 7 0 [.ref v2, .int (x9.2 (v4 + (1 : Int32)).toNatClampNeg), .int (x9.2 (v4 + (2 : Int32)).toNatClampNeg)] T I L R (zqI_IL T R  (fun (r344 : Int32) (I345 : zI) (L346 : zL)  => ((s0 = r344 → zAW (mL_law x9) 404 (b - 0) 1307 [(0, .ref 1), (1, .ref v1), (2, .ref v2), (3, .ref v3), (4, .int v4)] [] T I345 L346 R P) ∧ (¬ s0 = r344 → P 0 (.int (0 : Int32)) T I345 L346 R))))) : zAW (mL_law x9) 404 b 1222 [(0, .ref 1), (1, .ref v1), (2, .ref v2), (3, .ref v3), (4, .int v4)] [.int s0] T I L R P := by
  refine za_aload_n (pc' := 1223) 2 dL_law_1222 rfl rfl rfl ?_
  refine za_aload_n (pc' := 1224) 0 dL_law_1223 rfl rfl rfl ?_
  refine za_iload (pc' := 1226) 4 dL_law_1224 rfl rfl ?_
  refine za_iconst (pc' := 1227) dL_law_1226 zi_1 rfl ?_
  refine za_iadd (pc' := 1228) dL_law_1227 rfl ?_
  obtain ⟨hi342, h⟩ := h
  refine za_scrAt (pc' := 1229) dL_law_1228 rfl hi342 rfl rfl ?_
  refine za_aload_n (pc' := 1230) 0 dL_law_1229 rfl rfl rfl ?_
  refine za_iload (pc' := 1232) 4 dL_law_1230 rfl rfl ?_
  refine za_iconst (pc' := 1233) dL_law_1232 zi_2 rfl ?_
  refine za_iadd (pc' := 1234) dL_law_1233 rfl ?_
  obtain ⟨hi343, h⟩ := h
  refine za_scrAt (pc' := 1235) dL_law_1234 rfl hi343 rfl rfl ?_
  obtain ⟨ht347, h⟩ := h
  refine za_callV (κ := v2) (M2 := mX13_bought) (d2 := 7) (b2 := 0) (n := 2) (As := [.int (x9.2 (v4 + (1 : Int32)).toNatClampNeg), .int (x9.2 (v4 + (2 : Int32)).toNatClampNeg)]) (st := [.int s0]) (pc' := 1238) zc12 (by decide) ht347 dL_law_1235 rfl (lw_V q2235 q2236 q2237 q148 q2238) ⟨rfl, hd_X13_bought⟩ rfl (by decide) (by decide) (Nat.zero_le _) (Or.inl rfl) (Nat.le_of_ble_eq_true rfl) h (zqI_IL_k rfl (fun r344 I345 L346 h => ?_)) (fun _ _ _ _ _ _ h9 h8 => absurd h8.1 h9) rfl
  refine za_icmp_eq (pc' := 1241) (tgt := 1307) dL_law_1238 (by decide) rfl (fun c9 => ?_) (fun c9 => ?_)
  · replace h := h.1 c9
    exact zAW_sub [0, 1, 2, 3, 4] rfl h
  · replace h := h.2 c9
    refine za_iconst (pc' := 1242) dL_law_1241 zi_0 rfl ?_
    exact za_zreturn rfl dL_law_1242 (by decide) h
theorem gL_law_1243 {x9 : Nat × (Nat → Int32)} {b : Nat} {v1 : Nat} {v2 : Nat} {v3 : Nat} {v4 : Int32} {T : zT} {I : zI} {L : zL} {R : zR} {P : zP} (h : (T v1).1 = 1 ∧ zMet mX1_undo 3 0 [.ref v1] T I L R (zqI_I T L R  (fun (r348 : Int32) (I349 : zI)  => (T v2).1 = 13 ∧ zMet mX13_undo 1 0 [.ref v2] T I349 L R (zqI_I T L R  (fun (r351 : Int32) (I352 : zI)  => ((r348 = r351 → zAW (mL_law x9) 404 ((b - 0) - 0) 1307 [(0, .ref 1), (1, .ref v1), (2, .ref v2), (3, .ref v3), (4, .int v4)] [] T I352 L R P) ∧ (¬ r348 = r351 → P 0 (.int (0 : Int32)) T I352 L R))))))) : zAW (mL_law x9) 404 b 1243 [(0, .ref 1), (1, .ref v1), (2, .ref v2), (3, .ref v3), (4, .int v4)] [] T I L R P := by
  refine za_aload_n (pc' := 1244) 1 dL_law_1243 rfl rfl rfl ?_
  obtain ⟨ht350, h⟩ := h
  refine za_callV (κ := v1) (M2 := mX1_undo) (d2 := 3) (b2 := 0) (n := 0) (As := []) (st := []) (pc' := 1247) zc0 (by decide) ht350 dL_law_1244 rfl (lw_V q1412 q1413 q1414 q131 q1415) ⟨rfl, hd_X1_undo⟩ rfl (by decide) (by decide) (Nat.zero_le _) (Or.inl rfl) (Nat.le_of_ble_eq_true rfl) h (zqI_I_k rfl (fun r348 I349 h => ?_)) (fun _ _ _ _ _ _ h9 h8 => absurd h8.1 h9) rfl
  refine za_aload_n (pc' := 1248) 2 dL_law_1247 rfl rfl rfl ?_
  obtain ⟨ht353, h⟩ := h
  refine za_callV (κ := v2) (M2 := mX13_undo) (d2 := 1) (b2 := 0) (n := 0) (As := []) (st := [.int r348]) (pc' := 1251) zc12 (by decide) ht353 dL_law_1248 rfl (lw_V q2054 q2055 q2056 q148 q2057) ⟨rfl, hd_X13_undo⟩ rfl (by decide) (by decide) (Nat.zero_le _) (Or.inl rfl) (Nat.le_of_ble_eq_true rfl) h (zqI_I_k rfl (fun r351 I352 h => ?_)) (fun _ _ _ _ _ _ h9 h8 => absurd h8.1 h9) rfl
  refine za_icmp_eq (pc' := 1254) (tgt := 1307) dL_law_1251 (by decide) rfl (fun c9 => ?_) (fun c9 => ?_)
  · replace h := h.1 c9
    exact zAW_sub [0, 1, 2, 3, 4] rfl h
  · replace h := h.2 c9
    refine za_iconst (pc' := 1255) dL_law_1254 zi_0 rfl ?_
    exact za_zreturn rfl dL_law_1255 (by decide) h
theorem gL_law_1256 {x9 : Nat × (Nat → Int32)} {b : Nat} {v1 : Nat} {v2 : Nat} {v3 : Nat} {v4 : Int32} {T : zT} {I : zI} {L : zL} {R : zR} {P : zP} (h : (T v1).1 = 1 ∧ zMet mX1_keep 3 0 [.ref v1] T I L R (zqI_I T L R  (fun (r354 : Int32) (I355 : zI)  => (T v2).1 = 13 ∧ zMet mX13_keep 1 0 [.ref v2] T I355 L R (zqI_IL T R  (fun (r357 : Int32) (I358 : zI) (L359 : zL)  => ((r354 = r357 → zAW (mL_law x9) 404 ((b - 0) - 0) 1307 [(0, .ref 1), (1, .ref v1), (2, .ref v2), (3, .ref v3), (4, .int v4)] [] T I358 L359 R P) ∧ (¬ r354 = r357 → P 0 (.int (0 : Int32)) T I358 L359 R))))))) : zAW (mL_law x9) 404 b 1256 [(0, .ref 1), (1, .ref v1), (2, .ref v2), (3, .ref v3), (4, .int v4)] [] T I L R P := by
  refine za_aload_n (pc' := 1257) 1 dL_law_1256 rfl rfl rfl ?_
  obtain ⟨ht356, h⟩ := h
  refine za_callV (κ := v1) (M2 := mX1_keep) (d2 := 3) (b2 := 0) (n := 0) (As := []) (st := []) (pc' := 1260) zc0 (by decide) ht356 dL_law_1257 rfl (lw_V q1416 q1417 q1418 q131 q1419) ⟨rfl, hd_X1_keep⟩ rfl (by decide) (by decide) (Nat.zero_le _) (Or.inl rfl) (Nat.le_of_ble_eq_true rfl) h (zqI_I_k rfl (fun r354 I355 h => ?_)) (fun _ _ _ _ _ _ h9 h8 => absurd h8.1 h9) rfl
  refine za_aload_n (pc' := 1261) 2 dL_law_1260 rfl rfl rfl ?_
  obtain ⟨ht360, h⟩ := h
  refine za_callV (κ := v2) (M2 := mX13_keep) (d2 := 1) (b2 := 0) (n := 0) (As := []) (st := [.int r354]) (pc' := 1264) zc12 (by decide) ht360 dL_law_1261 rfl (lw_V q2242 q2243 q2244 q148 q2245) ⟨rfl, hd_X13_keep⟩ rfl (by decide) (by decide) (Nat.zero_le _) (Or.inl rfl) (Nat.le_of_ble_eq_true rfl) h (zqI_IL_k rfl (fun r357 I358 L359 h => ?_)) (fun _ _ _ _ _ _ h9 h8 => absurd h8.1 h9) rfl
  refine za_icmp_eq (pc' := 1267) (tgt := 1307) dL_law_1264 (by decide) rfl (fun c9 => ?_) (fun c9 => ?_)
  · replace h := h.1 c9
    exact zAW_sub [0, 1, 2, 3, 4] rfl h
  · replace h := h.2 c9
    refine za_iconst (pc' := 1268) dL_law_1267 zi_0 rfl ?_
    exact za_zreturn rfl dL_law_1268 (by decide) h
theorem gL_law_1269 {x9 : Nat × (Nat → Int32)} {b : Nat} {v1 : Nat} {v2 : Nat} {v3 : Nat} {v4 : Int32} {T : zT} {I : zI} {L : zL} {R : zR} {P : zP} (h : (T v1).1 = 1 ∧ zMet mX1_back 3 0 [.ref v1] T I L R (zqI_I T L R  (fun (r361 : Int32) (I362 : zI)  => (T v2).1 = 13 ∧ zMet mX13_back 1 0 [.ref v2] T I362 L R (zqI_IL T R  (fun (r364 : Int32) (I365 : zI) (L366 : zL)  => ((r361 = r364 → zAW (mL_law x9) 404 ((b - 0) - 0) 1307 [(0, .ref 1), (1, .ref v1), (2, .ref v2), (3, .ref v3), (4, .int v4)] [] T I365 L366 R P) ∧ (¬ r361 = r364 → P 0 (.int (0 : Int32)) T I365 L366 R))))))) : zAW (mL_law x9) 404 b 1269 [(0, .ref 1), (1, .ref v1), (2, .ref v2), (3, .ref v3), (4, .int v4)] [] T I L R P := by
  refine za_aload_n (pc' := 1270) 1 dL_law_1269 rfl rfl rfl ?_
  obtain ⟨ht363, h⟩ := h
  refine za_callV (κ := v1) (M2 := mX1_back) (d2 := 3) (b2 := 0) (n := 0) (As := []) (st := []) (pc' := 1273) zc0 (by decide) ht363 dL_law_1270 rfl (lw_V q1420 q1421 q1422 q131 q1423) ⟨rfl, hd_X1_back⟩ rfl (by decide) (by decide) (Nat.zero_le _) (Or.inl rfl) (Nat.le_of_ble_eq_true rfl) h (zqI_I_k rfl (fun r361 I362 h => ?_)) (fun _ _ _ _ _ _ h9 h8 => absurd h8.1 h9) rfl
  refine za_aload_n (pc' := 1274) 2 dL_law_1273 rfl rfl rfl ?_
  obtain ⟨ht367, h⟩ := h
  refine za_callV (κ := v2) (M2 := mX13_back) (d2 := 1) (b2 := 0) (n := 0) (As := []) (st := [.int r361]) (pc' := 1277) zc12 (by decide) ht367 dL_law_1274 rfl (lw_V q2246 q2247 q2248 q148 q2249) ⟨rfl, hd_X13_back⟩ rfl (by decide) (by decide) (Nat.zero_le _) (Or.inl rfl) (Nat.le_of_ble_eq_true rfl) h (zqI_IL_k rfl (fun r364 I365 L366 h => ?_)) (fun _ _ _ _ _ _ h9 h8 => absurd h8.1 h9) rfl
  refine za_icmp_eq (pc' := 1280) (tgt := 1307) dL_law_1277 (by decide) rfl (fun c9 => ?_) (fun c9 => ?_)
  · replace h := h.1 c9
    exact zAW_sub [0, 1, 2, 3, 4] rfl h
  · replace h := h.2 c9
    refine za_iconst (pc' := 1281) dL_law_1280 zi_0 rfl ?_
    exact za_zreturn rfl dL_law_1281 (by decide) h
theorem gL_law_1282 {x9 : Nat × (Nat → Int32)} {b : Nat} {v1 : Nat} {v2 : Nat} {v3 : Nat} {v4 : Int32} {T : zT} {I : zI} {L : zL} {R : zR} {P : zP} (h : vp_in (v4 + (1 : Int32)) (x9.1) ∧ (T v1).1 = 1 ∧ zMet mX1_count 2 0 [.ref v1, .int (x9.2 (v4 + (1 : Int32)).toNatClampNeg)] T I L R (zqI_ T I L R  (fun (r369 : Int32)  => zAW (mL_law x9) 404 (b - 0) 1292 [(0, .ref 1), (1, .ref v1), (2, .ref v2), (3, .ref v3), (4, .int v4)] [.int r369] T I L R P))) : zAW (mL_law x9) 404 b 1282 [(0, .ref 1), (1, .ref v1), (2, .ref v2), (3, .ref v3), (4, .int v4)] [] T I L R P := by
  refine za_aload_n (pc' := 1283) 1 dL_law_1282 rfl rfl rfl ?_
  refine za_aload_n (pc' := 1284) 0 dL_law_1283 rfl rfl rfl ?_
  refine za_iload (pc' := 1286) 4 dL_law_1284 rfl rfl ?_
  refine za_iconst (pc' := 1287) dL_law_1286 zi_1 rfl ?_
  refine za_iadd (pc' := 1288) dL_law_1287 rfl ?_
  obtain ⟨hi368, h⟩ := h
  refine za_scrAt (pc' := 1289) dL_law_1288 rfl hi368 rfl rfl ?_
  obtain ⟨ht370, h⟩ := h
  refine za_callV (κ := v1) (M2 := mX1_count) (d2 := 2) (b2 := 0) (n := 1) (As := [.int (x9.2 (v4 + (1 : Int32)).toNatClampNeg)]) (st := []) (pc' := 1292) zc0 (by decide) ht370 dL_law_1289 rfl (lw_V q1424 q1425 q1426 q131 q1427) ⟨rfl, hd_X1_count⟩ rfl (by decide) (by decide) (Nat.zero_le _) (Or.inl rfl) (Nat.le_of_ble_eq_true rfl) h (zqI__k rfl (fun r369 h => ?_)) (fun _ _ _ _ _ _ h9 h8 => absurd h8.1 h9) rfl
  exact zAW_sub [0, 1, 2, 3, 4] rfl h
theorem gL_law_1292 {x9 : Nat × (Nat → Int32)} {b : Nat} {v1 : Nat} {v2 : Nat} {v3 : Nat} {v4 : Int32} {s0 : Int32} {T : zT} {I : zI} {L : zL} {R : zR} {P : zP} (h : vp_in (v4 + (1 : Int32)) (x9.1) ∧ (T v2).1 = 13 ∧ zMet mX13_count 3 0 [.ref v2, .int (x9.2 (v4 + (1 : Int32)).toNatClampNeg)] T I L R (zqI_I T L R  (fun (r372 : Int32) (I373 : zI)  => ((s0 = r372 → zAW (mL_law x9) 404 (b - 0) 1307 [(0, .ref 1), (1, .ref v1), (2, .ref v2), (3, .ref v3), (4, .int v4)] [] T I373 L R P) ∧ (¬ s0 = r372 → P 0 (.int (0 : Int32)) T I373 L R))))) : zAW (mL_law x9) 404 b 1292 [(0, .ref 1), (1, .ref v1), (2, .ref v2), (3, .ref v3), (4, .int v4)] [.int s0] T I L R P := by
  refine za_aload_n (pc' := 1293) 2 dL_law_1292 rfl rfl rfl ?_
  refine za_aload_n (pc' := 1294) 0 dL_law_1293 rfl rfl rfl ?_
  refine za_iload (pc' := 1296) 4 dL_law_1294 rfl rfl ?_
  refine za_iconst (pc' := 1297) dL_law_1296 zi_1 rfl ?_
  refine za_iadd (pc' := 1298) dL_law_1297 rfl ?_
  obtain ⟨hi371, h⟩ := h
  refine za_scrAt (pc' := 1299) dL_law_1298 rfl hi371 rfl rfl ?_
  obtain ⟨ht374, h⟩ := h
  refine za_callV (κ := v2) (M2 := mX13_count) (d2 := 3) (b2 := 0) (n := 1) (As := [.int (x9.2 (v4 + (1 : Int32)).toNatClampNeg)]) (st := [.int s0]) (pc' := 1302) zc12 (by decide) ht374 dL_law_1299 rfl (lw_V q2250 q2251 q2252 q148 q2253) ⟨rfl, hd_X13_count⟩ rfl (by decide) (by decide) (Nat.zero_le _) (Or.inl rfl) (Nat.le_of_ble_eq_true rfl) h (zqI_I_k rfl (fun r372 I373 h => ?_)) (fun _ _ _ _ _ _ h9 h8 => absurd h8.1 h9) rfl
  refine za_icmp_eq (pc' := 1305) (tgt := 1307) dL_law_1302 (by decide) rfl (fun c9 => ?_) (fun c9 => ?_)
  · replace h := h.1 c9
    exact zAW_sub [0, 1, 2, 3, 4] rfl h
  · replace h := h.2 c9
    refine za_iconst (pc' := 1306) dL_law_1305 zi_0 rfl ?_
    exact za_zreturn rfl dL_law_1306 (by decide) h
theorem gL_law_1307 {x9 : Nat × (Nat → Int32)} {b : Nat} {v1 : Nat} {v2 : Nat} {v3 : Nat} {v4 : Int32} {T : zT} {I : zI} {L : zL} {R : zR} {P : zP} (h : zAW (mL_law x9) 404 b 23 [(0, .ref 1), (1, .ref v1), (2, .ref v2), (3, .ref v3), (4, .int (v4 + (6 : Int32)))] [] T I L R P) : zAW (mL_law x9) 404 b 1307 [(0, .ref 1), (1, .ref v1), (2, .ref v2), (3, .ref v3), (4, .int v4)] [] T I L R P := by
  refine za_iinc (pc' := 1310) (l' := [(4, .int (v4 + (6 : Int32))), (0, .ref 1), (1, .ref v1), (2, .ref v2), (3, .ref v3)]) 4 dL_law_1307 rfl (zinc zi_6) (Nat.le_of_ble_eq_true rfl) rfl rfl ?_
  refine za_goto (tgt := 23) dL_law_1310 (by decide) ?_
  exact zAW_sub [1, 2, 3, 4, 0] rfl h
