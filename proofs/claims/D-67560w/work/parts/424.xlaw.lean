/-! what methods do, written by wip/D-67560w/tools/gen_parts.py -/
set_option maxRecDepth 100000
set_option maxHeartbeats 4000000
/-! 0 PathStoreLaw.law ([I)Z -/
def w0_38 : List UInt8 := [47, 21, 6, 133, 148, 153, 0, 5, 3, 172, 167, 0, 3, 132, 4, 6, 167, 252, 92, 4, 172]
abbrev u0_38 : List UInt8 := w0_38 ++ []
def w0_37 : List UInt8 := [46, 182, 0, 134, 54, 6, 44, 182, 0, 82, 21, 5, 159, 0, 5, 3, 172, 21, 5, 154, 0, 15, 45, 3]
abbrev u0_37 : List UInt8 := w0_37 ++ u0_38
def w0_36 : List UInt8 := [3, 172, 167, 0, 59, 43, 42, 21, 4, 4, 96, 46, 45, 184, 0, 132, 54, 5, 44, 42, 21, 4, 4, 96]
abbrev u0_36 : List UInt8 := w0_36 ++ u0_37
def w0_35 : List UInt8 := [182, 0, 82, 21, 5, 159, 0, 5, 3, 172, 21, 5, 154, 0, 14, 45, 3, 47, 22, 6, 148, 153, 0, 5]
abbrev u0_35 : List UInt8 := w0_35 ++ u0_36
def w0_34 : List UInt8 := [21, 4, 4, 96, 46, 45, 184, 0, 129, 54, 5, 44, 42, 21, 4, 4, 96, 46, 182, 0, 131, 55, 6, 44]
abbrev u0_34 : List UInt8 := w0_34 ++ u0_35
def w0_33 : List UInt8 := [159, 0, 5, 3, 172, 167, 0, 127, 43, 182, 0, 125, 44, 182, 0, 128, 159, 0, 116, 3, 172, 43, 42]
abbrev u0_33 : List UInt8 := w0_33 ++ u0_34
def w0_32 : List UInt8 := [46, 184, 0, 122, 54, 5, 44, 42, 21, 4, 4, 96, 46, 182, 0, 124, 44, 182, 0, 82, 21, 5]
abbrev u0_32 : List UInt8 := w0_32 ++ u0_33
def w0_31 : List UInt8 := [154, 0, 15, 45, 3, 47, 21, 6, 133, 148, 153, 0, 5, 3, 172, 167, 0, 163, 43, 42, 21, 4, 4, 96]
abbrev u0_31 : List UInt8 := w0_31 ++ u0_32
def w0_30 : List UInt8 := [21, 4, 5, 96, 46, 182, 0, 121, 54, 6, 44, 182, 0, 82, 21, 5, 159, 0, 5, 3, 172, 21, 5]
abbrev u0_30 : List UInt8 := w0_30 ++ u0_31
def w0_29 : List UInt8 := [4, 96, 46, 42, 21, 4, 5, 96, 46, 45, 184, 0, 119, 54, 5, 44, 42, 21, 4, 4, 96, 46, 42]
abbrev u0_29 : List UInt8 := w0_29 ++ u0_30
def w0_28 : List UInt8 := [4, 96, 46, 182, 0, 118, 44, 182, 0, 82, 21, 5, 159, 0, 5, 3, 172, 167, 0, 231, 43, 42, 21, 4]
abbrev u0_28 : List UInt8 := w0_28 ++ u0_29
def w0_27 : List UInt8 := [153, 0, 5, 3, 172, 167, 1, 11, 43, 42, 21, 4, 4, 96, 46, 184, 0, 116, 54, 5, 44, 42, 21, 4]
abbrev u0_27 : List UInt8 := w0_27 ++ u0_28
def w0_26 : List UInt8 := [182, 0, 82, 21, 5, 159, 0, 5, 3, 172, 21, 5, 154, 0, 15, 45, 3, 47, 21, 6, 133, 148]
abbrev u0_26 : List UInt8 := w0_26 ++ u0_27
def w0_25 : List UInt8 := [4, 96, 46, 45, 184, 0, 113, 54, 5, 44, 42, 21, 4, 4, 96, 46, 182, 0, 115, 54, 6, 44]
abbrev u0_25 : List UInt8 := w0_25 ++ u0_26
def w0_24 : List UInt8 := [4, 96, 46, 182, 0, 112, 44, 182, 0, 82, 21, 5, 159, 0, 5, 3, 172, 167, 1, 67, 43, 42, 21, 4]
abbrev u0_24 : List UInt8 := w0_24 ++ u0_25
def w0_23 : List UInt8 := [159, 0, 5, 3, 172, 167, 1, 103, 43, 42, 21, 4, 4, 96, 46, 184, 0, 110, 54, 5, 44, 42, 21, 4]
abbrev u0_23 : List UInt8 := w0_23 ++ u0_24
def w0_22 : List UInt8 := [46, 184, 0, 106, 54, 5, 44, 42, 21, 4, 4, 96, 46, 182, 0, 109, 44, 182, 0, 82, 21, 5]
abbrev u0_22 : List UInt8 := w0_22 ++ u0_23
def w0_21 : List UInt8 := [154, 0, 15, 45, 3, 47, 21, 6, 133, 148, 153, 0, 5, 3, 172, 167, 1, 139, 43, 42, 21, 4, 4, 96]
abbrev u0_21 : List UInt8 := w0_21 ++ u0_22
def w0_20 : List UInt8 := [21, 4, 4, 96, 46, 182, 0, 105, 54, 6, 44, 182, 0, 82, 21, 5, 159, 0, 5, 3, 172, 21, 5]
abbrev u0_20 : List UInt8 := w0_20 ++ u0_21
def w0_19 : List UInt8 := [148, 153, 0, 5, 3, 172, 167, 1, 195, 43, 42, 21, 4, 4, 96, 46, 45, 184, 0, 103, 54, 5, 44, 42]
abbrev u0_19 : List UInt8 := w0_19 ++ u0_20
def w0_18 : List UInt8 := [54, 6, 44, 182, 0, 82, 21, 5, 159, 0, 5, 3, 172, 21, 5, 154, 0, 15, 45, 3, 47, 21, 6, 133]
abbrev u0_18 : List UInt8 := w0_18 ++ u0_19
def w0_17 : List UInt8 := [21, 6, 133, 148, 153, 0, 5, 3, 172, 167, 1, 239, 43, 45, 184, 0, 99, 54, 5, 44, 182, 0, 102]
abbrev u0_17 : List UInt8 := w0_17 ++ u0_18
def w0_16 : List UInt8 := [182, 0, 98, 54, 6, 44, 182, 0, 82, 21, 5, 159, 0, 5, 3, 172, 21, 5, 154, 0, 15, 45, 3, 47]
abbrev u0_16 : List UInt8 := w0_16 ++ u0_17
def w0_15 : List UInt8 := [167, 2, 39, 43, 42, 21, 4, 4, 96, 46, 45, 184, 0, 96, 54, 5, 44, 42, 21, 4, 4, 96, 46]
abbrev u0_15 : List UInt8 := w0_15 ++ u0_16
def w0_14 : List UInt8 := [159, 0, 5, 3, 172, 21, 5, 154, 0, 15, 45, 3, 47, 21, 6, 133, 148, 153, 0, 5, 3, 172]
abbrev u0_14 : List UInt8 := w0_14 ++ u0_15
def w0_13 : List UInt8 := [21, 4, 4, 96, 46, 42, 21, 4, 5, 96, 46, 182, 0, 95, 54, 6, 44, 182, 0, 82, 21, 5]
abbrev u0_13 : List UInt8 := w0_13 ++ u0_14
def w0_12 : List UInt8 := [167, 2, 107, 43, 42, 21, 4, 4, 96, 46, 42, 21, 4, 5, 96, 46, 45, 184, 0, 92, 54, 5, 44, 42]
abbrev u0_12 : List UInt8 := w0_12 ++ u0_13
def w0_11 : List UInt8 := [21, 5, 159, 0, 5, 3, 172, 21, 5, 154, 0, 15, 45, 3, 47, 21, 6, 133, 148, 153, 0, 5, 3, 172]
abbrev u0_11 : List UInt8 := w0_11 ++ u0_12
def w0_10 : List UInt8 := [46, 45, 184, 0, 89, 54, 5, 44, 42, 21, 4, 4, 96, 46, 182, 0, 91, 54, 6, 44, 182, 0, 82]
abbrev u0_10 : List UInt8 := w0_10 ++ u0_11
def w0_9 : List UInt8 := [154, 0, 15, 45, 3, 47, 21, 6, 133, 148, 153, 0, 5, 3, 172, 167, 2, 163, 43, 42, 21, 4, 4, 96]
abbrev u0_9 : List UInt8 := w0_9 ++ u0_10
def w0_8 : List UInt8 := [21, 4, 4, 96, 46, 182, 0, 88, 54, 6, 44, 182, 0, 82, 21, 5, 159, 0, 5, 3, 172, 21, 5]
abbrev u0_8 : List UInt8 := w0_8 ++ u0_9
def w0_7 : List UInt8 := [148, 153, 0, 5, 3, 172, 167, 2, 219, 43, 42, 21, 4, 4, 96, 46, 45, 184, 0, 85, 54, 5, 44, 42]
abbrev u0_7 : List UInt8 := w0_7 ++ u0_8
def w0_6 : List UInt8 := [54, 6, 44, 182, 0, 82, 21, 5, 159, 0, 5, 3, 172, 21, 5, 154, 0, 15, 45, 3, 47, 21, 6, 133]
abbrev u0_6 : List UInt8 := w0_6 ++ u0_7
def w0_5 : List UInt8 := [96, 46, 42, 21, 4, 6, 96, 46, 42, 21, 4, 7, 96, 46, 42, 21, 4, 8, 96, 46, 182, 0, 81]
abbrev u0_5 : List UInt8 := w0_5 ++ u0_6
def w0_4 : List UInt8 := [46, 42, 21, 4, 8, 96, 46, 45, 184, 0, 76, 54, 5, 44, 42, 21, 4, 4, 96, 46, 42, 21, 4, 5]
abbrev u0_4 : List UInt8 := w0_4 ++ u0_5
def w0_3 : List UInt8 := [43, 42, 21, 4, 4, 96, 46, 42, 21, 4, 5, 96, 46, 42, 21, 4, 6, 96, 46, 42, 21, 4, 7, 96]
abbrev u0_3 : List UInt8 := w0_3 ++ u0_4
def w0_2 : List UInt8 := [170, 0, 0, 0, 0, 0, 3, 144, 0, 0, 0, 0, 0, 0, 0, 15, 0, 0, 0, 80, 0, 0, 0, 184, 0, 0, 0, 240, 0, 0, 1, 40, 0, 0, 1, 108, 0, 0, 1, 164, 0, 0, 1, 208, 0, 0, 2, 8, 0, 0, 2, 44, 0, 0, 2, 80, 0, 0, 2, 136, 0, 0, 2, 172, 0, 0, 2, 240, 0, 0, 3, 20, 0, 0, 3, 33, 0, 0, 3, 88]
abbrev u0_2 : List UInt8 := w0_2 ++ u0_3
def w0_1 : List UInt8 := [21, 4, 42, 190, 16, 6, 100, 163, 3, 160, 42, 21, 4, 46, 16, 15, 126]
abbrev u0_1 : List UInt8 := w0_1 ++ u0_2
def w0_0 : List UInt8 := [187, 0, 8, 89, 183, 0, 72, 76, 187, 0, 73, 89, 183, 0, 75, 77, 4, 188, 11, 78, 3, 54, 4]
abbrev u0_0 : List UInt8 := w0_0 ++ u0_1
theorem s0_0 : (code).data.toList.drop 0 = u0_0 := by decide +kernel
theorem s0_1 : (code).data.toList.drop 23 = u0_1 := dk_seg s0_0 23 rfl rfl
theorem s0_2 : (code).data.toList.drop 40 = u0_2 := dk_seg s0_1 17 rfl rfl
theorem s0_3 : (code).data.toList.drop 120 = u0_3 := dk_seg s0_2 80 rfl rfl
theorem s0_4 : (code).data.toList.drop 144 = u0_4 := dk_seg s0_3 24 rfl rfl
theorem s0_5 : (code).data.toList.drop 168 = u0_5 := dk_seg s0_4 24 rfl rfl
theorem s0_6 : (code).data.toList.drop 191 = u0_6 := dk_seg s0_5 23 rfl rfl
theorem s0_7 : (code).data.toList.drop 215 = u0_7 := dk_seg s0_6 24 rfl rfl
theorem s0_8 : (code).data.toList.drop 239 = u0_8 := dk_seg s0_7 24 rfl rfl
theorem s0_9 : (code).data.toList.drop 262 = u0_9 := dk_seg s0_8 23 rfl rfl
theorem s0_10 : (code).data.toList.drop 286 = u0_10 := dk_seg s0_9 24 rfl rfl
theorem s0_11 : (code).data.toList.drop 309 = u0_11 := dk_seg s0_10 23 rfl rfl
theorem s0_12 : (code).data.toList.drop 333 = u0_12 := dk_seg s0_11 24 rfl rfl
theorem s0_13 : (code).data.toList.drop 357 = u0_13 := dk_seg s0_12 24 rfl rfl
theorem s0_14 : (code).data.toList.drop 379 = u0_14 := dk_seg s0_13 22 rfl rfl
theorem s0_15 : (code).data.toList.drop 401 = u0_15 := dk_seg s0_14 22 rfl rfl
theorem s0_16 : (code).data.toList.drop 424 = u0_16 := dk_seg s0_15 23 rfl rfl
theorem s0_17 : (code).data.toList.drop 448 = u0_17 := dk_seg s0_16 24 rfl rfl
theorem s0_18 : (code).data.toList.drop 471 = u0_18 := dk_seg s0_17 23 rfl rfl
theorem s0_19 : (code).data.toList.drop 495 = u0_19 := dk_seg s0_18 24 rfl rfl
theorem s0_20 : (code).data.toList.drop 519 = u0_20 := dk_seg s0_19 24 rfl rfl
theorem s0_21 : (code).data.toList.drop 542 = u0_21 := dk_seg s0_20 23 rfl rfl
theorem s0_22 : (code).data.toList.drop 566 = u0_22 := dk_seg s0_21 24 rfl rfl
theorem s0_23 : (code).data.toList.drop 588 = u0_23 := dk_seg s0_22 22 rfl rfl
theorem s0_24 : (code).data.toList.drop 612 = u0_24 := dk_seg s0_23 24 rfl rfl
theorem s0_25 : (code).data.toList.drop 636 = u0_25 := dk_seg s0_24 24 rfl rfl
theorem s0_26 : (code).data.toList.drop 658 = u0_26 := dk_seg s0_25 22 rfl rfl
theorem s0_27 : (code).data.toList.drop 680 = u0_27 := dk_seg s0_26 22 rfl rfl
theorem s0_28 : (code).data.toList.drop 704 = u0_28 := dk_seg s0_27 24 rfl rfl
theorem s0_29 : (code).data.toList.drop 728 = u0_29 := dk_seg s0_28 24 rfl rfl
theorem s0_30 : (code).data.toList.drop 751 = u0_30 := dk_seg s0_29 23 rfl rfl
theorem s0_31 : (code).data.toList.drop 774 = u0_31 := dk_seg s0_30 23 rfl rfl
theorem s0_32 : (code).data.toList.drop 798 = u0_32 := dk_seg s0_31 24 rfl rfl
theorem s0_33 : (code).data.toList.drop 820 = u0_33 := dk_seg s0_32 22 rfl rfl
theorem s0_34 : (code).data.toList.drop 843 = u0_34 := dk_seg s0_33 23 rfl rfl
theorem s0_35 : (code).data.toList.drop 867 = u0_35 := dk_seg s0_34 24 rfl rfl
theorem s0_36 : (code).data.toList.drop 891 = u0_36 := dk_seg s0_35 24 rfl rfl
theorem s0_37 : (code).data.toList.drop 915 = u0_37 := dk_seg s0_36 24 rfl rfl
theorem s0_38 : (code).data.toList.drop 939 = u0_38 := dk_seg s0_37 24 rfl rfl
theorem Fm0 {pc len : Nat} {i : Instr} (h : decode (code) pc = .ok (i, len)) (hl : len = ilen i len) : ft 0 pc = some (0, 4, 0, i, len) := ft_mk rfl h hl
theorem f0_0 : ft 0 0 = some (0, 4, 0, .new 8, 3) := Fm0 (dk_187 0 8 (dk_at s0_0 0 rfl rfl)) rfl
theorem f0_3 : ft 0 3 = some (0, 4, 0, .dup, 1) := Fm0 (dk_89 (dk_at s0_0 3 rfl rfl)) rfl
theorem f0_4 : ft 0 4 = some (0, 4, 0, .invokespecial 72, 3) := Fm0 (dk_183 0 72 (dk_at s0_0 4 rfl rfl)) rfl
theorem f0_7 : ft 0 7 = some (0, 4, 0, .astore_n 1, 1) := Fm0 (dk_76 (dk_at s0_0 7 rfl rfl)) rfl
theorem f0_8 : ft 0 8 = some (0, 4, 0, .new 73, 3) := Fm0 (dk_187 0 73 (dk_at s0_0 8 rfl rfl)) rfl
theorem f0_11 : ft 0 11 = some (0, 4, 0, .dup, 1) := Fm0 (dk_89 (dk_at s0_0 11 rfl rfl)) rfl
theorem f0_12 : ft 0 12 = some (0, 4, 0, .invokespecial 75, 3) := Fm0 (dk_183 0 75 (dk_at s0_0 12 rfl rfl)) rfl
theorem f0_15 : ft 0 15 = some (0, 4, 0, .astore_n 2, 1) := Fm0 (dk_77 (dk_at s0_0 15 rfl rfl)) rfl
theorem f0_16 : ft 0 16 = some (0, 4, 0, .iconst 1, 1) := Fm0 (dk_4 (dk_at s0_0 16 rfl rfl)) rfl
theorem f0_17 : ft 0 17 = some (0, 4, 0, .newarray .long, 2) := Fm0 (dk_188_11 (dk_at s0_0 17 rfl rfl)) rfl
theorem f0_19 : ft 0 19 = some (0, 4, 0, .astore_n 3, 1) := Fm0 (dk_78 (dk_at s0_0 19 rfl rfl)) rfl
theorem f0_20 : ft 0 20 = some (0, 4, 0, .iconst 0, 1) := Fm0 (dk_3 (dk_at s0_0 20 rfl rfl)) rfl
theorem f0_21 : ft 0 21 = some (0, 4, 0, .istore 4, 2) := Fm0 (dk_54 4 (dk_at s0_0 21 rfl rfl)) rfl
theorem f0_23 : ft 0 23 = some (0, 4, 0, .iload 4, 2) := Fm0 (dk_21 4 (dk_at s0_1 0 rfl rfl)) rfl
theorem f0_25 : ft 0 25 = some (0, 4, 0, .aload_n 0, 1) := Fm0 (dk_42 (dk_at s0_1 2 rfl rfl)) rfl
theorem f0_26 : ft 0 26 = some (0, 4, 0, .arraylength, 1) := Fm0 (dk_190 (dk_at s0_1 3 rfl rfl)) rfl
theorem f0_27 : ft 0 27 = some (0, 4, 0, .bipush 6, 2) := Fm0 (dk_16 6 (dk_at s0_1 4 rfl rfl)) rfl
theorem f0_29 : ft 0 29 = some (0, 4, 0, .isub, 1) := Fm0 (dk_100 (dk_at s0_1 6 rfl rfl)) rfl
theorem f0_30 : ft 0 30 = some (0, 4, 0, .if_icmp .gt 928, 3) := Fm0 (dk_163 3 160 (dk_at s0_1 7 rfl rfl)) rfl
theorem f0_33 : ft 0 33 = some (0, 4, 0, .aload_n 0, 1) := Fm0 (dk_42 (dk_at s0_1 10 rfl rfl)) rfl
theorem f0_34 : ft 0 34 = some (0, 4, 0, .iload 4, 2) := Fm0 (dk_21 4 (dk_at s0_1 11 rfl rfl)) rfl
theorem f0_36 : ft 0 36 = some (0, 4, 0, .iaload, 1) := Fm0 (dk_46 (dk_at s0_1 13 rfl rfl)) rfl
theorem f0_37 : ft 0 37 = some (0, 4, 0, .bipush 15, 2) := Fm0 (dk_16 15 (dk_at s0_1 14 rfl rfl)) rfl
theorem f0_39 : ft 0 39 = some (0, 4, 0, .iand, 1) := Fm0 (dk_126 (dk_at s0_1 16 rfl rfl)) rfl
theorem f0_40 : ft 0 40 = some (0, 4, 0, .tableswitch 912 0 15 #[80, 184, 240, 296, 364, 420, 464, 520, 556, 592, 648, 684, 752, 788, 801, 856], 80) := Fm0 (by decide +kernel) rfl
theorem f0_120 : ft 0 120 = some (0, 4, 0, .aload_n 1, 1) := Fm0 (dk_43 (dk_at s0_3 0 rfl rfl)) rfl
theorem f0_121 : ft 0 121 = some (0, 4, 0, .aload_n 0, 1) := Fm0 (dk_42 (dk_at s0_3 1 rfl rfl)) rfl
theorem f0_122 : ft 0 122 = some (0, 4, 0, .iload 4, 2) := Fm0 (dk_21 4 (dk_at s0_3 2 rfl rfl)) rfl
theorem f0_124 : ft 0 124 = some (0, 4, 0, .iconst 1, 1) := Fm0 (dk_4 (dk_at s0_3 4 rfl rfl)) rfl
theorem f0_125 : ft 0 125 = some (0, 4, 0, .iadd, 1) := Fm0 (dk_96 (dk_at s0_3 5 rfl rfl)) rfl
theorem f0_126 : ft 0 126 = some (0, 4, 0, .iaload, 1) := Fm0 (dk_46 (dk_at s0_3 6 rfl rfl)) rfl
theorem f0_127 : ft 0 127 = some (0, 4, 0, .aload_n 0, 1) := Fm0 (dk_42 (dk_at s0_3 7 rfl rfl)) rfl
theorem f0_128 : ft 0 128 = some (0, 4, 0, .iload 4, 2) := Fm0 (dk_21 4 (dk_at s0_3 8 rfl rfl)) rfl
theorem f0_130 : ft 0 130 = some (0, 4, 0, .iconst 2, 1) := Fm0 (dk_5 (dk_at s0_3 10 rfl rfl)) rfl
theorem f0_131 : ft 0 131 = some (0, 4, 0, .iadd, 1) := Fm0 (dk_96 (dk_at s0_3 11 rfl rfl)) rfl
theorem f0_132 : ft 0 132 = some (0, 4, 0, .iaload, 1) := Fm0 (dk_46 (dk_at s0_3 12 rfl rfl)) rfl
theorem f0_133 : ft 0 133 = some (0, 4, 0, .aload_n 0, 1) := Fm0 (dk_42 (dk_at s0_3 13 rfl rfl)) rfl
theorem f0_134 : ft 0 134 = some (0, 4, 0, .iload 4, 2) := Fm0 (dk_21 4 (dk_at s0_3 14 rfl rfl)) rfl
theorem f0_136 : ft 0 136 = some (0, 4, 0, .iconst 3, 1) := Fm0 (dk_6 (dk_at s0_3 16 rfl rfl)) rfl
theorem f0_137 : ft 0 137 = some (0, 4, 0, .iadd, 1) := Fm0 (dk_96 (dk_at s0_3 17 rfl rfl)) rfl
theorem f0_138 : ft 0 138 = some (0, 4, 0, .iaload, 1) := Fm0 (dk_46 (dk_at s0_3 18 rfl rfl)) rfl
theorem f0_139 : ft 0 139 = some (0, 4, 0, .aload_n 0, 1) := Fm0 (dk_42 (dk_at s0_3 19 rfl rfl)) rfl
theorem f0_140 : ft 0 140 = some (0, 4, 0, .iload 4, 2) := Fm0 (dk_21 4 (dk_at s0_3 20 rfl rfl)) rfl
theorem f0_142 : ft 0 142 = some (0, 4, 0, .iconst 4, 1) := Fm0 (dk_7 (dk_at s0_3 22 rfl rfl)) rfl
theorem f0_143 : ft 0 143 = some (0, 4, 0, .iadd, 1) := Fm0 (dk_96 (dk_at s0_3 23 rfl rfl)) rfl
theorem f0_144 : ft 0 144 = some (0, 4, 0, .iaload, 1) := Fm0 (dk_46 (dk_at s0_4 0 rfl rfl)) rfl
theorem f0_145 : ft 0 145 = some (0, 4, 0, .aload_n 0, 1) := Fm0 (dk_42 (dk_at s0_4 1 rfl rfl)) rfl
theorem f0_146 : ft 0 146 = some (0, 4, 0, .iload 4, 2) := Fm0 (dk_21 4 (dk_at s0_4 2 rfl rfl)) rfl
theorem f0_148 : ft 0 148 = some (0, 4, 0, .iconst 5, 1) := Fm0 (dk_8 (dk_at s0_4 4 rfl rfl)) rfl
theorem f0_149 : ft 0 149 = some (0, 4, 0, .iadd, 1) := Fm0 (dk_96 (dk_at s0_4 5 rfl rfl)) rfl
theorem f0_150 : ft 0 150 = some (0, 4, 0, .iaload, 1) := Fm0 (dk_46 (dk_at s0_4 6 rfl rfl)) rfl
theorem f0_151 : ft 0 151 = some (0, 4, 0, .aload_n 3, 1) := Fm0 (dk_45 (dk_at s0_4 7 rfl rfl)) rfl
theorem f0_152 : ft 0 152 = some (0, 4, 0, .invokestatic 76, 3) := Fm0 (dk_184 0 76 (dk_at s0_4 8 rfl rfl)) rfl
theorem f0_155 : ft 0 155 = some (0, 4, 0, .istore 5, 2) := Fm0 (dk_54 5 (dk_at s0_4 11 rfl rfl)) rfl
theorem f0_157 : ft 0 157 = some (0, 4, 0, .aload_n 2, 1) := Fm0 (dk_44 (dk_at s0_4 13 rfl rfl)) rfl
theorem f0_158 : ft 0 158 = some (0, 4, 0, .aload_n 0, 1) := Fm0 (dk_42 (dk_at s0_4 14 rfl rfl)) rfl
theorem f0_159 : ft 0 159 = some (0, 4, 0, .iload 4, 2) := Fm0 (dk_21 4 (dk_at s0_4 15 rfl rfl)) rfl
theorem f0_161 : ft 0 161 = some (0, 4, 0, .iconst 1, 1) := Fm0 (dk_4 (dk_at s0_4 17 rfl rfl)) rfl
theorem f0_162 : ft 0 162 = some (0, 4, 0, .iadd, 1) := Fm0 (dk_96 (dk_at s0_4 18 rfl rfl)) rfl
theorem f0_163 : ft 0 163 = some (0, 4, 0, .iaload, 1) := Fm0 (dk_46 (dk_at s0_4 19 rfl rfl)) rfl
theorem f0_164 : ft 0 164 = some (0, 4, 0, .aload_n 0, 1) := Fm0 (dk_42 (dk_at s0_4 20 rfl rfl)) rfl
theorem f0_165 : ft 0 165 = some (0, 4, 0, .iload 4, 2) := Fm0 (dk_21 4 (dk_at s0_4 21 rfl rfl)) rfl
theorem f0_167 : ft 0 167 = some (0, 4, 0, .iconst 2, 1) := Fm0 (dk_5 (dk_at s0_4 23 rfl rfl)) rfl
theorem f0_168 : ft 0 168 = some (0, 4, 0, .iadd, 1) := Fm0 (dk_96 (dk_at s0_5 0 rfl rfl)) rfl
theorem f0_169 : ft 0 169 = some (0, 4, 0, .iaload, 1) := Fm0 (dk_46 (dk_at s0_5 1 rfl rfl)) rfl
theorem f0_170 : ft 0 170 = some (0, 4, 0, .aload_n 0, 1) := Fm0 (dk_42 (dk_at s0_5 2 rfl rfl)) rfl
theorem f0_171 : ft 0 171 = some (0, 4, 0, .iload 4, 2) := Fm0 (dk_21 4 (dk_at s0_5 3 rfl rfl)) rfl
theorem f0_173 : ft 0 173 = some (0, 4, 0, .iconst 3, 1) := Fm0 (dk_6 (dk_at s0_5 5 rfl rfl)) rfl
theorem f0_174 : ft 0 174 = some (0, 4, 0, .iadd, 1) := Fm0 (dk_96 (dk_at s0_5 6 rfl rfl)) rfl
theorem f0_175 : ft 0 175 = some (0, 4, 0, .iaload, 1) := Fm0 (dk_46 (dk_at s0_5 7 rfl rfl)) rfl
theorem f0_176 : ft 0 176 = some (0, 4, 0, .aload_n 0, 1) := Fm0 (dk_42 (dk_at s0_5 8 rfl rfl)) rfl
theorem f0_177 : ft 0 177 = some (0, 4, 0, .iload 4, 2) := Fm0 (dk_21 4 (dk_at s0_5 9 rfl rfl)) rfl
theorem f0_179 : ft 0 179 = some (0, 4, 0, .iconst 4, 1) := Fm0 (dk_7 (dk_at s0_5 11 rfl rfl)) rfl
theorem f0_180 : ft 0 180 = some (0, 4, 0, .iadd, 1) := Fm0 (dk_96 (dk_at s0_5 12 rfl rfl)) rfl
theorem f0_181 : ft 0 181 = some (0, 4, 0, .iaload, 1) := Fm0 (dk_46 (dk_at s0_5 13 rfl rfl)) rfl
theorem f0_182 : ft 0 182 = some (0, 4, 0, .aload_n 0, 1) := Fm0 (dk_42 (dk_at s0_5 14 rfl rfl)) rfl
theorem f0_183 : ft 0 183 = some (0, 4, 0, .iload 4, 2) := Fm0 (dk_21 4 (dk_at s0_5 15 rfl rfl)) rfl
theorem f0_185 : ft 0 185 = some (0, 4, 0, .iconst 5, 1) := Fm0 (dk_8 (dk_at s0_5 17 rfl rfl)) rfl
theorem f0_186 : ft 0 186 = some (0, 4, 0, .iadd, 1) := Fm0 (dk_96 (dk_at s0_5 18 rfl rfl)) rfl
theorem f0_187 : ft 0 187 = some (0, 4, 0, .iaload, 1) := Fm0 (dk_46 (dk_at s0_5 19 rfl rfl)) rfl
theorem f0_188 : ft 0 188 = some (0, 4, 0, .invokevirtual 81, 3) := Fm0 (dk_182 0 81 (dk_at s0_5 20 rfl rfl)) rfl
theorem f0_191 : ft 0 191 = some (0, 4, 0, .istore 6, 2) := Fm0 (dk_54 6 (dk_at s0_6 0 rfl rfl)) rfl
theorem f0_193 : ft 0 193 = some (0, 4, 0, .aload_n 2, 1) := Fm0 (dk_44 (dk_at s0_6 2 rfl rfl)) rfl
theorem f0_194 : ft 0 194 = some (0, 4, 0, .invokevirtual 82, 3) := Fm0 (dk_182 0 82 (dk_at s0_6 3 rfl rfl)) rfl
theorem f0_197 : ft 0 197 = some (0, 4, 0, .iload 5, 2) := Fm0 (dk_21 5 (dk_at s0_6 6 rfl rfl)) rfl
theorem f0_199 : ft 0 199 = some (0, 4, 0, .if_icmp .eq 5, 3) := Fm0 (dk_159 0 5 (dk_at s0_6 8 rfl rfl)) rfl
theorem f0_202 : ft 0 202 = some (0, 4, 0, .iconst 0, 1) := Fm0 (dk_3 (dk_at s0_6 11 rfl rfl)) rfl
theorem f0_203 : ft 0 203 = some (0, 4, 0, .ireturn, 1) := Fm0 (dk_172 (dk_at s0_6 12 rfl rfl)) rfl
theorem f0_204 : ft 0 204 = some (0, 4, 0, .iload 5, 2) := Fm0 (dk_21 5 (dk_at s0_6 13 rfl rfl)) rfl
theorem f0_206 : ft 0 206 = some (0, 4, 0, .ifCond .ne 15, 3) := Fm0 (dk_154 0 15 (dk_at s0_6 15 rfl rfl)) rfl
theorem f0_209 : ft 0 209 = some (0, 4, 0, .aload_n 3, 1) := Fm0 (dk_45 (dk_at s0_6 18 rfl rfl)) rfl
theorem f0_210 : ft 0 210 = some (0, 4, 0, .iconst 0, 1) := Fm0 (dk_3 (dk_at s0_6 19 rfl rfl)) rfl
theorem f0_211 : ft 0 211 = some (0, 4, 0, .laload, 1) := Fm0 (dk_47 (dk_at s0_6 20 rfl rfl)) rfl
theorem f0_212 : ft 0 212 = some (0, 4, 0, .iload 6, 2) := Fm0 (dk_21 6 (dk_at s0_6 21 rfl rfl)) rfl
theorem f0_214 : ft 0 214 = some (0, 4, 0, .i2l, 1) := Fm0 (dk_133 (dk_at s0_6 23 rfl rfl)) rfl
theorem f0_215 : ft 0 215 = some (0, 4, 0, .lcmp, 1) := Fm0 (dk_148 (dk_at s0_7 0 rfl rfl)) rfl
theorem f0_216 : ft 0 216 = some (0, 4, 0, .ifCond .eq 5, 3) := Fm0 (dk_153 0 5 (dk_at s0_7 1 rfl rfl)) rfl
theorem f0_219 : ft 0 219 = some (0, 4, 0, .iconst 0, 1) := Fm0 (dk_3 (dk_at s0_7 4 rfl rfl)) rfl
theorem f0_220 : ft 0 220 = some (0, 4, 0, .ireturn, 1) := Fm0 (dk_172 (dk_at s0_7 5 rfl rfl)) rfl
theorem f0_221 : ft 0 221 = some (0, 4, 0, .goto 731, 3) := Fm0 (dk_167 2 219 (dk_at s0_7 6 rfl rfl)) rfl
theorem f0_224 : ft 0 224 = some (0, 4, 0, .aload_n 1, 1) := Fm0 (dk_43 (dk_at s0_7 9 rfl rfl)) rfl
theorem f0_225 : ft 0 225 = some (0, 4, 0, .aload_n 0, 1) := Fm0 (dk_42 (dk_at s0_7 10 rfl rfl)) rfl
theorem f0_226 : ft 0 226 = some (0, 4, 0, .iload 4, 2) := Fm0 (dk_21 4 (dk_at s0_7 11 rfl rfl)) rfl
theorem f0_228 : ft 0 228 = some (0, 4, 0, .iconst 1, 1) := Fm0 (dk_4 (dk_at s0_7 13 rfl rfl)) rfl
theorem f0_229 : ft 0 229 = some (0, 4, 0, .iadd, 1) := Fm0 (dk_96 (dk_at s0_7 14 rfl rfl)) rfl
theorem f0_230 : ft 0 230 = some (0, 4, 0, .iaload, 1) := Fm0 (dk_46 (dk_at s0_7 15 rfl rfl)) rfl
theorem f0_231 : ft 0 231 = some (0, 4, 0, .aload_n 3, 1) := Fm0 (dk_45 (dk_at s0_7 16 rfl rfl)) rfl
theorem f0_232 : ft 0 232 = some (0, 4, 0, .invokestatic 85, 3) := Fm0 (dk_184 0 85 (dk_at s0_7 17 rfl rfl)) rfl
theorem f0_235 : ft 0 235 = some (0, 4, 0, .istore 5, 2) := Fm0 (dk_54 5 (dk_at s0_7 20 rfl rfl)) rfl
theorem f0_237 : ft 0 237 = some (0, 4, 0, .aload_n 2, 1) := Fm0 (dk_44 (dk_at s0_7 22 rfl rfl)) rfl
theorem f0_238 : ft 0 238 = some (0, 4, 0, .aload_n 0, 1) := Fm0 (dk_42 (dk_at s0_7 23 rfl rfl)) rfl
theorem f0_239 : ft 0 239 = some (0, 4, 0, .iload 4, 2) := Fm0 (dk_21 4 (dk_at s0_8 0 rfl rfl)) rfl
theorem f0_241 : ft 0 241 = some (0, 4, 0, .iconst 1, 1) := Fm0 (dk_4 (dk_at s0_8 2 rfl rfl)) rfl
theorem f0_242 : ft 0 242 = some (0, 4, 0, .iadd, 1) := Fm0 (dk_96 (dk_at s0_8 3 rfl rfl)) rfl
theorem f0_243 : ft 0 243 = some (0, 4, 0, .iaload, 1) := Fm0 (dk_46 (dk_at s0_8 4 rfl rfl)) rfl
theorem f0_244 : ft 0 244 = some (0, 4, 0, .invokevirtual 88, 3) := Fm0 (dk_182 0 88 (dk_at s0_8 5 rfl rfl)) rfl
theorem f0_247 : ft 0 247 = some (0, 4, 0, .istore 6, 2) := Fm0 (dk_54 6 (dk_at s0_8 8 rfl rfl)) rfl
theorem f0_249 : ft 0 249 = some (0, 4, 0, .aload_n 2, 1) := Fm0 (dk_44 (dk_at s0_8 10 rfl rfl)) rfl
theorem f0_250 : ft 0 250 = some (0, 4, 0, .invokevirtual 82, 3) := Fm0 (dk_182 0 82 (dk_at s0_8 11 rfl rfl)) rfl
theorem f0_253 : ft 0 253 = some (0, 4, 0, .iload 5, 2) := Fm0 (dk_21 5 (dk_at s0_8 14 rfl rfl)) rfl
theorem f0_255 : ft 0 255 = some (0, 4, 0, .if_icmp .eq 5, 3) := Fm0 (dk_159 0 5 (dk_at s0_8 16 rfl rfl)) rfl
theorem f0_258 : ft 0 258 = some (0, 4, 0, .iconst 0, 1) := Fm0 (dk_3 (dk_at s0_8 19 rfl rfl)) rfl
theorem f0_259 : ft 0 259 = some (0, 4, 0, .ireturn, 1) := Fm0 (dk_172 (dk_at s0_8 20 rfl rfl)) rfl
theorem f0_260 : ft 0 260 = some (0, 4, 0, .iload 5, 2) := Fm0 (dk_21 5 (dk_at s0_8 21 rfl rfl)) rfl
theorem f0_262 : ft 0 262 = some (0, 4, 0, .ifCond .ne 15, 3) := Fm0 (dk_154 0 15 (dk_at s0_9 0 rfl rfl)) rfl
theorem f0_265 : ft 0 265 = some (0, 4, 0, .aload_n 3, 1) := Fm0 (dk_45 (dk_at s0_9 3 rfl rfl)) rfl
theorem f0_266 : ft 0 266 = some (0, 4, 0, .iconst 0, 1) := Fm0 (dk_3 (dk_at s0_9 4 rfl rfl)) rfl
theorem f0_267 : ft 0 267 = some (0, 4, 0, .laload, 1) := Fm0 (dk_47 (dk_at s0_9 5 rfl rfl)) rfl
theorem f0_268 : ft 0 268 = some (0, 4, 0, .iload 6, 2) := Fm0 (dk_21 6 (dk_at s0_9 6 rfl rfl)) rfl
theorem f0_270 : ft 0 270 = some (0, 4, 0, .i2l, 1) := Fm0 (dk_133 (dk_at s0_9 8 rfl rfl)) rfl
theorem f0_271 : ft 0 271 = some (0, 4, 0, .lcmp, 1) := Fm0 (dk_148 (dk_at s0_9 9 rfl rfl)) rfl
theorem f0_272 : ft 0 272 = some (0, 4, 0, .ifCond .eq 5, 3) := Fm0 (dk_153 0 5 (dk_at s0_9 10 rfl rfl)) rfl
theorem f0_275 : ft 0 275 = some (0, 4, 0, .iconst 0, 1) := Fm0 (dk_3 (dk_at s0_9 13 rfl rfl)) rfl
theorem f0_276 : ft 0 276 = some (0, 4, 0, .ireturn, 1) := Fm0 (dk_172 (dk_at s0_9 14 rfl rfl)) rfl
theorem f0_277 : ft 0 277 = some (0, 4, 0, .goto 675, 3) := Fm0 (dk_167 2 163 (dk_at s0_9 15 rfl rfl)) rfl
theorem f0_280 : ft 0 280 = some (0, 4, 0, .aload_n 1, 1) := Fm0 (dk_43 (dk_at s0_9 18 rfl rfl)) rfl
theorem f0_281 : ft 0 281 = some (0, 4, 0, .aload_n 0, 1) := Fm0 (dk_42 (dk_at s0_9 19 rfl rfl)) rfl
theorem f0_282 : ft 0 282 = some (0, 4, 0, .iload 4, 2) := Fm0 (dk_21 4 (dk_at s0_9 20 rfl rfl)) rfl
theorem f0_284 : ft 0 284 = some (0, 4, 0, .iconst 1, 1) := Fm0 (dk_4 (dk_at s0_9 22 rfl rfl)) rfl
theorem f0_285 : ft 0 285 = some (0, 4, 0, .iadd, 1) := Fm0 (dk_96 (dk_at s0_9 23 rfl rfl)) rfl
theorem f0_286 : ft 0 286 = some (0, 4, 0, .iaload, 1) := Fm0 (dk_46 (dk_at s0_10 0 rfl rfl)) rfl
theorem f0_287 : ft 0 287 = some (0, 4, 0, .aload_n 3, 1) := Fm0 (dk_45 (dk_at s0_10 1 rfl rfl)) rfl
theorem f0_288 : ft 0 288 = some (0, 4, 0, .invokestatic 89, 3) := Fm0 (dk_184 0 89 (dk_at s0_10 2 rfl rfl)) rfl
theorem f0_291 : ft 0 291 = some (0, 4, 0, .istore 5, 2) := Fm0 (dk_54 5 (dk_at s0_10 5 rfl rfl)) rfl
theorem f0_293 : ft 0 293 = some (0, 4, 0, .aload_n 2, 1) := Fm0 (dk_44 (dk_at s0_10 7 rfl rfl)) rfl
theorem f0_294 : ft 0 294 = some (0, 4, 0, .aload_n 0, 1) := Fm0 (dk_42 (dk_at s0_10 8 rfl rfl)) rfl
theorem f0_295 : ft 0 295 = some (0, 4, 0, .iload 4, 2) := Fm0 (dk_21 4 (dk_at s0_10 9 rfl rfl)) rfl
theorem f0_297 : ft 0 297 = some (0, 4, 0, .iconst 1, 1) := Fm0 (dk_4 (dk_at s0_10 11 rfl rfl)) rfl
theorem f0_298 : ft 0 298 = some (0, 4, 0, .iadd, 1) := Fm0 (dk_96 (dk_at s0_10 12 rfl rfl)) rfl
theorem f0_299 : ft 0 299 = some (0, 4, 0, .iaload, 1) := Fm0 (dk_46 (dk_at s0_10 13 rfl rfl)) rfl
theorem f0_300 : ft 0 300 = some (0, 4, 0, .invokevirtual 91, 3) := Fm0 (dk_182 0 91 (dk_at s0_10 14 rfl rfl)) rfl
theorem f0_303 : ft 0 303 = some (0, 4, 0, .istore 6, 2) := Fm0 (dk_54 6 (dk_at s0_10 17 rfl rfl)) rfl
theorem f0_305 : ft 0 305 = some (0, 4, 0, .aload_n 2, 1) := Fm0 (dk_44 (dk_at s0_10 19 rfl rfl)) rfl
theorem f0_306 : ft 0 306 = some (0, 4, 0, .invokevirtual 82, 3) := Fm0 (dk_182 0 82 (dk_at s0_10 20 rfl rfl)) rfl
theorem f0_309 : ft 0 309 = some (0, 4, 0, .iload 5, 2) := Fm0 (dk_21 5 (dk_at s0_11 0 rfl rfl)) rfl
theorem f0_311 : ft 0 311 = some (0, 4, 0, .if_icmp .eq 5, 3) := Fm0 (dk_159 0 5 (dk_at s0_11 2 rfl rfl)) rfl
theorem f0_314 : ft 0 314 = some (0, 4, 0, .iconst 0, 1) := Fm0 (dk_3 (dk_at s0_11 5 rfl rfl)) rfl
theorem f0_315 : ft 0 315 = some (0, 4, 0, .ireturn, 1) := Fm0 (dk_172 (dk_at s0_11 6 rfl rfl)) rfl
theorem f0_316 : ft 0 316 = some (0, 4, 0, .iload 5, 2) := Fm0 (dk_21 5 (dk_at s0_11 7 rfl rfl)) rfl
theorem f0_318 : ft 0 318 = some (0, 4, 0, .ifCond .ne 15, 3) := Fm0 (dk_154 0 15 (dk_at s0_11 9 rfl rfl)) rfl
theorem f0_321 : ft 0 321 = some (0, 4, 0, .aload_n 3, 1) := Fm0 (dk_45 (dk_at s0_11 12 rfl rfl)) rfl
theorem f0_322 : ft 0 322 = some (0, 4, 0, .iconst 0, 1) := Fm0 (dk_3 (dk_at s0_11 13 rfl rfl)) rfl
theorem f0_323 : ft 0 323 = some (0, 4, 0, .laload, 1) := Fm0 (dk_47 (dk_at s0_11 14 rfl rfl)) rfl
theorem f0_324 : ft 0 324 = some (0, 4, 0, .iload 6, 2) := Fm0 (dk_21 6 (dk_at s0_11 15 rfl rfl)) rfl
theorem f0_326 : ft 0 326 = some (0, 4, 0, .i2l, 1) := Fm0 (dk_133 (dk_at s0_11 17 rfl rfl)) rfl
theorem f0_327 : ft 0 327 = some (0, 4, 0, .lcmp, 1) := Fm0 (dk_148 (dk_at s0_11 18 rfl rfl)) rfl
theorem f0_328 : ft 0 328 = some (0, 4, 0, .ifCond .eq 5, 3) := Fm0 (dk_153 0 5 (dk_at s0_11 19 rfl rfl)) rfl
theorem f0_331 : ft 0 331 = some (0, 4, 0, .iconst 0, 1) := Fm0 (dk_3 (dk_at s0_11 22 rfl rfl)) rfl
theorem f0_332 : ft 0 332 = some (0, 4, 0, .ireturn, 1) := Fm0 (dk_172 (dk_at s0_11 23 rfl rfl)) rfl
theorem f0_333 : ft 0 333 = some (0, 4, 0, .goto 619, 3) := Fm0 (dk_167 2 107 (dk_at s0_12 0 rfl rfl)) rfl
theorem f0_336 : ft 0 336 = some (0, 4, 0, .aload_n 1, 1) := Fm0 (dk_43 (dk_at s0_12 3 rfl rfl)) rfl
theorem f0_337 : ft 0 337 = some (0, 4, 0, .aload_n 0, 1) := Fm0 (dk_42 (dk_at s0_12 4 rfl rfl)) rfl
theorem f0_338 : ft 0 338 = some (0, 4, 0, .iload 4, 2) := Fm0 (dk_21 4 (dk_at s0_12 5 rfl rfl)) rfl
theorem f0_340 : ft 0 340 = some (0, 4, 0, .iconst 1, 1) := Fm0 (dk_4 (dk_at s0_12 7 rfl rfl)) rfl
theorem f0_341 : ft 0 341 = some (0, 4, 0, .iadd, 1) := Fm0 (dk_96 (dk_at s0_12 8 rfl rfl)) rfl
theorem f0_342 : ft 0 342 = some (0, 4, 0, .iaload, 1) := Fm0 (dk_46 (dk_at s0_12 9 rfl rfl)) rfl
theorem f0_343 : ft 0 343 = some (0, 4, 0, .aload_n 0, 1) := Fm0 (dk_42 (dk_at s0_12 10 rfl rfl)) rfl
theorem f0_344 : ft 0 344 = some (0, 4, 0, .iload 4, 2) := Fm0 (dk_21 4 (dk_at s0_12 11 rfl rfl)) rfl
theorem f0_346 : ft 0 346 = some (0, 4, 0, .iconst 2, 1) := Fm0 (dk_5 (dk_at s0_12 13 rfl rfl)) rfl
theorem f0_347 : ft 0 347 = some (0, 4, 0, .iadd, 1) := Fm0 (dk_96 (dk_at s0_12 14 rfl rfl)) rfl
theorem f0_348 : ft 0 348 = some (0, 4, 0, .iaload, 1) := Fm0 (dk_46 (dk_at s0_12 15 rfl rfl)) rfl
theorem f0_349 : ft 0 349 = some (0, 4, 0, .aload_n 3, 1) := Fm0 (dk_45 (dk_at s0_12 16 rfl rfl)) rfl
theorem f0_350 : ft 0 350 = some (0, 4, 0, .invokestatic 92, 3) := Fm0 (dk_184 0 92 (dk_at s0_12 17 rfl rfl)) rfl
theorem f0_353 : ft 0 353 = some (0, 4, 0, .istore 5, 2) := Fm0 (dk_54 5 (dk_at s0_12 20 rfl rfl)) rfl
theorem f0_355 : ft 0 355 = some (0, 4, 0, .aload_n 2, 1) := Fm0 (dk_44 (dk_at s0_12 22 rfl rfl)) rfl
theorem f0_356 : ft 0 356 = some (0, 4, 0, .aload_n 0, 1) := Fm0 (dk_42 (dk_at s0_12 23 rfl rfl)) rfl
theorem f0_357 : ft 0 357 = some (0, 4, 0, .iload 4, 2) := Fm0 (dk_21 4 (dk_at s0_13 0 rfl rfl)) rfl
theorem f0_359 : ft 0 359 = some (0, 4, 0, .iconst 1, 1) := Fm0 (dk_4 (dk_at s0_13 2 rfl rfl)) rfl
theorem f0_360 : ft 0 360 = some (0, 4, 0, .iadd, 1) := Fm0 (dk_96 (dk_at s0_13 3 rfl rfl)) rfl
theorem f0_361 : ft 0 361 = some (0, 4, 0, .iaload, 1) := Fm0 (dk_46 (dk_at s0_13 4 rfl rfl)) rfl
theorem f0_362 : ft 0 362 = some (0, 4, 0, .aload_n 0, 1) := Fm0 (dk_42 (dk_at s0_13 5 rfl rfl)) rfl
theorem f0_363 : ft 0 363 = some (0, 4, 0, .iload 4, 2) := Fm0 (dk_21 4 (dk_at s0_13 6 rfl rfl)) rfl
theorem f0_365 : ft 0 365 = some (0, 4, 0, .iconst 2, 1) := Fm0 (dk_5 (dk_at s0_13 8 rfl rfl)) rfl
theorem f0_366 : ft 0 366 = some (0, 4, 0, .iadd, 1) := Fm0 (dk_96 (dk_at s0_13 9 rfl rfl)) rfl
theorem f0_367 : ft 0 367 = some (0, 4, 0, .iaload, 1) := Fm0 (dk_46 (dk_at s0_13 10 rfl rfl)) rfl
theorem f0_368 : ft 0 368 = some (0, 4, 0, .invokevirtual 95, 3) := Fm0 (dk_182 0 95 (dk_at s0_13 11 rfl rfl)) rfl
theorem f0_371 : ft 0 371 = some (0, 4, 0, .istore 6, 2) := Fm0 (dk_54 6 (dk_at s0_13 14 rfl rfl)) rfl
theorem f0_373 : ft 0 373 = some (0, 4, 0, .aload_n 2, 1) := Fm0 (dk_44 (dk_at s0_13 16 rfl rfl)) rfl
theorem f0_374 : ft 0 374 = some (0, 4, 0, .invokevirtual 82, 3) := Fm0 (dk_182 0 82 (dk_at s0_13 17 rfl rfl)) rfl
theorem f0_377 : ft 0 377 = some (0, 4, 0, .iload 5, 2) := Fm0 (dk_21 5 (dk_at s0_13 20 rfl rfl)) rfl
theorem f0_379 : ft 0 379 = some (0, 4, 0, .if_icmp .eq 5, 3) := Fm0 (dk_159 0 5 (dk_at s0_14 0 rfl rfl)) rfl
theorem f0_382 : ft 0 382 = some (0, 4, 0, .iconst 0, 1) := Fm0 (dk_3 (dk_at s0_14 3 rfl rfl)) rfl
theorem f0_383 : ft 0 383 = some (0, 4, 0, .ireturn, 1) := Fm0 (dk_172 (dk_at s0_14 4 rfl rfl)) rfl
theorem f0_384 : ft 0 384 = some (0, 4, 0, .iload 5, 2) := Fm0 (dk_21 5 (dk_at s0_14 5 rfl rfl)) rfl
theorem f0_386 : ft 0 386 = some (0, 4, 0, .ifCond .ne 15, 3) := Fm0 (dk_154 0 15 (dk_at s0_14 7 rfl rfl)) rfl
theorem f0_389 : ft 0 389 = some (0, 4, 0, .aload_n 3, 1) := Fm0 (dk_45 (dk_at s0_14 10 rfl rfl)) rfl
theorem f0_390 : ft 0 390 = some (0, 4, 0, .iconst 0, 1) := Fm0 (dk_3 (dk_at s0_14 11 rfl rfl)) rfl
theorem f0_391 : ft 0 391 = some (0, 4, 0, .laload, 1) := Fm0 (dk_47 (dk_at s0_14 12 rfl rfl)) rfl
theorem f0_392 : ft 0 392 = some (0, 4, 0, .iload 6, 2) := Fm0 (dk_21 6 (dk_at s0_14 13 rfl rfl)) rfl
theorem f0_394 : ft 0 394 = some (0, 4, 0, .i2l, 1) := Fm0 (dk_133 (dk_at s0_14 15 rfl rfl)) rfl
theorem f0_395 : ft 0 395 = some (0, 4, 0, .lcmp, 1) := Fm0 (dk_148 (dk_at s0_14 16 rfl rfl)) rfl
theorem f0_396 : ft 0 396 = some (0, 4, 0, .ifCond .eq 5, 3) := Fm0 (dk_153 0 5 (dk_at s0_14 17 rfl rfl)) rfl
theorem f0_399 : ft 0 399 = some (0, 4, 0, .iconst 0, 1) := Fm0 (dk_3 (dk_at s0_14 20 rfl rfl)) rfl
theorem f0_400 : ft 0 400 = some (0, 4, 0, .ireturn, 1) := Fm0 (dk_172 (dk_at s0_14 21 rfl rfl)) rfl
theorem f0_401 : ft 0 401 = some (0, 4, 0, .goto 551, 3) := Fm0 (dk_167 2 39 (dk_at s0_15 0 rfl rfl)) rfl
theorem f0_404 : ft 0 404 = some (0, 4, 0, .aload_n 1, 1) := Fm0 (dk_43 (dk_at s0_15 3 rfl rfl)) rfl
theorem f0_405 : ft 0 405 = some (0, 4, 0, .aload_n 0, 1) := Fm0 (dk_42 (dk_at s0_15 4 rfl rfl)) rfl
theorem f0_406 : ft 0 406 = some (0, 4, 0, .iload 4, 2) := Fm0 (dk_21 4 (dk_at s0_15 5 rfl rfl)) rfl
theorem f0_408 : ft 0 408 = some (0, 4, 0, .iconst 1, 1) := Fm0 (dk_4 (dk_at s0_15 7 rfl rfl)) rfl
theorem f0_409 : ft 0 409 = some (0, 4, 0, .iadd, 1) := Fm0 (dk_96 (dk_at s0_15 8 rfl rfl)) rfl
theorem f0_410 : ft 0 410 = some (0, 4, 0, .iaload, 1) := Fm0 (dk_46 (dk_at s0_15 9 rfl rfl)) rfl
theorem f0_411 : ft 0 411 = some (0, 4, 0, .aload_n 3, 1) := Fm0 (dk_45 (dk_at s0_15 10 rfl rfl)) rfl
theorem f0_412 : ft 0 412 = some (0, 4, 0, .invokestatic 96, 3) := Fm0 (dk_184 0 96 (dk_at s0_15 11 rfl rfl)) rfl
theorem f0_415 : ft 0 415 = some (0, 4, 0, .istore 5, 2) := Fm0 (dk_54 5 (dk_at s0_15 14 rfl rfl)) rfl
theorem f0_417 : ft 0 417 = some (0, 4, 0, .aload_n 2, 1) := Fm0 (dk_44 (dk_at s0_15 16 rfl rfl)) rfl
theorem f0_418 : ft 0 418 = some (0, 4, 0, .aload_n 0, 1) := Fm0 (dk_42 (dk_at s0_15 17 rfl rfl)) rfl
theorem f0_419 : ft 0 419 = some (0, 4, 0, .iload 4, 2) := Fm0 (dk_21 4 (dk_at s0_15 18 rfl rfl)) rfl
theorem f0_421 : ft 0 421 = some (0, 4, 0, .iconst 1, 1) := Fm0 (dk_4 (dk_at s0_15 20 rfl rfl)) rfl
theorem f0_422 : ft 0 422 = some (0, 4, 0, .iadd, 1) := Fm0 (dk_96 (dk_at s0_15 21 rfl rfl)) rfl
theorem f0_423 : ft 0 423 = some (0, 4, 0, .iaload, 1) := Fm0 (dk_46 (dk_at s0_15 22 rfl rfl)) rfl
theorem f0_424 : ft 0 424 = some (0, 4, 0, .invokevirtual 98, 3) := Fm0 (dk_182 0 98 (dk_at s0_16 0 rfl rfl)) rfl
theorem f0_427 : ft 0 427 = some (0, 4, 0, .istore 6, 2) := Fm0 (dk_54 6 (dk_at s0_16 3 rfl rfl)) rfl
theorem f0_429 : ft 0 429 = some (0, 4, 0, .aload_n 2, 1) := Fm0 (dk_44 (dk_at s0_16 5 rfl rfl)) rfl
theorem f0_430 : ft 0 430 = some (0, 4, 0, .invokevirtual 82, 3) := Fm0 (dk_182 0 82 (dk_at s0_16 6 rfl rfl)) rfl
theorem f0_433 : ft 0 433 = some (0, 4, 0, .iload 5, 2) := Fm0 (dk_21 5 (dk_at s0_16 9 rfl rfl)) rfl
theorem f0_435 : ft 0 435 = some (0, 4, 0, .if_icmp .eq 5, 3) := Fm0 (dk_159 0 5 (dk_at s0_16 11 rfl rfl)) rfl
theorem f0_438 : ft 0 438 = some (0, 4, 0, .iconst 0, 1) := Fm0 (dk_3 (dk_at s0_16 14 rfl rfl)) rfl
theorem f0_439 : ft 0 439 = some (0, 4, 0, .ireturn, 1) := Fm0 (dk_172 (dk_at s0_16 15 rfl rfl)) rfl
theorem f0_440 : ft 0 440 = some (0, 4, 0, .iload 5, 2) := Fm0 (dk_21 5 (dk_at s0_16 16 rfl rfl)) rfl
theorem f0_442 : ft 0 442 = some (0, 4, 0, .ifCond .ne 15, 3) := Fm0 (dk_154 0 15 (dk_at s0_16 18 rfl rfl)) rfl
theorem f0_445 : ft 0 445 = some (0, 4, 0, .aload_n 3, 1) := Fm0 (dk_45 (dk_at s0_16 21 rfl rfl)) rfl
theorem f0_446 : ft 0 446 = some (0, 4, 0, .iconst 0, 1) := Fm0 (dk_3 (dk_at s0_16 22 rfl rfl)) rfl
theorem f0_447 : ft 0 447 = some (0, 4, 0, .laload, 1) := Fm0 (dk_47 (dk_at s0_16 23 rfl rfl)) rfl
theorem f0_448 : ft 0 448 = some (0, 4, 0, .iload 6, 2) := Fm0 (dk_21 6 (dk_at s0_17 0 rfl rfl)) rfl
theorem f0_450 : ft 0 450 = some (0, 4, 0, .i2l, 1) := Fm0 (dk_133 (dk_at s0_17 2 rfl rfl)) rfl
theorem f0_451 : ft 0 451 = some (0, 4, 0, .lcmp, 1) := Fm0 (dk_148 (dk_at s0_17 3 rfl rfl)) rfl
theorem f0_452 : ft 0 452 = some (0, 4, 0, .ifCond .eq 5, 3) := Fm0 (dk_153 0 5 (dk_at s0_17 4 rfl rfl)) rfl
theorem f0_455 : ft 0 455 = some (0, 4, 0, .iconst 0, 1) := Fm0 (dk_3 (dk_at s0_17 7 rfl rfl)) rfl
theorem f0_456 : ft 0 456 = some (0, 4, 0, .ireturn, 1) := Fm0 (dk_172 (dk_at s0_17 8 rfl rfl)) rfl
theorem f0_457 : ft 0 457 = some (0, 4, 0, .goto 495, 3) := Fm0 (dk_167 1 239 (dk_at s0_17 9 rfl rfl)) rfl
theorem f0_460 : ft 0 460 = some (0, 4, 0, .aload_n 1, 1) := Fm0 (dk_43 (dk_at s0_17 12 rfl rfl)) rfl
theorem f0_461 : ft 0 461 = some (0, 4, 0, .aload_n 3, 1) := Fm0 (dk_45 (dk_at s0_17 13 rfl rfl)) rfl
theorem f0_462 : ft 0 462 = some (0, 4, 0, .invokestatic 99, 3) := Fm0 (dk_184 0 99 (dk_at s0_17 14 rfl rfl)) rfl
theorem f0_465 : ft 0 465 = some (0, 4, 0, .istore 5, 2) := Fm0 (dk_54 5 (dk_at s0_17 17 rfl rfl)) rfl
theorem f0_467 : ft 0 467 = some (0, 4, 0, .aload_n 2, 1) := Fm0 (dk_44 (dk_at s0_17 19 rfl rfl)) rfl
theorem f0_468 : ft 0 468 = some (0, 4, 0, .invokevirtual 102, 3) := Fm0 (dk_182 0 102 (dk_at s0_17 20 rfl rfl)) rfl
theorem f0_471 : ft 0 471 = some (0, 4, 0, .istore 6, 2) := Fm0 (dk_54 6 (dk_at s0_18 0 rfl rfl)) rfl
theorem f0_473 : ft 0 473 = some (0, 4, 0, .aload_n 2, 1) := Fm0 (dk_44 (dk_at s0_18 2 rfl rfl)) rfl
theorem f0_474 : ft 0 474 = some (0, 4, 0, .invokevirtual 82, 3) := Fm0 (dk_182 0 82 (dk_at s0_18 3 rfl rfl)) rfl
theorem f0_477 : ft 0 477 = some (0, 4, 0, .iload 5, 2) := Fm0 (dk_21 5 (dk_at s0_18 6 rfl rfl)) rfl
theorem f0_479 : ft 0 479 = some (0, 4, 0, .if_icmp .eq 5, 3) := Fm0 (dk_159 0 5 (dk_at s0_18 8 rfl rfl)) rfl
theorem f0_482 : ft 0 482 = some (0, 4, 0, .iconst 0, 1) := Fm0 (dk_3 (dk_at s0_18 11 rfl rfl)) rfl
theorem f0_483 : ft 0 483 = some (0, 4, 0, .ireturn, 1) := Fm0 (dk_172 (dk_at s0_18 12 rfl rfl)) rfl
theorem f0_484 : ft 0 484 = some (0, 4, 0, .iload 5, 2) := Fm0 (dk_21 5 (dk_at s0_18 13 rfl rfl)) rfl
theorem f0_486 : ft 0 486 = some (0, 4, 0, .ifCond .ne 15, 3) := Fm0 (dk_154 0 15 (dk_at s0_18 15 rfl rfl)) rfl
theorem f0_489 : ft 0 489 = some (0, 4, 0, .aload_n 3, 1) := Fm0 (dk_45 (dk_at s0_18 18 rfl rfl)) rfl
theorem f0_490 : ft 0 490 = some (0, 4, 0, .iconst 0, 1) := Fm0 (dk_3 (dk_at s0_18 19 rfl rfl)) rfl
theorem f0_491 : ft 0 491 = some (0, 4, 0, .laload, 1) := Fm0 (dk_47 (dk_at s0_18 20 rfl rfl)) rfl
theorem f0_492 : ft 0 492 = some (0, 4, 0, .iload 6, 2) := Fm0 (dk_21 6 (dk_at s0_18 21 rfl rfl)) rfl
theorem f0_494 : ft 0 494 = some (0, 4, 0, .i2l, 1) := Fm0 (dk_133 (dk_at s0_18 23 rfl rfl)) rfl
theorem f0_495 : ft 0 495 = some (0, 4, 0, .lcmp, 1) := Fm0 (dk_148 (dk_at s0_19 0 rfl rfl)) rfl
theorem f0_496 : ft 0 496 = some (0, 4, 0, .ifCond .eq 5, 3) := Fm0 (dk_153 0 5 (dk_at s0_19 1 rfl rfl)) rfl
theorem f0_499 : ft 0 499 = some (0, 4, 0, .iconst 0, 1) := Fm0 (dk_3 (dk_at s0_19 4 rfl rfl)) rfl
theorem f0_500 : ft 0 500 = some (0, 4, 0, .ireturn, 1) := Fm0 (dk_172 (dk_at s0_19 5 rfl rfl)) rfl
theorem f0_501 : ft 0 501 = some (0, 4, 0, .goto 451, 3) := Fm0 (dk_167 1 195 (dk_at s0_19 6 rfl rfl)) rfl
theorem f0_504 : ft 0 504 = some (0, 4, 0, .aload_n 1, 1) := Fm0 (dk_43 (dk_at s0_19 9 rfl rfl)) rfl
theorem f0_505 : ft 0 505 = some (0, 4, 0, .aload_n 0, 1) := Fm0 (dk_42 (dk_at s0_19 10 rfl rfl)) rfl
theorem f0_506 : ft 0 506 = some (0, 4, 0, .iload 4, 2) := Fm0 (dk_21 4 (dk_at s0_19 11 rfl rfl)) rfl
theorem f0_508 : ft 0 508 = some (0, 4, 0, .iconst 1, 1) := Fm0 (dk_4 (dk_at s0_19 13 rfl rfl)) rfl
theorem f0_509 : ft 0 509 = some (0, 4, 0, .iadd, 1) := Fm0 (dk_96 (dk_at s0_19 14 rfl rfl)) rfl
theorem f0_510 : ft 0 510 = some (0, 4, 0, .iaload, 1) := Fm0 (dk_46 (dk_at s0_19 15 rfl rfl)) rfl
theorem f0_511 : ft 0 511 = some (0, 4, 0, .aload_n 3, 1) := Fm0 (dk_45 (dk_at s0_19 16 rfl rfl)) rfl
theorem f0_512 : ft 0 512 = some (0, 4, 0, .invokestatic 103, 3) := Fm0 (dk_184 0 103 (dk_at s0_19 17 rfl rfl)) rfl
theorem f0_515 : ft 0 515 = some (0, 4, 0, .istore 5, 2) := Fm0 (dk_54 5 (dk_at s0_19 20 rfl rfl)) rfl
theorem f0_517 : ft 0 517 = some (0, 4, 0, .aload_n 2, 1) := Fm0 (dk_44 (dk_at s0_19 22 rfl rfl)) rfl
theorem f0_518 : ft 0 518 = some (0, 4, 0, .aload_n 0, 1) := Fm0 (dk_42 (dk_at s0_19 23 rfl rfl)) rfl
theorem f0_519 : ft 0 519 = some (0, 4, 0, .iload 4, 2) := Fm0 (dk_21 4 (dk_at s0_20 0 rfl rfl)) rfl
theorem f0_521 : ft 0 521 = some (0, 4, 0, .iconst 1, 1) := Fm0 (dk_4 (dk_at s0_20 2 rfl rfl)) rfl
theorem f0_522 : ft 0 522 = some (0, 4, 0, .iadd, 1) := Fm0 (dk_96 (dk_at s0_20 3 rfl rfl)) rfl
theorem f0_523 : ft 0 523 = some (0, 4, 0, .iaload, 1) := Fm0 (dk_46 (dk_at s0_20 4 rfl rfl)) rfl
theorem f0_524 : ft 0 524 = some (0, 4, 0, .invokevirtual 105, 3) := Fm0 (dk_182 0 105 (dk_at s0_20 5 rfl rfl)) rfl
theorem f0_527 : ft 0 527 = some (0, 4, 0, .istore 6, 2) := Fm0 (dk_54 6 (dk_at s0_20 8 rfl rfl)) rfl
theorem f0_529 : ft 0 529 = some (0, 4, 0, .aload_n 2, 1) := Fm0 (dk_44 (dk_at s0_20 10 rfl rfl)) rfl
theorem f0_530 : ft 0 530 = some (0, 4, 0, .invokevirtual 82, 3) := Fm0 (dk_182 0 82 (dk_at s0_20 11 rfl rfl)) rfl
theorem f0_533 : ft 0 533 = some (0, 4, 0, .iload 5, 2) := Fm0 (dk_21 5 (dk_at s0_20 14 rfl rfl)) rfl
theorem f0_535 : ft 0 535 = some (0, 4, 0, .if_icmp .eq 5, 3) := Fm0 (dk_159 0 5 (dk_at s0_20 16 rfl rfl)) rfl
theorem f0_538 : ft 0 538 = some (0, 4, 0, .iconst 0, 1) := Fm0 (dk_3 (dk_at s0_20 19 rfl rfl)) rfl
theorem f0_539 : ft 0 539 = some (0, 4, 0, .ireturn, 1) := Fm0 (dk_172 (dk_at s0_20 20 rfl rfl)) rfl
theorem f0_540 : ft 0 540 = some (0, 4, 0, .iload 5, 2) := Fm0 (dk_21 5 (dk_at s0_20 21 rfl rfl)) rfl
theorem f0_542 : ft 0 542 = some (0, 4, 0, .ifCond .ne 15, 3) := Fm0 (dk_154 0 15 (dk_at s0_21 0 rfl rfl)) rfl
theorem f0_545 : ft 0 545 = some (0, 4, 0, .aload_n 3, 1) := Fm0 (dk_45 (dk_at s0_21 3 rfl rfl)) rfl
theorem f0_546 : ft 0 546 = some (0, 4, 0, .iconst 0, 1) := Fm0 (dk_3 (dk_at s0_21 4 rfl rfl)) rfl
theorem f0_547 : ft 0 547 = some (0, 4, 0, .laload, 1) := Fm0 (dk_47 (dk_at s0_21 5 rfl rfl)) rfl
theorem f0_548 : ft 0 548 = some (0, 4, 0, .iload 6, 2) := Fm0 (dk_21 6 (dk_at s0_21 6 rfl rfl)) rfl
theorem f0_550 : ft 0 550 = some (0, 4, 0, .i2l, 1) := Fm0 (dk_133 (dk_at s0_21 8 rfl rfl)) rfl
theorem f0_551 : ft 0 551 = some (0, 4, 0, .lcmp, 1) := Fm0 (dk_148 (dk_at s0_21 9 rfl rfl)) rfl
theorem f0_552 : ft 0 552 = some (0, 4, 0, .ifCond .eq 5, 3) := Fm0 (dk_153 0 5 (dk_at s0_21 10 rfl rfl)) rfl
theorem f0_555 : ft 0 555 = some (0, 4, 0, .iconst 0, 1) := Fm0 (dk_3 (dk_at s0_21 13 rfl rfl)) rfl
theorem f0_556 : ft 0 556 = some (0, 4, 0, .ireturn, 1) := Fm0 (dk_172 (dk_at s0_21 14 rfl rfl)) rfl
theorem f0_557 : ft 0 557 = some (0, 4, 0, .goto 395, 3) := Fm0 (dk_167 1 139 (dk_at s0_21 15 rfl rfl)) rfl
theorem f0_560 : ft 0 560 = some (0, 4, 0, .aload_n 1, 1) := Fm0 (dk_43 (dk_at s0_21 18 rfl rfl)) rfl
theorem f0_561 : ft 0 561 = some (0, 4, 0, .aload_n 0, 1) := Fm0 (dk_42 (dk_at s0_21 19 rfl rfl)) rfl
theorem f0_562 : ft 0 562 = some (0, 4, 0, .iload 4, 2) := Fm0 (dk_21 4 (dk_at s0_21 20 rfl rfl)) rfl
theorem f0_564 : ft 0 564 = some (0, 4, 0, .iconst 1, 1) := Fm0 (dk_4 (dk_at s0_21 22 rfl rfl)) rfl
theorem f0_565 : ft 0 565 = some (0, 4, 0, .iadd, 1) := Fm0 (dk_96 (dk_at s0_21 23 rfl rfl)) rfl
theorem f0_566 : ft 0 566 = some (0, 4, 0, .iaload, 1) := Fm0 (dk_46 (dk_at s0_22 0 rfl rfl)) rfl
theorem f0_567 : ft 0 567 = some (0, 4, 0, .invokestatic 106, 3) := Fm0 (dk_184 0 106 (dk_at s0_22 1 rfl rfl)) rfl
theorem f0_570 : ft 0 570 = some (0, 4, 0, .istore 5, 2) := Fm0 (dk_54 5 (dk_at s0_22 4 rfl rfl)) rfl
theorem f0_572 : ft 0 572 = some (0, 4, 0, .aload_n 2, 1) := Fm0 (dk_44 (dk_at s0_22 6 rfl rfl)) rfl
theorem f0_573 : ft 0 573 = some (0, 4, 0, .aload_n 0, 1) := Fm0 (dk_42 (dk_at s0_22 7 rfl rfl)) rfl
theorem f0_574 : ft 0 574 = some (0, 4, 0, .iload 4, 2) := Fm0 (dk_21 4 (dk_at s0_22 8 rfl rfl)) rfl
theorem f0_576 : ft 0 576 = some (0, 4, 0, .iconst 1, 1) := Fm0 (dk_4 (dk_at s0_22 10 rfl rfl)) rfl
theorem f0_577 : ft 0 577 = some (0, 4, 0, .iadd, 1) := Fm0 (dk_96 (dk_at s0_22 11 rfl rfl)) rfl
theorem f0_578 : ft 0 578 = some (0, 4, 0, .iaload, 1) := Fm0 (dk_46 (dk_at s0_22 12 rfl rfl)) rfl
theorem f0_579 : ft 0 579 = some (0, 4, 0, .invokevirtual 109, 3) := Fm0 (dk_182 0 109 (dk_at s0_22 13 rfl rfl)) rfl
theorem f0_582 : ft 0 582 = some (0, 4, 0, .aload_n 2, 1) := Fm0 (dk_44 (dk_at s0_22 16 rfl rfl)) rfl
theorem f0_583 : ft 0 583 = some (0, 4, 0, .invokevirtual 82, 3) := Fm0 (dk_182 0 82 (dk_at s0_22 17 rfl rfl)) rfl
theorem f0_586 : ft 0 586 = some (0, 4, 0, .iload 5, 2) := Fm0 (dk_21 5 (dk_at s0_22 20 rfl rfl)) rfl
theorem f0_588 : ft 0 588 = some (0, 4, 0, .if_icmp .eq 5, 3) := Fm0 (dk_159 0 5 (dk_at s0_23 0 rfl rfl)) rfl
theorem f0_591 : ft 0 591 = some (0, 4, 0, .iconst 0, 1) := Fm0 (dk_3 (dk_at s0_23 3 rfl rfl)) rfl
theorem f0_592 : ft 0 592 = some (0, 4, 0, .ireturn, 1) := Fm0 (dk_172 (dk_at s0_23 4 rfl rfl)) rfl
theorem f0_593 : ft 0 593 = some (0, 4, 0, .goto 359, 3) := Fm0 (dk_167 1 103 (dk_at s0_23 5 rfl rfl)) rfl
theorem f0_596 : ft 0 596 = some (0, 4, 0, .aload_n 1, 1) := Fm0 (dk_43 (dk_at s0_23 8 rfl rfl)) rfl
theorem f0_597 : ft 0 597 = some (0, 4, 0, .aload_n 0, 1) := Fm0 (dk_42 (dk_at s0_23 9 rfl rfl)) rfl
theorem f0_598 : ft 0 598 = some (0, 4, 0, .iload 4, 2) := Fm0 (dk_21 4 (dk_at s0_23 10 rfl rfl)) rfl
theorem f0_600 : ft 0 600 = some (0, 4, 0, .iconst 1, 1) := Fm0 (dk_4 (dk_at s0_23 12 rfl rfl)) rfl
theorem f0_601 : ft 0 601 = some (0, 4, 0, .iadd, 1) := Fm0 (dk_96 (dk_at s0_23 13 rfl rfl)) rfl
theorem f0_602 : ft 0 602 = some (0, 4, 0, .iaload, 1) := Fm0 (dk_46 (dk_at s0_23 14 rfl rfl)) rfl
theorem f0_603 : ft 0 603 = some (0, 4, 0, .invokestatic 110, 3) := Fm0 (dk_184 0 110 (dk_at s0_23 15 rfl rfl)) rfl
theorem f0_606 : ft 0 606 = some (0, 4, 0, .istore 5, 2) := Fm0 (dk_54 5 (dk_at s0_23 18 rfl rfl)) rfl
theorem f0_608 : ft 0 608 = some (0, 4, 0, .aload_n 2, 1) := Fm0 (dk_44 (dk_at s0_23 20 rfl rfl)) rfl
theorem f0_609 : ft 0 609 = some (0, 4, 0, .aload_n 0, 1) := Fm0 (dk_42 (dk_at s0_23 21 rfl rfl)) rfl
theorem f0_610 : ft 0 610 = some (0, 4, 0, .iload 4, 2) := Fm0 (dk_21 4 (dk_at s0_23 22 rfl rfl)) rfl
theorem f0_612 : ft 0 612 = some (0, 4, 0, .iconst 1, 1) := Fm0 (dk_4 (dk_at s0_24 0 rfl rfl)) rfl
theorem f0_613 : ft 0 613 = some (0, 4, 0, .iadd, 1) := Fm0 (dk_96 (dk_at s0_24 1 rfl rfl)) rfl
theorem f0_614 : ft 0 614 = some (0, 4, 0, .iaload, 1) := Fm0 (dk_46 (dk_at s0_24 2 rfl rfl)) rfl
theorem f0_615 : ft 0 615 = some (0, 4, 0, .invokevirtual 112, 3) := Fm0 (dk_182 0 112 (dk_at s0_24 3 rfl rfl)) rfl
theorem f0_618 : ft 0 618 = some (0, 4, 0, .aload_n 2, 1) := Fm0 (dk_44 (dk_at s0_24 6 rfl rfl)) rfl
theorem f0_619 : ft 0 619 = some (0, 4, 0, .invokevirtual 82, 3) := Fm0 (dk_182 0 82 (dk_at s0_24 7 rfl rfl)) rfl
theorem f0_622 : ft 0 622 = some (0, 4, 0, .iload 5, 2) := Fm0 (dk_21 5 (dk_at s0_24 10 rfl rfl)) rfl
theorem f0_624 : ft 0 624 = some (0, 4, 0, .if_icmp .eq 5, 3) := Fm0 (dk_159 0 5 (dk_at s0_24 12 rfl rfl)) rfl
theorem f0_627 : ft 0 627 = some (0, 4, 0, .iconst 0, 1) := Fm0 (dk_3 (dk_at s0_24 15 rfl rfl)) rfl
theorem f0_628 : ft 0 628 = some (0, 4, 0, .ireturn, 1) := Fm0 (dk_172 (dk_at s0_24 16 rfl rfl)) rfl
theorem f0_629 : ft 0 629 = some (0, 4, 0, .goto 323, 3) := Fm0 (dk_167 1 67 (dk_at s0_24 17 rfl rfl)) rfl
theorem f0_632 : ft 0 632 = some (0, 4, 0, .aload_n 1, 1) := Fm0 (dk_43 (dk_at s0_24 20 rfl rfl)) rfl
theorem f0_633 : ft 0 633 = some (0, 4, 0, .aload_n 0, 1) := Fm0 (dk_42 (dk_at s0_24 21 rfl rfl)) rfl
theorem f0_634 : ft 0 634 = some (0, 4, 0, .iload 4, 2) := Fm0 (dk_21 4 (dk_at s0_24 22 rfl rfl)) rfl
theorem f0_636 : ft 0 636 = some (0, 4, 0, .iconst 1, 1) := Fm0 (dk_4 (dk_at s0_25 0 rfl rfl)) rfl
theorem f0_637 : ft 0 637 = some (0, 4, 0, .iadd, 1) := Fm0 (dk_96 (dk_at s0_25 1 rfl rfl)) rfl
theorem f0_638 : ft 0 638 = some (0, 4, 0, .iaload, 1) := Fm0 (dk_46 (dk_at s0_25 2 rfl rfl)) rfl
theorem f0_639 : ft 0 639 = some (0, 4, 0, .aload_n 3, 1) := Fm0 (dk_45 (dk_at s0_25 3 rfl rfl)) rfl
theorem f0_640 : ft 0 640 = some (0, 4, 0, .invokestatic 113, 3) := Fm0 (dk_184 0 113 (dk_at s0_25 4 rfl rfl)) rfl
theorem f0_643 : ft 0 643 = some (0, 4, 0, .istore 5, 2) := Fm0 (dk_54 5 (dk_at s0_25 7 rfl rfl)) rfl
theorem f0_645 : ft 0 645 = some (0, 4, 0, .aload_n 2, 1) := Fm0 (dk_44 (dk_at s0_25 9 rfl rfl)) rfl
theorem f0_646 : ft 0 646 = some (0, 4, 0, .aload_n 0, 1) := Fm0 (dk_42 (dk_at s0_25 10 rfl rfl)) rfl
theorem f0_647 : ft 0 647 = some (0, 4, 0, .iload 4, 2) := Fm0 (dk_21 4 (dk_at s0_25 11 rfl rfl)) rfl
theorem f0_649 : ft 0 649 = some (0, 4, 0, .iconst 1, 1) := Fm0 (dk_4 (dk_at s0_25 13 rfl rfl)) rfl
theorem f0_650 : ft 0 650 = some (0, 4, 0, .iadd, 1) := Fm0 (dk_96 (dk_at s0_25 14 rfl rfl)) rfl
theorem f0_651 : ft 0 651 = some (0, 4, 0, .iaload, 1) := Fm0 (dk_46 (dk_at s0_25 15 rfl rfl)) rfl
theorem f0_652 : ft 0 652 = some (0, 4, 0, .invokevirtual 115, 3) := Fm0 (dk_182 0 115 (dk_at s0_25 16 rfl rfl)) rfl
theorem f0_655 : ft 0 655 = some (0, 4, 0, .istore 6, 2) := Fm0 (dk_54 6 (dk_at s0_25 19 rfl rfl)) rfl
theorem f0_657 : ft 0 657 = some (0, 4, 0, .aload_n 2, 1) := Fm0 (dk_44 (dk_at s0_25 21 rfl rfl)) rfl
theorem f0_658 : ft 0 658 = some (0, 4, 0, .invokevirtual 82, 3) := Fm0 (dk_182 0 82 (dk_at s0_26 0 rfl rfl)) rfl
theorem f0_661 : ft 0 661 = some (0, 4, 0, .iload 5, 2) := Fm0 (dk_21 5 (dk_at s0_26 3 rfl rfl)) rfl
theorem f0_663 : ft 0 663 = some (0, 4, 0, .if_icmp .eq 5, 3) := Fm0 (dk_159 0 5 (dk_at s0_26 5 rfl rfl)) rfl
theorem f0_666 : ft 0 666 = some (0, 4, 0, .iconst 0, 1) := Fm0 (dk_3 (dk_at s0_26 8 rfl rfl)) rfl
theorem f0_667 : ft 0 667 = some (0, 4, 0, .ireturn, 1) := Fm0 (dk_172 (dk_at s0_26 9 rfl rfl)) rfl
theorem f0_668 : ft 0 668 = some (0, 4, 0, .iload 5, 2) := Fm0 (dk_21 5 (dk_at s0_26 10 rfl rfl)) rfl
theorem f0_670 : ft 0 670 = some (0, 4, 0, .ifCond .ne 15, 3) := Fm0 (dk_154 0 15 (dk_at s0_26 12 rfl rfl)) rfl
theorem f0_673 : ft 0 673 = some (0, 4, 0, .aload_n 3, 1) := Fm0 (dk_45 (dk_at s0_26 15 rfl rfl)) rfl
theorem f0_674 : ft 0 674 = some (0, 4, 0, .iconst 0, 1) := Fm0 (dk_3 (dk_at s0_26 16 rfl rfl)) rfl
theorem f0_675 : ft 0 675 = some (0, 4, 0, .laload, 1) := Fm0 (dk_47 (dk_at s0_26 17 rfl rfl)) rfl
theorem f0_676 : ft 0 676 = some (0, 4, 0, .iload 6, 2) := Fm0 (dk_21 6 (dk_at s0_26 18 rfl rfl)) rfl
theorem f0_678 : ft 0 678 = some (0, 4, 0, .i2l, 1) := Fm0 (dk_133 (dk_at s0_26 20 rfl rfl)) rfl
theorem f0_679 : ft 0 679 = some (0, 4, 0, .lcmp, 1) := Fm0 (dk_148 (dk_at s0_26 21 rfl rfl)) rfl
theorem f0_680 : ft 0 680 = some (0, 4, 0, .ifCond .eq 5, 3) := Fm0 (dk_153 0 5 (dk_at s0_27 0 rfl rfl)) rfl
theorem f0_683 : ft 0 683 = some (0, 4, 0, .iconst 0, 1) := Fm0 (dk_3 (dk_at s0_27 3 rfl rfl)) rfl
theorem f0_684 : ft 0 684 = some (0, 4, 0, .ireturn, 1) := Fm0 (dk_172 (dk_at s0_27 4 rfl rfl)) rfl
theorem f0_685 : ft 0 685 = some (0, 4, 0, .goto 267, 3) := Fm0 (dk_167 1 11 (dk_at s0_27 5 rfl rfl)) rfl
theorem f0_688 : ft 0 688 = some (0, 4, 0, .aload_n 1, 1) := Fm0 (dk_43 (dk_at s0_27 8 rfl rfl)) rfl
theorem f0_689 : ft 0 689 = some (0, 4, 0, .aload_n 0, 1) := Fm0 (dk_42 (dk_at s0_27 9 rfl rfl)) rfl
theorem f0_690 : ft 0 690 = some (0, 4, 0, .iload 4, 2) := Fm0 (dk_21 4 (dk_at s0_27 10 rfl rfl)) rfl
theorem f0_692 : ft 0 692 = some (0, 4, 0, .iconst 1, 1) := Fm0 (dk_4 (dk_at s0_27 12 rfl rfl)) rfl
theorem f0_693 : ft 0 693 = some (0, 4, 0, .iadd, 1) := Fm0 (dk_96 (dk_at s0_27 13 rfl rfl)) rfl
theorem f0_694 : ft 0 694 = some (0, 4, 0, .iaload, 1) := Fm0 (dk_46 (dk_at s0_27 14 rfl rfl)) rfl
theorem f0_695 : ft 0 695 = some (0, 4, 0, .invokestatic 116, 3) := Fm0 (dk_184 0 116 (dk_at s0_27 15 rfl rfl)) rfl
theorem f0_698 : ft 0 698 = some (0, 4, 0, .istore 5, 2) := Fm0 (dk_54 5 (dk_at s0_27 18 rfl rfl)) rfl
theorem f0_700 : ft 0 700 = some (0, 4, 0, .aload_n 2, 1) := Fm0 (dk_44 (dk_at s0_27 20 rfl rfl)) rfl
theorem f0_701 : ft 0 701 = some (0, 4, 0, .aload_n 0, 1) := Fm0 (dk_42 (dk_at s0_27 21 rfl rfl)) rfl
theorem f0_702 : ft 0 702 = some (0, 4, 0, .iload 4, 2) := Fm0 (dk_21 4 (dk_at s0_27 22 rfl rfl)) rfl
theorem f0_704 : ft 0 704 = some (0, 4, 0, .iconst 1, 1) := Fm0 (dk_4 (dk_at s0_28 0 rfl rfl)) rfl
theorem f0_705 : ft 0 705 = some (0, 4, 0, .iadd, 1) := Fm0 (dk_96 (dk_at s0_28 1 rfl rfl)) rfl
theorem f0_706 : ft 0 706 = some (0, 4, 0, .iaload, 1) := Fm0 (dk_46 (dk_at s0_28 2 rfl rfl)) rfl
theorem f0_707 : ft 0 707 = some (0, 4, 0, .invokevirtual 118, 3) := Fm0 (dk_182 0 118 (dk_at s0_28 3 rfl rfl)) rfl
theorem f0_710 : ft 0 710 = some (0, 4, 0, .aload_n 2, 1) := Fm0 (dk_44 (dk_at s0_28 6 rfl rfl)) rfl
theorem f0_711 : ft 0 711 = some (0, 4, 0, .invokevirtual 82, 3) := Fm0 (dk_182 0 82 (dk_at s0_28 7 rfl rfl)) rfl
theorem f0_714 : ft 0 714 = some (0, 4, 0, .iload 5, 2) := Fm0 (dk_21 5 (dk_at s0_28 10 rfl rfl)) rfl
theorem f0_716 : ft 0 716 = some (0, 4, 0, .if_icmp .eq 5, 3) := Fm0 (dk_159 0 5 (dk_at s0_28 12 rfl rfl)) rfl
theorem f0_719 : ft 0 719 = some (0, 4, 0, .iconst 0, 1) := Fm0 (dk_3 (dk_at s0_28 15 rfl rfl)) rfl
theorem f0_720 : ft 0 720 = some (0, 4, 0, .ireturn, 1) := Fm0 (dk_172 (dk_at s0_28 16 rfl rfl)) rfl
theorem f0_721 : ft 0 721 = some (0, 4, 0, .goto 231, 3) := Fm0 (dk_167 0 231 (dk_at s0_28 17 rfl rfl)) rfl
theorem f0_724 : ft 0 724 = some (0, 4, 0, .aload_n 1, 1) := Fm0 (dk_43 (dk_at s0_28 20 rfl rfl)) rfl
theorem f0_725 : ft 0 725 = some (0, 4, 0, .aload_n 0, 1) := Fm0 (dk_42 (dk_at s0_28 21 rfl rfl)) rfl
theorem f0_726 : ft 0 726 = some (0, 4, 0, .iload 4, 2) := Fm0 (dk_21 4 (dk_at s0_28 22 rfl rfl)) rfl
theorem f0_728 : ft 0 728 = some (0, 4, 0, .iconst 1, 1) := Fm0 (dk_4 (dk_at s0_29 0 rfl rfl)) rfl
theorem f0_729 : ft 0 729 = some (0, 4, 0, .iadd, 1) := Fm0 (dk_96 (dk_at s0_29 1 rfl rfl)) rfl
theorem f0_730 : ft 0 730 = some (0, 4, 0, .iaload, 1) := Fm0 (dk_46 (dk_at s0_29 2 rfl rfl)) rfl
theorem f0_731 : ft 0 731 = some (0, 4, 0, .aload_n 0, 1) := Fm0 (dk_42 (dk_at s0_29 3 rfl rfl)) rfl
theorem f0_732 : ft 0 732 = some (0, 4, 0, .iload 4, 2) := Fm0 (dk_21 4 (dk_at s0_29 4 rfl rfl)) rfl
theorem f0_734 : ft 0 734 = some (0, 4, 0, .iconst 2, 1) := Fm0 (dk_5 (dk_at s0_29 6 rfl rfl)) rfl
theorem f0_735 : ft 0 735 = some (0, 4, 0, .iadd, 1) := Fm0 (dk_96 (dk_at s0_29 7 rfl rfl)) rfl
theorem f0_736 : ft 0 736 = some (0, 4, 0, .iaload, 1) := Fm0 (dk_46 (dk_at s0_29 8 rfl rfl)) rfl
theorem f0_737 : ft 0 737 = some (0, 4, 0, .aload_n 3, 1) := Fm0 (dk_45 (dk_at s0_29 9 rfl rfl)) rfl
theorem f0_738 : ft 0 738 = some (0, 4, 0, .invokestatic 119, 3) := Fm0 (dk_184 0 119 (dk_at s0_29 10 rfl rfl)) rfl
theorem f0_741 : ft 0 741 = some (0, 4, 0, .istore 5, 2) := Fm0 (dk_54 5 (dk_at s0_29 13 rfl rfl)) rfl
theorem f0_743 : ft 0 743 = some (0, 4, 0, .aload_n 2, 1) := Fm0 (dk_44 (dk_at s0_29 15 rfl rfl)) rfl
theorem f0_744 : ft 0 744 = some (0, 4, 0, .aload_n 0, 1) := Fm0 (dk_42 (dk_at s0_29 16 rfl rfl)) rfl
theorem f0_745 : ft 0 745 = some (0, 4, 0, .iload 4, 2) := Fm0 (dk_21 4 (dk_at s0_29 17 rfl rfl)) rfl
theorem f0_747 : ft 0 747 = some (0, 4, 0, .iconst 1, 1) := Fm0 (dk_4 (dk_at s0_29 19 rfl rfl)) rfl
theorem f0_748 : ft 0 748 = some (0, 4, 0, .iadd, 1) := Fm0 (dk_96 (dk_at s0_29 20 rfl rfl)) rfl
theorem f0_749 : ft 0 749 = some (0, 4, 0, .iaload, 1) := Fm0 (dk_46 (dk_at s0_29 21 rfl rfl)) rfl
theorem f0_750 : ft 0 750 = some (0, 4, 0, .aload_n 0, 1) := Fm0 (dk_42 (dk_at s0_29 22 rfl rfl)) rfl
theorem f0_751 : ft 0 751 = some (0, 4, 0, .iload 4, 2) := Fm0 (dk_21 4 (dk_at s0_30 0 rfl rfl)) rfl
theorem f0_753 : ft 0 753 = some (0, 4, 0, .iconst 2, 1) := Fm0 (dk_5 (dk_at s0_30 2 rfl rfl)) rfl
theorem f0_754 : ft 0 754 = some (0, 4, 0, .iadd, 1) := Fm0 (dk_96 (dk_at s0_30 3 rfl rfl)) rfl
theorem f0_755 : ft 0 755 = some (0, 4, 0, .iaload, 1) := Fm0 (dk_46 (dk_at s0_30 4 rfl rfl)) rfl
theorem f0_756 : ft 0 756 = some (0, 4, 0, .invokevirtual 121, 3) := Fm0 (dk_182 0 121 (dk_at s0_30 5 rfl rfl)) rfl
theorem f0_759 : ft 0 759 = some (0, 4, 0, .istore 6, 2) := Fm0 (dk_54 6 (dk_at s0_30 8 rfl rfl)) rfl
theorem f0_761 : ft 0 761 = some (0, 4, 0, .aload_n 2, 1) := Fm0 (dk_44 (dk_at s0_30 10 rfl rfl)) rfl
theorem f0_762 : ft 0 762 = some (0, 4, 0, .invokevirtual 82, 3) := Fm0 (dk_182 0 82 (dk_at s0_30 11 rfl rfl)) rfl
theorem f0_765 : ft 0 765 = some (0, 4, 0, .iload 5, 2) := Fm0 (dk_21 5 (dk_at s0_30 14 rfl rfl)) rfl
theorem f0_767 : ft 0 767 = some (0, 4, 0, .if_icmp .eq 5, 3) := Fm0 (dk_159 0 5 (dk_at s0_30 16 rfl rfl)) rfl
theorem f0_770 : ft 0 770 = some (0, 4, 0, .iconst 0, 1) := Fm0 (dk_3 (dk_at s0_30 19 rfl rfl)) rfl
theorem f0_771 : ft 0 771 = some (0, 4, 0, .ireturn, 1) := Fm0 (dk_172 (dk_at s0_30 20 rfl rfl)) rfl
theorem f0_772 : ft 0 772 = some (0, 4, 0, .iload 5, 2) := Fm0 (dk_21 5 (dk_at s0_30 21 rfl rfl)) rfl
theorem f0_774 : ft 0 774 = some (0, 4, 0, .ifCond .ne 15, 3) := Fm0 (dk_154 0 15 (dk_at s0_31 0 rfl rfl)) rfl
theorem f0_777 : ft 0 777 = some (0, 4, 0, .aload_n 3, 1) := Fm0 (dk_45 (dk_at s0_31 3 rfl rfl)) rfl
theorem f0_778 : ft 0 778 = some (0, 4, 0, .iconst 0, 1) := Fm0 (dk_3 (dk_at s0_31 4 rfl rfl)) rfl
theorem f0_779 : ft 0 779 = some (0, 4, 0, .laload, 1) := Fm0 (dk_47 (dk_at s0_31 5 rfl rfl)) rfl
theorem f0_780 : ft 0 780 = some (0, 4, 0, .iload 6, 2) := Fm0 (dk_21 6 (dk_at s0_31 6 rfl rfl)) rfl
theorem f0_782 : ft 0 782 = some (0, 4, 0, .i2l, 1) := Fm0 (dk_133 (dk_at s0_31 8 rfl rfl)) rfl
theorem f0_783 : ft 0 783 = some (0, 4, 0, .lcmp, 1) := Fm0 (dk_148 (dk_at s0_31 9 rfl rfl)) rfl
theorem f0_784 : ft 0 784 = some (0, 4, 0, .ifCond .eq 5, 3) := Fm0 (dk_153 0 5 (dk_at s0_31 10 rfl rfl)) rfl
theorem f0_787 : ft 0 787 = some (0, 4, 0, .iconst 0, 1) := Fm0 (dk_3 (dk_at s0_31 13 rfl rfl)) rfl
theorem f0_788 : ft 0 788 = some (0, 4, 0, .ireturn, 1) := Fm0 (dk_172 (dk_at s0_31 14 rfl rfl)) rfl
theorem f0_789 : ft 0 789 = some (0, 4, 0, .goto 163, 3) := Fm0 (dk_167 0 163 (dk_at s0_31 15 rfl rfl)) rfl
theorem f0_792 : ft 0 792 = some (0, 4, 0, .aload_n 1, 1) := Fm0 (dk_43 (dk_at s0_31 18 rfl rfl)) rfl
theorem f0_793 : ft 0 793 = some (0, 4, 0, .aload_n 0, 1) := Fm0 (dk_42 (dk_at s0_31 19 rfl rfl)) rfl
theorem f0_794 : ft 0 794 = some (0, 4, 0, .iload 4, 2) := Fm0 (dk_21 4 (dk_at s0_31 20 rfl rfl)) rfl
theorem f0_796 : ft 0 796 = some (0, 4, 0, .iconst 1, 1) := Fm0 (dk_4 (dk_at s0_31 22 rfl rfl)) rfl
theorem f0_797 : ft 0 797 = some (0, 4, 0, .iadd, 1) := Fm0 (dk_96 (dk_at s0_31 23 rfl rfl)) rfl
theorem f0_798 : ft 0 798 = some (0, 4, 0, .iaload, 1) := Fm0 (dk_46 (dk_at s0_32 0 rfl rfl)) rfl
theorem f0_799 : ft 0 799 = some (0, 4, 0, .invokestatic 122, 3) := Fm0 (dk_184 0 122 (dk_at s0_32 1 rfl rfl)) rfl
theorem f0_802 : ft 0 802 = some (0, 4, 0, .istore 5, 2) := Fm0 (dk_54 5 (dk_at s0_32 4 rfl rfl)) rfl
theorem f0_804 : ft 0 804 = some (0, 4, 0, .aload_n 2, 1) := Fm0 (dk_44 (dk_at s0_32 6 rfl rfl)) rfl
theorem f0_805 : ft 0 805 = some (0, 4, 0, .aload_n 0, 1) := Fm0 (dk_42 (dk_at s0_32 7 rfl rfl)) rfl
theorem f0_806 : ft 0 806 = some (0, 4, 0, .iload 4, 2) := Fm0 (dk_21 4 (dk_at s0_32 8 rfl rfl)) rfl
theorem f0_808 : ft 0 808 = some (0, 4, 0, .iconst 1, 1) := Fm0 (dk_4 (dk_at s0_32 10 rfl rfl)) rfl
theorem f0_809 : ft 0 809 = some (0, 4, 0, .iadd, 1) := Fm0 (dk_96 (dk_at s0_32 11 rfl rfl)) rfl
theorem f0_810 : ft 0 810 = some (0, 4, 0, .iaload, 1) := Fm0 (dk_46 (dk_at s0_32 12 rfl rfl)) rfl
theorem f0_811 : ft 0 811 = some (0, 4, 0, .invokevirtual 124, 3) := Fm0 (dk_182 0 124 (dk_at s0_32 13 rfl rfl)) rfl
theorem f0_814 : ft 0 814 = some (0, 4, 0, .aload_n 2, 1) := Fm0 (dk_44 (dk_at s0_32 16 rfl rfl)) rfl
theorem f0_815 : ft 0 815 = some (0, 4, 0, .invokevirtual 82, 3) := Fm0 (dk_182 0 82 (dk_at s0_32 17 rfl rfl)) rfl
theorem f0_818 : ft 0 818 = some (0, 4, 0, .iload 5, 2) := Fm0 (dk_21 5 (dk_at s0_32 20 rfl rfl)) rfl
theorem f0_820 : ft 0 820 = some (0, 4, 0, .if_icmp .eq 5, 3) := Fm0 (dk_159 0 5 (dk_at s0_33 0 rfl rfl)) rfl
theorem f0_823 : ft 0 823 = some (0, 4, 0, .iconst 0, 1) := Fm0 (dk_3 (dk_at s0_33 3 rfl rfl)) rfl
theorem f0_824 : ft 0 824 = some (0, 4, 0, .ireturn, 1) := Fm0 (dk_172 (dk_at s0_33 4 rfl rfl)) rfl
theorem f0_825 : ft 0 825 = some (0, 4, 0, .goto 127, 3) := Fm0 (dk_167 0 127 (dk_at s0_33 5 rfl rfl)) rfl
theorem f0_828 : ft 0 828 = some (0, 4, 0, .aload_n 1, 1) := Fm0 (dk_43 (dk_at s0_33 8 rfl rfl)) rfl
theorem f0_829 : ft 0 829 = some (0, 4, 0, .invokevirtual 125, 3) := Fm0 (dk_182 0 125 (dk_at s0_33 9 rfl rfl)) rfl
theorem f0_832 : ft 0 832 = some (0, 4, 0, .aload_n 2, 1) := Fm0 (dk_44 (dk_at s0_33 12 rfl rfl)) rfl
theorem f0_833 : ft 0 833 = some (0, 4, 0, .invokevirtual 128, 3) := Fm0 (dk_182 0 128 (dk_at s0_33 13 rfl rfl)) rfl
theorem f0_836 : ft 0 836 = some (0, 4, 0, .if_icmp .eq 116, 3) := Fm0 (dk_159 0 116 (dk_at s0_33 16 rfl rfl)) rfl
theorem f0_839 : ft 0 839 = some (0, 4, 0, .iconst 0, 1) := Fm0 (dk_3 (dk_at s0_33 19 rfl rfl)) rfl
theorem f0_840 : ft 0 840 = some (0, 4, 0, .ireturn, 1) := Fm0 (dk_172 (dk_at s0_33 20 rfl rfl)) rfl
theorem f0_841 : ft 0 841 = some (0, 4, 0, .aload_n 1, 1) := Fm0 (dk_43 (dk_at s0_33 21 rfl rfl)) rfl
theorem f0_842 : ft 0 842 = some (0, 4, 0, .aload_n 0, 1) := Fm0 (dk_42 (dk_at s0_33 22 rfl rfl)) rfl
theorem f0_843 : ft 0 843 = some (0, 4, 0, .iload 4, 2) := Fm0 (dk_21 4 (dk_at s0_34 0 rfl rfl)) rfl
theorem f0_845 : ft 0 845 = some (0, 4, 0, .iconst 1, 1) := Fm0 (dk_4 (dk_at s0_34 2 rfl rfl)) rfl
theorem f0_846 : ft 0 846 = some (0, 4, 0, .iadd, 1) := Fm0 (dk_96 (dk_at s0_34 3 rfl rfl)) rfl
theorem f0_847 : ft 0 847 = some (0, 4, 0, .iaload, 1) := Fm0 (dk_46 (dk_at s0_34 4 rfl rfl)) rfl
theorem f0_848 : ft 0 848 = some (0, 4, 0, .aload_n 3, 1) := Fm0 (dk_45 (dk_at s0_34 5 rfl rfl)) rfl
theorem f0_849 : ft 0 849 = some (0, 4, 0, .invokestatic 129, 3) := Fm0 (dk_184 0 129 (dk_at s0_34 6 rfl rfl)) rfl
theorem f0_852 : ft 0 852 = some (0, 4, 0, .istore 5, 2) := Fm0 (dk_54 5 (dk_at s0_34 9 rfl rfl)) rfl
theorem f0_854 : ft 0 854 = some (0, 4, 0, .aload_n 2, 1) := Fm0 (dk_44 (dk_at s0_34 11 rfl rfl)) rfl
theorem f0_855 : ft 0 855 = some (0, 4, 0, .aload_n 0, 1) := Fm0 (dk_42 (dk_at s0_34 12 rfl rfl)) rfl
theorem f0_856 : ft 0 856 = some (0, 4, 0, .iload 4, 2) := Fm0 (dk_21 4 (dk_at s0_34 13 rfl rfl)) rfl
theorem f0_858 : ft 0 858 = some (0, 4, 0, .iconst 1, 1) := Fm0 (dk_4 (dk_at s0_34 15 rfl rfl)) rfl
theorem f0_859 : ft 0 859 = some (0, 4, 0, .iadd, 1) := Fm0 (dk_96 (dk_at s0_34 16 rfl rfl)) rfl
theorem f0_860 : ft 0 860 = some (0, 4, 0, .iaload, 1) := Fm0 (dk_46 (dk_at s0_34 17 rfl rfl)) rfl
theorem f0_861 : ft 0 861 = some (0, 4, 0, .invokevirtual 131, 3) := Fm0 (dk_182 0 131 (dk_at s0_34 18 rfl rfl)) rfl
theorem f0_864 : ft 0 864 = some (0, 4, 0, .lstore 6, 2) := Fm0 (dk_55 6 (dk_at s0_34 21 rfl rfl)) rfl
theorem f0_866 : ft 0 866 = some (0, 4, 0, .aload_n 2, 1) := Fm0 (dk_44 (dk_at s0_34 23 rfl rfl)) rfl
theorem f0_867 : ft 0 867 = some (0, 4, 0, .invokevirtual 82, 3) := Fm0 (dk_182 0 82 (dk_at s0_35 0 rfl rfl)) rfl
theorem f0_870 : ft 0 870 = some (0, 4, 0, .iload 5, 2) := Fm0 (dk_21 5 (dk_at s0_35 3 rfl rfl)) rfl
theorem f0_872 : ft 0 872 = some (0, 4, 0, .if_icmp .eq 5, 3) := Fm0 (dk_159 0 5 (dk_at s0_35 5 rfl rfl)) rfl
theorem f0_875 : ft 0 875 = some (0, 4, 0, .iconst 0, 1) := Fm0 (dk_3 (dk_at s0_35 8 rfl rfl)) rfl
theorem f0_876 : ft 0 876 = some (0, 4, 0, .ireturn, 1) := Fm0 (dk_172 (dk_at s0_35 9 rfl rfl)) rfl
theorem f0_877 : ft 0 877 = some (0, 4, 0, .iload 5, 2) := Fm0 (dk_21 5 (dk_at s0_35 10 rfl rfl)) rfl
theorem f0_879 : ft 0 879 = some (0, 4, 0, .ifCond .ne 14, 3) := Fm0 (dk_154 0 14 (dk_at s0_35 12 rfl rfl)) rfl
theorem f0_882 : ft 0 882 = some (0, 4, 0, .aload_n 3, 1) := Fm0 (dk_45 (dk_at s0_35 15 rfl rfl)) rfl
theorem f0_883 : ft 0 883 = some (0, 4, 0, .iconst 0, 1) := Fm0 (dk_3 (dk_at s0_35 16 rfl rfl)) rfl
theorem f0_884 : ft 0 884 = some (0, 4, 0, .laload, 1) := Fm0 (dk_47 (dk_at s0_35 17 rfl rfl)) rfl
theorem f0_885 : ft 0 885 = some (0, 4, 0, .lload 6, 2) := Fm0 (dk_22 6 (dk_at s0_35 18 rfl rfl)) rfl
theorem f0_887 : ft 0 887 = some (0, 4, 0, .lcmp, 1) := Fm0 (dk_148 (dk_at s0_35 20 rfl rfl)) rfl
theorem f0_888 : ft 0 888 = some (0, 4, 0, .ifCond .eq 5, 3) := Fm0 (dk_153 0 5 (dk_at s0_35 21 rfl rfl)) rfl
theorem f0_891 : ft 0 891 = some (0, 4, 0, .iconst 0, 1) := Fm0 (dk_3 (dk_at s0_36 0 rfl rfl)) rfl
theorem f0_892 : ft 0 892 = some (0, 4, 0, .ireturn, 1) := Fm0 (dk_172 (dk_at s0_36 1 rfl rfl)) rfl
theorem f0_893 : ft 0 893 = some (0, 4, 0, .goto 59, 3) := Fm0 (dk_167 0 59 (dk_at s0_36 2 rfl rfl)) rfl
theorem f0_896 : ft 0 896 = some (0, 4, 0, .aload_n 1, 1) := Fm0 (dk_43 (dk_at s0_36 5 rfl rfl)) rfl
theorem f0_897 : ft 0 897 = some (0, 4, 0, .aload_n 0, 1) := Fm0 (dk_42 (dk_at s0_36 6 rfl rfl)) rfl
theorem f0_898 : ft 0 898 = some (0, 4, 0, .iload 4, 2) := Fm0 (dk_21 4 (dk_at s0_36 7 rfl rfl)) rfl
theorem f0_900 : ft 0 900 = some (0, 4, 0, .iconst 1, 1) := Fm0 (dk_4 (dk_at s0_36 9 rfl rfl)) rfl
theorem f0_901 : ft 0 901 = some (0, 4, 0, .iadd, 1) := Fm0 (dk_96 (dk_at s0_36 10 rfl rfl)) rfl
theorem f0_902 : ft 0 902 = some (0, 4, 0, .iaload, 1) := Fm0 (dk_46 (dk_at s0_36 11 rfl rfl)) rfl
theorem f0_903 : ft 0 903 = some (0, 4, 0, .aload_n 3, 1) := Fm0 (dk_45 (dk_at s0_36 12 rfl rfl)) rfl
theorem f0_904 : ft 0 904 = some (0, 4, 0, .invokestatic 132, 3) := Fm0 (dk_184 0 132 (dk_at s0_36 13 rfl rfl)) rfl
theorem f0_907 : ft 0 907 = some (0, 4, 0, .istore 5, 2) := Fm0 (dk_54 5 (dk_at s0_36 16 rfl rfl)) rfl
theorem f0_909 : ft 0 909 = some (0, 4, 0, .aload_n 2, 1) := Fm0 (dk_44 (dk_at s0_36 18 rfl rfl)) rfl
theorem f0_910 : ft 0 910 = some (0, 4, 0, .aload_n 0, 1) := Fm0 (dk_42 (dk_at s0_36 19 rfl rfl)) rfl
theorem f0_911 : ft 0 911 = some (0, 4, 0, .iload 4, 2) := Fm0 (dk_21 4 (dk_at s0_36 20 rfl rfl)) rfl
theorem f0_913 : ft 0 913 = some (0, 4, 0, .iconst 1, 1) := Fm0 (dk_4 (dk_at s0_36 22 rfl rfl)) rfl
theorem f0_914 : ft 0 914 = some (0, 4, 0, .iadd, 1) := Fm0 (dk_96 (dk_at s0_36 23 rfl rfl)) rfl
theorem f0_915 : ft 0 915 = some (0, 4, 0, .iaload, 1) := Fm0 (dk_46 (dk_at s0_37 0 rfl rfl)) rfl
theorem f0_916 : ft 0 916 = some (0, 4, 0, .invokevirtual 134, 3) := Fm0 (dk_182 0 134 (dk_at s0_37 1 rfl rfl)) rfl
theorem f0_919 : ft 0 919 = some (0, 4, 0, .istore 6, 2) := Fm0 (dk_54 6 (dk_at s0_37 4 rfl rfl)) rfl
theorem f0_921 : ft 0 921 = some (0, 4, 0, .aload_n 2, 1) := Fm0 (dk_44 (dk_at s0_37 6 rfl rfl)) rfl
theorem f0_922 : ft 0 922 = some (0, 4, 0, .invokevirtual 82, 3) := Fm0 (dk_182 0 82 (dk_at s0_37 7 rfl rfl)) rfl
theorem f0_925 : ft 0 925 = some (0, 4, 0, .iload 5, 2) := Fm0 (dk_21 5 (dk_at s0_37 10 rfl rfl)) rfl
theorem f0_927 : ft 0 927 = some (0, 4, 0, .if_icmp .eq 5, 3) := Fm0 (dk_159 0 5 (dk_at s0_37 12 rfl rfl)) rfl
theorem f0_930 : ft 0 930 = some (0, 4, 0, .iconst 0, 1) := Fm0 (dk_3 (dk_at s0_37 15 rfl rfl)) rfl
theorem f0_931 : ft 0 931 = some (0, 4, 0, .ireturn, 1) := Fm0 (dk_172 (dk_at s0_37 16 rfl rfl)) rfl
theorem f0_932 : ft 0 932 = some (0, 4, 0, .iload 5, 2) := Fm0 (dk_21 5 (dk_at s0_37 17 rfl rfl)) rfl
theorem f0_934 : ft 0 934 = some (0, 4, 0, .ifCond .ne 15, 3) := Fm0 (dk_154 0 15 (dk_at s0_37 19 rfl rfl)) rfl
theorem f0_937 : ft 0 937 = some (0, 4, 0, .aload_n 3, 1) := Fm0 (dk_45 (dk_at s0_37 22 rfl rfl)) rfl
theorem f0_938 : ft 0 938 = some (0, 4, 0, .iconst 0, 1) := Fm0 (dk_3 (dk_at s0_37 23 rfl rfl)) rfl
theorem f0_939 : ft 0 939 = some (0, 4, 0, .laload, 1) := Fm0 (dk_47 (dk_at s0_38 0 rfl rfl)) rfl
theorem f0_940 : ft 0 940 = some (0, 4, 0, .iload 6, 2) := Fm0 (dk_21 6 (dk_at s0_38 1 rfl rfl)) rfl
theorem f0_942 : ft 0 942 = some (0, 4, 0, .i2l, 1) := Fm0 (dk_133 (dk_at s0_38 3 rfl rfl)) rfl
theorem f0_943 : ft 0 943 = some (0, 4, 0, .lcmp, 1) := Fm0 (dk_148 (dk_at s0_38 4 rfl rfl)) rfl
theorem f0_944 : ft 0 944 = some (0, 4, 0, .ifCond .eq 5, 3) := Fm0 (dk_153 0 5 (dk_at s0_38 5 rfl rfl)) rfl
theorem f0_947 : ft 0 947 = some (0, 4, 0, .iconst 0, 1) := Fm0 (dk_3 (dk_at s0_38 8 rfl rfl)) rfl
theorem f0_948 : ft 0 948 = some (0, 4, 0, .ireturn, 1) := Fm0 (dk_172 (dk_at s0_38 9 rfl rfl)) rfl
theorem f0_949 : ft 0 949 = some (0, 4, 0, .goto 3, 3) := Fm0 (dk_167 0 3 (dk_at s0_38 10 rfl rfl)) rfl
theorem f0_952 : ft 0 952 = some (0, 4, 0, .iinc 4 6, 3) := Fm0 (dk_132 4 6 (dk_at s0_38 13 rfl rfl)) rfl
theorem f0_955 : ft 0 955 = some (0, 4, 0, .goto (-932), 3) := Fm0 (dk_167 252 92 (dk_at s0_38 16 rfl rfl)) rfl
theorem f0_958 : ft 0 958 = some (0, 4, 0, .iconst 1, 1) := Fm0 (dk_4 (dk_at s0_38 19 rfl rfl)) rfl
theorem f0_959 : ft 0 959 = some (0, 4, 0, .ireturn, 1) := Fm0 (dk_172 (dk_at s0_38 20 rfl rfl)) rfl
theorem q0 {d : Nat} {m : Mem} {a0 : Int} (hd : 0 < d) (hz : TZ m) : le2 (nw (nx m) (mal m 1 23) fun o1 m1 => bVh (cl (d - 1) 16 [pR o1] m1) (fun m2 => nw (nx m2) (mal m2 11 38) fun o3 m3 => bVh (cl (d - 1) 185 [pR o3] m3) (fun m4 => nw (nx m4) (mal m4 1102 1) fun o5 m5 => rn d 0 23 [pR a0, pR o1, pR o3, pR o5, pI 0, pU, pU, pU] [] m5) fun x6 m6 => none) fun x7 m7 => none) (cl d 0 [pR a0] m) := by
  refine q_in (n := 8) (L := [pR a0, pU, pU, pU, pU, pU, pU, pU]) rfl rfl rfl ?_
  refine r_new (t1 := 1) (f1 := 23) (p := 3) f0_0 rfl rfl rfl rfl rfl (fun o1 m1 h1 k1 => ?_)
  have hz1 := z_k k1 hz
  refine r_dup (p := 4) f0_3 rfl rfl ?_
  refine r_ispVh (p := 7) f0_4 rfl rfl rfl (Or.inl h1) hd (Nat.le_of_ble_eq_true rfl) rfl rfl (fun m2 c2 => ?_) (fun x7 m7 c7 => ?_)
  · have hz2 := z_k c2 hz1
    refine r_asn1 (p := 8) f0_7 rfl rfl ?_
    refine r_new (t1 := 11) (f1 := 38) (p := 11) f0_8 rfl rfl rfl rfl rfl (fun o3 m3 h2 k3 => ?_)
    have hz3 := z_k k3 hz2
    refine r_dup (p := 12) f0_11 rfl rfl ?_
    refine r_ispVh (p := 15) f0_12 rfl rfl rfl (Or.inl h2) hd (Nat.le_of_ble_eq_true rfl) rfl rfl (fun m4 c4 => ?_) (fun x6 m6 c6 => ?_)
    · have hz4 := z_k c4 hz3
      refine r_asn2 (p := 16) f0_15 rfl rfl ?_
      refine r_iconst (p := 17) f0_16 rfl (pinD rfl rfl) ?_
      refine r_newa (t1 := 1102) (p := 19) f0_17 rfl rfl (pinE rfl rfl) rfl rfl (fun o5 m5 h3 k5 => ?_)
      have hz5 := z_k k5 hz4
      refine r_asn3 (p := 20) f0_19 rfl rfl ?_
      refine r_iconst (p := 21) f0_20 rfl (pinD rfl rfl) ?_
      refine r_isw4 (p := 23) f0_21 rfl rfl ?_
      exact le2_refl _
    · have hz6 := z_k c6 hz3
      exact le2_none
  · have hz7 := z_k c7 hz1
    exact le2_none
theorem q0_23 {d : Nat} {m : Mem} {a0 a1 a2 a3 a4 : Int} {z5 z6 : PV} (hd : 0 < d) (hz : TZ m) (hcz5 : cat z5 = 1) : le2 (gd (tg m a0 % 1000 = 101) <| if (w32 ((ln m a0) - 6)) < a4 then (some (.inl (some (pI 1)), m)) else gd ((0 : Int) ≤ a4 ∧ a4 < ln m a0) <| nm (pAnd (vl m a0 a4) 15) fun v95 => if v95 = 0 then (nm (w32 (a4 + 1)) fun v96 => gd ((0 : Int) ≤ v96 ∧ v96 < ln m a0) <| nm (w32 (a4 + 2)) fun v97 => gd ((0 : Int) ≤ v97 ∧ v97 < ln m a0) <| nm (w32 (a4 + 3)) fun v98 => gd ((0 : Int) ≤ v98 ∧ v98 < ln m a0) <| nm (w32 (a4 + 4)) fun v99 => gd ((0 : Int) ≤ v99 ∧ v99 < ln m a0) <| nm (w32 (a4 + 5)) fun v100 => gd ((0 : Int) ≤ v100 ∧ v100 < ln m a0) <| bIh (cl (d - 1) 1 [pR a1, pI (vl m a0 v96), pI (vl m a0 v97), pI (vl m a0 v98), pI (vl m a0 v99), pI (vl m a0 v100), pR a3] m) (fun v89 m89 => nm (w32 (a4 + 1)) fun v101 => gd ((0 : Int) ≤ v101 ∧ v101 < ln m89 a0) <| nm (w32 (a4 + 2)) fun v102 => gd ((0 : Int) ≤ v102 ∧ v102 < ln m89 a0) <| nm (w32 (a4 + 3)) fun v103 => gd ((0 : Int) ≤ v103 ∧ v103 < ln m89 a0) <| nm (w32 (a4 + 4)) fun v104 => gd ((0 : Int) ≤ v104 ∧ v104 < ln m89 a0) <| nm (w32 (a4 + 5)) fun v105 => gd ((0 : Int) ≤ v105 ∧ v105 < ln m89 a0) <| gd (tg m89 a2 = 11) <| bIh (cl (d - 1) 187 [pR a2, pI (vl m89 a0 v101), pI (vl m89 a0 v102), pI (vl m89 a0 v103), pI (vl m89 a0 v104), pI (vl m89 a0 v105)] m89) (fun v90 m90 => bIh (cl (d - 1) 186 [pR a2] m90) (fun v91 m91 => if v91 = v89 then (if v89 = 0 then (gd (tg m91 a3 = 1102) <| gd ((0 : Int) ≤ 0 ∧ 0 < ln m91 a3) <| if (vl m91 a3 0) = v90 then (rn d 0 23 [pR a0, pR a1, pR a2, pR a3, pI (w32 (a4 + 6)), pI v89, pI v90, pU] [] m91) else some (.inl (some (pI 0)), m91)) else rn d 0 23 [pR a0, pR a1, pR a2, pR a3, pI (w32 (a4 + 6)), pI v89, pI v90, pU] [] m91) else some (.inl (some (pI 0)), m91)) fun x92 m92 => none) fun x93 m93 => none) fun x94 m94 => none) else if v95 = 1 then (nm (w32 (a4 + 1)) fun v106 => gd ((0 : Int) ≤ v106 ∧ v106 < ln m a0) <| bIh (cl (d - 1) 2 [pR a1, pI (vl m a0 v106), pR a3] m) (fun v83 m83 => nm (w32 (a4 + 1)) fun v107 => gd ((0 : Int) ≤ v107 ∧ v107 < ln m83 a0) <| gd (tg m83 a2 = 11) <| bIh (cl (d - 1) 190 [pR a2, pI (vl m83 a0 v107)] m83) (fun v84 m84 => bIh (cl (d - 1) 186 [pR a2] m84) (fun v85 m85 => if v85 = v83 then (if v83 = 0 then (gd (tg m85 a3 = 1102) <| gd ((0 : Int) ≤ 0 ∧ 0 < ln m85 a3) <| if (vl m85 a3 0) = v84 then (rn d 0 23 [pR a0, pR a1, pR a2, pR a3, pI (w32 (a4 + 6)), pI v83, pI v84, pU] [] m85) else some (.inl (some (pI 0)), m85)) else rn d 0 23 [pR a0, pR a1, pR a2, pR a3, pI (w32 (a4 + 6)), pI v83, pI v84, pU] [] m85) else some (.inl (some (pI 0)), m85)) fun x86 m86 => none) fun x87 m87 => none) fun x88 m88 => none) else if v95 = 2 then (nm (w32 (a4 + 1)) fun v108 => gd ((0 : Int) ≤ v108 ∧ v108 < ln m a0) <| bIh (cl (d - 1) 3 [pR a1, pI (vl m a0 v108), pR a3] m) (fun v77 m77 => nm (w32 (a4 + 1)) fun v109 => gd ((0 : Int) ≤ v109 ∧ v109 < ln m77 a0) <| gd (tg m77 a2 = 11) <| bIh (cl (d - 1) 193 [pR a2, pI (vl m77 a0 v109)] m77) (fun v78 m78 => bIh (cl (d - 1) 186 [pR a2] m78) (fun v79 m79 => if v79 = v77 then (if v77 = 0 then (gd (tg m79 a3 = 1102) <| gd ((0 : Int) ≤ 0 ∧ 0 < ln m79 a3) <| if (vl m79 a3 0) = v78 then (rn d 0 23 [pR a0, pR a1, pR a2, pR a3, pI (w32 (a4 + 6)), pI v77, pI v78, pU] [] m79) else some (.inl (some (pI 0)), m79)) else rn d 0 23 [pR a0, pR a1, pR a2, pR a3, pI (w32 (a4 + 6)), pI v77, pI v78, pU] [] m79) else some (.inl (some (pI 0)), m79)) fun x80 m80 => none) fun x81 m81 => none) fun x82 m82 => none) else if v95 = 3 then (nm (w32 (a4 + 1)) fun v110 => gd ((0 : Int) ≤ v110 ∧ v110 < ln m a0) <| nm (w32 (a4 + 2)) fun v111 => gd ((0 : Int) ≤ v111 ∧ v111 < ln m a0) <| bIh (cl (d - 1) 4 [pR a1, pI (vl m a0 v110), pI (vl m a0 v111), pR a3] m) (fun v71 m71 => nm (w32 (a4 + 1)) fun v112 => gd ((0 : Int) ≤ v112 ∧ v112 < ln m71 a0) <| nm (w32 (a4 + 2)) fun v113 => gd ((0 : Int) ≤ v113 ∧ v113 < ln m71 a0) <| gd (tg m71 a2 = 11) <| bIh (cl (d - 1) 218 [pR a2, pI (vl m71 a0 v112), pI (vl m71 a0 v113)] m71) (fun v72 m72 => bIh (cl (d - 1) 186 [pR a2] m72) (fun v73 m73 => if v73 = v71 then (if v71 = 0 then (gd (tg m73 a3 = 1102) <| gd ((0 : Int) ≤ 0 ∧ 0 < ln m73 a3) <| if (vl m73 a3 0) = v72 then (rn d 0 23 [pR a0, pR a1, pR a2, pR a3, pI (w32 (a4 + 6)), pI v71, pI v72, pU] [] m73) else some (.inl (some (pI 0)), m73)) else rn d 0 23 [pR a0, pR a1, pR a2, pR a3, pI (w32 (a4 + 6)), pI v71, pI v72, pU] [] m73) else some (.inl (some (pI 0)), m73)) fun x74 m74 => none) fun x75 m75 => none) fun x76 m76 => none) else if v95 = 4 then (nm (w32 (a4 + 1)) fun v114 => gd ((0 : Int) ≤ v114 ∧ v114 < ln m a0) <| bIh (cl (d - 1) 5 [pR a1, pI (vl m a0 v114), pR a3] m) (fun v65 m65 => nm (w32 (a4 + 1)) fun v115 => gd ((0 : Int) ≤ v115 ∧ v115 < ln m65 a0) <| gd (tg m65 a2 = 11) <| bIh (cl (d - 1) 220 [pR a2, pI (vl m65 a0 v115)] m65) (fun v66 m66 => bIh (cl (d - 1) 186 [pR a2] m66) (fun v67 m67 => if v67 = v65 then (if v65 = 0 then (gd (tg m67 a3 = 1102) <| gd ((0 : Int) ≤ 0 ∧ 0 < ln m67 a3) <| if (vl m67 a3 0) = v66 then (rn d 0 23 [pR a0, pR a1, pR a2, pR a3, pI (w32 (a4 + 6)), pI v65, pI v66, pU] [] m67) else some (.inl (some (pI 0)), m67)) else rn d 0 23 [pR a0, pR a1, pR a2, pR a3, pI (w32 (a4 + 6)), pI v65, pI v66, pU] [] m67) else some (.inl (some (pI 0)), m67)) fun x68 m68 => none) fun x69 m69 => none) fun x70 m70 => none) else if v95 = 5 then (bIh (cl (d - 1) 6 [pR a1, pR a3] m) (fun v59 m59 => gd (tg m59 a2 = 11) <| bIh (cl (d - 1) 221 [pR a2] m59) (fun v60 m60 => bIh (cl (d - 1) 186 [pR a2] m60) (fun v61 m61 => if v61 = v59 then (if v59 = 0 then (gd (tg m61 a3 = 1102) <| gd ((0 : Int) ≤ 0 ∧ 0 < ln m61 a3) <| if (vl m61 a3 0) = v60 then (rn d 0 23 [pR a0, pR a1, pR a2, pR a3, pI (w32 (a4 + 6)), pI v59, pI v60, pU] [] m61) else some (.inl (some (pI 0)), m61)) else rn d 0 23 [pR a0, pR a1, pR a2, pR a3, pI (w32 (a4 + 6)), pI v59, pI v60, pU] [] m61) else some (.inl (some (pI 0)), m61)) fun x62 m62 => none) fun x63 m63 => none) fun x64 m64 => none) else if v95 = 6 then (nm (w32 (a4 + 1)) fun v116 => gd ((0 : Int) ≤ v116 ∧ v116 < ln m a0) <| bIh (cl (d - 1) 7 [pR a1, pI (vl m a0 v116), pR a3] m) (fun v53 m53 => nm (w32 (a4 + 1)) fun v117 => gd ((0 : Int) ≤ v117 ∧ v117 < ln m53 a0) <| gd (tg m53 a2 = 11) <| bIh (cl (d - 1) 226 [pR a2, pI (vl m53 a0 v117)] m53) (fun v54 m54 => bIh (cl (d - 1) 186 [pR a2] m54) (fun v55 m55 => if v55 = v53 then (if v53 = 0 then (gd (tg m55 a3 = 1102) <| gd ((0 : Int) ≤ 0 ∧ 0 < ln m55 a3) <| if (vl m55 a3 0) = v54 then (rn d 0 23 [pR a0, pR a1, pR a2, pR a3, pI (w32 (a4 + 6)), pI v53, pI v54, pU] [] m55) else some (.inl (some (pI 0)), m55)) else rn d 0 23 [pR a0, pR a1, pR a2, pR a3, pI (w32 (a4 + 6)), pI v53, pI v54, pU] [] m55) else some (.inl (some (pI 0)), m55)) fun x56 m56 => none) fun x57 m57 => none) fun x58 m58 => none) else if v95 = 7 then (nm (w32 (a4 + 1)) fun v118 => gd ((0 : Int) ≤ v118 ∧ v118 < ln m a0) <| bIh (cl (d - 1) 8 [pR a1, pI (vl m a0 v118)] m) (fun v47 m47 => nm (w32 (a4 + 1)) fun v119 => gd ((0 : Int) ≤ v119 ∧ v119 < ln m47 a0) <| gd (tg m47 a2 = 11) <| bVh (cl (d - 1) 222 [pR a2, pI (vl m47 a0 v119)] m47) (fun m48 => bIh (cl (d - 1) 186 [pR a2] m48) (fun v49 m49 => if v49 = v47 then (rn d 0 23 [pR a0, pR a1, pR a2, pR a3, pI (w32 (a4 + 6)), pI v47, z6, pU] [] m49) else some (.inl (some (pI 0)), m49)) fun x50 m50 => none) fun x51 m51 => none) fun x52 m52 => none) else if v95 = 8 then (nm (w32 (a4 + 1)) fun v120 => gd ((0 : Int) ≤ v120 ∧ v120 < ln m a0) <| bIh (cl (d - 1) 9 [pR a1, pI (vl m a0 v120)] m) (fun v41 m41 => nm (w32 (a4 + 1)) fun v121 => gd ((0 : Int) ≤ v121 ∧ v121 < ln m41 a0) <| gd (tg m41 a2 = 11) <| bVh (cl (d - 1) 223 [pR a2, pI (vl m41 a0 v121)] m41) (fun m42 => bIh (cl (d - 1) 186 [pR a2] m42) (fun v43 m43 => if v43 = v41 then (rn d 0 23 [pR a0, pR a1, pR a2, pR a3, pI (w32 (a4 + 6)), pI v41, z6, pU] [] m43) else some (.inl (some (pI 0)), m43)) fun x44 m44 => none) fun x45 m45 => none) fun x46 m46 => none) else if v95 = 9 then (nm (w32 (a4 + 1)) fun v122 => gd ((0 : Int) ≤ v122 ∧ v122 < ln m a0) <| bIh (cl (d - 1) 10 [pR a1, pI (vl m a0 v122), pR a3] m) (fun v35 m35 => nm (w32 (a4 + 1)) fun v123 => gd ((0 : Int) ≤ v123 ∧ v123 < ln m35 a0) <| gd (tg m35 a2 = 11) <| bIh (cl (d - 1) 242 [pR a2, pI (vl m35 a0 v123)] m35) (fun v36 m36 => bIh (cl (d - 1) 186 [pR a2] m36) (fun v37 m37 => if v37 = v35 then (if v35 = 0 then (gd (tg m37 a3 = 1102) <| gd ((0 : Int) ≤ 0 ∧ 0 < ln m37 a3) <| if (vl m37 a3 0) = v36 then (rn d 0 23 [pR a0, pR a1, pR a2, pR a3, pI (w32 (a4 + 6)), pI v35, pI v36, pU] [] m37) else some (.inl (some (pI 0)), m37)) else rn d 0 23 [pR a0, pR a1, pR a2, pR a3, pI (w32 (a4 + 6)), pI v35, pI v36, pU] [] m37) else some (.inl (some (pI 0)), m37)) fun x38 m38 => none) fun x39 m39 => none) fun x40 m40 => none) else if v95 = 10 then (nm (w32 (a4 + 1)) fun v124 => gd ((0 : Int) ≤ v124 ∧ v124 < ln m a0) <| bIh (cl (d - 1) 11 [pR a1, pI (vl m a0 v124)] m) (fun v29 m29 => nm (w32 (a4 + 1)) fun v125 => gd ((0 : Int) ≤ v125 ∧ v125 < ln m29 a0) <| gd (tg m29 a2 = 11) <| bVh (cl (d - 1) 275 [pR a2, pI (vl m29 a0 v125)] m29) (fun m30 => bIh (cl (d - 1) 186 [pR a2] m30) (fun v31 m31 => if v31 = v29 then (rn d 0 23 [pR a0, pR a1, pR a2, pR a3, pI (w32 (a4 + 6)), pI v29, z6, pU] [] m31) else some (.inl (some (pI 0)), m31)) fun x32 m32 => none) fun x33 m33 => none) fun x34 m34 => none) else if v95 = 11 then (nm (w32 (a4 + 1)) fun v126 => gd ((0 : Int) ≤ v126 ∧ v126 < ln m a0) <| nm (w32 (a4 + 2)) fun v127 => gd ((0 : Int) ≤ v127 ∧ v127 < ln m a0) <| bIh (cl (d - 1) 12 [pR a1, pI (vl m a0 v126), pI (vl m a0 v127), pR a3] m) (fun v23 m23 => nm (w32 (a4 + 1)) fun v128 => gd ((0 : Int) ≤ v128 ∧ v128 < ln m23 a0) <| nm (w32 (a4 + 2)) fun v129 => gd ((0 : Int) ≤ v129 ∧ v129 < ln m23 a0) <| gd (tg m23 a2 = 11) <| bIh (cl (d - 1) 276 [pR a2, pI (vl m23 a0 v128), pI (vl m23 a0 v129)] m23) (fun v24 m24 => bIh (cl (d - 1) 186 [pR a2] m24) (fun v25 m25 => if v25 = v23 then (if v23 = 0 then (gd (tg m25 a3 = 1102) <| gd ((0 : Int) ≤ 0 ∧ 0 < ln m25 a3) <| if (vl m25 a3 0) = v24 then (rn d 0 23 [pR a0, pR a1, pR a2, pR a3, pI (w32 (a4 + 6)), pI v23, pI v24, pU] [] m25) else some (.inl (some (pI 0)), m25)) else rn d 0 23 [pR a0, pR a1, pR a2, pR a3, pI (w32 (a4 + 6)), pI v23, pI v24, pU] [] m25) else some (.inl (some (pI 0)), m25)) fun x26 m26 => none) fun x27 m27 => none) fun x28 m28 => none) else if v95 = 12 then (nm (w32 (a4 + 1)) fun v130 => gd ((0 : Int) ≤ v130 ∧ v130 < ln m a0) <| bIh (cl (d - 1) 13 [pR a1, pI (vl m a0 v130)] m) (fun v17 m17 => nm (w32 (a4 + 1)) fun v131 => gd ((0 : Int) ≤ v131 ∧ v131 < ln m17 a0) <| gd (tg m17 a2 = 11) <| bVh (cl (d - 1) 224 [pR a2, pI (vl m17 a0 v131)] m17) (fun m18 => bIh (cl (d - 1) 186 [pR a2] m18) (fun v19 m19 => if v19 = v17 then (rn d 0 23 [pR a0, pR a1, pR a2, pR a3, pI (w32 (a4 + 6)), pI v17, z6, pU] [] m19) else some (.inl (some (pI 0)), m19)) fun x20 m20 => none) fun x21 m21 => none) fun x22 m22 => none) else if v95 = 13 then (gd (tg m a1 = 1) <| bIh (cl (d - 1) 17 [pR a1] m) (fun v13 m13 => gd (tg m13 a2 = 11) <| bIh (cl (d - 1) 225 [pR a2] m13) (fun v14 m14 => if v13 = v14 then (rn d 0 23 [pR a0, pR a1, pR a2, pR a3, pI (w32 (a4 + 6)), z5, z6, pU] [] m14) else some (.inl (some (pI 0)), m14)) fun x15 m15 => none) fun x16 m16 => none) else if v95 = 14 then (nm (w32 (a4 + 1)) fun v132 => gd ((0 : Int) ≤ v132 ∧ v132 < ln m a0) <| bIh (cl (d - 1) 14 [pR a1, pI (vl m a0 v132), pR a3] m) (fun v7 m7 => nm (w32 (a4 + 1)) fun v133 => gd ((0 : Int) ≤ v133 ∧ v133 < ln m7 a0) <| gd (tg m7 a2 = 11) <| bLh (cl (d - 1) 191 [pR a2, pI (vl m7 a0 v133)] m7) (fun v8 m8 => bIh (cl (d - 1) 186 [pR a2] m8) (fun v9 m9 => if v9 = v7 then (if v7 = 0 then (gd (tg m9 a3 = 1102) <| gd ((0 : Int) ≤ 0 ∧ 0 < ln m9 a3) <| if (vl m9 a3 0) = v8 then (rn d 0 23 [pR a0, pR a1, pR a2, pR a3, pI (w32 (a4 + 6)), pI v7, pL v8, pU] [] m9) else some (.inl (some (pI 0)), m9)) else rn d 0 23 [pR a0, pR a1, pR a2, pR a3, pI (w32 (a4 + 6)), pI v7, pL v8, pU] [] m9) else some (.inl (some (pI 0)), m9)) fun x10 m10 => none) fun x11 m11 => none) fun x12 m12 => none) else if v95 = 15 then (nm (w32 (a4 + 1)) fun v134 => gd ((0 : Int) ≤ v134 ∧ v134 < ln m a0) <| bIh (cl (d - 1) 15 [pR a1, pI (vl m a0 v134), pR a3] m) (fun v1 m1 => nm (w32 (a4 + 1)) fun v135 => gd ((0 : Int) ≤ v135 ∧ v135 < ln m1 a0) <| gd (tg m1 a2 = 11) <| bIh (cl (d - 1) 192 [pR a2, pI (vl m1 a0 v135)] m1) (fun v2 m2 => bIh (cl (d - 1) 186 [pR a2] m2) (fun v3 m3 => if v3 = v1 then (if v1 = 0 then (gd (tg m3 a3 = 1102) <| gd ((0 : Int) ≤ 0 ∧ 0 < ln m3 a3) <| if (vl m3 a3 0) = v2 then (rn d 0 23 [pR a0, pR a1, pR a2, pR a3, pI (w32 (a4 + 6)), pI v1, pI v2, pU] [] m3) else some (.inl (some (pI 0)), m3)) else rn d 0 23 [pR a0, pR a1, pR a2, pR a3, pI (w32 (a4 + 6)), pI v1, pI v2, pU] [] m3) else some (.inl (some (pI 0)), m3)) fun x4 m4 => none) fun x5 m5 => none) fun x6 m6 => none) else rn d 0 23 [pR a0, pR a1, pR a2, pR a3, pI (w32 (a4 + 6)), z5, z6, pU] [] m) (rn d 0 23 [pR a0, pR a1, pR a2, pR a3, pI a4, z5, z6, pU] [] m) := by
  refine r_ilw4 (p := 25) f0_23 rfl ?_
  refine r_aln0 (p := 26) f0_25 rfl ?_
  refine le2_gd (fun h1 => ?_)
  refine r_alen (p := 27) f0_26 rfl (by rw [h1]; decide) ?_
  refine r_bipush (p := 29) f0_27 rfl (pinD rfl rfl) ?_
  refine r_isub (p := 30) f0_29 rfl ?_
  refine r_icgt (t := 958) (p := 33) f0_30 (by decide) rfl rfl ?_ ?_
  · refine r_iconst (p := 959) f0_958 rfl (pinD rfl rfl) ?_
    exact r_iret4 f0_959 (by decide)
  · refine r_aln0 (p := 34) f0_33 rfl ?_
    refine r_ilw4 (p := 36) f0_34 rfl ?_
    refine le2_gd (fun h2 => ?_)
    refine r_iaload (p := 37) f0_36 rfl h1 h2 rfl ?_
    refine r_bipush (p := 39) f0_37 rfl (pinD rfl rfl) ?_
    refine r_iand (p := 40) f0_39 rfl ?_
    refine r_nmI (fun v95 ev95 => ?_)
    refine le2_ite (fun h111 => ?_) (fun h111 => ?_)
    · refine r_tsI (off := 80) (t := 120) f0_40 h111 rfl rfl (by decide) rfl ?_
      refine r_aln1 (p := 121) f0_120 rfl ?_
      refine r_aln0 (p := 122) f0_121 rfl ?_
      refine r_ilw4 (p := 124) f0_122 rfl ?_
      refine r_iconst (p := 125) f0_124 rfl (pinD rfl rfl) ?_
      refine r_iadd (p := 126) f0_125 rfl ?_
      refine r_nmI (fun v96 ev96 => ?_)
      refine le2_gd (fun h112 => ?_)
      refine r_iaload (p := 127) f0_126 rfl h1 h112 rfl ?_
      refine r_aln0 (p := 128) f0_127 rfl ?_
      refine r_ilw4 (p := 130) f0_128 rfl ?_
      refine r_iconst (p := 131) f0_130 rfl (pinD rfl rfl) ?_
      refine r_iadd (p := 132) f0_131 rfl ?_
      refine r_nmI (fun v97 ev97 => ?_)
      refine le2_gd (fun h113 => ?_)
      refine r_iaload (p := 133) f0_132 rfl h1 h113 rfl ?_
      refine r_aln0 (p := 134) f0_133 rfl ?_
      refine r_ilw4 (p := 136) f0_134 rfl ?_
      refine r_iconst (p := 137) f0_136 rfl (pinD rfl rfl) ?_
      refine r_iadd (p := 138) f0_137 rfl ?_
      refine r_nmI (fun v98 ev98 => ?_)
      refine le2_gd (fun h114 => ?_)
      refine r_iaload (p := 139) f0_138 rfl h1 h114 rfl ?_
      refine r_aln0 (p := 140) f0_139 rfl ?_
      refine r_ilw4 (p := 142) f0_140 rfl ?_
      refine r_iconst (p := 143) f0_142 rfl (pinD rfl rfl) ?_
      refine r_iadd (p := 144) f0_143 rfl ?_
      refine r_nmI (fun v99 ev99 => ?_)
      refine le2_gd (fun h115 => ?_)
      refine r_iaload (p := 145) f0_144 rfl h1 h115 rfl ?_
      refine r_aln0 (p := 146) f0_145 rfl ?_
      refine r_ilw4 (p := 148) f0_146 rfl ?_
      refine r_iconst (p := 149) f0_148 rfl (pinD rfl rfl) ?_
      refine r_iadd (p := 150) f0_149 rfl ?_
      refine r_nmI (fun v100 ev100 => ?_)
      refine le2_gd (fun h116 => ?_)
      refine r_iaload (p := 151) f0_150 rfl h1 h116 rfl ?_
      refine r_aln3 (p := 152) f0_151 rfl ?_
      refine r_istIh (p := 155) f0_152 rfl rfl rfl hd (Nat.le_of_ble_eq_true rfl) rfl rfl (fun v89 m89 c89 => ?_) (fun x94 m94 c94 => ?_)
      · have hz89 := z_k c89 hz
        refine r_isw5 (p := 157) f0_155 rfl rfl ?_
        refine r_aln2 (p := 158) f0_157 rfl ?_
        refine r_aln0 (p := 159) f0_158 rfl ?_
        refine r_ilw4 (p := 161) f0_159 rfl ?_
        refine r_iconst (p := 162) f0_161 rfl (pinD rfl rfl) ?_
        refine r_iadd (p := 163) f0_162 rfl ?_
        refine r_nmI (fun v101 ev101 => ?_)
        have h117 := k_tm c89 hz h1 (by decide)
        refine le2_gd (fun h118 => ?_)
        refine r_iaload (p := 164) f0_163 rfl h117 h118 rfl ?_
        refine r_aln0 (p := 165) f0_164 rfl ?_
        refine r_ilw4 (p := 167) f0_165 rfl ?_
        refine r_iconst (p := 168) f0_167 rfl (pinD rfl rfl) ?_
        refine r_iadd (p := 169) f0_168 rfl ?_
        refine r_nmI (fun v102 ev102 => ?_)
        refine le2_gd (fun h119 => ?_)
        refine r_iaload (p := 170) f0_169 rfl h117 h119 rfl ?_
        refine r_aln0 (p := 171) f0_170 rfl ?_
        refine r_ilw4 (p := 173) f0_171 rfl ?_
        refine r_iconst (p := 174) f0_173 rfl (pinD rfl rfl) ?_
        refine r_iadd (p := 175) f0_174 rfl ?_
        refine r_nmI (fun v103 ev103 => ?_)
        refine le2_gd (fun h120 => ?_)
        refine r_iaload (p := 176) f0_175 rfl h117 h120 rfl ?_
        refine r_aln0 (p := 177) f0_176 rfl ?_
        refine r_ilw4 (p := 179) f0_177 rfl ?_
        refine r_iconst (p := 180) f0_179 rfl (pinD rfl rfl) ?_
        refine r_iadd (p := 181) f0_180 rfl ?_
        refine r_nmI (fun v104 ev104 => ?_)
        refine le2_gd (fun h121 => ?_)
        refine r_iaload (p := 182) f0_181 rfl h117 h121 rfl ?_
        refine r_aln0 (p := 183) f0_182 rfl ?_
        refine r_ilw4 (p := 185) f0_183 rfl ?_
        refine r_iconst (p := 186) f0_185 rfl (pinD rfl rfl) ?_
        refine r_iadd (p := 187) f0_186 rfl ?_
        refine r_nmI (fun v105 ev105 => ?_)
        refine le2_gd (fun h122 => ?_)
        refine r_iaload (p := 188) f0_187 rfl h117 h122 rfl ?_
        refine le2_gd (fun h123 => ?_)
        refine r_invIh (p := 191) f0_188 rfl rfl rfl (Or.inl h123) hd (Nat.le_of_ble_eq_true rfl) rfl rfl (fun v90 m90 c90 => ?_) (fun x93 m93 c93 => ?_)
        · have hz90 := z_k c90 hz89
          refine r_isw6 (p := 193) f0_191 rfl rfl ?_
          refine r_aln2 (p := 194) f0_193 rfl ?_
          have h124 := k_t1 c90 hz89 h123 (by decide)
          refine r_invIh (p := 197) f0_194 rfl rfl rfl (Or.inl h124) hd (Nat.le_of_ble_eq_true rfl) rfl rfl (fun v91 m91 c91 => ?_) (fun x92 m92 c92 => ?_)
          · have hz91 := z_k c91 hz90
            refine r_ilw5 (p := 199) f0_197 rfl ?_
            refine r_iceq (t := 204) (p := 202) f0_199 (by decide) rfl rfl ?_ ?_
            · refine r_ilw5 (p := 206) f0_204 rfl ?_
              refine r_ifne (t := 221) (p := 209) f0_206 (by decide) rfl rfl ?_ ?_
              · refine r_aln3 (p := 210) f0_209 rfl ?_
                refine r_iconst (p := 211) f0_210 rfl (pinD rfl rfl) ?_
                refine le2_gd (fun h125 => ?_)
                refine le2_gd (fun h126 => ?_)
                refine r_laload (p := 212) f0_211 rfl (dj1 (fun x => x % 1000 = 102) h125 (by decide)) h126 rfl ?_
                refine r_ilw6 (p := 214) f0_212 rfl ?_
                refine r_i2l (p := 215) f0_214 rfl ?_
                refine r_lceq (p1 := 216) (t := 221) (p := 219) f0_215 rfl f0_216 (by decide) rfl rfl ?_ ?_
                · refine r_goto (p := 952) f0_221 (by decide) rfl ?_
                  refine r_iinc4 (p := 955) f0_952 rfl rfl ?_
                  refine r_goto (p := 23) f0_955 (by decide) rfl ?_
                  exact le2_refl _
                · refine r_iconst (p := 220) f0_219 rfl (pinD rfl rfl) ?_
                  exact r_iret4 f0_220 (by decide)
              · refine r_goto (p := 952) f0_221 (by decide) rfl ?_
                refine r_iinc4 (p := 955) f0_952 rfl rfl ?_
                refine r_goto (p := 23) f0_955 (by decide) rfl ?_
                exact le2_refl _
            · refine r_iconst (p := 203) f0_202 rfl (pinD rfl rfl) ?_
              exact r_iret4 f0_203 (by decide)
          · have hz92 := z_k c92 hz90
            exact le2_none
        · have hz93 := z_k c93 hz89
          exact le2_none
      · have hz94 := z_k c94 hz
        exact le2_none
    · refine le2_ite (fun h103 => ?_) (fun h103 => ?_)
      · refine r_tsI (off := 184) (t := 224) f0_40 h103 rfl rfl (by decide) rfl ?_
        refine r_aln1 (p := 225) f0_224 rfl ?_
        refine r_aln0 (p := 226) f0_225 rfl ?_
        refine r_ilw4 (p := 228) f0_226 rfl ?_
        refine r_iconst (p := 229) f0_228 rfl (pinD rfl rfl) ?_
        refine r_iadd (p := 230) f0_229 rfl ?_
        refine r_nmI (fun v106 ev106 => ?_)
        refine le2_gd (fun h104 => ?_)
        refine r_iaload (p := 231) f0_230 rfl h1 h104 rfl ?_
        refine r_aln3 (p := 232) f0_231 rfl ?_
        refine r_istIh (p := 235) f0_232 rfl rfl rfl hd (Nat.le_of_ble_eq_true rfl) rfl rfl (fun v83 m83 c83 => ?_) (fun x88 m88 c88 => ?_)
        · have hz83 := z_k c83 hz
          refine r_isw5 (p := 237) f0_235 rfl rfl ?_
          refine r_aln2 (p := 238) f0_237 rfl ?_
          refine r_aln0 (p := 239) f0_238 rfl ?_
          refine r_ilw4 (p := 241) f0_239 rfl ?_
          refine r_iconst (p := 242) f0_241 rfl (pinD rfl rfl) ?_
          refine r_iadd (p := 243) f0_242 rfl ?_
          refine r_nmI (fun v107 ev107 => ?_)
          have h105 := k_tm c83 hz h1 (by decide)
          refine le2_gd (fun h106 => ?_)
          refine r_iaload (p := 244) f0_243 rfl h105 h106 rfl ?_
          refine le2_gd (fun h107 => ?_)
          refine r_invIh (p := 247) f0_244 rfl rfl rfl (Or.inl h107) hd (Nat.le_of_ble_eq_true rfl) rfl rfl (fun v84 m84 c84 => ?_) (fun x87 m87 c87 => ?_)
          · have hz84 := z_k c84 hz83
            refine r_isw6 (p := 249) f0_247 rfl rfl ?_
            refine r_aln2 (p := 250) f0_249 rfl ?_
            have h108 := k_t1 c84 hz83 h107 (by decide)
            refine r_invIh (p := 253) f0_250 rfl rfl rfl (Or.inl h108) hd (Nat.le_of_ble_eq_true rfl) rfl rfl (fun v85 m85 c85 => ?_) (fun x86 m86 c86 => ?_)
            · have hz85 := z_k c85 hz84
              refine r_ilw5 (p := 255) f0_253 rfl ?_
              refine r_iceq (t := 260) (p := 258) f0_255 (by decide) rfl rfl ?_ ?_
              · refine r_ilw5 (p := 262) f0_260 rfl ?_
                refine r_ifne (t := 277) (p := 265) f0_262 (by decide) rfl rfl ?_ ?_
                · refine r_aln3 (p := 266) f0_265 rfl ?_
                  refine r_iconst (p := 267) f0_266 rfl (pinD rfl rfl) ?_
                  refine le2_gd (fun h109 => ?_)
                  refine le2_gd (fun h110 => ?_)
                  refine r_laload (p := 268) f0_267 rfl (dj1 (fun x => x % 1000 = 102) h109 (by decide)) h110 rfl ?_
                  refine r_ilw6 (p := 270) f0_268 rfl ?_
                  refine r_i2l (p := 271) f0_270 rfl ?_
                  refine r_lceq (p1 := 272) (t := 277) (p := 275) f0_271 rfl f0_272 (by decide) rfl rfl ?_ ?_
                  · refine r_goto (p := 952) f0_277 (by decide) rfl ?_
                    refine r_iinc4 (p := 955) f0_952 rfl rfl ?_
                    refine r_goto (p := 23) f0_955 (by decide) rfl ?_
                    exact le2_refl _
                  · refine r_iconst (p := 276) f0_275 rfl (pinD rfl rfl) ?_
                    exact r_iret4 f0_276 (by decide)
                · refine r_goto (p := 952) f0_277 (by decide) rfl ?_
                  refine r_iinc4 (p := 955) f0_952 rfl rfl ?_
                  refine r_goto (p := 23) f0_955 (by decide) rfl ?_
                  exact le2_refl _
              · refine r_iconst (p := 259) f0_258 rfl (pinD rfl rfl) ?_
                exact r_iret4 f0_259 (by decide)
            · have hz86 := z_k c86 hz84
              exact le2_none
          · have hz87 := z_k c87 hz83
            exact le2_none
        · have hz88 := z_k c88 hz
          exact le2_none
      · refine le2_ite (fun h95 => ?_) (fun h95 => ?_)
        · refine r_tsI (off := 240) (t := 280) f0_40 h95 rfl rfl (by decide) rfl ?_
          refine r_aln1 (p := 281) f0_280 rfl ?_
          refine r_aln0 (p := 282) f0_281 rfl ?_
          refine r_ilw4 (p := 284) f0_282 rfl ?_
          refine r_iconst (p := 285) f0_284 rfl (pinD rfl rfl) ?_
          refine r_iadd (p := 286) f0_285 rfl ?_
          refine r_nmI (fun v108 ev108 => ?_)
          refine le2_gd (fun h96 => ?_)
          refine r_iaload (p := 287) f0_286 rfl h1 h96 rfl ?_
          refine r_aln3 (p := 288) f0_287 rfl ?_
          refine r_istIh (p := 291) f0_288 rfl rfl rfl hd (Nat.le_of_ble_eq_true rfl) rfl rfl (fun v77 m77 c77 => ?_) (fun x82 m82 c82 => ?_)
          · have hz77 := z_k c77 hz
            refine r_isw5 (p := 293) f0_291 rfl rfl ?_
            refine r_aln2 (p := 294) f0_293 rfl ?_
            refine r_aln0 (p := 295) f0_294 rfl ?_
            refine r_ilw4 (p := 297) f0_295 rfl ?_
            refine r_iconst (p := 298) f0_297 rfl (pinD rfl rfl) ?_
            refine r_iadd (p := 299) f0_298 rfl ?_
            refine r_nmI (fun v109 ev109 => ?_)
            have h97 := k_tm c77 hz h1 (by decide)
            refine le2_gd (fun h98 => ?_)
            refine r_iaload (p := 300) f0_299 rfl h97 h98 rfl ?_
            refine le2_gd (fun h99 => ?_)
            refine r_invIh (p := 303) f0_300 rfl rfl rfl (Or.inl h99) hd (Nat.le_of_ble_eq_true rfl) rfl rfl (fun v78 m78 c78 => ?_) (fun x81 m81 c81 => ?_)
            · have hz78 := z_k c78 hz77
              refine r_isw6 (p := 305) f0_303 rfl rfl ?_
              refine r_aln2 (p := 306) f0_305 rfl ?_
              have h100 := k_t1 c78 hz77 h99 (by decide)
              refine r_invIh (p := 309) f0_306 rfl rfl rfl (Or.inl h100) hd (Nat.le_of_ble_eq_true rfl) rfl rfl (fun v79 m79 c79 => ?_) (fun x80 m80 c80 => ?_)
              · have hz79 := z_k c79 hz78
                refine r_ilw5 (p := 311) f0_309 rfl ?_
                refine r_iceq (t := 316) (p := 314) f0_311 (by decide) rfl rfl ?_ ?_
                · refine r_ilw5 (p := 318) f0_316 rfl ?_
                  refine r_ifne (t := 333) (p := 321) f0_318 (by decide) rfl rfl ?_ ?_
                  · refine r_aln3 (p := 322) f0_321 rfl ?_
                    refine r_iconst (p := 323) f0_322 rfl (pinD rfl rfl) ?_
                    refine le2_gd (fun h101 => ?_)
                    refine le2_gd (fun h102 => ?_)
                    refine r_laload (p := 324) f0_323 rfl (dj1 (fun x => x % 1000 = 102) h101 (by decide)) h102 rfl ?_
                    refine r_ilw6 (p := 326) f0_324 rfl ?_
                    refine r_i2l (p := 327) f0_326 rfl ?_
                    refine r_lceq (p1 := 328) (t := 333) (p := 331) f0_327 rfl f0_328 (by decide) rfl rfl ?_ ?_
                    · refine r_goto (p := 952) f0_333 (by decide) rfl ?_
                      refine r_iinc4 (p := 955) f0_952 rfl rfl ?_
                      refine r_goto (p := 23) f0_955 (by decide) rfl ?_
                      exact le2_refl _
                    · refine r_iconst (p := 332) f0_331 rfl (pinD rfl rfl) ?_
                      exact r_iret4 f0_332 (by decide)
                  · refine r_goto (p := 952) f0_333 (by decide) rfl ?_
                    refine r_iinc4 (p := 955) f0_952 rfl rfl ?_
                    refine r_goto (p := 23) f0_955 (by decide) rfl ?_
                    exact le2_refl _
                · refine r_iconst (p := 315) f0_314 rfl (pinD rfl rfl) ?_
                  exact r_iret4 f0_315 (by decide)
              · have hz80 := z_k c80 hz78
                exact le2_none
            · have hz81 := z_k c81 hz77
              exact le2_none
          · have hz82 := z_k c82 hz
            exact le2_none
        · refine le2_ite (fun h85 => ?_) (fun h85 => ?_)
          · refine r_tsI (off := 296) (t := 336) f0_40 h85 rfl rfl (by decide) rfl ?_
            refine r_aln1 (p := 337) f0_336 rfl ?_
            refine r_aln0 (p := 338) f0_337 rfl ?_
            refine r_ilw4 (p := 340) f0_338 rfl ?_
            refine r_iconst (p := 341) f0_340 rfl (pinD rfl rfl) ?_
            refine r_iadd (p := 342) f0_341 rfl ?_
            refine r_nmI (fun v110 ev110 => ?_)
            refine le2_gd (fun h86 => ?_)
            refine r_iaload (p := 343) f0_342 rfl h1 h86 rfl ?_
            refine r_aln0 (p := 344) f0_343 rfl ?_
            refine r_ilw4 (p := 346) f0_344 rfl ?_
            refine r_iconst (p := 347) f0_346 rfl (pinD rfl rfl) ?_
            refine r_iadd (p := 348) f0_347 rfl ?_
            refine r_nmI (fun v111 ev111 => ?_)
            refine le2_gd (fun h87 => ?_)
            refine r_iaload (p := 349) f0_348 rfl h1 h87 rfl ?_
            refine r_aln3 (p := 350) f0_349 rfl ?_
            refine r_istIh (p := 353) f0_350 rfl rfl rfl hd (Nat.le_of_ble_eq_true rfl) rfl rfl (fun v71 m71 c71 => ?_) (fun x76 m76 c76 => ?_)
            · have hz71 := z_k c71 hz
              refine r_isw5 (p := 355) f0_353 rfl rfl ?_
              refine r_aln2 (p := 356) f0_355 rfl ?_
              refine r_aln0 (p := 357) f0_356 rfl ?_
              refine r_ilw4 (p := 359) f0_357 rfl ?_
              refine r_iconst (p := 360) f0_359 rfl (pinD rfl rfl) ?_
              refine r_iadd (p := 361) f0_360 rfl ?_
              refine r_nmI (fun v112 ev112 => ?_)
              have h88 := k_tm c71 hz h1 (by decide)
              refine le2_gd (fun h89 => ?_)
              refine r_iaload (p := 362) f0_361 rfl h88 h89 rfl ?_
              refine r_aln0 (p := 363) f0_362 rfl ?_
              refine r_ilw4 (p := 365) f0_363 rfl ?_
              refine r_iconst (p := 366) f0_365 rfl (pinD rfl rfl) ?_
              refine r_iadd (p := 367) f0_366 rfl ?_
              refine r_nmI (fun v113 ev113 => ?_)
              refine le2_gd (fun h90 => ?_)
              refine r_iaload (p := 368) f0_367 rfl h88 h90 rfl ?_
              refine le2_gd (fun h91 => ?_)
              refine r_invIh (p := 371) f0_368 rfl rfl rfl (Or.inl h91) hd (Nat.le_of_ble_eq_true rfl) rfl rfl (fun v72 m72 c72 => ?_) (fun x75 m75 c75 => ?_)
              · have hz72 := z_k c72 hz71
                refine r_isw6 (p := 373) f0_371 rfl rfl ?_
                refine r_aln2 (p := 374) f0_373 rfl ?_
                have h92 := k_t1 c72 hz71 h91 (by decide)
                refine r_invIh (p := 377) f0_374 rfl rfl rfl (Or.inl h92) hd (Nat.le_of_ble_eq_true rfl) rfl rfl (fun v73 m73 c73 => ?_) (fun x74 m74 c74 => ?_)
                · have hz73 := z_k c73 hz72
                  refine r_ilw5 (p := 379) f0_377 rfl ?_
                  refine r_iceq (t := 384) (p := 382) f0_379 (by decide) rfl rfl ?_ ?_
                  · refine r_ilw5 (p := 386) f0_384 rfl ?_
                    refine r_ifne (t := 401) (p := 389) f0_386 (by decide) rfl rfl ?_ ?_
                    · refine r_aln3 (p := 390) f0_389 rfl ?_
                      refine r_iconst (p := 391) f0_390 rfl (pinD rfl rfl) ?_
                      refine le2_gd (fun h93 => ?_)
                      refine le2_gd (fun h94 => ?_)
                      refine r_laload (p := 392) f0_391 rfl (dj1 (fun x => x % 1000 = 102) h93 (by decide)) h94 rfl ?_
                      refine r_ilw6 (p := 394) f0_392 rfl ?_
                      refine r_i2l (p := 395) f0_394 rfl ?_
                      refine r_lceq (p1 := 396) (t := 401) (p := 399) f0_395 rfl f0_396 (by decide) rfl rfl ?_ ?_
                      · refine r_goto (p := 952) f0_401 (by decide) rfl ?_
                        refine r_iinc4 (p := 955) f0_952 rfl rfl ?_
                        refine r_goto (p := 23) f0_955 (by decide) rfl ?_
                        exact le2_refl _
                      · refine r_iconst (p := 400) f0_399 rfl (pinD rfl rfl) ?_
                        exact r_iret4 f0_400 (by decide)
                    · refine r_goto (p := 952) f0_401 (by decide) rfl ?_
                      refine r_iinc4 (p := 955) f0_952 rfl rfl ?_
                      refine r_goto (p := 23) f0_955 (by decide) rfl ?_
                      exact le2_refl _
                  · refine r_iconst (p := 383) f0_382 rfl (pinD rfl rfl) ?_
                    exact r_iret4 f0_383 (by decide)
                · have hz74 := z_k c74 hz72
                  exact le2_none
              · have hz75 := z_k c75 hz71
                exact le2_none
            · have hz76 := z_k c76 hz
              exact le2_none
          · refine le2_ite (fun h77 => ?_) (fun h77 => ?_)
            · refine r_tsI (off := 364) (t := 404) f0_40 h77 rfl rfl (by decide) rfl ?_
              refine r_aln1 (p := 405) f0_404 rfl ?_
              refine r_aln0 (p := 406) f0_405 rfl ?_
              refine r_ilw4 (p := 408) f0_406 rfl ?_
              refine r_iconst (p := 409) f0_408 rfl (pinD rfl rfl) ?_
              refine r_iadd (p := 410) f0_409 rfl ?_
              refine r_nmI (fun v114 ev114 => ?_)
              refine le2_gd (fun h78 => ?_)
              refine r_iaload (p := 411) f0_410 rfl h1 h78 rfl ?_
              refine r_aln3 (p := 412) f0_411 rfl ?_
              refine r_istIh (p := 415) f0_412 rfl rfl rfl hd (Nat.le_of_ble_eq_true rfl) rfl rfl (fun v65 m65 c65 => ?_) (fun x70 m70 c70 => ?_)
              · have hz65 := z_k c65 hz
                refine r_isw5 (p := 417) f0_415 rfl rfl ?_
                refine r_aln2 (p := 418) f0_417 rfl ?_
                refine r_aln0 (p := 419) f0_418 rfl ?_
                refine r_ilw4 (p := 421) f0_419 rfl ?_
                refine r_iconst (p := 422) f0_421 rfl (pinD rfl rfl) ?_
                refine r_iadd (p := 423) f0_422 rfl ?_
                refine r_nmI (fun v115 ev115 => ?_)
                have h79 := k_tm c65 hz h1 (by decide)
                refine le2_gd (fun h80 => ?_)
                refine r_iaload (p := 424) f0_423 rfl h79 h80 rfl ?_
                refine le2_gd (fun h81 => ?_)
                refine r_invIh (p := 427) f0_424 rfl rfl rfl (Or.inl h81) hd (Nat.le_of_ble_eq_true rfl) rfl rfl (fun v66 m66 c66 => ?_) (fun x69 m69 c69 => ?_)
                · have hz66 := z_k c66 hz65
                  refine r_isw6 (p := 429) f0_427 rfl rfl ?_
                  refine r_aln2 (p := 430) f0_429 rfl ?_
                  have h82 := k_t1 c66 hz65 h81 (by decide)
                  refine r_invIh (p := 433) f0_430 rfl rfl rfl (Or.inl h82) hd (Nat.le_of_ble_eq_true rfl) rfl rfl (fun v67 m67 c67 => ?_) (fun x68 m68 c68 => ?_)
                  · have hz67 := z_k c67 hz66
                    refine r_ilw5 (p := 435) f0_433 rfl ?_
                    refine r_iceq (t := 440) (p := 438) f0_435 (by decide) rfl rfl ?_ ?_
                    · refine r_ilw5 (p := 442) f0_440 rfl ?_
                      refine r_ifne (t := 457) (p := 445) f0_442 (by decide) rfl rfl ?_ ?_
                      · refine r_aln3 (p := 446) f0_445 rfl ?_
                        refine r_iconst (p := 447) f0_446 rfl (pinD rfl rfl) ?_
                        refine le2_gd (fun h83 => ?_)
                        refine le2_gd (fun h84 => ?_)
                        refine r_laload (p := 448) f0_447 rfl (dj1 (fun x => x % 1000 = 102) h83 (by decide)) h84 rfl ?_
                        refine r_ilw6 (p := 450) f0_448 rfl ?_
                        refine r_i2l (p := 451) f0_450 rfl ?_
                        refine r_lceq (p1 := 452) (t := 457) (p := 455) f0_451 rfl f0_452 (by decide) rfl rfl ?_ ?_
                        · refine r_goto (p := 952) f0_457 (by decide) rfl ?_
                          refine r_iinc4 (p := 955) f0_952 rfl rfl ?_
                          refine r_goto (p := 23) f0_955 (by decide) rfl ?_
                          exact le2_refl _
                        · refine r_iconst (p := 456) f0_455 rfl (pinD rfl rfl) ?_
                          exact r_iret4 f0_456 (by decide)
                      · refine r_goto (p := 952) f0_457 (by decide) rfl ?_
                        refine r_iinc4 (p := 955) f0_952 rfl rfl ?_
                        refine r_goto (p := 23) f0_955 (by decide) rfl ?_
                        exact le2_refl _
                    · refine r_iconst (p := 439) f0_438 rfl (pinD rfl rfl) ?_
                      exact r_iret4 f0_439 (by decide)
                  · have hz68 := z_k c68 hz66
                    exact le2_none
                · have hz69 := z_k c69 hz65
                  exact le2_none
              · have hz70 := z_k c70 hz
                exact le2_none
            · refine le2_ite (fun h72 => ?_) (fun h72 => ?_)
              · refine r_tsI (off := 420) (t := 460) f0_40 h72 rfl rfl (by decide) rfl ?_
                refine r_aln1 (p := 461) f0_460 rfl ?_
                refine r_aln3 (p := 462) f0_461 rfl ?_
                refine r_istIh (p := 465) f0_462 rfl rfl rfl hd (Nat.le_of_ble_eq_true rfl) rfl rfl (fun v59 m59 c59 => ?_) (fun x64 m64 c64 => ?_)
                · have hz59 := z_k c59 hz
                  refine r_isw5 (p := 467) f0_465 rfl rfl ?_
                  refine r_aln2 (p := 468) f0_467 rfl ?_
                  refine le2_gd (fun h73 => ?_)
                  refine r_invIh (p := 471) f0_468 rfl rfl rfl (Or.inl h73) hd (Nat.le_of_ble_eq_true rfl) rfl rfl (fun v60 m60 c60 => ?_) (fun x63 m63 c63 => ?_)
                  · have hz60 := z_k c60 hz59
                    refine r_isw6 (p := 473) f0_471 rfl rfl ?_
                    refine r_aln2 (p := 474) f0_473 rfl ?_
                    have h74 := k_t1 c60 hz59 h73 (by decide)
                    refine r_invIh (p := 477) f0_474 rfl rfl rfl (Or.inl h74) hd (Nat.le_of_ble_eq_true rfl) rfl rfl (fun v61 m61 c61 => ?_) (fun x62 m62 c62 => ?_)
                    · have hz61 := z_k c61 hz60
                      refine r_ilw5 (p := 479) f0_477 rfl ?_
                      refine r_iceq (t := 484) (p := 482) f0_479 (by decide) rfl rfl ?_ ?_
                      · refine r_ilw5 (p := 486) f0_484 rfl ?_
                        refine r_ifne (t := 501) (p := 489) f0_486 (by decide) rfl rfl ?_ ?_
                        · refine r_aln3 (p := 490) f0_489 rfl ?_
                          refine r_iconst (p := 491) f0_490 rfl (pinD rfl rfl) ?_
                          refine le2_gd (fun h75 => ?_)
                          refine le2_gd (fun h76 => ?_)
                          refine r_laload (p := 492) f0_491 rfl (dj1 (fun x => x % 1000 = 102) h75 (by decide)) h76 rfl ?_
                          refine r_ilw6 (p := 494) f0_492 rfl ?_
                          refine r_i2l (p := 495) f0_494 rfl ?_
                          refine r_lceq (p1 := 496) (t := 501) (p := 499) f0_495 rfl f0_496 (by decide) rfl rfl ?_ ?_
                          · refine r_goto (p := 952) f0_501 (by decide) rfl ?_
                            refine r_iinc4 (p := 955) f0_952 rfl rfl ?_
                            refine r_goto (p := 23) f0_955 (by decide) rfl ?_
                            exact le2_refl _
                          · refine r_iconst (p := 500) f0_499 rfl (pinD rfl rfl) ?_
                            exact r_iret4 f0_500 (by decide)
                        · refine r_goto (p := 952) f0_501 (by decide) rfl ?_
                          refine r_iinc4 (p := 955) f0_952 rfl rfl ?_
                          refine r_goto (p := 23) f0_955 (by decide) rfl ?_
                          exact le2_refl _
                      · refine r_iconst (p := 483) f0_482 rfl (pinD rfl rfl) ?_
                        exact r_iret4 f0_483 (by decide)
                    · have hz62 := z_k c62 hz60
                      exact le2_none
                  · have hz63 := z_k c63 hz59
                    exact le2_none
                · have hz64 := z_k c64 hz
                  exact le2_none
              · refine le2_ite (fun h64 => ?_) (fun h64 => ?_)
                · refine r_tsI (off := 464) (t := 504) f0_40 h64 rfl rfl (by decide) rfl ?_
                  refine r_aln1 (p := 505) f0_504 rfl ?_
                  refine r_aln0 (p := 506) f0_505 rfl ?_
                  refine r_ilw4 (p := 508) f0_506 rfl ?_
                  refine r_iconst (p := 509) f0_508 rfl (pinD rfl rfl) ?_
                  refine r_iadd (p := 510) f0_509 rfl ?_
                  refine r_nmI (fun v116 ev116 => ?_)
                  refine le2_gd (fun h65 => ?_)
                  refine r_iaload (p := 511) f0_510 rfl h1 h65 rfl ?_
                  refine r_aln3 (p := 512) f0_511 rfl ?_
                  refine r_istIh (p := 515) f0_512 rfl rfl rfl hd (Nat.le_of_ble_eq_true rfl) rfl rfl (fun v53 m53 c53 => ?_) (fun x58 m58 c58 => ?_)
                  · have hz53 := z_k c53 hz
                    refine r_isw5 (p := 517) f0_515 rfl rfl ?_
                    refine r_aln2 (p := 518) f0_517 rfl ?_
                    refine r_aln0 (p := 519) f0_518 rfl ?_
                    refine r_ilw4 (p := 521) f0_519 rfl ?_
                    refine r_iconst (p := 522) f0_521 rfl (pinD rfl rfl) ?_
                    refine r_iadd (p := 523) f0_522 rfl ?_
                    refine r_nmI (fun v117 ev117 => ?_)
                    have h66 := k_tm c53 hz h1 (by decide)
                    refine le2_gd (fun h67 => ?_)
                    refine r_iaload (p := 524) f0_523 rfl h66 h67 rfl ?_
                    refine le2_gd (fun h68 => ?_)
                    refine r_invIh (p := 527) f0_524 rfl rfl rfl (Or.inl h68) hd (Nat.le_of_ble_eq_true rfl) rfl rfl (fun v54 m54 c54 => ?_) (fun x57 m57 c57 => ?_)
                    · have hz54 := z_k c54 hz53
                      refine r_isw6 (p := 529) f0_527 rfl rfl ?_
                      refine r_aln2 (p := 530) f0_529 rfl ?_
                      have h69 := k_t1 c54 hz53 h68 (by decide)
                      refine r_invIh (p := 533) f0_530 rfl rfl rfl (Or.inl h69) hd (Nat.le_of_ble_eq_true rfl) rfl rfl (fun v55 m55 c55 => ?_) (fun x56 m56 c56 => ?_)
                      · have hz55 := z_k c55 hz54
                        refine r_ilw5 (p := 535) f0_533 rfl ?_
                        refine r_iceq (t := 540) (p := 538) f0_535 (by decide) rfl rfl ?_ ?_
                        · refine r_ilw5 (p := 542) f0_540 rfl ?_
                          refine r_ifne (t := 557) (p := 545) f0_542 (by decide) rfl rfl ?_ ?_
                          · refine r_aln3 (p := 546) f0_545 rfl ?_
                            refine r_iconst (p := 547) f0_546 rfl (pinD rfl rfl) ?_
                            refine le2_gd (fun h70 => ?_)
                            refine le2_gd (fun h71 => ?_)
                            refine r_laload (p := 548) f0_547 rfl (dj1 (fun x => x % 1000 = 102) h70 (by decide)) h71 rfl ?_
                            refine r_ilw6 (p := 550) f0_548 rfl ?_
                            refine r_i2l (p := 551) f0_550 rfl ?_
                            refine r_lceq (p1 := 552) (t := 557) (p := 555) f0_551 rfl f0_552 (by decide) rfl rfl ?_ ?_
                            · refine r_goto (p := 952) f0_557 (by decide) rfl ?_
                              refine r_iinc4 (p := 955) f0_952 rfl rfl ?_
                              refine r_goto (p := 23) f0_955 (by decide) rfl ?_
                              exact le2_refl _
                            · refine r_iconst (p := 556) f0_555 rfl (pinD rfl rfl) ?_
                              exact r_iret4 f0_556 (by decide)
                          · refine r_goto (p := 952) f0_557 (by decide) rfl ?_
                            refine r_iinc4 (p := 955) f0_952 rfl rfl ?_
                            refine r_goto (p := 23) f0_955 (by decide) rfl ?_
                            exact le2_refl _
                        · refine r_iconst (p := 539) f0_538 rfl (pinD rfl rfl) ?_
                          exact r_iret4 f0_539 (by decide)
                      · have hz56 := z_k c56 hz54
                        exact le2_none
                    · have hz57 := z_k c57 hz53
                      exact le2_none
                  · have hz58 := z_k c58 hz
                    exact le2_none
                · refine le2_ite (fun h58 => ?_) (fun h58 => ?_)
                  · refine r_tsI (off := 520) (t := 560) f0_40 h58 rfl rfl (by decide) rfl ?_
                    refine r_aln1 (p := 561) f0_560 rfl ?_
                    refine r_aln0 (p := 562) f0_561 rfl ?_
                    refine r_ilw4 (p := 564) f0_562 rfl ?_
                    refine r_iconst (p := 565) f0_564 rfl (pinD rfl rfl) ?_
                    refine r_iadd (p := 566) f0_565 rfl ?_
                    refine r_nmI (fun v118 ev118 => ?_)
                    refine le2_gd (fun h59 => ?_)
                    refine r_iaload (p := 567) f0_566 rfl h1 h59 rfl ?_
                    refine r_istIh (p := 570) f0_567 rfl rfl rfl hd (Nat.le_of_ble_eq_true rfl) rfl rfl (fun v47 m47 c47 => ?_) (fun x52 m52 c52 => ?_)
                    · have hz47 := z_k c47 hz
                      refine r_isw5 (p := 572) f0_570 rfl rfl ?_
                      refine r_aln2 (p := 573) f0_572 rfl ?_
                      refine r_aln0 (p := 574) f0_573 rfl ?_
                      refine r_ilw4 (p := 576) f0_574 rfl ?_
                      refine r_iconst (p := 577) f0_576 rfl (pinD rfl rfl) ?_
                      refine r_iadd (p := 578) f0_577 rfl ?_
                      refine r_nmI (fun v119 ev119 => ?_)
                      have h60 := k_tm c47 hz h1 (by decide)
                      refine le2_gd (fun h61 => ?_)
                      refine r_iaload (p := 579) f0_578 rfl h60 h61 rfl ?_
                      refine le2_gd (fun h62 => ?_)
                      refine r_invVh (p := 582) f0_579 rfl rfl rfl (Or.inl h62) hd (Nat.le_of_ble_eq_true rfl) rfl rfl (fun m48 c48 => ?_) (fun x51 m51 c51 => ?_)
                      · have hz48 := z_k c48 hz47
                        refine r_aln2 (p := 583) f0_582 rfl ?_
                        have h63 := k_t1 c48 hz47 h62 (by decide)
                        refine r_invIh (p := 586) f0_583 rfl rfl rfl (Or.inl h63) hd (Nat.le_of_ble_eq_true rfl) rfl rfl (fun v49 m49 c49 => ?_) (fun x50 m50 c50 => ?_)
                        · have hz49 := z_k c49 hz48
                          refine r_ilw5 (p := 588) f0_586 rfl ?_
                          refine r_iceq (t := 593) (p := 591) f0_588 (by decide) rfl rfl ?_ ?_
                          · refine r_goto (p := 952) f0_593 (by decide) rfl ?_
                            refine r_iinc4 (p := 955) f0_952 rfl rfl ?_
                            refine r_goto (p := 23) f0_955 (by decide) rfl ?_
                            exact le2_refl _
                          · refine r_iconst (p := 592) f0_591 rfl (pinD rfl rfl) ?_
                            exact r_iret4 f0_592 (by decide)
                        · have hz50 := z_k c50 hz48
                          exact le2_none
                      · have hz51 := z_k c51 hz47
                        exact le2_none
                    · have hz52 := z_k c52 hz
                      exact le2_none
                  · refine le2_ite (fun h52 => ?_) (fun h52 => ?_)
                    · refine r_tsI (off := 556) (t := 596) f0_40 h52 rfl rfl (by decide) rfl ?_
                      refine r_aln1 (p := 597) f0_596 rfl ?_
                      refine r_aln0 (p := 598) f0_597 rfl ?_
                      refine r_ilw4 (p := 600) f0_598 rfl ?_
                      refine r_iconst (p := 601) f0_600 rfl (pinD rfl rfl) ?_
                      refine r_iadd (p := 602) f0_601 rfl ?_
                      refine r_nmI (fun v120 ev120 => ?_)
                      refine le2_gd (fun h53 => ?_)
                      refine r_iaload (p := 603) f0_602 rfl h1 h53 rfl ?_
                      refine r_istIh (p := 606) f0_603 rfl rfl rfl hd (Nat.le_of_ble_eq_true rfl) rfl rfl (fun v41 m41 c41 => ?_) (fun x46 m46 c46 => ?_)
                      · have hz41 := z_k c41 hz
                        refine r_isw5 (p := 608) f0_606 rfl rfl ?_
                        refine r_aln2 (p := 609) f0_608 rfl ?_
                        refine r_aln0 (p := 610) f0_609 rfl ?_
                        refine r_ilw4 (p := 612) f0_610 rfl ?_
                        refine r_iconst (p := 613) f0_612 rfl (pinD rfl rfl) ?_
                        refine r_iadd (p := 614) f0_613 rfl ?_
                        refine r_nmI (fun v121 ev121 => ?_)
                        have h54 := k_tm c41 hz h1 (by decide)
                        refine le2_gd (fun h55 => ?_)
                        refine r_iaload (p := 615) f0_614 rfl h54 h55 rfl ?_
                        refine le2_gd (fun h56 => ?_)
                        refine r_invVh (p := 618) f0_615 rfl rfl rfl (Or.inl h56) hd (Nat.le_of_ble_eq_true rfl) rfl rfl (fun m42 c42 => ?_) (fun x45 m45 c45 => ?_)
                        · have hz42 := z_k c42 hz41
                          refine r_aln2 (p := 619) f0_618 rfl ?_
                          have h57 := k_t1 c42 hz41 h56 (by decide)
                          refine r_invIh (p := 622) f0_619 rfl rfl rfl (Or.inl h57) hd (Nat.le_of_ble_eq_true rfl) rfl rfl (fun v43 m43 c43 => ?_) (fun x44 m44 c44 => ?_)
                          · have hz43 := z_k c43 hz42
                            refine r_ilw5 (p := 624) f0_622 rfl ?_
                            refine r_iceq (t := 629) (p := 627) f0_624 (by decide) rfl rfl ?_ ?_
                            · refine r_goto (p := 952) f0_629 (by decide) rfl ?_
                              refine r_iinc4 (p := 955) f0_952 rfl rfl ?_
                              refine r_goto (p := 23) f0_955 (by decide) rfl ?_
                              exact le2_refl _
                            · refine r_iconst (p := 628) f0_627 rfl (pinD rfl rfl) ?_
                              exact r_iret4 f0_628 (by decide)
                          · have hz44 := z_k c44 hz42
                            exact le2_none
                        · have hz45 := z_k c45 hz41
                          exact le2_none
                      · have hz46 := z_k c46 hz
                        exact le2_none
                    · refine le2_ite (fun h44 => ?_) (fun h44 => ?_)
                      · refine r_tsI (off := 592) (t := 632) f0_40 h44 rfl rfl (by decide) rfl ?_
                        refine r_aln1 (p := 633) f0_632 rfl ?_
                        refine r_aln0 (p := 634) f0_633 rfl ?_
                        refine r_ilw4 (p := 636) f0_634 rfl ?_
                        refine r_iconst (p := 637) f0_636 rfl (pinD rfl rfl) ?_
                        refine r_iadd (p := 638) f0_637 rfl ?_
                        refine r_nmI (fun v122 ev122 => ?_)
                        refine le2_gd (fun h45 => ?_)
                        refine r_iaload (p := 639) f0_638 rfl h1 h45 rfl ?_
                        refine r_aln3 (p := 640) f0_639 rfl ?_
                        refine r_istIh (p := 643) f0_640 rfl rfl rfl hd (Nat.le_of_ble_eq_true rfl) rfl rfl (fun v35 m35 c35 => ?_) (fun x40 m40 c40 => ?_)
                        · have hz35 := z_k c35 hz
                          refine r_isw5 (p := 645) f0_643 rfl rfl ?_
                          refine r_aln2 (p := 646) f0_645 rfl ?_
                          refine r_aln0 (p := 647) f0_646 rfl ?_
                          refine r_ilw4 (p := 649) f0_647 rfl ?_
                          refine r_iconst (p := 650) f0_649 rfl (pinD rfl rfl) ?_
                          refine r_iadd (p := 651) f0_650 rfl ?_
                          refine r_nmI (fun v123 ev123 => ?_)
                          have h46 := k_tm c35 hz h1 (by decide)
                          refine le2_gd (fun h47 => ?_)
                          refine r_iaload (p := 652) f0_651 rfl h46 h47 rfl ?_
                          refine le2_gd (fun h48 => ?_)
                          refine r_invIh (p := 655) f0_652 rfl rfl rfl (Or.inl h48) hd (Nat.le_of_ble_eq_true rfl) rfl rfl (fun v36 m36 c36 => ?_) (fun x39 m39 c39 => ?_)
                          · have hz36 := z_k c36 hz35
                            refine r_isw6 (p := 657) f0_655 rfl rfl ?_
                            refine r_aln2 (p := 658) f0_657 rfl ?_
                            have h49 := k_t1 c36 hz35 h48 (by decide)
                            refine r_invIh (p := 661) f0_658 rfl rfl rfl (Or.inl h49) hd (Nat.le_of_ble_eq_true rfl) rfl rfl (fun v37 m37 c37 => ?_) (fun x38 m38 c38 => ?_)
                            · have hz37 := z_k c37 hz36
                              refine r_ilw5 (p := 663) f0_661 rfl ?_
                              refine r_iceq (t := 668) (p := 666) f0_663 (by decide) rfl rfl ?_ ?_
                              · refine r_ilw5 (p := 670) f0_668 rfl ?_
                                refine r_ifne (t := 685) (p := 673) f0_670 (by decide) rfl rfl ?_ ?_
                                · refine r_aln3 (p := 674) f0_673 rfl ?_
                                  refine r_iconst (p := 675) f0_674 rfl (pinD rfl rfl) ?_
                                  refine le2_gd (fun h50 => ?_)
                                  refine le2_gd (fun h51 => ?_)
                                  refine r_laload (p := 676) f0_675 rfl (dj1 (fun x => x % 1000 = 102) h50 (by decide)) h51 rfl ?_
                                  refine r_ilw6 (p := 678) f0_676 rfl ?_
                                  refine r_i2l (p := 679) f0_678 rfl ?_
                                  refine r_lceq (p1 := 680) (t := 685) (p := 683) f0_679 rfl f0_680 (by decide) rfl rfl ?_ ?_
                                  · refine r_goto (p := 952) f0_685 (by decide) rfl ?_
                                    refine r_iinc4 (p := 955) f0_952 rfl rfl ?_
                                    refine r_goto (p := 23) f0_955 (by decide) rfl ?_
                                    exact le2_refl _
                                  · refine r_iconst (p := 684) f0_683 rfl (pinD rfl rfl) ?_
                                    exact r_iret4 f0_684 (by decide)
                                · refine r_goto (p := 952) f0_685 (by decide) rfl ?_
                                  refine r_iinc4 (p := 955) f0_952 rfl rfl ?_
                                  refine r_goto (p := 23) f0_955 (by decide) rfl ?_
                                  exact le2_refl _
                              · refine r_iconst (p := 667) f0_666 rfl (pinD rfl rfl) ?_
                                exact r_iret4 f0_667 (by decide)
                            · have hz38 := z_k c38 hz36
                              exact le2_none
                          · have hz39 := z_k c39 hz35
                            exact le2_none
                        · have hz40 := z_k c40 hz
                          exact le2_none
                      · refine le2_ite (fun h38 => ?_) (fun h38 => ?_)
                        · refine r_tsI (off := 648) (t := 688) f0_40 h38 rfl rfl (by decide) rfl ?_
                          refine r_aln1 (p := 689) f0_688 rfl ?_
                          refine r_aln0 (p := 690) f0_689 rfl ?_
                          refine r_ilw4 (p := 692) f0_690 rfl ?_
                          refine r_iconst (p := 693) f0_692 rfl (pinD rfl rfl) ?_
                          refine r_iadd (p := 694) f0_693 rfl ?_
                          refine r_nmI (fun v124 ev124 => ?_)
                          refine le2_gd (fun h39 => ?_)
                          refine r_iaload (p := 695) f0_694 rfl h1 h39 rfl ?_
                          refine r_istIh (p := 698) f0_695 rfl rfl rfl hd (Nat.le_of_ble_eq_true rfl) rfl rfl (fun v29 m29 c29 => ?_) (fun x34 m34 c34 => ?_)
                          · have hz29 := z_k c29 hz
                            refine r_isw5 (p := 700) f0_698 rfl rfl ?_
                            refine r_aln2 (p := 701) f0_700 rfl ?_
                            refine r_aln0 (p := 702) f0_701 rfl ?_
                            refine r_ilw4 (p := 704) f0_702 rfl ?_
                            refine r_iconst (p := 705) f0_704 rfl (pinD rfl rfl) ?_
                            refine r_iadd (p := 706) f0_705 rfl ?_
                            refine r_nmI (fun v125 ev125 => ?_)
                            have h40 := k_tm c29 hz h1 (by decide)
                            refine le2_gd (fun h41 => ?_)
                            refine r_iaload (p := 707) f0_706 rfl h40 h41 rfl ?_
                            refine le2_gd (fun h42 => ?_)
                            refine r_invVh (p := 710) f0_707 rfl rfl rfl (Or.inl h42) hd (Nat.le_of_ble_eq_true rfl) rfl rfl (fun m30 c30 => ?_) (fun x33 m33 c33 => ?_)
                            · have hz30 := z_k c30 hz29
                              refine r_aln2 (p := 711) f0_710 rfl ?_
                              have h43 := k_t1 c30 hz29 h42 (by decide)
                              refine r_invIh (p := 714) f0_711 rfl rfl rfl (Or.inl h43) hd (Nat.le_of_ble_eq_true rfl) rfl rfl (fun v31 m31 c31 => ?_) (fun x32 m32 c32 => ?_)
                              · have hz31 := z_k c31 hz30
                                refine r_ilw5 (p := 716) f0_714 rfl ?_
                                refine r_iceq (t := 721) (p := 719) f0_716 (by decide) rfl rfl ?_ ?_
                                · refine r_goto (p := 952) f0_721 (by decide) rfl ?_
                                  refine r_iinc4 (p := 955) f0_952 rfl rfl ?_
                                  refine r_goto (p := 23) f0_955 (by decide) rfl ?_
                                  exact le2_refl _
                                · refine r_iconst (p := 720) f0_719 rfl (pinD rfl rfl) ?_
                                  exact r_iret4 f0_720 (by decide)
                              · have hz32 := z_k c32 hz30
                                exact le2_none
                            · have hz33 := z_k c33 hz29
                              exact le2_none
                          · have hz34 := z_k c34 hz
                            exact le2_none
                        · refine le2_ite (fun h28 => ?_) (fun h28 => ?_)
                          · refine r_tsI (off := 684) (t := 724) f0_40 h28 rfl rfl (by decide) rfl ?_
                            refine r_aln1 (p := 725) f0_724 rfl ?_
                            refine r_aln0 (p := 726) f0_725 rfl ?_
                            refine r_ilw4 (p := 728) f0_726 rfl ?_
                            refine r_iconst (p := 729) f0_728 rfl (pinD rfl rfl) ?_
                            refine r_iadd (p := 730) f0_729 rfl ?_
                            refine r_nmI (fun v126 ev126 => ?_)
                            refine le2_gd (fun h29 => ?_)
                            refine r_iaload (p := 731) f0_730 rfl h1 h29 rfl ?_
                            refine r_aln0 (p := 732) f0_731 rfl ?_
                            refine r_ilw4 (p := 734) f0_732 rfl ?_
                            refine r_iconst (p := 735) f0_734 rfl (pinD rfl rfl) ?_
                            refine r_iadd (p := 736) f0_735 rfl ?_
                            refine r_nmI (fun v127 ev127 => ?_)
                            refine le2_gd (fun h30 => ?_)
                            refine r_iaload (p := 737) f0_736 rfl h1 h30 rfl ?_
                            refine r_aln3 (p := 738) f0_737 rfl ?_
                            refine r_istIh (p := 741) f0_738 rfl rfl rfl hd (Nat.le_of_ble_eq_true rfl) rfl rfl (fun v23 m23 c23 => ?_) (fun x28 m28 c28 => ?_)
                            · have hz23 := z_k c23 hz
                              refine r_isw5 (p := 743) f0_741 rfl rfl ?_
                              refine r_aln2 (p := 744) f0_743 rfl ?_
                              refine r_aln0 (p := 745) f0_744 rfl ?_
                              refine r_ilw4 (p := 747) f0_745 rfl ?_
                              refine r_iconst (p := 748) f0_747 rfl (pinD rfl rfl) ?_
                              refine r_iadd (p := 749) f0_748 rfl ?_
                              refine r_nmI (fun v128 ev128 => ?_)
                              have h31 := k_tm c23 hz h1 (by decide)
                              refine le2_gd (fun h32 => ?_)
                              refine r_iaload (p := 750) f0_749 rfl h31 h32 rfl ?_
                              refine r_aln0 (p := 751) f0_750 rfl ?_
                              refine r_ilw4 (p := 753) f0_751 rfl ?_
                              refine r_iconst (p := 754) f0_753 rfl (pinD rfl rfl) ?_
                              refine r_iadd (p := 755) f0_754 rfl ?_
                              refine r_nmI (fun v129 ev129 => ?_)
                              refine le2_gd (fun h33 => ?_)
                              refine r_iaload (p := 756) f0_755 rfl h31 h33 rfl ?_
                              refine le2_gd (fun h34 => ?_)
                              refine r_invIh (p := 759) f0_756 rfl rfl rfl (Or.inl h34) hd (Nat.le_of_ble_eq_true rfl) rfl rfl (fun v24 m24 c24 => ?_) (fun x27 m27 c27 => ?_)
                              · have hz24 := z_k c24 hz23
                                refine r_isw6 (p := 761) f0_759 rfl rfl ?_
                                refine r_aln2 (p := 762) f0_761 rfl ?_
                                have h35 := k_t1 c24 hz23 h34 (by decide)
                                refine r_invIh (p := 765) f0_762 rfl rfl rfl (Or.inl h35) hd (Nat.le_of_ble_eq_true rfl) rfl rfl (fun v25 m25 c25 => ?_) (fun x26 m26 c26 => ?_)
                                · have hz25 := z_k c25 hz24
                                  refine r_ilw5 (p := 767) f0_765 rfl ?_
                                  refine r_iceq (t := 772) (p := 770) f0_767 (by decide) rfl rfl ?_ ?_
                                  · refine r_ilw5 (p := 774) f0_772 rfl ?_
                                    refine r_ifne (t := 789) (p := 777) f0_774 (by decide) rfl rfl ?_ ?_
                                    · refine r_aln3 (p := 778) f0_777 rfl ?_
                                      refine r_iconst (p := 779) f0_778 rfl (pinD rfl rfl) ?_
                                      refine le2_gd (fun h36 => ?_)
                                      refine le2_gd (fun h37 => ?_)
                                      refine r_laload (p := 780) f0_779 rfl (dj1 (fun x => x % 1000 = 102) h36 (by decide)) h37 rfl ?_
                                      refine r_ilw6 (p := 782) f0_780 rfl ?_
                                      refine r_i2l (p := 783) f0_782 rfl ?_
                                      refine r_lceq (p1 := 784) (t := 789) (p := 787) f0_783 rfl f0_784 (by decide) rfl rfl ?_ ?_
                                      · refine r_goto (p := 952) f0_789 (by decide) rfl ?_
                                        refine r_iinc4 (p := 955) f0_952 rfl rfl ?_
                                        refine r_goto (p := 23) f0_955 (by decide) rfl ?_
                                        exact le2_refl _
                                      · refine r_iconst (p := 788) f0_787 rfl (pinD rfl rfl) ?_
                                        exact r_iret4 f0_788 (by decide)
                                    · refine r_goto (p := 952) f0_789 (by decide) rfl ?_
                                      refine r_iinc4 (p := 955) f0_952 rfl rfl ?_
                                      refine r_goto (p := 23) f0_955 (by decide) rfl ?_
                                      exact le2_refl _
                                  · refine r_iconst (p := 771) f0_770 rfl (pinD rfl rfl) ?_
                                    exact r_iret4 f0_771 (by decide)
                                · have hz26 := z_k c26 hz24
                                  exact le2_none
                              · have hz27 := z_k c27 hz23
                                exact le2_none
                            · have hz28 := z_k c28 hz
                              exact le2_none
                          · refine le2_ite (fun h22 => ?_) (fun h22 => ?_)
                            · refine r_tsI (off := 752) (t := 792) f0_40 h22 rfl rfl (by decide) rfl ?_
                              refine r_aln1 (p := 793) f0_792 rfl ?_
                              refine r_aln0 (p := 794) f0_793 rfl ?_
                              refine r_ilw4 (p := 796) f0_794 rfl ?_
                              refine r_iconst (p := 797) f0_796 rfl (pinD rfl rfl) ?_
                              refine r_iadd (p := 798) f0_797 rfl ?_
                              refine r_nmI (fun v130 ev130 => ?_)
                              refine le2_gd (fun h23 => ?_)
                              refine r_iaload (p := 799) f0_798 rfl h1 h23 rfl ?_
                              refine r_istIh (p := 802) f0_799 rfl rfl rfl hd (Nat.le_of_ble_eq_true rfl) rfl rfl (fun v17 m17 c17 => ?_) (fun x22 m22 c22 => ?_)
                              · have hz17 := z_k c17 hz
                                refine r_isw5 (p := 804) f0_802 rfl rfl ?_
                                refine r_aln2 (p := 805) f0_804 rfl ?_
                                refine r_aln0 (p := 806) f0_805 rfl ?_
                                refine r_ilw4 (p := 808) f0_806 rfl ?_
                                refine r_iconst (p := 809) f0_808 rfl (pinD rfl rfl) ?_
                                refine r_iadd (p := 810) f0_809 rfl ?_
                                refine r_nmI (fun v131 ev131 => ?_)
                                have h24 := k_tm c17 hz h1 (by decide)
                                refine le2_gd (fun h25 => ?_)
                                refine r_iaload (p := 811) f0_810 rfl h24 h25 rfl ?_
                                refine le2_gd (fun h26 => ?_)
                                refine r_invVh (p := 814) f0_811 rfl rfl rfl (Or.inl h26) hd (Nat.le_of_ble_eq_true rfl) rfl rfl (fun m18 c18 => ?_) (fun x21 m21 c21 => ?_)
                                · have hz18 := z_k c18 hz17
                                  refine r_aln2 (p := 815) f0_814 rfl ?_
                                  have h27 := k_t1 c18 hz17 h26 (by decide)
                                  refine r_invIh (p := 818) f0_815 rfl rfl rfl (Or.inl h27) hd (Nat.le_of_ble_eq_true rfl) rfl rfl (fun v19 m19 c19 => ?_) (fun x20 m20 c20 => ?_)
                                  · have hz19 := z_k c19 hz18
                                    refine r_ilw5 (p := 820) f0_818 rfl ?_
                                    refine r_iceq (t := 825) (p := 823) f0_820 (by decide) rfl rfl ?_ ?_
                                    · refine r_goto (p := 952) f0_825 (by decide) rfl ?_
                                      refine r_iinc4 (p := 955) f0_952 rfl rfl ?_
                                      refine r_goto (p := 23) f0_955 (by decide) rfl ?_
                                      exact le2_refl _
                                    · refine r_iconst (p := 824) f0_823 rfl (pinD rfl rfl) ?_
                                      exact r_iret4 f0_824 (by decide)
                                  · have hz20 := z_k c20 hz18
                                    exact le2_none
                                · have hz21 := z_k c21 hz17
                                  exact le2_none
                              · have hz22 := z_k c22 hz
                                exact le2_none
                            · refine le2_ite (fun h19 => ?_) (fun h19 => ?_)
                              · refine r_tsI (off := 788) (t := 828) f0_40 h19 rfl rfl (by decide) rfl ?_
                                refine r_aln1 (p := 829) f0_828 rfl ?_
                                refine le2_gd (fun h20 => ?_)
                                refine r_invIh (p := 832) f0_829 rfl rfl rfl (Or.inl h20) hd (Nat.le_of_ble_eq_true rfl) rfl rfl (fun v13 m13 c13 => ?_) (fun x16 m16 c16 => ?_)
                                · have hz13 := z_k c13 hz
                                  refine r_aln2 (p := 833) f0_832 rfl ?_
                                  refine le2_gd (fun h21 => ?_)
                                  refine r_invIh (p := 836) f0_833 rfl rfl rfl (Or.inl h21) hd (Nat.le_of_ble_eq_true rfl) rfl rfl (fun v14 m14 c14 => ?_) (fun x15 m15 c15 => ?_)
                                  · have hz14 := z_k c14 hz13
                                    refine r_iceq (t := 952) (p := 839) f0_836 (by decide) rfl rfl ?_ ?_
                                    · refine r_iinc4 (p := 955) f0_952 rfl rfl ?_
                                      refine r_goto (p := 23) f0_955 (by decide) rfl ?_
                                      exact le2_refl _
                                    · refine r_iconst (p := 840) f0_839 rfl (pinD rfl rfl) ?_
                                      exact r_iret4 f0_840 (by decide)
                                  · have hz15 := z_k c15 hz13
                                    exact le2_none
                                · have hz16 := z_k c16 hz
                                  exact le2_none
                              · refine le2_ite (fun h11 => ?_) (fun h11 => ?_)
                                · refine r_tsI (off := 801) (t := 841) f0_40 h11 rfl rfl (by decide) rfl ?_
                                  refine r_aln1 (p := 842) f0_841 rfl ?_
                                  refine r_aln0 (p := 843) f0_842 rfl ?_
                                  refine r_ilw4 (p := 845) f0_843 rfl ?_
                                  refine r_iconst (p := 846) f0_845 rfl (pinD rfl rfl) ?_
                                  refine r_iadd (p := 847) f0_846 rfl ?_
                                  refine r_nmI (fun v132 ev132 => ?_)
                                  refine le2_gd (fun h12 => ?_)
                                  refine r_iaload (p := 848) f0_847 rfl h1 h12 rfl ?_
                                  refine r_aln3 (p := 849) f0_848 rfl ?_
                                  refine r_istIh (p := 852) f0_849 rfl rfl rfl hd (Nat.le_of_ble_eq_true rfl) rfl rfl (fun v7 m7 c7 => ?_) (fun x12 m12 c12 => ?_)
                                  · have hz7 := z_k c7 hz
                                    refine r_isw5 (p := 854) f0_852 rfl rfl ?_
                                    refine r_aln2 (p := 855) f0_854 rfl ?_
                                    refine r_aln0 (p := 856) f0_855 rfl ?_
                                    refine r_ilw4 (p := 858) f0_856 rfl ?_
                                    refine r_iconst (p := 859) f0_858 rfl (pinD rfl rfl) ?_
                                    refine r_iadd (p := 860) f0_859 rfl ?_
                                    refine r_nmI (fun v133 ev133 => ?_)
                                    have h13 := k_tm c7 hz h1 (by decide)
                                    refine le2_gd (fun h14 => ?_)
                                    refine r_iaload (p := 861) f0_860 rfl h13 h14 rfl ?_
                                    refine le2_gd (fun h15 => ?_)
                                    refine r_invLh (p := 864) f0_861 rfl rfl rfl (Or.inl h15) hd (Nat.le_of_ble_eq_true rfl) rfl rfl (fun v8 m8 c8 => ?_) (fun x11 m11 c11 => ?_)
                                    · have hz8 := z_k c8 hz7
                                      refine r_lsw6 (p := 866) f0_864 rfl rfl ?_
                                      refine r_aln2 (p := 867) f0_866 rfl ?_
                                      have h16 := k_t1 c8 hz7 h15 (by decide)
                                      refine r_invIh (p := 870) f0_867 rfl rfl rfl (Or.inl h16) hd (Nat.le_of_ble_eq_true rfl) rfl rfl (fun v9 m9 c9 => ?_) (fun x10 m10 c10 => ?_)
                                      · have hz9 := z_k c9 hz8
                                        refine r_ilw5 (p := 872) f0_870 rfl ?_
                                        refine r_iceq (t := 877) (p := 875) f0_872 (by decide) rfl rfl ?_ ?_
                                        · refine r_ilw5 (p := 879) f0_877 rfl ?_
                                          refine r_ifne (t := 893) (p := 882) f0_879 (by decide) rfl rfl ?_ ?_
                                          · refine r_aln3 (p := 883) f0_882 rfl ?_
                                            refine r_iconst (p := 884) f0_883 rfl (pinD rfl rfl) ?_
                                            refine le2_gd (fun h17 => ?_)
                                            refine le2_gd (fun h18 => ?_)
                                            refine r_laload (p := 885) f0_884 rfl (dj1 (fun x => x % 1000 = 102) h17 (by decide)) h18 rfl ?_
                                            refine r_llw6 (p := 887) f0_885 rfl ?_
                                            refine r_lceq (p1 := 888) (t := 893) (p := 891) f0_887 rfl f0_888 (by decide) rfl rfl ?_ ?_
                                            · refine r_goto (p := 952) f0_893 (by decide) rfl ?_
                                              refine r_iinc4 (p := 955) f0_952 rfl rfl ?_
                                              refine r_goto (p := 23) f0_955 (by decide) rfl ?_
                                              exact le2_refl _
                                            · refine r_iconst (p := 892) f0_891 rfl (pinD rfl rfl) ?_
                                              exact r_iret4 f0_892 (by decide)
                                          · refine r_goto (p := 952) f0_893 (by decide) rfl ?_
                                            refine r_iinc4 (p := 955) f0_952 rfl rfl ?_
                                            refine r_goto (p := 23) f0_955 (by decide) rfl ?_
                                            exact le2_refl _
                                        · refine r_iconst (p := 876) f0_875 rfl (pinD rfl rfl) ?_
                                          exact r_iret4 f0_876 (by decide)
                                      · have hz10 := z_k c10 hz8
                                        exact le2_none
                                    · have hz11 := z_k c11 hz7
                                      exact le2_none
                                  · have hz12 := z_k c12 hz
                                    exact le2_none
                                · refine le2_ite (fun h3 => ?_) (fun h3 => ?_)
                                  · refine r_tsI (off := 856) (t := 896) f0_40 h3 rfl rfl (by decide) rfl ?_
                                    refine r_aln1 (p := 897) f0_896 rfl ?_
                                    refine r_aln0 (p := 898) f0_897 rfl ?_
                                    refine r_ilw4 (p := 900) f0_898 rfl ?_
                                    refine r_iconst (p := 901) f0_900 rfl (pinD rfl rfl) ?_
                                    refine r_iadd (p := 902) f0_901 rfl ?_
                                    refine r_nmI (fun v134 ev134 => ?_)
                                    refine le2_gd (fun h4 => ?_)
                                    refine r_iaload (p := 903) f0_902 rfl h1 h4 rfl ?_
                                    refine r_aln3 (p := 904) f0_903 rfl ?_
                                    refine r_istIh (p := 907) f0_904 rfl rfl rfl hd (Nat.le_of_ble_eq_true rfl) rfl rfl (fun v1 m1 c1 => ?_) (fun x6 m6 c6 => ?_)
                                    · have hz1 := z_k c1 hz
                                      refine r_isw5 (p := 909) f0_907 rfl rfl ?_
                                      refine r_aln2 (p := 910) f0_909 rfl ?_
                                      refine r_aln0 (p := 911) f0_910 rfl ?_
                                      refine r_ilw4 (p := 913) f0_911 rfl ?_
                                      refine r_iconst (p := 914) f0_913 rfl (pinD rfl rfl) ?_
                                      refine r_iadd (p := 915) f0_914 rfl ?_
                                      refine r_nmI (fun v135 ev135 => ?_)
                                      have h5 := k_tm c1 hz h1 (by decide)
                                      refine le2_gd (fun h6 => ?_)
                                      refine r_iaload (p := 916) f0_915 rfl h5 h6 rfl ?_
                                      refine le2_gd (fun h7 => ?_)
                                      refine r_invIh (p := 919) f0_916 rfl rfl rfl (Or.inl h7) hd (Nat.le_of_ble_eq_true rfl) rfl rfl (fun v2 m2 c2 => ?_) (fun x5 m5 c5 => ?_)
                                      · have hz2 := z_k c2 hz1
                                        refine r_isw6 (p := 921) f0_919 rfl rfl ?_
                                        refine r_aln2 (p := 922) f0_921 rfl ?_
                                        have h8 := k_t1 c2 hz1 h7 (by decide)
                                        refine r_invIh (p := 925) f0_922 rfl rfl rfl (Or.inl h8) hd (Nat.le_of_ble_eq_true rfl) rfl rfl (fun v3 m3 c3 => ?_) (fun x4 m4 c4 => ?_)
                                        · have hz3 := z_k c3 hz2
                                          refine r_ilw5 (p := 927) f0_925 rfl ?_
                                          refine r_iceq (t := 932) (p := 930) f0_927 (by decide) rfl rfl ?_ ?_
                                          · refine r_ilw5 (p := 934) f0_932 rfl ?_
                                            refine r_ifne (t := 949) (p := 937) f0_934 (by decide) rfl rfl ?_ ?_
                                            · refine r_aln3 (p := 938) f0_937 rfl ?_
                                              refine r_iconst (p := 939) f0_938 rfl (pinD rfl rfl) ?_
                                              refine le2_gd (fun h9 => ?_)
                                              refine le2_gd (fun h10 => ?_)
                                              refine r_laload (p := 940) f0_939 rfl (dj1 (fun x => x % 1000 = 102) h9 (by decide)) h10 rfl ?_
                                              refine r_ilw6 (p := 942) f0_940 rfl ?_
                                              refine r_i2l (p := 943) f0_942 rfl ?_
                                              refine r_lceq (p1 := 944) (t := 949) (p := 947) f0_943 rfl f0_944 (by decide) rfl rfl ?_ ?_
                                              · refine r_goto (p := 952) f0_949 (by decide) rfl ?_
                                                refine r_iinc4 (p := 955) f0_952 rfl rfl ?_
                                                refine r_goto (p := 23) f0_955 (by decide) rfl ?_
                                                exact le2_refl _
                                              · refine r_iconst (p := 948) f0_947 rfl (pinD rfl rfl) ?_
                                                exact r_iret4 f0_948 (by decide)
                                            · refine r_goto (p := 952) f0_949 (by decide) rfl ?_
                                              refine r_iinc4 (p := 955) f0_952 rfl rfl ?_
                                              refine r_goto (p := 23) f0_955 (by decide) rfl ?_
                                              exact le2_refl _
                                          · refine r_iconst (p := 931) f0_930 rfl (pinD rfl rfl) ?_
                                            exact r_iret4 f0_931 (by decide)
                                        · have hz4 := z_k c4 hz2
                                          exact le2_none
                                      · have hz5 := z_k c5 hz1
                                        exact le2_none
                                    · have hz6 := z_k c6 hz
                                      exact le2_none
                                  · refine r_tsO (t := 952) f0_40 (by omega) (by decide) rfl ?_
                                    refine r_iinc4 (p := 955) f0_952 rfl rfl ?_
                                    refine r_goto (p := 23) f0_955 (by decide) rfl ?_
                                    exact le2_refl _
/-! 1 PathStoreLaw.feed (LPathStore;IIIII[J)I -/
def w1_1 : List UInt8 := [172]
abbrev u1_1 : List UInt8 := w1_1 ++ []
def w1_0 : List UInt8 := [25, 6, 3, 42, 27, 28, 29, 21, 4, 21, 5, 182, 0, 7, 133, 80, 167, 0, 7, 58, 7, 4, 172, 3]
abbrev u1_0 : List UInt8 := w1_0 ++ u1_1
theorem s1_0 : (method_3_code).data.toList.drop 0 = u1_0 := by decide +kernel
theorem s1_1 : (method_3_code).data.toList.drop 24 = u1_1 := dk_seg s1_0 24 rfl rfl
theorem Fm1 {pc len : Nat} {i : Instr} (h : decode (method_3_code) pc = .ok (i, len)) (hl : len = ilen i len) : ft 1 pc = some (0, 1, 0, i, len) := ft_mk rfl h hl
theorem f1_0 : ft 1 0 = some (0, 1, 0, .aload 6, 2) := Fm1 (dk_25 6 (dk_at s1_0 0 rfl rfl)) rfl
theorem f1_2 : ft 1 2 = some (0, 1, 0, .iconst 0, 1) := Fm1 (dk_3 (dk_at s1_0 2 rfl rfl)) rfl
theorem f1_3 : ft 1 3 = some (0, 1, 0, .aload_n 0, 1) := Fm1 (dk_42 (dk_at s1_0 3 rfl rfl)) rfl
theorem f1_4 : ft 1 4 = some (0, 1, 0, .iload_n 1, 1) := Fm1 (dk_27 (dk_at s1_0 4 rfl rfl)) rfl
theorem f1_5 : ft 1 5 = some (0, 1, 0, .iload_n 2, 1) := Fm1 (dk_28 (dk_at s1_0 5 rfl rfl)) rfl
theorem f1_6 : ft 1 6 = some (0, 1, 0, .iload_n 3, 1) := Fm1 (dk_29 (dk_at s1_0 6 rfl rfl)) rfl
theorem f1_7 : ft 1 7 = some (0, 1, 0, .iload 4, 2) := Fm1 (dk_21 4 (dk_at s1_0 7 rfl rfl)) rfl
theorem f1_9 : ft 1 9 = some (0, 1, 0, .iload 5, 2) := Fm1 (dk_21 5 (dk_at s1_0 9 rfl rfl)) rfl
theorem f1_11 : ft 1 11 = some (0, 1, 0, .invokevirtual 7, 3) := Fm1 (dk_182 0 7 (dk_at s1_0 11 rfl rfl)) rfl
theorem f1_14 : ft 1 14 = some (0, 1, 0, .i2l, 1) := Fm1 (dk_133 (dk_at s1_0 14 rfl rfl)) rfl
theorem f1_15 : ft 1 15 = some (0, 1, 0, .lastore, 1) := Fm1 (dk_80 (dk_at s1_0 15 rfl rfl)) rfl
theorem f1_16 : ft 1 16 = some (0, 1, 0, .goto 7, 3) := Fm1 (dk_167 0 7 (dk_at s1_0 16 rfl rfl)) rfl
theorem f1_19 : ft 1 19 = some (0, 1, 0, .astore 7, 2) := Fm1 (dk_58 7 (dk_at s1_0 19 rfl rfl)) rfl
theorem f1_21 : ft 1 21 = some (0, 1, 0, .iconst 1, 1) := Fm1 (dk_4 (dk_at s1_0 21 rfl rfl)) rfl
theorem f1_22 : ft 1 22 = some (0, 1, 0, .ireturn, 1) := Fm1 (dk_172 (dk_at s1_0 22 rfl rfl)) rfl
theorem f1_23 : ft 1 23 = some (0, 1, 0, .iconst 0, 1) := Fm1 (dk_3 (dk_at s1_0 23 rfl rfl)) rfl
theorem f1_24 : ft 1 24 = some (0, 1, 0, .ireturn, 1) := Fm1 (dk_172 (dk_at s1_1 0 rfl rfl)) rfl
theorem q1 {d : Nat} {m : Mem} {a0 a1 a2 a3 a4 a5 a6 : Int} (hd : 0 < d) (hz : TZ m) : le2 (gd (tg m a0 = 1) <| bIh (cl (d - 1) 18 [pR a0, pI a1, pI a2, pI a3, pI a4, pI a5] m) (fun v1 m1 => gd (tg m1 a6 = 1102) <| gd ((0 : Int) ≤ 0 ∧ 0 < ln m1 a6) <| some (.inl (some (pI 0)), (mst m1 a6 0 v1))) fun x2 m2 => if x2 = 201 then (some (.inl (some (pI 1)), m2)) else none) (cl d 1 [pR a0, pI a1, pI a2, pI a3, pI a4, pI a5, pR a6] m) := by
  refine q_in (n := 8) (L := [pR a0, pI a1, pI a2, pI a3, pI a4, pI a5, pR a6, pU]) rfl rfl rfl ?_
  refine r_alw6 (p := 2) f1_0 rfl ?_
  refine r_iconst (p := 3) f1_2 rfl (pinD rfl rfl) ?_
  refine r_aln0 (p := 4) f1_3 rfl ?_
  refine r_iln1 (p := 5) f1_4 rfl ?_
  refine r_iln2 (p := 6) f1_5 rfl ?_
  refine r_iln3 (p := 7) f1_6 rfl ?_
  refine r_ilw4 (p := 9) f1_7 rfl ?_
  refine r_ilw5 (p := 11) f1_9 rfl ?_
  refine le2_gd (fun h1 => ?_)
  refine r_invIh (p := 14) f1_11 rfl rfl rfl (Or.inl h1) hd (Nat.le_of_ble_eq_true rfl) rfl rfl (fun v1 m1 c1 => ?_) (fun x2 m2 c2 => ?_)
  · have hz1 := z_k c1 hz
    refine r_i2l (p := 15) f1_14 rfl ?_
    refine le2_gd (fun h2 => ?_)
    refine le2_gd (fun h3 => ?_)
    refine r_lastore (p := 16) f1_15 rfl (dj1 (fun x => 1000 ≤ x ∧ x % 1000 = 102 ∧ Nat.testBit (eM 1) (bix x 0) = true) h2 (by decide)) h3 ?_
    refine r_goto (p := 23) f1_16 (by decide) rfl ?_
    refine r_iconst (p := 24) f1_23 rfl (pinD rfl rfl) ?_
    exact r_iret1 f1_24
  · have hz2 := z_k c2 hz
    refine le2_ite (fun h4 => ?_) (fun h4 => ?_)
    · refine hres_at (h := 19) (by rw [h4]; rfl) ?_
      refine r_asw7 (p := 21) f1_19 rfl rfl ?_
      refine r_iconst (p := 22) f1_21 rfl (pinD rfl rfl) ?_
      exact r_iret1 f1_22
    · exact le2_none
/-! 2 PathStoreLaw.end (LPathStore;I[J)I -/
def w2_0 : List UInt8 := [44, 3, 42, 27, 182, 0, 15, 133, 80, 167, 0, 6, 78, 4, 172, 3, 172]
abbrev u2_0 : List UInt8 := w2_0 ++ []
theorem s2_0 : (method_4_code).data.toList.drop 0 = u2_0 := by decide +kernel
theorem Fm2 {pc len : Nat} {i : Instr} (h : decode (method_4_code) pc = .ok (i, len)) (hl : len = ilen i len) : ft 2 pc = some (0, 1, 0, i, len) := ft_mk rfl h hl
theorem f2_0 : ft 2 0 = some (0, 1, 0, .aload_n 2, 1) := Fm2 (dk_44 (dk_at s2_0 0 rfl rfl)) rfl
theorem f2_1 : ft 2 1 = some (0, 1, 0, .iconst 0, 1) := Fm2 (dk_3 (dk_at s2_0 1 rfl rfl)) rfl
theorem f2_2 : ft 2 2 = some (0, 1, 0, .aload_n 0, 1) := Fm2 (dk_42 (dk_at s2_0 2 rfl rfl)) rfl
theorem f2_3 : ft 2 3 = some (0, 1, 0, .iload_n 1, 1) := Fm2 (dk_27 (dk_at s2_0 3 rfl rfl)) rfl
theorem f2_4 : ft 2 4 = some (0, 1, 0, .invokevirtual 15, 3) := Fm2 (dk_182 0 15 (dk_at s2_0 4 rfl rfl)) rfl
theorem f2_7 : ft 2 7 = some (0, 1, 0, .i2l, 1) := Fm2 (dk_133 (dk_at s2_0 7 rfl rfl)) rfl
theorem f2_8 : ft 2 8 = some (0, 1, 0, .lastore, 1) := Fm2 (dk_80 (dk_at s2_0 8 rfl rfl)) rfl
theorem f2_9 : ft 2 9 = some (0, 1, 0, .goto 6, 3) := Fm2 (dk_167 0 6 (dk_at s2_0 9 rfl rfl)) rfl
theorem f2_12 : ft 2 12 = some (0, 1, 0, .astore_n 3, 1) := Fm2 (dk_78 (dk_at s2_0 12 rfl rfl)) rfl
theorem f2_13 : ft 2 13 = some (0, 1, 0, .iconst 1, 1) := Fm2 (dk_4 (dk_at s2_0 13 rfl rfl)) rfl
theorem f2_14 : ft 2 14 = some (0, 1, 0, .ireturn, 1) := Fm2 (dk_172 (dk_at s2_0 14 rfl rfl)) rfl
theorem f2_15 : ft 2 15 = some (0, 1, 0, .iconst 0, 1) := Fm2 (dk_3 (dk_at s2_0 15 rfl rfl)) rfl
theorem f2_16 : ft 2 16 = some (0, 1, 0, .ireturn, 1) := Fm2 (dk_172 (dk_at s2_0 16 rfl rfl)) rfl
theorem q2 {d : Nat} {m : Mem} {a0 a1 a2 : Int} (hd : 0 < d) (hz : TZ m) : le2 (gd (tg m a0 = 1) <| bIh (cl (d - 1) 21 [pR a0, pI a1] m) (fun v1 m1 => gd (tg m1 a2 = 1102) <| gd ((0 : Int) ≤ 0 ∧ 0 < ln m1 a2) <| some (.inl (some (pI 0)), (mst m1 a2 0 v1))) fun x2 m2 => if x2 = 202 then (some (.inl (some (pI 1)), m2)) else none) (cl d 2 [pR a0, pI a1, pR a2] m) := by
  refine q_in (n := 4) (L := [pR a0, pI a1, pR a2, pU]) rfl rfl rfl ?_
  refine r_aln2 (p := 1) f2_0 rfl ?_
  refine r_iconst (p := 2) f2_1 rfl (pinD rfl rfl) ?_
  refine r_aln0 (p := 3) f2_2 rfl ?_
  refine r_iln1 (p := 4) f2_3 rfl ?_
  refine le2_gd (fun h1 => ?_)
  refine r_invIh (p := 7) f2_4 rfl rfl rfl (Or.inl h1) hd (Nat.le_of_ble_eq_true rfl) rfl rfl (fun v1 m1 c1 => ?_) (fun x2 m2 c2 => ?_)
  · have hz1 := z_k c1 hz
    refine r_i2l (p := 8) f2_7 rfl ?_
    refine le2_gd (fun h2 => ?_)
    refine le2_gd (fun h3 => ?_)
    refine r_lastore (p := 9) f2_8 rfl (dj1 (fun x => 1000 ≤ x ∧ x % 1000 = 102 ∧ Nat.testBit (eM 2) (bix x 0) = true) h2 (by decide)) h3 ?_
    refine r_goto (p := 15) f2_9 (by decide) rfl ?_
    refine r_iconst (p := 16) f2_15 rfl (pinD rfl rfl) ?_
    exact r_iret1 f2_16
  · have hz2 := z_k c2 hz
    refine le2_ite (fun h4 => ?_) (fun h4 => ?_)
    · refine hres_at (h := 12) (by rw [h4]; rfl) ?_
      refine r_asn3 (p := 13) f2_12 rfl rfl ?_
      refine r_iconst (p := 14) f2_13 rfl (pinD rfl rfl) ?_
      exact r_iret1 f2_14
    · exact le2_none
/-! 3 PathStoreLaw.put (LPathStore;I[J)I -/
def w3_1 : List UInt8 := [3, 172]
abbrev u3_1 : List UInt8 := w3_1 ++ []
def w3_0 : List UInt8 := [44, 3, 42, 27, 182, 0, 21, 133, 80, 167, 0, 15, 78, 4, 172, 78, 5, 172, 78, 6, 172, 78, 7, 172]
abbrev u3_0 : List UInt8 := w3_0 ++ u3_1
theorem s3_0 : (method_5_code).data.toList.drop 0 = u3_0 := by decide +kernel
theorem s3_1 : (method_5_code).data.toList.drop 24 = u3_1 := dk_seg s3_0 24 rfl rfl
theorem Fm3 {pc len : Nat} {i : Instr} (h : decode (method_5_code) pc = .ok (i, len)) (hl : len = ilen i len) : ft 3 pc = some (0, 1, 0, i, len) := ft_mk rfl h hl
theorem f3_0 : ft 3 0 = some (0, 1, 0, .aload_n 2, 1) := Fm3 (dk_44 (dk_at s3_0 0 rfl rfl)) rfl
theorem f3_1 : ft 3 1 = some (0, 1, 0, .iconst 0, 1) := Fm3 (dk_3 (dk_at s3_0 1 rfl rfl)) rfl
theorem f3_2 : ft 3 2 = some (0, 1, 0, .aload_n 0, 1) := Fm3 (dk_42 (dk_at s3_0 2 rfl rfl)) rfl
theorem f3_3 : ft 3 3 = some (0, 1, 0, .iload_n 1, 1) := Fm3 (dk_27 (dk_at s3_0 3 rfl rfl)) rfl
theorem f3_4 : ft 3 4 = some (0, 1, 0, .invokevirtual 21, 3) := Fm3 (dk_182 0 21 (dk_at s3_0 4 rfl rfl)) rfl
theorem f3_7 : ft 3 7 = some (0, 1, 0, .i2l, 1) := Fm3 (dk_133 (dk_at s3_0 7 rfl rfl)) rfl
theorem f3_8 : ft 3 8 = some (0, 1, 0, .lastore, 1) := Fm3 (dk_80 (dk_at s3_0 8 rfl rfl)) rfl
theorem f3_9 : ft 3 9 = some (0, 1, 0, .goto 15, 3) := Fm3 (dk_167 0 15 (dk_at s3_0 9 rfl rfl)) rfl
theorem f3_12 : ft 3 12 = some (0, 1, 0, .astore_n 3, 1) := Fm3 (dk_78 (dk_at s3_0 12 rfl rfl)) rfl
theorem f3_13 : ft 3 13 = some (0, 1, 0, .iconst 1, 1) := Fm3 (dk_4 (dk_at s3_0 13 rfl rfl)) rfl
theorem f3_14 : ft 3 14 = some (0, 1, 0, .ireturn, 1) := Fm3 (dk_172 (dk_at s3_0 14 rfl rfl)) rfl
theorem f3_15 : ft 3 15 = some (0, 1, 0, .astore_n 3, 1) := Fm3 (dk_78 (dk_at s3_0 15 rfl rfl)) rfl
theorem f3_16 : ft 3 16 = some (0, 1, 0, .iconst 2, 1) := Fm3 (dk_5 (dk_at s3_0 16 rfl rfl)) rfl
theorem f3_17 : ft 3 17 = some (0, 1, 0, .ireturn, 1) := Fm3 (dk_172 (dk_at s3_0 17 rfl rfl)) rfl
theorem f3_18 : ft 3 18 = some (0, 1, 0, .astore_n 3, 1) := Fm3 (dk_78 (dk_at s3_0 18 rfl rfl)) rfl
theorem f3_19 : ft 3 19 = some (0, 1, 0, .iconst 3, 1) := Fm3 (dk_6 (dk_at s3_0 19 rfl rfl)) rfl
theorem f3_20 : ft 3 20 = some (0, 1, 0, .ireturn, 1) := Fm3 (dk_172 (dk_at s3_0 20 rfl rfl)) rfl
theorem f3_21 : ft 3 21 = some (0, 1, 0, .astore_n 3, 1) := Fm3 (dk_78 (dk_at s3_0 21 rfl rfl)) rfl
theorem f3_22 : ft 3 22 = some (0, 1, 0, .iconst 4, 1) := Fm3 (dk_7 (dk_at s3_0 22 rfl rfl)) rfl
theorem f3_23 : ft 3 23 = some (0, 1, 0, .ireturn, 1) := Fm3 (dk_172 (dk_at s3_0 23 rfl rfl)) rfl
theorem f3_24 : ft 3 24 = some (0, 1, 0, .iconst 0, 1) := Fm3 (dk_3 (dk_at s3_1 0 rfl rfl)) rfl
theorem f3_25 : ft 3 25 = some (0, 1, 0, .ireturn, 1) := Fm3 (dk_172 (dk_at s3_1 1 rfl rfl)) rfl
theorem q3 {d : Nat} {m : Mem} {a0 a1 a2 : Int} (hd : 0 < d) (hz : TZ m) : le2 (gd (tg m a0 = 1) <| bIh (cl (d - 1) 24 [pR a0, pI a1] m) (fun v1 m1 => gd (tg m1 a2 = 1102) <| gd ((0 : Int) ≤ 0 ∧ 0 < ln m1 a2) <| some (.inl (some (pI 0)), (mst m1 a2 0 v1))) fun x2 m2 => if x2 = 202 then (some (.inl (some (pI 1)), m2)) else if x2 = 203 then (some (.inl (some (pI 2)), m2)) else if x2 = 204 then (some (.inl (some (pI 3)), m2)) else if x2 = 201 then (some (.inl (some (pI 4)), m2)) else none) (cl d 3 [pR a0, pI a1, pR a2] m) := by
  refine q_in (n := 4) (L := [pR a0, pI a1, pR a2, pU]) rfl rfl rfl ?_
  refine r_aln2 (p := 1) f3_0 rfl ?_
  refine r_iconst (p := 2) f3_1 rfl (pinD rfl rfl) ?_
  refine r_aln0 (p := 3) f3_2 rfl ?_
  refine r_iln1 (p := 4) f3_3 rfl ?_
  refine le2_gd (fun h1 => ?_)
  refine r_invIh (p := 7) f3_4 rfl rfl rfl (Or.inl h1) hd (Nat.le_of_ble_eq_true rfl) rfl rfl (fun v1 m1 c1 => ?_) (fun x2 m2 c2 => ?_)
  · have hz1 := z_k c1 hz
    refine r_i2l (p := 8) f3_7 rfl ?_
    refine le2_gd (fun h2 => ?_)
    refine le2_gd (fun h3 => ?_)
    refine r_lastore (p := 9) f3_8 rfl (dj1 (fun x => 1000 ≤ x ∧ x % 1000 = 102 ∧ Nat.testBit (eM 3) (bix x 0) = true) h2 (by decide)) h3 ?_
    refine r_goto (p := 24) f3_9 (by decide) rfl ?_
    refine r_iconst (p := 25) f3_24 rfl (pinD rfl rfl) ?_
    exact r_iret1 f3_25
  · have hz2 := z_k c2 hz
    refine le2_ite (fun h7 => ?_) (fun h7 => ?_)
    · refine hres_at (h := 12) (by rw [h7]; rfl) ?_
      refine r_asn3 (p := 13) f3_12 rfl rfl ?_
      refine r_iconst (p := 14) f3_13 rfl (pinD rfl rfl) ?_
      exact r_iret1 f3_14
    · refine le2_ite (fun h6 => ?_) (fun h6 => ?_)
      · refine hres_at (h := 15) (by rw [h6]; rfl) ?_
        refine r_asn3 (p := 16) f3_15 rfl rfl ?_
        refine r_iconst (p := 17) f3_16 rfl (pinD rfl rfl) ?_
        exact r_iret1 f3_17
      · refine le2_ite (fun h5 => ?_) (fun h5 => ?_)
        · refine hres_at (h := 18) (by rw [h5]; rfl) ?_
          refine r_asn3 (p := 19) f3_18 rfl rfl ?_
          refine r_iconst (p := 20) f3_19 rfl (pinD rfl rfl) ?_
          exact r_iret1 f3_20
        · refine le2_ite (fun h4 => ?_) (fun h4 => ?_)
          · refine hres_at (h := 21) (by rw [h4]; rfl) ?_
            refine r_asn3 (p := 22) f3_21 rfl rfl ?_
            refine r_iconst (p := 23) f3_22 rfl (pinD rfl rfl) ?_
            exact r_iret1 f3_23
          · exact le2_none
/-! 4 PathStoreLaw.get (LPathStore;II[J)I -/
def w4_1 : List UInt8 := [172, 3, 172]
abbrev u4_1 : List UInt8 := w4_1 ++ []
def w4_0 : List UInt8 := [45, 3, 42, 27, 28, 182, 0, 28, 133, 80, 167, 0, 15, 58, 4, 4, 172, 58, 4, 5, 172, 58, 4, 6]
abbrev u4_0 : List UInt8 := w4_0 ++ u4_1
theorem s4_0 : (method_6_code).data.toList.drop 0 = u4_0 := by decide +kernel
theorem s4_1 : (method_6_code).data.toList.drop 24 = u4_1 := dk_seg s4_0 24 rfl rfl
theorem Fm4 {pc len : Nat} {i : Instr} (h : decode (method_6_code) pc = .ok (i, len)) (hl : len = ilen i len) : ft 4 pc = some (0, 1, 0, i, len) := ft_mk rfl h hl
theorem f4_0 : ft 4 0 = some (0, 1, 0, .aload_n 3, 1) := Fm4 (dk_45 (dk_at s4_0 0 rfl rfl)) rfl
theorem f4_1 : ft 4 1 = some (0, 1, 0, .iconst 0, 1) := Fm4 (dk_3 (dk_at s4_0 1 rfl rfl)) rfl
theorem f4_2 : ft 4 2 = some (0, 1, 0, .aload_n 0, 1) := Fm4 (dk_42 (dk_at s4_0 2 rfl rfl)) rfl
theorem f4_3 : ft 4 3 = some (0, 1, 0, .iload_n 1, 1) := Fm4 (dk_27 (dk_at s4_0 3 rfl rfl)) rfl
theorem f4_4 : ft 4 4 = some (0, 1, 0, .iload_n 2, 1) := Fm4 (dk_28 (dk_at s4_0 4 rfl rfl)) rfl
theorem f4_5 : ft 4 5 = some (0, 1, 0, .invokevirtual 28, 3) := Fm4 (dk_182 0 28 (dk_at s4_0 5 rfl rfl)) rfl
theorem f4_8 : ft 4 8 = some (0, 1, 0, .i2l, 1) := Fm4 (dk_133 (dk_at s4_0 8 rfl rfl)) rfl
theorem f4_9 : ft 4 9 = some (0, 1, 0, .lastore, 1) := Fm4 (dk_80 (dk_at s4_0 9 rfl rfl)) rfl
theorem f4_10 : ft 4 10 = some (0, 1, 0, .goto 15, 3) := Fm4 (dk_167 0 15 (dk_at s4_0 10 rfl rfl)) rfl
theorem f4_13 : ft 4 13 = some (0, 1, 0, .astore 4, 2) := Fm4 (dk_58 4 (dk_at s4_0 13 rfl rfl)) rfl
theorem f4_15 : ft 4 15 = some (0, 1, 0, .iconst 1, 1) := Fm4 (dk_4 (dk_at s4_0 15 rfl rfl)) rfl
theorem f4_16 : ft 4 16 = some (0, 1, 0, .ireturn, 1) := Fm4 (dk_172 (dk_at s4_0 16 rfl rfl)) rfl
theorem f4_17 : ft 4 17 = some (0, 1, 0, .astore 4, 2) := Fm4 (dk_58 4 (dk_at s4_0 17 rfl rfl)) rfl
theorem f4_19 : ft 4 19 = some (0, 1, 0, .iconst 2, 1) := Fm4 (dk_5 (dk_at s4_0 19 rfl rfl)) rfl
theorem f4_20 : ft 4 20 = some (0, 1, 0, .ireturn, 1) := Fm4 (dk_172 (dk_at s4_0 20 rfl rfl)) rfl
theorem f4_21 : ft 4 21 = some (0, 1, 0, .astore 4, 2) := Fm4 (dk_58 4 (dk_at s4_0 21 rfl rfl)) rfl
theorem f4_23 : ft 4 23 = some (0, 1, 0, .iconst 3, 1) := Fm4 (dk_6 (dk_at s4_0 23 rfl rfl)) rfl
theorem f4_24 : ft 4 24 = some (0, 1, 0, .ireturn, 1) := Fm4 (dk_172 (dk_at s4_1 0 rfl rfl)) rfl
theorem f4_25 : ft 4 25 = some (0, 1, 0, .iconst 0, 1) := Fm4 (dk_3 (dk_at s4_1 1 rfl rfl)) rfl
theorem f4_26 : ft 4 26 = some (0, 1, 0, .ireturn, 1) := Fm4 (dk_172 (dk_at s4_1 2 rfl rfl)) rfl
theorem q4 {d : Nat} {m : Mem} {a0 a1 a2 a3 : Int} (hd : 0 < d) (hz : TZ m) : le2 (gd (tg m a0 = 1) <| bIh (cl (d - 1) 30 [pR a0, pI a1, pI a2] m) (fun v1 m1 => gd (tg m1 a3 = 1102) <| gd ((0 : Int) ≤ 0 ∧ 0 < ln m1 a3) <| some (.inl (some (pI 0)), (mst m1 a3 0 v1))) fun x2 m2 => if x2 = 202 then (some (.inl (some (pI 1)), m2)) else if x2 = 203 then (some (.inl (some (pI 2)), m2)) else if x2 = 205 then (some (.inl (some (pI 3)), m2)) else none) (cl d 4 [pR a0, pI a1, pI a2, pR a3] m) := by
  refine q_in (n := 5) (L := [pR a0, pI a1, pI a2, pR a3, pU]) rfl rfl rfl ?_
  refine r_aln3 (p := 1) f4_0 rfl ?_
  refine r_iconst (p := 2) f4_1 rfl (pinD rfl rfl) ?_
  refine r_aln0 (p := 3) f4_2 rfl ?_
  refine r_iln1 (p := 4) f4_3 rfl ?_
  refine r_iln2 (p := 5) f4_4 rfl ?_
  refine le2_gd (fun h1 => ?_)
  refine r_invIh (p := 8) f4_5 rfl rfl rfl (Or.inl h1) hd (Nat.le_of_ble_eq_true rfl) rfl rfl (fun v1 m1 c1 => ?_) (fun x2 m2 c2 => ?_)
  · have hz1 := z_k c1 hz
    refine r_i2l (p := 9) f4_8 rfl ?_
    refine le2_gd (fun h2 => ?_)
    refine le2_gd (fun h3 => ?_)
    refine r_lastore (p := 10) f4_9 rfl (dj1 (fun x => 1000 ≤ x ∧ x % 1000 = 102 ∧ Nat.testBit (eM 4) (bix x 0) = true) h2 (by decide)) h3 ?_
    refine r_goto (p := 25) f4_10 (by decide) rfl ?_
    refine r_iconst (p := 26) f4_25 rfl (pinD rfl rfl) ?_
    exact r_iret1 f4_26
  · have hz2 := z_k c2 hz
    refine le2_ite (fun h6 => ?_) (fun h6 => ?_)
    · refine hres_at (h := 13) (by rw [h6]; rfl) ?_
      refine r_asw4 (p := 15) f4_13 rfl rfl ?_
      refine r_iconst (p := 16) f4_15 rfl (pinD rfl rfl) ?_
      exact r_iret1 f4_16
    · refine le2_ite (fun h5 => ?_) (fun h5 => ?_)
      · refine hres_at (h := 17) (by rw [h5]; rfl) ?_
        refine r_asw4 (p := 19) f4_17 rfl rfl ?_
        refine r_iconst (p := 20) f4_19 rfl (pinD rfl rfl) ?_
        exact r_iret1 f4_20
      · refine le2_ite (fun h4 => ?_) (fun h4 => ?_)
        · refine hres_at (h := 21) (by rw [h4]; rfl) ?_
          refine r_asw4 (p := 23) f4_21 rfl rfl ?_
          refine r_iconst (p := 24) f4_23 rfl (pinD rfl rfl) ?_
          exact r_iret1 f4_24
        · exact le2_none
/-! 5 PathStoreLaw.out (LPathStore;I[J)I -/
def w5_0 : List UInt8 := [44, 3, 42, 27, 182, 0, 34, 133, 80, 167, 0, 12, 78, 4, 172, 78, 5, 172, 78, 6, 172, 3, 172]
abbrev u5_0 : List UInt8 := w5_0 ++ []
theorem s5_0 : (method_7_code).data.toList.drop 0 = u5_0 := by decide +kernel
theorem Fm5 {pc len : Nat} {i : Instr} (h : decode (method_7_code) pc = .ok (i, len)) (hl : len = ilen i len) : ft 5 pc = some (0, 1, 0, i, len) := ft_mk rfl h hl
theorem f5_0 : ft 5 0 = some (0, 1, 0, .aload_n 2, 1) := Fm5 (dk_44 (dk_at s5_0 0 rfl rfl)) rfl
theorem f5_1 : ft 5 1 = some (0, 1, 0, .iconst 0, 1) := Fm5 (dk_3 (dk_at s5_0 1 rfl rfl)) rfl
theorem f5_2 : ft 5 2 = some (0, 1, 0, .aload_n 0, 1) := Fm5 (dk_42 (dk_at s5_0 2 rfl rfl)) rfl
theorem f5_3 : ft 5 3 = some (0, 1, 0, .iload_n 1, 1) := Fm5 (dk_27 (dk_at s5_0 3 rfl rfl)) rfl
theorem f5_4 : ft 5 4 = some (0, 1, 0, .invokevirtual 34, 3) := Fm5 (dk_182 0 34 (dk_at s5_0 4 rfl rfl)) rfl
theorem f5_7 : ft 5 7 = some (0, 1, 0, .i2l, 1) := Fm5 (dk_133 (dk_at s5_0 7 rfl rfl)) rfl
theorem f5_8 : ft 5 8 = some (0, 1, 0, .lastore, 1) := Fm5 (dk_80 (dk_at s5_0 8 rfl rfl)) rfl
theorem f5_9 : ft 5 9 = some (0, 1, 0, .goto 12, 3) := Fm5 (dk_167 0 12 (dk_at s5_0 9 rfl rfl)) rfl
theorem f5_12 : ft 5 12 = some (0, 1, 0, .astore_n 3, 1) := Fm5 (dk_78 (dk_at s5_0 12 rfl rfl)) rfl
theorem f5_13 : ft 5 13 = some (0, 1, 0, .iconst 1, 1) := Fm5 (dk_4 (dk_at s5_0 13 rfl rfl)) rfl
theorem f5_14 : ft 5 14 = some (0, 1, 0, .ireturn, 1) := Fm5 (dk_172 (dk_at s5_0 14 rfl rfl)) rfl
theorem f5_15 : ft 5 15 = some (0, 1, 0, .astore_n 3, 1) := Fm5 (dk_78 (dk_at s5_0 15 rfl rfl)) rfl
theorem f5_16 : ft 5 16 = some (0, 1, 0, .iconst 2, 1) := Fm5 (dk_5 (dk_at s5_0 16 rfl rfl)) rfl
theorem f5_17 : ft 5 17 = some (0, 1, 0, .ireturn, 1) := Fm5 (dk_172 (dk_at s5_0 17 rfl rfl)) rfl
theorem f5_18 : ft 5 18 = some (0, 1, 0, .astore_n 3, 1) := Fm5 (dk_78 (dk_at s5_0 18 rfl rfl)) rfl
theorem f5_19 : ft 5 19 = some (0, 1, 0, .iconst 3, 1) := Fm5 (dk_6 (dk_at s5_0 19 rfl rfl)) rfl
theorem f5_20 : ft 5 20 = some (0, 1, 0, .ireturn, 1) := Fm5 (dk_172 (dk_at s5_0 20 rfl rfl)) rfl
theorem f5_21 : ft 5 21 = some (0, 1, 0, .iconst 0, 1) := Fm5 (dk_3 (dk_at s5_0 21 rfl rfl)) rfl
theorem f5_22 : ft 5 22 = some (0, 1, 0, .ireturn, 1) := Fm5 (dk_172 (dk_at s5_0 22 rfl rfl)) rfl
theorem q5 {d : Nat} {m : Mem} {a0 a1 a2 : Int} (hd : 0 < d) (hz : TZ m) : le2 (gd (tg m a0 = 1) <| bIh (cl (d - 1) 33 [pR a0, pI a1] m) (fun v1 m1 => gd (tg m1 a2 = 1102) <| gd ((0 : Int) ≤ 0 ∧ 0 < ln m1 a2) <| some (.inl (some (pI 0)), (mst m1 a2 0 v1))) fun x2 m2 => if x2 = 202 then (some (.inl (some (pI 1)), m2)) else if x2 = 203 then (some (.inl (some (pI 2)), m2)) else if x2 = 205 then (some (.inl (some (pI 3)), m2)) else none) (cl d 5 [pR a0, pI a1, pR a2] m) := by
  refine q_in (n := 4) (L := [pR a0, pI a1, pR a2, pU]) rfl rfl rfl ?_
  refine r_aln2 (p := 1) f5_0 rfl ?_
  refine r_iconst (p := 2) f5_1 rfl (pinD rfl rfl) ?_
  refine r_aln0 (p := 3) f5_2 rfl ?_
  refine r_iln1 (p := 4) f5_3 rfl ?_
  refine le2_gd (fun h1 => ?_)
  refine r_invIh (p := 7) f5_4 rfl rfl rfl (Or.inl h1) hd (Nat.le_of_ble_eq_true rfl) rfl rfl (fun v1 m1 c1 => ?_) (fun x2 m2 c2 => ?_)
  · have hz1 := z_k c1 hz
    refine r_i2l (p := 8) f5_7 rfl ?_
    refine le2_gd (fun h2 => ?_)
    refine le2_gd (fun h3 => ?_)
    refine r_lastore (p := 9) f5_8 rfl (dj1 (fun x => 1000 ≤ x ∧ x % 1000 = 102 ∧ Nat.testBit (eM 5) (bix x 0) = true) h2 (by decide)) h3 ?_
    refine r_goto (p := 21) f5_9 (by decide) rfl ?_
    refine r_iconst (p := 22) f5_21 rfl (pinD rfl rfl) ?_
    exact r_iret1 f5_22
  · have hz2 := z_k c2 hz
    refine le2_ite (fun h6 => ?_) (fun h6 => ?_)
    · refine hres_at (h := 12) (by rw [h6]; rfl) ?_
      refine r_asn3 (p := 13) f5_12 rfl rfl ?_
      refine r_iconst (p := 14) f5_13 rfl (pinD rfl rfl) ?_
      exact r_iret1 f5_14
    · refine le2_ite (fun h5 => ?_) (fun h5 => ?_)
      · refine hres_at (h := 15) (by rw [h5]; rfl) ?_
        refine r_asn3 (p := 16) f5_15 rfl rfl ?_
        refine r_iconst (p := 17) f5_16 rfl (pinD rfl rfl) ?_
        exact r_iret1 f5_17
      · refine le2_ite (fun h4 => ?_) (fun h4 => ?_)
        · refine hres_at (h := 18) (by rw [h4]; rfl) ?_
          refine r_asn3 (p := 19) f5_18 rfl rfl ?_
          refine r_iconst (p := 20) f5_19 rfl (pinD rfl rfl) ?_
          exact r_iret1 f5_20
        · exact le2_none
/-! 6 PathStoreLaw.clear (LPathStore;[J)I -/
def w6_0 : List UInt8 := [43, 3, 42, 182, 0, 37, 133, 80, 167, 0, 6, 77, 4, 172, 3, 172]
abbrev u6_0 : List UInt8 := w6_0 ++ []
theorem s6_0 : (method_8_code).data.toList.drop 0 = u6_0 := by decide +kernel
theorem Fm6 {pc len : Nat} {i : Instr} (h : decode (method_8_code) pc = .ok (i, len)) (hl : len = ilen i len) : ft 6 pc = some (0, 1, 0, i, len) := ft_mk rfl h hl
theorem f6_0 : ft 6 0 = some (0, 1, 0, .aload_n 1, 1) := Fm6 (dk_43 (dk_at s6_0 0 rfl rfl)) rfl
theorem f6_1 : ft 6 1 = some (0, 1, 0, .iconst 0, 1) := Fm6 (dk_3 (dk_at s6_0 1 rfl rfl)) rfl
theorem f6_2 : ft 6 2 = some (0, 1, 0, .aload_n 0, 1) := Fm6 (dk_42 (dk_at s6_0 2 rfl rfl)) rfl
theorem f6_3 : ft 6 3 = some (0, 1, 0, .invokevirtual 37, 3) := Fm6 (dk_182 0 37 (dk_at s6_0 3 rfl rfl)) rfl
theorem f6_6 : ft 6 6 = some (0, 1, 0, .i2l, 1) := Fm6 (dk_133 (dk_at s6_0 6 rfl rfl)) rfl
theorem f6_7 : ft 6 7 = some (0, 1, 0, .lastore, 1) := Fm6 (dk_80 (dk_at s6_0 7 rfl rfl)) rfl
theorem f6_8 : ft 6 8 = some (0, 1, 0, .goto 6, 3) := Fm6 (dk_167 0 6 (dk_at s6_0 8 rfl rfl)) rfl
theorem f6_11 : ft 6 11 = some (0, 1, 0, .astore_n 2, 1) := Fm6 (dk_77 (dk_at s6_0 11 rfl rfl)) rfl
theorem f6_12 : ft 6 12 = some (0, 1, 0, .iconst 1, 1) := Fm6 (dk_4 (dk_at s6_0 12 rfl rfl)) rfl
theorem f6_13 : ft 6 13 = some (0, 1, 0, .ireturn, 1) := Fm6 (dk_172 (dk_at s6_0 13 rfl rfl)) rfl
theorem f6_14 : ft 6 14 = some (0, 1, 0, .iconst 0, 1) := Fm6 (dk_3 (dk_at s6_0 14 rfl rfl)) rfl
theorem f6_15 : ft 6 15 = some (0, 1, 0, .ireturn, 1) := Fm6 (dk_172 (dk_at s6_0 15 rfl rfl)) rfl
theorem q6 {d : Nat} {m : Mem} {a0 a1 : Int} (hd : 0 < d) (hz : TZ m) : le2 (gd (tg m a0 = 1) <| bIh (cl (d - 1) 34 [pR a0] m) (fun v1 m1 => gd (tg m1 a1 = 1102) <| gd ((0 : Int) ≤ 0 ∧ 0 < ln m1 a1) <| some (.inl (some (pI 0)), (mst m1 a1 0 v1))) fun x2 m2 => if x2 = 203 then (some (.inl (some (pI 1)), m2)) else none) (cl d 6 [pR a0, pR a1] m) := by
  refine q_in (n := 3) (L := [pR a0, pR a1, pU]) rfl rfl rfl ?_
  refine r_aln1 (p := 1) f6_0 rfl ?_
  refine r_iconst (p := 2) f6_1 rfl (pinD rfl rfl) ?_
  refine r_aln0 (p := 3) f6_2 rfl ?_
  refine le2_gd (fun h1 => ?_)
  refine r_invIh (p := 6) f6_3 rfl rfl rfl (Or.inl h1) hd (Nat.le_of_ble_eq_true rfl) rfl rfl (fun v1 m1 c1 => ?_) (fun x2 m2 c2 => ?_)
  · have hz1 := z_k c1 hz
    refine r_i2l (p := 7) f6_6 rfl ?_
    refine le2_gd (fun h2 => ?_)
    refine le2_gd (fun h3 => ?_)
    refine r_lastore (p := 8) f6_7 rfl (dj1 (fun x => 1000 ≤ x ∧ x % 1000 = 102 ∧ Nat.testBit (eM 6) (bix x 0) = true) h2 (by decide)) h3 ?_
    refine r_goto (p := 14) f6_8 (by decide) rfl ?_
    refine r_iconst (p := 15) f6_14 rfl (pinD rfl rfl) ?_
    exact r_iret1 f6_15
  · have hz2 := z_k c2 hz
    refine le2_ite (fun h4 => ?_) (fun h4 => ?_)
    · refine hres_at (h := 11) (by rw [h4]; rfl) ?_
      refine r_asn2 (p := 12) f6_11 rfl rfl ?_
      refine r_iconst (p := 13) f6_12 rfl (pinD rfl rfl) ?_
      exact r_iret1 f6_13
    · exact le2_none
/-! 7 PathStoreLaw.patch (LPathStore;I[J)I -/
def w7_1 : List UInt8 := [78, 8, 172, 78, 16, 6, 172, 3, 172]
abbrev u7_1 : List UInt8 := w7_1 ++ []
def w7_0 : List UInt8 := [44, 3, 42, 27, 182, 0, 41, 133, 80, 167, 0, 22, 78, 4, 172, 78, 5, 172, 78, 6, 172, 78, 7, 172]
abbrev u7_0 : List UInt8 := w7_0 ++ u7_1
theorem s7_0 : (method_9_code).data.toList.drop 0 = u7_0 := by decide +kernel
theorem s7_1 : (method_9_code).data.toList.drop 24 = u7_1 := dk_seg s7_0 24 rfl rfl
theorem Fm7 {pc len : Nat} {i : Instr} (h : decode (method_9_code) pc = .ok (i, len)) (hl : len = ilen i len) : ft 7 pc = some (0, 1, 0, i, len) := ft_mk rfl h hl
theorem f7_0 : ft 7 0 = some (0, 1, 0, .aload_n 2, 1) := Fm7 (dk_44 (dk_at s7_0 0 rfl rfl)) rfl
theorem f7_1 : ft 7 1 = some (0, 1, 0, .iconst 0, 1) := Fm7 (dk_3 (dk_at s7_0 1 rfl rfl)) rfl
theorem f7_2 : ft 7 2 = some (0, 1, 0, .aload_n 0, 1) := Fm7 (dk_42 (dk_at s7_0 2 rfl rfl)) rfl
theorem f7_3 : ft 7 3 = some (0, 1, 0, .iload_n 1, 1) := Fm7 (dk_27 (dk_at s7_0 3 rfl rfl)) rfl
theorem f7_4 : ft 7 4 = some (0, 1, 0, .invokevirtual 41, 3) := Fm7 (dk_182 0 41 (dk_at s7_0 4 rfl rfl)) rfl
theorem f7_7 : ft 7 7 = some (0, 1, 0, .i2l, 1) := Fm7 (dk_133 (dk_at s7_0 7 rfl rfl)) rfl
theorem f7_8 : ft 7 8 = some (0, 1, 0, .lastore, 1) := Fm7 (dk_80 (dk_at s7_0 8 rfl rfl)) rfl
theorem f7_9 : ft 7 9 = some (0, 1, 0, .goto 22, 3) := Fm7 (dk_167 0 22 (dk_at s7_0 9 rfl rfl)) rfl
theorem f7_12 : ft 7 12 = some (0, 1, 0, .astore_n 3, 1) := Fm7 (dk_78 (dk_at s7_0 12 rfl rfl)) rfl
theorem f7_13 : ft 7 13 = some (0, 1, 0, .iconst 1, 1) := Fm7 (dk_4 (dk_at s7_0 13 rfl rfl)) rfl
theorem f7_14 : ft 7 14 = some (0, 1, 0, .ireturn, 1) := Fm7 (dk_172 (dk_at s7_0 14 rfl rfl)) rfl
theorem f7_15 : ft 7 15 = some (0, 1, 0, .astore_n 3, 1) := Fm7 (dk_78 (dk_at s7_0 15 rfl rfl)) rfl
theorem f7_16 : ft 7 16 = some (0, 1, 0, .iconst 2, 1) := Fm7 (dk_5 (dk_at s7_0 16 rfl rfl)) rfl
theorem f7_17 : ft 7 17 = some (0, 1, 0, .ireturn, 1) := Fm7 (dk_172 (dk_at s7_0 17 rfl rfl)) rfl
theorem f7_18 : ft 7 18 = some (0, 1, 0, .astore_n 3, 1) := Fm7 (dk_78 (dk_at s7_0 18 rfl rfl)) rfl
theorem f7_19 : ft 7 19 = some (0, 1, 0, .iconst 3, 1) := Fm7 (dk_6 (dk_at s7_0 19 rfl rfl)) rfl
theorem f7_20 : ft 7 20 = some (0, 1, 0, .ireturn, 1) := Fm7 (dk_172 (dk_at s7_0 20 rfl rfl)) rfl
theorem f7_21 : ft 7 21 = some (0, 1, 0, .astore_n 3, 1) := Fm7 (dk_78 (dk_at s7_0 21 rfl rfl)) rfl
theorem f7_22 : ft 7 22 = some (0, 1, 0, .iconst 4, 1) := Fm7 (dk_7 (dk_at s7_0 22 rfl rfl)) rfl
theorem f7_23 : ft 7 23 = some (0, 1, 0, .ireturn, 1) := Fm7 (dk_172 (dk_at s7_0 23 rfl rfl)) rfl
theorem f7_24 : ft 7 24 = some (0, 1, 0, .astore_n 3, 1) := Fm7 (dk_78 (dk_at s7_1 0 rfl rfl)) rfl
theorem f7_25 : ft 7 25 = some (0, 1, 0, .iconst 5, 1) := Fm7 (dk_8 (dk_at s7_1 1 rfl rfl)) rfl
theorem f7_26 : ft 7 26 = some (0, 1, 0, .ireturn, 1) := Fm7 (dk_172 (dk_at s7_1 2 rfl rfl)) rfl
theorem f7_27 : ft 7 27 = some (0, 1, 0, .astore_n 3, 1) := Fm7 (dk_78 (dk_at s7_1 3 rfl rfl)) rfl
theorem f7_28 : ft 7 28 = some (0, 1, 0, .bipush 6, 2) := Fm7 (dk_16 6 (dk_at s7_1 4 rfl rfl)) rfl
theorem f7_30 : ft 7 30 = some (0, 1, 0, .ireturn, 1) := Fm7 (dk_172 (dk_at s7_1 6 rfl rfl)) rfl
theorem f7_31 : ft 7 31 = some (0, 1, 0, .iconst 0, 1) := Fm7 (dk_3 (dk_at s7_1 7 rfl rfl)) rfl
theorem f7_32 : ft 7 32 = some (0, 1, 0, .ireturn, 1) := Fm7 (dk_172 (dk_at s7_1 8 rfl rfl)) rfl
theorem q7 {d : Nat} {m : Mem} {a0 a1 a2 : Int} (hd : 0 < d) (hz : TZ m) : le2 (gd (tg m a0 = 1) <| bIh (cl (d - 1) 35 [pR a0, pI a1] m) (fun v1 m1 => gd (tg m1 a2 = 1102) <| gd ((0 : Int) ≤ 0 ∧ 0 < ln m1 a2) <| some (.inl (some (pI 0)), (mst m1 a2 0 v1))) fun x2 m2 => if x2 = 202 then (some (.inl (some (pI 1)), m2)) else if x2 = 203 then (some (.inl (some (pI 2)), m2)) else if x2 = 204 then (some (.inl (some (pI 3)), m2)) else if x2 = 205 then (some (.inl (some (pI 4)), m2)) else if x2 = 206 then (some (.inl (some (pI 5)), m2)) else if x2 = 201 then (some (.inl (some (pI 6)), m2)) else none) (cl d 7 [pR a0, pI a1, pR a2] m) := by
  refine q_in (n := 4) (L := [pR a0, pI a1, pR a2, pU]) rfl rfl rfl ?_
  refine r_aln2 (p := 1) f7_0 rfl ?_
  refine r_iconst (p := 2) f7_1 rfl (pinD rfl rfl) ?_
  refine r_aln0 (p := 3) f7_2 rfl ?_
  refine r_iln1 (p := 4) f7_3 rfl ?_
  refine le2_gd (fun h1 => ?_)
  refine r_invIh (p := 7) f7_4 rfl rfl rfl (Or.inl h1) hd (Nat.le_of_ble_eq_true rfl) rfl rfl (fun v1 m1 c1 => ?_) (fun x2 m2 c2 => ?_)
  · have hz1 := z_k c1 hz
    refine r_i2l (p := 8) f7_7 rfl ?_
    refine le2_gd (fun h2 => ?_)
    refine le2_gd (fun h3 => ?_)
    refine r_lastore (p := 9) f7_8 rfl (dj1 (fun x => 1000 ≤ x ∧ x % 1000 = 102 ∧ Nat.testBit (eM 7) (bix x 0) = true) h2 (by decide)) h3 ?_
    refine r_goto (p := 31) f7_9 (by decide) rfl ?_
    refine r_iconst (p := 32) f7_31 rfl (pinD rfl rfl) ?_
    exact r_iret1 f7_32
  · have hz2 := z_k c2 hz
    refine le2_ite (fun h9 => ?_) (fun h9 => ?_)
    · refine hres_at (h := 12) (by rw [h9]; rfl) ?_
      refine r_asn3 (p := 13) f7_12 rfl rfl ?_
      refine r_iconst (p := 14) f7_13 rfl (pinD rfl rfl) ?_
      exact r_iret1 f7_14
    · refine le2_ite (fun h8 => ?_) (fun h8 => ?_)
      · refine hres_at (h := 15) (by rw [h8]; rfl) ?_
        refine r_asn3 (p := 16) f7_15 rfl rfl ?_
        refine r_iconst (p := 17) f7_16 rfl (pinD rfl rfl) ?_
        exact r_iret1 f7_17
      · refine le2_ite (fun h7 => ?_) (fun h7 => ?_)
        · refine hres_at (h := 18) (by rw [h7]; rfl) ?_
          refine r_asn3 (p := 19) f7_18 rfl rfl ?_
          refine r_iconst (p := 20) f7_19 rfl (pinD rfl rfl) ?_
          exact r_iret1 f7_20
        · refine le2_ite (fun h6 => ?_) (fun h6 => ?_)
          · refine hres_at (h := 21) (by rw [h6]; rfl) ?_
            refine r_asn3 (p := 22) f7_21 rfl rfl ?_
            refine r_iconst (p := 23) f7_22 rfl (pinD rfl rfl) ?_
            exact r_iret1 f7_23
          · refine le2_ite (fun h5 => ?_) (fun h5 => ?_)
            · refine hres_at (h := 24) (by rw [h5]; rfl) ?_
              refine r_asn3 (p := 25) f7_24 rfl rfl ?_
              refine r_iconst (p := 26) f7_25 rfl (pinD rfl rfl) ?_
              exact r_iret1 f7_26
            · refine le2_ite (fun h4 => ?_) (fun h4 => ?_)
              · refine hres_at (h := 27) (by rw [h4]; rfl) ?_
                refine r_asn3 (p := 28) f7_27 rfl rfl ?_
                refine r_bipush (p := 30) f7_28 rfl (pinD rfl rfl) ?_
                exact r_iret1 f7_30
              · exact le2_none
/-! 8 PathStoreLaw.open (LPathStore;I)I -/
def w8_0 : List UInt8 := [42, 27, 182, 0, 46, 167, 0, 9, 77, 4, 172, 77, 5, 172, 3, 172]
abbrev u8_0 : List UInt8 := w8_0 ++ []
theorem s8_0 : (method_10_code).data.toList.drop 0 = u8_0 := by decide +kernel
theorem Fm8 {pc len : Nat} {i : Instr} (h : decode (method_10_code) pc = .ok (i, len)) (hl : len = ilen i len) : ft 8 pc = some (0, 1, 0, i, len) := ft_mk rfl h hl
theorem f8_0 : ft 8 0 = some (0, 1, 0, .aload_n 0, 1) := Fm8 (dk_42 (dk_at s8_0 0 rfl rfl)) rfl
theorem f8_1 : ft 8 1 = some (0, 1, 0, .iload_n 1, 1) := Fm8 (dk_27 (dk_at s8_0 1 rfl rfl)) rfl
theorem f8_2 : ft 8 2 = some (0, 1, 0, .invokevirtual 46, 3) := Fm8 (dk_182 0 46 (dk_at s8_0 2 rfl rfl)) rfl
theorem f8_5 : ft 8 5 = some (0, 1, 0, .goto 9, 3) := Fm8 (dk_167 0 9 (dk_at s8_0 5 rfl rfl)) rfl
theorem f8_8 : ft 8 8 = some (0, 1, 0, .astore_n 2, 1) := Fm8 (dk_77 (dk_at s8_0 8 rfl rfl)) rfl
theorem f8_9 : ft 8 9 = some (0, 1, 0, .iconst 1, 1) := Fm8 (dk_4 (dk_at s8_0 9 rfl rfl)) rfl
theorem f8_10 : ft 8 10 = some (0, 1, 0, .ireturn, 1) := Fm8 (dk_172 (dk_at s8_0 10 rfl rfl)) rfl
theorem f8_11 : ft 8 11 = some (0, 1, 0, .astore_n 2, 1) := Fm8 (dk_77 (dk_at s8_0 11 rfl rfl)) rfl
theorem f8_12 : ft 8 12 = some (0, 1, 0, .iconst 2, 1) := Fm8 (dk_5 (dk_at s8_0 12 rfl rfl)) rfl
theorem f8_13 : ft 8 13 = some (0, 1, 0, .ireturn, 1) := Fm8 (dk_172 (dk_at s8_0 13 rfl rfl)) rfl
theorem f8_14 : ft 8 14 = some (0, 1, 0, .iconst 0, 1) := Fm8 (dk_3 (dk_at s8_0 14 rfl rfl)) rfl
theorem f8_15 : ft 8 15 = some (0, 1, 0, .ireturn, 1) := Fm8 (dk_172 (dk_at s8_0 15 rfl rfl)) rfl
theorem q8 {d : Nat} {m : Mem} {a0 a1 : Int} (hd : 0 < d) (hz : TZ m) : le2 (gd (tg m a0 = 1) <| bVh (cl (d - 1) 36 [pR a0, pI a1] m) (fun m1 => some (.inl (some (pI 0)), m1)) fun x2 m2 => if x2 = 202 then (some (.inl (some (pI 1)), m2)) else if x2 = 203 then (some (.inl (some (pI 2)), m2)) else none) (cl d 8 [pR a0, pI a1] m) := by
  refine q_in (n := 3) (L := [pR a0, pI a1, pU]) rfl rfl rfl ?_
  refine r_aln0 (p := 1) f8_0 rfl ?_
  refine r_iln1 (p := 2) f8_1 rfl ?_
  refine le2_gd (fun h1 => ?_)
  refine r_invVh (p := 5) f8_2 rfl rfl rfl (Or.inl h1) hd (Nat.le_of_ble_eq_true rfl) rfl rfl (fun m1 c1 => ?_) (fun x2 m2 c2 => ?_)
  · have hz1 := z_k c1 hz
    refine r_goto (p := 14) f8_5 (by decide) rfl ?_
    refine r_iconst (p := 15) f8_14 rfl (pinD rfl rfl) ?_
    exact r_iret1 f8_15
  · have hz2 := z_k c2 hz
    refine le2_ite (fun h3 => ?_) (fun h3 => ?_)
    · refine hres_at (h := 8) (by rw [h3]; rfl) ?_
      refine r_asn2 (p := 9) f8_8 rfl rfl ?_
      refine r_iconst (p := 10) f8_9 rfl (pinD rfl rfl) ?_
      exact r_iret1 f8_10
    · refine le2_ite (fun h2 => ?_) (fun h2 => ?_)
      · refine hres_at (h := 11) (by rw [h2]; rfl) ?_
        refine r_asn2 (p := 12) f8_11 rfl rfl ?_
        refine r_iconst (p := 13) f8_12 rfl (pinD rfl rfl) ?_
        exact r_iret1 f8_13
      · exact le2_none
/-! 9 PathStoreLaw.close (LPathStore;I)I -/
def w9_0 : List UInt8 := [42, 27, 182, 0, 50, 167, 0, 9, 77, 4, 172, 77, 5, 172, 3, 172]
abbrev u9_0 : List UInt8 := w9_0 ++ []
theorem s9_0 : (method_11_code).data.toList.drop 0 = u9_0 := by decide +kernel
theorem Fm9 {pc len : Nat} {i : Instr} (h : decode (method_11_code) pc = .ok (i, len)) (hl : len = ilen i len) : ft 9 pc = some (0, 1, 0, i, len) := ft_mk rfl h hl
theorem f9_0 : ft 9 0 = some (0, 1, 0, .aload_n 0, 1) := Fm9 (dk_42 (dk_at s9_0 0 rfl rfl)) rfl
theorem f9_1 : ft 9 1 = some (0, 1, 0, .iload_n 1, 1) := Fm9 (dk_27 (dk_at s9_0 1 rfl rfl)) rfl
theorem f9_2 : ft 9 2 = some (0, 1, 0, .invokevirtual 50, 3) := Fm9 (dk_182 0 50 (dk_at s9_0 2 rfl rfl)) rfl
theorem f9_5 : ft 9 5 = some (0, 1, 0, .goto 9, 3) := Fm9 (dk_167 0 9 (dk_at s9_0 5 rfl rfl)) rfl
theorem f9_8 : ft 9 8 = some (0, 1, 0, .astore_n 2, 1) := Fm9 (dk_77 (dk_at s9_0 8 rfl rfl)) rfl
theorem f9_9 : ft 9 9 = some (0, 1, 0, .iconst 1, 1) := Fm9 (dk_4 (dk_at s9_0 9 rfl rfl)) rfl
theorem f9_10 : ft 9 10 = some (0, 1, 0, .ireturn, 1) := Fm9 (dk_172 (dk_at s9_0 10 rfl rfl)) rfl
theorem f9_11 : ft 9 11 = some (0, 1, 0, .astore_n 2, 1) := Fm9 (dk_77 (dk_at s9_0 11 rfl rfl)) rfl
theorem f9_12 : ft 9 12 = some (0, 1, 0, .iconst 2, 1) := Fm9 (dk_5 (dk_at s9_0 12 rfl rfl)) rfl
theorem f9_13 : ft 9 13 = some (0, 1, 0, .ireturn, 1) := Fm9 (dk_172 (dk_at s9_0 13 rfl rfl)) rfl
theorem f9_14 : ft 9 14 = some (0, 1, 0, .iconst 0, 1) := Fm9 (dk_3 (dk_at s9_0 14 rfl rfl)) rfl
theorem f9_15 : ft 9 15 = some (0, 1, 0, .ireturn, 1) := Fm9 (dk_172 (dk_at s9_0 15 rfl rfl)) rfl
theorem q9 {d : Nat} {m : Mem} {a0 a1 : Int} (hd : 0 < d) (hz : TZ m) : le2 (gd (tg m a0 = 1) <| bVh (cl (d - 1) 37 [pR a0, pI a1] m) (fun m1 => some (.inl (some (pI 0)), m1)) fun x2 m2 => if x2 = 202 then (some (.inl (some (pI 1)), m2)) else if x2 = 203 then (some (.inl (some (pI 2)), m2)) else none) (cl d 9 [pR a0, pI a1] m) := by
  refine q_in (n := 3) (L := [pR a0, pI a1, pU]) rfl rfl rfl ?_
  refine r_aln0 (p := 1) f9_0 rfl ?_
  refine r_iln1 (p := 2) f9_1 rfl ?_
  refine le2_gd (fun h1 => ?_)
  refine r_invVh (p := 5) f9_2 rfl rfl rfl (Or.inl h1) hd (Nat.le_of_ble_eq_true rfl) rfl rfl (fun m1 c1 => ?_) (fun x2 m2 c2 => ?_)
  · have hz1 := z_k c1 hz
    refine r_goto (p := 14) f9_5 (by decide) rfl ?_
    refine r_iconst (p := 15) f9_14 rfl (pinD rfl rfl) ?_
    exact r_iret1 f9_15
  · have hz2 := z_k c2 hz
    refine le2_ite (fun h3 => ?_) (fun h3 => ?_)
    · refine hres_at (h := 8) (by rw [h3]; rfl) ?_
      refine r_asn2 (p := 9) f9_8 rfl rfl ?_
      refine r_iconst (p := 10) f9_9 rfl (pinD rfl rfl) ?_
      exact r_iret1 f9_10
    · refine le2_ite (fun h2 => ?_) (fun h2 => ?_)
      · refine hres_at (h := 11) (by rw [h2]; rfl) ?_
        refine r_asn2 (p := 12) f9_11 rfl rfl ?_
        refine r_iconst (p := 13) f9_12 rfl (pinD rfl rfl) ?_
        exact r_iret1 f9_13
      · exact le2_none
/-! 10 PathStoreLaw.query (LPathStore;I[J)I -/
def w10_1 : List UInt8 := [3, 172]
abbrev u10_1 : List UInt8 := w10_1 ++ []
def w10_0 : List UInt8 := [44, 3, 42, 27, 182, 0, 53, 133, 80, 167, 0, 15, 78, 4, 172, 78, 5, 172, 78, 6, 172, 78, 7, 172]
abbrev u10_0 : List UInt8 := w10_0 ++ u10_1
theorem s10_0 : (method_12_code).data.toList.drop 0 = u10_0 := by decide +kernel
theorem s10_1 : (method_12_code).data.toList.drop 24 = u10_1 := dk_seg s10_0 24 rfl rfl
theorem Fm10 {pc len : Nat} {i : Instr} (h : decode (method_12_code) pc = .ok (i, len)) (hl : len = ilen i len) : ft 10 pc = some (0, 1, 0, i, len) := ft_mk rfl h hl
theorem f10_0 : ft 10 0 = some (0, 1, 0, .aload_n 2, 1) := Fm10 (dk_44 (dk_at s10_0 0 rfl rfl)) rfl
theorem f10_1 : ft 10 1 = some (0, 1, 0, .iconst 0, 1) := Fm10 (dk_3 (dk_at s10_0 1 rfl rfl)) rfl
theorem f10_2 : ft 10 2 = some (0, 1, 0, .aload_n 0, 1) := Fm10 (dk_42 (dk_at s10_0 2 rfl rfl)) rfl
theorem f10_3 : ft 10 3 = some (0, 1, 0, .iload_n 1, 1) := Fm10 (dk_27 (dk_at s10_0 3 rfl rfl)) rfl
theorem f10_4 : ft 10 4 = some (0, 1, 0, .invokevirtual 53, 3) := Fm10 (dk_182 0 53 (dk_at s10_0 4 rfl rfl)) rfl
theorem f10_7 : ft 10 7 = some (0, 1, 0, .i2l, 1) := Fm10 (dk_133 (dk_at s10_0 7 rfl rfl)) rfl
theorem f10_8 : ft 10 8 = some (0, 1, 0, .lastore, 1) := Fm10 (dk_80 (dk_at s10_0 8 rfl rfl)) rfl
theorem f10_9 : ft 10 9 = some (0, 1, 0, .goto 15, 3) := Fm10 (dk_167 0 15 (dk_at s10_0 9 rfl rfl)) rfl
theorem f10_12 : ft 10 12 = some (0, 1, 0, .astore_n 3, 1) := Fm10 (dk_78 (dk_at s10_0 12 rfl rfl)) rfl
theorem f10_13 : ft 10 13 = some (0, 1, 0, .iconst 1, 1) := Fm10 (dk_4 (dk_at s10_0 13 rfl rfl)) rfl
theorem f10_14 : ft 10 14 = some (0, 1, 0, .ireturn, 1) := Fm10 (dk_172 (dk_at s10_0 14 rfl rfl)) rfl
theorem f10_15 : ft 10 15 = some (0, 1, 0, .astore_n 3, 1) := Fm10 (dk_78 (dk_at s10_0 15 rfl rfl)) rfl
theorem f10_16 : ft 10 16 = some (0, 1, 0, .iconst 2, 1) := Fm10 (dk_5 (dk_at s10_0 16 rfl rfl)) rfl
theorem f10_17 : ft 10 17 = some (0, 1, 0, .ireturn, 1) := Fm10 (dk_172 (dk_at s10_0 17 rfl rfl)) rfl
theorem f10_18 : ft 10 18 = some (0, 1, 0, .astore_n 3, 1) := Fm10 (dk_78 (dk_at s10_0 18 rfl rfl)) rfl
theorem f10_19 : ft 10 19 = some (0, 1, 0, .iconst 3, 1) := Fm10 (dk_6 (dk_at s10_0 19 rfl rfl)) rfl
theorem f10_20 : ft 10 20 = some (0, 1, 0, .ireturn, 1) := Fm10 (dk_172 (dk_at s10_0 20 rfl rfl)) rfl
theorem f10_21 : ft 10 21 = some (0, 1, 0, .astore_n 3, 1) := Fm10 (dk_78 (dk_at s10_0 21 rfl rfl)) rfl
theorem f10_22 : ft 10 22 = some (0, 1, 0, .iconst 4, 1) := Fm10 (dk_7 (dk_at s10_0 22 rfl rfl)) rfl
theorem f10_23 : ft 10 23 = some (0, 1, 0, .ireturn, 1) := Fm10 (dk_172 (dk_at s10_0 23 rfl rfl)) rfl
theorem f10_24 : ft 10 24 = some (0, 1, 0, .iconst 0, 1) := Fm10 (dk_3 (dk_at s10_1 0 rfl rfl)) rfl
theorem f10_25 : ft 10 25 = some (0, 1, 0, .ireturn, 1) := Fm10 (dk_172 (dk_at s10_1 1 rfl rfl)) rfl
theorem q10 {d : Nat} {m : Mem} {a0 a1 a2 : Int} (hd : 0 < d) (hz : TZ m) : le2 (gd (tg m a0 = 1) <| bIh (cl (d - 1) 38 [pR a0, pI a1] m) (fun v1 m1 => gd (tg m1 a2 = 1102) <| gd ((0 : Int) ≤ 0 ∧ 0 < ln m1 a2) <| some (.inl (some (pI 0)), (mst m1 a2 0 v1))) fun x2 m2 => if x2 = 202 then (some (.inl (some (pI 1)), m2)) else if x2 = 203 then (some (.inl (some (pI 2)), m2)) else if x2 = 204 then (some (.inl (some (pI 3)), m2)) else if x2 = 201 then (some (.inl (some (pI 4)), m2)) else none) (cl d 10 [pR a0, pI a1, pR a2] m) := by
  refine q_in (n := 4) (L := [pR a0, pI a1, pR a2, pU]) rfl rfl rfl ?_
  refine r_aln2 (p := 1) f10_0 rfl ?_
  refine r_iconst (p := 2) f10_1 rfl (pinD rfl rfl) ?_
  refine r_aln0 (p := 3) f10_2 rfl ?_
  refine r_iln1 (p := 4) f10_3 rfl ?_
  refine le2_gd (fun h1 => ?_)
  refine r_invIh (p := 7) f10_4 rfl rfl rfl (Or.inl h1) hd (Nat.le_of_ble_eq_true rfl) rfl rfl (fun v1 m1 c1 => ?_) (fun x2 m2 c2 => ?_)
  · have hz1 := z_k c1 hz
    refine r_i2l (p := 8) f10_7 rfl ?_
    refine le2_gd (fun h2 => ?_)
    refine le2_gd (fun h3 => ?_)
    refine r_lastore (p := 9) f10_8 rfl (dj1 (fun x => 1000 ≤ x ∧ x % 1000 = 102 ∧ Nat.testBit (eM 10) (bix x 0) = true) h2 (by decide)) h3 ?_
    refine r_goto (p := 24) f10_9 (by decide) rfl ?_
    refine r_iconst (p := 25) f10_24 rfl (pinD rfl rfl) ?_
    exact r_iret1 f10_25
  · have hz2 := z_k c2 hz
    refine le2_ite (fun h7 => ?_) (fun h7 => ?_)
    · refine hres_at (h := 12) (by rw [h7]; rfl) ?_
      refine r_asn3 (p := 13) f10_12 rfl rfl ?_
      refine r_iconst (p := 14) f10_13 rfl (pinD rfl rfl) ?_
      exact r_iret1 f10_14
    · refine le2_ite (fun h6 => ?_) (fun h6 => ?_)
      · refine hres_at (h := 15) (by rw [h6]; rfl) ?_
        refine r_asn3 (p := 16) f10_15 rfl rfl ?_
        refine r_iconst (p := 17) f10_16 rfl (pinD rfl rfl) ?_
        exact r_iret1 f10_17
      · refine le2_ite (fun h5 => ?_) (fun h5 => ?_)
        · refine hres_at (h := 18) (by rw [h5]; rfl) ?_
          refine r_asn3 (p := 19) f10_18 rfl rfl ?_
          refine r_iconst (p := 20) f10_19 rfl (pinD rfl rfl) ?_
          exact r_iret1 f10_20
        · refine le2_ite (fun h4 => ?_) (fun h4 => ?_)
          · refine hres_at (h := 21) (by rw [h4]; rfl) ?_
            refine r_asn3 (p := 22) f10_21 rfl rfl ?_
            refine r_iconst (p := 23) f10_22 rfl (pinD rfl rfl) ?_
            exact r_iret1 f10_23
          · exact le2_none
/-! 11 PathStoreLaw.index (LPathStore;I)I -/
def w11_0 : List UInt8 := [42, 27, 182, 0, 56, 167, 0, 12, 77, 4, 172, 77, 5, 172, 77, 6, 172, 3, 172]
abbrev u11_0 : List UInt8 := w11_0 ++ []
theorem s11_0 : (method_13_code).data.toList.drop 0 = u11_0 := by decide +kernel
theorem Fm11 {pc len : Nat} {i : Instr} (h : decode (method_13_code) pc = .ok (i, len)) (hl : len = ilen i len) : ft 11 pc = some (0, 1, 0, i, len) := ft_mk rfl h hl
theorem f11_0 : ft 11 0 = some (0, 1, 0, .aload_n 0, 1) := Fm11 (dk_42 (dk_at s11_0 0 rfl rfl)) rfl
theorem f11_1 : ft 11 1 = some (0, 1, 0, .iload_n 1, 1) := Fm11 (dk_27 (dk_at s11_0 1 rfl rfl)) rfl
theorem f11_2 : ft 11 2 = some (0, 1, 0, .invokevirtual 56, 3) := Fm11 (dk_182 0 56 (dk_at s11_0 2 rfl rfl)) rfl
theorem f11_5 : ft 11 5 = some (0, 1, 0, .goto 12, 3) := Fm11 (dk_167 0 12 (dk_at s11_0 5 rfl rfl)) rfl
theorem f11_8 : ft 11 8 = some (0, 1, 0, .astore_n 2, 1) := Fm11 (dk_77 (dk_at s11_0 8 rfl rfl)) rfl
theorem f11_9 : ft 11 9 = some (0, 1, 0, .iconst 1, 1) := Fm11 (dk_4 (dk_at s11_0 9 rfl rfl)) rfl
theorem f11_10 : ft 11 10 = some (0, 1, 0, .ireturn, 1) := Fm11 (dk_172 (dk_at s11_0 10 rfl rfl)) rfl
theorem f11_11 : ft 11 11 = some (0, 1, 0, .astore_n 2, 1) := Fm11 (dk_77 (dk_at s11_0 11 rfl rfl)) rfl
theorem f11_12 : ft 11 12 = some (0, 1, 0, .iconst 2, 1) := Fm11 (dk_5 (dk_at s11_0 12 rfl rfl)) rfl
theorem f11_13 : ft 11 13 = some (0, 1, 0, .ireturn, 1) := Fm11 (dk_172 (dk_at s11_0 13 rfl rfl)) rfl
theorem f11_14 : ft 11 14 = some (0, 1, 0, .astore_n 2, 1) := Fm11 (dk_77 (dk_at s11_0 14 rfl rfl)) rfl
theorem f11_15 : ft 11 15 = some (0, 1, 0, .iconst 3, 1) := Fm11 (dk_6 (dk_at s11_0 15 rfl rfl)) rfl
theorem f11_16 : ft 11 16 = some (0, 1, 0, .ireturn, 1) := Fm11 (dk_172 (dk_at s11_0 16 rfl rfl)) rfl
theorem f11_17 : ft 11 17 = some (0, 1, 0, .iconst 0, 1) := Fm11 (dk_3 (dk_at s11_0 17 rfl rfl)) rfl
theorem f11_18 : ft 11 18 = some (0, 1, 0, .ireturn, 1) := Fm11 (dk_172 (dk_at s11_0 18 rfl rfl)) rfl
theorem q11 {d : Nat} {m : Mem} {a0 a1 : Int} (hd : 0 < d) (hz : TZ m) : le2 (gd (tg m a0 = 1) <| bVh (cl (d - 1) 43 [pR a0, pI a1] m) (fun m1 => some (.inl (some (pI 0)), m1)) fun x2 m2 => if x2 = 202 then (some (.inl (some (pI 1)), m2)) else if x2 = 203 then (some (.inl (some (pI 2)), m2)) else if x2 = 204 then (some (.inl (some (pI 3)), m2)) else none) (cl d 11 [pR a0, pI a1] m) := by
  refine q_in (n := 3) (L := [pR a0, pI a1, pU]) rfl rfl rfl ?_
  refine r_aln0 (p := 1) f11_0 rfl ?_
  refine r_iln1 (p := 2) f11_1 rfl ?_
  refine le2_gd (fun h1 => ?_)
  refine r_invVh (p := 5) f11_2 rfl rfl rfl (Or.inl h1) hd (Nat.le_of_ble_eq_true rfl) rfl rfl (fun m1 c1 => ?_) (fun x2 m2 c2 => ?_)
  · have hz1 := z_k c1 hz
    refine r_goto (p := 17) f11_5 (by decide) rfl ?_
    refine r_iconst (p := 18) f11_17 rfl (pinD rfl rfl) ?_
    exact r_iret1 f11_18
  · have hz2 := z_k c2 hz
    refine le2_ite (fun h4 => ?_) (fun h4 => ?_)
    · refine hres_at (h := 8) (by rw [h4]; rfl) ?_
      refine r_asn2 (p := 9) f11_8 rfl rfl ?_
      refine r_iconst (p := 10) f11_9 rfl (pinD rfl rfl) ?_
      exact r_iret1 f11_10
    · refine le2_ite (fun h3 => ?_) (fun h3 => ?_)
      · refine hres_at (h := 11) (by rw [h3]; rfl) ?_
        refine r_asn2 (p := 12) f11_11 rfl rfl ?_
        refine r_iconst (p := 13) f11_12 rfl (pinD rfl rfl) ?_
        exact r_iret1 f11_13
      · refine le2_ite (fun h2 => ?_) (fun h2 => ?_)
        · refine hres_at (h := 14) (by rw [h2]; rfl) ?_
          refine r_asn2 (p := 15) f11_14 rfl rfl ?_
          refine r_iconst (p := 16) f11_15 rfl (pinD rfl rfl) ?_
          exact r_iret1 f11_16
        · exact le2_none
/-! 12 PathStoreLaw.find (LPathStore;II[J)I -/
def w12_1 : List UInt8 := [172, 3, 172]
abbrev u12_1 : List UInt8 := w12_1 ++ []
def w12_0 : List UInt8 := [45, 3, 42, 27, 28, 182, 0, 59, 133, 80, 167, 0, 15, 58, 4, 4, 172, 58, 4, 5, 172, 58, 4, 6]
abbrev u12_0 : List UInt8 := w12_0 ++ u12_1
theorem s12_0 : (method_14_code).data.toList.drop 0 = u12_0 := by decide +kernel
theorem s12_1 : (method_14_code).data.toList.drop 24 = u12_1 := dk_seg s12_0 24 rfl rfl
theorem Fm12 {pc len : Nat} {i : Instr} (h : decode (method_14_code) pc = .ok (i, len)) (hl : len = ilen i len) : ft 12 pc = some (0, 1, 0, i, len) := ft_mk rfl h hl
theorem f12_0 : ft 12 0 = some (0, 1, 0, .aload_n 3, 1) := Fm12 (dk_45 (dk_at s12_0 0 rfl rfl)) rfl
theorem f12_1 : ft 12 1 = some (0, 1, 0, .iconst 0, 1) := Fm12 (dk_3 (dk_at s12_0 1 rfl rfl)) rfl
theorem f12_2 : ft 12 2 = some (0, 1, 0, .aload_n 0, 1) := Fm12 (dk_42 (dk_at s12_0 2 rfl rfl)) rfl
theorem f12_3 : ft 12 3 = some (0, 1, 0, .iload_n 1, 1) := Fm12 (dk_27 (dk_at s12_0 3 rfl rfl)) rfl
theorem f12_4 : ft 12 4 = some (0, 1, 0, .iload_n 2, 1) := Fm12 (dk_28 (dk_at s12_0 4 rfl rfl)) rfl
theorem f12_5 : ft 12 5 = some (0, 1, 0, .invokevirtual 59, 3) := Fm12 (dk_182 0 59 (dk_at s12_0 5 rfl rfl)) rfl
theorem f12_8 : ft 12 8 = some (0, 1, 0, .i2l, 1) := Fm12 (dk_133 (dk_at s12_0 8 rfl rfl)) rfl
theorem f12_9 : ft 12 9 = some (0, 1, 0, .lastore, 1) := Fm12 (dk_80 (dk_at s12_0 9 rfl rfl)) rfl
theorem f12_10 : ft 12 10 = some (0, 1, 0, .goto 15, 3) := Fm12 (dk_167 0 15 (dk_at s12_0 10 rfl rfl)) rfl
theorem f12_13 : ft 12 13 = some (0, 1, 0, .astore 4, 2) := Fm12 (dk_58 4 (dk_at s12_0 13 rfl rfl)) rfl
theorem f12_15 : ft 12 15 = some (0, 1, 0, .iconst 1, 1) := Fm12 (dk_4 (dk_at s12_0 15 rfl rfl)) rfl
theorem f12_16 : ft 12 16 = some (0, 1, 0, .ireturn, 1) := Fm12 (dk_172 (dk_at s12_0 16 rfl rfl)) rfl
theorem f12_17 : ft 12 17 = some (0, 1, 0, .astore 4, 2) := Fm12 (dk_58 4 (dk_at s12_0 17 rfl rfl)) rfl
theorem f12_19 : ft 12 19 = some (0, 1, 0, .iconst 2, 1) := Fm12 (dk_5 (dk_at s12_0 19 rfl rfl)) rfl
theorem f12_20 : ft 12 20 = some (0, 1, 0, .ireturn, 1) := Fm12 (dk_172 (dk_at s12_0 20 rfl rfl)) rfl
theorem f12_21 : ft 12 21 = some (0, 1, 0, .astore 4, 2) := Fm12 (dk_58 4 (dk_at s12_0 21 rfl rfl)) rfl
theorem f12_23 : ft 12 23 = some (0, 1, 0, .iconst 3, 1) := Fm12 (dk_6 (dk_at s12_0 23 rfl rfl)) rfl
theorem f12_24 : ft 12 24 = some (0, 1, 0, .ireturn, 1) := Fm12 (dk_172 (dk_at s12_1 0 rfl rfl)) rfl
theorem f12_25 : ft 12 25 = some (0, 1, 0, .iconst 0, 1) := Fm12 (dk_3 (dk_at s12_1 1 rfl rfl)) rfl
theorem f12_26 : ft 12 26 = some (0, 1, 0, .ireturn, 1) := Fm12 (dk_172 (dk_at s12_1 2 rfl rfl)) rfl
theorem q12 {d : Nat} {m : Mem} {a0 a1 a2 a3 : Int} (hd : 0 < d) (hz : TZ m) : le2 (gd (tg m a0 = 1) <| bIh (cl (d - 1) 44 [pR a0, pI a1, pI a2] m) (fun v1 m1 => gd (tg m1 a3 = 1102) <| gd ((0 : Int) ≤ 0 ∧ 0 < ln m1 a3) <| some (.inl (some (pI 0)), (mst m1 a3 0 v1))) fun x2 m2 => if x2 = 202 then (some (.inl (some (pI 1)), m2)) else if x2 = 203 then (some (.inl (some (pI 2)), m2)) else if x2 = 204 then (some (.inl (some (pI 3)), m2)) else none) (cl d 12 [pR a0, pI a1, pI a2, pR a3] m) := by
  refine q_in (n := 5) (L := [pR a0, pI a1, pI a2, pR a3, pU]) rfl rfl rfl ?_
  refine r_aln3 (p := 1) f12_0 rfl ?_
  refine r_iconst (p := 2) f12_1 rfl (pinD rfl rfl) ?_
  refine r_aln0 (p := 3) f12_2 rfl ?_
  refine r_iln1 (p := 4) f12_3 rfl ?_
  refine r_iln2 (p := 5) f12_4 rfl ?_
  refine le2_gd (fun h1 => ?_)
  refine r_invIh (p := 8) f12_5 rfl rfl rfl (Or.inl h1) hd (Nat.le_of_ble_eq_true rfl) rfl rfl (fun v1 m1 c1 => ?_) (fun x2 m2 c2 => ?_)
  · have hz1 := z_k c1 hz
    refine r_i2l (p := 9) f12_8 rfl ?_
    refine le2_gd (fun h2 => ?_)
    refine le2_gd (fun h3 => ?_)
    refine r_lastore (p := 10) f12_9 rfl (dj1 (fun x => 1000 ≤ x ∧ x % 1000 = 102 ∧ Nat.testBit (eM 12) (bix x 0) = true) h2 (by decide)) h3 ?_
    refine r_goto (p := 25) f12_10 (by decide) rfl ?_
    refine r_iconst (p := 26) f12_25 rfl (pinD rfl rfl) ?_
    exact r_iret1 f12_26
  · have hz2 := z_k c2 hz
    refine le2_ite (fun h6 => ?_) (fun h6 => ?_)
    · refine hres_at (h := 13) (by rw [h6]; rfl) ?_
      refine r_asw4 (p := 15) f12_13 rfl rfl ?_
      refine r_iconst (p := 16) f12_15 rfl (pinD rfl rfl) ?_
      exact r_iret1 f12_16
    · refine le2_ite (fun h5 => ?_) (fun h5 => ?_)
      · refine hres_at (h := 17) (by rw [h5]; rfl) ?_
        refine r_asw4 (p := 19) f12_17 rfl rfl ?_
        refine r_iconst (p := 20) f12_19 rfl (pinD rfl rfl) ?_
        exact r_iret1 f12_20
      · refine le2_ite (fun h4 => ?_) (fun h4 => ?_)
        · refine hres_at (h := 21) (by rw [h4]; rfl) ?_
          refine r_asw4 (p := 23) f12_21 rfl rfl ?_
          refine r_iconst (p := 24) f12_23 rfl (pinD rfl rfl) ?_
          exact r_iret1 f12_24
        · exact le2_none
/-! 13 PathStoreLaw.cut (LPathStore;I)I -/
def w13_0 : List UInt8 := [42, 27, 182, 0, 62, 167, 0, 9, 77, 4, 172, 77, 5, 172, 3, 172]
abbrev u13_0 : List UInt8 := w13_0 ++ []
theorem s13_0 : (method_15_code).data.toList.drop 0 = u13_0 := by decide +kernel
theorem Fm13 {pc len : Nat} {i : Instr} (h : decode (method_15_code) pc = .ok (i, len)) (hl : len = ilen i len) : ft 13 pc = some (0, 1, 0, i, len) := ft_mk rfl h hl
theorem f13_0 : ft 13 0 = some (0, 1, 0, .aload_n 0, 1) := Fm13 (dk_42 (dk_at s13_0 0 rfl rfl)) rfl
theorem f13_1 : ft 13 1 = some (0, 1, 0, .iload_n 1, 1) := Fm13 (dk_27 (dk_at s13_0 1 rfl rfl)) rfl
theorem f13_2 : ft 13 2 = some (0, 1, 0, .invokevirtual 62, 3) := Fm13 (dk_182 0 62 (dk_at s13_0 2 rfl rfl)) rfl
theorem f13_5 : ft 13 5 = some (0, 1, 0, .goto 9, 3) := Fm13 (dk_167 0 9 (dk_at s13_0 5 rfl rfl)) rfl
theorem f13_8 : ft 13 8 = some (0, 1, 0, .astore_n 2, 1) := Fm13 (dk_77 (dk_at s13_0 8 rfl rfl)) rfl
theorem f13_9 : ft 13 9 = some (0, 1, 0, .iconst 1, 1) := Fm13 (dk_4 (dk_at s13_0 9 rfl rfl)) rfl
theorem f13_10 : ft 13 10 = some (0, 1, 0, .ireturn, 1) := Fm13 (dk_172 (dk_at s13_0 10 rfl rfl)) rfl
theorem f13_11 : ft 13 11 = some (0, 1, 0, .astore_n 2, 1) := Fm13 (dk_77 (dk_at s13_0 11 rfl rfl)) rfl
theorem f13_12 : ft 13 12 = some (0, 1, 0, .iconst 2, 1) := Fm13 (dk_5 (dk_at s13_0 12 rfl rfl)) rfl
theorem f13_13 : ft 13 13 = some (0, 1, 0, .ireturn, 1) := Fm13 (dk_172 (dk_at s13_0 13 rfl rfl)) rfl
theorem f13_14 : ft 13 14 = some (0, 1, 0, .iconst 0, 1) := Fm13 (dk_3 (dk_at s13_0 14 rfl rfl)) rfl
theorem f13_15 : ft 13 15 = some (0, 1, 0, .ireturn, 1) := Fm13 (dk_172 (dk_at s13_0 15 rfl rfl)) rfl
theorem q13 {d : Nat} {m : Mem} {a0 a1 : Int} (hd : 0 < d) (hz : TZ m) : le2 (gd (tg m a0 = 1) <| bVh (cl (d - 1) 47 [pR a0, pI a1] m) (fun m1 => some (.inl (some (pI 0)), m1)) fun x2 m2 => if x2 = 202 then (some (.inl (some (pI 1)), m2)) else if x2 = 203 then (some (.inl (some (pI 2)), m2)) else none) (cl d 13 [pR a0, pI a1] m) := by
  refine q_in (n := 3) (L := [pR a0, pI a1, pU]) rfl rfl rfl ?_
  refine r_aln0 (p := 1) f13_0 rfl ?_
  refine r_iln1 (p := 2) f13_1 rfl ?_
  refine le2_gd (fun h1 => ?_)
  refine r_invVh (p := 5) f13_2 rfl rfl rfl (Or.inl h1) hd (Nat.le_of_ble_eq_true rfl) rfl rfl (fun m1 c1 => ?_) (fun x2 m2 c2 => ?_)
  · have hz1 := z_k c1 hz
    refine r_goto (p := 14) f13_5 (by decide) rfl ?_
    refine r_iconst (p := 15) f13_14 rfl (pinD rfl rfl) ?_
    exact r_iret1 f13_15
  · have hz2 := z_k c2 hz
    refine le2_ite (fun h3 => ?_) (fun h3 => ?_)
    · refine hres_at (h := 8) (by rw [h3]; rfl) ?_
      refine r_asn2 (p := 9) f13_8 rfl rfl ?_
      refine r_iconst (p := 10) f13_9 rfl (pinD rfl rfl) ?_
      exact r_iret1 f13_10
    · refine le2_ite (fun h2 => ?_) (fun h2 => ?_)
      · refine hres_at (h := 11) (by rw [h2]; rfl) ?_
        refine r_asn2 (p := 12) f13_11 rfl rfl ?_
        refine r_iconst (p := 13) f13_12 rfl (pinD rfl rfl) ?_
        exact r_iret1 f13_13
      · exact le2_none
/-! 14 PathStoreLaw.word (LPathStore;I[J)I -/
def w14_0 : List UInt8 := [44, 3, 42, 27, 182, 0, 65, 80, 167, 0, 6, 78, 4, 172, 3, 172]
abbrev u14_0 : List UInt8 := w14_0 ++ []
theorem s14_0 : (method_16_code).data.toList.drop 0 = u14_0 := by decide +kernel
theorem Fm14 {pc len : Nat} {i : Instr} (h : decode (method_16_code) pc = .ok (i, len)) (hl : len = ilen i len) : ft 14 pc = some (0, 1, 0, i, len) := ft_mk rfl h hl
theorem f14_0 : ft 14 0 = some (0, 1, 0, .aload_n 2, 1) := Fm14 (dk_44 (dk_at s14_0 0 rfl rfl)) rfl
theorem f14_1 : ft 14 1 = some (0, 1, 0, .iconst 0, 1) := Fm14 (dk_3 (dk_at s14_0 1 rfl rfl)) rfl
theorem f14_2 : ft 14 2 = some (0, 1, 0, .aload_n 0, 1) := Fm14 (dk_42 (dk_at s14_0 2 rfl rfl)) rfl
theorem f14_3 : ft 14 3 = some (0, 1, 0, .iload_n 1, 1) := Fm14 (dk_27 (dk_at s14_0 3 rfl rfl)) rfl
theorem f14_4 : ft 14 4 = some (0, 1, 0, .invokevirtual 65, 3) := Fm14 (dk_182 0 65 (dk_at s14_0 4 rfl rfl)) rfl
theorem f14_7 : ft 14 7 = some (0, 1, 0, .lastore, 1) := Fm14 (dk_80 (dk_at s14_0 7 rfl rfl)) rfl
theorem f14_8 : ft 14 8 = some (0, 1, 0, .goto 6, 3) := Fm14 (dk_167 0 6 (dk_at s14_0 8 rfl rfl)) rfl
theorem f14_11 : ft 14 11 = some (0, 1, 0, .astore_n 3, 1) := Fm14 (dk_78 (dk_at s14_0 11 rfl rfl)) rfl
theorem f14_12 : ft 14 12 = some (0, 1, 0, .iconst 1, 1) := Fm14 (dk_4 (dk_at s14_0 12 rfl rfl)) rfl
theorem f14_13 : ft 14 13 = some (0, 1, 0, .ireturn, 1) := Fm14 (dk_172 (dk_at s14_0 13 rfl rfl)) rfl
theorem f14_14 : ft 14 14 = some (0, 1, 0, .iconst 0, 1) := Fm14 (dk_3 (dk_at s14_0 14 rfl rfl)) rfl
theorem f14_15 : ft 14 15 = some (0, 1, 0, .ireturn, 1) := Fm14 (dk_172 (dk_at s14_0 15 rfl rfl)) rfl
theorem q14 {d : Nat} {m : Mem} {a0 a1 a2 : Int} (hd : 0 < d) (hz : TZ m) : le2 (gd (tg m a0 = 1) <| bLh (cl (d - 1) 48 [pR a0, pI a1] m) (fun v1 m1 => gd (tg m1 a2 = 1102) <| gd ((0 : Int) ≤ 0 ∧ 0 < ln m1 a2) <| some (.inl (some (pI 0)), (mst m1 a2 0 v1))) fun x2 m2 => if x2 = 201 then (some (.inl (some (pI 1)), m2)) else none) (cl d 14 [pR a0, pI a1, pR a2] m) := by
  refine q_in (n := 4) (L := [pR a0, pI a1, pR a2, pU]) rfl rfl rfl ?_
  refine r_aln2 (p := 1) f14_0 rfl ?_
  refine r_iconst (p := 2) f14_1 rfl (pinD rfl rfl) ?_
  refine r_aln0 (p := 3) f14_2 rfl ?_
  refine r_iln1 (p := 4) f14_3 rfl ?_
  refine le2_gd (fun h1 => ?_)
  refine r_invLh (p := 7) f14_4 rfl rfl rfl (Or.inl h1) hd (Nat.le_of_ble_eq_true rfl) rfl rfl (fun v1 m1 c1 => ?_) (fun x2 m2 c2 => ?_)
  · have hz1 := z_k c1 hz
    refine le2_gd (fun h2 => ?_)
    refine le2_gd (fun h3 => ?_)
    refine r_lastore (p := 8) f14_7 rfl (dj1 (fun x => 1000 ≤ x ∧ x % 1000 = 102 ∧ Nat.testBit (eM 14) (bix x 0) = true) h2 (by decide)) h3 ?_
    refine r_goto (p := 14) f14_8 (by decide) rfl ?_
    refine r_iconst (p := 15) f14_14 rfl (pinD rfl rfl) ?_
    exact r_iret1 f14_15
  · have hz2 := z_k c2 hz
    refine le2_ite (fun h4 => ?_) (fun h4 => ?_)
    · refine hres_at (h := 11) (by rw [h4]; rfl) ?_
      refine r_asn3 (p := 12) f14_11 rfl rfl ?_
      refine r_iconst (p := 13) f14_12 rfl (pinD rfl rfl) ?_
      exact r_iret1 f14_13
    · exact le2_none
/-! 15 PathStoreLaw.count (LPathStore;I[J)I -/
def w15_0 : List UInt8 := [44, 3, 42, 27, 182, 0, 69, 133, 80, 167, 0, 6, 78, 4, 172, 3, 172]
abbrev u15_0 : List UInt8 := w15_0 ++ []
theorem s15_0 : (method_17_code).data.toList.drop 0 = u15_0 := by decide +kernel
theorem Fm15 {pc len : Nat} {i : Instr} (h : decode (method_17_code) pc = .ok (i, len)) (hl : len = ilen i len) : ft 15 pc = some (0, 1, 0, i, len) := ft_mk rfl h hl
theorem f15_0 : ft 15 0 = some (0, 1, 0, .aload_n 2, 1) := Fm15 (dk_44 (dk_at s15_0 0 rfl rfl)) rfl
theorem f15_1 : ft 15 1 = some (0, 1, 0, .iconst 0, 1) := Fm15 (dk_3 (dk_at s15_0 1 rfl rfl)) rfl
theorem f15_2 : ft 15 2 = some (0, 1, 0, .aload_n 0, 1) := Fm15 (dk_42 (dk_at s15_0 2 rfl rfl)) rfl
theorem f15_3 : ft 15 3 = some (0, 1, 0, .iload_n 1, 1) := Fm15 (dk_27 (dk_at s15_0 3 rfl rfl)) rfl
theorem f15_4 : ft 15 4 = some (0, 1, 0, .invokevirtual 69, 3) := Fm15 (dk_182 0 69 (dk_at s15_0 4 rfl rfl)) rfl
theorem f15_7 : ft 15 7 = some (0, 1, 0, .i2l, 1) := Fm15 (dk_133 (dk_at s15_0 7 rfl rfl)) rfl
theorem f15_8 : ft 15 8 = some (0, 1, 0, .lastore, 1) := Fm15 (dk_80 (dk_at s15_0 8 rfl rfl)) rfl
theorem f15_9 : ft 15 9 = some (0, 1, 0, .goto 6, 3) := Fm15 (dk_167 0 6 (dk_at s15_0 9 rfl rfl)) rfl
theorem f15_12 : ft 15 12 = some (0, 1, 0, .astore_n 3, 1) := Fm15 (dk_78 (dk_at s15_0 12 rfl rfl)) rfl
theorem f15_13 : ft 15 13 = some (0, 1, 0, .iconst 1, 1) := Fm15 (dk_4 (dk_at s15_0 13 rfl rfl)) rfl
theorem f15_14 : ft 15 14 = some (0, 1, 0, .ireturn, 1) := Fm15 (dk_172 (dk_at s15_0 14 rfl rfl)) rfl
theorem f15_15 : ft 15 15 = some (0, 1, 0, .iconst 0, 1) := Fm15 (dk_3 (dk_at s15_0 15 rfl rfl)) rfl
theorem f15_16 : ft 15 16 = some (0, 1, 0, .ireturn, 1) := Fm15 (dk_172 (dk_at s15_0 16 rfl rfl)) rfl
theorem q15 {d : Nat} {m : Mem} {a0 a1 a2 : Int} (hd : 0 < d) (hz : TZ m) : le2 (gd (tg m a0 = 1) <| bIh (cl (d - 1) 49 [pR a0, pI a1] m) (fun v1 m1 => gd (tg m1 a2 = 1102) <| gd ((0 : Int) ≤ 0 ∧ 0 < ln m1 a2) <| some (.inl (some (pI 0)), (mst m1 a2 0 v1))) fun x2 m2 => if x2 = 202 then (some (.inl (some (pI 1)), m2)) else none) (cl d 15 [pR a0, pI a1, pR a2] m) := by
  refine q_in (n := 4) (L := [pR a0, pI a1, pR a2, pU]) rfl rfl rfl ?_
  refine r_aln2 (p := 1) f15_0 rfl ?_
  refine r_iconst (p := 2) f15_1 rfl (pinD rfl rfl) ?_
  refine r_aln0 (p := 3) f15_2 rfl ?_
  refine r_iln1 (p := 4) f15_3 rfl ?_
  refine le2_gd (fun h1 => ?_)
  refine r_invIh (p := 7) f15_4 rfl rfl rfl (Or.inl h1) hd (Nat.le_of_ble_eq_true rfl) rfl rfl (fun v1 m1 c1 => ?_) (fun x2 m2 c2 => ?_)
  · have hz1 := z_k c1 hz
    refine r_i2l (p := 8) f15_7 rfl ?_
    refine le2_gd (fun h2 => ?_)
    refine le2_gd (fun h3 => ?_)
    refine r_lastore (p := 9) f15_8 rfl (dj1 (fun x => 1000 ≤ x ∧ x % 1000 = 102 ∧ Nat.testBit (eM 15) (bix x 0) = true) h2 (by decide)) h3 ?_
    refine r_goto (p := 15) f15_9 (by decide) rfl ?_
    refine r_iconst (p := 16) f15_15 rfl (pinD rfl rfl) ?_
    exact r_iret1 f15_16
  · have hz2 := z_k c2 hz
    refine le2_ite (fun h4 => ?_) (fun h4 => ?_)
    · refine hres_at (h := 12) (by rw [h4]; rfl) ?_
      refine r_asn3 (p := 13) f15_12 rfl rfl ?_
      refine r_iconst (p := 14) f15_13 rfl (pinD rfl rfl) ?_
      exact r_iret1 f15_14
    · exact le2_none
